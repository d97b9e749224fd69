/-! NeverSaid -/
set_option maxRecDepth 100000
def RX0 : String := "NeverSaid"
def TX0 : u_T := fun k => match k with
  | 0 => ("NeverSaid", "now", "LNeverSaid$State;", true)
  | 1 => ("NeverSaid", "image", "LNeverSaid$State;", true)
  | 2 => ("NeverSaid", "aside", "LNeverSaid$State;", true)
  | 3 => ("NeverSaid", "hasImage", "Z", false)
  | 4 => ("NeverSaid", "pile", "[I", true)
  | 5 => ("NeverSaid", "tape", "[B", true)
  | 6 => ("NeverSaid", "taped", "I", false)
  | 7 => ("NeverSaid", "fault", "LNeverSaid$Fault;", true)
  | 8 => ("NeverSaid", "from", "I", false)
  | 9 => ("NeverSaid", "to", "I", false)
  | 10 => ("NeverSaid", "end", "I", false)
  | 11 => ("NeverSaid", "parens", "I", false)
  | 12 => ("NeverSaid", "nots", "I", false)
  | 13 => ("NeverSaid", "wordMany", "I", false)
  | 14 => ("NeverSaid", "keyRead", "I", false)
  | 15 => ("NeverSaid", "named", "[I", true)
  | 16 => ("NeverSaid", "followers", "[I", true)
  | 17 => ("NeverSaid", "above", "J", false)
  | 18 => ("NeverSaid", "below", "J", false)
  | 19 => ("NeverSaid", "sheets", "[LNeverSaid$Sheet;", true)
  | 20 => ("NeverSaid", "slots", "[LNeverSaid$Slot;", true)
  | 21 => ("NeverSaid", "carried", "[F", true)
  | 22 => ("NeverSaid", "waits", "[I", true)
  | 23 => ("NeverSaid", "waitMany", "I", false)
  | _ => ("NeverSaid", "rows", "[I", true)
def tyX0 : Nat → FieldType := fun k => match k with
  | 0 => .object "NeverSaid$State"
  | 1 => .object "NeverSaid$State"
  | 2 => .object "NeverSaid$State"
  | 3 => .boolean
  | 4 => .array .int
  | 5 => .array .byte
  | 6 => .int
  | 7 => .object "NeverSaid$Fault"
  | 8 => .int
  | 9 => .int
  | 10 => .int
  | 11 => .int
  | 12 => .int
  | 13 => .int
  | 14 => .int
  | 15 => .array .int
  | 16 => .array .int
  | 17 => .long
  | 18 => .long
  | 19 => .array (.object "NeverSaid$Sheet")
  | 20 => .array (.object "NeverSaid$Slot")
  | 21 => .array .float
  | 22 => .array .int
  | 23 => .int
  | _ => .array .int
abbrev wsX00 : List Cond := u_ws RX0 TX0 25
set_option maxRecDepth 100000 in
theorem nmX0 : ∀ a, a < 25 → ∀ b, b < 25 → a ≠ b → (TX0 a).2.1 ≠ (TX0 b).2.1 := by decide +kernel
set_option maxRecDepth 100000 in
theorem tyX0_ok : ∀ k, k < 25 → parseFieldDescriptor (TX0 k).2.2.1 = some (tyX0 k) := by decide +kernel
abbrev cX0_init : ByteArray := prog_1_method_7_code
def yX0_init : MethodName := ⟨RX0, "<init>", "()V"⟩
def dkwX0_init_8 : List UInt8 := [16, 24, 188, 6, 181, 0, 91, 42, 16, 60, 188, 10, 181, 0, 95, 42, 16, 60, 188, 10, 181, 0, 98, 177]
abbrev dktX0_init_8 : List UInt8 := dkwX0_init_8 ++ []
def dkwX0_init_7 : List UInt8 := [89, 6, 187, 0, 84, 89, 183, 0, 86, 83, 89, 7, 187, 0, 84, 89, 183, 0, 86, 83, 181, 0, 87, 42]
abbrev dktX0_init_7 : List UInt8 := dkwX0_init_7 ++ dktX0_init_8
def dkwX0_init_6 : List UInt8 := [183, 0, 86, 83, 89, 4, 187, 0, 84, 89, 183, 0, 86, 83, 89, 5, 187, 0, 84, 89, 183, 0, 86, 83]
abbrev dktX0_init_6 : List UInt8 := dkwX0_init_6 ++ dktX0_init_7
def dkwX0_init_5 : List UInt8 := [89, 6, 187, 0, 77, 89, 183, 0, 79, 83, 181, 0, 80, 42, 8, 189, 0, 84, 89, 3, 187, 0, 84, 89]
abbrev dktX0_init_5 : List UInt8 := dkwX0_init_5 ++ dktX0_init_6
def dkwX0_init_4 : List UInt8 := [183, 0, 79, 83, 89, 4, 187, 0, 77, 89, 183, 0, 79, 83, 89, 5, 187, 0, 77, 89, 183, 0, 79, 83]
abbrev dktX0_init_4 : List UInt8 := dkwX0_init_4 ++ dktX0_init_5
def dkwX0_init_3 : List UInt8 := [181, 0, 71, 42, 16, 12, 188, 10, 181, 0, 74, 42, 7, 189, 0, 77, 89, 3, 187, 0, 77, 89]
abbrev dktX0_init_3 : List UInt8 := dkwX0_init_3 ++ dktX0_init_4
def dkwX0_init_2 : List UInt8 := [16, 96, 188, 8, 181, 0, 60, 42, 187, 0, 64, 89, 183, 0, 66, 181, 0, 67, 42, 17, 0, 128, 188, 10]
abbrev dktX0_init_2 : List UInt8 := dkwX0_init_2 ++ dktX0_init_3
def dkwX0_init_1 : List UInt8 := [181, 0, 50, 42, 187, 0, 43, 89, 183, 0, 45, 181, 0, 53, 42, 16, 96, 188, 10, 181, 0, 56, 42]
abbrev dktX0_init_1 : List UInt8 := dkwX0_init_1 ++ dktX0_init_2
def dkwX0_init_0 : List UInt8 := [42, 183, 0, 40, 42, 187, 0, 43, 89, 183, 0, 45, 181, 0, 46, 42, 187, 0, 43, 89, 183, 0, 45]
abbrev dktX0_init_0 : List UInt8 := dkwX0_init_0 ++ dktX0_init_1
theorem dksX0_init_0 : cX0_init.data.toList.drop 0 = dktX0_init_0 := by decide +kernel
theorem dksX0_init_1 : cX0_init.data.toList.drop 23 = dktX0_init_1 := dk_seg dksX0_init_0 23 rfl rfl
theorem dksX0_init_2 : cX0_init.data.toList.drop 46 = dktX0_init_2 := dk_seg dksX0_init_1 23 rfl rfl
theorem dksX0_init_3 : cX0_init.data.toList.drop 70 = dktX0_init_3 := dk_seg dksX0_init_2 24 rfl rfl
theorem dksX0_init_4 : cX0_init.data.toList.drop 92 = dktX0_init_4 := dk_seg dksX0_init_3 22 rfl rfl
theorem dksX0_init_5 : cX0_init.data.toList.drop 116 = dktX0_init_5 := dk_seg dksX0_init_4 24 rfl rfl
theorem dksX0_init_6 : cX0_init.data.toList.drop 140 = dktX0_init_6 := dk_seg dksX0_init_5 24 rfl rfl
theorem dksX0_init_7 : cX0_init.data.toList.drop 164 = dktX0_init_7 := dk_seg dksX0_init_6 24 rfl rfl
theorem dksX0_init_8 : cX0_init.data.toList.drop 188 = dktX0_init_8 := dk_seg dksX0_init_7 24 rfl rfl
theorem dX0_init_0 : decode cX0_init 0 = .ok (.aload_n 0, 1) := dk_42 (dk_at dksX0_init_0 0 rfl rfl)
theorem dX0_init_1 : decode cX0_init 1 = .ok (.invokespecial 40, 3) := dk_183 0 40 (dk_at dksX0_init_0 1 rfl rfl)
theorem dX0_init_4 : decode cX0_init 4 = .ok (.aload_n 0, 1) := dk_42 (dk_at dksX0_init_0 4 rfl rfl)
theorem dX0_init_5 : decode cX0_init 5 = .ok (.new 43, 3) := dk_187 0 43 (dk_at dksX0_init_0 5 rfl rfl)
theorem dX0_init_8 : decode cX0_init 8 = .ok (.dup, 1) := dk_89 (dk_at dksX0_init_0 8 rfl rfl)
theorem dX0_init_9 : decode cX0_init 9 = .ok (.invokespecial 45, 3) := dk_183 0 45 (dk_at dksX0_init_0 9 rfl rfl)
theorem dX0_init_12 : decode cX0_init 12 = .ok (.putfield 46, 3) := dk_181 0 46 (dk_at dksX0_init_0 12 rfl rfl)
theorem dX0_init_15 : decode cX0_init 15 = .ok (.aload_n 0, 1) := dk_42 (dk_at dksX0_init_0 15 rfl rfl)
theorem dX0_init_16 : decode cX0_init 16 = .ok (.new 43, 3) := dk_187 0 43 (dk_at dksX0_init_0 16 rfl rfl)
theorem dX0_init_19 : decode cX0_init 19 = .ok (.dup, 1) := dk_89 (dk_at dksX0_init_0 19 rfl rfl)
theorem dX0_init_20 : decode cX0_init 20 = .ok (.invokespecial 45, 3) := dk_183 0 45 (dk_at dksX0_init_0 20 rfl rfl)
theorem dX0_init_23 : decode cX0_init 23 = .ok (.putfield 50, 3) := dk_181 0 50 (dk_at dksX0_init_1 0 rfl rfl)
theorem dX0_init_26 : decode cX0_init 26 = .ok (.aload_n 0, 1) := dk_42 (dk_at dksX0_init_1 3 rfl rfl)
theorem dX0_init_27 : decode cX0_init 27 = .ok (.new 43, 3) := dk_187 0 43 (dk_at dksX0_init_1 4 rfl rfl)
theorem dX0_init_30 : decode cX0_init 30 = .ok (.dup, 1) := dk_89 (dk_at dksX0_init_1 7 rfl rfl)
theorem dX0_init_31 : decode cX0_init 31 = .ok (.invokespecial 45, 3) := dk_183 0 45 (dk_at dksX0_init_1 8 rfl rfl)
theorem dX0_init_34 : decode cX0_init 34 = .ok (.putfield 53, 3) := dk_181 0 53 (dk_at dksX0_init_1 11 rfl rfl)
theorem dX0_init_37 : decode cX0_init 37 = .ok (.aload_n 0, 1) := dk_42 (dk_at dksX0_init_1 14 rfl rfl)
theorem dX0_init_38 : decode cX0_init 38 = .ok (.bipush 96, 2) := dk_16 96 (dk_at dksX0_init_1 15 rfl rfl)
theorem dX0_init_40 : decode cX0_init 40 = .ok (.newarray .int, 2) := dk_188_10 (dk_at dksX0_init_1 17 rfl rfl)
theorem dX0_init_42 : decode cX0_init 42 = .ok (.putfield 56, 3) := dk_181 0 56 (dk_at dksX0_init_1 19 rfl rfl)
theorem dX0_init_45 : decode cX0_init 45 = .ok (.aload_n 0, 1) := dk_42 (dk_at dksX0_init_1 22 rfl rfl)
theorem dX0_init_46 : decode cX0_init 46 = .ok (.bipush 96, 2) := dk_16 96 (dk_at dksX0_init_2 0 rfl rfl)
theorem dX0_init_48 : decode cX0_init 48 = .ok (.newarray .byte, 2) := dk_188_8 (dk_at dksX0_init_2 2 rfl rfl)
theorem dX0_init_50 : decode cX0_init 50 = .ok (.putfield 60, 3) := dk_181 0 60 (dk_at dksX0_init_2 4 rfl rfl)
theorem dX0_init_53 : decode cX0_init 53 = .ok (.aload_n 0, 1) := dk_42 (dk_at dksX0_init_2 7 rfl rfl)
theorem dX0_init_54 : decode cX0_init 54 = .ok (.new 64, 3) := dk_187 0 64 (dk_at dksX0_init_2 8 rfl rfl)
theorem dX0_init_57 : decode cX0_init 57 = .ok (.dup, 1) := dk_89 (dk_at dksX0_init_2 11 rfl rfl)
theorem dX0_init_58 : decode cX0_init 58 = .ok (.invokespecial 66, 3) := dk_183 0 66 (dk_at dksX0_init_2 12 rfl rfl)
theorem dX0_init_61 : decode cX0_init 61 = .ok (.putfield 67, 3) := dk_181 0 67 (dk_at dksX0_init_2 15 rfl rfl)
theorem dX0_init_64 : decode cX0_init 64 = .ok (.aload_n 0, 1) := dk_42 (dk_at dksX0_init_2 18 rfl rfl)
theorem dX0_init_65 : decode cX0_init 65 = .ok (.sipush 128, 3) := dk_17 0 128 (dk_at dksX0_init_2 19 rfl rfl)
theorem dX0_init_68 : decode cX0_init 68 = .ok (.newarray .int, 2) := dk_188_10 (dk_at dksX0_init_2 22 rfl rfl)
theorem dX0_init_70 : decode cX0_init 70 = .ok (.putfield 71, 3) := dk_181 0 71 (dk_at dksX0_init_3 0 rfl rfl)
theorem dX0_init_73 : decode cX0_init 73 = .ok (.aload_n 0, 1) := dk_42 (dk_at dksX0_init_3 3 rfl rfl)
theorem dX0_init_74 : decode cX0_init 74 = .ok (.bipush 12, 2) := dk_16 12 (dk_at dksX0_init_3 4 rfl rfl)
theorem dX0_init_76 : decode cX0_init 76 = .ok (.newarray .int, 2) := dk_188_10 (dk_at dksX0_init_3 6 rfl rfl)
theorem dX0_init_78 : decode cX0_init 78 = .ok (.putfield 74, 3) := dk_181 0 74 (dk_at dksX0_init_3 8 rfl rfl)
theorem dX0_init_81 : decode cX0_init 81 = .ok (.aload_n 0, 1) := dk_42 (dk_at dksX0_init_3 11 rfl rfl)
theorem dX0_init_82 : decode cX0_init 82 = .ok (.iconst 4, 1) := dk_7 (dk_at dksX0_init_3 12 rfl rfl)
theorem dX0_init_83 : decode cX0_init 83 = .ok (.anewarray 77, 3) := dk_189 0 77 (dk_at dksX0_init_3 13 rfl rfl)
theorem dX0_init_86 : decode cX0_init 86 = .ok (.dup, 1) := dk_89 (dk_at dksX0_init_3 16 rfl rfl)
theorem dX0_init_87 : decode cX0_init 87 = .ok (.iconst 0, 1) := dk_3 (dk_at dksX0_init_3 17 rfl rfl)
theorem dX0_init_88 : decode cX0_init 88 = .ok (.new 77, 3) := dk_187 0 77 (dk_at dksX0_init_3 18 rfl rfl)
theorem dX0_init_91 : decode cX0_init 91 = .ok (.dup, 1) := dk_89 (dk_at dksX0_init_3 21 rfl rfl)
theorem dX0_init_92 : decode cX0_init 92 = .ok (.invokespecial 79, 3) := dk_183 0 79 (dk_at dksX0_init_4 0 rfl rfl)
theorem dX0_init_95 : decode cX0_init 95 = .ok (.aastore, 1) := dk_83 (dk_at dksX0_init_4 3 rfl rfl)
theorem dX0_init_96 : decode cX0_init 96 = .ok (.dup, 1) := dk_89 (dk_at dksX0_init_4 4 rfl rfl)
theorem dX0_init_97 : decode cX0_init 97 = .ok (.iconst 1, 1) := dk_4 (dk_at dksX0_init_4 5 rfl rfl)
theorem dX0_init_98 : decode cX0_init 98 = .ok (.new 77, 3) := dk_187 0 77 (dk_at dksX0_init_4 6 rfl rfl)
theorem dX0_init_101 : decode cX0_init 101 = .ok (.dup, 1) := dk_89 (dk_at dksX0_init_4 9 rfl rfl)
theorem dX0_init_102 : decode cX0_init 102 = .ok (.invokespecial 79, 3) := dk_183 0 79 (dk_at dksX0_init_4 10 rfl rfl)
theorem dX0_init_105 : decode cX0_init 105 = .ok (.aastore, 1) := dk_83 (dk_at dksX0_init_4 13 rfl rfl)
theorem dX0_init_106 : decode cX0_init 106 = .ok (.dup, 1) := dk_89 (dk_at dksX0_init_4 14 rfl rfl)
theorem dX0_init_107 : decode cX0_init 107 = .ok (.iconst 2, 1) := dk_5 (dk_at dksX0_init_4 15 rfl rfl)
theorem dX0_init_108 : decode cX0_init 108 = .ok (.new 77, 3) := dk_187 0 77 (dk_at dksX0_init_4 16 rfl rfl)
theorem dX0_init_111 : decode cX0_init 111 = .ok (.dup, 1) := dk_89 (dk_at dksX0_init_4 19 rfl rfl)
theorem dX0_init_112 : decode cX0_init 112 = .ok (.invokespecial 79, 3) := dk_183 0 79 (dk_at dksX0_init_4 20 rfl rfl)
theorem dX0_init_115 : decode cX0_init 115 = .ok (.aastore, 1) := dk_83 (dk_at dksX0_init_4 23 rfl rfl)
theorem dX0_init_116 : decode cX0_init 116 = .ok (.dup, 1) := dk_89 (dk_at dksX0_init_5 0 rfl rfl)
theorem dX0_init_117 : decode cX0_init 117 = .ok (.iconst 3, 1) := dk_6 (dk_at dksX0_init_5 1 rfl rfl)
theorem dX0_init_118 : decode cX0_init 118 = .ok (.new 77, 3) := dk_187 0 77 (dk_at dksX0_init_5 2 rfl rfl)
theorem dX0_init_121 : decode cX0_init 121 = .ok (.dup, 1) := dk_89 (dk_at dksX0_init_5 5 rfl rfl)
theorem dX0_init_122 : decode cX0_init 122 = .ok (.invokespecial 79, 3) := dk_183 0 79 (dk_at dksX0_init_5 6 rfl rfl)
theorem dX0_init_125 : decode cX0_init 125 = .ok (.aastore, 1) := dk_83 (dk_at dksX0_init_5 9 rfl rfl)
theorem dX0_init_126 : decode cX0_init 126 = .ok (.putfield 80, 3) := dk_181 0 80 (dk_at dksX0_init_5 10 rfl rfl)
theorem dX0_init_129 : decode cX0_init 129 = .ok (.aload_n 0, 1) := dk_42 (dk_at dksX0_init_5 13 rfl rfl)
theorem dX0_init_130 : decode cX0_init 130 = .ok (.iconst 5, 1) := dk_8 (dk_at dksX0_init_5 14 rfl rfl)
theorem dX0_init_131 : decode cX0_init 131 = .ok (.anewarray 84, 3) := dk_189 0 84 (dk_at dksX0_init_5 15 rfl rfl)
theorem dX0_init_134 : decode cX0_init 134 = .ok (.dup, 1) := dk_89 (dk_at dksX0_init_5 18 rfl rfl)
theorem dX0_init_135 : decode cX0_init 135 = .ok (.iconst 0, 1) := dk_3 (dk_at dksX0_init_5 19 rfl rfl)
theorem dX0_init_136 : decode cX0_init 136 = .ok (.new 84, 3) := dk_187 0 84 (dk_at dksX0_init_5 20 rfl rfl)
theorem dX0_init_139 : decode cX0_init 139 = .ok (.dup, 1) := dk_89 (dk_at dksX0_init_5 23 rfl rfl)
theorem dX0_init_140 : decode cX0_init 140 = .ok (.invokespecial 86, 3) := dk_183 0 86 (dk_at dksX0_init_6 0 rfl rfl)
theorem dX0_init_143 : decode cX0_init 143 = .ok (.aastore, 1) := dk_83 (dk_at dksX0_init_6 3 rfl rfl)
theorem dX0_init_144 : decode cX0_init 144 = .ok (.dup, 1) := dk_89 (dk_at dksX0_init_6 4 rfl rfl)
theorem dX0_init_145 : decode cX0_init 145 = .ok (.iconst 1, 1) := dk_4 (dk_at dksX0_init_6 5 rfl rfl)
theorem dX0_init_146 : decode cX0_init 146 = .ok (.new 84, 3) := dk_187 0 84 (dk_at dksX0_init_6 6 rfl rfl)
theorem dX0_init_149 : decode cX0_init 149 = .ok (.dup, 1) := dk_89 (dk_at dksX0_init_6 9 rfl rfl)
theorem dX0_init_150 : decode cX0_init 150 = .ok (.invokespecial 86, 3) := dk_183 0 86 (dk_at dksX0_init_6 10 rfl rfl)
theorem dX0_init_153 : decode cX0_init 153 = .ok (.aastore, 1) := dk_83 (dk_at dksX0_init_6 13 rfl rfl)
theorem dX0_init_154 : decode cX0_init 154 = .ok (.dup, 1) := dk_89 (dk_at dksX0_init_6 14 rfl rfl)
theorem dX0_init_155 : decode cX0_init 155 = .ok (.iconst 2, 1) := dk_5 (dk_at dksX0_init_6 15 rfl rfl)
theorem dX0_init_156 : decode cX0_init 156 = .ok (.new 84, 3) := dk_187 0 84 (dk_at dksX0_init_6 16 rfl rfl)
theorem dX0_init_159 : decode cX0_init 159 = .ok (.dup, 1) := dk_89 (dk_at dksX0_init_6 19 rfl rfl)
theorem dX0_init_160 : decode cX0_init 160 = .ok (.invokespecial 86, 3) := dk_183 0 86 (dk_at dksX0_init_6 20 rfl rfl)
theorem dX0_init_163 : decode cX0_init 163 = .ok (.aastore, 1) := dk_83 (dk_at dksX0_init_6 23 rfl rfl)
theorem dX0_init_164 : decode cX0_init 164 = .ok (.dup, 1) := dk_89 (dk_at dksX0_init_7 0 rfl rfl)
theorem dX0_init_165 : decode cX0_init 165 = .ok (.iconst 3, 1) := dk_6 (dk_at dksX0_init_7 1 rfl rfl)
theorem dX0_init_166 : decode cX0_init 166 = .ok (.new 84, 3) := dk_187 0 84 (dk_at dksX0_init_7 2 rfl rfl)
theorem dX0_init_169 : decode cX0_init 169 = .ok (.dup, 1) := dk_89 (dk_at dksX0_init_7 5 rfl rfl)
theorem dX0_init_170 : decode cX0_init 170 = .ok (.invokespecial 86, 3) := dk_183 0 86 (dk_at dksX0_init_7 6 rfl rfl)
theorem dX0_init_173 : decode cX0_init 173 = .ok (.aastore, 1) := dk_83 (dk_at dksX0_init_7 9 rfl rfl)
theorem dX0_init_174 : decode cX0_init 174 = .ok (.dup, 1) := dk_89 (dk_at dksX0_init_7 10 rfl rfl)
theorem dX0_init_175 : decode cX0_init 175 = .ok (.iconst 4, 1) := dk_7 (dk_at dksX0_init_7 11 rfl rfl)
theorem dX0_init_176 : decode cX0_init 176 = .ok (.new 84, 3) := dk_187 0 84 (dk_at dksX0_init_7 12 rfl rfl)
theorem dX0_init_179 : decode cX0_init 179 = .ok (.dup, 1) := dk_89 (dk_at dksX0_init_7 15 rfl rfl)
theorem dX0_init_180 : decode cX0_init 180 = .ok (.invokespecial 86, 3) := dk_183 0 86 (dk_at dksX0_init_7 16 rfl rfl)
theorem dX0_init_183 : decode cX0_init 183 = .ok (.aastore, 1) := dk_83 (dk_at dksX0_init_7 19 rfl rfl)
theorem dX0_init_184 : decode cX0_init 184 = .ok (.putfield 87, 3) := dk_181 0 87 (dk_at dksX0_init_7 20 rfl rfl)
theorem dX0_init_187 : decode cX0_init 187 = .ok (.aload_n 0, 1) := dk_42 (dk_at dksX0_init_7 23 rfl rfl)
theorem dX0_init_188 : decode cX0_init 188 = .ok (.bipush 24, 2) := dk_16 24 (dk_at dksX0_init_8 0 rfl rfl)
theorem dX0_init_190 : decode cX0_init 190 = .ok (.newarray .float, 2) := dk_188_6 (dk_at dksX0_init_8 2 rfl rfl)
theorem dX0_init_192 : decode cX0_init 192 = .ok (.putfield 91, 3) := dk_181 0 91 (dk_at dksX0_init_8 4 rfl rfl)
theorem dX0_init_195 : decode cX0_init 195 = .ok (.aload_n 0, 1) := dk_42 (dk_at dksX0_init_8 7 rfl rfl)
theorem dX0_init_196 : decode cX0_init 196 = .ok (.bipush 60, 2) := dk_16 60 (dk_at dksX0_init_8 8 rfl rfl)
theorem dX0_init_198 : decode cX0_init 198 = .ok (.newarray .int, 2) := dk_188_10 (dk_at dksX0_init_8 10 rfl rfl)
theorem dX0_init_200 : decode cX0_init 200 = .ok (.putfield 95, 3) := dk_181 0 95 (dk_at dksX0_init_8 12 rfl rfl)
theorem dX0_init_203 : decode cX0_init 203 = .ok (.aload_n 0, 1) := dk_42 (dk_at dksX0_init_8 15 rfl rfl)
theorem dX0_init_204 : decode cX0_init 204 = .ok (.bipush 60, 2) := dk_16 60 (dk_at dksX0_init_8 16 rfl rfl)
theorem dX0_init_206 : decode cX0_init 206 = .ok (.newarray .int, 2) := dk_188_10 (dk_at dksX0_init_8 18 rfl rfl)
theorem dX0_init_208 : decode cX0_init 208 = .ok (.putfield 98, 3) := dk_181 0 98 (dk_at dksX0_init_8 20 rfl rfl)
theorem dX0_init_211 : decode cX0_init 211 = .ok (.return_, 1) := dk_177 (dk_at dksX0_init_8 23 rfl rfl)
abbrev cX0_feed : ByteArray := prog_1_method_12_code
def yX0_feed : MethodName := ⟨RX0, "feed", "(III)I"⟩
def dkwX0_feed_1 : List UInt8 := [182, 0, 131, 42, 29, 182, 0, 131, 42, 180, 0, 127, 172]
abbrev dktX0_feed_1 : List UInt8 := dkwX0_feed_1 ++ []
def dkwX0_feed_0 : List UInt8 := [42, 180, 0, 127, 16, 12, 96, 16, 96, 164, 0, 6, 18, 130, 172, 42, 27, 182, 0, 131, 42, 28]
abbrev dktX0_feed_0 : List UInt8 := dkwX0_feed_0 ++ dktX0_feed_1
theorem dksX0_feed_0 : cX0_feed.data.toList.drop 0 = dktX0_feed_0 := by decide +kernel
theorem dksX0_feed_1 : cX0_feed.data.toList.drop 22 = dktX0_feed_1 := dk_seg dksX0_feed_0 22 rfl rfl
theorem dX0_feed_0 : decode cX0_feed 0 = .ok (.aload_n 0, 1) := dk_42 (dk_at dksX0_feed_0 0 rfl rfl)
theorem dX0_feed_1 : decode cX0_feed 1 = .ok (.getfield 127, 3) := dk_180 0 127 (dk_at dksX0_feed_0 1 rfl rfl)
theorem dX0_feed_4 : decode cX0_feed 4 = .ok (.bipush 12, 2) := dk_16 12 (dk_at dksX0_feed_0 4 rfl rfl)
theorem dX0_feed_6 : decode cX0_feed 6 = .ok (.iadd, 1) := dk_96 (dk_at dksX0_feed_0 6 rfl rfl)
theorem dX0_feed_7 : decode cX0_feed 7 = .ok (.bipush 96, 2) := dk_16 96 (dk_at dksX0_feed_0 7 rfl rfl)
theorem dX0_feed_9 : decode cX0_feed 9 = .ok (.if_icmp .le 6, 3) := dk_164 0 6 (dk_at dksX0_feed_0 9 rfl rfl)
theorem dX0_feed_12 : decode cX0_feed 12 = .ok (.ldc 130, 2) := dk_18 130 (dk_at dksX0_feed_0 12 rfl rfl)
theorem dX0_feed_14 : decode cX0_feed 14 = .ok (.ireturn, 1) := dk_172 (dk_at dksX0_feed_0 14 rfl rfl)
theorem dX0_feed_15 : decode cX0_feed 15 = .ok (.aload_n 0, 1) := dk_42 (dk_at dksX0_feed_0 15 rfl rfl)
theorem dX0_feed_16 : decode cX0_feed 16 = .ok (.iload_n 1, 1) := dk_27 (dk_at dksX0_feed_0 16 rfl rfl)
theorem dX0_feed_17 : decode cX0_feed 17 = .ok (.invokevirtual 131, 3) := dk_182 0 131 (dk_at dksX0_feed_0 17 rfl rfl)
theorem dX0_feed_20 : decode cX0_feed 20 = .ok (.aload_n 0, 1) := dk_42 (dk_at dksX0_feed_0 20 rfl rfl)
theorem dX0_feed_21 : decode cX0_feed 21 = .ok (.iload_n 2, 1) := dk_28 (dk_at dksX0_feed_0 21 rfl rfl)
theorem dX0_feed_22 : decode cX0_feed 22 = .ok (.invokevirtual 131, 3) := dk_182 0 131 (dk_at dksX0_feed_1 0 rfl rfl)
theorem dX0_feed_25 : decode cX0_feed 25 = .ok (.aload_n 0, 1) := dk_42 (dk_at dksX0_feed_1 3 rfl rfl)
theorem dX0_feed_26 : decode cX0_feed 26 = .ok (.iload_n 3, 1) := dk_29 (dk_at dksX0_feed_1 4 rfl rfl)
theorem dX0_feed_27 : decode cX0_feed 27 = .ok (.invokevirtual 131, 3) := dk_182 0 131 (dk_at dksX0_feed_1 5 rfl rfl)
theorem dX0_feed_30 : decode cX0_feed 30 = .ok (.aload_n 0, 1) := dk_42 (dk_at dksX0_feed_1 8 rfl rfl)
theorem dX0_feed_31 : decode cX0_feed 31 = .ok (.getfield 127, 3) := dk_180 0 127 (dk_at dksX0_feed_1 9 rfl rfl)
theorem dX0_feed_34 : decode cX0_feed 34 = .ok (.ireturn, 1) := dk_172 (dk_at dksX0_feed_1 12 rfl rfl)
abbrev cX0_four : ByteArray := prog_1_method_13_code
def yX0_four : MethodName := ⟨RX0, "four", "(I)V"⟩
def dkwX0_four_1 : List UInt8 := [180, 0, 127, 4, 96, 181, 0, 127, 132, 2, 248, 167, 255, 226, 177]
abbrev dktX0_four_1 : List UInt8 := dkwX0_four_1 ++ []
def dkwX0_four_0 : List UInt8 := [16, 24, 61, 28, 155, 0, 32, 42, 180, 0, 60, 42, 180, 0, 127, 27, 28, 122, 145, 84, 42, 89]
abbrev dktX0_four_0 : List UInt8 := dkwX0_four_0 ++ dktX0_four_1
theorem dksX0_four_0 : cX0_four.data.toList.drop 0 = dktX0_four_0 := by decide +kernel
theorem dksX0_four_1 : cX0_four.data.toList.drop 22 = dktX0_four_1 := dk_seg dksX0_four_0 22 rfl rfl
theorem dX0_four_0 : decode cX0_four 0 = .ok (.bipush 24, 2) := dk_16 24 (dk_at dksX0_four_0 0 rfl rfl)
theorem dX0_four_2 : decode cX0_four 2 = .ok (.istore_n 2, 1) := dk_61 (dk_at dksX0_four_0 2 rfl rfl)
theorem dX0_four_3 : decode cX0_four 3 = .ok (.iload_n 2, 1) := dk_28 (dk_at dksX0_four_0 3 rfl rfl)
theorem dX0_four_4 : decode cX0_four 4 = .ok (.ifCond .lt 32, 3) := dk_155 0 32 (dk_at dksX0_four_0 4 rfl rfl)
theorem dX0_four_7 : decode cX0_four 7 = .ok (.aload_n 0, 1) := dk_42 (dk_at dksX0_four_0 7 rfl rfl)
theorem dX0_four_8 : decode cX0_four 8 = .ok (.getfield 60, 3) := dk_180 0 60 (dk_at dksX0_four_0 8 rfl rfl)
theorem dX0_four_11 : decode cX0_four 11 = .ok (.aload_n 0, 1) := dk_42 (dk_at dksX0_four_0 11 rfl rfl)
theorem dX0_four_12 : decode cX0_four 12 = .ok (.getfield 127, 3) := dk_180 0 127 (dk_at dksX0_four_0 12 rfl rfl)
theorem dX0_four_15 : decode cX0_four 15 = .ok (.iload_n 1, 1) := dk_27 (dk_at dksX0_four_0 15 rfl rfl)
theorem dX0_four_16 : decode cX0_four 16 = .ok (.iload_n 2, 1) := dk_28 (dk_at dksX0_four_0 16 rfl rfl)
theorem dX0_four_17 : decode cX0_four 17 = .ok (.ishr, 1) := dk_122 (dk_at dksX0_four_0 17 rfl rfl)
theorem dX0_four_18 : decode cX0_four 18 = .ok (.i2b, 1) := dk_145 (dk_at dksX0_four_0 18 rfl rfl)
theorem dX0_four_19 : decode cX0_four 19 = .ok (.bastore, 1) := dk_84 (dk_at dksX0_four_0 19 rfl rfl)
theorem dX0_four_20 : decode cX0_four 20 = .ok (.aload_n 0, 1) := dk_42 (dk_at dksX0_four_0 20 rfl rfl)
theorem dX0_four_21 : decode cX0_four 21 = .ok (.dup, 1) := dk_89 (dk_at dksX0_four_0 21 rfl rfl)
theorem dX0_four_22 : decode cX0_four 22 = .ok (.getfield 127, 3) := dk_180 0 127 (dk_at dksX0_four_1 0 rfl rfl)
theorem dX0_four_25 : decode cX0_four 25 = .ok (.iconst 1, 1) := dk_4 (dk_at dksX0_four_1 3 rfl rfl)
theorem dX0_four_26 : decode cX0_four 26 = .ok (.iadd, 1) := dk_96 (dk_at dksX0_four_1 4 rfl rfl)
theorem dX0_four_27 : decode cX0_four 27 = .ok (.putfield 127, 3) := dk_181 0 127 (dk_at dksX0_four_1 5 rfl rfl)
theorem dX0_four_30 : decode cX0_four 30 = .ok (.iinc 2 (-8), 3) := dk_132 2 248 (dk_at dksX0_four_1 8 rfl rfl)
theorem dX0_four_33 : decode cX0_four 33 = .ok (.goto (-30), 3) := dk_167 255 226 (dk_at dksX0_four_1 11 rfl rfl)
theorem dX0_four_36 : decode cX0_four 36 = .ok (.return_, 1) := dk_177 (dk_at dksX0_four_1 14 rfl rfl)
abbrev cX0_trim : ByteArray := prog_1_method_14_code
def yX0_trim : MethodName := ⟨RX0, "trim", "(I)I"⟩
def dkwX0_trim_0 : List UInt8 := [27, 3, 42, 180, 0, 127, 184, 0, 105, 154, 0, 6, 18, 135, 172, 42, 27, 181, 0, 127, 27, 172]
abbrev dktX0_trim_0 : List UInt8 := dkwX0_trim_0 ++ []
theorem dksX0_trim_0 : cX0_trim.data.toList.drop 0 = dktX0_trim_0 := by decide +kernel
theorem dX0_trim_0 : decode cX0_trim 0 = .ok (.iload_n 1, 1) := dk_27 (dk_at dksX0_trim_0 0 rfl rfl)
theorem dX0_trim_1 : decode cX0_trim 1 = .ok (.iconst 0, 1) := dk_3 (dk_at dksX0_trim_0 1 rfl rfl)
theorem dX0_trim_2 : decode cX0_trim 2 = .ok (.aload_n 0, 1) := dk_42 (dk_at dksX0_trim_0 2 rfl rfl)
theorem dX0_trim_3 : decode cX0_trim 3 = .ok (.getfield 127, 3) := dk_180 0 127 (dk_at dksX0_trim_0 3 rfl rfl)
theorem dX0_trim_6 : decode cX0_trim 6 = .ok (.invokestatic 105, 3) := dk_184 0 105 (dk_at dksX0_trim_0 6 rfl rfl)
theorem dX0_trim_9 : decode cX0_trim 9 = .ok (.ifCond .ne 6, 3) := dk_154 0 6 (dk_at dksX0_trim_0 9 rfl rfl)
theorem dX0_trim_12 : decode cX0_trim 12 = .ok (.ldc 135, 2) := dk_18 135 (dk_at dksX0_trim_0 12 rfl rfl)
theorem dX0_trim_14 : decode cX0_trim 14 = .ok (.ireturn, 1) := dk_172 (dk_at dksX0_trim_0 14 rfl rfl)
theorem dX0_trim_15 : decode cX0_trim 15 = .ok (.aload_n 0, 1) := dk_42 (dk_at dksX0_trim_0 15 rfl rfl)
theorem dX0_trim_16 : decode cX0_trim 16 = .ok (.iload_n 1, 1) := dk_27 (dk_at dksX0_trim_0 16 rfl rfl)
theorem dX0_trim_17 : decode cX0_trim 17 = .ok (.putfield 127, 3) := dk_181 0 127 (dk_at dksX0_trim_0 17 rfl rfl)
theorem dX0_trim_20 : decode cX0_trim 20 = .ok (.iload_n 1, 1) := dk_27 (dk_at dksX0_trim_0 20 rfl rfl)
theorem dX0_trim_21 : decode cX0_trim 21 = .ok (.ireturn, 1) := dk_172 (dk_at dksX0_trim_0 21 rfl rfl)
abbrev cX0_isIn : ByteArray := prog_1_method_1_code
def yX0_isIn : MethodName := ⟨RX0, "isIn", "(III)Z"⟩
def dkwX0_isIn_0 : List UInt8 := [26, 27, 161, 0, 12, 26, 28, 163, 0, 7, 4, 167, 0, 4, 3, 172]
abbrev dktX0_isIn_0 : List UInt8 := dkwX0_isIn_0 ++ []
theorem dksX0_isIn_0 : cX0_isIn.data.toList.drop 0 = dktX0_isIn_0 := by decide +kernel
theorem dX0_isIn_0 : decode cX0_isIn 0 = .ok (.iload_n 0, 1) := dk_26 (dk_at dksX0_isIn_0 0 rfl rfl)
theorem dX0_isIn_1 : decode cX0_isIn 1 = .ok (.iload_n 1, 1) := dk_27 (dk_at dksX0_isIn_0 1 rfl rfl)
theorem dX0_isIn_2 : decode cX0_isIn 2 = .ok (.if_icmp .lt 12, 3) := dk_161 0 12 (dk_at dksX0_isIn_0 2 rfl rfl)
theorem dX0_isIn_5 : decode cX0_isIn 5 = .ok (.iload_n 0, 1) := dk_26 (dk_at dksX0_isIn_0 5 rfl rfl)
theorem dX0_isIn_6 : decode cX0_isIn 6 = .ok (.iload_n 2, 1) := dk_28 (dk_at dksX0_isIn_0 6 rfl rfl)
theorem dX0_isIn_7 : decode cX0_isIn 7 = .ok (.if_icmp .gt 7, 3) := dk_163 0 7 (dk_at dksX0_isIn_0 7 rfl rfl)
theorem dX0_isIn_10 : decode cX0_isIn 10 = .ok (.iconst 1, 1) := dk_4 (dk_at dksX0_isIn_0 10 rfl rfl)
theorem dX0_isIn_11 : decode cX0_isIn 11 = .ok (.goto 4, 3) := dk_167 0 4 (dk_at dksX0_isIn_0 11 rfl rfl)
theorem dX0_isIn_14 : decode cX0_isIn 14 = .ok (.iconst 0, 1) := dk_3 (dk_at dksX0_isIn_0 14 rfl rfl)
theorem dX0_isIn_15 : decode cX0_isIn 15 = .ok (.ireturn, 1) := dk_172 (dk_at dksX0_isIn_0 15 rfl rfl)
abbrev cX0_text : ByteArray := prog_1_method_32_code
def yX0_text : MethodName := ⟨RX0, "text", "()I"⟩
def dkwX0_text_4 : List UInt8 := [181, 0, 127, 45, 191]
abbrev dktX0_text_4 : List UInt8 := dkwX0_text_4 ++ []
def dkwX0_text_3 : List UInt8 := [181, 0, 127, 28, 172, 76, 16, 156, 43, 180, 0, 139, 100, 61, 42, 3, 181, 0, 127, 28, 172, 78, 42, 3]
abbrev dktX0_text_3 : List UInt8 := dkwX0_text_3 ++ dktX0_text_4
def dkwX0_text_2 : List UInt8 := [180, 0, 46, 89, 180, 0, 242, 4, 96, 181, 0, 242, 42, 180, 0, 46, 180, 0, 242, 4, 100, 61, 42, 3]
abbrev dktX0_text_2 : List UInt8 := dkwX0_text_2 ++ dktX0_text_3
def dkwX0_text_1 : List UInt8 := [181, 0, 127, 28, 172, 42, 180, 0, 46, 180, 0, 245, 42, 180, 0, 46, 180, 0, 242, 43, 83, 42]
abbrev dktX0_text_1 : List UInt8 := dkwX0_text_1 ++ dktX0_text_2
def dkwX0_text_0 : List UInt8 := [42, 182, 0, 238, 76, 42, 180, 0, 46, 180, 0, 242, 16, 14, 160, 0, 13, 18, 130, 61, 42, 3]
abbrev dktX0_text_0 : List UInt8 := dkwX0_text_0 ++ dktX0_text_1
theorem dksX0_text_0 : cX0_text.data.toList.drop 0 = dktX0_text_0 := by decide +kernel
theorem dksX0_text_1 : cX0_text.data.toList.drop 22 = dktX0_text_1 := dk_seg dksX0_text_0 22 rfl rfl
theorem dksX0_text_2 : cX0_text.data.toList.drop 44 = dktX0_text_2 := dk_seg dksX0_text_1 22 rfl rfl
theorem dksX0_text_3 : cX0_text.data.toList.drop 68 = dktX0_text_3 := dk_seg dksX0_text_2 24 rfl rfl
theorem dksX0_text_4 : cX0_text.data.toList.drop 92 = dktX0_text_4 := dk_seg dksX0_text_3 24 rfl rfl
theorem dX0_text_0 : decode cX0_text 0 = .ok (.aload_n 0, 1) := dk_42 (dk_at dksX0_text_0 0 rfl rfl)
theorem dX0_text_1 : decode cX0_text 1 = .ok (.invokevirtual 238, 3) := dk_182 0 238 (dk_at dksX0_text_0 1 rfl rfl)
theorem dX0_text_4 : decode cX0_text 4 = .ok (.astore_n 1, 1) := dk_76 (dk_at dksX0_text_0 4 rfl rfl)
theorem dX0_text_5 : decode cX0_text 5 = .ok (.aload_n 0, 1) := dk_42 (dk_at dksX0_text_0 5 rfl rfl)
theorem dX0_text_6 : decode cX0_text 6 = .ok (.getfield 46, 3) := dk_180 0 46 (dk_at dksX0_text_0 6 rfl rfl)
theorem dX0_text_9 : decode cX0_text 9 = .ok (.getfield 242, 3) := dk_180 0 242 (dk_at dksX0_text_0 9 rfl rfl)
theorem dX0_text_12 : decode cX0_text 12 = .ok (.bipush 14, 2) := dk_16 14 (dk_at dksX0_text_0 12 rfl rfl)
theorem dX0_text_14 : decode cX0_text 14 = .ok (.if_icmp .ne 13, 3) := dk_160 0 13 (dk_at dksX0_text_0 14 rfl rfl)
theorem dX0_text_17 : decode cX0_text 17 = .ok (.ldc 130, 2) := dk_18 130 (dk_at dksX0_text_0 17 rfl rfl)
theorem dX0_text_19 : decode cX0_text 19 = .ok (.istore_n 2, 1) := dk_61 (dk_at dksX0_text_0 19 rfl rfl)
theorem dX0_text_20 : decode cX0_text 20 = .ok (.aload_n 0, 1) := dk_42 (dk_at dksX0_text_0 20 rfl rfl)
theorem dX0_text_21 : decode cX0_text 21 = .ok (.iconst 0, 1) := dk_3 (dk_at dksX0_text_0 21 rfl rfl)
theorem dX0_text_22 : decode cX0_text 22 = .ok (.putfield 127, 3) := dk_181 0 127 (dk_at dksX0_text_1 0 rfl rfl)
theorem dX0_text_25 : decode cX0_text 25 = .ok (.iload_n 2, 1) := dk_28 (dk_at dksX0_text_1 3 rfl rfl)
theorem dX0_text_26 : decode cX0_text 26 = .ok (.ireturn, 1) := dk_172 (dk_at dksX0_text_1 4 rfl rfl)
theorem dX0_text_27 : decode cX0_text 27 = .ok (.aload_n 0, 1) := dk_42 (dk_at dksX0_text_1 5 rfl rfl)
theorem dX0_text_28 : decode cX0_text 28 = .ok (.getfield 46, 3) := dk_180 0 46 (dk_at dksX0_text_1 6 rfl rfl)
theorem dX0_text_31 : decode cX0_text 31 = .ok (.getfield 245, 3) := dk_180 0 245 (dk_at dksX0_text_1 9 rfl rfl)
theorem dX0_text_34 : decode cX0_text 34 = .ok (.aload_n 0, 1) := dk_42 (dk_at dksX0_text_1 12 rfl rfl)
theorem dX0_text_35 : decode cX0_text 35 = .ok (.getfield 46, 3) := dk_180 0 46 (dk_at dksX0_text_1 13 rfl rfl)
theorem dX0_text_38 : decode cX0_text 38 = .ok (.getfield 242, 3) := dk_180 0 242 (dk_at dksX0_text_1 16 rfl rfl)
theorem dX0_text_41 : decode cX0_text 41 = .ok (.aload_n 1, 1) := dk_43 (dk_at dksX0_text_1 19 rfl rfl)
theorem dX0_text_42 : decode cX0_text 42 = .ok (.aastore, 1) := dk_83 (dk_at dksX0_text_1 20 rfl rfl)
theorem dX0_text_43 : decode cX0_text 43 = .ok (.aload_n 0, 1) := dk_42 (dk_at dksX0_text_1 21 rfl rfl)
theorem dX0_text_44 : decode cX0_text 44 = .ok (.getfield 46, 3) := dk_180 0 46 (dk_at dksX0_text_2 0 rfl rfl)
theorem dX0_text_47 : decode cX0_text 47 = .ok (.dup, 1) := dk_89 (dk_at dksX0_text_2 3 rfl rfl)
theorem dX0_text_48 : decode cX0_text 48 = .ok (.getfield 242, 3) := dk_180 0 242 (dk_at dksX0_text_2 4 rfl rfl)
theorem dX0_text_51 : decode cX0_text 51 = .ok (.iconst 1, 1) := dk_4 (dk_at dksX0_text_2 7 rfl rfl)
theorem dX0_text_52 : decode cX0_text 52 = .ok (.iadd, 1) := dk_96 (dk_at dksX0_text_2 8 rfl rfl)
theorem dX0_text_53 : decode cX0_text 53 = .ok (.putfield 242, 3) := dk_181 0 242 (dk_at dksX0_text_2 9 rfl rfl)
theorem dX0_text_56 : decode cX0_text 56 = .ok (.aload_n 0, 1) := dk_42 (dk_at dksX0_text_2 12 rfl rfl)
theorem dX0_text_57 : decode cX0_text 57 = .ok (.getfield 46, 3) := dk_180 0 46 (dk_at dksX0_text_2 13 rfl rfl)
theorem dX0_text_60 : decode cX0_text 60 = .ok (.getfield 242, 3) := dk_180 0 242 (dk_at dksX0_text_2 16 rfl rfl)
theorem dX0_text_63 : decode cX0_text 63 = .ok (.iconst 1, 1) := dk_4 (dk_at dksX0_text_2 19 rfl rfl)
theorem dX0_text_64 : decode cX0_text 64 = .ok (.isub, 1) := dk_100 (dk_at dksX0_text_2 20 rfl rfl)
theorem dX0_text_65 : decode cX0_text 65 = .ok (.istore_n 2, 1) := dk_61 (dk_at dksX0_text_2 21 rfl rfl)
theorem dX0_text_66 : decode cX0_text 66 = .ok (.aload_n 0, 1) := dk_42 (dk_at dksX0_text_2 22 rfl rfl)
theorem dX0_text_67 : decode cX0_text 67 = .ok (.iconst 0, 1) := dk_3 (dk_at dksX0_text_2 23 rfl rfl)
theorem dX0_text_68 : decode cX0_text 68 = .ok (.putfield 127, 3) := dk_181 0 127 (dk_at dksX0_text_3 0 rfl rfl)
theorem dX0_text_71 : decode cX0_text 71 = .ok (.iload_n 2, 1) := dk_28 (dk_at dksX0_text_3 3 rfl rfl)
theorem dX0_text_72 : decode cX0_text 72 = .ok (.ireturn, 1) := dk_172 (dk_at dksX0_text_3 4 rfl rfl)
theorem dX0_text_73 : decode cX0_text 73 = .ok (.astore_n 1, 1) := dk_76 (dk_at dksX0_text_3 5 rfl rfl)
theorem dX0_text_74 : decode cX0_text 74 = .ok (.bipush (-100), 2) := dk_16 156 (dk_at dksX0_text_3 6 rfl rfl)
theorem dX0_text_76 : decode cX0_text 76 = .ok (.aload_n 1, 1) := dk_43 (dk_at dksX0_text_3 8 rfl rfl)
theorem dX0_text_77 : decode cX0_text 77 = .ok (.getfield 139, 3) := dk_180 0 139 (dk_at dksX0_text_3 9 rfl rfl)
theorem dX0_text_80 : decode cX0_text 80 = .ok (.isub, 1) := dk_100 (dk_at dksX0_text_3 12 rfl rfl)
theorem dX0_text_81 : decode cX0_text 81 = .ok (.istore_n 2, 1) := dk_61 (dk_at dksX0_text_3 13 rfl rfl)
theorem dX0_text_82 : decode cX0_text 82 = .ok (.aload_n 0, 1) := dk_42 (dk_at dksX0_text_3 14 rfl rfl)
theorem dX0_text_83 : decode cX0_text 83 = .ok (.iconst 0, 1) := dk_3 (dk_at dksX0_text_3 15 rfl rfl)
theorem dX0_text_84 : decode cX0_text 84 = .ok (.putfield 127, 3) := dk_181 0 127 (dk_at dksX0_text_3 16 rfl rfl)
theorem dX0_text_87 : decode cX0_text 87 = .ok (.iload_n 2, 1) := dk_28 (dk_at dksX0_text_3 19 rfl rfl)
theorem dX0_text_88 : decode cX0_text 88 = .ok (.ireturn, 1) := dk_172 (dk_at dksX0_text_3 20 rfl rfl)
theorem dX0_text_89 : decode cX0_text 89 = .ok (.astore_n 3, 1) := dk_78 (dk_at dksX0_text_3 21 rfl rfl)
theorem dX0_text_90 : decode cX0_text 90 = .ok (.aload_n 0, 1) := dk_42 (dk_at dksX0_text_3 22 rfl rfl)
theorem dX0_text_91 : decode cX0_text 91 = .ok (.iconst 0, 1) := dk_3 (dk_at dksX0_text_3 23 rfl rfl)
theorem dX0_text_92 : decode cX0_text 92 = .ok (.putfield 127, 3) := dk_181 0 127 (dk_at dksX0_text_4 0 rfl rfl)
theorem dX0_text_95 : decode cX0_text 95 = .ok (.aload_n 3, 1) := dk_45 (dk_at dksX0_text_4 3 rfl rfl)
theorem dX0_text_96 : decode cX0_text 96 = .ok (.athrow, 1) := dk_191 (dk_at dksX0_text_4 4 rfl rfl)
abbrev cX0_textRead : ByteArray := prog_1_method_31_code
def yX0_textRead : MethodName := ⟨RX0, "textRead", "()LNeverSaid$Text;"⟩
def dkwX0_textRead_3 : List UInt8 := [180, 0, 207, 183, 0, 235, 176]
abbrev dktX0_textRead_3 : List UInt8 := dkwX0_textRead_3 ++ []
def dkwX0_textRead_2 : List UInt8 := [180, 0, 136, 42, 180, 0, 145, 162, 0, 7, 42, 182, 0, 155, 187, 0, 233, 89, 42, 180, 0, 198, 43, 42]
abbrev dktX0_textRead_2 : List UInt8 := dkwX0_textRead_2 ++ dktX0_textRead_3
def dkwX0_textRead_1 : List UInt8 := [3, 181, 0, 207, 42, 182, 0, 168, 42, 42, 182, 0, 226, 181, 0, 198, 42, 182, 0, 229, 76, 42]
abbrev dktX0_textRead_1 : List UInt8 := dkwX0_textRead_1 ++ dktX0_textRead_2
def dkwX0_textRead_0 : List UInt8 := [42, 42, 180, 0, 127, 181, 0, 145, 42, 3, 181, 0, 142, 42, 3, 181, 0, 204, 42, 3, 181, 0, 201, 42]
abbrev dktX0_textRead_0 : List UInt8 := dkwX0_textRead_0 ++ dktX0_textRead_1
theorem dksX0_textRead_0 : cX0_textRead.data.toList.drop 0 = dktX0_textRead_0 := by decide +kernel
theorem dksX0_textRead_1 : cX0_textRead.data.toList.drop 24 = dktX0_textRead_1 := dk_seg dksX0_textRead_0 24 rfl rfl
theorem dksX0_textRead_2 : cX0_textRead.data.toList.drop 46 = dktX0_textRead_2 := dk_seg dksX0_textRead_1 22 rfl rfl
theorem dksX0_textRead_3 : cX0_textRead.data.toList.drop 70 = dktX0_textRead_3 := dk_seg dksX0_textRead_2 24 rfl rfl
theorem dX0_textRead_0 : decode cX0_textRead 0 = .ok (.aload_n 0, 1) := dk_42 (dk_at dksX0_textRead_0 0 rfl rfl)
theorem dX0_textRead_1 : decode cX0_textRead 1 = .ok (.aload_n 0, 1) := dk_42 (dk_at dksX0_textRead_0 1 rfl rfl)
theorem dX0_textRead_2 : decode cX0_textRead 2 = .ok (.getfield 127, 3) := dk_180 0 127 (dk_at dksX0_textRead_0 2 rfl rfl)
theorem dX0_textRead_5 : decode cX0_textRead 5 = .ok (.putfield 145, 3) := dk_181 0 145 (dk_at dksX0_textRead_0 5 rfl rfl)
theorem dX0_textRead_8 : decode cX0_textRead 8 = .ok (.aload_n 0, 1) := dk_42 (dk_at dksX0_textRead_0 8 rfl rfl)
theorem dX0_textRead_9 : decode cX0_textRead 9 = .ok (.iconst 0, 1) := dk_3 (dk_at dksX0_textRead_0 9 rfl rfl)
theorem dX0_textRead_10 : decode cX0_textRead 10 = .ok (.putfield 142, 3) := dk_181 0 142 (dk_at dksX0_textRead_0 10 rfl rfl)
theorem dX0_textRead_13 : decode cX0_textRead 13 = .ok (.aload_n 0, 1) := dk_42 (dk_at dksX0_textRead_0 13 rfl rfl)
theorem dX0_textRead_14 : decode cX0_textRead 14 = .ok (.iconst 0, 1) := dk_3 (dk_at dksX0_textRead_0 14 rfl rfl)
theorem dX0_textRead_15 : decode cX0_textRead 15 = .ok (.putfield 204, 3) := dk_181 0 204 (dk_at dksX0_textRead_0 15 rfl rfl)
theorem dX0_textRead_18 : decode cX0_textRead 18 = .ok (.aload_n 0, 1) := dk_42 (dk_at dksX0_textRead_0 18 rfl rfl)
theorem dX0_textRead_19 : decode cX0_textRead 19 = .ok (.iconst 0, 1) := dk_3 (dk_at dksX0_textRead_0 19 rfl rfl)
theorem dX0_textRead_20 : decode cX0_textRead 20 = .ok (.putfield 201, 3) := dk_181 0 201 (dk_at dksX0_textRead_0 20 rfl rfl)
theorem dX0_textRead_23 : decode cX0_textRead 23 = .ok (.aload_n 0, 1) := dk_42 (dk_at dksX0_textRead_0 23 rfl rfl)
theorem dX0_textRead_24 : decode cX0_textRead 24 = .ok (.iconst 0, 1) := dk_3 (dk_at dksX0_textRead_1 0 rfl rfl)
theorem dX0_textRead_25 : decode cX0_textRead 25 = .ok (.putfield 207, 3) := dk_181 0 207 (dk_at dksX0_textRead_1 1 rfl rfl)
theorem dX0_textRead_28 : decode cX0_textRead 28 = .ok (.aload_n 0, 1) := dk_42 (dk_at dksX0_textRead_1 4 rfl rfl)
theorem dX0_textRead_29 : decode cX0_textRead 29 = .ok (.invokevirtual 168, 3) := dk_182 0 168 (dk_at dksX0_textRead_1 5 rfl rfl)
theorem dX0_textRead_32 : decode cX0_textRead 32 = .ok (.aload_n 0, 1) := dk_42 (dk_at dksX0_textRead_1 8 rfl rfl)
theorem dX0_textRead_33 : decode cX0_textRead 33 = .ok (.aload_n 0, 1) := dk_42 (dk_at dksX0_textRead_1 9 rfl rfl)
theorem dX0_textRead_34 : decode cX0_textRead 34 = .ok (.invokevirtual 226, 3) := dk_182 0 226 (dk_at dksX0_textRead_1 10 rfl rfl)
theorem dX0_textRead_37 : decode cX0_textRead 37 = .ok (.putfield 198, 3) := dk_181 0 198 (dk_at dksX0_textRead_1 13 rfl rfl)
theorem dX0_textRead_40 : decode cX0_textRead 40 = .ok (.aload_n 0, 1) := dk_42 (dk_at dksX0_textRead_1 16 rfl rfl)
theorem dX0_textRead_41 : decode cX0_textRead 41 = .ok (.invokevirtual 229, 3) := dk_182 0 229 (dk_at dksX0_textRead_1 17 rfl rfl)
theorem dX0_textRead_44 : decode cX0_textRead 44 = .ok (.astore_n 1, 1) := dk_76 (dk_at dksX0_textRead_1 20 rfl rfl)
theorem dX0_textRead_45 : decode cX0_textRead 45 = .ok (.aload_n 0, 1) := dk_42 (dk_at dksX0_textRead_1 21 rfl rfl)
theorem dX0_textRead_46 : decode cX0_textRead 46 = .ok (.getfield 136, 3) := dk_180 0 136 (dk_at dksX0_textRead_2 0 rfl rfl)
theorem dX0_textRead_49 : decode cX0_textRead 49 = .ok (.aload_n 0, 1) := dk_42 (dk_at dksX0_textRead_2 3 rfl rfl)
theorem dX0_textRead_50 : decode cX0_textRead 50 = .ok (.getfield 145, 3) := dk_180 0 145 (dk_at dksX0_textRead_2 4 rfl rfl)
theorem dX0_textRead_53 : decode cX0_textRead 53 = .ok (.if_icmp .ge 7, 3) := dk_162 0 7 (dk_at dksX0_textRead_2 7 rfl rfl)
theorem dX0_textRead_56 : decode cX0_textRead 56 = .ok (.aload_n 0, 1) := dk_42 (dk_at dksX0_textRead_2 10 rfl rfl)
theorem dX0_textRead_57 : decode cX0_textRead 57 = .ok (.invokevirtual 155, 3) := dk_182 0 155 (dk_at dksX0_textRead_2 11 rfl rfl)
theorem dX0_textRead_60 : decode cX0_textRead 60 = .ok (.new 233, 3) := dk_187 0 233 (dk_at dksX0_textRead_2 14 rfl rfl)
theorem dX0_textRead_63 : decode cX0_textRead 63 = .ok (.dup, 1) := dk_89 (dk_at dksX0_textRead_2 17 rfl rfl)
theorem dX0_textRead_64 : decode cX0_textRead 64 = .ok (.aload_n 0, 1) := dk_42 (dk_at dksX0_textRead_2 18 rfl rfl)
theorem dX0_textRead_65 : decode cX0_textRead 65 = .ok (.getfield 198, 3) := dk_180 0 198 (dk_at dksX0_textRead_2 19 rfl rfl)
theorem dX0_textRead_68 : decode cX0_textRead 68 = .ok (.aload_n 1, 1) := dk_43 (dk_at dksX0_textRead_2 22 rfl rfl)
theorem dX0_textRead_69 : decode cX0_textRead 69 = .ok (.aload_n 0, 1) := dk_42 (dk_at dksX0_textRead_2 23 rfl rfl)
theorem dX0_textRead_70 : decode cX0_textRead 70 = .ok (.getfield 207, 3) := dk_180 0 207 (dk_at dksX0_textRead_3 0 rfl rfl)
theorem dX0_textRead_73 : decode cX0_textRead 73 = .ok (.invokespecial 235, 3) := dk_183 0 235 (dk_at dksX0_textRead_3 3 rfl rfl)
theorem dX0_textRead_76 : decode cX0_textRead 76 = .ok (.areturn, 1) := dk_176 (dk_at dksX0_textRead_3 6 rfl rfl)
abbrev cX0_goes : ByteArray := prog_1_method_18_code
def yX0_goes : MethodName := ⟨RX0, "goes", "()V"⟩
def dkwX0_goes_12 : List UInt8 := [29, 153, 0, 7, 42, 182, 0, 155, 177]
abbrev dktX0_goes_12 : List UInt8 := dkwX0_goes_12 ++ []
def dkwX0_goes_11 : List UInt8 := [100, 51, 184, 0, 152, 153, 0, 7, 4, 167, 0, 4, 3, 54, 4, 21, 4, 153, 0, 15, 28, 154, 0, 7]
abbrev dktX0_goes_11 : List UInt8 := dkwX0_goes_11 ++ dktX0_goes_12
def dkwX0_goes_10 : List UInt8 := [27, 158, 0, 35, 42, 180, 0, 60, 27, 4, 100, 51, 184, 0, 148, 154, 0, 17, 42, 180, 0, 60, 27, 4]
abbrev dktX0_goes_10 : List UInt8 := dkwX0_goes_10 ++ dktX0_goes_11
def dkwX0_goes_9 : List UInt8 := [180, 0, 145, 162, 0, 13, 42, 89, 180, 0, 142, 4, 96, 181, 0, 142, 42, 180, 0, 136, 27, 160, 0, 39]
abbrev dktX0_goes_9 : List UInt8 := dkwX0_goes_9 ++ dktX0_goes_10
def dkwX0_goes_8 : List UInt8 := [184, 0, 152, 153, 0, 37, 42, 89, 180, 0, 142, 4, 96, 181, 0, 142, 167, 255, 220, 42, 180, 0, 136, 42]
abbrev dktX0_goes_8 : List UInt8 := dkwX0_goes_8 ++ dktX0_goes_9
def dkwX0_goes_7 : List UInt8 := [29, 153, 0, 42, 42, 180, 0, 142, 42, 180, 0, 145, 162, 0, 52, 42, 180, 0, 60, 42, 180, 0, 142, 51]
abbrev dktX0_goes_7 : List UInt8 := dkwX0_goes_7 ++ dktX0_goes_8
def dkwX0_goes_6 : List UInt8 := [42, 180, 0, 142, 51, 184, 0, 148, 153, 0, 80, 42, 89, 180, 0, 142, 4, 96, 181, 0, 142, 167, 255, 220]
abbrev dktX0_goes_6 : List UInt8 := dkwX0_goes_6 ++ dktX0_goes_7
def dkwX0_goes_5 : List UInt8 := [167, 0, 4, 3, 62, 28, 153, 0, 42, 42, 180, 0, 142, 42, 180, 0, 145, 162, 0, 95, 42, 180, 0, 60]
abbrev dktX0_goes_5 : List UInt8 := dkwX0_goes_5 ++ dktX0_goes_6
def dkwX0_goes_4 : List UInt8 := [42, 180, 0, 145, 162, 0, 22, 42, 180, 0, 60, 42, 180, 0, 136, 51, 184, 0, 152, 153, 0, 7, 4]
abbrev dktX0_goes_4 : List UInt8 := dkwX0_goes_4 ++ dktX0_goes_5
def dkwX0_goes_3 : List UInt8 := [180, 0, 60, 42, 180, 0, 136, 51, 184, 0, 148, 153, 0, 7, 4, 167, 0, 4, 3, 61, 42, 180, 0, 136]
abbrev dktX0_goes_3 : List UInt8 := dkwX0_goes_3 ++ dktX0_goes_4
def dkwX0_goes_2 : List UInt8 := [167, 255, 221, 42, 42, 180, 0, 136, 181, 0, 142, 42, 180, 0, 136, 42, 180, 0, 145, 162, 0, 22, 42]
abbrev dktX0_goes_2 : List UInt8 := dkwX0_goes_2 ++ dktX0_goes_3
def dkwX0_goes_1 : List UInt8 := [42, 180, 0, 60, 42, 180, 0, 136, 51, 16, 32, 160, 0, 16, 42, 89, 180, 0, 136, 4, 96, 181, 0, 136]
abbrev dktX0_goes_1 : List UInt8 := dkwX0_goes_1 ++ dktX0_goes_2
def dkwX0_goes_0 : List UInt8 := [42, 180, 0, 142, 60, 42, 42, 180, 0, 142, 181, 0, 136, 42, 180, 0, 136, 42, 180, 0, 145, 162, 0, 30]
abbrev dktX0_goes_0 : List UInt8 := dkwX0_goes_0 ++ dktX0_goes_1
theorem dksX0_goes_0 : cX0_goes.data.toList.drop 0 = dktX0_goes_0 := by decide +kernel
theorem dksX0_goes_1 : cX0_goes.data.toList.drop 24 = dktX0_goes_1 := dk_seg dksX0_goes_0 24 rfl rfl
theorem dksX0_goes_2 : cX0_goes.data.toList.drop 48 = dktX0_goes_2 := dk_seg dksX0_goes_1 24 rfl rfl
theorem dksX0_goes_3 : cX0_goes.data.toList.drop 71 = dktX0_goes_3 := dk_seg dksX0_goes_2 23 rfl rfl
theorem dksX0_goes_4 : cX0_goes.data.toList.drop 95 = dktX0_goes_4 := dk_seg dksX0_goes_3 24 rfl rfl
theorem dksX0_goes_5 : cX0_goes.data.toList.drop 118 = dktX0_goes_5 := dk_seg dksX0_goes_4 23 rfl rfl
theorem dksX0_goes_6 : cX0_goes.data.toList.drop 142 = dktX0_goes_6 := dk_seg dksX0_goes_5 24 rfl rfl
theorem dksX0_goes_7 : cX0_goes.data.toList.drop 166 = dktX0_goes_7 := dk_seg dksX0_goes_6 24 rfl rfl
theorem dksX0_goes_8 : cX0_goes.data.toList.drop 190 = dktX0_goes_8 := dk_seg dksX0_goes_7 24 rfl rfl
theorem dksX0_goes_9 : cX0_goes.data.toList.drop 214 = dktX0_goes_9 := dk_seg dksX0_goes_8 24 rfl rfl
theorem dksX0_goes_10 : cX0_goes.data.toList.drop 238 = dktX0_goes_10 := dk_seg dksX0_goes_9 24 rfl rfl
theorem dksX0_goes_11 : cX0_goes.data.toList.drop 262 = dktX0_goes_11 := dk_seg dksX0_goes_10 24 rfl rfl
theorem dksX0_goes_12 : cX0_goes.data.toList.drop 286 = dktX0_goes_12 := dk_seg dksX0_goes_11 24 rfl rfl
theorem dX0_goes_0 : decode cX0_goes 0 = .ok (.aload_n 0, 1) := dk_42 (dk_at dksX0_goes_0 0 rfl rfl)
theorem dX0_goes_1 : decode cX0_goes 1 = .ok (.getfield 142, 3) := dk_180 0 142 (dk_at dksX0_goes_0 1 rfl rfl)
theorem dX0_goes_4 : decode cX0_goes 4 = .ok (.istore_n 1, 1) := dk_60 (dk_at dksX0_goes_0 4 rfl rfl)
theorem dX0_goes_5 : decode cX0_goes 5 = .ok (.aload_n 0, 1) := dk_42 (dk_at dksX0_goes_0 5 rfl rfl)
theorem dX0_goes_6 : decode cX0_goes 6 = .ok (.aload_n 0, 1) := dk_42 (dk_at dksX0_goes_0 6 rfl rfl)
theorem dX0_goes_7 : decode cX0_goes 7 = .ok (.getfield 142, 3) := dk_180 0 142 (dk_at dksX0_goes_0 7 rfl rfl)
theorem dX0_goes_10 : decode cX0_goes 10 = .ok (.putfield 136, 3) := dk_181 0 136 (dk_at dksX0_goes_0 10 rfl rfl)
theorem dX0_goes_13 : decode cX0_goes 13 = .ok (.aload_n 0, 1) := dk_42 (dk_at dksX0_goes_0 13 rfl rfl)
theorem dX0_goes_14 : decode cX0_goes 14 = .ok (.getfield 136, 3) := dk_180 0 136 (dk_at dksX0_goes_0 14 rfl rfl)
theorem dX0_goes_17 : decode cX0_goes 17 = .ok (.aload_n 0, 1) := dk_42 (dk_at dksX0_goes_0 17 rfl rfl)
theorem dX0_goes_18 : decode cX0_goes 18 = .ok (.getfield 145, 3) := dk_180 0 145 (dk_at dksX0_goes_0 18 rfl rfl)
theorem dX0_goes_21 : decode cX0_goes 21 = .ok (.if_icmp .ge 30, 3) := dk_162 0 30 (dk_at dksX0_goes_0 21 rfl rfl)
theorem dX0_goes_24 : decode cX0_goes 24 = .ok (.aload_n 0, 1) := dk_42 (dk_at dksX0_goes_1 0 rfl rfl)
theorem dX0_goes_25 : decode cX0_goes 25 = .ok (.getfield 60, 3) := dk_180 0 60 (dk_at dksX0_goes_1 1 rfl rfl)
theorem dX0_goes_28 : decode cX0_goes 28 = .ok (.aload_n 0, 1) := dk_42 (dk_at dksX0_goes_1 4 rfl rfl)
theorem dX0_goes_29 : decode cX0_goes 29 = .ok (.getfield 136, 3) := dk_180 0 136 (dk_at dksX0_goes_1 5 rfl rfl)
theorem dX0_goes_32 : decode cX0_goes 32 = .ok (.baload, 1) := dk_51 (dk_at dksX0_goes_1 8 rfl rfl)
theorem dX0_goes_33 : decode cX0_goes 33 = .ok (.bipush 32, 2) := dk_16 32 (dk_at dksX0_goes_1 9 rfl rfl)
theorem dX0_goes_35 : decode cX0_goes 35 = .ok (.if_icmp .ne 16, 3) := dk_160 0 16 (dk_at dksX0_goes_1 11 rfl rfl)
theorem dX0_goes_38 : decode cX0_goes 38 = .ok (.aload_n 0, 1) := dk_42 (dk_at dksX0_goes_1 14 rfl rfl)
theorem dX0_goes_39 : decode cX0_goes 39 = .ok (.dup, 1) := dk_89 (dk_at dksX0_goes_1 15 rfl rfl)
theorem dX0_goes_40 : decode cX0_goes 40 = .ok (.getfield 136, 3) := dk_180 0 136 (dk_at dksX0_goes_1 16 rfl rfl)
theorem dX0_goes_43 : decode cX0_goes 43 = .ok (.iconst 1, 1) := dk_4 (dk_at dksX0_goes_1 19 rfl rfl)
theorem dX0_goes_44 : decode cX0_goes 44 = .ok (.iadd, 1) := dk_96 (dk_at dksX0_goes_1 20 rfl rfl)
theorem dX0_goes_45 : decode cX0_goes 45 = .ok (.putfield 136, 3) := dk_181 0 136 (dk_at dksX0_goes_1 21 rfl rfl)
theorem dX0_goes_48 : decode cX0_goes 48 = .ok (.goto (-35), 3) := dk_167 255 221 (dk_at dksX0_goes_2 0 rfl rfl)
theorem dX0_goes_51 : decode cX0_goes 51 = .ok (.aload_n 0, 1) := dk_42 (dk_at dksX0_goes_2 3 rfl rfl)
theorem dX0_goes_52 : decode cX0_goes 52 = .ok (.aload_n 0, 1) := dk_42 (dk_at dksX0_goes_2 4 rfl rfl)
theorem dX0_goes_53 : decode cX0_goes 53 = .ok (.getfield 136, 3) := dk_180 0 136 (dk_at dksX0_goes_2 5 rfl rfl)
theorem dX0_goes_56 : decode cX0_goes 56 = .ok (.putfield 142, 3) := dk_181 0 142 (dk_at dksX0_goes_2 8 rfl rfl)
theorem dX0_goes_59 : decode cX0_goes 59 = .ok (.aload_n 0, 1) := dk_42 (dk_at dksX0_goes_2 11 rfl rfl)
theorem dX0_goes_60 : decode cX0_goes 60 = .ok (.getfield 136, 3) := dk_180 0 136 (dk_at dksX0_goes_2 12 rfl rfl)
theorem dX0_goes_63 : decode cX0_goes 63 = .ok (.aload_n 0, 1) := dk_42 (dk_at dksX0_goes_2 15 rfl rfl)
theorem dX0_goes_64 : decode cX0_goes 64 = .ok (.getfield 145, 3) := dk_180 0 145 (dk_at dksX0_goes_2 16 rfl rfl)
theorem dX0_goes_67 : decode cX0_goes 67 = .ok (.if_icmp .ge 22, 3) := dk_162 0 22 (dk_at dksX0_goes_2 19 rfl rfl)
theorem dX0_goes_70 : decode cX0_goes 70 = .ok (.aload_n 0, 1) := dk_42 (dk_at dksX0_goes_2 22 rfl rfl)
theorem dX0_goes_71 : decode cX0_goes 71 = .ok (.getfield 60, 3) := dk_180 0 60 (dk_at dksX0_goes_3 0 rfl rfl)
theorem dX0_goes_74 : decode cX0_goes 74 = .ok (.aload_n 0, 1) := dk_42 (dk_at dksX0_goes_3 3 rfl rfl)
theorem dX0_goes_75 : decode cX0_goes 75 = .ok (.getfield 136, 3) := dk_180 0 136 (dk_at dksX0_goes_3 4 rfl rfl)
theorem dX0_goes_78 : decode cX0_goes 78 = .ok (.baload, 1) := dk_51 (dk_at dksX0_goes_3 7 rfl rfl)
theorem dX0_goes_79 : decode cX0_goes 79 = .ok (.invokestatic 148, 3) := dk_184 0 148 (dk_at dksX0_goes_3 8 rfl rfl)
theorem dX0_goes_82 : decode cX0_goes 82 = .ok (.ifCond .eq 7, 3) := dk_153 0 7 (dk_at dksX0_goes_3 11 rfl rfl)
theorem dX0_goes_85 : decode cX0_goes 85 = .ok (.iconst 1, 1) := dk_4 (dk_at dksX0_goes_3 14 rfl rfl)
theorem dX0_goes_86 : decode cX0_goes 86 = .ok (.goto 4, 3) := dk_167 0 4 (dk_at dksX0_goes_3 15 rfl rfl)
theorem dX0_goes_89 : decode cX0_goes 89 = .ok (.iconst 0, 1) := dk_3 (dk_at dksX0_goes_3 18 rfl rfl)
theorem dX0_goes_90 : decode cX0_goes 90 = .ok (.istore_n 2, 1) := dk_61 (dk_at dksX0_goes_3 19 rfl rfl)
theorem dX0_goes_91 : decode cX0_goes 91 = .ok (.aload_n 0, 1) := dk_42 (dk_at dksX0_goes_3 20 rfl rfl)
theorem dX0_goes_92 : decode cX0_goes 92 = .ok (.getfield 136, 3) := dk_180 0 136 (dk_at dksX0_goes_3 21 rfl rfl)
theorem dX0_goes_95 : decode cX0_goes 95 = .ok (.aload_n 0, 1) := dk_42 (dk_at dksX0_goes_4 0 rfl rfl)
theorem dX0_goes_96 : decode cX0_goes 96 = .ok (.getfield 145, 3) := dk_180 0 145 (dk_at dksX0_goes_4 1 rfl rfl)
theorem dX0_goes_99 : decode cX0_goes 99 = .ok (.if_icmp .ge 22, 3) := dk_162 0 22 (dk_at dksX0_goes_4 4 rfl rfl)
theorem dX0_goes_102 : decode cX0_goes 102 = .ok (.aload_n 0, 1) := dk_42 (dk_at dksX0_goes_4 7 rfl rfl)
theorem dX0_goes_103 : decode cX0_goes 103 = .ok (.getfield 60, 3) := dk_180 0 60 (dk_at dksX0_goes_4 8 rfl rfl)
theorem dX0_goes_106 : decode cX0_goes 106 = .ok (.aload_n 0, 1) := dk_42 (dk_at dksX0_goes_4 11 rfl rfl)
theorem dX0_goes_107 : decode cX0_goes 107 = .ok (.getfield 136, 3) := dk_180 0 136 (dk_at dksX0_goes_4 12 rfl rfl)
theorem dX0_goes_110 : decode cX0_goes 110 = .ok (.baload, 1) := dk_51 (dk_at dksX0_goes_4 15 rfl rfl)
theorem dX0_goes_111 : decode cX0_goes 111 = .ok (.invokestatic 152, 3) := dk_184 0 152 (dk_at dksX0_goes_4 16 rfl rfl)
theorem dX0_goes_114 : decode cX0_goes 114 = .ok (.ifCond .eq 7, 3) := dk_153 0 7 (dk_at dksX0_goes_4 19 rfl rfl)
theorem dX0_goes_117 : decode cX0_goes 117 = .ok (.iconst 1, 1) := dk_4 (dk_at dksX0_goes_4 22 rfl rfl)
theorem dX0_goes_118 : decode cX0_goes 118 = .ok (.goto 4, 3) := dk_167 0 4 (dk_at dksX0_goes_5 0 rfl rfl)
theorem dX0_goes_121 : decode cX0_goes 121 = .ok (.iconst 0, 1) := dk_3 (dk_at dksX0_goes_5 3 rfl rfl)
theorem dX0_goes_122 : decode cX0_goes 122 = .ok (.istore_n 3, 1) := dk_62 (dk_at dksX0_goes_5 4 rfl rfl)
theorem dX0_goes_123 : decode cX0_goes 123 = .ok (.iload_n 2, 1) := dk_28 (dk_at dksX0_goes_5 5 rfl rfl)
theorem dX0_goes_124 : decode cX0_goes 124 = .ok (.ifCond .eq 42, 3) := dk_153 0 42 (dk_at dksX0_goes_5 6 rfl rfl)
theorem dX0_goes_127 : decode cX0_goes 127 = .ok (.aload_n 0, 1) := dk_42 (dk_at dksX0_goes_5 9 rfl rfl)
theorem dX0_goes_128 : decode cX0_goes 128 = .ok (.getfield 142, 3) := dk_180 0 142 (dk_at dksX0_goes_5 10 rfl rfl)
theorem dX0_goes_131 : decode cX0_goes 131 = .ok (.aload_n 0, 1) := dk_42 (dk_at dksX0_goes_5 13 rfl rfl)
theorem dX0_goes_132 : decode cX0_goes 132 = .ok (.getfield 145, 3) := dk_180 0 145 (dk_at dksX0_goes_5 14 rfl rfl)
theorem dX0_goes_135 : decode cX0_goes 135 = .ok (.if_icmp .ge 95, 3) := dk_162 0 95 (dk_at dksX0_goes_5 17 rfl rfl)
theorem dX0_goes_138 : decode cX0_goes 138 = .ok (.aload_n 0, 1) := dk_42 (dk_at dksX0_goes_5 20 rfl rfl)
theorem dX0_goes_139 : decode cX0_goes 139 = .ok (.getfield 60, 3) := dk_180 0 60 (dk_at dksX0_goes_5 21 rfl rfl)
theorem dX0_goes_142 : decode cX0_goes 142 = .ok (.aload_n 0, 1) := dk_42 (dk_at dksX0_goes_6 0 rfl rfl)
theorem dX0_goes_143 : decode cX0_goes 143 = .ok (.getfield 142, 3) := dk_180 0 142 (dk_at dksX0_goes_6 1 rfl rfl)
theorem dX0_goes_146 : decode cX0_goes 146 = .ok (.baload, 1) := dk_51 (dk_at dksX0_goes_6 4 rfl rfl)
theorem dX0_goes_147 : decode cX0_goes 147 = .ok (.invokestatic 148, 3) := dk_184 0 148 (dk_at dksX0_goes_6 5 rfl rfl)
theorem dX0_goes_150 : decode cX0_goes 150 = .ok (.ifCond .eq 80, 3) := dk_153 0 80 (dk_at dksX0_goes_6 8 rfl rfl)
theorem dX0_goes_153 : decode cX0_goes 153 = .ok (.aload_n 0, 1) := dk_42 (dk_at dksX0_goes_6 11 rfl rfl)
theorem dX0_goes_154 : decode cX0_goes 154 = .ok (.dup, 1) := dk_89 (dk_at dksX0_goes_6 12 rfl rfl)
theorem dX0_goes_155 : decode cX0_goes 155 = .ok (.getfield 142, 3) := dk_180 0 142 (dk_at dksX0_goes_6 13 rfl rfl)
theorem dX0_goes_158 : decode cX0_goes 158 = .ok (.iconst 1, 1) := dk_4 (dk_at dksX0_goes_6 16 rfl rfl)
theorem dX0_goes_159 : decode cX0_goes 159 = .ok (.iadd, 1) := dk_96 (dk_at dksX0_goes_6 17 rfl rfl)
theorem dX0_goes_160 : decode cX0_goes 160 = .ok (.putfield 142, 3) := dk_181 0 142 (dk_at dksX0_goes_6 18 rfl rfl)
theorem dX0_goes_163 : decode cX0_goes 163 = .ok (.goto (-36), 3) := dk_167 255 220 (dk_at dksX0_goes_6 21 rfl rfl)
theorem dX0_goes_166 : decode cX0_goes 166 = .ok (.iload_n 3, 1) := dk_29 (dk_at dksX0_goes_7 0 rfl rfl)
theorem dX0_goes_167 : decode cX0_goes 167 = .ok (.ifCond .eq 42, 3) := dk_153 0 42 (dk_at dksX0_goes_7 1 rfl rfl)
theorem dX0_goes_170 : decode cX0_goes 170 = .ok (.aload_n 0, 1) := dk_42 (dk_at dksX0_goes_7 4 rfl rfl)
theorem dX0_goes_171 : decode cX0_goes 171 = .ok (.getfield 142, 3) := dk_180 0 142 (dk_at dksX0_goes_7 5 rfl rfl)
theorem dX0_goes_174 : decode cX0_goes 174 = .ok (.aload_n 0, 1) := dk_42 (dk_at dksX0_goes_7 8 rfl rfl)
theorem dX0_goes_175 : decode cX0_goes 175 = .ok (.getfield 145, 3) := dk_180 0 145 (dk_at dksX0_goes_7 9 rfl rfl)
theorem dX0_goes_178 : decode cX0_goes 178 = .ok (.if_icmp .ge 52, 3) := dk_162 0 52 (dk_at dksX0_goes_7 12 rfl rfl)
theorem dX0_goes_181 : decode cX0_goes 181 = .ok (.aload_n 0, 1) := dk_42 (dk_at dksX0_goes_7 15 rfl rfl)
theorem dX0_goes_182 : decode cX0_goes 182 = .ok (.getfield 60, 3) := dk_180 0 60 (dk_at dksX0_goes_7 16 rfl rfl)
theorem dX0_goes_185 : decode cX0_goes 185 = .ok (.aload_n 0, 1) := dk_42 (dk_at dksX0_goes_7 19 rfl rfl)
theorem dX0_goes_186 : decode cX0_goes 186 = .ok (.getfield 142, 3) := dk_180 0 142 (dk_at dksX0_goes_7 20 rfl rfl)
theorem dX0_goes_189 : decode cX0_goes 189 = .ok (.baload, 1) := dk_51 (dk_at dksX0_goes_7 23 rfl rfl)
theorem dX0_goes_190 : decode cX0_goes 190 = .ok (.invokestatic 152, 3) := dk_184 0 152 (dk_at dksX0_goes_8 0 rfl rfl)
theorem dX0_goes_193 : decode cX0_goes 193 = .ok (.ifCond .eq 37, 3) := dk_153 0 37 (dk_at dksX0_goes_8 3 rfl rfl)
theorem dX0_goes_196 : decode cX0_goes 196 = .ok (.aload_n 0, 1) := dk_42 (dk_at dksX0_goes_8 6 rfl rfl)
theorem dX0_goes_197 : decode cX0_goes 197 = .ok (.dup, 1) := dk_89 (dk_at dksX0_goes_8 7 rfl rfl)
theorem dX0_goes_198 : decode cX0_goes 198 = .ok (.getfield 142, 3) := dk_180 0 142 (dk_at dksX0_goes_8 8 rfl rfl)
theorem dX0_goes_201 : decode cX0_goes 201 = .ok (.iconst 1, 1) := dk_4 (dk_at dksX0_goes_8 11 rfl rfl)
theorem dX0_goes_202 : decode cX0_goes 202 = .ok (.iadd, 1) := dk_96 (dk_at dksX0_goes_8 12 rfl rfl)
theorem dX0_goes_203 : decode cX0_goes 203 = .ok (.putfield 142, 3) := dk_181 0 142 (dk_at dksX0_goes_8 13 rfl rfl)
theorem dX0_goes_206 : decode cX0_goes 206 = .ok (.goto (-36), 3) := dk_167 255 220 (dk_at dksX0_goes_8 16 rfl rfl)
theorem dX0_goes_209 : decode cX0_goes 209 = .ok (.aload_n 0, 1) := dk_42 (dk_at dksX0_goes_8 19 rfl rfl)
theorem dX0_goes_210 : decode cX0_goes 210 = .ok (.getfield 136, 3) := dk_180 0 136 (dk_at dksX0_goes_8 20 rfl rfl)
theorem dX0_goes_213 : decode cX0_goes 213 = .ok (.aload_n 0, 1) := dk_42 (dk_at dksX0_goes_8 23 rfl rfl)
theorem dX0_goes_214 : decode cX0_goes 214 = .ok (.getfield 145, 3) := dk_180 0 145 (dk_at dksX0_goes_9 0 rfl rfl)
theorem dX0_goes_217 : decode cX0_goes 217 = .ok (.if_icmp .ge 13, 3) := dk_162 0 13 (dk_at dksX0_goes_9 3 rfl rfl)
theorem dX0_goes_220 : decode cX0_goes 220 = .ok (.aload_n 0, 1) := dk_42 (dk_at dksX0_goes_9 6 rfl rfl)
theorem dX0_goes_221 : decode cX0_goes 221 = .ok (.dup, 1) := dk_89 (dk_at dksX0_goes_9 7 rfl rfl)
theorem dX0_goes_222 : decode cX0_goes 222 = .ok (.getfield 142, 3) := dk_180 0 142 (dk_at dksX0_goes_9 8 rfl rfl)
theorem dX0_goes_225 : decode cX0_goes 225 = .ok (.iconst 1, 1) := dk_4 (dk_at dksX0_goes_9 11 rfl rfl)
theorem dX0_goes_226 : decode cX0_goes 226 = .ok (.iadd, 1) := dk_96 (dk_at dksX0_goes_9 12 rfl rfl)
theorem dX0_goes_227 : decode cX0_goes 227 = .ok (.putfield 142, 3) := dk_181 0 142 (dk_at dksX0_goes_9 13 rfl rfl)
theorem dX0_goes_230 : decode cX0_goes 230 = .ok (.aload_n 0, 1) := dk_42 (dk_at dksX0_goes_9 16 rfl rfl)
theorem dX0_goes_231 : decode cX0_goes 231 = .ok (.getfield 136, 3) := dk_180 0 136 (dk_at dksX0_goes_9 17 rfl rfl)
theorem dX0_goes_234 : decode cX0_goes 234 = .ok (.iload_n 1, 1) := dk_27 (dk_at dksX0_goes_9 20 rfl rfl)
theorem dX0_goes_235 : decode cX0_goes 235 = .ok (.if_icmp .ne 39, 3) := dk_160 0 39 (dk_at dksX0_goes_9 21 rfl rfl)
theorem dX0_goes_238 : decode cX0_goes 238 = .ok (.iload_n 1, 1) := dk_27 (dk_at dksX0_goes_10 0 rfl rfl)
theorem dX0_goes_239 : decode cX0_goes 239 = .ok (.ifCond .le 35, 3) := dk_158 0 35 (dk_at dksX0_goes_10 1 rfl rfl)
theorem dX0_goes_242 : decode cX0_goes 242 = .ok (.aload_n 0, 1) := dk_42 (dk_at dksX0_goes_10 4 rfl rfl)
theorem dX0_goes_243 : decode cX0_goes 243 = .ok (.getfield 60, 3) := dk_180 0 60 (dk_at dksX0_goes_10 5 rfl rfl)
theorem dX0_goes_246 : decode cX0_goes 246 = .ok (.iload_n 1, 1) := dk_27 (dk_at dksX0_goes_10 8 rfl rfl)
theorem dX0_goes_247 : decode cX0_goes 247 = .ok (.iconst 1, 1) := dk_4 (dk_at dksX0_goes_10 9 rfl rfl)
theorem dX0_goes_248 : decode cX0_goes 248 = .ok (.isub, 1) := dk_100 (dk_at dksX0_goes_10 10 rfl rfl)
theorem dX0_goes_249 : decode cX0_goes 249 = .ok (.baload, 1) := dk_51 (dk_at dksX0_goes_10 11 rfl rfl)
theorem dX0_goes_250 : decode cX0_goes 250 = .ok (.invokestatic 148, 3) := dk_184 0 148 (dk_at dksX0_goes_10 12 rfl rfl)
theorem dX0_goes_253 : decode cX0_goes 253 = .ok (.ifCond .ne 17, 3) := dk_154 0 17 (dk_at dksX0_goes_10 15 rfl rfl)
theorem dX0_goes_256 : decode cX0_goes 256 = .ok (.aload_n 0, 1) := dk_42 (dk_at dksX0_goes_10 18 rfl rfl)
theorem dX0_goes_257 : decode cX0_goes 257 = .ok (.getfield 60, 3) := dk_180 0 60 (dk_at dksX0_goes_10 19 rfl rfl)
theorem dX0_goes_260 : decode cX0_goes 260 = .ok (.iload_n 1, 1) := dk_27 (dk_at dksX0_goes_10 22 rfl rfl)
theorem dX0_goes_261 : decode cX0_goes 261 = .ok (.iconst 1, 1) := dk_4 (dk_at dksX0_goes_10 23 rfl rfl)
theorem dX0_goes_262 : decode cX0_goes 262 = .ok (.isub, 1) := dk_100 (dk_at dksX0_goes_11 0 rfl rfl)
theorem dX0_goes_263 : decode cX0_goes 263 = .ok (.baload, 1) := dk_51 (dk_at dksX0_goes_11 1 rfl rfl)
theorem dX0_goes_264 : decode cX0_goes 264 = .ok (.invokestatic 152, 3) := dk_184 0 152 (dk_at dksX0_goes_11 2 rfl rfl)
theorem dX0_goes_267 : decode cX0_goes 267 = .ok (.ifCond .eq 7, 3) := dk_153 0 7 (dk_at dksX0_goes_11 5 rfl rfl)
theorem dX0_goes_270 : decode cX0_goes 270 = .ok (.iconst 1, 1) := dk_4 (dk_at dksX0_goes_11 8 rfl rfl)
theorem dX0_goes_271 : decode cX0_goes 271 = .ok (.goto 4, 3) := dk_167 0 4 (dk_at dksX0_goes_11 9 rfl rfl)
theorem dX0_goes_274 : decode cX0_goes 274 = .ok (.iconst 0, 1) := dk_3 (dk_at dksX0_goes_11 12 rfl rfl)
theorem dX0_goes_275 : decode cX0_goes 275 = .ok (.istore 4, 2) := dk_54 4 (dk_at dksX0_goes_11 13 rfl rfl)
theorem dX0_goes_277 : decode cX0_goes 277 = .ok (.iload 4, 2) := dk_21 4 (dk_at dksX0_goes_11 15 rfl rfl)
theorem dX0_goes_279 : decode cX0_goes 279 = .ok (.ifCond .eq 15, 3) := dk_153 0 15 (dk_at dksX0_goes_11 17 rfl rfl)
theorem dX0_goes_282 : decode cX0_goes 282 = .ok (.iload_n 2, 1) := dk_28 (dk_at dksX0_goes_11 20 rfl rfl)
theorem dX0_goes_283 : decode cX0_goes 283 = .ok (.ifCond .ne 7, 3) := dk_154 0 7 (dk_at dksX0_goes_11 21 rfl rfl)
theorem dX0_goes_286 : decode cX0_goes 286 = .ok (.iload_n 3, 1) := dk_29 (dk_at dksX0_goes_12 0 rfl rfl)
theorem dX0_goes_287 : decode cX0_goes 287 = .ok (.ifCond .eq 7, 3) := dk_153 0 7 (dk_at dksX0_goes_12 1 rfl rfl)
theorem dX0_goes_290 : decode cX0_goes 290 = .ok (.aload_n 0, 1) := dk_42 (dk_at dksX0_goes_12 4 rfl rfl)
theorem dX0_goes_291 : decode cX0_goes 291 = .ok (.invokevirtual 155, 3) := dk_182 0 155 (dk_at dksX0_goes_12 5 rfl rfl)
theorem dX0_goes_294 : decode cX0_goes 294 = .ok (.return_, 1) := dk_177 (dk_at dksX0_goes_12 8 rfl rfl)
abbrev cX0_isLetter : ByteArray := prog_1_method_16_code
def yX0_isLetter : MethodName := ⟨RX0, "isLetter", "(I)Z"⟩
def dkwX0_isLetter_0 : List UInt8 := [26, 16, 97, 16, 122, 184, 0, 105, 172]
abbrev dktX0_isLetter_0 : List UInt8 := dkwX0_isLetter_0 ++ []
theorem dksX0_isLetter_0 : cX0_isLetter.data.toList.drop 0 = dktX0_isLetter_0 := by decide +kernel
theorem dX0_isLetter_0 : decode cX0_isLetter 0 = .ok (.iload_n 0, 1) := dk_26 (dk_at dksX0_isLetter_0 0 rfl rfl)
theorem dX0_isLetter_1 : decode cX0_isLetter 1 = .ok (.bipush 97, 2) := dk_16 97 (dk_at dksX0_isLetter_0 1 rfl rfl)
theorem dX0_isLetter_3 : decode cX0_isLetter 3 = .ok (.bipush 122, 2) := dk_16 122 (dk_at dksX0_isLetter_0 3 rfl rfl)
theorem dX0_isLetter_5 : decode cX0_isLetter 5 = .ok (.invokestatic 105, 3) := dk_184 0 105 (dk_at dksX0_isLetter_0 5 rfl rfl)
theorem dX0_isLetter_8 : decode cX0_isLetter 8 = .ok (.ireturn, 1) := dk_172 (dk_at dksX0_isLetter_0 8 rfl rfl)
abbrev cX0_isDigit : ByteArray := prog_1_method_17_code
def yX0_isDigit : MethodName := ⟨RX0, "isDigit", "(I)Z"⟩
def dkwX0_isDigit_0 : List UInt8 := [26, 16, 48, 16, 57, 184, 0, 105, 172]
abbrev dktX0_isDigit_0 : List UInt8 := dkwX0_isDigit_0 ++ []
theorem dksX0_isDigit_0 : cX0_isDigit.data.toList.drop 0 = dktX0_isDigit_0 := by decide +kernel
theorem dX0_isDigit_0 : decode cX0_isDigit 0 = .ok (.iload_n 0, 1) := dk_26 (dk_at dksX0_isDigit_0 0 rfl rfl)
theorem dX0_isDigit_1 : decode cX0_isDigit 1 = .ok (.bipush 48, 2) := dk_16 48 (dk_at dksX0_isDigit_0 1 rfl rfl)
theorem dX0_isDigit_3 : decode cX0_isDigit 3 = .ok (.bipush 57, 2) := dk_16 57 (dk_at dksX0_isDigit_0 3 rfl rfl)
theorem dX0_isDigit_5 : decode cX0_isDigit 5 = .ok (.invokestatic 105, 3) := dk_184 0 105 (dk_at dksX0_isDigit_0 5 rfl rfl)
theorem dX0_isDigit_8 : decode cX0_isDigit 8 = .ok (.ireturn, 1) := dk_172 (dk_at dksX0_isDigit_0 8 rfl rfl)
abbrev cX0_wrong : ByteArray := prog_1_method_15_code
def yX0_wrong : MethodName := ⟨RX0, "wrong", "()V"⟩
def dkwX0_wrong_0 : List UInt8 := [42, 180, 0, 67, 42, 180, 0, 136, 181, 0, 139, 42, 180, 0, 67, 191]
abbrev dktX0_wrong_0 : List UInt8 := dkwX0_wrong_0 ++ []
theorem dksX0_wrong_0 : cX0_wrong.data.toList.drop 0 = dktX0_wrong_0 := by decide +kernel
theorem dX0_wrong_0 : decode cX0_wrong 0 = .ok (.aload_n 0, 1) := dk_42 (dk_at dksX0_wrong_0 0 rfl rfl)
theorem dX0_wrong_1 : decode cX0_wrong 1 = .ok (.getfield 67, 3) := dk_180 0 67 (dk_at dksX0_wrong_0 1 rfl rfl)
theorem dX0_wrong_4 : decode cX0_wrong 4 = .ok (.aload_n 0, 1) := dk_42 (dk_at dksX0_wrong_0 4 rfl rfl)
theorem dX0_wrong_5 : decode cX0_wrong 5 = .ok (.getfield 136, 3) := dk_180 0 136 (dk_at dksX0_wrong_0 5 rfl rfl)
theorem dX0_wrong_8 : decode cX0_wrong 8 = .ok (.putfield 139, 3) := dk_181 0 139 (dk_at dksX0_wrong_0 8 rfl rfl)
theorem dX0_wrong_11 : decode cX0_wrong 11 = .ok (.aload_n 0, 1) := dk_42 (dk_at dksX0_wrong_0 11 rfl rfl)
theorem dX0_wrong_12 : decode cX0_wrong 12 = .ok (.getfield 67, 3) := dk_180 0 67 (dk_at dksX0_wrong_0 12 rfl rfl)
theorem dX0_wrong_15 : decode cX0_wrong 15 = .ok (.athrow, 1) := dk_191 (dk_at dksX0_wrong_0 15 rfl rfl)
abbrev cX0_key : ByteArray := prog_1_method_30_code
def yX0_key : MethodName := ⟨RX0, "key", "()I"⟩
def dkwX0_key_2 : List UInt8 := [182, 0, 155, 42, 182, 0, 168, 27, 172]
abbrev dktX0_key_2 : List UInt8 := dkwX0_key_2 ++ []
def dkwX0_key_1 : List UInt8 := [167, 0, 17, 42, 18, 224, 182, 0, 218, 153, 0, 7, 5, 167, 0, 4, 2, 60, 27, 2, 160, 0, 7, 42]
abbrev dktX0_key_1 : List UInt8 := dkwX0_key_1 ++ dktX0_key_2
def dkwX0_key_0 : List UInt8 := [42, 18, 216, 182, 0, 218, 153, 0, 7, 3, 167, 0, 30, 42, 18, 222, 182, 0, 218, 153, 0, 7, 4]
abbrev dktX0_key_0 : List UInt8 := dkwX0_key_0 ++ dktX0_key_1
theorem dksX0_key_0 : cX0_key.data.toList.drop 0 = dktX0_key_0 := by decide +kernel
theorem dksX0_key_1 : cX0_key.data.toList.drop 23 = dktX0_key_1 := dk_seg dksX0_key_0 23 rfl rfl
theorem dksX0_key_2 : cX0_key.data.toList.drop 47 = dktX0_key_2 := dk_seg dksX0_key_1 24 rfl rfl
theorem dX0_key_0 : decode cX0_key 0 = .ok (.aload_n 0, 1) := dk_42 (dk_at dksX0_key_0 0 rfl rfl)
theorem dX0_key_1 : decode cX0_key 1 = .ok (.ldc 216, 2) := dk_18 216 (dk_at dksX0_key_0 1 rfl rfl)
theorem dX0_key_3 : decode cX0_key 3 = .ok (.invokevirtual 218, 3) := dk_182 0 218 (dk_at dksX0_key_0 3 rfl rfl)
theorem dX0_key_6 : decode cX0_key 6 = .ok (.ifCond .eq 7, 3) := dk_153 0 7 (dk_at dksX0_key_0 6 rfl rfl)
theorem dX0_key_9 : decode cX0_key 9 = .ok (.iconst 0, 1) := dk_3 (dk_at dksX0_key_0 9 rfl rfl)
theorem dX0_key_10 : decode cX0_key 10 = .ok (.goto 30, 3) := dk_167 0 30 (dk_at dksX0_key_0 10 rfl rfl)
theorem dX0_key_13 : decode cX0_key 13 = .ok (.aload_n 0, 1) := dk_42 (dk_at dksX0_key_0 13 rfl rfl)
theorem dX0_key_14 : decode cX0_key 14 = .ok (.ldc 222, 2) := dk_18 222 (dk_at dksX0_key_0 14 rfl rfl)
theorem dX0_key_16 : decode cX0_key 16 = .ok (.invokevirtual 218, 3) := dk_182 0 218 (dk_at dksX0_key_0 16 rfl rfl)
theorem dX0_key_19 : decode cX0_key 19 = .ok (.ifCond .eq 7, 3) := dk_153 0 7 (dk_at dksX0_key_0 19 rfl rfl)
theorem dX0_key_22 : decode cX0_key 22 = .ok (.iconst 1, 1) := dk_4 (dk_at dksX0_key_0 22 rfl rfl)
theorem dX0_key_23 : decode cX0_key 23 = .ok (.goto 17, 3) := dk_167 0 17 (dk_at dksX0_key_1 0 rfl rfl)
theorem dX0_key_26 : decode cX0_key 26 = .ok (.aload_n 0, 1) := dk_42 (dk_at dksX0_key_1 3 rfl rfl)
theorem dX0_key_27 : decode cX0_key 27 = .ok (.ldc 224, 2) := dk_18 224 (dk_at dksX0_key_1 4 rfl rfl)
theorem dX0_key_29 : decode cX0_key 29 = .ok (.invokevirtual 218, 3) := dk_182 0 218 (dk_at dksX0_key_1 6 rfl rfl)
theorem dX0_key_32 : decode cX0_key 32 = .ok (.ifCond .eq 7, 3) := dk_153 0 7 (dk_at dksX0_key_1 9 rfl rfl)
theorem dX0_key_35 : decode cX0_key 35 = .ok (.iconst 2, 1) := dk_5 (dk_at dksX0_key_1 12 rfl rfl)
theorem dX0_key_36 : decode cX0_key 36 = .ok (.goto 4, 3) := dk_167 0 4 (dk_at dksX0_key_1 13 rfl rfl)
theorem dX0_key_39 : decode cX0_key 39 = .ok (.iconst (-1), 1) := dk_2 (dk_at dksX0_key_1 16 rfl rfl)
theorem dX0_key_40 : decode cX0_key 40 = .ok (.istore_n 1, 1) := dk_60 (dk_at dksX0_key_1 17 rfl rfl)
theorem dX0_key_41 : decode cX0_key 41 = .ok (.iload_n 1, 1) := dk_27 (dk_at dksX0_key_1 18 rfl rfl)
theorem dX0_key_42 : decode cX0_key 42 = .ok (.iconst (-1), 1) := dk_2 (dk_at dksX0_key_1 19 rfl rfl)
theorem dX0_key_43 : decode cX0_key 43 = .ok (.if_icmp .ne 7, 3) := dk_160 0 7 (dk_at dksX0_key_1 20 rfl rfl)
theorem dX0_key_46 : decode cX0_key 46 = .ok (.aload_n 0, 1) := dk_42 (dk_at dksX0_key_1 23 rfl rfl)
theorem dX0_key_47 : decode cX0_key 47 = .ok (.invokevirtual 155, 3) := dk_182 0 155 (dk_at dksX0_key_2 0 rfl rfl)
theorem dX0_key_50 : decode cX0_key 50 = .ok (.aload_n 0, 1) := dk_42 (dk_at dksX0_key_2 3 rfl rfl)
theorem dX0_key_51 : decode cX0_key 51 = .ok (.invokevirtual 168, 3) := dk_182 0 168 (dk_at dksX0_key_2 4 rfl rfl)
theorem dX0_key_54 : decode cX0_key 54 = .ok (.iload_n 1, 1) := dk_27 (dk_at dksX0_key_2 7 rfl rfl)
theorem dX0_key_55 : decode cX0_key 55 = .ok (.ireturn, 1) := dk_172 (dk_at dksX0_key_2 8 rfl rfl)
abbrev cX0_isWord : ByteArray := prog_1_method_19_code
def yX0_isWord : MethodName := ⟨RX0, "isWord", "(Ljava/lang/String;)Z"⟩
def dkwX0_isWord_2 : List UInt8 := [29, 182, 0, 164, 160, 0, 7, 4, 167, 0, 4, 3, 61, 132, 3, 1, 167, 255, 216, 28, 172]
abbrev dktX0_isWord_2 : List UInt8 := dkwX0_isWord_2 ++ []
def dkwX0_isWord_1 : List UInt8 := [29, 43, 182, 0, 158, 162, 0, 38, 28, 153, 0, 34, 42, 180, 0, 60, 42, 180, 0, 136, 29, 96, 51, 43]
abbrev dktX0_isWord_1 : List UInt8 := dkwX0_isWord_1 ++ dktX0_isWord_2
def dkwX0_isWord_0 : List UInt8 := [42, 180, 0, 142, 42, 180, 0, 136, 100, 43, 182, 0, 158, 160, 0, 7, 4, 167, 0, 4, 3, 61, 3, 62]
abbrev dktX0_isWord_0 : List UInt8 := dkwX0_isWord_0 ++ dktX0_isWord_1
theorem dksX0_isWord_0 : cX0_isWord.data.toList.drop 0 = dktX0_isWord_0 := by decide +kernel
theorem dksX0_isWord_1 : cX0_isWord.data.toList.drop 24 = dktX0_isWord_1 := dk_seg dksX0_isWord_0 24 rfl rfl
theorem dksX0_isWord_2 : cX0_isWord.data.toList.drop 48 = dktX0_isWord_2 := dk_seg dksX0_isWord_1 24 rfl rfl
theorem dX0_isWord_0 : decode cX0_isWord 0 = .ok (.aload_n 0, 1) := dk_42 (dk_at dksX0_isWord_0 0 rfl rfl)
theorem dX0_isWord_1 : decode cX0_isWord 1 = .ok (.getfield 142, 3) := dk_180 0 142 (dk_at dksX0_isWord_0 1 rfl rfl)
theorem dX0_isWord_4 : decode cX0_isWord 4 = .ok (.aload_n 0, 1) := dk_42 (dk_at dksX0_isWord_0 4 rfl rfl)
theorem dX0_isWord_5 : decode cX0_isWord 5 = .ok (.getfield 136, 3) := dk_180 0 136 (dk_at dksX0_isWord_0 5 rfl rfl)
theorem dX0_isWord_8 : decode cX0_isWord 8 = .ok (.isub, 1) := dk_100 (dk_at dksX0_isWord_0 8 rfl rfl)
theorem dX0_isWord_9 : decode cX0_isWord 9 = .ok (.aload_n 1, 1) := dk_43 (dk_at dksX0_isWord_0 9 rfl rfl)
theorem dX0_isWord_10 : decode cX0_isWord 10 = .ok (.invokevirtual 158, 3) := dk_182 0 158 (dk_at dksX0_isWord_0 10 rfl rfl)
theorem dX0_isWord_13 : decode cX0_isWord 13 = .ok (.if_icmp .ne 7, 3) := dk_160 0 7 (dk_at dksX0_isWord_0 13 rfl rfl)
theorem dX0_isWord_16 : decode cX0_isWord 16 = .ok (.iconst 1, 1) := dk_4 (dk_at dksX0_isWord_0 16 rfl rfl)
theorem dX0_isWord_17 : decode cX0_isWord 17 = .ok (.goto 4, 3) := dk_167 0 4 (dk_at dksX0_isWord_0 17 rfl rfl)
theorem dX0_isWord_20 : decode cX0_isWord 20 = .ok (.iconst 0, 1) := dk_3 (dk_at dksX0_isWord_0 20 rfl rfl)
theorem dX0_isWord_21 : decode cX0_isWord 21 = .ok (.istore_n 2, 1) := dk_61 (dk_at dksX0_isWord_0 21 rfl rfl)
theorem dX0_isWord_22 : decode cX0_isWord 22 = .ok (.iconst 0, 1) := dk_3 (dk_at dksX0_isWord_0 22 rfl rfl)
theorem dX0_isWord_23 : decode cX0_isWord 23 = .ok (.istore_n 3, 1) := dk_62 (dk_at dksX0_isWord_0 23 rfl rfl)
theorem dX0_isWord_24 : decode cX0_isWord 24 = .ok (.iload_n 3, 1) := dk_29 (dk_at dksX0_isWord_1 0 rfl rfl)
theorem dX0_isWord_25 : decode cX0_isWord 25 = .ok (.aload_n 1, 1) := dk_43 (dk_at dksX0_isWord_1 1 rfl rfl)
theorem dX0_isWord_26 : decode cX0_isWord 26 = .ok (.invokevirtual 158, 3) := dk_182 0 158 (dk_at dksX0_isWord_1 2 rfl rfl)
theorem dX0_isWord_29 : decode cX0_isWord 29 = .ok (.if_icmp .ge 38, 3) := dk_162 0 38 (dk_at dksX0_isWord_1 5 rfl rfl)
theorem dX0_isWord_32 : decode cX0_isWord 32 = .ok (.iload_n 2, 1) := dk_28 (dk_at dksX0_isWord_1 8 rfl rfl)
theorem dX0_isWord_33 : decode cX0_isWord 33 = .ok (.ifCond .eq 34, 3) := dk_153 0 34 (dk_at dksX0_isWord_1 9 rfl rfl)
theorem dX0_isWord_36 : decode cX0_isWord 36 = .ok (.aload_n 0, 1) := dk_42 (dk_at dksX0_isWord_1 12 rfl rfl)
theorem dX0_isWord_37 : decode cX0_isWord 37 = .ok (.getfield 60, 3) := dk_180 0 60 (dk_at dksX0_isWord_1 13 rfl rfl)
theorem dX0_isWord_40 : decode cX0_isWord 40 = .ok (.aload_n 0, 1) := dk_42 (dk_at dksX0_isWord_1 16 rfl rfl)
theorem dX0_isWord_41 : decode cX0_isWord 41 = .ok (.getfield 136, 3) := dk_180 0 136 (dk_at dksX0_isWord_1 17 rfl rfl)
theorem dX0_isWord_44 : decode cX0_isWord 44 = .ok (.iload_n 3, 1) := dk_29 (dk_at dksX0_isWord_1 20 rfl rfl)
theorem dX0_isWord_45 : decode cX0_isWord 45 = .ok (.iadd, 1) := dk_96 (dk_at dksX0_isWord_1 21 rfl rfl)
theorem dX0_isWord_46 : decode cX0_isWord 46 = .ok (.baload, 1) := dk_51 (dk_at dksX0_isWord_1 22 rfl rfl)
theorem dX0_isWord_47 : decode cX0_isWord 47 = .ok (.aload_n 1, 1) := dk_43 (dk_at dksX0_isWord_1 23 rfl rfl)
theorem dX0_isWord_48 : decode cX0_isWord 48 = .ok (.iload_n 3, 1) := dk_29 (dk_at dksX0_isWord_2 0 rfl rfl)
theorem dX0_isWord_49 : decode cX0_isWord 49 = .ok (.invokevirtual 164, 3) := dk_182 0 164 (dk_at dksX0_isWord_2 1 rfl rfl)
theorem dX0_isWord_52 : decode cX0_isWord 52 = .ok (.if_icmp .ne 7, 3) := dk_160 0 7 (dk_at dksX0_isWord_2 4 rfl rfl)
theorem dX0_isWord_55 : decode cX0_isWord 55 = .ok (.iconst 1, 1) := dk_4 (dk_at dksX0_isWord_2 7 rfl rfl)
theorem dX0_isWord_56 : decode cX0_isWord 56 = .ok (.goto 4, 3) := dk_167 0 4 (dk_at dksX0_isWord_2 8 rfl rfl)
theorem dX0_isWord_59 : decode cX0_isWord 59 = .ok (.iconst 0, 1) := dk_3 (dk_at dksX0_isWord_2 11 rfl rfl)
theorem dX0_isWord_60 : decode cX0_isWord 60 = .ok (.istore_n 2, 1) := dk_61 (dk_at dksX0_isWord_2 12 rfl rfl)
theorem dX0_isWord_61 : decode cX0_isWord 61 = .ok (.iinc 3 1, 3) := dk_132 3 1 (dk_at dksX0_isWord_2 13 rfl rfl)
theorem dX0_isWord_64 : decode cX0_isWord 64 = .ok (.goto (-40), 3) := dk_167 255 216 (dk_at dksX0_isWord_2 16 rfl rfl)
theorem dX0_isWord_67 : decode cX0_isWord 67 = .ok (.iload_n 2, 1) := dk_28 (dk_at dksX0_isWord_2 19 rfl rfl)
theorem dX0_isWord_68 : decode cX0_isWord 68 = .ok (.ireturn, 1) := dk_172 (dk_at dksX0_isWord_2 20 rfl rfl)
abbrev cX0_expression : ByteArray := prog_1_method_22_code
def yX0_expression : MethodName := ⟨RX0, "expression", "()LNeverSaid$Words;"⟩
def dkwX0_expression_0 : List UInt8 := [187, 0, 113, 89, 183, 0, 171, 76, 42, 43, 182, 0, 172, 43, 176]
abbrev dktX0_expression_0 : List UInt8 := dkwX0_expression_0 ++ []
theorem dksX0_expression_0 : cX0_expression.data.toList.drop 0 = dktX0_expression_0 := by decide +kernel
theorem dX0_expression_0 : decode cX0_expression 0 = .ok (.new 113, 3) := dk_187 0 113 (dk_at dksX0_expression_0 0 rfl rfl)
theorem dX0_expression_3 : decode cX0_expression 3 = .ok (.dup, 1) := dk_89 (dk_at dksX0_expression_0 3 rfl rfl)
theorem dX0_expression_4 : decode cX0_expression 4 = .ok (.invokespecial 171, 3) := dk_183 0 171 (dk_at dksX0_expression_0 4 rfl rfl)
theorem dX0_expression_7 : decode cX0_expression 7 = .ok (.astore_n 1, 1) := dk_76 (dk_at dksX0_expression_0 7 rfl rfl)
theorem dX0_expression_8 : decode cX0_expression 8 = .ok (.aload_n 0, 1) := dk_42 (dk_at dksX0_expression_0 8 rfl rfl)
theorem dX0_expression_9 : decode cX0_expression 9 = .ok (.aload_n 1, 1) := dk_43 (dk_at dksX0_expression_0 9 rfl rfl)
theorem dX0_expression_10 : decode cX0_expression 10 = .ok (.invokevirtual 172, 3) := dk_182 0 172 (dk_at dksX0_expression_0 10 rfl rfl)
theorem dX0_expression_13 : decode cX0_expression 13 = .ok (.aload_n 1, 1) := dk_43 (dk_at dksX0_expression_0 13 rfl rfl)
theorem dX0_expression_14 : decode cX0_expression 14 = .ok (.areturn, 1) := dk_176 (dk_at dksX0_expression_0 14 rfl rfl)
abbrev cX0_or : ByteArray := prog_1_method_23_code
def yX0_or : MethodName := ⟨RX0, "or", "(LNeverSaid$Words;)V"⟩
def dkwX0_or_1 : List UInt8 := [16, 11, 3, 182, 0, 182, 167, 255, 231, 177]
abbrev dktX0_or_1 : List UInt8 := dkwX0_or_1 ++ []
def dkwX0_or_0 : List UInt8 := [42, 43, 182, 0, 176, 42, 16, 124, 182, 0, 179, 153, 0, 22, 42, 182, 0, 168, 42, 43, 182, 0, 176, 43]
abbrev dktX0_or_0 : List UInt8 := dkwX0_or_0 ++ dktX0_or_1
theorem dksX0_or_0 : cX0_or.data.toList.drop 0 = dktX0_or_0 := by decide +kernel
theorem dksX0_or_1 : cX0_or.data.toList.drop 24 = dktX0_or_1 := dk_seg dksX0_or_0 24 rfl rfl
theorem dX0_or_0 : decode cX0_or 0 = .ok (.aload_n 0, 1) := dk_42 (dk_at dksX0_or_0 0 rfl rfl)
theorem dX0_or_1 : decode cX0_or 1 = .ok (.aload_n 1, 1) := dk_43 (dk_at dksX0_or_0 1 rfl rfl)
theorem dX0_or_2 : decode cX0_or 2 = .ok (.invokevirtual 176, 3) := dk_182 0 176 (dk_at dksX0_or_0 2 rfl rfl)
theorem dX0_or_5 : decode cX0_or 5 = .ok (.aload_n 0, 1) := dk_42 (dk_at dksX0_or_0 5 rfl rfl)
theorem dX0_or_6 : decode cX0_or 6 = .ok (.bipush 124, 2) := dk_16 124 (dk_at dksX0_or_0 6 rfl rfl)
theorem dX0_or_8 : decode cX0_or 8 = .ok (.invokevirtual 179, 3) := dk_182 0 179 (dk_at dksX0_or_0 8 rfl rfl)
theorem dX0_or_11 : decode cX0_or 11 = .ok (.ifCond .eq 22, 3) := dk_153 0 22 (dk_at dksX0_or_0 11 rfl rfl)
theorem dX0_or_14 : decode cX0_or 14 = .ok (.aload_n 0, 1) := dk_42 (dk_at dksX0_or_0 14 rfl rfl)
theorem dX0_or_15 : decode cX0_or 15 = .ok (.invokevirtual 168, 3) := dk_182 0 168 (dk_at dksX0_or_0 15 rfl rfl)
theorem dX0_or_18 : decode cX0_or 18 = .ok (.aload_n 0, 1) := dk_42 (dk_at dksX0_or_0 18 rfl rfl)
theorem dX0_or_19 : decode cX0_or 19 = .ok (.aload_n 1, 1) := dk_43 (dk_at dksX0_or_0 19 rfl rfl)
theorem dX0_or_20 : decode cX0_or 20 = .ok (.invokevirtual 176, 3) := dk_182 0 176 (dk_at dksX0_or_0 20 rfl rfl)
theorem dX0_or_23 : decode cX0_or 23 = .ok (.aload_n 1, 1) := dk_43 (dk_at dksX0_or_0 23 rfl rfl)
theorem dX0_or_24 : decode cX0_or 24 = .ok (.bipush 11, 2) := dk_16 11 (dk_at dksX0_or_1 0 rfl rfl)
theorem dX0_or_26 : decode cX0_or 26 = .ok (.iconst 0, 1) := dk_3 (dk_at dksX0_or_1 2 rfl rfl)
theorem dX0_or_27 : decode cX0_or 27 = .ok (.invokevirtual 182, 3) := dk_182 0 182 (dk_at dksX0_or_1 3 rfl rfl)
theorem dX0_or_30 : decode cX0_or 30 = .ok (.goto (-25), 3) := dk_167 255 231 (dk_at dksX0_or_1 6 rfl rfl)
theorem dX0_or_33 : decode cX0_or 33 = .ok (.return_, 1) := dk_177 (dk_at dksX0_or_1 9 rfl rfl)
abbrev cX0_and : ByteArray := prog_1_method_24_code
def yX0_and : MethodName := ⟨RX0, "and", "(LNeverSaid$Words;)V"⟩
def dkwX0_and_1 : List UInt8 := [16, 10, 3, 182, 0, 182, 167, 255, 231, 177]
abbrev dktX0_and_1 : List UInt8 := dkwX0_and_1 ++ []
def dkwX0_and_0 : List UInt8 := [42, 43, 182, 0, 186, 42, 16, 38, 182, 0, 179, 153, 0, 22, 42, 182, 0, 168, 42, 43, 182, 0, 186, 43]
abbrev dktX0_and_0 : List UInt8 := dkwX0_and_0 ++ dktX0_and_1
theorem dksX0_and_0 : cX0_and.data.toList.drop 0 = dktX0_and_0 := by decide +kernel
theorem dksX0_and_1 : cX0_and.data.toList.drop 24 = dktX0_and_1 := dk_seg dksX0_and_0 24 rfl rfl
theorem dX0_and_0 : decode cX0_and 0 = .ok (.aload_n 0, 1) := dk_42 (dk_at dksX0_and_0 0 rfl rfl)
theorem dX0_and_1 : decode cX0_and 1 = .ok (.aload_n 1, 1) := dk_43 (dk_at dksX0_and_0 1 rfl rfl)
theorem dX0_and_2 : decode cX0_and 2 = .ok (.invokevirtual 186, 3) := dk_182 0 186 (dk_at dksX0_and_0 2 rfl rfl)
theorem dX0_and_5 : decode cX0_and 5 = .ok (.aload_n 0, 1) := dk_42 (dk_at dksX0_and_0 5 rfl rfl)
theorem dX0_and_6 : decode cX0_and 6 = .ok (.bipush 38, 2) := dk_16 38 (dk_at dksX0_and_0 6 rfl rfl)
theorem dX0_and_8 : decode cX0_and 8 = .ok (.invokevirtual 179, 3) := dk_182 0 179 (dk_at dksX0_and_0 8 rfl rfl)
theorem dX0_and_11 : decode cX0_and 11 = .ok (.ifCond .eq 22, 3) := dk_153 0 22 (dk_at dksX0_and_0 11 rfl rfl)
theorem dX0_and_14 : decode cX0_and 14 = .ok (.aload_n 0, 1) := dk_42 (dk_at dksX0_and_0 14 rfl rfl)
theorem dX0_and_15 : decode cX0_and 15 = .ok (.invokevirtual 168, 3) := dk_182 0 168 (dk_at dksX0_and_0 15 rfl rfl)
theorem dX0_and_18 : decode cX0_and 18 = .ok (.aload_n 0, 1) := dk_42 (dk_at dksX0_and_0 18 rfl rfl)
theorem dX0_and_19 : decode cX0_and 19 = .ok (.aload_n 1, 1) := dk_43 (dk_at dksX0_and_0 19 rfl rfl)
theorem dX0_and_20 : decode cX0_and 20 = .ok (.invokevirtual 186, 3) := dk_182 0 186 (dk_at dksX0_and_0 20 rfl rfl)
theorem dX0_and_23 : decode cX0_and 23 = .ok (.aload_n 1, 1) := dk_43 (dk_at dksX0_and_0 23 rfl rfl)
theorem dX0_and_24 : decode cX0_and 24 = .ok (.bipush 10, 2) := dk_16 10 (dk_at dksX0_and_1 0 rfl rfl)
theorem dX0_and_26 : decode cX0_and 26 = .ok (.iconst 0, 1) := dk_3 (dk_at dksX0_and_1 2 rfl rfl)
theorem dX0_and_27 : decode cX0_and 27 = .ok (.invokevirtual 182, 3) := dk_182 0 182 (dk_at dksX0_and_1 3 rfl rfl)
theorem dX0_and_30 : decode cX0_and 30 = .ok (.goto (-25), 3) := dk_167 255 231 (dk_at dksX0_and_1 6 rfl rfl)
theorem dX0_and_33 : decode cX0_and 33 = .ok (.return_, 1) := dk_177 (dk_at dksX0_and_1 9 rfl rfl)
abbrev cX0_test : ByteArray := prog_1_method_25_code
def yX0_test : MethodName := ⟨RX0, "test", "(LNeverSaid$Words;)V"⟩
def dkwX0_test_3 : List UInt8 := [177]
abbrev dktX0_test_3 : List UInt8 := dkwX0_test_3 ++ []
def dkwX0_test_2 : List UInt8 := [167, 0, 4, 3, 61, 28, 153, 0, 18, 42, 182, 0, 168, 42, 43, 182, 0, 189, 43, 28, 3, 182, 0, 182]
abbrev dktX0_test_2 : List UInt8 := dkwX0_test_2 ++ dktX0_test_3
def dkwX0_test_1 : List UInt8 := [182, 0, 179, 153, 0, 8, 16, 8, 167, 0, 18, 42, 16, 62, 182, 0, 179, 153, 0, 8, 16, 9]
abbrev dktX0_test_1 : List UInt8 := dkwX0_test_1 ++ dktX0_test_2
def dkwX0_test_0 : List UInt8 := [42, 43, 182, 0, 189, 42, 16, 60, 182, 0, 179, 153, 0, 8, 16, 7, 167, 0, 32, 42, 16, 61]
abbrev dktX0_test_0 : List UInt8 := dkwX0_test_0 ++ dktX0_test_1
theorem dksX0_test_0 : cX0_test.data.toList.drop 0 = dktX0_test_0 := by decide +kernel
theorem dksX0_test_1 : cX0_test.data.toList.drop 22 = dktX0_test_1 := dk_seg dksX0_test_0 22 rfl rfl
theorem dksX0_test_2 : cX0_test.data.toList.drop 44 = dktX0_test_2 := dk_seg dksX0_test_1 22 rfl rfl
theorem dksX0_test_3 : cX0_test.data.toList.drop 68 = dktX0_test_3 := dk_seg dksX0_test_2 24 rfl rfl
theorem dX0_test_0 : decode cX0_test 0 = .ok (.aload_n 0, 1) := dk_42 (dk_at dksX0_test_0 0 rfl rfl)
theorem dX0_test_1 : decode cX0_test 1 = .ok (.aload_n 1, 1) := dk_43 (dk_at dksX0_test_0 1 rfl rfl)
theorem dX0_test_2 : decode cX0_test 2 = .ok (.invokevirtual 189, 3) := dk_182 0 189 (dk_at dksX0_test_0 2 rfl rfl)
theorem dX0_test_5 : decode cX0_test 5 = .ok (.aload_n 0, 1) := dk_42 (dk_at dksX0_test_0 5 rfl rfl)
theorem dX0_test_6 : decode cX0_test 6 = .ok (.bipush 60, 2) := dk_16 60 (dk_at dksX0_test_0 6 rfl rfl)
theorem dX0_test_8 : decode cX0_test 8 = .ok (.invokevirtual 179, 3) := dk_182 0 179 (dk_at dksX0_test_0 8 rfl rfl)
theorem dX0_test_11 : decode cX0_test 11 = .ok (.ifCond .eq 8, 3) := dk_153 0 8 (dk_at dksX0_test_0 11 rfl rfl)
theorem dX0_test_14 : decode cX0_test 14 = .ok (.bipush 7, 2) := dk_16 7 (dk_at dksX0_test_0 14 rfl rfl)
theorem dX0_test_16 : decode cX0_test 16 = .ok (.goto 32, 3) := dk_167 0 32 (dk_at dksX0_test_0 16 rfl rfl)
theorem dX0_test_19 : decode cX0_test 19 = .ok (.aload_n 0, 1) := dk_42 (dk_at dksX0_test_0 19 rfl rfl)
theorem dX0_test_20 : decode cX0_test 20 = .ok (.bipush 61, 2) := dk_16 61 (dk_at dksX0_test_0 20 rfl rfl)
theorem dX0_test_22 : decode cX0_test 22 = .ok (.invokevirtual 179, 3) := dk_182 0 179 (dk_at dksX0_test_1 0 rfl rfl)
theorem dX0_test_25 : decode cX0_test 25 = .ok (.ifCond .eq 8, 3) := dk_153 0 8 (dk_at dksX0_test_1 3 rfl rfl)
theorem dX0_test_28 : decode cX0_test 28 = .ok (.bipush 8, 2) := dk_16 8 (dk_at dksX0_test_1 6 rfl rfl)
theorem dX0_test_30 : decode cX0_test 30 = .ok (.goto 18, 3) := dk_167 0 18 (dk_at dksX0_test_1 8 rfl rfl)
theorem dX0_test_33 : decode cX0_test 33 = .ok (.aload_n 0, 1) := dk_42 (dk_at dksX0_test_1 11 rfl rfl)
theorem dX0_test_34 : decode cX0_test 34 = .ok (.bipush 62, 2) := dk_16 62 (dk_at dksX0_test_1 12 rfl rfl)
theorem dX0_test_36 : decode cX0_test 36 = .ok (.invokevirtual 179, 3) := dk_182 0 179 (dk_at dksX0_test_1 14 rfl rfl)
theorem dX0_test_39 : decode cX0_test 39 = .ok (.ifCond .eq 8, 3) := dk_153 0 8 (dk_at dksX0_test_1 17 rfl rfl)
theorem dX0_test_42 : decode cX0_test 42 = .ok (.bipush 9, 2) := dk_16 9 (dk_at dksX0_test_1 20 rfl rfl)
theorem dX0_test_44 : decode cX0_test 44 = .ok (.goto 4, 3) := dk_167 0 4 (dk_at dksX0_test_2 0 rfl rfl)
theorem dX0_test_47 : decode cX0_test 47 = .ok (.iconst 0, 1) := dk_3 (dk_at dksX0_test_2 3 rfl rfl)
theorem dX0_test_48 : decode cX0_test 48 = .ok (.istore_n 2, 1) := dk_61 (dk_at dksX0_test_2 4 rfl rfl)
theorem dX0_test_49 : decode cX0_test 49 = .ok (.iload_n 2, 1) := dk_28 (dk_at dksX0_test_2 5 rfl rfl)
theorem dX0_test_50 : decode cX0_test 50 = .ok (.ifCond .eq 18, 3) := dk_153 0 18 (dk_at dksX0_test_2 6 rfl rfl)
theorem dX0_test_53 : decode cX0_test 53 = .ok (.aload_n 0, 1) := dk_42 (dk_at dksX0_test_2 9 rfl rfl)
theorem dX0_test_54 : decode cX0_test 54 = .ok (.invokevirtual 168, 3) := dk_182 0 168 (dk_at dksX0_test_2 10 rfl rfl)
theorem dX0_test_57 : decode cX0_test 57 = .ok (.aload_n 0, 1) := dk_42 (dk_at dksX0_test_2 13 rfl rfl)
theorem dX0_test_58 : decode cX0_test 58 = .ok (.aload_n 1, 1) := dk_43 (dk_at dksX0_test_2 14 rfl rfl)
theorem dX0_test_59 : decode cX0_test 59 = .ok (.invokevirtual 189, 3) := dk_182 0 189 (dk_at dksX0_test_2 15 rfl rfl)
theorem dX0_test_62 : decode cX0_test 62 = .ok (.aload_n 1, 1) := dk_43 (dk_at dksX0_test_2 18 rfl rfl)
theorem dX0_test_63 : decode cX0_test 63 = .ok (.iload_n 2, 1) := dk_28 (dk_at dksX0_test_2 19 rfl rfl)
theorem dX0_test_64 : decode cX0_test 64 = .ok (.iconst 0, 1) := dk_3 (dk_at dksX0_test_2 20 rfl rfl)
theorem dX0_test_65 : decode cX0_test 65 = .ok (.invokevirtual 182, 3) := dk_182 0 182 (dk_at dksX0_test_2 21 rfl rfl)
theorem dX0_test_68 : decode cX0_test 68 = .ok (.return_, 1) := dk_177 (dk_at dksX0_test_3 0 rfl rfl)
abbrev cX0_sum : ByteArray := prog_1_method_26_code
def yX0_sum : MethodName := ⟨RX0, "sum", "(LNeverSaid$Words;)V"⟩
def dkwX0_sum_2 : List UInt8 := [43, 28, 3, 182, 0, 182, 167, 255, 207, 177]
abbrev dktX0_sum_2 : List UInt8 := dkwX0_sum_2 ++ []
def dkwX0_sum_1 : List UInt8 := [16, 43, 182, 0, 179, 153, 0, 7, 8, 167, 0, 5, 16, 6, 61, 42, 182, 0, 168, 42, 43, 182, 0, 192]
abbrev dktX0_sum_1 : List UInt8 := dkwX0_sum_1 ++ dktX0_sum_2
def dkwX0_sum_0 : List UInt8 := [42, 43, 182, 0, 192, 42, 16, 43, 182, 0, 179, 154, 0, 12, 42, 16, 45, 182, 0, 179, 153, 0, 37, 42]
abbrev dktX0_sum_0 : List UInt8 := dkwX0_sum_0 ++ dktX0_sum_1
theorem dksX0_sum_0 : cX0_sum.data.toList.drop 0 = dktX0_sum_0 := by decide +kernel
theorem dksX0_sum_1 : cX0_sum.data.toList.drop 24 = dktX0_sum_1 := dk_seg dksX0_sum_0 24 rfl rfl
theorem dksX0_sum_2 : cX0_sum.data.toList.drop 48 = dktX0_sum_2 := dk_seg dksX0_sum_1 24 rfl rfl
theorem dX0_sum_0 : decode cX0_sum 0 = .ok (.aload_n 0, 1) := dk_42 (dk_at dksX0_sum_0 0 rfl rfl)
theorem dX0_sum_1 : decode cX0_sum 1 = .ok (.aload_n 1, 1) := dk_43 (dk_at dksX0_sum_0 1 rfl rfl)
theorem dX0_sum_2 : decode cX0_sum 2 = .ok (.invokevirtual 192, 3) := dk_182 0 192 (dk_at dksX0_sum_0 2 rfl rfl)
theorem dX0_sum_5 : decode cX0_sum 5 = .ok (.aload_n 0, 1) := dk_42 (dk_at dksX0_sum_0 5 rfl rfl)
theorem dX0_sum_6 : decode cX0_sum 6 = .ok (.bipush 43, 2) := dk_16 43 (dk_at dksX0_sum_0 6 rfl rfl)
theorem dX0_sum_8 : decode cX0_sum 8 = .ok (.invokevirtual 179, 3) := dk_182 0 179 (dk_at dksX0_sum_0 8 rfl rfl)
theorem dX0_sum_11 : decode cX0_sum 11 = .ok (.ifCond .ne 12, 3) := dk_154 0 12 (dk_at dksX0_sum_0 11 rfl rfl)
theorem dX0_sum_14 : decode cX0_sum 14 = .ok (.aload_n 0, 1) := dk_42 (dk_at dksX0_sum_0 14 rfl rfl)
theorem dX0_sum_15 : decode cX0_sum 15 = .ok (.bipush 45, 2) := dk_16 45 (dk_at dksX0_sum_0 15 rfl rfl)
theorem dX0_sum_17 : decode cX0_sum 17 = .ok (.invokevirtual 179, 3) := dk_182 0 179 (dk_at dksX0_sum_0 17 rfl rfl)
theorem dX0_sum_20 : decode cX0_sum 20 = .ok (.ifCond .eq 37, 3) := dk_153 0 37 (dk_at dksX0_sum_0 20 rfl rfl)
theorem dX0_sum_23 : decode cX0_sum 23 = .ok (.aload_n 0, 1) := dk_42 (dk_at dksX0_sum_0 23 rfl rfl)
theorem dX0_sum_24 : decode cX0_sum 24 = .ok (.bipush 43, 2) := dk_16 43 (dk_at dksX0_sum_1 0 rfl rfl)
theorem dX0_sum_26 : decode cX0_sum 26 = .ok (.invokevirtual 179, 3) := dk_182 0 179 (dk_at dksX0_sum_1 2 rfl rfl)
theorem dX0_sum_29 : decode cX0_sum 29 = .ok (.ifCond .eq 7, 3) := dk_153 0 7 (dk_at dksX0_sum_1 5 rfl rfl)
theorem dX0_sum_32 : decode cX0_sum 32 = .ok (.iconst 5, 1) := dk_8 (dk_at dksX0_sum_1 8 rfl rfl)
theorem dX0_sum_33 : decode cX0_sum 33 = .ok (.goto 5, 3) := dk_167 0 5 (dk_at dksX0_sum_1 9 rfl rfl)
theorem dX0_sum_36 : decode cX0_sum 36 = .ok (.bipush 6, 2) := dk_16 6 (dk_at dksX0_sum_1 12 rfl rfl)
theorem dX0_sum_38 : decode cX0_sum 38 = .ok (.istore_n 2, 1) := dk_61 (dk_at dksX0_sum_1 14 rfl rfl)
theorem dX0_sum_39 : decode cX0_sum 39 = .ok (.aload_n 0, 1) := dk_42 (dk_at dksX0_sum_1 15 rfl rfl)
theorem dX0_sum_40 : decode cX0_sum 40 = .ok (.invokevirtual 168, 3) := dk_182 0 168 (dk_at dksX0_sum_1 16 rfl rfl)
theorem dX0_sum_43 : decode cX0_sum 43 = .ok (.aload_n 0, 1) := dk_42 (dk_at dksX0_sum_1 19 rfl rfl)
theorem dX0_sum_44 : decode cX0_sum 44 = .ok (.aload_n 1, 1) := dk_43 (dk_at dksX0_sum_1 20 rfl rfl)
theorem dX0_sum_45 : decode cX0_sum 45 = .ok (.invokevirtual 192, 3) := dk_182 0 192 (dk_at dksX0_sum_1 21 rfl rfl)
theorem dX0_sum_48 : decode cX0_sum 48 = .ok (.aload_n 1, 1) := dk_43 (dk_at dksX0_sum_2 0 rfl rfl)
theorem dX0_sum_49 : decode cX0_sum 49 = .ok (.iload_n 2, 1) := dk_28 (dk_at dksX0_sum_2 1 rfl rfl)
theorem dX0_sum_50 : decode cX0_sum 50 = .ok (.iconst 0, 1) := dk_3 (dk_at dksX0_sum_2 2 rfl rfl)
theorem dX0_sum_51 : decode cX0_sum 51 = .ok (.invokevirtual 182, 3) := dk_182 0 182 (dk_at dksX0_sum_2 3 rfl rfl)
theorem dX0_sum_54 : decode cX0_sum 54 = .ok (.goto (-49), 3) := dk_167 255 207 (dk_at dksX0_sum_2 6 rfl rfl)
theorem dX0_sum_57 : decode cX0_sum 57 = .ok (.return_, 1) := dk_177 (dk_at dksX0_sum_2 9 rfl rfl)
abbrev cX0_term : ByteArray := prog_1_method_27_code
def yX0_term : MethodName := ⟨RX0, "term", "(LNeverSaid$Words;)V"⟩
def dkwX0_term_2 : List UInt8 := [43, 28, 3, 182, 0, 182, 167, 255, 207, 177]
abbrev dktX0_term_2 : List UInt8 := dkwX0_term_2 ++ []
def dkwX0_term_1 : List UInt8 := [16, 42, 182, 0, 179, 153, 0, 7, 7, 167, 0, 5, 16, 12, 61, 42, 182, 0, 168, 42, 43, 182, 0, 195]
abbrev dktX0_term_1 : List UInt8 := dkwX0_term_1 ++ dktX0_term_2
def dkwX0_term_0 : List UInt8 := [42, 43, 182, 0, 195, 42, 16, 42, 182, 0, 179, 154, 0, 12, 42, 16, 47, 182, 0, 179, 153, 0, 37, 42]
abbrev dktX0_term_0 : List UInt8 := dkwX0_term_0 ++ dktX0_term_1
theorem dksX0_term_0 : cX0_term.data.toList.drop 0 = dktX0_term_0 := by decide +kernel
theorem dksX0_term_1 : cX0_term.data.toList.drop 24 = dktX0_term_1 := dk_seg dksX0_term_0 24 rfl rfl
theorem dksX0_term_2 : cX0_term.data.toList.drop 48 = dktX0_term_2 := dk_seg dksX0_term_1 24 rfl rfl
theorem dX0_term_0 : decode cX0_term 0 = .ok (.aload_n 0, 1) := dk_42 (dk_at dksX0_term_0 0 rfl rfl)
theorem dX0_term_1 : decode cX0_term 1 = .ok (.aload_n 1, 1) := dk_43 (dk_at dksX0_term_0 1 rfl rfl)
theorem dX0_term_2 : decode cX0_term 2 = .ok (.invokevirtual 195, 3) := dk_182 0 195 (dk_at dksX0_term_0 2 rfl rfl)
theorem dX0_term_5 : decode cX0_term 5 = .ok (.aload_n 0, 1) := dk_42 (dk_at dksX0_term_0 5 rfl rfl)
theorem dX0_term_6 : decode cX0_term 6 = .ok (.bipush 42, 2) := dk_16 42 (dk_at dksX0_term_0 6 rfl rfl)
theorem dX0_term_8 : decode cX0_term 8 = .ok (.invokevirtual 179, 3) := dk_182 0 179 (dk_at dksX0_term_0 8 rfl rfl)
theorem dX0_term_11 : decode cX0_term 11 = .ok (.ifCond .ne 12, 3) := dk_154 0 12 (dk_at dksX0_term_0 11 rfl rfl)
theorem dX0_term_14 : decode cX0_term 14 = .ok (.aload_n 0, 1) := dk_42 (dk_at dksX0_term_0 14 rfl rfl)
theorem dX0_term_15 : decode cX0_term 15 = .ok (.bipush 47, 2) := dk_16 47 (dk_at dksX0_term_0 15 rfl rfl)
theorem dX0_term_17 : decode cX0_term 17 = .ok (.invokevirtual 179, 3) := dk_182 0 179 (dk_at dksX0_term_0 17 rfl rfl)
theorem dX0_term_20 : decode cX0_term 20 = .ok (.ifCond .eq 37, 3) := dk_153 0 37 (dk_at dksX0_term_0 20 rfl rfl)
theorem dX0_term_23 : decode cX0_term 23 = .ok (.aload_n 0, 1) := dk_42 (dk_at dksX0_term_0 23 rfl rfl)
theorem dX0_term_24 : decode cX0_term 24 = .ok (.bipush 42, 2) := dk_16 42 (dk_at dksX0_term_1 0 rfl rfl)
theorem dX0_term_26 : decode cX0_term 26 = .ok (.invokevirtual 179, 3) := dk_182 0 179 (dk_at dksX0_term_1 2 rfl rfl)
theorem dX0_term_29 : decode cX0_term 29 = .ok (.ifCond .eq 7, 3) := dk_153 0 7 (dk_at dksX0_term_1 5 rfl rfl)
theorem dX0_term_32 : decode cX0_term 32 = .ok (.iconst 4, 1) := dk_7 (dk_at dksX0_term_1 8 rfl rfl)
theorem dX0_term_33 : decode cX0_term 33 = .ok (.goto 5, 3) := dk_167 0 5 (dk_at dksX0_term_1 9 rfl rfl)
theorem dX0_term_36 : decode cX0_term 36 = .ok (.bipush 12, 2) := dk_16 12 (dk_at dksX0_term_1 12 rfl rfl)
theorem dX0_term_38 : decode cX0_term 38 = .ok (.istore_n 2, 1) := dk_61 (dk_at dksX0_term_1 14 rfl rfl)
theorem dX0_term_39 : decode cX0_term 39 = .ok (.aload_n 0, 1) := dk_42 (dk_at dksX0_term_1 15 rfl rfl)
theorem dX0_term_40 : decode cX0_term 40 = .ok (.invokevirtual 168, 3) := dk_182 0 168 (dk_at dksX0_term_1 16 rfl rfl)
theorem dX0_term_43 : decode cX0_term 43 = .ok (.aload_n 0, 1) := dk_42 (dk_at dksX0_term_1 19 rfl rfl)
theorem dX0_term_44 : decode cX0_term 44 = .ok (.aload_n 1, 1) := dk_43 (dk_at dksX0_term_1 20 rfl rfl)
theorem dX0_term_45 : decode cX0_term 45 = .ok (.invokevirtual 195, 3) := dk_182 0 195 (dk_at dksX0_term_1 21 rfl rfl)
theorem dX0_term_48 : decode cX0_term 48 = .ok (.aload_n 1, 1) := dk_43 (dk_at dksX0_term_2 0 rfl rfl)
theorem dX0_term_49 : decode cX0_term 49 = .ok (.iload_n 2, 1) := dk_28 (dk_at dksX0_term_2 1 rfl rfl)
theorem dX0_term_50 : decode cX0_term 50 = .ok (.iconst 0, 1) := dk_3 (dk_at dksX0_term_2 2 rfl rfl)
theorem dX0_term_51 : decode cX0_term 51 = .ok (.invokevirtual 182, 3) := dk_182 0 182 (dk_at dksX0_term_2 3 rfl rfl)
theorem dX0_term_54 : decode cX0_term 54 = .ok (.goto (-49), 3) := dk_167 255 207 (dk_at dksX0_term_2 6 rfl rfl)
theorem dX0_term_57 : decode cX0_term 57 = .ok (.return_, 1) := dk_177 (dk_at dksX0_term_2 9 rfl rfl)
abbrev cX0_piece : ByteArray := prog_1_method_29_code
def yX0_piece : MethodName := ⟨RX0, "piece", "(LNeverSaid$Words;)V"⟩
def dkwX0_piece_10 : List UInt8 := [43, 5, 42, 180, 0, 60, 42, 180, 0, 136, 51, 182, 0, 182, 42, 182, 0, 168, 177]
abbrev dktX0_piece_10 : List UInt8 := dkwX0_piece_10 ++ []
def dkwX0_piece_9 : List UInt8 := [180, 0, 136, 51, 182, 0, 213, 154, 0, 7, 42, 182, 0, 155, 42, 89, 180, 0, 207, 4, 96, 181, 0, 207]
abbrev dktX0_piece_9 : List UInt8 := dkwX0_piece_9 ++ dktX0_piece_10
def dkwX0_piece_8 : List UInt8 := [159, 0, 32, 42, 180, 0, 142, 42, 180, 0, 136, 100, 4, 160, 0, 19, 42, 42, 180, 0, 60, 42]
abbrev dktX0_piece_8 : List UInt8 := dkwX0_piece_8 ++ dktX0_piece_9
def dkwX0_piece_7 : List UInt8 := [96, 181, 0, 207, 43, 4, 42, 182, 0, 210, 182, 0, 182, 167, 0, 75, 42, 180, 0, 136, 42, 180, 0, 145]
abbrev dktX0_piece_7 : List UInt8 := dkwX0_piece_7 ++ dktX0_piece_8
def dkwX0_piece_6 : List UInt8 := [162, 0, 40, 42, 180, 0, 60, 42, 180, 0, 136, 51, 184, 0, 152, 153, 0, 25, 42, 89, 180, 0, 207, 4]
abbrev dktX0_piece_6 : List UInt8 := dkwX0_piece_6 ++ dktX0_piece_7
def dkwX0_piece_5 : List UInt8 := [182, 0, 168, 42, 89, 180, 0, 204, 4, 100, 181, 0, 204, 167, 0, 123, 42, 180, 0, 136, 42, 180, 0, 145]
abbrev dktX0_piece_5 : List UInt8 := dkwX0_piece_5 ++ dktX0_piece_6
def dkwX0_piece_4 : List UInt8 := [182, 0, 168, 42, 43, 182, 0, 172, 42, 16, 41, 182, 0, 179, 154, 0, 7, 42, 182, 0, 155, 42]
abbrev dktX0_piece_4 : List UInt8 := dkwX0_piece_4 ++ dktX0_piece_5
def dkwX0_piece_3 : List UInt8 := [180, 0, 204, 16, 8, 160, 0, 7, 42, 182, 0, 155, 42, 89, 180, 0, 204, 4, 96, 181, 0, 204, 42]
abbrev dktX0_piece_3 : List UInt8 := dkwX0_piece_3 ++ dktX0_piece_4
def dkwX0_piece_2 : List UInt8 := [89, 180, 0, 201, 4, 100, 181, 0, 201, 167, 0, 194, 42, 16, 40, 182, 0, 179, 153, 0, 65, 42]
abbrev dktX0_piece_2 : List UInt8 := dkwX0_piece_2 ++ dktX0_piece_3
def dkwX0_piece_1 : List UInt8 := [180, 0, 201, 4, 96, 181, 0, 201, 42, 182, 0, 168, 42, 43, 182, 0, 195, 43, 6, 3, 182, 0, 182, 42]
abbrev dktX0_piece_1 : List UInt8 := dkwX0_piece_1 ++ dktX0_piece_2
def dkwX0_piece_0 : List UInt8 := [42, 16, 33, 182, 0, 179, 153, 0, 54, 42, 180, 0, 201, 16, 8, 160, 0, 7, 42, 182, 0, 155, 42, 89]
abbrev dktX0_piece_0 : List UInt8 := dkwX0_piece_0 ++ dktX0_piece_1
theorem dksX0_piece_0 : cX0_piece.data.toList.drop 0 = dktX0_piece_0 := by decide +kernel
theorem dksX0_piece_1 : cX0_piece.data.toList.drop 24 = dktX0_piece_1 := dk_seg dksX0_piece_0 24 rfl rfl
theorem dksX0_piece_2 : cX0_piece.data.toList.drop 48 = dktX0_piece_2 := dk_seg dksX0_piece_1 24 rfl rfl
theorem dksX0_piece_3 : cX0_piece.data.toList.drop 70 = dktX0_piece_3 := dk_seg dksX0_piece_2 22 rfl rfl
theorem dksX0_piece_4 : cX0_piece.data.toList.drop 93 = dktX0_piece_4 := dk_seg dksX0_piece_3 23 rfl rfl
theorem dksX0_piece_5 : cX0_piece.data.toList.drop 115 = dktX0_piece_5 := dk_seg dksX0_piece_4 22 rfl rfl
theorem dksX0_piece_6 : cX0_piece.data.toList.drop 139 = dktX0_piece_6 := dk_seg dksX0_piece_5 24 rfl rfl
theorem dksX0_piece_7 : cX0_piece.data.toList.drop 163 = dktX0_piece_7 := dk_seg dksX0_piece_6 24 rfl rfl
theorem dksX0_piece_8 : cX0_piece.data.toList.drop 187 = dktX0_piece_8 := dk_seg dksX0_piece_7 24 rfl rfl
theorem dksX0_piece_9 : cX0_piece.data.toList.drop 209 = dktX0_piece_9 := dk_seg dksX0_piece_8 22 rfl rfl
theorem dksX0_piece_10 : cX0_piece.data.toList.drop 233 = dktX0_piece_10 := dk_seg dksX0_piece_9 24 rfl rfl
theorem dX0_piece_0 : decode cX0_piece 0 = .ok (.aload_n 0, 1) := dk_42 (dk_at dksX0_piece_0 0 rfl rfl)
theorem dX0_piece_1 : decode cX0_piece 1 = .ok (.bipush 33, 2) := dk_16 33 (dk_at dksX0_piece_0 1 rfl rfl)
theorem dX0_piece_3 : decode cX0_piece 3 = .ok (.invokevirtual 179, 3) := dk_182 0 179 (dk_at dksX0_piece_0 3 rfl rfl)
theorem dX0_piece_6 : decode cX0_piece 6 = .ok (.ifCond .eq 54, 3) := dk_153 0 54 (dk_at dksX0_piece_0 6 rfl rfl)
theorem dX0_piece_9 : decode cX0_piece 9 = .ok (.aload_n 0, 1) := dk_42 (dk_at dksX0_piece_0 9 rfl rfl)
theorem dX0_piece_10 : decode cX0_piece 10 = .ok (.getfield 201, 3) := dk_180 0 201 (dk_at dksX0_piece_0 10 rfl rfl)
theorem dX0_piece_13 : decode cX0_piece 13 = .ok (.bipush 8, 2) := dk_16 8 (dk_at dksX0_piece_0 13 rfl rfl)
theorem dX0_piece_15 : decode cX0_piece 15 = .ok (.if_icmp .ne 7, 3) := dk_160 0 7 (dk_at dksX0_piece_0 15 rfl rfl)
theorem dX0_piece_18 : decode cX0_piece 18 = .ok (.aload_n 0, 1) := dk_42 (dk_at dksX0_piece_0 18 rfl rfl)
theorem dX0_piece_19 : decode cX0_piece 19 = .ok (.invokevirtual 155, 3) := dk_182 0 155 (dk_at dksX0_piece_0 19 rfl rfl)
theorem dX0_piece_22 : decode cX0_piece 22 = .ok (.aload_n 0, 1) := dk_42 (dk_at dksX0_piece_0 22 rfl rfl)
theorem dX0_piece_23 : decode cX0_piece 23 = .ok (.dup, 1) := dk_89 (dk_at dksX0_piece_0 23 rfl rfl)
theorem dX0_piece_24 : decode cX0_piece 24 = .ok (.getfield 201, 3) := dk_180 0 201 (dk_at dksX0_piece_1 0 rfl rfl)
theorem dX0_piece_27 : decode cX0_piece 27 = .ok (.iconst 1, 1) := dk_4 (dk_at dksX0_piece_1 3 rfl rfl)
theorem dX0_piece_28 : decode cX0_piece 28 = .ok (.iadd, 1) := dk_96 (dk_at dksX0_piece_1 4 rfl rfl)
theorem dX0_piece_29 : decode cX0_piece 29 = .ok (.putfield 201, 3) := dk_181 0 201 (dk_at dksX0_piece_1 5 rfl rfl)
theorem dX0_piece_32 : decode cX0_piece 32 = .ok (.aload_n 0, 1) := dk_42 (dk_at dksX0_piece_1 8 rfl rfl)
theorem dX0_piece_33 : decode cX0_piece 33 = .ok (.invokevirtual 168, 3) := dk_182 0 168 (dk_at dksX0_piece_1 9 rfl rfl)
theorem dX0_piece_36 : decode cX0_piece 36 = .ok (.aload_n 0, 1) := dk_42 (dk_at dksX0_piece_1 12 rfl rfl)
theorem dX0_piece_37 : decode cX0_piece 37 = .ok (.aload_n 1, 1) := dk_43 (dk_at dksX0_piece_1 13 rfl rfl)
theorem dX0_piece_38 : decode cX0_piece 38 = .ok (.invokevirtual 195, 3) := dk_182 0 195 (dk_at dksX0_piece_1 14 rfl rfl)
theorem dX0_piece_41 : decode cX0_piece 41 = .ok (.aload_n 1, 1) := dk_43 (dk_at dksX0_piece_1 17 rfl rfl)
theorem dX0_piece_42 : decode cX0_piece 42 = .ok (.iconst 3, 1) := dk_6 (dk_at dksX0_piece_1 18 rfl rfl)
theorem dX0_piece_43 : decode cX0_piece 43 = .ok (.iconst 0, 1) := dk_3 (dk_at dksX0_piece_1 19 rfl rfl)
theorem dX0_piece_44 : decode cX0_piece 44 = .ok (.invokevirtual 182, 3) := dk_182 0 182 (dk_at dksX0_piece_1 20 rfl rfl)
theorem dX0_piece_47 : decode cX0_piece 47 = .ok (.aload_n 0, 1) := dk_42 (dk_at dksX0_piece_1 23 rfl rfl)
theorem dX0_piece_48 : decode cX0_piece 48 = .ok (.dup, 1) := dk_89 (dk_at dksX0_piece_2 0 rfl rfl)
theorem dX0_piece_49 : decode cX0_piece 49 = .ok (.getfield 201, 3) := dk_180 0 201 (dk_at dksX0_piece_2 1 rfl rfl)
theorem dX0_piece_52 : decode cX0_piece 52 = .ok (.iconst 1, 1) := dk_4 (dk_at dksX0_piece_2 4 rfl rfl)
theorem dX0_piece_53 : decode cX0_piece 53 = .ok (.isub, 1) := dk_100 (dk_at dksX0_piece_2 5 rfl rfl)
theorem dX0_piece_54 : decode cX0_piece 54 = .ok (.putfield 201, 3) := dk_181 0 201 (dk_at dksX0_piece_2 6 rfl rfl)
theorem dX0_piece_57 : decode cX0_piece 57 = .ok (.goto 194, 3) := dk_167 0 194 (dk_at dksX0_piece_2 9 rfl rfl)
theorem dX0_piece_60 : decode cX0_piece 60 = .ok (.aload_n 0, 1) := dk_42 (dk_at dksX0_piece_2 12 rfl rfl)
theorem dX0_piece_61 : decode cX0_piece 61 = .ok (.bipush 40, 2) := dk_16 40 (dk_at dksX0_piece_2 13 rfl rfl)
theorem dX0_piece_63 : decode cX0_piece 63 = .ok (.invokevirtual 179, 3) := dk_182 0 179 (dk_at dksX0_piece_2 15 rfl rfl)
theorem dX0_piece_66 : decode cX0_piece 66 = .ok (.ifCond .eq 65, 3) := dk_153 0 65 (dk_at dksX0_piece_2 18 rfl rfl)
theorem dX0_piece_69 : decode cX0_piece 69 = .ok (.aload_n 0, 1) := dk_42 (dk_at dksX0_piece_2 21 rfl rfl)
theorem dX0_piece_70 : decode cX0_piece 70 = .ok (.getfield 204, 3) := dk_180 0 204 (dk_at dksX0_piece_3 0 rfl rfl)
theorem dX0_piece_73 : decode cX0_piece 73 = .ok (.bipush 8, 2) := dk_16 8 (dk_at dksX0_piece_3 3 rfl rfl)
theorem dX0_piece_75 : decode cX0_piece 75 = .ok (.if_icmp .ne 7, 3) := dk_160 0 7 (dk_at dksX0_piece_3 5 rfl rfl)
theorem dX0_piece_78 : decode cX0_piece 78 = .ok (.aload_n 0, 1) := dk_42 (dk_at dksX0_piece_3 8 rfl rfl)
theorem dX0_piece_79 : decode cX0_piece 79 = .ok (.invokevirtual 155, 3) := dk_182 0 155 (dk_at dksX0_piece_3 9 rfl rfl)
theorem dX0_piece_82 : decode cX0_piece 82 = .ok (.aload_n 0, 1) := dk_42 (dk_at dksX0_piece_3 12 rfl rfl)
theorem dX0_piece_83 : decode cX0_piece 83 = .ok (.dup, 1) := dk_89 (dk_at dksX0_piece_3 13 rfl rfl)
theorem dX0_piece_84 : decode cX0_piece 84 = .ok (.getfield 204, 3) := dk_180 0 204 (dk_at dksX0_piece_3 14 rfl rfl)
theorem dX0_piece_87 : decode cX0_piece 87 = .ok (.iconst 1, 1) := dk_4 (dk_at dksX0_piece_3 17 rfl rfl)
theorem dX0_piece_88 : decode cX0_piece 88 = .ok (.iadd, 1) := dk_96 (dk_at dksX0_piece_3 18 rfl rfl)
theorem dX0_piece_89 : decode cX0_piece 89 = .ok (.putfield 204, 3) := dk_181 0 204 (dk_at dksX0_piece_3 19 rfl rfl)
theorem dX0_piece_92 : decode cX0_piece 92 = .ok (.aload_n 0, 1) := dk_42 (dk_at dksX0_piece_3 22 rfl rfl)
theorem dX0_piece_93 : decode cX0_piece 93 = .ok (.invokevirtual 168, 3) := dk_182 0 168 (dk_at dksX0_piece_4 0 rfl rfl)
theorem dX0_piece_96 : decode cX0_piece 96 = .ok (.aload_n 0, 1) := dk_42 (dk_at dksX0_piece_4 3 rfl rfl)
theorem dX0_piece_97 : decode cX0_piece 97 = .ok (.aload_n 1, 1) := dk_43 (dk_at dksX0_piece_4 4 rfl rfl)
theorem dX0_piece_98 : decode cX0_piece 98 = .ok (.invokevirtual 172, 3) := dk_182 0 172 (dk_at dksX0_piece_4 5 rfl rfl)
theorem dX0_piece_101 : decode cX0_piece 101 = .ok (.aload_n 0, 1) := dk_42 (dk_at dksX0_piece_4 8 rfl rfl)
theorem dX0_piece_102 : decode cX0_piece 102 = .ok (.bipush 41, 2) := dk_16 41 (dk_at dksX0_piece_4 9 rfl rfl)
theorem dX0_piece_104 : decode cX0_piece 104 = .ok (.invokevirtual 179, 3) := dk_182 0 179 (dk_at dksX0_piece_4 11 rfl rfl)
theorem dX0_piece_107 : decode cX0_piece 107 = .ok (.ifCond .ne 7, 3) := dk_154 0 7 (dk_at dksX0_piece_4 14 rfl rfl)
theorem dX0_piece_110 : decode cX0_piece 110 = .ok (.aload_n 0, 1) := dk_42 (dk_at dksX0_piece_4 17 rfl rfl)
theorem dX0_piece_111 : decode cX0_piece 111 = .ok (.invokevirtual 155, 3) := dk_182 0 155 (dk_at dksX0_piece_4 18 rfl rfl)
theorem dX0_piece_114 : decode cX0_piece 114 = .ok (.aload_n 0, 1) := dk_42 (dk_at dksX0_piece_4 21 rfl rfl)
theorem dX0_piece_115 : decode cX0_piece 115 = .ok (.invokevirtual 168, 3) := dk_182 0 168 (dk_at dksX0_piece_5 0 rfl rfl)
theorem dX0_piece_118 : decode cX0_piece 118 = .ok (.aload_n 0, 1) := dk_42 (dk_at dksX0_piece_5 3 rfl rfl)
theorem dX0_piece_119 : decode cX0_piece 119 = .ok (.dup, 1) := dk_89 (dk_at dksX0_piece_5 4 rfl rfl)
theorem dX0_piece_120 : decode cX0_piece 120 = .ok (.getfield 204, 3) := dk_180 0 204 (dk_at dksX0_piece_5 5 rfl rfl)
theorem dX0_piece_123 : decode cX0_piece 123 = .ok (.iconst 1, 1) := dk_4 (dk_at dksX0_piece_5 8 rfl rfl)
theorem dX0_piece_124 : decode cX0_piece 124 = .ok (.isub, 1) := dk_100 (dk_at dksX0_piece_5 9 rfl rfl)
theorem dX0_piece_125 : decode cX0_piece 125 = .ok (.putfield 204, 3) := dk_181 0 204 (dk_at dksX0_piece_5 10 rfl rfl)
theorem dX0_piece_128 : decode cX0_piece 128 = .ok (.goto 123, 3) := dk_167 0 123 (dk_at dksX0_piece_5 13 rfl rfl)
theorem dX0_piece_131 : decode cX0_piece 131 = .ok (.aload_n 0, 1) := dk_42 (dk_at dksX0_piece_5 16 rfl rfl)
theorem dX0_piece_132 : decode cX0_piece 132 = .ok (.getfield 136, 3) := dk_180 0 136 (dk_at dksX0_piece_5 17 rfl rfl)
theorem dX0_piece_135 : decode cX0_piece 135 = .ok (.aload_n 0, 1) := dk_42 (dk_at dksX0_piece_5 20 rfl rfl)
theorem dX0_piece_136 : decode cX0_piece 136 = .ok (.getfield 145, 3) := dk_180 0 145 (dk_at dksX0_piece_5 21 rfl rfl)
theorem dX0_piece_139 : decode cX0_piece 139 = .ok (.if_icmp .ge 40, 3) := dk_162 0 40 (dk_at dksX0_piece_6 0 rfl rfl)
theorem dX0_piece_142 : decode cX0_piece 142 = .ok (.aload_n 0, 1) := dk_42 (dk_at dksX0_piece_6 3 rfl rfl)
theorem dX0_piece_143 : decode cX0_piece 143 = .ok (.getfield 60, 3) := dk_180 0 60 (dk_at dksX0_piece_6 4 rfl rfl)
theorem dX0_piece_146 : decode cX0_piece 146 = .ok (.aload_n 0, 1) := dk_42 (dk_at dksX0_piece_6 7 rfl rfl)
theorem dX0_piece_147 : decode cX0_piece 147 = .ok (.getfield 136, 3) := dk_180 0 136 (dk_at dksX0_piece_6 8 rfl rfl)
theorem dX0_piece_150 : decode cX0_piece 150 = .ok (.baload, 1) := dk_51 (dk_at dksX0_piece_6 11 rfl rfl)
theorem dX0_piece_151 : decode cX0_piece 151 = .ok (.invokestatic 152, 3) := dk_184 0 152 (dk_at dksX0_piece_6 12 rfl rfl)
theorem dX0_piece_154 : decode cX0_piece 154 = .ok (.ifCond .eq 25, 3) := dk_153 0 25 (dk_at dksX0_piece_6 15 rfl rfl)
theorem dX0_piece_157 : decode cX0_piece 157 = .ok (.aload_n 0, 1) := dk_42 (dk_at dksX0_piece_6 18 rfl rfl)
theorem dX0_piece_158 : decode cX0_piece 158 = .ok (.dup, 1) := dk_89 (dk_at dksX0_piece_6 19 rfl rfl)
theorem dX0_piece_159 : decode cX0_piece 159 = .ok (.getfield 207, 3) := dk_180 0 207 (dk_at dksX0_piece_6 20 rfl rfl)
theorem dX0_piece_162 : decode cX0_piece 162 = .ok (.iconst 1, 1) := dk_4 (dk_at dksX0_piece_6 23 rfl rfl)
theorem dX0_piece_163 : decode cX0_piece 163 = .ok (.iadd, 1) := dk_96 (dk_at dksX0_piece_7 0 rfl rfl)
theorem dX0_piece_164 : decode cX0_piece 164 = .ok (.putfield 207, 3) := dk_181 0 207 (dk_at dksX0_piece_7 1 rfl rfl)
theorem dX0_piece_167 : decode cX0_piece 167 = .ok (.aload_n 1, 1) := dk_43 (dk_at dksX0_piece_7 4 rfl rfl)
theorem dX0_piece_168 : decode cX0_piece 168 = .ok (.iconst 1, 1) := dk_4 (dk_at dksX0_piece_7 5 rfl rfl)
theorem dX0_piece_169 : decode cX0_piece 169 = .ok (.aload_n 0, 1) := dk_42 (dk_at dksX0_piece_7 6 rfl rfl)
theorem dX0_piece_170 : decode cX0_piece 170 = .ok (.invokevirtual 210, 3) := dk_182 0 210 (dk_at dksX0_piece_7 7 rfl rfl)
theorem dX0_piece_173 : decode cX0_piece 173 = .ok (.invokevirtual 182, 3) := dk_182 0 182 (dk_at dksX0_piece_7 10 rfl rfl)
theorem dX0_piece_176 : decode cX0_piece 176 = .ok (.goto 75, 3) := dk_167 0 75 (dk_at dksX0_piece_7 13 rfl rfl)
theorem dX0_piece_179 : decode cX0_piece 179 = .ok (.aload_n 0, 1) := dk_42 (dk_at dksX0_piece_7 16 rfl rfl)
theorem dX0_piece_180 : decode cX0_piece 180 = .ok (.getfield 136, 3) := dk_180 0 136 (dk_at dksX0_piece_7 17 rfl rfl)
theorem dX0_piece_183 : decode cX0_piece 183 = .ok (.aload_n 0, 1) := dk_42 (dk_at dksX0_piece_7 20 rfl rfl)
theorem dX0_piece_184 : decode cX0_piece 184 = .ok (.getfield 145, 3) := dk_180 0 145 (dk_at dksX0_piece_7 21 rfl rfl)
theorem dX0_piece_187 : decode cX0_piece 187 = .ok (.if_icmp .eq 32, 3) := dk_159 0 32 (dk_at dksX0_piece_8 0 rfl rfl)
theorem dX0_piece_190 : decode cX0_piece 190 = .ok (.aload_n 0, 1) := dk_42 (dk_at dksX0_piece_8 3 rfl rfl)
theorem dX0_piece_191 : decode cX0_piece 191 = .ok (.getfield 142, 3) := dk_180 0 142 (dk_at dksX0_piece_8 4 rfl rfl)
theorem dX0_piece_194 : decode cX0_piece 194 = .ok (.aload_n 0, 1) := dk_42 (dk_at dksX0_piece_8 7 rfl rfl)
theorem dX0_piece_195 : decode cX0_piece 195 = .ok (.getfield 136, 3) := dk_180 0 136 (dk_at dksX0_piece_8 8 rfl rfl)
theorem dX0_piece_198 : decode cX0_piece 198 = .ok (.isub, 1) := dk_100 (dk_at dksX0_piece_8 11 rfl rfl)
theorem dX0_piece_199 : decode cX0_piece 199 = .ok (.iconst 1, 1) := dk_4 (dk_at dksX0_piece_8 12 rfl rfl)
theorem dX0_piece_200 : decode cX0_piece 200 = .ok (.if_icmp .ne 19, 3) := dk_160 0 19 (dk_at dksX0_piece_8 13 rfl rfl)
theorem dX0_piece_203 : decode cX0_piece 203 = .ok (.aload_n 0, 1) := dk_42 (dk_at dksX0_piece_8 16 rfl rfl)
theorem dX0_piece_204 : decode cX0_piece 204 = .ok (.aload_n 0, 1) := dk_42 (dk_at dksX0_piece_8 17 rfl rfl)
theorem dX0_piece_205 : decode cX0_piece 205 = .ok (.getfield 60, 3) := dk_180 0 60 (dk_at dksX0_piece_8 18 rfl rfl)
theorem dX0_piece_208 : decode cX0_piece 208 = .ok (.aload_n 0, 1) := dk_42 (dk_at dksX0_piece_8 21 rfl rfl)
theorem dX0_piece_209 : decode cX0_piece 209 = .ok (.getfield 136, 3) := dk_180 0 136 (dk_at dksX0_piece_9 0 rfl rfl)
theorem dX0_piece_212 : decode cX0_piece 212 = .ok (.baload, 1) := dk_51 (dk_at dksX0_piece_9 3 rfl rfl)
theorem dX0_piece_213 : decode cX0_piece 213 = .ok (.invokevirtual 213, 3) := dk_182 0 213 (dk_at dksX0_piece_9 4 rfl rfl)
theorem dX0_piece_216 : decode cX0_piece 216 = .ok (.ifCond .ne 7, 3) := dk_154 0 7 (dk_at dksX0_piece_9 7 rfl rfl)
theorem dX0_piece_219 : decode cX0_piece 219 = .ok (.aload_n 0, 1) := dk_42 (dk_at dksX0_piece_9 10 rfl rfl)
theorem dX0_piece_220 : decode cX0_piece 220 = .ok (.invokevirtual 155, 3) := dk_182 0 155 (dk_at dksX0_piece_9 11 rfl rfl)
theorem dX0_piece_223 : decode cX0_piece 223 = .ok (.aload_n 0, 1) := dk_42 (dk_at dksX0_piece_9 14 rfl rfl)
theorem dX0_piece_224 : decode cX0_piece 224 = .ok (.dup, 1) := dk_89 (dk_at dksX0_piece_9 15 rfl rfl)
theorem dX0_piece_225 : decode cX0_piece 225 = .ok (.getfield 207, 3) := dk_180 0 207 (dk_at dksX0_piece_9 16 rfl rfl)
theorem dX0_piece_228 : decode cX0_piece 228 = .ok (.iconst 1, 1) := dk_4 (dk_at dksX0_piece_9 19 rfl rfl)
theorem dX0_piece_229 : decode cX0_piece 229 = .ok (.iadd, 1) := dk_96 (dk_at dksX0_piece_9 20 rfl rfl)
theorem dX0_piece_230 : decode cX0_piece 230 = .ok (.putfield 207, 3) := dk_181 0 207 (dk_at dksX0_piece_9 21 rfl rfl)
theorem dX0_piece_233 : decode cX0_piece 233 = .ok (.aload_n 1, 1) := dk_43 (dk_at dksX0_piece_10 0 rfl rfl)
theorem dX0_piece_234 : decode cX0_piece 234 = .ok (.iconst 2, 1) := dk_5 (dk_at dksX0_piece_10 1 rfl rfl)
theorem dX0_piece_235 : decode cX0_piece 235 = .ok (.aload_n 0, 1) := dk_42 (dk_at dksX0_piece_10 2 rfl rfl)
theorem dX0_piece_236 : decode cX0_piece 236 = .ok (.getfield 60, 3) := dk_180 0 60 (dk_at dksX0_piece_10 3 rfl rfl)
theorem dX0_piece_239 : decode cX0_piece 239 = .ok (.aload_n 0, 1) := dk_42 (dk_at dksX0_piece_10 6 rfl rfl)
theorem dX0_piece_240 : decode cX0_piece 240 = .ok (.getfield 136, 3) := dk_180 0 136 (dk_at dksX0_piece_10 7 rfl rfl)
theorem dX0_piece_243 : decode cX0_piece 243 = .ok (.baload, 1) := dk_51 (dk_at dksX0_piece_10 10 rfl rfl)
theorem dX0_piece_244 : decode cX0_piece 244 = .ok (.invokevirtual 182, 3) := dk_182 0 182 (dk_at dksX0_piece_10 11 rfl rfl)
theorem dX0_piece_247 : decode cX0_piece 247 = .ok (.aload_n 0, 1) := dk_42 (dk_at dksX0_piece_10 14 rfl rfl)
theorem dX0_piece_248 : decode cX0_piece 248 = .ok (.invokevirtual 168, 3) := dk_182 0 168 (dk_at dksX0_piece_10 15 rfl rfl)
theorem dX0_piece_251 : decode cX0_piece 251 = .ok (.return_, 1) := dk_177 (dk_at dksX0_piece_10 18 rfl rfl)
abbrev cX0_isSign : ByteArray := prog_1_method_20_code
def yX0_isSign : MethodName := ⟨RX0, "isSign", "(I)Z"⟩
def dkwX0_isSign_1 : List UInt8 := [42, 180, 0, 60, 42, 180, 0, 136, 51, 27, 160, 0, 7, 4, 167, 0, 4, 3, 172]
abbrev dktX0_isSign_1 : List UInt8 := dkwX0_isSign_1 ++ []
def dkwX0_isSign_0 : List UInt8 := [42, 180, 0, 136, 42, 180, 0, 145, 162, 0, 33, 42, 180, 0, 142, 42, 180, 0, 136, 100, 4, 160, 0, 20]
abbrev dktX0_isSign_0 : List UInt8 := dkwX0_isSign_0 ++ dktX0_isSign_1
theorem dksX0_isSign_0 : cX0_isSign.data.toList.drop 0 = dktX0_isSign_0 := by decide +kernel
theorem dksX0_isSign_1 : cX0_isSign.data.toList.drop 24 = dktX0_isSign_1 := dk_seg dksX0_isSign_0 24 rfl rfl
theorem dX0_isSign_0 : decode cX0_isSign 0 = .ok (.aload_n 0, 1) := dk_42 (dk_at dksX0_isSign_0 0 rfl rfl)
theorem dX0_isSign_1 : decode cX0_isSign 1 = .ok (.getfield 136, 3) := dk_180 0 136 (dk_at dksX0_isSign_0 1 rfl rfl)
theorem dX0_isSign_4 : decode cX0_isSign 4 = .ok (.aload_n 0, 1) := dk_42 (dk_at dksX0_isSign_0 4 rfl rfl)
theorem dX0_isSign_5 : decode cX0_isSign 5 = .ok (.getfield 145, 3) := dk_180 0 145 (dk_at dksX0_isSign_0 5 rfl rfl)
theorem dX0_isSign_8 : decode cX0_isSign 8 = .ok (.if_icmp .ge 33, 3) := dk_162 0 33 (dk_at dksX0_isSign_0 8 rfl rfl)
theorem dX0_isSign_11 : decode cX0_isSign 11 = .ok (.aload_n 0, 1) := dk_42 (dk_at dksX0_isSign_0 11 rfl rfl)
theorem dX0_isSign_12 : decode cX0_isSign 12 = .ok (.getfield 142, 3) := dk_180 0 142 (dk_at dksX0_isSign_0 12 rfl rfl)
theorem dX0_isSign_15 : decode cX0_isSign 15 = .ok (.aload_n 0, 1) := dk_42 (dk_at dksX0_isSign_0 15 rfl rfl)
theorem dX0_isSign_16 : decode cX0_isSign 16 = .ok (.getfield 136, 3) := dk_180 0 136 (dk_at dksX0_isSign_0 16 rfl rfl)
theorem dX0_isSign_19 : decode cX0_isSign 19 = .ok (.isub, 1) := dk_100 (dk_at dksX0_isSign_0 19 rfl rfl)
theorem dX0_isSign_20 : decode cX0_isSign 20 = .ok (.iconst 1, 1) := dk_4 (dk_at dksX0_isSign_0 20 rfl rfl)
theorem dX0_isSign_21 : decode cX0_isSign 21 = .ok (.if_icmp .ne 20, 3) := dk_160 0 20 (dk_at dksX0_isSign_0 21 rfl rfl)
theorem dX0_isSign_24 : decode cX0_isSign 24 = .ok (.aload_n 0, 1) := dk_42 (dk_at dksX0_isSign_1 0 rfl rfl)
theorem dX0_isSign_25 : decode cX0_isSign 25 = .ok (.getfield 60, 3) := dk_180 0 60 (dk_at dksX0_isSign_1 1 rfl rfl)
theorem dX0_isSign_28 : decode cX0_isSign 28 = .ok (.aload_n 0, 1) := dk_42 (dk_at dksX0_isSign_1 4 rfl rfl)
theorem dX0_isSign_29 : decode cX0_isSign 29 = .ok (.getfield 136, 3) := dk_180 0 136 (dk_at dksX0_isSign_1 5 rfl rfl)
theorem dX0_isSign_32 : decode cX0_isSign 32 = .ok (.baload, 1) := dk_51 (dk_at dksX0_isSign_1 8 rfl rfl)
theorem dX0_isSign_33 : decode cX0_isSign 33 = .ok (.iload_n 1, 1) := dk_27 (dk_at dksX0_isSign_1 9 rfl rfl)
theorem dX0_isSign_34 : decode cX0_isSign 34 = .ok (.if_icmp .ne 7, 3) := dk_160 0 7 (dk_at dksX0_isSign_1 10 rfl rfl)
theorem dX0_isSign_37 : decode cX0_isSign 37 = .ok (.iconst 1, 1) := dk_4 (dk_at dksX0_isSign_1 13 rfl rfl)
theorem dX0_isSign_38 : decode cX0_isSign 38 = .ok (.goto 4, 3) := dk_167 0 4 (dk_at dksX0_isSign_1 14 rfl rfl)
theorem dX0_isSign_41 : decode cX0_isSign 41 = .ok (.iconst 0, 1) := dk_3 (dk_at dksX0_isSign_1 17 rfl rfl)
theorem dX0_isSign_42 : decode cX0_isSign 42 = .ok (.ireturn, 1) := dk_172 (dk_at dksX0_isSign_1 18 rfl rfl)
abbrev cX0_number : ByteArray := prog_1_method_21_code
def yX0_number : MethodName := ⟨RX0, "number", "()I"⟩
def dkwX0_number_3 : List UInt8 := [16, 48, 100, 60, 132, 2, 1, 167, 255, 230, 42, 182, 0, 168, 27, 172]
abbrev dktX0_number_3 : List UInt8 := dkwX0_number_3 ++ []
def dkwX0_number_2 : List UInt8 := [180, 0, 136, 61, 28, 42, 180, 0, 142, 162, 0, 24, 16, 10, 27, 104, 42, 180, 0, 60, 28, 51, 96]
abbrev dktX0_number_2 : List UInt8 := dkwX0_number_2 ++ dktX0_number_3
def dkwX0_number_1 : List UInt8 := [153, 0, 16, 42, 180, 0, 142, 42, 180, 0, 136, 100, 7, 164, 0, 7, 42, 182, 0, 155, 3, 60, 42]
abbrev dktX0_number_1 : List UInt8 := dkwX0_number_1 ++ dktX0_number_2
def dkwX0_number_0 : List UInt8 := [42, 180, 0, 136, 42, 180, 0, 145, 159, 0, 31, 42, 180, 0, 60, 42, 180, 0, 136, 51, 184, 0, 152]
abbrev dktX0_number_0 : List UInt8 := dkwX0_number_0 ++ dktX0_number_1
theorem dksX0_number_0 : cX0_number.data.toList.drop 0 = dktX0_number_0 := by decide +kernel
theorem dksX0_number_1 : cX0_number.data.toList.drop 23 = dktX0_number_1 := dk_seg dksX0_number_0 23 rfl rfl
theorem dksX0_number_2 : cX0_number.data.toList.drop 46 = dktX0_number_2 := dk_seg dksX0_number_1 23 rfl rfl
theorem dksX0_number_3 : cX0_number.data.toList.drop 69 = dktX0_number_3 := dk_seg dksX0_number_2 23 rfl rfl
theorem dX0_number_0 : decode cX0_number 0 = .ok (.aload_n 0, 1) := dk_42 (dk_at dksX0_number_0 0 rfl rfl)
theorem dX0_number_1 : decode cX0_number 1 = .ok (.getfield 136, 3) := dk_180 0 136 (dk_at dksX0_number_0 1 rfl rfl)
theorem dX0_number_4 : decode cX0_number 4 = .ok (.aload_n 0, 1) := dk_42 (dk_at dksX0_number_0 4 rfl rfl)
theorem dX0_number_5 : decode cX0_number 5 = .ok (.getfield 145, 3) := dk_180 0 145 (dk_at dksX0_number_0 5 rfl rfl)
theorem dX0_number_8 : decode cX0_number 8 = .ok (.if_icmp .eq 31, 3) := dk_159 0 31 (dk_at dksX0_number_0 8 rfl rfl)
theorem dX0_number_11 : decode cX0_number 11 = .ok (.aload_n 0, 1) := dk_42 (dk_at dksX0_number_0 11 rfl rfl)
theorem dX0_number_12 : decode cX0_number 12 = .ok (.getfield 60, 3) := dk_180 0 60 (dk_at dksX0_number_0 12 rfl rfl)
theorem dX0_number_15 : decode cX0_number 15 = .ok (.aload_n 0, 1) := dk_42 (dk_at dksX0_number_0 15 rfl rfl)
theorem dX0_number_16 : decode cX0_number 16 = .ok (.getfield 136, 3) := dk_180 0 136 (dk_at dksX0_number_0 16 rfl rfl)
theorem dX0_number_19 : decode cX0_number 19 = .ok (.baload, 1) := dk_51 (dk_at dksX0_number_0 19 rfl rfl)
theorem dX0_number_20 : decode cX0_number 20 = .ok (.invokestatic 152, 3) := dk_184 0 152 (dk_at dksX0_number_0 20 rfl rfl)
theorem dX0_number_23 : decode cX0_number 23 = .ok (.ifCond .eq 16, 3) := dk_153 0 16 (dk_at dksX0_number_1 0 rfl rfl)
theorem dX0_number_26 : decode cX0_number 26 = .ok (.aload_n 0, 1) := dk_42 (dk_at dksX0_number_1 3 rfl rfl)
theorem dX0_number_27 : decode cX0_number 27 = .ok (.getfield 142, 3) := dk_180 0 142 (dk_at dksX0_number_1 4 rfl rfl)
theorem dX0_number_30 : decode cX0_number 30 = .ok (.aload_n 0, 1) := dk_42 (dk_at dksX0_number_1 7 rfl rfl)
theorem dX0_number_31 : decode cX0_number 31 = .ok (.getfield 136, 3) := dk_180 0 136 (dk_at dksX0_number_1 8 rfl rfl)
theorem dX0_number_34 : decode cX0_number 34 = .ok (.isub, 1) := dk_100 (dk_at dksX0_number_1 11 rfl rfl)
theorem dX0_number_35 : decode cX0_number 35 = .ok (.iconst 4, 1) := dk_7 (dk_at dksX0_number_1 12 rfl rfl)
theorem dX0_number_36 : decode cX0_number 36 = .ok (.if_icmp .le 7, 3) := dk_164 0 7 (dk_at dksX0_number_1 13 rfl rfl)
theorem dX0_number_39 : decode cX0_number 39 = .ok (.aload_n 0, 1) := dk_42 (dk_at dksX0_number_1 16 rfl rfl)
theorem dX0_number_40 : decode cX0_number 40 = .ok (.invokevirtual 155, 3) := dk_182 0 155 (dk_at dksX0_number_1 17 rfl rfl)
theorem dX0_number_43 : decode cX0_number 43 = .ok (.iconst 0, 1) := dk_3 (dk_at dksX0_number_1 20 rfl rfl)
theorem dX0_number_44 : decode cX0_number 44 = .ok (.istore_n 1, 1) := dk_60 (dk_at dksX0_number_1 21 rfl rfl)
theorem dX0_number_45 : decode cX0_number 45 = .ok (.aload_n 0, 1) := dk_42 (dk_at dksX0_number_1 22 rfl rfl)
theorem dX0_number_46 : decode cX0_number 46 = .ok (.getfield 136, 3) := dk_180 0 136 (dk_at dksX0_number_2 0 rfl rfl)
theorem dX0_number_49 : decode cX0_number 49 = .ok (.istore_n 2, 1) := dk_61 (dk_at dksX0_number_2 3 rfl rfl)
theorem dX0_number_50 : decode cX0_number 50 = .ok (.iload_n 2, 1) := dk_28 (dk_at dksX0_number_2 4 rfl rfl)
theorem dX0_number_51 : decode cX0_number 51 = .ok (.aload_n 0, 1) := dk_42 (dk_at dksX0_number_2 5 rfl rfl)
theorem dX0_number_52 : decode cX0_number 52 = .ok (.getfield 142, 3) := dk_180 0 142 (dk_at dksX0_number_2 6 rfl rfl)
theorem dX0_number_55 : decode cX0_number 55 = .ok (.if_icmp .ge 24, 3) := dk_162 0 24 (dk_at dksX0_number_2 9 rfl rfl)
theorem dX0_number_58 : decode cX0_number 58 = .ok (.bipush 10, 2) := dk_16 10 (dk_at dksX0_number_2 12 rfl rfl)
theorem dX0_number_60 : decode cX0_number 60 = .ok (.iload_n 1, 1) := dk_27 (dk_at dksX0_number_2 14 rfl rfl)
theorem dX0_number_61 : decode cX0_number 61 = .ok (.imul, 1) := dk_104 (dk_at dksX0_number_2 15 rfl rfl)
theorem dX0_number_62 : decode cX0_number 62 = .ok (.aload_n 0, 1) := dk_42 (dk_at dksX0_number_2 16 rfl rfl)
theorem dX0_number_63 : decode cX0_number 63 = .ok (.getfield 60, 3) := dk_180 0 60 (dk_at dksX0_number_2 17 rfl rfl)
theorem dX0_number_66 : decode cX0_number 66 = .ok (.iload_n 2, 1) := dk_28 (dk_at dksX0_number_2 20 rfl rfl)
theorem dX0_number_67 : decode cX0_number 67 = .ok (.baload, 1) := dk_51 (dk_at dksX0_number_2 21 rfl rfl)
theorem dX0_number_68 : decode cX0_number 68 = .ok (.iadd, 1) := dk_96 (dk_at dksX0_number_2 22 rfl rfl)
theorem dX0_number_69 : decode cX0_number 69 = .ok (.bipush 48, 2) := dk_16 48 (dk_at dksX0_number_3 0 rfl rfl)
theorem dX0_number_71 : decode cX0_number 71 = .ok (.isub, 1) := dk_100 (dk_at dksX0_number_3 2 rfl rfl)
theorem dX0_number_72 : decode cX0_number 72 = .ok (.istore_n 1, 1) := dk_60 (dk_at dksX0_number_3 3 rfl rfl)
theorem dX0_number_73 : decode cX0_number 73 = .ok (.iinc 2 1, 3) := dk_132 2 1 (dk_at dksX0_number_3 4 rfl rfl)
theorem dX0_number_76 : decode cX0_number 76 = .ok (.goto (-26), 3) := dk_167 255 230 (dk_at dksX0_number_3 7 rfl rfl)
theorem dX0_number_79 : decode cX0_number 79 = .ok (.aload_n 0, 1) := dk_42 (dk_at dksX0_number_3 10 rfl rfl)
theorem dX0_number_80 : decode cX0_number 80 = .ok (.invokevirtual 168, 3) := dk_182 0 168 (dk_at dksX0_number_3 11 rfl rfl)
theorem dX0_number_83 : decode cX0_number 83 = .ok (.iload_n 1, 1) := dk_27 (dk_at dksX0_number_3 14 rfl rfl)
theorem dX0_number_84 : decode cX0_number 84 = .ok (.ireturn, 1) := dk_172 (dk_at dksX0_number_3 15 rfl rfl)
abbrev cX0_isName : ByteArray := prog_1_method_28_code
def yX0_isName : MethodName := ⟨RX0, "isName", "(I)Z"⟩
def dkwX0_isName_5 : List UInt8 := [180, 0, 198, 5, 160, 0, 7, 4, 167, 0, 4, 3, 172, 3, 172]
abbrev dktX0_isName_5 : List UInt8 := dkwX0_isName_5 ++ []
def dkwX0_isName_4 : List UInt8 := [160, 0, 7, 4, 167, 0, 4, 3, 172, 42, 180, 0, 198, 153, 0, 7, 4, 167, 0, 4, 3, 172, 42]
abbrev dktX0_isName_4 : List UInt8 := dkwX0_isName_4 ++ dktX0_isName_5
def dkwX0_isName_3 : List UInt8 := [167, 0, 4, 3, 172, 42, 180, 0, 198, 5, 159, 0, 7, 4, 167, 0, 4, 3, 172, 42, 180, 0, 198, 4]
abbrev dktX0_isName_3 : List UInt8 := dkwX0_isName_3 ++ dktX0_isName_4
def dkwX0_isName_2 : List UInt8 := [42, 180, 0, 198, 4, 159, 0, 7, 4, 167, 0, 4, 3, 172, 42, 180, 0, 198, 154, 0, 7, 4]
abbrev dktX0_isName_2 : List UInt8 := dkwX0_isName_2 ++ dktX0_isName_3
def dkwX0_isName_1 : List UInt8 := [171, 0, 0, 0, 0, 0, 141, 0, 0, 0, 6, 0, 0, 0, 98, 0, 0, 0, 127, 0, 0, 0, 108, 0, 0, 0, 100, 0, 0, 0, 110, 0, 0, 0, 114, 0, 0, 0, 112, 0, 0, 0, 73, 0, 0, 0, 115, 0, 0, 0, 59, 0, 0, 0, 119, 0, 0, 0, 86]
abbrev dktX0_isName_1 : List UInt8 := dkwX0_isName_1 ++ dktX0_isName_2
def dkwX0_isName_0 : List UInt8 := [27]
abbrev dktX0_isName_0 : List UInt8 := dkwX0_isName_0 ++ dktX0_isName_1
theorem dksX0_isName_0 : cX0_isName.data.toList.drop 0 = dktX0_isName_0 := by decide +kernel
theorem dksX0_isName_1 : cX0_isName.data.toList.drop 1 = dktX0_isName_1 := dk_seg dksX0_isName_0 1 rfl rfl
theorem dksX0_isName_2 : cX0_isName.data.toList.drop 60 = dktX0_isName_2 := dk_seg dksX0_isName_1 59 rfl rfl
theorem dksX0_isName_3 : cX0_isName.data.toList.drop 82 = dktX0_isName_3 := dk_seg dksX0_isName_2 22 rfl rfl
theorem dksX0_isName_4 : cX0_isName.data.toList.drop 106 = dktX0_isName_4 := dk_seg dksX0_isName_3 24 rfl rfl
theorem dksX0_isName_5 : cX0_isName.data.toList.drop 129 = dktX0_isName_5 := dk_seg dksX0_isName_4 23 rfl rfl
theorem dX0_isName_0 : decode cX0_isName 0 = .ok (.iload_n 1, 1) := dk_27 (dk_at dksX0_isName_0 0 rfl rfl)
theorem dX0_isName_1 : decode cX0_isName 1 = .ok (.lookupswitch 141 #[(98, 127), (108, 100), (110, 114), (112, 73), (115, 59), (119, 86)], 59) := by decide +kernel
theorem dX0_isName_60 : decode cX0_isName 60 = .ok (.aload_n 0, 1) := dk_42 (dk_at dksX0_isName_2 0 rfl rfl)
theorem dX0_isName_61 : decode cX0_isName 61 = .ok (.getfield 198, 3) := dk_180 0 198 (dk_at dksX0_isName_2 1 rfl rfl)
theorem dX0_isName_64 : decode cX0_isName 64 = .ok (.iconst 1, 1) := dk_4 (dk_at dksX0_isName_2 4 rfl rfl)
theorem dX0_isName_65 : decode cX0_isName 65 = .ok (.if_icmp .eq 7, 3) := dk_159 0 7 (dk_at dksX0_isName_2 5 rfl rfl)
theorem dX0_isName_68 : decode cX0_isName 68 = .ok (.iconst 1, 1) := dk_4 (dk_at dksX0_isName_2 8 rfl rfl)
theorem dX0_isName_69 : decode cX0_isName 69 = .ok (.goto 4, 3) := dk_167 0 4 (dk_at dksX0_isName_2 9 rfl rfl)
theorem dX0_isName_72 : decode cX0_isName 72 = .ok (.iconst 0, 1) := dk_3 (dk_at dksX0_isName_2 12 rfl rfl)
theorem dX0_isName_73 : decode cX0_isName 73 = .ok (.ireturn, 1) := dk_172 (dk_at dksX0_isName_2 13 rfl rfl)
theorem dX0_isName_74 : decode cX0_isName 74 = .ok (.aload_n 0, 1) := dk_42 (dk_at dksX0_isName_2 14 rfl rfl)
theorem dX0_isName_75 : decode cX0_isName 75 = .ok (.getfield 198, 3) := dk_180 0 198 (dk_at dksX0_isName_2 15 rfl rfl)
theorem dX0_isName_78 : decode cX0_isName 78 = .ok (.ifCond .ne 7, 3) := dk_154 0 7 (dk_at dksX0_isName_2 18 rfl rfl)
theorem dX0_isName_81 : decode cX0_isName 81 = .ok (.iconst 1, 1) := dk_4 (dk_at dksX0_isName_2 21 rfl rfl)
theorem dX0_isName_82 : decode cX0_isName 82 = .ok (.goto 4, 3) := dk_167 0 4 (dk_at dksX0_isName_3 0 rfl rfl)
theorem dX0_isName_85 : decode cX0_isName 85 = .ok (.iconst 0, 1) := dk_3 (dk_at dksX0_isName_3 3 rfl rfl)
theorem dX0_isName_86 : decode cX0_isName 86 = .ok (.ireturn, 1) := dk_172 (dk_at dksX0_isName_3 4 rfl rfl)
theorem dX0_isName_87 : decode cX0_isName 87 = .ok (.aload_n 0, 1) := dk_42 (dk_at dksX0_isName_3 5 rfl rfl)
theorem dX0_isName_88 : decode cX0_isName 88 = .ok (.getfield 198, 3) := dk_180 0 198 (dk_at dksX0_isName_3 6 rfl rfl)
theorem dX0_isName_91 : decode cX0_isName 91 = .ok (.iconst 2, 1) := dk_5 (dk_at dksX0_isName_3 9 rfl rfl)
theorem dX0_isName_92 : decode cX0_isName 92 = .ok (.if_icmp .eq 7, 3) := dk_159 0 7 (dk_at dksX0_isName_3 10 rfl rfl)
theorem dX0_isName_95 : decode cX0_isName 95 = .ok (.iconst 1, 1) := dk_4 (dk_at dksX0_isName_3 13 rfl rfl)
theorem dX0_isName_96 : decode cX0_isName 96 = .ok (.goto 4, 3) := dk_167 0 4 (dk_at dksX0_isName_3 14 rfl rfl)
theorem dX0_isName_99 : decode cX0_isName 99 = .ok (.iconst 0, 1) := dk_3 (dk_at dksX0_isName_3 17 rfl rfl)
theorem dX0_isName_100 : decode cX0_isName 100 = .ok (.ireturn, 1) := dk_172 (dk_at dksX0_isName_3 18 rfl rfl)
theorem dX0_isName_101 : decode cX0_isName 101 = .ok (.aload_n 0, 1) := dk_42 (dk_at dksX0_isName_3 19 rfl rfl)
theorem dX0_isName_102 : decode cX0_isName 102 = .ok (.getfield 198, 3) := dk_180 0 198 (dk_at dksX0_isName_3 20 rfl rfl)
theorem dX0_isName_105 : decode cX0_isName 105 = .ok (.iconst 1, 1) := dk_4 (dk_at dksX0_isName_3 23 rfl rfl)
theorem dX0_isName_106 : decode cX0_isName 106 = .ok (.if_icmp .ne 7, 3) := dk_160 0 7 (dk_at dksX0_isName_4 0 rfl rfl)
theorem dX0_isName_109 : decode cX0_isName 109 = .ok (.iconst 1, 1) := dk_4 (dk_at dksX0_isName_4 3 rfl rfl)
theorem dX0_isName_110 : decode cX0_isName 110 = .ok (.goto 4, 3) := dk_167 0 4 (dk_at dksX0_isName_4 4 rfl rfl)
theorem dX0_isName_113 : decode cX0_isName 113 = .ok (.iconst 0, 1) := dk_3 (dk_at dksX0_isName_4 7 rfl rfl)
theorem dX0_isName_114 : decode cX0_isName 114 = .ok (.ireturn, 1) := dk_172 (dk_at dksX0_isName_4 8 rfl rfl)
theorem dX0_isName_115 : decode cX0_isName 115 = .ok (.aload_n 0, 1) := dk_42 (dk_at dksX0_isName_4 9 rfl rfl)
theorem dX0_isName_116 : decode cX0_isName 116 = .ok (.getfield 198, 3) := dk_180 0 198 (dk_at dksX0_isName_4 10 rfl rfl)
theorem dX0_isName_119 : decode cX0_isName 119 = .ok (.ifCond .eq 7, 3) := dk_153 0 7 (dk_at dksX0_isName_4 13 rfl rfl)
theorem dX0_isName_122 : decode cX0_isName 122 = .ok (.iconst 1, 1) := dk_4 (dk_at dksX0_isName_4 16 rfl rfl)
theorem dX0_isName_123 : decode cX0_isName 123 = .ok (.goto 4, 3) := dk_167 0 4 (dk_at dksX0_isName_4 17 rfl rfl)
theorem dX0_isName_126 : decode cX0_isName 126 = .ok (.iconst 0, 1) := dk_3 (dk_at dksX0_isName_4 20 rfl rfl)
theorem dX0_isName_127 : decode cX0_isName 127 = .ok (.ireturn, 1) := dk_172 (dk_at dksX0_isName_4 21 rfl rfl)
theorem dX0_isName_128 : decode cX0_isName 128 = .ok (.aload_n 0, 1) := dk_42 (dk_at dksX0_isName_4 22 rfl rfl)
theorem dX0_isName_129 : decode cX0_isName 129 = .ok (.getfield 198, 3) := dk_180 0 198 (dk_at dksX0_isName_5 0 rfl rfl)
theorem dX0_isName_132 : decode cX0_isName 132 = .ok (.iconst 2, 1) := dk_5 (dk_at dksX0_isName_5 3 rfl rfl)
theorem dX0_isName_133 : decode cX0_isName 133 = .ok (.if_icmp .ne 7, 3) := dk_160 0 7 (dk_at dksX0_isName_5 4 rfl rfl)
theorem dX0_isName_136 : decode cX0_isName 136 = .ok (.iconst 1, 1) := dk_4 (dk_at dksX0_isName_5 7 rfl rfl)
theorem dX0_isName_137 : decode cX0_isName 137 = .ok (.goto 4, 3) := dk_167 0 4 (dk_at dksX0_isName_5 8 rfl rfl)
theorem dX0_isName_140 : decode cX0_isName 140 = .ok (.iconst 0, 1) := dk_3 (dk_at dksX0_isName_5 11 rfl rfl)
theorem dX0_isName_141 : decode cX0_isName 141 = .ok (.ireturn, 1) := dk_172 (dk_at dksX0_isName_5 12 rfl rfl)
theorem dX0_isName_142 : decode cX0_isName 142 = .ok (.iconst 0, 1) := dk_3 (dk_at dksX0_isName_5 13 rfl rfl)
theorem dX0_isName_143 : decode cX0_isName 143 = .ok (.ireturn, 1) := dk_172 (dk_at dksX0_isName_5 14 rfl rfl)
abbrev cX0_textTold : ByteArray := prog_1_method_33_code
def yX0_textTold : MethodName := ⟨RX0, "textTold", "(II)I"⟩
def dkwX0_textTold_2 : List UInt8 := [167, 0, 15, 42, 180, 0, 46, 180, 0, 245, 27, 50, 180, 0, 251, 172]
abbrev dktX0_textTold_2 : List UInt8 := dkwX0_textTold_2 ++ []
def dkwX0_textTold_1 : List UInt8 := [154, 0, 6, 18, 135, 172, 28, 154, 0, 18, 42, 180, 0, 46, 180, 0, 245, 27, 50, 180, 0, 249]
abbrev dktX0_textTold_1 : List UInt8 := dkwX0_textTold_1 ++ dktX0_textTold_2
def dkwX0_textTold_0 : List UInt8 := [27, 3, 42, 180, 0, 46, 180, 0, 242, 4, 100, 184, 0, 105, 153, 0, 12, 28, 3, 4, 184, 0, 105]
abbrev dktX0_textTold_0 : List UInt8 := dkwX0_textTold_0 ++ dktX0_textTold_1
theorem dksX0_textTold_0 : cX0_textTold.data.toList.drop 0 = dktX0_textTold_0 := by decide +kernel
theorem dksX0_textTold_1 : cX0_textTold.data.toList.drop 23 = dktX0_textTold_1 := dk_seg dksX0_textTold_0 23 rfl rfl
theorem dksX0_textTold_2 : cX0_textTold.data.toList.drop 45 = dktX0_textTold_2 := dk_seg dksX0_textTold_1 22 rfl rfl
theorem dX0_textTold_0 : decode cX0_textTold 0 = .ok (.iload_n 1, 1) := dk_27 (dk_at dksX0_textTold_0 0 rfl rfl)
theorem dX0_textTold_1 : decode cX0_textTold 1 = .ok (.iconst 0, 1) := dk_3 (dk_at dksX0_textTold_0 1 rfl rfl)
theorem dX0_textTold_2 : decode cX0_textTold 2 = .ok (.aload_n 0, 1) := dk_42 (dk_at dksX0_textTold_0 2 rfl rfl)
theorem dX0_textTold_3 : decode cX0_textTold 3 = .ok (.getfield 46, 3) := dk_180 0 46 (dk_at dksX0_textTold_0 3 rfl rfl)
theorem dX0_textTold_6 : decode cX0_textTold 6 = .ok (.getfield 242, 3) := dk_180 0 242 (dk_at dksX0_textTold_0 6 rfl rfl)
theorem dX0_textTold_9 : decode cX0_textTold 9 = .ok (.iconst 1, 1) := dk_4 (dk_at dksX0_textTold_0 9 rfl rfl)
theorem dX0_textTold_10 : decode cX0_textTold 10 = .ok (.isub, 1) := dk_100 (dk_at dksX0_textTold_0 10 rfl rfl)
theorem dX0_textTold_11 : decode cX0_textTold 11 = .ok (.invokestatic 105, 3) := dk_184 0 105 (dk_at dksX0_textTold_0 11 rfl rfl)
theorem dX0_textTold_14 : decode cX0_textTold 14 = .ok (.ifCond .eq 12, 3) := dk_153 0 12 (dk_at dksX0_textTold_0 14 rfl rfl)
theorem dX0_textTold_17 : decode cX0_textTold 17 = .ok (.iload_n 2, 1) := dk_28 (dk_at dksX0_textTold_0 17 rfl rfl)
theorem dX0_textTold_18 : decode cX0_textTold 18 = .ok (.iconst 0, 1) := dk_3 (dk_at dksX0_textTold_0 18 rfl rfl)
theorem dX0_textTold_19 : decode cX0_textTold 19 = .ok (.iconst 1, 1) := dk_4 (dk_at dksX0_textTold_0 19 rfl rfl)
theorem dX0_textTold_20 : decode cX0_textTold 20 = .ok (.invokestatic 105, 3) := dk_184 0 105 (dk_at dksX0_textTold_0 20 rfl rfl)
theorem dX0_textTold_23 : decode cX0_textTold 23 = .ok (.ifCond .ne 6, 3) := dk_154 0 6 (dk_at dksX0_textTold_1 0 rfl rfl)
theorem dX0_textTold_26 : decode cX0_textTold 26 = .ok (.ldc 135, 2) := dk_18 135 (dk_at dksX0_textTold_1 3 rfl rfl)
theorem dX0_textTold_28 : decode cX0_textTold 28 = .ok (.ireturn, 1) := dk_172 (dk_at dksX0_textTold_1 5 rfl rfl)
theorem dX0_textTold_29 : decode cX0_textTold 29 = .ok (.iload_n 2, 1) := dk_28 (dk_at dksX0_textTold_1 6 rfl rfl)
theorem dX0_textTold_30 : decode cX0_textTold 30 = .ok (.ifCond .ne 18, 3) := dk_154 0 18 (dk_at dksX0_textTold_1 7 rfl rfl)
theorem dX0_textTold_33 : decode cX0_textTold 33 = .ok (.aload_n 0, 1) := dk_42 (dk_at dksX0_textTold_1 10 rfl rfl)
theorem dX0_textTold_34 : decode cX0_textTold 34 = .ok (.getfield 46, 3) := dk_180 0 46 (dk_at dksX0_textTold_1 11 rfl rfl)
theorem dX0_textTold_37 : decode cX0_textTold 37 = .ok (.getfield 245, 3) := dk_180 0 245 (dk_at dksX0_textTold_1 14 rfl rfl)
theorem dX0_textTold_40 : decode cX0_textTold 40 = .ok (.iload_n 1, 1) := dk_27 (dk_at dksX0_textTold_1 17 rfl rfl)
theorem dX0_textTold_41 : decode cX0_textTold 41 = .ok (.aaload, 1) := dk_50 (dk_at dksX0_textTold_1 18 rfl rfl)
theorem dX0_textTold_42 : decode cX0_textTold 42 = .ok (.getfield 249, 3) := dk_180 0 249 (dk_at dksX0_textTold_1 19 rfl rfl)
theorem dX0_textTold_45 : decode cX0_textTold 45 = .ok (.goto 15, 3) := dk_167 0 15 (dk_at dksX0_textTold_2 0 rfl rfl)
theorem dX0_textTold_48 : decode cX0_textTold 48 = .ok (.aload_n 0, 1) := dk_42 (dk_at dksX0_textTold_2 3 rfl rfl)
theorem dX0_textTold_49 : decode cX0_textTold 49 = .ok (.getfield 46, 3) := dk_180 0 46 (dk_at dksX0_textTold_2 4 rfl rfl)
theorem dX0_textTold_52 : decode cX0_textTold 52 = .ok (.getfield 245, 3) := dk_180 0 245 (dk_at dksX0_textTold_2 7 rfl rfl)
theorem dX0_textTold_55 : decode cX0_textTold 55 = .ok (.iload_n 1, 1) := dk_27 (dk_at dksX0_textTold_2 10 rfl rfl)
theorem dX0_textTold_56 : decode cX0_textTold 56 = .ok (.aaload, 1) := dk_50 (dk_at dksX0_textTold_2 11 rfl rfl)
theorem dX0_textTold_57 : decode cX0_textTold 57 = .ok (.getfield 251, 3) := dk_180 0 251 (dk_at dksX0_textTold_2 12 rfl rfl)
theorem dX0_textTold_60 : decode cX0_textTold 60 = .ok (.ireturn, 1) := dk_172 (dk_at dksX0_textTold_2 15 rfl rfl)
abbrev cX0_why : ByteArray := prog_1_method_35_code
def yX0_why : MethodName := ⟨RX0, "why", "(I)I"⟩
def dkwX0_why_0 : List UInt8 := [27, 3, 5, 184, 0, 105, 153, 0, 14, 42, 27, 182, 0, 252, 184, 1, 0, 167, 0, 5, 18, 135, 172]
abbrev dktX0_why_0 : List UInt8 := dkwX0_why_0 ++ []
theorem dksX0_why_0 : cX0_why.data.toList.drop 0 = dktX0_why_0 := by decide +kernel
theorem dX0_why_0 : decode cX0_why 0 = .ok (.iload_n 1, 1) := dk_27 (dk_at dksX0_why_0 0 rfl rfl)
theorem dX0_why_1 : decode cX0_why 1 = .ok (.iconst 0, 1) := dk_3 (dk_at dksX0_why_0 1 rfl rfl)
theorem dX0_why_2 : decode cX0_why 2 = .ok (.iconst 2, 1) := dk_5 (dk_at dksX0_why_0 2 rfl rfl)
theorem dX0_why_3 : decode cX0_why 3 = .ok (.invokestatic 105, 3) := dk_184 0 105 (dk_at dksX0_why_0 3 rfl rfl)
theorem dX0_why_6 : decode cX0_why 6 = .ok (.ifCond .eq 14, 3) := dk_153 0 14 (dk_at dksX0_why_0 6 rfl rfl)
theorem dX0_why_9 : decode cX0_why 9 = .ok (.aload_n 0, 1) := dk_42 (dk_at dksX0_why_0 9 rfl rfl)
theorem dX0_why_10 : decode cX0_why 10 = .ok (.iload_n 1, 1) := dk_27 (dk_at dksX0_why_0 10 rfl rfl)
theorem dX0_why_11 : decode cX0_why 11 = .ok (.invokevirtual 252, 3) := dk_182 0 252 (dk_at dksX0_why_0 11 rfl rfl)
theorem dX0_why_14 : decode cX0_why 14 = .ok (.invokestatic 256, 3) := dk_184 1 0 (dk_at dksX0_why_0 14 rfl rfl)
theorem dX0_why_17 : decode cX0_why 17 = .ok (.goto 5, 3) := dk_167 0 5 (dk_at dksX0_why_0 17 rfl rfl)
theorem dX0_why_20 : decode cX0_why 20 = .ok (.ldc 135, 2) := dk_18 135 (dk_at dksX0_why_0 20 rfl rfl)
theorem dX0_why_22 : decode cX0_why 22 = .ok (.ireturn, 1) := dk_172 (dk_at dksX0_why_0 22 rfl rfl)
abbrev cX0_counts : ByteArray := prog_1_method_34_code
def yX0_counts : MethodName := ⟨RX0, "counts", "(I)I"⟩
def dkwX0_counts_1 : List UInt8 := [180, 0, 249, 27, 160, 0, 7, 29, 167, 0, 4, 28, 61, 132, 3, 1, 167, 255, 220, 28, 172]
abbrev dktX0_counts_1 : List UInt8 := dkwX0_counts_1 ++ []
def dkwX0_counts_0 : List UInt8 := [2, 61, 3, 62, 29, 42, 180, 0, 46, 180, 0, 242, 162, 0, 31, 42, 180, 0, 46, 180, 0, 245, 29, 50]
abbrev dktX0_counts_0 : List UInt8 := dkwX0_counts_0 ++ dktX0_counts_1
theorem dksX0_counts_0 : cX0_counts.data.toList.drop 0 = dktX0_counts_0 := by decide +kernel
theorem dksX0_counts_1 : cX0_counts.data.toList.drop 24 = dktX0_counts_1 := dk_seg dksX0_counts_0 24 rfl rfl
theorem dX0_counts_0 : decode cX0_counts 0 = .ok (.iconst (-1), 1) := dk_2 (dk_at dksX0_counts_0 0 rfl rfl)
theorem dX0_counts_1 : decode cX0_counts 1 = .ok (.istore_n 2, 1) := dk_61 (dk_at dksX0_counts_0 1 rfl rfl)
theorem dX0_counts_2 : decode cX0_counts 2 = .ok (.iconst 0, 1) := dk_3 (dk_at dksX0_counts_0 2 rfl rfl)
theorem dX0_counts_3 : decode cX0_counts 3 = .ok (.istore_n 3, 1) := dk_62 (dk_at dksX0_counts_0 3 rfl rfl)
theorem dX0_counts_4 : decode cX0_counts 4 = .ok (.iload_n 3, 1) := dk_29 (dk_at dksX0_counts_0 4 rfl rfl)
theorem dX0_counts_5 : decode cX0_counts 5 = .ok (.aload_n 0, 1) := dk_42 (dk_at dksX0_counts_0 5 rfl rfl)
theorem dX0_counts_6 : decode cX0_counts 6 = .ok (.getfield 46, 3) := dk_180 0 46 (dk_at dksX0_counts_0 6 rfl rfl)
theorem dX0_counts_9 : decode cX0_counts 9 = .ok (.getfield 242, 3) := dk_180 0 242 (dk_at dksX0_counts_0 9 rfl rfl)
theorem dX0_counts_12 : decode cX0_counts 12 = .ok (.if_icmp .ge 31, 3) := dk_162 0 31 (dk_at dksX0_counts_0 12 rfl rfl)
theorem dX0_counts_15 : decode cX0_counts 15 = .ok (.aload_n 0, 1) := dk_42 (dk_at dksX0_counts_0 15 rfl rfl)
theorem dX0_counts_16 : decode cX0_counts 16 = .ok (.getfield 46, 3) := dk_180 0 46 (dk_at dksX0_counts_0 16 rfl rfl)
theorem dX0_counts_19 : decode cX0_counts 19 = .ok (.getfield 245, 3) := dk_180 0 245 (dk_at dksX0_counts_0 19 rfl rfl)
theorem dX0_counts_22 : decode cX0_counts 22 = .ok (.iload_n 3, 1) := dk_29 (dk_at dksX0_counts_0 22 rfl rfl)
theorem dX0_counts_23 : decode cX0_counts 23 = .ok (.aaload, 1) := dk_50 (dk_at dksX0_counts_0 23 rfl rfl)
theorem dX0_counts_24 : decode cX0_counts 24 = .ok (.getfield 249, 3) := dk_180 0 249 (dk_at dksX0_counts_1 0 rfl rfl)
theorem dX0_counts_27 : decode cX0_counts 27 = .ok (.iload_n 1, 1) := dk_27 (dk_at dksX0_counts_1 3 rfl rfl)
theorem dX0_counts_28 : decode cX0_counts 28 = .ok (.if_icmp .ne 7, 3) := dk_160 0 7 (dk_at dksX0_counts_1 4 rfl rfl)
theorem dX0_counts_31 : decode cX0_counts 31 = .ok (.iload_n 3, 1) := dk_29 (dk_at dksX0_counts_1 7 rfl rfl)
theorem dX0_counts_32 : decode cX0_counts 32 = .ok (.goto 4, 3) := dk_167 0 4 (dk_at dksX0_counts_1 8 rfl rfl)
theorem dX0_counts_35 : decode cX0_counts 35 = .ok (.iload_n 2, 1) := dk_28 (dk_at dksX0_counts_1 11 rfl rfl)
theorem dX0_counts_36 : decode cX0_counts 36 = .ok (.istore_n 2, 1) := dk_61 (dk_at dksX0_counts_1 12 rfl rfl)
theorem dX0_counts_37 : decode cX0_counts 37 = .ok (.iinc 3 1, 3) := dk_132 3 1 (dk_at dksX0_counts_1 13 rfl rfl)
theorem dX0_counts_40 : decode cX0_counts 40 = .ok (.goto (-36), 3) := dk_167 255 220 (dk_at dksX0_counts_1 16 rfl rfl)
theorem dX0_counts_43 : decode cX0_counts 43 = .ok (.iload_n 2, 1) := dk_28 (dk_at dksX0_counts_1 19 rfl rfl)
theorem dX0_counts_44 : decode cX0_counts 44 = .ok (.ireturn, 1) := dk_172 (dk_at dksX0_counts_1 20 rfl rfl)
abbrev cX0_orNone : ByteArray := prog_1_method_2_code
def yX0_orNone : MethodName := ⟨RX0, "orNone", "(I)I"⟩
def dkwX0_orNone_0 : List UInt8 := [26, 2, 160, 0, 8, 18, 3, 167, 0, 4, 26, 172]
abbrev dktX0_orNone_0 : List UInt8 := dkwX0_orNone_0 ++ []
theorem dksX0_orNone_0 : cX0_orNone.data.toList.drop 0 = dktX0_orNone_0 := by decide +kernel
theorem dX0_orNone_0 : decode cX0_orNone 0 = .ok (.iload_n 0, 1) := dk_26 (dk_at dksX0_orNone_0 0 rfl rfl)
theorem dX0_orNone_1 : decode cX0_orNone 1 = .ok (.iconst (-1), 1) := dk_2 (dk_at dksX0_orNone_0 1 rfl rfl)
theorem dX0_orNone_2 : decode cX0_orNone 2 = .ok (.if_icmp .ne 8, 3) := dk_160 0 8 (dk_at dksX0_orNone_0 2 rfl rfl)
theorem dX0_orNone_5 : decode cX0_orNone 5 = .ok (.ldc 3, 2) := dk_18 3 (dk_at dksX0_orNone_0 5 rfl rfl)
theorem dX0_orNone_7 : decode cX0_orNone 7 = .ok (.goto 4, 3) := dk_167 0 4 (dk_at dksX0_orNone_0 7 rfl rfl)
theorem dX0_orNone_10 : decode cX0_orNone 10 = .ok (.iload_n 0, 1) := dk_26 (dk_at dksX0_orNone_0 10 rfl rfl)
theorem dX0_orNone_11 : decode cX0_orNone 11 = .ok (.ireturn, 1) := dk_172 (dk_at dksX0_orNone_0 11 rfl rfl)
abbrev cX0_person : ByteArray := prog_1_method_38_code
def yX0_person : MethodName := ⟨RX0, "person", "(II)I"⟩
def dkwX0_person_1 : List UInt8 := [180, 0, 101, 16, 12, 160, 0, 8, 18, 130, 167, 0, 10, 42, 27, 28, 3, 182, 1, 34, 172]
abbrev dktX0_person_1 : List UInt8 := dkwX0_person_1 ++ []
def dkwX0_person_0 : List UInt8 := [27, 3, 8, 184, 0, 105, 153, 0, 10, 28, 184, 1, 31, 154, 0, 6, 18, 135, 172, 42, 180, 0, 46]
abbrev dktX0_person_0 : List UInt8 := dkwX0_person_0 ++ dktX0_person_1
theorem dksX0_person_0 : cX0_person.data.toList.drop 0 = dktX0_person_0 := by decide +kernel
theorem dksX0_person_1 : cX0_person.data.toList.drop 23 = dktX0_person_1 := dk_seg dksX0_person_0 23 rfl rfl
theorem dX0_person_0 : decode cX0_person 0 = .ok (.iload_n 1, 1) := dk_27 (dk_at dksX0_person_0 0 rfl rfl)
theorem dX0_person_1 : decode cX0_person 1 = .ok (.iconst 0, 1) := dk_3 (dk_at dksX0_person_0 1 rfl rfl)
theorem dX0_person_2 : decode cX0_person 2 = .ok (.iconst 5, 1) := dk_8 (dk_at dksX0_person_0 2 rfl rfl)
theorem dX0_person_3 : decode cX0_person 3 = .ok (.invokestatic 105, 3) := dk_184 0 105 (dk_at dksX0_person_0 3 rfl rfl)
theorem dX0_person_6 : decode cX0_person 6 = .ok (.ifCond .eq 10, 3) := dk_153 0 10 (dk_at dksX0_person_0 6 rfl rfl)
theorem dX0_person_9 : decode cX0_person 9 = .ok (.iload_n 2, 1) := dk_28 (dk_at dksX0_person_0 9 rfl rfl)
theorem dX0_person_10 : decode cX0_person 10 = .ok (.invokestatic 287, 3) := dk_184 1 31 (dk_at dksX0_person_0 10 rfl rfl)
theorem dX0_person_13 : decode cX0_person 13 = .ok (.ifCond .ne 6, 3) := dk_154 0 6 (dk_at dksX0_person_0 13 rfl rfl)
theorem dX0_person_16 : decode cX0_person 16 = .ok (.ldc 135, 2) := dk_18 135 (dk_at dksX0_person_0 16 rfl rfl)
theorem dX0_person_18 : decode cX0_person 18 = .ok (.ireturn, 1) := dk_172 (dk_at dksX0_person_0 18 rfl rfl)
theorem dX0_person_19 : decode cX0_person 19 = .ok (.aload_n 0, 1) := dk_42 (dk_at dksX0_person_0 19 rfl rfl)
theorem dX0_person_20 : decode cX0_person 20 = .ok (.getfield 46, 3) := dk_180 0 46 (dk_at dksX0_person_0 20 rfl rfl)
theorem dX0_person_23 : decode cX0_person 23 = .ok (.getfield 101, 3) := dk_180 0 101 (dk_at dksX0_person_1 0 rfl rfl)
theorem dX0_person_26 : decode cX0_person 26 = .ok (.bipush 12, 2) := dk_16 12 (dk_at dksX0_person_1 3 rfl rfl)
theorem dX0_person_28 : decode cX0_person 28 = .ok (.if_icmp .ne 8, 3) := dk_160 0 8 (dk_at dksX0_person_1 5 rfl rfl)
theorem dX0_person_31 : decode cX0_person 31 = .ok (.ldc 130, 2) := dk_18 130 (dk_at dksX0_person_1 8 rfl rfl)
theorem dX0_person_33 : decode cX0_person 33 = .ok (.goto 10, 3) := dk_167 0 10 (dk_at dksX0_person_1 10 rfl rfl)
theorem dX0_person_36 : decode cX0_person 36 = .ok (.aload_n 0, 1) := dk_42 (dk_at dksX0_person_1 13 rfl rfl)
theorem dX0_person_37 : decode cX0_person 37 = .ok (.iload_n 1, 1) := dk_27 (dk_at dksX0_person_1 14 rfl rfl)
theorem dX0_person_38 : decode cX0_person 38 = .ok (.iload_n 2, 1) := dk_28 (dk_at dksX0_person_1 15 rfl rfl)
theorem dX0_person_39 : decode cX0_person 39 = .ok (.iconst 0, 1) := dk_3 (dk_at dksX0_person_1 16 rfl rfl)
theorem dX0_person_40 : decode cX0_person 40 = .ok (.invokevirtual 290, 3) := dk_182 1 34 (dk_at dksX0_person_1 17 rfl rfl)
theorem dX0_person_43 : decode cX0_person 43 = .ok (.ireturn, 1) := dk_172 (dk_at dksX0_person_1 20 rfl rfl)
abbrev cX0_isBold : ByteArray := prog_1_method_36_code
def yX0_isBold : MethodName := ⟨RX0, "isBold", "(I)Z"⟩
def dkwX0_isBold_0 : List UInt8 := [26, 3, 16, 100, 184, 0, 105, 172]
abbrev dktX0_isBold_0 : List UInt8 := dkwX0_isBold_0 ++ []
theorem dksX0_isBold_0 : cX0_isBold.data.toList.drop 0 = dktX0_isBold_0 := by decide +kernel
theorem dX0_isBold_0 : decode cX0_isBold 0 = .ok (.iload_n 0, 1) := dk_26 (dk_at dksX0_isBold_0 0 rfl rfl)
theorem dX0_isBold_1 : decode cX0_isBold 1 = .ok (.iconst 0, 1) := dk_3 (dk_at dksX0_isBold_0 1 rfl rfl)
theorem dX0_isBold_2 : decode cX0_isBold 2 = .ok (.bipush 100, 2) := dk_16 100 (dk_at dksX0_isBold_0 2 rfl rfl)
theorem dX0_isBold_4 : decode cX0_isBold 4 = .ok (.invokestatic 105, 3) := dk_184 0 105 (dk_at dksX0_isBold_0 4 rfl rfl)
theorem dX0_isBold_7 : decode cX0_isBold 7 = .ok (.ireturn, 1) := dk_172 (dk_at dksX0_isBold_0 7 rfl rfl)
abbrev cX0_comes : ByteArray := prog_1_method_37_code
def yX0_comes : MethodName := ⟨RX0, "comes", "(III)I"⟩
def dkwX0_comes_5 : List UInt8 := [181, 1, 26, 132, 5, 1, 167, 255, 219, 21, 4, 172]
abbrev dktX0_comes_5 : List UInt8 := dkwX0_comes_5 ++ []
def dkwX0_comes_4 : List UInt8 := [162, 0, 31, 42, 180, 0, 46, 180, 1, 22, 21, 5, 50, 89, 180, 1, 26, 4, 21, 4, 120, 128]
abbrev dktX0_comes_4 : List UInt8 := dkwX0_comes_4 ++ dktX0_comes_5
def dkwX0_comes_3 : List UInt8 := [180, 0, 46, 89, 180, 0, 101, 4, 96, 181, 0, 101, 3, 54, 5, 21, 5, 42, 180, 0, 46, 180, 0, 109]
abbrev dktX0_comes_3 : List UInt8 := dkwX0_comes_3 ++ dktX0_comes_4
def dkwX0_comes_2 : List UInt8 := [42, 180, 0, 46, 180, 1, 16, 21, 4, 3, 79, 42, 180, 0, 46, 180, 1, 19, 21, 4, 3, 79, 42]
abbrev dktX0_comes_2 : List UInt8 := dkwX0_comes_2 ++ dktX0_comes_3
def dkwX0_comes_1 : List UInt8 := [180, 0, 46, 180, 1, 3, 21, 4, 50, 28, 181, 1, 11, 42, 180, 0, 46, 180, 1, 13, 21, 4, 29, 79]
abbrev dktX0_comes_1 : List UInt8 := dkwX0_comes_1 ++ dktX0_comes_2
def dkwX0_comes_0 : List UInt8 := [42, 180, 0, 46, 180, 0, 101, 54, 4, 42, 180, 0, 46, 180, 1, 3, 21, 4, 27, 184, 1, 7, 83, 42]
abbrev dktX0_comes_0 : List UInt8 := dkwX0_comes_0 ++ dktX0_comes_1
theorem dksX0_comes_0 : cX0_comes.data.toList.drop 0 = dktX0_comes_0 := by decide +kernel
theorem dksX0_comes_1 : cX0_comes.data.toList.drop 24 = dktX0_comes_1 := dk_seg dksX0_comes_0 24 rfl rfl
theorem dksX0_comes_2 : cX0_comes.data.toList.drop 48 = dktX0_comes_2 := dk_seg dksX0_comes_1 24 rfl rfl
theorem dksX0_comes_3 : cX0_comes.data.toList.drop 71 = dktX0_comes_3 := dk_seg dksX0_comes_2 23 rfl rfl
theorem dksX0_comes_4 : cX0_comes.data.toList.drop 95 = dktX0_comes_4 := dk_seg dksX0_comes_3 24 rfl rfl
theorem dksX0_comes_5 : cX0_comes.data.toList.drop 117 = dktX0_comes_5 := dk_seg dksX0_comes_4 22 rfl rfl
theorem dX0_comes_0 : decode cX0_comes 0 = .ok (.aload_n 0, 1) := dk_42 (dk_at dksX0_comes_0 0 rfl rfl)
theorem dX0_comes_1 : decode cX0_comes 1 = .ok (.getfield 46, 3) := dk_180 0 46 (dk_at dksX0_comes_0 1 rfl rfl)
theorem dX0_comes_4 : decode cX0_comes 4 = .ok (.getfield 101, 3) := dk_180 0 101 (dk_at dksX0_comes_0 4 rfl rfl)
theorem dX0_comes_7 : decode cX0_comes 7 = .ok (.istore 4, 2) := dk_54 4 (dk_at dksX0_comes_0 7 rfl rfl)
theorem dX0_comes_9 : decode cX0_comes 9 = .ok (.aload_n 0, 1) := dk_42 (dk_at dksX0_comes_0 9 rfl rfl)
theorem dX0_comes_10 : decode cX0_comes 10 = .ok (.getfield 46, 3) := dk_180 0 46 (dk_at dksX0_comes_0 10 rfl rfl)
theorem dX0_comes_13 : decode cX0_comes 13 = .ok (.getfield 259, 3) := dk_180 1 3 (dk_at dksX0_comes_0 13 rfl rfl)
theorem dX0_comes_16 : decode cX0_comes 16 = .ok (.iload 4, 2) := dk_21 4 (dk_at dksX0_comes_0 16 rfl rfl)
theorem dX0_comes_18 : decode cX0_comes 18 = .ok (.iload_n 1, 1) := dk_27 (dk_at dksX0_comes_0 18 rfl rfl)
theorem dX0_comes_19 : decode cX0_comes 19 = .ok (.invokestatic 263, 3) := dk_184 1 7 (dk_at dksX0_comes_0 19 rfl rfl)
theorem dX0_comes_22 : decode cX0_comes 22 = .ok (.aastore, 1) := dk_83 (dk_at dksX0_comes_0 22 rfl rfl)
theorem dX0_comes_23 : decode cX0_comes 23 = .ok (.aload_n 0, 1) := dk_42 (dk_at dksX0_comes_0 23 rfl rfl)
theorem dX0_comes_24 : decode cX0_comes 24 = .ok (.getfield 46, 3) := dk_180 0 46 (dk_at dksX0_comes_1 0 rfl rfl)
theorem dX0_comes_27 : decode cX0_comes 27 = .ok (.getfield 259, 3) := dk_180 1 3 (dk_at dksX0_comes_1 3 rfl rfl)
theorem dX0_comes_30 : decode cX0_comes 30 = .ok (.iload 4, 2) := dk_21 4 (dk_at dksX0_comes_1 6 rfl rfl)
theorem dX0_comes_32 : decode cX0_comes 32 = .ok (.aaload, 1) := dk_50 (dk_at dksX0_comes_1 8 rfl rfl)
theorem dX0_comes_33 : decode cX0_comes 33 = .ok (.iload_n 2, 1) := dk_28 (dk_at dksX0_comes_1 9 rfl rfl)
theorem dX0_comes_34 : decode cX0_comes 34 = .ok (.putfield 267, 3) := dk_181 1 11 (dk_at dksX0_comes_1 10 rfl rfl)
theorem dX0_comes_37 : decode cX0_comes 37 = .ok (.aload_n 0, 1) := dk_42 (dk_at dksX0_comes_1 13 rfl rfl)
theorem dX0_comes_38 : decode cX0_comes 38 = .ok (.getfield 46, 3) := dk_180 0 46 (dk_at dksX0_comes_1 14 rfl rfl)
theorem dX0_comes_41 : decode cX0_comes 41 = .ok (.getfield 269, 3) := dk_180 1 13 (dk_at dksX0_comes_1 17 rfl rfl)
theorem dX0_comes_44 : decode cX0_comes 44 = .ok (.iload 4, 2) := dk_21 4 (dk_at dksX0_comes_1 20 rfl rfl)
theorem dX0_comes_46 : decode cX0_comes 46 = .ok (.iload_n 3, 1) := dk_29 (dk_at dksX0_comes_1 22 rfl rfl)
theorem dX0_comes_47 : decode cX0_comes 47 = .ok (.iastore, 1) := dk_79 (dk_at dksX0_comes_1 23 rfl rfl)
theorem dX0_comes_48 : decode cX0_comes 48 = .ok (.aload_n 0, 1) := dk_42 (dk_at dksX0_comes_2 0 rfl rfl)
theorem dX0_comes_49 : decode cX0_comes 49 = .ok (.getfield 46, 3) := dk_180 0 46 (dk_at dksX0_comes_2 1 rfl rfl)
theorem dX0_comes_52 : decode cX0_comes 52 = .ok (.getfield 272, 3) := dk_180 1 16 (dk_at dksX0_comes_2 4 rfl rfl)
theorem dX0_comes_55 : decode cX0_comes 55 = .ok (.iload 4, 2) := dk_21 4 (dk_at dksX0_comes_2 7 rfl rfl)
theorem dX0_comes_57 : decode cX0_comes 57 = .ok (.iconst 0, 1) := dk_3 (dk_at dksX0_comes_2 9 rfl rfl)
theorem dX0_comes_58 : decode cX0_comes 58 = .ok (.iastore, 1) := dk_79 (dk_at dksX0_comes_2 10 rfl rfl)
theorem dX0_comes_59 : decode cX0_comes 59 = .ok (.aload_n 0, 1) := dk_42 (dk_at dksX0_comes_2 11 rfl rfl)
theorem dX0_comes_60 : decode cX0_comes 60 = .ok (.getfield 46, 3) := dk_180 0 46 (dk_at dksX0_comes_2 12 rfl rfl)
theorem dX0_comes_63 : decode cX0_comes 63 = .ok (.getfield 275, 3) := dk_180 1 19 (dk_at dksX0_comes_2 15 rfl rfl)
theorem dX0_comes_66 : decode cX0_comes 66 = .ok (.iload 4, 2) := dk_21 4 (dk_at dksX0_comes_2 18 rfl rfl)
theorem dX0_comes_68 : decode cX0_comes 68 = .ok (.iconst 0, 1) := dk_3 (dk_at dksX0_comes_2 20 rfl rfl)
theorem dX0_comes_69 : decode cX0_comes 69 = .ok (.iastore, 1) := dk_79 (dk_at dksX0_comes_2 21 rfl rfl)
theorem dX0_comes_70 : decode cX0_comes 70 = .ok (.aload_n 0, 1) := dk_42 (dk_at dksX0_comes_2 22 rfl rfl)
theorem dX0_comes_71 : decode cX0_comes 71 = .ok (.getfield 46, 3) := dk_180 0 46 (dk_at dksX0_comes_3 0 rfl rfl)
theorem dX0_comes_74 : decode cX0_comes 74 = .ok (.dup, 1) := dk_89 (dk_at dksX0_comes_3 3 rfl rfl)
theorem dX0_comes_75 : decode cX0_comes 75 = .ok (.getfield 101, 3) := dk_180 0 101 (dk_at dksX0_comes_3 4 rfl rfl)
theorem dX0_comes_78 : decode cX0_comes 78 = .ok (.iconst 1, 1) := dk_4 (dk_at dksX0_comes_3 7 rfl rfl)
theorem dX0_comes_79 : decode cX0_comes 79 = .ok (.iadd, 1) := dk_96 (dk_at dksX0_comes_3 8 rfl rfl)
theorem dX0_comes_80 : decode cX0_comes 80 = .ok (.putfield 101, 3) := dk_181 0 101 (dk_at dksX0_comes_3 9 rfl rfl)
theorem dX0_comes_83 : decode cX0_comes 83 = .ok (.iconst 0, 1) := dk_3 (dk_at dksX0_comes_3 12 rfl rfl)
theorem dX0_comes_84 : decode cX0_comes 84 = .ok (.istore 5, 2) := dk_54 5 (dk_at dksX0_comes_3 13 rfl rfl)
theorem dX0_comes_86 : decode cX0_comes 86 = .ok (.iload 5, 2) := dk_21 5 (dk_at dksX0_comes_3 15 rfl rfl)
theorem dX0_comes_88 : decode cX0_comes 88 = .ok (.aload_n 0, 1) := dk_42 (dk_at dksX0_comes_3 17 rfl rfl)
theorem dX0_comes_89 : decode cX0_comes 89 = .ok (.getfield 46, 3) := dk_180 0 46 (dk_at dksX0_comes_3 18 rfl rfl)
theorem dX0_comes_92 : decode cX0_comes 92 = .ok (.getfield 109, 3) := dk_180 0 109 (dk_at dksX0_comes_3 21 rfl rfl)
theorem dX0_comes_95 : decode cX0_comes 95 = .ok (.if_icmp .ge 31, 3) := dk_162 0 31 (dk_at dksX0_comes_4 0 rfl rfl)
theorem dX0_comes_98 : decode cX0_comes 98 = .ok (.aload_n 0, 1) := dk_42 (dk_at dksX0_comes_4 3 rfl rfl)
theorem dX0_comes_99 : decode cX0_comes 99 = .ok (.getfield 46, 3) := dk_180 0 46 (dk_at dksX0_comes_4 4 rfl rfl)
theorem dX0_comes_102 : decode cX0_comes 102 = .ok (.getfield 278, 3) := dk_180 1 22 (dk_at dksX0_comes_4 7 rfl rfl)
theorem dX0_comes_105 : decode cX0_comes 105 = .ok (.iload 5, 2) := dk_21 5 (dk_at dksX0_comes_4 10 rfl rfl)
theorem dX0_comes_107 : decode cX0_comes 107 = .ok (.aaload, 1) := dk_50 (dk_at dksX0_comes_4 12 rfl rfl)
theorem dX0_comes_108 : decode cX0_comes 108 = .ok (.dup, 1) := dk_89 (dk_at dksX0_comes_4 13 rfl rfl)
theorem dX0_comes_109 : decode cX0_comes 109 = .ok (.getfield 282, 3) := dk_180 1 26 (dk_at dksX0_comes_4 14 rfl rfl)
theorem dX0_comes_112 : decode cX0_comes 112 = .ok (.iconst 1, 1) := dk_4 (dk_at dksX0_comes_4 17 rfl rfl)
theorem dX0_comes_113 : decode cX0_comes 113 = .ok (.iload 4, 2) := dk_21 4 (dk_at dksX0_comes_4 18 rfl rfl)
theorem dX0_comes_115 : decode cX0_comes 115 = .ok (.ishl, 1) := dk_120 (dk_at dksX0_comes_4 20 rfl rfl)
theorem dX0_comes_116 : decode cX0_comes 116 = .ok (.ior, 1) := dk_128 (dk_at dksX0_comes_4 21 rfl rfl)
theorem dX0_comes_117 : decode cX0_comes 117 = .ok (.putfield 282, 3) := dk_181 1 26 (dk_at dksX0_comes_5 0 rfl rfl)
theorem dX0_comes_120 : decode cX0_comes 120 = .ok (.iinc 5 1, 3) := dk_132 5 1 (dk_at dksX0_comes_5 3 rfl rfl)
theorem dX0_comes_123 : decode cX0_comes 123 = .ok (.goto (-37), 3) := dk_167 255 219 (dk_at dksX0_comes_5 6 rfl rfl)
theorem dX0_comes_126 : decode cX0_comes 126 = .ok (.iload 4, 2) := dk_21 4 (dk_at dksX0_comes_5 9 rfl rfl)
theorem dX0_comes_128 : decode cX0_comes 128 = .ok (.ireturn, 1) := dk_172 (dk_at dksX0_comes_5 11 rfl rfl)
abbrev cX0_speakerOf : ByteArray := prog_1_method_5_code
def yX0_speakerOf : MethodName := ⟨RX0, "speakerOf", "(I)LNeverSaid$Speaker;"⟩
def dkwX0_speakerOf_3 : List UInt8 := [187, 0, 25, 89, 183, 0, 27, 176, 187, 0, 28, 89, 183, 0, 30, 176, 187, 0, 31, 89, 183, 0, 33, 176]
abbrev dktX0_speakerOf_3 : List UInt8 := dkwX0_speakerOf_3 ++ []
def dkwX0_speakerOf_2 : List UInt8 := [187, 0, 13, 89, 183, 0, 15, 176, 187, 0, 19, 89, 183, 0, 21, 176, 187, 0, 22, 89, 183, 0, 24, 176]
abbrev dktX0_speakerOf_2 : List UInt8 := dkwX0_speakerOf_2 ++ dktX0_speakerOf_3
def dkwX0_speakerOf_1 : List UInt8 := [170, 0, 0, 0, 0, 0, 75, 0, 0, 0, 1, 0, 0, 0, 5, 0, 0, 0, 35, 0, 0, 0, 43, 0, 0, 0, 51, 0, 0, 0, 59, 0, 0, 0, 67]
abbrev dktX0_speakerOf_1 : List UInt8 := dkwX0_speakerOf_1 ++ dktX0_speakerOf_2
def dkwX0_speakerOf_0 : List UInt8 := [26]
abbrev dktX0_speakerOf_0 : List UInt8 := dkwX0_speakerOf_0 ++ dktX0_speakerOf_1
theorem dksX0_speakerOf_0 : cX0_speakerOf.data.toList.drop 0 = dktX0_speakerOf_0 := by decide +kernel
theorem dksX0_speakerOf_1 : cX0_speakerOf.data.toList.drop 1 = dktX0_speakerOf_1 := dk_seg dksX0_speakerOf_0 1 rfl rfl
theorem dksX0_speakerOf_2 : cX0_speakerOf.data.toList.drop 36 = dktX0_speakerOf_2 := dk_seg dksX0_speakerOf_1 35 rfl rfl
theorem dksX0_speakerOf_3 : cX0_speakerOf.data.toList.drop 60 = dktX0_speakerOf_3 := dk_seg dksX0_speakerOf_2 24 rfl rfl
theorem dX0_speakerOf_0 : decode cX0_speakerOf 0 = .ok (.iload_n 0, 1) := dk_26 (dk_at dksX0_speakerOf_0 0 rfl rfl)
theorem dX0_speakerOf_1 : decode cX0_speakerOf 1 = .ok (.tableswitch 75 1 5 #[35, 43, 51, 59, 67], 35) := by decide +kernel
theorem dX0_speakerOf_36 : decode cX0_speakerOf 36 = .ok (.new 13, 3) := dk_187 0 13 (dk_at dksX0_speakerOf_2 0 rfl rfl)
theorem dX0_speakerOf_39 : decode cX0_speakerOf 39 = .ok (.dup, 1) := dk_89 (dk_at dksX0_speakerOf_2 3 rfl rfl)
theorem dX0_speakerOf_40 : decode cX0_speakerOf 40 = .ok (.invokespecial 15, 3) := dk_183 0 15 (dk_at dksX0_speakerOf_2 4 rfl rfl)
theorem dX0_speakerOf_43 : decode cX0_speakerOf 43 = .ok (.areturn, 1) := dk_176 (dk_at dksX0_speakerOf_2 7 rfl rfl)
theorem dX0_speakerOf_44 : decode cX0_speakerOf 44 = .ok (.new 19, 3) := dk_187 0 19 (dk_at dksX0_speakerOf_2 8 rfl rfl)
theorem dX0_speakerOf_47 : decode cX0_speakerOf 47 = .ok (.dup, 1) := dk_89 (dk_at dksX0_speakerOf_2 11 rfl rfl)
theorem dX0_speakerOf_48 : decode cX0_speakerOf 48 = .ok (.invokespecial 21, 3) := dk_183 0 21 (dk_at dksX0_speakerOf_2 12 rfl rfl)
theorem dX0_speakerOf_51 : decode cX0_speakerOf 51 = .ok (.areturn, 1) := dk_176 (dk_at dksX0_speakerOf_2 15 rfl rfl)
theorem dX0_speakerOf_52 : decode cX0_speakerOf 52 = .ok (.new 22, 3) := dk_187 0 22 (dk_at dksX0_speakerOf_2 16 rfl rfl)
theorem dX0_speakerOf_55 : decode cX0_speakerOf 55 = .ok (.dup, 1) := dk_89 (dk_at dksX0_speakerOf_2 19 rfl rfl)
theorem dX0_speakerOf_56 : decode cX0_speakerOf 56 = .ok (.invokespecial 24, 3) := dk_183 0 24 (dk_at dksX0_speakerOf_2 20 rfl rfl)
theorem dX0_speakerOf_59 : decode cX0_speakerOf 59 = .ok (.areturn, 1) := dk_176 (dk_at dksX0_speakerOf_2 23 rfl rfl)
theorem dX0_speakerOf_60 : decode cX0_speakerOf 60 = .ok (.new 25, 3) := dk_187 0 25 (dk_at dksX0_speakerOf_3 0 rfl rfl)
theorem dX0_speakerOf_63 : decode cX0_speakerOf 63 = .ok (.dup, 1) := dk_89 (dk_at dksX0_speakerOf_3 3 rfl rfl)
theorem dX0_speakerOf_64 : decode cX0_speakerOf 64 = .ok (.invokespecial 27, 3) := dk_183 0 27 (dk_at dksX0_speakerOf_3 4 rfl rfl)
theorem dX0_speakerOf_67 : decode cX0_speakerOf 67 = .ok (.areturn, 1) := dk_176 (dk_at dksX0_speakerOf_3 7 rfl rfl)
theorem dX0_speakerOf_68 : decode cX0_speakerOf 68 = .ok (.new 28, 3) := dk_187 0 28 (dk_at dksX0_speakerOf_3 8 rfl rfl)
theorem dX0_speakerOf_71 : decode cX0_speakerOf 71 = .ok (.dup, 1) := dk_89 (dk_at dksX0_speakerOf_3 11 rfl rfl)
theorem dX0_speakerOf_72 : decode cX0_speakerOf 72 = .ok (.invokespecial 30, 3) := dk_183 0 30 (dk_at dksX0_speakerOf_3 12 rfl rfl)
theorem dX0_speakerOf_75 : decode cX0_speakerOf 75 = .ok (.areturn, 1) := dk_176 (dk_at dksX0_speakerOf_3 15 rfl rfl)
theorem dX0_speakerOf_76 : decode cX0_speakerOf 76 = .ok (.new 31, 3) := dk_187 0 31 (dk_at dksX0_speakerOf_3 16 rfl rfl)
theorem dX0_speakerOf_79 : decode cX0_speakerOf 79 = .ok (.dup, 1) := dk_89 (dk_at dksX0_speakerOf_3 19 rfl rfl)
theorem dX0_speakerOf_80 : decode cX0_speakerOf 80 = .ok (.invokespecial 33, 3) := dk_183 0 33 (dk_at dksX0_speakerOf_3 20 rfl rfl)
theorem dX0_speakerOf_83 : decode cX0_speakerOf 83 = .ok (.areturn, 1) := dk_176 (dk_at dksX0_speakerOf_3 23 rfl rfl)
abbrev cX0_told : ByteArray := prog_1_method_42_code
def yX0_told : MethodName := ⟨RX0, "told", "(II)I"⟩
def dkwX0_told_4 : List UInt8 := [182, 1, 53, 172, 18, 135, 172]
abbrev dktX0_told_4 : List UInt8 := dkwX0_told_4 ++ []
def dkwX0_told_3 : List UInt8 := [180, 1, 16, 27, 46, 172, 42, 182, 1, 47, 42, 180, 0, 74, 27, 46, 172, 45, 182, 1, 50, 172, 42, 27]
abbrev dktX0_told_3 : List UInt8 := dkwX0_told_3 ++ dktX0_told_4
def dkwX0_told_2 : List UInt8 := [45, 182, 1, 44, 172, 45, 180, 1, 11, 172, 42, 180, 0, 46, 180, 1, 13, 27, 46, 172, 42, 180, 0, 46]
abbrev dktX0_told_2 : List UInt8 := dkwX0_told_2 ++ dktX0_told_3
def dkwX0_told_1 : List UInt8 := [170, 0, 0, 0, 0, 94, 0, 0, 0, 0, 0, 0, 0, 6, 0, 0, 0, 42, 0, 0, 0, 47, 0, 0, 0, 52, 0, 0, 0, 62, 0, 0, 0, 72, 0, 0, 0, 83, 0, 0, 0, 88]
abbrev dktX0_told_1 : List UInt8 := dkwX0_told_1 ++ dktX0_told_2
def dkwX0_told_0 : List UInt8 := [42, 27, 182, 1, 41, 154, 0, 6, 18, 135, 172, 42, 180, 0, 46, 180, 1, 3, 27, 50, 78, 28]
abbrev dktX0_told_0 : List UInt8 := dkwX0_told_0 ++ dktX0_told_1
theorem dksX0_told_0 : cX0_told.data.toList.drop 0 = dktX0_told_0 := by decide +kernel
theorem dksX0_told_1 : cX0_told.data.toList.drop 22 = dktX0_told_1 := dk_seg dksX0_told_0 22 rfl rfl
theorem dksX0_told_2 : cX0_told.data.toList.drop 64 = dktX0_told_2 := dk_seg dksX0_told_1 42 rfl rfl
theorem dksX0_told_3 : cX0_told.data.toList.drop 88 = dktX0_told_3 := dk_seg dksX0_told_2 24 rfl rfl
theorem dksX0_told_4 : cX0_told.data.toList.drop 112 = dktX0_told_4 := dk_seg dksX0_told_3 24 rfl rfl
theorem dX0_told_0 : decode cX0_told 0 = .ok (.aload_n 0, 1) := dk_42 (dk_at dksX0_told_0 0 rfl rfl)
theorem dX0_told_1 : decode cX0_told 1 = .ok (.iload_n 1, 1) := dk_27 (dk_at dksX0_told_0 1 rfl rfl)
theorem dX0_told_2 : decode cX0_told 2 = .ok (.invokevirtual 297, 3) := dk_182 1 41 (dk_at dksX0_told_0 2 rfl rfl)
theorem dX0_told_5 : decode cX0_told 5 = .ok (.ifCond .ne 6, 3) := dk_154 0 6 (dk_at dksX0_told_0 5 rfl rfl)
theorem dX0_told_8 : decode cX0_told 8 = .ok (.ldc 135, 2) := dk_18 135 (dk_at dksX0_told_0 8 rfl rfl)
theorem dX0_told_10 : decode cX0_told 10 = .ok (.ireturn, 1) := dk_172 (dk_at dksX0_told_0 10 rfl rfl)
theorem dX0_told_11 : decode cX0_told 11 = .ok (.aload_n 0, 1) := dk_42 (dk_at dksX0_told_0 11 rfl rfl)
theorem dX0_told_12 : decode cX0_told 12 = .ok (.getfield 46, 3) := dk_180 0 46 (dk_at dksX0_told_0 12 rfl rfl)
theorem dX0_told_15 : decode cX0_told 15 = .ok (.getfield 259, 3) := dk_180 1 3 (dk_at dksX0_told_0 15 rfl rfl)
theorem dX0_told_18 : decode cX0_told 18 = .ok (.iload_n 1, 1) := dk_27 (dk_at dksX0_told_0 18 rfl rfl)
theorem dX0_told_19 : decode cX0_told 19 = .ok (.aaload, 1) := dk_50 (dk_at dksX0_told_0 19 rfl rfl)
theorem dX0_told_20 : decode cX0_told 20 = .ok (.astore_n 3, 1) := dk_78 (dk_at dksX0_told_0 20 rfl rfl)
theorem dX0_told_21 : decode cX0_told 21 = .ok (.iload_n 2, 1) := dk_28 (dk_at dksX0_told_0 21 rfl rfl)
theorem dX0_told_22 : decode cX0_told 22 = .ok (.tableswitch 94 0 6 #[42, 47, 52, 62, 72, 83, 88], 42) := by decide +kernel
theorem dX0_told_64 : decode cX0_told 64 = .ok (.aload_n 3, 1) := dk_45 (dk_at dksX0_told_2 0 rfl rfl)
theorem dX0_told_65 : decode cX0_told 65 = .ok (.invokevirtual 300, 3) := dk_182 1 44 (dk_at dksX0_told_2 1 rfl rfl)
theorem dX0_told_68 : decode cX0_told 68 = .ok (.ireturn, 1) := dk_172 (dk_at dksX0_told_2 4 rfl rfl)
theorem dX0_told_69 : decode cX0_told 69 = .ok (.aload_n 3, 1) := dk_45 (dk_at dksX0_told_2 5 rfl rfl)
theorem dX0_told_70 : decode cX0_told 70 = .ok (.getfield 267, 3) := dk_180 1 11 (dk_at dksX0_told_2 6 rfl rfl)
theorem dX0_told_73 : decode cX0_told 73 = .ok (.ireturn, 1) := dk_172 (dk_at dksX0_told_2 9 rfl rfl)
theorem dX0_told_74 : decode cX0_told 74 = .ok (.aload_n 0, 1) := dk_42 (dk_at dksX0_told_2 10 rfl rfl)
theorem dX0_told_75 : decode cX0_told 75 = .ok (.getfield 46, 3) := dk_180 0 46 (dk_at dksX0_told_2 11 rfl rfl)
theorem dX0_told_78 : decode cX0_told 78 = .ok (.getfield 269, 3) := dk_180 1 13 (dk_at dksX0_told_2 14 rfl rfl)
theorem dX0_told_81 : decode cX0_told 81 = .ok (.iload_n 1, 1) := dk_27 (dk_at dksX0_told_2 17 rfl rfl)
theorem dX0_told_82 : decode cX0_told 82 = .ok (.iaload, 1) := dk_46 (dk_at dksX0_told_2 18 rfl rfl)
theorem dX0_told_83 : decode cX0_told 83 = .ok (.ireturn, 1) := dk_172 (dk_at dksX0_told_2 19 rfl rfl)
theorem dX0_told_84 : decode cX0_told 84 = .ok (.aload_n 0, 1) := dk_42 (dk_at dksX0_told_2 20 rfl rfl)
theorem dX0_told_85 : decode cX0_told 85 = .ok (.getfield 46, 3) := dk_180 0 46 (dk_at dksX0_told_2 21 rfl rfl)
theorem dX0_told_88 : decode cX0_told 88 = .ok (.getfield 272, 3) := dk_180 1 16 (dk_at dksX0_told_3 0 rfl rfl)
theorem dX0_told_91 : decode cX0_told 91 = .ok (.iload_n 1, 1) := dk_27 (dk_at dksX0_told_3 3 rfl rfl)
theorem dX0_told_92 : decode cX0_told 92 = .ok (.iaload, 1) := dk_46 (dk_at dksX0_told_3 4 rfl rfl)
theorem dX0_told_93 : decode cX0_told 93 = .ok (.ireturn, 1) := dk_172 (dk_at dksX0_told_3 5 rfl rfl)
theorem dX0_told_94 : decode cX0_told 94 = .ok (.aload_n 0, 1) := dk_42 (dk_at dksX0_told_3 6 rfl rfl)
theorem dX0_told_95 : decode cX0_told 95 = .ok (.invokevirtual 303, 3) := dk_182 1 47 (dk_at dksX0_told_3 7 rfl rfl)
theorem dX0_told_98 : decode cX0_told 98 = .ok (.aload_n 0, 1) := dk_42 (dk_at dksX0_told_3 10 rfl rfl)
theorem dX0_told_99 : decode cX0_told 99 = .ok (.getfield 74, 3) := dk_180 0 74 (dk_at dksX0_told_3 11 rfl rfl)
theorem dX0_told_102 : decode cX0_told 102 = .ok (.iload_n 1, 1) := dk_27 (dk_at dksX0_told_3 14 rfl rfl)
theorem dX0_told_103 : decode cX0_told 103 = .ok (.iaload, 1) := dk_46 (dk_at dksX0_told_3 15 rfl rfl)
theorem dX0_told_104 : decode cX0_told 104 = .ok (.ireturn, 1) := dk_172 (dk_at dksX0_told_3 16 rfl rfl)
theorem dX0_told_105 : decode cX0_told 105 = .ok (.aload_n 3, 1) := dk_45 (dk_at dksX0_told_3 17 rfl rfl)
theorem dX0_told_106 : decode cX0_told 106 = .ok (.invokevirtual 306, 3) := dk_182 1 50 (dk_at dksX0_told_3 18 rfl rfl)
theorem dX0_told_109 : decode cX0_told 109 = .ok (.ireturn, 1) := dk_172 (dk_at dksX0_told_3 21 rfl rfl)
theorem dX0_told_110 : decode cX0_told 110 = .ok (.aload_n 0, 1) := dk_42 (dk_at dksX0_told_3 22 rfl rfl)
theorem dX0_told_111 : decode cX0_told 111 = .ok (.iload_n 1, 1) := dk_27 (dk_at dksX0_told_3 23 rfl rfl)
theorem dX0_told_112 : decode cX0_told 112 = .ok (.invokevirtual 309, 3) := dk_182 1 53 (dk_at dksX0_told_4 0 rfl rfl)
theorem dX0_told_115 : decode cX0_told 115 = .ok (.ireturn, 1) := dk_172 (dk_at dksX0_told_4 3 rfl rfl)
theorem dX0_told_116 : decode cX0_told 116 = .ok (.ldc 135, 2) := dk_18 135 (dk_at dksX0_told_4 4 rfl rfl)
theorem dX0_told_118 : decode cX0_told 118 = .ok (.ireturn, 1) := dk_172 (dk_at dksX0_told_4 6 rfl rfl)
abbrev cX0_isPerson : ByteArray := prog_1_method_8_code
def yX0_isPerson : MethodName := ⟨RX0, "isPerson", "(I)Z"⟩
def dkwX0_isPerson_0 : List UInt8 := [27, 3, 42, 180, 0, 46, 180, 0, 101, 4, 100, 184, 0, 105, 172]
abbrev dktX0_isPerson_0 : List UInt8 := dkwX0_isPerson_0 ++ []
theorem dksX0_isPerson_0 : cX0_isPerson.data.toList.drop 0 = dktX0_isPerson_0 := by decide +kernel
theorem dX0_isPerson_0 : decode cX0_isPerson 0 = .ok (.iload_n 1, 1) := dk_27 (dk_at dksX0_isPerson_0 0 rfl rfl)
theorem dX0_isPerson_1 : decode cX0_isPerson 1 = .ok (.iconst 0, 1) := dk_3 (dk_at dksX0_isPerson_0 1 rfl rfl)
theorem dX0_isPerson_2 : decode cX0_isPerson 2 = .ok (.aload_n 0, 1) := dk_42 (dk_at dksX0_isPerson_0 2 rfl rfl)
theorem dX0_isPerson_3 : decode cX0_isPerson 3 = .ok (.getfield 46, 3) := dk_180 0 46 (dk_at dksX0_isPerson_0 3 rfl rfl)
theorem dX0_isPerson_6 : decode cX0_isPerson 6 = .ok (.getfield 101, 3) := dk_180 0 101 (dk_at dksX0_isPerson_0 6 rfl rfl)
theorem dX0_isPerson_9 : decode cX0_isPerson 9 = .ok (.iconst 1, 1) := dk_4 (dk_at dksX0_isPerson_0 9 rfl rfl)
theorem dX0_isPerson_10 : decode cX0_isPerson 10 = .ok (.isub, 1) := dk_100 (dk_at dksX0_isPerson_0 10 rfl rfl)
theorem dX0_isPerson_11 : decode cX0_isPerson 11 = .ok (.invokestatic 105, 3) := dk_184 0 105 (dk_at dksX0_isPerson_0 11 rfl rfl)
theorem dX0_isPerson_14 : decode cX0_isPerson 14 = .ok (.ireturn, 1) := dk_172 (dk_at dksX0_isPerson_0 14 rfl rfl)
abbrev cX0_findFollowers : ByteArray := prog_1_method_39_code
def yX0_findFollowers : MethodName := ⟨RX0, "findFollowers", "()V"⟩
def dkwX0_findFollowers_5 : List UInt8 := [132, 2, 1, 167, 255, 164, 167, 255, 153, 177]
abbrev dktX0_findFollowers_5 : List UInt8 := dkwX0_findFollowers_5 ++ []
def dkwX0_findFollowers_4 : List UInt8 := [42, 180, 0, 74, 28, 46, 159, 0, 7, 4, 167, 0, 4, 3, 60, 42, 180, 0, 74, 28, 29, 79]
abbrev dktX0_findFollowers_4 : List UInt8 := dkwX0_findFollowers_4 ++ dktX0_findFollowers_5
def dkwX0_findFollowers_3 : List UInt8 := [42, 180, 0, 74, 21, 4, 46, 167, 0, 4, 3, 128, 62, 132, 4, 1, 167, 255, 218, 27, 154, 0, 13, 29]
abbrev dktX0_findFollowers_3 : List UInt8 := dkwX0_findFollowers_3 ++ dktX0_findFollowers_4
def dkwX0_findFollowers_2 : List UInt8 := [54, 4, 21, 4, 42, 180, 0, 46, 180, 0, 101, 162, 0, 32, 29, 29, 21, 4, 184, 1, 37, 153, 0, 13]
abbrev dktX0_findFollowers_2 : List UInt8 := dkwX0_findFollowers_2 ++ dktX0_findFollowers_3
def dkwX0_findFollowers_1 : List UInt8 := [3, 60, 3, 61, 28, 42, 180, 0, 46, 180, 0, 101, 162, 0, 87, 42, 180, 0, 74, 28, 46, 62, 3]
abbrev dktX0_findFollowers_1 : List UInt8 := dkwX0_findFollowers_1 ++ dktX0_findFollowers_2
def dkwX0_findFollowers_0 : List UInt8 := [42, 180, 0, 46, 180, 1, 19, 3, 42, 180, 0, 74, 3, 16, 12, 184, 0, 34, 4, 60, 27, 153, 0, 105]
abbrev dktX0_findFollowers_0 : List UInt8 := dkwX0_findFollowers_0 ++ dktX0_findFollowers_1
theorem dksX0_findFollowers_0 : cX0_findFollowers.data.toList.drop 0 = dktX0_findFollowers_0 := by decide +kernel
theorem dksX0_findFollowers_1 : cX0_findFollowers.data.toList.drop 24 = dktX0_findFollowers_1 := dk_seg dksX0_findFollowers_0 24 rfl rfl
theorem dksX0_findFollowers_2 : cX0_findFollowers.data.toList.drop 47 = dktX0_findFollowers_2 := dk_seg dksX0_findFollowers_1 23 rfl rfl
theorem dksX0_findFollowers_3 : cX0_findFollowers.data.toList.drop 71 = dktX0_findFollowers_3 := dk_seg dksX0_findFollowers_2 24 rfl rfl
theorem dksX0_findFollowers_4 : cX0_findFollowers.data.toList.drop 95 = dktX0_findFollowers_4 := dk_seg dksX0_findFollowers_3 24 rfl rfl
theorem dksX0_findFollowers_5 : cX0_findFollowers.data.toList.drop 117 = dktX0_findFollowers_5 := dk_seg dksX0_findFollowers_4 22 rfl rfl
theorem dX0_findFollowers_0 : decode cX0_findFollowers 0 = .ok (.aload_n 0, 1) := dk_42 (dk_at dksX0_findFollowers_0 0 rfl rfl)
theorem dX0_findFollowers_1 : decode cX0_findFollowers 1 = .ok (.getfield 46, 3) := dk_180 0 46 (dk_at dksX0_findFollowers_0 1 rfl rfl)
theorem dX0_findFollowers_4 : decode cX0_findFollowers 4 = .ok (.getfield 275, 3) := dk_180 1 19 (dk_at dksX0_findFollowers_0 4 rfl rfl)
theorem dX0_findFollowers_7 : decode cX0_findFollowers 7 = .ok (.iconst 0, 1) := dk_3 (dk_at dksX0_findFollowers_0 7 rfl rfl)
theorem dX0_findFollowers_8 : decode cX0_findFollowers 8 = .ok (.aload_n 0, 1) := dk_42 (dk_at dksX0_findFollowers_0 8 rfl rfl)
theorem dX0_findFollowers_9 : decode cX0_findFollowers 9 = .ok (.getfield 74, 3) := dk_180 0 74 (dk_at dksX0_findFollowers_0 9 rfl rfl)
theorem dX0_findFollowers_12 : decode cX0_findFollowers 12 = .ok (.iconst 0, 1) := dk_3 (dk_at dksX0_findFollowers_0 12 rfl rfl)
theorem dX0_findFollowers_13 : decode cX0_findFollowers 13 = .ok (.bipush 12, 2) := dk_16 12 (dk_at dksX0_findFollowers_0 13 rfl rfl)
theorem dX0_findFollowers_15 : decode cX0_findFollowers 15 = .ok (.invokestatic 34, 3) := dk_184 0 34 (dk_at dksX0_findFollowers_0 15 rfl rfl)
theorem dX0_findFollowers_18 : decode cX0_findFollowers 18 = .ok (.iconst 1, 1) := dk_4 (dk_at dksX0_findFollowers_0 18 rfl rfl)
theorem dX0_findFollowers_19 : decode cX0_findFollowers 19 = .ok (.istore_n 1, 1) := dk_60 (dk_at dksX0_findFollowers_0 19 rfl rfl)
theorem dX0_findFollowers_20 : decode cX0_findFollowers 20 = .ok (.iload_n 1, 1) := dk_27 (dk_at dksX0_findFollowers_0 20 rfl rfl)
theorem dX0_findFollowers_21 : decode cX0_findFollowers 21 = .ok (.ifCond .eq 105, 3) := dk_153 0 105 (dk_at dksX0_findFollowers_0 21 rfl rfl)
theorem dX0_findFollowers_24 : decode cX0_findFollowers 24 = .ok (.iconst 0, 1) := dk_3 (dk_at dksX0_findFollowers_1 0 rfl rfl)
theorem dX0_findFollowers_25 : decode cX0_findFollowers 25 = .ok (.istore_n 1, 1) := dk_60 (dk_at dksX0_findFollowers_1 1 rfl rfl)
theorem dX0_findFollowers_26 : decode cX0_findFollowers 26 = .ok (.iconst 0, 1) := dk_3 (dk_at dksX0_findFollowers_1 2 rfl rfl)
theorem dX0_findFollowers_27 : decode cX0_findFollowers 27 = .ok (.istore_n 2, 1) := dk_61 (dk_at dksX0_findFollowers_1 3 rfl rfl)
theorem dX0_findFollowers_28 : decode cX0_findFollowers 28 = .ok (.iload_n 2, 1) := dk_28 (dk_at dksX0_findFollowers_1 4 rfl rfl)
theorem dX0_findFollowers_29 : decode cX0_findFollowers 29 = .ok (.aload_n 0, 1) := dk_42 (dk_at dksX0_findFollowers_1 5 rfl rfl)
theorem dX0_findFollowers_30 : decode cX0_findFollowers 30 = .ok (.getfield 46, 3) := dk_180 0 46 (dk_at dksX0_findFollowers_1 6 rfl rfl)
theorem dX0_findFollowers_33 : decode cX0_findFollowers 33 = .ok (.getfield 101, 3) := dk_180 0 101 (dk_at dksX0_findFollowers_1 9 rfl rfl)
theorem dX0_findFollowers_36 : decode cX0_findFollowers 36 = .ok (.if_icmp .ge 87, 3) := dk_162 0 87 (dk_at dksX0_findFollowers_1 12 rfl rfl)
theorem dX0_findFollowers_39 : decode cX0_findFollowers 39 = .ok (.aload_n 0, 1) := dk_42 (dk_at dksX0_findFollowers_1 15 rfl rfl)
theorem dX0_findFollowers_40 : decode cX0_findFollowers 40 = .ok (.getfield 74, 3) := dk_180 0 74 (dk_at dksX0_findFollowers_1 16 rfl rfl)
theorem dX0_findFollowers_43 : decode cX0_findFollowers 43 = .ok (.iload_n 2, 1) := dk_28 (dk_at dksX0_findFollowers_1 19 rfl rfl)
theorem dX0_findFollowers_44 : decode cX0_findFollowers 44 = .ok (.iaload, 1) := dk_46 (dk_at dksX0_findFollowers_1 20 rfl rfl)
theorem dX0_findFollowers_45 : decode cX0_findFollowers 45 = .ok (.istore_n 3, 1) := dk_62 (dk_at dksX0_findFollowers_1 21 rfl rfl)
theorem dX0_findFollowers_46 : decode cX0_findFollowers 46 = .ok (.iconst 0, 1) := dk_3 (dk_at dksX0_findFollowers_1 22 rfl rfl)
theorem dX0_findFollowers_47 : decode cX0_findFollowers 47 = .ok (.istore 4, 2) := dk_54 4 (dk_at dksX0_findFollowers_2 0 rfl rfl)
theorem dX0_findFollowers_49 : decode cX0_findFollowers 49 = .ok (.iload 4, 2) := dk_21 4 (dk_at dksX0_findFollowers_2 2 rfl rfl)
theorem dX0_findFollowers_51 : decode cX0_findFollowers 51 = .ok (.aload_n 0, 1) := dk_42 (dk_at dksX0_findFollowers_2 4 rfl rfl)
theorem dX0_findFollowers_52 : decode cX0_findFollowers 52 = .ok (.getfield 46, 3) := dk_180 0 46 (dk_at dksX0_findFollowers_2 5 rfl rfl)
theorem dX0_findFollowers_55 : decode cX0_findFollowers 55 = .ok (.getfield 101, 3) := dk_180 0 101 (dk_at dksX0_findFollowers_2 8 rfl rfl)
theorem dX0_findFollowers_58 : decode cX0_findFollowers 58 = .ok (.if_icmp .ge 32, 3) := dk_162 0 32 (dk_at dksX0_findFollowers_2 11 rfl rfl)
theorem dX0_findFollowers_61 : decode cX0_findFollowers 61 = .ok (.iload_n 3, 1) := dk_29 (dk_at dksX0_findFollowers_2 14 rfl rfl)
theorem dX0_findFollowers_62 : decode cX0_findFollowers 62 = .ok (.iload_n 3, 1) := dk_29 (dk_at dksX0_findFollowers_2 15 rfl rfl)
theorem dX0_findFollowers_63 : decode cX0_findFollowers 63 = .ok (.iload 4, 2) := dk_21 4 (dk_at dksX0_findFollowers_2 16 rfl rfl)
theorem dX0_findFollowers_65 : decode cX0_findFollowers 65 = .ok (.invokestatic 293, 3) := dk_184 1 37 (dk_at dksX0_findFollowers_2 18 rfl rfl)
theorem dX0_findFollowers_68 : decode cX0_findFollowers 68 = .ok (.ifCond .eq 13, 3) := dk_153 0 13 (dk_at dksX0_findFollowers_2 21 rfl rfl)
theorem dX0_findFollowers_71 : decode cX0_findFollowers 71 = .ok (.aload_n 0, 1) := dk_42 (dk_at dksX0_findFollowers_3 0 rfl rfl)
theorem dX0_findFollowers_72 : decode cX0_findFollowers 72 = .ok (.getfield 74, 3) := dk_180 0 74 (dk_at dksX0_findFollowers_3 1 rfl rfl)
theorem dX0_findFollowers_75 : decode cX0_findFollowers 75 = .ok (.iload 4, 2) := dk_21 4 (dk_at dksX0_findFollowers_3 4 rfl rfl)
theorem dX0_findFollowers_77 : decode cX0_findFollowers 77 = .ok (.iaload, 1) := dk_46 (dk_at dksX0_findFollowers_3 6 rfl rfl)
theorem dX0_findFollowers_78 : decode cX0_findFollowers 78 = .ok (.goto 4, 3) := dk_167 0 4 (dk_at dksX0_findFollowers_3 7 rfl rfl)
theorem dX0_findFollowers_81 : decode cX0_findFollowers 81 = .ok (.iconst 0, 1) := dk_3 (dk_at dksX0_findFollowers_3 10 rfl rfl)
theorem dX0_findFollowers_82 : decode cX0_findFollowers 82 = .ok (.ior, 1) := dk_128 (dk_at dksX0_findFollowers_3 11 rfl rfl)
theorem dX0_findFollowers_83 : decode cX0_findFollowers 83 = .ok (.istore_n 3, 1) := dk_62 (dk_at dksX0_findFollowers_3 12 rfl rfl)
theorem dX0_findFollowers_84 : decode cX0_findFollowers 84 = .ok (.iinc 4 1, 3) := dk_132 4 1 (dk_at dksX0_findFollowers_3 13 rfl rfl)
theorem dX0_findFollowers_87 : decode cX0_findFollowers 87 = .ok (.goto (-38), 3) := dk_167 255 218 (dk_at dksX0_findFollowers_3 16 rfl rfl)
theorem dX0_findFollowers_90 : decode cX0_findFollowers 90 = .ok (.iload_n 1, 1) := dk_27 (dk_at dksX0_findFollowers_3 19 rfl rfl)
theorem dX0_findFollowers_91 : decode cX0_findFollowers 91 = .ok (.ifCond .ne 13, 3) := dk_154 0 13 (dk_at dksX0_findFollowers_3 20 rfl rfl)
theorem dX0_findFollowers_94 : decode cX0_findFollowers 94 = .ok (.iload_n 3, 1) := dk_29 (dk_at dksX0_findFollowers_3 23 rfl rfl)
theorem dX0_findFollowers_95 : decode cX0_findFollowers 95 = .ok (.aload_n 0, 1) := dk_42 (dk_at dksX0_findFollowers_4 0 rfl rfl)
theorem dX0_findFollowers_96 : decode cX0_findFollowers 96 = .ok (.getfield 74, 3) := dk_180 0 74 (dk_at dksX0_findFollowers_4 1 rfl rfl)
theorem dX0_findFollowers_99 : decode cX0_findFollowers 99 = .ok (.iload_n 2, 1) := dk_28 (dk_at dksX0_findFollowers_4 4 rfl rfl)
theorem dX0_findFollowers_100 : decode cX0_findFollowers 100 = .ok (.iaload, 1) := dk_46 (dk_at dksX0_findFollowers_4 5 rfl rfl)
theorem dX0_findFollowers_101 : decode cX0_findFollowers 101 = .ok (.if_icmp .eq 7, 3) := dk_159 0 7 (dk_at dksX0_findFollowers_4 6 rfl rfl)
theorem dX0_findFollowers_104 : decode cX0_findFollowers 104 = .ok (.iconst 1, 1) := dk_4 (dk_at dksX0_findFollowers_4 9 rfl rfl)
theorem dX0_findFollowers_105 : decode cX0_findFollowers 105 = .ok (.goto 4, 3) := dk_167 0 4 (dk_at dksX0_findFollowers_4 10 rfl rfl)
theorem dX0_findFollowers_108 : decode cX0_findFollowers 108 = .ok (.iconst 0, 1) := dk_3 (dk_at dksX0_findFollowers_4 13 rfl rfl)
theorem dX0_findFollowers_109 : decode cX0_findFollowers 109 = .ok (.istore_n 1, 1) := dk_60 (dk_at dksX0_findFollowers_4 14 rfl rfl)
theorem dX0_findFollowers_110 : decode cX0_findFollowers 110 = .ok (.aload_n 0, 1) := dk_42 (dk_at dksX0_findFollowers_4 15 rfl rfl)
theorem dX0_findFollowers_111 : decode cX0_findFollowers 111 = .ok (.getfield 74, 3) := dk_180 0 74 (dk_at dksX0_findFollowers_4 16 rfl rfl)
theorem dX0_findFollowers_114 : decode cX0_findFollowers 114 = .ok (.iload_n 2, 1) := dk_28 (dk_at dksX0_findFollowers_4 19 rfl rfl)
theorem dX0_findFollowers_115 : decode cX0_findFollowers 115 = .ok (.iload_n 3, 1) := dk_29 (dk_at dksX0_findFollowers_4 20 rfl rfl)
theorem dX0_findFollowers_116 : decode cX0_findFollowers 116 = .ok (.iastore, 1) := dk_79 (dk_at dksX0_findFollowers_4 21 rfl rfl)
theorem dX0_findFollowers_117 : decode cX0_findFollowers 117 = .ok (.iinc 2 1, 3) := dk_132 2 1 (dk_at dksX0_findFollowers_5 0 rfl rfl)
theorem dX0_findFollowers_120 : decode cX0_findFollowers 120 = .ok (.goto (-92), 3) := dk_167 255 164 (dk_at dksX0_findFollowers_5 3 rfl rfl)
theorem dX0_findFollowers_123 : decode cX0_findFollowers 123 = .ok (.goto (-103), 3) := dk_167 255 153 (dk_at dksX0_findFollowers_5 6 rfl rfl)
theorem dX0_findFollowers_126 : decode cX0_findFollowers 126 = .ok (.return_, 1) := dk_177 (dk_at dksX0_findFollowers_5 9 rfl rfl)
abbrev cX0_has : ByteArray := prog_1_method_4_code
def yX0_has : MethodName := ⟨RX0, "has", "(II)Z"⟩
def dkwX0_has_0 : List UInt8 := [26, 27, 122, 4, 126, 4, 160, 0, 7, 4, 167, 0, 4, 3, 172]
abbrev dktX0_has_0 : List UInt8 := dkwX0_has_0 ++ []
theorem dksX0_has_0 : cX0_has.data.toList.drop 0 = dktX0_has_0 := by decide +kernel
theorem dX0_has_0 : decode cX0_has 0 = .ok (.iload_n 0, 1) := dk_26 (dk_at dksX0_has_0 0 rfl rfl)
theorem dX0_has_1 : decode cX0_has 1 = .ok (.iload_n 1, 1) := dk_27 (dk_at dksX0_has_0 1 rfl rfl)
theorem dX0_has_2 : decode cX0_has 2 = .ok (.ishr, 1) := dk_122 (dk_at dksX0_has_0 2 rfl rfl)
theorem dX0_has_3 : decode cX0_has 3 = .ok (.iconst 1, 1) := dk_4 (dk_at dksX0_has_0 3 rfl rfl)
theorem dX0_has_4 : decode cX0_has 4 = .ok (.iand, 1) := dk_126 (dk_at dksX0_has_0 4 rfl rfl)
theorem dX0_has_5 : decode cX0_has 5 = .ok (.iconst 1, 1) := dk_4 (dk_at dksX0_has_0 5 rfl rfl)
theorem dX0_has_6 : decode cX0_has 6 = .ok (.if_icmp .ne 7, 3) := dk_160 0 7 (dk_at dksX0_has_0 6 rfl rfl)
theorem dX0_has_9 : decode cX0_has 9 = .ok (.iconst 1, 1) := dk_4 (dk_at dksX0_has_0 9 rfl rfl)
theorem dX0_has_10 : decode cX0_has 10 = .ok (.goto 4, 3) := dk_167 0 4 (dk_at dksX0_has_0 10 rfl rfl)
theorem dX0_has_13 : decode cX0_has 13 = .ok (.iconst 0, 1) := dk_3 (dk_at dksX0_has_0 13 rfl rfl)
theorem dX0_has_14 : decode cX0_has 14 = .ok (.ireturn, 1) := dk_172 (dk_at dksX0_has_0 14 rfl rfl)
abbrev cX0_goneOn : ByteArray := prog_1_method_41_code
def yX0_goneOn : MethodName := ⟨RX0, "goneOn", "(I)I"⟩
def dkwX0_goneOn_2 : List UInt8 := [28, 172]
abbrev dktX0_goneOn_2 : List UInt8 := dkwX0_goneOn_2 ++ []
def dkwX0_goneOn_1 : List UInt8 := [50, 180, 1, 26, 27, 184, 1, 37, 153, 0, 7, 3, 167, 0, 4, 4, 96, 61, 132, 3, 1, 167, 255, 215]
abbrev dktX0_goneOn_1 : List UInt8 := dkwX0_goneOn_1 ++ dktX0_goneOn_2
def dkwX0_goneOn_0 : List UInt8 := [3, 61, 3, 62, 29, 42, 180, 0, 46, 180, 0, 109, 162, 0, 36, 28, 42, 180, 0, 46, 180, 1, 22, 29]
abbrev dktX0_goneOn_0 : List UInt8 := dkwX0_goneOn_0 ++ dktX0_goneOn_1
theorem dksX0_goneOn_0 : cX0_goneOn.data.toList.drop 0 = dktX0_goneOn_0 := by decide +kernel
theorem dksX0_goneOn_1 : cX0_goneOn.data.toList.drop 24 = dktX0_goneOn_1 := dk_seg dksX0_goneOn_0 24 rfl rfl
theorem dksX0_goneOn_2 : cX0_goneOn.data.toList.drop 48 = dktX0_goneOn_2 := dk_seg dksX0_goneOn_1 24 rfl rfl
theorem dX0_goneOn_0 : decode cX0_goneOn 0 = .ok (.iconst 0, 1) := dk_3 (dk_at dksX0_goneOn_0 0 rfl rfl)
theorem dX0_goneOn_1 : decode cX0_goneOn 1 = .ok (.istore_n 2, 1) := dk_61 (dk_at dksX0_goneOn_0 1 rfl rfl)
theorem dX0_goneOn_2 : decode cX0_goneOn 2 = .ok (.iconst 0, 1) := dk_3 (dk_at dksX0_goneOn_0 2 rfl rfl)
theorem dX0_goneOn_3 : decode cX0_goneOn 3 = .ok (.istore_n 3, 1) := dk_62 (dk_at dksX0_goneOn_0 3 rfl rfl)
theorem dX0_goneOn_4 : decode cX0_goneOn 4 = .ok (.iload_n 3, 1) := dk_29 (dk_at dksX0_goneOn_0 4 rfl rfl)
theorem dX0_goneOn_5 : decode cX0_goneOn 5 = .ok (.aload_n 0, 1) := dk_42 (dk_at dksX0_goneOn_0 5 rfl rfl)
theorem dX0_goneOn_6 : decode cX0_goneOn 6 = .ok (.getfield 46, 3) := dk_180 0 46 (dk_at dksX0_goneOn_0 6 rfl rfl)
theorem dX0_goneOn_9 : decode cX0_goneOn 9 = .ok (.getfield 109, 3) := dk_180 0 109 (dk_at dksX0_goneOn_0 9 rfl rfl)
theorem dX0_goneOn_12 : decode cX0_goneOn 12 = .ok (.if_icmp .ge 36, 3) := dk_162 0 36 (dk_at dksX0_goneOn_0 12 rfl rfl)
theorem dX0_goneOn_15 : decode cX0_goneOn 15 = .ok (.iload_n 2, 1) := dk_28 (dk_at dksX0_goneOn_0 15 rfl rfl)
theorem dX0_goneOn_16 : decode cX0_goneOn 16 = .ok (.aload_n 0, 1) := dk_42 (dk_at dksX0_goneOn_0 16 rfl rfl)
theorem dX0_goneOn_17 : decode cX0_goneOn 17 = .ok (.getfield 46, 3) := dk_180 0 46 (dk_at dksX0_goneOn_0 17 rfl rfl)
theorem dX0_goneOn_20 : decode cX0_goneOn 20 = .ok (.getfield 278, 3) := dk_180 1 22 (dk_at dksX0_goneOn_0 20 rfl rfl)
theorem dX0_goneOn_23 : decode cX0_goneOn 23 = .ok (.iload_n 3, 1) := dk_29 (dk_at dksX0_goneOn_0 23 rfl rfl)
theorem dX0_goneOn_24 : decode cX0_goneOn 24 = .ok (.aaload, 1) := dk_50 (dk_at dksX0_goneOn_1 0 rfl rfl)
theorem dX0_goneOn_25 : decode cX0_goneOn 25 = .ok (.getfield 282, 3) := dk_180 1 26 (dk_at dksX0_goneOn_1 1 rfl rfl)
theorem dX0_goneOn_28 : decode cX0_goneOn 28 = .ok (.iload_n 1, 1) := dk_27 (dk_at dksX0_goneOn_1 4 rfl rfl)
theorem dX0_goneOn_29 : decode cX0_goneOn 29 = .ok (.invokestatic 293, 3) := dk_184 1 37 (dk_at dksX0_goneOn_1 5 rfl rfl)
theorem dX0_goneOn_32 : decode cX0_goneOn 32 = .ok (.ifCond .eq 7, 3) := dk_153 0 7 (dk_at dksX0_goneOn_1 8 rfl rfl)
theorem dX0_goneOn_35 : decode cX0_goneOn 35 = .ok (.iconst 0, 1) := dk_3 (dk_at dksX0_goneOn_1 11 rfl rfl)
theorem dX0_goneOn_36 : decode cX0_goneOn 36 = .ok (.goto 4, 3) := dk_167 0 4 (dk_at dksX0_goneOn_1 12 rfl rfl)
theorem dX0_goneOn_39 : decode cX0_goneOn 39 = .ok (.iconst 1, 1) := dk_4 (dk_at dksX0_goneOn_1 15 rfl rfl)
theorem dX0_goneOn_40 : decode cX0_goneOn 40 = .ok (.iadd, 1) := dk_96 (dk_at dksX0_goneOn_1 16 rfl rfl)
theorem dX0_goneOn_41 : decode cX0_goneOn 41 = .ok (.istore_n 2, 1) := dk_61 (dk_at dksX0_goneOn_1 17 rfl rfl)
theorem dX0_goneOn_42 : decode cX0_goneOn 42 = .ok (.iinc 3 1, 3) := dk_132 3 1 (dk_at dksX0_goneOn_1 18 rfl rfl)
theorem dX0_goneOn_45 : decode cX0_goneOn 45 = .ok (.goto (-41), 3) := dk_167 255 215 (dk_at dksX0_goneOn_1 21 rfl rfl)
theorem dX0_goneOn_48 : decode cX0_goneOn 48 = .ok (.iload_n 2, 1) := dk_28 (dk_at dksX0_goneOn_2 0 rfl rfl)
theorem dX0_goneOn_49 : decode cX0_goneOn 49 = .ok (.ireturn, 1) := dk_172 (dk_at dksX0_goneOn_2 1 rfl rfl)
abbrev cX0_as : ByteArray := prog_1_method_44_code
def yX0_as : MethodName := ⟨RX0, "as", "(II)I"⟩
def dkwX0_as_1 : List UInt8 := [180, 1, 3, 27, 50, 78, 45, 28, 184, 1, 56, 180, 1, 11, 172, 58, 4, 19, 1, 62, 172]
abbrev dktX0_as_1 : List UInt8 := dkwX0_as_1 ++ []
def dkwX0_as_0 : List UInt8 := [42, 27, 182, 1, 41, 153, 0, 12, 28, 3, 8, 184, 0, 105, 154, 0, 6, 18, 135, 172, 42, 180, 0, 46]
abbrev dktX0_as_0 : List UInt8 := dkwX0_as_0 ++ dktX0_as_1
theorem dksX0_as_0 : cX0_as.data.toList.drop 0 = dktX0_as_0 := by decide +kernel
theorem dksX0_as_1 : cX0_as.data.toList.drop 24 = dktX0_as_1 := dk_seg dksX0_as_0 24 rfl rfl
theorem dX0_as_0 : decode cX0_as 0 = .ok (.aload_n 0, 1) := dk_42 (dk_at dksX0_as_0 0 rfl rfl)
theorem dX0_as_1 : decode cX0_as 1 = .ok (.iload_n 1, 1) := dk_27 (dk_at dksX0_as_0 1 rfl rfl)
theorem dX0_as_2 : decode cX0_as 2 = .ok (.invokevirtual 297, 3) := dk_182 1 41 (dk_at dksX0_as_0 2 rfl rfl)
theorem dX0_as_5 : decode cX0_as 5 = .ok (.ifCond .eq 12, 3) := dk_153 0 12 (dk_at dksX0_as_0 5 rfl rfl)
theorem dX0_as_8 : decode cX0_as 8 = .ok (.iload_n 2, 1) := dk_28 (dk_at dksX0_as_0 8 rfl rfl)
theorem dX0_as_9 : decode cX0_as 9 = .ok (.iconst 0, 1) := dk_3 (dk_at dksX0_as_0 9 rfl rfl)
theorem dX0_as_10 : decode cX0_as 10 = .ok (.iconst 5, 1) := dk_8 (dk_at dksX0_as_0 10 rfl rfl)
theorem dX0_as_11 : decode cX0_as 11 = .ok (.invokestatic 105, 3) := dk_184 0 105 (dk_at dksX0_as_0 11 rfl rfl)
theorem dX0_as_14 : decode cX0_as 14 = .ok (.ifCond .ne 6, 3) := dk_154 0 6 (dk_at dksX0_as_0 14 rfl rfl)
theorem dX0_as_17 : decode cX0_as 17 = .ok (.ldc 135, 2) := dk_18 135 (dk_at dksX0_as_0 17 rfl rfl)
theorem dX0_as_19 : decode cX0_as 19 = .ok (.ireturn, 1) := dk_172 (dk_at dksX0_as_0 19 rfl rfl)
theorem dX0_as_20 : decode cX0_as 20 = .ok (.aload_n 0, 1) := dk_42 (dk_at dksX0_as_0 20 rfl rfl)
theorem dX0_as_21 : decode cX0_as 21 = .ok (.getfield 46, 3) := dk_180 0 46 (dk_at dksX0_as_0 21 rfl rfl)
theorem dX0_as_24 : decode cX0_as 24 = .ok (.getfield 259, 3) := dk_180 1 3 (dk_at dksX0_as_1 0 rfl rfl)
theorem dX0_as_27 : decode cX0_as 27 = .ok (.iload_n 1, 1) := dk_27 (dk_at dksX0_as_1 3 rfl rfl)
theorem dX0_as_28 : decode cX0_as 28 = .ok (.aaload, 1) := dk_50 (dk_at dksX0_as_1 4 rfl rfl)
theorem dX0_as_29 : decode cX0_as 29 = .ok (.astore_n 3, 1) := dk_78 (dk_at dksX0_as_1 5 rfl rfl)
theorem dX0_as_30 : decode cX0_as 30 = .ok (.aload_n 3, 1) := dk_45 (dk_at dksX0_as_1 6 rfl rfl)
theorem dX0_as_31 : decode cX0_as 31 = .ok (.iload_n 2, 1) := dk_28 (dk_at dksX0_as_1 7 rfl rfl)
theorem dX0_as_32 : decode cX0_as 32 = .ok (.invokestatic 312, 3) := dk_184 1 56 (dk_at dksX0_as_1 8 rfl rfl)
theorem dX0_as_35 : decode cX0_as 35 = .ok (.getfield 267, 3) := dk_180 1 11 (dk_at dksX0_as_1 11 rfl rfl)
theorem dX0_as_38 : decode cX0_as 38 = .ok (.ireturn, 1) := dk_172 (dk_at dksX0_as_1 14 rfl rfl)
theorem dX0_as_39 : decode cX0_as 39 = .ok (.astore 4, 2) := dk_58 4 (dk_at dksX0_as_1 15 rfl rfl)
theorem dX0_as_41 : decode cX0_as 41 = .ok (.ldc_w 318, 3) := dk_19 1 62 (dk_at dksX0_as_1 17 rfl rfl)
theorem dX0_as_44 : decode cX0_as 44 = .ok (.ireturn, 1) := dk_172 (dk_at dksX0_as_1 20 rfl rfl)
abbrev cX0_takenFor : ByteArray := prog_1_method_43_code
def yX0_takenFor : MethodName := ⟨RX0, "takenFor", "(Ljava/lang/Object;I)LNeverSaid$Speaker;"⟩
def dkwX0_takenFor_3 : List UInt8 := [176, 42, 192, 0, 31, 176]
abbrev dktX0_takenFor_3 : List UInt8 := dkwX0_takenFor_3 ++ []
def dkwX0_takenFor_2 : List UInt8 := [42, 192, 0, 13, 176, 42, 192, 0, 19, 176, 42, 192, 0, 22, 176, 42, 192, 0, 25, 176, 42, 192, 0, 28]
abbrev dktX0_takenFor_2 : List UInt8 := dkwX0_takenFor_2 ++ dktX0_takenFor_3
def dkwX0_takenFor_1 : List UInt8 := [170, 0, 0, 0, 0, 0, 60, 0, 0, 0, 1, 0, 0, 0, 5, 0, 0, 0, 35, 0, 0, 0, 40, 0, 0, 0, 45, 0, 0, 0, 50, 0, 0, 0, 55]
abbrev dktX0_takenFor_1 : List UInt8 := dkwX0_takenFor_1 ++ dktX0_takenFor_2
def dkwX0_takenFor_0 : List UInt8 := [27]
abbrev dktX0_takenFor_0 : List UInt8 := dkwX0_takenFor_0 ++ dktX0_takenFor_1
theorem dksX0_takenFor_0 : cX0_takenFor.data.toList.drop 0 = dktX0_takenFor_0 := by decide +kernel
theorem dksX0_takenFor_1 : cX0_takenFor.data.toList.drop 1 = dktX0_takenFor_1 := dk_seg dksX0_takenFor_0 1 rfl rfl
theorem dksX0_takenFor_2 : cX0_takenFor.data.toList.drop 36 = dktX0_takenFor_2 := dk_seg dksX0_takenFor_1 35 rfl rfl
theorem dksX0_takenFor_3 : cX0_takenFor.data.toList.drop 60 = dktX0_takenFor_3 := dk_seg dksX0_takenFor_2 24 rfl rfl
theorem dX0_takenFor_0 : decode cX0_takenFor 0 = .ok (.iload_n 1, 1) := dk_27 (dk_at dksX0_takenFor_0 0 rfl rfl)
theorem dX0_takenFor_1 : decode cX0_takenFor 1 = .ok (.tableswitch 60 1 5 #[35, 40, 45, 50, 55], 35) := by decide +kernel
theorem dX0_takenFor_36 : decode cX0_takenFor 36 = .ok (.aload_n 0, 1) := dk_42 (dk_at dksX0_takenFor_2 0 rfl rfl)
theorem dX0_takenFor_37 : decode cX0_takenFor 37 = .ok (.checkcast 13, 3) := dk_192 0 13 (dk_at dksX0_takenFor_2 1 rfl rfl)
theorem dX0_takenFor_40 : decode cX0_takenFor 40 = .ok (.areturn, 1) := dk_176 (dk_at dksX0_takenFor_2 4 rfl rfl)
theorem dX0_takenFor_41 : decode cX0_takenFor 41 = .ok (.aload_n 0, 1) := dk_42 (dk_at dksX0_takenFor_2 5 rfl rfl)
theorem dX0_takenFor_42 : decode cX0_takenFor 42 = .ok (.checkcast 19, 3) := dk_192 0 19 (dk_at dksX0_takenFor_2 6 rfl rfl)
theorem dX0_takenFor_45 : decode cX0_takenFor 45 = .ok (.areturn, 1) := dk_176 (dk_at dksX0_takenFor_2 9 rfl rfl)
theorem dX0_takenFor_46 : decode cX0_takenFor 46 = .ok (.aload_n 0, 1) := dk_42 (dk_at dksX0_takenFor_2 10 rfl rfl)
theorem dX0_takenFor_47 : decode cX0_takenFor 47 = .ok (.checkcast 22, 3) := dk_192 0 22 (dk_at dksX0_takenFor_2 11 rfl rfl)
theorem dX0_takenFor_50 : decode cX0_takenFor 50 = .ok (.areturn, 1) := dk_176 (dk_at dksX0_takenFor_2 14 rfl rfl)
theorem dX0_takenFor_51 : decode cX0_takenFor 51 = .ok (.aload_n 0, 1) := dk_42 (dk_at dksX0_takenFor_2 15 rfl rfl)
theorem dX0_takenFor_52 : decode cX0_takenFor 52 = .ok (.checkcast 25, 3) := dk_192 0 25 (dk_at dksX0_takenFor_2 16 rfl rfl)
theorem dX0_takenFor_55 : decode cX0_takenFor 55 = .ok (.areturn, 1) := dk_176 (dk_at dksX0_takenFor_2 19 rfl rfl)
theorem dX0_takenFor_56 : decode cX0_takenFor 56 = .ok (.aload_n 0, 1) := dk_42 (dk_at dksX0_takenFor_2 20 rfl rfl)
theorem dX0_takenFor_57 : decode cX0_takenFor 57 = .ok (.checkcast 28, 3) := dk_192 0 28 (dk_at dksX0_takenFor_2 21 rfl rfl)
theorem dX0_takenFor_60 : decode cX0_takenFor 60 = .ok (.areturn, 1) := dk_176 (dk_at dksX0_takenFor_3 0 rfl rfl)
theorem dX0_takenFor_61 : decode cX0_takenFor 61 = .ok (.aload_n 0, 1) := dk_42 (dk_at dksX0_takenFor_3 1 rfl rfl)
theorem dX0_takenFor_62 : decode cX0_takenFor 62 = .ok (.checkcast 31, 3) := dk_192 0 31 (dk_at dksX0_takenFor_3 2 rfl rfl)
theorem dX0_takenFor_65 : decode cX0_takenFor 65 = .ok (.areturn, 1) := dk_176 (dk_at dksX0_takenFor_3 5 rfl rfl)
abbrev cX0_turns : ByteArray := prog_1_method_45_code
def yX0_turns : MethodName := ⟨RX0, "turns", "(II)I"⟩
def dkwX0_turns_2 : List UInt8 := [180, 1, 3, 27, 50, 45, 180, 1, 11, 181, 1, 11, 45, 182, 1, 44, 172]
abbrev dktX0_turns_2 : List UInt8 := dkwX0_turns_2 ++ []
def dkwX0_turns_1 : List UInt8 := [180, 1, 3, 27, 50, 78, 42, 180, 0, 46, 180, 1, 3, 27, 28, 184, 1, 7, 83, 42, 180, 0, 46]
abbrev dktX0_turns_1 : List UInt8 := dkwX0_turns_1 ++ dktX0_turns_2
def dkwX0_turns_0 : List UInt8 := [42, 27, 182, 1, 41, 153, 0, 12, 28, 3, 8, 184, 0, 105, 154, 0, 6, 18, 135, 172, 42, 180, 0, 46]
abbrev dktX0_turns_0 : List UInt8 := dkwX0_turns_0 ++ dktX0_turns_1
theorem dksX0_turns_0 : cX0_turns.data.toList.drop 0 = dktX0_turns_0 := by decide +kernel
theorem dksX0_turns_1 : cX0_turns.data.toList.drop 24 = dktX0_turns_1 := dk_seg dksX0_turns_0 24 rfl rfl
theorem dksX0_turns_2 : cX0_turns.data.toList.drop 47 = dktX0_turns_2 := dk_seg dksX0_turns_1 23 rfl rfl
theorem dX0_turns_0 : decode cX0_turns 0 = .ok (.aload_n 0, 1) := dk_42 (dk_at dksX0_turns_0 0 rfl rfl)
theorem dX0_turns_1 : decode cX0_turns 1 = .ok (.iload_n 1, 1) := dk_27 (dk_at dksX0_turns_0 1 rfl rfl)
theorem dX0_turns_2 : decode cX0_turns 2 = .ok (.invokevirtual 297, 3) := dk_182 1 41 (dk_at dksX0_turns_0 2 rfl rfl)
theorem dX0_turns_5 : decode cX0_turns 5 = .ok (.ifCond .eq 12, 3) := dk_153 0 12 (dk_at dksX0_turns_0 5 rfl rfl)
theorem dX0_turns_8 : decode cX0_turns 8 = .ok (.iload_n 2, 1) := dk_28 (dk_at dksX0_turns_0 8 rfl rfl)
theorem dX0_turns_9 : decode cX0_turns 9 = .ok (.iconst 0, 1) := dk_3 (dk_at dksX0_turns_0 9 rfl rfl)
theorem dX0_turns_10 : decode cX0_turns 10 = .ok (.iconst 5, 1) := dk_8 (dk_at dksX0_turns_0 10 rfl rfl)
theorem dX0_turns_11 : decode cX0_turns 11 = .ok (.invokestatic 105, 3) := dk_184 0 105 (dk_at dksX0_turns_0 11 rfl rfl)
theorem dX0_turns_14 : decode cX0_turns 14 = .ok (.ifCond .ne 6, 3) := dk_154 0 6 (dk_at dksX0_turns_0 14 rfl rfl)
theorem dX0_turns_17 : decode cX0_turns 17 = .ok (.ldc 135, 2) := dk_18 135 (dk_at dksX0_turns_0 17 rfl rfl)
theorem dX0_turns_19 : decode cX0_turns 19 = .ok (.ireturn, 1) := dk_172 (dk_at dksX0_turns_0 19 rfl rfl)
theorem dX0_turns_20 : decode cX0_turns 20 = .ok (.aload_n 0, 1) := dk_42 (dk_at dksX0_turns_0 20 rfl rfl)
theorem dX0_turns_21 : decode cX0_turns 21 = .ok (.getfield 46, 3) := dk_180 0 46 (dk_at dksX0_turns_0 21 rfl rfl)
theorem dX0_turns_24 : decode cX0_turns 24 = .ok (.getfield 259, 3) := dk_180 1 3 (dk_at dksX0_turns_1 0 rfl rfl)
theorem dX0_turns_27 : decode cX0_turns 27 = .ok (.iload_n 1, 1) := dk_27 (dk_at dksX0_turns_1 3 rfl rfl)
theorem dX0_turns_28 : decode cX0_turns 28 = .ok (.aaload, 1) := dk_50 (dk_at dksX0_turns_1 4 rfl rfl)
theorem dX0_turns_29 : decode cX0_turns 29 = .ok (.astore_n 3, 1) := dk_78 (dk_at dksX0_turns_1 5 rfl rfl)
theorem dX0_turns_30 : decode cX0_turns 30 = .ok (.aload_n 0, 1) := dk_42 (dk_at dksX0_turns_1 6 rfl rfl)
theorem dX0_turns_31 : decode cX0_turns 31 = .ok (.getfield 46, 3) := dk_180 0 46 (dk_at dksX0_turns_1 7 rfl rfl)
theorem dX0_turns_34 : decode cX0_turns 34 = .ok (.getfield 259, 3) := dk_180 1 3 (dk_at dksX0_turns_1 10 rfl rfl)
theorem dX0_turns_37 : decode cX0_turns 37 = .ok (.iload_n 1, 1) := dk_27 (dk_at dksX0_turns_1 13 rfl rfl)
theorem dX0_turns_38 : decode cX0_turns 38 = .ok (.iload_n 2, 1) := dk_28 (dk_at dksX0_turns_1 14 rfl rfl)
theorem dX0_turns_39 : decode cX0_turns 39 = .ok (.invokestatic 263, 3) := dk_184 1 7 (dk_at dksX0_turns_1 15 rfl rfl)
theorem dX0_turns_42 : decode cX0_turns 42 = .ok (.aastore, 1) := dk_83 (dk_at dksX0_turns_1 18 rfl rfl)
theorem dX0_turns_43 : decode cX0_turns 43 = .ok (.aload_n 0, 1) := dk_42 (dk_at dksX0_turns_1 19 rfl rfl)
theorem dX0_turns_44 : decode cX0_turns 44 = .ok (.getfield 46, 3) := dk_180 0 46 (dk_at dksX0_turns_1 20 rfl rfl)
theorem dX0_turns_47 : decode cX0_turns 47 = .ok (.getfield 259, 3) := dk_180 1 3 (dk_at dksX0_turns_2 0 rfl rfl)
theorem dX0_turns_50 : decode cX0_turns 50 = .ok (.iload_n 1, 1) := dk_27 (dk_at dksX0_turns_2 3 rfl rfl)
theorem dX0_turns_51 : decode cX0_turns 51 = .ok (.aaload, 1) := dk_50 (dk_at dksX0_turns_2 4 rfl rfl)
theorem dX0_turns_52 : decode cX0_turns 52 = .ok (.aload_n 3, 1) := dk_45 (dk_at dksX0_turns_2 5 rfl rfl)
theorem dX0_turns_53 : decode cX0_turns 53 = .ok (.getfield 267, 3) := dk_180 1 11 (dk_at dksX0_turns_2 6 rfl rfl)
theorem dX0_turns_56 : decode cX0_turns 56 = .ok (.putfield 267, 3) := dk_181 1 11 (dk_at dksX0_turns_2 9 rfl rfl)
theorem dX0_turns_59 : decode cX0_turns 59 = .ok (.aload_n 3, 1) := dk_45 (dk_at dksX0_turns_2 12 rfl rfl)
theorem dX0_turns_60 : decode cX0_turns 60 = .ok (.invokevirtual 300, 3) := dk_182 1 44 (dk_at dksX0_turns_2 13 rfl rfl)
theorem dX0_turns_63 : decode cX0_turns 63 = .ok (.ireturn, 1) := dk_172 (dk_at dksX0_turns_2 16 rfl rfl)
abbrev cX0_bolder : ByteArray := prog_1_method_46_code
def yX0_bolder : MethodName := ⟨RX0, "bolder", "(II)I"⟩
def dkwX0_bolder_1 : List UInt8 := [180, 1, 3, 27, 50, 180, 1, 11, 62, 42, 180, 0, 46, 180, 1, 3, 27, 50, 28, 181, 1, 11, 29, 172]
abbrev dktX0_bolder_1 : List UInt8 := dkwX0_bolder_1 ++ []
def dkwX0_bolder_0 : List UInt8 := [42, 27, 182, 1, 41, 153, 0, 10, 28, 184, 1, 31, 154, 0, 6, 18, 135, 172, 42, 180, 0, 46]
abbrev dktX0_bolder_0 : List UInt8 := dkwX0_bolder_0 ++ dktX0_bolder_1
theorem dksX0_bolder_0 : cX0_bolder.data.toList.drop 0 = dktX0_bolder_0 := by decide +kernel
theorem dksX0_bolder_1 : cX0_bolder.data.toList.drop 22 = dktX0_bolder_1 := dk_seg dksX0_bolder_0 22 rfl rfl
theorem dX0_bolder_0 : decode cX0_bolder 0 = .ok (.aload_n 0, 1) := dk_42 (dk_at dksX0_bolder_0 0 rfl rfl)
theorem dX0_bolder_1 : decode cX0_bolder 1 = .ok (.iload_n 1, 1) := dk_27 (dk_at dksX0_bolder_0 1 rfl rfl)
theorem dX0_bolder_2 : decode cX0_bolder 2 = .ok (.invokevirtual 297, 3) := dk_182 1 41 (dk_at dksX0_bolder_0 2 rfl rfl)
theorem dX0_bolder_5 : decode cX0_bolder 5 = .ok (.ifCond .eq 10, 3) := dk_153 0 10 (dk_at dksX0_bolder_0 5 rfl rfl)
theorem dX0_bolder_8 : decode cX0_bolder 8 = .ok (.iload_n 2, 1) := dk_28 (dk_at dksX0_bolder_0 8 rfl rfl)
theorem dX0_bolder_9 : decode cX0_bolder 9 = .ok (.invokestatic 287, 3) := dk_184 1 31 (dk_at dksX0_bolder_0 9 rfl rfl)
theorem dX0_bolder_12 : decode cX0_bolder 12 = .ok (.ifCond .ne 6, 3) := dk_154 0 6 (dk_at dksX0_bolder_0 12 rfl rfl)
theorem dX0_bolder_15 : decode cX0_bolder 15 = .ok (.ldc 135, 2) := dk_18 135 (dk_at dksX0_bolder_0 15 rfl rfl)
theorem dX0_bolder_17 : decode cX0_bolder 17 = .ok (.ireturn, 1) := dk_172 (dk_at dksX0_bolder_0 17 rfl rfl)
theorem dX0_bolder_18 : decode cX0_bolder 18 = .ok (.aload_n 0, 1) := dk_42 (dk_at dksX0_bolder_0 18 rfl rfl)
theorem dX0_bolder_19 : decode cX0_bolder 19 = .ok (.getfield 46, 3) := dk_180 0 46 (dk_at dksX0_bolder_0 19 rfl rfl)
theorem dX0_bolder_22 : decode cX0_bolder 22 = .ok (.getfield 259, 3) := dk_180 1 3 (dk_at dksX0_bolder_1 0 rfl rfl)
theorem dX0_bolder_25 : decode cX0_bolder 25 = .ok (.iload_n 1, 1) := dk_27 (dk_at dksX0_bolder_1 3 rfl rfl)
theorem dX0_bolder_26 : decode cX0_bolder 26 = .ok (.aaload, 1) := dk_50 (dk_at dksX0_bolder_1 4 rfl rfl)
theorem dX0_bolder_27 : decode cX0_bolder 27 = .ok (.getfield 267, 3) := dk_180 1 11 (dk_at dksX0_bolder_1 5 rfl rfl)
theorem dX0_bolder_30 : decode cX0_bolder 30 = .ok (.istore_n 3, 1) := dk_62 (dk_at dksX0_bolder_1 8 rfl rfl)
theorem dX0_bolder_31 : decode cX0_bolder 31 = .ok (.aload_n 0, 1) := dk_42 (dk_at dksX0_bolder_1 9 rfl rfl)
theorem dX0_bolder_32 : decode cX0_bolder 32 = .ok (.getfield 46, 3) := dk_180 0 46 (dk_at dksX0_bolder_1 10 rfl rfl)
theorem dX0_bolder_35 : decode cX0_bolder 35 = .ok (.getfield 259, 3) := dk_180 1 3 (dk_at dksX0_bolder_1 13 rfl rfl)
theorem dX0_bolder_38 : decode cX0_bolder 38 = .ok (.iload_n 1, 1) := dk_27 (dk_at dksX0_bolder_1 16 rfl rfl)
theorem dX0_bolder_39 : decode cX0_bolder 39 = .ok (.aaload, 1) := dk_50 (dk_at dksX0_bolder_1 17 rfl rfl)
theorem dX0_bolder_40 : decode cX0_bolder 40 = .ok (.iload_n 2, 1) := dk_28 (dk_at dksX0_bolder_1 18 rfl rfl)
theorem dX0_bolder_41 : decode cX0_bolder 41 = .ok (.putfield 267, 3) := dk_181 1 11 (dk_at dksX0_bolder_1 19 rfl rfl)
theorem dX0_bolder_44 : decode cX0_bolder 44 = .ok (.iload_n 3, 1) := dk_29 (dk_at dksX0_bolder_1 22 rfl rfl)
theorem dX0_bolder_45 : decode cX0_bolder 45 = .ok (.ireturn, 1) := dk_172 (dk_at dksX0_bolder_1 23 rfl rfl)
abbrev cX0_away : ByteArray := prog_1_method_48_code
def yX0_away : MethodName := ⟨RX0, "away", "(III)I"⟩
def dkwX0_away_1 : List UInt8 := [154, 0, 6, 18, 135, 172, 42, 180, 0, 46, 180, 1, 13, 27, 28, 29, 184, 1, 63, 172]
abbrev dktX0_away_1 : List UInt8 := dkwX0_away_1 ++ []
def dkwX0_away_0 : List UInt8 := [42, 27, 182, 1, 41, 153, 0, 22, 28, 3, 16, 23, 184, 0, 105, 153, 0, 12, 29, 3, 4, 184, 0, 105]
abbrev dktX0_away_0 : List UInt8 := dkwX0_away_0 ++ dktX0_away_1
theorem dksX0_away_0 : cX0_away.data.toList.drop 0 = dktX0_away_0 := by decide +kernel
theorem dksX0_away_1 : cX0_away.data.toList.drop 24 = dktX0_away_1 := dk_seg dksX0_away_0 24 rfl rfl
theorem dX0_away_0 : decode cX0_away 0 = .ok (.aload_n 0, 1) := dk_42 (dk_at dksX0_away_0 0 rfl rfl)
theorem dX0_away_1 : decode cX0_away 1 = .ok (.iload_n 1, 1) := dk_27 (dk_at dksX0_away_0 1 rfl rfl)
theorem dX0_away_2 : decode cX0_away 2 = .ok (.invokevirtual 297, 3) := dk_182 1 41 (dk_at dksX0_away_0 2 rfl rfl)
theorem dX0_away_5 : decode cX0_away 5 = .ok (.ifCond .eq 22, 3) := dk_153 0 22 (dk_at dksX0_away_0 5 rfl rfl)
theorem dX0_away_8 : decode cX0_away 8 = .ok (.iload_n 2, 1) := dk_28 (dk_at dksX0_away_0 8 rfl rfl)
theorem dX0_away_9 : decode cX0_away 9 = .ok (.iconst 0, 1) := dk_3 (dk_at dksX0_away_0 9 rfl rfl)
theorem dX0_away_10 : decode cX0_away 10 = .ok (.bipush 23, 2) := dk_16 23 (dk_at dksX0_away_0 10 rfl rfl)
theorem dX0_away_12 : decode cX0_away 12 = .ok (.invokestatic 105, 3) := dk_184 0 105 (dk_at dksX0_away_0 12 rfl rfl)
theorem dX0_away_15 : decode cX0_away 15 = .ok (.ifCond .eq 12, 3) := dk_153 0 12 (dk_at dksX0_away_0 15 rfl rfl)
theorem dX0_away_18 : decode cX0_away 18 = .ok (.iload_n 3, 1) := dk_29 (dk_at dksX0_away_0 18 rfl rfl)
theorem dX0_away_19 : decode cX0_away 19 = .ok (.iconst 0, 1) := dk_3 (dk_at dksX0_away_0 19 rfl rfl)
theorem dX0_away_20 : decode cX0_away 20 = .ok (.iconst 1, 1) := dk_4 (dk_at dksX0_away_0 20 rfl rfl)
theorem dX0_away_21 : decode cX0_away 21 = .ok (.invokestatic 105, 3) := dk_184 0 105 (dk_at dksX0_away_0 21 rfl rfl)
theorem dX0_away_24 : decode cX0_away 24 = .ok (.ifCond .ne 6, 3) := dk_154 0 6 (dk_at dksX0_away_1 0 rfl rfl)
theorem dX0_away_27 : decode cX0_away 27 = .ok (.ldc 135, 2) := dk_18 135 (dk_at dksX0_away_1 3 rfl rfl)
theorem dX0_away_29 : decode cX0_away 29 = .ok (.ireturn, 1) := dk_172 (dk_at dksX0_away_1 5 rfl rfl)
theorem dX0_away_30 : decode cX0_away 30 = .ok (.aload_n 0, 1) := dk_42 (dk_at dksX0_away_1 6 rfl rfl)
theorem dX0_away_31 : decode cX0_away 31 = .ok (.getfield 46, 3) := dk_180 0 46 (dk_at dksX0_away_1 7 rfl rfl)
theorem dX0_away_34 : decode cX0_away 34 = .ok (.getfield 269, 3) := dk_180 1 13 (dk_at dksX0_away_1 10 rfl rfl)
theorem dX0_away_37 : decode cX0_away 37 = .ok (.iload_n 1, 1) := dk_27 (dk_at dksX0_away_1 13 rfl rfl)
theorem dX0_away_38 : decode cX0_away 38 = .ok (.iload_n 2, 1) := dk_28 (dk_at dksX0_away_1 14 rfl rfl)
theorem dX0_away_39 : decode cX0_away 39 = .ok (.iload_n 3, 1) := dk_29 (dk_at dksX0_away_1 15 rfl rfl)
theorem dX0_away_40 : decode cX0_away 40 = .ok (.invokestatic 319, 3) := dk_184 1 63 (dk_at dksX0_away_1 16 rfl rfl)
theorem dX0_away_43 : decode cX0_away 43 = .ok (.ireturn, 1) := dk_172 (dk_at dksX0_away_1 19 rfl rfl)
abbrev cX0_becomes : ByteArray := prog_1_method_47_code
def yX0_becomes : MethodName := ⟨RX0, "becomes", "([IIII)I"⟩
def dkwX0_becomes_1 : List UInt8 := [42, 27, 46, 4, 28, 120, 128, 167, 0, 12, 42, 27, 46, 4, 28, 120, 2, 130, 126, 79, 21, 4, 172]
abbrev dktX0_becomes_1 : List UInt8 := dkwX0_becomes_1 ++ []
def dkwX0_becomes_0 : List UInt8 := [42, 27, 46, 28, 184, 1, 37, 153, 0, 7, 4, 167, 0, 4, 3, 54, 4, 42, 27, 29, 4, 160, 0, 13]
abbrev dktX0_becomes_0 : List UInt8 := dkwX0_becomes_0 ++ dktX0_becomes_1
theorem dksX0_becomes_0 : cX0_becomes.data.toList.drop 0 = dktX0_becomes_0 := by decide +kernel
theorem dksX0_becomes_1 : cX0_becomes.data.toList.drop 24 = dktX0_becomes_1 := dk_seg dksX0_becomes_0 24 rfl rfl
theorem dX0_becomes_0 : decode cX0_becomes 0 = .ok (.aload_n 0, 1) := dk_42 (dk_at dksX0_becomes_0 0 rfl rfl)
theorem dX0_becomes_1 : decode cX0_becomes 1 = .ok (.iload_n 1, 1) := dk_27 (dk_at dksX0_becomes_0 1 rfl rfl)
theorem dX0_becomes_2 : decode cX0_becomes 2 = .ok (.iaload, 1) := dk_46 (dk_at dksX0_becomes_0 2 rfl rfl)
theorem dX0_becomes_3 : decode cX0_becomes 3 = .ok (.iload_n 2, 1) := dk_28 (dk_at dksX0_becomes_0 3 rfl rfl)
theorem dX0_becomes_4 : decode cX0_becomes 4 = .ok (.invokestatic 293, 3) := dk_184 1 37 (dk_at dksX0_becomes_0 4 rfl rfl)
theorem dX0_becomes_7 : decode cX0_becomes 7 = .ok (.ifCond .eq 7, 3) := dk_153 0 7 (dk_at dksX0_becomes_0 7 rfl rfl)
theorem dX0_becomes_10 : decode cX0_becomes 10 = .ok (.iconst 1, 1) := dk_4 (dk_at dksX0_becomes_0 10 rfl rfl)
theorem dX0_becomes_11 : decode cX0_becomes 11 = .ok (.goto 4, 3) := dk_167 0 4 (dk_at dksX0_becomes_0 11 rfl rfl)
theorem dX0_becomes_14 : decode cX0_becomes 14 = .ok (.iconst 0, 1) := dk_3 (dk_at dksX0_becomes_0 14 rfl rfl)
theorem dX0_becomes_15 : decode cX0_becomes 15 = .ok (.istore 4, 2) := dk_54 4 (dk_at dksX0_becomes_0 15 rfl rfl)
theorem dX0_becomes_17 : decode cX0_becomes 17 = .ok (.aload_n 0, 1) := dk_42 (dk_at dksX0_becomes_0 17 rfl rfl)
theorem dX0_becomes_18 : decode cX0_becomes 18 = .ok (.iload_n 1, 1) := dk_27 (dk_at dksX0_becomes_0 18 rfl rfl)
theorem dX0_becomes_19 : decode cX0_becomes 19 = .ok (.iload_n 3, 1) := dk_29 (dk_at dksX0_becomes_0 19 rfl rfl)
theorem dX0_becomes_20 : decode cX0_becomes 20 = .ok (.iconst 1, 1) := dk_4 (dk_at dksX0_becomes_0 20 rfl rfl)
theorem dX0_becomes_21 : decode cX0_becomes 21 = .ok (.if_icmp .ne 13, 3) := dk_160 0 13 (dk_at dksX0_becomes_0 21 rfl rfl)
theorem dX0_becomes_24 : decode cX0_becomes 24 = .ok (.aload_n 0, 1) := dk_42 (dk_at dksX0_becomes_1 0 rfl rfl)
theorem dX0_becomes_25 : decode cX0_becomes 25 = .ok (.iload_n 1, 1) := dk_27 (dk_at dksX0_becomes_1 1 rfl rfl)
theorem dX0_becomes_26 : decode cX0_becomes 26 = .ok (.iaload, 1) := dk_46 (dk_at dksX0_becomes_1 2 rfl rfl)
theorem dX0_becomes_27 : decode cX0_becomes 27 = .ok (.iconst 1, 1) := dk_4 (dk_at dksX0_becomes_1 3 rfl rfl)
theorem dX0_becomes_28 : decode cX0_becomes 28 = .ok (.iload_n 2, 1) := dk_28 (dk_at dksX0_becomes_1 4 rfl rfl)
theorem dX0_becomes_29 : decode cX0_becomes 29 = .ok (.ishl, 1) := dk_120 (dk_at dksX0_becomes_1 5 rfl rfl)
theorem dX0_becomes_30 : decode cX0_becomes 30 = .ok (.ior, 1) := dk_128 (dk_at dksX0_becomes_1 6 rfl rfl)
theorem dX0_becomes_31 : decode cX0_becomes 31 = .ok (.goto 12, 3) := dk_167 0 12 (dk_at dksX0_becomes_1 7 rfl rfl)
theorem dX0_becomes_34 : decode cX0_becomes 34 = .ok (.aload_n 0, 1) := dk_42 (dk_at dksX0_becomes_1 10 rfl rfl)
theorem dX0_becomes_35 : decode cX0_becomes 35 = .ok (.iload_n 1, 1) := dk_27 (dk_at dksX0_becomes_1 11 rfl rfl)
theorem dX0_becomes_36 : decode cX0_becomes 36 = .ok (.iaload, 1) := dk_46 (dk_at dksX0_becomes_1 12 rfl rfl)
theorem dX0_becomes_37 : decode cX0_becomes 37 = .ok (.iconst 1, 1) := dk_4 (dk_at dksX0_becomes_1 13 rfl rfl)
theorem dX0_becomes_38 : decode cX0_becomes 38 = .ok (.iload_n 2, 1) := dk_28 (dk_at dksX0_becomes_1 14 rfl rfl)
theorem dX0_becomes_39 : decode cX0_becomes 39 = .ok (.ishl, 1) := dk_120 (dk_at dksX0_becomes_1 15 rfl rfl)
theorem dX0_becomes_40 : decode cX0_becomes 40 = .ok (.iconst (-1), 1) := dk_2 (dk_at dksX0_becomes_1 16 rfl rfl)
theorem dX0_becomes_41 : decode cX0_becomes 41 = .ok (.ixor, 1) := dk_130 (dk_at dksX0_becomes_1 17 rfl rfl)
theorem dX0_becomes_42 : decode cX0_becomes 42 = .ok (.iand, 1) := dk_126 (dk_at dksX0_becomes_1 18 rfl rfl)
theorem dX0_becomes_43 : decode cX0_becomes 43 = .ok (.iastore, 1) := dk_79 (dk_at dksX0_becomes_1 19 rfl rfl)
theorem dX0_becomes_44 : decode cX0_becomes 44 = .ok (.iload 4, 2) := dk_21 4 (dk_at dksX0_becomes_1 20 rfl rfl)
theorem dX0_becomes_46 : decode cX0_becomes 46 = .ok (.ireturn, 1) := dk_172 (dk_at dksX0_becomes_1 22 rfl rfl)
abbrev cX0_friend : ByteArray := prog_1_method_50_code
def yX0_friend : MethodName := ⟨RX0, "friend", "(III)I"⟩
def dkwX0_friend_1 : List UInt8 := [184, 1, 63, 54, 4, 42, 180, 0, 46, 180, 1, 16, 28, 27, 29, 184, 1, 63, 21, 4, 126, 172]
abbrev dktX0_friend_1 : List UInt8 := dkwX0_friend_1 ++ []
def dkwX0_friend_0 : List UInt8 := [42, 27, 28, 29, 182, 1, 67, 154, 0, 6, 18, 135, 172, 42, 180, 0, 46, 180, 1, 16, 27, 28, 29]
abbrev dktX0_friend_0 : List UInt8 := dkwX0_friend_0 ++ dktX0_friend_1
theorem dksX0_friend_0 : cX0_friend.data.toList.drop 0 = dktX0_friend_0 := by decide +kernel
theorem dksX0_friend_1 : cX0_friend.data.toList.drop 23 = dktX0_friend_1 := dk_seg dksX0_friend_0 23 rfl rfl
theorem dX0_friend_0 : decode cX0_friend 0 = .ok (.aload_n 0, 1) := dk_42 (dk_at dksX0_friend_0 0 rfl rfl)
theorem dX0_friend_1 : decode cX0_friend 1 = .ok (.iload_n 1, 1) := dk_27 (dk_at dksX0_friend_0 1 rfl rfl)
theorem dX0_friend_2 : decode cX0_friend 2 = .ok (.iload_n 2, 1) := dk_28 (dk_at dksX0_friend_0 2 rfl rfl)
theorem dX0_friend_3 : decode cX0_friend 3 = .ok (.iload_n 3, 1) := dk_29 (dk_at dksX0_friend_0 3 rfl rfl)
theorem dX0_friend_4 : decode cX0_friend 4 = .ok (.invokevirtual 323, 3) := dk_182 1 67 (dk_at dksX0_friend_0 4 rfl rfl)
theorem dX0_friend_7 : decode cX0_friend 7 = .ok (.ifCond .ne 6, 3) := dk_154 0 6 (dk_at dksX0_friend_0 7 rfl rfl)
theorem dX0_friend_10 : decode cX0_friend 10 = .ok (.ldc 135, 2) := dk_18 135 (dk_at dksX0_friend_0 10 rfl rfl)
theorem dX0_friend_12 : decode cX0_friend 12 = .ok (.ireturn, 1) := dk_172 (dk_at dksX0_friend_0 12 rfl rfl)
theorem dX0_friend_13 : decode cX0_friend 13 = .ok (.aload_n 0, 1) := dk_42 (dk_at dksX0_friend_0 13 rfl rfl)
theorem dX0_friend_14 : decode cX0_friend 14 = .ok (.getfield 46, 3) := dk_180 0 46 (dk_at dksX0_friend_0 14 rfl rfl)
theorem dX0_friend_17 : decode cX0_friend 17 = .ok (.getfield 272, 3) := dk_180 1 16 (dk_at dksX0_friend_0 17 rfl rfl)
theorem dX0_friend_20 : decode cX0_friend 20 = .ok (.iload_n 1, 1) := dk_27 (dk_at dksX0_friend_0 20 rfl rfl)
theorem dX0_friend_21 : decode cX0_friend 21 = .ok (.iload_n 2, 1) := dk_28 (dk_at dksX0_friend_0 21 rfl rfl)
theorem dX0_friend_22 : decode cX0_friend 22 = .ok (.iload_n 3, 1) := dk_29 (dk_at dksX0_friend_0 22 rfl rfl)
theorem dX0_friend_23 : decode cX0_friend 23 = .ok (.invokestatic 319, 3) := dk_184 1 63 (dk_at dksX0_friend_1 0 rfl rfl)
theorem dX0_friend_26 : decode cX0_friend 26 = .ok (.istore 4, 2) := dk_54 4 (dk_at dksX0_friend_1 3 rfl rfl)
theorem dX0_friend_28 : decode cX0_friend 28 = .ok (.aload_n 0, 1) := dk_42 (dk_at dksX0_friend_1 5 rfl rfl)
theorem dX0_friend_29 : decode cX0_friend 29 = .ok (.getfield 46, 3) := dk_180 0 46 (dk_at dksX0_friend_1 6 rfl rfl)
theorem dX0_friend_32 : decode cX0_friend 32 = .ok (.getfield 272, 3) := dk_180 1 16 (dk_at dksX0_friend_1 9 rfl rfl)
theorem dX0_friend_35 : decode cX0_friend 35 = .ok (.iload_n 2, 1) := dk_28 (dk_at dksX0_friend_1 12 rfl rfl)
theorem dX0_friend_36 : decode cX0_friend 36 = .ok (.iload_n 1, 1) := dk_27 (dk_at dksX0_friend_1 13 rfl rfl)
theorem dX0_friend_37 : decode cX0_friend 37 = .ok (.iload_n 3, 1) := dk_29 (dk_at dksX0_friend_1 14 rfl rfl)
theorem dX0_friend_38 : decode cX0_friend 38 = .ok (.invokestatic 319, 3) := dk_184 1 63 (dk_at dksX0_friend_1 15 rfl rfl)
theorem dX0_friend_41 : decode cX0_friend 41 = .ok (.iload 4, 2) := dk_21 4 (dk_at dksX0_friend_1 18 rfl rfl)
theorem dX0_friend_43 : decode cX0_friend 43 = .ok (.iand, 1) := dk_126 (dk_at dksX0_friend_1 20 rfl rfl)
theorem dX0_friend_44 : decode cX0_friend 44 = .ok (.ireturn, 1) := dk_172 (dk_at dksX0_friend_1 21 rfl rfl)
abbrev cX0_areTwo : ByteArray := prog_1_method_49_code
def yX0_areTwo : MethodName := ⟨RX0, "areTwo", "(III)Z"⟩
def dkwX0_areTwo_1 : List UInt8 := [184, 0, 105, 153, 0, 7, 4, 167, 0, 4, 3, 172]
abbrev dktX0_areTwo_1 : List UInt8 := dkwX0_areTwo_1 ++ []
def dkwX0_areTwo_0 : List UInt8 := [42, 27, 182, 1, 41, 153, 0, 29, 42, 28, 182, 1, 41, 153, 0, 21, 27, 28, 159, 0, 16, 29, 3, 4]
abbrev dktX0_areTwo_0 : List UInt8 := dkwX0_areTwo_0 ++ dktX0_areTwo_1
theorem dksX0_areTwo_0 : cX0_areTwo.data.toList.drop 0 = dktX0_areTwo_0 := by decide +kernel
theorem dksX0_areTwo_1 : cX0_areTwo.data.toList.drop 24 = dktX0_areTwo_1 := dk_seg dksX0_areTwo_0 24 rfl rfl
theorem dX0_areTwo_0 : decode cX0_areTwo 0 = .ok (.aload_n 0, 1) := dk_42 (dk_at dksX0_areTwo_0 0 rfl rfl)
theorem dX0_areTwo_1 : decode cX0_areTwo 1 = .ok (.iload_n 1, 1) := dk_27 (dk_at dksX0_areTwo_0 1 rfl rfl)
theorem dX0_areTwo_2 : decode cX0_areTwo 2 = .ok (.invokevirtual 297, 3) := dk_182 1 41 (dk_at dksX0_areTwo_0 2 rfl rfl)
theorem dX0_areTwo_5 : decode cX0_areTwo 5 = .ok (.ifCond .eq 29, 3) := dk_153 0 29 (dk_at dksX0_areTwo_0 5 rfl rfl)
theorem dX0_areTwo_8 : decode cX0_areTwo 8 = .ok (.aload_n 0, 1) := dk_42 (dk_at dksX0_areTwo_0 8 rfl rfl)
theorem dX0_areTwo_9 : decode cX0_areTwo 9 = .ok (.iload_n 2, 1) := dk_28 (dk_at dksX0_areTwo_0 9 rfl rfl)
theorem dX0_areTwo_10 : decode cX0_areTwo 10 = .ok (.invokevirtual 297, 3) := dk_182 1 41 (dk_at dksX0_areTwo_0 10 rfl rfl)
theorem dX0_areTwo_13 : decode cX0_areTwo 13 = .ok (.ifCond .eq 21, 3) := dk_153 0 21 (dk_at dksX0_areTwo_0 13 rfl rfl)
theorem dX0_areTwo_16 : decode cX0_areTwo 16 = .ok (.iload_n 1, 1) := dk_27 (dk_at dksX0_areTwo_0 16 rfl rfl)
theorem dX0_areTwo_17 : decode cX0_areTwo 17 = .ok (.iload_n 2, 1) := dk_28 (dk_at dksX0_areTwo_0 17 rfl rfl)
theorem dX0_areTwo_18 : decode cX0_areTwo 18 = .ok (.if_icmp .eq 16, 3) := dk_159 0 16 (dk_at dksX0_areTwo_0 18 rfl rfl)
theorem dX0_areTwo_21 : decode cX0_areTwo 21 = .ok (.iload_n 3, 1) := dk_29 (dk_at dksX0_areTwo_0 21 rfl rfl)
theorem dX0_areTwo_22 : decode cX0_areTwo 22 = .ok (.iconst 0, 1) := dk_3 (dk_at dksX0_areTwo_0 22 rfl rfl)
theorem dX0_areTwo_23 : decode cX0_areTwo 23 = .ok (.iconst 1, 1) := dk_4 (dk_at dksX0_areTwo_0 23 rfl rfl)
theorem dX0_areTwo_24 : decode cX0_areTwo 24 = .ok (.invokestatic 105, 3) := dk_184 0 105 (dk_at dksX0_areTwo_1 0 rfl rfl)
theorem dX0_areTwo_27 : decode cX0_areTwo 27 = .ok (.ifCond .eq 7, 3) := dk_153 0 7 (dk_at dksX0_areTwo_1 3 rfl rfl)
theorem dX0_areTwo_30 : decode cX0_areTwo 30 = .ok (.iconst 1, 1) := dk_4 (dk_at dksX0_areTwo_1 6 rfl rfl)
theorem dX0_areTwo_31 : decode cX0_areTwo 31 = .ok (.goto 4, 3) := dk_167 0 4 (dk_at dksX0_areTwo_1 7 rfl rfl)
theorem dX0_areTwo_34 : decode cX0_areTwo 34 = .ok (.iconst 0, 1) := dk_3 (dk_at dksX0_areTwo_1 10 rfl rfl)
theorem dX0_areTwo_35 : decode cX0_areTwo 35 = .ok (.ireturn, 1) := dk_172 (dk_at dksX0_areTwo_1 11 rfl rfl)
abbrev cX0_follow : ByteArray := prog_1_method_51_code
def yX0_follow : MethodName := ⟨RX0, "follow", "(III)I"⟩
def dkwX0_follow_1 : List UInt8 := [167, 0, 5, 18, 135, 172]
abbrev dktX0_follow_1 : List UInt8 := dkwX0_follow_1 ++ []
def dkwX0_follow_0 : List UInt8 := [42, 27, 28, 29, 182, 1, 67, 153, 0, 19, 42, 180, 0, 46, 180, 1, 19, 27, 28, 29, 184, 1, 63]
abbrev dktX0_follow_0 : List UInt8 := dkwX0_follow_0 ++ dktX0_follow_1
theorem dksX0_follow_0 : cX0_follow.data.toList.drop 0 = dktX0_follow_0 := by decide +kernel
theorem dksX0_follow_1 : cX0_follow.data.toList.drop 23 = dktX0_follow_1 := dk_seg dksX0_follow_0 23 rfl rfl
theorem dX0_follow_0 : decode cX0_follow 0 = .ok (.aload_n 0, 1) := dk_42 (dk_at dksX0_follow_0 0 rfl rfl)
theorem dX0_follow_1 : decode cX0_follow 1 = .ok (.iload_n 1, 1) := dk_27 (dk_at dksX0_follow_0 1 rfl rfl)
theorem dX0_follow_2 : decode cX0_follow 2 = .ok (.iload_n 2, 1) := dk_28 (dk_at dksX0_follow_0 2 rfl rfl)
theorem dX0_follow_3 : decode cX0_follow 3 = .ok (.iload_n 3, 1) := dk_29 (dk_at dksX0_follow_0 3 rfl rfl)
theorem dX0_follow_4 : decode cX0_follow 4 = .ok (.invokevirtual 323, 3) := dk_182 1 67 (dk_at dksX0_follow_0 4 rfl rfl)
theorem dX0_follow_7 : decode cX0_follow 7 = .ok (.ifCond .eq 19, 3) := dk_153 0 19 (dk_at dksX0_follow_0 7 rfl rfl)
theorem dX0_follow_10 : decode cX0_follow 10 = .ok (.aload_n 0, 1) := dk_42 (dk_at dksX0_follow_0 10 rfl rfl)
theorem dX0_follow_11 : decode cX0_follow 11 = .ok (.getfield 46, 3) := dk_180 0 46 (dk_at dksX0_follow_0 11 rfl rfl)
theorem dX0_follow_14 : decode cX0_follow 14 = .ok (.getfield 275, 3) := dk_180 1 19 (dk_at dksX0_follow_0 14 rfl rfl)
theorem dX0_follow_17 : decode cX0_follow 17 = .ok (.iload_n 1, 1) := dk_27 (dk_at dksX0_follow_0 17 rfl rfl)
theorem dX0_follow_18 : decode cX0_follow 18 = .ok (.iload_n 2, 1) := dk_28 (dk_at dksX0_follow_0 18 rfl rfl)
theorem dX0_follow_19 : decode cX0_follow 19 = .ok (.iload_n 3, 1) := dk_29 (dk_at dksX0_follow_0 19 rfl rfl)
theorem dX0_follow_20 : decode cX0_follow 20 = .ok (.invokestatic 319, 3) := dk_184 1 63 (dk_at dksX0_follow_0 20 rfl rfl)
theorem dX0_follow_23 : decode cX0_follow 23 = .ok (.goto 5, 3) := dk_167 0 5 (dk_at dksX0_follow_1 0 rfl rfl)
theorem dX0_follow_26 : decode cX0_follow 26 = .ok (.ldc 135, 2) := dk_18 135 (dk_at dksX0_follow_1 3 rfl rfl)
theorem dX0_follow_28 : decode cX0_follow 28 = .ok (.ireturn, 1) := dk_172 (dk_at dksX0_follow_1 5 rfl rfl)
abbrev cX0_deal : ByteArray := prog_1_method_52_code
def yX0_deal : MethodName := ⟨RX0, "deal", "(I)I"⟩
def dkwX0_deal_3 : List UInt8 := [180, 0, 46, 182, 1, 70, 126, 182, 1, 34, 54, 6, 132, 2, 1, 167, 255, 185, 28, 172]
abbrev dktX0_deal_3 : List UInt8 := dkwX0_deal_3 ++ []
def dkwX0_deal_2 : List UInt8 := [182, 1, 70, 16, 101, 112, 54, 4, 42, 180, 0, 46, 182, 1, 70, 54, 5, 42, 29, 21, 4, 21, 5, 42]
abbrev dktX0_deal_2 : List UInt8 := dkwX0_deal_2 ++ dktX0_deal_3
def dkwX0_deal_1 : List UInt8 := [180, 0, 101, 16, 12, 162, 0, 60, 42, 180, 0, 46, 182, 1, 70, 16, 6, 112, 62, 42, 180, 0, 46]
abbrev dktX0_deal_1 : List UInt8 := dkwX0_deal_1 ++ dktX0_deal_2
def dkwX0_deal_0 : List UInt8 := [27, 4, 16, 12, 184, 0, 105, 154, 0, 6, 18, 135, 172, 3, 61, 28, 27, 162, 0, 72, 42, 180, 0, 46]
abbrev dktX0_deal_0 : List UInt8 := dkwX0_deal_0 ++ dktX0_deal_1
theorem dksX0_deal_0 : cX0_deal.data.toList.drop 0 = dktX0_deal_0 := by decide +kernel
theorem dksX0_deal_1 : cX0_deal.data.toList.drop 24 = dktX0_deal_1 := dk_seg dksX0_deal_0 24 rfl rfl
theorem dksX0_deal_2 : cX0_deal.data.toList.drop 47 = dktX0_deal_2 := dk_seg dksX0_deal_1 23 rfl rfl
theorem dksX0_deal_3 : cX0_deal.data.toList.drop 71 = dktX0_deal_3 := dk_seg dksX0_deal_2 24 rfl rfl
theorem dX0_deal_0 : decode cX0_deal 0 = .ok (.iload_n 1, 1) := dk_27 (dk_at dksX0_deal_0 0 rfl rfl)
theorem dX0_deal_1 : decode cX0_deal 1 = .ok (.iconst 1, 1) := dk_4 (dk_at dksX0_deal_0 1 rfl rfl)
theorem dX0_deal_2 : decode cX0_deal 2 = .ok (.bipush 12, 2) := dk_16 12 (dk_at dksX0_deal_0 2 rfl rfl)
theorem dX0_deal_4 : decode cX0_deal 4 = .ok (.invokestatic 105, 3) := dk_184 0 105 (dk_at dksX0_deal_0 4 rfl rfl)
theorem dX0_deal_7 : decode cX0_deal 7 = .ok (.ifCond .ne 6, 3) := dk_154 0 6 (dk_at dksX0_deal_0 7 rfl rfl)
theorem dX0_deal_10 : decode cX0_deal 10 = .ok (.ldc 135, 2) := dk_18 135 (dk_at dksX0_deal_0 10 rfl rfl)
theorem dX0_deal_12 : decode cX0_deal 12 = .ok (.ireturn, 1) := dk_172 (dk_at dksX0_deal_0 12 rfl rfl)
theorem dX0_deal_13 : decode cX0_deal 13 = .ok (.iconst 0, 1) := dk_3 (dk_at dksX0_deal_0 13 rfl rfl)
theorem dX0_deal_14 : decode cX0_deal 14 = .ok (.istore_n 2, 1) := dk_61 (dk_at dksX0_deal_0 14 rfl rfl)
theorem dX0_deal_15 : decode cX0_deal 15 = .ok (.iload_n 2, 1) := dk_28 (dk_at dksX0_deal_0 15 rfl rfl)
theorem dX0_deal_16 : decode cX0_deal 16 = .ok (.iload_n 1, 1) := dk_27 (dk_at dksX0_deal_0 16 rfl rfl)
theorem dX0_deal_17 : decode cX0_deal 17 = .ok (.if_icmp .ge 72, 3) := dk_162 0 72 (dk_at dksX0_deal_0 17 rfl rfl)
theorem dX0_deal_20 : decode cX0_deal 20 = .ok (.aload_n 0, 1) := dk_42 (dk_at dksX0_deal_0 20 rfl rfl)
theorem dX0_deal_21 : decode cX0_deal 21 = .ok (.getfield 46, 3) := dk_180 0 46 (dk_at dksX0_deal_0 21 rfl rfl)
theorem dX0_deal_24 : decode cX0_deal 24 = .ok (.getfield 101, 3) := dk_180 0 101 (dk_at dksX0_deal_1 0 rfl rfl)
theorem dX0_deal_27 : decode cX0_deal 27 = .ok (.bipush 12, 2) := dk_16 12 (dk_at dksX0_deal_1 3 rfl rfl)
theorem dX0_deal_29 : decode cX0_deal 29 = .ok (.if_icmp .ge 60, 3) := dk_162 0 60 (dk_at dksX0_deal_1 5 rfl rfl)
theorem dX0_deal_32 : decode cX0_deal 32 = .ok (.aload_n 0, 1) := dk_42 (dk_at dksX0_deal_1 8 rfl rfl)
theorem dX0_deal_33 : decode cX0_deal 33 = .ok (.getfield 46, 3) := dk_180 0 46 (dk_at dksX0_deal_1 9 rfl rfl)
theorem dX0_deal_36 : decode cX0_deal 36 = .ok (.invokevirtual 326, 3) := dk_182 1 70 (dk_at dksX0_deal_1 12 rfl rfl)
theorem dX0_deal_39 : decode cX0_deal 39 = .ok (.bipush 6, 2) := dk_16 6 (dk_at dksX0_deal_1 15 rfl rfl)
theorem dX0_deal_41 : decode cX0_deal 41 = .ok (.irem, 1) := dk_112 (dk_at dksX0_deal_1 17 rfl rfl)
theorem dX0_deal_42 : decode cX0_deal 42 = .ok (.istore_n 3, 1) := dk_62 (dk_at dksX0_deal_1 18 rfl rfl)
theorem dX0_deal_43 : decode cX0_deal 43 = .ok (.aload_n 0, 1) := dk_42 (dk_at dksX0_deal_1 19 rfl rfl)
theorem dX0_deal_44 : decode cX0_deal 44 = .ok (.getfield 46, 3) := dk_180 0 46 (dk_at dksX0_deal_1 20 rfl rfl)
theorem dX0_deal_47 : decode cX0_deal 47 = .ok (.invokevirtual 326, 3) := dk_182 1 70 (dk_at dksX0_deal_2 0 rfl rfl)
theorem dX0_deal_50 : decode cX0_deal 50 = .ok (.bipush 101, 2) := dk_16 101 (dk_at dksX0_deal_2 3 rfl rfl)
theorem dX0_deal_52 : decode cX0_deal 52 = .ok (.irem, 1) := dk_112 (dk_at dksX0_deal_2 5 rfl rfl)
theorem dX0_deal_53 : decode cX0_deal 53 = .ok (.istore 4, 2) := dk_54 4 (dk_at dksX0_deal_2 6 rfl rfl)
theorem dX0_deal_55 : decode cX0_deal 55 = .ok (.aload_n 0, 1) := dk_42 (dk_at dksX0_deal_2 8 rfl rfl)
theorem dX0_deal_56 : decode cX0_deal 56 = .ok (.getfield 46, 3) := dk_180 0 46 (dk_at dksX0_deal_2 9 rfl rfl)
theorem dX0_deal_59 : decode cX0_deal 59 = .ok (.invokevirtual 326, 3) := dk_182 1 70 (dk_at dksX0_deal_2 12 rfl rfl)
theorem dX0_deal_62 : decode cX0_deal 62 = .ok (.istore 5, 2) := dk_54 5 (dk_at dksX0_deal_2 15 rfl rfl)
theorem dX0_deal_64 : decode cX0_deal 64 = .ok (.aload_n 0, 1) := dk_42 (dk_at dksX0_deal_2 17 rfl rfl)
theorem dX0_deal_65 : decode cX0_deal 65 = .ok (.iload_n 3, 1) := dk_29 (dk_at dksX0_deal_2 18 rfl rfl)
theorem dX0_deal_66 : decode cX0_deal 66 = .ok (.iload 4, 2) := dk_21 4 (dk_at dksX0_deal_2 19 rfl rfl)
theorem dX0_deal_68 : decode cX0_deal 68 = .ok (.iload 5, 2) := dk_21 5 (dk_at dksX0_deal_2 21 rfl rfl)
theorem dX0_deal_70 : decode cX0_deal 70 = .ok (.aload_n 0, 1) := dk_42 (dk_at dksX0_deal_2 23 rfl rfl)
theorem dX0_deal_71 : decode cX0_deal 71 = .ok (.getfield 46, 3) := dk_180 0 46 (dk_at dksX0_deal_3 0 rfl rfl)
theorem dX0_deal_74 : decode cX0_deal 74 = .ok (.invokevirtual 326, 3) := dk_182 1 70 (dk_at dksX0_deal_3 3 rfl rfl)
theorem dX0_deal_77 : decode cX0_deal 77 = .ok (.iand, 1) := dk_126 (dk_at dksX0_deal_3 6 rfl rfl)
theorem dX0_deal_78 : decode cX0_deal 78 = .ok (.invokevirtual 290, 3) := dk_182 1 34 (dk_at dksX0_deal_3 7 rfl rfl)
theorem dX0_deal_81 : decode cX0_deal 81 = .ok (.istore 6, 2) := dk_54 6 (dk_at dksX0_deal_3 10 rfl rfl)
theorem dX0_deal_83 : decode cX0_deal 83 = .ok (.iinc 2 1, 3) := dk_132 2 1 (dk_at dksX0_deal_3 12 rfl rfl)
theorem dX0_deal_86 : decode cX0_deal 86 = .ok (.goto (-71), 3) := dk_167 255 185 (dk_at dksX0_deal_3 15 rfl rfl)
theorem dX0_deal_89 : decode cX0_deal 89 = .ok (.iload_n 2, 1) := dk_28 (dk_at dksX0_deal_3 18 rfl rfl)
theorem dX0_deal_90 : decode cX0_deal 90 = .ok (.ireturn, 1) := dk_172 (dk_at dksX0_deal_3 19 rfl rfl)
abbrev cX0_seed : ByteArray := prog_1_method_53_code
def yX0_seed : MethodName := ⟨RX0, "seed", "(I)I"⟩
def dkwX0_seed_0 : List UInt8 := [42, 180, 0, 46, 180, 1, 73, 61, 42, 180, 0, 46, 27, 181, 1, 73, 28, 172]
abbrev dktX0_seed_0 : List UInt8 := dkwX0_seed_0 ++ []
theorem dksX0_seed_0 : cX0_seed.data.toList.drop 0 = dktX0_seed_0 := by decide +kernel
theorem dX0_seed_0 : decode cX0_seed 0 = .ok (.aload_n 0, 1) := dk_42 (dk_at dksX0_seed_0 0 rfl rfl)
theorem dX0_seed_1 : decode cX0_seed 1 = .ok (.getfield 46, 3) := dk_180 0 46 (dk_at dksX0_seed_0 1 rfl rfl)
theorem dX0_seed_4 : decode cX0_seed 4 = .ok (.getfield 329, 3) := dk_180 1 73 (dk_at dksX0_seed_0 4 rfl rfl)
theorem dX0_seed_7 : decode cX0_seed 7 = .ok (.istore_n 2, 1) := dk_61 (dk_at dksX0_seed_0 7 rfl rfl)
theorem dX0_seed_8 : decode cX0_seed 8 = .ok (.aload_n 0, 1) := dk_42 (dk_at dksX0_seed_0 8 rfl rfl)
theorem dX0_seed_9 : decode cX0_seed 9 = .ok (.getfield 46, 3) := dk_180 0 46 (dk_at dksX0_seed_0 9 rfl rfl)
theorem dX0_seed_12 : decode cX0_seed 12 = .ok (.iload_n 1, 1) := dk_27 (dk_at dksX0_seed_0 12 rfl rfl)
theorem dX0_seed_13 : decode cX0_seed 13 = .ok (.putfield 329, 3) := dk_181 1 73 (dk_at dksX0_seed_0 13 rfl rfl)
theorem dX0_seed_16 : decode cX0_seed 16 = .ok (.iload_n 2, 1) := dk_28 (dk_at dksX0_seed_0 16 rfl rfl)
theorem dX0_seed_17 : decode cX0_seed 17 = .ok (.ireturn, 1) := dk_172 (dk_at dksX0_seed_0 17 rfl rfl)
abbrev cX0_deed : ByteArray := prog_1_method_55_code
def yX0_deed : MethodName := ⟨RX0, "deed", "(III)I"⟩
def dkwX0_deed_5 : List UInt8 := [180, 0, 109, 4, 100, 172]
abbrev dktX0_deed_5 : List UInt8 := dkwX0_deed_5 ++ []
def dkwX0_deed_4 : List UInt8 := [42, 25, 4, 182, 1, 93, 42, 180, 0, 46, 89, 180, 0, 109, 4, 96, 181, 0, 109, 42, 180, 0, 46]
abbrev dktX0_deed_4 : List UInt8 := dkwX0_deed_4 ++ dktX0_deed_5
def dkwX0_deed_3 : List UInt8 := [180, 0, 109, 50, 58, 4, 25, 4, 27, 181, 1, 84, 25, 4, 28, 181, 1, 87, 25, 4, 29, 181, 1, 90]
abbrev dktX0_deed_3 : List UInt8 := dkwX0_deed_3 ++ dktX0_deed_4
def dkwX0_deed_2 : List UInt8 := [180, 0, 109, 16, 8, 160, 0, 6, 18, 130, 172, 42, 180, 0, 46, 180, 1, 22, 42, 180, 0, 46]
abbrev dktX0_deed_2 : List UInt8 := dkwX0_deed_2 ++ dktX0_deed_3
def dkwX0_deed_1 : List UInt8 := [184, 0, 105, 153, 0, 13, 29, 3, 16, 99, 184, 0, 105, 154, 0, 6, 18, 135, 172, 42, 180, 0, 46]
abbrev dktX0_deed_1 : List UInt8 := dkwX0_deed_1 ++ dktX0_deed_2
def dkwX0_deed_0 : List UInt8 := [42, 27, 182, 1, 76, 153, 0, 35, 27, 184, 1, 79, 4, 5, 184, 0, 105, 153, 0, 23, 28, 3, 16, 23]
abbrev dktX0_deed_0 : List UInt8 := dkwX0_deed_0 ++ dktX0_deed_1
theorem dksX0_deed_0 : cX0_deed.data.toList.drop 0 = dktX0_deed_0 := by decide +kernel
theorem dksX0_deed_1 : cX0_deed.data.toList.drop 24 = dktX0_deed_1 := dk_seg dksX0_deed_0 24 rfl rfl
theorem dksX0_deed_2 : cX0_deed.data.toList.drop 47 = dktX0_deed_2 := dk_seg dksX0_deed_1 23 rfl rfl
theorem dksX0_deed_3 : cX0_deed.data.toList.drop 69 = dktX0_deed_3 := dk_seg dksX0_deed_2 22 rfl rfl
theorem dksX0_deed_4 : cX0_deed.data.toList.drop 93 = dktX0_deed_4 := dk_seg dksX0_deed_3 24 rfl rfl
theorem dksX0_deed_5 : cX0_deed.data.toList.drop 116 = dktX0_deed_5 := dk_seg dksX0_deed_4 23 rfl rfl
theorem dX0_deed_0 : decode cX0_deed 0 = .ok (.aload_n 0, 1) := dk_42 (dk_at dksX0_deed_0 0 rfl rfl)
theorem dX0_deed_1 : decode cX0_deed 1 = .ok (.iload_n 1, 1) := dk_27 (dk_at dksX0_deed_0 1 rfl rfl)
theorem dX0_deed_2 : decode cX0_deed 2 = .ok (.invokevirtual 332, 3) := dk_182 1 76 (dk_at dksX0_deed_0 2 rfl rfl)
theorem dX0_deed_5 : decode cX0_deed 5 = .ok (.ifCond .eq 35, 3) := dk_153 0 35 (dk_at dksX0_deed_0 5 rfl rfl)
theorem dX0_deed_8 : decode cX0_deed 8 = .ok (.iload_n 1, 1) := dk_27 (dk_at dksX0_deed_0 8 rfl rfl)
theorem dX0_deed_9 : decode cX0_deed 9 = .ok (.invokestatic 335, 3) := dk_184 1 79 (dk_at dksX0_deed_0 9 rfl rfl)
theorem dX0_deed_12 : decode cX0_deed 12 = .ok (.iconst 1, 1) := dk_4 (dk_at dksX0_deed_0 12 rfl rfl)
theorem dX0_deed_13 : decode cX0_deed 13 = .ok (.iconst 2, 1) := dk_5 (dk_at dksX0_deed_0 13 rfl rfl)
theorem dX0_deed_14 : decode cX0_deed 14 = .ok (.invokestatic 105, 3) := dk_184 0 105 (dk_at dksX0_deed_0 14 rfl rfl)
theorem dX0_deed_17 : decode cX0_deed 17 = .ok (.ifCond .eq 23, 3) := dk_153 0 23 (dk_at dksX0_deed_0 17 rfl rfl)
theorem dX0_deed_20 : decode cX0_deed 20 = .ok (.iload_n 2, 1) := dk_28 (dk_at dksX0_deed_0 20 rfl rfl)
theorem dX0_deed_21 : decode cX0_deed 21 = .ok (.iconst 0, 1) := dk_3 (dk_at dksX0_deed_0 21 rfl rfl)
theorem dX0_deed_22 : decode cX0_deed 22 = .ok (.bipush 23, 2) := dk_16 23 (dk_at dksX0_deed_0 22 rfl rfl)
theorem dX0_deed_24 : decode cX0_deed 24 = .ok (.invokestatic 105, 3) := dk_184 0 105 (dk_at dksX0_deed_1 0 rfl rfl)
theorem dX0_deed_27 : decode cX0_deed 27 = .ok (.ifCond .eq 13, 3) := dk_153 0 13 (dk_at dksX0_deed_1 3 rfl rfl)
theorem dX0_deed_30 : decode cX0_deed 30 = .ok (.iload_n 3, 1) := dk_29 (dk_at dksX0_deed_1 6 rfl rfl)
theorem dX0_deed_31 : decode cX0_deed 31 = .ok (.iconst 0, 1) := dk_3 (dk_at dksX0_deed_1 7 rfl rfl)
theorem dX0_deed_32 : decode cX0_deed 32 = .ok (.bipush 99, 2) := dk_16 99 (dk_at dksX0_deed_1 8 rfl rfl)
theorem dX0_deed_34 : decode cX0_deed 34 = .ok (.invokestatic 105, 3) := dk_184 0 105 (dk_at dksX0_deed_1 10 rfl rfl)
theorem dX0_deed_37 : decode cX0_deed 37 = .ok (.ifCond .ne 6, 3) := dk_154 0 6 (dk_at dksX0_deed_1 13 rfl rfl)
theorem dX0_deed_40 : decode cX0_deed 40 = .ok (.ldc 135, 2) := dk_18 135 (dk_at dksX0_deed_1 16 rfl rfl)
theorem dX0_deed_42 : decode cX0_deed 42 = .ok (.ireturn, 1) := dk_172 (dk_at dksX0_deed_1 18 rfl rfl)
theorem dX0_deed_43 : decode cX0_deed 43 = .ok (.aload_n 0, 1) := dk_42 (dk_at dksX0_deed_1 19 rfl rfl)
theorem dX0_deed_44 : decode cX0_deed 44 = .ok (.getfield 46, 3) := dk_180 0 46 (dk_at dksX0_deed_1 20 rfl rfl)
theorem dX0_deed_47 : decode cX0_deed 47 = .ok (.getfield 109, 3) := dk_180 0 109 (dk_at dksX0_deed_2 0 rfl rfl)
theorem dX0_deed_50 : decode cX0_deed 50 = .ok (.bipush 8, 2) := dk_16 8 (dk_at dksX0_deed_2 3 rfl rfl)
theorem dX0_deed_52 : decode cX0_deed 52 = .ok (.if_icmp .ne 6, 3) := dk_160 0 6 (dk_at dksX0_deed_2 5 rfl rfl)
theorem dX0_deed_55 : decode cX0_deed 55 = .ok (.ldc 130, 2) := dk_18 130 (dk_at dksX0_deed_2 8 rfl rfl)
theorem dX0_deed_57 : decode cX0_deed 57 = .ok (.ireturn, 1) := dk_172 (dk_at dksX0_deed_2 10 rfl rfl)
theorem dX0_deed_58 : decode cX0_deed 58 = .ok (.aload_n 0, 1) := dk_42 (dk_at dksX0_deed_2 11 rfl rfl)
theorem dX0_deed_59 : decode cX0_deed 59 = .ok (.getfield 46, 3) := dk_180 0 46 (dk_at dksX0_deed_2 12 rfl rfl)
theorem dX0_deed_62 : decode cX0_deed 62 = .ok (.getfield 278, 3) := dk_180 1 22 (dk_at dksX0_deed_2 15 rfl rfl)
theorem dX0_deed_65 : decode cX0_deed 65 = .ok (.aload_n 0, 1) := dk_42 (dk_at dksX0_deed_2 18 rfl rfl)
theorem dX0_deed_66 : decode cX0_deed 66 = .ok (.getfield 46, 3) := dk_180 0 46 (dk_at dksX0_deed_2 19 rfl rfl)
theorem dX0_deed_69 : decode cX0_deed 69 = .ok (.getfield 109, 3) := dk_180 0 109 (dk_at dksX0_deed_3 0 rfl rfl)
theorem dX0_deed_72 : decode cX0_deed 72 = .ok (.aaload, 1) := dk_50 (dk_at dksX0_deed_3 3 rfl rfl)
theorem dX0_deed_73 : decode cX0_deed 73 = .ok (.astore 4, 2) := dk_58 4 (dk_at dksX0_deed_3 4 rfl rfl)
theorem dX0_deed_75 : decode cX0_deed 75 = .ok (.aload 4, 2) := dk_25 4 (dk_at dksX0_deed_3 6 rfl rfl)
theorem dX0_deed_77 : decode cX0_deed 77 = .ok (.iload_n 1, 1) := dk_27 (dk_at dksX0_deed_3 8 rfl rfl)
theorem dX0_deed_78 : decode cX0_deed 78 = .ok (.putfield 340, 3) := dk_181 1 84 (dk_at dksX0_deed_3 9 rfl rfl)
theorem dX0_deed_81 : decode cX0_deed 81 = .ok (.aload 4, 2) := dk_25 4 (dk_at dksX0_deed_3 12 rfl rfl)
theorem dX0_deed_83 : decode cX0_deed 83 = .ok (.iload_n 2, 1) := dk_28 (dk_at dksX0_deed_3 14 rfl rfl)
theorem dX0_deed_84 : decode cX0_deed 84 = .ok (.putfield 343, 3) := dk_181 1 87 (dk_at dksX0_deed_3 15 rfl rfl)
theorem dX0_deed_87 : decode cX0_deed 87 = .ok (.aload 4, 2) := dk_25 4 (dk_at dksX0_deed_3 18 rfl rfl)
theorem dX0_deed_89 : decode cX0_deed 89 = .ok (.iload_n 3, 1) := dk_29 (dk_at dksX0_deed_3 20 rfl rfl)
theorem dX0_deed_90 : decode cX0_deed 90 = .ok (.putfield 346, 3) := dk_181 1 90 (dk_at dksX0_deed_3 21 rfl rfl)
theorem dX0_deed_93 : decode cX0_deed 93 = .ok (.aload_n 0, 1) := dk_42 (dk_at dksX0_deed_4 0 rfl rfl)
theorem dX0_deed_94 : decode cX0_deed 94 = .ok (.aload 4, 2) := dk_25 4 (dk_at dksX0_deed_4 1 rfl rfl)
theorem dX0_deed_96 : decode cX0_deed 96 = .ok (.invokevirtual 349, 3) := dk_182 1 93 (dk_at dksX0_deed_4 3 rfl rfl)
theorem dX0_deed_99 : decode cX0_deed 99 = .ok (.aload_n 0, 1) := dk_42 (dk_at dksX0_deed_4 6 rfl rfl)
theorem dX0_deed_100 : decode cX0_deed 100 = .ok (.getfield 46, 3) := dk_180 0 46 (dk_at dksX0_deed_4 7 rfl rfl)
theorem dX0_deed_103 : decode cX0_deed 103 = .ok (.dup, 1) := dk_89 (dk_at dksX0_deed_4 10 rfl rfl)
theorem dX0_deed_104 : decode cX0_deed 104 = .ok (.getfield 109, 3) := dk_180 0 109 (dk_at dksX0_deed_4 11 rfl rfl)
theorem dX0_deed_107 : decode cX0_deed 107 = .ok (.iconst 1, 1) := dk_4 (dk_at dksX0_deed_4 14 rfl rfl)
theorem dX0_deed_108 : decode cX0_deed 108 = .ok (.iadd, 1) := dk_96 (dk_at dksX0_deed_4 15 rfl rfl)
theorem dX0_deed_109 : decode cX0_deed 109 = .ok (.putfield 109, 3) := dk_181 0 109 (dk_at dksX0_deed_4 16 rfl rfl)
theorem dX0_deed_112 : decode cX0_deed 112 = .ok (.aload_n 0, 1) := dk_42 (dk_at dksX0_deed_4 19 rfl rfl)
theorem dX0_deed_113 : decode cX0_deed 113 = .ok (.getfield 46, 3) := dk_180 0 46 (dk_at dksX0_deed_4 20 rfl rfl)
theorem dX0_deed_116 : decode cX0_deed 116 = .ok (.getfield 109, 3) := dk_180 0 109 (dk_at dksX0_deed_5 0 rfl rfl)
theorem dX0_deed_119 : decode cX0_deed 119 = .ok (.iconst 1, 1) := dk_4 (dk_at dksX0_deed_5 3 rfl rfl)
theorem dX0_deed_120 : decode cX0_deed 120 = .ok (.isub, 1) := dk_100 (dk_at dksX0_deed_5 4 rfl rfl)
theorem dX0_deed_121 : decode cX0_deed 121 = .ok (.ireturn, 1) := dk_172 (dk_at dksX0_deed_5 5 rfl rfl)
abbrev cX0_isSet : ByteArray := prog_1_method_54_code
def yX0_isSet : MethodName := ⟨RX0, "isSet", "(I)Z"⟩
def dkwX0_isSet_0 : List UInt8 := [27, 155, 0, 19, 27, 42, 180, 0, 46, 180, 0, 101, 122, 154, 0, 7, 4, 167, 0, 4, 3, 172]
abbrev dktX0_isSet_0 : List UInt8 := dkwX0_isSet_0 ++ []
theorem dksX0_isSet_0 : cX0_isSet.data.toList.drop 0 = dktX0_isSet_0 := by decide +kernel
theorem dX0_isSet_0 : decode cX0_isSet 0 = .ok (.iload_n 1, 1) := dk_27 (dk_at dksX0_isSet_0 0 rfl rfl)
theorem dX0_isSet_1 : decode cX0_isSet 1 = .ok (.ifCond .lt 19, 3) := dk_155 0 19 (dk_at dksX0_isSet_0 1 rfl rfl)
theorem dX0_isSet_4 : decode cX0_isSet 4 = .ok (.iload_n 1, 1) := dk_27 (dk_at dksX0_isSet_0 4 rfl rfl)
theorem dX0_isSet_5 : decode cX0_isSet 5 = .ok (.aload_n 0, 1) := dk_42 (dk_at dksX0_isSet_0 5 rfl rfl)
theorem dX0_isSet_6 : decode cX0_isSet 6 = .ok (.getfield 46, 3) := dk_180 0 46 (dk_at dksX0_isSet_0 6 rfl rfl)
theorem dX0_isSet_9 : decode cX0_isSet 9 = .ok (.getfield 101, 3) := dk_180 0 101 (dk_at dksX0_isSet_0 9 rfl rfl)
theorem dX0_isSet_12 : decode cX0_isSet 12 = .ok (.ishr, 1) := dk_122 (dk_at dksX0_isSet_0 12 rfl rfl)
theorem dX0_isSet_13 : decode cX0_isSet 13 = .ok (.ifCond .ne 7, 3) := dk_154 0 7 (dk_at dksX0_isSet_0 13 rfl rfl)
theorem dX0_isSet_16 : decode cX0_isSet 16 = .ok (.iconst 1, 1) := dk_4 (dk_at dksX0_isSet_0 16 rfl rfl)
theorem dX0_isSet_17 : decode cX0_isSet 17 = .ok (.goto 4, 3) := dk_167 0 4 (dk_at dksX0_isSet_0 17 rfl rfl)
theorem dX0_isSet_20 : decode cX0_isSet 20 = .ok (.iconst 0, 1) := dk_3 (dk_at dksX0_isSet_0 20 rfl rfl)
theorem dX0_isSet_21 : decode cX0_isSet 21 = .ok (.ireturn, 1) := dk_172 (dk_at dksX0_isSet_0 21 rfl rfl)
abbrev cX0_begins : ByteArray := prog_1_method_56_code
def yX0_begins : MethodName := ⟨RX0, "begins", "(LNeverSaid$Deed;)V"⟩
def dkwX0_begins_0 : List UInt8 := [43, 42, 180, 0, 46, 182, 1, 97, 181, 1, 26, 43, 3, 181, 1, 100, 43, 3, 181, 1, 103, 177]
abbrev dktX0_begins_0 : List UInt8 := dkwX0_begins_0 ++ []
theorem dksX0_begins_0 : cX0_begins.data.toList.drop 0 = dktX0_begins_0 := by decide +kernel
theorem dX0_begins_0 : decode cX0_begins 0 = .ok (.aload_n 1, 1) := dk_43 (dk_at dksX0_begins_0 0 rfl rfl)
theorem dX0_begins_1 : decode cX0_begins 1 = .ok (.aload_n 0, 1) := dk_42 (dk_at dksX0_begins_0 1 rfl rfl)
theorem dX0_begins_2 : decode cX0_begins 2 = .ok (.getfield 46, 3) := dk_180 0 46 (dk_at dksX0_begins_0 2 rfl rfl)
theorem dX0_begins_5 : decode cX0_begins 5 = .ok (.invokevirtual 353, 3) := dk_182 1 97 (dk_at dksX0_begins_0 5 rfl rfl)
theorem dX0_begins_8 : decode cX0_begins 8 = .ok (.putfield 282, 3) := dk_181 1 26 (dk_at dksX0_begins_0 8 rfl rfl)
theorem dX0_begins_11 : decode cX0_begins 11 = .ok (.aload_n 1, 1) := dk_43 (dk_at dksX0_begins_0 11 rfl rfl)
theorem dX0_begins_12 : decode cX0_begins 12 = .ok (.iconst 0, 1) := dk_3 (dk_at dksX0_begins_0 12 rfl rfl)
theorem dX0_begins_13 : decode cX0_begins 13 = .ok (.putfield 356, 3) := dk_181 1 100 (dk_at dksX0_begins_0 13 rfl rfl)
theorem dX0_begins_16 : decode cX0_begins 16 = .ok (.aload_n 1, 1) := dk_43 (dk_at dksX0_begins_0 16 rfl rfl)
theorem dX0_begins_17 : decode cX0_begins 17 = .ok (.iconst 0, 1) := dk_3 (dk_at dksX0_begins_0 17 rfl rfl)
theorem dX0_begins_18 : decode cX0_begins 18 = .ok (.putfield 359, 3) := dk_181 1 103 (dk_at dksX0_begins_0 18 rfl rfl)
theorem dX0_begins_21 : decode cX0_begins 21 = .ok (.return_, 1) := dk_177 (dk_at dksX0_begins_0 21 rfl rfl)
abbrev cX0_deedTold : ByteArray := prog_1_method_58_code
def yX0_deedTold : MethodName := ⟨RX0, "deedTold", "(II)I"⟩
def dkwX0_deedTold_4 : List UInt8 := [167, 0, 4, 3, 172, 18, 135, 172]
abbrev dktX0_deedTold_4 : List UInt8 := dkwX0_deedTold_4 ++ []
def dkwX0_deedTold_3 : List UInt8 := [172, 45, 180, 1, 103, 172, 42, 45, 182, 1, 124, 172, 45, 180, 1, 26, 45, 180, 1, 84, 160, 0, 7, 4]
abbrev dktX0_deedTold_3 : List UInt8 := dkwX0_deedTold_3 ++ dktX0_deedTold_4
def dkwX0_deedTold_2 : List UInt8 := [45, 180, 1, 84, 172, 45, 180, 1, 87, 172, 45, 180, 1, 90, 172, 45, 180, 1, 26, 172, 45, 180, 1, 100]
abbrev dktX0_deedTold_2 : List UInt8 := dkwX0_deedTold_2 ++ dktX0_deedTold_3
def dkwX0_deedTold_1 : List UInt8 := [170, 0, 0, 0, 0, 99, 0, 0, 0, 0, 0, 0, 0, 7, 0, 0, 0, 46, 0, 0, 0, 51, 0, 0, 0, 56, 0, 0, 0, 61, 0, 0, 0, 66, 0, 0, 0, 71, 0, 0, 0, 76, 0, 0, 0, 82]
abbrev dktX0_deedTold_1 : List UInt8 := dkwX0_deedTold_1 ++ dktX0_deedTold_2
def dkwX0_deedTold_0 : List UInt8 := [42, 27, 182, 1, 121, 154, 0, 6, 18, 135, 172, 42, 180, 0, 46, 180, 1, 22, 27, 50, 78, 28]
abbrev dktX0_deedTold_0 : List UInt8 := dkwX0_deedTold_0 ++ dktX0_deedTold_1
theorem dksX0_deedTold_0 : cX0_deedTold.data.toList.drop 0 = dktX0_deedTold_0 := by decide +kernel
theorem dksX0_deedTold_1 : cX0_deedTold.data.toList.drop 22 = dktX0_deedTold_1 := dk_seg dksX0_deedTold_0 22 rfl rfl
theorem dksX0_deedTold_2 : cX0_deedTold.data.toList.drop 68 = dktX0_deedTold_2 := dk_seg dksX0_deedTold_1 46 rfl rfl
theorem dksX0_deedTold_3 : cX0_deedTold.data.toList.drop 92 = dktX0_deedTold_3 := dk_seg dksX0_deedTold_2 24 rfl rfl
theorem dksX0_deedTold_4 : cX0_deedTold.data.toList.drop 116 = dktX0_deedTold_4 := dk_seg dksX0_deedTold_3 24 rfl rfl
theorem dX0_deedTold_0 : decode cX0_deedTold 0 = .ok (.aload_n 0, 1) := dk_42 (dk_at dksX0_deedTold_0 0 rfl rfl)
theorem dX0_deedTold_1 : decode cX0_deedTold 1 = .ok (.iload_n 1, 1) := dk_27 (dk_at dksX0_deedTold_0 1 rfl rfl)
theorem dX0_deedTold_2 : decode cX0_deedTold 2 = .ok (.invokevirtual 377, 3) := dk_182 1 121 (dk_at dksX0_deedTold_0 2 rfl rfl)
theorem dX0_deedTold_5 : decode cX0_deedTold 5 = .ok (.ifCond .ne 6, 3) := dk_154 0 6 (dk_at dksX0_deedTold_0 5 rfl rfl)
theorem dX0_deedTold_8 : decode cX0_deedTold 8 = .ok (.ldc 135, 2) := dk_18 135 (dk_at dksX0_deedTold_0 8 rfl rfl)
theorem dX0_deedTold_10 : decode cX0_deedTold 10 = .ok (.ireturn, 1) := dk_172 (dk_at dksX0_deedTold_0 10 rfl rfl)
theorem dX0_deedTold_11 : decode cX0_deedTold 11 = .ok (.aload_n 0, 1) := dk_42 (dk_at dksX0_deedTold_0 11 rfl rfl)
theorem dX0_deedTold_12 : decode cX0_deedTold 12 = .ok (.getfield 46, 3) := dk_180 0 46 (dk_at dksX0_deedTold_0 12 rfl rfl)
theorem dX0_deedTold_15 : decode cX0_deedTold 15 = .ok (.getfield 278, 3) := dk_180 1 22 (dk_at dksX0_deedTold_0 15 rfl rfl)
theorem dX0_deedTold_18 : decode cX0_deedTold 18 = .ok (.iload_n 1, 1) := dk_27 (dk_at dksX0_deedTold_0 18 rfl rfl)
theorem dX0_deedTold_19 : decode cX0_deedTold 19 = .ok (.aaload, 1) := dk_50 (dk_at dksX0_deedTold_0 19 rfl rfl)
theorem dX0_deedTold_20 : decode cX0_deedTold 20 = .ok (.astore_n 3, 1) := dk_78 (dk_at dksX0_deedTold_0 20 rfl rfl)
theorem dX0_deedTold_21 : decode cX0_deedTold 21 = .ok (.iload_n 2, 1) := dk_28 (dk_at dksX0_deedTold_0 21 rfl rfl)
theorem dX0_deedTold_22 : decode cX0_deedTold 22 = .ok (.tableswitch 99 0 7 #[46, 51, 56, 61, 66, 71, 76, 82], 46) := by decide +kernel
theorem dX0_deedTold_68 : decode cX0_deedTold 68 = .ok (.aload_n 3, 1) := dk_45 (dk_at dksX0_deedTold_2 0 rfl rfl)
theorem dX0_deedTold_69 : decode cX0_deedTold 69 = .ok (.getfield 340, 3) := dk_180 1 84 (dk_at dksX0_deedTold_2 1 rfl rfl)
theorem dX0_deedTold_72 : decode cX0_deedTold 72 = .ok (.ireturn, 1) := dk_172 (dk_at dksX0_deedTold_2 4 rfl rfl)
theorem dX0_deedTold_73 : decode cX0_deedTold 73 = .ok (.aload_n 3, 1) := dk_45 (dk_at dksX0_deedTold_2 5 rfl rfl)
theorem dX0_deedTold_74 : decode cX0_deedTold 74 = .ok (.getfield 343, 3) := dk_180 1 87 (dk_at dksX0_deedTold_2 6 rfl rfl)
theorem dX0_deedTold_77 : decode cX0_deedTold 77 = .ok (.ireturn, 1) := dk_172 (dk_at dksX0_deedTold_2 9 rfl rfl)
theorem dX0_deedTold_78 : decode cX0_deedTold 78 = .ok (.aload_n 3, 1) := dk_45 (dk_at dksX0_deedTold_2 10 rfl rfl)
theorem dX0_deedTold_79 : decode cX0_deedTold 79 = .ok (.getfield 346, 3) := dk_180 1 90 (dk_at dksX0_deedTold_2 11 rfl rfl)
theorem dX0_deedTold_82 : decode cX0_deedTold 82 = .ok (.ireturn, 1) := dk_172 (dk_at dksX0_deedTold_2 14 rfl rfl)
theorem dX0_deedTold_83 : decode cX0_deedTold 83 = .ok (.aload_n 3, 1) := dk_45 (dk_at dksX0_deedTold_2 15 rfl rfl)
theorem dX0_deedTold_84 : decode cX0_deedTold 84 = .ok (.getfield 282, 3) := dk_180 1 26 (dk_at dksX0_deedTold_2 16 rfl rfl)
theorem dX0_deedTold_87 : decode cX0_deedTold 87 = .ok (.ireturn, 1) := dk_172 (dk_at dksX0_deedTold_2 19 rfl rfl)
theorem dX0_deedTold_88 : decode cX0_deedTold 88 = .ok (.aload_n 3, 1) := dk_45 (dk_at dksX0_deedTold_2 20 rfl rfl)
theorem dX0_deedTold_89 : decode cX0_deedTold 89 = .ok (.getfield 356, 3) := dk_180 1 100 (dk_at dksX0_deedTold_2 21 rfl rfl)
theorem dX0_deedTold_92 : decode cX0_deedTold 92 = .ok (.ireturn, 1) := dk_172 (dk_at dksX0_deedTold_3 0 rfl rfl)
theorem dX0_deedTold_93 : decode cX0_deedTold 93 = .ok (.aload_n 3, 1) := dk_45 (dk_at dksX0_deedTold_3 1 rfl rfl)
theorem dX0_deedTold_94 : decode cX0_deedTold 94 = .ok (.getfield 359, 3) := dk_180 1 103 (dk_at dksX0_deedTold_3 2 rfl rfl)
theorem dX0_deedTold_97 : decode cX0_deedTold 97 = .ok (.ireturn, 1) := dk_172 (dk_at dksX0_deedTold_3 5 rfl rfl)
theorem dX0_deedTold_98 : decode cX0_deedTold 98 = .ok (.aload_n 0, 1) := dk_42 (dk_at dksX0_deedTold_3 6 rfl rfl)
theorem dX0_deedTold_99 : decode cX0_deedTold 99 = .ok (.aload_n 3, 1) := dk_45 (dk_at dksX0_deedTold_3 7 rfl rfl)
theorem dX0_deedTold_100 : decode cX0_deedTold 100 = .ok (.invokevirtual 380, 3) := dk_182 1 124 (dk_at dksX0_deedTold_3 8 rfl rfl)
theorem dX0_deedTold_103 : decode cX0_deedTold 103 = .ok (.ireturn, 1) := dk_172 (dk_at dksX0_deedTold_3 11 rfl rfl)
theorem dX0_deedTold_104 : decode cX0_deedTold 104 = .ok (.aload_n 3, 1) := dk_45 (dk_at dksX0_deedTold_3 12 rfl rfl)
theorem dX0_deedTold_105 : decode cX0_deedTold 105 = .ok (.getfield 282, 3) := dk_180 1 26 (dk_at dksX0_deedTold_3 13 rfl rfl)
theorem dX0_deedTold_108 : decode cX0_deedTold 108 = .ok (.aload_n 3, 1) := dk_45 (dk_at dksX0_deedTold_3 16 rfl rfl)
theorem dX0_deedTold_109 : decode cX0_deedTold 109 = .ok (.getfield 340, 3) := dk_180 1 84 (dk_at dksX0_deedTold_3 17 rfl rfl)
theorem dX0_deedTold_112 : decode cX0_deedTold 112 = .ok (.if_icmp .ne 7, 3) := dk_160 0 7 (dk_at dksX0_deedTold_3 20 rfl rfl)
theorem dX0_deedTold_115 : decode cX0_deedTold 115 = .ok (.iconst 1, 1) := dk_4 (dk_at dksX0_deedTold_3 23 rfl rfl)
theorem dX0_deedTold_116 : decode cX0_deedTold 116 = .ok (.goto 4, 3) := dk_167 0 4 (dk_at dksX0_deedTold_4 0 rfl rfl)
theorem dX0_deedTold_119 : decode cX0_deedTold 119 = .ok (.iconst 0, 1) := dk_3 (dk_at dksX0_deedTold_4 3 rfl rfl)
theorem dX0_deedTold_120 : decode cX0_deedTold 120 = .ok (.ireturn, 1) := dk_172 (dk_at dksX0_deedTold_4 4 rfl rfl)
theorem dX0_deedTold_121 : decode cX0_deedTold 121 = .ok (.ldc 135, 2) := dk_18 135 (dk_at dksX0_deedTold_4 5 rfl rfl)
theorem dX0_deedTold_123 : decode cX0_deedTold 123 = .ok (.ireturn, 1) := dk_172 (dk_at dksX0_deedTold_4 7 rfl rfl)
abbrev cX0_isDeed : ByteArray := prog_1_method_9_code
def yX0_isDeed : MethodName := ⟨RX0, "isDeed", "(I)Z"⟩
def dkwX0_isDeed_0 : List UInt8 := [27, 3, 42, 180, 0, 46, 180, 0, 109, 4, 100, 184, 0, 105, 172]
abbrev dktX0_isDeed_0 : List UInt8 := dkwX0_isDeed_0 ++ []
theorem dksX0_isDeed_0 : cX0_isDeed.data.toList.drop 0 = dktX0_isDeed_0 := by decide +kernel
theorem dX0_isDeed_0 : decode cX0_isDeed 0 = .ok (.iload_n 1, 1) := dk_27 (dk_at dksX0_isDeed_0 0 rfl rfl)
theorem dX0_isDeed_1 : decode cX0_isDeed 1 = .ok (.iconst 0, 1) := dk_3 (dk_at dksX0_isDeed_0 1 rfl rfl)
theorem dX0_isDeed_2 : decode cX0_isDeed 2 = .ok (.aload_n 0, 1) := dk_42 (dk_at dksX0_isDeed_0 2 rfl rfl)
theorem dX0_isDeed_3 : decode cX0_isDeed 3 = .ok (.getfield 46, 3) := dk_180 0 46 (dk_at dksX0_isDeed_0 3 rfl rfl)
theorem dX0_isDeed_6 : decode cX0_isDeed 6 = .ok (.getfield 109, 3) := dk_180 0 109 (dk_at dksX0_isDeed_0 6 rfl rfl)
theorem dX0_isDeed_9 : decode cX0_isDeed 9 = .ok (.iconst 1, 1) := dk_4 (dk_at dksX0_isDeed_0 9 rfl rfl)
theorem dX0_isDeed_10 : decode cX0_isDeed 10 = .ok (.isub, 1) := dk_100 (dk_at dksX0_isDeed_0 10 rfl rfl)
theorem dX0_isDeed_11 : decode cX0_isDeed 11 = .ok (.invokestatic 105, 3) := dk_184 0 105 (dk_at dksX0_isDeed_0 11 rfl rfl)
theorem dX0_isDeed_14 : decode cX0_isDeed 14 = .ok (.ireturn, 1) := dk_172 (dk_at dksX0_isDeed_0 14 rfl rfl)
abbrev cX0_costOf : ByteArray := prog_1_method_57_code
def yX0_costOf : MethodName := ⟨RX0, "costOf", "(LNeverSaid$Deed;)I"⟩
def dkwX0_costOf_3 : List UInt8 := [182, 1, 113, 3, 19, 1, 117, 184, 1, 118, 172]
abbrev dktX0_costOf_3 : List UInt8 := dkwX0_costOf_3 ++ []
def dkwX0_costOf_2 : List UInt8 := [180, 0, 71, 16, 110, 43, 182, 1, 106, 79, 42, 42, 180, 0, 46, 180, 0, 245, 28, 50, 180, 1, 109]
abbrev dktX0_costOf_2 : List UInt8 := dkwX0_costOf_2 ++ dktX0_costOf_3
def dkwX0_costOf_1 : List UInt8 := [180, 0, 71, 16, 108, 43, 180, 1, 103, 79, 42, 180, 0, 71, 16, 119, 43, 180, 1, 90, 79, 42]
abbrev dktX0_costOf_1 : List UInt8 := dkwX0_costOf_1 ++ dktX0_costOf_2
def dkwX0_costOf_0 : List UInt8 := [42, 4, 182, 0, 252, 61, 28, 2, 160, 0, 13, 43, 180, 1, 103, 43, 180, 1, 90, 104, 172, 42]
abbrev dktX0_costOf_0 : List UInt8 := dkwX0_costOf_0 ++ dktX0_costOf_1
theorem dksX0_costOf_0 : cX0_costOf.data.toList.drop 0 = dktX0_costOf_0 := by decide +kernel
theorem dksX0_costOf_1 : cX0_costOf.data.toList.drop 22 = dktX0_costOf_1 := dk_seg dksX0_costOf_0 22 rfl rfl
theorem dksX0_costOf_2 : cX0_costOf.data.toList.drop 44 = dktX0_costOf_2 := dk_seg dksX0_costOf_1 22 rfl rfl
theorem dksX0_costOf_3 : cX0_costOf.data.toList.drop 67 = dktX0_costOf_3 := dk_seg dksX0_costOf_2 23 rfl rfl
theorem dX0_costOf_0 : decode cX0_costOf 0 = .ok (.aload_n 0, 1) := dk_42 (dk_at dksX0_costOf_0 0 rfl rfl)
theorem dX0_costOf_1 : decode cX0_costOf 1 = .ok (.iconst 1, 1) := dk_4 (dk_at dksX0_costOf_0 1 rfl rfl)
theorem dX0_costOf_2 : decode cX0_costOf 2 = .ok (.invokevirtual 252, 3) := dk_182 0 252 (dk_at dksX0_costOf_0 2 rfl rfl)
theorem dX0_costOf_5 : decode cX0_costOf 5 = .ok (.istore_n 2, 1) := dk_61 (dk_at dksX0_costOf_0 5 rfl rfl)
theorem dX0_costOf_6 : decode cX0_costOf 6 = .ok (.iload_n 2, 1) := dk_28 (dk_at dksX0_costOf_0 6 rfl rfl)
theorem dX0_costOf_7 : decode cX0_costOf 7 = .ok (.iconst (-1), 1) := dk_2 (dk_at dksX0_costOf_0 7 rfl rfl)
theorem dX0_costOf_8 : decode cX0_costOf 8 = .ok (.if_icmp .ne 13, 3) := dk_160 0 13 (dk_at dksX0_costOf_0 8 rfl rfl)
theorem dX0_costOf_11 : decode cX0_costOf 11 = .ok (.aload_n 1, 1) := dk_43 (dk_at dksX0_costOf_0 11 rfl rfl)
theorem dX0_costOf_12 : decode cX0_costOf 12 = .ok (.getfield 359, 3) := dk_180 1 103 (dk_at dksX0_costOf_0 12 rfl rfl)
theorem dX0_costOf_15 : decode cX0_costOf 15 = .ok (.aload_n 1, 1) := dk_43 (dk_at dksX0_costOf_0 15 rfl rfl)
theorem dX0_costOf_16 : decode cX0_costOf 16 = .ok (.getfield 346, 3) := dk_180 1 90 (dk_at dksX0_costOf_0 16 rfl rfl)
theorem dX0_costOf_19 : decode cX0_costOf 19 = .ok (.imul, 1) := dk_104 (dk_at dksX0_costOf_0 19 rfl rfl)
theorem dX0_costOf_20 : decode cX0_costOf 20 = .ok (.ireturn, 1) := dk_172 (dk_at dksX0_costOf_0 20 rfl rfl)
theorem dX0_costOf_21 : decode cX0_costOf 21 = .ok (.aload_n 0, 1) := dk_42 (dk_at dksX0_costOf_0 21 rfl rfl)
theorem dX0_costOf_22 : decode cX0_costOf 22 = .ok (.getfield 71, 3) := dk_180 0 71 (dk_at dksX0_costOf_1 0 rfl rfl)
theorem dX0_costOf_25 : decode cX0_costOf 25 = .ok (.bipush 108, 2) := dk_16 108 (dk_at dksX0_costOf_1 3 rfl rfl)
theorem dX0_costOf_27 : decode cX0_costOf 27 = .ok (.aload_n 1, 1) := dk_43 (dk_at dksX0_costOf_1 5 rfl rfl)
theorem dX0_costOf_28 : decode cX0_costOf 28 = .ok (.getfield 359, 3) := dk_180 1 103 (dk_at dksX0_costOf_1 6 rfl rfl)
theorem dX0_costOf_31 : decode cX0_costOf 31 = .ok (.iastore, 1) := dk_79 (dk_at dksX0_costOf_1 9 rfl rfl)
theorem dX0_costOf_32 : decode cX0_costOf 32 = .ok (.aload_n 0, 1) := dk_42 (dk_at dksX0_costOf_1 10 rfl rfl)
theorem dX0_costOf_33 : decode cX0_costOf 33 = .ok (.getfield 71, 3) := dk_180 0 71 (dk_at dksX0_costOf_1 11 rfl rfl)
theorem dX0_costOf_36 : decode cX0_costOf 36 = .ok (.bipush 119, 2) := dk_16 119 (dk_at dksX0_costOf_1 14 rfl rfl)
theorem dX0_costOf_38 : decode cX0_costOf 38 = .ok (.aload_n 1, 1) := dk_43 (dk_at dksX0_costOf_1 16 rfl rfl)
theorem dX0_costOf_39 : decode cX0_costOf 39 = .ok (.getfield 346, 3) := dk_180 1 90 (dk_at dksX0_costOf_1 17 rfl rfl)
theorem dX0_costOf_42 : decode cX0_costOf 42 = .ok (.iastore, 1) := dk_79 (dk_at dksX0_costOf_1 20 rfl rfl)
theorem dX0_costOf_43 : decode cX0_costOf 43 = .ok (.aload_n 0, 1) := dk_42 (dk_at dksX0_costOf_1 21 rfl rfl)
theorem dX0_costOf_44 : decode cX0_costOf 44 = .ok (.getfield 71, 3) := dk_180 0 71 (dk_at dksX0_costOf_2 0 rfl rfl)
theorem dX0_costOf_47 : decode cX0_costOf 47 = .ok (.bipush 110, 2) := dk_16 110 (dk_at dksX0_costOf_2 3 rfl rfl)
theorem dX0_costOf_49 : decode cX0_costOf 49 = .ok (.aload_n 1, 1) := dk_43 (dk_at dksX0_costOf_2 5 rfl rfl)
theorem dX0_costOf_50 : decode cX0_costOf 50 = .ok (.invokevirtual 362, 3) := dk_182 1 106 (dk_at dksX0_costOf_2 6 rfl rfl)
theorem dX0_costOf_53 : decode cX0_costOf 53 = .ok (.iastore, 1) := dk_79 (dk_at dksX0_costOf_2 9 rfl rfl)
theorem dX0_costOf_54 : decode cX0_costOf 54 = .ok (.aload_n 0, 1) := dk_42 (dk_at dksX0_costOf_2 10 rfl rfl)
theorem dX0_costOf_55 : decode cX0_costOf 55 = .ok (.aload_n 0, 1) := dk_42 (dk_at dksX0_costOf_2 11 rfl rfl)
theorem dX0_costOf_56 : decode cX0_costOf 56 = .ok (.getfield 46, 3) := dk_180 0 46 (dk_at dksX0_costOf_2 12 rfl rfl)
theorem dX0_costOf_59 : decode cX0_costOf 59 = .ok (.getfield 245, 3) := dk_180 0 245 (dk_at dksX0_costOf_2 15 rfl rfl)
theorem dX0_costOf_62 : decode cX0_costOf 62 = .ok (.iload_n 2, 1) := dk_28 (dk_at dksX0_costOf_2 18 rfl rfl)
theorem dX0_costOf_63 : decode cX0_costOf 63 = .ok (.aaload, 1) := dk_50 (dk_at dksX0_costOf_2 19 rfl rfl)
theorem dX0_costOf_64 : decode cX0_costOf 64 = .ok (.getfield 365, 3) := dk_180 1 109 (dk_at dksX0_costOf_2 20 rfl rfl)
theorem dX0_costOf_67 : decode cX0_costOf 67 = .ok (.invokevirtual 369, 3) := dk_182 1 113 (dk_at dksX0_costOf_3 0 rfl rfl)
theorem dX0_costOf_70 : decode cX0_costOf 70 = .ok (.iconst 0, 1) := dk_3 (dk_at dksX0_costOf_3 3 rfl rfl)
theorem dX0_costOf_71 : decode cX0_costOf 71 = .ok (.ldc_w 373, 3) := dk_19 1 117 (dk_at dksX0_costOf_3 4 rfl rfl)
theorem dX0_costOf_74 : decode cX0_costOf 74 = .ok (.invokestatic 374, 3) := dk_184 1 118 (dk_at dksX0_costOf_3 7 rfl rfl)
theorem dX0_costOf_77 : decode cX0_costOf 77 = .ok (.ireturn, 1) := dk_172 (dk_at dksX0_costOf_3 10 rfl rfl)
abbrev cX0_reckon : ByteArray := prog_1_method_11_code
def yX0_reckon : MethodName := ⟨RX0, "reckon", "(LNeverSaid$Words;)I"⟩
def dkwX0_reckon_6 : List UInt8 := [180, 0, 56, 3, 46, 172]
abbrev dktX0_reckon_6 : List UInt8 := dkwX0_reckon_6 ++ []
def dkwX0_reckon_5 : List UInt8 := [180, 0, 56, 28, 4, 100, 46, 42, 180, 0, 56, 28, 46, 184, 0, 123, 79, 132, 3, 1, 167, 255, 124, 42]
abbrev dktX0_reckon_5 : List UInt8 := dkwX0_reckon_5 ++ dktX0_reckon_6
def dkwX0_reckon_4 : List UInt8 := [4, 167, 0, 4, 3, 79, 167, 0, 33, 132, 2, 255, 42, 180, 0, 56, 28, 4, 100, 21, 4, 42]
abbrev dktX0_reckon_4 : List UInt8 := dkwX0_reckon_4 ++ dktX0_reckon_5
def dkwX0_reckon_3 : List UInt8 := [21, 4, 6, 160, 0, 30, 42, 180, 0, 56, 28, 4, 100, 42, 180, 0, 56, 28, 4, 100, 46, 154, 0, 7]
abbrev dktX0_reckon_3 : List UInt8 := dkwX0_reckon_3 ++ dktX0_reckon_4
def dkwX0_reckon_2 : List UInt8 := [29, 46, 167, 0, 14, 42, 180, 0, 71, 43, 180, 0, 120, 29, 46, 46, 79, 132, 2, 1, 167, 0, 66]
abbrev dktX0_reckon_2 : List UInt8 := dkwX0_reckon_2 ++ dktX0_reckon_3
def dkwX0_reckon_1 : List UInt8 := [159, 0, 9, 21, 4, 5, 160, 0, 41, 42, 180, 0, 56, 28, 21, 4, 4, 160, 0, 12, 43, 180, 0, 120]
abbrev dktX0_reckon_1 : List UInt8 := dkwX0_reckon_1 ++ dktX0_reckon_2
def dkwX0_reckon_0 : List UInt8 := [3, 61, 3, 62, 29, 43, 180, 0, 112, 162, 0, 130, 43, 180, 0, 117, 29, 46, 54, 4, 21, 4, 4]
abbrev dktX0_reckon_0 : List UInt8 := dkwX0_reckon_0 ++ dktX0_reckon_1
theorem dksX0_reckon_0 : cX0_reckon.data.toList.drop 0 = dktX0_reckon_0 := by decide +kernel
theorem dksX0_reckon_1 : cX0_reckon.data.toList.drop 23 = dktX0_reckon_1 := dk_seg dksX0_reckon_0 23 rfl rfl
theorem dksX0_reckon_2 : cX0_reckon.data.toList.drop 47 = dktX0_reckon_2 := dk_seg dksX0_reckon_1 24 rfl rfl
theorem dksX0_reckon_3 : cX0_reckon.data.toList.drop 70 = dktX0_reckon_3 := dk_seg dksX0_reckon_2 23 rfl rfl
theorem dksX0_reckon_4 : cX0_reckon.data.toList.drop 94 = dktX0_reckon_4 := dk_seg dksX0_reckon_3 24 rfl rfl
theorem dksX0_reckon_5 : cX0_reckon.data.toList.drop 116 = dktX0_reckon_5 := dk_seg dksX0_reckon_4 22 rfl rfl
theorem dksX0_reckon_6 : cX0_reckon.data.toList.drop 140 = dktX0_reckon_6 := dk_seg dksX0_reckon_5 24 rfl rfl
theorem dX0_reckon_0 : decode cX0_reckon 0 = .ok (.iconst 0, 1) := dk_3 (dk_at dksX0_reckon_0 0 rfl rfl)
theorem dX0_reckon_1 : decode cX0_reckon 1 = .ok (.istore_n 2, 1) := dk_61 (dk_at dksX0_reckon_0 1 rfl rfl)
theorem dX0_reckon_2 : decode cX0_reckon 2 = .ok (.iconst 0, 1) := dk_3 (dk_at dksX0_reckon_0 2 rfl rfl)
theorem dX0_reckon_3 : decode cX0_reckon 3 = .ok (.istore_n 3, 1) := dk_62 (dk_at dksX0_reckon_0 3 rfl rfl)
theorem dX0_reckon_4 : decode cX0_reckon 4 = .ok (.iload_n 3, 1) := dk_29 (dk_at dksX0_reckon_0 4 rfl rfl)
theorem dX0_reckon_5 : decode cX0_reckon 5 = .ok (.aload_n 1, 1) := dk_43 (dk_at dksX0_reckon_0 5 rfl rfl)
theorem dX0_reckon_6 : decode cX0_reckon 6 = .ok (.getfield 112, 3) := dk_180 0 112 (dk_at dksX0_reckon_0 6 rfl rfl)
theorem dX0_reckon_9 : decode cX0_reckon 9 = .ok (.if_icmp .ge 130, 3) := dk_162 0 130 (dk_at dksX0_reckon_0 9 rfl rfl)
theorem dX0_reckon_12 : decode cX0_reckon 12 = .ok (.aload_n 1, 1) := dk_43 (dk_at dksX0_reckon_0 12 rfl rfl)
theorem dX0_reckon_13 : decode cX0_reckon 13 = .ok (.getfield 117, 3) := dk_180 0 117 (dk_at dksX0_reckon_0 13 rfl rfl)
theorem dX0_reckon_16 : decode cX0_reckon 16 = .ok (.iload_n 3, 1) := dk_29 (dk_at dksX0_reckon_0 16 rfl rfl)
theorem dX0_reckon_17 : decode cX0_reckon 17 = .ok (.iaload, 1) := dk_46 (dk_at dksX0_reckon_0 17 rfl rfl)
theorem dX0_reckon_18 : decode cX0_reckon 18 = .ok (.istore 4, 2) := dk_54 4 (dk_at dksX0_reckon_0 18 rfl rfl)
theorem dX0_reckon_20 : decode cX0_reckon 20 = .ok (.iload 4, 2) := dk_21 4 (dk_at dksX0_reckon_0 20 rfl rfl)
theorem dX0_reckon_22 : decode cX0_reckon 22 = .ok (.iconst 1, 1) := dk_4 (dk_at dksX0_reckon_0 22 rfl rfl)
theorem dX0_reckon_23 : decode cX0_reckon 23 = .ok (.if_icmp .eq 9, 3) := dk_159 0 9 (dk_at dksX0_reckon_1 0 rfl rfl)
theorem dX0_reckon_26 : decode cX0_reckon 26 = .ok (.iload 4, 2) := dk_21 4 (dk_at dksX0_reckon_1 3 rfl rfl)
theorem dX0_reckon_28 : decode cX0_reckon 28 = .ok (.iconst 2, 1) := dk_5 (dk_at dksX0_reckon_1 5 rfl rfl)
theorem dX0_reckon_29 : decode cX0_reckon 29 = .ok (.if_icmp .ne 41, 3) := dk_160 0 41 (dk_at dksX0_reckon_1 6 rfl rfl)
theorem dX0_reckon_32 : decode cX0_reckon 32 = .ok (.aload_n 0, 1) := dk_42 (dk_at dksX0_reckon_1 9 rfl rfl)
theorem dX0_reckon_33 : decode cX0_reckon 33 = .ok (.getfield 56, 3) := dk_180 0 56 (dk_at dksX0_reckon_1 10 rfl rfl)
theorem dX0_reckon_36 : decode cX0_reckon 36 = .ok (.iload_n 2, 1) := dk_28 (dk_at dksX0_reckon_1 13 rfl rfl)
theorem dX0_reckon_37 : decode cX0_reckon 37 = .ok (.iload 4, 2) := dk_21 4 (dk_at dksX0_reckon_1 14 rfl rfl)
theorem dX0_reckon_39 : decode cX0_reckon 39 = .ok (.iconst 1, 1) := dk_4 (dk_at dksX0_reckon_1 16 rfl rfl)
theorem dX0_reckon_40 : decode cX0_reckon 40 = .ok (.if_icmp .ne 12, 3) := dk_160 0 12 (dk_at dksX0_reckon_1 17 rfl rfl)
theorem dX0_reckon_43 : decode cX0_reckon 43 = .ok (.aload_n 1, 1) := dk_43 (dk_at dksX0_reckon_1 20 rfl rfl)
theorem dX0_reckon_44 : decode cX0_reckon 44 = .ok (.getfield 120, 3) := dk_180 0 120 (dk_at dksX0_reckon_1 21 rfl rfl)
theorem dX0_reckon_47 : decode cX0_reckon 47 = .ok (.iload_n 3, 1) := dk_29 (dk_at dksX0_reckon_2 0 rfl rfl)
theorem dX0_reckon_48 : decode cX0_reckon 48 = .ok (.iaload, 1) := dk_46 (dk_at dksX0_reckon_2 1 rfl rfl)
theorem dX0_reckon_49 : decode cX0_reckon 49 = .ok (.goto 14, 3) := dk_167 0 14 (dk_at dksX0_reckon_2 2 rfl rfl)
theorem dX0_reckon_52 : decode cX0_reckon 52 = .ok (.aload_n 0, 1) := dk_42 (dk_at dksX0_reckon_2 5 rfl rfl)
theorem dX0_reckon_53 : decode cX0_reckon 53 = .ok (.getfield 71, 3) := dk_180 0 71 (dk_at dksX0_reckon_2 6 rfl rfl)
theorem dX0_reckon_56 : decode cX0_reckon 56 = .ok (.aload_n 1, 1) := dk_43 (dk_at dksX0_reckon_2 9 rfl rfl)
theorem dX0_reckon_57 : decode cX0_reckon 57 = .ok (.getfield 120, 3) := dk_180 0 120 (dk_at dksX0_reckon_2 10 rfl rfl)
theorem dX0_reckon_60 : decode cX0_reckon 60 = .ok (.iload_n 3, 1) := dk_29 (dk_at dksX0_reckon_2 13 rfl rfl)
theorem dX0_reckon_61 : decode cX0_reckon 61 = .ok (.iaload, 1) := dk_46 (dk_at dksX0_reckon_2 14 rfl rfl)
theorem dX0_reckon_62 : decode cX0_reckon 62 = .ok (.iaload, 1) := dk_46 (dk_at dksX0_reckon_2 15 rfl rfl)
theorem dX0_reckon_63 : decode cX0_reckon 63 = .ok (.iastore, 1) := dk_79 (dk_at dksX0_reckon_2 16 rfl rfl)
theorem dX0_reckon_64 : decode cX0_reckon 64 = .ok (.iinc 2 1, 3) := dk_132 2 1 (dk_at dksX0_reckon_2 17 rfl rfl)
theorem dX0_reckon_67 : decode cX0_reckon 67 = .ok (.goto 66, 3) := dk_167 0 66 (dk_at dksX0_reckon_2 20 rfl rfl)
theorem dX0_reckon_70 : decode cX0_reckon 70 = .ok (.iload 4, 2) := dk_21 4 (dk_at dksX0_reckon_3 0 rfl rfl)
theorem dX0_reckon_72 : decode cX0_reckon 72 = .ok (.iconst 3, 1) := dk_6 (dk_at dksX0_reckon_3 2 rfl rfl)
theorem dX0_reckon_73 : decode cX0_reckon 73 = .ok (.if_icmp .ne 30, 3) := dk_160 0 30 (dk_at dksX0_reckon_3 3 rfl rfl)
theorem dX0_reckon_76 : decode cX0_reckon 76 = .ok (.aload_n 0, 1) := dk_42 (dk_at dksX0_reckon_3 6 rfl rfl)
theorem dX0_reckon_77 : decode cX0_reckon 77 = .ok (.getfield 56, 3) := dk_180 0 56 (dk_at dksX0_reckon_3 7 rfl rfl)
theorem dX0_reckon_80 : decode cX0_reckon 80 = .ok (.iload_n 2, 1) := dk_28 (dk_at dksX0_reckon_3 10 rfl rfl)
theorem dX0_reckon_81 : decode cX0_reckon 81 = .ok (.iconst 1, 1) := dk_4 (dk_at dksX0_reckon_3 11 rfl rfl)
theorem dX0_reckon_82 : decode cX0_reckon 82 = .ok (.isub, 1) := dk_100 (dk_at dksX0_reckon_3 12 rfl rfl)
theorem dX0_reckon_83 : decode cX0_reckon 83 = .ok (.aload_n 0, 1) := dk_42 (dk_at dksX0_reckon_3 13 rfl rfl)
theorem dX0_reckon_84 : decode cX0_reckon 84 = .ok (.getfield 56, 3) := dk_180 0 56 (dk_at dksX0_reckon_3 14 rfl rfl)
theorem dX0_reckon_87 : decode cX0_reckon 87 = .ok (.iload_n 2, 1) := dk_28 (dk_at dksX0_reckon_3 17 rfl rfl)
theorem dX0_reckon_88 : decode cX0_reckon 88 = .ok (.iconst 1, 1) := dk_4 (dk_at dksX0_reckon_3 18 rfl rfl)
theorem dX0_reckon_89 : decode cX0_reckon 89 = .ok (.isub, 1) := dk_100 (dk_at dksX0_reckon_3 19 rfl rfl)
theorem dX0_reckon_90 : decode cX0_reckon 90 = .ok (.iaload, 1) := dk_46 (dk_at dksX0_reckon_3 20 rfl rfl)
theorem dX0_reckon_91 : decode cX0_reckon 91 = .ok (.ifCond .ne 7, 3) := dk_154 0 7 (dk_at dksX0_reckon_3 21 rfl rfl)
theorem dX0_reckon_94 : decode cX0_reckon 94 = .ok (.iconst 1, 1) := dk_4 (dk_at dksX0_reckon_4 0 rfl rfl)
theorem dX0_reckon_95 : decode cX0_reckon 95 = .ok (.goto 4, 3) := dk_167 0 4 (dk_at dksX0_reckon_4 1 rfl rfl)
theorem dX0_reckon_98 : decode cX0_reckon 98 = .ok (.iconst 0, 1) := dk_3 (dk_at dksX0_reckon_4 4 rfl rfl)
theorem dX0_reckon_99 : decode cX0_reckon 99 = .ok (.iastore, 1) := dk_79 (dk_at dksX0_reckon_4 5 rfl rfl)
theorem dX0_reckon_100 : decode cX0_reckon 100 = .ok (.goto 33, 3) := dk_167 0 33 (dk_at dksX0_reckon_4 6 rfl rfl)
theorem dX0_reckon_103 : decode cX0_reckon 103 = .ok (.iinc 2 (-1), 3) := dk_132 2 255 (dk_at dksX0_reckon_4 9 rfl rfl)
theorem dX0_reckon_106 : decode cX0_reckon 106 = .ok (.aload_n 0, 1) := dk_42 (dk_at dksX0_reckon_4 12 rfl rfl)
theorem dX0_reckon_107 : decode cX0_reckon 107 = .ok (.getfield 56, 3) := dk_180 0 56 (dk_at dksX0_reckon_4 13 rfl rfl)
theorem dX0_reckon_110 : decode cX0_reckon 110 = .ok (.iload_n 2, 1) := dk_28 (dk_at dksX0_reckon_4 16 rfl rfl)
theorem dX0_reckon_111 : decode cX0_reckon 111 = .ok (.iconst 1, 1) := dk_4 (dk_at dksX0_reckon_4 17 rfl rfl)
theorem dX0_reckon_112 : decode cX0_reckon 112 = .ok (.isub, 1) := dk_100 (dk_at dksX0_reckon_4 18 rfl rfl)
theorem dX0_reckon_113 : decode cX0_reckon 113 = .ok (.iload 4, 2) := dk_21 4 (dk_at dksX0_reckon_4 19 rfl rfl)
theorem dX0_reckon_115 : decode cX0_reckon 115 = .ok (.aload_n 0, 1) := dk_42 (dk_at dksX0_reckon_4 21 rfl rfl)
theorem dX0_reckon_116 : decode cX0_reckon 116 = .ok (.getfield 56, 3) := dk_180 0 56 (dk_at dksX0_reckon_5 0 rfl rfl)
theorem dX0_reckon_119 : decode cX0_reckon 119 = .ok (.iload_n 2, 1) := dk_28 (dk_at dksX0_reckon_5 3 rfl rfl)
theorem dX0_reckon_120 : decode cX0_reckon 120 = .ok (.iconst 1, 1) := dk_4 (dk_at dksX0_reckon_5 4 rfl rfl)
theorem dX0_reckon_121 : decode cX0_reckon 121 = .ok (.isub, 1) := dk_100 (dk_at dksX0_reckon_5 5 rfl rfl)
theorem dX0_reckon_122 : decode cX0_reckon 122 = .ok (.iaload, 1) := dk_46 (dk_at dksX0_reckon_5 6 rfl rfl)
theorem dX0_reckon_123 : decode cX0_reckon 123 = .ok (.aload_n 0, 1) := dk_42 (dk_at dksX0_reckon_5 7 rfl rfl)
theorem dX0_reckon_124 : decode cX0_reckon 124 = .ok (.getfield 56, 3) := dk_180 0 56 (dk_at dksX0_reckon_5 8 rfl rfl)
theorem dX0_reckon_127 : decode cX0_reckon 127 = .ok (.iload_n 2, 1) := dk_28 (dk_at dksX0_reckon_5 11 rfl rfl)
theorem dX0_reckon_128 : decode cX0_reckon 128 = .ok (.iaload, 1) := dk_46 (dk_at dksX0_reckon_5 12 rfl rfl)
theorem dX0_reckon_129 : decode cX0_reckon 129 = .ok (.invokestatic 123, 3) := dk_184 0 123 (dk_at dksX0_reckon_5 13 rfl rfl)
theorem dX0_reckon_132 : decode cX0_reckon 132 = .ok (.iastore, 1) := dk_79 (dk_at dksX0_reckon_5 16 rfl rfl)
theorem dX0_reckon_133 : decode cX0_reckon 133 = .ok (.iinc 3 1, 3) := dk_132 3 1 (dk_at dksX0_reckon_5 17 rfl rfl)
theorem dX0_reckon_136 : decode cX0_reckon 136 = .ok (.goto (-132), 3) := dk_167 255 124 (dk_at dksX0_reckon_5 20 rfl rfl)
theorem dX0_reckon_139 : decode cX0_reckon 139 = .ok (.aload_n 0, 1) := dk_42 (dk_at dksX0_reckon_5 23 rfl rfl)
theorem dX0_reckon_140 : decode cX0_reckon 140 = .ok (.getfield 56, 3) := dk_180 0 56 (dk_at dksX0_reckon_6 0 rfl rfl)
theorem dX0_reckon_143 : decode cX0_reckon 143 = .ok (.iconst 0, 1) := dk_3 (dk_at dksX0_reckon_6 3 rfl rfl)
theorem dX0_reckon_144 : decode cX0_reckon 144 = .ok (.iaload, 1) := dk_46 (dk_at dksX0_reckon_6 4 rfl rfl)
theorem dX0_reckon_145 : decode cX0_reckon 145 = .ok (.ireturn, 1) := dk_172 (dk_at dksX0_reckon_6 5 rfl rfl)
abbrev cX0_both : ByteArray := prog_1_method_10_code
def yX0_both : MethodName := ⟨RX0, "both", "(III)I"⟩
def dkwX0_both_5 : List UInt8 := [154, 0, 7, 28, 153, 0, 7, 4, 167, 0, 4, 3, 172]
abbrev dktX0_both_5 : List UInt8 := dkwX0_both_5 ++ []
def dkwX0_both_4 : List UInt8 := [164, 0, 7, 4, 167, 0, 4, 3, 172, 27, 153, 0, 11, 28, 153, 0, 7, 4, 167, 0, 4, 3, 172, 27]
abbrev dktX0_both_4 : List UInt8 := dkwX0_both_4 ++ dktX0_both_5
def dkwX0_both_3 : List UInt8 := [27, 28, 162, 0, 7, 4, 167, 0, 4, 3, 172, 27, 28, 160, 0, 7, 4, 167, 0, 4, 3, 172, 27, 28]
abbrev dktX0_both_3 : List UInt8 := dkwX0_both_3 ++ dktX0_both_4
def dkwX0_both_2 : List UInt8 := [27, 28, 104, 172, 28, 154, 0, 7, 3, 167, 0, 6, 27, 28, 108, 172, 27, 28, 96, 172, 27, 28, 100, 172]
abbrev dktX0_both_2 : List UInt8 := dkwX0_both_2 ++ dktX0_both_3
def dkwX0_both_1 : List UInt8 := [170, 0, 0, 0, 0, 0, 122, 0, 0, 0, 4, 0, 0, 0, 12, 0, 0, 0, 51, 0, 0, 0, 67, 0, 0, 0, 71, 0, 0, 0, 75, 0, 0, 0, 86, 0, 0, 0, 97, 0, 0, 0, 108, 0, 0, 0, 122, 0, 0, 0, 55]
abbrev dktX0_both_1 : List UInt8 := dkwX0_both_1 ++ dktX0_both_2
def dkwX0_both_0 : List UInt8 := [26]
abbrev dktX0_both_0 : List UInt8 := dkwX0_both_0 ++ dktX0_both_1
theorem dksX0_both_0 : cX0_both.data.toList.drop 0 = dktX0_both_0 := by decide +kernel
theorem dksX0_both_1 : cX0_both.data.toList.drop 1 = dktX0_both_1 := dk_seg dksX0_both_0 1 rfl rfl
theorem dksX0_both_2 : cX0_both.data.toList.drop 52 = dktX0_both_2 := dk_seg dksX0_both_1 51 rfl rfl
theorem dksX0_both_3 : cX0_both.data.toList.drop 76 = dktX0_both_3 := dk_seg dksX0_both_2 24 rfl rfl
theorem dksX0_both_4 : cX0_both.data.toList.drop 100 = dktX0_both_4 := dk_seg dksX0_both_3 24 rfl rfl
theorem dksX0_both_5 : cX0_both.data.toList.drop 124 = dktX0_both_5 := dk_seg dksX0_both_4 24 rfl rfl
theorem dX0_both_0 : decode cX0_both 0 = .ok (.iload_n 0, 1) := dk_26 (dk_at dksX0_both_0 0 rfl rfl)
theorem dX0_both_1 : decode cX0_both 1 = .ok (.tableswitch 122 4 12 #[51, 67, 71, 75, 86, 97, 108, 122, 55], 51) := by decide +kernel
theorem dX0_both_52 : decode cX0_both 52 = .ok (.iload_n 1, 1) := dk_27 (dk_at dksX0_both_2 0 rfl rfl)
theorem dX0_both_53 : decode cX0_both 53 = .ok (.iload_n 2, 1) := dk_28 (dk_at dksX0_both_2 1 rfl rfl)
theorem dX0_both_54 : decode cX0_both 54 = .ok (.imul, 1) := dk_104 (dk_at dksX0_both_2 2 rfl rfl)
theorem dX0_both_55 : decode cX0_both 55 = .ok (.ireturn, 1) := dk_172 (dk_at dksX0_both_2 3 rfl rfl)
theorem dX0_both_56 : decode cX0_both 56 = .ok (.iload_n 2, 1) := dk_28 (dk_at dksX0_both_2 4 rfl rfl)
theorem dX0_both_57 : decode cX0_both 57 = .ok (.ifCond .ne 7, 3) := dk_154 0 7 (dk_at dksX0_both_2 5 rfl rfl)
theorem dX0_both_60 : decode cX0_both 60 = .ok (.iconst 0, 1) := dk_3 (dk_at dksX0_both_2 8 rfl rfl)
theorem dX0_both_61 : decode cX0_both 61 = .ok (.goto 6, 3) := dk_167 0 6 (dk_at dksX0_both_2 9 rfl rfl)
theorem dX0_both_64 : decode cX0_both 64 = .ok (.iload_n 1, 1) := dk_27 (dk_at dksX0_both_2 12 rfl rfl)
theorem dX0_both_65 : decode cX0_both 65 = .ok (.iload_n 2, 1) := dk_28 (dk_at dksX0_both_2 13 rfl rfl)
theorem dX0_both_66 : decode cX0_both 66 = .ok (.idiv, 1) := dk_108 (dk_at dksX0_both_2 14 rfl rfl)
theorem dX0_both_67 : decode cX0_both 67 = .ok (.ireturn, 1) := dk_172 (dk_at dksX0_both_2 15 rfl rfl)
theorem dX0_both_68 : decode cX0_both 68 = .ok (.iload_n 1, 1) := dk_27 (dk_at dksX0_both_2 16 rfl rfl)
theorem dX0_both_69 : decode cX0_both 69 = .ok (.iload_n 2, 1) := dk_28 (dk_at dksX0_both_2 17 rfl rfl)
theorem dX0_both_70 : decode cX0_both 70 = .ok (.iadd, 1) := dk_96 (dk_at dksX0_both_2 18 rfl rfl)
theorem dX0_both_71 : decode cX0_both 71 = .ok (.ireturn, 1) := dk_172 (dk_at dksX0_both_2 19 rfl rfl)
theorem dX0_both_72 : decode cX0_both 72 = .ok (.iload_n 1, 1) := dk_27 (dk_at dksX0_both_2 20 rfl rfl)
theorem dX0_both_73 : decode cX0_both 73 = .ok (.iload_n 2, 1) := dk_28 (dk_at dksX0_both_2 21 rfl rfl)
theorem dX0_both_74 : decode cX0_both 74 = .ok (.isub, 1) := dk_100 (dk_at dksX0_both_2 22 rfl rfl)
theorem dX0_both_75 : decode cX0_both 75 = .ok (.ireturn, 1) := dk_172 (dk_at dksX0_both_2 23 rfl rfl)
theorem dX0_both_76 : decode cX0_both 76 = .ok (.iload_n 1, 1) := dk_27 (dk_at dksX0_both_3 0 rfl rfl)
theorem dX0_both_77 : decode cX0_both 77 = .ok (.iload_n 2, 1) := dk_28 (dk_at dksX0_both_3 1 rfl rfl)
theorem dX0_both_78 : decode cX0_both 78 = .ok (.if_icmp .ge 7, 3) := dk_162 0 7 (dk_at dksX0_both_3 2 rfl rfl)
theorem dX0_both_81 : decode cX0_both 81 = .ok (.iconst 1, 1) := dk_4 (dk_at dksX0_both_3 5 rfl rfl)
theorem dX0_both_82 : decode cX0_both 82 = .ok (.goto 4, 3) := dk_167 0 4 (dk_at dksX0_both_3 6 rfl rfl)
theorem dX0_both_85 : decode cX0_both 85 = .ok (.iconst 0, 1) := dk_3 (dk_at dksX0_both_3 9 rfl rfl)
theorem dX0_both_86 : decode cX0_both 86 = .ok (.ireturn, 1) := dk_172 (dk_at dksX0_both_3 10 rfl rfl)
theorem dX0_both_87 : decode cX0_both 87 = .ok (.iload_n 1, 1) := dk_27 (dk_at dksX0_both_3 11 rfl rfl)
theorem dX0_both_88 : decode cX0_both 88 = .ok (.iload_n 2, 1) := dk_28 (dk_at dksX0_both_3 12 rfl rfl)
theorem dX0_both_89 : decode cX0_both 89 = .ok (.if_icmp .ne 7, 3) := dk_160 0 7 (dk_at dksX0_both_3 13 rfl rfl)
theorem dX0_both_92 : decode cX0_both 92 = .ok (.iconst 1, 1) := dk_4 (dk_at dksX0_both_3 16 rfl rfl)
theorem dX0_both_93 : decode cX0_both 93 = .ok (.goto 4, 3) := dk_167 0 4 (dk_at dksX0_both_3 17 rfl rfl)
theorem dX0_both_96 : decode cX0_both 96 = .ok (.iconst 0, 1) := dk_3 (dk_at dksX0_both_3 20 rfl rfl)
theorem dX0_both_97 : decode cX0_both 97 = .ok (.ireturn, 1) := dk_172 (dk_at dksX0_both_3 21 rfl rfl)
theorem dX0_both_98 : decode cX0_both 98 = .ok (.iload_n 1, 1) := dk_27 (dk_at dksX0_both_3 22 rfl rfl)
theorem dX0_both_99 : decode cX0_both 99 = .ok (.iload_n 2, 1) := dk_28 (dk_at dksX0_both_3 23 rfl rfl)
theorem dX0_both_100 : decode cX0_both 100 = .ok (.if_icmp .le 7, 3) := dk_164 0 7 (dk_at dksX0_both_4 0 rfl rfl)
theorem dX0_both_103 : decode cX0_both 103 = .ok (.iconst 1, 1) := dk_4 (dk_at dksX0_both_4 3 rfl rfl)
theorem dX0_both_104 : decode cX0_both 104 = .ok (.goto 4, 3) := dk_167 0 4 (dk_at dksX0_both_4 4 rfl rfl)
theorem dX0_both_107 : decode cX0_both 107 = .ok (.iconst 0, 1) := dk_3 (dk_at dksX0_both_4 7 rfl rfl)
theorem dX0_both_108 : decode cX0_both 108 = .ok (.ireturn, 1) := dk_172 (dk_at dksX0_both_4 8 rfl rfl)
theorem dX0_both_109 : decode cX0_both 109 = .ok (.iload_n 1, 1) := dk_27 (dk_at dksX0_both_4 9 rfl rfl)
theorem dX0_both_110 : decode cX0_both 110 = .ok (.ifCond .eq 11, 3) := dk_153 0 11 (dk_at dksX0_both_4 10 rfl rfl)
theorem dX0_both_113 : decode cX0_both 113 = .ok (.iload_n 2, 1) := dk_28 (dk_at dksX0_both_4 13 rfl rfl)
theorem dX0_both_114 : decode cX0_both 114 = .ok (.ifCond .eq 7, 3) := dk_153 0 7 (dk_at dksX0_both_4 14 rfl rfl)
theorem dX0_both_117 : decode cX0_both 117 = .ok (.iconst 1, 1) := dk_4 (dk_at dksX0_both_4 17 rfl rfl)
theorem dX0_both_118 : decode cX0_both 118 = .ok (.goto 4, 3) := dk_167 0 4 (dk_at dksX0_both_4 18 rfl rfl)
theorem dX0_both_121 : decode cX0_both 121 = .ok (.iconst 0, 1) := dk_3 (dk_at dksX0_both_4 21 rfl rfl)
theorem dX0_both_122 : decode cX0_both 122 = .ok (.ireturn, 1) := dk_172 (dk_at dksX0_both_4 22 rfl rfl)
theorem dX0_both_123 : decode cX0_both 123 = .ok (.iload_n 1, 1) := dk_27 (dk_at dksX0_both_4 23 rfl rfl)
theorem dX0_both_124 : decode cX0_both 124 = .ok (.ifCond .ne 7, 3) := dk_154 0 7 (dk_at dksX0_both_5 0 rfl rfl)
theorem dX0_both_127 : decode cX0_both 127 = .ok (.iload_n 2, 1) := dk_28 (dk_at dksX0_both_5 3 rfl rfl)
theorem dX0_both_128 : decode cX0_both 128 = .ok (.ifCond .eq 7, 3) := dk_153 0 7 (dk_at dksX0_both_5 4 rfl rfl)
theorem dX0_both_131 : decode cX0_both 131 = .ok (.iconst 1, 1) := dk_4 (dk_at dksX0_both_5 7 rfl rfl)
theorem dX0_both_132 : decode cX0_both 132 = .ok (.goto 4, 3) := dk_167 0 4 (dk_at dksX0_both_5 8 rfl rfl)
theorem dX0_both_135 : decode cX0_both 135 = .ok (.iconst 0, 1) := dk_3 (dk_at dksX0_both_5 11 rfl rfl)
theorem dX0_both_136 : decode cX0_both 136 = .ok (.ireturn, 1) := dk_172 (dk_at dksX0_both_5 12 rfl rfl)
abbrev cX0_within : ByteArray := prog_1_method_3_code
def yX0_within : MethodName := ⟨RX0, "within", "(III)I"⟩
def dkwX0_within_0 : List UInt8 := [27, 28, 26, 184, 0, 4, 184, 0, 10, 172]
abbrev dktX0_within_0 : List UInt8 := dkwX0_within_0 ++ []
theorem dksX0_within_0 : cX0_within.data.toList.drop 0 = dktX0_within_0 := by decide +kernel
theorem dX0_within_0 : decode cX0_within 0 = .ok (.iload_n 1, 1) := dk_27 (dk_at dksX0_within_0 0 rfl rfl)
theorem dX0_within_1 : decode cX0_within 1 = .ok (.iload_n 2, 1) := dk_28 (dk_at dksX0_within_0 1 rfl rfl)
theorem dX0_within_2 : decode cX0_within 2 = .ok (.iload_n 0, 1) := dk_26 (dk_at dksX0_within_0 2 rfl rfl)
theorem dX0_within_3 : decode cX0_within 3 = .ok (.invokestatic 4, 3) := dk_184 0 4 (dk_at dksX0_within_0 3 rfl rfl)
theorem dX0_within_6 : decode cX0_within 6 = .ok (.invokestatic 10, 3) := dk_184 0 10 (dk_at dksX0_within_0 6 rfl rfl)
theorem dX0_within_9 : decode cX0_within 9 = .ok (.ireturn, 1) := dk_172 (dk_at dksX0_within_0 9 rfl rfl)
abbrev cX0_again : ByteArray := prog_1_method_59_code
def yX0_again : MethodName := ⟨RX0, "again", "(I)I"⟩
def dkwX0_again_2 : List UInt8 := [172]
abbrev dktX0_again_2 : List UInt8 := dkwX0_again_2 ++ []
def dkwX0_again_1 : List UInt8 := [180, 1, 22, 27, 50, 182, 1, 106, 100, 61, 42, 42, 180, 0, 46, 180, 1, 22, 27, 50, 182, 1, 93, 28]
abbrev dktX0_again_1 : List UInt8 := dkwX0_again_1 ++ dktX0_again_2
def dkwX0_again_0 : List UInt8 := [42, 27, 182, 1, 121, 154, 0, 6, 18, 135, 172, 42, 180, 0, 46, 180, 0, 101, 42, 180, 0, 46]
abbrev dktX0_again_0 : List UInt8 := dkwX0_again_0 ++ dktX0_again_1
theorem dksX0_again_0 : cX0_again.data.toList.drop 0 = dktX0_again_0 := by decide +kernel
theorem dksX0_again_1 : cX0_again.data.toList.drop 22 = dktX0_again_1 := dk_seg dksX0_again_0 22 rfl rfl
theorem dksX0_again_2 : cX0_again.data.toList.drop 46 = dktX0_again_2 := dk_seg dksX0_again_1 24 rfl rfl
theorem dX0_again_0 : decode cX0_again 0 = .ok (.aload_n 0, 1) := dk_42 (dk_at dksX0_again_0 0 rfl rfl)
theorem dX0_again_1 : decode cX0_again 1 = .ok (.iload_n 1, 1) := dk_27 (dk_at dksX0_again_0 1 rfl rfl)
theorem dX0_again_2 : decode cX0_again 2 = .ok (.invokevirtual 377, 3) := dk_182 1 121 (dk_at dksX0_again_0 2 rfl rfl)
theorem dX0_again_5 : decode cX0_again 5 = .ok (.ifCond .ne 6, 3) := dk_154 0 6 (dk_at dksX0_again_0 5 rfl rfl)
theorem dX0_again_8 : decode cX0_again 8 = .ok (.ldc 135, 2) := dk_18 135 (dk_at dksX0_again_0 8 rfl rfl)
theorem dX0_again_10 : decode cX0_again 10 = .ok (.ireturn, 1) := dk_172 (dk_at dksX0_again_0 10 rfl rfl)
theorem dX0_again_11 : decode cX0_again 11 = .ok (.aload_n 0, 1) := dk_42 (dk_at dksX0_again_0 11 rfl rfl)
theorem dX0_again_12 : decode cX0_again 12 = .ok (.getfield 46, 3) := dk_180 0 46 (dk_at dksX0_again_0 12 rfl rfl)
theorem dX0_again_15 : decode cX0_again 15 = .ok (.getfield 101, 3) := dk_180 0 101 (dk_at dksX0_again_0 15 rfl rfl)
theorem dX0_again_18 : decode cX0_again 18 = .ok (.aload_n 0, 1) := dk_42 (dk_at dksX0_again_0 18 rfl rfl)
theorem dX0_again_19 : decode cX0_again 19 = .ok (.getfield 46, 3) := dk_180 0 46 (dk_at dksX0_again_0 19 rfl rfl)
theorem dX0_again_22 : decode cX0_again 22 = .ok (.getfield 278, 3) := dk_180 1 22 (dk_at dksX0_again_1 0 rfl rfl)
theorem dX0_again_25 : decode cX0_again 25 = .ok (.iload_n 1, 1) := dk_27 (dk_at dksX0_again_1 3 rfl rfl)
theorem dX0_again_26 : decode cX0_again 26 = .ok (.aaload, 1) := dk_50 (dk_at dksX0_again_1 4 rfl rfl)
theorem dX0_again_27 : decode cX0_again 27 = .ok (.invokevirtual 362, 3) := dk_182 1 106 (dk_at dksX0_again_1 5 rfl rfl)
theorem dX0_again_30 : decode cX0_again 30 = .ok (.isub, 1) := dk_100 (dk_at dksX0_again_1 8 rfl rfl)
theorem dX0_again_31 : decode cX0_again 31 = .ok (.istore_n 2, 1) := dk_61 (dk_at dksX0_again_1 9 rfl rfl)
theorem dX0_again_32 : decode cX0_again 32 = .ok (.aload_n 0, 1) := dk_42 (dk_at dksX0_again_1 10 rfl rfl)
theorem dX0_again_33 : decode cX0_again 33 = .ok (.aload_n 0, 1) := dk_42 (dk_at dksX0_again_1 11 rfl rfl)
theorem dX0_again_34 : decode cX0_again 34 = .ok (.getfield 46, 3) := dk_180 0 46 (dk_at dksX0_again_1 12 rfl rfl)
theorem dX0_again_37 : decode cX0_again 37 = .ok (.getfield 278, 3) := dk_180 1 22 (dk_at dksX0_again_1 15 rfl rfl)
theorem dX0_again_40 : decode cX0_again 40 = .ok (.iload_n 1, 1) := dk_27 (dk_at dksX0_again_1 18 rfl rfl)
theorem dX0_again_41 : decode cX0_again 41 = .ok (.aaload, 1) := dk_50 (dk_at dksX0_again_1 19 rfl rfl)
theorem dX0_again_42 : decode cX0_again 42 = .ok (.invokevirtual 349, 3) := dk_182 1 93 (dk_at dksX0_again_1 20 rfl rfl)
theorem dX0_again_45 : decode cX0_again 45 = .ok (.iload_n 2, 1) := dk_28 (dk_at dksX0_again_1 23 rfl rfl)
theorem dX0_again_46 : decode cX0_again 46 = .ok (.ireturn, 1) := dk_172 (dk_at dksX0_again_2 0 rfl rfl)
abbrev cX0_stop : ByteArray := prog_1_method_60_code
def yX0_stop : MethodName := ⟨RX0, "stop", "(I)I"⟩
def dkwX0_stop_1 : List UInt8 := [27, 181, 1, 128, 28, 172]
abbrev dktX0_stop_1 : List UInt8 := dkwX0_stop_1 ++ []
def dkwX0_stop_0 : List UInt8 := [27, 3, 7, 184, 0, 105, 154, 0, 6, 18, 135, 172, 42, 180, 0, 46, 180, 1, 128, 61, 42, 180, 0, 46]
abbrev dktX0_stop_0 : List UInt8 := dkwX0_stop_0 ++ dktX0_stop_1
theorem dksX0_stop_0 : cX0_stop.data.toList.drop 0 = dktX0_stop_0 := by decide +kernel
theorem dksX0_stop_1 : cX0_stop.data.toList.drop 24 = dktX0_stop_1 := dk_seg dksX0_stop_0 24 rfl rfl
theorem dX0_stop_0 : decode cX0_stop 0 = .ok (.iload_n 1, 1) := dk_27 (dk_at dksX0_stop_0 0 rfl rfl)
theorem dX0_stop_1 : decode cX0_stop 1 = .ok (.iconst 0, 1) := dk_3 (dk_at dksX0_stop_0 1 rfl rfl)
theorem dX0_stop_2 : decode cX0_stop 2 = .ok (.iconst 4, 1) := dk_7 (dk_at dksX0_stop_0 2 rfl rfl)
theorem dX0_stop_3 : decode cX0_stop 3 = .ok (.invokestatic 105, 3) := dk_184 0 105 (dk_at dksX0_stop_0 3 rfl rfl)
theorem dX0_stop_6 : decode cX0_stop 6 = .ok (.ifCond .ne 6, 3) := dk_154 0 6 (dk_at dksX0_stop_0 6 rfl rfl)
theorem dX0_stop_9 : decode cX0_stop 9 = .ok (.ldc 135, 2) := dk_18 135 (dk_at dksX0_stop_0 9 rfl rfl)
theorem dX0_stop_11 : decode cX0_stop 11 = .ok (.ireturn, 1) := dk_172 (dk_at dksX0_stop_0 11 rfl rfl)
theorem dX0_stop_12 : decode cX0_stop 12 = .ok (.aload_n 0, 1) := dk_42 (dk_at dksX0_stop_0 12 rfl rfl)
theorem dX0_stop_13 : decode cX0_stop 13 = .ok (.getfield 46, 3) := dk_180 0 46 (dk_at dksX0_stop_0 13 rfl rfl)
theorem dX0_stop_16 : decode cX0_stop 16 = .ok (.getfield 384, 3) := dk_180 1 128 (dk_at dksX0_stop_0 16 rfl rfl)
theorem dX0_stop_19 : decode cX0_stop 19 = .ok (.istore_n 2, 1) := dk_61 (dk_at dksX0_stop_0 19 rfl rfl)
theorem dX0_stop_20 : decode cX0_stop 20 = .ok (.aload_n 0, 1) := dk_42 (dk_at dksX0_stop_0 20 rfl rfl)
theorem dX0_stop_21 : decode cX0_stop 21 = .ok (.getfield 46, 3) := dk_180 0 46 (dk_at dksX0_stop_0 21 rfl rfl)
theorem dX0_stop_24 : decode cX0_stop 24 = .ok (.iload_n 1, 1) := dk_27 (dk_at dksX0_stop_1 0 rfl rfl)
theorem dX0_stop_25 : decode cX0_stop 25 = .ok (.putfield 384, 3) := dk_181 1 128 (dk_at dksX0_stop_1 1 rfl rfl)
theorem dX0_stop_28 : decode cX0_stop 28 = .ok (.iload_n 2, 1) := dk_28 (dk_at dksX0_stop_1 4 rfl rfl)
theorem dX0_stop_29 : decode cX0_stop 29 = .ok (.ireturn, 1) := dk_172 (dk_at dksX0_stop_1 5 rfl rfl)
abbrev cX0_say : ByteArray := prog_1_method_63_code
def yX0_say : MethodName := ⟨RX0, "say", "(III)I"⟩
def dkwX0_say_2 : List UInt8 := [182, 1, 134, 154, 0, 7, 19, 1, 138, 172, 42, 25, 4, 29, 182, 1, 139, 25, 4, 182, 1, 106, 172]
abbrev dktX0_say_2 : List UInt8 := dkwX0_say_2 ++ []
def dkwX0_say_1 : List UInt8 := [18, 135, 172, 42, 182, 1, 47, 42, 180, 0, 46, 180, 1, 22, 28, 50, 58, 4, 42, 27, 25, 4, 29]
abbrev dktX0_say_1 : List UInt8 := dkwX0_say_1 ++ dktX0_say_2
def dkwX0_say_0 : List UInt8 := [42, 27, 182, 1, 41, 153, 0, 19, 42, 28, 182, 1, 121, 153, 0, 11, 42, 29, 182, 1, 41, 154, 0, 6]
abbrev dktX0_say_0 : List UInt8 := dkwX0_say_0 ++ dktX0_say_1
theorem dksX0_say_0 : cX0_say.data.toList.drop 0 = dktX0_say_0 := by decide +kernel
theorem dksX0_say_1 : cX0_say.data.toList.drop 24 = dktX0_say_1 := dk_seg dksX0_say_0 24 rfl rfl
theorem dksX0_say_2 : cX0_say.data.toList.drop 47 = dktX0_say_2 := dk_seg dksX0_say_1 23 rfl rfl
theorem dX0_say_0 : decode cX0_say 0 = .ok (.aload_n 0, 1) := dk_42 (dk_at dksX0_say_0 0 rfl rfl)
theorem dX0_say_1 : decode cX0_say 1 = .ok (.iload_n 1, 1) := dk_27 (dk_at dksX0_say_0 1 rfl rfl)
theorem dX0_say_2 : decode cX0_say 2 = .ok (.invokevirtual 297, 3) := dk_182 1 41 (dk_at dksX0_say_0 2 rfl rfl)
theorem dX0_say_5 : decode cX0_say 5 = .ok (.ifCond .eq 19, 3) := dk_153 0 19 (dk_at dksX0_say_0 5 rfl rfl)
theorem dX0_say_8 : decode cX0_say 8 = .ok (.aload_n 0, 1) := dk_42 (dk_at dksX0_say_0 8 rfl rfl)
theorem dX0_say_9 : decode cX0_say 9 = .ok (.iload_n 2, 1) := dk_28 (dk_at dksX0_say_0 9 rfl rfl)
theorem dX0_say_10 : decode cX0_say 10 = .ok (.invokevirtual 377, 3) := dk_182 1 121 (dk_at dksX0_say_0 10 rfl rfl)
theorem dX0_say_13 : decode cX0_say 13 = .ok (.ifCond .eq 11, 3) := dk_153 0 11 (dk_at dksX0_say_0 13 rfl rfl)
theorem dX0_say_16 : decode cX0_say 16 = .ok (.aload_n 0, 1) := dk_42 (dk_at dksX0_say_0 16 rfl rfl)
theorem dX0_say_17 : decode cX0_say 17 = .ok (.iload_n 3, 1) := dk_29 (dk_at dksX0_say_0 17 rfl rfl)
theorem dX0_say_18 : decode cX0_say 18 = .ok (.invokevirtual 297, 3) := dk_182 1 41 (dk_at dksX0_say_0 18 rfl rfl)
theorem dX0_say_21 : decode cX0_say 21 = .ok (.ifCond .ne 6, 3) := dk_154 0 6 (dk_at dksX0_say_0 21 rfl rfl)
theorem dX0_say_24 : decode cX0_say 24 = .ok (.ldc 135, 2) := dk_18 135 (dk_at dksX0_say_1 0 rfl rfl)
theorem dX0_say_26 : decode cX0_say 26 = .ok (.ireturn, 1) := dk_172 (dk_at dksX0_say_1 2 rfl rfl)
theorem dX0_say_27 : decode cX0_say 27 = .ok (.aload_n 0, 1) := dk_42 (dk_at dksX0_say_1 3 rfl rfl)
theorem dX0_say_28 : decode cX0_say 28 = .ok (.invokevirtual 303, 3) := dk_182 1 47 (dk_at dksX0_say_1 4 rfl rfl)
theorem dX0_say_31 : decode cX0_say 31 = .ok (.aload_n 0, 1) := dk_42 (dk_at dksX0_say_1 7 rfl rfl)
theorem dX0_say_32 : decode cX0_say 32 = .ok (.getfield 46, 3) := dk_180 0 46 (dk_at dksX0_say_1 8 rfl rfl)
theorem dX0_say_35 : decode cX0_say 35 = .ok (.getfield 278, 3) := dk_180 1 22 (dk_at dksX0_say_1 11 rfl rfl)
theorem dX0_say_38 : decode cX0_say 38 = .ok (.iload_n 2, 1) := dk_28 (dk_at dksX0_say_1 14 rfl rfl)
theorem dX0_say_39 : decode cX0_say 39 = .ok (.aaload, 1) := dk_50 (dk_at dksX0_say_1 15 rfl rfl)
theorem dX0_say_40 : decode cX0_say 40 = .ok (.astore 4, 2) := dk_58 4 (dk_at dksX0_say_1 16 rfl rfl)
theorem dX0_say_42 : decode cX0_say 42 = .ok (.aload_n 0, 1) := dk_42 (dk_at dksX0_say_1 18 rfl rfl)
theorem dX0_say_43 : decode cX0_say 43 = .ok (.iload_n 1, 1) := dk_27 (dk_at dksX0_say_1 19 rfl rfl)
theorem dX0_say_44 : decode cX0_say 44 = .ok (.aload 4, 2) := dk_25 4 (dk_at dksX0_say_1 20 rfl rfl)
theorem dX0_say_46 : decode cX0_say 46 = .ok (.iload_n 3, 1) := dk_29 (dk_at dksX0_say_1 22 rfl rfl)
theorem dX0_say_47 : decode cX0_say 47 = .ok (.invokevirtual 390, 3) := dk_182 1 134 (dk_at dksX0_say_2 0 rfl rfl)
theorem dX0_say_50 : decode cX0_say 50 = .ok (.ifCond .ne 7, 3) := dk_154 0 7 (dk_at dksX0_say_2 3 rfl rfl)
theorem dX0_say_53 : decode cX0_say 53 = .ok (.ldc_w 394, 3) := dk_19 1 138 (dk_at dksX0_say_2 6 rfl rfl)
theorem dX0_say_56 : decode cX0_say 56 = .ok (.ireturn, 1) := dk_172 (dk_at dksX0_say_2 9 rfl rfl)
theorem dX0_say_57 : decode cX0_say 57 = .ok (.aload_n 0, 1) := dk_42 (dk_at dksX0_say_2 10 rfl rfl)
theorem dX0_say_58 : decode cX0_say 58 = .ok (.aload 4, 2) := dk_25 4 (dk_at dksX0_say_2 11 rfl rfl)
theorem dX0_say_60 : decode cX0_say 60 = .ok (.iload_n 3, 1) := dk_29 (dk_at dksX0_say_2 13 rfl rfl)
theorem dX0_say_61 : decode cX0_say 61 = .ok (.invokevirtual 395, 3) := dk_182 1 139 (dk_at dksX0_say_2 14 rfl rfl)
theorem dX0_say_64 : decode cX0_say 64 = .ok (.aload 4, 2) := dk_25 4 (dk_at dksX0_say_2 17 rfl rfl)
theorem dX0_say_66 : decode cX0_say 66 = .ok (.invokevirtual 362, 3) := dk_182 1 106 (dk_at dksX0_say_2 19 rfl rfl)
theorem dX0_say_69 : decode cX0_say 69 = .ok (.ireturn, 1) := dk_172 (dk_at dksX0_say_2 22 rfl rfl)
abbrev cX0_mayBe : ByteArray := prog_1_method_61_code
def yX0_mayBe : MethodName := ⟨RX0, "mayBe", "(ILNeverSaid$Deed;I)Z"⟩
def dkwX0_mayBe_4 : List UInt8 := [182, 1, 113, 153, 0, 7, 4, 167, 0, 4, 3, 172]
abbrev dktX0_mayBe_4 : List UInt8 := dkwX0_mayBe_4 ++ []
def dkwX0_mayBe_3 : List UInt8 := [180, 0, 71, 16, 119, 44, 180, 1, 90, 79, 42, 42, 180, 0, 46, 180, 0, 245, 21, 4, 50, 180, 1, 109]
abbrev dktX0_mayBe_3 : List UInt8 := dkwX0_mayBe_3 ++ dktX0_mayBe_4
def dkwX0_mayBe_2 : List UInt8 := [2, 160, 0, 5, 4, 172, 42, 180, 0, 71, 16, 115, 27, 79, 42, 180, 0, 71, 16, 112, 29, 79, 42]
abbrev dktX0_mayBe_2 : List UInt8 := dkwX0_mayBe_2 ++ dktX0_mayBe_3
def dkwX0_mayBe_1 : List UInt8 := [184, 1, 79, 42, 180, 0, 46, 180, 1, 128, 162, 0, 5, 3, 172, 42, 3, 182, 0, 252, 54, 4, 21, 4]
abbrev dktX0_mayBe_1 : List UInt8 := dkwX0_mayBe_1 ++ dktX0_mayBe_2
def dkwX0_mayBe_0 : List UInt8 := [44, 180, 1, 26, 29, 184, 1, 37, 153, 0, 28, 44, 180, 1, 26, 42, 29, 182, 1, 131, 2, 130, 126]
abbrev dktX0_mayBe_0 : List UInt8 := dkwX0_mayBe_0 ++ dktX0_mayBe_1
theorem dksX0_mayBe_0 : cX0_mayBe.data.toList.drop 0 = dktX0_mayBe_0 := by decide +kernel
theorem dksX0_mayBe_1 : cX0_mayBe.data.toList.drop 23 = dktX0_mayBe_1 := dk_seg dksX0_mayBe_0 23 rfl rfl
theorem dksX0_mayBe_2 : cX0_mayBe.data.toList.drop 47 = dktX0_mayBe_2 := dk_seg dksX0_mayBe_1 24 rfl rfl
theorem dksX0_mayBe_3 : cX0_mayBe.data.toList.drop 70 = dktX0_mayBe_3 := dk_seg dksX0_mayBe_2 23 rfl rfl
theorem dksX0_mayBe_4 : cX0_mayBe.data.toList.drop 94 = dktX0_mayBe_4 := dk_seg dksX0_mayBe_3 24 rfl rfl
theorem dX0_mayBe_0 : decode cX0_mayBe 0 = .ok (.aload_n 2, 1) := dk_44 (dk_at dksX0_mayBe_0 0 rfl rfl)
theorem dX0_mayBe_1 : decode cX0_mayBe 1 = .ok (.getfield 282, 3) := dk_180 1 26 (dk_at dksX0_mayBe_0 1 rfl rfl)
theorem dX0_mayBe_4 : decode cX0_mayBe 4 = .ok (.iload_n 3, 1) := dk_29 (dk_at dksX0_mayBe_0 4 rfl rfl)
theorem dX0_mayBe_5 : decode cX0_mayBe 5 = .ok (.invokestatic 293, 3) := dk_184 1 37 (dk_at dksX0_mayBe_0 5 rfl rfl)
theorem dX0_mayBe_8 : decode cX0_mayBe 8 = .ok (.ifCond .eq 28, 3) := dk_153 0 28 (dk_at dksX0_mayBe_0 8 rfl rfl)
theorem dX0_mayBe_11 : decode cX0_mayBe 11 = .ok (.aload_n 2, 1) := dk_44 (dk_at dksX0_mayBe_0 11 rfl rfl)
theorem dX0_mayBe_12 : decode cX0_mayBe 12 = .ok (.getfield 282, 3) := dk_180 1 26 (dk_at dksX0_mayBe_0 12 rfl rfl)
theorem dX0_mayBe_15 : decode cX0_mayBe 15 = .ok (.aload_n 0, 1) := dk_42 (dk_at dksX0_mayBe_0 15 rfl rfl)
theorem dX0_mayBe_16 : decode cX0_mayBe 16 = .ok (.iload_n 3, 1) := dk_29 (dk_at dksX0_mayBe_0 16 rfl rfl)
theorem dX0_mayBe_17 : decode cX0_mayBe 17 = .ok (.invokevirtual 387, 3) := dk_182 1 131 (dk_at dksX0_mayBe_0 17 rfl rfl)
theorem dX0_mayBe_20 : decode cX0_mayBe 20 = .ok (.iconst (-1), 1) := dk_2 (dk_at dksX0_mayBe_0 20 rfl rfl)
theorem dX0_mayBe_21 : decode cX0_mayBe 21 = .ok (.ixor, 1) := dk_130 (dk_at dksX0_mayBe_0 21 rfl rfl)
theorem dX0_mayBe_22 : decode cX0_mayBe 22 = .ok (.iand, 1) := dk_126 (dk_at dksX0_mayBe_0 22 rfl rfl)
theorem dX0_mayBe_23 : decode cX0_mayBe 23 = .ok (.invokestatic 335, 3) := dk_184 1 79 (dk_at dksX0_mayBe_1 0 rfl rfl)
theorem dX0_mayBe_26 : decode cX0_mayBe 26 = .ok (.aload_n 0, 1) := dk_42 (dk_at dksX0_mayBe_1 3 rfl rfl)
theorem dX0_mayBe_27 : decode cX0_mayBe 27 = .ok (.getfield 46, 3) := dk_180 0 46 (dk_at dksX0_mayBe_1 4 rfl rfl)
theorem dX0_mayBe_30 : decode cX0_mayBe 30 = .ok (.getfield 384, 3) := dk_180 1 128 (dk_at dksX0_mayBe_1 7 rfl rfl)
theorem dX0_mayBe_33 : decode cX0_mayBe 33 = .ok (.if_icmp .ge 5, 3) := dk_162 0 5 (dk_at dksX0_mayBe_1 10 rfl rfl)
theorem dX0_mayBe_36 : decode cX0_mayBe 36 = .ok (.iconst 0, 1) := dk_3 (dk_at dksX0_mayBe_1 13 rfl rfl)
theorem dX0_mayBe_37 : decode cX0_mayBe 37 = .ok (.ireturn, 1) := dk_172 (dk_at dksX0_mayBe_1 14 rfl rfl)
theorem dX0_mayBe_38 : decode cX0_mayBe 38 = .ok (.aload_n 0, 1) := dk_42 (dk_at dksX0_mayBe_1 15 rfl rfl)
theorem dX0_mayBe_39 : decode cX0_mayBe 39 = .ok (.iconst 0, 1) := dk_3 (dk_at dksX0_mayBe_1 16 rfl rfl)
theorem dX0_mayBe_40 : decode cX0_mayBe 40 = .ok (.invokevirtual 252, 3) := dk_182 0 252 (dk_at dksX0_mayBe_1 17 rfl rfl)
theorem dX0_mayBe_43 : decode cX0_mayBe 43 = .ok (.istore 4, 2) := dk_54 4 (dk_at dksX0_mayBe_1 20 rfl rfl)
theorem dX0_mayBe_45 : decode cX0_mayBe 45 = .ok (.iload 4, 2) := dk_21 4 (dk_at dksX0_mayBe_1 22 rfl rfl)
theorem dX0_mayBe_47 : decode cX0_mayBe 47 = .ok (.iconst (-1), 1) := dk_2 (dk_at dksX0_mayBe_2 0 rfl rfl)
theorem dX0_mayBe_48 : decode cX0_mayBe 48 = .ok (.if_icmp .ne 5, 3) := dk_160 0 5 (dk_at dksX0_mayBe_2 1 rfl rfl)
theorem dX0_mayBe_51 : decode cX0_mayBe 51 = .ok (.iconst 1, 1) := dk_4 (dk_at dksX0_mayBe_2 4 rfl rfl)
theorem dX0_mayBe_52 : decode cX0_mayBe 52 = .ok (.ireturn, 1) := dk_172 (dk_at dksX0_mayBe_2 5 rfl rfl)
theorem dX0_mayBe_53 : decode cX0_mayBe 53 = .ok (.aload_n 0, 1) := dk_42 (dk_at dksX0_mayBe_2 6 rfl rfl)
theorem dX0_mayBe_54 : decode cX0_mayBe 54 = .ok (.getfield 71, 3) := dk_180 0 71 (dk_at dksX0_mayBe_2 7 rfl rfl)
theorem dX0_mayBe_57 : decode cX0_mayBe 57 = .ok (.bipush 115, 2) := dk_16 115 (dk_at dksX0_mayBe_2 10 rfl rfl)
theorem dX0_mayBe_59 : decode cX0_mayBe 59 = .ok (.iload_n 1, 1) := dk_27 (dk_at dksX0_mayBe_2 12 rfl rfl)
theorem dX0_mayBe_60 : decode cX0_mayBe 60 = .ok (.iastore, 1) := dk_79 (dk_at dksX0_mayBe_2 13 rfl rfl)
theorem dX0_mayBe_61 : decode cX0_mayBe 61 = .ok (.aload_n 0, 1) := dk_42 (dk_at dksX0_mayBe_2 14 rfl rfl)
theorem dX0_mayBe_62 : decode cX0_mayBe 62 = .ok (.getfield 71, 3) := dk_180 0 71 (dk_at dksX0_mayBe_2 15 rfl rfl)
theorem dX0_mayBe_65 : decode cX0_mayBe 65 = .ok (.bipush 112, 2) := dk_16 112 (dk_at dksX0_mayBe_2 18 rfl rfl)
theorem dX0_mayBe_67 : decode cX0_mayBe 67 = .ok (.iload_n 3, 1) := dk_29 (dk_at dksX0_mayBe_2 20 rfl rfl)
theorem dX0_mayBe_68 : decode cX0_mayBe 68 = .ok (.iastore, 1) := dk_79 (dk_at dksX0_mayBe_2 21 rfl rfl)
theorem dX0_mayBe_69 : decode cX0_mayBe 69 = .ok (.aload_n 0, 1) := dk_42 (dk_at dksX0_mayBe_2 22 rfl rfl)
theorem dX0_mayBe_70 : decode cX0_mayBe 70 = .ok (.getfield 71, 3) := dk_180 0 71 (dk_at dksX0_mayBe_3 0 rfl rfl)
theorem dX0_mayBe_73 : decode cX0_mayBe 73 = .ok (.bipush 119, 2) := dk_16 119 (dk_at dksX0_mayBe_3 3 rfl rfl)
theorem dX0_mayBe_75 : decode cX0_mayBe 75 = .ok (.aload_n 2, 1) := dk_44 (dk_at dksX0_mayBe_3 5 rfl rfl)
theorem dX0_mayBe_76 : decode cX0_mayBe 76 = .ok (.getfield 346, 3) := dk_180 1 90 (dk_at dksX0_mayBe_3 6 rfl rfl)
theorem dX0_mayBe_79 : decode cX0_mayBe 79 = .ok (.iastore, 1) := dk_79 (dk_at dksX0_mayBe_3 9 rfl rfl)
theorem dX0_mayBe_80 : decode cX0_mayBe 80 = .ok (.aload_n 0, 1) := dk_42 (dk_at dksX0_mayBe_3 10 rfl rfl)
theorem dX0_mayBe_81 : decode cX0_mayBe 81 = .ok (.aload_n 0, 1) := dk_42 (dk_at dksX0_mayBe_3 11 rfl rfl)
theorem dX0_mayBe_82 : decode cX0_mayBe 82 = .ok (.getfield 46, 3) := dk_180 0 46 (dk_at dksX0_mayBe_3 12 rfl rfl)
theorem dX0_mayBe_85 : decode cX0_mayBe 85 = .ok (.getfield 245, 3) := dk_180 0 245 (dk_at dksX0_mayBe_3 15 rfl rfl)
theorem dX0_mayBe_88 : decode cX0_mayBe 88 = .ok (.iload 4, 2) := dk_21 4 (dk_at dksX0_mayBe_3 18 rfl rfl)
theorem dX0_mayBe_90 : decode cX0_mayBe 90 = .ok (.aaload, 1) := dk_50 (dk_at dksX0_mayBe_3 20 rfl rfl)
theorem dX0_mayBe_91 : decode cX0_mayBe 91 = .ok (.getfield 365, 3) := dk_180 1 109 (dk_at dksX0_mayBe_3 21 rfl rfl)
theorem dX0_mayBe_94 : decode cX0_mayBe 94 = .ok (.invokevirtual 369, 3) := dk_182 1 113 (dk_at dksX0_mayBe_4 0 rfl rfl)
theorem dX0_mayBe_97 : decode cX0_mayBe 97 = .ok (.ifCond .eq 7, 3) := dk_153 0 7 (dk_at dksX0_mayBe_4 3 rfl rfl)
theorem dX0_mayBe_100 : decode cX0_mayBe 100 = .ok (.iconst 1, 1) := dk_4 (dk_at dksX0_mayBe_4 6 rfl rfl)
theorem dX0_mayBe_101 : decode cX0_mayBe 101 = .ok (.goto 4, 3) := dk_167 0 4 (dk_at dksX0_mayBe_4 7 rfl rfl)
theorem dX0_mayBe_104 : decode cX0_mayBe 104 = .ok (.iconst 0, 1) := dk_3 (dk_at dksX0_mayBe_4 10 rfl rfl)
theorem dX0_mayBe_105 : decode cX0_mayBe 105 = .ok (.ireturn, 1) := dk_172 (dk_at dksX0_mayBe_4 11 rfl rfl)
abbrev cX0_goBy : ByteArray := prog_1_method_40_code
def yX0_goBy : MethodName := ⟨RX0, "goBy", "(I)I"⟩
def dkwX0_goBy_0 : List UInt8 := [42, 180, 0, 74, 27, 46, 4, 27, 120, 128, 172]
abbrev dktX0_goBy_0 : List UInt8 := dkwX0_goBy_0 ++ []
theorem dksX0_goBy_0 : cX0_goBy.data.toList.drop 0 = dktX0_goBy_0 := by decide +kernel
theorem dX0_goBy_0 : decode cX0_goBy 0 = .ok (.aload_n 0, 1) := dk_42 (dk_at dksX0_goBy_0 0 rfl rfl)
theorem dX0_goBy_1 : decode cX0_goBy 1 = .ok (.getfield 74, 3) := dk_180 0 74 (dk_at dksX0_goBy_0 1 rfl rfl)
theorem dX0_goBy_4 : decode cX0_goBy 4 = .ok (.iload_n 1, 1) := dk_27 (dk_at dksX0_goBy_0 4 rfl rfl)
theorem dX0_goBy_5 : decode cX0_goBy 5 = .ok (.iaload, 1) := dk_46 (dk_at dksX0_goBy_0 5 rfl rfl)
theorem dX0_goBy_6 : decode cX0_goBy 6 = .ok (.iconst 1, 1) := dk_4 (dk_at dksX0_goBy_0 6 rfl rfl)
theorem dX0_goBy_7 : decode cX0_goBy 7 = .ok (.iload_n 1, 1) := dk_27 (dk_at dksX0_goBy_0 7 rfl rfl)
theorem dX0_goBy_8 : decode cX0_goBy 8 = .ok (.ishl, 1) := dk_120 (dk_at dksX0_goBy_0 8 rfl rfl)
theorem dX0_goBy_9 : decode cX0_goBy 9 = .ok (.ior, 1) := dk_128 (dk_at dksX0_goBy_0 9 rfl rfl)
theorem dX0_goBy_10 : decode cX0_goBy 10 = .ok (.ireturn, 1) := dk_172 (dk_at dksX0_goBy_0 10 rfl rfl)
abbrev cX0_saysOf : ByteArray := prog_1_method_62_code
def yX0_saysOf : MethodName := ⟨RX0, "saysOf", "(LNeverSaid$Deed;I)V"⟩
def dkwX0_saysOf_2 : List UInt8 := [181, 1, 100, 177]
abbrev dktX0_saysOf_2 : List UInt8 := dkwX0_saysOf_2 ++ []
def dkwX0_saysOf_1 : List UInt8 := [3, 96, 181, 1, 103, 43, 89, 180, 1, 26, 29, 2, 130, 126, 181, 1, 26, 43, 89, 180, 1, 100, 4, 96]
abbrev dktX0_saysOf_1 : List UInt8 := dkwX0_saysOf_1 ++ dktX0_saysOf_2
def dkwX0_saysOf_0 : List UInt8 := [42, 28, 182, 1, 131, 62, 43, 89, 180, 1, 103, 29, 43, 180, 1, 84, 126, 153, 0, 7, 4, 167, 0, 4]
abbrev dktX0_saysOf_0 : List UInt8 := dkwX0_saysOf_0 ++ dktX0_saysOf_1
theorem dksX0_saysOf_0 : cX0_saysOf.data.toList.drop 0 = dktX0_saysOf_0 := by decide +kernel
theorem dksX0_saysOf_1 : cX0_saysOf.data.toList.drop 24 = dktX0_saysOf_1 := dk_seg dksX0_saysOf_0 24 rfl rfl
theorem dksX0_saysOf_2 : cX0_saysOf.data.toList.drop 48 = dktX0_saysOf_2 := dk_seg dksX0_saysOf_1 24 rfl rfl
theorem dX0_saysOf_0 : decode cX0_saysOf 0 = .ok (.aload_n 0, 1) := dk_42 (dk_at dksX0_saysOf_0 0 rfl rfl)
theorem dX0_saysOf_1 : decode cX0_saysOf 1 = .ok (.iload_n 2, 1) := dk_28 (dk_at dksX0_saysOf_0 1 rfl rfl)
theorem dX0_saysOf_2 : decode cX0_saysOf 2 = .ok (.invokevirtual 387, 3) := dk_182 1 131 (dk_at dksX0_saysOf_0 2 rfl rfl)
theorem dX0_saysOf_5 : decode cX0_saysOf 5 = .ok (.istore_n 3, 1) := dk_62 (dk_at dksX0_saysOf_0 5 rfl rfl)
theorem dX0_saysOf_6 : decode cX0_saysOf 6 = .ok (.aload_n 1, 1) := dk_43 (dk_at dksX0_saysOf_0 6 rfl rfl)
theorem dX0_saysOf_7 : decode cX0_saysOf 7 = .ok (.dup, 1) := dk_89 (dk_at dksX0_saysOf_0 7 rfl rfl)
theorem dX0_saysOf_8 : decode cX0_saysOf 8 = .ok (.getfield 359, 3) := dk_180 1 103 (dk_at dksX0_saysOf_0 8 rfl rfl)
theorem dX0_saysOf_11 : decode cX0_saysOf 11 = .ok (.iload_n 3, 1) := dk_29 (dk_at dksX0_saysOf_0 11 rfl rfl)
theorem dX0_saysOf_12 : decode cX0_saysOf 12 = .ok (.aload_n 1, 1) := dk_43 (dk_at dksX0_saysOf_0 12 rfl rfl)
theorem dX0_saysOf_13 : decode cX0_saysOf 13 = .ok (.getfield 340, 3) := dk_180 1 84 (dk_at dksX0_saysOf_0 13 rfl rfl)
theorem dX0_saysOf_16 : decode cX0_saysOf 16 = .ok (.iand, 1) := dk_126 (dk_at dksX0_saysOf_0 16 rfl rfl)
theorem dX0_saysOf_17 : decode cX0_saysOf 17 = .ok (.ifCond .eq 7, 3) := dk_153 0 7 (dk_at dksX0_saysOf_0 17 rfl rfl)
theorem dX0_saysOf_20 : decode cX0_saysOf 20 = .ok (.iconst 1, 1) := dk_4 (dk_at dksX0_saysOf_0 20 rfl rfl)
theorem dX0_saysOf_21 : decode cX0_saysOf 21 = .ok (.goto 4, 3) := dk_167 0 4 (dk_at dksX0_saysOf_0 21 rfl rfl)
theorem dX0_saysOf_24 : decode cX0_saysOf 24 = .ok (.iconst 0, 1) := dk_3 (dk_at dksX0_saysOf_1 0 rfl rfl)
theorem dX0_saysOf_25 : decode cX0_saysOf 25 = .ok (.iadd, 1) := dk_96 (dk_at dksX0_saysOf_1 1 rfl rfl)
theorem dX0_saysOf_26 : decode cX0_saysOf 26 = .ok (.putfield 359, 3) := dk_181 1 103 (dk_at dksX0_saysOf_1 2 rfl rfl)
theorem dX0_saysOf_29 : decode cX0_saysOf 29 = .ok (.aload_n 1, 1) := dk_43 (dk_at dksX0_saysOf_1 5 rfl rfl)
theorem dX0_saysOf_30 : decode cX0_saysOf 30 = .ok (.dup, 1) := dk_89 (dk_at dksX0_saysOf_1 6 rfl rfl)
theorem dX0_saysOf_31 : decode cX0_saysOf 31 = .ok (.getfield 282, 3) := dk_180 1 26 (dk_at dksX0_saysOf_1 7 rfl rfl)
theorem dX0_saysOf_34 : decode cX0_saysOf 34 = .ok (.iload_n 3, 1) := dk_29 (dk_at dksX0_saysOf_1 10 rfl rfl)
theorem dX0_saysOf_35 : decode cX0_saysOf 35 = .ok (.iconst (-1), 1) := dk_2 (dk_at dksX0_saysOf_1 11 rfl rfl)
theorem dX0_saysOf_36 : decode cX0_saysOf 36 = .ok (.ixor, 1) := dk_130 (dk_at dksX0_saysOf_1 12 rfl rfl)
theorem dX0_saysOf_37 : decode cX0_saysOf 37 = .ok (.iand, 1) := dk_126 (dk_at dksX0_saysOf_1 13 rfl rfl)
theorem dX0_saysOf_38 : decode cX0_saysOf 38 = .ok (.putfield 282, 3) := dk_181 1 26 (dk_at dksX0_saysOf_1 14 rfl rfl)
theorem dX0_saysOf_41 : decode cX0_saysOf 41 = .ok (.aload_n 1, 1) := dk_43 (dk_at dksX0_saysOf_1 17 rfl rfl)
theorem dX0_saysOf_42 : decode cX0_saysOf 42 = .ok (.dup, 1) := dk_89 (dk_at dksX0_saysOf_1 18 rfl rfl)
theorem dX0_saysOf_43 : decode cX0_saysOf 43 = .ok (.getfield 356, 3) := dk_180 1 100 (dk_at dksX0_saysOf_1 19 rfl rfl)
theorem dX0_saysOf_46 : decode cX0_saysOf 46 = .ok (.iconst 1, 1) := dk_4 (dk_at dksX0_saysOf_1 22 rfl rfl)
theorem dX0_saysOf_47 : decode cX0_saysOf 47 = .ok (.iadd, 1) := dk_96 (dk_at dksX0_saysOf_1 23 rfl rfl)
theorem dX0_saysOf_48 : decode cX0_saysOf 48 = .ok (.putfield 356, 3) := dk_181 1 100 (dk_at dksX0_saysOf_2 0 rfl rfl)
theorem dX0_saysOf_51 : decode cX0_saysOf 51 = .ok (.return_, 1) := dk_177 (dk_at dksX0_saysOf_2 3 rfl rfl)
abbrev cX0_choice : ByteArray := prog_1_method_65_code
def yX0_choice : MethodName := ⟨RX0, "choice", "(II)I"⟩
def dkwX0_choice_1 : List UInt8 := [27, 42, 180, 0, 46, 180, 1, 22, 28, 50, 182, 1, 149, 184, 1, 0, 172]
abbrev dktX0_choice_1 : List UInt8 := dkwX0_choice_1 ++ []
def dkwX0_choice_0 : List UInt8 := [42, 27, 182, 1, 41, 153, 0, 11, 42, 28, 182, 1, 121, 154, 0, 6, 18, 135, 172, 42, 182, 1, 47, 42]
abbrev dktX0_choice_0 : List UInt8 := dkwX0_choice_0 ++ dktX0_choice_1
theorem dksX0_choice_0 : cX0_choice.data.toList.drop 0 = dktX0_choice_0 := by decide +kernel
theorem dksX0_choice_1 : cX0_choice.data.toList.drop 24 = dktX0_choice_1 := dk_seg dksX0_choice_0 24 rfl rfl
theorem dX0_choice_0 : decode cX0_choice 0 = .ok (.aload_n 0, 1) := dk_42 (dk_at dksX0_choice_0 0 rfl rfl)
theorem dX0_choice_1 : decode cX0_choice 1 = .ok (.iload_n 1, 1) := dk_27 (dk_at dksX0_choice_0 1 rfl rfl)
theorem dX0_choice_2 : decode cX0_choice 2 = .ok (.invokevirtual 297, 3) := dk_182 1 41 (dk_at dksX0_choice_0 2 rfl rfl)
theorem dX0_choice_5 : decode cX0_choice 5 = .ok (.ifCond .eq 11, 3) := dk_153 0 11 (dk_at dksX0_choice_0 5 rfl rfl)
theorem dX0_choice_8 : decode cX0_choice 8 = .ok (.aload_n 0, 1) := dk_42 (dk_at dksX0_choice_0 8 rfl rfl)
theorem dX0_choice_9 : decode cX0_choice 9 = .ok (.iload_n 2, 1) := dk_28 (dk_at dksX0_choice_0 9 rfl rfl)
theorem dX0_choice_10 : decode cX0_choice 10 = .ok (.invokevirtual 377, 3) := dk_182 1 121 (dk_at dksX0_choice_0 10 rfl rfl)
theorem dX0_choice_13 : decode cX0_choice 13 = .ok (.ifCond .ne 6, 3) := dk_154 0 6 (dk_at dksX0_choice_0 13 rfl rfl)
theorem dX0_choice_16 : decode cX0_choice 16 = .ok (.ldc 135, 2) := dk_18 135 (dk_at dksX0_choice_0 16 rfl rfl)
theorem dX0_choice_18 : decode cX0_choice 18 = .ok (.ireturn, 1) := dk_172 (dk_at dksX0_choice_0 18 rfl rfl)
theorem dX0_choice_19 : decode cX0_choice 19 = .ok (.aload_n 0, 1) := dk_42 (dk_at dksX0_choice_0 19 rfl rfl)
theorem dX0_choice_20 : decode cX0_choice 20 = .ok (.invokevirtual 303, 3) := dk_182 1 47 (dk_at dksX0_choice_0 20 rfl rfl)
theorem dX0_choice_23 : decode cX0_choice 23 = .ok (.aload_n 0, 1) := dk_42 (dk_at dksX0_choice_0 23 rfl rfl)
theorem dX0_choice_24 : decode cX0_choice 24 = .ok (.iload_n 1, 1) := dk_27 (dk_at dksX0_choice_1 0 rfl rfl)
theorem dX0_choice_25 : decode cX0_choice 25 = .ok (.aload_n 0, 1) := dk_42 (dk_at dksX0_choice_1 1 rfl rfl)
theorem dX0_choice_26 : decode cX0_choice 26 = .ok (.getfield 46, 3) := dk_180 0 46 (dk_at dksX0_choice_1 2 rfl rfl)
theorem dX0_choice_29 : decode cX0_choice 29 = .ok (.getfield 278, 3) := dk_180 1 22 (dk_at dksX0_choice_1 5 rfl rfl)
theorem dX0_choice_32 : decode cX0_choice 32 = .ok (.iload_n 2, 1) := dk_28 (dk_at dksX0_choice_1 8 rfl rfl)
theorem dX0_choice_33 : decode cX0_choice 33 = .ok (.aaload, 1) := dk_50 (dk_at dksX0_choice_1 9 rfl rfl)
theorem dX0_choice_34 : decode cX0_choice 34 = .ok (.invokevirtual 405, 3) := dk_182 1 149 (dk_at dksX0_choice_1 10 rfl rfl)
theorem dX0_choice_37 : decode cX0_choice 37 = .ok (.invokestatic 256, 3) := dk_184 1 0 (dk_at dksX0_choice_1 13 rfl rfl)
theorem dX0_choice_40 : decode cX0_choice 40 = .ok (.ireturn, 1) := dk_172 (dk_at dksX0_choice_1 16 rfl rfl)
abbrev cX0_choiceOf : ByteArray := prog_1_method_64_code
def yX0_choiceOf : MethodName := ⟨RX0, "choiceOf", "(ILNeverSaid$Deed;)I"⟩
def dkwX0_choiceOf_4 : List UInt8 := [180, 0, 46, 180, 1, 16, 27, 46, 44, 180, 1, 90, 185, 1, 143, 5, 0, 172]
abbrev dktX0_choiceOf_4 : List UInt8 := dkwX0_choiceOf_4 ++ []
def dkwX0_choiceOf_3 : List UInt8 := [132, 5, 1, 167, 255, 192, 42, 180, 0, 46, 180, 1, 3, 27, 50, 58, 5, 25, 5, 29, 21, 4, 42]
abbrev dktX0_choiceOf_3 : List UInt8 := dkwX0_choiceOf_3 ++ dktX0_choiceOf_4
def dkwX0_choiceOf_2 : List UInt8 := [182, 1, 131, 44, 180, 1, 84, 126, 153, 0, 10, 4, 21, 5, 120, 167, 0, 4, 3, 128, 54, 4]
abbrev dktX0_choiceOf_2 : List UInt8 := dkwX0_choiceOf_2 ++ dktX0_choiceOf_3
def dkwX0_choiceOf_1 : List UInt8 := [21, 5, 182, 1, 134, 153, 0, 10, 4, 21, 5, 120, 167, 0, 4, 3, 128, 62, 21, 4, 42, 21, 5]
abbrev dktX0_choiceOf_1 : List UInt8 := dkwX0_choiceOf_1 ++ dktX0_choiceOf_2
def dkwX0_choiceOf_0 : List UInt8 := [3, 62, 3, 54, 4, 3, 54, 5, 21, 5, 42, 180, 0, 46, 180, 0, 101, 162, 0, 58, 29, 42, 27, 44]
abbrev dktX0_choiceOf_0 : List UInt8 := dkwX0_choiceOf_0 ++ dktX0_choiceOf_1
theorem dksX0_choiceOf_0 : cX0_choiceOf.data.toList.drop 0 = dktX0_choiceOf_0 := by decide +kernel
theorem dksX0_choiceOf_1 : cX0_choiceOf.data.toList.drop 24 = dktX0_choiceOf_1 := dk_seg dksX0_choiceOf_0 24 rfl rfl
theorem dksX0_choiceOf_2 : cX0_choiceOf.data.toList.drop 47 = dktX0_choiceOf_2 := dk_seg dksX0_choiceOf_1 23 rfl rfl
theorem dksX0_choiceOf_3 : cX0_choiceOf.data.toList.drop 69 = dktX0_choiceOf_3 := dk_seg dksX0_choiceOf_2 22 rfl rfl
theorem dksX0_choiceOf_4 : cX0_choiceOf.data.toList.drop 92 = dktX0_choiceOf_4 := dk_seg dksX0_choiceOf_3 23 rfl rfl
theorem dX0_choiceOf_0 : decode cX0_choiceOf 0 = .ok (.iconst 0, 1) := dk_3 (dk_at dksX0_choiceOf_0 0 rfl rfl)
theorem dX0_choiceOf_1 : decode cX0_choiceOf 1 = .ok (.istore_n 3, 1) := dk_62 (dk_at dksX0_choiceOf_0 1 rfl rfl)
theorem dX0_choiceOf_2 : decode cX0_choiceOf 2 = .ok (.iconst 0, 1) := dk_3 (dk_at dksX0_choiceOf_0 2 rfl rfl)
theorem dX0_choiceOf_3 : decode cX0_choiceOf 3 = .ok (.istore 4, 2) := dk_54 4 (dk_at dksX0_choiceOf_0 3 rfl rfl)
theorem dX0_choiceOf_5 : decode cX0_choiceOf 5 = .ok (.iconst 0, 1) := dk_3 (dk_at dksX0_choiceOf_0 5 rfl rfl)
theorem dX0_choiceOf_6 : decode cX0_choiceOf 6 = .ok (.istore 5, 2) := dk_54 5 (dk_at dksX0_choiceOf_0 6 rfl rfl)
theorem dX0_choiceOf_8 : decode cX0_choiceOf 8 = .ok (.iload 5, 2) := dk_21 5 (dk_at dksX0_choiceOf_0 8 rfl rfl)
theorem dX0_choiceOf_10 : decode cX0_choiceOf 10 = .ok (.aload_n 0, 1) := dk_42 (dk_at dksX0_choiceOf_0 10 rfl rfl)
theorem dX0_choiceOf_11 : decode cX0_choiceOf 11 = .ok (.getfield 46, 3) := dk_180 0 46 (dk_at dksX0_choiceOf_0 11 rfl rfl)
theorem dX0_choiceOf_14 : decode cX0_choiceOf 14 = .ok (.getfield 101, 3) := dk_180 0 101 (dk_at dksX0_choiceOf_0 14 rfl rfl)
theorem dX0_choiceOf_17 : decode cX0_choiceOf 17 = .ok (.if_icmp .ge 58, 3) := dk_162 0 58 (dk_at dksX0_choiceOf_0 17 rfl rfl)
theorem dX0_choiceOf_20 : decode cX0_choiceOf 20 = .ok (.iload_n 3, 1) := dk_29 (dk_at dksX0_choiceOf_0 20 rfl rfl)
theorem dX0_choiceOf_21 : decode cX0_choiceOf 21 = .ok (.aload_n 0, 1) := dk_42 (dk_at dksX0_choiceOf_0 21 rfl rfl)
theorem dX0_choiceOf_22 : decode cX0_choiceOf 22 = .ok (.iload_n 1, 1) := dk_27 (dk_at dksX0_choiceOf_0 22 rfl rfl)
theorem dX0_choiceOf_23 : decode cX0_choiceOf 23 = .ok (.aload_n 2, 1) := dk_44 (dk_at dksX0_choiceOf_0 23 rfl rfl)
theorem dX0_choiceOf_24 : decode cX0_choiceOf 24 = .ok (.iload 5, 2) := dk_21 5 (dk_at dksX0_choiceOf_1 0 rfl rfl)
theorem dX0_choiceOf_26 : decode cX0_choiceOf 26 = .ok (.invokevirtual 390, 3) := dk_182 1 134 (dk_at dksX0_choiceOf_1 2 rfl rfl)
theorem dX0_choiceOf_29 : decode cX0_choiceOf 29 = .ok (.ifCond .eq 10, 3) := dk_153 0 10 (dk_at dksX0_choiceOf_1 5 rfl rfl)
theorem dX0_choiceOf_32 : decode cX0_choiceOf 32 = .ok (.iconst 1, 1) := dk_4 (dk_at dksX0_choiceOf_1 8 rfl rfl)
theorem dX0_choiceOf_33 : decode cX0_choiceOf 33 = .ok (.iload 5, 2) := dk_21 5 (dk_at dksX0_choiceOf_1 9 rfl rfl)
theorem dX0_choiceOf_35 : decode cX0_choiceOf 35 = .ok (.ishl, 1) := dk_120 (dk_at dksX0_choiceOf_1 11 rfl rfl)
theorem dX0_choiceOf_36 : decode cX0_choiceOf 36 = .ok (.goto 4, 3) := dk_167 0 4 (dk_at dksX0_choiceOf_1 12 rfl rfl)
theorem dX0_choiceOf_39 : decode cX0_choiceOf 39 = .ok (.iconst 0, 1) := dk_3 (dk_at dksX0_choiceOf_1 15 rfl rfl)
theorem dX0_choiceOf_40 : decode cX0_choiceOf 40 = .ok (.ior, 1) := dk_128 (dk_at dksX0_choiceOf_1 16 rfl rfl)
theorem dX0_choiceOf_41 : decode cX0_choiceOf 41 = .ok (.istore_n 3, 1) := dk_62 (dk_at dksX0_choiceOf_1 17 rfl rfl)
theorem dX0_choiceOf_42 : decode cX0_choiceOf 42 = .ok (.iload 4, 2) := dk_21 4 (dk_at dksX0_choiceOf_1 18 rfl rfl)
theorem dX0_choiceOf_44 : decode cX0_choiceOf 44 = .ok (.aload_n 0, 1) := dk_42 (dk_at dksX0_choiceOf_1 20 rfl rfl)
theorem dX0_choiceOf_45 : decode cX0_choiceOf 45 = .ok (.iload 5, 2) := dk_21 5 (dk_at dksX0_choiceOf_1 21 rfl rfl)
theorem dX0_choiceOf_47 : decode cX0_choiceOf 47 = .ok (.invokevirtual 387, 3) := dk_182 1 131 (dk_at dksX0_choiceOf_2 0 rfl rfl)
theorem dX0_choiceOf_50 : decode cX0_choiceOf 50 = .ok (.aload_n 2, 1) := dk_44 (dk_at dksX0_choiceOf_2 3 rfl rfl)
theorem dX0_choiceOf_51 : decode cX0_choiceOf 51 = .ok (.getfield 340, 3) := dk_180 1 84 (dk_at dksX0_choiceOf_2 4 rfl rfl)
theorem dX0_choiceOf_54 : decode cX0_choiceOf 54 = .ok (.iand, 1) := dk_126 (dk_at dksX0_choiceOf_2 7 rfl rfl)
theorem dX0_choiceOf_55 : decode cX0_choiceOf 55 = .ok (.ifCond .eq 10, 3) := dk_153 0 10 (dk_at dksX0_choiceOf_2 8 rfl rfl)
theorem dX0_choiceOf_58 : decode cX0_choiceOf 58 = .ok (.iconst 1, 1) := dk_4 (dk_at dksX0_choiceOf_2 11 rfl rfl)
theorem dX0_choiceOf_59 : decode cX0_choiceOf 59 = .ok (.iload 5, 2) := dk_21 5 (dk_at dksX0_choiceOf_2 12 rfl rfl)
theorem dX0_choiceOf_61 : decode cX0_choiceOf 61 = .ok (.ishl, 1) := dk_120 (dk_at dksX0_choiceOf_2 14 rfl rfl)
theorem dX0_choiceOf_62 : decode cX0_choiceOf 62 = .ok (.goto 4, 3) := dk_167 0 4 (dk_at dksX0_choiceOf_2 15 rfl rfl)
theorem dX0_choiceOf_65 : decode cX0_choiceOf 65 = .ok (.iconst 0, 1) := dk_3 (dk_at dksX0_choiceOf_2 18 rfl rfl)
theorem dX0_choiceOf_66 : decode cX0_choiceOf 66 = .ok (.ior, 1) := dk_128 (dk_at dksX0_choiceOf_2 19 rfl rfl)
theorem dX0_choiceOf_67 : decode cX0_choiceOf 67 = .ok (.istore 4, 2) := dk_54 4 (dk_at dksX0_choiceOf_2 20 rfl rfl)
theorem dX0_choiceOf_69 : decode cX0_choiceOf 69 = .ok (.iinc 5 1, 3) := dk_132 5 1 (dk_at dksX0_choiceOf_3 0 rfl rfl)
theorem dX0_choiceOf_72 : decode cX0_choiceOf 72 = .ok (.goto (-64), 3) := dk_167 255 192 (dk_at dksX0_choiceOf_3 3 rfl rfl)
theorem dX0_choiceOf_75 : decode cX0_choiceOf 75 = .ok (.aload_n 0, 1) := dk_42 (dk_at dksX0_choiceOf_3 6 rfl rfl)
theorem dX0_choiceOf_76 : decode cX0_choiceOf 76 = .ok (.getfield 46, 3) := dk_180 0 46 (dk_at dksX0_choiceOf_3 7 rfl rfl)
theorem dX0_choiceOf_79 : decode cX0_choiceOf 79 = .ok (.getfield 259, 3) := dk_180 1 3 (dk_at dksX0_choiceOf_3 10 rfl rfl)
theorem dX0_choiceOf_82 : decode cX0_choiceOf 82 = .ok (.iload_n 1, 1) := dk_27 (dk_at dksX0_choiceOf_3 13 rfl rfl)
theorem dX0_choiceOf_83 : decode cX0_choiceOf 83 = .ok (.aaload, 1) := dk_50 (dk_at dksX0_choiceOf_3 14 rfl rfl)
theorem dX0_choiceOf_84 : decode cX0_choiceOf 84 = .ok (.astore 5, 2) := dk_58 5 (dk_at dksX0_choiceOf_3 15 rfl rfl)
theorem dX0_choiceOf_86 : decode cX0_choiceOf 86 = .ok (.aload 5, 2) := dk_25 5 (dk_at dksX0_choiceOf_3 17 rfl rfl)
theorem dX0_choiceOf_88 : decode cX0_choiceOf 88 = .ok (.iload_n 3, 1) := dk_29 (dk_at dksX0_choiceOf_3 19 rfl rfl)
theorem dX0_choiceOf_89 : decode cX0_choiceOf 89 = .ok (.iload 4, 2) := dk_21 4 (dk_at dksX0_choiceOf_3 20 rfl rfl)
theorem dX0_choiceOf_91 : decode cX0_choiceOf 91 = .ok (.aload_n 0, 1) := dk_42 (dk_at dksX0_choiceOf_3 22 rfl rfl)
theorem dX0_choiceOf_92 : decode cX0_choiceOf 92 = .ok (.getfield 46, 3) := dk_180 0 46 (dk_at dksX0_choiceOf_4 0 rfl rfl)
theorem dX0_choiceOf_95 : decode cX0_choiceOf 95 = .ok (.getfield 272, 3) := dk_180 1 16 (dk_at dksX0_choiceOf_4 3 rfl rfl)
theorem dX0_choiceOf_98 : decode cX0_choiceOf 98 = .ok (.iload_n 1, 1) := dk_27 (dk_at dksX0_choiceOf_4 6 rfl rfl)
theorem dX0_choiceOf_99 : decode cX0_choiceOf 99 = .ok (.iaload, 1) := dk_46 (dk_at dksX0_choiceOf_4 7 rfl rfl)
theorem dX0_choiceOf_100 : decode cX0_choiceOf 100 = .ok (.aload_n 2, 1) := dk_44 (dk_at dksX0_choiceOf_4 8 rfl rfl)
theorem dX0_choiceOf_101 : decode cX0_choiceOf 101 = .ok (.getfield 346, 3) := dk_180 1 90 (dk_at dksX0_choiceOf_4 9 rfl rfl)
theorem dX0_choiceOf_104 : decode cX0_choiceOf 104 = .ok (.invokeinterface 399 5, 5) := by decide +kernel
theorem dX0_choiceOf_109 : decode cX0_choiceOf 109 = .ok (.ireturn, 1) := dk_172 (dk_at dksX0_choiceOf_4 17 rfl rfl)
abbrev cX0_rounds : ByteArray := prog_1_method_68_code
def yX0_rounds : MethodName := ⟨RX0, "rounds", "(II)I"⟩
def dkwX0_rounds_2 : List UInt8 := [132, 4, 1, 167, 255, 231, 29, 172]
abbrev dktX0_rounds_2 : List UInt8 := dkwX0_rounds_2 ++ []
def dkwX0_rounds_1 : List UInt8 := [54, 4, 21, 4, 28, 162, 0, 25, 29, 42, 42, 180, 0, 46, 180, 1, 22, 27, 50, 182, 1, 156, 96, 62]
abbrev dktX0_rounds_1 : List UInt8 := dkwX0_rounds_1 ++ dktX0_rounds_2
def dkwX0_rounds_0 : List UInt8 := [42, 27, 182, 1, 121, 153, 0, 13, 28, 4, 16, 40, 184, 0, 105, 154, 0, 6, 18, 135, 172, 3, 62, 3]
abbrev dktX0_rounds_0 : List UInt8 := dkwX0_rounds_0 ++ dktX0_rounds_1
theorem dksX0_rounds_0 : cX0_rounds.data.toList.drop 0 = dktX0_rounds_0 := by decide +kernel
theorem dksX0_rounds_1 : cX0_rounds.data.toList.drop 24 = dktX0_rounds_1 := dk_seg dksX0_rounds_0 24 rfl rfl
theorem dksX0_rounds_2 : cX0_rounds.data.toList.drop 48 = dktX0_rounds_2 := dk_seg dksX0_rounds_1 24 rfl rfl
theorem dX0_rounds_0 : decode cX0_rounds 0 = .ok (.aload_n 0, 1) := dk_42 (dk_at dksX0_rounds_0 0 rfl rfl)
theorem dX0_rounds_1 : decode cX0_rounds 1 = .ok (.iload_n 1, 1) := dk_27 (dk_at dksX0_rounds_0 1 rfl rfl)
theorem dX0_rounds_2 : decode cX0_rounds 2 = .ok (.invokevirtual 377, 3) := dk_182 1 121 (dk_at dksX0_rounds_0 2 rfl rfl)
theorem dX0_rounds_5 : decode cX0_rounds 5 = .ok (.ifCond .eq 13, 3) := dk_153 0 13 (dk_at dksX0_rounds_0 5 rfl rfl)
theorem dX0_rounds_8 : decode cX0_rounds 8 = .ok (.iload_n 2, 1) := dk_28 (dk_at dksX0_rounds_0 8 rfl rfl)
theorem dX0_rounds_9 : decode cX0_rounds 9 = .ok (.iconst 1, 1) := dk_4 (dk_at dksX0_rounds_0 9 rfl rfl)
theorem dX0_rounds_10 : decode cX0_rounds 10 = .ok (.bipush 40, 2) := dk_16 40 (dk_at dksX0_rounds_0 10 rfl rfl)
theorem dX0_rounds_12 : decode cX0_rounds 12 = .ok (.invokestatic 105, 3) := dk_184 0 105 (dk_at dksX0_rounds_0 12 rfl rfl)
theorem dX0_rounds_15 : decode cX0_rounds 15 = .ok (.ifCond .ne 6, 3) := dk_154 0 6 (dk_at dksX0_rounds_0 15 rfl rfl)
theorem dX0_rounds_18 : decode cX0_rounds 18 = .ok (.ldc 135, 2) := dk_18 135 (dk_at dksX0_rounds_0 18 rfl rfl)
theorem dX0_rounds_20 : decode cX0_rounds 20 = .ok (.ireturn, 1) := dk_172 (dk_at dksX0_rounds_0 20 rfl rfl)
theorem dX0_rounds_21 : decode cX0_rounds 21 = .ok (.iconst 0, 1) := dk_3 (dk_at dksX0_rounds_0 21 rfl rfl)
theorem dX0_rounds_22 : decode cX0_rounds 22 = .ok (.istore_n 3, 1) := dk_62 (dk_at dksX0_rounds_0 22 rfl rfl)
theorem dX0_rounds_23 : decode cX0_rounds 23 = .ok (.iconst 0, 1) := dk_3 (dk_at dksX0_rounds_0 23 rfl rfl)
theorem dX0_rounds_24 : decode cX0_rounds 24 = .ok (.istore 4, 2) := dk_54 4 (dk_at dksX0_rounds_1 0 rfl rfl)
theorem dX0_rounds_26 : decode cX0_rounds 26 = .ok (.iload 4, 2) := dk_21 4 (dk_at dksX0_rounds_1 2 rfl rfl)
theorem dX0_rounds_28 : decode cX0_rounds 28 = .ok (.iload_n 2, 1) := dk_28 (dk_at dksX0_rounds_1 4 rfl rfl)
theorem dX0_rounds_29 : decode cX0_rounds 29 = .ok (.if_icmp .ge 25, 3) := dk_162 0 25 (dk_at dksX0_rounds_1 5 rfl rfl)
theorem dX0_rounds_32 : decode cX0_rounds 32 = .ok (.iload_n 3, 1) := dk_29 (dk_at dksX0_rounds_1 8 rfl rfl)
theorem dX0_rounds_33 : decode cX0_rounds 33 = .ok (.aload_n 0, 1) := dk_42 (dk_at dksX0_rounds_1 9 rfl rfl)
theorem dX0_rounds_34 : decode cX0_rounds 34 = .ok (.aload_n 0, 1) := dk_42 (dk_at dksX0_rounds_1 10 rfl rfl)
theorem dX0_rounds_35 : decode cX0_rounds 35 = .ok (.getfield 46, 3) := dk_180 0 46 (dk_at dksX0_rounds_1 11 rfl rfl)
theorem dX0_rounds_38 : decode cX0_rounds 38 = .ok (.getfield 278, 3) := dk_180 1 22 (dk_at dksX0_rounds_1 14 rfl rfl)
theorem dX0_rounds_41 : decode cX0_rounds 41 = .ok (.iload_n 1, 1) := dk_27 (dk_at dksX0_rounds_1 17 rfl rfl)
theorem dX0_rounds_42 : decode cX0_rounds 42 = .ok (.aaload, 1) := dk_50 (dk_at dksX0_rounds_1 18 rfl rfl)
theorem dX0_rounds_43 : decode cX0_rounds 43 = .ok (.invokevirtual 412, 3) := dk_182 1 156 (dk_at dksX0_rounds_1 19 rfl rfl)
theorem dX0_rounds_46 : decode cX0_rounds 46 = .ok (.iadd, 1) := dk_96 (dk_at dksX0_rounds_1 22 rfl rfl)
theorem dX0_rounds_47 : decode cX0_rounds 47 = .ok (.istore_n 3, 1) := dk_62 (dk_at dksX0_rounds_1 23 rfl rfl)
theorem dX0_rounds_48 : decode cX0_rounds 48 = .ok (.iinc 4 1, 3) := dk_132 4 1 (dk_at dksX0_rounds_2 0 rfl rfl)
theorem dX0_rounds_51 : decode cX0_rounds 51 = .ok (.goto (-25), 3) := dk_167 255 231 (dk_at dksX0_rounds_2 3 rfl rfl)
theorem dX0_rounds_54 : decode cX0_rounds 54 = .ok (.iload_n 3, 1) := dk_29 (dk_at dksX0_rounds_2 6 rfl rfl)
theorem dX0_rounds_55 : decode cX0_rounds 55 = .ok (.ireturn, 1) := dk_172 (dk_at dksX0_rounds_2 7 rfl rfl)
abbrev cX0_round : ByteArray := prog_1_method_67_code
def yX0_round : MethodName := ⟨RX0, "round", "(LNeverSaid$Deed;)I"⟩
def dkwX0_round_3 : List UInt8 := [167, 255, 193, 28, 172]
abbrev dktX0_round_3 : List UInt8 := dkwX0_round_3 ++ []
def dkwX0_round_2 : List UInt8 := [54, 4, 21, 4, 2, 160, 0, 6, 167, 0, 13, 42, 43, 21, 4, 182, 1, 139, 132, 2, 1, 132, 3, 1]
abbrev dktX0_round_2 : List UInt8 := dkwX0_round_2 ++ dktX0_round_3
def dkwX0_round_1 : List UInt8 := [182, 1, 70, 16, 100, 112, 42, 29, 43, 182, 1, 153, 161, 0, 6, 167, 0, 30, 42, 29, 43, 182, 1, 149]
abbrev dktX0_round_1 : List UInt8 := dkwX0_round_1 ++ dktX0_round_2
def dkwX0_round_0 : List UInt8 := [42, 182, 1, 47, 3, 61, 3, 62, 29, 42, 180, 0, 46, 180, 0, 101, 162, 0, 58, 42, 180, 0, 46]
abbrev dktX0_round_0 : List UInt8 := dkwX0_round_0 ++ dktX0_round_1
theorem dksX0_round_0 : cX0_round.data.toList.drop 0 = dktX0_round_0 := by decide +kernel
theorem dksX0_round_1 : cX0_round.data.toList.drop 23 = dktX0_round_1 := dk_seg dksX0_round_0 23 rfl rfl
theorem dksX0_round_2 : cX0_round.data.toList.drop 47 = dktX0_round_2 := dk_seg dksX0_round_1 24 rfl rfl
theorem dksX0_round_3 : cX0_round.data.toList.drop 71 = dktX0_round_3 := dk_seg dksX0_round_2 24 rfl rfl
theorem dX0_round_0 : decode cX0_round 0 = .ok (.aload_n 0, 1) := dk_42 (dk_at dksX0_round_0 0 rfl rfl)
theorem dX0_round_1 : decode cX0_round 1 = .ok (.invokevirtual 303, 3) := dk_182 1 47 (dk_at dksX0_round_0 1 rfl rfl)
theorem dX0_round_4 : decode cX0_round 4 = .ok (.iconst 0, 1) := dk_3 (dk_at dksX0_round_0 4 rfl rfl)
theorem dX0_round_5 : decode cX0_round 5 = .ok (.istore_n 2, 1) := dk_61 (dk_at dksX0_round_0 5 rfl rfl)
theorem dX0_round_6 : decode cX0_round 6 = .ok (.iconst 0, 1) := dk_3 (dk_at dksX0_round_0 6 rfl rfl)
theorem dX0_round_7 : decode cX0_round 7 = .ok (.istore_n 3, 1) := dk_62 (dk_at dksX0_round_0 7 rfl rfl)
theorem dX0_round_8 : decode cX0_round 8 = .ok (.iload_n 3, 1) := dk_29 (dk_at dksX0_round_0 8 rfl rfl)
theorem dX0_round_9 : decode cX0_round 9 = .ok (.aload_n 0, 1) := dk_42 (dk_at dksX0_round_0 9 rfl rfl)
theorem dX0_round_10 : decode cX0_round 10 = .ok (.getfield 46, 3) := dk_180 0 46 (dk_at dksX0_round_0 10 rfl rfl)
theorem dX0_round_13 : decode cX0_round 13 = .ok (.getfield 101, 3) := dk_180 0 101 (dk_at dksX0_round_0 13 rfl rfl)
theorem dX0_round_16 : decode cX0_round 16 = .ok (.if_icmp .ge 58, 3) := dk_162 0 58 (dk_at dksX0_round_0 16 rfl rfl)
theorem dX0_round_19 : decode cX0_round 19 = .ok (.aload_n 0, 1) := dk_42 (dk_at dksX0_round_0 19 rfl rfl)
theorem dX0_round_20 : decode cX0_round 20 = .ok (.getfield 46, 3) := dk_180 0 46 (dk_at dksX0_round_0 20 rfl rfl)
theorem dX0_round_23 : decode cX0_round 23 = .ok (.invokevirtual 326, 3) := dk_182 1 70 (dk_at dksX0_round_1 0 rfl rfl)
theorem dX0_round_26 : decode cX0_round 26 = .ok (.bipush 100, 2) := dk_16 100 (dk_at dksX0_round_1 3 rfl rfl)
theorem dX0_round_28 : decode cX0_round 28 = .ok (.irem, 1) := dk_112 (dk_at dksX0_round_1 5 rfl rfl)
theorem dX0_round_29 : decode cX0_round 29 = .ok (.aload_n 0, 1) := dk_42 (dk_at dksX0_round_1 6 rfl rfl)
theorem dX0_round_30 : decode cX0_round 30 = .ok (.iload_n 3, 1) := dk_29 (dk_at dksX0_round_1 7 rfl rfl)
theorem dX0_round_31 : decode cX0_round 31 = .ok (.aload_n 1, 1) := dk_43 (dk_at dksX0_round_1 8 rfl rfl)
theorem dX0_round_32 : decode cX0_round 32 = .ok (.invokevirtual 409, 3) := dk_182 1 153 (dk_at dksX0_round_1 9 rfl rfl)
theorem dX0_round_35 : decode cX0_round 35 = .ok (.if_icmp .lt 6, 3) := dk_161 0 6 (dk_at dksX0_round_1 12 rfl rfl)
theorem dX0_round_38 : decode cX0_round 38 = .ok (.goto 30, 3) := dk_167 0 30 (dk_at dksX0_round_1 15 rfl rfl)
theorem dX0_round_41 : decode cX0_round 41 = .ok (.aload_n 0, 1) := dk_42 (dk_at dksX0_round_1 18 rfl rfl)
theorem dX0_round_42 : decode cX0_round 42 = .ok (.iload_n 3, 1) := dk_29 (dk_at dksX0_round_1 19 rfl rfl)
theorem dX0_round_43 : decode cX0_round 43 = .ok (.aload_n 1, 1) := dk_43 (dk_at dksX0_round_1 20 rfl rfl)
theorem dX0_round_44 : decode cX0_round 44 = .ok (.invokevirtual 405, 3) := dk_182 1 149 (dk_at dksX0_round_1 21 rfl rfl)
theorem dX0_round_47 : decode cX0_round 47 = .ok (.istore 4, 2) := dk_54 4 (dk_at dksX0_round_2 0 rfl rfl)
theorem dX0_round_49 : decode cX0_round 49 = .ok (.iload 4, 2) := dk_21 4 (dk_at dksX0_round_2 2 rfl rfl)
theorem dX0_round_51 : decode cX0_round 51 = .ok (.iconst (-1), 1) := dk_2 (dk_at dksX0_round_2 4 rfl rfl)
theorem dX0_round_52 : decode cX0_round 52 = .ok (.if_icmp .ne 6, 3) := dk_160 0 6 (dk_at dksX0_round_2 5 rfl rfl)
theorem dX0_round_55 : decode cX0_round 55 = .ok (.goto 13, 3) := dk_167 0 13 (dk_at dksX0_round_2 8 rfl rfl)
theorem dX0_round_58 : decode cX0_round 58 = .ok (.aload_n 0, 1) := dk_42 (dk_at dksX0_round_2 11 rfl rfl)
theorem dX0_round_59 : decode cX0_round 59 = .ok (.aload_n 1, 1) := dk_43 (dk_at dksX0_round_2 12 rfl rfl)
theorem dX0_round_60 : decode cX0_round 60 = .ok (.iload 4, 2) := dk_21 4 (dk_at dksX0_round_2 13 rfl rfl)
theorem dX0_round_62 : decode cX0_round 62 = .ok (.invokevirtual 395, 3) := dk_182 1 139 (dk_at dksX0_round_2 15 rfl rfl)
theorem dX0_round_65 : decode cX0_round 65 = .ok (.iinc 2 1, 3) := dk_132 2 1 (dk_at dksX0_round_2 18 rfl rfl)
theorem dX0_round_68 : decode cX0_round 68 = .ok (.iinc 3 1, 3) := dk_132 3 1 (dk_at dksX0_round_2 21 rfl rfl)
theorem dX0_round_71 : decode cX0_round 71 = .ok (.goto (-63), 3) := dk_167 255 193 (dk_at dksX0_round_3 0 rfl rfl)
theorem dX0_round_74 : decode cX0_round 74 = .ok (.iload_n 2, 1) := dk_28 (dk_at dksX0_round_3 3 rfl rfl)
theorem dX0_round_75 : decode cX0_round 75 = .ok (.ireturn, 1) := dk_172 (dk_at dksX0_round_3 4 rfl rfl)
abbrev cX0_boldOf : ByteArray := prog_1_method_66_code
def yX0_boldOf : MethodName := ⟨RX0, "boldOf", "(ILNeverSaid$Deed;)I"⟩
def dkwX0_boldOf_3 : List UInt8 := [182, 1, 113, 3, 16, 100, 184, 1, 118, 172]
abbrev dktX0_boldOf_3 : List UInt8 := dkwX0_boldOf_3 ++ []
def dkwX0_boldOf_2 : List UInt8 := [180, 0, 71, 16, 110, 44, 182, 1, 106, 79, 42, 42, 180, 0, 46, 180, 0, 245, 21, 4, 50, 180, 1, 109]
abbrev dktX0_boldOf_2 : List UInt8 := dkwX0_boldOf_2 ++ dktX0_boldOf_3
def dkwX0_boldOf_1 : List UInt8 := [160, 0, 5, 29, 172, 42, 180, 0, 71, 16, 98, 29, 79, 42, 180, 0, 71, 16, 115, 27, 79, 42]
abbrev dktX0_boldOf_1 : List UInt8 := dkwX0_boldOf_1 ++ dktX0_boldOf_2
def dkwX0_boldOf_0 : List UInt8 := [42, 180, 0, 46, 180, 1, 3, 27, 50, 180, 1, 11, 62, 42, 5, 182, 0, 252, 54, 4, 21, 4, 2]
abbrev dktX0_boldOf_0 : List UInt8 := dkwX0_boldOf_0 ++ dktX0_boldOf_1
theorem dksX0_boldOf_0 : cX0_boldOf.data.toList.drop 0 = dktX0_boldOf_0 := by decide +kernel
theorem dksX0_boldOf_1 : cX0_boldOf.data.toList.drop 23 = dktX0_boldOf_1 := dk_seg dksX0_boldOf_0 23 rfl rfl
theorem dksX0_boldOf_2 : cX0_boldOf.data.toList.drop 45 = dktX0_boldOf_2 := dk_seg dksX0_boldOf_1 22 rfl rfl
theorem dksX0_boldOf_3 : cX0_boldOf.data.toList.drop 69 = dktX0_boldOf_3 := dk_seg dksX0_boldOf_2 24 rfl rfl
theorem dX0_boldOf_0 : decode cX0_boldOf 0 = .ok (.aload_n 0, 1) := dk_42 (dk_at dksX0_boldOf_0 0 rfl rfl)
theorem dX0_boldOf_1 : decode cX0_boldOf 1 = .ok (.getfield 46, 3) := dk_180 0 46 (dk_at dksX0_boldOf_0 1 rfl rfl)
theorem dX0_boldOf_4 : decode cX0_boldOf 4 = .ok (.getfield 259, 3) := dk_180 1 3 (dk_at dksX0_boldOf_0 4 rfl rfl)
theorem dX0_boldOf_7 : decode cX0_boldOf 7 = .ok (.iload_n 1, 1) := dk_27 (dk_at dksX0_boldOf_0 7 rfl rfl)
theorem dX0_boldOf_8 : decode cX0_boldOf 8 = .ok (.aaload, 1) := dk_50 (dk_at dksX0_boldOf_0 8 rfl rfl)
theorem dX0_boldOf_9 : decode cX0_boldOf 9 = .ok (.getfield 267, 3) := dk_180 1 11 (dk_at dksX0_boldOf_0 9 rfl rfl)
theorem dX0_boldOf_12 : decode cX0_boldOf 12 = .ok (.istore_n 3, 1) := dk_62 (dk_at dksX0_boldOf_0 12 rfl rfl)
theorem dX0_boldOf_13 : decode cX0_boldOf 13 = .ok (.aload_n 0, 1) := dk_42 (dk_at dksX0_boldOf_0 13 rfl rfl)
theorem dX0_boldOf_14 : decode cX0_boldOf 14 = .ok (.iconst 2, 1) := dk_5 (dk_at dksX0_boldOf_0 14 rfl rfl)
theorem dX0_boldOf_15 : decode cX0_boldOf 15 = .ok (.invokevirtual 252, 3) := dk_182 0 252 (dk_at dksX0_boldOf_0 15 rfl rfl)
theorem dX0_boldOf_18 : decode cX0_boldOf 18 = .ok (.istore 4, 2) := dk_54 4 (dk_at dksX0_boldOf_0 18 rfl rfl)
theorem dX0_boldOf_20 : decode cX0_boldOf 20 = .ok (.iload 4, 2) := dk_21 4 (dk_at dksX0_boldOf_0 20 rfl rfl)
theorem dX0_boldOf_22 : decode cX0_boldOf 22 = .ok (.iconst (-1), 1) := dk_2 (dk_at dksX0_boldOf_0 22 rfl rfl)
theorem dX0_boldOf_23 : decode cX0_boldOf 23 = .ok (.if_icmp .ne 5, 3) := dk_160 0 5 (dk_at dksX0_boldOf_1 0 rfl rfl)
theorem dX0_boldOf_26 : decode cX0_boldOf 26 = .ok (.iload_n 3, 1) := dk_29 (dk_at dksX0_boldOf_1 3 rfl rfl)
theorem dX0_boldOf_27 : decode cX0_boldOf 27 = .ok (.ireturn, 1) := dk_172 (dk_at dksX0_boldOf_1 4 rfl rfl)
theorem dX0_boldOf_28 : decode cX0_boldOf 28 = .ok (.aload_n 0, 1) := dk_42 (dk_at dksX0_boldOf_1 5 rfl rfl)
theorem dX0_boldOf_29 : decode cX0_boldOf 29 = .ok (.getfield 71, 3) := dk_180 0 71 (dk_at dksX0_boldOf_1 6 rfl rfl)
theorem dX0_boldOf_32 : decode cX0_boldOf 32 = .ok (.bipush 98, 2) := dk_16 98 (dk_at dksX0_boldOf_1 9 rfl rfl)
theorem dX0_boldOf_34 : decode cX0_boldOf 34 = .ok (.iload_n 3, 1) := dk_29 (dk_at dksX0_boldOf_1 11 rfl rfl)
theorem dX0_boldOf_35 : decode cX0_boldOf 35 = .ok (.iastore, 1) := dk_79 (dk_at dksX0_boldOf_1 12 rfl rfl)
theorem dX0_boldOf_36 : decode cX0_boldOf 36 = .ok (.aload_n 0, 1) := dk_42 (dk_at dksX0_boldOf_1 13 rfl rfl)
theorem dX0_boldOf_37 : decode cX0_boldOf 37 = .ok (.getfield 71, 3) := dk_180 0 71 (dk_at dksX0_boldOf_1 14 rfl rfl)
theorem dX0_boldOf_40 : decode cX0_boldOf 40 = .ok (.bipush 115, 2) := dk_16 115 (dk_at dksX0_boldOf_1 17 rfl rfl)
theorem dX0_boldOf_42 : decode cX0_boldOf 42 = .ok (.iload_n 1, 1) := dk_27 (dk_at dksX0_boldOf_1 19 rfl rfl)
theorem dX0_boldOf_43 : decode cX0_boldOf 43 = .ok (.iastore, 1) := dk_79 (dk_at dksX0_boldOf_1 20 rfl rfl)
theorem dX0_boldOf_44 : decode cX0_boldOf 44 = .ok (.aload_n 0, 1) := dk_42 (dk_at dksX0_boldOf_1 21 rfl rfl)
theorem dX0_boldOf_45 : decode cX0_boldOf 45 = .ok (.getfield 71, 3) := dk_180 0 71 (dk_at dksX0_boldOf_2 0 rfl rfl)
theorem dX0_boldOf_48 : decode cX0_boldOf 48 = .ok (.bipush 110, 2) := dk_16 110 (dk_at dksX0_boldOf_2 3 rfl rfl)
theorem dX0_boldOf_50 : decode cX0_boldOf 50 = .ok (.aload_n 2, 1) := dk_44 (dk_at dksX0_boldOf_2 5 rfl rfl)
theorem dX0_boldOf_51 : decode cX0_boldOf 51 = .ok (.invokevirtual 362, 3) := dk_182 1 106 (dk_at dksX0_boldOf_2 6 rfl rfl)
theorem dX0_boldOf_54 : decode cX0_boldOf 54 = .ok (.iastore, 1) := dk_79 (dk_at dksX0_boldOf_2 9 rfl rfl)
theorem dX0_boldOf_55 : decode cX0_boldOf 55 = .ok (.aload_n 0, 1) := dk_42 (dk_at dksX0_boldOf_2 10 rfl rfl)
theorem dX0_boldOf_56 : decode cX0_boldOf 56 = .ok (.aload_n 0, 1) := dk_42 (dk_at dksX0_boldOf_2 11 rfl rfl)
theorem dX0_boldOf_57 : decode cX0_boldOf 57 = .ok (.getfield 46, 3) := dk_180 0 46 (dk_at dksX0_boldOf_2 12 rfl rfl)
theorem dX0_boldOf_60 : decode cX0_boldOf 60 = .ok (.getfield 245, 3) := dk_180 0 245 (dk_at dksX0_boldOf_2 15 rfl rfl)
theorem dX0_boldOf_63 : decode cX0_boldOf 63 = .ok (.iload 4, 2) := dk_21 4 (dk_at dksX0_boldOf_2 18 rfl rfl)
theorem dX0_boldOf_65 : decode cX0_boldOf 65 = .ok (.aaload, 1) := dk_50 (dk_at dksX0_boldOf_2 20 rfl rfl)
theorem dX0_boldOf_66 : decode cX0_boldOf 66 = .ok (.getfield 365, 3) := dk_180 1 109 (dk_at dksX0_boldOf_2 21 rfl rfl)
theorem dX0_boldOf_69 : decode cX0_boldOf 69 = .ok (.invokevirtual 369, 3) := dk_182 1 113 (dk_at dksX0_boldOf_3 0 rfl rfl)
theorem dX0_boldOf_72 : decode cX0_boldOf 72 = .ok (.iconst 0, 1) := dk_3 (dk_at dksX0_boldOf_3 3 rfl rfl)
theorem dX0_boldOf_73 : decode cX0_boldOf 73 = .ok (.bipush 100, 2) := dk_16 100 (dk_at dksX0_boldOf_3 4 rfl rfl)
theorem dX0_boldOf_75 : decode cX0_boldOf 75 = .ok (.invokestatic 374, 3) := dk_184 1 118 (dk_at dksX0_boldOf_3 6 rfl rfl)
theorem dX0_boldOf_78 : decode cX0_boldOf 78 = .ok (.ireturn, 1) := dk_172 (dk_at dksX0_boldOf_3 9 rfl rfl)
abbrev cX0_fewest : ByteArray := prog_1_method_70_code
def yX0_fewest : MethodName := ⟨RX0, "fewest", "(II)I"⟩
def dkwX0_fewest_2 : List UInt8 := [154, 0, 10, 29, 184, 1, 79, 167, 0, 4, 29, 172]
abbrev dktX0_fewest_2 : List UInt8 := dkwX0_fewest_2 ++ []
def dkwX0_fewest_1 : List UInt8 := [180, 0, 46, 180, 1, 22, 27, 50, 182, 1, 159, 62, 29, 2, 160, 0, 8, 18, 3, 167, 0, 15, 28]
abbrev dktX0_fewest_1 : List UInt8 := dkwX0_fewest_1 ++ dktX0_fewest_2
def dkwX0_fewest_0 : List UInt8 := [42, 27, 182, 1, 121, 153, 0, 12, 28, 3, 4, 184, 0, 105, 154, 0, 6, 18, 135, 172, 42, 42]
abbrev dktX0_fewest_0 : List UInt8 := dkwX0_fewest_0 ++ dktX0_fewest_1
theorem dksX0_fewest_0 : cX0_fewest.data.toList.drop 0 = dktX0_fewest_0 := by decide +kernel
theorem dksX0_fewest_1 : cX0_fewest.data.toList.drop 22 = dktX0_fewest_1 := dk_seg dksX0_fewest_0 22 rfl rfl
theorem dksX0_fewest_2 : cX0_fewest.data.toList.drop 45 = dktX0_fewest_2 := dk_seg dksX0_fewest_1 23 rfl rfl
theorem dX0_fewest_0 : decode cX0_fewest 0 = .ok (.aload_n 0, 1) := dk_42 (dk_at dksX0_fewest_0 0 rfl rfl)
theorem dX0_fewest_1 : decode cX0_fewest 1 = .ok (.iload_n 1, 1) := dk_27 (dk_at dksX0_fewest_0 1 rfl rfl)
theorem dX0_fewest_2 : decode cX0_fewest 2 = .ok (.invokevirtual 377, 3) := dk_182 1 121 (dk_at dksX0_fewest_0 2 rfl rfl)
theorem dX0_fewest_5 : decode cX0_fewest 5 = .ok (.ifCond .eq 12, 3) := dk_153 0 12 (dk_at dksX0_fewest_0 5 rfl rfl)
theorem dX0_fewest_8 : decode cX0_fewest 8 = .ok (.iload_n 2, 1) := dk_28 (dk_at dksX0_fewest_0 8 rfl rfl)
theorem dX0_fewest_9 : decode cX0_fewest 9 = .ok (.iconst 0, 1) := dk_3 (dk_at dksX0_fewest_0 9 rfl rfl)
theorem dX0_fewest_10 : decode cX0_fewest 10 = .ok (.iconst 1, 1) := dk_4 (dk_at dksX0_fewest_0 10 rfl rfl)
theorem dX0_fewest_11 : decode cX0_fewest 11 = .ok (.invokestatic 105, 3) := dk_184 0 105 (dk_at dksX0_fewest_0 11 rfl rfl)
theorem dX0_fewest_14 : decode cX0_fewest 14 = .ok (.ifCond .ne 6, 3) := dk_154 0 6 (dk_at dksX0_fewest_0 14 rfl rfl)
theorem dX0_fewest_17 : decode cX0_fewest 17 = .ok (.ldc 135, 2) := dk_18 135 (dk_at dksX0_fewest_0 17 rfl rfl)
theorem dX0_fewest_19 : decode cX0_fewest 19 = .ok (.ireturn, 1) := dk_172 (dk_at dksX0_fewest_0 19 rfl rfl)
theorem dX0_fewest_20 : decode cX0_fewest 20 = .ok (.aload_n 0, 1) := dk_42 (dk_at dksX0_fewest_0 20 rfl rfl)
theorem dX0_fewest_21 : decode cX0_fewest 21 = .ok (.aload_n 0, 1) := dk_42 (dk_at dksX0_fewest_0 21 rfl rfl)
theorem dX0_fewest_22 : decode cX0_fewest 22 = .ok (.getfield 46, 3) := dk_180 0 46 (dk_at dksX0_fewest_1 0 rfl rfl)
theorem dX0_fewest_25 : decode cX0_fewest 25 = .ok (.getfield 278, 3) := dk_180 1 22 (dk_at dksX0_fewest_1 3 rfl rfl)
theorem dX0_fewest_28 : decode cX0_fewest 28 = .ok (.iload_n 1, 1) := dk_27 (dk_at dksX0_fewest_1 6 rfl rfl)
theorem dX0_fewest_29 : decode cX0_fewest 29 = .ok (.aaload, 1) := dk_50 (dk_at dksX0_fewest_1 7 rfl rfl)
theorem dX0_fewest_30 : decode cX0_fewest 30 = .ok (.invokevirtual 415, 3) := dk_182 1 159 (dk_at dksX0_fewest_1 8 rfl rfl)
theorem dX0_fewest_33 : decode cX0_fewest 33 = .ok (.istore_n 3, 1) := dk_62 (dk_at dksX0_fewest_1 11 rfl rfl)
theorem dX0_fewest_34 : decode cX0_fewest 34 = .ok (.iload_n 3, 1) := dk_29 (dk_at dksX0_fewest_1 12 rfl rfl)
theorem dX0_fewest_35 : decode cX0_fewest 35 = .ok (.iconst (-1), 1) := dk_2 (dk_at dksX0_fewest_1 13 rfl rfl)
theorem dX0_fewest_36 : decode cX0_fewest 36 = .ok (.if_icmp .ne 8, 3) := dk_160 0 8 (dk_at dksX0_fewest_1 14 rfl rfl)
theorem dX0_fewest_39 : decode cX0_fewest 39 = .ok (.ldc 3, 2) := dk_18 3 (dk_at dksX0_fewest_1 17 rfl rfl)
theorem dX0_fewest_41 : decode cX0_fewest 41 = .ok (.goto 15, 3) := dk_167 0 15 (dk_at dksX0_fewest_1 19 rfl rfl)
theorem dX0_fewest_44 : decode cX0_fewest 44 = .ok (.iload_n 2, 1) := dk_28 (dk_at dksX0_fewest_1 22 rfl rfl)
theorem dX0_fewest_45 : decode cX0_fewest 45 = .ok (.ifCond .ne 10, 3) := dk_154 0 10 (dk_at dksX0_fewest_2 0 rfl rfl)
theorem dX0_fewest_48 : decode cX0_fewest 48 = .ok (.iload_n 3, 1) := dk_29 (dk_at dksX0_fewest_2 3 rfl rfl)
theorem dX0_fewest_49 : decode cX0_fewest 49 = .ok (.invokestatic 335, 3) := dk_184 1 79 (dk_at dksX0_fewest_2 4 rfl rfl)
theorem dX0_fewest_52 : decode cX0_fewest 52 = .ok (.goto 4, 3) := dk_167 0 4 (dk_at dksX0_fewest_2 7 rfl rfl)
theorem dX0_fewest_55 : decode cX0_fewest 55 = .ok (.iload_n 3, 1) := dk_29 (dk_at dksX0_fewest_2 10 rfl rfl)
theorem dX0_fewest_56 : decode cX0_fewest 56 = .ok (.ireturn, 1) := dk_172 (dk_at dksX0_fewest_2 11 rfl rfl)
abbrev cX0_fewestOf : ByteArray := prog_1_method_69_code
def yX0_fewestOf : MethodName := ⟨RX0, "fewestOf", "(LNeverSaid$Deed;)I"⟩
def dkwX0_fewestOf_6 : List UInt8 := [167, 255, 142, 29, 172]
abbrev dktX0_fewestOf_6 : List UInt8 := dkwX0_fewestOf_6 ++ []
def dkwX0_fewestOf_5 : List UInt8 := [132, 6, 1, 167, 255, 203, 21, 5, 28, 160, 0, 8, 21, 4, 167, 0, 4, 29, 62, 132, 4, 1]
abbrev dktX0_fewestOf_5 : List UInt8 := dkwX0_fewestOf_5 ++ dktX0_fewestOf_6
def dkwX0_fewestOf_4 : List UInt8 := [182, 1, 131, 167, 0, 4, 3, 128, 54, 5, 21, 5, 43, 180, 1, 84, 126, 153, 0, 6, 167, 0, 22]
abbrev dktX0_fewestOf_4 : List UInt8 := dkwX0_fewestOf_4 ++ dktX0_fewestOf_5
def dkwX0_fewestOf_3 : List UInt8 := [180, 0, 46, 180, 0, 101, 162, 0, 47, 21, 5, 21, 4, 21, 6, 184, 1, 37, 153, 0, 12, 42, 21, 6]
abbrev dktX0_fewestOf_3 : List UInt8 := dkwX0_fewestOf_3 ++ dktX0_fewestOf_4
def dkwX0_fewestOf_2 : List UInt8 := [184, 1, 79, 29, 184, 1, 79, 161, 0, 6, 167, 0, 78, 3, 54, 5, 3, 54, 6, 21, 6, 42]
abbrev dktX0_fewestOf_2 : List UInt8 := dkwX0_fewestOf_2 ++ dktX0_fewestOf_3
def dkwX0_fewestOf_1 : List UInt8 := [21, 4, 28, 163, 0, 114, 21, 4, 43, 180, 1, 84, 126, 154, 0, 98, 29, 2, 159, 0, 18, 21, 4]
abbrev dktX0_fewestOf_1 : List UInt8 := dkwX0_fewestOf_1 ++ dktX0_fewestOf_2
def dkwX0_fewestOf_0 : List UInt8 := [42, 182, 1, 47, 42, 180, 0, 46, 182, 1, 97, 43, 180, 1, 84, 2, 130, 126, 61, 2, 62, 3, 54, 4]
abbrev dktX0_fewestOf_0 : List UInt8 := dkwX0_fewestOf_0 ++ dktX0_fewestOf_1
theorem dksX0_fewestOf_0 : cX0_fewestOf.data.toList.drop 0 = dktX0_fewestOf_0 := by decide +kernel
theorem dksX0_fewestOf_1 : cX0_fewestOf.data.toList.drop 24 = dktX0_fewestOf_1 := dk_seg dksX0_fewestOf_0 24 rfl rfl
theorem dksX0_fewestOf_2 : cX0_fewestOf.data.toList.drop 47 = dktX0_fewestOf_2 := dk_seg dksX0_fewestOf_1 23 rfl rfl
theorem dksX0_fewestOf_3 : cX0_fewestOf.data.toList.drop 69 = dktX0_fewestOf_3 := dk_seg dksX0_fewestOf_2 22 rfl rfl
theorem dksX0_fewestOf_4 : cX0_fewestOf.data.toList.drop 93 = dktX0_fewestOf_4 := dk_seg dksX0_fewestOf_3 24 rfl rfl
theorem dksX0_fewestOf_5 : cX0_fewestOf.data.toList.drop 116 = dktX0_fewestOf_5 := dk_seg dksX0_fewestOf_4 23 rfl rfl
theorem dksX0_fewestOf_6 : cX0_fewestOf.data.toList.drop 138 = dktX0_fewestOf_6 := dk_seg dksX0_fewestOf_5 22 rfl rfl
theorem dX0_fewestOf_0 : decode cX0_fewestOf 0 = .ok (.aload_n 0, 1) := dk_42 (dk_at dksX0_fewestOf_0 0 rfl rfl)
theorem dX0_fewestOf_1 : decode cX0_fewestOf 1 = .ok (.invokevirtual 303, 3) := dk_182 1 47 (dk_at dksX0_fewestOf_0 1 rfl rfl)
theorem dX0_fewestOf_4 : decode cX0_fewestOf 4 = .ok (.aload_n 0, 1) := dk_42 (dk_at dksX0_fewestOf_0 4 rfl rfl)
theorem dX0_fewestOf_5 : decode cX0_fewestOf 5 = .ok (.getfield 46, 3) := dk_180 0 46 (dk_at dksX0_fewestOf_0 5 rfl rfl)
theorem dX0_fewestOf_8 : decode cX0_fewestOf 8 = .ok (.invokevirtual 353, 3) := dk_182 1 97 (dk_at dksX0_fewestOf_0 8 rfl rfl)
theorem dX0_fewestOf_11 : decode cX0_fewestOf 11 = .ok (.aload_n 1, 1) := dk_43 (dk_at dksX0_fewestOf_0 11 rfl rfl)
theorem dX0_fewestOf_12 : decode cX0_fewestOf 12 = .ok (.getfield 340, 3) := dk_180 1 84 (dk_at dksX0_fewestOf_0 12 rfl rfl)
theorem dX0_fewestOf_15 : decode cX0_fewestOf 15 = .ok (.iconst (-1), 1) := dk_2 (dk_at dksX0_fewestOf_0 15 rfl rfl)
theorem dX0_fewestOf_16 : decode cX0_fewestOf 16 = .ok (.ixor, 1) := dk_130 (dk_at dksX0_fewestOf_0 16 rfl rfl)
theorem dX0_fewestOf_17 : decode cX0_fewestOf 17 = .ok (.iand, 1) := dk_126 (dk_at dksX0_fewestOf_0 17 rfl rfl)
theorem dX0_fewestOf_18 : decode cX0_fewestOf 18 = .ok (.istore_n 2, 1) := dk_61 (dk_at dksX0_fewestOf_0 18 rfl rfl)
theorem dX0_fewestOf_19 : decode cX0_fewestOf 19 = .ok (.iconst (-1), 1) := dk_2 (dk_at dksX0_fewestOf_0 19 rfl rfl)
theorem dX0_fewestOf_20 : decode cX0_fewestOf 20 = .ok (.istore_n 3, 1) := dk_62 (dk_at dksX0_fewestOf_0 20 rfl rfl)
theorem dX0_fewestOf_21 : decode cX0_fewestOf 21 = .ok (.iconst 0, 1) := dk_3 (dk_at dksX0_fewestOf_0 21 rfl rfl)
theorem dX0_fewestOf_22 : decode cX0_fewestOf 22 = .ok (.istore 4, 2) := dk_54 4 (dk_at dksX0_fewestOf_0 22 rfl rfl)
theorem dX0_fewestOf_24 : decode cX0_fewestOf 24 = .ok (.iload 4, 2) := dk_21 4 (dk_at dksX0_fewestOf_1 0 rfl rfl)
theorem dX0_fewestOf_26 : decode cX0_fewestOf 26 = .ok (.iload_n 2, 1) := dk_28 (dk_at dksX0_fewestOf_1 2 rfl rfl)
theorem dX0_fewestOf_27 : decode cX0_fewestOf 27 = .ok (.if_icmp .gt 114, 3) := dk_163 0 114 (dk_at dksX0_fewestOf_1 3 rfl rfl)
theorem dX0_fewestOf_30 : decode cX0_fewestOf 30 = .ok (.iload 4, 2) := dk_21 4 (dk_at dksX0_fewestOf_1 6 rfl rfl)
theorem dX0_fewestOf_32 : decode cX0_fewestOf 32 = .ok (.aload_n 1, 1) := dk_43 (dk_at dksX0_fewestOf_1 8 rfl rfl)
theorem dX0_fewestOf_33 : decode cX0_fewestOf 33 = .ok (.getfield 340, 3) := dk_180 1 84 (dk_at dksX0_fewestOf_1 9 rfl rfl)
theorem dX0_fewestOf_36 : decode cX0_fewestOf 36 = .ok (.iand, 1) := dk_126 (dk_at dksX0_fewestOf_1 12 rfl rfl)
theorem dX0_fewestOf_37 : decode cX0_fewestOf 37 = .ok (.ifCond .ne 98, 3) := dk_154 0 98 (dk_at dksX0_fewestOf_1 13 rfl rfl)
theorem dX0_fewestOf_40 : decode cX0_fewestOf 40 = .ok (.iload_n 3, 1) := dk_29 (dk_at dksX0_fewestOf_1 16 rfl rfl)
theorem dX0_fewestOf_41 : decode cX0_fewestOf 41 = .ok (.iconst (-1), 1) := dk_2 (dk_at dksX0_fewestOf_1 17 rfl rfl)
theorem dX0_fewestOf_42 : decode cX0_fewestOf 42 = .ok (.if_icmp .eq 18, 3) := dk_159 0 18 (dk_at dksX0_fewestOf_1 18 rfl rfl)
theorem dX0_fewestOf_45 : decode cX0_fewestOf 45 = .ok (.iload 4, 2) := dk_21 4 (dk_at dksX0_fewestOf_1 21 rfl rfl)
theorem dX0_fewestOf_47 : decode cX0_fewestOf 47 = .ok (.invokestatic 335, 3) := dk_184 1 79 (dk_at dksX0_fewestOf_2 0 rfl rfl)
theorem dX0_fewestOf_50 : decode cX0_fewestOf 50 = .ok (.iload_n 3, 1) := dk_29 (dk_at dksX0_fewestOf_2 3 rfl rfl)
theorem dX0_fewestOf_51 : decode cX0_fewestOf 51 = .ok (.invokestatic 335, 3) := dk_184 1 79 (dk_at dksX0_fewestOf_2 4 rfl rfl)
theorem dX0_fewestOf_54 : decode cX0_fewestOf 54 = .ok (.if_icmp .lt 6, 3) := dk_161 0 6 (dk_at dksX0_fewestOf_2 7 rfl rfl)
theorem dX0_fewestOf_57 : decode cX0_fewestOf 57 = .ok (.goto 78, 3) := dk_167 0 78 (dk_at dksX0_fewestOf_2 10 rfl rfl)
theorem dX0_fewestOf_60 : decode cX0_fewestOf 60 = .ok (.iconst 0, 1) := dk_3 (dk_at dksX0_fewestOf_2 13 rfl rfl)
theorem dX0_fewestOf_61 : decode cX0_fewestOf 61 = .ok (.istore 5, 2) := dk_54 5 (dk_at dksX0_fewestOf_2 14 rfl rfl)
theorem dX0_fewestOf_63 : decode cX0_fewestOf 63 = .ok (.iconst 0, 1) := dk_3 (dk_at dksX0_fewestOf_2 16 rfl rfl)
theorem dX0_fewestOf_64 : decode cX0_fewestOf 64 = .ok (.istore 6, 2) := dk_54 6 (dk_at dksX0_fewestOf_2 17 rfl rfl)
theorem dX0_fewestOf_66 : decode cX0_fewestOf 66 = .ok (.iload 6, 2) := dk_21 6 (dk_at dksX0_fewestOf_2 19 rfl rfl)
theorem dX0_fewestOf_68 : decode cX0_fewestOf 68 = .ok (.aload_n 0, 1) := dk_42 (dk_at dksX0_fewestOf_2 21 rfl rfl)
theorem dX0_fewestOf_69 : decode cX0_fewestOf 69 = .ok (.getfield 46, 3) := dk_180 0 46 (dk_at dksX0_fewestOf_3 0 rfl rfl)
theorem dX0_fewestOf_72 : decode cX0_fewestOf 72 = .ok (.getfield 101, 3) := dk_180 0 101 (dk_at dksX0_fewestOf_3 3 rfl rfl)
theorem dX0_fewestOf_75 : decode cX0_fewestOf 75 = .ok (.if_icmp .ge 47, 3) := dk_162 0 47 (dk_at dksX0_fewestOf_3 6 rfl rfl)
theorem dX0_fewestOf_78 : decode cX0_fewestOf 78 = .ok (.iload 5, 2) := dk_21 5 (dk_at dksX0_fewestOf_3 9 rfl rfl)
theorem dX0_fewestOf_80 : decode cX0_fewestOf 80 = .ok (.iload 4, 2) := dk_21 4 (dk_at dksX0_fewestOf_3 11 rfl rfl)
theorem dX0_fewestOf_82 : decode cX0_fewestOf 82 = .ok (.iload 6, 2) := dk_21 6 (dk_at dksX0_fewestOf_3 13 rfl rfl)
theorem dX0_fewestOf_84 : decode cX0_fewestOf 84 = .ok (.invokestatic 293, 3) := dk_184 1 37 (dk_at dksX0_fewestOf_3 15 rfl rfl)
theorem dX0_fewestOf_87 : decode cX0_fewestOf 87 = .ok (.ifCond .eq 12, 3) := dk_153 0 12 (dk_at dksX0_fewestOf_3 18 rfl rfl)
theorem dX0_fewestOf_90 : decode cX0_fewestOf 90 = .ok (.aload_n 0, 1) := dk_42 (dk_at dksX0_fewestOf_3 21 rfl rfl)
theorem dX0_fewestOf_91 : decode cX0_fewestOf 91 = .ok (.iload 6, 2) := dk_21 6 (dk_at dksX0_fewestOf_3 22 rfl rfl)
theorem dX0_fewestOf_93 : decode cX0_fewestOf 93 = .ok (.invokevirtual 387, 3) := dk_182 1 131 (dk_at dksX0_fewestOf_4 0 rfl rfl)
theorem dX0_fewestOf_96 : decode cX0_fewestOf 96 = .ok (.goto 4, 3) := dk_167 0 4 (dk_at dksX0_fewestOf_4 3 rfl rfl)
theorem dX0_fewestOf_99 : decode cX0_fewestOf 99 = .ok (.iconst 0, 1) := dk_3 (dk_at dksX0_fewestOf_4 6 rfl rfl)
theorem dX0_fewestOf_100 : decode cX0_fewestOf 100 = .ok (.ior, 1) := dk_128 (dk_at dksX0_fewestOf_4 7 rfl rfl)
theorem dX0_fewestOf_101 : decode cX0_fewestOf 101 = .ok (.istore 5, 2) := dk_54 5 (dk_at dksX0_fewestOf_4 8 rfl rfl)
theorem dX0_fewestOf_103 : decode cX0_fewestOf 103 = .ok (.iload 5, 2) := dk_21 5 (dk_at dksX0_fewestOf_4 10 rfl rfl)
theorem dX0_fewestOf_105 : decode cX0_fewestOf 105 = .ok (.aload_n 1, 1) := dk_43 (dk_at dksX0_fewestOf_4 12 rfl rfl)
theorem dX0_fewestOf_106 : decode cX0_fewestOf 106 = .ok (.getfield 340, 3) := dk_180 1 84 (dk_at dksX0_fewestOf_4 13 rfl rfl)
theorem dX0_fewestOf_109 : decode cX0_fewestOf 109 = .ok (.iand, 1) := dk_126 (dk_at dksX0_fewestOf_4 16 rfl rfl)
theorem dX0_fewestOf_110 : decode cX0_fewestOf 110 = .ok (.ifCond .eq 6, 3) := dk_153 0 6 (dk_at dksX0_fewestOf_4 17 rfl rfl)
theorem dX0_fewestOf_113 : decode cX0_fewestOf 113 = .ok (.goto 22, 3) := dk_167 0 22 (dk_at dksX0_fewestOf_4 20 rfl rfl)
theorem dX0_fewestOf_116 : decode cX0_fewestOf 116 = .ok (.iinc 6 1, 3) := dk_132 6 1 (dk_at dksX0_fewestOf_5 0 rfl rfl)
theorem dX0_fewestOf_119 : decode cX0_fewestOf 119 = .ok (.goto (-53), 3) := dk_167 255 203 (dk_at dksX0_fewestOf_5 3 rfl rfl)
theorem dX0_fewestOf_122 : decode cX0_fewestOf 122 = .ok (.iload 5, 2) := dk_21 5 (dk_at dksX0_fewestOf_5 6 rfl rfl)
theorem dX0_fewestOf_124 : decode cX0_fewestOf 124 = .ok (.iload_n 2, 1) := dk_28 (dk_at dksX0_fewestOf_5 8 rfl rfl)
theorem dX0_fewestOf_125 : decode cX0_fewestOf 125 = .ok (.if_icmp .ne 8, 3) := dk_160 0 8 (dk_at dksX0_fewestOf_5 9 rfl rfl)
theorem dX0_fewestOf_128 : decode cX0_fewestOf 128 = .ok (.iload 4, 2) := dk_21 4 (dk_at dksX0_fewestOf_5 12 rfl rfl)
theorem dX0_fewestOf_130 : decode cX0_fewestOf 130 = .ok (.goto 4, 3) := dk_167 0 4 (dk_at dksX0_fewestOf_5 14 rfl rfl)
theorem dX0_fewestOf_133 : decode cX0_fewestOf 133 = .ok (.iload_n 3, 1) := dk_29 (dk_at dksX0_fewestOf_5 17 rfl rfl)
theorem dX0_fewestOf_134 : decode cX0_fewestOf 134 = .ok (.istore_n 3, 1) := dk_62 (dk_at dksX0_fewestOf_5 18 rfl rfl)
theorem dX0_fewestOf_135 : decode cX0_fewestOf 135 = .ok (.iinc 4 1, 3) := dk_132 4 1 (dk_at dksX0_fewestOf_5 19 rfl rfl)
theorem dX0_fewestOf_138 : decode cX0_fewestOf 138 = .ok (.goto (-114), 3) := dk_167 255 142 (dk_at dksX0_fewestOf_6 0 rfl rfl)
theorem dX0_fewestOf_141 : decode cX0_fewestOf 141 = .ok (.iload_n 3, 1) := dk_29 (dk_at dksX0_fewestOf_6 3 rfl rfl)
theorem dX0_fewestOf_142 : decode cX0_fewestOf 142 = .ok (.ireturn, 1) := dk_172 (dk_at dksX0_fewestOf_6 4 rfl rfl)
abbrev cX0_silent : ByteArray := prog_1_method_71_code
def yX0_silent : MethodName := ⟨RX0, "silent", "()I"⟩
def dkwX0_silent_1 : List UInt8 := [180, 0, 46, 180, 1, 22, 28, 50, 180, 1, 26, 126, 60, 132, 2, 1, 167, 255, 227, 27, 172]
abbrev dktX0_silent_1 : List UInt8 := dkwX0_silent_1 ++ []
def dkwX0_silent_0 : List UInt8 := [42, 180, 0, 46, 182, 1, 97, 60, 3, 61, 28, 42, 180, 0, 46, 180, 0, 109, 162, 0, 24, 27, 42]
abbrev dktX0_silent_0 : List UInt8 := dkwX0_silent_0 ++ dktX0_silent_1
theorem dksX0_silent_0 : cX0_silent.data.toList.drop 0 = dktX0_silent_0 := by decide +kernel
theorem dksX0_silent_1 : cX0_silent.data.toList.drop 23 = dktX0_silent_1 := dk_seg dksX0_silent_0 23 rfl rfl
theorem dX0_silent_0 : decode cX0_silent 0 = .ok (.aload_n 0, 1) := dk_42 (dk_at dksX0_silent_0 0 rfl rfl)
theorem dX0_silent_1 : decode cX0_silent 1 = .ok (.getfield 46, 3) := dk_180 0 46 (dk_at dksX0_silent_0 1 rfl rfl)
theorem dX0_silent_4 : decode cX0_silent 4 = .ok (.invokevirtual 353, 3) := dk_182 1 97 (dk_at dksX0_silent_0 4 rfl rfl)
theorem dX0_silent_7 : decode cX0_silent 7 = .ok (.istore_n 1, 1) := dk_60 (dk_at dksX0_silent_0 7 rfl rfl)
theorem dX0_silent_8 : decode cX0_silent 8 = .ok (.iconst 0, 1) := dk_3 (dk_at dksX0_silent_0 8 rfl rfl)
theorem dX0_silent_9 : decode cX0_silent 9 = .ok (.istore_n 2, 1) := dk_61 (dk_at dksX0_silent_0 9 rfl rfl)
theorem dX0_silent_10 : decode cX0_silent 10 = .ok (.iload_n 2, 1) := dk_28 (dk_at dksX0_silent_0 10 rfl rfl)
theorem dX0_silent_11 : decode cX0_silent 11 = .ok (.aload_n 0, 1) := dk_42 (dk_at dksX0_silent_0 11 rfl rfl)
theorem dX0_silent_12 : decode cX0_silent 12 = .ok (.getfield 46, 3) := dk_180 0 46 (dk_at dksX0_silent_0 12 rfl rfl)
theorem dX0_silent_15 : decode cX0_silent 15 = .ok (.getfield 109, 3) := dk_180 0 109 (dk_at dksX0_silent_0 15 rfl rfl)
theorem dX0_silent_18 : decode cX0_silent 18 = .ok (.if_icmp .ge 24, 3) := dk_162 0 24 (dk_at dksX0_silent_0 18 rfl rfl)
theorem dX0_silent_21 : decode cX0_silent 21 = .ok (.iload_n 1, 1) := dk_27 (dk_at dksX0_silent_0 21 rfl rfl)
theorem dX0_silent_22 : decode cX0_silent 22 = .ok (.aload_n 0, 1) := dk_42 (dk_at dksX0_silent_0 22 rfl rfl)
theorem dX0_silent_23 : decode cX0_silent 23 = .ok (.getfield 46, 3) := dk_180 0 46 (dk_at dksX0_silent_1 0 rfl rfl)
theorem dX0_silent_26 : decode cX0_silent 26 = .ok (.getfield 278, 3) := dk_180 1 22 (dk_at dksX0_silent_1 3 rfl rfl)
theorem dX0_silent_29 : decode cX0_silent 29 = .ok (.iload_n 2, 1) := dk_28 (dk_at dksX0_silent_1 6 rfl rfl)
theorem dX0_silent_30 : decode cX0_silent 30 = .ok (.aaload, 1) := dk_50 (dk_at dksX0_silent_1 7 rfl rfl)
theorem dX0_silent_31 : decode cX0_silent 31 = .ok (.getfield 282, 3) := dk_180 1 26 (dk_at dksX0_silent_1 8 rfl rfl)
theorem dX0_silent_34 : decode cX0_silent 34 = .ok (.iand, 1) := dk_126 (dk_at dksX0_silent_1 11 rfl rfl)
theorem dX0_silent_35 : decode cX0_silent 35 = .ok (.istore_n 1, 1) := dk_60 (dk_at dksX0_silent_1 12 rfl rfl)
theorem dX0_silent_36 : decode cX0_silent 36 = .ok (.iinc 2 1, 3) := dk_132 2 1 (dk_at dksX0_silent_1 13 rfl rfl)
theorem dX0_silent_39 : decode cX0_silent 39 = .ok (.goto (-29), 3) := dk_167 255 227 (dk_at dksX0_silent_1 16 rfl rfl)
theorem dX0_silent_42 : decode cX0_silent 42 = .ok (.iload_n 1, 1) := dk_27 (dk_at dksX0_silent_1 19 rfl rfl)
theorem dX0_silent_43 : decode cX0_silent 43 = .ok (.ireturn, 1) := dk_172 (dk_at dksX0_silent_1 20 rfl rfl)
abbrev cX0_meant : ByteArray := prog_1_method_72_code
def yX0_meant : MethodName := ⟨RX0, "meant", "(I)I"⟩
def dkwX0_meant_2 : List UInt8 := [29, 4, 100, 126, 172]
abbrev dktX0_meant_2 : List UInt8 := dkwX0_meant_2 ++ []
def dkwX0_meant_1 : List UInt8 := [42, 180, 0, 46, 182, 1, 97, 28, 2, 130, 126, 184, 1, 162, 62, 29, 154, 0, 7, 3, 167, 0, 8, 28]
abbrev dktX0_meant_1 : List UInt8 := dkwX0_meant_1 ++ dktX0_meant_2
def dkwX0_meant_0 : List UInt8 := [42, 27, 182, 1, 121, 154, 0, 6, 18, 135, 172, 42, 180, 0, 46, 180, 1, 22, 27, 50, 180, 1, 26, 61]
abbrev dktX0_meant_0 : List UInt8 := dkwX0_meant_0 ++ dktX0_meant_1
theorem dksX0_meant_0 : cX0_meant.data.toList.drop 0 = dktX0_meant_0 := by decide +kernel
theorem dksX0_meant_1 : cX0_meant.data.toList.drop 24 = dktX0_meant_1 := dk_seg dksX0_meant_0 24 rfl rfl
theorem dksX0_meant_2 : cX0_meant.data.toList.drop 48 = dktX0_meant_2 := dk_seg dksX0_meant_1 24 rfl rfl
theorem dX0_meant_0 : decode cX0_meant 0 = .ok (.aload_n 0, 1) := dk_42 (dk_at dksX0_meant_0 0 rfl rfl)
theorem dX0_meant_1 : decode cX0_meant 1 = .ok (.iload_n 1, 1) := dk_27 (dk_at dksX0_meant_0 1 rfl rfl)
theorem dX0_meant_2 : decode cX0_meant 2 = .ok (.invokevirtual 377, 3) := dk_182 1 121 (dk_at dksX0_meant_0 2 rfl rfl)
theorem dX0_meant_5 : decode cX0_meant 5 = .ok (.ifCond .ne 6, 3) := dk_154 0 6 (dk_at dksX0_meant_0 5 rfl rfl)
theorem dX0_meant_8 : decode cX0_meant 8 = .ok (.ldc 135, 2) := dk_18 135 (dk_at dksX0_meant_0 8 rfl rfl)
theorem dX0_meant_10 : decode cX0_meant 10 = .ok (.ireturn, 1) := dk_172 (dk_at dksX0_meant_0 10 rfl rfl)
theorem dX0_meant_11 : decode cX0_meant 11 = .ok (.aload_n 0, 1) := dk_42 (dk_at dksX0_meant_0 11 rfl rfl)
theorem dX0_meant_12 : decode cX0_meant 12 = .ok (.getfield 46, 3) := dk_180 0 46 (dk_at dksX0_meant_0 12 rfl rfl)
theorem dX0_meant_15 : decode cX0_meant 15 = .ok (.getfield 278, 3) := dk_180 1 22 (dk_at dksX0_meant_0 15 rfl rfl)
theorem dX0_meant_18 : decode cX0_meant 18 = .ok (.iload_n 1, 1) := dk_27 (dk_at dksX0_meant_0 18 rfl rfl)
theorem dX0_meant_19 : decode cX0_meant 19 = .ok (.aaload, 1) := dk_50 (dk_at dksX0_meant_0 19 rfl rfl)
theorem dX0_meant_20 : decode cX0_meant 20 = .ok (.getfield 282, 3) := dk_180 1 26 (dk_at dksX0_meant_0 20 rfl rfl)
theorem dX0_meant_23 : decode cX0_meant 23 = .ok (.istore_n 2, 1) := dk_61 (dk_at dksX0_meant_0 23 rfl rfl)
theorem dX0_meant_24 : decode cX0_meant 24 = .ok (.aload_n 0, 1) := dk_42 (dk_at dksX0_meant_1 0 rfl rfl)
theorem dX0_meant_25 : decode cX0_meant 25 = .ok (.getfield 46, 3) := dk_180 0 46 (dk_at dksX0_meant_1 1 rfl rfl)
theorem dX0_meant_28 : decode cX0_meant 28 = .ok (.invokevirtual 353, 3) := dk_182 1 97 (dk_at dksX0_meant_1 4 rfl rfl)
theorem dX0_meant_31 : decode cX0_meant 31 = .ok (.iload_n 2, 1) := dk_28 (dk_at dksX0_meant_1 7 rfl rfl)
theorem dX0_meant_32 : decode cX0_meant 32 = .ok (.iconst (-1), 1) := dk_2 (dk_at dksX0_meant_1 8 rfl rfl)
theorem dX0_meant_33 : decode cX0_meant 33 = .ok (.ixor, 1) := dk_130 (dk_at dksX0_meant_1 9 rfl rfl)
theorem dX0_meant_34 : decode cX0_meant 34 = .ok (.iand, 1) := dk_126 (dk_at dksX0_meant_1 10 rfl rfl)
theorem dX0_meant_35 : decode cX0_meant 35 = .ok (.invokestatic 418, 3) := dk_184 1 162 (dk_at dksX0_meant_1 11 rfl rfl)
theorem dX0_meant_38 : decode cX0_meant 38 = .ok (.istore_n 3, 1) := dk_62 (dk_at dksX0_meant_1 14 rfl rfl)
theorem dX0_meant_39 : decode cX0_meant 39 = .ok (.iload_n 3, 1) := dk_29 (dk_at dksX0_meant_1 15 rfl rfl)
theorem dX0_meant_40 : decode cX0_meant 40 = .ok (.ifCond .ne 7, 3) := dk_154 0 7 (dk_at dksX0_meant_1 16 rfl rfl)
theorem dX0_meant_43 : decode cX0_meant 43 = .ok (.iconst 0, 1) := dk_3 (dk_at dksX0_meant_1 19 rfl rfl)
theorem dX0_meant_44 : decode cX0_meant 44 = .ok (.goto 8, 3) := dk_167 0 8 (dk_at dksX0_meant_1 20 rfl rfl)
theorem dX0_meant_47 : decode cX0_meant 47 = .ok (.iload_n 2, 1) := dk_28 (dk_at dksX0_meant_1 23 rfl rfl)
theorem dX0_meant_48 : decode cX0_meant 48 = .ok (.iload_n 3, 1) := dk_29 (dk_at dksX0_meant_2 0 rfl rfl)
theorem dX0_meant_49 : decode cX0_meant 49 = .ok (.iconst 1, 1) := dk_4 (dk_at dksX0_meant_2 1 rfl rfl)
theorem dX0_meant_50 : decode cX0_meant 50 = .ok (.isub, 1) := dk_100 (dk_at dksX0_meant_2 2 rfl rfl)
theorem dX0_meant_51 : decode cX0_meant 51 = .ok (.iand, 1) := dk_126 (dk_at dksX0_meant_2 3 rfl rfl)
theorem dX0_meant_52 : decode cX0_meant 52 = .ok (.ireturn, 1) := dk_172 (dk_at dksX0_meant_2 4 rfl rfl)
abbrev cX0_proved : ByteArray := prog_1_method_73_code
def yX0_proved : MethodName := ⟨RX0, "proved", "(I)I"⟩
def dkwX0_proved_3 : List UInt8 := [182, 1, 131, 2, 130, 167, 0, 4, 2, 126, 62, 132, 4, 1, 167, 255, 206, 29, 172]
abbrev dktX0_proved_3 : List UInt8 := dkwX0_proved_3 ++ []
def dkwX0_proved_2 : List UInt8 := [180, 0, 46, 180, 1, 13, 21, 4, 46, 44, 180, 1, 87, 184, 1, 37, 153, 0, 14, 42, 21, 4]
abbrev dktX0_proved_2 : List UInt8 := dkwX0_proved_2 ++ dktX0_proved_3
def dkwX0_proved_1 : List UInt8 := [77, 44, 180, 1, 26, 62, 3, 54, 4, 21, 4, 42, 180, 0, 46, 180, 0, 101, 162, 0, 44, 29, 42]
abbrev dktX0_proved_1 : List UInt8 := dkwX0_proved_1 ++ dktX0_proved_2
def dkwX0_proved_0 : List UInt8 := [42, 27, 182, 1, 121, 154, 0, 6, 18, 135, 172, 42, 182, 1, 47, 42, 180, 0, 46, 180, 1, 22, 27, 50]
abbrev dktX0_proved_0 : List UInt8 := dkwX0_proved_0 ++ dktX0_proved_1
theorem dksX0_proved_0 : cX0_proved.data.toList.drop 0 = dktX0_proved_0 := by decide +kernel
theorem dksX0_proved_1 : cX0_proved.data.toList.drop 24 = dktX0_proved_1 := dk_seg dksX0_proved_0 24 rfl rfl
theorem dksX0_proved_2 : cX0_proved.data.toList.drop 47 = dktX0_proved_2 := dk_seg dksX0_proved_1 23 rfl rfl
theorem dksX0_proved_3 : cX0_proved.data.toList.drop 69 = dktX0_proved_3 := dk_seg dksX0_proved_2 22 rfl rfl
theorem dX0_proved_0 : decode cX0_proved 0 = .ok (.aload_n 0, 1) := dk_42 (dk_at dksX0_proved_0 0 rfl rfl)
theorem dX0_proved_1 : decode cX0_proved 1 = .ok (.iload_n 1, 1) := dk_27 (dk_at dksX0_proved_0 1 rfl rfl)
theorem dX0_proved_2 : decode cX0_proved 2 = .ok (.invokevirtual 377, 3) := dk_182 1 121 (dk_at dksX0_proved_0 2 rfl rfl)
theorem dX0_proved_5 : decode cX0_proved 5 = .ok (.ifCond .ne 6, 3) := dk_154 0 6 (dk_at dksX0_proved_0 5 rfl rfl)
theorem dX0_proved_8 : decode cX0_proved 8 = .ok (.ldc 135, 2) := dk_18 135 (dk_at dksX0_proved_0 8 rfl rfl)
theorem dX0_proved_10 : decode cX0_proved 10 = .ok (.ireturn, 1) := dk_172 (dk_at dksX0_proved_0 10 rfl rfl)
theorem dX0_proved_11 : decode cX0_proved 11 = .ok (.aload_n 0, 1) := dk_42 (dk_at dksX0_proved_0 11 rfl rfl)
theorem dX0_proved_12 : decode cX0_proved 12 = .ok (.invokevirtual 303, 3) := dk_182 1 47 (dk_at dksX0_proved_0 12 rfl rfl)
theorem dX0_proved_15 : decode cX0_proved 15 = .ok (.aload_n 0, 1) := dk_42 (dk_at dksX0_proved_0 15 rfl rfl)
theorem dX0_proved_16 : decode cX0_proved 16 = .ok (.getfield 46, 3) := dk_180 0 46 (dk_at dksX0_proved_0 16 rfl rfl)
theorem dX0_proved_19 : decode cX0_proved 19 = .ok (.getfield 278, 3) := dk_180 1 22 (dk_at dksX0_proved_0 19 rfl rfl)
theorem dX0_proved_22 : decode cX0_proved 22 = .ok (.iload_n 1, 1) := dk_27 (dk_at dksX0_proved_0 22 rfl rfl)
theorem dX0_proved_23 : decode cX0_proved 23 = .ok (.aaload, 1) := dk_50 (dk_at dksX0_proved_0 23 rfl rfl)
theorem dX0_proved_24 : decode cX0_proved 24 = .ok (.astore_n 2, 1) := dk_77 (dk_at dksX0_proved_1 0 rfl rfl)
theorem dX0_proved_25 : decode cX0_proved 25 = .ok (.aload_n 2, 1) := dk_44 (dk_at dksX0_proved_1 1 rfl rfl)
theorem dX0_proved_26 : decode cX0_proved 26 = .ok (.getfield 282, 3) := dk_180 1 26 (dk_at dksX0_proved_1 2 rfl rfl)
theorem dX0_proved_29 : decode cX0_proved 29 = .ok (.istore_n 3, 1) := dk_62 (dk_at dksX0_proved_1 5 rfl rfl)
theorem dX0_proved_30 : decode cX0_proved 30 = .ok (.iconst 0, 1) := dk_3 (dk_at dksX0_proved_1 6 rfl rfl)
theorem dX0_proved_31 : decode cX0_proved 31 = .ok (.istore 4, 2) := dk_54 4 (dk_at dksX0_proved_1 7 rfl rfl)
theorem dX0_proved_33 : decode cX0_proved 33 = .ok (.iload 4, 2) := dk_21 4 (dk_at dksX0_proved_1 9 rfl rfl)
theorem dX0_proved_35 : decode cX0_proved 35 = .ok (.aload_n 0, 1) := dk_42 (dk_at dksX0_proved_1 11 rfl rfl)
theorem dX0_proved_36 : decode cX0_proved 36 = .ok (.getfield 46, 3) := dk_180 0 46 (dk_at dksX0_proved_1 12 rfl rfl)
theorem dX0_proved_39 : decode cX0_proved 39 = .ok (.getfield 101, 3) := dk_180 0 101 (dk_at dksX0_proved_1 15 rfl rfl)
theorem dX0_proved_42 : decode cX0_proved 42 = .ok (.if_icmp .ge 44, 3) := dk_162 0 44 (dk_at dksX0_proved_1 18 rfl rfl)
theorem dX0_proved_45 : decode cX0_proved 45 = .ok (.iload_n 3, 1) := dk_29 (dk_at dksX0_proved_1 21 rfl rfl)
theorem dX0_proved_46 : decode cX0_proved 46 = .ok (.aload_n 0, 1) := dk_42 (dk_at dksX0_proved_1 22 rfl rfl)
theorem dX0_proved_47 : decode cX0_proved 47 = .ok (.getfield 46, 3) := dk_180 0 46 (dk_at dksX0_proved_2 0 rfl rfl)
theorem dX0_proved_50 : decode cX0_proved 50 = .ok (.getfield 269, 3) := dk_180 1 13 (dk_at dksX0_proved_2 3 rfl rfl)
theorem dX0_proved_53 : decode cX0_proved 53 = .ok (.iload 4, 2) := dk_21 4 (dk_at dksX0_proved_2 6 rfl rfl)
theorem dX0_proved_55 : decode cX0_proved 55 = .ok (.iaload, 1) := dk_46 (dk_at dksX0_proved_2 8 rfl rfl)
theorem dX0_proved_56 : decode cX0_proved 56 = .ok (.aload_n 2, 1) := dk_44 (dk_at dksX0_proved_2 9 rfl rfl)
theorem dX0_proved_57 : decode cX0_proved 57 = .ok (.getfield 343, 3) := dk_180 1 87 (dk_at dksX0_proved_2 10 rfl rfl)
theorem dX0_proved_60 : decode cX0_proved 60 = .ok (.invokestatic 293, 3) := dk_184 1 37 (dk_at dksX0_proved_2 13 rfl rfl)
theorem dX0_proved_63 : decode cX0_proved 63 = .ok (.ifCond .eq 14, 3) := dk_153 0 14 (dk_at dksX0_proved_2 16 rfl rfl)
theorem dX0_proved_66 : decode cX0_proved 66 = .ok (.aload_n 0, 1) := dk_42 (dk_at dksX0_proved_2 19 rfl rfl)
theorem dX0_proved_67 : decode cX0_proved 67 = .ok (.iload 4, 2) := dk_21 4 (dk_at dksX0_proved_2 20 rfl rfl)
theorem dX0_proved_69 : decode cX0_proved 69 = .ok (.invokevirtual 387, 3) := dk_182 1 131 (dk_at dksX0_proved_3 0 rfl rfl)
theorem dX0_proved_72 : decode cX0_proved 72 = .ok (.iconst (-1), 1) := dk_2 (dk_at dksX0_proved_3 3 rfl rfl)
theorem dX0_proved_73 : decode cX0_proved 73 = .ok (.ixor, 1) := dk_130 (dk_at dksX0_proved_3 4 rfl rfl)
theorem dX0_proved_74 : decode cX0_proved 74 = .ok (.goto 4, 3) := dk_167 0 4 (dk_at dksX0_proved_3 5 rfl rfl)
theorem dX0_proved_77 : decode cX0_proved 77 = .ok (.iconst (-1), 1) := dk_2 (dk_at dksX0_proved_3 8 rfl rfl)
theorem dX0_proved_78 : decode cX0_proved 78 = .ok (.iand, 1) := dk_126 (dk_at dksX0_proved_3 9 rfl rfl)
theorem dX0_proved_79 : decode cX0_proved 79 = .ok (.istore_n 3, 1) := dk_62 (dk_at dksX0_proved_3 10 rfl rfl)
theorem dX0_proved_80 : decode cX0_proved 80 = .ok (.iinc 4 1, 3) := dk_132 4 1 (dk_at dksX0_proved_3 11 rfl rfl)
theorem dX0_proved_83 : decode cX0_proved 83 = .ok (.goto (-50), 3) := dk_167 255 206 (dk_at dksX0_proved_3 14 rfl rfl)
theorem dX0_proved_86 : decode cX0_proved 86 = .ok (.iload_n 3, 1) := dk_29 (dk_at dksX0_proved_3 17 rfl rfl)
theorem dX0_proved_87 : decode cX0_proved 87 = .ok (.ireturn, 1) := dk_172 (dk_at dksX0_proved_3 18 rfl rfl)
abbrev cX0_falls : ByteArray := prog_1_method_76_code
def yX0_falls : MethodName := ⟨RX0, "falls", "(II)J"⟩
def dkwX0_falls_1 : List UInt8 := [182, 1, 178, 28, 154, 0, 10, 42, 180, 1, 169, 167, 0, 7, 42, 180, 1, 173, 173]
abbrev dktX0_falls_1 : List UInt8 := dkwX0_falls_1 ++ []
def dkwX0_falls_0 : List UInt8 := [42, 27, 182, 1, 41, 153, 0, 12, 28, 3, 4, 184, 0, 105, 154, 0, 7, 20, 1, 176, 173, 42, 27]
abbrev dktX0_falls_0 : List UInt8 := dkwX0_falls_0 ++ dktX0_falls_1
theorem dksX0_falls_0 : cX0_falls.data.toList.drop 0 = dktX0_falls_0 := by decide +kernel
theorem dksX0_falls_1 : cX0_falls.data.toList.drop 23 = dktX0_falls_1 := dk_seg dksX0_falls_0 23 rfl rfl
theorem dX0_falls_0 : decode cX0_falls 0 = .ok (.aload_n 0, 1) := dk_42 (dk_at dksX0_falls_0 0 rfl rfl)
theorem dX0_falls_1 : decode cX0_falls 1 = .ok (.iload_n 1, 1) := dk_27 (dk_at dksX0_falls_0 1 rfl rfl)
theorem dX0_falls_2 : decode cX0_falls 2 = .ok (.invokevirtual 297, 3) := dk_182 1 41 (dk_at dksX0_falls_0 2 rfl rfl)
theorem dX0_falls_5 : decode cX0_falls 5 = .ok (.ifCond .eq 12, 3) := dk_153 0 12 (dk_at dksX0_falls_0 5 rfl rfl)
theorem dX0_falls_8 : decode cX0_falls 8 = .ok (.iload_n 2, 1) := dk_28 (dk_at dksX0_falls_0 8 rfl rfl)
theorem dX0_falls_9 : decode cX0_falls 9 = .ok (.iconst 0, 1) := dk_3 (dk_at dksX0_falls_0 9 rfl rfl)
theorem dX0_falls_10 : decode cX0_falls 10 = .ok (.iconst 1, 1) := dk_4 (dk_at dksX0_falls_0 10 rfl rfl)
theorem dX0_falls_11 : decode cX0_falls 11 = .ok (.invokestatic 105, 3) := dk_184 0 105 (dk_at dksX0_falls_0 11 rfl rfl)
theorem dX0_falls_14 : decode cX0_falls 14 = .ok (.ifCond .ne 7, 3) := dk_154 0 7 (dk_at dksX0_falls_0 14 rfl rfl)
theorem dX0_falls_17 : decode cX0_falls 17 = .ok (.ldc2_w 432, 3) := dk_20 1 176 (dk_at dksX0_falls_0 17 rfl rfl)
theorem dX0_falls_20 : decode cX0_falls 20 = .ok (.lreturn, 1) := dk_173 (dk_at dksX0_falls_0 20 rfl rfl)
theorem dX0_falls_21 : decode cX0_falls 21 = .ok (.aload_n 0, 1) := dk_42 (dk_at dksX0_falls_0 21 rfl rfl)
theorem dX0_falls_22 : decode cX0_falls 22 = .ok (.iload_n 1, 1) := dk_27 (dk_at dksX0_falls_0 22 rfl rfl)
theorem dX0_falls_23 : decode cX0_falls 23 = .ok (.invokevirtual 434, 3) := dk_182 1 178 (dk_at dksX0_falls_1 0 rfl rfl)
theorem dX0_falls_26 : decode cX0_falls 26 = .ok (.iload_n 2, 1) := dk_28 (dk_at dksX0_falls_1 3 rfl rfl)
theorem dX0_falls_27 : decode cX0_falls 27 = .ok (.ifCond .ne 10, 3) := dk_154 0 10 (dk_at dksX0_falls_1 4 rfl rfl)
theorem dX0_falls_30 : decode cX0_falls 30 = .ok (.aload_n 0, 1) := dk_42 (dk_at dksX0_falls_1 7 rfl rfl)
theorem dX0_falls_31 : decode cX0_falls 31 = .ok (.getfield 425, 3) := dk_180 1 169 (dk_at dksX0_falls_1 8 rfl rfl)
theorem dX0_falls_34 : decode cX0_falls 34 = .ok (.goto 7, 3) := dk_167 0 7 (dk_at dksX0_falls_1 11 rfl rfl)
theorem dX0_falls_37 : decode cX0_falls 37 = .ok (.aload_n 0, 1) := dk_42 (dk_at dksX0_falls_1 14 rfl rfl)
theorem dX0_falls_38 : decode cX0_falls 38 = .ok (.getfield 429, 3) := dk_180 1 173 (dk_at dksX0_falls_1 15 rfl rfl)
theorem dX0_falls_41 : decode cX0_falls 41 = .ok (.lreturn, 1) := dk_173 (dk_at dksX0_falls_1 18 rfl rfl)
abbrev cX0_findFalls : ByteArray := prog_1_method_75_code
def yX0_findFalls : MethodName := ⟨RX0, "findFalls", "(I)V"⟩
def dkwX0_findFalls_5 : List UInt8 := [167, 255, 148, 177]
abbrev dktX0_findFalls_5 : List UInt8 := dkwX0_findFalls_5 ++ []
def dkwX0_findFalls_4 : List UInt8 := [89, 180, 1, 169, 22, 5, 109, 181, 1, 169, 42, 89, 180, 1, 173, 22, 5, 109, 181, 1, 173, 132, 2, 1]
abbrev dktX0_findFalls_4 : List UInt8 := dkwX0_findFalls_4 ++ dktX0_findFalls_5
def dkwX0_findFalls_3 : List UInt8 := [180, 1, 173, 21, 4, 133, 105, 181, 1, 173, 42, 180, 1, 169, 42, 180, 1, 173, 184, 1, 165, 55, 5, 42]
abbrev dktX0_findFalls_3 : List UInt8 := dkwX0_findFalls_3 ++ dktX0_findFalls_4
def dkwX0_findFalls_2 : List UInt8 := [182, 1, 106, 54, 4, 42, 42, 180, 1, 169, 21, 4, 133, 105, 42, 180, 1, 173, 97, 181, 1, 169, 42, 89]
abbrev dktX0_findFalls_2 : List UInt8 := dkwX0_findFalls_2 ++ dktX0_findFalls_3
def dkwX0_findFalls_1 : List UInt8 := [180, 0, 46, 180, 1, 22, 28, 50, 78, 45, 180, 1, 26, 27, 184, 1, 37, 154, 0, 6, 167, 0, 73, 45]
abbrev dktX0_findFalls_1 : List UInt8 := dkwX0_findFalls_1 ++ dktX0_findFalls_2
def dkwX0_findFalls_0 : List UInt8 := [42, 9, 181, 1, 169, 42, 10, 181, 1, 173, 3, 61, 28, 42, 180, 0, 46, 180, 0, 109, 162, 0, 103, 42]
abbrev dktX0_findFalls_0 : List UInt8 := dkwX0_findFalls_0 ++ dktX0_findFalls_1
theorem dksX0_findFalls_0 : cX0_findFalls.data.toList.drop 0 = dktX0_findFalls_0 := by decide +kernel
theorem dksX0_findFalls_1 : cX0_findFalls.data.toList.drop 24 = dktX0_findFalls_1 := dk_seg dksX0_findFalls_0 24 rfl rfl
theorem dksX0_findFalls_2 : cX0_findFalls.data.toList.drop 48 = dktX0_findFalls_2 := dk_seg dksX0_findFalls_1 24 rfl rfl
theorem dksX0_findFalls_3 : cX0_findFalls.data.toList.drop 72 = dktX0_findFalls_3 := dk_seg dksX0_findFalls_2 24 rfl rfl
theorem dksX0_findFalls_4 : cX0_findFalls.data.toList.drop 96 = dktX0_findFalls_4 := dk_seg dksX0_findFalls_3 24 rfl rfl
theorem dksX0_findFalls_5 : cX0_findFalls.data.toList.drop 120 = dktX0_findFalls_5 := dk_seg dksX0_findFalls_4 24 rfl rfl
theorem dX0_findFalls_0 : decode cX0_findFalls 0 = .ok (.aload_n 0, 1) := dk_42 (dk_at dksX0_findFalls_0 0 rfl rfl)
theorem dX0_findFalls_1 : decode cX0_findFalls 1 = .ok (.lconst 0, 1) := dk_9 (dk_at dksX0_findFalls_0 1 rfl rfl)
theorem dX0_findFalls_2 : decode cX0_findFalls 2 = .ok (.putfield 425, 3) := dk_181 1 169 (dk_at dksX0_findFalls_0 2 rfl rfl)
theorem dX0_findFalls_5 : decode cX0_findFalls 5 = .ok (.aload_n 0, 1) := dk_42 (dk_at dksX0_findFalls_0 5 rfl rfl)
theorem dX0_findFalls_6 : decode cX0_findFalls 6 = .ok (.lconst 1, 1) := dk_10 (dk_at dksX0_findFalls_0 6 rfl rfl)
theorem dX0_findFalls_7 : decode cX0_findFalls 7 = .ok (.putfield 429, 3) := dk_181 1 173 (dk_at dksX0_findFalls_0 7 rfl rfl)
theorem dX0_findFalls_10 : decode cX0_findFalls 10 = .ok (.iconst 0, 1) := dk_3 (dk_at dksX0_findFalls_0 10 rfl rfl)
theorem dX0_findFalls_11 : decode cX0_findFalls 11 = .ok (.istore_n 2, 1) := dk_61 (dk_at dksX0_findFalls_0 11 rfl rfl)
theorem dX0_findFalls_12 : decode cX0_findFalls 12 = .ok (.iload_n 2, 1) := dk_28 (dk_at dksX0_findFalls_0 12 rfl rfl)
theorem dX0_findFalls_13 : decode cX0_findFalls 13 = .ok (.aload_n 0, 1) := dk_42 (dk_at dksX0_findFalls_0 13 rfl rfl)
theorem dX0_findFalls_14 : decode cX0_findFalls 14 = .ok (.getfield 46, 3) := dk_180 0 46 (dk_at dksX0_findFalls_0 14 rfl rfl)
theorem dX0_findFalls_17 : decode cX0_findFalls 17 = .ok (.getfield 109, 3) := dk_180 0 109 (dk_at dksX0_findFalls_0 17 rfl rfl)
theorem dX0_findFalls_20 : decode cX0_findFalls 20 = .ok (.if_icmp .ge 103, 3) := dk_162 0 103 (dk_at dksX0_findFalls_0 20 rfl rfl)
theorem dX0_findFalls_23 : decode cX0_findFalls 23 = .ok (.aload_n 0, 1) := dk_42 (dk_at dksX0_findFalls_0 23 rfl rfl)
theorem dX0_findFalls_24 : decode cX0_findFalls 24 = .ok (.getfield 46, 3) := dk_180 0 46 (dk_at dksX0_findFalls_1 0 rfl rfl)
theorem dX0_findFalls_27 : decode cX0_findFalls 27 = .ok (.getfield 278, 3) := dk_180 1 22 (dk_at dksX0_findFalls_1 3 rfl rfl)
theorem dX0_findFalls_30 : decode cX0_findFalls 30 = .ok (.iload_n 2, 1) := dk_28 (dk_at dksX0_findFalls_1 6 rfl rfl)
theorem dX0_findFalls_31 : decode cX0_findFalls 31 = .ok (.aaload, 1) := dk_50 (dk_at dksX0_findFalls_1 7 rfl rfl)
theorem dX0_findFalls_32 : decode cX0_findFalls 32 = .ok (.astore_n 3, 1) := dk_78 (dk_at dksX0_findFalls_1 8 rfl rfl)
theorem dX0_findFalls_33 : decode cX0_findFalls 33 = .ok (.aload_n 3, 1) := dk_45 (dk_at dksX0_findFalls_1 9 rfl rfl)
theorem dX0_findFalls_34 : decode cX0_findFalls 34 = .ok (.getfield 282, 3) := dk_180 1 26 (dk_at dksX0_findFalls_1 10 rfl rfl)
theorem dX0_findFalls_37 : decode cX0_findFalls 37 = .ok (.iload_n 1, 1) := dk_27 (dk_at dksX0_findFalls_1 13 rfl rfl)
theorem dX0_findFalls_38 : decode cX0_findFalls 38 = .ok (.invokestatic 293, 3) := dk_184 1 37 (dk_at dksX0_findFalls_1 14 rfl rfl)
theorem dX0_findFalls_41 : decode cX0_findFalls 41 = .ok (.ifCond .ne 6, 3) := dk_154 0 6 (dk_at dksX0_findFalls_1 17 rfl rfl)
theorem dX0_findFalls_44 : decode cX0_findFalls 44 = .ok (.goto 73, 3) := dk_167 0 73 (dk_at dksX0_findFalls_1 20 rfl rfl)
theorem dX0_findFalls_47 : decode cX0_findFalls 47 = .ok (.aload_n 3, 1) := dk_45 (dk_at dksX0_findFalls_1 23 rfl rfl)
theorem dX0_findFalls_48 : decode cX0_findFalls 48 = .ok (.invokevirtual 362, 3) := dk_182 1 106 (dk_at dksX0_findFalls_2 0 rfl rfl)
theorem dX0_findFalls_51 : decode cX0_findFalls 51 = .ok (.istore 4, 2) := dk_54 4 (dk_at dksX0_findFalls_2 3 rfl rfl)
theorem dX0_findFalls_53 : decode cX0_findFalls 53 = .ok (.aload_n 0, 1) := dk_42 (dk_at dksX0_findFalls_2 5 rfl rfl)
theorem dX0_findFalls_54 : decode cX0_findFalls 54 = .ok (.aload_n 0, 1) := dk_42 (dk_at dksX0_findFalls_2 6 rfl rfl)
theorem dX0_findFalls_55 : decode cX0_findFalls 55 = .ok (.getfield 425, 3) := dk_180 1 169 (dk_at dksX0_findFalls_2 7 rfl rfl)
theorem dX0_findFalls_58 : decode cX0_findFalls 58 = .ok (.iload 4, 2) := dk_21 4 (dk_at dksX0_findFalls_2 10 rfl rfl)
theorem dX0_findFalls_60 : decode cX0_findFalls 60 = .ok (.i2l, 1) := dk_133 (dk_at dksX0_findFalls_2 12 rfl rfl)
theorem dX0_findFalls_61 : decode cX0_findFalls 61 = .ok (.lmul, 1) := dk_105 (dk_at dksX0_findFalls_2 13 rfl rfl)
theorem dX0_findFalls_62 : decode cX0_findFalls 62 = .ok (.aload_n 0, 1) := dk_42 (dk_at dksX0_findFalls_2 14 rfl rfl)
theorem dX0_findFalls_63 : decode cX0_findFalls 63 = .ok (.getfield 429, 3) := dk_180 1 173 (dk_at dksX0_findFalls_2 15 rfl rfl)
theorem dX0_findFalls_66 : decode cX0_findFalls 66 = .ok (.ladd, 1) := dk_97 (dk_at dksX0_findFalls_2 18 rfl rfl)
theorem dX0_findFalls_67 : decode cX0_findFalls 67 = .ok (.putfield 425, 3) := dk_181 1 169 (dk_at dksX0_findFalls_2 19 rfl rfl)
theorem dX0_findFalls_70 : decode cX0_findFalls 70 = .ok (.aload_n 0, 1) := dk_42 (dk_at dksX0_findFalls_2 22 rfl rfl)
theorem dX0_findFalls_71 : decode cX0_findFalls 71 = .ok (.dup, 1) := dk_89 (dk_at dksX0_findFalls_2 23 rfl rfl)
theorem dX0_findFalls_72 : decode cX0_findFalls 72 = .ok (.getfield 429, 3) := dk_180 1 173 (dk_at dksX0_findFalls_3 0 rfl rfl)
theorem dX0_findFalls_75 : decode cX0_findFalls 75 = .ok (.iload 4, 2) := dk_21 4 (dk_at dksX0_findFalls_3 3 rfl rfl)
theorem dX0_findFalls_77 : decode cX0_findFalls 77 = .ok (.i2l, 1) := dk_133 (dk_at dksX0_findFalls_3 5 rfl rfl)
theorem dX0_findFalls_78 : decode cX0_findFalls 78 = .ok (.lmul, 1) := dk_105 (dk_at dksX0_findFalls_3 6 rfl rfl)
theorem dX0_findFalls_79 : decode cX0_findFalls 79 = .ok (.putfield 429, 3) := dk_181 1 173 (dk_at dksX0_findFalls_3 7 rfl rfl)
theorem dX0_findFalls_82 : decode cX0_findFalls 82 = .ok (.aload_n 0, 1) := dk_42 (dk_at dksX0_findFalls_3 10 rfl rfl)
theorem dX0_findFalls_83 : decode cX0_findFalls 83 = .ok (.getfield 425, 3) := dk_180 1 169 (dk_at dksX0_findFalls_3 11 rfl rfl)
theorem dX0_findFalls_86 : decode cX0_findFalls 86 = .ok (.aload_n 0, 1) := dk_42 (dk_at dksX0_findFalls_3 14 rfl rfl)
theorem dX0_findFalls_87 : decode cX0_findFalls 87 = .ok (.getfield 429, 3) := dk_180 1 173 (dk_at dksX0_findFalls_3 15 rfl rfl)
theorem dX0_findFalls_90 : decode cX0_findFalls 90 = .ok (.invokestatic 421, 3) := dk_184 1 165 (dk_at dksX0_findFalls_3 18 rfl rfl)
theorem dX0_findFalls_93 : decode cX0_findFalls 93 = .ok (.lstore 5, 2) := dk_55 5 (dk_at dksX0_findFalls_3 21 rfl rfl)
theorem dX0_findFalls_95 : decode cX0_findFalls 95 = .ok (.aload_n 0, 1) := dk_42 (dk_at dksX0_findFalls_3 23 rfl rfl)
theorem dX0_findFalls_96 : decode cX0_findFalls 96 = .ok (.dup, 1) := dk_89 (dk_at dksX0_findFalls_4 0 rfl rfl)
theorem dX0_findFalls_97 : decode cX0_findFalls 97 = .ok (.getfield 425, 3) := dk_180 1 169 (dk_at dksX0_findFalls_4 1 rfl rfl)
theorem dX0_findFalls_100 : decode cX0_findFalls 100 = .ok (.lload 5, 2) := dk_22 5 (dk_at dksX0_findFalls_4 4 rfl rfl)
theorem dX0_findFalls_102 : decode cX0_findFalls 102 = .ok (.ldiv, 1) := dk_109 (dk_at dksX0_findFalls_4 6 rfl rfl)
theorem dX0_findFalls_103 : decode cX0_findFalls 103 = .ok (.putfield 425, 3) := dk_181 1 169 (dk_at dksX0_findFalls_4 7 rfl rfl)
theorem dX0_findFalls_106 : decode cX0_findFalls 106 = .ok (.aload_n 0, 1) := dk_42 (dk_at dksX0_findFalls_4 10 rfl rfl)
theorem dX0_findFalls_107 : decode cX0_findFalls 107 = .ok (.dup, 1) := dk_89 (dk_at dksX0_findFalls_4 11 rfl rfl)
theorem dX0_findFalls_108 : decode cX0_findFalls 108 = .ok (.getfield 429, 3) := dk_180 1 173 (dk_at dksX0_findFalls_4 12 rfl rfl)
theorem dX0_findFalls_111 : decode cX0_findFalls 111 = .ok (.lload 5, 2) := dk_22 5 (dk_at dksX0_findFalls_4 15 rfl rfl)
theorem dX0_findFalls_113 : decode cX0_findFalls 113 = .ok (.ldiv, 1) := dk_109 (dk_at dksX0_findFalls_4 17 rfl rfl)
theorem dX0_findFalls_114 : decode cX0_findFalls 114 = .ok (.putfield 429, 3) := dk_181 1 173 (dk_at dksX0_findFalls_4 18 rfl rfl)
theorem dX0_findFalls_117 : decode cX0_findFalls 117 = .ok (.iinc 2 1, 3) := dk_132 2 1 (dk_at dksX0_findFalls_4 21 rfl rfl)
theorem dX0_findFalls_120 : decode cX0_findFalls 120 = .ok (.goto (-108), 3) := dk_167 255 148 (dk_at dksX0_findFalls_5 0 rfl rfl)
theorem dX0_findFalls_123 : decode cX0_findFalls 123 = .ok (.return_, 1) := dk_177 (dk_at dksX0_findFalls_5 3 rfl rfl)
abbrev cX0_divisor : ByteArray := prog_1_method_74_code
def yX0_divisor : MethodName := ⟨RX0, "divisor", "(JJ)J"⟩
def dkwX0_divisor_0 : List UInt8 := [32, 9, 148, 154, 0, 7, 30, 167, 0, 10, 32, 30, 32, 113, 184, 1, 165, 173]
abbrev dktX0_divisor_0 : List UInt8 := dkwX0_divisor_0 ++ []
theorem dksX0_divisor_0 : cX0_divisor.data.toList.drop 0 = dktX0_divisor_0 := by decide +kernel
theorem dX0_divisor_0 : decode cX0_divisor 0 = .ok (.lload_n 2, 1) := dk_32 (dk_at dksX0_divisor_0 0 rfl rfl)
theorem dX0_divisor_1 : decode cX0_divisor 1 = .ok (.lconst 0, 1) := dk_9 (dk_at dksX0_divisor_0 1 rfl rfl)
theorem dX0_divisor_2 : decode cX0_divisor 2 = .ok (.lcmp, 1) := dk_148 (dk_at dksX0_divisor_0 2 rfl rfl)
theorem dX0_divisor_3 : decode cX0_divisor 3 = .ok (.ifCond .ne 7, 3) := dk_154 0 7 (dk_at dksX0_divisor_0 3 rfl rfl)
theorem dX0_divisor_6 : decode cX0_divisor 6 = .ok (.lload_n 0, 1) := dk_30 (dk_at dksX0_divisor_0 6 rfl rfl)
theorem dX0_divisor_7 : decode cX0_divisor 7 = .ok (.goto 10, 3) := dk_167 0 10 (dk_at dksX0_divisor_0 7 rfl rfl)
theorem dX0_divisor_10 : decode cX0_divisor 10 = .ok (.lload_n 2, 1) := dk_32 (dk_at dksX0_divisor_0 10 rfl rfl)
theorem dX0_divisor_11 : decode cX0_divisor 11 = .ok (.lload_n 0, 1) := dk_30 (dk_at dksX0_divisor_0 11 rfl rfl)
theorem dX0_divisor_12 : decode cX0_divisor 12 = .ok (.lload_n 2, 1) := dk_32 (dk_at dksX0_divisor_0 12 rfl rfl)
theorem dX0_divisor_13 : decode cX0_divisor 13 = .ok (.lrem, 1) := dk_113 (dk_at dksX0_divisor_0 13 rfl rfl)
theorem dX0_divisor_14 : decode cX0_divisor 14 = .ok (.invokestatic 421, 3) := dk_184 1 165 (dk_at dksX0_divisor_0 14 rfl rfl)
theorem dX0_divisor_17 : decode cX0_divisor 17 = .ok (.lreturn, 1) := dk_173 (dk_at dksX0_divisor_0 17 rfl rfl)
abbrev cX0_most : ByteArray := prog_1_method_77_code
def yX0_most : MethodName := ⟨RX0, "most", "()I"⟩
def dkwX0_most_3 : List UInt8 := [184, 1, 0, 172]
abbrev dktX0_most_3 : List UInt8 := dkwX0_most_3 ++ []
def dkwX0_most_2 : List UInt8 := [158, 0, 17, 21, 6, 60, 42, 180, 1, 169, 65, 42, 180, 1, 173, 55, 4, 132, 6, 1, 167, 255, 199, 27]
abbrev dktX0_most_2 : List UInt8 := dkwX0_most_2 ++ dktX0_most_3
def dkwX0_most_1 : List UInt8 := [21, 6, 182, 1, 178, 27, 2, 159, 0, 20, 42, 180, 1, 169, 22, 4, 105, 32, 42, 180, 1, 173, 105, 148]
abbrev dktX0_most_1 : List UInt8 := dkwX0_most_1 ++ dktX0_most_2
def dkwX0_most_0 : List UInt8 := [2, 60, 9, 65, 10, 55, 4, 3, 54, 6, 21, 6, 42, 180, 0, 46, 180, 0, 101, 162, 0, 51, 42]
abbrev dktX0_most_0 : List UInt8 := dkwX0_most_0 ++ dktX0_most_1
theorem dksX0_most_0 : cX0_most.data.toList.drop 0 = dktX0_most_0 := by decide +kernel
theorem dksX0_most_1 : cX0_most.data.toList.drop 23 = dktX0_most_1 := dk_seg dksX0_most_0 23 rfl rfl
theorem dksX0_most_2 : cX0_most.data.toList.drop 47 = dktX0_most_2 := dk_seg dksX0_most_1 24 rfl rfl
theorem dksX0_most_3 : cX0_most.data.toList.drop 71 = dktX0_most_3 := dk_seg dksX0_most_2 24 rfl rfl
theorem dX0_most_0 : decode cX0_most 0 = .ok (.iconst (-1), 1) := dk_2 (dk_at dksX0_most_0 0 rfl rfl)
theorem dX0_most_1 : decode cX0_most 1 = .ok (.istore_n 1, 1) := dk_60 (dk_at dksX0_most_0 1 rfl rfl)
theorem dX0_most_2 : decode cX0_most 2 = .ok (.lconst 0, 1) := dk_9 (dk_at dksX0_most_0 2 rfl rfl)
theorem dX0_most_3 : decode cX0_most 3 = .ok (.lstore_n 2, 1) := dk_65 (dk_at dksX0_most_0 3 rfl rfl)
theorem dX0_most_4 : decode cX0_most 4 = .ok (.lconst 1, 1) := dk_10 (dk_at dksX0_most_0 4 rfl rfl)
theorem dX0_most_5 : decode cX0_most 5 = .ok (.lstore 4, 2) := dk_55 4 (dk_at dksX0_most_0 5 rfl rfl)
theorem dX0_most_7 : decode cX0_most 7 = .ok (.iconst 0, 1) := dk_3 (dk_at dksX0_most_0 7 rfl rfl)
theorem dX0_most_8 : decode cX0_most 8 = .ok (.istore 6, 2) := dk_54 6 (dk_at dksX0_most_0 8 rfl rfl)
theorem dX0_most_10 : decode cX0_most 10 = .ok (.iload 6, 2) := dk_21 6 (dk_at dksX0_most_0 10 rfl rfl)
theorem dX0_most_12 : decode cX0_most 12 = .ok (.aload_n 0, 1) := dk_42 (dk_at dksX0_most_0 12 rfl rfl)
theorem dX0_most_13 : decode cX0_most 13 = .ok (.getfield 46, 3) := dk_180 0 46 (dk_at dksX0_most_0 13 rfl rfl)
theorem dX0_most_16 : decode cX0_most 16 = .ok (.getfield 101, 3) := dk_180 0 101 (dk_at dksX0_most_0 16 rfl rfl)
theorem dX0_most_19 : decode cX0_most 19 = .ok (.if_icmp .ge 51, 3) := dk_162 0 51 (dk_at dksX0_most_0 19 rfl rfl)
theorem dX0_most_22 : decode cX0_most 22 = .ok (.aload_n 0, 1) := dk_42 (dk_at dksX0_most_0 22 rfl rfl)
theorem dX0_most_23 : decode cX0_most 23 = .ok (.iload 6, 2) := dk_21 6 (dk_at dksX0_most_1 0 rfl rfl)
theorem dX0_most_25 : decode cX0_most 25 = .ok (.invokevirtual 434, 3) := dk_182 1 178 (dk_at dksX0_most_1 2 rfl rfl)
theorem dX0_most_28 : decode cX0_most 28 = .ok (.iload_n 1, 1) := dk_27 (dk_at dksX0_most_1 5 rfl rfl)
theorem dX0_most_29 : decode cX0_most 29 = .ok (.iconst (-1), 1) := dk_2 (dk_at dksX0_most_1 6 rfl rfl)
theorem dX0_most_30 : decode cX0_most 30 = .ok (.if_icmp .eq 20, 3) := dk_159 0 20 (dk_at dksX0_most_1 7 rfl rfl)
theorem dX0_most_33 : decode cX0_most 33 = .ok (.aload_n 0, 1) := dk_42 (dk_at dksX0_most_1 10 rfl rfl)
theorem dX0_most_34 : decode cX0_most 34 = .ok (.getfield 425, 3) := dk_180 1 169 (dk_at dksX0_most_1 11 rfl rfl)
theorem dX0_most_37 : decode cX0_most 37 = .ok (.lload 4, 2) := dk_22 4 (dk_at dksX0_most_1 14 rfl rfl)
theorem dX0_most_39 : decode cX0_most 39 = .ok (.lmul, 1) := dk_105 (dk_at dksX0_most_1 16 rfl rfl)
theorem dX0_most_40 : decode cX0_most 40 = .ok (.lload_n 2, 1) := dk_32 (dk_at dksX0_most_1 17 rfl rfl)
theorem dX0_most_41 : decode cX0_most 41 = .ok (.aload_n 0, 1) := dk_42 (dk_at dksX0_most_1 18 rfl rfl)
theorem dX0_most_42 : decode cX0_most 42 = .ok (.getfield 429, 3) := dk_180 1 173 (dk_at dksX0_most_1 19 rfl rfl)
theorem dX0_most_45 : decode cX0_most 45 = .ok (.lmul, 1) := dk_105 (dk_at dksX0_most_1 22 rfl rfl)
theorem dX0_most_46 : decode cX0_most 46 = .ok (.lcmp, 1) := dk_148 (dk_at dksX0_most_1 23 rfl rfl)
theorem dX0_most_47 : decode cX0_most 47 = .ok (.ifCond .le 17, 3) := dk_158 0 17 (dk_at dksX0_most_2 0 rfl rfl)
theorem dX0_most_50 : decode cX0_most 50 = .ok (.iload 6, 2) := dk_21 6 (dk_at dksX0_most_2 3 rfl rfl)
theorem dX0_most_52 : decode cX0_most 52 = .ok (.istore_n 1, 1) := dk_60 (dk_at dksX0_most_2 5 rfl rfl)
theorem dX0_most_53 : decode cX0_most 53 = .ok (.aload_n 0, 1) := dk_42 (dk_at dksX0_most_2 6 rfl rfl)
theorem dX0_most_54 : decode cX0_most 54 = .ok (.getfield 425, 3) := dk_180 1 169 (dk_at dksX0_most_2 7 rfl rfl)
theorem dX0_most_57 : decode cX0_most 57 = .ok (.lstore_n 2, 1) := dk_65 (dk_at dksX0_most_2 10 rfl rfl)
theorem dX0_most_58 : decode cX0_most 58 = .ok (.aload_n 0, 1) := dk_42 (dk_at dksX0_most_2 11 rfl rfl)
theorem dX0_most_59 : decode cX0_most 59 = .ok (.getfield 429, 3) := dk_180 1 173 (dk_at dksX0_most_2 12 rfl rfl)
theorem dX0_most_62 : decode cX0_most 62 = .ok (.lstore 4, 2) := dk_55 4 (dk_at dksX0_most_2 15 rfl rfl)
theorem dX0_most_64 : decode cX0_most 64 = .ok (.iinc 6 1, 3) := dk_132 6 1 (dk_at dksX0_most_2 17 rfl rfl)
theorem dX0_most_67 : decode cX0_most 67 = .ok (.goto (-57), 3) := dk_167 255 199 (dk_at dksX0_most_2 20 rfl rfl)
theorem dX0_most_70 : decode cX0_most 70 = .ok (.iload_n 1, 1) := dk_27 (dk_at dksX0_most_2 23 rfl rfl)
theorem dX0_most_71 : decode cX0_most 71 = .ok (.invokestatic 256, 3) := dk_184 1 0 (dk_at dksX0_most_3 0 rfl rfl)
theorem dX0_most_74 : decode cX0_most 74 = .ok (.ireturn, 1) := dk_172 (dk_at dksX0_most_3 3 rfl rfl)
abbrev cX0_sheet : ByteArray := prog_1_method_81_code
def yX0_sheet : MethodName := ⟨RX0, "sheet", "(III)I"⟩
def dkwX0_sheet_3 : List UInt8 := [58, 4, 19, 1, 194, 172]
abbrev dktX0_sheet_3 : List UInt8 := dkwX0_sheet_3 ++ []
def dkwX0_sheet_2 : List UInt8 := [180, 0, 80, 27, 50, 28, 4, 160, 0, 7, 4, 167, 0, 4, 3, 29, 184, 1, 188, 181, 1, 184, 29, 172]
abbrev dktX0_sheet_2 : List UInt8 := dkwX0_sheet_2 ++ dktX0_sheet_3
def dkwX0_sheet_1 : List UInt8 := [164, 0, 6, 18, 135, 172, 28, 156, 0, 15, 42, 180, 0, 80, 27, 50, 1, 181, 1, 184, 3, 172, 42]
abbrev dktX0_sheet_1 : List UInt8 := dkwX0_sheet_1 ++ dktX0_sheet_2
def dkwX0_sheet_0 : List UInt8 := [27, 184, 1, 181, 153, 0, 22, 28, 2, 4, 184, 0, 105, 153, 0, 13, 28, 155, 0, 12, 29, 16, 24]
abbrev dktX0_sheet_0 : List UInt8 := dkwX0_sheet_0 ++ dktX0_sheet_1
theorem dksX0_sheet_0 : cX0_sheet.data.toList.drop 0 = dktX0_sheet_0 := by decide +kernel
theorem dksX0_sheet_1 : cX0_sheet.data.toList.drop 23 = dktX0_sheet_1 := dk_seg dksX0_sheet_0 23 rfl rfl
theorem dksX0_sheet_2 : cX0_sheet.data.toList.drop 46 = dktX0_sheet_2 := dk_seg dksX0_sheet_1 23 rfl rfl
theorem dksX0_sheet_3 : cX0_sheet.data.toList.drop 70 = dktX0_sheet_3 := dk_seg dksX0_sheet_2 24 rfl rfl
theorem dX0_sheet_0 : decode cX0_sheet 0 = .ok (.iload_n 1, 1) := dk_27 (dk_at dksX0_sheet_0 0 rfl rfl)
theorem dX0_sheet_1 : decode cX0_sheet 1 = .ok (.invokestatic 437, 3) := dk_184 1 181 (dk_at dksX0_sheet_0 1 rfl rfl)
theorem dX0_sheet_4 : decode cX0_sheet 4 = .ok (.ifCond .eq 22, 3) := dk_153 0 22 (dk_at dksX0_sheet_0 4 rfl rfl)
theorem dX0_sheet_7 : decode cX0_sheet 7 = .ok (.iload_n 2, 1) := dk_28 (dk_at dksX0_sheet_0 7 rfl rfl)
theorem dX0_sheet_8 : decode cX0_sheet 8 = .ok (.iconst (-1), 1) := dk_2 (dk_at dksX0_sheet_0 8 rfl rfl)
theorem dX0_sheet_9 : decode cX0_sheet 9 = .ok (.iconst 1, 1) := dk_4 (dk_at dksX0_sheet_0 9 rfl rfl)
theorem dX0_sheet_10 : decode cX0_sheet 10 = .ok (.invokestatic 105, 3) := dk_184 0 105 (dk_at dksX0_sheet_0 10 rfl rfl)
theorem dX0_sheet_13 : decode cX0_sheet 13 = .ok (.ifCond .eq 13, 3) := dk_153 0 13 (dk_at dksX0_sheet_0 13 rfl rfl)
theorem dX0_sheet_16 : decode cX0_sheet 16 = .ok (.iload_n 2, 1) := dk_28 (dk_at dksX0_sheet_0 16 rfl rfl)
theorem dX0_sheet_17 : decode cX0_sheet 17 = .ok (.ifCond .lt 12, 3) := dk_155 0 12 (dk_at dksX0_sheet_0 17 rfl rfl)
theorem dX0_sheet_20 : decode cX0_sheet 20 = .ok (.iload_n 3, 1) := dk_29 (dk_at dksX0_sheet_0 20 rfl rfl)
theorem dX0_sheet_21 : decode cX0_sheet 21 = .ok (.bipush 24, 2) := dk_16 24 (dk_at dksX0_sheet_0 21 rfl rfl)
theorem dX0_sheet_23 : decode cX0_sheet 23 = .ok (.if_icmp .le 6, 3) := dk_164 0 6 (dk_at dksX0_sheet_1 0 rfl rfl)
theorem dX0_sheet_26 : decode cX0_sheet 26 = .ok (.ldc 135, 2) := dk_18 135 (dk_at dksX0_sheet_1 3 rfl rfl)
theorem dX0_sheet_28 : decode cX0_sheet 28 = .ok (.ireturn, 1) := dk_172 (dk_at dksX0_sheet_1 5 rfl rfl)
theorem dX0_sheet_29 : decode cX0_sheet 29 = .ok (.iload_n 2, 1) := dk_28 (dk_at dksX0_sheet_1 6 rfl rfl)
theorem dX0_sheet_30 : decode cX0_sheet 30 = .ok (.ifCond .ge 15, 3) := dk_156 0 15 (dk_at dksX0_sheet_1 7 rfl rfl)
theorem dX0_sheet_33 : decode cX0_sheet 33 = .ok (.aload_n 0, 1) := dk_42 (dk_at dksX0_sheet_1 10 rfl rfl)
theorem dX0_sheet_34 : decode cX0_sheet 34 = .ok (.getfield 80, 3) := dk_180 0 80 (dk_at dksX0_sheet_1 11 rfl rfl)
theorem dX0_sheet_37 : decode cX0_sheet 37 = .ok (.iload_n 1, 1) := dk_27 (dk_at dksX0_sheet_1 14 rfl rfl)
theorem dX0_sheet_38 : decode cX0_sheet 38 = .ok (.aaload, 1) := dk_50 (dk_at dksX0_sheet_1 15 rfl rfl)
theorem dX0_sheet_39 : decode cX0_sheet 39 = .ok (.aconst_null, 1) := dk_1 (dk_at dksX0_sheet_1 16 rfl rfl)
theorem dX0_sheet_40 : decode cX0_sheet 40 = .ok (.putfield 440, 3) := dk_181 1 184 (dk_at dksX0_sheet_1 17 rfl rfl)
theorem dX0_sheet_43 : decode cX0_sheet 43 = .ok (.iconst 0, 1) := dk_3 (dk_at dksX0_sheet_1 20 rfl rfl)
theorem dX0_sheet_44 : decode cX0_sheet 44 = .ok (.ireturn, 1) := dk_172 (dk_at dksX0_sheet_1 21 rfl rfl)
theorem dX0_sheet_45 : decode cX0_sheet 45 = .ok (.aload_n 0, 1) := dk_42 (dk_at dksX0_sheet_1 22 rfl rfl)
theorem dX0_sheet_46 : decode cX0_sheet 46 = .ok (.getfield 80, 3) := dk_180 0 80 (dk_at dksX0_sheet_2 0 rfl rfl)
theorem dX0_sheet_49 : decode cX0_sheet 49 = .ok (.iload_n 1, 1) := dk_27 (dk_at dksX0_sheet_2 3 rfl rfl)
theorem dX0_sheet_50 : decode cX0_sheet 50 = .ok (.aaload, 1) := dk_50 (dk_at dksX0_sheet_2 4 rfl rfl)
theorem dX0_sheet_51 : decode cX0_sheet 51 = .ok (.iload_n 2, 1) := dk_28 (dk_at dksX0_sheet_2 5 rfl rfl)
theorem dX0_sheet_52 : decode cX0_sheet 52 = .ok (.iconst 1, 1) := dk_4 (dk_at dksX0_sheet_2 6 rfl rfl)
theorem dX0_sheet_53 : decode cX0_sheet 53 = .ok (.if_icmp .ne 7, 3) := dk_160 0 7 (dk_at dksX0_sheet_2 7 rfl rfl)
theorem dX0_sheet_56 : decode cX0_sheet 56 = .ok (.iconst 1, 1) := dk_4 (dk_at dksX0_sheet_2 10 rfl rfl)
theorem dX0_sheet_57 : decode cX0_sheet 57 = .ok (.goto 4, 3) := dk_167 0 4 (dk_at dksX0_sheet_2 11 rfl rfl)
theorem dX0_sheet_60 : decode cX0_sheet 60 = .ok (.iconst 0, 1) := dk_3 (dk_at dksX0_sheet_2 14 rfl rfl)
theorem dX0_sheet_61 : decode cX0_sheet 61 = .ok (.iload_n 3, 1) := dk_29 (dk_at dksX0_sheet_2 15 rfl rfl)
theorem dX0_sheet_62 : decode cX0_sheet 62 = .ok (.invokestatic 444, 3) := dk_184 1 188 (dk_at dksX0_sheet_2 16 rfl rfl)
theorem dX0_sheet_65 : decode cX0_sheet 65 = .ok (.putfield 440, 3) := dk_181 1 184 (dk_at dksX0_sheet_2 19 rfl rfl)
theorem dX0_sheet_68 : decode cX0_sheet 68 = .ok (.iload_n 3, 1) := dk_29 (dk_at dksX0_sheet_2 22 rfl rfl)
theorem dX0_sheet_69 : decode cX0_sheet 69 = .ok (.ireturn, 1) := dk_172 (dk_at dksX0_sheet_2 23 rfl rfl)
theorem dX0_sheet_70 : decode cX0_sheet 70 = .ok (.astore 4, 2) := dk_58 4 (dk_at dksX0_sheet_3 0 rfl rfl)
theorem dX0_sheet_72 : decode cX0_sheet 72 = .ok (.ldc_w 450, 3) := dk_19 1 194 (dk_at dksX0_sheet_3 2 rfl rfl)
theorem dX0_sheet_75 : decode cX0_sheet 75 = .ok (.ireturn, 1) := dk_172 (dk_at dksX0_sheet_3 5 rfl rfl)
abbrev cX0_isSheet : ByteArray := prog_1_method_78_code
def yX0_isSheet : MethodName := ⟨RX0, "isSheet", "(I)Z"⟩
def dkwX0_isSheet_0 : List UInt8 := [26, 3, 6, 184, 0, 105, 172]
abbrev dktX0_isSheet_0 : List UInt8 := dkwX0_isSheet_0 ++ []
theorem dksX0_isSheet_0 : cX0_isSheet.data.toList.drop 0 = dktX0_isSheet_0 := by decide +kernel
theorem dX0_isSheet_0 : decode cX0_isSheet 0 = .ok (.iload_n 0, 1) := dk_26 (dk_at dksX0_isSheet_0 0 rfl rfl)
theorem dX0_isSheet_1 : decode cX0_isSheet 1 = .ok (.iconst 0, 1) := dk_3 (dk_at dksX0_isSheet_0 1 rfl rfl)
theorem dX0_isSheet_2 : decode cX0_isSheet 2 = .ok (.iconst 3, 1) := dk_6 (dk_at dksX0_isSheet_0 2 rfl rfl)
theorem dX0_isSheet_3 : decode cX0_isSheet 3 = .ok (.invokestatic 105, 3) := dk_184 0 105 (dk_at dksX0_isSheet_0 3 rfl rfl)
theorem dX0_isSheet_6 : decode cX0_isSheet 6 = .ok (.ireturn, 1) := dk_172 (dk_at dksX0_isSheet_0 6 rfl rfl)
abbrev cX0_rowOf : ByteArray := prog_1_method_80_code
def yX0_rowOf : MethodName := ⟨RX0, "rowOf", "(ZI)Ljava/lang/Object;"⟩
def dkwX0_rowOf_0 : List UInt8 := [26, 153, 0, 7, 27, 188, 6, 176, 27, 188, 9, 176]
abbrev dktX0_rowOf_0 : List UInt8 := dkwX0_rowOf_0 ++ []
theorem dksX0_rowOf_0 : cX0_rowOf.data.toList.drop 0 = dktX0_rowOf_0 := by decide +kernel
theorem dX0_rowOf_0 : decode cX0_rowOf 0 = .ok (.iload_n 0, 1) := dk_26 (dk_at dksX0_rowOf_0 0 rfl rfl)
theorem dX0_rowOf_1 : decode cX0_rowOf 1 = .ok (.ifCond .eq 7, 3) := dk_153 0 7 (dk_at dksX0_rowOf_0 1 rfl rfl)
theorem dX0_rowOf_4 : decode cX0_rowOf 4 = .ok (.iload_n 1, 1) := dk_27 (dk_at dksX0_rowOf_0 4 rfl rfl)
theorem dX0_rowOf_5 : decode cX0_rowOf 5 = .ok (.newarray .float, 2) := dk_188_6 (dk_at dksX0_rowOf_0 5 rfl rfl)
theorem dX0_rowOf_7 : decode cX0_rowOf 7 = .ok (.areturn, 1) := dk_176 (dk_at dksX0_rowOf_0 7 rfl rfl)
theorem dX0_rowOf_8 : decode cX0_rowOf 8 = .ok (.iload_n 1, 1) := dk_27 (dk_at dksX0_rowOf_0 8 rfl rfl)
theorem dX0_rowOf_9 : decode cX0_rowOf 9 = .ok (.newarray .short, 2) := dk_188_9 (dk_at dksX0_rowOf_0 9 rfl rfl)
theorem dX0_rowOf_11 : decode cX0_rowOf 11 = .ok (.areturn, 1) := dk_176 (dk_at dksX0_rowOf_0 11 rfl rfl)
abbrev cX0_mark : ByteArray := prog_1_method_83_code
def yX0_mark : MethodName := ⟨RX0, "mark", "(III)I"⟩
def dkwX0_mark_2 : List UInt8 := [28, 29, 184, 1, 214, 167, 0, 6, 19, 1, 218, 172]
abbrev dktX0_mark_2 : List UInt8 := dkwX0_mark_2 ++ []
def dkwX0_mark_1 : List UInt8 := [154, 0, 7, 19, 1, 210, 172, 28, 3, 25, 4, 182, 1, 211, 4, 100, 184, 0, 105, 153, 0, 13, 25, 4]
abbrev dktX0_mark_1 : List UInt8 := dkwX0_mark_1 ++ dktX0_mark_2
def dkwX0_mark_0 : List UInt8 := [27, 184, 1, 181, 154, 0, 6, 18, 135, 172, 42, 180, 0, 80, 27, 50, 58, 4, 25, 4, 182, 1, 207]
abbrev dktX0_mark_0 : List UInt8 := dkwX0_mark_0 ++ dktX0_mark_1
theorem dksX0_mark_0 : cX0_mark.data.toList.drop 0 = dktX0_mark_0 := by decide +kernel
theorem dksX0_mark_1 : cX0_mark.data.toList.drop 23 = dktX0_mark_1 := dk_seg dksX0_mark_0 23 rfl rfl
theorem dksX0_mark_2 : cX0_mark.data.toList.drop 47 = dktX0_mark_2 := dk_seg dksX0_mark_1 24 rfl rfl
theorem dX0_mark_0 : decode cX0_mark 0 = .ok (.iload_n 1, 1) := dk_27 (dk_at dksX0_mark_0 0 rfl rfl)
theorem dX0_mark_1 : decode cX0_mark 1 = .ok (.invokestatic 437, 3) := dk_184 1 181 (dk_at dksX0_mark_0 1 rfl rfl)
theorem dX0_mark_4 : decode cX0_mark 4 = .ok (.ifCond .ne 6, 3) := dk_154 0 6 (dk_at dksX0_mark_0 4 rfl rfl)
theorem dX0_mark_7 : decode cX0_mark 7 = .ok (.ldc 135, 2) := dk_18 135 (dk_at dksX0_mark_0 7 rfl rfl)
theorem dX0_mark_9 : decode cX0_mark 9 = .ok (.ireturn, 1) := dk_172 (dk_at dksX0_mark_0 9 rfl rfl)
theorem dX0_mark_10 : decode cX0_mark 10 = .ok (.aload_n 0, 1) := dk_42 (dk_at dksX0_mark_0 10 rfl rfl)
theorem dX0_mark_11 : decode cX0_mark 11 = .ok (.getfield 80, 3) := dk_180 0 80 (dk_at dksX0_mark_0 11 rfl rfl)
theorem dX0_mark_14 : decode cX0_mark 14 = .ok (.iload_n 1, 1) := dk_27 (dk_at dksX0_mark_0 14 rfl rfl)
theorem dX0_mark_15 : decode cX0_mark 15 = .ok (.aaload, 1) := dk_50 (dk_at dksX0_mark_0 15 rfl rfl)
theorem dX0_mark_16 : decode cX0_mark 16 = .ok (.astore 4, 2) := dk_58 4 (dk_at dksX0_mark_0 16 rfl rfl)
theorem dX0_mark_18 : decode cX0_mark 18 = .ok (.aload 4, 2) := dk_25 4 (dk_at dksX0_mark_0 18 rfl rfl)
theorem dX0_mark_20 : decode cX0_mark 20 = .ok (.invokevirtual 463, 3) := dk_182 1 207 (dk_at dksX0_mark_0 20 rfl rfl)
theorem dX0_mark_23 : decode cX0_mark 23 = .ok (.ifCond .ne 7, 3) := dk_154 0 7 (dk_at dksX0_mark_1 0 rfl rfl)
theorem dX0_mark_26 : decode cX0_mark 26 = .ok (.ldc_w 466, 3) := dk_19 1 210 (dk_at dksX0_mark_1 3 rfl rfl)
theorem dX0_mark_29 : decode cX0_mark 29 = .ok (.ireturn, 1) := dk_172 (dk_at dksX0_mark_1 6 rfl rfl)
theorem dX0_mark_30 : decode cX0_mark 30 = .ok (.iload_n 2, 1) := dk_28 (dk_at dksX0_mark_1 7 rfl rfl)
theorem dX0_mark_31 : decode cX0_mark 31 = .ok (.iconst 0, 1) := dk_3 (dk_at dksX0_mark_1 8 rfl rfl)
theorem dX0_mark_32 : decode cX0_mark 32 = .ok (.aload 4, 2) := dk_25 4 (dk_at dksX0_mark_1 9 rfl rfl)
theorem dX0_mark_34 : decode cX0_mark 34 = .ok (.invokevirtual 467, 3) := dk_182 1 211 (dk_at dksX0_mark_1 11 rfl rfl)
theorem dX0_mark_37 : decode cX0_mark 37 = .ok (.iconst 1, 1) := dk_4 (dk_at dksX0_mark_1 14 rfl rfl)
theorem dX0_mark_38 : decode cX0_mark 38 = .ok (.isub, 1) := dk_100 (dk_at dksX0_mark_1 15 rfl rfl)
theorem dX0_mark_39 : decode cX0_mark 39 = .ok (.invokestatic 105, 3) := dk_184 0 105 (dk_at dksX0_mark_1 16 rfl rfl)
theorem dX0_mark_42 : decode cX0_mark 42 = .ok (.ifCond .eq 13, 3) := dk_153 0 13 (dk_at dksX0_mark_1 19 rfl rfl)
theorem dX0_mark_45 : decode cX0_mark 45 = .ok (.aload 4, 2) := dk_25 4 (dk_at dksX0_mark_1 22 rfl rfl)
theorem dX0_mark_47 : decode cX0_mark 47 = .ok (.iload_n 2, 1) := dk_28 (dk_at dksX0_mark_2 0 rfl rfl)
theorem dX0_mark_48 : decode cX0_mark 48 = .ok (.iload_n 3, 1) := dk_29 (dk_at dksX0_mark_2 1 rfl rfl)
theorem dX0_mark_49 : decode cX0_mark 49 = .ok (.invokestatic 470, 3) := dk_184 1 214 (dk_at dksX0_mark_2 2 rfl rfl)
theorem dX0_mark_52 : decode cX0_mark 52 = .ok (.goto 6, 3) := dk_167 0 6 (dk_at dksX0_mark_2 5 rfl rfl)
theorem dX0_mark_55 : decode cX0_mark 55 = .ok (.ldc_w 474, 3) := dk_19 1 218 (dk_at dksX0_mark_2 8 rfl rfl)
theorem dX0_mark_58 : decode cX0_mark 58 = .ok (.ireturn, 1) := dk_172 (dk_at dksX0_mark_2 11 rfl rfl)
abbrev cX0_markIn : ByteArray := prog_1_method_82_code
def yX0_markIn : MethodName := ⟨RX0, "markIn", "(LNeverSaid$Sheet;II)I"⟩
def dkwX0_markIn_2 : List UInt8 := [154, 0, 6, 18, 135, 172, 42, 27, 28, 182, 1, 204, 4, 172]
abbrev dktX0_markIn_2 : List UInt8 := dkwX0_markIn_2 ++ []
def dkwX0_markIn_1 : List UInt8 := [27, 19, 1, 202, 81, 4, 172, 42, 182, 1, 195, 153, 0, 19, 28, 19, 1, 203, 19, 1, 117, 184, 0, 105]
abbrev dktX0_markIn_1 : List UInt8 := dkwX0_markIn_1 ++ dktX0_markIn_2
def dkwX0_markIn_0 : List UInt8 := [28, 18, 3, 160, 0, 28, 42, 182, 1, 195, 154, 0, 7, 19, 1, 62, 172, 42, 180, 1, 184, 192, 1, 199]
abbrev dktX0_markIn_0 : List UInt8 := dkwX0_markIn_0 ++ dktX0_markIn_1
theorem dksX0_markIn_0 : cX0_markIn.data.toList.drop 0 = dktX0_markIn_0 := by decide +kernel
theorem dksX0_markIn_1 : cX0_markIn.data.toList.drop 24 = dktX0_markIn_1 := dk_seg dksX0_markIn_0 24 rfl rfl
theorem dksX0_markIn_2 : cX0_markIn.data.toList.drop 48 = dktX0_markIn_2 := dk_seg dksX0_markIn_1 24 rfl rfl
theorem dX0_markIn_0 : decode cX0_markIn 0 = .ok (.iload_n 2, 1) := dk_28 (dk_at dksX0_markIn_0 0 rfl rfl)
theorem dX0_markIn_1 : decode cX0_markIn 1 = .ok (.ldc 3, 2) := dk_18 3 (dk_at dksX0_markIn_0 1 rfl rfl)
theorem dX0_markIn_3 : decode cX0_markIn 3 = .ok (.if_icmp .ne 28, 3) := dk_160 0 28 (dk_at dksX0_markIn_0 3 rfl rfl)
theorem dX0_markIn_6 : decode cX0_markIn 6 = .ok (.aload_n 0, 1) := dk_42 (dk_at dksX0_markIn_0 6 rfl rfl)
theorem dX0_markIn_7 : decode cX0_markIn 7 = .ok (.invokevirtual 451, 3) := dk_182 1 195 (dk_at dksX0_markIn_0 7 rfl rfl)
theorem dX0_markIn_10 : decode cX0_markIn 10 = .ok (.ifCond .ne 7, 3) := dk_154 0 7 (dk_at dksX0_markIn_0 10 rfl rfl)
theorem dX0_markIn_13 : decode cX0_markIn 13 = .ok (.ldc_w 318, 3) := dk_19 1 62 (dk_at dksX0_markIn_0 13 rfl rfl)
theorem dX0_markIn_16 : decode cX0_markIn 16 = .ok (.ireturn, 1) := dk_172 (dk_at dksX0_markIn_0 16 rfl rfl)
theorem dX0_markIn_17 : decode cX0_markIn 17 = .ok (.aload_n 0, 1) := dk_42 (dk_at dksX0_markIn_0 17 rfl rfl)
theorem dX0_markIn_18 : decode cX0_markIn 18 = .ok (.getfield 440, 3) := dk_180 1 184 (dk_at dksX0_markIn_0 18 rfl rfl)
theorem dX0_markIn_21 : decode cX0_markIn 21 = .ok (.checkcast 455, 3) := dk_192 1 199 (dk_at dksX0_markIn_0 21 rfl rfl)
theorem dX0_markIn_24 : decode cX0_markIn 24 = .ok (.iload_n 1, 1) := dk_27 (dk_at dksX0_markIn_1 0 rfl rfl)
theorem dX0_markIn_25 : decode cX0_markIn 25 = .ok (.ldc_w 458, 3) := dk_19 1 202 (dk_at dksX0_markIn_1 1 rfl rfl)
theorem dX0_markIn_28 : decode cX0_markIn 28 = .ok (.fastore, 1) := dk_81 (dk_at dksX0_markIn_1 4 rfl rfl)
theorem dX0_markIn_29 : decode cX0_markIn 29 = .ok (.iconst 1, 1) := dk_4 (dk_at dksX0_markIn_1 5 rfl rfl)
theorem dX0_markIn_30 : decode cX0_markIn 30 = .ok (.ireturn, 1) := dk_172 (dk_at dksX0_markIn_1 6 rfl rfl)
theorem dX0_markIn_31 : decode cX0_markIn 31 = .ok (.aload_n 0, 1) := dk_42 (dk_at dksX0_markIn_1 7 rfl rfl)
theorem dX0_markIn_32 : decode cX0_markIn 32 = .ok (.invokevirtual 451, 3) := dk_182 1 195 (dk_at dksX0_markIn_1 8 rfl rfl)
theorem dX0_markIn_35 : decode cX0_markIn 35 = .ok (.ifCond .eq 19, 3) := dk_153 0 19 (dk_at dksX0_markIn_1 11 rfl rfl)
theorem dX0_markIn_38 : decode cX0_markIn 38 = .ok (.iload_n 2, 1) := dk_28 (dk_at dksX0_markIn_1 14 rfl rfl)
theorem dX0_markIn_39 : decode cX0_markIn 39 = .ok (.ldc_w 459, 3) := dk_19 1 203 (dk_at dksX0_markIn_1 15 rfl rfl)
theorem dX0_markIn_42 : decode cX0_markIn 42 = .ok (.ldc_w 373, 3) := dk_19 1 117 (dk_at dksX0_markIn_1 18 rfl rfl)
theorem dX0_markIn_45 : decode cX0_markIn 45 = .ok (.invokestatic 105, 3) := dk_184 0 105 (dk_at dksX0_markIn_1 21 rfl rfl)
theorem dX0_markIn_48 : decode cX0_markIn 48 = .ok (.ifCond .ne 6, 3) := dk_154 0 6 (dk_at dksX0_markIn_2 0 rfl rfl)
theorem dX0_markIn_51 : decode cX0_markIn 51 = .ok (.ldc 135, 2) := dk_18 135 (dk_at dksX0_markIn_2 3 rfl rfl)
theorem dX0_markIn_53 : decode cX0_markIn 53 = .ok (.ireturn, 1) := dk_172 (dk_at dksX0_markIn_2 5 rfl rfl)
theorem dX0_markIn_54 : decode cX0_markIn 54 = .ok (.aload_n 0, 1) := dk_42 (dk_at dksX0_markIn_2 6 rfl rfl)
theorem dX0_markIn_55 : decode cX0_markIn 55 = .ok (.iload_n 1, 1) := dk_27 (dk_at dksX0_markIn_2 7 rfl rfl)
theorem dX0_markIn_56 : decode cX0_markIn 56 = .ok (.iload_n 2, 1) := dk_28 (dk_at dksX0_markIn_2 8 rfl rfl)
theorem dX0_markIn_57 : decode cX0_markIn 57 = .ok (.invokevirtual 460, 3) := dk_182 1 204 (dk_at dksX0_markIn_2 9 rfl rfl)
theorem dX0_markIn_60 : decode cX0_markIn 60 = .ok (.iconst 1, 1) := dk_4 (dk_at dksX0_markIn_2 12 rfl rfl)
theorem dX0_markIn_61 : decode cX0_markIn 61 = .ok (.ireturn, 1) := dk_172 (dk_at dksX0_markIn_2 13 rfl rfl)
abbrev cX0_pour : ByteArray := prog_1_method_84_code
def yX0_pour : MethodName := ⟨RX0, "pour", "(I)I"⟩
def dkwX0_pour_5 : List UInt8 := [50, 180, 1, 11, 21, 5, 160, 0, 7, 3, 167, 0, 4, 4, 96, 62, 132, 4, 1, 167, 255, 152, 29, 172]
abbrev dktX0_pour_5 : List UInt8 := dkwX0_pour_5 ++ []
def dkwX0_pour_4 : List UInt8 := [3, 16, 100, 184, 1, 118, 167, 0, 5, 21, 5, 181, 1, 11, 29, 42, 180, 0, 46, 180, 1, 3, 21, 4]
abbrev dktX0_pour_4 : List UInt8 := dkwX0_pour_4 ++ dktX0_pour_5
def dkwX0_pour_3 : List UInt8 := [180, 0, 46, 180, 1, 3, 21, 4, 50, 44, 21, 4, 182, 1, 219, 153, 0, 18, 44, 21, 4, 182, 1, 222]
abbrev dktX0_pour_3 : List UInt8 := dkwX0_pour_3 ++ dktX0_pour_4
def dkwX0_pour_2 : List UInt8 := [182, 1, 211, 162, 0, 89, 42, 180, 0, 46, 180, 1, 3, 21, 4, 50, 180, 1, 11, 54, 5, 42]
abbrev dktX0_pour_2 : List UInt8 := dkwX0_pour_2 ++ dktX0_pour_3
def dkwX0_pour_1 : List UInt8 := [19, 1, 210, 172, 3, 62, 3, 54, 4, 21, 4, 42, 180, 0, 46, 180, 0, 101, 162, 0, 98, 21, 4, 44]
abbrev dktX0_pour_1 : List UInt8 := dkwX0_pour_1 ++ dktX0_pour_2
def dkwX0_pour_0 : List UInt8 := [27, 184, 1, 181, 154, 0, 6, 18, 135, 172, 42, 180, 0, 80, 27, 50, 77, 44, 182, 1, 207, 154, 0, 7]
abbrev dktX0_pour_0 : List UInt8 := dkwX0_pour_0 ++ dktX0_pour_1
theorem dksX0_pour_0 : cX0_pour.data.toList.drop 0 = dktX0_pour_0 := by decide +kernel
theorem dksX0_pour_1 : cX0_pour.data.toList.drop 24 = dktX0_pour_1 := dk_seg dksX0_pour_0 24 rfl rfl
theorem dksX0_pour_2 : cX0_pour.data.toList.drop 48 = dktX0_pour_2 := dk_seg dksX0_pour_1 24 rfl rfl
theorem dksX0_pour_3 : cX0_pour.data.toList.drop 70 = dktX0_pour_3 := dk_seg dksX0_pour_2 22 rfl rfl
theorem dksX0_pour_4 : cX0_pour.data.toList.drop 94 = dktX0_pour_4 := dk_seg dksX0_pour_3 24 rfl rfl
theorem dksX0_pour_5 : cX0_pour.data.toList.drop 118 = dktX0_pour_5 := dk_seg dksX0_pour_4 24 rfl rfl
theorem dX0_pour_0 : decode cX0_pour 0 = .ok (.iload_n 1, 1) := dk_27 (dk_at dksX0_pour_0 0 rfl rfl)
theorem dX0_pour_1 : decode cX0_pour 1 = .ok (.invokestatic 437, 3) := dk_184 1 181 (dk_at dksX0_pour_0 1 rfl rfl)
theorem dX0_pour_4 : decode cX0_pour 4 = .ok (.ifCond .ne 6, 3) := dk_154 0 6 (dk_at dksX0_pour_0 4 rfl rfl)
theorem dX0_pour_7 : decode cX0_pour 7 = .ok (.ldc 135, 2) := dk_18 135 (dk_at dksX0_pour_0 7 rfl rfl)
theorem dX0_pour_9 : decode cX0_pour 9 = .ok (.ireturn, 1) := dk_172 (dk_at dksX0_pour_0 9 rfl rfl)
theorem dX0_pour_10 : decode cX0_pour 10 = .ok (.aload_n 0, 1) := dk_42 (dk_at dksX0_pour_0 10 rfl rfl)
theorem dX0_pour_11 : decode cX0_pour 11 = .ok (.getfield 80, 3) := dk_180 0 80 (dk_at dksX0_pour_0 11 rfl rfl)
theorem dX0_pour_14 : decode cX0_pour 14 = .ok (.iload_n 1, 1) := dk_27 (dk_at dksX0_pour_0 14 rfl rfl)
theorem dX0_pour_15 : decode cX0_pour 15 = .ok (.aaload, 1) := dk_50 (dk_at dksX0_pour_0 15 rfl rfl)
theorem dX0_pour_16 : decode cX0_pour 16 = .ok (.astore_n 2, 1) := dk_77 (dk_at dksX0_pour_0 16 rfl rfl)
theorem dX0_pour_17 : decode cX0_pour 17 = .ok (.aload_n 2, 1) := dk_44 (dk_at dksX0_pour_0 17 rfl rfl)
theorem dX0_pour_18 : decode cX0_pour 18 = .ok (.invokevirtual 463, 3) := dk_182 1 207 (dk_at dksX0_pour_0 18 rfl rfl)
theorem dX0_pour_21 : decode cX0_pour 21 = .ok (.ifCond .ne 7, 3) := dk_154 0 7 (dk_at dksX0_pour_0 21 rfl rfl)
theorem dX0_pour_24 : decode cX0_pour 24 = .ok (.ldc_w 466, 3) := dk_19 1 210 (dk_at dksX0_pour_1 0 rfl rfl)
theorem dX0_pour_27 : decode cX0_pour 27 = .ok (.ireturn, 1) := dk_172 (dk_at dksX0_pour_1 3 rfl rfl)
theorem dX0_pour_28 : decode cX0_pour 28 = .ok (.iconst 0, 1) := dk_3 (dk_at dksX0_pour_1 4 rfl rfl)
theorem dX0_pour_29 : decode cX0_pour 29 = .ok (.istore_n 3, 1) := dk_62 (dk_at dksX0_pour_1 5 rfl rfl)
theorem dX0_pour_30 : decode cX0_pour 30 = .ok (.iconst 0, 1) := dk_3 (dk_at dksX0_pour_1 6 rfl rfl)
theorem dX0_pour_31 : decode cX0_pour 31 = .ok (.istore 4, 2) := dk_54 4 (dk_at dksX0_pour_1 7 rfl rfl)
theorem dX0_pour_33 : decode cX0_pour 33 = .ok (.iload 4, 2) := dk_21 4 (dk_at dksX0_pour_1 9 rfl rfl)
theorem dX0_pour_35 : decode cX0_pour 35 = .ok (.aload_n 0, 1) := dk_42 (dk_at dksX0_pour_1 11 rfl rfl)
theorem dX0_pour_36 : decode cX0_pour 36 = .ok (.getfield 46, 3) := dk_180 0 46 (dk_at dksX0_pour_1 12 rfl rfl)
theorem dX0_pour_39 : decode cX0_pour 39 = .ok (.getfield 101, 3) := dk_180 0 101 (dk_at dksX0_pour_1 15 rfl rfl)
theorem dX0_pour_42 : decode cX0_pour 42 = .ok (.if_icmp .ge 98, 3) := dk_162 0 98 (dk_at dksX0_pour_1 18 rfl rfl)
theorem dX0_pour_45 : decode cX0_pour 45 = .ok (.iload 4, 2) := dk_21 4 (dk_at dksX0_pour_1 21 rfl rfl)
theorem dX0_pour_47 : decode cX0_pour 47 = .ok (.aload_n 2, 1) := dk_44 (dk_at dksX0_pour_1 23 rfl rfl)
theorem dX0_pour_48 : decode cX0_pour 48 = .ok (.invokevirtual 467, 3) := dk_182 1 211 (dk_at dksX0_pour_2 0 rfl rfl)
theorem dX0_pour_51 : decode cX0_pour 51 = .ok (.if_icmp .ge 89, 3) := dk_162 0 89 (dk_at dksX0_pour_2 3 rfl rfl)
theorem dX0_pour_54 : decode cX0_pour 54 = .ok (.aload_n 0, 1) := dk_42 (dk_at dksX0_pour_2 6 rfl rfl)
theorem dX0_pour_55 : decode cX0_pour 55 = .ok (.getfield 46, 3) := dk_180 0 46 (dk_at dksX0_pour_2 7 rfl rfl)
theorem dX0_pour_58 : decode cX0_pour 58 = .ok (.getfield 259, 3) := dk_180 1 3 (dk_at dksX0_pour_2 10 rfl rfl)
theorem dX0_pour_61 : decode cX0_pour 61 = .ok (.iload 4, 2) := dk_21 4 (dk_at dksX0_pour_2 13 rfl rfl)
theorem dX0_pour_63 : decode cX0_pour 63 = .ok (.aaload, 1) := dk_50 (dk_at dksX0_pour_2 15 rfl rfl)
theorem dX0_pour_64 : decode cX0_pour 64 = .ok (.getfield 267, 3) := dk_180 1 11 (dk_at dksX0_pour_2 16 rfl rfl)
theorem dX0_pour_67 : decode cX0_pour 67 = .ok (.istore 5, 2) := dk_54 5 (dk_at dksX0_pour_2 19 rfl rfl)
theorem dX0_pour_69 : decode cX0_pour 69 = .ok (.aload_n 0, 1) := dk_42 (dk_at dksX0_pour_2 21 rfl rfl)
theorem dX0_pour_70 : decode cX0_pour 70 = .ok (.getfield 46, 3) := dk_180 0 46 (dk_at dksX0_pour_3 0 rfl rfl)
theorem dX0_pour_73 : decode cX0_pour 73 = .ok (.getfield 259, 3) := dk_180 1 3 (dk_at dksX0_pour_3 3 rfl rfl)
theorem dX0_pour_76 : decode cX0_pour 76 = .ok (.iload 4, 2) := dk_21 4 (dk_at dksX0_pour_3 6 rfl rfl)
theorem dX0_pour_78 : decode cX0_pour 78 = .ok (.aaload, 1) := dk_50 (dk_at dksX0_pour_3 8 rfl rfl)
theorem dX0_pour_79 : decode cX0_pour 79 = .ok (.aload_n 2, 1) := dk_44 (dk_at dksX0_pour_3 9 rfl rfl)
theorem dX0_pour_80 : decode cX0_pour 80 = .ok (.iload 4, 2) := dk_21 4 (dk_at dksX0_pour_3 10 rfl rfl)
theorem dX0_pour_82 : decode cX0_pour 82 = .ok (.invokevirtual 475, 3) := dk_182 1 219 (dk_at dksX0_pour_3 12 rfl rfl)
theorem dX0_pour_85 : decode cX0_pour 85 = .ok (.ifCond .eq 18, 3) := dk_153 0 18 (dk_at dksX0_pour_3 15 rfl rfl)
theorem dX0_pour_88 : decode cX0_pour 88 = .ok (.aload_n 2, 1) := dk_44 (dk_at dksX0_pour_3 18 rfl rfl)
theorem dX0_pour_89 : decode cX0_pour 89 = .ok (.iload 4, 2) := dk_21 4 (dk_at dksX0_pour_3 19 rfl rfl)
theorem dX0_pour_91 : decode cX0_pour 91 = .ok (.invokevirtual 478, 3) := dk_182 1 222 (dk_at dksX0_pour_3 21 rfl rfl)
theorem dX0_pour_94 : decode cX0_pour 94 = .ok (.iconst 0, 1) := dk_3 (dk_at dksX0_pour_4 0 rfl rfl)
theorem dX0_pour_95 : decode cX0_pour 95 = .ok (.bipush 100, 2) := dk_16 100 (dk_at dksX0_pour_4 1 rfl rfl)
theorem dX0_pour_97 : decode cX0_pour 97 = .ok (.invokestatic 374, 3) := dk_184 1 118 (dk_at dksX0_pour_4 3 rfl rfl)
theorem dX0_pour_100 : decode cX0_pour 100 = .ok (.goto 5, 3) := dk_167 0 5 (dk_at dksX0_pour_4 6 rfl rfl)
theorem dX0_pour_103 : decode cX0_pour 103 = .ok (.iload 5, 2) := dk_21 5 (dk_at dksX0_pour_4 9 rfl rfl)
theorem dX0_pour_105 : decode cX0_pour 105 = .ok (.putfield 267, 3) := dk_181 1 11 (dk_at dksX0_pour_4 11 rfl rfl)
theorem dX0_pour_108 : decode cX0_pour 108 = .ok (.iload_n 3, 1) := dk_29 (dk_at dksX0_pour_4 14 rfl rfl)
theorem dX0_pour_109 : decode cX0_pour 109 = .ok (.aload_n 0, 1) := dk_42 (dk_at dksX0_pour_4 15 rfl rfl)
theorem dX0_pour_110 : decode cX0_pour 110 = .ok (.getfield 46, 3) := dk_180 0 46 (dk_at dksX0_pour_4 16 rfl rfl)
theorem dX0_pour_113 : decode cX0_pour 113 = .ok (.getfield 259, 3) := dk_180 1 3 (dk_at dksX0_pour_4 19 rfl rfl)
theorem dX0_pour_116 : decode cX0_pour 116 = .ok (.iload 4, 2) := dk_21 4 (dk_at dksX0_pour_4 22 rfl rfl)
theorem dX0_pour_118 : decode cX0_pour 118 = .ok (.aaload, 1) := dk_50 (dk_at dksX0_pour_5 0 rfl rfl)
theorem dX0_pour_119 : decode cX0_pour 119 = .ok (.getfield 267, 3) := dk_180 1 11 (dk_at dksX0_pour_5 1 rfl rfl)
theorem dX0_pour_122 : decode cX0_pour 122 = .ok (.iload 5, 2) := dk_21 5 (dk_at dksX0_pour_5 4 rfl rfl)
theorem dX0_pour_124 : decode cX0_pour 124 = .ok (.if_icmp .ne 7, 3) := dk_160 0 7 (dk_at dksX0_pour_5 6 rfl rfl)
theorem dX0_pour_127 : decode cX0_pour 127 = .ok (.iconst 0, 1) := dk_3 (dk_at dksX0_pour_5 9 rfl rfl)
theorem dX0_pour_128 : decode cX0_pour 128 = .ok (.goto 4, 3) := dk_167 0 4 (dk_at dksX0_pour_5 10 rfl rfl)
theorem dX0_pour_131 : decode cX0_pour 131 = .ok (.iconst 1, 1) := dk_4 (dk_at dksX0_pour_5 13 rfl rfl)
theorem dX0_pour_132 : decode cX0_pour 132 = .ok (.iadd, 1) := dk_96 (dk_at dksX0_pour_5 14 rfl rfl)
theorem dX0_pour_133 : decode cX0_pour 133 = .ok (.istore_n 3, 1) := dk_62 (dk_at dksX0_pour_5 15 rfl rfl)
theorem dX0_pour_134 : decode cX0_pour 134 = .ok (.iinc 4 1, 3) := dk_132 4 1 (dk_at dksX0_pour_5 16 rfl rfl)
theorem dX0_pour_137 : decode cX0_pour 137 = .ok (.goto (-104), 3) := dk_167 255 152 (dk_at dksX0_pour_5 19 rfl rfl)
theorem dX0_pour_140 : decode cX0_pour 140 = .ok (.iload_n 3, 1) := dk_29 (dk_at dksX0_pour_5 22 rfl rfl)
theorem dX0_pour_141 : decode cX0_pour 141 = .ok (.ireturn, 1) := dk_172 (dk_at dksX0_pour_5 23 rfl rfl)
abbrev cX0_reads : ByteArray := prog_1_method_85_code
def yX0_reads : MethodName := ⟨RX0, "reads", "(I)I"⟩
def dkwX0_reads_3 : List UInt8 := [159, 0, 5, 29, 172, 132, 3, 1, 167, 255, 207, 18, 3, 172]
abbrev dktX0_reads_3 : List UInt8 := dkwX0_reads_3 ++ []
def dkwX0_reads_2 : List UInt8 := [182, 1, 121, 153, 0, 23, 44, 29, 182, 1, 222, 42, 180, 0, 46, 180, 1, 22, 29, 50, 182, 1, 106]
abbrev dktX0_reads_2 : List UInt8 := dkwX0_reads_2 ++ dktX0_reads_3
def dkwX0_reads_1 : List UInt8 := [19, 1, 210, 172, 3, 62, 29, 44, 182, 1, 211, 162, 0, 47, 44, 29, 182, 1, 219, 153, 0, 33, 42, 29]
abbrev dktX0_reads_1 : List UInt8 := dkwX0_reads_1 ++ dktX0_reads_2
def dkwX0_reads_0 : List UInt8 := [27, 184, 1, 181, 154, 0, 6, 18, 135, 172, 42, 180, 0, 80, 27, 50, 77, 44, 182, 1, 207, 154, 0, 7]
abbrev dktX0_reads_0 : List UInt8 := dkwX0_reads_0 ++ dktX0_reads_1
theorem dksX0_reads_0 : cX0_reads.data.toList.drop 0 = dktX0_reads_0 := by decide +kernel
theorem dksX0_reads_1 : cX0_reads.data.toList.drop 24 = dktX0_reads_1 := dk_seg dksX0_reads_0 24 rfl rfl
theorem dksX0_reads_2 : cX0_reads.data.toList.drop 48 = dktX0_reads_2 := dk_seg dksX0_reads_1 24 rfl rfl
theorem dksX0_reads_3 : cX0_reads.data.toList.drop 71 = dktX0_reads_3 := dk_seg dksX0_reads_2 23 rfl rfl
theorem dX0_reads_0 : decode cX0_reads 0 = .ok (.iload_n 1, 1) := dk_27 (dk_at dksX0_reads_0 0 rfl rfl)
theorem dX0_reads_1 : decode cX0_reads 1 = .ok (.invokestatic 437, 3) := dk_184 1 181 (dk_at dksX0_reads_0 1 rfl rfl)
theorem dX0_reads_4 : decode cX0_reads 4 = .ok (.ifCond .ne 6, 3) := dk_154 0 6 (dk_at dksX0_reads_0 4 rfl rfl)
theorem dX0_reads_7 : decode cX0_reads 7 = .ok (.ldc 135, 2) := dk_18 135 (dk_at dksX0_reads_0 7 rfl rfl)
theorem dX0_reads_9 : decode cX0_reads 9 = .ok (.ireturn, 1) := dk_172 (dk_at dksX0_reads_0 9 rfl rfl)
theorem dX0_reads_10 : decode cX0_reads 10 = .ok (.aload_n 0, 1) := dk_42 (dk_at dksX0_reads_0 10 rfl rfl)
theorem dX0_reads_11 : decode cX0_reads 11 = .ok (.getfield 80, 3) := dk_180 0 80 (dk_at dksX0_reads_0 11 rfl rfl)
theorem dX0_reads_14 : decode cX0_reads 14 = .ok (.iload_n 1, 1) := dk_27 (dk_at dksX0_reads_0 14 rfl rfl)
theorem dX0_reads_15 : decode cX0_reads 15 = .ok (.aaload, 1) := dk_50 (dk_at dksX0_reads_0 15 rfl rfl)
theorem dX0_reads_16 : decode cX0_reads 16 = .ok (.astore_n 2, 1) := dk_77 (dk_at dksX0_reads_0 16 rfl rfl)
theorem dX0_reads_17 : decode cX0_reads 17 = .ok (.aload_n 2, 1) := dk_44 (dk_at dksX0_reads_0 17 rfl rfl)
theorem dX0_reads_18 : decode cX0_reads 18 = .ok (.invokevirtual 463, 3) := dk_182 1 207 (dk_at dksX0_reads_0 18 rfl rfl)
theorem dX0_reads_21 : decode cX0_reads 21 = .ok (.ifCond .ne 7, 3) := dk_154 0 7 (dk_at dksX0_reads_0 21 rfl rfl)
theorem dX0_reads_24 : decode cX0_reads 24 = .ok (.ldc_w 466, 3) := dk_19 1 210 (dk_at dksX0_reads_1 0 rfl rfl)
theorem dX0_reads_27 : decode cX0_reads 27 = .ok (.ireturn, 1) := dk_172 (dk_at dksX0_reads_1 3 rfl rfl)
theorem dX0_reads_28 : decode cX0_reads 28 = .ok (.iconst 0, 1) := dk_3 (dk_at dksX0_reads_1 4 rfl rfl)
theorem dX0_reads_29 : decode cX0_reads 29 = .ok (.istore_n 3, 1) := dk_62 (dk_at dksX0_reads_1 5 rfl rfl)
theorem dX0_reads_30 : decode cX0_reads 30 = .ok (.iload_n 3, 1) := dk_29 (dk_at dksX0_reads_1 6 rfl rfl)
theorem dX0_reads_31 : decode cX0_reads 31 = .ok (.aload_n 2, 1) := dk_44 (dk_at dksX0_reads_1 7 rfl rfl)
theorem dX0_reads_32 : decode cX0_reads 32 = .ok (.invokevirtual 467, 3) := dk_182 1 211 (dk_at dksX0_reads_1 8 rfl rfl)
theorem dX0_reads_35 : decode cX0_reads 35 = .ok (.if_icmp .ge 47, 3) := dk_162 0 47 (dk_at dksX0_reads_1 11 rfl rfl)
theorem dX0_reads_38 : decode cX0_reads 38 = .ok (.aload_n 2, 1) := dk_44 (dk_at dksX0_reads_1 14 rfl rfl)
theorem dX0_reads_39 : decode cX0_reads 39 = .ok (.iload_n 3, 1) := dk_29 (dk_at dksX0_reads_1 15 rfl rfl)
theorem dX0_reads_40 : decode cX0_reads 40 = .ok (.invokevirtual 475, 3) := dk_182 1 219 (dk_at dksX0_reads_1 16 rfl rfl)
theorem dX0_reads_43 : decode cX0_reads 43 = .ok (.ifCond .eq 33, 3) := dk_153 0 33 (dk_at dksX0_reads_1 19 rfl rfl)
theorem dX0_reads_46 : decode cX0_reads 46 = .ok (.aload_n 0, 1) := dk_42 (dk_at dksX0_reads_1 22 rfl rfl)
theorem dX0_reads_47 : decode cX0_reads 47 = .ok (.iload_n 3, 1) := dk_29 (dk_at dksX0_reads_1 23 rfl rfl)
theorem dX0_reads_48 : decode cX0_reads 48 = .ok (.invokevirtual 377, 3) := dk_182 1 121 (dk_at dksX0_reads_2 0 rfl rfl)
theorem dX0_reads_51 : decode cX0_reads 51 = .ok (.ifCond .eq 23, 3) := dk_153 0 23 (dk_at dksX0_reads_2 3 rfl rfl)
theorem dX0_reads_54 : decode cX0_reads 54 = .ok (.aload_n 2, 1) := dk_44 (dk_at dksX0_reads_2 6 rfl rfl)
theorem dX0_reads_55 : decode cX0_reads 55 = .ok (.iload_n 3, 1) := dk_29 (dk_at dksX0_reads_2 7 rfl rfl)
theorem dX0_reads_56 : decode cX0_reads 56 = .ok (.invokevirtual 478, 3) := dk_182 1 222 (dk_at dksX0_reads_2 8 rfl rfl)
theorem dX0_reads_59 : decode cX0_reads 59 = .ok (.aload_n 0, 1) := dk_42 (dk_at dksX0_reads_2 11 rfl rfl)
theorem dX0_reads_60 : decode cX0_reads 60 = .ok (.getfield 46, 3) := dk_180 0 46 (dk_at dksX0_reads_2 12 rfl rfl)
theorem dX0_reads_63 : decode cX0_reads 63 = .ok (.getfield 278, 3) := dk_180 1 22 (dk_at dksX0_reads_2 15 rfl rfl)
theorem dX0_reads_66 : decode cX0_reads 66 = .ok (.iload_n 3, 1) := dk_29 (dk_at dksX0_reads_2 18 rfl rfl)
theorem dX0_reads_67 : decode cX0_reads 67 = .ok (.aaload, 1) := dk_50 (dk_at dksX0_reads_2 19 rfl rfl)
theorem dX0_reads_68 : decode cX0_reads 68 = .ok (.invokevirtual 362, 3) := dk_182 1 106 (dk_at dksX0_reads_2 20 rfl rfl)
theorem dX0_reads_71 : decode cX0_reads 71 = .ok (.if_icmp .eq 5, 3) := dk_159 0 5 (dk_at dksX0_reads_3 0 rfl rfl)
theorem dX0_reads_74 : decode cX0_reads 74 = .ok (.iload_n 3, 1) := dk_29 (dk_at dksX0_reads_3 3 rfl rfl)
theorem dX0_reads_75 : decode cX0_reads 75 = .ok (.ireturn, 1) := dk_172 (dk_at dksX0_reads_3 4 rfl rfl)
theorem dX0_reads_76 : decode cX0_reads 76 = .ok (.iinc 3 1, 3) := dk_132 3 1 (dk_at dksX0_reads_3 5 rfl rfl)
theorem dX0_reads_79 : decode cX0_reads 79 = .ok (.goto (-49), 3) := dk_167 255 207 (dk_at dksX0_reads_3 8 rfl rfl)
theorem dX0_reads_82 : decode cX0_reads 82 = .ok (.ldc 3, 2) := dk_18 3 (dk_at dksX0_reads_3 11 rfl rfl)
theorem dX0_reads_84 : decode cX0_reads 84 = .ok (.ireturn, 1) := dk_172 (dk_at dksX0_reads_3 13 rfl rfl)
abbrev cX0_copy : ByteArray := prog_1_method_87_code
def yX0_copy : MethodName := ⟨RX0, "copy", "(IIIII)I"⟩
def dkwX0_copy_5 : List UInt8 := [25, 7, 21, 4, 21, 5, 182, 1, 227, 21, 5, 172]
abbrev dktX0_copy_5 : List UInt8 := dkwX0_copy_5 ++ []
def dkwX0_copy_4 : List UInt8 := [163, 0, 16, 21, 4, 25, 7, 182, 1, 211, 21, 5, 100, 164, 0, 7, 19, 1, 218, 172, 42, 25, 6, 28]
abbrev dktX0_copy_4 : List UInt8 := dkwX0_copy_4 ++ dktX0_copy_5
def dkwX0_copy_3 : List UInt8 := [28, 155, 0, 38, 21, 4, 155, 0, 33, 21, 5, 155, 0, 28, 28, 25, 6, 182, 1, 211, 21, 5, 100]
abbrev dktX0_copy_3 : List UInt8 := dkwX0_copy_3 ++ dktX0_copy_4
def dkwX0_copy_2 : List UInt8 := [154, 0, 7, 19, 1, 210, 172, 25, 6, 182, 1, 195, 25, 7, 182, 1, 195, 159, 0, 7, 19, 1, 62, 172]
abbrev dktX0_copy_2 : List UInt8 := dkwX0_copy_2 ++ dktX0_copy_3
def dkwX0_copy_1 : List UInt8 := [58, 6, 42, 180, 0, 80, 29, 50, 58, 7, 25, 6, 182, 1, 207, 153, 0, 11, 25, 7, 182, 1, 207]
abbrev dktX0_copy_1 : List UInt8 := dkwX0_copy_1 ++ dktX0_copy_2
def dkwX0_copy_0 : List UInt8 := [27, 184, 1, 181, 153, 0, 10, 29, 184, 1, 181, 154, 0, 6, 18, 135, 172, 42, 180, 0, 80, 27, 50]
abbrev dktX0_copy_0 : List UInt8 := dkwX0_copy_0 ++ dktX0_copy_1
theorem dksX0_copy_0 : cX0_copy.data.toList.drop 0 = dktX0_copy_0 := by decide +kernel
theorem dksX0_copy_1 : cX0_copy.data.toList.drop 23 = dktX0_copy_1 := dk_seg dksX0_copy_0 23 rfl rfl
theorem dksX0_copy_2 : cX0_copy.data.toList.drop 46 = dktX0_copy_2 := dk_seg dksX0_copy_1 23 rfl rfl
theorem dksX0_copy_3 : cX0_copy.data.toList.drop 70 = dktX0_copy_3 := dk_seg dksX0_copy_2 24 rfl rfl
theorem dksX0_copy_4 : cX0_copy.data.toList.drop 93 = dktX0_copy_4 := dk_seg dksX0_copy_3 23 rfl rfl
theorem dksX0_copy_5 : cX0_copy.data.toList.drop 117 = dktX0_copy_5 := dk_seg dksX0_copy_4 24 rfl rfl
theorem dX0_copy_0 : decode cX0_copy 0 = .ok (.iload_n 1, 1) := dk_27 (dk_at dksX0_copy_0 0 rfl rfl)
theorem dX0_copy_1 : decode cX0_copy 1 = .ok (.invokestatic 437, 3) := dk_184 1 181 (dk_at dksX0_copy_0 1 rfl rfl)
theorem dX0_copy_4 : decode cX0_copy 4 = .ok (.ifCond .eq 10, 3) := dk_153 0 10 (dk_at dksX0_copy_0 4 rfl rfl)
theorem dX0_copy_7 : decode cX0_copy 7 = .ok (.iload_n 3, 1) := dk_29 (dk_at dksX0_copy_0 7 rfl rfl)
theorem dX0_copy_8 : decode cX0_copy 8 = .ok (.invokestatic 437, 3) := dk_184 1 181 (dk_at dksX0_copy_0 8 rfl rfl)
theorem dX0_copy_11 : decode cX0_copy 11 = .ok (.ifCond .ne 6, 3) := dk_154 0 6 (dk_at dksX0_copy_0 11 rfl rfl)
theorem dX0_copy_14 : decode cX0_copy 14 = .ok (.ldc 135, 2) := dk_18 135 (dk_at dksX0_copy_0 14 rfl rfl)
theorem dX0_copy_16 : decode cX0_copy 16 = .ok (.ireturn, 1) := dk_172 (dk_at dksX0_copy_0 16 rfl rfl)
theorem dX0_copy_17 : decode cX0_copy 17 = .ok (.aload_n 0, 1) := dk_42 (dk_at dksX0_copy_0 17 rfl rfl)
theorem dX0_copy_18 : decode cX0_copy 18 = .ok (.getfield 80, 3) := dk_180 0 80 (dk_at dksX0_copy_0 18 rfl rfl)
theorem dX0_copy_21 : decode cX0_copy 21 = .ok (.iload_n 1, 1) := dk_27 (dk_at dksX0_copy_0 21 rfl rfl)
theorem dX0_copy_22 : decode cX0_copy 22 = .ok (.aaload, 1) := dk_50 (dk_at dksX0_copy_0 22 rfl rfl)
theorem dX0_copy_23 : decode cX0_copy 23 = .ok (.astore 6, 2) := dk_58 6 (dk_at dksX0_copy_1 0 rfl rfl)
theorem dX0_copy_25 : decode cX0_copy 25 = .ok (.aload_n 0, 1) := dk_42 (dk_at dksX0_copy_1 2 rfl rfl)
theorem dX0_copy_26 : decode cX0_copy 26 = .ok (.getfield 80, 3) := dk_180 0 80 (dk_at dksX0_copy_1 3 rfl rfl)
theorem dX0_copy_29 : decode cX0_copy 29 = .ok (.iload_n 3, 1) := dk_29 (dk_at dksX0_copy_1 6 rfl rfl)
theorem dX0_copy_30 : decode cX0_copy 30 = .ok (.aaload, 1) := dk_50 (dk_at dksX0_copy_1 7 rfl rfl)
theorem dX0_copy_31 : decode cX0_copy 31 = .ok (.astore 7, 2) := dk_58 7 (dk_at dksX0_copy_1 8 rfl rfl)
theorem dX0_copy_33 : decode cX0_copy 33 = .ok (.aload 6, 2) := dk_25 6 (dk_at dksX0_copy_1 10 rfl rfl)
theorem dX0_copy_35 : decode cX0_copy 35 = .ok (.invokevirtual 463, 3) := dk_182 1 207 (dk_at dksX0_copy_1 12 rfl rfl)
theorem dX0_copy_38 : decode cX0_copy 38 = .ok (.ifCond .eq 11, 3) := dk_153 0 11 (dk_at dksX0_copy_1 15 rfl rfl)
theorem dX0_copy_41 : decode cX0_copy 41 = .ok (.aload 7, 2) := dk_25 7 (dk_at dksX0_copy_1 18 rfl rfl)
theorem dX0_copy_43 : decode cX0_copy 43 = .ok (.invokevirtual 463, 3) := dk_182 1 207 (dk_at dksX0_copy_1 20 rfl rfl)
theorem dX0_copy_46 : decode cX0_copy 46 = .ok (.ifCond .ne 7, 3) := dk_154 0 7 (dk_at dksX0_copy_2 0 rfl rfl)
theorem dX0_copy_49 : decode cX0_copy 49 = .ok (.ldc_w 466, 3) := dk_19 1 210 (dk_at dksX0_copy_2 3 rfl rfl)
theorem dX0_copy_52 : decode cX0_copy 52 = .ok (.ireturn, 1) := dk_172 (dk_at dksX0_copy_2 6 rfl rfl)
theorem dX0_copy_53 : decode cX0_copy 53 = .ok (.aload 6, 2) := dk_25 6 (dk_at dksX0_copy_2 7 rfl rfl)
theorem dX0_copy_55 : decode cX0_copy 55 = .ok (.invokevirtual 451, 3) := dk_182 1 195 (dk_at dksX0_copy_2 9 rfl rfl)
theorem dX0_copy_58 : decode cX0_copy 58 = .ok (.aload 7, 2) := dk_25 7 (dk_at dksX0_copy_2 12 rfl rfl)
theorem dX0_copy_60 : decode cX0_copy 60 = .ok (.invokevirtual 451, 3) := dk_182 1 195 (dk_at dksX0_copy_2 14 rfl rfl)
theorem dX0_copy_63 : decode cX0_copy 63 = .ok (.if_icmp .eq 7, 3) := dk_159 0 7 (dk_at dksX0_copy_2 17 rfl rfl)
theorem dX0_copy_66 : decode cX0_copy 66 = .ok (.ldc_w 318, 3) := dk_19 1 62 (dk_at dksX0_copy_2 20 rfl rfl)
theorem dX0_copy_69 : decode cX0_copy 69 = .ok (.ireturn, 1) := dk_172 (dk_at dksX0_copy_2 23 rfl rfl)
theorem dX0_copy_70 : decode cX0_copy 70 = .ok (.iload_n 2, 1) := dk_28 (dk_at dksX0_copy_3 0 rfl rfl)
theorem dX0_copy_71 : decode cX0_copy 71 = .ok (.ifCond .lt 38, 3) := dk_155 0 38 (dk_at dksX0_copy_3 1 rfl rfl)
theorem dX0_copy_74 : decode cX0_copy 74 = .ok (.iload 4, 2) := dk_21 4 (dk_at dksX0_copy_3 4 rfl rfl)
theorem dX0_copy_76 : decode cX0_copy 76 = .ok (.ifCond .lt 33, 3) := dk_155 0 33 (dk_at dksX0_copy_3 6 rfl rfl)
theorem dX0_copy_79 : decode cX0_copy 79 = .ok (.iload 5, 2) := dk_21 5 (dk_at dksX0_copy_3 9 rfl rfl)
theorem dX0_copy_81 : decode cX0_copy 81 = .ok (.ifCond .lt 28, 3) := dk_155 0 28 (dk_at dksX0_copy_3 11 rfl rfl)
theorem dX0_copy_84 : decode cX0_copy 84 = .ok (.iload_n 2, 1) := dk_28 (dk_at dksX0_copy_3 14 rfl rfl)
theorem dX0_copy_85 : decode cX0_copy 85 = .ok (.aload 6, 2) := dk_25 6 (dk_at dksX0_copy_3 15 rfl rfl)
theorem dX0_copy_87 : decode cX0_copy 87 = .ok (.invokevirtual 467, 3) := dk_182 1 211 (dk_at dksX0_copy_3 17 rfl rfl)
theorem dX0_copy_90 : decode cX0_copy 90 = .ok (.iload 5, 2) := dk_21 5 (dk_at dksX0_copy_3 20 rfl rfl)
theorem dX0_copy_92 : decode cX0_copy 92 = .ok (.isub, 1) := dk_100 (dk_at dksX0_copy_3 22 rfl rfl)
theorem dX0_copy_93 : decode cX0_copy 93 = .ok (.if_icmp .gt 16, 3) := dk_163 0 16 (dk_at dksX0_copy_4 0 rfl rfl)
theorem dX0_copy_96 : decode cX0_copy 96 = .ok (.iload 4, 2) := dk_21 4 (dk_at dksX0_copy_4 3 rfl rfl)
theorem dX0_copy_98 : decode cX0_copy 98 = .ok (.aload 7, 2) := dk_25 7 (dk_at dksX0_copy_4 5 rfl rfl)
theorem dX0_copy_100 : decode cX0_copy 100 = .ok (.invokevirtual 467, 3) := dk_182 1 211 (dk_at dksX0_copy_4 7 rfl rfl)
theorem dX0_copy_103 : decode cX0_copy 103 = .ok (.iload 5, 2) := dk_21 5 (dk_at dksX0_copy_4 10 rfl rfl)
theorem dX0_copy_105 : decode cX0_copy 105 = .ok (.isub, 1) := dk_100 (dk_at dksX0_copy_4 12 rfl rfl)
theorem dX0_copy_106 : decode cX0_copy 106 = .ok (.if_icmp .le 7, 3) := dk_164 0 7 (dk_at dksX0_copy_4 13 rfl rfl)
theorem dX0_copy_109 : decode cX0_copy 109 = .ok (.ldc_w 474, 3) := dk_19 1 218 (dk_at dksX0_copy_4 16 rfl rfl)
theorem dX0_copy_112 : decode cX0_copy 112 = .ok (.ireturn, 1) := dk_172 (dk_at dksX0_copy_4 19 rfl rfl)
theorem dX0_copy_113 : decode cX0_copy 113 = .ok (.aload_n 0, 1) := dk_42 (dk_at dksX0_copy_4 20 rfl rfl)
theorem dX0_copy_114 : decode cX0_copy 114 = .ok (.aload 6, 2) := dk_25 6 (dk_at dksX0_copy_4 21 rfl rfl)
theorem dX0_copy_116 : decode cX0_copy 116 = .ok (.iload_n 2, 1) := dk_28 (dk_at dksX0_copy_4 23 rfl rfl)
theorem dX0_copy_117 : decode cX0_copy 117 = .ok (.aload 7, 2) := dk_25 7 (dk_at dksX0_copy_5 0 rfl rfl)
theorem dX0_copy_119 : decode cX0_copy 119 = .ok (.iload 4, 2) := dk_21 4 (dk_at dksX0_copy_5 2 rfl rfl)
theorem dX0_copy_121 : decode cX0_copy 121 = .ok (.iload 5, 2) := dk_21 5 (dk_at dksX0_copy_5 4 rfl rfl)
theorem dX0_copy_123 : decode cX0_copy 123 = .ok (.invokevirtual 483, 3) := dk_182 1 227 (dk_at dksX0_copy_5 6 rfl rfl)
theorem dX0_copy_126 : decode cX0_copy 126 = .ok (.iload 5, 2) := dk_21 5 (dk_at dksX0_copy_5 9 rfl rfl)
theorem dX0_copy_128 : decode cX0_copy 128 = .ok (.ireturn, 1) := dk_172 (dk_at dksX0_copy_5 11 rfl rfl)
abbrev cX0_carries : ByteArray := prog_1_method_86_code
def yX0_carries : MethodName := ⟨RX0, "carries", "(LNeverSaid$Sheet;ILNeverSaid$Sheet;II)V"⟩
def dkwX0_carries_4 : List UInt8 := [180, 0, 91, 21, 8, 48, 81, 132, 8, 1, 167, 255, 231, 177]
abbrev dktX0_carries_4 : List UInt8 := dkwX0_carries_4 ++ []
def dkwX0_carries_3 : List UInt8 := [132, 8, 1, 167, 255, 232, 3, 54, 8, 21, 8, 21, 5, 162, 0, 24, 25, 7, 21, 4, 21, 8, 96, 42]
abbrev dktX0_carries_3 : List UInt8 := dkwX0_carries_3 ++ dktX0_carries_4
def dkwX0_carries_2 : List UInt8 := [3, 54, 8, 21, 8, 21, 5, 162, 0, 23, 42, 180, 0, 91, 21, 8, 25, 6, 28, 21, 8, 96, 48, 81]
abbrev dktX0_carries_2 : List UInt8 := dkwX0_carries_2 ++ dktX0_carries_3
def dkwX0_carries_1 : List UInt8 := [21, 5, 184, 0, 34, 177, 43, 180, 1, 184, 192, 1, 199, 58, 6, 45, 180, 1, 184, 192, 1, 199, 58, 7]
abbrev dktX0_carries_1 : List UInt8 := dkwX0_carries_1 ++ dktX0_carries_2
def dkwX0_carries_0 : List UInt8 := [43, 182, 1, 195, 154, 0, 26, 43, 180, 1, 184, 192, 1, 225, 28, 45, 180, 1, 184, 192, 1, 225, 21, 4]
abbrev dktX0_carries_0 : List UInt8 := dkwX0_carries_0 ++ dktX0_carries_1
theorem dksX0_carries_0 : cX0_carries.data.toList.drop 0 = dktX0_carries_0 := by decide +kernel
theorem dksX0_carries_1 : cX0_carries.data.toList.drop 24 = dktX0_carries_1 := dk_seg dksX0_carries_0 24 rfl rfl
theorem dksX0_carries_2 : cX0_carries.data.toList.drop 48 = dktX0_carries_2 := dk_seg dksX0_carries_1 24 rfl rfl
theorem dksX0_carries_3 : cX0_carries.data.toList.drop 72 = dktX0_carries_3 := dk_seg dksX0_carries_2 24 rfl rfl
theorem dksX0_carries_4 : cX0_carries.data.toList.drop 96 = dktX0_carries_4 := dk_seg dksX0_carries_3 24 rfl rfl
theorem dX0_carries_0 : decode cX0_carries 0 = .ok (.aload_n 1, 1) := dk_43 (dk_at dksX0_carries_0 0 rfl rfl)
theorem dX0_carries_1 : decode cX0_carries 1 = .ok (.invokevirtual 451, 3) := dk_182 1 195 (dk_at dksX0_carries_0 1 rfl rfl)
theorem dX0_carries_4 : decode cX0_carries 4 = .ok (.ifCond .ne 26, 3) := dk_154 0 26 (dk_at dksX0_carries_0 4 rfl rfl)
theorem dX0_carries_7 : decode cX0_carries 7 = .ok (.aload_n 1, 1) := dk_43 (dk_at dksX0_carries_0 7 rfl rfl)
theorem dX0_carries_8 : decode cX0_carries 8 = .ok (.getfield 440, 3) := dk_180 1 184 (dk_at dksX0_carries_0 8 rfl rfl)
theorem dX0_carries_11 : decode cX0_carries 11 = .ok (.checkcast 481, 3) := dk_192 1 225 (dk_at dksX0_carries_0 11 rfl rfl)
theorem dX0_carries_14 : decode cX0_carries 14 = .ok (.iload_n 2, 1) := dk_28 (dk_at dksX0_carries_0 14 rfl rfl)
theorem dX0_carries_15 : decode cX0_carries 15 = .ok (.aload_n 3, 1) := dk_45 (dk_at dksX0_carries_0 15 rfl rfl)
theorem dX0_carries_16 : decode cX0_carries 16 = .ok (.getfield 440, 3) := dk_180 1 184 (dk_at dksX0_carries_0 16 rfl rfl)
theorem dX0_carries_19 : decode cX0_carries 19 = .ok (.checkcast 481, 3) := dk_192 1 225 (dk_at dksX0_carries_0 19 rfl rfl)
theorem dX0_carries_22 : decode cX0_carries 22 = .ok (.iload 4, 2) := dk_21 4 (dk_at dksX0_carries_0 22 rfl rfl)
theorem dX0_carries_24 : decode cX0_carries 24 = .ok (.iload 5, 2) := dk_21 5 (dk_at dksX0_carries_1 0 rfl rfl)
theorem dX0_carries_26 : decode cX0_carries 26 = .ok (.invokestatic 34, 3) := dk_184 0 34 (dk_at dksX0_carries_1 2 rfl rfl)
theorem dX0_carries_29 : decode cX0_carries 29 = .ok (.return_, 1) := dk_177 (dk_at dksX0_carries_1 5 rfl rfl)
theorem dX0_carries_30 : decode cX0_carries 30 = .ok (.aload_n 1, 1) := dk_43 (dk_at dksX0_carries_1 6 rfl rfl)
theorem dX0_carries_31 : decode cX0_carries 31 = .ok (.getfield 440, 3) := dk_180 1 184 (dk_at dksX0_carries_1 7 rfl rfl)
theorem dX0_carries_34 : decode cX0_carries 34 = .ok (.checkcast 455, 3) := dk_192 1 199 (dk_at dksX0_carries_1 10 rfl rfl)
theorem dX0_carries_37 : decode cX0_carries 37 = .ok (.astore 6, 2) := dk_58 6 (dk_at dksX0_carries_1 13 rfl rfl)
theorem dX0_carries_39 : decode cX0_carries 39 = .ok (.aload_n 3, 1) := dk_45 (dk_at dksX0_carries_1 15 rfl rfl)
theorem dX0_carries_40 : decode cX0_carries 40 = .ok (.getfield 440, 3) := dk_180 1 184 (dk_at dksX0_carries_1 16 rfl rfl)
theorem dX0_carries_43 : decode cX0_carries 43 = .ok (.checkcast 455, 3) := dk_192 1 199 (dk_at dksX0_carries_1 19 rfl rfl)
theorem dX0_carries_46 : decode cX0_carries 46 = .ok (.astore 7, 2) := dk_58 7 (dk_at dksX0_carries_1 22 rfl rfl)
theorem dX0_carries_48 : decode cX0_carries 48 = .ok (.iconst 0, 1) := dk_3 (dk_at dksX0_carries_2 0 rfl rfl)
theorem dX0_carries_49 : decode cX0_carries 49 = .ok (.istore 8, 2) := dk_54 8 (dk_at dksX0_carries_2 1 rfl rfl)
theorem dX0_carries_51 : decode cX0_carries 51 = .ok (.iload 8, 2) := dk_21 8 (dk_at dksX0_carries_2 3 rfl rfl)
theorem dX0_carries_53 : decode cX0_carries 53 = .ok (.iload 5, 2) := dk_21 5 (dk_at dksX0_carries_2 5 rfl rfl)
theorem dX0_carries_55 : decode cX0_carries 55 = .ok (.if_icmp .ge 23, 3) := dk_162 0 23 (dk_at dksX0_carries_2 7 rfl rfl)
theorem dX0_carries_58 : decode cX0_carries 58 = .ok (.aload_n 0, 1) := dk_42 (dk_at dksX0_carries_2 10 rfl rfl)
theorem dX0_carries_59 : decode cX0_carries 59 = .ok (.getfield 91, 3) := dk_180 0 91 (dk_at dksX0_carries_2 11 rfl rfl)
theorem dX0_carries_62 : decode cX0_carries 62 = .ok (.iload 8, 2) := dk_21 8 (dk_at dksX0_carries_2 14 rfl rfl)
theorem dX0_carries_64 : decode cX0_carries 64 = .ok (.aload 6, 2) := dk_25 6 (dk_at dksX0_carries_2 16 rfl rfl)
theorem dX0_carries_66 : decode cX0_carries 66 = .ok (.iload_n 2, 1) := dk_28 (dk_at dksX0_carries_2 18 rfl rfl)
theorem dX0_carries_67 : decode cX0_carries 67 = .ok (.iload 8, 2) := dk_21 8 (dk_at dksX0_carries_2 19 rfl rfl)
theorem dX0_carries_69 : decode cX0_carries 69 = .ok (.iadd, 1) := dk_96 (dk_at dksX0_carries_2 21 rfl rfl)
theorem dX0_carries_70 : decode cX0_carries 70 = .ok (.faload, 1) := dk_48 (dk_at dksX0_carries_2 22 rfl rfl)
theorem dX0_carries_71 : decode cX0_carries 71 = .ok (.fastore, 1) := dk_81 (dk_at dksX0_carries_2 23 rfl rfl)
theorem dX0_carries_72 : decode cX0_carries 72 = .ok (.iinc 8 1, 3) := dk_132 8 1 (dk_at dksX0_carries_3 0 rfl rfl)
theorem dX0_carries_75 : decode cX0_carries 75 = .ok (.goto (-24), 3) := dk_167 255 232 (dk_at dksX0_carries_3 3 rfl rfl)
theorem dX0_carries_78 : decode cX0_carries 78 = .ok (.iconst 0, 1) := dk_3 (dk_at dksX0_carries_3 6 rfl rfl)
theorem dX0_carries_79 : decode cX0_carries 79 = .ok (.istore 8, 2) := dk_54 8 (dk_at dksX0_carries_3 7 rfl rfl)
theorem dX0_carries_81 : decode cX0_carries 81 = .ok (.iload 8, 2) := dk_21 8 (dk_at dksX0_carries_3 9 rfl rfl)
theorem dX0_carries_83 : decode cX0_carries 83 = .ok (.iload 5, 2) := dk_21 5 (dk_at dksX0_carries_3 11 rfl rfl)
theorem dX0_carries_85 : decode cX0_carries 85 = .ok (.if_icmp .ge 24, 3) := dk_162 0 24 (dk_at dksX0_carries_3 13 rfl rfl)
theorem dX0_carries_88 : decode cX0_carries 88 = .ok (.aload 7, 2) := dk_25 7 (dk_at dksX0_carries_3 16 rfl rfl)
theorem dX0_carries_90 : decode cX0_carries 90 = .ok (.iload 4, 2) := dk_21 4 (dk_at dksX0_carries_3 18 rfl rfl)
theorem dX0_carries_92 : decode cX0_carries 92 = .ok (.iload 8, 2) := dk_21 8 (dk_at dksX0_carries_3 20 rfl rfl)
theorem dX0_carries_94 : decode cX0_carries 94 = .ok (.iadd, 1) := dk_96 (dk_at dksX0_carries_3 22 rfl rfl)
theorem dX0_carries_95 : decode cX0_carries 95 = .ok (.aload_n 0, 1) := dk_42 (dk_at dksX0_carries_3 23 rfl rfl)
theorem dX0_carries_96 : decode cX0_carries 96 = .ok (.getfield 91, 3) := dk_180 0 91 (dk_at dksX0_carries_4 0 rfl rfl)
theorem dX0_carries_99 : decode cX0_carries 99 = .ok (.iload 8, 2) := dk_21 8 (dk_at dksX0_carries_4 3 rfl rfl)
theorem dX0_carries_101 : decode cX0_carries 101 = .ok (.faload, 1) := dk_48 (dk_at dksX0_carries_4 5 rfl rfl)
theorem dX0_carries_102 : decode cX0_carries 102 = .ok (.fastore, 1) := dk_81 (dk_at dksX0_carries_4 6 rfl rfl)
theorem dX0_carries_103 : decode cX0_carries 103 = .ok (.iinc 8 1, 3) := dk_132 8 1 (dk_at dksX0_carries_4 7 rfl rfl)
theorem dX0_carries_106 : decode cX0_carries 106 = .ok (.goto (-25), 3) := dk_167 255 231 (dk_at dksX0_carries_4 10 rfl rfl)
theorem dX0_carries_109 : decode cX0_carries 109 = .ok (.return_, 1) := dk_177 (dk_at dksX0_carries_4 13 rfl rfl)
abbrev cX0_lay : ByteArray := prog_1_method_89_code
def yX0_lay : MethodName := ⟨RX0, "lay", "(III)I"⟩
def dkwX0_lay_6 : List UInt8 := [21, 4, 172]
abbrev dktX0_lay_6 : List UInt8 := dkwX0_lay_6 ++ []
def dkwX0_lay_5 : List UInt8 := [42, 180, 0, 80, 29, 50, 182, 1, 241, 167, 0, 11, 187, 1, 245, 89, 29, 183, 1, 247, 181, 1, 249]
abbrev dktX0_lay_5 : List UInt8 := dkwX0_lay_5 ++ dktX0_lay_6
def dkwX0_lay_4 : List UInt8 := [160, 0, 18, 42, 180, 0, 46, 180, 1, 3, 29, 50, 182, 1, 237, 167, 0, 29, 28, 5, 160, 0, 16, 42]
abbrev dktX0_lay_4 : List UInt8 := dkwX0_lay_4 ++ dktX0_lay_5
def dkwX0_lay_3 : List UInt8 := [50, 182, 1, 234, 54, 4, 42, 180, 0, 87, 27, 50, 28, 154, 0, 7, 1, 167, 0, 49, 28, 4]
abbrev dktX0_lay_3 : List UInt8 := dkwX0_lay_3 ++ dktX0_lay_4
def dkwX0_lay_2 : List UInt8 := [160, 0, 19, 42, 180, 0, 80, 29, 50, 182, 1, 207, 154, 0, 7, 19, 1, 210, 172, 42, 180, 0, 87, 27]
abbrev dktX0_lay_2 : List UInt8 := dkwX0_lay_2 ++ dktX0_lay_3
def dkwX0_lay_1 : List UInt8 := [182, 1, 41, 153, 0, 15, 28, 5, 160, 0, 13, 29, 184, 1, 181, 154, 0, 6, 18, 135, 172, 28, 5]
abbrev dktX0_lay_1 : List UInt8 := dkwX0_lay_1 ++ dktX0_lay_2
def dkwX0_lay_0 : List UInt8 := [27, 184, 1, 231, 153, 0, 37, 28, 3, 6, 184, 0, 105, 153, 0, 28, 28, 4, 160, 0, 11, 42, 29]
abbrev dktX0_lay_0 : List UInt8 := dkwX0_lay_0 ++ dktX0_lay_1
theorem dksX0_lay_0 : cX0_lay.data.toList.drop 0 = dktX0_lay_0 := by decide +kernel
theorem dksX0_lay_1 : cX0_lay.data.toList.drop 23 = dktX0_lay_1 := dk_seg dksX0_lay_0 23 rfl rfl
theorem dksX0_lay_2 : cX0_lay.data.toList.drop 46 = dktX0_lay_2 := dk_seg dksX0_lay_1 23 rfl rfl
theorem dksX0_lay_3 : cX0_lay.data.toList.drop 70 = dktX0_lay_3 := dk_seg dksX0_lay_2 24 rfl rfl
theorem dksX0_lay_4 : cX0_lay.data.toList.drop 92 = dktX0_lay_4 := dk_seg dksX0_lay_3 22 rfl rfl
theorem dksX0_lay_5 : cX0_lay.data.toList.drop 116 = dktX0_lay_5 := dk_seg dksX0_lay_4 24 rfl rfl
theorem dksX0_lay_6 : cX0_lay.data.toList.drop 139 = dktX0_lay_6 := dk_seg dksX0_lay_5 23 rfl rfl
theorem dX0_lay_0 : decode cX0_lay 0 = .ok (.iload_n 1, 1) := dk_27 (dk_at dksX0_lay_0 0 rfl rfl)
theorem dX0_lay_1 : decode cX0_lay 1 = .ok (.invokestatic 487, 3) := dk_184 1 231 (dk_at dksX0_lay_0 1 rfl rfl)
theorem dX0_lay_4 : decode cX0_lay 4 = .ok (.ifCond .eq 37, 3) := dk_153 0 37 (dk_at dksX0_lay_0 4 rfl rfl)
theorem dX0_lay_7 : decode cX0_lay 7 = .ok (.iload_n 2, 1) := dk_28 (dk_at dksX0_lay_0 7 rfl rfl)
theorem dX0_lay_8 : decode cX0_lay 8 = .ok (.iconst 0, 1) := dk_3 (dk_at dksX0_lay_0 8 rfl rfl)
theorem dX0_lay_9 : decode cX0_lay 9 = .ok (.iconst 3, 1) := dk_6 (dk_at dksX0_lay_0 9 rfl rfl)
theorem dX0_lay_10 : decode cX0_lay 10 = .ok (.invokestatic 105, 3) := dk_184 0 105 (dk_at dksX0_lay_0 10 rfl rfl)
theorem dX0_lay_13 : decode cX0_lay 13 = .ok (.ifCond .eq 28, 3) := dk_153 0 28 (dk_at dksX0_lay_0 13 rfl rfl)
theorem dX0_lay_16 : decode cX0_lay 16 = .ok (.iload_n 2, 1) := dk_28 (dk_at dksX0_lay_0 16 rfl rfl)
theorem dX0_lay_17 : decode cX0_lay 17 = .ok (.iconst 1, 1) := dk_4 (dk_at dksX0_lay_0 17 rfl rfl)
theorem dX0_lay_18 : decode cX0_lay 18 = .ok (.if_icmp .ne 11, 3) := dk_160 0 11 (dk_at dksX0_lay_0 18 rfl rfl)
theorem dX0_lay_21 : decode cX0_lay 21 = .ok (.aload_n 0, 1) := dk_42 (dk_at dksX0_lay_0 21 rfl rfl)
theorem dX0_lay_22 : decode cX0_lay 22 = .ok (.iload_n 3, 1) := dk_29 (dk_at dksX0_lay_0 22 rfl rfl)
theorem dX0_lay_23 : decode cX0_lay 23 = .ok (.invokevirtual 297, 3) := dk_182 1 41 (dk_at dksX0_lay_1 0 rfl rfl)
theorem dX0_lay_26 : decode cX0_lay 26 = .ok (.ifCond .eq 15, 3) := dk_153 0 15 (dk_at dksX0_lay_1 3 rfl rfl)
theorem dX0_lay_29 : decode cX0_lay 29 = .ok (.iload_n 2, 1) := dk_28 (dk_at dksX0_lay_1 6 rfl rfl)
theorem dX0_lay_30 : decode cX0_lay 30 = .ok (.iconst 2, 1) := dk_5 (dk_at dksX0_lay_1 7 rfl rfl)
theorem dX0_lay_31 : decode cX0_lay 31 = .ok (.if_icmp .ne 13, 3) := dk_160 0 13 (dk_at dksX0_lay_1 8 rfl rfl)
theorem dX0_lay_34 : decode cX0_lay 34 = .ok (.iload_n 3, 1) := dk_29 (dk_at dksX0_lay_1 11 rfl rfl)
theorem dX0_lay_35 : decode cX0_lay 35 = .ok (.invokestatic 437, 3) := dk_184 1 181 (dk_at dksX0_lay_1 12 rfl rfl)
theorem dX0_lay_38 : decode cX0_lay 38 = .ok (.ifCond .ne 6, 3) := dk_154 0 6 (dk_at dksX0_lay_1 15 rfl rfl)
theorem dX0_lay_41 : decode cX0_lay 41 = .ok (.ldc 135, 2) := dk_18 135 (dk_at dksX0_lay_1 18 rfl rfl)
theorem dX0_lay_43 : decode cX0_lay 43 = .ok (.ireturn, 1) := dk_172 (dk_at dksX0_lay_1 20 rfl rfl)
theorem dX0_lay_44 : decode cX0_lay 44 = .ok (.iload_n 2, 1) := dk_28 (dk_at dksX0_lay_1 21 rfl rfl)
theorem dX0_lay_45 : decode cX0_lay 45 = .ok (.iconst 2, 1) := dk_5 (dk_at dksX0_lay_1 22 rfl rfl)
theorem dX0_lay_46 : decode cX0_lay 46 = .ok (.if_icmp .ne 19, 3) := dk_160 0 19 (dk_at dksX0_lay_2 0 rfl rfl)
theorem dX0_lay_49 : decode cX0_lay 49 = .ok (.aload_n 0, 1) := dk_42 (dk_at dksX0_lay_2 3 rfl rfl)
theorem dX0_lay_50 : decode cX0_lay 50 = .ok (.getfield 80, 3) := dk_180 0 80 (dk_at dksX0_lay_2 4 rfl rfl)
theorem dX0_lay_53 : decode cX0_lay 53 = .ok (.iload_n 3, 1) := dk_29 (dk_at dksX0_lay_2 7 rfl rfl)
theorem dX0_lay_54 : decode cX0_lay 54 = .ok (.aaload, 1) := dk_50 (dk_at dksX0_lay_2 8 rfl rfl)
theorem dX0_lay_55 : decode cX0_lay 55 = .ok (.invokevirtual 463, 3) := dk_182 1 207 (dk_at dksX0_lay_2 9 rfl rfl)
theorem dX0_lay_58 : decode cX0_lay 58 = .ok (.ifCond .ne 7, 3) := dk_154 0 7 (dk_at dksX0_lay_2 12 rfl rfl)
theorem dX0_lay_61 : decode cX0_lay 61 = .ok (.ldc_w 466, 3) := dk_19 1 210 (dk_at dksX0_lay_2 15 rfl rfl)
theorem dX0_lay_64 : decode cX0_lay 64 = .ok (.ireturn, 1) := dk_172 (dk_at dksX0_lay_2 18 rfl rfl)
theorem dX0_lay_65 : decode cX0_lay 65 = .ok (.aload_n 0, 1) := dk_42 (dk_at dksX0_lay_2 19 rfl rfl)
theorem dX0_lay_66 : decode cX0_lay 66 = .ok (.getfield 87, 3) := dk_180 0 87 (dk_at dksX0_lay_2 20 rfl rfl)
theorem dX0_lay_69 : decode cX0_lay 69 = .ok (.iload_n 1, 1) := dk_27 (dk_at dksX0_lay_2 23 rfl rfl)
theorem dX0_lay_70 : decode cX0_lay 70 = .ok (.aaload, 1) := dk_50 (dk_at dksX0_lay_3 0 rfl rfl)
theorem dX0_lay_71 : decode cX0_lay 71 = .ok (.invokevirtual 490, 3) := dk_182 1 234 (dk_at dksX0_lay_3 1 rfl rfl)
theorem dX0_lay_74 : decode cX0_lay 74 = .ok (.istore 4, 2) := dk_54 4 (dk_at dksX0_lay_3 4 rfl rfl)
theorem dX0_lay_76 : decode cX0_lay 76 = .ok (.aload_n 0, 1) := dk_42 (dk_at dksX0_lay_3 6 rfl rfl)
theorem dX0_lay_77 : decode cX0_lay 77 = .ok (.getfield 87, 3) := dk_180 0 87 (dk_at dksX0_lay_3 7 rfl rfl)
theorem dX0_lay_80 : decode cX0_lay 80 = .ok (.iload_n 1, 1) := dk_27 (dk_at dksX0_lay_3 10 rfl rfl)
theorem dX0_lay_81 : decode cX0_lay 81 = .ok (.aaload, 1) := dk_50 (dk_at dksX0_lay_3 11 rfl rfl)
theorem dX0_lay_82 : decode cX0_lay 82 = .ok (.iload_n 2, 1) := dk_28 (dk_at dksX0_lay_3 12 rfl rfl)
theorem dX0_lay_83 : decode cX0_lay 83 = .ok (.ifCond .ne 7, 3) := dk_154 0 7 (dk_at dksX0_lay_3 13 rfl rfl)
theorem dX0_lay_86 : decode cX0_lay 86 = .ok (.aconst_null, 1) := dk_1 (dk_at dksX0_lay_3 16 rfl rfl)
theorem dX0_lay_87 : decode cX0_lay 87 = .ok (.goto 49, 3) := dk_167 0 49 (dk_at dksX0_lay_3 17 rfl rfl)
theorem dX0_lay_90 : decode cX0_lay 90 = .ok (.iload_n 2, 1) := dk_28 (dk_at dksX0_lay_3 20 rfl rfl)
theorem dX0_lay_91 : decode cX0_lay 91 = .ok (.iconst 1, 1) := dk_4 (dk_at dksX0_lay_3 21 rfl rfl)
theorem dX0_lay_92 : decode cX0_lay 92 = .ok (.if_icmp .ne 18, 3) := dk_160 0 18 (dk_at dksX0_lay_4 0 rfl rfl)
theorem dX0_lay_95 : decode cX0_lay 95 = .ok (.aload_n 0, 1) := dk_42 (dk_at dksX0_lay_4 3 rfl rfl)
theorem dX0_lay_96 : decode cX0_lay 96 = .ok (.getfield 46, 3) := dk_180 0 46 (dk_at dksX0_lay_4 4 rfl rfl)
theorem dX0_lay_99 : decode cX0_lay 99 = .ok (.getfield 259, 3) := dk_180 1 3 (dk_at dksX0_lay_4 7 rfl rfl)
theorem dX0_lay_102 : decode cX0_lay 102 = .ok (.iload_n 3, 1) := dk_29 (dk_at dksX0_lay_4 10 rfl rfl)
theorem dX0_lay_103 : decode cX0_lay 103 = .ok (.aaload, 1) := dk_50 (dk_at dksX0_lay_4 11 rfl rfl)
theorem dX0_lay_104 : decode cX0_lay 104 = .ok (.invokevirtual 493, 3) := dk_182 1 237 (dk_at dksX0_lay_4 12 rfl rfl)
theorem dX0_lay_107 : decode cX0_lay 107 = .ok (.goto 29, 3) := dk_167 0 29 (dk_at dksX0_lay_4 15 rfl rfl)
theorem dX0_lay_110 : decode cX0_lay 110 = .ok (.iload_n 2, 1) := dk_28 (dk_at dksX0_lay_4 18 rfl rfl)
theorem dX0_lay_111 : decode cX0_lay 111 = .ok (.iconst 2, 1) := dk_5 (dk_at dksX0_lay_4 19 rfl rfl)
theorem dX0_lay_112 : decode cX0_lay 112 = .ok (.if_icmp .ne 16, 3) := dk_160 0 16 (dk_at dksX0_lay_4 20 rfl rfl)
theorem dX0_lay_115 : decode cX0_lay 115 = .ok (.aload_n 0, 1) := dk_42 (dk_at dksX0_lay_4 23 rfl rfl)
theorem dX0_lay_116 : decode cX0_lay 116 = .ok (.aload_n 0, 1) := dk_42 (dk_at dksX0_lay_5 0 rfl rfl)
theorem dX0_lay_117 : decode cX0_lay 117 = .ok (.getfield 80, 3) := dk_180 0 80 (dk_at dksX0_lay_5 1 rfl rfl)
theorem dX0_lay_120 : decode cX0_lay 120 = .ok (.iload_n 3, 1) := dk_29 (dk_at dksX0_lay_5 4 rfl rfl)
theorem dX0_lay_121 : decode cX0_lay 121 = .ok (.aaload, 1) := dk_50 (dk_at dksX0_lay_5 5 rfl rfl)
theorem dX0_lay_122 : decode cX0_lay 122 = .ok (.invokevirtual 497, 3) := dk_182 1 241 (dk_at dksX0_lay_5 6 rfl rfl)
theorem dX0_lay_125 : decode cX0_lay 125 = .ok (.goto 11, 3) := dk_167 0 11 (dk_at dksX0_lay_5 9 rfl rfl)
theorem dX0_lay_128 : decode cX0_lay 128 = .ok (.new 501, 3) := dk_187 1 245 (dk_at dksX0_lay_5 12 rfl rfl)
theorem dX0_lay_131 : decode cX0_lay 131 = .ok (.dup, 1) := dk_89 (dk_at dksX0_lay_5 15 rfl rfl)
theorem dX0_lay_132 : decode cX0_lay 132 = .ok (.iload_n 3, 1) := dk_29 (dk_at dksX0_lay_5 16 rfl rfl)
theorem dX0_lay_133 : decode cX0_lay 133 = .ok (.invokespecial 503, 3) := dk_183 1 247 (dk_at dksX0_lay_5 17 rfl rfl)
theorem dX0_lay_136 : decode cX0_lay 136 = .ok (.putfield 505, 3) := dk_181 1 249 (dk_at dksX0_lay_5 20 rfl rfl)
theorem dX0_lay_139 : decode cX0_lay 139 = .ok (.iload 4, 2) := dk_21 4 (dk_at dksX0_lay_6 0 rfl rfl)
theorem dX0_lay_141 : decode cX0_lay 141 = .ok (.ireturn, 1) := dk_172 (dk_at dksX0_lay_6 2 rfl rfl)
abbrev cX0_isSlot : ByteArray := prog_1_method_79_code
def yX0_isSlot : MethodName := ⟨RX0, "isSlot", "(I)Z"⟩
def dkwX0_isSlot_0 : List UInt8 := [26, 3, 7, 184, 0, 105, 172]
abbrev dktX0_isSlot_0 : List UInt8 := dkwX0_isSlot_0 ++ []
theorem dksX0_isSlot_0 : cX0_isSlot.data.toList.drop 0 = dktX0_isSlot_0 := by decide +kernel
theorem dX0_isSlot_0 : decode cX0_isSlot 0 = .ok (.iload_n 0, 1) := dk_26 (dk_at dksX0_isSlot_0 0 rfl rfl)
theorem dX0_isSlot_1 : decode cX0_isSlot 1 = .ok (.iconst 0, 1) := dk_3 (dk_at dksX0_isSlot_0 1 rfl rfl)
theorem dX0_isSlot_2 : decode cX0_isSlot 2 = .ok (.iconst 4, 1) := dk_7 (dk_at dksX0_isSlot_0 2 rfl rfl)
theorem dX0_isSlot_3 : decode cX0_isSlot 3 = .ok (.invokestatic 105, 3) := dk_184 0 105 (dk_at dksX0_isSlot_0 3 rfl rfl)
theorem dX0_isSlot_6 : decode cX0_isSlot 6 = .ok (.ireturn, 1) := dk_172 (dk_at dksX0_isSlot_0 6 rfl rfl)
abbrev cX0_own : ByteArray := prog_1_method_88_code
def yX0_own : MethodName := ⟨RX0, "own", "(LNeverSaid$Sheet;)LNeverSaid$Sheet;"⟩
def dkwX0_own_1 : List UInt8 := [43, 3, 44, 3, 43, 182, 1, 211, 182, 1, 227, 44, 176]
abbrev dktX0_own_1 : List UInt8 := dkwX0_own_1 ++ []
def dkwX0_own_0 : List UInt8 := [187, 0, 77, 89, 183, 0, 79, 77, 44, 43, 182, 1, 195, 43, 182, 1, 211, 184, 1, 188, 181, 1, 184, 42]
abbrev dktX0_own_0 : List UInt8 := dkwX0_own_0 ++ dktX0_own_1
theorem dksX0_own_0 : cX0_own.data.toList.drop 0 = dktX0_own_0 := by decide +kernel
theorem dksX0_own_1 : cX0_own.data.toList.drop 24 = dktX0_own_1 := dk_seg dksX0_own_0 24 rfl rfl
theorem dX0_own_0 : decode cX0_own 0 = .ok (.new 77, 3) := dk_187 0 77 (dk_at dksX0_own_0 0 rfl rfl)
theorem dX0_own_3 : decode cX0_own 3 = .ok (.dup, 1) := dk_89 (dk_at dksX0_own_0 3 rfl rfl)
theorem dX0_own_4 : decode cX0_own 4 = .ok (.invokespecial 79, 3) := dk_183 0 79 (dk_at dksX0_own_0 4 rfl rfl)
theorem dX0_own_7 : decode cX0_own 7 = .ok (.astore_n 2, 1) := dk_77 (dk_at dksX0_own_0 7 rfl rfl)
theorem dX0_own_8 : decode cX0_own 8 = .ok (.aload_n 2, 1) := dk_44 (dk_at dksX0_own_0 8 rfl rfl)
theorem dX0_own_9 : decode cX0_own 9 = .ok (.aload_n 1, 1) := dk_43 (dk_at dksX0_own_0 9 rfl rfl)
theorem dX0_own_10 : decode cX0_own 10 = .ok (.invokevirtual 451, 3) := dk_182 1 195 (dk_at dksX0_own_0 10 rfl rfl)
theorem dX0_own_13 : decode cX0_own 13 = .ok (.aload_n 1, 1) := dk_43 (dk_at dksX0_own_0 13 rfl rfl)
theorem dX0_own_14 : decode cX0_own 14 = .ok (.invokevirtual 467, 3) := dk_182 1 211 (dk_at dksX0_own_0 14 rfl rfl)
theorem dX0_own_17 : decode cX0_own 17 = .ok (.invokestatic 444, 3) := dk_184 1 188 (dk_at dksX0_own_0 17 rfl rfl)
theorem dX0_own_20 : decode cX0_own 20 = .ok (.putfield 440, 3) := dk_181 1 184 (dk_at dksX0_own_0 20 rfl rfl)
theorem dX0_own_23 : decode cX0_own 23 = .ok (.aload_n 0, 1) := dk_42 (dk_at dksX0_own_0 23 rfl rfl)
theorem dX0_own_24 : decode cX0_own 24 = .ok (.aload_n 1, 1) := dk_43 (dk_at dksX0_own_1 0 rfl rfl)
theorem dX0_own_25 : decode cX0_own 25 = .ok (.iconst 0, 1) := dk_3 (dk_at dksX0_own_1 1 rfl rfl)
theorem dX0_own_26 : decode cX0_own 26 = .ok (.aload_n 2, 1) := dk_44 (dk_at dksX0_own_1 2 rfl rfl)
theorem dX0_own_27 : decode cX0_own 27 = .ok (.iconst 0, 1) := dk_3 (dk_at dksX0_own_1 3 rfl rfl)
theorem dX0_own_28 : decode cX0_own 28 = .ok (.aload_n 1, 1) := dk_43 (dk_at dksX0_own_1 4 rfl rfl)
theorem dX0_own_29 : decode cX0_own 29 = .ok (.invokevirtual 467, 3) := dk_182 1 211 (dk_at dksX0_own_1 5 rfl rfl)
theorem dX0_own_32 : decode cX0_own 32 = .ok (.invokevirtual 483, 3) := dk_182 1 227 (dk_at dksX0_own_1 8 rfl rfl)
theorem dX0_own_35 : decode cX0_own 35 = .ok (.aload_n 2, 1) := dk_44 (dk_at dksX0_own_1 11 rfl rfl)
theorem dX0_own_36 : decode cX0_own 36 = .ok (.areturn, 1) := dk_176 (dk_at dksX0_own_1 12 rfl rfl)
abbrev cX0_ask : ByteArray := prog_1_method_90_code
def yX0_ask : MethodName := ⟨RX0, "ask", "(II)I"⟩
def dkwX0_ask_2 : List UInt8 := [185, 1, 252, 1, 0, 172, 58, 4, 19, 1, 62, 172]
abbrev dktX0_ask_2 : List UInt8 := dkwX0_ask_2 ++ []
def dkwX0_ask_1 : List UInt8 := [50, 180, 1, 249, 78, 45, 199, 0, 7, 19, 1, 210, 172, 45, 28, 184, 1, 56, 58, 4, 25, 4]
abbrev dktX0_ask_1 : List UInt8 := dkwX0_ask_1 ++ dktX0_ask_2
def dkwX0_ask_0 : List UInt8 := [27, 184, 1, 231, 153, 0, 12, 28, 3, 8, 184, 0, 105, 154, 0, 6, 18, 135, 172, 42, 180, 0, 87, 27]
abbrev dktX0_ask_0 : List UInt8 := dkwX0_ask_0 ++ dktX0_ask_1
theorem dksX0_ask_0 : cX0_ask.data.toList.drop 0 = dktX0_ask_0 := by decide +kernel
theorem dksX0_ask_1 : cX0_ask.data.toList.drop 24 = dktX0_ask_1 := dk_seg dksX0_ask_0 24 rfl rfl
theorem dksX0_ask_2 : cX0_ask.data.toList.drop 46 = dktX0_ask_2 := dk_seg dksX0_ask_1 22 rfl rfl
theorem dX0_ask_0 : decode cX0_ask 0 = .ok (.iload_n 1, 1) := dk_27 (dk_at dksX0_ask_0 0 rfl rfl)
theorem dX0_ask_1 : decode cX0_ask 1 = .ok (.invokestatic 487, 3) := dk_184 1 231 (dk_at dksX0_ask_0 1 rfl rfl)
theorem dX0_ask_4 : decode cX0_ask 4 = .ok (.ifCond .eq 12, 3) := dk_153 0 12 (dk_at dksX0_ask_0 4 rfl rfl)
theorem dX0_ask_7 : decode cX0_ask 7 = .ok (.iload_n 2, 1) := dk_28 (dk_at dksX0_ask_0 7 rfl rfl)
theorem dX0_ask_8 : decode cX0_ask 8 = .ok (.iconst 0, 1) := dk_3 (dk_at dksX0_ask_0 8 rfl rfl)
theorem dX0_ask_9 : decode cX0_ask 9 = .ok (.iconst 5, 1) := dk_8 (dk_at dksX0_ask_0 9 rfl rfl)
theorem dX0_ask_10 : decode cX0_ask 10 = .ok (.invokestatic 105, 3) := dk_184 0 105 (dk_at dksX0_ask_0 10 rfl rfl)
theorem dX0_ask_13 : decode cX0_ask 13 = .ok (.ifCond .ne 6, 3) := dk_154 0 6 (dk_at dksX0_ask_0 13 rfl rfl)
theorem dX0_ask_16 : decode cX0_ask 16 = .ok (.ldc 135, 2) := dk_18 135 (dk_at dksX0_ask_0 16 rfl rfl)
theorem dX0_ask_18 : decode cX0_ask 18 = .ok (.ireturn, 1) := dk_172 (dk_at dksX0_ask_0 18 rfl rfl)
theorem dX0_ask_19 : decode cX0_ask 19 = .ok (.aload_n 0, 1) := dk_42 (dk_at dksX0_ask_0 19 rfl rfl)
theorem dX0_ask_20 : decode cX0_ask 20 = .ok (.getfield 87, 3) := dk_180 0 87 (dk_at dksX0_ask_0 20 rfl rfl)
theorem dX0_ask_23 : decode cX0_ask 23 = .ok (.iload_n 1, 1) := dk_27 (dk_at dksX0_ask_0 23 rfl rfl)
theorem dX0_ask_24 : decode cX0_ask 24 = .ok (.aaload, 1) := dk_50 (dk_at dksX0_ask_1 0 rfl rfl)
theorem dX0_ask_25 : decode cX0_ask 25 = .ok (.getfield 505, 3) := dk_180 1 249 (dk_at dksX0_ask_1 1 rfl rfl)
theorem dX0_ask_28 : decode cX0_ask 28 = .ok (.astore_n 3, 1) := dk_78 (dk_at dksX0_ask_1 4 rfl rfl)
theorem dX0_ask_29 : decode cX0_ask 29 = .ok (.aload_n 3, 1) := dk_45 (dk_at dksX0_ask_1 5 rfl rfl)
theorem dX0_ask_30 : decode cX0_ask 30 = .ok (.ifnonnull 7, 3) := dk_199 0 7 (dk_at dksX0_ask_1 6 rfl rfl)
theorem dX0_ask_33 : decode cX0_ask 33 = .ok (.ldc_w 466, 3) := dk_19 1 210 (dk_at dksX0_ask_1 9 rfl rfl)
theorem dX0_ask_36 : decode cX0_ask 36 = .ok (.ireturn, 1) := dk_172 (dk_at dksX0_ask_1 12 rfl rfl)
theorem dX0_ask_37 : decode cX0_ask 37 = .ok (.aload_n 3, 1) := dk_45 (dk_at dksX0_ask_1 13 rfl rfl)
theorem dX0_ask_38 : decode cX0_ask 38 = .ok (.iload_n 2, 1) := dk_28 (dk_at dksX0_ask_1 14 rfl rfl)
theorem dX0_ask_39 : decode cX0_ask 39 = .ok (.invokestatic 312, 3) := dk_184 1 56 (dk_at dksX0_ask_1 15 rfl rfl)
theorem dX0_ask_42 : decode cX0_ask 42 = .ok (.astore 4, 2) := dk_58 4 (dk_at dksX0_ask_1 18 rfl rfl)
theorem dX0_ask_44 : decode cX0_ask 44 = .ok (.aload 4, 2) := dk_25 4 (dk_at dksX0_ask_1 20 rfl rfl)
theorem dX0_ask_46 : decode cX0_ask 46 = .ok (.invokeinterface 508 1, 5) := by decide +kernel
theorem dX0_ask_51 : decode cX0_ask 51 = .ok (.ireturn, 1) := dk_172 (dk_at dksX0_ask_2 5 rfl rfl)
theorem dX0_ask_52 : decode cX0_ask 52 = .ok (.astore 4, 2) := dk_58 4 (dk_at dksX0_ask_2 6 rfl rfl)
theorem dX0_ask_54 : decode cX0_ask 54 = .ok (.ldc_w 318, 3) := dk_19 1 62 (dk_at dksX0_ask_2 8 rfl rfl)
theorem dX0_ask_57 : decode cX0_ask 57 = .ok (.ireturn, 1) := dk_172 (dk_at dksX0_ask_2 11 rfl rfl)
abbrev cX0_item : ByteArray := prog_1_method_91_code
def yX0_item : MethodName := ⟨RX0, "item", "(II)I"⟩
def dkwX0_item_3 : List UInt8 := [167, 0, 6, 19, 1, 62, 172, 58, 4, 19, 1, 62, 172]
abbrev dktX0_item_3 : List UInt8 := dkwX0_item_3 ++ []
def dkwX0_item_2 : List UInt8 := [154, 0, 7, 19, 1, 218, 172, 25, 4, 28, 182, 1, 219, 153, 0, 12, 25, 4, 28, 182, 1, 222]
abbrev dktX0_item_2 : List UInt8 := dkwX0_item_2 ++ dktX0_item_3
def dkwX0_item_1 : List UInt8 := [19, 1, 210, 172, 45, 192, 0, 77, 58, 4, 28, 3, 25, 4, 182, 1, 211, 4, 100, 184, 0, 105]
abbrev dktX0_item_1 : List UInt8 := dkwX0_item_1 ++ dktX0_item_2
def dkwX0_item_0 : List UInt8 := [27, 184, 1, 231, 154, 0, 6, 18, 135, 172, 42, 180, 0, 87, 27, 50, 180, 1, 249, 78, 45, 199, 0, 7]
abbrev dktX0_item_0 : List UInt8 := dkwX0_item_0 ++ dktX0_item_1
theorem dksX0_item_0 : cX0_item.data.toList.drop 0 = dktX0_item_0 := by decide +kernel
theorem dksX0_item_1 : cX0_item.data.toList.drop 24 = dktX0_item_1 := dk_seg dksX0_item_0 24 rfl rfl
theorem dksX0_item_2 : cX0_item.data.toList.drop 46 = dktX0_item_2 := dk_seg dksX0_item_1 22 rfl rfl
theorem dksX0_item_3 : cX0_item.data.toList.drop 68 = dktX0_item_3 := dk_seg dksX0_item_2 22 rfl rfl
theorem dX0_item_0 : decode cX0_item 0 = .ok (.iload_n 1, 1) := dk_27 (dk_at dksX0_item_0 0 rfl rfl)
theorem dX0_item_1 : decode cX0_item 1 = .ok (.invokestatic 487, 3) := dk_184 1 231 (dk_at dksX0_item_0 1 rfl rfl)
theorem dX0_item_4 : decode cX0_item 4 = .ok (.ifCond .ne 6, 3) := dk_154 0 6 (dk_at dksX0_item_0 4 rfl rfl)
theorem dX0_item_7 : decode cX0_item 7 = .ok (.ldc 135, 2) := dk_18 135 (dk_at dksX0_item_0 7 rfl rfl)
theorem dX0_item_9 : decode cX0_item 9 = .ok (.ireturn, 1) := dk_172 (dk_at dksX0_item_0 9 rfl rfl)
theorem dX0_item_10 : decode cX0_item 10 = .ok (.aload_n 0, 1) := dk_42 (dk_at dksX0_item_0 10 rfl rfl)
theorem dX0_item_11 : decode cX0_item 11 = .ok (.getfield 87, 3) := dk_180 0 87 (dk_at dksX0_item_0 11 rfl rfl)
theorem dX0_item_14 : decode cX0_item 14 = .ok (.iload_n 1, 1) := dk_27 (dk_at dksX0_item_0 14 rfl rfl)
theorem dX0_item_15 : decode cX0_item 15 = .ok (.aaload, 1) := dk_50 (dk_at dksX0_item_0 15 rfl rfl)
theorem dX0_item_16 : decode cX0_item 16 = .ok (.getfield 505, 3) := dk_180 1 249 (dk_at dksX0_item_0 16 rfl rfl)
theorem dX0_item_19 : decode cX0_item 19 = .ok (.astore_n 3, 1) := dk_78 (dk_at dksX0_item_0 19 rfl rfl)
theorem dX0_item_20 : decode cX0_item 20 = .ok (.aload_n 3, 1) := dk_45 (dk_at dksX0_item_0 20 rfl rfl)
theorem dX0_item_21 : decode cX0_item 21 = .ok (.ifnonnull 7, 3) := dk_199 0 7 (dk_at dksX0_item_0 21 rfl rfl)
theorem dX0_item_24 : decode cX0_item 24 = .ok (.ldc_w 466, 3) := dk_19 1 210 (dk_at dksX0_item_1 0 rfl rfl)
theorem dX0_item_27 : decode cX0_item 27 = .ok (.ireturn, 1) := dk_172 (dk_at dksX0_item_1 3 rfl rfl)
theorem dX0_item_28 : decode cX0_item 28 = .ok (.aload_n 3, 1) := dk_45 (dk_at dksX0_item_1 4 rfl rfl)
theorem dX0_item_29 : decode cX0_item 29 = .ok (.checkcast 77, 3) := dk_192 0 77 (dk_at dksX0_item_1 5 rfl rfl)
theorem dX0_item_32 : decode cX0_item 32 = .ok (.astore 4, 2) := dk_58 4 (dk_at dksX0_item_1 8 rfl rfl)
theorem dX0_item_34 : decode cX0_item 34 = .ok (.iload_n 2, 1) := dk_28 (dk_at dksX0_item_1 10 rfl rfl)
theorem dX0_item_35 : decode cX0_item 35 = .ok (.iconst 0, 1) := dk_3 (dk_at dksX0_item_1 11 rfl rfl)
theorem dX0_item_36 : decode cX0_item 36 = .ok (.aload 4, 2) := dk_25 4 (dk_at dksX0_item_1 12 rfl rfl)
theorem dX0_item_38 : decode cX0_item 38 = .ok (.invokevirtual 467, 3) := dk_182 1 211 (dk_at dksX0_item_1 14 rfl rfl)
theorem dX0_item_41 : decode cX0_item 41 = .ok (.iconst 1, 1) := dk_4 (dk_at dksX0_item_1 17 rfl rfl)
theorem dX0_item_42 : decode cX0_item 42 = .ok (.isub, 1) := dk_100 (dk_at dksX0_item_1 18 rfl rfl)
theorem dX0_item_43 : decode cX0_item 43 = .ok (.invokestatic 105, 3) := dk_184 0 105 (dk_at dksX0_item_1 19 rfl rfl)
theorem dX0_item_46 : decode cX0_item 46 = .ok (.ifCond .ne 7, 3) := dk_154 0 7 (dk_at dksX0_item_2 0 rfl rfl)
theorem dX0_item_49 : decode cX0_item 49 = .ok (.ldc_w 474, 3) := dk_19 1 218 (dk_at dksX0_item_2 3 rfl rfl)
theorem dX0_item_52 : decode cX0_item 52 = .ok (.ireturn, 1) := dk_172 (dk_at dksX0_item_2 6 rfl rfl)
theorem dX0_item_53 : decode cX0_item 53 = .ok (.aload 4, 2) := dk_25 4 (dk_at dksX0_item_2 7 rfl rfl)
theorem dX0_item_55 : decode cX0_item 55 = .ok (.iload_n 2, 1) := dk_28 (dk_at dksX0_item_2 9 rfl rfl)
theorem dX0_item_56 : decode cX0_item 56 = .ok (.invokevirtual 475, 3) := dk_182 1 219 (dk_at dksX0_item_2 10 rfl rfl)
theorem dX0_item_59 : decode cX0_item 59 = .ok (.ifCond .eq 12, 3) := dk_153 0 12 (dk_at dksX0_item_2 13 rfl rfl)
theorem dX0_item_62 : decode cX0_item 62 = .ok (.aload 4, 2) := dk_25 4 (dk_at dksX0_item_2 16 rfl rfl)
theorem dX0_item_64 : decode cX0_item 64 = .ok (.iload_n 2, 1) := dk_28 (dk_at dksX0_item_2 18 rfl rfl)
theorem dX0_item_65 : decode cX0_item 65 = .ok (.invokevirtual 478, 3) := dk_182 1 222 (dk_at dksX0_item_2 19 rfl rfl)
theorem dX0_item_68 : decode cX0_item 68 = .ok (.goto 6, 3) := dk_167 0 6 (dk_at dksX0_item_3 0 rfl rfl)
theorem dX0_item_71 : decode cX0_item 71 = .ok (.ldc_w 318, 3) := dk_19 1 62 (dk_at dksX0_item_3 3 rfl rfl)
theorem dX0_item_74 : decode cX0_item 74 = .ok (.ireturn, 1) := dk_172 (dk_at dksX0_item_3 6 rfl rfl)
theorem dX0_item_75 : decode cX0_item 75 = .ok (.astore 4, 2) := dk_58 4 (dk_at dksX0_item_3 7 rfl rfl)
theorem dX0_item_77 : decode cX0_item 77 = .ok (.ldc_w 318, 3) := dk_19 1 62 (dk_at dksX0_item_3 9 rfl rfl)
theorem dX0_item_80 : decode cX0_item 80 = .ok (.ireturn, 1) := dk_172 (dk_at dksX0_item_3 12 rfl rfl)
abbrev cX0_rest : ByteArray := prog_1_method_92_code
def yX0_rest : MethodName := ⟨RX0, "rest", "(II)I"⟩
def dkwX0_rest_2 : List UInt8 := [28, 154, 0, 9, 19, 1, 138, 167, 0, 7, 21, 4, 28, 112, 172]
abbrev dktX0_rest_2 : List UInt8 := dkwX0_rest_2 ++ []
def dkwX0_rest_1 : List UInt8 := [19, 1, 210, 172, 45, 193, 1, 245, 154, 0, 7, 19, 1, 62, 172, 45, 192, 1, 245, 180, 1, 253, 54, 4]
abbrev dktX0_rest_1 : List UInt8 := dkwX0_rest_1 ++ dktX0_rest_2
def dkwX0_rest_0 : List UInt8 := [27, 184, 1, 231, 154, 0, 6, 18, 135, 172, 42, 180, 0, 87, 27, 50, 180, 1, 249, 78, 45, 199, 0, 7]
abbrev dktX0_rest_0 : List UInt8 := dkwX0_rest_0 ++ dktX0_rest_1
theorem dksX0_rest_0 : cX0_rest.data.toList.drop 0 = dktX0_rest_0 := by decide +kernel
theorem dksX0_rest_1 : cX0_rest.data.toList.drop 24 = dktX0_rest_1 := dk_seg dksX0_rest_0 24 rfl rfl
theorem dksX0_rest_2 : cX0_rest.data.toList.drop 48 = dktX0_rest_2 := dk_seg dksX0_rest_1 24 rfl rfl
theorem dX0_rest_0 : decode cX0_rest 0 = .ok (.iload_n 1, 1) := dk_27 (dk_at dksX0_rest_0 0 rfl rfl)
theorem dX0_rest_1 : decode cX0_rest 1 = .ok (.invokestatic 487, 3) := dk_184 1 231 (dk_at dksX0_rest_0 1 rfl rfl)
theorem dX0_rest_4 : decode cX0_rest 4 = .ok (.ifCond .ne 6, 3) := dk_154 0 6 (dk_at dksX0_rest_0 4 rfl rfl)
theorem dX0_rest_7 : decode cX0_rest 7 = .ok (.ldc 135, 2) := dk_18 135 (dk_at dksX0_rest_0 7 rfl rfl)
theorem dX0_rest_9 : decode cX0_rest 9 = .ok (.ireturn, 1) := dk_172 (dk_at dksX0_rest_0 9 rfl rfl)
theorem dX0_rest_10 : decode cX0_rest 10 = .ok (.aload_n 0, 1) := dk_42 (dk_at dksX0_rest_0 10 rfl rfl)
theorem dX0_rest_11 : decode cX0_rest 11 = .ok (.getfield 87, 3) := dk_180 0 87 (dk_at dksX0_rest_0 11 rfl rfl)
theorem dX0_rest_14 : decode cX0_rest 14 = .ok (.iload_n 1, 1) := dk_27 (dk_at dksX0_rest_0 14 rfl rfl)
theorem dX0_rest_15 : decode cX0_rest 15 = .ok (.aaload, 1) := dk_50 (dk_at dksX0_rest_0 15 rfl rfl)
theorem dX0_rest_16 : decode cX0_rest 16 = .ok (.getfield 505, 3) := dk_180 1 249 (dk_at dksX0_rest_0 16 rfl rfl)
theorem dX0_rest_19 : decode cX0_rest 19 = .ok (.astore_n 3, 1) := dk_78 (dk_at dksX0_rest_0 19 rfl rfl)
theorem dX0_rest_20 : decode cX0_rest 20 = .ok (.aload_n 3, 1) := dk_45 (dk_at dksX0_rest_0 20 rfl rfl)
theorem dX0_rest_21 : decode cX0_rest 21 = .ok (.ifnonnull 7, 3) := dk_199 0 7 (dk_at dksX0_rest_0 21 rfl rfl)
theorem dX0_rest_24 : decode cX0_rest 24 = .ok (.ldc_w 466, 3) := dk_19 1 210 (dk_at dksX0_rest_1 0 rfl rfl)
theorem dX0_rest_27 : decode cX0_rest 27 = .ok (.ireturn, 1) := dk_172 (dk_at dksX0_rest_1 3 rfl rfl)
theorem dX0_rest_28 : decode cX0_rest 28 = .ok (.aload_n 3, 1) := dk_45 (dk_at dksX0_rest_1 4 rfl rfl)
theorem dX0_rest_29 : decode cX0_rest 29 = .ok (.instanceof 501, 3) := dk_193 1 245 (dk_at dksX0_rest_1 5 rfl rfl)
theorem dX0_rest_32 : decode cX0_rest 32 = .ok (.ifCond .ne 7, 3) := dk_154 0 7 (dk_at dksX0_rest_1 8 rfl rfl)
theorem dX0_rest_35 : decode cX0_rest 35 = .ok (.ldc_w 318, 3) := dk_19 1 62 (dk_at dksX0_rest_1 11 rfl rfl)
theorem dX0_rest_38 : decode cX0_rest 38 = .ok (.ireturn, 1) := dk_172 (dk_at dksX0_rest_1 14 rfl rfl)
theorem dX0_rest_39 : decode cX0_rest 39 = .ok (.aload_n 3, 1) := dk_45 (dk_at dksX0_rest_1 15 rfl rfl)
theorem dX0_rest_40 : decode cX0_rest 40 = .ok (.checkcast 501, 3) := dk_192 1 245 (dk_at dksX0_rest_1 16 rfl rfl)
theorem dX0_rest_43 : decode cX0_rest 43 = .ok (.getfield 509, 3) := dk_180 1 253 (dk_at dksX0_rest_1 19 rfl rfl)
theorem dX0_rest_46 : decode cX0_rest 46 = .ok (.istore 4, 2) := dk_54 4 (dk_at dksX0_rest_1 22 rfl rfl)
theorem dX0_rest_48 : decode cX0_rest 48 = .ok (.iload_n 2, 1) := dk_28 (dk_at dksX0_rest_2 0 rfl rfl)
theorem dX0_rest_49 : decode cX0_rest 49 = .ok (.ifCond .ne 9, 3) := dk_154 0 9 (dk_at dksX0_rest_2 1 rfl rfl)
theorem dX0_rest_52 : decode cX0_rest 52 = .ok (.ldc_w 394, 3) := dk_19 1 138 (dk_at dksX0_rest_2 4 rfl rfl)
theorem dX0_rest_55 : decode cX0_rest 55 = .ok (.goto 7, 3) := dk_167 0 7 (dk_at dksX0_rest_2 7 rfl rfl)
theorem dX0_rest_58 : decode cX0_rest 58 = .ok (.iload 4, 2) := dk_21 4 (dk_at dksX0_rest_2 10 rfl rfl)
theorem dX0_rest_60 : decode cX0_rest 60 = .ok (.iload_n 2, 1) := dk_28 (dk_at dksX0_rest_2 12 rfl rfl)
theorem dX0_rest_61 : decode cX0_rest 61 = .ok (.irem, 1) := dk_112 (dk_at dksX0_rest_2 13 rfl rfl)
theorem dX0_rest_62 : decode cX0_rest 62 = .ok (.ireturn, 1) := dk_172 (dk_at dksX0_rest_2 14 rfl rfl)
abbrev cX0_tell : ByteArray := prog_1_method_93_code
def yX0_tell : MethodName := ⟨RX0, "tell", "(I)I"⟩
def dkwX0_tell_1 : List UInt8 := [180, 2, 0, 4, 96, 181, 2, 0, 42, 180, 2, 0, 172]
abbrev dktX0_tell_1 : List UInt8 := dkwX0_tell_1 ++ []
def dkwX0_tell_0 : List UInt8 := [42, 180, 2, 0, 16, 60, 160, 0, 6, 18, 130, 172, 42, 180, 0, 95, 42, 180, 2, 0, 27, 79, 42, 89]
abbrev dktX0_tell_0 : List UInt8 := dkwX0_tell_0 ++ dktX0_tell_1
theorem dksX0_tell_0 : cX0_tell.data.toList.drop 0 = dktX0_tell_0 := by decide +kernel
theorem dksX0_tell_1 : cX0_tell.data.toList.drop 24 = dktX0_tell_1 := dk_seg dksX0_tell_0 24 rfl rfl
theorem dX0_tell_0 : decode cX0_tell 0 = .ok (.aload_n 0, 1) := dk_42 (dk_at dksX0_tell_0 0 rfl rfl)
theorem dX0_tell_1 : decode cX0_tell 1 = .ok (.getfield 512, 3) := dk_180 2 0 (dk_at dksX0_tell_0 1 rfl rfl)
theorem dX0_tell_4 : decode cX0_tell 4 = .ok (.bipush 60, 2) := dk_16 60 (dk_at dksX0_tell_0 4 rfl rfl)
theorem dX0_tell_6 : decode cX0_tell 6 = .ok (.if_icmp .ne 6, 3) := dk_160 0 6 (dk_at dksX0_tell_0 6 rfl rfl)
theorem dX0_tell_9 : decode cX0_tell 9 = .ok (.ldc 130, 2) := dk_18 130 (dk_at dksX0_tell_0 9 rfl rfl)
theorem dX0_tell_11 : decode cX0_tell 11 = .ok (.ireturn, 1) := dk_172 (dk_at dksX0_tell_0 11 rfl rfl)
theorem dX0_tell_12 : decode cX0_tell 12 = .ok (.aload_n 0, 1) := dk_42 (dk_at dksX0_tell_0 12 rfl rfl)
theorem dX0_tell_13 : decode cX0_tell 13 = .ok (.getfield 95, 3) := dk_180 0 95 (dk_at dksX0_tell_0 13 rfl rfl)
theorem dX0_tell_16 : decode cX0_tell 16 = .ok (.aload_n 0, 1) := dk_42 (dk_at dksX0_tell_0 16 rfl rfl)
theorem dX0_tell_17 : decode cX0_tell 17 = .ok (.getfield 512, 3) := dk_180 2 0 (dk_at dksX0_tell_0 17 rfl rfl)
theorem dX0_tell_20 : decode cX0_tell 20 = .ok (.iload_n 1, 1) := dk_27 (dk_at dksX0_tell_0 20 rfl rfl)
theorem dX0_tell_21 : decode cX0_tell 21 = .ok (.iastore, 1) := dk_79 (dk_at dksX0_tell_0 21 rfl rfl)
theorem dX0_tell_22 : decode cX0_tell 22 = .ok (.aload_n 0, 1) := dk_42 (dk_at dksX0_tell_0 22 rfl rfl)
theorem dX0_tell_23 : decode cX0_tell 23 = .ok (.dup, 1) := dk_89 (dk_at dksX0_tell_0 23 rfl rfl)
theorem dX0_tell_24 : decode cX0_tell 24 = .ok (.getfield 512, 3) := dk_180 2 0 (dk_at dksX0_tell_1 0 rfl rfl)
theorem dX0_tell_27 : decode cX0_tell 27 = .ok (.iconst 1, 1) := dk_4 (dk_at dksX0_tell_1 3 rfl rfl)
theorem dX0_tell_28 : decode cX0_tell 28 = .ok (.iadd, 1) := dk_96 (dk_at dksX0_tell_1 4 rfl rfl)
theorem dX0_tell_29 : decode cX0_tell 29 = .ok (.putfield 512, 3) := dk_181 2 0 (dk_at dksX0_tell_1 5 rfl rfl)
theorem dX0_tell_32 : decode cX0_tell 32 = .ok (.aload_n 0, 1) := dk_42 (dk_at dksX0_tell_1 8 rfl rfl)
theorem dX0_tell_33 : decode cX0_tell 33 = .ok (.getfield 512, 3) := dk_180 2 0 (dk_at dksX0_tell_1 9 rfl rfl)
theorem dX0_tell_36 : decode cX0_tell 36 = .ok (.ireturn, 1) := dk_172 (dk_at dksX0_tell_1 12 rfl rfl)
abbrev cX0_check : ByteArray := prog_1_method_95_code
def yX0_check : MethodName := ⟨RX0, "check", "(II)I"⟩
def dkwX0_check_5 : List UInt8 := [167, 0, 4, 3, 172]
abbrev dktX0_check_5 : List UInt8 := dkwX0_check_5 ++ []
def dkwX0_check_4 : List UInt8 := [167, 0, 8, 4, 21, 5, 96, 172, 132, 5, 1, 167, 255, 215, 29, 21, 4, 162, 0, 9, 4, 29, 96]
abbrev dktX0_check_4 : List UInt8 := dkwX0_check_4 ++ dktX0_check_5
def dkwX0_check_3 : List UInt8 := [21, 5, 21, 4, 162, 0, 23, 42, 180, 0, 95, 21, 5, 46, 42, 180, 0, 98, 21, 5, 46, 160, 0, 6]
abbrev dktX0_check_3 : List UInt8 := dkwX0_check_3 ++ dktX0_check_4
def dkwX0_check_2 : List UInt8 := [154, 0, 6, 18, 135, 172, 42, 27, 28, 182, 2, 11, 54, 4, 3, 54, 5, 21, 5, 29, 162, 0, 41]
abbrev dktX0_check_2 : List UInt8 := dkwX0_check_2 ++ dktX0_check_3
def dkwX0_check_1 : List UInt8 := [180, 2, 7, 154, 0, 7, 19, 1, 138, 172, 27, 3, 42, 180, 0, 50, 180, 0, 109, 4, 100, 184, 0, 105]
abbrev dktX0_check_1 : List UInt8 := dkwX0_check_1 ++ dktX0_check_2
def dkwX0_check_0 : List UInt8 := [42, 180, 2, 0, 62, 42, 3, 181, 2, 0, 28, 4, 16, 30, 184, 0, 105, 154, 0, 6, 18, 135, 172, 42]
abbrev dktX0_check_0 : List UInt8 := dkwX0_check_0 ++ dktX0_check_1
theorem dksX0_check_0 : cX0_check.data.toList.drop 0 = dktX0_check_0 := by decide +kernel
theorem dksX0_check_1 : cX0_check.data.toList.drop 24 = dktX0_check_1 := dk_seg dksX0_check_0 24 rfl rfl
theorem dksX0_check_2 : cX0_check.data.toList.drop 48 = dktX0_check_2 := dk_seg dksX0_check_1 24 rfl rfl
theorem dksX0_check_3 : cX0_check.data.toList.drop 71 = dktX0_check_3 := dk_seg dksX0_check_2 23 rfl rfl
theorem dksX0_check_4 : cX0_check.data.toList.drop 95 = dktX0_check_4 := dk_seg dksX0_check_3 24 rfl rfl
theorem dksX0_check_5 : cX0_check.data.toList.drop 118 = dktX0_check_5 := dk_seg dksX0_check_4 23 rfl rfl
theorem dX0_check_0 : decode cX0_check 0 = .ok (.aload_n 0, 1) := dk_42 (dk_at dksX0_check_0 0 rfl rfl)
theorem dX0_check_1 : decode cX0_check 1 = .ok (.getfield 512, 3) := dk_180 2 0 (dk_at dksX0_check_0 1 rfl rfl)
theorem dX0_check_4 : decode cX0_check 4 = .ok (.istore_n 3, 1) := dk_62 (dk_at dksX0_check_0 4 rfl rfl)
theorem dX0_check_5 : decode cX0_check 5 = .ok (.aload_n 0, 1) := dk_42 (dk_at dksX0_check_0 5 rfl rfl)
theorem dX0_check_6 : decode cX0_check 6 = .ok (.iconst 0, 1) := dk_3 (dk_at dksX0_check_0 6 rfl rfl)
theorem dX0_check_7 : decode cX0_check 7 = .ok (.putfield 512, 3) := dk_181 2 0 (dk_at dksX0_check_0 7 rfl rfl)
theorem dX0_check_10 : decode cX0_check 10 = .ok (.iload_n 2, 1) := dk_28 (dk_at dksX0_check_0 10 rfl rfl)
theorem dX0_check_11 : decode cX0_check 11 = .ok (.iconst 1, 1) := dk_4 (dk_at dksX0_check_0 11 rfl rfl)
theorem dX0_check_12 : decode cX0_check 12 = .ok (.bipush 30, 2) := dk_16 30 (dk_at dksX0_check_0 12 rfl rfl)
theorem dX0_check_14 : decode cX0_check 14 = .ok (.invokestatic 105, 3) := dk_184 0 105 (dk_at dksX0_check_0 14 rfl rfl)
theorem dX0_check_17 : decode cX0_check 17 = .ok (.ifCond .ne 6, 3) := dk_154 0 6 (dk_at dksX0_check_0 17 rfl rfl)
theorem dX0_check_20 : decode cX0_check 20 = .ok (.ldc 135, 2) := dk_18 135 (dk_at dksX0_check_0 20 rfl rfl)
theorem dX0_check_22 : decode cX0_check 22 = .ok (.ireturn, 1) := dk_172 (dk_at dksX0_check_0 22 rfl rfl)
theorem dX0_check_23 : decode cX0_check 23 = .ok (.aload_n 0, 1) := dk_42 (dk_at dksX0_check_0 23 rfl rfl)
theorem dX0_check_24 : decode cX0_check 24 = .ok (.getfield 519, 3) := dk_180 2 7 (dk_at dksX0_check_1 0 rfl rfl)
theorem dX0_check_27 : decode cX0_check 27 = .ok (.ifCond .ne 7, 3) := dk_154 0 7 (dk_at dksX0_check_1 3 rfl rfl)
theorem dX0_check_30 : decode cX0_check 30 = .ok (.ldc_w 394, 3) := dk_19 1 138 (dk_at dksX0_check_1 6 rfl rfl)
theorem dX0_check_33 : decode cX0_check 33 = .ok (.ireturn, 1) := dk_172 (dk_at dksX0_check_1 9 rfl rfl)
theorem dX0_check_34 : decode cX0_check 34 = .ok (.iload_n 1, 1) := dk_27 (dk_at dksX0_check_1 10 rfl rfl)
theorem dX0_check_35 : decode cX0_check 35 = .ok (.iconst 0, 1) := dk_3 (dk_at dksX0_check_1 11 rfl rfl)
theorem dX0_check_36 : decode cX0_check 36 = .ok (.aload_n 0, 1) := dk_42 (dk_at dksX0_check_1 12 rfl rfl)
theorem dX0_check_37 : decode cX0_check 37 = .ok (.getfield 50, 3) := dk_180 0 50 (dk_at dksX0_check_1 13 rfl rfl)
theorem dX0_check_40 : decode cX0_check 40 = .ok (.getfield 109, 3) := dk_180 0 109 (dk_at dksX0_check_1 16 rfl rfl)
theorem dX0_check_43 : decode cX0_check 43 = .ok (.iconst 1, 1) := dk_4 (dk_at dksX0_check_1 19 rfl rfl)
theorem dX0_check_44 : decode cX0_check 44 = .ok (.isub, 1) := dk_100 (dk_at dksX0_check_1 20 rfl rfl)
theorem dX0_check_45 : decode cX0_check 45 = .ok (.invokestatic 105, 3) := dk_184 0 105 (dk_at dksX0_check_1 21 rfl rfl)
theorem dX0_check_48 : decode cX0_check 48 = .ok (.ifCond .ne 6, 3) := dk_154 0 6 (dk_at dksX0_check_2 0 rfl rfl)
theorem dX0_check_51 : decode cX0_check 51 = .ok (.ldc 135, 2) := dk_18 135 (dk_at dksX0_check_2 3 rfl rfl)
theorem dX0_check_53 : decode cX0_check 53 = .ok (.ireturn, 1) := dk_172 (dk_at dksX0_check_2 5 rfl rfl)
theorem dX0_check_54 : decode cX0_check 54 = .ok (.aload_n 0, 1) := dk_42 (dk_at dksX0_check_2 6 rfl rfl)
theorem dX0_check_55 : decode cX0_check 55 = .ok (.iload_n 1, 1) := dk_27 (dk_at dksX0_check_2 7 rfl rfl)
theorem dX0_check_56 : decode cX0_check 56 = .ok (.iload_n 2, 1) := dk_28 (dk_at dksX0_check_2 8 rfl rfl)
theorem dX0_check_57 : decode cX0_check 57 = .ok (.invokevirtual 523, 3) := dk_182 2 11 (dk_at dksX0_check_2 9 rfl rfl)
theorem dX0_check_60 : decode cX0_check 60 = .ok (.istore 4, 2) := dk_54 4 (dk_at dksX0_check_2 12 rfl rfl)
theorem dX0_check_62 : decode cX0_check 62 = .ok (.iconst 0, 1) := dk_3 (dk_at dksX0_check_2 14 rfl rfl)
theorem dX0_check_63 : decode cX0_check 63 = .ok (.istore 5, 2) := dk_54 5 (dk_at dksX0_check_2 15 rfl rfl)
theorem dX0_check_65 : decode cX0_check 65 = .ok (.iload 5, 2) := dk_21 5 (dk_at dksX0_check_2 17 rfl rfl)
theorem dX0_check_67 : decode cX0_check 67 = .ok (.iload_n 3, 1) := dk_29 (dk_at dksX0_check_2 19 rfl rfl)
theorem dX0_check_68 : decode cX0_check 68 = .ok (.if_icmp .ge 41, 3) := dk_162 0 41 (dk_at dksX0_check_2 20 rfl rfl)
theorem dX0_check_71 : decode cX0_check 71 = .ok (.iload 5, 2) := dk_21 5 (dk_at dksX0_check_3 0 rfl rfl)
theorem dX0_check_73 : decode cX0_check 73 = .ok (.iload 4, 2) := dk_21 4 (dk_at dksX0_check_3 2 rfl rfl)
theorem dX0_check_75 : decode cX0_check 75 = .ok (.if_icmp .ge 23, 3) := dk_162 0 23 (dk_at dksX0_check_3 4 rfl rfl)
theorem dX0_check_78 : decode cX0_check 78 = .ok (.aload_n 0, 1) := dk_42 (dk_at dksX0_check_3 7 rfl rfl)
theorem dX0_check_79 : decode cX0_check 79 = .ok (.getfield 95, 3) := dk_180 0 95 (dk_at dksX0_check_3 8 rfl rfl)
theorem dX0_check_82 : decode cX0_check 82 = .ok (.iload 5, 2) := dk_21 5 (dk_at dksX0_check_3 11 rfl rfl)
theorem dX0_check_84 : decode cX0_check 84 = .ok (.iaload, 1) := dk_46 (dk_at dksX0_check_3 13 rfl rfl)
theorem dX0_check_85 : decode cX0_check 85 = .ok (.aload_n 0, 1) := dk_42 (dk_at dksX0_check_3 14 rfl rfl)
theorem dX0_check_86 : decode cX0_check 86 = .ok (.getfield 98, 3) := dk_180 0 98 (dk_at dksX0_check_3 15 rfl rfl)
theorem dX0_check_89 : decode cX0_check 89 = .ok (.iload 5, 2) := dk_21 5 (dk_at dksX0_check_3 18 rfl rfl)
theorem dX0_check_91 : decode cX0_check 91 = .ok (.iaload, 1) := dk_46 (dk_at dksX0_check_3 20 rfl rfl)
theorem dX0_check_92 : decode cX0_check 92 = .ok (.if_icmp .ne 6, 3) := dk_160 0 6 (dk_at dksX0_check_3 21 rfl rfl)
theorem dX0_check_95 : decode cX0_check 95 = .ok (.goto 8, 3) := dk_167 0 8 (dk_at dksX0_check_4 0 rfl rfl)
theorem dX0_check_98 : decode cX0_check 98 = .ok (.iconst 1, 1) := dk_4 (dk_at dksX0_check_4 3 rfl rfl)
theorem dX0_check_99 : decode cX0_check 99 = .ok (.iload 5, 2) := dk_21 5 (dk_at dksX0_check_4 4 rfl rfl)
theorem dX0_check_101 : decode cX0_check 101 = .ok (.iadd, 1) := dk_96 (dk_at dksX0_check_4 6 rfl rfl)
theorem dX0_check_102 : decode cX0_check 102 = .ok (.ireturn, 1) := dk_172 (dk_at dksX0_check_4 7 rfl rfl)
theorem dX0_check_103 : decode cX0_check 103 = .ok (.iinc 5 1, 3) := dk_132 5 1 (dk_at dksX0_check_4 8 rfl rfl)
theorem dX0_check_106 : decode cX0_check 106 = .ok (.goto (-41), 3) := dk_167 255 215 (dk_at dksX0_check_4 11 rfl rfl)
theorem dX0_check_109 : decode cX0_check 109 = .ok (.iload_n 3, 1) := dk_29 (dk_at dksX0_check_4 14 rfl rfl)
theorem dX0_check_110 : decode cX0_check 110 = .ok (.iload 4, 2) := dk_21 4 (dk_at dksX0_check_4 15 rfl rfl)
theorem dX0_check_112 : decode cX0_check 112 = .ok (.if_icmp .ge 9, 3) := dk_162 0 9 (dk_at dksX0_check_4 17 rfl rfl)
theorem dX0_check_115 : decode cX0_check 115 = .ok (.iconst 1, 1) := dk_4 (dk_at dksX0_check_4 20 rfl rfl)
theorem dX0_check_116 : decode cX0_check 116 = .ok (.iload_n 3, 1) := dk_29 (dk_at dksX0_check_4 21 rfl rfl)
theorem dX0_check_117 : decode cX0_check 117 = .ok (.iadd, 1) := dk_96 (dk_at dksX0_check_4 22 rfl rfl)
theorem dX0_check_118 : decode cX0_check 118 = .ok (.goto 4, 3) := dk_167 0 4 (dk_at dksX0_check_5 0 rfl rfl)
theorem dX0_check_121 : decode cX0_check 121 = .ok (.iconst 0, 1) := dk_3 (dk_at dksX0_check_5 3 rfl rfl)
theorem dX0_check_122 : decode cX0_check 122 = .ok (.ireturn, 1) := dk_172 (dk_at dksX0_check_5 4 rfl rfl)
abbrev cX0_rowsOfRounds : ByteArray := prog_1_method_94_code
def yX0_rowsOfRounds : MethodName := ⟨RX0, "rowsOfRounds", "(II)I"⟩
def dkwX0_rowsOfRounds_4 : List UInt8 := [28, 104, 172]
abbrev dktX0_rowsOfRounds_4 : List UInt8 := dkwX0_rowsOfRounds_4 ++ []
def dkwX0_rowsOfRounds_3 : List UInt8 := [96, 45, 180, 1, 103, 79, 132, 4, 1, 167, 255, 212, 42, 180, 0, 46, 42, 180, 0, 53, 182, 2, 3, 5]
abbrev dktX0_rowsOfRounds_3 : List UInt8 := dkwX0_rowsOfRounds_3 ++ dktX0_rowsOfRounds_4
def dkwX0_rowsOfRounds_2 : List UInt8 := [54, 5, 42, 180, 0, 98, 5, 21, 4, 104, 45, 182, 1, 106, 79, 42, 180, 0, 98, 5, 21, 4, 104, 4]
abbrev dktX0_rowsOfRounds_2 : List UInt8 := dkwX0_rowsOfRounds_2 ++ dktX0_rowsOfRounds_3
def dkwX0_rowsOfRounds_1 : List UInt8 := [180, 0, 46, 180, 1, 22, 27, 50, 78, 3, 54, 4, 21, 4, 28, 162, 0, 44, 42, 45, 182, 1, 156]
abbrev dktX0_rowsOfRounds_1 : List UInt8 := dkwX0_rowsOfRounds_1 ++ dktX0_rowsOfRounds_2
def dkwX0_rowsOfRounds_0 : List UInt8 := [42, 180, 0, 53, 42, 180, 0, 46, 182, 2, 3, 42, 180, 0, 46, 42, 180, 0, 50, 182, 2, 3, 42]
abbrev dktX0_rowsOfRounds_0 : List UInt8 := dkwX0_rowsOfRounds_0 ++ dktX0_rowsOfRounds_1
theorem dksX0_rowsOfRounds_0 : cX0_rowsOfRounds.data.toList.drop 0 = dktX0_rowsOfRounds_0 := by decide +kernel
theorem dksX0_rowsOfRounds_1 : cX0_rowsOfRounds.data.toList.drop 23 = dktX0_rowsOfRounds_1 := dk_seg dksX0_rowsOfRounds_0 23 rfl rfl
theorem dksX0_rowsOfRounds_2 : cX0_rowsOfRounds.data.toList.drop 46 = dktX0_rowsOfRounds_2 := dk_seg dksX0_rowsOfRounds_1 23 rfl rfl
theorem dksX0_rowsOfRounds_3 : cX0_rowsOfRounds.data.toList.drop 70 = dktX0_rowsOfRounds_3 := dk_seg dksX0_rowsOfRounds_2 24 rfl rfl
theorem dksX0_rowsOfRounds_4 : cX0_rowsOfRounds.data.toList.drop 94 = dktX0_rowsOfRounds_4 := dk_seg dksX0_rowsOfRounds_3 24 rfl rfl
theorem dX0_rowsOfRounds_0 : decode cX0_rowsOfRounds 0 = .ok (.aload_n 0, 1) := dk_42 (dk_at dksX0_rowsOfRounds_0 0 rfl rfl)
theorem dX0_rowsOfRounds_1 : decode cX0_rowsOfRounds 1 = .ok (.getfield 53, 3) := dk_180 0 53 (dk_at dksX0_rowsOfRounds_0 1 rfl rfl)
theorem dX0_rowsOfRounds_4 : decode cX0_rowsOfRounds 4 = .ok (.aload_n 0, 1) := dk_42 (dk_at dksX0_rowsOfRounds_0 4 rfl rfl)
theorem dX0_rowsOfRounds_5 : decode cX0_rowsOfRounds 5 = .ok (.getfield 46, 3) := dk_180 0 46 (dk_at dksX0_rowsOfRounds_0 5 rfl rfl)
theorem dX0_rowsOfRounds_8 : decode cX0_rowsOfRounds 8 = .ok (.invokevirtual 515, 3) := dk_182 2 3 (dk_at dksX0_rowsOfRounds_0 8 rfl rfl)
theorem dX0_rowsOfRounds_11 : decode cX0_rowsOfRounds 11 = .ok (.aload_n 0, 1) := dk_42 (dk_at dksX0_rowsOfRounds_0 11 rfl rfl)
theorem dX0_rowsOfRounds_12 : decode cX0_rowsOfRounds 12 = .ok (.getfield 46, 3) := dk_180 0 46 (dk_at dksX0_rowsOfRounds_0 12 rfl rfl)
theorem dX0_rowsOfRounds_15 : decode cX0_rowsOfRounds 15 = .ok (.aload_n 0, 1) := dk_42 (dk_at dksX0_rowsOfRounds_0 15 rfl rfl)
theorem dX0_rowsOfRounds_16 : decode cX0_rowsOfRounds 16 = .ok (.getfield 50, 3) := dk_180 0 50 (dk_at dksX0_rowsOfRounds_0 16 rfl rfl)
theorem dX0_rowsOfRounds_19 : decode cX0_rowsOfRounds 19 = .ok (.invokevirtual 515, 3) := dk_182 2 3 (dk_at dksX0_rowsOfRounds_0 19 rfl rfl)
theorem dX0_rowsOfRounds_22 : decode cX0_rowsOfRounds 22 = .ok (.aload_n 0, 1) := dk_42 (dk_at dksX0_rowsOfRounds_0 22 rfl rfl)
theorem dX0_rowsOfRounds_23 : decode cX0_rowsOfRounds 23 = .ok (.getfield 46, 3) := dk_180 0 46 (dk_at dksX0_rowsOfRounds_1 0 rfl rfl)
theorem dX0_rowsOfRounds_26 : decode cX0_rowsOfRounds 26 = .ok (.getfield 278, 3) := dk_180 1 22 (dk_at dksX0_rowsOfRounds_1 3 rfl rfl)
theorem dX0_rowsOfRounds_29 : decode cX0_rowsOfRounds 29 = .ok (.iload_n 1, 1) := dk_27 (dk_at dksX0_rowsOfRounds_1 6 rfl rfl)
theorem dX0_rowsOfRounds_30 : decode cX0_rowsOfRounds 30 = .ok (.aaload, 1) := dk_50 (dk_at dksX0_rowsOfRounds_1 7 rfl rfl)
theorem dX0_rowsOfRounds_31 : decode cX0_rowsOfRounds 31 = .ok (.astore_n 3, 1) := dk_78 (dk_at dksX0_rowsOfRounds_1 8 rfl rfl)
theorem dX0_rowsOfRounds_32 : decode cX0_rowsOfRounds 32 = .ok (.iconst 0, 1) := dk_3 (dk_at dksX0_rowsOfRounds_1 9 rfl rfl)
theorem dX0_rowsOfRounds_33 : decode cX0_rowsOfRounds 33 = .ok (.istore 4, 2) := dk_54 4 (dk_at dksX0_rowsOfRounds_1 10 rfl rfl)
theorem dX0_rowsOfRounds_35 : decode cX0_rowsOfRounds 35 = .ok (.iload 4, 2) := dk_21 4 (dk_at dksX0_rowsOfRounds_1 12 rfl rfl)
theorem dX0_rowsOfRounds_37 : decode cX0_rowsOfRounds 37 = .ok (.iload_n 2, 1) := dk_28 (dk_at dksX0_rowsOfRounds_1 14 rfl rfl)
theorem dX0_rowsOfRounds_38 : decode cX0_rowsOfRounds 38 = .ok (.if_icmp .ge 44, 3) := dk_162 0 44 (dk_at dksX0_rowsOfRounds_1 15 rfl rfl)
theorem dX0_rowsOfRounds_41 : decode cX0_rowsOfRounds 41 = .ok (.aload_n 0, 1) := dk_42 (dk_at dksX0_rowsOfRounds_1 18 rfl rfl)
theorem dX0_rowsOfRounds_42 : decode cX0_rowsOfRounds 42 = .ok (.aload_n 3, 1) := dk_45 (dk_at dksX0_rowsOfRounds_1 19 rfl rfl)
theorem dX0_rowsOfRounds_43 : decode cX0_rowsOfRounds 43 = .ok (.invokevirtual 412, 3) := dk_182 1 156 (dk_at dksX0_rowsOfRounds_1 20 rfl rfl)
theorem dX0_rowsOfRounds_46 : decode cX0_rowsOfRounds 46 = .ok (.istore 5, 2) := dk_54 5 (dk_at dksX0_rowsOfRounds_2 0 rfl rfl)
theorem dX0_rowsOfRounds_48 : decode cX0_rowsOfRounds 48 = .ok (.aload_n 0, 1) := dk_42 (dk_at dksX0_rowsOfRounds_2 2 rfl rfl)
theorem dX0_rowsOfRounds_49 : decode cX0_rowsOfRounds 49 = .ok (.getfield 98, 3) := dk_180 0 98 (dk_at dksX0_rowsOfRounds_2 3 rfl rfl)
theorem dX0_rowsOfRounds_52 : decode cX0_rowsOfRounds 52 = .ok (.iconst 2, 1) := dk_5 (dk_at dksX0_rowsOfRounds_2 6 rfl rfl)
theorem dX0_rowsOfRounds_53 : decode cX0_rowsOfRounds 53 = .ok (.iload 4, 2) := dk_21 4 (dk_at dksX0_rowsOfRounds_2 7 rfl rfl)
theorem dX0_rowsOfRounds_55 : decode cX0_rowsOfRounds 55 = .ok (.imul, 1) := dk_104 (dk_at dksX0_rowsOfRounds_2 9 rfl rfl)
theorem dX0_rowsOfRounds_56 : decode cX0_rowsOfRounds 56 = .ok (.aload_n 3, 1) := dk_45 (dk_at dksX0_rowsOfRounds_2 10 rfl rfl)
theorem dX0_rowsOfRounds_57 : decode cX0_rowsOfRounds 57 = .ok (.invokevirtual 362, 3) := dk_182 1 106 (dk_at dksX0_rowsOfRounds_2 11 rfl rfl)
theorem dX0_rowsOfRounds_60 : decode cX0_rowsOfRounds 60 = .ok (.iastore, 1) := dk_79 (dk_at dksX0_rowsOfRounds_2 14 rfl rfl)
theorem dX0_rowsOfRounds_61 : decode cX0_rowsOfRounds 61 = .ok (.aload_n 0, 1) := dk_42 (dk_at dksX0_rowsOfRounds_2 15 rfl rfl)
theorem dX0_rowsOfRounds_62 : decode cX0_rowsOfRounds 62 = .ok (.getfield 98, 3) := dk_180 0 98 (dk_at dksX0_rowsOfRounds_2 16 rfl rfl)
theorem dX0_rowsOfRounds_65 : decode cX0_rowsOfRounds 65 = .ok (.iconst 2, 1) := dk_5 (dk_at dksX0_rowsOfRounds_2 19 rfl rfl)
theorem dX0_rowsOfRounds_66 : decode cX0_rowsOfRounds 66 = .ok (.iload 4, 2) := dk_21 4 (dk_at dksX0_rowsOfRounds_2 20 rfl rfl)
theorem dX0_rowsOfRounds_68 : decode cX0_rowsOfRounds 68 = .ok (.imul, 1) := dk_104 (dk_at dksX0_rowsOfRounds_2 22 rfl rfl)
theorem dX0_rowsOfRounds_69 : decode cX0_rowsOfRounds 69 = .ok (.iconst 1, 1) := dk_4 (dk_at dksX0_rowsOfRounds_2 23 rfl rfl)
theorem dX0_rowsOfRounds_70 : decode cX0_rowsOfRounds 70 = .ok (.iadd, 1) := dk_96 (dk_at dksX0_rowsOfRounds_3 0 rfl rfl)
theorem dX0_rowsOfRounds_71 : decode cX0_rowsOfRounds 71 = .ok (.aload_n 3, 1) := dk_45 (dk_at dksX0_rowsOfRounds_3 1 rfl rfl)
theorem dX0_rowsOfRounds_72 : decode cX0_rowsOfRounds 72 = .ok (.getfield 359, 3) := dk_180 1 103 (dk_at dksX0_rowsOfRounds_3 2 rfl rfl)
theorem dX0_rowsOfRounds_75 : decode cX0_rowsOfRounds 75 = .ok (.iastore, 1) := dk_79 (dk_at dksX0_rowsOfRounds_3 5 rfl rfl)
theorem dX0_rowsOfRounds_76 : decode cX0_rowsOfRounds 76 = .ok (.iinc 4 1, 3) := dk_132 4 1 (dk_at dksX0_rowsOfRounds_3 6 rfl rfl)
theorem dX0_rowsOfRounds_79 : decode cX0_rowsOfRounds 79 = .ok (.goto (-44), 3) := dk_167 255 212 (dk_at dksX0_rowsOfRounds_3 9 rfl rfl)
theorem dX0_rowsOfRounds_82 : decode cX0_rowsOfRounds 82 = .ok (.aload_n 0, 1) := dk_42 (dk_at dksX0_rowsOfRounds_3 12 rfl rfl)
theorem dX0_rowsOfRounds_83 : decode cX0_rowsOfRounds 83 = .ok (.getfield 46, 3) := dk_180 0 46 (dk_at dksX0_rowsOfRounds_3 13 rfl rfl)
theorem dX0_rowsOfRounds_86 : decode cX0_rowsOfRounds 86 = .ok (.aload_n 0, 1) := dk_42 (dk_at dksX0_rowsOfRounds_3 16 rfl rfl)
theorem dX0_rowsOfRounds_87 : decode cX0_rowsOfRounds 87 = .ok (.getfield 53, 3) := dk_180 0 53 (dk_at dksX0_rowsOfRounds_3 17 rfl rfl)
theorem dX0_rowsOfRounds_90 : decode cX0_rowsOfRounds 90 = .ok (.invokevirtual 515, 3) := dk_182 2 3 (dk_at dksX0_rowsOfRounds_3 20 rfl rfl)
theorem dX0_rowsOfRounds_93 : decode cX0_rowsOfRounds 93 = .ok (.iconst 2, 1) := dk_5 (dk_at dksX0_rowsOfRounds_3 23 rfl rfl)
theorem dX0_rowsOfRounds_94 : decode cX0_rowsOfRounds 94 = .ok (.iload_n 2, 1) := dk_28 (dk_at dksX0_rowsOfRounds_4 0 rfl rfl)
theorem dX0_rowsOfRounds_95 : decode cX0_rowsOfRounds 95 = .ok (.imul, 1) := dk_104 (dk_at dksX0_rowsOfRounds_4 1 rfl rfl)
theorem dX0_rowsOfRounds_96 : decode cX0_rowsOfRounds 96 = .ok (.ireturn, 1) := dk_172 (dk_at dksX0_rowsOfRounds_4 2 rfl rfl)
abbrev cX0_copyRow : ByteArray := prog_1_method_6_code
def yX0_copyRow : MethodName := ⟨RX0, "copyRow", "([I[I)V"⟩
def dkwX0_copyRow_0 : List UInt8 := [42, 3, 43, 3, 43, 190, 184, 0, 34, 177]
abbrev dktX0_copyRow_0 : List UInt8 := dkwX0_copyRow_0 ++ []
theorem dksX0_copyRow_0 : cX0_copyRow.data.toList.drop 0 = dktX0_copyRow_0 := by decide +kernel
theorem dX0_copyRow_0 : decode cX0_copyRow 0 = .ok (.aload_n 0, 1) := dk_42 (dk_at dksX0_copyRow_0 0 rfl rfl)
theorem dX0_copyRow_1 : decode cX0_copyRow 1 = .ok (.iconst 0, 1) := dk_3 (dk_at dksX0_copyRow_0 1 rfl rfl)
theorem dX0_copyRow_2 : decode cX0_copyRow 2 = .ok (.aload_n 1, 1) := dk_43 (dk_at dksX0_copyRow_0 2 rfl rfl)
theorem dX0_copyRow_3 : decode cX0_copyRow 3 = .ok (.iconst 0, 1) := dk_3 (dk_at dksX0_copyRow_0 3 rfl rfl)
theorem dX0_copyRow_4 : decode cX0_copyRow 4 = .ok (.aload_n 1, 1) := dk_43 (dk_at dksX0_copyRow_0 4 rfl rfl)
theorem dX0_copyRow_5 : decode cX0_copyRow 5 = .ok (.arraylength, 1) := dk_190 (dk_at dksX0_copyRow_0 5 rfl rfl)
theorem dX0_copyRow_6 : decode cX0_copyRow 6 = .ok (.invokestatic 34, 3) := dk_184 0 34 (dk_at dksX0_copyRow_0 6 rfl rfl)
theorem dX0_copyRow_9 : decode cX0_copyRow 9 = .ok (.return_, 1) := dk_177 (dk_at dksX0_copyRow_0 9 rfl rfl)
abbrev cX0_keep : ByteArray := prog_1_method_96_code
def yX0_keep : MethodName := ⟨RX0, "keep", "()I"⟩
def dkwX0_keep_0 : List UInt8 := [42, 180, 0, 50, 42, 180, 0, 46, 182, 2, 3, 42, 4, 181, 2, 7, 42, 180, 0, 46, 180, 0, 101, 172]
abbrev dktX0_keep_0 : List UInt8 := dkwX0_keep_0 ++ []
theorem dksX0_keep_0 : cX0_keep.data.toList.drop 0 = dktX0_keep_0 := by decide +kernel
theorem dX0_keep_0 : decode cX0_keep 0 = .ok (.aload_n 0, 1) := dk_42 (dk_at dksX0_keep_0 0 rfl rfl)
theorem dX0_keep_1 : decode cX0_keep 1 = .ok (.getfield 50, 3) := dk_180 0 50 (dk_at dksX0_keep_0 1 rfl rfl)
theorem dX0_keep_4 : decode cX0_keep 4 = .ok (.aload_n 0, 1) := dk_42 (dk_at dksX0_keep_0 4 rfl rfl)
theorem dX0_keep_5 : decode cX0_keep 5 = .ok (.getfield 46, 3) := dk_180 0 46 (dk_at dksX0_keep_0 5 rfl rfl)
theorem dX0_keep_8 : decode cX0_keep 8 = .ok (.invokevirtual 515, 3) := dk_182 2 3 (dk_at dksX0_keep_0 8 rfl rfl)
theorem dX0_keep_11 : decode cX0_keep 11 = .ok (.aload_n 0, 1) := dk_42 (dk_at dksX0_keep_0 11 rfl rfl)
theorem dX0_keep_12 : decode cX0_keep 12 = .ok (.iconst 1, 1) := dk_4 (dk_at dksX0_keep_0 12 rfl rfl)
theorem dX0_keep_13 : decode cX0_keep 13 = .ok (.putfield 519, 3) := dk_181 2 7 (dk_at dksX0_keep_0 13 rfl rfl)
theorem dX0_keep_16 : decode cX0_keep 16 = .ok (.aload_n 0, 1) := dk_42 (dk_at dksX0_keep_0 16 rfl rfl)
theorem dX0_keep_17 : decode cX0_keep 17 = .ok (.getfield 46, 3) := dk_180 0 46 (dk_at dksX0_keep_0 17 rfl rfl)
theorem dX0_keep_20 : decode cX0_keep 20 = .ok (.getfield 101, 3) := dk_180 0 101 (dk_at dksX0_keep_0 20 rfl rfl)
theorem dX0_keep_23 : decode cX0_keep 23 = .ok (.ireturn, 1) := dk_172 (dk_at dksX0_keep_0 23 rfl rfl)
abbrev cX0_back : ByteArray := prog_1_method_97_code
def yX0_back : MethodName := ⟨RX0, "back", "()I"⟩
def dkwX0_back_1 : List UInt8 := [180, 0, 46, 180, 0, 101, 172]
abbrev dktX0_back_1 : List UInt8 := dkwX0_back_1 ++ []
def dkwX0_back_0 : List UInt8 := [42, 180, 2, 7, 154, 0, 7, 19, 1, 138, 172, 42, 180, 0, 46, 42, 180, 0, 50, 182, 2, 3, 42]
abbrev dktX0_back_0 : List UInt8 := dkwX0_back_0 ++ dktX0_back_1
theorem dksX0_back_0 : cX0_back.data.toList.drop 0 = dktX0_back_0 := by decide +kernel
theorem dksX0_back_1 : cX0_back.data.toList.drop 23 = dktX0_back_1 := dk_seg dksX0_back_0 23 rfl rfl
theorem dX0_back_0 : decode cX0_back 0 = .ok (.aload_n 0, 1) := dk_42 (dk_at dksX0_back_0 0 rfl rfl)
theorem dX0_back_1 : decode cX0_back 1 = .ok (.getfield 519, 3) := dk_180 2 7 (dk_at dksX0_back_0 1 rfl rfl)
theorem dX0_back_4 : decode cX0_back 4 = .ok (.ifCond .ne 7, 3) := dk_154 0 7 (dk_at dksX0_back_0 4 rfl rfl)
theorem dX0_back_7 : decode cX0_back 7 = .ok (.ldc_w 394, 3) := dk_19 1 138 (dk_at dksX0_back_0 7 rfl rfl)
theorem dX0_back_10 : decode cX0_back 10 = .ok (.ireturn, 1) := dk_172 (dk_at dksX0_back_0 10 rfl rfl)
theorem dX0_back_11 : decode cX0_back 11 = .ok (.aload_n 0, 1) := dk_42 (dk_at dksX0_back_0 11 rfl rfl)
theorem dX0_back_12 : decode cX0_back 12 = .ok (.getfield 46, 3) := dk_180 0 46 (dk_at dksX0_back_0 12 rfl rfl)
theorem dX0_back_15 : decode cX0_back 15 = .ok (.aload_n 0, 1) := dk_42 (dk_at dksX0_back_0 15 rfl rfl)
theorem dX0_back_16 : decode cX0_back 16 = .ok (.getfield 50, 3) := dk_180 0 50 (dk_at dksX0_back_0 16 rfl rfl)
theorem dX0_back_19 : decode cX0_back 19 = .ok (.invokevirtual 515, 3) := dk_182 2 3 (dk_at dksX0_back_0 19 rfl rfl)
theorem dX0_back_22 : decode cX0_back 22 = .ok (.aload_n 0, 1) := dk_42 (dk_at dksX0_back_0 22 rfl rfl)
theorem dX0_back_23 : decode cX0_back 23 = .ok (.getfield 46, 3) := dk_180 0 46 (dk_at dksX0_back_1 0 rfl rfl)
theorem dX0_back_26 : decode cX0_back 26 = .ok (.getfield 101, 3) := dk_180 0 101 (dk_at dksX0_back_1 3 rfl rfl)
theorem dX0_back_29 : decode cX0_back 29 = .ok (.ireturn, 1) := dk_172 (dk_at dksX0_back_1 6 rfl rfl)
abbrev cX0_count : ByteArray := prog_1_method_99_code
def yX0_count : MethodName := ⟨RX0, "count", "(I)I"⟩
def dkwX0_count_4 : List UInt8 := [172, 42, 180, 0, 127, 172, 42, 180, 0, 46, 180, 1, 73, 172, 18, 135, 172]
abbrev dktX0_count_4 : List UInt8 := dkwX0_count_4 ++ []
def dkwX0_count_3 : List UInt8 := [42, 3, 182, 2, 14, 172, 42, 4, 182, 2, 14, 172, 42, 180, 0, 46, 180, 0, 242, 172, 42, 180, 2, 0]
abbrev dktX0_count_3 : List UInt8 := dkwX0_count_3 ++ dktX0_count_4
def dkwX0_count_2 : List UInt8 := [42, 180, 0, 46, 180, 0, 101, 172, 42, 180, 0, 46, 180, 0, 109, 172, 42, 180, 0, 46, 180, 1, 128, 172]
abbrev dktX0_count_2 : List UInt8 := dkwX0_count_2 ++ dktX0_count_3
def dkwX0_count_1 : List UInt8 := [170, 0, 0, 0, 0, 0, 113, 0, 0, 0, 0, 0, 0, 0, 8, 0, 0, 0, 51, 0, 0, 0, 59, 0, 0, 0, 67, 0, 0, 0, 75, 0, 0, 0, 81, 0, 0, 0, 87, 0, 0, 0, 95, 0, 0, 0, 100, 0, 0, 0, 105]
abbrev dktX0_count_1 : List UInt8 := dkwX0_count_1 ++ dktX0_count_2
def dkwX0_count_0 : List UInt8 := [27]
abbrev dktX0_count_0 : List UInt8 := dkwX0_count_0 ++ dktX0_count_1
theorem dksX0_count_0 : cX0_count.data.toList.drop 0 = dktX0_count_0 := by decide +kernel
theorem dksX0_count_1 : cX0_count.data.toList.drop 1 = dktX0_count_1 := dk_seg dksX0_count_0 1 rfl rfl
theorem dksX0_count_2 : cX0_count.data.toList.drop 52 = dktX0_count_2 := dk_seg dksX0_count_1 51 rfl rfl
theorem dksX0_count_3 : cX0_count.data.toList.drop 76 = dktX0_count_3 := dk_seg dksX0_count_2 24 rfl rfl
theorem dksX0_count_4 : cX0_count.data.toList.drop 100 = dktX0_count_4 := dk_seg dksX0_count_3 24 rfl rfl
theorem dX0_count_0 : decode cX0_count 0 = .ok (.iload_n 1, 1) := dk_27 (dk_at dksX0_count_0 0 rfl rfl)
theorem dX0_count_1 : decode cX0_count 1 = .ok (.tableswitch 113 0 8 #[51, 59, 67, 75, 81, 87, 95, 100, 105], 51) := by decide +kernel
theorem dX0_count_52 : decode cX0_count 52 = .ok (.aload_n 0, 1) := dk_42 (dk_at dksX0_count_2 0 rfl rfl)
theorem dX0_count_53 : decode cX0_count 53 = .ok (.getfield 46, 3) := dk_180 0 46 (dk_at dksX0_count_2 1 rfl rfl)
theorem dX0_count_56 : decode cX0_count 56 = .ok (.getfield 101, 3) := dk_180 0 101 (dk_at dksX0_count_2 4 rfl rfl)
theorem dX0_count_59 : decode cX0_count 59 = .ok (.ireturn, 1) := dk_172 (dk_at dksX0_count_2 7 rfl rfl)
theorem dX0_count_60 : decode cX0_count 60 = .ok (.aload_n 0, 1) := dk_42 (dk_at dksX0_count_2 8 rfl rfl)
theorem dX0_count_61 : decode cX0_count 61 = .ok (.getfield 46, 3) := dk_180 0 46 (dk_at dksX0_count_2 9 rfl rfl)
theorem dX0_count_64 : decode cX0_count 64 = .ok (.getfield 109, 3) := dk_180 0 109 (dk_at dksX0_count_2 12 rfl rfl)
theorem dX0_count_67 : decode cX0_count 67 = .ok (.ireturn, 1) := dk_172 (dk_at dksX0_count_2 15 rfl rfl)
theorem dX0_count_68 : decode cX0_count 68 = .ok (.aload_n 0, 1) := dk_42 (dk_at dksX0_count_2 16 rfl rfl)
theorem dX0_count_69 : decode cX0_count 69 = .ok (.getfield 46, 3) := dk_180 0 46 (dk_at dksX0_count_2 17 rfl rfl)
theorem dX0_count_72 : decode cX0_count 72 = .ok (.getfield 384, 3) := dk_180 1 128 (dk_at dksX0_count_2 20 rfl rfl)
theorem dX0_count_75 : decode cX0_count 75 = .ok (.ireturn, 1) := dk_172 (dk_at dksX0_count_2 23 rfl rfl)
theorem dX0_count_76 : decode cX0_count 76 = .ok (.aload_n 0, 1) := dk_42 (dk_at dksX0_count_3 0 rfl rfl)
theorem dX0_count_77 : decode cX0_count 77 = .ok (.iconst 0, 1) := dk_3 (dk_at dksX0_count_3 1 rfl rfl)
theorem dX0_count_78 : decode cX0_count 78 = .ok (.invokevirtual 526, 3) := dk_182 2 14 (dk_at dksX0_count_3 2 rfl rfl)
theorem dX0_count_81 : decode cX0_count 81 = .ok (.ireturn, 1) := dk_172 (dk_at dksX0_count_3 5 rfl rfl)
theorem dX0_count_82 : decode cX0_count 82 = .ok (.aload_n 0, 1) := dk_42 (dk_at dksX0_count_3 6 rfl rfl)
theorem dX0_count_83 : decode cX0_count 83 = .ok (.iconst 1, 1) := dk_4 (dk_at dksX0_count_3 7 rfl rfl)
theorem dX0_count_84 : decode cX0_count 84 = .ok (.invokevirtual 526, 3) := dk_182 2 14 (dk_at dksX0_count_3 8 rfl rfl)
theorem dX0_count_87 : decode cX0_count 87 = .ok (.ireturn, 1) := dk_172 (dk_at dksX0_count_3 11 rfl rfl)
theorem dX0_count_88 : decode cX0_count 88 = .ok (.aload_n 0, 1) := dk_42 (dk_at dksX0_count_3 12 rfl rfl)
theorem dX0_count_89 : decode cX0_count 89 = .ok (.getfield 46, 3) := dk_180 0 46 (dk_at dksX0_count_3 13 rfl rfl)
theorem dX0_count_92 : decode cX0_count 92 = .ok (.getfield 242, 3) := dk_180 0 242 (dk_at dksX0_count_3 16 rfl rfl)
theorem dX0_count_95 : decode cX0_count 95 = .ok (.ireturn, 1) := dk_172 (dk_at dksX0_count_3 19 rfl rfl)
theorem dX0_count_96 : decode cX0_count 96 = .ok (.aload_n 0, 1) := dk_42 (dk_at dksX0_count_3 20 rfl rfl)
theorem dX0_count_97 : decode cX0_count 97 = .ok (.getfield 512, 3) := dk_180 2 0 (dk_at dksX0_count_3 21 rfl rfl)
theorem dX0_count_100 : decode cX0_count 100 = .ok (.ireturn, 1) := dk_172 (dk_at dksX0_count_4 0 rfl rfl)
theorem dX0_count_101 : decode cX0_count 101 = .ok (.aload_n 0, 1) := dk_42 (dk_at dksX0_count_4 1 rfl rfl)
theorem dX0_count_102 : decode cX0_count 102 = .ok (.getfield 127, 3) := dk_180 0 127 (dk_at dksX0_count_4 2 rfl rfl)
theorem dX0_count_105 : decode cX0_count 105 = .ok (.ireturn, 1) := dk_172 (dk_at dksX0_count_4 5 rfl rfl)
theorem dX0_count_106 : decode cX0_count 106 = .ok (.aload_n 0, 1) := dk_42 (dk_at dksX0_count_4 6 rfl rfl)
theorem dX0_count_107 : decode cX0_count 107 = .ok (.getfield 46, 3) := dk_180 0 46 (dk_at dksX0_count_4 7 rfl rfl)
theorem dX0_count_110 : decode cX0_count 110 = .ok (.getfield 329, 3) := dk_180 1 73 (dk_at dksX0_count_4 10 rfl rfl)
theorem dX0_count_113 : decode cX0_count 113 = .ok (.ireturn, 1) := dk_172 (dk_at dksX0_count_4 13 rfl rfl)
theorem dX0_count_114 : decode cX0_count 114 = .ok (.ldc 135, 2) := dk_18 135 (dk_at dksX0_count_4 14 rfl rfl)
theorem dX0_count_116 : decode cX0_count 116 = .ok (.ireturn, 1) := dk_172 (dk_at dksX0_count_4 16 rfl rfl)
abbrev cX0_sumOf : ByteArray := prog_1_method_98_code
def yX0_sumOf : MethodName := ⟨RX0, "sumOf", "(Z)I"⟩
def dkwX0_sumOf_2 : List UInt8 := [61, 132, 3, 1, 167, 255, 208, 28, 172]
abbrev dktX0_sumOf_2 : List UInt8 := dkwX0_sumOf_2 ++ []
def dkwX0_sumOf_1 : List UInt8 := [180, 1, 22, 29, 50, 180, 1, 103, 167, 0, 15, 42, 180, 0, 46, 180, 1, 22, 29, 50, 180, 1, 100, 96]
abbrev dktX0_sumOf_1 : List UInt8 := dkwX0_sumOf_1 ++ dktX0_sumOf_2
def dkwX0_sumOf_0 : List UInt8 := [3, 61, 3, 62, 29, 42, 180, 0, 46, 180, 0, 109, 162, 0, 43, 28, 27, 153, 0, 18, 42, 180, 0, 46]
abbrev dktX0_sumOf_0 : List UInt8 := dkwX0_sumOf_0 ++ dktX0_sumOf_1
theorem dksX0_sumOf_0 : cX0_sumOf.data.toList.drop 0 = dktX0_sumOf_0 := by decide +kernel
theorem dksX0_sumOf_1 : cX0_sumOf.data.toList.drop 24 = dktX0_sumOf_1 := dk_seg dksX0_sumOf_0 24 rfl rfl
theorem dksX0_sumOf_2 : cX0_sumOf.data.toList.drop 48 = dktX0_sumOf_2 := dk_seg dksX0_sumOf_1 24 rfl rfl
theorem dX0_sumOf_0 : decode cX0_sumOf 0 = .ok (.iconst 0, 1) := dk_3 (dk_at dksX0_sumOf_0 0 rfl rfl)
theorem dX0_sumOf_1 : decode cX0_sumOf 1 = .ok (.istore_n 2, 1) := dk_61 (dk_at dksX0_sumOf_0 1 rfl rfl)
theorem dX0_sumOf_2 : decode cX0_sumOf 2 = .ok (.iconst 0, 1) := dk_3 (dk_at dksX0_sumOf_0 2 rfl rfl)
theorem dX0_sumOf_3 : decode cX0_sumOf 3 = .ok (.istore_n 3, 1) := dk_62 (dk_at dksX0_sumOf_0 3 rfl rfl)
theorem dX0_sumOf_4 : decode cX0_sumOf 4 = .ok (.iload_n 3, 1) := dk_29 (dk_at dksX0_sumOf_0 4 rfl rfl)
theorem dX0_sumOf_5 : decode cX0_sumOf 5 = .ok (.aload_n 0, 1) := dk_42 (dk_at dksX0_sumOf_0 5 rfl rfl)
theorem dX0_sumOf_6 : decode cX0_sumOf 6 = .ok (.getfield 46, 3) := dk_180 0 46 (dk_at dksX0_sumOf_0 6 rfl rfl)
theorem dX0_sumOf_9 : decode cX0_sumOf 9 = .ok (.getfield 109, 3) := dk_180 0 109 (dk_at dksX0_sumOf_0 9 rfl rfl)
theorem dX0_sumOf_12 : decode cX0_sumOf 12 = .ok (.if_icmp .ge 43, 3) := dk_162 0 43 (dk_at dksX0_sumOf_0 12 rfl rfl)
theorem dX0_sumOf_15 : decode cX0_sumOf 15 = .ok (.iload_n 2, 1) := dk_28 (dk_at dksX0_sumOf_0 15 rfl rfl)
theorem dX0_sumOf_16 : decode cX0_sumOf 16 = .ok (.iload_n 1, 1) := dk_27 (dk_at dksX0_sumOf_0 16 rfl rfl)
theorem dX0_sumOf_17 : decode cX0_sumOf 17 = .ok (.ifCond .eq 18, 3) := dk_153 0 18 (dk_at dksX0_sumOf_0 17 rfl rfl)
theorem dX0_sumOf_20 : decode cX0_sumOf 20 = .ok (.aload_n 0, 1) := dk_42 (dk_at dksX0_sumOf_0 20 rfl rfl)
theorem dX0_sumOf_21 : decode cX0_sumOf 21 = .ok (.getfield 46, 3) := dk_180 0 46 (dk_at dksX0_sumOf_0 21 rfl rfl)
theorem dX0_sumOf_24 : decode cX0_sumOf 24 = .ok (.getfield 278, 3) := dk_180 1 22 (dk_at dksX0_sumOf_1 0 rfl rfl)
theorem dX0_sumOf_27 : decode cX0_sumOf 27 = .ok (.iload_n 3, 1) := dk_29 (dk_at dksX0_sumOf_1 3 rfl rfl)
theorem dX0_sumOf_28 : decode cX0_sumOf 28 = .ok (.aaload, 1) := dk_50 (dk_at dksX0_sumOf_1 4 rfl rfl)
theorem dX0_sumOf_29 : decode cX0_sumOf 29 = .ok (.getfield 359, 3) := dk_180 1 103 (dk_at dksX0_sumOf_1 5 rfl rfl)
theorem dX0_sumOf_32 : decode cX0_sumOf 32 = .ok (.goto 15, 3) := dk_167 0 15 (dk_at dksX0_sumOf_1 8 rfl rfl)
theorem dX0_sumOf_35 : decode cX0_sumOf 35 = .ok (.aload_n 0, 1) := dk_42 (dk_at dksX0_sumOf_1 11 rfl rfl)
theorem dX0_sumOf_36 : decode cX0_sumOf 36 = .ok (.getfield 46, 3) := dk_180 0 46 (dk_at dksX0_sumOf_1 12 rfl rfl)
theorem dX0_sumOf_39 : decode cX0_sumOf 39 = .ok (.getfield 278, 3) := dk_180 1 22 (dk_at dksX0_sumOf_1 15 rfl rfl)
theorem dX0_sumOf_42 : decode cX0_sumOf 42 = .ok (.iload_n 3, 1) := dk_29 (dk_at dksX0_sumOf_1 18 rfl rfl)
theorem dX0_sumOf_43 : decode cX0_sumOf 43 = .ok (.aaload, 1) := dk_50 (dk_at dksX0_sumOf_1 19 rfl rfl)
theorem dX0_sumOf_44 : decode cX0_sumOf 44 = .ok (.getfield 356, 3) := dk_180 1 100 (dk_at dksX0_sumOf_1 20 rfl rfl)
theorem dX0_sumOf_47 : decode cX0_sumOf 47 = .ok (.iadd, 1) := dk_96 (dk_at dksX0_sumOf_1 23 rfl rfl)
theorem dX0_sumOf_48 : decode cX0_sumOf 48 = .ok (.istore_n 2, 1) := dk_61 (dk_at dksX0_sumOf_2 0 rfl rfl)
theorem dX0_sumOf_49 : decode cX0_sumOf 49 = .ok (.iinc 3 1, 3) := dk_132 3 1 (dk_at dksX0_sumOf_2 1 rfl rfl)
theorem dX0_sumOf_52 : decode cX0_sumOf 52 = .ok (.goto (-48), 3) := dk_167 255 208 (dk_at dksX0_sumOf_2 4 rfl rfl)
theorem dX0_sumOf_55 : decode cX0_sumOf 55 = .ok (.iload_n 2, 1) := dk_28 (dk_at dksX0_sumOf_2 7 rfl rfl)
theorem dX0_sumOf_56 : decode cX0_sumOf 56 = .ok (.ireturn, 1) := dk_172 (dk_at dksX0_sumOf_2 8 rfl rfl)
theorem q83 : (Jvm.Cond.initialized "NeverSaid") ∈ lw_all := lw_g (lw_at lw_m1 1 rfl) rfl
theorem q112 : (Jvm.Cond.instantiable "NeverSaid" (25 : Nat)) ∈ lw_all := lw_g (lw_at lw_m1 30 rfl) rfl
theorem q114 : (Jvm.Cond.instanceMethod ({ cls := "NeverSaid", name := "<init>", desc := "()V" } : Jvm.MethodName)) ∈ lw_all := lw_g (lw_at lw_m1 32 rfl) rfl
theorem q115 : (Jvm.Cond.code ({ cls := "NeverSaid", name := "<init>", desc := "()V" } : Jvm.MethodName) prog_1_method_7_code (1 : Nat) (Option.none : Option Jvm.ClassFile.FieldType)) ∈ lw_all := lw_g (lw_at lw_m1 33 rfl) rfl
theorem q116 : (Jvm.Cond.methodLink "NeverSaid" (40 : Nat) ({ cls := "java/lang/Object", name := "<init>", desc := "()V" } : Jvm.MethodName)) ∈ lw_all := lw_g (lw_at lw_m1 34 rfl) rfl
theorem q119 : (Jvm.Cond.classLink "NeverSaid" (43 : Nat) "NeverSaid$State") ∈ lw_all := lw_g (lw_at lw_m1 37 rfl) rfl
theorem q121 : (Jvm.Cond.methodLink "NeverSaid" (45 : Nat) ({ cls := "NeverSaid$State", name := "<init>", desc := "()V" } : Jvm.MethodName)) ∈ lw_all := lw_g (lw_at lw_m1 39 rfl) rfl
theorem q137 : (Jvm.Cond.fieldLinkNest "NeverSaid" (340 : Nat) "NeverSaid$Deed" "doers" "I" "NeverSaid") ∈ lw_tbl := lw_at lw_m1 55 rfl
theorem q139 : (Jvm.Cond.fieldLinkNest "NeverSaid" (343 : Nat) "NeverSaid$Deed" "hour" "I" "NeverSaid") ∈ lw_tbl := lw_at lw_m1 57 rfl
theorem q141 : (Jvm.Cond.fieldLinkNest "NeverSaid" (346 : Nat) "NeverSaid$Deed" "weight" "I" "NeverSaid") ∈ lw_tbl := lw_at lw_m1 59 rfl
theorem q143 : (Jvm.Cond.fieldLinkNest "NeverSaid" (282 : Nat) "NeverSaid$Deed" "left" "I" "NeverSaid") ∈ lw_tbl := lw_at lw_m1 61 rfl
theorem q145 : (Jvm.Cond.fieldLinkNest "NeverSaid" (356 : Nat) "NeverSaid$Deed" "sayings" "I" "NeverSaid") ∈ lw_tbl := lw_at lw_m1 63 rfl
theorem q147 : (Jvm.Cond.fieldLinkNest "NeverSaid" (359 : Nat) "NeverSaid$Deed" "lies" "I" "NeverSaid") ∈ lw_tbl := lw_at lw_m1 65 rfl
theorem q163 : (Jvm.Cond.fieldLinkNest "NeverSaid" (329 : Nat) "NeverSaid$State" "z" "I" "NeverSaid") ∈ lw_tbl := lw_at lw_m1 81 rfl
theorem q165 : (Jvm.Cond.fieldLinkNest "NeverSaid" (384 : Nat) "NeverSaid$State" "stop" "I" "NeverSaid") ∈ lw_tbl := lw_at lw_m1 83 rfl
theorem q167 : (Jvm.Cond.fieldLinkNest "NeverSaid" (101 : Nat) "NeverSaid$State" "people" "I" "NeverSaid") ∈ lw_tbl := lw_at lw_m1 85 rfl
theorem q169 : (Jvm.Cond.fieldLinkNest "NeverSaid" (259 : Nat) "NeverSaid$State" "speaker" "[LNeverSaid$Speaker;" "NeverSaid") ∈ lw_tbl := lw_at lw_m1 87 rfl
theorem q171 : (Jvm.Cond.fieldLinkNest "NeverSaid" (269 : Nat) "NeverSaid$State" "away" "[I" "NeverSaid") ∈ lw_tbl := lw_at lw_m1 89 rfl
theorem q173 : (Jvm.Cond.fieldLinkNest "NeverSaid" (272 : Nat) "NeverSaid$State" "friends" "[I" "NeverSaid") ∈ lw_tbl := lw_at lw_m1 91 rfl
theorem q175 : (Jvm.Cond.fieldLinkNest "NeverSaid" (275 : Nat) "NeverSaid$State" "follows" "[I" "NeverSaid") ∈ lw_tbl := lw_at lw_m1 93 rfl
theorem q177 : (Jvm.Cond.fieldLinkNest "NeverSaid" (109 : Nat) "NeverSaid$State" "deeds" "I" "NeverSaid") ∈ lw_tbl := lw_at lw_m1 95 rfl
theorem q179 : (Jvm.Cond.fieldLinkNest "NeverSaid" (278 : Nat) "NeverSaid$State" "deed" "[LNeverSaid$Deed;" "NeverSaid") ∈ lw_tbl := lw_at lw_m1 97 rfl
theorem q181 : (Jvm.Cond.fieldLinkNest "NeverSaid" (242 : Nat) "NeverSaid$State" "texts" "I" "NeverSaid") ∈ lw_tbl := lw_at lw_m1 99 rfl
theorem q183 : (Jvm.Cond.fieldLinkNest "NeverSaid" (245 : Nat) "NeverSaid$State" "text" "[LNeverSaid$Text;" "NeverSaid") ∈ lw_tbl := lw_at lw_m1 101 rfl
theorem q207 : (Jvm.Cond.classLink "NeverSaid" (64 : Nat) "NeverSaid$Fault") ∈ lw_all := lw_g (lw_at lw_m1 125 rfl) rfl
theorem q248 : (Jvm.Cond.methodLinkNest "NeverSaid" (66 : Nat) ({ cls := "NeverSaid$Fault", name := "<init>", desc := "()V" } : Jvm.MethodName) "NeverSaid") ∈ lw_tbl := lw_at lw_m1 166 rfl
theorem q258 : (Jvm.Cond.fieldLinkNest "NeverSaid" (139 : Nat) "NeverSaid$Fault" "place" "I" "NeverSaid") ∈ lw_tbl := lw_at lw_m1 176 rfl
theorem q275 : (Jvm.Cond.classLink "NeverSaid" (77 : Nat) "NeverSaid$Sheet") ∈ lw_all := lw_g (lw_at lw_m1 193 rfl) rfl
theorem q278 : (Jvm.Cond.methodLinkNest "NeverSaid" (79 : Nat) ({ cls := "NeverSaid$Sheet", name := "<init>", desc := "()V" } : Jvm.MethodName) "NeverSaid") ∈ lw_tbl := lw_at lw_m1 196 rfl
theorem q283 : (Jvm.Cond.fieldLinkNest "NeverSaid" (440 : Nat) "NeverSaid$Sheet" "row" "Ljava/lang/Object;" "NeverSaid") ∈ lw_tbl := lw_at lw_m1 201 rfl
theorem q287 : (Jvm.Cond.classLink "NeverSaid" (84 : Nat) "NeverSaid$Slot") ∈ lw_all := lw_g (lw_at lw_m1 205 rfl) rfl
theorem q290 : (Jvm.Cond.methodLinkNest "NeverSaid" (86 : Nat) ({ cls := "NeverSaid$Slot", name := "<init>", desc := "()V" } : Jvm.MethodName) "NeverSaid") ∈ lw_tbl := lw_at lw_m1 208 rfl
theorem q295 : (Jvm.Cond.fieldLinkNest "NeverSaid" (505 : Nat) "NeverSaid$Slot" "held" "Ljava/lang/Object;" "NeverSaid") ∈ lw_tbl := lw_at lw_m1 213 rfl
theorem q299 : (Jvm.Cond.fieldLink "NeverSaid" (46 : Nat) "NeverSaid" "now" "LNeverSaid$State;") ∈ lw_all := lw_g (lw_at lw_m1 217 rfl) rfl
theorem q300 : (Jvm.Cond.fieldLink "NeverSaid" (50 : Nat) "NeverSaid" "image" "LNeverSaid$State;") ∈ lw_all := lw_g (lw_at lw_m1 218 rfl) rfl
theorem q301 : (Jvm.Cond.fieldLink "NeverSaid" (53 : Nat) "NeverSaid" "aside" "LNeverSaid$State;") ∈ lw_all := lw_g (lw_at lw_m1 219 rfl) rfl
theorem q302 : (Jvm.Cond.fieldLink "NeverSaid" (519 : Nat) "NeverSaid" "hasImage" "Z") ∈ lw_all := lw_g (lw_at lw_m1 220 rfl) rfl
theorem q303 : (Jvm.Cond.fieldLink "NeverSaid" (56 : Nat) "NeverSaid" "pile" "[I") ∈ lw_all := lw_g (lw_at lw_m1 221 rfl) rfl
theorem q304 : (Jvm.Cond.fieldLink "NeverSaid" (60 : Nat) "NeverSaid" "tape" "[B") ∈ lw_all := lw_g (lw_at lw_m1 222 rfl) rfl
theorem q305 : (Jvm.Cond.fieldLink "NeverSaid" (127 : Nat) "NeverSaid" "taped" "I") ∈ lw_all := lw_g (lw_at lw_m1 223 rfl) rfl
theorem q306 : (Jvm.Cond.fieldLink "NeverSaid" (67 : Nat) "NeverSaid" "fault" "LNeverSaid$Fault;") ∈ lw_all := lw_g (lw_at lw_m1 224 rfl) rfl
theorem q307 : (Jvm.Cond.fieldLink "NeverSaid" (136 : Nat) "NeverSaid" "from" "I") ∈ lw_all := lw_g (lw_at lw_m1 225 rfl) rfl
theorem q308 : (Jvm.Cond.fieldLink "NeverSaid" (142 : Nat) "NeverSaid" "to" "I") ∈ lw_all := lw_g (lw_at lw_m1 226 rfl) rfl
theorem q309 : (Jvm.Cond.fieldLink "NeverSaid" (145 : Nat) "NeverSaid" "end" "I") ∈ lw_all := lw_g (lw_at lw_m1 227 rfl) rfl
theorem q310 : (Jvm.Cond.fieldLink "NeverSaid" (204 : Nat) "NeverSaid" "parens" "I") ∈ lw_all := lw_g (lw_at lw_m1 228 rfl) rfl
theorem q311 : (Jvm.Cond.fieldLink "NeverSaid" (201 : Nat) "NeverSaid" "nots" "I") ∈ lw_all := lw_g (lw_at lw_m1 229 rfl) rfl
theorem q312 : (Jvm.Cond.fieldLink "NeverSaid" (207 : Nat) "NeverSaid" "wordMany" "I") ∈ lw_all := lw_g (lw_at lw_m1 230 rfl) rfl
theorem q313 : (Jvm.Cond.fieldLink "NeverSaid" (198 : Nat) "NeverSaid" "keyRead" "I") ∈ lw_all := lw_g (lw_at lw_m1 231 rfl) rfl
theorem q314 : (Jvm.Cond.fieldLink "NeverSaid" (71 : Nat) "NeverSaid" "named" "[I") ∈ lw_all := lw_g (lw_at lw_m1 232 rfl) rfl
theorem q315 : (Jvm.Cond.fieldLink "NeverSaid" (74 : Nat) "NeverSaid" "followers" "[I") ∈ lw_all := lw_g (lw_at lw_m1 233 rfl) rfl
theorem q316 : (Jvm.Cond.fieldLink "NeverSaid" (425 : Nat) "NeverSaid" "above" "J") ∈ lw_all := lw_g (lw_at lw_m1 234 rfl) rfl
theorem q317 : (Jvm.Cond.fieldLink "NeverSaid" (429 : Nat) "NeverSaid" "below" "J") ∈ lw_all := lw_g (lw_at lw_m1 235 rfl) rfl
theorem q318 : (Jvm.Cond.fieldLink "NeverSaid" (80 : Nat) "NeverSaid" "sheets" "[LNeverSaid$Sheet;") ∈ lw_all := lw_g (lw_at lw_m1 236 rfl) rfl
theorem q319 : (Jvm.Cond.fieldLink "NeverSaid" (87 : Nat) "NeverSaid" "slots" "[LNeverSaid$Slot;") ∈ lw_all := lw_g (lw_at lw_m1 237 rfl) rfl
theorem q320 : (Jvm.Cond.fieldLink "NeverSaid" (91 : Nat) "NeverSaid" "carried" "[F") ∈ lw_all := lw_g (lw_at lw_m1 238 rfl) rfl
theorem q321 : (Jvm.Cond.fieldLink "NeverSaid" (95 : Nat) "NeverSaid" "waits" "[I") ∈ lw_all := lw_g (lw_at lw_m1 239 rfl) rfl
theorem q322 : (Jvm.Cond.fieldLink "NeverSaid" (512 : Nat) "NeverSaid" "waitMany" "I") ∈ lw_all := lw_g (lw_at lw_m2 0 rfl) rfl
theorem q323 : (Jvm.Cond.fieldLink "NeverSaid" (98 : Nat) "NeverSaid" "rows" "[I") ∈ lw_all := lw_g (lw_at lw_m2 1 rfl) rfl
theorem q324 : (Jvm.Cond.laysFinal "NeverSaid" "NeverSaid" "now" "LNeverSaid$State;") ∈ lw_all := lw_g (lw_at lw_m2 2 rfl) rfl
theorem q325 : (Jvm.Cond.soleField "NeverSaid" "now") ∈ lw_all := lw_g (lw_at lw_m2 3 rfl) rfl
theorem q326 : (Jvm.Cond.laysFinal "NeverSaid" "NeverSaid" "image" "LNeverSaid$State;") ∈ lw_all := lw_g (lw_at lw_m2 4 rfl) rfl
theorem q327 : (Jvm.Cond.soleField "NeverSaid" "image") ∈ lw_all := lw_g (lw_at lw_m2 5 rfl) rfl
theorem q328 : (Jvm.Cond.laysFinal "NeverSaid" "NeverSaid" "aside" "LNeverSaid$State;") ∈ lw_all := lw_g (lw_at lw_m2 6 rfl) rfl
theorem q329 : (Jvm.Cond.soleField "NeverSaid" "aside") ∈ lw_all := lw_g (lw_at lw_m2 7 rfl) rfl
theorem q330 : (Jvm.Cond.lays "NeverSaid" "NeverSaid" "hasImage" "Z") ∈ lw_all := lw_g (lw_at lw_m2 8 rfl) rfl
theorem q331 : (Jvm.Cond.soleField "NeverSaid" "hasImage") ∈ lw_all := lw_g (lw_at lw_m2 9 rfl) rfl
theorem q332 : (Jvm.Cond.laysFinal "NeverSaid" "NeverSaid" "pile" "[I") ∈ lw_all := lw_g (lw_at lw_m2 10 rfl) rfl
theorem q333 : (Jvm.Cond.soleField "NeverSaid" "pile") ∈ lw_all := lw_g (lw_at lw_m2 11 rfl) rfl
theorem q334 : (Jvm.Cond.laysFinal "NeverSaid" "NeverSaid" "tape" "[B") ∈ lw_all := lw_g (lw_at lw_m2 12 rfl) rfl
theorem q335 : (Jvm.Cond.soleField "NeverSaid" "tape") ∈ lw_all := lw_g (lw_at lw_m2 13 rfl) rfl
theorem q336 : (Jvm.Cond.lays "NeverSaid" "NeverSaid" "taped" "I") ∈ lw_all := lw_g (lw_at lw_m2 14 rfl) rfl
theorem q337 : (Jvm.Cond.soleField "NeverSaid" "taped") ∈ lw_all := lw_g (lw_at lw_m2 15 rfl) rfl
theorem q338 : (Jvm.Cond.laysFinal "NeverSaid" "NeverSaid" "fault" "LNeverSaid$Fault;") ∈ lw_all := lw_g (lw_at lw_m2 16 rfl) rfl
theorem q339 : (Jvm.Cond.soleField "NeverSaid" "fault") ∈ lw_all := lw_g (lw_at lw_m2 17 rfl) rfl
theorem q340 : (Jvm.Cond.lays "NeverSaid" "NeverSaid" "from" "I") ∈ lw_all := lw_g (lw_at lw_m2 18 rfl) rfl
theorem q341 : (Jvm.Cond.soleField "NeverSaid" "from") ∈ lw_all := lw_g (lw_at lw_m2 19 rfl) rfl
theorem q342 : (Jvm.Cond.lays "NeverSaid" "NeverSaid" "to" "I") ∈ lw_all := lw_g (lw_at lw_m2 20 rfl) rfl
theorem q343 : (Jvm.Cond.soleField "NeverSaid" "to") ∈ lw_all := lw_g (lw_at lw_m2 21 rfl) rfl
theorem q344 : (Jvm.Cond.lays "NeverSaid" "NeverSaid" "end" "I") ∈ lw_all := lw_g (lw_at lw_m2 22 rfl) rfl
theorem q345 : (Jvm.Cond.soleField "NeverSaid" "end") ∈ lw_all := lw_g (lw_at lw_m2 23 rfl) rfl
theorem q346 : (Jvm.Cond.lays "NeverSaid" "NeverSaid" "parens" "I") ∈ lw_all := lw_g (lw_at lw_m2 24 rfl) rfl
theorem q347 : (Jvm.Cond.soleField "NeverSaid" "parens") ∈ lw_all := lw_g (lw_at lw_m2 25 rfl) rfl
theorem q348 : (Jvm.Cond.lays "NeverSaid" "NeverSaid" "nots" "I") ∈ lw_all := lw_g (lw_at lw_m2 26 rfl) rfl
theorem q349 : (Jvm.Cond.soleField "NeverSaid" "nots") ∈ lw_all := lw_g (lw_at lw_m2 27 rfl) rfl
theorem q350 : (Jvm.Cond.lays "NeverSaid" "NeverSaid" "wordMany" "I") ∈ lw_all := lw_g (lw_at lw_m2 28 rfl) rfl
theorem q351 : (Jvm.Cond.soleField "NeverSaid" "wordMany") ∈ lw_all := lw_g (lw_at lw_m2 29 rfl) rfl
theorem q352 : (Jvm.Cond.lays "NeverSaid" "NeverSaid" "keyRead" "I") ∈ lw_all := lw_g (lw_at lw_m2 30 rfl) rfl
theorem q353 : (Jvm.Cond.soleField "NeverSaid" "keyRead") ∈ lw_all := lw_g (lw_at lw_m2 31 rfl) rfl
theorem q354 : (Jvm.Cond.laysFinal "NeverSaid" "NeverSaid" "named" "[I") ∈ lw_all := lw_g (lw_at lw_m2 32 rfl) rfl
theorem q355 : (Jvm.Cond.soleField "NeverSaid" "named") ∈ lw_all := lw_g (lw_at lw_m2 33 rfl) rfl
theorem q356 : (Jvm.Cond.laysFinal "NeverSaid" "NeverSaid" "followers" "[I") ∈ lw_all := lw_g (lw_at lw_m2 34 rfl) rfl
theorem q357 : (Jvm.Cond.soleField "NeverSaid" "followers") ∈ lw_all := lw_g (lw_at lw_m2 35 rfl) rfl
theorem q358 : (Jvm.Cond.lays "NeverSaid" "NeverSaid" "above" "J") ∈ lw_all := lw_g (lw_at lw_m2 36 rfl) rfl
theorem q359 : (Jvm.Cond.soleField "NeverSaid" "above") ∈ lw_all := lw_g (lw_at lw_m2 37 rfl) rfl
theorem q360 : (Jvm.Cond.lays "NeverSaid" "NeverSaid" "below" "J") ∈ lw_all := lw_g (lw_at lw_m2 38 rfl) rfl
theorem q361 : (Jvm.Cond.soleField "NeverSaid" "below") ∈ lw_all := lw_g (lw_at lw_m2 39 rfl) rfl
theorem q362 : (Jvm.Cond.laysFinal "NeverSaid" "NeverSaid" "sheets" "[LNeverSaid$Sheet;") ∈ lw_all := lw_g (lw_at lw_m2 40 rfl) rfl
theorem q363 : (Jvm.Cond.soleField "NeverSaid" "sheets") ∈ lw_all := lw_g (lw_at lw_m2 41 rfl) rfl
theorem q364 : (Jvm.Cond.laysFinal "NeverSaid" "NeverSaid" "slots" "[LNeverSaid$Slot;") ∈ lw_all := lw_g (lw_at lw_m2 42 rfl) rfl
theorem q365 : (Jvm.Cond.soleField "NeverSaid" "slots") ∈ lw_all := lw_g (lw_at lw_m2 43 rfl) rfl
theorem q366 : (Jvm.Cond.laysFinal "NeverSaid" "NeverSaid" "carried" "[F") ∈ lw_all := lw_g (lw_at lw_m2 44 rfl) rfl
theorem q367 : (Jvm.Cond.soleField "NeverSaid" "carried") ∈ lw_all := lw_g (lw_at lw_m2 45 rfl) rfl
theorem q368 : (Jvm.Cond.laysFinal "NeverSaid" "NeverSaid" "waits" "[I") ∈ lw_all := lw_g (lw_at lw_m2 46 rfl) rfl
theorem q369 : (Jvm.Cond.soleField "NeverSaid" "waits") ∈ lw_all := lw_g (lw_at lw_m2 47 rfl) rfl
theorem q370 : (Jvm.Cond.lays "NeverSaid" "NeverSaid" "waitMany" "I") ∈ lw_all := lw_g (lw_at lw_m2 48 rfl) rfl
theorem q371 : (Jvm.Cond.soleField "NeverSaid" "waitMany") ∈ lw_all := lw_g (lw_at lw_m2 49 rfl) rfl
theorem q372 : (Jvm.Cond.laysFinal "NeverSaid" "NeverSaid" "rows" "[I") ∈ lw_all := lw_g (lw_at lw_m2 50 rfl) rfl
theorem q373 : (Jvm.Cond.soleField "NeverSaid" "rows") ∈ lw_all := lw_g (lw_at lw_m2 51 rfl) rfl
theorem q374 : (Jvm.Cond.superclass "NeverSaid" "java/lang/Object") ∈ lw_all := lw_g (lw_at lw_m2 52 rfl) rfl
theorem q377 : (Jvm.Cond.instanceMethod ({ cls := "NeverSaid", name := "feed", desc := "(III)I" } : Jvm.MethodName)) ∈ lw_all := lw_g (lw_at lw_m2 55 rfl) rfl
theorem q378 : (Jvm.Cond.selects "NeverSaid" ({ cls := "NeverSaid", name := "feed", desc := "(III)I" } : Jvm.MethodName) ({ cls := "NeverSaid", name := "feed", desc := "(III)I" } : Jvm.MethodName)) ∈ lw_all := lw_g (lw_at lw_m2 56 rfl) rfl
theorem q379 : (Jvm.Cond.code ({ cls := "NeverSaid", name := "feed", desc := "(III)I" } : Jvm.MethodName) prog_1_method_12_code (4 : Nat) (Option.some Jvm.ClassFile.FieldType.int)) ∈ lw_all := lw_g (lw_at lw_m2 57 rfl) rfl
theorem q380 : (Jvm.Cond.constant "NeverSaid" (130 : Nat) (-1000000003 : Int32)) ∈ lw_all := lw_g (lw_at lw_m2 58 rfl) rfl
theorem q381 : (Jvm.Cond.methodLink "NeverSaid" (131 : Nat) ({ cls := "NeverSaid", name := "four", desc := "(I)V" } : Jvm.MethodName)) ∈ lw_all := lw_g (lw_at lw_m2 59 rfl) rfl
theorem q382 : (Jvm.Cond.privateMethod ({ cls := "NeverSaid", name := "four", desc := "(I)V" } : Jvm.MethodName)) ∈ lw_tbl := lw_at lw_m2 60 rfl
theorem q383 : (Jvm.Cond.instanceMethod ({ cls := "NeverSaid", name := "four", desc := "(I)V" } : Jvm.MethodName)) ∈ lw_all := lw_g (lw_at lw_m2 61 rfl) rfl
theorem q384 : (Jvm.Cond.code ({ cls := "NeverSaid", name := "four", desc := "(I)V" } : Jvm.MethodName) prog_1_method_13_code (3 : Nat) (Option.none : Option Jvm.ClassFile.FieldType)) ∈ lw_all := lw_g (lw_at lw_m2 62 rfl) rfl
theorem q386 : (Jvm.Cond.instanceMethod ({ cls := "NeverSaid", name := "trim", desc := "(I)I" } : Jvm.MethodName)) ∈ lw_all := lw_g (lw_at lw_m2 64 rfl) rfl
theorem q387 : (Jvm.Cond.selects "NeverSaid" ({ cls := "NeverSaid", name := "trim", desc := "(I)I" } : Jvm.MethodName) ({ cls := "NeverSaid", name := "trim", desc := "(I)I" } : Jvm.MethodName)) ∈ lw_all := lw_g (lw_at lw_m2 65 rfl) rfl
theorem q388 : (Jvm.Cond.code ({ cls := "NeverSaid", name := "trim", desc := "(I)I" } : Jvm.MethodName) prog_1_method_14_code (2 : Nat) (Option.some Jvm.ClassFile.FieldType.int)) ∈ lw_all := lw_g (lw_at lw_m2 66 rfl) rfl
theorem q389 : (Jvm.Cond.methodLink "NeverSaid" (105 : Nat) ({ cls := "NeverSaid", name := "isIn", desc := "(III)Z" } : Jvm.MethodName)) ∈ lw_all := lw_g (lw_at lw_m2 67 rfl) rfl
theorem q390 : (Jvm.Cond.static ({ cls := "NeverSaid", name := "isIn", desc := "(III)Z" } : Jvm.MethodName)) ∈ lw_all := lw_g (lw_at lw_m2 68 rfl) rfl
theorem q391 : (Jvm.Cond.code ({ cls := "NeverSaid", name := "isIn", desc := "(III)Z" } : Jvm.MethodName) prog_1_method_1_code (3 : Nat) (Option.some Jvm.ClassFile.FieldType.boolean)) ∈ lw_all := lw_g (lw_at lw_m2 69 rfl) rfl
theorem q392 : (Jvm.Cond.constant "NeverSaid" (135 : Nat) (-1000000001 : Int32)) ∈ lw_all := lw_g (lw_at lw_m2 70 rfl) rfl
theorem q394 : (Jvm.Cond.instanceMethod ({ cls := "NeverSaid", name := "text", desc := "()I" } : Jvm.MethodName)) ∈ lw_all := lw_g (lw_at lw_m2 72 rfl) rfl
theorem q395 : (Jvm.Cond.selects "NeverSaid" ({ cls := "NeverSaid", name := "text", desc := "()I" } : Jvm.MethodName) ({ cls := "NeverSaid", name := "text", desc := "()I" } : Jvm.MethodName)) ∈ lw_all := lw_g (lw_at lw_m2 73 rfl) rfl
theorem q396 : (Jvm.Cond.codeWith ({ cls := "NeverSaid", name := "text", desc := "()I" } : Jvm.MethodName) prog_1_method_32_code (4 : Nat) (Option.some Jvm.ClassFile.FieldType.int) [((0 : Nat), (20 : Nat), (73 : Nat), (64 : Nat)), ((27 : Nat), (66 : Nat), (73 : Nat), (64 : Nat)), ((0 : Nat), (20 : Nat), (89 : Nat), (0 : Nat)), ((27 : Nat), (66 : Nat), (89 : Nat), (0 : Nat)), ((73 : Nat), (82 : Nat), (89 : Nat), (0 : Nat))]) ∈ lw_all := lw_g (lw_at lw_m2 74 rfl) rfl
theorem q397 : (Jvm.Cond.methodLink "NeverSaid" (238 : Nat) ({ cls := "NeverSaid", name := "textRead", desc := "()LNeverSaid$Text;" } : Jvm.MethodName)) ∈ lw_all := lw_g (lw_at lw_m2 75 rfl) rfl
theorem q398 : (Jvm.Cond.privateMethod ({ cls := "NeverSaid", name := "textRead", desc := "()LNeverSaid$Text;" } : Jvm.MethodName)) ∈ lw_tbl := lw_at lw_m2 76 rfl
theorem q399 : (Jvm.Cond.instanceMethod ({ cls := "NeverSaid", name := "textRead", desc := "()LNeverSaid$Text;" } : Jvm.MethodName)) ∈ lw_all := lw_g (lw_at lw_m2 77 rfl) rfl
theorem q400 : (Jvm.Cond.code ({ cls := "NeverSaid", name := "textRead", desc := "()LNeverSaid$Text;" } : Jvm.MethodName) prog_1_method_31_code (2 : Nat) (Option.some (Jvm.ClassFile.FieldType.object "NeverSaid$Text"))) ∈ lw_all := lw_g (lw_at lw_m2 78 rfl) rfl
theorem q401 : (Jvm.Cond.methodLink "NeverSaid" (168 : Nat) ({ cls := "NeverSaid", name := "goes", desc := "()V" } : Jvm.MethodName)) ∈ lw_all := lw_g (lw_at lw_m2 79 rfl) rfl
theorem q402 : (Jvm.Cond.privateMethod ({ cls := "NeverSaid", name := "goes", desc := "()V" } : Jvm.MethodName)) ∈ lw_tbl := lw_at lw_m2 80 rfl
theorem q403 : (Jvm.Cond.instanceMethod ({ cls := "NeverSaid", name := "goes", desc := "()V" } : Jvm.MethodName)) ∈ lw_all := lw_g (lw_at lw_m2 81 rfl) rfl
theorem q404 : (Jvm.Cond.code ({ cls := "NeverSaid", name := "goes", desc := "()V" } : Jvm.MethodName) prog_1_method_18_code (5 : Nat) (Option.none : Option Jvm.ClassFile.FieldType)) ∈ lw_all := lw_g (lw_at lw_m2 82 rfl) rfl
theorem q405 : (Jvm.Cond.methodLink "NeverSaid" (148 : Nat) ({ cls := "NeverSaid", name := "isLetter", desc := "(I)Z" } : Jvm.MethodName)) ∈ lw_all := lw_g (lw_at lw_m2 83 rfl) rfl
theorem q406 : (Jvm.Cond.static ({ cls := "NeverSaid", name := "isLetter", desc := "(I)Z" } : Jvm.MethodName)) ∈ lw_all := lw_g (lw_at lw_m2 84 rfl) rfl
theorem q407 : (Jvm.Cond.code ({ cls := "NeverSaid", name := "isLetter", desc := "(I)Z" } : Jvm.MethodName) prog_1_method_16_code (1 : Nat) (Option.some Jvm.ClassFile.FieldType.boolean)) ∈ lw_all := lw_g (lw_at lw_m2 85 rfl) rfl
theorem q408 : (Jvm.Cond.methodLink "NeverSaid" (152 : Nat) ({ cls := "NeverSaid", name := "isDigit", desc := "(I)Z" } : Jvm.MethodName)) ∈ lw_all := lw_g (lw_at lw_m2 86 rfl) rfl
theorem q409 : (Jvm.Cond.static ({ cls := "NeverSaid", name := "isDigit", desc := "(I)Z" } : Jvm.MethodName)) ∈ lw_all := lw_g (lw_at lw_m2 87 rfl) rfl
theorem q410 : (Jvm.Cond.code ({ cls := "NeverSaid", name := "isDigit", desc := "(I)Z" } : Jvm.MethodName) prog_1_method_17_code (1 : Nat) (Option.some Jvm.ClassFile.FieldType.boolean)) ∈ lw_all := lw_g (lw_at lw_m2 88 rfl) rfl
theorem q411 : (Jvm.Cond.methodLink "NeverSaid" (155 : Nat) ({ cls := "NeverSaid", name := "wrong", desc := "()V" } : Jvm.MethodName)) ∈ lw_all := lw_g (lw_at lw_m2 89 rfl) rfl
theorem q412 : (Jvm.Cond.privateMethod ({ cls := "NeverSaid", name := "wrong", desc := "()V" } : Jvm.MethodName)) ∈ lw_tbl := lw_at lw_m2 90 rfl
theorem q413 : (Jvm.Cond.instanceMethod ({ cls := "NeverSaid", name := "wrong", desc := "()V" } : Jvm.MethodName)) ∈ lw_all := lw_g (lw_at lw_m2 91 rfl) rfl
theorem q414 : (Jvm.Cond.code ({ cls := "NeverSaid", name := "wrong", desc := "()V" } : Jvm.MethodName) prog_1_method_15_code (1 : Nat) (Option.none : Option Jvm.ClassFile.FieldType)) ∈ lw_all := lw_g (lw_at lw_m2 92 rfl) rfl
theorem q415 : (Jvm.Cond.methodLink "NeverSaid" (226 : Nat) ({ cls := "NeverSaid", name := "key", desc := "()I" } : Jvm.MethodName)) ∈ lw_all := lw_g (lw_at lw_m2 93 rfl) rfl
theorem q416 : (Jvm.Cond.privateMethod ({ cls := "NeverSaid", name := "key", desc := "()I" } : Jvm.MethodName)) ∈ lw_tbl := lw_at lw_m2 94 rfl
theorem q417 : (Jvm.Cond.instanceMethod ({ cls := "NeverSaid", name := "key", desc := "()I" } : Jvm.MethodName)) ∈ lw_all := lw_g (lw_at lw_m2 95 rfl) rfl
theorem q418 : (Jvm.Cond.code ({ cls := "NeverSaid", name := "key", desc := "()I" } : Jvm.MethodName) prog_1_method_30_code (2 : Nat) (Option.some Jvm.ClassFile.FieldType.int)) ∈ lw_all := lw_g (lw_at lw_m2 96 rfl) rfl
theorem q419 : (Jvm.Cond.stringRef "NeverSaid" (216 : Nat) "may") ∈ lw_tbl := lw_at lw_m2 97 rfl
theorem q420 : (Jvm.Cond.methodLink "NeverSaid" (218 : Nat) ({ cls := "NeverSaid", name := "isWord", desc := "(Ljava/lang/String;)Z" } : Jvm.MethodName)) ∈ lw_all := lw_g (lw_at lw_m2 98 rfl) rfl
theorem q421 : (Jvm.Cond.privateMethod ({ cls := "NeverSaid", name := "isWord", desc := "(Ljava/lang/String;)Z" } : Jvm.MethodName)) ∈ lw_tbl := lw_at lw_m2 99 rfl
theorem q422 : (Jvm.Cond.instanceMethod ({ cls := "NeverSaid", name := "isWord", desc := "(Ljava/lang/String;)Z" } : Jvm.MethodName)) ∈ lw_all := lw_g (lw_at lw_m2 100 rfl) rfl
theorem q423 : (Jvm.Cond.code ({ cls := "NeverSaid", name := "isWord", desc := "(Ljava/lang/String;)Z" } : Jvm.MethodName) prog_1_method_19_code (4 : Nat) (Option.some Jvm.ClassFile.FieldType.boolean)) ∈ lw_all := lw_g (lw_at lw_m2 101 rfl) rfl
theorem q424 : (Jvm.Cond.methodLink "NeverSaid" (158 : Nat) ({ cls := "java/lang/String", name := "length", desc := "()I" } : Jvm.MethodName)) ∈ lw_all := lw_g (lw_at lw_m2 102 rfl) rfl
theorem q434 : (Jvm.Cond.methodLink "NeverSaid" (164 : Nat) ({ cls := "java/lang/String", name := "charAt", desc := "(I)C" } : Jvm.MethodName)) ∈ lw_all := lw_g (lw_at lw_m2 112 rfl) rfl
theorem q472 : (Jvm.Cond.stringRef "NeverSaid" (222 : Nat) "cost") ∈ lw_tbl := lw_at lw_m2 150 rfl
theorem q473 : (Jvm.Cond.stringRef "NeverSaid" (224 : Nat) "bold") ∈ lw_tbl := lw_at lw_m2 151 rfl
theorem q474 : (Jvm.Cond.methodLink "NeverSaid" (229 : Nat) ({ cls := "NeverSaid", name := "expression", desc := "()LNeverSaid$Words;" } : Jvm.MethodName)) ∈ lw_all := lw_g (lw_at lw_m2 152 rfl) rfl
theorem q475 : (Jvm.Cond.privateMethod ({ cls := "NeverSaid", name := "expression", desc := "()LNeverSaid$Words;" } : Jvm.MethodName)) ∈ lw_tbl := lw_at lw_m2 153 rfl
theorem q476 : (Jvm.Cond.instanceMethod ({ cls := "NeverSaid", name := "expression", desc := "()LNeverSaid$Words;" } : Jvm.MethodName)) ∈ lw_all := lw_g (lw_at lw_m2 154 rfl) rfl
theorem q477 : (Jvm.Cond.code ({ cls := "NeverSaid", name := "expression", desc := "()LNeverSaid$Words;" } : Jvm.MethodName) prog_1_method_22_code (2 : Nat) (Option.some (Jvm.ClassFile.FieldType.object "NeverSaid$Words"))) ∈ lw_all := lw_g (lw_at lw_m2 155 rfl) rfl
theorem q478 : (Jvm.Cond.classLink "NeverSaid" (113 : Nat) "NeverSaid$Words") ∈ lw_all := lw_g (lw_at lw_m2 156 rfl) rfl
theorem q480 : (Jvm.Cond.methodLinkNest "NeverSaid" (171 : Nat) ({ cls := "NeverSaid$Words", name := "<init>", desc := "()V" } : Jvm.MethodName) "NeverSaid") ∈ lw_tbl := lw_at lw_m2 158 rfl
theorem q485 : (Jvm.Cond.fieldLinkNest "NeverSaid" (117 : Nat) "NeverSaid$Words" "word" "[I" "NeverSaid") ∈ lw_tbl := lw_at lw_m2 163 rfl
theorem q487 : (Jvm.Cond.fieldLinkNest "NeverSaid" (120 : Nat) "NeverSaid$Words" "value" "[I" "NeverSaid") ∈ lw_tbl := lw_at lw_m2 165 rfl
theorem q489 : (Jvm.Cond.fieldLinkNest "NeverSaid" (112 : Nat) "NeverSaid$Words" "many" "I" "NeverSaid") ∈ lw_tbl := lw_at lw_m2 167 rfl
theorem q497 : (Jvm.Cond.methodLink "NeverSaid" (172 : Nat) ({ cls := "NeverSaid", name := "or", desc := "(LNeverSaid$Words;)V" } : Jvm.MethodName)) ∈ lw_all := lw_g (lw_at lw_m2 175 rfl) rfl
theorem q498 : (Jvm.Cond.privateMethod ({ cls := "NeverSaid", name := "or", desc := "(LNeverSaid$Words;)V" } : Jvm.MethodName)) ∈ lw_tbl := lw_at lw_m2 176 rfl
theorem q499 : (Jvm.Cond.instanceMethod ({ cls := "NeverSaid", name := "or", desc := "(LNeverSaid$Words;)V" } : Jvm.MethodName)) ∈ lw_all := lw_g (lw_at lw_m2 177 rfl) rfl
theorem q500 : (Jvm.Cond.code ({ cls := "NeverSaid", name := "or", desc := "(LNeverSaid$Words;)V" } : Jvm.MethodName) prog_1_method_23_code (2 : Nat) (Option.none : Option Jvm.ClassFile.FieldType)) ∈ lw_all := lw_g (lw_at lw_m2 178 rfl) rfl
theorem q501 : (Jvm.Cond.methodLink "NeverSaid" (176 : Nat) ({ cls := "NeverSaid", name := "and", desc := "(LNeverSaid$Words;)V" } : Jvm.MethodName)) ∈ lw_all := lw_g (lw_at lw_m2 179 rfl) rfl
theorem q502 : (Jvm.Cond.privateMethod ({ cls := "NeverSaid", name := "and", desc := "(LNeverSaid$Words;)V" } : Jvm.MethodName)) ∈ lw_tbl := lw_at lw_m2 180 rfl
theorem q503 : (Jvm.Cond.instanceMethod ({ cls := "NeverSaid", name := "and", desc := "(LNeverSaid$Words;)V" } : Jvm.MethodName)) ∈ lw_all := lw_g (lw_at lw_m2 181 rfl) rfl
theorem q504 : (Jvm.Cond.code ({ cls := "NeverSaid", name := "and", desc := "(LNeverSaid$Words;)V" } : Jvm.MethodName) prog_1_method_24_code (2 : Nat) (Option.none : Option Jvm.ClassFile.FieldType)) ∈ lw_all := lw_g (lw_at lw_m2 182 rfl) rfl
theorem q505 : (Jvm.Cond.methodLink "NeverSaid" (186 : Nat) ({ cls := "NeverSaid", name := "test", desc := "(LNeverSaid$Words;)V" } : Jvm.MethodName)) ∈ lw_all := lw_g (lw_at lw_m2 183 rfl) rfl
theorem q506 : (Jvm.Cond.privateMethod ({ cls := "NeverSaid", name := "test", desc := "(LNeverSaid$Words;)V" } : Jvm.MethodName)) ∈ lw_tbl := lw_at lw_m2 184 rfl
theorem q507 : (Jvm.Cond.instanceMethod ({ cls := "NeverSaid", name := "test", desc := "(LNeverSaid$Words;)V" } : Jvm.MethodName)) ∈ lw_all := lw_g (lw_at lw_m2 185 rfl) rfl
theorem q508 : (Jvm.Cond.code ({ cls := "NeverSaid", name := "test", desc := "(LNeverSaid$Words;)V" } : Jvm.MethodName) prog_1_method_25_code (3 : Nat) (Option.none : Option Jvm.ClassFile.FieldType)) ∈ lw_all := lw_g (lw_at lw_m2 186 rfl) rfl
theorem q509 : (Jvm.Cond.methodLink "NeverSaid" (189 : Nat) ({ cls := "NeverSaid", name := "sum", desc := "(LNeverSaid$Words;)V" } : Jvm.MethodName)) ∈ lw_all := lw_g (lw_at lw_m2 187 rfl) rfl
theorem q510 : (Jvm.Cond.privateMethod ({ cls := "NeverSaid", name := "sum", desc := "(LNeverSaid$Words;)V" } : Jvm.MethodName)) ∈ lw_tbl := lw_at lw_m2 188 rfl
theorem q511 : (Jvm.Cond.instanceMethod ({ cls := "NeverSaid", name := "sum", desc := "(LNeverSaid$Words;)V" } : Jvm.MethodName)) ∈ lw_all := lw_g (lw_at lw_m2 189 rfl) rfl
theorem q512 : (Jvm.Cond.code ({ cls := "NeverSaid", name := "sum", desc := "(LNeverSaid$Words;)V" } : Jvm.MethodName) prog_1_method_26_code (3 : Nat) (Option.none : Option Jvm.ClassFile.FieldType)) ∈ lw_all := lw_g (lw_at lw_m2 190 rfl) rfl
theorem q513 : (Jvm.Cond.methodLink "NeverSaid" (192 : Nat) ({ cls := "NeverSaid", name := "term", desc := "(LNeverSaid$Words;)V" } : Jvm.MethodName)) ∈ lw_all := lw_g (lw_at lw_m2 191 rfl) rfl
theorem q514 : (Jvm.Cond.privateMethod ({ cls := "NeverSaid", name := "term", desc := "(LNeverSaid$Words;)V" } : Jvm.MethodName)) ∈ lw_tbl := lw_at lw_m2 192 rfl
theorem q515 : (Jvm.Cond.instanceMethod ({ cls := "NeverSaid", name := "term", desc := "(LNeverSaid$Words;)V" } : Jvm.MethodName)) ∈ lw_all := lw_g (lw_at lw_m2 193 rfl) rfl
theorem q516 : (Jvm.Cond.code ({ cls := "NeverSaid", name := "term", desc := "(LNeverSaid$Words;)V" } : Jvm.MethodName) prog_1_method_27_code (3 : Nat) (Option.none : Option Jvm.ClassFile.FieldType)) ∈ lw_all := lw_g (lw_at lw_m2 194 rfl) rfl
theorem q517 : (Jvm.Cond.methodLink "NeverSaid" (195 : Nat) ({ cls := "NeverSaid", name := "piece", desc := "(LNeverSaid$Words;)V" } : Jvm.MethodName)) ∈ lw_all := lw_g (lw_at lw_m2 195 rfl) rfl
theorem q518 : (Jvm.Cond.privateMethod ({ cls := "NeverSaid", name := "piece", desc := "(LNeverSaid$Words;)V" } : Jvm.MethodName)) ∈ lw_tbl := lw_at lw_m2 196 rfl
theorem q519 : (Jvm.Cond.instanceMethod ({ cls := "NeverSaid", name := "piece", desc := "(LNeverSaid$Words;)V" } : Jvm.MethodName)) ∈ lw_all := lw_g (lw_at lw_m2 197 rfl) rfl
theorem q520 : (Jvm.Cond.code ({ cls := "NeverSaid", name := "piece", desc := "(LNeverSaid$Words;)V" } : Jvm.MethodName) prog_1_method_29_code (2 : Nat) (Option.none : Option Jvm.ClassFile.FieldType)) ∈ lw_all := lw_g (lw_at lw_m2 198 rfl) rfl
theorem q521 : (Jvm.Cond.methodLink "NeverSaid" (179 : Nat) ({ cls := "NeverSaid", name := "isSign", desc := "(I)Z" } : Jvm.MethodName)) ∈ lw_all := lw_g (lw_at lw_m2 199 rfl) rfl
theorem q522 : (Jvm.Cond.privateMethod ({ cls := "NeverSaid", name := "isSign", desc := "(I)Z" } : Jvm.MethodName)) ∈ lw_tbl := lw_at lw_m2 200 rfl
theorem q523 : (Jvm.Cond.instanceMethod ({ cls := "NeverSaid", name := "isSign", desc := "(I)Z" } : Jvm.MethodName)) ∈ lw_all := lw_g (lw_at lw_m2 201 rfl) rfl
theorem q524 : (Jvm.Cond.code ({ cls := "NeverSaid", name := "isSign", desc := "(I)Z" } : Jvm.MethodName) prog_1_method_20_code (2 : Nat) (Option.some Jvm.ClassFile.FieldType.boolean)) ∈ lw_all := lw_g (lw_at lw_m2 202 rfl) rfl
theorem q525 : (Jvm.Cond.methodLink "NeverSaid" (182 : Nat) ({ cls := "NeverSaid$Words", name := "add", desc := "(II)V" } : Jvm.MethodName)) ∈ lw_all := lw_g (lw_at lw_m2 203 rfl) rfl
theorem q529 : (Jvm.Cond.methodLink "NeverSaid" (210 : Nat) ({ cls := "NeverSaid", name := "number", desc := "()I" } : Jvm.MethodName)) ∈ lw_all := lw_g (lw_at lw_m2 207 rfl) rfl
theorem q530 : (Jvm.Cond.privateMethod ({ cls := "NeverSaid", name := "number", desc := "()I" } : Jvm.MethodName)) ∈ lw_tbl := lw_at lw_m2 208 rfl
theorem q531 : (Jvm.Cond.instanceMethod ({ cls := "NeverSaid", name := "number", desc := "()I" } : Jvm.MethodName)) ∈ lw_all := lw_g (lw_at lw_m2 209 rfl) rfl
theorem q532 : (Jvm.Cond.code ({ cls := "NeverSaid", name := "number", desc := "()I" } : Jvm.MethodName) prog_1_method_21_code (3 : Nat) (Option.some Jvm.ClassFile.FieldType.int)) ∈ lw_all := lw_g (lw_at lw_m2 210 rfl) rfl
theorem q533 : (Jvm.Cond.methodLink "NeverSaid" (213 : Nat) ({ cls := "NeverSaid", name := "isName", desc := "(I)Z" } : Jvm.MethodName)) ∈ lw_all := lw_g (lw_at lw_m2 211 rfl) rfl
theorem q534 : (Jvm.Cond.privateMethod ({ cls := "NeverSaid", name := "isName", desc := "(I)Z" } : Jvm.MethodName)) ∈ lw_tbl := lw_at lw_m2 212 rfl
theorem q535 : (Jvm.Cond.instanceMethod ({ cls := "NeverSaid", name := "isName", desc := "(I)Z" } : Jvm.MethodName)) ∈ lw_all := lw_g (lw_at lw_m2 213 rfl) rfl
theorem q536 : (Jvm.Cond.code ({ cls := "NeverSaid", name := "isName", desc := "(I)Z" } : Jvm.MethodName) prog_1_method_28_code (2 : Nat) (Option.some Jvm.ClassFile.FieldType.boolean)) ∈ lw_all := lw_g (lw_at lw_m2 214 rfl) rfl
theorem q537 : (Jvm.Cond.classLink "NeverSaid" (233 : Nat) "NeverSaid$Text") ∈ lw_all := lw_g (lw_at lw_m2 215 rfl) rfl
theorem q539 : (Jvm.Cond.methodLink "NeverSaid" (235 : Nat) ({ cls := "NeverSaid$Text", name := "<init>", desc := "(ILNeverSaid$Words;I)V" } : Jvm.MethodName)) ∈ lw_all := lw_g (lw_at lw_m2 217 rfl) rfl
theorem q544 : (Jvm.Cond.fieldLinkNest "NeverSaid" (249 : Nat) "NeverSaid$Text" "key" "I" "NeverSaid") ∈ lw_tbl := lw_at lw_m2 222 rfl
theorem q546 : (Jvm.Cond.fieldLinkNest "NeverSaid" (365 : Nat) "NeverSaid$Text" "words" "LNeverSaid$Words;" "NeverSaid") ∈ lw_tbl := lw_at lw_m2 224 rfl
theorem q548 : (Jvm.Cond.fieldLinkNest "NeverSaid" (251 : Nat) "NeverSaid$Text" "many" "I" "NeverSaid") ∈ lw_tbl := lw_at lw_m2 226 rfl
theorem q557 : (Jvm.Cond.instanceMethod ({ cls := "NeverSaid", name := "textTold", desc := "(II)I" } : Jvm.MethodName)) ∈ lw_all := lw_g (lw_at lw_m2 235 rfl) rfl
theorem q558 : (Jvm.Cond.selects "NeverSaid" ({ cls := "NeverSaid", name := "textTold", desc := "(II)I" } : Jvm.MethodName) ({ cls := "NeverSaid", name := "textTold", desc := "(II)I" } : Jvm.MethodName)) ∈ lw_all := lw_g (lw_at lw_m2 236 rfl) rfl
theorem q559 : (Jvm.Cond.code ({ cls := "NeverSaid", name := "textTold", desc := "(II)I" } : Jvm.MethodName) prog_1_method_33_code (3 : Nat) (Option.some Jvm.ClassFile.FieldType.int)) ∈ lw_all := lw_g (lw_at lw_m2 237 rfl) rfl
theorem q561 : (Jvm.Cond.instanceMethod ({ cls := "NeverSaid", name := "why", desc := "(I)I" } : Jvm.MethodName)) ∈ lw_all := lw_g (lw_at lw_m2 239 rfl) rfl
theorem q562 : (Jvm.Cond.selects "NeverSaid" ({ cls := "NeverSaid", name := "why", desc := "(I)I" } : Jvm.MethodName) ({ cls := "NeverSaid", name := "why", desc := "(I)I" } : Jvm.MethodName)) ∈ lw_all := lw_g (lw_at lw_m3 0 rfl) rfl
theorem q563 : (Jvm.Cond.code ({ cls := "NeverSaid", name := "why", desc := "(I)I" } : Jvm.MethodName) prog_1_method_35_code (2 : Nat) (Option.some Jvm.ClassFile.FieldType.int)) ∈ lw_all := lw_g (lw_at lw_m3 1 rfl) rfl
theorem q564 : (Jvm.Cond.methodLink "NeverSaid" (252 : Nat) ({ cls := "NeverSaid", name := "counts", desc := "(I)I" } : Jvm.MethodName)) ∈ lw_all := lw_g (lw_at lw_m3 2 rfl) rfl
theorem q565 : (Jvm.Cond.privateMethod ({ cls := "NeverSaid", name := "counts", desc := "(I)I" } : Jvm.MethodName)) ∈ lw_tbl := lw_at lw_m3 3 rfl
theorem q566 : (Jvm.Cond.instanceMethod ({ cls := "NeverSaid", name := "counts", desc := "(I)I" } : Jvm.MethodName)) ∈ lw_all := lw_g (lw_at lw_m3 4 rfl) rfl
theorem q567 : (Jvm.Cond.code ({ cls := "NeverSaid", name := "counts", desc := "(I)I" } : Jvm.MethodName) prog_1_method_34_code (4 : Nat) (Option.some Jvm.ClassFile.FieldType.int)) ∈ lw_all := lw_g (lw_at lw_m3 5 rfl) rfl
theorem q568 : (Jvm.Cond.methodLink "NeverSaid" (256 : Nat) ({ cls := "NeverSaid", name := "orNone", desc := "(I)I" } : Jvm.MethodName)) ∈ lw_all := lw_g (lw_at lw_m3 6 rfl) rfl
theorem q569 : (Jvm.Cond.static ({ cls := "NeverSaid", name := "orNone", desc := "(I)I" } : Jvm.MethodName)) ∈ lw_all := lw_g (lw_at lw_m3 7 rfl) rfl
theorem q570 : (Jvm.Cond.code ({ cls := "NeverSaid", name := "orNone", desc := "(I)I" } : Jvm.MethodName) prog_1_method_2_code (1 : Nat) (Option.some Jvm.ClassFile.FieldType.int)) ∈ lw_all := lw_g (lw_at lw_m3 8 rfl) rfl
theorem q571 : (Jvm.Cond.constant "NeverSaid" (3 : Nat) (-1000000005 : Int32)) ∈ lw_all := lw_g (lw_at lw_m3 9 rfl) rfl
theorem q573 : (Jvm.Cond.instanceMethod ({ cls := "NeverSaid", name := "person", desc := "(II)I" } : Jvm.MethodName)) ∈ lw_all := lw_g (lw_at lw_m3 11 rfl) rfl
theorem q574 : (Jvm.Cond.selects "NeverSaid" ({ cls := "NeverSaid", name := "person", desc := "(II)I" } : Jvm.MethodName) ({ cls := "NeverSaid", name := "person", desc := "(II)I" } : Jvm.MethodName)) ∈ lw_all := lw_g (lw_at lw_m3 12 rfl) rfl
theorem q575 : (Jvm.Cond.code ({ cls := "NeverSaid", name := "person", desc := "(II)I" } : Jvm.MethodName) prog_1_method_38_code (3 : Nat) (Option.some Jvm.ClassFile.FieldType.int)) ∈ lw_all := lw_g (lw_at lw_m3 13 rfl) rfl
theorem q576 : (Jvm.Cond.methodLink "NeverSaid" (287 : Nat) ({ cls := "NeverSaid", name := "isBold", desc := "(I)Z" } : Jvm.MethodName)) ∈ lw_all := lw_g (lw_at lw_m3 14 rfl) rfl
theorem q577 : (Jvm.Cond.static ({ cls := "NeverSaid", name := "isBold", desc := "(I)Z" } : Jvm.MethodName)) ∈ lw_all := lw_g (lw_at lw_m3 15 rfl) rfl
theorem q578 : (Jvm.Cond.code ({ cls := "NeverSaid", name := "isBold", desc := "(I)Z" } : Jvm.MethodName) prog_1_method_36_code (1 : Nat) (Option.some Jvm.ClassFile.FieldType.boolean)) ∈ lw_all := lw_g (lw_at lw_m3 16 rfl) rfl
theorem q579 : (Jvm.Cond.methodLink "NeverSaid" (290 : Nat) ({ cls := "NeverSaid", name := "comes", desc := "(III)I" } : Jvm.MethodName)) ∈ lw_all := lw_g (lw_at lw_m3 17 rfl) rfl
theorem q580 : (Jvm.Cond.privateMethod ({ cls := "NeverSaid", name := "comes", desc := "(III)I" } : Jvm.MethodName)) ∈ lw_tbl := lw_at lw_m3 18 rfl
theorem q581 : (Jvm.Cond.instanceMethod ({ cls := "NeverSaid", name := "comes", desc := "(III)I" } : Jvm.MethodName)) ∈ lw_all := lw_g (lw_at lw_m3 19 rfl) rfl
theorem q582 : (Jvm.Cond.code ({ cls := "NeverSaid", name := "comes", desc := "(III)I" } : Jvm.MethodName) prog_1_method_37_code (6 : Nat) (Option.some Jvm.ClassFile.FieldType.int)) ∈ lw_all := lw_g (lw_at lw_m3 20 rfl) rfl
theorem q583 : (Jvm.Cond.methodLink "NeverSaid" (263 : Nat) ({ cls := "NeverSaid", name := "speakerOf", desc := "(I)LNeverSaid$Speaker;" } : Jvm.MethodName)) ∈ lw_all := lw_g (lw_at lw_m3 21 rfl) rfl
theorem q584 : (Jvm.Cond.static ({ cls := "NeverSaid", name := "speakerOf", desc := "(I)LNeverSaid$Speaker;" } : Jvm.MethodName)) ∈ lw_all := lw_g (lw_at lw_m3 22 rfl) rfl
theorem q585 : (Jvm.Cond.code ({ cls := "NeverSaid", name := "speakerOf", desc := "(I)LNeverSaid$Speaker;" } : Jvm.MethodName) prog_1_method_5_code (1 : Nat) (Option.some (Jvm.ClassFile.FieldType.object "NeverSaid$Speaker"))) ∈ lw_all := lw_g (lw_at lw_m3 23 rfl) rfl
theorem q586 : (Jvm.Cond.classLink "NeverSaid" (13 : Nat) "NeverSaid$SureSpeaker") ∈ lw_all := lw_g (lw_at lw_m3 24 rfl) rfl
theorem q588 : (Jvm.Cond.methodLinkNest "NeverSaid" (15 : Nat) ({ cls := "NeverSaid$SureSpeaker", name := "<init>", desc := "()V" } : Jvm.MethodName) "NeverSaid") ∈ lw_tbl := lw_at lw_m3 26 rfl
theorem q599 : (Jvm.Cond.fieldLink "NeverSaid" (267 : Nat) "NeverSaid$Speaker" "bold" "I") ∈ lw_all := lw_g (lw_at lw_m3 37 rfl) rfl
theorem q603 : (Jvm.Cond.classLink "NeverSaid" (19 : Nat) "NeverSaid$LoyalSpeaker") ∈ lw_all := lw_g (lw_at lw_m3 41 rfl) rfl
theorem q605 : (Jvm.Cond.methodLinkNest "NeverSaid" (21 : Nat) ({ cls := "NeverSaid$LoyalSpeaker", name := "<init>", desc := "()V" } : Jvm.MethodName) "NeverSaid") ∈ lw_tbl := lw_at lw_m3 43 rfl
theorem q611 : (Jvm.Cond.classLink "NeverSaid" (22 : Nat) "NeverSaid$OrderedSpeaker") ∈ lw_all := lw_g (lw_at lw_m3 49 rfl) rfl
theorem q613 : (Jvm.Cond.methodLinkNest "NeverSaid" (24 : Nat) ({ cls := "NeverSaid$OrderedSpeaker", name := "<init>", desc := "()V" } : Jvm.MethodName) "NeverSaid") ∈ lw_tbl := lw_at lw_m3 51 rfl
theorem q619 : (Jvm.Cond.classLink "NeverSaid" (25 : Nat) "NeverSaid$BoughtSpeaker") ∈ lw_all := lw_g (lw_at lw_m3 57 rfl) rfl
theorem q621 : (Jvm.Cond.methodLinkNest "NeverSaid" (27 : Nat) ({ cls := "NeverSaid$BoughtSpeaker", name := "<init>", desc := "()V" } : Jvm.MethodName) "NeverSaid") ∈ lw_tbl := lw_at lw_m3 59 rfl
theorem q627 : (Jvm.Cond.classLink "NeverSaid" (28 : Nat) "NeverSaid$LyingSpeaker") ∈ lw_all := lw_g (lw_at lw_m3 65 rfl) rfl
theorem q629 : (Jvm.Cond.methodLinkNest "NeverSaid" (30 : Nat) ({ cls := "NeverSaid$LyingSpeaker", name := "<init>", desc := "()V" } : Jvm.MethodName) "NeverSaid") ∈ lw_tbl := lw_at lw_m3 67 rfl
theorem q635 : (Jvm.Cond.classLink "NeverSaid" (31 : Nat) "NeverSaid$Speaker") ∈ lw_all := lw_g (lw_at lw_m3 73 rfl) rfl
theorem q637 : (Jvm.Cond.methodLinkNest "NeverSaid" (33 : Nat) ({ cls := "NeverSaid$Speaker", name := "<init>", desc := "()V" } : Jvm.MethodName) "NeverSaid") ∈ lw_tbl := lw_at lw_m3 75 rfl
theorem q641 : (Jvm.Cond.instanceMethod ({ cls := "NeverSaid", name := "told", desc := "(II)I" } : Jvm.MethodName)) ∈ lw_all := lw_g (lw_at lw_m3 79 rfl) rfl
theorem q642 : (Jvm.Cond.selects "NeverSaid" ({ cls := "NeverSaid", name := "told", desc := "(II)I" } : Jvm.MethodName) ({ cls := "NeverSaid", name := "told", desc := "(II)I" } : Jvm.MethodName)) ∈ lw_all := lw_g (lw_at lw_m3 80 rfl) rfl
theorem q643 : (Jvm.Cond.code ({ cls := "NeverSaid", name := "told", desc := "(II)I" } : Jvm.MethodName) prog_1_method_42_code (4 : Nat) (Option.some Jvm.ClassFile.FieldType.int)) ∈ lw_all := lw_g (lw_at lw_m3 81 rfl) rfl
theorem q644 : (Jvm.Cond.methodLink "NeverSaid" (297 : Nat) ({ cls := "NeverSaid", name := "isPerson", desc := "(I)Z" } : Jvm.MethodName)) ∈ lw_all := lw_g (lw_at lw_m3 82 rfl) rfl
theorem q645 : (Jvm.Cond.privateMethod ({ cls := "NeverSaid", name := "isPerson", desc := "(I)Z" } : Jvm.MethodName)) ∈ lw_tbl := lw_at lw_m3 83 rfl
theorem q646 : (Jvm.Cond.instanceMethod ({ cls := "NeverSaid", name := "isPerson", desc := "(I)Z" } : Jvm.MethodName)) ∈ lw_all := lw_g (lw_at lw_m3 84 rfl) rfl
theorem q647 : (Jvm.Cond.code ({ cls := "NeverSaid", name := "isPerson", desc := "(I)Z" } : Jvm.MethodName) prog_1_method_8_code (2 : Nat) (Option.some Jvm.ClassFile.FieldType.boolean)) ∈ lw_all := lw_g (lw_at lw_m3 85 rfl) rfl
theorem q648 : (Jvm.Cond.methodLink "NeverSaid" (300 : Nat) ({ cls := "NeverSaid$Speaker", name := "kind", desc := "()I" } : Jvm.MethodName)) ∈ lw_all := lw_g (lw_at lw_m3 86 rfl) rfl
theorem q670 : (Jvm.Cond.methodLink "NeverSaid" (303 : Nat) ({ cls := "NeverSaid", name := "findFollowers", desc := "()V" } : Jvm.MethodName)) ∈ lw_all := lw_g (lw_at lw_m3 108 rfl) rfl
theorem q671 : (Jvm.Cond.privateMethod ({ cls := "NeverSaid", name := "findFollowers", desc := "()V" } : Jvm.MethodName)) ∈ lw_tbl := lw_at lw_m3 109 rfl
theorem q672 : (Jvm.Cond.instanceMethod ({ cls := "NeverSaid", name := "findFollowers", desc := "()V" } : Jvm.MethodName)) ∈ lw_all := lw_g (lw_at lw_m3 110 rfl) rfl
theorem q673 : (Jvm.Cond.code ({ cls := "NeverSaid", name := "findFollowers", desc := "()V" } : Jvm.MethodName) prog_1_method_39_code (5 : Nat) (Option.none : Option Jvm.ClassFile.FieldType)) ∈ lw_all := lw_g (lw_at lw_m3 111 rfl) rfl
theorem q674 : (Jvm.Cond.methodLink "NeverSaid" (34 : Nat) ({ cls := "java/lang/System", name := "arraycopy", desc := "(Ljava/lang/Object;ILjava/lang/Object;II)V" } : Jvm.MethodName)) ∈ lw_all := lw_g (lw_at lw_m3 112 rfl) rfl
theorem q677 : (Jvm.Cond.methodLink "NeverSaid" (293 : Nat) ({ cls := "NeverSaid", name := "has", desc := "(II)Z" } : Jvm.MethodName)) ∈ lw_all := lw_g (lw_at lw_m3 115 rfl) rfl
theorem q678 : (Jvm.Cond.static ({ cls := "NeverSaid", name := "has", desc := "(II)Z" } : Jvm.MethodName)) ∈ lw_all := lw_g (lw_at lw_m3 116 rfl) rfl
theorem q679 : (Jvm.Cond.code ({ cls := "NeverSaid", name := "has", desc := "(II)Z" } : Jvm.MethodName) prog_1_method_4_code (2 : Nat) (Option.some Jvm.ClassFile.FieldType.boolean)) ∈ lw_all := lw_g (lw_at lw_m3 117 rfl) rfl
theorem q680 : (Jvm.Cond.methodLink "NeverSaid" (306 : Nat) ({ cls := "NeverSaid$Speaker", name := "worth", desc := "()I" } : Jvm.MethodName)) ∈ lw_all := lw_g (lw_at lw_m3 118 rfl) rfl
theorem q705 : (Jvm.Cond.methodLink "NeverSaid" (309 : Nat) ({ cls := "NeverSaid", name := "goneOn", desc := "(I)I" } : Jvm.MethodName)) ∈ lw_all := lw_g (lw_at lw_m3 143 rfl) rfl
theorem q706 : (Jvm.Cond.privateMethod ({ cls := "NeverSaid", name := "goneOn", desc := "(I)I" } : Jvm.MethodName)) ∈ lw_tbl := lw_at lw_m3 144 rfl
theorem q707 : (Jvm.Cond.instanceMethod ({ cls := "NeverSaid", name := "goneOn", desc := "(I)I" } : Jvm.MethodName)) ∈ lw_all := lw_g (lw_at lw_m3 145 rfl) rfl
theorem q708 : (Jvm.Cond.code ({ cls := "NeverSaid", name := "goneOn", desc := "(I)I" } : Jvm.MethodName) prog_1_method_41_code (4 : Nat) (Option.some Jvm.ClassFile.FieldType.int)) ∈ lw_all := lw_g (lw_at lw_m3 146 rfl) rfl
theorem q710 : (Jvm.Cond.instanceMethod ({ cls := "NeverSaid", name := "as", desc := "(II)I" } : Jvm.MethodName)) ∈ lw_all := lw_g (lw_at lw_m3 148 rfl) rfl
theorem q711 : (Jvm.Cond.selects "NeverSaid" ({ cls := "NeverSaid", name := "as", desc := "(II)I" } : Jvm.MethodName) ({ cls := "NeverSaid", name := "as", desc := "(II)I" } : Jvm.MethodName)) ∈ lw_all := lw_g (lw_at lw_m3 149 rfl) rfl
theorem q712 : (Jvm.Cond.codeWith ({ cls := "NeverSaid", name := "as", desc := "(II)I" } : Jvm.MethodName) prog_1_method_44_code (5 : Nat) (Option.some Jvm.ClassFile.FieldType.int) [((30 : Nat), (38 : Nat), (39 : Nat), (316 : Nat))]) ∈ lw_all := lw_g (lw_at lw_m3 150 rfl) rfl
theorem q713 : (Jvm.Cond.classLink "NeverSaid" (316 : Nat) "java/lang/ClassCastException") ∈ lw_all := lw_g (lw_at lw_m3 151 rfl) rfl
theorem q740 : (Jvm.Cond.methodLink "NeverSaid" (312 : Nat) ({ cls := "NeverSaid", name := "takenFor", desc := "(Ljava/lang/Object;I)LNeverSaid$Speaker;" } : Jvm.MethodName)) ∈ lw_all := lw_g (lw_at lw_m3 178 rfl) rfl
theorem q741 : (Jvm.Cond.static ({ cls := "NeverSaid", name := "takenFor", desc := "(Ljava/lang/Object;I)LNeverSaid$Speaker;" } : Jvm.MethodName)) ∈ lw_all := lw_g (lw_at lw_m3 179 rfl) rfl
theorem q742 : (Jvm.Cond.code ({ cls := "NeverSaid", name := "takenFor", desc := "(Ljava/lang/Object;I)LNeverSaid$Speaker;" } : Jvm.MethodName) prog_1_method_43_code (2 : Nat) (Option.some (Jvm.ClassFile.FieldType.object "NeverSaid$Speaker"))) ∈ lw_all := lw_g (lw_at lw_m3 180 rfl) rfl
theorem q743 : (Jvm.Cond.constant "NeverSaid" (318 : Nat) (-1000000012 : Int32)) ∈ lw_all := lw_g (lw_at lw_m3 181 rfl) rfl
theorem q745 : (Jvm.Cond.instanceMethod ({ cls := "NeverSaid", name := "turns", desc := "(II)I" } : Jvm.MethodName)) ∈ lw_all := lw_g (lw_at lw_m3 183 rfl) rfl
theorem q746 : (Jvm.Cond.selects "NeverSaid" ({ cls := "NeverSaid", name := "turns", desc := "(II)I" } : Jvm.MethodName) ({ cls := "NeverSaid", name := "turns", desc := "(II)I" } : Jvm.MethodName)) ∈ lw_all := lw_g (lw_at lw_m3 184 rfl) rfl
theorem q747 : (Jvm.Cond.code ({ cls := "NeverSaid", name := "turns", desc := "(II)I" } : Jvm.MethodName) prog_1_method_45_code (4 : Nat) (Option.some Jvm.ClassFile.FieldType.int)) ∈ lw_all := lw_g (lw_at lw_m3 185 rfl) rfl
theorem q749 : (Jvm.Cond.instanceMethod ({ cls := "NeverSaid", name := "bolder", desc := "(II)I" } : Jvm.MethodName)) ∈ lw_all := lw_g (lw_at lw_m3 187 rfl) rfl
theorem q750 : (Jvm.Cond.selects "NeverSaid" ({ cls := "NeverSaid", name := "bolder", desc := "(II)I" } : Jvm.MethodName) ({ cls := "NeverSaid", name := "bolder", desc := "(II)I" } : Jvm.MethodName)) ∈ lw_all := lw_g (lw_at lw_m3 188 rfl) rfl
theorem q751 : (Jvm.Cond.code ({ cls := "NeverSaid", name := "bolder", desc := "(II)I" } : Jvm.MethodName) prog_1_method_46_code (4 : Nat) (Option.some Jvm.ClassFile.FieldType.int)) ∈ lw_all := lw_g (lw_at lw_m3 189 rfl) rfl
theorem q753 : (Jvm.Cond.instanceMethod ({ cls := "NeverSaid", name := "away", desc := "(III)I" } : Jvm.MethodName)) ∈ lw_all := lw_g (lw_at lw_m3 191 rfl) rfl
theorem q754 : (Jvm.Cond.selects "NeverSaid" ({ cls := "NeverSaid", name := "away", desc := "(III)I" } : Jvm.MethodName) ({ cls := "NeverSaid", name := "away", desc := "(III)I" } : Jvm.MethodName)) ∈ lw_all := lw_g (lw_at lw_m3 192 rfl) rfl
theorem q755 : (Jvm.Cond.code ({ cls := "NeverSaid", name := "away", desc := "(III)I" } : Jvm.MethodName) prog_1_method_48_code (4 : Nat) (Option.some Jvm.ClassFile.FieldType.int)) ∈ lw_all := lw_g (lw_at lw_m3 193 rfl) rfl
theorem q756 : (Jvm.Cond.methodLink "NeverSaid" (319 : Nat) ({ cls := "NeverSaid", name := "becomes", desc := "([IIII)I" } : Jvm.MethodName)) ∈ lw_all := lw_g (lw_at lw_m3 194 rfl) rfl
theorem q757 : (Jvm.Cond.static ({ cls := "NeverSaid", name := "becomes", desc := "([IIII)I" } : Jvm.MethodName)) ∈ lw_all := lw_g (lw_at lw_m3 195 rfl) rfl
theorem q758 : (Jvm.Cond.code ({ cls := "NeverSaid", name := "becomes", desc := "([IIII)I" } : Jvm.MethodName) prog_1_method_47_code (5 : Nat) (Option.some Jvm.ClassFile.FieldType.int)) ∈ lw_all := lw_g (lw_at lw_m3 196 rfl) rfl
theorem q760 : (Jvm.Cond.instanceMethod ({ cls := "NeverSaid", name := "friend", desc := "(III)I" } : Jvm.MethodName)) ∈ lw_all := lw_g (lw_at lw_m3 198 rfl) rfl
theorem q761 : (Jvm.Cond.selects "NeverSaid" ({ cls := "NeverSaid", name := "friend", desc := "(III)I" } : Jvm.MethodName) ({ cls := "NeverSaid", name := "friend", desc := "(III)I" } : Jvm.MethodName)) ∈ lw_all := lw_g (lw_at lw_m3 199 rfl) rfl
theorem q762 : (Jvm.Cond.code ({ cls := "NeverSaid", name := "friend", desc := "(III)I" } : Jvm.MethodName) prog_1_method_50_code (5 : Nat) (Option.some Jvm.ClassFile.FieldType.int)) ∈ lw_all := lw_g (lw_at lw_m3 200 rfl) rfl
theorem q763 : (Jvm.Cond.methodLink "NeverSaid" (323 : Nat) ({ cls := "NeverSaid", name := "areTwo", desc := "(III)Z" } : Jvm.MethodName)) ∈ lw_all := lw_g (lw_at lw_m3 201 rfl) rfl
theorem q764 : (Jvm.Cond.privateMethod ({ cls := "NeverSaid", name := "areTwo", desc := "(III)Z" } : Jvm.MethodName)) ∈ lw_tbl := lw_at lw_m3 202 rfl
theorem q765 : (Jvm.Cond.instanceMethod ({ cls := "NeverSaid", name := "areTwo", desc := "(III)Z" } : Jvm.MethodName)) ∈ lw_all := lw_g (lw_at lw_m3 203 rfl) rfl
theorem q766 : (Jvm.Cond.code ({ cls := "NeverSaid", name := "areTwo", desc := "(III)Z" } : Jvm.MethodName) prog_1_method_49_code (4 : Nat) (Option.some Jvm.ClassFile.FieldType.boolean)) ∈ lw_all := lw_g (lw_at lw_m3 204 rfl) rfl
theorem q768 : (Jvm.Cond.instanceMethod ({ cls := "NeverSaid", name := "follow", desc := "(III)I" } : Jvm.MethodName)) ∈ lw_all := lw_g (lw_at lw_m3 206 rfl) rfl
theorem q769 : (Jvm.Cond.selects "NeverSaid" ({ cls := "NeverSaid", name := "follow", desc := "(III)I" } : Jvm.MethodName) ({ cls := "NeverSaid", name := "follow", desc := "(III)I" } : Jvm.MethodName)) ∈ lw_all := lw_g (lw_at lw_m3 207 rfl) rfl
theorem q770 : (Jvm.Cond.code ({ cls := "NeverSaid", name := "follow", desc := "(III)I" } : Jvm.MethodName) prog_1_method_51_code (4 : Nat) (Option.some Jvm.ClassFile.FieldType.int)) ∈ lw_all := lw_g (lw_at lw_m3 208 rfl) rfl
theorem q772 : (Jvm.Cond.instanceMethod ({ cls := "NeverSaid", name := "deal", desc := "(I)I" } : Jvm.MethodName)) ∈ lw_all := lw_g (lw_at lw_m3 210 rfl) rfl
theorem q773 : (Jvm.Cond.selects "NeverSaid" ({ cls := "NeverSaid", name := "deal", desc := "(I)I" } : Jvm.MethodName) ({ cls := "NeverSaid", name := "deal", desc := "(I)I" } : Jvm.MethodName)) ∈ lw_all := lw_g (lw_at lw_m3 211 rfl) rfl
theorem q774 : (Jvm.Cond.code ({ cls := "NeverSaid", name := "deal", desc := "(I)I" } : Jvm.MethodName) prog_1_method_52_code (7 : Nat) (Option.some Jvm.ClassFile.FieldType.int)) ∈ lw_all := lw_g (lw_at lw_m3 212 rfl) rfl
theorem q775 : (Jvm.Cond.methodLink "NeverSaid" (326 : Nat) ({ cls := "NeverSaid$State", name := "draw", desc := "()I" } : Jvm.MethodName)) ∈ lw_all := lw_g (lw_at lw_m3 213 rfl) rfl
theorem q781 : (Jvm.Cond.instanceMethod ({ cls := "NeverSaid", name := "seed", desc := "(I)I" } : Jvm.MethodName)) ∈ lw_all := lw_g (lw_at lw_m3 219 rfl) rfl
theorem q782 : (Jvm.Cond.selects "NeverSaid" ({ cls := "NeverSaid", name := "seed", desc := "(I)I" } : Jvm.MethodName) ({ cls := "NeverSaid", name := "seed", desc := "(I)I" } : Jvm.MethodName)) ∈ lw_all := lw_g (lw_at lw_m3 220 rfl) rfl
theorem q783 : (Jvm.Cond.code ({ cls := "NeverSaid", name := "seed", desc := "(I)I" } : Jvm.MethodName) prog_1_method_53_code (3 : Nat) (Option.some Jvm.ClassFile.FieldType.int)) ∈ lw_all := lw_g (lw_at lw_m3 221 rfl) rfl
theorem q785 : (Jvm.Cond.instanceMethod ({ cls := "NeverSaid", name := "deed", desc := "(III)I" } : Jvm.MethodName)) ∈ lw_all := lw_g (lw_at lw_m3 223 rfl) rfl
theorem q786 : (Jvm.Cond.selects "NeverSaid" ({ cls := "NeverSaid", name := "deed", desc := "(III)I" } : Jvm.MethodName) ({ cls := "NeverSaid", name := "deed", desc := "(III)I" } : Jvm.MethodName)) ∈ lw_all := lw_g (lw_at lw_m3 224 rfl) rfl
theorem q787 : (Jvm.Cond.code ({ cls := "NeverSaid", name := "deed", desc := "(III)I" } : Jvm.MethodName) prog_1_method_55_code (5 : Nat) (Option.some Jvm.ClassFile.FieldType.int)) ∈ lw_all := lw_g (lw_at lw_m3 225 rfl) rfl
theorem q788 : (Jvm.Cond.methodLink "NeverSaid" (332 : Nat) ({ cls := "NeverSaid", name := "isSet", desc := "(I)Z" } : Jvm.MethodName)) ∈ lw_all := lw_g (lw_at lw_m3 226 rfl) rfl
theorem q789 : (Jvm.Cond.privateMethod ({ cls := "NeverSaid", name := "isSet", desc := "(I)Z" } : Jvm.MethodName)) ∈ lw_tbl := lw_at lw_m3 227 rfl
theorem q790 : (Jvm.Cond.instanceMethod ({ cls := "NeverSaid", name := "isSet", desc := "(I)Z" } : Jvm.MethodName)) ∈ lw_all := lw_g (lw_at lw_m3 228 rfl) rfl
theorem q791 : (Jvm.Cond.code ({ cls := "NeverSaid", name := "isSet", desc := "(I)Z" } : Jvm.MethodName) prog_1_method_54_code (2 : Nat) (Option.some Jvm.ClassFile.FieldType.boolean)) ∈ lw_all := lw_g (lw_at lw_m3 229 rfl) rfl
theorem q792 : (Jvm.Cond.methodLink "NeverSaid" (335 : Nat) ({ cls := "java/lang/Integer", name := "bitCount", desc := "(I)I" } : Jvm.MethodName)) ∈ lw_all := lw_g (lw_at lw_m3 230 rfl) rfl
theorem q798 : (Jvm.Cond.methodLink "NeverSaid" (349 : Nat) ({ cls := "NeverSaid", name := "begins", desc := "(LNeverSaid$Deed;)V" } : Jvm.MethodName)) ∈ lw_all := lw_g (lw_at lw_m3 236 rfl) rfl
theorem q799 : (Jvm.Cond.privateMethod ({ cls := "NeverSaid", name := "begins", desc := "(LNeverSaid$Deed;)V" } : Jvm.MethodName)) ∈ lw_tbl := lw_at lw_m3 237 rfl
theorem q800 : (Jvm.Cond.instanceMethod ({ cls := "NeverSaid", name := "begins", desc := "(LNeverSaid$Deed;)V" } : Jvm.MethodName)) ∈ lw_all := lw_g (lw_at lw_m3 238 rfl) rfl
theorem q801 : (Jvm.Cond.code ({ cls := "NeverSaid", name := "begins", desc := "(LNeverSaid$Deed;)V" } : Jvm.MethodName) prog_1_method_56_code (2 : Nat) (Option.none : Option Jvm.ClassFile.FieldType)) ∈ lw_all := lw_g (lw_at lw_m3 239 rfl) rfl
theorem q802 : (Jvm.Cond.methodLink "NeverSaid" (353 : Nat) ({ cls := "NeverSaid$State", name := "all", desc := "()I" } : Jvm.MethodName)) ∈ lw_all := lw_g (lw_at lw_m4 0 rfl) rfl
theorem q807 : (Jvm.Cond.instanceMethod ({ cls := "NeverSaid", name := "deedTold", desc := "(II)I" } : Jvm.MethodName)) ∈ lw_all := lw_g (lw_at lw_m4 5 rfl) rfl
theorem q808 : (Jvm.Cond.selects "NeverSaid" ({ cls := "NeverSaid", name := "deedTold", desc := "(II)I" } : Jvm.MethodName) ({ cls := "NeverSaid", name := "deedTold", desc := "(II)I" } : Jvm.MethodName)) ∈ lw_all := lw_g (lw_at lw_m4 6 rfl) rfl
theorem q809 : (Jvm.Cond.code ({ cls := "NeverSaid", name := "deedTold", desc := "(II)I" } : Jvm.MethodName) prog_1_method_58_code (4 : Nat) (Option.some Jvm.ClassFile.FieldType.int)) ∈ lw_all := lw_g (lw_at lw_m4 7 rfl) rfl
theorem q810 : (Jvm.Cond.methodLink "NeverSaid" (377 : Nat) ({ cls := "NeverSaid", name := "isDeed", desc := "(I)Z" } : Jvm.MethodName)) ∈ lw_all := lw_g (lw_at lw_m4 8 rfl) rfl
theorem q811 : (Jvm.Cond.privateMethod ({ cls := "NeverSaid", name := "isDeed", desc := "(I)Z" } : Jvm.MethodName)) ∈ lw_tbl := lw_at lw_m4 9 rfl
theorem q812 : (Jvm.Cond.instanceMethod ({ cls := "NeverSaid", name := "isDeed", desc := "(I)Z" } : Jvm.MethodName)) ∈ lw_all := lw_g (lw_at lw_m4 10 rfl) rfl
theorem q813 : (Jvm.Cond.code ({ cls := "NeverSaid", name := "isDeed", desc := "(I)Z" } : Jvm.MethodName) prog_1_method_9_code (2 : Nat) (Option.some Jvm.ClassFile.FieldType.boolean)) ∈ lw_all := lw_g (lw_at lw_m4 11 rfl) rfl
theorem q814 : (Jvm.Cond.methodLink "NeverSaid" (380 : Nat) ({ cls := "NeverSaid", name := "costOf", desc := "(LNeverSaid$Deed;)I" } : Jvm.MethodName)) ∈ lw_all := lw_g (lw_at lw_m4 12 rfl) rfl
theorem q815 : (Jvm.Cond.privateMethod ({ cls := "NeverSaid", name := "costOf", desc := "(LNeverSaid$Deed;)I" } : Jvm.MethodName)) ∈ lw_tbl := lw_at lw_m4 13 rfl
theorem q816 : (Jvm.Cond.instanceMethod ({ cls := "NeverSaid", name := "costOf", desc := "(LNeverSaid$Deed;)I" } : Jvm.MethodName)) ∈ lw_all := lw_g (lw_at lw_m4 14 rfl) rfl
theorem q817 : (Jvm.Cond.code ({ cls := "NeverSaid", name := "costOf", desc := "(LNeverSaid$Deed;)I" } : Jvm.MethodName) prog_1_method_57_code (3 : Nat) (Option.some Jvm.ClassFile.FieldType.int)) ∈ lw_all := lw_g (lw_at lw_m4 15 rfl) rfl
theorem q818 : (Jvm.Cond.methodLink "NeverSaid" (362 : Nat) ({ cls := "NeverSaid$Deed", name := "leftMany", desc := "()I" } : Jvm.MethodName)) ∈ lw_all := lw_g (lw_at lw_m4 16 rfl) rfl
theorem q823 : (Jvm.Cond.methodLink "NeverSaid" (369 : Nat) ({ cls := "NeverSaid", name := "reckon", desc := "(LNeverSaid$Words;)I" } : Jvm.MethodName)) ∈ lw_all := lw_g (lw_at lw_m4 21 rfl) rfl
theorem q824 : (Jvm.Cond.privateMethod ({ cls := "NeverSaid", name := "reckon", desc := "(LNeverSaid$Words;)I" } : Jvm.MethodName)) ∈ lw_tbl := lw_at lw_m4 22 rfl
theorem q825 : (Jvm.Cond.instanceMethod ({ cls := "NeverSaid", name := "reckon", desc := "(LNeverSaid$Words;)I" } : Jvm.MethodName)) ∈ lw_all := lw_g (lw_at lw_m4 23 rfl) rfl
theorem q826 : (Jvm.Cond.code ({ cls := "NeverSaid", name := "reckon", desc := "(LNeverSaid$Words;)I" } : Jvm.MethodName) prog_1_method_11_code (5 : Nat) (Option.some Jvm.ClassFile.FieldType.int)) ∈ lw_all := lw_g (lw_at lw_m4 24 rfl) rfl
theorem q827 : (Jvm.Cond.methodLink "NeverSaid" (123 : Nat) ({ cls := "NeverSaid", name := "both", desc := "(III)I" } : Jvm.MethodName)) ∈ lw_all := lw_g (lw_at lw_m4 25 rfl) rfl
theorem q828 : (Jvm.Cond.static ({ cls := "NeverSaid", name := "both", desc := "(III)I" } : Jvm.MethodName)) ∈ lw_all := lw_g (lw_at lw_m4 26 rfl) rfl
theorem q829 : (Jvm.Cond.code ({ cls := "NeverSaid", name := "both", desc := "(III)I" } : Jvm.MethodName) prog_1_method_10_code (3 : Nat) (Option.some Jvm.ClassFile.FieldType.int)) ∈ lw_all := lw_g (lw_at lw_m4 27 rfl) rfl
theorem q830 : (Jvm.Cond.constant "NeverSaid" (373 : Nat) (99999 : Int32)) ∈ lw_all := lw_g (lw_at lw_m4 28 rfl) rfl
theorem q831 : (Jvm.Cond.methodLink "NeverSaid" (374 : Nat) ({ cls := "NeverSaid", name := "within", desc := "(III)I" } : Jvm.MethodName)) ∈ lw_all := lw_g (lw_at lw_m4 29 rfl) rfl
theorem q832 : (Jvm.Cond.static ({ cls := "NeverSaid", name := "within", desc := "(III)I" } : Jvm.MethodName)) ∈ lw_all := lw_g (lw_at lw_m4 30 rfl) rfl
theorem q833 : (Jvm.Cond.code ({ cls := "NeverSaid", name := "within", desc := "(III)I" } : Jvm.MethodName) prog_1_method_3_code (3 : Nat) (Option.some Jvm.ClassFile.FieldType.int)) ∈ lw_all := lw_g (lw_at lw_m4 31 rfl) rfl
theorem q834 : (Jvm.Cond.methodLink "NeverSaid" (4 : Nat) ({ cls := "java/lang/Math", name := "min", desc := "(II)I" } : Jvm.MethodName)) ∈ lw_all := lw_g (lw_at lw_m4 32 rfl) rfl
theorem q837 : (Jvm.Cond.methodLink "NeverSaid" (10 : Nat) ({ cls := "java/lang/Math", name := "max", desc := "(II)I" } : Jvm.MethodName)) ∈ lw_all := lw_g (lw_at lw_m4 35 rfl) rfl
theorem q841 : (Jvm.Cond.instanceMethod ({ cls := "NeverSaid", name := "again", desc := "(I)I" } : Jvm.MethodName)) ∈ lw_all := lw_g (lw_at lw_m4 39 rfl) rfl
theorem q842 : (Jvm.Cond.selects "NeverSaid" ({ cls := "NeverSaid", name := "again", desc := "(I)I" } : Jvm.MethodName) ({ cls := "NeverSaid", name := "again", desc := "(I)I" } : Jvm.MethodName)) ∈ lw_all := lw_g (lw_at lw_m4 40 rfl) rfl
theorem q843 : (Jvm.Cond.code ({ cls := "NeverSaid", name := "again", desc := "(I)I" } : Jvm.MethodName) prog_1_method_59_code (3 : Nat) (Option.some Jvm.ClassFile.FieldType.int)) ∈ lw_all := lw_g (lw_at lw_m4 41 rfl) rfl
theorem q845 : (Jvm.Cond.instanceMethod ({ cls := "NeverSaid", name := "stop", desc := "(I)I" } : Jvm.MethodName)) ∈ lw_all := lw_g (lw_at lw_m4 43 rfl) rfl
theorem q846 : (Jvm.Cond.selects "NeverSaid" ({ cls := "NeverSaid", name := "stop", desc := "(I)I" } : Jvm.MethodName) ({ cls := "NeverSaid", name := "stop", desc := "(I)I" } : Jvm.MethodName)) ∈ lw_all := lw_g (lw_at lw_m4 44 rfl) rfl
theorem q847 : (Jvm.Cond.code ({ cls := "NeverSaid", name := "stop", desc := "(I)I" } : Jvm.MethodName) prog_1_method_60_code (3 : Nat) (Option.some Jvm.ClassFile.FieldType.int)) ∈ lw_all := lw_g (lw_at lw_m4 45 rfl) rfl
theorem q849 : (Jvm.Cond.instanceMethod ({ cls := "NeverSaid", name := "say", desc := "(III)I" } : Jvm.MethodName)) ∈ lw_all := lw_g (lw_at lw_m4 47 rfl) rfl
theorem q850 : (Jvm.Cond.selects "NeverSaid" ({ cls := "NeverSaid", name := "say", desc := "(III)I" } : Jvm.MethodName) ({ cls := "NeverSaid", name := "say", desc := "(III)I" } : Jvm.MethodName)) ∈ lw_all := lw_g (lw_at lw_m4 48 rfl) rfl
theorem q851 : (Jvm.Cond.code ({ cls := "NeverSaid", name := "say", desc := "(III)I" } : Jvm.MethodName) prog_1_method_63_code (5 : Nat) (Option.some Jvm.ClassFile.FieldType.int)) ∈ lw_all := lw_g (lw_at lw_m4 49 rfl) rfl
theorem q852 : (Jvm.Cond.methodLink "NeverSaid" (390 : Nat) ({ cls := "NeverSaid", name := "mayBe", desc := "(ILNeverSaid$Deed;I)Z" } : Jvm.MethodName)) ∈ lw_all := lw_g (lw_at lw_m4 50 rfl) rfl
theorem q853 : (Jvm.Cond.privateMethod ({ cls := "NeverSaid", name := "mayBe", desc := "(ILNeverSaid$Deed;I)Z" } : Jvm.MethodName)) ∈ lw_tbl := lw_at lw_m4 51 rfl
theorem q854 : (Jvm.Cond.instanceMethod ({ cls := "NeverSaid", name := "mayBe", desc := "(ILNeverSaid$Deed;I)Z" } : Jvm.MethodName)) ∈ lw_all := lw_g (lw_at lw_m4 52 rfl) rfl
theorem q855 : (Jvm.Cond.code ({ cls := "NeverSaid", name := "mayBe", desc := "(ILNeverSaid$Deed;I)Z" } : Jvm.MethodName) prog_1_method_61_code (5 : Nat) (Option.some Jvm.ClassFile.FieldType.boolean)) ∈ lw_all := lw_g (lw_at lw_m4 53 rfl) rfl
theorem q856 : (Jvm.Cond.methodLink "NeverSaid" (387 : Nat) ({ cls := "NeverSaid", name := "goBy", desc := "(I)I" } : Jvm.MethodName)) ∈ lw_all := lw_g (lw_at lw_m4 54 rfl) rfl
theorem q857 : (Jvm.Cond.privateMethod ({ cls := "NeverSaid", name := "goBy", desc := "(I)I" } : Jvm.MethodName)) ∈ lw_tbl := lw_at lw_m4 55 rfl
theorem q858 : (Jvm.Cond.instanceMethod ({ cls := "NeverSaid", name := "goBy", desc := "(I)I" } : Jvm.MethodName)) ∈ lw_all := lw_g (lw_at lw_m4 56 rfl) rfl
theorem q859 : (Jvm.Cond.code ({ cls := "NeverSaid", name := "goBy", desc := "(I)I" } : Jvm.MethodName) prog_1_method_40_code (2 : Nat) (Option.some Jvm.ClassFile.FieldType.int)) ∈ lw_all := lw_g (lw_at lw_m4 57 rfl) rfl
theorem q860 : (Jvm.Cond.constant "NeverSaid" (394 : Nat) (-1000000002 : Int32)) ∈ lw_all := lw_g (lw_at lw_m4 58 rfl) rfl
theorem q861 : (Jvm.Cond.methodLink "NeverSaid" (395 : Nat) ({ cls := "NeverSaid", name := "saysOf", desc := "(LNeverSaid$Deed;I)V" } : Jvm.MethodName)) ∈ lw_all := lw_g (lw_at lw_m4 59 rfl) rfl
theorem q862 : (Jvm.Cond.privateMethod ({ cls := "NeverSaid", name := "saysOf", desc := "(LNeverSaid$Deed;I)V" } : Jvm.MethodName)) ∈ lw_tbl := lw_at lw_m4 60 rfl
theorem q863 : (Jvm.Cond.instanceMethod ({ cls := "NeverSaid", name := "saysOf", desc := "(LNeverSaid$Deed;I)V" } : Jvm.MethodName)) ∈ lw_all := lw_g (lw_at lw_m4 61 rfl) rfl
theorem q864 : (Jvm.Cond.code ({ cls := "NeverSaid", name := "saysOf", desc := "(LNeverSaid$Deed;I)V" } : Jvm.MethodName) prog_1_method_62_code (4 : Nat) (Option.none : Option Jvm.ClassFile.FieldType)) ∈ lw_all := lw_g (lw_at lw_m4 62 rfl) rfl
theorem q866 : (Jvm.Cond.instanceMethod ({ cls := "NeverSaid", name := "choice", desc := "(II)I" } : Jvm.MethodName)) ∈ lw_all := lw_g (lw_at lw_m4 64 rfl) rfl
theorem q867 : (Jvm.Cond.selects "NeverSaid" ({ cls := "NeverSaid", name := "choice", desc := "(II)I" } : Jvm.MethodName) ({ cls := "NeverSaid", name := "choice", desc := "(II)I" } : Jvm.MethodName)) ∈ lw_all := lw_g (lw_at lw_m4 65 rfl) rfl
theorem q868 : (Jvm.Cond.code ({ cls := "NeverSaid", name := "choice", desc := "(II)I" } : Jvm.MethodName) prog_1_method_65_code (3 : Nat) (Option.some Jvm.ClassFile.FieldType.int)) ∈ lw_all := lw_g (lw_at lw_m4 66 rfl) rfl
theorem q869 : (Jvm.Cond.methodLink "NeverSaid" (405 : Nat) ({ cls := "NeverSaid", name := "choiceOf", desc := "(ILNeverSaid$Deed;)I" } : Jvm.MethodName)) ∈ lw_all := lw_g (lw_at lw_m4 67 rfl) rfl
theorem q870 : (Jvm.Cond.privateMethod ({ cls := "NeverSaid", name := "choiceOf", desc := "(ILNeverSaid$Deed;)I" } : Jvm.MethodName)) ∈ lw_tbl := lw_at lw_m4 68 rfl
theorem q871 : (Jvm.Cond.instanceMethod ({ cls := "NeverSaid", name := "choiceOf", desc := "(ILNeverSaid$Deed;)I" } : Jvm.MethodName)) ∈ lw_all := lw_g (lw_at lw_m4 69 rfl) rfl
theorem q872 : (Jvm.Cond.code ({ cls := "NeverSaid", name := "choiceOf", desc := "(ILNeverSaid$Deed;)I" } : Jvm.MethodName) prog_1_method_64_code (6 : Nat) (Option.some Jvm.ClassFile.FieldType.int)) ∈ lw_all := lw_g (lw_at lw_m4 70 rfl) rfl
theorem q873 : (Jvm.Cond.interfaceEntry "NeverSaid" (399 : Nat)) ∈ lw_tbl := lw_at lw_m4 71 rfl
theorem q874 : (Jvm.Cond.methodLink "NeverSaid" (399 : Nat) ({ cls := "NeverSaid$Chooses", name := "choice", desc := "(IIII)I" } : Jvm.MethodName)) ∈ lw_all := lw_g (lw_at lw_m4 72 rfl) rfl
theorem q937 : (Jvm.Cond.instanceMethod ({ cls := "NeverSaid", name := "rounds", desc := "(II)I" } : Jvm.MethodName)) ∈ lw_all := lw_g (lw_at lw_m4 135 rfl) rfl
theorem q938 : (Jvm.Cond.selects "NeverSaid" ({ cls := "NeverSaid", name := "rounds", desc := "(II)I" } : Jvm.MethodName) ({ cls := "NeverSaid", name := "rounds", desc := "(II)I" } : Jvm.MethodName)) ∈ lw_all := lw_g (lw_at lw_m4 136 rfl) rfl
theorem q939 : (Jvm.Cond.code ({ cls := "NeverSaid", name := "rounds", desc := "(II)I" } : Jvm.MethodName) prog_1_method_68_code (5 : Nat) (Option.some Jvm.ClassFile.FieldType.int)) ∈ lw_all := lw_g (lw_at lw_m4 137 rfl) rfl
theorem q940 : (Jvm.Cond.methodLink "NeverSaid" (412 : Nat) ({ cls := "NeverSaid", name := "round", desc := "(LNeverSaid$Deed;)I" } : Jvm.MethodName)) ∈ lw_all := lw_g (lw_at lw_m4 138 rfl) rfl
theorem q941 : (Jvm.Cond.privateMethod ({ cls := "NeverSaid", name := "round", desc := "(LNeverSaid$Deed;)I" } : Jvm.MethodName)) ∈ lw_tbl := lw_at lw_m4 139 rfl
theorem q942 : (Jvm.Cond.instanceMethod ({ cls := "NeverSaid", name := "round", desc := "(LNeverSaid$Deed;)I" } : Jvm.MethodName)) ∈ lw_all := lw_g (lw_at lw_m4 140 rfl) rfl
theorem q943 : (Jvm.Cond.code ({ cls := "NeverSaid", name := "round", desc := "(LNeverSaid$Deed;)I" } : Jvm.MethodName) prog_1_method_67_code (5 : Nat) (Option.some Jvm.ClassFile.FieldType.int)) ∈ lw_all := lw_g (lw_at lw_m4 141 rfl) rfl
theorem q944 : (Jvm.Cond.methodLink "NeverSaid" (409 : Nat) ({ cls := "NeverSaid", name := "boldOf", desc := "(ILNeverSaid$Deed;)I" } : Jvm.MethodName)) ∈ lw_all := lw_g (lw_at lw_m4 142 rfl) rfl
theorem q945 : (Jvm.Cond.privateMethod ({ cls := "NeverSaid", name := "boldOf", desc := "(ILNeverSaid$Deed;)I" } : Jvm.MethodName)) ∈ lw_tbl := lw_at lw_m4 143 rfl
theorem q946 : (Jvm.Cond.instanceMethod ({ cls := "NeverSaid", name := "boldOf", desc := "(ILNeverSaid$Deed;)I" } : Jvm.MethodName)) ∈ lw_all := lw_g (lw_at lw_m4 144 rfl) rfl
theorem q947 : (Jvm.Cond.code ({ cls := "NeverSaid", name := "boldOf", desc := "(ILNeverSaid$Deed;)I" } : Jvm.MethodName) prog_1_method_66_code (5 : Nat) (Option.some Jvm.ClassFile.FieldType.int)) ∈ lw_all := lw_g (lw_at lw_m4 145 rfl) rfl
theorem q949 : (Jvm.Cond.instanceMethod ({ cls := "NeverSaid", name := "fewest", desc := "(II)I" } : Jvm.MethodName)) ∈ lw_all := lw_g (lw_at lw_m4 147 rfl) rfl
theorem q950 : (Jvm.Cond.selects "NeverSaid" ({ cls := "NeverSaid", name := "fewest", desc := "(II)I" } : Jvm.MethodName) ({ cls := "NeverSaid", name := "fewest", desc := "(II)I" } : Jvm.MethodName)) ∈ lw_all := lw_g (lw_at lw_m4 148 rfl) rfl
theorem q951 : (Jvm.Cond.code ({ cls := "NeverSaid", name := "fewest", desc := "(II)I" } : Jvm.MethodName) prog_1_method_70_code (4 : Nat) (Option.some Jvm.ClassFile.FieldType.int)) ∈ lw_all := lw_g (lw_at lw_m4 149 rfl) rfl
theorem q952 : (Jvm.Cond.methodLink "NeverSaid" (415 : Nat) ({ cls := "NeverSaid", name := "fewestOf", desc := "(LNeverSaid$Deed;)I" } : Jvm.MethodName)) ∈ lw_all := lw_g (lw_at lw_m4 150 rfl) rfl
theorem q953 : (Jvm.Cond.privateMethod ({ cls := "NeverSaid", name := "fewestOf", desc := "(LNeverSaid$Deed;)I" } : Jvm.MethodName)) ∈ lw_tbl := lw_at lw_m4 151 rfl
theorem q954 : (Jvm.Cond.instanceMethod ({ cls := "NeverSaid", name := "fewestOf", desc := "(LNeverSaid$Deed;)I" } : Jvm.MethodName)) ∈ lw_all := lw_g (lw_at lw_m4 152 rfl) rfl
theorem q955 : (Jvm.Cond.code ({ cls := "NeverSaid", name := "fewestOf", desc := "(LNeverSaid$Deed;)I" } : Jvm.MethodName) prog_1_method_69_code (7 : Nat) (Option.some Jvm.ClassFile.FieldType.int)) ∈ lw_all := lw_g (lw_at lw_m4 153 rfl) rfl
theorem q957 : (Jvm.Cond.instanceMethod ({ cls := "NeverSaid", name := "silent", desc := "()I" } : Jvm.MethodName)) ∈ lw_all := lw_g (lw_at lw_m4 155 rfl) rfl
theorem q958 : (Jvm.Cond.selects "NeverSaid" ({ cls := "NeverSaid", name := "silent", desc := "()I" } : Jvm.MethodName) ({ cls := "NeverSaid", name := "silent", desc := "()I" } : Jvm.MethodName)) ∈ lw_all := lw_g (lw_at lw_m4 156 rfl) rfl
theorem q959 : (Jvm.Cond.code ({ cls := "NeverSaid", name := "silent", desc := "()I" } : Jvm.MethodName) prog_1_method_71_code (3 : Nat) (Option.some Jvm.ClassFile.FieldType.int)) ∈ lw_all := lw_g (lw_at lw_m4 157 rfl) rfl
theorem q961 : (Jvm.Cond.instanceMethod ({ cls := "NeverSaid", name := "meant", desc := "(I)I" } : Jvm.MethodName)) ∈ lw_all := lw_g (lw_at lw_m4 159 rfl) rfl
theorem q962 : (Jvm.Cond.selects "NeverSaid" ({ cls := "NeverSaid", name := "meant", desc := "(I)I" } : Jvm.MethodName) ({ cls := "NeverSaid", name := "meant", desc := "(I)I" } : Jvm.MethodName)) ∈ lw_all := lw_g (lw_at lw_m4 160 rfl) rfl
theorem q963 : (Jvm.Cond.code ({ cls := "NeverSaid", name := "meant", desc := "(I)I" } : Jvm.MethodName) prog_1_method_72_code (4 : Nat) (Option.some Jvm.ClassFile.FieldType.int)) ∈ lw_all := lw_g (lw_at lw_m4 161 rfl) rfl
theorem q964 : (Jvm.Cond.methodLink "NeverSaid" (418 : Nat) ({ cls := "java/lang/Integer", name := "highestOneBit", desc := "(I)I" } : Jvm.MethodName)) ∈ lw_all := lw_g (lw_at lw_m4 162 rfl) rfl
theorem q966 : (Jvm.Cond.instanceMethod ({ cls := "NeverSaid", name := "proved", desc := "(I)I" } : Jvm.MethodName)) ∈ lw_all := lw_g (lw_at lw_m4 164 rfl) rfl
theorem q967 : (Jvm.Cond.selects "NeverSaid" ({ cls := "NeverSaid", name := "proved", desc := "(I)I" } : Jvm.MethodName) ({ cls := "NeverSaid", name := "proved", desc := "(I)I" } : Jvm.MethodName)) ∈ lw_all := lw_g (lw_at lw_m4 165 rfl) rfl
theorem q968 : (Jvm.Cond.code ({ cls := "NeverSaid", name := "proved", desc := "(I)I" } : Jvm.MethodName) prog_1_method_73_code (5 : Nat) (Option.some Jvm.ClassFile.FieldType.int)) ∈ lw_all := lw_g (lw_at lw_m4 166 rfl) rfl
theorem q970 : (Jvm.Cond.instanceMethod ({ cls := "NeverSaid", name := "falls", desc := "(II)J" } : Jvm.MethodName)) ∈ lw_all := lw_g (lw_at lw_m4 168 rfl) rfl
theorem q971 : (Jvm.Cond.selects "NeverSaid" ({ cls := "NeverSaid", name := "falls", desc := "(II)J" } : Jvm.MethodName) ({ cls := "NeverSaid", name := "falls", desc := "(II)J" } : Jvm.MethodName)) ∈ lw_all := lw_g (lw_at lw_m4 169 rfl) rfl
theorem q972 : (Jvm.Cond.code ({ cls := "NeverSaid", name := "falls", desc := "(II)J" } : Jvm.MethodName) prog_1_method_76_code (3 : Nat) (Option.some Jvm.ClassFile.FieldType.long)) ∈ lw_all := lw_g (lw_at lw_m4 170 rfl) rfl
theorem q973 : (Jvm.Cond.constantLong "NeverSaid" (432 : Nat) (-1000000001 : Int64)) ∈ lw_all := lw_g (lw_at lw_m4 171 rfl) rfl
theorem q974 : (Jvm.Cond.methodLink "NeverSaid" (434 : Nat) ({ cls := "NeverSaid", name := "findFalls", desc := "(I)V" } : Jvm.MethodName)) ∈ lw_all := lw_g (lw_at lw_m4 172 rfl) rfl
theorem q975 : (Jvm.Cond.privateMethod ({ cls := "NeverSaid", name := "findFalls", desc := "(I)V" } : Jvm.MethodName)) ∈ lw_tbl := lw_at lw_m4 173 rfl
theorem q976 : (Jvm.Cond.instanceMethod ({ cls := "NeverSaid", name := "findFalls", desc := "(I)V" } : Jvm.MethodName)) ∈ lw_all := lw_g (lw_at lw_m4 174 rfl) rfl
theorem q977 : (Jvm.Cond.code ({ cls := "NeverSaid", name := "findFalls", desc := "(I)V" } : Jvm.MethodName) prog_1_method_75_code (7 : Nat) (Option.none : Option Jvm.ClassFile.FieldType)) ∈ lw_all := lw_g (lw_at lw_m4 175 rfl) rfl
theorem q978 : (Jvm.Cond.methodLink "NeverSaid" (421 : Nat) ({ cls := "NeverSaid", name := "divisor", desc := "(JJ)J" } : Jvm.MethodName)) ∈ lw_all := lw_g (lw_at lw_m4 176 rfl) rfl
theorem q979 : (Jvm.Cond.static ({ cls := "NeverSaid", name := "divisor", desc := "(JJ)J" } : Jvm.MethodName)) ∈ lw_all := lw_g (lw_at lw_m4 177 rfl) rfl
theorem q980 : (Jvm.Cond.code ({ cls := "NeverSaid", name := "divisor", desc := "(JJ)J" } : Jvm.MethodName) prog_1_method_74_code (4 : Nat) (Option.some Jvm.ClassFile.FieldType.long)) ∈ lw_all := lw_g (lw_at lw_m4 178 rfl) rfl
theorem q982 : (Jvm.Cond.instanceMethod ({ cls := "NeverSaid", name := "most", desc := "()I" } : Jvm.MethodName)) ∈ lw_all := lw_g (lw_at lw_m4 180 rfl) rfl
theorem q983 : (Jvm.Cond.selects "NeverSaid" ({ cls := "NeverSaid", name := "most", desc := "()I" } : Jvm.MethodName) ({ cls := "NeverSaid", name := "most", desc := "()I" } : Jvm.MethodName)) ∈ lw_all := lw_g (lw_at lw_m4 181 rfl) rfl
theorem q984 : (Jvm.Cond.code ({ cls := "NeverSaid", name := "most", desc := "()I" } : Jvm.MethodName) prog_1_method_77_code (7 : Nat) (Option.some Jvm.ClassFile.FieldType.int)) ∈ lw_all := lw_g (lw_at lw_m4 182 rfl) rfl
theorem q986 : (Jvm.Cond.instanceMethod ({ cls := "NeverSaid", name := "sheet", desc := "(III)I" } : Jvm.MethodName)) ∈ lw_all := lw_g (lw_at lw_m4 184 rfl) rfl
theorem q987 : (Jvm.Cond.selects "NeverSaid" ({ cls := "NeverSaid", name := "sheet", desc := "(III)I" } : Jvm.MethodName) ({ cls := "NeverSaid", name := "sheet", desc := "(III)I" } : Jvm.MethodName)) ∈ lw_all := lw_g (lw_at lw_m4 185 rfl) rfl
theorem q988 : (Jvm.Cond.codeWith ({ cls := "NeverSaid", name := "sheet", desc := "(III)I" } : Jvm.MethodName) prog_1_method_81_code (5 : Nat) (Option.some Jvm.ClassFile.FieldType.int) [((45 : Nat), (69 : Nat), (70 : Nat), (448 : Nat))]) ∈ lw_all := lw_g (lw_at lw_m4 186 rfl) rfl
theorem q989 : (Jvm.Cond.classLink "NeverSaid" (448 : Nat) "java/lang/NegativeArraySizeException") ∈ lw_all := lw_g (lw_at lw_m4 187 rfl) rfl
theorem q1003 : (Jvm.Cond.methodLink "NeverSaid" (437 : Nat) ({ cls := "NeverSaid", name := "isSheet", desc := "(I)Z" } : Jvm.MethodName)) ∈ lw_all := lw_g (lw_at lw_m4 201 rfl) rfl
theorem q1004 : (Jvm.Cond.static ({ cls := "NeverSaid", name := "isSheet", desc := "(I)Z" } : Jvm.MethodName)) ∈ lw_all := lw_g (lw_at lw_m4 202 rfl) rfl
theorem q1005 : (Jvm.Cond.code ({ cls := "NeverSaid", name := "isSheet", desc := "(I)Z" } : Jvm.MethodName) prog_1_method_78_code (1 : Nat) (Option.some Jvm.ClassFile.FieldType.boolean)) ∈ lw_all := lw_g (lw_at lw_m4 203 rfl) rfl
theorem q1006 : (Jvm.Cond.methodLink "NeverSaid" (444 : Nat) ({ cls := "NeverSaid", name := "rowOf", desc := "(ZI)Ljava/lang/Object;" } : Jvm.MethodName)) ∈ lw_all := lw_g (lw_at lw_m4 204 rfl) rfl
theorem q1007 : (Jvm.Cond.static ({ cls := "NeverSaid", name := "rowOf", desc := "(ZI)Ljava/lang/Object;" } : Jvm.MethodName)) ∈ lw_all := lw_g (lw_at lw_m4 205 rfl) rfl
theorem q1008 : (Jvm.Cond.code ({ cls := "NeverSaid", name := "rowOf", desc := "(ZI)Ljava/lang/Object;" } : Jvm.MethodName) prog_1_method_80_code (2 : Nat) (Option.some (Jvm.ClassFile.FieldType.object "java/lang/Object"))) ∈ lw_all := lw_g (lw_at lw_m4 206 rfl) rfl
theorem q1009 : (Jvm.Cond.constant "NeverSaid" (450 : Nat) (-1000000014 : Int32)) ∈ lw_all := lw_g (lw_at lw_m4 207 rfl) rfl
theorem q1012 : (Jvm.Cond.instanceMethod ({ cls := "NeverSaid", name := "mark", desc := "(III)I" } : Jvm.MethodName)) ∈ lw_all := lw_g (lw_at lw_m4 210 rfl) rfl
theorem q1013 : (Jvm.Cond.selects "NeverSaid" ({ cls := "NeverSaid", name := "mark", desc := "(III)I" } : Jvm.MethodName) ({ cls := "NeverSaid", name := "mark", desc := "(III)I" } : Jvm.MethodName)) ∈ lw_all := lw_g (lw_at lw_m4 211 rfl) rfl
theorem q1014 : (Jvm.Cond.code ({ cls := "NeverSaid", name := "mark", desc := "(III)I" } : Jvm.MethodName) prog_1_method_83_code (5 : Nat) (Option.some Jvm.ClassFile.FieldType.int)) ∈ lw_all := lw_g (lw_at lw_m4 212 rfl) rfl
theorem q1015 : (Jvm.Cond.methodLink "NeverSaid" (463 : Nat) ({ cls := "NeverSaid$Sheet", name := "isThere", desc := "()Z" } : Jvm.MethodName)) ∈ lw_all := lw_g (lw_at lw_m4 213 rfl) rfl
theorem q1019 : (Jvm.Cond.constant "NeverSaid" (466 : Nat) (-1000000011 : Int32)) ∈ lw_all := lw_g (lw_at lw_m4 217 rfl) rfl
theorem q1020 : (Jvm.Cond.methodLink "NeverSaid" (467 : Nat) ({ cls := "NeverSaid$Sheet", name := "size", desc := "()I" } : Jvm.MethodName)) ∈ lw_all := lw_g (lw_at lw_m4 218 rfl) rfl
theorem q1030 : (Jvm.Cond.methodLink "NeverSaid" (470 : Nat) ({ cls := "NeverSaid", name := "markIn", desc := "(LNeverSaid$Sheet;II)I" } : Jvm.MethodName)) ∈ lw_all := lw_g (lw_at lw_m4 228 rfl) rfl
theorem q1031 : (Jvm.Cond.static ({ cls := "NeverSaid", name := "markIn", desc := "(LNeverSaid$Sheet;II)I" } : Jvm.MethodName)) ∈ lw_all := lw_g (lw_at lw_m4 229 rfl) rfl
theorem q1032 : (Jvm.Cond.code ({ cls := "NeverSaid", name := "markIn", desc := "(LNeverSaid$Sheet;II)I" } : Jvm.MethodName) prog_1_method_82_code (3 : Nat) (Option.some Jvm.ClassFile.FieldType.int)) ∈ lw_all := lw_g (lw_at lw_m4 230 rfl) rfl
theorem q1033 : (Jvm.Cond.methodLink "NeverSaid" (451 : Nat) ({ cls := "NeverSaid$Sheet", name := "isFloats", desc := "()Z" } : Jvm.MethodName)) ∈ lw_all := lw_g (lw_at lw_m4 231 rfl) rfl
theorem q1034 : (Jvm.Cond.classLink "NeverSaid" (455 : Nat) "[F") ∈ lw_all := lw_g (lw_at lw_m4 232 rfl) rfl
theorem q1035 : (Jvm.Cond.constantFloat "NeverSaid" (458 : Nat) (2143289344 : UInt32)) ∈ lw_all := lw_g (lw_at lw_m4 233 rfl) rfl
theorem q1036 : (Jvm.Cond.constant "NeverSaid" (459 : Nat) (-99999 : Int32)) ∈ lw_all := lw_g (lw_at lw_m4 234 rfl) rfl
theorem q1037 : (Jvm.Cond.methodLink "NeverSaid" (460 : Nat) ({ cls := "NeverSaid$Sheet", name := "put", desc := "(II)V" } : Jvm.MethodName)) ∈ lw_all := lw_g (lw_at lw_m4 235 rfl) rfl
theorem q1041 : (Jvm.Cond.constant "NeverSaid" (474 : Nat) (-1000000013 : Int32)) ∈ lw_all := lw_g (lw_at lw_m4 239 rfl) rfl
theorem q1043 : (Jvm.Cond.instanceMethod ({ cls := "NeverSaid", name := "pour", desc := "(I)I" } : Jvm.MethodName)) ∈ lw_all := lw_g (lw_at lw_m5 1 rfl) rfl
theorem q1044 : (Jvm.Cond.selects "NeverSaid" ({ cls := "NeverSaid", name := "pour", desc := "(I)I" } : Jvm.MethodName) ({ cls := "NeverSaid", name := "pour", desc := "(I)I" } : Jvm.MethodName)) ∈ lw_all := lw_g (lw_at lw_m5 2 rfl) rfl
theorem q1045 : (Jvm.Cond.code ({ cls := "NeverSaid", name := "pour", desc := "(I)I" } : Jvm.MethodName) prog_1_method_84_code (6 : Nat) (Option.some Jvm.ClassFile.FieldType.int)) ∈ lw_all := lw_g (lw_at lw_m5 3 rfl) rfl
theorem q1046 : (Jvm.Cond.methodLink "NeverSaid" (475 : Nat) ({ cls := "NeverSaid$Sheet", name := "isNumber", desc := "(I)Z" } : Jvm.MethodName)) ∈ lw_all := lw_g (lw_at lw_m5 4 rfl) rfl
theorem q1050 : (Jvm.Cond.methodLink "NeverSaid" (478 : Nat) ({ cls := "NeverSaid$Sheet", name := "at", desc := "(I)I" } : Jvm.MethodName)) ∈ lw_all := lw_g (lw_at lw_m5 8 rfl) rfl
theorem q1055 : (Jvm.Cond.instanceMethod ({ cls := "NeverSaid", name := "reads", desc := "(I)I" } : Jvm.MethodName)) ∈ lw_all := lw_g (lw_at lw_m5 13 rfl) rfl
theorem q1056 : (Jvm.Cond.selects "NeverSaid" ({ cls := "NeverSaid", name := "reads", desc := "(I)I" } : Jvm.MethodName) ({ cls := "NeverSaid", name := "reads", desc := "(I)I" } : Jvm.MethodName)) ∈ lw_all := lw_g (lw_at lw_m5 14 rfl) rfl
theorem q1057 : (Jvm.Cond.code ({ cls := "NeverSaid", name := "reads", desc := "(I)I" } : Jvm.MethodName) prog_1_method_85_code (4 : Nat) (Option.some Jvm.ClassFile.FieldType.int)) ∈ lw_all := lw_g (lw_at lw_m5 15 rfl) rfl
theorem q1059 : (Jvm.Cond.instanceMethod ({ cls := "NeverSaid", name := "copy", desc := "(IIIII)I" } : Jvm.MethodName)) ∈ lw_all := lw_g (lw_at lw_m5 17 rfl) rfl
theorem q1060 : (Jvm.Cond.selects "NeverSaid" ({ cls := "NeverSaid", name := "copy", desc := "(IIIII)I" } : Jvm.MethodName) ({ cls := "NeverSaid", name := "copy", desc := "(IIIII)I" } : Jvm.MethodName)) ∈ lw_all := lw_g (lw_at lw_m5 18 rfl) rfl
theorem q1061 : (Jvm.Cond.code ({ cls := "NeverSaid", name := "copy", desc := "(IIIII)I" } : Jvm.MethodName) prog_1_method_87_code (8 : Nat) (Option.some Jvm.ClassFile.FieldType.int)) ∈ lw_all := lw_g (lw_at lw_m5 19 rfl) rfl
theorem q1062 : (Jvm.Cond.methodLink "NeverSaid" (483 : Nat) ({ cls := "NeverSaid", name := "carries", desc := "(LNeverSaid$Sheet;ILNeverSaid$Sheet;II)V" } : Jvm.MethodName)) ∈ lw_all := lw_g (lw_at lw_m5 20 rfl) rfl
theorem q1063 : (Jvm.Cond.privateMethod ({ cls := "NeverSaid", name := "carries", desc := "(LNeverSaid$Sheet;ILNeverSaid$Sheet;II)V" } : Jvm.MethodName)) ∈ lw_tbl := lw_at lw_m5 21 rfl
theorem q1064 : (Jvm.Cond.instanceMethod ({ cls := "NeverSaid", name := "carries", desc := "(LNeverSaid$Sheet;ILNeverSaid$Sheet;II)V" } : Jvm.MethodName)) ∈ lw_all := lw_g (lw_at lw_m5 22 rfl) rfl
theorem q1065 : (Jvm.Cond.code ({ cls := "NeverSaid", name := "carries", desc := "(LNeverSaid$Sheet;ILNeverSaid$Sheet;II)V" } : Jvm.MethodName) prog_1_method_86_code (9 : Nat) (Option.none : Option Jvm.ClassFile.FieldType)) ∈ lw_all := lw_g (lw_at lw_m5 23 rfl) rfl
theorem q1066 : (Jvm.Cond.classLink "NeverSaid" (481 : Nat) "[S") ∈ lw_all := lw_g (lw_at lw_m5 24 rfl) rfl
theorem q1068 : (Jvm.Cond.instanceMethod ({ cls := "NeverSaid", name := "lay", desc := "(III)I" } : Jvm.MethodName)) ∈ lw_all := lw_g (lw_at lw_m5 26 rfl) rfl
theorem q1069 : (Jvm.Cond.selects "NeverSaid" ({ cls := "NeverSaid", name := "lay", desc := "(III)I" } : Jvm.MethodName) ({ cls := "NeverSaid", name := "lay", desc := "(III)I" } : Jvm.MethodName)) ∈ lw_all := lw_g (lw_at lw_m5 27 rfl) rfl
theorem q1070 : (Jvm.Cond.code ({ cls := "NeverSaid", name := "lay", desc := "(III)I" } : Jvm.MethodName) prog_1_method_89_code (5 : Nat) (Option.some Jvm.ClassFile.FieldType.int)) ∈ lw_all := lw_g (lw_at lw_m5 28 rfl) rfl
theorem q1071 : (Jvm.Cond.methodLink "NeverSaid" (487 : Nat) ({ cls := "NeverSaid", name := "isSlot", desc := "(I)Z" } : Jvm.MethodName)) ∈ lw_all := lw_g (lw_at lw_m5 29 rfl) rfl
theorem q1072 : (Jvm.Cond.static ({ cls := "NeverSaid", name := "isSlot", desc := "(I)Z" } : Jvm.MethodName)) ∈ lw_all := lw_g (lw_at lw_m5 30 rfl) rfl
theorem q1073 : (Jvm.Cond.code ({ cls := "NeverSaid", name := "isSlot", desc := "(I)Z" } : Jvm.MethodName) prog_1_method_79_code (1 : Nat) (Option.some Jvm.ClassFile.FieldType.boolean)) ∈ lw_all := lw_g (lw_at lw_m5 31 rfl) rfl
theorem q1074 : (Jvm.Cond.methodLink "NeverSaid" (490 : Nat) ({ cls := "NeverSaid$Slot", name := "thing", desc := "()I" } : Jvm.MethodName)) ∈ lw_all := lw_g (lw_at lw_m5 32 rfl) rfl
theorem q1080 : (Jvm.Cond.methodLink "NeverSaid" (493 : Nat) ({ cls := "NeverSaid$Speaker", name := "copy", desc := "()LNeverSaid$Speaker;" } : Jvm.MethodName)) ∈ lw_all := lw_g (lw_at lw_m5 38 rfl) rfl
theorem q1122 : (Jvm.Cond.methodLink "NeverSaid" (497 : Nat) ({ cls := "NeverSaid", name := "own", desc := "(LNeverSaid$Sheet;)LNeverSaid$Sheet;" } : Jvm.MethodName)) ∈ lw_all := lw_g (lw_at lw_m5 80 rfl) rfl
theorem q1123 : (Jvm.Cond.privateMethod ({ cls := "NeverSaid", name := "own", desc := "(LNeverSaid$Sheet;)LNeverSaid$Sheet;" } : Jvm.MethodName)) ∈ lw_tbl := lw_at lw_m5 81 rfl
theorem q1124 : (Jvm.Cond.instanceMethod ({ cls := "NeverSaid", name := "own", desc := "(LNeverSaid$Sheet;)LNeverSaid$Sheet;" } : Jvm.MethodName)) ∈ lw_all := lw_g (lw_at lw_m5 82 rfl) rfl
theorem q1125 : (Jvm.Cond.code ({ cls := "NeverSaid", name := "own", desc := "(LNeverSaid$Sheet;)LNeverSaid$Sheet;" } : Jvm.MethodName) prog_1_method_88_code (3 : Nat) (Option.some (Jvm.ClassFile.FieldType.object "NeverSaid$Sheet"))) ∈ lw_all := lw_g (lw_at lw_m5 83 rfl) rfl
theorem q1126 : (Jvm.Cond.classLink "NeverSaid" (501 : Nat) "NeverSaid$Figure") ∈ lw_all := lw_g (lw_at lw_m5 84 rfl) rfl
theorem q1128 : (Jvm.Cond.methodLink "NeverSaid" (503 : Nat) ({ cls := "NeverSaid$Figure", name := "<init>", desc := "(I)V" } : Jvm.MethodName)) ∈ lw_all := lw_g (lw_at lw_m5 86 rfl) rfl
theorem q1133 : (Jvm.Cond.fieldLinkNest "NeverSaid" (509 : Nat) "NeverSaid$Figure" "v" "I" "NeverSaid") ∈ lw_tbl := lw_at lw_m5 91 rfl
theorem q1138 : (Jvm.Cond.instanceMethod ({ cls := "NeverSaid", name := "ask", desc := "(II)I" } : Jvm.MethodName)) ∈ lw_all := lw_g (lw_at lw_m5 96 rfl) rfl
theorem q1139 : (Jvm.Cond.selects "NeverSaid" ({ cls := "NeverSaid", name := "ask", desc := "(II)I" } : Jvm.MethodName) ({ cls := "NeverSaid", name := "ask", desc := "(II)I" } : Jvm.MethodName)) ∈ lw_all := lw_g (lw_at lw_m5 97 rfl) rfl
theorem q1140 : (Jvm.Cond.codeWith ({ cls := "NeverSaid", name := "ask", desc := "(II)I" } : Jvm.MethodName) prog_1_method_90_code (5 : Nat) (Option.some Jvm.ClassFile.FieldType.int) [((37 : Nat), (51 : Nat), (52 : Nat), (316 : Nat))]) ∈ lw_all := lw_g (lw_at lw_m5 98 rfl) rfl
theorem q1141 : (Jvm.Cond.interfaceEntry "NeverSaid" (508 : Nat)) ∈ lw_tbl := lw_at lw_m5 99 rfl
theorem q1142 : (Jvm.Cond.methodLink "NeverSaid" (508 : Nat) ({ cls := "NeverSaid$Chooses", name := "worth", desc := "()I" } : Jvm.MethodName)) ∈ lw_all := lw_g (lw_at lw_m5 100 rfl) rfl
theorem q1164 : (Jvm.Cond.instanceMethod ({ cls := "NeverSaid", name := "item", desc := "(II)I" } : Jvm.MethodName)) ∈ lw_all := lw_g (lw_at lw_m5 122 rfl) rfl
theorem q1165 : (Jvm.Cond.selects "NeverSaid" ({ cls := "NeverSaid", name := "item", desc := "(II)I" } : Jvm.MethodName) ({ cls := "NeverSaid", name := "item", desc := "(II)I" } : Jvm.MethodName)) ∈ lw_all := lw_g (lw_at lw_m5 123 rfl) rfl
theorem q1166 : (Jvm.Cond.codeWith ({ cls := "NeverSaid", name := "item", desc := "(II)I" } : Jvm.MethodName) prog_1_method_91_code (5 : Nat) (Option.some Jvm.ClassFile.FieldType.int) [((28 : Nat), (52 : Nat), (75 : Nat), (316 : Nat)), ((53 : Nat), (74 : Nat), (75 : Nat), (316 : Nat))]) ∈ lw_all := lw_g (lw_at lw_m5 124 rfl) rfl
theorem q1168 : (Jvm.Cond.instanceMethod ({ cls := "NeverSaid", name := "rest", desc := "(II)I" } : Jvm.MethodName)) ∈ lw_all := lw_g (lw_at lw_m5 126 rfl) rfl
theorem q1169 : (Jvm.Cond.selects "NeverSaid" ({ cls := "NeverSaid", name := "rest", desc := "(II)I" } : Jvm.MethodName) ({ cls := "NeverSaid", name := "rest", desc := "(II)I" } : Jvm.MethodName)) ∈ lw_all := lw_g (lw_at lw_m5 127 rfl) rfl
theorem q1170 : (Jvm.Cond.code ({ cls := "NeverSaid", name := "rest", desc := "(II)I" } : Jvm.MethodName) prog_1_method_92_code (5 : Nat) (Option.some Jvm.ClassFile.FieldType.int)) ∈ lw_all := lw_g (lw_at lw_m5 128 rfl) rfl
theorem q1172 : (Jvm.Cond.instanceMethod ({ cls := "NeverSaid", name := "tell", desc := "(I)I" } : Jvm.MethodName)) ∈ lw_all := lw_g (lw_at lw_m5 130 rfl) rfl
theorem q1173 : (Jvm.Cond.selects "NeverSaid" ({ cls := "NeverSaid", name := "tell", desc := "(I)I" } : Jvm.MethodName) ({ cls := "NeverSaid", name := "tell", desc := "(I)I" } : Jvm.MethodName)) ∈ lw_all := lw_g (lw_at lw_m5 131 rfl) rfl
theorem q1174 : (Jvm.Cond.code ({ cls := "NeverSaid", name := "tell", desc := "(I)I" } : Jvm.MethodName) prog_1_method_93_code (2 : Nat) (Option.some Jvm.ClassFile.FieldType.int)) ∈ lw_all := lw_g (lw_at lw_m5 132 rfl) rfl
theorem q1176 : (Jvm.Cond.instanceMethod ({ cls := "NeverSaid", name := "check", desc := "(II)I" } : Jvm.MethodName)) ∈ lw_all := lw_g (lw_at lw_m5 134 rfl) rfl
theorem q1177 : (Jvm.Cond.selects "NeverSaid" ({ cls := "NeverSaid", name := "check", desc := "(II)I" } : Jvm.MethodName) ({ cls := "NeverSaid", name := "check", desc := "(II)I" } : Jvm.MethodName)) ∈ lw_all := lw_g (lw_at lw_m5 135 rfl) rfl
theorem q1178 : (Jvm.Cond.code ({ cls := "NeverSaid", name := "check", desc := "(II)I" } : Jvm.MethodName) prog_1_method_95_code (6 : Nat) (Option.some Jvm.ClassFile.FieldType.int)) ∈ lw_all := lw_g (lw_at lw_m5 136 rfl) rfl
theorem q1179 : (Jvm.Cond.methodLink "NeverSaid" (523 : Nat) ({ cls := "NeverSaid", name := "rowsOfRounds", desc := "(II)I" } : Jvm.MethodName)) ∈ lw_all := lw_g (lw_at lw_m5 137 rfl) rfl
theorem q1180 : (Jvm.Cond.privateMethod ({ cls := "NeverSaid", name := "rowsOfRounds", desc := "(II)I" } : Jvm.MethodName)) ∈ lw_tbl := lw_at lw_m5 138 rfl
theorem q1181 : (Jvm.Cond.instanceMethod ({ cls := "NeverSaid", name := "rowsOfRounds", desc := "(II)I" } : Jvm.MethodName)) ∈ lw_all := lw_g (lw_at lw_m5 139 rfl) rfl
theorem q1182 : (Jvm.Cond.code ({ cls := "NeverSaid", name := "rowsOfRounds", desc := "(II)I" } : Jvm.MethodName) prog_1_method_94_code (6 : Nat) (Option.some Jvm.ClassFile.FieldType.int)) ∈ lw_all := lw_g (lw_at lw_m5 140 rfl) rfl
theorem q1183 : (Jvm.Cond.methodLink "NeverSaid" (515 : Nat) ({ cls := "NeverSaid$State", name := "copyOf", desc := "(LNeverSaid$State;)V" } : Jvm.MethodName)) ∈ lw_all := lw_g (lw_at lw_m5 141 rfl) rfl
theorem q1194 : (Jvm.Cond.static ({ cls := "NeverSaid", name := "copyRow", desc := "([I[I)V" } : Jvm.MethodName)) ∈ lw_all := lw_g (lw_at lw_m5 152 rfl) rfl
theorem q1195 : (Jvm.Cond.code ({ cls := "NeverSaid", name := "copyRow", desc := "([I[I)V" } : Jvm.MethodName) prog_1_method_6_code (2 : Nat) (Option.none : Option Jvm.ClassFile.FieldType)) ∈ lw_all := lw_g (lw_at lw_m5 153 rfl) rfl
theorem q1202 : (Jvm.Cond.instanceMethod ({ cls := "NeverSaid", name := "keep", desc := "()I" } : Jvm.MethodName)) ∈ lw_all := lw_g (lw_at lw_m5 160 rfl) rfl
theorem q1203 : (Jvm.Cond.selects "NeverSaid" ({ cls := "NeverSaid", name := "keep", desc := "()I" } : Jvm.MethodName) ({ cls := "NeverSaid", name := "keep", desc := "()I" } : Jvm.MethodName)) ∈ lw_all := lw_g (lw_at lw_m5 161 rfl) rfl
theorem q1204 : (Jvm.Cond.code ({ cls := "NeverSaid", name := "keep", desc := "()I" } : Jvm.MethodName) prog_1_method_96_code (1 : Nat) (Option.some Jvm.ClassFile.FieldType.int)) ∈ lw_all := lw_g (lw_at lw_m5 162 rfl) rfl
theorem q1206 : (Jvm.Cond.instanceMethod ({ cls := "NeverSaid", name := "back", desc := "()I" } : Jvm.MethodName)) ∈ lw_all := lw_g (lw_at lw_m5 164 rfl) rfl
theorem q1207 : (Jvm.Cond.selects "NeverSaid" ({ cls := "NeverSaid", name := "back", desc := "()I" } : Jvm.MethodName) ({ cls := "NeverSaid", name := "back", desc := "()I" } : Jvm.MethodName)) ∈ lw_all := lw_g (lw_at lw_m5 165 rfl) rfl
theorem q1208 : (Jvm.Cond.code ({ cls := "NeverSaid", name := "back", desc := "()I" } : Jvm.MethodName) prog_1_method_97_code (1 : Nat) (Option.some Jvm.ClassFile.FieldType.int)) ∈ lw_all := lw_g (lw_at lw_m5 166 rfl) rfl
theorem q1210 : (Jvm.Cond.instanceMethod ({ cls := "NeverSaid", name := "count", desc := "(I)I" } : Jvm.MethodName)) ∈ lw_all := lw_g (lw_at lw_m5 168 rfl) rfl
theorem q1211 : (Jvm.Cond.selects "NeverSaid" ({ cls := "NeverSaid", name := "count", desc := "(I)I" } : Jvm.MethodName) ({ cls := "NeverSaid", name := "count", desc := "(I)I" } : Jvm.MethodName)) ∈ lw_all := lw_g (lw_at lw_m5 169 rfl) rfl
theorem q1212 : (Jvm.Cond.code ({ cls := "NeverSaid", name := "count", desc := "(I)I" } : Jvm.MethodName) prog_1_method_99_code (2 : Nat) (Option.some Jvm.ClassFile.FieldType.int)) ∈ lw_all := lw_g (lw_at lw_m5 170 rfl) rfl
theorem q1213 : (Jvm.Cond.methodLink "NeverSaid" (526 : Nat) ({ cls := "NeverSaid", name := "sumOf", desc := "(Z)I" } : Jvm.MethodName)) ∈ lw_all := lw_g (lw_at lw_m5 171 rfl) rfl
theorem q1214 : (Jvm.Cond.privateMethod ({ cls := "NeverSaid", name := "sumOf", desc := "(Z)I" } : Jvm.MethodName)) ∈ lw_tbl := lw_at lw_m5 172 rfl
theorem q1215 : (Jvm.Cond.instanceMethod ({ cls := "NeverSaid", name := "sumOf", desc := "(Z)I" } : Jvm.MethodName)) ∈ lw_all := lw_g (lw_at lw_m5 173 rfl) rfl
theorem q1216 : (Jvm.Cond.code ({ cls := "NeverSaid", name := "sumOf", desc := "(Z)I" } : Jvm.MethodName) prog_1_method_98_code (4 : Nat) (Option.some Jvm.ClassFile.FieldType.int)) ∈ lw_all := lw_g (lw_at lw_m5 174 rfl) rfl
theorem in_X0 : ∀ w ∈ wsX00, w ∈ lw_all := lw_in wsX00 [324, 326, 328, 330, 332, 334, 336, 338, 340, 342, 344, 346, 348, 350, 352, 354, 356, 358, 360, 362, 364, 366, 368, 370, 372] (by decide +kernel) (by decide +kernel)
