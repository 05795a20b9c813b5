/-! VowelChoir -/
set_option maxRecDepth 100000
def RX1 : String := "VowelChoir"
def TX1 : u_T := fun k => match k with
  | 0 => ("VowelChoir", "told", "LVowelChoir$Told;", false)
  | 1 => ("VowelChoir", "law", "LVowelChoir$Term;", false)
  | 2 => ("VowelChoir", "facts", "[I", true)
  | 3 => ("VowelChoir", "bookOf", "[I", true)
  | 4 => ("VowelChoir", "refused", "[I", true)
  | 5 => ("VowelChoir", "now", "LVowelChoir$Choir;", true)
  | 6 => ("VowelChoir", "probe", "LVowelChoir$Choir;", true)
  | 7 => ("VowelChoir", "past", "[LVowelChoir$Choir;", true)
  | 8 => ("VowelChoir", "images", "[LVowelChoir$Choir;", true)
  | 9 => ("VowelChoir", "imagePast", "[LVowelChoir$Choir;", true)
  | 10 => ("VowelChoir", "imageWorks", "[I", true)
  | 11 => ("VowelChoir", "works", "I", false)
  | 12 => ("VowelChoir", "refusedSteps", "I", false)
  | 13 => ("VowelChoir", "lineMany", "I", false)
  | 14 => ("VowelChoir", "seedNow", "I", false)
  | 15 => ("VowelChoir", "taped", "I", false)
  | 16 => ("VowelChoir", "faultAt", "I", false)
  | 17 => ("VowelChoir", "imageMany", "I", false)
  | 18 => ("VowelChoir", "tape", "[B", true)
  | 19 => ("VowelChoir", "handedBy", "[I", true)
  | 20 => ("VowelChoir", "mostOn", "[I", true)
  | _ => ("VowelChoir", "heardBy", "[I", true)
def tyX1 : Nat → FieldType := fun k => match k with
  | 0 => .object "VowelChoir$Told"
  | 1 => .object "VowelChoir$Term"
  | 2 => .array .int
  | 3 => .array .int
  | 4 => .array .int
  | 5 => .object "VowelChoir$Choir"
  | 6 => .object "VowelChoir$Choir"
  | 7 => .array (.object "VowelChoir$Choir")
  | 8 => .array (.object "VowelChoir$Choir")
  | 9 => .array (.object "VowelChoir$Choir")
  | 10 => .array .int
  | 11 => .int
  | 12 => .int
  | 13 => .int
  | 14 => .int
  | 15 => .int
  | 16 => .int
  | 17 => .int
  | 18 => .array .byte
  | 19 => .array .int
  | 20 => .array .int
  | _ => .array .int
abbrev wsX10 : List Cond := u_ws RX1 TX1 22
set_option maxRecDepth 100000 in
theorem nmX1 : ∀ a, a < 22 → ∀ b, b < 22 → a ≠ b → (TX1 a).2.1 ≠ (TX1 b).2.1 := by decide +kernel
set_option maxRecDepth 100000 in
theorem tyX1_ok : ∀ k, k < 22 → parseFieldDescriptor (TX1 k).2.2.1 = some (tyX1 k) := by decide +kernel
abbrev cX1_init : ByteArray := prog_1_method_2_code
def yX1_init : MethodName := ⟨RX1, "<init>", "()V"⟩
def dkwX1_init_6 : List UInt8 := [181, 0, 78, 42, 182, 0, 81, 177]
abbrev dktX1_init_6 : List UInt8 := dkwX1_init_6 ++ []
def dkwX1_init_5 : List UInt8 := [42, 16, 36, 188, 10, 181, 0, 72, 42, 17, 3, 128, 188, 10, 181, 0, 75, 42, 17, 0, 128, 188, 10]
abbrev dktX1_init_5 : List UInt8 := dkwX1_init_5 ++ dktX1_init_6
def dkwX1_init_4 : List UInt8 := [181, 0, 58, 42, 6, 188, 10, 181, 0, 61, 42, 2, 181, 0, 64, 42, 17, 2, 88, 188, 8, 181, 0, 68]
abbrev dktX1_init_4 : List UInt8 := dkwX1_init_4 ++ dktX1_init_5
def dkwX1_init_3 : List UInt8 := [16, 16, 189, 0, 39, 181, 0, 51, 42, 6, 189, 0, 39, 181, 0, 55, 42, 16, 48, 189, 0, 39]
abbrev dktX1_init_3 : List UInt8 := dkwX1_init_3 ++ dktX1_init_4
def dkwX1_init_2 : List UInt8 := [187, 0, 39, 89, 42, 183, 0, 41, 181, 0, 44, 42, 187, 0, 39, 89, 42, 183, 0, 41, 181, 0, 48, 42]
abbrev dktX1_init_2 : List UInt8 := dkwX1_init_2 ++ dktX1_init_3
def dkwX1_init_1 : List UInt8 := [16, 8, 188, 10, 181, 0, 29, 42, 16, 20, 188, 10, 181, 0, 33, 42, 5, 188, 10, 181, 0, 36, 42]
abbrev dktX1_init_1 : List UInt8 := dkwX1_init_1 ++ dktX1_init_2
def dkwX1_init_0 : List UInt8 := [42, 183, 0, 9, 42, 187, 0, 14, 89, 183, 0, 16, 181, 0, 17, 42, 184, 0, 21, 181, 0, 25, 42]
abbrev dktX1_init_0 : List UInt8 := dkwX1_init_0 ++ dktX1_init_1
theorem dksX1_init_0 : cX1_init.data.toList.drop 0 = dktX1_init_0 := by decide +kernel
theorem dksX1_init_1 : cX1_init.data.toList.drop 23 = dktX1_init_1 := dk_seg dksX1_init_0 23 rfl rfl
theorem dksX1_init_2 : cX1_init.data.toList.drop 46 = dktX1_init_2 := dk_seg dksX1_init_1 23 rfl rfl
theorem dksX1_init_3 : cX1_init.data.toList.drop 70 = dktX1_init_3 := dk_seg dksX1_init_2 24 rfl rfl
theorem dksX1_init_4 : cX1_init.data.toList.drop 92 = dktX1_init_4 := dk_seg dksX1_init_3 22 rfl rfl
theorem dksX1_init_5 : cX1_init.data.toList.drop 116 = dktX1_init_5 := dk_seg dksX1_init_4 24 rfl rfl
theorem dksX1_init_6 : cX1_init.data.toList.drop 139 = dktX1_init_6 := dk_seg dksX1_init_5 23 rfl rfl
theorem dX1_init_0 : decode cX1_init 0 = .ok (.aload_n 0, 1) := dk_42 (dk_at dksX1_init_0 0 rfl rfl)
theorem dX1_init_1 : decode cX1_init 1 = .ok (.invokespecial 9, 3) := dk_183 0 9 (dk_at dksX1_init_0 1 rfl rfl)
theorem dX1_init_4 : decode cX1_init 4 = .ok (.aload_n 0, 1) := dk_42 (dk_at dksX1_init_0 4 rfl rfl)
theorem dX1_init_5 : decode cX1_init 5 = .ok (.new 14, 3) := dk_187 0 14 (dk_at dksX1_init_0 5 rfl rfl)
theorem dX1_init_8 : decode cX1_init 8 = .ok (.dup, 1) := dk_89 (dk_at dksX1_init_0 8 rfl rfl)
theorem dX1_init_9 : decode cX1_init 9 = .ok (.invokespecial 16, 3) := dk_183 0 16 (dk_at dksX1_init_0 9 rfl rfl)
theorem dX1_init_12 : decode cX1_init 12 = .ok (.putfield 17, 3) := dk_181 0 17 (dk_at dksX1_init_0 12 rfl rfl)
theorem dX1_init_15 : decode cX1_init 15 = .ok (.aload_n 0, 1) := dk_42 (dk_at dksX1_init_0 15 rfl rfl)
theorem dX1_init_16 : decode cX1_init 16 = .ok (.invokestatic 21, 3) := dk_184 0 21 (dk_at dksX1_init_0 16 rfl rfl)
theorem dX1_init_19 : decode cX1_init 19 = .ok (.putfield 25, 3) := dk_181 0 25 (dk_at dksX1_init_0 19 rfl rfl)
theorem dX1_init_22 : decode cX1_init 22 = .ok (.aload_n 0, 1) := dk_42 (dk_at dksX1_init_0 22 rfl rfl)
theorem dX1_init_23 : decode cX1_init 23 = .ok (.bipush 8, 2) := dk_16 8 (dk_at dksX1_init_1 0 rfl rfl)
theorem dX1_init_25 : decode cX1_init 25 = .ok (.newarray .int, 2) := dk_188_10 (dk_at dksX1_init_1 2 rfl rfl)
theorem dX1_init_27 : decode cX1_init 27 = .ok (.putfield 29, 3) := dk_181 0 29 (dk_at dksX1_init_1 4 rfl rfl)
theorem dX1_init_30 : decode cX1_init 30 = .ok (.aload_n 0, 1) := dk_42 (dk_at dksX1_init_1 7 rfl rfl)
theorem dX1_init_31 : decode cX1_init 31 = .ok (.bipush 20, 2) := dk_16 20 (dk_at dksX1_init_1 8 rfl rfl)
theorem dX1_init_33 : decode cX1_init 33 = .ok (.newarray .int, 2) := dk_188_10 (dk_at dksX1_init_1 10 rfl rfl)
theorem dX1_init_35 : decode cX1_init 35 = .ok (.putfield 33, 3) := dk_181 0 33 (dk_at dksX1_init_1 12 rfl rfl)
theorem dX1_init_38 : decode cX1_init 38 = .ok (.aload_n 0, 1) := dk_42 (dk_at dksX1_init_1 15 rfl rfl)
theorem dX1_init_39 : decode cX1_init 39 = .ok (.iconst 2, 1) := dk_5 (dk_at dksX1_init_1 16 rfl rfl)
theorem dX1_init_40 : decode cX1_init 40 = .ok (.newarray .int, 2) := dk_188_10 (dk_at dksX1_init_1 17 rfl rfl)
theorem dX1_init_42 : decode cX1_init 42 = .ok (.putfield 36, 3) := dk_181 0 36 (dk_at dksX1_init_1 19 rfl rfl)
theorem dX1_init_45 : decode cX1_init 45 = .ok (.aload_n 0, 1) := dk_42 (dk_at dksX1_init_1 22 rfl rfl)
theorem dX1_init_46 : decode cX1_init 46 = .ok (.new 39, 3) := dk_187 0 39 (dk_at dksX1_init_2 0 rfl rfl)
theorem dX1_init_49 : decode cX1_init 49 = .ok (.dup, 1) := dk_89 (dk_at dksX1_init_2 3 rfl rfl)
theorem dX1_init_50 : decode cX1_init 50 = .ok (.aload_n 0, 1) := dk_42 (dk_at dksX1_init_2 4 rfl rfl)
theorem dX1_init_51 : decode cX1_init 51 = .ok (.invokespecial 41, 3) := dk_183 0 41 (dk_at dksX1_init_2 5 rfl rfl)
theorem dX1_init_54 : decode cX1_init 54 = .ok (.putfield 44, 3) := dk_181 0 44 (dk_at dksX1_init_2 8 rfl rfl)
theorem dX1_init_57 : decode cX1_init 57 = .ok (.aload_n 0, 1) := dk_42 (dk_at dksX1_init_2 11 rfl rfl)
theorem dX1_init_58 : decode cX1_init 58 = .ok (.new 39, 3) := dk_187 0 39 (dk_at dksX1_init_2 12 rfl rfl)
theorem dX1_init_61 : decode cX1_init 61 = .ok (.dup, 1) := dk_89 (dk_at dksX1_init_2 15 rfl rfl)
theorem dX1_init_62 : decode cX1_init 62 = .ok (.aload_n 0, 1) := dk_42 (dk_at dksX1_init_2 16 rfl rfl)
theorem dX1_init_63 : decode cX1_init 63 = .ok (.invokespecial 41, 3) := dk_183 0 41 (dk_at dksX1_init_2 17 rfl rfl)
theorem dX1_init_66 : decode cX1_init 66 = .ok (.putfield 48, 3) := dk_181 0 48 (dk_at dksX1_init_2 20 rfl rfl)
theorem dX1_init_69 : decode cX1_init 69 = .ok (.aload_n 0, 1) := dk_42 (dk_at dksX1_init_2 23 rfl rfl)
theorem dX1_init_70 : decode cX1_init 70 = .ok (.bipush 16, 2) := dk_16 16 (dk_at dksX1_init_3 0 rfl rfl)
theorem dX1_init_72 : decode cX1_init 72 = .ok (.anewarray 39, 3) := dk_189 0 39 (dk_at dksX1_init_3 2 rfl rfl)
theorem dX1_init_75 : decode cX1_init 75 = .ok (.putfield 51, 3) := dk_181 0 51 (dk_at dksX1_init_3 5 rfl rfl)
theorem dX1_init_78 : decode cX1_init 78 = .ok (.aload_n 0, 1) := dk_42 (dk_at dksX1_init_3 8 rfl rfl)
theorem dX1_init_79 : decode cX1_init 79 = .ok (.iconst 3, 1) := dk_6 (dk_at dksX1_init_3 9 rfl rfl)
theorem dX1_init_80 : decode cX1_init 80 = .ok (.anewarray 39, 3) := dk_189 0 39 (dk_at dksX1_init_3 10 rfl rfl)
theorem dX1_init_83 : decode cX1_init 83 = .ok (.putfield 55, 3) := dk_181 0 55 (dk_at dksX1_init_3 13 rfl rfl)
theorem dX1_init_86 : decode cX1_init 86 = .ok (.aload_n 0, 1) := dk_42 (dk_at dksX1_init_3 16 rfl rfl)
theorem dX1_init_87 : decode cX1_init 87 = .ok (.bipush 48, 2) := dk_16 48 (dk_at dksX1_init_3 17 rfl rfl)
theorem dX1_init_89 : decode cX1_init 89 = .ok (.anewarray 39, 3) := dk_189 0 39 (dk_at dksX1_init_3 19 rfl rfl)
theorem dX1_init_92 : decode cX1_init 92 = .ok (.putfield 58, 3) := dk_181 0 58 (dk_at dksX1_init_4 0 rfl rfl)
theorem dX1_init_95 : decode cX1_init 95 = .ok (.aload_n 0, 1) := dk_42 (dk_at dksX1_init_4 3 rfl rfl)
theorem dX1_init_96 : decode cX1_init 96 = .ok (.iconst 3, 1) := dk_6 (dk_at dksX1_init_4 4 rfl rfl)
theorem dX1_init_97 : decode cX1_init 97 = .ok (.newarray .int, 2) := dk_188_10 (dk_at dksX1_init_4 5 rfl rfl)
theorem dX1_init_99 : decode cX1_init 99 = .ok (.putfield 61, 3) := dk_181 0 61 (dk_at dksX1_init_4 7 rfl rfl)
theorem dX1_init_102 : decode cX1_init 102 = .ok (.aload_n 0, 1) := dk_42 (dk_at dksX1_init_4 10 rfl rfl)
theorem dX1_init_103 : decode cX1_init 103 = .ok (.iconst (-1), 1) := dk_2 (dk_at dksX1_init_4 11 rfl rfl)
theorem dX1_init_104 : decode cX1_init 104 = .ok (.putfield 64, 3) := dk_181 0 64 (dk_at dksX1_init_4 12 rfl rfl)
theorem dX1_init_107 : decode cX1_init 107 = .ok (.aload_n 0, 1) := dk_42 (dk_at dksX1_init_4 15 rfl rfl)
theorem dX1_init_108 : decode cX1_init 108 = .ok (.sipush 600, 3) := dk_17 2 88 (dk_at dksX1_init_4 16 rfl rfl)
theorem dX1_init_111 : decode cX1_init 111 = .ok (.newarray .byte, 2) := dk_188_8 (dk_at dksX1_init_4 19 rfl rfl)
theorem dX1_init_113 : decode cX1_init 113 = .ok (.putfield 68, 3) := dk_181 0 68 (dk_at dksX1_init_4 21 rfl rfl)
theorem dX1_init_116 : decode cX1_init 116 = .ok (.aload_n 0, 1) := dk_42 (dk_at dksX1_init_5 0 rfl rfl)
theorem dX1_init_117 : decode cX1_init 117 = .ok (.bipush 36, 2) := dk_16 36 (dk_at dksX1_init_5 1 rfl rfl)
theorem dX1_init_119 : decode cX1_init 119 = .ok (.newarray .int, 2) := dk_188_10 (dk_at dksX1_init_5 3 rfl rfl)
theorem dX1_init_121 : decode cX1_init 121 = .ok (.putfield 72, 3) := dk_181 0 72 (dk_at dksX1_init_5 5 rfl rfl)
theorem dX1_init_124 : decode cX1_init 124 = .ok (.aload_n 0, 1) := dk_42 (dk_at dksX1_init_5 8 rfl rfl)
theorem dX1_init_125 : decode cX1_init 125 = .ok (.sipush 896, 3) := dk_17 3 128 (dk_at dksX1_init_5 9 rfl rfl)
theorem dX1_init_128 : decode cX1_init 128 = .ok (.newarray .int, 2) := dk_188_10 (dk_at dksX1_init_5 12 rfl rfl)
theorem dX1_init_130 : decode cX1_init 130 = .ok (.putfield 75, 3) := dk_181 0 75 (dk_at dksX1_init_5 14 rfl rfl)
theorem dX1_init_133 : decode cX1_init 133 = .ok (.aload_n 0, 1) := dk_42 (dk_at dksX1_init_5 17 rfl rfl)
theorem dX1_init_134 : decode cX1_init 134 = .ok (.sipush 128, 3) := dk_17 0 128 (dk_at dksX1_init_5 18 rfl rfl)
theorem dX1_init_137 : decode cX1_init 137 = .ok (.newarray .int, 2) := dk_188_10 (dk_at dksX1_init_5 21 rfl rfl)
theorem dX1_init_139 : decode cX1_init 139 = .ok (.putfield 78, 3) := dk_181 0 78 (dk_at dksX1_init_6 0 rfl rfl)
theorem dX1_init_142 : decode cX1_init 142 = .ok (.aload_n 0, 1) := dk_42 (dk_at dksX1_init_6 3 rfl rfl)
theorem dX1_init_143 : decode cX1_init 143 = .ok (.invokevirtual 81, 3) := dk_182 0 81 (dk_at dksX1_init_6 4 rfl rfl)
theorem dX1_init_146 : decode cX1_init 146 = .ok (.return_, 1) := dk_177 (dk_at dksX1_init_6 7 rfl rfl)
abbrev cX1_custom : ByteArray := prog_1_method_1_code
def yX1_custom : MethodName := ⟨RX1, "custom", "()LVowelChoir$Term;"⟩
def dkwX1_custom_0 : List UInt8 := [187, 0, 1, 89, 3, 183, 0, 5, 176]
abbrev dktX1_custom_0 : List UInt8 := dkwX1_custom_0 ++ []
theorem dksX1_custom_0 : cX1_custom.data.toList.drop 0 = dktX1_custom_0 := by decide +kernel
theorem dX1_custom_0 : decode cX1_custom 0 = .ok (.new 1, 3) := dk_187 0 1 (dk_at dksX1_custom_0 0 rfl rfl)
theorem dX1_custom_3 : decode cX1_custom 3 = .ok (.dup, 1) := dk_89 (dk_at dksX1_custom_0 3 rfl rfl)
theorem dX1_custom_4 : decode cX1_custom 4 = .ok (.iconst 0, 1) := dk_3 (dk_at dksX1_custom_0 4 rfl rfl)
theorem dX1_custom_5 : decode cX1_custom 5 = .ok (.invokespecial 5, 3) := dk_183 0 5 (dk_at dksX1_custom_0 5 rfl rfl)
theorem dX1_custom_8 : decode cX1_custom 8 = .ok (.areturn, 1) := dk_176 (dk_at dksX1_custom_0 8 rfl rfl)
abbrev cX1_begins : ByteArray := prog_1_method_3_code
def yX1_begins : MethodName := ⟨RX1, "begins", "()V"⟩
def dkwX1_begins_2 : List UInt8 := [42, 3, 181, 0, 93, 42, 3, 181, 0, 96, 177]
abbrev dktX1_begins_2 : List UInt8 := dkwX1_begins_2 ++ []
def dkwX1_begins_1 : List UInt8 := [132, 1, 1, 167, 255, 240, 42, 180, 0, 44, 182, 0, 84, 87, 42, 3, 181, 0, 87, 42, 3, 181, 0, 90]
abbrev dktX1_begins_1 : List UInt8 := dkwX1_begins_1 ++ dktX1_begins_2
def dkwX1_begins_0 : List UInt8 := [42, 184, 0, 21, 181, 0, 25, 3, 60, 27, 16, 20, 162, 0, 16, 42, 180, 0, 33, 27, 2, 79]
abbrev dktX1_begins_0 : List UInt8 := dkwX1_begins_0 ++ dktX1_begins_1
theorem dksX1_begins_0 : cX1_begins.data.toList.drop 0 = dktX1_begins_0 := by decide +kernel
theorem dksX1_begins_1 : cX1_begins.data.toList.drop 22 = dktX1_begins_1 := dk_seg dksX1_begins_0 22 rfl rfl
theorem dksX1_begins_2 : cX1_begins.data.toList.drop 46 = dktX1_begins_2 := dk_seg dksX1_begins_1 24 rfl rfl
theorem dX1_begins_0 : decode cX1_begins 0 = .ok (.aload_n 0, 1) := dk_42 (dk_at dksX1_begins_0 0 rfl rfl)
theorem dX1_begins_1 : decode cX1_begins 1 = .ok (.invokestatic 21, 3) := dk_184 0 21 (dk_at dksX1_begins_0 1 rfl rfl)
theorem dX1_begins_4 : decode cX1_begins 4 = .ok (.putfield 25, 3) := dk_181 0 25 (dk_at dksX1_begins_0 4 rfl rfl)
theorem dX1_begins_7 : decode cX1_begins 7 = .ok (.iconst 0, 1) := dk_3 (dk_at dksX1_begins_0 7 rfl rfl)
theorem dX1_begins_8 : decode cX1_begins 8 = .ok (.istore_n 1, 1) := dk_60 (dk_at dksX1_begins_0 8 rfl rfl)
theorem dX1_begins_9 : decode cX1_begins 9 = .ok (.iload_n 1, 1) := dk_27 (dk_at dksX1_begins_0 9 rfl rfl)
theorem dX1_begins_10 : decode cX1_begins 10 = .ok (.bipush 20, 2) := dk_16 20 (dk_at dksX1_begins_0 10 rfl rfl)
theorem dX1_begins_12 : decode cX1_begins 12 = .ok (.if_icmp .ge 16, 3) := dk_162 0 16 (dk_at dksX1_begins_0 12 rfl rfl)
theorem dX1_begins_15 : decode cX1_begins 15 = .ok (.aload_n 0, 1) := dk_42 (dk_at dksX1_begins_0 15 rfl rfl)
theorem dX1_begins_16 : decode cX1_begins 16 = .ok (.getfield 33, 3) := dk_180 0 33 (dk_at dksX1_begins_0 16 rfl rfl)
theorem dX1_begins_19 : decode cX1_begins 19 = .ok (.iload_n 1, 1) := dk_27 (dk_at dksX1_begins_0 19 rfl rfl)
theorem dX1_begins_20 : decode cX1_begins 20 = .ok (.iconst (-1), 1) := dk_2 (dk_at dksX1_begins_0 20 rfl rfl)
theorem dX1_begins_21 : decode cX1_begins 21 = .ok (.iastore, 1) := dk_79 (dk_at dksX1_begins_0 21 rfl rfl)
theorem dX1_begins_22 : decode cX1_begins 22 = .ok (.iinc 1 1, 3) := dk_132 1 1 (dk_at dksX1_begins_1 0 rfl rfl)
theorem dX1_begins_25 : decode cX1_begins 25 = .ok (.goto (-16), 3) := dk_167 255 240 (dk_at dksX1_begins_1 3 rfl rfl)
theorem dX1_begins_28 : decode cX1_begins 28 = .ok (.aload_n 0, 1) := dk_42 (dk_at dksX1_begins_1 6 rfl rfl)
theorem dX1_begins_29 : decode cX1_begins 29 = .ok (.getfield 44, 3) := dk_180 0 44 (dk_at dksX1_begins_1 7 rfl rfl)
theorem dX1_begins_32 : decode cX1_begins 32 = .ok (.invokevirtual 84, 3) := dk_182 0 84 (dk_at dksX1_begins_1 10 rfl rfl)
theorem dX1_begins_35 : decode cX1_begins 35 = .ok (.pop, 1) := dk_87 (dk_at dksX1_begins_1 13 rfl rfl)
theorem dX1_begins_36 : decode cX1_begins 36 = .ok (.aload_n 0, 1) := dk_42 (dk_at dksX1_begins_1 14 rfl rfl)
theorem dX1_begins_37 : decode cX1_begins 37 = .ok (.iconst 0, 1) := dk_3 (dk_at dksX1_begins_1 15 rfl rfl)
theorem dX1_begins_38 : decode cX1_begins 38 = .ok (.putfield 87, 3) := dk_181 0 87 (dk_at dksX1_begins_1 16 rfl rfl)
theorem dX1_begins_41 : decode cX1_begins 41 = .ok (.aload_n 0, 1) := dk_42 (dk_at dksX1_begins_1 19 rfl rfl)
theorem dX1_begins_42 : decode cX1_begins 42 = .ok (.iconst 0, 1) := dk_3 (dk_at dksX1_begins_1 20 rfl rfl)
theorem dX1_begins_43 : decode cX1_begins 43 = .ok (.putfield 90, 3) := dk_181 0 90 (dk_at dksX1_begins_1 21 rfl rfl)
theorem dX1_begins_46 : decode cX1_begins 46 = .ok (.aload_n 0, 1) := dk_42 (dk_at dksX1_begins_2 0 rfl rfl)
theorem dX1_begins_47 : decode cX1_begins 47 = .ok (.iconst 0, 1) := dk_3 (dk_at dksX1_begins_2 1 rfl rfl)
theorem dX1_begins_48 : decode cX1_begins 48 = .ok (.putfield 93, 3) := dk_181 0 93 (dk_at dksX1_begins_2 2 rfl rfl)
theorem dX1_begins_51 : decode cX1_begins 51 = .ok (.aload_n 0, 1) := dk_42 (dk_at dksX1_begins_2 5 rfl rfl)
theorem dX1_begins_52 : decode cX1_begins 52 = .ok (.iconst 0, 1) := dk_3 (dk_at dksX1_begins_2 6 rfl rfl)
theorem dX1_begins_53 : decode cX1_begins 53 = .ok (.putfield 96, 3) := dk_181 0 96 (dk_at dksX1_begins_2 7 rfl rfl)
theorem dX1_begins_56 : decode cX1_begins 56 = .ok (.return_, 1) := dk_177 (dk_at dksX1_begins_2 10 rfl rfl)
abbrev cX1_notes : ByteArray := prog_1_method_5_code
def yX1_notes : MethodName := ⟨RX1, "notes", "()I"⟩
def dkwX1_notes_0 : List UInt8 := [42, 180, 0, 17, 180, 0, 109, 182, 0, 103, 172]
abbrev dktX1_notes_0 : List UInt8 := dkwX1_notes_0 ++ []
theorem dksX1_notes_0 : cX1_notes.data.toList.drop 0 = dktX1_notes_0 := by decide +kernel
theorem dX1_notes_0 : decode cX1_notes 0 = .ok (.aload_n 0, 1) := dk_42 (dk_at dksX1_notes_0 0 rfl rfl)
theorem dX1_notes_1 : decode cX1_notes 1 = .ok (.getfield 17, 3) := dk_180 0 17 (dk_at dksX1_notes_0 1 rfl rfl)
theorem dX1_notes_4 : decode cX1_notes 4 = .ok (.getfield 109, 3) := dk_180 0 109 (dk_at dksX1_notes_0 4 rfl rfl)
theorem dX1_notes_7 : decode cX1_notes 7 = .ok (.invokevirtual 103, 3) := dk_182 0 103 (dk_at dksX1_notes_0 7 rfl rfl)
theorem dX1_notes_10 : decode cX1_notes 10 = .ok (.ireturn, 1) := dk_172 (dk_at dksX1_notes_0 10 rfl rfl)
abbrev cX1_noteOf : ByteArray := prog_1_method_7_code
def yX1_noteOf : MethodName := ⟨RX1, "noteOf", "(I)LVowelChoir$Note;"⟩
def dkwX1_noteOf_0 : List UInt8 := [42, 180, 0, 17, 180, 0, 109, 27, 182, 0, 112, 192, 0, 118, 176]
abbrev dktX1_noteOf_0 : List UInt8 := dkwX1_noteOf_0 ++ []
theorem dksX1_noteOf_0 : cX1_noteOf.data.toList.drop 0 = dktX1_noteOf_0 := by decide +kernel
theorem dX1_noteOf_0 : decode cX1_noteOf 0 = .ok (.aload_n 0, 1) := dk_42 (dk_at dksX1_noteOf_0 0 rfl rfl)
theorem dX1_noteOf_1 : decode cX1_noteOf 1 = .ok (.getfield 17, 3) := dk_180 0 17 (dk_at dksX1_noteOf_0 1 rfl rfl)
theorem dX1_noteOf_4 : decode cX1_noteOf 4 = .ok (.getfield 109, 3) := dk_180 0 109 (dk_at dksX1_noteOf_0 4 rfl rfl)
theorem dX1_noteOf_7 : decode cX1_noteOf 7 = .ok (.iload_n 1, 1) := dk_27 (dk_at dksX1_noteOf_0 7 rfl rfl)
theorem dX1_noteOf_8 : decode cX1_noteOf 8 = .ok (.invokevirtual 112, 3) := dk_182 0 112 (dk_at dksX1_noteOf_0 8 rfl rfl)
theorem dX1_noteOf_11 : decode cX1_noteOf 11 = .ok (.checkcast 118, 3) := dk_192 0 118 (dk_at dksX1_noteOf_0 11 rfl rfl)
theorem dX1_noteOf_14 : decode cX1_noteOf 14 = .ok (.areturn, 1) := dk_176 (dk_at dksX1_noteOf_0 14 rfl rfl)
abbrev cX1_singers : ByteArray := prog_1_method_4_code
def yX1_singers : MethodName := ⟨RX1, "singers", "()I"⟩
def dkwX1_singers_0 : List UInt8 := [42, 180, 0, 17, 180, 0, 99, 182, 0, 103, 172]
abbrev dktX1_singers_0 : List UInt8 := dkwX1_singers_0 ++ []
theorem dksX1_singers_0 : cX1_singers.data.toList.drop 0 = dktX1_singers_0 := by decide +kernel
theorem dX1_singers_0 : decode cX1_singers 0 = .ok (.aload_n 0, 1) := dk_42 (dk_at dksX1_singers_0 0 rfl rfl)
theorem dX1_singers_1 : decode cX1_singers 1 = .ok (.getfield 17, 3) := dk_180 0 17 (dk_at dksX1_singers_0 1 rfl rfl)
theorem dX1_singers_4 : decode cX1_singers 4 = .ok (.getfield 99, 3) := dk_180 0 99 (dk_at dksX1_singers_0 4 rfl rfl)
theorem dX1_singers_7 : decode cX1_singers 7 = .ok (.invokevirtual 103, 3) := dk_182 0 103 (dk_at dksX1_singers_0 7 rfl rfl)
theorem dX1_singers_10 : decode cX1_singers 10 = .ok (.ireturn, 1) := dk_172 (dk_at dksX1_singers_0 10 rfl rfl)
abbrev cX1_singerOf : ByteArray := prog_1_method_6_code
def yX1_singerOf : MethodName := ⟨RX1, "singerOf", "(I)LVowelChoir$Singer;"⟩
def dkwX1_singerOf_0 : List UInt8 := [42, 180, 0, 17, 180, 0, 99, 27, 182, 0, 112, 192, 0, 116, 176]
abbrev dktX1_singerOf_0 : List UInt8 := dkwX1_singerOf_0 ++ []
theorem dksX1_singerOf_0 : cX1_singerOf.data.toList.drop 0 = dktX1_singerOf_0 := by decide +kernel
theorem dX1_singerOf_0 : decode cX1_singerOf 0 = .ok (.aload_n 0, 1) := dk_42 (dk_at dksX1_singerOf_0 0 rfl rfl)
theorem dX1_singerOf_1 : decode cX1_singerOf 1 = .ok (.getfield 17, 3) := dk_180 0 17 (dk_at dksX1_singerOf_0 1 rfl rfl)
theorem dX1_singerOf_4 : decode cX1_singerOf 4 = .ok (.getfield 99, 3) := dk_180 0 99 (dk_at dksX1_singerOf_0 4 rfl rfl)
theorem dX1_singerOf_7 : decode cX1_singerOf 7 = .ok (.iload_n 1, 1) := dk_27 (dk_at dksX1_singerOf_0 7 rfl rfl)
theorem dX1_singerOf_8 : decode cX1_singerOf 8 = .ok (.invokevirtual 112, 3) := dk_182 0 112 (dk_at dksX1_singerOf_0 8 rfl rfl)
theorem dX1_singerOf_11 : decode cX1_singerOf 11 = .ok (.checkcast 116, 3) := dk_192 0 116 (dk_at dksX1_singerOf_0 11 rfl rfl)
theorem dX1_singerOf_14 : decode cX1_singerOf 14 = .ok (.areturn, 1) := dk_176 (dk_at dksX1_singerOf_0 14 rfl rfl)
abbrev cX1_feed : ByteArray := prog_1_method_18_code
def yX1_feed : MethodName := ⟨RX1, "feed", "(IIIII)I"⟩
def dkwX1_feed_2 : List UInt8 := [172]
abbrev dktX1_feed_2 : List UInt8 := dkwX1_feed_2 ++ []
def dkwX1_feed_1 : List UInt8 := [182, 0, 172, 42, 29, 182, 0, 172, 42, 21, 4, 182, 0, 172, 42, 21, 5, 182, 0, 172, 42, 180, 0, 169]
abbrev dktX1_feed_1 : List UInt8 := dkwX1_feed_1 ++ dktX1_feed_2
def dkwX1_feed_0 : List UInt8 := [42, 180, 0, 169, 16, 20, 96, 17, 2, 88, 164, 0, 5, 2, 172, 42, 27, 182, 0, 172, 42, 28]
abbrev dktX1_feed_0 : List UInt8 := dkwX1_feed_0 ++ dktX1_feed_1
theorem dksX1_feed_0 : cX1_feed.data.toList.drop 0 = dktX1_feed_0 := by decide +kernel
theorem dksX1_feed_1 : cX1_feed.data.toList.drop 22 = dktX1_feed_1 := dk_seg dksX1_feed_0 22 rfl rfl
theorem dksX1_feed_2 : cX1_feed.data.toList.drop 46 = dktX1_feed_2 := dk_seg dksX1_feed_1 24 rfl rfl
theorem dX1_feed_0 : decode cX1_feed 0 = .ok (.aload_n 0, 1) := dk_42 (dk_at dksX1_feed_0 0 rfl rfl)
theorem dX1_feed_1 : decode cX1_feed 1 = .ok (.getfield 169, 3) := dk_180 0 169 (dk_at dksX1_feed_0 1 rfl rfl)
theorem dX1_feed_4 : decode cX1_feed 4 = .ok (.bipush 20, 2) := dk_16 20 (dk_at dksX1_feed_0 4 rfl rfl)
theorem dX1_feed_6 : decode cX1_feed 6 = .ok (.iadd, 1) := dk_96 (dk_at dksX1_feed_0 6 rfl rfl)
theorem dX1_feed_7 : decode cX1_feed 7 = .ok (.sipush 600, 3) := dk_17 2 88 (dk_at dksX1_feed_0 7 rfl rfl)
theorem dX1_feed_10 : decode cX1_feed 10 = .ok (.if_icmp .le 5, 3) := dk_164 0 5 (dk_at dksX1_feed_0 10 rfl rfl)
theorem dX1_feed_13 : decode cX1_feed 13 = .ok (.iconst (-1), 1) := dk_2 (dk_at dksX1_feed_0 13 rfl rfl)
theorem dX1_feed_14 : decode cX1_feed 14 = .ok (.ireturn, 1) := dk_172 (dk_at dksX1_feed_0 14 rfl rfl)
theorem dX1_feed_15 : decode cX1_feed 15 = .ok (.aload_n 0, 1) := dk_42 (dk_at dksX1_feed_0 15 rfl rfl)
theorem dX1_feed_16 : decode cX1_feed 16 = .ok (.iload_n 1, 1) := dk_27 (dk_at dksX1_feed_0 16 rfl rfl)
theorem dX1_feed_17 : decode cX1_feed 17 = .ok (.invokevirtual 172, 3) := dk_182 0 172 (dk_at dksX1_feed_0 17 rfl rfl)
theorem dX1_feed_20 : decode cX1_feed 20 = .ok (.aload_n 0, 1) := dk_42 (dk_at dksX1_feed_0 20 rfl rfl)
theorem dX1_feed_21 : decode cX1_feed 21 = .ok (.iload_n 2, 1) := dk_28 (dk_at dksX1_feed_0 21 rfl rfl)
theorem dX1_feed_22 : decode cX1_feed 22 = .ok (.invokevirtual 172, 3) := dk_182 0 172 (dk_at dksX1_feed_1 0 rfl rfl)
theorem dX1_feed_25 : decode cX1_feed 25 = .ok (.aload_n 0, 1) := dk_42 (dk_at dksX1_feed_1 3 rfl rfl)
theorem dX1_feed_26 : decode cX1_feed 26 = .ok (.iload_n 3, 1) := dk_29 (dk_at dksX1_feed_1 4 rfl rfl)
theorem dX1_feed_27 : decode cX1_feed 27 = .ok (.invokevirtual 172, 3) := dk_182 0 172 (dk_at dksX1_feed_1 5 rfl rfl)
theorem dX1_feed_30 : decode cX1_feed 30 = .ok (.aload_n 0, 1) := dk_42 (dk_at dksX1_feed_1 8 rfl rfl)
theorem dX1_feed_31 : decode cX1_feed 31 = .ok (.iload 4, 2) := dk_21 4 (dk_at dksX1_feed_1 9 rfl rfl)
theorem dX1_feed_33 : decode cX1_feed 33 = .ok (.invokevirtual 172, 3) := dk_182 0 172 (dk_at dksX1_feed_1 11 rfl rfl)
theorem dX1_feed_36 : decode cX1_feed 36 = .ok (.aload_n 0, 1) := dk_42 (dk_at dksX1_feed_1 14 rfl rfl)
theorem dX1_feed_37 : decode cX1_feed 37 = .ok (.iload 5, 2) := dk_21 5 (dk_at dksX1_feed_1 15 rfl rfl)
theorem dX1_feed_39 : decode cX1_feed 39 = .ok (.invokevirtual 172, 3) := dk_182 0 172 (dk_at dksX1_feed_1 17 rfl rfl)
theorem dX1_feed_42 : decode cX1_feed 42 = .ok (.aload_n 0, 1) := dk_42 (dk_at dksX1_feed_1 20 rfl rfl)
theorem dX1_feed_43 : decode cX1_feed 43 = .ok (.getfield 169, 3) := dk_180 0 169 (dk_at dksX1_feed_1 21 rfl rfl)
theorem dX1_feed_46 : decode cX1_feed 46 = .ok (.ireturn, 1) := dk_172 (dk_at dksX1_feed_2 0 rfl rfl)
abbrev cX1_put : ByteArray := prog_1_method_19_code
def yX1_put : MethodName := ⟨RX1, "put", "(I)V"⟩
def dkwX1_put_1 : List UInt8 := [180, 0, 169, 4, 96, 181, 0, 169, 132, 2, 248, 167, 255, 226, 177]
abbrev dktX1_put_1 : List UInt8 := dkwX1_put_1 ++ []
def dkwX1_put_0 : List UInt8 := [16, 24, 61, 28, 155, 0, 32, 42, 180, 0, 68, 42, 180, 0, 169, 27, 28, 122, 145, 84, 42, 89]
abbrev dktX1_put_0 : List UInt8 := dkwX1_put_0 ++ dktX1_put_1
theorem dksX1_put_0 : cX1_put.data.toList.drop 0 = dktX1_put_0 := by decide +kernel
theorem dksX1_put_1 : cX1_put.data.toList.drop 22 = dktX1_put_1 := dk_seg dksX1_put_0 22 rfl rfl
theorem dX1_put_0 : decode cX1_put 0 = .ok (.bipush 24, 2) := dk_16 24 (dk_at dksX1_put_0 0 rfl rfl)
theorem dX1_put_2 : decode cX1_put 2 = .ok (.istore_n 2, 1) := dk_61 (dk_at dksX1_put_0 2 rfl rfl)
theorem dX1_put_3 : decode cX1_put 3 = .ok (.iload_n 2, 1) := dk_28 (dk_at dksX1_put_0 3 rfl rfl)
theorem dX1_put_4 : decode cX1_put 4 = .ok (.ifCond .lt 32, 3) := dk_155 0 32 (dk_at dksX1_put_0 4 rfl rfl)
theorem dX1_put_7 : decode cX1_put 7 = .ok (.aload_n 0, 1) := dk_42 (dk_at dksX1_put_0 7 rfl rfl)
theorem dX1_put_8 : decode cX1_put 8 = .ok (.getfield 68, 3) := dk_180 0 68 (dk_at dksX1_put_0 8 rfl rfl)
theorem dX1_put_11 : decode cX1_put 11 = .ok (.aload_n 0, 1) := dk_42 (dk_at dksX1_put_0 11 rfl rfl)
theorem dX1_put_12 : decode cX1_put 12 = .ok (.getfield 169, 3) := dk_180 0 169 (dk_at dksX1_put_0 12 rfl rfl)
theorem dX1_put_15 : decode cX1_put 15 = .ok (.iload_n 1, 1) := dk_27 (dk_at dksX1_put_0 15 rfl rfl)
theorem dX1_put_16 : decode cX1_put 16 = .ok (.iload_n 2, 1) := dk_28 (dk_at dksX1_put_0 16 rfl rfl)
theorem dX1_put_17 : decode cX1_put 17 = .ok (.ishr, 1) := dk_122 (dk_at dksX1_put_0 17 rfl rfl)
theorem dX1_put_18 : decode cX1_put 18 = .ok (.i2b, 1) := dk_145 (dk_at dksX1_put_0 18 rfl rfl)
theorem dX1_put_19 : decode cX1_put 19 = .ok (.bastore, 1) := dk_84 (dk_at dksX1_put_0 19 rfl rfl)
theorem dX1_put_20 : decode cX1_put 20 = .ok (.aload_n 0, 1) := dk_42 (dk_at dksX1_put_0 20 rfl rfl)
theorem dX1_put_21 : decode cX1_put 21 = .ok (.dup, 1) := dk_89 (dk_at dksX1_put_0 21 rfl rfl)
theorem dX1_put_22 : decode cX1_put 22 = .ok (.getfield 169, 3) := dk_180 0 169 (dk_at dksX1_put_1 0 rfl rfl)
theorem dX1_put_25 : decode cX1_put 25 = .ok (.iconst 1, 1) := dk_4 (dk_at dksX1_put_1 3 rfl rfl)
theorem dX1_put_26 : decode cX1_put 26 = .ok (.iadd, 1) := dk_96 (dk_at dksX1_put_1 4 rfl rfl)
theorem dX1_put_27 : decode cX1_put 27 = .ok (.putfield 169, 3) := dk_181 0 169 (dk_at dksX1_put_1 5 rfl rfl)
theorem dX1_put_30 : decode cX1_put 30 = .ok (.iinc 2 (-8), 3) := dk_132 2 248 (dk_at dksX1_put_1 8 rfl rfl)
theorem dX1_put_33 : decode cX1_put 33 = .ok (.goto (-30), 3) := dk_167 255 226 (dk_at dksX1_put_1 11 rfl rfl)
theorem dX1_put_36 : decode cX1_put 36 = .ok (.return_, 1) := dk_177 (dk_at dksX1_put_1 14 rfl rfl)
abbrev cX1_fault : ByteArray := prog_1_method_25_code
def yX1_fault : MethodName := ⟨RX1, "fault", "()I"⟩
theorem dX1_fault_0 : decode cX1_fault 0 = .ok (.aload_n 0, 1) := by decide +kernel
theorem dX1_fault_1 : decode cX1_fault 1 = .ok (.getfield 64, 3) := by decide +kernel
theorem dX1_fault_4 : decode cX1_fault 4 = .ok (.ireturn, 1) := by decide +kernel
abbrev cX1_undo : ByteArray := prog_1_method_26_code
def yX1_undo : MethodName := ⟨RX1, "undo", "()I"⟩
def dkwX1_undo_1 : List UInt8 := [180, 0, 51, 42, 180, 0, 87, 50, 182, 0, 248, 87, 42, 3, 181, 0, 90, 42, 180, 0, 87, 172]
abbrev dktX1_undo_1 : List UInt8 := dkwX1_undo_1 ++ []
def dkwX1_undo_0 : List UInt8 := [42, 180, 0, 87, 154, 0, 5, 2, 172, 42, 89, 180, 0, 87, 4, 100, 181, 0, 87, 42, 180, 0, 44, 42]
abbrev dktX1_undo_0 : List UInt8 := dkwX1_undo_0 ++ dktX1_undo_1
theorem dksX1_undo_0 : cX1_undo.data.toList.drop 0 = dktX1_undo_0 := by decide +kernel
theorem dksX1_undo_1 : cX1_undo.data.toList.drop 24 = dktX1_undo_1 := dk_seg dksX1_undo_0 24 rfl rfl
theorem dX1_undo_0 : decode cX1_undo 0 = .ok (.aload_n 0, 1) := dk_42 (dk_at dksX1_undo_0 0 rfl rfl)
theorem dX1_undo_1 : decode cX1_undo 1 = .ok (.getfield 87, 3) := dk_180 0 87 (dk_at dksX1_undo_0 1 rfl rfl)
theorem dX1_undo_4 : decode cX1_undo 4 = .ok (.ifCond .ne 5, 3) := dk_154 0 5 (dk_at dksX1_undo_0 4 rfl rfl)
theorem dX1_undo_7 : decode cX1_undo 7 = .ok (.iconst (-1), 1) := dk_2 (dk_at dksX1_undo_0 7 rfl rfl)
theorem dX1_undo_8 : decode cX1_undo 8 = .ok (.ireturn, 1) := dk_172 (dk_at dksX1_undo_0 8 rfl rfl)
theorem dX1_undo_9 : decode cX1_undo 9 = .ok (.aload_n 0, 1) := dk_42 (dk_at dksX1_undo_0 9 rfl rfl)
theorem dX1_undo_10 : decode cX1_undo 10 = .ok (.dup, 1) := dk_89 (dk_at dksX1_undo_0 10 rfl rfl)
theorem dX1_undo_11 : decode cX1_undo 11 = .ok (.getfield 87, 3) := dk_180 0 87 (dk_at dksX1_undo_0 11 rfl rfl)
theorem dX1_undo_14 : decode cX1_undo 14 = .ok (.iconst 1, 1) := dk_4 (dk_at dksX1_undo_0 14 rfl rfl)
theorem dX1_undo_15 : decode cX1_undo 15 = .ok (.isub, 1) := dk_100 (dk_at dksX1_undo_0 15 rfl rfl)
theorem dX1_undo_16 : decode cX1_undo 16 = .ok (.putfield 87, 3) := dk_181 0 87 (dk_at dksX1_undo_0 16 rfl rfl)
theorem dX1_undo_19 : decode cX1_undo 19 = .ok (.aload_n 0, 1) := dk_42 (dk_at dksX1_undo_0 19 rfl rfl)
theorem dX1_undo_20 : decode cX1_undo 20 = .ok (.getfield 44, 3) := dk_180 0 44 (dk_at dksX1_undo_0 20 rfl rfl)
theorem dX1_undo_23 : decode cX1_undo 23 = .ok (.aload_n 0, 1) := dk_42 (dk_at dksX1_undo_0 23 rfl rfl)
theorem dX1_undo_24 : decode cX1_undo 24 = .ok (.getfield 51, 3) := dk_180 0 51 (dk_at dksX1_undo_1 0 rfl rfl)
theorem dX1_undo_27 : decode cX1_undo 27 = .ok (.aload_n 0, 1) := dk_42 (dk_at dksX1_undo_1 3 rfl rfl)
theorem dX1_undo_28 : decode cX1_undo 28 = .ok (.getfield 87, 3) := dk_180 0 87 (dk_at dksX1_undo_1 4 rfl rfl)
theorem dX1_undo_31 : decode cX1_undo 31 = .ok (.aaload, 1) := dk_50 (dk_at dksX1_undo_1 7 rfl rfl)
theorem dX1_undo_32 : decode cX1_undo 32 = .ok (.invokevirtual 248, 3) := dk_182 0 248 (dk_at dksX1_undo_1 8 rfl rfl)
theorem dX1_undo_35 : decode cX1_undo 35 = .ok (.pop, 1) := dk_87 (dk_at dksX1_undo_1 11 rfl rfl)
theorem dX1_undo_36 : decode cX1_undo 36 = .ok (.aload_n 0, 1) := dk_42 (dk_at dksX1_undo_1 12 rfl rfl)
theorem dX1_undo_37 : decode cX1_undo 37 = .ok (.iconst 0, 1) := dk_3 (dk_at dksX1_undo_1 13 rfl rfl)
theorem dX1_undo_38 : decode cX1_undo 38 = .ok (.putfield 90, 3) := dk_181 0 90 (dk_at dksX1_undo_1 14 rfl rfl)
theorem dX1_undo_41 : decode cX1_undo 41 = .ok (.aload_n 0, 1) := dk_42 (dk_at dksX1_undo_1 17 rfl rfl)
theorem dX1_undo_42 : decode cX1_undo 42 = .ok (.getfield 87, 3) := dk_180 0 87 (dk_at dksX1_undo_1 18 rfl rfl)
theorem dX1_undo_45 : decode cX1_undo 45 = .ok (.ireturn, 1) := dk_172 (dk_at dksX1_undo_1 21 rfl rfl)
abbrev cX1_mute : ByteArray := prog_1_method_41_code
def yX1_mute : MethodName := ⟨RX1, "mute", "()I"⟩
def dkwX1_mute_1 : List UInt8 := [160, 0, 9, 4, 28, 120, 167, 0, 4, 3, 128, 60, 132, 2, 1, 167, 255, 223, 27, 172]
abbrev dktX1_mute_1 : List UInt8 := dkwX1_mute_1 ++ []
def dkwX1_mute_0 : List UInt8 := [3, 60, 3, 61, 28, 42, 182, 0, 163, 162, 0, 31, 27, 42, 180, 0, 44, 28, 182, 1, 45, 2]
abbrev dktX1_mute_0 : List UInt8 := dkwX1_mute_0 ++ dktX1_mute_1
theorem dksX1_mute_0 : cX1_mute.data.toList.drop 0 = dktX1_mute_0 := by decide +kernel
theorem dksX1_mute_1 : cX1_mute.data.toList.drop 22 = dktX1_mute_1 := dk_seg dksX1_mute_0 22 rfl rfl
theorem dX1_mute_0 : decode cX1_mute 0 = .ok (.iconst 0, 1) := dk_3 (dk_at dksX1_mute_0 0 rfl rfl)
theorem dX1_mute_1 : decode cX1_mute 1 = .ok (.istore_n 1, 1) := dk_60 (dk_at dksX1_mute_0 1 rfl rfl)
theorem dX1_mute_2 : decode cX1_mute 2 = .ok (.iconst 0, 1) := dk_3 (dk_at dksX1_mute_0 2 rfl rfl)
theorem dX1_mute_3 : decode cX1_mute 3 = .ok (.istore_n 2, 1) := dk_61 (dk_at dksX1_mute_0 3 rfl rfl)
theorem dX1_mute_4 : decode cX1_mute 4 = .ok (.iload_n 2, 1) := dk_28 (dk_at dksX1_mute_0 4 rfl rfl)
theorem dX1_mute_5 : decode cX1_mute 5 = .ok (.aload_n 0, 1) := dk_42 (dk_at dksX1_mute_0 5 rfl rfl)
theorem dX1_mute_6 : decode cX1_mute 6 = .ok (.invokevirtual 163, 3) := dk_182 0 163 (dk_at dksX1_mute_0 6 rfl rfl)
theorem dX1_mute_9 : decode cX1_mute 9 = .ok (.if_icmp .ge 31, 3) := dk_162 0 31 (dk_at dksX1_mute_0 9 rfl rfl)
theorem dX1_mute_12 : decode cX1_mute 12 = .ok (.iload_n 1, 1) := dk_27 (dk_at dksX1_mute_0 12 rfl rfl)
theorem dX1_mute_13 : decode cX1_mute 13 = .ok (.aload_n 0, 1) := dk_42 (dk_at dksX1_mute_0 13 rfl rfl)
theorem dX1_mute_14 : decode cX1_mute 14 = .ok (.getfield 44, 3) := dk_180 0 44 (dk_at dksX1_mute_0 14 rfl rfl)
theorem dX1_mute_17 : decode cX1_mute 17 = .ok (.iload_n 2, 1) := dk_28 (dk_at dksX1_mute_0 17 rfl rfl)
theorem dX1_mute_18 : decode cX1_mute 18 = .ok (.invokevirtual 301, 3) := dk_182 1 45 (dk_at dksX1_mute_0 18 rfl rfl)
theorem dX1_mute_21 : decode cX1_mute 21 = .ok (.iconst (-1), 1) := dk_2 (dk_at dksX1_mute_0 21 rfl rfl)
theorem dX1_mute_22 : decode cX1_mute 22 = .ok (.if_icmp .ne 9, 3) := dk_160 0 9 (dk_at dksX1_mute_1 0 rfl rfl)
theorem dX1_mute_25 : decode cX1_mute 25 = .ok (.iconst 1, 1) := dk_4 (dk_at dksX1_mute_1 3 rfl rfl)
theorem dX1_mute_26 : decode cX1_mute 26 = .ok (.iload_n 2, 1) := dk_28 (dk_at dksX1_mute_1 4 rfl rfl)
theorem dX1_mute_27 : decode cX1_mute 27 = .ok (.ishl, 1) := dk_120 (dk_at dksX1_mute_1 5 rfl rfl)
theorem dX1_mute_28 : decode cX1_mute 28 = .ok (.goto 4, 3) := dk_167 0 4 (dk_at dksX1_mute_1 6 rfl rfl)
theorem dX1_mute_31 : decode cX1_mute 31 = .ok (.iconst 0, 1) := dk_3 (dk_at dksX1_mute_1 9 rfl rfl)
theorem dX1_mute_32 : decode cX1_mute 32 = .ok (.ior, 1) := dk_128 (dk_at dksX1_mute_1 10 rfl rfl)
theorem dX1_mute_33 : decode cX1_mute 33 = .ok (.istore_n 1, 1) := dk_60 (dk_at dksX1_mute_1 11 rfl rfl)
theorem dX1_mute_34 : decode cX1_mute 34 = .ok (.iinc 2 1, 3) := dk_132 2 1 (dk_at dksX1_mute_1 12 rfl rfl)
theorem dX1_mute_37 : decode cX1_mute 37 = .ok (.goto (-33), 3) := dk_167 255 223 (dk_at dksX1_mute_1 15 rfl rfl)
theorem dX1_mute_40 : decode cX1_mute 40 = .ok (.iload_n 1, 1) := dk_27 (dk_at dksX1_mute_1 18 rfl rfl)
theorem dX1_mute_41 : decode cX1_mute 41 = .ok (.ireturn, 1) := dk_172 (dk_at dksX1_mute_1 19 rfl rfl)
abbrev cX1_has : ByteArray := prog_1_method_17_code
def yX1_has : MethodName := ⟨RX1, "has", "(II)Z"⟩
def dkwX1_has_0 : List UInt8 := [26, 27, 122, 4, 126, 4, 160, 0, 7, 4, 167, 0, 4, 3, 172]
abbrev dktX1_has_0 : List UInt8 := dkwX1_has_0 ++ []
theorem dksX1_has_0 : cX1_has.data.toList.drop 0 = dktX1_has_0 := by decide +kernel
theorem dX1_has_0 : decode cX1_has 0 = .ok (.iload_n 0, 1) := dk_26 (dk_at dksX1_has_0 0 rfl rfl)
theorem dX1_has_1 : decode cX1_has 1 = .ok (.iload_n 1, 1) := dk_27 (dk_at dksX1_has_0 1 rfl rfl)
theorem dX1_has_2 : decode cX1_has 2 = .ok (.ishr, 1) := dk_122 (dk_at dksX1_has_0 2 rfl rfl)
theorem dX1_has_3 : decode cX1_has 3 = .ok (.iconst 1, 1) := dk_4 (dk_at dksX1_has_0 3 rfl rfl)
theorem dX1_has_4 : decode cX1_has 4 = .ok (.iand, 1) := dk_126 (dk_at dksX1_has_0 4 rfl rfl)
theorem dX1_has_5 : decode cX1_has 5 = .ok (.iconst 1, 1) := dk_4 (dk_at dksX1_has_0 5 rfl rfl)
theorem dX1_has_6 : decode cX1_has 6 = .ok (.if_icmp .ne 7, 3) := dk_160 0 7 (dk_at dksX1_has_0 6 rfl rfl)
theorem dX1_has_9 : decode cX1_has 9 = .ok (.iconst 1, 1) := dk_4 (dk_at dksX1_has_0 9 rfl rfl)
theorem dX1_has_10 : decode cX1_has 10 = .ok (.goto 4, 3) := dk_167 0 4 (dk_at dksX1_has_0 10 rfl rfl)
theorem dX1_has_13 : decode cX1_has 13 = .ok (.iconst 0, 1) := dk_3 (dk_at dksX1_has_0 13 rfl rfl)
theorem dX1_has_14 : decode cX1_has 14 = .ok (.ireturn, 1) := dk_172 (dk_at dksX1_has_0 14 rfl rfl)
abbrev cX1_takesBy : ByteArray := prog_1_method_9_code
def yX1_takesBy : MethodName := ⟨RX1, "takesBy", "(IIIIIIII)I"⟩
def dkwX1_takesBy_3 : List UInt8 := [42, 180, 0, 29, 182, 0, 136, 184, 0, 142, 184, 0, 148, 172]
abbrev dktX1_takesBy_3 : List UInt8 := dkwX1_takesBy_3 ++ []
def dkwX1_takesBy_2 : List UInt8 := [180, 0, 29, 16, 6, 21, 7, 79, 42, 180, 0, 29, 16, 7, 21, 8, 79, 3, 16, 30, 42, 180, 0, 25]
abbrev dktX1_takesBy_2 : List UInt8 := dkwX1_takesBy_2 ++ dktX1_takesBy_3
def dkwX1_takesBy_1 : List UInt8 := [180, 0, 29, 6, 21, 4, 79, 42, 180, 0, 29, 7, 21, 5, 79, 42, 180, 0, 29, 8, 21, 6, 79, 42]
abbrev dktX1_takesBy_1 : List UInt8 := dkwX1_takesBy_1 ++ dktX1_takesBy_2
def dkwX1_takesBy_0 : List UInt8 := [42, 180, 0, 29, 3, 27, 79, 42, 180, 0, 29, 4, 28, 79, 42, 180, 0, 29, 5, 29, 79, 42]
abbrev dktX1_takesBy_0 : List UInt8 := dkwX1_takesBy_0 ++ dktX1_takesBy_1
theorem dksX1_takesBy_0 : cX1_takesBy.data.toList.drop 0 = dktX1_takesBy_0 := by decide +kernel
theorem dksX1_takesBy_1 : cX1_takesBy.data.toList.drop 22 = dktX1_takesBy_1 := dk_seg dksX1_takesBy_0 22 rfl rfl
theorem dksX1_takesBy_2 : cX1_takesBy.data.toList.drop 46 = dktX1_takesBy_2 := dk_seg dksX1_takesBy_1 24 rfl rfl
theorem dksX1_takesBy_3 : cX1_takesBy.data.toList.drop 70 = dktX1_takesBy_3 := dk_seg dksX1_takesBy_2 24 rfl rfl
theorem dX1_takesBy_0 : decode cX1_takesBy 0 = .ok (.aload_n 0, 1) := dk_42 (dk_at dksX1_takesBy_0 0 rfl rfl)
theorem dX1_takesBy_1 : decode cX1_takesBy 1 = .ok (.getfield 29, 3) := dk_180 0 29 (dk_at dksX1_takesBy_0 1 rfl rfl)
theorem dX1_takesBy_4 : decode cX1_takesBy 4 = .ok (.iconst 0, 1) := dk_3 (dk_at dksX1_takesBy_0 4 rfl rfl)
theorem dX1_takesBy_5 : decode cX1_takesBy 5 = .ok (.iload_n 1, 1) := dk_27 (dk_at dksX1_takesBy_0 5 rfl rfl)
theorem dX1_takesBy_6 : decode cX1_takesBy 6 = .ok (.iastore, 1) := dk_79 (dk_at dksX1_takesBy_0 6 rfl rfl)
theorem dX1_takesBy_7 : decode cX1_takesBy 7 = .ok (.aload_n 0, 1) := dk_42 (dk_at dksX1_takesBy_0 7 rfl rfl)
theorem dX1_takesBy_8 : decode cX1_takesBy 8 = .ok (.getfield 29, 3) := dk_180 0 29 (dk_at dksX1_takesBy_0 8 rfl rfl)
theorem dX1_takesBy_11 : decode cX1_takesBy 11 = .ok (.iconst 1, 1) := dk_4 (dk_at dksX1_takesBy_0 11 rfl rfl)
theorem dX1_takesBy_12 : decode cX1_takesBy 12 = .ok (.iload_n 2, 1) := dk_28 (dk_at dksX1_takesBy_0 12 rfl rfl)
theorem dX1_takesBy_13 : decode cX1_takesBy 13 = .ok (.iastore, 1) := dk_79 (dk_at dksX1_takesBy_0 13 rfl rfl)
theorem dX1_takesBy_14 : decode cX1_takesBy 14 = .ok (.aload_n 0, 1) := dk_42 (dk_at dksX1_takesBy_0 14 rfl rfl)
theorem dX1_takesBy_15 : decode cX1_takesBy 15 = .ok (.getfield 29, 3) := dk_180 0 29 (dk_at dksX1_takesBy_0 15 rfl rfl)
theorem dX1_takesBy_18 : decode cX1_takesBy 18 = .ok (.iconst 2, 1) := dk_5 (dk_at dksX1_takesBy_0 18 rfl rfl)
theorem dX1_takesBy_19 : decode cX1_takesBy 19 = .ok (.iload_n 3, 1) := dk_29 (dk_at dksX1_takesBy_0 19 rfl rfl)
theorem dX1_takesBy_20 : decode cX1_takesBy 20 = .ok (.iastore, 1) := dk_79 (dk_at dksX1_takesBy_0 20 rfl rfl)
theorem dX1_takesBy_21 : decode cX1_takesBy 21 = .ok (.aload_n 0, 1) := dk_42 (dk_at dksX1_takesBy_0 21 rfl rfl)
theorem dX1_takesBy_22 : decode cX1_takesBy 22 = .ok (.getfield 29, 3) := dk_180 0 29 (dk_at dksX1_takesBy_1 0 rfl rfl)
theorem dX1_takesBy_25 : decode cX1_takesBy 25 = .ok (.iconst 3, 1) := dk_6 (dk_at dksX1_takesBy_1 3 rfl rfl)
theorem dX1_takesBy_26 : decode cX1_takesBy 26 = .ok (.iload 4, 2) := dk_21 4 (dk_at dksX1_takesBy_1 4 rfl rfl)
theorem dX1_takesBy_28 : decode cX1_takesBy 28 = .ok (.iastore, 1) := dk_79 (dk_at dksX1_takesBy_1 6 rfl rfl)
theorem dX1_takesBy_29 : decode cX1_takesBy 29 = .ok (.aload_n 0, 1) := dk_42 (dk_at dksX1_takesBy_1 7 rfl rfl)
theorem dX1_takesBy_30 : decode cX1_takesBy 30 = .ok (.getfield 29, 3) := dk_180 0 29 (dk_at dksX1_takesBy_1 8 rfl rfl)
theorem dX1_takesBy_33 : decode cX1_takesBy 33 = .ok (.iconst 4, 1) := dk_7 (dk_at dksX1_takesBy_1 11 rfl rfl)
theorem dX1_takesBy_34 : decode cX1_takesBy 34 = .ok (.iload 5, 2) := dk_21 5 (dk_at dksX1_takesBy_1 12 rfl rfl)
theorem dX1_takesBy_36 : decode cX1_takesBy 36 = .ok (.iastore, 1) := dk_79 (dk_at dksX1_takesBy_1 14 rfl rfl)
theorem dX1_takesBy_37 : decode cX1_takesBy 37 = .ok (.aload_n 0, 1) := dk_42 (dk_at dksX1_takesBy_1 15 rfl rfl)
theorem dX1_takesBy_38 : decode cX1_takesBy 38 = .ok (.getfield 29, 3) := dk_180 0 29 (dk_at dksX1_takesBy_1 16 rfl rfl)
theorem dX1_takesBy_41 : decode cX1_takesBy 41 = .ok (.iconst 5, 1) := dk_8 (dk_at dksX1_takesBy_1 19 rfl rfl)
theorem dX1_takesBy_42 : decode cX1_takesBy 42 = .ok (.iload 6, 2) := dk_21 6 (dk_at dksX1_takesBy_1 20 rfl rfl)
theorem dX1_takesBy_44 : decode cX1_takesBy 44 = .ok (.iastore, 1) := dk_79 (dk_at dksX1_takesBy_1 22 rfl rfl)
theorem dX1_takesBy_45 : decode cX1_takesBy 45 = .ok (.aload_n 0, 1) := dk_42 (dk_at dksX1_takesBy_1 23 rfl rfl)
theorem dX1_takesBy_46 : decode cX1_takesBy 46 = .ok (.getfield 29, 3) := dk_180 0 29 (dk_at dksX1_takesBy_2 0 rfl rfl)
theorem dX1_takesBy_49 : decode cX1_takesBy 49 = .ok (.bipush 6, 2) := dk_16 6 (dk_at dksX1_takesBy_2 3 rfl rfl)
theorem dX1_takesBy_51 : decode cX1_takesBy 51 = .ok (.iload 7, 2) := dk_21 7 (dk_at dksX1_takesBy_2 5 rfl rfl)
theorem dX1_takesBy_53 : decode cX1_takesBy 53 = .ok (.iastore, 1) := dk_79 (dk_at dksX1_takesBy_2 7 rfl rfl)
theorem dX1_takesBy_54 : decode cX1_takesBy 54 = .ok (.aload_n 0, 1) := dk_42 (dk_at dksX1_takesBy_2 8 rfl rfl)
theorem dX1_takesBy_55 : decode cX1_takesBy 55 = .ok (.getfield 29, 3) := dk_180 0 29 (dk_at dksX1_takesBy_2 9 rfl rfl)
theorem dX1_takesBy_58 : decode cX1_takesBy 58 = .ok (.bipush 7, 2) := dk_16 7 (dk_at dksX1_takesBy_2 12 rfl rfl)
theorem dX1_takesBy_60 : decode cX1_takesBy 60 = .ok (.iload 8, 2) := dk_21 8 (dk_at dksX1_takesBy_2 14 rfl rfl)
theorem dX1_takesBy_62 : decode cX1_takesBy 62 = .ok (.iastore, 1) := dk_79 (dk_at dksX1_takesBy_2 16 rfl rfl)
theorem dX1_takesBy_63 : decode cX1_takesBy 63 = .ok (.iconst 0, 1) := dk_3 (dk_at dksX1_takesBy_2 17 rfl rfl)
theorem dX1_takesBy_64 : decode cX1_takesBy 64 = .ok (.bipush 30, 2) := dk_16 30 (dk_at dksX1_takesBy_2 18 rfl rfl)
theorem dX1_takesBy_66 : decode cX1_takesBy 66 = .ok (.aload_n 0, 1) := dk_42 (dk_at dksX1_takesBy_2 20 rfl rfl)
theorem dX1_takesBy_67 : decode cX1_takesBy 67 = .ok (.getfield 25, 3) := dk_180 0 25 (dk_at dksX1_takesBy_2 21 rfl rfl)
theorem dX1_takesBy_70 : decode cX1_takesBy 70 = .ok (.aload_n 0, 1) := dk_42 (dk_at dksX1_takesBy_3 0 rfl rfl)
theorem dX1_takesBy_71 : decode cX1_takesBy 71 = .ok (.getfield 29, 3) := dk_180 0 29 (dk_at dksX1_takesBy_3 1 rfl rfl)
theorem dX1_takesBy_74 : decode cX1_takesBy 74 = .ok (.invokevirtual 136, 3) := dk_182 0 136 (dk_at dksX1_takesBy_3 4 rfl rfl)
theorem dX1_takesBy_77 : decode cX1_takesBy 77 = .ok (.invokestatic 142, 3) := dk_184 0 142 (dk_at dksX1_takesBy_3 7 rfl rfl)
theorem dX1_takesBy_80 : decode cX1_takesBy 80 = .ok (.invokestatic 148, 3) := dk_184 0 148 (dk_at dksX1_takesBy_3 10 rfl rfl)
theorem dX1_takesBy_83 : decode cX1_takesBy 83 = .ok (.ireturn, 1) := dk_172 (dk_at dksX1_takesBy_3 13 rfl rfl)
abbrev cX1_idle : ByteArray := prog_1_method_42_code
def yX1_idle : MethodName := ⟨RX1, "idle", "()I"⟩
def dkwX1_idle_2 : List UInt8 := [160, 0, 9, 4, 29, 120, 167, 0, 4, 3, 128, 61, 132, 3, 1, 167, 255, 217, 28, 172]
abbrev dktX1_idle_2 : List UInt8 := dkwX1_idle_2 ++ []
def dkwX1_idle_1 : List UInt8 := [182, 0, 157, 162, 0, 37, 28, 43, 180, 1, 5, 29, 46, 42, 180, 0, 44, 180, 1, 5, 29, 46]
abbrev dktX1_idle_1 : List UInt8 := dkwX1_idle_1 ++ dktX1_idle_2
def dkwX1_idle_0 : List UInt8 := [42, 180, 0, 48, 42, 180, 0, 44, 182, 0, 248, 76, 43, 182, 1, 69, 87, 3, 61, 3, 62, 29, 42]
abbrev dktX1_idle_0 : List UInt8 := dkwX1_idle_0 ++ dktX1_idle_1
theorem dksX1_idle_0 : cX1_idle.data.toList.drop 0 = dktX1_idle_0 := by decide +kernel
theorem dksX1_idle_1 : cX1_idle.data.toList.drop 23 = dktX1_idle_1 := dk_seg dksX1_idle_0 23 rfl rfl
theorem dksX1_idle_2 : cX1_idle.data.toList.drop 45 = dktX1_idle_2 := dk_seg dksX1_idle_1 22 rfl rfl
theorem dX1_idle_0 : decode cX1_idle 0 = .ok (.aload_n 0, 1) := dk_42 (dk_at dksX1_idle_0 0 rfl rfl)
theorem dX1_idle_1 : decode cX1_idle 1 = .ok (.getfield 48, 3) := dk_180 0 48 (dk_at dksX1_idle_0 1 rfl rfl)
theorem dX1_idle_4 : decode cX1_idle 4 = .ok (.aload_n 0, 1) := dk_42 (dk_at dksX1_idle_0 4 rfl rfl)
theorem dX1_idle_5 : decode cX1_idle 5 = .ok (.getfield 44, 3) := dk_180 0 44 (dk_at dksX1_idle_0 5 rfl rfl)
theorem dX1_idle_8 : decode cX1_idle 8 = .ok (.invokevirtual 248, 3) := dk_182 0 248 (dk_at dksX1_idle_0 8 rfl rfl)
theorem dX1_idle_11 : decode cX1_idle 11 = .ok (.astore_n 1, 1) := dk_76 (dk_at dksX1_idle_0 11 rfl rfl)
theorem dX1_idle_12 : decode cX1_idle 12 = .ok (.aload_n 1, 1) := dk_43 (dk_at dksX1_idle_0 12 rfl rfl)
theorem dX1_idle_13 : decode cX1_idle 13 = .ok (.invokevirtual 325, 3) := dk_182 1 69 (dk_at dksX1_idle_0 13 rfl rfl)
theorem dX1_idle_16 : decode cX1_idle 16 = .ok (.pop, 1) := dk_87 (dk_at dksX1_idle_0 16 rfl rfl)
theorem dX1_idle_17 : decode cX1_idle 17 = .ok (.iconst 0, 1) := dk_3 (dk_at dksX1_idle_0 17 rfl rfl)
theorem dX1_idle_18 : decode cX1_idle 18 = .ok (.istore_n 2, 1) := dk_61 (dk_at dksX1_idle_0 18 rfl rfl)
theorem dX1_idle_19 : decode cX1_idle 19 = .ok (.iconst 0, 1) := dk_3 (dk_at dksX1_idle_0 19 rfl rfl)
theorem dX1_idle_20 : decode cX1_idle 20 = .ok (.istore_n 3, 1) := dk_62 (dk_at dksX1_idle_0 20 rfl rfl)
theorem dX1_idle_21 : decode cX1_idle 21 = .ok (.iload_n 3, 1) := dk_29 (dk_at dksX1_idle_0 21 rfl rfl)
theorem dX1_idle_22 : decode cX1_idle 22 = .ok (.aload_n 0, 1) := dk_42 (dk_at dksX1_idle_0 22 rfl rfl)
theorem dX1_idle_23 : decode cX1_idle 23 = .ok (.invokevirtual 157, 3) := dk_182 0 157 (dk_at dksX1_idle_1 0 rfl rfl)
theorem dX1_idle_26 : decode cX1_idle 26 = .ok (.if_icmp .ge 37, 3) := dk_162 0 37 (dk_at dksX1_idle_1 3 rfl rfl)
theorem dX1_idle_29 : decode cX1_idle 29 = .ok (.iload_n 2, 1) := dk_28 (dk_at dksX1_idle_1 6 rfl rfl)
theorem dX1_idle_30 : decode cX1_idle 30 = .ok (.aload_n 1, 1) := dk_43 (dk_at dksX1_idle_1 7 rfl rfl)
theorem dX1_idle_31 : decode cX1_idle 31 = .ok (.getfield 261, 3) := dk_180 1 5 (dk_at dksX1_idle_1 8 rfl rfl)
theorem dX1_idle_34 : decode cX1_idle 34 = .ok (.iload_n 3, 1) := dk_29 (dk_at dksX1_idle_1 11 rfl rfl)
theorem dX1_idle_35 : decode cX1_idle 35 = .ok (.iaload, 1) := dk_46 (dk_at dksX1_idle_1 12 rfl rfl)
theorem dX1_idle_36 : decode cX1_idle 36 = .ok (.aload_n 0, 1) := dk_42 (dk_at dksX1_idle_1 13 rfl rfl)
theorem dX1_idle_37 : decode cX1_idle 37 = .ok (.getfield 44, 3) := dk_180 0 44 (dk_at dksX1_idle_1 14 rfl rfl)
theorem dX1_idle_40 : decode cX1_idle 40 = .ok (.getfield 261, 3) := dk_180 1 5 (dk_at dksX1_idle_1 17 rfl rfl)
theorem dX1_idle_43 : decode cX1_idle 43 = .ok (.iload_n 3, 1) := dk_29 (dk_at dksX1_idle_1 20 rfl rfl)
theorem dX1_idle_44 : decode cX1_idle 44 = .ok (.iaload, 1) := dk_46 (dk_at dksX1_idle_1 21 rfl rfl)
theorem dX1_idle_45 : decode cX1_idle 45 = .ok (.if_icmp .ne 9, 3) := dk_160 0 9 (dk_at dksX1_idle_2 0 rfl rfl)
theorem dX1_idle_48 : decode cX1_idle 48 = .ok (.iconst 1, 1) := dk_4 (dk_at dksX1_idle_2 3 rfl rfl)
theorem dX1_idle_49 : decode cX1_idle 49 = .ok (.iload_n 3, 1) := dk_29 (dk_at dksX1_idle_2 4 rfl rfl)
theorem dX1_idle_50 : decode cX1_idle 50 = .ok (.ishl, 1) := dk_120 (dk_at dksX1_idle_2 5 rfl rfl)
theorem dX1_idle_51 : decode cX1_idle 51 = .ok (.goto 4, 3) := dk_167 0 4 (dk_at dksX1_idle_2 6 rfl rfl)
theorem dX1_idle_54 : decode cX1_idle 54 = .ok (.iconst 0, 1) := dk_3 (dk_at dksX1_idle_2 9 rfl rfl)
theorem dX1_idle_55 : decode cX1_idle 55 = .ok (.ior, 1) := dk_128 (dk_at dksX1_idle_2 10 rfl rfl)
theorem dX1_idle_56 : decode cX1_idle 56 = .ok (.istore_n 2, 1) := dk_61 (dk_at dksX1_idle_2 11 rfl rfl)
theorem dX1_idle_57 : decode cX1_idle 57 = .ok (.iinc 3 1, 3) := dk_132 3 1 (dk_at dksX1_idle_2 12 rfl rfl)
theorem dX1_idle_60 : decode cX1_idle 60 = .ok (.goto (-39), 3) := dk_167 255 217 (dk_at dksX1_idle_2 15 rfl rfl)
theorem dX1_idle_63 : decode cX1_idle 63 = .ok (.iload_n 2, 1) := dk_28 (dk_at dksX1_idle_2 18 rfl rfl)
theorem dX1_idle_64 : decode cX1_idle 64 = .ok (.ireturn, 1) := dk_172 (dk_at dksX1_idle_2 19 rfl rfl)
abbrev cX1_cast : ByteArray := prog_1_method_50_code
def yX1_cast : MethodName := ⟨RX1, "cast", "()I"⟩
def dkwX1_cast_2 : List UInt8 := [181, 0, 255, 45, 182, 1, 69, 42, 182, 1, 99, 160, 0, 5, 28, 60, 132, 2, 1, 167, 255, 195, 27, 172]
abbrev dktX1_cast_2 : List UInt8 := dkwX1_cast_2 ++ []
def dkwX1_cast_1 : List UInt8 := [167, 0, 39, 42, 180, 0, 48, 42, 180, 0, 44, 182, 0, 248, 78, 45, 182, 1, 96, 45, 28, 2, 130]
abbrev dktX1_cast_1 : List UInt8 := dkwX1_cast_1 ++ dktX1_cast_2
def dkwX1_cast_0 : List UInt8 := [2, 60, 3, 61, 28, 4, 42, 182, 0, 157, 120, 162, 0, 57, 42, 28, 27, 182, 1, 93, 154, 0, 6]
abbrev dktX1_cast_0 : List UInt8 := dkwX1_cast_0 ++ dktX1_cast_1
theorem dksX1_cast_0 : cX1_cast.data.toList.drop 0 = dktX1_cast_0 := by decide +kernel
theorem dksX1_cast_1 : cX1_cast.data.toList.drop 23 = dktX1_cast_1 := dk_seg dksX1_cast_0 23 rfl rfl
theorem dksX1_cast_2 : cX1_cast.data.toList.drop 46 = dktX1_cast_2 := dk_seg dksX1_cast_1 23 rfl rfl
theorem dX1_cast_0 : decode cX1_cast 0 = .ok (.iconst (-1), 1) := dk_2 (dk_at dksX1_cast_0 0 rfl rfl)
theorem dX1_cast_1 : decode cX1_cast 1 = .ok (.istore_n 1, 1) := dk_60 (dk_at dksX1_cast_0 1 rfl rfl)
theorem dX1_cast_2 : decode cX1_cast 2 = .ok (.iconst 0, 1) := dk_3 (dk_at dksX1_cast_0 2 rfl rfl)
theorem dX1_cast_3 : decode cX1_cast 3 = .ok (.istore_n 2, 1) := dk_61 (dk_at dksX1_cast_0 3 rfl rfl)
theorem dX1_cast_4 : decode cX1_cast 4 = .ok (.iload_n 2, 1) := dk_28 (dk_at dksX1_cast_0 4 rfl rfl)
theorem dX1_cast_5 : decode cX1_cast 5 = .ok (.iconst 1, 1) := dk_4 (dk_at dksX1_cast_0 5 rfl rfl)
theorem dX1_cast_6 : decode cX1_cast 6 = .ok (.aload_n 0, 1) := dk_42 (dk_at dksX1_cast_0 6 rfl rfl)
theorem dX1_cast_7 : decode cX1_cast 7 = .ok (.invokevirtual 157, 3) := dk_182 0 157 (dk_at dksX1_cast_0 7 rfl rfl)
theorem dX1_cast_10 : decode cX1_cast 10 = .ok (.ishl, 1) := dk_120 (dk_at dksX1_cast_0 10 rfl rfl)
theorem dX1_cast_11 : decode cX1_cast 11 = .ok (.if_icmp .ge 57, 3) := dk_162 0 57 (dk_at dksX1_cast_0 11 rfl rfl)
theorem dX1_cast_14 : decode cX1_cast 14 = .ok (.aload_n 0, 1) := dk_42 (dk_at dksX1_cast_0 14 rfl rfl)
theorem dX1_cast_15 : decode cX1_cast 15 = .ok (.iload_n 2, 1) := dk_28 (dk_at dksX1_cast_0 15 rfl rfl)
theorem dX1_cast_16 : decode cX1_cast 16 = .ok (.iload_n 1, 1) := dk_27 (dk_at dksX1_cast_0 16 rfl rfl)
theorem dX1_cast_17 : decode cX1_cast 17 = .ok (.invokevirtual 349, 3) := dk_182 1 93 (dk_at dksX1_cast_0 17 rfl rfl)
theorem dX1_cast_20 : decode cX1_cast 20 = .ok (.ifCond .ne 6, 3) := dk_154 0 6 (dk_at dksX1_cast_0 20 rfl rfl)
theorem dX1_cast_23 : decode cX1_cast 23 = .ok (.goto 39, 3) := dk_167 0 39 (dk_at dksX1_cast_1 0 rfl rfl)
theorem dX1_cast_26 : decode cX1_cast 26 = .ok (.aload_n 0, 1) := dk_42 (dk_at dksX1_cast_1 3 rfl rfl)
theorem dX1_cast_27 : decode cX1_cast 27 = .ok (.getfield 48, 3) := dk_180 0 48 (dk_at dksX1_cast_1 4 rfl rfl)
theorem dX1_cast_30 : decode cX1_cast 30 = .ok (.aload_n 0, 1) := dk_42 (dk_at dksX1_cast_1 7 rfl rfl)
theorem dX1_cast_31 : decode cX1_cast 31 = .ok (.getfield 44, 3) := dk_180 0 44 (dk_at dksX1_cast_1 8 rfl rfl)
theorem dX1_cast_34 : decode cX1_cast 34 = .ok (.invokevirtual 248, 3) := dk_182 0 248 (dk_at dksX1_cast_1 11 rfl rfl)
theorem dX1_cast_37 : decode cX1_cast 37 = .ok (.astore_n 3, 1) := dk_78 (dk_at dksX1_cast_1 14 rfl rfl)
theorem dX1_cast_38 : decode cX1_cast 38 = .ok (.aload_n 3, 1) := dk_45 (dk_at dksX1_cast_1 15 rfl rfl)
theorem dX1_cast_39 : decode cX1_cast 39 = .ok (.invokevirtual 352, 3) := dk_182 1 96 (dk_at dksX1_cast_1 16 rfl rfl)
theorem dX1_cast_42 : decode cX1_cast 42 = .ok (.aload_n 3, 1) := dk_45 (dk_at dksX1_cast_1 19 rfl rfl)
theorem dX1_cast_43 : decode cX1_cast 43 = .ok (.iload_n 2, 1) := dk_28 (dk_at dksX1_cast_1 20 rfl rfl)
theorem dX1_cast_44 : decode cX1_cast 44 = .ok (.iconst (-1), 1) := dk_2 (dk_at dksX1_cast_1 21 rfl rfl)
theorem dX1_cast_45 : decode cX1_cast 45 = .ok (.ixor, 1) := dk_130 (dk_at dksX1_cast_1 22 rfl rfl)
theorem dX1_cast_46 : decode cX1_cast 46 = .ok (.putfield 255, 3) := dk_181 0 255 (dk_at dksX1_cast_2 0 rfl rfl)
theorem dX1_cast_49 : decode cX1_cast 49 = .ok (.aload_n 3, 1) := dk_45 (dk_at dksX1_cast_2 3 rfl rfl)
theorem dX1_cast_50 : decode cX1_cast 50 = .ok (.invokevirtual 325, 3) := dk_182 1 69 (dk_at dksX1_cast_2 4 rfl rfl)
theorem dX1_cast_53 : decode cX1_cast 53 = .ok (.aload_n 0, 1) := dk_42 (dk_at dksX1_cast_2 7 rfl rfl)
theorem dX1_cast_54 : decode cX1_cast 54 = .ok (.invokevirtual 355, 3) := dk_182 1 99 (dk_at dksX1_cast_2 8 rfl rfl)
theorem dX1_cast_57 : decode cX1_cast 57 = .ok (.if_icmp .ne 5, 3) := dk_160 0 5 (dk_at dksX1_cast_2 11 rfl rfl)
theorem dX1_cast_60 : decode cX1_cast 60 = .ok (.iload_n 2, 1) := dk_28 (dk_at dksX1_cast_2 14 rfl rfl)
theorem dX1_cast_61 : decode cX1_cast 61 = .ok (.istore_n 1, 1) := dk_60 (dk_at dksX1_cast_2 15 rfl rfl)
theorem dX1_cast_62 : decode cX1_cast 62 = .ok (.iinc 2 1, 3) := dk_132 2 1 (dk_at dksX1_cast_2 16 rfl rfl)
theorem dX1_cast_65 : decode cX1_cast 65 = .ok (.goto (-61), 3) := dk_167 255 195 (dk_at dksX1_cast_2 19 rfl rfl)
theorem dX1_cast_68 : decode cX1_cast 68 = .ok (.iload_n 1, 1) := dk_27 (dk_at dksX1_cast_2 22 rfl rfl)
theorem dX1_cast_69 : decode cX1_cast 69 = .ok (.ireturn, 1) := dk_172 (dk_at dksX1_cast_2 23 rfl rfl)
abbrev cX1_isBetter : ByteArray := prog_1_method_49_code
def yX1_isBetter : MethodName := ⟨RX1, "isBetter", "(II)Z"⟩
def dkwX1_isBetter_1 : List UInt8 := [154, 0, 20, 42, 27, 182, 1, 90, 42, 28, 182, 1, 90, 162, 0, 7, 4, 167, 0, 4, 3, 172]
abbrev dktX1_isBetter_1 : List UInt8 := dkwX1_isBetter_1 ++ []
def dkwX1_isBetter_0 : List UInt8 := [28, 2, 160, 0, 5, 4, 172, 27, 184, 1, 78, 28, 184, 1, 78, 100, 62, 29, 155, 0, 20, 29]
abbrev dktX1_isBetter_0 : List UInt8 := dkwX1_isBetter_0 ++ dktX1_isBetter_1
theorem dksX1_isBetter_0 : cX1_isBetter.data.toList.drop 0 = dktX1_isBetter_0 := by decide +kernel
theorem dksX1_isBetter_1 : cX1_isBetter.data.toList.drop 22 = dktX1_isBetter_1 := dk_seg dksX1_isBetter_0 22 rfl rfl
theorem dX1_isBetter_0 : decode cX1_isBetter 0 = .ok (.iload_n 2, 1) := dk_28 (dk_at dksX1_isBetter_0 0 rfl rfl)
theorem dX1_isBetter_1 : decode cX1_isBetter 1 = .ok (.iconst (-1), 1) := dk_2 (dk_at dksX1_isBetter_0 1 rfl rfl)
theorem dX1_isBetter_2 : decode cX1_isBetter 2 = .ok (.if_icmp .ne 5, 3) := dk_160 0 5 (dk_at dksX1_isBetter_0 2 rfl rfl)
theorem dX1_isBetter_5 : decode cX1_isBetter 5 = .ok (.iconst 1, 1) := dk_4 (dk_at dksX1_isBetter_0 5 rfl rfl)
theorem dX1_isBetter_6 : decode cX1_isBetter 6 = .ok (.ireturn, 1) := dk_172 (dk_at dksX1_isBetter_0 6 rfl rfl)
theorem dX1_isBetter_7 : decode cX1_isBetter 7 = .ok (.iload_n 1, 1) := dk_27 (dk_at dksX1_isBetter_0 7 rfl rfl)
theorem dX1_isBetter_8 : decode cX1_isBetter 8 = .ok (.invokestatic 334, 3) := dk_184 1 78 (dk_at dksX1_isBetter_0 8 rfl rfl)
theorem dX1_isBetter_11 : decode cX1_isBetter 11 = .ok (.iload_n 2, 1) := dk_28 (dk_at dksX1_isBetter_0 11 rfl rfl)
theorem dX1_isBetter_12 : decode cX1_isBetter 12 = .ok (.invokestatic 334, 3) := dk_184 1 78 (dk_at dksX1_isBetter_0 12 rfl rfl)
theorem dX1_isBetter_15 : decode cX1_isBetter 15 = .ok (.isub, 1) := dk_100 (dk_at dksX1_isBetter_0 15 rfl rfl)
theorem dX1_isBetter_16 : decode cX1_isBetter 16 = .ok (.istore_n 3, 1) := dk_62 (dk_at dksX1_isBetter_0 16 rfl rfl)
theorem dX1_isBetter_17 : decode cX1_isBetter 17 = .ok (.iload_n 3, 1) := dk_29 (dk_at dksX1_isBetter_0 17 rfl rfl)
theorem dX1_isBetter_18 : decode cX1_isBetter 18 = .ok (.ifCond .lt 20, 3) := dk_155 0 20 (dk_at dksX1_isBetter_0 18 rfl rfl)
theorem dX1_isBetter_21 : decode cX1_isBetter 21 = .ok (.iload_n 3, 1) := dk_29 (dk_at dksX1_isBetter_0 21 rfl rfl)
theorem dX1_isBetter_22 : decode cX1_isBetter 22 = .ok (.ifCond .ne 20, 3) := dk_154 0 20 (dk_at dksX1_isBetter_1 0 rfl rfl)
theorem dX1_isBetter_25 : decode cX1_isBetter 25 = .ok (.aload_n 0, 1) := dk_42 (dk_at dksX1_isBetter_1 3 rfl rfl)
theorem dX1_isBetter_26 : decode cX1_isBetter 26 = .ok (.iload_n 1, 1) := dk_27 (dk_at dksX1_isBetter_1 4 rfl rfl)
theorem dX1_isBetter_27 : decode cX1_isBetter 27 = .ok (.invokevirtual 346, 3) := dk_182 1 90 (dk_at dksX1_isBetter_1 5 rfl rfl)
theorem dX1_isBetter_30 : decode cX1_isBetter 30 = .ok (.aload_n 0, 1) := dk_42 (dk_at dksX1_isBetter_1 8 rfl rfl)
theorem dX1_isBetter_31 : decode cX1_isBetter 31 = .ok (.iload_n 2, 1) := dk_28 (dk_at dksX1_isBetter_1 9 rfl rfl)
theorem dX1_isBetter_32 : decode cX1_isBetter 32 = .ok (.invokevirtual 346, 3) := dk_182 1 90 (dk_at dksX1_isBetter_1 10 rfl rfl)
theorem dX1_isBetter_35 : decode cX1_isBetter 35 = .ok (.if_icmp .ge 7, 3) := dk_162 0 7 (dk_at dksX1_isBetter_1 13 rfl rfl)
theorem dX1_isBetter_38 : decode cX1_isBetter 38 = .ok (.iconst 1, 1) := dk_4 (dk_at dksX1_isBetter_1 16 rfl rfl)
theorem dX1_isBetter_39 : decode cX1_isBetter 39 = .ok (.goto 4, 3) := dk_167 0 4 (dk_at dksX1_isBetter_1 17 rfl rfl)
theorem dX1_isBetter_42 : decode cX1_isBetter 42 = .ok (.iconst 0, 1) := dk_3 (dk_at dksX1_isBetter_1 20 rfl rfl)
theorem dX1_isBetter_43 : decode cX1_isBetter 43 = .ok (.ireturn, 1) := dk_172 (dk_at dksX1_isBetter_1 21 rfl rfl)
abbrev cX1_paid : ByteArray := prog_1_method_47_code
def yX1_paid : MethodName := ⟨RX1, "paid", "(I)I"⟩
def dkwX1_paid_1 : List UInt8 := [182, 1, 23, 180, 1, 28, 167, 0, 4, 3, 96, 61, 132, 3, 1, 167, 255, 222, 28, 172]
abbrev dktX1_paid_1 : List UInt8 := dkwX1_paid_1 ++ []
def dkwX1_paid_0 : List UInt8 := [3, 61, 3, 62, 29, 42, 182, 0, 157, 162, 0, 32, 28, 27, 29, 184, 1, 86, 153, 0, 14, 42, 29]
abbrev dktX1_paid_0 : List UInt8 := dkwX1_paid_0 ++ dktX1_paid_1
theorem dksX1_paid_0 : cX1_paid.data.toList.drop 0 = dktX1_paid_0 := by decide +kernel
theorem dksX1_paid_1 : cX1_paid.data.toList.drop 23 = dktX1_paid_1 := dk_seg dksX1_paid_0 23 rfl rfl
theorem dX1_paid_0 : decode cX1_paid 0 = .ok (.iconst 0, 1) := dk_3 (dk_at dksX1_paid_0 0 rfl rfl)
theorem dX1_paid_1 : decode cX1_paid 1 = .ok (.istore_n 2, 1) := dk_61 (dk_at dksX1_paid_0 1 rfl rfl)
theorem dX1_paid_2 : decode cX1_paid 2 = .ok (.iconst 0, 1) := dk_3 (dk_at dksX1_paid_0 2 rfl rfl)
theorem dX1_paid_3 : decode cX1_paid 3 = .ok (.istore_n 3, 1) := dk_62 (dk_at dksX1_paid_0 3 rfl rfl)
theorem dX1_paid_4 : decode cX1_paid 4 = .ok (.iload_n 3, 1) := dk_29 (dk_at dksX1_paid_0 4 rfl rfl)
theorem dX1_paid_5 : decode cX1_paid 5 = .ok (.aload_n 0, 1) := dk_42 (dk_at dksX1_paid_0 5 rfl rfl)
theorem dX1_paid_6 : decode cX1_paid 6 = .ok (.invokevirtual 157, 3) := dk_182 0 157 (dk_at dksX1_paid_0 6 rfl rfl)
theorem dX1_paid_9 : decode cX1_paid 9 = .ok (.if_icmp .ge 32, 3) := dk_162 0 32 (dk_at dksX1_paid_0 9 rfl rfl)
theorem dX1_paid_12 : decode cX1_paid 12 = .ok (.iload_n 2, 1) := dk_28 (dk_at dksX1_paid_0 12 rfl rfl)
theorem dX1_paid_13 : decode cX1_paid 13 = .ok (.iload_n 1, 1) := dk_27 (dk_at dksX1_paid_0 13 rfl rfl)
theorem dX1_paid_14 : decode cX1_paid 14 = .ok (.iload_n 3, 1) := dk_29 (dk_at dksX1_paid_0 14 rfl rfl)
theorem dX1_paid_15 : decode cX1_paid 15 = .ok (.invokestatic 342, 3) := dk_184 1 86 (dk_at dksX1_paid_0 15 rfl rfl)
theorem dX1_paid_18 : decode cX1_paid 18 = .ok (.ifCond .eq 14, 3) := dk_153 0 14 (dk_at dksX1_paid_0 18 rfl rfl)
theorem dX1_paid_21 : decode cX1_paid 21 = .ok (.aload_n 0, 1) := dk_42 (dk_at dksX1_paid_0 21 rfl rfl)
theorem dX1_paid_22 : decode cX1_paid 22 = .ok (.iload_n 3, 1) := dk_29 (dk_at dksX1_paid_0 22 rfl rfl)
theorem dX1_paid_23 : decode cX1_paid 23 = .ok (.invokevirtual 279, 3) := dk_182 1 23 (dk_at dksX1_paid_1 0 rfl rfl)
theorem dX1_paid_26 : decode cX1_paid 26 = .ok (.getfield 284, 3) := dk_180 1 28 (dk_at dksX1_paid_1 3 rfl rfl)
theorem dX1_paid_29 : decode cX1_paid 29 = .ok (.goto 4, 3) := dk_167 0 4 (dk_at dksX1_paid_1 6 rfl rfl)
theorem dX1_paid_32 : decode cX1_paid 32 = .ok (.iconst 0, 1) := dk_3 (dk_at dksX1_paid_1 9 rfl rfl)
theorem dX1_paid_33 : decode cX1_paid 33 = .ok (.iadd, 1) := dk_96 (dk_at dksX1_paid_1 10 rfl rfl)
theorem dX1_paid_34 : decode cX1_paid 34 = .ok (.istore_n 2, 1) := dk_61 (dk_at dksX1_paid_1 11 rfl rfl)
theorem dX1_paid_35 : decode cX1_paid 35 = .ok (.iinc 3 1, 3) := dk_132 3 1 (dk_at dksX1_paid_1 12 rfl rfl)
theorem dX1_paid_38 : decode cX1_paid 38 = .ok (.goto (-34), 3) := dk_167 255 222 (dk_at dksX1_paid_1 15 rfl rfl)
theorem dX1_paid_41 : decode cX1_paid 41 = .ok (.iload_n 2, 1) := dk_28 (dk_at dksX1_paid_1 18 rfl rfl)
theorem dX1_paid_42 : decode cX1_paid 42 = .ok (.ireturn, 1) := dk_172 (dk_at dksX1_paid_1 19 rfl rfl)
abbrev cX1_allNotes : ByteArray := prog_1_method_48_code
def yX1_allNotes : MethodName := ⟨RX1, "allNotes", "()I"⟩
def dkwX1_allNotes_0 : List UInt8 := [4, 42, 182, 0, 163, 120, 4, 100, 172]
abbrev dktX1_allNotes_0 : List UInt8 := dkwX1_allNotes_0 ++ []
theorem dksX1_allNotes_0 : cX1_allNotes.data.toList.drop 0 = dktX1_allNotes_0 := by decide +kernel
theorem dX1_allNotes_0 : decode cX1_allNotes 0 = .ok (.iconst 1, 1) := dk_4 (dk_at dksX1_allNotes_0 0 rfl rfl)
theorem dX1_allNotes_1 : decode cX1_allNotes 1 = .ok (.aload_n 0, 1) := dk_42 (dk_at dksX1_allNotes_0 1 rfl rfl)
theorem dX1_allNotes_2 : decode cX1_allNotes 2 = .ok (.invokevirtual 163, 3) := dk_182 0 163 (dk_at dksX1_allNotes_0 2 rfl rfl)
theorem dX1_allNotes_5 : decode cX1_allNotes 5 = .ok (.ishl, 1) := dk_120 (dk_at dksX1_allNotes_0 5 rfl rfl)
theorem dX1_allNotes_6 : decode cX1_allNotes 6 = .ok (.iconst 1, 1) := dk_4 (dk_at dksX1_allNotes_0 6 rfl rfl)
theorem dX1_allNotes_7 : decode cX1_allNotes 7 = .ok (.isub, 1) := dk_100 (dk_at dksX1_allNotes_0 7 rfl rfl)
theorem dX1_allNotes_8 : decode cX1_allNotes 8 = .ok (.ireturn, 1) := dk_172 (dk_at dksX1_allNotes_0 8 rfl rfl)
abbrev cX1_bench : ByteArray := prog_1_method_56_code
def yX1_bench : MethodName := ⟨RX1, "bench", "()I"⟩
theorem dX1_bench_0 : decode cX1_bench 0 = .ok (.aload_n 0, 1) := by decide +kernel
theorem dX1_bench_1 : decode cX1_bench 1 = .ok (.invokevirtual 368, 3) := by decide +kernel
theorem dX1_bench_4 : decode cX1_bench 4 = .ok (.ireturn, 1) := by decide +kernel
abbrev cX1_layBench : ByteArray := prog_1_method_55_code
def yX1_layBench : MethodName := ⟨RX1, "layBench", "()I"⟩
def dkwX1_layBench_7 : List UInt8 := [132, 2, 1, 167, 255, 227, 27, 172]
abbrev dktX1_layBench_7 : List UInt8 := dkwX1_layBench_7 ++ []
def dkwX1_layBench_6 : List UInt8 := [182, 0, 157, 162, 0, 27, 27, 42, 180, 0, 75, 28, 16, 7, 120, 4, 28, 120, 128, 46, 184, 0, 148, 60]
abbrev dktX1_layBench_6 : List UInt8 := dkwX1_layBench_6 ++ dktX1_layBench_7
def dkwX1_layBench_5 : List UInt8 := [27, 128, 29, 79, 132, 2, 1, 167, 255, 191, 132, 1, 255, 167, 255, 179, 3, 60, 3, 61, 28, 42]
abbrev dktX1_layBench_5 : List UInt8 := dkwX1_layBench_5 ++ dktX1_layBench_6
def dkwX1_layBench_4 : List UInt8 := [21, 4, 27, 182, 1, 108, 184, 0, 148, 62, 132, 4, 1, 167, 255, 222, 42, 180, 0, 75, 28, 16, 7, 120]
abbrev dktX1_layBench_4 : List UInt8 := dkwX1_layBench_4 ++ dktX1_layBench_5
def dkwX1_layBench_3 : List UInt8 := [54, 4, 21, 4, 42, 182, 0, 157, 162, 0, 31, 27, 21, 4, 184, 1, 86, 154, 0, 16, 29, 42, 28]
abbrev dktX1_layBench_3 : List UInt8 := dkwX1_layBench_3 ++ dktX1_layBench_4
def dkwX1_layBench_2 : List UInt8 := [182, 0, 157, 120, 4, 100, 60, 27, 158, 0, 79, 3, 61, 28, 42, 182, 0, 157, 162, 0, 63, 3, 62, 3]
abbrev dktX1_layBench_2 : List UInt8 := dkwX1_layBench_2 ++ dktX1_layBench_3
def dkwX1_layBench_1 : List UInt8 := [28, 96, 42, 27, 28, 182, 1, 102, 79, 132, 2, 1, 167, 255, 230, 132, 1, 1, 167, 255, 216, 4, 42]
abbrev dktX1_layBench_1 : List UInt8 := dkwX1_layBench_1 ++ dktX1_layBench_2
def dkwX1_layBench_0 : List UInt8 := [3, 60, 27, 16, 6, 162, 0, 40, 3, 61, 28, 16, 6, 162, 0, 26, 42, 180, 0, 72, 16, 6, 27, 104]
abbrev dktX1_layBench_0 : List UInt8 := dkwX1_layBench_0 ++ dktX1_layBench_1
theorem dksX1_layBench_0 : cX1_layBench.data.toList.drop 0 = dktX1_layBench_0 := by decide +kernel
theorem dksX1_layBench_1 : cX1_layBench.data.toList.drop 24 = dktX1_layBench_1 := dk_seg dksX1_layBench_0 24 rfl rfl
theorem dksX1_layBench_2 : cX1_layBench.data.toList.drop 47 = dktX1_layBench_2 := dk_seg dksX1_layBench_1 23 rfl rfl
theorem dksX1_layBench_3 : cX1_layBench.data.toList.drop 71 = dktX1_layBench_3 := dk_seg dksX1_layBench_2 24 rfl rfl
theorem dksX1_layBench_4 : cX1_layBench.data.toList.drop 94 = dktX1_layBench_4 := dk_seg dksX1_layBench_3 23 rfl rfl
theorem dksX1_layBench_5 : cX1_layBench.data.toList.drop 118 = dktX1_layBench_5 := dk_seg dksX1_layBench_4 24 rfl rfl
theorem dksX1_layBench_6 : cX1_layBench.data.toList.drop 140 = dktX1_layBench_6 := dk_seg dksX1_layBench_5 22 rfl rfl
theorem dksX1_layBench_7 : cX1_layBench.data.toList.drop 164 = dktX1_layBench_7 := dk_seg dksX1_layBench_6 24 rfl rfl
theorem dX1_layBench_0 : decode cX1_layBench 0 = .ok (.iconst 0, 1) := dk_3 (dk_at dksX1_layBench_0 0 rfl rfl)
theorem dX1_layBench_1 : decode cX1_layBench 1 = .ok (.istore_n 1, 1) := dk_60 (dk_at dksX1_layBench_0 1 rfl rfl)
theorem dX1_layBench_2 : decode cX1_layBench 2 = .ok (.iload_n 1, 1) := dk_27 (dk_at dksX1_layBench_0 2 rfl rfl)
theorem dX1_layBench_3 : decode cX1_layBench 3 = .ok (.bipush 6, 2) := dk_16 6 (dk_at dksX1_layBench_0 3 rfl rfl)
theorem dX1_layBench_5 : decode cX1_layBench 5 = .ok (.if_icmp .ge 40, 3) := dk_162 0 40 (dk_at dksX1_layBench_0 5 rfl rfl)
theorem dX1_layBench_8 : decode cX1_layBench 8 = .ok (.iconst 0, 1) := dk_3 (dk_at dksX1_layBench_0 8 rfl rfl)
theorem dX1_layBench_9 : decode cX1_layBench 9 = .ok (.istore_n 2, 1) := dk_61 (dk_at dksX1_layBench_0 9 rfl rfl)
theorem dX1_layBench_10 : decode cX1_layBench 10 = .ok (.iload_n 2, 1) := dk_28 (dk_at dksX1_layBench_0 10 rfl rfl)
theorem dX1_layBench_11 : decode cX1_layBench 11 = .ok (.bipush 6, 2) := dk_16 6 (dk_at dksX1_layBench_0 11 rfl rfl)
theorem dX1_layBench_13 : decode cX1_layBench 13 = .ok (.if_icmp .ge 26, 3) := dk_162 0 26 (dk_at dksX1_layBench_0 13 rfl rfl)
theorem dX1_layBench_16 : decode cX1_layBench 16 = .ok (.aload_n 0, 1) := dk_42 (dk_at dksX1_layBench_0 16 rfl rfl)
theorem dX1_layBench_17 : decode cX1_layBench 17 = .ok (.getfield 72, 3) := dk_180 0 72 (dk_at dksX1_layBench_0 17 rfl rfl)
theorem dX1_layBench_20 : decode cX1_layBench 20 = .ok (.bipush 6, 2) := dk_16 6 (dk_at dksX1_layBench_0 20 rfl rfl)
theorem dX1_layBench_22 : decode cX1_layBench 22 = .ok (.iload_n 1, 1) := dk_27 (dk_at dksX1_layBench_0 22 rfl rfl)
theorem dX1_layBench_23 : decode cX1_layBench 23 = .ok (.imul, 1) := dk_104 (dk_at dksX1_layBench_0 23 rfl rfl)
theorem dX1_layBench_24 : decode cX1_layBench 24 = .ok (.iload_n 2, 1) := dk_28 (dk_at dksX1_layBench_1 0 rfl rfl)
theorem dX1_layBench_25 : decode cX1_layBench 25 = .ok (.iadd, 1) := dk_96 (dk_at dksX1_layBench_1 1 rfl rfl)
theorem dX1_layBench_26 : decode cX1_layBench 26 = .ok (.aload_n 0, 1) := dk_42 (dk_at dksX1_layBench_1 2 rfl rfl)
theorem dX1_layBench_27 : decode cX1_layBench 27 = .ok (.iload_n 1, 1) := dk_27 (dk_at dksX1_layBench_1 3 rfl rfl)
theorem dX1_layBench_28 : decode cX1_layBench 28 = .ok (.iload_n 2, 1) := dk_28 (dk_at dksX1_layBench_1 4 rfl rfl)
theorem dX1_layBench_29 : decode cX1_layBench 29 = .ok (.invokevirtual 358, 3) := dk_182 1 102 (dk_at dksX1_layBench_1 5 rfl rfl)
theorem dX1_layBench_32 : decode cX1_layBench 32 = .ok (.iastore, 1) := dk_79 (dk_at dksX1_layBench_1 8 rfl rfl)
theorem dX1_layBench_33 : decode cX1_layBench 33 = .ok (.iinc 2 1, 3) := dk_132 2 1 (dk_at dksX1_layBench_1 9 rfl rfl)
theorem dX1_layBench_36 : decode cX1_layBench 36 = .ok (.goto (-26), 3) := dk_167 255 230 (dk_at dksX1_layBench_1 12 rfl rfl)
theorem dX1_layBench_39 : decode cX1_layBench 39 = .ok (.iinc 1 1, 3) := dk_132 1 1 (dk_at dksX1_layBench_1 15 rfl rfl)
theorem dX1_layBench_42 : decode cX1_layBench 42 = .ok (.goto (-40), 3) := dk_167 255 216 (dk_at dksX1_layBench_1 18 rfl rfl)
theorem dX1_layBench_45 : decode cX1_layBench 45 = .ok (.iconst 1, 1) := dk_4 (dk_at dksX1_layBench_1 21 rfl rfl)
theorem dX1_layBench_46 : decode cX1_layBench 46 = .ok (.aload_n 0, 1) := dk_42 (dk_at dksX1_layBench_1 22 rfl rfl)
theorem dX1_layBench_47 : decode cX1_layBench 47 = .ok (.invokevirtual 157, 3) := dk_182 0 157 (dk_at dksX1_layBench_2 0 rfl rfl)
theorem dX1_layBench_50 : decode cX1_layBench 50 = .ok (.ishl, 1) := dk_120 (dk_at dksX1_layBench_2 3 rfl rfl)
theorem dX1_layBench_51 : decode cX1_layBench 51 = .ok (.iconst 1, 1) := dk_4 (dk_at dksX1_layBench_2 4 rfl rfl)
theorem dX1_layBench_52 : decode cX1_layBench 52 = .ok (.isub, 1) := dk_100 (dk_at dksX1_layBench_2 5 rfl rfl)
theorem dX1_layBench_53 : decode cX1_layBench 53 = .ok (.istore_n 1, 1) := dk_60 (dk_at dksX1_layBench_2 6 rfl rfl)
theorem dX1_layBench_54 : decode cX1_layBench 54 = .ok (.iload_n 1, 1) := dk_27 (dk_at dksX1_layBench_2 7 rfl rfl)
theorem dX1_layBench_55 : decode cX1_layBench 55 = .ok (.ifCond .le 79, 3) := dk_158 0 79 (dk_at dksX1_layBench_2 8 rfl rfl)
theorem dX1_layBench_58 : decode cX1_layBench 58 = .ok (.iconst 0, 1) := dk_3 (dk_at dksX1_layBench_2 11 rfl rfl)
theorem dX1_layBench_59 : decode cX1_layBench 59 = .ok (.istore_n 2, 1) := dk_61 (dk_at dksX1_layBench_2 12 rfl rfl)
theorem dX1_layBench_60 : decode cX1_layBench 60 = .ok (.iload_n 2, 1) := dk_28 (dk_at dksX1_layBench_2 13 rfl rfl)
theorem dX1_layBench_61 : decode cX1_layBench 61 = .ok (.aload_n 0, 1) := dk_42 (dk_at dksX1_layBench_2 14 rfl rfl)
theorem dX1_layBench_62 : decode cX1_layBench 62 = .ok (.invokevirtual 157, 3) := dk_182 0 157 (dk_at dksX1_layBench_2 15 rfl rfl)
theorem dX1_layBench_65 : decode cX1_layBench 65 = .ok (.if_icmp .ge 63, 3) := dk_162 0 63 (dk_at dksX1_layBench_2 18 rfl rfl)
theorem dX1_layBench_68 : decode cX1_layBench 68 = .ok (.iconst 0, 1) := dk_3 (dk_at dksX1_layBench_2 21 rfl rfl)
theorem dX1_layBench_69 : decode cX1_layBench 69 = .ok (.istore_n 3, 1) := dk_62 (dk_at dksX1_layBench_2 22 rfl rfl)
theorem dX1_layBench_70 : decode cX1_layBench 70 = .ok (.iconst 0, 1) := dk_3 (dk_at dksX1_layBench_2 23 rfl rfl)
theorem dX1_layBench_71 : decode cX1_layBench 71 = .ok (.istore 4, 2) := dk_54 4 (dk_at dksX1_layBench_3 0 rfl rfl)
theorem dX1_layBench_73 : decode cX1_layBench 73 = .ok (.iload 4, 2) := dk_21 4 (dk_at dksX1_layBench_3 2 rfl rfl)
theorem dX1_layBench_75 : decode cX1_layBench 75 = .ok (.aload_n 0, 1) := dk_42 (dk_at dksX1_layBench_3 4 rfl rfl)
theorem dX1_layBench_76 : decode cX1_layBench 76 = .ok (.invokevirtual 157, 3) := dk_182 0 157 (dk_at dksX1_layBench_3 5 rfl rfl)
theorem dX1_layBench_79 : decode cX1_layBench 79 = .ok (.if_icmp .ge 31, 3) := dk_162 0 31 (dk_at dksX1_layBench_3 8 rfl rfl)
theorem dX1_layBench_82 : decode cX1_layBench 82 = .ok (.iload_n 1, 1) := dk_27 (dk_at dksX1_layBench_3 11 rfl rfl)
theorem dX1_layBench_83 : decode cX1_layBench 83 = .ok (.iload 4, 2) := dk_21 4 (dk_at dksX1_layBench_3 12 rfl rfl)
theorem dX1_layBench_85 : decode cX1_layBench 85 = .ok (.invokestatic 342, 3) := dk_184 1 86 (dk_at dksX1_layBench_3 14 rfl rfl)
theorem dX1_layBench_88 : decode cX1_layBench 88 = .ok (.ifCond .ne 16, 3) := dk_154 0 16 (dk_at dksX1_layBench_3 17 rfl rfl)
theorem dX1_layBench_91 : decode cX1_layBench 91 = .ok (.iload_n 3, 1) := dk_29 (dk_at dksX1_layBench_3 20 rfl rfl)
theorem dX1_layBench_92 : decode cX1_layBench 92 = .ok (.aload_n 0, 1) := dk_42 (dk_at dksX1_layBench_3 21 rfl rfl)
theorem dX1_layBench_93 : decode cX1_layBench 93 = .ok (.iload_n 2, 1) := dk_28 (dk_at dksX1_layBench_3 22 rfl rfl)
theorem dX1_layBench_94 : decode cX1_layBench 94 = .ok (.iload 4, 2) := dk_21 4 (dk_at dksX1_layBench_4 0 rfl rfl)
theorem dX1_layBench_96 : decode cX1_layBench 96 = .ok (.iload_n 1, 1) := dk_27 (dk_at dksX1_layBench_4 2 rfl rfl)
theorem dX1_layBench_97 : decode cX1_layBench 97 = .ok (.invokevirtual 364, 3) := dk_182 1 108 (dk_at dksX1_layBench_4 3 rfl rfl)
theorem dX1_layBench_100 : decode cX1_layBench 100 = .ok (.invokestatic 148, 3) := dk_184 0 148 (dk_at dksX1_layBench_4 6 rfl rfl)
theorem dX1_layBench_103 : decode cX1_layBench 103 = .ok (.istore_n 3, 1) := dk_62 (dk_at dksX1_layBench_4 9 rfl rfl)
theorem dX1_layBench_104 : decode cX1_layBench 104 = .ok (.iinc 4 1, 3) := dk_132 4 1 (dk_at dksX1_layBench_4 10 rfl rfl)
theorem dX1_layBench_107 : decode cX1_layBench 107 = .ok (.goto (-34), 3) := dk_167 255 222 (dk_at dksX1_layBench_4 13 rfl rfl)
theorem dX1_layBench_110 : decode cX1_layBench 110 = .ok (.aload_n 0, 1) := dk_42 (dk_at dksX1_layBench_4 16 rfl rfl)
theorem dX1_layBench_111 : decode cX1_layBench 111 = .ok (.getfield 75, 3) := dk_180 0 75 (dk_at dksX1_layBench_4 17 rfl rfl)
theorem dX1_layBench_114 : decode cX1_layBench 114 = .ok (.iload_n 2, 1) := dk_28 (dk_at dksX1_layBench_4 20 rfl rfl)
theorem dX1_layBench_115 : decode cX1_layBench 115 = .ok (.bipush 7, 2) := dk_16 7 (dk_at dksX1_layBench_4 21 rfl rfl)
theorem dX1_layBench_117 : decode cX1_layBench 117 = .ok (.ishl, 1) := dk_120 (dk_at dksX1_layBench_4 23 rfl rfl)
theorem dX1_layBench_118 : decode cX1_layBench 118 = .ok (.iload_n 1, 1) := dk_27 (dk_at dksX1_layBench_5 0 rfl rfl)
theorem dX1_layBench_119 : decode cX1_layBench 119 = .ok (.ior, 1) := dk_128 (dk_at dksX1_layBench_5 1 rfl rfl)
theorem dX1_layBench_120 : decode cX1_layBench 120 = .ok (.iload_n 3, 1) := dk_29 (dk_at dksX1_layBench_5 2 rfl rfl)
theorem dX1_layBench_121 : decode cX1_layBench 121 = .ok (.iastore, 1) := dk_79 (dk_at dksX1_layBench_5 3 rfl rfl)
theorem dX1_layBench_122 : decode cX1_layBench 122 = .ok (.iinc 2 1, 3) := dk_132 2 1 (dk_at dksX1_layBench_5 4 rfl rfl)
theorem dX1_layBench_125 : decode cX1_layBench 125 = .ok (.goto (-65), 3) := dk_167 255 191 (dk_at dksX1_layBench_5 7 rfl rfl)
theorem dX1_layBench_128 : decode cX1_layBench 128 = .ok (.iinc 1 (-1), 3) := dk_132 1 255 (dk_at dksX1_layBench_5 10 rfl rfl)
theorem dX1_layBench_131 : decode cX1_layBench 131 = .ok (.goto (-77), 3) := dk_167 255 179 (dk_at dksX1_layBench_5 13 rfl rfl)
theorem dX1_layBench_134 : decode cX1_layBench 134 = .ok (.iconst 0, 1) := dk_3 (dk_at dksX1_layBench_5 16 rfl rfl)
theorem dX1_layBench_135 : decode cX1_layBench 135 = .ok (.istore_n 1, 1) := dk_60 (dk_at dksX1_layBench_5 17 rfl rfl)
theorem dX1_layBench_136 : decode cX1_layBench 136 = .ok (.iconst 0, 1) := dk_3 (dk_at dksX1_layBench_5 18 rfl rfl)
theorem dX1_layBench_137 : decode cX1_layBench 137 = .ok (.istore_n 2, 1) := dk_61 (dk_at dksX1_layBench_5 19 rfl rfl)
theorem dX1_layBench_138 : decode cX1_layBench 138 = .ok (.iload_n 2, 1) := dk_28 (dk_at dksX1_layBench_5 20 rfl rfl)
theorem dX1_layBench_139 : decode cX1_layBench 139 = .ok (.aload_n 0, 1) := dk_42 (dk_at dksX1_layBench_5 21 rfl rfl)
theorem dX1_layBench_140 : decode cX1_layBench 140 = .ok (.invokevirtual 157, 3) := dk_182 0 157 (dk_at dksX1_layBench_6 0 rfl rfl)
theorem dX1_layBench_143 : decode cX1_layBench 143 = .ok (.if_icmp .ge 27, 3) := dk_162 0 27 (dk_at dksX1_layBench_6 3 rfl rfl)
theorem dX1_layBench_146 : decode cX1_layBench 146 = .ok (.iload_n 1, 1) := dk_27 (dk_at dksX1_layBench_6 6 rfl rfl)
theorem dX1_layBench_147 : decode cX1_layBench 147 = .ok (.aload_n 0, 1) := dk_42 (dk_at dksX1_layBench_6 7 rfl rfl)
theorem dX1_layBench_148 : decode cX1_layBench 148 = .ok (.getfield 75, 3) := dk_180 0 75 (dk_at dksX1_layBench_6 8 rfl rfl)
theorem dX1_layBench_151 : decode cX1_layBench 151 = .ok (.iload_n 2, 1) := dk_28 (dk_at dksX1_layBench_6 11 rfl rfl)
theorem dX1_layBench_152 : decode cX1_layBench 152 = .ok (.bipush 7, 2) := dk_16 7 (dk_at dksX1_layBench_6 12 rfl rfl)
theorem dX1_layBench_154 : decode cX1_layBench 154 = .ok (.ishl, 1) := dk_120 (dk_at dksX1_layBench_6 14 rfl rfl)
theorem dX1_layBench_155 : decode cX1_layBench 155 = .ok (.iconst 1, 1) := dk_4 (dk_at dksX1_layBench_6 15 rfl rfl)
theorem dX1_layBench_156 : decode cX1_layBench 156 = .ok (.iload_n 2, 1) := dk_28 (dk_at dksX1_layBench_6 16 rfl rfl)
theorem dX1_layBench_157 : decode cX1_layBench 157 = .ok (.ishl, 1) := dk_120 (dk_at dksX1_layBench_6 17 rfl rfl)
theorem dX1_layBench_158 : decode cX1_layBench 158 = .ok (.ior, 1) := dk_128 (dk_at dksX1_layBench_6 18 rfl rfl)
theorem dX1_layBench_159 : decode cX1_layBench 159 = .ok (.iaload, 1) := dk_46 (dk_at dksX1_layBench_6 19 rfl rfl)
theorem dX1_layBench_160 : decode cX1_layBench 160 = .ok (.invokestatic 148, 3) := dk_184 0 148 (dk_at dksX1_layBench_6 20 rfl rfl)
theorem dX1_layBench_163 : decode cX1_layBench 163 = .ok (.istore_n 1, 1) := dk_60 (dk_at dksX1_layBench_6 23 rfl rfl)
theorem dX1_layBench_164 : decode cX1_layBench 164 = .ok (.iinc 2 1, 3) := dk_132 2 1 (dk_at dksX1_layBench_7 0 rfl rfl)
theorem dX1_layBench_167 : decode cX1_layBench 167 = .ok (.goto (-29), 3) := dk_167 255 227 (dk_at dksX1_layBench_7 3 rfl rfl)
theorem dX1_layBench_170 : decode cX1_layBench 170 = .ok (.iload_n 1, 1) := dk_27 (dk_at dksX1_layBench_7 6 rfl rfl)
theorem dX1_layBench_171 : decode cX1_layBench 171 = .ok (.ireturn, 1) := dk_172 (dk_at dksX1_layBench_7 7 rfl rfl)
abbrev cX1_handedOn : ByteArray := prog_1_method_51_code
def yX1_handedOn : MethodName := ⟨RX1, "handedOn", "(II)I"⟩
def dkwX1_handedOn_4 : List UInt8 := [172]
abbrev dktX1_handedOn_4 : List UInt8 := dkwX1_handedOn_4 ++ []
def dkwX1_handedOn_3 : List UInt8 := [180, 1, 40, 21, 4, 46, 27, 160, 0, 7, 4, 167, 0, 4, 3, 96, 62, 132, 4, 1, 167, 255, 171, 29]
abbrev dktX1_handedOn_3 : List UInt8 := dkwX1_handedOn_3 ++ dktX1_handedOn_4
def dkwX1_handedOn_2 : List UInt8 := [159, 0, 33, 42, 180, 0, 44, 180, 1, 40, 21, 4, 4, 100, 46, 28, 160, 0, 21, 42, 180, 0, 44]
abbrev dktX1_handedOn_2 : List UInt8 := dkwX1_handedOn_2 ++ dktX1_handedOn_3
def dkwX1_handedOn_1 : List UInt8 := [180, 1, 40, 21, 4, 4, 100, 46, 27, 160, 0, 17, 42, 180, 0, 44, 180, 1, 40, 21, 4, 46, 28]
abbrev dktX1_handedOn_1 : List UInt8 := dkwX1_handedOn_1 ++ dktX1_handedOn_2
def dkwX1_handedOn_0 : List UInt8 := [3, 62, 4, 54, 4, 21, 4, 42, 182, 0, 163, 162, 0, 82, 29, 27, 28, 159, 0, 67, 42, 180, 0, 44]
abbrev dktX1_handedOn_0 : List UInt8 := dkwX1_handedOn_0 ++ dktX1_handedOn_1
theorem dksX1_handedOn_0 : cX1_handedOn.data.toList.drop 0 = dktX1_handedOn_0 := by decide +kernel
theorem dksX1_handedOn_1 : cX1_handedOn.data.toList.drop 24 = dktX1_handedOn_1 := dk_seg dksX1_handedOn_0 24 rfl rfl
theorem dksX1_handedOn_2 : cX1_handedOn.data.toList.drop 47 = dktX1_handedOn_2 := dk_seg dksX1_handedOn_1 23 rfl rfl
theorem dksX1_handedOn_3 : cX1_handedOn.data.toList.drop 70 = dktX1_handedOn_3 := dk_seg dksX1_handedOn_2 23 rfl rfl
theorem dksX1_handedOn_4 : cX1_handedOn.data.toList.drop 94 = dktX1_handedOn_4 := dk_seg dksX1_handedOn_3 24 rfl rfl
theorem dX1_handedOn_0 : decode cX1_handedOn 0 = .ok (.iconst 0, 1) := dk_3 (dk_at dksX1_handedOn_0 0 rfl rfl)
theorem dX1_handedOn_1 : decode cX1_handedOn 1 = .ok (.istore_n 3, 1) := dk_62 (dk_at dksX1_handedOn_0 1 rfl rfl)
theorem dX1_handedOn_2 : decode cX1_handedOn 2 = .ok (.iconst 1, 1) := dk_4 (dk_at dksX1_handedOn_0 2 rfl rfl)
theorem dX1_handedOn_3 : decode cX1_handedOn 3 = .ok (.istore 4, 2) := dk_54 4 (dk_at dksX1_handedOn_0 3 rfl rfl)
theorem dX1_handedOn_5 : decode cX1_handedOn 5 = .ok (.iload 4, 2) := dk_21 4 (dk_at dksX1_handedOn_0 5 rfl rfl)
theorem dX1_handedOn_7 : decode cX1_handedOn 7 = .ok (.aload_n 0, 1) := dk_42 (dk_at dksX1_handedOn_0 7 rfl rfl)
theorem dX1_handedOn_8 : decode cX1_handedOn 8 = .ok (.invokevirtual 163, 3) := dk_182 0 163 (dk_at dksX1_handedOn_0 8 rfl rfl)
theorem dX1_handedOn_11 : decode cX1_handedOn 11 = .ok (.if_icmp .ge 82, 3) := dk_162 0 82 (dk_at dksX1_handedOn_0 11 rfl rfl)
theorem dX1_handedOn_14 : decode cX1_handedOn 14 = .ok (.iload_n 3, 1) := dk_29 (dk_at dksX1_handedOn_0 14 rfl rfl)
theorem dX1_handedOn_15 : decode cX1_handedOn 15 = .ok (.iload_n 1, 1) := dk_27 (dk_at dksX1_handedOn_0 15 rfl rfl)
theorem dX1_handedOn_16 : decode cX1_handedOn 16 = .ok (.iload_n 2, 1) := dk_28 (dk_at dksX1_handedOn_0 16 rfl rfl)
theorem dX1_handedOn_17 : decode cX1_handedOn 17 = .ok (.if_icmp .eq 67, 3) := dk_159 0 67 (dk_at dksX1_handedOn_0 17 rfl rfl)
theorem dX1_handedOn_20 : decode cX1_handedOn 20 = .ok (.aload_n 0, 1) := dk_42 (dk_at dksX1_handedOn_0 20 rfl rfl)
theorem dX1_handedOn_21 : decode cX1_handedOn 21 = .ok (.getfield 44, 3) := dk_180 0 44 (dk_at dksX1_handedOn_0 21 rfl rfl)
theorem dX1_handedOn_24 : decode cX1_handedOn 24 = .ok (.getfield 296, 3) := dk_180 1 40 (dk_at dksX1_handedOn_1 0 rfl rfl)
theorem dX1_handedOn_27 : decode cX1_handedOn 27 = .ok (.iload 4, 2) := dk_21 4 (dk_at dksX1_handedOn_1 3 rfl rfl)
theorem dX1_handedOn_29 : decode cX1_handedOn 29 = .ok (.iconst 1, 1) := dk_4 (dk_at dksX1_handedOn_1 5 rfl rfl)
theorem dX1_handedOn_30 : decode cX1_handedOn 30 = .ok (.isub, 1) := dk_100 (dk_at dksX1_handedOn_1 6 rfl rfl)
theorem dX1_handedOn_31 : decode cX1_handedOn 31 = .ok (.iaload, 1) := dk_46 (dk_at dksX1_handedOn_1 7 rfl rfl)
theorem dX1_handedOn_32 : decode cX1_handedOn 32 = .ok (.iload_n 1, 1) := dk_27 (dk_at dksX1_handedOn_1 8 rfl rfl)
theorem dX1_handedOn_33 : decode cX1_handedOn 33 = .ok (.if_icmp .ne 17, 3) := dk_160 0 17 (dk_at dksX1_handedOn_1 9 rfl rfl)
theorem dX1_handedOn_36 : decode cX1_handedOn 36 = .ok (.aload_n 0, 1) := dk_42 (dk_at dksX1_handedOn_1 12 rfl rfl)
theorem dX1_handedOn_37 : decode cX1_handedOn 37 = .ok (.getfield 44, 3) := dk_180 0 44 (dk_at dksX1_handedOn_1 13 rfl rfl)
theorem dX1_handedOn_40 : decode cX1_handedOn 40 = .ok (.getfield 296, 3) := dk_180 1 40 (dk_at dksX1_handedOn_1 16 rfl rfl)
theorem dX1_handedOn_43 : decode cX1_handedOn 43 = .ok (.iload 4, 2) := dk_21 4 (dk_at dksX1_handedOn_1 19 rfl rfl)
theorem dX1_handedOn_45 : decode cX1_handedOn 45 = .ok (.iaload, 1) := dk_46 (dk_at dksX1_handedOn_1 21 rfl rfl)
theorem dX1_handedOn_46 : decode cX1_handedOn 46 = .ok (.iload_n 2, 1) := dk_28 (dk_at dksX1_handedOn_1 22 rfl rfl)
theorem dX1_handedOn_47 : decode cX1_handedOn 47 = .ok (.if_icmp .eq 33, 3) := dk_159 0 33 (dk_at dksX1_handedOn_2 0 rfl rfl)
theorem dX1_handedOn_50 : decode cX1_handedOn 50 = .ok (.aload_n 0, 1) := dk_42 (dk_at dksX1_handedOn_2 3 rfl rfl)
theorem dX1_handedOn_51 : decode cX1_handedOn 51 = .ok (.getfield 44, 3) := dk_180 0 44 (dk_at dksX1_handedOn_2 4 rfl rfl)
theorem dX1_handedOn_54 : decode cX1_handedOn 54 = .ok (.getfield 296, 3) := dk_180 1 40 (dk_at dksX1_handedOn_2 7 rfl rfl)
theorem dX1_handedOn_57 : decode cX1_handedOn 57 = .ok (.iload 4, 2) := dk_21 4 (dk_at dksX1_handedOn_2 10 rfl rfl)
theorem dX1_handedOn_59 : decode cX1_handedOn 59 = .ok (.iconst 1, 1) := dk_4 (dk_at dksX1_handedOn_2 12 rfl rfl)
theorem dX1_handedOn_60 : decode cX1_handedOn 60 = .ok (.isub, 1) := dk_100 (dk_at dksX1_handedOn_2 13 rfl rfl)
theorem dX1_handedOn_61 : decode cX1_handedOn 61 = .ok (.iaload, 1) := dk_46 (dk_at dksX1_handedOn_2 14 rfl rfl)
theorem dX1_handedOn_62 : decode cX1_handedOn 62 = .ok (.iload_n 2, 1) := dk_28 (dk_at dksX1_handedOn_2 15 rfl rfl)
theorem dX1_handedOn_63 : decode cX1_handedOn 63 = .ok (.if_icmp .ne 21, 3) := dk_160 0 21 (dk_at dksX1_handedOn_2 16 rfl rfl)
theorem dX1_handedOn_66 : decode cX1_handedOn 66 = .ok (.aload_n 0, 1) := dk_42 (dk_at dksX1_handedOn_2 19 rfl rfl)
theorem dX1_handedOn_67 : decode cX1_handedOn 67 = .ok (.getfield 44, 3) := dk_180 0 44 (dk_at dksX1_handedOn_2 20 rfl rfl)
theorem dX1_handedOn_70 : decode cX1_handedOn 70 = .ok (.getfield 296, 3) := dk_180 1 40 (dk_at dksX1_handedOn_3 0 rfl rfl)
theorem dX1_handedOn_73 : decode cX1_handedOn 73 = .ok (.iload 4, 2) := dk_21 4 (dk_at dksX1_handedOn_3 3 rfl rfl)
theorem dX1_handedOn_75 : decode cX1_handedOn 75 = .ok (.iaload, 1) := dk_46 (dk_at dksX1_handedOn_3 5 rfl rfl)
theorem dX1_handedOn_76 : decode cX1_handedOn 76 = .ok (.iload_n 1, 1) := dk_27 (dk_at dksX1_handedOn_3 6 rfl rfl)
theorem dX1_handedOn_77 : decode cX1_handedOn 77 = .ok (.if_icmp .ne 7, 3) := dk_160 0 7 (dk_at dksX1_handedOn_3 7 rfl rfl)
theorem dX1_handedOn_80 : decode cX1_handedOn 80 = .ok (.iconst 1, 1) := dk_4 (dk_at dksX1_handedOn_3 10 rfl rfl)
theorem dX1_handedOn_81 : decode cX1_handedOn 81 = .ok (.goto 4, 3) := dk_167 0 4 (dk_at dksX1_handedOn_3 11 rfl rfl)
theorem dX1_handedOn_84 : decode cX1_handedOn 84 = .ok (.iconst 0, 1) := dk_3 (dk_at dksX1_handedOn_3 14 rfl rfl)
theorem dX1_handedOn_85 : decode cX1_handedOn 85 = .ok (.iadd, 1) := dk_96 (dk_at dksX1_handedOn_3 15 rfl rfl)
theorem dX1_handedOn_86 : decode cX1_handedOn 86 = .ok (.istore_n 3, 1) := dk_62 (dk_at dksX1_handedOn_3 16 rfl rfl)
theorem dX1_handedOn_87 : decode cX1_handedOn 87 = .ok (.iinc 4 1, 3) := dk_132 4 1 (dk_at dksX1_handedOn_3 17 rfl rfl)
theorem dX1_handedOn_90 : decode cX1_handedOn 90 = .ok (.goto (-85), 3) := dk_167 255 171 (dk_at dksX1_handedOn_3 20 rfl rfl)
theorem dX1_handedOn_93 : decode cX1_handedOn 93 = .ok (.iload_n 3, 1) := dk_29 (dk_at dksX1_handedOn_3 23 rfl rfl)
theorem dX1_handedOn_94 : decode cX1_handedOn 94 = .ok (.ireturn, 1) := dk_172 (dk_at dksX1_handedOn_4 0 rfl rfl)
abbrev cX1_onFrom : ByteArray := prog_1_method_54_code
def yX1_onFrom : MethodName := ⟨RX1, "onFrom", "(III)I"⟩
def dkwX1_onFrom_0 : List UInt8 := [42, 27, 28, 182, 1, 105, 42, 180, 0, 75, 28, 16, 7, 120, 29, 128, 4, 28, 120, 128, 46, 96, 172]
abbrev dktX1_onFrom_0 : List UInt8 := dkwX1_onFrom_0 ++ []
theorem dksX1_onFrom_0 : cX1_onFrom.data.toList.drop 0 = dktX1_onFrom_0 := by decide +kernel
theorem dX1_onFrom_0 : decode cX1_onFrom 0 = .ok (.aload_n 0, 1) := dk_42 (dk_at dksX1_onFrom_0 0 rfl rfl)
theorem dX1_onFrom_1 : decode cX1_onFrom 1 = .ok (.iload_n 1, 1) := dk_27 (dk_at dksX1_onFrom_0 1 rfl rfl)
theorem dX1_onFrom_2 : decode cX1_onFrom 2 = .ok (.iload_n 2, 1) := dk_28 (dk_at dksX1_onFrom_0 2 rfl rfl)
theorem dX1_onFrom_3 : decode cX1_onFrom 3 = .ok (.invokevirtual 361, 3) := dk_182 1 105 (dk_at dksX1_onFrom_0 3 rfl rfl)
theorem dX1_onFrom_6 : decode cX1_onFrom 6 = .ok (.aload_n 0, 1) := dk_42 (dk_at dksX1_onFrom_0 6 rfl rfl)
theorem dX1_onFrom_7 : decode cX1_onFrom 7 = .ok (.getfield 75, 3) := dk_180 0 75 (dk_at dksX1_onFrom_0 7 rfl rfl)
theorem dX1_onFrom_10 : decode cX1_onFrom 10 = .ok (.iload_n 2, 1) := dk_28 (dk_at dksX1_onFrom_0 10 rfl rfl)
theorem dX1_onFrom_11 : decode cX1_onFrom 11 = .ok (.bipush 7, 2) := dk_16 7 (dk_at dksX1_onFrom_0 11 rfl rfl)
theorem dX1_onFrom_13 : decode cX1_onFrom 13 = .ok (.ishl, 1) := dk_120 (dk_at dksX1_onFrom_0 13 rfl rfl)
theorem dX1_onFrom_14 : decode cX1_onFrom 14 = .ok (.iload_n 3, 1) := dk_29 (dk_at dksX1_onFrom_0 14 rfl rfl)
theorem dX1_onFrom_15 : decode cX1_onFrom 15 = .ok (.ior, 1) := dk_128 (dk_at dksX1_onFrom_0 15 rfl rfl)
theorem dX1_onFrom_16 : decode cX1_onFrom 16 = .ok (.iconst 1, 1) := dk_4 (dk_at dksX1_onFrom_0 16 rfl rfl)
theorem dX1_onFrom_17 : decode cX1_onFrom 17 = .ok (.iload_n 2, 1) := dk_28 (dk_at dksX1_onFrom_0 17 rfl rfl)
theorem dX1_onFrom_18 : decode cX1_onFrom 18 = .ok (.ishl, 1) := dk_120 (dk_at dksX1_onFrom_0 18 rfl rfl)
theorem dX1_onFrom_19 : decode cX1_onFrom 19 = .ok (.ior, 1) := dk_128 (dk_at dksX1_onFrom_0 19 rfl rfl)
theorem dX1_onFrom_20 : decode cX1_onFrom 20 = .ok (.iaload, 1) := dk_46 (dk_at dksX1_onFrom_0 20 rfl rfl)
theorem dX1_onFrom_21 : decode cX1_onFrom 21 = .ok (.iadd, 1) := dk_96 (dk_at dksX1_onFrom_0 21 rfl rfl)
theorem dX1_onFrom_22 : decode cX1_onFrom 22 = .ok (.ireturn, 1) := dk_172 (dk_at dksX1_onFrom_0 22 rfl rfl)
abbrev cX1_beside : ByteArray := prog_1_method_53_code
def yX1_beside : MethodName := ⟨RX1, "beside", "(II)I"⟩
def dkwX1_beside_1 : List UInt8 := [46, 172]
abbrev dktX1_beside_1 : List UInt8 := dkwX1_beside_1 ++ []
def dkwX1_beside_0 : List UInt8 := [42, 180, 0, 72, 16, 6, 42, 27, 182, 1, 23, 180, 1, 27, 104, 42, 28, 182, 1, 23, 180, 1, 27, 96]
abbrev dktX1_beside_0 : List UInt8 := dkwX1_beside_0 ++ dktX1_beside_1
theorem dksX1_beside_0 : cX1_beside.data.toList.drop 0 = dktX1_beside_0 := by decide +kernel
theorem dksX1_beside_1 : cX1_beside.data.toList.drop 24 = dktX1_beside_1 := dk_seg dksX1_beside_0 24 rfl rfl
theorem dX1_beside_0 : decode cX1_beside 0 = .ok (.aload_n 0, 1) := dk_42 (dk_at dksX1_beside_0 0 rfl rfl)
theorem dX1_beside_1 : decode cX1_beside 1 = .ok (.getfield 72, 3) := dk_180 0 72 (dk_at dksX1_beside_0 1 rfl rfl)
theorem dX1_beside_4 : decode cX1_beside 4 = .ok (.bipush 6, 2) := dk_16 6 (dk_at dksX1_beside_0 4 rfl rfl)
theorem dX1_beside_6 : decode cX1_beside 6 = .ok (.aload_n 0, 1) := dk_42 (dk_at dksX1_beside_0 6 rfl rfl)
theorem dX1_beside_7 : decode cX1_beside 7 = .ok (.iload_n 1, 1) := dk_27 (dk_at dksX1_beside_0 7 rfl rfl)
theorem dX1_beside_8 : decode cX1_beside 8 = .ok (.invokevirtual 279, 3) := dk_182 1 23 (dk_at dksX1_beside_0 8 rfl rfl)
theorem dX1_beside_11 : decode cX1_beside 11 = .ok (.getfield 283, 3) := dk_180 1 27 (dk_at dksX1_beside_0 11 rfl rfl)
theorem dX1_beside_14 : decode cX1_beside 14 = .ok (.imul, 1) := dk_104 (dk_at dksX1_beside_0 14 rfl rfl)
theorem dX1_beside_15 : decode cX1_beside 15 = .ok (.aload_n 0, 1) := dk_42 (dk_at dksX1_beside_0 15 rfl rfl)
theorem dX1_beside_16 : decode cX1_beside 16 = .ok (.iload_n 2, 1) := dk_28 (dk_at dksX1_beside_0 16 rfl rfl)
theorem dX1_beside_17 : decode cX1_beside 17 = .ok (.invokevirtual 279, 3) := dk_182 1 23 (dk_at dksX1_beside_0 17 rfl rfl)
theorem dX1_beside_20 : decode cX1_beside 20 = .ok (.getfield 283, 3) := dk_180 1 27 (dk_at dksX1_beside_0 20 rfl rfl)
theorem dX1_beside_23 : decode cX1_beside 23 = .ok (.iadd, 1) := dk_96 (dk_at dksX1_beside_0 23 rfl rfl)
theorem dX1_beside_24 : decode cX1_beside 24 = .ok (.iaload, 1) := dk_46 (dk_at dksX1_beside_1 0 rfl rfl)
theorem dX1_beside_25 : decode cX1_beside 25 = .ok (.ireturn, 1) := dk_172 (dk_at dksX1_beside_1 1 rfl rfl)
abbrev cX1_wording : ByteArray := prog_1_method_58_code
def yX1_wording : MethodName := ⟨RX1, "wording", "()I"⟩
def dkwX1_wording_1 : List UInt8 := [162, 0, 15, 42, 28, 182, 1, 115, 9, 148, 158, 0, 5, 28, 60, 132, 2, 1, 167, 255, 219, 27, 172]
abbrev dktX1_wording_1 : List UInt8 := dkwX1_wording_1 ++ []
def dkwX1_wording_0 : List UInt8 := [2, 60, 3, 61, 28, 16, 64, 162, 0, 37, 27, 2, 159, 0, 14, 28, 184, 1, 78, 27, 184, 1, 78]
abbrev dktX1_wording_0 : List UInt8 := dkwX1_wording_0 ++ dktX1_wording_1
theorem dksX1_wording_0 : cX1_wording.data.toList.drop 0 = dktX1_wording_0 := by decide +kernel
theorem dksX1_wording_1 : cX1_wording.data.toList.drop 23 = dktX1_wording_1 := dk_seg dksX1_wording_0 23 rfl rfl
theorem dX1_wording_0 : decode cX1_wording 0 = .ok (.iconst (-1), 1) := dk_2 (dk_at dksX1_wording_0 0 rfl rfl)
theorem dX1_wording_1 : decode cX1_wording 1 = .ok (.istore_n 1, 1) := dk_60 (dk_at dksX1_wording_0 1 rfl rfl)
theorem dX1_wording_2 : decode cX1_wording 2 = .ok (.iconst 0, 1) := dk_3 (dk_at dksX1_wording_0 2 rfl rfl)
theorem dX1_wording_3 : decode cX1_wording 3 = .ok (.istore_n 2, 1) := dk_61 (dk_at dksX1_wording_0 3 rfl rfl)
theorem dX1_wording_4 : decode cX1_wording 4 = .ok (.iload_n 2, 1) := dk_28 (dk_at dksX1_wording_0 4 rfl rfl)
theorem dX1_wording_5 : decode cX1_wording 5 = .ok (.bipush 64, 2) := dk_16 64 (dk_at dksX1_wording_0 5 rfl rfl)
theorem dX1_wording_7 : decode cX1_wording 7 = .ok (.if_icmp .ge 37, 3) := dk_162 0 37 (dk_at dksX1_wording_0 7 rfl rfl)
theorem dX1_wording_10 : decode cX1_wording 10 = .ok (.iload_n 1, 1) := dk_27 (dk_at dksX1_wording_0 10 rfl rfl)
theorem dX1_wording_11 : decode cX1_wording 11 = .ok (.iconst (-1), 1) := dk_2 (dk_at dksX1_wording_0 11 rfl rfl)
theorem dX1_wording_12 : decode cX1_wording 12 = .ok (.if_icmp .eq 14, 3) := dk_159 0 14 (dk_at dksX1_wording_0 12 rfl rfl)
theorem dX1_wording_15 : decode cX1_wording 15 = .ok (.iload_n 2, 1) := dk_28 (dk_at dksX1_wording_0 15 rfl rfl)
theorem dX1_wording_16 : decode cX1_wording 16 = .ok (.invokestatic 334, 3) := dk_184 1 78 (dk_at dksX1_wording_0 16 rfl rfl)
theorem dX1_wording_19 : decode cX1_wording 19 = .ok (.iload_n 1, 1) := dk_27 (dk_at dksX1_wording_0 19 rfl rfl)
theorem dX1_wording_20 : decode cX1_wording 20 = .ok (.invokestatic 334, 3) := dk_184 1 78 (dk_at dksX1_wording_0 20 rfl rfl)
theorem dX1_wording_23 : decode cX1_wording 23 = .ok (.if_icmp .ge 15, 3) := dk_162 0 15 (dk_at dksX1_wording_1 0 rfl rfl)
theorem dX1_wording_26 : decode cX1_wording 26 = .ok (.aload_n 0, 1) := dk_42 (dk_at dksX1_wording_1 3 rfl rfl)
theorem dX1_wording_27 : decode cX1_wording 27 = .ok (.iload_n 2, 1) := dk_28 (dk_at dksX1_wording_1 4 rfl rfl)
theorem dX1_wording_28 : decode cX1_wording 28 = .ok (.invokevirtual 371, 3) := dk_182 1 115 (dk_at dksX1_wording_1 5 rfl rfl)
theorem dX1_wording_31 : decode cX1_wording 31 = .ok (.lconst 0, 1) := dk_9 (dk_at dksX1_wording_1 8 rfl rfl)
theorem dX1_wording_32 : decode cX1_wording 32 = .ok (.lcmp, 1) := dk_148 (dk_at dksX1_wording_1 9 rfl rfl)
theorem dX1_wording_33 : decode cX1_wording 33 = .ok (.ifCond .le 5, 3) := dk_158 0 5 (dk_at dksX1_wording_1 10 rfl rfl)
theorem dX1_wording_36 : decode cX1_wording 36 = .ok (.iload_n 2, 1) := dk_28 (dk_at dksX1_wording_1 13 rfl rfl)
theorem dX1_wording_37 : decode cX1_wording 37 = .ok (.istore_n 1, 1) := dk_60 (dk_at dksX1_wording_1 14 rfl rfl)
theorem dX1_wording_38 : decode cX1_wording 38 = .ok (.iinc 2 1, 3) := dk_132 2 1 (dk_at dksX1_wording_1 15 rfl rfl)
theorem dX1_wording_41 : decode cX1_wording 41 = .ok (.goto (-37), 3) := dk_167 255 219 (dk_at dksX1_wording_1 18 rfl rfl)
theorem dX1_wording_44 : decode cX1_wording 44 = .ok (.iload_n 1, 1) := dk_27 (dk_at dksX1_wording_1 21 rfl rfl)
theorem dX1_wording_45 : decode cX1_wording 45 = .ok (.ireturn, 1) := dk_172 (dk_at dksX1_wording_1 22 rfl rfl)
abbrev cX1_wordingsBy : ByteArray := prog_1_method_59_code
def yX1_wordingsBy : MethodName := ⟨RX1, "wordingsBy", "(I)J"⟩
def dkwX1_wordingsBy_1 : List UInt8 := [184, 1, 78, 133, 105, 65, 132, 4, 1, 167, 255, 229, 32, 173]
abbrev dktX1_wordingsBy_1 : List UInt8 := dkwX1_wordingsBy_1 ++ []
def dkwX1_wordingsBy_0 : List UInt8 := [10, 65, 3, 54, 4, 21, 4, 42, 182, 0, 163, 162, 0, 24, 32, 42, 21, 4, 182, 1, 66, 27, 126]
abbrev dktX1_wordingsBy_0 : List UInt8 := dkwX1_wordingsBy_0 ++ dktX1_wordingsBy_1
theorem dksX1_wordingsBy_0 : cX1_wordingsBy.data.toList.drop 0 = dktX1_wordingsBy_0 := by decide +kernel
theorem dksX1_wordingsBy_1 : cX1_wordingsBy.data.toList.drop 23 = dktX1_wordingsBy_1 := dk_seg dksX1_wordingsBy_0 23 rfl rfl
theorem dX1_wordingsBy_0 : decode cX1_wordingsBy 0 = .ok (.lconst 1, 1) := dk_10 (dk_at dksX1_wordingsBy_0 0 rfl rfl)
theorem dX1_wordingsBy_1 : decode cX1_wordingsBy 1 = .ok (.lstore_n 2, 1) := dk_65 (dk_at dksX1_wordingsBy_0 1 rfl rfl)
theorem dX1_wordingsBy_2 : decode cX1_wordingsBy 2 = .ok (.iconst 0, 1) := dk_3 (dk_at dksX1_wordingsBy_0 2 rfl rfl)
theorem dX1_wordingsBy_3 : decode cX1_wordingsBy 3 = .ok (.istore 4, 2) := dk_54 4 (dk_at dksX1_wordingsBy_0 3 rfl rfl)
theorem dX1_wordingsBy_5 : decode cX1_wordingsBy 5 = .ok (.iload 4, 2) := dk_21 4 (dk_at dksX1_wordingsBy_0 5 rfl rfl)
theorem dX1_wordingsBy_7 : decode cX1_wordingsBy 7 = .ok (.aload_n 0, 1) := dk_42 (dk_at dksX1_wordingsBy_0 7 rfl rfl)
theorem dX1_wordingsBy_8 : decode cX1_wordingsBy 8 = .ok (.invokevirtual 163, 3) := dk_182 0 163 (dk_at dksX1_wordingsBy_0 8 rfl rfl)
theorem dX1_wordingsBy_11 : decode cX1_wordingsBy 11 = .ok (.if_icmp .ge 24, 3) := dk_162 0 24 (dk_at dksX1_wordingsBy_0 11 rfl rfl)
theorem dX1_wordingsBy_14 : decode cX1_wordingsBy 14 = .ok (.lload_n 2, 1) := dk_32 (dk_at dksX1_wordingsBy_0 14 rfl rfl)
theorem dX1_wordingsBy_15 : decode cX1_wordingsBy 15 = .ok (.aload_n 0, 1) := dk_42 (dk_at dksX1_wordingsBy_0 15 rfl rfl)
theorem dX1_wordingsBy_16 : decode cX1_wordingsBy 16 = .ok (.iload 4, 2) := dk_21 4 (dk_at dksX1_wordingsBy_0 16 rfl rfl)
theorem dX1_wordingsBy_18 : decode cX1_wordingsBy 18 = .ok (.invokevirtual 322, 3) := dk_182 1 66 (dk_at dksX1_wordingsBy_0 18 rfl rfl)
theorem dX1_wordingsBy_21 : decode cX1_wordingsBy 21 = .ok (.iload_n 1, 1) := dk_27 (dk_at dksX1_wordingsBy_0 21 rfl rfl)
theorem dX1_wordingsBy_22 : decode cX1_wordingsBy 22 = .ok (.iand, 1) := dk_126 (dk_at dksX1_wordingsBy_0 22 rfl rfl)
theorem dX1_wordingsBy_23 : decode cX1_wordingsBy 23 = .ok (.invokestatic 334, 3) := dk_184 1 78 (dk_at dksX1_wordingsBy_1 0 rfl rfl)
theorem dX1_wordingsBy_26 : decode cX1_wordingsBy 26 = .ok (.i2l, 1) := dk_133 (dk_at dksX1_wordingsBy_1 3 rfl rfl)
theorem dX1_wordingsBy_27 : decode cX1_wordingsBy 27 = .ok (.lmul, 1) := dk_105 (dk_at dksX1_wordingsBy_1 4 rfl rfl)
theorem dX1_wordingsBy_28 : decode cX1_wordingsBy 28 = .ok (.lstore_n 2, 1) := dk_65 (dk_at dksX1_wordingsBy_1 5 rfl rfl)
theorem dX1_wordingsBy_29 : decode cX1_wordingsBy 29 = .ok (.iinc 4 1, 3) := dk_132 4 1 (dk_at dksX1_wordingsBy_1 6 rfl rfl)
theorem dX1_wordingsBy_32 : decode cX1_wordingsBy 32 = .ok (.goto (-27), 3) := dk_167 255 229 (dk_at dksX1_wordingsBy_1 9 rfl rfl)
theorem dX1_wordingsBy_35 : decode cX1_wordingsBy 35 = .ok (.lload_n 2, 1) := dk_32 (dk_at dksX1_wordingsBy_1 12 rfl rfl)
theorem dX1_wordingsBy_36 : decode cX1_wordingsBy 36 = .ok (.lreturn, 1) := dk_173 (dk_at dksX1_wordingsBy_1 13 rfl rfl)
abbrev cX1_wordsOf : ByteArray := prog_1_method_8_code
def yX1_wordsOf : MethodName := ⟨RX1, "wordsOf", "(I)I"⟩
def dkwX1_wordsOf_3 : List UInt8 := [167, 0, 4, 3, 128, 61, 132, 3, 1, 167, 255, 192, 28, 172]
abbrev dktX1_wordsOf_3 : List UInt8 := dkwX1_wordsOf_3 ++ []
def dkwX1_wordsOf_2 : List UInt8 := [160, 0, 25, 4, 42, 180, 0, 17, 180, 0, 127, 29, 182, 0, 112, 192, 0, 130, 180, 0, 135, 120]
abbrev dktX1_wordsOf_2 : List UInt8 := dkwX1_wordsOf_2 ++ dktX1_wordsOf_3
def dkwX1_wordsOf_1 : List UInt8 := [162, 0, 56, 28, 42, 180, 0, 17, 180, 0, 127, 29, 182, 0, 112, 192, 0, 130, 180, 0, 132, 27]
abbrev dktX1_wordsOf_1 : List UInt8 := dkwX1_wordsOf_1 ++ dktX1_wordsOf_2
def dkwX1_wordsOf_0 : List UInt8 := [4, 42, 27, 182, 0, 120, 180, 0, 124, 120, 61, 3, 62, 29, 42, 180, 0, 17, 180, 0, 127, 182, 0, 103]
abbrev dktX1_wordsOf_0 : List UInt8 := dkwX1_wordsOf_0 ++ dktX1_wordsOf_1
theorem dksX1_wordsOf_0 : cX1_wordsOf.data.toList.drop 0 = dktX1_wordsOf_0 := by decide +kernel
theorem dksX1_wordsOf_1 : cX1_wordsOf.data.toList.drop 24 = dktX1_wordsOf_1 := dk_seg dksX1_wordsOf_0 24 rfl rfl
theorem dksX1_wordsOf_2 : cX1_wordsOf.data.toList.drop 46 = dktX1_wordsOf_2 := dk_seg dksX1_wordsOf_1 22 rfl rfl
theorem dksX1_wordsOf_3 : cX1_wordsOf.data.toList.drop 68 = dktX1_wordsOf_3 := dk_seg dksX1_wordsOf_2 22 rfl rfl
theorem dX1_wordsOf_0 : decode cX1_wordsOf 0 = .ok (.iconst 1, 1) := dk_4 (dk_at dksX1_wordsOf_0 0 rfl rfl)
theorem dX1_wordsOf_1 : decode cX1_wordsOf 1 = .ok (.aload_n 0, 1) := dk_42 (dk_at dksX1_wordsOf_0 1 rfl rfl)
theorem dX1_wordsOf_2 : decode cX1_wordsOf 2 = .ok (.iload_n 1, 1) := dk_27 (dk_at dksX1_wordsOf_0 2 rfl rfl)
theorem dX1_wordsOf_3 : decode cX1_wordsOf 3 = .ok (.invokevirtual 120, 3) := dk_182 0 120 (dk_at dksX1_wordsOf_0 3 rfl rfl)
theorem dX1_wordsOf_6 : decode cX1_wordsOf 6 = .ok (.getfield 124, 3) := dk_180 0 124 (dk_at dksX1_wordsOf_0 6 rfl rfl)
theorem dX1_wordsOf_9 : decode cX1_wordsOf 9 = .ok (.ishl, 1) := dk_120 (dk_at dksX1_wordsOf_0 9 rfl rfl)
theorem dX1_wordsOf_10 : decode cX1_wordsOf 10 = .ok (.istore_n 2, 1) := dk_61 (dk_at dksX1_wordsOf_0 10 rfl rfl)
theorem dX1_wordsOf_11 : decode cX1_wordsOf 11 = .ok (.iconst 0, 1) := dk_3 (dk_at dksX1_wordsOf_0 11 rfl rfl)
theorem dX1_wordsOf_12 : decode cX1_wordsOf 12 = .ok (.istore_n 3, 1) := dk_62 (dk_at dksX1_wordsOf_0 12 rfl rfl)
theorem dX1_wordsOf_13 : decode cX1_wordsOf 13 = .ok (.iload_n 3, 1) := dk_29 (dk_at dksX1_wordsOf_0 13 rfl rfl)
theorem dX1_wordsOf_14 : decode cX1_wordsOf 14 = .ok (.aload_n 0, 1) := dk_42 (dk_at dksX1_wordsOf_0 14 rfl rfl)
theorem dX1_wordsOf_15 : decode cX1_wordsOf 15 = .ok (.getfield 17, 3) := dk_180 0 17 (dk_at dksX1_wordsOf_0 15 rfl rfl)
theorem dX1_wordsOf_18 : decode cX1_wordsOf 18 = .ok (.getfield 127, 3) := dk_180 0 127 (dk_at dksX1_wordsOf_0 18 rfl rfl)
theorem dX1_wordsOf_21 : decode cX1_wordsOf 21 = .ok (.invokevirtual 103, 3) := dk_182 0 103 (dk_at dksX1_wordsOf_0 21 rfl rfl)
theorem dX1_wordsOf_24 : decode cX1_wordsOf 24 = .ok (.if_icmp .ge 56, 3) := dk_162 0 56 (dk_at dksX1_wordsOf_1 0 rfl rfl)
theorem dX1_wordsOf_27 : decode cX1_wordsOf 27 = .ok (.iload_n 2, 1) := dk_28 (dk_at dksX1_wordsOf_1 3 rfl rfl)
theorem dX1_wordsOf_28 : decode cX1_wordsOf 28 = .ok (.aload_n 0, 1) := dk_42 (dk_at dksX1_wordsOf_1 4 rfl rfl)
theorem dX1_wordsOf_29 : decode cX1_wordsOf 29 = .ok (.getfield 17, 3) := dk_180 0 17 (dk_at dksX1_wordsOf_1 5 rfl rfl)
theorem dX1_wordsOf_32 : decode cX1_wordsOf 32 = .ok (.getfield 127, 3) := dk_180 0 127 (dk_at dksX1_wordsOf_1 8 rfl rfl)
theorem dX1_wordsOf_35 : decode cX1_wordsOf 35 = .ok (.iload_n 3, 1) := dk_29 (dk_at dksX1_wordsOf_1 11 rfl rfl)
theorem dX1_wordsOf_36 : decode cX1_wordsOf 36 = .ok (.invokevirtual 112, 3) := dk_182 0 112 (dk_at dksX1_wordsOf_1 12 rfl rfl)
theorem dX1_wordsOf_39 : decode cX1_wordsOf 39 = .ok (.checkcast 130, 3) := dk_192 0 130 (dk_at dksX1_wordsOf_1 15 rfl rfl)
theorem dX1_wordsOf_42 : decode cX1_wordsOf 42 = .ok (.getfield 132, 3) := dk_180 0 132 (dk_at dksX1_wordsOf_1 18 rfl rfl)
theorem dX1_wordsOf_45 : decode cX1_wordsOf 45 = .ok (.iload_n 1, 1) := dk_27 (dk_at dksX1_wordsOf_1 21 rfl rfl)
theorem dX1_wordsOf_46 : decode cX1_wordsOf 46 = .ok (.if_icmp .ne 25, 3) := dk_160 0 25 (dk_at dksX1_wordsOf_2 0 rfl rfl)
theorem dX1_wordsOf_49 : decode cX1_wordsOf 49 = .ok (.iconst 1, 1) := dk_4 (dk_at dksX1_wordsOf_2 3 rfl rfl)
theorem dX1_wordsOf_50 : decode cX1_wordsOf 50 = .ok (.aload_n 0, 1) := dk_42 (dk_at dksX1_wordsOf_2 4 rfl rfl)
theorem dX1_wordsOf_51 : decode cX1_wordsOf 51 = .ok (.getfield 17, 3) := dk_180 0 17 (dk_at dksX1_wordsOf_2 5 rfl rfl)
theorem dX1_wordsOf_54 : decode cX1_wordsOf 54 = .ok (.getfield 127, 3) := dk_180 0 127 (dk_at dksX1_wordsOf_2 8 rfl rfl)
theorem dX1_wordsOf_57 : decode cX1_wordsOf 57 = .ok (.iload_n 3, 1) := dk_29 (dk_at dksX1_wordsOf_2 11 rfl rfl)
theorem dX1_wordsOf_58 : decode cX1_wordsOf 58 = .ok (.invokevirtual 112, 3) := dk_182 0 112 (dk_at dksX1_wordsOf_2 12 rfl rfl)
theorem dX1_wordsOf_61 : decode cX1_wordsOf 61 = .ok (.checkcast 130, 3) := dk_192 0 130 (dk_at dksX1_wordsOf_2 15 rfl rfl)
theorem dX1_wordsOf_64 : decode cX1_wordsOf 64 = .ok (.getfield 135, 3) := dk_180 0 135 (dk_at dksX1_wordsOf_2 18 rfl rfl)
theorem dX1_wordsOf_67 : decode cX1_wordsOf 67 = .ok (.ishl, 1) := dk_120 (dk_at dksX1_wordsOf_2 21 rfl rfl)
theorem dX1_wordsOf_68 : decode cX1_wordsOf 68 = .ok (.goto 4, 3) := dk_167 0 4 (dk_at dksX1_wordsOf_3 0 rfl rfl)
theorem dX1_wordsOf_71 : decode cX1_wordsOf 71 = .ok (.iconst 0, 1) := dk_3 (dk_at dksX1_wordsOf_3 3 rfl rfl)
theorem dX1_wordsOf_72 : decode cX1_wordsOf 72 = .ok (.ior, 1) := dk_128 (dk_at dksX1_wordsOf_3 4 rfl rfl)
theorem dX1_wordsOf_73 : decode cX1_wordsOf 73 = .ok (.istore_n 2, 1) := dk_61 (dk_at dksX1_wordsOf_3 5 rfl rfl)
theorem dX1_wordsOf_74 : decode cX1_wordsOf 74 = .ok (.iinc 3 1, 3) := dk_132 3 1 (dk_at dksX1_wordsOf_3 6 rfl rfl)
theorem dX1_wordsOf_77 : decode cX1_wordsOf 77 = .ok (.goto (-64), 3) := dk_167 255 192 (dk_at dksX1_wordsOf_3 9 rfl rfl)
theorem dX1_wordsOf_80 : decode cX1_wordsOf 80 = .ok (.iload_n 2, 1) := dk_28 (dk_at dksX1_wordsOf_3 12 rfl rfl)
theorem dX1_wordsOf_81 : decode cX1_wordsOf 81 = .ok (.ireturn, 1) := dk_172 (dk_at dksX1_wordsOf_3 13 rfl rfl)
abbrev cX1_image : ByteArray := prog_1_method_79_code
def yX1_image : MethodName := ⟨RX1, "image", "()I"⟩
def dkwX1_image_3 : List UInt8 := [180, 0, 96, 42, 180, 0, 87, 79, 42, 89, 180, 0, 96, 4, 96, 181, 0, 96, 42, 180, 0, 96, 172]
abbrev dktX1_image_3 : List UInt8 := dkwX1_image_3 ++ []
def dkwX1_image_2 : List UInt8 := [104, 27, 96, 42, 180, 0, 51, 27, 50, 182, 0, 213, 132, 1, 1, 167, 255, 222, 42, 180, 0, 61, 42]
abbrev dktX1_image_2 : List UInt8 := dkwX1_image_2 ++ dktX1_image_3
def dkwX1_image_1 : List UInt8 := [182, 0, 213, 3, 60, 27, 42, 180, 0, 87, 162, 0, 32, 42, 42, 180, 0, 58, 16, 16, 42, 180, 0, 96]
abbrev dktX1_image_1 : List UInt8 := dkwX1_image_1 ++ dktX1_image_2
def dkwX1_image_0 : List UInt8 := [42, 180, 0, 96, 6, 160, 0, 5, 2, 172, 42, 42, 180, 0, 55, 42, 180, 0, 96, 42, 180, 0, 44]
abbrev dktX1_image_0 : List UInt8 := dkwX1_image_0 ++ dktX1_image_1
theorem dksX1_image_0 : cX1_image.data.toList.drop 0 = dktX1_image_0 := by decide +kernel
theorem dksX1_image_1 : cX1_image.data.toList.drop 23 = dktX1_image_1 := dk_seg dksX1_image_0 23 rfl rfl
theorem dksX1_image_2 : cX1_image.data.toList.drop 47 = dktX1_image_2 := dk_seg dksX1_image_1 24 rfl rfl
theorem dksX1_image_3 : cX1_image.data.toList.drop 70 = dktX1_image_3 := dk_seg dksX1_image_2 23 rfl rfl
theorem dX1_image_0 : decode cX1_image 0 = .ok (.aload_n 0, 1) := dk_42 (dk_at dksX1_image_0 0 rfl rfl)
theorem dX1_image_1 : decode cX1_image 1 = .ok (.getfield 96, 3) := dk_180 0 96 (dk_at dksX1_image_0 1 rfl rfl)
theorem dX1_image_4 : decode cX1_image 4 = .ok (.iconst 3, 1) := dk_6 (dk_at dksX1_image_0 4 rfl rfl)
theorem dX1_image_5 : decode cX1_image 5 = .ok (.if_icmp .ne 5, 3) := dk_160 0 5 (dk_at dksX1_image_0 5 rfl rfl)
theorem dX1_image_8 : decode cX1_image 8 = .ok (.iconst (-1), 1) := dk_2 (dk_at dksX1_image_0 8 rfl rfl)
theorem dX1_image_9 : decode cX1_image 9 = .ok (.ireturn, 1) := dk_172 (dk_at dksX1_image_0 9 rfl rfl)
theorem dX1_image_10 : decode cX1_image 10 = .ok (.aload_n 0, 1) := dk_42 (dk_at dksX1_image_0 10 rfl rfl)
theorem dX1_image_11 : decode cX1_image 11 = .ok (.aload_n 0, 1) := dk_42 (dk_at dksX1_image_0 11 rfl rfl)
theorem dX1_image_12 : decode cX1_image 12 = .ok (.getfield 55, 3) := dk_180 0 55 (dk_at dksX1_image_0 12 rfl rfl)
theorem dX1_image_15 : decode cX1_image 15 = .ok (.aload_n 0, 1) := dk_42 (dk_at dksX1_image_0 15 rfl rfl)
theorem dX1_image_16 : decode cX1_image 16 = .ok (.getfield 96, 3) := dk_180 0 96 (dk_at dksX1_image_0 16 rfl rfl)
theorem dX1_image_19 : decode cX1_image 19 = .ok (.aload_n 0, 1) := dk_42 (dk_at dksX1_image_0 19 rfl rfl)
theorem dX1_image_20 : decode cX1_image 20 = .ok (.getfield 44, 3) := dk_180 0 44 (dk_at dksX1_image_0 20 rfl rfl)
theorem dX1_image_23 : decode cX1_image 23 = .ok (.invokevirtual 213, 3) := dk_182 0 213 (dk_at dksX1_image_1 0 rfl rfl)
theorem dX1_image_26 : decode cX1_image 26 = .ok (.iconst 0, 1) := dk_3 (dk_at dksX1_image_1 3 rfl rfl)
theorem dX1_image_27 : decode cX1_image 27 = .ok (.istore_n 1, 1) := dk_60 (dk_at dksX1_image_1 4 rfl rfl)
theorem dX1_image_28 : decode cX1_image 28 = .ok (.iload_n 1, 1) := dk_27 (dk_at dksX1_image_1 5 rfl rfl)
theorem dX1_image_29 : decode cX1_image 29 = .ok (.aload_n 0, 1) := dk_42 (dk_at dksX1_image_1 6 rfl rfl)
theorem dX1_image_30 : decode cX1_image 30 = .ok (.getfield 87, 3) := dk_180 0 87 (dk_at dksX1_image_1 7 rfl rfl)
theorem dX1_image_33 : decode cX1_image 33 = .ok (.if_icmp .ge 32, 3) := dk_162 0 32 (dk_at dksX1_image_1 10 rfl rfl)
theorem dX1_image_36 : decode cX1_image 36 = .ok (.aload_n 0, 1) := dk_42 (dk_at dksX1_image_1 13 rfl rfl)
theorem dX1_image_37 : decode cX1_image 37 = .ok (.aload_n 0, 1) := dk_42 (dk_at dksX1_image_1 14 rfl rfl)
theorem dX1_image_38 : decode cX1_image 38 = .ok (.getfield 58, 3) := dk_180 0 58 (dk_at dksX1_image_1 15 rfl rfl)
theorem dX1_image_41 : decode cX1_image 41 = .ok (.bipush 16, 2) := dk_16 16 (dk_at dksX1_image_1 18 rfl rfl)
theorem dX1_image_43 : decode cX1_image 43 = .ok (.aload_n 0, 1) := dk_42 (dk_at dksX1_image_1 20 rfl rfl)
theorem dX1_image_44 : decode cX1_image 44 = .ok (.getfield 96, 3) := dk_180 0 96 (dk_at dksX1_image_1 21 rfl rfl)
theorem dX1_image_47 : decode cX1_image 47 = .ok (.imul, 1) := dk_104 (dk_at dksX1_image_2 0 rfl rfl)
theorem dX1_image_48 : decode cX1_image 48 = .ok (.iload_n 1, 1) := dk_27 (dk_at dksX1_image_2 1 rfl rfl)
theorem dX1_image_49 : decode cX1_image 49 = .ok (.iadd, 1) := dk_96 (dk_at dksX1_image_2 2 rfl rfl)
theorem dX1_image_50 : decode cX1_image 50 = .ok (.aload_n 0, 1) := dk_42 (dk_at dksX1_image_2 3 rfl rfl)
theorem dX1_image_51 : decode cX1_image 51 = .ok (.getfield 51, 3) := dk_180 0 51 (dk_at dksX1_image_2 4 rfl rfl)
theorem dX1_image_54 : decode cX1_image 54 = .ok (.iload_n 1, 1) := dk_27 (dk_at dksX1_image_2 7 rfl rfl)
theorem dX1_image_55 : decode cX1_image 55 = .ok (.aaload, 1) := dk_50 (dk_at dksX1_image_2 8 rfl rfl)
theorem dX1_image_56 : decode cX1_image 56 = .ok (.invokevirtual 213, 3) := dk_182 0 213 (dk_at dksX1_image_2 9 rfl rfl)
theorem dX1_image_59 : decode cX1_image 59 = .ok (.iinc 1 1, 3) := dk_132 1 1 (dk_at dksX1_image_2 12 rfl rfl)
theorem dX1_image_62 : decode cX1_image 62 = .ok (.goto (-34), 3) := dk_167 255 222 (dk_at dksX1_image_2 15 rfl rfl)
theorem dX1_image_65 : decode cX1_image 65 = .ok (.aload_n 0, 1) := dk_42 (dk_at dksX1_image_2 18 rfl rfl)
theorem dX1_image_66 : decode cX1_image 66 = .ok (.getfield 61, 3) := dk_180 0 61 (dk_at dksX1_image_2 19 rfl rfl)
theorem dX1_image_69 : decode cX1_image 69 = .ok (.aload_n 0, 1) := dk_42 (dk_at dksX1_image_2 22 rfl rfl)
theorem dX1_image_70 : decode cX1_image 70 = .ok (.getfield 96, 3) := dk_180 0 96 (dk_at dksX1_image_3 0 rfl rfl)
theorem dX1_image_73 : decode cX1_image 73 = .ok (.aload_n 0, 1) := dk_42 (dk_at dksX1_image_3 3 rfl rfl)
theorem dX1_image_74 : decode cX1_image 74 = .ok (.getfield 87, 3) := dk_180 0 87 (dk_at dksX1_image_3 4 rfl rfl)
theorem dX1_image_77 : decode cX1_image 77 = .ok (.iastore, 1) := dk_79 (dk_at dksX1_image_3 7 rfl rfl)
theorem dX1_image_78 : decode cX1_image 78 = .ok (.aload_n 0, 1) := dk_42 (dk_at dksX1_image_3 8 rfl rfl)
theorem dX1_image_79 : decode cX1_image 79 = .ok (.dup, 1) := dk_89 (dk_at dksX1_image_3 9 rfl rfl)
theorem dX1_image_80 : decode cX1_image 80 = .ok (.getfield 96, 3) := dk_180 0 96 (dk_at dksX1_image_3 10 rfl rfl)
theorem dX1_image_83 : decode cX1_image 83 = .ok (.iconst 1, 1) := dk_4 (dk_at dksX1_image_3 13 rfl rfl)
theorem dX1_image_84 : decode cX1_image 84 = .ok (.iadd, 1) := dk_96 (dk_at dksX1_image_3 14 rfl rfl)
theorem dX1_image_85 : decode cX1_image 85 = .ok (.putfield 96, 3) := dk_181 0 96 (dk_at dksX1_image_3 15 rfl rfl)
theorem dX1_image_88 : decode cX1_image 88 = .ok (.aload_n 0, 1) := dk_42 (dk_at dksX1_image_3 18 rfl rfl)
theorem dX1_image_89 : decode cX1_image 89 = .ok (.getfield 96, 3) := dk_180 0 96 (dk_at dksX1_image_3 19 rfl rfl)
theorem dX1_image_92 : decode cX1_image 92 = .ok (.ireturn, 1) := dk_172 (dk_at dksX1_image_3 22 rfl rfl)
abbrev cX1_kept : ByteArray := prog_1_method_78_code
def yX1_kept : MethodName := ⟨RX1, "kept", "([LVowelChoir$Choir;ILVowelChoir$Choir;)V"⟩
def dkwX1_kept_1 : List UInt8 := [87, 177]
abbrev dktX1_kept_1 : List UInt8 := dkwX1_kept_1 ++ []
def dkwX1_kept_0 : List UInt8 := [43, 28, 50, 199, 0, 14, 43, 28, 187, 0, 39, 89, 42, 183, 0, 41, 83, 43, 28, 50, 45, 182, 0, 248]
abbrev dktX1_kept_0 : List UInt8 := dkwX1_kept_0 ++ dktX1_kept_1
theorem dksX1_kept_0 : cX1_kept.data.toList.drop 0 = dktX1_kept_0 := by decide +kernel
theorem dksX1_kept_1 : cX1_kept.data.toList.drop 24 = dktX1_kept_1 := dk_seg dksX1_kept_0 24 rfl rfl
theorem dX1_kept_0 : decode cX1_kept 0 = .ok (.aload_n 1, 1) := dk_43 (dk_at dksX1_kept_0 0 rfl rfl)
theorem dX1_kept_1 : decode cX1_kept 1 = .ok (.iload_n 2, 1) := dk_28 (dk_at dksX1_kept_0 1 rfl rfl)
theorem dX1_kept_2 : decode cX1_kept 2 = .ok (.aaload, 1) := dk_50 (dk_at dksX1_kept_0 2 rfl rfl)
theorem dX1_kept_3 : decode cX1_kept 3 = .ok (.ifnonnull 14, 3) := dk_199 0 14 (dk_at dksX1_kept_0 3 rfl rfl)
theorem dX1_kept_6 : decode cX1_kept 6 = .ok (.aload_n 1, 1) := dk_43 (dk_at dksX1_kept_0 6 rfl rfl)
theorem dX1_kept_7 : decode cX1_kept 7 = .ok (.iload_n 2, 1) := dk_28 (dk_at dksX1_kept_0 7 rfl rfl)
theorem dX1_kept_8 : decode cX1_kept 8 = .ok (.new 39, 3) := dk_187 0 39 (dk_at dksX1_kept_0 8 rfl rfl)
theorem dX1_kept_11 : decode cX1_kept 11 = .ok (.dup, 1) := dk_89 (dk_at dksX1_kept_0 11 rfl rfl)
theorem dX1_kept_12 : decode cX1_kept 12 = .ok (.aload_n 0, 1) := dk_42 (dk_at dksX1_kept_0 12 rfl rfl)
theorem dX1_kept_13 : decode cX1_kept 13 = .ok (.invokespecial 41, 3) := dk_183 0 41 (dk_at dksX1_kept_0 13 rfl rfl)
theorem dX1_kept_16 : decode cX1_kept 16 = .ok (.aastore, 1) := dk_83 (dk_at dksX1_kept_0 16 rfl rfl)
theorem dX1_kept_17 : decode cX1_kept 17 = .ok (.aload_n 1, 1) := dk_43 (dk_at dksX1_kept_0 17 rfl rfl)
theorem dX1_kept_18 : decode cX1_kept 18 = .ok (.iload_n 2, 1) := dk_28 (dk_at dksX1_kept_0 18 rfl rfl)
theorem dX1_kept_19 : decode cX1_kept 19 = .ok (.aaload, 1) := dk_50 (dk_at dksX1_kept_0 19 rfl rfl)
theorem dX1_kept_20 : decode cX1_kept 20 = .ok (.aload_n 3, 1) := dk_45 (dk_at dksX1_kept_0 20 rfl rfl)
theorem dX1_kept_21 : decode cX1_kept 21 = .ok (.invokevirtual 248, 3) := dk_182 0 248 (dk_at dksX1_kept_0 21 rfl rfl)
theorem dX1_kept_24 : decode cX1_kept 24 = .ok (.pop, 1) := dk_87 (dk_at dksX1_kept_1 0 rfl rfl)
theorem dX1_kept_25 : decode cX1_kept 25 = .ok (.return_, 1) := dk_177 (dk_at dksX1_kept_1 1 rfl rfl)
abbrev cX1_restore : ByteArray := prog_1_method_80_code
def yX1_restore : MethodName := ⟨RX1, "restore", "()I"⟩
def dkwX1_restore_4 : List UInt8 := [42, 180, 0, 96, 172]
abbrev dktX1_restore_4 : List UInt8 := dkwX1_restore_4 ++ []
def dkwX1_restore_3 : List UInt8 := [16, 16, 42, 180, 0, 96, 104, 27, 96, 50, 182, 0, 213, 132, 1, 1, 167, 255, 222, 42, 3, 181, 0, 90]
abbrev dktX1_restore_3 : List UInt8 := dkwX1_restore_3 ++ dktX1_restore_4
def dkwX1_restore_2 : List UInt8 := [181, 0, 87, 3, 60, 27, 42, 180, 0, 87, 162, 0, 32, 42, 42, 180, 0, 51, 27, 42, 180, 0, 58]
abbrev dktX1_restore_2 : List UInt8 := dkwX1_restore_2 ++ dktX1_restore_3
def dkwX1_restore_1 : List UInt8 := [180, 0, 55, 42, 180, 0, 96, 50, 182, 0, 248, 87, 42, 42, 180, 0, 61, 42, 180, 0, 96, 46]
abbrev dktX1_restore_1 : List UInt8 := dkwX1_restore_1 ++ dktX1_restore_2
def dkwX1_restore_0 : List UInt8 := [42, 180, 0, 96, 154, 0, 5, 2, 172, 42, 89, 180, 0, 96, 4, 100, 181, 0, 96, 42, 180, 0, 44, 42]
abbrev dktX1_restore_0 : List UInt8 := dkwX1_restore_0 ++ dktX1_restore_1
theorem dksX1_restore_0 : cX1_restore.data.toList.drop 0 = dktX1_restore_0 := by decide +kernel
theorem dksX1_restore_1 : cX1_restore.data.toList.drop 24 = dktX1_restore_1 := dk_seg dksX1_restore_0 24 rfl rfl
theorem dksX1_restore_2 : cX1_restore.data.toList.drop 46 = dktX1_restore_2 := dk_seg dksX1_restore_1 22 rfl rfl
theorem dksX1_restore_3 : cX1_restore.data.toList.drop 69 = dktX1_restore_3 := dk_seg dksX1_restore_2 23 rfl rfl
theorem dksX1_restore_4 : cX1_restore.data.toList.drop 93 = dktX1_restore_4 := dk_seg dksX1_restore_3 24 rfl rfl
theorem dX1_restore_0 : decode cX1_restore 0 = .ok (.aload_n 0, 1) := dk_42 (dk_at dksX1_restore_0 0 rfl rfl)
theorem dX1_restore_1 : decode cX1_restore 1 = .ok (.getfield 96, 3) := dk_180 0 96 (dk_at dksX1_restore_0 1 rfl rfl)
theorem dX1_restore_4 : decode cX1_restore 4 = .ok (.ifCond .ne 5, 3) := dk_154 0 5 (dk_at dksX1_restore_0 4 rfl rfl)
theorem dX1_restore_7 : decode cX1_restore 7 = .ok (.iconst (-1), 1) := dk_2 (dk_at dksX1_restore_0 7 rfl rfl)
theorem dX1_restore_8 : decode cX1_restore 8 = .ok (.ireturn, 1) := dk_172 (dk_at dksX1_restore_0 8 rfl rfl)
theorem dX1_restore_9 : decode cX1_restore 9 = .ok (.aload_n 0, 1) := dk_42 (dk_at dksX1_restore_0 9 rfl rfl)
theorem dX1_restore_10 : decode cX1_restore 10 = .ok (.dup, 1) := dk_89 (dk_at dksX1_restore_0 10 rfl rfl)
theorem dX1_restore_11 : decode cX1_restore 11 = .ok (.getfield 96, 3) := dk_180 0 96 (dk_at dksX1_restore_0 11 rfl rfl)
theorem dX1_restore_14 : decode cX1_restore 14 = .ok (.iconst 1, 1) := dk_4 (dk_at dksX1_restore_0 14 rfl rfl)
theorem dX1_restore_15 : decode cX1_restore 15 = .ok (.isub, 1) := dk_100 (dk_at dksX1_restore_0 15 rfl rfl)
theorem dX1_restore_16 : decode cX1_restore 16 = .ok (.putfield 96, 3) := dk_181 0 96 (dk_at dksX1_restore_0 16 rfl rfl)
theorem dX1_restore_19 : decode cX1_restore 19 = .ok (.aload_n 0, 1) := dk_42 (dk_at dksX1_restore_0 19 rfl rfl)
theorem dX1_restore_20 : decode cX1_restore 20 = .ok (.getfield 44, 3) := dk_180 0 44 (dk_at dksX1_restore_0 20 rfl rfl)
theorem dX1_restore_23 : decode cX1_restore 23 = .ok (.aload_n 0, 1) := dk_42 (dk_at dksX1_restore_0 23 rfl rfl)
theorem dX1_restore_24 : decode cX1_restore 24 = .ok (.getfield 55, 3) := dk_180 0 55 (dk_at dksX1_restore_1 0 rfl rfl)
theorem dX1_restore_27 : decode cX1_restore 27 = .ok (.aload_n 0, 1) := dk_42 (dk_at dksX1_restore_1 3 rfl rfl)
theorem dX1_restore_28 : decode cX1_restore 28 = .ok (.getfield 96, 3) := dk_180 0 96 (dk_at dksX1_restore_1 4 rfl rfl)
theorem dX1_restore_31 : decode cX1_restore 31 = .ok (.aaload, 1) := dk_50 (dk_at dksX1_restore_1 7 rfl rfl)
theorem dX1_restore_32 : decode cX1_restore 32 = .ok (.invokevirtual 248, 3) := dk_182 0 248 (dk_at dksX1_restore_1 8 rfl rfl)
theorem dX1_restore_35 : decode cX1_restore 35 = .ok (.pop, 1) := dk_87 (dk_at dksX1_restore_1 11 rfl rfl)
theorem dX1_restore_36 : decode cX1_restore 36 = .ok (.aload_n 0, 1) := dk_42 (dk_at dksX1_restore_1 12 rfl rfl)
theorem dX1_restore_37 : decode cX1_restore 37 = .ok (.aload_n 0, 1) := dk_42 (dk_at dksX1_restore_1 13 rfl rfl)
theorem dX1_restore_38 : decode cX1_restore 38 = .ok (.getfield 61, 3) := dk_180 0 61 (dk_at dksX1_restore_1 14 rfl rfl)
theorem dX1_restore_41 : decode cX1_restore 41 = .ok (.aload_n 0, 1) := dk_42 (dk_at dksX1_restore_1 17 rfl rfl)
theorem dX1_restore_42 : decode cX1_restore 42 = .ok (.getfield 96, 3) := dk_180 0 96 (dk_at dksX1_restore_1 18 rfl rfl)
theorem dX1_restore_45 : decode cX1_restore 45 = .ok (.iaload, 1) := dk_46 (dk_at dksX1_restore_1 21 rfl rfl)
theorem dX1_restore_46 : decode cX1_restore 46 = .ok (.putfield 87, 3) := dk_181 0 87 (dk_at dksX1_restore_2 0 rfl rfl)
theorem dX1_restore_49 : decode cX1_restore 49 = .ok (.iconst 0, 1) := dk_3 (dk_at dksX1_restore_2 3 rfl rfl)
theorem dX1_restore_50 : decode cX1_restore 50 = .ok (.istore_n 1, 1) := dk_60 (dk_at dksX1_restore_2 4 rfl rfl)
theorem dX1_restore_51 : decode cX1_restore 51 = .ok (.iload_n 1, 1) := dk_27 (dk_at dksX1_restore_2 5 rfl rfl)
theorem dX1_restore_52 : decode cX1_restore 52 = .ok (.aload_n 0, 1) := dk_42 (dk_at dksX1_restore_2 6 rfl rfl)
theorem dX1_restore_53 : decode cX1_restore 53 = .ok (.getfield 87, 3) := dk_180 0 87 (dk_at dksX1_restore_2 7 rfl rfl)
theorem dX1_restore_56 : decode cX1_restore 56 = .ok (.if_icmp .ge 32, 3) := dk_162 0 32 (dk_at dksX1_restore_2 10 rfl rfl)
theorem dX1_restore_59 : decode cX1_restore 59 = .ok (.aload_n 0, 1) := dk_42 (dk_at dksX1_restore_2 13 rfl rfl)
theorem dX1_restore_60 : decode cX1_restore 60 = .ok (.aload_n 0, 1) := dk_42 (dk_at dksX1_restore_2 14 rfl rfl)
theorem dX1_restore_61 : decode cX1_restore 61 = .ok (.getfield 51, 3) := dk_180 0 51 (dk_at dksX1_restore_2 15 rfl rfl)
theorem dX1_restore_64 : decode cX1_restore 64 = .ok (.iload_n 1, 1) := dk_27 (dk_at dksX1_restore_2 18 rfl rfl)
theorem dX1_restore_65 : decode cX1_restore 65 = .ok (.aload_n 0, 1) := dk_42 (dk_at dksX1_restore_2 19 rfl rfl)
theorem dX1_restore_66 : decode cX1_restore 66 = .ok (.getfield 58, 3) := dk_180 0 58 (dk_at dksX1_restore_2 20 rfl rfl)
theorem dX1_restore_69 : decode cX1_restore 69 = .ok (.bipush 16, 2) := dk_16 16 (dk_at dksX1_restore_3 0 rfl rfl)
theorem dX1_restore_71 : decode cX1_restore 71 = .ok (.aload_n 0, 1) := dk_42 (dk_at dksX1_restore_3 2 rfl rfl)
theorem dX1_restore_72 : decode cX1_restore 72 = .ok (.getfield 96, 3) := dk_180 0 96 (dk_at dksX1_restore_3 3 rfl rfl)
theorem dX1_restore_75 : decode cX1_restore 75 = .ok (.imul, 1) := dk_104 (dk_at dksX1_restore_3 6 rfl rfl)
theorem dX1_restore_76 : decode cX1_restore 76 = .ok (.iload_n 1, 1) := dk_27 (dk_at dksX1_restore_3 7 rfl rfl)
theorem dX1_restore_77 : decode cX1_restore 77 = .ok (.iadd, 1) := dk_96 (dk_at dksX1_restore_3 8 rfl rfl)
theorem dX1_restore_78 : decode cX1_restore 78 = .ok (.aaload, 1) := dk_50 (dk_at dksX1_restore_3 9 rfl rfl)
theorem dX1_restore_79 : decode cX1_restore 79 = .ok (.invokevirtual 213, 3) := dk_182 0 213 (dk_at dksX1_restore_3 10 rfl rfl)
theorem dX1_restore_82 : decode cX1_restore 82 = .ok (.iinc 1 1, 3) := dk_132 1 1 (dk_at dksX1_restore_3 13 rfl rfl)
theorem dX1_restore_85 : decode cX1_restore 85 = .ok (.goto (-34), 3) := dk_167 255 222 (dk_at dksX1_restore_3 16 rfl rfl)
theorem dX1_restore_88 : decode cX1_restore 88 = .ok (.aload_n 0, 1) := dk_42 (dk_at dksX1_restore_3 19 rfl rfl)
theorem dX1_restore_89 : decode cX1_restore 89 = .ok (.iconst 0, 1) := dk_3 (dk_at dksX1_restore_3 20 rfl rfl)
theorem dX1_restore_90 : decode cX1_restore 90 = .ok (.putfield 90, 3) := dk_181 0 90 (dk_at dksX1_restore_3 21 rfl rfl)
theorem dX1_restore_93 : decode cX1_restore 93 = .ok (.aload_n 0, 1) := dk_42 (dk_at dksX1_restore_4 0 rfl rfl)
theorem dX1_restore_94 : decode cX1_restore 94 = .ok (.getfield 96, 3) := dk_180 0 96 (dk_at dksX1_restore_4 1 rfl rfl)
theorem dX1_restore_97 : decode cX1_restore 97 = .ok (.ireturn, 1) := dk_172 (dk_at dksX1_restore_4 4 rfl rfl)
abbrev cX1_status : ByteArray := prog_1_method_81_code
def yX1_status : MethodName := ⟨RX1, "status", "(I)I"⟩
def dkwX1_status_0 : List UInt8 := [27, 184, 1, 49, 153, 0, 12, 42, 180, 0, 36, 27, 46, 167, 0, 4, 2, 172]
abbrev dktX1_status_0 : List UInt8 := dkwX1_status_0 ++ []
theorem dksX1_status_0 : cX1_status.data.toList.drop 0 = dktX1_status_0 := by decide +kernel
theorem dX1_status_0 : decode cX1_status 0 = .ok (.iload_n 1, 1) := dk_27 (dk_at dksX1_status_0 0 rfl rfl)
theorem dX1_status_1 : decode cX1_status 1 = .ok (.invokestatic 305, 3) := dk_184 1 49 (dk_at dksX1_status_0 1 rfl rfl)
theorem dX1_status_4 : decode cX1_status 4 = .ok (.ifCond .eq 12, 3) := dk_153 0 12 (dk_at dksX1_status_0 4 rfl rfl)
theorem dX1_status_7 : decode cX1_status 7 = .ok (.aload_n 0, 1) := dk_42 (dk_at dksX1_status_0 7 rfl rfl)
theorem dX1_status_8 : decode cX1_status 8 = .ok (.getfield 36, 3) := dk_180 0 36 (dk_at dksX1_status_0 8 rfl rfl)
theorem dX1_status_11 : decode cX1_status 11 = .ok (.iload_n 1, 1) := dk_27 (dk_at dksX1_status_0 11 rfl rfl)
theorem dX1_status_12 : decode cX1_status 12 = .ok (.iaload, 1) := dk_46 (dk_at dksX1_status_0 12 rfl rfl)
theorem dX1_status_13 : decode cX1_status 13 = .ok (.goto 4, 3) := dk_167 0 4 (dk_at dksX1_status_0 13 rfl rfl)
theorem dX1_status_16 : decode cX1_status 16 = .ok (.iconst (-1), 1) := dk_2 (dk_at dksX1_status_0 16 rfl rfl)
theorem dX1_status_17 : decode cX1_status 17 = .ok (.ireturn, 1) := dk_172 (dk_at dksX1_status_0 17 rfl rfl)
abbrev cX1_isPart : ByteArray := prog_1_method_14_code
def yX1_isPart : MethodName := ⟨RX1, "isPart", "(I)Z"⟩
def dkwX1_isPart_0 : List UInt8 := [26, 153, 0, 8, 26, 4, 160, 0, 7, 4, 167, 0, 4, 3, 172]
abbrev dktX1_isPart_0 : List UInt8 := dkwX1_isPart_0 ++ []
theorem dksX1_isPart_0 : cX1_isPart.data.toList.drop 0 = dktX1_isPart_0 := by decide +kernel
theorem dX1_isPart_0 : decode cX1_isPart 0 = .ok (.iload_n 0, 1) := dk_26 (dk_at dksX1_isPart_0 0 rfl rfl)
theorem dX1_isPart_1 : decode cX1_isPart 1 = .ok (.ifCond .eq 8, 3) := dk_153 0 8 (dk_at dksX1_isPart_0 1 rfl rfl)
theorem dX1_isPart_4 : decode cX1_isPart 4 = .ok (.iload_n 0, 1) := dk_26 (dk_at dksX1_isPart_0 4 rfl rfl)
theorem dX1_isPart_5 : decode cX1_isPart 5 = .ok (.iconst 1, 1) := dk_4 (dk_at dksX1_isPart_0 5 rfl rfl)
theorem dX1_isPart_6 : decode cX1_isPart 6 = .ok (.if_icmp .ne 7, 3) := dk_160 0 7 (dk_at dksX1_isPart_0 6 rfl rfl)
theorem dX1_isPart_9 : decode cX1_isPart 9 = .ok (.iconst 1, 1) := dk_4 (dk_at dksX1_isPart_0 9 rfl rfl)
theorem dX1_isPart_10 : decode cX1_isPart 10 = .ok (.goto 4, 3) := dk_167 0 4 (dk_at dksX1_isPart_0 10 rfl rfl)
theorem dX1_isPart_13 : decode cX1_isPart 13 = .ok (.iconst 0, 1) := dk_3 (dk_at dksX1_isPart_0 13 rfl rfl)
theorem dX1_isPart_14 : decode cX1_isPart 14 = .ok (.ireturn, 1) := dk_172 (dk_at dksX1_isPart_0 14 rfl rfl)
abbrev cX1_count : ByteArray := prog_1_method_82_code
def yX1_count : MethodName := ⟨RX1, "count", "(I)I"⟩
def dkwX1_count_1 : List UInt8 := [5, 160, 0, 10, 42, 180, 0, 87, 167, 0, 4, 2, 172]
abbrev dktX1_count_1 : List UInt8 := dkwX1_count_1 ++ []
def dkwX1_count_0 : List UInt8 := [27, 154, 0, 10, 42, 180, 0, 96, 167, 0, 28, 27, 4, 160, 0, 10, 42, 180, 0, 169, 167, 0, 16, 27]
abbrev dktX1_count_0 : List UInt8 := dkwX1_count_0 ++ dktX1_count_1
theorem dksX1_count_0 : cX1_count.data.toList.drop 0 = dktX1_count_0 := by decide +kernel
theorem dksX1_count_1 : cX1_count.data.toList.drop 24 = dktX1_count_1 := dk_seg dksX1_count_0 24 rfl rfl
theorem dX1_count_0 : decode cX1_count 0 = .ok (.iload_n 1, 1) := dk_27 (dk_at dksX1_count_0 0 rfl rfl)
theorem dX1_count_1 : decode cX1_count 1 = .ok (.ifCond .ne 10, 3) := dk_154 0 10 (dk_at dksX1_count_0 1 rfl rfl)
theorem dX1_count_4 : decode cX1_count 4 = .ok (.aload_n 0, 1) := dk_42 (dk_at dksX1_count_0 4 rfl rfl)
theorem dX1_count_5 : decode cX1_count 5 = .ok (.getfield 96, 3) := dk_180 0 96 (dk_at dksX1_count_0 5 rfl rfl)
theorem dX1_count_8 : decode cX1_count 8 = .ok (.goto 28, 3) := dk_167 0 28 (dk_at dksX1_count_0 8 rfl rfl)
theorem dX1_count_11 : decode cX1_count 11 = .ok (.iload_n 1, 1) := dk_27 (dk_at dksX1_count_0 11 rfl rfl)
theorem dX1_count_12 : decode cX1_count 12 = .ok (.iconst 1, 1) := dk_4 (dk_at dksX1_count_0 12 rfl rfl)
theorem dX1_count_13 : decode cX1_count 13 = .ok (.if_icmp .ne 10, 3) := dk_160 0 10 (dk_at dksX1_count_0 13 rfl rfl)
theorem dX1_count_16 : decode cX1_count 16 = .ok (.aload_n 0, 1) := dk_42 (dk_at dksX1_count_0 16 rfl rfl)
theorem dX1_count_17 : decode cX1_count 17 = .ok (.getfield 169, 3) := dk_180 0 169 (dk_at dksX1_count_0 17 rfl rfl)
theorem dX1_count_20 : decode cX1_count 20 = .ok (.goto 16, 3) := dk_167 0 16 (dk_at dksX1_count_0 20 rfl rfl)
theorem dX1_count_23 : decode cX1_count 23 = .ok (.iload_n 1, 1) := dk_27 (dk_at dksX1_count_0 23 rfl rfl)
theorem dX1_count_24 : decode cX1_count 24 = .ok (.iconst 2, 1) := dk_5 (dk_at dksX1_count_1 0 rfl rfl)
theorem dX1_count_25 : decode cX1_count 25 = .ok (.if_icmp .ne 10, 3) := dk_160 0 10 (dk_at dksX1_count_1 1 rfl rfl)
theorem dX1_count_28 : decode cX1_count 28 = .ok (.aload_n 0, 1) := dk_42 (dk_at dksX1_count_1 4 rfl rfl)
theorem dX1_count_29 : decode cX1_count 29 = .ok (.getfield 87, 3) := dk_180 0 87 (dk_at dksX1_count_1 5 rfl rfl)
theorem dX1_count_32 : decode cX1_count 32 = .ok (.goto 4, 3) := dk_167 0 4 (dk_at dksX1_count_1 8 rfl rfl)
theorem dX1_count_35 : decode cX1_count 35 = .ok (.iconst (-1), 1) := dk_2 (dk_at dksX1_count_1 11 rfl rfl)
theorem dX1_count_36 : decode cX1_count 36 = .ok (.ireturn, 1) := dk_172 (dk_at dksX1_count_1 12 rfl rfl)
abbrev cX1_choir : ByteArray := prog_1_method_21_code
def yX1_choir : MethodName := ⟨RX1, "choir", "(I)I"⟩
def dkwX1_choir_3 : List UInt8 := [181, 0, 169, 29, 172, 58, 4, 42, 3, 181, 0, 169, 25, 4, 191]
abbrev dktX1_choir_3 : List UInt8 := dkwX1_choir_3 ++ []
def dkwX1_choir_2 : List UInt8 := [182, 0, 81, 42, 182, 0, 157, 61, 42, 3, 181, 0, 169, 28, 172, 77, 42, 44, 182, 0, 196, 62, 42, 3]
abbrev dktX1_choir_2 : List UInt8 := dkwX1_choir_2 ++ dktX1_choir_3
def dkwX1_choir_1 : List UInt8 := [181, 0, 64, 42, 187, 0, 187, 89, 42, 180, 0, 68, 27, 183, 0, 189, 182, 0, 192, 181, 0, 17, 42]
abbrev dktX1_choir_1 : List UInt8 := dkwX1_choir_1 ++ dktX1_choir_2
def dkwX1_choir_0 : List UInt8 := [42, 27, 155, 0, 15, 27, 42, 180, 0, 169, 163, 0, 7, 4, 167, 0, 4, 3, 182, 0, 183, 42, 2]
abbrev dktX1_choir_0 : List UInt8 := dkwX1_choir_0 ++ dktX1_choir_1
theorem dksX1_choir_0 : cX1_choir.data.toList.drop 0 = dktX1_choir_0 := by decide +kernel
theorem dksX1_choir_1 : cX1_choir.data.toList.drop 23 = dktX1_choir_1 := dk_seg dksX1_choir_0 23 rfl rfl
theorem dksX1_choir_2 : cX1_choir.data.toList.drop 46 = dktX1_choir_2 := dk_seg dksX1_choir_1 23 rfl rfl
theorem dksX1_choir_3 : cX1_choir.data.toList.drop 70 = dktX1_choir_3 := dk_seg dksX1_choir_2 24 rfl rfl
theorem dX1_choir_0 : decode cX1_choir 0 = .ok (.aload_n 0, 1) := dk_42 (dk_at dksX1_choir_0 0 rfl rfl)
theorem dX1_choir_1 : decode cX1_choir 1 = .ok (.iload_n 1, 1) := dk_27 (dk_at dksX1_choir_0 1 rfl rfl)
theorem dX1_choir_2 : decode cX1_choir 2 = .ok (.ifCond .lt 15, 3) := dk_155 0 15 (dk_at dksX1_choir_0 2 rfl rfl)
theorem dX1_choir_5 : decode cX1_choir 5 = .ok (.iload_n 1, 1) := dk_27 (dk_at dksX1_choir_0 5 rfl rfl)
theorem dX1_choir_6 : decode cX1_choir 6 = .ok (.aload_n 0, 1) := dk_42 (dk_at dksX1_choir_0 6 rfl rfl)
theorem dX1_choir_7 : decode cX1_choir 7 = .ok (.getfield 169, 3) := dk_180 0 169 (dk_at dksX1_choir_0 7 rfl rfl)
theorem dX1_choir_10 : decode cX1_choir 10 = .ok (.if_icmp .gt 7, 3) := dk_163 0 7 (dk_at dksX1_choir_0 10 rfl rfl)
theorem dX1_choir_13 : decode cX1_choir 13 = .ok (.iconst 1, 1) := dk_4 (dk_at dksX1_choir_0 13 rfl rfl)
theorem dX1_choir_14 : decode cX1_choir 14 = .ok (.goto 4, 3) := dk_167 0 4 (dk_at dksX1_choir_0 14 rfl rfl)
theorem dX1_choir_17 : decode cX1_choir 17 = .ok (.iconst 0, 1) := dk_3 (dk_at dksX1_choir_0 17 rfl rfl)
theorem dX1_choir_18 : decode cX1_choir 18 = .ok (.invokevirtual 183, 3) := dk_182 0 183 (dk_at dksX1_choir_0 18 rfl rfl)
theorem dX1_choir_21 : decode cX1_choir 21 = .ok (.aload_n 0, 1) := dk_42 (dk_at dksX1_choir_0 21 rfl rfl)
theorem dX1_choir_22 : decode cX1_choir 22 = .ok (.iconst (-1), 1) := dk_2 (dk_at dksX1_choir_0 22 rfl rfl)
theorem dX1_choir_23 : decode cX1_choir 23 = .ok (.putfield 64, 3) := dk_181 0 64 (dk_at dksX1_choir_1 0 rfl rfl)
theorem dX1_choir_26 : decode cX1_choir 26 = .ok (.aload_n 0, 1) := dk_42 (dk_at dksX1_choir_1 3 rfl rfl)
theorem dX1_choir_27 : decode cX1_choir 27 = .ok (.new 187, 3) := dk_187 0 187 (dk_at dksX1_choir_1 4 rfl rfl)
theorem dX1_choir_30 : decode cX1_choir 30 = .ok (.dup, 1) := dk_89 (dk_at dksX1_choir_1 7 rfl rfl)
theorem dX1_choir_31 : decode cX1_choir 31 = .ok (.aload_n 0, 1) := dk_42 (dk_at dksX1_choir_1 8 rfl rfl)
theorem dX1_choir_32 : decode cX1_choir 32 = .ok (.getfield 68, 3) := dk_180 0 68 (dk_at dksX1_choir_1 9 rfl rfl)
theorem dX1_choir_35 : decode cX1_choir 35 = .ok (.iload_n 1, 1) := dk_27 (dk_at dksX1_choir_1 12 rfl rfl)
theorem dX1_choir_36 : decode cX1_choir 36 = .ok (.invokespecial 189, 3) := dk_183 0 189 (dk_at dksX1_choir_1 13 rfl rfl)
theorem dX1_choir_39 : decode cX1_choir 39 = .ok (.invokevirtual 192, 3) := dk_182 0 192 (dk_at dksX1_choir_1 16 rfl rfl)
theorem dX1_choir_42 : decode cX1_choir 42 = .ok (.putfield 17, 3) := dk_181 0 17 (dk_at dksX1_choir_1 19 rfl rfl)
theorem dX1_choir_45 : decode cX1_choir 45 = .ok (.aload_n 0, 1) := dk_42 (dk_at dksX1_choir_1 22 rfl rfl)
theorem dX1_choir_46 : decode cX1_choir 46 = .ok (.invokevirtual 81, 3) := dk_182 0 81 (dk_at dksX1_choir_2 0 rfl rfl)
theorem dX1_choir_49 : decode cX1_choir 49 = .ok (.aload_n 0, 1) := dk_42 (dk_at dksX1_choir_2 3 rfl rfl)
theorem dX1_choir_50 : decode cX1_choir 50 = .ok (.invokevirtual 157, 3) := dk_182 0 157 (dk_at dksX1_choir_2 4 rfl rfl)
theorem dX1_choir_53 : decode cX1_choir 53 = .ok (.istore_n 2, 1) := dk_61 (dk_at dksX1_choir_2 7 rfl rfl)
theorem dX1_choir_54 : decode cX1_choir 54 = .ok (.aload_n 0, 1) := dk_42 (dk_at dksX1_choir_2 8 rfl rfl)
theorem dX1_choir_55 : decode cX1_choir 55 = .ok (.iconst 0, 1) := dk_3 (dk_at dksX1_choir_2 9 rfl rfl)
theorem dX1_choir_56 : decode cX1_choir 56 = .ok (.putfield 169, 3) := dk_181 0 169 (dk_at dksX1_choir_2 10 rfl rfl)
theorem dX1_choir_59 : decode cX1_choir 59 = .ok (.iload_n 2, 1) := dk_28 (dk_at dksX1_choir_2 13 rfl rfl)
theorem dX1_choir_60 : decode cX1_choir 60 = .ok (.ireturn, 1) := dk_172 (dk_at dksX1_choir_2 14 rfl rfl)
theorem dX1_choir_61 : decode cX1_choir 61 = .ok (.astore_n 2, 1) := dk_77 (dk_at dksX1_choir_2 15 rfl rfl)
theorem dX1_choir_62 : decode cX1_choir 62 = .ok (.aload_n 0, 1) := dk_42 (dk_at dksX1_choir_2 16 rfl rfl)
theorem dX1_choir_63 : decode cX1_choir 63 = .ok (.aload_n 2, 1) := dk_44 (dk_at dksX1_choir_2 17 rfl rfl)
theorem dX1_choir_64 : decode cX1_choir 64 = .ok (.invokevirtual 196, 3) := dk_182 0 196 (dk_at dksX1_choir_2 18 rfl rfl)
theorem dX1_choir_67 : decode cX1_choir 67 = .ok (.istore_n 3, 1) := dk_62 (dk_at dksX1_choir_2 21 rfl rfl)
theorem dX1_choir_68 : decode cX1_choir 68 = .ok (.aload_n 0, 1) := dk_42 (dk_at dksX1_choir_2 22 rfl rfl)
theorem dX1_choir_69 : decode cX1_choir 69 = .ok (.iconst 0, 1) := dk_3 (dk_at dksX1_choir_2 23 rfl rfl)
theorem dX1_choir_70 : decode cX1_choir 70 = .ok (.putfield 169, 3) := dk_181 0 169 (dk_at dksX1_choir_3 0 rfl rfl)
theorem dX1_choir_73 : decode cX1_choir 73 = .ok (.iload_n 3, 1) := dk_29 (dk_at dksX1_choir_3 3 rfl rfl)
theorem dX1_choir_74 : decode cX1_choir 74 = .ok (.ireturn, 1) := dk_172 (dk_at dksX1_choir_3 4 rfl rfl)
theorem dX1_choir_75 : decode cX1_choir 75 = .ok (.astore 4, 2) := dk_58 4 (dk_at dksX1_choir_3 5 rfl rfl)
theorem dX1_choir_77 : decode cX1_choir 77 = .ok (.aload_n 0, 1) := dk_42 (dk_at dksX1_choir_3 7 rfl rfl)
theorem dX1_choir_78 : decode cX1_choir 78 = .ok (.iconst 0, 1) := dk_3 (dk_at dksX1_choir_3 8 rfl rfl)
theorem dX1_choir_79 : decode cX1_choir 79 = .ok (.putfield 169, 3) := dk_181 0 169 (dk_at dksX1_choir_3 9 rfl rfl)
theorem dX1_choir_82 : decode cX1_choir 82 = .ok (.aload 4, 2) := dk_25 4 (dk_at dksX1_choir_3 12 rfl rfl)
theorem dX1_choir_84 : decode cX1_choir 84 = .ok (.athrow, 1) := dk_191 (dk_at dksX1_choir_3 14 rfl rfl)
abbrev cX1_need : ByteArray := prog_1_method_10_code
def yX1_need : MethodName := ⟨RX1, "need", "(Z)V"⟩
def dkwX1_need_0 : List UInt8 := [27, 153, 0, 4, 177, 42, 180, 0, 36, 4, 92, 46, 4, 96, 79, 187, 0, 151, 89, 183, 0, 153, 191]
abbrev dktX1_need_0 : List UInt8 := dkwX1_need_0 ++ []
theorem dksX1_need_0 : cX1_need.data.toList.drop 0 = dktX1_need_0 := by decide +kernel
theorem dX1_need_0 : decode cX1_need 0 = .ok (.iload_n 1, 1) := dk_27 (dk_at dksX1_need_0 0 rfl rfl)
theorem dX1_need_1 : decode cX1_need 1 = .ok (.ifCond .eq 4, 3) := dk_153 0 4 (dk_at dksX1_need_0 1 rfl rfl)
theorem dX1_need_4 : decode cX1_need 4 = .ok (.return_, 1) := dk_177 (dk_at dksX1_need_0 4 rfl rfl)
theorem dX1_need_5 : decode cX1_need 5 = .ok (.aload_n 0, 1) := dk_42 (dk_at dksX1_need_0 5 rfl rfl)
theorem dX1_need_6 : decode cX1_need 6 = .ok (.getfield 36, 3) := dk_180 0 36 (dk_at dksX1_need_0 6 rfl rfl)
theorem dX1_need_9 : decode cX1_need 9 = .ok (.iconst 1, 1) := dk_4 (dk_at dksX1_need_0 9 rfl rfl)
theorem dX1_need_10 : decode cX1_need 10 = .ok (.dup2, 1) := dk_92 (dk_at dksX1_need_0 10 rfl rfl)
theorem dX1_need_11 : decode cX1_need 11 = .ok (.iaload, 1) := dk_46 (dk_at dksX1_need_0 11 rfl rfl)
theorem dX1_need_12 : decode cX1_need 12 = .ok (.iconst 1, 1) := dk_4 (dk_at dksX1_need_0 12 rfl rfl)
theorem dX1_need_13 : decode cX1_need 13 = .ok (.iadd, 1) := dk_96 (dk_at dksX1_need_0 13 rfl rfl)
theorem dX1_need_14 : decode cX1_need 14 = .ok (.iastore, 1) := dk_79 (dk_at dksX1_need_0 14 rfl rfl)
theorem dX1_need_15 : decode cX1_need 15 = .ok (.new 151, 3) := dk_187 0 151 (dk_at dksX1_need_0 15 rfl rfl)
theorem dX1_need_18 : decode cX1_need 18 = .ok (.dup, 1) := dk_89 (dk_at dksX1_need_0 18 rfl rfl)
theorem dX1_need_19 : decode cX1_need 19 = .ok (.invokespecial 153, 3) := dk_183 0 153 (dk_at dksX1_need_0 19 rfl rfl)
theorem dX1_need_22 : decode cX1_need 22 = .ok (.athrow, 1) := dk_191 (dk_at dksX1_need_0 22 rfl rfl)
abbrev cX1_failed : ByteArray := prog_1_method_20_code
def yX1_failed : MethodName := ⟨RX1, "failed", "(LVowelChoir$Wrong;)I"⟩
def dkwX1_failed_0 : List UInt8 := [42, 43, 180, 0, 175, 181, 0, 64, 43, 180, 0, 180, 16, 10, 100, 172]
abbrev dktX1_failed_0 : List UInt8 := dkwX1_failed_0 ++ []
theorem dksX1_failed_0 : cX1_failed.data.toList.drop 0 = dktX1_failed_0 := by decide +kernel
theorem dX1_failed_0 : decode cX1_failed 0 = .ok (.aload_n 0, 1) := dk_42 (dk_at dksX1_failed_0 0 rfl rfl)
theorem dX1_failed_1 : decode cX1_failed 1 = .ok (.aload_n 1, 1) := dk_43 (dk_at dksX1_failed_0 1 rfl rfl)
theorem dX1_failed_2 : decode cX1_failed 2 = .ok (.getfield 175, 3) := dk_180 0 175 (dk_at dksX1_failed_0 2 rfl rfl)
theorem dX1_failed_5 : decode cX1_failed 5 = .ok (.putfield 64, 3) := dk_181 0 64 (dk_at dksX1_failed_0 5 rfl rfl)
theorem dX1_failed_8 : decode cX1_failed 8 = .ok (.aload_n 1, 1) := dk_43 (dk_at dksX1_failed_0 8 rfl rfl)
theorem dX1_failed_9 : decode cX1_failed 9 = .ok (.getfield 180, 3) := dk_180 0 180 (dk_at dksX1_failed_0 9 rfl rfl)
theorem dX1_failed_12 : decode cX1_failed 12 = .ok (.bipush 10, 2) := dk_16 10 (dk_at dksX1_failed_0 12 rfl rfl)
theorem dX1_failed_14 : decode cX1_failed 14 = .ok (.isub, 1) := dk_100 (dk_at dksX1_failed_0 14 rfl rfl)
theorem dX1_failed_15 : decode cX1_failed 15 = .ok (.ireturn, 1) := dk_172 (dk_at dksX1_failed_0 15 rfl rfl)
abbrev cX1_law : ByteArray := prog_1_method_22_code
def yX1_law : MethodName := ⟨RX1, "law", "(I)I"⟩
def dkwX1_law_3 : List UInt8 := [181, 0, 169, 29, 172, 58, 4, 42, 3, 181, 0, 169, 25, 4, 191]
abbrev dktX1_law_3 : List UInt8 := dkwX1_law_3 ++ []
def dkwX1_law_2 : List UInt8 := [182, 0, 203, 181, 0, 25, 4, 61, 42, 3, 181, 0, 169, 28, 172, 77, 42, 44, 182, 0, 196, 62, 42, 3]
abbrev dktX1_law_2 : List UInt8 := dkwX1_law_2 ++ dktX1_law_3
def dkwX1_law_1 : List UInt8 := [3, 182, 0, 183, 42, 2, 181, 0, 64, 42, 187, 0, 200, 89, 42, 180, 0, 68, 27, 183, 0, 202]
abbrev dktX1_law_1 : List UInt8 := dkwX1_law_1 ++ dktX1_law_2
def dkwX1_law_0 : List UInt8 := [42, 27, 155, 0, 22, 27, 42, 180, 0, 169, 163, 0, 14, 27, 17, 0, 150, 163, 0, 7, 4, 167, 0, 4]
abbrev dktX1_law_0 : List UInt8 := dkwX1_law_0 ++ dktX1_law_1
theorem dksX1_law_0 : cX1_law.data.toList.drop 0 = dktX1_law_0 := by decide +kernel
theorem dksX1_law_1 : cX1_law.data.toList.drop 24 = dktX1_law_1 := dk_seg dksX1_law_0 24 rfl rfl
theorem dksX1_law_2 : cX1_law.data.toList.drop 46 = dktX1_law_2 := dk_seg dksX1_law_1 22 rfl rfl
theorem dksX1_law_3 : cX1_law.data.toList.drop 70 = dktX1_law_3 := dk_seg dksX1_law_2 24 rfl rfl
theorem dX1_law_0 : decode cX1_law 0 = .ok (.aload_n 0, 1) := dk_42 (dk_at dksX1_law_0 0 rfl rfl)
theorem dX1_law_1 : decode cX1_law 1 = .ok (.iload_n 1, 1) := dk_27 (dk_at dksX1_law_0 1 rfl rfl)
theorem dX1_law_2 : decode cX1_law 2 = .ok (.ifCond .lt 22, 3) := dk_155 0 22 (dk_at dksX1_law_0 2 rfl rfl)
theorem dX1_law_5 : decode cX1_law 5 = .ok (.iload_n 1, 1) := dk_27 (dk_at dksX1_law_0 5 rfl rfl)
theorem dX1_law_6 : decode cX1_law 6 = .ok (.aload_n 0, 1) := dk_42 (dk_at dksX1_law_0 6 rfl rfl)
theorem dX1_law_7 : decode cX1_law 7 = .ok (.getfield 169, 3) := dk_180 0 169 (dk_at dksX1_law_0 7 rfl rfl)
theorem dX1_law_10 : decode cX1_law 10 = .ok (.if_icmp .gt 14, 3) := dk_163 0 14 (dk_at dksX1_law_0 10 rfl rfl)
theorem dX1_law_13 : decode cX1_law 13 = .ok (.iload_n 1, 1) := dk_27 (dk_at dksX1_law_0 13 rfl rfl)
theorem dX1_law_14 : decode cX1_law 14 = .ok (.sipush 150, 3) := dk_17 0 150 (dk_at dksX1_law_0 14 rfl rfl)
theorem dX1_law_17 : decode cX1_law 17 = .ok (.if_icmp .gt 7, 3) := dk_163 0 7 (dk_at dksX1_law_0 17 rfl rfl)
theorem dX1_law_20 : decode cX1_law 20 = .ok (.iconst 1, 1) := dk_4 (dk_at dksX1_law_0 20 rfl rfl)
theorem dX1_law_21 : decode cX1_law 21 = .ok (.goto 4, 3) := dk_167 0 4 (dk_at dksX1_law_0 21 rfl rfl)
theorem dX1_law_24 : decode cX1_law 24 = .ok (.iconst 0, 1) := dk_3 (dk_at dksX1_law_1 0 rfl rfl)
theorem dX1_law_25 : decode cX1_law 25 = .ok (.invokevirtual 183, 3) := dk_182 0 183 (dk_at dksX1_law_1 1 rfl rfl)
theorem dX1_law_28 : decode cX1_law 28 = .ok (.aload_n 0, 1) := dk_42 (dk_at dksX1_law_1 4 rfl rfl)
theorem dX1_law_29 : decode cX1_law 29 = .ok (.iconst (-1), 1) := dk_2 (dk_at dksX1_law_1 5 rfl rfl)
theorem dX1_law_30 : decode cX1_law 30 = .ok (.putfield 64, 3) := dk_181 0 64 (dk_at dksX1_law_1 6 rfl rfl)
theorem dX1_law_33 : decode cX1_law 33 = .ok (.aload_n 0, 1) := dk_42 (dk_at dksX1_law_1 9 rfl rfl)
theorem dX1_law_34 : decode cX1_law 34 = .ok (.new 200, 3) := dk_187 0 200 (dk_at dksX1_law_1 10 rfl rfl)
theorem dX1_law_37 : decode cX1_law 37 = .ok (.dup, 1) := dk_89 (dk_at dksX1_law_1 13 rfl rfl)
theorem dX1_law_38 : decode cX1_law 38 = .ok (.aload_n 0, 1) := dk_42 (dk_at dksX1_law_1 14 rfl rfl)
theorem dX1_law_39 : decode cX1_law 39 = .ok (.getfield 68, 3) := dk_180 0 68 (dk_at dksX1_law_1 15 rfl rfl)
theorem dX1_law_42 : decode cX1_law 42 = .ok (.iload_n 1, 1) := dk_27 (dk_at dksX1_law_1 18 rfl rfl)
theorem dX1_law_43 : decode cX1_law 43 = .ok (.invokespecial 202, 3) := dk_183 0 202 (dk_at dksX1_law_1 19 rfl rfl)
theorem dX1_law_46 : decode cX1_law 46 = .ok (.invokevirtual 203, 3) := dk_182 0 203 (dk_at dksX1_law_2 0 rfl rfl)
theorem dX1_law_49 : decode cX1_law 49 = .ok (.putfield 25, 3) := dk_181 0 25 (dk_at dksX1_law_2 3 rfl rfl)
theorem dX1_law_52 : decode cX1_law 52 = .ok (.iconst 1, 1) := dk_4 (dk_at dksX1_law_2 6 rfl rfl)
theorem dX1_law_53 : decode cX1_law 53 = .ok (.istore_n 2, 1) := dk_61 (dk_at dksX1_law_2 7 rfl rfl)
theorem dX1_law_54 : decode cX1_law 54 = .ok (.aload_n 0, 1) := dk_42 (dk_at dksX1_law_2 8 rfl rfl)
theorem dX1_law_55 : decode cX1_law 55 = .ok (.iconst 0, 1) := dk_3 (dk_at dksX1_law_2 9 rfl rfl)
theorem dX1_law_56 : decode cX1_law 56 = .ok (.putfield 169, 3) := dk_181 0 169 (dk_at dksX1_law_2 10 rfl rfl)
theorem dX1_law_59 : decode cX1_law 59 = .ok (.iload_n 2, 1) := dk_28 (dk_at dksX1_law_2 13 rfl rfl)
theorem dX1_law_60 : decode cX1_law 60 = .ok (.ireturn, 1) := dk_172 (dk_at dksX1_law_2 14 rfl rfl)
theorem dX1_law_61 : decode cX1_law 61 = .ok (.astore_n 2, 1) := dk_77 (dk_at dksX1_law_2 15 rfl rfl)
theorem dX1_law_62 : decode cX1_law 62 = .ok (.aload_n 0, 1) := dk_42 (dk_at dksX1_law_2 16 rfl rfl)
theorem dX1_law_63 : decode cX1_law 63 = .ok (.aload_n 2, 1) := dk_44 (dk_at dksX1_law_2 17 rfl rfl)
theorem dX1_law_64 : decode cX1_law 64 = .ok (.invokevirtual 196, 3) := dk_182 0 196 (dk_at dksX1_law_2 18 rfl rfl)
theorem dX1_law_67 : decode cX1_law 67 = .ok (.istore_n 3, 1) := dk_62 (dk_at dksX1_law_2 21 rfl rfl)
theorem dX1_law_68 : decode cX1_law 68 = .ok (.aload_n 0, 1) := dk_42 (dk_at dksX1_law_2 22 rfl rfl)
theorem dX1_law_69 : decode cX1_law 69 = .ok (.iconst 0, 1) := dk_3 (dk_at dksX1_law_2 23 rfl rfl)
theorem dX1_law_70 : decode cX1_law 70 = .ok (.putfield 169, 3) := dk_181 0 169 (dk_at dksX1_law_3 0 rfl rfl)
theorem dX1_law_73 : decode cX1_law 73 = .ok (.iload_n 3, 1) := dk_29 (dk_at dksX1_law_3 3 rfl rfl)
theorem dX1_law_74 : decode cX1_law 74 = .ok (.ireturn, 1) := dk_172 (dk_at dksX1_law_3 4 rfl rfl)
theorem dX1_law_75 : decode cX1_law 75 = .ok (.astore 4, 2) := dk_58 4 (dk_at dksX1_law_3 5 rfl rfl)
theorem dX1_law_77 : decode cX1_law 77 = .ok (.aload_n 0, 1) := dk_42 (dk_at dksX1_law_3 7 rfl rfl)
theorem dX1_law_78 : decode cX1_law 78 = .ok (.iconst 0, 1) := dk_3 (dk_at dksX1_law_3 8 rfl rfl)
theorem dX1_law_79 : decode cX1_law 79 = .ok (.putfield 169, 3) := dk_181 0 169 (dk_at dksX1_law_3 9 rfl rfl)
theorem dX1_law_82 : decode cX1_law 82 = .ok (.aload 4, 2) := dk_25 4 (dk_at dksX1_law_3 12 rfl rfl)
theorem dX1_law_84 : decode cX1_law 84 = .ok (.athrow, 1) := dk_191 (dk_at dksX1_law_3 14 rfl rfl)
abbrev cX1_work : ByteArray := prog_1_method_23_code
def yX1_work : MethodName := ⟨RX1, "work", "(I)I"⟩
def dkwX1_work_8 : List UInt8 := [181, 0, 169, 29, 172, 58, 4, 42, 3, 181, 0, 169, 25, 4, 191]
abbrev dktX1_work_8 : List UInt8 := dkwX1_work_8 ++ []
def dkwX1_work_7 : List UInt8 := [180, 0, 44, 180, 0, 220, 62, 42, 3, 181, 0, 169, 29, 172, 77, 42, 44, 182, 0, 196, 62, 42, 3]
abbrev dktX1_work_7 : List UInt8 := dkwX1_work_7 ++ dktX1_work_8
def dkwX1_work_6 : List UInt8 := [180, 0, 44, 182, 0, 227, 132, 3, 1, 167, 255, 230, 42, 42, 180, 0, 44, 180, 0, 223, 181, 0, 90, 42]
abbrev dktX1_work_6 : List UInt8 := dkwX1_work_6 ++ dktX1_work_7
def dkwX1_work_5 : List UInt8 := [181, 0, 223, 3, 62, 29, 44, 182, 0, 103, 162, 0, 24, 44, 29, 182, 0, 112, 192, 0, 225, 42]
abbrev dktX1_work_5 : List UInt8 := dkwX1_work_5 ++ dktX1_work_6
def dkwX1_work_4 : List UInt8 := [181, 0, 87, 42, 180, 0, 44, 3, 181, 0, 217, 42, 180, 0, 44, 3, 181, 0, 220, 42, 180, 0, 44, 3]
abbrev dktX1_work_4 : List UInt8 := dkwX1_work_4 ++ dktX1_work_5
def dkwX1_work_3 : List UInt8 := [77, 42, 42, 180, 0, 51, 42, 180, 0, 87, 42, 180, 0, 44, 182, 0, 213, 42, 89, 180, 0, 87, 4, 96]
abbrev dktX1_work_3 : List UInt8 := dkwX1_work_3 ++ dktX1_work_4
def dkwX1_work_2 : List UInt8 := [181, 0, 169, 28, 172, 187, 0, 205, 89, 42, 180, 0, 68, 27, 42, 180, 0, 17, 183, 0, 207, 182, 0, 210]
abbrev dktX1_work_2 : List UInt8 := dkwX1_work_2 ++ dktX1_work_3
def dkwX1_work_1 : List UInt8 := [3, 182, 0, 183, 42, 2, 181, 0, 64, 42, 180, 0, 87, 16, 16, 160, 0, 13, 16, 236, 61, 42, 3]
abbrev dktX1_work_1 : List UInt8 := dkwX1_work_1 ++ dktX1_work_2
def dkwX1_work_0 : List UInt8 := [42, 27, 155, 0, 22, 27, 42, 180, 0, 169, 163, 0, 14, 27, 17, 0, 150, 163, 0, 7, 4, 167, 0, 4]
abbrev dktX1_work_0 : List UInt8 := dkwX1_work_0 ++ dktX1_work_1
theorem dksX1_work_0 : cX1_work.data.toList.drop 0 = dktX1_work_0 := by decide +kernel
theorem dksX1_work_1 : cX1_work.data.toList.drop 24 = dktX1_work_1 := dk_seg dksX1_work_0 24 rfl rfl
theorem dksX1_work_2 : cX1_work.data.toList.drop 47 = dktX1_work_2 := dk_seg dksX1_work_1 23 rfl rfl
theorem dksX1_work_3 : cX1_work.data.toList.drop 71 = dktX1_work_3 := dk_seg dksX1_work_2 24 rfl rfl
theorem dksX1_work_4 : cX1_work.data.toList.drop 95 = dktX1_work_4 := dk_seg dksX1_work_3 24 rfl rfl
theorem dksX1_work_5 : cX1_work.data.toList.drop 119 = dktX1_work_5 := dk_seg dksX1_work_4 24 rfl rfl
theorem dksX1_work_6 : cX1_work.data.toList.drop 141 = dktX1_work_6 := dk_seg dksX1_work_5 22 rfl rfl
theorem dksX1_work_7 : cX1_work.data.toList.drop 165 = dktX1_work_7 := dk_seg dksX1_work_6 24 rfl rfl
theorem dksX1_work_8 : cX1_work.data.toList.drop 188 = dktX1_work_8 := dk_seg dksX1_work_7 23 rfl rfl
theorem dX1_work_0 : decode cX1_work 0 = .ok (.aload_n 0, 1) := dk_42 (dk_at dksX1_work_0 0 rfl rfl)
theorem dX1_work_1 : decode cX1_work 1 = .ok (.iload_n 1, 1) := dk_27 (dk_at dksX1_work_0 1 rfl rfl)
theorem dX1_work_2 : decode cX1_work 2 = .ok (.ifCond .lt 22, 3) := dk_155 0 22 (dk_at dksX1_work_0 2 rfl rfl)
theorem dX1_work_5 : decode cX1_work 5 = .ok (.iload_n 1, 1) := dk_27 (dk_at dksX1_work_0 5 rfl rfl)
theorem dX1_work_6 : decode cX1_work 6 = .ok (.aload_n 0, 1) := dk_42 (dk_at dksX1_work_0 6 rfl rfl)
theorem dX1_work_7 : decode cX1_work 7 = .ok (.getfield 169, 3) := dk_180 0 169 (dk_at dksX1_work_0 7 rfl rfl)
theorem dX1_work_10 : decode cX1_work 10 = .ok (.if_icmp .gt 14, 3) := dk_163 0 14 (dk_at dksX1_work_0 10 rfl rfl)
theorem dX1_work_13 : decode cX1_work 13 = .ok (.iload_n 1, 1) := dk_27 (dk_at dksX1_work_0 13 rfl rfl)
theorem dX1_work_14 : decode cX1_work 14 = .ok (.sipush 150, 3) := dk_17 0 150 (dk_at dksX1_work_0 14 rfl rfl)
theorem dX1_work_17 : decode cX1_work 17 = .ok (.if_icmp .gt 7, 3) := dk_163 0 7 (dk_at dksX1_work_0 17 rfl rfl)
theorem dX1_work_20 : decode cX1_work 20 = .ok (.iconst 1, 1) := dk_4 (dk_at dksX1_work_0 20 rfl rfl)
theorem dX1_work_21 : decode cX1_work 21 = .ok (.goto 4, 3) := dk_167 0 4 (dk_at dksX1_work_0 21 rfl rfl)
theorem dX1_work_24 : decode cX1_work 24 = .ok (.iconst 0, 1) := dk_3 (dk_at dksX1_work_1 0 rfl rfl)
theorem dX1_work_25 : decode cX1_work 25 = .ok (.invokevirtual 183, 3) := dk_182 0 183 (dk_at dksX1_work_1 1 rfl rfl)
theorem dX1_work_28 : decode cX1_work 28 = .ok (.aload_n 0, 1) := dk_42 (dk_at dksX1_work_1 4 rfl rfl)
theorem dX1_work_29 : decode cX1_work 29 = .ok (.iconst (-1), 1) := dk_2 (dk_at dksX1_work_1 5 rfl rfl)
theorem dX1_work_30 : decode cX1_work 30 = .ok (.putfield 64, 3) := dk_181 0 64 (dk_at dksX1_work_1 6 rfl rfl)
theorem dX1_work_33 : decode cX1_work 33 = .ok (.aload_n 0, 1) := dk_42 (dk_at dksX1_work_1 9 rfl rfl)
theorem dX1_work_34 : decode cX1_work 34 = .ok (.getfield 87, 3) := dk_180 0 87 (dk_at dksX1_work_1 10 rfl rfl)
theorem dX1_work_37 : decode cX1_work 37 = .ok (.bipush 16, 2) := dk_16 16 (dk_at dksX1_work_1 13 rfl rfl)
theorem dX1_work_39 : decode cX1_work 39 = .ok (.if_icmp .ne 13, 3) := dk_160 0 13 (dk_at dksX1_work_1 15 rfl rfl)
theorem dX1_work_42 : decode cX1_work 42 = .ok (.bipush (-20), 2) := dk_16 236 (dk_at dksX1_work_1 18 rfl rfl)
theorem dX1_work_44 : decode cX1_work 44 = .ok (.istore_n 2, 1) := dk_61 (dk_at dksX1_work_1 20 rfl rfl)
theorem dX1_work_45 : decode cX1_work 45 = .ok (.aload_n 0, 1) := dk_42 (dk_at dksX1_work_1 21 rfl rfl)
theorem dX1_work_46 : decode cX1_work 46 = .ok (.iconst 0, 1) := dk_3 (dk_at dksX1_work_1 22 rfl rfl)
theorem dX1_work_47 : decode cX1_work 47 = .ok (.putfield 169, 3) := dk_181 0 169 (dk_at dksX1_work_2 0 rfl rfl)
theorem dX1_work_50 : decode cX1_work 50 = .ok (.iload_n 2, 1) := dk_28 (dk_at dksX1_work_2 3 rfl rfl)
theorem dX1_work_51 : decode cX1_work 51 = .ok (.ireturn, 1) := dk_172 (dk_at dksX1_work_2 4 rfl rfl)
theorem dX1_work_52 : decode cX1_work 52 = .ok (.new 205, 3) := dk_187 0 205 (dk_at dksX1_work_2 5 rfl rfl)
theorem dX1_work_55 : decode cX1_work 55 = .ok (.dup, 1) := dk_89 (dk_at dksX1_work_2 8 rfl rfl)
theorem dX1_work_56 : decode cX1_work 56 = .ok (.aload_n 0, 1) := dk_42 (dk_at dksX1_work_2 9 rfl rfl)
theorem dX1_work_57 : decode cX1_work 57 = .ok (.getfield 68, 3) := dk_180 0 68 (dk_at dksX1_work_2 10 rfl rfl)
theorem dX1_work_60 : decode cX1_work 60 = .ok (.iload_n 1, 1) := dk_27 (dk_at dksX1_work_2 13 rfl rfl)
theorem dX1_work_61 : decode cX1_work 61 = .ok (.aload_n 0, 1) := dk_42 (dk_at dksX1_work_2 14 rfl rfl)
theorem dX1_work_62 : decode cX1_work 62 = .ok (.getfield 17, 3) := dk_180 0 17 (dk_at dksX1_work_2 15 rfl rfl)
theorem dX1_work_65 : decode cX1_work 65 = .ok (.invokespecial 207, 3) := dk_183 0 207 (dk_at dksX1_work_2 18 rfl rfl)
theorem dX1_work_68 : decode cX1_work 68 = .ok (.invokevirtual 210, 3) := dk_182 0 210 (dk_at dksX1_work_2 21 rfl rfl)
theorem dX1_work_71 : decode cX1_work 71 = .ok (.astore_n 2, 1) := dk_77 (dk_at dksX1_work_3 0 rfl rfl)
theorem dX1_work_72 : decode cX1_work 72 = .ok (.aload_n 0, 1) := dk_42 (dk_at dksX1_work_3 1 rfl rfl)
theorem dX1_work_73 : decode cX1_work 73 = .ok (.aload_n 0, 1) := dk_42 (dk_at dksX1_work_3 2 rfl rfl)
theorem dX1_work_74 : decode cX1_work 74 = .ok (.getfield 51, 3) := dk_180 0 51 (dk_at dksX1_work_3 3 rfl rfl)
theorem dX1_work_77 : decode cX1_work 77 = .ok (.aload_n 0, 1) := dk_42 (dk_at dksX1_work_3 6 rfl rfl)
theorem dX1_work_78 : decode cX1_work 78 = .ok (.getfield 87, 3) := dk_180 0 87 (dk_at dksX1_work_3 7 rfl rfl)
theorem dX1_work_81 : decode cX1_work 81 = .ok (.aload_n 0, 1) := dk_42 (dk_at dksX1_work_3 10 rfl rfl)
theorem dX1_work_82 : decode cX1_work 82 = .ok (.getfield 44, 3) := dk_180 0 44 (dk_at dksX1_work_3 11 rfl rfl)
theorem dX1_work_85 : decode cX1_work 85 = .ok (.invokevirtual 213, 3) := dk_182 0 213 (dk_at dksX1_work_3 14 rfl rfl)
theorem dX1_work_88 : decode cX1_work 88 = .ok (.aload_n 0, 1) := dk_42 (dk_at dksX1_work_3 17 rfl rfl)
theorem dX1_work_89 : decode cX1_work 89 = .ok (.dup, 1) := dk_89 (dk_at dksX1_work_3 18 rfl rfl)
theorem dX1_work_90 : decode cX1_work 90 = .ok (.getfield 87, 3) := dk_180 0 87 (dk_at dksX1_work_3 19 rfl rfl)
theorem dX1_work_93 : decode cX1_work 93 = .ok (.iconst 1, 1) := dk_4 (dk_at dksX1_work_3 22 rfl rfl)
theorem dX1_work_94 : decode cX1_work 94 = .ok (.iadd, 1) := dk_96 (dk_at dksX1_work_3 23 rfl rfl)
theorem dX1_work_95 : decode cX1_work 95 = .ok (.putfield 87, 3) := dk_181 0 87 (dk_at dksX1_work_4 0 rfl rfl)
theorem dX1_work_98 : decode cX1_work 98 = .ok (.aload_n 0, 1) := dk_42 (dk_at dksX1_work_4 3 rfl rfl)
theorem dX1_work_99 : decode cX1_work 99 = .ok (.getfield 44, 3) := dk_180 0 44 (dk_at dksX1_work_4 4 rfl rfl)
theorem dX1_work_102 : decode cX1_work 102 = .ok (.iconst 0, 1) := dk_3 (dk_at dksX1_work_4 7 rfl rfl)
theorem dX1_work_103 : decode cX1_work 103 = .ok (.putfield 217, 3) := dk_181 0 217 (dk_at dksX1_work_4 8 rfl rfl)
theorem dX1_work_106 : decode cX1_work 106 = .ok (.aload_n 0, 1) := dk_42 (dk_at dksX1_work_4 11 rfl rfl)
theorem dX1_work_107 : decode cX1_work 107 = .ok (.getfield 44, 3) := dk_180 0 44 (dk_at dksX1_work_4 12 rfl rfl)
theorem dX1_work_110 : decode cX1_work 110 = .ok (.iconst 0, 1) := dk_3 (dk_at dksX1_work_4 15 rfl rfl)
theorem dX1_work_111 : decode cX1_work 111 = .ok (.putfield 220, 3) := dk_181 0 220 (dk_at dksX1_work_4 16 rfl rfl)
theorem dX1_work_114 : decode cX1_work 114 = .ok (.aload_n 0, 1) := dk_42 (dk_at dksX1_work_4 19 rfl rfl)
theorem dX1_work_115 : decode cX1_work 115 = .ok (.getfield 44, 3) := dk_180 0 44 (dk_at dksX1_work_4 20 rfl rfl)
theorem dX1_work_118 : decode cX1_work 118 = .ok (.iconst 0, 1) := dk_3 (dk_at dksX1_work_4 23 rfl rfl)
theorem dX1_work_119 : decode cX1_work 119 = .ok (.putfield 223, 3) := dk_181 0 223 (dk_at dksX1_work_5 0 rfl rfl)
theorem dX1_work_122 : decode cX1_work 122 = .ok (.iconst 0, 1) := dk_3 (dk_at dksX1_work_5 3 rfl rfl)
theorem dX1_work_123 : decode cX1_work 123 = .ok (.istore_n 3, 1) := dk_62 (dk_at dksX1_work_5 4 rfl rfl)
theorem dX1_work_124 : decode cX1_work 124 = .ok (.iload_n 3, 1) := dk_29 (dk_at dksX1_work_5 5 rfl rfl)
theorem dX1_work_125 : decode cX1_work 125 = .ok (.aload_n 2, 1) := dk_44 (dk_at dksX1_work_5 6 rfl rfl)
theorem dX1_work_126 : decode cX1_work 126 = .ok (.invokevirtual 103, 3) := dk_182 0 103 (dk_at dksX1_work_5 7 rfl rfl)
theorem dX1_work_129 : decode cX1_work 129 = .ok (.if_icmp .ge 24, 3) := dk_162 0 24 (dk_at dksX1_work_5 10 rfl rfl)
theorem dX1_work_132 : decode cX1_work 132 = .ok (.aload_n 2, 1) := dk_44 (dk_at dksX1_work_5 13 rfl rfl)
theorem dX1_work_133 : decode cX1_work 133 = .ok (.iload_n 3, 1) := dk_29 (dk_at dksX1_work_5 14 rfl rfl)
theorem dX1_work_134 : decode cX1_work 134 = .ok (.invokevirtual 112, 3) := dk_182 0 112 (dk_at dksX1_work_5 15 rfl rfl)
theorem dX1_work_137 : decode cX1_work 137 = .ok (.checkcast 225, 3) := dk_192 0 225 (dk_at dksX1_work_5 18 rfl rfl)
theorem dX1_work_140 : decode cX1_work 140 = .ok (.aload_n 0, 1) := dk_42 (dk_at dksX1_work_5 21 rfl rfl)
theorem dX1_work_141 : decode cX1_work 141 = .ok (.getfield 44, 3) := dk_180 0 44 (dk_at dksX1_work_6 0 rfl rfl)
theorem dX1_work_144 : decode cX1_work 144 = .ok (.invokevirtual 227, 3) := dk_182 0 227 (dk_at dksX1_work_6 3 rfl rfl)
theorem dX1_work_147 : decode cX1_work 147 = .ok (.iinc 3 1, 3) := dk_132 3 1 (dk_at dksX1_work_6 6 rfl rfl)
theorem dX1_work_150 : decode cX1_work 150 = .ok (.goto (-26), 3) := dk_167 255 230 (dk_at dksX1_work_6 9 rfl rfl)
theorem dX1_work_153 : decode cX1_work 153 = .ok (.aload_n 0, 1) := dk_42 (dk_at dksX1_work_6 12 rfl rfl)
theorem dX1_work_154 : decode cX1_work 154 = .ok (.aload_n 0, 1) := dk_42 (dk_at dksX1_work_6 13 rfl rfl)
theorem dX1_work_155 : decode cX1_work 155 = .ok (.getfield 44, 3) := dk_180 0 44 (dk_at dksX1_work_6 14 rfl rfl)
theorem dX1_work_158 : decode cX1_work 158 = .ok (.getfield 223, 3) := dk_180 0 223 (dk_at dksX1_work_6 17 rfl rfl)
theorem dX1_work_161 : decode cX1_work 161 = .ok (.putfield 90, 3) := dk_181 0 90 (dk_at dksX1_work_6 20 rfl rfl)
theorem dX1_work_164 : decode cX1_work 164 = .ok (.aload_n 0, 1) := dk_42 (dk_at dksX1_work_6 23 rfl rfl)
theorem dX1_work_165 : decode cX1_work 165 = .ok (.getfield 44, 3) := dk_180 0 44 (dk_at dksX1_work_7 0 rfl rfl)
theorem dX1_work_168 : decode cX1_work 168 = .ok (.getfield 220, 3) := dk_180 0 220 (dk_at dksX1_work_7 3 rfl rfl)
theorem dX1_work_171 : decode cX1_work 171 = .ok (.istore_n 3, 1) := dk_62 (dk_at dksX1_work_7 6 rfl rfl)
theorem dX1_work_172 : decode cX1_work 172 = .ok (.aload_n 0, 1) := dk_42 (dk_at dksX1_work_7 7 rfl rfl)
theorem dX1_work_173 : decode cX1_work 173 = .ok (.iconst 0, 1) := dk_3 (dk_at dksX1_work_7 8 rfl rfl)
theorem dX1_work_174 : decode cX1_work 174 = .ok (.putfield 169, 3) := dk_181 0 169 (dk_at dksX1_work_7 9 rfl rfl)
theorem dX1_work_177 : decode cX1_work 177 = .ok (.iload_n 3, 1) := dk_29 (dk_at dksX1_work_7 12 rfl rfl)
theorem dX1_work_178 : decode cX1_work 178 = .ok (.ireturn, 1) := dk_172 (dk_at dksX1_work_7 13 rfl rfl)
theorem dX1_work_179 : decode cX1_work 179 = .ok (.astore_n 2, 1) := dk_77 (dk_at dksX1_work_7 14 rfl rfl)
theorem dX1_work_180 : decode cX1_work 180 = .ok (.aload_n 0, 1) := dk_42 (dk_at dksX1_work_7 15 rfl rfl)
theorem dX1_work_181 : decode cX1_work 181 = .ok (.aload_n 2, 1) := dk_44 (dk_at dksX1_work_7 16 rfl rfl)
theorem dX1_work_182 : decode cX1_work 182 = .ok (.invokevirtual 196, 3) := dk_182 0 196 (dk_at dksX1_work_7 17 rfl rfl)
theorem dX1_work_185 : decode cX1_work 185 = .ok (.istore_n 3, 1) := dk_62 (dk_at dksX1_work_7 20 rfl rfl)
theorem dX1_work_186 : decode cX1_work 186 = .ok (.aload_n 0, 1) := dk_42 (dk_at dksX1_work_7 21 rfl rfl)
theorem dX1_work_187 : decode cX1_work 187 = .ok (.iconst 0, 1) := dk_3 (dk_at dksX1_work_7 22 rfl rfl)
theorem dX1_work_188 : decode cX1_work 188 = .ok (.putfield 169, 3) := dk_181 0 169 (dk_at dksX1_work_8 0 rfl rfl)
theorem dX1_work_191 : decode cX1_work 191 = .ok (.iload_n 3, 1) := dk_29 (dk_at dksX1_work_8 3 rfl rfl)
theorem dX1_work_192 : decode cX1_work 192 = .ok (.ireturn, 1) := dk_172 (dk_at dksX1_work_8 4 rfl rfl)
theorem dX1_work_193 : decode cX1_work 193 = .ok (.astore 4, 2) := dk_58 4 (dk_at dksX1_work_8 5 rfl rfl)
theorem dX1_work_195 : decode cX1_work 195 = .ok (.aload_n 0, 1) := dk_42 (dk_at dksX1_work_8 7 rfl rfl)
theorem dX1_work_196 : decode cX1_work 196 = .ok (.iconst 0, 1) := dk_3 (dk_at dksX1_work_8 8 rfl rfl)
theorem dX1_work_197 : decode cX1_work 197 = .ok (.putfield 169, 3) := dk_181 0 169 (dk_at dksX1_work_8 9 rfl rfl)
theorem dX1_work_200 : decode cX1_work 200 = .ok (.aload 4, 2) := dk_25 4 (dk_at dksX1_work_8 12 rfl rfl)
theorem dX1_work_202 : decode cX1_work 202 = .ok (.athrow, 1) := dk_191 (dk_at dksX1_work_8 14 rfl rfl)
abbrev cX1_book : ByteArray := prog_1_method_24_code
def yX1_book : MethodName := ⟨RX1, "book", "(I)I"⟩
def dkwX1_book_4 : List UInt8 := [29, 172, 58, 4, 42, 3, 181, 0, 169, 25, 4, 191]
abbrev dktX1_book_4 : List UInt8 := dkwX1_book_4 ++ []
def dkwX1_book_3 : List UInt8 := [42, 180, 0, 93, 62, 42, 3, 181, 0, 169, 29, 172, 77, 42, 44, 182, 0, 196, 62, 42, 3, 181, 0, 169]
abbrev dktX1_book_3 : List UInt8 := dkwX1_book_3 ++ dktX1_book_4
def dkwX1_book_2 : List UInt8 := [77, 44, 182, 0, 236, 3, 42, 180, 0, 33, 3, 16, 20, 184, 0, 239, 42, 44, 180, 0, 245, 181, 0, 93]
abbrev dktX1_book_2 : List UInt8 := dkwX1_book_2 ++ dktX1_book_3
def dkwX1_book_1 : List UInt8 := [182, 0, 183, 42, 2, 181, 0, 64, 187, 0, 231, 89, 42, 180, 0, 68, 27, 42, 182, 0, 163, 183, 0, 233]
abbrev dktX1_book_1 : List UInt8 := dkwX1_book_1 ++ dktX1_book_2
def dkwX1_book_0 : List UInt8 := [42, 27, 155, 0, 21, 27, 42, 180, 0, 169, 163, 0, 13, 27, 16, 60, 163, 0, 7, 4, 167, 0, 4, 3]
abbrev dktX1_book_0 : List UInt8 := dkwX1_book_0 ++ dktX1_book_1
theorem dksX1_book_0 : cX1_book.data.toList.drop 0 = dktX1_book_0 := by decide +kernel
theorem dksX1_book_1 : cX1_book.data.toList.drop 24 = dktX1_book_1 := dk_seg dksX1_book_0 24 rfl rfl
theorem dksX1_book_2 : cX1_book.data.toList.drop 48 = dktX1_book_2 := dk_seg dksX1_book_1 24 rfl rfl
theorem dksX1_book_3 : cX1_book.data.toList.drop 72 = dktX1_book_3 := dk_seg dksX1_book_2 24 rfl rfl
theorem dksX1_book_4 : cX1_book.data.toList.drop 96 = dktX1_book_4 := dk_seg dksX1_book_3 24 rfl rfl
theorem dX1_book_0 : decode cX1_book 0 = .ok (.aload_n 0, 1) := dk_42 (dk_at dksX1_book_0 0 rfl rfl)
theorem dX1_book_1 : decode cX1_book 1 = .ok (.iload_n 1, 1) := dk_27 (dk_at dksX1_book_0 1 rfl rfl)
theorem dX1_book_2 : decode cX1_book 2 = .ok (.ifCond .lt 21, 3) := dk_155 0 21 (dk_at dksX1_book_0 2 rfl rfl)
theorem dX1_book_5 : decode cX1_book 5 = .ok (.iload_n 1, 1) := dk_27 (dk_at dksX1_book_0 5 rfl rfl)
theorem dX1_book_6 : decode cX1_book 6 = .ok (.aload_n 0, 1) := dk_42 (dk_at dksX1_book_0 6 rfl rfl)
theorem dX1_book_7 : decode cX1_book 7 = .ok (.getfield 169, 3) := dk_180 0 169 (dk_at dksX1_book_0 7 rfl rfl)
theorem dX1_book_10 : decode cX1_book 10 = .ok (.if_icmp .gt 13, 3) := dk_163 0 13 (dk_at dksX1_book_0 10 rfl rfl)
theorem dX1_book_13 : decode cX1_book 13 = .ok (.iload_n 1, 1) := dk_27 (dk_at dksX1_book_0 13 rfl rfl)
theorem dX1_book_14 : decode cX1_book 14 = .ok (.bipush 60, 2) := dk_16 60 (dk_at dksX1_book_0 14 rfl rfl)
theorem dX1_book_16 : decode cX1_book 16 = .ok (.if_icmp .gt 7, 3) := dk_163 0 7 (dk_at dksX1_book_0 16 rfl rfl)
theorem dX1_book_19 : decode cX1_book 19 = .ok (.iconst 1, 1) := dk_4 (dk_at dksX1_book_0 19 rfl rfl)
theorem dX1_book_20 : decode cX1_book 20 = .ok (.goto 4, 3) := dk_167 0 4 (dk_at dksX1_book_0 20 rfl rfl)
theorem dX1_book_23 : decode cX1_book 23 = .ok (.iconst 0, 1) := dk_3 (dk_at dksX1_book_0 23 rfl rfl)
theorem dX1_book_24 : decode cX1_book 24 = .ok (.invokevirtual 183, 3) := dk_182 0 183 (dk_at dksX1_book_1 0 rfl rfl)
theorem dX1_book_27 : decode cX1_book 27 = .ok (.aload_n 0, 1) := dk_42 (dk_at dksX1_book_1 3 rfl rfl)
theorem dX1_book_28 : decode cX1_book 28 = .ok (.iconst (-1), 1) := dk_2 (dk_at dksX1_book_1 4 rfl rfl)
theorem dX1_book_29 : decode cX1_book 29 = .ok (.putfield 64, 3) := dk_181 0 64 (dk_at dksX1_book_1 5 rfl rfl)
theorem dX1_book_32 : decode cX1_book 32 = .ok (.new 231, 3) := dk_187 0 231 (dk_at dksX1_book_1 8 rfl rfl)
theorem dX1_book_35 : decode cX1_book 35 = .ok (.dup, 1) := dk_89 (dk_at dksX1_book_1 11 rfl rfl)
theorem dX1_book_36 : decode cX1_book 36 = .ok (.aload_n 0, 1) := dk_42 (dk_at dksX1_book_1 12 rfl rfl)
theorem dX1_book_37 : decode cX1_book 37 = .ok (.getfield 68, 3) := dk_180 0 68 (dk_at dksX1_book_1 13 rfl rfl)
theorem dX1_book_40 : decode cX1_book 40 = .ok (.iload_n 1, 1) := dk_27 (dk_at dksX1_book_1 16 rfl rfl)
theorem dX1_book_41 : decode cX1_book 41 = .ok (.aload_n 0, 1) := dk_42 (dk_at dksX1_book_1 17 rfl rfl)
theorem dX1_book_42 : decode cX1_book 42 = .ok (.invokevirtual 163, 3) := dk_182 0 163 (dk_at dksX1_book_1 18 rfl rfl)
theorem dX1_book_45 : decode cX1_book 45 = .ok (.invokespecial 233, 3) := dk_183 0 233 (dk_at dksX1_book_1 21 rfl rfl)
theorem dX1_book_48 : decode cX1_book 48 = .ok (.astore_n 2, 1) := dk_77 (dk_at dksX1_book_2 0 rfl rfl)
theorem dX1_book_49 : decode cX1_book 49 = .ok (.aload_n 2, 1) := dk_44 (dk_at dksX1_book_2 1 rfl rfl)
theorem dX1_book_50 : decode cX1_book 50 = .ok (.invokevirtual 236, 3) := dk_182 0 236 (dk_at dksX1_book_2 2 rfl rfl)
theorem dX1_book_53 : decode cX1_book 53 = .ok (.iconst 0, 1) := dk_3 (dk_at dksX1_book_2 5 rfl rfl)
theorem dX1_book_54 : decode cX1_book 54 = .ok (.aload_n 0, 1) := dk_42 (dk_at dksX1_book_2 6 rfl rfl)
theorem dX1_book_55 : decode cX1_book 55 = .ok (.getfield 33, 3) := dk_180 0 33 (dk_at dksX1_book_2 7 rfl rfl)
theorem dX1_book_58 : decode cX1_book 58 = .ok (.iconst 0, 1) := dk_3 (dk_at dksX1_book_2 10 rfl rfl)
theorem dX1_book_59 : decode cX1_book 59 = .ok (.bipush 20, 2) := dk_16 20 (dk_at dksX1_book_2 11 rfl rfl)
theorem dX1_book_61 : decode cX1_book 61 = .ok (.invokestatic 239, 3) := dk_184 0 239 (dk_at dksX1_book_2 13 rfl rfl)
theorem dX1_book_64 : decode cX1_book 64 = .ok (.aload_n 0, 1) := dk_42 (dk_at dksX1_book_2 16 rfl rfl)
theorem dX1_book_65 : decode cX1_book 65 = .ok (.aload_n 2, 1) := dk_44 (dk_at dksX1_book_2 17 rfl rfl)
theorem dX1_book_66 : decode cX1_book 66 = .ok (.getfield 245, 3) := dk_180 0 245 (dk_at dksX1_book_2 18 rfl rfl)
theorem dX1_book_69 : decode cX1_book 69 = .ok (.putfield 93, 3) := dk_181 0 93 (dk_at dksX1_book_2 21 rfl rfl)
theorem dX1_book_72 : decode cX1_book 72 = .ok (.aload_n 0, 1) := dk_42 (dk_at dksX1_book_3 0 rfl rfl)
theorem dX1_book_73 : decode cX1_book 73 = .ok (.getfield 93, 3) := dk_180 0 93 (dk_at dksX1_book_3 1 rfl rfl)
theorem dX1_book_76 : decode cX1_book 76 = .ok (.istore_n 3, 1) := dk_62 (dk_at dksX1_book_3 4 rfl rfl)
theorem dX1_book_77 : decode cX1_book 77 = .ok (.aload_n 0, 1) := dk_42 (dk_at dksX1_book_3 5 rfl rfl)
theorem dX1_book_78 : decode cX1_book 78 = .ok (.iconst 0, 1) := dk_3 (dk_at dksX1_book_3 6 rfl rfl)
theorem dX1_book_79 : decode cX1_book 79 = .ok (.putfield 169, 3) := dk_181 0 169 (dk_at dksX1_book_3 7 rfl rfl)
theorem dX1_book_82 : decode cX1_book 82 = .ok (.iload_n 3, 1) := dk_29 (dk_at dksX1_book_3 10 rfl rfl)
theorem dX1_book_83 : decode cX1_book 83 = .ok (.ireturn, 1) := dk_172 (dk_at dksX1_book_3 11 rfl rfl)
theorem dX1_book_84 : decode cX1_book 84 = .ok (.astore_n 2, 1) := dk_77 (dk_at dksX1_book_3 12 rfl rfl)
theorem dX1_book_85 : decode cX1_book 85 = .ok (.aload_n 0, 1) := dk_42 (dk_at dksX1_book_3 13 rfl rfl)
theorem dX1_book_86 : decode cX1_book 86 = .ok (.aload_n 2, 1) := dk_44 (dk_at dksX1_book_3 14 rfl rfl)
theorem dX1_book_87 : decode cX1_book 87 = .ok (.invokevirtual 196, 3) := dk_182 0 196 (dk_at dksX1_book_3 15 rfl rfl)
theorem dX1_book_90 : decode cX1_book 90 = .ok (.istore_n 3, 1) := dk_62 (dk_at dksX1_book_3 18 rfl rfl)
theorem dX1_book_91 : decode cX1_book 91 = .ok (.aload_n 0, 1) := dk_42 (dk_at dksX1_book_3 19 rfl rfl)
theorem dX1_book_92 : decode cX1_book 92 = .ok (.iconst 0, 1) := dk_3 (dk_at dksX1_book_3 20 rfl rfl)
theorem dX1_book_93 : decode cX1_book 93 = .ok (.putfield 169, 3) := dk_181 0 169 (dk_at dksX1_book_3 21 rfl rfl)
theorem dX1_book_96 : decode cX1_book 96 = .ok (.iload_n 3, 1) := dk_29 (dk_at dksX1_book_4 0 rfl rfl)
theorem dX1_book_97 : decode cX1_book 97 = .ok (.ireturn, 1) := dk_172 (dk_at dksX1_book_4 1 rfl rfl)
theorem dX1_book_98 : decode cX1_book 98 = .ok (.astore 4, 2) := dk_58 4 (dk_at dksX1_book_4 2 rfl rfl)
theorem dX1_book_100 : decode cX1_book 100 = .ok (.aload_n 0, 1) := dk_42 (dk_at dksX1_book_4 4 rfl rfl)
theorem dX1_book_101 : decode cX1_book 101 = .ok (.iconst 0, 1) := dk_3 (dk_at dksX1_book_4 5 rfl rfl)
theorem dX1_book_102 : decode cX1_book 102 = .ok (.putfield 169, 3) := dk_181 0 169 (dk_at dksX1_book_4 6 rfl rfl)
theorem dX1_book_105 : decode cX1_book 105 = .ok (.aload 4, 2) := dk_25 4 (dk_at dksX1_book_4 9 rfl rfl)
theorem dX1_book_107 : decode cX1_book 107 = .ok (.athrow, 1) := dk_191 (dk_at dksX1_book_4 11 rfl rfl)
abbrev cX1_told : ByteArray := prog_1_method_27_code
def yX1_told : MethodName := ⟨RX1, "told", "(I)I"⟩
def dkwX1_told_6 : List UInt8 := [180, 0, 93, 172, 42, 180, 0, 90, 172, 42, 180, 0, 44, 182, 1, 17, 172]
abbrev dktX1_told_6 : List UInt8 := dkwX1_told_6 ++ []
def dkwX1_told_5 : List UInt8 := [180, 1, 11, 182, 1, 8, 172, 42, 180, 0, 44, 42, 180, 0, 44, 180, 1, 14, 182, 1, 8, 172, 42]
abbrev dktX1_told_5 : List UInt8 := dkwX1_told_5 ++ dktX1_told_6
def dkwX1_told_4 : List UInt8 := [180, 0, 44, 42, 180, 0, 44, 180, 1, 5, 182, 1, 8, 172, 42, 180, 0, 44, 42, 180, 0, 44]
abbrev dktX1_told_4 : List UInt8 := dkwX1_told_4 ++ dktX1_told_5
def dkwX1_told_3 : List UInt8 := [180, 0, 44, 180, 0, 252, 172, 42, 180, 0, 44, 180, 0, 255, 172, 42, 180, 0, 44, 180, 1, 2, 172, 42]
abbrev dktX1_told_3 : List UInt8 := dkwX1_told_3 ++ dktX1_told_4
def dkwX1_told_2 : List UInt8 := [42, 182, 0, 157, 172, 42, 182, 0, 163, 172, 42, 180, 0, 17, 180, 0, 127, 182, 0, 103, 172, 42]
abbrev dktX1_told_2 : List UInt8 := dkwX1_told_2 ++ dktX1_told_3
def dkwX1_told_1 : List UInt8 := [170, 0, 0, 0, 0, 0, 0, 160, 0, 0, 0, 0, 0, 0, 0, 10, 0, 0, 0, 60, 0, 0, 0, 65, 0, 0, 0, 70, 0, 0, 0, 81, 0, 0, 0, 89, 0, 0, 0, 97, 0, 0, 0, 105, 0, 0, 0, 120, 0, 0, 0, 135, 0, 0, 0, 150, 0, 0, 0, 155]
abbrev dktX1_told_1 : List UInt8 := dkwX1_told_1 ++ dktX1_told_2
def dkwX1_told_0 : List UInt8 := [42, 27, 3, 16, 11, 184, 0, 165, 182, 0, 183, 27]
abbrev dktX1_told_0 : List UInt8 := dkwX1_told_0 ++ dktX1_told_1
theorem dksX1_told_0 : cX1_told.data.toList.drop 0 = dktX1_told_0 := by decide +kernel
theorem dksX1_told_1 : cX1_told.data.toList.drop 12 = dktX1_told_1 := dk_seg dksX1_told_0 12 rfl rfl
theorem dksX1_told_2 : cX1_told.data.toList.drop 72 = dktX1_told_2 := dk_seg dksX1_told_1 60 rfl rfl
theorem dksX1_told_3 : cX1_told.data.toList.drop 94 = dktX1_told_3 := dk_seg dksX1_told_2 22 rfl rfl
theorem dksX1_told_4 : cX1_told.data.toList.drop 118 = dktX1_told_4 := dk_seg dksX1_told_3 24 rfl rfl
theorem dksX1_told_5 : cX1_told.data.toList.drop 140 = dktX1_told_5 := dk_seg dksX1_told_4 22 rfl rfl
theorem dksX1_told_6 : cX1_told.data.toList.drop 163 = dktX1_told_6 := dk_seg dksX1_told_5 23 rfl rfl
theorem dX1_told_0 : decode cX1_told 0 = .ok (.aload_n 0, 1) := dk_42 (dk_at dksX1_told_0 0 rfl rfl)
theorem dX1_told_1 : decode cX1_told 1 = .ok (.iload_n 1, 1) := dk_27 (dk_at dksX1_told_0 1 rfl rfl)
theorem dX1_told_2 : decode cX1_told 2 = .ok (.iconst 0, 1) := dk_3 (dk_at dksX1_told_0 2 rfl rfl)
theorem dX1_told_3 : decode cX1_told 3 = .ok (.bipush 11, 2) := dk_16 11 (dk_at dksX1_told_0 3 rfl rfl)
theorem dX1_told_5 : decode cX1_told 5 = .ok (.invokestatic 165, 3) := dk_184 0 165 (dk_at dksX1_told_0 5 rfl rfl)
theorem dX1_told_8 : decode cX1_told 8 = .ok (.invokevirtual 183, 3) := dk_182 0 183 (dk_at dksX1_told_0 8 rfl rfl)
theorem dX1_told_11 : decode cX1_told 11 = .ok (.iload_n 1, 1) := dk_27 (dk_at dksX1_told_0 11 rfl rfl)
theorem dX1_told_12 : decode cX1_told 12 = .ok (.tableswitch 160 0 10 #[60, 65, 70, 81, 89, 97, 105, 120, 135, 150, 155], 60) := by decide +kernel
theorem dX1_told_72 : decode cX1_told 72 = .ok (.aload_n 0, 1) := dk_42 (dk_at dksX1_told_2 0 rfl rfl)
theorem dX1_told_73 : decode cX1_told 73 = .ok (.invokevirtual 157, 3) := dk_182 0 157 (dk_at dksX1_told_2 1 rfl rfl)
theorem dX1_told_76 : decode cX1_told 76 = .ok (.ireturn, 1) := dk_172 (dk_at dksX1_told_2 4 rfl rfl)
theorem dX1_told_77 : decode cX1_told 77 = .ok (.aload_n 0, 1) := dk_42 (dk_at dksX1_told_2 5 rfl rfl)
theorem dX1_told_78 : decode cX1_told 78 = .ok (.invokevirtual 163, 3) := dk_182 0 163 (dk_at dksX1_told_2 6 rfl rfl)
theorem dX1_told_81 : decode cX1_told 81 = .ok (.ireturn, 1) := dk_172 (dk_at dksX1_told_2 9 rfl rfl)
theorem dX1_told_82 : decode cX1_told 82 = .ok (.aload_n 0, 1) := dk_42 (dk_at dksX1_told_2 10 rfl rfl)
theorem dX1_told_83 : decode cX1_told 83 = .ok (.getfield 17, 3) := dk_180 0 17 (dk_at dksX1_told_2 11 rfl rfl)
theorem dX1_told_86 : decode cX1_told 86 = .ok (.getfield 127, 3) := dk_180 0 127 (dk_at dksX1_told_2 14 rfl rfl)
theorem dX1_told_89 : decode cX1_told 89 = .ok (.invokevirtual 103, 3) := dk_182 0 103 (dk_at dksX1_told_2 17 rfl rfl)
theorem dX1_told_92 : decode cX1_told 92 = .ok (.ireturn, 1) := dk_172 (dk_at dksX1_told_2 20 rfl rfl)
theorem dX1_told_93 : decode cX1_told 93 = .ok (.aload_n 0, 1) := dk_42 (dk_at dksX1_told_2 21 rfl rfl)
theorem dX1_told_94 : decode cX1_told 94 = .ok (.getfield 44, 3) := dk_180 0 44 (dk_at dksX1_told_3 0 rfl rfl)
theorem dX1_told_97 : decode cX1_told 97 = .ok (.getfield 252, 3) := dk_180 0 252 (dk_at dksX1_told_3 3 rfl rfl)
theorem dX1_told_100 : decode cX1_told 100 = .ok (.ireturn, 1) := dk_172 (dk_at dksX1_told_3 6 rfl rfl)
theorem dX1_told_101 : decode cX1_told 101 = .ok (.aload_n 0, 1) := dk_42 (dk_at dksX1_told_3 7 rfl rfl)
theorem dX1_told_102 : decode cX1_told 102 = .ok (.getfield 44, 3) := dk_180 0 44 (dk_at dksX1_told_3 8 rfl rfl)
theorem dX1_told_105 : decode cX1_told 105 = .ok (.getfield 255, 3) := dk_180 0 255 (dk_at dksX1_told_3 11 rfl rfl)
theorem dX1_told_108 : decode cX1_told 108 = .ok (.ireturn, 1) := dk_172 (dk_at dksX1_told_3 14 rfl rfl)
theorem dX1_told_109 : decode cX1_told 109 = .ok (.aload_n 0, 1) := dk_42 (dk_at dksX1_told_3 15 rfl rfl)
theorem dX1_told_110 : decode cX1_told 110 = .ok (.getfield 44, 3) := dk_180 0 44 (dk_at dksX1_told_3 16 rfl rfl)
theorem dX1_told_113 : decode cX1_told 113 = .ok (.getfield 258, 3) := dk_180 1 2 (dk_at dksX1_told_3 19 rfl rfl)
theorem dX1_told_116 : decode cX1_told 116 = .ok (.ireturn, 1) := dk_172 (dk_at dksX1_told_3 22 rfl rfl)
theorem dX1_told_117 : decode cX1_told 117 = .ok (.aload_n 0, 1) := dk_42 (dk_at dksX1_told_3 23 rfl rfl)
theorem dX1_told_118 : decode cX1_told 118 = .ok (.getfield 44, 3) := dk_180 0 44 (dk_at dksX1_told_4 0 rfl rfl)
theorem dX1_told_121 : decode cX1_told 121 = .ok (.aload_n 0, 1) := dk_42 (dk_at dksX1_told_4 3 rfl rfl)
theorem dX1_told_122 : decode cX1_told 122 = .ok (.getfield 44, 3) := dk_180 0 44 (dk_at dksX1_told_4 4 rfl rfl)
theorem dX1_told_125 : decode cX1_told 125 = .ok (.getfield 261, 3) := dk_180 1 5 (dk_at dksX1_told_4 7 rfl rfl)
theorem dX1_told_128 : decode cX1_told 128 = .ok (.invokevirtual 264, 3) := dk_182 1 8 (dk_at dksX1_told_4 10 rfl rfl)
theorem dX1_told_131 : decode cX1_told 131 = .ok (.ireturn, 1) := dk_172 (dk_at dksX1_told_4 13 rfl rfl)
theorem dX1_told_132 : decode cX1_told 132 = .ok (.aload_n 0, 1) := dk_42 (dk_at dksX1_told_4 14 rfl rfl)
theorem dX1_told_133 : decode cX1_told 133 = .ok (.getfield 44, 3) := dk_180 0 44 (dk_at dksX1_told_4 15 rfl rfl)
theorem dX1_told_136 : decode cX1_told 136 = .ok (.aload_n 0, 1) := dk_42 (dk_at dksX1_told_4 18 rfl rfl)
theorem dX1_told_137 : decode cX1_told 137 = .ok (.getfield 44, 3) := dk_180 0 44 (dk_at dksX1_told_4 19 rfl rfl)
theorem dX1_told_140 : decode cX1_told 140 = .ok (.getfield 267, 3) := dk_180 1 11 (dk_at dksX1_told_5 0 rfl rfl)
theorem dX1_told_143 : decode cX1_told 143 = .ok (.invokevirtual 264, 3) := dk_182 1 8 (dk_at dksX1_told_5 3 rfl rfl)
theorem dX1_told_146 : decode cX1_told 146 = .ok (.ireturn, 1) := dk_172 (dk_at dksX1_told_5 6 rfl rfl)
theorem dX1_told_147 : decode cX1_told 147 = .ok (.aload_n 0, 1) := dk_42 (dk_at dksX1_told_5 7 rfl rfl)
theorem dX1_told_148 : decode cX1_told 148 = .ok (.getfield 44, 3) := dk_180 0 44 (dk_at dksX1_told_5 8 rfl rfl)
theorem dX1_told_151 : decode cX1_told 151 = .ok (.aload_n 0, 1) := dk_42 (dk_at dksX1_told_5 11 rfl rfl)
theorem dX1_told_152 : decode cX1_told 152 = .ok (.getfield 44, 3) := dk_180 0 44 (dk_at dksX1_told_5 12 rfl rfl)
theorem dX1_told_155 : decode cX1_told 155 = .ok (.getfield 270, 3) := dk_180 1 14 (dk_at dksX1_told_5 15 rfl rfl)
theorem dX1_told_158 : decode cX1_told 158 = .ok (.invokevirtual 264, 3) := dk_182 1 8 (dk_at dksX1_told_5 18 rfl rfl)
theorem dX1_told_161 : decode cX1_told 161 = .ok (.ireturn, 1) := dk_172 (dk_at dksX1_told_5 21 rfl rfl)
theorem dX1_told_162 : decode cX1_told 162 = .ok (.aload_n 0, 1) := dk_42 (dk_at dksX1_told_5 22 rfl rfl)
theorem dX1_told_163 : decode cX1_told 163 = .ok (.getfield 93, 3) := dk_180 0 93 (dk_at dksX1_told_6 0 rfl rfl)
theorem dX1_told_166 : decode cX1_told 166 = .ok (.ireturn, 1) := dk_172 (dk_at dksX1_told_6 3 rfl rfl)
theorem dX1_told_167 : decode cX1_told 167 = .ok (.aload_n 0, 1) := dk_42 (dk_at dksX1_told_6 4 rfl rfl)
theorem dX1_told_168 : decode cX1_told 168 = .ok (.getfield 90, 3) := dk_180 0 90 (dk_at dksX1_told_6 5 rfl rfl)
theorem dX1_told_171 : decode cX1_told 171 = .ok (.ireturn, 1) := dk_172 (dk_at dksX1_told_6 8 rfl rfl)
theorem dX1_told_172 : decode cX1_told 172 = .ok (.aload_n 0, 1) := dk_42 (dk_at dksX1_told_6 9 rfl rfl)
theorem dX1_told_173 : decode cX1_told 173 = .ok (.getfield 44, 3) := dk_180 0 44 (dk_at dksX1_told_6 10 rfl rfl)
theorem dX1_told_176 : decode cX1_told 176 = .ok (.invokevirtual 273, 3) := dk_182 1 17 (dk_at dksX1_told_6 13 rfl rfl)
theorem dX1_told_179 : decode cX1_told 179 = .ok (.ireturn, 1) := dk_172 (dk_at dksX1_told_6 16 rfl rfl)
abbrev cX1_isIn : ByteArray := prog_1_method_15_code
def yX1_isIn : MethodName := ⟨RX1, "isIn", "(III)Z"⟩
def dkwX1_isIn_0 : List UInt8 := [26, 27, 161, 0, 12, 26, 28, 163, 0, 7, 4, 167, 0, 4, 3, 172]
abbrev dktX1_isIn_0 : List UInt8 := dkwX1_isIn_0 ++ []
theorem dksX1_isIn_0 : cX1_isIn.data.toList.drop 0 = dktX1_isIn_0 := by decide +kernel
theorem dX1_isIn_0 : decode cX1_isIn 0 = .ok (.iload_n 0, 1) := dk_26 (dk_at dksX1_isIn_0 0 rfl rfl)
theorem dX1_isIn_1 : decode cX1_isIn 1 = .ok (.iload_n 1, 1) := dk_27 (dk_at dksX1_isIn_0 1 rfl rfl)
theorem dX1_isIn_2 : decode cX1_isIn 2 = .ok (.if_icmp .lt 12, 3) := dk_161 0 12 (dk_at dksX1_isIn_0 2 rfl rfl)
theorem dX1_isIn_5 : decode cX1_isIn 5 = .ok (.iload_n 0, 1) := dk_26 (dk_at dksX1_isIn_0 5 rfl rfl)
theorem dX1_isIn_6 : decode cX1_isIn 6 = .ok (.iload_n 2, 1) := dk_28 (dk_at dksX1_isIn_0 6 rfl rfl)
theorem dX1_isIn_7 : decode cX1_isIn 7 = .ok (.if_icmp .gt 7, 3) := dk_163 0 7 (dk_at dksX1_isIn_0 7 rfl rfl)
theorem dX1_isIn_10 : decode cX1_isIn 10 = .ok (.iconst 1, 1) := dk_4 (dk_at dksX1_isIn_0 10 rfl rfl)
theorem dX1_isIn_11 : decode cX1_isIn 11 = .ok (.goto 4, 3) := dk_167 0 4 (dk_at dksX1_isIn_0 11 rfl rfl)
theorem dX1_isIn_14 : decode cX1_isIn 14 = .ok (.iconst 0, 1) := dk_3 (dk_at dksX1_isIn_0 14 rfl rfl)
theorem dX1_isIn_15 : decode cX1_isIn 15 = .ok (.ireturn, 1) := dk_172 (dk_at dksX1_isIn_0 15 rfl rfl)
abbrev cX1_singer : ByteArray := prog_1_method_28_code
def yX1_singer : MethodName := ⟨RX1, "singer", "(II)I"⟩
def dkwX1_singer_5 : List UInt8 := [180, 0, 44, 180, 1, 34, 27, 46, 172]
abbrev dktX1_singer_5 : List UInt8 := dkwX1_singer_5 ++ []
def dkwX1_singer_4 : List UInt8 := [126, 172, 42, 180, 0, 44, 180, 1, 5, 27, 46, 172, 42, 180, 0, 44, 180, 1, 11, 27, 46, 172, 42]
abbrev dktX1_singer_4 : List UInt8 := dkwX1_singer_4 ++ dktX1_singer_5
def dkwX1_singer_3 : List UInt8 := [180, 1, 31, 172, 42, 180, 0, 44, 180, 1, 14, 27, 46, 172, 42, 180, 0, 44, 180, 0, 255, 27, 122, 4]
abbrev dktX1_singer_3 : List UInt8 := dkwX1_singer_3 ++ dktX1_singer_4
def dkwX1_singer_2 : List UInt8 := [42, 27, 182, 1, 23, 180, 1, 27, 172, 42, 27, 182, 1, 23, 180, 1, 28, 172, 42, 27, 182, 1, 23]
abbrev dktX1_singer_2 : List UInt8 := dkwX1_singer_2 ++ dktX1_singer_3
def dkwX1_singer_1 : List UInt8 := [170, 0, 0, 0, 0, 0, 112, 0, 0, 0, 0, 0, 0, 0, 6, 0, 0, 0, 43, 0, 0, 0, 52, 0, 0, 0, 61, 0, 0, 0, 70, 0, 0, 0, 80, 0, 0, 0, 92, 0, 0, 0, 102]
abbrev dktX1_singer_1 : List UInt8 := dkwX1_singer_1 ++ dktX1_singer_2
def dkwX1_singer_0 : List UInt8 := [42, 27, 182, 1, 20, 42, 28, 3, 16, 7, 184, 0, 165, 182, 0, 183, 28]
abbrev dktX1_singer_0 : List UInt8 := dkwX1_singer_0 ++ dktX1_singer_1
theorem dksX1_singer_0 : cX1_singer.data.toList.drop 0 = dktX1_singer_0 := by decide +kernel
theorem dksX1_singer_1 : cX1_singer.data.toList.drop 17 = dktX1_singer_1 := dk_seg dksX1_singer_0 17 rfl rfl
theorem dksX1_singer_2 : cX1_singer.data.toList.drop 60 = dktX1_singer_2 := dk_seg dksX1_singer_1 43 rfl rfl
theorem dksX1_singer_3 : cX1_singer.data.toList.drop 83 = dktX1_singer_3 := dk_seg dksX1_singer_2 23 rfl rfl
theorem dksX1_singer_4 : cX1_singer.data.toList.drop 107 = dktX1_singer_4 := dk_seg dksX1_singer_3 24 rfl rfl
theorem dksX1_singer_5 : cX1_singer.data.toList.drop 130 = dktX1_singer_5 := dk_seg dksX1_singer_4 23 rfl rfl
theorem dX1_singer_0 : decode cX1_singer 0 = .ok (.aload_n 0, 1) := dk_42 (dk_at dksX1_singer_0 0 rfl rfl)
theorem dX1_singer_1 : decode cX1_singer 1 = .ok (.iload_n 1, 1) := dk_27 (dk_at dksX1_singer_0 1 rfl rfl)
theorem dX1_singer_2 : decode cX1_singer 2 = .ok (.invokevirtual 276, 3) := dk_182 1 20 (dk_at dksX1_singer_0 2 rfl rfl)
theorem dX1_singer_5 : decode cX1_singer 5 = .ok (.aload_n 0, 1) := dk_42 (dk_at dksX1_singer_0 5 rfl rfl)
theorem dX1_singer_6 : decode cX1_singer 6 = .ok (.iload_n 2, 1) := dk_28 (dk_at dksX1_singer_0 6 rfl rfl)
theorem dX1_singer_7 : decode cX1_singer 7 = .ok (.iconst 0, 1) := dk_3 (dk_at dksX1_singer_0 7 rfl rfl)
theorem dX1_singer_8 : decode cX1_singer 8 = .ok (.bipush 7, 2) := dk_16 7 (dk_at dksX1_singer_0 8 rfl rfl)
theorem dX1_singer_10 : decode cX1_singer 10 = .ok (.invokestatic 165, 3) := dk_184 0 165 (dk_at dksX1_singer_0 10 rfl rfl)
theorem dX1_singer_13 : decode cX1_singer 13 = .ok (.invokevirtual 183, 3) := dk_182 0 183 (dk_at dksX1_singer_0 13 rfl rfl)
theorem dX1_singer_16 : decode cX1_singer 16 = .ok (.iload_n 2, 1) := dk_28 (dk_at dksX1_singer_0 16 rfl rfl)
theorem dX1_singer_17 : decode cX1_singer 17 = .ok (.tableswitch 112 0 6 #[43, 52, 61, 70, 80, 92, 102], 43) := by decide +kernel
theorem dX1_singer_60 : decode cX1_singer 60 = .ok (.aload_n 0, 1) := dk_42 (dk_at dksX1_singer_2 0 rfl rfl)
theorem dX1_singer_61 : decode cX1_singer 61 = .ok (.iload_n 1, 1) := dk_27 (dk_at dksX1_singer_2 1 rfl rfl)
theorem dX1_singer_62 : decode cX1_singer 62 = .ok (.invokevirtual 279, 3) := dk_182 1 23 (dk_at dksX1_singer_2 2 rfl rfl)
theorem dX1_singer_65 : decode cX1_singer 65 = .ok (.getfield 283, 3) := dk_180 1 27 (dk_at dksX1_singer_2 5 rfl rfl)
theorem dX1_singer_68 : decode cX1_singer 68 = .ok (.ireturn, 1) := dk_172 (dk_at dksX1_singer_2 8 rfl rfl)
theorem dX1_singer_69 : decode cX1_singer 69 = .ok (.aload_n 0, 1) := dk_42 (dk_at dksX1_singer_2 9 rfl rfl)
theorem dX1_singer_70 : decode cX1_singer 70 = .ok (.iload_n 1, 1) := dk_27 (dk_at dksX1_singer_2 10 rfl rfl)
theorem dX1_singer_71 : decode cX1_singer 71 = .ok (.invokevirtual 279, 3) := dk_182 1 23 (dk_at dksX1_singer_2 11 rfl rfl)
theorem dX1_singer_74 : decode cX1_singer 74 = .ok (.getfield 284, 3) := dk_180 1 28 (dk_at dksX1_singer_2 14 rfl rfl)
theorem dX1_singer_77 : decode cX1_singer 77 = .ok (.ireturn, 1) := dk_172 (dk_at dksX1_singer_2 17 rfl rfl)
theorem dX1_singer_78 : decode cX1_singer 78 = .ok (.aload_n 0, 1) := dk_42 (dk_at dksX1_singer_2 18 rfl rfl)
theorem dX1_singer_79 : decode cX1_singer 79 = .ok (.iload_n 1, 1) := dk_27 (dk_at dksX1_singer_2 19 rfl rfl)
theorem dX1_singer_80 : decode cX1_singer 80 = .ok (.invokevirtual 279, 3) := dk_182 1 23 (dk_at dksX1_singer_2 20 rfl rfl)
theorem dX1_singer_83 : decode cX1_singer 83 = .ok (.getfield 287, 3) := dk_180 1 31 (dk_at dksX1_singer_3 0 rfl rfl)
theorem dX1_singer_86 : decode cX1_singer 86 = .ok (.ireturn, 1) := dk_172 (dk_at dksX1_singer_3 3 rfl rfl)
theorem dX1_singer_87 : decode cX1_singer 87 = .ok (.aload_n 0, 1) := dk_42 (dk_at dksX1_singer_3 4 rfl rfl)
theorem dX1_singer_88 : decode cX1_singer 88 = .ok (.getfield 44, 3) := dk_180 0 44 (dk_at dksX1_singer_3 5 rfl rfl)
theorem dX1_singer_91 : decode cX1_singer 91 = .ok (.getfield 270, 3) := dk_180 1 14 (dk_at dksX1_singer_3 8 rfl rfl)
theorem dX1_singer_94 : decode cX1_singer 94 = .ok (.iload_n 1, 1) := dk_27 (dk_at dksX1_singer_3 11 rfl rfl)
theorem dX1_singer_95 : decode cX1_singer 95 = .ok (.iaload, 1) := dk_46 (dk_at dksX1_singer_3 12 rfl rfl)
theorem dX1_singer_96 : decode cX1_singer 96 = .ok (.ireturn, 1) := dk_172 (dk_at dksX1_singer_3 13 rfl rfl)
theorem dX1_singer_97 : decode cX1_singer 97 = .ok (.aload_n 0, 1) := dk_42 (dk_at dksX1_singer_3 14 rfl rfl)
theorem dX1_singer_98 : decode cX1_singer 98 = .ok (.getfield 44, 3) := dk_180 0 44 (dk_at dksX1_singer_3 15 rfl rfl)
theorem dX1_singer_101 : decode cX1_singer 101 = .ok (.getfield 255, 3) := dk_180 0 255 (dk_at dksX1_singer_3 18 rfl rfl)
theorem dX1_singer_104 : decode cX1_singer 104 = .ok (.iload_n 1, 1) := dk_27 (dk_at dksX1_singer_3 21 rfl rfl)
theorem dX1_singer_105 : decode cX1_singer 105 = .ok (.ishr, 1) := dk_122 (dk_at dksX1_singer_3 22 rfl rfl)
theorem dX1_singer_106 : decode cX1_singer 106 = .ok (.iconst 1, 1) := dk_4 (dk_at dksX1_singer_3 23 rfl rfl)
theorem dX1_singer_107 : decode cX1_singer 107 = .ok (.iand, 1) := dk_126 (dk_at dksX1_singer_4 0 rfl rfl)
theorem dX1_singer_108 : decode cX1_singer 108 = .ok (.ireturn, 1) := dk_172 (dk_at dksX1_singer_4 1 rfl rfl)
theorem dX1_singer_109 : decode cX1_singer 109 = .ok (.aload_n 0, 1) := dk_42 (dk_at dksX1_singer_4 2 rfl rfl)
theorem dX1_singer_110 : decode cX1_singer 110 = .ok (.getfield 44, 3) := dk_180 0 44 (dk_at dksX1_singer_4 3 rfl rfl)
theorem dX1_singer_113 : decode cX1_singer 113 = .ok (.getfield 261, 3) := dk_180 1 5 (dk_at dksX1_singer_4 6 rfl rfl)
theorem dX1_singer_116 : decode cX1_singer 116 = .ok (.iload_n 1, 1) := dk_27 (dk_at dksX1_singer_4 9 rfl rfl)
theorem dX1_singer_117 : decode cX1_singer 117 = .ok (.iaload, 1) := dk_46 (dk_at dksX1_singer_4 10 rfl rfl)
theorem dX1_singer_118 : decode cX1_singer 118 = .ok (.ireturn, 1) := dk_172 (dk_at dksX1_singer_4 11 rfl rfl)
theorem dX1_singer_119 : decode cX1_singer 119 = .ok (.aload_n 0, 1) := dk_42 (dk_at dksX1_singer_4 12 rfl rfl)
theorem dX1_singer_120 : decode cX1_singer 120 = .ok (.getfield 44, 3) := dk_180 0 44 (dk_at dksX1_singer_4 13 rfl rfl)
theorem dX1_singer_123 : decode cX1_singer 123 = .ok (.getfield 267, 3) := dk_180 1 11 (dk_at dksX1_singer_4 16 rfl rfl)
theorem dX1_singer_126 : decode cX1_singer 126 = .ok (.iload_n 1, 1) := dk_27 (dk_at dksX1_singer_4 19 rfl rfl)
theorem dX1_singer_127 : decode cX1_singer 127 = .ok (.iaload, 1) := dk_46 (dk_at dksX1_singer_4 20 rfl rfl)
theorem dX1_singer_128 : decode cX1_singer 128 = .ok (.ireturn, 1) := dk_172 (dk_at dksX1_singer_4 21 rfl rfl)
theorem dX1_singer_129 : decode cX1_singer 129 = .ok (.aload_n 0, 1) := dk_42 (dk_at dksX1_singer_4 22 rfl rfl)
theorem dX1_singer_130 : decode cX1_singer 130 = .ok (.getfield 44, 3) := dk_180 0 44 (dk_at dksX1_singer_5 0 rfl rfl)
theorem dX1_singer_133 : decode cX1_singer 133 = .ok (.getfield 290, 3) := dk_180 1 34 (dk_at dksX1_singer_5 3 rfl rfl)
theorem dX1_singer_136 : decode cX1_singer 136 = .ok (.iload_n 1, 1) := dk_27 (dk_at dksX1_singer_5 6 rfl rfl)
theorem dX1_singer_137 : decode cX1_singer 137 = .ok (.iaload, 1) := dk_46 (dk_at dksX1_singer_5 7 rfl rfl)
theorem dX1_singer_138 : decode cX1_singer 138 = .ok (.ireturn, 1) := dk_172 (dk_at dksX1_singer_5 8 rfl rfl)
abbrev cX1_needSinger : ByteArray := prog_1_method_12_code
def yX1_needSinger : MethodName := ⟨RX1, "needSinger", "(I)V"⟩
def dkwX1_needSinger_0 : List UInt8 := [42, 27, 42, 182, 0, 157, 182, 0, 159, 177]
abbrev dktX1_needSinger_0 : List UInt8 := dkwX1_needSinger_0 ++ []
theorem dksX1_needSinger_0 : cX1_needSinger.data.toList.drop 0 = dktX1_needSinger_0 := by decide +kernel
theorem dX1_needSinger_0 : decode cX1_needSinger 0 = .ok (.aload_n 0, 1) := dk_42 (dk_at dksX1_needSinger_0 0 rfl rfl)
theorem dX1_needSinger_1 : decode cX1_needSinger 1 = .ok (.iload_n 1, 1) := dk_27 (dk_at dksX1_needSinger_0 1 rfl rfl)
theorem dX1_needSinger_2 : decode cX1_needSinger 2 = .ok (.aload_n 0, 1) := dk_42 (dk_at dksX1_needSinger_0 2 rfl rfl)
theorem dX1_needSinger_3 : decode cX1_needSinger 3 = .ok (.invokevirtual 157, 3) := dk_182 0 157 (dk_at dksX1_needSinger_0 3 rfl rfl)
theorem dX1_needSinger_6 : decode cX1_needSinger 6 = .ok (.invokevirtual 159, 3) := dk_182 0 159 (dk_at dksX1_needSinger_0 6 rfl rfl)
theorem dX1_needSinger_9 : decode cX1_needSinger 9 = .ok (.return_, 1) := dk_177 (dk_at dksX1_needSinger_0 9 rfl rfl)
abbrev cX1_needThere : ByteArray := prog_1_method_11_code
def yX1_needThere : MethodName := ⟨RX1, "needThere", "(II)V"⟩
def dkwX1_needThere_1 : List UInt8 := [183, 0, 156, 191]
abbrev dktX1_needThere_1 : List UInt8 := dkwX1_needThere_1 ++ []
def dkwX1_needThere_0 : List UInt8 := [27, 155, 0, 9, 27, 28, 162, 0, 4, 177, 42, 180, 0, 36, 3, 92, 46, 4, 96, 79, 187, 0, 154, 89]
abbrev dktX1_needThere_0 : List UInt8 := dkwX1_needThere_0 ++ dktX1_needThere_1
theorem dksX1_needThere_0 : cX1_needThere.data.toList.drop 0 = dktX1_needThere_0 := by decide +kernel
theorem dksX1_needThere_1 : cX1_needThere.data.toList.drop 24 = dktX1_needThere_1 := dk_seg dksX1_needThere_0 24 rfl rfl
theorem dX1_needThere_0 : decode cX1_needThere 0 = .ok (.iload_n 1, 1) := dk_27 (dk_at dksX1_needThere_0 0 rfl rfl)
theorem dX1_needThere_1 : decode cX1_needThere 1 = .ok (.ifCond .lt 9, 3) := dk_155 0 9 (dk_at dksX1_needThere_0 1 rfl rfl)
theorem dX1_needThere_4 : decode cX1_needThere 4 = .ok (.iload_n 1, 1) := dk_27 (dk_at dksX1_needThere_0 4 rfl rfl)
theorem dX1_needThere_5 : decode cX1_needThere 5 = .ok (.iload_n 2, 1) := dk_28 (dk_at dksX1_needThere_0 5 rfl rfl)
theorem dX1_needThere_6 : decode cX1_needThere 6 = .ok (.if_icmp .ge 4, 3) := dk_162 0 4 (dk_at dksX1_needThere_0 6 rfl rfl)
theorem dX1_needThere_9 : decode cX1_needThere 9 = .ok (.return_, 1) := dk_177 (dk_at dksX1_needThere_0 9 rfl rfl)
theorem dX1_needThere_10 : decode cX1_needThere 10 = .ok (.aload_n 0, 1) := dk_42 (dk_at dksX1_needThere_0 10 rfl rfl)
theorem dX1_needThere_11 : decode cX1_needThere 11 = .ok (.getfield 36, 3) := dk_180 0 36 (dk_at dksX1_needThere_0 11 rfl rfl)
theorem dX1_needThere_14 : decode cX1_needThere 14 = .ok (.iconst 0, 1) := dk_3 (dk_at dksX1_needThere_0 14 rfl rfl)
theorem dX1_needThere_15 : decode cX1_needThere 15 = .ok (.dup2, 1) := dk_92 (dk_at dksX1_needThere_0 15 rfl rfl)
theorem dX1_needThere_16 : decode cX1_needThere 16 = .ok (.iaload, 1) := dk_46 (dk_at dksX1_needThere_0 16 rfl rfl)
theorem dX1_needThere_17 : decode cX1_needThere 17 = .ok (.iconst 1, 1) := dk_4 (dk_at dksX1_needThere_0 17 rfl rfl)
theorem dX1_needThere_18 : decode cX1_needThere 18 = .ok (.iadd, 1) := dk_96 (dk_at dksX1_needThere_0 18 rfl rfl)
theorem dX1_needThere_19 : decode cX1_needThere 19 = .ok (.iastore, 1) := dk_79 (dk_at dksX1_needThere_0 19 rfl rfl)
theorem dX1_needThere_20 : decode cX1_needThere 20 = .ok (.new 154, 3) := dk_187 0 154 (dk_at dksX1_needThere_0 20 rfl rfl)
theorem dX1_needThere_23 : decode cX1_needThere 23 = .ok (.dup, 1) := dk_89 (dk_at dksX1_needThere_0 23 rfl rfl)
theorem dX1_needThere_24 : decode cX1_needThere 24 = .ok (.invokespecial 156, 3) := dk_183 0 156 (dk_at dksX1_needThere_1 0 rfl rfl)
theorem dX1_needThere_27 : decode cX1_needThere 27 = .ok (.athrow, 1) := dk_191 (dk_at dksX1_needThere_1 3 rfl rfl)
abbrev cX1_note : ByteArray := prog_1_method_29_code
def yX1_note : MethodName := ⟨RX1, "note", "(II)I"⟩
def dkwX1_note_3 : List UInt8 := [172]
abbrev dktX1_note_3 : List UInt8 := dkwX1_note_3 ++ []
def dkwX1_note_2 : List UInt8 := [28, 5, 160, 0, 14, 42, 27, 182, 0, 120, 180, 1, 42, 167, 0, 11, 42, 180, 0, 44, 27, 182, 1, 45]
abbrev dktX1_note_2 : List UInt8 := dkwX1_note_2 ++ dktX1_note_3
def dkwX1_note_1 : List UInt8 := [180, 1, 40, 27, 46, 167, 0, 43, 28, 4, 160, 0, 14, 42, 27, 182, 0, 120, 180, 0, 124, 167, 0, 27]
abbrev dktX1_note_1 : List UInt8 := dkwX1_note_1 ++ dktX1_note_2
def dkwX1_note_0 : List UInt8 := [42, 27, 182, 1, 37, 42, 28, 3, 6, 184, 0, 165, 182, 0, 183, 28, 154, 0, 15, 42, 180, 0, 44]
abbrev dktX1_note_0 : List UInt8 := dkwX1_note_0 ++ dktX1_note_1
theorem dksX1_note_0 : cX1_note.data.toList.drop 0 = dktX1_note_0 := by decide +kernel
theorem dksX1_note_1 : cX1_note.data.toList.drop 23 = dktX1_note_1 := dk_seg dksX1_note_0 23 rfl rfl
theorem dksX1_note_2 : cX1_note.data.toList.drop 47 = dktX1_note_2 := dk_seg dksX1_note_1 24 rfl rfl
theorem dksX1_note_3 : cX1_note.data.toList.drop 71 = dktX1_note_3 := dk_seg dksX1_note_2 24 rfl rfl
theorem dX1_note_0 : decode cX1_note 0 = .ok (.aload_n 0, 1) := dk_42 (dk_at dksX1_note_0 0 rfl rfl)
theorem dX1_note_1 : decode cX1_note 1 = .ok (.iload_n 1, 1) := dk_27 (dk_at dksX1_note_0 1 rfl rfl)
theorem dX1_note_2 : decode cX1_note 2 = .ok (.invokevirtual 293, 3) := dk_182 1 37 (dk_at dksX1_note_0 2 rfl rfl)
theorem dX1_note_5 : decode cX1_note 5 = .ok (.aload_n 0, 1) := dk_42 (dk_at dksX1_note_0 5 rfl rfl)
theorem dX1_note_6 : decode cX1_note 6 = .ok (.iload_n 2, 1) := dk_28 (dk_at dksX1_note_0 6 rfl rfl)
theorem dX1_note_7 : decode cX1_note 7 = .ok (.iconst 0, 1) := dk_3 (dk_at dksX1_note_0 7 rfl rfl)
theorem dX1_note_8 : decode cX1_note 8 = .ok (.iconst 3, 1) := dk_6 (dk_at dksX1_note_0 8 rfl rfl)
theorem dX1_note_9 : decode cX1_note 9 = .ok (.invokestatic 165, 3) := dk_184 0 165 (dk_at dksX1_note_0 9 rfl rfl)
theorem dX1_note_12 : decode cX1_note 12 = .ok (.invokevirtual 183, 3) := dk_182 0 183 (dk_at dksX1_note_0 12 rfl rfl)
theorem dX1_note_15 : decode cX1_note 15 = .ok (.iload_n 2, 1) := dk_28 (dk_at dksX1_note_0 15 rfl rfl)
theorem dX1_note_16 : decode cX1_note 16 = .ok (.ifCond .ne 15, 3) := dk_154 0 15 (dk_at dksX1_note_0 16 rfl rfl)
theorem dX1_note_19 : decode cX1_note 19 = .ok (.aload_n 0, 1) := dk_42 (dk_at dksX1_note_0 19 rfl rfl)
theorem dX1_note_20 : decode cX1_note 20 = .ok (.getfield 44, 3) := dk_180 0 44 (dk_at dksX1_note_0 20 rfl rfl)
theorem dX1_note_23 : decode cX1_note 23 = .ok (.getfield 296, 3) := dk_180 1 40 (dk_at dksX1_note_1 0 rfl rfl)
theorem dX1_note_26 : decode cX1_note 26 = .ok (.iload_n 1, 1) := dk_27 (dk_at dksX1_note_1 3 rfl rfl)
theorem dX1_note_27 : decode cX1_note 27 = .ok (.iaload, 1) := dk_46 (dk_at dksX1_note_1 4 rfl rfl)
theorem dX1_note_28 : decode cX1_note 28 = .ok (.goto 43, 3) := dk_167 0 43 (dk_at dksX1_note_1 5 rfl rfl)
theorem dX1_note_31 : decode cX1_note 31 = .ok (.iload_n 2, 1) := dk_28 (dk_at dksX1_note_1 8 rfl rfl)
theorem dX1_note_32 : decode cX1_note 32 = .ok (.iconst 1, 1) := dk_4 (dk_at dksX1_note_1 9 rfl rfl)
theorem dX1_note_33 : decode cX1_note 33 = .ok (.if_icmp .ne 14, 3) := dk_160 0 14 (dk_at dksX1_note_1 10 rfl rfl)
theorem dX1_note_36 : decode cX1_note 36 = .ok (.aload_n 0, 1) := dk_42 (dk_at dksX1_note_1 13 rfl rfl)
theorem dX1_note_37 : decode cX1_note 37 = .ok (.iload_n 1, 1) := dk_27 (dk_at dksX1_note_1 14 rfl rfl)
theorem dX1_note_38 : decode cX1_note 38 = .ok (.invokevirtual 120, 3) := dk_182 0 120 (dk_at dksX1_note_1 15 rfl rfl)
theorem dX1_note_41 : decode cX1_note 41 = .ok (.getfield 124, 3) := dk_180 0 124 (dk_at dksX1_note_1 18 rfl rfl)
theorem dX1_note_44 : decode cX1_note 44 = .ok (.goto 27, 3) := dk_167 0 27 (dk_at dksX1_note_1 21 rfl rfl)
theorem dX1_note_47 : decode cX1_note 47 = .ok (.iload_n 2, 1) := dk_28 (dk_at dksX1_note_2 0 rfl rfl)
theorem dX1_note_48 : decode cX1_note 48 = .ok (.iconst 2, 1) := dk_5 (dk_at dksX1_note_2 1 rfl rfl)
theorem dX1_note_49 : decode cX1_note 49 = .ok (.if_icmp .ne 14, 3) := dk_160 0 14 (dk_at dksX1_note_2 2 rfl rfl)
theorem dX1_note_52 : decode cX1_note 52 = .ok (.aload_n 0, 1) := dk_42 (dk_at dksX1_note_2 5 rfl rfl)
theorem dX1_note_53 : decode cX1_note 53 = .ok (.iload_n 1, 1) := dk_27 (dk_at dksX1_note_2 6 rfl rfl)
theorem dX1_note_54 : decode cX1_note 54 = .ok (.invokevirtual 120, 3) := dk_182 0 120 (dk_at dksX1_note_2 7 rfl rfl)
theorem dX1_note_57 : decode cX1_note 57 = .ok (.getfield 298, 3) := dk_180 1 42 (dk_at dksX1_note_2 10 rfl rfl)
theorem dX1_note_60 : decode cX1_note 60 = .ok (.goto 11, 3) := dk_167 0 11 (dk_at dksX1_note_2 13 rfl rfl)
theorem dX1_note_63 : decode cX1_note 63 = .ok (.aload_n 0, 1) := dk_42 (dk_at dksX1_note_2 16 rfl rfl)
theorem dX1_note_64 : decode cX1_note 64 = .ok (.getfield 44, 3) := dk_180 0 44 (dk_at dksX1_note_2 17 rfl rfl)
theorem dX1_note_67 : decode cX1_note 67 = .ok (.iload_n 1, 1) := dk_27 (dk_at dksX1_note_2 20 rfl rfl)
theorem dX1_note_68 : decode cX1_note 68 = .ok (.invokevirtual 301, 3) := dk_182 1 45 (dk_at dksX1_note_2 21 rfl rfl)
theorem dX1_note_71 : decode cX1_note 71 = .ok (.ireturn, 1) := dk_172 (dk_at dksX1_note_3 0 rfl rfl)
abbrev cX1_needNote : ByteArray := prog_1_method_13_code
def yX1_needNote : MethodName := ⟨RX1, "needNote", "(I)V"⟩
def dkwX1_needNote_0 : List UInt8 := [42, 27, 42, 182, 0, 163, 182, 0, 159, 177]
abbrev dktX1_needNote_0 : List UInt8 := dkwX1_needNote_0 ++ []
theorem dksX1_needNote_0 : cX1_needNote.data.toList.drop 0 = dktX1_needNote_0 := by decide +kernel
theorem dX1_needNote_0 : decode cX1_needNote 0 = .ok (.aload_n 0, 1) := dk_42 (dk_at dksX1_needNote_0 0 rfl rfl)
theorem dX1_needNote_1 : decode cX1_needNote 1 = .ok (.iload_n 1, 1) := dk_27 (dk_at dksX1_needNote_0 1 rfl rfl)
theorem dX1_needNote_2 : decode cX1_needNote 2 = .ok (.aload_n 0, 1) := dk_42 (dk_at dksX1_needNote_0 2 rfl rfl)
theorem dX1_needNote_3 : decode cX1_needNote 3 = .ok (.invokevirtual 163, 3) := dk_182 0 163 (dk_at dksX1_needNote_0 3 rfl rfl)
theorem dX1_needNote_6 : decode cX1_needNote 6 = .ok (.invokevirtual 159, 3) := dk_182 0 159 (dk_at dksX1_needNote_0 6 rfl rfl)
theorem dX1_needNote_9 : decode cX1_needNote 9 = .ok (.return_, 1) := dk_177 (dk_at dksX1_needNote_0 9 rfl rfl)
abbrev cX1_like : ByteArray := prog_1_method_30_code
def yX1_like : MethodName := ⟨RX1, "like", "(II)I"⟩
def dkwX1_like_2 : List UInt8 := [180, 0, 17, 180, 0, 127, 27, 182, 0, 112, 192, 0, 130, 180, 0, 135, 172]
abbrev dktX1_like_2 : List UInt8 := dkwX1_like_2 ++ []
def dkwX1_like_1 : List UInt8 := [154, 0, 23, 42, 180, 0, 17, 180, 0, 127, 27, 182, 0, 112, 192, 0, 130, 180, 0, 132, 167, 0, 20, 42]
abbrev dktX1_like_1 : List UInt8 := dkwX1_like_1 ++ dktX1_like_2
def dkwX1_like_0 : List UInt8 := [42, 27, 42, 180, 0, 17, 180, 0, 127, 182, 0, 103, 182, 0, 159, 42, 28, 184, 1, 49, 182, 0, 183, 28]
abbrev dktX1_like_0 : List UInt8 := dkwX1_like_0 ++ dktX1_like_1
theorem dksX1_like_0 : cX1_like.data.toList.drop 0 = dktX1_like_0 := by decide +kernel
theorem dksX1_like_1 : cX1_like.data.toList.drop 24 = dktX1_like_1 := dk_seg dksX1_like_0 24 rfl rfl
theorem dksX1_like_2 : cX1_like.data.toList.drop 48 = dktX1_like_2 := dk_seg dksX1_like_1 24 rfl rfl
theorem dX1_like_0 : decode cX1_like 0 = .ok (.aload_n 0, 1) := dk_42 (dk_at dksX1_like_0 0 rfl rfl)
theorem dX1_like_1 : decode cX1_like 1 = .ok (.iload_n 1, 1) := dk_27 (dk_at dksX1_like_0 1 rfl rfl)
theorem dX1_like_2 : decode cX1_like 2 = .ok (.aload_n 0, 1) := dk_42 (dk_at dksX1_like_0 2 rfl rfl)
theorem dX1_like_3 : decode cX1_like 3 = .ok (.getfield 17, 3) := dk_180 0 17 (dk_at dksX1_like_0 3 rfl rfl)
theorem dX1_like_6 : decode cX1_like 6 = .ok (.getfield 127, 3) := dk_180 0 127 (dk_at dksX1_like_0 6 rfl rfl)
theorem dX1_like_9 : decode cX1_like 9 = .ok (.invokevirtual 103, 3) := dk_182 0 103 (dk_at dksX1_like_0 9 rfl rfl)
theorem dX1_like_12 : decode cX1_like 12 = .ok (.invokevirtual 159, 3) := dk_182 0 159 (dk_at dksX1_like_0 12 rfl rfl)
theorem dX1_like_15 : decode cX1_like 15 = .ok (.aload_n 0, 1) := dk_42 (dk_at dksX1_like_0 15 rfl rfl)
theorem dX1_like_16 : decode cX1_like 16 = .ok (.iload_n 2, 1) := dk_28 (dk_at dksX1_like_0 16 rfl rfl)
theorem dX1_like_17 : decode cX1_like 17 = .ok (.invokestatic 305, 3) := dk_184 1 49 (dk_at dksX1_like_0 17 rfl rfl)
theorem dX1_like_20 : decode cX1_like 20 = .ok (.invokevirtual 183, 3) := dk_182 0 183 (dk_at dksX1_like_0 20 rfl rfl)
theorem dX1_like_23 : decode cX1_like 23 = .ok (.iload_n 2, 1) := dk_28 (dk_at dksX1_like_0 23 rfl rfl)
theorem dX1_like_24 : decode cX1_like 24 = .ok (.ifCond .ne 23, 3) := dk_154 0 23 (dk_at dksX1_like_1 0 rfl rfl)
theorem dX1_like_27 : decode cX1_like 27 = .ok (.aload_n 0, 1) := dk_42 (dk_at dksX1_like_1 3 rfl rfl)
theorem dX1_like_28 : decode cX1_like 28 = .ok (.getfield 17, 3) := dk_180 0 17 (dk_at dksX1_like_1 4 rfl rfl)
theorem dX1_like_31 : decode cX1_like 31 = .ok (.getfield 127, 3) := dk_180 0 127 (dk_at dksX1_like_1 7 rfl rfl)
theorem dX1_like_34 : decode cX1_like 34 = .ok (.iload_n 1, 1) := dk_27 (dk_at dksX1_like_1 10 rfl rfl)
theorem dX1_like_35 : decode cX1_like 35 = .ok (.invokevirtual 112, 3) := dk_182 0 112 (dk_at dksX1_like_1 11 rfl rfl)
theorem dX1_like_38 : decode cX1_like 38 = .ok (.checkcast 130, 3) := dk_192 0 130 (dk_at dksX1_like_1 14 rfl rfl)
theorem dX1_like_41 : decode cX1_like 41 = .ok (.getfield 132, 3) := dk_180 0 132 (dk_at dksX1_like_1 17 rfl rfl)
theorem dX1_like_44 : decode cX1_like 44 = .ok (.goto 20, 3) := dk_167 0 20 (dk_at dksX1_like_1 20 rfl rfl)
theorem dX1_like_47 : decode cX1_like 47 = .ok (.aload_n 0, 1) := dk_42 (dk_at dksX1_like_1 23 rfl rfl)
theorem dX1_like_48 : decode cX1_like 48 = .ok (.getfield 17, 3) := dk_180 0 17 (dk_at dksX1_like_2 0 rfl rfl)
theorem dX1_like_51 : decode cX1_like 51 = .ok (.getfield 127, 3) := dk_180 0 127 (dk_at dksX1_like_2 3 rfl rfl)
theorem dX1_like_54 : decode cX1_like 54 = .ok (.iload_n 1, 1) := dk_27 (dk_at dksX1_like_2 6 rfl rfl)
theorem dX1_like_55 : decode cX1_like 55 = .ok (.invokevirtual 112, 3) := dk_182 0 112 (dk_at dksX1_like_2 7 rfl rfl)
theorem dX1_like_58 : decode cX1_like 58 = .ok (.checkcast 130, 3) := dk_192 0 130 (dk_at dksX1_like_2 10 rfl rfl)
theorem dX1_like_61 : decode cX1_like 61 = .ok (.getfield 135, 3) := dk_180 0 135 (dk_at dksX1_like_2 13 rfl rfl)
theorem dX1_like_64 : decode cX1_like 64 = .ok (.ireturn, 1) := dk_172 (dk_at dksX1_like_2 16 rfl rfl)
abbrev cX1_takes : ByteArray := prog_1_method_31_code
def yX1_takes : MethodName := ⟨RX1, "takes", "(II)I"⟩
def dkwX1_takes_0 : List UInt8 := [42, 27, 182, 1, 37, 42, 28, 182, 1, 20, 42, 180, 0, 44, 27, 28, 182, 1, 53, 172]
abbrev dktX1_takes_0 : List UInt8 := dkwX1_takes_0 ++ []
theorem dksX1_takes_0 : cX1_takes.data.toList.drop 0 = dktX1_takes_0 := by decide +kernel
theorem dX1_takes_0 : decode cX1_takes 0 = .ok (.aload_n 0, 1) := dk_42 (dk_at dksX1_takes_0 0 rfl rfl)
theorem dX1_takes_1 : decode cX1_takes 1 = .ok (.iload_n 1, 1) := dk_27 (dk_at dksX1_takes_0 1 rfl rfl)
theorem dX1_takes_2 : decode cX1_takes 2 = .ok (.invokevirtual 293, 3) := dk_182 1 37 (dk_at dksX1_takes_0 2 rfl rfl)
theorem dX1_takes_5 : decode cX1_takes 5 = .ok (.aload_n 0, 1) := dk_42 (dk_at dksX1_takes_0 5 rfl rfl)
theorem dX1_takes_6 : decode cX1_takes 6 = .ok (.iload_n 2, 1) := dk_28 (dk_at dksX1_takes_0 6 rfl rfl)
theorem dX1_takes_7 : decode cX1_takes 7 = .ok (.invokevirtual 276, 3) := dk_182 1 20 (dk_at dksX1_takes_0 7 rfl rfl)
theorem dX1_takes_10 : decode cX1_takes 10 = .ok (.aload_n 0, 1) := dk_42 (dk_at dksX1_takes_0 10 rfl rfl)
theorem dX1_takes_11 : decode cX1_takes 11 = .ok (.getfield 44, 3) := dk_180 0 44 (dk_at dksX1_takes_0 11 rfl rfl)
theorem dX1_takes_14 : decode cX1_takes 14 = .ok (.iload_n 1, 1) := dk_27 (dk_at dksX1_takes_0 14 rfl rfl)
theorem dX1_takes_15 : decode cX1_takes 15 = .ok (.iload_n 2, 1) := dk_28 (dk_at dksX1_takes_0 15 rfl rfl)
theorem dX1_takes_16 : decode cX1_takes 16 = .ok (.invokevirtual 309, 3) := dk_182 1 53 (dk_at dksX1_takes_0 16 rfl rfl)
theorem dX1_takes_19 : decode cX1_takes 19 = .ok (.ireturn, 1) := dk_172 (dk_at dksX1_takes_0 19 rfl rfl)
abbrev cX1_would : ByteArray := prog_1_method_32_code
def yX1_would : MethodName := ⟨RX1, "would", "(IIIIIIII)I"⟩
def dkwX1_would_4 : List UInt8 := [182, 0, 183, 42, 27, 28, 29, 21, 4, 21, 5, 21, 6, 21, 7, 21, 8, 182, 1, 59, 172]
abbrev dktX1_would_4 : List UInt8 := dkwX1_would_4 ++ []
def dkwX1_would_3 : List UInt8 := [184, 0, 165, 153, 0, 18, 21, 8, 3, 16, 6, 184, 0, 165, 153, 0, 7, 4, 167, 0, 4, 3]
abbrev dktX1_would_3 : List UInt8 := dkwX1_would_3 ++ dktX1_would_4
def dkwX1_would_2 : List UInt8 := [16, 19, 184, 0, 165, 153, 0, 38, 21, 6, 184, 1, 56, 153, 0, 30, 21, 7, 3, 17, 1, 144]
abbrev dktX1_would_2 : List UInt8 := dkwX1_would_2 ++ dktX1_would_3
def dkwX1_would_1 : List UInt8 := [16, 30, 184, 0, 165, 153, 0, 61, 21, 4, 3, 17, 39, 15, 184, 0, 165, 153, 0, 49, 21, 5, 3]
abbrev dktX1_would_1 : List UInt8 := dkwX1_would_1 ++ dktX1_would_2
def dkwX1_would_0 : List UInt8 := [42, 27, 4, 16, 9, 184, 0, 165, 153, 0, 81, 28, 3, 16, 60, 184, 0, 165, 153, 0, 71, 29, 3]
abbrev dktX1_would_0 : List UInt8 := dkwX1_would_0 ++ dktX1_would_1
theorem dksX1_would_0 : cX1_would.data.toList.drop 0 = dktX1_would_0 := by decide +kernel
theorem dksX1_would_1 : cX1_would.data.toList.drop 23 = dktX1_would_1 := dk_seg dksX1_would_0 23 rfl rfl
theorem dksX1_would_2 : cX1_would.data.toList.drop 46 = dktX1_would_2 := dk_seg dksX1_would_1 23 rfl rfl
theorem dksX1_would_3 : cX1_would.data.toList.drop 68 = dktX1_would_3 := dk_seg dksX1_would_2 22 rfl rfl
theorem dksX1_would_4 : cX1_would.data.toList.drop 90 = dktX1_would_4 := dk_seg dksX1_would_3 22 rfl rfl
theorem dX1_would_0 : decode cX1_would 0 = .ok (.aload_n 0, 1) := dk_42 (dk_at dksX1_would_0 0 rfl rfl)
theorem dX1_would_1 : decode cX1_would 1 = .ok (.iload_n 1, 1) := dk_27 (dk_at dksX1_would_0 1 rfl rfl)
theorem dX1_would_2 : decode cX1_would 2 = .ok (.iconst 1, 1) := dk_4 (dk_at dksX1_would_0 2 rfl rfl)
theorem dX1_would_3 : decode cX1_would 3 = .ok (.bipush 9, 2) := dk_16 9 (dk_at dksX1_would_0 3 rfl rfl)
theorem dX1_would_5 : decode cX1_would 5 = .ok (.invokestatic 165, 3) := dk_184 0 165 (dk_at dksX1_would_0 5 rfl rfl)
theorem dX1_would_8 : decode cX1_would 8 = .ok (.ifCond .eq 81, 3) := dk_153 0 81 (dk_at dksX1_would_0 8 rfl rfl)
theorem dX1_would_11 : decode cX1_would 11 = .ok (.iload_n 2, 1) := dk_28 (dk_at dksX1_would_0 11 rfl rfl)
theorem dX1_would_12 : decode cX1_would 12 = .ok (.iconst 0, 1) := dk_3 (dk_at dksX1_would_0 12 rfl rfl)
theorem dX1_would_13 : decode cX1_would 13 = .ok (.bipush 60, 2) := dk_16 60 (dk_at dksX1_would_0 13 rfl rfl)
theorem dX1_would_15 : decode cX1_would 15 = .ok (.invokestatic 165, 3) := dk_184 0 165 (dk_at dksX1_would_0 15 rfl rfl)
theorem dX1_would_18 : decode cX1_would 18 = .ok (.ifCond .eq 71, 3) := dk_153 0 71 (dk_at dksX1_would_0 18 rfl rfl)
theorem dX1_would_21 : decode cX1_would 21 = .ok (.iload_n 3, 1) := dk_29 (dk_at dksX1_would_0 21 rfl rfl)
theorem dX1_would_22 : decode cX1_would 22 = .ok (.iconst 0, 1) := dk_3 (dk_at dksX1_would_0 22 rfl rfl)
theorem dX1_would_23 : decode cX1_would 23 = .ok (.bipush 30, 2) := dk_16 30 (dk_at dksX1_would_1 0 rfl rfl)
theorem dX1_would_25 : decode cX1_would 25 = .ok (.invokestatic 165, 3) := dk_184 0 165 (dk_at dksX1_would_1 2 rfl rfl)
theorem dX1_would_28 : decode cX1_would 28 = .ok (.ifCond .eq 61, 3) := dk_153 0 61 (dk_at dksX1_would_1 5 rfl rfl)
theorem dX1_would_31 : decode cX1_would 31 = .ok (.iload 4, 2) := dk_21 4 (dk_at dksX1_would_1 8 rfl rfl)
theorem dX1_would_33 : decode cX1_would 33 = .ok (.iconst 0, 1) := dk_3 (dk_at dksX1_would_1 10 rfl rfl)
theorem dX1_would_34 : decode cX1_would 34 = .ok (.sipush 9999, 3) := dk_17 39 15 (dk_at dksX1_would_1 11 rfl rfl)
theorem dX1_would_37 : decode cX1_would 37 = .ok (.invokestatic 165, 3) := dk_184 0 165 (dk_at dksX1_would_1 14 rfl rfl)
theorem dX1_would_40 : decode cX1_would 40 = .ok (.ifCond .eq 49, 3) := dk_153 0 49 (dk_at dksX1_would_1 17 rfl rfl)
theorem dX1_would_43 : decode cX1_would 43 = .ok (.iload 5, 2) := dk_21 5 (dk_at dksX1_would_1 20 rfl rfl)
theorem dX1_would_45 : decode cX1_would 45 = .ok (.iconst 0, 1) := dk_3 (dk_at dksX1_would_1 22 rfl rfl)
theorem dX1_would_46 : decode cX1_would 46 = .ok (.bipush 19, 2) := dk_16 19 (dk_at dksX1_would_2 0 rfl rfl)
theorem dX1_would_48 : decode cX1_would 48 = .ok (.invokestatic 165, 3) := dk_184 0 165 (dk_at dksX1_would_2 2 rfl rfl)
theorem dX1_would_51 : decode cX1_would 51 = .ok (.ifCond .eq 38, 3) := dk_153 0 38 (dk_at dksX1_would_2 5 rfl rfl)
theorem dX1_would_54 : decode cX1_would 54 = .ok (.iload 6, 2) := dk_21 6 (dk_at dksX1_would_2 8 rfl rfl)
theorem dX1_would_56 : decode cX1_would 56 = .ok (.invokestatic 312, 3) := dk_184 1 56 (dk_at dksX1_would_2 10 rfl rfl)
theorem dX1_would_59 : decode cX1_would 59 = .ok (.ifCond .eq 30, 3) := dk_153 0 30 (dk_at dksX1_would_2 13 rfl rfl)
theorem dX1_would_62 : decode cX1_would 62 = .ok (.iload 7, 2) := dk_21 7 (dk_at dksX1_would_2 16 rfl rfl)
theorem dX1_would_64 : decode cX1_would 64 = .ok (.iconst 0, 1) := dk_3 (dk_at dksX1_would_2 18 rfl rfl)
theorem dX1_would_65 : decode cX1_would 65 = .ok (.sipush 400, 3) := dk_17 1 144 (dk_at dksX1_would_2 19 rfl rfl)
theorem dX1_would_68 : decode cX1_would 68 = .ok (.invokestatic 165, 3) := dk_184 0 165 (dk_at dksX1_would_3 0 rfl rfl)
theorem dX1_would_71 : decode cX1_would 71 = .ok (.ifCond .eq 18, 3) := dk_153 0 18 (dk_at dksX1_would_3 3 rfl rfl)
theorem dX1_would_74 : decode cX1_would 74 = .ok (.iload 8, 2) := dk_21 8 (dk_at dksX1_would_3 6 rfl rfl)
theorem dX1_would_76 : decode cX1_would 76 = .ok (.iconst 0, 1) := dk_3 (dk_at dksX1_would_3 8 rfl rfl)
theorem dX1_would_77 : decode cX1_would 77 = .ok (.bipush 6, 2) := dk_16 6 (dk_at dksX1_would_3 9 rfl rfl)
theorem dX1_would_79 : decode cX1_would 79 = .ok (.invokestatic 165, 3) := dk_184 0 165 (dk_at dksX1_would_3 11 rfl rfl)
theorem dX1_would_82 : decode cX1_would 82 = .ok (.ifCond .eq 7, 3) := dk_153 0 7 (dk_at dksX1_would_3 14 rfl rfl)
theorem dX1_would_85 : decode cX1_would 85 = .ok (.iconst 1, 1) := dk_4 (dk_at dksX1_would_3 17 rfl rfl)
theorem dX1_would_86 : decode cX1_would 86 = .ok (.goto 4, 3) := dk_167 0 4 (dk_at dksX1_would_3 18 rfl rfl)
theorem dX1_would_89 : decode cX1_would 89 = .ok (.iconst 0, 1) := dk_3 (dk_at dksX1_would_3 21 rfl rfl)
theorem dX1_would_90 : decode cX1_would 90 = .ok (.invokevirtual 183, 3) := dk_182 0 183 (dk_at dksX1_would_4 0 rfl rfl)
theorem dX1_would_93 : decode cX1_would 93 = .ok (.aload_n 0, 1) := dk_42 (dk_at dksX1_would_4 3 rfl rfl)
theorem dX1_would_94 : decode cX1_would 94 = .ok (.iload_n 1, 1) := dk_27 (dk_at dksX1_would_4 4 rfl rfl)
theorem dX1_would_95 : decode cX1_would 95 = .ok (.iload_n 2, 1) := dk_28 (dk_at dksX1_would_4 5 rfl rfl)
theorem dX1_would_96 : decode cX1_would 96 = .ok (.iload_n 3, 1) := dk_29 (dk_at dksX1_would_4 6 rfl rfl)
theorem dX1_would_97 : decode cX1_would 97 = .ok (.iload 4, 2) := dk_21 4 (dk_at dksX1_would_4 7 rfl rfl)
theorem dX1_would_99 : decode cX1_would 99 = .ok (.iload 5, 2) := dk_21 5 (dk_at dksX1_would_4 9 rfl rfl)
theorem dX1_would_101 : decode cX1_would 101 = .ok (.iload 6, 2) := dk_21 6 (dk_at dksX1_would_4 11 rfl rfl)
theorem dX1_would_103 : decode cX1_would 103 = .ok (.iload 7, 2) := dk_21 7 (dk_at dksX1_would_4 13 rfl rfl)
theorem dX1_would_105 : decode cX1_would 105 = .ok (.iload 8, 2) := dk_21 8 (dk_at dksX1_would_4 15 rfl rfl)
theorem dX1_would_107 : decode cX1_would 107 = .ok (.invokevirtual 315, 3) := dk_182 1 59 (dk_at dksX1_would_4 17 rfl rfl)
theorem dX1_would_110 : decode cX1_would 110 = .ok (.ireturn, 1) := dk_172 (dk_at dksX1_would_4 20 rfl rfl)
abbrev cX1_isVowel : ByteArray := prog_1_method_16_code
def yX1_isVowel : MethodName := ⟨RX1, "isVowel", "(I)Z"⟩
def dkwX1_isVowel_0 : List UInt8 := [26, 3, 8, 184, 0, 165, 172]
abbrev dktX1_isVowel_0 : List UInt8 := dkwX1_isVowel_0 ++ []
theorem dksX1_isVowel_0 : cX1_isVowel.data.toList.drop 0 = dktX1_isVowel_0 := by decide +kernel
theorem dX1_isVowel_0 : decode cX1_isVowel 0 = .ok (.iload_n 0, 1) := dk_26 (dk_at dksX1_isVowel_0 0 rfl rfl)
theorem dX1_isVowel_1 : decode cX1_isVowel 1 = .ok (.iconst 0, 1) := dk_3 (dk_at dksX1_isVowel_0 1 rfl rfl)
theorem dX1_isVowel_2 : decode cX1_isVowel 2 = .ok (.iconst 5, 1) := dk_8 (dk_at dksX1_isVowel_0 2 rfl rfl)
theorem dX1_isVowel_3 : decode cX1_isVowel 3 = .ok (.invokestatic 165, 3) := dk_184 0 165 (dk_at dksX1_isVowel_0 3 rfl rfl)
theorem dX1_isVowel_6 : decode cX1_isVowel 6 = .ok (.ireturn, 1) := dk_172 (dk_at dksX1_isVowel_0 6 rfl rfl)
abbrev cX1_ahead : ByteArray := prog_1_method_38_code
def yX1_ahead : MethodName := ⟨RX1, "ahead", "(II)I"⟩
def dkwX1_ahead_5 : List UInt8 := [154, 0, 10, 4, 21, 5, 120, 167, 0, 4, 3, 128, 54, 4, 132, 5, 1, 167, 255, 221, 21, 4, 172]
abbrev dktX1_ahead_5 : List UInt8 := dkwX1_ahead_5 ++ []
def dkwX1_ahead_4 : List UInt8 := [54, 4, 3, 54, 5, 21, 5, 42, 182, 0, 157, 162, 0, 32, 21, 4, 45, 180, 1, 14, 21, 5, 46]
abbrev dktX1_ahead_4 : List UInt8 := dkwX1_ahead_4 ++ dktX1_ahead_5
def dkwX1_ahead_3 : List UInt8 := [180, 1, 2, 42, 180, 0, 44, 180, 1, 2, 100, 167, 0, 11, 45, 45, 180, 1, 14, 182, 1, 8, 172, 3]
abbrev dktX1_ahead_3 : List UInt8 := dkwX1_ahead_3 ++ dktX1_ahead_4
def dkwX1_ahead_2 : List UInt8 := [162, 0, 14, 45, 182, 1, 69, 87, 132, 4, 1, 167, 255, 242, 28, 5, 162, 0, 31, 28, 154, 0, 18, 45]
abbrev dktX1_ahead_2 : List UInt8 := dkwX1_ahead_2 ++ dktX1_ahead_3
def dkwX1_ahead_1 : List UInt8 := [3, 182, 0, 183, 42, 180, 0, 48, 42, 180, 0, 44, 182, 0, 248, 78, 3, 54, 4, 21, 4, 27]
abbrev dktX1_ahead_1 : List UInt8 := dkwX1_ahead_1 ++ dktX1_ahead_2
def dkwX1_ahead_0 : List UInt8 := [42, 27, 3, 16, 20, 184, 0, 165, 153, 0, 16, 28, 3, 5, 184, 0, 165, 153, 0, 7, 4, 167, 0, 4]
abbrev dktX1_ahead_0 : List UInt8 := dkwX1_ahead_0 ++ dktX1_ahead_1
theorem dksX1_ahead_0 : cX1_ahead.data.toList.drop 0 = dktX1_ahead_0 := by decide +kernel
theorem dksX1_ahead_1 : cX1_ahead.data.toList.drop 24 = dktX1_ahead_1 := dk_seg dksX1_ahead_0 24 rfl rfl
theorem dksX1_ahead_2 : cX1_ahead.data.toList.drop 46 = dktX1_ahead_2 := dk_seg dksX1_ahead_1 22 rfl rfl
theorem dksX1_ahead_3 : cX1_ahead.data.toList.drop 70 = dktX1_ahead_3 := dk_seg dksX1_ahead_2 24 rfl rfl
theorem dksX1_ahead_4 : cX1_ahead.data.toList.drop 94 = dktX1_ahead_4 := dk_seg dksX1_ahead_3 24 rfl rfl
theorem dksX1_ahead_5 : cX1_ahead.data.toList.drop 117 = dktX1_ahead_5 := dk_seg dksX1_ahead_4 23 rfl rfl
theorem dX1_ahead_0 : decode cX1_ahead 0 = .ok (.aload_n 0, 1) := dk_42 (dk_at dksX1_ahead_0 0 rfl rfl)
theorem dX1_ahead_1 : decode cX1_ahead 1 = .ok (.iload_n 1, 1) := dk_27 (dk_at dksX1_ahead_0 1 rfl rfl)
theorem dX1_ahead_2 : decode cX1_ahead 2 = .ok (.iconst 0, 1) := dk_3 (dk_at dksX1_ahead_0 2 rfl rfl)
theorem dX1_ahead_3 : decode cX1_ahead 3 = .ok (.bipush 20, 2) := dk_16 20 (dk_at dksX1_ahead_0 3 rfl rfl)
theorem dX1_ahead_5 : decode cX1_ahead 5 = .ok (.invokestatic 165, 3) := dk_184 0 165 (dk_at dksX1_ahead_0 5 rfl rfl)
theorem dX1_ahead_8 : decode cX1_ahead 8 = .ok (.ifCond .eq 16, 3) := dk_153 0 16 (dk_at dksX1_ahead_0 8 rfl rfl)
theorem dX1_ahead_11 : decode cX1_ahead 11 = .ok (.iload_n 2, 1) := dk_28 (dk_at dksX1_ahead_0 11 rfl rfl)
theorem dX1_ahead_12 : decode cX1_ahead 12 = .ok (.iconst 0, 1) := dk_3 (dk_at dksX1_ahead_0 12 rfl rfl)
theorem dX1_ahead_13 : decode cX1_ahead 13 = .ok (.iconst 2, 1) := dk_5 (dk_at dksX1_ahead_0 13 rfl rfl)
theorem dX1_ahead_14 : decode cX1_ahead 14 = .ok (.invokestatic 165, 3) := dk_184 0 165 (dk_at dksX1_ahead_0 14 rfl rfl)
theorem dX1_ahead_17 : decode cX1_ahead 17 = .ok (.ifCond .eq 7, 3) := dk_153 0 7 (dk_at dksX1_ahead_0 17 rfl rfl)
theorem dX1_ahead_20 : decode cX1_ahead 20 = .ok (.iconst 1, 1) := dk_4 (dk_at dksX1_ahead_0 20 rfl rfl)
theorem dX1_ahead_21 : decode cX1_ahead 21 = .ok (.goto 4, 3) := dk_167 0 4 (dk_at dksX1_ahead_0 21 rfl rfl)
theorem dX1_ahead_24 : decode cX1_ahead 24 = .ok (.iconst 0, 1) := dk_3 (dk_at dksX1_ahead_1 0 rfl rfl)
theorem dX1_ahead_25 : decode cX1_ahead 25 = .ok (.invokevirtual 183, 3) := dk_182 0 183 (dk_at dksX1_ahead_1 1 rfl rfl)
theorem dX1_ahead_28 : decode cX1_ahead 28 = .ok (.aload_n 0, 1) := dk_42 (dk_at dksX1_ahead_1 4 rfl rfl)
theorem dX1_ahead_29 : decode cX1_ahead 29 = .ok (.getfield 48, 3) := dk_180 0 48 (dk_at dksX1_ahead_1 5 rfl rfl)
theorem dX1_ahead_32 : decode cX1_ahead 32 = .ok (.aload_n 0, 1) := dk_42 (dk_at dksX1_ahead_1 8 rfl rfl)
theorem dX1_ahead_33 : decode cX1_ahead 33 = .ok (.getfield 44, 3) := dk_180 0 44 (dk_at dksX1_ahead_1 9 rfl rfl)
theorem dX1_ahead_36 : decode cX1_ahead 36 = .ok (.invokevirtual 248, 3) := dk_182 0 248 (dk_at dksX1_ahead_1 12 rfl rfl)
theorem dX1_ahead_39 : decode cX1_ahead 39 = .ok (.astore_n 3, 1) := dk_78 (dk_at dksX1_ahead_1 15 rfl rfl)
theorem dX1_ahead_40 : decode cX1_ahead 40 = .ok (.iconst 0, 1) := dk_3 (dk_at dksX1_ahead_1 16 rfl rfl)
theorem dX1_ahead_41 : decode cX1_ahead 41 = .ok (.istore 4, 2) := dk_54 4 (dk_at dksX1_ahead_1 17 rfl rfl)
theorem dX1_ahead_43 : decode cX1_ahead 43 = .ok (.iload 4, 2) := dk_21 4 (dk_at dksX1_ahead_1 19 rfl rfl)
theorem dX1_ahead_45 : decode cX1_ahead 45 = .ok (.iload_n 1, 1) := dk_27 (dk_at dksX1_ahead_1 21 rfl rfl)
theorem dX1_ahead_46 : decode cX1_ahead 46 = .ok (.if_icmp .ge 14, 3) := dk_162 0 14 (dk_at dksX1_ahead_2 0 rfl rfl)
theorem dX1_ahead_49 : decode cX1_ahead 49 = .ok (.aload_n 3, 1) := dk_45 (dk_at dksX1_ahead_2 3 rfl rfl)
theorem dX1_ahead_50 : decode cX1_ahead 50 = .ok (.invokevirtual 325, 3) := dk_182 1 69 (dk_at dksX1_ahead_2 4 rfl rfl)
theorem dX1_ahead_53 : decode cX1_ahead 53 = .ok (.pop, 1) := dk_87 (dk_at dksX1_ahead_2 7 rfl rfl)
theorem dX1_ahead_54 : decode cX1_ahead 54 = .ok (.iinc 4 1, 3) := dk_132 4 1 (dk_at dksX1_ahead_2 8 rfl rfl)
theorem dX1_ahead_57 : decode cX1_ahead 57 = .ok (.goto (-14), 3) := dk_167 255 242 (dk_at dksX1_ahead_2 11 rfl rfl)
theorem dX1_ahead_60 : decode cX1_ahead 60 = .ok (.iload_n 2, 1) := dk_28 (dk_at dksX1_ahead_2 14 rfl rfl)
theorem dX1_ahead_61 : decode cX1_ahead 61 = .ok (.iconst 2, 1) := dk_5 (dk_at dksX1_ahead_2 15 rfl rfl)
theorem dX1_ahead_62 : decode cX1_ahead 62 = .ok (.if_icmp .ge 31, 3) := dk_162 0 31 (dk_at dksX1_ahead_2 16 rfl rfl)
theorem dX1_ahead_65 : decode cX1_ahead 65 = .ok (.iload_n 2, 1) := dk_28 (dk_at dksX1_ahead_2 19 rfl rfl)
theorem dX1_ahead_66 : decode cX1_ahead 66 = .ok (.ifCond .ne 18, 3) := dk_154 0 18 (dk_at dksX1_ahead_2 20 rfl rfl)
theorem dX1_ahead_69 : decode cX1_ahead 69 = .ok (.aload_n 3, 1) := dk_45 (dk_at dksX1_ahead_2 23 rfl rfl)
theorem dX1_ahead_70 : decode cX1_ahead 70 = .ok (.getfield 258, 3) := dk_180 1 2 (dk_at dksX1_ahead_3 0 rfl rfl)
theorem dX1_ahead_73 : decode cX1_ahead 73 = .ok (.aload_n 0, 1) := dk_42 (dk_at dksX1_ahead_3 3 rfl rfl)
theorem dX1_ahead_74 : decode cX1_ahead 74 = .ok (.getfield 44, 3) := dk_180 0 44 (dk_at dksX1_ahead_3 4 rfl rfl)
theorem dX1_ahead_77 : decode cX1_ahead 77 = .ok (.getfield 258, 3) := dk_180 1 2 (dk_at dksX1_ahead_3 7 rfl rfl)
theorem dX1_ahead_80 : decode cX1_ahead 80 = .ok (.isub, 1) := dk_100 (dk_at dksX1_ahead_3 10 rfl rfl)
theorem dX1_ahead_81 : decode cX1_ahead 81 = .ok (.goto 11, 3) := dk_167 0 11 (dk_at dksX1_ahead_3 11 rfl rfl)
theorem dX1_ahead_84 : decode cX1_ahead 84 = .ok (.aload_n 3, 1) := dk_45 (dk_at dksX1_ahead_3 14 rfl rfl)
theorem dX1_ahead_85 : decode cX1_ahead 85 = .ok (.aload_n 3, 1) := dk_45 (dk_at dksX1_ahead_3 15 rfl rfl)
theorem dX1_ahead_86 : decode cX1_ahead 86 = .ok (.getfield 270, 3) := dk_180 1 14 (dk_at dksX1_ahead_3 16 rfl rfl)
theorem dX1_ahead_89 : decode cX1_ahead 89 = .ok (.invokevirtual 264, 3) := dk_182 1 8 (dk_at dksX1_ahead_3 19 rfl rfl)
theorem dX1_ahead_92 : decode cX1_ahead 92 = .ok (.ireturn, 1) := dk_172 (dk_at dksX1_ahead_3 22 rfl rfl)
theorem dX1_ahead_93 : decode cX1_ahead 93 = .ok (.iconst 0, 1) := dk_3 (dk_at dksX1_ahead_3 23 rfl rfl)
theorem dX1_ahead_94 : decode cX1_ahead 94 = .ok (.istore 4, 2) := dk_54 4 (dk_at dksX1_ahead_4 0 rfl rfl)
theorem dX1_ahead_96 : decode cX1_ahead 96 = .ok (.iconst 0, 1) := dk_3 (dk_at dksX1_ahead_4 2 rfl rfl)
theorem dX1_ahead_97 : decode cX1_ahead 97 = .ok (.istore 5, 2) := dk_54 5 (dk_at dksX1_ahead_4 3 rfl rfl)
theorem dX1_ahead_99 : decode cX1_ahead 99 = .ok (.iload 5, 2) := dk_21 5 (dk_at dksX1_ahead_4 5 rfl rfl)
theorem dX1_ahead_101 : decode cX1_ahead 101 = .ok (.aload_n 0, 1) := dk_42 (dk_at dksX1_ahead_4 7 rfl rfl)
theorem dX1_ahead_102 : decode cX1_ahead 102 = .ok (.invokevirtual 157, 3) := dk_182 0 157 (dk_at dksX1_ahead_4 8 rfl rfl)
theorem dX1_ahead_105 : decode cX1_ahead 105 = .ok (.if_icmp .ge 32, 3) := dk_162 0 32 (dk_at dksX1_ahead_4 11 rfl rfl)
theorem dX1_ahead_108 : decode cX1_ahead 108 = .ok (.iload 4, 2) := dk_21 4 (dk_at dksX1_ahead_4 14 rfl rfl)
theorem dX1_ahead_110 : decode cX1_ahead 110 = .ok (.aload_n 3, 1) := dk_45 (dk_at dksX1_ahead_4 16 rfl rfl)
theorem dX1_ahead_111 : decode cX1_ahead 111 = .ok (.getfield 270, 3) := dk_180 1 14 (dk_at dksX1_ahead_4 17 rfl rfl)
theorem dX1_ahead_114 : decode cX1_ahead 114 = .ok (.iload 5, 2) := dk_21 5 (dk_at dksX1_ahead_4 20 rfl rfl)
theorem dX1_ahead_116 : decode cX1_ahead 116 = .ok (.iaload, 1) := dk_46 (dk_at dksX1_ahead_4 22 rfl rfl)
theorem dX1_ahead_117 : decode cX1_ahead 117 = .ok (.ifCond .ne 10, 3) := dk_154 0 10 (dk_at dksX1_ahead_5 0 rfl rfl)
theorem dX1_ahead_120 : decode cX1_ahead 120 = .ok (.iconst 1, 1) := dk_4 (dk_at dksX1_ahead_5 3 rfl rfl)
theorem dX1_ahead_121 : decode cX1_ahead 121 = .ok (.iload 5, 2) := dk_21 5 (dk_at dksX1_ahead_5 4 rfl rfl)
theorem dX1_ahead_123 : decode cX1_ahead 123 = .ok (.ishl, 1) := dk_120 (dk_at dksX1_ahead_5 6 rfl rfl)
theorem dX1_ahead_124 : decode cX1_ahead 124 = .ok (.goto 4, 3) := dk_167 0 4 (dk_at dksX1_ahead_5 7 rfl rfl)
theorem dX1_ahead_127 : decode cX1_ahead 127 = .ok (.iconst 0, 1) := dk_3 (dk_at dksX1_ahead_5 10 rfl rfl)
theorem dX1_ahead_128 : decode cX1_ahead 128 = .ok (.ior, 1) := dk_128 (dk_at dksX1_ahead_5 11 rfl rfl)
theorem dX1_ahead_129 : decode cX1_ahead 129 = .ok (.istore 4, 2) := dk_54 4 (dk_at dksX1_ahead_5 12 rfl rfl)
theorem dX1_ahead_131 : decode cX1_ahead 131 = .ok (.iinc 5 1, 3) := dk_132 5 1 (dk_at dksX1_ahead_5 14 rfl rfl)
theorem dX1_ahead_134 : decode cX1_ahead 134 = .ok (.goto (-35), 3) := dk_167 255 221 (dk_at dksX1_ahead_5 17 rfl rfl)
theorem dX1_ahead_137 : decode cX1_ahead 137 = .ok (.iload 4, 2) := dk_21 4 (dk_at dksX1_ahead_5 20 rfl rfl)
theorem dX1_ahead_139 : decode cX1_ahead 139 = .ok (.ireturn, 1) := dk_172 (dk_at dksX1_ahead_5 22 rfl rfl)
abbrev cX1_handed : ByteArray := prog_1_method_52_code
def yX1_handed : MethodName := ⟨RX1, "handed", "(II)I"⟩
def dkwX1_handed_1 : List UInt8 := [27, 28, 182, 1, 102, 172]
abbrev dktX1_handed_1 : List UInt8 := dkwX1_handed_1 ++ []
def dkwX1_handed_0 : List UInt8 := [42, 27, 184, 1, 56, 153, 0, 14, 28, 184, 1, 56, 153, 0, 7, 4, 167, 0, 4, 3, 182, 0, 183, 42]
abbrev dktX1_handed_0 : List UInt8 := dkwX1_handed_0 ++ dktX1_handed_1
theorem dksX1_handed_0 : cX1_handed.data.toList.drop 0 = dktX1_handed_0 := by decide +kernel
theorem dksX1_handed_1 : cX1_handed.data.toList.drop 24 = dktX1_handed_1 := dk_seg dksX1_handed_0 24 rfl rfl
theorem dX1_handed_0 : decode cX1_handed 0 = .ok (.aload_n 0, 1) := dk_42 (dk_at dksX1_handed_0 0 rfl rfl)
theorem dX1_handed_1 : decode cX1_handed 1 = .ok (.iload_n 1, 1) := dk_27 (dk_at dksX1_handed_0 1 rfl rfl)
theorem dX1_handed_2 : decode cX1_handed 2 = .ok (.invokestatic 312, 3) := dk_184 1 56 (dk_at dksX1_handed_0 2 rfl rfl)
theorem dX1_handed_5 : decode cX1_handed 5 = .ok (.ifCond .eq 14, 3) := dk_153 0 14 (dk_at dksX1_handed_0 5 rfl rfl)
theorem dX1_handed_8 : decode cX1_handed 8 = .ok (.iload_n 2, 1) := dk_28 (dk_at dksX1_handed_0 8 rfl rfl)
theorem dX1_handed_9 : decode cX1_handed 9 = .ok (.invokestatic 312, 3) := dk_184 1 56 (dk_at dksX1_handed_0 9 rfl rfl)
theorem dX1_handed_12 : decode cX1_handed 12 = .ok (.ifCond .eq 7, 3) := dk_153 0 7 (dk_at dksX1_handed_0 12 rfl rfl)
theorem dX1_handed_15 : decode cX1_handed 15 = .ok (.iconst 1, 1) := dk_4 (dk_at dksX1_handed_0 15 rfl rfl)
theorem dX1_handed_16 : decode cX1_handed 16 = .ok (.goto 4, 3) := dk_167 0 4 (dk_at dksX1_handed_0 16 rfl rfl)
theorem dX1_handed_19 : decode cX1_handed 19 = .ok (.iconst 0, 1) := dk_3 (dk_at dksX1_handed_0 19 rfl rfl)
theorem dX1_handed_20 : decode cX1_handed 20 = .ok (.invokevirtual 183, 3) := dk_182 0 183 (dk_at dksX1_handed_0 20 rfl rfl)
theorem dX1_handed_23 : decode cX1_handed 23 = .ok (.aload_n 0, 1) := dk_42 (dk_at dksX1_handed_0 23 rfl rfl)
theorem dX1_handed_24 : decode cX1_handed 24 = .ok (.iload_n 1, 1) := dk_27 (dk_at dksX1_handed_1 0 rfl rfl)
theorem dX1_handed_25 : decode cX1_handed 25 = .ok (.iload_n 2, 1) := dk_28 (dk_at dksX1_handed_1 1 rfl rfl)
theorem dX1_handed_26 : decode cX1_handed 26 = .ok (.invokevirtual 358, 3) := dk_182 1 102 (dk_at dksX1_handed_1 2 rfl rfl)
theorem dX1_handed_29 : decode cX1_handed 29 = .ok (.ireturn, 1) := dk_172 (dk_at dksX1_handed_1 5 rfl rfl)
abbrev cX1_benched : ByteArray := prog_1_method_57_code
def yX1_benched : MethodName := ⟨RX1, "benched", "(I)I"⟩
def dkwX1_benched_5 : List UInt8 := [54, 4, 21, 6, 62, 132, 5, 1, 167, 255, 193, 29, 172]
abbrev dktX1_benched_5 : List UInt8 := dkwX1_benched_5 ++ []
def dkwX1_benched_4 : List UInt8 := [132, 6, 1, 167, 255, 230, 28, 42, 29, 21, 6, 182, 1, 105, 100, 61, 21, 4, 4, 21, 6, 120, 128]
abbrev dktX1_benched_4 : List UInt8 := dkwX1_benched_4 ++ dktX1_benched_5
def dkwX1_benched_3 : List UInt8 := [21, 4, 21, 6, 184, 1, 86, 154, 0, 16, 42, 29, 21, 6, 21, 4, 182, 1, 108, 28, 159, 0, 9]
abbrev dktX1_benched_3 : List UInt8 := dkwX1_benched_3 ++ dktX1_benched_4
def dkwX1_benched_2 : List UInt8 := [132, 3, 1, 167, 255, 236, 4, 29, 120, 54, 4, 3, 54, 5, 21, 5, 27, 162, 0, 63, 3, 54, 6]
abbrev dktX1_benched_2 : List UInt8 := dkwX1_benched_2 ++ dktX1_benched_3
def dkwX1_benched_1 : List UInt8 := [182, 1, 112, 61, 3, 62, 42, 180, 0, 75, 29, 16, 7, 120, 4, 29, 120, 128, 46, 28, 159, 0, 9]
abbrev dktX1_benched_1 : List UInt8 := dkwX1_benched_1 ++ dktX1_benched_2
def dkwX1_benched_0 : List UInt8 := [42, 27, 155, 0, 7, 4, 167, 0, 4, 3, 182, 0, 183, 27, 42, 182, 0, 157, 161, 0, 5, 2, 172, 42]
abbrev dktX1_benched_0 : List UInt8 := dkwX1_benched_0 ++ dktX1_benched_1
theorem dksX1_benched_0 : cX1_benched.data.toList.drop 0 = dktX1_benched_0 := by decide +kernel
theorem dksX1_benched_1 : cX1_benched.data.toList.drop 24 = dktX1_benched_1 := dk_seg dksX1_benched_0 24 rfl rfl
theorem dksX1_benched_2 : cX1_benched.data.toList.drop 47 = dktX1_benched_2 := dk_seg dksX1_benched_1 23 rfl rfl
theorem dksX1_benched_3 : cX1_benched.data.toList.drop 70 = dktX1_benched_3 := dk_seg dksX1_benched_2 23 rfl rfl
theorem dksX1_benched_4 : cX1_benched.data.toList.drop 93 = dktX1_benched_4 := dk_seg dksX1_benched_3 23 rfl rfl
theorem dksX1_benched_5 : cX1_benched.data.toList.drop 116 = dktX1_benched_5 := dk_seg dksX1_benched_4 23 rfl rfl
theorem dX1_benched_0 : decode cX1_benched 0 = .ok (.aload_n 0, 1) := dk_42 (dk_at dksX1_benched_0 0 rfl rfl)
theorem dX1_benched_1 : decode cX1_benched 1 = .ok (.iload_n 1, 1) := dk_27 (dk_at dksX1_benched_0 1 rfl rfl)
theorem dX1_benched_2 : decode cX1_benched 2 = .ok (.ifCond .lt 7, 3) := dk_155 0 7 (dk_at dksX1_benched_0 2 rfl rfl)
theorem dX1_benched_5 : decode cX1_benched 5 = .ok (.iconst 1, 1) := dk_4 (dk_at dksX1_benched_0 5 rfl rfl)
theorem dX1_benched_6 : decode cX1_benched 6 = .ok (.goto 4, 3) := dk_167 0 4 (dk_at dksX1_benched_0 6 rfl rfl)
theorem dX1_benched_9 : decode cX1_benched 9 = .ok (.iconst 0, 1) := dk_3 (dk_at dksX1_benched_0 9 rfl rfl)
theorem dX1_benched_10 : decode cX1_benched 10 = .ok (.invokevirtual 183, 3) := dk_182 0 183 (dk_at dksX1_benched_0 10 rfl rfl)
theorem dX1_benched_13 : decode cX1_benched 13 = .ok (.iload_n 1, 1) := dk_27 (dk_at dksX1_benched_0 13 rfl rfl)
theorem dX1_benched_14 : decode cX1_benched 14 = .ok (.aload_n 0, 1) := dk_42 (dk_at dksX1_benched_0 14 rfl rfl)
theorem dX1_benched_15 : decode cX1_benched 15 = .ok (.invokevirtual 157, 3) := dk_182 0 157 (dk_at dksX1_benched_0 15 rfl rfl)
theorem dX1_benched_18 : decode cX1_benched 18 = .ok (.if_icmp .lt 5, 3) := dk_161 0 5 (dk_at dksX1_benched_0 18 rfl rfl)
theorem dX1_benched_21 : decode cX1_benched 21 = .ok (.iconst (-1), 1) := dk_2 (dk_at dksX1_benched_0 21 rfl rfl)
theorem dX1_benched_22 : decode cX1_benched 22 = .ok (.ireturn, 1) := dk_172 (dk_at dksX1_benched_0 22 rfl rfl)
theorem dX1_benched_23 : decode cX1_benched 23 = .ok (.aload_n 0, 1) := dk_42 (dk_at dksX1_benched_0 23 rfl rfl)
theorem dX1_benched_24 : decode cX1_benched 24 = .ok (.invokevirtual 368, 3) := dk_182 1 112 (dk_at dksX1_benched_1 0 rfl rfl)
theorem dX1_benched_27 : decode cX1_benched 27 = .ok (.istore_n 2, 1) := dk_61 (dk_at dksX1_benched_1 3 rfl rfl)
theorem dX1_benched_28 : decode cX1_benched 28 = .ok (.iconst 0, 1) := dk_3 (dk_at dksX1_benched_1 4 rfl rfl)
theorem dX1_benched_29 : decode cX1_benched 29 = .ok (.istore_n 3, 1) := dk_62 (dk_at dksX1_benched_1 5 rfl rfl)
theorem dX1_benched_30 : decode cX1_benched 30 = .ok (.aload_n 0, 1) := dk_42 (dk_at dksX1_benched_1 6 rfl rfl)
theorem dX1_benched_31 : decode cX1_benched 31 = .ok (.getfield 75, 3) := dk_180 0 75 (dk_at dksX1_benched_1 7 rfl rfl)
theorem dX1_benched_34 : decode cX1_benched 34 = .ok (.iload_n 3, 1) := dk_29 (dk_at dksX1_benched_1 10 rfl rfl)
theorem dX1_benched_35 : decode cX1_benched 35 = .ok (.bipush 7, 2) := dk_16 7 (dk_at dksX1_benched_1 11 rfl rfl)
theorem dX1_benched_37 : decode cX1_benched 37 = .ok (.ishl, 1) := dk_120 (dk_at dksX1_benched_1 13 rfl rfl)
theorem dX1_benched_38 : decode cX1_benched 38 = .ok (.iconst 1, 1) := dk_4 (dk_at dksX1_benched_1 14 rfl rfl)
theorem dX1_benched_39 : decode cX1_benched 39 = .ok (.iload_n 3, 1) := dk_29 (dk_at dksX1_benched_1 15 rfl rfl)
theorem dX1_benched_40 : decode cX1_benched 40 = .ok (.ishl, 1) := dk_120 (dk_at dksX1_benched_1 16 rfl rfl)
theorem dX1_benched_41 : decode cX1_benched 41 = .ok (.ior, 1) := dk_128 (dk_at dksX1_benched_1 17 rfl rfl)
theorem dX1_benched_42 : decode cX1_benched 42 = .ok (.iaload, 1) := dk_46 (dk_at dksX1_benched_1 18 rfl rfl)
theorem dX1_benched_43 : decode cX1_benched 43 = .ok (.iload_n 2, 1) := dk_28 (dk_at dksX1_benched_1 19 rfl rfl)
theorem dX1_benched_44 : decode cX1_benched 44 = .ok (.if_icmp .eq 9, 3) := dk_159 0 9 (dk_at dksX1_benched_1 20 rfl rfl)
theorem dX1_benched_47 : decode cX1_benched 47 = .ok (.iinc 3 1, 3) := dk_132 3 1 (dk_at dksX1_benched_2 0 rfl rfl)
theorem dX1_benched_50 : decode cX1_benched 50 = .ok (.goto (-20), 3) := dk_167 255 236 (dk_at dksX1_benched_2 3 rfl rfl)
theorem dX1_benched_53 : decode cX1_benched 53 = .ok (.iconst 1, 1) := dk_4 (dk_at dksX1_benched_2 6 rfl rfl)
theorem dX1_benched_54 : decode cX1_benched 54 = .ok (.iload_n 3, 1) := dk_29 (dk_at dksX1_benched_2 7 rfl rfl)
theorem dX1_benched_55 : decode cX1_benched 55 = .ok (.ishl, 1) := dk_120 (dk_at dksX1_benched_2 8 rfl rfl)
theorem dX1_benched_56 : decode cX1_benched 56 = .ok (.istore 4, 2) := dk_54 4 (dk_at dksX1_benched_2 9 rfl rfl)
theorem dX1_benched_58 : decode cX1_benched 58 = .ok (.iconst 0, 1) := dk_3 (dk_at dksX1_benched_2 11 rfl rfl)
theorem dX1_benched_59 : decode cX1_benched 59 = .ok (.istore 5, 2) := dk_54 5 (dk_at dksX1_benched_2 12 rfl rfl)
theorem dX1_benched_61 : decode cX1_benched 61 = .ok (.iload 5, 2) := dk_21 5 (dk_at dksX1_benched_2 14 rfl rfl)
theorem dX1_benched_63 : decode cX1_benched 63 = .ok (.iload_n 1, 1) := dk_27 (dk_at dksX1_benched_2 16 rfl rfl)
theorem dX1_benched_64 : decode cX1_benched 64 = .ok (.if_icmp .ge 63, 3) := dk_162 0 63 (dk_at dksX1_benched_2 17 rfl rfl)
theorem dX1_benched_67 : decode cX1_benched 67 = .ok (.iconst 0, 1) := dk_3 (dk_at dksX1_benched_2 20 rfl rfl)
theorem dX1_benched_68 : decode cX1_benched 68 = .ok (.istore 6, 2) := dk_54 6 (dk_at dksX1_benched_2 21 rfl rfl)
theorem dX1_benched_70 : decode cX1_benched 70 = .ok (.iload 4, 2) := dk_21 4 (dk_at dksX1_benched_3 0 rfl rfl)
theorem dX1_benched_72 : decode cX1_benched 72 = .ok (.iload 6, 2) := dk_21 6 (dk_at dksX1_benched_3 2 rfl rfl)
theorem dX1_benched_74 : decode cX1_benched 74 = .ok (.invokestatic 342, 3) := dk_184 1 86 (dk_at dksX1_benched_3 4 rfl rfl)
theorem dX1_benched_77 : decode cX1_benched 77 = .ok (.ifCond .ne 16, 3) := dk_154 0 16 (dk_at dksX1_benched_3 7 rfl rfl)
theorem dX1_benched_80 : decode cX1_benched 80 = .ok (.aload_n 0, 1) := dk_42 (dk_at dksX1_benched_3 10 rfl rfl)
theorem dX1_benched_81 : decode cX1_benched 81 = .ok (.iload_n 3, 1) := dk_29 (dk_at dksX1_benched_3 11 rfl rfl)
theorem dX1_benched_82 : decode cX1_benched 82 = .ok (.iload 6, 2) := dk_21 6 (dk_at dksX1_benched_3 12 rfl rfl)
theorem dX1_benched_84 : decode cX1_benched 84 = .ok (.iload 4, 2) := dk_21 4 (dk_at dksX1_benched_3 14 rfl rfl)
theorem dX1_benched_86 : decode cX1_benched 86 = .ok (.invokevirtual 364, 3) := dk_182 1 108 (dk_at dksX1_benched_3 16 rfl rfl)
theorem dX1_benched_89 : decode cX1_benched 89 = .ok (.iload_n 2, 1) := dk_28 (dk_at dksX1_benched_3 19 rfl rfl)
theorem dX1_benched_90 : decode cX1_benched 90 = .ok (.if_icmp .eq 9, 3) := dk_159 0 9 (dk_at dksX1_benched_3 20 rfl rfl)
theorem dX1_benched_93 : decode cX1_benched 93 = .ok (.iinc 6 1, 3) := dk_132 6 1 (dk_at dksX1_benched_4 0 rfl rfl)
theorem dX1_benched_96 : decode cX1_benched 96 = .ok (.goto (-26), 3) := dk_167 255 230 (dk_at dksX1_benched_4 3 rfl rfl)
theorem dX1_benched_99 : decode cX1_benched 99 = .ok (.iload_n 2, 1) := dk_28 (dk_at dksX1_benched_4 6 rfl rfl)
theorem dX1_benched_100 : decode cX1_benched 100 = .ok (.aload_n 0, 1) := dk_42 (dk_at dksX1_benched_4 7 rfl rfl)
theorem dX1_benched_101 : decode cX1_benched 101 = .ok (.iload_n 3, 1) := dk_29 (dk_at dksX1_benched_4 8 rfl rfl)
theorem dX1_benched_102 : decode cX1_benched 102 = .ok (.iload 6, 2) := dk_21 6 (dk_at dksX1_benched_4 9 rfl rfl)
theorem dX1_benched_104 : decode cX1_benched 104 = .ok (.invokevirtual 361, 3) := dk_182 1 105 (dk_at dksX1_benched_4 11 rfl rfl)
theorem dX1_benched_107 : decode cX1_benched 107 = .ok (.isub, 1) := dk_100 (dk_at dksX1_benched_4 14 rfl rfl)
theorem dX1_benched_108 : decode cX1_benched 108 = .ok (.istore_n 2, 1) := dk_61 (dk_at dksX1_benched_4 15 rfl rfl)
theorem dX1_benched_109 : decode cX1_benched 109 = .ok (.iload 4, 2) := dk_21 4 (dk_at dksX1_benched_4 16 rfl rfl)
theorem dX1_benched_111 : decode cX1_benched 111 = .ok (.iconst 1, 1) := dk_4 (dk_at dksX1_benched_4 18 rfl rfl)
theorem dX1_benched_112 : decode cX1_benched 112 = .ok (.iload 6, 2) := dk_21 6 (dk_at dksX1_benched_4 19 rfl rfl)
theorem dX1_benched_114 : decode cX1_benched 114 = .ok (.ishl, 1) := dk_120 (dk_at dksX1_benched_4 21 rfl rfl)
theorem dX1_benched_115 : decode cX1_benched 115 = .ok (.ior, 1) := dk_128 (dk_at dksX1_benched_4 22 rfl rfl)
theorem dX1_benched_116 : decode cX1_benched 116 = .ok (.istore 4, 2) := dk_54 4 (dk_at dksX1_benched_5 0 rfl rfl)
theorem dX1_benched_118 : decode cX1_benched 118 = .ok (.iload 6, 2) := dk_21 6 (dk_at dksX1_benched_5 2 rfl rfl)
theorem dX1_benched_120 : decode cX1_benched 120 = .ok (.istore_n 3, 1) := dk_62 (dk_at dksX1_benched_5 4 rfl rfl)
theorem dX1_benched_121 : decode cX1_benched 121 = .ok (.iinc 5 1, 3) := dk_132 5 1 (dk_at dksX1_benched_5 5 rfl rfl)
theorem dX1_benched_124 : decode cX1_benched 124 = .ok (.goto (-63), 3) := dk_167 255 193 (dk_at dksX1_benched_5 8 rfl rfl)
theorem dX1_benched_127 : decode cX1_benched 127 = .ok (.iload_n 3, 1) := dk_29 (dk_at dksX1_benched_5 11 rfl rfl)
theorem dX1_benched_128 : decode cX1_benched 128 = .ok (.ireturn, 1) := dk_172 (dk_at dksX1_benched_5 12 rfl rfl)
abbrev cX1_wordings : ByteArray := prog_1_method_60_code
def yX1_wordings : MethodName := ⟨RX1, "wordings", "(I)J"⟩
def dkwX1_wordings_0 : List UInt8 := [42, 27, 3, 16, 63, 184, 0, 165, 182, 0, 183, 42, 27, 182, 1, 115, 173]
abbrev dktX1_wordings_0 : List UInt8 := dkwX1_wordings_0 ++ []
theorem dksX1_wordings_0 : cX1_wordings.data.toList.drop 0 = dktX1_wordings_0 := by decide +kernel
theorem dX1_wordings_0 : decode cX1_wordings 0 = .ok (.aload_n 0, 1) := dk_42 (dk_at dksX1_wordings_0 0 rfl rfl)
theorem dX1_wordings_1 : decode cX1_wordings 1 = .ok (.iload_n 1, 1) := dk_27 (dk_at dksX1_wordings_0 1 rfl rfl)
theorem dX1_wordings_2 : decode cX1_wordings 2 = .ok (.iconst 0, 1) := dk_3 (dk_at dksX1_wordings_0 2 rfl rfl)
theorem dX1_wordings_3 : decode cX1_wordings 3 = .ok (.bipush 63, 2) := dk_16 63 (dk_at dksX1_wordings_0 3 rfl rfl)
theorem dX1_wordings_5 : decode cX1_wordings 5 = .ok (.invokestatic 165, 3) := dk_184 0 165 (dk_at dksX1_wordings_0 5 rfl rfl)
theorem dX1_wordings_8 : decode cX1_wordings 8 = .ok (.invokevirtual 183, 3) := dk_182 0 183 (dk_at dksX1_wordings_0 8 rfl rfl)
theorem dX1_wordings_11 : decode cX1_wordings 11 = .ok (.aload_n 0, 1) := dk_42 (dk_at dksX1_wordings_0 11 rfl rfl)
theorem dX1_wordings_12 : decode cX1_wordings 12 = .ok (.iload_n 1, 1) := dk_27 (dk_at dksX1_wordings_0 12 rfl rfl)
theorem dX1_wordings_13 : decode cX1_wordings 13 = .ok (.invokevirtual 371, 3) := dk_182 1 115 (dk_at dksX1_wordings_0 13 rfl rfl)
theorem dX1_wordings_16 : decode cX1_wordings 16 = .ok (.lreturn, 1) := dk_173 (dk_at dksX1_wordings_0 16 rfl rfl)
abbrev cX1_who : ByteArray := prog_1_method_63_code
def yX1_who : MethodName := ⟨RX1, "who", "(I)I"⟩
def dkwX1_who_3 : List UInt8 := [27, 154, 0, 7, 28, 167, 0, 4, 29, 172]
abbrev dktX1_who_3 : List UInt8 := dkwX1_who_3 ++ []
def dkwX1_who_2 : List UInt8 := [159, 0, 15, 21, 4, 184, 1, 78, 29, 184, 1, 78, 162, 0, 6, 21, 4, 62, 132, 4, 1, 167, 255, 207]
abbrev dktX1_who_2 : List UInt8 := dkwX1_who_2 ++ dktX1_who_3
def dkwX1_who_1 : List UInt8 := [182, 0, 157, 120, 162, 0, 44, 42, 21, 4, 182, 1, 122, 154, 0, 6, 167, 0, 26, 132, 2, 1, 29, 2]
abbrev dktX1_who_1 : List UInt8 := dkwX1_who_1 ++ dktX1_who_2
def dkwX1_who_0 : List UInt8 := [42, 27, 184, 1, 49, 182, 0, 183, 42, 182, 1, 119, 3, 61, 2, 62, 3, 54, 4, 21, 4, 4, 42]
abbrev dktX1_who_0 : List UInt8 := dkwX1_who_0 ++ dktX1_who_1
theorem dksX1_who_0 : cX1_who.data.toList.drop 0 = dktX1_who_0 := by decide +kernel
theorem dksX1_who_1 : cX1_who.data.toList.drop 23 = dktX1_who_1 := dk_seg dksX1_who_0 23 rfl rfl
theorem dksX1_who_2 : cX1_who.data.toList.drop 47 = dktX1_who_2 := dk_seg dksX1_who_1 24 rfl rfl
theorem dksX1_who_3 : cX1_who.data.toList.drop 71 = dktX1_who_3 := dk_seg dksX1_who_2 24 rfl rfl
theorem dX1_who_0 : decode cX1_who 0 = .ok (.aload_n 0, 1) := dk_42 (dk_at dksX1_who_0 0 rfl rfl)
theorem dX1_who_1 : decode cX1_who 1 = .ok (.iload_n 1, 1) := dk_27 (dk_at dksX1_who_0 1 rfl rfl)
theorem dX1_who_2 : decode cX1_who 2 = .ok (.invokestatic 305, 3) := dk_184 1 49 (dk_at dksX1_who_0 2 rfl rfl)
theorem dX1_who_5 : decode cX1_who 5 = .ok (.invokevirtual 183, 3) := dk_182 0 183 (dk_at dksX1_who_0 5 rfl rfl)
theorem dX1_who_8 : decode cX1_who 8 = .ok (.aload_n 0, 1) := dk_42 (dk_at dksX1_who_0 8 rfl rfl)
theorem dX1_who_9 : decode cX1_who 9 = .ok (.invokevirtual 375, 3) := dk_182 1 119 (dk_at dksX1_who_0 9 rfl rfl)
theorem dX1_who_12 : decode cX1_who 12 = .ok (.iconst 0, 1) := dk_3 (dk_at dksX1_who_0 12 rfl rfl)
theorem dX1_who_13 : decode cX1_who 13 = .ok (.istore_n 2, 1) := dk_61 (dk_at dksX1_who_0 13 rfl rfl)
theorem dX1_who_14 : decode cX1_who 14 = .ok (.iconst (-1), 1) := dk_2 (dk_at dksX1_who_0 14 rfl rfl)
theorem dX1_who_15 : decode cX1_who 15 = .ok (.istore_n 3, 1) := dk_62 (dk_at dksX1_who_0 15 rfl rfl)
theorem dX1_who_16 : decode cX1_who 16 = .ok (.iconst 0, 1) := dk_3 (dk_at dksX1_who_0 16 rfl rfl)
theorem dX1_who_17 : decode cX1_who 17 = .ok (.istore 4, 2) := dk_54 4 (dk_at dksX1_who_0 17 rfl rfl)
theorem dX1_who_19 : decode cX1_who 19 = .ok (.iload 4, 2) := dk_21 4 (dk_at dksX1_who_0 19 rfl rfl)
theorem dX1_who_21 : decode cX1_who 21 = .ok (.iconst 1, 1) := dk_4 (dk_at dksX1_who_0 21 rfl rfl)
theorem dX1_who_22 : decode cX1_who 22 = .ok (.aload_n 0, 1) := dk_42 (dk_at dksX1_who_0 22 rfl rfl)
theorem dX1_who_23 : decode cX1_who 23 = .ok (.invokevirtual 157, 3) := dk_182 0 157 (dk_at dksX1_who_1 0 rfl rfl)
theorem dX1_who_26 : decode cX1_who 26 = .ok (.ishl, 1) := dk_120 (dk_at dksX1_who_1 3 rfl rfl)
theorem dX1_who_27 : decode cX1_who 27 = .ok (.if_icmp .ge 44, 3) := dk_162 0 44 (dk_at dksX1_who_1 4 rfl rfl)
theorem dX1_who_30 : decode cX1_who 30 = .ok (.aload_n 0, 1) := dk_42 (dk_at dksX1_who_1 7 rfl rfl)
theorem dX1_who_31 : decode cX1_who 31 = .ok (.iload 4, 2) := dk_21 4 (dk_at dksX1_who_1 8 rfl rfl)
theorem dX1_who_33 : decode cX1_who 33 = .ok (.invokevirtual 378, 3) := dk_182 1 122 (dk_at dksX1_who_1 10 rfl rfl)
theorem dX1_who_36 : decode cX1_who 36 = .ok (.ifCond .ne 6, 3) := dk_154 0 6 (dk_at dksX1_who_1 13 rfl rfl)
theorem dX1_who_39 : decode cX1_who 39 = .ok (.goto 26, 3) := dk_167 0 26 (dk_at dksX1_who_1 16 rfl rfl)
theorem dX1_who_42 : decode cX1_who 42 = .ok (.iinc 2 1, 3) := dk_132 2 1 (dk_at dksX1_who_1 19 rfl rfl)
theorem dX1_who_45 : decode cX1_who 45 = .ok (.iload_n 3, 1) := dk_29 (dk_at dksX1_who_1 22 rfl rfl)
theorem dX1_who_46 : decode cX1_who 46 = .ok (.iconst (-1), 1) := dk_2 (dk_at dksX1_who_1 23 rfl rfl)
theorem dX1_who_47 : decode cX1_who 47 = .ok (.if_icmp .eq 15, 3) := dk_159 0 15 (dk_at dksX1_who_2 0 rfl rfl)
theorem dX1_who_50 : decode cX1_who 50 = .ok (.iload 4, 2) := dk_21 4 (dk_at dksX1_who_2 3 rfl rfl)
theorem dX1_who_52 : decode cX1_who 52 = .ok (.invokestatic 334, 3) := dk_184 1 78 (dk_at dksX1_who_2 5 rfl rfl)
theorem dX1_who_55 : decode cX1_who 55 = .ok (.iload_n 3, 1) := dk_29 (dk_at dksX1_who_2 8 rfl rfl)
theorem dX1_who_56 : decode cX1_who 56 = .ok (.invokestatic 334, 3) := dk_184 1 78 (dk_at dksX1_who_2 9 rfl rfl)
theorem dX1_who_59 : decode cX1_who 59 = .ok (.if_icmp .ge 6, 3) := dk_162 0 6 (dk_at dksX1_who_2 12 rfl rfl)
theorem dX1_who_62 : decode cX1_who 62 = .ok (.iload 4, 2) := dk_21 4 (dk_at dksX1_who_2 15 rfl rfl)
theorem dX1_who_64 : decode cX1_who 64 = .ok (.istore_n 3, 1) := dk_62 (dk_at dksX1_who_2 17 rfl rfl)
theorem dX1_who_65 : decode cX1_who 65 = .ok (.iinc 4 1, 3) := dk_132 4 1 (dk_at dksX1_who_2 18 rfl rfl)
theorem dX1_who_68 : decode cX1_who 68 = .ok (.goto (-49), 3) := dk_167 255 207 (dk_at dksX1_who_2 21 rfl rfl)
theorem dX1_who_71 : decode cX1_who 71 = .ok (.iload_n 1, 1) := dk_27 (dk_at dksX1_who_3 0 rfl rfl)
theorem dX1_who_72 : decode cX1_who 72 = .ok (.ifCond .ne 7, 3) := dk_154 0 7 (dk_at dksX1_who_3 1 rfl rfl)
theorem dX1_who_75 : decode cX1_who 75 = .ok (.iload_n 2, 1) := dk_28 (dk_at dksX1_who_3 4 rfl rfl)
theorem dX1_who_76 : decode cX1_who 76 = .ok (.goto 4, 3) := dk_167 0 4 (dk_at dksX1_who_3 5 rfl rfl)
theorem dX1_who_79 : decode cX1_who 79 = .ok (.iload_n 3, 1) := dk_29 (dk_at dksX1_who_3 8 rfl rfl)
theorem dX1_who_80 : decode cX1_who 80 = .ok (.ireturn, 1) := dk_172 (dk_at dksX1_who_3 9 rfl rfl)
abbrev cX1_layHeard : ByteArray := prog_1_method_61_code
def yX1_layHeard : MethodName := ⟨RX1, "layHeard", "()V"⟩
def dkwX1_layHeard_1 : List UInt8 := [44, 27, 181, 0, 255, 42, 180, 0, 78, 27, 44, 182, 1, 69, 79, 132, 1, 1, 167, 255, 216, 177]
abbrev dktX1_layHeard_1 : List UInt8 := dkwX1_layHeard_1 ++ []
def dkwX1_layHeard_0 : List UInt8 := [3, 60, 27, 4, 42, 182, 0, 157, 120, 162, 0, 36, 42, 180, 0, 48, 42, 180, 0, 44, 182, 0, 248, 77]
abbrev dktX1_layHeard_0 : List UInt8 := dkwX1_layHeard_0 ++ dktX1_layHeard_1
theorem dksX1_layHeard_0 : cX1_layHeard.data.toList.drop 0 = dktX1_layHeard_0 := by decide +kernel
theorem dksX1_layHeard_1 : cX1_layHeard.data.toList.drop 24 = dktX1_layHeard_1 := dk_seg dksX1_layHeard_0 24 rfl rfl
theorem dX1_layHeard_0 : decode cX1_layHeard 0 = .ok (.iconst 0, 1) := dk_3 (dk_at dksX1_layHeard_0 0 rfl rfl)
theorem dX1_layHeard_1 : decode cX1_layHeard 1 = .ok (.istore_n 1, 1) := dk_60 (dk_at dksX1_layHeard_0 1 rfl rfl)
theorem dX1_layHeard_2 : decode cX1_layHeard 2 = .ok (.iload_n 1, 1) := dk_27 (dk_at dksX1_layHeard_0 2 rfl rfl)
theorem dX1_layHeard_3 : decode cX1_layHeard 3 = .ok (.iconst 1, 1) := dk_4 (dk_at dksX1_layHeard_0 3 rfl rfl)
theorem dX1_layHeard_4 : decode cX1_layHeard 4 = .ok (.aload_n 0, 1) := dk_42 (dk_at dksX1_layHeard_0 4 rfl rfl)
theorem dX1_layHeard_5 : decode cX1_layHeard 5 = .ok (.invokevirtual 157, 3) := dk_182 0 157 (dk_at dksX1_layHeard_0 5 rfl rfl)
theorem dX1_layHeard_8 : decode cX1_layHeard 8 = .ok (.ishl, 1) := dk_120 (dk_at dksX1_layHeard_0 8 rfl rfl)
theorem dX1_layHeard_9 : decode cX1_layHeard 9 = .ok (.if_icmp .ge 36, 3) := dk_162 0 36 (dk_at dksX1_layHeard_0 9 rfl rfl)
theorem dX1_layHeard_12 : decode cX1_layHeard 12 = .ok (.aload_n 0, 1) := dk_42 (dk_at dksX1_layHeard_0 12 rfl rfl)
theorem dX1_layHeard_13 : decode cX1_layHeard 13 = .ok (.getfield 48, 3) := dk_180 0 48 (dk_at dksX1_layHeard_0 13 rfl rfl)
theorem dX1_layHeard_16 : decode cX1_layHeard 16 = .ok (.aload_n 0, 1) := dk_42 (dk_at dksX1_layHeard_0 16 rfl rfl)
theorem dX1_layHeard_17 : decode cX1_layHeard 17 = .ok (.getfield 44, 3) := dk_180 0 44 (dk_at dksX1_layHeard_0 17 rfl rfl)
theorem dX1_layHeard_20 : decode cX1_layHeard 20 = .ok (.invokevirtual 248, 3) := dk_182 0 248 (dk_at dksX1_layHeard_0 20 rfl rfl)
theorem dX1_layHeard_23 : decode cX1_layHeard 23 = .ok (.astore_n 2, 1) := dk_77 (dk_at dksX1_layHeard_0 23 rfl rfl)
theorem dX1_layHeard_24 : decode cX1_layHeard 24 = .ok (.aload_n 2, 1) := dk_44 (dk_at dksX1_layHeard_1 0 rfl rfl)
theorem dX1_layHeard_25 : decode cX1_layHeard 25 = .ok (.iload_n 1, 1) := dk_27 (dk_at dksX1_layHeard_1 1 rfl rfl)
theorem dX1_layHeard_26 : decode cX1_layHeard 26 = .ok (.putfield 255, 3) := dk_181 0 255 (dk_at dksX1_layHeard_1 2 rfl rfl)
theorem dX1_layHeard_29 : decode cX1_layHeard 29 = .ok (.aload_n 0, 1) := dk_42 (dk_at dksX1_layHeard_1 5 rfl rfl)
theorem dX1_layHeard_30 : decode cX1_layHeard 30 = .ok (.getfield 78, 3) := dk_180 0 78 (dk_at dksX1_layHeard_1 6 rfl rfl)
theorem dX1_layHeard_33 : decode cX1_layHeard 33 = .ok (.iload_n 1, 1) := dk_27 (dk_at dksX1_layHeard_1 9 rfl rfl)
theorem dX1_layHeard_34 : decode cX1_layHeard 34 = .ok (.aload_n 2, 1) := dk_44 (dk_at dksX1_layHeard_1 10 rfl rfl)
theorem dX1_layHeard_35 : decode cX1_layHeard 35 = .ok (.invokevirtual 325, 3) := dk_182 1 69 (dk_at dksX1_layHeard_1 11 rfl rfl)
theorem dX1_layHeard_38 : decode cX1_layHeard 38 = .ok (.iastore, 1) := dk_79 (dk_at dksX1_layHeard_1 14 rfl rfl)
theorem dX1_layHeard_39 : decode cX1_layHeard 39 = .ok (.iinc 1 1, 3) := dk_132 1 1 (dk_at dksX1_layHeard_1 15 rfl rfl)
theorem dX1_layHeard_42 : decode cX1_layHeard 42 = .ok (.goto (-40), 3) := dk_167 255 216 (dk_at dksX1_layHeard_1 18 rfl rfl)
theorem dX1_layHeard_45 : decode cX1_layHeard 45 = .ok (.return_, 1) := dk_177 (dk_at dksX1_layHeard_1 21 rfl rfl)
abbrev cX1_isWho : ByteArray := prog_1_method_62_code
def yX1_isWho : MethodName := ⟨RX1, "isWho", "(I)Z"⟩
def dkwX1_isWho_2 : List UInt8 := [172]
abbrev dktX1_isWho_2 : List UInt8 := dkwX1_isWho_2 ++ []
def dkwX1_isWho_1 : List UInt8 := [27, 46, 28, 122, 4, 126, 42, 180, 0, 33, 28, 46, 159, 0, 5, 3, 172, 132, 2, 1, 167, 255, 214, 4]
abbrev dktX1_isWho_1 : List UInt8 := dkwX1_isWho_1 ++ dktX1_isWho_2
def dkwX1_isWho_0 : List UInt8 := [3, 61, 28, 42, 182, 0, 163, 162, 0, 40, 42, 180, 0, 33, 28, 46, 2, 159, 0, 24, 42, 180, 0, 78]
abbrev dktX1_isWho_0 : List UInt8 := dkwX1_isWho_0 ++ dktX1_isWho_1
theorem dksX1_isWho_0 : cX1_isWho.data.toList.drop 0 = dktX1_isWho_0 := by decide +kernel
theorem dksX1_isWho_1 : cX1_isWho.data.toList.drop 24 = dktX1_isWho_1 := dk_seg dksX1_isWho_0 24 rfl rfl
theorem dksX1_isWho_2 : cX1_isWho.data.toList.drop 48 = dktX1_isWho_2 := dk_seg dksX1_isWho_1 24 rfl rfl
theorem dX1_isWho_0 : decode cX1_isWho 0 = .ok (.iconst 0, 1) := dk_3 (dk_at dksX1_isWho_0 0 rfl rfl)
theorem dX1_isWho_1 : decode cX1_isWho 1 = .ok (.istore_n 2, 1) := dk_61 (dk_at dksX1_isWho_0 1 rfl rfl)
theorem dX1_isWho_2 : decode cX1_isWho 2 = .ok (.iload_n 2, 1) := dk_28 (dk_at dksX1_isWho_0 2 rfl rfl)
theorem dX1_isWho_3 : decode cX1_isWho 3 = .ok (.aload_n 0, 1) := dk_42 (dk_at dksX1_isWho_0 3 rfl rfl)
theorem dX1_isWho_4 : decode cX1_isWho 4 = .ok (.invokevirtual 163, 3) := dk_182 0 163 (dk_at dksX1_isWho_0 4 rfl rfl)
theorem dX1_isWho_7 : decode cX1_isWho 7 = .ok (.if_icmp .ge 40, 3) := dk_162 0 40 (dk_at dksX1_isWho_0 7 rfl rfl)
theorem dX1_isWho_10 : decode cX1_isWho 10 = .ok (.aload_n 0, 1) := dk_42 (dk_at dksX1_isWho_0 10 rfl rfl)
theorem dX1_isWho_11 : decode cX1_isWho 11 = .ok (.getfield 33, 3) := dk_180 0 33 (dk_at dksX1_isWho_0 11 rfl rfl)
theorem dX1_isWho_14 : decode cX1_isWho 14 = .ok (.iload_n 2, 1) := dk_28 (dk_at dksX1_isWho_0 14 rfl rfl)
theorem dX1_isWho_15 : decode cX1_isWho 15 = .ok (.iaload, 1) := dk_46 (dk_at dksX1_isWho_0 15 rfl rfl)
theorem dX1_isWho_16 : decode cX1_isWho 16 = .ok (.iconst (-1), 1) := dk_2 (dk_at dksX1_isWho_0 16 rfl rfl)
theorem dX1_isWho_17 : decode cX1_isWho 17 = .ok (.if_icmp .eq 24, 3) := dk_159 0 24 (dk_at dksX1_isWho_0 17 rfl rfl)
theorem dX1_isWho_20 : decode cX1_isWho 20 = .ok (.aload_n 0, 1) := dk_42 (dk_at dksX1_isWho_0 20 rfl rfl)
theorem dX1_isWho_21 : decode cX1_isWho 21 = .ok (.getfield 78, 3) := dk_180 0 78 (dk_at dksX1_isWho_0 21 rfl rfl)
theorem dX1_isWho_24 : decode cX1_isWho 24 = .ok (.iload_n 1, 1) := dk_27 (dk_at dksX1_isWho_1 0 rfl rfl)
theorem dX1_isWho_25 : decode cX1_isWho 25 = .ok (.iaload, 1) := dk_46 (dk_at dksX1_isWho_1 1 rfl rfl)
theorem dX1_isWho_26 : decode cX1_isWho 26 = .ok (.iload_n 2, 1) := dk_28 (dk_at dksX1_isWho_1 2 rfl rfl)
theorem dX1_isWho_27 : decode cX1_isWho 27 = .ok (.ishr, 1) := dk_122 (dk_at dksX1_isWho_1 3 rfl rfl)
theorem dX1_isWho_28 : decode cX1_isWho 28 = .ok (.iconst 1, 1) := dk_4 (dk_at dksX1_isWho_1 4 rfl rfl)
theorem dX1_isWho_29 : decode cX1_isWho 29 = .ok (.iand, 1) := dk_126 (dk_at dksX1_isWho_1 5 rfl rfl)
theorem dX1_isWho_30 : decode cX1_isWho 30 = .ok (.aload_n 0, 1) := dk_42 (dk_at dksX1_isWho_1 6 rfl rfl)
theorem dX1_isWho_31 : decode cX1_isWho 31 = .ok (.getfield 33, 3) := dk_180 0 33 (dk_at dksX1_isWho_1 7 rfl rfl)
theorem dX1_isWho_34 : decode cX1_isWho 34 = .ok (.iload_n 2, 1) := dk_28 (dk_at dksX1_isWho_1 10 rfl rfl)
theorem dX1_isWho_35 : decode cX1_isWho 35 = .ok (.iaload, 1) := dk_46 (dk_at dksX1_isWho_1 11 rfl rfl)
theorem dX1_isWho_36 : decode cX1_isWho 36 = .ok (.if_icmp .eq 5, 3) := dk_159 0 5 (dk_at dksX1_isWho_1 12 rfl rfl)
theorem dX1_isWho_39 : decode cX1_isWho 39 = .ok (.iconst 0, 1) := dk_3 (dk_at dksX1_isWho_1 15 rfl rfl)
theorem dX1_isWho_40 : decode cX1_isWho 40 = .ok (.ireturn, 1) := dk_172 (dk_at dksX1_isWho_1 16 rfl rfl)
theorem dX1_isWho_41 : decode cX1_isWho 41 = .ok (.iinc 2 1, 3) := dk_132 2 1 (dk_at dksX1_isWho_1 17 rfl rfl)
theorem dX1_isWho_44 : decode cX1_isWho 44 = .ok (.goto (-42), 3) := dk_167 255 214 (dk_at dksX1_isWho_1 20 rfl rfl)
theorem dX1_isWho_47 : decode cX1_isWho 47 = .ok (.iconst 1, 1) := dk_4 (dk_at dksX1_isWho_1 23 rfl rfl)
theorem dX1_isWho_48 : decode cX1_isWho 48 = .ok (.ireturn, 1) := dk_172 (dk_at dksX1_isWho_2 0 rfl rfl)
abbrev cX1_listen : ByteArray := prog_1_method_65_code
def yX1_listen : MethodName := ⟨RX1, "listen", "(I)I"⟩
def dkwX1_listen_3 : List UInt8 := [62, 132, 4, 1, 167, 255, 202, 27, 154, 0, 7, 28, 167, 0, 4, 29, 172]
abbrev dktX1_listen_3 : List UInt8 := dkwX1_listen_3 ++ []
def dkwX1_listen_2 : List UInt8 := [182, 1, 125, 54, 5, 28, 2, 159, 0, 12, 21, 5, 29, 161, 0, 6, 167, 0, 9, 21, 4, 61, 21, 5]
abbrev dktX1_listen_2 : List UInt8 := dkwX1_listen_2 ++ dktX1_listen_3
def dkwX1_listen_1 : List UInt8 := [182, 0, 163, 162, 0, 51, 42, 180, 0, 33, 21, 4, 46, 2, 159, 0, 6, 167, 0, 31, 42, 21, 4]
abbrev dktX1_listen_1 : List UInt8 := dkwX1_listen_1 ++ dktX1_listen_2
def dkwX1_listen_0 : List UInt8 := [42, 27, 184, 1, 49, 182, 0, 183, 42, 182, 1, 119, 2, 61, 2, 62, 3, 54, 4, 21, 4, 42]
abbrev dktX1_listen_0 : List UInt8 := dkwX1_listen_0 ++ dktX1_listen_1
theorem dksX1_listen_0 : cX1_listen.data.toList.drop 0 = dktX1_listen_0 := by decide +kernel
theorem dksX1_listen_1 : cX1_listen.data.toList.drop 22 = dktX1_listen_1 := dk_seg dksX1_listen_0 22 rfl rfl
theorem dksX1_listen_2 : cX1_listen.data.toList.drop 45 = dktX1_listen_2 := dk_seg dksX1_listen_1 23 rfl rfl
theorem dksX1_listen_3 : cX1_listen.data.toList.drop 69 = dktX1_listen_3 := dk_seg dksX1_listen_2 24 rfl rfl
theorem dX1_listen_0 : decode cX1_listen 0 = .ok (.aload_n 0, 1) := dk_42 (dk_at dksX1_listen_0 0 rfl rfl)
theorem dX1_listen_1 : decode cX1_listen 1 = .ok (.iload_n 1, 1) := dk_27 (dk_at dksX1_listen_0 1 rfl rfl)
theorem dX1_listen_2 : decode cX1_listen 2 = .ok (.invokestatic 305, 3) := dk_184 1 49 (dk_at dksX1_listen_0 2 rfl rfl)
theorem dX1_listen_5 : decode cX1_listen 5 = .ok (.invokevirtual 183, 3) := dk_182 0 183 (dk_at dksX1_listen_0 5 rfl rfl)
theorem dX1_listen_8 : decode cX1_listen 8 = .ok (.aload_n 0, 1) := dk_42 (dk_at dksX1_listen_0 8 rfl rfl)
theorem dX1_listen_9 : decode cX1_listen 9 = .ok (.invokevirtual 375, 3) := dk_182 1 119 (dk_at dksX1_listen_0 9 rfl rfl)
theorem dX1_listen_12 : decode cX1_listen 12 = .ok (.iconst (-1), 1) := dk_2 (dk_at dksX1_listen_0 12 rfl rfl)
theorem dX1_listen_13 : decode cX1_listen 13 = .ok (.istore_n 2, 1) := dk_61 (dk_at dksX1_listen_0 13 rfl rfl)
theorem dX1_listen_14 : decode cX1_listen 14 = .ok (.iconst (-1), 1) := dk_2 (dk_at dksX1_listen_0 14 rfl rfl)
theorem dX1_listen_15 : decode cX1_listen 15 = .ok (.istore_n 3, 1) := dk_62 (dk_at dksX1_listen_0 15 rfl rfl)
theorem dX1_listen_16 : decode cX1_listen 16 = .ok (.iconst 0, 1) := dk_3 (dk_at dksX1_listen_0 16 rfl rfl)
theorem dX1_listen_17 : decode cX1_listen 17 = .ok (.istore 4, 2) := dk_54 4 (dk_at dksX1_listen_0 17 rfl rfl)
theorem dX1_listen_19 : decode cX1_listen 19 = .ok (.iload 4, 2) := dk_21 4 (dk_at dksX1_listen_0 19 rfl rfl)
theorem dX1_listen_21 : decode cX1_listen 21 = .ok (.aload_n 0, 1) := dk_42 (dk_at dksX1_listen_0 21 rfl rfl)
theorem dX1_listen_22 : decode cX1_listen 22 = .ok (.invokevirtual 163, 3) := dk_182 0 163 (dk_at dksX1_listen_1 0 rfl rfl)
theorem dX1_listen_25 : decode cX1_listen 25 = .ok (.if_icmp .ge 51, 3) := dk_162 0 51 (dk_at dksX1_listen_1 3 rfl rfl)
theorem dX1_listen_28 : decode cX1_listen 28 = .ok (.aload_n 0, 1) := dk_42 (dk_at dksX1_listen_1 6 rfl rfl)
theorem dX1_listen_29 : decode cX1_listen 29 = .ok (.getfield 33, 3) := dk_180 0 33 (dk_at dksX1_listen_1 7 rfl rfl)
theorem dX1_listen_32 : decode cX1_listen 32 = .ok (.iload 4, 2) := dk_21 4 (dk_at dksX1_listen_1 10 rfl rfl)
theorem dX1_listen_34 : decode cX1_listen 34 = .ok (.iaload, 1) := dk_46 (dk_at dksX1_listen_1 12 rfl rfl)
theorem dX1_listen_35 : decode cX1_listen 35 = .ok (.iconst (-1), 1) := dk_2 (dk_at dksX1_listen_1 13 rfl rfl)
theorem dX1_listen_36 : decode cX1_listen 36 = .ok (.if_icmp .eq 6, 3) := dk_159 0 6 (dk_at dksX1_listen_1 14 rfl rfl)
theorem dX1_listen_39 : decode cX1_listen 39 = .ok (.goto 31, 3) := dk_167 0 31 (dk_at dksX1_listen_1 17 rfl rfl)
theorem dX1_listen_42 : decode cX1_listen 42 = .ok (.aload_n 0, 1) := dk_42 (dk_at dksX1_listen_1 20 rfl rfl)
theorem dX1_listen_43 : decode cX1_listen 43 = .ok (.iload 4, 2) := dk_21 4 (dk_at dksX1_listen_1 21 rfl rfl)
theorem dX1_listen_45 : decode cX1_listen 45 = .ok (.invokevirtual 381, 3) := dk_182 1 125 (dk_at dksX1_listen_2 0 rfl rfl)
theorem dX1_listen_48 : decode cX1_listen 48 = .ok (.istore 5, 2) := dk_54 5 (dk_at dksX1_listen_2 3 rfl rfl)
theorem dX1_listen_50 : decode cX1_listen 50 = .ok (.iload_n 2, 1) := dk_28 (dk_at dksX1_listen_2 5 rfl rfl)
theorem dX1_listen_51 : decode cX1_listen 51 = .ok (.iconst (-1), 1) := dk_2 (dk_at dksX1_listen_2 6 rfl rfl)
theorem dX1_listen_52 : decode cX1_listen 52 = .ok (.if_icmp .eq 12, 3) := dk_159 0 12 (dk_at dksX1_listen_2 7 rfl rfl)
theorem dX1_listen_55 : decode cX1_listen 55 = .ok (.iload 5, 2) := dk_21 5 (dk_at dksX1_listen_2 10 rfl rfl)
theorem dX1_listen_57 : decode cX1_listen 57 = .ok (.iload_n 3, 1) := dk_29 (dk_at dksX1_listen_2 12 rfl rfl)
theorem dX1_listen_58 : decode cX1_listen 58 = .ok (.if_icmp .lt 6, 3) := dk_161 0 6 (dk_at dksX1_listen_2 13 rfl rfl)
theorem dX1_listen_61 : decode cX1_listen 61 = .ok (.goto 9, 3) := dk_167 0 9 (dk_at dksX1_listen_2 16 rfl rfl)
theorem dX1_listen_64 : decode cX1_listen 64 = .ok (.iload 4, 2) := dk_21 4 (dk_at dksX1_listen_2 19 rfl rfl)
theorem dX1_listen_66 : decode cX1_listen 66 = .ok (.istore_n 2, 1) := dk_61 (dk_at dksX1_listen_2 21 rfl rfl)
theorem dX1_listen_67 : decode cX1_listen 67 = .ok (.iload 5, 2) := dk_21 5 (dk_at dksX1_listen_2 22 rfl rfl)
theorem dX1_listen_69 : decode cX1_listen 69 = .ok (.istore_n 3, 1) := dk_62 (dk_at dksX1_listen_3 0 rfl rfl)
theorem dX1_listen_70 : decode cX1_listen 70 = .ok (.iinc 4 1, 3) := dk_132 4 1 (dk_at dksX1_listen_3 1 rfl rfl)
theorem dX1_listen_73 : decode cX1_listen 73 = .ok (.goto (-54), 3) := dk_167 255 202 (dk_at dksX1_listen_3 4 rfl rfl)
theorem dX1_listen_76 : decode cX1_listen 76 = .ok (.iload_n 1, 1) := dk_27 (dk_at dksX1_listen_3 7 rfl rfl)
theorem dX1_listen_77 : decode cX1_listen 77 = .ok (.ifCond .ne 7, 3) := dk_154 0 7 (dk_at dksX1_listen_3 8 rfl rfl)
theorem dX1_listen_80 : decode cX1_listen 80 = .ok (.iload_n 2, 1) := dk_28 (dk_at dksX1_listen_3 11 rfl rfl)
theorem dX1_listen_81 : decode cX1_listen 81 = .ok (.goto 4, 3) := dk_167 0 4 (dk_at dksX1_listen_3 12 rfl rfl)
theorem dX1_listen_84 : decode cX1_listen 84 = .ok (.iload_n 3, 1) := dk_29 (dk_at dksX1_listen_3 15 rfl rfl)
theorem dX1_listen_85 : decode cX1_listen 85 = .ok (.ireturn, 1) := dk_172 (dk_at dksX1_listen_3 16 rfl rfl)
abbrev cX1_worstBy : ByteArray := prog_1_method_64_code
def yX1_worstBy : MethodName := ⟨RX1, "worstBy", "(I)I"⟩
def dkwX1_worstBy_2 : List UInt8 := [132, 4, 1, 167, 255, 213, 28, 29, 28, 100, 184, 0, 148, 172]
abbrev dktX1_worstBy_2 : List UInt8 := dkwX1_worstBy_2 ++ []
def dkwX1_worstBy_1 : List UInt8 := [154, 0, 6, 167, 0, 20, 132, 3, 1, 28, 42, 180, 0, 78, 21, 4, 46, 27, 122, 4, 126, 96, 61]
abbrev dktX1_worstBy_1 : List UInt8 := dkwX1_worstBy_1 ++ dktX1_worstBy_2
def dkwX1_worstBy_0 : List UInt8 := [3, 61, 3, 62, 3, 54, 4, 21, 4, 4, 42, 182, 0, 157, 120, 162, 0, 38, 42, 21, 4, 182, 1, 122]
abbrev dktX1_worstBy_0 : List UInt8 := dkwX1_worstBy_0 ++ dktX1_worstBy_1
theorem dksX1_worstBy_0 : cX1_worstBy.data.toList.drop 0 = dktX1_worstBy_0 := by decide +kernel
theorem dksX1_worstBy_1 : cX1_worstBy.data.toList.drop 24 = dktX1_worstBy_1 := dk_seg dksX1_worstBy_0 24 rfl rfl
theorem dksX1_worstBy_2 : cX1_worstBy.data.toList.drop 47 = dktX1_worstBy_2 := dk_seg dksX1_worstBy_1 23 rfl rfl
theorem dX1_worstBy_0 : decode cX1_worstBy 0 = .ok (.iconst 0, 1) := dk_3 (dk_at dksX1_worstBy_0 0 rfl rfl)
theorem dX1_worstBy_1 : decode cX1_worstBy 1 = .ok (.istore_n 2, 1) := dk_61 (dk_at dksX1_worstBy_0 1 rfl rfl)
theorem dX1_worstBy_2 : decode cX1_worstBy 2 = .ok (.iconst 0, 1) := dk_3 (dk_at dksX1_worstBy_0 2 rfl rfl)
theorem dX1_worstBy_3 : decode cX1_worstBy 3 = .ok (.istore_n 3, 1) := dk_62 (dk_at dksX1_worstBy_0 3 rfl rfl)
theorem dX1_worstBy_4 : decode cX1_worstBy 4 = .ok (.iconst 0, 1) := dk_3 (dk_at dksX1_worstBy_0 4 rfl rfl)
theorem dX1_worstBy_5 : decode cX1_worstBy 5 = .ok (.istore 4, 2) := dk_54 4 (dk_at dksX1_worstBy_0 5 rfl rfl)
theorem dX1_worstBy_7 : decode cX1_worstBy 7 = .ok (.iload 4, 2) := dk_21 4 (dk_at dksX1_worstBy_0 7 rfl rfl)
theorem dX1_worstBy_9 : decode cX1_worstBy 9 = .ok (.iconst 1, 1) := dk_4 (dk_at dksX1_worstBy_0 9 rfl rfl)
theorem dX1_worstBy_10 : decode cX1_worstBy 10 = .ok (.aload_n 0, 1) := dk_42 (dk_at dksX1_worstBy_0 10 rfl rfl)
theorem dX1_worstBy_11 : decode cX1_worstBy 11 = .ok (.invokevirtual 157, 3) := dk_182 0 157 (dk_at dksX1_worstBy_0 11 rfl rfl)
theorem dX1_worstBy_14 : decode cX1_worstBy 14 = .ok (.ishl, 1) := dk_120 (dk_at dksX1_worstBy_0 14 rfl rfl)
theorem dX1_worstBy_15 : decode cX1_worstBy 15 = .ok (.if_icmp .ge 38, 3) := dk_162 0 38 (dk_at dksX1_worstBy_0 15 rfl rfl)
theorem dX1_worstBy_18 : decode cX1_worstBy 18 = .ok (.aload_n 0, 1) := dk_42 (dk_at dksX1_worstBy_0 18 rfl rfl)
theorem dX1_worstBy_19 : decode cX1_worstBy 19 = .ok (.iload 4, 2) := dk_21 4 (dk_at dksX1_worstBy_0 19 rfl rfl)
theorem dX1_worstBy_21 : decode cX1_worstBy 21 = .ok (.invokevirtual 378, 3) := dk_182 1 122 (dk_at dksX1_worstBy_0 21 rfl rfl)
theorem dX1_worstBy_24 : decode cX1_worstBy 24 = .ok (.ifCond .ne 6, 3) := dk_154 0 6 (dk_at dksX1_worstBy_1 0 rfl rfl)
theorem dX1_worstBy_27 : decode cX1_worstBy 27 = .ok (.goto 20, 3) := dk_167 0 20 (dk_at dksX1_worstBy_1 3 rfl rfl)
theorem dX1_worstBy_30 : decode cX1_worstBy 30 = .ok (.iinc 3 1, 3) := dk_132 3 1 (dk_at dksX1_worstBy_1 6 rfl rfl)
theorem dX1_worstBy_33 : decode cX1_worstBy 33 = .ok (.iload_n 2, 1) := dk_28 (dk_at dksX1_worstBy_1 9 rfl rfl)
theorem dX1_worstBy_34 : decode cX1_worstBy 34 = .ok (.aload_n 0, 1) := dk_42 (dk_at dksX1_worstBy_1 10 rfl rfl)
theorem dX1_worstBy_35 : decode cX1_worstBy 35 = .ok (.getfield 78, 3) := dk_180 0 78 (dk_at dksX1_worstBy_1 11 rfl rfl)
theorem dX1_worstBy_38 : decode cX1_worstBy 38 = .ok (.iload 4, 2) := dk_21 4 (dk_at dksX1_worstBy_1 14 rfl rfl)
theorem dX1_worstBy_40 : decode cX1_worstBy 40 = .ok (.iaload, 1) := dk_46 (dk_at dksX1_worstBy_1 16 rfl rfl)
theorem dX1_worstBy_41 : decode cX1_worstBy 41 = .ok (.iload_n 1, 1) := dk_27 (dk_at dksX1_worstBy_1 17 rfl rfl)
theorem dX1_worstBy_42 : decode cX1_worstBy 42 = .ok (.ishr, 1) := dk_122 (dk_at dksX1_worstBy_1 18 rfl rfl)
theorem dX1_worstBy_43 : decode cX1_worstBy 43 = .ok (.iconst 1, 1) := dk_4 (dk_at dksX1_worstBy_1 19 rfl rfl)
theorem dX1_worstBy_44 : decode cX1_worstBy 44 = .ok (.iand, 1) := dk_126 (dk_at dksX1_worstBy_1 20 rfl rfl)
theorem dX1_worstBy_45 : decode cX1_worstBy 45 = .ok (.iadd, 1) := dk_96 (dk_at dksX1_worstBy_1 21 rfl rfl)
theorem dX1_worstBy_46 : decode cX1_worstBy 46 = .ok (.istore_n 2, 1) := dk_61 (dk_at dksX1_worstBy_1 22 rfl rfl)
theorem dX1_worstBy_47 : decode cX1_worstBy 47 = .ok (.iinc 4 1, 3) := dk_132 4 1 (dk_at dksX1_worstBy_2 0 rfl rfl)
theorem dX1_worstBy_50 : decode cX1_worstBy 50 = .ok (.goto (-43), 3) := dk_167 255 213 (dk_at dksX1_worstBy_2 3 rfl rfl)
theorem dX1_worstBy_53 : decode cX1_worstBy 53 = .ok (.iload_n 2, 1) := dk_28 (dk_at dksX1_worstBy_2 6 rfl rfl)
theorem dX1_worstBy_54 : decode cX1_worstBy 54 = .ok (.iload_n 3, 1) := dk_29 (dk_at dksX1_worstBy_2 7 rfl rfl)
theorem dX1_worstBy_55 : decode cX1_worstBy 55 = .ok (.iload_n 2, 1) := dk_28 (dk_at dksX1_worstBy_2 8 rfl rfl)
theorem dX1_worstBy_56 : decode cX1_worstBy 56 = .ok (.isub, 1) := dk_100 (dk_at dksX1_worstBy_2 9 rfl rfl)
theorem dX1_worstBy_57 : decode cX1_worstBy 57 = .ok (.invokestatic 148, 3) := dk_184 0 148 (dk_at dksX1_worstBy_2 10 rfl rfl)
theorem dX1_worstBy_60 : decode cX1_worstBy 60 = .ok (.ireturn, 1) := dk_172 (dk_at dksX1_worstBy_2 13 rfl rfl)
abbrev cX1_duty : ByteArray := prog_1_method_39_code
def yX1_duty : MethodName := ⟨RX1, "duty", "(I)I"⟩
def dkwX1_duty_2 : List UInt8 := [167, 0, 4, 3, 128, 62, 44, 21, 4, 182, 1, 72, 87, 132, 4, 1, 167, 255, 216, 29, 172]
abbrev dktX1_duty_2 : List UInt8 := dkwX1_duty_2 ++ []
def dkwX1_duty_1 : List UInt8 := [42, 182, 0, 163, 162, 0, 37, 29, 44, 21, 4, 182, 1, 45, 27, 160, 0, 10, 4, 21, 4, 120]
abbrev dktX1_duty_1 : List UInt8 := dkwX1_duty_1 ++ dktX1_duty_2
def dkwX1_duty_0 : List UInt8 := [42, 27, 182, 1, 20, 42, 180, 0, 48, 42, 180, 0, 44, 182, 0, 248, 77, 3, 62, 3, 54, 4, 21, 4]
abbrev dktX1_duty_0 : List UInt8 := dkwX1_duty_0 ++ dktX1_duty_1
theorem dksX1_duty_0 : cX1_duty.data.toList.drop 0 = dktX1_duty_0 := by decide +kernel
theorem dksX1_duty_1 : cX1_duty.data.toList.drop 24 = dktX1_duty_1 := dk_seg dksX1_duty_0 24 rfl rfl
theorem dksX1_duty_2 : cX1_duty.data.toList.drop 46 = dktX1_duty_2 := dk_seg dksX1_duty_1 22 rfl rfl
theorem dX1_duty_0 : decode cX1_duty 0 = .ok (.aload_n 0, 1) := dk_42 (dk_at dksX1_duty_0 0 rfl rfl)
theorem dX1_duty_1 : decode cX1_duty 1 = .ok (.iload_n 1, 1) := dk_27 (dk_at dksX1_duty_0 1 rfl rfl)
theorem dX1_duty_2 : decode cX1_duty 2 = .ok (.invokevirtual 276, 3) := dk_182 1 20 (dk_at dksX1_duty_0 2 rfl rfl)
theorem dX1_duty_5 : decode cX1_duty 5 = .ok (.aload_n 0, 1) := dk_42 (dk_at dksX1_duty_0 5 rfl rfl)
theorem dX1_duty_6 : decode cX1_duty 6 = .ok (.getfield 48, 3) := dk_180 0 48 (dk_at dksX1_duty_0 6 rfl rfl)
theorem dX1_duty_9 : decode cX1_duty 9 = .ok (.aload_n 0, 1) := dk_42 (dk_at dksX1_duty_0 9 rfl rfl)
theorem dX1_duty_10 : decode cX1_duty 10 = .ok (.getfield 44, 3) := dk_180 0 44 (dk_at dksX1_duty_0 10 rfl rfl)
theorem dX1_duty_13 : decode cX1_duty 13 = .ok (.invokevirtual 248, 3) := dk_182 0 248 (dk_at dksX1_duty_0 13 rfl rfl)
theorem dX1_duty_16 : decode cX1_duty 16 = .ok (.astore_n 2, 1) := dk_77 (dk_at dksX1_duty_0 16 rfl rfl)
theorem dX1_duty_17 : decode cX1_duty 17 = .ok (.iconst 0, 1) := dk_3 (dk_at dksX1_duty_0 17 rfl rfl)
theorem dX1_duty_18 : decode cX1_duty 18 = .ok (.istore_n 3, 1) := dk_62 (dk_at dksX1_duty_0 18 rfl rfl)
theorem dX1_duty_19 : decode cX1_duty 19 = .ok (.iconst 0, 1) := dk_3 (dk_at dksX1_duty_0 19 rfl rfl)
theorem dX1_duty_20 : decode cX1_duty 20 = .ok (.istore 4, 2) := dk_54 4 (dk_at dksX1_duty_0 20 rfl rfl)
theorem dX1_duty_22 : decode cX1_duty 22 = .ok (.iload 4, 2) := dk_21 4 (dk_at dksX1_duty_0 22 rfl rfl)
theorem dX1_duty_24 : decode cX1_duty 24 = .ok (.aload_n 0, 1) := dk_42 (dk_at dksX1_duty_1 0 rfl rfl)
theorem dX1_duty_25 : decode cX1_duty 25 = .ok (.invokevirtual 163, 3) := dk_182 0 163 (dk_at dksX1_duty_1 1 rfl rfl)
theorem dX1_duty_28 : decode cX1_duty 28 = .ok (.if_icmp .ge 37, 3) := dk_162 0 37 (dk_at dksX1_duty_1 4 rfl rfl)
theorem dX1_duty_31 : decode cX1_duty 31 = .ok (.iload_n 3, 1) := dk_29 (dk_at dksX1_duty_1 7 rfl rfl)
theorem dX1_duty_32 : decode cX1_duty 32 = .ok (.aload_n 2, 1) := dk_44 (dk_at dksX1_duty_1 8 rfl rfl)
theorem dX1_duty_33 : decode cX1_duty 33 = .ok (.iload 4, 2) := dk_21 4 (dk_at dksX1_duty_1 9 rfl rfl)
theorem dX1_duty_35 : decode cX1_duty 35 = .ok (.invokevirtual 301, 3) := dk_182 1 45 (dk_at dksX1_duty_1 11 rfl rfl)
theorem dX1_duty_38 : decode cX1_duty 38 = .ok (.iload_n 1, 1) := dk_27 (dk_at dksX1_duty_1 14 rfl rfl)
theorem dX1_duty_39 : decode cX1_duty 39 = .ok (.if_icmp .ne 10, 3) := dk_160 0 10 (dk_at dksX1_duty_1 15 rfl rfl)
theorem dX1_duty_42 : decode cX1_duty 42 = .ok (.iconst 1, 1) := dk_4 (dk_at dksX1_duty_1 18 rfl rfl)
theorem dX1_duty_43 : decode cX1_duty 43 = .ok (.iload 4, 2) := dk_21 4 (dk_at dksX1_duty_1 19 rfl rfl)
theorem dX1_duty_45 : decode cX1_duty 45 = .ok (.ishl, 1) := dk_120 (dk_at dksX1_duty_1 21 rfl rfl)
theorem dX1_duty_46 : decode cX1_duty 46 = .ok (.goto 4, 3) := dk_167 0 4 (dk_at dksX1_duty_2 0 rfl rfl)
theorem dX1_duty_49 : decode cX1_duty 49 = .ok (.iconst 0, 1) := dk_3 (dk_at dksX1_duty_2 3 rfl rfl)
theorem dX1_duty_50 : decode cX1_duty 50 = .ok (.ior, 1) := dk_128 (dk_at dksX1_duty_2 4 rfl rfl)
theorem dX1_duty_51 : decode cX1_duty 51 = .ok (.istore_n 3, 1) := dk_62 (dk_at dksX1_duty_2 5 rfl rfl)
theorem dX1_duty_52 : decode cX1_duty 52 = .ok (.aload_n 2, 1) := dk_44 (dk_at dksX1_duty_2 6 rfl rfl)
theorem dX1_duty_53 : decode cX1_duty 53 = .ok (.iload 4, 2) := dk_21 4 (dk_at dksX1_duty_2 7 rfl rfl)
theorem dX1_duty_55 : decode cX1_duty 55 = .ok (.invokevirtual 328, 3) := dk_182 1 72 (dk_at dksX1_duty_2 9 rfl rfl)
theorem dX1_duty_58 : decode cX1_duty 58 = .ok (.pop, 1) := dk_87 (dk_at dksX1_duty_2 12 rfl rfl)
theorem dX1_duty_59 : decode cX1_duty 59 = .ok (.iinc 4 1, 3) := dk_132 4 1 (dk_at dksX1_duty_2 13 rfl rfl)
theorem dX1_duty_62 : decode cX1_duty 62 = .ok (.goto (-40), 3) := dk_167 255 216 (dk_at dksX1_duty_2 16 rfl rfl)
theorem dX1_duty_65 : decode cX1_duty 65 = .ok (.iload_n 3, 1) := dk_29 (dk_at dksX1_duty_2 19 rfl rfl)
theorem dX1_duty_66 : decode cX1_duty 66 = .ok (.ireturn, 1) := dk_172 (dk_at dksX1_duty_2 20 rfl rfl)
abbrev cX1_range : ByteArray := prog_1_method_40_code
def yX1_range : MethodName := ⟨RX1, "range", "(I)I"⟩
def dkwX1_range_2 : List UInt8 := [21, 5, 164, 0, 6, 21, 4, 62, 132, 4, 1, 167, 255, 219, 29, 172]
abbrev dktX1_range_2 : List UInt8 := dkwX1_range_2 ++ []
def dkwX1_range_1 : List UInt8 := [16, 20, 163, 0, 36, 44, 180, 1, 5, 27, 46, 54, 5, 44, 182, 1, 69, 87, 44, 180, 1, 5, 27, 46]
abbrev dktX1_range_1 : List UInt8 := dkwX1_range_1 ++ dktX1_range_2
def dkwX1_range_0 : List UInt8 := [42, 27, 182, 1, 20, 42, 180, 0, 48, 42, 180, 0, 44, 182, 0, 248, 77, 3, 62, 4, 54, 4, 21, 4]
abbrev dktX1_range_0 : List UInt8 := dkwX1_range_0 ++ dktX1_range_1
theorem dksX1_range_0 : cX1_range.data.toList.drop 0 = dktX1_range_0 := by decide +kernel
theorem dksX1_range_1 : cX1_range.data.toList.drop 24 = dktX1_range_1 := dk_seg dksX1_range_0 24 rfl rfl
theorem dksX1_range_2 : cX1_range.data.toList.drop 48 = dktX1_range_2 := dk_seg dksX1_range_1 24 rfl rfl
theorem dX1_range_0 : decode cX1_range 0 = .ok (.aload_n 0, 1) := dk_42 (dk_at dksX1_range_0 0 rfl rfl)
theorem dX1_range_1 : decode cX1_range 1 = .ok (.iload_n 1, 1) := dk_27 (dk_at dksX1_range_0 1 rfl rfl)
theorem dX1_range_2 : decode cX1_range 2 = .ok (.invokevirtual 276, 3) := dk_182 1 20 (dk_at dksX1_range_0 2 rfl rfl)
theorem dX1_range_5 : decode cX1_range 5 = .ok (.aload_n 0, 1) := dk_42 (dk_at dksX1_range_0 5 rfl rfl)
theorem dX1_range_6 : decode cX1_range 6 = .ok (.getfield 48, 3) := dk_180 0 48 (dk_at dksX1_range_0 6 rfl rfl)
theorem dX1_range_9 : decode cX1_range 9 = .ok (.aload_n 0, 1) := dk_42 (dk_at dksX1_range_0 9 rfl rfl)
theorem dX1_range_10 : decode cX1_range 10 = .ok (.getfield 44, 3) := dk_180 0 44 (dk_at dksX1_range_0 10 rfl rfl)
theorem dX1_range_13 : decode cX1_range 13 = .ok (.invokevirtual 248, 3) := dk_182 0 248 (dk_at dksX1_range_0 13 rfl rfl)
theorem dX1_range_16 : decode cX1_range 16 = .ok (.astore_n 2, 1) := dk_77 (dk_at dksX1_range_0 16 rfl rfl)
theorem dX1_range_17 : decode cX1_range 17 = .ok (.iconst 0, 1) := dk_3 (dk_at dksX1_range_0 17 rfl rfl)
theorem dX1_range_18 : decode cX1_range 18 = .ok (.istore_n 3, 1) := dk_62 (dk_at dksX1_range_0 18 rfl rfl)
theorem dX1_range_19 : decode cX1_range 19 = .ok (.iconst 1, 1) := dk_4 (dk_at dksX1_range_0 19 rfl rfl)
theorem dX1_range_20 : decode cX1_range 20 = .ok (.istore 4, 2) := dk_54 4 (dk_at dksX1_range_0 20 rfl rfl)
theorem dX1_range_22 : decode cX1_range 22 = .ok (.iload 4, 2) := dk_21 4 (dk_at dksX1_range_0 22 rfl rfl)
theorem dX1_range_24 : decode cX1_range 24 = .ok (.bipush 20, 2) := dk_16 20 (dk_at dksX1_range_1 0 rfl rfl)
theorem dX1_range_26 : decode cX1_range 26 = .ok (.if_icmp .gt 36, 3) := dk_163 0 36 (dk_at dksX1_range_1 2 rfl rfl)
theorem dX1_range_29 : decode cX1_range 29 = .ok (.aload_n 2, 1) := dk_44 (dk_at dksX1_range_1 5 rfl rfl)
theorem dX1_range_30 : decode cX1_range 30 = .ok (.getfield 261, 3) := dk_180 1 5 (dk_at dksX1_range_1 6 rfl rfl)
theorem dX1_range_33 : decode cX1_range 33 = .ok (.iload_n 1, 1) := dk_27 (dk_at dksX1_range_1 9 rfl rfl)
theorem dX1_range_34 : decode cX1_range 34 = .ok (.iaload, 1) := dk_46 (dk_at dksX1_range_1 10 rfl rfl)
theorem dX1_range_35 : decode cX1_range 35 = .ok (.istore 5, 2) := dk_54 5 (dk_at dksX1_range_1 11 rfl rfl)
theorem dX1_range_37 : decode cX1_range 37 = .ok (.aload_n 2, 1) := dk_44 (dk_at dksX1_range_1 13 rfl rfl)
theorem dX1_range_38 : decode cX1_range 38 = .ok (.invokevirtual 325, 3) := dk_182 1 69 (dk_at dksX1_range_1 14 rfl rfl)
theorem dX1_range_41 : decode cX1_range 41 = .ok (.pop, 1) := dk_87 (dk_at dksX1_range_1 17 rfl rfl)
theorem dX1_range_42 : decode cX1_range 42 = .ok (.aload_n 2, 1) := dk_44 (dk_at dksX1_range_1 18 rfl rfl)
theorem dX1_range_43 : decode cX1_range 43 = .ok (.getfield 261, 3) := dk_180 1 5 (dk_at dksX1_range_1 19 rfl rfl)
theorem dX1_range_46 : decode cX1_range 46 = .ok (.iload_n 1, 1) := dk_27 (dk_at dksX1_range_1 22 rfl rfl)
theorem dX1_range_47 : decode cX1_range 47 = .ok (.iaload, 1) := dk_46 (dk_at dksX1_range_1 23 rfl rfl)
theorem dX1_range_48 : decode cX1_range 48 = .ok (.iload 5, 2) := dk_21 5 (dk_at dksX1_range_2 0 rfl rfl)
theorem dX1_range_50 : decode cX1_range 50 = .ok (.if_icmp .le 6, 3) := dk_164 0 6 (dk_at dksX1_range_2 2 rfl rfl)
theorem dX1_range_53 : decode cX1_range 53 = .ok (.iload 4, 2) := dk_21 4 (dk_at dksX1_range_2 5 rfl rfl)
theorem dX1_range_55 : decode cX1_range 55 = .ok (.istore_n 3, 1) := dk_62 (dk_at dksX1_range_2 7 rfl rfl)
theorem dX1_range_56 : decode cX1_range 56 = .ok (.iinc 4 1, 3) := dk_132 4 1 (dk_at dksX1_range_2 8 rfl rfl)
theorem dX1_range_59 : decode cX1_range 59 = .ok (.goto (-37), 3) := dk_167 255 219 (dk_at dksX1_range_2 11 rfl rfl)
theorem dX1_range_62 : decode cX1_range 62 = .ok (.iload_n 3, 1) := dk_29 (dk_at dksX1_range_2 14 rfl rfl)
theorem dX1_range_63 : decode cX1_range 63 = .ok (.ireturn, 1) := dk_172 (dk_at dksX1_range_2 15 rfl rfl)
abbrev cX1_quarrel : ByteArray := prog_1_method_67_code
def yX1_quarrel : MethodName := ⟨RX1, "quarrel", "(III)I"⟩
def dkwX1_quarrel_8 : List UInt8 := [21, 5, 16, 10, 112, 21, 5, 16, 10, 108, 27, 28, 184, 1, 128, 96, 172]
abbrev dktX1_quarrel_8 : List UInt8 := dkwX1_quarrel_8 ++ []
def dkwX1_quarrel_7 : List UInt8 := [2, 160, 0, 7, 3, 167, 0, 34, 21, 5, 16, 10, 108, 21, 5, 16, 10, 112, 27, 28, 184, 1, 128]
abbrev dktX1_quarrel_7 : List UInt8 := dkwX1_quarrel_7 ++ dktX1_quarrel_8
def dkwX1_quarrel_6 : List UInt8 := [167, 255, 164, 29, 154, 0, 8, 21, 4, 167, 0, 54, 29, 4, 160, 0, 8, 21, 5, 167, 0, 44, 21, 5]
abbrev dktX1_quarrel_6 : List UInt8 := dkwX1_quarrel_6 ++ dktX1_quarrel_7
def dkwX1_quarrel_5 : List UInt8 := [160, 0, 13, 16, 10, 21, 6, 104, 21, 7, 96, 54, 5, 132, 7, 1, 167, 255, 179, 132, 6, 1]
abbrev dktX1_quarrel_5 : List UInt8 := dkwX1_quarrel_5 ++ dktX1_quarrel_6
def dkwX1_quarrel_4 : List UInt8 := [184, 1, 128, 21, 7, 21, 6, 27, 28, 184, 1, 128, 164, 0, 6, 167, 0, 22, 132, 4, 1, 21, 5, 2]
abbrev dktX1_quarrel_4 : List UInt8 := dkwX1_quarrel_4 ++ dktX1_quarrel_5
def dkwX1_quarrel_3 : List UInt8 := [184, 1, 128, 21, 6, 21, 7, 27, 28, 184, 1, 128, 163, 0, 48, 4, 21, 7, 100, 21, 6, 27, 28]
abbrev dktX1_quarrel_3 : List UInt8 := dkwX1_quarrel_3 ++ dktX1_quarrel_4
def dkwX1_quarrel_2 : List UInt8 := [21, 6, 4, 163, 0, 92, 3, 54, 7, 21, 7, 4, 163, 0, 77, 4, 21, 6, 100, 21, 7, 27, 28]
abbrev dktX1_quarrel_2 : List UInt8 := dkwX1_quarrel_2 ++ dktX1_quarrel_3
def dkwX1_quarrel_1 : List UInt8 := [184, 0, 165, 153, 0, 7, 4, 167, 0, 4, 3, 182, 0, 183, 3, 54, 4, 2, 54, 5, 3, 54, 6]
abbrev dktX1_quarrel_1 : List UInt8 := dkwX1_quarrel_1 ++ dktX1_quarrel_2
def dkwX1_quarrel_0 : List UInt8 := [42, 27, 3, 16, 99, 184, 0, 165, 153, 0, 26, 28, 3, 16, 99, 184, 0, 165, 153, 0, 16, 29, 3, 5]
abbrev dktX1_quarrel_0 : List UInt8 := dkwX1_quarrel_0 ++ dktX1_quarrel_1
theorem dksX1_quarrel_0 : cX1_quarrel.data.toList.drop 0 = dktX1_quarrel_0 := by decide +kernel
theorem dksX1_quarrel_1 : cX1_quarrel.data.toList.drop 24 = dktX1_quarrel_1 := dk_seg dksX1_quarrel_0 24 rfl rfl
theorem dksX1_quarrel_2 : cX1_quarrel.data.toList.drop 47 = dktX1_quarrel_2 := dk_seg dksX1_quarrel_1 23 rfl rfl
theorem dksX1_quarrel_3 : cX1_quarrel.data.toList.drop 70 = dktX1_quarrel_3 := dk_seg dksX1_quarrel_2 23 rfl rfl
theorem dksX1_quarrel_4 : cX1_quarrel.data.toList.drop 93 = dktX1_quarrel_4 := dk_seg dksX1_quarrel_3 23 rfl rfl
theorem dksX1_quarrel_5 : cX1_quarrel.data.toList.drop 117 = dktX1_quarrel_5 := dk_seg dksX1_quarrel_4 24 rfl rfl
theorem dksX1_quarrel_6 : cX1_quarrel.data.toList.drop 139 = dktX1_quarrel_6 := dk_seg dksX1_quarrel_5 22 rfl rfl
theorem dksX1_quarrel_7 : cX1_quarrel.data.toList.drop 163 = dktX1_quarrel_7 := dk_seg dksX1_quarrel_6 24 rfl rfl
theorem dksX1_quarrel_8 : cX1_quarrel.data.toList.drop 186 = dktX1_quarrel_8 := dk_seg dksX1_quarrel_7 23 rfl rfl
theorem dX1_quarrel_0 : decode cX1_quarrel 0 = .ok (.aload_n 0, 1) := dk_42 (dk_at dksX1_quarrel_0 0 rfl rfl)
theorem dX1_quarrel_1 : decode cX1_quarrel 1 = .ok (.iload_n 1, 1) := dk_27 (dk_at dksX1_quarrel_0 1 rfl rfl)
theorem dX1_quarrel_2 : decode cX1_quarrel 2 = .ok (.iconst 0, 1) := dk_3 (dk_at dksX1_quarrel_0 2 rfl rfl)
theorem dX1_quarrel_3 : decode cX1_quarrel 3 = .ok (.bipush 99, 2) := dk_16 99 (dk_at dksX1_quarrel_0 3 rfl rfl)
theorem dX1_quarrel_5 : decode cX1_quarrel 5 = .ok (.invokestatic 165, 3) := dk_184 0 165 (dk_at dksX1_quarrel_0 5 rfl rfl)
theorem dX1_quarrel_8 : decode cX1_quarrel 8 = .ok (.ifCond .eq 26, 3) := dk_153 0 26 (dk_at dksX1_quarrel_0 8 rfl rfl)
theorem dX1_quarrel_11 : decode cX1_quarrel 11 = .ok (.iload_n 2, 1) := dk_28 (dk_at dksX1_quarrel_0 11 rfl rfl)
theorem dX1_quarrel_12 : decode cX1_quarrel 12 = .ok (.iconst 0, 1) := dk_3 (dk_at dksX1_quarrel_0 12 rfl rfl)
theorem dX1_quarrel_13 : decode cX1_quarrel 13 = .ok (.bipush 99, 2) := dk_16 99 (dk_at dksX1_quarrel_0 13 rfl rfl)
theorem dX1_quarrel_15 : decode cX1_quarrel 15 = .ok (.invokestatic 165, 3) := dk_184 0 165 (dk_at dksX1_quarrel_0 15 rfl rfl)
theorem dX1_quarrel_18 : decode cX1_quarrel 18 = .ok (.ifCond .eq 16, 3) := dk_153 0 16 (dk_at dksX1_quarrel_0 18 rfl rfl)
theorem dX1_quarrel_21 : decode cX1_quarrel 21 = .ok (.iload_n 3, 1) := dk_29 (dk_at dksX1_quarrel_0 21 rfl rfl)
theorem dX1_quarrel_22 : decode cX1_quarrel 22 = .ok (.iconst 0, 1) := dk_3 (dk_at dksX1_quarrel_0 22 rfl rfl)
theorem dX1_quarrel_23 : decode cX1_quarrel 23 = .ok (.iconst 2, 1) := dk_5 (dk_at dksX1_quarrel_0 23 rfl rfl)
theorem dX1_quarrel_24 : decode cX1_quarrel 24 = .ok (.invokestatic 165, 3) := dk_184 0 165 (dk_at dksX1_quarrel_1 0 rfl rfl)
theorem dX1_quarrel_27 : decode cX1_quarrel 27 = .ok (.ifCond .eq 7, 3) := dk_153 0 7 (dk_at dksX1_quarrel_1 3 rfl rfl)
theorem dX1_quarrel_30 : decode cX1_quarrel 30 = .ok (.iconst 1, 1) := dk_4 (dk_at dksX1_quarrel_1 6 rfl rfl)
theorem dX1_quarrel_31 : decode cX1_quarrel 31 = .ok (.goto 4, 3) := dk_167 0 4 (dk_at dksX1_quarrel_1 7 rfl rfl)
theorem dX1_quarrel_34 : decode cX1_quarrel 34 = .ok (.iconst 0, 1) := dk_3 (dk_at dksX1_quarrel_1 10 rfl rfl)
theorem dX1_quarrel_35 : decode cX1_quarrel 35 = .ok (.invokevirtual 183, 3) := dk_182 0 183 (dk_at dksX1_quarrel_1 11 rfl rfl)
theorem dX1_quarrel_38 : decode cX1_quarrel 38 = .ok (.iconst 0, 1) := dk_3 (dk_at dksX1_quarrel_1 14 rfl rfl)
theorem dX1_quarrel_39 : decode cX1_quarrel 39 = .ok (.istore 4, 2) := dk_54 4 (dk_at dksX1_quarrel_1 15 rfl rfl)
theorem dX1_quarrel_41 : decode cX1_quarrel 41 = .ok (.iconst (-1), 1) := dk_2 (dk_at dksX1_quarrel_1 17 rfl rfl)
theorem dX1_quarrel_42 : decode cX1_quarrel 42 = .ok (.istore 5, 2) := dk_54 5 (dk_at dksX1_quarrel_1 18 rfl rfl)
theorem dX1_quarrel_44 : decode cX1_quarrel 44 = .ok (.iconst 0, 1) := dk_3 (dk_at dksX1_quarrel_1 20 rfl rfl)
theorem dX1_quarrel_45 : decode cX1_quarrel 45 = .ok (.istore 6, 2) := dk_54 6 (dk_at dksX1_quarrel_1 21 rfl rfl)
theorem dX1_quarrel_47 : decode cX1_quarrel 47 = .ok (.iload 6, 2) := dk_21 6 (dk_at dksX1_quarrel_2 0 rfl rfl)
theorem dX1_quarrel_49 : decode cX1_quarrel 49 = .ok (.iconst 1, 1) := dk_4 (dk_at dksX1_quarrel_2 2 rfl rfl)
theorem dX1_quarrel_50 : decode cX1_quarrel 50 = .ok (.if_icmp .gt 92, 3) := dk_163 0 92 (dk_at dksX1_quarrel_2 3 rfl rfl)
theorem dX1_quarrel_53 : decode cX1_quarrel 53 = .ok (.iconst 0, 1) := dk_3 (dk_at dksX1_quarrel_2 6 rfl rfl)
theorem dX1_quarrel_54 : decode cX1_quarrel 54 = .ok (.istore 7, 2) := dk_54 7 (dk_at dksX1_quarrel_2 7 rfl rfl)
theorem dX1_quarrel_56 : decode cX1_quarrel 56 = .ok (.iload 7, 2) := dk_21 7 (dk_at dksX1_quarrel_2 9 rfl rfl)
theorem dX1_quarrel_58 : decode cX1_quarrel 58 = .ok (.iconst 1, 1) := dk_4 (dk_at dksX1_quarrel_2 11 rfl rfl)
theorem dX1_quarrel_59 : decode cX1_quarrel 59 = .ok (.if_icmp .gt 77, 3) := dk_163 0 77 (dk_at dksX1_quarrel_2 12 rfl rfl)
theorem dX1_quarrel_62 : decode cX1_quarrel 62 = .ok (.iconst 1, 1) := dk_4 (dk_at dksX1_quarrel_2 15 rfl rfl)
theorem dX1_quarrel_63 : decode cX1_quarrel 63 = .ok (.iload 6, 2) := dk_21 6 (dk_at dksX1_quarrel_2 16 rfl rfl)
theorem dX1_quarrel_65 : decode cX1_quarrel 65 = .ok (.isub, 1) := dk_100 (dk_at dksX1_quarrel_2 18 rfl rfl)
theorem dX1_quarrel_66 : decode cX1_quarrel 66 = .ok (.iload 7, 2) := dk_21 7 (dk_at dksX1_quarrel_2 19 rfl rfl)
theorem dX1_quarrel_68 : decode cX1_quarrel 68 = .ok (.iload_n 1, 1) := dk_27 (dk_at dksX1_quarrel_2 21 rfl rfl)
theorem dX1_quarrel_69 : decode cX1_quarrel 69 = .ok (.iload_n 2, 1) := dk_28 (dk_at dksX1_quarrel_2 22 rfl rfl)
theorem dX1_quarrel_70 : decode cX1_quarrel 70 = .ok (.invokestatic 384, 3) := dk_184 1 128 (dk_at dksX1_quarrel_3 0 rfl rfl)
theorem dX1_quarrel_73 : decode cX1_quarrel 73 = .ok (.iload 6, 2) := dk_21 6 (dk_at dksX1_quarrel_3 3 rfl rfl)
theorem dX1_quarrel_75 : decode cX1_quarrel 75 = .ok (.iload 7, 2) := dk_21 7 (dk_at dksX1_quarrel_3 5 rfl rfl)
theorem dX1_quarrel_77 : decode cX1_quarrel 77 = .ok (.iload_n 1, 1) := dk_27 (dk_at dksX1_quarrel_3 7 rfl rfl)
theorem dX1_quarrel_78 : decode cX1_quarrel 78 = .ok (.iload_n 2, 1) := dk_28 (dk_at dksX1_quarrel_3 8 rfl rfl)
theorem dX1_quarrel_79 : decode cX1_quarrel 79 = .ok (.invokestatic 384, 3) := dk_184 1 128 (dk_at dksX1_quarrel_3 9 rfl rfl)
theorem dX1_quarrel_82 : decode cX1_quarrel 82 = .ok (.if_icmp .gt 48, 3) := dk_163 0 48 (dk_at dksX1_quarrel_3 12 rfl rfl)
theorem dX1_quarrel_85 : decode cX1_quarrel 85 = .ok (.iconst 1, 1) := dk_4 (dk_at dksX1_quarrel_3 15 rfl rfl)
theorem dX1_quarrel_86 : decode cX1_quarrel 86 = .ok (.iload 7, 2) := dk_21 7 (dk_at dksX1_quarrel_3 16 rfl rfl)
theorem dX1_quarrel_88 : decode cX1_quarrel 88 = .ok (.isub, 1) := dk_100 (dk_at dksX1_quarrel_3 18 rfl rfl)
theorem dX1_quarrel_89 : decode cX1_quarrel 89 = .ok (.iload 6, 2) := dk_21 6 (dk_at dksX1_quarrel_3 19 rfl rfl)
theorem dX1_quarrel_91 : decode cX1_quarrel 91 = .ok (.iload_n 1, 1) := dk_27 (dk_at dksX1_quarrel_3 21 rfl rfl)
theorem dX1_quarrel_92 : decode cX1_quarrel 92 = .ok (.iload_n 2, 1) := dk_28 (dk_at dksX1_quarrel_3 22 rfl rfl)
theorem dX1_quarrel_93 : decode cX1_quarrel 93 = .ok (.invokestatic 384, 3) := dk_184 1 128 (dk_at dksX1_quarrel_4 0 rfl rfl)
theorem dX1_quarrel_96 : decode cX1_quarrel 96 = .ok (.iload 7, 2) := dk_21 7 (dk_at dksX1_quarrel_4 3 rfl rfl)
theorem dX1_quarrel_98 : decode cX1_quarrel 98 = .ok (.iload 6, 2) := dk_21 6 (dk_at dksX1_quarrel_4 5 rfl rfl)
theorem dX1_quarrel_100 : decode cX1_quarrel 100 = .ok (.iload_n 1, 1) := dk_27 (dk_at dksX1_quarrel_4 7 rfl rfl)
theorem dX1_quarrel_101 : decode cX1_quarrel 101 = .ok (.iload_n 2, 1) := dk_28 (dk_at dksX1_quarrel_4 8 rfl rfl)
theorem dX1_quarrel_102 : decode cX1_quarrel 102 = .ok (.invokestatic 384, 3) := dk_184 1 128 (dk_at dksX1_quarrel_4 9 rfl rfl)
theorem dX1_quarrel_105 : decode cX1_quarrel 105 = .ok (.if_icmp .le 6, 3) := dk_164 0 6 (dk_at dksX1_quarrel_4 12 rfl rfl)
theorem dX1_quarrel_108 : decode cX1_quarrel 108 = .ok (.goto 22, 3) := dk_167 0 22 (dk_at dksX1_quarrel_4 15 rfl rfl)
theorem dX1_quarrel_111 : decode cX1_quarrel 111 = .ok (.iinc 4 1, 3) := dk_132 4 1 (dk_at dksX1_quarrel_4 18 rfl rfl)
theorem dX1_quarrel_114 : decode cX1_quarrel 114 = .ok (.iload 5, 2) := dk_21 5 (dk_at dksX1_quarrel_4 21 rfl rfl)
theorem dX1_quarrel_116 : decode cX1_quarrel 116 = .ok (.iconst (-1), 1) := dk_2 (dk_at dksX1_quarrel_4 23 rfl rfl)
theorem dX1_quarrel_117 : decode cX1_quarrel 117 = .ok (.if_icmp .ne 13, 3) := dk_160 0 13 (dk_at dksX1_quarrel_5 0 rfl rfl)
theorem dX1_quarrel_120 : decode cX1_quarrel 120 = .ok (.bipush 10, 2) := dk_16 10 (dk_at dksX1_quarrel_5 3 rfl rfl)
theorem dX1_quarrel_122 : decode cX1_quarrel 122 = .ok (.iload 6, 2) := dk_21 6 (dk_at dksX1_quarrel_5 5 rfl rfl)
theorem dX1_quarrel_124 : decode cX1_quarrel 124 = .ok (.imul, 1) := dk_104 (dk_at dksX1_quarrel_5 7 rfl rfl)
theorem dX1_quarrel_125 : decode cX1_quarrel 125 = .ok (.iload 7, 2) := dk_21 7 (dk_at dksX1_quarrel_5 8 rfl rfl)
theorem dX1_quarrel_127 : decode cX1_quarrel 127 = .ok (.iadd, 1) := dk_96 (dk_at dksX1_quarrel_5 10 rfl rfl)
theorem dX1_quarrel_128 : decode cX1_quarrel 128 = .ok (.istore 5, 2) := dk_54 5 (dk_at dksX1_quarrel_5 11 rfl rfl)
theorem dX1_quarrel_130 : decode cX1_quarrel 130 = .ok (.iinc 7 1, 3) := dk_132 7 1 (dk_at dksX1_quarrel_5 13 rfl rfl)
theorem dX1_quarrel_133 : decode cX1_quarrel 133 = .ok (.goto (-77), 3) := dk_167 255 179 (dk_at dksX1_quarrel_5 16 rfl rfl)
theorem dX1_quarrel_136 : decode cX1_quarrel 136 = .ok (.iinc 6 1, 3) := dk_132 6 1 (dk_at dksX1_quarrel_5 19 rfl rfl)
theorem dX1_quarrel_139 : decode cX1_quarrel 139 = .ok (.goto (-92), 3) := dk_167 255 164 (dk_at dksX1_quarrel_6 0 rfl rfl)
theorem dX1_quarrel_142 : decode cX1_quarrel 142 = .ok (.iload_n 3, 1) := dk_29 (dk_at dksX1_quarrel_6 3 rfl rfl)
theorem dX1_quarrel_143 : decode cX1_quarrel 143 = .ok (.ifCond .ne 8, 3) := dk_154 0 8 (dk_at dksX1_quarrel_6 4 rfl rfl)
theorem dX1_quarrel_146 : decode cX1_quarrel 146 = .ok (.iload 4, 2) := dk_21 4 (dk_at dksX1_quarrel_6 7 rfl rfl)
theorem dX1_quarrel_148 : decode cX1_quarrel 148 = .ok (.goto 54, 3) := dk_167 0 54 (dk_at dksX1_quarrel_6 9 rfl rfl)
theorem dX1_quarrel_151 : decode cX1_quarrel 151 = .ok (.iload_n 3, 1) := dk_29 (dk_at dksX1_quarrel_6 12 rfl rfl)
theorem dX1_quarrel_152 : decode cX1_quarrel 152 = .ok (.iconst 1, 1) := dk_4 (dk_at dksX1_quarrel_6 13 rfl rfl)
theorem dX1_quarrel_153 : decode cX1_quarrel 153 = .ok (.if_icmp .ne 8, 3) := dk_160 0 8 (dk_at dksX1_quarrel_6 14 rfl rfl)
theorem dX1_quarrel_156 : decode cX1_quarrel 156 = .ok (.iload 5, 2) := dk_21 5 (dk_at dksX1_quarrel_6 17 rfl rfl)
theorem dX1_quarrel_158 : decode cX1_quarrel 158 = .ok (.goto 44, 3) := dk_167 0 44 (dk_at dksX1_quarrel_6 19 rfl rfl)
theorem dX1_quarrel_161 : decode cX1_quarrel 161 = .ok (.iload 5, 2) := dk_21 5 (dk_at dksX1_quarrel_6 22 rfl rfl)
theorem dX1_quarrel_163 : decode cX1_quarrel 163 = .ok (.iconst (-1), 1) := dk_2 (dk_at dksX1_quarrel_7 0 rfl rfl)
theorem dX1_quarrel_164 : decode cX1_quarrel 164 = .ok (.if_icmp .ne 7, 3) := dk_160 0 7 (dk_at dksX1_quarrel_7 1 rfl rfl)
theorem dX1_quarrel_167 : decode cX1_quarrel 167 = .ok (.iconst 0, 1) := dk_3 (dk_at dksX1_quarrel_7 4 rfl rfl)
theorem dX1_quarrel_168 : decode cX1_quarrel 168 = .ok (.goto 34, 3) := dk_167 0 34 (dk_at dksX1_quarrel_7 5 rfl rfl)
theorem dX1_quarrel_171 : decode cX1_quarrel 171 = .ok (.iload 5, 2) := dk_21 5 (dk_at dksX1_quarrel_7 8 rfl rfl)
theorem dX1_quarrel_173 : decode cX1_quarrel 173 = .ok (.bipush 10, 2) := dk_16 10 (dk_at dksX1_quarrel_7 10 rfl rfl)
theorem dX1_quarrel_175 : decode cX1_quarrel 175 = .ok (.idiv, 1) := dk_108 (dk_at dksX1_quarrel_7 12 rfl rfl)
theorem dX1_quarrel_176 : decode cX1_quarrel 176 = .ok (.iload 5, 2) := dk_21 5 (dk_at dksX1_quarrel_7 13 rfl rfl)
theorem dX1_quarrel_178 : decode cX1_quarrel 178 = .ok (.bipush 10, 2) := dk_16 10 (dk_at dksX1_quarrel_7 15 rfl rfl)
theorem dX1_quarrel_180 : decode cX1_quarrel 180 = .ok (.irem, 1) := dk_112 (dk_at dksX1_quarrel_7 17 rfl rfl)
theorem dX1_quarrel_181 : decode cX1_quarrel 181 = .ok (.iload_n 1, 1) := dk_27 (dk_at dksX1_quarrel_7 18 rfl rfl)
theorem dX1_quarrel_182 : decode cX1_quarrel 182 = .ok (.iload_n 2, 1) := dk_28 (dk_at dksX1_quarrel_7 19 rfl rfl)
theorem dX1_quarrel_183 : decode cX1_quarrel 183 = .ok (.invokestatic 384, 3) := dk_184 1 128 (dk_at dksX1_quarrel_7 20 rfl rfl)
theorem dX1_quarrel_186 : decode cX1_quarrel 186 = .ok (.iload 5, 2) := dk_21 5 (dk_at dksX1_quarrel_8 0 rfl rfl)
theorem dX1_quarrel_188 : decode cX1_quarrel 188 = .ok (.bipush 10, 2) := dk_16 10 (dk_at dksX1_quarrel_8 2 rfl rfl)
theorem dX1_quarrel_190 : decode cX1_quarrel 190 = .ok (.irem, 1) := dk_112 (dk_at dksX1_quarrel_8 4 rfl rfl)
theorem dX1_quarrel_191 : decode cX1_quarrel 191 = .ok (.iload 5, 2) := dk_21 5 (dk_at dksX1_quarrel_8 5 rfl rfl)
theorem dX1_quarrel_193 : decode cX1_quarrel 193 = .ok (.bipush 10, 2) := dk_16 10 (dk_at dksX1_quarrel_8 7 rfl rfl)
theorem dX1_quarrel_195 : decode cX1_quarrel 195 = .ok (.idiv, 1) := dk_108 (dk_at dksX1_quarrel_8 9 rfl rfl)
theorem dX1_quarrel_196 : decode cX1_quarrel 196 = .ok (.iload_n 1, 1) := dk_27 (dk_at dksX1_quarrel_8 10 rfl rfl)
theorem dX1_quarrel_197 : decode cX1_quarrel 197 = .ok (.iload_n 2, 1) := dk_28 (dk_at dksX1_quarrel_8 11 rfl rfl)
theorem dX1_quarrel_198 : decode cX1_quarrel 198 = .ok (.invokestatic 384, 3) := dk_184 1 128 (dk_at dksX1_quarrel_8 12 rfl rfl)
theorem dX1_quarrel_201 : decode cX1_quarrel 201 = .ok (.iadd, 1) := dk_96 (dk_at dksX1_quarrel_8 15 rfl rfl)
theorem dX1_quarrel_202 : decode cX1_quarrel 202 = .ok (.ireturn, 1) := dk_172 (dk_at dksX1_quarrel_8 16 rfl rfl)
abbrev cX1_hasBy : ByteArray := prog_1_method_66_code
def yX1_hasBy : MethodName := ⟨RX1, "hasBy", "(IIII)I"⟩
def dkwX1_hasBy_1 : List UInt8 := [167, 0, 6, 28, 29, 96, 172]
abbrev dktX1_hasBy_1 : List UInt8 := dkwX1_hasBy_1 ++ []
def dkwX1_hasBy_0 : List UInt8 := [26, 27, 160, 0, 16, 26, 154, 0, 7, 28, 167, 0, 19, 29, 116, 167, 0, 14, 26, 154, 0, 7, 3]
abbrev dktX1_hasBy_0 : List UInt8 := dkwX1_hasBy_0 ++ dktX1_hasBy_1
theorem dksX1_hasBy_0 : cX1_hasBy.data.toList.drop 0 = dktX1_hasBy_0 := by decide +kernel
theorem dksX1_hasBy_1 : cX1_hasBy.data.toList.drop 23 = dktX1_hasBy_1 := dk_seg dksX1_hasBy_0 23 rfl rfl
theorem dX1_hasBy_0 : decode cX1_hasBy 0 = .ok (.iload_n 0, 1) := dk_26 (dk_at dksX1_hasBy_0 0 rfl rfl)
theorem dX1_hasBy_1 : decode cX1_hasBy 1 = .ok (.iload_n 1, 1) := dk_27 (dk_at dksX1_hasBy_0 1 rfl rfl)
theorem dX1_hasBy_2 : decode cX1_hasBy 2 = .ok (.if_icmp .ne 16, 3) := dk_160 0 16 (dk_at dksX1_hasBy_0 2 rfl rfl)
theorem dX1_hasBy_5 : decode cX1_hasBy 5 = .ok (.iload_n 0, 1) := dk_26 (dk_at dksX1_hasBy_0 5 rfl rfl)
theorem dX1_hasBy_6 : decode cX1_hasBy 6 = .ok (.ifCond .ne 7, 3) := dk_154 0 7 (dk_at dksX1_hasBy_0 6 rfl rfl)
theorem dX1_hasBy_9 : decode cX1_hasBy 9 = .ok (.iload_n 2, 1) := dk_28 (dk_at dksX1_hasBy_0 9 rfl rfl)
theorem dX1_hasBy_10 : decode cX1_hasBy 10 = .ok (.goto 19, 3) := dk_167 0 19 (dk_at dksX1_hasBy_0 10 rfl rfl)
theorem dX1_hasBy_13 : decode cX1_hasBy 13 = .ok (.iload_n 3, 1) := dk_29 (dk_at dksX1_hasBy_0 13 rfl rfl)
theorem dX1_hasBy_14 : decode cX1_hasBy 14 = .ok (.ineg, 1) := dk_116 (dk_at dksX1_hasBy_0 14 rfl rfl)
theorem dX1_hasBy_15 : decode cX1_hasBy 15 = .ok (.goto 14, 3) := dk_167 0 14 (dk_at dksX1_hasBy_0 15 rfl rfl)
theorem dX1_hasBy_18 : decode cX1_hasBy 18 = .ok (.iload_n 0, 1) := dk_26 (dk_at dksX1_hasBy_0 18 rfl rfl)
theorem dX1_hasBy_19 : decode cX1_hasBy 19 = .ok (.ifCond .ne 7, 3) := dk_154 0 7 (dk_at dksX1_hasBy_0 19 rfl rfl)
theorem dX1_hasBy_22 : decode cX1_hasBy 22 = .ok (.iconst 0, 1) := dk_3 (dk_at dksX1_hasBy_0 22 rfl rfl)
theorem dX1_hasBy_23 : decode cX1_hasBy 23 = .ok (.goto 6, 3) := dk_167 0 6 (dk_at dksX1_hasBy_1 0 rfl rfl)
theorem dX1_hasBy_26 : decode cX1_hasBy 26 = .ok (.iload_n 2, 1) := dk_28 (dk_at dksX1_hasBy_1 3 rfl rfl)
theorem dX1_hasBy_27 : decode cX1_hasBy 27 = .ok (.iload_n 3, 1) := dk_29 (dk_at dksX1_hasBy_1 4 rfl rfl)
theorem dX1_hasBy_28 : decode cX1_hasBy 28 = .ok (.iadd, 1) := dk_96 (dk_at dksX1_hasBy_1 5 rfl rfl)
theorem dX1_hasBy_29 : decode cX1_hasBy 29 = .ok (.ireturn, 1) := dk_172 (dk_at dksX1_hasBy_1 6 rfl rfl)
abbrev cX1_enough : ByteArray := prog_1_method_70_code
def yX1_enough : MethodName := ⟨RX1, "enough", "(IIII)J"⟩
def dkwX1_enough_6 : List UInt8 := [154, 0, 8, 22, 5, 167, 0, 5, 22, 7, 22, 9, 109, 173]
abbrev dktX1_enough_6 : List UInt8 := dkwX1_enough_6 ++ []
def dkwX1_enough_5 : List UInt8 := [153, 0, 21, 22, 9, 22, 11, 113, 55, 13, 22, 11, 55, 9, 22, 13, 55, 11, 167, 255, 234, 21, 4]
abbrev dktX1_enough_5 : List UInt8 := dkwX1_enough_5 ++ dktX1_enough_6
def dkwX1_enough_4 : List UInt8 := [167, 255, 215, 20, 1, 140, 27, 184, 1, 136, 55, 7, 22, 5, 55, 9, 22, 7, 55, 11, 22, 11, 9, 148]
abbrev dktX1_enough_4 : List UInt8 := dkwX1_enough_4 ++ dktX1_enough_5
def dkwX1_enough_3 : List UInt8 := [133, 21, 7, 184, 1, 136, 105, 29, 133, 27, 21, 7, 100, 184, 1, 136, 105, 97, 55, 5, 132, 7, 1]
abbrev dktX1_enough_3 : List UInt8 := dkwX1_enough_3 ++ dktX1_enough_4
def dkwX1_enough_2 : List UInt8 := [9, 55, 5, 28, 54, 7, 21, 7, 27, 163, 0, 41, 22, 5, 27, 21, 7, 184, 1, 132, 16, 16, 29, 100]
abbrev dktX1_enough_2 : List UInt8 := dkwX1_enough_2 ++ dktX1_enough_3
def dkwX1_enough_1 : List UInt8 := [16, 16, 184, 0, 165, 153, 0, 15, 21, 4, 184, 1, 49, 153, 0, 7, 4, 167, 0, 4, 3, 182, 0, 183]
abbrev dktX1_enough_1 : List UInt8 := dkwX1_enough_1 ++ dktX1_enough_2
def dkwX1_enough_0 : List UInt8 := [42, 27, 3, 16, 12, 184, 0, 165, 153, 0, 35, 28, 3, 16, 13, 184, 0, 165, 153, 0, 25, 29, 3]
abbrev dktX1_enough_0 : List UInt8 := dkwX1_enough_0 ++ dktX1_enough_1
theorem dksX1_enough_0 : cX1_enough.data.toList.drop 0 = dktX1_enough_0 := by decide +kernel
theorem dksX1_enough_1 : cX1_enough.data.toList.drop 23 = dktX1_enough_1 := dk_seg dksX1_enough_0 23 rfl rfl
theorem dksX1_enough_2 : cX1_enough.data.toList.drop 47 = dktX1_enough_2 := dk_seg dksX1_enough_1 24 rfl rfl
theorem dksX1_enough_3 : cX1_enough.data.toList.drop 71 = dktX1_enough_3 := dk_seg dksX1_enough_2 24 rfl rfl
theorem dksX1_enough_4 : cX1_enough.data.toList.drop 94 = dktX1_enough_4 := dk_seg dksX1_enough_3 23 rfl rfl
theorem dksX1_enough_5 : cX1_enough.data.toList.drop 118 = dktX1_enough_5 := dk_seg dksX1_enough_4 24 rfl rfl
theorem dksX1_enough_6 : cX1_enough.data.toList.drop 141 = dktX1_enough_6 := dk_seg dksX1_enough_5 23 rfl rfl
theorem dX1_enough_0 : decode cX1_enough 0 = .ok (.aload_n 0, 1) := dk_42 (dk_at dksX1_enough_0 0 rfl rfl)
theorem dX1_enough_1 : decode cX1_enough 1 = .ok (.iload_n 1, 1) := dk_27 (dk_at dksX1_enough_0 1 rfl rfl)
theorem dX1_enough_2 : decode cX1_enough 2 = .ok (.iconst 0, 1) := dk_3 (dk_at dksX1_enough_0 2 rfl rfl)
theorem dX1_enough_3 : decode cX1_enough 3 = .ok (.bipush 12, 2) := dk_16 12 (dk_at dksX1_enough_0 3 rfl rfl)
theorem dX1_enough_5 : decode cX1_enough 5 = .ok (.invokestatic 165, 3) := dk_184 0 165 (dk_at dksX1_enough_0 5 rfl rfl)
theorem dX1_enough_8 : decode cX1_enough 8 = .ok (.ifCond .eq 35, 3) := dk_153 0 35 (dk_at dksX1_enough_0 8 rfl rfl)
theorem dX1_enough_11 : decode cX1_enough 11 = .ok (.iload_n 2, 1) := dk_28 (dk_at dksX1_enough_0 11 rfl rfl)
theorem dX1_enough_12 : decode cX1_enough 12 = .ok (.iconst 0, 1) := dk_3 (dk_at dksX1_enough_0 12 rfl rfl)
theorem dX1_enough_13 : decode cX1_enough 13 = .ok (.bipush 13, 2) := dk_16 13 (dk_at dksX1_enough_0 13 rfl rfl)
theorem dX1_enough_15 : decode cX1_enough 15 = .ok (.invokestatic 165, 3) := dk_184 0 165 (dk_at dksX1_enough_0 15 rfl rfl)
theorem dX1_enough_18 : decode cX1_enough 18 = .ok (.ifCond .eq 25, 3) := dk_153 0 25 (dk_at dksX1_enough_0 18 rfl rfl)
theorem dX1_enough_21 : decode cX1_enough 21 = .ok (.iload_n 3, 1) := dk_29 (dk_at dksX1_enough_0 21 rfl rfl)
theorem dX1_enough_22 : decode cX1_enough 22 = .ok (.iconst 0, 1) := dk_3 (dk_at dksX1_enough_0 22 rfl rfl)
theorem dX1_enough_23 : decode cX1_enough 23 = .ok (.bipush 16, 2) := dk_16 16 (dk_at dksX1_enough_1 0 rfl rfl)
theorem dX1_enough_25 : decode cX1_enough 25 = .ok (.invokestatic 165, 3) := dk_184 0 165 (dk_at dksX1_enough_1 2 rfl rfl)
theorem dX1_enough_28 : decode cX1_enough 28 = .ok (.ifCond .eq 15, 3) := dk_153 0 15 (dk_at dksX1_enough_1 5 rfl rfl)
theorem dX1_enough_31 : decode cX1_enough 31 = .ok (.iload 4, 2) := dk_21 4 (dk_at dksX1_enough_1 8 rfl rfl)
theorem dX1_enough_33 : decode cX1_enough 33 = .ok (.invokestatic 305, 3) := dk_184 1 49 (dk_at dksX1_enough_1 10 rfl rfl)
theorem dX1_enough_36 : decode cX1_enough 36 = .ok (.ifCond .eq 7, 3) := dk_153 0 7 (dk_at dksX1_enough_1 13 rfl rfl)
theorem dX1_enough_39 : decode cX1_enough 39 = .ok (.iconst 1, 1) := dk_4 (dk_at dksX1_enough_1 16 rfl rfl)
theorem dX1_enough_40 : decode cX1_enough 40 = .ok (.goto 4, 3) := dk_167 0 4 (dk_at dksX1_enough_1 17 rfl rfl)
theorem dX1_enough_43 : decode cX1_enough 43 = .ok (.iconst 0, 1) := dk_3 (dk_at dksX1_enough_1 20 rfl rfl)
theorem dX1_enough_44 : decode cX1_enough 44 = .ok (.invokevirtual 183, 3) := dk_182 0 183 (dk_at dksX1_enough_1 21 rfl rfl)
theorem dX1_enough_47 : decode cX1_enough 47 = .ok (.lconst 0, 1) := dk_9 (dk_at dksX1_enough_2 0 rfl rfl)
theorem dX1_enough_48 : decode cX1_enough 48 = .ok (.lstore 5, 2) := dk_55 5 (dk_at dksX1_enough_2 1 rfl rfl)
theorem dX1_enough_50 : decode cX1_enough 50 = .ok (.iload_n 2, 1) := dk_28 (dk_at dksX1_enough_2 3 rfl rfl)
theorem dX1_enough_51 : decode cX1_enough 51 = .ok (.istore 7, 2) := dk_54 7 (dk_at dksX1_enough_2 4 rfl rfl)
theorem dX1_enough_53 : decode cX1_enough 53 = .ok (.iload 7, 2) := dk_21 7 (dk_at dksX1_enough_2 6 rfl rfl)
theorem dX1_enough_55 : decode cX1_enough 55 = .ok (.iload_n 1, 1) := dk_27 (dk_at dksX1_enough_2 8 rfl rfl)
theorem dX1_enough_56 : decode cX1_enough 56 = .ok (.if_icmp .gt 41, 3) := dk_163 0 41 (dk_at dksX1_enough_2 9 rfl rfl)
theorem dX1_enough_59 : decode cX1_enough 59 = .ok (.lload 5, 2) := dk_22 5 (dk_at dksX1_enough_2 12 rfl rfl)
theorem dX1_enough_61 : decode cX1_enough 61 = .ok (.iload_n 1, 1) := dk_27 (dk_at dksX1_enough_2 14 rfl rfl)
theorem dX1_enough_62 : decode cX1_enough 62 = .ok (.iload 7, 2) := dk_21 7 (dk_at dksX1_enough_2 15 rfl rfl)
theorem dX1_enough_64 : decode cX1_enough 64 = .ok (.invokestatic 388, 3) := dk_184 1 132 (dk_at dksX1_enough_2 17 rfl rfl)
theorem dX1_enough_67 : decode cX1_enough 67 = .ok (.bipush 16, 2) := dk_16 16 (dk_at dksX1_enough_2 20 rfl rfl)
theorem dX1_enough_69 : decode cX1_enough 69 = .ok (.iload_n 3, 1) := dk_29 (dk_at dksX1_enough_2 22 rfl rfl)
theorem dX1_enough_70 : decode cX1_enough 70 = .ok (.isub, 1) := dk_100 (dk_at dksX1_enough_2 23 rfl rfl)
theorem dX1_enough_71 : decode cX1_enough 71 = .ok (.i2l, 1) := dk_133 (dk_at dksX1_enough_3 0 rfl rfl)
theorem dX1_enough_72 : decode cX1_enough 72 = .ok (.iload 7, 2) := dk_21 7 (dk_at dksX1_enough_3 1 rfl rfl)
theorem dX1_enough_74 : decode cX1_enough 74 = .ok (.invokestatic 392, 3) := dk_184 1 136 (dk_at dksX1_enough_3 3 rfl rfl)
theorem dX1_enough_77 : decode cX1_enough 77 = .ok (.lmul, 1) := dk_105 (dk_at dksX1_enough_3 6 rfl rfl)
theorem dX1_enough_78 : decode cX1_enough 78 = .ok (.iload_n 3, 1) := dk_29 (dk_at dksX1_enough_3 7 rfl rfl)
theorem dX1_enough_79 : decode cX1_enough 79 = .ok (.i2l, 1) := dk_133 (dk_at dksX1_enough_3 8 rfl rfl)
theorem dX1_enough_80 : decode cX1_enough 80 = .ok (.iload_n 1, 1) := dk_27 (dk_at dksX1_enough_3 9 rfl rfl)
theorem dX1_enough_81 : decode cX1_enough 81 = .ok (.iload 7, 2) := dk_21 7 (dk_at dksX1_enough_3 10 rfl rfl)
theorem dX1_enough_83 : decode cX1_enough 83 = .ok (.isub, 1) := dk_100 (dk_at dksX1_enough_3 12 rfl rfl)
theorem dX1_enough_84 : decode cX1_enough 84 = .ok (.invokestatic 392, 3) := dk_184 1 136 (dk_at dksX1_enough_3 13 rfl rfl)
theorem dX1_enough_87 : decode cX1_enough 87 = .ok (.lmul, 1) := dk_105 (dk_at dksX1_enough_3 16 rfl rfl)
theorem dX1_enough_88 : decode cX1_enough 88 = .ok (.ladd, 1) := dk_97 (dk_at dksX1_enough_3 17 rfl rfl)
theorem dX1_enough_89 : decode cX1_enough 89 = .ok (.lstore 5, 2) := dk_55 5 (dk_at dksX1_enough_3 18 rfl rfl)
theorem dX1_enough_91 : decode cX1_enough 91 = .ok (.iinc 7 1, 3) := dk_132 7 1 (dk_at dksX1_enough_3 20 rfl rfl)
theorem dX1_enough_94 : decode cX1_enough 94 = .ok (.goto (-41), 3) := dk_167 255 215 (dk_at dksX1_enough_4 0 rfl rfl)
theorem dX1_enough_97 : decode cX1_enough 97 = .ok (.ldc2_w 396, 3) := dk_20 1 140 (dk_at dksX1_enough_4 3 rfl rfl)
theorem dX1_enough_100 : decode cX1_enough 100 = .ok (.iload_n 1, 1) := dk_27 (dk_at dksX1_enough_4 6 rfl rfl)
theorem dX1_enough_101 : decode cX1_enough 101 = .ok (.invokestatic 392, 3) := dk_184 1 136 (dk_at dksX1_enough_4 7 rfl rfl)
theorem dX1_enough_104 : decode cX1_enough 104 = .ok (.lstore 7, 2) := dk_55 7 (dk_at dksX1_enough_4 10 rfl rfl)
theorem dX1_enough_106 : decode cX1_enough 106 = .ok (.lload 5, 2) := dk_22 5 (dk_at dksX1_enough_4 12 rfl rfl)
theorem dX1_enough_108 : decode cX1_enough 108 = .ok (.lstore 9, 2) := dk_55 9 (dk_at dksX1_enough_4 14 rfl rfl)
theorem dX1_enough_110 : decode cX1_enough 110 = .ok (.lload 7, 2) := dk_22 7 (dk_at dksX1_enough_4 16 rfl rfl)
theorem dX1_enough_112 : decode cX1_enough 112 = .ok (.lstore 11, 2) := dk_55 11 (dk_at dksX1_enough_4 18 rfl rfl)
theorem dX1_enough_114 : decode cX1_enough 114 = .ok (.lload 11, 2) := dk_22 11 (dk_at dksX1_enough_4 20 rfl rfl)
theorem dX1_enough_116 : decode cX1_enough 116 = .ok (.lconst 0, 1) := dk_9 (dk_at dksX1_enough_4 22 rfl rfl)
theorem dX1_enough_117 : decode cX1_enough 117 = .ok (.lcmp, 1) := dk_148 (dk_at dksX1_enough_4 23 rfl rfl)
theorem dX1_enough_118 : decode cX1_enough 118 = .ok (.ifCond .eq 21, 3) := dk_153 0 21 (dk_at dksX1_enough_5 0 rfl rfl)
theorem dX1_enough_121 : decode cX1_enough 121 = .ok (.lload 9, 2) := dk_22 9 (dk_at dksX1_enough_5 3 rfl rfl)
theorem dX1_enough_123 : decode cX1_enough 123 = .ok (.lload 11, 2) := dk_22 11 (dk_at dksX1_enough_5 5 rfl rfl)
theorem dX1_enough_125 : decode cX1_enough 125 = .ok (.lrem, 1) := dk_113 (dk_at dksX1_enough_5 7 rfl rfl)
theorem dX1_enough_126 : decode cX1_enough 126 = .ok (.lstore 13, 2) := dk_55 13 (dk_at dksX1_enough_5 8 rfl rfl)
theorem dX1_enough_128 : decode cX1_enough 128 = .ok (.lload 11, 2) := dk_22 11 (dk_at dksX1_enough_5 10 rfl rfl)
theorem dX1_enough_130 : decode cX1_enough 130 = .ok (.lstore 9, 2) := dk_55 9 (dk_at dksX1_enough_5 12 rfl rfl)
theorem dX1_enough_132 : decode cX1_enough 132 = .ok (.lload 13, 2) := dk_22 13 (dk_at dksX1_enough_5 14 rfl rfl)
theorem dX1_enough_134 : decode cX1_enough 134 = .ok (.lstore 11, 2) := dk_55 11 (dk_at dksX1_enough_5 16 rfl rfl)
theorem dX1_enough_136 : decode cX1_enough 136 = .ok (.goto (-22), 3) := dk_167 255 234 (dk_at dksX1_enough_5 18 rfl rfl)
theorem dX1_enough_139 : decode cX1_enough 139 = .ok (.iload 4, 2) := dk_21 4 (dk_at dksX1_enough_5 21 rfl rfl)
theorem dX1_enough_141 : decode cX1_enough 141 = .ok (.ifCond .ne 8, 3) := dk_154 0 8 (dk_at dksX1_enough_6 0 rfl rfl)
theorem dX1_enough_144 : decode cX1_enough 144 = .ok (.lload 5, 2) := dk_22 5 (dk_at dksX1_enough_6 3 rfl rfl)
theorem dX1_enough_146 : decode cX1_enough 146 = .ok (.goto 5, 3) := dk_167 0 5 (dk_at dksX1_enough_6 5 rfl rfl)
theorem dX1_enough_149 : decode cX1_enough 149 = .ok (.lload 7, 2) := dk_22 7 (dk_at dksX1_enough_6 8 rfl rfl)
theorem dX1_enough_151 : decode cX1_enough 151 = .ok (.lload 9, 2) := dk_22 9 (dk_at dksX1_enough_6 10 rfl rfl)
theorem dX1_enough_153 : decode cX1_enough 153 = .ok (.ldiv, 1) := dk_109 (dk_at dksX1_enough_6 12 rfl rfl)
theorem dX1_enough_154 : decode cX1_enough 154 = .ok (.lreturn, 1) := dk_173 (dk_at dksX1_enough_6 13 rfl rfl)
abbrev cX1_ways : ByteArray := prog_1_method_69_code
def yX1_ways : MethodName := ⟨RX1, "ways", "(II)J"⟩
def dkwX1_ways_1 : List UInt8 := [65, 132, 4, 1, 167, 255, 233, 32, 173]
abbrev dktX1_ways_1 : List UInt8 := dkwX1_ways_1 ++ []
def dkwX1_ways_0 : List UInt8 := [10, 65, 3, 54, 4, 21, 4, 27, 162, 0, 23, 32, 26, 21, 4, 100, 133, 105, 21, 4, 4, 96, 133, 109]
abbrev dktX1_ways_0 : List UInt8 := dkwX1_ways_0 ++ dktX1_ways_1
theorem dksX1_ways_0 : cX1_ways.data.toList.drop 0 = dktX1_ways_0 := by decide +kernel
theorem dksX1_ways_1 : cX1_ways.data.toList.drop 24 = dktX1_ways_1 := dk_seg dksX1_ways_0 24 rfl rfl
theorem dX1_ways_0 : decode cX1_ways 0 = .ok (.lconst 1, 1) := dk_10 (dk_at dksX1_ways_0 0 rfl rfl)
theorem dX1_ways_1 : decode cX1_ways 1 = .ok (.lstore_n 2, 1) := dk_65 (dk_at dksX1_ways_0 1 rfl rfl)
theorem dX1_ways_2 : decode cX1_ways 2 = .ok (.iconst 0, 1) := dk_3 (dk_at dksX1_ways_0 2 rfl rfl)
theorem dX1_ways_3 : decode cX1_ways 3 = .ok (.istore 4, 2) := dk_54 4 (dk_at dksX1_ways_0 3 rfl rfl)
theorem dX1_ways_5 : decode cX1_ways 5 = .ok (.iload 4, 2) := dk_21 4 (dk_at dksX1_ways_0 5 rfl rfl)
theorem dX1_ways_7 : decode cX1_ways 7 = .ok (.iload_n 1, 1) := dk_27 (dk_at dksX1_ways_0 7 rfl rfl)
theorem dX1_ways_8 : decode cX1_ways 8 = .ok (.if_icmp .ge 23, 3) := dk_162 0 23 (dk_at dksX1_ways_0 8 rfl rfl)
theorem dX1_ways_11 : decode cX1_ways 11 = .ok (.lload_n 2, 1) := dk_32 (dk_at dksX1_ways_0 11 rfl rfl)
theorem dX1_ways_12 : decode cX1_ways 12 = .ok (.iload_n 0, 1) := dk_26 (dk_at dksX1_ways_0 12 rfl rfl)
theorem dX1_ways_13 : decode cX1_ways 13 = .ok (.iload 4, 2) := dk_21 4 (dk_at dksX1_ways_0 13 rfl rfl)
theorem dX1_ways_15 : decode cX1_ways 15 = .ok (.isub, 1) := dk_100 (dk_at dksX1_ways_0 15 rfl rfl)
theorem dX1_ways_16 : decode cX1_ways 16 = .ok (.i2l, 1) := dk_133 (dk_at dksX1_ways_0 16 rfl rfl)
theorem dX1_ways_17 : decode cX1_ways 17 = .ok (.lmul, 1) := dk_105 (dk_at dksX1_ways_0 17 rfl rfl)
theorem dX1_ways_18 : decode cX1_ways 18 = .ok (.iload 4, 2) := dk_21 4 (dk_at dksX1_ways_0 18 rfl rfl)
theorem dX1_ways_20 : decode cX1_ways 20 = .ok (.iconst 1, 1) := dk_4 (dk_at dksX1_ways_0 20 rfl rfl)
theorem dX1_ways_21 : decode cX1_ways 21 = .ok (.iadd, 1) := dk_96 (dk_at dksX1_ways_0 21 rfl rfl)
theorem dX1_ways_22 : decode cX1_ways 22 = .ok (.i2l, 1) := dk_133 (dk_at dksX1_ways_0 22 rfl rfl)
theorem dX1_ways_23 : decode cX1_ways 23 = .ok (.ldiv, 1) := dk_109 (dk_at dksX1_ways_0 23 rfl rfl)
theorem dX1_ways_24 : decode cX1_ways 24 = .ok (.lstore_n 2, 1) := dk_65 (dk_at dksX1_ways_1 0 rfl rfl)
theorem dX1_ways_25 : decode cX1_ways 25 = .ok (.iinc 4 1, 3) := dk_132 4 1 (dk_at dksX1_ways_1 1 rfl rfl)
theorem dX1_ways_28 : decode cX1_ways 28 = .ok (.goto (-23), 3) := dk_167 255 233 (dk_at dksX1_ways_1 4 rfl rfl)
theorem dX1_ways_31 : decode cX1_ways 31 = .ok (.lload_n 2, 1) := dk_32 (dk_at dksX1_ways_1 7 rfl rfl)
theorem dX1_ways_32 : decode cX1_ways 32 = .ok (.lreturn, 1) := dk_173 (dk_at dksX1_ways_1 8 rfl rfl)
abbrev cX1_power : ByteArray := prog_1_method_68_code
def yX1_power : MethodName := ⟨RX1, "power", "(JI)J"⟩
def dkwX1_power_0 : List UInt8 := [10, 66, 3, 54, 5, 21, 5, 28, 162, 0, 13, 33, 30, 105, 66, 132, 5, 1, 167, 255, 243, 33, 173]
abbrev dktX1_power_0 : List UInt8 := dkwX1_power_0 ++ []
theorem dksX1_power_0 : cX1_power.data.toList.drop 0 = dktX1_power_0 := by decide +kernel
theorem dX1_power_0 : decode cX1_power 0 = .ok (.lconst 1, 1) := dk_10 (dk_at dksX1_power_0 0 rfl rfl)
theorem dX1_power_1 : decode cX1_power 1 = .ok (.lstore_n 3, 1) := dk_66 (dk_at dksX1_power_0 1 rfl rfl)
theorem dX1_power_2 : decode cX1_power 2 = .ok (.iconst 0, 1) := dk_3 (dk_at dksX1_power_0 2 rfl rfl)
theorem dX1_power_3 : decode cX1_power 3 = .ok (.istore 5, 2) := dk_54 5 (dk_at dksX1_power_0 3 rfl rfl)
theorem dX1_power_5 : decode cX1_power 5 = .ok (.iload 5, 2) := dk_21 5 (dk_at dksX1_power_0 5 rfl rfl)
theorem dX1_power_7 : decode cX1_power 7 = .ok (.iload_n 2, 1) := dk_28 (dk_at dksX1_power_0 7 rfl rfl)
theorem dX1_power_8 : decode cX1_power 8 = .ok (.if_icmp .ge 13, 3) := dk_162 0 13 (dk_at dksX1_power_0 8 rfl rfl)
theorem dX1_power_11 : decode cX1_power 11 = .ok (.lload_n 3, 1) := dk_33 (dk_at dksX1_power_0 11 rfl rfl)
theorem dX1_power_12 : decode cX1_power 12 = .ok (.lload_n 0, 1) := dk_30 (dk_at dksX1_power_0 12 rfl rfl)
theorem dX1_power_13 : decode cX1_power 13 = .ok (.lmul, 1) := dk_105 (dk_at dksX1_power_0 13 rfl rfl)
theorem dX1_power_14 : decode cX1_power 14 = .ok (.lstore_n 3, 1) := dk_66 (dk_at dksX1_power_0 14 rfl rfl)
theorem dX1_power_15 : decode cX1_power 15 = .ok (.iinc 5 1, 3) := dk_132 5 1 (dk_at dksX1_power_0 15 rfl rfl)
theorem dX1_power_18 : decode cX1_power 18 = .ok (.goto (-13), 3) := dk_167 255 243 (dk_at dksX1_power_0 18 rfl rfl)
theorem dX1_power_21 : decode cX1_power 21 = .ok (.lload_n 3, 1) := dk_33 (dk_at dksX1_power_0 21 rfl rfl)
theorem dX1_power_22 : decode cX1_power 22 = .ok (.lreturn, 1) := dk_173 (dk_at dksX1_power_0 22 rfl rfl)
abbrev cX1_rent : ByteArray := prog_1_method_72_code
def yX1_rent : MethodName := ⟨RX1, "rent", "(III)I"⟩
def dkwX1_rent_3 : List UInt8 := [184, 1, 86, 153, 0, 19, 21, 4, 42, 27, 182, 1, 23, 180, 1, 28, 184, 0, 142, 167, 0, 4, 3, 172]
abbrev dktX1_rent_3 : List UInt8 := dkwX1_rent_3 ++ []
def dkwX1_rent_2 : List UInt8 := [162, 0, 22, 42, 28, 21, 4, 4, 96, 182, 1, 142, 29, 163, 0, 9, 132, 4, 1, 167, 255, 233, 28, 27]
abbrev dktX1_rent_2 : List UInt8 := dkwX1_rent_2 ++ dktX1_rent_3
def dkwX1_rent_1 : List UInt8 := [17, 3, 231, 184, 0, 165, 153, 0, 7, 4, 167, 0, 4, 3, 182, 0, 183, 3, 54, 4, 21, 4, 16, 60]
abbrev dktX1_rent_1 : List UInt8 := dkwX1_rent_1 ++ dktX1_rent_2
def dkwX1_rent_0 : List UInt8 := [42, 27, 182, 1, 20, 42, 28, 155, 0, 28, 28, 4, 42, 182, 0, 157, 120, 162, 0, 18, 29, 3]
abbrev dktX1_rent_0 : List UInt8 := dkwX1_rent_0 ++ dktX1_rent_1
theorem dksX1_rent_0 : cX1_rent.data.toList.drop 0 = dktX1_rent_0 := by decide +kernel
theorem dksX1_rent_1 : cX1_rent.data.toList.drop 22 = dktX1_rent_1 := dk_seg dksX1_rent_0 22 rfl rfl
theorem dksX1_rent_2 : cX1_rent.data.toList.drop 46 = dktX1_rent_2 := dk_seg dksX1_rent_1 24 rfl rfl
theorem dksX1_rent_3 : cX1_rent.data.toList.drop 70 = dktX1_rent_3 := dk_seg dksX1_rent_2 24 rfl rfl
theorem dX1_rent_0 : decode cX1_rent 0 = .ok (.aload_n 0, 1) := dk_42 (dk_at dksX1_rent_0 0 rfl rfl)
theorem dX1_rent_1 : decode cX1_rent 1 = .ok (.iload_n 1, 1) := dk_27 (dk_at dksX1_rent_0 1 rfl rfl)
theorem dX1_rent_2 : decode cX1_rent 2 = .ok (.invokevirtual 276, 3) := dk_182 1 20 (dk_at dksX1_rent_0 2 rfl rfl)
theorem dX1_rent_5 : decode cX1_rent 5 = .ok (.aload_n 0, 1) := dk_42 (dk_at dksX1_rent_0 5 rfl rfl)
theorem dX1_rent_6 : decode cX1_rent 6 = .ok (.iload_n 2, 1) := dk_28 (dk_at dksX1_rent_0 6 rfl rfl)
theorem dX1_rent_7 : decode cX1_rent 7 = .ok (.ifCond .lt 28, 3) := dk_155 0 28 (dk_at dksX1_rent_0 7 rfl rfl)
theorem dX1_rent_10 : decode cX1_rent 10 = .ok (.iload_n 2, 1) := dk_28 (dk_at dksX1_rent_0 10 rfl rfl)
theorem dX1_rent_11 : decode cX1_rent 11 = .ok (.iconst 1, 1) := dk_4 (dk_at dksX1_rent_0 11 rfl rfl)
theorem dX1_rent_12 : decode cX1_rent 12 = .ok (.aload_n 0, 1) := dk_42 (dk_at dksX1_rent_0 12 rfl rfl)
theorem dX1_rent_13 : decode cX1_rent 13 = .ok (.invokevirtual 157, 3) := dk_182 0 157 (dk_at dksX1_rent_0 13 rfl rfl)
theorem dX1_rent_16 : decode cX1_rent 16 = .ok (.ishl, 1) := dk_120 (dk_at dksX1_rent_0 16 rfl rfl)
theorem dX1_rent_17 : decode cX1_rent 17 = .ok (.if_icmp .ge 18, 3) := dk_162 0 18 (dk_at dksX1_rent_0 17 rfl rfl)
theorem dX1_rent_20 : decode cX1_rent 20 = .ok (.iload_n 3, 1) := dk_29 (dk_at dksX1_rent_0 20 rfl rfl)
theorem dX1_rent_21 : decode cX1_rent 21 = .ok (.iconst 0, 1) := dk_3 (dk_at dksX1_rent_0 21 rfl rfl)
theorem dX1_rent_22 : decode cX1_rent 22 = .ok (.sipush 999, 3) := dk_17 3 231 (dk_at dksX1_rent_1 0 rfl rfl)
theorem dX1_rent_25 : decode cX1_rent 25 = .ok (.invokestatic 165, 3) := dk_184 0 165 (dk_at dksX1_rent_1 3 rfl rfl)
theorem dX1_rent_28 : decode cX1_rent 28 = .ok (.ifCond .eq 7, 3) := dk_153 0 7 (dk_at dksX1_rent_1 6 rfl rfl)
theorem dX1_rent_31 : decode cX1_rent 31 = .ok (.iconst 1, 1) := dk_4 (dk_at dksX1_rent_1 9 rfl rfl)
theorem dX1_rent_32 : decode cX1_rent 32 = .ok (.goto 4, 3) := dk_167 0 4 (dk_at dksX1_rent_1 10 rfl rfl)
theorem dX1_rent_35 : decode cX1_rent 35 = .ok (.iconst 0, 1) := dk_3 (dk_at dksX1_rent_1 13 rfl rfl)
theorem dX1_rent_36 : decode cX1_rent 36 = .ok (.invokevirtual 183, 3) := dk_182 0 183 (dk_at dksX1_rent_1 14 rfl rfl)
theorem dX1_rent_39 : decode cX1_rent 39 = .ok (.iconst 0, 1) := dk_3 (dk_at dksX1_rent_1 17 rfl rfl)
theorem dX1_rent_40 : decode cX1_rent 40 = .ok (.istore 4, 2) := dk_54 4 (dk_at dksX1_rent_1 18 rfl rfl)
theorem dX1_rent_42 : decode cX1_rent 42 = .ok (.iload 4, 2) := dk_21 4 (dk_at dksX1_rent_1 20 rfl rfl)
theorem dX1_rent_44 : decode cX1_rent 44 = .ok (.bipush 60, 2) := dk_16 60 (dk_at dksX1_rent_1 22 rfl rfl)
theorem dX1_rent_46 : decode cX1_rent 46 = .ok (.if_icmp .ge 22, 3) := dk_162 0 22 (dk_at dksX1_rent_2 0 rfl rfl)
theorem dX1_rent_49 : decode cX1_rent 49 = .ok (.aload_n 0, 1) := dk_42 (dk_at dksX1_rent_2 3 rfl rfl)
theorem dX1_rent_50 : decode cX1_rent 50 = .ok (.iload_n 2, 1) := dk_28 (dk_at dksX1_rent_2 4 rfl rfl)
theorem dX1_rent_51 : decode cX1_rent 51 = .ok (.iload 4, 2) := dk_21 4 (dk_at dksX1_rent_2 5 rfl rfl)
theorem dX1_rent_53 : decode cX1_rent 53 = .ok (.iconst 1, 1) := dk_4 (dk_at dksX1_rent_2 7 rfl rfl)
theorem dX1_rent_54 : decode cX1_rent 54 = .ok (.iadd, 1) := dk_96 (dk_at dksX1_rent_2 8 rfl rfl)
theorem dX1_rent_55 : decode cX1_rent 55 = .ok (.invokevirtual 398, 3) := dk_182 1 142 (dk_at dksX1_rent_2 9 rfl rfl)
theorem dX1_rent_58 : decode cX1_rent 58 = .ok (.iload_n 3, 1) := dk_29 (dk_at dksX1_rent_2 12 rfl rfl)
theorem dX1_rent_59 : decode cX1_rent 59 = .ok (.if_icmp .gt 9, 3) := dk_163 0 9 (dk_at dksX1_rent_2 13 rfl rfl)
theorem dX1_rent_62 : decode cX1_rent 62 = .ok (.iinc 4 1, 3) := dk_132 4 1 (dk_at dksX1_rent_2 16 rfl rfl)
theorem dX1_rent_65 : decode cX1_rent 65 = .ok (.goto (-23), 3) := dk_167 255 233 (dk_at dksX1_rent_2 19 rfl rfl)
theorem dX1_rent_68 : decode cX1_rent 68 = .ok (.iload_n 2, 1) := dk_28 (dk_at dksX1_rent_2 22 rfl rfl)
theorem dX1_rent_69 : decode cX1_rent 69 = .ok (.iload_n 1, 1) := dk_27 (dk_at dksX1_rent_2 23 rfl rfl)
theorem dX1_rent_70 : decode cX1_rent 70 = .ok (.invokestatic 342, 3) := dk_184 1 86 (dk_at dksX1_rent_3 0 rfl rfl)
theorem dX1_rent_73 : decode cX1_rent 73 = .ok (.ifCond .eq 19, 3) := dk_153 0 19 (dk_at dksX1_rent_3 3 rfl rfl)
theorem dX1_rent_76 : decode cX1_rent 76 = .ok (.iload 4, 2) := dk_21 4 (dk_at dksX1_rent_3 6 rfl rfl)
theorem dX1_rent_78 : decode cX1_rent 78 = .ok (.aload_n 0, 1) := dk_42 (dk_at dksX1_rent_3 8 rfl rfl)
theorem dX1_rent_79 : decode cX1_rent 79 = .ok (.iload_n 1, 1) := dk_27 (dk_at dksX1_rent_3 9 rfl rfl)
theorem dX1_rent_80 : decode cX1_rent 80 = .ok (.invokevirtual 279, 3) := dk_182 1 23 (dk_at dksX1_rent_3 10 rfl rfl)
theorem dX1_rent_83 : decode cX1_rent 83 = .ok (.getfield 284, 3) := dk_180 1 28 (dk_at dksX1_rent_3 13 rfl rfl)
theorem dX1_rent_86 : decode cX1_rent 86 = .ok (.invokestatic 142, 3) := dk_184 0 142 (dk_at dksX1_rent_3 16 rfl rfl)
theorem dX1_rent_89 : decode cX1_rent 89 = .ok (.goto 4, 3) := dk_167 0 4 (dk_at dksX1_rent_3 19 rfl rfl)
theorem dX1_rent_92 : decode cX1_rent 92 = .ok (.iconst 0, 1) := dk_3 (dk_at dksX1_rent_3 22 rfl rfl)
theorem dX1_rent_93 : decode cX1_rent 93 = .ok (.ireturn, 1) := dk_172 (dk_at dksX1_rent_3 23 rfl rfl)
abbrev cX1_rented : ByteArray := prog_1_method_71_code
def yX1_rented : MethodName := ⟨RX1, "rented", "(II)I"⟩
def dkwX1_rented_2 : List UInt8 := [167, 255, 215, 29, 172]
abbrev dktX1_rented_2 : List UInt8 := dkwX1_rented_2 ++ []
def dkwX1_rented_1 : List UInt8 := [28, 42, 21, 4, 182, 1, 23, 180, 1, 28, 184, 0, 142, 167, 0, 4, 3, 96, 62, 132, 4, 1]
abbrev dktX1_rented_1 : List UInt8 := dkwX1_rented_1 ++ dktX1_rented_2
def dkwX1_rented_0 : List UInt8 := [3, 62, 3, 54, 4, 21, 4, 42, 182, 0, 157, 162, 0, 38, 29, 27, 21, 4, 184, 1, 86, 153, 0, 19]
abbrev dktX1_rented_0 : List UInt8 := dkwX1_rented_0 ++ dktX1_rented_1
theorem dksX1_rented_0 : cX1_rented.data.toList.drop 0 = dktX1_rented_0 := by decide +kernel
theorem dksX1_rented_1 : cX1_rented.data.toList.drop 24 = dktX1_rented_1 := dk_seg dksX1_rented_0 24 rfl rfl
theorem dksX1_rented_2 : cX1_rented.data.toList.drop 46 = dktX1_rented_2 := dk_seg dksX1_rented_1 22 rfl rfl
theorem dX1_rented_0 : decode cX1_rented 0 = .ok (.iconst 0, 1) := dk_3 (dk_at dksX1_rented_0 0 rfl rfl)
theorem dX1_rented_1 : decode cX1_rented 1 = .ok (.istore_n 3, 1) := dk_62 (dk_at dksX1_rented_0 1 rfl rfl)
theorem dX1_rented_2 : decode cX1_rented 2 = .ok (.iconst 0, 1) := dk_3 (dk_at dksX1_rented_0 2 rfl rfl)
theorem dX1_rented_3 : decode cX1_rented 3 = .ok (.istore 4, 2) := dk_54 4 (dk_at dksX1_rented_0 3 rfl rfl)
theorem dX1_rented_5 : decode cX1_rented 5 = .ok (.iload 4, 2) := dk_21 4 (dk_at dksX1_rented_0 5 rfl rfl)
theorem dX1_rented_7 : decode cX1_rented 7 = .ok (.aload_n 0, 1) := dk_42 (dk_at dksX1_rented_0 7 rfl rfl)
theorem dX1_rented_8 : decode cX1_rented 8 = .ok (.invokevirtual 157, 3) := dk_182 0 157 (dk_at dksX1_rented_0 8 rfl rfl)
theorem dX1_rented_11 : decode cX1_rented 11 = .ok (.if_icmp .ge 38, 3) := dk_162 0 38 (dk_at dksX1_rented_0 11 rfl rfl)
theorem dX1_rented_14 : decode cX1_rented 14 = .ok (.iload_n 3, 1) := dk_29 (dk_at dksX1_rented_0 14 rfl rfl)
theorem dX1_rented_15 : decode cX1_rented 15 = .ok (.iload_n 1, 1) := dk_27 (dk_at dksX1_rented_0 15 rfl rfl)
theorem dX1_rented_16 : decode cX1_rented 16 = .ok (.iload 4, 2) := dk_21 4 (dk_at dksX1_rented_0 16 rfl rfl)
theorem dX1_rented_18 : decode cX1_rented 18 = .ok (.invokestatic 342, 3) := dk_184 1 86 (dk_at dksX1_rented_0 18 rfl rfl)
theorem dX1_rented_21 : decode cX1_rented 21 = .ok (.ifCond .eq 19, 3) := dk_153 0 19 (dk_at dksX1_rented_0 21 rfl rfl)
theorem dX1_rented_24 : decode cX1_rented 24 = .ok (.iload_n 2, 1) := dk_28 (dk_at dksX1_rented_1 0 rfl rfl)
theorem dX1_rented_25 : decode cX1_rented 25 = .ok (.aload_n 0, 1) := dk_42 (dk_at dksX1_rented_1 1 rfl rfl)
theorem dX1_rented_26 : decode cX1_rented 26 = .ok (.iload 4, 2) := dk_21 4 (dk_at dksX1_rented_1 2 rfl rfl)
theorem dX1_rented_28 : decode cX1_rented 28 = .ok (.invokevirtual 279, 3) := dk_182 1 23 (dk_at dksX1_rented_1 4 rfl rfl)
theorem dX1_rented_31 : decode cX1_rented 31 = .ok (.getfield 284, 3) := dk_180 1 28 (dk_at dksX1_rented_1 7 rfl rfl)
theorem dX1_rented_34 : decode cX1_rented 34 = .ok (.invokestatic 142, 3) := dk_184 0 142 (dk_at dksX1_rented_1 10 rfl rfl)
theorem dX1_rented_37 : decode cX1_rented 37 = .ok (.goto 4, 3) := dk_167 0 4 (dk_at dksX1_rented_1 13 rfl rfl)
theorem dX1_rented_40 : decode cX1_rented 40 = .ok (.iconst 0, 1) := dk_3 (dk_at dksX1_rented_1 16 rfl rfl)
theorem dX1_rented_41 : decode cX1_rented 41 = .ok (.iadd, 1) := dk_96 (dk_at dksX1_rented_1 17 rfl rfl)
theorem dX1_rented_42 : decode cX1_rented 42 = .ok (.istore_n 3, 1) := dk_62 (dk_at dksX1_rented_1 18 rfl rfl)
theorem dX1_rented_43 : decode cX1_rented 43 = .ok (.iinc 4 1, 3) := dk_132 4 1 (dk_at dksX1_rented_1 19 rfl rfl)
theorem dX1_rented_46 : decode cX1_rented 46 = .ok (.goto (-41), 3) := dk_167 255 215 (dk_at dksX1_rented_2 0 rfl rfl)
theorem dX1_rented_49 : decode cX1_rented 49 = .ok (.iload_n 3, 1) := dk_29 (dk_at dksX1_rented_2 3 rfl rfl)
theorem dX1_rented_50 : decode cX1_rented 50 = .ok (.ireturn, 1) := dk_172 (dk_at dksX1_rented_2 4 rfl rfl)
abbrev cX1_dearest : ByteArray := prog_1_method_33_code
def yX1_dearest : MethodName := ⟨RX1, "dearest", "(I)I"⟩
def dkwX1_dearest_3 : List UInt8 := [180, 1, 28, 172]
abbrev dktX1_dearest_3 : List UInt8 := dkwX1_dearest_3 ++ []
def dkwX1_dearest_2 : List UInt8 := [132, 3, 1, 167, 255, 219, 27, 153, 0, 8, 28, 2, 160, 0, 7, 28, 167, 0, 11, 42, 28, 182, 1, 23]
abbrev dktX1_dearest_2 : List UInt8 := dkwX1_dearest_2 ++ dktX1_dearest_3
def dkwX1_dearest_1 : List UInt8 := [159, 0, 22, 42, 29, 182, 1, 23, 180, 1, 28, 42, 28, 182, 1, 23, 180, 1, 28, 164, 0, 5, 29, 61]
abbrev dktX1_dearest_1 : List UInt8 := dkwX1_dearest_1 ++ dktX1_dearest_2
def dkwX1_dearest_0 : List UInt8 := [42, 27, 184, 1, 49, 182, 0, 183, 2, 61, 3, 62, 29, 42, 182, 0, 157, 162, 0, 35, 28, 2]
abbrev dktX1_dearest_0 : List UInt8 := dkwX1_dearest_0 ++ dktX1_dearest_1
theorem dksX1_dearest_0 : cX1_dearest.data.toList.drop 0 = dktX1_dearest_0 := by decide +kernel
theorem dksX1_dearest_1 : cX1_dearest.data.toList.drop 22 = dktX1_dearest_1 := dk_seg dksX1_dearest_0 22 rfl rfl
theorem dksX1_dearest_2 : cX1_dearest.data.toList.drop 46 = dktX1_dearest_2 := dk_seg dksX1_dearest_1 24 rfl rfl
theorem dksX1_dearest_3 : cX1_dearest.data.toList.drop 70 = dktX1_dearest_3 := dk_seg dksX1_dearest_2 24 rfl rfl
theorem dX1_dearest_0 : decode cX1_dearest 0 = .ok (.aload_n 0, 1) := dk_42 (dk_at dksX1_dearest_0 0 rfl rfl)
theorem dX1_dearest_1 : decode cX1_dearest 1 = .ok (.iload_n 1, 1) := dk_27 (dk_at dksX1_dearest_0 1 rfl rfl)
theorem dX1_dearest_2 : decode cX1_dearest 2 = .ok (.invokestatic 305, 3) := dk_184 1 49 (dk_at dksX1_dearest_0 2 rfl rfl)
theorem dX1_dearest_5 : decode cX1_dearest 5 = .ok (.invokevirtual 183, 3) := dk_182 0 183 (dk_at dksX1_dearest_0 5 rfl rfl)
theorem dX1_dearest_8 : decode cX1_dearest 8 = .ok (.iconst (-1), 1) := dk_2 (dk_at dksX1_dearest_0 8 rfl rfl)
theorem dX1_dearest_9 : decode cX1_dearest 9 = .ok (.istore_n 2, 1) := dk_61 (dk_at dksX1_dearest_0 9 rfl rfl)
theorem dX1_dearest_10 : decode cX1_dearest 10 = .ok (.iconst 0, 1) := dk_3 (dk_at dksX1_dearest_0 10 rfl rfl)
theorem dX1_dearest_11 : decode cX1_dearest 11 = .ok (.istore_n 3, 1) := dk_62 (dk_at dksX1_dearest_0 11 rfl rfl)
theorem dX1_dearest_12 : decode cX1_dearest 12 = .ok (.iload_n 3, 1) := dk_29 (dk_at dksX1_dearest_0 12 rfl rfl)
theorem dX1_dearest_13 : decode cX1_dearest 13 = .ok (.aload_n 0, 1) := dk_42 (dk_at dksX1_dearest_0 13 rfl rfl)
theorem dX1_dearest_14 : decode cX1_dearest 14 = .ok (.invokevirtual 157, 3) := dk_182 0 157 (dk_at dksX1_dearest_0 14 rfl rfl)
theorem dX1_dearest_17 : decode cX1_dearest 17 = .ok (.if_icmp .ge 35, 3) := dk_162 0 35 (dk_at dksX1_dearest_0 17 rfl rfl)
theorem dX1_dearest_20 : decode cX1_dearest 20 = .ok (.iload_n 2, 1) := dk_28 (dk_at dksX1_dearest_0 20 rfl rfl)
theorem dX1_dearest_21 : decode cX1_dearest 21 = .ok (.iconst (-1), 1) := dk_2 (dk_at dksX1_dearest_0 21 rfl rfl)
theorem dX1_dearest_22 : decode cX1_dearest 22 = .ok (.if_icmp .eq 22, 3) := dk_159 0 22 (dk_at dksX1_dearest_1 0 rfl rfl)
theorem dX1_dearest_25 : decode cX1_dearest 25 = .ok (.aload_n 0, 1) := dk_42 (dk_at dksX1_dearest_1 3 rfl rfl)
theorem dX1_dearest_26 : decode cX1_dearest 26 = .ok (.iload_n 3, 1) := dk_29 (dk_at dksX1_dearest_1 4 rfl rfl)
theorem dX1_dearest_27 : decode cX1_dearest 27 = .ok (.invokevirtual 279, 3) := dk_182 1 23 (dk_at dksX1_dearest_1 5 rfl rfl)
theorem dX1_dearest_30 : decode cX1_dearest 30 = .ok (.getfield 284, 3) := dk_180 1 28 (dk_at dksX1_dearest_1 8 rfl rfl)
theorem dX1_dearest_33 : decode cX1_dearest 33 = .ok (.aload_n 0, 1) := dk_42 (dk_at dksX1_dearest_1 11 rfl rfl)
theorem dX1_dearest_34 : decode cX1_dearest 34 = .ok (.iload_n 2, 1) := dk_28 (dk_at dksX1_dearest_1 12 rfl rfl)
theorem dX1_dearest_35 : decode cX1_dearest 35 = .ok (.invokevirtual 279, 3) := dk_182 1 23 (dk_at dksX1_dearest_1 13 rfl rfl)
theorem dX1_dearest_38 : decode cX1_dearest 38 = .ok (.getfield 284, 3) := dk_180 1 28 (dk_at dksX1_dearest_1 16 rfl rfl)
theorem dX1_dearest_41 : decode cX1_dearest 41 = .ok (.if_icmp .le 5, 3) := dk_164 0 5 (dk_at dksX1_dearest_1 19 rfl rfl)
theorem dX1_dearest_44 : decode cX1_dearest 44 = .ok (.iload_n 3, 1) := dk_29 (dk_at dksX1_dearest_1 22 rfl rfl)
theorem dX1_dearest_45 : decode cX1_dearest 45 = .ok (.istore_n 2, 1) := dk_61 (dk_at dksX1_dearest_1 23 rfl rfl)
theorem dX1_dearest_46 : decode cX1_dearest 46 = .ok (.iinc 3 1, 3) := dk_132 3 1 (dk_at dksX1_dearest_2 0 rfl rfl)
theorem dX1_dearest_49 : decode cX1_dearest 49 = .ok (.goto (-37), 3) := dk_167 255 219 (dk_at dksX1_dearest_2 3 rfl rfl)
theorem dX1_dearest_52 : decode cX1_dearest 52 = .ok (.iload_n 1, 1) := dk_27 (dk_at dksX1_dearest_2 6 rfl rfl)
theorem dX1_dearest_53 : decode cX1_dearest 53 = .ok (.ifCond .eq 8, 3) := dk_153 0 8 (dk_at dksX1_dearest_2 7 rfl rfl)
theorem dX1_dearest_56 : decode cX1_dearest 56 = .ok (.iload_n 2, 1) := dk_28 (dk_at dksX1_dearest_2 10 rfl rfl)
theorem dX1_dearest_57 : decode cX1_dearest 57 = .ok (.iconst (-1), 1) := dk_2 (dk_at dksX1_dearest_2 11 rfl rfl)
theorem dX1_dearest_58 : decode cX1_dearest 58 = .ok (.if_icmp .ne 7, 3) := dk_160 0 7 (dk_at dksX1_dearest_2 12 rfl rfl)
theorem dX1_dearest_61 : decode cX1_dearest 61 = .ok (.iload_n 2, 1) := dk_28 (dk_at dksX1_dearest_2 15 rfl rfl)
theorem dX1_dearest_62 : decode cX1_dearest 62 = .ok (.goto 11, 3) := dk_167 0 11 (dk_at dksX1_dearest_2 16 rfl rfl)
theorem dX1_dearest_65 : decode cX1_dearest 65 = .ok (.aload_n 0, 1) := dk_42 (dk_at dksX1_dearest_2 19 rfl rfl)
theorem dX1_dearest_66 : decode cX1_dearest 66 = .ok (.iload_n 2, 1) := dk_28 (dk_at dksX1_dearest_2 20 rfl rfl)
theorem dX1_dearest_67 : decode cX1_dearest 67 = .ok (.invokevirtual 279, 3) := dk_182 1 23 (dk_at dksX1_dearest_2 21 rfl rfl)
theorem dX1_dearest_70 : decode cX1_dearest 70 = .ok (.getfield 284, 3) := dk_180 1 28 (dk_at dksX1_dearest_3 0 rfl rfl)
theorem dX1_dearest_73 : decode cX1_dearest 73 = .ok (.ireturn, 1) := dk_172 (dk_at dksX1_dearest_3 3 rfl rfl)
abbrev cX1_voices : ByteArray := prog_1_method_34_code
def yX1_voices : MethodName := ⟨RX1, "voices", "(I)I"⟩
def dkwX1_voices_2 : List UInt8 := [167, 255, 223, 28, 172]
abbrev dktX1_voices_2 : List UInt8 := dkwX1_voices_2 ++ []
def dkwX1_voices_1 : List UInt8 := [182, 1, 23, 180, 1, 27, 27, 160, 0, 9, 4, 29, 120, 167, 0, 4, 3, 128, 61, 132, 3, 1]
abbrev dktX1_voices_1 : List UInt8 := dkwX1_voices_1 ++ dktX1_voices_2
def dkwX1_voices_0 : List UInt8 := [42, 27, 184, 1, 56, 182, 0, 183, 3, 61, 3, 62, 29, 42, 182, 0, 157, 162, 0, 31, 28, 42, 29]
abbrev dktX1_voices_0 : List UInt8 := dkwX1_voices_0 ++ dktX1_voices_1
theorem dksX1_voices_0 : cX1_voices.data.toList.drop 0 = dktX1_voices_0 := by decide +kernel
theorem dksX1_voices_1 : cX1_voices.data.toList.drop 23 = dktX1_voices_1 := dk_seg dksX1_voices_0 23 rfl rfl
theorem dksX1_voices_2 : cX1_voices.data.toList.drop 45 = dktX1_voices_2 := dk_seg dksX1_voices_1 22 rfl rfl
theorem dX1_voices_0 : decode cX1_voices 0 = .ok (.aload_n 0, 1) := dk_42 (dk_at dksX1_voices_0 0 rfl rfl)
theorem dX1_voices_1 : decode cX1_voices 1 = .ok (.iload_n 1, 1) := dk_27 (dk_at dksX1_voices_0 1 rfl rfl)
theorem dX1_voices_2 : decode cX1_voices 2 = .ok (.invokestatic 312, 3) := dk_184 1 56 (dk_at dksX1_voices_0 2 rfl rfl)
theorem dX1_voices_5 : decode cX1_voices 5 = .ok (.invokevirtual 183, 3) := dk_182 0 183 (dk_at dksX1_voices_0 5 rfl rfl)
theorem dX1_voices_8 : decode cX1_voices 8 = .ok (.iconst 0, 1) := dk_3 (dk_at dksX1_voices_0 8 rfl rfl)
theorem dX1_voices_9 : decode cX1_voices 9 = .ok (.istore_n 2, 1) := dk_61 (dk_at dksX1_voices_0 9 rfl rfl)
theorem dX1_voices_10 : decode cX1_voices 10 = .ok (.iconst 0, 1) := dk_3 (dk_at dksX1_voices_0 10 rfl rfl)
theorem dX1_voices_11 : decode cX1_voices 11 = .ok (.istore_n 3, 1) := dk_62 (dk_at dksX1_voices_0 11 rfl rfl)
theorem dX1_voices_12 : decode cX1_voices 12 = .ok (.iload_n 3, 1) := dk_29 (dk_at dksX1_voices_0 12 rfl rfl)
theorem dX1_voices_13 : decode cX1_voices 13 = .ok (.aload_n 0, 1) := dk_42 (dk_at dksX1_voices_0 13 rfl rfl)
theorem dX1_voices_14 : decode cX1_voices 14 = .ok (.invokevirtual 157, 3) := dk_182 0 157 (dk_at dksX1_voices_0 14 rfl rfl)
theorem dX1_voices_17 : decode cX1_voices 17 = .ok (.if_icmp .ge 31, 3) := dk_162 0 31 (dk_at dksX1_voices_0 17 rfl rfl)
theorem dX1_voices_20 : decode cX1_voices 20 = .ok (.iload_n 2, 1) := dk_28 (dk_at dksX1_voices_0 20 rfl rfl)
theorem dX1_voices_21 : decode cX1_voices 21 = .ok (.aload_n 0, 1) := dk_42 (dk_at dksX1_voices_0 21 rfl rfl)
theorem dX1_voices_22 : decode cX1_voices 22 = .ok (.iload_n 3, 1) := dk_29 (dk_at dksX1_voices_0 22 rfl rfl)
theorem dX1_voices_23 : decode cX1_voices 23 = .ok (.invokevirtual 279, 3) := dk_182 1 23 (dk_at dksX1_voices_1 0 rfl rfl)
theorem dX1_voices_26 : decode cX1_voices 26 = .ok (.getfield 283, 3) := dk_180 1 27 (dk_at dksX1_voices_1 3 rfl rfl)
theorem dX1_voices_29 : decode cX1_voices 29 = .ok (.iload_n 1, 1) := dk_27 (dk_at dksX1_voices_1 6 rfl rfl)
theorem dX1_voices_30 : decode cX1_voices 30 = .ok (.if_icmp .ne 9, 3) := dk_160 0 9 (dk_at dksX1_voices_1 7 rfl rfl)
theorem dX1_voices_33 : decode cX1_voices 33 = .ok (.iconst 1, 1) := dk_4 (dk_at dksX1_voices_1 10 rfl rfl)
theorem dX1_voices_34 : decode cX1_voices 34 = .ok (.iload_n 3, 1) := dk_29 (dk_at dksX1_voices_1 11 rfl rfl)
theorem dX1_voices_35 : decode cX1_voices 35 = .ok (.ishl, 1) := dk_120 (dk_at dksX1_voices_1 12 rfl rfl)
theorem dX1_voices_36 : decode cX1_voices 36 = .ok (.goto 4, 3) := dk_167 0 4 (dk_at dksX1_voices_1 13 rfl rfl)
theorem dX1_voices_39 : decode cX1_voices 39 = .ok (.iconst 0, 1) := dk_3 (dk_at dksX1_voices_1 16 rfl rfl)
theorem dX1_voices_40 : decode cX1_voices 40 = .ok (.ior, 1) := dk_128 (dk_at dksX1_voices_1 17 rfl rfl)
theorem dX1_voices_41 : decode cX1_voices 41 = .ok (.istore_n 2, 1) := dk_61 (dk_at dksX1_voices_1 18 rfl rfl)
theorem dX1_voices_42 : decode cX1_voices 42 = .ok (.iinc 3 1, 3) := dk_132 3 1 (dk_at dksX1_voices_1 19 rfl rfl)
theorem dX1_voices_45 : decode cX1_voices 45 = .ok (.goto (-33), 3) := dk_167 255 223 (dk_at dksX1_voices_2 0 rfl rfl)
theorem dX1_voices_48 : decode cX1_voices 48 = .ok (.iload_n 2, 1) := dk_28 (dk_at dksX1_voices_2 3 rfl rfl)
theorem dX1_voices_49 : decode cX1_voices 49 = .ok (.ireturn, 1) := dk_172 (dk_at dksX1_voices_2 4 rfl rfl)
abbrev cX1_sounds : ByteArray := prog_1_method_35_code
def yX1_sounds : MethodName := ⟨RX1, "sounds", "(I)I"⟩
def dkwX1_sounds_0 : List UInt8 := [42, 27, 184, 1, 56, 182, 0, 183, 42, 180, 0, 44, 27, 182, 1, 63, 172]
abbrev dktX1_sounds_0 : List UInt8 := dkwX1_sounds_0 ++ []
theorem dksX1_sounds_0 : cX1_sounds.data.toList.drop 0 = dktX1_sounds_0 := by decide +kernel
theorem dX1_sounds_0 : decode cX1_sounds 0 = .ok (.aload_n 0, 1) := dk_42 (dk_at dksX1_sounds_0 0 rfl rfl)
theorem dX1_sounds_1 : decode cX1_sounds 1 = .ok (.iload_n 1, 1) := dk_27 (dk_at dksX1_sounds_0 1 rfl rfl)
theorem dX1_sounds_2 : decode cX1_sounds 2 = .ok (.invokestatic 312, 3) := dk_184 1 56 (dk_at dksX1_sounds_0 2 rfl rfl)
theorem dX1_sounds_5 : decode cX1_sounds 5 = .ok (.invokevirtual 183, 3) := dk_182 0 183 (dk_at dksX1_sounds_0 5 rfl rfl)
theorem dX1_sounds_8 : decode cX1_sounds 8 = .ok (.aload_n 0, 1) := dk_42 (dk_at dksX1_sounds_0 8 rfl rfl)
theorem dX1_sounds_9 : decode cX1_sounds 9 = .ok (.getfield 44, 3) := dk_180 0 44 (dk_at dksX1_sounds_0 9 rfl rfl)
theorem dX1_sounds_12 : decode cX1_sounds 12 = .ok (.iload_n 1, 1) := dk_27 (dk_at dksX1_sounds_0 12 rfl rfl)
theorem dX1_sounds_13 : decode cX1_sounds 13 = .ok (.invokevirtual 319, 3) := dk_182 1 63 (dk_at dksX1_sounds_0 13 rfl rfl)
theorem dX1_sounds_16 : decode cX1_sounds 16 = .ok (.ireturn, 1) := dk_172 (dk_at dksX1_sounds_0 16 rfl rfl)
abbrev cX1_beats : ByteArray := prog_1_method_36_code
def yX1_beats : MethodName := ⟨RX1, "beats", "(I)I"⟩
def dkwX1_beats_2 : List UInt8 := [96, 61, 132, 3, 1, 167, 255, 217, 28, 172]
abbrev dktX1_beats_2 : List UInt8 := dkwX1_beats_2 ++ []
def dkwX1_beats_1 : List UInt8 := [180, 0, 44, 180, 1, 40, 29, 46, 27, 160, 0, 14, 42, 29, 182, 0, 120, 180, 1, 42, 167, 0, 4, 3]
abbrev dktX1_beats_1 : List UInt8 := dkwX1_beats_1 ++ dktX1_beats_2
def dkwX1_beats_0 : List UInt8 := [42, 27, 184, 1, 56, 182, 0, 183, 3, 61, 3, 62, 29, 42, 182, 0, 163, 162, 0, 37, 28, 42]
abbrev dktX1_beats_0 : List UInt8 := dkwX1_beats_0 ++ dktX1_beats_1
theorem dksX1_beats_0 : cX1_beats.data.toList.drop 0 = dktX1_beats_0 := by decide +kernel
theorem dksX1_beats_1 : cX1_beats.data.toList.drop 22 = dktX1_beats_1 := dk_seg dksX1_beats_0 22 rfl rfl
theorem dksX1_beats_2 : cX1_beats.data.toList.drop 46 = dktX1_beats_2 := dk_seg dksX1_beats_1 24 rfl rfl
theorem dX1_beats_0 : decode cX1_beats 0 = .ok (.aload_n 0, 1) := dk_42 (dk_at dksX1_beats_0 0 rfl rfl)
theorem dX1_beats_1 : decode cX1_beats 1 = .ok (.iload_n 1, 1) := dk_27 (dk_at dksX1_beats_0 1 rfl rfl)
theorem dX1_beats_2 : decode cX1_beats 2 = .ok (.invokestatic 312, 3) := dk_184 1 56 (dk_at dksX1_beats_0 2 rfl rfl)
theorem dX1_beats_5 : decode cX1_beats 5 = .ok (.invokevirtual 183, 3) := dk_182 0 183 (dk_at dksX1_beats_0 5 rfl rfl)
theorem dX1_beats_8 : decode cX1_beats 8 = .ok (.iconst 0, 1) := dk_3 (dk_at dksX1_beats_0 8 rfl rfl)
theorem dX1_beats_9 : decode cX1_beats 9 = .ok (.istore_n 2, 1) := dk_61 (dk_at dksX1_beats_0 9 rfl rfl)
theorem dX1_beats_10 : decode cX1_beats 10 = .ok (.iconst 0, 1) := dk_3 (dk_at dksX1_beats_0 10 rfl rfl)
theorem dX1_beats_11 : decode cX1_beats 11 = .ok (.istore_n 3, 1) := dk_62 (dk_at dksX1_beats_0 11 rfl rfl)
theorem dX1_beats_12 : decode cX1_beats 12 = .ok (.iload_n 3, 1) := dk_29 (dk_at dksX1_beats_0 12 rfl rfl)
theorem dX1_beats_13 : decode cX1_beats 13 = .ok (.aload_n 0, 1) := dk_42 (dk_at dksX1_beats_0 13 rfl rfl)
theorem dX1_beats_14 : decode cX1_beats 14 = .ok (.invokevirtual 163, 3) := dk_182 0 163 (dk_at dksX1_beats_0 14 rfl rfl)
theorem dX1_beats_17 : decode cX1_beats 17 = .ok (.if_icmp .ge 37, 3) := dk_162 0 37 (dk_at dksX1_beats_0 17 rfl rfl)
theorem dX1_beats_20 : decode cX1_beats 20 = .ok (.iload_n 2, 1) := dk_28 (dk_at dksX1_beats_0 20 rfl rfl)
theorem dX1_beats_21 : decode cX1_beats 21 = .ok (.aload_n 0, 1) := dk_42 (dk_at dksX1_beats_0 21 rfl rfl)
theorem dX1_beats_22 : decode cX1_beats 22 = .ok (.getfield 44, 3) := dk_180 0 44 (dk_at dksX1_beats_1 0 rfl rfl)
theorem dX1_beats_25 : decode cX1_beats 25 = .ok (.getfield 296, 3) := dk_180 1 40 (dk_at dksX1_beats_1 3 rfl rfl)
theorem dX1_beats_28 : decode cX1_beats 28 = .ok (.iload_n 3, 1) := dk_29 (dk_at dksX1_beats_1 6 rfl rfl)
theorem dX1_beats_29 : decode cX1_beats 29 = .ok (.iaload, 1) := dk_46 (dk_at dksX1_beats_1 7 rfl rfl)
theorem dX1_beats_30 : decode cX1_beats 30 = .ok (.iload_n 1, 1) := dk_27 (dk_at dksX1_beats_1 8 rfl rfl)
theorem dX1_beats_31 : decode cX1_beats 31 = .ok (.if_icmp .ne 14, 3) := dk_160 0 14 (dk_at dksX1_beats_1 9 rfl rfl)
theorem dX1_beats_34 : decode cX1_beats 34 = .ok (.aload_n 0, 1) := dk_42 (dk_at dksX1_beats_1 12 rfl rfl)
theorem dX1_beats_35 : decode cX1_beats 35 = .ok (.iload_n 3, 1) := dk_29 (dk_at dksX1_beats_1 13 rfl rfl)
theorem dX1_beats_36 : decode cX1_beats 36 = .ok (.invokevirtual 120, 3) := dk_182 0 120 (dk_at dksX1_beats_1 14 rfl rfl)
theorem dX1_beats_39 : decode cX1_beats 39 = .ok (.getfield 298, 3) := dk_180 1 42 (dk_at dksX1_beats_1 17 rfl rfl)
theorem dX1_beats_42 : decode cX1_beats 42 = .ok (.goto 4, 3) := dk_167 0 4 (dk_at dksX1_beats_1 20 rfl rfl)
theorem dX1_beats_45 : decode cX1_beats 45 = .ok (.iconst 0, 1) := dk_3 (dk_at dksX1_beats_1 23 rfl rfl)
theorem dX1_beats_46 : decode cX1_beats 46 = .ok (.iadd, 1) := dk_96 (dk_at dksX1_beats_2 0 rfl rfl)
theorem dX1_beats_47 : decode cX1_beats 47 = .ok (.istore_n 2, 1) := dk_61 (dk_at dksX1_beats_2 1 rfl rfl)
theorem dX1_beats_48 : decode cX1_beats 48 = .ok (.iinc 3 1, 3) := dk_132 3 1 (dk_at dksX1_beats_2 2 rfl rfl)
theorem dX1_beats_51 : decode cX1_beats 51 = .ok (.goto (-39), 3) := dk_167 255 217 (dk_at dksX1_beats_2 5 rfl rfl)
theorem dX1_beats_54 : decode cX1_beats 54 = .ok (.iload_n 2, 1) := dk_28 (dk_at dksX1_beats_2 8 rfl rfl)
theorem dX1_beats_55 : decode cX1_beats 55 = .ok (.ireturn, 1) := dk_172 (dk_at dksX1_beats_2 9 rfl rfl)
abbrev cX1_words : ByteArray := prog_1_method_37_code
def yX1_words : MethodName := ⟨RX1, "words", "(I)I"⟩
def dkwX1_words_0 : List UInt8 := [42, 27, 182, 1, 37, 42, 27, 182, 1, 66, 172]
abbrev dktX1_words_0 : List UInt8 := dkwX1_words_0 ++ []
theorem dksX1_words_0 : cX1_words.data.toList.drop 0 = dktX1_words_0 := by decide +kernel
theorem dX1_words_0 : decode cX1_words 0 = .ok (.aload_n 0, 1) := dk_42 (dk_at dksX1_words_0 0 rfl rfl)
theorem dX1_words_1 : decode cX1_words 1 = .ok (.iload_n 1, 1) := dk_27 (dk_at dksX1_words_0 1 rfl rfl)
theorem dX1_words_2 : decode cX1_words 2 = .ok (.invokevirtual 293, 3) := dk_182 1 37 (dk_at dksX1_words_0 2 rfl rfl)
theorem dX1_words_5 : decode cX1_words 5 = .ok (.aload_n 0, 1) := dk_42 (dk_at dksX1_words_0 5 rfl rfl)
theorem dX1_words_6 : decode cX1_words 6 = .ok (.iload_n 1, 1) := dk_27 (dk_at dksX1_words_0 6 rfl rfl)
theorem dX1_words_7 : decode cX1_words 7 = .ok (.invokevirtual 322, 3) := dk_182 1 66 (dk_at dksX1_words_0 7 rfl rfl)
theorem dX1_words_10 : decode cX1_words 10 = .ok (.ireturn, 1) := dk_172 (dk_at dksX1_words_0 10 rfl rfl)
abbrev cX1_alone : ByteArray := prog_1_method_43_code
def yX1_alone : MethodName := ⟨RX1, "alone", "(I)I"⟩
def dkwX1_alone_0 : List UInt8 := [42, 27, 182, 1, 75, 61, 28, 184, 1, 78, 4, 160, 0, 10, 28, 184, 1, 83, 167, 0, 4, 2, 172]
abbrev dktX1_alone_0 : List UInt8 := dkwX1_alone_0 ++ []
theorem dksX1_alone_0 : cX1_alone.data.toList.drop 0 = dktX1_alone_0 := by decide +kernel
theorem dX1_alone_0 : decode cX1_alone 0 = .ok (.aload_n 0, 1) := dk_42 (dk_at dksX1_alone_0 0 rfl rfl)
theorem dX1_alone_1 : decode cX1_alone 1 = .ok (.iload_n 1, 1) := dk_27 (dk_at dksX1_alone_0 1 rfl rfl)
theorem dX1_alone_2 : decode cX1_alone 2 = .ok (.invokevirtual 331, 3) := dk_182 1 75 (dk_at dksX1_alone_0 2 rfl rfl)
theorem dX1_alone_5 : decode cX1_alone 5 = .ok (.istore_n 2, 1) := dk_61 (dk_at dksX1_alone_0 5 rfl rfl)
theorem dX1_alone_6 : decode cX1_alone 6 = .ok (.iload_n 2, 1) := dk_28 (dk_at dksX1_alone_0 6 rfl rfl)
theorem dX1_alone_7 : decode cX1_alone 7 = .ok (.invokestatic 334, 3) := dk_184 1 78 (dk_at dksX1_alone_0 7 rfl rfl)
theorem dX1_alone_10 : decode cX1_alone 10 = .ok (.iconst 1, 1) := dk_4 (dk_at dksX1_alone_0 10 rfl rfl)
theorem dX1_alone_11 : decode cX1_alone 11 = .ok (.if_icmp .ne 10, 3) := dk_160 0 10 (dk_at dksX1_alone_0 11 rfl rfl)
theorem dX1_alone_14 : decode cX1_alone 14 = .ok (.iload_n 2, 1) := dk_28 (dk_at dksX1_alone_0 14 rfl rfl)
theorem dX1_alone_15 : decode cX1_alone 15 = .ok (.invokestatic 339, 3) := dk_184 1 83 (dk_at dksX1_alone_0 15 rfl rfl)
theorem dX1_alone_18 : decode cX1_alone 18 = .ok (.goto 4, 3) := dk_167 0 4 (dk_at dksX1_alone_0 18 rfl rfl)
theorem dX1_alone_21 : decode cX1_alone 21 = .ok (.iconst (-1), 1) := dk_2 (dk_at dksX1_alone_0 21 rfl rfl)
theorem dX1_alone_22 : decode cX1_alone 22 = .ok (.ireturn, 1) := dk_172 (dk_at dksX1_alone_0 22 rfl rfl)
abbrev cX1_longest : ByteArray := prog_1_method_44_code
def yX1_longest : MethodName := ⟨RX1, "longest", "(I)I"⟩
def dkwX1_longest_3 : List UInt8 := [180, 1, 42, 172]
abbrev dktX1_longest_3 : List UInt8 := dkwX1_longest_3 ++ []
def dkwX1_longest_2 : List UInt8 := [132, 3, 1, 167, 255, 219, 27, 153, 0, 8, 28, 2, 160, 0, 7, 28, 167, 0, 11, 42, 28, 182, 0, 120]
abbrev dktX1_longest_2 : List UInt8 := dkwX1_longest_2 ++ dktX1_longest_3
def dkwX1_longest_1 : List UInt8 := [159, 0, 22, 42, 29, 182, 0, 120, 180, 1, 42, 42, 28, 182, 0, 120, 180, 1, 42, 164, 0, 5, 29, 61]
abbrev dktX1_longest_1 : List UInt8 := dkwX1_longest_1 ++ dktX1_longest_2
def dkwX1_longest_0 : List UInt8 := [42, 27, 184, 1, 49, 182, 0, 183, 2, 61, 3, 62, 29, 42, 182, 0, 163, 162, 0, 35, 28, 2]
abbrev dktX1_longest_0 : List UInt8 := dkwX1_longest_0 ++ dktX1_longest_1
theorem dksX1_longest_0 : cX1_longest.data.toList.drop 0 = dktX1_longest_0 := by decide +kernel
theorem dksX1_longest_1 : cX1_longest.data.toList.drop 22 = dktX1_longest_1 := dk_seg dksX1_longest_0 22 rfl rfl
theorem dksX1_longest_2 : cX1_longest.data.toList.drop 46 = dktX1_longest_2 := dk_seg dksX1_longest_1 24 rfl rfl
theorem dksX1_longest_3 : cX1_longest.data.toList.drop 70 = dktX1_longest_3 := dk_seg dksX1_longest_2 24 rfl rfl
theorem dX1_longest_0 : decode cX1_longest 0 = .ok (.aload_n 0, 1) := dk_42 (dk_at dksX1_longest_0 0 rfl rfl)
theorem dX1_longest_1 : decode cX1_longest 1 = .ok (.iload_n 1, 1) := dk_27 (dk_at dksX1_longest_0 1 rfl rfl)
theorem dX1_longest_2 : decode cX1_longest 2 = .ok (.invokestatic 305, 3) := dk_184 1 49 (dk_at dksX1_longest_0 2 rfl rfl)
theorem dX1_longest_5 : decode cX1_longest 5 = .ok (.invokevirtual 183, 3) := dk_182 0 183 (dk_at dksX1_longest_0 5 rfl rfl)
theorem dX1_longest_8 : decode cX1_longest 8 = .ok (.iconst (-1), 1) := dk_2 (dk_at dksX1_longest_0 8 rfl rfl)
theorem dX1_longest_9 : decode cX1_longest 9 = .ok (.istore_n 2, 1) := dk_61 (dk_at dksX1_longest_0 9 rfl rfl)
theorem dX1_longest_10 : decode cX1_longest 10 = .ok (.iconst 0, 1) := dk_3 (dk_at dksX1_longest_0 10 rfl rfl)
theorem dX1_longest_11 : decode cX1_longest 11 = .ok (.istore_n 3, 1) := dk_62 (dk_at dksX1_longest_0 11 rfl rfl)
theorem dX1_longest_12 : decode cX1_longest 12 = .ok (.iload_n 3, 1) := dk_29 (dk_at dksX1_longest_0 12 rfl rfl)
theorem dX1_longest_13 : decode cX1_longest 13 = .ok (.aload_n 0, 1) := dk_42 (dk_at dksX1_longest_0 13 rfl rfl)
theorem dX1_longest_14 : decode cX1_longest 14 = .ok (.invokevirtual 163, 3) := dk_182 0 163 (dk_at dksX1_longest_0 14 rfl rfl)
theorem dX1_longest_17 : decode cX1_longest 17 = .ok (.if_icmp .ge 35, 3) := dk_162 0 35 (dk_at dksX1_longest_0 17 rfl rfl)
theorem dX1_longest_20 : decode cX1_longest 20 = .ok (.iload_n 2, 1) := dk_28 (dk_at dksX1_longest_0 20 rfl rfl)
theorem dX1_longest_21 : decode cX1_longest 21 = .ok (.iconst (-1), 1) := dk_2 (dk_at dksX1_longest_0 21 rfl rfl)
theorem dX1_longest_22 : decode cX1_longest 22 = .ok (.if_icmp .eq 22, 3) := dk_159 0 22 (dk_at dksX1_longest_1 0 rfl rfl)
theorem dX1_longest_25 : decode cX1_longest 25 = .ok (.aload_n 0, 1) := dk_42 (dk_at dksX1_longest_1 3 rfl rfl)
theorem dX1_longest_26 : decode cX1_longest 26 = .ok (.iload_n 3, 1) := dk_29 (dk_at dksX1_longest_1 4 rfl rfl)
theorem dX1_longest_27 : decode cX1_longest 27 = .ok (.invokevirtual 120, 3) := dk_182 0 120 (dk_at dksX1_longest_1 5 rfl rfl)
theorem dX1_longest_30 : decode cX1_longest 30 = .ok (.getfield 298, 3) := dk_180 1 42 (dk_at dksX1_longest_1 8 rfl rfl)
theorem dX1_longest_33 : decode cX1_longest 33 = .ok (.aload_n 0, 1) := dk_42 (dk_at dksX1_longest_1 11 rfl rfl)
theorem dX1_longest_34 : decode cX1_longest 34 = .ok (.iload_n 2, 1) := dk_28 (dk_at dksX1_longest_1 12 rfl rfl)
theorem dX1_longest_35 : decode cX1_longest 35 = .ok (.invokevirtual 120, 3) := dk_182 0 120 (dk_at dksX1_longest_1 13 rfl rfl)
theorem dX1_longest_38 : decode cX1_longest 38 = .ok (.getfield 298, 3) := dk_180 1 42 (dk_at dksX1_longest_1 16 rfl rfl)
theorem dX1_longest_41 : decode cX1_longest 41 = .ok (.if_icmp .le 5, 3) := dk_164 0 5 (dk_at dksX1_longest_1 19 rfl rfl)
theorem dX1_longest_44 : decode cX1_longest 44 = .ok (.iload_n 3, 1) := dk_29 (dk_at dksX1_longest_1 22 rfl rfl)
theorem dX1_longest_45 : decode cX1_longest 45 = .ok (.istore_n 2, 1) := dk_61 (dk_at dksX1_longest_1 23 rfl rfl)
theorem dX1_longest_46 : decode cX1_longest 46 = .ok (.iinc 3 1, 3) := dk_132 3 1 (dk_at dksX1_longest_2 0 rfl rfl)
theorem dX1_longest_49 : decode cX1_longest 49 = .ok (.goto (-37), 3) := dk_167 255 219 (dk_at dksX1_longest_2 3 rfl rfl)
theorem dX1_longest_52 : decode cX1_longest 52 = .ok (.iload_n 1, 1) := dk_27 (dk_at dksX1_longest_2 6 rfl rfl)
theorem dX1_longest_53 : decode cX1_longest 53 = .ok (.ifCond .eq 8, 3) := dk_153 0 8 (dk_at dksX1_longest_2 7 rfl rfl)
theorem dX1_longest_56 : decode cX1_longest 56 = .ok (.iload_n 2, 1) := dk_28 (dk_at dksX1_longest_2 10 rfl rfl)
theorem dX1_longest_57 : decode cX1_longest 57 = .ok (.iconst (-1), 1) := dk_2 (dk_at dksX1_longest_2 11 rfl rfl)
theorem dX1_longest_58 : decode cX1_longest 58 = .ok (.if_icmp .ne 7, 3) := dk_160 0 7 (dk_at dksX1_longest_2 12 rfl rfl)
theorem dX1_longest_61 : decode cX1_longest 61 = .ok (.iload_n 2, 1) := dk_28 (dk_at dksX1_longest_2 15 rfl rfl)
theorem dX1_longest_62 : decode cX1_longest 62 = .ok (.goto 11, 3) := dk_167 0 11 (dk_at dksX1_longest_2 16 rfl rfl)
theorem dX1_longest_65 : decode cX1_longest 65 = .ok (.aload_n 0, 1) := dk_42 (dk_at dksX1_longest_2 19 rfl rfl)
theorem dX1_longest_66 : decode cX1_longest 66 = .ok (.iload_n 2, 1) := dk_28 (dk_at dksX1_longest_2 20 rfl rfl)
theorem dX1_longest_67 : decode cX1_longest 67 = .ok (.invokevirtual 120, 3) := dk_182 0 120 (dk_at dksX1_longest_2 21 rfl rfl)
theorem dX1_longest_70 : decode cX1_longest 70 = .ok (.getfield 298, 3) := dk_180 1 42 (dk_at dksX1_longest_3 0 rfl rfl)
theorem dX1_longest_73 : decode cX1_longest 73 = .ok (.ireturn, 1) := dk_172 (dk_at dksX1_longest_3 3 rfl rfl)
abbrev cX1_chorus : ByteArray := prog_1_method_45_code
def yX1_chorus : MethodName := ⟨RX1, "chorus", "(I)I"⟩
def dkwX1_chorus_2 : List UInt8 := [184, 1, 78, 172]
abbrev dktX1_chorus_2 : List UInt8 := dkwX1_chorus_2 ++ []
def dkwX1_chorus_1 : List UInt8 := [180, 0, 48, 42, 180, 0, 44, 182, 0, 248, 77, 44, 27, 2, 130, 181, 0, 255, 44, 182, 1, 69]
abbrev dktX1_chorus_1 : List UInt8 := dkwX1_chorus_1 ++ dktX1_chorus_2
def dkwX1_chorus_0 : List UInt8 := [42, 27, 155, 0, 17, 27, 4, 42, 182, 0, 157, 120, 162, 0, 7, 4, 167, 0, 4, 3, 182, 0, 183, 42]
abbrev dktX1_chorus_0 : List UInt8 := dkwX1_chorus_0 ++ dktX1_chorus_1
theorem dksX1_chorus_0 : cX1_chorus.data.toList.drop 0 = dktX1_chorus_0 := by decide +kernel
theorem dksX1_chorus_1 : cX1_chorus.data.toList.drop 24 = dktX1_chorus_1 := dk_seg dksX1_chorus_0 24 rfl rfl
theorem dksX1_chorus_2 : cX1_chorus.data.toList.drop 46 = dktX1_chorus_2 := dk_seg dksX1_chorus_1 22 rfl rfl
theorem dX1_chorus_0 : decode cX1_chorus 0 = .ok (.aload_n 0, 1) := dk_42 (dk_at dksX1_chorus_0 0 rfl rfl)
theorem dX1_chorus_1 : decode cX1_chorus 1 = .ok (.iload_n 1, 1) := dk_27 (dk_at dksX1_chorus_0 1 rfl rfl)
theorem dX1_chorus_2 : decode cX1_chorus 2 = .ok (.ifCond .lt 17, 3) := dk_155 0 17 (dk_at dksX1_chorus_0 2 rfl rfl)
theorem dX1_chorus_5 : decode cX1_chorus 5 = .ok (.iload_n 1, 1) := dk_27 (dk_at dksX1_chorus_0 5 rfl rfl)
theorem dX1_chorus_6 : decode cX1_chorus 6 = .ok (.iconst 1, 1) := dk_4 (dk_at dksX1_chorus_0 6 rfl rfl)
theorem dX1_chorus_7 : decode cX1_chorus 7 = .ok (.aload_n 0, 1) := dk_42 (dk_at dksX1_chorus_0 7 rfl rfl)
theorem dX1_chorus_8 : decode cX1_chorus 8 = .ok (.invokevirtual 157, 3) := dk_182 0 157 (dk_at dksX1_chorus_0 8 rfl rfl)
theorem dX1_chorus_11 : decode cX1_chorus 11 = .ok (.ishl, 1) := dk_120 (dk_at dksX1_chorus_0 11 rfl rfl)
theorem dX1_chorus_12 : decode cX1_chorus 12 = .ok (.if_icmp .ge 7, 3) := dk_162 0 7 (dk_at dksX1_chorus_0 12 rfl rfl)
theorem dX1_chorus_15 : decode cX1_chorus 15 = .ok (.iconst 1, 1) := dk_4 (dk_at dksX1_chorus_0 15 rfl rfl)
theorem dX1_chorus_16 : decode cX1_chorus 16 = .ok (.goto 4, 3) := dk_167 0 4 (dk_at dksX1_chorus_0 16 rfl rfl)
theorem dX1_chorus_19 : decode cX1_chorus 19 = .ok (.iconst 0, 1) := dk_3 (dk_at dksX1_chorus_0 19 rfl rfl)
theorem dX1_chorus_20 : decode cX1_chorus 20 = .ok (.invokevirtual 183, 3) := dk_182 0 183 (dk_at dksX1_chorus_0 20 rfl rfl)
theorem dX1_chorus_23 : decode cX1_chorus 23 = .ok (.aload_n 0, 1) := dk_42 (dk_at dksX1_chorus_0 23 rfl rfl)
theorem dX1_chorus_24 : decode cX1_chorus 24 = .ok (.getfield 48, 3) := dk_180 0 48 (dk_at dksX1_chorus_1 0 rfl rfl)
theorem dX1_chorus_27 : decode cX1_chorus 27 = .ok (.aload_n 0, 1) := dk_42 (dk_at dksX1_chorus_1 3 rfl rfl)
theorem dX1_chorus_28 : decode cX1_chorus 28 = .ok (.getfield 44, 3) := dk_180 0 44 (dk_at dksX1_chorus_1 4 rfl rfl)
theorem dX1_chorus_31 : decode cX1_chorus 31 = .ok (.invokevirtual 248, 3) := dk_182 0 248 (dk_at dksX1_chorus_1 7 rfl rfl)
theorem dX1_chorus_34 : decode cX1_chorus 34 = .ok (.astore_n 2, 1) := dk_77 (dk_at dksX1_chorus_1 10 rfl rfl)
theorem dX1_chorus_35 : decode cX1_chorus 35 = .ok (.aload_n 2, 1) := dk_44 (dk_at dksX1_chorus_1 11 rfl rfl)
theorem dX1_chorus_36 : decode cX1_chorus 36 = .ok (.iload_n 1, 1) := dk_27 (dk_at dksX1_chorus_1 12 rfl rfl)
theorem dX1_chorus_37 : decode cX1_chorus 37 = .ok (.iconst (-1), 1) := dk_2 (dk_at dksX1_chorus_1 13 rfl rfl)
theorem dX1_chorus_38 : decode cX1_chorus 38 = .ok (.ixor, 1) := dk_130 (dk_at dksX1_chorus_1 14 rfl rfl)
theorem dX1_chorus_39 : decode cX1_chorus 39 = .ok (.putfield 255, 3) := dk_181 0 255 (dk_at dksX1_chorus_1 15 rfl rfl)
theorem dX1_chorus_42 : decode cX1_chorus 42 = .ok (.aload_n 2, 1) := dk_44 (dk_at dksX1_chorus_1 18 rfl rfl)
theorem dX1_chorus_43 : decode cX1_chorus 43 = .ok (.invokevirtual 325, 3) := dk_182 1 69 (dk_at dksX1_chorus_1 19 rfl rfl)
theorem dX1_chorus_46 : decode cX1_chorus 46 = .ok (.invokestatic 334, 3) := dk_184 1 78 (dk_at dksX1_chorus_2 0 rfl rfl)
theorem dX1_chorus_49 : decode cX1_chorus 49 = .ok (.ireturn, 1) := dk_172 (dk_at dksX1_chorus_2 3 rfl rfl)
abbrev cX1_spare : ByteArray := prog_1_method_46_code
def yX1_spare : MethodName := ⟨RX1, "spare", "(I)I"⟩
def dkwX1_spare_3 : List UInt8 := [180, 0, 44, 180, 1, 14, 28, 46, 172]
abbrev dktX1_spare_3 : List UInt8 := dkwX1_spare_3 ++ []
def dkwX1_spare_2 : List UInt8 := [29, 61, 132, 3, 1, 167, 255, 217, 27, 153, 0, 8, 28, 2, 160, 0, 7, 28, 167, 0, 12, 42]
abbrev dktX1_spare_2 : List UInt8 := dkwX1_spare_2 ++ dktX1_spare_3
def dkwX1_spare_1 : List UInt8 := [159, 0, 24, 42, 180, 0, 44, 180, 1, 14, 29, 46, 42, 180, 0, 44, 180, 1, 14, 28, 46, 162, 0, 5]
abbrev dktX1_spare_1 : List UInt8 := dkwX1_spare_1 ++ dktX1_spare_2
def dkwX1_spare_0 : List UInt8 := [42, 27, 184, 1, 49, 182, 0, 183, 2, 61, 3, 62, 29, 42, 182, 0, 157, 162, 0, 37, 28, 2]
abbrev dktX1_spare_0 : List UInt8 := dkwX1_spare_0 ++ dktX1_spare_1
theorem dksX1_spare_0 : cX1_spare.data.toList.drop 0 = dktX1_spare_0 := by decide +kernel
theorem dksX1_spare_1 : cX1_spare.data.toList.drop 22 = dktX1_spare_1 := dk_seg dksX1_spare_0 22 rfl rfl
theorem dksX1_spare_2 : cX1_spare.data.toList.drop 46 = dktX1_spare_2 := dk_seg dksX1_spare_1 24 rfl rfl
theorem dksX1_spare_3 : cX1_spare.data.toList.drop 68 = dktX1_spare_3 := dk_seg dksX1_spare_2 22 rfl rfl
theorem dX1_spare_0 : decode cX1_spare 0 = .ok (.aload_n 0, 1) := dk_42 (dk_at dksX1_spare_0 0 rfl rfl)
theorem dX1_spare_1 : decode cX1_spare 1 = .ok (.iload_n 1, 1) := dk_27 (dk_at dksX1_spare_0 1 rfl rfl)
theorem dX1_spare_2 : decode cX1_spare 2 = .ok (.invokestatic 305, 3) := dk_184 1 49 (dk_at dksX1_spare_0 2 rfl rfl)
theorem dX1_spare_5 : decode cX1_spare 5 = .ok (.invokevirtual 183, 3) := dk_182 0 183 (dk_at dksX1_spare_0 5 rfl rfl)
theorem dX1_spare_8 : decode cX1_spare 8 = .ok (.iconst (-1), 1) := dk_2 (dk_at dksX1_spare_0 8 rfl rfl)
theorem dX1_spare_9 : decode cX1_spare 9 = .ok (.istore_n 2, 1) := dk_61 (dk_at dksX1_spare_0 9 rfl rfl)
theorem dX1_spare_10 : decode cX1_spare 10 = .ok (.iconst 0, 1) := dk_3 (dk_at dksX1_spare_0 10 rfl rfl)
theorem dX1_spare_11 : decode cX1_spare 11 = .ok (.istore_n 3, 1) := dk_62 (dk_at dksX1_spare_0 11 rfl rfl)
theorem dX1_spare_12 : decode cX1_spare 12 = .ok (.iload_n 3, 1) := dk_29 (dk_at dksX1_spare_0 12 rfl rfl)
theorem dX1_spare_13 : decode cX1_spare 13 = .ok (.aload_n 0, 1) := dk_42 (dk_at dksX1_spare_0 13 rfl rfl)
theorem dX1_spare_14 : decode cX1_spare 14 = .ok (.invokevirtual 157, 3) := dk_182 0 157 (dk_at dksX1_spare_0 14 rfl rfl)
theorem dX1_spare_17 : decode cX1_spare 17 = .ok (.if_icmp .ge 37, 3) := dk_162 0 37 (dk_at dksX1_spare_0 17 rfl rfl)
theorem dX1_spare_20 : decode cX1_spare 20 = .ok (.iload_n 2, 1) := dk_28 (dk_at dksX1_spare_0 20 rfl rfl)
theorem dX1_spare_21 : decode cX1_spare 21 = .ok (.iconst (-1), 1) := dk_2 (dk_at dksX1_spare_0 21 rfl rfl)
theorem dX1_spare_22 : decode cX1_spare 22 = .ok (.if_icmp .eq 24, 3) := dk_159 0 24 (dk_at dksX1_spare_1 0 rfl rfl)
theorem dX1_spare_25 : decode cX1_spare 25 = .ok (.aload_n 0, 1) := dk_42 (dk_at dksX1_spare_1 3 rfl rfl)
theorem dX1_spare_26 : decode cX1_spare 26 = .ok (.getfield 44, 3) := dk_180 0 44 (dk_at dksX1_spare_1 4 rfl rfl)
theorem dX1_spare_29 : decode cX1_spare 29 = .ok (.getfield 270, 3) := dk_180 1 14 (dk_at dksX1_spare_1 7 rfl rfl)
theorem dX1_spare_32 : decode cX1_spare 32 = .ok (.iload_n 3, 1) := dk_29 (dk_at dksX1_spare_1 10 rfl rfl)
theorem dX1_spare_33 : decode cX1_spare 33 = .ok (.iaload, 1) := dk_46 (dk_at dksX1_spare_1 11 rfl rfl)
theorem dX1_spare_34 : decode cX1_spare 34 = .ok (.aload_n 0, 1) := dk_42 (dk_at dksX1_spare_1 12 rfl rfl)
theorem dX1_spare_35 : decode cX1_spare 35 = .ok (.getfield 44, 3) := dk_180 0 44 (dk_at dksX1_spare_1 13 rfl rfl)
theorem dX1_spare_38 : decode cX1_spare 38 = .ok (.getfield 270, 3) := dk_180 1 14 (dk_at dksX1_spare_1 16 rfl rfl)
theorem dX1_spare_41 : decode cX1_spare 41 = .ok (.iload_n 2, 1) := dk_28 (dk_at dksX1_spare_1 19 rfl rfl)
theorem dX1_spare_42 : decode cX1_spare 42 = .ok (.iaload, 1) := dk_46 (dk_at dksX1_spare_1 20 rfl rfl)
theorem dX1_spare_43 : decode cX1_spare 43 = .ok (.if_icmp .ge 5, 3) := dk_162 0 5 (dk_at dksX1_spare_1 21 rfl rfl)
theorem dX1_spare_46 : decode cX1_spare 46 = .ok (.iload_n 3, 1) := dk_29 (dk_at dksX1_spare_2 0 rfl rfl)
theorem dX1_spare_47 : decode cX1_spare 47 = .ok (.istore_n 2, 1) := dk_61 (dk_at dksX1_spare_2 1 rfl rfl)
theorem dX1_spare_48 : decode cX1_spare 48 = .ok (.iinc 3 1, 3) := dk_132 3 1 (dk_at dksX1_spare_2 2 rfl rfl)
theorem dX1_spare_51 : decode cX1_spare 51 = .ok (.goto (-39), 3) := dk_167 255 217 (dk_at dksX1_spare_2 5 rfl rfl)
theorem dX1_spare_54 : decode cX1_spare 54 = .ok (.iload_n 1, 1) := dk_27 (dk_at dksX1_spare_2 8 rfl rfl)
theorem dX1_spare_55 : decode cX1_spare 55 = .ok (.ifCond .eq 8, 3) := dk_153 0 8 (dk_at dksX1_spare_2 9 rfl rfl)
theorem dX1_spare_58 : decode cX1_spare 58 = .ok (.iload_n 2, 1) := dk_28 (dk_at dksX1_spare_2 12 rfl rfl)
theorem dX1_spare_59 : decode cX1_spare 59 = .ok (.iconst (-1), 1) := dk_2 (dk_at dksX1_spare_2 13 rfl rfl)
theorem dX1_spare_60 : decode cX1_spare 60 = .ok (.if_icmp .ne 7, 3) := dk_160 0 7 (dk_at dksX1_spare_2 14 rfl rfl)
theorem dX1_spare_63 : decode cX1_spare 63 = .ok (.iload_n 2, 1) := dk_28 (dk_at dksX1_spare_2 17 rfl rfl)
theorem dX1_spare_64 : decode cX1_spare 64 = .ok (.goto 12, 3) := dk_167 0 12 (dk_at dksX1_spare_2 18 rfl rfl)
theorem dX1_spare_67 : decode cX1_spare 67 = .ok (.aload_n 0, 1) := dk_42 (dk_at dksX1_spare_2 21 rfl rfl)
theorem dX1_spare_68 : decode cX1_spare 68 = .ok (.getfield 44, 3) := dk_180 0 44 (dk_at dksX1_spare_3 0 rfl rfl)
theorem dX1_spare_71 : decode cX1_spare 71 = .ok (.getfield 270, 3) := dk_180 1 14 (dk_at dksX1_spare_3 3 rfl rfl)
theorem dX1_spare_74 : decode cX1_spare 74 = .ok (.iload_n 2, 1) := dk_28 (dk_at dksX1_spare_3 6 rfl rfl)
theorem dX1_spare_75 : decode cX1_spare 75 = .ok (.iaload, 1) := dk_46 (dk_at dksX1_spare_3 7 rfl rfl)
theorem dX1_spare_76 : decode cX1_spare 76 = .ok (.ireturn, 1) := dk_172 (dk_at dksX1_spare_3 8 rfl rfl)
abbrev cX1_sunday : ByteArray := prog_1_method_76_code
def yX1_sunday : MethodName := ⟨RX1, "sunday", "(IIII)I"⟩
def dkwX1_sunday_4 : List UInt8 := [180, 1, 5, 182, 1, 8, 42, 180, 0, 44, 42, 180, 0, 44, 180, 1, 5, 182, 1, 8, 100, 172]
abbrev dktX1_sunday_4 : List UInt8 := dkwX1_sunday_4 ++ []
def dkwX1_sunday_3 : List UInt8 := [21, 4, 5, 160, 0, 16, 25, 5, 25, 5, 180, 1, 11, 182, 1, 8, 167, 0, 28, 25, 5, 25, 5]
abbrev dktX1_sunday_3 : List UInt8 := dkwX1_sunday_3 ++ dktX1_sunday_4
def dkwX1_sunday_2 : List UInt8 := [180, 0, 44, 180, 1, 2, 100, 167, 0, 61, 21, 4, 4, 160, 0, 11, 25, 5, 180, 0, 255, 167, 0, 47]
abbrev dktX1_sunday_2 : List UInt8 := dkwX1_sunday_2 ++ dktX1_sunday_3
def dkwX1_sunday_1 : List UInt8 := [182, 0, 183, 42, 27, 28, 29, 182, 1, 162, 58, 5, 21, 4, 154, 0, 19, 25, 5, 180, 1, 2, 42]
abbrev dktX1_sunday_1 : List UInt8 := dkwX1_sunday_1 ++ dktX1_sunday_2
def dkwX1_sunday_0 : List UInt8 := [42, 28, 29, 184, 1, 159, 153, 0, 17, 21, 4, 3, 6, 184, 0, 165, 153, 0, 7, 4, 167, 0, 4, 3]
abbrev dktX1_sunday_0 : List UInt8 := dkwX1_sunday_0 ++ dktX1_sunday_1
theorem dksX1_sunday_0 : cX1_sunday.data.toList.drop 0 = dktX1_sunday_0 := by decide +kernel
theorem dksX1_sunday_1 : cX1_sunday.data.toList.drop 24 = dktX1_sunday_1 := dk_seg dksX1_sunday_0 24 rfl rfl
theorem dksX1_sunday_2 : cX1_sunday.data.toList.drop 47 = dktX1_sunday_2 := dk_seg dksX1_sunday_1 23 rfl rfl
theorem dksX1_sunday_3 : cX1_sunday.data.toList.drop 71 = dktX1_sunday_3 := dk_seg dksX1_sunday_2 24 rfl rfl
theorem dksX1_sunday_4 : cX1_sunday.data.toList.drop 94 = dktX1_sunday_4 := dk_seg dksX1_sunday_3 23 rfl rfl
theorem dX1_sunday_0 : decode cX1_sunday 0 = .ok (.aload_n 0, 1) := dk_42 (dk_at dksX1_sunday_0 0 rfl rfl)
theorem dX1_sunday_1 : decode cX1_sunday 1 = .ok (.iload_n 2, 1) := dk_28 (dk_at dksX1_sunday_0 1 rfl rfl)
theorem dX1_sunday_2 : decode cX1_sunday 2 = .ok (.iload_n 3, 1) := dk_29 (dk_at dksX1_sunday_0 2 rfl rfl)
theorem dX1_sunday_3 : decode cX1_sunday 3 = .ok (.invokestatic 415, 3) := dk_184 1 159 (dk_at dksX1_sunday_0 3 rfl rfl)
theorem dX1_sunday_6 : decode cX1_sunday 6 = .ok (.ifCond .eq 17, 3) := dk_153 0 17 (dk_at dksX1_sunday_0 6 rfl rfl)
theorem dX1_sunday_9 : decode cX1_sunday 9 = .ok (.iload 4, 2) := dk_21 4 (dk_at dksX1_sunday_0 9 rfl rfl)
theorem dX1_sunday_11 : decode cX1_sunday 11 = .ok (.iconst 0, 1) := dk_3 (dk_at dksX1_sunday_0 11 rfl rfl)
theorem dX1_sunday_12 : decode cX1_sunday 12 = .ok (.iconst 3, 1) := dk_6 (dk_at dksX1_sunday_0 12 rfl rfl)
theorem dX1_sunday_13 : decode cX1_sunday 13 = .ok (.invokestatic 165, 3) := dk_184 0 165 (dk_at dksX1_sunday_0 13 rfl rfl)
theorem dX1_sunday_16 : decode cX1_sunday 16 = .ok (.ifCond .eq 7, 3) := dk_153 0 7 (dk_at dksX1_sunday_0 16 rfl rfl)
theorem dX1_sunday_19 : decode cX1_sunday 19 = .ok (.iconst 1, 1) := dk_4 (dk_at dksX1_sunday_0 19 rfl rfl)
theorem dX1_sunday_20 : decode cX1_sunday 20 = .ok (.goto 4, 3) := dk_167 0 4 (dk_at dksX1_sunday_0 20 rfl rfl)
theorem dX1_sunday_23 : decode cX1_sunday 23 = .ok (.iconst 0, 1) := dk_3 (dk_at dksX1_sunday_0 23 rfl rfl)
theorem dX1_sunday_24 : decode cX1_sunday 24 = .ok (.invokevirtual 183, 3) := dk_182 0 183 (dk_at dksX1_sunday_1 0 rfl rfl)
theorem dX1_sunday_27 : decode cX1_sunday 27 = .ok (.aload_n 0, 1) := dk_42 (dk_at dksX1_sunday_1 3 rfl rfl)
theorem dX1_sunday_28 : decode cX1_sunday 28 = .ok (.iload_n 1, 1) := dk_27 (dk_at dksX1_sunday_1 4 rfl rfl)
theorem dX1_sunday_29 : decode cX1_sunday 29 = .ok (.iload_n 2, 1) := dk_28 (dk_at dksX1_sunday_1 5 rfl rfl)
theorem dX1_sunday_30 : decode cX1_sunday 30 = .ok (.iload_n 3, 1) := dk_29 (dk_at dksX1_sunday_1 6 rfl rfl)
theorem dX1_sunday_31 : decode cX1_sunday 31 = .ok (.invokevirtual 418, 3) := dk_182 1 162 (dk_at dksX1_sunday_1 7 rfl rfl)
theorem dX1_sunday_34 : decode cX1_sunday 34 = .ok (.astore 5, 2) := dk_58 5 (dk_at dksX1_sunday_1 10 rfl rfl)
theorem dX1_sunday_36 : decode cX1_sunday 36 = .ok (.iload 4, 2) := dk_21 4 (dk_at dksX1_sunday_1 12 rfl rfl)
theorem dX1_sunday_38 : decode cX1_sunday 38 = .ok (.ifCond .ne 19, 3) := dk_154 0 19 (dk_at dksX1_sunday_1 14 rfl rfl)
theorem dX1_sunday_41 : decode cX1_sunday 41 = .ok (.aload 5, 2) := dk_25 5 (dk_at dksX1_sunday_1 17 rfl rfl)
theorem dX1_sunday_43 : decode cX1_sunday 43 = .ok (.getfield 258, 3) := dk_180 1 2 (dk_at dksX1_sunday_1 19 rfl rfl)
theorem dX1_sunday_46 : decode cX1_sunday 46 = .ok (.aload_n 0, 1) := dk_42 (dk_at dksX1_sunday_1 22 rfl rfl)
theorem dX1_sunday_47 : decode cX1_sunday 47 = .ok (.getfield 44, 3) := dk_180 0 44 (dk_at dksX1_sunday_2 0 rfl rfl)
theorem dX1_sunday_50 : decode cX1_sunday 50 = .ok (.getfield 258, 3) := dk_180 1 2 (dk_at dksX1_sunday_2 3 rfl rfl)
theorem dX1_sunday_53 : decode cX1_sunday 53 = .ok (.isub, 1) := dk_100 (dk_at dksX1_sunday_2 6 rfl rfl)
theorem dX1_sunday_54 : decode cX1_sunday 54 = .ok (.goto 61, 3) := dk_167 0 61 (dk_at dksX1_sunday_2 7 rfl rfl)
theorem dX1_sunday_57 : decode cX1_sunday 57 = .ok (.iload 4, 2) := dk_21 4 (dk_at dksX1_sunday_2 10 rfl rfl)
theorem dX1_sunday_59 : decode cX1_sunday 59 = .ok (.iconst 1, 1) := dk_4 (dk_at dksX1_sunday_2 12 rfl rfl)
theorem dX1_sunday_60 : decode cX1_sunday 60 = .ok (.if_icmp .ne 11, 3) := dk_160 0 11 (dk_at dksX1_sunday_2 13 rfl rfl)
theorem dX1_sunday_63 : decode cX1_sunday 63 = .ok (.aload 5, 2) := dk_25 5 (dk_at dksX1_sunday_2 16 rfl rfl)
theorem dX1_sunday_65 : decode cX1_sunday 65 = .ok (.getfield 255, 3) := dk_180 0 255 (dk_at dksX1_sunday_2 18 rfl rfl)
theorem dX1_sunday_68 : decode cX1_sunday 68 = .ok (.goto 47, 3) := dk_167 0 47 (dk_at dksX1_sunday_2 21 rfl rfl)
theorem dX1_sunday_71 : decode cX1_sunday 71 = .ok (.iload 4, 2) := dk_21 4 (dk_at dksX1_sunday_3 0 rfl rfl)
theorem dX1_sunday_73 : decode cX1_sunday 73 = .ok (.iconst 2, 1) := dk_5 (dk_at dksX1_sunday_3 2 rfl rfl)
theorem dX1_sunday_74 : decode cX1_sunday 74 = .ok (.if_icmp .ne 16, 3) := dk_160 0 16 (dk_at dksX1_sunday_3 3 rfl rfl)
theorem dX1_sunday_77 : decode cX1_sunday 77 = .ok (.aload 5, 2) := dk_25 5 (dk_at dksX1_sunday_3 6 rfl rfl)
theorem dX1_sunday_79 : decode cX1_sunday 79 = .ok (.aload 5, 2) := dk_25 5 (dk_at dksX1_sunday_3 8 rfl rfl)
theorem dX1_sunday_81 : decode cX1_sunday 81 = .ok (.getfield 267, 3) := dk_180 1 11 (dk_at dksX1_sunday_3 10 rfl rfl)
theorem dX1_sunday_84 : decode cX1_sunday 84 = .ok (.invokevirtual 264, 3) := dk_182 1 8 (dk_at dksX1_sunday_3 13 rfl rfl)
theorem dX1_sunday_87 : decode cX1_sunday 87 = .ok (.goto 28, 3) := dk_167 0 28 (dk_at dksX1_sunday_3 16 rfl rfl)
theorem dX1_sunday_90 : decode cX1_sunday 90 = .ok (.aload 5, 2) := dk_25 5 (dk_at dksX1_sunday_3 19 rfl rfl)
theorem dX1_sunday_92 : decode cX1_sunday 92 = .ok (.aload 5, 2) := dk_25 5 (dk_at dksX1_sunday_3 21 rfl rfl)
theorem dX1_sunday_94 : decode cX1_sunday 94 = .ok (.getfield 261, 3) := dk_180 1 5 (dk_at dksX1_sunday_4 0 rfl rfl)
theorem dX1_sunday_97 : decode cX1_sunday 97 = .ok (.invokevirtual 264, 3) := dk_182 1 8 (dk_at dksX1_sunday_4 3 rfl rfl)
theorem dX1_sunday_100 : decode cX1_sunday 100 = .ok (.aload_n 0, 1) := dk_42 (dk_at dksX1_sunday_4 6 rfl rfl)
theorem dX1_sunday_101 : decode cX1_sunday 101 = .ok (.getfield 44, 3) := dk_180 0 44 (dk_at dksX1_sunday_4 7 rfl rfl)
theorem dX1_sunday_104 : decode cX1_sunday 104 = .ok (.aload_n 0, 1) := dk_42 (dk_at dksX1_sunday_4 10 rfl rfl)
theorem dX1_sunday_105 : decode cX1_sunday 105 = .ok (.getfield 44, 3) := dk_180 0 44 (dk_at dksX1_sunday_4 11 rfl rfl)
theorem dX1_sunday_108 : decode cX1_sunday 108 = .ok (.getfield 261, 3) := dk_180 1 5 (dk_at dksX1_sunday_4 14 rfl rfl)
theorem dX1_sunday_111 : decode cX1_sunday 111 = .ok (.invokevirtual 264, 3) := dk_182 1 8 (dk_at dksX1_sunday_4 17 rfl rfl)
theorem dX1_sunday_114 : decode cX1_sunday 114 = .ok (.isub, 1) := dk_100 (dk_at dksX1_sunday_4 20 rfl rfl)
theorem dX1_sunday_115 : decode cX1_sunday 115 = .ok (.ireturn, 1) := dk_172 (dk_at dksX1_sunday_4 21 rfl rfl)
abbrev cX1_isSunday : ByteArray := prog_1_method_75_code
def yX1_isSunday : MethodName := ⟨RX1, "isSunday", "(II)Z"⟩
def dkwX1_isSunday_1 : List UInt8 := [3, 172]
abbrev dktX1_isSunday_1 : List UInt8 := dkwX1_isSunday_1 ++ []
def dkwX1_isSunday_0 : List UInt8 := [26, 4, 16, 48, 184, 0, 165, 153, 0, 17, 27, 3, 16, 16, 184, 0, 165, 153, 0, 7, 4, 167, 0, 4]
abbrev dktX1_isSunday_0 : List UInt8 := dkwX1_isSunday_0 ++ dktX1_isSunday_1
theorem dksX1_isSunday_0 : cX1_isSunday.data.toList.drop 0 = dktX1_isSunday_0 := by decide +kernel
theorem dksX1_isSunday_1 : cX1_isSunday.data.toList.drop 24 = dktX1_isSunday_1 := dk_seg dksX1_isSunday_0 24 rfl rfl
theorem dX1_isSunday_0 : decode cX1_isSunday 0 = .ok (.iload_n 0, 1) := dk_26 (dk_at dksX1_isSunday_0 0 rfl rfl)
theorem dX1_isSunday_1 : decode cX1_isSunday 1 = .ok (.iconst 1, 1) := dk_4 (dk_at dksX1_isSunday_0 1 rfl rfl)
theorem dX1_isSunday_2 : decode cX1_isSunday 2 = .ok (.bipush 48, 2) := dk_16 48 (dk_at dksX1_isSunday_0 2 rfl rfl)
theorem dX1_isSunday_4 : decode cX1_isSunday 4 = .ok (.invokestatic 165, 3) := dk_184 0 165 (dk_at dksX1_isSunday_0 4 rfl rfl)
theorem dX1_isSunday_7 : decode cX1_isSunday 7 = .ok (.ifCond .eq 17, 3) := dk_153 0 17 (dk_at dksX1_isSunday_0 7 rfl rfl)
theorem dX1_isSunday_10 : decode cX1_isSunday 10 = .ok (.iload_n 1, 1) := dk_27 (dk_at dksX1_isSunday_0 10 rfl rfl)
theorem dX1_isSunday_11 : decode cX1_isSunday 11 = .ok (.iconst 0, 1) := dk_3 (dk_at dksX1_isSunday_0 11 rfl rfl)
theorem dX1_isSunday_12 : decode cX1_isSunday 12 = .ok (.bipush 16, 2) := dk_16 16 (dk_at dksX1_isSunday_0 12 rfl rfl)
theorem dX1_isSunday_14 : decode cX1_isSunday 14 = .ok (.invokestatic 165, 3) := dk_184 0 165 (dk_at dksX1_isSunday_0 14 rfl rfl)
theorem dX1_isSunday_17 : decode cX1_isSunday 17 = .ok (.ifCond .eq 7, 3) := dk_153 0 7 (dk_at dksX1_isSunday_0 17 rfl rfl)
theorem dX1_isSunday_20 : decode cX1_isSunday 20 = .ok (.iconst 1, 1) := dk_4 (dk_at dksX1_isSunday_0 20 rfl rfl)
theorem dX1_isSunday_21 : decode cX1_isSunday 21 = .ok (.goto 4, 3) := dk_167 0 4 (dk_at dksX1_isSunday_0 21 rfl rfl)
theorem dX1_isSunday_24 : decode cX1_isSunday 24 = .ok (.iconst 0, 1) := dk_3 (dk_at dksX1_isSunday_1 0 rfl rfl)
theorem dX1_isSunday_25 : decode cX1_isSunday 25 = .ok (.ireturn, 1) := dk_172 (dk_at dksX1_isSunday_1 1 rfl rfl)
abbrev cX1_sundayBy : ByteArray := prog_1_method_74_code
def yX1_sundayBy : MethodName := ⟨RX1, "sundayBy", "(III)LVowelChoir$Choir;"⟩
def dkwX1_sundayBy_4 : List UInt8 := [132, 5, 1, 167, 255, 180, 25, 4, 176]
abbrev dktX1_sundayBy_4 : List UInt8 := dkwX1_sundayBy_4 ++ []
def dkwX1_sundayBy_3 : List UInt8 := [182, 1, 149, 29, 162, 0, 15, 25, 4, 182, 1, 152, 87, 25, 4, 182, 1, 69, 87, 25, 4, 182, 1, 156]
abbrev dktX1_sundayBy_3 : List UInt8 := dkwX1_sundayBy_3 ++ dktX1_sundayBy_4
def dkwX1_sundayBy_2 : List UInt8 := [182, 1, 149, 120, 130, 181, 0, 255, 25, 4, 182, 1, 69, 87, 42, 182, 0, 157, 158, 0, 25, 42, 16, 16]
abbrev dktX1_sundayBy_2 : List UInt8 := dkwX1_sundayBy_2 ++ dktX1_sundayBy_3
def dkwX1_sundayBy_1 : List UInt8 := [162, 0, 76, 42, 182, 0, 157, 158, 0, 23, 25, 4, 89, 180, 0, 255, 4, 42, 42, 182, 0, 157]
abbrev dktX1_sundayBy_1 : List UInt8 := dkwX1_sundayBy_1 ++ dktX1_sundayBy_2
def dkwX1_sundayBy_0 : List UInt8 := [42, 180, 0, 48, 42, 180, 0, 44, 182, 0, 248, 58, 4, 42, 27, 181, 1, 145, 3, 54, 5, 21, 5, 28]
abbrev dktX1_sundayBy_0 : List UInt8 := dkwX1_sundayBy_0 ++ dktX1_sundayBy_1
theorem dksX1_sundayBy_0 : cX1_sundayBy.data.toList.drop 0 = dktX1_sundayBy_0 := by decide +kernel
theorem dksX1_sundayBy_1 : cX1_sundayBy.data.toList.drop 24 = dktX1_sundayBy_1 := dk_seg dksX1_sundayBy_0 24 rfl rfl
theorem dksX1_sundayBy_2 : cX1_sundayBy.data.toList.drop 46 = dktX1_sundayBy_2 := dk_seg dksX1_sundayBy_1 22 rfl rfl
theorem dksX1_sundayBy_3 : cX1_sundayBy.data.toList.drop 70 = dktX1_sundayBy_3 := dk_seg dksX1_sundayBy_2 24 rfl rfl
theorem dksX1_sundayBy_4 : cX1_sundayBy.data.toList.drop 94 = dktX1_sundayBy_4 := dk_seg dksX1_sundayBy_3 24 rfl rfl
theorem dX1_sundayBy_0 : decode cX1_sundayBy 0 = .ok (.aload_n 0, 1) := dk_42 (dk_at dksX1_sundayBy_0 0 rfl rfl)
theorem dX1_sundayBy_1 : decode cX1_sundayBy 1 = .ok (.getfield 48, 3) := dk_180 0 48 (dk_at dksX1_sundayBy_0 1 rfl rfl)
theorem dX1_sundayBy_4 : decode cX1_sundayBy 4 = .ok (.aload_n 0, 1) := dk_42 (dk_at dksX1_sundayBy_0 4 rfl rfl)
theorem dX1_sundayBy_5 : decode cX1_sundayBy 5 = .ok (.getfield 44, 3) := dk_180 0 44 (dk_at dksX1_sundayBy_0 5 rfl rfl)
theorem dX1_sundayBy_8 : decode cX1_sundayBy 8 = .ok (.invokevirtual 248, 3) := dk_182 0 248 (dk_at dksX1_sundayBy_0 8 rfl rfl)
theorem dX1_sundayBy_11 : decode cX1_sundayBy 11 = .ok (.astore 4, 2) := dk_58 4 (dk_at dksX1_sundayBy_0 11 rfl rfl)
theorem dX1_sundayBy_13 : decode cX1_sundayBy 13 = .ok (.aload_n 0, 1) := dk_42 (dk_at dksX1_sundayBy_0 13 rfl rfl)
theorem dX1_sundayBy_14 : decode cX1_sundayBy 14 = .ok (.iload_n 1, 1) := dk_27 (dk_at dksX1_sundayBy_0 14 rfl rfl)
theorem dX1_sundayBy_15 : decode cX1_sundayBy 15 = .ok (.putfield 401, 3) := dk_181 1 145 (dk_at dksX1_sundayBy_0 15 rfl rfl)
theorem dX1_sundayBy_18 : decode cX1_sundayBy 18 = .ok (.iconst 0, 1) := dk_3 (dk_at dksX1_sundayBy_0 18 rfl rfl)
theorem dX1_sundayBy_19 : decode cX1_sundayBy 19 = .ok (.istore 5, 2) := dk_54 5 (dk_at dksX1_sundayBy_0 19 rfl rfl)
theorem dX1_sundayBy_21 : decode cX1_sundayBy 21 = .ok (.iload 5, 2) := dk_21 5 (dk_at dksX1_sundayBy_0 21 rfl rfl)
theorem dX1_sundayBy_23 : decode cX1_sundayBy 23 = .ok (.iload_n 2, 1) := dk_28 (dk_at dksX1_sundayBy_0 23 rfl rfl)
theorem dX1_sundayBy_24 : decode cX1_sundayBy 24 = .ok (.if_icmp .ge 76, 3) := dk_162 0 76 (dk_at dksX1_sundayBy_1 0 rfl rfl)
theorem dX1_sundayBy_27 : decode cX1_sundayBy 27 = .ok (.aload_n 0, 1) := dk_42 (dk_at dksX1_sundayBy_1 3 rfl rfl)
theorem dX1_sundayBy_28 : decode cX1_sundayBy 28 = .ok (.invokevirtual 157, 3) := dk_182 0 157 (dk_at dksX1_sundayBy_1 4 rfl rfl)
theorem dX1_sundayBy_31 : decode cX1_sundayBy 31 = .ok (.ifCond .le 23, 3) := dk_158 0 23 (dk_at dksX1_sundayBy_1 7 rfl rfl)
theorem dX1_sundayBy_34 : decode cX1_sundayBy 34 = .ok (.aload 4, 2) := dk_25 4 (dk_at dksX1_sundayBy_1 10 rfl rfl)
theorem dX1_sundayBy_36 : decode cX1_sundayBy 36 = .ok (.dup, 1) := dk_89 (dk_at dksX1_sundayBy_1 12 rfl rfl)
theorem dX1_sundayBy_37 : decode cX1_sundayBy 37 = .ok (.getfield 255, 3) := dk_180 0 255 (dk_at dksX1_sundayBy_1 13 rfl rfl)
theorem dX1_sundayBy_40 : decode cX1_sundayBy 40 = .ok (.iconst 1, 1) := dk_4 (dk_at dksX1_sundayBy_1 16 rfl rfl)
theorem dX1_sundayBy_41 : decode cX1_sundayBy 41 = .ok (.aload_n 0, 1) := dk_42 (dk_at dksX1_sundayBy_1 17 rfl rfl)
theorem dX1_sundayBy_42 : decode cX1_sundayBy 42 = .ok (.aload_n 0, 1) := dk_42 (dk_at dksX1_sundayBy_1 18 rfl rfl)
theorem dX1_sundayBy_43 : decode cX1_sundayBy 43 = .ok (.invokevirtual 157, 3) := dk_182 0 157 (dk_at dksX1_sundayBy_1 19 rfl rfl)
theorem dX1_sundayBy_46 : decode cX1_sundayBy 46 = .ok (.invokevirtual 405, 3) := dk_182 1 149 (dk_at dksX1_sundayBy_2 0 rfl rfl)
theorem dX1_sundayBy_49 : decode cX1_sundayBy 49 = .ok (.ishl, 1) := dk_120 (dk_at dksX1_sundayBy_2 3 rfl rfl)
theorem dX1_sundayBy_50 : decode cX1_sundayBy 50 = .ok (.ixor, 1) := dk_130 (dk_at dksX1_sundayBy_2 4 rfl rfl)
theorem dX1_sundayBy_51 : decode cX1_sundayBy 51 = .ok (.putfield 255, 3) := dk_181 0 255 (dk_at dksX1_sundayBy_2 5 rfl rfl)
theorem dX1_sundayBy_54 : decode cX1_sundayBy 54 = .ok (.aload 4, 2) := dk_25 4 (dk_at dksX1_sundayBy_2 8 rfl rfl)
theorem dX1_sundayBy_56 : decode cX1_sundayBy 56 = .ok (.invokevirtual 325, 3) := dk_182 1 69 (dk_at dksX1_sundayBy_2 10 rfl rfl)
theorem dX1_sundayBy_59 : decode cX1_sundayBy 59 = .ok (.pop, 1) := dk_87 (dk_at dksX1_sundayBy_2 13 rfl rfl)
theorem dX1_sundayBy_60 : decode cX1_sundayBy 60 = .ok (.aload_n 0, 1) := dk_42 (dk_at dksX1_sundayBy_2 14 rfl rfl)
theorem dX1_sundayBy_61 : decode cX1_sundayBy 61 = .ok (.invokevirtual 157, 3) := dk_182 0 157 (dk_at dksX1_sundayBy_2 15 rfl rfl)
theorem dX1_sundayBy_64 : decode cX1_sundayBy 64 = .ok (.ifCond .le 25, 3) := dk_158 0 25 (dk_at dksX1_sundayBy_2 18 rfl rfl)
theorem dX1_sundayBy_67 : decode cX1_sundayBy 67 = .ok (.aload_n 0, 1) := dk_42 (dk_at dksX1_sundayBy_2 21 rfl rfl)
theorem dX1_sundayBy_68 : decode cX1_sundayBy 68 = .ok (.bipush 16, 2) := dk_16 16 (dk_at dksX1_sundayBy_2 22 rfl rfl)
theorem dX1_sundayBy_70 : decode cX1_sundayBy 70 = .ok (.invokevirtual 405, 3) := dk_182 1 149 (dk_at dksX1_sundayBy_3 0 rfl rfl)
theorem dX1_sundayBy_73 : decode cX1_sundayBy 73 = .ok (.iload_n 3, 1) := dk_29 (dk_at dksX1_sundayBy_3 3 rfl rfl)
theorem dX1_sundayBy_74 : decode cX1_sundayBy 74 = .ok (.if_icmp .ge 15, 3) := dk_162 0 15 (dk_at dksX1_sundayBy_3 4 rfl rfl)
theorem dX1_sundayBy_77 : decode cX1_sundayBy 77 = .ok (.aload 4, 2) := dk_25 4 (dk_at dksX1_sundayBy_3 7 rfl rfl)
theorem dX1_sundayBy_79 : decode cX1_sundayBy 79 = .ok (.invokevirtual 408, 3) := dk_182 1 152 (dk_at dksX1_sundayBy_3 9 rfl rfl)
theorem dX1_sundayBy_82 : decode cX1_sundayBy 82 = .ok (.pop, 1) := dk_87 (dk_at dksX1_sundayBy_3 12 rfl rfl)
theorem dX1_sundayBy_83 : decode cX1_sundayBy 83 = .ok (.aload 4, 2) := dk_25 4 (dk_at dksX1_sundayBy_3 13 rfl rfl)
theorem dX1_sundayBy_85 : decode cX1_sundayBy 85 = .ok (.invokevirtual 325, 3) := dk_182 1 69 (dk_at dksX1_sundayBy_3 15 rfl rfl)
theorem dX1_sundayBy_88 : decode cX1_sundayBy 88 = .ok (.pop, 1) := dk_87 (dk_at dksX1_sundayBy_3 18 rfl rfl)
theorem dX1_sundayBy_89 : decode cX1_sundayBy 89 = .ok (.aload 4, 2) := dk_25 4 (dk_at dksX1_sundayBy_3 19 rfl rfl)
theorem dX1_sundayBy_91 : decode cX1_sundayBy 91 = .ok (.invokevirtual 412, 3) := dk_182 1 156 (dk_at dksX1_sundayBy_3 21 rfl rfl)
theorem dX1_sundayBy_94 : decode cX1_sundayBy 94 = .ok (.iinc 5 1, 3) := dk_132 5 1 (dk_at dksX1_sundayBy_4 0 rfl rfl)
theorem dX1_sundayBy_97 : decode cX1_sundayBy 97 = .ok (.goto (-76), 3) := dk_167 255 180 (dk_at dksX1_sundayBy_4 3 rfl rfl)
theorem dX1_sundayBy_100 : decode cX1_sundayBy 100 = .ok (.aload 4, 2) := dk_25 4 (dk_at dksX1_sundayBy_4 6 rfl rfl)
theorem dX1_sundayBy_102 : decode cX1_sundayBy 102 = .ok (.areturn, 1) := dk_176 (dk_at dksX1_sundayBy_4 8 rfl rfl)
abbrev cX1_draw : ByteArray := prog_1_method_73_code
def yX1_draw : MethodName := ⟨RX1, "draw", "(I)I"⟩
def dkwX1_draw_1 : List UInt8 := [17, 127, 255, 126, 27, 112, 172]
abbrev dktX1_draw_1 : List UInt8 := dkwX1_draw_1 ++ []
def dkwX1_draw_0 : List UInt8 := [42, 42, 180, 1, 145, 19, 1, 148, 104, 17, 48, 57, 96, 181, 1, 145, 42, 180, 1, 145, 16, 16, 122]
abbrev dktX1_draw_0 : List UInt8 := dkwX1_draw_0 ++ dktX1_draw_1
theorem dksX1_draw_0 : cX1_draw.data.toList.drop 0 = dktX1_draw_0 := by decide +kernel
theorem dksX1_draw_1 : cX1_draw.data.toList.drop 23 = dktX1_draw_1 := dk_seg dksX1_draw_0 23 rfl rfl
theorem dX1_draw_0 : decode cX1_draw 0 = .ok (.aload_n 0, 1) := dk_42 (dk_at dksX1_draw_0 0 rfl rfl)
theorem dX1_draw_1 : decode cX1_draw 1 = .ok (.aload_n 0, 1) := dk_42 (dk_at dksX1_draw_0 1 rfl rfl)
theorem dX1_draw_2 : decode cX1_draw 2 = .ok (.getfield 401, 3) := dk_180 1 145 (dk_at dksX1_draw_0 2 rfl rfl)
theorem dX1_draw_5 : decode cX1_draw 5 = .ok (.ldc_w 404, 3) := dk_19 1 148 (dk_at dksX1_draw_0 5 rfl rfl)
theorem dX1_draw_8 : decode cX1_draw 8 = .ok (.imul, 1) := dk_104 (dk_at dksX1_draw_0 8 rfl rfl)
theorem dX1_draw_9 : decode cX1_draw 9 = .ok (.sipush 12345, 3) := dk_17 48 57 (dk_at dksX1_draw_0 9 rfl rfl)
theorem dX1_draw_12 : decode cX1_draw 12 = .ok (.iadd, 1) := dk_96 (dk_at dksX1_draw_0 12 rfl rfl)
theorem dX1_draw_13 : decode cX1_draw 13 = .ok (.putfield 401, 3) := dk_181 1 145 (dk_at dksX1_draw_0 13 rfl rfl)
theorem dX1_draw_16 : decode cX1_draw 16 = .ok (.aload_n 0, 1) := dk_42 (dk_at dksX1_draw_0 16 rfl rfl)
theorem dX1_draw_17 : decode cX1_draw 17 = .ok (.getfield 401, 3) := dk_180 1 145 (dk_at dksX1_draw_0 17 rfl rfl)
theorem dX1_draw_20 : decode cX1_draw 20 = .ok (.bipush 16, 2) := dk_16 16 (dk_at dksX1_draw_0 20 rfl rfl)
theorem dX1_draw_22 : decode cX1_draw 22 = .ok (.ishr, 1) := dk_122 (dk_at dksX1_draw_0 22 rfl rfl)
theorem dX1_draw_23 : decode cX1_draw 23 = .ok (.sipush 32767, 3) := dk_17 127 255 (dk_at dksX1_draw_1 0 rfl rfl)
theorem dX1_draw_26 : decode cX1_draw 26 = .ok (.iand, 1) := dk_126 (dk_at dksX1_draw_1 3 rfl rfl)
theorem dX1_draw_27 : decode cX1_draw 27 = .ok (.iload_n 1, 1) := dk_27 (dk_at dksX1_draw_1 4 rfl rfl)
theorem dX1_draw_28 : decode cX1_draw 28 = .ok (.irem, 1) := dk_112 (dk_at dksX1_draw_1 5 rfl rfl)
theorem dX1_draw_29 : decode cX1_draw 29 = .ok (.ireturn, 1) := dk_172 (dk_at dksX1_draw_1 6 rfl rfl)
abbrev cX1_span : ByteArray := prog_1_method_77_code
def yX1_span : MethodName := ⟨RX1, "span", "(IIIIII)I"⟩
def dkwX1_span_7 : List UInt8 := [154, 0, 8, 21, 7, 167, 0, 16, 21, 5, 4, 160, 0, 8, 21, 8, 167, 0, 5, 21, 9, 172]
abbrev dktX1_span_7 : List UInt8 := dkwX1_span_7 ++ []
def dkwX1_span_6 : List UInt8 := [184, 1, 86, 153, 0, 7, 4, 167, 0, 4, 3, 96, 54, 9, 132, 10, 1, 167, 255, 167, 21, 5]
abbrev dktX1_span_6 : List UInt8 := dkwX1_span_6 ++ dktX1_span_7
def dkwX1_span_5 : List UInt8 := [184, 0, 142, 54, 7, 21, 8, 21, 12, 184, 0, 148, 54, 8, 21, 9, 25, 11, 180, 0, 255, 21, 6]
abbrev dktX1_span_5 : List UInt8 := dkwX1_span_5 ++ dktX1_span_6
def dkwX1_span_4 : List UInt8 := [180, 0, 44, 180, 1, 2, 100, 54, 12, 21, 7, 2, 160, 0, 8, 21, 12, 167, 0, 10, 21, 7, 21, 12]
abbrev dktX1_span_4 : List UInt8 := dkwX1_span_4 ++ dktX1_span_5
def dkwX1_span_3 : List UInt8 := [162, 0, 89, 42, 27, 21, 10, 96, 29, 21, 4, 182, 1, 162, 58, 11, 25, 11, 180, 1, 2, 42]
abbrev dktX1_span_3 : List UInt8 := dkwX1_span_3 ++ dktX1_span_4
def dkwX1_span_2 : List UInt8 := [167, 0, 4, 3, 182, 0, 183, 2, 54, 7, 3, 54, 8, 3, 54, 9, 3, 54, 10, 21, 10, 28]
abbrev dktX1_span_2 : List UInt8 := dkwX1_span_2 ++ dktX1_span_3
def dkwX1_span_1 : List UInt8 := [184, 0, 165, 153, 0, 22, 21, 6, 3, 42, 182, 0, 157, 4, 100, 184, 0, 165, 153, 0, 7, 4]
abbrev dktX1_span_1 : List UInt8 := dkwX1_span_1 ++ dktX1_span_2
def dkwX1_span_0 : List UInt8 := [42, 28, 4, 16, 10, 184, 0, 165, 153, 0, 41, 29, 21, 4, 184, 1, 159, 153, 0, 32, 21, 5, 3, 5]
abbrev dktX1_span_0 : List UInt8 := dkwX1_span_0 ++ dktX1_span_1
theorem dksX1_span_0 : cX1_span.data.toList.drop 0 = dktX1_span_0 := by decide +kernel
theorem dksX1_span_1 : cX1_span.data.toList.drop 24 = dktX1_span_1 := dk_seg dksX1_span_0 24 rfl rfl
theorem dksX1_span_2 : cX1_span.data.toList.drop 46 = dktX1_span_2 := dk_seg dksX1_span_1 22 rfl rfl
theorem dksX1_span_3 : cX1_span.data.toList.drop 68 = dktX1_span_3 := dk_seg dksX1_span_2 22 rfl rfl
theorem dksX1_span_4 : cX1_span.data.toList.drop 90 = dktX1_span_4 := dk_seg dksX1_span_3 22 rfl rfl
theorem dksX1_span_5 : cX1_span.data.toList.drop 114 = dktX1_span_5 := dk_seg dksX1_span_4 24 rfl rfl
theorem dksX1_span_6 : cX1_span.data.toList.drop 137 = dktX1_span_6 := dk_seg dksX1_span_5 23 rfl rfl
theorem dksX1_span_7 : cX1_span.data.toList.drop 159 = dktX1_span_7 := dk_seg dksX1_span_6 22 rfl rfl
theorem dX1_span_0 : decode cX1_span 0 = .ok (.aload_n 0, 1) := dk_42 (dk_at dksX1_span_0 0 rfl rfl)
theorem dX1_span_1 : decode cX1_span 1 = .ok (.iload_n 2, 1) := dk_28 (dk_at dksX1_span_0 1 rfl rfl)
theorem dX1_span_2 : decode cX1_span 2 = .ok (.iconst 1, 1) := dk_4 (dk_at dksX1_span_0 2 rfl rfl)
theorem dX1_span_3 : decode cX1_span 3 = .ok (.bipush 10, 2) := dk_16 10 (dk_at dksX1_span_0 3 rfl rfl)
theorem dX1_span_5 : decode cX1_span 5 = .ok (.invokestatic 165, 3) := dk_184 0 165 (dk_at dksX1_span_0 5 rfl rfl)
theorem dX1_span_8 : decode cX1_span 8 = .ok (.ifCond .eq 41, 3) := dk_153 0 41 (dk_at dksX1_span_0 8 rfl rfl)
theorem dX1_span_11 : decode cX1_span 11 = .ok (.iload_n 3, 1) := dk_29 (dk_at dksX1_span_0 11 rfl rfl)
theorem dX1_span_12 : decode cX1_span 12 = .ok (.iload 4, 2) := dk_21 4 (dk_at dksX1_span_0 12 rfl rfl)
theorem dX1_span_14 : decode cX1_span 14 = .ok (.invokestatic 415, 3) := dk_184 1 159 (dk_at dksX1_span_0 14 rfl rfl)
theorem dX1_span_17 : decode cX1_span 17 = .ok (.ifCond .eq 32, 3) := dk_153 0 32 (dk_at dksX1_span_0 17 rfl rfl)
theorem dX1_span_20 : decode cX1_span 20 = .ok (.iload 5, 2) := dk_21 5 (dk_at dksX1_span_0 20 rfl rfl)
theorem dX1_span_22 : decode cX1_span 22 = .ok (.iconst 0, 1) := dk_3 (dk_at dksX1_span_0 22 rfl rfl)
theorem dX1_span_23 : decode cX1_span 23 = .ok (.iconst 2, 1) := dk_5 (dk_at dksX1_span_0 23 rfl rfl)
theorem dX1_span_24 : decode cX1_span 24 = .ok (.invokestatic 165, 3) := dk_184 0 165 (dk_at dksX1_span_1 0 rfl rfl)
theorem dX1_span_27 : decode cX1_span 27 = .ok (.ifCond .eq 22, 3) := dk_153 0 22 (dk_at dksX1_span_1 3 rfl rfl)
theorem dX1_span_30 : decode cX1_span 30 = .ok (.iload 6, 2) := dk_21 6 (dk_at dksX1_span_1 6 rfl rfl)
theorem dX1_span_32 : decode cX1_span 32 = .ok (.iconst 0, 1) := dk_3 (dk_at dksX1_span_1 8 rfl rfl)
theorem dX1_span_33 : decode cX1_span 33 = .ok (.aload_n 0, 1) := dk_42 (dk_at dksX1_span_1 9 rfl rfl)
theorem dX1_span_34 : decode cX1_span 34 = .ok (.invokevirtual 157, 3) := dk_182 0 157 (dk_at dksX1_span_1 10 rfl rfl)
theorem dX1_span_37 : decode cX1_span 37 = .ok (.iconst 1, 1) := dk_4 (dk_at dksX1_span_1 13 rfl rfl)
theorem dX1_span_38 : decode cX1_span 38 = .ok (.isub, 1) := dk_100 (dk_at dksX1_span_1 14 rfl rfl)
theorem dX1_span_39 : decode cX1_span 39 = .ok (.invokestatic 165, 3) := dk_184 0 165 (dk_at dksX1_span_1 15 rfl rfl)
theorem dX1_span_42 : decode cX1_span 42 = .ok (.ifCond .eq 7, 3) := dk_153 0 7 (dk_at dksX1_span_1 18 rfl rfl)
theorem dX1_span_45 : decode cX1_span 45 = .ok (.iconst 1, 1) := dk_4 (dk_at dksX1_span_1 21 rfl rfl)
theorem dX1_span_46 : decode cX1_span 46 = .ok (.goto 4, 3) := dk_167 0 4 (dk_at dksX1_span_2 0 rfl rfl)
theorem dX1_span_49 : decode cX1_span 49 = .ok (.iconst 0, 1) := dk_3 (dk_at dksX1_span_2 3 rfl rfl)
theorem dX1_span_50 : decode cX1_span 50 = .ok (.invokevirtual 183, 3) := dk_182 0 183 (dk_at dksX1_span_2 4 rfl rfl)
theorem dX1_span_53 : decode cX1_span 53 = .ok (.iconst (-1), 1) := dk_2 (dk_at dksX1_span_2 7 rfl rfl)
theorem dX1_span_54 : decode cX1_span 54 = .ok (.istore 7, 2) := dk_54 7 (dk_at dksX1_span_2 8 rfl rfl)
theorem dX1_span_56 : decode cX1_span 56 = .ok (.iconst 0, 1) := dk_3 (dk_at dksX1_span_2 10 rfl rfl)
theorem dX1_span_57 : decode cX1_span 57 = .ok (.istore 8, 2) := dk_54 8 (dk_at dksX1_span_2 11 rfl rfl)
theorem dX1_span_59 : decode cX1_span 59 = .ok (.iconst 0, 1) := dk_3 (dk_at dksX1_span_2 13 rfl rfl)
theorem dX1_span_60 : decode cX1_span 60 = .ok (.istore 9, 2) := dk_54 9 (dk_at dksX1_span_2 14 rfl rfl)
theorem dX1_span_62 : decode cX1_span 62 = .ok (.iconst 0, 1) := dk_3 (dk_at dksX1_span_2 16 rfl rfl)
theorem dX1_span_63 : decode cX1_span 63 = .ok (.istore 10, 2) := dk_54 10 (dk_at dksX1_span_2 17 rfl rfl)
theorem dX1_span_65 : decode cX1_span 65 = .ok (.iload 10, 2) := dk_21 10 (dk_at dksX1_span_2 19 rfl rfl)
theorem dX1_span_67 : decode cX1_span 67 = .ok (.iload_n 2, 1) := dk_28 (dk_at dksX1_span_2 21 rfl rfl)
theorem dX1_span_68 : decode cX1_span 68 = .ok (.if_icmp .ge 89, 3) := dk_162 0 89 (dk_at dksX1_span_3 0 rfl rfl)
theorem dX1_span_71 : decode cX1_span 71 = .ok (.aload_n 0, 1) := dk_42 (dk_at dksX1_span_3 3 rfl rfl)
theorem dX1_span_72 : decode cX1_span 72 = .ok (.iload_n 1, 1) := dk_27 (dk_at dksX1_span_3 4 rfl rfl)
theorem dX1_span_73 : decode cX1_span 73 = .ok (.iload 10, 2) := dk_21 10 (dk_at dksX1_span_3 5 rfl rfl)
theorem dX1_span_75 : decode cX1_span 75 = .ok (.iadd, 1) := dk_96 (dk_at dksX1_span_3 7 rfl rfl)
theorem dX1_span_76 : decode cX1_span 76 = .ok (.iload_n 3, 1) := dk_29 (dk_at dksX1_span_3 8 rfl rfl)
theorem dX1_span_77 : decode cX1_span 77 = .ok (.iload 4, 2) := dk_21 4 (dk_at dksX1_span_3 9 rfl rfl)
theorem dX1_span_79 : decode cX1_span 79 = .ok (.invokevirtual 418, 3) := dk_182 1 162 (dk_at dksX1_span_3 11 rfl rfl)
theorem dX1_span_82 : decode cX1_span 82 = .ok (.astore 11, 2) := dk_58 11 (dk_at dksX1_span_3 14 rfl rfl)
theorem dX1_span_84 : decode cX1_span 84 = .ok (.aload 11, 2) := dk_25 11 (dk_at dksX1_span_3 16 rfl rfl)
theorem dX1_span_86 : decode cX1_span 86 = .ok (.getfield 258, 3) := dk_180 1 2 (dk_at dksX1_span_3 18 rfl rfl)
theorem dX1_span_89 : decode cX1_span 89 = .ok (.aload_n 0, 1) := dk_42 (dk_at dksX1_span_3 21 rfl rfl)
theorem dX1_span_90 : decode cX1_span 90 = .ok (.getfield 44, 3) := dk_180 0 44 (dk_at dksX1_span_4 0 rfl rfl)
theorem dX1_span_93 : decode cX1_span 93 = .ok (.getfield 258, 3) := dk_180 1 2 (dk_at dksX1_span_4 3 rfl rfl)
theorem dX1_span_96 : decode cX1_span 96 = .ok (.isub, 1) := dk_100 (dk_at dksX1_span_4 6 rfl rfl)
theorem dX1_span_97 : decode cX1_span 97 = .ok (.istore 12, 2) := dk_54 12 (dk_at dksX1_span_4 7 rfl rfl)
theorem dX1_span_99 : decode cX1_span 99 = .ok (.iload 7, 2) := dk_21 7 (dk_at dksX1_span_4 9 rfl rfl)
theorem dX1_span_101 : decode cX1_span 101 = .ok (.iconst (-1), 1) := dk_2 (dk_at dksX1_span_4 11 rfl rfl)
theorem dX1_span_102 : decode cX1_span 102 = .ok (.if_icmp .ne 8, 3) := dk_160 0 8 (dk_at dksX1_span_4 12 rfl rfl)
theorem dX1_span_105 : decode cX1_span 105 = .ok (.iload 12, 2) := dk_21 12 (dk_at dksX1_span_4 15 rfl rfl)
theorem dX1_span_107 : decode cX1_span 107 = .ok (.goto 10, 3) := dk_167 0 10 (dk_at dksX1_span_4 17 rfl rfl)
theorem dX1_span_110 : decode cX1_span 110 = .ok (.iload 7, 2) := dk_21 7 (dk_at dksX1_span_4 20 rfl rfl)
theorem dX1_span_112 : decode cX1_span 112 = .ok (.iload 12, 2) := dk_21 12 (dk_at dksX1_span_4 22 rfl rfl)
theorem dX1_span_114 : decode cX1_span 114 = .ok (.invokestatic 142, 3) := dk_184 0 142 (dk_at dksX1_span_5 0 rfl rfl)
theorem dX1_span_117 : decode cX1_span 117 = .ok (.istore 7, 2) := dk_54 7 (dk_at dksX1_span_5 3 rfl rfl)
theorem dX1_span_119 : decode cX1_span 119 = .ok (.iload 8, 2) := dk_21 8 (dk_at dksX1_span_5 5 rfl rfl)
theorem dX1_span_121 : decode cX1_span 121 = .ok (.iload 12, 2) := dk_21 12 (dk_at dksX1_span_5 7 rfl rfl)
theorem dX1_span_123 : decode cX1_span 123 = .ok (.invokestatic 148, 3) := dk_184 0 148 (dk_at dksX1_span_5 9 rfl rfl)
theorem dX1_span_126 : decode cX1_span 126 = .ok (.istore 8, 2) := dk_54 8 (dk_at dksX1_span_5 12 rfl rfl)
theorem dX1_span_128 : decode cX1_span 128 = .ok (.iload 9, 2) := dk_21 9 (dk_at dksX1_span_5 14 rfl rfl)
theorem dX1_span_130 : decode cX1_span 130 = .ok (.aload 11, 2) := dk_25 11 (dk_at dksX1_span_5 16 rfl rfl)
theorem dX1_span_132 : decode cX1_span 132 = .ok (.getfield 255, 3) := dk_180 0 255 (dk_at dksX1_span_5 18 rfl rfl)
theorem dX1_span_135 : decode cX1_span 135 = .ok (.iload 6, 2) := dk_21 6 (dk_at dksX1_span_5 21 rfl rfl)
theorem dX1_span_137 : decode cX1_span 137 = .ok (.invokestatic 342, 3) := dk_184 1 86 (dk_at dksX1_span_6 0 rfl rfl)
theorem dX1_span_140 : decode cX1_span 140 = .ok (.ifCond .eq 7, 3) := dk_153 0 7 (dk_at dksX1_span_6 3 rfl rfl)
theorem dX1_span_143 : decode cX1_span 143 = .ok (.iconst 1, 1) := dk_4 (dk_at dksX1_span_6 6 rfl rfl)
theorem dX1_span_144 : decode cX1_span 144 = .ok (.goto 4, 3) := dk_167 0 4 (dk_at dksX1_span_6 7 rfl rfl)
theorem dX1_span_147 : decode cX1_span 147 = .ok (.iconst 0, 1) := dk_3 (dk_at dksX1_span_6 10 rfl rfl)
theorem dX1_span_148 : decode cX1_span 148 = .ok (.iadd, 1) := dk_96 (dk_at dksX1_span_6 11 rfl rfl)
theorem dX1_span_149 : decode cX1_span 149 = .ok (.istore 9, 2) := dk_54 9 (dk_at dksX1_span_6 12 rfl rfl)
theorem dX1_span_151 : decode cX1_span 151 = .ok (.iinc 10 1, 3) := dk_132 10 1 (dk_at dksX1_span_6 14 rfl rfl)
theorem dX1_span_154 : decode cX1_span 154 = .ok (.goto (-89), 3) := dk_167 255 167 (dk_at dksX1_span_6 17 rfl rfl)
theorem dX1_span_157 : decode cX1_span 157 = .ok (.iload 5, 2) := dk_21 5 (dk_at dksX1_span_6 20 rfl rfl)
theorem dX1_span_159 : decode cX1_span 159 = .ok (.ifCond .ne 8, 3) := dk_154 0 8 (dk_at dksX1_span_7 0 rfl rfl)
theorem dX1_span_162 : decode cX1_span 162 = .ok (.iload 7, 2) := dk_21 7 (dk_at dksX1_span_7 3 rfl rfl)
theorem dX1_span_164 : decode cX1_span 164 = .ok (.goto 16, 3) := dk_167 0 16 (dk_at dksX1_span_7 5 rfl rfl)
theorem dX1_span_167 : decode cX1_span 167 = .ok (.iload 5, 2) := dk_21 5 (dk_at dksX1_span_7 8 rfl rfl)
theorem dX1_span_169 : decode cX1_span 169 = .ok (.iconst 1, 1) := dk_4 (dk_at dksX1_span_7 10 rfl rfl)
theorem dX1_span_170 : decode cX1_span 170 = .ok (.if_icmp .ne 8, 3) := dk_160 0 8 (dk_at dksX1_span_7 11 rfl rfl)
theorem dX1_span_173 : decode cX1_span 173 = .ok (.iload 8, 2) := dk_21 8 (dk_at dksX1_span_7 14 rfl rfl)
theorem dX1_span_175 : decode cX1_span 175 = .ok (.goto 5, 3) := dk_167 0 5 (dk_at dksX1_span_7 16 rfl rfl)
theorem dX1_span_178 : decode cX1_span 178 = .ok (.iload 9, 2) := dk_21 9 (dk_at dksX1_span_7 19 rfl rfl)
theorem dX1_span_180 : decode cX1_span 180 = .ok (.ireturn, 1) := dk_172 (dk_at dksX1_span_7 21 rfl rfl)
theorem q99 : (Jvm.Cond.initialized "VowelChoir") ∈ lw_all := lw_g (lw_at lw_m1 1 rfl) rfl
theorem q154 : (Jvm.Cond.instantiable "VowelChoir" (22 : Nat)) ∈ lw_all := lw_g (lw_at lw_m1 56 rfl) rfl
theorem q156 : (Jvm.Cond.instanceMethod ({ cls := "VowelChoir", name := "<init>", desc := "()V" } : Jvm.MethodName)) ∈ lw_all := lw_g (lw_at lw_m1 58 rfl) rfl
theorem q157 : (Jvm.Cond.code ({ cls := "VowelChoir", name := "<init>", desc := "()V" } : Jvm.MethodName) prog_1_method_2_code (1 : Nat) (Option.none : Option Jvm.ClassFile.FieldType)) ∈ lw_all := lw_g (lw_at lw_m1 59 rfl) rfl
theorem q158 : (Jvm.Cond.methodLink "VowelChoir" (9 : Nat) ({ cls := "java/lang/Object", name := "<init>", desc := "()V" } : Jvm.MethodName)) ∈ lw_all := lw_g (lw_at lw_m1 60 rfl) rfl
theorem q161 : (Jvm.Cond.classLink "VowelChoir" (14 : Nat) "VowelChoir$Told") ∈ lw_all := lw_g (lw_at lw_m1 63 rfl) rfl
theorem q163 : (Jvm.Cond.methodLinkNest "VowelChoir" (16 : Nat) ({ cls := "VowelChoir$Told", name := "<init>", desc := "()V" } : Jvm.MethodName) "VowelChoir") ∈ lw_tbl := lw_at lw_m1 65 rfl
theorem q511 : (Jvm.Cond.fieldLinkNest "VowelChoir" (99 : Nat) "VowelChoir$Told" "singers" "Ljava/util/ArrayList;" "VowelChoir") ∈ lw_tbl := lw_at lw_m2 173 rfl
theorem q516 : (Jvm.Cond.fieldLinkNest "VowelChoir" (109 : Nat) "VowelChoir$Told" "notes" "Ljava/util/ArrayList;" "VowelChoir") ∈ lw_tbl := lw_at lw_m2 178 rfl
theorem q519 : (Jvm.Cond.fieldLinkNest "VowelChoir" (127 : Nat) "VowelChoir$Told" "likes" "Ljava/util/ArrayList;" "VowelChoir") ∈ lw_tbl := lw_at lw_m2 181 rfl
theorem q535 : (Jvm.Cond.methodLink "VowelChoir" (21 : Nat) ({ cls := "VowelChoir", name := "custom", desc := "()LVowelChoir$Term;" } : Jvm.MethodName)) ∈ lw_all := lw_g (lw_at lw_m2 197 rfl) rfl
theorem q536 : (Jvm.Cond.static ({ cls := "VowelChoir", name := "custom", desc := "()LVowelChoir$Term;" } : Jvm.MethodName)) ∈ lw_all := lw_g (lw_at lw_m2 198 rfl) rfl
theorem q537 : (Jvm.Cond.code ({ cls := "VowelChoir", name := "custom", desc := "()LVowelChoir$Term;" } : Jvm.MethodName) prog_1_method_1_code (0 : Nat) (Option.some (Jvm.ClassFile.FieldType.object "VowelChoir$Term"))) ∈ lw_all := lw_g (lw_at lw_m2 199 rfl) rfl
theorem q538 : (Jvm.Cond.classLink "VowelChoir" (1 : Nat) "VowelChoir$Fact") ∈ lw_all := lw_g (lw_at lw_m2 200 rfl) rfl
theorem q540 : (Jvm.Cond.methodLink "VowelChoir" (5 : Nat) ({ cls := "VowelChoir$Fact", name := "<init>", desc := "(I)V" } : Jvm.MethodName)) ∈ lw_all := lw_g (lw_at lw_m2 202 rfl) rfl
theorem q551 : (Jvm.Cond.classLink "VowelChoir" (39 : Nat) "VowelChoir$Choir") ∈ lw_all := lw_g (lw_at lw_m2 213 rfl) rfl
theorem q553 : (Jvm.Cond.methodLinkNest "VowelChoir" (41 : Nat) ({ cls := "VowelChoir$Choir", name := "<init>", desc := "(LVowelChoir;)V" } : Jvm.MethodName) "VowelChoir") ∈ lw_tbl := lw_at lw_m2 215 rfl
theorem q558 : (Jvm.Cond.fieldLinkNest "VowelChoir" (270 : Nat) "VowelChoir$Choir" "left" "[I" "VowelChoir") ∈ lw_tbl := lw_at lw_m2 220 rfl
theorem q560 : (Jvm.Cond.fieldLinkNest "VowelChoir" (261 : Nat) "VowelChoir$Choir" "sung" "[I" "VowelChoir") ∈ lw_tbl := lw_at lw_m2 222 rfl
theorem q562 : (Jvm.Cond.fieldLinkNest "VowelChoir" (290 : Nat) "VowelChoir$Choir" "today" "[I" "VowelChoir") ∈ lw_tbl := lw_at lw_m2 224 rfl
theorem q564 : (Jvm.Cond.fieldLinkNest "VowelChoir" (267 : Nat) "VowelChoir$Choir" "owed" "[I" "VowelChoir") ∈ lw_tbl := lw_at lw_m2 226 rfl
theorem q566 : (Jvm.Cond.fieldLinkNest "VowelChoir" (296 : Nat) "VowelChoir$Choir" "vowel" "[I" "VowelChoir") ∈ lw_tbl := lw_at lw_m2 228 rfl
theorem q568 : (Jvm.Cond.fieldLinkNest "VowelChoir" (255 : Nat) "VowelChoir$Choir" "hoarse" "I" "VowelChoir") ∈ lw_tbl := lw_at lw_m2 230 rfl
theorem q570 : (Jvm.Cond.fieldLinkNest "VowelChoir" (258 : Nat) "VowelChoir$Choir" "dropped" "I" "VowelChoir") ∈ lw_tbl := lw_at lw_m2 232 rfl
theorem q572 : (Jvm.Cond.fieldLinkNest "VowelChoir" (252 : Nat) "VowelChoir$Choir" "day" "I" "VowelChoir") ∈ lw_tbl := lw_at lw_m2 234 rfl
theorem q575 : (Jvm.Cond.fieldLinkNest "VowelChoir" (217 : Nat) "VowelChoir$Choir" "steps" "I" "VowelChoir") ∈ lw_tbl := lw_at lw_m2 237 rfl
theorem q577 : (Jvm.Cond.fieldLinkNest "VowelChoir" (220 : Nat) "VowelChoir$Choir" "done" "I" "VowelChoir") ∈ lw_tbl := lw_at lw_m2 239 rfl
theorem q579 : (Jvm.Cond.fieldLinkNest "VowelChoir" (223 : Nat) "VowelChoir$Choir" "refused" "I" "VowelChoir") ∈ lw_tbl := lw_at lw_m3 1 rfl
theorem q608 : (Jvm.Cond.methodLink "VowelChoir" (81 : Nat) ({ cls := "VowelChoir", name := "begins", desc := "()V" } : Jvm.MethodName)) ∈ lw_all := lw_g (lw_at lw_m3 30 rfl) rfl
theorem q609 : (Jvm.Cond.privateMethod ({ cls := "VowelChoir", name := "begins", desc := "()V" } : Jvm.MethodName)) ∈ lw_tbl := lw_at lw_m3 31 rfl
theorem q610 : (Jvm.Cond.instanceMethod ({ cls := "VowelChoir", name := "begins", desc := "()V" } : Jvm.MethodName)) ∈ lw_all := lw_g (lw_at lw_m3 32 rfl) rfl
theorem q611 : (Jvm.Cond.code ({ cls := "VowelChoir", name := "begins", desc := "()V" } : Jvm.MethodName) prog_1_method_3_code (2 : Nat) (Option.none : Option Jvm.ClassFile.FieldType)) ∈ lw_all := lw_g (lw_at lw_m3 33 rfl) rfl
theorem q612 : (Jvm.Cond.methodLink "VowelChoir" (84 : Nat) ({ cls := "VowelChoir$Choir", name := "begins", desc := "()LVowelChoir$Choir;" } : Jvm.MethodName)) ∈ lw_all := lw_g (lw_at lw_m3 34 rfl) rfl
theorem q617 : (Jvm.Cond.privateMethod ({ cls := "VowelChoir", name := "notes", desc := "()I" } : Jvm.MethodName)) ∈ lw_tbl := lw_at lw_m3 39 rfl
theorem q618 : (Jvm.Cond.instanceMethod ({ cls := "VowelChoir", name := "notes", desc := "()I" } : Jvm.MethodName)) ∈ lw_all := lw_g (lw_at lw_m3 40 rfl) rfl
theorem q619 : (Jvm.Cond.code ({ cls := "VowelChoir", name := "notes", desc := "()I" } : Jvm.MethodName) prog_1_method_5_code (1 : Nat) (Option.some Jvm.ClassFile.FieldType.int)) ∈ lw_all := lw_g (lw_at lw_m3 41 rfl) rfl
theorem q620 : (Jvm.Cond.methodLink "VowelChoir" (103 : Nat) ({ cls := "java/util/ArrayList", name := "size", desc := "()I" } : Jvm.MethodName)) ∈ lw_all := lw_g (lw_at lw_m3 42 rfl) rfl
theorem q625 : (Jvm.Cond.privateMethod ({ cls := "VowelChoir", name := "noteOf", desc := "(I)LVowelChoir$Note;" } : Jvm.MethodName)) ∈ lw_tbl := lw_at lw_m3 47 rfl
theorem q626 : (Jvm.Cond.instanceMethod ({ cls := "VowelChoir", name := "noteOf", desc := "(I)LVowelChoir$Note;" } : Jvm.MethodName)) ∈ lw_all := lw_g (lw_at lw_m3 48 rfl) rfl
theorem q627 : (Jvm.Cond.code ({ cls := "VowelChoir", name := "noteOf", desc := "(I)LVowelChoir$Note;" } : Jvm.MethodName) prog_1_method_7_code (2 : Nat) (Option.some (Jvm.ClassFile.FieldType.object "VowelChoir$Note"))) ∈ lw_all := lw_g (lw_at lw_m3 49 rfl) rfl
theorem q628 : (Jvm.Cond.methodLink "VowelChoir" (112 : Nat) ({ cls := "java/util/ArrayList", name := "get", desc := "(I)Ljava/lang/Object;" } : Jvm.MethodName)) ∈ lw_all := lw_g (lw_at lw_m3 50 rfl) rfl
theorem q642 : (Jvm.Cond.classLink "VowelChoir" (118 : Nat) "VowelChoir$Note") ∈ lw_all := lw_g (lw_at lw_m3 64 rfl) rfl
theorem q648 : (Jvm.Cond.privateMethod ({ cls := "VowelChoir", name := "singers", desc := "()I" } : Jvm.MethodName)) ∈ lw_tbl := lw_at lw_m3 70 rfl
theorem q649 : (Jvm.Cond.instanceMethod ({ cls := "VowelChoir", name := "singers", desc := "()I" } : Jvm.MethodName)) ∈ lw_all := lw_g (lw_at lw_m3 71 rfl) rfl
theorem q650 : (Jvm.Cond.code ({ cls := "VowelChoir", name := "singers", desc := "()I" } : Jvm.MethodName) prog_1_method_4_code (1 : Nat) (Option.some Jvm.ClassFile.FieldType.int)) ∈ lw_all := lw_g (lw_at lw_m3 72 rfl) rfl
theorem q652 : (Jvm.Cond.privateMethod ({ cls := "VowelChoir", name := "singerOf", desc := "(I)LVowelChoir$Singer;" } : Jvm.MethodName)) ∈ lw_tbl := lw_at lw_m3 74 rfl
theorem q653 : (Jvm.Cond.instanceMethod ({ cls := "VowelChoir", name := "singerOf", desc := "(I)LVowelChoir$Singer;" } : Jvm.MethodName)) ∈ lw_all := lw_g (lw_at lw_m3 75 rfl) rfl
theorem q654 : (Jvm.Cond.code ({ cls := "VowelChoir", name := "singerOf", desc := "(I)LVowelChoir$Singer;" } : Jvm.MethodName) prog_1_method_6_code (2 : Nat) (Option.some (Jvm.ClassFile.FieldType.object "VowelChoir$Singer"))) ∈ lw_all := lw_g (lw_at lw_m3 76 rfl) rfl
theorem q655 : (Jvm.Cond.classLink "VowelChoir" (116 : Nat) "VowelChoir$Singer") ∈ lw_all := lw_g (lw_at lw_m3 77 rfl) rfl
theorem q656 : (Jvm.Cond.fieldLink "VowelChoir" (17 : Nat) "VowelChoir" "told" "LVowelChoir$Told;") ∈ lw_all := lw_g (lw_at lw_m3 78 rfl) rfl
theorem q658 : (Jvm.Cond.fieldLink "VowelChoir" (25 : Nat) "VowelChoir" "law" "LVowelChoir$Term;") ∈ lw_all := lw_g (lw_at lw_m3 80 rfl) rfl
theorem q659 : (Jvm.Cond.fieldLink "VowelChoir" (29 : Nat) "VowelChoir" "facts" "[I") ∈ lw_all := lw_g (lw_at lw_m3 81 rfl) rfl
theorem q660 : (Jvm.Cond.fieldLink "VowelChoir" (33 : Nat) "VowelChoir" "bookOf" "[I") ∈ lw_all := lw_g (lw_at lw_m3 82 rfl) rfl
theorem q661 : (Jvm.Cond.fieldLink "VowelChoir" (36 : Nat) "VowelChoir" "refused" "[I") ∈ lw_all := lw_g (lw_at lw_m3 83 rfl) rfl
theorem q662 : (Jvm.Cond.fieldLink "VowelChoir" (44 : Nat) "VowelChoir" "now" "LVowelChoir$Choir;") ∈ lw_all := lw_g (lw_at lw_m3 84 rfl) rfl
theorem q663 : (Jvm.Cond.fieldLink "VowelChoir" (48 : Nat) "VowelChoir" "probe" "LVowelChoir$Choir;") ∈ lw_all := lw_g (lw_at lw_m3 85 rfl) rfl
theorem q664 : (Jvm.Cond.fieldLink "VowelChoir" (51 : Nat) "VowelChoir" "past" "[LVowelChoir$Choir;") ∈ lw_all := lw_g (lw_at lw_m3 86 rfl) rfl
theorem q665 : (Jvm.Cond.fieldLink "VowelChoir" (55 : Nat) "VowelChoir" "images" "[LVowelChoir$Choir;") ∈ lw_all := lw_g (lw_at lw_m3 87 rfl) rfl
theorem q666 : (Jvm.Cond.fieldLink "VowelChoir" (58 : Nat) "VowelChoir" "imagePast" "[LVowelChoir$Choir;") ∈ lw_all := lw_g (lw_at lw_m3 88 rfl) rfl
theorem q667 : (Jvm.Cond.fieldLink "VowelChoir" (61 : Nat) "VowelChoir" "imageWorks" "[I") ∈ lw_all := lw_g (lw_at lw_m3 89 rfl) rfl
theorem q668 : (Jvm.Cond.fieldLink "VowelChoir" (87 : Nat) "VowelChoir" "works" "I") ∈ lw_all := lw_g (lw_at lw_m3 90 rfl) rfl
theorem q669 : (Jvm.Cond.fieldLink "VowelChoir" (90 : Nat) "VowelChoir" "refusedSteps" "I") ∈ lw_all := lw_g (lw_at lw_m3 91 rfl) rfl
theorem q670 : (Jvm.Cond.fieldLink "VowelChoir" (93 : Nat) "VowelChoir" "lineMany" "I") ∈ lw_all := lw_g (lw_at lw_m3 92 rfl) rfl
theorem q671 : (Jvm.Cond.fieldLink "VowelChoir" (401 : Nat) "VowelChoir" "seedNow" "I") ∈ lw_all := lw_g (lw_at lw_m3 93 rfl) rfl
theorem q672 : (Jvm.Cond.fieldLink "VowelChoir" (169 : Nat) "VowelChoir" "taped" "I") ∈ lw_all := lw_g (lw_at lw_m3 94 rfl) rfl
theorem q673 : (Jvm.Cond.fieldLink "VowelChoir" (64 : Nat) "VowelChoir" "faultAt" "I") ∈ lw_all := lw_g (lw_at lw_m3 95 rfl) rfl
theorem q674 : (Jvm.Cond.fieldLink "VowelChoir" (96 : Nat) "VowelChoir" "imageMany" "I") ∈ lw_all := lw_g (lw_at lw_m3 96 rfl) rfl
theorem q675 : (Jvm.Cond.fieldLink "VowelChoir" (68 : Nat) "VowelChoir" "tape" "[B") ∈ lw_all := lw_g (lw_at lw_m3 97 rfl) rfl
theorem q676 : (Jvm.Cond.fieldLink "VowelChoir" (72 : Nat) "VowelChoir" "handedBy" "[I") ∈ lw_all := lw_g (lw_at lw_m3 98 rfl) rfl
theorem q677 : (Jvm.Cond.fieldLink "VowelChoir" (75 : Nat) "VowelChoir" "mostOn" "[I") ∈ lw_all := lw_g (lw_at lw_m3 99 rfl) rfl
theorem q678 : (Jvm.Cond.fieldLink "VowelChoir" (78 : Nat) "VowelChoir" "heardBy" "[I") ∈ lw_all := lw_g (lw_at lw_m3 100 rfl) rfl
theorem q679 : (Jvm.Cond.lays "VowelChoir" "VowelChoir" "told" "LVowelChoir$Told;") ∈ lw_all := lw_g (lw_at lw_m3 101 rfl) rfl
theorem q680 : (Jvm.Cond.soleField "VowelChoir" "told") ∈ lw_all := lw_g (lw_at lw_m3 102 rfl) rfl
theorem q681 : (Jvm.Cond.lays "VowelChoir" "VowelChoir" "law" "LVowelChoir$Term;") ∈ lw_all := lw_g (lw_at lw_m3 103 rfl) rfl
theorem q682 : (Jvm.Cond.soleField "VowelChoir" "law") ∈ lw_all := lw_g (lw_at lw_m3 104 rfl) rfl
theorem q683 : (Jvm.Cond.laysFinal "VowelChoir" "VowelChoir" "facts" "[I") ∈ lw_all := lw_g (lw_at lw_m3 105 rfl) rfl
theorem q684 : (Jvm.Cond.soleField "VowelChoir" "facts") ∈ lw_all := lw_g (lw_at lw_m3 106 rfl) rfl
theorem q685 : (Jvm.Cond.laysFinal "VowelChoir" "VowelChoir" "bookOf" "[I") ∈ lw_all := lw_g (lw_at lw_m3 107 rfl) rfl
theorem q686 : (Jvm.Cond.soleField "VowelChoir" "bookOf") ∈ lw_all := lw_g (lw_at lw_m3 108 rfl) rfl
theorem q687 : (Jvm.Cond.laysFinal "VowelChoir" "VowelChoir" "refused" "[I") ∈ lw_all := lw_g (lw_at lw_m3 109 rfl) rfl
theorem q688 : (Jvm.Cond.soleField "VowelChoir" "refused") ∈ lw_all := lw_g (lw_at lw_m3 110 rfl) rfl
theorem q689 : (Jvm.Cond.laysFinal "VowelChoir" "VowelChoir" "now" "LVowelChoir$Choir;") ∈ lw_all := lw_g (lw_at lw_m3 111 rfl) rfl
theorem q690 : (Jvm.Cond.soleField "VowelChoir" "now") ∈ lw_all := lw_g (lw_at lw_m3 112 rfl) rfl
theorem q691 : (Jvm.Cond.laysFinal "VowelChoir" "VowelChoir" "probe" "LVowelChoir$Choir;") ∈ lw_all := lw_g (lw_at lw_m3 113 rfl) rfl
theorem q692 : (Jvm.Cond.soleField "VowelChoir" "probe") ∈ lw_all := lw_g (lw_at lw_m3 114 rfl) rfl
theorem q693 : (Jvm.Cond.laysFinal "VowelChoir" "VowelChoir" "past" "[LVowelChoir$Choir;") ∈ lw_all := lw_g (lw_at lw_m3 115 rfl) rfl
theorem q694 : (Jvm.Cond.soleField "VowelChoir" "past") ∈ lw_all := lw_g (lw_at lw_m3 116 rfl) rfl
theorem q695 : (Jvm.Cond.laysFinal "VowelChoir" "VowelChoir" "images" "[LVowelChoir$Choir;") ∈ lw_all := lw_g (lw_at lw_m3 117 rfl) rfl
theorem q696 : (Jvm.Cond.soleField "VowelChoir" "images") ∈ lw_all := lw_g (lw_at lw_m3 118 rfl) rfl
theorem q697 : (Jvm.Cond.laysFinal "VowelChoir" "VowelChoir" "imagePast" "[LVowelChoir$Choir;") ∈ lw_all := lw_g (lw_at lw_m3 119 rfl) rfl
theorem q698 : (Jvm.Cond.soleField "VowelChoir" "imagePast") ∈ lw_all := lw_g (lw_at lw_m3 120 rfl) rfl
theorem q699 : (Jvm.Cond.laysFinal "VowelChoir" "VowelChoir" "imageWorks" "[I") ∈ lw_all := lw_g (lw_at lw_m3 121 rfl) rfl
theorem q700 : (Jvm.Cond.soleField "VowelChoir" "imageWorks") ∈ lw_all := lw_g (lw_at lw_m3 122 rfl) rfl
theorem q701 : (Jvm.Cond.lays "VowelChoir" "VowelChoir" "works" "I") ∈ lw_all := lw_g (lw_at lw_m3 123 rfl) rfl
theorem q702 : (Jvm.Cond.soleField "VowelChoir" "works") ∈ lw_all := lw_g (lw_at lw_m3 124 rfl) rfl
theorem q703 : (Jvm.Cond.lays "VowelChoir" "VowelChoir" "refusedSteps" "I") ∈ lw_all := lw_g (lw_at lw_m3 125 rfl) rfl
theorem q704 : (Jvm.Cond.soleField "VowelChoir" "refusedSteps") ∈ lw_all := lw_g (lw_at lw_m3 126 rfl) rfl
theorem q705 : (Jvm.Cond.lays "VowelChoir" "VowelChoir" "lineMany" "I") ∈ lw_all := lw_g (lw_at lw_m3 127 rfl) rfl
theorem q706 : (Jvm.Cond.soleField "VowelChoir" "lineMany") ∈ lw_all := lw_g (lw_at lw_m3 128 rfl) rfl
theorem q707 : (Jvm.Cond.lays "VowelChoir" "VowelChoir" "seedNow" "I") ∈ lw_all := lw_g (lw_at lw_m3 129 rfl) rfl
theorem q708 : (Jvm.Cond.soleField "VowelChoir" "seedNow") ∈ lw_all := lw_g (lw_at lw_m3 130 rfl) rfl
theorem q709 : (Jvm.Cond.lays "VowelChoir" "VowelChoir" "taped" "I") ∈ lw_all := lw_g (lw_at lw_m3 131 rfl) rfl
theorem q710 : (Jvm.Cond.soleField "VowelChoir" "taped") ∈ lw_all := lw_g (lw_at lw_m3 132 rfl) rfl
theorem q711 : (Jvm.Cond.lays "VowelChoir" "VowelChoir" "faultAt" "I") ∈ lw_all := lw_g (lw_at lw_m3 133 rfl) rfl
theorem q712 : (Jvm.Cond.soleField "VowelChoir" "faultAt") ∈ lw_all := lw_g (lw_at lw_m3 134 rfl) rfl
theorem q713 : (Jvm.Cond.lays "VowelChoir" "VowelChoir" "imageMany" "I") ∈ lw_all := lw_g (lw_at lw_m3 135 rfl) rfl
theorem q714 : (Jvm.Cond.soleField "VowelChoir" "imageMany") ∈ lw_all := lw_g (lw_at lw_m3 136 rfl) rfl
theorem q715 : (Jvm.Cond.laysFinal "VowelChoir" "VowelChoir" "tape" "[B") ∈ lw_all := lw_g (lw_at lw_m3 137 rfl) rfl
theorem q716 : (Jvm.Cond.soleField "VowelChoir" "tape") ∈ lw_all := lw_g (lw_at lw_m3 138 rfl) rfl
theorem q717 : (Jvm.Cond.laysFinal "VowelChoir" "VowelChoir" "handedBy" "[I") ∈ lw_all := lw_g (lw_at lw_m3 139 rfl) rfl
theorem q718 : (Jvm.Cond.soleField "VowelChoir" "handedBy") ∈ lw_all := lw_g (lw_at lw_m3 140 rfl) rfl
theorem q719 : (Jvm.Cond.laysFinal "VowelChoir" "VowelChoir" "mostOn" "[I") ∈ lw_all := lw_g (lw_at lw_m3 141 rfl) rfl
theorem q720 : (Jvm.Cond.soleField "VowelChoir" "mostOn") ∈ lw_all := lw_g (lw_at lw_m3 142 rfl) rfl
theorem q721 : (Jvm.Cond.laysFinal "VowelChoir" "VowelChoir" "heardBy" "[I") ∈ lw_all := lw_g (lw_at lw_m3 143 rfl) rfl
theorem q722 : (Jvm.Cond.soleField "VowelChoir" "heardBy") ∈ lw_all := lw_g (lw_at lw_m3 144 rfl) rfl
theorem q723 : (Jvm.Cond.superclass "VowelChoir" "java/lang/Object") ∈ lw_all := lw_g (lw_at lw_m3 145 rfl) rfl
theorem q725 : (Jvm.Cond.instanceMethod ({ cls := "VowelChoir", name := "feed", desc := "(IIIII)I" } : Jvm.MethodName)) ∈ lw_all := lw_g (lw_at lw_m3 147 rfl) rfl
theorem q726 : (Jvm.Cond.selects "VowelChoir" ({ cls := "VowelChoir", name := "feed", desc := "(IIIII)I" } : Jvm.MethodName) ({ cls := "VowelChoir", name := "feed", desc := "(IIIII)I" } : Jvm.MethodName)) ∈ lw_all := lw_g (lw_at lw_m3 148 rfl) rfl
theorem q727 : (Jvm.Cond.code ({ cls := "VowelChoir", name := "feed", desc := "(IIIII)I" } : Jvm.MethodName) prog_1_method_18_code (6 : Nat) (Option.some Jvm.ClassFile.FieldType.int)) ∈ lw_all := lw_g (lw_at lw_m3 149 rfl) rfl
theorem q728 : (Jvm.Cond.methodLink "VowelChoir" (172 : Nat) ({ cls := "VowelChoir", name := "put", desc := "(I)V" } : Jvm.MethodName)) ∈ lw_all := lw_g (lw_at lw_m3 150 rfl) rfl
theorem q729 : (Jvm.Cond.privateMethod ({ cls := "VowelChoir", name := "put", desc := "(I)V" } : Jvm.MethodName)) ∈ lw_tbl := lw_at lw_m3 151 rfl
theorem q730 : (Jvm.Cond.instanceMethod ({ cls := "VowelChoir", name := "put", desc := "(I)V" } : Jvm.MethodName)) ∈ lw_all := lw_g (lw_at lw_m3 152 rfl) rfl
theorem q731 : (Jvm.Cond.code ({ cls := "VowelChoir", name := "put", desc := "(I)V" } : Jvm.MethodName) prog_1_method_19_code (3 : Nat) (Option.none : Option Jvm.ClassFile.FieldType)) ∈ lw_all := lw_g (lw_at lw_m3 153 rfl) rfl
theorem q733 : (Jvm.Cond.instanceMethod ({ cls := "VowelChoir", name := "fault", desc := "()I" } : Jvm.MethodName)) ∈ lw_all := lw_g (lw_at lw_m3 155 rfl) rfl
theorem q734 : (Jvm.Cond.selects "VowelChoir" ({ cls := "VowelChoir", name := "fault", desc := "()I" } : Jvm.MethodName) ({ cls := "VowelChoir", name := "fault", desc := "()I" } : Jvm.MethodName)) ∈ lw_all := lw_g (lw_at lw_m3 156 rfl) rfl
theorem q735 : (Jvm.Cond.code ({ cls := "VowelChoir", name := "fault", desc := "()I" } : Jvm.MethodName) prog_1_method_25_code (1 : Nat) (Option.some Jvm.ClassFile.FieldType.int)) ∈ lw_all := lw_g (lw_at lw_m3 157 rfl) rfl
theorem q737 : (Jvm.Cond.instanceMethod ({ cls := "VowelChoir", name := "undo", desc := "()I" } : Jvm.MethodName)) ∈ lw_all := lw_g (lw_at lw_m3 159 rfl) rfl
theorem q738 : (Jvm.Cond.selects "VowelChoir" ({ cls := "VowelChoir", name := "undo", desc := "()I" } : Jvm.MethodName) ({ cls := "VowelChoir", name := "undo", desc := "()I" } : Jvm.MethodName)) ∈ lw_all := lw_g (lw_at lw_m3 160 rfl) rfl
theorem q739 : (Jvm.Cond.code ({ cls := "VowelChoir", name := "undo", desc := "()I" } : Jvm.MethodName) prog_1_method_26_code (1 : Nat) (Option.some Jvm.ClassFile.FieldType.int)) ∈ lw_all := lw_g (lw_at lw_m3 161 rfl) rfl
theorem q740 : (Jvm.Cond.methodLink "VowelChoir" (248 : Nat) ({ cls := "VowelChoir$Choir", name := "becomes", desc := "(LVowelChoir$Choir;)LVowelChoir$Choir;" } : Jvm.MethodName)) ∈ lw_all := lw_g (lw_at lw_m3 162 rfl) rfl
theorem q746 : (Jvm.Cond.instanceMethod ({ cls := "VowelChoir", name := "mute", desc := "()I" } : Jvm.MethodName)) ∈ lw_all := lw_g (lw_at lw_m3 168 rfl) rfl
theorem q747 : (Jvm.Cond.selects "VowelChoir" ({ cls := "VowelChoir", name := "mute", desc := "()I" } : Jvm.MethodName) ({ cls := "VowelChoir", name := "mute", desc := "()I" } : Jvm.MethodName)) ∈ lw_all := lw_g (lw_at lw_m3 169 rfl) rfl
theorem q748 : (Jvm.Cond.code ({ cls := "VowelChoir", name := "mute", desc := "()I" } : Jvm.MethodName) prog_1_method_41_code (3 : Nat) (Option.some Jvm.ClassFile.FieldType.int)) ∈ lw_all := lw_g (lw_at lw_m3 170 rfl) rfl
theorem q749 : (Jvm.Cond.methodLink "VowelChoir" (163 : Nat) ({ cls := "VowelChoir", name := "notes", desc := "()I" } : Jvm.MethodName)) ∈ lw_all := lw_g (lw_at lw_m3 171 rfl) rfl
theorem q750 : (Jvm.Cond.methodLink "VowelChoir" (301 : Nat) ({ cls := "VowelChoir$Choir", name := "sungBy", desc := "(I)I" } : Jvm.MethodName)) ∈ lw_all := lw_g (lw_at lw_m3 172 rfl) rfl
theorem q759 : (Jvm.Cond.static ({ cls := "VowelChoir", name := "has", desc := "(II)Z" } : Jvm.MethodName)) ∈ lw_all := lw_g (lw_at lw_m3 181 rfl) rfl
theorem q760 : (Jvm.Cond.code ({ cls := "VowelChoir", name := "has", desc := "(II)Z" } : Jvm.MethodName) prog_1_method_17_code (2 : Nat) (Option.some Jvm.ClassFile.FieldType.boolean)) ∈ lw_all := lw_g (lw_at lw_m3 182 rfl) rfl
theorem q766 : (Jvm.Cond.privateMethod ({ cls := "VowelChoir", name := "takesBy", desc := "(IIIIIIII)I" } : Jvm.MethodName)) ∈ lw_tbl := lw_at lw_m3 188 rfl
theorem q767 : (Jvm.Cond.instanceMethod ({ cls := "VowelChoir", name := "takesBy", desc := "(IIIIIIII)I" } : Jvm.MethodName)) ∈ lw_all := lw_g (lw_at lw_m3 189 rfl) rfl
theorem q768 : (Jvm.Cond.code ({ cls := "VowelChoir", name := "takesBy", desc := "(IIIIIIII)I" } : Jvm.MethodName) prog_1_method_9_code (9 : Nat) (Option.some Jvm.ClassFile.FieldType.int)) ∈ lw_all := lw_g (lw_at lw_m3 190 rfl) rfl
theorem q769 : (Jvm.Cond.methodLink "VowelChoir" (136 : Nat) ({ cls := "VowelChoir$Term", name := "of", desc := "([I)I" } : Jvm.MethodName)) ∈ lw_all := lw_g (lw_at lw_m3 191 rfl) rfl
theorem q814 : (Jvm.Cond.methodLink "VowelChoir" (142 : Nat) ({ cls := "java/lang/Math", name := "min", desc := "(II)I" } : Jvm.MethodName)) ∈ lw_all := lw_g (lw_at lw_m3 236 rfl) rfl
theorem q815 : (Jvm.Cond.methodLink "VowelChoir" (148 : Nat) ({ cls := "java/lang/Math", name := "max", desc := "(II)I" } : Jvm.MethodName)) ∈ lw_all := lw_g (lw_at lw_m3 237 rfl) rfl
theorem q817 : (Jvm.Cond.instanceMethod ({ cls := "VowelChoir", name := "idle", desc := "()I" } : Jvm.MethodName)) ∈ lw_all := lw_g (lw_at lw_m3 239 rfl) rfl
theorem q818 : (Jvm.Cond.selects "VowelChoir" ({ cls := "VowelChoir", name := "idle", desc := "()I" } : Jvm.MethodName) ({ cls := "VowelChoir", name := "idle", desc := "()I" } : Jvm.MethodName)) ∈ lw_all := lw_g (lw_at lw_m4 0 rfl) rfl
theorem q819 : (Jvm.Cond.code ({ cls := "VowelChoir", name := "idle", desc := "()I" } : Jvm.MethodName) prog_1_method_42_code (4 : Nat) (Option.some Jvm.ClassFile.FieldType.int)) ∈ lw_all := lw_g (lw_at lw_m4 1 rfl) rfl
theorem q820 : (Jvm.Cond.methodLink "VowelChoir" (325 : Nat) ({ cls := "VowelChoir$Choir", name := "hymn", desc := "()I" } : Jvm.MethodName)) ∈ lw_all := lw_g (lw_at lw_m4 2 rfl) rfl
theorem q829 : (Jvm.Cond.methodLink "VowelChoir" (157 : Nat) ({ cls := "VowelChoir", name := "singers", desc := "()I" } : Jvm.MethodName)) ∈ lw_all := lw_g (lw_at lw_m4 11 rfl) rfl
theorem q831 : (Jvm.Cond.instanceMethod ({ cls := "VowelChoir", name := "cast", desc := "()I" } : Jvm.MethodName)) ∈ lw_all := lw_g (lw_at lw_m4 13 rfl) rfl
theorem q832 : (Jvm.Cond.selects "VowelChoir" ({ cls := "VowelChoir", name := "cast", desc := "()I" } : Jvm.MethodName) ({ cls := "VowelChoir", name := "cast", desc := "()I" } : Jvm.MethodName)) ∈ lw_all := lw_g (lw_at lw_m4 14 rfl) rfl
theorem q833 : (Jvm.Cond.code ({ cls := "VowelChoir", name := "cast", desc := "()I" } : Jvm.MethodName) prog_1_method_50_code (4 : Nat) (Option.some Jvm.ClassFile.FieldType.int)) ∈ lw_all := lw_g (lw_at lw_m4 15 rfl) rfl
theorem q834 : (Jvm.Cond.methodLink "VowelChoir" (349 : Nat) ({ cls := "VowelChoir", name := "isBetter", desc := "(II)Z" } : Jvm.MethodName)) ∈ lw_all := lw_g (lw_at lw_m4 16 rfl) rfl
theorem q835 : (Jvm.Cond.privateMethod ({ cls := "VowelChoir", name := "isBetter", desc := "(II)Z" } : Jvm.MethodName)) ∈ lw_tbl := lw_at lw_m4 17 rfl
theorem q836 : (Jvm.Cond.instanceMethod ({ cls := "VowelChoir", name := "isBetter", desc := "(II)Z" } : Jvm.MethodName)) ∈ lw_all := lw_g (lw_at lw_m4 18 rfl) rfl
theorem q837 : (Jvm.Cond.code ({ cls := "VowelChoir", name := "isBetter", desc := "(II)Z" } : Jvm.MethodName) prog_1_method_49_code (4 : Nat) (Option.some Jvm.ClassFile.FieldType.boolean)) ∈ lw_all := lw_g (lw_at lw_m4 19 rfl) rfl
theorem q838 : (Jvm.Cond.methodLink "VowelChoir" (334 : Nat) ({ cls := "java/lang/Integer", name := "bitCount", desc := "(I)I" } : Jvm.MethodName)) ∈ lw_all := lw_g (lw_at lw_m4 20 rfl) rfl
theorem q844 : (Jvm.Cond.methodLink "VowelChoir" (346 : Nat) ({ cls := "VowelChoir", name := "paid", desc := "(I)I" } : Jvm.MethodName)) ∈ lw_all := lw_g (lw_at lw_m4 26 rfl) rfl
theorem q845 : (Jvm.Cond.privateMethod ({ cls := "VowelChoir", name := "paid", desc := "(I)I" } : Jvm.MethodName)) ∈ lw_tbl := lw_at lw_m4 27 rfl
theorem q846 : (Jvm.Cond.instanceMethod ({ cls := "VowelChoir", name := "paid", desc := "(I)I" } : Jvm.MethodName)) ∈ lw_all := lw_g (lw_at lw_m4 28 rfl) rfl
theorem q847 : (Jvm.Cond.code ({ cls := "VowelChoir", name := "paid", desc := "(I)I" } : Jvm.MethodName) prog_1_method_47_code (4 : Nat) (Option.some Jvm.ClassFile.FieldType.int)) ∈ lw_all := lw_g (lw_at lw_m4 29 rfl) rfl
theorem q848 : (Jvm.Cond.methodLink "VowelChoir" (342 : Nat) ({ cls := "VowelChoir", name := "has", desc := "(II)Z" } : Jvm.MethodName)) ∈ lw_all := lw_g (lw_at lw_m4 30 rfl) rfl
theorem q849 : (Jvm.Cond.methodLink "VowelChoir" (279 : Nat) ({ cls := "VowelChoir", name := "singerOf", desc := "(I)LVowelChoir$Singer;" } : Jvm.MethodName)) ∈ lw_all := lw_g (lw_at lw_m4 31 rfl) rfl
theorem q850 : (Jvm.Cond.methodLink "VowelChoir" (352 : Nat) ({ cls := "VowelChoir$Choir", name := "breathes", desc := "()V" } : Jvm.MethodName)) ∈ lw_all := lw_g (lw_at lw_m4 32 rfl) rfl
theorem q851 : (Jvm.Cond.methodLink "VowelChoir" (355 : Nat) ({ cls := "VowelChoir", name := "allNotes", desc := "()I" } : Jvm.MethodName)) ∈ lw_all := lw_g (lw_at lw_m4 33 rfl) rfl
theorem q852 : (Jvm.Cond.privateMethod ({ cls := "VowelChoir", name := "allNotes", desc := "()I" } : Jvm.MethodName)) ∈ lw_tbl := lw_at lw_m4 34 rfl
theorem q853 : (Jvm.Cond.instanceMethod ({ cls := "VowelChoir", name := "allNotes", desc := "()I" } : Jvm.MethodName)) ∈ lw_all := lw_g (lw_at lw_m4 35 rfl) rfl
theorem q854 : (Jvm.Cond.code ({ cls := "VowelChoir", name := "allNotes", desc := "()I" } : Jvm.MethodName) prog_1_method_48_code (1 : Nat) (Option.some Jvm.ClassFile.FieldType.int)) ∈ lw_all := lw_g (lw_at lw_m4 36 rfl) rfl
theorem q856 : (Jvm.Cond.instanceMethod ({ cls := "VowelChoir", name := "bench", desc := "()I" } : Jvm.MethodName)) ∈ lw_all := lw_g (lw_at lw_m4 38 rfl) rfl
theorem q857 : (Jvm.Cond.selects "VowelChoir" ({ cls := "VowelChoir", name := "bench", desc := "()I" } : Jvm.MethodName) ({ cls := "VowelChoir", name := "bench", desc := "()I" } : Jvm.MethodName)) ∈ lw_all := lw_g (lw_at lw_m4 39 rfl) rfl
theorem q858 : (Jvm.Cond.code ({ cls := "VowelChoir", name := "bench", desc := "()I" } : Jvm.MethodName) prog_1_method_56_code (1 : Nat) (Option.some Jvm.ClassFile.FieldType.int)) ∈ lw_all := lw_g (lw_at lw_m4 40 rfl) rfl
theorem q859 : (Jvm.Cond.methodLink "VowelChoir" (368 : Nat) ({ cls := "VowelChoir", name := "layBench", desc := "()I" } : Jvm.MethodName)) ∈ lw_all := lw_g (lw_at lw_m4 41 rfl) rfl
theorem q860 : (Jvm.Cond.privateMethod ({ cls := "VowelChoir", name := "layBench", desc := "()I" } : Jvm.MethodName)) ∈ lw_tbl := lw_at lw_m4 42 rfl
theorem q861 : (Jvm.Cond.instanceMethod ({ cls := "VowelChoir", name := "layBench", desc := "()I" } : Jvm.MethodName)) ∈ lw_all := lw_g (lw_at lw_m4 43 rfl) rfl
theorem q862 : (Jvm.Cond.code ({ cls := "VowelChoir", name := "layBench", desc := "()I" } : Jvm.MethodName) prog_1_method_55_code (5 : Nat) (Option.some Jvm.ClassFile.FieldType.int)) ∈ lw_all := lw_g (lw_at lw_m4 44 rfl) rfl
theorem q863 : (Jvm.Cond.methodLink "VowelChoir" (358 : Nat) ({ cls := "VowelChoir", name := "handedOn", desc := "(II)I" } : Jvm.MethodName)) ∈ lw_all := lw_g (lw_at lw_m4 45 rfl) rfl
theorem q864 : (Jvm.Cond.privateMethod ({ cls := "VowelChoir", name := "handedOn", desc := "(II)I" } : Jvm.MethodName)) ∈ lw_tbl := lw_at lw_m4 46 rfl
theorem q865 : (Jvm.Cond.instanceMethod ({ cls := "VowelChoir", name := "handedOn", desc := "(II)I" } : Jvm.MethodName)) ∈ lw_all := lw_g (lw_at lw_m4 47 rfl) rfl
theorem q866 : (Jvm.Cond.code ({ cls := "VowelChoir", name := "handedOn", desc := "(II)I" } : Jvm.MethodName) prog_1_method_51_code (5 : Nat) (Option.some Jvm.ClassFile.FieldType.int)) ∈ lw_all := lw_g (lw_at lw_m4 48 rfl) rfl
theorem q867 : (Jvm.Cond.methodLink "VowelChoir" (364 : Nat) ({ cls := "VowelChoir", name := "onFrom", desc := "(III)I" } : Jvm.MethodName)) ∈ lw_all := lw_g (lw_at lw_m4 49 rfl) rfl
theorem q868 : (Jvm.Cond.privateMethod ({ cls := "VowelChoir", name := "onFrom", desc := "(III)I" } : Jvm.MethodName)) ∈ lw_tbl := lw_at lw_m4 50 rfl
theorem q869 : (Jvm.Cond.instanceMethod ({ cls := "VowelChoir", name := "onFrom", desc := "(III)I" } : Jvm.MethodName)) ∈ lw_all := lw_g (lw_at lw_m4 51 rfl) rfl
theorem q870 : (Jvm.Cond.code ({ cls := "VowelChoir", name := "onFrom", desc := "(III)I" } : Jvm.MethodName) prog_1_method_54_code (4 : Nat) (Option.some Jvm.ClassFile.FieldType.int)) ∈ lw_all := lw_g (lw_at lw_m4 52 rfl) rfl
theorem q871 : (Jvm.Cond.methodLink "VowelChoir" (361 : Nat) ({ cls := "VowelChoir", name := "beside", desc := "(II)I" } : Jvm.MethodName)) ∈ lw_all := lw_g (lw_at lw_m4 53 rfl) rfl
theorem q872 : (Jvm.Cond.privateMethod ({ cls := "VowelChoir", name := "beside", desc := "(II)I" } : Jvm.MethodName)) ∈ lw_tbl := lw_at lw_m4 54 rfl
theorem q873 : (Jvm.Cond.instanceMethod ({ cls := "VowelChoir", name := "beside", desc := "(II)I" } : Jvm.MethodName)) ∈ lw_all := lw_g (lw_at lw_m4 55 rfl) rfl
theorem q874 : (Jvm.Cond.code ({ cls := "VowelChoir", name := "beside", desc := "(II)I" } : Jvm.MethodName) prog_1_method_53_code (3 : Nat) (Option.some Jvm.ClassFile.FieldType.int)) ∈ lw_all := lw_g (lw_at lw_m4 56 rfl) rfl
theorem q876 : (Jvm.Cond.instanceMethod ({ cls := "VowelChoir", name := "wording", desc := "()I" } : Jvm.MethodName)) ∈ lw_all := lw_g (lw_at lw_m4 58 rfl) rfl
theorem q877 : (Jvm.Cond.selects "VowelChoir" ({ cls := "VowelChoir", name := "wording", desc := "()I" } : Jvm.MethodName) ({ cls := "VowelChoir", name := "wording", desc := "()I" } : Jvm.MethodName)) ∈ lw_all := lw_g (lw_at lw_m4 59 rfl) rfl
theorem q878 : (Jvm.Cond.code ({ cls := "VowelChoir", name := "wording", desc := "()I" } : Jvm.MethodName) prog_1_method_58_code (3 : Nat) (Option.some Jvm.ClassFile.FieldType.int)) ∈ lw_all := lw_g (lw_at lw_m4 60 rfl) rfl
theorem q879 : (Jvm.Cond.methodLink "VowelChoir" (371 : Nat) ({ cls := "VowelChoir", name := "wordingsBy", desc := "(I)J" } : Jvm.MethodName)) ∈ lw_all := lw_g (lw_at lw_m4 61 rfl) rfl
theorem q880 : (Jvm.Cond.privateMethod ({ cls := "VowelChoir", name := "wordingsBy", desc := "(I)J" } : Jvm.MethodName)) ∈ lw_tbl := lw_at lw_m4 62 rfl
theorem q881 : (Jvm.Cond.instanceMethod ({ cls := "VowelChoir", name := "wordingsBy", desc := "(I)J" } : Jvm.MethodName)) ∈ lw_all := lw_g (lw_at lw_m4 63 rfl) rfl
theorem q882 : (Jvm.Cond.code ({ cls := "VowelChoir", name := "wordingsBy", desc := "(I)J" } : Jvm.MethodName) prog_1_method_59_code (5 : Nat) (Option.some Jvm.ClassFile.FieldType.long)) ∈ lw_all := lw_g (lw_at lw_m4 64 rfl) rfl
theorem q883 : (Jvm.Cond.methodLink "VowelChoir" (322 : Nat) ({ cls := "VowelChoir", name := "wordsOf", desc := "(I)I" } : Jvm.MethodName)) ∈ lw_all := lw_g (lw_at lw_m4 65 rfl) rfl
theorem q884 : (Jvm.Cond.privateMethod ({ cls := "VowelChoir", name := "wordsOf", desc := "(I)I" } : Jvm.MethodName)) ∈ lw_tbl := lw_at lw_m4 66 rfl
theorem q885 : (Jvm.Cond.instanceMethod ({ cls := "VowelChoir", name := "wordsOf", desc := "(I)I" } : Jvm.MethodName)) ∈ lw_all := lw_g (lw_at lw_m4 67 rfl) rfl
theorem q886 : (Jvm.Cond.code ({ cls := "VowelChoir", name := "wordsOf", desc := "(I)I" } : Jvm.MethodName) prog_1_method_8_code (4 : Nat) (Option.some Jvm.ClassFile.FieldType.int)) ∈ lw_all := lw_g (lw_at lw_m4 68 rfl) rfl
theorem q887 : (Jvm.Cond.methodLink "VowelChoir" (120 : Nat) ({ cls := "VowelChoir", name := "noteOf", desc := "(I)LVowelChoir$Note;" } : Jvm.MethodName)) ∈ lw_all := lw_g (lw_at lw_m4 69 rfl) rfl
theorem q888 : (Jvm.Cond.classLink "VowelChoir" (130 : Nat) "VowelChoir$Like") ∈ lw_all := lw_g (lw_at lw_m4 70 rfl) rfl
theorem q890 : (Jvm.Cond.instanceMethod ({ cls := "VowelChoir", name := "image", desc := "()I" } : Jvm.MethodName)) ∈ lw_all := lw_g (lw_at lw_m4 72 rfl) rfl
theorem q891 : (Jvm.Cond.selects "VowelChoir" ({ cls := "VowelChoir", name := "image", desc := "()I" } : Jvm.MethodName) ({ cls := "VowelChoir", name := "image", desc := "()I" } : Jvm.MethodName)) ∈ lw_all := lw_g (lw_at lw_m4 73 rfl) rfl
theorem q892 : (Jvm.Cond.code ({ cls := "VowelChoir", name := "image", desc := "()I" } : Jvm.MethodName) prog_1_method_79_code (2 : Nat) (Option.some Jvm.ClassFile.FieldType.int)) ∈ lw_all := lw_g (lw_at lw_m4 74 rfl) rfl
theorem q893 : (Jvm.Cond.methodLink "VowelChoir" (213 : Nat) ({ cls := "VowelChoir", name := "kept", desc := "([LVowelChoir$Choir;ILVowelChoir$Choir;)V" } : Jvm.MethodName)) ∈ lw_all := lw_g (lw_at lw_m4 75 rfl) rfl
theorem q894 : (Jvm.Cond.privateMethod ({ cls := "VowelChoir", name := "kept", desc := "([LVowelChoir$Choir;ILVowelChoir$Choir;)V" } : Jvm.MethodName)) ∈ lw_tbl := lw_at lw_m4 76 rfl
theorem q895 : (Jvm.Cond.instanceMethod ({ cls := "VowelChoir", name := "kept", desc := "([LVowelChoir$Choir;ILVowelChoir$Choir;)V" } : Jvm.MethodName)) ∈ lw_all := lw_g (lw_at lw_m4 77 rfl) rfl
theorem q896 : (Jvm.Cond.code ({ cls := "VowelChoir", name := "kept", desc := "([LVowelChoir$Choir;ILVowelChoir$Choir;)V" } : Jvm.MethodName) prog_1_method_78_code (4 : Nat) (Option.none : Option Jvm.ClassFile.FieldType)) ∈ lw_all := lw_g (lw_at lw_m4 78 rfl) rfl
theorem q898 : (Jvm.Cond.instanceMethod ({ cls := "VowelChoir", name := "restore", desc := "()I" } : Jvm.MethodName)) ∈ lw_all := lw_g (lw_at lw_m4 80 rfl) rfl
theorem q899 : (Jvm.Cond.selects "VowelChoir" ({ cls := "VowelChoir", name := "restore", desc := "()I" } : Jvm.MethodName) ({ cls := "VowelChoir", name := "restore", desc := "()I" } : Jvm.MethodName)) ∈ lw_all := lw_g (lw_at lw_m4 81 rfl) rfl
theorem q900 : (Jvm.Cond.code ({ cls := "VowelChoir", name := "restore", desc := "()I" } : Jvm.MethodName) prog_1_method_80_code (2 : Nat) (Option.some Jvm.ClassFile.FieldType.int)) ∈ lw_all := lw_g (lw_at lw_m4 82 rfl) rfl
theorem q902 : (Jvm.Cond.instanceMethod ({ cls := "VowelChoir", name := "status", desc := "(I)I" } : Jvm.MethodName)) ∈ lw_all := lw_g (lw_at lw_m4 84 rfl) rfl
theorem q903 : (Jvm.Cond.selects "VowelChoir" ({ cls := "VowelChoir", name := "status", desc := "(I)I" } : Jvm.MethodName) ({ cls := "VowelChoir", name := "status", desc := "(I)I" } : Jvm.MethodName)) ∈ lw_all := lw_g (lw_at lw_m4 85 rfl) rfl
theorem q904 : (Jvm.Cond.code ({ cls := "VowelChoir", name := "status", desc := "(I)I" } : Jvm.MethodName) prog_1_method_81_code (2 : Nat) (Option.some Jvm.ClassFile.FieldType.int)) ∈ lw_all := lw_g (lw_at lw_m4 86 rfl) rfl
theorem q905 : (Jvm.Cond.methodLink "VowelChoir" (305 : Nat) ({ cls := "VowelChoir", name := "isPart", desc := "(I)Z" } : Jvm.MethodName)) ∈ lw_all := lw_g (lw_at lw_m4 87 rfl) rfl
theorem q906 : (Jvm.Cond.static ({ cls := "VowelChoir", name := "isPart", desc := "(I)Z" } : Jvm.MethodName)) ∈ lw_all := lw_g (lw_at lw_m4 88 rfl) rfl
theorem q907 : (Jvm.Cond.code ({ cls := "VowelChoir", name := "isPart", desc := "(I)Z" } : Jvm.MethodName) prog_1_method_14_code (1 : Nat) (Option.some Jvm.ClassFile.FieldType.boolean)) ∈ lw_all := lw_g (lw_at lw_m4 89 rfl) rfl
theorem q909 : (Jvm.Cond.instanceMethod ({ cls := "VowelChoir", name := "count", desc := "(I)I" } : Jvm.MethodName)) ∈ lw_all := lw_g (lw_at lw_m4 91 rfl) rfl
theorem q910 : (Jvm.Cond.selects "VowelChoir" ({ cls := "VowelChoir", name := "count", desc := "(I)I" } : Jvm.MethodName) ({ cls := "VowelChoir", name := "count", desc := "(I)I" } : Jvm.MethodName)) ∈ lw_all := lw_g (lw_at lw_m4 92 rfl) rfl
theorem q911 : (Jvm.Cond.code ({ cls := "VowelChoir", name := "count", desc := "(I)I" } : Jvm.MethodName) prog_1_method_82_code (2 : Nat) (Option.some Jvm.ClassFile.FieldType.int)) ∈ lw_all := lw_g (lw_at lw_m4 93 rfl) rfl
theorem q917 : (Jvm.Cond.instanceMethod ({ cls := "VowelChoir", name := "choir", desc := "(I)I" } : Jvm.MethodName)) ∈ lw_all := lw_g (lw_at lw_m4 99 rfl) rfl
theorem q918 : (Jvm.Cond.selects "VowelChoir" ({ cls := "VowelChoir", name := "choir", desc := "(I)I" } : Jvm.MethodName) ({ cls := "VowelChoir", name := "choir", desc := "(I)I" } : Jvm.MethodName)) ∈ lw_all := lw_g (lw_at lw_m4 100 rfl) rfl
theorem q919 : (Jvm.Cond.codeWith ({ cls := "VowelChoir", name := "choir", desc := "(I)I" } : Jvm.MethodName) prog_1_method_21_code (5 : Nat) (Option.some Jvm.ClassFile.FieldType.int) [((21 : Nat), (54 : Nat), (61 : Nat), (176 : Nat)), ((21 : Nat), (54 : Nat), (75 : Nat), (0 : Nat)), ((61 : Nat), (68 : Nat), (75 : Nat), (0 : Nat)), ((75 : Nat), (77 : Nat), (75 : Nat), (0 : Nat))]) ∈ lw_all := lw_g (lw_at lw_m4 101 rfl) rfl
theorem q920 : (Jvm.Cond.classLink "VowelChoir" (176 : Nat) "VowelChoir$Wrong") ∈ lw_all := lw_g (lw_at lw_m4 102 rfl) rfl
theorem q921 : (Jvm.Cond.methodLink "VowelChoir" (183 : Nat) ({ cls := "VowelChoir", name := "need", desc := "(Z)V" } : Jvm.MethodName)) ∈ lw_all := lw_g (lw_at lw_m4 103 rfl) rfl
theorem q922 : (Jvm.Cond.privateMethod ({ cls := "VowelChoir", name := "need", desc := "(Z)V" } : Jvm.MethodName)) ∈ lw_tbl := lw_at lw_m4 104 rfl
theorem q923 : (Jvm.Cond.instanceMethod ({ cls := "VowelChoir", name := "need", desc := "(Z)V" } : Jvm.MethodName)) ∈ lw_all := lw_g (lw_at lw_m4 105 rfl) rfl
theorem q924 : (Jvm.Cond.code ({ cls := "VowelChoir", name := "need", desc := "(Z)V" } : Jvm.MethodName) prog_1_method_10_code (2 : Nat) (Option.none : Option Jvm.ClassFile.FieldType)) ∈ lw_all := lw_g (lw_at lw_m4 106 rfl) rfl
theorem q925 : (Jvm.Cond.classLink "VowelChoir" (151 : Nat) "java/lang/IllegalArgumentException") ∈ lw_all := lw_g (lw_at lw_m4 107 rfl) rfl
theorem q926 : (Jvm.Cond.methodLink "VowelChoir" (153 : Nat) ({ cls := "java/lang/IllegalArgumentException", name := "<init>", desc := "()V" } : Jvm.MethodName)) ∈ lw_all := lw_g (lw_at lw_m4 108 rfl) rfl
theorem q936 : (Jvm.Cond.classLink "VowelChoir" (187 : Nat) "VowelChoir$ChoirReader") ∈ lw_all := lw_g (lw_at lw_m4 118 rfl) rfl
theorem q938 : (Jvm.Cond.methodLink "VowelChoir" (189 : Nat) ({ cls := "VowelChoir$ChoirReader", name := "<init>", desc := "([BI)V" } : Jvm.MethodName)) ∈ lw_all := lw_g (lw_at lw_m4 120 rfl) rfl
theorem q988 : (Jvm.Cond.methodLink "VowelChoir" (192 : Nat) ({ cls := "VowelChoir$ChoirReader", name := "reads", desc := "()LVowelChoir$Told;" } : Jvm.MethodName)) ∈ lw_all := lw_g (lw_at lw_m4 170 rfl) rfl
theorem q1131 : (Jvm.Cond.fieldLinkNest "VowelChoir" (180 : Nat) "VowelChoir$Wrong" "kind" "I" "VowelChoir") ∈ lw_tbl := lw_at lw_m5 73 rfl
theorem q1133 : (Jvm.Cond.fieldLinkNest "VowelChoir" (175 : Nat) "VowelChoir$Wrong" "place" "I" "VowelChoir") ∈ lw_tbl := lw_at lw_m5 75 rfl
theorem q1165 : (Jvm.Cond.fieldLinkNest "VowelChoir" (283 : Nat) "VowelChoir$Singer" "vowel" "I" "VowelChoir") ∈ lw_tbl := lw_at lw_m5 107 rfl
theorem q1168 : (Jvm.Cond.fieldLinkNest "VowelChoir" (284 : Nat) "VowelChoir$Singer" "pay" "I" "VowelChoir") ∈ lw_tbl := lw_at lw_m5 110 rfl
theorem q1171 : (Jvm.Cond.fieldLinkNest "VowelChoir" (287 : Nat) "VowelChoir$Singer" "breath" "I" "VowelChoir") ∈ lw_tbl := lw_at lw_m5 113 rfl
theorem q1204 : (Jvm.Cond.selects "VowelChoir" ({ cls := "java/lang/Object", name := "getClass", desc := "()Ljava/lang/Class;" } : Jvm.MethodName) ({ cls := "java/lang/Object", name := "getClass", desc := "()Ljava/lang/Class;" } : Jvm.MethodName)) ∈ lw_all := lw_g (lw_at lw_m5 146 rfl) rfl
theorem q1253 : (Jvm.Cond.fieldLinkNest "VowelChoir" (124 : Nat) "VowelChoir$Note" "vowel" "I" "VowelChoir") ∈ lw_tbl := lw_at lw_m5 195 rfl
theorem q1256 : (Jvm.Cond.fieldLinkNest "VowelChoir" (298 : Nat) "VowelChoir$Note" "length" "I" "VowelChoir") ∈ lw_tbl := lw_at lw_m5 198 rfl
theorem q1269 : (Jvm.Cond.fieldLinkNest "VowelChoir" (132 : Nat) "VowelChoir$Like" "note" "I" "VowelChoir") ∈ lw_tbl := lw_at lw_m5 211 rfl
theorem q1271 : (Jvm.Cond.fieldLinkNest "VowelChoir" (135 : Nat) "VowelChoir$Like" "vowel" "I" "VowelChoir") ∈ lw_tbl := lw_at lw_m5 213 rfl
theorem q1283 : (Jvm.Cond.methodLink "VowelChoir" (196 : Nat) ({ cls := "VowelChoir", name := "failed", desc := "(LVowelChoir$Wrong;)I" } : Jvm.MethodName)) ∈ lw_all := lw_g (lw_at lw_m5 225 rfl) rfl
theorem q1284 : (Jvm.Cond.privateMethod ({ cls := "VowelChoir", name := "failed", desc := "(LVowelChoir$Wrong;)I" } : Jvm.MethodName)) ∈ lw_tbl := lw_at lw_m5 226 rfl
theorem q1285 : (Jvm.Cond.instanceMethod ({ cls := "VowelChoir", name := "failed", desc := "(LVowelChoir$Wrong;)I" } : Jvm.MethodName)) ∈ lw_all := lw_g (lw_at lw_m5 227 rfl) rfl
theorem q1286 : (Jvm.Cond.code ({ cls := "VowelChoir", name := "failed", desc := "(LVowelChoir$Wrong;)I" } : Jvm.MethodName) prog_1_method_20_code (2 : Nat) (Option.some Jvm.ClassFile.FieldType.int)) ∈ lw_all := lw_g (lw_at lw_m5 228 rfl) rfl
theorem q1291 : (Jvm.Cond.instanceMethod ({ cls := "VowelChoir", name := "law", desc := "(I)I" } : Jvm.MethodName)) ∈ lw_all := lw_g (lw_at lw_m5 233 rfl) rfl
theorem q1292 : (Jvm.Cond.selects "VowelChoir" ({ cls := "VowelChoir", name := "law", desc := "(I)I" } : Jvm.MethodName) ({ cls := "VowelChoir", name := "law", desc := "(I)I" } : Jvm.MethodName)) ∈ lw_all := lw_g (lw_at lw_m5 234 rfl) rfl
theorem q1293 : (Jvm.Cond.codeWith ({ cls := "VowelChoir", name := "law", desc := "(I)I" } : Jvm.MethodName) prog_1_method_22_code (5 : Nat) (Option.some Jvm.ClassFile.FieldType.int) [((28 : Nat), (54 : Nat), (61 : Nat), (176 : Nat)), ((28 : Nat), (54 : Nat), (75 : Nat), (0 : Nat)), ((61 : Nat), (68 : Nat), (75 : Nat), (0 : Nat)), ((75 : Nat), (77 : Nat), (75 : Nat), (0 : Nat))]) ∈ lw_all := lw_g (lw_at lw_m5 235 rfl) rfl
theorem q1294 : (Jvm.Cond.classLink "VowelChoir" (200 : Nat) "VowelChoir$LawReader") ∈ lw_all := lw_g (lw_at lw_m5 236 rfl) rfl
theorem q1296 : (Jvm.Cond.methodLink "VowelChoir" (202 : Nat) ({ cls := "VowelChoir$LawReader", name := "<init>", desc := "([BI)V" } : Jvm.MethodName)) ∈ lw_all := lw_g (lw_at lw_m5 238 rfl) rfl
theorem q1306 : (Jvm.Cond.methodLink "VowelChoir" (203 : Nat) ({ cls := "VowelChoir$LawReader", name := "reads", desc := "()LVowelChoir$Term;" } : Jvm.MethodName)) ∈ lw_all := lw_g (lw_at lw_m6 8 rfl) rfl
theorem q1450 : (Jvm.Cond.instanceMethod ({ cls := "VowelChoir", name := "work", desc := "(I)I" } : Jvm.MethodName)) ∈ lw_all := lw_g (lw_at lw_m6 152 rfl) rfl
theorem q1451 : (Jvm.Cond.selects "VowelChoir" ({ cls := "VowelChoir", name := "work", desc := "(I)I" } : Jvm.MethodName) ({ cls := "VowelChoir", name := "work", desc := "(I)I" } : Jvm.MethodName)) ∈ lw_all := lw_g (lw_at lw_m6 153 rfl) rfl
theorem q1452 : (Jvm.Cond.codeWith ({ cls := "VowelChoir", name := "work", desc := "(I)I" } : Jvm.MethodName) prog_1_method_23_code (5 : Nat) (Option.some Jvm.ClassFile.FieldType.int) [((28 : Nat), (45 : Nat), (179 : Nat), (176 : Nat)), ((52 : Nat), (172 : Nat), (179 : Nat), (176 : Nat)), ((28 : Nat), (45 : Nat), (193 : Nat), (0 : Nat)), ((52 : Nat), (172 : Nat), (193 : Nat), (0 : Nat)), ((179 : Nat), (186 : Nat), (193 : Nat), (0 : Nat)), ((193 : Nat), (195 : Nat), (193 : Nat), (0 : Nat))]) ∈ lw_all := lw_g (lw_at lw_m6 154 rfl) rfl
theorem q1453 : (Jvm.Cond.classLink "VowelChoir" (205 : Nat) "VowelChoir$WorkReader") ∈ lw_all := lw_g (lw_at lw_m6 155 rfl) rfl
theorem q1455 : (Jvm.Cond.methodLink "VowelChoir" (207 : Nat) ({ cls := "VowelChoir$WorkReader", name := "<init>", desc := "([BILVowelChoir$Told;)V" } : Jvm.MethodName)) ∈ lw_all := lw_g (lw_at lw_m6 157 rfl) rfl
theorem q1468 : (Jvm.Cond.methodLink "VowelChoir" (210 : Nat) ({ cls := "VowelChoir$WorkReader", name := "reads", desc := "()Ljava/util/ArrayList;" } : Jvm.MethodName)) ∈ lw_all := lw_g (lw_at lw_m6 170 rfl) rfl
theorem q1600 : (Jvm.Cond.classLink "VowelChoir" (225 : Nat) "VowelChoir$Step") ∈ lw_all := lw_g (lw_at lw_m7 62 rfl) rfl
theorem q1601 : (Jvm.Cond.methodLink "VowelChoir" (227 : Nat) ({ cls := "VowelChoir$Step", name := "goes", desc := "(LVowelChoir$Choir;)V" } : Jvm.MethodName)) ∈ lw_all := lw_g (lw_at lw_m7 63 rfl) rfl
theorem q1674 : (Jvm.Cond.instanceMethod ({ cls := "VowelChoir", name := "book", desc := "(I)I" } : Jvm.MethodName)) ∈ lw_all := lw_g (lw_at lw_m7 136 rfl) rfl
theorem q1675 : (Jvm.Cond.selects "VowelChoir" ({ cls := "VowelChoir", name := "book", desc := "(I)I" } : Jvm.MethodName) ({ cls := "VowelChoir", name := "book", desc := "(I)I" } : Jvm.MethodName)) ∈ lw_all := lw_g (lw_at lw_m7 137 rfl) rfl
theorem q1676 : (Jvm.Cond.codeWith ({ cls := "VowelChoir", name := "book", desc := "(I)I" } : Jvm.MethodName) prog_1_method_24_code (5 : Nat) (Option.some Jvm.ClassFile.FieldType.int) [((27 : Nat), (77 : Nat), (84 : Nat), (176 : Nat)), ((27 : Nat), (77 : Nat), (98 : Nat), (0 : Nat)), ((84 : Nat), (91 : Nat), (98 : Nat), (0 : Nat)), ((98 : Nat), (100 : Nat), (98 : Nat), (0 : Nat))]) ∈ lw_all := lw_g (lw_at lw_m7 138 rfl) rfl
theorem q1677 : (Jvm.Cond.classLink "VowelChoir" (231 : Nat) "VowelChoir$BookReader") ∈ lw_all := lw_g (lw_at lw_m7 139 rfl) rfl
theorem q1679 : (Jvm.Cond.methodLink "VowelChoir" (233 : Nat) ({ cls := "VowelChoir$BookReader", name := "<init>", desc := "([BII)V" } : Jvm.MethodName)) ∈ lw_all := lw_g (lw_at lw_m7 141 rfl) rfl
theorem q1686 : (Jvm.Cond.fieldLinkNest "VowelChoir" (245 : Nat) "VowelChoir$BookReader" "many" "I" "VowelChoir") ∈ lw_tbl := lw_at lw_m7 148 rfl
theorem q1699 : (Jvm.Cond.methodLink "VowelChoir" (236 : Nat) ({ cls := "VowelChoir$BookReader", name := "reads", desc := "()[I" } : Jvm.MethodName)) ∈ lw_all := lw_g (lw_at lw_m7 161 rfl) rfl
theorem q1714 : (Jvm.Cond.methodLink "VowelChoir" (239 : Nat) ({ cls := "java/lang/System", name := "arraycopy", desc := "(Ljava/lang/Object;ILjava/lang/Object;II)V" } : Jvm.MethodName)) ∈ lw_all := lw_g (lw_at lw_m7 176 rfl) rfl
theorem q1719 : (Jvm.Cond.instanceMethod ({ cls := "VowelChoir", name := "told", desc := "(I)I" } : Jvm.MethodName)) ∈ lw_all := lw_g (lw_at lw_m7 181 rfl) rfl
theorem q1720 : (Jvm.Cond.selects "VowelChoir" ({ cls := "VowelChoir", name := "told", desc := "(I)I" } : Jvm.MethodName) ({ cls := "VowelChoir", name := "told", desc := "(I)I" } : Jvm.MethodName)) ∈ lw_all := lw_g (lw_at lw_m7 182 rfl) rfl
theorem q1721 : (Jvm.Cond.code ({ cls := "VowelChoir", name := "told", desc := "(I)I" } : Jvm.MethodName) prog_1_method_27_code (2 : Nat) (Option.some Jvm.ClassFile.FieldType.int)) ∈ lw_all := lw_g (lw_at lw_m7 183 rfl) rfl
theorem q1722 : (Jvm.Cond.methodLink "VowelChoir" (165 : Nat) ({ cls := "VowelChoir", name := "isIn", desc := "(III)Z" } : Jvm.MethodName)) ∈ lw_all := lw_g (lw_at lw_m7 184 rfl) rfl
theorem q1723 : (Jvm.Cond.static ({ cls := "VowelChoir", name := "isIn", desc := "(III)Z" } : Jvm.MethodName)) ∈ lw_all := lw_g (lw_at lw_m7 185 rfl) rfl
theorem q1724 : (Jvm.Cond.code ({ cls := "VowelChoir", name := "isIn", desc := "(III)Z" } : Jvm.MethodName) prog_1_method_15_code (3 : Nat) (Option.some Jvm.ClassFile.FieldType.boolean)) ∈ lw_all := lw_g (lw_at lw_m7 186 rfl) rfl
theorem q1725 : (Jvm.Cond.methodLink "VowelChoir" (264 : Nat) ({ cls := "VowelChoir$Choir", name := "sum", desc := "([I)I" } : Jvm.MethodName)) ∈ lw_all := lw_g (lw_at lw_m7 187 rfl) rfl
theorem q1729 : (Jvm.Cond.methodLink "VowelChoir" (273 : Nat) ({ cls := "VowelChoir$Choir", name := "worded", desc := "()I" } : Jvm.MethodName)) ∈ lw_all := lw_g (lw_at lw_m7 191 rfl) rfl
theorem q1738 : (Jvm.Cond.instanceMethod ({ cls := "VowelChoir", name := "singer", desc := "(II)I" } : Jvm.MethodName)) ∈ lw_all := lw_g (lw_at lw_m7 200 rfl) rfl
theorem q1739 : (Jvm.Cond.selects "VowelChoir" ({ cls := "VowelChoir", name := "singer", desc := "(II)I" } : Jvm.MethodName) ({ cls := "VowelChoir", name := "singer", desc := "(II)I" } : Jvm.MethodName)) ∈ lw_all := lw_g (lw_at lw_m7 201 rfl) rfl
theorem q1740 : (Jvm.Cond.code ({ cls := "VowelChoir", name := "singer", desc := "(II)I" } : Jvm.MethodName) prog_1_method_28_code (3 : Nat) (Option.some Jvm.ClassFile.FieldType.int)) ∈ lw_all := lw_g (lw_at lw_m7 202 rfl) rfl
theorem q1741 : (Jvm.Cond.methodLink "VowelChoir" (276 : Nat) ({ cls := "VowelChoir", name := "needSinger", desc := "(I)V" } : Jvm.MethodName)) ∈ lw_all := lw_g (lw_at lw_m7 203 rfl) rfl
theorem q1742 : (Jvm.Cond.privateMethod ({ cls := "VowelChoir", name := "needSinger", desc := "(I)V" } : Jvm.MethodName)) ∈ lw_tbl := lw_at lw_m7 204 rfl
theorem q1743 : (Jvm.Cond.instanceMethod ({ cls := "VowelChoir", name := "needSinger", desc := "(I)V" } : Jvm.MethodName)) ∈ lw_all := lw_g (lw_at lw_m7 205 rfl) rfl
theorem q1744 : (Jvm.Cond.code ({ cls := "VowelChoir", name := "needSinger", desc := "(I)V" } : Jvm.MethodName) prog_1_method_12_code (2 : Nat) (Option.none : Option Jvm.ClassFile.FieldType)) ∈ lw_all := lw_g (lw_at lw_m7 206 rfl) rfl
theorem q1745 : (Jvm.Cond.methodLink "VowelChoir" (159 : Nat) ({ cls := "VowelChoir", name := "needThere", desc := "(II)V" } : Jvm.MethodName)) ∈ lw_all := lw_g (lw_at lw_m7 207 rfl) rfl
theorem q1746 : (Jvm.Cond.privateMethod ({ cls := "VowelChoir", name := "needThere", desc := "(II)V" } : Jvm.MethodName)) ∈ lw_tbl := lw_at lw_m7 208 rfl
theorem q1747 : (Jvm.Cond.instanceMethod ({ cls := "VowelChoir", name := "needThere", desc := "(II)V" } : Jvm.MethodName)) ∈ lw_all := lw_g (lw_at lw_m7 209 rfl) rfl
theorem q1748 : (Jvm.Cond.code ({ cls := "VowelChoir", name := "needThere", desc := "(II)V" } : Jvm.MethodName) prog_1_method_11_code (3 : Nat) (Option.none : Option Jvm.ClassFile.FieldType)) ∈ lw_all := lw_g (lw_at lw_m7 210 rfl) rfl
theorem q1749 : (Jvm.Cond.classLink "VowelChoir" (154 : Nat) "java/util/NoSuchElementException") ∈ lw_all := lw_g (lw_at lw_m7 211 rfl) rfl
theorem q1758 : (Jvm.Cond.methodLink "VowelChoir" (156 : Nat) ({ cls := "java/util/NoSuchElementException", name := "<init>", desc := "()V" } : Jvm.MethodName)) ∈ lw_all := lw_g (lw_at lw_m7 220 rfl) rfl
theorem q1768 : (Jvm.Cond.instanceMethod ({ cls := "VowelChoir", name := "note", desc := "(II)I" } : Jvm.MethodName)) ∈ lw_all := lw_g (lw_at lw_m7 230 rfl) rfl
theorem q1769 : (Jvm.Cond.selects "VowelChoir" ({ cls := "VowelChoir", name := "note", desc := "(II)I" } : Jvm.MethodName) ({ cls := "VowelChoir", name := "note", desc := "(II)I" } : Jvm.MethodName)) ∈ lw_all := lw_g (lw_at lw_m7 231 rfl) rfl
theorem q1770 : (Jvm.Cond.code ({ cls := "VowelChoir", name := "note", desc := "(II)I" } : Jvm.MethodName) prog_1_method_29_code (3 : Nat) (Option.some Jvm.ClassFile.FieldType.int)) ∈ lw_all := lw_g (lw_at lw_m7 232 rfl) rfl
theorem q1771 : (Jvm.Cond.methodLink "VowelChoir" (293 : Nat) ({ cls := "VowelChoir", name := "needNote", desc := "(I)V" } : Jvm.MethodName)) ∈ lw_all := lw_g (lw_at lw_m7 233 rfl) rfl
theorem q1772 : (Jvm.Cond.privateMethod ({ cls := "VowelChoir", name := "needNote", desc := "(I)V" } : Jvm.MethodName)) ∈ lw_tbl := lw_at lw_m7 234 rfl
theorem q1773 : (Jvm.Cond.instanceMethod ({ cls := "VowelChoir", name := "needNote", desc := "(I)V" } : Jvm.MethodName)) ∈ lw_all := lw_g (lw_at lw_m7 235 rfl) rfl
theorem q1774 : (Jvm.Cond.code ({ cls := "VowelChoir", name := "needNote", desc := "(I)V" } : Jvm.MethodName) prog_1_method_13_code (2 : Nat) (Option.none : Option Jvm.ClassFile.FieldType)) ∈ lw_all := lw_g (lw_at lw_m7 236 rfl) rfl
theorem q1779 : (Jvm.Cond.instanceMethod ({ cls := "VowelChoir", name := "like", desc := "(II)I" } : Jvm.MethodName)) ∈ lw_all := lw_g (lw_at lw_m8 1 rfl) rfl
theorem q1780 : (Jvm.Cond.selects "VowelChoir" ({ cls := "VowelChoir", name := "like", desc := "(II)I" } : Jvm.MethodName) ({ cls := "VowelChoir", name := "like", desc := "(II)I" } : Jvm.MethodName)) ∈ lw_all := lw_g (lw_at lw_m8 2 rfl) rfl
theorem q1781 : (Jvm.Cond.code ({ cls := "VowelChoir", name := "like", desc := "(II)I" } : Jvm.MethodName) prog_1_method_30_code (3 : Nat) (Option.some Jvm.ClassFile.FieldType.int)) ∈ lw_all := lw_g (lw_at lw_m8 3 rfl) rfl
theorem q1786 : (Jvm.Cond.instanceMethod ({ cls := "VowelChoir", name := "takes", desc := "(II)I" } : Jvm.MethodName)) ∈ lw_all := lw_g (lw_at lw_m8 8 rfl) rfl
theorem q1787 : (Jvm.Cond.selects "VowelChoir" ({ cls := "VowelChoir", name := "takes", desc := "(II)I" } : Jvm.MethodName) ({ cls := "VowelChoir", name := "takes", desc := "(II)I" } : Jvm.MethodName)) ∈ lw_all := lw_g (lw_at lw_m8 9 rfl) rfl
theorem q1788 : (Jvm.Cond.code ({ cls := "VowelChoir", name := "takes", desc := "(II)I" } : Jvm.MethodName) prog_1_method_31_code (3 : Nat) (Option.some Jvm.ClassFile.FieldType.int)) ∈ lw_all := lw_g (lw_at lw_m8 10 rfl) rfl
theorem q1789 : (Jvm.Cond.methodLink "VowelChoir" (309 : Nat) ({ cls := "VowelChoir$Choir", name := "takes", desc := "(II)I" } : Jvm.MethodName)) ∈ lw_all := lw_g (lw_at lw_m8 11 rfl) rfl
theorem q1794 : (Jvm.Cond.instanceMethod ({ cls := "VowelChoir", name := "would", desc := "(IIIIIIII)I" } : Jvm.MethodName)) ∈ lw_all := lw_g (lw_at lw_m8 16 rfl) rfl
theorem q1795 : (Jvm.Cond.selects "VowelChoir" ({ cls := "VowelChoir", name := "would", desc := "(IIIIIIII)I" } : Jvm.MethodName) ({ cls := "VowelChoir", name := "would", desc := "(IIIIIIII)I" } : Jvm.MethodName)) ∈ lw_all := lw_g (lw_at lw_m8 17 rfl) rfl
theorem q1796 : (Jvm.Cond.code ({ cls := "VowelChoir", name := "would", desc := "(IIIIIIII)I" } : Jvm.MethodName) prog_1_method_32_code (9 : Nat) (Option.some Jvm.ClassFile.FieldType.int)) ∈ lw_all := lw_g (lw_at lw_m8 18 rfl) rfl
theorem q1797 : (Jvm.Cond.methodLink "VowelChoir" (312 : Nat) ({ cls := "VowelChoir", name := "isVowel", desc := "(I)Z" } : Jvm.MethodName)) ∈ lw_all := lw_g (lw_at lw_m8 19 rfl) rfl
theorem q1798 : (Jvm.Cond.static ({ cls := "VowelChoir", name := "isVowel", desc := "(I)Z" } : Jvm.MethodName)) ∈ lw_all := lw_g (lw_at lw_m8 20 rfl) rfl
theorem q1799 : (Jvm.Cond.code ({ cls := "VowelChoir", name := "isVowel", desc := "(I)Z" } : Jvm.MethodName) prog_1_method_16_code (1 : Nat) (Option.some Jvm.ClassFile.FieldType.boolean)) ∈ lw_all := lw_g (lw_at lw_m8 21 rfl) rfl
theorem q1800 : (Jvm.Cond.methodLink "VowelChoir" (315 : Nat) ({ cls := "VowelChoir", name := "takesBy", desc := "(IIIIIIII)I" } : Jvm.MethodName)) ∈ lw_all := lw_g (lw_at lw_m8 22 rfl) rfl
theorem q1805 : (Jvm.Cond.instanceMethod ({ cls := "VowelChoir", name := "ahead", desc := "(II)I" } : Jvm.MethodName)) ∈ lw_all := lw_g (lw_at lw_m8 27 rfl) rfl
theorem q1806 : (Jvm.Cond.selects "VowelChoir" ({ cls := "VowelChoir", name := "ahead", desc := "(II)I" } : Jvm.MethodName) ({ cls := "VowelChoir", name := "ahead", desc := "(II)I" } : Jvm.MethodName)) ∈ lw_all := lw_g (lw_at lw_m8 28 rfl) rfl
theorem q1807 : (Jvm.Cond.code ({ cls := "VowelChoir", name := "ahead", desc := "(II)I" } : Jvm.MethodName) prog_1_method_38_code (6 : Nat) (Option.some Jvm.ClassFile.FieldType.int)) ∈ lw_all := lw_g (lw_at lw_m8 29 rfl) rfl
theorem q1812 : (Jvm.Cond.instanceMethod ({ cls := "VowelChoir", name := "handed", desc := "(II)I" } : Jvm.MethodName)) ∈ lw_all := lw_g (lw_at lw_m8 34 rfl) rfl
theorem q1813 : (Jvm.Cond.selects "VowelChoir" ({ cls := "VowelChoir", name := "handed", desc := "(II)I" } : Jvm.MethodName) ({ cls := "VowelChoir", name := "handed", desc := "(II)I" } : Jvm.MethodName)) ∈ lw_all := lw_g (lw_at lw_m8 35 rfl) rfl
theorem q1814 : (Jvm.Cond.code ({ cls := "VowelChoir", name := "handed", desc := "(II)I" } : Jvm.MethodName) prog_1_method_52_code (3 : Nat) (Option.some Jvm.ClassFile.FieldType.int)) ∈ lw_all := lw_g (lw_at lw_m8 36 rfl) rfl
theorem q1819 : (Jvm.Cond.instanceMethod ({ cls := "VowelChoir", name := "benched", desc := "(I)I" } : Jvm.MethodName)) ∈ lw_all := lw_g (lw_at lw_m8 41 rfl) rfl
theorem q1820 : (Jvm.Cond.selects "VowelChoir" ({ cls := "VowelChoir", name := "benched", desc := "(I)I" } : Jvm.MethodName) ({ cls := "VowelChoir", name := "benched", desc := "(I)I" } : Jvm.MethodName)) ∈ lw_all := lw_g (lw_at lw_m8 42 rfl) rfl
theorem q1821 : (Jvm.Cond.code ({ cls := "VowelChoir", name := "benched", desc := "(I)I" } : Jvm.MethodName) prog_1_method_57_code (7 : Nat) (Option.some Jvm.ClassFile.FieldType.int)) ∈ lw_all := lw_g (lw_at lw_m8 43 rfl) rfl
theorem q1826 : (Jvm.Cond.instanceMethod ({ cls := "VowelChoir", name := "wordings", desc := "(I)J" } : Jvm.MethodName)) ∈ lw_all := lw_g (lw_at lw_m8 48 rfl) rfl
theorem q1827 : (Jvm.Cond.selects "VowelChoir" ({ cls := "VowelChoir", name := "wordings", desc := "(I)J" } : Jvm.MethodName) ({ cls := "VowelChoir", name := "wordings", desc := "(I)J" } : Jvm.MethodName)) ∈ lw_all := lw_g (lw_at lw_m8 49 rfl) rfl
theorem q1828 : (Jvm.Cond.code ({ cls := "VowelChoir", name := "wordings", desc := "(I)J" } : Jvm.MethodName) prog_1_method_60_code (2 : Nat) (Option.some Jvm.ClassFile.FieldType.long)) ∈ lw_all := lw_g (lw_at lw_m8 50 rfl) rfl
theorem q1833 : (Jvm.Cond.instanceMethod ({ cls := "VowelChoir", name := "who", desc := "(I)I" } : Jvm.MethodName)) ∈ lw_all := lw_g (lw_at lw_m8 55 rfl) rfl
theorem q1834 : (Jvm.Cond.selects "VowelChoir" ({ cls := "VowelChoir", name := "who", desc := "(I)I" } : Jvm.MethodName) ({ cls := "VowelChoir", name := "who", desc := "(I)I" } : Jvm.MethodName)) ∈ lw_all := lw_g (lw_at lw_m8 56 rfl) rfl
theorem q1835 : (Jvm.Cond.code ({ cls := "VowelChoir", name := "who", desc := "(I)I" } : Jvm.MethodName) prog_1_method_63_code (5 : Nat) (Option.some Jvm.ClassFile.FieldType.int)) ∈ lw_all := lw_g (lw_at lw_m8 57 rfl) rfl
theorem q1836 : (Jvm.Cond.methodLink "VowelChoir" (375 : Nat) ({ cls := "VowelChoir", name := "layHeard", desc := "()V" } : Jvm.MethodName)) ∈ lw_all := lw_g (lw_at lw_m8 58 rfl) rfl
theorem q1837 : (Jvm.Cond.privateMethod ({ cls := "VowelChoir", name := "layHeard", desc := "()V" } : Jvm.MethodName)) ∈ lw_tbl := lw_at lw_m8 59 rfl
theorem q1838 : (Jvm.Cond.instanceMethod ({ cls := "VowelChoir", name := "layHeard", desc := "()V" } : Jvm.MethodName)) ∈ lw_all := lw_g (lw_at lw_m8 60 rfl) rfl
theorem q1839 : (Jvm.Cond.code ({ cls := "VowelChoir", name := "layHeard", desc := "()V" } : Jvm.MethodName) prog_1_method_61_code (3 : Nat) (Option.none : Option Jvm.ClassFile.FieldType)) ∈ lw_all := lw_g (lw_at lw_m8 61 rfl) rfl
theorem q1840 : (Jvm.Cond.methodLink "VowelChoir" (378 : Nat) ({ cls := "VowelChoir", name := "isWho", desc := "(I)Z" } : Jvm.MethodName)) ∈ lw_all := lw_g (lw_at lw_m8 62 rfl) rfl
theorem q1841 : (Jvm.Cond.privateMethod ({ cls := "VowelChoir", name := "isWho", desc := "(I)Z" } : Jvm.MethodName)) ∈ lw_tbl := lw_at lw_m8 63 rfl
theorem q1842 : (Jvm.Cond.instanceMethod ({ cls := "VowelChoir", name := "isWho", desc := "(I)Z" } : Jvm.MethodName)) ∈ lw_all := lw_g (lw_at lw_m8 64 rfl) rfl
theorem q1843 : (Jvm.Cond.code ({ cls := "VowelChoir", name := "isWho", desc := "(I)Z" } : Jvm.MethodName) prog_1_method_62_code (3 : Nat) (Option.some Jvm.ClassFile.FieldType.boolean)) ∈ lw_all := lw_g (lw_at lw_m8 65 rfl) rfl
theorem q1848 : (Jvm.Cond.instanceMethod ({ cls := "VowelChoir", name := "listen", desc := "(I)I" } : Jvm.MethodName)) ∈ lw_all := lw_g (lw_at lw_m8 70 rfl) rfl
theorem q1849 : (Jvm.Cond.selects "VowelChoir" ({ cls := "VowelChoir", name := "listen", desc := "(I)I" } : Jvm.MethodName) ({ cls := "VowelChoir", name := "listen", desc := "(I)I" } : Jvm.MethodName)) ∈ lw_all := lw_g (lw_at lw_m8 71 rfl) rfl
theorem q1850 : (Jvm.Cond.code ({ cls := "VowelChoir", name := "listen", desc := "(I)I" } : Jvm.MethodName) prog_1_method_65_code (6 : Nat) (Option.some Jvm.ClassFile.FieldType.int)) ∈ lw_all := lw_g (lw_at lw_m8 72 rfl) rfl
theorem q1851 : (Jvm.Cond.methodLink "VowelChoir" (381 : Nat) ({ cls := "VowelChoir", name := "worstBy", desc := "(I)I" } : Jvm.MethodName)) ∈ lw_all := lw_g (lw_at lw_m8 73 rfl) rfl
theorem q1852 : (Jvm.Cond.privateMethod ({ cls := "VowelChoir", name := "worstBy", desc := "(I)I" } : Jvm.MethodName)) ∈ lw_tbl := lw_at lw_m8 74 rfl
theorem q1853 : (Jvm.Cond.instanceMethod ({ cls := "VowelChoir", name := "worstBy", desc := "(I)I" } : Jvm.MethodName)) ∈ lw_all := lw_g (lw_at lw_m8 75 rfl) rfl
theorem q1854 : (Jvm.Cond.code ({ cls := "VowelChoir", name := "worstBy", desc := "(I)I" } : Jvm.MethodName) prog_1_method_64_code (5 : Nat) (Option.some Jvm.ClassFile.FieldType.int)) ∈ lw_all := lw_g (lw_at lw_m8 76 rfl) rfl
theorem q1859 : (Jvm.Cond.instanceMethod ({ cls := "VowelChoir", name := "duty", desc := "(I)I" } : Jvm.MethodName)) ∈ lw_all := lw_g (lw_at lw_m8 81 rfl) rfl
theorem q1860 : (Jvm.Cond.selects "VowelChoir" ({ cls := "VowelChoir", name := "duty", desc := "(I)I" } : Jvm.MethodName) ({ cls := "VowelChoir", name := "duty", desc := "(I)I" } : Jvm.MethodName)) ∈ lw_all := lw_g (lw_at lw_m8 82 rfl) rfl
theorem q1861 : (Jvm.Cond.code ({ cls := "VowelChoir", name := "duty", desc := "(I)I" } : Jvm.MethodName) prog_1_method_39_code (5 : Nat) (Option.some Jvm.ClassFile.FieldType.int)) ∈ lw_all := lw_g (lw_at lw_m8 83 rfl) rfl
theorem q1862 : (Jvm.Cond.methodLink "VowelChoir" (328 : Nat) ({ cls := "VowelChoir$Choir", name := "sings", desc := "(I)Z" } : Jvm.MethodName)) ∈ lw_all := lw_g (lw_at lw_m8 84 rfl) rfl
theorem q1867 : (Jvm.Cond.instanceMethod ({ cls := "VowelChoir", name := "range", desc := "(I)I" } : Jvm.MethodName)) ∈ lw_all := lw_g (lw_at lw_m8 89 rfl) rfl
theorem q1868 : (Jvm.Cond.selects "VowelChoir" ({ cls := "VowelChoir", name := "range", desc := "(I)I" } : Jvm.MethodName) ({ cls := "VowelChoir", name := "range", desc := "(I)I" } : Jvm.MethodName)) ∈ lw_all := lw_g (lw_at lw_m8 90 rfl) rfl
theorem q1869 : (Jvm.Cond.code ({ cls := "VowelChoir", name := "range", desc := "(I)I" } : Jvm.MethodName) prog_1_method_40_code (6 : Nat) (Option.some Jvm.ClassFile.FieldType.int)) ∈ lw_all := lw_g (lw_at lw_m8 91 rfl) rfl
theorem q1874 : (Jvm.Cond.instanceMethod ({ cls := "VowelChoir", name := "quarrel", desc := "(III)I" } : Jvm.MethodName)) ∈ lw_all := lw_g (lw_at lw_m8 96 rfl) rfl
theorem q1875 : (Jvm.Cond.selects "VowelChoir" ({ cls := "VowelChoir", name := "quarrel", desc := "(III)I" } : Jvm.MethodName) ({ cls := "VowelChoir", name := "quarrel", desc := "(III)I" } : Jvm.MethodName)) ∈ lw_all := lw_g (lw_at lw_m8 97 rfl) rfl
theorem q1876 : (Jvm.Cond.code ({ cls := "VowelChoir", name := "quarrel", desc := "(III)I" } : Jvm.MethodName) prog_1_method_67_code (8 : Nat) (Option.some Jvm.ClassFile.FieldType.int)) ∈ lw_all := lw_g (lw_at lw_m8 98 rfl) rfl
theorem q1877 : (Jvm.Cond.methodLink "VowelChoir" (384 : Nat) ({ cls := "VowelChoir", name := "hasBy", desc := "(IIII)I" } : Jvm.MethodName)) ∈ lw_all := lw_g (lw_at lw_m8 99 rfl) rfl
theorem q1878 : (Jvm.Cond.static ({ cls := "VowelChoir", name := "hasBy", desc := "(IIII)I" } : Jvm.MethodName)) ∈ lw_all := lw_g (lw_at lw_m8 100 rfl) rfl
theorem q1879 : (Jvm.Cond.code ({ cls := "VowelChoir", name := "hasBy", desc := "(IIII)I" } : Jvm.MethodName) prog_1_method_66_code (4 : Nat) (Option.some Jvm.ClassFile.FieldType.int)) ∈ lw_all := lw_g (lw_at lw_m8 101 rfl) rfl
theorem q1884 : (Jvm.Cond.instanceMethod ({ cls := "VowelChoir", name := "enough", desc := "(IIII)J" } : Jvm.MethodName)) ∈ lw_all := lw_g (lw_at lw_m8 106 rfl) rfl
theorem q1885 : (Jvm.Cond.selects "VowelChoir" ({ cls := "VowelChoir", name := "enough", desc := "(IIII)J" } : Jvm.MethodName) ({ cls := "VowelChoir", name := "enough", desc := "(IIII)J" } : Jvm.MethodName)) ∈ lw_all := lw_g (lw_at lw_m8 107 rfl) rfl
theorem q1886 : (Jvm.Cond.code ({ cls := "VowelChoir", name := "enough", desc := "(IIII)J" } : Jvm.MethodName) prog_1_method_70_code (15 : Nat) (Option.some Jvm.ClassFile.FieldType.long)) ∈ lw_all := lw_g (lw_at lw_m8 108 rfl) rfl
theorem q1887 : (Jvm.Cond.methodLink "VowelChoir" (388 : Nat) ({ cls := "VowelChoir", name := "ways", desc := "(II)J" } : Jvm.MethodName)) ∈ lw_all := lw_g (lw_at lw_m8 109 rfl) rfl
theorem q1888 : (Jvm.Cond.static ({ cls := "VowelChoir", name := "ways", desc := "(II)J" } : Jvm.MethodName)) ∈ lw_all := lw_g (lw_at lw_m8 110 rfl) rfl
theorem q1889 : (Jvm.Cond.code ({ cls := "VowelChoir", name := "ways", desc := "(II)J" } : Jvm.MethodName) prog_1_method_69_code (5 : Nat) (Option.some Jvm.ClassFile.FieldType.long)) ∈ lw_all := lw_g (lw_at lw_m8 111 rfl) rfl
theorem q1890 : (Jvm.Cond.methodLink "VowelChoir" (392 : Nat) ({ cls := "VowelChoir", name := "power", desc := "(JI)J" } : Jvm.MethodName)) ∈ lw_all := lw_g (lw_at lw_m8 112 rfl) rfl
theorem q1891 : (Jvm.Cond.static ({ cls := "VowelChoir", name := "power", desc := "(JI)J" } : Jvm.MethodName)) ∈ lw_all := lw_g (lw_at lw_m8 113 rfl) rfl
theorem q1892 : (Jvm.Cond.code ({ cls := "VowelChoir", name := "power", desc := "(JI)J" } : Jvm.MethodName) prog_1_method_68_code (6 : Nat) (Option.some Jvm.ClassFile.FieldType.long)) ∈ lw_all := lw_g (lw_at lw_m8 114 rfl) rfl
theorem q1893 : (Jvm.Cond.constantLong "VowelChoir" (396 : Nat) (16 : Int64)) ∈ lw_all := lw_g (lw_at lw_m8 115 rfl) rfl
theorem q1898 : (Jvm.Cond.instanceMethod ({ cls := "VowelChoir", name := "rent", desc := "(III)I" } : Jvm.MethodName)) ∈ lw_all := lw_g (lw_at lw_m8 120 rfl) rfl
theorem q1899 : (Jvm.Cond.selects "VowelChoir" ({ cls := "VowelChoir", name := "rent", desc := "(III)I" } : Jvm.MethodName) ({ cls := "VowelChoir", name := "rent", desc := "(III)I" } : Jvm.MethodName)) ∈ lw_all := lw_g (lw_at lw_m8 121 rfl) rfl
theorem q1900 : (Jvm.Cond.code ({ cls := "VowelChoir", name := "rent", desc := "(III)I" } : Jvm.MethodName) prog_1_method_72_code (5 : Nat) (Option.some Jvm.ClassFile.FieldType.int)) ∈ lw_all := lw_g (lw_at lw_m8 122 rfl) rfl
theorem q1901 : (Jvm.Cond.methodLink "VowelChoir" (398 : Nat) ({ cls := "VowelChoir", name := "rented", desc := "(II)I" } : Jvm.MethodName)) ∈ lw_all := lw_g (lw_at lw_m8 123 rfl) rfl
theorem q1902 : (Jvm.Cond.privateMethod ({ cls := "VowelChoir", name := "rented", desc := "(II)I" } : Jvm.MethodName)) ∈ lw_tbl := lw_at lw_m8 124 rfl
theorem q1903 : (Jvm.Cond.instanceMethod ({ cls := "VowelChoir", name := "rented", desc := "(II)I" } : Jvm.MethodName)) ∈ lw_all := lw_g (lw_at lw_m8 125 rfl) rfl
theorem q1904 : (Jvm.Cond.code ({ cls := "VowelChoir", name := "rented", desc := "(II)I" } : Jvm.MethodName) prog_1_method_71_code (5 : Nat) (Option.some Jvm.ClassFile.FieldType.int)) ∈ lw_all := lw_g (lw_at lw_m8 126 rfl) rfl
theorem q1909 : (Jvm.Cond.instanceMethod ({ cls := "VowelChoir", name := "dearest", desc := "(I)I" } : Jvm.MethodName)) ∈ lw_all := lw_g (lw_at lw_m8 131 rfl) rfl
theorem q1910 : (Jvm.Cond.selects "VowelChoir" ({ cls := "VowelChoir", name := "dearest", desc := "(I)I" } : Jvm.MethodName) ({ cls := "VowelChoir", name := "dearest", desc := "(I)I" } : Jvm.MethodName)) ∈ lw_all := lw_g (lw_at lw_m8 132 rfl) rfl
theorem q1911 : (Jvm.Cond.code ({ cls := "VowelChoir", name := "dearest", desc := "(I)I" } : Jvm.MethodName) prog_1_method_33_code (4 : Nat) (Option.some Jvm.ClassFile.FieldType.int)) ∈ lw_all := lw_g (lw_at lw_m8 133 rfl) rfl
theorem q1916 : (Jvm.Cond.instanceMethod ({ cls := "VowelChoir", name := "voices", desc := "(I)I" } : Jvm.MethodName)) ∈ lw_all := lw_g (lw_at lw_m8 138 rfl) rfl
theorem q1917 : (Jvm.Cond.selects "VowelChoir" ({ cls := "VowelChoir", name := "voices", desc := "(I)I" } : Jvm.MethodName) ({ cls := "VowelChoir", name := "voices", desc := "(I)I" } : Jvm.MethodName)) ∈ lw_all := lw_g (lw_at lw_m8 139 rfl) rfl
theorem q1918 : (Jvm.Cond.code ({ cls := "VowelChoir", name := "voices", desc := "(I)I" } : Jvm.MethodName) prog_1_method_34_code (4 : Nat) (Option.some Jvm.ClassFile.FieldType.int)) ∈ lw_all := lw_g (lw_at lw_m8 140 rfl) rfl
theorem q1923 : (Jvm.Cond.instanceMethod ({ cls := "VowelChoir", name := "sounds", desc := "(I)I" } : Jvm.MethodName)) ∈ lw_all := lw_g (lw_at lw_m8 145 rfl) rfl
theorem q1924 : (Jvm.Cond.selects "VowelChoir" ({ cls := "VowelChoir", name := "sounds", desc := "(I)I" } : Jvm.MethodName) ({ cls := "VowelChoir", name := "sounds", desc := "(I)I" } : Jvm.MethodName)) ∈ lw_all := lw_g (lw_at lw_m8 146 rfl) rfl
theorem q1925 : (Jvm.Cond.code ({ cls := "VowelChoir", name := "sounds", desc := "(I)I" } : Jvm.MethodName) prog_1_method_35_code (2 : Nat) (Option.some Jvm.ClassFile.FieldType.int)) ∈ lw_all := lw_g (lw_at lw_m8 147 rfl) rfl
theorem q1926 : (Jvm.Cond.methodLink "VowelChoir" (319 : Nat) ({ cls := "VowelChoir$Choir", name := "soundsOf", desc := "(I)I" } : Jvm.MethodName)) ∈ lw_all := lw_g (lw_at lw_m8 148 rfl) rfl
theorem q1934 : (Jvm.Cond.instanceMethod ({ cls := "VowelChoir", name := "beats", desc := "(I)I" } : Jvm.MethodName)) ∈ lw_all := lw_g (lw_at lw_m8 156 rfl) rfl
theorem q1935 : (Jvm.Cond.selects "VowelChoir" ({ cls := "VowelChoir", name := "beats", desc := "(I)I" } : Jvm.MethodName) ({ cls := "VowelChoir", name := "beats", desc := "(I)I" } : Jvm.MethodName)) ∈ lw_all := lw_g (lw_at lw_m8 157 rfl) rfl
theorem q1936 : (Jvm.Cond.code ({ cls := "VowelChoir", name := "beats", desc := "(I)I" } : Jvm.MethodName) prog_1_method_36_code (4 : Nat) (Option.some Jvm.ClassFile.FieldType.int)) ∈ lw_all := lw_g (lw_at lw_m8 158 rfl) rfl
theorem q1941 : (Jvm.Cond.instanceMethod ({ cls := "VowelChoir", name := "words", desc := "(I)I" } : Jvm.MethodName)) ∈ lw_all := lw_g (lw_at lw_m8 163 rfl) rfl
theorem q1942 : (Jvm.Cond.selects "VowelChoir" ({ cls := "VowelChoir", name := "words", desc := "(I)I" } : Jvm.MethodName) ({ cls := "VowelChoir", name := "words", desc := "(I)I" } : Jvm.MethodName)) ∈ lw_all := lw_g (lw_at lw_m8 164 rfl) rfl
theorem q1943 : (Jvm.Cond.code ({ cls := "VowelChoir", name := "words", desc := "(I)I" } : Jvm.MethodName) prog_1_method_37_code (2 : Nat) (Option.some Jvm.ClassFile.FieldType.int)) ∈ lw_all := lw_g (lw_at lw_m8 165 rfl) rfl
theorem q1948 : (Jvm.Cond.instanceMethod ({ cls := "VowelChoir", name := "alone", desc := "(I)I" } : Jvm.MethodName)) ∈ lw_all := lw_g (lw_at lw_m8 170 rfl) rfl
theorem q1949 : (Jvm.Cond.selects "VowelChoir" ({ cls := "VowelChoir", name := "alone", desc := "(I)I" } : Jvm.MethodName) ({ cls := "VowelChoir", name := "alone", desc := "(I)I" } : Jvm.MethodName)) ∈ lw_all := lw_g (lw_at lw_m8 171 rfl) rfl
theorem q1950 : (Jvm.Cond.code ({ cls := "VowelChoir", name := "alone", desc := "(I)I" } : Jvm.MethodName) prog_1_method_43_code (3 : Nat) (Option.some Jvm.ClassFile.FieldType.int)) ∈ lw_all := lw_g (lw_at lw_m8 172 rfl) rfl
theorem q1951 : (Jvm.Cond.methodLink "VowelChoir" (331 : Nat) ({ cls := "VowelChoir", name := "voices", desc := "(I)I" } : Jvm.MethodName)) ∈ lw_all := lw_g (lw_at lw_m8 173 rfl) rfl
theorem q1952 : (Jvm.Cond.methodLink "VowelChoir" (339 : Nat) ({ cls := "java/lang/Integer", name := "numberOfTrailingZeros", desc := "(I)I" } : Jvm.MethodName)) ∈ lw_all := lw_g (lw_at lw_m8 174 rfl) rfl
theorem q1960 : (Jvm.Cond.instanceMethod ({ cls := "VowelChoir", name := "longest", desc := "(I)I" } : Jvm.MethodName)) ∈ lw_all := lw_g (lw_at lw_m8 182 rfl) rfl
theorem q1961 : (Jvm.Cond.selects "VowelChoir" ({ cls := "VowelChoir", name := "longest", desc := "(I)I" } : Jvm.MethodName) ({ cls := "VowelChoir", name := "longest", desc := "(I)I" } : Jvm.MethodName)) ∈ lw_all := lw_g (lw_at lw_m8 183 rfl) rfl
theorem q1962 : (Jvm.Cond.code ({ cls := "VowelChoir", name := "longest", desc := "(I)I" } : Jvm.MethodName) prog_1_method_44_code (4 : Nat) (Option.some Jvm.ClassFile.FieldType.int)) ∈ lw_all := lw_g (lw_at lw_m8 184 rfl) rfl
theorem q1967 : (Jvm.Cond.instanceMethod ({ cls := "VowelChoir", name := "chorus", desc := "(I)I" } : Jvm.MethodName)) ∈ lw_all := lw_g (lw_at lw_m8 189 rfl) rfl
theorem q1968 : (Jvm.Cond.selects "VowelChoir" ({ cls := "VowelChoir", name := "chorus", desc := "(I)I" } : Jvm.MethodName) ({ cls := "VowelChoir", name := "chorus", desc := "(I)I" } : Jvm.MethodName)) ∈ lw_all := lw_g (lw_at lw_m8 190 rfl) rfl
theorem q1969 : (Jvm.Cond.code ({ cls := "VowelChoir", name := "chorus", desc := "(I)I" } : Jvm.MethodName) prog_1_method_45_code (3 : Nat) (Option.some Jvm.ClassFile.FieldType.int)) ∈ lw_all := lw_g (lw_at lw_m8 191 rfl) rfl
theorem q1974 : (Jvm.Cond.instanceMethod ({ cls := "VowelChoir", name := "spare", desc := "(I)I" } : Jvm.MethodName)) ∈ lw_all := lw_g (lw_at lw_m8 196 rfl) rfl
theorem q1975 : (Jvm.Cond.selects "VowelChoir" ({ cls := "VowelChoir", name := "spare", desc := "(I)I" } : Jvm.MethodName) ({ cls := "VowelChoir", name := "spare", desc := "(I)I" } : Jvm.MethodName)) ∈ lw_all := lw_g (lw_at lw_m8 197 rfl) rfl
theorem q1976 : (Jvm.Cond.code ({ cls := "VowelChoir", name := "spare", desc := "(I)I" } : Jvm.MethodName) prog_1_method_46_code (4 : Nat) (Option.some Jvm.ClassFile.FieldType.int)) ∈ lw_all := lw_g (lw_at lw_m8 198 rfl) rfl
theorem q1981 : (Jvm.Cond.instanceMethod ({ cls := "VowelChoir", name := "sunday", desc := "(IIII)I" } : Jvm.MethodName)) ∈ lw_all := lw_g (lw_at lw_m8 203 rfl) rfl
theorem q1982 : (Jvm.Cond.selects "VowelChoir" ({ cls := "VowelChoir", name := "sunday", desc := "(IIII)I" } : Jvm.MethodName) ({ cls := "VowelChoir", name := "sunday", desc := "(IIII)I" } : Jvm.MethodName)) ∈ lw_all := lw_g (lw_at lw_m8 204 rfl) rfl
theorem q1983 : (Jvm.Cond.code ({ cls := "VowelChoir", name := "sunday", desc := "(IIII)I" } : Jvm.MethodName) prog_1_method_76_code (6 : Nat) (Option.some Jvm.ClassFile.FieldType.int)) ∈ lw_all := lw_g (lw_at lw_m8 205 rfl) rfl
theorem q1984 : (Jvm.Cond.methodLink "VowelChoir" (415 : Nat) ({ cls := "VowelChoir", name := "isSunday", desc := "(II)Z" } : Jvm.MethodName)) ∈ lw_all := lw_g (lw_at lw_m8 206 rfl) rfl
theorem q1985 : (Jvm.Cond.static ({ cls := "VowelChoir", name := "isSunday", desc := "(II)Z" } : Jvm.MethodName)) ∈ lw_all := lw_g (lw_at lw_m8 207 rfl) rfl
theorem q1986 : (Jvm.Cond.code ({ cls := "VowelChoir", name := "isSunday", desc := "(II)Z" } : Jvm.MethodName) prog_1_method_75_code (2 : Nat) (Option.some Jvm.ClassFile.FieldType.boolean)) ∈ lw_all := lw_g (lw_at lw_m8 208 rfl) rfl
theorem q1987 : (Jvm.Cond.methodLink "VowelChoir" (418 : Nat) ({ cls := "VowelChoir", name := "sundayBy", desc := "(III)LVowelChoir$Choir;" } : Jvm.MethodName)) ∈ lw_all := lw_g (lw_at lw_m8 209 rfl) rfl
theorem q1988 : (Jvm.Cond.privateMethod ({ cls := "VowelChoir", name := "sundayBy", desc := "(III)LVowelChoir$Choir;" } : Jvm.MethodName)) ∈ lw_tbl := lw_at lw_m8 210 rfl
theorem q1989 : (Jvm.Cond.instanceMethod ({ cls := "VowelChoir", name := "sundayBy", desc := "(III)LVowelChoir$Choir;" } : Jvm.MethodName)) ∈ lw_all := lw_g (lw_at lw_m8 211 rfl) rfl
theorem q1990 : (Jvm.Cond.code ({ cls := "VowelChoir", name := "sundayBy", desc := "(III)LVowelChoir$Choir;" } : Jvm.MethodName) prog_1_method_74_code (6 : Nat) (Option.some (Jvm.ClassFile.FieldType.object "VowelChoir$Choir"))) ∈ lw_all := lw_g (lw_at lw_m8 212 rfl) rfl
theorem q1991 : (Jvm.Cond.methodLink "VowelChoir" (405 : Nat) ({ cls := "VowelChoir", name := "draw", desc := "(I)I" } : Jvm.MethodName)) ∈ lw_all := lw_g (lw_at lw_m8 213 rfl) rfl
theorem q1992 : (Jvm.Cond.privateMethod ({ cls := "VowelChoir", name := "draw", desc := "(I)I" } : Jvm.MethodName)) ∈ lw_tbl := lw_at lw_m8 214 rfl
theorem q1993 : (Jvm.Cond.instanceMethod ({ cls := "VowelChoir", name := "draw", desc := "(I)I" } : Jvm.MethodName)) ∈ lw_all := lw_g (lw_at lw_m8 215 rfl) rfl
theorem q1994 : (Jvm.Cond.code ({ cls := "VowelChoir", name := "draw", desc := "(I)I" } : Jvm.MethodName) prog_1_method_73_code (2 : Nat) (Option.some Jvm.ClassFile.FieldType.int)) ∈ lw_all := lw_g (lw_at lw_m8 216 rfl) rfl
theorem q1995 : (Jvm.Cond.constant "VowelChoir" (404 : Nat) (1103515245 : Int32)) ∈ lw_all := lw_g (lw_at lw_m8 217 rfl) rfl
theorem q1996 : (Jvm.Cond.methodLink "VowelChoir" (408 : Nat) ({ cls := "VowelChoir$Choir", name := "rests", desc := "()Z" } : Jvm.MethodName)) ∈ lw_all := lw_g (lw_at lw_m8 218 rfl) rfl
theorem q1997 : (Jvm.Cond.methodLink "VowelChoir" (412 : Nat) ({ cls := "VowelChoir$Choir", name := "passes", desc := "()V" } : Jvm.MethodName)) ∈ lw_all := lw_g (lw_at lw_m8 219 rfl) rfl
theorem q2002 : (Jvm.Cond.instanceMethod ({ cls := "VowelChoir", name := "span", desc := "(IIIIII)I" } : Jvm.MethodName)) ∈ lw_all := lw_g (lw_at lw_m8 224 rfl) rfl
theorem q2003 : (Jvm.Cond.selects "VowelChoir" ({ cls := "VowelChoir", name := "span", desc := "(IIIIII)I" } : Jvm.MethodName) ({ cls := "VowelChoir", name := "span", desc := "(IIIIII)I" } : Jvm.MethodName)) ∈ lw_all := lw_g (lw_at lw_m8 225 rfl) rfl
theorem q2004 : (Jvm.Cond.code ({ cls := "VowelChoir", name := "span", desc := "(IIIIII)I" } : Jvm.MethodName) prog_1_method_77_code (13 : Nat) (Option.some Jvm.ClassFile.FieldType.int)) ∈ lw_all := lw_g (lw_at lw_m8 226 rfl) rfl
theorem q2636 : (Jvm.Cond.castable "VowelChoir" "java/lang/Object") ∈ lw_tbl := lw_at lw_m11 138 rfl
theorem in_X1 : ∀ w ∈ wsX10, w ∈ lw_all := lw_in wsX10 [679, 681, 683, 685, 687, 689, 691, 693, 695, 697, 699, 701, 703, 705, 707, 709, 711, 713, 715, 717, 719, 721] (by decide +kernel) (by decide +kernel)
