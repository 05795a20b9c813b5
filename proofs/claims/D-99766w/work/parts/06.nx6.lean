/-! VowelChoirModel -/
set_option maxRecDepth 100000
def RX6 : String := "VowelChoirModel"
def TX6 : u_T := fun k => match k with
  | 0 => ("VowelChoirModel", "thrown", "I", false)
  | 1 => ("VowelChoirModel", "tape", "I", false)
  | 2 => ("VowelChoirModel", "size", "I", false)
  | 3 => ("VowelChoirModel", "place", "I", false)
  | 4 => ("VowelChoirModel", "at", "I", false)
  | 5 => ("VowelChoirModel", "fault", "I", false)
  | 6 => ("VowelChoirModel", "faultAt", "I", false)
  | 7 => ("VowelChoirModel", "clauses", "I", false)
  | 8 => ("VowelChoirModel", "open", "I", false)
  | 9 => ("VowelChoirModel", "fed", "[I", true)
  | 10 => ("VowelChoirModel", "refused", "[I", true)
  | 11 => ("VowelChoirModel", "readTold", "[I", true)
  | 12 => ("VowelChoirModel", "told", "[I", true)
  | 13 => ("VowelChoirModel", "readSinger", "[[I", true)
  | 14 => ("VowelChoirModel", "singer", "[[I", true)
  | 15 => ("VowelChoirModel", "readNote", "[[I", true)
  | 16 => ("VowelChoirModel", "note", "[[I", true)
  | 17 => ("VowelChoirModel", "readLike", "[[I", true)
  | 18 => ("VowelChoirModel", "like", "[[I", true)
  | 19 => ("VowelChoirModel", "lawMany", "I", false)
  | 20 => ("VowelChoirModel", "readLawMany", "I", false)
  | 21 => ("VowelChoirModel", "law", "[[I", true)
  | 22 => ("VowelChoirModel", "readLaw", "[[I", true)
  | 23 => ("VowelChoirModel", "line", "[[I", true)
  | 24 => ("VowelChoirModel", "readLine", "[[I", true)
  | 25 => ("VowelChoirModel", "stack", "[I", true)
  | 26 => ("VowelChoirModel", "known", "[I", true)
  | 27 => ("VowelChoirModel", "step", "[[I", true)
  | 28 => ("VowelChoirModel", "steps", "I", false)
  | 29 => ("VowelChoirModel", "now", "[I", true)
  | 30 => ("VowelChoirModel", "trial", "[I", true)
  | 31 => ("VowelChoirModel", "before", "[[I", true)
  | 32 => ("VowelChoirModel", "kept", "[[I", true)
  | 33 => ("VowelChoirModel", "lines", "I", false)
  | 34 => ("VowelChoirModel", "works", "I", false)
  | 35 => ("VowelChoirModel", "refusedSteps", "I", false)
  | 36 => ("VowelChoirModel", "images", "I", false)
  | 37 => ("VowelChoirModel", "spot", "I", false)
  | 38 => ("VowelChoirModel", "heard", "I", false)
  | 39 => ("VowelChoirModel", "begun", "I", false)
  | 40 => ("VowelChoirModel", "doneSteps", "I", false)
  | 41 => ("VowelChoirModel", "sits", "[I", true)
  | 42 => ("VowelChoirModel", "bestSits", "[I", true)
  | 43 => ("VowelChoirModel", "mostHanded", "I", false)
  | 44 => ("VowelChoirModel", "exact", "[J", true)
  | _ => ("VowelChoirModel", "lots", "I", false)
def tyX6 : Nat → FieldType := fun k => match k with
  | 0 => .int
  | 1 => .int
  | 2 => .int
  | 3 => .int
  | 4 => .int
  | 5 => .int
  | 6 => .int
  | 7 => .int
  | 8 => .int
  | 9 => .array .int
  | 10 => .array .int
  | 11 => .array .int
  | 12 => .array .int
  | 13 => .array (.array .int)
  | 14 => .array (.array .int)
  | 15 => .array (.array .int)
  | 16 => .array (.array .int)
  | 17 => .array (.array .int)
  | 18 => .array (.array .int)
  | 19 => .int
  | 20 => .int
  | 21 => .array (.array .int)
  | 22 => .array (.array .int)
  | 23 => .array (.array .int)
  | 24 => .array (.array .int)
  | 25 => .array .int
  | 26 => .array .int
  | 27 => .array (.array .int)
  | 28 => .int
  | 29 => .array .int
  | 30 => .array .int
  | 31 => .array (.array .int)
  | 32 => .array (.array .int)
  | 33 => .int
  | 34 => .int
  | 35 => .int
  | 36 => .int
  | 37 => .int
  | 38 => .int
  | 39 => .int
  | 40 => .int
  | 41 => .array .int
  | 42 => .array .int
  | 43 => .int
  | 44 => .array .long
  | _ => .int
abbrev wsX60 : List Cond := u_ws RX6 TX6 46
set_option maxRecDepth 100000 in
theorem nmX6 : ∀ a, a < 46 → ∀ b, b < 46 → a ≠ b → (TX6 a).2.1 ≠ (TX6 b).2.1 := by decide +kernel
set_option maxRecDepth 100000 in
theorem tyX6_ok : ∀ k, k < 46 → parseFieldDescriptor (TX6 k).2.2.1 = some (tyX6 k) := by decide +kernel
abbrev cX6_init : ByteArray := prog_34_method_1_code
def yX6_init : MethodName := ⟨RX6, "<init>", "()V"⟩
def dkwX6_init_10 : List UInt8 := [16, 7, 188, 10, 181, 0, 82, 42, 16, 14, 188, 11, 181, 0, 85, 42, 182, 0, 89, 42, 182, 0, 92, 177]
abbrev dktX6_init_10 : List UInt8 := dkwX6_init_10 ++ []
def dkwX6_init_9 : List UInt8 := [181, 0, 73, 42, 6, 17, 3, 202, 197, 0, 26, 2, 181, 0, 76, 42, 16, 7, 188, 10, 181, 0, 79, 42]
abbrev dktX6_init_9 : List UInt8 := dkwX6_init_9 ++ dktX6_init_10
def dkwX6_init_8 : List UInt8 := [16, 57, 188, 10, 181, 0, 67, 42, 16, 57, 188, 10, 181, 0, 70, 42, 16, 16, 16, 57, 197, 0, 26, 2]
abbrev dktX6_init_8 : List UInt8 := dkwX6_init_8 ++ dktX6_init_9
def dkwX6_init_7 : List UInt8 := [181, 0, 58, 42, 16, 8, 188, 10, 181, 0, 61, 42, 16, 80, 7, 197, 0, 26, 2, 181, 0, 64, 42]
abbrev dktX6_init_7 : List UInt8 := dkwX6_init_7 ++ dktX6_init_8
def dkwX6_init_6 : List UInt8 := [197, 0, 26, 2, 181, 0, 52, 42, 16, 20, 5, 197, 0, 26, 2, 181, 0, 55, 42, 17, 0, 160, 188, 10]
abbrev dktX6_init_6 : List UInt8 := dkwX6_init_6 ++ dktX6_init_7
def dkwX6_init_5 : List UInt8 := [197, 0, 26, 2, 181, 0, 46, 42, 17, 0, 160, 5, 197, 0, 26, 2, 181, 0, 49, 42, 16, 20, 5]
abbrev dktX6_init_5 : List UInt8 := dkwX6_init_5 ++ dktX6_init_6
def dkwX6_init_4 : List UInt8 := [197, 0, 26, 2, 181, 0, 40, 42, 16, 12, 5, 197, 0, 26, 2, 181, 0, 43, 42, 17, 0, 160, 5]
abbrev dktX6_init_4 : List UInt8 := dkwX6_init_4 ++ dktX6_init_5
def dkwX6_init_3 : List UInt8 := [197, 0, 26, 2, 181, 0, 34, 42, 16, 20, 5, 197, 0, 26, 2, 181, 0, 37, 42, 16, 12, 5]
abbrev dktX6_init_3 : List UInt8 := dkwX6_init_3 ++ dktX6_init_4
def dkwX6_init_2 : List UInt8 := [197, 0, 26, 2, 181, 0, 28, 42, 16, 7, 6, 197, 0, 26, 2, 181, 0, 31, 42, 16, 20, 5]
abbrev dktX6_init_2 : List UInt8 := dkwX6_init_2 ++ dktX6_init_3
def dkwX6_init_1 : List UInt8 := [181, 0, 17, 42, 7, 188, 10, 181, 0, 20, 42, 7, 188, 10, 181, 0, 23, 42, 16, 7, 6]
abbrev dktX6_init_1 : List UInt8 := dkwX6_init_1 ++ dktX6_init_2
def dkwX6_init_0 : List UInt8 := [42, 183, 0, 1, 42, 2, 181, 0, 9, 42, 17, 2, 88, 188, 10, 181, 0, 13, 42, 5, 188, 10]
abbrev dktX6_init_0 : List UInt8 := dkwX6_init_0 ++ dktX6_init_1
theorem dksX6_init_0 : cX6_init.data.toList.drop 0 = dktX6_init_0 := by decide +kernel
theorem dksX6_init_1 : cX6_init.data.toList.drop 22 = dktX6_init_1 := dk_seg dksX6_init_0 22 rfl rfl
theorem dksX6_init_2 : cX6_init.data.toList.drop 43 = dktX6_init_2 := dk_seg dksX6_init_1 21 rfl rfl
theorem dksX6_init_3 : cX6_init.data.toList.drop 65 = dktX6_init_3 := dk_seg dksX6_init_2 22 rfl rfl
theorem dksX6_init_4 : cX6_init.data.toList.drop 87 = dktX6_init_4 := dk_seg dksX6_init_3 22 rfl rfl
theorem dksX6_init_5 : cX6_init.data.toList.drop 110 = dktX6_init_5 := dk_seg dksX6_init_4 23 rfl rfl
theorem dksX6_init_6 : cX6_init.data.toList.drop 133 = dktX6_init_6 := dk_seg dksX6_init_5 23 rfl rfl
theorem dksX6_init_7 : cX6_init.data.toList.drop 157 = dktX6_init_7 := dk_seg dksX6_init_6 24 rfl rfl
theorem dksX6_init_8 : cX6_init.data.toList.drop 180 = dktX6_init_8 := dk_seg dksX6_init_7 23 rfl rfl
theorem dksX6_init_9 : cX6_init.data.toList.drop 204 = dktX6_init_9 := dk_seg dksX6_init_8 24 rfl rfl
theorem dksX6_init_10 : cX6_init.data.toList.drop 228 = dktX6_init_10 := dk_seg dksX6_init_9 24 rfl rfl
theorem dX6_init_0 : decode cX6_init 0 = .ok (.aload_n 0, 1) := dk_42 (dk_at dksX6_init_0 0 rfl rfl)
theorem dX6_init_1 : decode cX6_init 1 = .ok (.invokespecial 1, 3) := dk_183 0 1 (dk_at dksX6_init_0 1 rfl rfl)
theorem dX6_init_4 : decode cX6_init 4 = .ok (.aload_n 0, 1) := dk_42 (dk_at dksX6_init_0 4 rfl rfl)
theorem dX6_init_5 : decode cX6_init 5 = .ok (.iconst (-1), 1) := dk_2 (dk_at dksX6_init_0 5 rfl rfl)
theorem dX6_init_6 : decode cX6_init 6 = .ok (.putfield 9, 3) := dk_181 0 9 (dk_at dksX6_init_0 6 rfl rfl)
theorem dX6_init_9 : decode cX6_init 9 = .ok (.aload_n 0, 1) := dk_42 (dk_at dksX6_init_0 9 rfl rfl)
theorem dX6_init_10 : decode cX6_init 10 = .ok (.sipush 600, 3) := dk_17 2 88 (dk_at dksX6_init_0 10 rfl rfl)
theorem dX6_init_13 : decode cX6_init 13 = .ok (.newarray .int, 2) := dk_188_10 (dk_at dksX6_init_0 13 rfl rfl)
theorem dX6_init_15 : decode cX6_init 15 = .ok (.putfield 13, 3) := dk_181 0 13 (dk_at dksX6_init_0 15 rfl rfl)
theorem dX6_init_18 : decode cX6_init 18 = .ok (.aload_n 0, 1) := dk_42 (dk_at dksX6_init_0 18 rfl rfl)
theorem dX6_init_19 : decode cX6_init 19 = .ok (.iconst 2, 1) := dk_5 (dk_at dksX6_init_0 19 rfl rfl)
theorem dX6_init_20 : decode cX6_init 20 = .ok (.newarray .int, 2) := dk_188_10 (dk_at dksX6_init_0 20 rfl rfl)
theorem dX6_init_22 : decode cX6_init 22 = .ok (.putfield 17, 3) := dk_181 0 17 (dk_at dksX6_init_1 0 rfl rfl)
theorem dX6_init_25 : decode cX6_init 25 = .ok (.aload_n 0, 1) := dk_42 (dk_at dksX6_init_1 3 rfl rfl)
theorem dX6_init_26 : decode cX6_init 26 = .ok (.iconst 4, 1) := dk_7 (dk_at dksX6_init_1 4 rfl rfl)
theorem dX6_init_27 : decode cX6_init 27 = .ok (.newarray .int, 2) := dk_188_10 (dk_at dksX6_init_1 5 rfl rfl)
theorem dX6_init_29 : decode cX6_init 29 = .ok (.putfield 20, 3) := dk_181 0 20 (dk_at dksX6_init_1 7 rfl rfl)
theorem dX6_init_32 : decode cX6_init 32 = .ok (.aload_n 0, 1) := dk_42 (dk_at dksX6_init_1 10 rfl rfl)
theorem dX6_init_33 : decode cX6_init 33 = .ok (.iconst 4, 1) := dk_7 (dk_at dksX6_init_1 11 rfl rfl)
theorem dX6_init_34 : decode cX6_init 34 = .ok (.newarray .int, 2) := dk_188_10 (dk_at dksX6_init_1 12 rfl rfl)
theorem dX6_init_36 : decode cX6_init 36 = .ok (.putfield 23, 3) := dk_181 0 23 (dk_at dksX6_init_1 14 rfl rfl)
theorem dX6_init_39 : decode cX6_init 39 = .ok (.aload_n 0, 1) := dk_42 (dk_at dksX6_init_1 17 rfl rfl)
theorem dX6_init_40 : decode cX6_init 40 = .ok (.bipush 7, 2) := dk_16 7 (dk_at dksX6_init_1 18 rfl rfl)
theorem dX6_init_42 : decode cX6_init 42 = .ok (.iconst 3, 1) := dk_6 (dk_at dksX6_init_1 20 rfl rfl)
theorem dX6_init_43 : decode cX6_init 43 = .ok (.multianewarray 26 2, 4) := by decide +kernel
theorem dX6_init_47 : decode cX6_init 47 = .ok (.putfield 28, 3) := dk_181 0 28 (dk_at dksX6_init_2 4 rfl rfl)
theorem dX6_init_50 : decode cX6_init 50 = .ok (.aload_n 0, 1) := dk_42 (dk_at dksX6_init_2 7 rfl rfl)
theorem dX6_init_51 : decode cX6_init 51 = .ok (.bipush 7, 2) := dk_16 7 (dk_at dksX6_init_2 8 rfl rfl)
theorem dX6_init_53 : decode cX6_init 53 = .ok (.iconst 3, 1) := dk_6 (dk_at dksX6_init_2 10 rfl rfl)
theorem dX6_init_54 : decode cX6_init 54 = .ok (.multianewarray 26 2, 4) := by decide +kernel
theorem dX6_init_58 : decode cX6_init 58 = .ok (.putfield 31, 3) := dk_181 0 31 (dk_at dksX6_init_2 15 rfl rfl)
theorem dX6_init_61 : decode cX6_init 61 = .ok (.aload_n 0, 1) := dk_42 (dk_at dksX6_init_2 18 rfl rfl)
theorem dX6_init_62 : decode cX6_init 62 = .ok (.bipush 20, 2) := dk_16 20 (dk_at dksX6_init_2 19 rfl rfl)
theorem dX6_init_64 : decode cX6_init 64 = .ok (.iconst 2, 1) := dk_5 (dk_at dksX6_init_2 21 rfl rfl)
theorem dX6_init_65 : decode cX6_init 65 = .ok (.multianewarray 26 2, 4) := by decide +kernel
theorem dX6_init_69 : decode cX6_init 69 = .ok (.putfield 34, 3) := dk_181 0 34 (dk_at dksX6_init_3 4 rfl rfl)
theorem dX6_init_72 : decode cX6_init 72 = .ok (.aload_n 0, 1) := dk_42 (dk_at dksX6_init_3 7 rfl rfl)
theorem dX6_init_73 : decode cX6_init 73 = .ok (.bipush 20, 2) := dk_16 20 (dk_at dksX6_init_3 8 rfl rfl)
theorem dX6_init_75 : decode cX6_init 75 = .ok (.iconst 2, 1) := dk_5 (dk_at dksX6_init_3 10 rfl rfl)
theorem dX6_init_76 : decode cX6_init 76 = .ok (.multianewarray 26 2, 4) := by decide +kernel
theorem dX6_init_80 : decode cX6_init 80 = .ok (.putfield 37, 3) := dk_181 0 37 (dk_at dksX6_init_3 15 rfl rfl)
theorem dX6_init_83 : decode cX6_init 83 = .ok (.aload_n 0, 1) := dk_42 (dk_at dksX6_init_3 18 rfl rfl)
theorem dX6_init_84 : decode cX6_init 84 = .ok (.bipush 12, 2) := dk_16 12 (dk_at dksX6_init_3 19 rfl rfl)
theorem dX6_init_86 : decode cX6_init 86 = .ok (.iconst 2, 1) := dk_5 (dk_at dksX6_init_3 21 rfl rfl)
theorem dX6_init_87 : decode cX6_init 87 = .ok (.multianewarray 26 2, 4) := by decide +kernel
theorem dX6_init_91 : decode cX6_init 91 = .ok (.putfield 40, 3) := dk_181 0 40 (dk_at dksX6_init_4 4 rfl rfl)
theorem dX6_init_94 : decode cX6_init 94 = .ok (.aload_n 0, 1) := dk_42 (dk_at dksX6_init_4 7 rfl rfl)
theorem dX6_init_95 : decode cX6_init 95 = .ok (.bipush 12, 2) := dk_16 12 (dk_at dksX6_init_4 8 rfl rfl)
theorem dX6_init_97 : decode cX6_init 97 = .ok (.iconst 2, 1) := dk_5 (dk_at dksX6_init_4 10 rfl rfl)
theorem dX6_init_98 : decode cX6_init 98 = .ok (.multianewarray 26 2, 4) := by decide +kernel
theorem dX6_init_102 : decode cX6_init 102 = .ok (.putfield 43, 3) := dk_181 0 43 (dk_at dksX6_init_4 15 rfl rfl)
theorem dX6_init_105 : decode cX6_init 105 = .ok (.aload_n 0, 1) := dk_42 (dk_at dksX6_init_4 18 rfl rfl)
theorem dX6_init_106 : decode cX6_init 106 = .ok (.sipush 160, 3) := dk_17 0 160 (dk_at dksX6_init_4 19 rfl rfl)
theorem dX6_init_109 : decode cX6_init 109 = .ok (.iconst 2, 1) := dk_5 (dk_at dksX6_init_4 22 rfl rfl)
theorem dX6_init_110 : decode cX6_init 110 = .ok (.multianewarray 26 2, 4) := by decide +kernel
theorem dX6_init_114 : decode cX6_init 114 = .ok (.putfield 46, 3) := dk_181 0 46 (dk_at dksX6_init_5 4 rfl rfl)
theorem dX6_init_117 : decode cX6_init 117 = .ok (.aload_n 0, 1) := dk_42 (dk_at dksX6_init_5 7 rfl rfl)
theorem dX6_init_118 : decode cX6_init 118 = .ok (.sipush 160, 3) := dk_17 0 160 (dk_at dksX6_init_5 8 rfl rfl)
theorem dX6_init_121 : decode cX6_init 121 = .ok (.iconst 2, 1) := dk_5 (dk_at dksX6_init_5 11 rfl rfl)
theorem dX6_init_122 : decode cX6_init 122 = .ok (.multianewarray 26 2, 4) := by decide +kernel
theorem dX6_init_126 : decode cX6_init 126 = .ok (.putfield 49, 3) := dk_181 0 49 (dk_at dksX6_init_5 16 rfl rfl)
theorem dX6_init_129 : decode cX6_init 129 = .ok (.aload_n 0, 1) := dk_42 (dk_at dksX6_init_5 19 rfl rfl)
theorem dX6_init_130 : decode cX6_init 130 = .ok (.bipush 20, 2) := dk_16 20 (dk_at dksX6_init_5 20 rfl rfl)
theorem dX6_init_132 : decode cX6_init 132 = .ok (.iconst 2, 1) := dk_5 (dk_at dksX6_init_5 22 rfl rfl)
theorem dX6_init_133 : decode cX6_init 133 = .ok (.multianewarray 26 2, 4) := by decide +kernel
theorem dX6_init_137 : decode cX6_init 137 = .ok (.putfield 52, 3) := dk_181 0 52 (dk_at dksX6_init_6 4 rfl rfl)
theorem dX6_init_140 : decode cX6_init 140 = .ok (.aload_n 0, 1) := dk_42 (dk_at dksX6_init_6 7 rfl rfl)
theorem dX6_init_141 : decode cX6_init 141 = .ok (.bipush 20, 2) := dk_16 20 (dk_at dksX6_init_6 8 rfl rfl)
theorem dX6_init_143 : decode cX6_init 143 = .ok (.iconst 2, 1) := dk_5 (dk_at dksX6_init_6 10 rfl rfl)
theorem dX6_init_144 : decode cX6_init 144 = .ok (.multianewarray 26 2, 4) := by decide +kernel
theorem dX6_init_148 : decode cX6_init 148 = .ok (.putfield 55, 3) := dk_181 0 55 (dk_at dksX6_init_6 15 rfl rfl)
theorem dX6_init_151 : decode cX6_init 151 = .ok (.aload_n 0, 1) := dk_42 (dk_at dksX6_init_6 18 rfl rfl)
theorem dX6_init_152 : decode cX6_init 152 = .ok (.sipush 160, 3) := dk_17 0 160 (dk_at dksX6_init_6 19 rfl rfl)
theorem dX6_init_155 : decode cX6_init 155 = .ok (.newarray .int, 2) := dk_188_10 (dk_at dksX6_init_6 22 rfl rfl)
theorem dX6_init_157 : decode cX6_init 157 = .ok (.putfield 58, 3) := dk_181 0 58 (dk_at dksX6_init_7 0 rfl rfl)
theorem dX6_init_160 : decode cX6_init 160 = .ok (.aload_n 0, 1) := dk_42 (dk_at dksX6_init_7 3 rfl rfl)
theorem dX6_init_161 : decode cX6_init 161 = .ok (.bipush 8, 2) := dk_16 8 (dk_at dksX6_init_7 4 rfl rfl)
theorem dX6_init_163 : decode cX6_init 163 = .ok (.newarray .int, 2) := dk_188_10 (dk_at dksX6_init_7 6 rfl rfl)
theorem dX6_init_165 : decode cX6_init 165 = .ok (.putfield 61, 3) := dk_181 0 61 (dk_at dksX6_init_7 8 rfl rfl)
theorem dX6_init_168 : decode cX6_init 168 = .ok (.aload_n 0, 1) := dk_42 (dk_at dksX6_init_7 11 rfl rfl)
theorem dX6_init_169 : decode cX6_init 169 = .ok (.bipush 80, 2) := dk_16 80 (dk_at dksX6_init_7 12 rfl rfl)
theorem dX6_init_171 : decode cX6_init 171 = .ok (.iconst 4, 1) := dk_7 (dk_at dksX6_init_7 14 rfl rfl)
theorem dX6_init_172 : decode cX6_init 172 = .ok (.multianewarray 26 2, 4) := by decide +kernel
theorem dX6_init_176 : decode cX6_init 176 = .ok (.putfield 64, 3) := dk_181 0 64 (dk_at dksX6_init_7 19 rfl rfl)
theorem dX6_init_179 : decode cX6_init 179 = .ok (.aload_n 0, 1) := dk_42 (dk_at dksX6_init_7 22 rfl rfl)
theorem dX6_init_180 : decode cX6_init 180 = .ok (.bipush 57, 2) := dk_16 57 (dk_at dksX6_init_8 0 rfl rfl)
theorem dX6_init_182 : decode cX6_init 182 = .ok (.newarray .int, 2) := dk_188_10 (dk_at dksX6_init_8 2 rfl rfl)
theorem dX6_init_184 : decode cX6_init 184 = .ok (.putfield 67, 3) := dk_181 0 67 (dk_at dksX6_init_8 4 rfl rfl)
theorem dX6_init_187 : decode cX6_init 187 = .ok (.aload_n 0, 1) := dk_42 (dk_at dksX6_init_8 7 rfl rfl)
theorem dX6_init_188 : decode cX6_init 188 = .ok (.bipush 57, 2) := dk_16 57 (dk_at dksX6_init_8 8 rfl rfl)
theorem dX6_init_190 : decode cX6_init 190 = .ok (.newarray .int, 2) := dk_188_10 (dk_at dksX6_init_8 10 rfl rfl)
theorem dX6_init_192 : decode cX6_init 192 = .ok (.putfield 70, 3) := dk_181 0 70 (dk_at dksX6_init_8 12 rfl rfl)
theorem dX6_init_195 : decode cX6_init 195 = .ok (.aload_n 0, 1) := dk_42 (dk_at dksX6_init_8 15 rfl rfl)
theorem dX6_init_196 : decode cX6_init 196 = .ok (.bipush 16, 2) := dk_16 16 (dk_at dksX6_init_8 16 rfl rfl)
theorem dX6_init_198 : decode cX6_init 198 = .ok (.bipush 57, 2) := dk_16 57 (dk_at dksX6_init_8 18 rfl rfl)
theorem dX6_init_200 : decode cX6_init 200 = .ok (.multianewarray 26 2, 4) := by decide +kernel
theorem dX6_init_204 : decode cX6_init 204 = .ok (.putfield 73, 3) := dk_181 0 73 (dk_at dksX6_init_9 0 rfl rfl)
theorem dX6_init_207 : decode cX6_init 207 = .ok (.aload_n 0, 1) := dk_42 (dk_at dksX6_init_9 3 rfl rfl)
theorem dX6_init_208 : decode cX6_init 208 = .ok (.iconst 3, 1) := dk_6 (dk_at dksX6_init_9 4 rfl rfl)
theorem dX6_init_209 : decode cX6_init 209 = .ok (.sipush 970, 3) := dk_17 3 202 (dk_at dksX6_init_9 5 rfl rfl)
theorem dX6_init_212 : decode cX6_init 212 = .ok (.multianewarray 26 2, 4) := by decide +kernel
theorem dX6_init_216 : decode cX6_init 216 = .ok (.putfield 76, 3) := dk_181 0 76 (dk_at dksX6_init_9 12 rfl rfl)
theorem dX6_init_219 : decode cX6_init 219 = .ok (.aload_n 0, 1) := dk_42 (dk_at dksX6_init_9 15 rfl rfl)
theorem dX6_init_220 : decode cX6_init 220 = .ok (.bipush 7, 2) := dk_16 7 (dk_at dksX6_init_9 16 rfl rfl)
theorem dX6_init_222 : decode cX6_init 222 = .ok (.newarray .int, 2) := dk_188_10 (dk_at dksX6_init_9 18 rfl rfl)
theorem dX6_init_224 : decode cX6_init 224 = .ok (.putfield 79, 3) := dk_181 0 79 (dk_at dksX6_init_9 20 rfl rfl)
theorem dX6_init_227 : decode cX6_init 227 = .ok (.aload_n 0, 1) := dk_42 (dk_at dksX6_init_9 23 rfl rfl)
theorem dX6_init_228 : decode cX6_init 228 = .ok (.bipush 7, 2) := dk_16 7 (dk_at dksX6_init_10 0 rfl rfl)
theorem dX6_init_230 : decode cX6_init 230 = .ok (.newarray .int, 2) := dk_188_10 (dk_at dksX6_init_10 2 rfl rfl)
theorem dX6_init_232 : decode cX6_init 232 = .ok (.putfield 82, 3) := dk_181 0 82 (dk_at dksX6_init_10 4 rfl rfl)
theorem dX6_init_235 : decode cX6_init 235 = .ok (.aload_n 0, 1) := dk_42 (dk_at dksX6_init_10 7 rfl rfl)
theorem dX6_init_236 : decode cX6_init 236 = .ok (.bipush 14, 2) := dk_16 14 (dk_at dksX6_init_10 8 rfl rfl)
theorem dX6_init_238 : decode cX6_init 238 = .ok (.newarray .long, 2) := dk_188_11 (dk_at dksX6_init_10 10 rfl rfl)
theorem dX6_init_240 : decode cX6_init 240 = .ok (.putfield 85, 3) := dk_181 0 85 (dk_at dksX6_init_10 12 rfl rfl)
theorem dX6_init_243 : decode cX6_init 243 = .ok (.aload_n 0, 1) := dk_42 (dk_at dksX6_init_10 15 rfl rfl)
theorem dX6_init_244 : decode cX6_init 244 = .ok (.invokevirtual 89, 3) := dk_182 0 89 (dk_at dksX6_init_10 16 rfl rfl)
theorem dX6_init_247 : decode cX6_init 247 = .ok (.aload_n 0, 1) := dk_42 (dk_at dksX6_init_10 19 rfl rfl)
theorem dX6_init_248 : decode cX6_init 248 = .ok (.invokevirtual 92, 3) := dk_182 0 92 (dk_at dksX6_init_10 20 rfl rfl)
theorem dX6_init_251 : decode cX6_init 251 = .ok (.return_, 1) := dk_177 (dk_at dksX6_init_10 23 rfl rfl)
abbrev cX6_tellsNothing : ByteArray := prog_34_method_2_code
def yX6_tellsNothing : MethodName := ⟨RX6, "tellsNothing", "()V"⟩
def dkwX6_tellsNothing_1 : List UInt8 := [6, 8, 79, 177]
abbrev dktX6_tellsNothing_1 : List UInt8 := dkwX6_tellsNothing_1 ++ []
def dkwX6_tellsNothing_0 : List UInt8 := [3, 60, 27, 6, 162, 0, 16, 42, 180, 0, 20, 27, 3, 79, 132, 1, 1, 167, 255, 241, 42, 180, 0, 20]
abbrev dktX6_tellsNothing_0 : List UInt8 := dkwX6_tellsNothing_0 ++ dktX6_tellsNothing_1
theorem dksX6_tellsNothing_0 : cX6_tellsNothing.data.toList.drop 0 = dktX6_tellsNothing_0 := by decide +kernel
theorem dksX6_tellsNothing_1 : cX6_tellsNothing.data.toList.drop 24 = dktX6_tellsNothing_1 := dk_seg dksX6_tellsNothing_0 24 rfl rfl
theorem dX6_tellsNothing_0 : decode cX6_tellsNothing 0 = .ok (.iconst 0, 1) := dk_3 (dk_at dksX6_tellsNothing_0 0 rfl rfl)
theorem dX6_tellsNothing_1 : decode cX6_tellsNothing 1 = .ok (.istore_n 1, 1) := dk_60 (dk_at dksX6_tellsNothing_0 1 rfl rfl)
theorem dX6_tellsNothing_2 : decode cX6_tellsNothing 2 = .ok (.iload_n 1, 1) := dk_27 (dk_at dksX6_tellsNothing_0 2 rfl rfl)
theorem dX6_tellsNothing_3 : decode cX6_tellsNothing 3 = .ok (.iconst 3, 1) := dk_6 (dk_at dksX6_tellsNothing_0 3 rfl rfl)
theorem dX6_tellsNothing_4 : decode cX6_tellsNothing 4 = .ok (.if_icmp .ge 16, 3) := dk_162 0 16 (dk_at dksX6_tellsNothing_0 4 rfl rfl)
theorem dX6_tellsNothing_7 : decode cX6_tellsNothing 7 = .ok (.aload_n 0, 1) := dk_42 (dk_at dksX6_tellsNothing_0 7 rfl rfl)
theorem dX6_tellsNothing_8 : decode cX6_tellsNothing 8 = .ok (.getfield 20, 3) := dk_180 0 20 (dk_at dksX6_tellsNothing_0 8 rfl rfl)
theorem dX6_tellsNothing_11 : decode cX6_tellsNothing 11 = .ok (.iload_n 1, 1) := dk_27 (dk_at dksX6_tellsNothing_0 11 rfl rfl)
theorem dX6_tellsNothing_12 : decode cX6_tellsNothing 12 = .ok (.iconst 0, 1) := dk_3 (dk_at dksX6_tellsNothing_0 12 rfl rfl)
theorem dX6_tellsNothing_13 : decode cX6_tellsNothing 13 = .ok (.iastore, 1) := dk_79 (dk_at dksX6_tellsNothing_0 13 rfl rfl)
theorem dX6_tellsNothing_14 : decode cX6_tellsNothing 14 = .ok (.iinc 1 1, 3) := dk_132 1 1 (dk_at dksX6_tellsNothing_0 14 rfl rfl)
theorem dX6_tellsNothing_17 : decode cX6_tellsNothing 17 = .ok (.goto (-15), 3) := dk_167 255 241 (dk_at dksX6_tellsNothing_0 17 rfl rfl)
theorem dX6_tellsNothing_20 : decode cX6_tellsNothing 20 = .ok (.aload_n 0, 1) := dk_42 (dk_at dksX6_tellsNothing_0 20 rfl rfl)
theorem dX6_tellsNothing_21 : decode cX6_tellsNothing 21 = .ok (.getfield 20, 3) := dk_180 0 20 (dk_at dksX6_tellsNothing_0 21 rfl rfl)
theorem dX6_tellsNothing_24 : decode cX6_tellsNothing 24 = .ok (.iconst 3, 1) := dk_6 (dk_at dksX6_tellsNothing_1 0 rfl rfl)
theorem dX6_tellsNothing_25 : decode cX6_tellsNothing 25 = .ok (.iconst 5, 1) := dk_8 (dk_at dksX6_tellsNothing_1 1 rfl rfl)
theorem dX6_tellsNothing_26 : decode cX6_tellsNothing 26 = .ok (.iastore, 1) := dk_79 (dk_at dksX6_tellsNothing_1 2 rfl rfl)
theorem dX6_tellsNothing_27 : decode cX6_tellsNothing 27 = .ok (.return_, 1) := dk_177 (dk_at dksX6_tellsNothing_1 3 rfl rfl)
abbrev cX6_beginsAnew : ByteArray := prog_34_method_31_code
def yX6_beginsAnew : MethodName := ⟨RX6, "beginsAnew", "()V"⟩
def dkwX6_beginsAnew_7 : List UInt8 := [3, 181, 0, 204, 177]
abbrev dktX6_beginsAnew_7 : List UInt8 := dkwX6_beginsAnew_7 ++ []
def dkwX6_beginsAnew_6 : List UInt8 := [167, 255, 226, 42, 3, 181, 0, 192, 42, 3, 181, 0, 195, 42, 3, 181, 0, 198, 42, 3, 181, 0, 201, 42]
abbrev dktX6_beginsAnew_6 : List UInt8 := dkwX6_beginsAnew_6 ++ dktX6_beginsAnew_7
def dkwX6_beginsAnew_5 : List UInt8 := [162, 0, 26, 42, 180, 0, 67, 16, 35, 27, 96, 42, 180, 0, 37, 27, 50, 3, 46, 79, 132, 1, 1]
abbrev dktX6_beginsAnew_5 : List UInt8 := dkwX6_beginsAnew_5 ++ dktX6_beginsAnew_6
def dkwX6_beginsAnew_4 : List UInt8 := [132, 1, 1, 167, 255, 240, 42, 42, 180, 0, 67, 182, 0, 188, 3, 60, 27, 42, 180, 0, 23, 4, 46]
abbrev dktX6_beginsAnew_4 : List UInt8 := dkwX6_beginsAnew_4 ++ dktX6_beginsAnew_5
def dkwX6_beginsAnew_3 : List UInt8 := [180, 0, 23, 5, 46, 184, 0, 184, 3, 60, 27, 16, 57, 162, 0, 16, 42, 180, 0, 67, 27, 3, 79]
abbrev dktX6_beginsAnew_3 : List UInt8 := dkwX6_beginsAnew_3 ++ dktX6_beginsAnew_4
def dkwX6_beginsAnew_2 : List UInt8 := [42, 180, 0, 37, 42, 180, 0, 23, 4, 46, 184, 0, 184, 42, 180, 0, 40, 42, 180, 0, 43, 42]
abbrev dktX6_beginsAnew_2 : List UInt8 := dkwX6_beginsAnew_2 ++ dktX6_beginsAnew_3
def dkwX6_beginsAnew_1 : List UInt8 := [167, 255, 236, 42, 180, 0, 28, 42, 180, 0, 31, 42, 180, 0, 23, 3, 46, 184, 0, 184, 42, 180, 0, 34]
abbrev dktX6_beginsAnew_1 : List UInt8 := dkwX6_beginsAnew_1 ++ dktX6_beginsAnew_2
def dkwX6_beginsAnew_0 : List UInt8 := [3, 60, 27, 7, 162, 0, 21, 42, 180, 0, 23, 27, 42, 180, 0, 20, 27, 46, 79, 132, 1, 1]
abbrev dktX6_beginsAnew_0 : List UInt8 := dkwX6_beginsAnew_0 ++ dktX6_beginsAnew_1
theorem dksX6_beginsAnew_0 : cX6_beginsAnew.data.toList.drop 0 = dktX6_beginsAnew_0 := by decide +kernel
theorem dksX6_beginsAnew_1 : cX6_beginsAnew.data.toList.drop 22 = dktX6_beginsAnew_1 := dk_seg dksX6_beginsAnew_0 22 rfl rfl
theorem dksX6_beginsAnew_2 : cX6_beginsAnew.data.toList.drop 46 = dktX6_beginsAnew_2 := dk_seg dksX6_beginsAnew_1 24 rfl rfl
theorem dksX6_beginsAnew_3 : cX6_beginsAnew.data.toList.drop 68 = dktX6_beginsAnew_3 := dk_seg dksX6_beginsAnew_2 22 rfl rfl
theorem dksX6_beginsAnew_4 : cX6_beginsAnew.data.toList.drop 91 = dktX6_beginsAnew_4 := dk_seg dksX6_beginsAnew_3 23 rfl rfl
theorem dksX6_beginsAnew_5 : cX6_beginsAnew.data.toList.drop 114 = dktX6_beginsAnew_5 := dk_seg dksX6_beginsAnew_4 23 rfl rfl
theorem dksX6_beginsAnew_6 : cX6_beginsAnew.data.toList.drop 137 = dktX6_beginsAnew_6 := dk_seg dksX6_beginsAnew_5 23 rfl rfl
theorem dksX6_beginsAnew_7 : cX6_beginsAnew.data.toList.drop 161 = dktX6_beginsAnew_7 := dk_seg dksX6_beginsAnew_6 24 rfl rfl
theorem dX6_beginsAnew_0 : decode cX6_beginsAnew 0 = .ok (.iconst 0, 1) := dk_3 (dk_at dksX6_beginsAnew_0 0 rfl rfl)
theorem dX6_beginsAnew_1 : decode cX6_beginsAnew 1 = .ok (.istore_n 1, 1) := dk_60 (dk_at dksX6_beginsAnew_0 1 rfl rfl)
theorem dX6_beginsAnew_2 : decode cX6_beginsAnew 2 = .ok (.iload_n 1, 1) := dk_27 (dk_at dksX6_beginsAnew_0 2 rfl rfl)
theorem dX6_beginsAnew_3 : decode cX6_beginsAnew 3 = .ok (.iconst 4, 1) := dk_7 (dk_at dksX6_beginsAnew_0 3 rfl rfl)
theorem dX6_beginsAnew_4 : decode cX6_beginsAnew 4 = .ok (.if_icmp .ge 21, 3) := dk_162 0 21 (dk_at dksX6_beginsAnew_0 4 rfl rfl)
theorem dX6_beginsAnew_7 : decode cX6_beginsAnew 7 = .ok (.aload_n 0, 1) := dk_42 (dk_at dksX6_beginsAnew_0 7 rfl rfl)
theorem dX6_beginsAnew_8 : decode cX6_beginsAnew 8 = .ok (.getfield 23, 3) := dk_180 0 23 (dk_at dksX6_beginsAnew_0 8 rfl rfl)
theorem dX6_beginsAnew_11 : decode cX6_beginsAnew 11 = .ok (.iload_n 1, 1) := dk_27 (dk_at dksX6_beginsAnew_0 11 rfl rfl)
theorem dX6_beginsAnew_12 : decode cX6_beginsAnew 12 = .ok (.aload_n 0, 1) := dk_42 (dk_at dksX6_beginsAnew_0 12 rfl rfl)
theorem dX6_beginsAnew_13 : decode cX6_beginsAnew 13 = .ok (.getfield 20, 3) := dk_180 0 20 (dk_at dksX6_beginsAnew_0 13 rfl rfl)
theorem dX6_beginsAnew_16 : decode cX6_beginsAnew 16 = .ok (.iload_n 1, 1) := dk_27 (dk_at dksX6_beginsAnew_0 16 rfl rfl)
theorem dX6_beginsAnew_17 : decode cX6_beginsAnew 17 = .ok (.iaload, 1) := dk_46 (dk_at dksX6_beginsAnew_0 17 rfl rfl)
theorem dX6_beginsAnew_18 : decode cX6_beginsAnew 18 = .ok (.iastore, 1) := dk_79 (dk_at dksX6_beginsAnew_0 18 rfl rfl)
theorem dX6_beginsAnew_19 : decode cX6_beginsAnew 19 = .ok (.iinc 1 1, 3) := dk_132 1 1 (dk_at dksX6_beginsAnew_0 19 rfl rfl)
theorem dX6_beginsAnew_22 : decode cX6_beginsAnew 22 = .ok (.goto (-20), 3) := dk_167 255 236 (dk_at dksX6_beginsAnew_1 0 rfl rfl)
theorem dX6_beginsAnew_25 : decode cX6_beginsAnew 25 = .ok (.aload_n 0, 1) := dk_42 (dk_at dksX6_beginsAnew_1 3 rfl rfl)
theorem dX6_beginsAnew_26 : decode cX6_beginsAnew 26 = .ok (.getfield 28, 3) := dk_180 0 28 (dk_at dksX6_beginsAnew_1 4 rfl rfl)
theorem dX6_beginsAnew_29 : decode cX6_beginsAnew 29 = .ok (.aload_n 0, 1) := dk_42 (dk_at dksX6_beginsAnew_1 7 rfl rfl)
theorem dX6_beginsAnew_30 : decode cX6_beginsAnew 30 = .ok (.getfield 31, 3) := dk_180 0 31 (dk_at dksX6_beginsAnew_1 8 rfl rfl)
theorem dX6_beginsAnew_33 : decode cX6_beginsAnew 33 = .ok (.aload_n 0, 1) := dk_42 (dk_at dksX6_beginsAnew_1 11 rfl rfl)
theorem dX6_beginsAnew_34 : decode cX6_beginsAnew 34 = .ok (.getfield 23, 3) := dk_180 0 23 (dk_at dksX6_beginsAnew_1 12 rfl rfl)
theorem dX6_beginsAnew_37 : decode cX6_beginsAnew 37 = .ok (.iconst 0, 1) := dk_3 (dk_at dksX6_beginsAnew_1 15 rfl rfl)
theorem dX6_beginsAnew_38 : decode cX6_beginsAnew 38 = .ok (.iaload, 1) := dk_46 (dk_at dksX6_beginsAnew_1 16 rfl rfl)
theorem dX6_beginsAnew_39 : decode cX6_beginsAnew 39 = .ok (.invokestatic 184, 3) := dk_184 0 184 (dk_at dksX6_beginsAnew_1 17 rfl rfl)
theorem dX6_beginsAnew_42 : decode cX6_beginsAnew 42 = .ok (.aload_n 0, 1) := dk_42 (dk_at dksX6_beginsAnew_1 20 rfl rfl)
theorem dX6_beginsAnew_43 : decode cX6_beginsAnew 43 = .ok (.getfield 34, 3) := dk_180 0 34 (dk_at dksX6_beginsAnew_1 21 rfl rfl)
theorem dX6_beginsAnew_46 : decode cX6_beginsAnew 46 = .ok (.aload_n 0, 1) := dk_42 (dk_at dksX6_beginsAnew_2 0 rfl rfl)
theorem dX6_beginsAnew_47 : decode cX6_beginsAnew 47 = .ok (.getfield 37, 3) := dk_180 0 37 (dk_at dksX6_beginsAnew_2 1 rfl rfl)
theorem dX6_beginsAnew_50 : decode cX6_beginsAnew 50 = .ok (.aload_n 0, 1) := dk_42 (dk_at dksX6_beginsAnew_2 4 rfl rfl)
theorem dX6_beginsAnew_51 : decode cX6_beginsAnew 51 = .ok (.getfield 23, 3) := dk_180 0 23 (dk_at dksX6_beginsAnew_2 5 rfl rfl)
theorem dX6_beginsAnew_54 : decode cX6_beginsAnew 54 = .ok (.iconst 1, 1) := dk_4 (dk_at dksX6_beginsAnew_2 8 rfl rfl)
theorem dX6_beginsAnew_55 : decode cX6_beginsAnew 55 = .ok (.iaload, 1) := dk_46 (dk_at dksX6_beginsAnew_2 9 rfl rfl)
theorem dX6_beginsAnew_56 : decode cX6_beginsAnew 56 = .ok (.invokestatic 184, 3) := dk_184 0 184 (dk_at dksX6_beginsAnew_2 10 rfl rfl)
theorem dX6_beginsAnew_59 : decode cX6_beginsAnew 59 = .ok (.aload_n 0, 1) := dk_42 (dk_at dksX6_beginsAnew_2 13 rfl rfl)
theorem dX6_beginsAnew_60 : decode cX6_beginsAnew 60 = .ok (.getfield 40, 3) := dk_180 0 40 (dk_at dksX6_beginsAnew_2 14 rfl rfl)
theorem dX6_beginsAnew_63 : decode cX6_beginsAnew 63 = .ok (.aload_n 0, 1) := dk_42 (dk_at dksX6_beginsAnew_2 17 rfl rfl)
theorem dX6_beginsAnew_64 : decode cX6_beginsAnew 64 = .ok (.getfield 43, 3) := dk_180 0 43 (dk_at dksX6_beginsAnew_2 18 rfl rfl)
theorem dX6_beginsAnew_67 : decode cX6_beginsAnew 67 = .ok (.aload_n 0, 1) := dk_42 (dk_at dksX6_beginsAnew_2 21 rfl rfl)
theorem dX6_beginsAnew_68 : decode cX6_beginsAnew 68 = .ok (.getfield 23, 3) := dk_180 0 23 (dk_at dksX6_beginsAnew_3 0 rfl rfl)
theorem dX6_beginsAnew_71 : decode cX6_beginsAnew 71 = .ok (.iconst 2, 1) := dk_5 (dk_at dksX6_beginsAnew_3 3 rfl rfl)
theorem dX6_beginsAnew_72 : decode cX6_beginsAnew 72 = .ok (.iaload, 1) := dk_46 (dk_at dksX6_beginsAnew_3 4 rfl rfl)
theorem dX6_beginsAnew_73 : decode cX6_beginsAnew 73 = .ok (.invokestatic 184, 3) := dk_184 0 184 (dk_at dksX6_beginsAnew_3 5 rfl rfl)
theorem dX6_beginsAnew_76 : decode cX6_beginsAnew 76 = .ok (.iconst 0, 1) := dk_3 (dk_at dksX6_beginsAnew_3 8 rfl rfl)
theorem dX6_beginsAnew_77 : decode cX6_beginsAnew 77 = .ok (.istore_n 1, 1) := dk_60 (dk_at dksX6_beginsAnew_3 9 rfl rfl)
theorem dX6_beginsAnew_78 : decode cX6_beginsAnew 78 = .ok (.iload_n 1, 1) := dk_27 (dk_at dksX6_beginsAnew_3 10 rfl rfl)
theorem dX6_beginsAnew_79 : decode cX6_beginsAnew 79 = .ok (.bipush 57, 2) := dk_16 57 (dk_at dksX6_beginsAnew_3 11 rfl rfl)
theorem dX6_beginsAnew_81 : decode cX6_beginsAnew 81 = .ok (.if_icmp .ge 16, 3) := dk_162 0 16 (dk_at dksX6_beginsAnew_3 13 rfl rfl)
theorem dX6_beginsAnew_84 : decode cX6_beginsAnew 84 = .ok (.aload_n 0, 1) := dk_42 (dk_at dksX6_beginsAnew_3 16 rfl rfl)
theorem dX6_beginsAnew_85 : decode cX6_beginsAnew 85 = .ok (.getfield 67, 3) := dk_180 0 67 (dk_at dksX6_beginsAnew_3 17 rfl rfl)
theorem dX6_beginsAnew_88 : decode cX6_beginsAnew 88 = .ok (.iload_n 1, 1) := dk_27 (dk_at dksX6_beginsAnew_3 20 rfl rfl)
theorem dX6_beginsAnew_89 : decode cX6_beginsAnew 89 = .ok (.iconst 0, 1) := dk_3 (dk_at dksX6_beginsAnew_3 21 rfl rfl)
theorem dX6_beginsAnew_90 : decode cX6_beginsAnew 90 = .ok (.iastore, 1) := dk_79 (dk_at dksX6_beginsAnew_3 22 rfl rfl)
theorem dX6_beginsAnew_91 : decode cX6_beginsAnew 91 = .ok (.iinc 1 1, 3) := dk_132 1 1 (dk_at dksX6_beginsAnew_4 0 rfl rfl)
theorem dX6_beginsAnew_94 : decode cX6_beginsAnew 94 = .ok (.goto (-16), 3) := dk_167 255 240 (dk_at dksX6_beginsAnew_4 3 rfl rfl)
theorem dX6_beginsAnew_97 : decode cX6_beginsAnew 97 = .ok (.aload_n 0, 1) := dk_42 (dk_at dksX6_beginsAnew_4 6 rfl rfl)
theorem dX6_beginsAnew_98 : decode cX6_beginsAnew 98 = .ok (.aload_n 0, 1) := dk_42 (dk_at dksX6_beginsAnew_4 7 rfl rfl)
theorem dX6_beginsAnew_99 : decode cX6_beginsAnew 99 = .ok (.getfield 67, 3) := dk_180 0 67 (dk_at dksX6_beginsAnew_4 8 rfl rfl)
theorem dX6_beginsAnew_102 : decode cX6_beginsAnew 102 = .ok (.invokevirtual 188, 3) := dk_182 0 188 (dk_at dksX6_beginsAnew_4 11 rfl rfl)
theorem dX6_beginsAnew_105 : decode cX6_beginsAnew 105 = .ok (.iconst 0, 1) := dk_3 (dk_at dksX6_beginsAnew_4 14 rfl rfl)
theorem dX6_beginsAnew_106 : decode cX6_beginsAnew 106 = .ok (.istore_n 1, 1) := dk_60 (dk_at dksX6_beginsAnew_4 15 rfl rfl)
theorem dX6_beginsAnew_107 : decode cX6_beginsAnew 107 = .ok (.iload_n 1, 1) := dk_27 (dk_at dksX6_beginsAnew_4 16 rfl rfl)
theorem dX6_beginsAnew_108 : decode cX6_beginsAnew 108 = .ok (.aload_n 0, 1) := dk_42 (dk_at dksX6_beginsAnew_4 17 rfl rfl)
theorem dX6_beginsAnew_109 : decode cX6_beginsAnew 109 = .ok (.getfield 23, 3) := dk_180 0 23 (dk_at dksX6_beginsAnew_4 18 rfl rfl)
theorem dX6_beginsAnew_112 : decode cX6_beginsAnew 112 = .ok (.iconst 1, 1) := dk_4 (dk_at dksX6_beginsAnew_4 21 rfl rfl)
theorem dX6_beginsAnew_113 : decode cX6_beginsAnew 113 = .ok (.iaload, 1) := dk_46 (dk_at dksX6_beginsAnew_4 22 rfl rfl)
theorem dX6_beginsAnew_114 : decode cX6_beginsAnew 114 = .ok (.if_icmp .ge 26, 3) := dk_162 0 26 (dk_at dksX6_beginsAnew_5 0 rfl rfl)
theorem dX6_beginsAnew_117 : decode cX6_beginsAnew 117 = .ok (.aload_n 0, 1) := dk_42 (dk_at dksX6_beginsAnew_5 3 rfl rfl)
theorem dX6_beginsAnew_118 : decode cX6_beginsAnew 118 = .ok (.getfield 67, 3) := dk_180 0 67 (dk_at dksX6_beginsAnew_5 4 rfl rfl)
theorem dX6_beginsAnew_121 : decode cX6_beginsAnew 121 = .ok (.bipush 35, 2) := dk_16 35 (dk_at dksX6_beginsAnew_5 7 rfl rfl)
theorem dX6_beginsAnew_123 : decode cX6_beginsAnew 123 = .ok (.iload_n 1, 1) := dk_27 (dk_at dksX6_beginsAnew_5 9 rfl rfl)
theorem dX6_beginsAnew_124 : decode cX6_beginsAnew 124 = .ok (.iadd, 1) := dk_96 (dk_at dksX6_beginsAnew_5 10 rfl rfl)
theorem dX6_beginsAnew_125 : decode cX6_beginsAnew 125 = .ok (.aload_n 0, 1) := dk_42 (dk_at dksX6_beginsAnew_5 11 rfl rfl)
theorem dX6_beginsAnew_126 : decode cX6_beginsAnew 126 = .ok (.getfield 37, 3) := dk_180 0 37 (dk_at dksX6_beginsAnew_5 12 rfl rfl)
theorem dX6_beginsAnew_129 : decode cX6_beginsAnew 129 = .ok (.iload_n 1, 1) := dk_27 (dk_at dksX6_beginsAnew_5 15 rfl rfl)
theorem dX6_beginsAnew_130 : decode cX6_beginsAnew 130 = .ok (.aaload, 1) := dk_50 (dk_at dksX6_beginsAnew_5 16 rfl rfl)
theorem dX6_beginsAnew_131 : decode cX6_beginsAnew 131 = .ok (.iconst 0, 1) := dk_3 (dk_at dksX6_beginsAnew_5 17 rfl rfl)
theorem dX6_beginsAnew_132 : decode cX6_beginsAnew 132 = .ok (.iaload, 1) := dk_46 (dk_at dksX6_beginsAnew_5 18 rfl rfl)
theorem dX6_beginsAnew_133 : decode cX6_beginsAnew 133 = .ok (.iastore, 1) := dk_79 (dk_at dksX6_beginsAnew_5 19 rfl rfl)
theorem dX6_beginsAnew_134 : decode cX6_beginsAnew 134 = .ok (.iinc 1 1, 3) := dk_132 1 1 (dk_at dksX6_beginsAnew_5 20 rfl rfl)
theorem dX6_beginsAnew_137 : decode cX6_beginsAnew 137 = .ok (.goto (-30), 3) := dk_167 255 226 (dk_at dksX6_beginsAnew_6 0 rfl rfl)
theorem dX6_beginsAnew_140 : decode cX6_beginsAnew 140 = .ok (.aload_n 0, 1) := dk_42 (dk_at dksX6_beginsAnew_6 3 rfl rfl)
theorem dX6_beginsAnew_141 : decode cX6_beginsAnew 141 = .ok (.iconst 0, 1) := dk_3 (dk_at dksX6_beginsAnew_6 4 rfl rfl)
theorem dX6_beginsAnew_142 : decode cX6_beginsAnew 142 = .ok (.putfield 192, 3) := dk_181 0 192 (dk_at dksX6_beginsAnew_6 5 rfl rfl)
theorem dX6_beginsAnew_145 : decode cX6_beginsAnew 145 = .ok (.aload_n 0, 1) := dk_42 (dk_at dksX6_beginsAnew_6 8 rfl rfl)
theorem dX6_beginsAnew_146 : decode cX6_beginsAnew 146 = .ok (.iconst 0, 1) := dk_3 (dk_at dksX6_beginsAnew_6 9 rfl rfl)
theorem dX6_beginsAnew_147 : decode cX6_beginsAnew 147 = .ok (.putfield 195, 3) := dk_181 0 195 (dk_at dksX6_beginsAnew_6 10 rfl rfl)
theorem dX6_beginsAnew_150 : decode cX6_beginsAnew 150 = .ok (.aload_n 0, 1) := dk_42 (dk_at dksX6_beginsAnew_6 13 rfl rfl)
theorem dX6_beginsAnew_151 : decode cX6_beginsAnew 151 = .ok (.iconst 0, 1) := dk_3 (dk_at dksX6_beginsAnew_6 14 rfl rfl)
theorem dX6_beginsAnew_152 : decode cX6_beginsAnew 152 = .ok (.putfield 198, 3) := dk_181 0 198 (dk_at dksX6_beginsAnew_6 15 rfl rfl)
theorem dX6_beginsAnew_155 : decode cX6_beginsAnew 155 = .ok (.aload_n 0, 1) := dk_42 (dk_at dksX6_beginsAnew_6 18 rfl rfl)
theorem dX6_beginsAnew_156 : decode cX6_beginsAnew 156 = .ok (.iconst 0, 1) := dk_3 (dk_at dksX6_beginsAnew_6 19 rfl rfl)
theorem dX6_beginsAnew_157 : decode cX6_beginsAnew 157 = .ok (.putfield 201, 3) := dk_181 0 201 (dk_at dksX6_beginsAnew_6 20 rfl rfl)
theorem dX6_beginsAnew_160 : decode cX6_beginsAnew 160 = .ok (.aload_n 0, 1) := dk_42 (dk_at dksX6_beginsAnew_6 23 rfl rfl)
theorem dX6_beginsAnew_161 : decode cX6_beginsAnew 161 = .ok (.iconst 0, 1) := dk_3 (dk_at dksX6_beginsAnew_7 0 rfl rfl)
theorem dX6_beginsAnew_162 : decode cX6_beginsAnew 162 = .ok (.putfield 204, 3) := dk_181 0 204 (dk_at dksX6_beginsAnew_7 1 rfl rfl)
theorem dX6_beginsAnew_165 : decode cX6_beginsAnew 165 = .ok (.return_, 1) := dk_177 (dk_at dksX6_beginsAnew_7 4 rfl rfl)
abbrev cX6_lays : ByteArray := prog_34_method_29_code
def yX6_lays : MethodName := ⟨RX6, "lays", "([[I[[II)V"⟩
def dkwX6_lays_1 : List UInt8 := [42, 29, 50, 21, 4, 46, 79, 132, 4, 1, 167, 255, 232, 132, 3, 1, 167, 255, 218, 177]
abbrev dktX6_lays_1 : List UInt8 := dkwX6_lays_1 ++ []
def dkwX6_lays_0 : List UInt8 := [3, 62, 29, 28, 162, 0, 39, 3, 54, 4, 21, 4, 43, 29, 50, 190, 162, 0, 21, 43, 29, 50, 21, 4]
abbrev dktX6_lays_0 : List UInt8 := dkwX6_lays_0 ++ dktX6_lays_1
theorem dksX6_lays_0 : cX6_lays.data.toList.drop 0 = dktX6_lays_0 := by decide +kernel
theorem dksX6_lays_1 : cX6_lays.data.toList.drop 24 = dktX6_lays_1 := dk_seg dksX6_lays_0 24 rfl rfl
theorem dX6_lays_0 : decode cX6_lays 0 = .ok (.iconst 0, 1) := dk_3 (dk_at dksX6_lays_0 0 rfl rfl)
theorem dX6_lays_1 : decode cX6_lays 1 = .ok (.istore_n 3, 1) := dk_62 (dk_at dksX6_lays_0 1 rfl rfl)
theorem dX6_lays_2 : decode cX6_lays 2 = .ok (.iload_n 3, 1) := dk_29 (dk_at dksX6_lays_0 2 rfl rfl)
theorem dX6_lays_3 : decode cX6_lays 3 = .ok (.iload_n 2, 1) := dk_28 (dk_at dksX6_lays_0 3 rfl rfl)
theorem dX6_lays_4 : decode cX6_lays 4 = .ok (.if_icmp .ge 39, 3) := dk_162 0 39 (dk_at dksX6_lays_0 4 rfl rfl)
theorem dX6_lays_7 : decode cX6_lays 7 = .ok (.iconst 0, 1) := dk_3 (dk_at dksX6_lays_0 7 rfl rfl)
theorem dX6_lays_8 : decode cX6_lays 8 = .ok (.istore 4, 2) := dk_54 4 (dk_at dksX6_lays_0 8 rfl rfl)
theorem dX6_lays_10 : decode cX6_lays 10 = .ok (.iload 4, 2) := dk_21 4 (dk_at dksX6_lays_0 10 rfl rfl)
theorem dX6_lays_12 : decode cX6_lays 12 = .ok (.aload_n 1, 1) := dk_43 (dk_at dksX6_lays_0 12 rfl rfl)
theorem dX6_lays_13 : decode cX6_lays 13 = .ok (.iload_n 3, 1) := dk_29 (dk_at dksX6_lays_0 13 rfl rfl)
theorem dX6_lays_14 : decode cX6_lays 14 = .ok (.aaload, 1) := dk_50 (dk_at dksX6_lays_0 14 rfl rfl)
theorem dX6_lays_15 : decode cX6_lays 15 = .ok (.arraylength, 1) := dk_190 (dk_at dksX6_lays_0 15 rfl rfl)
theorem dX6_lays_16 : decode cX6_lays 16 = .ok (.if_icmp .ge 21, 3) := dk_162 0 21 (dk_at dksX6_lays_0 16 rfl rfl)
theorem dX6_lays_19 : decode cX6_lays 19 = .ok (.aload_n 1, 1) := dk_43 (dk_at dksX6_lays_0 19 rfl rfl)
theorem dX6_lays_20 : decode cX6_lays 20 = .ok (.iload_n 3, 1) := dk_29 (dk_at dksX6_lays_0 20 rfl rfl)
theorem dX6_lays_21 : decode cX6_lays 21 = .ok (.aaload, 1) := dk_50 (dk_at dksX6_lays_0 21 rfl rfl)
theorem dX6_lays_22 : decode cX6_lays 22 = .ok (.iload 4, 2) := dk_21 4 (dk_at dksX6_lays_0 22 rfl rfl)
theorem dX6_lays_24 : decode cX6_lays 24 = .ok (.aload_n 0, 1) := dk_42 (dk_at dksX6_lays_1 0 rfl rfl)
theorem dX6_lays_25 : decode cX6_lays 25 = .ok (.iload_n 3, 1) := dk_29 (dk_at dksX6_lays_1 1 rfl rfl)
theorem dX6_lays_26 : decode cX6_lays 26 = .ok (.aaload, 1) := dk_50 (dk_at dksX6_lays_1 2 rfl rfl)
theorem dX6_lays_27 : decode cX6_lays 27 = .ok (.iload 4, 2) := dk_21 4 (dk_at dksX6_lays_1 3 rfl rfl)
theorem dX6_lays_29 : decode cX6_lays 29 = .ok (.iaload, 1) := dk_46 (dk_at dksX6_lays_1 5 rfl rfl)
theorem dX6_lays_30 : decode cX6_lays 30 = .ok (.iastore, 1) := dk_79 (dk_at dksX6_lays_1 6 rfl rfl)
theorem dX6_lays_31 : decode cX6_lays 31 = .ok (.iinc 4 1, 3) := dk_132 4 1 (dk_at dksX6_lays_1 7 rfl rfl)
theorem dX6_lays_34 : decode cX6_lays 34 = .ok (.goto (-24), 3) := dk_167 255 232 (dk_at dksX6_lays_1 10 rfl rfl)
theorem dX6_lays_37 : decode cX6_lays 37 = .ok (.iinc 3 1, 3) := dk_132 3 1 (dk_at dksX6_lays_1 13 rfl rfl)
theorem dX6_lays_40 : decode cX6_lays 40 = .ok (.goto (-38), 3) := dk_167 255 218 (dk_at dksX6_lays_1 16 rfl rfl)
theorem dX6_lays_43 : decode cX6_lays 43 = .ok (.return_, 1) := dk_177 (dk_at dksX6_lays_1 19 rfl rfl)
abbrev cX6_breathes : ByteArray := prog_34_method_32_code
def yX6_breathes : MethodName := ⟨RX6, "breathes", "([I)V"⟩
def dkwX6_breathes_1 : List UInt8 := [79, 132, 2, 1, 167, 255, 230, 177]
abbrev dktX6_breathes_1 : List UInt8 := dkwX6_breathes_1 ++ []
def dkwX6_breathes_0 : List UInt8 := [3, 61, 28, 42, 180, 0, 23, 3, 46, 162, 0, 22, 43, 3, 28, 96, 42, 180, 0, 31, 28, 50, 5, 46]
abbrev dktX6_breathes_0 : List UInt8 := dkwX6_breathes_0 ++ dktX6_breathes_1
theorem dksX6_breathes_0 : cX6_breathes.data.toList.drop 0 = dktX6_breathes_0 := by decide +kernel
theorem dksX6_breathes_1 : cX6_breathes.data.toList.drop 24 = dktX6_breathes_1 := dk_seg dksX6_breathes_0 24 rfl rfl
theorem dX6_breathes_0 : decode cX6_breathes 0 = .ok (.iconst 0, 1) := dk_3 (dk_at dksX6_breathes_0 0 rfl rfl)
theorem dX6_breathes_1 : decode cX6_breathes 1 = .ok (.istore_n 2, 1) := dk_61 (dk_at dksX6_breathes_0 1 rfl rfl)
theorem dX6_breathes_2 : decode cX6_breathes 2 = .ok (.iload_n 2, 1) := dk_28 (dk_at dksX6_breathes_0 2 rfl rfl)
theorem dX6_breathes_3 : decode cX6_breathes 3 = .ok (.aload_n 0, 1) := dk_42 (dk_at dksX6_breathes_0 3 rfl rfl)
theorem dX6_breathes_4 : decode cX6_breathes 4 = .ok (.getfield 23, 3) := dk_180 0 23 (dk_at dksX6_breathes_0 4 rfl rfl)
theorem dX6_breathes_7 : decode cX6_breathes 7 = .ok (.iconst 0, 1) := dk_3 (dk_at dksX6_breathes_0 7 rfl rfl)
theorem dX6_breathes_8 : decode cX6_breathes 8 = .ok (.iaload, 1) := dk_46 (dk_at dksX6_breathes_0 8 rfl rfl)
theorem dX6_breathes_9 : decode cX6_breathes 9 = .ok (.if_icmp .ge 22, 3) := dk_162 0 22 (dk_at dksX6_breathes_0 9 rfl rfl)
theorem dX6_breathes_12 : decode cX6_breathes 12 = .ok (.aload_n 1, 1) := dk_43 (dk_at dksX6_breathes_0 12 rfl rfl)
theorem dX6_breathes_13 : decode cX6_breathes 13 = .ok (.iconst 0, 1) := dk_3 (dk_at dksX6_breathes_0 13 rfl rfl)
theorem dX6_breathes_14 : decode cX6_breathes 14 = .ok (.iload_n 2, 1) := dk_28 (dk_at dksX6_breathes_0 14 rfl rfl)
theorem dX6_breathes_15 : decode cX6_breathes 15 = .ok (.iadd, 1) := dk_96 (dk_at dksX6_breathes_0 15 rfl rfl)
theorem dX6_breathes_16 : decode cX6_breathes 16 = .ok (.aload_n 0, 1) := dk_42 (dk_at dksX6_breathes_0 16 rfl rfl)
theorem dX6_breathes_17 : decode cX6_breathes 17 = .ok (.getfield 31, 3) := dk_180 0 31 (dk_at dksX6_breathes_0 17 rfl rfl)
theorem dX6_breathes_20 : decode cX6_breathes 20 = .ok (.iload_n 2, 1) := dk_28 (dk_at dksX6_breathes_0 20 rfl rfl)
theorem dX6_breathes_21 : decode cX6_breathes 21 = .ok (.aaload, 1) := dk_50 (dk_at dksX6_breathes_0 21 rfl rfl)
theorem dX6_breathes_22 : decode cX6_breathes 22 = .ok (.iconst 2, 1) := dk_5 (dk_at dksX6_breathes_0 22 rfl rfl)
theorem dX6_breathes_23 : decode cX6_breathes 23 = .ok (.iaload, 1) := dk_46 (dk_at dksX6_breathes_0 23 rfl rfl)
theorem dX6_breathes_24 : decode cX6_breathes 24 = .ok (.iastore, 1) := dk_79 (dk_at dksX6_breathes_1 0 rfl rfl)
theorem dX6_breathes_25 : decode cX6_breathes 25 = .ok (.iinc 2 1, 3) := dk_132 2 1 (dk_at dksX6_breathes_1 1 rfl rfl)
theorem dX6_breathes_28 : decode cX6_breathes 28 = .ok (.goto (-26), 3) := dk_167 255 230 (dk_at dksX6_breathes_1 4 rfl rfl)
theorem dX6_breathes_31 : decode cX6_breathes 31 = .ok (.return_, 1) := dk_177 (dk_at dksX6_breathes_1 7 rfl rfl)
abbrev cX6_thrown : ByteArray := prog_34_method_3_code
def yX6_thrown : MethodName := ⟨RX6, "thrown", "()I"⟩
theorem dX6_thrown_0 : decode cX6_thrown 0 = .ok (.aload_n 0, 1) := by decide +kernel
theorem dX6_thrown_1 : decode cX6_thrown 1 = .ok (.getfield 95, 3) := by decide +kernel
theorem dX6_thrown_4 : decode cX6_thrown 4 = .ok (.ireturn, 1) := by decide +kernel
abbrev cX6_feed : ByteArray := prog_34_method_9_code
def yX6_feed : MethodName := ⟨RX6, "feed", "(IIIII)I"⟩
def dkwX6_feed_5 : List UInt8 := [167, 255, 162, 42, 180, 0, 98, 172]
abbrev dktX6_feed_5 : List UInt8 := dkwX6_feed_5 ++ []
def dkwX6_feed_4 : List UInt8 := [112, 104, 100, 122, 17, 0, 255, 126, 79, 42, 89, 180, 0, 98, 4, 96, 181, 0, 98, 132, 6, 1]
abbrev dktX6_feed_4 : List UInt8 := dkwX6_feed_4 ++ dktX6_feed_5
def dkwX6_feed_3 : List UInt8 := [167, 0, 5, 21, 5, 54, 7, 42, 180, 0, 13, 42, 180, 0, 98, 21, 7, 16, 24, 16, 8, 21, 6, 7]
abbrev dktX6_feed_3 : List UInt8 := dkwX6_feed_3 ++ dktX6_feed_4
def dkwX6_feed_2 : List UInt8 := [28, 167, 0, 28, 21, 6, 16, 12, 162, 0, 7, 29, 167, 0, 17, 21, 6, 16, 16, 162, 0, 8, 21, 4]
abbrev dktX6_feed_2 : List UInt8 := dkwX6_feed_2 ++ dktX6_feed_3
def dkwX6_feed_1 : List UInt8 := [21, 6, 16, 20, 162, 0, 93, 21, 6, 7, 162, 0, 7, 27, 167, 0, 39, 21, 6, 16, 8, 162, 0, 7]
abbrev dktX6_feed_1 : List UInt8 := dkwX6_feed_1 ++ dktX6_feed_2
def dkwX6_feed_0 : List UInt8 := [42, 3, 181, 0, 95, 42, 180, 0, 98, 16, 20, 96, 17, 2, 88, 164, 0, 5, 2, 172, 3, 54, 6]
abbrev dktX6_feed_0 : List UInt8 := dkwX6_feed_0 ++ dktX6_feed_1
theorem dksX6_feed_0 : cX6_feed.data.toList.drop 0 = dktX6_feed_0 := by decide +kernel
theorem dksX6_feed_1 : cX6_feed.data.toList.drop 23 = dktX6_feed_1 := dk_seg dksX6_feed_0 23 rfl rfl
theorem dksX6_feed_2 : cX6_feed.data.toList.drop 47 = dktX6_feed_2 := dk_seg dksX6_feed_1 24 rfl rfl
theorem dksX6_feed_3 : cX6_feed.data.toList.drop 71 = dktX6_feed_3 := dk_seg dksX6_feed_2 24 rfl rfl
theorem dksX6_feed_4 : cX6_feed.data.toList.drop 95 = dktX6_feed_4 := dk_seg dksX6_feed_3 24 rfl rfl
theorem dksX6_feed_5 : cX6_feed.data.toList.drop 117 = dktX6_feed_5 := dk_seg dksX6_feed_4 22 rfl rfl
theorem dX6_feed_0 : decode cX6_feed 0 = .ok (.aload_n 0, 1) := dk_42 (dk_at dksX6_feed_0 0 rfl rfl)
theorem dX6_feed_1 : decode cX6_feed 1 = .ok (.iconst 0, 1) := dk_3 (dk_at dksX6_feed_0 1 rfl rfl)
theorem dX6_feed_2 : decode cX6_feed 2 = .ok (.putfield 95, 3) := dk_181 0 95 (dk_at dksX6_feed_0 2 rfl rfl)
theorem dX6_feed_5 : decode cX6_feed 5 = .ok (.aload_n 0, 1) := dk_42 (dk_at dksX6_feed_0 5 rfl rfl)
theorem dX6_feed_6 : decode cX6_feed 6 = .ok (.getfield 98, 3) := dk_180 0 98 (dk_at dksX6_feed_0 6 rfl rfl)
theorem dX6_feed_9 : decode cX6_feed 9 = .ok (.bipush 20, 2) := dk_16 20 (dk_at dksX6_feed_0 9 rfl rfl)
theorem dX6_feed_11 : decode cX6_feed 11 = .ok (.iadd, 1) := dk_96 (dk_at dksX6_feed_0 11 rfl rfl)
theorem dX6_feed_12 : decode cX6_feed 12 = .ok (.sipush 600, 3) := dk_17 2 88 (dk_at dksX6_feed_0 12 rfl rfl)
theorem dX6_feed_15 : decode cX6_feed 15 = .ok (.if_icmp .le 5, 3) := dk_164 0 5 (dk_at dksX6_feed_0 15 rfl rfl)
theorem dX6_feed_18 : decode cX6_feed 18 = .ok (.iconst (-1), 1) := dk_2 (dk_at dksX6_feed_0 18 rfl rfl)
theorem dX6_feed_19 : decode cX6_feed 19 = .ok (.ireturn, 1) := dk_172 (dk_at dksX6_feed_0 19 rfl rfl)
theorem dX6_feed_20 : decode cX6_feed 20 = .ok (.iconst 0, 1) := dk_3 (dk_at dksX6_feed_0 20 rfl rfl)
theorem dX6_feed_21 : decode cX6_feed 21 = .ok (.istore 6, 2) := dk_54 6 (dk_at dksX6_feed_0 21 rfl rfl)
theorem dX6_feed_23 : decode cX6_feed 23 = .ok (.iload 6, 2) := dk_21 6 (dk_at dksX6_feed_1 0 rfl rfl)
theorem dX6_feed_25 : decode cX6_feed 25 = .ok (.bipush 20, 2) := dk_16 20 (dk_at dksX6_feed_1 2 rfl rfl)
theorem dX6_feed_27 : decode cX6_feed 27 = .ok (.if_icmp .ge 93, 3) := dk_162 0 93 (dk_at dksX6_feed_1 4 rfl rfl)
theorem dX6_feed_30 : decode cX6_feed 30 = .ok (.iload 6, 2) := dk_21 6 (dk_at dksX6_feed_1 7 rfl rfl)
theorem dX6_feed_32 : decode cX6_feed 32 = .ok (.iconst 4, 1) := dk_7 (dk_at dksX6_feed_1 9 rfl rfl)
theorem dX6_feed_33 : decode cX6_feed 33 = .ok (.if_icmp .ge 7, 3) := dk_162 0 7 (dk_at dksX6_feed_1 10 rfl rfl)
theorem dX6_feed_36 : decode cX6_feed 36 = .ok (.iload_n 1, 1) := dk_27 (dk_at dksX6_feed_1 13 rfl rfl)
theorem dX6_feed_37 : decode cX6_feed 37 = .ok (.goto 39, 3) := dk_167 0 39 (dk_at dksX6_feed_1 14 rfl rfl)
theorem dX6_feed_40 : decode cX6_feed 40 = .ok (.iload 6, 2) := dk_21 6 (dk_at dksX6_feed_1 17 rfl rfl)
theorem dX6_feed_42 : decode cX6_feed 42 = .ok (.bipush 8, 2) := dk_16 8 (dk_at dksX6_feed_1 19 rfl rfl)
theorem dX6_feed_44 : decode cX6_feed 44 = .ok (.if_icmp .ge 7, 3) := dk_162 0 7 (dk_at dksX6_feed_1 21 rfl rfl)
theorem dX6_feed_47 : decode cX6_feed 47 = .ok (.iload_n 2, 1) := dk_28 (dk_at dksX6_feed_2 0 rfl rfl)
theorem dX6_feed_48 : decode cX6_feed 48 = .ok (.goto 28, 3) := dk_167 0 28 (dk_at dksX6_feed_2 1 rfl rfl)
theorem dX6_feed_51 : decode cX6_feed 51 = .ok (.iload 6, 2) := dk_21 6 (dk_at dksX6_feed_2 4 rfl rfl)
theorem dX6_feed_53 : decode cX6_feed 53 = .ok (.bipush 12, 2) := dk_16 12 (dk_at dksX6_feed_2 6 rfl rfl)
theorem dX6_feed_55 : decode cX6_feed 55 = .ok (.if_icmp .ge 7, 3) := dk_162 0 7 (dk_at dksX6_feed_2 8 rfl rfl)
theorem dX6_feed_58 : decode cX6_feed 58 = .ok (.iload_n 3, 1) := dk_29 (dk_at dksX6_feed_2 11 rfl rfl)
theorem dX6_feed_59 : decode cX6_feed 59 = .ok (.goto 17, 3) := dk_167 0 17 (dk_at dksX6_feed_2 12 rfl rfl)
theorem dX6_feed_62 : decode cX6_feed 62 = .ok (.iload 6, 2) := dk_21 6 (dk_at dksX6_feed_2 15 rfl rfl)
theorem dX6_feed_64 : decode cX6_feed 64 = .ok (.bipush 16, 2) := dk_16 16 (dk_at dksX6_feed_2 17 rfl rfl)
theorem dX6_feed_66 : decode cX6_feed 66 = .ok (.if_icmp .ge 8, 3) := dk_162 0 8 (dk_at dksX6_feed_2 19 rfl rfl)
theorem dX6_feed_69 : decode cX6_feed 69 = .ok (.iload 4, 2) := dk_21 4 (dk_at dksX6_feed_2 22 rfl rfl)
theorem dX6_feed_71 : decode cX6_feed 71 = .ok (.goto 5, 3) := dk_167 0 5 (dk_at dksX6_feed_3 0 rfl rfl)
theorem dX6_feed_74 : decode cX6_feed 74 = .ok (.iload 5, 2) := dk_21 5 (dk_at dksX6_feed_3 3 rfl rfl)
theorem dX6_feed_76 : decode cX6_feed 76 = .ok (.istore 7, 2) := dk_54 7 (dk_at dksX6_feed_3 5 rfl rfl)
theorem dX6_feed_78 : decode cX6_feed 78 = .ok (.aload_n 0, 1) := dk_42 (dk_at dksX6_feed_3 7 rfl rfl)
theorem dX6_feed_79 : decode cX6_feed 79 = .ok (.getfield 13, 3) := dk_180 0 13 (dk_at dksX6_feed_3 8 rfl rfl)
theorem dX6_feed_82 : decode cX6_feed 82 = .ok (.aload_n 0, 1) := dk_42 (dk_at dksX6_feed_3 11 rfl rfl)
theorem dX6_feed_83 : decode cX6_feed 83 = .ok (.getfield 98, 3) := dk_180 0 98 (dk_at dksX6_feed_3 12 rfl rfl)
theorem dX6_feed_86 : decode cX6_feed 86 = .ok (.iload 7, 2) := dk_21 7 (dk_at dksX6_feed_3 15 rfl rfl)
theorem dX6_feed_88 : decode cX6_feed 88 = .ok (.bipush 24, 2) := dk_16 24 (dk_at dksX6_feed_3 17 rfl rfl)
theorem dX6_feed_90 : decode cX6_feed 90 = .ok (.bipush 8, 2) := dk_16 8 (dk_at dksX6_feed_3 19 rfl rfl)
theorem dX6_feed_92 : decode cX6_feed 92 = .ok (.iload 6, 2) := dk_21 6 (dk_at dksX6_feed_3 21 rfl rfl)
theorem dX6_feed_94 : decode cX6_feed 94 = .ok (.iconst 4, 1) := dk_7 (dk_at dksX6_feed_3 23 rfl rfl)
theorem dX6_feed_95 : decode cX6_feed 95 = .ok (.irem, 1) := dk_112 (dk_at dksX6_feed_4 0 rfl rfl)
theorem dX6_feed_96 : decode cX6_feed 96 = .ok (.imul, 1) := dk_104 (dk_at dksX6_feed_4 1 rfl rfl)
theorem dX6_feed_97 : decode cX6_feed 97 = .ok (.isub, 1) := dk_100 (dk_at dksX6_feed_4 2 rfl rfl)
theorem dX6_feed_98 : decode cX6_feed 98 = .ok (.ishr, 1) := dk_122 (dk_at dksX6_feed_4 3 rfl rfl)
theorem dX6_feed_99 : decode cX6_feed 99 = .ok (.sipush 255, 3) := dk_17 0 255 (dk_at dksX6_feed_4 4 rfl rfl)
theorem dX6_feed_102 : decode cX6_feed 102 = .ok (.iand, 1) := dk_126 (dk_at dksX6_feed_4 7 rfl rfl)
theorem dX6_feed_103 : decode cX6_feed 103 = .ok (.iastore, 1) := dk_79 (dk_at dksX6_feed_4 8 rfl rfl)
theorem dX6_feed_104 : decode cX6_feed 104 = .ok (.aload_n 0, 1) := dk_42 (dk_at dksX6_feed_4 9 rfl rfl)
theorem dX6_feed_105 : decode cX6_feed 105 = .ok (.dup, 1) := dk_89 (dk_at dksX6_feed_4 10 rfl rfl)
theorem dX6_feed_106 : decode cX6_feed 106 = .ok (.getfield 98, 3) := dk_180 0 98 (dk_at dksX6_feed_4 11 rfl rfl)
theorem dX6_feed_109 : decode cX6_feed 109 = .ok (.iconst 1, 1) := dk_4 (dk_at dksX6_feed_4 14 rfl rfl)
theorem dX6_feed_110 : decode cX6_feed 110 = .ok (.iadd, 1) := dk_96 (dk_at dksX6_feed_4 15 rfl rfl)
theorem dX6_feed_111 : decode cX6_feed 111 = .ok (.putfield 98, 3) := dk_181 0 98 (dk_at dksX6_feed_4 16 rfl rfl)
theorem dX6_feed_114 : decode cX6_feed 114 = .ok (.iinc 6 1, 3) := dk_132 6 1 (dk_at dksX6_feed_4 19 rfl rfl)
theorem dX6_feed_117 : decode cX6_feed 117 = .ok (.goto (-94), 3) := dk_167 255 162 (dk_at dksX6_feed_5 0 rfl rfl)
theorem dX6_feed_120 : decode cX6_feed 120 = .ok (.aload_n 0, 1) := dk_42 (dk_at dksX6_feed_5 3 rfl rfl)
theorem dX6_feed_121 : decode cX6_feed 121 = .ok (.getfield 98, 3) := dk_180 0 98 (dk_at dksX6_feed_5 4 rfl rfl)
theorem dX6_feed_124 : decode cX6_feed 124 = .ok (.ireturn, 1) := dk_172 (dk_at dksX6_feed_5 7 rfl rfl)
abbrev cX6_choir : ByteArray := prog_34_method_28_code
def yX6_choir : MethodName := ⟨RX6, "choir", "(I)I"⟩
def dkwX6_choir_4 : List UInt8 := [42, 180, 0, 23, 3, 46, 172]
abbrev dktX6_choir_4 : List UInt8 := dkwX6_choir_4 ++ []
def dkwX6_choir_3 : List UInt8 := [167, 255, 230, 42, 180, 0, 111, 153, 0, 8, 42, 182, 0, 181, 172, 42, 2, 181, 0, 9, 42, 182, 0, 92]
abbrev dktX6_choir_3 : List UInt8 := dkwX6_choir_3 ++ dktX6_choir_4
def dkwX6_choir_2 : List UInt8 := [154, 0, 25, 42, 180, 0, 104, 42, 180, 0, 101, 162, 0, 14, 42, 182, 0, 178, 42, 182, 0, 117]
abbrev dktX6_choir_2 : List UInt8 := dkwX6_choir_2 ++ dktX6_choir_3
def dkwX6_choir_1 : List UInt8 := [4, 182, 0, 171, 153, 0, 5, 3, 172, 42, 27, 182, 0, 175, 42, 182, 0, 89, 42, 180, 0, 111]
abbrev dktX6_choir_1 : List UInt8 := dkwX6_choir_1 ++ dktX6_choir_2
def dkwX6_choir_0 : List UInt8 := [42, 3, 181, 0, 95, 42, 27, 3, 42, 180, 0, 98, 184, 0, 129, 154, 0, 7, 4, 167, 0, 4, 3, 4]
abbrev dktX6_choir_0 : List UInt8 := dkwX6_choir_0 ++ dktX6_choir_1
theorem dksX6_choir_0 : cX6_choir.data.toList.drop 0 = dktX6_choir_0 := by decide +kernel
theorem dksX6_choir_1 : cX6_choir.data.toList.drop 24 = dktX6_choir_1 := dk_seg dksX6_choir_0 24 rfl rfl
theorem dksX6_choir_2 : cX6_choir.data.toList.drop 46 = dktX6_choir_2 := dk_seg dksX6_choir_1 22 rfl rfl
theorem dksX6_choir_3 : cX6_choir.data.toList.drop 68 = dktX6_choir_3 := dk_seg dksX6_choir_2 22 rfl rfl
theorem dksX6_choir_4 : cX6_choir.data.toList.drop 92 = dktX6_choir_4 := dk_seg dksX6_choir_3 24 rfl rfl
theorem dX6_choir_0 : decode cX6_choir 0 = .ok (.aload_n 0, 1) := dk_42 (dk_at dksX6_choir_0 0 rfl rfl)
theorem dX6_choir_1 : decode cX6_choir 1 = .ok (.iconst 0, 1) := dk_3 (dk_at dksX6_choir_0 1 rfl rfl)
theorem dX6_choir_2 : decode cX6_choir 2 = .ok (.putfield 95, 3) := dk_181 0 95 (dk_at dksX6_choir_0 2 rfl rfl)
theorem dX6_choir_5 : decode cX6_choir 5 = .ok (.aload_n 0, 1) := dk_42 (dk_at dksX6_choir_0 5 rfl rfl)
theorem dX6_choir_6 : decode cX6_choir 6 = .ok (.iload_n 1, 1) := dk_27 (dk_at dksX6_choir_0 6 rfl rfl)
theorem dX6_choir_7 : decode cX6_choir 7 = .ok (.iconst 0, 1) := dk_3 (dk_at dksX6_choir_0 7 rfl rfl)
theorem dX6_choir_8 : decode cX6_choir 8 = .ok (.aload_n 0, 1) := dk_42 (dk_at dksX6_choir_0 8 rfl rfl)
theorem dX6_choir_9 : decode cX6_choir 9 = .ok (.getfield 98, 3) := dk_180 0 98 (dk_at dksX6_choir_0 9 rfl rfl)
theorem dX6_choir_12 : decode cX6_choir 12 = .ok (.invokestatic 129, 3) := dk_184 0 129 (dk_at dksX6_choir_0 12 rfl rfl)
theorem dX6_choir_15 : decode cX6_choir 15 = .ok (.ifCond .ne 7, 3) := dk_154 0 7 (dk_at dksX6_choir_0 15 rfl rfl)
theorem dX6_choir_18 : decode cX6_choir 18 = .ok (.iconst 1, 1) := dk_4 (dk_at dksX6_choir_0 18 rfl rfl)
theorem dX6_choir_19 : decode cX6_choir 19 = .ok (.goto 4, 3) := dk_167 0 4 (dk_at dksX6_choir_0 19 rfl rfl)
theorem dX6_choir_22 : decode cX6_choir 22 = .ok (.iconst 0, 1) := dk_3 (dk_at dksX6_choir_0 22 rfl rfl)
theorem dX6_choir_23 : decode cX6_choir 23 = .ok (.iconst 1, 1) := dk_4 (dk_at dksX6_choir_0 23 rfl rfl)
theorem dX6_choir_24 : decode cX6_choir 24 = .ok (.iconst 1, 1) := dk_4 (dk_at dksX6_choir_1 0 rfl rfl)
theorem dX6_choir_25 : decode cX6_choir 25 = .ok (.invokevirtual 171, 3) := dk_182 0 171 (dk_at dksX6_choir_1 1 rfl rfl)
theorem dX6_choir_28 : decode cX6_choir 28 = .ok (.ifCond .eq 5, 3) := dk_153 0 5 (dk_at dksX6_choir_1 4 rfl rfl)
theorem dX6_choir_31 : decode cX6_choir 31 = .ok (.iconst 0, 1) := dk_3 (dk_at dksX6_choir_1 7 rfl rfl)
theorem dX6_choir_32 : decode cX6_choir 32 = .ok (.ireturn, 1) := dk_172 (dk_at dksX6_choir_1 8 rfl rfl)
theorem dX6_choir_33 : decode cX6_choir 33 = .ok (.aload_n 0, 1) := dk_42 (dk_at dksX6_choir_1 9 rfl rfl)
theorem dX6_choir_34 : decode cX6_choir 34 = .ok (.iload_n 1, 1) := dk_27 (dk_at dksX6_choir_1 10 rfl rfl)
theorem dX6_choir_35 : decode cX6_choir 35 = .ok (.invokevirtual 175, 3) := dk_182 0 175 (dk_at dksX6_choir_1 11 rfl rfl)
theorem dX6_choir_38 : decode cX6_choir 38 = .ok (.aload_n 0, 1) := dk_42 (dk_at dksX6_choir_1 14 rfl rfl)
theorem dX6_choir_39 : decode cX6_choir 39 = .ok (.invokevirtual 89, 3) := dk_182 0 89 (dk_at dksX6_choir_1 15 rfl rfl)
theorem dX6_choir_42 : decode cX6_choir 42 = .ok (.aload_n 0, 1) := dk_42 (dk_at dksX6_choir_1 18 rfl rfl)
theorem dX6_choir_43 : decode cX6_choir 43 = .ok (.getfield 111, 3) := dk_180 0 111 (dk_at dksX6_choir_1 19 rfl rfl)
theorem dX6_choir_46 : decode cX6_choir 46 = .ok (.ifCond .ne 25, 3) := dk_154 0 25 (dk_at dksX6_choir_2 0 rfl rfl)
theorem dX6_choir_49 : decode cX6_choir 49 = .ok (.aload_n 0, 1) := dk_42 (dk_at dksX6_choir_2 3 rfl rfl)
theorem dX6_choir_50 : decode cX6_choir 50 = .ok (.getfield 104, 3) := dk_180 0 104 (dk_at dksX6_choir_2 4 rfl rfl)
theorem dX6_choir_53 : decode cX6_choir 53 = .ok (.aload_n 0, 1) := dk_42 (dk_at dksX6_choir_2 7 rfl rfl)
theorem dX6_choir_54 : decode cX6_choir 54 = .ok (.getfield 101, 3) := dk_180 0 101 (dk_at dksX6_choir_2 8 rfl rfl)
theorem dX6_choir_57 : decode cX6_choir 57 = .ok (.if_icmp .ge 14, 3) := dk_162 0 14 (dk_at dksX6_choir_2 11 rfl rfl)
theorem dX6_choir_60 : decode cX6_choir 60 = .ok (.aload_n 0, 1) := dk_42 (dk_at dksX6_choir_2 14 rfl rfl)
theorem dX6_choir_61 : decode cX6_choir 61 = .ok (.invokevirtual 178, 3) := dk_182 0 178 (dk_at dksX6_choir_2 15 rfl rfl)
theorem dX6_choir_64 : decode cX6_choir 64 = .ok (.aload_n 0, 1) := dk_42 (dk_at dksX6_choir_2 18 rfl rfl)
theorem dX6_choir_65 : decode cX6_choir 65 = .ok (.invokevirtual 117, 3) := dk_182 0 117 (dk_at dksX6_choir_2 19 rfl rfl)
theorem dX6_choir_68 : decode cX6_choir 68 = .ok (.goto (-26), 3) := dk_167 255 230 (dk_at dksX6_choir_3 0 rfl rfl)
theorem dX6_choir_71 : decode cX6_choir 71 = .ok (.aload_n 0, 1) := dk_42 (dk_at dksX6_choir_3 3 rfl rfl)
theorem dX6_choir_72 : decode cX6_choir 72 = .ok (.getfield 111, 3) := dk_180 0 111 (dk_at dksX6_choir_3 4 rfl rfl)
theorem dX6_choir_75 : decode cX6_choir 75 = .ok (.ifCond .eq 8, 3) := dk_153 0 8 (dk_at dksX6_choir_3 7 rfl rfl)
theorem dX6_choir_78 : decode cX6_choir 78 = .ok (.aload_n 0, 1) := dk_42 (dk_at dksX6_choir_3 10 rfl rfl)
theorem dX6_choir_79 : decode cX6_choir 79 = .ok (.invokevirtual 181, 3) := dk_182 0 181 (dk_at dksX6_choir_3 11 rfl rfl)
theorem dX6_choir_82 : decode cX6_choir 82 = .ok (.ireturn, 1) := dk_172 (dk_at dksX6_choir_3 14 rfl rfl)
theorem dX6_choir_83 : decode cX6_choir 83 = .ok (.aload_n 0, 1) := dk_42 (dk_at dksX6_choir_3 15 rfl rfl)
theorem dX6_choir_84 : decode cX6_choir 84 = .ok (.iconst (-1), 1) := dk_2 (dk_at dksX6_choir_3 16 rfl rfl)
theorem dX6_choir_85 : decode cX6_choir 85 = .ok (.putfield 9, 3) := dk_181 0 9 (dk_at dksX6_choir_3 17 rfl rfl)
theorem dX6_choir_88 : decode cX6_choir 88 = .ok (.aload_n 0, 1) := dk_42 (dk_at dksX6_choir_3 20 rfl rfl)
theorem dX6_choir_89 : decode cX6_choir 89 = .ok (.invokevirtual 92, 3) := dk_182 0 92 (dk_at dksX6_choir_3 21 rfl rfl)
theorem dX6_choir_92 : decode cX6_choir 92 = .ok (.aload_n 0, 1) := dk_42 (dk_at dksX6_choir_4 0 rfl rfl)
theorem dX6_choir_93 : decode cX6_choir 93 = .ok (.getfield 23, 3) := dk_180 0 23 (dk_at dksX6_choir_4 1 rfl rfl)
theorem dX6_choir_96 : decode cX6_choir 96 = .ok (.iconst 0, 1) := dk_3 (dk_at dksX6_choir_4 4 rfl rfl)
theorem dX6_choir_97 : decode cX6_choir 97 = .ok (.iaload, 1) := dk_46 (dk_at dksX6_choir_4 5 rfl rfl)
theorem dX6_choir_98 : decode cX6_choir 98 = .ok (.ireturn, 1) := dk_172 (dk_at dksX6_choir_4 6 rfl rfl)
abbrev cX6_in : ByteArray := prog_34_method_5_code
def yX6_in : MethodName := ⟨RX6, "in", "(III)Z"⟩
def dkwX6_in_0 : List UInt8 := [26, 27, 161, 0, 12, 26, 28, 163, 0, 7, 4, 167, 0, 4, 3, 172]
abbrev dktX6_in_0 : List UInt8 := dkwX6_in_0 ++ []
theorem dksX6_in_0 : cX6_in.data.toList.drop 0 = dktX6_in_0 := by decide +kernel
theorem dX6_in_0 : decode cX6_in 0 = .ok (.iload_n 0, 1) := dk_26 (dk_at dksX6_in_0 0 rfl rfl)
theorem dX6_in_1 : decode cX6_in 1 = .ok (.iload_n 1, 1) := dk_27 (dk_at dksX6_in_0 1 rfl rfl)
theorem dX6_in_2 : decode cX6_in 2 = .ok (.if_icmp .lt 12, 3) := dk_161 0 12 (dk_at dksX6_in_0 2 rfl rfl)
theorem dX6_in_5 : decode cX6_in 5 = .ok (.iload_n 0, 1) := dk_26 (dk_at dksX6_in_0 5 rfl rfl)
theorem dX6_in_6 : decode cX6_in 6 = .ok (.iload_n 2, 1) := dk_28 (dk_at dksX6_in_0 6 rfl rfl)
theorem dX6_in_7 : decode cX6_in 7 = .ok (.if_icmp .gt 7, 3) := dk_163 0 7 (dk_at dksX6_in_0 7 rfl rfl)
theorem dX6_in_10 : decode cX6_in 10 = .ok (.iconst 1, 1) := dk_4 (dk_at dksX6_in_0 10 rfl rfl)
theorem dX6_in_11 : decode cX6_in 11 = .ok (.goto 4, 3) := dk_167 0 4 (dk_at dksX6_in_0 11 rfl rfl)
theorem dX6_in_14 : decode cX6_in 14 = .ok (.iconst 0, 1) := dk_3 (dk_at dksX6_in_0 14 rfl rfl)
theorem dX6_in_15 : decode cX6_in 15 = .ok (.ireturn, 1) := dk_172 (dk_at dksX6_in_0 15 rfl rfl)
abbrev cX6_bad : ByteArray := prog_34_method_4_code
def yX6_bad : MethodName := ⟨RX6, "bad", "(ZII)Z"⟩
def dkwX6_bad_1 : List UInt8 := [96, 79, 42, 180, 0, 95, 153, 0, 7, 4, 167, 0, 4, 3, 172]
abbrev dktX6_bad_1 : List UInt8 := dkwX6_bad_1 ++ []
def dkwX6_bad_0 : List UInt8 := [27, 153, 0, 25, 42, 180, 0, 95, 154, 0, 18, 42, 28, 181, 0, 95, 42, 180, 0, 17, 29, 92, 46, 4]
abbrev dktX6_bad_0 : List UInt8 := dkwX6_bad_0 ++ dktX6_bad_1
theorem dksX6_bad_0 : cX6_bad.data.toList.drop 0 = dktX6_bad_0 := by decide +kernel
theorem dksX6_bad_1 : cX6_bad.data.toList.drop 24 = dktX6_bad_1 := dk_seg dksX6_bad_0 24 rfl rfl
theorem dX6_bad_0 : decode cX6_bad 0 = .ok (.iload_n 1, 1) := dk_27 (dk_at dksX6_bad_0 0 rfl rfl)
theorem dX6_bad_1 : decode cX6_bad 1 = .ok (.ifCond .eq 25, 3) := dk_153 0 25 (dk_at dksX6_bad_0 1 rfl rfl)
theorem dX6_bad_4 : decode cX6_bad 4 = .ok (.aload_n 0, 1) := dk_42 (dk_at dksX6_bad_0 4 rfl rfl)
theorem dX6_bad_5 : decode cX6_bad 5 = .ok (.getfield 95, 3) := dk_180 0 95 (dk_at dksX6_bad_0 5 rfl rfl)
theorem dX6_bad_8 : decode cX6_bad 8 = .ok (.ifCond .ne 18, 3) := dk_154 0 18 (dk_at dksX6_bad_0 8 rfl rfl)
theorem dX6_bad_11 : decode cX6_bad 11 = .ok (.aload_n 0, 1) := dk_42 (dk_at dksX6_bad_0 11 rfl rfl)
theorem dX6_bad_12 : decode cX6_bad 12 = .ok (.iload_n 2, 1) := dk_28 (dk_at dksX6_bad_0 12 rfl rfl)
theorem dX6_bad_13 : decode cX6_bad 13 = .ok (.putfield 95, 3) := dk_181 0 95 (dk_at dksX6_bad_0 13 rfl rfl)
theorem dX6_bad_16 : decode cX6_bad 16 = .ok (.aload_n 0, 1) := dk_42 (dk_at dksX6_bad_0 16 rfl rfl)
theorem dX6_bad_17 : decode cX6_bad 17 = .ok (.getfield 17, 3) := dk_180 0 17 (dk_at dksX6_bad_0 17 rfl rfl)
theorem dX6_bad_20 : decode cX6_bad 20 = .ok (.iload_n 3, 1) := dk_29 (dk_at dksX6_bad_0 20 rfl rfl)
theorem dX6_bad_21 : decode cX6_bad 21 = .ok (.dup2, 1) := dk_92 (dk_at dksX6_bad_0 21 rfl rfl)
theorem dX6_bad_22 : decode cX6_bad 22 = .ok (.iaload, 1) := dk_46 (dk_at dksX6_bad_0 22 rfl rfl)
theorem dX6_bad_23 : decode cX6_bad 23 = .ok (.iconst 1, 1) := dk_4 (dk_at dksX6_bad_0 23 rfl rfl)
theorem dX6_bad_24 : decode cX6_bad 24 = .ok (.iadd, 1) := dk_96 (dk_at dksX6_bad_1 0 rfl rfl)
theorem dX6_bad_25 : decode cX6_bad 25 = .ok (.iastore, 1) := dk_79 (dk_at dksX6_bad_1 1 rfl rfl)
theorem dX6_bad_26 : decode cX6_bad 26 = .ok (.aload_n 0, 1) := dk_42 (dk_at dksX6_bad_1 2 rfl rfl)
theorem dX6_bad_27 : decode cX6_bad 27 = .ok (.getfield 95, 3) := dk_180 0 95 (dk_at dksX6_bad_1 3 rfl rfl)
theorem dX6_bad_30 : decode cX6_bad 30 = .ok (.ifCond .eq 7, 3) := dk_153 0 7 (dk_at dksX6_bad_1 6 rfl rfl)
theorem dX6_bad_33 : decode cX6_bad 33 = .ok (.iconst 1, 1) := dk_4 (dk_at dksX6_bad_1 9 rfl rfl)
theorem dX6_bad_34 : decode cX6_bad 34 = .ok (.goto 4, 3) := dk_167 0 4 (dk_at dksX6_bad_1 10 rfl rfl)
theorem dX6_bad_37 : decode cX6_bad 37 = .ok (.iconst 0, 1) := dk_3 (dk_at dksX6_bad_1 13 rfl rfl)
theorem dX6_bad_38 : decode cX6_bad 38 = .ok (.ireturn, 1) := dk_172 (dk_at dksX6_bad_1 14 rfl rfl)
abbrev cX6_starts : ByteArray := prog_34_method_23_code
def yX6_starts : MethodName := ⟨RX6, "starts", "(I)V"⟩
def dkwX6_starts_1 : List UInt8 := [181, 0, 114, 42, 3, 181, 0, 151, 42, 3, 181, 0, 154, 42, 182, 0, 117, 177]
abbrev dktX6_starts_1 : List UInt8 := dkwX6_starts_1 ++ []
def dkwX6_starts_0 : List UInt8 := [42, 3, 181, 0, 98, 42, 27, 181, 0, 101, 42, 3, 181, 0, 104, 42, 3, 181, 0, 111, 42, 2]
abbrev dktX6_starts_0 : List UInt8 := dkwX6_starts_0 ++ dktX6_starts_1
theorem dksX6_starts_0 : cX6_starts.data.toList.drop 0 = dktX6_starts_0 := by decide +kernel
theorem dksX6_starts_1 : cX6_starts.data.toList.drop 22 = dktX6_starts_1 := dk_seg dksX6_starts_0 22 rfl rfl
theorem dX6_starts_0 : decode cX6_starts 0 = .ok (.aload_n 0, 1) := dk_42 (dk_at dksX6_starts_0 0 rfl rfl)
theorem dX6_starts_1 : decode cX6_starts 1 = .ok (.iconst 0, 1) := dk_3 (dk_at dksX6_starts_0 1 rfl rfl)
theorem dX6_starts_2 : decode cX6_starts 2 = .ok (.putfield 98, 3) := dk_181 0 98 (dk_at dksX6_starts_0 2 rfl rfl)
theorem dX6_starts_5 : decode cX6_starts 5 = .ok (.aload_n 0, 1) := dk_42 (dk_at dksX6_starts_0 5 rfl rfl)
theorem dX6_starts_6 : decode cX6_starts 6 = .ok (.iload_n 1, 1) := dk_27 (dk_at dksX6_starts_0 6 rfl rfl)
theorem dX6_starts_7 : decode cX6_starts 7 = .ok (.putfield 101, 3) := dk_181 0 101 (dk_at dksX6_starts_0 7 rfl rfl)
theorem dX6_starts_10 : decode cX6_starts 10 = .ok (.aload_n 0, 1) := dk_42 (dk_at dksX6_starts_0 10 rfl rfl)
theorem dX6_starts_11 : decode cX6_starts 11 = .ok (.iconst 0, 1) := dk_3 (dk_at dksX6_starts_0 11 rfl rfl)
theorem dX6_starts_12 : decode cX6_starts 12 = .ok (.putfield 104, 3) := dk_181 0 104 (dk_at dksX6_starts_0 12 rfl rfl)
theorem dX6_starts_15 : decode cX6_starts 15 = .ok (.aload_n 0, 1) := dk_42 (dk_at dksX6_starts_0 15 rfl rfl)
theorem dX6_starts_16 : decode cX6_starts 16 = .ok (.iconst 0, 1) := dk_3 (dk_at dksX6_starts_0 16 rfl rfl)
theorem dX6_starts_17 : decode cX6_starts 17 = .ok (.putfield 111, 3) := dk_181 0 111 (dk_at dksX6_starts_0 17 rfl rfl)
theorem dX6_starts_20 : decode cX6_starts 20 = .ok (.aload_n 0, 1) := dk_42 (dk_at dksX6_starts_0 20 rfl rfl)
theorem dX6_starts_21 : decode cX6_starts 21 = .ok (.iconst (-1), 1) := dk_2 (dk_at dksX6_starts_0 21 rfl rfl)
theorem dX6_starts_22 : decode cX6_starts 22 = .ok (.putfield 114, 3) := dk_181 0 114 (dk_at dksX6_starts_1 0 rfl rfl)
theorem dX6_starts_25 : decode cX6_starts 25 = .ok (.aload_n 0, 1) := dk_42 (dk_at dksX6_starts_1 3 rfl rfl)
theorem dX6_starts_26 : decode cX6_starts 26 = .ok (.iconst 0, 1) := dk_3 (dk_at dksX6_starts_1 4 rfl rfl)
theorem dX6_starts_27 : decode cX6_starts 27 = .ok (.putfield 151, 3) := dk_181 0 151 (dk_at dksX6_starts_1 5 rfl rfl)
theorem dX6_starts_30 : decode cX6_starts 30 = .ok (.aload_n 0, 1) := dk_42 (dk_at dksX6_starts_1 8 rfl rfl)
theorem dX6_starts_31 : decode cX6_starts 31 = .ok (.iconst 0, 1) := dk_3 (dk_at dksX6_starts_1 9 rfl rfl)
theorem dX6_starts_32 : decode cX6_starts 32 = .ok (.putfield 154, 3) := dk_181 0 154 (dk_at dksX6_starts_1 10 rfl rfl)
theorem dX6_starts_35 : decode cX6_starts 35 = .ok (.aload_n 0, 1) := dk_42 (dk_at dksX6_starts_1 13 rfl rfl)
theorem dX6_starts_36 : decode cX6_starts 36 = .ok (.invokevirtual 117, 3) := dk_182 0 117 (dk_at dksX6_starts_1 14 rfl rfl)
theorem dX6_starts_39 : decode cX6_starts 39 = .ok (.return_, 1) := dk_177 (dk_at dksX6_starts_1 17 rfl rfl)
abbrev cX6_blanks : ByteArray := prog_34_method_11_code
def yX6_blanks : MethodName := ⟨RX6, "blanks", "()V"⟩
def dkwX6_blanks_1 : List UInt8 := [167, 255, 233, 177]
abbrev dktX6_blanks_1 : List UInt8 := dkwX6_blanks_1 ++ []
def dkwX6_blanks_0 : List UInt8 := [42, 42, 180, 0, 104, 182, 0, 107, 16, 32, 160, 0, 16, 42, 89, 180, 0, 104, 4, 96, 181, 0, 104]
abbrev dktX6_blanks_0 : List UInt8 := dkwX6_blanks_0 ++ dktX6_blanks_1
theorem dksX6_blanks_0 : cX6_blanks.data.toList.drop 0 = dktX6_blanks_0 := by decide +kernel
theorem dksX6_blanks_1 : cX6_blanks.data.toList.drop 23 = dktX6_blanks_1 := dk_seg dksX6_blanks_0 23 rfl rfl
theorem dX6_blanks_0 : decode cX6_blanks 0 = .ok (.aload_n 0, 1) := dk_42 (dk_at dksX6_blanks_0 0 rfl rfl)
theorem dX6_blanks_1 : decode cX6_blanks 1 = .ok (.aload_n 0, 1) := dk_42 (dk_at dksX6_blanks_0 1 rfl rfl)
theorem dX6_blanks_2 : decode cX6_blanks 2 = .ok (.getfield 104, 3) := dk_180 0 104 (dk_at dksX6_blanks_0 2 rfl rfl)
theorem dX6_blanks_5 : decode cX6_blanks 5 = .ok (.invokevirtual 107, 3) := dk_182 0 107 (dk_at dksX6_blanks_0 5 rfl rfl)
theorem dX6_blanks_8 : decode cX6_blanks 8 = .ok (.bipush 32, 2) := dk_16 32 (dk_at dksX6_blanks_0 8 rfl rfl)
theorem dX6_blanks_10 : decode cX6_blanks 10 = .ok (.if_icmp .ne 16, 3) := dk_160 0 16 (dk_at dksX6_blanks_0 10 rfl rfl)
theorem dX6_blanks_13 : decode cX6_blanks 13 = .ok (.aload_n 0, 1) := dk_42 (dk_at dksX6_blanks_0 13 rfl rfl)
theorem dX6_blanks_14 : decode cX6_blanks 14 = .ok (.dup, 1) := dk_89 (dk_at dksX6_blanks_0 14 rfl rfl)
theorem dX6_blanks_15 : decode cX6_blanks 15 = .ok (.getfield 104, 3) := dk_180 0 104 (dk_at dksX6_blanks_0 15 rfl rfl)
theorem dX6_blanks_18 : decode cX6_blanks 18 = .ok (.iconst 1, 1) := dk_4 (dk_at dksX6_blanks_0 18 rfl rfl)
theorem dX6_blanks_19 : decode cX6_blanks 19 = .ok (.iadd, 1) := dk_96 (dk_at dksX6_blanks_0 19 rfl rfl)
theorem dX6_blanks_20 : decode cX6_blanks 20 = .ok (.putfield 104, 3) := dk_181 0 104 (dk_at dksX6_blanks_0 20 rfl rfl)
theorem dX6_blanks_23 : decode cX6_blanks 23 = .ok (.goto (-23), 3) := dk_167 255 233 (dk_at dksX6_blanks_1 0 rfl rfl)
theorem dX6_blanks_26 : decode cX6_blanks 26 = .ok (.return_, 1) := dk_177 (dk_at dksX6_blanks_1 3 rfl rfl)
abbrev cX6_byteAt : ByteArray := prog_34_method_10_code
def yX6_byteAt : MethodName := ⟨RX6, "byteAt", "(I)I"⟩
def dkwX6_byteAt_0 : List UInt8 := [27, 42, 180, 0, 101, 161, 0, 7, 2, 167, 0, 9, 42, 180, 0, 13, 27, 46, 172]
abbrev dktX6_byteAt_0 : List UInt8 := dkwX6_byteAt_0 ++ []
theorem dksX6_byteAt_0 : cX6_byteAt.data.toList.drop 0 = dktX6_byteAt_0 := by decide +kernel
theorem dX6_byteAt_0 : decode cX6_byteAt 0 = .ok (.iload_n 1, 1) := dk_27 (dk_at dksX6_byteAt_0 0 rfl rfl)
theorem dX6_byteAt_1 : decode cX6_byteAt 1 = .ok (.aload_n 0, 1) := dk_42 (dk_at dksX6_byteAt_0 1 rfl rfl)
theorem dX6_byteAt_2 : decode cX6_byteAt 2 = .ok (.getfield 101, 3) := dk_180 0 101 (dk_at dksX6_byteAt_0 2 rfl rfl)
theorem dX6_byteAt_5 : decode cX6_byteAt 5 = .ok (.if_icmp .lt 7, 3) := dk_161 0 7 (dk_at dksX6_byteAt_0 5 rfl rfl)
theorem dX6_byteAt_8 : decode cX6_byteAt 8 = .ok (.iconst (-1), 1) := dk_2 (dk_at dksX6_byteAt_0 8 rfl rfl)
theorem dX6_byteAt_9 : decode cX6_byteAt 9 = .ok (.goto 9, 3) := dk_167 0 9 (dk_at dksX6_byteAt_0 9 rfl rfl)
theorem dX6_byteAt_12 : decode cX6_byteAt 12 = .ok (.aload_n 0, 1) := dk_42 (dk_at dksX6_byteAt_0 12 rfl rfl)
theorem dX6_byteAt_13 : decode cX6_byteAt 13 = .ok (.getfield 13, 3) := dk_180 0 13 (dk_at dksX6_byteAt_0 13 rfl rfl)
theorem dX6_byteAt_16 : decode cX6_byteAt 16 = .ok (.iload_n 1, 1) := dk_27 (dk_at dksX6_byteAt_0 16 rfl rfl)
theorem dX6_byteAt_17 : decode cX6_byteAt 17 = .ok (.iaload, 1) := dk_46 (dk_at dksX6_byteAt_0 17 rfl rfl)
theorem dX6_byteAt_18 : decode cX6_byteAt 18 = .ok (.ireturn, 1) := dk_172 (dk_at dksX6_byteAt_0 18 rfl rfl)
abbrev cX6_clause : ByteArray := prog_34_method_27_code
def yX6_clause : MethodName := ⟨RX6, "clause", "()V"⟩
def dkwX6_clause_13 : List UInt8 := [154, 0, 7, 4, 167, 0, 4, 3, 96, 79, 177]
abbrev dktX6_clause_13 : List UInt8 := dkwX6_clause_13 ++ []
def dkwX6_clause_12 : List UInt8 := [42, 16, 59, 182, 0, 167, 27, 6, 162, 0, 24, 42, 180, 0, 20, 27, 92, 46, 42, 180, 0, 111]
abbrev dktX6_clause_12 : List UInt8 := dkwX6_clause_12 ++ dktX6_clause_13
def dkwX6_clause_11 : List UInt8 := [3, 16, 30, 182, 0, 163, 62, 42, 180, 0, 111, 154, 0, 13, 42, 180, 0, 20, 6, 29, 79, 167, 0, 3]
abbrev dktX6_clause_11 : List UInt8 := dkwX6_clause_11 ++ dktX6_clause_12
def dkwX6_clause_10 : List UInt8 := [4, 100, 182, 0, 163, 79, 42, 180, 0, 40, 28, 50, 4, 42, 3, 8, 182, 0, 163, 79, 167, 0, 28, 42]
abbrev dktX6_clause_10 : List UInt8 := dkwX6_clause_10 ++ dktX6_clause_11
def dkwX6_clause_9 : List UInt8 := [16, 9, 182, 0, 163, 79, 167, 0, 66, 42, 180, 0, 40, 28, 50, 3, 42, 3, 42, 180, 0, 20, 4, 46]
abbrev dktX6_clause_9 : List UInt8 := dkwX6_clause_9 ++ dktX6_clause_10
def dkwX6_clause_8 : List UInt8 := [42, 180, 0, 34, 28, 50, 3, 42, 3, 8, 182, 0, 163, 79, 42, 180, 0, 34, 28, 50, 4, 42, 4]
abbrev dktX6_clause_8 : List UInt8 := dkwX6_clause_8 ++ dktX6_clause_9
def dkwX6_clause_7 : List UInt8 := [16, 60, 182, 0, 163, 79, 42, 180, 0, 28, 28, 50, 5, 42, 4, 16, 30, 182, 0, 163, 79, 167, 0, 98]
abbrev dktX6_clause_7 : List UInt8 := dkwX6_clause_7 ++ dktX6_clause_8
def dkwX6_clause_6 : List UInt8 := [42, 180, 0, 28, 28, 50, 3, 42, 3, 8, 182, 0, 163, 79, 42, 180, 0, 28, 28, 50, 4, 42, 3]
abbrev dktX6_clause_6 : List UInt8 := dkwX6_clause_6 ++ dktX6_clause_7
def dkwX6_clause_5 : List UInt8 := [170, 0, 0, 0, 0, 0, 144, 0, 0, 0, 0, 0, 0, 0, 2, 0, 0, 0, 27, 0, 0, 0, 74, 0, 0, 0, 106]
abbrev dktX6_clause_5 : List UInt8 := dkwX6_clause_5 ++ dktX6_clause_6
def dkwX6_clause_4 : List UInt8 := [3, 61, 27]
abbrev dktX6_clause_4 : List UInt8 := dkwX6_clause_4 ++ dktX6_clause_5
def dkwX6_clause_3 : List UInt8 := [42, 89, 180, 0, 151, 4, 96, 181, 0, 151, 27, 6, 162, 0, 12, 42, 180, 0, 20, 27, 46, 167, 0, 4]
abbrev dktX6_clause_3 : List UInt8 := dkwX6_clause_3 ++ dktX6_clause_4
def dkwX6_clause_2 : List UInt8 := [160, 0, 12, 42, 6, 42, 180, 0, 104, 182, 0, 124, 42, 180, 0, 111, 153, 0, 4, 177, 42, 182, 0, 148]
abbrev dktX6_clause_2 : List UInt8 := dkwX6_clause_2 ++ dktX6_clause_3
def dkwX6_clause_1 : List UInt8 := [180, 0, 151, 16, 60, 159, 0, 21, 27, 6, 162, 0, 25, 42, 180, 0, 20, 27, 46, 27, 184, 0, 160]
abbrev dktX6_clause_1 : List UInt8 := dkwX6_clause_1 ++ dktX6_clause_2
def dkwX6_clause_0 : List UInt8 := [42, 182, 0, 157, 60, 27, 2, 160, 0, 15, 42, 4, 42, 180, 0, 104, 182, 0, 124, 167, 0, 39, 42]
abbrev dktX6_clause_0 : List UInt8 := dkwX6_clause_0 ++ dktX6_clause_1
theorem dksX6_clause_0 : cX6_clause.data.toList.drop 0 = dktX6_clause_0 := by decide +kernel
theorem dksX6_clause_1 : cX6_clause.data.toList.drop 23 = dktX6_clause_1 := dk_seg dksX6_clause_0 23 rfl rfl
theorem dksX6_clause_2 : cX6_clause.data.toList.drop 46 = dktX6_clause_2 := dk_seg dksX6_clause_1 23 rfl rfl
theorem dksX6_clause_3 : cX6_clause.data.toList.drop 70 = dktX6_clause_3 := dk_seg dksX6_clause_2 24 rfl rfl
theorem dksX6_clause_4 : cX6_clause.data.toList.drop 94 = dktX6_clause_4 := dk_seg dksX6_clause_3 24 rfl rfl
theorem dksX6_clause_5 : cX6_clause.data.toList.drop 97 = dktX6_clause_5 := dk_seg dksX6_clause_4 3 rfl rfl
theorem dksX6_clause_6 : cX6_clause.data.toList.drop 124 = dktX6_clause_6 := dk_seg dksX6_clause_5 27 rfl rfl
theorem dksX6_clause_7 : cX6_clause.data.toList.drop 147 = dktX6_clause_7 := dk_seg dksX6_clause_6 23 rfl rfl
theorem dksX6_clause_8 : cX6_clause.data.toList.drop 171 = dktX6_clause_8 := dk_seg dksX6_clause_7 24 rfl rfl
theorem dksX6_clause_9 : cX6_clause.data.toList.drop 194 = dktX6_clause_9 := dk_seg dksX6_clause_8 23 rfl rfl
theorem dksX6_clause_10 : cX6_clause.data.toList.drop 218 = dktX6_clause_10 := dk_seg dksX6_clause_9 24 rfl rfl
theorem dksX6_clause_11 : cX6_clause.data.toList.drop 242 = dktX6_clause_11 := dk_seg dksX6_clause_10 24 rfl rfl
theorem dksX6_clause_12 : cX6_clause.data.toList.drop 266 = dktX6_clause_12 := dk_seg dksX6_clause_11 24 rfl rfl
theorem dksX6_clause_13 : cX6_clause.data.toList.drop 288 = dktX6_clause_13 := dk_seg dksX6_clause_12 22 rfl rfl
theorem dX6_clause_0 : decode cX6_clause 0 = .ok (.aload_n 0, 1) := dk_42 (dk_at dksX6_clause_0 0 rfl rfl)
theorem dX6_clause_1 : decode cX6_clause 1 = .ok (.invokevirtual 157, 3) := dk_182 0 157 (dk_at dksX6_clause_0 1 rfl rfl)
theorem dX6_clause_4 : decode cX6_clause 4 = .ok (.istore_n 1, 1) := dk_60 (dk_at dksX6_clause_0 4 rfl rfl)
theorem dX6_clause_5 : decode cX6_clause 5 = .ok (.iload_n 1, 1) := dk_27 (dk_at dksX6_clause_0 5 rfl rfl)
theorem dX6_clause_6 : decode cX6_clause 6 = .ok (.iconst (-1), 1) := dk_2 (dk_at dksX6_clause_0 6 rfl rfl)
theorem dX6_clause_7 : decode cX6_clause 7 = .ok (.if_icmp .ne 15, 3) := dk_160 0 15 (dk_at dksX6_clause_0 7 rfl rfl)
theorem dX6_clause_10 : decode cX6_clause 10 = .ok (.aload_n 0, 1) := dk_42 (dk_at dksX6_clause_0 10 rfl rfl)
theorem dX6_clause_11 : decode cX6_clause 11 = .ok (.iconst 1, 1) := dk_4 (dk_at dksX6_clause_0 11 rfl rfl)
theorem dX6_clause_12 : decode cX6_clause 12 = .ok (.aload_n 0, 1) := dk_42 (dk_at dksX6_clause_0 12 rfl rfl)
theorem dX6_clause_13 : decode cX6_clause 13 = .ok (.getfield 104, 3) := dk_180 0 104 (dk_at dksX6_clause_0 13 rfl rfl)
theorem dX6_clause_16 : decode cX6_clause 16 = .ok (.invokevirtual 124, 3) := dk_182 0 124 (dk_at dksX6_clause_0 16 rfl rfl)
theorem dX6_clause_19 : decode cX6_clause 19 = .ok (.goto 39, 3) := dk_167 0 39 (dk_at dksX6_clause_0 19 rfl rfl)
theorem dX6_clause_22 : decode cX6_clause 22 = .ok (.aload_n 0, 1) := dk_42 (dk_at dksX6_clause_0 22 rfl rfl)
theorem dX6_clause_23 : decode cX6_clause 23 = .ok (.getfield 151, 3) := dk_180 0 151 (dk_at dksX6_clause_1 0 rfl rfl)
theorem dX6_clause_26 : decode cX6_clause 26 = .ok (.bipush 60, 2) := dk_16 60 (dk_at dksX6_clause_1 3 rfl rfl)
theorem dX6_clause_28 : decode cX6_clause 28 = .ok (.if_icmp .eq 21, 3) := dk_159 0 21 (dk_at dksX6_clause_1 5 rfl rfl)
theorem dX6_clause_31 : decode cX6_clause 31 = .ok (.iload_n 1, 1) := dk_27 (dk_at dksX6_clause_1 8 rfl rfl)
theorem dX6_clause_32 : decode cX6_clause 32 = .ok (.iconst 3, 1) := dk_6 (dk_at dksX6_clause_1 9 rfl rfl)
theorem dX6_clause_33 : decode cX6_clause 33 = .ok (.if_icmp .ge 25, 3) := dk_162 0 25 (dk_at dksX6_clause_1 10 rfl rfl)
theorem dX6_clause_36 : decode cX6_clause 36 = .ok (.aload_n 0, 1) := dk_42 (dk_at dksX6_clause_1 13 rfl rfl)
theorem dX6_clause_37 : decode cX6_clause 37 = .ok (.getfield 20, 3) := dk_180 0 20 (dk_at dksX6_clause_1 14 rfl rfl)
theorem dX6_clause_40 : decode cX6_clause 40 = .ok (.iload_n 1, 1) := dk_27 (dk_at dksX6_clause_1 17 rfl rfl)
theorem dX6_clause_41 : decode cX6_clause 41 = .ok (.iaload, 1) := dk_46 (dk_at dksX6_clause_1 18 rfl rfl)
theorem dX6_clause_42 : decode cX6_clause 42 = .ok (.iload_n 1, 1) := dk_27 (dk_at dksX6_clause_1 19 rfl rfl)
theorem dX6_clause_43 : decode cX6_clause 43 = .ok (.invokestatic 160, 3) := dk_184 0 160 (dk_at dksX6_clause_1 20 rfl rfl)
theorem dX6_clause_46 : decode cX6_clause 46 = .ok (.if_icmp .ne 12, 3) := dk_160 0 12 (dk_at dksX6_clause_2 0 rfl rfl)
theorem dX6_clause_49 : decode cX6_clause 49 = .ok (.aload_n 0, 1) := dk_42 (dk_at dksX6_clause_2 3 rfl rfl)
theorem dX6_clause_50 : decode cX6_clause 50 = .ok (.iconst 3, 1) := dk_6 (dk_at dksX6_clause_2 4 rfl rfl)
theorem dX6_clause_51 : decode cX6_clause 51 = .ok (.aload_n 0, 1) := dk_42 (dk_at dksX6_clause_2 5 rfl rfl)
theorem dX6_clause_52 : decode cX6_clause 52 = .ok (.getfield 104, 3) := dk_180 0 104 (dk_at dksX6_clause_2 6 rfl rfl)
theorem dX6_clause_55 : decode cX6_clause 55 = .ok (.invokevirtual 124, 3) := dk_182 0 124 (dk_at dksX6_clause_2 9 rfl rfl)
theorem dX6_clause_58 : decode cX6_clause 58 = .ok (.aload_n 0, 1) := dk_42 (dk_at dksX6_clause_2 12 rfl rfl)
theorem dX6_clause_59 : decode cX6_clause 59 = .ok (.getfield 111, 3) := dk_180 0 111 (dk_at dksX6_clause_2 13 rfl rfl)
theorem dX6_clause_62 : decode cX6_clause 62 = .ok (.ifCond .eq 4, 3) := dk_153 0 4 (dk_at dksX6_clause_2 16 rfl rfl)
theorem dX6_clause_65 : decode cX6_clause 65 = .ok (.return_, 1) := dk_177 (dk_at dksX6_clause_2 19 rfl rfl)
theorem dX6_clause_66 : decode cX6_clause 66 = .ok (.aload_n 0, 1) := dk_42 (dk_at dksX6_clause_2 20 rfl rfl)
theorem dX6_clause_67 : decode cX6_clause 67 = .ok (.invokevirtual 148, 3) := dk_182 0 148 (dk_at dksX6_clause_2 21 rfl rfl)
theorem dX6_clause_70 : decode cX6_clause 70 = .ok (.aload_n 0, 1) := dk_42 (dk_at dksX6_clause_3 0 rfl rfl)
theorem dX6_clause_71 : decode cX6_clause 71 = .ok (.dup, 1) := dk_89 (dk_at dksX6_clause_3 1 rfl rfl)
theorem dX6_clause_72 : decode cX6_clause 72 = .ok (.getfield 151, 3) := dk_180 0 151 (dk_at dksX6_clause_3 2 rfl rfl)
theorem dX6_clause_75 : decode cX6_clause 75 = .ok (.iconst 1, 1) := dk_4 (dk_at dksX6_clause_3 5 rfl rfl)
theorem dX6_clause_76 : decode cX6_clause 76 = .ok (.iadd, 1) := dk_96 (dk_at dksX6_clause_3 6 rfl rfl)
theorem dX6_clause_77 : decode cX6_clause 77 = .ok (.putfield 151, 3) := dk_181 0 151 (dk_at dksX6_clause_3 7 rfl rfl)
theorem dX6_clause_80 : decode cX6_clause 80 = .ok (.iload_n 1, 1) := dk_27 (dk_at dksX6_clause_3 10 rfl rfl)
theorem dX6_clause_81 : decode cX6_clause 81 = .ok (.iconst 3, 1) := dk_6 (dk_at dksX6_clause_3 11 rfl rfl)
theorem dX6_clause_82 : decode cX6_clause 82 = .ok (.if_icmp .ge 12, 3) := dk_162 0 12 (dk_at dksX6_clause_3 12 rfl rfl)
theorem dX6_clause_85 : decode cX6_clause 85 = .ok (.aload_n 0, 1) := dk_42 (dk_at dksX6_clause_3 15 rfl rfl)
theorem dX6_clause_86 : decode cX6_clause 86 = .ok (.getfield 20, 3) := dk_180 0 20 (dk_at dksX6_clause_3 16 rfl rfl)
theorem dX6_clause_89 : decode cX6_clause 89 = .ok (.iload_n 1, 1) := dk_27 (dk_at dksX6_clause_3 19 rfl rfl)
theorem dX6_clause_90 : decode cX6_clause 90 = .ok (.iaload, 1) := dk_46 (dk_at dksX6_clause_3 20 rfl rfl)
theorem dX6_clause_91 : decode cX6_clause 91 = .ok (.goto 4, 3) := dk_167 0 4 (dk_at dksX6_clause_3 21 rfl rfl)
theorem dX6_clause_94 : decode cX6_clause 94 = .ok (.iconst 0, 1) := dk_3 (dk_at dksX6_clause_4 0 rfl rfl)
theorem dX6_clause_95 : decode cX6_clause 95 = .ok (.istore_n 2, 1) := dk_61 (dk_at dksX6_clause_4 1 rfl rfl)
theorem dX6_clause_96 : decode cX6_clause 96 = .ok (.iload_n 1, 1) := dk_27 (dk_at dksX6_clause_4 2 rfl rfl)
theorem dX6_clause_97 : decode cX6_clause 97 = .ok (.tableswitch 144 0 2 #[27, 74, 106], 27) := by decide +kernel
theorem dX6_clause_124 : decode cX6_clause 124 = .ok (.aload_n 0, 1) := dk_42 (dk_at dksX6_clause_6 0 rfl rfl)
theorem dX6_clause_125 : decode cX6_clause 125 = .ok (.getfield 28, 3) := dk_180 0 28 (dk_at dksX6_clause_6 1 rfl rfl)
theorem dX6_clause_128 : decode cX6_clause 128 = .ok (.iload_n 2, 1) := dk_28 (dk_at dksX6_clause_6 4 rfl rfl)
theorem dX6_clause_129 : decode cX6_clause 129 = .ok (.aaload, 1) := dk_50 (dk_at dksX6_clause_6 5 rfl rfl)
theorem dX6_clause_130 : decode cX6_clause 130 = .ok (.iconst 0, 1) := dk_3 (dk_at dksX6_clause_6 6 rfl rfl)
theorem dX6_clause_131 : decode cX6_clause 131 = .ok (.aload_n 0, 1) := dk_42 (dk_at dksX6_clause_6 7 rfl rfl)
theorem dX6_clause_132 : decode cX6_clause 132 = .ok (.iconst 0, 1) := dk_3 (dk_at dksX6_clause_6 8 rfl rfl)
theorem dX6_clause_133 : decode cX6_clause 133 = .ok (.iconst 5, 1) := dk_8 (dk_at dksX6_clause_6 9 rfl rfl)
theorem dX6_clause_134 : decode cX6_clause 134 = .ok (.invokevirtual 163, 3) := dk_182 0 163 (dk_at dksX6_clause_6 10 rfl rfl)
theorem dX6_clause_137 : decode cX6_clause 137 = .ok (.iastore, 1) := dk_79 (dk_at dksX6_clause_6 13 rfl rfl)
theorem dX6_clause_138 : decode cX6_clause 138 = .ok (.aload_n 0, 1) := dk_42 (dk_at dksX6_clause_6 14 rfl rfl)
theorem dX6_clause_139 : decode cX6_clause 139 = .ok (.getfield 28, 3) := dk_180 0 28 (dk_at dksX6_clause_6 15 rfl rfl)
theorem dX6_clause_142 : decode cX6_clause 142 = .ok (.iload_n 2, 1) := dk_28 (dk_at dksX6_clause_6 18 rfl rfl)
theorem dX6_clause_143 : decode cX6_clause 143 = .ok (.aaload, 1) := dk_50 (dk_at dksX6_clause_6 19 rfl rfl)
theorem dX6_clause_144 : decode cX6_clause 144 = .ok (.iconst 1, 1) := dk_4 (dk_at dksX6_clause_6 20 rfl rfl)
theorem dX6_clause_145 : decode cX6_clause 145 = .ok (.aload_n 0, 1) := dk_42 (dk_at dksX6_clause_6 21 rfl rfl)
theorem dX6_clause_146 : decode cX6_clause 146 = .ok (.iconst 0, 1) := dk_3 (dk_at dksX6_clause_6 22 rfl rfl)
theorem dX6_clause_147 : decode cX6_clause 147 = .ok (.bipush 60, 2) := dk_16 60 (dk_at dksX6_clause_7 0 rfl rfl)
theorem dX6_clause_149 : decode cX6_clause 149 = .ok (.invokevirtual 163, 3) := dk_182 0 163 (dk_at dksX6_clause_7 2 rfl rfl)
theorem dX6_clause_152 : decode cX6_clause 152 = .ok (.iastore, 1) := dk_79 (dk_at dksX6_clause_7 5 rfl rfl)
theorem dX6_clause_153 : decode cX6_clause 153 = .ok (.aload_n 0, 1) := dk_42 (dk_at dksX6_clause_7 6 rfl rfl)
theorem dX6_clause_154 : decode cX6_clause 154 = .ok (.getfield 28, 3) := dk_180 0 28 (dk_at dksX6_clause_7 7 rfl rfl)
theorem dX6_clause_157 : decode cX6_clause 157 = .ok (.iload_n 2, 1) := dk_28 (dk_at dksX6_clause_7 10 rfl rfl)
theorem dX6_clause_158 : decode cX6_clause 158 = .ok (.aaload, 1) := dk_50 (dk_at dksX6_clause_7 11 rfl rfl)
theorem dX6_clause_159 : decode cX6_clause 159 = .ok (.iconst 2, 1) := dk_5 (dk_at dksX6_clause_7 12 rfl rfl)
theorem dX6_clause_160 : decode cX6_clause 160 = .ok (.aload_n 0, 1) := dk_42 (dk_at dksX6_clause_7 13 rfl rfl)
theorem dX6_clause_161 : decode cX6_clause 161 = .ok (.iconst 1, 1) := dk_4 (dk_at dksX6_clause_7 14 rfl rfl)
theorem dX6_clause_162 : decode cX6_clause 162 = .ok (.bipush 30, 2) := dk_16 30 (dk_at dksX6_clause_7 15 rfl rfl)
theorem dX6_clause_164 : decode cX6_clause 164 = .ok (.invokevirtual 163, 3) := dk_182 0 163 (dk_at dksX6_clause_7 17 rfl rfl)
theorem dX6_clause_167 : decode cX6_clause 167 = .ok (.iastore, 1) := dk_79 (dk_at dksX6_clause_7 20 rfl rfl)
theorem dX6_clause_168 : decode cX6_clause 168 = .ok (.goto 98, 3) := dk_167 0 98 (dk_at dksX6_clause_7 21 rfl rfl)
theorem dX6_clause_171 : decode cX6_clause 171 = .ok (.aload_n 0, 1) := dk_42 (dk_at dksX6_clause_8 0 rfl rfl)
theorem dX6_clause_172 : decode cX6_clause 172 = .ok (.getfield 34, 3) := dk_180 0 34 (dk_at dksX6_clause_8 1 rfl rfl)
theorem dX6_clause_175 : decode cX6_clause 175 = .ok (.iload_n 2, 1) := dk_28 (dk_at dksX6_clause_8 4 rfl rfl)
theorem dX6_clause_176 : decode cX6_clause 176 = .ok (.aaload, 1) := dk_50 (dk_at dksX6_clause_8 5 rfl rfl)
theorem dX6_clause_177 : decode cX6_clause 177 = .ok (.iconst 0, 1) := dk_3 (dk_at dksX6_clause_8 6 rfl rfl)
theorem dX6_clause_178 : decode cX6_clause 178 = .ok (.aload_n 0, 1) := dk_42 (dk_at dksX6_clause_8 7 rfl rfl)
theorem dX6_clause_179 : decode cX6_clause 179 = .ok (.iconst 0, 1) := dk_3 (dk_at dksX6_clause_8 8 rfl rfl)
theorem dX6_clause_180 : decode cX6_clause 180 = .ok (.iconst 5, 1) := dk_8 (dk_at dksX6_clause_8 9 rfl rfl)
theorem dX6_clause_181 : decode cX6_clause 181 = .ok (.invokevirtual 163, 3) := dk_182 0 163 (dk_at dksX6_clause_8 10 rfl rfl)
theorem dX6_clause_184 : decode cX6_clause 184 = .ok (.iastore, 1) := dk_79 (dk_at dksX6_clause_8 13 rfl rfl)
theorem dX6_clause_185 : decode cX6_clause 185 = .ok (.aload_n 0, 1) := dk_42 (dk_at dksX6_clause_8 14 rfl rfl)
theorem dX6_clause_186 : decode cX6_clause 186 = .ok (.getfield 34, 3) := dk_180 0 34 (dk_at dksX6_clause_8 15 rfl rfl)
theorem dX6_clause_189 : decode cX6_clause 189 = .ok (.iload_n 2, 1) := dk_28 (dk_at dksX6_clause_8 18 rfl rfl)
theorem dX6_clause_190 : decode cX6_clause 190 = .ok (.aaload, 1) := dk_50 (dk_at dksX6_clause_8 19 rfl rfl)
theorem dX6_clause_191 : decode cX6_clause 191 = .ok (.iconst 1, 1) := dk_4 (dk_at dksX6_clause_8 20 rfl rfl)
theorem dX6_clause_192 : decode cX6_clause 192 = .ok (.aload_n 0, 1) := dk_42 (dk_at dksX6_clause_8 21 rfl rfl)
theorem dX6_clause_193 : decode cX6_clause 193 = .ok (.iconst 1, 1) := dk_4 (dk_at dksX6_clause_8 22 rfl rfl)
theorem dX6_clause_194 : decode cX6_clause 194 = .ok (.bipush 9, 2) := dk_16 9 (dk_at dksX6_clause_9 0 rfl rfl)
theorem dX6_clause_196 : decode cX6_clause 196 = .ok (.invokevirtual 163, 3) := dk_182 0 163 (dk_at dksX6_clause_9 2 rfl rfl)
theorem dX6_clause_199 : decode cX6_clause 199 = .ok (.iastore, 1) := dk_79 (dk_at dksX6_clause_9 5 rfl rfl)
theorem dX6_clause_200 : decode cX6_clause 200 = .ok (.goto 66, 3) := dk_167 0 66 (dk_at dksX6_clause_9 6 rfl rfl)
theorem dX6_clause_203 : decode cX6_clause 203 = .ok (.aload_n 0, 1) := dk_42 (dk_at dksX6_clause_9 9 rfl rfl)
theorem dX6_clause_204 : decode cX6_clause 204 = .ok (.getfield 40, 3) := dk_180 0 40 (dk_at dksX6_clause_9 10 rfl rfl)
theorem dX6_clause_207 : decode cX6_clause 207 = .ok (.iload_n 2, 1) := dk_28 (dk_at dksX6_clause_9 13 rfl rfl)
theorem dX6_clause_208 : decode cX6_clause 208 = .ok (.aaload, 1) := dk_50 (dk_at dksX6_clause_9 14 rfl rfl)
theorem dX6_clause_209 : decode cX6_clause 209 = .ok (.iconst 0, 1) := dk_3 (dk_at dksX6_clause_9 15 rfl rfl)
theorem dX6_clause_210 : decode cX6_clause 210 = .ok (.aload_n 0, 1) := dk_42 (dk_at dksX6_clause_9 16 rfl rfl)
theorem dX6_clause_211 : decode cX6_clause 211 = .ok (.iconst 0, 1) := dk_3 (dk_at dksX6_clause_9 17 rfl rfl)
theorem dX6_clause_212 : decode cX6_clause 212 = .ok (.aload_n 0, 1) := dk_42 (dk_at dksX6_clause_9 18 rfl rfl)
theorem dX6_clause_213 : decode cX6_clause 213 = .ok (.getfield 20, 3) := dk_180 0 20 (dk_at dksX6_clause_9 19 rfl rfl)
theorem dX6_clause_216 : decode cX6_clause 216 = .ok (.iconst 1, 1) := dk_4 (dk_at dksX6_clause_9 22 rfl rfl)
theorem dX6_clause_217 : decode cX6_clause 217 = .ok (.iaload, 1) := dk_46 (dk_at dksX6_clause_9 23 rfl rfl)
theorem dX6_clause_218 : decode cX6_clause 218 = .ok (.iconst 1, 1) := dk_4 (dk_at dksX6_clause_10 0 rfl rfl)
theorem dX6_clause_219 : decode cX6_clause 219 = .ok (.isub, 1) := dk_100 (dk_at dksX6_clause_10 1 rfl rfl)
theorem dX6_clause_220 : decode cX6_clause 220 = .ok (.invokevirtual 163, 3) := dk_182 0 163 (dk_at dksX6_clause_10 2 rfl rfl)
theorem dX6_clause_223 : decode cX6_clause 223 = .ok (.iastore, 1) := dk_79 (dk_at dksX6_clause_10 5 rfl rfl)
theorem dX6_clause_224 : decode cX6_clause 224 = .ok (.aload_n 0, 1) := dk_42 (dk_at dksX6_clause_10 6 rfl rfl)
theorem dX6_clause_225 : decode cX6_clause 225 = .ok (.getfield 40, 3) := dk_180 0 40 (dk_at dksX6_clause_10 7 rfl rfl)
theorem dX6_clause_228 : decode cX6_clause 228 = .ok (.iload_n 2, 1) := dk_28 (dk_at dksX6_clause_10 10 rfl rfl)
theorem dX6_clause_229 : decode cX6_clause 229 = .ok (.aaload, 1) := dk_50 (dk_at dksX6_clause_10 11 rfl rfl)
theorem dX6_clause_230 : decode cX6_clause 230 = .ok (.iconst 1, 1) := dk_4 (dk_at dksX6_clause_10 12 rfl rfl)
theorem dX6_clause_231 : decode cX6_clause 231 = .ok (.aload_n 0, 1) := dk_42 (dk_at dksX6_clause_10 13 rfl rfl)
theorem dX6_clause_232 : decode cX6_clause 232 = .ok (.iconst 0, 1) := dk_3 (dk_at dksX6_clause_10 14 rfl rfl)
theorem dX6_clause_233 : decode cX6_clause 233 = .ok (.iconst 5, 1) := dk_8 (dk_at dksX6_clause_10 15 rfl rfl)
theorem dX6_clause_234 : decode cX6_clause 234 = .ok (.invokevirtual 163, 3) := dk_182 0 163 (dk_at dksX6_clause_10 16 rfl rfl)
theorem dX6_clause_237 : decode cX6_clause 237 = .ok (.iastore, 1) := dk_79 (dk_at dksX6_clause_10 19 rfl rfl)
theorem dX6_clause_238 : decode cX6_clause 238 = .ok (.goto 28, 3) := dk_167 0 28 (dk_at dksX6_clause_10 20 rfl rfl)
theorem dX6_clause_241 : decode cX6_clause 241 = .ok (.aload_n 0, 1) := dk_42 (dk_at dksX6_clause_10 23 rfl rfl)
theorem dX6_clause_242 : decode cX6_clause 242 = .ok (.iconst 0, 1) := dk_3 (dk_at dksX6_clause_11 0 rfl rfl)
theorem dX6_clause_243 : decode cX6_clause 243 = .ok (.bipush 30, 2) := dk_16 30 (dk_at dksX6_clause_11 1 rfl rfl)
theorem dX6_clause_245 : decode cX6_clause 245 = .ok (.invokevirtual 163, 3) := dk_182 0 163 (dk_at dksX6_clause_11 3 rfl rfl)
theorem dX6_clause_248 : decode cX6_clause 248 = .ok (.istore_n 3, 1) := dk_62 (dk_at dksX6_clause_11 6 rfl rfl)
theorem dX6_clause_249 : decode cX6_clause 249 = .ok (.aload_n 0, 1) := dk_42 (dk_at dksX6_clause_11 7 rfl rfl)
theorem dX6_clause_250 : decode cX6_clause 250 = .ok (.getfield 111, 3) := dk_180 0 111 (dk_at dksX6_clause_11 8 rfl rfl)
theorem dX6_clause_253 : decode cX6_clause 253 = .ok (.ifCond .ne 13, 3) := dk_154 0 13 (dk_at dksX6_clause_11 11 rfl rfl)
theorem dX6_clause_256 : decode cX6_clause 256 = .ok (.aload_n 0, 1) := dk_42 (dk_at dksX6_clause_11 14 rfl rfl)
theorem dX6_clause_257 : decode cX6_clause 257 = .ok (.getfield 20, 3) := dk_180 0 20 (dk_at dksX6_clause_11 15 rfl rfl)
theorem dX6_clause_260 : decode cX6_clause 260 = .ok (.iconst 3, 1) := dk_6 (dk_at dksX6_clause_11 18 rfl rfl)
theorem dX6_clause_261 : decode cX6_clause 261 = .ok (.iload_n 3, 1) := dk_29 (dk_at dksX6_clause_11 19 rfl rfl)
theorem dX6_clause_262 : decode cX6_clause 262 = .ok (.iastore, 1) := dk_79 (dk_at dksX6_clause_11 20 rfl rfl)
theorem dX6_clause_263 : decode cX6_clause 263 = .ok (.goto 3, 3) := dk_167 0 3 (dk_at dksX6_clause_11 21 rfl rfl)
theorem dX6_clause_266 : decode cX6_clause 266 = .ok (.aload_n 0, 1) := dk_42 (dk_at dksX6_clause_12 0 rfl rfl)
theorem dX6_clause_267 : decode cX6_clause 267 = .ok (.bipush 59, 2) := dk_16 59 (dk_at dksX6_clause_12 1 rfl rfl)
theorem dX6_clause_269 : decode cX6_clause 269 = .ok (.invokevirtual 167, 3) := dk_182 0 167 (dk_at dksX6_clause_12 3 rfl rfl)
theorem dX6_clause_272 : decode cX6_clause 272 = .ok (.iload_n 1, 1) := dk_27 (dk_at dksX6_clause_12 6 rfl rfl)
theorem dX6_clause_273 : decode cX6_clause 273 = .ok (.iconst 3, 1) := dk_6 (dk_at dksX6_clause_12 7 rfl rfl)
theorem dX6_clause_274 : decode cX6_clause 274 = .ok (.if_icmp .ge 24, 3) := dk_162 0 24 (dk_at dksX6_clause_12 8 rfl rfl)
theorem dX6_clause_277 : decode cX6_clause 277 = .ok (.aload_n 0, 1) := dk_42 (dk_at dksX6_clause_12 11 rfl rfl)
theorem dX6_clause_278 : decode cX6_clause 278 = .ok (.getfield 20, 3) := dk_180 0 20 (dk_at dksX6_clause_12 12 rfl rfl)
theorem dX6_clause_281 : decode cX6_clause 281 = .ok (.iload_n 1, 1) := dk_27 (dk_at dksX6_clause_12 15 rfl rfl)
theorem dX6_clause_282 : decode cX6_clause 282 = .ok (.dup2, 1) := dk_92 (dk_at dksX6_clause_12 16 rfl rfl)
theorem dX6_clause_283 : decode cX6_clause 283 = .ok (.iaload, 1) := dk_46 (dk_at dksX6_clause_12 17 rfl rfl)
theorem dX6_clause_284 : decode cX6_clause 284 = .ok (.aload_n 0, 1) := dk_42 (dk_at dksX6_clause_12 18 rfl rfl)
theorem dX6_clause_285 : decode cX6_clause 285 = .ok (.getfield 111, 3) := dk_180 0 111 (dk_at dksX6_clause_12 19 rfl rfl)
theorem dX6_clause_288 : decode cX6_clause 288 = .ok (.ifCond .ne 7, 3) := dk_154 0 7 (dk_at dksX6_clause_13 0 rfl rfl)
theorem dX6_clause_291 : decode cX6_clause 291 = .ok (.iconst 1, 1) := dk_4 (dk_at dksX6_clause_13 3 rfl rfl)
theorem dX6_clause_292 : decode cX6_clause 292 = .ok (.goto 4, 3) := dk_167 0 4 (dk_at dksX6_clause_13 4 rfl rfl)
theorem dX6_clause_295 : decode cX6_clause 295 = .ok (.iconst 0, 1) := dk_3 (dk_at dksX6_clause_13 7 rfl rfl)
theorem dX6_clause_296 : decode cX6_clause 296 = .ok (.iadd, 1) := dk_96 (dk_at dksX6_clause_13 8 rfl rfl)
theorem dX6_clause_297 : decode cX6_clause 297 = .ok (.iastore, 1) := dk_79 (dk_at dksX6_clause_13 9 rfl rfl)
theorem dX6_clause_298 : decode cX6_clause 298 = .ok (.return_, 1) := dk_177 (dk_at dksX6_clause_13 10 rfl rfl)
abbrev cX6_kindHere : ByteArray := prog_34_method_25_code
def yX6_kindHere : MethodName := ⟨RX6, "kindHere", "()I"⟩
def dkwX6_kindHere_3 : List UInt8 := [153, 0, 7, 6, 167, 0, 4, 2, 172]
abbrev dktX6_kindHere_3 : List UInt8 := dkwX6_kindHere_3 ++ []
def dkwX6_kindHere_2 : List UInt8 := [3, 182, 0, 144, 153, 0, 5, 5, 172, 42, 16, 18, 8, 16, 19, 16, 20, 3, 3, 182, 0, 144]
abbrev dktX6_kindHere_2 : List UInt8 := dkwX6_kindHere_2 ++ dktX6_kindHere_3
def dkwX6_kindHere_1 : List UInt8 := [16, 15, 16, 20, 8, 3, 3, 182, 0, 144, 153, 0, 5, 4, 172, 42, 16, 12, 16, 9, 16, 11, 8, 3]
abbrev dktX6_kindHere_1 : List UInt8 := dkwX6_kindHere_1 ++ dktX6_kindHere_2
def dkwX6_kindHere_0 : List UInt8 := [42, 16, 19, 16, 9, 16, 14, 16, 7, 8, 16, 18, 182, 0, 144, 153, 0, 5, 3, 172, 42, 16, 14]
abbrev dktX6_kindHere_0 : List UInt8 := dkwX6_kindHere_0 ++ dktX6_kindHere_1
theorem dksX6_kindHere_0 : cX6_kindHere.data.toList.drop 0 = dktX6_kindHere_0 := by decide +kernel
theorem dksX6_kindHere_1 : cX6_kindHere.data.toList.drop 23 = dktX6_kindHere_1 := dk_seg dksX6_kindHere_0 23 rfl rfl
theorem dksX6_kindHere_2 : cX6_kindHere.data.toList.drop 47 = dktX6_kindHere_2 := dk_seg dksX6_kindHere_1 24 rfl rfl
theorem dksX6_kindHere_3 : cX6_kindHere.data.toList.drop 69 = dktX6_kindHere_3 := dk_seg dksX6_kindHere_2 22 rfl rfl
theorem dX6_kindHere_0 : decode cX6_kindHere 0 = .ok (.aload_n 0, 1) := dk_42 (dk_at dksX6_kindHere_0 0 rfl rfl)
theorem dX6_kindHere_1 : decode cX6_kindHere 1 = .ok (.bipush 19, 2) := dk_16 19 (dk_at dksX6_kindHere_0 1 rfl rfl)
theorem dX6_kindHere_3 : decode cX6_kindHere 3 = .ok (.bipush 9, 2) := dk_16 9 (dk_at dksX6_kindHere_0 3 rfl rfl)
theorem dX6_kindHere_5 : decode cX6_kindHere 5 = .ok (.bipush 14, 2) := dk_16 14 (dk_at dksX6_kindHere_0 5 rfl rfl)
theorem dX6_kindHere_7 : decode cX6_kindHere 7 = .ok (.bipush 7, 2) := dk_16 7 (dk_at dksX6_kindHere_0 7 rfl rfl)
theorem dX6_kindHere_9 : decode cX6_kindHere 9 = .ok (.iconst 5, 1) := dk_8 (dk_at dksX6_kindHere_0 9 rfl rfl)
theorem dX6_kindHere_10 : decode cX6_kindHere 10 = .ok (.bipush 18, 2) := dk_16 18 (dk_at dksX6_kindHere_0 10 rfl rfl)
theorem dX6_kindHere_12 : decode cX6_kindHere 12 = .ok (.invokevirtual 144, 3) := dk_182 0 144 (dk_at dksX6_kindHere_0 12 rfl rfl)
theorem dX6_kindHere_15 : decode cX6_kindHere 15 = .ok (.ifCond .eq 5, 3) := dk_153 0 5 (dk_at dksX6_kindHere_0 15 rfl rfl)
theorem dX6_kindHere_18 : decode cX6_kindHere 18 = .ok (.iconst 0, 1) := dk_3 (dk_at dksX6_kindHere_0 18 rfl rfl)
theorem dX6_kindHere_19 : decode cX6_kindHere 19 = .ok (.ireturn, 1) := dk_172 (dk_at dksX6_kindHere_0 19 rfl rfl)
theorem dX6_kindHere_20 : decode cX6_kindHere 20 = .ok (.aload_n 0, 1) := dk_42 (dk_at dksX6_kindHere_0 20 rfl rfl)
theorem dX6_kindHere_21 : decode cX6_kindHere 21 = .ok (.bipush 14, 2) := dk_16 14 (dk_at dksX6_kindHere_0 21 rfl rfl)
theorem dX6_kindHere_23 : decode cX6_kindHere 23 = .ok (.bipush 15, 2) := dk_16 15 (dk_at dksX6_kindHere_1 0 rfl rfl)
theorem dX6_kindHere_25 : decode cX6_kindHere 25 = .ok (.bipush 20, 2) := dk_16 20 (dk_at dksX6_kindHere_1 2 rfl rfl)
theorem dX6_kindHere_27 : decode cX6_kindHere 27 = .ok (.iconst 5, 1) := dk_8 (dk_at dksX6_kindHere_1 4 rfl rfl)
theorem dX6_kindHere_28 : decode cX6_kindHere 28 = .ok (.iconst 0, 1) := dk_3 (dk_at dksX6_kindHere_1 5 rfl rfl)
theorem dX6_kindHere_29 : decode cX6_kindHere 29 = .ok (.iconst 0, 1) := dk_3 (dk_at dksX6_kindHere_1 6 rfl rfl)
theorem dX6_kindHere_30 : decode cX6_kindHere 30 = .ok (.invokevirtual 144, 3) := dk_182 0 144 (dk_at dksX6_kindHere_1 7 rfl rfl)
theorem dX6_kindHere_33 : decode cX6_kindHere 33 = .ok (.ifCond .eq 5, 3) := dk_153 0 5 (dk_at dksX6_kindHere_1 10 rfl rfl)
theorem dX6_kindHere_36 : decode cX6_kindHere 36 = .ok (.iconst 1, 1) := dk_4 (dk_at dksX6_kindHere_1 13 rfl rfl)
theorem dX6_kindHere_37 : decode cX6_kindHere 37 = .ok (.ireturn, 1) := dk_172 (dk_at dksX6_kindHere_1 14 rfl rfl)
theorem dX6_kindHere_38 : decode cX6_kindHere 38 = .ok (.aload_n 0, 1) := dk_42 (dk_at dksX6_kindHere_1 15 rfl rfl)
theorem dX6_kindHere_39 : decode cX6_kindHere 39 = .ok (.bipush 12, 2) := dk_16 12 (dk_at dksX6_kindHere_1 16 rfl rfl)
theorem dX6_kindHere_41 : decode cX6_kindHere 41 = .ok (.bipush 9, 2) := dk_16 9 (dk_at dksX6_kindHere_1 18 rfl rfl)
theorem dX6_kindHere_43 : decode cX6_kindHere 43 = .ok (.bipush 11, 2) := dk_16 11 (dk_at dksX6_kindHere_1 20 rfl rfl)
theorem dX6_kindHere_45 : decode cX6_kindHere 45 = .ok (.iconst 5, 1) := dk_8 (dk_at dksX6_kindHere_1 22 rfl rfl)
theorem dX6_kindHere_46 : decode cX6_kindHere 46 = .ok (.iconst 0, 1) := dk_3 (dk_at dksX6_kindHere_1 23 rfl rfl)
theorem dX6_kindHere_47 : decode cX6_kindHere 47 = .ok (.iconst 0, 1) := dk_3 (dk_at dksX6_kindHere_2 0 rfl rfl)
theorem dX6_kindHere_48 : decode cX6_kindHere 48 = .ok (.invokevirtual 144, 3) := dk_182 0 144 (dk_at dksX6_kindHere_2 1 rfl rfl)
theorem dX6_kindHere_51 : decode cX6_kindHere 51 = .ok (.ifCond .eq 5, 3) := dk_153 0 5 (dk_at dksX6_kindHere_2 4 rfl rfl)
theorem dX6_kindHere_54 : decode cX6_kindHere 54 = .ok (.iconst 2, 1) := dk_5 (dk_at dksX6_kindHere_2 7 rfl rfl)
theorem dX6_kindHere_55 : decode cX6_kindHere 55 = .ok (.ireturn, 1) := dk_172 (dk_at dksX6_kindHere_2 8 rfl rfl)
theorem dX6_kindHere_56 : decode cX6_kindHere 56 = .ok (.aload_n 0, 1) := dk_42 (dk_at dksX6_kindHere_2 9 rfl rfl)
theorem dX6_kindHere_57 : decode cX6_kindHere 57 = .ok (.bipush 18, 2) := dk_16 18 (dk_at dksX6_kindHere_2 10 rfl rfl)
theorem dX6_kindHere_59 : decode cX6_kindHere 59 = .ok (.iconst 5, 1) := dk_8 (dk_at dksX6_kindHere_2 12 rfl rfl)
theorem dX6_kindHere_60 : decode cX6_kindHere 60 = .ok (.bipush 19, 2) := dk_16 19 (dk_at dksX6_kindHere_2 13 rfl rfl)
theorem dX6_kindHere_62 : decode cX6_kindHere 62 = .ok (.bipush 20, 2) := dk_16 20 (dk_at dksX6_kindHere_2 15 rfl rfl)
theorem dX6_kindHere_64 : decode cX6_kindHere 64 = .ok (.iconst 0, 1) := dk_3 (dk_at dksX6_kindHere_2 17 rfl rfl)
theorem dX6_kindHere_65 : decode cX6_kindHere 65 = .ok (.iconst 0, 1) := dk_3 (dk_at dksX6_kindHere_2 18 rfl rfl)
theorem dX6_kindHere_66 : decode cX6_kindHere 66 = .ok (.invokevirtual 144, 3) := dk_182 0 144 (dk_at dksX6_kindHere_2 19 rfl rfl)
theorem dX6_kindHere_69 : decode cX6_kindHere 69 = .ok (.ifCond .eq 7, 3) := dk_153 0 7 (dk_at dksX6_kindHere_3 0 rfl rfl)
theorem dX6_kindHere_72 : decode cX6_kindHere 72 = .ok (.iconst 3, 1) := dk_6 (dk_at dksX6_kindHere_3 3 rfl rfl)
theorem dX6_kindHere_73 : decode cX6_kindHere 73 = .ok (.goto 4, 3) := dk_167 0 4 (dk_at dksX6_kindHere_3 4 rfl rfl)
theorem dX6_kindHere_76 : decode cX6_kindHere 76 = .ok (.iconst (-1), 1) := dk_2 (dk_at dksX6_kindHere_3 7 rfl rfl)
theorem dX6_kindHere_77 : decode cX6_kindHere 77 = .ok (.ireturn, 1) := dk_172 (dk_at dksX6_kindHere_3 8 rfl rfl)
abbrev cX6_isWord : ByteArray := prog_34_method_18_code
def yX6_isWord : MethodName := ⟨RX6, "isWord", "(IIIIII)Z"⟩
def dkwX6_isWord_1 : List UInt8 := [160, 0, 7, 4, 167, 0, 4, 3, 172]
abbrev dktX6_isWord_1 : List UInt8 := dkwX6_isWord_1 ++ []
def dkwX6_isWord_0 : List UInt8 := [42, 180, 0, 111, 154, 0, 26, 42, 182, 0, 136, 27, 28, 29, 21, 4, 21, 5, 21, 6, 184, 0, 140]
abbrev dktX6_isWord_0 : List UInt8 := dkwX6_isWord_0 ++ dktX6_isWord_1
theorem dksX6_isWord_0 : cX6_isWord.data.toList.drop 0 = dktX6_isWord_0 := by decide +kernel
theorem dksX6_isWord_1 : cX6_isWord.data.toList.drop 23 = dktX6_isWord_1 := dk_seg dksX6_isWord_0 23 rfl rfl
theorem dX6_isWord_0 : decode cX6_isWord 0 = .ok (.aload_n 0, 1) := dk_42 (dk_at dksX6_isWord_0 0 rfl rfl)
theorem dX6_isWord_1 : decode cX6_isWord 1 = .ok (.getfield 111, 3) := dk_180 0 111 (dk_at dksX6_isWord_0 1 rfl rfl)
theorem dX6_isWord_4 : decode cX6_isWord 4 = .ok (.ifCond .ne 26, 3) := dk_154 0 26 (dk_at dksX6_isWord_0 4 rfl rfl)
theorem dX6_isWord_7 : decode cX6_isWord 7 = .ok (.aload_n 0, 1) := dk_42 (dk_at dksX6_isWord_0 7 rfl rfl)
theorem dX6_isWord_8 : decode cX6_isWord 8 = .ok (.invokevirtual 136, 3) := dk_182 0 136 (dk_at dksX6_isWord_0 8 rfl rfl)
theorem dX6_isWord_11 : decode cX6_isWord 11 = .ok (.iload_n 1, 1) := dk_27 (dk_at dksX6_isWord_0 11 rfl rfl)
theorem dX6_isWord_12 : decode cX6_isWord 12 = .ok (.iload_n 2, 1) := dk_28 (dk_at dksX6_isWord_0 12 rfl rfl)
theorem dX6_isWord_13 : decode cX6_isWord 13 = .ok (.iload_n 3, 1) := dk_29 (dk_at dksX6_isWord_0 13 rfl rfl)
theorem dX6_isWord_14 : decode cX6_isWord 14 = .ok (.iload 4, 2) := dk_21 4 (dk_at dksX6_isWord_0 14 rfl rfl)
theorem dX6_isWord_16 : decode cX6_isWord 16 = .ok (.iload 5, 2) := dk_21 5 (dk_at dksX6_isWord_0 16 rfl rfl)
theorem dX6_isWord_18 : decode cX6_isWord 18 = .ok (.iload 6, 2) := dk_21 6 (dk_at dksX6_isWord_0 18 rfl rfl)
theorem dX6_isWord_20 : decode cX6_isWord 20 = .ok (.invokestatic 140, 3) := dk_184 0 140 (dk_at dksX6_isWord_0 20 rfl rfl)
theorem dX6_isWord_23 : decode cX6_isWord 23 = .ok (.if_icmp .ne 7, 3) := dk_160 0 7 (dk_at dksX6_isWord_1 0 rfl rfl)
theorem dX6_isWord_26 : decode cX6_isWord 26 = .ok (.iconst 1, 1) := dk_4 (dk_at dksX6_isWord_1 3 rfl rfl)
theorem dX6_isWord_27 : decode cX6_isWord 27 = .ok (.goto 4, 3) := dk_167 0 4 (dk_at dksX6_isWord_1 4 rfl rfl)
theorem dX6_isWord_30 : decode cX6_isWord 30 = .ok (.iconst 0, 1) := dk_3 (dk_at dksX6_isWord_1 7 rfl rfl)
theorem dX6_isWord_31 : decode cX6_isWord 31 = .ok (.ireturn, 1) := dk_172 (dk_at dksX6_isWord_1 8 rfl rfl)
abbrev cX6_wordHere : ByteArray := prog_34_method_16_code
def yX6_wordHere : MethodName := ⟨RX6, "wordHere", "()I"⟩
def dkwX6_wordHere_3 : List UInt8 := [172]
abbrev dktX6_wordHere_3 : List UInt8 := dkwX6_wordHere_3 ++ []
def dkwX6_wordHere_2 : List UInt8 := [4, 96, 167, 0, 4, 27, 60, 132, 2, 1, 167, 255, 206, 28, 16, 6, 164, 0, 7, 2, 167, 0, 4, 27]
abbrev dktX6_wordHere_2 : List UInt8 := dkwX6_wordHere_2 ++ dktX6_wordHere_3
def dkwX6_wordHere_1 : List UInt8 := [28, 16, 6, 162, 0, 26, 16, 27, 27, 104, 42, 42, 180, 0, 104, 28, 96, 182, 0, 107, 96, 16, 97, 100]
abbrev dktX6_wordHere_1 : List UInt8 := dkwX6_wordHere_1 ++ dktX6_wordHere_2
def dkwX6_wordHere_0 : List UInt8 := [42, 182, 0, 117, 3, 60, 3, 61, 42, 42, 180, 0, 104, 28, 96, 182, 0, 107, 184, 0, 133, 153, 0, 40]
abbrev dktX6_wordHere_0 : List UInt8 := dkwX6_wordHere_0 ++ dktX6_wordHere_1
theorem dksX6_wordHere_0 : cX6_wordHere.data.toList.drop 0 = dktX6_wordHere_0 := by decide +kernel
theorem dksX6_wordHere_1 : cX6_wordHere.data.toList.drop 24 = dktX6_wordHere_1 := dk_seg dksX6_wordHere_0 24 rfl rfl
theorem dksX6_wordHere_2 : cX6_wordHere.data.toList.drop 48 = dktX6_wordHere_2 := dk_seg dksX6_wordHere_1 24 rfl rfl
theorem dksX6_wordHere_3 : cX6_wordHere.data.toList.drop 72 = dktX6_wordHere_3 := dk_seg dksX6_wordHere_2 24 rfl rfl
theorem dX6_wordHere_0 : decode cX6_wordHere 0 = .ok (.aload_n 0, 1) := dk_42 (dk_at dksX6_wordHere_0 0 rfl rfl)
theorem dX6_wordHere_1 : decode cX6_wordHere 1 = .ok (.invokevirtual 117, 3) := dk_182 0 117 (dk_at dksX6_wordHere_0 1 rfl rfl)
theorem dX6_wordHere_4 : decode cX6_wordHere 4 = .ok (.iconst 0, 1) := dk_3 (dk_at dksX6_wordHere_0 4 rfl rfl)
theorem dX6_wordHere_5 : decode cX6_wordHere 5 = .ok (.istore_n 1, 1) := dk_60 (dk_at dksX6_wordHere_0 5 rfl rfl)
theorem dX6_wordHere_6 : decode cX6_wordHere 6 = .ok (.iconst 0, 1) := dk_3 (dk_at dksX6_wordHere_0 6 rfl rfl)
theorem dX6_wordHere_7 : decode cX6_wordHere 7 = .ok (.istore_n 2, 1) := dk_61 (dk_at dksX6_wordHere_0 7 rfl rfl)
theorem dX6_wordHere_8 : decode cX6_wordHere 8 = .ok (.aload_n 0, 1) := dk_42 (dk_at dksX6_wordHere_0 8 rfl rfl)
theorem dX6_wordHere_9 : decode cX6_wordHere 9 = .ok (.aload_n 0, 1) := dk_42 (dk_at dksX6_wordHere_0 9 rfl rfl)
theorem dX6_wordHere_10 : decode cX6_wordHere 10 = .ok (.getfield 104, 3) := dk_180 0 104 (dk_at dksX6_wordHere_0 10 rfl rfl)
theorem dX6_wordHere_13 : decode cX6_wordHere 13 = .ok (.iload_n 2, 1) := dk_28 (dk_at dksX6_wordHere_0 13 rfl rfl)
theorem dX6_wordHere_14 : decode cX6_wordHere 14 = .ok (.iadd, 1) := dk_96 (dk_at dksX6_wordHere_0 14 rfl rfl)
theorem dX6_wordHere_15 : decode cX6_wordHere 15 = .ok (.invokevirtual 107, 3) := dk_182 0 107 (dk_at dksX6_wordHere_0 15 rfl rfl)
theorem dX6_wordHere_18 : decode cX6_wordHere 18 = .ok (.invokestatic 133, 3) := dk_184 0 133 (dk_at dksX6_wordHere_0 18 rfl rfl)
theorem dX6_wordHere_21 : decode cX6_wordHere 21 = .ok (.ifCond .eq 40, 3) := dk_153 0 40 (dk_at dksX6_wordHere_0 21 rfl rfl)
theorem dX6_wordHere_24 : decode cX6_wordHere 24 = .ok (.iload_n 2, 1) := dk_28 (dk_at dksX6_wordHere_1 0 rfl rfl)
theorem dX6_wordHere_25 : decode cX6_wordHere 25 = .ok (.bipush 6, 2) := dk_16 6 (dk_at dksX6_wordHere_1 1 rfl rfl)
theorem dX6_wordHere_27 : decode cX6_wordHere 27 = .ok (.if_icmp .ge 26, 3) := dk_162 0 26 (dk_at dksX6_wordHere_1 3 rfl rfl)
theorem dX6_wordHere_30 : decode cX6_wordHere 30 = .ok (.bipush 27, 2) := dk_16 27 (dk_at dksX6_wordHere_1 6 rfl rfl)
theorem dX6_wordHere_32 : decode cX6_wordHere 32 = .ok (.iload_n 1, 1) := dk_27 (dk_at dksX6_wordHere_1 8 rfl rfl)
theorem dX6_wordHere_33 : decode cX6_wordHere 33 = .ok (.imul, 1) := dk_104 (dk_at dksX6_wordHere_1 9 rfl rfl)
theorem dX6_wordHere_34 : decode cX6_wordHere 34 = .ok (.aload_n 0, 1) := dk_42 (dk_at dksX6_wordHere_1 10 rfl rfl)
theorem dX6_wordHere_35 : decode cX6_wordHere 35 = .ok (.aload_n 0, 1) := dk_42 (dk_at dksX6_wordHere_1 11 rfl rfl)
theorem dX6_wordHere_36 : decode cX6_wordHere 36 = .ok (.getfield 104, 3) := dk_180 0 104 (dk_at dksX6_wordHere_1 12 rfl rfl)
theorem dX6_wordHere_39 : decode cX6_wordHere 39 = .ok (.iload_n 2, 1) := dk_28 (dk_at dksX6_wordHere_1 15 rfl rfl)
theorem dX6_wordHere_40 : decode cX6_wordHere 40 = .ok (.iadd, 1) := dk_96 (dk_at dksX6_wordHere_1 16 rfl rfl)
theorem dX6_wordHere_41 : decode cX6_wordHere 41 = .ok (.invokevirtual 107, 3) := dk_182 0 107 (dk_at dksX6_wordHere_1 17 rfl rfl)
theorem dX6_wordHere_44 : decode cX6_wordHere 44 = .ok (.iadd, 1) := dk_96 (dk_at dksX6_wordHere_1 20 rfl rfl)
theorem dX6_wordHere_45 : decode cX6_wordHere 45 = .ok (.bipush 97, 2) := dk_16 97 (dk_at dksX6_wordHere_1 21 rfl rfl)
theorem dX6_wordHere_47 : decode cX6_wordHere 47 = .ok (.isub, 1) := dk_100 (dk_at dksX6_wordHere_1 23 rfl rfl)
theorem dX6_wordHere_48 : decode cX6_wordHere 48 = .ok (.iconst 1, 1) := dk_4 (dk_at dksX6_wordHere_2 0 rfl rfl)
theorem dX6_wordHere_49 : decode cX6_wordHere 49 = .ok (.iadd, 1) := dk_96 (dk_at dksX6_wordHere_2 1 rfl rfl)
theorem dX6_wordHere_50 : decode cX6_wordHere 50 = .ok (.goto 4, 3) := dk_167 0 4 (dk_at dksX6_wordHere_2 2 rfl rfl)
theorem dX6_wordHere_53 : decode cX6_wordHere 53 = .ok (.iload_n 1, 1) := dk_27 (dk_at dksX6_wordHere_2 5 rfl rfl)
theorem dX6_wordHere_54 : decode cX6_wordHere 54 = .ok (.istore_n 1, 1) := dk_60 (dk_at dksX6_wordHere_2 6 rfl rfl)
theorem dX6_wordHere_55 : decode cX6_wordHere 55 = .ok (.iinc 2 1, 3) := dk_132 2 1 (dk_at dksX6_wordHere_2 7 rfl rfl)
theorem dX6_wordHere_58 : decode cX6_wordHere 58 = .ok (.goto (-50), 3) := dk_167 255 206 (dk_at dksX6_wordHere_2 10 rfl rfl)
theorem dX6_wordHere_61 : decode cX6_wordHere 61 = .ok (.iload_n 2, 1) := dk_28 (dk_at dksX6_wordHere_2 13 rfl rfl)
theorem dX6_wordHere_62 : decode cX6_wordHere 62 = .ok (.bipush 6, 2) := dk_16 6 (dk_at dksX6_wordHere_2 14 rfl rfl)
theorem dX6_wordHere_64 : decode cX6_wordHere 64 = .ok (.if_icmp .le 7, 3) := dk_164 0 7 (dk_at dksX6_wordHere_2 16 rfl rfl)
theorem dX6_wordHere_67 : decode cX6_wordHere 67 = .ok (.iconst (-1), 1) := dk_2 (dk_at dksX6_wordHere_2 19 rfl rfl)
theorem dX6_wordHere_68 : decode cX6_wordHere 68 = .ok (.goto 4, 3) := dk_167 0 4 (dk_at dksX6_wordHere_2 20 rfl rfl)
theorem dX6_wordHere_71 : decode cX6_wordHere 71 = .ok (.iload_n 1, 1) := dk_27 (dk_at dksX6_wordHere_2 23 rfl rfl)
theorem dX6_wordHere_72 : decode cX6_wordHere 72 = .ok (.ireturn, 1) := dk_172 (dk_at dksX6_wordHere_3 0 rfl rfl)
abbrev cX6_isSmall : ByteArray := prog_34_method_14_code
def yX6_isSmall : MethodName := ⟨RX6, "isSmall", "(I)Z"⟩
def dkwX6_isSmall_0 : List UInt8 := [26, 16, 97, 161, 0, 13, 26, 16, 122, 163, 0, 7, 4, 167, 0, 4, 3, 172]
abbrev dktX6_isSmall_0 : List UInt8 := dkwX6_isSmall_0 ++ []
theorem dksX6_isSmall_0 : cX6_isSmall.data.toList.drop 0 = dktX6_isSmall_0 := by decide +kernel
theorem dX6_isSmall_0 : decode cX6_isSmall 0 = .ok (.iload_n 0, 1) := dk_26 (dk_at dksX6_isSmall_0 0 rfl rfl)
theorem dX6_isSmall_1 : decode cX6_isSmall 1 = .ok (.bipush 97, 2) := dk_16 97 (dk_at dksX6_isSmall_0 1 rfl rfl)
theorem dX6_isSmall_3 : decode cX6_isSmall 3 = .ok (.if_icmp .lt 13, 3) := dk_161 0 13 (dk_at dksX6_isSmall_0 3 rfl rfl)
theorem dX6_isSmall_6 : decode cX6_isSmall 6 = .ok (.iload_n 0, 1) := dk_26 (dk_at dksX6_isSmall_0 6 rfl rfl)
theorem dX6_isSmall_7 : decode cX6_isSmall 7 = .ok (.bipush 122, 2) := dk_16 122 (dk_at dksX6_isSmall_0 7 rfl rfl)
theorem dX6_isSmall_9 : decode cX6_isSmall 9 = .ok (.if_icmp .gt 7, 3) := dk_163 0 7 (dk_at dksX6_isSmall_0 9 rfl rfl)
theorem dX6_isSmall_12 : decode cX6_isSmall 12 = .ok (.iconst 1, 1) := dk_4 (dk_at dksX6_isSmall_0 12 rfl rfl)
theorem dX6_isSmall_13 : decode cX6_isSmall 13 = .ok (.goto 4, 3) := dk_167 0 4 (dk_at dksX6_isSmall_0 13 rfl rfl)
theorem dX6_isSmall_16 : decode cX6_isSmall 16 = .ok (.iconst 0, 1) := dk_3 (dk_at dksX6_isSmall_0 16 rfl rfl)
theorem dX6_isSmall_17 : decode cX6_isSmall 17 = .ok (.ireturn, 1) := dk_172 (dk_at dksX6_isSmall_0 17 rfl rfl)
abbrev cX6_six : ByteArray := prog_34_method_17_code
def yX6_six : MethodName := ⟨RX6, "six", "(IIIIII)I"⟩
def dkwX6_six_2 : List UInt8 := [96, 54, 6, 21, 5, 154, 0, 8, 21, 6, 167, 0, 11, 16, 27, 21, 6, 104, 21, 5, 96, 172]
abbrev dktX6_six_2 : List UInt8 := dkwX6_six_2 ++ []
def dkwX6_six_1 : List UInt8 := [21, 6, 104, 29, 96, 54, 6, 21, 4, 154, 0, 8, 21, 6, 167, 0, 11, 16, 27, 21, 6, 104, 21, 4]
abbrev dktX6_six_1 : List UInt8 := dkwX6_six_1 ++ dktX6_six_2
def dkwX6_six_0 : List UInt8 := [16, 27, 16, 27, 26, 104, 27, 96, 104, 28, 96, 54, 6, 29, 154, 0, 8, 21, 6, 167, 0, 10, 16, 27]
abbrev dktX6_six_0 : List UInt8 := dkwX6_six_0 ++ dktX6_six_1
theorem dksX6_six_0 : cX6_six.data.toList.drop 0 = dktX6_six_0 := by decide +kernel
theorem dksX6_six_1 : cX6_six.data.toList.drop 24 = dktX6_six_1 := dk_seg dksX6_six_0 24 rfl rfl
theorem dksX6_six_2 : cX6_six.data.toList.drop 48 = dktX6_six_2 := dk_seg dksX6_six_1 24 rfl rfl
theorem dX6_six_0 : decode cX6_six 0 = .ok (.bipush 27, 2) := dk_16 27 (dk_at dksX6_six_0 0 rfl rfl)
theorem dX6_six_2 : decode cX6_six 2 = .ok (.bipush 27, 2) := dk_16 27 (dk_at dksX6_six_0 2 rfl rfl)
theorem dX6_six_4 : decode cX6_six 4 = .ok (.iload_n 0, 1) := dk_26 (dk_at dksX6_six_0 4 rfl rfl)
theorem dX6_six_5 : decode cX6_six 5 = .ok (.imul, 1) := dk_104 (dk_at dksX6_six_0 5 rfl rfl)
theorem dX6_six_6 : decode cX6_six 6 = .ok (.iload_n 1, 1) := dk_27 (dk_at dksX6_six_0 6 rfl rfl)
theorem dX6_six_7 : decode cX6_six 7 = .ok (.iadd, 1) := dk_96 (dk_at dksX6_six_0 7 rfl rfl)
theorem dX6_six_8 : decode cX6_six 8 = .ok (.imul, 1) := dk_104 (dk_at dksX6_six_0 8 rfl rfl)
theorem dX6_six_9 : decode cX6_six 9 = .ok (.iload_n 2, 1) := dk_28 (dk_at dksX6_six_0 9 rfl rfl)
theorem dX6_six_10 : decode cX6_six 10 = .ok (.iadd, 1) := dk_96 (dk_at dksX6_six_0 10 rfl rfl)
theorem dX6_six_11 : decode cX6_six 11 = .ok (.istore 6, 2) := dk_54 6 (dk_at dksX6_six_0 11 rfl rfl)
theorem dX6_six_13 : decode cX6_six 13 = .ok (.iload_n 3, 1) := dk_29 (dk_at dksX6_six_0 13 rfl rfl)
theorem dX6_six_14 : decode cX6_six 14 = .ok (.ifCond .ne 8, 3) := dk_154 0 8 (dk_at dksX6_six_0 14 rfl rfl)
theorem dX6_six_17 : decode cX6_six 17 = .ok (.iload 6, 2) := dk_21 6 (dk_at dksX6_six_0 17 rfl rfl)
theorem dX6_six_19 : decode cX6_six 19 = .ok (.goto 10, 3) := dk_167 0 10 (dk_at dksX6_six_0 19 rfl rfl)
theorem dX6_six_22 : decode cX6_six 22 = .ok (.bipush 27, 2) := dk_16 27 (dk_at dksX6_six_0 22 rfl rfl)
theorem dX6_six_24 : decode cX6_six 24 = .ok (.iload 6, 2) := dk_21 6 (dk_at dksX6_six_1 0 rfl rfl)
theorem dX6_six_26 : decode cX6_six 26 = .ok (.imul, 1) := dk_104 (dk_at dksX6_six_1 2 rfl rfl)
theorem dX6_six_27 : decode cX6_six 27 = .ok (.iload_n 3, 1) := dk_29 (dk_at dksX6_six_1 3 rfl rfl)
theorem dX6_six_28 : decode cX6_six 28 = .ok (.iadd, 1) := dk_96 (dk_at dksX6_six_1 4 rfl rfl)
theorem dX6_six_29 : decode cX6_six 29 = .ok (.istore 6, 2) := dk_54 6 (dk_at dksX6_six_1 5 rfl rfl)
theorem dX6_six_31 : decode cX6_six 31 = .ok (.iload 4, 2) := dk_21 4 (dk_at dksX6_six_1 7 rfl rfl)
theorem dX6_six_33 : decode cX6_six 33 = .ok (.ifCond .ne 8, 3) := dk_154 0 8 (dk_at dksX6_six_1 9 rfl rfl)
theorem dX6_six_36 : decode cX6_six 36 = .ok (.iload 6, 2) := dk_21 6 (dk_at dksX6_six_1 12 rfl rfl)
theorem dX6_six_38 : decode cX6_six 38 = .ok (.goto 11, 3) := dk_167 0 11 (dk_at dksX6_six_1 14 rfl rfl)
theorem dX6_six_41 : decode cX6_six 41 = .ok (.bipush 27, 2) := dk_16 27 (dk_at dksX6_six_1 17 rfl rfl)
theorem dX6_six_43 : decode cX6_six 43 = .ok (.iload 6, 2) := dk_21 6 (dk_at dksX6_six_1 19 rfl rfl)
theorem dX6_six_45 : decode cX6_six 45 = .ok (.imul, 1) := dk_104 (dk_at dksX6_six_1 21 rfl rfl)
theorem dX6_six_46 : decode cX6_six 46 = .ok (.iload 4, 2) := dk_21 4 (dk_at dksX6_six_1 22 rfl rfl)
theorem dX6_six_48 : decode cX6_six 48 = .ok (.iadd, 1) := dk_96 (dk_at dksX6_six_2 0 rfl rfl)
theorem dX6_six_49 : decode cX6_six 49 = .ok (.istore 6, 2) := dk_54 6 (dk_at dksX6_six_2 1 rfl rfl)
theorem dX6_six_51 : decode cX6_six 51 = .ok (.iload 5, 2) := dk_21 5 (dk_at dksX6_six_2 3 rfl rfl)
theorem dX6_six_53 : decode cX6_six 53 = .ok (.ifCond .ne 8, 3) := dk_154 0 8 (dk_at dksX6_six_2 5 rfl rfl)
theorem dX6_six_56 : decode cX6_six 56 = .ok (.iload 6, 2) := dk_21 6 (dk_at dksX6_six_2 8 rfl rfl)
theorem dX6_six_58 : decode cX6_six 58 = .ok (.goto 11, 3) := dk_167 0 11 (dk_at dksX6_six_2 10 rfl rfl)
theorem dX6_six_61 : decode cX6_six 61 = .ok (.bipush 27, 2) := dk_16 27 (dk_at dksX6_six_2 13 rfl rfl)
theorem dX6_six_63 : decode cX6_six 63 = .ok (.iload 6, 2) := dk_21 6 (dk_at dksX6_six_2 15 rfl rfl)
theorem dX6_six_65 : decode cX6_six 65 = .ok (.imul, 1) := dk_104 (dk_at dksX6_six_2 17 rfl rfl)
theorem dX6_six_66 : decode cX6_six 66 = .ok (.iload 5, 2) := dk_21 5 (dk_at dksX6_six_2 18 rfl rfl)
theorem dX6_six_68 : decode cX6_six 68 = .ok (.iadd, 1) := dk_96 (dk_at dksX6_six_2 20 rfl rfl)
theorem dX6_six_69 : decode cX6_six 69 = .ok (.ireturn, 1) := dk_172 (dk_at dksX6_six_2 21 rfl rfl)
abbrev cX6_wrong : ByteArray := prog_34_method_12_code
def yX6_wrong : MethodName := ⟨RX6, "wrong", "(II)V"⟩
def dkwX6_wrong_0 : List UInt8 := [42, 180, 0, 111, 154, 0, 13, 42, 27, 181, 0, 111, 42, 28, 181, 0, 114, 177]
abbrev dktX6_wrong_0 : List UInt8 := dkwX6_wrong_0 ++ []
theorem dksX6_wrong_0 : cX6_wrong.data.toList.drop 0 = dktX6_wrong_0 := by decide +kernel
theorem dX6_wrong_0 : decode cX6_wrong 0 = .ok (.aload_n 0, 1) := dk_42 (dk_at dksX6_wrong_0 0 rfl rfl)
theorem dX6_wrong_1 : decode cX6_wrong 1 = .ok (.getfield 111, 3) := dk_180 0 111 (dk_at dksX6_wrong_0 1 rfl rfl)
theorem dX6_wrong_4 : decode cX6_wrong 4 = .ok (.ifCond .ne 13, 3) := dk_154 0 13 (dk_at dksX6_wrong_0 4 rfl rfl)
theorem dX6_wrong_7 : decode cX6_wrong 7 = .ok (.aload_n 0, 1) := dk_42 (dk_at dksX6_wrong_0 7 rfl rfl)
theorem dX6_wrong_8 : decode cX6_wrong 8 = .ok (.iload_n 1, 1) := dk_27 (dk_at dksX6_wrong_0 8 rfl rfl)
theorem dX6_wrong_9 : decode cX6_wrong 9 = .ok (.putfield 111, 3) := dk_181 0 111 (dk_at dksX6_wrong_0 9 rfl rfl)
theorem dX6_wrong_12 : decode cX6_wrong 12 = .ok (.aload_n 0, 1) := dk_42 (dk_at dksX6_wrong_0 12 rfl rfl)
theorem dX6_wrong_13 : decode cX6_wrong 13 = .ok (.iload_n 2, 1) := dk_28 (dk_at dksX6_wrong_0 13 rfl rfl)
theorem dX6_wrong_14 : decode cX6_wrong 14 = .ok (.putfield 114, 3) := dk_181 0 114 (dk_at dksX6_wrong_0 14 rfl rfl)
theorem dX6_wrong_17 : decode cX6_wrong 17 = .ok (.return_, 1) := dk_177 (dk_at dksX6_wrong_0 17 rfl rfl)
abbrev cX6_mostOf : ByteArray := prog_34_method_26_code
def yX6_mostOf : MethodName := ⟨RX6, "mostOf", "(I)I"⟩
def dkwX6_mostOf_0 : List UInt8 := [26, 154, 0, 8, 16, 7, 167, 0, 15, 26, 4, 160, 0, 8, 16, 20, 167, 0, 5, 16, 12, 172]
abbrev dktX6_mostOf_0 : List UInt8 := dkwX6_mostOf_0 ++ []
theorem dksX6_mostOf_0 : cX6_mostOf.data.toList.drop 0 = dktX6_mostOf_0 := by decide +kernel
theorem dX6_mostOf_0 : decode cX6_mostOf 0 = .ok (.iload_n 0, 1) := dk_26 (dk_at dksX6_mostOf_0 0 rfl rfl)
theorem dX6_mostOf_1 : decode cX6_mostOf 1 = .ok (.ifCond .ne 8, 3) := dk_154 0 8 (dk_at dksX6_mostOf_0 1 rfl rfl)
theorem dX6_mostOf_4 : decode cX6_mostOf 4 = .ok (.bipush 7, 2) := dk_16 7 (dk_at dksX6_mostOf_0 4 rfl rfl)
theorem dX6_mostOf_6 : decode cX6_mostOf 6 = .ok (.goto 15, 3) := dk_167 0 15 (dk_at dksX6_mostOf_0 6 rfl rfl)
theorem dX6_mostOf_9 : decode cX6_mostOf 9 = .ok (.iload_n 0, 1) := dk_26 (dk_at dksX6_mostOf_0 9 rfl rfl)
theorem dX6_mostOf_10 : decode cX6_mostOf 10 = .ok (.iconst 1, 1) := dk_4 (dk_at dksX6_mostOf_0 10 rfl rfl)
theorem dX6_mostOf_11 : decode cX6_mostOf 11 = .ok (.if_icmp .ne 8, 3) := dk_160 0 8 (dk_at dksX6_mostOf_0 11 rfl rfl)
theorem dX6_mostOf_14 : decode cX6_mostOf 14 = .ok (.bipush 20, 2) := dk_16 20 (dk_at dksX6_mostOf_0 14 rfl rfl)
theorem dX6_mostOf_16 : decode cX6_mostOf 16 = .ok (.goto 5, 3) := dk_167 0 5 (dk_at dksX6_mostOf_0 16 rfl rfl)
theorem dX6_mostOf_19 : decode cX6_mostOf 19 = .ok (.bipush 12, 2) := dk_16 12 (dk_at dksX6_mostOf_0 19 rfl rfl)
theorem dX6_mostOf_21 : decode cX6_mostOf 21 = .ok (.ireturn, 1) := dk_172 (dk_at dksX6_mostOf_0 21 rfl rfl)
abbrev cX6_skipWord : ByteArray := prog_34_method_19_code
def yX6_skipWord : MethodName := ⟨RX6, "skipWord", "()V"⟩
def dkwX6_skipWord_1 : List UInt8 := [167, 255, 232, 177]
abbrev dktX6_skipWord_1 : List UInt8 := dkwX6_skipWord_1 ++ []
def dkwX6_skipWord_0 : List UInt8 := [42, 42, 180, 0, 104, 182, 0, 107, 184, 0, 133, 153, 0, 16, 42, 89, 180, 0, 104, 4, 96, 181, 0, 104]
abbrev dktX6_skipWord_0 : List UInt8 := dkwX6_skipWord_0 ++ dktX6_skipWord_1
theorem dksX6_skipWord_0 : cX6_skipWord.data.toList.drop 0 = dktX6_skipWord_0 := by decide +kernel
theorem dksX6_skipWord_1 : cX6_skipWord.data.toList.drop 24 = dktX6_skipWord_1 := dk_seg dksX6_skipWord_0 24 rfl rfl
theorem dX6_skipWord_0 : decode cX6_skipWord 0 = .ok (.aload_n 0, 1) := dk_42 (dk_at dksX6_skipWord_0 0 rfl rfl)
theorem dX6_skipWord_1 : decode cX6_skipWord 1 = .ok (.aload_n 0, 1) := dk_42 (dk_at dksX6_skipWord_0 1 rfl rfl)
theorem dX6_skipWord_2 : decode cX6_skipWord 2 = .ok (.getfield 104, 3) := dk_180 0 104 (dk_at dksX6_skipWord_0 2 rfl rfl)
theorem dX6_skipWord_5 : decode cX6_skipWord 5 = .ok (.invokevirtual 107, 3) := dk_182 0 107 (dk_at dksX6_skipWord_0 5 rfl rfl)
theorem dX6_skipWord_8 : decode cX6_skipWord 8 = .ok (.invokestatic 133, 3) := dk_184 0 133 (dk_at dksX6_skipWord_0 8 rfl rfl)
theorem dX6_skipWord_11 : decode cX6_skipWord 11 = .ok (.ifCond .eq 16, 3) := dk_153 0 16 (dk_at dksX6_skipWord_0 11 rfl rfl)
theorem dX6_skipWord_14 : decode cX6_skipWord 14 = .ok (.aload_n 0, 1) := dk_42 (dk_at dksX6_skipWord_0 14 rfl rfl)
theorem dX6_skipWord_15 : decode cX6_skipWord 15 = .ok (.dup, 1) := dk_89 (dk_at dksX6_skipWord_0 15 rfl rfl)
theorem dX6_skipWord_16 : decode cX6_skipWord 16 = .ok (.getfield 104, 3) := dk_180 0 104 (dk_at dksX6_skipWord_0 16 rfl rfl)
theorem dX6_skipWord_19 : decode cX6_skipWord 19 = .ok (.iconst 1, 1) := dk_4 (dk_at dksX6_skipWord_0 19 rfl rfl)
theorem dX6_skipWord_20 : decode cX6_skipWord 20 = .ok (.iadd, 1) := dk_96 (dk_at dksX6_skipWord_0 20 rfl rfl)
theorem dX6_skipWord_21 : decode cX6_skipWord 21 = .ok (.putfield 104, 3) := dk_181 0 104 (dk_at dksX6_skipWord_0 21 rfl rfl)
theorem dX6_skipWord_24 : decode cX6_skipWord 24 = .ok (.goto (-24), 3) := dk_167 255 232 (dk_at dksX6_skipWord_1 0 rfl rfl)
theorem dX6_skipWord_27 : decode cX6_skipWord 27 = .ok (.return_, 1) := dk_177 (dk_at dksX6_skipWord_1 3 rfl rfl)
abbrev cX6_number : ByteArray := prog_34_method_15_code
def yX6_number : MethodName := ⟨RX6, "number", "(II)I"⟩
def dkwX6_number_5 : List UInt8 := [154, 0, 9, 42, 5, 29, 182, 0, 124, 42, 180, 0, 111, 154, 0, 8, 21, 4, 167, 0, 4, 3, 172]
abbrev dktX6_number_5 : List UInt8 := dkwX6_number_5 ++ []
def dkwX6_number_4 : List UInt8 := [54, 4, 42, 89, 180, 0, 104, 4, 96, 181, 0, 104, 167, 255, 197, 21, 4, 27, 28, 184, 0, 129]
abbrev dktX6_number_4 : List UInt8 := dkwX6_number_4 ++ dktX6_number_5
def dkwX6_number_3 : List UInt8 := [182, 0, 107, 96, 16, 48, 100, 54, 4, 21, 4, 18, 128, 164, 0, 8, 18, 128, 167, 0, 5, 21, 4]
abbrev dktX6_number_3 : List UInt8 := dkwX6_number_3 ++ dktX6_number_4
def dkwX6_number_2 : List UInt8 := [180, 0, 104, 182, 0, 107, 184, 0, 120, 153, 0, 51, 16, 10, 21, 4, 104, 42, 42, 180, 0, 104]
abbrev dktX6_number_2 : List UInt8 := dkwX6_number_2 ++ dktX6_number_3
def dkwX6_number_1 : List UInt8 := [180, 0, 104, 182, 0, 107, 184, 0, 120, 154, 0, 12, 42, 4, 42, 180, 0, 104, 182, 0, 124, 42, 42]
abbrev dktX6_number_1 : List UInt8 := dkwX6_number_1 ++ dktX6_number_2
def dkwX6_number_0 : List UInt8 := [42, 180, 0, 111, 153, 0, 5, 3, 172, 42, 182, 0, 117, 42, 180, 0, 104, 62, 3, 54, 4, 42, 42]
abbrev dktX6_number_0 : List UInt8 := dkwX6_number_0 ++ dktX6_number_1
theorem dksX6_number_0 : cX6_number.data.toList.drop 0 = dktX6_number_0 := by decide +kernel
theorem dksX6_number_1 : cX6_number.data.toList.drop 23 = dktX6_number_1 := dk_seg dksX6_number_0 23 rfl rfl
theorem dksX6_number_2 : cX6_number.data.toList.drop 46 = dktX6_number_2 := dk_seg dksX6_number_1 23 rfl rfl
theorem dksX6_number_3 : cX6_number.data.toList.drop 68 = dktX6_number_3 := dk_seg dksX6_number_2 22 rfl rfl
theorem dksX6_number_4 : cX6_number.data.toList.drop 91 = dktX6_number_4 := dk_seg dksX6_number_3 23 rfl rfl
theorem dksX6_number_5 : cX6_number.data.toList.drop 113 = dktX6_number_5 := dk_seg dksX6_number_4 22 rfl rfl
theorem dX6_number_0 : decode cX6_number 0 = .ok (.aload_n 0, 1) := dk_42 (dk_at dksX6_number_0 0 rfl rfl)
theorem dX6_number_1 : decode cX6_number 1 = .ok (.getfield 111, 3) := dk_180 0 111 (dk_at dksX6_number_0 1 rfl rfl)
theorem dX6_number_4 : decode cX6_number 4 = .ok (.ifCond .eq 5, 3) := dk_153 0 5 (dk_at dksX6_number_0 4 rfl rfl)
theorem dX6_number_7 : decode cX6_number 7 = .ok (.iconst 0, 1) := dk_3 (dk_at dksX6_number_0 7 rfl rfl)
theorem dX6_number_8 : decode cX6_number 8 = .ok (.ireturn, 1) := dk_172 (dk_at dksX6_number_0 8 rfl rfl)
theorem dX6_number_9 : decode cX6_number 9 = .ok (.aload_n 0, 1) := dk_42 (dk_at dksX6_number_0 9 rfl rfl)
theorem dX6_number_10 : decode cX6_number 10 = .ok (.invokevirtual 117, 3) := dk_182 0 117 (dk_at dksX6_number_0 10 rfl rfl)
theorem dX6_number_13 : decode cX6_number 13 = .ok (.aload_n 0, 1) := dk_42 (dk_at dksX6_number_0 13 rfl rfl)
theorem dX6_number_14 : decode cX6_number 14 = .ok (.getfield 104, 3) := dk_180 0 104 (dk_at dksX6_number_0 14 rfl rfl)
theorem dX6_number_17 : decode cX6_number 17 = .ok (.istore_n 3, 1) := dk_62 (dk_at dksX6_number_0 17 rfl rfl)
theorem dX6_number_18 : decode cX6_number 18 = .ok (.iconst 0, 1) := dk_3 (dk_at dksX6_number_0 18 rfl rfl)
theorem dX6_number_19 : decode cX6_number 19 = .ok (.istore 4, 2) := dk_54 4 (dk_at dksX6_number_0 19 rfl rfl)
theorem dX6_number_21 : decode cX6_number 21 = .ok (.aload_n 0, 1) := dk_42 (dk_at dksX6_number_0 21 rfl rfl)
theorem dX6_number_22 : decode cX6_number 22 = .ok (.aload_n 0, 1) := dk_42 (dk_at dksX6_number_0 22 rfl rfl)
theorem dX6_number_23 : decode cX6_number 23 = .ok (.getfield 104, 3) := dk_180 0 104 (dk_at dksX6_number_1 0 rfl rfl)
theorem dX6_number_26 : decode cX6_number 26 = .ok (.invokevirtual 107, 3) := dk_182 0 107 (dk_at dksX6_number_1 3 rfl rfl)
theorem dX6_number_29 : decode cX6_number 29 = .ok (.invokestatic 120, 3) := dk_184 0 120 (dk_at dksX6_number_1 6 rfl rfl)
theorem dX6_number_32 : decode cX6_number 32 = .ok (.ifCond .ne 12, 3) := dk_154 0 12 (dk_at dksX6_number_1 9 rfl rfl)
theorem dX6_number_35 : decode cX6_number 35 = .ok (.aload_n 0, 1) := dk_42 (dk_at dksX6_number_1 12 rfl rfl)
theorem dX6_number_36 : decode cX6_number 36 = .ok (.iconst 1, 1) := dk_4 (dk_at dksX6_number_1 13 rfl rfl)
theorem dX6_number_37 : decode cX6_number 37 = .ok (.aload_n 0, 1) := dk_42 (dk_at dksX6_number_1 14 rfl rfl)
theorem dX6_number_38 : decode cX6_number 38 = .ok (.getfield 104, 3) := dk_180 0 104 (dk_at dksX6_number_1 15 rfl rfl)
theorem dX6_number_41 : decode cX6_number 41 = .ok (.invokevirtual 124, 3) := dk_182 0 124 (dk_at dksX6_number_1 18 rfl rfl)
theorem dX6_number_44 : decode cX6_number 44 = .ok (.aload_n 0, 1) := dk_42 (dk_at dksX6_number_1 21 rfl rfl)
theorem dX6_number_45 : decode cX6_number 45 = .ok (.aload_n 0, 1) := dk_42 (dk_at dksX6_number_1 22 rfl rfl)
theorem dX6_number_46 : decode cX6_number 46 = .ok (.getfield 104, 3) := dk_180 0 104 (dk_at dksX6_number_2 0 rfl rfl)
theorem dX6_number_49 : decode cX6_number 49 = .ok (.invokevirtual 107, 3) := dk_182 0 107 (dk_at dksX6_number_2 3 rfl rfl)
theorem dX6_number_52 : decode cX6_number 52 = .ok (.invokestatic 120, 3) := dk_184 0 120 (dk_at dksX6_number_2 6 rfl rfl)
theorem dX6_number_55 : decode cX6_number 55 = .ok (.ifCond .eq 51, 3) := dk_153 0 51 (dk_at dksX6_number_2 9 rfl rfl)
theorem dX6_number_58 : decode cX6_number 58 = .ok (.bipush 10, 2) := dk_16 10 (dk_at dksX6_number_2 12 rfl rfl)
theorem dX6_number_60 : decode cX6_number 60 = .ok (.iload 4, 2) := dk_21 4 (dk_at dksX6_number_2 14 rfl rfl)
theorem dX6_number_62 : decode cX6_number 62 = .ok (.imul, 1) := dk_104 (dk_at dksX6_number_2 16 rfl rfl)
theorem dX6_number_63 : decode cX6_number 63 = .ok (.aload_n 0, 1) := dk_42 (dk_at dksX6_number_2 17 rfl rfl)
theorem dX6_number_64 : decode cX6_number 64 = .ok (.aload_n 0, 1) := dk_42 (dk_at dksX6_number_2 18 rfl rfl)
theorem dX6_number_65 : decode cX6_number 65 = .ok (.getfield 104, 3) := dk_180 0 104 (dk_at dksX6_number_2 19 rfl rfl)
theorem dX6_number_68 : decode cX6_number 68 = .ok (.invokevirtual 107, 3) := dk_182 0 107 (dk_at dksX6_number_3 0 rfl rfl)
theorem dX6_number_71 : decode cX6_number 71 = .ok (.iadd, 1) := dk_96 (dk_at dksX6_number_3 3 rfl rfl)
theorem dX6_number_72 : decode cX6_number 72 = .ok (.bipush 48, 2) := dk_16 48 (dk_at dksX6_number_3 4 rfl rfl)
theorem dX6_number_74 : decode cX6_number 74 = .ok (.isub, 1) := dk_100 (dk_at dksX6_number_3 6 rfl rfl)
theorem dX6_number_75 : decode cX6_number 75 = .ok (.istore 4, 2) := dk_54 4 (dk_at dksX6_number_3 7 rfl rfl)
theorem dX6_number_77 : decode cX6_number 77 = .ok (.iload 4, 2) := dk_21 4 (dk_at dksX6_number_3 9 rfl rfl)
theorem dX6_number_79 : decode cX6_number 79 = .ok (.ldc 128, 2) := dk_18 128 (dk_at dksX6_number_3 11 rfl rfl)
theorem dX6_number_81 : decode cX6_number 81 = .ok (.if_icmp .le 8, 3) := dk_164 0 8 (dk_at dksX6_number_3 13 rfl rfl)
theorem dX6_number_84 : decode cX6_number 84 = .ok (.ldc 128, 2) := dk_18 128 (dk_at dksX6_number_3 16 rfl rfl)
theorem dX6_number_86 : decode cX6_number 86 = .ok (.goto 5, 3) := dk_167 0 5 (dk_at dksX6_number_3 18 rfl rfl)
theorem dX6_number_89 : decode cX6_number 89 = .ok (.iload 4, 2) := dk_21 4 (dk_at dksX6_number_3 21 rfl rfl)
theorem dX6_number_91 : decode cX6_number 91 = .ok (.istore 4, 2) := dk_54 4 (dk_at dksX6_number_4 0 rfl rfl)
theorem dX6_number_93 : decode cX6_number 93 = .ok (.aload_n 0, 1) := dk_42 (dk_at dksX6_number_4 2 rfl rfl)
theorem dX6_number_94 : decode cX6_number 94 = .ok (.dup, 1) := dk_89 (dk_at dksX6_number_4 3 rfl rfl)
theorem dX6_number_95 : decode cX6_number 95 = .ok (.getfield 104, 3) := dk_180 0 104 (dk_at dksX6_number_4 4 rfl rfl)
theorem dX6_number_98 : decode cX6_number 98 = .ok (.iconst 1, 1) := dk_4 (dk_at dksX6_number_4 7 rfl rfl)
theorem dX6_number_99 : decode cX6_number 99 = .ok (.iadd, 1) := dk_96 (dk_at dksX6_number_4 8 rfl rfl)
theorem dX6_number_100 : decode cX6_number 100 = .ok (.putfield 104, 3) := dk_181 0 104 (dk_at dksX6_number_4 9 rfl rfl)
theorem dX6_number_103 : decode cX6_number 103 = .ok (.goto (-59), 3) := dk_167 255 197 (dk_at dksX6_number_4 12 rfl rfl)
theorem dX6_number_106 : decode cX6_number 106 = .ok (.iload 4, 2) := dk_21 4 (dk_at dksX6_number_4 15 rfl rfl)
theorem dX6_number_108 : decode cX6_number 108 = .ok (.iload_n 1, 1) := dk_27 (dk_at dksX6_number_4 17 rfl rfl)
theorem dX6_number_109 : decode cX6_number 109 = .ok (.iload_n 2, 1) := dk_28 (dk_at dksX6_number_4 18 rfl rfl)
theorem dX6_number_110 : decode cX6_number 110 = .ok (.invokestatic 129, 3) := dk_184 0 129 (dk_at dksX6_number_4 19 rfl rfl)
theorem dX6_number_113 : decode cX6_number 113 = .ok (.ifCond .ne 9, 3) := dk_154 0 9 (dk_at dksX6_number_5 0 rfl rfl)
theorem dX6_number_116 : decode cX6_number 116 = .ok (.aload_n 0, 1) := dk_42 (dk_at dksX6_number_5 3 rfl rfl)
theorem dX6_number_117 : decode cX6_number 117 = .ok (.iconst 2, 1) := dk_5 (dk_at dksX6_number_5 4 rfl rfl)
theorem dX6_number_118 : decode cX6_number 118 = .ok (.iload_n 3, 1) := dk_29 (dk_at dksX6_number_5 5 rfl rfl)
theorem dX6_number_119 : decode cX6_number 119 = .ok (.invokevirtual 124, 3) := dk_182 0 124 (dk_at dksX6_number_5 6 rfl rfl)
theorem dX6_number_122 : decode cX6_number 122 = .ok (.aload_n 0, 1) := dk_42 (dk_at dksX6_number_5 9 rfl rfl)
theorem dX6_number_123 : decode cX6_number 123 = .ok (.getfield 111, 3) := dk_180 0 111 (dk_at dksX6_number_5 10 rfl rfl)
theorem dX6_number_126 : decode cX6_number 126 = .ok (.ifCond .ne 8, 3) := dk_154 0 8 (dk_at dksX6_number_5 13 rfl rfl)
theorem dX6_number_129 : decode cX6_number 129 = .ok (.iload 4, 2) := dk_21 4 (dk_at dksX6_number_5 16 rfl rfl)
theorem dX6_number_131 : decode cX6_number 131 = .ok (.goto 4, 3) := dk_167 0 4 (dk_at dksX6_number_5 18 rfl rfl)
theorem dX6_number_134 : decode cX6_number 134 = .ok (.iconst 0, 1) := dk_3 (dk_at dksX6_number_5 21 rfl rfl)
theorem dX6_number_135 : decode cX6_number 135 = .ok (.ireturn, 1) := dk_172 (dk_at dksX6_number_5 22 rfl rfl)
abbrev cX6_isDigit : ByteArray := prog_34_method_13_code
def yX6_isDigit : MethodName := ⟨RX6, "isDigit", "(I)Z"⟩
def dkwX6_isDigit_0 : List UInt8 := [26, 16, 48, 161, 0, 13, 26, 16, 57, 163, 0, 7, 4, 167, 0, 4, 3, 172]
abbrev dktX6_isDigit_0 : List UInt8 := dkwX6_isDigit_0 ++ []
theorem dksX6_isDigit_0 : cX6_isDigit.data.toList.drop 0 = dktX6_isDigit_0 := by decide +kernel
theorem dX6_isDigit_0 : decode cX6_isDigit 0 = .ok (.iload_n 0, 1) := dk_26 (dk_at dksX6_isDigit_0 0 rfl rfl)
theorem dX6_isDigit_1 : decode cX6_isDigit 1 = .ok (.bipush 48, 2) := dk_16 48 (dk_at dksX6_isDigit_0 1 rfl rfl)
theorem dX6_isDigit_3 : decode cX6_isDigit 3 = .ok (.if_icmp .lt 13, 3) := dk_161 0 13 (dk_at dksX6_isDigit_0 3 rfl rfl)
theorem dX6_isDigit_6 : decode cX6_isDigit 6 = .ok (.iload_n 0, 1) := dk_26 (dk_at dksX6_isDigit_0 6 rfl rfl)
theorem dX6_isDigit_7 : decode cX6_isDigit 7 = .ok (.bipush 57, 2) := dk_16 57 (dk_at dksX6_isDigit_0 7 rfl rfl)
theorem dX6_isDigit_9 : decode cX6_isDigit 9 = .ok (.if_icmp .gt 7, 3) := dk_163 0 7 (dk_at dksX6_isDigit_0 9 rfl rfl)
theorem dX6_isDigit_12 : decode cX6_isDigit 12 = .ok (.iconst 1, 1) := dk_4 (dk_at dksX6_isDigit_0 12 rfl rfl)
theorem dX6_isDigit_13 : decode cX6_isDigit 13 = .ok (.goto 4, 3) := dk_167 0 4 (dk_at dksX6_isDigit_0 13 rfl rfl)
theorem dX6_isDigit_16 : decode cX6_isDigit 16 = .ok (.iconst 0, 1) := dk_3 (dk_at dksX6_isDigit_0 16 rfl rfl)
theorem dX6_isDigit_17 : decode cX6_isDigit 17 = .ok (.ireturn, 1) := dk_172 (dk_at dksX6_isDigit_0 17 rfl rfl)
abbrev cX6_sign : ByteArray := prog_34_method_21_code
def yX6_sign : MethodName := ⟨RX6, "sign", "(I)V"⟩
def dkwX6_sign_1 : List UInt8 := [42, 89, 180, 0, 104, 4, 96, 181, 0, 104, 167, 0, 12, 42, 4, 42, 180, 0, 104, 182, 0, 124, 177]
abbrev dktX6_sign_1 : List UInt8 := dkwX6_sign_1 ++ []
def dkwX6_sign_0 : List UInt8 := [42, 180, 0, 111, 153, 0, 4, 177, 42, 182, 0, 117, 42, 42, 180, 0, 104, 182, 0, 107, 27, 160, 0, 16]
abbrev dktX6_sign_0 : List UInt8 := dkwX6_sign_0 ++ dktX6_sign_1
theorem dksX6_sign_0 : cX6_sign.data.toList.drop 0 = dktX6_sign_0 := by decide +kernel
theorem dksX6_sign_1 : cX6_sign.data.toList.drop 24 = dktX6_sign_1 := dk_seg dksX6_sign_0 24 rfl rfl
theorem dX6_sign_0 : decode cX6_sign 0 = .ok (.aload_n 0, 1) := dk_42 (dk_at dksX6_sign_0 0 rfl rfl)
theorem dX6_sign_1 : decode cX6_sign 1 = .ok (.getfield 111, 3) := dk_180 0 111 (dk_at dksX6_sign_0 1 rfl rfl)
theorem dX6_sign_4 : decode cX6_sign 4 = .ok (.ifCond .eq 4, 3) := dk_153 0 4 (dk_at dksX6_sign_0 4 rfl rfl)
theorem dX6_sign_7 : decode cX6_sign 7 = .ok (.return_, 1) := dk_177 (dk_at dksX6_sign_0 7 rfl rfl)
theorem dX6_sign_8 : decode cX6_sign 8 = .ok (.aload_n 0, 1) := dk_42 (dk_at dksX6_sign_0 8 rfl rfl)
theorem dX6_sign_9 : decode cX6_sign 9 = .ok (.invokevirtual 117, 3) := dk_182 0 117 (dk_at dksX6_sign_0 9 rfl rfl)
theorem dX6_sign_12 : decode cX6_sign 12 = .ok (.aload_n 0, 1) := dk_42 (dk_at dksX6_sign_0 12 rfl rfl)
theorem dX6_sign_13 : decode cX6_sign 13 = .ok (.aload_n 0, 1) := dk_42 (dk_at dksX6_sign_0 13 rfl rfl)
theorem dX6_sign_14 : decode cX6_sign 14 = .ok (.getfield 104, 3) := dk_180 0 104 (dk_at dksX6_sign_0 14 rfl rfl)
theorem dX6_sign_17 : decode cX6_sign 17 = .ok (.invokevirtual 107, 3) := dk_182 0 107 (dk_at dksX6_sign_0 17 rfl rfl)
theorem dX6_sign_20 : decode cX6_sign 20 = .ok (.iload_n 1, 1) := dk_27 (dk_at dksX6_sign_0 20 rfl rfl)
theorem dX6_sign_21 : decode cX6_sign 21 = .ok (.if_icmp .ne 16, 3) := dk_160 0 16 (dk_at dksX6_sign_0 21 rfl rfl)
theorem dX6_sign_24 : decode cX6_sign 24 = .ok (.aload_n 0, 1) := dk_42 (dk_at dksX6_sign_1 0 rfl rfl)
theorem dX6_sign_25 : decode cX6_sign 25 = .ok (.dup, 1) := dk_89 (dk_at dksX6_sign_1 1 rfl rfl)
theorem dX6_sign_26 : decode cX6_sign 26 = .ok (.getfield 104, 3) := dk_180 0 104 (dk_at dksX6_sign_1 2 rfl rfl)
theorem dX6_sign_29 : decode cX6_sign 29 = .ok (.iconst 1, 1) := dk_4 (dk_at dksX6_sign_1 5 rfl rfl)
theorem dX6_sign_30 : decode cX6_sign 30 = .ok (.iadd, 1) := dk_96 (dk_at dksX6_sign_1 6 rfl rfl)
theorem dX6_sign_31 : decode cX6_sign 31 = .ok (.putfield 104, 3) := dk_181 0 104 (dk_at dksX6_sign_1 7 rfl rfl)
theorem dX6_sign_34 : decode cX6_sign 34 = .ok (.goto 12, 3) := dk_167 0 12 (dk_at dksX6_sign_1 10 rfl rfl)
theorem dX6_sign_37 : decode cX6_sign 37 = .ok (.aload_n 0, 1) := dk_42 (dk_at dksX6_sign_1 13 rfl rfl)
theorem dX6_sign_38 : decode cX6_sign 38 = .ok (.iconst 1, 1) := dk_4 (dk_at dksX6_sign_1 14 rfl rfl)
theorem dX6_sign_39 : decode cX6_sign 39 = .ok (.aload_n 0, 1) := dk_42 (dk_at dksX6_sign_1 15 rfl rfl)
theorem dX6_sign_40 : decode cX6_sign 40 = .ok (.getfield 104, 3) := dk_180 0 104 (dk_at dksX6_sign_1 16 rfl rfl)
theorem dX6_sign_43 : decode cX6_sign 43 = .ok (.invokevirtual 124, 3) := dk_182 0 124 (dk_at dksX6_sign_1 19 rfl rfl)
theorem dX6_sign_46 : decode cX6_sign 46 = .ok (.return_, 1) := dk_177 (dk_at dksX6_sign_1 22 rfl rfl)
abbrev cX6_ends : ByteArray := prog_34_method_24_code
def yX6_ends : MethodName := ⟨RX6, "ends", "()I"⟩
def dkwX6_ends_0 : List UInt8 := [42, 42, 180, 0, 114, 181, 0, 9, 42, 180, 0, 111, 16, 10, 100, 172]
abbrev dktX6_ends_0 : List UInt8 := dkwX6_ends_0 ++ []
theorem dksX6_ends_0 : cX6_ends.data.toList.drop 0 = dktX6_ends_0 := by decide +kernel
theorem dX6_ends_0 : decode cX6_ends 0 = .ok (.aload_n 0, 1) := dk_42 (dk_at dksX6_ends_0 0 rfl rfl)
theorem dX6_ends_1 : decode cX6_ends 1 = .ok (.aload_n 0, 1) := dk_42 (dk_at dksX6_ends_0 1 rfl rfl)
theorem dX6_ends_2 : decode cX6_ends 2 = .ok (.getfield 114, 3) := dk_180 0 114 (dk_at dksX6_ends_0 2 rfl rfl)
theorem dX6_ends_5 : decode cX6_ends 5 = .ok (.putfield 9, 3) := dk_181 0 9 (dk_at dksX6_ends_0 5 rfl rfl)
theorem dX6_ends_8 : decode cX6_ends 8 = .ok (.aload_n 0, 1) := dk_42 (dk_at dksX6_ends_0 8 rfl rfl)
theorem dX6_ends_9 : decode cX6_ends 9 = .ok (.getfield 111, 3) := dk_180 0 111 (dk_at dksX6_ends_0 9 rfl rfl)
theorem dX6_ends_12 : decode cX6_ends 12 = .ok (.bipush 10, 2) := dk_16 10 (dk_at dksX6_ends_0 12 rfl rfl)
theorem dX6_ends_14 : decode cX6_ends 14 = .ok (.isub, 1) := dk_100 (dk_at dksX6_ends_0 14 rfl rfl)
theorem dX6_ends_15 : decode cX6_ends 15 = .ok (.ireturn, 1) := dk_172 (dk_at dksX6_ends_0 15 rfl rfl)
abbrev cX6_law : ByteArray := prog_34_method_39_code
def yX6_law : MethodName := ⟨RX6, "law", "(I)I"⟩
def dkwX6_law_5 : List UInt8 := [180, 0, 46, 42, 180, 0, 192, 184, 0, 184, 4, 172]
abbrev dktX6_law_5 : List UInt8 := dkwX6_law_5 ++ []
def dkwX6_law_4 : List UInt8 := [182, 0, 181, 172, 42, 2, 181, 0, 9, 42, 42, 180, 0, 207, 181, 0, 192, 42, 180, 0, 49, 42]
abbrev dktX6_law_4 : List UInt8 := dkwX6_law_4 ++ dktX6_law_5
def dkwX6_law_3 : List UInt8 := [180, 0, 101, 162, 0, 12, 42, 4, 42, 180, 0, 104, 182, 0, 124, 42, 180, 0, 111, 153, 0, 8, 42]
abbrev dktX6_law_3 : List UInt8 := dkwX6_law_3 ++ dktX6_law_4
def dkwX6_law_2 : List UInt8 := [3, 181, 0, 207, 42, 182, 0, 229, 42, 182, 0, 117, 42, 180, 0, 111, 154, 0, 23, 42, 180, 0, 104, 42]
abbrev dktX6_law_2 : List UInt8 := dkwX6_law_2 ++ dktX6_law_3
def dkwX6_law_1 : List UInt8 := [164, 0, 7, 4, 167, 0, 4, 3, 4, 4, 182, 0, 171, 153, 0, 5, 3, 172, 42, 27, 182, 0, 175, 42]
abbrev dktX6_law_1 : List UInt8 := dkwX6_law_1 ++ dktX6_law_2
def dkwX6_law_0 : List UInt8 := [42, 3, 181, 0, 95, 42, 27, 3, 42, 180, 0, 98, 184, 0, 129, 153, 0, 10, 27, 17, 0, 150]
abbrev dktX6_law_0 : List UInt8 := dkwX6_law_0 ++ dktX6_law_1
theorem dksX6_law_0 : cX6_law.data.toList.drop 0 = dktX6_law_0 := by decide +kernel
theorem dksX6_law_1 : cX6_law.data.toList.drop 22 = dktX6_law_1 := dk_seg dksX6_law_0 22 rfl rfl
theorem dksX6_law_2 : cX6_law.data.toList.drop 46 = dktX6_law_2 := dk_seg dksX6_law_1 24 rfl rfl
theorem dksX6_law_3 : cX6_law.data.toList.drop 70 = dktX6_law_3 := dk_seg dksX6_law_2 24 rfl rfl
theorem dksX6_law_4 : cX6_law.data.toList.drop 93 = dktX6_law_4 := dk_seg dksX6_law_3 23 rfl rfl
theorem dksX6_law_5 : cX6_law.data.toList.drop 115 = dktX6_law_5 := dk_seg dksX6_law_4 22 rfl rfl
theorem dX6_law_0 : decode cX6_law 0 = .ok (.aload_n 0, 1) := dk_42 (dk_at dksX6_law_0 0 rfl rfl)
theorem dX6_law_1 : decode cX6_law 1 = .ok (.iconst 0, 1) := dk_3 (dk_at dksX6_law_0 1 rfl rfl)
theorem dX6_law_2 : decode cX6_law 2 = .ok (.putfield 95, 3) := dk_181 0 95 (dk_at dksX6_law_0 2 rfl rfl)
theorem dX6_law_5 : decode cX6_law 5 = .ok (.aload_n 0, 1) := dk_42 (dk_at dksX6_law_0 5 rfl rfl)
theorem dX6_law_6 : decode cX6_law 6 = .ok (.iload_n 1, 1) := dk_27 (dk_at dksX6_law_0 6 rfl rfl)
theorem dX6_law_7 : decode cX6_law 7 = .ok (.iconst 0, 1) := dk_3 (dk_at dksX6_law_0 7 rfl rfl)
theorem dX6_law_8 : decode cX6_law 8 = .ok (.aload_n 0, 1) := dk_42 (dk_at dksX6_law_0 8 rfl rfl)
theorem dX6_law_9 : decode cX6_law 9 = .ok (.getfield 98, 3) := dk_180 0 98 (dk_at dksX6_law_0 9 rfl rfl)
theorem dX6_law_12 : decode cX6_law 12 = .ok (.invokestatic 129, 3) := dk_184 0 129 (dk_at dksX6_law_0 12 rfl rfl)
theorem dX6_law_15 : decode cX6_law 15 = .ok (.ifCond .eq 10, 3) := dk_153 0 10 (dk_at dksX6_law_0 15 rfl rfl)
theorem dX6_law_18 : decode cX6_law 18 = .ok (.iload_n 1, 1) := dk_27 (dk_at dksX6_law_0 18 rfl rfl)
theorem dX6_law_19 : decode cX6_law 19 = .ok (.sipush 150, 3) := dk_17 0 150 (dk_at dksX6_law_0 19 rfl rfl)
theorem dX6_law_22 : decode cX6_law 22 = .ok (.if_icmp .le 7, 3) := dk_164 0 7 (dk_at dksX6_law_1 0 rfl rfl)
theorem dX6_law_25 : decode cX6_law 25 = .ok (.iconst 1, 1) := dk_4 (dk_at dksX6_law_1 3 rfl rfl)
theorem dX6_law_26 : decode cX6_law 26 = .ok (.goto 4, 3) := dk_167 0 4 (dk_at dksX6_law_1 4 rfl rfl)
theorem dX6_law_29 : decode cX6_law 29 = .ok (.iconst 0, 1) := dk_3 (dk_at dksX6_law_1 7 rfl rfl)
theorem dX6_law_30 : decode cX6_law 30 = .ok (.iconst 1, 1) := dk_4 (dk_at dksX6_law_1 8 rfl rfl)
theorem dX6_law_31 : decode cX6_law 31 = .ok (.iconst 1, 1) := dk_4 (dk_at dksX6_law_1 9 rfl rfl)
theorem dX6_law_32 : decode cX6_law 32 = .ok (.invokevirtual 171, 3) := dk_182 0 171 (dk_at dksX6_law_1 10 rfl rfl)
theorem dX6_law_35 : decode cX6_law 35 = .ok (.ifCond .eq 5, 3) := dk_153 0 5 (dk_at dksX6_law_1 13 rfl rfl)
theorem dX6_law_38 : decode cX6_law 38 = .ok (.iconst 0, 1) := dk_3 (dk_at dksX6_law_1 16 rfl rfl)
theorem dX6_law_39 : decode cX6_law 39 = .ok (.ireturn, 1) := dk_172 (dk_at dksX6_law_1 17 rfl rfl)
theorem dX6_law_40 : decode cX6_law 40 = .ok (.aload_n 0, 1) := dk_42 (dk_at dksX6_law_1 18 rfl rfl)
theorem dX6_law_41 : decode cX6_law 41 = .ok (.iload_n 1, 1) := dk_27 (dk_at dksX6_law_1 19 rfl rfl)
theorem dX6_law_42 : decode cX6_law 42 = .ok (.invokevirtual 175, 3) := dk_182 0 175 (dk_at dksX6_law_1 20 rfl rfl)
theorem dX6_law_45 : decode cX6_law 45 = .ok (.aload_n 0, 1) := dk_42 (dk_at dksX6_law_1 23 rfl rfl)
theorem dX6_law_46 : decode cX6_law 46 = .ok (.iconst 0, 1) := dk_3 (dk_at dksX6_law_2 0 rfl rfl)
theorem dX6_law_47 : decode cX6_law 47 = .ok (.putfield 207, 3) := dk_181 0 207 (dk_at dksX6_law_2 1 rfl rfl)
theorem dX6_law_50 : decode cX6_law 50 = .ok (.aload_n 0, 1) := dk_42 (dk_at dksX6_law_2 4 rfl rfl)
theorem dX6_law_51 : decode cX6_law 51 = .ok (.invokevirtual 229, 3) := dk_182 0 229 (dk_at dksX6_law_2 5 rfl rfl)
theorem dX6_law_54 : decode cX6_law 54 = .ok (.aload_n 0, 1) := dk_42 (dk_at dksX6_law_2 8 rfl rfl)
theorem dX6_law_55 : decode cX6_law 55 = .ok (.invokevirtual 117, 3) := dk_182 0 117 (dk_at dksX6_law_2 9 rfl rfl)
theorem dX6_law_58 : decode cX6_law 58 = .ok (.aload_n 0, 1) := dk_42 (dk_at dksX6_law_2 12 rfl rfl)
theorem dX6_law_59 : decode cX6_law 59 = .ok (.getfield 111, 3) := dk_180 0 111 (dk_at dksX6_law_2 13 rfl rfl)
theorem dX6_law_62 : decode cX6_law 62 = .ok (.ifCond .ne 23, 3) := dk_154 0 23 (dk_at dksX6_law_2 16 rfl rfl)
theorem dX6_law_65 : decode cX6_law 65 = .ok (.aload_n 0, 1) := dk_42 (dk_at dksX6_law_2 19 rfl rfl)
theorem dX6_law_66 : decode cX6_law 66 = .ok (.getfield 104, 3) := dk_180 0 104 (dk_at dksX6_law_2 20 rfl rfl)
theorem dX6_law_69 : decode cX6_law 69 = .ok (.aload_n 0, 1) := dk_42 (dk_at dksX6_law_2 23 rfl rfl)
theorem dX6_law_70 : decode cX6_law 70 = .ok (.getfield 101, 3) := dk_180 0 101 (dk_at dksX6_law_3 0 rfl rfl)
theorem dX6_law_73 : decode cX6_law 73 = .ok (.if_icmp .ge 12, 3) := dk_162 0 12 (dk_at dksX6_law_3 3 rfl rfl)
theorem dX6_law_76 : decode cX6_law 76 = .ok (.aload_n 0, 1) := dk_42 (dk_at dksX6_law_3 6 rfl rfl)
theorem dX6_law_77 : decode cX6_law 77 = .ok (.iconst 1, 1) := dk_4 (dk_at dksX6_law_3 7 rfl rfl)
theorem dX6_law_78 : decode cX6_law 78 = .ok (.aload_n 0, 1) := dk_42 (dk_at dksX6_law_3 8 rfl rfl)
theorem dX6_law_79 : decode cX6_law 79 = .ok (.getfield 104, 3) := dk_180 0 104 (dk_at dksX6_law_3 9 rfl rfl)
theorem dX6_law_82 : decode cX6_law 82 = .ok (.invokevirtual 124, 3) := dk_182 0 124 (dk_at dksX6_law_3 12 rfl rfl)
theorem dX6_law_85 : decode cX6_law 85 = .ok (.aload_n 0, 1) := dk_42 (dk_at dksX6_law_3 15 rfl rfl)
theorem dX6_law_86 : decode cX6_law 86 = .ok (.getfield 111, 3) := dk_180 0 111 (dk_at dksX6_law_3 16 rfl rfl)
theorem dX6_law_89 : decode cX6_law 89 = .ok (.ifCond .eq 8, 3) := dk_153 0 8 (dk_at dksX6_law_3 19 rfl rfl)
theorem dX6_law_92 : decode cX6_law 92 = .ok (.aload_n 0, 1) := dk_42 (dk_at dksX6_law_3 22 rfl rfl)
theorem dX6_law_93 : decode cX6_law 93 = .ok (.invokevirtual 181, 3) := dk_182 0 181 (dk_at dksX6_law_4 0 rfl rfl)
theorem dX6_law_96 : decode cX6_law 96 = .ok (.ireturn, 1) := dk_172 (dk_at dksX6_law_4 3 rfl rfl)
theorem dX6_law_97 : decode cX6_law 97 = .ok (.aload_n 0, 1) := dk_42 (dk_at dksX6_law_4 4 rfl rfl)
theorem dX6_law_98 : decode cX6_law 98 = .ok (.iconst (-1), 1) := dk_2 (dk_at dksX6_law_4 5 rfl rfl)
theorem dX6_law_99 : decode cX6_law 99 = .ok (.putfield 9, 3) := dk_181 0 9 (dk_at dksX6_law_4 6 rfl rfl)
theorem dX6_law_102 : decode cX6_law 102 = .ok (.aload_n 0, 1) := dk_42 (dk_at dksX6_law_4 9 rfl rfl)
theorem dX6_law_103 : decode cX6_law 103 = .ok (.aload_n 0, 1) := dk_42 (dk_at dksX6_law_4 10 rfl rfl)
theorem dX6_law_104 : decode cX6_law 104 = .ok (.getfield 207, 3) := dk_180 0 207 (dk_at dksX6_law_4 11 rfl rfl)
theorem dX6_law_107 : decode cX6_law 107 = .ok (.putfield 192, 3) := dk_181 0 192 (dk_at dksX6_law_4 14 rfl rfl)
theorem dX6_law_110 : decode cX6_law 110 = .ok (.aload_n 0, 1) := dk_42 (dk_at dksX6_law_4 17 rfl rfl)
theorem dX6_law_111 : decode cX6_law 111 = .ok (.getfield 49, 3) := dk_180 0 49 (dk_at dksX6_law_4 18 rfl rfl)
theorem dX6_law_114 : decode cX6_law 114 = .ok (.aload_n 0, 1) := dk_42 (dk_at dksX6_law_4 21 rfl rfl)
theorem dX6_law_115 : decode cX6_law 115 = .ok (.getfield 46, 3) := dk_180 0 46 (dk_at dksX6_law_5 0 rfl rfl)
theorem dX6_law_118 : decode cX6_law 118 = .ok (.aload_n 0, 1) := dk_42 (dk_at dksX6_law_5 3 rfl rfl)
theorem dX6_law_119 : decode cX6_law 119 = .ok (.getfield 192, 3) := dk_180 0 192 (dk_at dksX6_law_5 4 rfl rfl)
theorem dX6_law_122 : decode cX6_law 122 = .ok (.invokestatic 184, 3) := dk_184 0 184 (dk_at dksX6_law_5 7 rfl rfl)
theorem dX6_law_125 : decode cX6_law 125 = .ok (.iconst 1, 1) := dk_4 (dk_at dksX6_law_5 10 rfl rfl)
theorem dX6_law_126 : decode cX6_law 126 = .ok (.ireturn, 1) := dk_172 (dk_at dksX6_law_5 11 rfl rfl)
abbrev cX6_sum : ByteArray := prog_34_method_35_code
def yX6_sum : MethodName := ⟨RX6, "sum", "()V"⟩
def dkwX6_sum_2 : List UInt8 := [182, 0, 210, 42, 27, 3, 182, 0, 216, 167, 255, 205, 177]
abbrev dktX6_sum_2 : List UInt8 := dkwX6_sum_2 ++ []
def dkwX6_sum_1 : List UInt8 := [42, 16, 45, 182, 0, 213, 153, 0, 7, 6, 167, 0, 4, 2, 60, 27, 2, 160, 0, 4, 177, 42]
abbrev dktX6_sum_1 : List UInt8 := dkwX6_sum_1 ++ dktX6_sum_2
def dkwX6_sum_0 : List UInt8 := [42, 182, 0, 210, 42, 180, 0, 111, 154, 0, 50, 42, 16, 43, 182, 0, 213, 153, 0, 7, 5, 167, 0, 17]
abbrev dktX6_sum_0 : List UInt8 := dkwX6_sum_0 ++ dktX6_sum_1
theorem dksX6_sum_0 : cX6_sum.data.toList.drop 0 = dktX6_sum_0 := by decide +kernel
theorem dksX6_sum_1 : cX6_sum.data.toList.drop 24 = dktX6_sum_1 := dk_seg dksX6_sum_0 24 rfl rfl
theorem dksX6_sum_2 : cX6_sum.data.toList.drop 46 = dktX6_sum_2 := dk_seg dksX6_sum_1 22 rfl rfl
theorem dX6_sum_0 : decode cX6_sum 0 = .ok (.aload_n 0, 1) := dk_42 (dk_at dksX6_sum_0 0 rfl rfl)
theorem dX6_sum_1 : decode cX6_sum 1 = .ok (.invokevirtual 210, 3) := dk_182 0 210 (dk_at dksX6_sum_0 1 rfl rfl)
theorem dX6_sum_4 : decode cX6_sum 4 = .ok (.aload_n 0, 1) := dk_42 (dk_at dksX6_sum_0 4 rfl rfl)
theorem dX6_sum_5 : decode cX6_sum 5 = .ok (.getfield 111, 3) := dk_180 0 111 (dk_at dksX6_sum_0 5 rfl rfl)
theorem dX6_sum_8 : decode cX6_sum 8 = .ok (.ifCond .ne 50, 3) := dk_154 0 50 (dk_at dksX6_sum_0 8 rfl rfl)
theorem dX6_sum_11 : decode cX6_sum 11 = .ok (.aload_n 0, 1) := dk_42 (dk_at dksX6_sum_0 11 rfl rfl)
theorem dX6_sum_12 : decode cX6_sum 12 = .ok (.bipush 43, 2) := dk_16 43 (dk_at dksX6_sum_0 12 rfl rfl)
theorem dX6_sum_14 : decode cX6_sum 14 = .ok (.invokevirtual 213, 3) := dk_182 0 213 (dk_at dksX6_sum_0 14 rfl rfl)
theorem dX6_sum_17 : decode cX6_sum 17 = .ok (.ifCond .eq 7, 3) := dk_153 0 7 (dk_at dksX6_sum_0 17 rfl rfl)
theorem dX6_sum_20 : decode cX6_sum 20 = .ok (.iconst 2, 1) := dk_5 (dk_at dksX6_sum_0 20 rfl rfl)
theorem dX6_sum_21 : decode cX6_sum 21 = .ok (.goto 17, 3) := dk_167 0 17 (dk_at dksX6_sum_0 21 rfl rfl)
theorem dX6_sum_24 : decode cX6_sum 24 = .ok (.aload_n 0, 1) := dk_42 (dk_at dksX6_sum_1 0 rfl rfl)
theorem dX6_sum_25 : decode cX6_sum 25 = .ok (.bipush 45, 2) := dk_16 45 (dk_at dksX6_sum_1 1 rfl rfl)
theorem dX6_sum_27 : decode cX6_sum 27 = .ok (.invokevirtual 213, 3) := dk_182 0 213 (dk_at dksX6_sum_1 3 rfl rfl)
theorem dX6_sum_30 : decode cX6_sum 30 = .ok (.ifCond .eq 7, 3) := dk_153 0 7 (dk_at dksX6_sum_1 6 rfl rfl)
theorem dX6_sum_33 : decode cX6_sum 33 = .ok (.iconst 3, 1) := dk_6 (dk_at dksX6_sum_1 9 rfl rfl)
theorem dX6_sum_34 : decode cX6_sum 34 = .ok (.goto 4, 3) := dk_167 0 4 (dk_at dksX6_sum_1 10 rfl rfl)
theorem dX6_sum_37 : decode cX6_sum 37 = .ok (.iconst (-1), 1) := dk_2 (dk_at dksX6_sum_1 13 rfl rfl)
theorem dX6_sum_38 : decode cX6_sum 38 = .ok (.istore_n 1, 1) := dk_60 (dk_at dksX6_sum_1 14 rfl rfl)
theorem dX6_sum_39 : decode cX6_sum 39 = .ok (.iload_n 1, 1) := dk_27 (dk_at dksX6_sum_1 15 rfl rfl)
theorem dX6_sum_40 : decode cX6_sum 40 = .ok (.iconst (-1), 1) := dk_2 (dk_at dksX6_sum_1 16 rfl rfl)
theorem dX6_sum_41 : decode cX6_sum 41 = .ok (.if_icmp .ne 4, 3) := dk_160 0 4 (dk_at dksX6_sum_1 17 rfl rfl)
theorem dX6_sum_44 : decode cX6_sum 44 = .ok (.return_, 1) := dk_177 (dk_at dksX6_sum_1 20 rfl rfl)
theorem dX6_sum_45 : decode cX6_sum 45 = .ok (.aload_n 0, 1) := dk_42 (dk_at dksX6_sum_1 21 rfl rfl)
theorem dX6_sum_46 : decode cX6_sum 46 = .ok (.invokevirtual 210, 3) := dk_182 0 210 (dk_at dksX6_sum_2 0 rfl rfl)
theorem dX6_sum_49 : decode cX6_sum 49 = .ok (.aload_n 0, 1) := dk_42 (dk_at dksX6_sum_2 3 rfl rfl)
theorem dX6_sum_50 : decode cX6_sum 50 = .ok (.iload_n 1, 1) := dk_27 (dk_at dksX6_sum_2 4 rfl rfl)
theorem dX6_sum_51 : decode cX6_sum 51 = .ok (.iconst 0, 1) := dk_3 (dk_at dksX6_sum_2 5 rfl rfl)
theorem dX6_sum_52 : decode cX6_sum 52 = .ok (.invokevirtual 216, 3) := dk_182 0 216 (dk_at dksX6_sum_2 6 rfl rfl)
theorem dX6_sum_55 : decode cX6_sum 55 = .ok (.goto (-51), 3) := dk_167 255 205 (dk_at dksX6_sum_2 9 rfl rfl)
theorem dX6_sum_58 : decode cX6_sum 58 = .ok (.return_, 1) := dk_177 (dk_at dksX6_sum_2 12 rfl rfl)
abbrev cX6_product : ByteArray := prog_34_method_36_code
def yX6_product : MethodName := ⟨RX6, "product", "()V"⟩
def dkwX6_product_3 : List UInt8 := [177]
abbrev dktX6_product_3 : List UInt8 := dkwX6_product_3 ++ []
def dkwX6_product_2 : List UInt8 := [167, 0, 4, 2, 60, 27, 2, 160, 0, 4, 177, 42, 182, 0, 219, 42, 27, 3, 182, 0, 216, 167, 255, 191]
abbrev dktX6_product_2 : List UInt8 := dkwX6_product_2 ++ dktX6_product_3
def dkwX6_product_1 : List UInt8 := [42, 16, 47, 182, 0, 213, 153, 0, 7, 8, 167, 0, 18, 42, 16, 37, 182, 0, 213, 153, 0, 8, 16, 6]
abbrev dktX6_product_1 : List UInt8 := dkwX6_product_1 ++ dktX6_product_2
def dkwX6_product_0 : List UInt8 := [42, 182, 0, 219, 42, 180, 0, 111, 154, 0, 64, 42, 16, 42, 182, 0, 213, 153, 0, 7, 7, 167, 0, 31]
abbrev dktX6_product_0 : List UInt8 := dkwX6_product_0 ++ dktX6_product_1
theorem dksX6_product_0 : cX6_product.data.toList.drop 0 = dktX6_product_0 := by decide +kernel
theorem dksX6_product_1 : cX6_product.data.toList.drop 24 = dktX6_product_1 := dk_seg dksX6_product_0 24 rfl rfl
theorem dksX6_product_2 : cX6_product.data.toList.drop 48 = dktX6_product_2 := dk_seg dksX6_product_1 24 rfl rfl
theorem dksX6_product_3 : cX6_product.data.toList.drop 72 = dktX6_product_3 := dk_seg dksX6_product_2 24 rfl rfl
theorem dX6_product_0 : decode cX6_product 0 = .ok (.aload_n 0, 1) := dk_42 (dk_at dksX6_product_0 0 rfl rfl)
theorem dX6_product_1 : decode cX6_product 1 = .ok (.invokevirtual 219, 3) := dk_182 0 219 (dk_at dksX6_product_0 1 rfl rfl)
theorem dX6_product_4 : decode cX6_product 4 = .ok (.aload_n 0, 1) := dk_42 (dk_at dksX6_product_0 4 rfl rfl)
theorem dX6_product_5 : decode cX6_product 5 = .ok (.getfield 111, 3) := dk_180 0 111 (dk_at dksX6_product_0 5 rfl rfl)
theorem dX6_product_8 : decode cX6_product 8 = .ok (.ifCond .ne 64, 3) := dk_154 0 64 (dk_at dksX6_product_0 8 rfl rfl)
theorem dX6_product_11 : decode cX6_product 11 = .ok (.aload_n 0, 1) := dk_42 (dk_at dksX6_product_0 11 rfl rfl)
theorem dX6_product_12 : decode cX6_product 12 = .ok (.bipush 42, 2) := dk_16 42 (dk_at dksX6_product_0 12 rfl rfl)
theorem dX6_product_14 : decode cX6_product 14 = .ok (.invokevirtual 213, 3) := dk_182 0 213 (dk_at dksX6_product_0 14 rfl rfl)
theorem dX6_product_17 : decode cX6_product 17 = .ok (.ifCond .eq 7, 3) := dk_153 0 7 (dk_at dksX6_product_0 17 rfl rfl)
theorem dX6_product_20 : decode cX6_product 20 = .ok (.iconst 4, 1) := dk_7 (dk_at dksX6_product_0 20 rfl rfl)
theorem dX6_product_21 : decode cX6_product 21 = .ok (.goto 31, 3) := dk_167 0 31 (dk_at dksX6_product_0 21 rfl rfl)
theorem dX6_product_24 : decode cX6_product 24 = .ok (.aload_n 0, 1) := dk_42 (dk_at dksX6_product_1 0 rfl rfl)
theorem dX6_product_25 : decode cX6_product 25 = .ok (.bipush 47, 2) := dk_16 47 (dk_at dksX6_product_1 1 rfl rfl)
theorem dX6_product_27 : decode cX6_product 27 = .ok (.invokevirtual 213, 3) := dk_182 0 213 (dk_at dksX6_product_1 3 rfl rfl)
theorem dX6_product_30 : decode cX6_product 30 = .ok (.ifCond .eq 7, 3) := dk_153 0 7 (dk_at dksX6_product_1 6 rfl rfl)
theorem dX6_product_33 : decode cX6_product 33 = .ok (.iconst 5, 1) := dk_8 (dk_at dksX6_product_1 9 rfl rfl)
theorem dX6_product_34 : decode cX6_product 34 = .ok (.goto 18, 3) := dk_167 0 18 (dk_at dksX6_product_1 10 rfl rfl)
theorem dX6_product_37 : decode cX6_product 37 = .ok (.aload_n 0, 1) := dk_42 (dk_at dksX6_product_1 13 rfl rfl)
theorem dX6_product_38 : decode cX6_product 38 = .ok (.bipush 37, 2) := dk_16 37 (dk_at dksX6_product_1 14 rfl rfl)
theorem dX6_product_40 : decode cX6_product 40 = .ok (.invokevirtual 213, 3) := dk_182 0 213 (dk_at dksX6_product_1 16 rfl rfl)
theorem dX6_product_43 : decode cX6_product 43 = .ok (.ifCond .eq 8, 3) := dk_153 0 8 (dk_at dksX6_product_1 19 rfl rfl)
theorem dX6_product_46 : decode cX6_product 46 = .ok (.bipush 6, 2) := dk_16 6 (dk_at dksX6_product_1 22 rfl rfl)
theorem dX6_product_48 : decode cX6_product 48 = .ok (.goto 4, 3) := dk_167 0 4 (dk_at dksX6_product_2 0 rfl rfl)
theorem dX6_product_51 : decode cX6_product 51 = .ok (.iconst (-1), 1) := dk_2 (dk_at dksX6_product_2 3 rfl rfl)
theorem dX6_product_52 : decode cX6_product 52 = .ok (.istore_n 1, 1) := dk_60 (dk_at dksX6_product_2 4 rfl rfl)
theorem dX6_product_53 : decode cX6_product 53 = .ok (.iload_n 1, 1) := dk_27 (dk_at dksX6_product_2 5 rfl rfl)
theorem dX6_product_54 : decode cX6_product 54 = .ok (.iconst (-1), 1) := dk_2 (dk_at dksX6_product_2 6 rfl rfl)
theorem dX6_product_55 : decode cX6_product 55 = .ok (.if_icmp .ne 4, 3) := dk_160 0 4 (dk_at dksX6_product_2 7 rfl rfl)
theorem dX6_product_58 : decode cX6_product 58 = .ok (.return_, 1) := dk_177 (dk_at dksX6_product_2 10 rfl rfl)
theorem dX6_product_59 : decode cX6_product 59 = .ok (.aload_n 0, 1) := dk_42 (dk_at dksX6_product_2 11 rfl rfl)
theorem dX6_product_60 : decode cX6_product 60 = .ok (.invokevirtual 219, 3) := dk_182 0 219 (dk_at dksX6_product_2 12 rfl rfl)
theorem dX6_product_63 : decode cX6_product 63 = .ok (.aload_n 0, 1) := dk_42 (dk_at dksX6_product_2 15 rfl rfl)
theorem dX6_product_64 : decode cX6_product 64 = .ok (.iload_n 1, 1) := dk_27 (dk_at dksX6_product_2 16 rfl rfl)
theorem dX6_product_65 : decode cX6_product 65 = .ok (.iconst 0, 1) := dk_3 (dk_at dksX6_product_2 17 rfl rfl)
theorem dX6_product_66 : decode cX6_product 66 = .ok (.invokevirtual 216, 3) := dk_182 0 216 (dk_at dksX6_product_2 18 rfl rfl)
theorem dX6_product_69 : decode cX6_product 69 = .ok (.goto (-65), 3) := dk_167 255 191 (dk_at dksX6_product_2 21 rfl rfl)
theorem dX6_product_72 : decode cX6_product 72 = .ok (.return_, 1) := dk_177 (dk_at dksX6_product_3 0 rfl rfl)
abbrev cX6_one : ByteArray := prog_34_method_38_code
def yX6_one : MethodName := ⟨RX6, "one", "()V"⟩
def dkwX6_one_8 : List UInt8 := [182, 0, 216, 167, 0, 16, 42, 3, 42, 3, 17, 3, 231, 182, 0, 163, 182, 0, 216, 177]
abbrev dktX6_one_8 : List UInt8 := dkwX6_one_8 ++ []
def dkwX6_one_7 : List UInt8 := [180, 0, 154, 4, 100, 181, 0, 154, 177, 42, 182, 0, 232, 61, 28, 2, 159, 0, 12, 42, 4, 28]
abbrev dktX6_one_7 : List UInt8 := dkwX6_one_7 ++ dktX6_one_8
def dkwX6_one_6 : List UInt8 := [177, 42, 89, 180, 0, 104, 4, 96, 181, 0, 104, 42, 182, 0, 229, 42, 16, 41, 182, 0, 167, 42, 89]
abbrev dktX6_one_6 : List UInt8 := dkwX6_one_6 ++ dktX6_one_7
def dkwX6_one_5 : List UInt8 := [181, 0, 154, 177, 42, 42, 180, 0, 104, 182, 0, 107, 16, 40, 160, 0, 42, 42, 182, 0, 225, 154, 0, 4]
abbrev dktX6_one_5 : List UInt8 := dkwX6_one_5 ++ dktX6_one_6
def dkwX6_one_4 : List UInt8 := [42, 182, 0, 229, 42, 16, 93, 182, 0, 167, 42, 27, 3, 182, 0, 216, 42, 89, 180, 0, 154, 4, 100]
abbrev dktX6_one_4 : List UInt8 := dkwX6_one_4 ++ dktX6_one_5
def dkwX6_one_3 : List UInt8 := [154, 0, 4, 177, 42, 182, 0, 148, 42, 16, 91, 182, 0, 167, 42, 182, 0, 229, 42, 16, 44, 182, 0, 167]
abbrev dktX6_one_3 : List UInt8 := dkwX6_one_3 ++ dktX6_one_4
def dkwX6_one_2 : List UInt8 := [182, 0, 144, 153, 0, 8, 16, 8, 167, 0, 4, 2, 60, 27, 2, 159, 0, 58, 42, 182, 0, 225]
abbrev dktX6_one_2 : List UInt8 := dkwX6_one_2 ++ dktX6_one_3
def dkwX6_one_1 : List UInt8 := [182, 0, 144, 153, 0, 8, 16, 7, 167, 0, 26, 42, 16, 13, 16, 15, 16, 19, 16, 20, 3, 3]
abbrev dktX6_one_1 : List UInt8 := dkwX6_one_1 ++ dktX6_one_2
def dkwX6_one_0 : List UInt8 := [42, 180, 0, 111, 153, 0, 4, 177, 42, 182, 0, 117, 42, 16, 12, 8, 4, 16, 19, 16, 20, 3]
abbrev dktX6_one_0 : List UInt8 := dkwX6_one_0 ++ dktX6_one_1
theorem dksX6_one_0 : cX6_one.data.toList.drop 0 = dktX6_one_0 := by decide +kernel
theorem dksX6_one_1 : cX6_one.data.toList.drop 22 = dktX6_one_1 := dk_seg dksX6_one_0 22 rfl rfl
theorem dksX6_one_2 : cX6_one.data.toList.drop 44 = dktX6_one_2 := dk_seg dksX6_one_1 22 rfl rfl
theorem dksX6_one_3 : cX6_one.data.toList.drop 66 = dktX6_one_3 := dk_seg dksX6_one_2 22 rfl rfl
theorem dksX6_one_4 : cX6_one.data.toList.drop 90 = dktX6_one_4 := dk_seg dksX6_one_3 24 rfl rfl
theorem dksX6_one_5 : cX6_one.data.toList.drop 113 = dktX6_one_5 := dk_seg dksX6_one_4 23 rfl rfl
theorem dksX6_one_6 : cX6_one.data.toList.drop 137 = dktX6_one_6 := dk_seg dksX6_one_5 24 rfl rfl
theorem dksX6_one_7 : cX6_one.data.toList.drop 160 = dktX6_one_7 := dk_seg dksX6_one_6 23 rfl rfl
theorem dksX6_one_8 : cX6_one.data.toList.drop 182 = dktX6_one_8 := dk_seg dksX6_one_7 22 rfl rfl
theorem dX6_one_0 : decode cX6_one 0 = .ok (.aload_n 0, 1) := dk_42 (dk_at dksX6_one_0 0 rfl rfl)
theorem dX6_one_1 : decode cX6_one 1 = .ok (.getfield 111, 3) := dk_180 0 111 (dk_at dksX6_one_0 1 rfl rfl)
theorem dX6_one_4 : decode cX6_one 4 = .ok (.ifCond .eq 4, 3) := dk_153 0 4 (dk_at dksX6_one_0 4 rfl rfl)
theorem dX6_one_7 : decode cX6_one 7 = .ok (.return_, 1) := dk_177 (dk_at dksX6_one_0 7 rfl rfl)
theorem dX6_one_8 : decode cX6_one 8 = .ok (.aload_n 0, 1) := dk_42 (dk_at dksX6_one_0 8 rfl rfl)
theorem dX6_one_9 : decode cX6_one 9 = .ok (.invokevirtual 117, 3) := dk_182 0 117 (dk_at dksX6_one_0 9 rfl rfl)
theorem dX6_one_12 : decode cX6_one 12 = .ok (.aload_n 0, 1) := dk_42 (dk_at dksX6_one_0 12 rfl rfl)
theorem dX6_one_13 : decode cX6_one 13 = .ok (.bipush 12, 2) := dk_16 12 (dk_at dksX6_one_0 13 rfl rfl)
theorem dX6_one_15 : decode cX6_one 15 = .ok (.iconst 5, 1) := dk_8 (dk_at dksX6_one_0 15 rfl rfl)
theorem dX6_one_16 : decode cX6_one 16 = .ok (.iconst 1, 1) := dk_4 (dk_at dksX6_one_0 16 rfl rfl)
theorem dX6_one_17 : decode cX6_one 17 = .ok (.bipush 19, 2) := dk_16 19 (dk_at dksX6_one_0 17 rfl rfl)
theorem dX6_one_19 : decode cX6_one 19 = .ok (.bipush 20, 2) := dk_16 20 (dk_at dksX6_one_0 19 rfl rfl)
theorem dX6_one_21 : decode cX6_one 21 = .ok (.iconst 0, 1) := dk_3 (dk_at dksX6_one_0 21 rfl rfl)
theorem dX6_one_22 : decode cX6_one 22 = .ok (.invokevirtual 144, 3) := dk_182 0 144 (dk_at dksX6_one_1 0 rfl rfl)
theorem dX6_one_25 : decode cX6_one 25 = .ok (.ifCond .eq 8, 3) := dk_153 0 8 (dk_at dksX6_one_1 3 rfl rfl)
theorem dX6_one_28 : decode cX6_one 28 = .ok (.bipush 7, 2) := dk_16 7 (dk_at dksX6_one_1 6 rfl rfl)
theorem dX6_one_30 : decode cX6_one 30 = .ok (.goto 26, 3) := dk_167 0 26 (dk_at dksX6_one_1 8 rfl rfl)
theorem dX6_one_33 : decode cX6_one 33 = .ok (.aload_n 0, 1) := dk_42 (dk_at dksX6_one_1 11 rfl rfl)
theorem dX6_one_34 : decode cX6_one 34 = .ok (.bipush 13, 2) := dk_16 13 (dk_at dksX6_one_1 12 rfl rfl)
theorem dX6_one_36 : decode cX6_one 36 = .ok (.bipush 15, 2) := dk_16 15 (dk_at dksX6_one_1 14 rfl rfl)
theorem dX6_one_38 : decode cX6_one 38 = .ok (.bipush 19, 2) := dk_16 19 (dk_at dksX6_one_1 16 rfl rfl)
theorem dX6_one_40 : decode cX6_one 40 = .ok (.bipush 20, 2) := dk_16 20 (dk_at dksX6_one_1 18 rfl rfl)
theorem dX6_one_42 : decode cX6_one 42 = .ok (.iconst 0, 1) := dk_3 (dk_at dksX6_one_1 20 rfl rfl)
theorem dX6_one_43 : decode cX6_one 43 = .ok (.iconst 0, 1) := dk_3 (dk_at dksX6_one_1 21 rfl rfl)
theorem dX6_one_44 : decode cX6_one 44 = .ok (.invokevirtual 144, 3) := dk_182 0 144 (dk_at dksX6_one_2 0 rfl rfl)
theorem dX6_one_47 : decode cX6_one 47 = .ok (.ifCond .eq 8, 3) := dk_153 0 8 (dk_at dksX6_one_2 3 rfl rfl)
theorem dX6_one_50 : decode cX6_one 50 = .ok (.bipush 8, 2) := dk_16 8 (dk_at dksX6_one_2 6 rfl rfl)
theorem dX6_one_52 : decode cX6_one 52 = .ok (.goto 4, 3) := dk_167 0 4 (dk_at dksX6_one_2 8 rfl rfl)
theorem dX6_one_55 : decode cX6_one 55 = .ok (.iconst (-1), 1) := dk_2 (dk_at dksX6_one_2 11 rfl rfl)
theorem dX6_one_56 : decode cX6_one 56 = .ok (.istore_n 1, 1) := dk_60 (dk_at dksX6_one_2 12 rfl rfl)
theorem dX6_one_57 : decode cX6_one 57 = .ok (.iload_n 1, 1) := dk_27 (dk_at dksX6_one_2 13 rfl rfl)
theorem dX6_one_58 : decode cX6_one 58 = .ok (.iconst (-1), 1) := dk_2 (dk_at dksX6_one_2 14 rfl rfl)
theorem dX6_one_59 : decode cX6_one 59 = .ok (.if_icmp .eq 58, 3) := dk_159 0 58 (dk_at dksX6_one_2 15 rfl rfl)
theorem dX6_one_62 : decode cX6_one 62 = .ok (.aload_n 0, 1) := dk_42 (dk_at dksX6_one_2 18 rfl rfl)
theorem dX6_one_63 : decode cX6_one 63 = .ok (.invokevirtual 225, 3) := dk_182 0 225 (dk_at dksX6_one_2 19 rfl rfl)
theorem dX6_one_66 : decode cX6_one 66 = .ok (.ifCond .ne 4, 3) := dk_154 0 4 (dk_at dksX6_one_3 0 rfl rfl)
theorem dX6_one_69 : decode cX6_one 69 = .ok (.return_, 1) := dk_177 (dk_at dksX6_one_3 3 rfl rfl)
theorem dX6_one_70 : decode cX6_one 70 = .ok (.aload_n 0, 1) := dk_42 (dk_at dksX6_one_3 4 rfl rfl)
theorem dX6_one_71 : decode cX6_one 71 = .ok (.invokevirtual 148, 3) := dk_182 0 148 (dk_at dksX6_one_3 5 rfl rfl)
theorem dX6_one_74 : decode cX6_one 74 = .ok (.aload_n 0, 1) := dk_42 (dk_at dksX6_one_3 8 rfl rfl)
theorem dX6_one_75 : decode cX6_one 75 = .ok (.bipush 91, 2) := dk_16 91 (dk_at dksX6_one_3 9 rfl rfl)
theorem dX6_one_77 : decode cX6_one 77 = .ok (.invokevirtual 167, 3) := dk_182 0 167 (dk_at dksX6_one_3 11 rfl rfl)
theorem dX6_one_80 : decode cX6_one 80 = .ok (.aload_n 0, 1) := dk_42 (dk_at dksX6_one_3 14 rfl rfl)
theorem dX6_one_81 : decode cX6_one 81 = .ok (.invokevirtual 229, 3) := dk_182 0 229 (dk_at dksX6_one_3 15 rfl rfl)
theorem dX6_one_84 : decode cX6_one 84 = .ok (.aload_n 0, 1) := dk_42 (dk_at dksX6_one_3 18 rfl rfl)
theorem dX6_one_85 : decode cX6_one 85 = .ok (.bipush 44, 2) := dk_16 44 (dk_at dksX6_one_3 19 rfl rfl)
theorem dX6_one_87 : decode cX6_one 87 = .ok (.invokevirtual 167, 3) := dk_182 0 167 (dk_at dksX6_one_3 21 rfl rfl)
theorem dX6_one_90 : decode cX6_one 90 = .ok (.aload_n 0, 1) := dk_42 (dk_at dksX6_one_4 0 rfl rfl)
theorem dX6_one_91 : decode cX6_one 91 = .ok (.invokevirtual 229, 3) := dk_182 0 229 (dk_at dksX6_one_4 1 rfl rfl)
theorem dX6_one_94 : decode cX6_one 94 = .ok (.aload_n 0, 1) := dk_42 (dk_at dksX6_one_4 4 rfl rfl)
theorem dX6_one_95 : decode cX6_one 95 = .ok (.bipush 93, 2) := dk_16 93 (dk_at dksX6_one_4 5 rfl rfl)
theorem dX6_one_97 : decode cX6_one 97 = .ok (.invokevirtual 167, 3) := dk_182 0 167 (dk_at dksX6_one_4 7 rfl rfl)
theorem dX6_one_100 : decode cX6_one 100 = .ok (.aload_n 0, 1) := dk_42 (dk_at dksX6_one_4 10 rfl rfl)
theorem dX6_one_101 : decode cX6_one 101 = .ok (.iload_n 1, 1) := dk_27 (dk_at dksX6_one_4 11 rfl rfl)
theorem dX6_one_102 : decode cX6_one 102 = .ok (.iconst 0, 1) := dk_3 (dk_at dksX6_one_4 12 rfl rfl)
theorem dX6_one_103 : decode cX6_one 103 = .ok (.invokevirtual 216, 3) := dk_182 0 216 (dk_at dksX6_one_4 13 rfl rfl)
theorem dX6_one_106 : decode cX6_one 106 = .ok (.aload_n 0, 1) := dk_42 (dk_at dksX6_one_4 16 rfl rfl)
theorem dX6_one_107 : decode cX6_one 107 = .ok (.dup, 1) := dk_89 (dk_at dksX6_one_4 17 rfl rfl)
theorem dX6_one_108 : decode cX6_one 108 = .ok (.getfield 154, 3) := dk_180 0 154 (dk_at dksX6_one_4 18 rfl rfl)
theorem dX6_one_111 : decode cX6_one 111 = .ok (.iconst 1, 1) := dk_4 (dk_at dksX6_one_4 21 rfl rfl)
theorem dX6_one_112 : decode cX6_one 112 = .ok (.isub, 1) := dk_100 (dk_at dksX6_one_4 22 rfl rfl)
theorem dX6_one_113 : decode cX6_one 113 = .ok (.putfield 154, 3) := dk_181 0 154 (dk_at dksX6_one_5 0 rfl rfl)
theorem dX6_one_116 : decode cX6_one 116 = .ok (.return_, 1) := dk_177 (dk_at dksX6_one_5 3 rfl rfl)
theorem dX6_one_117 : decode cX6_one 117 = .ok (.aload_n 0, 1) := dk_42 (dk_at dksX6_one_5 4 rfl rfl)
theorem dX6_one_118 : decode cX6_one 118 = .ok (.aload_n 0, 1) := dk_42 (dk_at dksX6_one_5 5 rfl rfl)
theorem dX6_one_119 : decode cX6_one 119 = .ok (.getfield 104, 3) := dk_180 0 104 (dk_at dksX6_one_5 6 rfl rfl)
theorem dX6_one_122 : decode cX6_one 122 = .ok (.invokevirtual 107, 3) := dk_182 0 107 (dk_at dksX6_one_5 9 rfl rfl)
theorem dX6_one_125 : decode cX6_one 125 = .ok (.bipush 40, 2) := dk_16 40 (dk_at dksX6_one_5 12 rfl rfl)
theorem dX6_one_127 : decode cX6_one 127 = .ok (.if_icmp .ne 42, 3) := dk_160 0 42 (dk_at dksX6_one_5 14 rfl rfl)
theorem dX6_one_130 : decode cX6_one 130 = .ok (.aload_n 0, 1) := dk_42 (dk_at dksX6_one_5 17 rfl rfl)
theorem dX6_one_131 : decode cX6_one 131 = .ok (.invokevirtual 225, 3) := dk_182 0 225 (dk_at dksX6_one_5 18 rfl rfl)
theorem dX6_one_134 : decode cX6_one 134 = .ok (.ifCond .ne 4, 3) := dk_154 0 4 (dk_at dksX6_one_5 21 rfl rfl)
theorem dX6_one_137 : decode cX6_one 137 = .ok (.return_, 1) := dk_177 (dk_at dksX6_one_6 0 rfl rfl)
theorem dX6_one_138 : decode cX6_one 138 = .ok (.aload_n 0, 1) := dk_42 (dk_at dksX6_one_6 1 rfl rfl)
theorem dX6_one_139 : decode cX6_one 139 = .ok (.dup, 1) := dk_89 (dk_at dksX6_one_6 2 rfl rfl)
theorem dX6_one_140 : decode cX6_one 140 = .ok (.getfield 104, 3) := dk_180 0 104 (dk_at dksX6_one_6 3 rfl rfl)
theorem dX6_one_143 : decode cX6_one 143 = .ok (.iconst 1, 1) := dk_4 (dk_at dksX6_one_6 6 rfl rfl)
theorem dX6_one_144 : decode cX6_one 144 = .ok (.iadd, 1) := dk_96 (dk_at dksX6_one_6 7 rfl rfl)
theorem dX6_one_145 : decode cX6_one 145 = .ok (.putfield 104, 3) := dk_181 0 104 (dk_at dksX6_one_6 8 rfl rfl)
theorem dX6_one_148 : decode cX6_one 148 = .ok (.aload_n 0, 1) := dk_42 (dk_at dksX6_one_6 11 rfl rfl)
theorem dX6_one_149 : decode cX6_one 149 = .ok (.invokevirtual 229, 3) := dk_182 0 229 (dk_at dksX6_one_6 12 rfl rfl)
theorem dX6_one_152 : decode cX6_one 152 = .ok (.aload_n 0, 1) := dk_42 (dk_at dksX6_one_6 15 rfl rfl)
theorem dX6_one_153 : decode cX6_one 153 = .ok (.bipush 41, 2) := dk_16 41 (dk_at dksX6_one_6 16 rfl rfl)
theorem dX6_one_155 : decode cX6_one 155 = .ok (.invokevirtual 167, 3) := dk_182 0 167 (dk_at dksX6_one_6 18 rfl rfl)
theorem dX6_one_158 : decode cX6_one 158 = .ok (.aload_n 0, 1) := dk_42 (dk_at dksX6_one_6 21 rfl rfl)
theorem dX6_one_159 : decode cX6_one 159 = .ok (.dup, 1) := dk_89 (dk_at dksX6_one_6 22 rfl rfl)
theorem dX6_one_160 : decode cX6_one 160 = .ok (.getfield 154, 3) := dk_180 0 154 (dk_at dksX6_one_7 0 rfl rfl)
theorem dX6_one_163 : decode cX6_one 163 = .ok (.iconst 1, 1) := dk_4 (dk_at dksX6_one_7 3 rfl rfl)
theorem dX6_one_164 : decode cX6_one 164 = .ok (.isub, 1) := dk_100 (dk_at dksX6_one_7 4 rfl rfl)
theorem dX6_one_165 : decode cX6_one 165 = .ok (.putfield 154, 3) := dk_181 0 154 (dk_at dksX6_one_7 5 rfl rfl)
theorem dX6_one_168 : decode cX6_one 168 = .ok (.return_, 1) := dk_177 (dk_at dksX6_one_7 8 rfl rfl)
theorem dX6_one_169 : decode cX6_one 169 = .ok (.aload_n 0, 1) := dk_42 (dk_at dksX6_one_7 9 rfl rfl)
theorem dX6_one_170 : decode cX6_one 170 = .ok (.invokevirtual 232, 3) := dk_182 0 232 (dk_at dksX6_one_7 10 rfl rfl)
theorem dX6_one_173 : decode cX6_one 173 = .ok (.istore_n 2, 1) := dk_61 (dk_at dksX6_one_7 13 rfl rfl)
theorem dX6_one_174 : decode cX6_one 174 = .ok (.iload_n 2, 1) := dk_28 (dk_at dksX6_one_7 14 rfl rfl)
theorem dX6_one_175 : decode cX6_one 175 = .ok (.iconst (-1), 1) := dk_2 (dk_at dksX6_one_7 15 rfl rfl)
theorem dX6_one_176 : decode cX6_one 176 = .ok (.if_icmp .eq 12, 3) := dk_159 0 12 (dk_at dksX6_one_7 16 rfl rfl)
theorem dX6_one_179 : decode cX6_one 179 = .ok (.aload_n 0, 1) := dk_42 (dk_at dksX6_one_7 19 rfl rfl)
theorem dX6_one_180 : decode cX6_one 180 = .ok (.iconst 1, 1) := dk_4 (dk_at dksX6_one_7 20 rfl rfl)
theorem dX6_one_181 : decode cX6_one 181 = .ok (.iload_n 2, 1) := dk_28 (dk_at dksX6_one_7 21 rfl rfl)
theorem dX6_one_182 : decode cX6_one 182 = .ok (.invokevirtual 216, 3) := dk_182 0 216 (dk_at dksX6_one_8 0 rfl rfl)
theorem dX6_one_185 : decode cX6_one 185 = .ok (.goto 16, 3) := dk_167 0 16 (dk_at dksX6_one_8 3 rfl rfl)
theorem dX6_one_188 : decode cX6_one 188 = .ok (.aload_n 0, 1) := dk_42 (dk_at dksX6_one_8 6 rfl rfl)
theorem dX6_one_189 : decode cX6_one 189 = .ok (.iconst 0, 1) := dk_3 (dk_at dksX6_one_8 7 rfl rfl)
theorem dX6_one_190 : decode cX6_one 190 = .ok (.aload_n 0, 1) := dk_42 (dk_at dksX6_one_8 8 rfl rfl)
theorem dX6_one_191 : decode cX6_one 191 = .ok (.iconst 0, 1) := dk_3 (dk_at dksX6_one_8 9 rfl rfl)
theorem dX6_one_192 : decode cX6_one 192 = .ok (.sipush 999, 3) := dk_17 3 231 (dk_at dksX6_one_8 10 rfl rfl)
theorem dX6_one_195 : decode cX6_one 195 = .ok (.invokevirtual 163, 3) := dk_182 0 163 (dk_at dksX6_one_8 13 rfl rfl)
theorem dX6_one_198 : decode cX6_one 198 = .ok (.invokevirtual 216, 3) := dk_182 0 216 (dk_at dksX6_one_8 16 rfl rfl)
theorem dX6_one_201 : decode cX6_one 201 = .ok (.return_, 1) := dk_177 (dk_at dksX6_one_8 19 rfl rfl)
abbrev cX6_opensOne : ByteArray := prog_34_method_34_code
def yX6_opensOne : MethodName := ⟨RX6, "opensOne", "()Z"⟩
def dkwX6_opensOne_2 : List UInt8 := [180, 0, 111, 154, 0, 7, 4, 167, 0, 4, 3, 172]
abbrev dktX6_opensOne_2 : List UInt8 := dkwX6_opensOne_2 ++ []
def dkwX6_opensOne_1 : List UInt8 := [182, 0, 124, 167, 0, 20, 42, 180, 0, 111, 154, 0, 13, 42, 89, 180, 0, 154, 4, 96, 181, 0, 154, 42]
abbrev dktX6_opensOne_1 : List UInt8 := dkwX6_opensOne_1 ++ dktX6_opensOne_2
def dkwX6_opensOne_0 : List UInt8 := [42, 180, 0, 111, 154, 0, 24, 42, 180, 0, 154, 16, 6, 160, 0, 15, 42, 6, 42, 180, 0, 104]
abbrev dktX6_opensOne_0 : List UInt8 := dkwX6_opensOne_0 ++ dktX6_opensOne_1
theorem dksX6_opensOne_0 : cX6_opensOne.data.toList.drop 0 = dktX6_opensOne_0 := by decide +kernel
theorem dksX6_opensOne_1 : cX6_opensOne.data.toList.drop 22 = dktX6_opensOne_1 := dk_seg dksX6_opensOne_0 22 rfl rfl
theorem dksX6_opensOne_2 : cX6_opensOne.data.toList.drop 46 = dktX6_opensOne_2 := dk_seg dksX6_opensOne_1 24 rfl rfl
theorem dX6_opensOne_0 : decode cX6_opensOne 0 = .ok (.aload_n 0, 1) := dk_42 (dk_at dksX6_opensOne_0 0 rfl rfl)
theorem dX6_opensOne_1 : decode cX6_opensOne 1 = .ok (.getfield 111, 3) := dk_180 0 111 (dk_at dksX6_opensOne_0 1 rfl rfl)
theorem dX6_opensOne_4 : decode cX6_opensOne 4 = .ok (.ifCond .ne 24, 3) := dk_154 0 24 (dk_at dksX6_opensOne_0 4 rfl rfl)
theorem dX6_opensOne_7 : decode cX6_opensOne 7 = .ok (.aload_n 0, 1) := dk_42 (dk_at dksX6_opensOne_0 7 rfl rfl)
theorem dX6_opensOne_8 : decode cX6_opensOne 8 = .ok (.getfield 154, 3) := dk_180 0 154 (dk_at dksX6_opensOne_0 8 rfl rfl)
theorem dX6_opensOne_11 : decode cX6_opensOne 11 = .ok (.bipush 6, 2) := dk_16 6 (dk_at dksX6_opensOne_0 11 rfl rfl)
theorem dX6_opensOne_13 : decode cX6_opensOne 13 = .ok (.if_icmp .ne 15, 3) := dk_160 0 15 (dk_at dksX6_opensOne_0 13 rfl rfl)
theorem dX6_opensOne_16 : decode cX6_opensOne 16 = .ok (.aload_n 0, 1) := dk_42 (dk_at dksX6_opensOne_0 16 rfl rfl)
theorem dX6_opensOne_17 : decode cX6_opensOne 17 = .ok (.iconst 3, 1) := dk_6 (dk_at dksX6_opensOne_0 17 rfl rfl)
theorem dX6_opensOne_18 : decode cX6_opensOne 18 = .ok (.aload_n 0, 1) := dk_42 (dk_at dksX6_opensOne_0 18 rfl rfl)
theorem dX6_opensOne_19 : decode cX6_opensOne 19 = .ok (.getfield 104, 3) := dk_180 0 104 (dk_at dksX6_opensOne_0 19 rfl rfl)
theorem dX6_opensOne_22 : decode cX6_opensOne 22 = .ok (.invokevirtual 124, 3) := dk_182 0 124 (dk_at dksX6_opensOne_1 0 rfl rfl)
theorem dX6_opensOne_25 : decode cX6_opensOne 25 = .ok (.goto 20, 3) := dk_167 0 20 (dk_at dksX6_opensOne_1 3 rfl rfl)
theorem dX6_opensOne_28 : decode cX6_opensOne 28 = .ok (.aload_n 0, 1) := dk_42 (dk_at dksX6_opensOne_1 6 rfl rfl)
theorem dX6_opensOne_29 : decode cX6_opensOne 29 = .ok (.getfield 111, 3) := dk_180 0 111 (dk_at dksX6_opensOne_1 7 rfl rfl)
theorem dX6_opensOne_32 : decode cX6_opensOne 32 = .ok (.ifCond .ne 13, 3) := dk_154 0 13 (dk_at dksX6_opensOne_1 10 rfl rfl)
theorem dX6_opensOne_35 : decode cX6_opensOne 35 = .ok (.aload_n 0, 1) := dk_42 (dk_at dksX6_opensOne_1 13 rfl rfl)
theorem dX6_opensOne_36 : decode cX6_opensOne 36 = .ok (.dup, 1) := dk_89 (dk_at dksX6_opensOne_1 14 rfl rfl)
theorem dX6_opensOne_37 : decode cX6_opensOne 37 = .ok (.getfield 154, 3) := dk_180 0 154 (dk_at dksX6_opensOne_1 15 rfl rfl)
theorem dX6_opensOne_40 : decode cX6_opensOne 40 = .ok (.iconst 1, 1) := dk_4 (dk_at dksX6_opensOne_1 18 rfl rfl)
theorem dX6_opensOne_41 : decode cX6_opensOne 41 = .ok (.iadd, 1) := dk_96 (dk_at dksX6_opensOne_1 19 rfl rfl)
theorem dX6_opensOne_42 : decode cX6_opensOne 42 = .ok (.putfield 154, 3) := dk_181 0 154 (dk_at dksX6_opensOne_1 20 rfl rfl)
theorem dX6_opensOne_45 : decode cX6_opensOne 45 = .ok (.aload_n 0, 1) := dk_42 (dk_at dksX6_opensOne_1 23 rfl rfl)
theorem dX6_opensOne_46 : decode cX6_opensOne 46 = .ok (.getfield 111, 3) := dk_180 0 111 (dk_at dksX6_opensOne_2 0 rfl rfl)
theorem dX6_opensOne_49 : decode cX6_opensOne 49 = .ok (.ifCond .ne 7, 3) := dk_154 0 7 (dk_at dksX6_opensOne_2 3 rfl rfl)
theorem dX6_opensOne_52 : decode cX6_opensOne 52 = .ok (.iconst 1, 1) := dk_4 (dk_at dksX6_opensOne_2 6 rfl rfl)
theorem dX6_opensOne_53 : decode cX6_opensOne 53 = .ok (.goto 4, 3) := dk_167 0 4 (dk_at dksX6_opensOne_2 7 rfl rfl)
theorem dX6_opensOne_56 : decode cX6_opensOne 56 = .ok (.iconst 0, 1) := dk_3 (dk_at dksX6_opensOne_2 10 rfl rfl)
theorem dX6_opensOne_57 : decode cX6_opensOne 57 = .ok (.ireturn, 1) := dk_172 (dk_at dksX6_opensOne_2 11 rfl rfl)
abbrev cX6_notes : ByteArray := prog_34_method_33_code
def yX6_notes : MethodName := ⟨RX6, "notes", "(II)V"⟩
def dkwX6_notes_1 : List UInt8 := [42, 180, 0, 207, 50, 4, 28, 79, 42, 89, 180, 0, 207, 4, 96, 181, 0, 207, 177]
abbrev dktX6_notes_1 : List UInt8 := dkwX6_notes_1 ++ []
def dkwX6_notes_0 : List UInt8 := [42, 180, 0, 111, 153, 0, 4, 177, 42, 180, 0, 49, 42, 180, 0, 207, 50, 3, 27, 79, 42, 180, 0, 49]
abbrev dktX6_notes_0 : List UInt8 := dkwX6_notes_0 ++ dktX6_notes_1
theorem dksX6_notes_0 : cX6_notes.data.toList.drop 0 = dktX6_notes_0 := by decide +kernel
theorem dksX6_notes_1 : cX6_notes.data.toList.drop 24 = dktX6_notes_1 := dk_seg dksX6_notes_0 24 rfl rfl
theorem dX6_notes_0 : decode cX6_notes 0 = .ok (.aload_n 0, 1) := dk_42 (dk_at dksX6_notes_0 0 rfl rfl)
theorem dX6_notes_1 : decode cX6_notes 1 = .ok (.getfield 111, 3) := dk_180 0 111 (dk_at dksX6_notes_0 1 rfl rfl)
theorem dX6_notes_4 : decode cX6_notes 4 = .ok (.ifCond .eq 4, 3) := dk_153 0 4 (dk_at dksX6_notes_0 4 rfl rfl)
theorem dX6_notes_7 : decode cX6_notes 7 = .ok (.return_, 1) := dk_177 (dk_at dksX6_notes_0 7 rfl rfl)
theorem dX6_notes_8 : decode cX6_notes 8 = .ok (.aload_n 0, 1) := dk_42 (dk_at dksX6_notes_0 8 rfl rfl)
theorem dX6_notes_9 : decode cX6_notes 9 = .ok (.getfield 49, 3) := dk_180 0 49 (dk_at dksX6_notes_0 9 rfl rfl)
theorem dX6_notes_12 : decode cX6_notes 12 = .ok (.aload_n 0, 1) := dk_42 (dk_at dksX6_notes_0 12 rfl rfl)
theorem dX6_notes_13 : decode cX6_notes 13 = .ok (.getfield 207, 3) := dk_180 0 207 (dk_at dksX6_notes_0 13 rfl rfl)
theorem dX6_notes_16 : decode cX6_notes 16 = .ok (.aaload, 1) := dk_50 (dk_at dksX6_notes_0 16 rfl rfl)
theorem dX6_notes_17 : decode cX6_notes 17 = .ok (.iconst 0, 1) := dk_3 (dk_at dksX6_notes_0 17 rfl rfl)
theorem dX6_notes_18 : decode cX6_notes 18 = .ok (.iload_n 1, 1) := dk_27 (dk_at dksX6_notes_0 18 rfl rfl)
theorem dX6_notes_19 : decode cX6_notes 19 = .ok (.iastore, 1) := dk_79 (dk_at dksX6_notes_0 19 rfl rfl)
theorem dX6_notes_20 : decode cX6_notes 20 = .ok (.aload_n 0, 1) := dk_42 (dk_at dksX6_notes_0 20 rfl rfl)
theorem dX6_notes_21 : decode cX6_notes 21 = .ok (.getfield 49, 3) := dk_180 0 49 (dk_at dksX6_notes_0 21 rfl rfl)
theorem dX6_notes_24 : decode cX6_notes 24 = .ok (.aload_n 0, 1) := dk_42 (dk_at dksX6_notes_1 0 rfl rfl)
theorem dX6_notes_25 : decode cX6_notes 25 = .ok (.getfield 207, 3) := dk_180 0 207 (dk_at dksX6_notes_1 1 rfl rfl)
theorem dX6_notes_28 : decode cX6_notes 28 = .ok (.aaload, 1) := dk_50 (dk_at dksX6_notes_1 4 rfl rfl)
theorem dX6_notes_29 : decode cX6_notes 29 = .ok (.iconst 1, 1) := dk_4 (dk_at dksX6_notes_1 5 rfl rfl)
theorem dX6_notes_30 : decode cX6_notes 30 = .ok (.iload_n 2, 1) := dk_28 (dk_at dksX6_notes_1 6 rfl rfl)
theorem dX6_notes_31 : decode cX6_notes 31 = .ok (.iastore, 1) := dk_79 (dk_at dksX6_notes_1 7 rfl rfl)
theorem dX6_notes_32 : decode cX6_notes 32 = .ok (.aload_n 0, 1) := dk_42 (dk_at dksX6_notes_1 8 rfl rfl)
theorem dX6_notes_33 : decode cX6_notes 33 = .ok (.dup, 1) := dk_89 (dk_at dksX6_notes_1 9 rfl rfl)
theorem dX6_notes_34 : decode cX6_notes 34 = .ok (.getfield 207, 3) := dk_180 0 207 (dk_at dksX6_notes_1 10 rfl rfl)
theorem dX6_notes_37 : decode cX6_notes 37 = .ok (.iconst 1, 1) := dk_4 (dk_at dksX6_notes_1 13 rfl rfl)
theorem dX6_notes_38 : decode cX6_notes 38 = .ok (.iadd, 1) := dk_96 (dk_at dksX6_notes_1 14 rfl rfl)
theorem dX6_notes_39 : decode cX6_notes 39 = .ok (.putfield 207, 3) := dk_181 0 207 (dk_at dksX6_notes_1 15 rfl rfl)
theorem dX6_notes_42 : decode cX6_notes 42 = .ok (.return_, 1) := dk_177 (dk_at dksX6_notes_1 18 rfl rfl)
abbrev cX6_knownHere : ByteArray := prog_34_method_37_code
def yX6_knownHere : MethodName := ⟨RX6, "knownHere", "()I"⟩
def dkwX6_knownHere_6 : List UInt8 := [182, 0, 222, 153, 0, 8, 16, 7, 167, 0, 4, 2, 172]
abbrev dktX6_knownHere_6 : List UInt8 := dkwX6_knownHere_6 ++ []
def dkwX6_knownHere_5 : List UInt8 := [3, 3, 182, 0, 222, 153, 0, 6, 16, 6, 172, 42, 16, 19, 16, 9, 16, 14, 16, 7, 8, 16, 18]
abbrev dktX6_knownHere_5 : List UInt8 := dkwX6_knownHere_5 ++ dktX6_knownHere_6
def dkwX6_knownHere_4 : List UInt8 := [16, 22, 16, 15, 16, 23, 8, 16, 12, 3, 182, 0, 222, 153, 0, 5, 8, 172, 42, 7, 4, 16, 25, 3]
abbrev dktX6_knownHere_4 : List UInt8 := dkwX6_knownHere_4 ++ dktX6_knownHere_5
def dkwX6_knownHere_3 : List UInt8 := [153, 0, 5, 6, 172, 42, 16, 14, 16, 15, 16, 20, 8, 3, 3, 182, 0, 222, 153, 0, 5, 7, 172, 42]
abbrev dktX6_knownHere_3 : List UInt8 := dkwX6_knownHere_3 ++ dktX6_knownHere_4
def dkwX6_knownHere_2 : List UInt8 := [182, 0, 222, 153, 0, 5, 5, 172, 42, 16, 19, 16, 21, 16, 14, 16, 7, 3, 3, 182, 0, 222]
abbrev dktX6_knownHere_2 : List UInt8 := dkwX6_knownHere_2 ++ dktX6_knownHere_3
def dkwX6_knownHere_1 : List UInt8 := [16, 25, 3, 3, 3, 182, 0, 222, 153, 0, 5, 4, 172, 42, 16, 12, 8, 16, 6, 16, 20, 3, 3]
abbrev dktX6_knownHere_1 : List UInt8 := dkwX6_knownHere_1 ++ dktX6_knownHere_2
def dkwX6_knownHere_0 : List UInt8 := [42, 16, 12, 8, 16, 14, 16, 7, 16, 20, 16, 8, 182, 0, 222, 153, 0, 5, 3, 172, 42, 16, 16, 4]
abbrev dktX6_knownHere_0 : List UInt8 := dkwX6_knownHere_0 ++ dktX6_knownHere_1
theorem dksX6_knownHere_0 : cX6_knownHere.data.toList.drop 0 = dktX6_knownHere_0 := by decide +kernel
theorem dksX6_knownHere_1 : cX6_knownHere.data.toList.drop 24 = dktX6_knownHere_1 := dk_seg dksX6_knownHere_0 24 rfl rfl
theorem dksX6_knownHere_2 : cX6_knownHere.data.toList.drop 47 = dktX6_knownHere_2 := dk_seg dksX6_knownHere_1 23 rfl rfl
theorem dksX6_knownHere_3 : cX6_knownHere.data.toList.drop 69 = dktX6_knownHere_3 := dk_seg dksX6_knownHere_2 22 rfl rfl
theorem dksX6_knownHere_4 : cX6_knownHere.data.toList.drop 93 = dktX6_knownHere_4 := dk_seg dksX6_knownHere_3 24 rfl rfl
theorem dksX6_knownHere_5 : cX6_knownHere.data.toList.drop 117 = dktX6_knownHere_5 := dk_seg dksX6_knownHere_4 24 rfl rfl
theorem dksX6_knownHere_6 : cX6_knownHere.data.toList.drop 140 = dktX6_knownHere_6 := dk_seg dksX6_knownHere_5 23 rfl rfl
theorem dX6_knownHere_0 : decode cX6_knownHere 0 = .ok (.aload_n 0, 1) := dk_42 (dk_at dksX6_knownHere_0 0 rfl rfl)
theorem dX6_knownHere_1 : decode cX6_knownHere 1 = .ok (.bipush 12, 2) := dk_16 12 (dk_at dksX6_knownHere_0 1 rfl rfl)
theorem dX6_knownHere_3 : decode cX6_knownHere 3 = .ok (.iconst 5, 1) := dk_8 (dk_at dksX6_knownHere_0 3 rfl rfl)
theorem dX6_knownHere_4 : decode cX6_knownHere 4 = .ok (.bipush 14, 2) := dk_16 14 (dk_at dksX6_knownHere_0 4 rfl rfl)
theorem dX6_knownHere_6 : decode cX6_knownHere 6 = .ok (.bipush 7, 2) := dk_16 7 (dk_at dksX6_knownHere_0 6 rfl rfl)
theorem dX6_knownHere_8 : decode cX6_knownHere 8 = .ok (.bipush 20, 2) := dk_16 20 (dk_at dksX6_knownHere_0 8 rfl rfl)
theorem dX6_knownHere_10 : decode cX6_knownHere 10 = .ok (.bipush 8, 2) := dk_16 8 (dk_at dksX6_knownHere_0 10 rfl rfl)
theorem dX6_knownHere_12 : decode cX6_knownHere 12 = .ok (.invokevirtual 222, 3) := dk_182 0 222 (dk_at dksX6_knownHere_0 12 rfl rfl)
theorem dX6_knownHere_15 : decode cX6_knownHere 15 = .ok (.ifCond .eq 5, 3) := dk_153 0 5 (dk_at dksX6_knownHere_0 15 rfl rfl)
theorem dX6_knownHere_18 : decode cX6_knownHere 18 = .ok (.iconst 0, 1) := dk_3 (dk_at dksX6_knownHere_0 18 rfl rfl)
theorem dX6_knownHere_19 : decode cX6_knownHere 19 = .ok (.ireturn, 1) := dk_172 (dk_at dksX6_knownHere_0 19 rfl rfl)
theorem dX6_knownHere_20 : decode cX6_knownHere 20 = .ok (.aload_n 0, 1) := dk_42 (dk_at dksX6_knownHere_0 20 rfl rfl)
theorem dX6_knownHere_21 : decode cX6_knownHere 21 = .ok (.bipush 16, 2) := dk_16 16 (dk_at dksX6_knownHere_0 21 rfl rfl)
theorem dX6_knownHere_23 : decode cX6_knownHere 23 = .ok (.iconst 1, 1) := dk_4 (dk_at dksX6_knownHere_0 23 rfl rfl)
theorem dX6_knownHere_24 : decode cX6_knownHere 24 = .ok (.bipush 25, 2) := dk_16 25 (dk_at dksX6_knownHere_1 0 rfl rfl)
theorem dX6_knownHere_26 : decode cX6_knownHere 26 = .ok (.iconst 0, 1) := dk_3 (dk_at dksX6_knownHere_1 2 rfl rfl)
theorem dX6_knownHere_27 : decode cX6_knownHere 27 = .ok (.iconst 0, 1) := dk_3 (dk_at dksX6_knownHere_1 3 rfl rfl)
theorem dX6_knownHere_28 : decode cX6_knownHere 28 = .ok (.iconst 0, 1) := dk_3 (dk_at dksX6_knownHere_1 4 rfl rfl)
theorem dX6_knownHere_29 : decode cX6_knownHere 29 = .ok (.invokevirtual 222, 3) := dk_182 0 222 (dk_at dksX6_knownHere_1 5 rfl rfl)
theorem dX6_knownHere_32 : decode cX6_knownHere 32 = .ok (.ifCond .eq 5, 3) := dk_153 0 5 (dk_at dksX6_knownHere_1 8 rfl rfl)
theorem dX6_knownHere_35 : decode cX6_knownHere 35 = .ok (.iconst 1, 1) := dk_4 (dk_at dksX6_knownHere_1 11 rfl rfl)
theorem dX6_knownHere_36 : decode cX6_knownHere 36 = .ok (.ireturn, 1) := dk_172 (dk_at dksX6_knownHere_1 12 rfl rfl)
theorem dX6_knownHere_37 : decode cX6_knownHere 37 = .ok (.aload_n 0, 1) := dk_42 (dk_at dksX6_knownHere_1 13 rfl rfl)
theorem dX6_knownHere_38 : decode cX6_knownHere 38 = .ok (.bipush 12, 2) := dk_16 12 (dk_at dksX6_knownHere_1 14 rfl rfl)
theorem dX6_knownHere_40 : decode cX6_knownHere 40 = .ok (.iconst 5, 1) := dk_8 (dk_at dksX6_knownHere_1 16 rfl rfl)
theorem dX6_knownHere_41 : decode cX6_knownHere 41 = .ok (.bipush 6, 2) := dk_16 6 (dk_at dksX6_knownHere_1 17 rfl rfl)
theorem dX6_knownHere_43 : decode cX6_knownHere 43 = .ok (.bipush 20, 2) := dk_16 20 (dk_at dksX6_knownHere_1 19 rfl rfl)
theorem dX6_knownHere_45 : decode cX6_knownHere 45 = .ok (.iconst 0, 1) := dk_3 (dk_at dksX6_knownHere_1 21 rfl rfl)
theorem dX6_knownHere_46 : decode cX6_knownHere 46 = .ok (.iconst 0, 1) := dk_3 (dk_at dksX6_knownHere_1 22 rfl rfl)
theorem dX6_knownHere_47 : decode cX6_knownHere 47 = .ok (.invokevirtual 222, 3) := dk_182 0 222 (dk_at dksX6_knownHere_2 0 rfl rfl)
theorem dX6_knownHere_50 : decode cX6_knownHere 50 = .ok (.ifCond .eq 5, 3) := dk_153 0 5 (dk_at dksX6_knownHere_2 3 rfl rfl)
theorem dX6_knownHere_53 : decode cX6_knownHere 53 = .ok (.iconst 2, 1) := dk_5 (dk_at dksX6_knownHere_2 6 rfl rfl)
theorem dX6_knownHere_54 : decode cX6_knownHere 54 = .ok (.ireturn, 1) := dk_172 (dk_at dksX6_knownHere_2 7 rfl rfl)
theorem dX6_knownHere_55 : decode cX6_knownHere 55 = .ok (.aload_n 0, 1) := dk_42 (dk_at dksX6_knownHere_2 8 rfl rfl)
theorem dX6_knownHere_56 : decode cX6_knownHere 56 = .ok (.bipush 19, 2) := dk_16 19 (dk_at dksX6_knownHere_2 9 rfl rfl)
theorem dX6_knownHere_58 : decode cX6_knownHere 58 = .ok (.bipush 21, 2) := dk_16 21 (dk_at dksX6_knownHere_2 11 rfl rfl)
theorem dX6_knownHere_60 : decode cX6_knownHere 60 = .ok (.bipush 14, 2) := dk_16 14 (dk_at dksX6_knownHere_2 13 rfl rfl)
theorem dX6_knownHere_62 : decode cX6_knownHere 62 = .ok (.bipush 7, 2) := dk_16 7 (dk_at dksX6_knownHere_2 15 rfl rfl)
theorem dX6_knownHere_64 : decode cX6_knownHere 64 = .ok (.iconst 0, 1) := dk_3 (dk_at dksX6_knownHere_2 17 rfl rfl)
theorem dX6_knownHere_65 : decode cX6_knownHere 65 = .ok (.iconst 0, 1) := dk_3 (dk_at dksX6_knownHere_2 18 rfl rfl)
theorem dX6_knownHere_66 : decode cX6_knownHere 66 = .ok (.invokevirtual 222, 3) := dk_182 0 222 (dk_at dksX6_knownHere_2 19 rfl rfl)
theorem dX6_knownHere_69 : decode cX6_knownHere 69 = .ok (.ifCond .eq 5, 3) := dk_153 0 5 (dk_at dksX6_knownHere_3 0 rfl rfl)
theorem dX6_knownHere_72 : decode cX6_knownHere 72 = .ok (.iconst 3, 1) := dk_6 (dk_at dksX6_knownHere_3 3 rfl rfl)
theorem dX6_knownHere_73 : decode cX6_knownHere 73 = .ok (.ireturn, 1) := dk_172 (dk_at dksX6_knownHere_3 4 rfl rfl)
theorem dX6_knownHere_74 : decode cX6_knownHere 74 = .ok (.aload_n 0, 1) := dk_42 (dk_at dksX6_knownHere_3 5 rfl rfl)
theorem dX6_knownHere_75 : decode cX6_knownHere 75 = .ok (.bipush 14, 2) := dk_16 14 (dk_at dksX6_knownHere_3 6 rfl rfl)
theorem dX6_knownHere_77 : decode cX6_knownHere 77 = .ok (.bipush 15, 2) := dk_16 15 (dk_at dksX6_knownHere_3 8 rfl rfl)
theorem dX6_knownHere_79 : decode cX6_knownHere 79 = .ok (.bipush 20, 2) := dk_16 20 (dk_at dksX6_knownHere_3 10 rfl rfl)
theorem dX6_knownHere_81 : decode cX6_knownHere 81 = .ok (.iconst 5, 1) := dk_8 (dk_at dksX6_knownHere_3 12 rfl rfl)
theorem dX6_knownHere_82 : decode cX6_knownHere 82 = .ok (.iconst 0, 1) := dk_3 (dk_at dksX6_knownHere_3 13 rfl rfl)
theorem dX6_knownHere_83 : decode cX6_knownHere 83 = .ok (.iconst 0, 1) := dk_3 (dk_at dksX6_knownHere_3 14 rfl rfl)
theorem dX6_knownHere_84 : decode cX6_knownHere 84 = .ok (.invokevirtual 222, 3) := dk_182 0 222 (dk_at dksX6_knownHere_3 15 rfl rfl)
theorem dX6_knownHere_87 : decode cX6_knownHere 87 = .ok (.ifCond .eq 5, 3) := dk_153 0 5 (dk_at dksX6_knownHere_3 18 rfl rfl)
theorem dX6_knownHere_90 : decode cX6_knownHere 90 = .ok (.iconst 4, 1) := dk_7 (dk_at dksX6_knownHere_3 21 rfl rfl)
theorem dX6_knownHere_91 : decode cX6_knownHere 91 = .ok (.ireturn, 1) := dk_172 (dk_at dksX6_knownHere_3 22 rfl rfl)
theorem dX6_knownHere_92 : decode cX6_knownHere 92 = .ok (.aload_n 0, 1) := dk_42 (dk_at dksX6_knownHere_3 23 rfl rfl)
theorem dX6_knownHere_93 : decode cX6_knownHere 93 = .ok (.bipush 22, 2) := dk_16 22 (dk_at dksX6_knownHere_4 0 rfl rfl)
theorem dX6_knownHere_95 : decode cX6_knownHere 95 = .ok (.bipush 15, 2) := dk_16 15 (dk_at dksX6_knownHere_4 2 rfl rfl)
theorem dX6_knownHere_97 : decode cX6_knownHere 97 = .ok (.bipush 23, 2) := dk_16 23 (dk_at dksX6_knownHere_4 4 rfl rfl)
theorem dX6_knownHere_99 : decode cX6_knownHere 99 = .ok (.iconst 5, 1) := dk_8 (dk_at dksX6_knownHere_4 6 rfl rfl)
theorem dX6_knownHere_100 : decode cX6_knownHere 100 = .ok (.bipush 12, 2) := dk_16 12 (dk_at dksX6_knownHere_4 7 rfl rfl)
theorem dX6_knownHere_102 : decode cX6_knownHere 102 = .ok (.iconst 0, 1) := dk_3 (dk_at dksX6_knownHere_4 9 rfl rfl)
theorem dX6_knownHere_103 : decode cX6_knownHere 103 = .ok (.invokevirtual 222, 3) := dk_182 0 222 (dk_at dksX6_knownHere_4 10 rfl rfl)
theorem dX6_knownHere_106 : decode cX6_knownHere 106 = .ok (.ifCond .eq 5, 3) := dk_153 0 5 (dk_at dksX6_knownHere_4 13 rfl rfl)
theorem dX6_knownHere_109 : decode cX6_knownHere 109 = .ok (.iconst 5, 1) := dk_8 (dk_at dksX6_knownHere_4 16 rfl rfl)
theorem dX6_knownHere_110 : decode cX6_knownHere 110 = .ok (.ireturn, 1) := dk_172 (dk_at dksX6_knownHere_4 17 rfl rfl)
theorem dX6_knownHere_111 : decode cX6_knownHere 111 = .ok (.aload_n 0, 1) := dk_42 (dk_at dksX6_knownHere_4 18 rfl rfl)
theorem dX6_knownHere_112 : decode cX6_knownHere 112 = .ok (.iconst 4, 1) := dk_7 (dk_at dksX6_knownHere_4 19 rfl rfl)
theorem dX6_knownHere_113 : decode cX6_knownHere 113 = .ok (.iconst 1, 1) := dk_4 (dk_at dksX6_knownHere_4 20 rfl rfl)
theorem dX6_knownHere_114 : decode cX6_knownHere 114 = .ok (.bipush 25, 2) := dk_16 25 (dk_at dksX6_knownHere_4 21 rfl rfl)
theorem dX6_knownHere_116 : decode cX6_knownHere 116 = .ok (.iconst 0, 1) := dk_3 (dk_at dksX6_knownHere_4 23 rfl rfl)
theorem dX6_knownHere_117 : decode cX6_knownHere 117 = .ok (.iconst 0, 1) := dk_3 (dk_at dksX6_knownHere_5 0 rfl rfl)
theorem dX6_knownHere_118 : decode cX6_knownHere 118 = .ok (.iconst 0, 1) := dk_3 (dk_at dksX6_knownHere_5 1 rfl rfl)
theorem dX6_knownHere_119 : decode cX6_knownHere 119 = .ok (.invokevirtual 222, 3) := dk_182 0 222 (dk_at dksX6_knownHere_5 2 rfl rfl)
theorem dX6_knownHere_122 : decode cX6_knownHere 122 = .ok (.ifCond .eq 6, 3) := dk_153 0 6 (dk_at dksX6_knownHere_5 5 rfl rfl)
theorem dX6_knownHere_125 : decode cX6_knownHere 125 = .ok (.bipush 6, 2) := dk_16 6 (dk_at dksX6_knownHere_5 8 rfl rfl)
theorem dX6_knownHere_127 : decode cX6_knownHere 127 = .ok (.ireturn, 1) := dk_172 (dk_at dksX6_knownHere_5 10 rfl rfl)
theorem dX6_knownHere_128 : decode cX6_knownHere 128 = .ok (.aload_n 0, 1) := dk_42 (dk_at dksX6_knownHere_5 11 rfl rfl)
theorem dX6_knownHere_129 : decode cX6_knownHere 129 = .ok (.bipush 19, 2) := dk_16 19 (dk_at dksX6_knownHere_5 12 rfl rfl)
theorem dX6_knownHere_131 : decode cX6_knownHere 131 = .ok (.bipush 9, 2) := dk_16 9 (dk_at dksX6_knownHere_5 14 rfl rfl)
theorem dX6_knownHere_133 : decode cX6_knownHere 133 = .ok (.bipush 14, 2) := dk_16 14 (dk_at dksX6_knownHere_5 16 rfl rfl)
theorem dX6_knownHere_135 : decode cX6_knownHere 135 = .ok (.bipush 7, 2) := dk_16 7 (dk_at dksX6_knownHere_5 18 rfl rfl)
theorem dX6_knownHere_137 : decode cX6_knownHere 137 = .ok (.iconst 5, 1) := dk_8 (dk_at dksX6_knownHere_5 20 rfl rfl)
theorem dX6_knownHere_138 : decode cX6_knownHere 138 = .ok (.bipush 18, 2) := dk_16 18 (dk_at dksX6_knownHere_5 21 rfl rfl)
theorem dX6_knownHere_140 : decode cX6_knownHere 140 = .ok (.invokevirtual 222, 3) := dk_182 0 222 (dk_at dksX6_knownHere_6 0 rfl rfl)
theorem dX6_knownHere_143 : decode cX6_knownHere 143 = .ok (.ifCond .eq 8, 3) := dk_153 0 8 (dk_at dksX6_knownHere_6 3 rfl rfl)
theorem dX6_knownHere_146 : decode cX6_knownHere 146 = .ok (.bipush 7, 2) := dk_16 7 (dk_at dksX6_knownHere_6 6 rfl rfl)
theorem dX6_knownHere_148 : decode cX6_knownHere 148 = .ok (.goto 4, 3) := dk_167 0 4 (dk_at dksX6_knownHere_6 8 rfl rfl)
theorem dX6_knownHere_151 : decode cX6_knownHere 151 = .ok (.iconst (-1), 1) := dk_2 (dk_at dksX6_knownHere_6 11 rfl rfl)
theorem dX6_knownHere_152 : decode cX6_knownHere 152 = .ok (.ireturn, 1) := dk_172 (dk_at dksX6_knownHere_6 12 rfl rfl)
abbrev cX6_isNext : ByteArray := prog_34_method_20_code
def yX6_isNext : MethodName := ⟨RX6, "isNext", "(IIIIII)Z"⟩
def dkwX6_isNext_1 : List UInt8 := [21, 7, 172]
abbrev dktX6_isNext_1 : List UInt8 := dkwX6_isNext_1 ++ []
def dkwX6_isNext_0 : List UInt8 := [42, 27, 28, 29, 21, 4, 21, 5, 21, 6, 182, 0, 144, 54, 7, 21, 7, 153, 0, 7, 42, 182, 0, 148]
abbrev dktX6_isNext_0 : List UInt8 := dkwX6_isNext_0 ++ dktX6_isNext_1
theorem dksX6_isNext_0 : cX6_isNext.data.toList.drop 0 = dktX6_isNext_0 := by decide +kernel
theorem dksX6_isNext_1 : cX6_isNext.data.toList.drop 24 = dktX6_isNext_1 := dk_seg dksX6_isNext_0 24 rfl rfl
theorem dX6_isNext_0 : decode cX6_isNext 0 = .ok (.aload_n 0, 1) := dk_42 (dk_at dksX6_isNext_0 0 rfl rfl)
theorem dX6_isNext_1 : decode cX6_isNext 1 = .ok (.iload_n 1, 1) := dk_27 (dk_at dksX6_isNext_0 1 rfl rfl)
theorem dX6_isNext_2 : decode cX6_isNext 2 = .ok (.iload_n 2, 1) := dk_28 (dk_at dksX6_isNext_0 2 rfl rfl)
theorem dX6_isNext_3 : decode cX6_isNext 3 = .ok (.iload_n 3, 1) := dk_29 (dk_at dksX6_isNext_0 3 rfl rfl)
theorem dX6_isNext_4 : decode cX6_isNext 4 = .ok (.iload 4, 2) := dk_21 4 (dk_at dksX6_isNext_0 4 rfl rfl)
theorem dX6_isNext_6 : decode cX6_isNext 6 = .ok (.iload 5, 2) := dk_21 5 (dk_at dksX6_isNext_0 6 rfl rfl)
theorem dX6_isNext_8 : decode cX6_isNext 8 = .ok (.iload 6, 2) := dk_21 6 (dk_at dksX6_isNext_0 8 rfl rfl)
theorem dX6_isNext_10 : decode cX6_isNext 10 = .ok (.invokevirtual 144, 3) := dk_182 0 144 (dk_at dksX6_isNext_0 10 rfl rfl)
theorem dX6_isNext_13 : decode cX6_isNext 13 = .ok (.istore 7, 2) := dk_54 7 (dk_at dksX6_isNext_0 13 rfl rfl)
theorem dX6_isNext_15 : decode cX6_isNext 15 = .ok (.iload 7, 2) := dk_21 7 (dk_at dksX6_isNext_0 15 rfl rfl)
theorem dX6_isNext_17 : decode cX6_isNext 17 = .ok (.ifCond .eq 7, 3) := dk_153 0 7 (dk_at dksX6_isNext_0 17 rfl rfl)
theorem dX6_isNext_20 : decode cX6_isNext 20 = .ok (.aload_n 0, 1) := dk_42 (dk_at dksX6_isNext_0 20 rfl rfl)
theorem dX6_isNext_21 : decode cX6_isNext 21 = .ok (.invokevirtual 148, 3) := dk_182 0 148 (dk_at dksX6_isNext_0 21 rfl rfl)
theorem dX6_isNext_24 : decode cX6_isNext 24 = .ok (.iload 7, 2) := dk_21 7 (dk_at dksX6_isNext_1 0 rfl rfl)
theorem dX6_isNext_26 : decode cX6_isNext 26 = .ok (.ireturn, 1) := dk_172 (dk_at dksX6_isNext_1 2 rfl rfl)
abbrev cX6_takesSign : ByteArray := prog_34_method_22_code
def yX6_takesSign : MethodName := ⟨RX6, "takesSign", "(I)Z"⟩
def dkwX6_takesSign_2 : List UInt8 := [172]
abbrev dktX6_takesSign_2 : List UInt8 := dkwX6_takesSign_2 ++ []
def dkwX6_takesSign_1 : List UInt8 := [160, 0, 7, 4, 167, 0, 4, 3, 61, 28, 153, 0, 13, 42, 89, 180, 0, 104, 4, 96, 181, 0, 104, 28]
abbrev dktX6_takesSign_1 : List UInt8 := dkwX6_takesSign_1 ++ dktX6_takesSign_2
def dkwX6_takesSign_0 : List UInt8 := [42, 180, 0, 111, 153, 0, 5, 3, 172, 42, 182, 0, 117, 42, 42, 180, 0, 104, 182, 0, 107, 27]
abbrev dktX6_takesSign_0 : List UInt8 := dkwX6_takesSign_0 ++ dktX6_takesSign_1
theorem dksX6_takesSign_0 : cX6_takesSign.data.toList.drop 0 = dktX6_takesSign_0 := by decide +kernel
theorem dksX6_takesSign_1 : cX6_takesSign.data.toList.drop 22 = dktX6_takesSign_1 := dk_seg dksX6_takesSign_0 22 rfl rfl
theorem dksX6_takesSign_2 : cX6_takesSign.data.toList.drop 46 = dktX6_takesSign_2 := dk_seg dksX6_takesSign_1 24 rfl rfl
theorem dX6_takesSign_0 : decode cX6_takesSign 0 = .ok (.aload_n 0, 1) := dk_42 (dk_at dksX6_takesSign_0 0 rfl rfl)
theorem dX6_takesSign_1 : decode cX6_takesSign 1 = .ok (.getfield 111, 3) := dk_180 0 111 (dk_at dksX6_takesSign_0 1 rfl rfl)
theorem dX6_takesSign_4 : decode cX6_takesSign 4 = .ok (.ifCond .eq 5, 3) := dk_153 0 5 (dk_at dksX6_takesSign_0 4 rfl rfl)
theorem dX6_takesSign_7 : decode cX6_takesSign 7 = .ok (.iconst 0, 1) := dk_3 (dk_at dksX6_takesSign_0 7 rfl rfl)
theorem dX6_takesSign_8 : decode cX6_takesSign 8 = .ok (.ireturn, 1) := dk_172 (dk_at dksX6_takesSign_0 8 rfl rfl)
theorem dX6_takesSign_9 : decode cX6_takesSign 9 = .ok (.aload_n 0, 1) := dk_42 (dk_at dksX6_takesSign_0 9 rfl rfl)
theorem dX6_takesSign_10 : decode cX6_takesSign 10 = .ok (.invokevirtual 117, 3) := dk_182 0 117 (dk_at dksX6_takesSign_0 10 rfl rfl)
theorem dX6_takesSign_13 : decode cX6_takesSign 13 = .ok (.aload_n 0, 1) := dk_42 (dk_at dksX6_takesSign_0 13 rfl rfl)
theorem dX6_takesSign_14 : decode cX6_takesSign 14 = .ok (.aload_n 0, 1) := dk_42 (dk_at dksX6_takesSign_0 14 rfl rfl)
theorem dX6_takesSign_15 : decode cX6_takesSign 15 = .ok (.getfield 104, 3) := dk_180 0 104 (dk_at dksX6_takesSign_0 15 rfl rfl)
theorem dX6_takesSign_18 : decode cX6_takesSign 18 = .ok (.invokevirtual 107, 3) := dk_182 0 107 (dk_at dksX6_takesSign_0 18 rfl rfl)
theorem dX6_takesSign_21 : decode cX6_takesSign 21 = .ok (.iload_n 1, 1) := dk_27 (dk_at dksX6_takesSign_0 21 rfl rfl)
theorem dX6_takesSign_22 : decode cX6_takesSign 22 = .ok (.if_icmp .ne 7, 3) := dk_160 0 7 (dk_at dksX6_takesSign_1 0 rfl rfl)
theorem dX6_takesSign_25 : decode cX6_takesSign 25 = .ok (.iconst 1, 1) := dk_4 (dk_at dksX6_takesSign_1 3 rfl rfl)
theorem dX6_takesSign_26 : decode cX6_takesSign 26 = .ok (.goto 4, 3) := dk_167 0 4 (dk_at dksX6_takesSign_1 4 rfl rfl)
theorem dX6_takesSign_29 : decode cX6_takesSign 29 = .ok (.iconst 0, 1) := dk_3 (dk_at dksX6_takesSign_1 7 rfl rfl)
theorem dX6_takesSign_30 : decode cX6_takesSign 30 = .ok (.istore_n 2, 1) := dk_61 (dk_at dksX6_takesSign_1 8 rfl rfl)
theorem dX6_takesSign_31 : decode cX6_takesSign 31 = .ok (.iload_n 2, 1) := dk_28 (dk_at dksX6_takesSign_1 9 rfl rfl)
theorem dX6_takesSign_32 : decode cX6_takesSign 32 = .ok (.ifCond .eq 13, 3) := dk_153 0 13 (dk_at dksX6_takesSign_1 10 rfl rfl)
theorem dX6_takesSign_35 : decode cX6_takesSign 35 = .ok (.aload_n 0, 1) := dk_42 (dk_at dksX6_takesSign_1 13 rfl rfl)
theorem dX6_takesSign_36 : decode cX6_takesSign 36 = .ok (.dup, 1) := dk_89 (dk_at dksX6_takesSign_1 14 rfl rfl)
theorem dX6_takesSign_37 : decode cX6_takesSign 37 = .ok (.getfield 104, 3) := dk_180 0 104 (dk_at dksX6_takesSign_1 15 rfl rfl)
theorem dX6_takesSign_40 : decode cX6_takesSign 40 = .ok (.iconst 1, 1) := dk_4 (dk_at dksX6_takesSign_1 18 rfl rfl)
theorem dX6_takesSign_41 : decode cX6_takesSign 41 = .ok (.iadd, 1) := dk_96 (dk_at dksX6_takesSign_1 19 rfl rfl)
theorem dX6_takesSign_42 : decode cX6_takesSign 42 = .ok (.putfield 104, 3) := dk_181 0 104 (dk_at dksX6_takesSign_1 20 rfl rfl)
theorem dX6_takesSign_45 : decode cX6_takesSign 45 = .ok (.iload_n 2, 1) := dk_28 (dk_at dksX6_takesSign_1 23 rfl rfl)
theorem dX6_takesSign_46 : decode cX6_takesSign 46 = .ok (.ireturn, 1) := dk_172 (dk_at dksX6_takesSign_2 0 rfl rfl)
abbrev cX6_book : ByteArray := prog_34_method_44_code
def yX6_book : MethodName := ⟨RX6, "book", "(I)I"⟩
def dkwX6_book_8 : List UInt8 := [181, 0, 195, 42, 180, 0, 55, 42, 180, 0, 52, 28, 184, 0, 184, 28, 172]
abbrev dktX6_book_8 : List UInt8 := dkwX6_book_8 ++ []
def dkwX6_book_7 : List UInt8 := [167, 255, 139, 42, 180, 0, 111, 153, 0, 8, 42, 182, 0, 181, 172, 42, 2, 181, 0, 9, 42, 28]
abbrev dktX6_book_7 : List UInt8 := dkwX6_book_7 ++ dktX6_book_8
def dkwX6_book_6 : List UInt8 := [50, 3, 21, 5, 79, 42, 180, 0, 55, 28, 50, 4, 21, 6, 79, 132, 2, 1, 42, 182, 0, 117]
abbrev dktX6_book_6 : List UInt8 := dkwX6_book_6 ++ dktX6_book_7
def dkwX6_book_5 : List UInt8 := [16, 59, 182, 0, 167, 42, 180, 0, 111, 154, 0, 33, 29, 4, 21, 5, 120, 128, 62, 42, 180, 0, 55, 28]
abbrev dktX6_book_5 : List UInt8 := dkwX6_book_5 ++ dktX6_book_6
def dkwX6_book_4 : List UInt8 := [21, 5, 184, 0, 254, 153, 0, 10, 42, 5, 21, 4, 182, 0, 124, 42, 3, 4, 182, 0, 163, 54, 6, 42]
abbrev dktX6_book_4 : List UInt8 := dkwX6_book_4 ++ dktX6_book_5
def dkwX6_book_3 : List UInt8 := [42, 3, 42, 180, 0, 23, 4, 46, 4, 100, 182, 0, 163, 54, 5, 42, 180, 0, 111, 154, 0, 19, 29]
abbrev dktX6_book_3 : List UInt8 := dkwX6_book_3 ++ dktX6_book_4
def dkwX6_book_2 : List UInt8 := [42, 180, 0, 111, 154, 0, 116, 42, 180, 0, 104, 42, 180, 0, 101, 162, 0, 105, 42, 180, 0, 104, 54, 4]
abbrev dktX6_book_2 : List UInt8 := dkwX6_book_2 ++ dktX6_book_3
def dkwX6_book_1 : List UInt8 := [4, 167, 0, 4, 3, 4, 4, 182, 0, 171, 153, 0, 5, 3, 172, 42, 27, 182, 0, 175, 3, 61, 3, 62]
abbrev dktX6_book_1 : List UInt8 := dkwX6_book_1 ++ dktX6_book_2
def dkwX6_book_0 : List UInt8 := [42, 3, 181, 0, 95, 42, 27, 3, 42, 180, 0, 98, 184, 0, 129, 153, 0, 9, 27, 16, 60, 164, 0, 7]
abbrev dktX6_book_0 : List UInt8 := dkwX6_book_0 ++ dktX6_book_1
theorem dksX6_book_0 : cX6_book.data.toList.drop 0 = dktX6_book_0 := by decide +kernel
theorem dksX6_book_1 : cX6_book.data.toList.drop 24 = dktX6_book_1 := dk_seg dksX6_book_0 24 rfl rfl
theorem dksX6_book_2 : cX6_book.data.toList.drop 48 = dktX6_book_2 := dk_seg dksX6_book_1 24 rfl rfl
theorem dksX6_book_3 : cX6_book.data.toList.drop 72 = dktX6_book_3 := dk_seg dksX6_book_2 24 rfl rfl
theorem dksX6_book_4 : cX6_book.data.toList.drop 95 = dktX6_book_4 := dk_seg dksX6_book_3 23 rfl rfl
theorem dksX6_book_5 : cX6_book.data.toList.drop 119 = dktX6_book_5 := dk_seg dksX6_book_4 24 rfl rfl
theorem dksX6_book_6 : cX6_book.data.toList.drop 143 = dktX6_book_6 := dk_seg dksX6_book_5 24 rfl rfl
theorem dksX6_book_7 : cX6_book.data.toList.drop 165 = dktX6_book_7 := dk_seg dksX6_book_6 22 rfl rfl
theorem dksX6_book_8 : cX6_book.data.toList.drop 187 = dktX6_book_8 := dk_seg dksX6_book_7 22 rfl rfl
theorem dX6_book_0 : decode cX6_book 0 = .ok (.aload_n 0, 1) := dk_42 (dk_at dksX6_book_0 0 rfl rfl)
theorem dX6_book_1 : decode cX6_book 1 = .ok (.iconst 0, 1) := dk_3 (dk_at dksX6_book_0 1 rfl rfl)
theorem dX6_book_2 : decode cX6_book 2 = .ok (.putfield 95, 3) := dk_181 0 95 (dk_at dksX6_book_0 2 rfl rfl)
theorem dX6_book_5 : decode cX6_book 5 = .ok (.aload_n 0, 1) := dk_42 (dk_at dksX6_book_0 5 rfl rfl)
theorem dX6_book_6 : decode cX6_book 6 = .ok (.iload_n 1, 1) := dk_27 (dk_at dksX6_book_0 6 rfl rfl)
theorem dX6_book_7 : decode cX6_book 7 = .ok (.iconst 0, 1) := dk_3 (dk_at dksX6_book_0 7 rfl rfl)
theorem dX6_book_8 : decode cX6_book 8 = .ok (.aload_n 0, 1) := dk_42 (dk_at dksX6_book_0 8 rfl rfl)
theorem dX6_book_9 : decode cX6_book 9 = .ok (.getfield 98, 3) := dk_180 0 98 (dk_at dksX6_book_0 9 rfl rfl)
theorem dX6_book_12 : decode cX6_book 12 = .ok (.invokestatic 129, 3) := dk_184 0 129 (dk_at dksX6_book_0 12 rfl rfl)
theorem dX6_book_15 : decode cX6_book 15 = .ok (.ifCond .eq 9, 3) := dk_153 0 9 (dk_at dksX6_book_0 15 rfl rfl)
theorem dX6_book_18 : decode cX6_book 18 = .ok (.iload_n 1, 1) := dk_27 (dk_at dksX6_book_0 18 rfl rfl)
theorem dX6_book_19 : decode cX6_book 19 = .ok (.bipush 60, 2) := dk_16 60 (dk_at dksX6_book_0 19 rfl rfl)
theorem dX6_book_21 : decode cX6_book 21 = .ok (.if_icmp .le 7, 3) := dk_164 0 7 (dk_at dksX6_book_0 21 rfl rfl)
theorem dX6_book_24 : decode cX6_book 24 = .ok (.iconst 1, 1) := dk_4 (dk_at dksX6_book_1 0 rfl rfl)
theorem dX6_book_25 : decode cX6_book 25 = .ok (.goto 4, 3) := dk_167 0 4 (dk_at dksX6_book_1 1 rfl rfl)
theorem dX6_book_28 : decode cX6_book 28 = .ok (.iconst 0, 1) := dk_3 (dk_at dksX6_book_1 4 rfl rfl)
theorem dX6_book_29 : decode cX6_book 29 = .ok (.iconst 1, 1) := dk_4 (dk_at dksX6_book_1 5 rfl rfl)
theorem dX6_book_30 : decode cX6_book 30 = .ok (.iconst 1, 1) := dk_4 (dk_at dksX6_book_1 6 rfl rfl)
theorem dX6_book_31 : decode cX6_book 31 = .ok (.invokevirtual 171, 3) := dk_182 0 171 (dk_at dksX6_book_1 7 rfl rfl)
theorem dX6_book_34 : decode cX6_book 34 = .ok (.ifCond .eq 5, 3) := dk_153 0 5 (dk_at dksX6_book_1 10 rfl rfl)
theorem dX6_book_37 : decode cX6_book 37 = .ok (.iconst 0, 1) := dk_3 (dk_at dksX6_book_1 13 rfl rfl)
theorem dX6_book_38 : decode cX6_book 38 = .ok (.ireturn, 1) := dk_172 (dk_at dksX6_book_1 14 rfl rfl)
theorem dX6_book_39 : decode cX6_book 39 = .ok (.aload_n 0, 1) := dk_42 (dk_at dksX6_book_1 15 rfl rfl)
theorem dX6_book_40 : decode cX6_book 40 = .ok (.iload_n 1, 1) := dk_27 (dk_at dksX6_book_1 16 rfl rfl)
theorem dX6_book_41 : decode cX6_book 41 = .ok (.invokevirtual 175, 3) := dk_182 0 175 (dk_at dksX6_book_1 17 rfl rfl)
theorem dX6_book_44 : decode cX6_book 44 = .ok (.iconst 0, 1) := dk_3 (dk_at dksX6_book_1 20 rfl rfl)
theorem dX6_book_45 : decode cX6_book 45 = .ok (.istore_n 2, 1) := dk_61 (dk_at dksX6_book_1 21 rfl rfl)
theorem dX6_book_46 : decode cX6_book 46 = .ok (.iconst 0, 1) := dk_3 (dk_at dksX6_book_1 22 rfl rfl)
theorem dX6_book_47 : decode cX6_book 47 = .ok (.istore_n 3, 1) := dk_62 (dk_at dksX6_book_1 23 rfl rfl)
theorem dX6_book_48 : decode cX6_book 48 = .ok (.aload_n 0, 1) := dk_42 (dk_at dksX6_book_2 0 rfl rfl)
theorem dX6_book_49 : decode cX6_book 49 = .ok (.getfield 111, 3) := dk_180 0 111 (dk_at dksX6_book_2 1 rfl rfl)
theorem dX6_book_52 : decode cX6_book 52 = .ok (.ifCond .ne 116, 3) := dk_154 0 116 (dk_at dksX6_book_2 4 rfl rfl)
theorem dX6_book_55 : decode cX6_book 55 = .ok (.aload_n 0, 1) := dk_42 (dk_at dksX6_book_2 7 rfl rfl)
theorem dX6_book_56 : decode cX6_book 56 = .ok (.getfield 104, 3) := dk_180 0 104 (dk_at dksX6_book_2 8 rfl rfl)
theorem dX6_book_59 : decode cX6_book 59 = .ok (.aload_n 0, 1) := dk_42 (dk_at dksX6_book_2 11 rfl rfl)
theorem dX6_book_60 : decode cX6_book 60 = .ok (.getfield 101, 3) := dk_180 0 101 (dk_at dksX6_book_2 12 rfl rfl)
theorem dX6_book_63 : decode cX6_book 63 = .ok (.if_icmp .ge 105, 3) := dk_162 0 105 (dk_at dksX6_book_2 15 rfl rfl)
theorem dX6_book_66 : decode cX6_book 66 = .ok (.aload_n 0, 1) := dk_42 (dk_at dksX6_book_2 18 rfl rfl)
theorem dX6_book_67 : decode cX6_book 67 = .ok (.getfield 104, 3) := dk_180 0 104 (dk_at dksX6_book_2 19 rfl rfl)
theorem dX6_book_70 : decode cX6_book 70 = .ok (.istore 4, 2) := dk_54 4 (dk_at dksX6_book_2 22 rfl rfl)
theorem dX6_book_72 : decode cX6_book 72 = .ok (.aload_n 0, 1) := dk_42 (dk_at dksX6_book_3 0 rfl rfl)
theorem dX6_book_73 : decode cX6_book 73 = .ok (.iconst 0, 1) := dk_3 (dk_at dksX6_book_3 1 rfl rfl)
theorem dX6_book_74 : decode cX6_book 74 = .ok (.aload_n 0, 1) := dk_42 (dk_at dksX6_book_3 2 rfl rfl)
theorem dX6_book_75 : decode cX6_book 75 = .ok (.getfield 23, 3) := dk_180 0 23 (dk_at dksX6_book_3 3 rfl rfl)
theorem dX6_book_78 : decode cX6_book 78 = .ok (.iconst 1, 1) := dk_4 (dk_at dksX6_book_3 6 rfl rfl)
theorem dX6_book_79 : decode cX6_book 79 = .ok (.iaload, 1) := dk_46 (dk_at dksX6_book_3 7 rfl rfl)
theorem dX6_book_80 : decode cX6_book 80 = .ok (.iconst 1, 1) := dk_4 (dk_at dksX6_book_3 8 rfl rfl)
theorem dX6_book_81 : decode cX6_book 81 = .ok (.isub, 1) := dk_100 (dk_at dksX6_book_3 9 rfl rfl)
theorem dX6_book_82 : decode cX6_book 82 = .ok (.invokevirtual 163, 3) := dk_182 0 163 (dk_at dksX6_book_3 10 rfl rfl)
theorem dX6_book_85 : decode cX6_book 85 = .ok (.istore 5, 2) := dk_54 5 (dk_at dksX6_book_3 13 rfl rfl)
theorem dX6_book_87 : decode cX6_book 87 = .ok (.aload_n 0, 1) := dk_42 (dk_at dksX6_book_3 15 rfl rfl)
theorem dX6_book_88 : decode cX6_book 88 = .ok (.getfield 111, 3) := dk_180 0 111 (dk_at dksX6_book_3 16 rfl rfl)
theorem dX6_book_91 : decode cX6_book 91 = .ok (.ifCond .ne 19, 3) := dk_154 0 19 (dk_at dksX6_book_3 19 rfl rfl)
theorem dX6_book_94 : decode cX6_book 94 = .ok (.iload_n 3, 1) := dk_29 (dk_at dksX6_book_3 22 rfl rfl)
theorem dX6_book_95 : decode cX6_book 95 = .ok (.iload 5, 2) := dk_21 5 (dk_at dksX6_book_4 0 rfl rfl)
theorem dX6_book_97 : decode cX6_book 97 = .ok (.invokestatic 254, 3) := dk_184 0 254 (dk_at dksX6_book_4 2 rfl rfl)
theorem dX6_book_100 : decode cX6_book 100 = .ok (.ifCond .eq 10, 3) := dk_153 0 10 (dk_at dksX6_book_4 5 rfl rfl)
theorem dX6_book_103 : decode cX6_book 103 = .ok (.aload_n 0, 1) := dk_42 (dk_at dksX6_book_4 8 rfl rfl)
theorem dX6_book_104 : decode cX6_book 104 = .ok (.iconst 2, 1) := dk_5 (dk_at dksX6_book_4 9 rfl rfl)
theorem dX6_book_105 : decode cX6_book 105 = .ok (.iload 4, 2) := dk_21 4 (dk_at dksX6_book_4 10 rfl rfl)
theorem dX6_book_107 : decode cX6_book 107 = .ok (.invokevirtual 124, 3) := dk_182 0 124 (dk_at dksX6_book_4 12 rfl rfl)
theorem dX6_book_110 : decode cX6_book 110 = .ok (.aload_n 0, 1) := dk_42 (dk_at dksX6_book_4 15 rfl rfl)
theorem dX6_book_111 : decode cX6_book 111 = .ok (.iconst 0, 1) := dk_3 (dk_at dksX6_book_4 16 rfl rfl)
theorem dX6_book_112 : decode cX6_book 112 = .ok (.iconst 1, 1) := dk_4 (dk_at dksX6_book_4 17 rfl rfl)
theorem dX6_book_113 : decode cX6_book 113 = .ok (.invokevirtual 163, 3) := dk_182 0 163 (dk_at dksX6_book_4 18 rfl rfl)
theorem dX6_book_116 : decode cX6_book 116 = .ok (.istore 6, 2) := dk_54 6 (dk_at dksX6_book_4 21 rfl rfl)
theorem dX6_book_118 : decode cX6_book 118 = .ok (.aload_n 0, 1) := dk_42 (dk_at dksX6_book_4 23 rfl rfl)
theorem dX6_book_119 : decode cX6_book 119 = .ok (.bipush 59, 2) := dk_16 59 (dk_at dksX6_book_5 0 rfl rfl)
theorem dX6_book_121 : decode cX6_book 121 = .ok (.invokevirtual 167, 3) := dk_182 0 167 (dk_at dksX6_book_5 2 rfl rfl)
theorem dX6_book_124 : decode cX6_book 124 = .ok (.aload_n 0, 1) := dk_42 (dk_at dksX6_book_5 5 rfl rfl)
theorem dX6_book_125 : decode cX6_book 125 = .ok (.getfield 111, 3) := dk_180 0 111 (dk_at dksX6_book_5 6 rfl rfl)
theorem dX6_book_128 : decode cX6_book 128 = .ok (.ifCond .ne 33, 3) := dk_154 0 33 (dk_at dksX6_book_5 9 rfl rfl)
theorem dX6_book_131 : decode cX6_book 131 = .ok (.iload_n 3, 1) := dk_29 (dk_at dksX6_book_5 12 rfl rfl)
theorem dX6_book_132 : decode cX6_book 132 = .ok (.iconst 1, 1) := dk_4 (dk_at dksX6_book_5 13 rfl rfl)
theorem dX6_book_133 : decode cX6_book 133 = .ok (.iload 5, 2) := dk_21 5 (dk_at dksX6_book_5 14 rfl rfl)
theorem dX6_book_135 : decode cX6_book 135 = .ok (.ishl, 1) := dk_120 (dk_at dksX6_book_5 16 rfl rfl)
theorem dX6_book_136 : decode cX6_book 136 = .ok (.ior, 1) := dk_128 (dk_at dksX6_book_5 17 rfl rfl)
theorem dX6_book_137 : decode cX6_book 137 = .ok (.istore_n 3, 1) := dk_62 (dk_at dksX6_book_5 18 rfl rfl)
theorem dX6_book_138 : decode cX6_book 138 = .ok (.aload_n 0, 1) := dk_42 (dk_at dksX6_book_5 19 rfl rfl)
theorem dX6_book_139 : decode cX6_book 139 = .ok (.getfield 55, 3) := dk_180 0 55 (dk_at dksX6_book_5 20 rfl rfl)
theorem dX6_book_142 : decode cX6_book 142 = .ok (.iload_n 2, 1) := dk_28 (dk_at dksX6_book_5 23 rfl rfl)
theorem dX6_book_143 : decode cX6_book 143 = .ok (.aaload, 1) := dk_50 (dk_at dksX6_book_6 0 rfl rfl)
theorem dX6_book_144 : decode cX6_book 144 = .ok (.iconst 0, 1) := dk_3 (dk_at dksX6_book_6 1 rfl rfl)
theorem dX6_book_145 : decode cX6_book 145 = .ok (.iload 5, 2) := dk_21 5 (dk_at dksX6_book_6 2 rfl rfl)
theorem dX6_book_147 : decode cX6_book 147 = .ok (.iastore, 1) := dk_79 (dk_at dksX6_book_6 4 rfl rfl)
theorem dX6_book_148 : decode cX6_book 148 = .ok (.aload_n 0, 1) := dk_42 (dk_at dksX6_book_6 5 rfl rfl)
theorem dX6_book_149 : decode cX6_book 149 = .ok (.getfield 55, 3) := dk_180 0 55 (dk_at dksX6_book_6 6 rfl rfl)
theorem dX6_book_152 : decode cX6_book 152 = .ok (.iload_n 2, 1) := dk_28 (dk_at dksX6_book_6 9 rfl rfl)
theorem dX6_book_153 : decode cX6_book 153 = .ok (.aaload, 1) := dk_50 (dk_at dksX6_book_6 10 rfl rfl)
theorem dX6_book_154 : decode cX6_book 154 = .ok (.iconst 1, 1) := dk_4 (dk_at dksX6_book_6 11 rfl rfl)
theorem dX6_book_155 : decode cX6_book 155 = .ok (.iload 6, 2) := dk_21 6 (dk_at dksX6_book_6 12 rfl rfl)
theorem dX6_book_157 : decode cX6_book 157 = .ok (.iastore, 1) := dk_79 (dk_at dksX6_book_6 14 rfl rfl)
theorem dX6_book_158 : decode cX6_book 158 = .ok (.iinc 2 1, 3) := dk_132 2 1 (dk_at dksX6_book_6 15 rfl rfl)
theorem dX6_book_161 : decode cX6_book 161 = .ok (.aload_n 0, 1) := dk_42 (dk_at dksX6_book_6 18 rfl rfl)
theorem dX6_book_162 : decode cX6_book 162 = .ok (.invokevirtual 117, 3) := dk_182 0 117 (dk_at dksX6_book_6 19 rfl rfl)
theorem dX6_book_165 : decode cX6_book 165 = .ok (.goto (-117), 3) := dk_167 255 139 (dk_at dksX6_book_7 0 rfl rfl)
theorem dX6_book_168 : decode cX6_book 168 = .ok (.aload_n 0, 1) := dk_42 (dk_at dksX6_book_7 3 rfl rfl)
theorem dX6_book_169 : decode cX6_book 169 = .ok (.getfield 111, 3) := dk_180 0 111 (dk_at dksX6_book_7 4 rfl rfl)
theorem dX6_book_172 : decode cX6_book 172 = .ok (.ifCond .eq 8, 3) := dk_153 0 8 (dk_at dksX6_book_7 7 rfl rfl)
theorem dX6_book_175 : decode cX6_book 175 = .ok (.aload_n 0, 1) := dk_42 (dk_at dksX6_book_7 10 rfl rfl)
theorem dX6_book_176 : decode cX6_book 176 = .ok (.invokevirtual 181, 3) := dk_182 0 181 (dk_at dksX6_book_7 11 rfl rfl)
theorem dX6_book_179 : decode cX6_book 179 = .ok (.ireturn, 1) := dk_172 (dk_at dksX6_book_7 14 rfl rfl)
theorem dX6_book_180 : decode cX6_book 180 = .ok (.aload_n 0, 1) := dk_42 (dk_at dksX6_book_7 15 rfl rfl)
theorem dX6_book_181 : decode cX6_book 181 = .ok (.iconst (-1), 1) := dk_2 (dk_at dksX6_book_7 16 rfl rfl)
theorem dX6_book_182 : decode cX6_book 182 = .ok (.putfield 9, 3) := dk_181 0 9 (dk_at dksX6_book_7 17 rfl rfl)
theorem dX6_book_185 : decode cX6_book 185 = .ok (.aload_n 0, 1) := dk_42 (dk_at dksX6_book_7 20 rfl rfl)
theorem dX6_book_186 : decode cX6_book 186 = .ok (.iload_n 2, 1) := dk_28 (dk_at dksX6_book_7 21 rfl rfl)
theorem dX6_book_187 : decode cX6_book 187 = .ok (.putfield 195, 3) := dk_181 0 195 (dk_at dksX6_book_8 0 rfl rfl)
theorem dX6_book_190 : decode cX6_book 190 = .ok (.aload_n 0, 1) := dk_42 (dk_at dksX6_book_8 3 rfl rfl)
theorem dX6_book_191 : decode cX6_book 191 = .ok (.getfield 55, 3) := dk_180 0 55 (dk_at dksX6_book_8 4 rfl rfl)
theorem dX6_book_194 : decode cX6_book 194 = .ok (.aload_n 0, 1) := dk_42 (dk_at dksX6_book_8 7 rfl rfl)
theorem dX6_book_195 : decode cX6_book 195 = .ok (.getfield 52, 3) := dk_180 0 52 (dk_at dksX6_book_8 8 rfl rfl)
theorem dX6_book_198 : decode cX6_book 198 = .ok (.iload_n 2, 1) := dk_28 (dk_at dksX6_book_8 11 rfl rfl)
theorem dX6_book_199 : decode cX6_book 199 = .ok (.invokestatic 184, 3) := dk_184 0 184 (dk_at dksX6_book_8 12 rfl rfl)
theorem dX6_book_202 : decode cX6_book 202 = .ok (.iload_n 2, 1) := dk_28 (dk_at dksX6_book_8 15 rfl rfl)
theorem dX6_book_203 : decode cX6_book 203 = .ok (.ireturn, 1) := dk_172 (dk_at dksX6_book_8 16 rfl rfl)
abbrev cX6_has : ByteArray := prog_34_method_8_code
def yX6_has : MethodName := ⟨RX6, "has", "(II)Z"⟩
def dkwX6_has_0 : List UInt8 := [26, 27, 122, 4, 126, 4, 160, 0, 7, 4, 167, 0, 4, 3, 172]
abbrev dktX6_has_0 : List UInt8 := dkwX6_has_0 ++ []
theorem dksX6_has_0 : cX6_has.data.toList.drop 0 = dktX6_has_0 := by decide +kernel
theorem dX6_has_0 : decode cX6_has 0 = .ok (.iload_n 0, 1) := dk_26 (dk_at dksX6_has_0 0 rfl rfl)
theorem dX6_has_1 : decode cX6_has 1 = .ok (.iload_n 1, 1) := dk_27 (dk_at dksX6_has_0 1 rfl rfl)
theorem dX6_has_2 : decode cX6_has 2 = .ok (.ishr, 1) := dk_122 (dk_at dksX6_has_0 2 rfl rfl)
theorem dX6_has_3 : decode cX6_has 3 = .ok (.iconst 1, 1) := dk_4 (dk_at dksX6_has_0 3 rfl rfl)
theorem dX6_has_4 : decode cX6_has 4 = .ok (.iand, 1) := dk_126 (dk_at dksX6_has_0 4 rfl rfl)
theorem dX6_has_5 : decode cX6_has 5 = .ok (.iconst 1, 1) := dk_4 (dk_at dksX6_has_0 5 rfl rfl)
theorem dX6_has_6 : decode cX6_has 6 = .ok (.if_icmp .ne 7, 3) := dk_160 0 7 (dk_at dksX6_has_0 6 rfl rfl)
theorem dX6_has_9 : decode cX6_has 9 = .ok (.iconst 1, 1) := dk_4 (dk_at dksX6_has_0 9 rfl rfl)
theorem dX6_has_10 : decode cX6_has 10 = .ok (.goto 4, 3) := dk_167 0 4 (dk_at dksX6_has_0 10 rfl rfl)
theorem dX6_has_13 : decode cX6_has 13 = .ok (.iconst 0, 1) := dk_3 (dk_at dksX6_has_0 13 rfl rfl)
theorem dX6_has_14 : decode cX6_has 14 = .ok (.ireturn, 1) := dk_172 (dk_at dksX6_has_0 14 rfl rfl)
abbrev cX6_fault : ByteArray := prog_34_method_45_code
def yX6_fault : MethodName := ⟨RX6, "fault", "()I"⟩
def dkwX6_fault_0 : List UInt8 := [42, 3, 181, 0, 95, 42, 180, 0, 9, 172]
abbrev dktX6_fault_0 : List UInt8 := dkwX6_fault_0 ++ []
theorem dksX6_fault_0 : cX6_fault.data.toList.drop 0 = dktX6_fault_0 := by decide +kernel
theorem dX6_fault_0 : decode cX6_fault 0 = .ok (.aload_n 0, 1) := dk_42 (dk_at dksX6_fault_0 0 rfl rfl)
theorem dX6_fault_1 : decode cX6_fault 1 = .ok (.iconst 0, 1) := dk_3 (dk_at dksX6_fault_0 1 rfl rfl)
theorem dX6_fault_2 : decode cX6_fault 2 = .ok (.putfield 95, 3) := dk_181 0 95 (dk_at dksX6_fault_0 2 rfl rfl)
theorem dX6_fault_5 : decode cX6_fault 5 = .ok (.aload_n 0, 1) := dk_42 (dk_at dksX6_fault_0 5 rfl rfl)
theorem dX6_fault_6 : decode cX6_fault 6 = .ok (.getfield 9, 3) := dk_180 0 9 (dk_at dksX6_fault_0 6 rfl rfl)
theorem dX6_fault_9 : decode cX6_fault 9 = .ok (.ireturn, 1) := dk_172 (dk_at dksX6_fault_0 9 rfl rfl)
abbrev cX6_work : ByteArray := prog_34_method_58_code
def yX6_work : MethodName := ⟨RX6, "work", "(I)I"⟩
def dkwX6_work_7 : List UInt8 := [180, 0, 248, 182, 1, 44, 42, 180, 1, 51, 172]
abbrev dktX6_work_7 : List UInt8 := dkwX6_work_7 ++ []
def dkwX6_work_6 : List UInt8 := [4, 96, 181, 0, 198, 42, 3, 181, 1, 41, 42, 3, 181, 1, 51, 42, 3, 181, 0, 201, 42, 3, 42]
abbrev dktX6_work_6 : List UInt8 := dkwX6_work_6 ++ dktX6_work_7
def dkwX6_work_5 : List UInt8 := [181, 0, 9, 42, 180, 0, 67, 42, 180, 0, 73, 42, 180, 0, 198, 50, 184, 1, 54, 42, 89, 180, 0, 198]
abbrev dktX6_work_5 : List UInt8 := dkwX6_work_5 ++ dktX6_work_6
def dkwX6_work_4 : List UInt8 := [182, 0, 251, 42, 182, 0, 117, 167, 255, 230, 42, 180, 0, 111, 153, 0, 8, 42, 182, 0, 181, 172, 42, 2]
abbrev dktX6_work_4 : List UInt8 := dkwX6_work_4 ++ dktX6_work_5
def dkwX6_work_3 : List UInt8 := [181, 0, 248, 42, 180, 0, 111, 154, 0, 25, 42, 180, 0, 104, 42, 180, 0, 101, 162, 0, 14, 42]
abbrev dktX6_work_3 : List UInt8 := dkwX6_work_3 ++ dktX6_work_4
def dkwX6_work_2 : List UInt8 := [160, 0, 16, 42, 3, 181, 0, 98, 42, 2, 181, 0, 9, 16, 236, 172, 42, 27, 182, 0, 175, 42, 3]
abbrev dktX6_work_2 : List UInt8 := dkwX6_work_2 ++ dktX6_work_3
def dkwX6_work_1 : List UInt8 := [164, 0, 7, 4, 167, 0, 4, 3, 4, 4, 182, 0, 171, 153, 0, 5, 3, 172, 42, 180, 0, 198, 16, 16]
abbrev dktX6_work_1 : List UInt8 := dkwX6_work_1 ++ dktX6_work_2
def dkwX6_work_0 : List UInt8 := [42, 3, 181, 0, 95, 42, 27, 3, 42, 180, 0, 98, 184, 0, 129, 153, 0, 10, 27, 17, 0, 150]
abbrev dktX6_work_0 : List UInt8 := dkwX6_work_0 ++ dktX6_work_1
theorem dksX6_work_0 : cX6_work.data.toList.drop 0 = dktX6_work_0 := by decide +kernel
theorem dksX6_work_1 : cX6_work.data.toList.drop 22 = dktX6_work_1 := dk_seg dksX6_work_0 22 rfl rfl
theorem dksX6_work_2 : cX6_work.data.toList.drop 46 = dktX6_work_2 := dk_seg dksX6_work_1 24 rfl rfl
theorem dksX6_work_3 : cX6_work.data.toList.drop 69 = dktX6_work_3 := dk_seg dksX6_work_2 23 rfl rfl
theorem dksX6_work_4 : cX6_work.data.toList.drop 91 = dktX6_work_4 := dk_seg dksX6_work_3 22 rfl rfl
theorem dksX6_work_5 : cX6_work.data.toList.drop 115 = dktX6_work_5 := dk_seg dksX6_work_4 24 rfl rfl
theorem dksX6_work_6 : cX6_work.data.toList.drop 139 = dktX6_work_6 := dk_seg dksX6_work_5 24 rfl rfl
theorem dksX6_work_7 : cX6_work.data.toList.drop 162 = dktX6_work_7 := dk_seg dksX6_work_6 23 rfl rfl
theorem dX6_work_0 : decode cX6_work 0 = .ok (.aload_n 0, 1) := dk_42 (dk_at dksX6_work_0 0 rfl rfl)
theorem dX6_work_1 : decode cX6_work 1 = .ok (.iconst 0, 1) := dk_3 (dk_at dksX6_work_0 1 rfl rfl)
theorem dX6_work_2 : decode cX6_work 2 = .ok (.putfield 95, 3) := dk_181 0 95 (dk_at dksX6_work_0 2 rfl rfl)
theorem dX6_work_5 : decode cX6_work 5 = .ok (.aload_n 0, 1) := dk_42 (dk_at dksX6_work_0 5 rfl rfl)
theorem dX6_work_6 : decode cX6_work 6 = .ok (.iload_n 1, 1) := dk_27 (dk_at dksX6_work_0 6 rfl rfl)
theorem dX6_work_7 : decode cX6_work 7 = .ok (.iconst 0, 1) := dk_3 (dk_at dksX6_work_0 7 rfl rfl)
theorem dX6_work_8 : decode cX6_work 8 = .ok (.aload_n 0, 1) := dk_42 (dk_at dksX6_work_0 8 rfl rfl)
theorem dX6_work_9 : decode cX6_work 9 = .ok (.getfield 98, 3) := dk_180 0 98 (dk_at dksX6_work_0 9 rfl rfl)
theorem dX6_work_12 : decode cX6_work 12 = .ok (.invokestatic 129, 3) := dk_184 0 129 (dk_at dksX6_work_0 12 rfl rfl)
theorem dX6_work_15 : decode cX6_work 15 = .ok (.ifCond .eq 10, 3) := dk_153 0 10 (dk_at dksX6_work_0 15 rfl rfl)
theorem dX6_work_18 : decode cX6_work 18 = .ok (.iload_n 1, 1) := dk_27 (dk_at dksX6_work_0 18 rfl rfl)
theorem dX6_work_19 : decode cX6_work 19 = .ok (.sipush 150, 3) := dk_17 0 150 (dk_at dksX6_work_0 19 rfl rfl)
theorem dX6_work_22 : decode cX6_work 22 = .ok (.if_icmp .le 7, 3) := dk_164 0 7 (dk_at dksX6_work_1 0 rfl rfl)
theorem dX6_work_25 : decode cX6_work 25 = .ok (.iconst 1, 1) := dk_4 (dk_at dksX6_work_1 3 rfl rfl)
theorem dX6_work_26 : decode cX6_work 26 = .ok (.goto 4, 3) := dk_167 0 4 (dk_at dksX6_work_1 4 rfl rfl)
theorem dX6_work_29 : decode cX6_work 29 = .ok (.iconst 0, 1) := dk_3 (dk_at dksX6_work_1 7 rfl rfl)
theorem dX6_work_30 : decode cX6_work 30 = .ok (.iconst 1, 1) := dk_4 (dk_at dksX6_work_1 8 rfl rfl)
theorem dX6_work_31 : decode cX6_work 31 = .ok (.iconst 1, 1) := dk_4 (dk_at dksX6_work_1 9 rfl rfl)
theorem dX6_work_32 : decode cX6_work 32 = .ok (.invokevirtual 171, 3) := dk_182 0 171 (dk_at dksX6_work_1 10 rfl rfl)
theorem dX6_work_35 : decode cX6_work 35 = .ok (.ifCond .eq 5, 3) := dk_153 0 5 (dk_at dksX6_work_1 13 rfl rfl)
theorem dX6_work_38 : decode cX6_work 38 = .ok (.iconst 0, 1) := dk_3 (dk_at dksX6_work_1 16 rfl rfl)
theorem dX6_work_39 : decode cX6_work 39 = .ok (.ireturn, 1) := dk_172 (dk_at dksX6_work_1 17 rfl rfl)
theorem dX6_work_40 : decode cX6_work 40 = .ok (.aload_n 0, 1) := dk_42 (dk_at dksX6_work_1 18 rfl rfl)
theorem dX6_work_41 : decode cX6_work 41 = .ok (.getfield 198, 3) := dk_180 0 198 (dk_at dksX6_work_1 19 rfl rfl)
theorem dX6_work_44 : decode cX6_work 44 = .ok (.bipush 16, 2) := dk_16 16 (dk_at dksX6_work_1 22 rfl rfl)
theorem dX6_work_46 : decode cX6_work 46 = .ok (.if_icmp .ne 16, 3) := dk_160 0 16 (dk_at dksX6_work_2 0 rfl rfl)
theorem dX6_work_49 : decode cX6_work 49 = .ok (.aload_n 0, 1) := dk_42 (dk_at dksX6_work_2 3 rfl rfl)
theorem dX6_work_50 : decode cX6_work 50 = .ok (.iconst 0, 1) := dk_3 (dk_at dksX6_work_2 4 rfl rfl)
theorem dX6_work_51 : decode cX6_work 51 = .ok (.putfield 98, 3) := dk_181 0 98 (dk_at dksX6_work_2 5 rfl rfl)
theorem dX6_work_54 : decode cX6_work 54 = .ok (.aload_n 0, 1) := dk_42 (dk_at dksX6_work_2 8 rfl rfl)
theorem dX6_work_55 : decode cX6_work 55 = .ok (.iconst (-1), 1) := dk_2 (dk_at dksX6_work_2 9 rfl rfl)
theorem dX6_work_56 : decode cX6_work 56 = .ok (.putfield 9, 3) := dk_181 0 9 (dk_at dksX6_work_2 10 rfl rfl)
theorem dX6_work_59 : decode cX6_work 59 = .ok (.bipush (-20), 2) := dk_16 236 (dk_at dksX6_work_2 13 rfl rfl)
theorem dX6_work_61 : decode cX6_work 61 = .ok (.ireturn, 1) := dk_172 (dk_at dksX6_work_2 15 rfl rfl)
theorem dX6_work_62 : decode cX6_work 62 = .ok (.aload_n 0, 1) := dk_42 (dk_at dksX6_work_2 16 rfl rfl)
theorem dX6_work_63 : decode cX6_work 63 = .ok (.iload_n 1, 1) := dk_27 (dk_at dksX6_work_2 17 rfl rfl)
theorem dX6_work_64 : decode cX6_work 64 = .ok (.invokevirtual 175, 3) := dk_182 0 175 (dk_at dksX6_work_2 18 rfl rfl)
theorem dX6_work_67 : decode cX6_work 67 = .ok (.aload_n 0, 1) := dk_42 (dk_at dksX6_work_2 21 rfl rfl)
theorem dX6_work_68 : decode cX6_work 68 = .ok (.iconst 0, 1) := dk_3 (dk_at dksX6_work_2 22 rfl rfl)
theorem dX6_work_69 : decode cX6_work 69 = .ok (.putfield 248, 3) := dk_181 0 248 (dk_at dksX6_work_3 0 rfl rfl)
theorem dX6_work_72 : decode cX6_work 72 = .ok (.aload_n 0, 1) := dk_42 (dk_at dksX6_work_3 3 rfl rfl)
theorem dX6_work_73 : decode cX6_work 73 = .ok (.getfield 111, 3) := dk_180 0 111 (dk_at dksX6_work_3 4 rfl rfl)
theorem dX6_work_76 : decode cX6_work 76 = .ok (.ifCond .ne 25, 3) := dk_154 0 25 (dk_at dksX6_work_3 7 rfl rfl)
theorem dX6_work_79 : decode cX6_work 79 = .ok (.aload_n 0, 1) := dk_42 (dk_at dksX6_work_3 10 rfl rfl)
theorem dX6_work_80 : decode cX6_work 80 = .ok (.getfield 104, 3) := dk_180 0 104 (dk_at dksX6_work_3 11 rfl rfl)
theorem dX6_work_83 : decode cX6_work 83 = .ok (.aload_n 0, 1) := dk_42 (dk_at dksX6_work_3 14 rfl rfl)
theorem dX6_work_84 : decode cX6_work 84 = .ok (.getfield 101, 3) := dk_180 0 101 (dk_at dksX6_work_3 15 rfl rfl)
theorem dX6_work_87 : decode cX6_work 87 = .ok (.if_icmp .ge 14, 3) := dk_162 0 14 (dk_at dksX6_work_3 18 rfl rfl)
theorem dX6_work_90 : decode cX6_work 90 = .ok (.aload_n 0, 1) := dk_42 (dk_at dksX6_work_3 21 rfl rfl)
theorem dX6_work_91 : decode cX6_work 91 = .ok (.invokevirtual 251, 3) := dk_182 0 251 (dk_at dksX6_work_4 0 rfl rfl)
theorem dX6_work_94 : decode cX6_work 94 = .ok (.aload_n 0, 1) := dk_42 (dk_at dksX6_work_4 3 rfl rfl)
theorem dX6_work_95 : decode cX6_work 95 = .ok (.invokevirtual 117, 3) := dk_182 0 117 (dk_at dksX6_work_4 4 rfl rfl)
theorem dX6_work_98 : decode cX6_work 98 = .ok (.goto (-26), 3) := dk_167 255 230 (dk_at dksX6_work_4 7 rfl rfl)
theorem dX6_work_101 : decode cX6_work 101 = .ok (.aload_n 0, 1) := dk_42 (dk_at dksX6_work_4 10 rfl rfl)
theorem dX6_work_102 : decode cX6_work 102 = .ok (.getfield 111, 3) := dk_180 0 111 (dk_at dksX6_work_4 11 rfl rfl)
theorem dX6_work_105 : decode cX6_work 105 = .ok (.ifCond .eq 8, 3) := dk_153 0 8 (dk_at dksX6_work_4 14 rfl rfl)
theorem dX6_work_108 : decode cX6_work 108 = .ok (.aload_n 0, 1) := dk_42 (dk_at dksX6_work_4 17 rfl rfl)
theorem dX6_work_109 : decode cX6_work 109 = .ok (.invokevirtual 181, 3) := dk_182 0 181 (dk_at dksX6_work_4 18 rfl rfl)
theorem dX6_work_112 : decode cX6_work 112 = .ok (.ireturn, 1) := dk_172 (dk_at dksX6_work_4 21 rfl rfl)
theorem dX6_work_113 : decode cX6_work 113 = .ok (.aload_n 0, 1) := dk_42 (dk_at dksX6_work_4 22 rfl rfl)
theorem dX6_work_114 : decode cX6_work 114 = .ok (.iconst (-1), 1) := dk_2 (dk_at dksX6_work_4 23 rfl rfl)
theorem dX6_work_115 : decode cX6_work 115 = .ok (.putfield 9, 3) := dk_181 0 9 (dk_at dksX6_work_5 0 rfl rfl)
theorem dX6_work_118 : decode cX6_work 118 = .ok (.aload_n 0, 1) := dk_42 (dk_at dksX6_work_5 3 rfl rfl)
theorem dX6_work_119 : decode cX6_work 119 = .ok (.getfield 67, 3) := dk_180 0 67 (dk_at dksX6_work_5 4 rfl rfl)
theorem dX6_work_122 : decode cX6_work 122 = .ok (.aload_n 0, 1) := dk_42 (dk_at dksX6_work_5 7 rfl rfl)
theorem dX6_work_123 : decode cX6_work 123 = .ok (.getfield 73, 3) := dk_180 0 73 (dk_at dksX6_work_5 8 rfl rfl)
theorem dX6_work_126 : decode cX6_work 126 = .ok (.aload_n 0, 1) := dk_42 (dk_at dksX6_work_5 11 rfl rfl)
theorem dX6_work_127 : decode cX6_work 127 = .ok (.getfield 198, 3) := dk_180 0 198 (dk_at dksX6_work_5 12 rfl rfl)
theorem dX6_work_130 : decode cX6_work 130 = .ok (.aaload, 1) := dk_50 (dk_at dksX6_work_5 15 rfl rfl)
theorem dX6_work_131 : decode cX6_work 131 = .ok (.invokestatic 310, 3) := dk_184 1 54 (dk_at dksX6_work_5 16 rfl rfl)
theorem dX6_work_134 : decode cX6_work 134 = .ok (.aload_n 0, 1) := dk_42 (dk_at dksX6_work_5 19 rfl rfl)
theorem dX6_work_135 : decode cX6_work 135 = .ok (.dup, 1) := dk_89 (dk_at dksX6_work_5 20 rfl rfl)
theorem dX6_work_136 : decode cX6_work 136 = .ok (.getfield 198, 3) := dk_180 0 198 (dk_at dksX6_work_5 21 rfl rfl)
theorem dX6_work_139 : decode cX6_work 139 = .ok (.iconst 1, 1) := dk_4 (dk_at dksX6_work_6 0 rfl rfl)
theorem dX6_work_140 : decode cX6_work 140 = .ok (.iadd, 1) := dk_96 (dk_at dksX6_work_6 1 rfl rfl)
theorem dX6_work_141 : decode cX6_work 141 = .ok (.putfield 198, 3) := dk_181 0 198 (dk_at dksX6_work_6 2 rfl rfl)
theorem dX6_work_144 : decode cX6_work 144 = .ok (.aload_n 0, 1) := dk_42 (dk_at dksX6_work_6 5 rfl rfl)
theorem dX6_work_145 : decode cX6_work 145 = .ok (.iconst 0, 1) := dk_3 (dk_at dksX6_work_6 6 rfl rfl)
theorem dX6_work_146 : decode cX6_work 146 = .ok (.putfield 297, 3) := dk_181 1 41 (dk_at dksX6_work_6 7 rfl rfl)
theorem dX6_work_149 : decode cX6_work 149 = .ok (.aload_n 0, 1) := dk_42 (dk_at dksX6_work_6 10 rfl rfl)
theorem dX6_work_150 : decode cX6_work 150 = .ok (.iconst 0, 1) := dk_3 (dk_at dksX6_work_6 11 rfl rfl)
theorem dX6_work_151 : decode cX6_work 151 = .ok (.putfield 307, 3) := dk_181 1 51 (dk_at dksX6_work_6 12 rfl rfl)
theorem dX6_work_154 : decode cX6_work 154 = .ok (.aload_n 0, 1) := dk_42 (dk_at dksX6_work_6 15 rfl rfl)
theorem dX6_work_155 : decode cX6_work 155 = .ok (.iconst 0, 1) := dk_3 (dk_at dksX6_work_6 16 rfl rfl)
theorem dX6_work_156 : decode cX6_work 156 = .ok (.putfield 201, 3) := dk_181 0 201 (dk_at dksX6_work_6 17 rfl rfl)
theorem dX6_work_159 : decode cX6_work 159 = .ok (.aload_n 0, 1) := dk_42 (dk_at dksX6_work_6 20 rfl rfl)
theorem dX6_work_160 : decode cX6_work 160 = .ok (.iconst 0, 1) := dk_3 (dk_at dksX6_work_6 21 rfl rfl)
theorem dX6_work_161 : decode cX6_work 161 = .ok (.aload_n 0, 1) := dk_42 (dk_at dksX6_work_6 22 rfl rfl)
theorem dX6_work_162 : decode cX6_work 162 = .ok (.getfield 248, 3) := dk_180 0 248 (dk_at dksX6_work_7 0 rfl rfl)
theorem dX6_work_165 : decode cX6_work 165 = .ok (.invokevirtual 300, 3) := dk_182 1 44 (dk_at dksX6_work_7 3 rfl rfl)
theorem dX6_work_168 : decode cX6_work 168 = .ok (.aload_n 0, 1) := dk_42 (dk_at dksX6_work_7 6 rfl rfl)
theorem dX6_work_169 : decode cX6_work 169 = .ok (.getfield 307, 3) := dk_180 1 51 (dk_at dksX6_work_7 7 rfl rfl)
theorem dX6_work_172 : decode cX6_work 172 = .ok (.ireturn, 1) := dk_172 (dk_at dksX6_work_7 10 rfl rfl)
abbrev cX6_readsStep : ByteArray := prog_34_method_43_code
def yX6_readsStep : MethodName := ⟨RX6, "readsStep", "()V"⟩
def dkwX6_readsStep_9 : List UInt8 := [180, 0, 248, 79, 42, 16, 59, 182, 0, 167, 177]
abbrev dktX6_readsStep_9 : List UInt8 := dkwX6_readsStep_9 ++ []
def dkwX6_readsStep_8 : List UInt8 := [167, 255, 228, 42, 16, 93, 182, 0, 167, 42, 89, 180, 0, 154, 4, 100, 181, 0, 154, 44, 6, 42]
abbrev dktX6_readsStep_8 : List UInt8 := dkwX6_readsStep_8 ++ dktX6_readsStep_9
def dkwX6_readsStep_7 : List UInt8 := [154, 0, 27, 42, 42, 180, 0, 104, 182, 0, 107, 16, 93, 159, 0, 14, 42, 182, 0, 251, 42, 182, 0, 117]
abbrev dktX6_readsStep_7 : List UInt8 := dkwX6_readsStep_7 ++ dktX6_readsStep_8
def dkwX6_readsStep_6 : List UInt8 := [44, 4, 42, 3, 16, 60, 182, 0, 163, 79, 42, 16, 91, 182, 0, 167, 42, 182, 0, 117, 42, 180, 0, 111]
abbrev dktX6_readsStep_6 : List UInt8 := dkwX6_readsStep_6 ++ dktX6_readsStep_7
def dkwX6_readsStep_5 : List UInt8 := [182, 0, 163, 79, 27, 8, 160, 0, 12, 44, 5, 42, 3, 8, 182, 0, 163, 79, 27, 16, 7, 160, 0, 70]
abbrev dktX6_readsStep_5 : List UInt8 := dkwX6_readsStep_5 ++ dktX6_readsStep_6
def dkwX6_readsStep_4 : List UInt8 := [27, 6, 159, 0, 8, 27, 7, 160, 0, 19, 44, 4, 42, 3, 42, 180, 0, 23, 3, 46, 4, 100]
abbrev dktX6_readsStep_4 : List UInt8 := dkwX6_readsStep_4 ++ dktX6_readsStep_5
def dkwX6_readsStep_3 : List UInt8 := [153, 0, 8, 27, 8, 160, 0, 19, 44, 4, 42, 3, 42, 180, 0, 23, 4, 46, 4, 100, 182, 0, 163, 79]
abbrev dktX6_readsStep_3 : List UInt8 := dkwX6_readsStep_3 ++ dktX6_readsStep_4
def dkwX6_readsStep_2 : List UInt8 := [180, 0, 64, 42, 180, 0, 248, 50, 77, 42, 89, 180, 0, 248, 4, 96, 181, 0, 248, 44, 3, 27, 79, 27]
abbrev dktX6_readsStep_2 : List UInt8 := dkwX6_readsStep_2 ++ dktX6_readsStep_3
def dkwX6_readsStep_1 : List UInt8 := [160, 0, 11, 42, 182, 0, 225, 154, 0, 4, 177, 42, 180, 0, 111, 153, 0, 4, 177, 42, 182, 0, 148, 42]
abbrev dktX6_readsStep_1 : List UInt8 := dkwX6_readsStep_1 ++ dktX6_readsStep_2
def dkwX6_readsStep_0 : List UInt8 := [42, 182, 0, 245, 60, 27, 2, 160, 0, 12, 42, 4, 42, 180, 0, 104, 182, 0, 124, 27, 16, 7]
abbrev dktX6_readsStep_0 : List UInt8 := dkwX6_readsStep_0 ++ dktX6_readsStep_1
theorem dksX6_readsStep_0 : cX6_readsStep.data.toList.drop 0 = dktX6_readsStep_0 := by decide +kernel
theorem dksX6_readsStep_1 : cX6_readsStep.data.toList.drop 22 = dktX6_readsStep_1 := dk_seg dksX6_readsStep_0 22 rfl rfl
theorem dksX6_readsStep_2 : cX6_readsStep.data.toList.drop 46 = dktX6_readsStep_2 := dk_seg dksX6_readsStep_1 24 rfl rfl
theorem dksX6_readsStep_3 : cX6_readsStep.data.toList.drop 70 = dktX6_readsStep_3 := dk_seg dksX6_readsStep_2 24 rfl rfl
theorem dksX6_readsStep_4 : cX6_readsStep.data.toList.drop 94 = dktX6_readsStep_4 := dk_seg dksX6_readsStep_3 24 rfl rfl
theorem dksX6_readsStep_5 : cX6_readsStep.data.toList.drop 116 = dktX6_readsStep_5 := dk_seg dksX6_readsStep_4 22 rfl rfl
theorem dksX6_readsStep_6 : cX6_readsStep.data.toList.drop 140 = dktX6_readsStep_6 := dk_seg dksX6_readsStep_5 24 rfl rfl
theorem dksX6_readsStep_7 : cX6_readsStep.data.toList.drop 164 = dktX6_readsStep_7 := dk_seg dksX6_readsStep_6 24 rfl rfl
theorem dksX6_readsStep_8 : cX6_readsStep.data.toList.drop 188 = dktX6_readsStep_8 := dk_seg dksX6_readsStep_7 24 rfl rfl
theorem dksX6_readsStep_9 : cX6_readsStep.data.toList.drop 210 = dktX6_readsStep_9 := dk_seg dksX6_readsStep_8 22 rfl rfl
theorem dX6_readsStep_0 : decode cX6_readsStep 0 = .ok (.aload_n 0, 1) := dk_42 (dk_at dksX6_readsStep_0 0 rfl rfl)
theorem dX6_readsStep_1 : decode cX6_readsStep 1 = .ok (.invokevirtual 245, 3) := dk_182 0 245 (dk_at dksX6_readsStep_0 1 rfl rfl)
theorem dX6_readsStep_4 : decode cX6_readsStep 4 = .ok (.istore_n 1, 1) := dk_60 (dk_at dksX6_readsStep_0 4 rfl rfl)
theorem dX6_readsStep_5 : decode cX6_readsStep 5 = .ok (.iload_n 1, 1) := dk_27 (dk_at dksX6_readsStep_0 5 rfl rfl)
theorem dX6_readsStep_6 : decode cX6_readsStep 6 = .ok (.iconst (-1), 1) := dk_2 (dk_at dksX6_readsStep_0 6 rfl rfl)
theorem dX6_readsStep_7 : decode cX6_readsStep 7 = .ok (.if_icmp .ne 12, 3) := dk_160 0 12 (dk_at dksX6_readsStep_0 7 rfl rfl)
theorem dX6_readsStep_10 : decode cX6_readsStep 10 = .ok (.aload_n 0, 1) := dk_42 (dk_at dksX6_readsStep_0 10 rfl rfl)
theorem dX6_readsStep_11 : decode cX6_readsStep 11 = .ok (.iconst 1, 1) := dk_4 (dk_at dksX6_readsStep_0 11 rfl rfl)
theorem dX6_readsStep_12 : decode cX6_readsStep 12 = .ok (.aload_n 0, 1) := dk_42 (dk_at dksX6_readsStep_0 12 rfl rfl)
theorem dX6_readsStep_13 : decode cX6_readsStep 13 = .ok (.getfield 104, 3) := dk_180 0 104 (dk_at dksX6_readsStep_0 13 rfl rfl)
theorem dX6_readsStep_16 : decode cX6_readsStep 16 = .ok (.invokevirtual 124, 3) := dk_182 0 124 (dk_at dksX6_readsStep_0 16 rfl rfl)
theorem dX6_readsStep_19 : decode cX6_readsStep 19 = .ok (.iload_n 1, 1) := dk_27 (dk_at dksX6_readsStep_0 19 rfl rfl)
theorem dX6_readsStep_20 : decode cX6_readsStep 20 = .ok (.bipush 7, 2) := dk_16 7 (dk_at dksX6_readsStep_0 20 rfl rfl)
theorem dX6_readsStep_22 : decode cX6_readsStep 22 = .ok (.if_icmp .ne 11, 3) := dk_160 0 11 (dk_at dksX6_readsStep_1 0 rfl rfl)
theorem dX6_readsStep_25 : decode cX6_readsStep 25 = .ok (.aload_n 0, 1) := dk_42 (dk_at dksX6_readsStep_1 3 rfl rfl)
theorem dX6_readsStep_26 : decode cX6_readsStep 26 = .ok (.invokevirtual 225, 3) := dk_182 0 225 (dk_at dksX6_readsStep_1 4 rfl rfl)
theorem dX6_readsStep_29 : decode cX6_readsStep 29 = .ok (.ifCond .ne 4, 3) := dk_154 0 4 (dk_at dksX6_readsStep_1 7 rfl rfl)
theorem dX6_readsStep_32 : decode cX6_readsStep 32 = .ok (.return_, 1) := dk_177 (dk_at dksX6_readsStep_1 10 rfl rfl)
theorem dX6_readsStep_33 : decode cX6_readsStep 33 = .ok (.aload_n 0, 1) := dk_42 (dk_at dksX6_readsStep_1 11 rfl rfl)
theorem dX6_readsStep_34 : decode cX6_readsStep 34 = .ok (.getfield 111, 3) := dk_180 0 111 (dk_at dksX6_readsStep_1 12 rfl rfl)
theorem dX6_readsStep_37 : decode cX6_readsStep 37 = .ok (.ifCond .eq 4, 3) := dk_153 0 4 (dk_at dksX6_readsStep_1 15 rfl rfl)
theorem dX6_readsStep_40 : decode cX6_readsStep 40 = .ok (.return_, 1) := dk_177 (dk_at dksX6_readsStep_1 18 rfl rfl)
theorem dX6_readsStep_41 : decode cX6_readsStep 41 = .ok (.aload_n 0, 1) := dk_42 (dk_at dksX6_readsStep_1 19 rfl rfl)
theorem dX6_readsStep_42 : decode cX6_readsStep 42 = .ok (.invokevirtual 148, 3) := dk_182 0 148 (dk_at dksX6_readsStep_1 20 rfl rfl)
theorem dX6_readsStep_45 : decode cX6_readsStep 45 = .ok (.aload_n 0, 1) := dk_42 (dk_at dksX6_readsStep_1 23 rfl rfl)
theorem dX6_readsStep_46 : decode cX6_readsStep 46 = .ok (.getfield 64, 3) := dk_180 0 64 (dk_at dksX6_readsStep_2 0 rfl rfl)
theorem dX6_readsStep_49 : decode cX6_readsStep 49 = .ok (.aload_n 0, 1) := dk_42 (dk_at dksX6_readsStep_2 3 rfl rfl)
theorem dX6_readsStep_50 : decode cX6_readsStep 50 = .ok (.getfield 248, 3) := dk_180 0 248 (dk_at dksX6_readsStep_2 4 rfl rfl)
theorem dX6_readsStep_53 : decode cX6_readsStep 53 = .ok (.aaload, 1) := dk_50 (dk_at dksX6_readsStep_2 7 rfl rfl)
theorem dX6_readsStep_54 : decode cX6_readsStep 54 = .ok (.astore_n 2, 1) := dk_77 (dk_at dksX6_readsStep_2 8 rfl rfl)
theorem dX6_readsStep_55 : decode cX6_readsStep 55 = .ok (.aload_n 0, 1) := dk_42 (dk_at dksX6_readsStep_2 9 rfl rfl)
theorem dX6_readsStep_56 : decode cX6_readsStep 56 = .ok (.dup, 1) := dk_89 (dk_at dksX6_readsStep_2 10 rfl rfl)
theorem dX6_readsStep_57 : decode cX6_readsStep 57 = .ok (.getfield 248, 3) := dk_180 0 248 (dk_at dksX6_readsStep_2 11 rfl rfl)
theorem dX6_readsStep_60 : decode cX6_readsStep 60 = .ok (.iconst 1, 1) := dk_4 (dk_at dksX6_readsStep_2 14 rfl rfl)
theorem dX6_readsStep_61 : decode cX6_readsStep 61 = .ok (.iadd, 1) := dk_96 (dk_at dksX6_readsStep_2 15 rfl rfl)
theorem dX6_readsStep_62 : decode cX6_readsStep 62 = .ok (.putfield 248, 3) := dk_181 0 248 (dk_at dksX6_readsStep_2 16 rfl rfl)
theorem dX6_readsStep_65 : decode cX6_readsStep 65 = .ok (.aload_n 2, 1) := dk_44 (dk_at dksX6_readsStep_2 19 rfl rfl)
theorem dX6_readsStep_66 : decode cX6_readsStep 66 = .ok (.iconst 0, 1) := dk_3 (dk_at dksX6_readsStep_2 20 rfl rfl)
theorem dX6_readsStep_67 : decode cX6_readsStep 67 = .ok (.iload_n 1, 1) := dk_27 (dk_at dksX6_readsStep_2 21 rfl rfl)
theorem dX6_readsStep_68 : decode cX6_readsStep 68 = .ok (.iastore, 1) := dk_79 (dk_at dksX6_readsStep_2 22 rfl rfl)
theorem dX6_readsStep_69 : decode cX6_readsStep 69 = .ok (.iload_n 1, 1) := dk_27 (dk_at dksX6_readsStep_2 23 rfl rfl)
theorem dX6_readsStep_70 : decode cX6_readsStep 70 = .ok (.ifCond .eq 8, 3) := dk_153 0 8 (dk_at dksX6_readsStep_3 0 rfl rfl)
theorem dX6_readsStep_73 : decode cX6_readsStep 73 = .ok (.iload_n 1, 1) := dk_27 (dk_at dksX6_readsStep_3 3 rfl rfl)
theorem dX6_readsStep_74 : decode cX6_readsStep 74 = .ok (.iconst 5, 1) := dk_8 (dk_at dksX6_readsStep_3 4 rfl rfl)
theorem dX6_readsStep_75 : decode cX6_readsStep 75 = .ok (.if_icmp .ne 19, 3) := dk_160 0 19 (dk_at dksX6_readsStep_3 5 rfl rfl)
theorem dX6_readsStep_78 : decode cX6_readsStep 78 = .ok (.aload_n 2, 1) := dk_44 (dk_at dksX6_readsStep_3 8 rfl rfl)
theorem dX6_readsStep_79 : decode cX6_readsStep 79 = .ok (.iconst 1, 1) := dk_4 (dk_at dksX6_readsStep_3 9 rfl rfl)
theorem dX6_readsStep_80 : decode cX6_readsStep 80 = .ok (.aload_n 0, 1) := dk_42 (dk_at dksX6_readsStep_3 10 rfl rfl)
theorem dX6_readsStep_81 : decode cX6_readsStep 81 = .ok (.iconst 0, 1) := dk_3 (dk_at dksX6_readsStep_3 11 rfl rfl)
theorem dX6_readsStep_82 : decode cX6_readsStep 82 = .ok (.aload_n 0, 1) := dk_42 (dk_at dksX6_readsStep_3 12 rfl rfl)
theorem dX6_readsStep_83 : decode cX6_readsStep 83 = .ok (.getfield 23, 3) := dk_180 0 23 (dk_at dksX6_readsStep_3 13 rfl rfl)
theorem dX6_readsStep_86 : decode cX6_readsStep 86 = .ok (.iconst 1, 1) := dk_4 (dk_at dksX6_readsStep_3 16 rfl rfl)
theorem dX6_readsStep_87 : decode cX6_readsStep 87 = .ok (.iaload, 1) := dk_46 (dk_at dksX6_readsStep_3 17 rfl rfl)
theorem dX6_readsStep_88 : decode cX6_readsStep 88 = .ok (.iconst 1, 1) := dk_4 (dk_at dksX6_readsStep_3 18 rfl rfl)
theorem dX6_readsStep_89 : decode cX6_readsStep 89 = .ok (.isub, 1) := dk_100 (dk_at dksX6_readsStep_3 19 rfl rfl)
theorem dX6_readsStep_90 : decode cX6_readsStep 90 = .ok (.invokevirtual 163, 3) := dk_182 0 163 (dk_at dksX6_readsStep_3 20 rfl rfl)
theorem dX6_readsStep_93 : decode cX6_readsStep 93 = .ok (.iastore, 1) := dk_79 (dk_at dksX6_readsStep_3 23 rfl rfl)
theorem dX6_readsStep_94 : decode cX6_readsStep 94 = .ok (.iload_n 1, 1) := dk_27 (dk_at dksX6_readsStep_4 0 rfl rfl)
theorem dX6_readsStep_95 : decode cX6_readsStep 95 = .ok (.iconst 3, 1) := dk_6 (dk_at dksX6_readsStep_4 1 rfl rfl)
theorem dX6_readsStep_96 : decode cX6_readsStep 96 = .ok (.if_icmp .eq 8, 3) := dk_159 0 8 (dk_at dksX6_readsStep_4 2 rfl rfl)
theorem dX6_readsStep_99 : decode cX6_readsStep 99 = .ok (.iload_n 1, 1) := dk_27 (dk_at dksX6_readsStep_4 5 rfl rfl)
theorem dX6_readsStep_100 : decode cX6_readsStep 100 = .ok (.iconst 4, 1) := dk_7 (dk_at dksX6_readsStep_4 6 rfl rfl)
theorem dX6_readsStep_101 : decode cX6_readsStep 101 = .ok (.if_icmp .ne 19, 3) := dk_160 0 19 (dk_at dksX6_readsStep_4 7 rfl rfl)
theorem dX6_readsStep_104 : decode cX6_readsStep 104 = .ok (.aload_n 2, 1) := dk_44 (dk_at dksX6_readsStep_4 10 rfl rfl)
theorem dX6_readsStep_105 : decode cX6_readsStep 105 = .ok (.iconst 1, 1) := dk_4 (dk_at dksX6_readsStep_4 11 rfl rfl)
theorem dX6_readsStep_106 : decode cX6_readsStep 106 = .ok (.aload_n 0, 1) := dk_42 (dk_at dksX6_readsStep_4 12 rfl rfl)
theorem dX6_readsStep_107 : decode cX6_readsStep 107 = .ok (.iconst 0, 1) := dk_3 (dk_at dksX6_readsStep_4 13 rfl rfl)
theorem dX6_readsStep_108 : decode cX6_readsStep 108 = .ok (.aload_n 0, 1) := dk_42 (dk_at dksX6_readsStep_4 14 rfl rfl)
theorem dX6_readsStep_109 : decode cX6_readsStep 109 = .ok (.getfield 23, 3) := dk_180 0 23 (dk_at dksX6_readsStep_4 15 rfl rfl)
theorem dX6_readsStep_112 : decode cX6_readsStep 112 = .ok (.iconst 0, 1) := dk_3 (dk_at dksX6_readsStep_4 18 rfl rfl)
theorem dX6_readsStep_113 : decode cX6_readsStep 113 = .ok (.iaload, 1) := dk_46 (dk_at dksX6_readsStep_4 19 rfl rfl)
theorem dX6_readsStep_114 : decode cX6_readsStep 114 = .ok (.iconst 1, 1) := dk_4 (dk_at dksX6_readsStep_4 20 rfl rfl)
theorem dX6_readsStep_115 : decode cX6_readsStep 115 = .ok (.isub, 1) := dk_100 (dk_at dksX6_readsStep_4 21 rfl rfl)
theorem dX6_readsStep_116 : decode cX6_readsStep 116 = .ok (.invokevirtual 163, 3) := dk_182 0 163 (dk_at dksX6_readsStep_5 0 rfl rfl)
theorem dX6_readsStep_119 : decode cX6_readsStep 119 = .ok (.iastore, 1) := dk_79 (dk_at dksX6_readsStep_5 3 rfl rfl)
theorem dX6_readsStep_120 : decode cX6_readsStep 120 = .ok (.iload_n 1, 1) := dk_27 (dk_at dksX6_readsStep_5 4 rfl rfl)
theorem dX6_readsStep_121 : decode cX6_readsStep 121 = .ok (.iconst 5, 1) := dk_8 (dk_at dksX6_readsStep_5 5 rfl rfl)
theorem dX6_readsStep_122 : decode cX6_readsStep 122 = .ok (.if_icmp .ne 12, 3) := dk_160 0 12 (dk_at dksX6_readsStep_5 6 rfl rfl)
theorem dX6_readsStep_125 : decode cX6_readsStep 125 = .ok (.aload_n 2, 1) := dk_44 (dk_at dksX6_readsStep_5 9 rfl rfl)
theorem dX6_readsStep_126 : decode cX6_readsStep 126 = .ok (.iconst 2, 1) := dk_5 (dk_at dksX6_readsStep_5 10 rfl rfl)
theorem dX6_readsStep_127 : decode cX6_readsStep 127 = .ok (.aload_n 0, 1) := dk_42 (dk_at dksX6_readsStep_5 11 rfl rfl)
theorem dX6_readsStep_128 : decode cX6_readsStep 128 = .ok (.iconst 0, 1) := dk_3 (dk_at dksX6_readsStep_5 12 rfl rfl)
theorem dX6_readsStep_129 : decode cX6_readsStep 129 = .ok (.iconst 5, 1) := dk_8 (dk_at dksX6_readsStep_5 13 rfl rfl)
theorem dX6_readsStep_130 : decode cX6_readsStep 130 = .ok (.invokevirtual 163, 3) := dk_182 0 163 (dk_at dksX6_readsStep_5 14 rfl rfl)
theorem dX6_readsStep_133 : decode cX6_readsStep 133 = .ok (.iastore, 1) := dk_79 (dk_at dksX6_readsStep_5 17 rfl rfl)
theorem dX6_readsStep_134 : decode cX6_readsStep 134 = .ok (.iload_n 1, 1) := dk_27 (dk_at dksX6_readsStep_5 18 rfl rfl)
theorem dX6_readsStep_135 : decode cX6_readsStep 135 = .ok (.bipush 7, 2) := dk_16 7 (dk_at dksX6_readsStep_5 19 rfl rfl)
theorem dX6_readsStep_137 : decode cX6_readsStep 137 = .ok (.if_icmp .ne 70, 3) := dk_160 0 70 (dk_at dksX6_readsStep_5 21 rfl rfl)
theorem dX6_readsStep_140 : decode cX6_readsStep 140 = .ok (.aload_n 2, 1) := dk_44 (dk_at dksX6_readsStep_6 0 rfl rfl)
theorem dX6_readsStep_141 : decode cX6_readsStep 141 = .ok (.iconst 1, 1) := dk_4 (dk_at dksX6_readsStep_6 1 rfl rfl)
theorem dX6_readsStep_142 : decode cX6_readsStep 142 = .ok (.aload_n 0, 1) := dk_42 (dk_at dksX6_readsStep_6 2 rfl rfl)
theorem dX6_readsStep_143 : decode cX6_readsStep 143 = .ok (.iconst 0, 1) := dk_3 (dk_at dksX6_readsStep_6 3 rfl rfl)
theorem dX6_readsStep_144 : decode cX6_readsStep 144 = .ok (.bipush 60, 2) := dk_16 60 (dk_at dksX6_readsStep_6 4 rfl rfl)
theorem dX6_readsStep_146 : decode cX6_readsStep 146 = .ok (.invokevirtual 163, 3) := dk_182 0 163 (dk_at dksX6_readsStep_6 6 rfl rfl)
theorem dX6_readsStep_149 : decode cX6_readsStep 149 = .ok (.iastore, 1) := dk_79 (dk_at dksX6_readsStep_6 9 rfl rfl)
theorem dX6_readsStep_150 : decode cX6_readsStep 150 = .ok (.aload_n 0, 1) := dk_42 (dk_at dksX6_readsStep_6 10 rfl rfl)
theorem dX6_readsStep_151 : decode cX6_readsStep 151 = .ok (.bipush 91, 2) := dk_16 91 (dk_at dksX6_readsStep_6 11 rfl rfl)
theorem dX6_readsStep_153 : decode cX6_readsStep 153 = .ok (.invokevirtual 167, 3) := dk_182 0 167 (dk_at dksX6_readsStep_6 13 rfl rfl)
theorem dX6_readsStep_156 : decode cX6_readsStep 156 = .ok (.aload_n 0, 1) := dk_42 (dk_at dksX6_readsStep_6 16 rfl rfl)
theorem dX6_readsStep_157 : decode cX6_readsStep 157 = .ok (.invokevirtual 117, 3) := dk_182 0 117 (dk_at dksX6_readsStep_6 17 rfl rfl)
theorem dX6_readsStep_160 : decode cX6_readsStep 160 = .ok (.aload_n 0, 1) := dk_42 (dk_at dksX6_readsStep_6 20 rfl rfl)
theorem dX6_readsStep_161 : decode cX6_readsStep 161 = .ok (.getfield 111, 3) := dk_180 0 111 (dk_at dksX6_readsStep_6 21 rfl rfl)
theorem dX6_readsStep_164 : decode cX6_readsStep 164 = .ok (.ifCond .ne 27, 3) := dk_154 0 27 (dk_at dksX6_readsStep_7 0 rfl rfl)
theorem dX6_readsStep_167 : decode cX6_readsStep 167 = .ok (.aload_n 0, 1) := dk_42 (dk_at dksX6_readsStep_7 3 rfl rfl)
theorem dX6_readsStep_168 : decode cX6_readsStep 168 = .ok (.aload_n 0, 1) := dk_42 (dk_at dksX6_readsStep_7 4 rfl rfl)
theorem dX6_readsStep_169 : decode cX6_readsStep 169 = .ok (.getfield 104, 3) := dk_180 0 104 (dk_at dksX6_readsStep_7 5 rfl rfl)
theorem dX6_readsStep_172 : decode cX6_readsStep 172 = .ok (.invokevirtual 107, 3) := dk_182 0 107 (dk_at dksX6_readsStep_7 8 rfl rfl)
theorem dX6_readsStep_175 : decode cX6_readsStep 175 = .ok (.bipush 93, 2) := dk_16 93 (dk_at dksX6_readsStep_7 11 rfl rfl)
theorem dX6_readsStep_177 : decode cX6_readsStep 177 = .ok (.if_icmp .eq 14, 3) := dk_159 0 14 (dk_at dksX6_readsStep_7 13 rfl rfl)
theorem dX6_readsStep_180 : decode cX6_readsStep 180 = .ok (.aload_n 0, 1) := dk_42 (dk_at dksX6_readsStep_7 16 rfl rfl)
theorem dX6_readsStep_181 : decode cX6_readsStep 181 = .ok (.invokevirtual 251, 3) := dk_182 0 251 (dk_at dksX6_readsStep_7 17 rfl rfl)
theorem dX6_readsStep_184 : decode cX6_readsStep 184 = .ok (.aload_n 0, 1) := dk_42 (dk_at dksX6_readsStep_7 20 rfl rfl)
theorem dX6_readsStep_185 : decode cX6_readsStep 185 = .ok (.invokevirtual 117, 3) := dk_182 0 117 (dk_at dksX6_readsStep_7 21 rfl rfl)
theorem dX6_readsStep_188 : decode cX6_readsStep 188 = .ok (.goto (-28), 3) := dk_167 255 228 (dk_at dksX6_readsStep_8 0 rfl rfl)
theorem dX6_readsStep_191 : decode cX6_readsStep 191 = .ok (.aload_n 0, 1) := dk_42 (dk_at dksX6_readsStep_8 3 rfl rfl)
theorem dX6_readsStep_192 : decode cX6_readsStep 192 = .ok (.bipush 93, 2) := dk_16 93 (dk_at dksX6_readsStep_8 4 rfl rfl)
theorem dX6_readsStep_194 : decode cX6_readsStep 194 = .ok (.invokevirtual 167, 3) := dk_182 0 167 (dk_at dksX6_readsStep_8 6 rfl rfl)
theorem dX6_readsStep_197 : decode cX6_readsStep 197 = .ok (.aload_n 0, 1) := dk_42 (dk_at dksX6_readsStep_8 9 rfl rfl)
theorem dX6_readsStep_198 : decode cX6_readsStep 198 = .ok (.dup, 1) := dk_89 (dk_at dksX6_readsStep_8 10 rfl rfl)
theorem dX6_readsStep_199 : decode cX6_readsStep 199 = .ok (.getfield 154, 3) := dk_180 0 154 (dk_at dksX6_readsStep_8 11 rfl rfl)
theorem dX6_readsStep_202 : decode cX6_readsStep 202 = .ok (.iconst 1, 1) := dk_4 (dk_at dksX6_readsStep_8 14 rfl rfl)
theorem dX6_readsStep_203 : decode cX6_readsStep 203 = .ok (.isub, 1) := dk_100 (dk_at dksX6_readsStep_8 15 rfl rfl)
theorem dX6_readsStep_204 : decode cX6_readsStep 204 = .ok (.putfield 154, 3) := dk_181 0 154 (dk_at dksX6_readsStep_8 16 rfl rfl)
theorem dX6_readsStep_207 : decode cX6_readsStep 207 = .ok (.aload_n 2, 1) := dk_44 (dk_at dksX6_readsStep_8 19 rfl rfl)
theorem dX6_readsStep_208 : decode cX6_readsStep 208 = .ok (.iconst 3, 1) := dk_6 (dk_at dksX6_readsStep_8 20 rfl rfl)
theorem dX6_readsStep_209 : decode cX6_readsStep 209 = .ok (.aload_n 0, 1) := dk_42 (dk_at dksX6_readsStep_8 21 rfl rfl)
theorem dX6_readsStep_210 : decode cX6_readsStep 210 = .ok (.getfield 248, 3) := dk_180 0 248 (dk_at dksX6_readsStep_9 0 rfl rfl)
theorem dX6_readsStep_213 : decode cX6_readsStep 213 = .ok (.iastore, 1) := dk_79 (dk_at dksX6_readsStep_9 3 rfl rfl)
theorem dX6_readsStep_214 : decode cX6_readsStep 214 = .ok (.aload_n 0, 1) := dk_42 (dk_at dksX6_readsStep_9 4 rfl rfl)
theorem dX6_readsStep_215 : decode cX6_readsStep 215 = .ok (.bipush 59, 2) := dk_16 59 (dk_at dksX6_readsStep_9 5 rfl rfl)
theorem dX6_readsStep_217 : decode cX6_readsStep 217 = .ok (.invokevirtual 167, 3) := dk_182 0 167 (dk_at dksX6_readsStep_9 7 rfl rfl)
theorem dX6_readsStep_220 : decode cX6_readsStep 220 = .ok (.return_, 1) := dk_177 (dk_at dksX6_readsStep_9 10 rfl rfl)
abbrev cX6_stepHere : ByteArray := prog_34_method_42_code
def yX6_stepHere : MethodName := ⟨RX6, "stepHere", "()I"⟩
def dkwX6_stepHere_6 : List UInt8 := [153, 0, 8, 16, 7, 167, 0, 4, 2, 172]
abbrev dktX6_stepHere_6 : List UInt8 := dkwX6_stepHere_6 ++ []
def dkwX6_stepHere_5 : List UInt8 := [3, 182, 0, 144, 153, 0, 6, 16, 6, 172, 42, 4, 16, 7, 4, 16, 9, 16, 14, 3, 182, 0, 144]
abbrev dktX6_stepHere_5 : List UInt8 := dkwX6_stepHere_5 ++ dktX6_stepHere_6
def dkwX6_stepHere_4 : List UInt8 := [16, 23, 16, 15, 16, 18, 7, 3, 3, 182, 0, 144, 153, 0, 5, 8, 172, 42, 7, 4, 16, 25, 3, 3]
abbrev dktX6_stepHere_4 : List UInt8 := dkwX6_stepHere_4 ++ dktX6_stepHere_5
def dkwX6_stepHere_3 : List UInt8 := [153, 0, 5, 6, 172, 42, 6, 16, 21, 16, 18, 8, 3, 3, 182, 0, 144, 153, 0, 5, 7, 172, 42]
abbrev dktX6_stepHere_3 : List UInt8 := dkwX6_stepHere_3 ++ dktX6_stepHere_4
def dkwX6_stepHere_2 : List UInt8 := [182, 0, 144, 153, 0, 5, 5, 172, 42, 16, 8, 16, 15, 4, 16, 18, 16, 19, 8, 182, 0, 144]
abbrev dktX6_stepHere_2 : List UInt8 := dkwX6_stepHere_2 ++ dktX6_stepHere_3
def dkwX6_stepHere_1 : List UInt8 := [16, 13, 16, 14, 3, 3, 182, 0, 144, 153, 0, 5, 4, 172, 42, 16, 18, 8, 16, 19, 16, 20, 3, 3]
abbrev dktX6_stepHere_1 : List UInt8 := dkwX6_stepHere_1 ++ dktX6_stepHere_2
def dkwX6_stepHere_0 : List UInt8 := [42, 16, 19, 16, 9, 16, 14, 16, 7, 3, 3, 182, 0, 144, 153, 0, 5, 3, 172, 42, 16, 8, 16, 25]
abbrev dktX6_stepHere_0 : List UInt8 := dkwX6_stepHere_0 ++ dktX6_stepHere_1
theorem dksX6_stepHere_0 : cX6_stepHere.data.toList.drop 0 = dktX6_stepHere_0 := by decide +kernel
theorem dksX6_stepHere_1 : cX6_stepHere.data.toList.drop 24 = dktX6_stepHere_1 := dk_seg dksX6_stepHere_0 24 rfl rfl
theorem dksX6_stepHere_2 : cX6_stepHere.data.toList.drop 48 = dktX6_stepHere_2 := dk_seg dksX6_stepHere_1 24 rfl rfl
theorem dksX6_stepHere_3 : cX6_stepHere.data.toList.drop 70 = dktX6_stepHere_3 := dk_seg dksX6_stepHere_2 22 rfl rfl
theorem dksX6_stepHere_4 : cX6_stepHere.data.toList.drop 93 = dktX6_stepHere_4 := dk_seg dksX6_stepHere_3 23 rfl rfl
theorem dksX6_stepHere_5 : cX6_stepHere.data.toList.drop 117 = dktX6_stepHere_5 := dk_seg dksX6_stepHere_4 24 rfl rfl
theorem dksX6_stepHere_6 : cX6_stepHere.data.toList.drop 140 = dktX6_stepHere_6 := dk_seg dksX6_stepHere_5 23 rfl rfl
theorem dX6_stepHere_0 : decode cX6_stepHere 0 = .ok (.aload_n 0, 1) := dk_42 (dk_at dksX6_stepHere_0 0 rfl rfl)
theorem dX6_stepHere_1 : decode cX6_stepHere 1 = .ok (.bipush 19, 2) := dk_16 19 (dk_at dksX6_stepHere_0 1 rfl rfl)
theorem dX6_stepHere_3 : decode cX6_stepHere 3 = .ok (.bipush 9, 2) := dk_16 9 (dk_at dksX6_stepHere_0 3 rfl rfl)
theorem dX6_stepHere_5 : decode cX6_stepHere 5 = .ok (.bipush 14, 2) := dk_16 14 (dk_at dksX6_stepHere_0 5 rfl rfl)
theorem dX6_stepHere_7 : decode cX6_stepHere 7 = .ok (.bipush 7, 2) := dk_16 7 (dk_at dksX6_stepHere_0 7 rfl rfl)
theorem dX6_stepHere_9 : decode cX6_stepHere 9 = .ok (.iconst 0, 1) := dk_3 (dk_at dksX6_stepHere_0 9 rfl rfl)
theorem dX6_stepHere_10 : decode cX6_stepHere 10 = .ok (.iconst 0, 1) := dk_3 (dk_at dksX6_stepHere_0 10 rfl rfl)
theorem dX6_stepHere_11 : decode cX6_stepHere 11 = .ok (.invokevirtual 144, 3) := dk_182 0 144 (dk_at dksX6_stepHere_0 11 rfl rfl)
theorem dX6_stepHere_14 : decode cX6_stepHere 14 = .ok (.ifCond .eq 5, 3) := dk_153 0 5 (dk_at dksX6_stepHere_0 14 rfl rfl)
theorem dX6_stepHere_17 : decode cX6_stepHere 17 = .ok (.iconst 0, 1) := dk_3 (dk_at dksX6_stepHere_0 17 rfl rfl)
theorem dX6_stepHere_18 : decode cX6_stepHere 18 = .ok (.ireturn, 1) := dk_172 (dk_at dksX6_stepHere_0 18 rfl rfl)
theorem dX6_stepHere_19 : decode cX6_stepHere 19 = .ok (.aload_n 0, 1) := dk_42 (dk_at dksX6_stepHere_0 19 rfl rfl)
theorem dX6_stepHere_20 : decode cX6_stepHere 20 = .ok (.bipush 8, 2) := dk_16 8 (dk_at dksX6_stepHere_0 20 rfl rfl)
theorem dX6_stepHere_22 : decode cX6_stepHere 22 = .ok (.bipush 25, 2) := dk_16 25 (dk_at dksX6_stepHere_0 22 rfl rfl)
theorem dX6_stepHere_24 : decode cX6_stepHere 24 = .ok (.bipush 13, 2) := dk_16 13 (dk_at dksX6_stepHere_1 0 rfl rfl)
theorem dX6_stepHere_26 : decode cX6_stepHere 26 = .ok (.bipush 14, 2) := dk_16 14 (dk_at dksX6_stepHere_1 2 rfl rfl)
theorem dX6_stepHere_28 : decode cX6_stepHere 28 = .ok (.iconst 0, 1) := dk_3 (dk_at dksX6_stepHere_1 4 rfl rfl)
theorem dX6_stepHere_29 : decode cX6_stepHere 29 = .ok (.iconst 0, 1) := dk_3 (dk_at dksX6_stepHere_1 5 rfl rfl)
theorem dX6_stepHere_30 : decode cX6_stepHere 30 = .ok (.invokevirtual 144, 3) := dk_182 0 144 (dk_at dksX6_stepHere_1 6 rfl rfl)
theorem dX6_stepHere_33 : decode cX6_stepHere 33 = .ok (.ifCond .eq 5, 3) := dk_153 0 5 (dk_at dksX6_stepHere_1 9 rfl rfl)
theorem dX6_stepHere_36 : decode cX6_stepHere 36 = .ok (.iconst 1, 1) := dk_4 (dk_at dksX6_stepHere_1 12 rfl rfl)
theorem dX6_stepHere_37 : decode cX6_stepHere 37 = .ok (.ireturn, 1) := dk_172 (dk_at dksX6_stepHere_1 13 rfl rfl)
theorem dX6_stepHere_38 : decode cX6_stepHere 38 = .ok (.aload_n 0, 1) := dk_42 (dk_at dksX6_stepHere_1 14 rfl rfl)
theorem dX6_stepHere_39 : decode cX6_stepHere 39 = .ok (.bipush 18, 2) := dk_16 18 (dk_at dksX6_stepHere_1 15 rfl rfl)
theorem dX6_stepHere_41 : decode cX6_stepHere 41 = .ok (.iconst 5, 1) := dk_8 (dk_at dksX6_stepHere_1 17 rfl rfl)
theorem dX6_stepHere_42 : decode cX6_stepHere 42 = .ok (.bipush 19, 2) := dk_16 19 (dk_at dksX6_stepHere_1 18 rfl rfl)
theorem dX6_stepHere_44 : decode cX6_stepHere 44 = .ok (.bipush 20, 2) := dk_16 20 (dk_at dksX6_stepHere_1 20 rfl rfl)
theorem dX6_stepHere_46 : decode cX6_stepHere 46 = .ok (.iconst 0, 1) := dk_3 (dk_at dksX6_stepHere_1 22 rfl rfl)
theorem dX6_stepHere_47 : decode cX6_stepHere 47 = .ok (.iconst 0, 1) := dk_3 (dk_at dksX6_stepHere_1 23 rfl rfl)
theorem dX6_stepHere_48 : decode cX6_stepHere 48 = .ok (.invokevirtual 144, 3) := dk_182 0 144 (dk_at dksX6_stepHere_2 0 rfl rfl)
theorem dX6_stepHere_51 : decode cX6_stepHere 51 = .ok (.ifCond .eq 5, 3) := dk_153 0 5 (dk_at dksX6_stepHere_2 3 rfl rfl)
theorem dX6_stepHere_54 : decode cX6_stepHere 54 = .ok (.iconst 2, 1) := dk_5 (dk_at dksX6_stepHere_2 6 rfl rfl)
theorem dX6_stepHere_55 : decode cX6_stepHere 55 = .ok (.ireturn, 1) := dk_172 (dk_at dksX6_stepHere_2 7 rfl rfl)
theorem dX6_stepHere_56 : decode cX6_stepHere 56 = .ok (.aload_n 0, 1) := dk_42 (dk_at dksX6_stepHere_2 8 rfl rfl)
theorem dX6_stepHere_57 : decode cX6_stepHere 57 = .ok (.bipush 8, 2) := dk_16 8 (dk_at dksX6_stepHere_2 9 rfl rfl)
theorem dX6_stepHere_59 : decode cX6_stepHere 59 = .ok (.bipush 15, 2) := dk_16 15 (dk_at dksX6_stepHere_2 11 rfl rfl)
theorem dX6_stepHere_61 : decode cX6_stepHere 61 = .ok (.iconst 1, 1) := dk_4 (dk_at dksX6_stepHere_2 13 rfl rfl)
theorem dX6_stepHere_62 : decode cX6_stepHere 62 = .ok (.bipush 18, 2) := dk_16 18 (dk_at dksX6_stepHere_2 14 rfl rfl)
theorem dX6_stepHere_64 : decode cX6_stepHere 64 = .ok (.bipush 19, 2) := dk_16 19 (dk_at dksX6_stepHere_2 16 rfl rfl)
theorem dX6_stepHere_66 : decode cX6_stepHere 66 = .ok (.iconst 5, 1) := dk_8 (dk_at dksX6_stepHere_2 18 rfl rfl)
theorem dX6_stepHere_67 : decode cX6_stepHere 67 = .ok (.invokevirtual 144, 3) := dk_182 0 144 (dk_at dksX6_stepHere_2 19 rfl rfl)
theorem dX6_stepHere_70 : decode cX6_stepHere 70 = .ok (.ifCond .eq 5, 3) := dk_153 0 5 (dk_at dksX6_stepHere_3 0 rfl rfl)
theorem dX6_stepHere_73 : decode cX6_stepHere 73 = .ok (.iconst 3, 1) := dk_6 (dk_at dksX6_stepHere_3 3 rfl rfl)
theorem dX6_stepHere_74 : decode cX6_stepHere 74 = .ok (.ireturn, 1) := dk_172 (dk_at dksX6_stepHere_3 4 rfl rfl)
theorem dX6_stepHere_75 : decode cX6_stepHere 75 = .ok (.aload_n 0, 1) := dk_42 (dk_at dksX6_stepHere_3 5 rfl rfl)
theorem dX6_stepHere_76 : decode cX6_stepHere 76 = .ok (.iconst 3, 1) := dk_6 (dk_at dksX6_stepHere_3 6 rfl rfl)
theorem dX6_stepHere_77 : decode cX6_stepHere 77 = .ok (.bipush 21, 2) := dk_16 21 (dk_at dksX6_stepHere_3 7 rfl rfl)
theorem dX6_stepHere_79 : decode cX6_stepHere 79 = .ok (.bipush 18, 2) := dk_16 18 (dk_at dksX6_stepHere_3 9 rfl rfl)
theorem dX6_stepHere_81 : decode cX6_stepHere 81 = .ok (.iconst 5, 1) := dk_8 (dk_at dksX6_stepHere_3 11 rfl rfl)
theorem dX6_stepHere_82 : decode cX6_stepHere 82 = .ok (.iconst 0, 1) := dk_3 (dk_at dksX6_stepHere_3 12 rfl rfl)
theorem dX6_stepHere_83 : decode cX6_stepHere 83 = .ok (.iconst 0, 1) := dk_3 (dk_at dksX6_stepHere_3 13 rfl rfl)
theorem dX6_stepHere_84 : decode cX6_stepHere 84 = .ok (.invokevirtual 144, 3) := dk_182 0 144 (dk_at dksX6_stepHere_3 14 rfl rfl)
theorem dX6_stepHere_87 : decode cX6_stepHere 87 = .ok (.ifCond .eq 5, 3) := dk_153 0 5 (dk_at dksX6_stepHere_3 17 rfl rfl)
theorem dX6_stepHere_90 : decode cX6_stepHere 90 = .ok (.iconst 4, 1) := dk_7 (dk_at dksX6_stepHere_3 20 rfl rfl)
theorem dX6_stepHere_91 : decode cX6_stepHere 91 = .ok (.ireturn, 1) := dk_172 (dk_at dksX6_stepHere_3 21 rfl rfl)
theorem dX6_stepHere_92 : decode cX6_stepHere 92 = .ok (.aload_n 0, 1) := dk_42 (dk_at dksX6_stepHere_3 22 rfl rfl)
theorem dX6_stepHere_93 : decode cX6_stepHere 93 = .ok (.bipush 23, 2) := dk_16 23 (dk_at dksX6_stepHere_4 0 rfl rfl)
theorem dX6_stepHere_95 : decode cX6_stepHere 95 = .ok (.bipush 15, 2) := dk_16 15 (dk_at dksX6_stepHere_4 2 rfl rfl)
theorem dX6_stepHere_97 : decode cX6_stepHere 97 = .ok (.bipush 18, 2) := dk_16 18 (dk_at dksX6_stepHere_4 4 rfl rfl)
theorem dX6_stepHere_99 : decode cX6_stepHere 99 = .ok (.iconst 4, 1) := dk_7 (dk_at dksX6_stepHere_4 6 rfl rfl)
theorem dX6_stepHere_100 : decode cX6_stepHere 100 = .ok (.iconst 0, 1) := dk_3 (dk_at dksX6_stepHere_4 7 rfl rfl)
theorem dX6_stepHere_101 : decode cX6_stepHere 101 = .ok (.iconst 0, 1) := dk_3 (dk_at dksX6_stepHere_4 8 rfl rfl)
theorem dX6_stepHere_102 : decode cX6_stepHere 102 = .ok (.invokevirtual 144, 3) := dk_182 0 144 (dk_at dksX6_stepHere_4 9 rfl rfl)
theorem dX6_stepHere_105 : decode cX6_stepHere 105 = .ok (.ifCond .eq 5, 3) := dk_153 0 5 (dk_at dksX6_stepHere_4 12 rfl rfl)
theorem dX6_stepHere_108 : decode cX6_stepHere 108 = .ok (.iconst 5, 1) := dk_8 (dk_at dksX6_stepHere_4 15 rfl rfl)
theorem dX6_stepHere_109 : decode cX6_stepHere 109 = .ok (.ireturn, 1) := dk_172 (dk_at dksX6_stepHere_4 16 rfl rfl)
theorem dX6_stepHere_110 : decode cX6_stepHere 110 = .ok (.aload_n 0, 1) := dk_42 (dk_at dksX6_stepHere_4 17 rfl rfl)
theorem dX6_stepHere_111 : decode cX6_stepHere 111 = .ok (.iconst 4, 1) := dk_7 (dk_at dksX6_stepHere_4 18 rfl rfl)
theorem dX6_stepHere_112 : decode cX6_stepHere 112 = .ok (.iconst 1, 1) := dk_4 (dk_at dksX6_stepHere_4 19 rfl rfl)
theorem dX6_stepHere_113 : decode cX6_stepHere 113 = .ok (.bipush 25, 2) := dk_16 25 (dk_at dksX6_stepHere_4 20 rfl rfl)
theorem dX6_stepHere_115 : decode cX6_stepHere 115 = .ok (.iconst 0, 1) := dk_3 (dk_at dksX6_stepHere_4 22 rfl rfl)
theorem dX6_stepHere_116 : decode cX6_stepHere 116 = .ok (.iconst 0, 1) := dk_3 (dk_at dksX6_stepHere_4 23 rfl rfl)
theorem dX6_stepHere_117 : decode cX6_stepHere 117 = .ok (.iconst 0, 1) := dk_3 (dk_at dksX6_stepHere_5 0 rfl rfl)
theorem dX6_stepHere_118 : decode cX6_stepHere 118 = .ok (.invokevirtual 144, 3) := dk_182 0 144 (dk_at dksX6_stepHere_5 1 rfl rfl)
theorem dX6_stepHere_121 : decode cX6_stepHere 121 = .ok (.ifCond .eq 6, 3) := dk_153 0 6 (dk_at dksX6_stepHere_5 4 rfl rfl)
theorem dX6_stepHere_124 : decode cX6_stepHere 124 = .ok (.bipush 6, 2) := dk_16 6 (dk_at dksX6_stepHere_5 7 rfl rfl)
theorem dX6_stepHere_126 : decode cX6_stepHere 126 = .ok (.ireturn, 1) := dk_172 (dk_at dksX6_stepHere_5 9 rfl rfl)
theorem dX6_stepHere_127 : decode cX6_stepHere 127 = .ok (.aload_n 0, 1) := dk_42 (dk_at dksX6_stepHere_5 10 rfl rfl)
theorem dX6_stepHere_128 : decode cX6_stepHere 128 = .ok (.iconst 1, 1) := dk_4 (dk_at dksX6_stepHere_5 11 rfl rfl)
theorem dX6_stepHere_129 : decode cX6_stepHere 129 = .ok (.bipush 7, 2) := dk_16 7 (dk_at dksX6_stepHere_5 12 rfl rfl)
theorem dX6_stepHere_131 : decode cX6_stepHere 131 = .ok (.iconst 1, 1) := dk_4 (dk_at dksX6_stepHere_5 14 rfl rfl)
theorem dX6_stepHere_132 : decode cX6_stepHere 132 = .ok (.bipush 9, 2) := dk_16 9 (dk_at dksX6_stepHere_5 15 rfl rfl)
theorem dX6_stepHere_134 : decode cX6_stepHere 134 = .ok (.bipush 14, 2) := dk_16 14 (dk_at dksX6_stepHere_5 17 rfl rfl)
theorem dX6_stepHere_136 : decode cX6_stepHere 136 = .ok (.iconst 0, 1) := dk_3 (dk_at dksX6_stepHere_5 19 rfl rfl)
theorem dX6_stepHere_137 : decode cX6_stepHere 137 = .ok (.invokevirtual 144, 3) := dk_182 0 144 (dk_at dksX6_stepHere_5 20 rfl rfl)
theorem dX6_stepHere_140 : decode cX6_stepHere 140 = .ok (.ifCond .eq 8, 3) := dk_153 0 8 (dk_at dksX6_stepHere_6 0 rfl rfl)
theorem dX6_stepHere_143 : decode cX6_stepHere 143 = .ok (.bipush 7, 2) := dk_16 7 (dk_at dksX6_stepHere_6 3 rfl rfl)
theorem dX6_stepHere_145 : decode cX6_stepHere 145 = .ok (.goto 4, 3) := dk_167 0 4 (dk_at dksX6_stepHere_6 5 rfl rfl)
theorem dX6_stepHere_148 : decode cX6_stepHere 148 = .ok (.iconst (-1), 1) := dk_2 (dk_at dksX6_stepHere_6 8 rfl rfl)
theorem dX6_stepHere_149 : decode cX6_stepHere 149 = .ok (.ireturn, 1) := dk_172 (dk_at dksX6_stepHere_6 9 rfl rfl)
abbrev cX6_copies : ByteArray := prog_34_method_30_code
def yX6_copies : MethodName := ⟨RX6, "copies", "([I[I)V"⟩
def dkwX6_copies_0 : List UInt8 := [3, 61, 28, 16, 57, 162, 0, 15, 43, 28, 42, 28, 46, 79, 132, 2, 1, 167, 255, 241, 177]
abbrev dktX6_copies_0 : List UInt8 := dkwX6_copies_0 ++ []
theorem dksX6_copies_0 : cX6_copies.data.toList.drop 0 = dktX6_copies_0 := by decide +kernel
theorem dX6_copies_0 : decode cX6_copies 0 = .ok (.iconst 0, 1) := dk_3 (dk_at dksX6_copies_0 0 rfl rfl)
theorem dX6_copies_1 : decode cX6_copies 1 = .ok (.istore_n 2, 1) := dk_61 (dk_at dksX6_copies_0 1 rfl rfl)
theorem dX6_copies_2 : decode cX6_copies 2 = .ok (.iload_n 2, 1) := dk_28 (dk_at dksX6_copies_0 2 rfl rfl)
theorem dX6_copies_3 : decode cX6_copies 3 = .ok (.bipush 57, 2) := dk_16 57 (dk_at dksX6_copies_0 3 rfl rfl)
theorem dX6_copies_5 : decode cX6_copies 5 = .ok (.if_icmp .ge 15, 3) := dk_162 0 15 (dk_at dksX6_copies_0 5 rfl rfl)
theorem dX6_copies_8 : decode cX6_copies 8 = .ok (.aload_n 1, 1) := dk_43 (dk_at dksX6_copies_0 8 rfl rfl)
theorem dX6_copies_9 : decode cX6_copies 9 = .ok (.iload_n 2, 1) := dk_28 (dk_at dksX6_copies_0 9 rfl rfl)
theorem dX6_copies_10 : decode cX6_copies 10 = .ok (.aload_n 0, 1) := dk_42 (dk_at dksX6_copies_0 10 rfl rfl)
theorem dX6_copies_11 : decode cX6_copies 11 = .ok (.iload_n 2, 1) := dk_28 (dk_at dksX6_copies_0 11 rfl rfl)
theorem dX6_copies_12 : decode cX6_copies 12 = .ok (.iaload, 1) := dk_46 (dk_at dksX6_copies_0 12 rfl rfl)
theorem dX6_copies_13 : decode cX6_copies 13 = .ok (.iastore, 1) := dk_79 (dk_at dksX6_copies_0 13 rfl rfl)
theorem dX6_copies_14 : decode cX6_copies 14 = .ok (.iinc 2 1, 3) := dk_132 2 1 (dk_at dksX6_copies_0 14 rfl rfl)
theorem dX6_copies_17 : decode cX6_copies 17 = .ok (.goto (-15), 3) := dk_167 255 241 (dk_at dksX6_copies_0 17 rfl rfl)
theorem dX6_copies_20 : decode cX6_copies 20 = .ok (.return_, 1) := dk_177 (dk_at dksX6_copies_0 20 rfl rfl)
abbrev cX6_goes : ByteArray := prog_34_method_57_code
def yX6_goes : MethodName := ⟨RX6, "goes", "(II)V"⟩
def dkwX6_goes_6 : List UInt8 := [96, 181, 0, 201, 42, 180, 0, 64, 29, 50, 6, 46, 62, 167, 255, 105, 177]
abbrev dktX6_goes_6 : List UInt8 := dkwX6_goes_6 ++ []
def dkwX6_goes_5 : List UInt8 := [4, 167, 0, 4, 3, 96, 181, 1, 51, 42, 89, 180, 0, 201, 21, 4, 153, 0, 7, 3, 167, 0, 4, 4]
abbrev dktX6_goes_5 : List UInt8 := dkwX6_goes_5 ++ dktX6_goes_6
def dkwX6_goes_4 : List UInt8 := [180, 0, 67, 42, 180, 0, 64, 29, 50, 182, 1, 47, 54, 4, 42, 89, 180, 1, 51, 21, 4, 153, 0, 7]
abbrev dktX6_goes_4 : List UInt8 := dkwX6_goes_4 ++ dktX6_goes_5
def dkwX6_goes_3 : List UInt8 := [42, 180, 0, 64, 29, 50, 6, 46, 182, 1, 44, 132, 4, 1, 167, 255, 215, 167, 0, 57, 42, 42]
abbrev dktX6_goes_3 : List UInt8 := dkwX6_goes_3 ++ dktX6_goes_4
def dkwX6_goes_2 : List UInt8 := [180, 0, 64, 29, 50, 4, 46, 162, 0, 34, 42, 180, 1, 41, 17, 0, 200, 162, 0, 24, 42, 29, 4, 96]
abbrev dktX6_goes_2 : List UInt8 := dkwX6_goes_2 ++ dktX6_goes_3
def dkwX6_goes_1 : List UInt8 := [181, 1, 41, 42, 180, 0, 64, 29, 50, 3, 46, 16, 7, 160, 0, 53, 3, 54, 4, 21, 4, 42]
abbrev dktX6_goes_1 : List UInt8 := dkwX6_goes_1 ++ dktX6_goes_2
def dkwX6_goes_0 : List UInt8 := [27, 62, 29, 28, 162, 0, 152, 42, 180, 1, 41, 17, 0, 200, 162, 0, 142, 42, 89, 180, 1, 41, 4, 96]
abbrev dktX6_goes_0 : List UInt8 := dkwX6_goes_0 ++ dktX6_goes_1
theorem dksX6_goes_0 : cX6_goes.data.toList.drop 0 = dktX6_goes_0 := by decide +kernel
theorem dksX6_goes_1 : cX6_goes.data.toList.drop 24 = dktX6_goes_1 := dk_seg dksX6_goes_0 24 rfl rfl
theorem dksX6_goes_2 : cX6_goes.data.toList.drop 46 = dktX6_goes_2 := dk_seg dksX6_goes_1 22 rfl rfl
theorem dksX6_goes_3 : cX6_goes.data.toList.drop 70 = dktX6_goes_3 := dk_seg dksX6_goes_2 24 rfl rfl
theorem dksX6_goes_4 : cX6_goes.data.toList.drop 92 = dktX6_goes_4 := dk_seg dksX6_goes_3 22 rfl rfl
theorem dksX6_goes_5 : cX6_goes.data.toList.drop 116 = dktX6_goes_5 := dk_seg dksX6_goes_4 24 rfl rfl
theorem dksX6_goes_6 : cX6_goes.data.toList.drop 140 = dktX6_goes_6 := dk_seg dksX6_goes_5 24 rfl rfl
theorem dX6_goes_0 : decode cX6_goes 0 = .ok (.iload_n 1, 1) := dk_27 (dk_at dksX6_goes_0 0 rfl rfl)
theorem dX6_goes_1 : decode cX6_goes 1 = .ok (.istore_n 3, 1) := dk_62 (dk_at dksX6_goes_0 1 rfl rfl)
theorem dX6_goes_2 : decode cX6_goes 2 = .ok (.iload_n 3, 1) := dk_29 (dk_at dksX6_goes_0 2 rfl rfl)
theorem dX6_goes_3 : decode cX6_goes 3 = .ok (.iload_n 2, 1) := dk_28 (dk_at dksX6_goes_0 3 rfl rfl)
theorem dX6_goes_4 : decode cX6_goes 4 = .ok (.if_icmp .ge 152, 3) := dk_162 0 152 (dk_at dksX6_goes_0 4 rfl rfl)
theorem dX6_goes_7 : decode cX6_goes 7 = .ok (.aload_n 0, 1) := dk_42 (dk_at dksX6_goes_0 7 rfl rfl)
theorem dX6_goes_8 : decode cX6_goes 8 = .ok (.getfield 297, 3) := dk_180 1 41 (dk_at dksX6_goes_0 8 rfl rfl)
theorem dX6_goes_11 : decode cX6_goes 11 = .ok (.sipush 200, 3) := dk_17 0 200 (dk_at dksX6_goes_0 11 rfl rfl)
theorem dX6_goes_14 : decode cX6_goes 14 = .ok (.if_icmp .ge 142, 3) := dk_162 0 142 (dk_at dksX6_goes_0 14 rfl rfl)
theorem dX6_goes_17 : decode cX6_goes 17 = .ok (.aload_n 0, 1) := dk_42 (dk_at dksX6_goes_0 17 rfl rfl)
theorem dX6_goes_18 : decode cX6_goes 18 = .ok (.dup, 1) := dk_89 (dk_at dksX6_goes_0 18 rfl rfl)
theorem dX6_goes_19 : decode cX6_goes 19 = .ok (.getfield 297, 3) := dk_180 1 41 (dk_at dksX6_goes_0 19 rfl rfl)
theorem dX6_goes_22 : decode cX6_goes 22 = .ok (.iconst 1, 1) := dk_4 (dk_at dksX6_goes_0 22 rfl rfl)
theorem dX6_goes_23 : decode cX6_goes 23 = .ok (.iadd, 1) := dk_96 (dk_at dksX6_goes_0 23 rfl rfl)
theorem dX6_goes_24 : decode cX6_goes 24 = .ok (.putfield 297, 3) := dk_181 1 41 (dk_at dksX6_goes_1 0 rfl rfl)
theorem dX6_goes_27 : decode cX6_goes 27 = .ok (.aload_n 0, 1) := dk_42 (dk_at dksX6_goes_1 3 rfl rfl)
theorem dX6_goes_28 : decode cX6_goes 28 = .ok (.getfield 64, 3) := dk_180 0 64 (dk_at dksX6_goes_1 4 rfl rfl)
theorem dX6_goes_31 : decode cX6_goes 31 = .ok (.iload_n 3, 1) := dk_29 (dk_at dksX6_goes_1 7 rfl rfl)
theorem dX6_goes_32 : decode cX6_goes 32 = .ok (.aaload, 1) := dk_50 (dk_at dksX6_goes_1 8 rfl rfl)
theorem dX6_goes_33 : decode cX6_goes 33 = .ok (.iconst 0, 1) := dk_3 (dk_at dksX6_goes_1 9 rfl rfl)
theorem dX6_goes_34 : decode cX6_goes 34 = .ok (.iaload, 1) := dk_46 (dk_at dksX6_goes_1 10 rfl rfl)
theorem dX6_goes_35 : decode cX6_goes 35 = .ok (.bipush 7, 2) := dk_16 7 (dk_at dksX6_goes_1 11 rfl rfl)
theorem dX6_goes_37 : decode cX6_goes 37 = .ok (.if_icmp .ne 53, 3) := dk_160 0 53 (dk_at dksX6_goes_1 13 rfl rfl)
theorem dX6_goes_40 : decode cX6_goes 40 = .ok (.iconst 0, 1) := dk_3 (dk_at dksX6_goes_1 16 rfl rfl)
theorem dX6_goes_41 : decode cX6_goes 41 = .ok (.istore 4, 2) := dk_54 4 (dk_at dksX6_goes_1 17 rfl rfl)
theorem dX6_goes_43 : decode cX6_goes 43 = .ok (.iload 4, 2) := dk_21 4 (dk_at dksX6_goes_1 19 rfl rfl)
theorem dX6_goes_45 : decode cX6_goes 45 = .ok (.aload_n 0, 1) := dk_42 (dk_at dksX6_goes_1 21 rfl rfl)
theorem dX6_goes_46 : decode cX6_goes 46 = .ok (.getfield 64, 3) := dk_180 0 64 (dk_at dksX6_goes_2 0 rfl rfl)
theorem dX6_goes_49 : decode cX6_goes 49 = .ok (.iload_n 3, 1) := dk_29 (dk_at dksX6_goes_2 3 rfl rfl)
theorem dX6_goes_50 : decode cX6_goes 50 = .ok (.aaload, 1) := dk_50 (dk_at dksX6_goes_2 4 rfl rfl)
theorem dX6_goes_51 : decode cX6_goes 51 = .ok (.iconst 1, 1) := dk_4 (dk_at dksX6_goes_2 5 rfl rfl)
theorem dX6_goes_52 : decode cX6_goes 52 = .ok (.iaload, 1) := dk_46 (dk_at dksX6_goes_2 6 rfl rfl)
theorem dX6_goes_53 : decode cX6_goes 53 = .ok (.if_icmp .ge 34, 3) := dk_162 0 34 (dk_at dksX6_goes_2 7 rfl rfl)
theorem dX6_goes_56 : decode cX6_goes 56 = .ok (.aload_n 0, 1) := dk_42 (dk_at dksX6_goes_2 10 rfl rfl)
theorem dX6_goes_57 : decode cX6_goes 57 = .ok (.getfield 297, 3) := dk_180 1 41 (dk_at dksX6_goes_2 11 rfl rfl)
theorem dX6_goes_60 : decode cX6_goes 60 = .ok (.sipush 200, 3) := dk_17 0 200 (dk_at dksX6_goes_2 14 rfl rfl)
theorem dX6_goes_63 : decode cX6_goes 63 = .ok (.if_icmp .ge 24, 3) := dk_162 0 24 (dk_at dksX6_goes_2 17 rfl rfl)
theorem dX6_goes_66 : decode cX6_goes 66 = .ok (.aload_n 0, 1) := dk_42 (dk_at dksX6_goes_2 20 rfl rfl)
theorem dX6_goes_67 : decode cX6_goes 67 = .ok (.iload_n 3, 1) := dk_29 (dk_at dksX6_goes_2 21 rfl rfl)
theorem dX6_goes_68 : decode cX6_goes 68 = .ok (.iconst 1, 1) := dk_4 (dk_at dksX6_goes_2 22 rfl rfl)
theorem dX6_goes_69 : decode cX6_goes 69 = .ok (.iadd, 1) := dk_96 (dk_at dksX6_goes_2 23 rfl rfl)
theorem dX6_goes_70 : decode cX6_goes 70 = .ok (.aload_n 0, 1) := dk_42 (dk_at dksX6_goes_3 0 rfl rfl)
theorem dX6_goes_71 : decode cX6_goes 71 = .ok (.getfield 64, 3) := dk_180 0 64 (dk_at dksX6_goes_3 1 rfl rfl)
theorem dX6_goes_74 : decode cX6_goes 74 = .ok (.iload_n 3, 1) := dk_29 (dk_at dksX6_goes_3 4 rfl rfl)
theorem dX6_goes_75 : decode cX6_goes 75 = .ok (.aaload, 1) := dk_50 (dk_at dksX6_goes_3 5 rfl rfl)
theorem dX6_goes_76 : decode cX6_goes 76 = .ok (.iconst 3, 1) := dk_6 (dk_at dksX6_goes_3 6 rfl rfl)
theorem dX6_goes_77 : decode cX6_goes 77 = .ok (.iaload, 1) := dk_46 (dk_at dksX6_goes_3 7 rfl rfl)
theorem dX6_goes_78 : decode cX6_goes 78 = .ok (.invokevirtual 300, 3) := dk_182 1 44 (dk_at dksX6_goes_3 8 rfl rfl)
theorem dX6_goes_81 : decode cX6_goes 81 = .ok (.iinc 4 1, 3) := dk_132 4 1 (dk_at dksX6_goes_3 11 rfl rfl)
theorem dX6_goes_84 : decode cX6_goes 84 = .ok (.goto (-41), 3) := dk_167 255 215 (dk_at dksX6_goes_3 14 rfl rfl)
theorem dX6_goes_87 : decode cX6_goes 87 = .ok (.goto 57, 3) := dk_167 0 57 (dk_at dksX6_goes_3 17 rfl rfl)
theorem dX6_goes_90 : decode cX6_goes 90 = .ok (.aload_n 0, 1) := dk_42 (dk_at dksX6_goes_3 20 rfl rfl)
theorem dX6_goes_91 : decode cX6_goes 91 = .ok (.aload_n 0, 1) := dk_42 (dk_at dksX6_goes_3 21 rfl rfl)
theorem dX6_goes_92 : decode cX6_goes 92 = .ok (.getfield 67, 3) := dk_180 0 67 (dk_at dksX6_goes_4 0 rfl rfl)
theorem dX6_goes_95 : decode cX6_goes 95 = .ok (.aload_n 0, 1) := dk_42 (dk_at dksX6_goes_4 3 rfl rfl)
theorem dX6_goes_96 : decode cX6_goes 96 = .ok (.getfield 64, 3) := dk_180 0 64 (dk_at dksX6_goes_4 4 rfl rfl)
theorem dX6_goes_99 : decode cX6_goes 99 = .ok (.iload_n 3, 1) := dk_29 (dk_at dksX6_goes_4 7 rfl rfl)
theorem dX6_goes_100 : decode cX6_goes 100 = .ok (.aaload, 1) := dk_50 (dk_at dksX6_goes_4 8 rfl rfl)
theorem dX6_goes_101 : decode cX6_goes 101 = .ok (.invokevirtual 303, 3) := dk_182 1 47 (dk_at dksX6_goes_4 9 rfl rfl)
theorem dX6_goes_104 : decode cX6_goes 104 = .ok (.istore 4, 2) := dk_54 4 (dk_at dksX6_goes_4 12 rfl rfl)
theorem dX6_goes_106 : decode cX6_goes 106 = .ok (.aload_n 0, 1) := dk_42 (dk_at dksX6_goes_4 14 rfl rfl)
theorem dX6_goes_107 : decode cX6_goes 107 = .ok (.dup, 1) := dk_89 (dk_at dksX6_goes_4 15 rfl rfl)
theorem dX6_goes_108 : decode cX6_goes 108 = .ok (.getfield 307, 3) := dk_180 1 51 (dk_at dksX6_goes_4 16 rfl rfl)
theorem dX6_goes_111 : decode cX6_goes 111 = .ok (.iload 4, 2) := dk_21 4 (dk_at dksX6_goes_4 19 rfl rfl)
theorem dX6_goes_113 : decode cX6_goes 113 = .ok (.ifCond .eq 7, 3) := dk_153 0 7 (dk_at dksX6_goes_4 21 rfl rfl)
theorem dX6_goes_116 : decode cX6_goes 116 = .ok (.iconst 1, 1) := dk_4 (dk_at dksX6_goes_5 0 rfl rfl)
theorem dX6_goes_117 : decode cX6_goes 117 = .ok (.goto 4, 3) := dk_167 0 4 (dk_at dksX6_goes_5 1 rfl rfl)
theorem dX6_goes_120 : decode cX6_goes 120 = .ok (.iconst 0, 1) := dk_3 (dk_at dksX6_goes_5 4 rfl rfl)
theorem dX6_goes_121 : decode cX6_goes 121 = .ok (.iadd, 1) := dk_96 (dk_at dksX6_goes_5 5 rfl rfl)
theorem dX6_goes_122 : decode cX6_goes 122 = .ok (.putfield 307, 3) := dk_181 1 51 (dk_at dksX6_goes_5 6 rfl rfl)
theorem dX6_goes_125 : decode cX6_goes 125 = .ok (.aload_n 0, 1) := dk_42 (dk_at dksX6_goes_5 9 rfl rfl)
theorem dX6_goes_126 : decode cX6_goes 126 = .ok (.dup, 1) := dk_89 (dk_at dksX6_goes_5 10 rfl rfl)
theorem dX6_goes_127 : decode cX6_goes 127 = .ok (.getfield 201, 3) := dk_180 0 201 (dk_at dksX6_goes_5 11 rfl rfl)
theorem dX6_goes_130 : decode cX6_goes 130 = .ok (.iload 4, 2) := dk_21 4 (dk_at dksX6_goes_5 14 rfl rfl)
theorem dX6_goes_132 : decode cX6_goes 132 = .ok (.ifCond .eq 7, 3) := dk_153 0 7 (dk_at dksX6_goes_5 16 rfl rfl)
theorem dX6_goes_135 : decode cX6_goes 135 = .ok (.iconst 0, 1) := dk_3 (dk_at dksX6_goes_5 19 rfl rfl)
theorem dX6_goes_136 : decode cX6_goes 136 = .ok (.goto 4, 3) := dk_167 0 4 (dk_at dksX6_goes_5 20 rfl rfl)
theorem dX6_goes_139 : decode cX6_goes 139 = .ok (.iconst 1, 1) := dk_4 (dk_at dksX6_goes_5 23 rfl rfl)
theorem dX6_goes_140 : decode cX6_goes 140 = .ok (.iadd, 1) := dk_96 (dk_at dksX6_goes_6 0 rfl rfl)
theorem dX6_goes_141 : decode cX6_goes 141 = .ok (.putfield 201, 3) := dk_181 0 201 (dk_at dksX6_goes_6 1 rfl rfl)
theorem dX6_goes_144 : decode cX6_goes 144 = .ok (.aload_n 0, 1) := dk_42 (dk_at dksX6_goes_6 4 rfl rfl)
theorem dX6_goes_145 : decode cX6_goes 145 = .ok (.getfield 64, 3) := dk_180 0 64 (dk_at dksX6_goes_6 5 rfl rfl)
theorem dX6_goes_148 : decode cX6_goes 148 = .ok (.iload_n 3, 1) := dk_29 (dk_at dksX6_goes_6 8 rfl rfl)
theorem dX6_goes_149 : decode cX6_goes 149 = .ok (.aaload, 1) := dk_50 (dk_at dksX6_goes_6 9 rfl rfl)
theorem dX6_goes_150 : decode cX6_goes 150 = .ok (.iconst 3, 1) := dk_6 (dk_at dksX6_goes_6 10 rfl rfl)
theorem dX6_goes_151 : decode cX6_goes 151 = .ok (.iaload, 1) := dk_46 (dk_at dksX6_goes_6 11 rfl rfl)
theorem dX6_goes_152 : decode cX6_goes 152 = .ok (.istore_n 3, 1) := dk_62 (dk_at dksX6_goes_6 12 rfl rfl)
theorem dX6_goes_153 : decode cX6_goes 153 = .ok (.goto (-151), 3) := dk_167 255 105 (dk_at dksX6_goes_6 13 rfl rfl)
theorem dX6_goes_156 : decode cX6_goes 156 = .ok (.return_, 1) := dk_177 (dk_at dksX6_goes_6 16 rfl rfl)
abbrev cX6_does : ByteArray := prog_34_method_56_code
def yX6_does : MethodName := ⟨RX6, "does", "([I[I)Z"⟩
def dkwX6_does_6 : List UInt8 := [42, 43, 182, 1, 38, 4, 172]
abbrev dktX6_does_6 : List UInt8 := dkwX6_does_6 ++ []
def dkwX6_does_5 : List UInt8 := [184, 1, 31, 153, 0, 7, 4, 167, 0, 4, 3, 172, 43, 16, 56, 46, 17, 1, 144, 161, 0, 5, 3, 172]
abbrev dktX6_does_5 : List UInt8 := dkwX6_does_5 ++ dktX6_does_6
def dkwX6_does_4 : List UInt8 := [4, 46, 182, 1, 35, 44, 5, 46, 184, 0, 254, 153, 0, 23, 43, 16, 35, 44, 4, 46, 96, 44, 5, 46]
abbrev dktX6_does_4 : List UInt8 := dkwX6_does_4 ++ dktX6_does_5
def dkwX6_does_3 : List UInt8 := [16, 7, 44, 4, 46, 96, 44, 3, 46, 6, 160, 0, 7, 4, 167, 0, 4, 3, 184, 1, 31, 172, 42, 44]
abbrev dktX6_does_3 : List UInt8 := dkwX6_does_3 ++ dktX6_does_4
def dkwX6_does_2 : List UInt8 := [42, 43, 44, 4, 46, 182, 1, 20, 172, 42, 43, 182, 1, 24, 4, 172, 42, 43, 182, 1, 27, 172, 43]
abbrev dktX6_does_2 : List UInt8 := dkwX6_does_2 ++ dktX6_does_3
def dkwX6_does_1 : List UInt8 := [170, 0, 0, 0, 120, 0, 0, 0, 0, 0, 0, 0, 5, 0, 0, 0, 37, 0, 0, 0, 46, 0, 0, 0, 53, 0, 0, 0, 59, 0, 0, 0, 59, 0, 0, 0, 82]
abbrev dktX6_does_1 : List UInt8 := dkwX6_does_1 ++ dktX6_does_2
def dkwX6_does_0 : List UInt8 := [44, 3, 46]
abbrev dktX6_does_0 : List UInt8 := dkwX6_does_0 ++ dktX6_does_1
theorem dksX6_does_0 : cX6_does.data.toList.drop 0 = dktX6_does_0 := by decide +kernel
theorem dksX6_does_1 : cX6_does.data.toList.drop 3 = dktX6_does_1 := dk_seg dksX6_does_0 3 rfl rfl
theorem dksX6_does_2 : cX6_does.data.toList.drop 40 = dktX6_does_2 := dk_seg dksX6_does_1 37 rfl rfl
theorem dksX6_does_3 : cX6_does.data.toList.drop 63 = dktX6_does_3 := dk_seg dksX6_does_2 23 rfl rfl
theorem dksX6_does_4 : cX6_does.data.toList.drop 87 = dktX6_does_4 := dk_seg dksX6_does_3 24 rfl rfl
theorem dksX6_does_5 : cX6_does.data.toList.drop 111 = dktX6_does_5 := dk_seg dksX6_does_4 24 rfl rfl
theorem dksX6_does_6 : cX6_does.data.toList.drop 135 = dktX6_does_6 := dk_seg dksX6_does_5 24 rfl rfl
theorem dX6_does_0 : decode cX6_does 0 = .ok (.aload_n 2, 1) := dk_44 (dk_at dksX6_does_0 0 rfl rfl)
theorem dX6_does_1 : decode cX6_does 1 = .ok (.iconst 0, 1) := dk_3 (dk_at dksX6_does_0 1 rfl rfl)
theorem dX6_does_2 : decode cX6_does 2 = .ok (.iaload, 1) := dk_46 (dk_at dksX6_does_0 2 rfl rfl)
theorem dX6_does_3 : decode cX6_does 3 = .ok (.tableswitch 120 0 5 #[37, 46, 53, 59, 59, 82], 37) := by decide +kernel
theorem dX6_does_40 : decode cX6_does 40 = .ok (.aload_n 0, 1) := dk_42 (dk_at dksX6_does_2 0 rfl rfl)
theorem dX6_does_41 : decode cX6_does 41 = .ok (.aload_n 1, 1) := dk_43 (dk_at dksX6_does_2 1 rfl rfl)
theorem dX6_does_42 : decode cX6_does 42 = .ok (.aload_n 2, 1) := dk_44 (dk_at dksX6_does_2 2 rfl rfl)
theorem dX6_does_43 : decode cX6_does 43 = .ok (.iconst 1, 1) := dk_4 (dk_at dksX6_does_2 3 rfl rfl)
theorem dX6_does_44 : decode cX6_does 44 = .ok (.iaload, 1) := dk_46 (dk_at dksX6_does_2 4 rfl rfl)
theorem dX6_does_45 : decode cX6_does 45 = .ok (.invokevirtual 276, 3) := dk_182 1 20 (dk_at dksX6_does_2 5 rfl rfl)
theorem dX6_does_48 : decode cX6_does 48 = .ok (.ireturn, 1) := dk_172 (dk_at dksX6_does_2 8 rfl rfl)
theorem dX6_does_49 : decode cX6_does 49 = .ok (.aload_n 0, 1) := dk_42 (dk_at dksX6_does_2 9 rfl rfl)
theorem dX6_does_50 : decode cX6_does 50 = .ok (.aload_n 1, 1) := dk_43 (dk_at dksX6_does_2 10 rfl rfl)
theorem dX6_does_51 : decode cX6_does 51 = .ok (.invokevirtual 280, 3) := dk_182 1 24 (dk_at dksX6_does_2 11 rfl rfl)
theorem dX6_does_54 : decode cX6_does 54 = .ok (.iconst 1, 1) := dk_4 (dk_at dksX6_does_2 14 rfl rfl)
theorem dX6_does_55 : decode cX6_does 55 = .ok (.ireturn, 1) := dk_172 (dk_at dksX6_does_2 15 rfl rfl)
theorem dX6_does_56 : decode cX6_does 56 = .ok (.aload_n 0, 1) := dk_42 (dk_at dksX6_does_2 16 rfl rfl)
theorem dX6_does_57 : decode cX6_does 57 = .ok (.aload_n 1, 1) := dk_43 (dk_at dksX6_does_2 17 rfl rfl)
theorem dX6_does_58 : decode cX6_does 58 = .ok (.invokevirtual 283, 3) := dk_182 1 27 (dk_at dksX6_does_2 18 rfl rfl)
theorem dX6_does_61 : decode cX6_does 61 = .ok (.ireturn, 1) := dk_172 (dk_at dksX6_does_2 21 rfl rfl)
theorem dX6_does_62 : decode cX6_does 62 = .ok (.aload_n 1, 1) := dk_43 (dk_at dksX6_does_2 22 rfl rfl)
theorem dX6_does_63 : decode cX6_does 63 = .ok (.bipush 7, 2) := dk_16 7 (dk_at dksX6_does_3 0 rfl rfl)
theorem dX6_does_65 : decode cX6_does 65 = .ok (.aload_n 2, 1) := dk_44 (dk_at dksX6_does_3 2 rfl rfl)
theorem dX6_does_66 : decode cX6_does 66 = .ok (.iconst 1, 1) := dk_4 (dk_at dksX6_does_3 3 rfl rfl)
theorem dX6_does_67 : decode cX6_does 67 = .ok (.iaload, 1) := dk_46 (dk_at dksX6_does_3 4 rfl rfl)
theorem dX6_does_68 : decode cX6_does 68 = .ok (.iadd, 1) := dk_96 (dk_at dksX6_does_3 5 rfl rfl)
theorem dX6_does_69 : decode cX6_does 69 = .ok (.aload_n 2, 1) := dk_44 (dk_at dksX6_does_3 6 rfl rfl)
theorem dX6_does_70 : decode cX6_does 70 = .ok (.iconst 0, 1) := dk_3 (dk_at dksX6_does_3 7 rfl rfl)
theorem dX6_does_71 : decode cX6_does 71 = .ok (.iaload, 1) := dk_46 (dk_at dksX6_does_3 8 rfl rfl)
theorem dX6_does_72 : decode cX6_does 72 = .ok (.iconst 3, 1) := dk_6 (dk_at dksX6_does_3 9 rfl rfl)
theorem dX6_does_73 : decode cX6_does 73 = .ok (.if_icmp .ne 7, 3) := dk_160 0 7 (dk_at dksX6_does_3 10 rfl rfl)
theorem dX6_does_76 : decode cX6_does 76 = .ok (.iconst 1, 1) := dk_4 (dk_at dksX6_does_3 13 rfl rfl)
theorem dX6_does_77 : decode cX6_does 77 = .ok (.goto 4, 3) := dk_167 0 4 (dk_at dksX6_does_3 14 rfl rfl)
theorem dX6_does_80 : decode cX6_does 80 = .ok (.iconst 0, 1) := dk_3 (dk_at dksX6_does_3 17 rfl rfl)
theorem dX6_does_81 : decode cX6_does 81 = .ok (.invokestatic 287, 3) := dk_184 1 31 (dk_at dksX6_does_3 18 rfl rfl)
theorem dX6_does_84 : decode cX6_does 84 = .ok (.ireturn, 1) := dk_172 (dk_at dksX6_does_3 21 rfl rfl)
theorem dX6_does_85 : decode cX6_does 85 = .ok (.aload_n 0, 1) := dk_42 (dk_at dksX6_does_3 22 rfl rfl)
theorem dX6_does_86 : decode cX6_does 86 = .ok (.aload_n 2, 1) := dk_44 (dk_at dksX6_does_3 23 rfl rfl)
theorem dX6_does_87 : decode cX6_does 87 = .ok (.iconst 1, 1) := dk_4 (dk_at dksX6_does_4 0 rfl rfl)
theorem dX6_does_88 : decode cX6_does 88 = .ok (.iaload, 1) := dk_46 (dk_at dksX6_does_4 1 rfl rfl)
theorem dX6_does_89 : decode cX6_does 89 = .ok (.invokevirtual 291, 3) := dk_182 1 35 (dk_at dksX6_does_4 2 rfl rfl)
theorem dX6_does_92 : decode cX6_does 92 = .ok (.aload_n 2, 1) := dk_44 (dk_at dksX6_does_4 5 rfl rfl)
theorem dX6_does_93 : decode cX6_does 93 = .ok (.iconst 2, 1) := dk_5 (dk_at dksX6_does_4 6 rfl rfl)
theorem dX6_does_94 : decode cX6_does 94 = .ok (.iaload, 1) := dk_46 (dk_at dksX6_does_4 7 rfl rfl)
theorem dX6_does_95 : decode cX6_does 95 = .ok (.invokestatic 254, 3) := dk_184 0 254 (dk_at dksX6_does_4 8 rfl rfl)
theorem dX6_does_98 : decode cX6_does 98 = .ok (.ifCond .eq 23, 3) := dk_153 0 23 (dk_at dksX6_does_4 11 rfl rfl)
theorem dX6_does_101 : decode cX6_does 101 = .ok (.aload_n 1, 1) := dk_43 (dk_at dksX6_does_4 14 rfl rfl)
theorem dX6_does_102 : decode cX6_does 102 = .ok (.bipush 35, 2) := dk_16 35 (dk_at dksX6_does_4 15 rfl rfl)
theorem dX6_does_104 : decode cX6_does 104 = .ok (.aload_n 2, 1) := dk_44 (dk_at dksX6_does_4 17 rfl rfl)
theorem dX6_does_105 : decode cX6_does 105 = .ok (.iconst 1, 1) := dk_4 (dk_at dksX6_does_4 18 rfl rfl)
theorem dX6_does_106 : decode cX6_does 106 = .ok (.iaload, 1) := dk_46 (dk_at dksX6_does_4 19 rfl rfl)
theorem dX6_does_107 : decode cX6_does 107 = .ok (.iadd, 1) := dk_96 (dk_at dksX6_does_4 20 rfl rfl)
theorem dX6_does_108 : decode cX6_does 108 = .ok (.aload_n 2, 1) := dk_44 (dk_at dksX6_does_4 21 rfl rfl)
theorem dX6_does_109 : decode cX6_does 109 = .ok (.iconst 2, 1) := dk_5 (dk_at dksX6_does_4 22 rfl rfl)
theorem dX6_does_110 : decode cX6_does 110 = .ok (.iaload, 1) := dk_46 (dk_at dksX6_does_4 23 rfl rfl)
theorem dX6_does_111 : decode cX6_does 111 = .ok (.invokestatic 287, 3) := dk_184 1 31 (dk_at dksX6_does_5 0 rfl rfl)
theorem dX6_does_114 : decode cX6_does 114 = .ok (.ifCond .eq 7, 3) := dk_153 0 7 (dk_at dksX6_does_5 3 rfl rfl)
theorem dX6_does_117 : decode cX6_does 117 = .ok (.iconst 1, 1) := dk_4 (dk_at dksX6_does_5 6 rfl rfl)
theorem dX6_does_118 : decode cX6_does 118 = .ok (.goto 4, 3) := dk_167 0 4 (dk_at dksX6_does_5 7 rfl rfl)
theorem dX6_does_121 : decode cX6_does 121 = .ok (.iconst 0, 1) := dk_3 (dk_at dksX6_does_5 10 rfl rfl)
theorem dX6_does_122 : decode cX6_does 122 = .ok (.ireturn, 1) := dk_172 (dk_at dksX6_does_5 11 rfl rfl)
theorem dX6_does_123 : decode cX6_does 123 = .ok (.aload_n 1, 1) := dk_43 (dk_at dksX6_does_5 12 rfl rfl)
theorem dX6_does_124 : decode cX6_does 124 = .ok (.bipush 56, 2) := dk_16 56 (dk_at dksX6_does_5 13 rfl rfl)
theorem dX6_does_126 : decode cX6_does 126 = .ok (.iaload, 1) := dk_46 (dk_at dksX6_does_5 15 rfl rfl)
theorem dX6_does_127 : decode cX6_does 127 = .ok (.sipush 400, 3) := dk_17 1 144 (dk_at dksX6_does_5 16 rfl rfl)
theorem dX6_does_130 : decode cX6_does 130 = .ok (.if_icmp .lt 5, 3) := dk_161 0 5 (dk_at dksX6_does_5 19 rfl rfl)
theorem dX6_does_133 : decode cX6_does 133 = .ok (.iconst 0, 1) := dk_3 (dk_at dksX6_does_5 22 rfl rfl)
theorem dX6_does_134 : decode cX6_does 134 = .ok (.ireturn, 1) := dk_172 (dk_at dksX6_does_5 23 rfl rfl)
theorem dX6_does_135 : decode cX6_does 135 = .ok (.aload_n 0, 1) := dk_42 (dk_at dksX6_does_6 0 rfl rfl)
theorem dX6_does_136 : decode cX6_does 136 = .ok (.aload_n 1, 1) := dk_43 (dk_at dksX6_does_6 1 rfl rfl)
theorem dX6_does_137 : decode cX6_does 137 = .ok (.invokevirtual 294, 3) := dk_182 1 38 (dk_at dksX6_does_6 2 rfl rfl)
theorem dX6_does_140 : decode cX6_does 140 = .ok (.iconst 1, 1) := dk_4 (dk_at dksX6_does_6 5 rfl rfl)
theorem dX6_does_141 : decode cX6_does 141 = .ok (.ireturn, 1) := dk_172 (dk_at dksX6_does_6 6 rfl rfl)
abbrev cX6_sings : ByteArray := prog_34_method_50_code
def yX6_sings : MethodName := ⟨RX6, "sings", "([II)Z"⟩
def dkwX6_sings_2 : List UInt8 := [79, 4, 172]
abbrev dktX6_sings_2 : List UInt8 := dkwX6_sings_2 ++ []
def dkwX6_sings_1 : List UInt8 := [182, 1, 9, 100, 79, 43, 16, 14, 29, 96, 92, 46, 4, 96, 79, 43, 16, 28, 29, 96, 92, 46, 4, 96]
abbrev dktX6_sings_1 : List UInt8 := dkwX6_sings_1 ++ dktX6_sings_2
def dkwX6_sings_0 : List UInt8 := [42, 43, 28, 182, 1, 13, 62, 29, 2, 160, 0, 5, 3, 172, 43, 3, 29, 96, 92, 46, 42, 43, 28, 29]
abbrev dktX6_sings_0 : List UInt8 := dkwX6_sings_0 ++ dktX6_sings_1
theorem dksX6_sings_0 : cX6_sings.data.toList.drop 0 = dktX6_sings_0 := by decide +kernel
theorem dksX6_sings_1 : cX6_sings.data.toList.drop 24 = dktX6_sings_1 := dk_seg dksX6_sings_0 24 rfl rfl
theorem dksX6_sings_2 : cX6_sings.data.toList.drop 48 = dktX6_sings_2 := dk_seg dksX6_sings_1 24 rfl rfl
theorem dX6_sings_0 : decode cX6_sings 0 = .ok (.aload_n 0, 1) := dk_42 (dk_at dksX6_sings_0 0 rfl rfl)
theorem dX6_sings_1 : decode cX6_sings 1 = .ok (.aload_n 1, 1) := dk_43 (dk_at dksX6_sings_0 1 rfl rfl)
theorem dX6_sings_2 : decode cX6_sings 2 = .ok (.iload_n 2, 1) := dk_28 (dk_at dksX6_sings_0 2 rfl rfl)
theorem dX6_sings_3 : decode cX6_sings 3 = .ok (.invokevirtual 269, 3) := dk_182 1 13 (dk_at dksX6_sings_0 3 rfl rfl)
theorem dX6_sings_6 : decode cX6_sings 6 = .ok (.istore_n 3, 1) := dk_62 (dk_at dksX6_sings_0 6 rfl rfl)
theorem dX6_sings_7 : decode cX6_sings 7 = .ok (.iload_n 3, 1) := dk_29 (dk_at dksX6_sings_0 7 rfl rfl)
theorem dX6_sings_8 : decode cX6_sings 8 = .ok (.iconst (-1), 1) := dk_2 (dk_at dksX6_sings_0 8 rfl rfl)
theorem dX6_sings_9 : decode cX6_sings 9 = .ok (.if_icmp .ne 5, 3) := dk_160 0 5 (dk_at dksX6_sings_0 9 rfl rfl)
theorem dX6_sings_12 : decode cX6_sings 12 = .ok (.iconst 0, 1) := dk_3 (dk_at dksX6_sings_0 12 rfl rfl)
theorem dX6_sings_13 : decode cX6_sings 13 = .ok (.ireturn, 1) := dk_172 (dk_at dksX6_sings_0 13 rfl rfl)
theorem dX6_sings_14 : decode cX6_sings 14 = .ok (.aload_n 1, 1) := dk_43 (dk_at dksX6_sings_0 14 rfl rfl)
theorem dX6_sings_15 : decode cX6_sings 15 = .ok (.iconst 0, 1) := dk_3 (dk_at dksX6_sings_0 15 rfl rfl)
theorem dX6_sings_16 : decode cX6_sings 16 = .ok (.iload_n 3, 1) := dk_29 (dk_at dksX6_sings_0 16 rfl rfl)
theorem dX6_sings_17 : decode cX6_sings 17 = .ok (.iadd, 1) := dk_96 (dk_at dksX6_sings_0 17 rfl rfl)
theorem dX6_sings_18 : decode cX6_sings 18 = .ok (.dup2, 1) := dk_92 (dk_at dksX6_sings_0 18 rfl rfl)
theorem dX6_sings_19 : decode cX6_sings 19 = .ok (.iaload, 1) := dk_46 (dk_at dksX6_sings_0 19 rfl rfl)
theorem dX6_sings_20 : decode cX6_sings 20 = .ok (.aload_n 0, 1) := dk_42 (dk_at dksX6_sings_0 20 rfl rfl)
theorem dX6_sings_21 : decode cX6_sings 21 = .ok (.aload_n 1, 1) := dk_43 (dk_at dksX6_sings_0 21 rfl rfl)
theorem dX6_sings_22 : decode cX6_sings 22 = .ok (.iload_n 2, 1) := dk_28 (dk_at dksX6_sings_0 22 rfl rfl)
theorem dX6_sings_23 : decode cX6_sings 23 = .ok (.iload_n 3, 1) := dk_29 (dk_at dksX6_sings_0 23 rfl rfl)
theorem dX6_sings_24 : decode cX6_sings 24 = .ok (.invokevirtual 265, 3) := dk_182 1 9 (dk_at dksX6_sings_1 0 rfl rfl)
theorem dX6_sings_27 : decode cX6_sings 27 = .ok (.isub, 1) := dk_100 (dk_at dksX6_sings_1 3 rfl rfl)
theorem dX6_sings_28 : decode cX6_sings 28 = .ok (.iastore, 1) := dk_79 (dk_at dksX6_sings_1 4 rfl rfl)
theorem dX6_sings_29 : decode cX6_sings 29 = .ok (.aload_n 1, 1) := dk_43 (dk_at dksX6_sings_1 5 rfl rfl)
theorem dX6_sings_30 : decode cX6_sings 30 = .ok (.bipush 14, 2) := dk_16 14 (dk_at dksX6_sings_1 6 rfl rfl)
theorem dX6_sings_32 : decode cX6_sings 32 = .ok (.iload_n 3, 1) := dk_29 (dk_at dksX6_sings_1 8 rfl rfl)
theorem dX6_sings_33 : decode cX6_sings 33 = .ok (.iadd, 1) := dk_96 (dk_at dksX6_sings_1 9 rfl rfl)
theorem dX6_sings_34 : decode cX6_sings 34 = .ok (.dup2, 1) := dk_92 (dk_at dksX6_sings_1 10 rfl rfl)
theorem dX6_sings_35 : decode cX6_sings 35 = .ok (.iaload, 1) := dk_46 (dk_at dksX6_sings_1 11 rfl rfl)
theorem dX6_sings_36 : decode cX6_sings 36 = .ok (.iconst 1, 1) := dk_4 (dk_at dksX6_sings_1 12 rfl rfl)
theorem dX6_sings_37 : decode cX6_sings 37 = .ok (.iadd, 1) := dk_96 (dk_at dksX6_sings_1 13 rfl rfl)
theorem dX6_sings_38 : decode cX6_sings 38 = .ok (.iastore, 1) := dk_79 (dk_at dksX6_sings_1 14 rfl rfl)
theorem dX6_sings_39 : decode cX6_sings 39 = .ok (.aload_n 1, 1) := dk_43 (dk_at dksX6_sings_1 15 rfl rfl)
theorem dX6_sings_40 : decode cX6_sings 40 = .ok (.bipush 28, 2) := dk_16 28 (dk_at dksX6_sings_1 16 rfl rfl)
theorem dX6_sings_42 : decode cX6_sings 42 = .ok (.iload_n 3, 1) := dk_29 (dk_at dksX6_sings_1 18 rfl rfl)
theorem dX6_sings_43 : decode cX6_sings 43 = .ok (.iadd, 1) := dk_96 (dk_at dksX6_sings_1 19 rfl rfl)
theorem dX6_sings_44 : decode cX6_sings 44 = .ok (.dup2, 1) := dk_92 (dk_at dksX6_sings_1 20 rfl rfl)
theorem dX6_sings_45 : decode cX6_sings 45 = .ok (.iaload, 1) := dk_46 (dk_at dksX6_sings_1 21 rfl rfl)
theorem dX6_sings_46 : decode cX6_sings 46 = .ok (.iconst 1, 1) := dk_4 (dk_at dksX6_sings_1 22 rfl rfl)
theorem dX6_sings_47 : decode cX6_sings 47 = .ok (.iadd, 1) := dk_96 (dk_at dksX6_sings_1 23 rfl rfl)
theorem dX6_sings_48 : decode cX6_sings 48 = .ok (.iastore, 1) := dk_79 (dk_at dksX6_sings_2 0 rfl rfl)
theorem dX6_sings_49 : decode cX6_sings 49 = .ok (.iconst 1, 1) := dk_4 (dk_at dksX6_sings_2 1 rfl rfl)
theorem dX6_sings_50 : decode cX6_sings 50 = .ok (.ireturn, 1) := dk_172 (dk_at dksX6_sings_2 2 rfl rfl)
abbrev cX6_sungBy : ByteArray := prog_34_method_49_code
def yX6_sungBy : MethodName := ⟨RX6, "sungBy", "([II)I"⟩
def dkwX6_sungBy_2 : List UInt8 := [96, 46, 163, 0, 5, 29, 172, 132, 3, 1, 167, 255, 200, 2, 172]
abbrev dktX6_sungBy_2 : List UInt8 := dkwX6_sungBy_2 ++ []
def dkwX6_sungBy_1 : List UInt8 := [96, 46, 160, 0, 29, 43, 16, 7, 29, 96, 46, 154, 0, 20, 42, 43, 28, 29, 182, 1, 9, 43, 3, 29]
abbrev dktX6_sungBy_1 : List UInt8 := dkwX6_sungBy_1 ++ dktX6_sungBy_2
def dkwX6_sungBy_0 : List UInt8 := [3, 62, 29, 42, 180, 0, 23, 3, 46, 162, 0, 52, 42, 180, 0, 31, 29, 50, 3, 46, 43, 16, 35, 28]
abbrev dktX6_sungBy_0 : List UInt8 := dkwX6_sungBy_0 ++ dktX6_sungBy_1
theorem dksX6_sungBy_0 : cX6_sungBy.data.toList.drop 0 = dktX6_sungBy_0 := by decide +kernel
theorem dksX6_sungBy_1 : cX6_sungBy.data.toList.drop 24 = dktX6_sungBy_1 := dk_seg dksX6_sungBy_0 24 rfl rfl
theorem dksX6_sungBy_2 : cX6_sungBy.data.toList.drop 48 = dktX6_sungBy_2 := dk_seg dksX6_sungBy_1 24 rfl rfl
theorem dX6_sungBy_0 : decode cX6_sungBy 0 = .ok (.iconst 0, 1) := dk_3 (dk_at dksX6_sungBy_0 0 rfl rfl)
theorem dX6_sungBy_1 : decode cX6_sungBy 1 = .ok (.istore_n 3, 1) := dk_62 (dk_at dksX6_sungBy_0 1 rfl rfl)
theorem dX6_sungBy_2 : decode cX6_sungBy 2 = .ok (.iload_n 3, 1) := dk_29 (dk_at dksX6_sungBy_0 2 rfl rfl)
theorem dX6_sungBy_3 : decode cX6_sungBy 3 = .ok (.aload_n 0, 1) := dk_42 (dk_at dksX6_sungBy_0 3 rfl rfl)
theorem dX6_sungBy_4 : decode cX6_sungBy 4 = .ok (.getfield 23, 3) := dk_180 0 23 (dk_at dksX6_sungBy_0 4 rfl rfl)
theorem dX6_sungBy_7 : decode cX6_sungBy 7 = .ok (.iconst 0, 1) := dk_3 (dk_at dksX6_sungBy_0 7 rfl rfl)
theorem dX6_sungBy_8 : decode cX6_sungBy 8 = .ok (.iaload, 1) := dk_46 (dk_at dksX6_sungBy_0 8 rfl rfl)
theorem dX6_sungBy_9 : decode cX6_sungBy 9 = .ok (.if_icmp .ge 52, 3) := dk_162 0 52 (dk_at dksX6_sungBy_0 9 rfl rfl)
theorem dX6_sungBy_12 : decode cX6_sungBy 12 = .ok (.aload_n 0, 1) := dk_42 (dk_at dksX6_sungBy_0 12 rfl rfl)
theorem dX6_sungBy_13 : decode cX6_sungBy 13 = .ok (.getfield 31, 3) := dk_180 0 31 (dk_at dksX6_sungBy_0 13 rfl rfl)
theorem dX6_sungBy_16 : decode cX6_sungBy 16 = .ok (.iload_n 3, 1) := dk_29 (dk_at dksX6_sungBy_0 16 rfl rfl)
theorem dX6_sungBy_17 : decode cX6_sungBy 17 = .ok (.aaload, 1) := dk_50 (dk_at dksX6_sungBy_0 17 rfl rfl)
theorem dX6_sungBy_18 : decode cX6_sungBy 18 = .ok (.iconst 0, 1) := dk_3 (dk_at dksX6_sungBy_0 18 rfl rfl)
theorem dX6_sungBy_19 : decode cX6_sungBy 19 = .ok (.iaload, 1) := dk_46 (dk_at dksX6_sungBy_0 19 rfl rfl)
theorem dX6_sungBy_20 : decode cX6_sungBy 20 = .ok (.aload_n 1, 1) := dk_43 (dk_at dksX6_sungBy_0 20 rfl rfl)
theorem dX6_sungBy_21 : decode cX6_sungBy 21 = .ok (.bipush 35, 2) := dk_16 35 (dk_at dksX6_sungBy_0 21 rfl rfl)
theorem dX6_sungBy_23 : decode cX6_sungBy 23 = .ok (.iload_n 2, 1) := dk_28 (dk_at dksX6_sungBy_0 23 rfl rfl)
theorem dX6_sungBy_24 : decode cX6_sungBy 24 = .ok (.iadd, 1) := dk_96 (dk_at dksX6_sungBy_1 0 rfl rfl)
theorem dX6_sungBy_25 : decode cX6_sungBy 25 = .ok (.iaload, 1) := dk_46 (dk_at dksX6_sungBy_1 1 rfl rfl)
theorem dX6_sungBy_26 : decode cX6_sungBy 26 = .ok (.if_icmp .ne 29, 3) := dk_160 0 29 (dk_at dksX6_sungBy_1 2 rfl rfl)
theorem dX6_sungBy_29 : decode cX6_sungBy 29 = .ok (.aload_n 1, 1) := dk_43 (dk_at dksX6_sungBy_1 5 rfl rfl)
theorem dX6_sungBy_30 : decode cX6_sungBy 30 = .ok (.bipush 7, 2) := dk_16 7 (dk_at dksX6_sungBy_1 6 rfl rfl)
theorem dX6_sungBy_32 : decode cX6_sungBy 32 = .ok (.iload_n 3, 1) := dk_29 (dk_at dksX6_sungBy_1 8 rfl rfl)
theorem dX6_sungBy_33 : decode cX6_sungBy 33 = .ok (.iadd, 1) := dk_96 (dk_at dksX6_sungBy_1 9 rfl rfl)
theorem dX6_sungBy_34 : decode cX6_sungBy 34 = .ok (.iaload, 1) := dk_46 (dk_at dksX6_sungBy_1 10 rfl rfl)
theorem dX6_sungBy_35 : decode cX6_sungBy 35 = .ok (.ifCond .ne 20, 3) := dk_154 0 20 (dk_at dksX6_sungBy_1 11 rfl rfl)
theorem dX6_sungBy_38 : decode cX6_sungBy 38 = .ok (.aload_n 0, 1) := dk_42 (dk_at dksX6_sungBy_1 14 rfl rfl)
theorem dX6_sungBy_39 : decode cX6_sungBy 39 = .ok (.aload_n 1, 1) := dk_43 (dk_at dksX6_sungBy_1 15 rfl rfl)
theorem dX6_sungBy_40 : decode cX6_sungBy 40 = .ok (.iload_n 2, 1) := dk_28 (dk_at dksX6_sungBy_1 16 rfl rfl)
theorem dX6_sungBy_41 : decode cX6_sungBy 41 = .ok (.iload_n 3, 1) := dk_29 (dk_at dksX6_sungBy_1 17 rfl rfl)
theorem dX6_sungBy_42 : decode cX6_sungBy 42 = .ok (.invokevirtual 265, 3) := dk_182 1 9 (dk_at dksX6_sungBy_1 18 rfl rfl)
theorem dX6_sungBy_45 : decode cX6_sungBy 45 = .ok (.aload_n 1, 1) := dk_43 (dk_at dksX6_sungBy_1 21 rfl rfl)
theorem dX6_sungBy_46 : decode cX6_sungBy 46 = .ok (.iconst 0, 1) := dk_3 (dk_at dksX6_sungBy_1 22 rfl rfl)
theorem dX6_sungBy_47 : decode cX6_sungBy 47 = .ok (.iload_n 3, 1) := dk_29 (dk_at dksX6_sungBy_1 23 rfl rfl)
theorem dX6_sungBy_48 : decode cX6_sungBy 48 = .ok (.iadd, 1) := dk_96 (dk_at dksX6_sungBy_2 0 rfl rfl)
theorem dX6_sungBy_49 : decode cX6_sungBy 49 = .ok (.iaload, 1) := dk_46 (dk_at dksX6_sungBy_2 1 rfl rfl)
theorem dX6_sungBy_50 : decode cX6_sungBy 50 = .ok (.if_icmp .gt 5, 3) := dk_163 0 5 (dk_at dksX6_sungBy_2 2 rfl rfl)
theorem dX6_sungBy_53 : decode cX6_sungBy 53 = .ok (.iload_n 3, 1) := dk_29 (dk_at dksX6_sungBy_2 5 rfl rfl)
theorem dX6_sungBy_54 : decode cX6_sungBy 54 = .ok (.ireturn, 1) := dk_172 (dk_at dksX6_sungBy_2 6 rfl rfl)
theorem dX6_sungBy_55 : decode cX6_sungBy 55 = .ok (.iinc 3 1, 3) := dk_132 3 1 (dk_at dksX6_sungBy_2 7 rfl rfl)
theorem dX6_sungBy_58 : decode cX6_sungBy 58 = .ok (.goto (-56), 3) := dk_167 255 200 (dk_at dksX6_sungBy_2 10 rfl rfl)
theorem dX6_sungBy_61 : decode cX6_sungBy 61 = .ok (.iconst (-1), 1) := dk_2 (dk_at dksX6_sungBy_2 13 rfl rfl)
theorem dX6_sungBy_62 : decode cX6_sungBy 62 = .ok (.ireturn, 1) := dk_172 (dk_at dksX6_sungBy_2 14 rfl rfl)
abbrev cX6_breathOf : ByteArray := prog_34_method_47_code
def yX6_breathOf : MethodName := ⟨RX6, "breathOf", "([III)I"⟩
def dkwX6_breathOf_1 : List UInt8 := [16, 14, 29, 96, 46, 28, 43, 16, 35, 28, 96, 46, 43, 16, 56, 46, 29, 182, 1, 5, 172]
abbrev dktX6_breathOf_1 : List UInt8 := dkwX6_breathOf_1 ++ []
def dkwX6_breathOf_0 : List UInt8 := [42, 42, 180, 0, 37, 28, 50, 4, 46, 42, 180, 0, 31, 29, 50, 4, 46, 43, 3, 29, 96, 46, 43]
abbrev dktX6_breathOf_0 : List UInt8 := dkwX6_breathOf_0 ++ dktX6_breathOf_1
theorem dksX6_breathOf_0 : cX6_breathOf.data.toList.drop 0 = dktX6_breathOf_0 := by decide +kernel
theorem dksX6_breathOf_1 : cX6_breathOf.data.toList.drop 23 = dktX6_breathOf_1 := dk_seg dksX6_breathOf_0 23 rfl rfl
theorem dX6_breathOf_0 : decode cX6_breathOf 0 = .ok (.aload_n 0, 1) := dk_42 (dk_at dksX6_breathOf_0 0 rfl rfl)
theorem dX6_breathOf_1 : decode cX6_breathOf 1 = .ok (.aload_n 0, 1) := dk_42 (dk_at dksX6_breathOf_0 1 rfl rfl)
theorem dX6_breathOf_2 : decode cX6_breathOf 2 = .ok (.getfield 37, 3) := dk_180 0 37 (dk_at dksX6_breathOf_0 2 rfl rfl)
theorem dX6_breathOf_5 : decode cX6_breathOf 5 = .ok (.iload_n 2, 1) := dk_28 (dk_at dksX6_breathOf_0 5 rfl rfl)
theorem dX6_breathOf_6 : decode cX6_breathOf 6 = .ok (.aaload, 1) := dk_50 (dk_at dksX6_breathOf_0 6 rfl rfl)
theorem dX6_breathOf_7 : decode cX6_breathOf 7 = .ok (.iconst 1, 1) := dk_4 (dk_at dksX6_breathOf_0 7 rfl rfl)
theorem dX6_breathOf_8 : decode cX6_breathOf 8 = .ok (.iaload, 1) := dk_46 (dk_at dksX6_breathOf_0 8 rfl rfl)
theorem dX6_breathOf_9 : decode cX6_breathOf 9 = .ok (.aload_n 0, 1) := dk_42 (dk_at dksX6_breathOf_0 9 rfl rfl)
theorem dX6_breathOf_10 : decode cX6_breathOf 10 = .ok (.getfield 31, 3) := dk_180 0 31 (dk_at dksX6_breathOf_0 10 rfl rfl)
theorem dX6_breathOf_13 : decode cX6_breathOf 13 = .ok (.iload_n 3, 1) := dk_29 (dk_at dksX6_breathOf_0 13 rfl rfl)
theorem dX6_breathOf_14 : decode cX6_breathOf 14 = .ok (.aaload, 1) := dk_50 (dk_at dksX6_breathOf_0 14 rfl rfl)
theorem dX6_breathOf_15 : decode cX6_breathOf 15 = .ok (.iconst 1, 1) := dk_4 (dk_at dksX6_breathOf_0 15 rfl rfl)
theorem dX6_breathOf_16 : decode cX6_breathOf 16 = .ok (.iaload, 1) := dk_46 (dk_at dksX6_breathOf_0 16 rfl rfl)
theorem dX6_breathOf_17 : decode cX6_breathOf 17 = .ok (.aload_n 1, 1) := dk_43 (dk_at dksX6_breathOf_0 17 rfl rfl)
theorem dX6_breathOf_18 : decode cX6_breathOf 18 = .ok (.iconst 0, 1) := dk_3 (dk_at dksX6_breathOf_0 18 rfl rfl)
theorem dX6_breathOf_19 : decode cX6_breathOf 19 = .ok (.iload_n 3, 1) := dk_29 (dk_at dksX6_breathOf_0 19 rfl rfl)
theorem dX6_breathOf_20 : decode cX6_breathOf 20 = .ok (.iadd, 1) := dk_96 (dk_at dksX6_breathOf_0 20 rfl rfl)
theorem dX6_breathOf_21 : decode cX6_breathOf 21 = .ok (.iaload, 1) := dk_46 (dk_at dksX6_breathOf_0 21 rfl rfl)
theorem dX6_breathOf_22 : decode cX6_breathOf 22 = .ok (.aload_n 1, 1) := dk_43 (dk_at dksX6_breathOf_0 22 rfl rfl)
theorem dX6_breathOf_23 : decode cX6_breathOf 23 = .ok (.bipush 14, 2) := dk_16 14 (dk_at dksX6_breathOf_1 0 rfl rfl)
theorem dX6_breathOf_25 : decode cX6_breathOf 25 = .ok (.iload_n 3, 1) := dk_29 (dk_at dksX6_breathOf_1 2 rfl rfl)
theorem dX6_breathOf_26 : decode cX6_breathOf 26 = .ok (.iadd, 1) := dk_96 (dk_at dksX6_breathOf_1 3 rfl rfl)
theorem dX6_breathOf_27 : decode cX6_breathOf 27 = .ok (.iaload, 1) := dk_46 (dk_at dksX6_breathOf_1 4 rfl rfl)
theorem dX6_breathOf_28 : decode cX6_breathOf 28 = .ok (.iload_n 2, 1) := dk_28 (dk_at dksX6_breathOf_1 5 rfl rfl)
theorem dX6_breathOf_29 : decode cX6_breathOf 29 = .ok (.aload_n 1, 1) := dk_43 (dk_at dksX6_breathOf_1 6 rfl rfl)
theorem dX6_breathOf_30 : decode cX6_breathOf 30 = .ok (.bipush 35, 2) := dk_16 35 (dk_at dksX6_breathOf_1 7 rfl rfl)
theorem dX6_breathOf_32 : decode cX6_breathOf 32 = .ok (.iload_n 2, 1) := dk_28 (dk_at dksX6_breathOf_1 9 rfl rfl)
theorem dX6_breathOf_33 : decode cX6_breathOf 33 = .ok (.iadd, 1) := dk_96 (dk_at dksX6_breathOf_1 10 rfl rfl)
theorem dX6_breathOf_34 : decode cX6_breathOf 34 = .ok (.iaload, 1) := dk_46 (dk_at dksX6_breathOf_1 11 rfl rfl)
theorem dX6_breathOf_35 : decode cX6_breathOf 35 = .ok (.aload_n 1, 1) := dk_43 (dk_at dksX6_breathOf_1 12 rfl rfl)
theorem dX6_breathOf_36 : decode cX6_breathOf 36 = .ok (.bipush 56, 2) := dk_16 56 (dk_at dksX6_breathOf_1 13 rfl rfl)
theorem dX6_breathOf_38 : decode cX6_breathOf 38 = .ok (.iaload, 1) := dk_46 (dk_at dksX6_breathOf_1 15 rfl rfl)
theorem dX6_breathOf_39 : decode cX6_breathOf 39 = .ok (.iload_n 3, 1) := dk_29 (dk_at dksX6_breathOf_1 16 rfl rfl)
theorem dX6_breathOf_40 : decode cX6_breathOf 40 = .ok (.invokevirtual 261, 3) := dk_182 1 5 (dk_at dksX6_breathOf_1 17 rfl rfl)
theorem dX6_breathOf_43 : decode cX6_breathOf 43 = .ok (.ireturn, 1) := dk_172 (dk_at dksX6_breathOf_1 20 rfl rfl)
abbrev cX6_breathBy : ByteArray := prog_34_method_46_code
def yX6_breathBy : MethodName := ⟨RX6, "breathBy", "(IIIIIIII)I"⟩
def dkwX6_breathBy_2 : List UInt8 := [180, 0, 61, 16, 6, 21, 7, 79, 42, 180, 0, 61, 16, 7, 21, 8, 79, 42, 182, 1, 2, 172]
abbrev dktX6_breathBy_2 : List UInt8 := dkwX6_breathBy_2 ++ []
def dkwX6_breathBy_1 : List UInt8 := [180, 0, 61, 6, 21, 4, 79, 42, 180, 0, 61, 7, 21, 5, 79, 42, 180, 0, 61, 8, 21, 6, 79, 42]
abbrev dktX6_breathBy_1 : List UInt8 := dkwX6_breathBy_1 ++ dktX6_breathBy_2
def dkwX6_breathBy_0 : List UInt8 := [42, 180, 0, 61, 3, 27, 79, 42, 180, 0, 61, 4, 28, 79, 42, 180, 0, 61, 5, 29, 79, 42]
abbrev dktX6_breathBy_0 : List UInt8 := dkwX6_breathBy_0 ++ dktX6_breathBy_1
theorem dksX6_breathBy_0 : cX6_breathBy.data.toList.drop 0 = dktX6_breathBy_0 := by decide +kernel
theorem dksX6_breathBy_1 : cX6_breathBy.data.toList.drop 22 = dktX6_breathBy_1 := dk_seg dksX6_breathBy_0 22 rfl rfl
theorem dksX6_breathBy_2 : cX6_breathBy.data.toList.drop 46 = dktX6_breathBy_2 := dk_seg dksX6_breathBy_1 24 rfl rfl
theorem dX6_breathBy_0 : decode cX6_breathBy 0 = .ok (.aload_n 0, 1) := dk_42 (dk_at dksX6_breathBy_0 0 rfl rfl)
theorem dX6_breathBy_1 : decode cX6_breathBy 1 = .ok (.getfield 61, 3) := dk_180 0 61 (dk_at dksX6_breathBy_0 1 rfl rfl)
theorem dX6_breathBy_4 : decode cX6_breathBy 4 = .ok (.iconst 0, 1) := dk_3 (dk_at dksX6_breathBy_0 4 rfl rfl)
theorem dX6_breathBy_5 : decode cX6_breathBy 5 = .ok (.iload_n 1, 1) := dk_27 (dk_at dksX6_breathBy_0 5 rfl rfl)
theorem dX6_breathBy_6 : decode cX6_breathBy 6 = .ok (.iastore, 1) := dk_79 (dk_at dksX6_breathBy_0 6 rfl rfl)
theorem dX6_breathBy_7 : decode cX6_breathBy 7 = .ok (.aload_n 0, 1) := dk_42 (dk_at dksX6_breathBy_0 7 rfl rfl)
theorem dX6_breathBy_8 : decode cX6_breathBy 8 = .ok (.getfield 61, 3) := dk_180 0 61 (dk_at dksX6_breathBy_0 8 rfl rfl)
theorem dX6_breathBy_11 : decode cX6_breathBy 11 = .ok (.iconst 1, 1) := dk_4 (dk_at dksX6_breathBy_0 11 rfl rfl)
theorem dX6_breathBy_12 : decode cX6_breathBy 12 = .ok (.iload_n 2, 1) := dk_28 (dk_at dksX6_breathBy_0 12 rfl rfl)
theorem dX6_breathBy_13 : decode cX6_breathBy 13 = .ok (.iastore, 1) := dk_79 (dk_at dksX6_breathBy_0 13 rfl rfl)
theorem dX6_breathBy_14 : decode cX6_breathBy 14 = .ok (.aload_n 0, 1) := dk_42 (dk_at dksX6_breathBy_0 14 rfl rfl)
theorem dX6_breathBy_15 : decode cX6_breathBy 15 = .ok (.getfield 61, 3) := dk_180 0 61 (dk_at dksX6_breathBy_0 15 rfl rfl)
theorem dX6_breathBy_18 : decode cX6_breathBy 18 = .ok (.iconst 2, 1) := dk_5 (dk_at dksX6_breathBy_0 18 rfl rfl)
theorem dX6_breathBy_19 : decode cX6_breathBy 19 = .ok (.iload_n 3, 1) := dk_29 (dk_at dksX6_breathBy_0 19 rfl rfl)
theorem dX6_breathBy_20 : decode cX6_breathBy 20 = .ok (.iastore, 1) := dk_79 (dk_at dksX6_breathBy_0 20 rfl rfl)
theorem dX6_breathBy_21 : decode cX6_breathBy 21 = .ok (.aload_n 0, 1) := dk_42 (dk_at dksX6_breathBy_0 21 rfl rfl)
theorem dX6_breathBy_22 : decode cX6_breathBy 22 = .ok (.getfield 61, 3) := dk_180 0 61 (dk_at dksX6_breathBy_1 0 rfl rfl)
theorem dX6_breathBy_25 : decode cX6_breathBy 25 = .ok (.iconst 3, 1) := dk_6 (dk_at dksX6_breathBy_1 3 rfl rfl)
theorem dX6_breathBy_26 : decode cX6_breathBy 26 = .ok (.iload 4, 2) := dk_21 4 (dk_at dksX6_breathBy_1 4 rfl rfl)
theorem dX6_breathBy_28 : decode cX6_breathBy 28 = .ok (.iastore, 1) := dk_79 (dk_at dksX6_breathBy_1 6 rfl rfl)
theorem dX6_breathBy_29 : decode cX6_breathBy 29 = .ok (.aload_n 0, 1) := dk_42 (dk_at dksX6_breathBy_1 7 rfl rfl)
theorem dX6_breathBy_30 : decode cX6_breathBy 30 = .ok (.getfield 61, 3) := dk_180 0 61 (dk_at dksX6_breathBy_1 8 rfl rfl)
theorem dX6_breathBy_33 : decode cX6_breathBy 33 = .ok (.iconst 4, 1) := dk_7 (dk_at dksX6_breathBy_1 11 rfl rfl)
theorem dX6_breathBy_34 : decode cX6_breathBy 34 = .ok (.iload 5, 2) := dk_21 5 (dk_at dksX6_breathBy_1 12 rfl rfl)
theorem dX6_breathBy_36 : decode cX6_breathBy 36 = .ok (.iastore, 1) := dk_79 (dk_at dksX6_breathBy_1 14 rfl rfl)
theorem dX6_breathBy_37 : decode cX6_breathBy 37 = .ok (.aload_n 0, 1) := dk_42 (dk_at dksX6_breathBy_1 15 rfl rfl)
theorem dX6_breathBy_38 : decode cX6_breathBy 38 = .ok (.getfield 61, 3) := dk_180 0 61 (dk_at dksX6_breathBy_1 16 rfl rfl)
theorem dX6_breathBy_41 : decode cX6_breathBy 41 = .ok (.iconst 5, 1) := dk_8 (dk_at dksX6_breathBy_1 19 rfl rfl)
theorem dX6_breathBy_42 : decode cX6_breathBy 42 = .ok (.iload 6, 2) := dk_21 6 (dk_at dksX6_breathBy_1 20 rfl rfl)
theorem dX6_breathBy_44 : decode cX6_breathBy 44 = .ok (.iastore, 1) := dk_79 (dk_at dksX6_breathBy_1 22 rfl rfl)
theorem dX6_breathBy_45 : decode cX6_breathBy 45 = .ok (.aload_n 0, 1) := dk_42 (dk_at dksX6_breathBy_1 23 rfl rfl)
theorem dX6_breathBy_46 : decode cX6_breathBy 46 = .ok (.getfield 61, 3) := dk_180 0 61 (dk_at dksX6_breathBy_2 0 rfl rfl)
theorem dX6_breathBy_49 : decode cX6_breathBy 49 = .ok (.bipush 6, 2) := dk_16 6 (dk_at dksX6_breathBy_2 3 rfl rfl)
theorem dX6_breathBy_51 : decode cX6_breathBy 51 = .ok (.iload 7, 2) := dk_21 7 (dk_at dksX6_breathBy_2 5 rfl rfl)
theorem dX6_breathBy_53 : decode cX6_breathBy 53 = .ok (.iastore, 1) := dk_79 (dk_at dksX6_breathBy_2 7 rfl rfl)
theorem dX6_breathBy_54 : decode cX6_breathBy 54 = .ok (.aload_n 0, 1) := dk_42 (dk_at dksX6_breathBy_2 8 rfl rfl)
theorem dX6_breathBy_55 : decode cX6_breathBy 55 = .ok (.getfield 61, 3) := dk_180 0 61 (dk_at dksX6_breathBy_2 9 rfl rfl)
theorem dX6_breathBy_58 : decode cX6_breathBy 58 = .ok (.bipush 7, 2) := dk_16 7 (dk_at dksX6_breathBy_2 12 rfl rfl)
theorem dX6_breathBy_60 : decode cX6_breathBy 60 = .ok (.iload 8, 2) := dk_21 8 (dk_at dksX6_breathBy_2 14 rfl rfl)
theorem dX6_breathBy_62 : decode cX6_breathBy 62 = .ok (.iastore, 1) := dk_79 (dk_at dksX6_breathBy_2 16 rfl rfl)
theorem dX6_breathBy_63 : decode cX6_breathBy 63 = .ok (.aload_n 0, 1) := dk_42 (dk_at dksX6_breathBy_2 17 rfl rfl)
theorem dX6_breathBy_64 : decode cX6_breathBy 64 = .ok (.invokevirtual 258, 3) := dk_182 1 2 (dk_at dksX6_breathBy_2 18 rfl rfl)
theorem dX6_breathBy_67 : decode cX6_breathBy 67 = .ok (.ireturn, 1) := dk_172 (dk_at dksX6_breathBy_2 21 rfl rfl)
abbrev cX6_byLaw : ByteArray := prog_34_method_41_code
def yX6_byLaw : MethodName := ⟨RX6, "byLaw", "()I"⟩
def dkwX6_byLaw_5 : List UInt8 := [79, 132, 2, 1, 167, 255, 150, 16, 30, 3, 42, 180, 0, 58, 3, 46, 184, 0, 238, 184, 0, 235, 172]
abbrev dktX6_byLaw_5 : List UInt8 := dkwX6_byLaw_5 ++ []
def dkwX6_byLaw_4 : List UInt8 := [180, 0, 46, 28, 50, 3, 46, 42, 180, 0, 58, 27, 4, 100, 46, 42, 180, 0, 58, 27, 46, 184, 0, 241]
abbrev dktX6_byLaw_4 : List UInt8 := dkwX6_byLaw_4 ++ dktX6_byLaw_5
def dkwX6_byLaw_3 : List UInt8 := [50, 4, 46, 46, 79, 132, 1, 1, 167, 0, 39, 132, 1, 255, 42, 180, 0, 58, 27, 4, 100, 42]
abbrev dktX6_byLaw_3 : List UInt8 := dkwX6_byLaw_3 ++ dktX6_byLaw_4
def dkwX6_byLaw_2 : List UInt8 := [46, 154, 0, 14, 42, 180, 0, 46, 28, 50, 4, 46, 167, 0, 16, 42, 180, 0, 61, 42, 180, 0, 46, 28]
abbrev dktX6_byLaw_2 : List UInt8 := dkwX6_byLaw_2 ++ dktX6_byLaw_3
def dkwX6_byLaw_1 : List UInt8 := [42, 180, 0, 46, 28, 50, 3, 46, 5, 162, 0, 50, 42, 180, 0, 58, 27, 42, 180, 0, 46, 28, 50, 3]
abbrev dktX6_byLaw_1 : List UInt8 := dkwX6_byLaw_1 ++ dktX6_byLaw_2
def dkwX6_byLaw_0 : List UInt8 := [3, 60, 42, 180, 0, 58, 3, 42, 180, 0, 61, 3, 46, 79, 3, 61, 28, 42, 180, 0, 192, 162, 0, 104]
abbrev dktX6_byLaw_0 : List UInt8 := dkwX6_byLaw_0 ++ dktX6_byLaw_1
theorem dksX6_byLaw_0 : cX6_byLaw.data.toList.drop 0 = dktX6_byLaw_0 := by decide +kernel
theorem dksX6_byLaw_1 : cX6_byLaw.data.toList.drop 24 = dktX6_byLaw_1 := dk_seg dksX6_byLaw_0 24 rfl rfl
theorem dksX6_byLaw_2 : cX6_byLaw.data.toList.drop 48 = dktX6_byLaw_2 := dk_seg dksX6_byLaw_1 24 rfl rfl
theorem dksX6_byLaw_3 : cX6_byLaw.data.toList.drop 72 = dktX6_byLaw_3 := dk_seg dksX6_byLaw_2 24 rfl rfl
theorem dksX6_byLaw_4 : cX6_byLaw.data.toList.drop 94 = dktX6_byLaw_4 := dk_seg dksX6_byLaw_3 22 rfl rfl
theorem dksX6_byLaw_5 : cX6_byLaw.data.toList.drop 118 = dktX6_byLaw_5 := dk_seg dksX6_byLaw_4 24 rfl rfl
theorem dX6_byLaw_0 : decode cX6_byLaw 0 = .ok (.iconst 0, 1) := dk_3 (dk_at dksX6_byLaw_0 0 rfl rfl)
theorem dX6_byLaw_1 : decode cX6_byLaw 1 = .ok (.istore_n 1, 1) := dk_60 (dk_at dksX6_byLaw_0 1 rfl rfl)
theorem dX6_byLaw_2 : decode cX6_byLaw 2 = .ok (.aload_n 0, 1) := dk_42 (dk_at dksX6_byLaw_0 2 rfl rfl)
theorem dX6_byLaw_3 : decode cX6_byLaw 3 = .ok (.getfield 58, 3) := dk_180 0 58 (dk_at dksX6_byLaw_0 3 rfl rfl)
theorem dX6_byLaw_6 : decode cX6_byLaw 6 = .ok (.iconst 0, 1) := dk_3 (dk_at dksX6_byLaw_0 6 rfl rfl)
theorem dX6_byLaw_7 : decode cX6_byLaw 7 = .ok (.aload_n 0, 1) := dk_42 (dk_at dksX6_byLaw_0 7 rfl rfl)
theorem dX6_byLaw_8 : decode cX6_byLaw 8 = .ok (.getfield 61, 3) := dk_180 0 61 (dk_at dksX6_byLaw_0 8 rfl rfl)
theorem dX6_byLaw_11 : decode cX6_byLaw 11 = .ok (.iconst 0, 1) := dk_3 (dk_at dksX6_byLaw_0 11 rfl rfl)
theorem dX6_byLaw_12 : decode cX6_byLaw 12 = .ok (.iaload, 1) := dk_46 (dk_at dksX6_byLaw_0 12 rfl rfl)
theorem dX6_byLaw_13 : decode cX6_byLaw 13 = .ok (.iastore, 1) := dk_79 (dk_at dksX6_byLaw_0 13 rfl rfl)
theorem dX6_byLaw_14 : decode cX6_byLaw 14 = .ok (.iconst 0, 1) := dk_3 (dk_at dksX6_byLaw_0 14 rfl rfl)
theorem dX6_byLaw_15 : decode cX6_byLaw 15 = .ok (.istore_n 2, 1) := dk_61 (dk_at dksX6_byLaw_0 15 rfl rfl)
theorem dX6_byLaw_16 : decode cX6_byLaw 16 = .ok (.iload_n 2, 1) := dk_28 (dk_at dksX6_byLaw_0 16 rfl rfl)
theorem dX6_byLaw_17 : decode cX6_byLaw 17 = .ok (.aload_n 0, 1) := dk_42 (dk_at dksX6_byLaw_0 17 rfl rfl)
theorem dX6_byLaw_18 : decode cX6_byLaw 18 = .ok (.getfield 192, 3) := dk_180 0 192 (dk_at dksX6_byLaw_0 18 rfl rfl)
theorem dX6_byLaw_21 : decode cX6_byLaw 21 = .ok (.if_icmp .ge 104, 3) := dk_162 0 104 (dk_at dksX6_byLaw_0 21 rfl rfl)
theorem dX6_byLaw_24 : decode cX6_byLaw 24 = .ok (.aload_n 0, 1) := dk_42 (dk_at dksX6_byLaw_1 0 rfl rfl)
theorem dX6_byLaw_25 : decode cX6_byLaw 25 = .ok (.getfield 46, 3) := dk_180 0 46 (dk_at dksX6_byLaw_1 1 rfl rfl)
theorem dX6_byLaw_28 : decode cX6_byLaw 28 = .ok (.iload_n 2, 1) := dk_28 (dk_at dksX6_byLaw_1 4 rfl rfl)
theorem dX6_byLaw_29 : decode cX6_byLaw 29 = .ok (.aaload, 1) := dk_50 (dk_at dksX6_byLaw_1 5 rfl rfl)
theorem dX6_byLaw_30 : decode cX6_byLaw 30 = .ok (.iconst 0, 1) := dk_3 (dk_at dksX6_byLaw_1 6 rfl rfl)
theorem dX6_byLaw_31 : decode cX6_byLaw 31 = .ok (.iaload, 1) := dk_46 (dk_at dksX6_byLaw_1 7 rfl rfl)
theorem dX6_byLaw_32 : decode cX6_byLaw 32 = .ok (.iconst 2, 1) := dk_5 (dk_at dksX6_byLaw_1 8 rfl rfl)
theorem dX6_byLaw_33 : decode cX6_byLaw 33 = .ok (.if_icmp .ge 50, 3) := dk_162 0 50 (dk_at dksX6_byLaw_1 9 rfl rfl)
theorem dX6_byLaw_36 : decode cX6_byLaw 36 = .ok (.aload_n 0, 1) := dk_42 (dk_at dksX6_byLaw_1 12 rfl rfl)
theorem dX6_byLaw_37 : decode cX6_byLaw 37 = .ok (.getfield 58, 3) := dk_180 0 58 (dk_at dksX6_byLaw_1 13 rfl rfl)
theorem dX6_byLaw_40 : decode cX6_byLaw 40 = .ok (.iload_n 1, 1) := dk_27 (dk_at dksX6_byLaw_1 16 rfl rfl)
theorem dX6_byLaw_41 : decode cX6_byLaw 41 = .ok (.aload_n 0, 1) := dk_42 (dk_at dksX6_byLaw_1 17 rfl rfl)
theorem dX6_byLaw_42 : decode cX6_byLaw 42 = .ok (.getfield 46, 3) := dk_180 0 46 (dk_at dksX6_byLaw_1 18 rfl rfl)
theorem dX6_byLaw_45 : decode cX6_byLaw 45 = .ok (.iload_n 2, 1) := dk_28 (dk_at dksX6_byLaw_1 21 rfl rfl)
theorem dX6_byLaw_46 : decode cX6_byLaw 46 = .ok (.aaload, 1) := dk_50 (dk_at dksX6_byLaw_1 22 rfl rfl)
theorem dX6_byLaw_47 : decode cX6_byLaw 47 = .ok (.iconst 0, 1) := dk_3 (dk_at dksX6_byLaw_1 23 rfl rfl)
theorem dX6_byLaw_48 : decode cX6_byLaw 48 = .ok (.iaload, 1) := dk_46 (dk_at dksX6_byLaw_2 0 rfl rfl)
theorem dX6_byLaw_49 : decode cX6_byLaw 49 = .ok (.ifCond .ne 14, 3) := dk_154 0 14 (dk_at dksX6_byLaw_2 1 rfl rfl)
theorem dX6_byLaw_52 : decode cX6_byLaw 52 = .ok (.aload_n 0, 1) := dk_42 (dk_at dksX6_byLaw_2 4 rfl rfl)
theorem dX6_byLaw_53 : decode cX6_byLaw 53 = .ok (.getfield 46, 3) := dk_180 0 46 (dk_at dksX6_byLaw_2 5 rfl rfl)
theorem dX6_byLaw_56 : decode cX6_byLaw 56 = .ok (.iload_n 2, 1) := dk_28 (dk_at dksX6_byLaw_2 8 rfl rfl)
theorem dX6_byLaw_57 : decode cX6_byLaw 57 = .ok (.aaload, 1) := dk_50 (dk_at dksX6_byLaw_2 9 rfl rfl)
theorem dX6_byLaw_58 : decode cX6_byLaw 58 = .ok (.iconst 1, 1) := dk_4 (dk_at dksX6_byLaw_2 10 rfl rfl)
theorem dX6_byLaw_59 : decode cX6_byLaw 59 = .ok (.iaload, 1) := dk_46 (dk_at dksX6_byLaw_2 11 rfl rfl)
theorem dX6_byLaw_60 : decode cX6_byLaw 60 = .ok (.goto 16, 3) := dk_167 0 16 (dk_at dksX6_byLaw_2 12 rfl rfl)
theorem dX6_byLaw_63 : decode cX6_byLaw 63 = .ok (.aload_n 0, 1) := dk_42 (dk_at dksX6_byLaw_2 15 rfl rfl)
theorem dX6_byLaw_64 : decode cX6_byLaw 64 = .ok (.getfield 61, 3) := dk_180 0 61 (dk_at dksX6_byLaw_2 16 rfl rfl)
theorem dX6_byLaw_67 : decode cX6_byLaw 67 = .ok (.aload_n 0, 1) := dk_42 (dk_at dksX6_byLaw_2 19 rfl rfl)
theorem dX6_byLaw_68 : decode cX6_byLaw 68 = .ok (.getfield 46, 3) := dk_180 0 46 (dk_at dksX6_byLaw_2 20 rfl rfl)
theorem dX6_byLaw_71 : decode cX6_byLaw 71 = .ok (.iload_n 2, 1) := dk_28 (dk_at dksX6_byLaw_2 23 rfl rfl)
theorem dX6_byLaw_72 : decode cX6_byLaw 72 = .ok (.aaload, 1) := dk_50 (dk_at dksX6_byLaw_3 0 rfl rfl)
theorem dX6_byLaw_73 : decode cX6_byLaw 73 = .ok (.iconst 1, 1) := dk_4 (dk_at dksX6_byLaw_3 1 rfl rfl)
theorem dX6_byLaw_74 : decode cX6_byLaw 74 = .ok (.iaload, 1) := dk_46 (dk_at dksX6_byLaw_3 2 rfl rfl)
theorem dX6_byLaw_75 : decode cX6_byLaw 75 = .ok (.iaload, 1) := dk_46 (dk_at dksX6_byLaw_3 3 rfl rfl)
theorem dX6_byLaw_76 : decode cX6_byLaw 76 = .ok (.iastore, 1) := dk_79 (dk_at dksX6_byLaw_3 4 rfl rfl)
theorem dX6_byLaw_77 : decode cX6_byLaw 77 = .ok (.iinc 1 1, 3) := dk_132 1 1 (dk_at dksX6_byLaw_3 5 rfl rfl)
theorem dX6_byLaw_80 : decode cX6_byLaw 80 = .ok (.goto 39, 3) := dk_167 0 39 (dk_at dksX6_byLaw_3 8 rfl rfl)
theorem dX6_byLaw_83 : decode cX6_byLaw 83 = .ok (.iinc 1 (-1), 3) := dk_132 1 255 (dk_at dksX6_byLaw_3 11 rfl rfl)
theorem dX6_byLaw_86 : decode cX6_byLaw 86 = .ok (.aload_n 0, 1) := dk_42 (dk_at dksX6_byLaw_3 14 rfl rfl)
theorem dX6_byLaw_87 : decode cX6_byLaw 87 = .ok (.getfield 58, 3) := dk_180 0 58 (dk_at dksX6_byLaw_3 15 rfl rfl)
theorem dX6_byLaw_90 : decode cX6_byLaw 90 = .ok (.iload_n 1, 1) := dk_27 (dk_at dksX6_byLaw_3 18 rfl rfl)
theorem dX6_byLaw_91 : decode cX6_byLaw 91 = .ok (.iconst 1, 1) := dk_4 (dk_at dksX6_byLaw_3 19 rfl rfl)
theorem dX6_byLaw_92 : decode cX6_byLaw 92 = .ok (.isub, 1) := dk_100 (dk_at dksX6_byLaw_3 20 rfl rfl)
theorem dX6_byLaw_93 : decode cX6_byLaw 93 = .ok (.aload_n 0, 1) := dk_42 (dk_at dksX6_byLaw_3 21 rfl rfl)
theorem dX6_byLaw_94 : decode cX6_byLaw 94 = .ok (.getfield 46, 3) := dk_180 0 46 (dk_at dksX6_byLaw_4 0 rfl rfl)
theorem dX6_byLaw_97 : decode cX6_byLaw 97 = .ok (.iload_n 2, 1) := dk_28 (dk_at dksX6_byLaw_4 3 rfl rfl)
theorem dX6_byLaw_98 : decode cX6_byLaw 98 = .ok (.aaload, 1) := dk_50 (dk_at dksX6_byLaw_4 4 rfl rfl)
theorem dX6_byLaw_99 : decode cX6_byLaw 99 = .ok (.iconst 0, 1) := dk_3 (dk_at dksX6_byLaw_4 5 rfl rfl)
theorem dX6_byLaw_100 : decode cX6_byLaw 100 = .ok (.iaload, 1) := dk_46 (dk_at dksX6_byLaw_4 6 rfl rfl)
theorem dX6_byLaw_101 : decode cX6_byLaw 101 = .ok (.aload_n 0, 1) := dk_42 (dk_at dksX6_byLaw_4 7 rfl rfl)
theorem dX6_byLaw_102 : decode cX6_byLaw 102 = .ok (.getfield 58, 3) := dk_180 0 58 (dk_at dksX6_byLaw_4 8 rfl rfl)
theorem dX6_byLaw_105 : decode cX6_byLaw 105 = .ok (.iload_n 1, 1) := dk_27 (dk_at dksX6_byLaw_4 11 rfl rfl)
theorem dX6_byLaw_106 : decode cX6_byLaw 106 = .ok (.iconst 1, 1) := dk_4 (dk_at dksX6_byLaw_4 12 rfl rfl)
theorem dX6_byLaw_107 : decode cX6_byLaw 107 = .ok (.isub, 1) := dk_100 (dk_at dksX6_byLaw_4 13 rfl rfl)
theorem dX6_byLaw_108 : decode cX6_byLaw 108 = .ok (.iaload, 1) := dk_46 (dk_at dksX6_byLaw_4 14 rfl rfl)
theorem dX6_byLaw_109 : decode cX6_byLaw 109 = .ok (.aload_n 0, 1) := dk_42 (dk_at dksX6_byLaw_4 15 rfl rfl)
theorem dX6_byLaw_110 : decode cX6_byLaw 110 = .ok (.getfield 58, 3) := dk_180 0 58 (dk_at dksX6_byLaw_4 16 rfl rfl)
theorem dX6_byLaw_113 : decode cX6_byLaw 113 = .ok (.iload_n 1, 1) := dk_27 (dk_at dksX6_byLaw_4 19 rfl rfl)
theorem dX6_byLaw_114 : decode cX6_byLaw 114 = .ok (.iaload, 1) := dk_46 (dk_at dksX6_byLaw_4 20 rfl rfl)
theorem dX6_byLaw_115 : decode cX6_byLaw 115 = .ok (.invokestatic 241, 3) := dk_184 0 241 (dk_at dksX6_byLaw_4 21 rfl rfl)
theorem dX6_byLaw_118 : decode cX6_byLaw 118 = .ok (.iastore, 1) := dk_79 (dk_at dksX6_byLaw_5 0 rfl rfl)
theorem dX6_byLaw_119 : decode cX6_byLaw 119 = .ok (.iinc 2 1, 3) := dk_132 2 1 (dk_at dksX6_byLaw_5 1 rfl rfl)
theorem dX6_byLaw_122 : decode cX6_byLaw 122 = .ok (.goto (-106), 3) := dk_167 255 150 (dk_at dksX6_byLaw_5 4 rfl rfl)
theorem dX6_byLaw_125 : decode cX6_byLaw 125 = .ok (.bipush 30, 2) := dk_16 30 (dk_at dksX6_byLaw_5 7 rfl rfl)
theorem dX6_byLaw_127 : decode cX6_byLaw 127 = .ok (.iconst 0, 1) := dk_3 (dk_at dksX6_byLaw_5 9 rfl rfl)
theorem dX6_byLaw_128 : decode cX6_byLaw 128 = .ok (.aload_n 0, 1) := dk_42 (dk_at dksX6_byLaw_5 10 rfl rfl)
theorem dX6_byLaw_129 : decode cX6_byLaw 129 = .ok (.getfield 58, 3) := dk_180 0 58 (dk_at dksX6_byLaw_5 11 rfl rfl)
theorem dX6_byLaw_132 : decode cX6_byLaw 132 = .ok (.iconst 0, 1) := dk_3 (dk_at dksX6_byLaw_5 14 rfl rfl)
theorem dX6_byLaw_133 : decode cX6_byLaw 133 = .ok (.iaload, 1) := dk_46 (dk_at dksX6_byLaw_5 15 rfl rfl)
theorem dX6_byLaw_134 : decode cX6_byLaw 134 = .ok (.invokestatic 238, 3) := dk_184 0 238 (dk_at dksX6_byLaw_5 16 rfl rfl)
theorem dX6_byLaw_137 : decode cX6_byLaw 137 = .ok (.invokestatic 235, 3) := dk_184 0 235 (dk_at dksX6_byLaw_5 19 rfl rfl)
theorem dX6_byLaw_140 : decode cX6_byLaw 140 = .ok (.ireturn, 1) := dk_172 (dk_at dksX6_byLaw_5 22 rfl rfl)
abbrev cX6_by : ByteArray := prog_34_method_40_code
def yX6_by : MethodName := ⟨RX6, "by", "(III)I"⟩
def dkwX6_by_4 : List UInt8 := [167, 0, 6, 27, 28, 112, 172, 27, 28, 184, 0, 235, 172, 27, 28, 184, 0, 238, 172]
abbrev dktX6_by_4 : List UInt8 := dkwX6_by_4 ++ []
def dkwX6_by_3 : List UInt8 := [160, 0, 8, 27, 116, 167, 0, 6, 27, 28, 108, 172, 28, 153, 0, 8, 28, 2, 160, 0, 7, 3]
abbrev dktX6_by_3 : List UInt8 := dkwX6_by_3 ++ dktX6_by_4
def dkwX6_by_2 : List UInt8 := [27, 28, 96, 172, 27, 28, 100, 172, 27, 28, 104, 172, 28, 154, 0, 7, 3, 167, 0, 16, 28, 2]
abbrev dktX6_by_2 : List UInt8 := dkwX6_by_2 ++ dktX6_by_3
def dkwX6_by_1 : List UInt8 := [170, 0, 0, 0, 0, 0, 96, 0, 0, 0, 2, 0, 0, 0, 7, 0, 0, 0, 39, 0, 0, 0, 43, 0, 0, 0, 47, 0, 0, 0, 51, 0, 0, 0, 73, 0, 0, 0, 90]
abbrev dktX6_by_1 : List UInt8 := dkwX6_by_1 ++ dktX6_by_2
def dkwX6_by_0 : List UInt8 := [26]
abbrev dktX6_by_0 : List UInt8 := dkwX6_by_0 ++ dktX6_by_1
theorem dksX6_by_0 : cX6_by.data.toList.drop 0 = dktX6_by_0 := by decide +kernel
theorem dksX6_by_1 : cX6_by.data.toList.drop 1 = dktX6_by_1 := dk_seg dksX6_by_0 1 rfl rfl
theorem dksX6_by_2 : cX6_by.data.toList.drop 40 = dktX6_by_2 := dk_seg dksX6_by_1 39 rfl rfl
theorem dksX6_by_3 : cX6_by.data.toList.drop 62 = dktX6_by_3 := dk_seg dksX6_by_2 22 rfl rfl
theorem dksX6_by_4 : cX6_by.data.toList.drop 84 = dktX6_by_4 := dk_seg dksX6_by_3 22 rfl rfl
theorem dX6_by_0 : decode cX6_by 0 = .ok (.iload_n 0, 1) := dk_26 (dk_at dksX6_by_0 0 rfl rfl)
theorem dX6_by_1 : decode cX6_by 1 = .ok (.tableswitch 96 2 7 #[39, 43, 47, 51, 73, 90], 39) := by decide +kernel
theorem dX6_by_40 : decode cX6_by 40 = .ok (.iload_n 1, 1) := dk_27 (dk_at dksX6_by_2 0 rfl rfl)
theorem dX6_by_41 : decode cX6_by 41 = .ok (.iload_n 2, 1) := dk_28 (dk_at dksX6_by_2 1 rfl rfl)
theorem dX6_by_42 : decode cX6_by 42 = .ok (.iadd, 1) := dk_96 (dk_at dksX6_by_2 2 rfl rfl)
theorem dX6_by_43 : decode cX6_by 43 = .ok (.ireturn, 1) := dk_172 (dk_at dksX6_by_2 3 rfl rfl)
theorem dX6_by_44 : decode cX6_by 44 = .ok (.iload_n 1, 1) := dk_27 (dk_at dksX6_by_2 4 rfl rfl)
theorem dX6_by_45 : decode cX6_by 45 = .ok (.iload_n 2, 1) := dk_28 (dk_at dksX6_by_2 5 rfl rfl)
theorem dX6_by_46 : decode cX6_by 46 = .ok (.isub, 1) := dk_100 (dk_at dksX6_by_2 6 rfl rfl)
theorem dX6_by_47 : decode cX6_by 47 = .ok (.ireturn, 1) := dk_172 (dk_at dksX6_by_2 7 rfl rfl)
theorem dX6_by_48 : decode cX6_by 48 = .ok (.iload_n 1, 1) := dk_27 (dk_at dksX6_by_2 8 rfl rfl)
theorem dX6_by_49 : decode cX6_by 49 = .ok (.iload_n 2, 1) := dk_28 (dk_at dksX6_by_2 9 rfl rfl)
theorem dX6_by_50 : decode cX6_by 50 = .ok (.imul, 1) := dk_104 (dk_at dksX6_by_2 10 rfl rfl)
theorem dX6_by_51 : decode cX6_by 51 = .ok (.ireturn, 1) := dk_172 (dk_at dksX6_by_2 11 rfl rfl)
theorem dX6_by_52 : decode cX6_by 52 = .ok (.iload_n 2, 1) := dk_28 (dk_at dksX6_by_2 12 rfl rfl)
theorem dX6_by_53 : decode cX6_by 53 = .ok (.ifCond .ne 7, 3) := dk_154 0 7 (dk_at dksX6_by_2 13 rfl rfl)
theorem dX6_by_56 : decode cX6_by 56 = .ok (.iconst 0, 1) := dk_3 (dk_at dksX6_by_2 16 rfl rfl)
theorem dX6_by_57 : decode cX6_by 57 = .ok (.goto 16, 3) := dk_167 0 16 (dk_at dksX6_by_2 17 rfl rfl)
theorem dX6_by_60 : decode cX6_by 60 = .ok (.iload_n 2, 1) := dk_28 (dk_at dksX6_by_2 20 rfl rfl)
theorem dX6_by_61 : decode cX6_by 61 = .ok (.iconst (-1), 1) := dk_2 (dk_at dksX6_by_2 21 rfl rfl)
theorem dX6_by_62 : decode cX6_by 62 = .ok (.if_icmp .ne 8, 3) := dk_160 0 8 (dk_at dksX6_by_3 0 rfl rfl)
theorem dX6_by_65 : decode cX6_by 65 = .ok (.iload_n 1, 1) := dk_27 (dk_at dksX6_by_3 3 rfl rfl)
theorem dX6_by_66 : decode cX6_by 66 = .ok (.ineg, 1) := dk_116 (dk_at dksX6_by_3 4 rfl rfl)
theorem dX6_by_67 : decode cX6_by 67 = .ok (.goto 6, 3) := dk_167 0 6 (dk_at dksX6_by_3 5 rfl rfl)
theorem dX6_by_70 : decode cX6_by 70 = .ok (.iload_n 1, 1) := dk_27 (dk_at dksX6_by_3 8 rfl rfl)
theorem dX6_by_71 : decode cX6_by 71 = .ok (.iload_n 2, 1) := dk_28 (dk_at dksX6_by_3 9 rfl rfl)
theorem dX6_by_72 : decode cX6_by 72 = .ok (.idiv, 1) := dk_108 (dk_at dksX6_by_3 10 rfl rfl)
theorem dX6_by_73 : decode cX6_by 73 = .ok (.ireturn, 1) := dk_172 (dk_at dksX6_by_3 11 rfl rfl)
theorem dX6_by_74 : decode cX6_by 74 = .ok (.iload_n 2, 1) := dk_28 (dk_at dksX6_by_3 12 rfl rfl)
theorem dX6_by_75 : decode cX6_by 75 = .ok (.ifCond .eq 8, 3) := dk_153 0 8 (dk_at dksX6_by_3 13 rfl rfl)
theorem dX6_by_78 : decode cX6_by 78 = .ok (.iload_n 2, 1) := dk_28 (dk_at dksX6_by_3 16 rfl rfl)
theorem dX6_by_79 : decode cX6_by 79 = .ok (.iconst (-1), 1) := dk_2 (dk_at dksX6_by_3 17 rfl rfl)
theorem dX6_by_80 : decode cX6_by 80 = .ok (.if_icmp .ne 7, 3) := dk_160 0 7 (dk_at dksX6_by_3 18 rfl rfl)
theorem dX6_by_83 : decode cX6_by 83 = .ok (.iconst 0, 1) := dk_3 (dk_at dksX6_by_3 21 rfl rfl)
theorem dX6_by_84 : decode cX6_by 84 = .ok (.goto 6, 3) := dk_167 0 6 (dk_at dksX6_by_4 0 rfl rfl)
theorem dX6_by_87 : decode cX6_by 87 = .ok (.iload_n 1, 1) := dk_27 (dk_at dksX6_by_4 3 rfl rfl)
theorem dX6_by_88 : decode cX6_by 88 = .ok (.iload_n 2, 1) := dk_28 (dk_at dksX6_by_4 4 rfl rfl)
theorem dX6_by_89 : decode cX6_by 89 = .ok (.irem, 1) := dk_112 (dk_at dksX6_by_4 5 rfl rfl)
theorem dX6_by_90 : decode cX6_by 90 = .ok (.ireturn, 1) := dk_172 (dk_at dksX6_by_4 6 rfl rfl)
theorem dX6_by_91 : decode cX6_by 91 = .ok (.iload_n 1, 1) := dk_27 (dk_at dksX6_by_4 7 rfl rfl)
theorem dX6_by_92 : decode cX6_by 92 = .ok (.iload_n 2, 1) := dk_28 (dk_at dksX6_by_4 8 rfl rfl)
theorem dX6_by_93 : decode cX6_by 93 = .ok (.invokestatic 235, 3) := dk_184 0 235 (dk_at dksX6_by_4 9 rfl rfl)
theorem dX6_by_96 : decode cX6_by 96 = .ok (.ireturn, 1) := dk_172 (dk_at dksX6_by_4 12 rfl rfl)
theorem dX6_by_97 : decode cX6_by 97 = .ok (.iload_n 1, 1) := dk_27 (dk_at dksX6_by_4 13 rfl rfl)
theorem dX6_by_98 : decode cX6_by 98 = .ok (.iload_n 2, 1) := dk_28 (dk_at dksX6_by_4 14 rfl rfl)
theorem dX6_by_99 : decode cX6_by 99 = .ok (.invokestatic 238, 3) := dk_184 0 238 (dk_at dksX6_by_4 15 rfl rfl)
theorem dX6_by_102 : decode cX6_by 102 = .ok (.ireturn, 1) := dk_172 (dk_at dksX6_by_4 18 rfl rfl)
abbrev cX6_less : ByteArray := prog_34_method_6_code
def yX6_less : MethodName := ⟨RX6, "less", "(II)I"⟩
def dkwX6_less_0 : List UInt8 := [26, 27, 162, 0, 7, 26, 167, 0, 4, 27, 172]
abbrev dktX6_less_0 : List UInt8 := dkwX6_less_0 ++ []
theorem dksX6_less_0 : cX6_less.data.toList.drop 0 = dktX6_less_0 := by decide +kernel
theorem dX6_less_0 : decode cX6_less 0 = .ok (.iload_n 0, 1) := dk_26 (dk_at dksX6_less_0 0 rfl rfl)
theorem dX6_less_1 : decode cX6_less 1 = .ok (.iload_n 1, 1) := dk_27 (dk_at dksX6_less_0 1 rfl rfl)
theorem dX6_less_2 : decode cX6_less 2 = .ok (.if_icmp .ge 7, 3) := dk_162 0 7 (dk_at dksX6_less_0 2 rfl rfl)
theorem dX6_less_5 : decode cX6_less 5 = .ok (.iload_n 0, 1) := dk_26 (dk_at dksX6_less_0 5 rfl rfl)
theorem dX6_less_6 : decode cX6_less 6 = .ok (.goto 4, 3) := dk_167 0 4 (dk_at dksX6_less_0 6 rfl rfl)
theorem dX6_less_9 : decode cX6_less 9 = .ok (.iload_n 1, 1) := dk_27 (dk_at dksX6_less_0 9 rfl rfl)
theorem dX6_less_10 : decode cX6_less 10 = .ok (.ireturn, 1) := dk_172 (dk_at dksX6_less_0 10 rfl rfl)
abbrev cX6_more : ByteArray := prog_34_method_7_code
def yX6_more : MethodName := ⟨RX6, "more", "(II)I"⟩
def dkwX6_more_0 : List UInt8 := [26, 27, 164, 0, 7, 26, 167, 0, 4, 27, 172]
abbrev dktX6_more_0 : List UInt8 := dkwX6_more_0 ++ []
theorem dksX6_more_0 : cX6_more.data.toList.drop 0 = dktX6_more_0 := by decide +kernel
theorem dX6_more_0 : decode cX6_more 0 = .ok (.iload_n 0, 1) := dk_26 (dk_at dksX6_more_0 0 rfl rfl)
theorem dX6_more_1 : decode cX6_more 1 = .ok (.iload_n 1, 1) := dk_27 (dk_at dksX6_more_0 1 rfl rfl)
theorem dX6_more_2 : decode cX6_more 2 = .ok (.if_icmp .le 7, 3) := dk_164 0 7 (dk_at dksX6_more_0 2 rfl rfl)
theorem dX6_more_5 : decode cX6_more 5 = .ok (.iload_n 0, 1) := dk_26 (dk_at dksX6_more_0 5 rfl rfl)
theorem dX6_more_6 : decode cX6_more 6 = .ok (.goto 4, 3) := dk_167 0 4 (dk_at dksX6_more_0 6 rfl rfl)
theorem dX6_more_9 : decode cX6_more 9 = .ok (.iload_n 1, 1) := dk_27 (dk_at dksX6_more_0 9 rfl rfl)
theorem dX6_more_10 : decode cX6_more 10 = .ok (.ireturn, 1) := dk_172 (dk_at dksX6_more_0 10 rfl rfl)
abbrev cX6_hymns : ByteArray := prog_34_method_51_code
def yX6_hymns : MethodName := ⟨RX6, "hymns", "([I)V"⟩
def dkwX6_hymns_2 : List UInt8 := [153, 0, 9, 4, 28, 120, 167, 0, 4, 3, 128, 181, 1, 17, 132, 2, 1, 167, 255, 200, 177]
abbrev dktX6_hymns_2 : List UInt8 := dkwX6_hymns_2 ++ []
def dkwX6_hymns_1 : List UInt8 := [43, 16, 55, 92, 46, 29, 153, 0, 7, 3, 167, 0, 4, 4, 96, 79, 42, 89, 180, 1, 17, 29]
abbrev dktX6_hymns_1 : List UInt8 := dkwX6_hymns_1 ++ dktX6_hymns_2
def dkwX6_hymns_0 : List UInt8 := [42, 3, 181, 1, 17, 3, 61, 28, 42, 180, 0, 23, 4, 46, 162, 0, 52, 42, 43, 28, 182, 1, 20, 62]
abbrev dktX6_hymns_0 : List UInt8 := dkwX6_hymns_0 ++ dktX6_hymns_1
theorem dksX6_hymns_0 : cX6_hymns.data.toList.drop 0 = dktX6_hymns_0 := by decide +kernel
theorem dksX6_hymns_1 : cX6_hymns.data.toList.drop 24 = dktX6_hymns_1 := dk_seg dksX6_hymns_0 24 rfl rfl
theorem dksX6_hymns_2 : cX6_hymns.data.toList.drop 46 = dktX6_hymns_2 := dk_seg dksX6_hymns_1 22 rfl rfl
theorem dX6_hymns_0 : decode cX6_hymns 0 = .ok (.aload_n 0, 1) := dk_42 (dk_at dksX6_hymns_0 0 rfl rfl)
theorem dX6_hymns_1 : decode cX6_hymns 1 = .ok (.iconst 0, 1) := dk_3 (dk_at dksX6_hymns_0 1 rfl rfl)
theorem dX6_hymns_2 : decode cX6_hymns 2 = .ok (.putfield 273, 3) := dk_181 1 17 (dk_at dksX6_hymns_0 2 rfl rfl)
theorem dX6_hymns_5 : decode cX6_hymns 5 = .ok (.iconst 0, 1) := dk_3 (dk_at dksX6_hymns_0 5 rfl rfl)
theorem dX6_hymns_6 : decode cX6_hymns 6 = .ok (.istore_n 2, 1) := dk_61 (dk_at dksX6_hymns_0 6 rfl rfl)
theorem dX6_hymns_7 : decode cX6_hymns 7 = .ok (.iload_n 2, 1) := dk_28 (dk_at dksX6_hymns_0 7 rfl rfl)
theorem dX6_hymns_8 : decode cX6_hymns 8 = .ok (.aload_n 0, 1) := dk_42 (dk_at dksX6_hymns_0 8 rfl rfl)
theorem dX6_hymns_9 : decode cX6_hymns 9 = .ok (.getfield 23, 3) := dk_180 0 23 (dk_at dksX6_hymns_0 9 rfl rfl)
theorem dX6_hymns_12 : decode cX6_hymns 12 = .ok (.iconst 1, 1) := dk_4 (dk_at dksX6_hymns_0 12 rfl rfl)
theorem dX6_hymns_13 : decode cX6_hymns 13 = .ok (.iaload, 1) := dk_46 (dk_at dksX6_hymns_0 13 rfl rfl)
theorem dX6_hymns_14 : decode cX6_hymns 14 = .ok (.if_icmp .ge 52, 3) := dk_162 0 52 (dk_at dksX6_hymns_0 14 rfl rfl)
theorem dX6_hymns_17 : decode cX6_hymns 17 = .ok (.aload_n 0, 1) := dk_42 (dk_at dksX6_hymns_0 17 rfl rfl)
theorem dX6_hymns_18 : decode cX6_hymns 18 = .ok (.aload_n 1, 1) := dk_43 (dk_at dksX6_hymns_0 18 rfl rfl)
theorem dX6_hymns_19 : decode cX6_hymns 19 = .ok (.iload_n 2, 1) := dk_28 (dk_at dksX6_hymns_0 19 rfl rfl)
theorem dX6_hymns_20 : decode cX6_hymns 20 = .ok (.invokevirtual 276, 3) := dk_182 1 20 (dk_at dksX6_hymns_0 20 rfl rfl)
theorem dX6_hymns_23 : decode cX6_hymns 23 = .ok (.istore_n 3, 1) := dk_62 (dk_at dksX6_hymns_0 23 rfl rfl)
theorem dX6_hymns_24 : decode cX6_hymns 24 = .ok (.aload_n 1, 1) := dk_43 (dk_at dksX6_hymns_1 0 rfl rfl)
theorem dX6_hymns_25 : decode cX6_hymns 25 = .ok (.bipush 55, 2) := dk_16 55 (dk_at dksX6_hymns_1 1 rfl rfl)
theorem dX6_hymns_27 : decode cX6_hymns 27 = .ok (.dup2, 1) := dk_92 (dk_at dksX6_hymns_1 3 rfl rfl)
theorem dX6_hymns_28 : decode cX6_hymns 28 = .ok (.iaload, 1) := dk_46 (dk_at dksX6_hymns_1 4 rfl rfl)
theorem dX6_hymns_29 : decode cX6_hymns 29 = .ok (.iload_n 3, 1) := dk_29 (dk_at dksX6_hymns_1 5 rfl rfl)
theorem dX6_hymns_30 : decode cX6_hymns 30 = .ok (.ifCond .eq 7, 3) := dk_153 0 7 (dk_at dksX6_hymns_1 6 rfl rfl)
theorem dX6_hymns_33 : decode cX6_hymns 33 = .ok (.iconst 0, 1) := dk_3 (dk_at dksX6_hymns_1 9 rfl rfl)
theorem dX6_hymns_34 : decode cX6_hymns 34 = .ok (.goto 4, 3) := dk_167 0 4 (dk_at dksX6_hymns_1 10 rfl rfl)
theorem dX6_hymns_37 : decode cX6_hymns 37 = .ok (.iconst 1, 1) := dk_4 (dk_at dksX6_hymns_1 13 rfl rfl)
theorem dX6_hymns_38 : decode cX6_hymns 38 = .ok (.iadd, 1) := dk_96 (dk_at dksX6_hymns_1 14 rfl rfl)
theorem dX6_hymns_39 : decode cX6_hymns 39 = .ok (.iastore, 1) := dk_79 (dk_at dksX6_hymns_1 15 rfl rfl)
theorem dX6_hymns_40 : decode cX6_hymns 40 = .ok (.aload_n 0, 1) := dk_42 (dk_at dksX6_hymns_1 16 rfl rfl)
theorem dX6_hymns_41 : decode cX6_hymns 41 = .ok (.dup, 1) := dk_89 (dk_at dksX6_hymns_1 17 rfl rfl)
theorem dX6_hymns_42 : decode cX6_hymns 42 = .ok (.getfield 273, 3) := dk_180 1 17 (dk_at dksX6_hymns_1 18 rfl rfl)
theorem dX6_hymns_45 : decode cX6_hymns 45 = .ok (.iload_n 3, 1) := dk_29 (dk_at dksX6_hymns_1 21 rfl rfl)
theorem dX6_hymns_46 : decode cX6_hymns 46 = .ok (.ifCond .eq 9, 3) := dk_153 0 9 (dk_at dksX6_hymns_2 0 rfl rfl)
theorem dX6_hymns_49 : decode cX6_hymns 49 = .ok (.iconst 1, 1) := dk_4 (dk_at dksX6_hymns_2 3 rfl rfl)
theorem dX6_hymns_50 : decode cX6_hymns 50 = .ok (.iload_n 2, 1) := dk_28 (dk_at dksX6_hymns_2 4 rfl rfl)
theorem dX6_hymns_51 : decode cX6_hymns 51 = .ok (.ishl, 1) := dk_120 (dk_at dksX6_hymns_2 5 rfl rfl)
theorem dX6_hymns_52 : decode cX6_hymns 52 = .ok (.goto 4, 3) := dk_167 0 4 (dk_at dksX6_hymns_2 6 rfl rfl)
theorem dX6_hymns_55 : decode cX6_hymns 55 = .ok (.iconst 0, 1) := dk_3 (dk_at dksX6_hymns_2 9 rfl rfl)
theorem dX6_hymns_56 : decode cX6_hymns 56 = .ok (.ior, 1) := dk_128 (dk_at dksX6_hymns_2 10 rfl rfl)
theorem dX6_hymns_57 : decode cX6_hymns 57 = .ok (.putfield 273, 3) := dk_181 1 17 (dk_at dksX6_hymns_2 11 rfl rfl)
theorem dX6_hymns_60 : decode cX6_hymns 60 = .ok (.iinc 2 1, 3) := dk_132 2 1 (dk_at dksX6_hymns_2 14 rfl rfl)
theorem dX6_hymns_63 : decode cX6_hymns 63 = .ok (.goto (-56), 3) := dk_167 255 200 (dk_at dksX6_hymns_2 17 rfl rfl)
theorem dX6_hymns_66 : decode cX6_hymns 66 = .ok (.return_, 1) := dk_177 (dk_at dksX6_hymns_2 20 rfl rfl)
abbrev cX6_rests : ByteArray := prog_34_method_52_code
def yX6_rests : MethodName := ⟨RX6, "rests", "([I)Z"⟩
def dkwX6_rests_3 : List UInt8 := [28, 172]
abbrev dktX6_rests_3 : List UInt8 := dkwX6_rests_3 ++ []
def dkwX6_rests_2 : List UInt8 := [5, 46, 43, 3, 29, 96, 46, 42, 180, 0, 23, 6, 46, 96, 184, 0, 235, 79, 132, 3, 1, 167, 255, 191]
abbrev dktX6_rests_2 : List UInt8 := dkwX6_rests_2 ++ dktX6_rests_3
def dkwX6_rests_1 : List UInt8 := [29, 50, 5, 46, 162, 0, 7, 4, 167, 0, 4, 3, 128, 61, 43, 3, 29, 96, 42, 180, 0, 31, 29, 50]
abbrev dktX6_rests_1 : List UInt8 := dkwX6_rests_1 ++ dktX6_rests_2
def dkwX6_rests_0 : List UInt8 := [3, 61, 3, 62, 29, 42, 180, 0, 23, 3, 46, 162, 0, 61, 28, 43, 3, 29, 96, 46, 42, 180, 0, 31]
abbrev dktX6_rests_0 : List UInt8 := dkwX6_rests_0 ++ dktX6_rests_1
theorem dksX6_rests_0 : cX6_rests.data.toList.drop 0 = dktX6_rests_0 := by decide +kernel
theorem dksX6_rests_1 : cX6_rests.data.toList.drop 24 = dktX6_rests_1 := dk_seg dksX6_rests_0 24 rfl rfl
theorem dksX6_rests_2 : cX6_rests.data.toList.drop 48 = dktX6_rests_2 := dk_seg dksX6_rests_1 24 rfl rfl
theorem dksX6_rests_3 : cX6_rests.data.toList.drop 72 = dktX6_rests_3 := dk_seg dksX6_rests_2 24 rfl rfl
theorem dX6_rests_0 : decode cX6_rests 0 = .ok (.iconst 0, 1) := dk_3 (dk_at dksX6_rests_0 0 rfl rfl)
theorem dX6_rests_1 : decode cX6_rests 1 = .ok (.istore_n 2, 1) := dk_61 (dk_at dksX6_rests_0 1 rfl rfl)
theorem dX6_rests_2 : decode cX6_rests 2 = .ok (.iconst 0, 1) := dk_3 (dk_at dksX6_rests_0 2 rfl rfl)
theorem dX6_rests_3 : decode cX6_rests 3 = .ok (.istore_n 3, 1) := dk_62 (dk_at dksX6_rests_0 3 rfl rfl)
theorem dX6_rests_4 : decode cX6_rests 4 = .ok (.iload_n 3, 1) := dk_29 (dk_at dksX6_rests_0 4 rfl rfl)
theorem dX6_rests_5 : decode cX6_rests 5 = .ok (.aload_n 0, 1) := dk_42 (dk_at dksX6_rests_0 5 rfl rfl)
theorem dX6_rests_6 : decode cX6_rests 6 = .ok (.getfield 23, 3) := dk_180 0 23 (dk_at dksX6_rests_0 6 rfl rfl)
theorem dX6_rests_9 : decode cX6_rests 9 = .ok (.iconst 0, 1) := dk_3 (dk_at dksX6_rests_0 9 rfl rfl)
theorem dX6_rests_10 : decode cX6_rests 10 = .ok (.iaload, 1) := dk_46 (dk_at dksX6_rests_0 10 rfl rfl)
theorem dX6_rests_11 : decode cX6_rests 11 = .ok (.if_icmp .ge 61, 3) := dk_162 0 61 (dk_at dksX6_rests_0 11 rfl rfl)
theorem dX6_rests_14 : decode cX6_rests 14 = .ok (.iload_n 2, 1) := dk_28 (dk_at dksX6_rests_0 14 rfl rfl)
theorem dX6_rests_15 : decode cX6_rests 15 = .ok (.aload_n 1, 1) := dk_43 (dk_at dksX6_rests_0 15 rfl rfl)
theorem dX6_rests_16 : decode cX6_rests 16 = .ok (.iconst 0, 1) := dk_3 (dk_at dksX6_rests_0 16 rfl rfl)
theorem dX6_rests_17 : decode cX6_rests 17 = .ok (.iload_n 3, 1) := dk_29 (dk_at dksX6_rests_0 17 rfl rfl)
theorem dX6_rests_18 : decode cX6_rests 18 = .ok (.iadd, 1) := dk_96 (dk_at dksX6_rests_0 18 rfl rfl)
theorem dX6_rests_19 : decode cX6_rests 19 = .ok (.iaload, 1) := dk_46 (dk_at dksX6_rests_0 19 rfl rfl)
theorem dX6_rests_20 : decode cX6_rests 20 = .ok (.aload_n 0, 1) := dk_42 (dk_at dksX6_rests_0 20 rfl rfl)
theorem dX6_rests_21 : decode cX6_rests 21 = .ok (.getfield 31, 3) := dk_180 0 31 (dk_at dksX6_rests_0 21 rfl rfl)
theorem dX6_rests_24 : decode cX6_rests 24 = .ok (.iload_n 3, 1) := dk_29 (dk_at dksX6_rests_1 0 rfl rfl)
theorem dX6_rests_25 : decode cX6_rests 25 = .ok (.aaload, 1) := dk_50 (dk_at dksX6_rests_1 1 rfl rfl)
theorem dX6_rests_26 : decode cX6_rests 26 = .ok (.iconst 2, 1) := dk_5 (dk_at dksX6_rests_1 2 rfl rfl)
theorem dX6_rests_27 : decode cX6_rests 27 = .ok (.iaload, 1) := dk_46 (dk_at dksX6_rests_1 3 rfl rfl)
theorem dX6_rests_28 : decode cX6_rests 28 = .ok (.if_icmp .ge 7, 3) := dk_162 0 7 (dk_at dksX6_rests_1 4 rfl rfl)
theorem dX6_rests_31 : decode cX6_rests 31 = .ok (.iconst 1, 1) := dk_4 (dk_at dksX6_rests_1 7 rfl rfl)
theorem dX6_rests_32 : decode cX6_rests 32 = .ok (.goto 4, 3) := dk_167 0 4 (dk_at dksX6_rests_1 8 rfl rfl)
theorem dX6_rests_35 : decode cX6_rests 35 = .ok (.iconst 0, 1) := dk_3 (dk_at dksX6_rests_1 11 rfl rfl)
theorem dX6_rests_36 : decode cX6_rests 36 = .ok (.ior, 1) := dk_128 (dk_at dksX6_rests_1 12 rfl rfl)
theorem dX6_rests_37 : decode cX6_rests 37 = .ok (.istore_n 2, 1) := dk_61 (dk_at dksX6_rests_1 13 rfl rfl)
theorem dX6_rests_38 : decode cX6_rests 38 = .ok (.aload_n 1, 1) := dk_43 (dk_at dksX6_rests_1 14 rfl rfl)
theorem dX6_rests_39 : decode cX6_rests 39 = .ok (.iconst 0, 1) := dk_3 (dk_at dksX6_rests_1 15 rfl rfl)
theorem dX6_rests_40 : decode cX6_rests 40 = .ok (.iload_n 3, 1) := dk_29 (dk_at dksX6_rests_1 16 rfl rfl)
theorem dX6_rests_41 : decode cX6_rests 41 = .ok (.iadd, 1) := dk_96 (dk_at dksX6_rests_1 17 rfl rfl)
theorem dX6_rests_42 : decode cX6_rests 42 = .ok (.aload_n 0, 1) := dk_42 (dk_at dksX6_rests_1 18 rfl rfl)
theorem dX6_rests_43 : decode cX6_rests 43 = .ok (.getfield 31, 3) := dk_180 0 31 (dk_at dksX6_rests_1 19 rfl rfl)
theorem dX6_rests_46 : decode cX6_rests 46 = .ok (.iload_n 3, 1) := dk_29 (dk_at dksX6_rests_1 22 rfl rfl)
theorem dX6_rests_47 : decode cX6_rests 47 = .ok (.aaload, 1) := dk_50 (dk_at dksX6_rests_1 23 rfl rfl)
theorem dX6_rests_48 : decode cX6_rests 48 = .ok (.iconst 2, 1) := dk_5 (dk_at dksX6_rests_2 0 rfl rfl)
theorem dX6_rests_49 : decode cX6_rests 49 = .ok (.iaload, 1) := dk_46 (dk_at dksX6_rests_2 1 rfl rfl)
theorem dX6_rests_50 : decode cX6_rests 50 = .ok (.aload_n 1, 1) := dk_43 (dk_at dksX6_rests_2 2 rfl rfl)
theorem dX6_rests_51 : decode cX6_rests 51 = .ok (.iconst 0, 1) := dk_3 (dk_at dksX6_rests_2 3 rfl rfl)
theorem dX6_rests_52 : decode cX6_rests 52 = .ok (.iload_n 3, 1) := dk_29 (dk_at dksX6_rests_2 4 rfl rfl)
theorem dX6_rests_53 : decode cX6_rests 53 = .ok (.iadd, 1) := dk_96 (dk_at dksX6_rests_2 5 rfl rfl)
theorem dX6_rests_54 : decode cX6_rests 54 = .ok (.iaload, 1) := dk_46 (dk_at dksX6_rests_2 6 rfl rfl)
theorem dX6_rests_55 : decode cX6_rests 55 = .ok (.aload_n 0, 1) := dk_42 (dk_at dksX6_rests_2 7 rfl rfl)
theorem dX6_rests_56 : decode cX6_rests 56 = .ok (.getfield 23, 3) := dk_180 0 23 (dk_at dksX6_rests_2 8 rfl rfl)
theorem dX6_rests_59 : decode cX6_rests 59 = .ok (.iconst 3, 1) := dk_6 (dk_at dksX6_rests_2 11 rfl rfl)
theorem dX6_rests_60 : decode cX6_rests 60 = .ok (.iaload, 1) := dk_46 (dk_at dksX6_rests_2 12 rfl rfl)
theorem dX6_rests_61 : decode cX6_rests 61 = .ok (.iadd, 1) := dk_96 (dk_at dksX6_rests_2 13 rfl rfl)
theorem dX6_rests_62 : decode cX6_rests 62 = .ok (.invokestatic 235, 3) := dk_184 0 235 (dk_at dksX6_rests_2 14 rfl rfl)
theorem dX6_rests_65 : decode cX6_rests 65 = .ok (.iastore, 1) := dk_79 (dk_at dksX6_rests_2 17 rfl rfl)
theorem dX6_rests_66 : decode cX6_rests 66 = .ok (.iinc 3 1, 3) := dk_132 3 1 (dk_at dksX6_rests_2 18 rfl rfl)
theorem dX6_rests_69 : decode cX6_rests 69 = .ok (.goto (-65), 3) := dk_167 255 191 (dk_at dksX6_rests_2 21 rfl rfl)
theorem dX6_rests_72 : decode cX6_rests 72 = .ok (.iload_n 2, 1) := dk_28 (dk_at dksX6_rests_3 0 rfl rfl)
theorem dX6_rests_73 : decode cX6_rests 73 = .ok (.ireturn, 1) := dk_172 (dk_at dksX6_rests_3 1 rfl rfl)
abbrev cX6_becomes : ByteArray := prog_34_method_54_code
def yX6_becomes : MethodName := ⟨RX6, "becomes", "([III)Z"⟩
def dkwX6_becomes_0 : List UInt8 := [42, 27, 46, 28, 160, 0, 5, 3, 172, 42, 27, 28, 79, 4, 172]
abbrev dktX6_becomes_0 : List UInt8 := dkwX6_becomes_0 ++ []
theorem dksX6_becomes_0 : cX6_becomes.data.toList.drop 0 = dktX6_becomes_0 := by decide +kernel
theorem dX6_becomes_0 : decode cX6_becomes 0 = .ok (.aload_n 0, 1) := dk_42 (dk_at dksX6_becomes_0 0 rfl rfl)
theorem dX6_becomes_1 : decode cX6_becomes 1 = .ok (.iload_n 1, 1) := dk_27 (dk_at dksX6_becomes_0 1 rfl rfl)
theorem dX6_becomes_2 : decode cX6_becomes 2 = .ok (.iaload, 1) := dk_46 (dk_at dksX6_becomes_0 2 rfl rfl)
theorem dX6_becomes_3 : decode cX6_becomes 3 = .ok (.iload_n 2, 1) := dk_28 (dk_at dksX6_becomes_0 3 rfl rfl)
theorem dX6_becomes_4 : decode cX6_becomes 4 = .ok (.if_icmp .ne 5, 3) := dk_160 0 5 (dk_at dksX6_becomes_0 4 rfl rfl)
theorem dX6_becomes_7 : decode cX6_becomes 7 = .ok (.iconst 0, 1) := dk_3 (dk_at dksX6_becomes_0 7 rfl rfl)
theorem dX6_becomes_8 : decode cX6_becomes 8 = .ok (.ireturn, 1) := dk_172 (dk_at dksX6_becomes_0 8 rfl rfl)
theorem dX6_becomes_9 : decode cX6_becomes 9 = .ok (.aload_n 0, 1) := dk_42 (dk_at dksX6_becomes_0 9 rfl rfl)
theorem dX6_becomes_10 : decode cX6_becomes 10 = .ok (.iload_n 1, 1) := dk_27 (dk_at dksX6_becomes_0 10 rfl rfl)
theorem dX6_becomes_11 : decode cX6_becomes 11 = .ok (.iload_n 2, 1) := dk_28 (dk_at dksX6_becomes_0 11 rfl rfl)
theorem dX6_becomes_12 : decode cX6_becomes 12 = .ok (.iastore, 1) := dk_79 (dk_at dksX6_becomes_0 12 rfl rfl)
theorem dX6_becomes_13 : decode cX6_becomes 13 = .ok (.iconst 1, 1) := dk_4 (dk_at dksX6_becomes_0 13 rfl rfl)
theorem dX6_becomes_14 : decode cX6_becomes 14 = .ok (.ireturn, 1) := dk_172 (dk_at dksX6_becomes_0 14 rfl rfl)
abbrev cX6_wordsOf : ByteArray := prog_34_method_53_code
def yX6_wordsOf : MethodName := ⟨RX6, "wordsOf", "(I)I"⟩
def dkwX6_wordsOf_2 : List UInt8 := [167, 0, 4, 3, 128, 61, 132, 3, 1, 167, 255, 214, 28, 172]
abbrev dktX6_wordsOf_2 : List UInt8 := dkwX6_wordsOf_2 ++ []
def dkwX6_wordsOf_1 : List UInt8 := [42, 180, 0, 43, 29, 50, 3, 46, 27, 160, 0, 16, 4, 42, 180, 0, 43, 29, 50, 4, 46, 120]
abbrev dktX6_wordsOf_1 : List UInt8 := dkwX6_wordsOf_1 ++ dktX6_wordsOf_2
def dkwX6_wordsOf_0 : List UInt8 := [4, 42, 180, 0, 37, 27, 50, 3, 46, 120, 61, 3, 62, 29, 42, 180, 0, 23, 5, 46, 162, 0, 38, 28]
abbrev dktX6_wordsOf_0 : List UInt8 := dkwX6_wordsOf_0 ++ dktX6_wordsOf_1
theorem dksX6_wordsOf_0 : cX6_wordsOf.data.toList.drop 0 = dktX6_wordsOf_0 := by decide +kernel
theorem dksX6_wordsOf_1 : cX6_wordsOf.data.toList.drop 24 = dktX6_wordsOf_1 := dk_seg dksX6_wordsOf_0 24 rfl rfl
theorem dksX6_wordsOf_2 : cX6_wordsOf.data.toList.drop 46 = dktX6_wordsOf_2 := dk_seg dksX6_wordsOf_1 22 rfl rfl
theorem dX6_wordsOf_0 : decode cX6_wordsOf 0 = .ok (.iconst 1, 1) := dk_4 (dk_at dksX6_wordsOf_0 0 rfl rfl)
theorem dX6_wordsOf_1 : decode cX6_wordsOf 1 = .ok (.aload_n 0, 1) := dk_42 (dk_at dksX6_wordsOf_0 1 rfl rfl)
theorem dX6_wordsOf_2 : decode cX6_wordsOf 2 = .ok (.getfield 37, 3) := dk_180 0 37 (dk_at dksX6_wordsOf_0 2 rfl rfl)
theorem dX6_wordsOf_5 : decode cX6_wordsOf 5 = .ok (.iload_n 1, 1) := dk_27 (dk_at dksX6_wordsOf_0 5 rfl rfl)
theorem dX6_wordsOf_6 : decode cX6_wordsOf 6 = .ok (.aaload, 1) := dk_50 (dk_at dksX6_wordsOf_0 6 rfl rfl)
theorem dX6_wordsOf_7 : decode cX6_wordsOf 7 = .ok (.iconst 0, 1) := dk_3 (dk_at dksX6_wordsOf_0 7 rfl rfl)
theorem dX6_wordsOf_8 : decode cX6_wordsOf 8 = .ok (.iaload, 1) := dk_46 (dk_at dksX6_wordsOf_0 8 rfl rfl)
theorem dX6_wordsOf_9 : decode cX6_wordsOf 9 = .ok (.ishl, 1) := dk_120 (dk_at dksX6_wordsOf_0 9 rfl rfl)
theorem dX6_wordsOf_10 : decode cX6_wordsOf 10 = .ok (.istore_n 2, 1) := dk_61 (dk_at dksX6_wordsOf_0 10 rfl rfl)
theorem dX6_wordsOf_11 : decode cX6_wordsOf 11 = .ok (.iconst 0, 1) := dk_3 (dk_at dksX6_wordsOf_0 11 rfl rfl)
theorem dX6_wordsOf_12 : decode cX6_wordsOf 12 = .ok (.istore_n 3, 1) := dk_62 (dk_at dksX6_wordsOf_0 12 rfl rfl)
theorem dX6_wordsOf_13 : decode cX6_wordsOf 13 = .ok (.iload_n 3, 1) := dk_29 (dk_at dksX6_wordsOf_0 13 rfl rfl)
theorem dX6_wordsOf_14 : decode cX6_wordsOf 14 = .ok (.aload_n 0, 1) := dk_42 (dk_at dksX6_wordsOf_0 14 rfl rfl)
theorem dX6_wordsOf_15 : decode cX6_wordsOf 15 = .ok (.getfield 23, 3) := dk_180 0 23 (dk_at dksX6_wordsOf_0 15 rfl rfl)
theorem dX6_wordsOf_18 : decode cX6_wordsOf 18 = .ok (.iconst 2, 1) := dk_5 (dk_at dksX6_wordsOf_0 18 rfl rfl)
theorem dX6_wordsOf_19 : decode cX6_wordsOf 19 = .ok (.iaload, 1) := dk_46 (dk_at dksX6_wordsOf_0 19 rfl rfl)
theorem dX6_wordsOf_20 : decode cX6_wordsOf 20 = .ok (.if_icmp .ge 38, 3) := dk_162 0 38 (dk_at dksX6_wordsOf_0 20 rfl rfl)
theorem dX6_wordsOf_23 : decode cX6_wordsOf 23 = .ok (.iload_n 2, 1) := dk_28 (dk_at dksX6_wordsOf_0 23 rfl rfl)
theorem dX6_wordsOf_24 : decode cX6_wordsOf 24 = .ok (.aload_n 0, 1) := dk_42 (dk_at dksX6_wordsOf_1 0 rfl rfl)
theorem dX6_wordsOf_25 : decode cX6_wordsOf 25 = .ok (.getfield 43, 3) := dk_180 0 43 (dk_at dksX6_wordsOf_1 1 rfl rfl)
theorem dX6_wordsOf_28 : decode cX6_wordsOf 28 = .ok (.iload_n 3, 1) := dk_29 (dk_at dksX6_wordsOf_1 4 rfl rfl)
theorem dX6_wordsOf_29 : decode cX6_wordsOf 29 = .ok (.aaload, 1) := dk_50 (dk_at dksX6_wordsOf_1 5 rfl rfl)
theorem dX6_wordsOf_30 : decode cX6_wordsOf 30 = .ok (.iconst 0, 1) := dk_3 (dk_at dksX6_wordsOf_1 6 rfl rfl)
theorem dX6_wordsOf_31 : decode cX6_wordsOf 31 = .ok (.iaload, 1) := dk_46 (dk_at dksX6_wordsOf_1 7 rfl rfl)
theorem dX6_wordsOf_32 : decode cX6_wordsOf 32 = .ok (.iload_n 1, 1) := dk_27 (dk_at dksX6_wordsOf_1 8 rfl rfl)
theorem dX6_wordsOf_33 : decode cX6_wordsOf 33 = .ok (.if_icmp .ne 16, 3) := dk_160 0 16 (dk_at dksX6_wordsOf_1 9 rfl rfl)
theorem dX6_wordsOf_36 : decode cX6_wordsOf 36 = .ok (.iconst 1, 1) := dk_4 (dk_at dksX6_wordsOf_1 12 rfl rfl)
theorem dX6_wordsOf_37 : decode cX6_wordsOf 37 = .ok (.aload_n 0, 1) := dk_42 (dk_at dksX6_wordsOf_1 13 rfl rfl)
theorem dX6_wordsOf_38 : decode cX6_wordsOf 38 = .ok (.getfield 43, 3) := dk_180 0 43 (dk_at dksX6_wordsOf_1 14 rfl rfl)
theorem dX6_wordsOf_41 : decode cX6_wordsOf 41 = .ok (.iload_n 3, 1) := dk_29 (dk_at dksX6_wordsOf_1 17 rfl rfl)
theorem dX6_wordsOf_42 : decode cX6_wordsOf 42 = .ok (.aaload, 1) := dk_50 (dk_at dksX6_wordsOf_1 18 rfl rfl)
theorem dX6_wordsOf_43 : decode cX6_wordsOf 43 = .ok (.iconst 1, 1) := dk_4 (dk_at dksX6_wordsOf_1 19 rfl rfl)
theorem dX6_wordsOf_44 : decode cX6_wordsOf 44 = .ok (.iaload, 1) := dk_46 (dk_at dksX6_wordsOf_1 20 rfl rfl)
theorem dX6_wordsOf_45 : decode cX6_wordsOf 45 = .ok (.ishl, 1) := dk_120 (dk_at dksX6_wordsOf_1 21 rfl rfl)
theorem dX6_wordsOf_46 : decode cX6_wordsOf 46 = .ok (.goto 4, 3) := dk_167 0 4 (dk_at dksX6_wordsOf_2 0 rfl rfl)
theorem dX6_wordsOf_49 : decode cX6_wordsOf 49 = .ok (.iconst 0, 1) := dk_3 (dk_at dksX6_wordsOf_2 3 rfl rfl)
theorem dX6_wordsOf_50 : decode cX6_wordsOf 50 = .ok (.ior, 1) := dk_128 (dk_at dksX6_wordsOf_2 4 rfl rfl)
theorem dX6_wordsOf_51 : decode cX6_wordsOf 51 = .ok (.istore_n 2, 1) := dk_61 (dk_at dksX6_wordsOf_2 5 rfl rfl)
theorem dX6_wordsOf_52 : decode cX6_wordsOf 52 = .ok (.iinc 3 1, 3) := dk_132 3 1 (dk_at dksX6_wordsOf_2 6 rfl rfl)
theorem dX6_wordsOf_55 : decode cX6_wordsOf 55 = .ok (.goto (-42), 3) := dk_167 255 214 (dk_at dksX6_wordsOf_2 9 rfl rfl)
theorem dX6_wordsOf_58 : decode cX6_wordsOf 58 = .ok (.iload_n 2, 1) := dk_28 (dk_at dksX6_wordsOf_2 12 rfl rfl)
theorem dX6_wordsOf_59 : decode cX6_wordsOf 59 = .ok (.ireturn, 1) := dk_172 (dk_at dksX6_wordsOf_2 13 rfl rfl)
abbrev cX6_dayEnds : ByteArray := prog_34_method_55_code
def yX6_dayEnds : MethodName := ⟨RX6, "dayEnds", "([I)V"⟩
def dkwX6_dayEnds_3 : List UInt8 := [132, 2, 1, 167, 255, 191, 43, 16, 56, 92, 46, 4, 96, 79, 177]
abbrev dktX6_dayEnds_3 : List UInt8 := dkwX6_dayEnds_3 ++ []
def dkwX6_dayEnds_2 : List UInt8 := [96, 46, 42, 180, 0, 31, 28, 50, 4, 46, 96, 184, 0, 235, 79, 43, 16, 28, 28, 96, 3, 79]
abbrev dktX6_dayEnds_2 : List UInt8 := dkwX6_dayEnds_2 ++ dktX6_dayEnds_3
def dkwX6_dayEnds_1 : List UInt8 := [16, 28, 28, 96, 46, 154, 0, 12, 43, 16, 21, 28, 96, 46, 167, 0, 24, 17, 39, 15, 43, 16, 21, 28]
abbrev dktX6_dayEnds_1 : List UInt8 := dkwX6_dayEnds_1 ++ dktX6_dayEnds_2
def dkwX6_dayEnds_0 : List UInt8 := [42, 43, 182, 0, 188, 3, 61, 28, 42, 180, 0, 23, 3, 46, 162, 0, 61, 43, 16, 21, 28, 96, 43]
abbrev dktX6_dayEnds_0 : List UInt8 := dkwX6_dayEnds_0 ++ dktX6_dayEnds_1
theorem dksX6_dayEnds_0 : cX6_dayEnds.data.toList.drop 0 = dktX6_dayEnds_0 := by decide +kernel
theorem dksX6_dayEnds_1 : cX6_dayEnds.data.toList.drop 23 = dktX6_dayEnds_1 := dk_seg dksX6_dayEnds_0 23 rfl rfl
theorem dksX6_dayEnds_2 : cX6_dayEnds.data.toList.drop 47 = dktX6_dayEnds_2 := dk_seg dksX6_dayEnds_1 24 rfl rfl
theorem dksX6_dayEnds_3 : cX6_dayEnds.data.toList.drop 69 = dktX6_dayEnds_3 := dk_seg dksX6_dayEnds_2 22 rfl rfl
theorem dX6_dayEnds_0 : decode cX6_dayEnds 0 = .ok (.aload_n 0, 1) := dk_42 (dk_at dksX6_dayEnds_0 0 rfl rfl)
theorem dX6_dayEnds_1 : decode cX6_dayEnds 1 = .ok (.aload_n 1, 1) := dk_43 (dk_at dksX6_dayEnds_0 1 rfl rfl)
theorem dX6_dayEnds_2 : decode cX6_dayEnds 2 = .ok (.invokevirtual 188, 3) := dk_182 0 188 (dk_at dksX6_dayEnds_0 2 rfl rfl)
theorem dX6_dayEnds_5 : decode cX6_dayEnds 5 = .ok (.iconst 0, 1) := dk_3 (dk_at dksX6_dayEnds_0 5 rfl rfl)
theorem dX6_dayEnds_6 : decode cX6_dayEnds 6 = .ok (.istore_n 2, 1) := dk_61 (dk_at dksX6_dayEnds_0 6 rfl rfl)
theorem dX6_dayEnds_7 : decode cX6_dayEnds 7 = .ok (.iload_n 2, 1) := dk_28 (dk_at dksX6_dayEnds_0 7 rfl rfl)
theorem dX6_dayEnds_8 : decode cX6_dayEnds 8 = .ok (.aload_n 0, 1) := dk_42 (dk_at dksX6_dayEnds_0 8 rfl rfl)
theorem dX6_dayEnds_9 : decode cX6_dayEnds 9 = .ok (.getfield 23, 3) := dk_180 0 23 (dk_at dksX6_dayEnds_0 9 rfl rfl)
theorem dX6_dayEnds_12 : decode cX6_dayEnds 12 = .ok (.iconst 0, 1) := dk_3 (dk_at dksX6_dayEnds_0 12 rfl rfl)
theorem dX6_dayEnds_13 : decode cX6_dayEnds 13 = .ok (.iaload, 1) := dk_46 (dk_at dksX6_dayEnds_0 13 rfl rfl)
theorem dX6_dayEnds_14 : decode cX6_dayEnds 14 = .ok (.if_icmp .ge 61, 3) := dk_162 0 61 (dk_at dksX6_dayEnds_0 14 rfl rfl)
theorem dX6_dayEnds_17 : decode cX6_dayEnds 17 = .ok (.aload_n 1, 1) := dk_43 (dk_at dksX6_dayEnds_0 17 rfl rfl)
theorem dX6_dayEnds_18 : decode cX6_dayEnds 18 = .ok (.bipush 21, 2) := dk_16 21 (dk_at dksX6_dayEnds_0 18 rfl rfl)
theorem dX6_dayEnds_20 : decode cX6_dayEnds 20 = .ok (.iload_n 2, 1) := dk_28 (dk_at dksX6_dayEnds_0 20 rfl rfl)
theorem dX6_dayEnds_21 : decode cX6_dayEnds 21 = .ok (.iadd, 1) := dk_96 (dk_at dksX6_dayEnds_0 21 rfl rfl)
theorem dX6_dayEnds_22 : decode cX6_dayEnds 22 = .ok (.aload_n 1, 1) := dk_43 (dk_at dksX6_dayEnds_0 22 rfl rfl)
theorem dX6_dayEnds_23 : decode cX6_dayEnds 23 = .ok (.bipush 28, 2) := dk_16 28 (dk_at dksX6_dayEnds_1 0 rfl rfl)
theorem dX6_dayEnds_25 : decode cX6_dayEnds 25 = .ok (.iload_n 2, 1) := dk_28 (dk_at dksX6_dayEnds_1 2 rfl rfl)
theorem dX6_dayEnds_26 : decode cX6_dayEnds 26 = .ok (.iadd, 1) := dk_96 (dk_at dksX6_dayEnds_1 3 rfl rfl)
theorem dX6_dayEnds_27 : decode cX6_dayEnds 27 = .ok (.iaload, 1) := dk_46 (dk_at dksX6_dayEnds_1 4 rfl rfl)
theorem dX6_dayEnds_28 : decode cX6_dayEnds 28 = .ok (.ifCond .ne 12, 3) := dk_154 0 12 (dk_at dksX6_dayEnds_1 5 rfl rfl)
theorem dX6_dayEnds_31 : decode cX6_dayEnds 31 = .ok (.aload_n 1, 1) := dk_43 (dk_at dksX6_dayEnds_1 8 rfl rfl)
theorem dX6_dayEnds_32 : decode cX6_dayEnds 32 = .ok (.bipush 21, 2) := dk_16 21 (dk_at dksX6_dayEnds_1 9 rfl rfl)
theorem dX6_dayEnds_34 : decode cX6_dayEnds 34 = .ok (.iload_n 2, 1) := dk_28 (dk_at dksX6_dayEnds_1 11 rfl rfl)
theorem dX6_dayEnds_35 : decode cX6_dayEnds 35 = .ok (.iadd, 1) := dk_96 (dk_at dksX6_dayEnds_1 12 rfl rfl)
theorem dX6_dayEnds_36 : decode cX6_dayEnds 36 = .ok (.iaload, 1) := dk_46 (dk_at dksX6_dayEnds_1 13 rfl rfl)
theorem dX6_dayEnds_37 : decode cX6_dayEnds 37 = .ok (.goto 24, 3) := dk_167 0 24 (dk_at dksX6_dayEnds_1 14 rfl rfl)
theorem dX6_dayEnds_40 : decode cX6_dayEnds 40 = .ok (.sipush 9999, 3) := dk_17 39 15 (dk_at dksX6_dayEnds_1 17 rfl rfl)
theorem dX6_dayEnds_43 : decode cX6_dayEnds 43 = .ok (.aload_n 1, 1) := dk_43 (dk_at dksX6_dayEnds_1 20 rfl rfl)
theorem dX6_dayEnds_44 : decode cX6_dayEnds 44 = .ok (.bipush 21, 2) := dk_16 21 (dk_at dksX6_dayEnds_1 21 rfl rfl)
theorem dX6_dayEnds_46 : decode cX6_dayEnds 46 = .ok (.iload_n 2, 1) := dk_28 (dk_at dksX6_dayEnds_1 23 rfl rfl)
theorem dX6_dayEnds_47 : decode cX6_dayEnds 47 = .ok (.iadd, 1) := dk_96 (dk_at dksX6_dayEnds_2 0 rfl rfl)
theorem dX6_dayEnds_48 : decode cX6_dayEnds 48 = .ok (.iaload, 1) := dk_46 (dk_at dksX6_dayEnds_2 1 rfl rfl)
theorem dX6_dayEnds_49 : decode cX6_dayEnds 49 = .ok (.aload_n 0, 1) := dk_42 (dk_at dksX6_dayEnds_2 2 rfl rfl)
theorem dX6_dayEnds_50 : decode cX6_dayEnds 50 = .ok (.getfield 31, 3) := dk_180 0 31 (dk_at dksX6_dayEnds_2 3 rfl rfl)
theorem dX6_dayEnds_53 : decode cX6_dayEnds 53 = .ok (.iload_n 2, 1) := dk_28 (dk_at dksX6_dayEnds_2 6 rfl rfl)
theorem dX6_dayEnds_54 : decode cX6_dayEnds 54 = .ok (.aaload, 1) := dk_50 (dk_at dksX6_dayEnds_2 7 rfl rfl)
theorem dX6_dayEnds_55 : decode cX6_dayEnds 55 = .ok (.iconst 1, 1) := dk_4 (dk_at dksX6_dayEnds_2 8 rfl rfl)
theorem dX6_dayEnds_56 : decode cX6_dayEnds 56 = .ok (.iaload, 1) := dk_46 (dk_at dksX6_dayEnds_2 9 rfl rfl)
theorem dX6_dayEnds_57 : decode cX6_dayEnds 57 = .ok (.iadd, 1) := dk_96 (dk_at dksX6_dayEnds_2 10 rfl rfl)
theorem dX6_dayEnds_58 : decode cX6_dayEnds 58 = .ok (.invokestatic 235, 3) := dk_184 0 235 (dk_at dksX6_dayEnds_2 11 rfl rfl)
theorem dX6_dayEnds_61 : decode cX6_dayEnds 61 = .ok (.iastore, 1) := dk_79 (dk_at dksX6_dayEnds_2 14 rfl rfl)
theorem dX6_dayEnds_62 : decode cX6_dayEnds 62 = .ok (.aload_n 1, 1) := dk_43 (dk_at dksX6_dayEnds_2 15 rfl rfl)
theorem dX6_dayEnds_63 : decode cX6_dayEnds 63 = .ok (.bipush 28, 2) := dk_16 28 (dk_at dksX6_dayEnds_2 16 rfl rfl)
theorem dX6_dayEnds_65 : decode cX6_dayEnds 65 = .ok (.iload_n 2, 1) := dk_28 (dk_at dksX6_dayEnds_2 18 rfl rfl)
theorem dX6_dayEnds_66 : decode cX6_dayEnds 66 = .ok (.iadd, 1) := dk_96 (dk_at dksX6_dayEnds_2 19 rfl rfl)
theorem dX6_dayEnds_67 : decode cX6_dayEnds 67 = .ok (.iconst 0, 1) := dk_3 (dk_at dksX6_dayEnds_2 20 rfl rfl)
theorem dX6_dayEnds_68 : decode cX6_dayEnds 68 = .ok (.iastore, 1) := dk_79 (dk_at dksX6_dayEnds_2 21 rfl rfl)
theorem dX6_dayEnds_69 : decode cX6_dayEnds 69 = .ok (.iinc 2 1, 3) := dk_132 2 1 (dk_at dksX6_dayEnds_3 0 rfl rfl)
theorem dX6_dayEnds_72 : decode cX6_dayEnds 72 = .ok (.goto (-65), 3) := dk_167 255 191 (dk_at dksX6_dayEnds_3 3 rfl rfl)
theorem dX6_dayEnds_75 : decode cX6_dayEnds 75 = .ok (.aload_n 1, 1) := dk_43 (dk_at dksX6_dayEnds_3 6 rfl rfl)
theorem dX6_dayEnds_76 : decode cX6_dayEnds 76 = .ok (.bipush 56, 2) := dk_16 56 (dk_at dksX6_dayEnds_3 7 rfl rfl)
theorem dX6_dayEnds_78 : decode cX6_dayEnds 78 = .ok (.dup2, 1) := dk_92 (dk_at dksX6_dayEnds_3 9 rfl rfl)
theorem dX6_dayEnds_79 : decode cX6_dayEnds 79 = .ok (.iaload, 1) := dk_46 (dk_at dksX6_dayEnds_3 10 rfl rfl)
theorem dX6_dayEnds_80 : decode cX6_dayEnds 80 = .ok (.iconst 1, 1) := dk_4 (dk_at dksX6_dayEnds_3 11 rfl rfl)
theorem dX6_dayEnds_81 : decode cX6_dayEnds 81 = .ok (.iadd, 1) := dk_96 (dk_at dksX6_dayEnds_3 12 rfl rfl)
theorem dX6_dayEnds_82 : decode cX6_dayEnds 82 = .ok (.iastore, 1) := dk_79 (dk_at dksX6_dayEnds_3 13 rfl rfl)
theorem dX6_dayEnds_83 : decode cX6_dayEnds 83 = .ok (.return_, 1) := dk_177 (dk_at dksX6_dayEnds_3 14 rfl rfl)
abbrev cX6_undo : ByteArray := prog_34_method_59_code
def yX6_undo : MethodName := ⟨RX6, "undo", "()I"⟩
def dkwX6_undo_2 : List UInt8 := [180, 0, 198, 172]
abbrev dktX6_undo_2 : List UInt8 := dkwX6_undo_2 ++ []
def dkwX6_undo_1 : List UInt8 := [42, 180, 0, 73, 42, 180, 0, 198, 50, 42, 180, 0, 67, 184, 1, 54, 42, 3, 181, 0, 201, 42]
abbrev dktX6_undo_1 : List UInt8 := dkwX6_undo_1 ++ dktX6_undo_2
def dkwX6_undo_0 : List UInt8 := [42, 3, 181, 0, 95, 42, 180, 0, 198, 154, 0, 5, 2, 172, 42, 89, 180, 0, 198, 4, 100, 181, 0, 198]
abbrev dktX6_undo_0 : List UInt8 := dkwX6_undo_0 ++ dktX6_undo_1
theorem dksX6_undo_0 : cX6_undo.data.toList.drop 0 = dktX6_undo_0 := by decide +kernel
theorem dksX6_undo_1 : cX6_undo.data.toList.drop 24 = dktX6_undo_1 := dk_seg dksX6_undo_0 24 rfl rfl
theorem dksX6_undo_2 : cX6_undo.data.toList.drop 46 = dktX6_undo_2 := dk_seg dksX6_undo_1 22 rfl rfl
theorem dX6_undo_0 : decode cX6_undo 0 = .ok (.aload_n 0, 1) := dk_42 (dk_at dksX6_undo_0 0 rfl rfl)
theorem dX6_undo_1 : decode cX6_undo 1 = .ok (.iconst 0, 1) := dk_3 (dk_at dksX6_undo_0 1 rfl rfl)
theorem dX6_undo_2 : decode cX6_undo 2 = .ok (.putfield 95, 3) := dk_181 0 95 (dk_at dksX6_undo_0 2 rfl rfl)
theorem dX6_undo_5 : decode cX6_undo 5 = .ok (.aload_n 0, 1) := dk_42 (dk_at dksX6_undo_0 5 rfl rfl)
theorem dX6_undo_6 : decode cX6_undo 6 = .ok (.getfield 198, 3) := dk_180 0 198 (dk_at dksX6_undo_0 6 rfl rfl)
theorem dX6_undo_9 : decode cX6_undo 9 = .ok (.ifCond .ne 5, 3) := dk_154 0 5 (dk_at dksX6_undo_0 9 rfl rfl)
theorem dX6_undo_12 : decode cX6_undo 12 = .ok (.iconst (-1), 1) := dk_2 (dk_at dksX6_undo_0 12 rfl rfl)
theorem dX6_undo_13 : decode cX6_undo 13 = .ok (.ireturn, 1) := dk_172 (dk_at dksX6_undo_0 13 rfl rfl)
theorem dX6_undo_14 : decode cX6_undo 14 = .ok (.aload_n 0, 1) := dk_42 (dk_at dksX6_undo_0 14 rfl rfl)
theorem dX6_undo_15 : decode cX6_undo 15 = .ok (.dup, 1) := dk_89 (dk_at dksX6_undo_0 15 rfl rfl)
theorem dX6_undo_16 : decode cX6_undo 16 = .ok (.getfield 198, 3) := dk_180 0 198 (dk_at dksX6_undo_0 16 rfl rfl)
theorem dX6_undo_19 : decode cX6_undo 19 = .ok (.iconst 1, 1) := dk_4 (dk_at dksX6_undo_0 19 rfl rfl)
theorem dX6_undo_20 : decode cX6_undo 20 = .ok (.isub, 1) := dk_100 (dk_at dksX6_undo_0 20 rfl rfl)
theorem dX6_undo_21 : decode cX6_undo 21 = .ok (.putfield 198, 3) := dk_181 0 198 (dk_at dksX6_undo_0 21 rfl rfl)
theorem dX6_undo_24 : decode cX6_undo 24 = .ok (.aload_n 0, 1) := dk_42 (dk_at dksX6_undo_1 0 rfl rfl)
theorem dX6_undo_25 : decode cX6_undo 25 = .ok (.getfield 73, 3) := dk_180 0 73 (dk_at dksX6_undo_1 1 rfl rfl)
theorem dX6_undo_28 : decode cX6_undo 28 = .ok (.aload_n 0, 1) := dk_42 (dk_at dksX6_undo_1 4 rfl rfl)
theorem dX6_undo_29 : decode cX6_undo 29 = .ok (.getfield 198, 3) := dk_180 0 198 (dk_at dksX6_undo_1 5 rfl rfl)
theorem dX6_undo_32 : decode cX6_undo 32 = .ok (.aaload, 1) := dk_50 (dk_at dksX6_undo_1 8 rfl rfl)
theorem dX6_undo_33 : decode cX6_undo 33 = .ok (.aload_n 0, 1) := dk_42 (dk_at dksX6_undo_1 9 rfl rfl)
theorem dX6_undo_34 : decode cX6_undo 34 = .ok (.getfield 67, 3) := dk_180 0 67 (dk_at dksX6_undo_1 10 rfl rfl)
theorem dX6_undo_37 : decode cX6_undo 37 = .ok (.invokestatic 310, 3) := dk_184 1 54 (dk_at dksX6_undo_1 13 rfl rfl)
theorem dX6_undo_40 : decode cX6_undo 40 = .ok (.aload_n 0, 1) := dk_42 (dk_at dksX6_undo_1 16 rfl rfl)
theorem dX6_undo_41 : decode cX6_undo 41 = .ok (.iconst 0, 1) := dk_3 (dk_at dksX6_undo_1 17 rfl rfl)
theorem dX6_undo_42 : decode cX6_undo 42 = .ok (.putfield 201, 3) := dk_181 0 201 (dk_at dksX6_undo_1 18 rfl rfl)
theorem dX6_undo_45 : decode cX6_undo 45 = .ok (.aload_n 0, 1) := dk_42 (dk_at dksX6_undo_1 21 rfl rfl)
theorem dX6_undo_46 : decode cX6_undo 46 = .ok (.getfield 198, 3) := dk_180 0 198 (dk_at dksX6_undo_2 0 rfl rfl)
theorem dX6_undo_49 : decode cX6_undo 49 = .ok (.ireturn, 1) := dk_172 (dk_at dksX6_undo_2 3 rfl rfl)
abbrev cX6_told : ByteArray := prog_34_method_62_code
def yX6_told : MethodName := ⟨RX6, "told", "(I)I"⟩
def dkwX6_told_8 : List UInt8 := [180, 0, 201, 172, 28, 172]
abbrev dktX6_told_8 : List UInt8 := dkwX6_told_8 ++ []
def dkwX6_told_7 : List UInt8 := [16, 21, 182, 1, 62, 172, 42, 42, 180, 0, 67, 3, 182, 1, 62, 172, 42, 180, 0, 195, 172, 42]
abbrev dktX6_told_7 : List UInt8 := dkwX6_told_7 ++ dktX6_told_8
def dkwX6_told_6 : List UInt8 := [42, 180, 0, 67, 16, 55, 46, 172, 42, 42, 180, 0, 67, 16, 14, 182, 1, 62, 172, 42, 42, 180, 0, 67]
abbrev dktX6_told_6 : List UInt8 := dkwX6_told_6 ++ dktX6_told_7
def dkwX6_told_5 : List UInt8 := [42, 180, 0, 23, 27, 46, 172, 42, 180, 0, 67, 16, 56, 46, 172, 42, 42, 180, 0, 67, 182, 1, 58, 172]
abbrev dktX6_told_5 : List UInt8 := dkwX6_told_5 ++ dktX6_told_6
def dkwX6_told_4 : List UInt8 := [170, 0, 0, 0, 0, 132, 0, 0, 0, 0, 0, 0, 0, 10, 0, 0, 0, 58, 0, 0, 0, 58, 0, 0, 0, 58, 0, 0, 0, 65, 0, 0, 0, 73, 0, 0, 0, 82, 0, 0, 0, 90, 0, 0, 0, 101, 0, 0, 0, 112, 0, 0, 0, 122, 0, 0, 0, 127]
abbrev dktX6_told_4 : List UInt8 := dkwX6_told_4 ++ dktX6_told_5
def dkwX6_told_3 : List UInt8 := [29, 120, 128, 61, 132, 3, 1, 167, 255, 213, 27]
abbrev dktX6_told_3 : List UInt8 := dkwX6_told_3 ++ dktX6_told_4
def dkwX6_told_2 : List UInt8 := [180, 0, 67, 16, 35, 29, 96, 46, 42, 180, 0, 37, 29, 50, 3, 46, 160, 0, 7, 3, 167, 0, 6, 4]
abbrev dktX6_told_2 : List UInt8 := dkwX6_told_2 ++ dktX6_told_3
def dkwX6_told_1 : List UInt8 := [182, 0, 171, 153, 0, 5, 3, 172, 3, 61, 3, 62, 29, 42, 180, 0, 23, 4, 46, 162, 0, 39, 28, 42]
abbrev dktX6_told_1 : List UInt8 := dkwX6_told_1 ++ dktX6_told_2
def dkwX6_told_0 : List UInt8 := [42, 3, 181, 0, 95, 42, 27, 3, 16, 11, 184, 0, 129, 154, 0, 7, 4, 167, 0, 4, 3, 4, 4]
abbrev dktX6_told_0 : List UInt8 := dkwX6_told_0 ++ dktX6_told_1
theorem dksX6_told_0 : cX6_told.data.toList.drop 0 = dktX6_told_0 := by decide +kernel
theorem dksX6_told_1 : cX6_told.data.toList.drop 23 = dktX6_told_1 := dk_seg dksX6_told_0 23 rfl rfl
theorem dksX6_told_2 : cX6_told.data.toList.drop 47 = dktX6_told_2 := dk_seg dksX6_told_1 24 rfl rfl
theorem dksX6_told_3 : cX6_told.data.toList.drop 71 = dktX6_told_3 := dk_seg dksX6_told_2 24 rfl rfl
theorem dksX6_told_4 : cX6_told.data.toList.drop 82 = dktX6_told_4 := dk_seg dksX6_told_3 11 rfl rfl
theorem dksX6_told_5 : cX6_told.data.toList.drop 140 = dktX6_told_5 := dk_seg dksX6_told_4 58 rfl rfl
theorem dksX6_told_6 : cX6_told.data.toList.drop 164 = dktX6_told_6 := dk_seg dksX6_told_5 24 rfl rfl
theorem dksX6_told_7 : cX6_told.data.toList.drop 188 = dktX6_told_7 := dk_seg dksX6_told_6 24 rfl rfl
theorem dksX6_told_8 : cX6_told.data.toList.drop 210 = dktX6_told_8 := dk_seg dksX6_told_7 22 rfl rfl
theorem dX6_told_0 : decode cX6_told 0 = .ok (.aload_n 0, 1) := dk_42 (dk_at dksX6_told_0 0 rfl rfl)
theorem dX6_told_1 : decode cX6_told 1 = .ok (.iconst 0, 1) := dk_3 (dk_at dksX6_told_0 1 rfl rfl)
theorem dX6_told_2 : decode cX6_told 2 = .ok (.putfield 95, 3) := dk_181 0 95 (dk_at dksX6_told_0 2 rfl rfl)
theorem dX6_told_5 : decode cX6_told 5 = .ok (.aload_n 0, 1) := dk_42 (dk_at dksX6_told_0 5 rfl rfl)
theorem dX6_told_6 : decode cX6_told 6 = .ok (.iload_n 1, 1) := dk_27 (dk_at dksX6_told_0 6 rfl rfl)
theorem dX6_told_7 : decode cX6_told 7 = .ok (.iconst 0, 1) := dk_3 (dk_at dksX6_told_0 7 rfl rfl)
theorem dX6_told_8 : decode cX6_told 8 = .ok (.bipush 11, 2) := dk_16 11 (dk_at dksX6_told_0 8 rfl rfl)
theorem dX6_told_10 : decode cX6_told 10 = .ok (.invokestatic 129, 3) := dk_184 0 129 (dk_at dksX6_told_0 10 rfl rfl)
theorem dX6_told_13 : decode cX6_told 13 = .ok (.ifCond .ne 7, 3) := dk_154 0 7 (dk_at dksX6_told_0 13 rfl rfl)
theorem dX6_told_16 : decode cX6_told 16 = .ok (.iconst 1, 1) := dk_4 (dk_at dksX6_told_0 16 rfl rfl)
theorem dX6_told_17 : decode cX6_told 17 = .ok (.goto 4, 3) := dk_167 0 4 (dk_at dksX6_told_0 17 rfl rfl)
theorem dX6_told_20 : decode cX6_told 20 = .ok (.iconst 0, 1) := dk_3 (dk_at dksX6_told_0 20 rfl rfl)
theorem dX6_told_21 : decode cX6_told 21 = .ok (.iconst 1, 1) := dk_4 (dk_at dksX6_told_0 21 rfl rfl)
theorem dX6_told_22 : decode cX6_told 22 = .ok (.iconst 1, 1) := dk_4 (dk_at dksX6_told_0 22 rfl rfl)
theorem dX6_told_23 : decode cX6_told 23 = .ok (.invokevirtual 171, 3) := dk_182 0 171 (dk_at dksX6_told_1 0 rfl rfl)
theorem dX6_told_26 : decode cX6_told 26 = .ok (.ifCond .eq 5, 3) := dk_153 0 5 (dk_at dksX6_told_1 3 rfl rfl)
theorem dX6_told_29 : decode cX6_told 29 = .ok (.iconst 0, 1) := dk_3 (dk_at dksX6_told_1 6 rfl rfl)
theorem dX6_told_30 : decode cX6_told 30 = .ok (.ireturn, 1) := dk_172 (dk_at dksX6_told_1 7 rfl rfl)
theorem dX6_told_31 : decode cX6_told 31 = .ok (.iconst 0, 1) := dk_3 (dk_at dksX6_told_1 8 rfl rfl)
theorem dX6_told_32 : decode cX6_told 32 = .ok (.istore_n 2, 1) := dk_61 (dk_at dksX6_told_1 9 rfl rfl)
theorem dX6_told_33 : decode cX6_told 33 = .ok (.iconst 0, 1) := dk_3 (dk_at dksX6_told_1 10 rfl rfl)
theorem dX6_told_34 : decode cX6_told 34 = .ok (.istore_n 3, 1) := dk_62 (dk_at dksX6_told_1 11 rfl rfl)
theorem dX6_told_35 : decode cX6_told 35 = .ok (.iload_n 3, 1) := dk_29 (dk_at dksX6_told_1 12 rfl rfl)
theorem dX6_told_36 : decode cX6_told 36 = .ok (.aload_n 0, 1) := dk_42 (dk_at dksX6_told_1 13 rfl rfl)
theorem dX6_told_37 : decode cX6_told 37 = .ok (.getfield 23, 3) := dk_180 0 23 (dk_at dksX6_told_1 14 rfl rfl)
theorem dX6_told_40 : decode cX6_told 40 = .ok (.iconst 1, 1) := dk_4 (dk_at dksX6_told_1 17 rfl rfl)
theorem dX6_told_41 : decode cX6_told 41 = .ok (.iaload, 1) := dk_46 (dk_at dksX6_told_1 18 rfl rfl)
theorem dX6_told_42 : decode cX6_told 42 = .ok (.if_icmp .ge 39, 3) := dk_162 0 39 (dk_at dksX6_told_1 19 rfl rfl)
theorem dX6_told_45 : decode cX6_told 45 = .ok (.iload_n 2, 1) := dk_28 (dk_at dksX6_told_1 22 rfl rfl)
theorem dX6_told_46 : decode cX6_told 46 = .ok (.aload_n 0, 1) := dk_42 (dk_at dksX6_told_1 23 rfl rfl)
theorem dX6_told_47 : decode cX6_told 47 = .ok (.getfield 67, 3) := dk_180 0 67 (dk_at dksX6_told_2 0 rfl rfl)
theorem dX6_told_50 : decode cX6_told 50 = .ok (.bipush 35, 2) := dk_16 35 (dk_at dksX6_told_2 3 rfl rfl)
theorem dX6_told_52 : decode cX6_told 52 = .ok (.iload_n 3, 1) := dk_29 (dk_at dksX6_told_2 5 rfl rfl)
theorem dX6_told_53 : decode cX6_told 53 = .ok (.iadd, 1) := dk_96 (dk_at dksX6_told_2 6 rfl rfl)
theorem dX6_told_54 : decode cX6_told 54 = .ok (.iaload, 1) := dk_46 (dk_at dksX6_told_2 7 rfl rfl)
theorem dX6_told_55 : decode cX6_told 55 = .ok (.aload_n 0, 1) := dk_42 (dk_at dksX6_told_2 8 rfl rfl)
theorem dX6_told_56 : decode cX6_told 56 = .ok (.getfield 37, 3) := dk_180 0 37 (dk_at dksX6_told_2 9 rfl rfl)
theorem dX6_told_59 : decode cX6_told 59 = .ok (.iload_n 3, 1) := dk_29 (dk_at dksX6_told_2 12 rfl rfl)
theorem dX6_told_60 : decode cX6_told 60 = .ok (.aaload, 1) := dk_50 (dk_at dksX6_told_2 13 rfl rfl)
theorem dX6_told_61 : decode cX6_told 61 = .ok (.iconst 0, 1) := dk_3 (dk_at dksX6_told_2 14 rfl rfl)
theorem dX6_told_62 : decode cX6_told 62 = .ok (.iaload, 1) := dk_46 (dk_at dksX6_told_2 15 rfl rfl)
theorem dX6_told_63 : decode cX6_told 63 = .ok (.if_icmp .ne 7, 3) := dk_160 0 7 (dk_at dksX6_told_2 16 rfl rfl)
theorem dX6_told_66 : decode cX6_told 66 = .ok (.iconst 0, 1) := dk_3 (dk_at dksX6_told_2 19 rfl rfl)
theorem dX6_told_67 : decode cX6_told 67 = .ok (.goto 6, 3) := dk_167 0 6 (dk_at dksX6_told_2 20 rfl rfl)
theorem dX6_told_70 : decode cX6_told 70 = .ok (.iconst 1, 1) := dk_4 (dk_at dksX6_told_2 23 rfl rfl)
theorem dX6_told_71 : decode cX6_told 71 = .ok (.iload_n 3, 1) := dk_29 (dk_at dksX6_told_3 0 rfl rfl)
theorem dX6_told_72 : decode cX6_told 72 = .ok (.ishl, 1) := dk_120 (dk_at dksX6_told_3 1 rfl rfl)
theorem dX6_told_73 : decode cX6_told 73 = .ok (.ior, 1) := dk_128 (dk_at dksX6_told_3 2 rfl rfl)
theorem dX6_told_74 : decode cX6_told 74 = .ok (.istore_n 2, 1) := dk_61 (dk_at dksX6_told_3 3 rfl rfl)
theorem dX6_told_75 : decode cX6_told 75 = .ok (.iinc 3 1, 3) := dk_132 3 1 (dk_at dksX6_told_3 4 rfl rfl)
theorem dX6_told_78 : decode cX6_told 78 = .ok (.goto (-43), 3) := dk_167 255 213 (dk_at dksX6_told_3 7 rfl rfl)
theorem dX6_told_81 : decode cX6_told 81 = .ok (.iload_n 1, 1) := dk_27 (dk_at dksX6_told_3 10 rfl rfl)
theorem dX6_told_82 : decode cX6_told 82 = .ok (.tableswitch 132 0 10 #[58, 58, 58, 65, 73, 82, 90, 101, 112, 122, 127], 58) := by decide +kernel
theorem dX6_told_140 : decode cX6_told 140 = .ok (.aload_n 0, 1) := dk_42 (dk_at dksX6_told_5 0 rfl rfl)
theorem dX6_told_141 : decode cX6_told 141 = .ok (.getfield 23, 3) := dk_180 0 23 (dk_at dksX6_told_5 1 rfl rfl)
theorem dX6_told_144 : decode cX6_told 144 = .ok (.iload_n 1, 1) := dk_27 (dk_at dksX6_told_5 4 rfl rfl)
theorem dX6_told_145 : decode cX6_told 145 = .ok (.iaload, 1) := dk_46 (dk_at dksX6_told_5 5 rfl rfl)
theorem dX6_told_146 : decode cX6_told 146 = .ok (.ireturn, 1) := dk_172 (dk_at dksX6_told_5 6 rfl rfl)
theorem dX6_told_147 : decode cX6_told 147 = .ok (.aload_n 0, 1) := dk_42 (dk_at dksX6_told_5 7 rfl rfl)
theorem dX6_told_148 : decode cX6_told 148 = .ok (.getfield 67, 3) := dk_180 0 67 (dk_at dksX6_told_5 8 rfl rfl)
theorem dX6_told_151 : decode cX6_told 151 = .ok (.bipush 56, 2) := dk_16 56 (dk_at dksX6_told_5 11 rfl rfl)
theorem dX6_told_153 : decode cX6_told 153 = .ok (.iaload, 1) := dk_46 (dk_at dksX6_told_5 13 rfl rfl)
theorem dX6_told_154 : decode cX6_told 154 = .ok (.ireturn, 1) := dk_172 (dk_at dksX6_told_5 14 rfl rfl)
theorem dX6_told_155 : decode cX6_told 155 = .ok (.aload_n 0, 1) := dk_42 (dk_at dksX6_told_5 15 rfl rfl)
theorem dX6_told_156 : decode cX6_told 156 = .ok (.aload_n 0, 1) := dk_42 (dk_at dksX6_told_5 16 rfl rfl)
theorem dX6_told_157 : decode cX6_told 157 = .ok (.getfield 67, 3) := dk_180 0 67 (dk_at dksX6_told_5 17 rfl rfl)
theorem dX6_told_160 : decode cX6_told 160 = .ok (.invokevirtual 314, 3) := dk_182 1 58 (dk_at dksX6_told_5 20 rfl rfl)
theorem dX6_told_163 : decode cX6_told 163 = .ok (.ireturn, 1) := dk_172 (dk_at dksX6_told_5 23 rfl rfl)
theorem dX6_told_164 : decode cX6_told 164 = .ok (.aload_n 0, 1) := dk_42 (dk_at dksX6_told_6 0 rfl rfl)
theorem dX6_told_165 : decode cX6_told 165 = .ok (.getfield 67, 3) := dk_180 0 67 (dk_at dksX6_told_6 1 rfl rfl)
theorem dX6_told_168 : decode cX6_told 168 = .ok (.bipush 55, 2) := dk_16 55 (dk_at dksX6_told_6 4 rfl rfl)
theorem dX6_told_170 : decode cX6_told 170 = .ok (.iaload, 1) := dk_46 (dk_at dksX6_told_6 6 rfl rfl)
theorem dX6_told_171 : decode cX6_told 171 = .ok (.ireturn, 1) := dk_172 (dk_at dksX6_told_6 7 rfl rfl)
theorem dX6_told_172 : decode cX6_told 172 = .ok (.aload_n 0, 1) := dk_42 (dk_at dksX6_told_6 8 rfl rfl)
theorem dX6_told_173 : decode cX6_told 173 = .ok (.aload_n 0, 1) := dk_42 (dk_at dksX6_told_6 9 rfl rfl)
theorem dX6_told_174 : decode cX6_told 174 = .ok (.getfield 67, 3) := dk_180 0 67 (dk_at dksX6_told_6 10 rfl rfl)
theorem dX6_told_177 : decode cX6_told 177 = .ok (.bipush 14, 2) := dk_16 14 (dk_at dksX6_told_6 13 rfl rfl)
theorem dX6_told_179 : decode cX6_told 179 = .ok (.invokevirtual 318, 3) := dk_182 1 62 (dk_at dksX6_told_6 15 rfl rfl)
theorem dX6_told_182 : decode cX6_told 182 = .ok (.ireturn, 1) := dk_172 (dk_at dksX6_told_6 18 rfl rfl)
theorem dX6_told_183 : decode cX6_told 183 = .ok (.aload_n 0, 1) := dk_42 (dk_at dksX6_told_6 19 rfl rfl)
theorem dX6_told_184 : decode cX6_told 184 = .ok (.aload_n 0, 1) := dk_42 (dk_at dksX6_told_6 20 rfl rfl)
theorem dX6_told_185 : decode cX6_told 185 = .ok (.getfield 67, 3) := dk_180 0 67 (dk_at dksX6_told_6 21 rfl rfl)
theorem dX6_told_188 : decode cX6_told 188 = .ok (.bipush 21, 2) := dk_16 21 (dk_at dksX6_told_7 0 rfl rfl)
theorem dX6_told_190 : decode cX6_told 190 = .ok (.invokevirtual 318, 3) := dk_182 1 62 (dk_at dksX6_told_7 2 rfl rfl)
theorem dX6_told_193 : decode cX6_told 193 = .ok (.ireturn, 1) := dk_172 (dk_at dksX6_told_7 5 rfl rfl)
theorem dX6_told_194 : decode cX6_told 194 = .ok (.aload_n 0, 1) := dk_42 (dk_at dksX6_told_7 6 rfl rfl)
theorem dX6_told_195 : decode cX6_told 195 = .ok (.aload_n 0, 1) := dk_42 (dk_at dksX6_told_7 7 rfl rfl)
theorem dX6_told_196 : decode cX6_told 196 = .ok (.getfield 67, 3) := dk_180 0 67 (dk_at dksX6_told_7 8 rfl rfl)
theorem dX6_told_199 : decode cX6_told 199 = .ok (.iconst 0, 1) := dk_3 (dk_at dksX6_told_7 11 rfl rfl)
theorem dX6_told_200 : decode cX6_told 200 = .ok (.invokevirtual 318, 3) := dk_182 1 62 (dk_at dksX6_told_7 12 rfl rfl)
theorem dX6_told_203 : decode cX6_told 203 = .ok (.ireturn, 1) := dk_172 (dk_at dksX6_told_7 15 rfl rfl)
theorem dX6_told_204 : decode cX6_told 204 = .ok (.aload_n 0, 1) := dk_42 (dk_at dksX6_told_7 16 rfl rfl)
theorem dX6_told_205 : decode cX6_told 205 = .ok (.getfield 195, 3) := dk_180 0 195 (dk_at dksX6_told_7 17 rfl rfl)
theorem dX6_told_208 : decode cX6_told 208 = .ok (.ireturn, 1) := dk_172 (dk_at dksX6_told_7 20 rfl rfl)
theorem dX6_told_209 : decode cX6_told 209 = .ok (.aload_n 0, 1) := dk_42 (dk_at dksX6_told_7 21 rfl rfl)
theorem dX6_told_210 : decode cX6_told 210 = .ok (.getfield 201, 3) := dk_180 0 201 (dk_at dksX6_told_8 0 rfl rfl)
theorem dX6_told_213 : decode cX6_told 213 = .ok (.ireturn, 1) := dk_172 (dk_at dksX6_told_8 3 rfl rfl)
theorem dX6_told_214 : decode cX6_told 214 = .ok (.iload_n 2, 1) := dk_28 (dk_at dksX6_told_8 4 rfl rfl)
theorem dX6_told_215 : decode cX6_told 215 = .ok (.ireturn, 1) := dk_172 (dk_at dksX6_told_8 5 rfl rfl)
abbrev cX6_hoarse : ByteArray := prog_34_method_61_code
def yX6_hoarse : MethodName := ⟨RX6, "hoarse", "([I)I"⟩
def dkwX6_hoarse_1 : List UInt8 := [61, 132, 3, 1, 167, 255, 232, 28, 172]
abbrev dktX6_hoarse_1 : List UInt8 := dkwX6_hoarse_1 ++ []
def dkwX6_hoarse_0 : List UInt8 := [3, 61, 3, 62, 29, 42, 180, 0, 23, 3, 46, 162, 0, 20, 28, 43, 16, 7, 29, 96, 46, 29, 120, 128]
abbrev dktX6_hoarse_0 : List UInt8 := dkwX6_hoarse_0 ++ dktX6_hoarse_1
theorem dksX6_hoarse_0 : cX6_hoarse.data.toList.drop 0 = dktX6_hoarse_0 := by decide +kernel
theorem dksX6_hoarse_1 : cX6_hoarse.data.toList.drop 24 = dktX6_hoarse_1 := dk_seg dksX6_hoarse_0 24 rfl rfl
theorem dX6_hoarse_0 : decode cX6_hoarse 0 = .ok (.iconst 0, 1) := dk_3 (dk_at dksX6_hoarse_0 0 rfl rfl)
theorem dX6_hoarse_1 : decode cX6_hoarse 1 = .ok (.istore_n 2, 1) := dk_61 (dk_at dksX6_hoarse_0 1 rfl rfl)
theorem dX6_hoarse_2 : decode cX6_hoarse 2 = .ok (.iconst 0, 1) := dk_3 (dk_at dksX6_hoarse_0 2 rfl rfl)
theorem dX6_hoarse_3 : decode cX6_hoarse 3 = .ok (.istore_n 3, 1) := dk_62 (dk_at dksX6_hoarse_0 3 rfl rfl)
theorem dX6_hoarse_4 : decode cX6_hoarse 4 = .ok (.iload_n 3, 1) := dk_29 (dk_at dksX6_hoarse_0 4 rfl rfl)
theorem dX6_hoarse_5 : decode cX6_hoarse 5 = .ok (.aload_n 0, 1) := dk_42 (dk_at dksX6_hoarse_0 5 rfl rfl)
theorem dX6_hoarse_6 : decode cX6_hoarse 6 = .ok (.getfield 23, 3) := dk_180 0 23 (dk_at dksX6_hoarse_0 6 rfl rfl)
theorem dX6_hoarse_9 : decode cX6_hoarse 9 = .ok (.iconst 0, 1) := dk_3 (dk_at dksX6_hoarse_0 9 rfl rfl)
theorem dX6_hoarse_10 : decode cX6_hoarse 10 = .ok (.iaload, 1) := dk_46 (dk_at dksX6_hoarse_0 10 rfl rfl)
theorem dX6_hoarse_11 : decode cX6_hoarse 11 = .ok (.if_icmp .ge 20, 3) := dk_162 0 20 (dk_at dksX6_hoarse_0 11 rfl rfl)
theorem dX6_hoarse_14 : decode cX6_hoarse 14 = .ok (.iload_n 2, 1) := dk_28 (dk_at dksX6_hoarse_0 14 rfl rfl)
theorem dX6_hoarse_15 : decode cX6_hoarse 15 = .ok (.aload_n 1, 1) := dk_43 (dk_at dksX6_hoarse_0 15 rfl rfl)
theorem dX6_hoarse_16 : decode cX6_hoarse 16 = .ok (.bipush 7, 2) := dk_16 7 (dk_at dksX6_hoarse_0 16 rfl rfl)
theorem dX6_hoarse_18 : decode cX6_hoarse 18 = .ok (.iload_n 3, 1) := dk_29 (dk_at dksX6_hoarse_0 18 rfl rfl)
theorem dX6_hoarse_19 : decode cX6_hoarse 19 = .ok (.iadd, 1) := dk_96 (dk_at dksX6_hoarse_0 19 rfl rfl)
theorem dX6_hoarse_20 : decode cX6_hoarse 20 = .ok (.iaload, 1) := dk_46 (dk_at dksX6_hoarse_0 20 rfl rfl)
theorem dX6_hoarse_21 : decode cX6_hoarse 21 = .ok (.iload_n 3, 1) := dk_29 (dk_at dksX6_hoarse_0 21 rfl rfl)
theorem dX6_hoarse_22 : decode cX6_hoarse 22 = .ok (.ishl, 1) := dk_120 (dk_at dksX6_hoarse_0 22 rfl rfl)
theorem dX6_hoarse_23 : decode cX6_hoarse 23 = .ok (.ior, 1) := dk_128 (dk_at dksX6_hoarse_0 23 rfl rfl)
theorem dX6_hoarse_24 : decode cX6_hoarse 24 = .ok (.istore_n 2, 1) := dk_61 (dk_at dksX6_hoarse_1 0 rfl rfl)
theorem dX6_hoarse_25 : decode cX6_hoarse 25 = .ok (.iinc 3 1, 3) := dk_132 3 1 (dk_at dksX6_hoarse_1 1 rfl rfl)
theorem dX6_hoarse_28 : decode cX6_hoarse 28 = .ok (.goto (-24), 3) := dk_167 255 232 (dk_at dksX6_hoarse_1 4 rfl rfl)
theorem dX6_hoarse_31 : decode cX6_hoarse 31 = .ok (.iload_n 2, 1) := dk_28 (dk_at dksX6_hoarse_1 7 rfl rfl)
theorem dX6_hoarse_32 : decode cX6_hoarse 32 = .ok (.ireturn, 1) := dk_172 (dk_at dksX6_hoarse_1 8 rfl rfl)
abbrev cX6_all : ByteArray := prog_34_method_60_code
def yX6_all : MethodName := ⟨RX6, "all", "([II)I"⟩
def dkwX6_all_1 : List UInt8 := [62, 132, 4, 1, 167, 255, 233, 29, 172]
abbrev dktX6_all_1 : List UInt8 := dkwX6_all_1 ++ []
def dkwX6_all_0 : List UInt8 := [3, 62, 3, 54, 4, 21, 4, 42, 180, 0, 23, 3, 46, 162, 0, 18, 29, 43, 28, 21, 4, 96, 46, 96]
abbrev dktX6_all_0 : List UInt8 := dkwX6_all_0 ++ dktX6_all_1
theorem dksX6_all_0 : cX6_all.data.toList.drop 0 = dktX6_all_0 := by decide +kernel
theorem dksX6_all_1 : cX6_all.data.toList.drop 24 = dktX6_all_1 := dk_seg dksX6_all_0 24 rfl rfl
theorem dX6_all_0 : decode cX6_all 0 = .ok (.iconst 0, 1) := dk_3 (dk_at dksX6_all_0 0 rfl rfl)
theorem dX6_all_1 : decode cX6_all 1 = .ok (.istore_n 3, 1) := dk_62 (dk_at dksX6_all_0 1 rfl rfl)
theorem dX6_all_2 : decode cX6_all 2 = .ok (.iconst 0, 1) := dk_3 (dk_at dksX6_all_0 2 rfl rfl)
theorem dX6_all_3 : decode cX6_all 3 = .ok (.istore 4, 2) := dk_54 4 (dk_at dksX6_all_0 3 rfl rfl)
theorem dX6_all_5 : decode cX6_all 5 = .ok (.iload 4, 2) := dk_21 4 (dk_at dksX6_all_0 5 rfl rfl)
theorem dX6_all_7 : decode cX6_all 7 = .ok (.aload_n 0, 1) := dk_42 (dk_at dksX6_all_0 7 rfl rfl)
theorem dX6_all_8 : decode cX6_all 8 = .ok (.getfield 23, 3) := dk_180 0 23 (dk_at dksX6_all_0 8 rfl rfl)
theorem dX6_all_11 : decode cX6_all 11 = .ok (.iconst 0, 1) := dk_3 (dk_at dksX6_all_0 11 rfl rfl)
theorem dX6_all_12 : decode cX6_all 12 = .ok (.iaload, 1) := dk_46 (dk_at dksX6_all_0 12 rfl rfl)
theorem dX6_all_13 : decode cX6_all 13 = .ok (.if_icmp .ge 18, 3) := dk_162 0 18 (dk_at dksX6_all_0 13 rfl rfl)
theorem dX6_all_16 : decode cX6_all 16 = .ok (.iload_n 3, 1) := dk_29 (dk_at dksX6_all_0 16 rfl rfl)
theorem dX6_all_17 : decode cX6_all 17 = .ok (.aload_n 1, 1) := dk_43 (dk_at dksX6_all_0 17 rfl rfl)
theorem dX6_all_18 : decode cX6_all 18 = .ok (.iload_n 2, 1) := dk_28 (dk_at dksX6_all_0 18 rfl rfl)
theorem dX6_all_19 : decode cX6_all 19 = .ok (.iload 4, 2) := dk_21 4 (dk_at dksX6_all_0 19 rfl rfl)
theorem dX6_all_21 : decode cX6_all 21 = .ok (.iadd, 1) := dk_96 (dk_at dksX6_all_0 21 rfl rfl)
theorem dX6_all_22 : decode cX6_all 22 = .ok (.iaload, 1) := dk_46 (dk_at dksX6_all_0 22 rfl rfl)
theorem dX6_all_23 : decode cX6_all 23 = .ok (.iadd, 1) := dk_96 (dk_at dksX6_all_0 23 rfl rfl)
theorem dX6_all_24 : decode cX6_all 24 = .ok (.istore_n 3, 1) := dk_62 (dk_at dksX6_all_1 0 rfl rfl)
theorem dX6_all_25 : decode cX6_all 25 = .ok (.iinc 4 1, 3) := dk_132 4 1 (dk_at dksX6_all_1 1 rfl rfl)
theorem dX6_all_28 : decode cX6_all 28 = .ok (.goto (-23), 3) := dk_167 255 233 (dk_at dksX6_all_1 4 rfl rfl)
theorem dX6_all_31 : decode cX6_all 31 = .ok (.iload_n 3, 1) := dk_29 (dk_at dksX6_all_1 7 rfl rfl)
theorem dX6_all_32 : decode cX6_all 32 = .ok (.ireturn, 1) := dk_172 (dk_at dksX6_all_1 8 rfl rfl)
abbrev cX6_singer : ByteArray := prog_34_method_66_code
def yX6_singer : MethodName := ⟨RX6, "singer", "(II)I"⟩
def dkwX6_singer_6 : List UInt8 := [42, 180, 0, 67, 16, 28, 27, 96, 46, 172]
abbrev dktX6_singer_6 : List UInt8 := dkwX6_singer_6 ++ []
def dkwX6_singer_5 : List UInt8 := [27, 96, 46, 172, 42, 180, 0, 67, 16, 14, 27, 96, 46, 172, 42, 180, 0, 67, 16, 21, 27, 96, 46, 172]
abbrev dktX6_singer_5 : List UInt8 := dkwX6_singer_5 ++ dktX6_singer_6
def dkwX6_singer_4 : List UInt8 := [42, 180, 0, 31, 27, 50, 28, 46, 172, 42, 180, 0, 67, 3, 27, 96, 46, 172, 42, 180, 0, 67, 16, 7]
abbrev dktX6_singer_4 : List UInt8 := dkwX6_singer_4 ++ dktX6_singer_5
def dkwX6_singer_3 : List UInt8 := [170, 0, 0, 0, 0, 90, 0, 0, 0, 0, 0, 0, 0, 6, 0, 0, 0, 42, 0, 0, 0, 42, 0, 0, 0, 42, 0, 0, 0, 51, 0, 0, 0, 60, 0, 0, 0, 70, 0, 0, 0, 80]
abbrev dktX6_singer_3 : List UInt8 := dkwX6_singer_3 ++ dktX6_singer_4
def dkwX6_singer_2 : List UInt8 := [153, 0, 5, 3, 172, 28]
abbrev dktX6_singer_2 : List UInt8 := dkwX6_singer_2 ++ dktX6_singer_3
def dkwX6_singer_1 : List UInt8 := [154, 0, 27, 42, 28, 3, 16, 7, 184, 0, 129, 154, 0, 7, 4, 167, 0, 4, 3, 5, 4, 182, 0, 171]
abbrev dktX6_singer_1 : List UInt8 := dkwX6_singer_1 ++ dktX6_singer_2
def dkwX6_singer_0 : List UInt8 := [42, 3, 181, 0, 95, 42, 42, 27, 182, 1, 65, 154, 0, 7, 4, 167, 0, 4, 3, 4, 3, 182, 0, 171]
abbrev dktX6_singer_0 : List UInt8 := dkwX6_singer_0 ++ dktX6_singer_1
theorem dksX6_singer_0 : cX6_singer.data.toList.drop 0 = dktX6_singer_0 := by decide +kernel
theorem dksX6_singer_1 : cX6_singer.data.toList.drop 24 = dktX6_singer_1 := dk_seg dksX6_singer_0 24 rfl rfl
theorem dksX6_singer_2 : cX6_singer.data.toList.drop 48 = dktX6_singer_2 := dk_seg dksX6_singer_1 24 rfl rfl
theorem dksX6_singer_3 : cX6_singer.data.toList.drop 54 = dktX6_singer_3 := dk_seg dksX6_singer_2 6 rfl rfl
theorem dksX6_singer_4 : cX6_singer.data.toList.drop 96 = dktX6_singer_4 := dk_seg dksX6_singer_3 42 rfl rfl
theorem dksX6_singer_5 : cX6_singer.data.toList.drop 120 = dktX6_singer_5 := dk_seg dksX6_singer_4 24 rfl rfl
theorem dksX6_singer_6 : cX6_singer.data.toList.drop 144 = dktX6_singer_6 := dk_seg dksX6_singer_5 24 rfl rfl
theorem dX6_singer_0 : decode cX6_singer 0 = .ok (.aload_n 0, 1) := dk_42 (dk_at dksX6_singer_0 0 rfl rfl)
theorem dX6_singer_1 : decode cX6_singer 1 = .ok (.iconst 0, 1) := dk_3 (dk_at dksX6_singer_0 1 rfl rfl)
theorem dX6_singer_2 : decode cX6_singer 2 = .ok (.putfield 95, 3) := dk_181 0 95 (dk_at dksX6_singer_0 2 rfl rfl)
theorem dX6_singer_5 : decode cX6_singer 5 = .ok (.aload_n 0, 1) := dk_42 (dk_at dksX6_singer_0 5 rfl rfl)
theorem dX6_singer_6 : decode cX6_singer 6 = .ok (.aload_n 0, 1) := dk_42 (dk_at dksX6_singer_0 6 rfl rfl)
theorem dX6_singer_7 : decode cX6_singer 7 = .ok (.iload_n 1, 1) := dk_27 (dk_at dksX6_singer_0 7 rfl rfl)
theorem dX6_singer_8 : decode cX6_singer 8 = .ok (.invokevirtual 321, 3) := dk_182 1 65 (dk_at dksX6_singer_0 8 rfl rfl)
theorem dX6_singer_11 : decode cX6_singer 11 = .ok (.ifCond .ne 7, 3) := dk_154 0 7 (dk_at dksX6_singer_0 11 rfl rfl)
theorem dX6_singer_14 : decode cX6_singer 14 = .ok (.iconst 1, 1) := dk_4 (dk_at dksX6_singer_0 14 rfl rfl)
theorem dX6_singer_15 : decode cX6_singer 15 = .ok (.goto 4, 3) := dk_167 0 4 (dk_at dksX6_singer_0 15 rfl rfl)
theorem dX6_singer_18 : decode cX6_singer 18 = .ok (.iconst 0, 1) := dk_3 (dk_at dksX6_singer_0 18 rfl rfl)
theorem dX6_singer_19 : decode cX6_singer 19 = .ok (.iconst 1, 1) := dk_4 (dk_at dksX6_singer_0 19 rfl rfl)
theorem dX6_singer_20 : decode cX6_singer 20 = .ok (.iconst 0, 1) := dk_3 (dk_at dksX6_singer_0 20 rfl rfl)
theorem dX6_singer_21 : decode cX6_singer 21 = .ok (.invokevirtual 171, 3) := dk_182 0 171 (dk_at dksX6_singer_0 21 rfl rfl)
theorem dX6_singer_24 : decode cX6_singer 24 = .ok (.ifCond .ne 27, 3) := dk_154 0 27 (dk_at dksX6_singer_1 0 rfl rfl)
theorem dX6_singer_27 : decode cX6_singer 27 = .ok (.aload_n 0, 1) := dk_42 (dk_at dksX6_singer_1 3 rfl rfl)
theorem dX6_singer_28 : decode cX6_singer 28 = .ok (.iload_n 2, 1) := dk_28 (dk_at dksX6_singer_1 4 rfl rfl)
theorem dX6_singer_29 : decode cX6_singer 29 = .ok (.iconst 0, 1) := dk_3 (dk_at dksX6_singer_1 5 rfl rfl)
theorem dX6_singer_30 : decode cX6_singer 30 = .ok (.bipush 7, 2) := dk_16 7 (dk_at dksX6_singer_1 6 rfl rfl)
theorem dX6_singer_32 : decode cX6_singer 32 = .ok (.invokestatic 129, 3) := dk_184 0 129 (dk_at dksX6_singer_1 8 rfl rfl)
theorem dX6_singer_35 : decode cX6_singer 35 = .ok (.ifCond .ne 7, 3) := dk_154 0 7 (dk_at dksX6_singer_1 11 rfl rfl)
theorem dX6_singer_38 : decode cX6_singer 38 = .ok (.iconst 1, 1) := dk_4 (dk_at dksX6_singer_1 14 rfl rfl)
theorem dX6_singer_39 : decode cX6_singer 39 = .ok (.goto 4, 3) := dk_167 0 4 (dk_at dksX6_singer_1 15 rfl rfl)
theorem dX6_singer_42 : decode cX6_singer 42 = .ok (.iconst 0, 1) := dk_3 (dk_at dksX6_singer_1 18 rfl rfl)
theorem dX6_singer_43 : decode cX6_singer 43 = .ok (.iconst 2, 1) := dk_5 (dk_at dksX6_singer_1 19 rfl rfl)
theorem dX6_singer_44 : decode cX6_singer 44 = .ok (.iconst 1, 1) := dk_4 (dk_at dksX6_singer_1 20 rfl rfl)
theorem dX6_singer_45 : decode cX6_singer 45 = .ok (.invokevirtual 171, 3) := dk_182 0 171 (dk_at dksX6_singer_1 21 rfl rfl)
theorem dX6_singer_48 : decode cX6_singer 48 = .ok (.ifCond .eq 5, 3) := dk_153 0 5 (dk_at dksX6_singer_2 0 rfl rfl)
theorem dX6_singer_51 : decode cX6_singer 51 = .ok (.iconst 0, 1) := dk_3 (dk_at dksX6_singer_2 3 rfl rfl)
theorem dX6_singer_52 : decode cX6_singer 52 = .ok (.ireturn, 1) := dk_172 (dk_at dksX6_singer_2 4 rfl rfl)
theorem dX6_singer_53 : decode cX6_singer 53 = .ok (.iload_n 2, 1) := dk_28 (dk_at dksX6_singer_2 5 rfl rfl)
theorem dX6_singer_54 : decode cX6_singer 54 = .ok (.tableswitch 90 0 6 #[42, 42, 42, 51, 60, 70, 80], 42) := by decide +kernel
theorem dX6_singer_96 : decode cX6_singer 96 = .ok (.aload_n 0, 1) := dk_42 (dk_at dksX6_singer_4 0 rfl rfl)
theorem dX6_singer_97 : decode cX6_singer 97 = .ok (.getfield 31, 3) := dk_180 0 31 (dk_at dksX6_singer_4 1 rfl rfl)
theorem dX6_singer_100 : decode cX6_singer 100 = .ok (.iload_n 1, 1) := dk_27 (dk_at dksX6_singer_4 4 rfl rfl)
theorem dX6_singer_101 : decode cX6_singer 101 = .ok (.aaload, 1) := dk_50 (dk_at dksX6_singer_4 5 rfl rfl)
theorem dX6_singer_102 : decode cX6_singer 102 = .ok (.iload_n 2, 1) := dk_28 (dk_at dksX6_singer_4 6 rfl rfl)
theorem dX6_singer_103 : decode cX6_singer 103 = .ok (.iaload, 1) := dk_46 (dk_at dksX6_singer_4 7 rfl rfl)
theorem dX6_singer_104 : decode cX6_singer 104 = .ok (.ireturn, 1) := dk_172 (dk_at dksX6_singer_4 8 rfl rfl)
theorem dX6_singer_105 : decode cX6_singer 105 = .ok (.aload_n 0, 1) := dk_42 (dk_at dksX6_singer_4 9 rfl rfl)
theorem dX6_singer_106 : decode cX6_singer 106 = .ok (.getfield 67, 3) := dk_180 0 67 (dk_at dksX6_singer_4 10 rfl rfl)
theorem dX6_singer_109 : decode cX6_singer 109 = .ok (.iconst 0, 1) := dk_3 (dk_at dksX6_singer_4 13 rfl rfl)
theorem dX6_singer_110 : decode cX6_singer 110 = .ok (.iload_n 1, 1) := dk_27 (dk_at dksX6_singer_4 14 rfl rfl)
theorem dX6_singer_111 : decode cX6_singer 111 = .ok (.iadd, 1) := dk_96 (dk_at dksX6_singer_4 15 rfl rfl)
theorem dX6_singer_112 : decode cX6_singer 112 = .ok (.iaload, 1) := dk_46 (dk_at dksX6_singer_4 16 rfl rfl)
theorem dX6_singer_113 : decode cX6_singer 113 = .ok (.ireturn, 1) := dk_172 (dk_at dksX6_singer_4 17 rfl rfl)
theorem dX6_singer_114 : decode cX6_singer 114 = .ok (.aload_n 0, 1) := dk_42 (dk_at dksX6_singer_4 18 rfl rfl)
theorem dX6_singer_115 : decode cX6_singer 115 = .ok (.getfield 67, 3) := dk_180 0 67 (dk_at dksX6_singer_4 19 rfl rfl)
theorem dX6_singer_118 : decode cX6_singer 118 = .ok (.bipush 7, 2) := dk_16 7 (dk_at dksX6_singer_4 22 rfl rfl)
theorem dX6_singer_120 : decode cX6_singer 120 = .ok (.iload_n 1, 1) := dk_27 (dk_at dksX6_singer_5 0 rfl rfl)
theorem dX6_singer_121 : decode cX6_singer 121 = .ok (.iadd, 1) := dk_96 (dk_at dksX6_singer_5 1 rfl rfl)
theorem dX6_singer_122 : decode cX6_singer 122 = .ok (.iaload, 1) := dk_46 (dk_at dksX6_singer_5 2 rfl rfl)
theorem dX6_singer_123 : decode cX6_singer 123 = .ok (.ireturn, 1) := dk_172 (dk_at dksX6_singer_5 3 rfl rfl)
theorem dX6_singer_124 : decode cX6_singer 124 = .ok (.aload_n 0, 1) := dk_42 (dk_at dksX6_singer_5 4 rfl rfl)
theorem dX6_singer_125 : decode cX6_singer 125 = .ok (.getfield 67, 3) := dk_180 0 67 (dk_at dksX6_singer_5 5 rfl rfl)
theorem dX6_singer_128 : decode cX6_singer 128 = .ok (.bipush 14, 2) := dk_16 14 (dk_at dksX6_singer_5 8 rfl rfl)
theorem dX6_singer_130 : decode cX6_singer 130 = .ok (.iload_n 1, 1) := dk_27 (dk_at dksX6_singer_5 10 rfl rfl)
theorem dX6_singer_131 : decode cX6_singer 131 = .ok (.iadd, 1) := dk_96 (dk_at dksX6_singer_5 11 rfl rfl)
theorem dX6_singer_132 : decode cX6_singer 132 = .ok (.iaload, 1) := dk_46 (dk_at dksX6_singer_5 12 rfl rfl)
theorem dX6_singer_133 : decode cX6_singer 133 = .ok (.ireturn, 1) := dk_172 (dk_at dksX6_singer_5 13 rfl rfl)
theorem dX6_singer_134 : decode cX6_singer 134 = .ok (.aload_n 0, 1) := dk_42 (dk_at dksX6_singer_5 14 rfl rfl)
theorem dX6_singer_135 : decode cX6_singer 135 = .ok (.getfield 67, 3) := dk_180 0 67 (dk_at dksX6_singer_5 15 rfl rfl)
theorem dX6_singer_138 : decode cX6_singer 138 = .ok (.bipush 21, 2) := dk_16 21 (dk_at dksX6_singer_5 18 rfl rfl)
theorem dX6_singer_140 : decode cX6_singer 140 = .ok (.iload_n 1, 1) := dk_27 (dk_at dksX6_singer_5 20 rfl rfl)
theorem dX6_singer_141 : decode cX6_singer 141 = .ok (.iadd, 1) := dk_96 (dk_at dksX6_singer_5 21 rfl rfl)
theorem dX6_singer_142 : decode cX6_singer 142 = .ok (.iaload, 1) := dk_46 (dk_at dksX6_singer_5 22 rfl rfl)
theorem dX6_singer_143 : decode cX6_singer 143 = .ok (.ireturn, 1) := dk_172 (dk_at dksX6_singer_5 23 rfl rfl)
theorem dX6_singer_144 : decode cX6_singer 144 = .ok (.aload_n 0, 1) := dk_42 (dk_at dksX6_singer_6 0 rfl rfl)
theorem dX6_singer_145 : decode cX6_singer 145 = .ok (.getfield 67, 3) := dk_180 0 67 (dk_at dksX6_singer_6 1 rfl rfl)
theorem dX6_singer_148 : decode cX6_singer 148 = .ok (.bipush 28, 2) := dk_16 28 (dk_at dksX6_singer_6 4 rfl rfl)
theorem dX6_singer_150 : decode cX6_singer 150 = .ok (.iload_n 1, 1) := dk_27 (dk_at dksX6_singer_6 6 rfl rfl)
theorem dX6_singer_151 : decode cX6_singer 151 = .ok (.iadd, 1) := dk_96 (dk_at dksX6_singer_6 7 rfl rfl)
theorem dX6_singer_152 : decode cX6_singer 152 = .ok (.iaload, 1) := dk_46 (dk_at dksX6_singer_6 8 rfl rfl)
theorem dX6_singer_153 : decode cX6_singer 153 = .ok (.ireturn, 1) := dk_172 (dk_at dksX6_singer_6 9 rfl rfl)
abbrev cX6_isSinger : ByteArray := prog_34_method_63_code
def yX6_isSinger : MethodName := ⟨RX6, "isSinger", "(I)Z"⟩
def dkwX6_isSinger_0 : List UInt8 := [27, 3, 42, 180, 0, 23, 3, 46, 4, 100, 184, 0, 129, 172]
abbrev dktX6_isSinger_0 : List UInt8 := dkwX6_isSinger_0 ++ []
theorem dksX6_isSinger_0 : cX6_isSinger.data.toList.drop 0 = dktX6_isSinger_0 := by decide +kernel
theorem dX6_isSinger_0 : decode cX6_isSinger 0 = .ok (.iload_n 1, 1) := dk_27 (dk_at dksX6_isSinger_0 0 rfl rfl)
theorem dX6_isSinger_1 : decode cX6_isSinger 1 = .ok (.iconst 0, 1) := dk_3 (dk_at dksX6_isSinger_0 1 rfl rfl)
theorem dX6_isSinger_2 : decode cX6_isSinger 2 = .ok (.aload_n 0, 1) := dk_42 (dk_at dksX6_isSinger_0 2 rfl rfl)
theorem dX6_isSinger_3 : decode cX6_isSinger 3 = .ok (.getfield 23, 3) := dk_180 0 23 (dk_at dksX6_isSinger_0 3 rfl rfl)
theorem dX6_isSinger_6 : decode cX6_isSinger 6 = .ok (.iconst 0, 1) := dk_3 (dk_at dksX6_isSinger_0 6 rfl rfl)
theorem dX6_isSinger_7 : decode cX6_isSinger 7 = .ok (.iaload, 1) := dk_46 (dk_at dksX6_isSinger_0 7 rfl rfl)
theorem dX6_isSinger_8 : decode cX6_isSinger 8 = .ok (.iconst 1, 1) := dk_4 (dk_at dksX6_isSinger_0 8 rfl rfl)
theorem dX6_isSinger_9 : decode cX6_isSinger 9 = .ok (.isub, 1) := dk_100 (dk_at dksX6_isSinger_0 9 rfl rfl)
theorem dX6_isSinger_10 : decode cX6_isSinger 10 = .ok (.invokestatic 129, 3) := dk_184 0 129 (dk_at dksX6_isSinger_0 10 rfl rfl)
theorem dX6_isSinger_13 : decode cX6_isSinger 13 = .ok (.ireturn, 1) := dk_172 (dk_at dksX6_isSinger_0 13 rfl rfl)
abbrev cX6_note : ByteArray := prog_34_method_67_code
def yX6_note : MethodName := ⟨RX6, "note", "(II)I"⟩
def dkwX6_note_4 : List UInt8 := [182, 1, 13, 172]
abbrev dktX6_note_4 : List UInt8 := dkwX6_note_4 ++ []
def dkwX6_note_3 : List UInt8 := [162, 0, 16, 42, 180, 0, 37, 27, 50, 28, 4, 100, 46, 167, 0, 12, 42, 42, 180, 0, 67, 27]
abbrev dktX6_note_3 : List UInt8 := dkwX6_note_3 ++ dktX6_note_4
def dkwX6_note_2 : List UInt8 := [153, 0, 5, 3, 172, 28, 154, 0, 15, 42, 180, 0, 67, 16, 35, 27, 96, 46, 167, 0, 30, 28, 6]
abbrev dktX6_note_2 : List UInt8 := dkwX6_note_2 ++ dktX6_note_3
def dkwX6_note_1 : List UInt8 := [154, 0, 26, 42, 28, 3, 6, 184, 0, 129, 154, 0, 7, 4, 167, 0, 4, 3, 5, 4, 182, 0, 171]
abbrev dktX6_note_1 : List UInt8 := dkwX6_note_1 ++ dktX6_note_2
def dkwX6_note_0 : List UInt8 := [42, 3, 181, 0, 95, 42, 42, 27, 182, 1, 68, 154, 0, 7, 4, 167, 0, 4, 3, 4, 3, 182, 0, 171]
abbrev dktX6_note_0 : List UInt8 := dkwX6_note_0 ++ dktX6_note_1
theorem dksX6_note_0 : cX6_note.data.toList.drop 0 = dktX6_note_0 := by decide +kernel
theorem dksX6_note_1 : cX6_note.data.toList.drop 24 = dktX6_note_1 := dk_seg dksX6_note_0 24 rfl rfl
theorem dksX6_note_2 : cX6_note.data.toList.drop 47 = dktX6_note_2 := dk_seg dksX6_note_1 23 rfl rfl
theorem dksX6_note_3 : cX6_note.data.toList.drop 70 = dktX6_note_3 := dk_seg dksX6_note_2 23 rfl rfl
theorem dksX6_note_4 : cX6_note.data.toList.drop 92 = dktX6_note_4 := dk_seg dksX6_note_3 22 rfl rfl
theorem dX6_note_0 : decode cX6_note 0 = .ok (.aload_n 0, 1) := dk_42 (dk_at dksX6_note_0 0 rfl rfl)
theorem dX6_note_1 : decode cX6_note 1 = .ok (.iconst 0, 1) := dk_3 (dk_at dksX6_note_0 1 rfl rfl)
theorem dX6_note_2 : decode cX6_note 2 = .ok (.putfield 95, 3) := dk_181 0 95 (dk_at dksX6_note_0 2 rfl rfl)
theorem dX6_note_5 : decode cX6_note 5 = .ok (.aload_n 0, 1) := dk_42 (dk_at dksX6_note_0 5 rfl rfl)
theorem dX6_note_6 : decode cX6_note 6 = .ok (.aload_n 0, 1) := dk_42 (dk_at dksX6_note_0 6 rfl rfl)
theorem dX6_note_7 : decode cX6_note 7 = .ok (.iload_n 1, 1) := dk_27 (dk_at dksX6_note_0 7 rfl rfl)
theorem dX6_note_8 : decode cX6_note 8 = .ok (.invokevirtual 324, 3) := dk_182 1 68 (dk_at dksX6_note_0 8 rfl rfl)
theorem dX6_note_11 : decode cX6_note 11 = .ok (.ifCond .ne 7, 3) := dk_154 0 7 (dk_at dksX6_note_0 11 rfl rfl)
theorem dX6_note_14 : decode cX6_note 14 = .ok (.iconst 1, 1) := dk_4 (dk_at dksX6_note_0 14 rfl rfl)
theorem dX6_note_15 : decode cX6_note 15 = .ok (.goto 4, 3) := dk_167 0 4 (dk_at dksX6_note_0 15 rfl rfl)
theorem dX6_note_18 : decode cX6_note 18 = .ok (.iconst 0, 1) := dk_3 (dk_at dksX6_note_0 18 rfl rfl)
theorem dX6_note_19 : decode cX6_note 19 = .ok (.iconst 1, 1) := dk_4 (dk_at dksX6_note_0 19 rfl rfl)
theorem dX6_note_20 : decode cX6_note 20 = .ok (.iconst 0, 1) := dk_3 (dk_at dksX6_note_0 20 rfl rfl)
theorem dX6_note_21 : decode cX6_note 21 = .ok (.invokevirtual 171, 3) := dk_182 0 171 (dk_at dksX6_note_0 21 rfl rfl)
theorem dX6_note_24 : decode cX6_note 24 = .ok (.ifCond .ne 26, 3) := dk_154 0 26 (dk_at dksX6_note_1 0 rfl rfl)
theorem dX6_note_27 : decode cX6_note 27 = .ok (.aload_n 0, 1) := dk_42 (dk_at dksX6_note_1 3 rfl rfl)
theorem dX6_note_28 : decode cX6_note 28 = .ok (.iload_n 2, 1) := dk_28 (dk_at dksX6_note_1 4 rfl rfl)
theorem dX6_note_29 : decode cX6_note 29 = .ok (.iconst 0, 1) := dk_3 (dk_at dksX6_note_1 5 rfl rfl)
theorem dX6_note_30 : decode cX6_note 30 = .ok (.iconst 3, 1) := dk_6 (dk_at dksX6_note_1 6 rfl rfl)
theorem dX6_note_31 : decode cX6_note 31 = .ok (.invokestatic 129, 3) := dk_184 0 129 (dk_at dksX6_note_1 7 rfl rfl)
theorem dX6_note_34 : decode cX6_note 34 = .ok (.ifCond .ne 7, 3) := dk_154 0 7 (dk_at dksX6_note_1 10 rfl rfl)
theorem dX6_note_37 : decode cX6_note 37 = .ok (.iconst 1, 1) := dk_4 (dk_at dksX6_note_1 13 rfl rfl)
theorem dX6_note_38 : decode cX6_note 38 = .ok (.goto 4, 3) := dk_167 0 4 (dk_at dksX6_note_1 14 rfl rfl)
theorem dX6_note_41 : decode cX6_note 41 = .ok (.iconst 0, 1) := dk_3 (dk_at dksX6_note_1 17 rfl rfl)
theorem dX6_note_42 : decode cX6_note 42 = .ok (.iconst 2, 1) := dk_5 (dk_at dksX6_note_1 18 rfl rfl)
theorem dX6_note_43 : decode cX6_note 43 = .ok (.iconst 1, 1) := dk_4 (dk_at dksX6_note_1 19 rfl rfl)
theorem dX6_note_44 : decode cX6_note 44 = .ok (.invokevirtual 171, 3) := dk_182 0 171 (dk_at dksX6_note_1 20 rfl rfl)
theorem dX6_note_47 : decode cX6_note 47 = .ok (.ifCond .eq 5, 3) := dk_153 0 5 (dk_at dksX6_note_2 0 rfl rfl)
theorem dX6_note_50 : decode cX6_note 50 = .ok (.iconst 0, 1) := dk_3 (dk_at dksX6_note_2 3 rfl rfl)
theorem dX6_note_51 : decode cX6_note 51 = .ok (.ireturn, 1) := dk_172 (dk_at dksX6_note_2 4 rfl rfl)
theorem dX6_note_52 : decode cX6_note 52 = .ok (.iload_n 2, 1) := dk_28 (dk_at dksX6_note_2 5 rfl rfl)
theorem dX6_note_53 : decode cX6_note 53 = .ok (.ifCond .ne 15, 3) := dk_154 0 15 (dk_at dksX6_note_2 6 rfl rfl)
theorem dX6_note_56 : decode cX6_note 56 = .ok (.aload_n 0, 1) := dk_42 (dk_at dksX6_note_2 9 rfl rfl)
theorem dX6_note_57 : decode cX6_note 57 = .ok (.getfield 67, 3) := dk_180 0 67 (dk_at dksX6_note_2 10 rfl rfl)
theorem dX6_note_60 : decode cX6_note 60 = .ok (.bipush 35, 2) := dk_16 35 (dk_at dksX6_note_2 13 rfl rfl)
theorem dX6_note_62 : decode cX6_note 62 = .ok (.iload_n 1, 1) := dk_27 (dk_at dksX6_note_2 15 rfl rfl)
theorem dX6_note_63 : decode cX6_note 63 = .ok (.iadd, 1) := dk_96 (dk_at dksX6_note_2 16 rfl rfl)
theorem dX6_note_64 : decode cX6_note 64 = .ok (.iaload, 1) := dk_46 (dk_at dksX6_note_2 17 rfl rfl)
theorem dX6_note_65 : decode cX6_note 65 = .ok (.goto 30, 3) := dk_167 0 30 (dk_at dksX6_note_2 18 rfl rfl)
theorem dX6_note_68 : decode cX6_note 68 = .ok (.iload_n 2, 1) := dk_28 (dk_at dksX6_note_2 21 rfl rfl)
theorem dX6_note_69 : decode cX6_note 69 = .ok (.iconst 3, 1) := dk_6 (dk_at dksX6_note_2 22 rfl rfl)
theorem dX6_note_70 : decode cX6_note 70 = .ok (.if_icmp .ge 16, 3) := dk_162 0 16 (dk_at dksX6_note_3 0 rfl rfl)
theorem dX6_note_73 : decode cX6_note 73 = .ok (.aload_n 0, 1) := dk_42 (dk_at dksX6_note_3 3 rfl rfl)
theorem dX6_note_74 : decode cX6_note 74 = .ok (.getfield 37, 3) := dk_180 0 37 (dk_at dksX6_note_3 4 rfl rfl)
theorem dX6_note_77 : decode cX6_note 77 = .ok (.iload_n 1, 1) := dk_27 (dk_at dksX6_note_3 7 rfl rfl)
theorem dX6_note_78 : decode cX6_note 78 = .ok (.aaload, 1) := dk_50 (dk_at dksX6_note_3 8 rfl rfl)
theorem dX6_note_79 : decode cX6_note 79 = .ok (.iload_n 2, 1) := dk_28 (dk_at dksX6_note_3 9 rfl rfl)
theorem dX6_note_80 : decode cX6_note 80 = .ok (.iconst 1, 1) := dk_4 (dk_at dksX6_note_3 10 rfl rfl)
theorem dX6_note_81 : decode cX6_note 81 = .ok (.isub, 1) := dk_100 (dk_at dksX6_note_3 11 rfl rfl)
theorem dX6_note_82 : decode cX6_note 82 = .ok (.iaload, 1) := dk_46 (dk_at dksX6_note_3 12 rfl rfl)
theorem dX6_note_83 : decode cX6_note 83 = .ok (.goto 12, 3) := dk_167 0 12 (dk_at dksX6_note_3 13 rfl rfl)
theorem dX6_note_86 : decode cX6_note 86 = .ok (.aload_n 0, 1) := dk_42 (dk_at dksX6_note_3 16 rfl rfl)
theorem dX6_note_87 : decode cX6_note 87 = .ok (.aload_n 0, 1) := dk_42 (dk_at dksX6_note_3 17 rfl rfl)
theorem dX6_note_88 : decode cX6_note 88 = .ok (.getfield 67, 3) := dk_180 0 67 (dk_at dksX6_note_3 18 rfl rfl)
theorem dX6_note_91 : decode cX6_note 91 = .ok (.iload_n 1, 1) := dk_27 (dk_at dksX6_note_3 21 rfl rfl)
theorem dX6_note_92 : decode cX6_note 92 = .ok (.invokevirtual 269, 3) := dk_182 1 13 (dk_at dksX6_note_4 0 rfl rfl)
theorem dX6_note_95 : decode cX6_note 95 = .ok (.ireturn, 1) := dk_172 (dk_at dksX6_note_4 3 rfl rfl)
abbrev cX6_isNote : ByteArray := prog_34_method_64_code
def yX6_isNote : MethodName := ⟨RX6, "isNote", "(I)Z"⟩
def dkwX6_isNote_0 : List UInt8 := [27, 3, 42, 180, 0, 23, 4, 46, 4, 100, 184, 0, 129, 172]
abbrev dktX6_isNote_0 : List UInt8 := dkwX6_isNote_0 ++ []
theorem dksX6_isNote_0 : cX6_isNote.data.toList.drop 0 = dktX6_isNote_0 := by decide +kernel
theorem dX6_isNote_0 : decode cX6_isNote 0 = .ok (.iload_n 1, 1) := dk_27 (dk_at dksX6_isNote_0 0 rfl rfl)
theorem dX6_isNote_1 : decode cX6_isNote 1 = .ok (.iconst 0, 1) := dk_3 (dk_at dksX6_isNote_0 1 rfl rfl)
theorem dX6_isNote_2 : decode cX6_isNote 2 = .ok (.aload_n 0, 1) := dk_42 (dk_at dksX6_isNote_0 2 rfl rfl)
theorem dX6_isNote_3 : decode cX6_isNote 3 = .ok (.getfield 23, 3) := dk_180 0 23 (dk_at dksX6_isNote_0 3 rfl rfl)
theorem dX6_isNote_6 : decode cX6_isNote 6 = .ok (.iconst 1, 1) := dk_4 (dk_at dksX6_isNote_0 6 rfl rfl)
theorem dX6_isNote_7 : decode cX6_isNote 7 = .ok (.iaload, 1) := dk_46 (dk_at dksX6_isNote_0 7 rfl rfl)
theorem dX6_isNote_8 : decode cX6_isNote 8 = .ok (.iconst 1, 1) := dk_4 (dk_at dksX6_isNote_0 8 rfl rfl)
theorem dX6_isNote_9 : decode cX6_isNote 9 = .ok (.isub, 1) := dk_100 (dk_at dksX6_isNote_0 9 rfl rfl)
theorem dX6_isNote_10 : decode cX6_isNote 10 = .ok (.invokestatic 129, 3) := dk_184 0 129 (dk_at dksX6_isNote_0 10 rfl rfl)
theorem dX6_isNote_13 : decode cX6_isNote 13 = .ok (.ireturn, 1) := dk_172 (dk_at dksX6_isNote_0 13 rfl rfl)
abbrev cX6_like : ByteArray := prog_34_method_68_code
def yX6_like : MethodName := ⟨RX6, "like", "(II)I"⟩
def dkwX6_like_2 : List UInt8 := [167, 0, 4, 3, 5, 4, 182, 0, 171, 153, 0, 5, 3, 172, 42, 180, 0, 43, 27, 50, 28, 46, 172]
abbrev dktX6_like_2 : List UInt8 := dkwX6_like_2 ++ []
def dkwX6_like_1 : List UInt8 := [167, 0, 4, 3, 4, 3, 182, 0, 171, 154, 0, 26, 42, 28, 3, 4, 184, 0, 129, 154, 0, 7, 4]
abbrev dktX6_like_1 : List UInt8 := dkwX6_like_1 ++ dktX6_like_2
def dkwX6_like_0 : List UInt8 := [42, 3, 181, 0, 95, 42, 27, 3, 42, 180, 0, 23, 5, 46, 4, 100, 184, 0, 129, 154, 0, 7, 4]
abbrev dktX6_like_0 : List UInt8 := dkwX6_like_0 ++ dktX6_like_1
theorem dksX6_like_0 : cX6_like.data.toList.drop 0 = dktX6_like_0 := by decide +kernel
theorem dksX6_like_1 : cX6_like.data.toList.drop 23 = dktX6_like_1 := dk_seg dksX6_like_0 23 rfl rfl
theorem dksX6_like_2 : cX6_like.data.toList.drop 46 = dktX6_like_2 := dk_seg dksX6_like_1 23 rfl rfl
theorem dX6_like_0 : decode cX6_like 0 = .ok (.aload_n 0, 1) := dk_42 (dk_at dksX6_like_0 0 rfl rfl)
theorem dX6_like_1 : decode cX6_like 1 = .ok (.iconst 0, 1) := dk_3 (dk_at dksX6_like_0 1 rfl rfl)
theorem dX6_like_2 : decode cX6_like 2 = .ok (.putfield 95, 3) := dk_181 0 95 (dk_at dksX6_like_0 2 rfl rfl)
theorem dX6_like_5 : decode cX6_like 5 = .ok (.aload_n 0, 1) := dk_42 (dk_at dksX6_like_0 5 rfl rfl)
theorem dX6_like_6 : decode cX6_like 6 = .ok (.iload_n 1, 1) := dk_27 (dk_at dksX6_like_0 6 rfl rfl)
theorem dX6_like_7 : decode cX6_like 7 = .ok (.iconst 0, 1) := dk_3 (dk_at dksX6_like_0 7 rfl rfl)
theorem dX6_like_8 : decode cX6_like 8 = .ok (.aload_n 0, 1) := dk_42 (dk_at dksX6_like_0 8 rfl rfl)
theorem dX6_like_9 : decode cX6_like 9 = .ok (.getfield 23, 3) := dk_180 0 23 (dk_at dksX6_like_0 9 rfl rfl)
theorem dX6_like_12 : decode cX6_like 12 = .ok (.iconst 2, 1) := dk_5 (dk_at dksX6_like_0 12 rfl rfl)
theorem dX6_like_13 : decode cX6_like 13 = .ok (.iaload, 1) := dk_46 (dk_at dksX6_like_0 13 rfl rfl)
theorem dX6_like_14 : decode cX6_like 14 = .ok (.iconst 1, 1) := dk_4 (dk_at dksX6_like_0 14 rfl rfl)
theorem dX6_like_15 : decode cX6_like 15 = .ok (.isub, 1) := dk_100 (dk_at dksX6_like_0 15 rfl rfl)
theorem dX6_like_16 : decode cX6_like 16 = .ok (.invokestatic 129, 3) := dk_184 0 129 (dk_at dksX6_like_0 16 rfl rfl)
theorem dX6_like_19 : decode cX6_like 19 = .ok (.ifCond .ne 7, 3) := dk_154 0 7 (dk_at dksX6_like_0 19 rfl rfl)
theorem dX6_like_22 : decode cX6_like 22 = .ok (.iconst 1, 1) := dk_4 (dk_at dksX6_like_0 22 rfl rfl)
theorem dX6_like_23 : decode cX6_like 23 = .ok (.goto 4, 3) := dk_167 0 4 (dk_at dksX6_like_1 0 rfl rfl)
theorem dX6_like_26 : decode cX6_like 26 = .ok (.iconst 0, 1) := dk_3 (dk_at dksX6_like_1 3 rfl rfl)
theorem dX6_like_27 : decode cX6_like 27 = .ok (.iconst 1, 1) := dk_4 (dk_at dksX6_like_1 4 rfl rfl)
theorem dX6_like_28 : decode cX6_like 28 = .ok (.iconst 0, 1) := dk_3 (dk_at dksX6_like_1 5 rfl rfl)
theorem dX6_like_29 : decode cX6_like 29 = .ok (.invokevirtual 171, 3) := dk_182 0 171 (dk_at dksX6_like_1 6 rfl rfl)
theorem dX6_like_32 : decode cX6_like 32 = .ok (.ifCond .ne 26, 3) := dk_154 0 26 (dk_at dksX6_like_1 9 rfl rfl)
theorem dX6_like_35 : decode cX6_like 35 = .ok (.aload_n 0, 1) := dk_42 (dk_at dksX6_like_1 12 rfl rfl)
theorem dX6_like_36 : decode cX6_like 36 = .ok (.iload_n 2, 1) := dk_28 (dk_at dksX6_like_1 13 rfl rfl)
theorem dX6_like_37 : decode cX6_like 37 = .ok (.iconst 0, 1) := dk_3 (dk_at dksX6_like_1 14 rfl rfl)
theorem dX6_like_38 : decode cX6_like 38 = .ok (.iconst 1, 1) := dk_4 (dk_at dksX6_like_1 15 rfl rfl)
theorem dX6_like_39 : decode cX6_like 39 = .ok (.invokestatic 129, 3) := dk_184 0 129 (dk_at dksX6_like_1 16 rfl rfl)
theorem dX6_like_42 : decode cX6_like 42 = .ok (.ifCond .ne 7, 3) := dk_154 0 7 (dk_at dksX6_like_1 19 rfl rfl)
theorem dX6_like_45 : decode cX6_like 45 = .ok (.iconst 1, 1) := dk_4 (dk_at dksX6_like_1 22 rfl rfl)
theorem dX6_like_46 : decode cX6_like 46 = .ok (.goto 4, 3) := dk_167 0 4 (dk_at dksX6_like_2 0 rfl rfl)
theorem dX6_like_49 : decode cX6_like 49 = .ok (.iconst 0, 1) := dk_3 (dk_at dksX6_like_2 3 rfl rfl)
theorem dX6_like_50 : decode cX6_like 50 = .ok (.iconst 2, 1) := dk_5 (dk_at dksX6_like_2 4 rfl rfl)
theorem dX6_like_51 : decode cX6_like 51 = .ok (.iconst 1, 1) := dk_4 (dk_at dksX6_like_2 5 rfl rfl)
theorem dX6_like_52 : decode cX6_like 52 = .ok (.invokevirtual 171, 3) := dk_182 0 171 (dk_at dksX6_like_2 6 rfl rfl)
theorem dX6_like_55 : decode cX6_like 55 = .ok (.ifCond .eq 5, 3) := dk_153 0 5 (dk_at dksX6_like_2 9 rfl rfl)
theorem dX6_like_58 : decode cX6_like 58 = .ok (.iconst 0, 1) := dk_3 (dk_at dksX6_like_2 12 rfl rfl)
theorem dX6_like_59 : decode cX6_like 59 = .ok (.ireturn, 1) := dk_172 (dk_at dksX6_like_2 13 rfl rfl)
theorem dX6_like_60 : decode cX6_like 60 = .ok (.aload_n 0, 1) := dk_42 (dk_at dksX6_like_2 14 rfl rfl)
theorem dX6_like_61 : decode cX6_like 61 = .ok (.getfield 43, 3) := dk_180 0 43 (dk_at dksX6_like_2 15 rfl rfl)
theorem dX6_like_64 : decode cX6_like 64 = .ok (.iload_n 1, 1) := dk_27 (dk_at dksX6_like_2 18 rfl rfl)
theorem dX6_like_65 : decode cX6_like 65 = .ok (.aaload, 1) := dk_50 (dk_at dksX6_like_2 19 rfl rfl)
theorem dX6_like_66 : decode cX6_like 66 = .ok (.iload_n 2, 1) := dk_28 (dk_at dksX6_like_2 20 rfl rfl)
theorem dX6_like_67 : decode cX6_like 67 = .ok (.iaload, 1) := dk_46 (dk_at dksX6_like_2 21 rfl rfl)
theorem dX6_like_68 : decode cX6_like 68 = .ok (.ireturn, 1) := dk_172 (dk_at dksX6_like_2 22 rfl rfl)
abbrev cX6_takes : ByteArray := prog_34_method_69_code
def yX6_takes : MethodName := ⟨RX6, "takes", "(II)I"⟩
def dkwX6_takes_2 : List UInt8 := [172]
abbrev dktX6_takes_2 : List UInt8 := dkwX6_takes_2 ++ []
def dkwX6_takes_1 : List UInt8 := [167, 0, 4, 3, 4, 3, 182, 0, 171, 153, 0, 5, 3, 172, 42, 42, 180, 0, 67, 27, 28, 182, 1, 9]
abbrev dktX6_takes_1 : List UInt8 := dkwX6_takes_1 ++ dktX6_takes_2
def dkwX6_takes_0 : List UInt8 := [42, 3, 181, 0, 95, 42, 42, 27, 182, 1, 68, 153, 0, 11, 42, 28, 182, 1, 65, 154, 0, 7, 4]
abbrev dktX6_takes_0 : List UInt8 := dkwX6_takes_0 ++ dktX6_takes_1
theorem dksX6_takes_0 : cX6_takes.data.toList.drop 0 = dktX6_takes_0 := by decide +kernel
theorem dksX6_takes_1 : cX6_takes.data.toList.drop 23 = dktX6_takes_1 := dk_seg dksX6_takes_0 23 rfl rfl
theorem dksX6_takes_2 : cX6_takes.data.toList.drop 47 = dktX6_takes_2 := dk_seg dksX6_takes_1 24 rfl rfl
theorem dX6_takes_0 : decode cX6_takes 0 = .ok (.aload_n 0, 1) := dk_42 (dk_at dksX6_takes_0 0 rfl rfl)
theorem dX6_takes_1 : decode cX6_takes 1 = .ok (.iconst 0, 1) := dk_3 (dk_at dksX6_takes_0 1 rfl rfl)
theorem dX6_takes_2 : decode cX6_takes 2 = .ok (.putfield 95, 3) := dk_181 0 95 (dk_at dksX6_takes_0 2 rfl rfl)
theorem dX6_takes_5 : decode cX6_takes 5 = .ok (.aload_n 0, 1) := dk_42 (dk_at dksX6_takes_0 5 rfl rfl)
theorem dX6_takes_6 : decode cX6_takes 6 = .ok (.aload_n 0, 1) := dk_42 (dk_at dksX6_takes_0 6 rfl rfl)
theorem dX6_takes_7 : decode cX6_takes 7 = .ok (.iload_n 1, 1) := dk_27 (dk_at dksX6_takes_0 7 rfl rfl)
theorem dX6_takes_8 : decode cX6_takes 8 = .ok (.invokevirtual 324, 3) := dk_182 1 68 (dk_at dksX6_takes_0 8 rfl rfl)
theorem dX6_takes_11 : decode cX6_takes 11 = .ok (.ifCond .eq 11, 3) := dk_153 0 11 (dk_at dksX6_takes_0 11 rfl rfl)
theorem dX6_takes_14 : decode cX6_takes 14 = .ok (.aload_n 0, 1) := dk_42 (dk_at dksX6_takes_0 14 rfl rfl)
theorem dX6_takes_15 : decode cX6_takes 15 = .ok (.iload_n 2, 1) := dk_28 (dk_at dksX6_takes_0 15 rfl rfl)
theorem dX6_takes_16 : decode cX6_takes 16 = .ok (.invokevirtual 321, 3) := dk_182 1 65 (dk_at dksX6_takes_0 16 rfl rfl)
theorem dX6_takes_19 : decode cX6_takes 19 = .ok (.ifCond .ne 7, 3) := dk_154 0 7 (dk_at dksX6_takes_0 19 rfl rfl)
theorem dX6_takes_22 : decode cX6_takes 22 = .ok (.iconst 1, 1) := dk_4 (dk_at dksX6_takes_0 22 rfl rfl)
theorem dX6_takes_23 : decode cX6_takes 23 = .ok (.goto 4, 3) := dk_167 0 4 (dk_at dksX6_takes_1 0 rfl rfl)
theorem dX6_takes_26 : decode cX6_takes 26 = .ok (.iconst 0, 1) := dk_3 (dk_at dksX6_takes_1 3 rfl rfl)
theorem dX6_takes_27 : decode cX6_takes 27 = .ok (.iconst 1, 1) := dk_4 (dk_at dksX6_takes_1 4 rfl rfl)
theorem dX6_takes_28 : decode cX6_takes 28 = .ok (.iconst 0, 1) := dk_3 (dk_at dksX6_takes_1 5 rfl rfl)
theorem dX6_takes_29 : decode cX6_takes 29 = .ok (.invokevirtual 171, 3) := dk_182 0 171 (dk_at dksX6_takes_1 6 rfl rfl)
theorem dX6_takes_32 : decode cX6_takes 32 = .ok (.ifCond .eq 5, 3) := dk_153 0 5 (dk_at dksX6_takes_1 9 rfl rfl)
theorem dX6_takes_35 : decode cX6_takes 35 = .ok (.iconst 0, 1) := dk_3 (dk_at dksX6_takes_1 12 rfl rfl)
theorem dX6_takes_36 : decode cX6_takes 36 = .ok (.ireturn, 1) := dk_172 (dk_at dksX6_takes_1 13 rfl rfl)
theorem dX6_takes_37 : decode cX6_takes 37 = .ok (.aload_n 0, 1) := dk_42 (dk_at dksX6_takes_1 14 rfl rfl)
theorem dX6_takes_38 : decode cX6_takes 38 = .ok (.aload_n 0, 1) := dk_42 (dk_at dksX6_takes_1 15 rfl rfl)
theorem dX6_takes_39 : decode cX6_takes 39 = .ok (.getfield 67, 3) := dk_180 0 67 (dk_at dksX6_takes_1 16 rfl rfl)
theorem dX6_takes_42 : decode cX6_takes 42 = .ok (.iload_n 1, 1) := dk_27 (dk_at dksX6_takes_1 19 rfl rfl)
theorem dX6_takes_43 : decode cX6_takes 43 = .ok (.iload_n 2, 1) := dk_28 (dk_at dksX6_takes_1 20 rfl rfl)
theorem dX6_takes_44 : decode cX6_takes 44 = .ok (.invokevirtual 265, 3) := dk_182 1 9 (dk_at dksX6_takes_1 21 rfl rfl)
theorem dX6_takes_47 : decode cX6_takes 47 = .ok (.ireturn, 1) := dk_172 (dk_at dksX6_takes_2 0 rfl rfl)
abbrev cX6_would : ByteArray := prog_34_method_70_code
def yX6_would : MethodName := ⟨RX6, "would", "(IIIIIIII)I"⟩
def dkwX6_would_5 : List UInt8 := [21, 7, 21, 8, 182, 1, 5, 172]
abbrev dktX6_would_5 : List UInt8 := dkwX6_would_5 ++ []
def dkwX6_would_4 : List UInt8 := [167, 0, 4, 3, 4, 4, 182, 0, 171, 153, 0, 5, 3, 172, 42, 27, 28, 29, 21, 4, 21, 5, 21, 6]
abbrev dktX6_would_4 : List UInt8 := dkwX6_would_4 ++ dktX6_would_5
def dkwX6_would_3 : List UInt8 := [3, 17, 1, 144, 184, 0, 129, 153, 0, 14, 21, 8, 3, 16, 6, 184, 0, 129, 154, 0, 7, 4]
abbrev dktX6_would_3 : List UInt8 := dkwX6_would_3 ++ dktX6_would_4
def dkwX6_would_2 : List UInt8 := [153, 0, 45, 21, 5, 3, 16, 19, 184, 0, 129, 153, 0, 34, 21, 6, 184, 1, 71, 153, 0, 26, 21, 7]
abbrev dktX6_would_2 : List UInt8 := dkwX6_would_2 ++ dktX6_would_3
def dkwX6_would_1 : List UInt8 := [153, 0, 67, 29, 3, 16, 30, 184, 0, 129, 153, 0, 57, 21, 4, 3, 17, 39, 15, 184, 0, 129]
abbrev dktX6_would_1 : List UInt8 := dkwX6_would_1 ++ dktX6_would_2
def dkwX6_would_0 : List UInt8 := [42, 3, 181, 0, 95, 42, 27, 4, 16, 9, 184, 0, 129, 153, 0, 77, 28, 3, 16, 60, 184, 0, 129]
abbrev dktX6_would_0 : List UInt8 := dkwX6_would_0 ++ dktX6_would_1
theorem dksX6_would_0 : cX6_would.data.toList.drop 0 = dktX6_would_0 := by decide +kernel
theorem dksX6_would_1 : cX6_would.data.toList.drop 23 = dktX6_would_1 := dk_seg dksX6_would_0 23 rfl rfl
theorem dksX6_would_2 : cX6_would.data.toList.drop 45 = dktX6_would_2 := dk_seg dksX6_would_1 22 rfl rfl
theorem dksX6_would_3 : cX6_would.data.toList.drop 69 = dktX6_would_3 := dk_seg dksX6_would_2 24 rfl rfl
theorem dksX6_would_4 : cX6_would.data.toList.drop 91 = dktX6_would_4 := dk_seg dksX6_would_3 22 rfl rfl
theorem dksX6_would_5 : cX6_would.data.toList.drop 115 = dktX6_would_5 := dk_seg dksX6_would_4 24 rfl rfl
theorem dX6_would_0 : decode cX6_would 0 = .ok (.aload_n 0, 1) := dk_42 (dk_at dksX6_would_0 0 rfl rfl)
theorem dX6_would_1 : decode cX6_would 1 = .ok (.iconst 0, 1) := dk_3 (dk_at dksX6_would_0 1 rfl rfl)
theorem dX6_would_2 : decode cX6_would 2 = .ok (.putfield 95, 3) := dk_181 0 95 (dk_at dksX6_would_0 2 rfl rfl)
theorem dX6_would_5 : decode cX6_would 5 = .ok (.aload_n 0, 1) := dk_42 (dk_at dksX6_would_0 5 rfl rfl)
theorem dX6_would_6 : decode cX6_would 6 = .ok (.iload_n 1, 1) := dk_27 (dk_at dksX6_would_0 6 rfl rfl)
theorem dX6_would_7 : decode cX6_would 7 = .ok (.iconst 1, 1) := dk_4 (dk_at dksX6_would_0 7 rfl rfl)
theorem dX6_would_8 : decode cX6_would 8 = .ok (.bipush 9, 2) := dk_16 9 (dk_at dksX6_would_0 8 rfl rfl)
theorem dX6_would_10 : decode cX6_would 10 = .ok (.invokestatic 129, 3) := dk_184 0 129 (dk_at dksX6_would_0 10 rfl rfl)
theorem dX6_would_13 : decode cX6_would 13 = .ok (.ifCond .eq 77, 3) := dk_153 0 77 (dk_at dksX6_would_0 13 rfl rfl)
theorem dX6_would_16 : decode cX6_would 16 = .ok (.iload_n 2, 1) := dk_28 (dk_at dksX6_would_0 16 rfl rfl)
theorem dX6_would_17 : decode cX6_would 17 = .ok (.iconst 0, 1) := dk_3 (dk_at dksX6_would_0 17 rfl rfl)
theorem dX6_would_18 : decode cX6_would 18 = .ok (.bipush 60, 2) := dk_16 60 (dk_at dksX6_would_0 18 rfl rfl)
theorem dX6_would_20 : decode cX6_would 20 = .ok (.invokestatic 129, 3) := dk_184 0 129 (dk_at dksX6_would_0 20 rfl rfl)
theorem dX6_would_23 : decode cX6_would 23 = .ok (.ifCond .eq 67, 3) := dk_153 0 67 (dk_at dksX6_would_1 0 rfl rfl)
theorem dX6_would_26 : decode cX6_would 26 = .ok (.iload_n 3, 1) := dk_29 (dk_at dksX6_would_1 3 rfl rfl)
theorem dX6_would_27 : decode cX6_would 27 = .ok (.iconst 0, 1) := dk_3 (dk_at dksX6_would_1 4 rfl rfl)
theorem dX6_would_28 : decode cX6_would 28 = .ok (.bipush 30, 2) := dk_16 30 (dk_at dksX6_would_1 5 rfl rfl)
theorem dX6_would_30 : decode cX6_would 30 = .ok (.invokestatic 129, 3) := dk_184 0 129 (dk_at dksX6_would_1 7 rfl rfl)
theorem dX6_would_33 : decode cX6_would 33 = .ok (.ifCond .eq 57, 3) := dk_153 0 57 (dk_at dksX6_would_1 10 rfl rfl)
theorem dX6_would_36 : decode cX6_would 36 = .ok (.iload 4, 2) := dk_21 4 (dk_at dksX6_would_1 13 rfl rfl)
theorem dX6_would_38 : decode cX6_would 38 = .ok (.iconst 0, 1) := dk_3 (dk_at dksX6_would_1 15 rfl rfl)
theorem dX6_would_39 : decode cX6_would 39 = .ok (.sipush 9999, 3) := dk_17 39 15 (dk_at dksX6_would_1 16 rfl rfl)
theorem dX6_would_42 : decode cX6_would 42 = .ok (.invokestatic 129, 3) := dk_184 0 129 (dk_at dksX6_would_1 19 rfl rfl)
theorem dX6_would_45 : decode cX6_would 45 = .ok (.ifCond .eq 45, 3) := dk_153 0 45 (dk_at dksX6_would_2 0 rfl rfl)
theorem dX6_would_48 : decode cX6_would 48 = .ok (.iload 5, 2) := dk_21 5 (dk_at dksX6_would_2 3 rfl rfl)
theorem dX6_would_50 : decode cX6_would 50 = .ok (.iconst 0, 1) := dk_3 (dk_at dksX6_would_2 5 rfl rfl)
theorem dX6_would_51 : decode cX6_would 51 = .ok (.bipush 19, 2) := dk_16 19 (dk_at dksX6_would_2 6 rfl rfl)
theorem dX6_would_53 : decode cX6_would 53 = .ok (.invokestatic 129, 3) := dk_184 0 129 (dk_at dksX6_would_2 8 rfl rfl)
theorem dX6_would_56 : decode cX6_would 56 = .ok (.ifCond .eq 34, 3) := dk_153 0 34 (dk_at dksX6_would_2 11 rfl rfl)
theorem dX6_would_59 : decode cX6_would 59 = .ok (.iload 6, 2) := dk_21 6 (dk_at dksX6_would_2 14 rfl rfl)
theorem dX6_would_61 : decode cX6_would 61 = .ok (.invokestatic 327, 3) := dk_184 1 71 (dk_at dksX6_would_2 16 rfl rfl)
theorem dX6_would_64 : decode cX6_would 64 = .ok (.ifCond .eq 26, 3) := dk_153 0 26 (dk_at dksX6_would_2 19 rfl rfl)
theorem dX6_would_67 : decode cX6_would 67 = .ok (.iload 7, 2) := dk_21 7 (dk_at dksX6_would_2 22 rfl rfl)
theorem dX6_would_69 : decode cX6_would 69 = .ok (.iconst 0, 1) := dk_3 (dk_at dksX6_would_3 0 rfl rfl)
theorem dX6_would_70 : decode cX6_would 70 = .ok (.sipush 400, 3) := dk_17 1 144 (dk_at dksX6_would_3 1 rfl rfl)
theorem dX6_would_73 : decode cX6_would 73 = .ok (.invokestatic 129, 3) := dk_184 0 129 (dk_at dksX6_would_3 4 rfl rfl)
theorem dX6_would_76 : decode cX6_would 76 = .ok (.ifCond .eq 14, 3) := dk_153 0 14 (dk_at dksX6_would_3 7 rfl rfl)
theorem dX6_would_79 : decode cX6_would 79 = .ok (.iload 8, 2) := dk_21 8 (dk_at dksX6_would_3 10 rfl rfl)
theorem dX6_would_81 : decode cX6_would 81 = .ok (.iconst 0, 1) := dk_3 (dk_at dksX6_would_3 12 rfl rfl)
theorem dX6_would_82 : decode cX6_would 82 = .ok (.bipush 6, 2) := dk_16 6 (dk_at dksX6_would_3 13 rfl rfl)
theorem dX6_would_84 : decode cX6_would 84 = .ok (.invokestatic 129, 3) := dk_184 0 129 (dk_at dksX6_would_3 15 rfl rfl)
theorem dX6_would_87 : decode cX6_would 87 = .ok (.ifCond .ne 7, 3) := dk_154 0 7 (dk_at dksX6_would_3 18 rfl rfl)
theorem dX6_would_90 : decode cX6_would 90 = .ok (.iconst 1, 1) := dk_4 (dk_at dksX6_would_3 21 rfl rfl)
theorem dX6_would_91 : decode cX6_would 91 = .ok (.goto 4, 3) := dk_167 0 4 (dk_at dksX6_would_4 0 rfl rfl)
theorem dX6_would_94 : decode cX6_would 94 = .ok (.iconst 0, 1) := dk_3 (dk_at dksX6_would_4 3 rfl rfl)
theorem dX6_would_95 : decode cX6_would 95 = .ok (.iconst 1, 1) := dk_4 (dk_at dksX6_would_4 4 rfl rfl)
theorem dX6_would_96 : decode cX6_would 96 = .ok (.iconst 1, 1) := dk_4 (dk_at dksX6_would_4 5 rfl rfl)
theorem dX6_would_97 : decode cX6_would 97 = .ok (.invokevirtual 171, 3) := dk_182 0 171 (dk_at dksX6_would_4 6 rfl rfl)
theorem dX6_would_100 : decode cX6_would 100 = .ok (.ifCond .eq 5, 3) := dk_153 0 5 (dk_at dksX6_would_4 9 rfl rfl)
theorem dX6_would_103 : decode cX6_would 103 = .ok (.iconst 0, 1) := dk_3 (dk_at dksX6_would_4 12 rfl rfl)
theorem dX6_would_104 : decode cX6_would 104 = .ok (.ireturn, 1) := dk_172 (dk_at dksX6_would_4 13 rfl rfl)
theorem dX6_would_105 : decode cX6_would 105 = .ok (.aload_n 0, 1) := dk_42 (dk_at dksX6_would_4 14 rfl rfl)
theorem dX6_would_106 : decode cX6_would 106 = .ok (.iload_n 1, 1) := dk_27 (dk_at dksX6_would_4 15 rfl rfl)
theorem dX6_would_107 : decode cX6_would 107 = .ok (.iload_n 2, 1) := dk_28 (dk_at dksX6_would_4 16 rfl rfl)
theorem dX6_would_108 : decode cX6_would 108 = .ok (.iload_n 3, 1) := dk_29 (dk_at dksX6_would_4 17 rfl rfl)
theorem dX6_would_109 : decode cX6_would 109 = .ok (.iload 4, 2) := dk_21 4 (dk_at dksX6_would_4 18 rfl rfl)
theorem dX6_would_111 : decode cX6_would 111 = .ok (.iload 5, 2) := dk_21 5 (dk_at dksX6_would_4 20 rfl rfl)
theorem dX6_would_113 : decode cX6_would 113 = .ok (.iload 6, 2) := dk_21 6 (dk_at dksX6_would_4 22 rfl rfl)
theorem dX6_would_115 : decode cX6_would 115 = .ok (.iload 7, 2) := dk_21 7 (dk_at dksX6_would_5 0 rfl rfl)
theorem dX6_would_117 : decode cX6_would 117 = .ok (.iload 8, 2) := dk_21 8 (dk_at dksX6_would_5 2 rfl rfl)
theorem dX6_would_119 : decode cX6_would 119 = .ok (.invokevirtual 261, 3) := dk_182 1 5 (dk_at dksX6_would_5 4 rfl rfl)
theorem dX6_would_122 : decode cX6_would 122 = .ok (.ireturn, 1) := dk_172 (dk_at dksX6_would_5 7 rfl rfl)
abbrev cX6_isVowel : ByteArray := prog_34_method_65_code
def yX6_isVowel : MethodName := ⟨RX6, "isVowel", "(I)Z"⟩
def dkwX6_isVowel_0 : List UInt8 := [26, 3, 8, 184, 0, 129, 172]
abbrev dktX6_isVowel_0 : List UInt8 := dkwX6_isVowel_0 ++ []
theorem dksX6_isVowel_0 : cX6_isVowel.data.toList.drop 0 = dktX6_isVowel_0 := by decide +kernel
theorem dX6_isVowel_0 : decode cX6_isVowel 0 = .ok (.iload_n 0, 1) := dk_26 (dk_at dksX6_isVowel_0 0 rfl rfl)
theorem dX6_isVowel_1 : decode cX6_isVowel 1 = .ok (.iconst 0, 1) := dk_3 (dk_at dksX6_isVowel_0 1 rfl rfl)
theorem dX6_isVowel_2 : decode cX6_isVowel 2 = .ok (.iconst 5, 1) := dk_8 (dk_at dksX6_isVowel_0 2 rfl rfl)
theorem dX6_isVowel_3 : decode cX6_isVowel 3 = .ok (.invokestatic 129, 3) := dk_184 0 129 (dk_at dksX6_isVowel_0 3 rfl rfl)
theorem dX6_isVowel_6 : decode cX6_isVowel 6 = .ok (.ireturn, 1) := dk_172 (dk_at dksX6_isVowel_0 6 rfl rfl)
abbrev cX6_ahead : ByteArray := prog_34_method_71_code
def yX6_ahead : MethodName := ⟨RX6, "ahead", "(II)I"⟩
def dkwX6_ahead_6 : List UInt8 := [160, 0, 15, 42, 42, 180, 0, 70, 3, 182, 1, 62, 167, 0, 4, 29, 172]
abbrev dktX6_ahead_6 : List UInt8 := dkwX6_ahead_6 ++ []
def dkwX6_ahead_5 : List UInt8 := [28, 154, 0, 21, 42, 180, 0, 70, 16, 55, 46, 42, 180, 0, 67, 16, 55, 46, 100, 167, 0, 21, 28, 4]
abbrev dktX6_ahead_5 : List UInt8 := dkwX6_ahead_5 ++ dktX6_ahead_6
def dkwX6_ahead_4 : List UInt8 := [3, 21, 4, 96, 46, 154, 0, 10, 4, 21, 4, 120, 167, 0, 4, 3, 128, 62, 132, 4, 1, 167, 255, 219]
abbrev dktX6_ahead_4 : List UInt8 := dkwX6_ahead_4 ++ dktX6_ahead_5
def dkwX6_ahead_3 : List UInt8 := [167, 255, 240, 3, 62, 3, 54, 4, 21, 4, 42, 180, 0, 23, 3, 46, 162, 0, 32, 29, 42, 180, 0, 70]
abbrev dktX6_ahead_3 : List UInt8 := dkwX6_ahead_3 ++ dktX6_ahead_4
def dkwX6_ahead_2 : List UInt8 := [180, 0, 70, 184, 1, 54, 3, 62, 29, 27, 162, 0, 17, 42, 42, 180, 0, 70, 182, 1, 24, 132, 3, 1]
abbrev dktX6_ahead_2 : List UInt8 := dkwX6_ahead_2 ++ dktX6_ahead_3
def dkwX6_ahead_1 : List UInt8 := [154, 0, 7, 4, 167, 0, 4, 3, 4, 4, 182, 0, 171, 153, 0, 5, 3, 172, 42, 180, 0, 67, 42]
abbrev dktX6_ahead_1 : List UInt8 := dkwX6_ahead_1 ++ dktX6_ahead_2
def dkwX6_ahead_0 : List UInt8 := [42, 3, 181, 0, 95, 42, 27, 3, 16, 20, 184, 0, 129, 153, 0, 12, 28, 3, 5, 184, 0, 129]
abbrev dktX6_ahead_0 : List UInt8 := dkwX6_ahead_0 ++ dktX6_ahead_1
theorem dksX6_ahead_0 : cX6_ahead.data.toList.drop 0 = dktX6_ahead_0 := by decide +kernel
theorem dksX6_ahead_1 : cX6_ahead.data.toList.drop 22 = dktX6_ahead_1 := dk_seg dksX6_ahead_0 22 rfl rfl
theorem dksX6_ahead_2 : cX6_ahead.data.toList.drop 45 = dktX6_ahead_2 := dk_seg dksX6_ahead_1 23 rfl rfl
theorem dksX6_ahead_3 : cX6_ahead.data.toList.drop 69 = dktX6_ahead_3 := dk_seg dksX6_ahead_2 24 rfl rfl
theorem dksX6_ahead_4 : cX6_ahead.data.toList.drop 93 = dktX6_ahead_4 := dk_seg dksX6_ahead_3 24 rfl rfl
theorem dksX6_ahead_5 : cX6_ahead.data.toList.drop 117 = dktX6_ahead_5 := dk_seg dksX6_ahead_4 24 rfl rfl
theorem dksX6_ahead_6 : cX6_ahead.data.toList.drop 141 = dktX6_ahead_6 := dk_seg dksX6_ahead_5 24 rfl rfl
theorem dX6_ahead_0 : decode cX6_ahead 0 = .ok (.aload_n 0, 1) := dk_42 (dk_at dksX6_ahead_0 0 rfl rfl)
theorem dX6_ahead_1 : decode cX6_ahead 1 = .ok (.iconst 0, 1) := dk_3 (dk_at dksX6_ahead_0 1 rfl rfl)
theorem dX6_ahead_2 : decode cX6_ahead 2 = .ok (.putfield 95, 3) := dk_181 0 95 (dk_at dksX6_ahead_0 2 rfl rfl)
theorem dX6_ahead_5 : decode cX6_ahead 5 = .ok (.aload_n 0, 1) := dk_42 (dk_at dksX6_ahead_0 5 rfl rfl)
theorem dX6_ahead_6 : decode cX6_ahead 6 = .ok (.iload_n 1, 1) := dk_27 (dk_at dksX6_ahead_0 6 rfl rfl)
theorem dX6_ahead_7 : decode cX6_ahead 7 = .ok (.iconst 0, 1) := dk_3 (dk_at dksX6_ahead_0 7 rfl rfl)
theorem dX6_ahead_8 : decode cX6_ahead 8 = .ok (.bipush 20, 2) := dk_16 20 (dk_at dksX6_ahead_0 8 rfl rfl)
theorem dX6_ahead_10 : decode cX6_ahead 10 = .ok (.invokestatic 129, 3) := dk_184 0 129 (dk_at dksX6_ahead_0 10 rfl rfl)
theorem dX6_ahead_13 : decode cX6_ahead 13 = .ok (.ifCond .eq 12, 3) := dk_153 0 12 (dk_at dksX6_ahead_0 13 rfl rfl)
theorem dX6_ahead_16 : decode cX6_ahead 16 = .ok (.iload_n 2, 1) := dk_28 (dk_at dksX6_ahead_0 16 rfl rfl)
theorem dX6_ahead_17 : decode cX6_ahead 17 = .ok (.iconst 0, 1) := dk_3 (dk_at dksX6_ahead_0 17 rfl rfl)
theorem dX6_ahead_18 : decode cX6_ahead 18 = .ok (.iconst 2, 1) := dk_5 (dk_at dksX6_ahead_0 18 rfl rfl)
theorem dX6_ahead_19 : decode cX6_ahead 19 = .ok (.invokestatic 129, 3) := dk_184 0 129 (dk_at dksX6_ahead_0 19 rfl rfl)
theorem dX6_ahead_22 : decode cX6_ahead 22 = .ok (.ifCond .ne 7, 3) := dk_154 0 7 (dk_at dksX6_ahead_1 0 rfl rfl)
theorem dX6_ahead_25 : decode cX6_ahead 25 = .ok (.iconst 1, 1) := dk_4 (dk_at dksX6_ahead_1 3 rfl rfl)
theorem dX6_ahead_26 : decode cX6_ahead 26 = .ok (.goto 4, 3) := dk_167 0 4 (dk_at dksX6_ahead_1 4 rfl rfl)
theorem dX6_ahead_29 : decode cX6_ahead 29 = .ok (.iconst 0, 1) := dk_3 (dk_at dksX6_ahead_1 7 rfl rfl)
theorem dX6_ahead_30 : decode cX6_ahead 30 = .ok (.iconst 1, 1) := dk_4 (dk_at dksX6_ahead_1 8 rfl rfl)
theorem dX6_ahead_31 : decode cX6_ahead 31 = .ok (.iconst 1, 1) := dk_4 (dk_at dksX6_ahead_1 9 rfl rfl)
theorem dX6_ahead_32 : decode cX6_ahead 32 = .ok (.invokevirtual 171, 3) := dk_182 0 171 (dk_at dksX6_ahead_1 10 rfl rfl)
theorem dX6_ahead_35 : decode cX6_ahead 35 = .ok (.ifCond .eq 5, 3) := dk_153 0 5 (dk_at dksX6_ahead_1 13 rfl rfl)
theorem dX6_ahead_38 : decode cX6_ahead 38 = .ok (.iconst 0, 1) := dk_3 (dk_at dksX6_ahead_1 16 rfl rfl)
theorem dX6_ahead_39 : decode cX6_ahead 39 = .ok (.ireturn, 1) := dk_172 (dk_at dksX6_ahead_1 17 rfl rfl)
theorem dX6_ahead_40 : decode cX6_ahead 40 = .ok (.aload_n 0, 1) := dk_42 (dk_at dksX6_ahead_1 18 rfl rfl)
theorem dX6_ahead_41 : decode cX6_ahead 41 = .ok (.getfield 67, 3) := dk_180 0 67 (dk_at dksX6_ahead_1 19 rfl rfl)
theorem dX6_ahead_44 : decode cX6_ahead 44 = .ok (.aload_n 0, 1) := dk_42 (dk_at dksX6_ahead_1 22 rfl rfl)
theorem dX6_ahead_45 : decode cX6_ahead 45 = .ok (.getfield 70, 3) := dk_180 0 70 (dk_at dksX6_ahead_2 0 rfl rfl)
theorem dX6_ahead_48 : decode cX6_ahead 48 = .ok (.invokestatic 310, 3) := dk_184 1 54 (dk_at dksX6_ahead_2 3 rfl rfl)
theorem dX6_ahead_51 : decode cX6_ahead 51 = .ok (.iconst 0, 1) := dk_3 (dk_at dksX6_ahead_2 6 rfl rfl)
theorem dX6_ahead_52 : decode cX6_ahead 52 = .ok (.istore_n 3, 1) := dk_62 (dk_at dksX6_ahead_2 7 rfl rfl)
theorem dX6_ahead_53 : decode cX6_ahead 53 = .ok (.iload_n 3, 1) := dk_29 (dk_at dksX6_ahead_2 8 rfl rfl)
theorem dX6_ahead_54 : decode cX6_ahead 54 = .ok (.iload_n 1, 1) := dk_27 (dk_at dksX6_ahead_2 9 rfl rfl)
theorem dX6_ahead_55 : decode cX6_ahead 55 = .ok (.if_icmp .ge 17, 3) := dk_162 0 17 (dk_at dksX6_ahead_2 10 rfl rfl)
theorem dX6_ahead_58 : decode cX6_ahead 58 = .ok (.aload_n 0, 1) := dk_42 (dk_at dksX6_ahead_2 13 rfl rfl)
theorem dX6_ahead_59 : decode cX6_ahead 59 = .ok (.aload_n 0, 1) := dk_42 (dk_at dksX6_ahead_2 14 rfl rfl)
theorem dX6_ahead_60 : decode cX6_ahead 60 = .ok (.getfield 70, 3) := dk_180 0 70 (dk_at dksX6_ahead_2 15 rfl rfl)
theorem dX6_ahead_63 : decode cX6_ahead 63 = .ok (.invokevirtual 280, 3) := dk_182 1 24 (dk_at dksX6_ahead_2 18 rfl rfl)
theorem dX6_ahead_66 : decode cX6_ahead 66 = .ok (.iinc 3 1, 3) := dk_132 3 1 (dk_at dksX6_ahead_2 21 rfl rfl)
theorem dX6_ahead_69 : decode cX6_ahead 69 = .ok (.goto (-16), 3) := dk_167 255 240 (dk_at dksX6_ahead_3 0 rfl rfl)
theorem dX6_ahead_72 : decode cX6_ahead 72 = .ok (.iconst 0, 1) := dk_3 (dk_at dksX6_ahead_3 3 rfl rfl)
theorem dX6_ahead_73 : decode cX6_ahead 73 = .ok (.istore_n 3, 1) := dk_62 (dk_at dksX6_ahead_3 4 rfl rfl)
theorem dX6_ahead_74 : decode cX6_ahead 74 = .ok (.iconst 0, 1) := dk_3 (dk_at dksX6_ahead_3 5 rfl rfl)
theorem dX6_ahead_75 : decode cX6_ahead 75 = .ok (.istore 4, 2) := dk_54 4 (dk_at dksX6_ahead_3 6 rfl rfl)
theorem dX6_ahead_77 : decode cX6_ahead 77 = .ok (.iload 4, 2) := dk_21 4 (dk_at dksX6_ahead_3 8 rfl rfl)
theorem dX6_ahead_79 : decode cX6_ahead 79 = .ok (.aload_n 0, 1) := dk_42 (dk_at dksX6_ahead_3 10 rfl rfl)
theorem dX6_ahead_80 : decode cX6_ahead 80 = .ok (.getfield 23, 3) := dk_180 0 23 (dk_at dksX6_ahead_3 11 rfl rfl)
theorem dX6_ahead_83 : decode cX6_ahead 83 = .ok (.iconst 0, 1) := dk_3 (dk_at dksX6_ahead_3 14 rfl rfl)
theorem dX6_ahead_84 : decode cX6_ahead 84 = .ok (.iaload, 1) := dk_46 (dk_at dksX6_ahead_3 15 rfl rfl)
theorem dX6_ahead_85 : decode cX6_ahead 85 = .ok (.if_icmp .ge 32, 3) := dk_162 0 32 (dk_at dksX6_ahead_3 16 rfl rfl)
theorem dX6_ahead_88 : decode cX6_ahead 88 = .ok (.iload_n 3, 1) := dk_29 (dk_at dksX6_ahead_3 19 rfl rfl)
theorem dX6_ahead_89 : decode cX6_ahead 89 = .ok (.aload_n 0, 1) := dk_42 (dk_at dksX6_ahead_3 20 rfl rfl)
theorem dX6_ahead_90 : decode cX6_ahead 90 = .ok (.getfield 70, 3) := dk_180 0 70 (dk_at dksX6_ahead_3 21 rfl rfl)
theorem dX6_ahead_93 : decode cX6_ahead 93 = .ok (.iconst 0, 1) := dk_3 (dk_at dksX6_ahead_4 0 rfl rfl)
theorem dX6_ahead_94 : decode cX6_ahead 94 = .ok (.iload 4, 2) := dk_21 4 (dk_at dksX6_ahead_4 1 rfl rfl)
theorem dX6_ahead_96 : decode cX6_ahead 96 = .ok (.iadd, 1) := dk_96 (dk_at dksX6_ahead_4 3 rfl rfl)
theorem dX6_ahead_97 : decode cX6_ahead 97 = .ok (.iaload, 1) := dk_46 (dk_at dksX6_ahead_4 4 rfl rfl)
theorem dX6_ahead_98 : decode cX6_ahead 98 = .ok (.ifCond .ne 10, 3) := dk_154 0 10 (dk_at dksX6_ahead_4 5 rfl rfl)
theorem dX6_ahead_101 : decode cX6_ahead 101 = .ok (.iconst 1, 1) := dk_4 (dk_at dksX6_ahead_4 8 rfl rfl)
theorem dX6_ahead_102 : decode cX6_ahead 102 = .ok (.iload 4, 2) := dk_21 4 (dk_at dksX6_ahead_4 9 rfl rfl)
theorem dX6_ahead_104 : decode cX6_ahead 104 = .ok (.ishl, 1) := dk_120 (dk_at dksX6_ahead_4 11 rfl rfl)
theorem dX6_ahead_105 : decode cX6_ahead 105 = .ok (.goto 4, 3) := dk_167 0 4 (dk_at dksX6_ahead_4 12 rfl rfl)
theorem dX6_ahead_108 : decode cX6_ahead 108 = .ok (.iconst 0, 1) := dk_3 (dk_at dksX6_ahead_4 15 rfl rfl)
theorem dX6_ahead_109 : decode cX6_ahead 109 = .ok (.ior, 1) := dk_128 (dk_at dksX6_ahead_4 16 rfl rfl)
theorem dX6_ahead_110 : decode cX6_ahead 110 = .ok (.istore_n 3, 1) := dk_62 (dk_at dksX6_ahead_4 17 rfl rfl)
theorem dX6_ahead_111 : decode cX6_ahead 111 = .ok (.iinc 4 1, 3) := dk_132 4 1 (dk_at dksX6_ahead_4 18 rfl rfl)
theorem dX6_ahead_114 : decode cX6_ahead 114 = .ok (.goto (-37), 3) := dk_167 255 219 (dk_at dksX6_ahead_4 21 rfl rfl)
theorem dX6_ahead_117 : decode cX6_ahead 117 = .ok (.iload_n 2, 1) := dk_28 (dk_at dksX6_ahead_5 0 rfl rfl)
theorem dX6_ahead_118 : decode cX6_ahead 118 = .ok (.ifCond .ne 21, 3) := dk_154 0 21 (dk_at dksX6_ahead_5 1 rfl rfl)
theorem dX6_ahead_121 : decode cX6_ahead 121 = .ok (.aload_n 0, 1) := dk_42 (dk_at dksX6_ahead_5 4 rfl rfl)
theorem dX6_ahead_122 : decode cX6_ahead 122 = .ok (.getfield 70, 3) := dk_180 0 70 (dk_at dksX6_ahead_5 5 rfl rfl)
theorem dX6_ahead_125 : decode cX6_ahead 125 = .ok (.bipush 55, 2) := dk_16 55 (dk_at dksX6_ahead_5 8 rfl rfl)
theorem dX6_ahead_127 : decode cX6_ahead 127 = .ok (.iaload, 1) := dk_46 (dk_at dksX6_ahead_5 10 rfl rfl)
theorem dX6_ahead_128 : decode cX6_ahead 128 = .ok (.aload_n 0, 1) := dk_42 (dk_at dksX6_ahead_5 11 rfl rfl)
theorem dX6_ahead_129 : decode cX6_ahead 129 = .ok (.getfield 67, 3) := dk_180 0 67 (dk_at dksX6_ahead_5 12 rfl rfl)
theorem dX6_ahead_132 : decode cX6_ahead 132 = .ok (.bipush 55, 2) := dk_16 55 (dk_at dksX6_ahead_5 15 rfl rfl)
theorem dX6_ahead_134 : decode cX6_ahead 134 = .ok (.iaload, 1) := dk_46 (dk_at dksX6_ahead_5 17 rfl rfl)
theorem dX6_ahead_135 : decode cX6_ahead 135 = .ok (.isub, 1) := dk_100 (dk_at dksX6_ahead_5 18 rfl rfl)
theorem dX6_ahead_136 : decode cX6_ahead 136 = .ok (.goto 21, 3) := dk_167 0 21 (dk_at dksX6_ahead_5 19 rfl rfl)
theorem dX6_ahead_139 : decode cX6_ahead 139 = .ok (.iload_n 2, 1) := dk_28 (dk_at dksX6_ahead_5 22 rfl rfl)
theorem dX6_ahead_140 : decode cX6_ahead 140 = .ok (.iconst 1, 1) := dk_4 (dk_at dksX6_ahead_5 23 rfl rfl)
theorem dX6_ahead_141 : decode cX6_ahead 141 = .ok (.if_icmp .ne 15, 3) := dk_160 0 15 (dk_at dksX6_ahead_6 0 rfl rfl)
theorem dX6_ahead_144 : decode cX6_ahead 144 = .ok (.aload_n 0, 1) := dk_42 (dk_at dksX6_ahead_6 3 rfl rfl)
theorem dX6_ahead_145 : decode cX6_ahead 145 = .ok (.aload_n 0, 1) := dk_42 (dk_at dksX6_ahead_6 4 rfl rfl)
theorem dX6_ahead_146 : decode cX6_ahead 146 = .ok (.getfield 70, 3) := dk_180 0 70 (dk_at dksX6_ahead_6 5 rfl rfl)
theorem dX6_ahead_149 : decode cX6_ahead 149 = .ok (.iconst 0, 1) := dk_3 (dk_at dksX6_ahead_6 8 rfl rfl)
theorem dX6_ahead_150 : decode cX6_ahead 150 = .ok (.invokevirtual 318, 3) := dk_182 1 62 (dk_at dksX6_ahead_6 9 rfl rfl)
theorem dX6_ahead_153 : decode cX6_ahead 153 = .ok (.goto 4, 3) := dk_167 0 4 (dk_at dksX6_ahead_6 12 rfl rfl)
theorem dX6_ahead_156 : decode cX6_ahead 156 = .ok (.iload_n 3, 1) := dk_29 (dk_at dksX6_ahead_6 15 rfl rfl)
theorem dX6_ahead_157 : decode cX6_ahead 157 = .ok (.ireturn, 1) := dk_172 (dk_at dksX6_ahead_6 16 rfl rfl)
abbrev cX6_cast : ByteArray := prog_34_method_75_code
def yX6_cast : MethodName := ⟨RX6, "cast", "()I"⟩
def dkwX6_cast_5 : List UInt8 := [132, 2, 1, 167, 255, 147, 27, 172]
abbrev dktX6_cast_5 : List UInt8 := dkwX6_cast_5 ++ []
def dkwX6_cast_4 : List UInt8 := [42, 180, 1, 17, 4, 42, 180, 0, 23, 4, 46, 120, 4, 100, 160, 0, 7, 28, 167, 0, 4, 27, 60]
abbrev dktX6_cast_4 : List UInt8 := dkwX6_cast_4 ++ dktX6_cast_5
def dkwX6_cast_3 : List UInt8 := [184, 1, 54, 42, 42, 180, 0, 70, 182, 0, 188, 42, 28, 182, 1, 83, 42, 42, 180, 0, 70, 182, 1, 24]
abbrev dktX6_cast_3 : List UInt8 := dkwX6_cast_3 ++ dktX6_cast_4
def dkwX6_cast_2 : List UInt8 := [182, 1, 80, 42, 27, 182, 1, 80, 161, 0, 6, 167, 0, 58, 42, 180, 0, 67, 42, 180, 0, 70]
abbrev dktX6_cast_2 : List UInt8 := dkwX6_cast_2 ++ dktX6_cast_3
def dkwX6_cast_1 : List UInt8 := [167, 0, 12, 28, 184, 1, 77, 27, 184, 1, 77, 100, 62, 29, 157, 0, 78, 29, 154, 0, 19, 42, 28]
abbrev dktX6_cast_1 : List UInt8 := dkwX6_cast_1 ++ dktX6_cast_2
def dkwX6_cast_0 : List UInt8 := [42, 3, 181, 0, 95, 2, 60, 3, 61, 28, 42, 182, 1, 74, 163, 0, 107, 27, 2, 160, 0, 7, 2]
abbrev dktX6_cast_0 : List UInt8 := dkwX6_cast_0 ++ dktX6_cast_1
theorem dksX6_cast_0 : cX6_cast.data.toList.drop 0 = dktX6_cast_0 := by decide +kernel
theorem dksX6_cast_1 : cX6_cast.data.toList.drop 23 = dktX6_cast_1 := dk_seg dksX6_cast_0 23 rfl rfl
theorem dksX6_cast_2 : cX6_cast.data.toList.drop 46 = dktX6_cast_2 := dk_seg dksX6_cast_1 23 rfl rfl
theorem dksX6_cast_3 : cX6_cast.data.toList.drop 68 = dktX6_cast_3 := dk_seg dksX6_cast_2 22 rfl rfl
theorem dksX6_cast_4 : cX6_cast.data.toList.drop 92 = dktX6_cast_4 := dk_seg dksX6_cast_3 24 rfl rfl
theorem dksX6_cast_5 : cX6_cast.data.toList.drop 115 = dktX6_cast_5 := dk_seg dksX6_cast_4 23 rfl rfl
theorem dX6_cast_0 : decode cX6_cast 0 = .ok (.aload_n 0, 1) := dk_42 (dk_at dksX6_cast_0 0 rfl rfl)
theorem dX6_cast_1 : decode cX6_cast 1 = .ok (.iconst 0, 1) := dk_3 (dk_at dksX6_cast_0 1 rfl rfl)
theorem dX6_cast_2 : decode cX6_cast 2 = .ok (.putfield 95, 3) := dk_181 0 95 (dk_at dksX6_cast_0 2 rfl rfl)
theorem dX6_cast_5 : decode cX6_cast 5 = .ok (.iconst (-1), 1) := dk_2 (dk_at dksX6_cast_0 5 rfl rfl)
theorem dX6_cast_6 : decode cX6_cast 6 = .ok (.istore_n 1, 1) := dk_60 (dk_at dksX6_cast_0 6 rfl rfl)
theorem dX6_cast_7 : decode cX6_cast 7 = .ok (.iconst 0, 1) := dk_3 (dk_at dksX6_cast_0 7 rfl rfl)
theorem dX6_cast_8 : decode cX6_cast 8 = .ok (.istore_n 2, 1) := dk_61 (dk_at dksX6_cast_0 8 rfl rfl)
theorem dX6_cast_9 : decode cX6_cast 9 = .ok (.iload_n 2, 1) := dk_28 (dk_at dksX6_cast_0 9 rfl rfl)
theorem dX6_cast_10 : decode cX6_cast 10 = .ok (.aload_n 0, 1) := dk_42 (dk_at dksX6_cast_0 10 rfl rfl)
theorem dX6_cast_11 : decode cX6_cast 11 = .ok (.invokevirtual 330, 3) := dk_182 1 74 (dk_at dksX6_cast_0 11 rfl rfl)
theorem dX6_cast_14 : decode cX6_cast 14 = .ok (.if_icmp .gt 107, 3) := dk_163 0 107 (dk_at dksX6_cast_0 14 rfl rfl)
theorem dX6_cast_17 : decode cX6_cast 17 = .ok (.iload_n 1, 1) := dk_27 (dk_at dksX6_cast_0 17 rfl rfl)
theorem dX6_cast_18 : decode cX6_cast 18 = .ok (.iconst (-1), 1) := dk_2 (dk_at dksX6_cast_0 18 rfl rfl)
theorem dX6_cast_19 : decode cX6_cast 19 = .ok (.if_icmp .ne 7, 3) := dk_160 0 7 (dk_at dksX6_cast_0 19 rfl rfl)
theorem dX6_cast_22 : decode cX6_cast 22 = .ok (.iconst (-1), 1) := dk_2 (dk_at dksX6_cast_0 22 rfl rfl)
theorem dX6_cast_23 : decode cX6_cast 23 = .ok (.goto 12, 3) := dk_167 0 12 (dk_at dksX6_cast_1 0 rfl rfl)
theorem dX6_cast_26 : decode cX6_cast 26 = .ok (.iload_n 2, 1) := dk_28 (dk_at dksX6_cast_1 3 rfl rfl)
theorem dX6_cast_27 : decode cX6_cast 27 = .ok (.invokestatic 333, 3) := dk_184 1 77 (dk_at dksX6_cast_1 4 rfl rfl)
theorem dX6_cast_30 : decode cX6_cast 30 = .ok (.iload_n 1, 1) := dk_27 (dk_at dksX6_cast_1 7 rfl rfl)
theorem dX6_cast_31 : decode cX6_cast 31 = .ok (.invokestatic 333, 3) := dk_184 1 77 (dk_at dksX6_cast_1 8 rfl rfl)
theorem dX6_cast_34 : decode cX6_cast 34 = .ok (.isub, 1) := dk_100 (dk_at dksX6_cast_1 11 rfl rfl)
theorem dX6_cast_35 : decode cX6_cast 35 = .ok (.istore_n 3, 1) := dk_62 (dk_at dksX6_cast_1 12 rfl rfl)
theorem dX6_cast_36 : decode cX6_cast 36 = .ok (.iload_n 3, 1) := dk_29 (dk_at dksX6_cast_1 13 rfl rfl)
theorem dX6_cast_37 : decode cX6_cast 37 = .ok (.ifCond .gt 78, 3) := dk_157 0 78 (dk_at dksX6_cast_1 14 rfl rfl)
theorem dX6_cast_40 : decode cX6_cast 40 = .ok (.iload_n 3, 1) := dk_29 (dk_at dksX6_cast_1 17 rfl rfl)
theorem dX6_cast_41 : decode cX6_cast 41 = .ok (.ifCond .ne 19, 3) := dk_154 0 19 (dk_at dksX6_cast_1 18 rfl rfl)
theorem dX6_cast_44 : decode cX6_cast 44 = .ok (.aload_n 0, 1) := dk_42 (dk_at dksX6_cast_1 21 rfl rfl)
theorem dX6_cast_45 : decode cX6_cast 45 = .ok (.iload_n 2, 1) := dk_28 (dk_at dksX6_cast_1 22 rfl rfl)
theorem dX6_cast_46 : decode cX6_cast 46 = .ok (.invokevirtual 336, 3) := dk_182 1 80 (dk_at dksX6_cast_2 0 rfl rfl)
theorem dX6_cast_49 : decode cX6_cast 49 = .ok (.aload_n 0, 1) := dk_42 (dk_at dksX6_cast_2 3 rfl rfl)
theorem dX6_cast_50 : decode cX6_cast 50 = .ok (.iload_n 1, 1) := dk_27 (dk_at dksX6_cast_2 4 rfl rfl)
theorem dX6_cast_51 : decode cX6_cast 51 = .ok (.invokevirtual 336, 3) := dk_182 1 80 (dk_at dksX6_cast_2 5 rfl rfl)
theorem dX6_cast_54 : decode cX6_cast 54 = .ok (.if_icmp .lt 6, 3) := dk_161 0 6 (dk_at dksX6_cast_2 8 rfl rfl)
theorem dX6_cast_57 : decode cX6_cast 57 = .ok (.goto 58, 3) := dk_167 0 58 (dk_at dksX6_cast_2 11 rfl rfl)
theorem dX6_cast_60 : decode cX6_cast 60 = .ok (.aload_n 0, 1) := dk_42 (dk_at dksX6_cast_2 14 rfl rfl)
theorem dX6_cast_61 : decode cX6_cast 61 = .ok (.getfield 67, 3) := dk_180 0 67 (dk_at dksX6_cast_2 15 rfl rfl)
theorem dX6_cast_64 : decode cX6_cast 64 = .ok (.aload_n 0, 1) := dk_42 (dk_at dksX6_cast_2 18 rfl rfl)
theorem dX6_cast_65 : decode cX6_cast 65 = .ok (.getfield 70, 3) := dk_180 0 70 (dk_at dksX6_cast_2 19 rfl rfl)
theorem dX6_cast_68 : decode cX6_cast 68 = .ok (.invokestatic 310, 3) := dk_184 1 54 (dk_at dksX6_cast_3 0 rfl rfl)
theorem dX6_cast_71 : decode cX6_cast 71 = .ok (.aload_n 0, 1) := dk_42 (dk_at dksX6_cast_3 3 rfl rfl)
theorem dX6_cast_72 : decode cX6_cast 72 = .ok (.aload_n 0, 1) := dk_42 (dk_at dksX6_cast_3 4 rfl rfl)
theorem dX6_cast_73 : decode cX6_cast 73 = .ok (.getfield 70, 3) := dk_180 0 70 (dk_at dksX6_cast_3 5 rfl rfl)
theorem dX6_cast_76 : decode cX6_cast 76 = .ok (.invokevirtual 188, 3) := dk_182 0 188 (dk_at dksX6_cast_3 8 rfl rfl)
theorem dX6_cast_79 : decode cX6_cast 79 = .ok (.aload_n 0, 1) := dk_42 (dk_at dksX6_cast_3 11 rfl rfl)
theorem dX6_cast_80 : decode cX6_cast 80 = .ok (.iload_n 2, 1) := dk_28 (dk_at dksX6_cast_3 12 rfl rfl)
theorem dX6_cast_81 : decode cX6_cast 81 = .ok (.invokevirtual 339, 3) := dk_182 1 83 (dk_at dksX6_cast_3 13 rfl rfl)
theorem dX6_cast_84 : decode cX6_cast 84 = .ok (.aload_n 0, 1) := dk_42 (dk_at dksX6_cast_3 16 rfl rfl)
theorem dX6_cast_85 : decode cX6_cast 85 = .ok (.aload_n 0, 1) := dk_42 (dk_at dksX6_cast_3 17 rfl rfl)
theorem dX6_cast_86 : decode cX6_cast 86 = .ok (.getfield 70, 3) := dk_180 0 70 (dk_at dksX6_cast_3 18 rfl rfl)
theorem dX6_cast_89 : decode cX6_cast 89 = .ok (.invokevirtual 280, 3) := dk_182 1 24 (dk_at dksX6_cast_3 21 rfl rfl)
theorem dX6_cast_92 : decode cX6_cast 92 = .ok (.aload_n 0, 1) := dk_42 (dk_at dksX6_cast_4 0 rfl rfl)
theorem dX6_cast_93 : decode cX6_cast 93 = .ok (.getfield 273, 3) := dk_180 1 17 (dk_at dksX6_cast_4 1 rfl rfl)
theorem dX6_cast_96 : decode cX6_cast 96 = .ok (.iconst 1, 1) := dk_4 (dk_at dksX6_cast_4 4 rfl rfl)
theorem dX6_cast_97 : decode cX6_cast 97 = .ok (.aload_n 0, 1) := dk_42 (dk_at dksX6_cast_4 5 rfl rfl)
theorem dX6_cast_98 : decode cX6_cast 98 = .ok (.getfield 23, 3) := dk_180 0 23 (dk_at dksX6_cast_4 6 rfl rfl)
theorem dX6_cast_101 : decode cX6_cast 101 = .ok (.iconst 1, 1) := dk_4 (dk_at dksX6_cast_4 9 rfl rfl)
theorem dX6_cast_102 : decode cX6_cast 102 = .ok (.iaload, 1) := dk_46 (dk_at dksX6_cast_4 10 rfl rfl)
theorem dX6_cast_103 : decode cX6_cast 103 = .ok (.ishl, 1) := dk_120 (dk_at dksX6_cast_4 11 rfl rfl)
theorem dX6_cast_104 : decode cX6_cast 104 = .ok (.iconst 1, 1) := dk_4 (dk_at dksX6_cast_4 12 rfl rfl)
theorem dX6_cast_105 : decode cX6_cast 105 = .ok (.isub, 1) := dk_100 (dk_at dksX6_cast_4 13 rfl rfl)
theorem dX6_cast_106 : decode cX6_cast 106 = .ok (.if_icmp .ne 7, 3) := dk_160 0 7 (dk_at dksX6_cast_4 14 rfl rfl)
theorem dX6_cast_109 : decode cX6_cast 109 = .ok (.iload_n 2, 1) := dk_28 (dk_at dksX6_cast_4 17 rfl rfl)
theorem dX6_cast_110 : decode cX6_cast 110 = .ok (.goto 4, 3) := dk_167 0 4 (dk_at dksX6_cast_4 18 rfl rfl)
theorem dX6_cast_113 : decode cX6_cast 113 = .ok (.iload_n 1, 1) := dk_27 (dk_at dksX6_cast_4 21 rfl rfl)
theorem dX6_cast_114 : decode cX6_cast 114 = .ok (.istore_n 1, 1) := dk_60 (dk_at dksX6_cast_4 22 rfl rfl)
theorem dX6_cast_115 : decode cX6_cast 115 = .ok (.iinc 2 1, 3) := dk_132 2 1 (dk_at dksX6_cast_5 0 rfl rfl)
theorem dX6_cast_118 : decode cX6_cast 118 = .ok (.goto (-109), 3) := dk_167 255 147 (dk_at dksX6_cast_5 3 rfl rfl)
theorem dX6_cast_121 : decode cX6_cast 121 = .ok (.iload_n 1, 1) := dk_27 (dk_at dksX6_cast_5 6 rfl rfl)
theorem dX6_cast_122 : decode cX6_cast 122 = .ok (.ireturn, 1) := dk_172 (dk_at dksX6_cast_5 7 rfl rfl)
abbrev cX6_everySinger : ByteArray := prog_34_method_72_code
def yX6_everySinger : MethodName := ⟨RX6, "everySinger", "()I"⟩
def dkwX6_everySinger_0 : List UInt8 := [4, 42, 180, 0, 23, 3, 46, 120, 4, 100, 172]
abbrev dktX6_everySinger_0 : List UInt8 := dkwX6_everySinger_0 ++ []
theorem dksX6_everySinger_0 : cX6_everySinger.data.toList.drop 0 = dktX6_everySinger_0 := by decide +kernel
theorem dX6_everySinger_0 : decode cX6_everySinger 0 = .ok (.iconst 1, 1) := dk_4 (dk_at dksX6_everySinger_0 0 rfl rfl)
theorem dX6_everySinger_1 : decode cX6_everySinger 1 = .ok (.aload_n 0, 1) := dk_42 (dk_at dksX6_everySinger_0 1 rfl rfl)
theorem dX6_everySinger_2 : decode cX6_everySinger 2 = .ok (.getfield 23, 3) := dk_180 0 23 (dk_at dksX6_everySinger_0 2 rfl rfl)
theorem dX6_everySinger_5 : decode cX6_everySinger 5 = .ok (.iconst 0, 1) := dk_3 (dk_at dksX6_everySinger_0 5 rfl rfl)
theorem dX6_everySinger_6 : decode cX6_everySinger 6 = .ok (.iaload, 1) := dk_46 (dk_at dksX6_everySinger_0 6 rfl rfl)
theorem dX6_everySinger_7 : decode cX6_everySinger 7 = .ok (.ishl, 1) := dk_120 (dk_at dksX6_everySinger_0 7 rfl rfl)
theorem dX6_everySinger_8 : decode cX6_everySinger 8 = .ok (.iconst 1, 1) := dk_4 (dk_at dksX6_everySinger_0 8 rfl rfl)
theorem dX6_everySinger_9 : decode cX6_everySinger 9 = .ok (.isub, 1) := dk_100 (dk_at dksX6_everySinger_0 9 rfl rfl)
theorem dX6_everySinger_10 : decode cX6_everySinger 10 = .ok (.ireturn, 1) := dk_172 (dk_at dksX6_everySinger_0 10 rfl rfl)
abbrev cX6_ones : ByteArray := prog_34_method_48_code
def yX6_ones : MethodName := ⟨RX6, "ones", "(I)I"⟩
def dkwX6_ones_1 : List UInt8 := [27, 172]
abbrev dktX6_ones_1 : List UInt8 := dkwX6_ones_1 ++ []
def dkwX6_ones_0 : List UInt8 := [3, 60, 3, 61, 28, 16, 7, 162, 0, 17, 27, 26, 28, 122, 4, 126, 96, 60, 132, 2, 1, 167, 255, 239]
abbrev dktX6_ones_0 : List UInt8 := dkwX6_ones_0 ++ dktX6_ones_1
theorem dksX6_ones_0 : cX6_ones.data.toList.drop 0 = dktX6_ones_0 := by decide +kernel
theorem dksX6_ones_1 : cX6_ones.data.toList.drop 24 = dktX6_ones_1 := dk_seg dksX6_ones_0 24 rfl rfl
theorem dX6_ones_0 : decode cX6_ones 0 = .ok (.iconst 0, 1) := dk_3 (dk_at dksX6_ones_0 0 rfl rfl)
theorem dX6_ones_1 : decode cX6_ones 1 = .ok (.istore_n 1, 1) := dk_60 (dk_at dksX6_ones_0 1 rfl rfl)
theorem dX6_ones_2 : decode cX6_ones 2 = .ok (.iconst 0, 1) := dk_3 (dk_at dksX6_ones_0 2 rfl rfl)
theorem dX6_ones_3 : decode cX6_ones 3 = .ok (.istore_n 2, 1) := dk_61 (dk_at dksX6_ones_0 3 rfl rfl)
theorem dX6_ones_4 : decode cX6_ones 4 = .ok (.iload_n 2, 1) := dk_28 (dk_at dksX6_ones_0 4 rfl rfl)
theorem dX6_ones_5 : decode cX6_ones 5 = .ok (.bipush 7, 2) := dk_16 7 (dk_at dksX6_ones_0 5 rfl rfl)
theorem dX6_ones_7 : decode cX6_ones 7 = .ok (.if_icmp .ge 17, 3) := dk_162 0 17 (dk_at dksX6_ones_0 7 rfl rfl)
theorem dX6_ones_10 : decode cX6_ones 10 = .ok (.iload_n 1, 1) := dk_27 (dk_at dksX6_ones_0 10 rfl rfl)
theorem dX6_ones_11 : decode cX6_ones 11 = .ok (.iload_n 0, 1) := dk_26 (dk_at dksX6_ones_0 11 rfl rfl)
theorem dX6_ones_12 : decode cX6_ones 12 = .ok (.iload_n 2, 1) := dk_28 (dk_at dksX6_ones_0 12 rfl rfl)
theorem dX6_ones_13 : decode cX6_ones 13 = .ok (.ishr, 1) := dk_122 (dk_at dksX6_ones_0 13 rfl rfl)
theorem dX6_ones_14 : decode cX6_ones 14 = .ok (.iconst 1, 1) := dk_4 (dk_at dksX6_ones_0 14 rfl rfl)
theorem dX6_ones_15 : decode cX6_ones 15 = .ok (.iand, 1) := dk_126 (dk_at dksX6_ones_0 15 rfl rfl)
theorem dX6_ones_16 : decode cX6_ones 16 = .ok (.iadd, 1) := dk_96 (dk_at dksX6_ones_0 16 rfl rfl)
theorem dX6_ones_17 : decode cX6_ones 17 = .ok (.istore_n 1, 1) := dk_60 (dk_at dksX6_ones_0 17 rfl rfl)
theorem dX6_ones_18 : decode cX6_ones 18 = .ok (.iinc 2 1, 3) := dk_132 2 1 (dk_at dksX6_ones_0 18 rfl rfl)
theorem dX6_ones_21 : decode cX6_ones 21 = .ok (.goto (-17), 3) := dk_167 255 239 (dk_at dksX6_ones_0 21 rfl rfl)
theorem dX6_ones_24 : decode cX6_ones 24 = .ok (.iload_n 1, 1) := dk_27 (dk_at dksX6_ones_1 0 rfl rfl)
theorem dX6_ones_25 : decode cX6_ones 25 = .ok (.ireturn, 1) := dk_172 (dk_at dksX6_ones_1 1 rfl rfl)
abbrev cX6_payOf : ByteArray := prog_34_method_74_code
def yX6_payOf : MethodName := ⟨RX6, "payOf", "(I)I"⟩
def dkwX6_payOf_1 : List UInt8 := [180, 0, 31, 29, 50, 4, 46, 167, 0, 4, 3, 96, 61, 132, 3, 1, 167, 255, 220, 28, 172]
abbrev dktX6_payOf_1 : List UInt8 := dkwX6_payOf_1 ++ []
def dkwX6_payOf_0 : List UInt8 := [3, 61, 3, 62, 29, 42, 180, 0, 23, 3, 46, 162, 0, 32, 28, 27, 29, 184, 0, 254, 153, 0, 14, 42]
abbrev dktX6_payOf_0 : List UInt8 := dkwX6_payOf_0 ++ dktX6_payOf_1
theorem dksX6_payOf_0 : cX6_payOf.data.toList.drop 0 = dktX6_payOf_0 := by decide +kernel
theorem dksX6_payOf_1 : cX6_payOf.data.toList.drop 24 = dktX6_payOf_1 := dk_seg dksX6_payOf_0 24 rfl rfl
theorem dX6_payOf_0 : decode cX6_payOf 0 = .ok (.iconst 0, 1) := dk_3 (dk_at dksX6_payOf_0 0 rfl rfl)
theorem dX6_payOf_1 : decode cX6_payOf 1 = .ok (.istore_n 2, 1) := dk_61 (dk_at dksX6_payOf_0 1 rfl rfl)
theorem dX6_payOf_2 : decode cX6_payOf 2 = .ok (.iconst 0, 1) := dk_3 (dk_at dksX6_payOf_0 2 rfl rfl)
theorem dX6_payOf_3 : decode cX6_payOf 3 = .ok (.istore_n 3, 1) := dk_62 (dk_at dksX6_payOf_0 3 rfl rfl)
theorem dX6_payOf_4 : decode cX6_payOf 4 = .ok (.iload_n 3, 1) := dk_29 (dk_at dksX6_payOf_0 4 rfl rfl)
theorem dX6_payOf_5 : decode cX6_payOf 5 = .ok (.aload_n 0, 1) := dk_42 (dk_at dksX6_payOf_0 5 rfl rfl)
theorem dX6_payOf_6 : decode cX6_payOf 6 = .ok (.getfield 23, 3) := dk_180 0 23 (dk_at dksX6_payOf_0 6 rfl rfl)
theorem dX6_payOf_9 : decode cX6_payOf 9 = .ok (.iconst 0, 1) := dk_3 (dk_at dksX6_payOf_0 9 rfl rfl)
theorem dX6_payOf_10 : decode cX6_payOf 10 = .ok (.iaload, 1) := dk_46 (dk_at dksX6_payOf_0 10 rfl rfl)
theorem dX6_payOf_11 : decode cX6_payOf 11 = .ok (.if_icmp .ge 32, 3) := dk_162 0 32 (dk_at dksX6_payOf_0 11 rfl rfl)
theorem dX6_payOf_14 : decode cX6_payOf 14 = .ok (.iload_n 2, 1) := dk_28 (dk_at dksX6_payOf_0 14 rfl rfl)
theorem dX6_payOf_15 : decode cX6_payOf 15 = .ok (.iload_n 1, 1) := dk_27 (dk_at dksX6_payOf_0 15 rfl rfl)
theorem dX6_payOf_16 : decode cX6_payOf 16 = .ok (.iload_n 3, 1) := dk_29 (dk_at dksX6_payOf_0 16 rfl rfl)
theorem dX6_payOf_17 : decode cX6_payOf 17 = .ok (.invokestatic 254, 3) := dk_184 0 254 (dk_at dksX6_payOf_0 17 rfl rfl)
theorem dX6_payOf_20 : decode cX6_payOf 20 = .ok (.ifCond .eq 14, 3) := dk_153 0 14 (dk_at dksX6_payOf_0 20 rfl rfl)
theorem dX6_payOf_23 : decode cX6_payOf 23 = .ok (.aload_n 0, 1) := dk_42 (dk_at dksX6_payOf_0 23 rfl rfl)
theorem dX6_payOf_24 : decode cX6_payOf 24 = .ok (.getfield 31, 3) := dk_180 0 31 (dk_at dksX6_payOf_1 0 rfl rfl)
theorem dX6_payOf_27 : decode cX6_payOf 27 = .ok (.iload_n 3, 1) := dk_29 (dk_at dksX6_payOf_1 3 rfl rfl)
theorem dX6_payOf_28 : decode cX6_payOf 28 = .ok (.aaload, 1) := dk_50 (dk_at dksX6_payOf_1 4 rfl rfl)
theorem dX6_payOf_29 : decode cX6_payOf 29 = .ok (.iconst 1, 1) := dk_4 (dk_at dksX6_payOf_1 5 rfl rfl)
theorem dX6_payOf_30 : decode cX6_payOf 30 = .ok (.iaload, 1) := dk_46 (dk_at dksX6_payOf_1 6 rfl rfl)
theorem dX6_payOf_31 : decode cX6_payOf 31 = .ok (.goto 4, 3) := dk_167 0 4 (dk_at dksX6_payOf_1 7 rfl rfl)
theorem dX6_payOf_34 : decode cX6_payOf 34 = .ok (.iconst 0, 1) := dk_3 (dk_at dksX6_payOf_1 10 rfl rfl)
theorem dX6_payOf_35 : decode cX6_payOf 35 = .ok (.iadd, 1) := dk_96 (dk_at dksX6_payOf_1 11 rfl rfl)
theorem dX6_payOf_36 : decode cX6_payOf 36 = .ok (.istore_n 2, 1) := dk_61 (dk_at dksX6_payOf_1 12 rfl rfl)
theorem dX6_payOf_37 : decode cX6_payOf 37 = .ok (.iinc 3 1, 3) := dk_132 3 1 (dk_at dksX6_payOf_1 13 rfl rfl)
theorem dX6_payOf_40 : decode cX6_payOf 40 = .ok (.goto (-36), 3) := dk_167 255 220 (dk_at dksX6_payOf_1 16 rfl rfl)
theorem dX6_payOf_43 : decode cX6_payOf 43 = .ok (.iload_n 2, 1) := dk_28 (dk_at dksX6_payOf_1 19 rfl rfl)
theorem dX6_payOf_44 : decode cX6_payOf 44 = .ok (.ireturn, 1) := dk_172 (dk_at dksX6_payOf_1 20 rfl rfl)
abbrev cX6_onlyThese : ByteArray := prog_34_method_73_code
def yX6_onlyThese : MethodName := ⟨RX6, "onlyThese", "(I)V"⟩
def dkwX6_onlyThese_1 : List UInt8 := [184, 0, 254, 153, 0, 7, 3, 167, 0, 4, 4, 79, 132, 2, 1, 167, 255, 221, 177]
abbrev dktX6_onlyThese_1 : List UInt8 := dkwX6_onlyThese_1 ++ []
def dkwX6_onlyThese_0 : List UInt8 := [3, 61, 28, 42, 180, 0, 23, 3, 46, 162, 0, 31, 42, 180, 0, 70, 16, 7, 28, 96, 27, 28]
abbrev dktX6_onlyThese_0 : List UInt8 := dkwX6_onlyThese_0 ++ dktX6_onlyThese_1
theorem dksX6_onlyThese_0 : cX6_onlyThese.data.toList.drop 0 = dktX6_onlyThese_0 := by decide +kernel
theorem dksX6_onlyThese_1 : cX6_onlyThese.data.toList.drop 22 = dktX6_onlyThese_1 := dk_seg dksX6_onlyThese_0 22 rfl rfl
theorem dX6_onlyThese_0 : decode cX6_onlyThese 0 = .ok (.iconst 0, 1) := dk_3 (dk_at dksX6_onlyThese_0 0 rfl rfl)
theorem dX6_onlyThese_1 : decode cX6_onlyThese 1 = .ok (.istore_n 2, 1) := dk_61 (dk_at dksX6_onlyThese_0 1 rfl rfl)
theorem dX6_onlyThese_2 : decode cX6_onlyThese 2 = .ok (.iload_n 2, 1) := dk_28 (dk_at dksX6_onlyThese_0 2 rfl rfl)
theorem dX6_onlyThese_3 : decode cX6_onlyThese 3 = .ok (.aload_n 0, 1) := dk_42 (dk_at dksX6_onlyThese_0 3 rfl rfl)
theorem dX6_onlyThese_4 : decode cX6_onlyThese 4 = .ok (.getfield 23, 3) := dk_180 0 23 (dk_at dksX6_onlyThese_0 4 rfl rfl)
theorem dX6_onlyThese_7 : decode cX6_onlyThese 7 = .ok (.iconst 0, 1) := dk_3 (dk_at dksX6_onlyThese_0 7 rfl rfl)
theorem dX6_onlyThese_8 : decode cX6_onlyThese 8 = .ok (.iaload, 1) := dk_46 (dk_at dksX6_onlyThese_0 8 rfl rfl)
theorem dX6_onlyThese_9 : decode cX6_onlyThese 9 = .ok (.if_icmp .ge 31, 3) := dk_162 0 31 (dk_at dksX6_onlyThese_0 9 rfl rfl)
theorem dX6_onlyThese_12 : decode cX6_onlyThese 12 = .ok (.aload_n 0, 1) := dk_42 (dk_at dksX6_onlyThese_0 12 rfl rfl)
theorem dX6_onlyThese_13 : decode cX6_onlyThese 13 = .ok (.getfield 70, 3) := dk_180 0 70 (dk_at dksX6_onlyThese_0 13 rfl rfl)
theorem dX6_onlyThese_16 : decode cX6_onlyThese 16 = .ok (.bipush 7, 2) := dk_16 7 (dk_at dksX6_onlyThese_0 16 rfl rfl)
theorem dX6_onlyThese_18 : decode cX6_onlyThese 18 = .ok (.iload_n 2, 1) := dk_28 (dk_at dksX6_onlyThese_0 18 rfl rfl)
theorem dX6_onlyThese_19 : decode cX6_onlyThese 19 = .ok (.iadd, 1) := dk_96 (dk_at dksX6_onlyThese_0 19 rfl rfl)
theorem dX6_onlyThese_20 : decode cX6_onlyThese 20 = .ok (.iload_n 1, 1) := dk_27 (dk_at dksX6_onlyThese_0 20 rfl rfl)
theorem dX6_onlyThese_21 : decode cX6_onlyThese 21 = .ok (.iload_n 2, 1) := dk_28 (dk_at dksX6_onlyThese_0 21 rfl rfl)
theorem dX6_onlyThese_22 : decode cX6_onlyThese 22 = .ok (.invokestatic 254, 3) := dk_184 0 254 (dk_at dksX6_onlyThese_1 0 rfl rfl)
theorem dX6_onlyThese_25 : decode cX6_onlyThese 25 = .ok (.ifCond .eq 7, 3) := dk_153 0 7 (dk_at dksX6_onlyThese_1 3 rfl rfl)
theorem dX6_onlyThese_28 : decode cX6_onlyThese 28 = .ok (.iconst 0, 1) := dk_3 (dk_at dksX6_onlyThese_1 6 rfl rfl)
theorem dX6_onlyThese_29 : decode cX6_onlyThese 29 = .ok (.goto 4, 3) := dk_167 0 4 (dk_at dksX6_onlyThese_1 7 rfl rfl)
theorem dX6_onlyThese_32 : decode cX6_onlyThese 32 = .ok (.iconst 1, 1) := dk_4 (dk_at dksX6_onlyThese_1 10 rfl rfl)
theorem dX6_onlyThese_33 : decode cX6_onlyThese 33 = .ok (.iastore, 1) := dk_79 (dk_at dksX6_onlyThese_1 11 rfl rfl)
theorem dX6_onlyThese_34 : decode cX6_onlyThese 34 = .ok (.iinc 2 1, 3) := dk_132 2 1 (dk_at dksX6_onlyThese_1 12 rfl rfl)
theorem dX6_onlyThese_37 : decode cX6_onlyThese 37 = .ok (.goto (-35), 3) := dk_167 255 221 (dk_at dksX6_onlyThese_1 15 rfl rfl)
theorem dX6_onlyThese_40 : decode cX6_onlyThese 40 = .ok (.return_, 1) := dk_177 (dk_at dksX6_onlyThese_1 18 rfl rfl)
abbrev cX6_handed : ByteArray := prog_34_method_77_code
def yX6_handed : MethodName := ⟨RX6, "handed", "(II)I"⟩
def dkwX6_handed_1 : List UInt8 := [3, 4, 4, 182, 0, 171, 153, 0, 5, 3, 172, 42, 27, 28, 182, 1, 86, 172]
abbrev dktX6_handed_1 : List UInt8 := dkwX6_handed_1 ++ []
def dkwX6_handed_0 : List UInt8 := [42, 3, 181, 0, 95, 42, 27, 184, 1, 71, 153, 0, 10, 28, 184, 1, 71, 154, 0, 7, 4, 167, 0, 4]
abbrev dktX6_handed_0 : List UInt8 := dkwX6_handed_0 ++ dktX6_handed_1
theorem dksX6_handed_0 : cX6_handed.data.toList.drop 0 = dktX6_handed_0 := by decide +kernel
theorem dksX6_handed_1 : cX6_handed.data.toList.drop 24 = dktX6_handed_1 := dk_seg dksX6_handed_0 24 rfl rfl
theorem dX6_handed_0 : decode cX6_handed 0 = .ok (.aload_n 0, 1) := dk_42 (dk_at dksX6_handed_0 0 rfl rfl)
theorem dX6_handed_1 : decode cX6_handed 1 = .ok (.iconst 0, 1) := dk_3 (dk_at dksX6_handed_0 1 rfl rfl)
theorem dX6_handed_2 : decode cX6_handed 2 = .ok (.putfield 95, 3) := dk_181 0 95 (dk_at dksX6_handed_0 2 rfl rfl)
theorem dX6_handed_5 : decode cX6_handed 5 = .ok (.aload_n 0, 1) := dk_42 (dk_at dksX6_handed_0 5 rfl rfl)
theorem dX6_handed_6 : decode cX6_handed 6 = .ok (.iload_n 1, 1) := dk_27 (dk_at dksX6_handed_0 6 rfl rfl)
theorem dX6_handed_7 : decode cX6_handed 7 = .ok (.invokestatic 327, 3) := dk_184 1 71 (dk_at dksX6_handed_0 7 rfl rfl)
theorem dX6_handed_10 : decode cX6_handed 10 = .ok (.ifCond .eq 10, 3) := dk_153 0 10 (dk_at dksX6_handed_0 10 rfl rfl)
theorem dX6_handed_13 : decode cX6_handed 13 = .ok (.iload_n 2, 1) := dk_28 (dk_at dksX6_handed_0 13 rfl rfl)
theorem dX6_handed_14 : decode cX6_handed 14 = .ok (.invokestatic 327, 3) := dk_184 1 71 (dk_at dksX6_handed_0 14 rfl rfl)
theorem dX6_handed_17 : decode cX6_handed 17 = .ok (.ifCond .ne 7, 3) := dk_154 0 7 (dk_at dksX6_handed_0 17 rfl rfl)
theorem dX6_handed_20 : decode cX6_handed 20 = .ok (.iconst 1, 1) := dk_4 (dk_at dksX6_handed_0 20 rfl rfl)
theorem dX6_handed_21 : decode cX6_handed 21 = .ok (.goto 4, 3) := dk_167 0 4 (dk_at dksX6_handed_0 21 rfl rfl)
theorem dX6_handed_24 : decode cX6_handed 24 = .ok (.iconst 0, 1) := dk_3 (dk_at dksX6_handed_1 0 rfl rfl)
theorem dX6_handed_25 : decode cX6_handed 25 = .ok (.iconst 1, 1) := dk_4 (dk_at dksX6_handed_1 1 rfl rfl)
theorem dX6_handed_26 : decode cX6_handed 26 = .ok (.iconst 1, 1) := dk_4 (dk_at dksX6_handed_1 2 rfl rfl)
theorem dX6_handed_27 : decode cX6_handed 27 = .ok (.invokevirtual 171, 3) := dk_182 0 171 (dk_at dksX6_handed_1 3 rfl rfl)
theorem dX6_handed_30 : decode cX6_handed 30 = .ok (.ifCond .eq 5, 3) := dk_153 0 5 (dk_at dksX6_handed_1 6 rfl rfl)
theorem dX6_handed_33 : decode cX6_handed 33 = .ok (.iconst 0, 1) := dk_3 (dk_at dksX6_handed_1 9 rfl rfl)
theorem dX6_handed_34 : decode cX6_handed 34 = .ok (.ireturn, 1) := dk_172 (dk_at dksX6_handed_1 10 rfl rfl)
theorem dX6_handed_35 : decode cX6_handed 35 = .ok (.aload_n 0, 1) := dk_42 (dk_at dksX6_handed_1 11 rfl rfl)
theorem dX6_handed_36 : decode cX6_handed 36 = .ok (.iload_n 1, 1) := dk_27 (dk_at dksX6_handed_1 12 rfl rfl)
theorem dX6_handed_37 : decode cX6_handed 37 = .ok (.iload_n 2, 1) := dk_28 (dk_at dksX6_handed_1 13 rfl rfl)
theorem dX6_handed_38 : decode cX6_handed 38 = .ok (.invokevirtual 342, 3) := dk_182 1 86 (dk_at dksX6_handed_1 14 rfl rfl)
theorem dX6_handed_41 : decode cX6_handed 41 = .ok (.ireturn, 1) := dk_172 (dk_at dksX6_handed_1 17 rfl rfl)
abbrev cX6_handedOf : ByteArray := prog_34_method_76_code
def yX6_handedOf : MethodName := ⟨RX6, "handedOf", "(II)I"⟩
def dkwX6_handedOf_3 : List UInt8 := [160, 0, 7, 4, 167, 0, 4, 3, 96, 62, 132, 4, 1, 167, 255, 177, 29, 172]
abbrev dktX6_handedOf_3 : List UInt8 := dkwX6_handedOf_3 ++ []
def dkwX6_handedOf_2 : List UInt8 := [54, 6, 29, 21, 5, 27, 160, 0, 9, 21, 6, 28, 159, 0, 15, 21, 5, 28, 160, 0, 13, 21, 6, 27]
abbrev dktX6_handedOf_2 : List UInt8 := dkwX6_handedOf_2 ++ dktX6_handedOf_3
def dkwX6_handedOf_1 : List UInt8 := [180, 0, 67, 16, 35, 21, 4, 96, 46, 54, 5, 42, 180, 0, 67, 16, 35, 21, 4, 96, 4, 96, 46]
abbrev dktX6_handedOf_1 : List UInt8 := dkwX6_handedOf_1 ++ dktX6_handedOf_2
def dkwX6_handedOf_0 : List UInt8 := [3, 62, 3, 54, 4, 21, 4, 4, 96, 42, 180, 0, 23, 4, 46, 162, 0, 72, 27, 28, 159, 0, 67, 42]
abbrev dktX6_handedOf_0 : List UInt8 := dkwX6_handedOf_0 ++ dktX6_handedOf_1
theorem dksX6_handedOf_0 : cX6_handedOf.data.toList.drop 0 = dktX6_handedOf_0 := by decide +kernel
theorem dksX6_handedOf_1 : cX6_handedOf.data.toList.drop 24 = dktX6_handedOf_1 := dk_seg dksX6_handedOf_0 24 rfl rfl
theorem dksX6_handedOf_2 : cX6_handedOf.data.toList.drop 47 = dktX6_handedOf_2 := dk_seg dksX6_handedOf_1 23 rfl rfl
theorem dksX6_handedOf_3 : cX6_handedOf.data.toList.drop 71 = dktX6_handedOf_3 := dk_seg dksX6_handedOf_2 24 rfl rfl
theorem dX6_handedOf_0 : decode cX6_handedOf 0 = .ok (.iconst 0, 1) := dk_3 (dk_at dksX6_handedOf_0 0 rfl rfl)
theorem dX6_handedOf_1 : decode cX6_handedOf 1 = .ok (.istore_n 3, 1) := dk_62 (dk_at dksX6_handedOf_0 1 rfl rfl)
theorem dX6_handedOf_2 : decode cX6_handedOf 2 = .ok (.iconst 0, 1) := dk_3 (dk_at dksX6_handedOf_0 2 rfl rfl)
theorem dX6_handedOf_3 : decode cX6_handedOf 3 = .ok (.istore 4, 2) := dk_54 4 (dk_at dksX6_handedOf_0 3 rfl rfl)
theorem dX6_handedOf_5 : decode cX6_handedOf 5 = .ok (.iload 4, 2) := dk_21 4 (dk_at dksX6_handedOf_0 5 rfl rfl)
theorem dX6_handedOf_7 : decode cX6_handedOf 7 = .ok (.iconst 1, 1) := dk_4 (dk_at dksX6_handedOf_0 7 rfl rfl)
theorem dX6_handedOf_8 : decode cX6_handedOf 8 = .ok (.iadd, 1) := dk_96 (dk_at dksX6_handedOf_0 8 rfl rfl)
theorem dX6_handedOf_9 : decode cX6_handedOf 9 = .ok (.aload_n 0, 1) := dk_42 (dk_at dksX6_handedOf_0 9 rfl rfl)
theorem dX6_handedOf_10 : decode cX6_handedOf 10 = .ok (.getfield 23, 3) := dk_180 0 23 (dk_at dksX6_handedOf_0 10 rfl rfl)
theorem dX6_handedOf_13 : decode cX6_handedOf 13 = .ok (.iconst 1, 1) := dk_4 (dk_at dksX6_handedOf_0 13 rfl rfl)
theorem dX6_handedOf_14 : decode cX6_handedOf 14 = .ok (.iaload, 1) := dk_46 (dk_at dksX6_handedOf_0 14 rfl rfl)
theorem dX6_handedOf_15 : decode cX6_handedOf 15 = .ok (.if_icmp .ge 72, 3) := dk_162 0 72 (dk_at dksX6_handedOf_0 15 rfl rfl)
theorem dX6_handedOf_18 : decode cX6_handedOf 18 = .ok (.iload_n 1, 1) := dk_27 (dk_at dksX6_handedOf_0 18 rfl rfl)
theorem dX6_handedOf_19 : decode cX6_handedOf 19 = .ok (.iload_n 2, 1) := dk_28 (dk_at dksX6_handedOf_0 19 rfl rfl)
theorem dX6_handedOf_20 : decode cX6_handedOf 20 = .ok (.if_icmp .eq 67, 3) := dk_159 0 67 (dk_at dksX6_handedOf_0 20 rfl rfl)
theorem dX6_handedOf_23 : decode cX6_handedOf 23 = .ok (.aload_n 0, 1) := dk_42 (dk_at dksX6_handedOf_0 23 rfl rfl)
theorem dX6_handedOf_24 : decode cX6_handedOf 24 = .ok (.getfield 67, 3) := dk_180 0 67 (dk_at dksX6_handedOf_1 0 rfl rfl)
theorem dX6_handedOf_27 : decode cX6_handedOf 27 = .ok (.bipush 35, 2) := dk_16 35 (dk_at dksX6_handedOf_1 3 rfl rfl)
theorem dX6_handedOf_29 : decode cX6_handedOf 29 = .ok (.iload 4, 2) := dk_21 4 (dk_at dksX6_handedOf_1 5 rfl rfl)
theorem dX6_handedOf_31 : decode cX6_handedOf 31 = .ok (.iadd, 1) := dk_96 (dk_at dksX6_handedOf_1 7 rfl rfl)
theorem dX6_handedOf_32 : decode cX6_handedOf 32 = .ok (.iaload, 1) := dk_46 (dk_at dksX6_handedOf_1 8 rfl rfl)
theorem dX6_handedOf_33 : decode cX6_handedOf 33 = .ok (.istore 5, 2) := dk_54 5 (dk_at dksX6_handedOf_1 9 rfl rfl)
theorem dX6_handedOf_35 : decode cX6_handedOf 35 = .ok (.aload_n 0, 1) := dk_42 (dk_at dksX6_handedOf_1 11 rfl rfl)
theorem dX6_handedOf_36 : decode cX6_handedOf 36 = .ok (.getfield 67, 3) := dk_180 0 67 (dk_at dksX6_handedOf_1 12 rfl rfl)
theorem dX6_handedOf_39 : decode cX6_handedOf 39 = .ok (.bipush 35, 2) := dk_16 35 (dk_at dksX6_handedOf_1 15 rfl rfl)
theorem dX6_handedOf_41 : decode cX6_handedOf 41 = .ok (.iload 4, 2) := dk_21 4 (dk_at dksX6_handedOf_1 17 rfl rfl)
theorem dX6_handedOf_43 : decode cX6_handedOf 43 = .ok (.iadd, 1) := dk_96 (dk_at dksX6_handedOf_1 19 rfl rfl)
theorem dX6_handedOf_44 : decode cX6_handedOf 44 = .ok (.iconst 1, 1) := dk_4 (dk_at dksX6_handedOf_1 20 rfl rfl)
theorem dX6_handedOf_45 : decode cX6_handedOf 45 = .ok (.iadd, 1) := dk_96 (dk_at dksX6_handedOf_1 21 rfl rfl)
theorem dX6_handedOf_46 : decode cX6_handedOf 46 = .ok (.iaload, 1) := dk_46 (dk_at dksX6_handedOf_1 22 rfl rfl)
theorem dX6_handedOf_47 : decode cX6_handedOf 47 = .ok (.istore 6, 2) := dk_54 6 (dk_at dksX6_handedOf_2 0 rfl rfl)
theorem dX6_handedOf_49 : decode cX6_handedOf 49 = .ok (.iload_n 3, 1) := dk_29 (dk_at dksX6_handedOf_2 2 rfl rfl)
theorem dX6_handedOf_50 : decode cX6_handedOf 50 = .ok (.iload 5, 2) := dk_21 5 (dk_at dksX6_handedOf_2 3 rfl rfl)
theorem dX6_handedOf_52 : decode cX6_handedOf 52 = .ok (.iload_n 1, 1) := dk_27 (dk_at dksX6_handedOf_2 5 rfl rfl)
theorem dX6_handedOf_53 : decode cX6_handedOf 53 = .ok (.if_icmp .ne 9, 3) := dk_160 0 9 (dk_at dksX6_handedOf_2 6 rfl rfl)
theorem dX6_handedOf_56 : decode cX6_handedOf 56 = .ok (.iload 6, 2) := dk_21 6 (dk_at dksX6_handedOf_2 9 rfl rfl)
theorem dX6_handedOf_58 : decode cX6_handedOf 58 = .ok (.iload_n 2, 1) := dk_28 (dk_at dksX6_handedOf_2 11 rfl rfl)
theorem dX6_handedOf_59 : decode cX6_handedOf 59 = .ok (.if_icmp .eq 15, 3) := dk_159 0 15 (dk_at dksX6_handedOf_2 12 rfl rfl)
theorem dX6_handedOf_62 : decode cX6_handedOf 62 = .ok (.iload 5, 2) := dk_21 5 (dk_at dksX6_handedOf_2 15 rfl rfl)
theorem dX6_handedOf_64 : decode cX6_handedOf 64 = .ok (.iload_n 2, 1) := dk_28 (dk_at dksX6_handedOf_2 17 rfl rfl)
theorem dX6_handedOf_65 : decode cX6_handedOf 65 = .ok (.if_icmp .ne 13, 3) := dk_160 0 13 (dk_at dksX6_handedOf_2 18 rfl rfl)
theorem dX6_handedOf_68 : decode cX6_handedOf 68 = .ok (.iload 6, 2) := dk_21 6 (dk_at dksX6_handedOf_2 21 rfl rfl)
theorem dX6_handedOf_70 : decode cX6_handedOf 70 = .ok (.iload_n 1, 1) := dk_27 (dk_at dksX6_handedOf_2 23 rfl rfl)
theorem dX6_handedOf_71 : decode cX6_handedOf 71 = .ok (.if_icmp .ne 7, 3) := dk_160 0 7 (dk_at dksX6_handedOf_3 0 rfl rfl)
theorem dX6_handedOf_74 : decode cX6_handedOf 74 = .ok (.iconst 1, 1) := dk_4 (dk_at dksX6_handedOf_3 3 rfl rfl)
theorem dX6_handedOf_75 : decode cX6_handedOf 75 = .ok (.goto 4, 3) := dk_167 0 4 (dk_at dksX6_handedOf_3 4 rfl rfl)
theorem dX6_handedOf_78 : decode cX6_handedOf 78 = .ok (.iconst 0, 1) := dk_3 (dk_at dksX6_handedOf_3 7 rfl rfl)
theorem dX6_handedOf_79 : decode cX6_handedOf 79 = .ok (.iadd, 1) := dk_96 (dk_at dksX6_handedOf_3 8 rfl rfl)
theorem dX6_handedOf_80 : decode cX6_handedOf 80 = .ok (.istore_n 3, 1) := dk_62 (dk_at dksX6_handedOf_3 9 rfl rfl)
theorem dX6_handedOf_81 : decode cX6_handedOf 81 = .ok (.iinc 4 1, 3) := dk_132 4 1 (dk_at dksX6_handedOf_3 10 rfl rfl)
theorem dX6_handedOf_84 : decode cX6_handedOf 84 = .ok (.goto (-79), 3) := dk_167 255 177 (dk_at dksX6_handedOf_3 13 rfl rfl)
theorem dX6_handedOf_87 : decode cX6_handedOf 87 = .ok (.iload_n 3, 1) := dk_29 (dk_at dksX6_handedOf_3 16 rfl rfl)
theorem dX6_handedOf_88 : decode cX6_handedOf 88 = .ok (.ireturn, 1) := dk_172 (dk_at dksX6_handedOf_3 17 rfl rfl)
abbrev cX6_bench : ByteArray := prog_34_method_80_code
def yX6_bench : MethodName := ⟨RX6, "bench", "()I"⟩
def dkwX6_bench_0 : List UInt8 := [42, 3, 181, 0, 95, 42, 182, 1, 96, 42, 180, 1, 89, 172]
abbrev dktX6_bench_0 : List UInt8 := dkwX6_bench_0 ++ []
theorem dksX6_bench_0 : cX6_bench.data.toList.drop 0 = dktX6_bench_0 := by decide +kernel
theorem dX6_bench_0 : decode cX6_bench 0 = .ok (.aload_n 0, 1) := dk_42 (dk_at dksX6_bench_0 0 rfl rfl)
theorem dX6_bench_1 : decode cX6_bench 1 = .ok (.iconst 0, 1) := dk_3 (dk_at dksX6_bench_0 1 rfl rfl)
theorem dX6_bench_2 : decode cX6_bench 2 = .ok (.putfield 95, 3) := dk_181 0 95 (dk_at dksX6_bench_0 2 rfl rfl)
theorem dX6_bench_5 : decode cX6_bench 5 = .ok (.aload_n 0, 1) := dk_42 (dk_at dksX6_bench_0 5 rfl rfl)
theorem dX6_bench_6 : decode cX6_bench 6 = .ok (.invokevirtual 352, 3) := dk_182 1 96 (dk_at dksX6_bench_0 6 rfl rfl)
theorem dX6_bench_9 : decode cX6_bench 9 = .ok (.aload_n 0, 1) := dk_42 (dk_at dksX6_bench_0 9 rfl rfl)
theorem dX6_bench_10 : decode cX6_bench 10 = .ok (.getfield 345, 3) := dk_180 1 89 (dk_at dksX6_bench_0 10 rfl rfl)
theorem dX6_bench_13 : decode cX6_bench 13 = .ok (.ireturn, 1) := dk_172 (dk_at dksX6_bench_0 13 rfl rfl)
abbrev cX6_laysBench : ByteArray := prog_34_method_79_code
def yX6_laysBench : MethodName := ⟨RX6, "laysBench", "()V"⟩
def dkwX6_laysBench_0 : List UInt8 := [42, 2, 181, 1, 89, 42, 3, 3, 3, 182, 1, 92, 177]
abbrev dktX6_laysBench_0 : List UInt8 := dkwX6_laysBench_0 ++ []
theorem dksX6_laysBench_0 : cX6_laysBench.data.toList.drop 0 = dktX6_laysBench_0 := by decide +kernel
theorem dX6_laysBench_0 : decode cX6_laysBench 0 = .ok (.aload_n 0, 1) := dk_42 (dk_at dksX6_laysBench_0 0 rfl rfl)
theorem dX6_laysBench_1 : decode cX6_laysBench 1 = .ok (.iconst (-1), 1) := dk_2 (dk_at dksX6_laysBench_0 1 rfl rfl)
theorem dX6_laysBench_2 : decode cX6_laysBench 2 = .ok (.putfield 345, 3) := dk_181 1 89 (dk_at dksX6_laysBench_0 2 rfl rfl)
theorem dX6_laysBench_5 : decode cX6_laysBench 5 = .ok (.aload_n 0, 1) := dk_42 (dk_at dksX6_laysBench_0 5 rfl rfl)
theorem dX6_laysBench_6 : decode cX6_laysBench 6 = .ok (.iconst 0, 1) := dk_3 (dk_at dksX6_laysBench_0 6 rfl rfl)
theorem dX6_laysBench_7 : decode cX6_laysBench 7 = .ok (.iconst 0, 1) := dk_3 (dk_at dksX6_laysBench_0 7 rfl rfl)
theorem dX6_laysBench_8 : decode cX6_laysBench 8 = .ok (.iconst 0, 1) := dk_3 (dk_at dksX6_laysBench_0 8 rfl rfl)
theorem dX6_laysBench_9 : decode cX6_laysBench 9 = .ok (.invokevirtual 348, 3) := dk_182 1 92 (dk_at dksX6_laysBench_0 9 rfl rfl)
theorem dX6_laysBench_12 : decode cX6_laysBench 12 = .ok (.return_, 1) := dk_177 (dk_at dksX6_laysBench_0 12 rfl rfl)
abbrev cX6_benches : ByteArray := prog_34_method_78_code
def yX6_benches : MethodName := ⟨RX6, "benches", "(III)V"⟩
def dkwX6_benches_6 : List UInt8 := [167, 255, 171, 177]
abbrev dktX6_benches_6 : List UInt8 := dkwX6_benches_6 ++ []
def dkwX6_benches_5 : List UInt8 := [100, 46, 50, 3, 46, 42, 180, 0, 31, 21, 4, 50, 3, 46, 182, 1, 86, 96, 182, 1, 92, 132, 4, 1]
abbrev dktX6_benches_5 : List UInt8 := dkwX6_benches_5 ++ dktX6_benches_6
def dkwX6_benches_4 : List UInt8 := [21, 4, 120, 128, 29, 27, 154, 0, 7, 3, 167, 0, 31, 42, 42, 180, 0, 31, 42, 180, 0, 79, 27, 4]
abbrev dktX6_benches_4 : List UInt8 := dkwX6_benches_4 ++ dktX6_benches_5
def dkwX6_benches_3 : List UInt8 := [184, 0, 254, 153, 0, 6, 167, 0, 62, 42, 180, 0, 79, 27, 21, 4, 79, 42, 27, 4, 96, 28, 4]
abbrev dktX6_benches_3 : List UInt8 := dkwX6_benches_3 ++ dktX6_benches_4
def dkwX6_benches_2 : List UInt8 := [132, 4, 1, 167, 255, 233, 177, 3, 54, 4, 21, 4, 42, 180, 0, 23, 3, 46, 162, 0, 80, 28, 21, 4]
abbrev dktX6_benches_2 : List UInt8 := dkwX6_benches_2 ++ dktX6_benches_3
def dkwX6_benches_1 : List UInt8 := [3, 54, 4, 21, 4, 27, 162, 0, 23, 42, 180, 0, 82, 21, 4, 42, 180, 0, 79, 21, 4, 46, 79]
abbrev dktX6_benches_1 : List UInt8 := dkwX6_benches_1 ++ dktX6_benches_2
def dkwX6_benches_0 : List UInt8 := [27, 42, 180, 0, 23, 3, 46, 160, 0, 47, 29, 42, 180, 1, 89, 163, 0, 4, 177, 42, 29, 181, 1, 89]
abbrev dktX6_benches_0 : List UInt8 := dkwX6_benches_0 ++ dktX6_benches_1
theorem dksX6_benches_0 : cX6_benches.data.toList.drop 0 = dktX6_benches_0 := by decide +kernel
theorem dksX6_benches_1 : cX6_benches.data.toList.drop 24 = dktX6_benches_1 := dk_seg dksX6_benches_0 24 rfl rfl
theorem dksX6_benches_2 : cX6_benches.data.toList.drop 47 = dktX6_benches_2 := dk_seg dksX6_benches_1 23 rfl rfl
theorem dksX6_benches_3 : cX6_benches.data.toList.drop 71 = dktX6_benches_3 := dk_seg dksX6_benches_2 24 rfl rfl
theorem dksX6_benches_4 : cX6_benches.data.toList.drop 94 = dktX6_benches_4 := dk_seg dksX6_benches_3 23 rfl rfl
theorem dksX6_benches_5 : cX6_benches.data.toList.drop 118 = dktX6_benches_5 := dk_seg dksX6_benches_4 24 rfl rfl
theorem dksX6_benches_6 : cX6_benches.data.toList.drop 142 = dktX6_benches_6 := dk_seg dksX6_benches_5 24 rfl rfl
theorem dX6_benches_0 : decode cX6_benches 0 = .ok (.iload_n 1, 1) := dk_27 (dk_at dksX6_benches_0 0 rfl rfl)
theorem dX6_benches_1 : decode cX6_benches 1 = .ok (.aload_n 0, 1) := dk_42 (dk_at dksX6_benches_0 1 rfl rfl)
theorem dX6_benches_2 : decode cX6_benches 2 = .ok (.getfield 23, 3) := dk_180 0 23 (dk_at dksX6_benches_0 2 rfl rfl)
theorem dX6_benches_5 : decode cX6_benches 5 = .ok (.iconst 0, 1) := dk_3 (dk_at dksX6_benches_0 5 rfl rfl)
theorem dX6_benches_6 : decode cX6_benches 6 = .ok (.iaload, 1) := dk_46 (dk_at dksX6_benches_0 6 rfl rfl)
theorem dX6_benches_7 : decode cX6_benches 7 = .ok (.if_icmp .ne 47, 3) := dk_160 0 47 (dk_at dksX6_benches_0 7 rfl rfl)
theorem dX6_benches_10 : decode cX6_benches 10 = .ok (.iload_n 3, 1) := dk_29 (dk_at dksX6_benches_0 10 rfl rfl)
theorem dX6_benches_11 : decode cX6_benches 11 = .ok (.aload_n 0, 1) := dk_42 (dk_at dksX6_benches_0 11 rfl rfl)
theorem dX6_benches_12 : decode cX6_benches 12 = .ok (.getfield 345, 3) := dk_180 1 89 (dk_at dksX6_benches_0 12 rfl rfl)
theorem dX6_benches_15 : decode cX6_benches 15 = .ok (.if_icmp .gt 4, 3) := dk_163 0 4 (dk_at dksX6_benches_0 15 rfl rfl)
theorem dX6_benches_18 : decode cX6_benches 18 = .ok (.return_, 1) := dk_177 (dk_at dksX6_benches_0 18 rfl rfl)
theorem dX6_benches_19 : decode cX6_benches 19 = .ok (.aload_n 0, 1) := dk_42 (dk_at dksX6_benches_0 19 rfl rfl)
theorem dX6_benches_20 : decode cX6_benches 20 = .ok (.iload_n 3, 1) := dk_29 (dk_at dksX6_benches_0 20 rfl rfl)
theorem dX6_benches_21 : decode cX6_benches 21 = .ok (.putfield 345, 3) := dk_181 1 89 (dk_at dksX6_benches_0 21 rfl rfl)
theorem dX6_benches_24 : decode cX6_benches 24 = .ok (.iconst 0, 1) := dk_3 (dk_at dksX6_benches_1 0 rfl rfl)
theorem dX6_benches_25 : decode cX6_benches 25 = .ok (.istore 4, 2) := dk_54 4 (dk_at dksX6_benches_1 1 rfl rfl)
theorem dX6_benches_27 : decode cX6_benches 27 = .ok (.iload 4, 2) := dk_21 4 (dk_at dksX6_benches_1 3 rfl rfl)
theorem dX6_benches_29 : decode cX6_benches 29 = .ok (.iload_n 1, 1) := dk_27 (dk_at dksX6_benches_1 5 rfl rfl)
theorem dX6_benches_30 : decode cX6_benches 30 = .ok (.if_icmp .ge 23, 3) := dk_162 0 23 (dk_at dksX6_benches_1 6 rfl rfl)
theorem dX6_benches_33 : decode cX6_benches 33 = .ok (.aload_n 0, 1) := dk_42 (dk_at dksX6_benches_1 9 rfl rfl)
theorem dX6_benches_34 : decode cX6_benches 34 = .ok (.getfield 82, 3) := dk_180 0 82 (dk_at dksX6_benches_1 10 rfl rfl)
theorem dX6_benches_37 : decode cX6_benches 37 = .ok (.iload 4, 2) := dk_21 4 (dk_at dksX6_benches_1 13 rfl rfl)
theorem dX6_benches_39 : decode cX6_benches 39 = .ok (.aload_n 0, 1) := dk_42 (dk_at dksX6_benches_1 15 rfl rfl)
theorem dX6_benches_40 : decode cX6_benches 40 = .ok (.getfield 79, 3) := dk_180 0 79 (dk_at dksX6_benches_1 16 rfl rfl)
theorem dX6_benches_43 : decode cX6_benches 43 = .ok (.iload 4, 2) := dk_21 4 (dk_at dksX6_benches_1 19 rfl rfl)
theorem dX6_benches_45 : decode cX6_benches 45 = .ok (.iaload, 1) := dk_46 (dk_at dksX6_benches_1 21 rfl rfl)
theorem dX6_benches_46 : decode cX6_benches 46 = .ok (.iastore, 1) := dk_79 (dk_at dksX6_benches_1 22 rfl rfl)
theorem dX6_benches_47 : decode cX6_benches 47 = .ok (.iinc 4 1, 3) := dk_132 4 1 (dk_at dksX6_benches_2 0 rfl rfl)
theorem dX6_benches_50 : decode cX6_benches 50 = .ok (.goto (-23), 3) := dk_167 255 233 (dk_at dksX6_benches_2 3 rfl rfl)
theorem dX6_benches_53 : decode cX6_benches 53 = .ok (.return_, 1) := dk_177 (dk_at dksX6_benches_2 6 rfl rfl)
theorem dX6_benches_54 : decode cX6_benches 54 = .ok (.iconst 0, 1) := dk_3 (dk_at dksX6_benches_2 7 rfl rfl)
theorem dX6_benches_55 : decode cX6_benches 55 = .ok (.istore 4, 2) := dk_54 4 (dk_at dksX6_benches_2 8 rfl rfl)
theorem dX6_benches_57 : decode cX6_benches 57 = .ok (.iload 4, 2) := dk_21 4 (dk_at dksX6_benches_2 10 rfl rfl)
theorem dX6_benches_59 : decode cX6_benches 59 = .ok (.aload_n 0, 1) := dk_42 (dk_at dksX6_benches_2 12 rfl rfl)
theorem dX6_benches_60 : decode cX6_benches 60 = .ok (.getfield 23, 3) := dk_180 0 23 (dk_at dksX6_benches_2 13 rfl rfl)
theorem dX6_benches_63 : decode cX6_benches 63 = .ok (.iconst 0, 1) := dk_3 (dk_at dksX6_benches_2 16 rfl rfl)
theorem dX6_benches_64 : decode cX6_benches 64 = .ok (.iaload, 1) := dk_46 (dk_at dksX6_benches_2 17 rfl rfl)
theorem dX6_benches_65 : decode cX6_benches 65 = .ok (.if_icmp .ge 80, 3) := dk_162 0 80 (dk_at dksX6_benches_2 18 rfl rfl)
theorem dX6_benches_68 : decode cX6_benches 68 = .ok (.iload_n 2, 1) := dk_28 (dk_at dksX6_benches_2 21 rfl rfl)
theorem dX6_benches_69 : decode cX6_benches 69 = .ok (.iload 4, 2) := dk_21 4 (dk_at dksX6_benches_2 22 rfl rfl)
theorem dX6_benches_71 : decode cX6_benches 71 = .ok (.invokestatic 254, 3) := dk_184 0 254 (dk_at dksX6_benches_3 0 rfl rfl)
theorem dX6_benches_74 : decode cX6_benches 74 = .ok (.ifCond .eq 6, 3) := dk_153 0 6 (dk_at dksX6_benches_3 3 rfl rfl)
theorem dX6_benches_77 : decode cX6_benches 77 = .ok (.goto 62, 3) := dk_167 0 62 (dk_at dksX6_benches_3 6 rfl rfl)
theorem dX6_benches_80 : decode cX6_benches 80 = .ok (.aload_n 0, 1) := dk_42 (dk_at dksX6_benches_3 9 rfl rfl)
theorem dX6_benches_81 : decode cX6_benches 81 = .ok (.getfield 79, 3) := dk_180 0 79 (dk_at dksX6_benches_3 10 rfl rfl)
theorem dX6_benches_84 : decode cX6_benches 84 = .ok (.iload_n 1, 1) := dk_27 (dk_at dksX6_benches_3 13 rfl rfl)
theorem dX6_benches_85 : decode cX6_benches 85 = .ok (.iload 4, 2) := dk_21 4 (dk_at dksX6_benches_3 14 rfl rfl)
theorem dX6_benches_87 : decode cX6_benches 87 = .ok (.iastore, 1) := dk_79 (dk_at dksX6_benches_3 16 rfl rfl)
theorem dX6_benches_88 : decode cX6_benches 88 = .ok (.aload_n 0, 1) := dk_42 (dk_at dksX6_benches_3 17 rfl rfl)
theorem dX6_benches_89 : decode cX6_benches 89 = .ok (.iload_n 1, 1) := dk_27 (dk_at dksX6_benches_3 18 rfl rfl)
theorem dX6_benches_90 : decode cX6_benches 90 = .ok (.iconst 1, 1) := dk_4 (dk_at dksX6_benches_3 19 rfl rfl)
theorem dX6_benches_91 : decode cX6_benches 91 = .ok (.iadd, 1) := dk_96 (dk_at dksX6_benches_3 20 rfl rfl)
theorem dX6_benches_92 : decode cX6_benches 92 = .ok (.iload_n 2, 1) := dk_28 (dk_at dksX6_benches_3 21 rfl rfl)
theorem dX6_benches_93 : decode cX6_benches 93 = .ok (.iconst 1, 1) := dk_4 (dk_at dksX6_benches_3 22 rfl rfl)
theorem dX6_benches_94 : decode cX6_benches 94 = .ok (.iload 4, 2) := dk_21 4 (dk_at dksX6_benches_4 0 rfl rfl)
theorem dX6_benches_96 : decode cX6_benches 96 = .ok (.ishl, 1) := dk_120 (dk_at dksX6_benches_4 2 rfl rfl)
theorem dX6_benches_97 : decode cX6_benches 97 = .ok (.ior, 1) := dk_128 (dk_at dksX6_benches_4 3 rfl rfl)
theorem dX6_benches_98 : decode cX6_benches 98 = .ok (.iload_n 3, 1) := dk_29 (dk_at dksX6_benches_4 4 rfl rfl)
theorem dX6_benches_99 : decode cX6_benches 99 = .ok (.iload_n 1, 1) := dk_27 (dk_at dksX6_benches_4 5 rfl rfl)
theorem dX6_benches_100 : decode cX6_benches 100 = .ok (.ifCond .ne 7, 3) := dk_154 0 7 (dk_at dksX6_benches_4 6 rfl rfl)
theorem dX6_benches_103 : decode cX6_benches 103 = .ok (.iconst 0, 1) := dk_3 (dk_at dksX6_benches_4 9 rfl rfl)
theorem dX6_benches_104 : decode cX6_benches 104 = .ok (.goto 31, 3) := dk_167 0 31 (dk_at dksX6_benches_4 10 rfl rfl)
theorem dX6_benches_107 : decode cX6_benches 107 = .ok (.aload_n 0, 1) := dk_42 (dk_at dksX6_benches_4 13 rfl rfl)
theorem dX6_benches_108 : decode cX6_benches 108 = .ok (.aload_n 0, 1) := dk_42 (dk_at dksX6_benches_4 14 rfl rfl)
theorem dX6_benches_109 : decode cX6_benches 109 = .ok (.getfield 31, 3) := dk_180 0 31 (dk_at dksX6_benches_4 15 rfl rfl)
theorem dX6_benches_112 : decode cX6_benches 112 = .ok (.aload_n 0, 1) := dk_42 (dk_at dksX6_benches_4 18 rfl rfl)
theorem dX6_benches_113 : decode cX6_benches 113 = .ok (.getfield 79, 3) := dk_180 0 79 (dk_at dksX6_benches_4 19 rfl rfl)
theorem dX6_benches_116 : decode cX6_benches 116 = .ok (.iload_n 1, 1) := dk_27 (dk_at dksX6_benches_4 22 rfl rfl)
theorem dX6_benches_117 : decode cX6_benches 117 = .ok (.iconst 1, 1) := dk_4 (dk_at dksX6_benches_4 23 rfl rfl)
theorem dX6_benches_118 : decode cX6_benches 118 = .ok (.isub, 1) := dk_100 (dk_at dksX6_benches_5 0 rfl rfl)
theorem dX6_benches_119 : decode cX6_benches 119 = .ok (.iaload, 1) := dk_46 (dk_at dksX6_benches_5 1 rfl rfl)
theorem dX6_benches_120 : decode cX6_benches 120 = .ok (.aaload, 1) := dk_50 (dk_at dksX6_benches_5 2 rfl rfl)
theorem dX6_benches_121 : decode cX6_benches 121 = .ok (.iconst 0, 1) := dk_3 (dk_at dksX6_benches_5 3 rfl rfl)
theorem dX6_benches_122 : decode cX6_benches 122 = .ok (.iaload, 1) := dk_46 (dk_at dksX6_benches_5 4 rfl rfl)
theorem dX6_benches_123 : decode cX6_benches 123 = .ok (.aload_n 0, 1) := dk_42 (dk_at dksX6_benches_5 5 rfl rfl)
theorem dX6_benches_124 : decode cX6_benches 124 = .ok (.getfield 31, 3) := dk_180 0 31 (dk_at dksX6_benches_5 6 rfl rfl)
theorem dX6_benches_127 : decode cX6_benches 127 = .ok (.iload 4, 2) := dk_21 4 (dk_at dksX6_benches_5 9 rfl rfl)
theorem dX6_benches_129 : decode cX6_benches 129 = .ok (.aaload, 1) := dk_50 (dk_at dksX6_benches_5 11 rfl rfl)
theorem dX6_benches_130 : decode cX6_benches 130 = .ok (.iconst 0, 1) := dk_3 (dk_at dksX6_benches_5 12 rfl rfl)
theorem dX6_benches_131 : decode cX6_benches 131 = .ok (.iaload, 1) := dk_46 (dk_at dksX6_benches_5 13 rfl rfl)
theorem dX6_benches_132 : decode cX6_benches 132 = .ok (.invokevirtual 342, 3) := dk_182 1 86 (dk_at dksX6_benches_5 14 rfl rfl)
theorem dX6_benches_135 : decode cX6_benches 135 = .ok (.iadd, 1) := dk_96 (dk_at dksX6_benches_5 17 rfl rfl)
theorem dX6_benches_136 : decode cX6_benches 136 = .ok (.invokevirtual 348, 3) := dk_182 1 92 (dk_at dksX6_benches_5 18 rfl rfl)
theorem dX6_benches_139 : decode cX6_benches 139 = .ok (.iinc 4 1, 3) := dk_132 4 1 (dk_at dksX6_benches_5 21 rfl rfl)
theorem dX6_benches_142 : decode cX6_benches 142 = .ok (.goto (-85), 3) := dk_167 255 171 (dk_at dksX6_benches_6 0 rfl rfl)
theorem dX6_benches_145 : decode cX6_benches 145 = .ok (.return_, 1) := dk_177 (dk_at dksX6_benches_6 3 rfl rfl)
abbrev cX6_benched : ByteArray := prog_34_method_81_code
def yX6_benched : MethodName := ⟨RX6, "benched", "(I)I"⟩
def dkwX6_benched_2 : List UInt8 := [2, 172]
abbrev dktX6_benched_2 : List UInt8 := dkwX6_benched_2 ++ []
def dkwX6_benched_1 : List UInt8 := [172, 42, 182, 1, 96, 27, 42, 180, 0, 23, 3, 46, 162, 0, 12, 42, 180, 0, 82, 27, 46, 167, 0, 4]
abbrev dktX6_benched_1 : List UInt8 := dkwX6_benched_1 ++ dktX6_benched_2
def dkwX6_benched_0 : List UInt8 := [42, 3, 181, 0, 95, 42, 27, 156, 0, 7, 4, 167, 0, 4, 3, 4, 4, 182, 0, 171, 153, 0, 5, 3]
abbrev dktX6_benched_0 : List UInt8 := dkwX6_benched_0 ++ dktX6_benched_1
theorem dksX6_benched_0 : cX6_benched.data.toList.drop 0 = dktX6_benched_0 := by decide +kernel
theorem dksX6_benched_1 : cX6_benched.data.toList.drop 24 = dktX6_benched_1 := dk_seg dksX6_benched_0 24 rfl rfl
theorem dksX6_benched_2 : cX6_benched.data.toList.drop 48 = dktX6_benched_2 := dk_seg dksX6_benched_1 24 rfl rfl
theorem dX6_benched_0 : decode cX6_benched 0 = .ok (.aload_n 0, 1) := dk_42 (dk_at dksX6_benched_0 0 rfl rfl)
theorem dX6_benched_1 : decode cX6_benched 1 = .ok (.iconst 0, 1) := dk_3 (dk_at dksX6_benched_0 1 rfl rfl)
theorem dX6_benched_2 : decode cX6_benched 2 = .ok (.putfield 95, 3) := dk_181 0 95 (dk_at dksX6_benched_0 2 rfl rfl)
theorem dX6_benched_5 : decode cX6_benched 5 = .ok (.aload_n 0, 1) := dk_42 (dk_at dksX6_benched_0 5 rfl rfl)
theorem dX6_benched_6 : decode cX6_benched 6 = .ok (.iload_n 1, 1) := dk_27 (dk_at dksX6_benched_0 6 rfl rfl)
theorem dX6_benched_7 : decode cX6_benched 7 = .ok (.ifCond .ge 7, 3) := dk_156 0 7 (dk_at dksX6_benched_0 7 rfl rfl)
theorem dX6_benched_10 : decode cX6_benched 10 = .ok (.iconst 1, 1) := dk_4 (dk_at dksX6_benched_0 10 rfl rfl)
theorem dX6_benched_11 : decode cX6_benched 11 = .ok (.goto 4, 3) := dk_167 0 4 (dk_at dksX6_benched_0 11 rfl rfl)
theorem dX6_benched_14 : decode cX6_benched 14 = .ok (.iconst 0, 1) := dk_3 (dk_at dksX6_benched_0 14 rfl rfl)
theorem dX6_benched_15 : decode cX6_benched 15 = .ok (.iconst 1, 1) := dk_4 (dk_at dksX6_benched_0 15 rfl rfl)
theorem dX6_benched_16 : decode cX6_benched 16 = .ok (.iconst 1, 1) := dk_4 (dk_at dksX6_benched_0 16 rfl rfl)
theorem dX6_benched_17 : decode cX6_benched 17 = .ok (.invokevirtual 171, 3) := dk_182 0 171 (dk_at dksX6_benched_0 17 rfl rfl)
theorem dX6_benched_20 : decode cX6_benched 20 = .ok (.ifCond .eq 5, 3) := dk_153 0 5 (dk_at dksX6_benched_0 20 rfl rfl)
theorem dX6_benched_23 : decode cX6_benched 23 = .ok (.iconst 0, 1) := dk_3 (dk_at dksX6_benched_0 23 rfl rfl)
theorem dX6_benched_24 : decode cX6_benched 24 = .ok (.ireturn, 1) := dk_172 (dk_at dksX6_benched_1 0 rfl rfl)
theorem dX6_benched_25 : decode cX6_benched 25 = .ok (.aload_n 0, 1) := dk_42 (dk_at dksX6_benched_1 1 rfl rfl)
theorem dX6_benched_26 : decode cX6_benched 26 = .ok (.invokevirtual 352, 3) := dk_182 1 96 (dk_at dksX6_benched_1 2 rfl rfl)
theorem dX6_benched_29 : decode cX6_benched 29 = .ok (.iload_n 1, 1) := dk_27 (dk_at dksX6_benched_1 5 rfl rfl)
theorem dX6_benched_30 : decode cX6_benched 30 = .ok (.aload_n 0, 1) := dk_42 (dk_at dksX6_benched_1 6 rfl rfl)
theorem dX6_benched_31 : decode cX6_benched 31 = .ok (.getfield 23, 3) := dk_180 0 23 (dk_at dksX6_benched_1 7 rfl rfl)
theorem dX6_benched_34 : decode cX6_benched 34 = .ok (.iconst 0, 1) := dk_3 (dk_at dksX6_benched_1 10 rfl rfl)
theorem dX6_benched_35 : decode cX6_benched 35 = .ok (.iaload, 1) := dk_46 (dk_at dksX6_benched_1 11 rfl rfl)
theorem dX6_benched_36 : decode cX6_benched 36 = .ok (.if_icmp .ge 12, 3) := dk_162 0 12 (dk_at dksX6_benched_1 12 rfl rfl)
theorem dX6_benched_39 : decode cX6_benched 39 = .ok (.aload_n 0, 1) := dk_42 (dk_at dksX6_benched_1 15 rfl rfl)
theorem dX6_benched_40 : decode cX6_benched 40 = .ok (.getfield 82, 3) := dk_180 0 82 (dk_at dksX6_benched_1 16 rfl rfl)
theorem dX6_benched_43 : decode cX6_benched 43 = .ok (.iload_n 1, 1) := dk_27 (dk_at dksX6_benched_1 19 rfl rfl)
theorem dX6_benched_44 : decode cX6_benched 44 = .ok (.iaload, 1) := dk_46 (dk_at dksX6_benched_1 20 rfl rfl)
theorem dX6_benched_45 : decode cX6_benched 45 = .ok (.goto 4, 3) := dk_167 0 4 (dk_at dksX6_benched_1 21 rfl rfl)
theorem dX6_benched_48 : decode cX6_benched 48 = .ok (.iconst (-1), 1) := dk_2 (dk_at dksX6_benched_2 0 rfl rfl)
theorem dX6_benched_49 : decode cX6_benched 49 = .ok (.ireturn, 1) := dk_172 (dk_at dksX6_benched_2 1 rfl rfl)
abbrev cX6_wording : ByteArray := prog_34_method_82_code
def yX6_wording : MethodName := ⟨RX6, "wording", "()I"⟩
def dkwX6_wording_3 : List UInt8 := [29, 153, 0, 7, 28, 167, 0, 4, 27, 60, 132, 2, 255, 167, 255, 183, 27, 172]
abbrev dktX6_wording_3 : List UInt8 := dkwX6_wording_3 ++ []
def dkwX6_wording_2 : List UInt8 := [42, 21, 4, 182, 1, 35, 28, 126, 153, 0, 7, 4, 167, 0, 4, 3, 126, 62, 132, 4, 1, 167, 255, 223]
abbrev dktX6_wording_2 : List UInt8 := dkwX6_wording_2 ++ dktX6_wording_3
def dkwX6_wording_1 : List UInt8 := [163, 0, 7, 4, 167, 0, 4, 3, 62, 3, 54, 4, 21, 4, 42, 180, 0, 23, 4, 46, 162, 0, 28, 29]
abbrev dktX6_wording_1 : List UInt8 := dkwX6_wording_1 ++ dktX6_wording_2
def dkwX6_wording_0 : List UInt8 := [42, 3, 181, 0, 95, 16, 63, 60, 27, 61, 28, 155, 0, 75, 28, 184, 1, 77, 27, 184, 1, 77]
abbrev dktX6_wording_0 : List UInt8 := dkwX6_wording_0 ++ dktX6_wording_1
theorem dksX6_wording_0 : cX6_wording.data.toList.drop 0 = dktX6_wording_0 := by decide +kernel
theorem dksX6_wording_1 : cX6_wording.data.toList.drop 22 = dktX6_wording_1 := dk_seg dksX6_wording_0 22 rfl rfl
theorem dksX6_wording_2 : cX6_wording.data.toList.drop 46 = dktX6_wording_2 := dk_seg dksX6_wording_1 24 rfl rfl
theorem dksX6_wording_3 : cX6_wording.data.toList.drop 70 = dktX6_wording_3 := dk_seg dksX6_wording_2 24 rfl rfl
theorem dX6_wording_0 : decode cX6_wording 0 = .ok (.aload_n 0, 1) := dk_42 (dk_at dksX6_wording_0 0 rfl rfl)
theorem dX6_wording_1 : decode cX6_wording 1 = .ok (.iconst 0, 1) := dk_3 (dk_at dksX6_wording_0 1 rfl rfl)
theorem dX6_wording_2 : decode cX6_wording 2 = .ok (.putfield 95, 3) := dk_181 0 95 (dk_at dksX6_wording_0 2 rfl rfl)
theorem dX6_wording_5 : decode cX6_wording 5 = .ok (.bipush 63, 2) := dk_16 63 (dk_at dksX6_wording_0 5 rfl rfl)
theorem dX6_wording_7 : decode cX6_wording 7 = .ok (.istore_n 1, 1) := dk_60 (dk_at dksX6_wording_0 7 rfl rfl)
theorem dX6_wording_8 : decode cX6_wording 8 = .ok (.iload_n 1, 1) := dk_27 (dk_at dksX6_wording_0 8 rfl rfl)
theorem dX6_wording_9 : decode cX6_wording 9 = .ok (.istore_n 2, 1) := dk_61 (dk_at dksX6_wording_0 9 rfl rfl)
theorem dX6_wording_10 : decode cX6_wording 10 = .ok (.iload_n 2, 1) := dk_28 (dk_at dksX6_wording_0 10 rfl rfl)
theorem dX6_wording_11 : decode cX6_wording 11 = .ok (.ifCond .lt 75, 3) := dk_155 0 75 (dk_at dksX6_wording_0 11 rfl rfl)
theorem dX6_wording_14 : decode cX6_wording 14 = .ok (.iload_n 2, 1) := dk_28 (dk_at dksX6_wording_0 14 rfl rfl)
theorem dX6_wording_15 : decode cX6_wording 15 = .ok (.invokestatic 333, 3) := dk_184 1 77 (dk_at dksX6_wording_0 15 rfl rfl)
theorem dX6_wording_18 : decode cX6_wording 18 = .ok (.iload_n 1, 1) := dk_27 (dk_at dksX6_wording_0 18 rfl rfl)
theorem dX6_wording_19 : decode cX6_wording 19 = .ok (.invokestatic 333, 3) := dk_184 1 77 (dk_at dksX6_wording_0 19 rfl rfl)
theorem dX6_wording_22 : decode cX6_wording 22 = .ok (.if_icmp .gt 7, 3) := dk_163 0 7 (dk_at dksX6_wording_1 0 rfl rfl)
theorem dX6_wording_25 : decode cX6_wording 25 = .ok (.iconst 1, 1) := dk_4 (dk_at dksX6_wording_1 3 rfl rfl)
theorem dX6_wording_26 : decode cX6_wording 26 = .ok (.goto 4, 3) := dk_167 0 4 (dk_at dksX6_wording_1 4 rfl rfl)
theorem dX6_wording_29 : decode cX6_wording 29 = .ok (.iconst 0, 1) := dk_3 (dk_at dksX6_wording_1 7 rfl rfl)
theorem dX6_wording_30 : decode cX6_wording 30 = .ok (.istore_n 3, 1) := dk_62 (dk_at dksX6_wording_1 8 rfl rfl)
theorem dX6_wording_31 : decode cX6_wording 31 = .ok (.iconst 0, 1) := dk_3 (dk_at dksX6_wording_1 9 rfl rfl)
theorem dX6_wording_32 : decode cX6_wording 32 = .ok (.istore 4, 2) := dk_54 4 (dk_at dksX6_wording_1 10 rfl rfl)
theorem dX6_wording_34 : decode cX6_wording 34 = .ok (.iload 4, 2) := dk_21 4 (dk_at dksX6_wording_1 12 rfl rfl)
theorem dX6_wording_36 : decode cX6_wording 36 = .ok (.aload_n 0, 1) := dk_42 (dk_at dksX6_wording_1 14 rfl rfl)
theorem dX6_wording_37 : decode cX6_wording 37 = .ok (.getfield 23, 3) := dk_180 0 23 (dk_at dksX6_wording_1 15 rfl rfl)
theorem dX6_wording_40 : decode cX6_wording 40 = .ok (.iconst 1, 1) := dk_4 (dk_at dksX6_wording_1 18 rfl rfl)
theorem dX6_wording_41 : decode cX6_wording 41 = .ok (.iaload, 1) := dk_46 (dk_at dksX6_wording_1 19 rfl rfl)
theorem dX6_wording_42 : decode cX6_wording 42 = .ok (.if_icmp .ge 28, 3) := dk_162 0 28 (dk_at dksX6_wording_1 20 rfl rfl)
theorem dX6_wording_45 : decode cX6_wording 45 = .ok (.iload_n 3, 1) := dk_29 (dk_at dksX6_wording_1 23 rfl rfl)
theorem dX6_wording_46 : decode cX6_wording 46 = .ok (.aload_n 0, 1) := dk_42 (dk_at dksX6_wording_2 0 rfl rfl)
theorem dX6_wording_47 : decode cX6_wording 47 = .ok (.iload 4, 2) := dk_21 4 (dk_at dksX6_wording_2 1 rfl rfl)
theorem dX6_wording_49 : decode cX6_wording 49 = .ok (.invokevirtual 291, 3) := dk_182 1 35 (dk_at dksX6_wording_2 3 rfl rfl)
theorem dX6_wording_52 : decode cX6_wording 52 = .ok (.iload_n 2, 1) := dk_28 (dk_at dksX6_wording_2 6 rfl rfl)
theorem dX6_wording_53 : decode cX6_wording 53 = .ok (.iand, 1) := dk_126 (dk_at dksX6_wording_2 7 rfl rfl)
theorem dX6_wording_54 : decode cX6_wording 54 = .ok (.ifCond .eq 7, 3) := dk_153 0 7 (dk_at dksX6_wording_2 8 rfl rfl)
theorem dX6_wording_57 : decode cX6_wording 57 = .ok (.iconst 1, 1) := dk_4 (dk_at dksX6_wording_2 11 rfl rfl)
theorem dX6_wording_58 : decode cX6_wording 58 = .ok (.goto 4, 3) := dk_167 0 4 (dk_at dksX6_wording_2 12 rfl rfl)
theorem dX6_wording_61 : decode cX6_wording 61 = .ok (.iconst 0, 1) := dk_3 (dk_at dksX6_wording_2 15 rfl rfl)
theorem dX6_wording_62 : decode cX6_wording 62 = .ok (.iand, 1) := dk_126 (dk_at dksX6_wording_2 16 rfl rfl)
theorem dX6_wording_63 : decode cX6_wording 63 = .ok (.istore_n 3, 1) := dk_62 (dk_at dksX6_wording_2 17 rfl rfl)
theorem dX6_wording_64 : decode cX6_wording 64 = .ok (.iinc 4 1, 3) := dk_132 4 1 (dk_at dksX6_wording_2 18 rfl rfl)
theorem dX6_wording_67 : decode cX6_wording 67 = .ok (.goto (-33), 3) := dk_167 255 223 (dk_at dksX6_wording_2 21 rfl rfl)
theorem dX6_wording_70 : decode cX6_wording 70 = .ok (.iload_n 3, 1) := dk_29 (dk_at dksX6_wording_3 0 rfl rfl)
theorem dX6_wording_71 : decode cX6_wording 71 = .ok (.ifCond .eq 7, 3) := dk_153 0 7 (dk_at dksX6_wording_3 1 rfl rfl)
theorem dX6_wording_74 : decode cX6_wording 74 = .ok (.iload_n 2, 1) := dk_28 (dk_at dksX6_wording_3 4 rfl rfl)
theorem dX6_wording_75 : decode cX6_wording 75 = .ok (.goto 4, 3) := dk_167 0 4 (dk_at dksX6_wording_3 5 rfl rfl)
theorem dX6_wording_78 : decode cX6_wording 78 = .ok (.iload_n 1, 1) := dk_27 (dk_at dksX6_wording_3 8 rfl rfl)
theorem dX6_wording_79 : decode cX6_wording 79 = .ok (.istore_n 1, 1) := dk_60 (dk_at dksX6_wording_3 9 rfl rfl)
theorem dX6_wording_80 : decode cX6_wording 80 = .ok (.iinc 2 (-1), 3) := dk_132 2 255 (dk_at dksX6_wording_3 10 rfl rfl)
theorem dX6_wording_83 : decode cX6_wording 83 = .ok (.goto (-73), 3) := dk_167 255 183 (dk_at dksX6_wording_3 13 rfl rfl)
theorem dX6_wording_86 : decode cX6_wording 86 = .ok (.iload_n 1, 1) := dk_27 (dk_at dksX6_wording_3 16 rfl rfl)
theorem dX6_wording_87 : decode cX6_wording 87 = .ok (.ireturn, 1) := dk_172 (dk_at dksX6_wording_3 17 rfl rfl)
abbrev cX6_wordings : ByteArray := prog_34_method_83_code
def yX6_wordings : MethodName := ⟨RX6, "wordings", "(I)J"⟩
def dkwX6_wordings_2 : List UInt8 := [32, 42, 21, 4, 182, 1, 35, 27, 126, 184, 1, 77, 133, 105, 65, 132, 4, 1, 167, 255, 227, 32, 173]
abbrev dktX6_wordings_2 : List UInt8 := dkwX6_wordings_2 ++ []
def dkwX6_wordings_1 : List UInt8 := [182, 0, 171, 153, 0, 5, 9, 173, 10, 65, 3, 54, 4, 21, 4, 42, 180, 0, 23, 4, 46, 162, 0, 24]
abbrev dktX6_wordings_1 : List UInt8 := dkwX6_wordings_1 ++ dktX6_wordings_2
def dkwX6_wordings_0 : List UInt8 := [42, 3, 181, 0, 95, 42, 27, 3, 16, 63, 184, 0, 129, 154, 0, 7, 4, 167, 0, 4, 3, 4, 4]
abbrev dktX6_wordings_0 : List UInt8 := dkwX6_wordings_0 ++ dktX6_wordings_1
theorem dksX6_wordings_0 : cX6_wordings.data.toList.drop 0 = dktX6_wordings_0 := by decide +kernel
theorem dksX6_wordings_1 : cX6_wordings.data.toList.drop 23 = dktX6_wordings_1 := dk_seg dksX6_wordings_0 23 rfl rfl
theorem dksX6_wordings_2 : cX6_wordings.data.toList.drop 47 = dktX6_wordings_2 := dk_seg dksX6_wordings_1 24 rfl rfl
theorem dX6_wordings_0 : decode cX6_wordings 0 = .ok (.aload_n 0, 1) := dk_42 (dk_at dksX6_wordings_0 0 rfl rfl)
theorem dX6_wordings_1 : decode cX6_wordings 1 = .ok (.iconst 0, 1) := dk_3 (dk_at dksX6_wordings_0 1 rfl rfl)
theorem dX6_wordings_2 : decode cX6_wordings 2 = .ok (.putfield 95, 3) := dk_181 0 95 (dk_at dksX6_wordings_0 2 rfl rfl)
theorem dX6_wordings_5 : decode cX6_wordings 5 = .ok (.aload_n 0, 1) := dk_42 (dk_at dksX6_wordings_0 5 rfl rfl)
theorem dX6_wordings_6 : decode cX6_wordings 6 = .ok (.iload_n 1, 1) := dk_27 (dk_at dksX6_wordings_0 6 rfl rfl)
theorem dX6_wordings_7 : decode cX6_wordings 7 = .ok (.iconst 0, 1) := dk_3 (dk_at dksX6_wordings_0 7 rfl rfl)
theorem dX6_wordings_8 : decode cX6_wordings 8 = .ok (.bipush 63, 2) := dk_16 63 (dk_at dksX6_wordings_0 8 rfl rfl)
theorem dX6_wordings_10 : decode cX6_wordings 10 = .ok (.invokestatic 129, 3) := dk_184 0 129 (dk_at dksX6_wordings_0 10 rfl rfl)
theorem dX6_wordings_13 : decode cX6_wordings 13 = .ok (.ifCond .ne 7, 3) := dk_154 0 7 (dk_at dksX6_wordings_0 13 rfl rfl)
theorem dX6_wordings_16 : decode cX6_wordings 16 = .ok (.iconst 1, 1) := dk_4 (dk_at dksX6_wordings_0 16 rfl rfl)
theorem dX6_wordings_17 : decode cX6_wordings 17 = .ok (.goto 4, 3) := dk_167 0 4 (dk_at dksX6_wordings_0 17 rfl rfl)
theorem dX6_wordings_20 : decode cX6_wordings 20 = .ok (.iconst 0, 1) := dk_3 (dk_at dksX6_wordings_0 20 rfl rfl)
theorem dX6_wordings_21 : decode cX6_wordings 21 = .ok (.iconst 1, 1) := dk_4 (dk_at dksX6_wordings_0 21 rfl rfl)
theorem dX6_wordings_22 : decode cX6_wordings 22 = .ok (.iconst 1, 1) := dk_4 (dk_at dksX6_wordings_0 22 rfl rfl)
theorem dX6_wordings_23 : decode cX6_wordings 23 = .ok (.invokevirtual 171, 3) := dk_182 0 171 (dk_at dksX6_wordings_1 0 rfl rfl)
theorem dX6_wordings_26 : decode cX6_wordings 26 = .ok (.ifCond .eq 5, 3) := dk_153 0 5 (dk_at dksX6_wordings_1 3 rfl rfl)
theorem dX6_wordings_29 : decode cX6_wordings 29 = .ok (.lconst 0, 1) := dk_9 (dk_at dksX6_wordings_1 6 rfl rfl)
theorem dX6_wordings_30 : decode cX6_wordings 30 = .ok (.lreturn, 1) := dk_173 (dk_at dksX6_wordings_1 7 rfl rfl)
theorem dX6_wordings_31 : decode cX6_wordings 31 = .ok (.lconst 1, 1) := dk_10 (dk_at dksX6_wordings_1 8 rfl rfl)
theorem dX6_wordings_32 : decode cX6_wordings 32 = .ok (.lstore_n 2, 1) := dk_65 (dk_at dksX6_wordings_1 9 rfl rfl)
theorem dX6_wordings_33 : decode cX6_wordings 33 = .ok (.iconst 0, 1) := dk_3 (dk_at dksX6_wordings_1 10 rfl rfl)
theorem dX6_wordings_34 : decode cX6_wordings 34 = .ok (.istore 4, 2) := dk_54 4 (dk_at dksX6_wordings_1 11 rfl rfl)
theorem dX6_wordings_36 : decode cX6_wordings 36 = .ok (.iload 4, 2) := dk_21 4 (dk_at dksX6_wordings_1 13 rfl rfl)
theorem dX6_wordings_38 : decode cX6_wordings 38 = .ok (.aload_n 0, 1) := dk_42 (dk_at dksX6_wordings_1 15 rfl rfl)
theorem dX6_wordings_39 : decode cX6_wordings 39 = .ok (.getfield 23, 3) := dk_180 0 23 (dk_at dksX6_wordings_1 16 rfl rfl)
theorem dX6_wordings_42 : decode cX6_wordings 42 = .ok (.iconst 1, 1) := dk_4 (dk_at dksX6_wordings_1 19 rfl rfl)
theorem dX6_wordings_43 : decode cX6_wordings 43 = .ok (.iaload, 1) := dk_46 (dk_at dksX6_wordings_1 20 rfl rfl)
theorem dX6_wordings_44 : decode cX6_wordings 44 = .ok (.if_icmp .ge 24, 3) := dk_162 0 24 (dk_at dksX6_wordings_1 21 rfl rfl)
theorem dX6_wordings_47 : decode cX6_wordings 47 = .ok (.lload_n 2, 1) := dk_32 (dk_at dksX6_wordings_2 0 rfl rfl)
theorem dX6_wordings_48 : decode cX6_wordings 48 = .ok (.aload_n 0, 1) := dk_42 (dk_at dksX6_wordings_2 1 rfl rfl)
theorem dX6_wordings_49 : decode cX6_wordings 49 = .ok (.iload 4, 2) := dk_21 4 (dk_at dksX6_wordings_2 2 rfl rfl)
theorem dX6_wordings_51 : decode cX6_wordings 51 = .ok (.invokevirtual 291, 3) := dk_182 1 35 (dk_at dksX6_wordings_2 4 rfl rfl)
theorem dX6_wordings_54 : decode cX6_wordings 54 = .ok (.iload_n 1, 1) := dk_27 (dk_at dksX6_wordings_2 7 rfl rfl)
theorem dX6_wordings_55 : decode cX6_wordings 55 = .ok (.iand, 1) := dk_126 (dk_at dksX6_wordings_2 8 rfl rfl)
theorem dX6_wordings_56 : decode cX6_wordings 56 = .ok (.invokestatic 333, 3) := dk_184 1 77 (dk_at dksX6_wordings_2 9 rfl rfl)
theorem dX6_wordings_59 : decode cX6_wordings 59 = .ok (.i2l, 1) := dk_133 (dk_at dksX6_wordings_2 12 rfl rfl)
theorem dX6_wordings_60 : decode cX6_wordings 60 = .ok (.lmul, 1) := dk_105 (dk_at dksX6_wordings_2 13 rfl rfl)
theorem dX6_wordings_61 : decode cX6_wordings 61 = .ok (.lstore_n 2, 1) := dk_65 (dk_at dksX6_wordings_2 14 rfl rfl)
theorem dX6_wordings_62 : decode cX6_wordings 62 = .ok (.iinc 4 1, 3) := dk_132 4 1 (dk_at dksX6_wordings_2 15 rfl rfl)
theorem dX6_wordings_65 : decode cX6_wordings 65 = .ok (.goto (-29), 3) := dk_167 255 227 (dk_at dksX6_wordings_2 18 rfl rfl)
theorem dX6_wordings_68 : decode cX6_wordings 68 = .ok (.lload_n 2, 1) := dk_32 (dk_at dksX6_wordings_2 21 rfl rfl)
theorem dX6_wordings_69 : decode cX6_wordings 69 = .ok (.lreturn, 1) := dk_173 (dk_at dksX6_wordings_2 22 rfl rfl)
abbrev cX6_who : ByteArray := prog_34_method_85_code
def yX6_who : MethodName := ⟨RX6, "who", "(I)I"⟩
def dkwX6_who_4 : List UInt8 := [154, 0, 7, 28, 167, 0, 4, 29, 172]
abbrev dktX6_who_4 : List UInt8 := dkwX6_who_4 ++ []
def dkwX6_who_3 : List UInt8 := [184, 1, 77, 29, 184, 1, 77, 162, 0, 8, 21, 4, 167, 0, 4, 29, 62, 132, 4, 1, 167, 255, 205, 27]
abbrev dktX6_who_3 : List UInt8 := dkwX6_who_3 ++ dktX6_who_4
def dkwX6_who_2 : List UInt8 := [42, 21, 4, 182, 1, 99, 154, 0, 6, 167, 0, 30, 132, 2, 1, 29, 2, 159, 0, 15, 21, 4]
abbrev dktX6_who_2 : List UInt8 := dkwX6_who_2 ++ dktX6_who_3
def dkwX6_who_1 : List UInt8 := [182, 0, 171, 153, 0, 5, 3, 172, 3, 61, 2, 62, 3, 54, 4, 21, 4, 42, 182, 1, 74, 163, 0, 48]
abbrev dktX6_who_1 : List UInt8 := dkwX6_who_1 ++ dktX6_who_2
def dkwX6_who_0 : List UInt8 := [42, 3, 181, 0, 95, 42, 27, 3, 4, 184, 0, 129, 154, 0, 7, 4, 167, 0, 4, 3, 4, 4]
abbrev dktX6_who_0 : List UInt8 := dkwX6_who_0 ++ dktX6_who_1
theorem dksX6_who_0 : cX6_who.data.toList.drop 0 = dktX6_who_0 := by decide +kernel
theorem dksX6_who_1 : cX6_who.data.toList.drop 22 = dktX6_who_1 := dk_seg dksX6_who_0 22 rfl rfl
theorem dksX6_who_2 : cX6_who.data.toList.drop 46 = dktX6_who_2 := dk_seg dksX6_who_1 24 rfl rfl
theorem dksX6_who_3 : cX6_who.data.toList.drop 68 = dktX6_who_3 := dk_seg dksX6_who_2 22 rfl rfl
theorem dksX6_who_4 : cX6_who.data.toList.drop 92 = dktX6_who_4 := dk_seg dksX6_who_3 24 rfl rfl
theorem dX6_who_0 : decode cX6_who 0 = .ok (.aload_n 0, 1) := dk_42 (dk_at dksX6_who_0 0 rfl rfl)
theorem dX6_who_1 : decode cX6_who 1 = .ok (.iconst 0, 1) := dk_3 (dk_at dksX6_who_0 1 rfl rfl)
theorem dX6_who_2 : decode cX6_who 2 = .ok (.putfield 95, 3) := dk_181 0 95 (dk_at dksX6_who_0 2 rfl rfl)
theorem dX6_who_5 : decode cX6_who 5 = .ok (.aload_n 0, 1) := dk_42 (dk_at dksX6_who_0 5 rfl rfl)
theorem dX6_who_6 : decode cX6_who 6 = .ok (.iload_n 1, 1) := dk_27 (dk_at dksX6_who_0 6 rfl rfl)
theorem dX6_who_7 : decode cX6_who 7 = .ok (.iconst 0, 1) := dk_3 (dk_at dksX6_who_0 7 rfl rfl)
theorem dX6_who_8 : decode cX6_who 8 = .ok (.iconst 1, 1) := dk_4 (dk_at dksX6_who_0 8 rfl rfl)
theorem dX6_who_9 : decode cX6_who 9 = .ok (.invokestatic 129, 3) := dk_184 0 129 (dk_at dksX6_who_0 9 rfl rfl)
theorem dX6_who_12 : decode cX6_who 12 = .ok (.ifCond .ne 7, 3) := dk_154 0 7 (dk_at dksX6_who_0 12 rfl rfl)
theorem dX6_who_15 : decode cX6_who 15 = .ok (.iconst 1, 1) := dk_4 (dk_at dksX6_who_0 15 rfl rfl)
theorem dX6_who_16 : decode cX6_who 16 = .ok (.goto 4, 3) := dk_167 0 4 (dk_at dksX6_who_0 16 rfl rfl)
theorem dX6_who_19 : decode cX6_who 19 = .ok (.iconst 0, 1) := dk_3 (dk_at dksX6_who_0 19 rfl rfl)
theorem dX6_who_20 : decode cX6_who 20 = .ok (.iconst 1, 1) := dk_4 (dk_at dksX6_who_0 20 rfl rfl)
theorem dX6_who_21 : decode cX6_who 21 = .ok (.iconst 1, 1) := dk_4 (dk_at dksX6_who_0 21 rfl rfl)
theorem dX6_who_22 : decode cX6_who 22 = .ok (.invokevirtual 171, 3) := dk_182 0 171 (dk_at dksX6_who_1 0 rfl rfl)
theorem dX6_who_25 : decode cX6_who 25 = .ok (.ifCond .eq 5, 3) := dk_153 0 5 (dk_at dksX6_who_1 3 rfl rfl)
theorem dX6_who_28 : decode cX6_who 28 = .ok (.iconst 0, 1) := dk_3 (dk_at dksX6_who_1 6 rfl rfl)
theorem dX6_who_29 : decode cX6_who 29 = .ok (.ireturn, 1) := dk_172 (dk_at dksX6_who_1 7 rfl rfl)
theorem dX6_who_30 : decode cX6_who 30 = .ok (.iconst 0, 1) := dk_3 (dk_at dksX6_who_1 8 rfl rfl)
theorem dX6_who_31 : decode cX6_who 31 = .ok (.istore_n 2, 1) := dk_61 (dk_at dksX6_who_1 9 rfl rfl)
theorem dX6_who_32 : decode cX6_who 32 = .ok (.iconst (-1), 1) := dk_2 (dk_at dksX6_who_1 10 rfl rfl)
theorem dX6_who_33 : decode cX6_who 33 = .ok (.istore_n 3, 1) := dk_62 (dk_at dksX6_who_1 11 rfl rfl)
theorem dX6_who_34 : decode cX6_who 34 = .ok (.iconst 0, 1) := dk_3 (dk_at dksX6_who_1 12 rfl rfl)
theorem dX6_who_35 : decode cX6_who 35 = .ok (.istore 4, 2) := dk_54 4 (dk_at dksX6_who_1 13 rfl rfl)
theorem dX6_who_37 : decode cX6_who 37 = .ok (.iload 4, 2) := dk_21 4 (dk_at dksX6_who_1 15 rfl rfl)
theorem dX6_who_39 : decode cX6_who 39 = .ok (.aload_n 0, 1) := dk_42 (dk_at dksX6_who_1 17 rfl rfl)
theorem dX6_who_40 : decode cX6_who 40 = .ok (.invokevirtual 330, 3) := dk_182 1 74 (dk_at dksX6_who_1 18 rfl rfl)
theorem dX6_who_43 : decode cX6_who 43 = .ok (.if_icmp .gt 48, 3) := dk_163 0 48 (dk_at dksX6_who_1 21 rfl rfl)
theorem dX6_who_46 : decode cX6_who 46 = .ok (.aload_n 0, 1) := dk_42 (dk_at dksX6_who_2 0 rfl rfl)
theorem dX6_who_47 : decode cX6_who 47 = .ok (.iload 4, 2) := dk_21 4 (dk_at dksX6_who_2 1 rfl rfl)
theorem dX6_who_49 : decode cX6_who 49 = .ok (.invokevirtual 355, 3) := dk_182 1 99 (dk_at dksX6_who_2 3 rfl rfl)
theorem dX6_who_52 : decode cX6_who 52 = .ok (.ifCond .ne 6, 3) := dk_154 0 6 (dk_at dksX6_who_2 6 rfl rfl)
theorem dX6_who_55 : decode cX6_who 55 = .ok (.goto 30, 3) := dk_167 0 30 (dk_at dksX6_who_2 9 rfl rfl)
theorem dX6_who_58 : decode cX6_who 58 = .ok (.iinc 2 1, 3) := dk_132 2 1 (dk_at dksX6_who_2 12 rfl rfl)
theorem dX6_who_61 : decode cX6_who 61 = .ok (.iload_n 3, 1) := dk_29 (dk_at dksX6_who_2 15 rfl rfl)
theorem dX6_who_62 : decode cX6_who 62 = .ok (.iconst (-1), 1) := dk_2 (dk_at dksX6_who_2 16 rfl rfl)
theorem dX6_who_63 : decode cX6_who 63 = .ok (.if_icmp .eq 15, 3) := dk_159 0 15 (dk_at dksX6_who_2 17 rfl rfl)
theorem dX6_who_66 : decode cX6_who 66 = .ok (.iload 4, 2) := dk_21 4 (dk_at dksX6_who_2 20 rfl rfl)
theorem dX6_who_68 : decode cX6_who 68 = .ok (.invokestatic 333, 3) := dk_184 1 77 (dk_at dksX6_who_3 0 rfl rfl)
theorem dX6_who_71 : decode cX6_who 71 = .ok (.iload_n 3, 1) := dk_29 (dk_at dksX6_who_3 3 rfl rfl)
theorem dX6_who_72 : decode cX6_who 72 = .ok (.invokestatic 333, 3) := dk_184 1 77 (dk_at dksX6_who_3 4 rfl rfl)
theorem dX6_who_75 : decode cX6_who 75 = .ok (.if_icmp .ge 8, 3) := dk_162 0 8 (dk_at dksX6_who_3 7 rfl rfl)
theorem dX6_who_78 : decode cX6_who 78 = .ok (.iload 4, 2) := dk_21 4 (dk_at dksX6_who_3 10 rfl rfl)
theorem dX6_who_80 : decode cX6_who 80 = .ok (.goto 4, 3) := dk_167 0 4 (dk_at dksX6_who_3 12 rfl rfl)
theorem dX6_who_83 : decode cX6_who 83 = .ok (.iload_n 3, 1) := dk_29 (dk_at dksX6_who_3 15 rfl rfl)
theorem dX6_who_84 : decode cX6_who 84 = .ok (.istore_n 3, 1) := dk_62 (dk_at dksX6_who_3 16 rfl rfl)
theorem dX6_who_85 : decode cX6_who 85 = .ok (.iinc 4 1, 3) := dk_132 4 1 (dk_at dksX6_who_3 17 rfl rfl)
theorem dX6_who_88 : decode cX6_who 88 = .ok (.goto (-51), 3) := dk_167 255 205 (dk_at dksX6_who_3 20 rfl rfl)
theorem dX6_who_91 : decode cX6_who 91 = .ok (.iload_n 1, 1) := dk_27 (dk_at dksX6_who_3 23 rfl rfl)
theorem dX6_who_92 : decode cX6_who 92 = .ok (.ifCond .ne 7, 3) := dk_154 0 7 (dk_at dksX6_who_4 0 rfl rfl)
theorem dX6_who_95 : decode cX6_who 95 = .ok (.iload_n 2, 1) := dk_28 (dk_at dksX6_who_4 3 rfl rfl)
theorem dX6_who_96 : decode cX6_who 96 = .ok (.goto 4, 3) := dk_167 0 4 (dk_at dksX6_who_4 4 rfl rfl)
theorem dX6_who_99 : decode cX6_who 99 = .ok (.iload_n 3, 1) := dk_29 (dk_at dksX6_who_4 7 rfl rfl)
theorem dX6_who_100 : decode cX6_who 100 = .ok (.ireturn, 1) := dk_172 (dk_at dksX6_who_4 8 rfl rfl)
abbrev cX6_isHeard : ByteArray := prog_34_method_84_code
def yX6_isHeard : MethodName := ⟨RX6, "isHeard", "(I)Z"⟩
def dkwX6_isHeard_3 : List UInt8 := [132, 2, 1, 167, 255, 217, 4, 172]
abbrev dktX6_isHeard_3 : List UInt8 := dkwX6_isHeard_3 ++ []
def dkwX6_isHeard_2 : List UInt8 := [180, 0, 52, 28, 50, 3, 46, 122, 4, 126, 42, 180, 0, 52, 28, 50, 4, 46, 159, 0, 5, 3, 172]
abbrev dktX6_isHeard_2 : List UInt8 := dkwX6_isHeard_2 ++ dktX6_isHeard_3
def dkwX6_isHeard_1 : List UInt8 := [42, 180, 0, 70, 182, 1, 24, 3, 61, 28, 42, 180, 0, 195, 162, 0, 37, 42, 180, 1, 17, 42]
abbrev dktX6_isHeard_1 : List UInt8 := dkwX6_isHeard_1 ++ dktX6_isHeard_2
def dkwX6_isHeard_0 : List UInt8 := [42, 180, 0, 67, 42, 180, 0, 70, 184, 1, 54, 42, 42, 182, 1, 74, 27, 2, 130, 126, 182, 1, 83, 42]
abbrev dktX6_isHeard_0 : List UInt8 := dkwX6_isHeard_0 ++ dktX6_isHeard_1
theorem dksX6_isHeard_0 : cX6_isHeard.data.toList.drop 0 = dktX6_isHeard_0 := by decide +kernel
theorem dksX6_isHeard_1 : cX6_isHeard.data.toList.drop 24 = dktX6_isHeard_1 := dk_seg dksX6_isHeard_0 24 rfl rfl
theorem dksX6_isHeard_2 : cX6_isHeard.data.toList.drop 46 = dktX6_isHeard_2 := dk_seg dksX6_isHeard_1 22 rfl rfl
theorem dksX6_isHeard_3 : cX6_isHeard.data.toList.drop 69 = dktX6_isHeard_3 := dk_seg dksX6_isHeard_2 23 rfl rfl
theorem dX6_isHeard_0 : decode cX6_isHeard 0 = .ok (.aload_n 0, 1) := dk_42 (dk_at dksX6_isHeard_0 0 rfl rfl)
theorem dX6_isHeard_1 : decode cX6_isHeard 1 = .ok (.getfield 67, 3) := dk_180 0 67 (dk_at dksX6_isHeard_0 1 rfl rfl)
theorem dX6_isHeard_4 : decode cX6_isHeard 4 = .ok (.aload_n 0, 1) := dk_42 (dk_at dksX6_isHeard_0 4 rfl rfl)
theorem dX6_isHeard_5 : decode cX6_isHeard 5 = .ok (.getfield 70, 3) := dk_180 0 70 (dk_at dksX6_isHeard_0 5 rfl rfl)
theorem dX6_isHeard_8 : decode cX6_isHeard 8 = .ok (.invokestatic 310, 3) := dk_184 1 54 (dk_at dksX6_isHeard_0 8 rfl rfl)
theorem dX6_isHeard_11 : decode cX6_isHeard 11 = .ok (.aload_n 0, 1) := dk_42 (dk_at dksX6_isHeard_0 11 rfl rfl)
theorem dX6_isHeard_12 : decode cX6_isHeard 12 = .ok (.aload_n 0, 1) := dk_42 (dk_at dksX6_isHeard_0 12 rfl rfl)
theorem dX6_isHeard_13 : decode cX6_isHeard 13 = .ok (.invokevirtual 330, 3) := dk_182 1 74 (dk_at dksX6_isHeard_0 13 rfl rfl)
theorem dX6_isHeard_16 : decode cX6_isHeard 16 = .ok (.iload_n 1, 1) := dk_27 (dk_at dksX6_isHeard_0 16 rfl rfl)
theorem dX6_isHeard_17 : decode cX6_isHeard 17 = .ok (.iconst (-1), 1) := dk_2 (dk_at dksX6_isHeard_0 17 rfl rfl)
theorem dX6_isHeard_18 : decode cX6_isHeard 18 = .ok (.ixor, 1) := dk_130 (dk_at dksX6_isHeard_0 18 rfl rfl)
theorem dX6_isHeard_19 : decode cX6_isHeard 19 = .ok (.iand, 1) := dk_126 (dk_at dksX6_isHeard_0 19 rfl rfl)
theorem dX6_isHeard_20 : decode cX6_isHeard 20 = .ok (.invokevirtual 339, 3) := dk_182 1 83 (dk_at dksX6_isHeard_0 20 rfl rfl)
theorem dX6_isHeard_23 : decode cX6_isHeard 23 = .ok (.aload_n 0, 1) := dk_42 (dk_at dksX6_isHeard_0 23 rfl rfl)
theorem dX6_isHeard_24 : decode cX6_isHeard 24 = .ok (.aload_n 0, 1) := dk_42 (dk_at dksX6_isHeard_1 0 rfl rfl)
theorem dX6_isHeard_25 : decode cX6_isHeard 25 = .ok (.getfield 70, 3) := dk_180 0 70 (dk_at dksX6_isHeard_1 1 rfl rfl)
theorem dX6_isHeard_28 : decode cX6_isHeard 28 = .ok (.invokevirtual 280, 3) := dk_182 1 24 (dk_at dksX6_isHeard_1 4 rfl rfl)
theorem dX6_isHeard_31 : decode cX6_isHeard 31 = .ok (.iconst 0, 1) := dk_3 (dk_at dksX6_isHeard_1 7 rfl rfl)
theorem dX6_isHeard_32 : decode cX6_isHeard 32 = .ok (.istore_n 2, 1) := dk_61 (dk_at dksX6_isHeard_1 8 rfl rfl)
theorem dX6_isHeard_33 : decode cX6_isHeard 33 = .ok (.iload_n 2, 1) := dk_28 (dk_at dksX6_isHeard_1 9 rfl rfl)
theorem dX6_isHeard_34 : decode cX6_isHeard 34 = .ok (.aload_n 0, 1) := dk_42 (dk_at dksX6_isHeard_1 10 rfl rfl)
theorem dX6_isHeard_35 : decode cX6_isHeard 35 = .ok (.getfield 195, 3) := dk_180 0 195 (dk_at dksX6_isHeard_1 11 rfl rfl)
theorem dX6_isHeard_38 : decode cX6_isHeard 38 = .ok (.if_icmp .ge 37, 3) := dk_162 0 37 (dk_at dksX6_isHeard_1 14 rfl rfl)
theorem dX6_isHeard_41 : decode cX6_isHeard 41 = .ok (.aload_n 0, 1) := dk_42 (dk_at dksX6_isHeard_1 17 rfl rfl)
theorem dX6_isHeard_42 : decode cX6_isHeard 42 = .ok (.getfield 273, 3) := dk_180 1 17 (dk_at dksX6_isHeard_1 18 rfl rfl)
theorem dX6_isHeard_45 : decode cX6_isHeard 45 = .ok (.aload_n 0, 1) := dk_42 (dk_at dksX6_isHeard_1 21 rfl rfl)
theorem dX6_isHeard_46 : decode cX6_isHeard 46 = .ok (.getfield 52, 3) := dk_180 0 52 (dk_at dksX6_isHeard_2 0 rfl rfl)
theorem dX6_isHeard_49 : decode cX6_isHeard 49 = .ok (.iload_n 2, 1) := dk_28 (dk_at dksX6_isHeard_2 3 rfl rfl)
theorem dX6_isHeard_50 : decode cX6_isHeard 50 = .ok (.aaload, 1) := dk_50 (dk_at dksX6_isHeard_2 4 rfl rfl)
theorem dX6_isHeard_51 : decode cX6_isHeard 51 = .ok (.iconst 0, 1) := dk_3 (dk_at dksX6_isHeard_2 5 rfl rfl)
theorem dX6_isHeard_52 : decode cX6_isHeard 52 = .ok (.iaload, 1) := dk_46 (dk_at dksX6_isHeard_2 6 rfl rfl)
theorem dX6_isHeard_53 : decode cX6_isHeard 53 = .ok (.ishr, 1) := dk_122 (dk_at dksX6_isHeard_2 7 rfl rfl)
theorem dX6_isHeard_54 : decode cX6_isHeard 54 = .ok (.iconst 1, 1) := dk_4 (dk_at dksX6_isHeard_2 8 rfl rfl)
theorem dX6_isHeard_55 : decode cX6_isHeard 55 = .ok (.iand, 1) := dk_126 (dk_at dksX6_isHeard_2 9 rfl rfl)
theorem dX6_isHeard_56 : decode cX6_isHeard 56 = .ok (.aload_n 0, 1) := dk_42 (dk_at dksX6_isHeard_2 10 rfl rfl)
theorem dX6_isHeard_57 : decode cX6_isHeard 57 = .ok (.getfield 52, 3) := dk_180 0 52 (dk_at dksX6_isHeard_2 11 rfl rfl)
theorem dX6_isHeard_60 : decode cX6_isHeard 60 = .ok (.iload_n 2, 1) := dk_28 (dk_at dksX6_isHeard_2 14 rfl rfl)
theorem dX6_isHeard_61 : decode cX6_isHeard 61 = .ok (.aaload, 1) := dk_50 (dk_at dksX6_isHeard_2 15 rfl rfl)
theorem dX6_isHeard_62 : decode cX6_isHeard 62 = .ok (.iconst 1, 1) := dk_4 (dk_at dksX6_isHeard_2 16 rfl rfl)
theorem dX6_isHeard_63 : decode cX6_isHeard 63 = .ok (.iaload, 1) := dk_46 (dk_at dksX6_isHeard_2 17 rfl rfl)
theorem dX6_isHeard_64 : decode cX6_isHeard 64 = .ok (.if_icmp .eq 5, 3) := dk_159 0 5 (dk_at dksX6_isHeard_2 18 rfl rfl)
theorem dX6_isHeard_67 : decode cX6_isHeard 67 = .ok (.iconst 0, 1) := dk_3 (dk_at dksX6_isHeard_2 21 rfl rfl)
theorem dX6_isHeard_68 : decode cX6_isHeard 68 = .ok (.ireturn, 1) := dk_172 (dk_at dksX6_isHeard_2 22 rfl rfl)
theorem dX6_isHeard_69 : decode cX6_isHeard 69 = .ok (.iinc 2 1, 3) := dk_132 2 1 (dk_at dksX6_isHeard_3 0 rfl rfl)
theorem dX6_isHeard_72 : decode cX6_isHeard 72 = .ok (.goto (-39), 3) := dk_167 255 217 (dk_at dksX6_isHeard_3 3 rfl rfl)
theorem dX6_isHeard_75 : decode cX6_isHeard 75 = .ok (.iconst 1, 1) := dk_4 (dk_at dksX6_isHeard_3 6 rfl rfl)
theorem dX6_isHeard_76 : decode cX6_isHeard 76 = .ok (.ireturn, 1) := dk_172 (dk_at dksX6_isHeard_3 7 rfl rfl)
abbrev cX6_listen : ByteArray := prog_34_method_88_code
def yX6_listen : MethodName := ⟨RX6, "listen", "(I)I"⟩
def dkwX6_listen_4 : List UInt8 := [167, 255, 202, 27, 154, 0, 7, 28, 167, 0, 4, 29, 172]
abbrev dktX6_listen_4 : List UInt8 := dkwX6_listen_4 ++ []
def dkwX6_listen_3 : List UInt8 := [2, 159, 0, 12, 21, 5, 29, 161, 0, 6, 167, 0, 9, 21, 4, 61, 21, 5, 62, 132, 4, 1]
abbrev dktX6_listen_3 : List UInt8 := dkwX6_listen_3 ++ dktX6_listen_4
def dkwX6_listen_2 : List UInt8 := [162, 0, 49, 42, 21, 4, 182, 1, 102, 153, 0, 6, 167, 0, 31, 42, 21, 4, 182, 1, 105, 54, 5, 28]
abbrev dktX6_listen_2 : List UInt8 := dkwX6_listen_2 ++ dktX6_listen_3
def dkwX6_listen_1 : List UInt8 := [182, 0, 171, 153, 0, 5, 3, 172, 2, 61, 2, 62, 3, 54, 4, 21, 4, 42, 180, 0, 23, 4, 46]
abbrev dktX6_listen_1 : List UInt8 := dkwX6_listen_1 ++ dktX6_listen_2
def dkwX6_listen_0 : List UInt8 := [42, 3, 181, 0, 95, 42, 27, 3, 4, 184, 0, 129, 154, 0, 7, 4, 167, 0, 4, 3, 4, 4]
abbrev dktX6_listen_0 : List UInt8 := dkwX6_listen_0 ++ dktX6_listen_1
theorem dksX6_listen_0 : cX6_listen.data.toList.drop 0 = dktX6_listen_0 := by decide +kernel
theorem dksX6_listen_1 : cX6_listen.data.toList.drop 22 = dktX6_listen_1 := dk_seg dksX6_listen_0 22 rfl rfl
theorem dksX6_listen_2 : cX6_listen.data.toList.drop 45 = dktX6_listen_2 := dk_seg dksX6_listen_1 23 rfl rfl
theorem dksX6_listen_3 : cX6_listen.data.toList.drop 69 = dktX6_listen_3 := dk_seg dksX6_listen_2 24 rfl rfl
theorem dksX6_listen_4 : cX6_listen.data.toList.drop 91 = dktX6_listen_4 := dk_seg dksX6_listen_3 22 rfl rfl
theorem dX6_listen_0 : decode cX6_listen 0 = .ok (.aload_n 0, 1) := dk_42 (dk_at dksX6_listen_0 0 rfl rfl)
theorem dX6_listen_1 : decode cX6_listen 1 = .ok (.iconst 0, 1) := dk_3 (dk_at dksX6_listen_0 1 rfl rfl)
theorem dX6_listen_2 : decode cX6_listen 2 = .ok (.putfield 95, 3) := dk_181 0 95 (dk_at dksX6_listen_0 2 rfl rfl)
theorem dX6_listen_5 : decode cX6_listen 5 = .ok (.aload_n 0, 1) := dk_42 (dk_at dksX6_listen_0 5 rfl rfl)
theorem dX6_listen_6 : decode cX6_listen 6 = .ok (.iload_n 1, 1) := dk_27 (dk_at dksX6_listen_0 6 rfl rfl)
theorem dX6_listen_7 : decode cX6_listen 7 = .ok (.iconst 0, 1) := dk_3 (dk_at dksX6_listen_0 7 rfl rfl)
theorem dX6_listen_8 : decode cX6_listen 8 = .ok (.iconst 1, 1) := dk_4 (dk_at dksX6_listen_0 8 rfl rfl)
theorem dX6_listen_9 : decode cX6_listen 9 = .ok (.invokestatic 129, 3) := dk_184 0 129 (dk_at dksX6_listen_0 9 rfl rfl)
theorem dX6_listen_12 : decode cX6_listen 12 = .ok (.ifCond .ne 7, 3) := dk_154 0 7 (dk_at dksX6_listen_0 12 rfl rfl)
theorem dX6_listen_15 : decode cX6_listen 15 = .ok (.iconst 1, 1) := dk_4 (dk_at dksX6_listen_0 15 rfl rfl)
theorem dX6_listen_16 : decode cX6_listen 16 = .ok (.goto 4, 3) := dk_167 0 4 (dk_at dksX6_listen_0 16 rfl rfl)
theorem dX6_listen_19 : decode cX6_listen 19 = .ok (.iconst 0, 1) := dk_3 (dk_at dksX6_listen_0 19 rfl rfl)
theorem dX6_listen_20 : decode cX6_listen 20 = .ok (.iconst 1, 1) := dk_4 (dk_at dksX6_listen_0 20 rfl rfl)
theorem dX6_listen_21 : decode cX6_listen 21 = .ok (.iconst 1, 1) := dk_4 (dk_at dksX6_listen_0 21 rfl rfl)
theorem dX6_listen_22 : decode cX6_listen 22 = .ok (.invokevirtual 171, 3) := dk_182 0 171 (dk_at dksX6_listen_1 0 rfl rfl)
theorem dX6_listen_25 : decode cX6_listen 25 = .ok (.ifCond .eq 5, 3) := dk_153 0 5 (dk_at dksX6_listen_1 3 rfl rfl)
theorem dX6_listen_28 : decode cX6_listen 28 = .ok (.iconst 0, 1) := dk_3 (dk_at dksX6_listen_1 6 rfl rfl)
theorem dX6_listen_29 : decode cX6_listen 29 = .ok (.ireturn, 1) := dk_172 (dk_at dksX6_listen_1 7 rfl rfl)
theorem dX6_listen_30 : decode cX6_listen 30 = .ok (.iconst (-1), 1) := dk_2 (dk_at dksX6_listen_1 8 rfl rfl)
theorem dX6_listen_31 : decode cX6_listen 31 = .ok (.istore_n 2, 1) := dk_61 (dk_at dksX6_listen_1 9 rfl rfl)
theorem dX6_listen_32 : decode cX6_listen 32 = .ok (.iconst (-1), 1) := dk_2 (dk_at dksX6_listen_1 10 rfl rfl)
theorem dX6_listen_33 : decode cX6_listen 33 = .ok (.istore_n 3, 1) := dk_62 (dk_at dksX6_listen_1 11 rfl rfl)
theorem dX6_listen_34 : decode cX6_listen 34 = .ok (.iconst 0, 1) := dk_3 (dk_at dksX6_listen_1 12 rfl rfl)
theorem dX6_listen_35 : decode cX6_listen 35 = .ok (.istore 4, 2) := dk_54 4 (dk_at dksX6_listen_1 13 rfl rfl)
theorem dX6_listen_37 : decode cX6_listen 37 = .ok (.iload 4, 2) := dk_21 4 (dk_at dksX6_listen_1 15 rfl rfl)
theorem dX6_listen_39 : decode cX6_listen 39 = .ok (.aload_n 0, 1) := dk_42 (dk_at dksX6_listen_1 17 rfl rfl)
theorem dX6_listen_40 : decode cX6_listen 40 = .ok (.getfield 23, 3) := dk_180 0 23 (dk_at dksX6_listen_1 18 rfl rfl)
theorem dX6_listen_43 : decode cX6_listen 43 = .ok (.iconst 1, 1) := dk_4 (dk_at dksX6_listen_1 21 rfl rfl)
theorem dX6_listen_44 : decode cX6_listen 44 = .ok (.iaload, 1) := dk_46 (dk_at dksX6_listen_1 22 rfl rfl)
theorem dX6_listen_45 : decode cX6_listen 45 = .ok (.if_icmp .ge 49, 3) := dk_162 0 49 (dk_at dksX6_listen_2 0 rfl rfl)
theorem dX6_listen_48 : decode cX6_listen 48 = .ok (.aload_n 0, 1) := dk_42 (dk_at dksX6_listen_2 3 rfl rfl)
theorem dX6_listen_49 : decode cX6_listen 49 = .ok (.iload 4, 2) := dk_21 4 (dk_at dksX6_listen_2 4 rfl rfl)
theorem dX6_listen_51 : decode cX6_listen 51 = .ok (.invokevirtual 358, 3) := dk_182 1 102 (dk_at dksX6_listen_2 6 rfl rfl)
theorem dX6_listen_54 : decode cX6_listen 54 = .ok (.ifCond .eq 6, 3) := dk_153 0 6 (dk_at dksX6_listen_2 9 rfl rfl)
theorem dX6_listen_57 : decode cX6_listen 57 = .ok (.goto 31, 3) := dk_167 0 31 (dk_at dksX6_listen_2 12 rfl rfl)
theorem dX6_listen_60 : decode cX6_listen 60 = .ok (.aload_n 0, 1) := dk_42 (dk_at dksX6_listen_2 15 rfl rfl)
theorem dX6_listen_61 : decode cX6_listen 61 = .ok (.iload 4, 2) := dk_21 4 (dk_at dksX6_listen_2 16 rfl rfl)
theorem dX6_listen_63 : decode cX6_listen 63 = .ok (.invokevirtual 361, 3) := dk_182 1 105 (dk_at dksX6_listen_2 18 rfl rfl)
theorem dX6_listen_66 : decode cX6_listen 66 = .ok (.istore 5, 2) := dk_54 5 (dk_at dksX6_listen_2 21 rfl rfl)
theorem dX6_listen_68 : decode cX6_listen 68 = .ok (.iload_n 2, 1) := dk_28 (dk_at dksX6_listen_2 23 rfl rfl)
theorem dX6_listen_69 : decode cX6_listen 69 = .ok (.iconst (-1), 1) := dk_2 (dk_at dksX6_listen_3 0 rfl rfl)
theorem dX6_listen_70 : decode cX6_listen 70 = .ok (.if_icmp .eq 12, 3) := dk_159 0 12 (dk_at dksX6_listen_3 1 rfl rfl)
theorem dX6_listen_73 : decode cX6_listen 73 = .ok (.iload 5, 2) := dk_21 5 (dk_at dksX6_listen_3 4 rfl rfl)
theorem dX6_listen_75 : decode cX6_listen 75 = .ok (.iload_n 3, 1) := dk_29 (dk_at dksX6_listen_3 6 rfl rfl)
theorem dX6_listen_76 : decode cX6_listen 76 = .ok (.if_icmp .lt 6, 3) := dk_161 0 6 (dk_at dksX6_listen_3 7 rfl rfl)
theorem dX6_listen_79 : decode cX6_listen 79 = .ok (.goto 9, 3) := dk_167 0 9 (dk_at dksX6_listen_3 10 rfl rfl)
theorem dX6_listen_82 : decode cX6_listen 82 = .ok (.iload 4, 2) := dk_21 4 (dk_at dksX6_listen_3 13 rfl rfl)
theorem dX6_listen_84 : decode cX6_listen 84 = .ok (.istore_n 2, 1) := dk_61 (dk_at dksX6_listen_3 15 rfl rfl)
theorem dX6_listen_85 : decode cX6_listen 85 = .ok (.iload 5, 2) := dk_21 5 (dk_at dksX6_listen_3 16 rfl rfl)
theorem dX6_listen_87 : decode cX6_listen 87 = .ok (.istore_n 3, 1) := dk_62 (dk_at dksX6_listen_3 18 rfl rfl)
theorem dX6_listen_88 : decode cX6_listen 88 = .ok (.iinc 4 1, 3) := dk_132 4 1 (dk_at dksX6_listen_3 19 rfl rfl)
theorem dX6_listen_91 : decode cX6_listen 91 = .ok (.goto (-54), 3) := dk_167 255 202 (dk_at dksX6_listen_4 0 rfl rfl)
theorem dX6_listen_94 : decode cX6_listen 94 = .ok (.iload_n 1, 1) := dk_27 (dk_at dksX6_listen_4 3 rfl rfl)
theorem dX6_listen_95 : decode cX6_listen 95 = .ok (.ifCond .ne 7, 3) := dk_154 0 7 (dk_at dksX6_listen_4 4 rfl rfl)
theorem dX6_listen_98 : decode cX6_listen 98 = .ok (.iload_n 2, 1) := dk_28 (dk_at dksX6_listen_4 7 rfl rfl)
theorem dX6_listen_99 : decode cX6_listen 99 = .ok (.goto 4, 3) := dk_167 0 4 (dk_at dksX6_listen_4 8 rfl rfl)
theorem dX6_listen_102 : decode cX6_listen 102 = .ok (.iload_n 3, 1) := dk_29 (dk_at dksX6_listen_4 11 rfl rfl)
theorem dX6_listen_103 : decode cX6_listen 103 = .ok (.ireturn, 1) := dk_172 (dk_at dksX6_listen_4 12 rfl rfl)
abbrev cX6_isTold : ByteArray := prog_34_method_86_code
def yX6_isTold : MethodName := ⟨RX6, "isTold", "(I)Z"⟩
def dkwX6_isTold_1 : List UInt8 := [132, 2, 1, 167, 255, 231, 3, 172]
abbrev dktX6_isTold_1 : List UInt8 := dkwX6_isTold_1 ++ []
def dkwX6_isTold_0 : List UInt8 := [3, 61, 28, 42, 180, 0, 195, 162, 0, 23, 42, 180, 0, 52, 28, 50, 3, 46, 27, 160, 0, 5, 4, 172]
abbrev dktX6_isTold_0 : List UInt8 := dkwX6_isTold_0 ++ dktX6_isTold_1
theorem dksX6_isTold_0 : cX6_isTold.data.toList.drop 0 = dktX6_isTold_0 := by decide +kernel
theorem dksX6_isTold_1 : cX6_isTold.data.toList.drop 24 = dktX6_isTold_1 := dk_seg dksX6_isTold_0 24 rfl rfl
theorem dX6_isTold_0 : decode cX6_isTold 0 = .ok (.iconst 0, 1) := dk_3 (dk_at dksX6_isTold_0 0 rfl rfl)
theorem dX6_isTold_1 : decode cX6_isTold 1 = .ok (.istore_n 2, 1) := dk_61 (dk_at dksX6_isTold_0 1 rfl rfl)
theorem dX6_isTold_2 : decode cX6_isTold 2 = .ok (.iload_n 2, 1) := dk_28 (dk_at dksX6_isTold_0 2 rfl rfl)
theorem dX6_isTold_3 : decode cX6_isTold 3 = .ok (.aload_n 0, 1) := dk_42 (dk_at dksX6_isTold_0 3 rfl rfl)
theorem dX6_isTold_4 : decode cX6_isTold 4 = .ok (.getfield 195, 3) := dk_180 0 195 (dk_at dksX6_isTold_0 4 rfl rfl)
theorem dX6_isTold_7 : decode cX6_isTold 7 = .ok (.if_icmp .ge 23, 3) := dk_162 0 23 (dk_at dksX6_isTold_0 7 rfl rfl)
theorem dX6_isTold_10 : decode cX6_isTold 10 = .ok (.aload_n 0, 1) := dk_42 (dk_at dksX6_isTold_0 10 rfl rfl)
theorem dX6_isTold_11 : decode cX6_isTold 11 = .ok (.getfield 52, 3) := dk_180 0 52 (dk_at dksX6_isTold_0 11 rfl rfl)
theorem dX6_isTold_14 : decode cX6_isTold 14 = .ok (.iload_n 2, 1) := dk_28 (dk_at dksX6_isTold_0 14 rfl rfl)
theorem dX6_isTold_15 : decode cX6_isTold 15 = .ok (.aaload, 1) := dk_50 (dk_at dksX6_isTold_0 15 rfl rfl)
theorem dX6_isTold_16 : decode cX6_isTold 16 = .ok (.iconst 0, 1) := dk_3 (dk_at dksX6_isTold_0 16 rfl rfl)
theorem dX6_isTold_17 : decode cX6_isTold 17 = .ok (.iaload, 1) := dk_46 (dk_at dksX6_isTold_0 17 rfl rfl)
theorem dX6_isTold_18 : decode cX6_isTold 18 = .ok (.iload_n 1, 1) := dk_27 (dk_at dksX6_isTold_0 18 rfl rfl)
theorem dX6_isTold_19 : decode cX6_isTold 19 = .ok (.if_icmp .ne 5, 3) := dk_160 0 5 (dk_at dksX6_isTold_0 19 rfl rfl)
theorem dX6_isTold_22 : decode cX6_isTold 22 = .ok (.iconst 1, 1) := dk_4 (dk_at dksX6_isTold_0 22 rfl rfl)
theorem dX6_isTold_23 : decode cX6_isTold 23 = .ok (.ireturn, 1) := dk_172 (dk_at dksX6_isTold_0 23 rfl rfl)
theorem dX6_isTold_24 : decode cX6_isTold 24 = .ok (.iinc 2 1, 3) := dk_132 2 1 (dk_at dksX6_isTold_1 0 rfl rfl)
theorem dX6_isTold_27 : decode cX6_isTold 27 = .ok (.goto (-25), 3) := dk_167 255 231 (dk_at dksX6_isTold_1 3 rfl rfl)
theorem dX6_isTold_30 : decode cX6_isTold 30 = .ok (.iconst 0, 1) := dk_3 (dk_at dksX6_isTold_1 6 rfl rfl)
theorem dX6_isTold_31 : decode cX6_isTold 31 = .ok (.ireturn, 1) := dk_172 (dk_at dksX6_isTold_1 7 rfl rfl)
abbrev cX6_worstOf : ByteArray := prog_34_method_87_code
def yX6_worstOf : MethodName := ⟨RX6, "worstOf", "(I)I"⟩
def dkwX6_worstOf_2 : List UInt8 := [167, 255, 218, 28, 29, 28, 100, 184, 0, 238, 172]
abbrev dktX6_worstOf_2 : List UInt8 := dkwX6_worstOf_2 ++ []
def dkwX6_worstOf_1 : List UInt8 := [154, 0, 6, 167, 0, 17, 132, 3, 1, 28, 42, 180, 1, 17, 27, 122, 4, 126, 96, 61, 132, 4, 1]
abbrev dktX6_worstOf_1 : List UInt8 := dkwX6_worstOf_1 ++ dktX6_worstOf_2
def dkwX6_worstOf_0 : List UInt8 := [3, 61, 3, 62, 3, 54, 4, 21, 4, 42, 182, 1, 74, 163, 0, 35, 42, 21, 4, 182, 1, 99]
abbrev dktX6_worstOf_0 : List UInt8 := dkwX6_worstOf_0 ++ dktX6_worstOf_1
theorem dksX6_worstOf_0 : cX6_worstOf.data.toList.drop 0 = dktX6_worstOf_0 := by decide +kernel
theorem dksX6_worstOf_1 : cX6_worstOf.data.toList.drop 22 = dktX6_worstOf_1 := dk_seg dksX6_worstOf_0 22 rfl rfl
theorem dksX6_worstOf_2 : cX6_worstOf.data.toList.drop 45 = dktX6_worstOf_2 := dk_seg dksX6_worstOf_1 23 rfl rfl
theorem dX6_worstOf_0 : decode cX6_worstOf 0 = .ok (.iconst 0, 1) := dk_3 (dk_at dksX6_worstOf_0 0 rfl rfl)
theorem dX6_worstOf_1 : decode cX6_worstOf 1 = .ok (.istore_n 2, 1) := dk_61 (dk_at dksX6_worstOf_0 1 rfl rfl)
theorem dX6_worstOf_2 : decode cX6_worstOf 2 = .ok (.iconst 0, 1) := dk_3 (dk_at dksX6_worstOf_0 2 rfl rfl)
theorem dX6_worstOf_3 : decode cX6_worstOf 3 = .ok (.istore_n 3, 1) := dk_62 (dk_at dksX6_worstOf_0 3 rfl rfl)
theorem dX6_worstOf_4 : decode cX6_worstOf 4 = .ok (.iconst 0, 1) := dk_3 (dk_at dksX6_worstOf_0 4 rfl rfl)
theorem dX6_worstOf_5 : decode cX6_worstOf 5 = .ok (.istore 4, 2) := dk_54 4 (dk_at dksX6_worstOf_0 5 rfl rfl)
theorem dX6_worstOf_7 : decode cX6_worstOf 7 = .ok (.iload 4, 2) := dk_21 4 (dk_at dksX6_worstOf_0 7 rfl rfl)
theorem dX6_worstOf_9 : decode cX6_worstOf 9 = .ok (.aload_n 0, 1) := dk_42 (dk_at dksX6_worstOf_0 9 rfl rfl)
theorem dX6_worstOf_10 : decode cX6_worstOf 10 = .ok (.invokevirtual 330, 3) := dk_182 1 74 (dk_at dksX6_worstOf_0 10 rfl rfl)
theorem dX6_worstOf_13 : decode cX6_worstOf 13 = .ok (.if_icmp .gt 35, 3) := dk_163 0 35 (dk_at dksX6_worstOf_0 13 rfl rfl)
theorem dX6_worstOf_16 : decode cX6_worstOf 16 = .ok (.aload_n 0, 1) := dk_42 (dk_at dksX6_worstOf_0 16 rfl rfl)
theorem dX6_worstOf_17 : decode cX6_worstOf 17 = .ok (.iload 4, 2) := dk_21 4 (dk_at dksX6_worstOf_0 17 rfl rfl)
theorem dX6_worstOf_19 : decode cX6_worstOf 19 = .ok (.invokevirtual 355, 3) := dk_182 1 99 (dk_at dksX6_worstOf_0 19 rfl rfl)
theorem dX6_worstOf_22 : decode cX6_worstOf 22 = .ok (.ifCond .ne 6, 3) := dk_154 0 6 (dk_at dksX6_worstOf_1 0 rfl rfl)
theorem dX6_worstOf_25 : decode cX6_worstOf 25 = .ok (.goto 17, 3) := dk_167 0 17 (dk_at dksX6_worstOf_1 3 rfl rfl)
theorem dX6_worstOf_28 : decode cX6_worstOf 28 = .ok (.iinc 3 1, 3) := dk_132 3 1 (dk_at dksX6_worstOf_1 6 rfl rfl)
theorem dX6_worstOf_31 : decode cX6_worstOf 31 = .ok (.iload_n 2, 1) := dk_28 (dk_at dksX6_worstOf_1 9 rfl rfl)
theorem dX6_worstOf_32 : decode cX6_worstOf 32 = .ok (.aload_n 0, 1) := dk_42 (dk_at dksX6_worstOf_1 10 rfl rfl)
theorem dX6_worstOf_33 : decode cX6_worstOf 33 = .ok (.getfield 273, 3) := dk_180 1 17 (dk_at dksX6_worstOf_1 11 rfl rfl)
theorem dX6_worstOf_36 : decode cX6_worstOf 36 = .ok (.iload_n 1, 1) := dk_27 (dk_at dksX6_worstOf_1 14 rfl rfl)
theorem dX6_worstOf_37 : decode cX6_worstOf 37 = .ok (.ishr, 1) := dk_122 (dk_at dksX6_worstOf_1 15 rfl rfl)
theorem dX6_worstOf_38 : decode cX6_worstOf 38 = .ok (.iconst 1, 1) := dk_4 (dk_at dksX6_worstOf_1 16 rfl rfl)
theorem dX6_worstOf_39 : decode cX6_worstOf 39 = .ok (.iand, 1) := dk_126 (dk_at dksX6_worstOf_1 17 rfl rfl)
theorem dX6_worstOf_40 : decode cX6_worstOf 40 = .ok (.iadd, 1) := dk_96 (dk_at dksX6_worstOf_1 18 rfl rfl)
theorem dX6_worstOf_41 : decode cX6_worstOf 41 = .ok (.istore_n 2, 1) := dk_61 (dk_at dksX6_worstOf_1 19 rfl rfl)
theorem dX6_worstOf_42 : decode cX6_worstOf 42 = .ok (.iinc 4 1, 3) := dk_132 4 1 (dk_at dksX6_worstOf_1 20 rfl rfl)
theorem dX6_worstOf_45 : decode cX6_worstOf 45 = .ok (.goto (-38), 3) := dk_167 255 218 (dk_at dksX6_worstOf_2 0 rfl rfl)
theorem dX6_worstOf_48 : decode cX6_worstOf 48 = .ok (.iload_n 2, 1) := dk_28 (dk_at dksX6_worstOf_2 3 rfl rfl)
theorem dX6_worstOf_49 : decode cX6_worstOf 49 = .ok (.iload_n 3, 1) := dk_29 (dk_at dksX6_worstOf_2 4 rfl rfl)
theorem dX6_worstOf_50 : decode cX6_worstOf 50 = .ok (.iload_n 2, 1) := dk_28 (dk_at dksX6_worstOf_2 5 rfl rfl)
theorem dX6_worstOf_51 : decode cX6_worstOf 51 = .ok (.isub, 1) := dk_100 (dk_at dksX6_worstOf_2 6 rfl rfl)
theorem dX6_worstOf_52 : decode cX6_worstOf 52 = .ok (.invokestatic 238, 3) := dk_184 0 238 (dk_at dksX6_worstOf_2 7 rfl rfl)
theorem dX6_worstOf_55 : decode cX6_worstOf 55 = .ok (.ireturn, 1) := dk_172 (dk_at dksX6_worstOf_2 10 rfl rfl)
abbrev cX6_duty : ByteArray := prog_34_method_89_code
def yX6_duty : MethodName := ⟨RX6, "duty", "(I)I"⟩
def dkwX6_duty_4 : List UInt8 := [172]
abbrev dktX6_duty_4 : List UInt8 := dkwX6_duty_4 ++ []
def dkwX6_duty_3 : List UInt8 := [120, 167, 0, 4, 3, 128, 61, 42, 42, 180, 0, 70, 29, 182, 1, 20, 87, 132, 3, 1, 167, 255, 210, 28]
abbrev dktX6_duty_3 : List UInt8 := dkwX6_duty_3 ++ dktX6_duty_4
def dkwX6_duty_2 : List UInt8 := [180, 0, 23, 4, 46, 162, 0, 42, 28, 42, 42, 180, 0, 70, 29, 182, 1, 13, 27, 160, 0, 9, 4, 29]
abbrev dktX6_duty_2 : List UInt8 := dkwX6_duty_2 ++ dktX6_duty_3
def dkwX6_duty_1 : List UInt8 := [153, 0, 5, 3, 172, 3, 61, 42, 180, 0, 67, 42, 180, 0, 70, 184, 1, 54, 3, 62, 29, 42]
abbrev dktX6_duty_1 : List UInt8 := dkwX6_duty_1 ++ dktX6_duty_2
def dkwX6_duty_0 : List UInt8 := [42, 3, 181, 0, 95, 42, 42, 27, 182, 1, 65, 154, 0, 7, 4, 167, 0, 4, 3, 4, 3, 182, 0, 171]
abbrev dktX6_duty_0 : List UInt8 := dkwX6_duty_0 ++ dktX6_duty_1
theorem dksX6_duty_0 : cX6_duty.data.toList.drop 0 = dktX6_duty_0 := by decide +kernel
theorem dksX6_duty_1 : cX6_duty.data.toList.drop 24 = dktX6_duty_1 := dk_seg dksX6_duty_0 24 rfl rfl
theorem dksX6_duty_2 : cX6_duty.data.toList.drop 46 = dktX6_duty_2 := dk_seg dksX6_duty_1 22 rfl rfl
theorem dksX6_duty_3 : cX6_duty.data.toList.drop 70 = dktX6_duty_3 := dk_seg dksX6_duty_2 24 rfl rfl
theorem dksX6_duty_4 : cX6_duty.data.toList.drop 94 = dktX6_duty_4 := dk_seg dksX6_duty_3 24 rfl rfl
theorem dX6_duty_0 : decode cX6_duty 0 = .ok (.aload_n 0, 1) := dk_42 (dk_at dksX6_duty_0 0 rfl rfl)
theorem dX6_duty_1 : decode cX6_duty 1 = .ok (.iconst 0, 1) := dk_3 (dk_at dksX6_duty_0 1 rfl rfl)
theorem dX6_duty_2 : decode cX6_duty 2 = .ok (.putfield 95, 3) := dk_181 0 95 (dk_at dksX6_duty_0 2 rfl rfl)
theorem dX6_duty_5 : decode cX6_duty 5 = .ok (.aload_n 0, 1) := dk_42 (dk_at dksX6_duty_0 5 rfl rfl)
theorem dX6_duty_6 : decode cX6_duty 6 = .ok (.aload_n 0, 1) := dk_42 (dk_at dksX6_duty_0 6 rfl rfl)
theorem dX6_duty_7 : decode cX6_duty 7 = .ok (.iload_n 1, 1) := dk_27 (dk_at dksX6_duty_0 7 rfl rfl)
theorem dX6_duty_8 : decode cX6_duty 8 = .ok (.invokevirtual 321, 3) := dk_182 1 65 (dk_at dksX6_duty_0 8 rfl rfl)
theorem dX6_duty_11 : decode cX6_duty 11 = .ok (.ifCond .ne 7, 3) := dk_154 0 7 (dk_at dksX6_duty_0 11 rfl rfl)
theorem dX6_duty_14 : decode cX6_duty 14 = .ok (.iconst 1, 1) := dk_4 (dk_at dksX6_duty_0 14 rfl rfl)
theorem dX6_duty_15 : decode cX6_duty 15 = .ok (.goto 4, 3) := dk_167 0 4 (dk_at dksX6_duty_0 15 rfl rfl)
theorem dX6_duty_18 : decode cX6_duty 18 = .ok (.iconst 0, 1) := dk_3 (dk_at dksX6_duty_0 18 rfl rfl)
theorem dX6_duty_19 : decode cX6_duty 19 = .ok (.iconst 1, 1) := dk_4 (dk_at dksX6_duty_0 19 rfl rfl)
theorem dX6_duty_20 : decode cX6_duty 20 = .ok (.iconst 0, 1) := dk_3 (dk_at dksX6_duty_0 20 rfl rfl)
theorem dX6_duty_21 : decode cX6_duty 21 = .ok (.invokevirtual 171, 3) := dk_182 0 171 (dk_at dksX6_duty_0 21 rfl rfl)
theorem dX6_duty_24 : decode cX6_duty 24 = .ok (.ifCond .eq 5, 3) := dk_153 0 5 (dk_at dksX6_duty_1 0 rfl rfl)
theorem dX6_duty_27 : decode cX6_duty 27 = .ok (.iconst 0, 1) := dk_3 (dk_at dksX6_duty_1 3 rfl rfl)
theorem dX6_duty_28 : decode cX6_duty 28 = .ok (.ireturn, 1) := dk_172 (dk_at dksX6_duty_1 4 rfl rfl)
theorem dX6_duty_29 : decode cX6_duty 29 = .ok (.iconst 0, 1) := dk_3 (dk_at dksX6_duty_1 5 rfl rfl)
theorem dX6_duty_30 : decode cX6_duty 30 = .ok (.istore_n 2, 1) := dk_61 (dk_at dksX6_duty_1 6 rfl rfl)
theorem dX6_duty_31 : decode cX6_duty 31 = .ok (.aload_n 0, 1) := dk_42 (dk_at dksX6_duty_1 7 rfl rfl)
theorem dX6_duty_32 : decode cX6_duty 32 = .ok (.getfield 67, 3) := dk_180 0 67 (dk_at dksX6_duty_1 8 rfl rfl)
theorem dX6_duty_35 : decode cX6_duty 35 = .ok (.aload_n 0, 1) := dk_42 (dk_at dksX6_duty_1 11 rfl rfl)
theorem dX6_duty_36 : decode cX6_duty 36 = .ok (.getfield 70, 3) := dk_180 0 70 (dk_at dksX6_duty_1 12 rfl rfl)
theorem dX6_duty_39 : decode cX6_duty 39 = .ok (.invokestatic 310, 3) := dk_184 1 54 (dk_at dksX6_duty_1 15 rfl rfl)
theorem dX6_duty_42 : decode cX6_duty 42 = .ok (.iconst 0, 1) := dk_3 (dk_at dksX6_duty_1 18 rfl rfl)
theorem dX6_duty_43 : decode cX6_duty 43 = .ok (.istore_n 3, 1) := dk_62 (dk_at dksX6_duty_1 19 rfl rfl)
theorem dX6_duty_44 : decode cX6_duty 44 = .ok (.iload_n 3, 1) := dk_29 (dk_at dksX6_duty_1 20 rfl rfl)
theorem dX6_duty_45 : decode cX6_duty 45 = .ok (.aload_n 0, 1) := dk_42 (dk_at dksX6_duty_1 21 rfl rfl)
theorem dX6_duty_46 : decode cX6_duty 46 = .ok (.getfield 23, 3) := dk_180 0 23 (dk_at dksX6_duty_2 0 rfl rfl)
theorem dX6_duty_49 : decode cX6_duty 49 = .ok (.iconst 1, 1) := dk_4 (dk_at dksX6_duty_2 3 rfl rfl)
theorem dX6_duty_50 : decode cX6_duty 50 = .ok (.iaload, 1) := dk_46 (dk_at dksX6_duty_2 4 rfl rfl)
theorem dX6_duty_51 : decode cX6_duty 51 = .ok (.if_icmp .ge 42, 3) := dk_162 0 42 (dk_at dksX6_duty_2 5 rfl rfl)
theorem dX6_duty_54 : decode cX6_duty 54 = .ok (.iload_n 2, 1) := dk_28 (dk_at dksX6_duty_2 8 rfl rfl)
theorem dX6_duty_55 : decode cX6_duty 55 = .ok (.aload_n 0, 1) := dk_42 (dk_at dksX6_duty_2 9 rfl rfl)
theorem dX6_duty_56 : decode cX6_duty 56 = .ok (.aload_n 0, 1) := dk_42 (dk_at dksX6_duty_2 10 rfl rfl)
theorem dX6_duty_57 : decode cX6_duty 57 = .ok (.getfield 70, 3) := dk_180 0 70 (dk_at dksX6_duty_2 11 rfl rfl)
theorem dX6_duty_60 : decode cX6_duty 60 = .ok (.iload_n 3, 1) := dk_29 (dk_at dksX6_duty_2 14 rfl rfl)
theorem dX6_duty_61 : decode cX6_duty 61 = .ok (.invokevirtual 269, 3) := dk_182 1 13 (dk_at dksX6_duty_2 15 rfl rfl)
theorem dX6_duty_64 : decode cX6_duty 64 = .ok (.iload_n 1, 1) := dk_27 (dk_at dksX6_duty_2 18 rfl rfl)
theorem dX6_duty_65 : decode cX6_duty 65 = .ok (.if_icmp .ne 9, 3) := dk_160 0 9 (dk_at dksX6_duty_2 19 rfl rfl)
theorem dX6_duty_68 : decode cX6_duty 68 = .ok (.iconst 1, 1) := dk_4 (dk_at dksX6_duty_2 22 rfl rfl)
theorem dX6_duty_69 : decode cX6_duty 69 = .ok (.iload_n 3, 1) := dk_29 (dk_at dksX6_duty_2 23 rfl rfl)
theorem dX6_duty_70 : decode cX6_duty 70 = .ok (.ishl, 1) := dk_120 (dk_at dksX6_duty_3 0 rfl rfl)
theorem dX6_duty_71 : decode cX6_duty 71 = .ok (.goto 4, 3) := dk_167 0 4 (dk_at dksX6_duty_3 1 rfl rfl)
theorem dX6_duty_74 : decode cX6_duty 74 = .ok (.iconst 0, 1) := dk_3 (dk_at dksX6_duty_3 4 rfl rfl)
theorem dX6_duty_75 : decode cX6_duty 75 = .ok (.ior, 1) := dk_128 (dk_at dksX6_duty_3 5 rfl rfl)
theorem dX6_duty_76 : decode cX6_duty 76 = .ok (.istore_n 2, 1) := dk_61 (dk_at dksX6_duty_3 6 rfl rfl)
theorem dX6_duty_77 : decode cX6_duty 77 = .ok (.aload_n 0, 1) := dk_42 (dk_at dksX6_duty_3 7 rfl rfl)
theorem dX6_duty_78 : decode cX6_duty 78 = .ok (.aload_n 0, 1) := dk_42 (dk_at dksX6_duty_3 8 rfl rfl)
theorem dX6_duty_79 : decode cX6_duty 79 = .ok (.getfield 70, 3) := dk_180 0 70 (dk_at dksX6_duty_3 9 rfl rfl)
theorem dX6_duty_82 : decode cX6_duty 82 = .ok (.iload_n 3, 1) := dk_29 (dk_at dksX6_duty_3 12 rfl rfl)
theorem dX6_duty_83 : decode cX6_duty 83 = .ok (.invokevirtual 276, 3) := dk_182 1 20 (dk_at dksX6_duty_3 13 rfl rfl)
theorem dX6_duty_86 : decode cX6_duty 86 = .ok (.pop, 1) := dk_87 (dk_at dksX6_duty_3 16 rfl rfl)
theorem dX6_duty_87 : decode cX6_duty 87 = .ok (.iinc 3 1, 3) := dk_132 3 1 (dk_at dksX6_duty_3 17 rfl rfl)
theorem dX6_duty_90 : decode cX6_duty 90 = .ok (.goto (-46), 3) := dk_167 255 210 (dk_at dksX6_duty_3 20 rfl rfl)
theorem dX6_duty_93 : decode cX6_duty 93 = .ok (.iload_n 2, 1) := dk_28 (dk_at dksX6_duty_3 23 rfl rfl)
theorem dX6_duty_94 : decode cX6_duty 94 = .ok (.ireturn, 1) := dk_172 (dk_at dksX6_duty_4 0 rfl rfl)
abbrev cX6_range : ByteArray := prog_34_method_90_code
def yX6_range : MethodName := ⟨RX6, "range", "(I)I"⟩
def dkwX6_range_4 : List UInt8 := [167, 255, 208, 28, 172]
abbrev dktX6_range_4 : List UInt8 := dkwX6_range_4 ++ []
def dkwX6_range_3 : List UInt8 := [180, 0, 70, 16, 14, 27, 96, 46, 21, 4, 164, 0, 7, 29, 167, 0, 4, 28, 61, 132, 3, 1]
abbrev dktX6_range_3 : List UInt8 := dkwX6_range_3 ++ dktX6_range_4
def dkwX6_range_2 : List UInt8 := [163, 0, 48, 42, 180, 0, 70, 16, 14, 27, 96, 46, 54, 4, 42, 42, 180, 0, 70, 182, 1, 24, 42]
abbrev dktX6_range_2 : List UInt8 := dkwX6_range_2 ++ dktX6_range_3
def dkwX6_range_1 : List UInt8 := [153, 0, 5, 3, 172, 3, 61, 42, 180, 0, 67, 42, 180, 0, 70, 184, 1, 54, 4, 62, 29, 16, 20]
abbrev dktX6_range_1 : List UInt8 := dkwX6_range_1 ++ dktX6_range_2
def dkwX6_range_0 : List UInt8 := [42, 3, 181, 0, 95, 42, 42, 27, 182, 1, 65, 154, 0, 7, 4, 167, 0, 4, 3, 4, 3, 182, 0, 171]
abbrev dktX6_range_0 : List UInt8 := dkwX6_range_0 ++ dktX6_range_1
theorem dksX6_range_0 : cX6_range.data.toList.drop 0 = dktX6_range_0 := by decide +kernel
theorem dksX6_range_1 : cX6_range.data.toList.drop 24 = dktX6_range_1 := dk_seg dksX6_range_0 24 rfl rfl
theorem dksX6_range_2 : cX6_range.data.toList.drop 47 = dktX6_range_2 := dk_seg dksX6_range_1 23 rfl rfl
theorem dksX6_range_3 : cX6_range.data.toList.drop 70 = dktX6_range_3 := dk_seg dksX6_range_2 23 rfl rfl
theorem dksX6_range_4 : cX6_range.data.toList.drop 92 = dktX6_range_4 := dk_seg dksX6_range_3 22 rfl rfl
theorem dX6_range_0 : decode cX6_range 0 = .ok (.aload_n 0, 1) := dk_42 (dk_at dksX6_range_0 0 rfl rfl)
theorem dX6_range_1 : decode cX6_range 1 = .ok (.iconst 0, 1) := dk_3 (dk_at dksX6_range_0 1 rfl rfl)
theorem dX6_range_2 : decode cX6_range 2 = .ok (.putfield 95, 3) := dk_181 0 95 (dk_at dksX6_range_0 2 rfl rfl)
theorem dX6_range_5 : decode cX6_range 5 = .ok (.aload_n 0, 1) := dk_42 (dk_at dksX6_range_0 5 rfl rfl)
theorem dX6_range_6 : decode cX6_range 6 = .ok (.aload_n 0, 1) := dk_42 (dk_at dksX6_range_0 6 rfl rfl)
theorem dX6_range_7 : decode cX6_range 7 = .ok (.iload_n 1, 1) := dk_27 (dk_at dksX6_range_0 7 rfl rfl)
theorem dX6_range_8 : decode cX6_range 8 = .ok (.invokevirtual 321, 3) := dk_182 1 65 (dk_at dksX6_range_0 8 rfl rfl)
theorem dX6_range_11 : decode cX6_range 11 = .ok (.ifCond .ne 7, 3) := dk_154 0 7 (dk_at dksX6_range_0 11 rfl rfl)
theorem dX6_range_14 : decode cX6_range 14 = .ok (.iconst 1, 1) := dk_4 (dk_at dksX6_range_0 14 rfl rfl)
theorem dX6_range_15 : decode cX6_range 15 = .ok (.goto 4, 3) := dk_167 0 4 (dk_at dksX6_range_0 15 rfl rfl)
theorem dX6_range_18 : decode cX6_range 18 = .ok (.iconst 0, 1) := dk_3 (dk_at dksX6_range_0 18 rfl rfl)
theorem dX6_range_19 : decode cX6_range 19 = .ok (.iconst 1, 1) := dk_4 (dk_at dksX6_range_0 19 rfl rfl)
theorem dX6_range_20 : decode cX6_range 20 = .ok (.iconst 0, 1) := dk_3 (dk_at dksX6_range_0 20 rfl rfl)
theorem dX6_range_21 : decode cX6_range 21 = .ok (.invokevirtual 171, 3) := dk_182 0 171 (dk_at dksX6_range_0 21 rfl rfl)
theorem dX6_range_24 : decode cX6_range 24 = .ok (.ifCond .eq 5, 3) := dk_153 0 5 (dk_at dksX6_range_1 0 rfl rfl)
theorem dX6_range_27 : decode cX6_range 27 = .ok (.iconst 0, 1) := dk_3 (dk_at dksX6_range_1 3 rfl rfl)
theorem dX6_range_28 : decode cX6_range 28 = .ok (.ireturn, 1) := dk_172 (dk_at dksX6_range_1 4 rfl rfl)
theorem dX6_range_29 : decode cX6_range 29 = .ok (.iconst 0, 1) := dk_3 (dk_at dksX6_range_1 5 rfl rfl)
theorem dX6_range_30 : decode cX6_range 30 = .ok (.istore_n 2, 1) := dk_61 (dk_at dksX6_range_1 6 rfl rfl)
theorem dX6_range_31 : decode cX6_range 31 = .ok (.aload_n 0, 1) := dk_42 (dk_at dksX6_range_1 7 rfl rfl)
theorem dX6_range_32 : decode cX6_range 32 = .ok (.getfield 67, 3) := dk_180 0 67 (dk_at dksX6_range_1 8 rfl rfl)
theorem dX6_range_35 : decode cX6_range 35 = .ok (.aload_n 0, 1) := dk_42 (dk_at dksX6_range_1 11 rfl rfl)
theorem dX6_range_36 : decode cX6_range 36 = .ok (.getfield 70, 3) := dk_180 0 70 (dk_at dksX6_range_1 12 rfl rfl)
theorem dX6_range_39 : decode cX6_range 39 = .ok (.invokestatic 310, 3) := dk_184 1 54 (dk_at dksX6_range_1 15 rfl rfl)
theorem dX6_range_42 : decode cX6_range 42 = .ok (.iconst 1, 1) := dk_4 (dk_at dksX6_range_1 18 rfl rfl)
theorem dX6_range_43 : decode cX6_range 43 = .ok (.istore_n 3, 1) := dk_62 (dk_at dksX6_range_1 19 rfl rfl)
theorem dX6_range_44 : decode cX6_range 44 = .ok (.iload_n 3, 1) := dk_29 (dk_at dksX6_range_1 20 rfl rfl)
theorem dX6_range_45 : decode cX6_range 45 = .ok (.bipush 20, 2) := dk_16 20 (dk_at dksX6_range_1 21 rfl rfl)
theorem dX6_range_47 : decode cX6_range 47 = .ok (.if_icmp .gt 48, 3) := dk_163 0 48 (dk_at dksX6_range_2 0 rfl rfl)
theorem dX6_range_50 : decode cX6_range 50 = .ok (.aload_n 0, 1) := dk_42 (dk_at dksX6_range_2 3 rfl rfl)
theorem dX6_range_51 : decode cX6_range 51 = .ok (.getfield 70, 3) := dk_180 0 70 (dk_at dksX6_range_2 4 rfl rfl)
theorem dX6_range_54 : decode cX6_range 54 = .ok (.bipush 14, 2) := dk_16 14 (dk_at dksX6_range_2 7 rfl rfl)
theorem dX6_range_56 : decode cX6_range 56 = .ok (.iload_n 1, 1) := dk_27 (dk_at dksX6_range_2 9 rfl rfl)
theorem dX6_range_57 : decode cX6_range 57 = .ok (.iadd, 1) := dk_96 (dk_at dksX6_range_2 10 rfl rfl)
theorem dX6_range_58 : decode cX6_range 58 = .ok (.iaload, 1) := dk_46 (dk_at dksX6_range_2 11 rfl rfl)
theorem dX6_range_59 : decode cX6_range 59 = .ok (.istore 4, 2) := dk_54 4 (dk_at dksX6_range_2 12 rfl rfl)
theorem dX6_range_61 : decode cX6_range 61 = .ok (.aload_n 0, 1) := dk_42 (dk_at dksX6_range_2 14 rfl rfl)
theorem dX6_range_62 : decode cX6_range 62 = .ok (.aload_n 0, 1) := dk_42 (dk_at dksX6_range_2 15 rfl rfl)
theorem dX6_range_63 : decode cX6_range 63 = .ok (.getfield 70, 3) := dk_180 0 70 (dk_at dksX6_range_2 16 rfl rfl)
theorem dX6_range_66 : decode cX6_range 66 = .ok (.invokevirtual 280, 3) := dk_182 1 24 (dk_at dksX6_range_2 19 rfl rfl)
theorem dX6_range_69 : decode cX6_range 69 = .ok (.aload_n 0, 1) := dk_42 (dk_at dksX6_range_2 22 rfl rfl)
theorem dX6_range_70 : decode cX6_range 70 = .ok (.getfield 70, 3) := dk_180 0 70 (dk_at dksX6_range_3 0 rfl rfl)
theorem dX6_range_73 : decode cX6_range 73 = .ok (.bipush 14, 2) := dk_16 14 (dk_at dksX6_range_3 3 rfl rfl)
theorem dX6_range_75 : decode cX6_range 75 = .ok (.iload_n 1, 1) := dk_27 (dk_at dksX6_range_3 5 rfl rfl)
theorem dX6_range_76 : decode cX6_range 76 = .ok (.iadd, 1) := dk_96 (dk_at dksX6_range_3 6 rfl rfl)
theorem dX6_range_77 : decode cX6_range 77 = .ok (.iaload, 1) := dk_46 (dk_at dksX6_range_3 7 rfl rfl)
theorem dX6_range_78 : decode cX6_range 78 = .ok (.iload 4, 2) := dk_21 4 (dk_at dksX6_range_3 8 rfl rfl)
theorem dX6_range_80 : decode cX6_range 80 = .ok (.if_icmp .le 7, 3) := dk_164 0 7 (dk_at dksX6_range_3 10 rfl rfl)
theorem dX6_range_83 : decode cX6_range 83 = .ok (.iload_n 3, 1) := dk_29 (dk_at dksX6_range_3 13 rfl rfl)
theorem dX6_range_84 : decode cX6_range 84 = .ok (.goto 4, 3) := dk_167 0 4 (dk_at dksX6_range_3 14 rfl rfl)
theorem dX6_range_87 : decode cX6_range 87 = .ok (.iload_n 2, 1) := dk_28 (dk_at dksX6_range_3 17 rfl rfl)
theorem dX6_range_88 : decode cX6_range 88 = .ok (.istore_n 2, 1) := dk_61 (dk_at dksX6_range_3 18 rfl rfl)
theorem dX6_range_89 : decode cX6_range 89 = .ok (.iinc 3 1, 3) := dk_132 3 1 (dk_at dksX6_range_3 19 rfl rfl)
theorem dX6_range_92 : decode cX6_range 92 = .ok (.goto (-48), 3) := dk_167 255 208 (dk_at dksX6_range_4 0 rfl rfl)
theorem dX6_range_95 : decode cX6_range 95 = .ok (.iload_n 2, 1) := dk_28 (dk_at dksX6_range_4 3 rfl rfl)
theorem dX6_range_96 : decode cX6_range 96 = .ok (.ireturn, 1) := dk_172 (dk_at dksX6_range_4 4 rfl rfl)
abbrev cX6_quarrel : ByteArray := prog_34_method_93_code
def yX6_quarrel : MethodName := ⟨RX6, "quarrel", "(III)I"⟩
def dkwX6_quarrel_8 : List UInt8 := [21, 5, 167, 0, 5, 21, 6, 172]
abbrev dktX6_quarrel_8 : List UInt8 := dkwX6_quarrel_8 ++ []
def dkwX6_quarrel_7 : List UInt8 := [167, 255, 166, 132, 7, 1, 167, 255, 151, 29, 154, 0, 8, 21, 4, 167, 0, 15, 29, 4, 160, 0, 8]
abbrev dktX6_quarrel_7 : List UInt8 := dkwX6_quarrel_7 ++ dktX6_quarrel_8
def dkwX6_quarrel_6 : List UInt8 := [154, 0, 14, 16, 10, 21, 7, 104, 21, 8, 96, 167, 0, 5, 21, 5, 54, 5, 132, 4, 1, 132, 8, 1]
abbrev dktX6_quarrel_6 : List UInt8 := dkwX6_quarrel_6 ++ dktX6_quarrel_7
def dkwX6_quarrel_5 : List UInt8 := [184, 1, 108, 21, 8, 21, 7, 27, 28, 184, 1, 108, 96, 167, 0, 5, 21, 6, 54, 6, 21, 4]
abbrev dktX6_quarrel_5 : List UInt8 := dkwX6_quarrel_5 ++ dktX6_quarrel_6
def dkwX6_quarrel_4 : List UInt8 := [27, 28, 184, 1, 112, 154, 0, 6, 167, 0, 57, 21, 4, 154, 0, 25, 21, 7, 21, 8, 27, 28]
abbrev dktX6_quarrel_4 : List UInt8 := dkwX6_quarrel_4 ++ dktX6_quarrel_5
def dkwX6_quarrel_3 : List UInt8 := [54, 8, 21, 8, 5, 162, 0, 90, 21, 7, 21, 8, 27, 28, 184, 1, 112, 153, 0, 72, 21, 8, 21, 7]
abbrev dktX6_quarrel_3 : List UInt8 := dkwX6_quarrel_3 ++ dktX6_quarrel_4
def dkwX6_quarrel_2 : List UInt8 := [153, 0, 5, 3, 172, 3, 54, 4, 2, 54, 5, 3, 54, 6, 3, 54, 7, 21, 7, 5, 162, 0, 105, 3]
abbrev dktX6_quarrel_2 : List UInt8 := dkwX6_quarrel_2 ++ dktX6_quarrel_3
def dkwX6_quarrel_1 : List UInt8 := [153, 0, 12, 29, 3, 5, 184, 0, 129, 154, 0, 7, 4, 167, 0, 4, 3, 4, 4, 182, 0, 171]
abbrev dktX6_quarrel_1 : List UInt8 := dkwX6_quarrel_1 ++ dktX6_quarrel_2
def dkwX6_quarrel_0 : List UInt8 := [42, 3, 181, 0, 95, 42, 27, 3, 16, 99, 184, 0, 129, 153, 0, 22, 28, 3, 16, 99, 184, 0, 129]
abbrev dktX6_quarrel_0 : List UInt8 := dkwX6_quarrel_0 ++ dktX6_quarrel_1
theorem dksX6_quarrel_0 : cX6_quarrel.data.toList.drop 0 = dktX6_quarrel_0 := by decide +kernel
theorem dksX6_quarrel_1 : cX6_quarrel.data.toList.drop 23 = dktX6_quarrel_1 := dk_seg dksX6_quarrel_0 23 rfl rfl
theorem dksX6_quarrel_2 : cX6_quarrel.data.toList.drop 45 = dktX6_quarrel_2 := dk_seg dksX6_quarrel_1 22 rfl rfl
theorem dksX6_quarrel_3 : cX6_quarrel.data.toList.drop 69 = dktX6_quarrel_3 := dk_seg dksX6_quarrel_2 24 rfl rfl
theorem dksX6_quarrel_4 : cX6_quarrel.data.toList.drop 93 = dktX6_quarrel_4 := dk_seg dksX6_quarrel_3 24 rfl rfl
theorem dksX6_quarrel_5 : cX6_quarrel.data.toList.drop 115 = dktX6_quarrel_5 := dk_seg dksX6_quarrel_4 22 rfl rfl
theorem dksX6_quarrel_6 : cX6_quarrel.data.toList.drop 137 = dktX6_quarrel_6 := dk_seg dksX6_quarrel_5 22 rfl rfl
theorem dksX6_quarrel_7 : cX6_quarrel.data.toList.drop 161 = dktX6_quarrel_7 := dk_seg dksX6_quarrel_6 24 rfl rfl
theorem dksX6_quarrel_8 : cX6_quarrel.data.toList.drop 184 = dktX6_quarrel_8 := dk_seg dksX6_quarrel_7 23 rfl rfl
theorem dX6_quarrel_0 : decode cX6_quarrel 0 = .ok (.aload_n 0, 1) := dk_42 (dk_at dksX6_quarrel_0 0 rfl rfl)
theorem dX6_quarrel_1 : decode cX6_quarrel 1 = .ok (.iconst 0, 1) := dk_3 (dk_at dksX6_quarrel_0 1 rfl rfl)
theorem dX6_quarrel_2 : decode cX6_quarrel 2 = .ok (.putfield 95, 3) := dk_181 0 95 (dk_at dksX6_quarrel_0 2 rfl rfl)
theorem dX6_quarrel_5 : decode cX6_quarrel 5 = .ok (.aload_n 0, 1) := dk_42 (dk_at dksX6_quarrel_0 5 rfl rfl)
theorem dX6_quarrel_6 : decode cX6_quarrel 6 = .ok (.iload_n 1, 1) := dk_27 (dk_at dksX6_quarrel_0 6 rfl rfl)
theorem dX6_quarrel_7 : decode cX6_quarrel 7 = .ok (.iconst 0, 1) := dk_3 (dk_at dksX6_quarrel_0 7 rfl rfl)
theorem dX6_quarrel_8 : decode cX6_quarrel 8 = .ok (.bipush 99, 2) := dk_16 99 (dk_at dksX6_quarrel_0 8 rfl rfl)
theorem dX6_quarrel_10 : decode cX6_quarrel 10 = .ok (.invokestatic 129, 3) := dk_184 0 129 (dk_at dksX6_quarrel_0 10 rfl rfl)
theorem dX6_quarrel_13 : decode cX6_quarrel 13 = .ok (.ifCond .eq 22, 3) := dk_153 0 22 (dk_at dksX6_quarrel_0 13 rfl rfl)
theorem dX6_quarrel_16 : decode cX6_quarrel 16 = .ok (.iload_n 2, 1) := dk_28 (dk_at dksX6_quarrel_0 16 rfl rfl)
theorem dX6_quarrel_17 : decode cX6_quarrel 17 = .ok (.iconst 0, 1) := dk_3 (dk_at dksX6_quarrel_0 17 rfl rfl)
theorem dX6_quarrel_18 : decode cX6_quarrel 18 = .ok (.bipush 99, 2) := dk_16 99 (dk_at dksX6_quarrel_0 18 rfl rfl)
theorem dX6_quarrel_20 : decode cX6_quarrel 20 = .ok (.invokestatic 129, 3) := dk_184 0 129 (dk_at dksX6_quarrel_0 20 rfl rfl)
theorem dX6_quarrel_23 : decode cX6_quarrel 23 = .ok (.ifCond .eq 12, 3) := dk_153 0 12 (dk_at dksX6_quarrel_1 0 rfl rfl)
theorem dX6_quarrel_26 : decode cX6_quarrel 26 = .ok (.iload_n 3, 1) := dk_29 (dk_at dksX6_quarrel_1 3 rfl rfl)
theorem dX6_quarrel_27 : decode cX6_quarrel 27 = .ok (.iconst 0, 1) := dk_3 (dk_at dksX6_quarrel_1 4 rfl rfl)
theorem dX6_quarrel_28 : decode cX6_quarrel 28 = .ok (.iconst 2, 1) := dk_5 (dk_at dksX6_quarrel_1 5 rfl rfl)
theorem dX6_quarrel_29 : decode cX6_quarrel 29 = .ok (.invokestatic 129, 3) := dk_184 0 129 (dk_at dksX6_quarrel_1 6 rfl rfl)
theorem dX6_quarrel_32 : decode cX6_quarrel 32 = .ok (.ifCond .ne 7, 3) := dk_154 0 7 (dk_at dksX6_quarrel_1 9 rfl rfl)
theorem dX6_quarrel_35 : decode cX6_quarrel 35 = .ok (.iconst 1, 1) := dk_4 (dk_at dksX6_quarrel_1 12 rfl rfl)
theorem dX6_quarrel_36 : decode cX6_quarrel 36 = .ok (.goto 4, 3) := dk_167 0 4 (dk_at dksX6_quarrel_1 13 rfl rfl)
theorem dX6_quarrel_39 : decode cX6_quarrel 39 = .ok (.iconst 0, 1) := dk_3 (dk_at dksX6_quarrel_1 16 rfl rfl)
theorem dX6_quarrel_40 : decode cX6_quarrel 40 = .ok (.iconst 1, 1) := dk_4 (dk_at dksX6_quarrel_1 17 rfl rfl)
theorem dX6_quarrel_41 : decode cX6_quarrel 41 = .ok (.iconst 1, 1) := dk_4 (dk_at dksX6_quarrel_1 18 rfl rfl)
theorem dX6_quarrel_42 : decode cX6_quarrel 42 = .ok (.invokevirtual 171, 3) := dk_182 0 171 (dk_at dksX6_quarrel_1 19 rfl rfl)
theorem dX6_quarrel_45 : decode cX6_quarrel 45 = .ok (.ifCond .eq 5, 3) := dk_153 0 5 (dk_at dksX6_quarrel_2 0 rfl rfl)
theorem dX6_quarrel_48 : decode cX6_quarrel 48 = .ok (.iconst 0, 1) := dk_3 (dk_at dksX6_quarrel_2 3 rfl rfl)
theorem dX6_quarrel_49 : decode cX6_quarrel 49 = .ok (.ireturn, 1) := dk_172 (dk_at dksX6_quarrel_2 4 rfl rfl)
theorem dX6_quarrel_50 : decode cX6_quarrel 50 = .ok (.iconst 0, 1) := dk_3 (dk_at dksX6_quarrel_2 5 rfl rfl)
theorem dX6_quarrel_51 : decode cX6_quarrel 51 = .ok (.istore 4, 2) := dk_54 4 (dk_at dksX6_quarrel_2 6 rfl rfl)
theorem dX6_quarrel_53 : decode cX6_quarrel 53 = .ok (.iconst (-1), 1) := dk_2 (dk_at dksX6_quarrel_2 8 rfl rfl)
theorem dX6_quarrel_54 : decode cX6_quarrel 54 = .ok (.istore 5, 2) := dk_54 5 (dk_at dksX6_quarrel_2 9 rfl rfl)
theorem dX6_quarrel_56 : decode cX6_quarrel 56 = .ok (.iconst 0, 1) := dk_3 (dk_at dksX6_quarrel_2 11 rfl rfl)
theorem dX6_quarrel_57 : decode cX6_quarrel 57 = .ok (.istore 6, 2) := dk_54 6 (dk_at dksX6_quarrel_2 12 rfl rfl)
theorem dX6_quarrel_59 : decode cX6_quarrel 59 = .ok (.iconst 0, 1) := dk_3 (dk_at dksX6_quarrel_2 14 rfl rfl)
theorem dX6_quarrel_60 : decode cX6_quarrel 60 = .ok (.istore 7, 2) := dk_54 7 (dk_at dksX6_quarrel_2 15 rfl rfl)
theorem dX6_quarrel_62 : decode cX6_quarrel 62 = .ok (.iload 7, 2) := dk_21 7 (dk_at dksX6_quarrel_2 17 rfl rfl)
theorem dX6_quarrel_64 : decode cX6_quarrel 64 = .ok (.iconst 2, 1) := dk_5 (dk_at dksX6_quarrel_2 19 rfl rfl)
theorem dX6_quarrel_65 : decode cX6_quarrel 65 = .ok (.if_icmp .ge 105, 3) := dk_162 0 105 (dk_at dksX6_quarrel_2 20 rfl rfl)
theorem dX6_quarrel_68 : decode cX6_quarrel 68 = .ok (.iconst 0, 1) := dk_3 (dk_at dksX6_quarrel_2 23 rfl rfl)
theorem dX6_quarrel_69 : decode cX6_quarrel 69 = .ok (.istore 8, 2) := dk_54 8 (dk_at dksX6_quarrel_3 0 rfl rfl)
theorem dX6_quarrel_71 : decode cX6_quarrel 71 = .ok (.iload 8, 2) := dk_21 8 (dk_at dksX6_quarrel_3 2 rfl rfl)
theorem dX6_quarrel_73 : decode cX6_quarrel 73 = .ok (.iconst 2, 1) := dk_5 (dk_at dksX6_quarrel_3 4 rfl rfl)
theorem dX6_quarrel_74 : decode cX6_quarrel 74 = .ok (.if_icmp .ge 90, 3) := dk_162 0 90 (dk_at dksX6_quarrel_3 5 rfl rfl)
theorem dX6_quarrel_77 : decode cX6_quarrel 77 = .ok (.iload 7, 2) := dk_21 7 (dk_at dksX6_quarrel_3 8 rfl rfl)
theorem dX6_quarrel_79 : decode cX6_quarrel 79 = .ok (.iload 8, 2) := dk_21 8 (dk_at dksX6_quarrel_3 10 rfl rfl)
theorem dX6_quarrel_81 : decode cX6_quarrel 81 = .ok (.iload_n 1, 1) := dk_27 (dk_at dksX6_quarrel_3 12 rfl rfl)
theorem dX6_quarrel_82 : decode cX6_quarrel 82 = .ok (.iload_n 2, 1) := dk_28 (dk_at dksX6_quarrel_3 13 rfl rfl)
theorem dX6_quarrel_83 : decode cX6_quarrel 83 = .ok (.invokestatic 368, 3) := dk_184 1 112 (dk_at dksX6_quarrel_3 14 rfl rfl)
theorem dX6_quarrel_86 : decode cX6_quarrel 86 = .ok (.ifCond .eq 72, 3) := dk_153 0 72 (dk_at dksX6_quarrel_3 17 rfl rfl)
theorem dX6_quarrel_89 : decode cX6_quarrel 89 = .ok (.iload 8, 2) := dk_21 8 (dk_at dksX6_quarrel_3 20 rfl rfl)
theorem dX6_quarrel_91 : decode cX6_quarrel 91 = .ok (.iload 7, 2) := dk_21 7 (dk_at dksX6_quarrel_3 22 rfl rfl)
theorem dX6_quarrel_93 : decode cX6_quarrel 93 = .ok (.iload_n 1, 1) := dk_27 (dk_at dksX6_quarrel_4 0 rfl rfl)
theorem dX6_quarrel_94 : decode cX6_quarrel 94 = .ok (.iload_n 2, 1) := dk_28 (dk_at dksX6_quarrel_4 1 rfl rfl)
theorem dX6_quarrel_95 : decode cX6_quarrel 95 = .ok (.invokestatic 368, 3) := dk_184 1 112 (dk_at dksX6_quarrel_4 2 rfl rfl)
theorem dX6_quarrel_98 : decode cX6_quarrel 98 = .ok (.ifCond .ne 6, 3) := dk_154 0 6 (dk_at dksX6_quarrel_4 5 rfl rfl)
theorem dX6_quarrel_101 : decode cX6_quarrel 101 = .ok (.goto 57, 3) := dk_167 0 57 (dk_at dksX6_quarrel_4 8 rfl rfl)
theorem dX6_quarrel_104 : decode cX6_quarrel 104 = .ok (.iload 4, 2) := dk_21 4 (dk_at dksX6_quarrel_4 11 rfl rfl)
theorem dX6_quarrel_106 : decode cX6_quarrel 106 = .ok (.ifCond .ne 25, 3) := dk_154 0 25 (dk_at dksX6_quarrel_4 13 rfl rfl)
theorem dX6_quarrel_109 : decode cX6_quarrel 109 = .ok (.iload 7, 2) := dk_21 7 (dk_at dksX6_quarrel_4 16 rfl rfl)
theorem dX6_quarrel_111 : decode cX6_quarrel 111 = .ok (.iload 8, 2) := dk_21 8 (dk_at dksX6_quarrel_4 18 rfl rfl)
theorem dX6_quarrel_113 : decode cX6_quarrel 113 = .ok (.iload_n 1, 1) := dk_27 (dk_at dksX6_quarrel_4 20 rfl rfl)
theorem dX6_quarrel_114 : decode cX6_quarrel 114 = .ok (.iload_n 2, 1) := dk_28 (dk_at dksX6_quarrel_4 21 rfl rfl)
theorem dX6_quarrel_115 : decode cX6_quarrel 115 = .ok (.invokestatic 364, 3) := dk_184 1 108 (dk_at dksX6_quarrel_5 0 rfl rfl)
theorem dX6_quarrel_118 : decode cX6_quarrel 118 = .ok (.iload 8, 2) := dk_21 8 (dk_at dksX6_quarrel_5 3 rfl rfl)
theorem dX6_quarrel_120 : decode cX6_quarrel 120 = .ok (.iload 7, 2) := dk_21 7 (dk_at dksX6_quarrel_5 5 rfl rfl)
theorem dX6_quarrel_122 : decode cX6_quarrel 122 = .ok (.iload_n 1, 1) := dk_27 (dk_at dksX6_quarrel_5 7 rfl rfl)
theorem dX6_quarrel_123 : decode cX6_quarrel 123 = .ok (.iload_n 2, 1) := dk_28 (dk_at dksX6_quarrel_5 8 rfl rfl)
theorem dX6_quarrel_124 : decode cX6_quarrel 124 = .ok (.invokestatic 364, 3) := dk_184 1 108 (dk_at dksX6_quarrel_5 9 rfl rfl)
theorem dX6_quarrel_127 : decode cX6_quarrel 127 = .ok (.iadd, 1) := dk_96 (dk_at dksX6_quarrel_5 12 rfl rfl)
theorem dX6_quarrel_128 : decode cX6_quarrel 128 = .ok (.goto 5, 3) := dk_167 0 5 (dk_at dksX6_quarrel_5 13 rfl rfl)
theorem dX6_quarrel_131 : decode cX6_quarrel 131 = .ok (.iload 6, 2) := dk_21 6 (dk_at dksX6_quarrel_5 16 rfl rfl)
theorem dX6_quarrel_133 : decode cX6_quarrel 133 = .ok (.istore 6, 2) := dk_54 6 (dk_at dksX6_quarrel_5 18 rfl rfl)
theorem dX6_quarrel_135 : decode cX6_quarrel 135 = .ok (.iload 4, 2) := dk_21 4 (dk_at dksX6_quarrel_5 20 rfl rfl)
theorem dX6_quarrel_137 : decode cX6_quarrel 137 = .ok (.ifCond .ne 14, 3) := dk_154 0 14 (dk_at dksX6_quarrel_6 0 rfl rfl)
theorem dX6_quarrel_140 : decode cX6_quarrel 140 = .ok (.bipush 10, 2) := dk_16 10 (dk_at dksX6_quarrel_6 3 rfl rfl)
theorem dX6_quarrel_142 : decode cX6_quarrel 142 = .ok (.iload 7, 2) := dk_21 7 (dk_at dksX6_quarrel_6 5 rfl rfl)
theorem dX6_quarrel_144 : decode cX6_quarrel 144 = .ok (.imul, 1) := dk_104 (dk_at dksX6_quarrel_6 7 rfl rfl)
theorem dX6_quarrel_145 : decode cX6_quarrel 145 = .ok (.iload 8, 2) := dk_21 8 (dk_at dksX6_quarrel_6 8 rfl rfl)
theorem dX6_quarrel_147 : decode cX6_quarrel 147 = .ok (.iadd, 1) := dk_96 (dk_at dksX6_quarrel_6 10 rfl rfl)
theorem dX6_quarrel_148 : decode cX6_quarrel 148 = .ok (.goto 5, 3) := dk_167 0 5 (dk_at dksX6_quarrel_6 11 rfl rfl)
theorem dX6_quarrel_151 : decode cX6_quarrel 151 = .ok (.iload 5, 2) := dk_21 5 (dk_at dksX6_quarrel_6 14 rfl rfl)
theorem dX6_quarrel_153 : decode cX6_quarrel 153 = .ok (.istore 5, 2) := dk_54 5 (dk_at dksX6_quarrel_6 16 rfl rfl)
theorem dX6_quarrel_155 : decode cX6_quarrel 155 = .ok (.iinc 4 1, 3) := dk_132 4 1 (dk_at dksX6_quarrel_6 18 rfl rfl)
theorem dX6_quarrel_158 : decode cX6_quarrel 158 = .ok (.iinc 8 1, 3) := dk_132 8 1 (dk_at dksX6_quarrel_6 21 rfl rfl)
theorem dX6_quarrel_161 : decode cX6_quarrel 161 = .ok (.goto (-90), 3) := dk_167 255 166 (dk_at dksX6_quarrel_7 0 rfl rfl)
theorem dX6_quarrel_164 : decode cX6_quarrel 164 = .ok (.iinc 7 1, 3) := dk_132 7 1 (dk_at dksX6_quarrel_7 3 rfl rfl)
theorem dX6_quarrel_167 : decode cX6_quarrel 167 = .ok (.goto (-105), 3) := dk_167 255 151 (dk_at dksX6_quarrel_7 6 rfl rfl)
theorem dX6_quarrel_170 : decode cX6_quarrel 170 = .ok (.iload_n 3, 1) := dk_29 (dk_at dksX6_quarrel_7 9 rfl rfl)
theorem dX6_quarrel_171 : decode cX6_quarrel 171 = .ok (.ifCond .ne 8, 3) := dk_154 0 8 (dk_at dksX6_quarrel_7 10 rfl rfl)
theorem dX6_quarrel_174 : decode cX6_quarrel 174 = .ok (.iload 4, 2) := dk_21 4 (dk_at dksX6_quarrel_7 13 rfl rfl)
theorem dX6_quarrel_176 : decode cX6_quarrel 176 = .ok (.goto 15, 3) := dk_167 0 15 (dk_at dksX6_quarrel_7 15 rfl rfl)
theorem dX6_quarrel_179 : decode cX6_quarrel 179 = .ok (.iload_n 3, 1) := dk_29 (dk_at dksX6_quarrel_7 18 rfl rfl)
theorem dX6_quarrel_180 : decode cX6_quarrel 180 = .ok (.iconst 1, 1) := dk_4 (dk_at dksX6_quarrel_7 19 rfl rfl)
theorem dX6_quarrel_181 : decode cX6_quarrel 181 = .ok (.if_icmp .ne 8, 3) := dk_160 0 8 (dk_at dksX6_quarrel_7 20 rfl rfl)
theorem dX6_quarrel_184 : decode cX6_quarrel 184 = .ok (.iload 5, 2) := dk_21 5 (dk_at dksX6_quarrel_8 0 rfl rfl)
theorem dX6_quarrel_186 : decode cX6_quarrel 186 = .ok (.goto 5, 3) := dk_167 0 5 (dk_at dksX6_quarrel_8 2 rfl rfl)
theorem dX6_quarrel_189 : decode cX6_quarrel 189 = .ok (.iload 6, 2) := dk_21 6 (dk_at dksX6_quarrel_8 5 rfl rfl)
theorem dX6_quarrel_191 : decode cX6_quarrel 191 = .ok (.ireturn, 1) := dk_172 (dk_at dksX6_quarrel_8 7 rfl rfl)
abbrev cX6_isBest : ByteArray := prog_34_method_92_code
def yX6_isBest : MethodName := ⟨RX6, "isBest", "(IIII)Z"⟩
def dkwX6_isBest_1 : List UInt8 := [172]
abbrev dktX6_isBest_1 : List UInt8 := dkwX6_isBest_1 ++ []
def dkwX6_isBest_0 : List UInt8 := [26, 27, 28, 29, 184, 1, 108, 4, 26, 100, 27, 28, 29, 184, 1, 108, 161, 0, 7, 4, 167, 0, 4, 3]
abbrev dktX6_isBest_0 : List UInt8 := dkwX6_isBest_0 ++ dktX6_isBest_1
theorem dksX6_isBest_0 : cX6_isBest.data.toList.drop 0 = dktX6_isBest_0 := by decide +kernel
theorem dksX6_isBest_1 : cX6_isBest.data.toList.drop 24 = dktX6_isBest_1 := dk_seg dksX6_isBest_0 24 rfl rfl
theorem dX6_isBest_0 : decode cX6_isBest 0 = .ok (.iload_n 0, 1) := dk_26 (dk_at dksX6_isBest_0 0 rfl rfl)
theorem dX6_isBest_1 : decode cX6_isBest 1 = .ok (.iload_n 1, 1) := dk_27 (dk_at dksX6_isBest_0 1 rfl rfl)
theorem dX6_isBest_2 : decode cX6_isBest 2 = .ok (.iload_n 2, 1) := dk_28 (dk_at dksX6_isBest_0 2 rfl rfl)
theorem dX6_isBest_3 : decode cX6_isBest 3 = .ok (.iload_n 3, 1) := dk_29 (dk_at dksX6_isBest_0 3 rfl rfl)
theorem dX6_isBest_4 : decode cX6_isBest 4 = .ok (.invokestatic 364, 3) := dk_184 1 108 (dk_at dksX6_isBest_0 4 rfl rfl)
theorem dX6_isBest_7 : decode cX6_isBest 7 = .ok (.iconst 1, 1) := dk_4 (dk_at dksX6_isBest_0 7 rfl rfl)
theorem dX6_isBest_8 : decode cX6_isBest 8 = .ok (.iload_n 0, 1) := dk_26 (dk_at dksX6_isBest_0 8 rfl rfl)
theorem dX6_isBest_9 : decode cX6_isBest 9 = .ok (.isub, 1) := dk_100 (dk_at dksX6_isBest_0 9 rfl rfl)
theorem dX6_isBest_10 : decode cX6_isBest 10 = .ok (.iload_n 1, 1) := dk_27 (dk_at dksX6_isBest_0 10 rfl rfl)
theorem dX6_isBest_11 : decode cX6_isBest 11 = .ok (.iload_n 2, 1) := dk_28 (dk_at dksX6_isBest_0 11 rfl rfl)
theorem dX6_isBest_12 : decode cX6_isBest 12 = .ok (.iload_n 3, 1) := dk_29 (dk_at dksX6_isBest_0 12 rfl rfl)
theorem dX6_isBest_13 : decode cX6_isBest 13 = .ok (.invokestatic 364, 3) := dk_184 1 108 (dk_at dksX6_isBest_0 13 rfl rfl)
theorem dX6_isBest_16 : decode cX6_isBest 16 = .ok (.if_icmp .lt 7, 3) := dk_161 0 7 (dk_at dksX6_isBest_0 16 rfl rfl)
theorem dX6_isBest_19 : decode cX6_isBest 19 = .ok (.iconst 1, 1) := dk_4 (dk_at dksX6_isBest_0 19 rfl rfl)
theorem dX6_isBest_20 : decode cX6_isBest 20 = .ok (.goto 4, 3) := dk_167 0 4 (dk_at dksX6_isBest_0 20 rfl rfl)
theorem dX6_isBest_23 : decode cX6_isBest 23 = .ok (.iconst 0, 1) := dk_3 (dk_at dksX6_isBest_0 23 rfl rfl)
theorem dX6_isBest_24 : decode cX6_isBest 24 = .ok (.ireturn, 1) := dk_172 (dk_at dksX6_isBest_1 0 rfl rfl)
abbrev cX6_hasBy : ByteArray := prog_34_method_91_code
def yX6_hasBy : MethodName := ⟨RX6, "hasBy", "(IIII)I"⟩
def dkwX6_hasBy_1 : List UInt8 := [167, 0, 5, 29, 116, 172]
abbrev dktX6_hasBy_1 : List UInt8 := dkwX6_hasBy_1 ++ []
def dkwX6_hasBy_0 : List UInt8 := [26, 154, 0, 15, 27, 154, 0, 7, 28, 167, 0, 19, 3, 167, 0, 15, 27, 154, 0, 9, 28, 29, 96]
abbrev dktX6_hasBy_0 : List UInt8 := dkwX6_hasBy_0 ++ dktX6_hasBy_1
theorem dksX6_hasBy_0 : cX6_hasBy.data.toList.drop 0 = dktX6_hasBy_0 := by decide +kernel
theorem dksX6_hasBy_1 : cX6_hasBy.data.toList.drop 23 = dktX6_hasBy_1 := dk_seg dksX6_hasBy_0 23 rfl rfl
theorem dX6_hasBy_0 : decode cX6_hasBy 0 = .ok (.iload_n 0, 1) := dk_26 (dk_at dksX6_hasBy_0 0 rfl rfl)
theorem dX6_hasBy_1 : decode cX6_hasBy 1 = .ok (.ifCond .ne 15, 3) := dk_154 0 15 (dk_at dksX6_hasBy_0 1 rfl rfl)
theorem dX6_hasBy_4 : decode cX6_hasBy 4 = .ok (.iload_n 1, 1) := dk_27 (dk_at dksX6_hasBy_0 4 rfl rfl)
theorem dX6_hasBy_5 : decode cX6_hasBy 5 = .ok (.ifCond .ne 7, 3) := dk_154 0 7 (dk_at dksX6_hasBy_0 5 rfl rfl)
theorem dX6_hasBy_8 : decode cX6_hasBy 8 = .ok (.iload_n 2, 1) := dk_28 (dk_at dksX6_hasBy_0 8 rfl rfl)
theorem dX6_hasBy_9 : decode cX6_hasBy 9 = .ok (.goto 19, 3) := dk_167 0 19 (dk_at dksX6_hasBy_0 9 rfl rfl)
theorem dX6_hasBy_12 : decode cX6_hasBy 12 = .ok (.iconst 0, 1) := dk_3 (dk_at dksX6_hasBy_0 12 rfl rfl)
theorem dX6_hasBy_13 : decode cX6_hasBy 13 = .ok (.goto 15, 3) := dk_167 0 15 (dk_at dksX6_hasBy_0 13 rfl rfl)
theorem dX6_hasBy_16 : decode cX6_hasBy 16 = .ok (.iload_n 1, 1) := dk_27 (dk_at dksX6_hasBy_0 16 rfl rfl)
theorem dX6_hasBy_17 : decode cX6_hasBy 17 = .ok (.ifCond .ne 9, 3) := dk_154 0 9 (dk_at dksX6_hasBy_0 17 rfl rfl)
theorem dX6_hasBy_20 : decode cX6_hasBy 20 = .ok (.iload_n 2, 1) := dk_28 (dk_at dksX6_hasBy_0 20 rfl rfl)
theorem dX6_hasBy_21 : decode cX6_hasBy 21 = .ok (.iload_n 3, 1) := dk_29 (dk_at dksX6_hasBy_0 21 rfl rfl)
theorem dX6_hasBy_22 : decode cX6_hasBy 22 = .ok (.iadd, 1) := dk_96 (dk_at dksX6_hasBy_0 22 rfl rfl)
theorem dX6_hasBy_23 : decode cX6_hasBy 23 = .ok (.goto 5, 3) := dk_167 0 5 (dk_at dksX6_hasBy_1 0 rfl rfl)
theorem dX6_hasBy_26 : decode cX6_hasBy 26 = .ok (.iload_n 3, 1) := dk_29 (dk_at dksX6_hasBy_1 3 rfl rfl)
theorem dX6_hasBy_27 : decode cX6_hasBy 27 = .ok (.ineg, 1) := dk_116 (dk_at dksX6_hasBy_1 4 rfl rfl)
theorem dX6_hasBy_28 : decode cX6_hasBy 28 = .ok (.ireturn, 1) := dk_172 (dk_at dksX6_hasBy_1 5 rfl rfl)
abbrev cX6_enough : ByteArray := prog_34_method_94_code
def yX6_enough : MethodName := ⟨RX6, "enough", "(IIII)J"⟩
def dkwX6_enough_10 : List UInt8 := [167, 255, 234, 21, 4, 154, 0, 11, 22, 5, 22, 9, 109, 167, 0, 8, 22, 7, 22, 9, 109, 173]
abbrev dktX6_enough_10 : List UInt8 := dkwX6_enough_10 ++ []
def dkwX6_enough_9 : List UInt8 := [22, 11, 9, 148, 153, 0, 21, 22, 9, 22, 11, 113, 55, 13, 22, 11, 55, 9, 22, 13, 55, 11]
abbrev dktX6_enough_9 : List UInt8 := dkwX6_enough_9 ++ dktX6_enough_10
def dkwX6_enough_8 : List UInt8 := [180, 0, 85, 21, 9, 47, 97, 55, 5, 132, 9, 1, 167, 255, 234, 22, 7, 55, 9, 22, 5, 55, 11]
abbrev dktX6_enough_8 : List UInt8 := dkwX6_enough_8 ++ dktX6_enough_9
def dkwX6_enough_7 : List UInt8 := [9, 55, 5, 10, 7, 27, 104, 121, 55, 7, 28, 54, 9, 21, 9, 16, 14, 162, 0, 21, 22, 5, 42]
abbrev dktX6_enough_7 : List UInt8 := dkwX6_enough_7 ++ dktX6_enough_8
def dkwX6_enough_6 : List UInt8 := [16, 16, 29, 100, 133, 105, 167, 0, 4, 9, 97, 80, 132, 6, 255, 167, 255, 206, 132, 5, 1, 167, 255, 190]
abbrev dktX6_enough_6 : List UInt8 := dkwX6_enough_6 ++ dktX6_enough_7
def dkwX6_enough_5 : List UInt8 := [180, 0, 85, 21, 6, 47, 29, 133, 105, 21, 6, 158, 0, 21, 42, 180, 0, 85, 21, 6, 4, 100, 47]
abbrev dktX6_enough_5 : List UInt8 := dkwX6_enough_5 ++ dktX6_enough_6
def dkwX6_enough_4 : List UInt8 := [54, 5, 21, 5, 27, 162, 0, 66, 16, 13, 54, 6, 21, 6, 155, 0, 51, 42, 180, 0, 85, 21, 6, 42]
abbrev dktX6_enough_4 : List UInt8 := dkwX6_enough_4 ++ dktX6_enough_5
def dkwX6_enough_3 : List UInt8 := [42, 180, 0, 85, 21, 5, 21, 5, 154, 0, 7, 10, 167, 0, 4, 9, 80, 132, 5, 1, 167, 255, 229, 3]
abbrev dktX6_enough_3 : List UInt8 := dkwX6_enough_3 ++ dktX6_enough_4
def dkwX6_enough_2 : List UInt8 := [167, 0, 4, 3, 4, 4, 182, 0, 171, 153, 0, 5, 9, 173, 3, 54, 5, 21, 5, 16, 14, 162, 0, 26]
abbrev dktX6_enough_2 : List UInt8 := dkwX6_enough_2 ++ dktX6_enough_3
def dkwX6_enough_1 : List UInt8 := [153, 0, 23, 29, 3, 16, 16, 184, 0, 129, 153, 0, 13, 21, 4, 3, 4, 184, 0, 129, 154, 0, 7, 4]
abbrev dktX6_enough_1 : List UInt8 := dkwX6_enough_1 ++ dktX6_enough_2
def dkwX6_enough_0 : List UInt8 := [42, 3, 181, 0, 95, 42, 27, 3, 16, 12, 184, 0, 129, 153, 0, 33, 28, 3, 16, 13, 184, 0, 129]
abbrev dktX6_enough_0 : List UInt8 := dkwX6_enough_0 ++ dktX6_enough_1
theorem dksX6_enough_0 : cX6_enough.data.toList.drop 0 = dktX6_enough_0 := by decide +kernel
theorem dksX6_enough_1 : cX6_enough.data.toList.drop 23 = dktX6_enough_1 := dk_seg dksX6_enough_0 23 rfl rfl
theorem dksX6_enough_2 : cX6_enough.data.toList.drop 47 = dktX6_enough_2 := dk_seg dksX6_enough_1 24 rfl rfl
theorem dksX6_enough_3 : cX6_enough.data.toList.drop 71 = dktX6_enough_3 := dk_seg dksX6_enough_2 24 rfl rfl
theorem dksX6_enough_4 : cX6_enough.data.toList.drop 95 = dktX6_enough_4 := dk_seg dksX6_enough_3 24 rfl rfl
theorem dksX6_enough_5 : cX6_enough.data.toList.drop 119 = dktX6_enough_5 := dk_seg dksX6_enough_4 24 rfl rfl
theorem dksX6_enough_6 : cX6_enough.data.toList.drop 142 = dktX6_enough_6 := dk_seg dksX6_enough_5 23 rfl rfl
theorem dksX6_enough_7 : cX6_enough.data.toList.drop 166 = dktX6_enough_7 := dk_seg dksX6_enough_6 24 rfl rfl
theorem dksX6_enough_8 : cX6_enough.data.toList.drop 189 = dktX6_enough_8 := dk_seg dksX6_enough_7 23 rfl rfl
theorem dksX6_enough_9 : cX6_enough.data.toList.drop 212 = dktX6_enough_9 := dk_seg dksX6_enough_8 23 rfl rfl
theorem dksX6_enough_10 : cX6_enough.data.toList.drop 234 = dktX6_enough_10 := dk_seg dksX6_enough_9 22 rfl rfl
theorem dX6_enough_0 : decode cX6_enough 0 = .ok (.aload_n 0, 1) := dk_42 (dk_at dksX6_enough_0 0 rfl rfl)
theorem dX6_enough_1 : decode cX6_enough 1 = .ok (.iconst 0, 1) := dk_3 (dk_at dksX6_enough_0 1 rfl rfl)
theorem dX6_enough_2 : decode cX6_enough 2 = .ok (.putfield 95, 3) := dk_181 0 95 (dk_at dksX6_enough_0 2 rfl rfl)
theorem dX6_enough_5 : decode cX6_enough 5 = .ok (.aload_n 0, 1) := dk_42 (dk_at dksX6_enough_0 5 rfl rfl)
theorem dX6_enough_6 : decode cX6_enough 6 = .ok (.iload_n 1, 1) := dk_27 (dk_at dksX6_enough_0 6 rfl rfl)
theorem dX6_enough_7 : decode cX6_enough 7 = .ok (.iconst 0, 1) := dk_3 (dk_at dksX6_enough_0 7 rfl rfl)
theorem dX6_enough_8 : decode cX6_enough 8 = .ok (.bipush 12, 2) := dk_16 12 (dk_at dksX6_enough_0 8 rfl rfl)
theorem dX6_enough_10 : decode cX6_enough 10 = .ok (.invokestatic 129, 3) := dk_184 0 129 (dk_at dksX6_enough_0 10 rfl rfl)
theorem dX6_enough_13 : decode cX6_enough 13 = .ok (.ifCond .eq 33, 3) := dk_153 0 33 (dk_at dksX6_enough_0 13 rfl rfl)
theorem dX6_enough_16 : decode cX6_enough 16 = .ok (.iload_n 2, 1) := dk_28 (dk_at dksX6_enough_0 16 rfl rfl)
theorem dX6_enough_17 : decode cX6_enough 17 = .ok (.iconst 0, 1) := dk_3 (dk_at dksX6_enough_0 17 rfl rfl)
theorem dX6_enough_18 : decode cX6_enough 18 = .ok (.bipush 13, 2) := dk_16 13 (dk_at dksX6_enough_0 18 rfl rfl)
theorem dX6_enough_20 : decode cX6_enough 20 = .ok (.invokestatic 129, 3) := dk_184 0 129 (dk_at dksX6_enough_0 20 rfl rfl)
theorem dX6_enough_23 : decode cX6_enough 23 = .ok (.ifCond .eq 23, 3) := dk_153 0 23 (dk_at dksX6_enough_1 0 rfl rfl)
theorem dX6_enough_26 : decode cX6_enough 26 = .ok (.iload_n 3, 1) := dk_29 (dk_at dksX6_enough_1 3 rfl rfl)
theorem dX6_enough_27 : decode cX6_enough 27 = .ok (.iconst 0, 1) := dk_3 (dk_at dksX6_enough_1 4 rfl rfl)
theorem dX6_enough_28 : decode cX6_enough 28 = .ok (.bipush 16, 2) := dk_16 16 (dk_at dksX6_enough_1 5 rfl rfl)
theorem dX6_enough_30 : decode cX6_enough 30 = .ok (.invokestatic 129, 3) := dk_184 0 129 (dk_at dksX6_enough_1 7 rfl rfl)
theorem dX6_enough_33 : decode cX6_enough 33 = .ok (.ifCond .eq 13, 3) := dk_153 0 13 (dk_at dksX6_enough_1 10 rfl rfl)
theorem dX6_enough_36 : decode cX6_enough 36 = .ok (.iload 4, 2) := dk_21 4 (dk_at dksX6_enough_1 13 rfl rfl)
theorem dX6_enough_38 : decode cX6_enough 38 = .ok (.iconst 0, 1) := dk_3 (dk_at dksX6_enough_1 15 rfl rfl)
theorem dX6_enough_39 : decode cX6_enough 39 = .ok (.iconst 1, 1) := dk_4 (dk_at dksX6_enough_1 16 rfl rfl)
theorem dX6_enough_40 : decode cX6_enough 40 = .ok (.invokestatic 129, 3) := dk_184 0 129 (dk_at dksX6_enough_1 17 rfl rfl)
theorem dX6_enough_43 : decode cX6_enough 43 = .ok (.ifCond .ne 7, 3) := dk_154 0 7 (dk_at dksX6_enough_1 20 rfl rfl)
theorem dX6_enough_46 : decode cX6_enough 46 = .ok (.iconst 1, 1) := dk_4 (dk_at dksX6_enough_1 23 rfl rfl)
theorem dX6_enough_47 : decode cX6_enough 47 = .ok (.goto 4, 3) := dk_167 0 4 (dk_at dksX6_enough_2 0 rfl rfl)
theorem dX6_enough_50 : decode cX6_enough 50 = .ok (.iconst 0, 1) := dk_3 (dk_at dksX6_enough_2 3 rfl rfl)
theorem dX6_enough_51 : decode cX6_enough 51 = .ok (.iconst 1, 1) := dk_4 (dk_at dksX6_enough_2 4 rfl rfl)
theorem dX6_enough_52 : decode cX6_enough 52 = .ok (.iconst 1, 1) := dk_4 (dk_at dksX6_enough_2 5 rfl rfl)
theorem dX6_enough_53 : decode cX6_enough 53 = .ok (.invokevirtual 171, 3) := dk_182 0 171 (dk_at dksX6_enough_2 6 rfl rfl)
theorem dX6_enough_56 : decode cX6_enough 56 = .ok (.ifCond .eq 5, 3) := dk_153 0 5 (dk_at dksX6_enough_2 9 rfl rfl)
theorem dX6_enough_59 : decode cX6_enough 59 = .ok (.lconst 0, 1) := dk_9 (dk_at dksX6_enough_2 12 rfl rfl)
theorem dX6_enough_60 : decode cX6_enough 60 = .ok (.lreturn, 1) := dk_173 (dk_at dksX6_enough_2 13 rfl rfl)
theorem dX6_enough_61 : decode cX6_enough 61 = .ok (.iconst 0, 1) := dk_3 (dk_at dksX6_enough_2 14 rfl rfl)
theorem dX6_enough_62 : decode cX6_enough 62 = .ok (.istore 5, 2) := dk_54 5 (dk_at dksX6_enough_2 15 rfl rfl)
theorem dX6_enough_64 : decode cX6_enough 64 = .ok (.iload 5, 2) := dk_21 5 (dk_at dksX6_enough_2 17 rfl rfl)
theorem dX6_enough_66 : decode cX6_enough 66 = .ok (.bipush 14, 2) := dk_16 14 (dk_at dksX6_enough_2 19 rfl rfl)
theorem dX6_enough_68 : decode cX6_enough 68 = .ok (.if_icmp .ge 26, 3) := dk_162 0 26 (dk_at dksX6_enough_2 21 rfl rfl)
theorem dX6_enough_71 : decode cX6_enough 71 = .ok (.aload_n 0, 1) := dk_42 (dk_at dksX6_enough_3 0 rfl rfl)
theorem dX6_enough_72 : decode cX6_enough 72 = .ok (.getfield 85, 3) := dk_180 0 85 (dk_at dksX6_enough_3 1 rfl rfl)
theorem dX6_enough_75 : decode cX6_enough 75 = .ok (.iload 5, 2) := dk_21 5 (dk_at dksX6_enough_3 4 rfl rfl)
theorem dX6_enough_77 : decode cX6_enough 77 = .ok (.iload 5, 2) := dk_21 5 (dk_at dksX6_enough_3 6 rfl rfl)
theorem dX6_enough_79 : decode cX6_enough 79 = .ok (.ifCond .ne 7, 3) := dk_154 0 7 (dk_at dksX6_enough_3 8 rfl rfl)
theorem dX6_enough_82 : decode cX6_enough 82 = .ok (.lconst 1, 1) := dk_10 (dk_at dksX6_enough_3 11 rfl rfl)
theorem dX6_enough_83 : decode cX6_enough 83 = .ok (.goto 4, 3) := dk_167 0 4 (dk_at dksX6_enough_3 12 rfl rfl)
theorem dX6_enough_86 : decode cX6_enough 86 = .ok (.lconst 0, 1) := dk_9 (dk_at dksX6_enough_3 15 rfl rfl)
theorem dX6_enough_87 : decode cX6_enough 87 = .ok (.lastore, 1) := dk_80 (dk_at dksX6_enough_3 16 rfl rfl)
theorem dX6_enough_88 : decode cX6_enough 88 = .ok (.iinc 5 1, 3) := dk_132 5 1 (dk_at dksX6_enough_3 17 rfl rfl)
theorem dX6_enough_91 : decode cX6_enough 91 = .ok (.goto (-27), 3) := dk_167 255 229 (dk_at dksX6_enough_3 20 rfl rfl)
theorem dX6_enough_94 : decode cX6_enough 94 = .ok (.iconst 0, 1) := dk_3 (dk_at dksX6_enough_3 23 rfl rfl)
theorem dX6_enough_95 : decode cX6_enough 95 = .ok (.istore 5, 2) := dk_54 5 (dk_at dksX6_enough_4 0 rfl rfl)
theorem dX6_enough_97 : decode cX6_enough 97 = .ok (.iload 5, 2) := dk_21 5 (dk_at dksX6_enough_4 2 rfl rfl)
theorem dX6_enough_99 : decode cX6_enough 99 = .ok (.iload_n 1, 1) := dk_27 (dk_at dksX6_enough_4 4 rfl rfl)
theorem dX6_enough_100 : decode cX6_enough 100 = .ok (.if_icmp .ge 66, 3) := dk_162 0 66 (dk_at dksX6_enough_4 5 rfl rfl)
theorem dX6_enough_103 : decode cX6_enough 103 = .ok (.bipush 13, 2) := dk_16 13 (dk_at dksX6_enough_4 8 rfl rfl)
theorem dX6_enough_105 : decode cX6_enough 105 = .ok (.istore 6, 2) := dk_54 6 (dk_at dksX6_enough_4 10 rfl rfl)
theorem dX6_enough_107 : decode cX6_enough 107 = .ok (.iload 6, 2) := dk_21 6 (dk_at dksX6_enough_4 12 rfl rfl)
theorem dX6_enough_109 : decode cX6_enough 109 = .ok (.ifCond .lt 51, 3) := dk_155 0 51 (dk_at dksX6_enough_4 14 rfl rfl)
theorem dX6_enough_112 : decode cX6_enough 112 = .ok (.aload_n 0, 1) := dk_42 (dk_at dksX6_enough_4 17 rfl rfl)
theorem dX6_enough_113 : decode cX6_enough 113 = .ok (.getfield 85, 3) := dk_180 0 85 (dk_at dksX6_enough_4 18 rfl rfl)
theorem dX6_enough_116 : decode cX6_enough 116 = .ok (.iload 6, 2) := dk_21 6 (dk_at dksX6_enough_4 21 rfl rfl)
theorem dX6_enough_118 : decode cX6_enough 118 = .ok (.aload_n 0, 1) := dk_42 (dk_at dksX6_enough_4 23 rfl rfl)
theorem dX6_enough_119 : decode cX6_enough 119 = .ok (.getfield 85, 3) := dk_180 0 85 (dk_at dksX6_enough_5 0 rfl rfl)
theorem dX6_enough_122 : decode cX6_enough 122 = .ok (.iload 6, 2) := dk_21 6 (dk_at dksX6_enough_5 3 rfl rfl)
theorem dX6_enough_124 : decode cX6_enough 124 = .ok (.laload, 1) := dk_47 (dk_at dksX6_enough_5 5 rfl rfl)
theorem dX6_enough_125 : decode cX6_enough 125 = .ok (.iload_n 3, 1) := dk_29 (dk_at dksX6_enough_5 6 rfl rfl)
theorem dX6_enough_126 : decode cX6_enough 126 = .ok (.i2l, 1) := dk_133 (dk_at dksX6_enough_5 7 rfl rfl)
theorem dX6_enough_127 : decode cX6_enough 127 = .ok (.lmul, 1) := dk_105 (dk_at dksX6_enough_5 8 rfl rfl)
theorem dX6_enough_128 : decode cX6_enough 128 = .ok (.iload 6, 2) := dk_21 6 (dk_at dksX6_enough_5 9 rfl rfl)
theorem dX6_enough_130 : decode cX6_enough 130 = .ok (.ifCond .le 21, 3) := dk_158 0 21 (dk_at dksX6_enough_5 11 rfl rfl)
theorem dX6_enough_133 : decode cX6_enough 133 = .ok (.aload_n 0, 1) := dk_42 (dk_at dksX6_enough_5 14 rfl rfl)
theorem dX6_enough_134 : decode cX6_enough 134 = .ok (.getfield 85, 3) := dk_180 0 85 (dk_at dksX6_enough_5 15 rfl rfl)
theorem dX6_enough_137 : decode cX6_enough 137 = .ok (.iload 6, 2) := dk_21 6 (dk_at dksX6_enough_5 18 rfl rfl)
theorem dX6_enough_139 : decode cX6_enough 139 = .ok (.iconst 1, 1) := dk_4 (dk_at dksX6_enough_5 20 rfl rfl)
theorem dX6_enough_140 : decode cX6_enough 140 = .ok (.isub, 1) := dk_100 (dk_at dksX6_enough_5 21 rfl rfl)
theorem dX6_enough_141 : decode cX6_enough 141 = .ok (.laload, 1) := dk_47 (dk_at dksX6_enough_5 22 rfl rfl)
theorem dX6_enough_142 : decode cX6_enough 142 = .ok (.bipush 16, 2) := dk_16 16 (dk_at dksX6_enough_6 0 rfl rfl)
theorem dX6_enough_144 : decode cX6_enough 144 = .ok (.iload_n 3, 1) := dk_29 (dk_at dksX6_enough_6 2 rfl rfl)
theorem dX6_enough_145 : decode cX6_enough 145 = .ok (.isub, 1) := dk_100 (dk_at dksX6_enough_6 3 rfl rfl)
theorem dX6_enough_146 : decode cX6_enough 146 = .ok (.i2l, 1) := dk_133 (dk_at dksX6_enough_6 4 rfl rfl)
theorem dX6_enough_147 : decode cX6_enough 147 = .ok (.lmul, 1) := dk_105 (dk_at dksX6_enough_6 5 rfl rfl)
theorem dX6_enough_148 : decode cX6_enough 148 = .ok (.goto 4, 3) := dk_167 0 4 (dk_at dksX6_enough_6 6 rfl rfl)
theorem dX6_enough_151 : decode cX6_enough 151 = .ok (.lconst 0, 1) := dk_9 (dk_at dksX6_enough_6 9 rfl rfl)
theorem dX6_enough_152 : decode cX6_enough 152 = .ok (.ladd, 1) := dk_97 (dk_at dksX6_enough_6 10 rfl rfl)
theorem dX6_enough_153 : decode cX6_enough 153 = .ok (.lastore, 1) := dk_80 (dk_at dksX6_enough_6 11 rfl rfl)
theorem dX6_enough_154 : decode cX6_enough 154 = .ok (.iinc 6 (-1), 3) := dk_132 6 255 (dk_at dksX6_enough_6 12 rfl rfl)
theorem dX6_enough_157 : decode cX6_enough 157 = .ok (.goto (-50), 3) := dk_167 255 206 (dk_at dksX6_enough_6 15 rfl rfl)
theorem dX6_enough_160 : decode cX6_enough 160 = .ok (.iinc 5 1, 3) := dk_132 5 1 (dk_at dksX6_enough_6 18 rfl rfl)
theorem dX6_enough_163 : decode cX6_enough 163 = .ok (.goto (-66), 3) := dk_167 255 190 (dk_at dksX6_enough_6 21 rfl rfl)
theorem dX6_enough_166 : decode cX6_enough 166 = .ok (.lconst 0, 1) := dk_9 (dk_at dksX6_enough_7 0 rfl rfl)
theorem dX6_enough_167 : decode cX6_enough 167 = .ok (.lstore 5, 2) := dk_55 5 (dk_at dksX6_enough_7 1 rfl rfl)
theorem dX6_enough_169 : decode cX6_enough 169 = .ok (.lconst 1, 1) := dk_10 (dk_at dksX6_enough_7 3 rfl rfl)
theorem dX6_enough_170 : decode cX6_enough 170 = .ok (.iconst 4, 1) := dk_7 (dk_at dksX6_enough_7 4 rfl rfl)
theorem dX6_enough_171 : decode cX6_enough 171 = .ok (.iload_n 1, 1) := dk_27 (dk_at dksX6_enough_7 5 rfl rfl)
theorem dX6_enough_172 : decode cX6_enough 172 = .ok (.imul, 1) := dk_104 (dk_at dksX6_enough_7 6 rfl rfl)
theorem dX6_enough_173 : decode cX6_enough 173 = .ok (.lshl, 1) := dk_121 (dk_at dksX6_enough_7 7 rfl rfl)
theorem dX6_enough_174 : decode cX6_enough 174 = .ok (.lstore 7, 2) := dk_55 7 (dk_at dksX6_enough_7 8 rfl rfl)
theorem dX6_enough_176 : decode cX6_enough 176 = .ok (.iload_n 2, 1) := dk_28 (dk_at dksX6_enough_7 10 rfl rfl)
theorem dX6_enough_177 : decode cX6_enough 177 = .ok (.istore 9, 2) := dk_54 9 (dk_at dksX6_enough_7 11 rfl rfl)
theorem dX6_enough_179 : decode cX6_enough 179 = .ok (.iload 9, 2) := dk_21 9 (dk_at dksX6_enough_7 13 rfl rfl)
theorem dX6_enough_181 : decode cX6_enough 181 = .ok (.bipush 14, 2) := dk_16 14 (dk_at dksX6_enough_7 15 rfl rfl)
theorem dX6_enough_183 : decode cX6_enough 183 = .ok (.if_icmp .ge 21, 3) := dk_162 0 21 (dk_at dksX6_enough_7 17 rfl rfl)
theorem dX6_enough_186 : decode cX6_enough 186 = .ok (.lload 5, 2) := dk_22 5 (dk_at dksX6_enough_7 20 rfl rfl)
theorem dX6_enough_188 : decode cX6_enough 188 = .ok (.aload_n 0, 1) := dk_42 (dk_at dksX6_enough_7 22 rfl rfl)
theorem dX6_enough_189 : decode cX6_enough 189 = .ok (.getfield 85, 3) := dk_180 0 85 (dk_at dksX6_enough_8 0 rfl rfl)
theorem dX6_enough_192 : decode cX6_enough 192 = .ok (.iload 9, 2) := dk_21 9 (dk_at dksX6_enough_8 3 rfl rfl)
theorem dX6_enough_194 : decode cX6_enough 194 = .ok (.laload, 1) := dk_47 (dk_at dksX6_enough_8 5 rfl rfl)
theorem dX6_enough_195 : decode cX6_enough 195 = .ok (.ladd, 1) := dk_97 (dk_at dksX6_enough_8 6 rfl rfl)
theorem dX6_enough_196 : decode cX6_enough 196 = .ok (.lstore 5, 2) := dk_55 5 (dk_at dksX6_enough_8 7 rfl rfl)
theorem dX6_enough_198 : decode cX6_enough 198 = .ok (.iinc 9 1, 3) := dk_132 9 1 (dk_at dksX6_enough_8 9 rfl rfl)
theorem dX6_enough_201 : decode cX6_enough 201 = .ok (.goto (-22), 3) := dk_167 255 234 (dk_at dksX6_enough_8 12 rfl rfl)
theorem dX6_enough_204 : decode cX6_enough 204 = .ok (.lload 7, 2) := dk_22 7 (dk_at dksX6_enough_8 15 rfl rfl)
theorem dX6_enough_206 : decode cX6_enough 206 = .ok (.lstore 9, 2) := dk_55 9 (dk_at dksX6_enough_8 17 rfl rfl)
theorem dX6_enough_208 : decode cX6_enough 208 = .ok (.lload 5, 2) := dk_22 5 (dk_at dksX6_enough_8 19 rfl rfl)
theorem dX6_enough_210 : decode cX6_enough 210 = .ok (.lstore 11, 2) := dk_55 11 (dk_at dksX6_enough_8 21 rfl rfl)
theorem dX6_enough_212 : decode cX6_enough 212 = .ok (.lload 11, 2) := dk_22 11 (dk_at dksX6_enough_9 0 rfl rfl)
theorem dX6_enough_214 : decode cX6_enough 214 = .ok (.lconst 0, 1) := dk_9 (dk_at dksX6_enough_9 2 rfl rfl)
theorem dX6_enough_215 : decode cX6_enough 215 = .ok (.lcmp, 1) := dk_148 (dk_at dksX6_enough_9 3 rfl rfl)
theorem dX6_enough_216 : decode cX6_enough 216 = .ok (.ifCond .eq 21, 3) := dk_153 0 21 (dk_at dksX6_enough_9 4 rfl rfl)
theorem dX6_enough_219 : decode cX6_enough 219 = .ok (.lload 9, 2) := dk_22 9 (dk_at dksX6_enough_9 7 rfl rfl)
theorem dX6_enough_221 : decode cX6_enough 221 = .ok (.lload 11, 2) := dk_22 11 (dk_at dksX6_enough_9 9 rfl rfl)
theorem dX6_enough_223 : decode cX6_enough 223 = .ok (.lrem, 1) := dk_113 (dk_at dksX6_enough_9 11 rfl rfl)
theorem dX6_enough_224 : decode cX6_enough 224 = .ok (.lstore 13, 2) := dk_55 13 (dk_at dksX6_enough_9 12 rfl rfl)
theorem dX6_enough_226 : decode cX6_enough 226 = .ok (.lload 11, 2) := dk_22 11 (dk_at dksX6_enough_9 14 rfl rfl)
theorem dX6_enough_228 : decode cX6_enough 228 = .ok (.lstore 9, 2) := dk_55 9 (dk_at dksX6_enough_9 16 rfl rfl)
theorem dX6_enough_230 : decode cX6_enough 230 = .ok (.lload 13, 2) := dk_22 13 (dk_at dksX6_enough_9 18 rfl rfl)
theorem dX6_enough_232 : decode cX6_enough 232 = .ok (.lstore 11, 2) := dk_55 11 (dk_at dksX6_enough_9 20 rfl rfl)
theorem dX6_enough_234 : decode cX6_enough 234 = .ok (.goto (-22), 3) := dk_167 255 234 (dk_at dksX6_enough_10 0 rfl rfl)
theorem dX6_enough_237 : decode cX6_enough 237 = .ok (.iload 4, 2) := dk_21 4 (dk_at dksX6_enough_10 3 rfl rfl)
theorem dX6_enough_239 : decode cX6_enough 239 = .ok (.ifCond .ne 11, 3) := dk_154 0 11 (dk_at dksX6_enough_10 5 rfl rfl)
theorem dX6_enough_242 : decode cX6_enough 242 = .ok (.lload 5, 2) := dk_22 5 (dk_at dksX6_enough_10 8 rfl rfl)
theorem dX6_enough_244 : decode cX6_enough 244 = .ok (.lload 9, 2) := dk_22 9 (dk_at dksX6_enough_10 10 rfl rfl)
theorem dX6_enough_246 : decode cX6_enough 246 = .ok (.ldiv, 1) := dk_109 (dk_at dksX6_enough_10 12 rfl rfl)
theorem dX6_enough_247 : decode cX6_enough 247 = .ok (.goto 8, 3) := dk_167 0 8 (dk_at dksX6_enough_10 13 rfl rfl)
theorem dX6_enough_250 : decode cX6_enough 250 = .ok (.lload 7, 2) := dk_22 7 (dk_at dksX6_enough_10 16 rfl rfl)
theorem dX6_enough_252 : decode cX6_enough 252 = .ok (.lload 9, 2) := dk_22 9 (dk_at dksX6_enough_10 18 rfl rfl)
theorem dX6_enough_254 : decode cX6_enough 254 = .ok (.ldiv, 1) := dk_109 (dk_at dksX6_enough_10 20 rfl rfl)
theorem dX6_enough_255 : decode cX6_enough 255 = .ok (.lreturn, 1) := dk_173 (dk_at dksX6_enough_10 21 rfl rfl)
abbrev cX6_rent : ByteArray := prog_34_method_96_code
def yX6_rent : MethodName := ⟨RX6, "rent", "(III)I"⟩
def dkwX6_rent_5 : List UInt8 := [3, 172]
abbrev dktX6_rent_5 : List UInt8 := dkwX6_rent_5 ++ []
def dkwX6_rent_4 : List UInt8 := [28, 27, 184, 0, 254, 153, 0, 19, 21, 4, 42, 180, 0, 31, 27, 50, 4, 46, 184, 0, 235, 167, 0, 4]
abbrev dktX6_rent_4 : List UInt8 := dkwX6_rent_4 ++ dktX6_rent_5
def dkwX6_rent_3 : List UInt8 := [16, 60, 162, 0, 22, 42, 28, 21, 4, 4, 96, 182, 1, 116, 29, 163, 0, 9, 132, 4, 1, 167, 255, 233]
abbrev dktX6_rent_3 : List UInt8 := dkwX6_rent_3 ++ dktX6_rent_4
def dkwX6_rent_2 : List UInt8 := [154, 0, 7, 4, 167, 0, 4, 3, 5, 4, 182, 0, 171, 153, 0, 5, 3, 172, 3, 54, 4, 21, 4]
abbrev dktX6_rent_2 : List UInt8 := dkwX6_rent_2 ++ dktX6_rent_3
def dkwX6_rent_1 : List UInt8 := [154, 0, 40, 42, 28, 3, 42, 182, 1, 74, 184, 0, 129, 153, 0, 14, 29, 3, 17, 3, 231, 184, 0, 129]
abbrev dktX6_rent_1 : List UInt8 := dkwX6_rent_1 ++ dktX6_rent_2
def dkwX6_rent_0 : List UInt8 := [42, 3, 181, 0, 95, 42, 42, 27, 182, 1, 65, 154, 0, 7, 4, 167, 0, 4, 3, 4, 3, 182, 0, 171]
abbrev dktX6_rent_0 : List UInt8 := dkwX6_rent_0 ++ dktX6_rent_1
theorem dksX6_rent_0 : cX6_rent.data.toList.drop 0 = dktX6_rent_0 := by decide +kernel
theorem dksX6_rent_1 : cX6_rent.data.toList.drop 24 = dktX6_rent_1 := dk_seg dksX6_rent_0 24 rfl rfl
theorem dksX6_rent_2 : cX6_rent.data.toList.drop 48 = dktX6_rent_2 := dk_seg dksX6_rent_1 24 rfl rfl
theorem dksX6_rent_3 : cX6_rent.data.toList.drop 71 = dktX6_rent_3 := dk_seg dksX6_rent_2 23 rfl rfl
theorem dksX6_rent_4 : cX6_rent.data.toList.drop 95 = dktX6_rent_4 := dk_seg dksX6_rent_3 24 rfl rfl
theorem dksX6_rent_5 : cX6_rent.data.toList.drop 119 = dktX6_rent_5 := dk_seg dksX6_rent_4 24 rfl rfl
theorem dX6_rent_0 : decode cX6_rent 0 = .ok (.aload_n 0, 1) := dk_42 (dk_at dksX6_rent_0 0 rfl rfl)
theorem dX6_rent_1 : decode cX6_rent 1 = .ok (.iconst 0, 1) := dk_3 (dk_at dksX6_rent_0 1 rfl rfl)
theorem dX6_rent_2 : decode cX6_rent 2 = .ok (.putfield 95, 3) := dk_181 0 95 (dk_at dksX6_rent_0 2 rfl rfl)
theorem dX6_rent_5 : decode cX6_rent 5 = .ok (.aload_n 0, 1) := dk_42 (dk_at dksX6_rent_0 5 rfl rfl)
theorem dX6_rent_6 : decode cX6_rent 6 = .ok (.aload_n 0, 1) := dk_42 (dk_at dksX6_rent_0 6 rfl rfl)
theorem dX6_rent_7 : decode cX6_rent 7 = .ok (.iload_n 1, 1) := dk_27 (dk_at dksX6_rent_0 7 rfl rfl)
theorem dX6_rent_8 : decode cX6_rent 8 = .ok (.invokevirtual 321, 3) := dk_182 1 65 (dk_at dksX6_rent_0 8 rfl rfl)
theorem dX6_rent_11 : decode cX6_rent 11 = .ok (.ifCond .ne 7, 3) := dk_154 0 7 (dk_at dksX6_rent_0 11 rfl rfl)
theorem dX6_rent_14 : decode cX6_rent 14 = .ok (.iconst 1, 1) := dk_4 (dk_at dksX6_rent_0 14 rfl rfl)
theorem dX6_rent_15 : decode cX6_rent 15 = .ok (.goto 4, 3) := dk_167 0 4 (dk_at dksX6_rent_0 15 rfl rfl)
theorem dX6_rent_18 : decode cX6_rent 18 = .ok (.iconst 0, 1) := dk_3 (dk_at dksX6_rent_0 18 rfl rfl)
theorem dX6_rent_19 : decode cX6_rent 19 = .ok (.iconst 1, 1) := dk_4 (dk_at dksX6_rent_0 19 rfl rfl)
theorem dX6_rent_20 : decode cX6_rent 20 = .ok (.iconst 0, 1) := dk_3 (dk_at dksX6_rent_0 20 rfl rfl)
theorem dX6_rent_21 : decode cX6_rent 21 = .ok (.invokevirtual 171, 3) := dk_182 0 171 (dk_at dksX6_rent_0 21 rfl rfl)
theorem dX6_rent_24 : decode cX6_rent 24 = .ok (.ifCond .ne 40, 3) := dk_154 0 40 (dk_at dksX6_rent_1 0 rfl rfl)
theorem dX6_rent_27 : decode cX6_rent 27 = .ok (.aload_n 0, 1) := dk_42 (dk_at dksX6_rent_1 3 rfl rfl)
theorem dX6_rent_28 : decode cX6_rent 28 = .ok (.iload_n 2, 1) := dk_28 (dk_at dksX6_rent_1 4 rfl rfl)
theorem dX6_rent_29 : decode cX6_rent 29 = .ok (.iconst 0, 1) := dk_3 (dk_at dksX6_rent_1 5 rfl rfl)
theorem dX6_rent_30 : decode cX6_rent 30 = .ok (.aload_n 0, 1) := dk_42 (dk_at dksX6_rent_1 6 rfl rfl)
theorem dX6_rent_31 : decode cX6_rent 31 = .ok (.invokevirtual 330, 3) := dk_182 1 74 (dk_at dksX6_rent_1 7 rfl rfl)
theorem dX6_rent_34 : decode cX6_rent 34 = .ok (.invokestatic 129, 3) := dk_184 0 129 (dk_at dksX6_rent_1 10 rfl rfl)
theorem dX6_rent_37 : decode cX6_rent 37 = .ok (.ifCond .eq 14, 3) := dk_153 0 14 (dk_at dksX6_rent_1 13 rfl rfl)
theorem dX6_rent_40 : decode cX6_rent 40 = .ok (.iload_n 3, 1) := dk_29 (dk_at dksX6_rent_1 16 rfl rfl)
theorem dX6_rent_41 : decode cX6_rent 41 = .ok (.iconst 0, 1) := dk_3 (dk_at dksX6_rent_1 17 rfl rfl)
theorem dX6_rent_42 : decode cX6_rent 42 = .ok (.sipush 999, 3) := dk_17 3 231 (dk_at dksX6_rent_1 18 rfl rfl)
theorem dX6_rent_45 : decode cX6_rent 45 = .ok (.invokestatic 129, 3) := dk_184 0 129 (dk_at dksX6_rent_1 21 rfl rfl)
theorem dX6_rent_48 : decode cX6_rent 48 = .ok (.ifCond .ne 7, 3) := dk_154 0 7 (dk_at dksX6_rent_2 0 rfl rfl)
theorem dX6_rent_51 : decode cX6_rent 51 = .ok (.iconst 1, 1) := dk_4 (dk_at dksX6_rent_2 3 rfl rfl)
theorem dX6_rent_52 : decode cX6_rent 52 = .ok (.goto 4, 3) := dk_167 0 4 (dk_at dksX6_rent_2 4 rfl rfl)
theorem dX6_rent_55 : decode cX6_rent 55 = .ok (.iconst 0, 1) := dk_3 (dk_at dksX6_rent_2 7 rfl rfl)
theorem dX6_rent_56 : decode cX6_rent 56 = .ok (.iconst 2, 1) := dk_5 (dk_at dksX6_rent_2 8 rfl rfl)
theorem dX6_rent_57 : decode cX6_rent 57 = .ok (.iconst 1, 1) := dk_4 (dk_at dksX6_rent_2 9 rfl rfl)
theorem dX6_rent_58 : decode cX6_rent 58 = .ok (.invokevirtual 171, 3) := dk_182 0 171 (dk_at dksX6_rent_2 10 rfl rfl)
theorem dX6_rent_61 : decode cX6_rent 61 = .ok (.ifCond .eq 5, 3) := dk_153 0 5 (dk_at dksX6_rent_2 13 rfl rfl)
theorem dX6_rent_64 : decode cX6_rent 64 = .ok (.iconst 0, 1) := dk_3 (dk_at dksX6_rent_2 16 rfl rfl)
theorem dX6_rent_65 : decode cX6_rent 65 = .ok (.ireturn, 1) := dk_172 (dk_at dksX6_rent_2 17 rfl rfl)
theorem dX6_rent_66 : decode cX6_rent 66 = .ok (.iconst 0, 1) := dk_3 (dk_at dksX6_rent_2 18 rfl rfl)
theorem dX6_rent_67 : decode cX6_rent 67 = .ok (.istore 4, 2) := dk_54 4 (dk_at dksX6_rent_2 19 rfl rfl)
theorem dX6_rent_69 : decode cX6_rent 69 = .ok (.iload 4, 2) := dk_21 4 (dk_at dksX6_rent_2 21 rfl rfl)
theorem dX6_rent_71 : decode cX6_rent 71 = .ok (.bipush 60, 2) := dk_16 60 (dk_at dksX6_rent_3 0 rfl rfl)
theorem dX6_rent_73 : decode cX6_rent 73 = .ok (.if_icmp .ge 22, 3) := dk_162 0 22 (dk_at dksX6_rent_3 2 rfl rfl)
theorem dX6_rent_76 : decode cX6_rent 76 = .ok (.aload_n 0, 1) := dk_42 (dk_at dksX6_rent_3 5 rfl rfl)
theorem dX6_rent_77 : decode cX6_rent 77 = .ok (.iload_n 2, 1) := dk_28 (dk_at dksX6_rent_3 6 rfl rfl)
theorem dX6_rent_78 : decode cX6_rent 78 = .ok (.iload 4, 2) := dk_21 4 (dk_at dksX6_rent_3 7 rfl rfl)
theorem dX6_rent_80 : decode cX6_rent 80 = .ok (.iconst 1, 1) := dk_4 (dk_at dksX6_rent_3 9 rfl rfl)
theorem dX6_rent_81 : decode cX6_rent 81 = .ok (.iadd, 1) := dk_96 (dk_at dksX6_rent_3 10 rfl rfl)
theorem dX6_rent_82 : decode cX6_rent 82 = .ok (.invokevirtual 372, 3) := dk_182 1 116 (dk_at dksX6_rent_3 11 rfl rfl)
theorem dX6_rent_85 : decode cX6_rent 85 = .ok (.iload_n 3, 1) := dk_29 (dk_at dksX6_rent_3 14 rfl rfl)
theorem dX6_rent_86 : decode cX6_rent 86 = .ok (.if_icmp .gt 9, 3) := dk_163 0 9 (dk_at dksX6_rent_3 15 rfl rfl)
theorem dX6_rent_89 : decode cX6_rent 89 = .ok (.iinc 4 1, 3) := dk_132 4 1 (dk_at dksX6_rent_3 18 rfl rfl)
theorem dX6_rent_92 : decode cX6_rent 92 = .ok (.goto (-23), 3) := dk_167 255 233 (dk_at dksX6_rent_3 21 rfl rfl)
theorem dX6_rent_95 : decode cX6_rent 95 = .ok (.iload_n 2, 1) := dk_28 (dk_at dksX6_rent_4 0 rfl rfl)
theorem dX6_rent_96 : decode cX6_rent 96 = .ok (.iload_n 1, 1) := dk_27 (dk_at dksX6_rent_4 1 rfl rfl)
theorem dX6_rent_97 : decode cX6_rent 97 = .ok (.invokestatic 254, 3) := dk_184 0 254 (dk_at dksX6_rent_4 2 rfl rfl)
theorem dX6_rent_100 : decode cX6_rent 100 = .ok (.ifCond .eq 19, 3) := dk_153 0 19 (dk_at dksX6_rent_4 5 rfl rfl)
theorem dX6_rent_103 : decode cX6_rent 103 = .ok (.iload 4, 2) := dk_21 4 (dk_at dksX6_rent_4 8 rfl rfl)
theorem dX6_rent_105 : decode cX6_rent 105 = .ok (.aload_n 0, 1) := dk_42 (dk_at dksX6_rent_4 10 rfl rfl)
theorem dX6_rent_106 : decode cX6_rent 106 = .ok (.getfield 31, 3) := dk_180 0 31 (dk_at dksX6_rent_4 11 rfl rfl)
theorem dX6_rent_109 : decode cX6_rent 109 = .ok (.iload_n 1, 1) := dk_27 (dk_at dksX6_rent_4 14 rfl rfl)
theorem dX6_rent_110 : decode cX6_rent 110 = .ok (.aaload, 1) := dk_50 (dk_at dksX6_rent_4 15 rfl rfl)
theorem dX6_rent_111 : decode cX6_rent 111 = .ok (.iconst 1, 1) := dk_4 (dk_at dksX6_rent_4 16 rfl rfl)
theorem dX6_rent_112 : decode cX6_rent 112 = .ok (.iaload, 1) := dk_46 (dk_at dksX6_rent_4 17 rfl rfl)
theorem dX6_rent_113 : decode cX6_rent 113 = .ok (.invokestatic 235, 3) := dk_184 0 235 (dk_at dksX6_rent_4 18 rfl rfl)
theorem dX6_rent_116 : decode cX6_rent 116 = .ok (.goto 4, 3) := dk_167 0 4 (dk_at dksX6_rent_4 21 rfl rfl)
theorem dX6_rent_119 : decode cX6_rent 119 = .ok (.iconst 0, 1) := dk_3 (dk_at dksX6_rent_5 0 rfl rfl)
theorem dX6_rent_120 : decode cX6_rent 120 = .ok (.ireturn, 1) := dk_172 (dk_at dksX6_rent_5 1 rfl rfl)
abbrev cX6_givenBy : ByteArray := prog_34_method_95_code
def yX6_givenBy : MethodName := ⟨RX6, "givenBy", "(II)I"⟩
def dkwX6_givenBy_2 : List UInt8 := [132, 4, 1, 167, 255, 213, 29, 172]
abbrev dktX6_givenBy_2 : List UInt8 := dkwX6_givenBy_2 ++ []
def dkwX6_givenBy_1 : List UInt8 := [153, 0, 19, 28, 42, 180, 0, 31, 21, 4, 50, 4, 46, 184, 0, 235, 167, 0, 4, 3, 96, 62]
abbrev dktX6_givenBy_1 : List UInt8 := dkwX6_givenBy_1 ++ dktX6_givenBy_2
def dkwX6_givenBy_0 : List UInt8 := [3, 62, 3, 54, 4, 21, 4, 42, 180, 0, 23, 3, 46, 162, 0, 38, 29, 27, 21, 4, 184, 0, 254]
abbrev dktX6_givenBy_0 : List UInt8 := dkwX6_givenBy_0 ++ dktX6_givenBy_1
theorem dksX6_givenBy_0 : cX6_givenBy.data.toList.drop 0 = dktX6_givenBy_0 := by decide +kernel
theorem dksX6_givenBy_1 : cX6_givenBy.data.toList.drop 23 = dktX6_givenBy_1 := dk_seg dksX6_givenBy_0 23 rfl rfl
theorem dksX6_givenBy_2 : cX6_givenBy.data.toList.drop 45 = dktX6_givenBy_2 := dk_seg dksX6_givenBy_1 22 rfl rfl
theorem dX6_givenBy_0 : decode cX6_givenBy 0 = .ok (.iconst 0, 1) := dk_3 (dk_at dksX6_givenBy_0 0 rfl rfl)
theorem dX6_givenBy_1 : decode cX6_givenBy 1 = .ok (.istore_n 3, 1) := dk_62 (dk_at dksX6_givenBy_0 1 rfl rfl)
theorem dX6_givenBy_2 : decode cX6_givenBy 2 = .ok (.iconst 0, 1) := dk_3 (dk_at dksX6_givenBy_0 2 rfl rfl)
theorem dX6_givenBy_3 : decode cX6_givenBy 3 = .ok (.istore 4, 2) := dk_54 4 (dk_at dksX6_givenBy_0 3 rfl rfl)
theorem dX6_givenBy_5 : decode cX6_givenBy 5 = .ok (.iload 4, 2) := dk_21 4 (dk_at dksX6_givenBy_0 5 rfl rfl)
theorem dX6_givenBy_7 : decode cX6_givenBy 7 = .ok (.aload_n 0, 1) := dk_42 (dk_at dksX6_givenBy_0 7 rfl rfl)
theorem dX6_givenBy_8 : decode cX6_givenBy 8 = .ok (.getfield 23, 3) := dk_180 0 23 (dk_at dksX6_givenBy_0 8 rfl rfl)
theorem dX6_givenBy_11 : decode cX6_givenBy 11 = .ok (.iconst 0, 1) := dk_3 (dk_at dksX6_givenBy_0 11 rfl rfl)
theorem dX6_givenBy_12 : decode cX6_givenBy 12 = .ok (.iaload, 1) := dk_46 (dk_at dksX6_givenBy_0 12 rfl rfl)
theorem dX6_givenBy_13 : decode cX6_givenBy 13 = .ok (.if_icmp .ge 38, 3) := dk_162 0 38 (dk_at dksX6_givenBy_0 13 rfl rfl)
theorem dX6_givenBy_16 : decode cX6_givenBy 16 = .ok (.iload_n 3, 1) := dk_29 (dk_at dksX6_givenBy_0 16 rfl rfl)
theorem dX6_givenBy_17 : decode cX6_givenBy 17 = .ok (.iload_n 1, 1) := dk_27 (dk_at dksX6_givenBy_0 17 rfl rfl)
theorem dX6_givenBy_18 : decode cX6_givenBy 18 = .ok (.iload 4, 2) := dk_21 4 (dk_at dksX6_givenBy_0 18 rfl rfl)
theorem dX6_givenBy_20 : decode cX6_givenBy 20 = .ok (.invokestatic 254, 3) := dk_184 0 254 (dk_at dksX6_givenBy_0 20 rfl rfl)
theorem dX6_givenBy_23 : decode cX6_givenBy 23 = .ok (.ifCond .eq 19, 3) := dk_153 0 19 (dk_at dksX6_givenBy_1 0 rfl rfl)
theorem dX6_givenBy_26 : decode cX6_givenBy 26 = .ok (.iload_n 2, 1) := dk_28 (dk_at dksX6_givenBy_1 3 rfl rfl)
theorem dX6_givenBy_27 : decode cX6_givenBy 27 = .ok (.aload_n 0, 1) := dk_42 (dk_at dksX6_givenBy_1 4 rfl rfl)
theorem dX6_givenBy_28 : decode cX6_givenBy 28 = .ok (.getfield 31, 3) := dk_180 0 31 (dk_at dksX6_givenBy_1 5 rfl rfl)
theorem dX6_givenBy_31 : decode cX6_givenBy 31 = .ok (.iload 4, 2) := dk_21 4 (dk_at dksX6_givenBy_1 8 rfl rfl)
theorem dX6_givenBy_33 : decode cX6_givenBy 33 = .ok (.aaload, 1) := dk_50 (dk_at dksX6_givenBy_1 10 rfl rfl)
theorem dX6_givenBy_34 : decode cX6_givenBy 34 = .ok (.iconst 1, 1) := dk_4 (dk_at dksX6_givenBy_1 11 rfl rfl)
theorem dX6_givenBy_35 : decode cX6_givenBy 35 = .ok (.iaload, 1) := dk_46 (dk_at dksX6_givenBy_1 12 rfl rfl)
theorem dX6_givenBy_36 : decode cX6_givenBy 36 = .ok (.invokestatic 235, 3) := dk_184 0 235 (dk_at dksX6_givenBy_1 13 rfl rfl)
theorem dX6_givenBy_39 : decode cX6_givenBy 39 = .ok (.goto 4, 3) := dk_167 0 4 (dk_at dksX6_givenBy_1 16 rfl rfl)
theorem dX6_givenBy_42 : decode cX6_givenBy 42 = .ok (.iconst 0, 1) := dk_3 (dk_at dksX6_givenBy_1 19 rfl rfl)
theorem dX6_givenBy_43 : decode cX6_givenBy 43 = .ok (.iadd, 1) := dk_96 (dk_at dksX6_givenBy_1 20 rfl rfl)
theorem dX6_givenBy_44 : decode cX6_givenBy 44 = .ok (.istore_n 3, 1) := dk_62 (dk_at dksX6_givenBy_1 21 rfl rfl)
theorem dX6_givenBy_45 : decode cX6_givenBy 45 = .ok (.iinc 4 1, 3) := dk_132 4 1 (dk_at dksX6_givenBy_2 0 rfl rfl)
theorem dX6_givenBy_48 : decode cX6_givenBy 48 = .ok (.goto (-43), 3) := dk_167 255 213 (dk_at dksX6_givenBy_2 3 rfl rfl)
theorem dX6_givenBy_51 : decode cX6_givenBy 51 = .ok (.iload_n 3, 1) := dk_29 (dk_at dksX6_givenBy_2 6 rfl rfl)
theorem dX6_givenBy_52 : decode cX6_givenBy 52 = .ok (.ireturn, 1) := dk_172 (dk_at dksX6_givenBy_2 7 rfl rfl)
abbrev cX6_dearest : ByteArray := prog_34_method_97_code
def yX6_dearest : MethodName := ⟨RX6, "dearest", "(I)I"⟩
def dkwX6_dearest_4 : List UInt8 := [42, 180, 0, 31, 28, 50, 4, 46, 172]
abbrev dktX6_dearest_4 : List UInt8 := dkwX6_dearest_4 ++ []
def dkwX6_dearest_3 : List UInt8 := [167, 0, 4, 28, 61, 132, 3, 1, 167, 255, 213, 27, 153, 0, 8, 28, 2, 160, 0, 7, 28, 167, 0, 11]
abbrev dktX6_dearest_3 : List UInt8 := dkwX6_dearest_3 ++ dktX6_dearest_4
def dkwX6_dearest_2 : List UInt8 := [159, 0, 22, 42, 180, 0, 31, 29, 50, 4, 46, 42, 180, 0, 31, 28, 50, 4, 46, 164, 0, 7, 29]
abbrev dktX6_dearest_2 : List UInt8 := dkwX6_dearest_2 ++ dktX6_dearest_3
def dkwX6_dearest_1 : List UInt8 := [182, 0, 171, 153, 0, 5, 3, 172, 2, 61, 3, 62, 29, 42, 180, 0, 23, 3, 46, 162, 0, 39, 28, 2]
abbrev dktX6_dearest_1 : List UInt8 := dkwX6_dearest_1 ++ dktX6_dearest_2
def dkwX6_dearest_0 : List UInt8 := [42, 3, 181, 0, 95, 42, 27, 3, 4, 184, 0, 129, 154, 0, 7, 4, 167, 0, 4, 3, 4, 4]
abbrev dktX6_dearest_0 : List UInt8 := dkwX6_dearest_0 ++ dktX6_dearest_1
theorem dksX6_dearest_0 : cX6_dearest.data.toList.drop 0 = dktX6_dearest_0 := by decide +kernel
theorem dksX6_dearest_1 : cX6_dearest.data.toList.drop 22 = dktX6_dearest_1 := dk_seg dksX6_dearest_0 22 rfl rfl
theorem dksX6_dearest_2 : cX6_dearest.data.toList.drop 46 = dktX6_dearest_2 := dk_seg dksX6_dearest_1 24 rfl rfl
theorem dksX6_dearest_3 : cX6_dearest.data.toList.drop 69 = dktX6_dearest_3 := dk_seg dksX6_dearest_2 23 rfl rfl
theorem dksX6_dearest_4 : cX6_dearest.data.toList.drop 93 = dktX6_dearest_4 := dk_seg dksX6_dearest_3 24 rfl rfl
theorem dX6_dearest_0 : decode cX6_dearest 0 = .ok (.aload_n 0, 1) := dk_42 (dk_at dksX6_dearest_0 0 rfl rfl)
theorem dX6_dearest_1 : decode cX6_dearest 1 = .ok (.iconst 0, 1) := dk_3 (dk_at dksX6_dearest_0 1 rfl rfl)
theorem dX6_dearest_2 : decode cX6_dearest 2 = .ok (.putfield 95, 3) := dk_181 0 95 (dk_at dksX6_dearest_0 2 rfl rfl)
theorem dX6_dearest_5 : decode cX6_dearest 5 = .ok (.aload_n 0, 1) := dk_42 (dk_at dksX6_dearest_0 5 rfl rfl)
theorem dX6_dearest_6 : decode cX6_dearest 6 = .ok (.iload_n 1, 1) := dk_27 (dk_at dksX6_dearest_0 6 rfl rfl)
theorem dX6_dearest_7 : decode cX6_dearest 7 = .ok (.iconst 0, 1) := dk_3 (dk_at dksX6_dearest_0 7 rfl rfl)
theorem dX6_dearest_8 : decode cX6_dearest 8 = .ok (.iconst 1, 1) := dk_4 (dk_at dksX6_dearest_0 8 rfl rfl)
theorem dX6_dearest_9 : decode cX6_dearest 9 = .ok (.invokestatic 129, 3) := dk_184 0 129 (dk_at dksX6_dearest_0 9 rfl rfl)
theorem dX6_dearest_12 : decode cX6_dearest 12 = .ok (.ifCond .ne 7, 3) := dk_154 0 7 (dk_at dksX6_dearest_0 12 rfl rfl)
theorem dX6_dearest_15 : decode cX6_dearest 15 = .ok (.iconst 1, 1) := dk_4 (dk_at dksX6_dearest_0 15 rfl rfl)
theorem dX6_dearest_16 : decode cX6_dearest 16 = .ok (.goto 4, 3) := dk_167 0 4 (dk_at dksX6_dearest_0 16 rfl rfl)
theorem dX6_dearest_19 : decode cX6_dearest 19 = .ok (.iconst 0, 1) := dk_3 (dk_at dksX6_dearest_0 19 rfl rfl)
theorem dX6_dearest_20 : decode cX6_dearest 20 = .ok (.iconst 1, 1) := dk_4 (dk_at dksX6_dearest_0 20 rfl rfl)
theorem dX6_dearest_21 : decode cX6_dearest 21 = .ok (.iconst 1, 1) := dk_4 (dk_at dksX6_dearest_0 21 rfl rfl)
theorem dX6_dearest_22 : decode cX6_dearest 22 = .ok (.invokevirtual 171, 3) := dk_182 0 171 (dk_at dksX6_dearest_1 0 rfl rfl)
theorem dX6_dearest_25 : decode cX6_dearest 25 = .ok (.ifCond .eq 5, 3) := dk_153 0 5 (dk_at dksX6_dearest_1 3 rfl rfl)
theorem dX6_dearest_28 : decode cX6_dearest 28 = .ok (.iconst 0, 1) := dk_3 (dk_at dksX6_dearest_1 6 rfl rfl)
theorem dX6_dearest_29 : decode cX6_dearest 29 = .ok (.ireturn, 1) := dk_172 (dk_at dksX6_dearest_1 7 rfl rfl)
theorem dX6_dearest_30 : decode cX6_dearest 30 = .ok (.iconst (-1), 1) := dk_2 (dk_at dksX6_dearest_1 8 rfl rfl)
theorem dX6_dearest_31 : decode cX6_dearest 31 = .ok (.istore_n 2, 1) := dk_61 (dk_at dksX6_dearest_1 9 rfl rfl)
theorem dX6_dearest_32 : decode cX6_dearest 32 = .ok (.iconst 0, 1) := dk_3 (dk_at dksX6_dearest_1 10 rfl rfl)
theorem dX6_dearest_33 : decode cX6_dearest 33 = .ok (.istore_n 3, 1) := dk_62 (dk_at dksX6_dearest_1 11 rfl rfl)
theorem dX6_dearest_34 : decode cX6_dearest 34 = .ok (.iload_n 3, 1) := dk_29 (dk_at dksX6_dearest_1 12 rfl rfl)
theorem dX6_dearest_35 : decode cX6_dearest 35 = .ok (.aload_n 0, 1) := dk_42 (dk_at dksX6_dearest_1 13 rfl rfl)
theorem dX6_dearest_36 : decode cX6_dearest 36 = .ok (.getfield 23, 3) := dk_180 0 23 (dk_at dksX6_dearest_1 14 rfl rfl)
theorem dX6_dearest_39 : decode cX6_dearest 39 = .ok (.iconst 0, 1) := dk_3 (dk_at dksX6_dearest_1 17 rfl rfl)
theorem dX6_dearest_40 : decode cX6_dearest 40 = .ok (.iaload, 1) := dk_46 (dk_at dksX6_dearest_1 18 rfl rfl)
theorem dX6_dearest_41 : decode cX6_dearest 41 = .ok (.if_icmp .ge 39, 3) := dk_162 0 39 (dk_at dksX6_dearest_1 19 rfl rfl)
theorem dX6_dearest_44 : decode cX6_dearest 44 = .ok (.iload_n 2, 1) := dk_28 (dk_at dksX6_dearest_1 22 rfl rfl)
theorem dX6_dearest_45 : decode cX6_dearest 45 = .ok (.iconst (-1), 1) := dk_2 (dk_at dksX6_dearest_1 23 rfl rfl)
theorem dX6_dearest_46 : decode cX6_dearest 46 = .ok (.if_icmp .eq 22, 3) := dk_159 0 22 (dk_at dksX6_dearest_2 0 rfl rfl)
theorem dX6_dearest_49 : decode cX6_dearest 49 = .ok (.aload_n 0, 1) := dk_42 (dk_at dksX6_dearest_2 3 rfl rfl)
theorem dX6_dearest_50 : decode cX6_dearest 50 = .ok (.getfield 31, 3) := dk_180 0 31 (dk_at dksX6_dearest_2 4 rfl rfl)
theorem dX6_dearest_53 : decode cX6_dearest 53 = .ok (.iload_n 3, 1) := dk_29 (dk_at dksX6_dearest_2 7 rfl rfl)
theorem dX6_dearest_54 : decode cX6_dearest 54 = .ok (.aaload, 1) := dk_50 (dk_at dksX6_dearest_2 8 rfl rfl)
theorem dX6_dearest_55 : decode cX6_dearest 55 = .ok (.iconst 1, 1) := dk_4 (dk_at dksX6_dearest_2 9 rfl rfl)
theorem dX6_dearest_56 : decode cX6_dearest 56 = .ok (.iaload, 1) := dk_46 (dk_at dksX6_dearest_2 10 rfl rfl)
theorem dX6_dearest_57 : decode cX6_dearest 57 = .ok (.aload_n 0, 1) := dk_42 (dk_at dksX6_dearest_2 11 rfl rfl)
theorem dX6_dearest_58 : decode cX6_dearest 58 = .ok (.getfield 31, 3) := dk_180 0 31 (dk_at dksX6_dearest_2 12 rfl rfl)
theorem dX6_dearest_61 : decode cX6_dearest 61 = .ok (.iload_n 2, 1) := dk_28 (dk_at dksX6_dearest_2 15 rfl rfl)
theorem dX6_dearest_62 : decode cX6_dearest 62 = .ok (.aaload, 1) := dk_50 (dk_at dksX6_dearest_2 16 rfl rfl)
theorem dX6_dearest_63 : decode cX6_dearest 63 = .ok (.iconst 1, 1) := dk_4 (dk_at dksX6_dearest_2 17 rfl rfl)
theorem dX6_dearest_64 : decode cX6_dearest 64 = .ok (.iaload, 1) := dk_46 (dk_at dksX6_dearest_2 18 rfl rfl)
theorem dX6_dearest_65 : decode cX6_dearest 65 = .ok (.if_icmp .le 7, 3) := dk_164 0 7 (dk_at dksX6_dearest_2 19 rfl rfl)
theorem dX6_dearest_68 : decode cX6_dearest 68 = .ok (.iload_n 3, 1) := dk_29 (dk_at dksX6_dearest_2 22 rfl rfl)
theorem dX6_dearest_69 : decode cX6_dearest 69 = .ok (.goto 4, 3) := dk_167 0 4 (dk_at dksX6_dearest_3 0 rfl rfl)
theorem dX6_dearest_72 : decode cX6_dearest 72 = .ok (.iload_n 2, 1) := dk_28 (dk_at dksX6_dearest_3 3 rfl rfl)
theorem dX6_dearest_73 : decode cX6_dearest 73 = .ok (.istore_n 2, 1) := dk_61 (dk_at dksX6_dearest_3 4 rfl rfl)
theorem dX6_dearest_74 : decode cX6_dearest 74 = .ok (.iinc 3 1, 3) := dk_132 3 1 (dk_at dksX6_dearest_3 5 rfl rfl)
theorem dX6_dearest_77 : decode cX6_dearest 77 = .ok (.goto (-43), 3) := dk_167 255 213 (dk_at dksX6_dearest_3 8 rfl rfl)
theorem dX6_dearest_80 : decode cX6_dearest 80 = .ok (.iload_n 1, 1) := dk_27 (dk_at dksX6_dearest_3 11 rfl rfl)
theorem dX6_dearest_81 : decode cX6_dearest 81 = .ok (.ifCond .eq 8, 3) := dk_153 0 8 (dk_at dksX6_dearest_3 12 rfl rfl)
theorem dX6_dearest_84 : decode cX6_dearest 84 = .ok (.iload_n 2, 1) := dk_28 (dk_at dksX6_dearest_3 15 rfl rfl)
theorem dX6_dearest_85 : decode cX6_dearest 85 = .ok (.iconst (-1), 1) := dk_2 (dk_at dksX6_dearest_3 16 rfl rfl)
theorem dX6_dearest_86 : decode cX6_dearest 86 = .ok (.if_icmp .ne 7, 3) := dk_160 0 7 (dk_at dksX6_dearest_3 17 rfl rfl)
theorem dX6_dearest_89 : decode cX6_dearest 89 = .ok (.iload_n 2, 1) := dk_28 (dk_at dksX6_dearest_3 20 rfl rfl)
theorem dX6_dearest_90 : decode cX6_dearest 90 = .ok (.goto 11, 3) := dk_167 0 11 (dk_at dksX6_dearest_3 21 rfl rfl)
theorem dX6_dearest_93 : decode cX6_dearest 93 = .ok (.aload_n 0, 1) := dk_42 (dk_at dksX6_dearest_4 0 rfl rfl)
theorem dX6_dearest_94 : decode cX6_dearest 94 = .ok (.getfield 31, 3) := dk_180 0 31 (dk_at dksX6_dearest_4 1 rfl rfl)
theorem dX6_dearest_97 : decode cX6_dearest 97 = .ok (.iload_n 2, 1) := dk_28 (dk_at dksX6_dearest_4 4 rfl rfl)
theorem dX6_dearest_98 : decode cX6_dearest 98 = .ok (.aaload, 1) := dk_50 (dk_at dksX6_dearest_4 5 rfl rfl)
theorem dX6_dearest_99 : decode cX6_dearest 99 = .ok (.iconst 1, 1) := dk_4 (dk_at dksX6_dearest_4 6 rfl rfl)
theorem dX6_dearest_100 : decode cX6_dearest 100 = .ok (.iaload, 1) := dk_46 (dk_at dksX6_dearest_4 7 rfl rfl)
theorem dX6_dearest_101 : decode cX6_dearest 101 = .ok (.ireturn, 1) := dk_172 (dk_at dksX6_dearest_4 8 rfl rfl)
abbrev cX6_voices : ByteArray := prog_34_method_98_code
def yX6_voices : MethodName := ⟨RX6, "voices", "(I)I"⟩
def dkwX6_voices_3 : List UInt8 := [172]
abbrev dktX6_voices_3 : List UInt8 := dkwX6_voices_3 ++ []
def dkwX6_voices_2 : List UInt8 := [29, 50, 3, 46, 27, 160, 0, 9, 4, 29, 120, 167, 0, 4, 3, 128, 61, 132, 3, 1, 167, 255, 221, 28]
abbrev dktX6_voices_2 : List UInt8 := dkwX6_voices_2 ++ dktX6_voices_3
def dkwX6_voices_1 : List UInt8 := [153, 0, 5, 3, 172, 3, 61, 3, 62, 29, 42, 180, 0, 23, 3, 46, 162, 0, 31, 28, 42, 180, 0, 31]
abbrev dktX6_voices_1 : List UInt8 := dkwX6_voices_1 ++ dktX6_voices_2
def dkwX6_voices_0 : List UInt8 := [42, 3, 181, 0, 95, 42, 27, 184, 1, 71, 154, 0, 7, 4, 167, 0, 4, 3, 4, 4, 182, 0, 171]
abbrev dktX6_voices_0 : List UInt8 := dkwX6_voices_0 ++ dktX6_voices_1
theorem dksX6_voices_0 : cX6_voices.data.toList.drop 0 = dktX6_voices_0 := by decide +kernel
theorem dksX6_voices_1 : cX6_voices.data.toList.drop 23 = dktX6_voices_1 := dk_seg dksX6_voices_0 23 rfl rfl
theorem dksX6_voices_2 : cX6_voices.data.toList.drop 47 = dktX6_voices_2 := dk_seg dksX6_voices_1 24 rfl rfl
theorem dksX6_voices_3 : cX6_voices.data.toList.drop 71 = dktX6_voices_3 := dk_seg dksX6_voices_2 24 rfl rfl
theorem dX6_voices_0 : decode cX6_voices 0 = .ok (.aload_n 0, 1) := dk_42 (dk_at dksX6_voices_0 0 rfl rfl)
theorem dX6_voices_1 : decode cX6_voices 1 = .ok (.iconst 0, 1) := dk_3 (dk_at dksX6_voices_0 1 rfl rfl)
theorem dX6_voices_2 : decode cX6_voices 2 = .ok (.putfield 95, 3) := dk_181 0 95 (dk_at dksX6_voices_0 2 rfl rfl)
theorem dX6_voices_5 : decode cX6_voices 5 = .ok (.aload_n 0, 1) := dk_42 (dk_at dksX6_voices_0 5 rfl rfl)
theorem dX6_voices_6 : decode cX6_voices 6 = .ok (.iload_n 1, 1) := dk_27 (dk_at dksX6_voices_0 6 rfl rfl)
theorem dX6_voices_7 : decode cX6_voices 7 = .ok (.invokestatic 327, 3) := dk_184 1 71 (dk_at dksX6_voices_0 7 rfl rfl)
theorem dX6_voices_10 : decode cX6_voices 10 = .ok (.ifCond .ne 7, 3) := dk_154 0 7 (dk_at dksX6_voices_0 10 rfl rfl)
theorem dX6_voices_13 : decode cX6_voices 13 = .ok (.iconst 1, 1) := dk_4 (dk_at dksX6_voices_0 13 rfl rfl)
theorem dX6_voices_14 : decode cX6_voices 14 = .ok (.goto 4, 3) := dk_167 0 4 (dk_at dksX6_voices_0 14 rfl rfl)
theorem dX6_voices_17 : decode cX6_voices 17 = .ok (.iconst 0, 1) := dk_3 (dk_at dksX6_voices_0 17 rfl rfl)
theorem dX6_voices_18 : decode cX6_voices 18 = .ok (.iconst 1, 1) := dk_4 (dk_at dksX6_voices_0 18 rfl rfl)
theorem dX6_voices_19 : decode cX6_voices 19 = .ok (.iconst 1, 1) := dk_4 (dk_at dksX6_voices_0 19 rfl rfl)
theorem dX6_voices_20 : decode cX6_voices 20 = .ok (.invokevirtual 171, 3) := dk_182 0 171 (dk_at dksX6_voices_0 20 rfl rfl)
theorem dX6_voices_23 : decode cX6_voices 23 = .ok (.ifCond .eq 5, 3) := dk_153 0 5 (dk_at dksX6_voices_1 0 rfl rfl)
theorem dX6_voices_26 : decode cX6_voices 26 = .ok (.iconst 0, 1) := dk_3 (dk_at dksX6_voices_1 3 rfl rfl)
theorem dX6_voices_27 : decode cX6_voices 27 = .ok (.ireturn, 1) := dk_172 (dk_at dksX6_voices_1 4 rfl rfl)
theorem dX6_voices_28 : decode cX6_voices 28 = .ok (.iconst 0, 1) := dk_3 (dk_at dksX6_voices_1 5 rfl rfl)
theorem dX6_voices_29 : decode cX6_voices 29 = .ok (.istore_n 2, 1) := dk_61 (dk_at dksX6_voices_1 6 rfl rfl)
theorem dX6_voices_30 : decode cX6_voices 30 = .ok (.iconst 0, 1) := dk_3 (dk_at dksX6_voices_1 7 rfl rfl)
theorem dX6_voices_31 : decode cX6_voices 31 = .ok (.istore_n 3, 1) := dk_62 (dk_at dksX6_voices_1 8 rfl rfl)
theorem dX6_voices_32 : decode cX6_voices 32 = .ok (.iload_n 3, 1) := dk_29 (dk_at dksX6_voices_1 9 rfl rfl)
theorem dX6_voices_33 : decode cX6_voices 33 = .ok (.aload_n 0, 1) := dk_42 (dk_at dksX6_voices_1 10 rfl rfl)
theorem dX6_voices_34 : decode cX6_voices 34 = .ok (.getfield 23, 3) := dk_180 0 23 (dk_at dksX6_voices_1 11 rfl rfl)
theorem dX6_voices_37 : decode cX6_voices 37 = .ok (.iconst 0, 1) := dk_3 (dk_at dksX6_voices_1 14 rfl rfl)
theorem dX6_voices_38 : decode cX6_voices 38 = .ok (.iaload, 1) := dk_46 (dk_at dksX6_voices_1 15 rfl rfl)
theorem dX6_voices_39 : decode cX6_voices 39 = .ok (.if_icmp .ge 31, 3) := dk_162 0 31 (dk_at dksX6_voices_1 16 rfl rfl)
theorem dX6_voices_42 : decode cX6_voices 42 = .ok (.iload_n 2, 1) := dk_28 (dk_at dksX6_voices_1 19 rfl rfl)
theorem dX6_voices_43 : decode cX6_voices 43 = .ok (.aload_n 0, 1) := dk_42 (dk_at dksX6_voices_1 20 rfl rfl)
theorem dX6_voices_44 : decode cX6_voices 44 = .ok (.getfield 31, 3) := dk_180 0 31 (dk_at dksX6_voices_1 21 rfl rfl)
theorem dX6_voices_47 : decode cX6_voices 47 = .ok (.iload_n 3, 1) := dk_29 (dk_at dksX6_voices_2 0 rfl rfl)
theorem dX6_voices_48 : decode cX6_voices 48 = .ok (.aaload, 1) := dk_50 (dk_at dksX6_voices_2 1 rfl rfl)
theorem dX6_voices_49 : decode cX6_voices 49 = .ok (.iconst 0, 1) := dk_3 (dk_at dksX6_voices_2 2 rfl rfl)
theorem dX6_voices_50 : decode cX6_voices 50 = .ok (.iaload, 1) := dk_46 (dk_at dksX6_voices_2 3 rfl rfl)
theorem dX6_voices_51 : decode cX6_voices 51 = .ok (.iload_n 1, 1) := dk_27 (dk_at dksX6_voices_2 4 rfl rfl)
theorem dX6_voices_52 : decode cX6_voices 52 = .ok (.if_icmp .ne 9, 3) := dk_160 0 9 (dk_at dksX6_voices_2 5 rfl rfl)
theorem dX6_voices_55 : decode cX6_voices 55 = .ok (.iconst 1, 1) := dk_4 (dk_at dksX6_voices_2 8 rfl rfl)
theorem dX6_voices_56 : decode cX6_voices 56 = .ok (.iload_n 3, 1) := dk_29 (dk_at dksX6_voices_2 9 rfl rfl)
theorem dX6_voices_57 : decode cX6_voices 57 = .ok (.ishl, 1) := dk_120 (dk_at dksX6_voices_2 10 rfl rfl)
theorem dX6_voices_58 : decode cX6_voices 58 = .ok (.goto 4, 3) := dk_167 0 4 (dk_at dksX6_voices_2 11 rfl rfl)
theorem dX6_voices_61 : decode cX6_voices 61 = .ok (.iconst 0, 1) := dk_3 (dk_at dksX6_voices_2 14 rfl rfl)
theorem dX6_voices_62 : decode cX6_voices 62 = .ok (.ior, 1) := dk_128 (dk_at dksX6_voices_2 15 rfl rfl)
theorem dX6_voices_63 : decode cX6_voices 63 = .ok (.istore_n 2, 1) := dk_61 (dk_at dksX6_voices_2 16 rfl rfl)
theorem dX6_voices_64 : decode cX6_voices 64 = .ok (.iinc 3 1, 3) := dk_132 3 1 (dk_at dksX6_voices_2 17 rfl rfl)
theorem dX6_voices_67 : decode cX6_voices 67 = .ok (.goto (-35), 3) := dk_167 255 221 (dk_at dksX6_voices_2 20 rfl rfl)
theorem dX6_voices_70 : decode cX6_voices 70 = .ok (.iload_n 2, 1) := dk_28 (dk_at dksX6_voices_2 23 rfl rfl)
theorem dX6_voices_71 : decode cX6_voices 71 = .ok (.ireturn, 1) := dk_172 (dk_at dksX6_voices_3 0 rfl rfl)
abbrev cX6_sounds : ByteArray := prog_34_method_99_code
def yX6_sounds : MethodName := ⟨RX6, "sounds", "(I)I"⟩
def dkwX6_sounds_3 : List UInt8 := [28, 172]
abbrev dktX6_sounds_3 : List UInt8 := dkwX6_sounds_3 ++ []
def dkwX6_sounds_2 : List UInt8 := [16, 35, 29, 96, 46, 27, 160, 0, 9, 4, 29, 120, 167, 0, 4, 3, 128, 61, 132, 3, 1, 167, 255, 220]
abbrev dktX6_sounds_2 : List UInt8 := dkwX6_sounds_2 ++ dktX6_sounds_3
def dkwX6_sounds_1 : List UInt8 := [153, 0, 5, 3, 172, 3, 61, 3, 62, 29, 42, 180, 0, 23, 4, 46, 162, 0, 32, 28, 42, 180, 0, 67]
abbrev dktX6_sounds_1 : List UInt8 := dkwX6_sounds_1 ++ dktX6_sounds_2
def dkwX6_sounds_0 : List UInt8 := [42, 3, 181, 0, 95, 42, 27, 184, 1, 71, 154, 0, 7, 4, 167, 0, 4, 3, 4, 4, 182, 0, 171]
abbrev dktX6_sounds_0 : List UInt8 := dkwX6_sounds_0 ++ dktX6_sounds_1
theorem dksX6_sounds_0 : cX6_sounds.data.toList.drop 0 = dktX6_sounds_0 := by decide +kernel
theorem dksX6_sounds_1 : cX6_sounds.data.toList.drop 23 = dktX6_sounds_1 := dk_seg dksX6_sounds_0 23 rfl rfl
theorem dksX6_sounds_2 : cX6_sounds.data.toList.drop 47 = dktX6_sounds_2 := dk_seg dksX6_sounds_1 24 rfl rfl
theorem dksX6_sounds_3 : cX6_sounds.data.toList.drop 71 = dktX6_sounds_3 := dk_seg dksX6_sounds_2 24 rfl rfl
theorem dX6_sounds_0 : decode cX6_sounds 0 = .ok (.aload_n 0, 1) := dk_42 (dk_at dksX6_sounds_0 0 rfl rfl)
theorem dX6_sounds_1 : decode cX6_sounds 1 = .ok (.iconst 0, 1) := dk_3 (dk_at dksX6_sounds_0 1 rfl rfl)
theorem dX6_sounds_2 : decode cX6_sounds 2 = .ok (.putfield 95, 3) := dk_181 0 95 (dk_at dksX6_sounds_0 2 rfl rfl)
theorem dX6_sounds_5 : decode cX6_sounds 5 = .ok (.aload_n 0, 1) := dk_42 (dk_at dksX6_sounds_0 5 rfl rfl)
theorem dX6_sounds_6 : decode cX6_sounds 6 = .ok (.iload_n 1, 1) := dk_27 (dk_at dksX6_sounds_0 6 rfl rfl)
theorem dX6_sounds_7 : decode cX6_sounds 7 = .ok (.invokestatic 327, 3) := dk_184 1 71 (dk_at dksX6_sounds_0 7 rfl rfl)
theorem dX6_sounds_10 : decode cX6_sounds 10 = .ok (.ifCond .ne 7, 3) := dk_154 0 7 (dk_at dksX6_sounds_0 10 rfl rfl)
theorem dX6_sounds_13 : decode cX6_sounds 13 = .ok (.iconst 1, 1) := dk_4 (dk_at dksX6_sounds_0 13 rfl rfl)
theorem dX6_sounds_14 : decode cX6_sounds 14 = .ok (.goto 4, 3) := dk_167 0 4 (dk_at dksX6_sounds_0 14 rfl rfl)
theorem dX6_sounds_17 : decode cX6_sounds 17 = .ok (.iconst 0, 1) := dk_3 (dk_at dksX6_sounds_0 17 rfl rfl)
theorem dX6_sounds_18 : decode cX6_sounds 18 = .ok (.iconst 1, 1) := dk_4 (dk_at dksX6_sounds_0 18 rfl rfl)
theorem dX6_sounds_19 : decode cX6_sounds 19 = .ok (.iconst 1, 1) := dk_4 (dk_at dksX6_sounds_0 19 rfl rfl)
theorem dX6_sounds_20 : decode cX6_sounds 20 = .ok (.invokevirtual 171, 3) := dk_182 0 171 (dk_at dksX6_sounds_0 20 rfl rfl)
theorem dX6_sounds_23 : decode cX6_sounds 23 = .ok (.ifCond .eq 5, 3) := dk_153 0 5 (dk_at dksX6_sounds_1 0 rfl rfl)
theorem dX6_sounds_26 : decode cX6_sounds 26 = .ok (.iconst 0, 1) := dk_3 (dk_at dksX6_sounds_1 3 rfl rfl)
theorem dX6_sounds_27 : decode cX6_sounds 27 = .ok (.ireturn, 1) := dk_172 (dk_at dksX6_sounds_1 4 rfl rfl)
theorem dX6_sounds_28 : decode cX6_sounds 28 = .ok (.iconst 0, 1) := dk_3 (dk_at dksX6_sounds_1 5 rfl rfl)
theorem dX6_sounds_29 : decode cX6_sounds 29 = .ok (.istore_n 2, 1) := dk_61 (dk_at dksX6_sounds_1 6 rfl rfl)
theorem dX6_sounds_30 : decode cX6_sounds 30 = .ok (.iconst 0, 1) := dk_3 (dk_at dksX6_sounds_1 7 rfl rfl)
theorem dX6_sounds_31 : decode cX6_sounds 31 = .ok (.istore_n 3, 1) := dk_62 (dk_at dksX6_sounds_1 8 rfl rfl)
theorem dX6_sounds_32 : decode cX6_sounds 32 = .ok (.iload_n 3, 1) := dk_29 (dk_at dksX6_sounds_1 9 rfl rfl)
theorem dX6_sounds_33 : decode cX6_sounds 33 = .ok (.aload_n 0, 1) := dk_42 (dk_at dksX6_sounds_1 10 rfl rfl)
theorem dX6_sounds_34 : decode cX6_sounds 34 = .ok (.getfield 23, 3) := dk_180 0 23 (dk_at dksX6_sounds_1 11 rfl rfl)
theorem dX6_sounds_37 : decode cX6_sounds 37 = .ok (.iconst 1, 1) := dk_4 (dk_at dksX6_sounds_1 14 rfl rfl)
theorem dX6_sounds_38 : decode cX6_sounds 38 = .ok (.iaload, 1) := dk_46 (dk_at dksX6_sounds_1 15 rfl rfl)
theorem dX6_sounds_39 : decode cX6_sounds 39 = .ok (.if_icmp .ge 32, 3) := dk_162 0 32 (dk_at dksX6_sounds_1 16 rfl rfl)
theorem dX6_sounds_42 : decode cX6_sounds 42 = .ok (.iload_n 2, 1) := dk_28 (dk_at dksX6_sounds_1 19 rfl rfl)
theorem dX6_sounds_43 : decode cX6_sounds 43 = .ok (.aload_n 0, 1) := dk_42 (dk_at dksX6_sounds_1 20 rfl rfl)
theorem dX6_sounds_44 : decode cX6_sounds 44 = .ok (.getfield 67, 3) := dk_180 0 67 (dk_at dksX6_sounds_1 21 rfl rfl)
theorem dX6_sounds_47 : decode cX6_sounds 47 = .ok (.bipush 35, 2) := dk_16 35 (dk_at dksX6_sounds_2 0 rfl rfl)
theorem dX6_sounds_49 : decode cX6_sounds 49 = .ok (.iload_n 3, 1) := dk_29 (dk_at dksX6_sounds_2 2 rfl rfl)
theorem dX6_sounds_50 : decode cX6_sounds 50 = .ok (.iadd, 1) := dk_96 (dk_at dksX6_sounds_2 3 rfl rfl)
theorem dX6_sounds_51 : decode cX6_sounds 51 = .ok (.iaload, 1) := dk_46 (dk_at dksX6_sounds_2 4 rfl rfl)
theorem dX6_sounds_52 : decode cX6_sounds 52 = .ok (.iload_n 1, 1) := dk_27 (dk_at dksX6_sounds_2 5 rfl rfl)
theorem dX6_sounds_53 : decode cX6_sounds 53 = .ok (.if_icmp .ne 9, 3) := dk_160 0 9 (dk_at dksX6_sounds_2 6 rfl rfl)
theorem dX6_sounds_56 : decode cX6_sounds 56 = .ok (.iconst 1, 1) := dk_4 (dk_at dksX6_sounds_2 9 rfl rfl)
theorem dX6_sounds_57 : decode cX6_sounds 57 = .ok (.iload_n 3, 1) := dk_29 (dk_at dksX6_sounds_2 10 rfl rfl)
theorem dX6_sounds_58 : decode cX6_sounds 58 = .ok (.ishl, 1) := dk_120 (dk_at dksX6_sounds_2 11 rfl rfl)
theorem dX6_sounds_59 : decode cX6_sounds 59 = .ok (.goto 4, 3) := dk_167 0 4 (dk_at dksX6_sounds_2 12 rfl rfl)
theorem dX6_sounds_62 : decode cX6_sounds 62 = .ok (.iconst 0, 1) := dk_3 (dk_at dksX6_sounds_2 15 rfl rfl)
theorem dX6_sounds_63 : decode cX6_sounds 63 = .ok (.ior, 1) := dk_128 (dk_at dksX6_sounds_2 16 rfl rfl)
theorem dX6_sounds_64 : decode cX6_sounds 64 = .ok (.istore_n 2, 1) := dk_61 (dk_at dksX6_sounds_2 17 rfl rfl)
theorem dX6_sounds_65 : decode cX6_sounds 65 = .ok (.iinc 3 1, 3) := dk_132 3 1 (dk_at dksX6_sounds_2 18 rfl rfl)
theorem dX6_sounds_68 : decode cX6_sounds 68 = .ok (.goto (-36), 3) := dk_167 255 220 (dk_at dksX6_sounds_2 21 rfl rfl)
theorem dX6_sounds_71 : decode cX6_sounds 71 = .ok (.iload_n 2, 1) := dk_28 (dk_at dksX6_sounds_3 0 rfl rfl)
theorem dX6_sounds_72 : decode cX6_sounds 72 = .ok (.ireturn, 1) := dk_172 (dk_at dksX6_sounds_3 1 rfl rfl)
abbrev cX6_beats : ByteArray := prog_34_method_100_code
def yX6_beats : MethodName := ⟨RX6, "beats", "(I)I"⟩
def dkwX6_beats_3 : List UInt8 := [132, 3, 1, 167, 255, 215, 28, 172]
abbrev dktX6_beats_3 : List UInt8 := dkwX6_beats_3 ++ []
def dkwX6_beats_2 : List UInt8 := [16, 35, 29, 96, 46, 27, 160, 0, 14, 42, 180, 0, 37, 29, 50, 4, 46, 167, 0, 4, 3, 96, 61]
abbrev dktX6_beats_2 : List UInt8 := dkwX6_beats_2 ++ dktX6_beats_3
def dkwX6_beats_1 : List UInt8 := [153, 0, 5, 3, 172, 3, 61, 3, 62, 29, 42, 180, 0, 23, 4, 46, 162, 0, 37, 28, 42, 180, 0, 67]
abbrev dktX6_beats_1 : List UInt8 := dkwX6_beats_1 ++ dktX6_beats_2
def dkwX6_beats_0 : List UInt8 := [42, 3, 181, 0, 95, 42, 27, 184, 1, 71, 154, 0, 7, 4, 167, 0, 4, 3, 4, 4, 182, 0, 171]
abbrev dktX6_beats_0 : List UInt8 := dkwX6_beats_0 ++ dktX6_beats_1
theorem dksX6_beats_0 : cX6_beats.data.toList.drop 0 = dktX6_beats_0 := by decide +kernel
theorem dksX6_beats_1 : cX6_beats.data.toList.drop 23 = dktX6_beats_1 := dk_seg dksX6_beats_0 23 rfl rfl
theorem dksX6_beats_2 : cX6_beats.data.toList.drop 47 = dktX6_beats_2 := dk_seg dksX6_beats_1 24 rfl rfl
theorem dksX6_beats_3 : cX6_beats.data.toList.drop 70 = dktX6_beats_3 := dk_seg dksX6_beats_2 23 rfl rfl
theorem dX6_beats_0 : decode cX6_beats 0 = .ok (.aload_n 0, 1) := dk_42 (dk_at dksX6_beats_0 0 rfl rfl)
theorem dX6_beats_1 : decode cX6_beats 1 = .ok (.iconst 0, 1) := dk_3 (dk_at dksX6_beats_0 1 rfl rfl)
theorem dX6_beats_2 : decode cX6_beats 2 = .ok (.putfield 95, 3) := dk_181 0 95 (dk_at dksX6_beats_0 2 rfl rfl)
theorem dX6_beats_5 : decode cX6_beats 5 = .ok (.aload_n 0, 1) := dk_42 (dk_at dksX6_beats_0 5 rfl rfl)
theorem dX6_beats_6 : decode cX6_beats 6 = .ok (.iload_n 1, 1) := dk_27 (dk_at dksX6_beats_0 6 rfl rfl)
theorem dX6_beats_7 : decode cX6_beats 7 = .ok (.invokestatic 327, 3) := dk_184 1 71 (dk_at dksX6_beats_0 7 rfl rfl)
theorem dX6_beats_10 : decode cX6_beats 10 = .ok (.ifCond .ne 7, 3) := dk_154 0 7 (dk_at dksX6_beats_0 10 rfl rfl)
theorem dX6_beats_13 : decode cX6_beats 13 = .ok (.iconst 1, 1) := dk_4 (dk_at dksX6_beats_0 13 rfl rfl)
theorem dX6_beats_14 : decode cX6_beats 14 = .ok (.goto 4, 3) := dk_167 0 4 (dk_at dksX6_beats_0 14 rfl rfl)
theorem dX6_beats_17 : decode cX6_beats 17 = .ok (.iconst 0, 1) := dk_3 (dk_at dksX6_beats_0 17 rfl rfl)
theorem dX6_beats_18 : decode cX6_beats 18 = .ok (.iconst 1, 1) := dk_4 (dk_at dksX6_beats_0 18 rfl rfl)
theorem dX6_beats_19 : decode cX6_beats 19 = .ok (.iconst 1, 1) := dk_4 (dk_at dksX6_beats_0 19 rfl rfl)
theorem dX6_beats_20 : decode cX6_beats 20 = .ok (.invokevirtual 171, 3) := dk_182 0 171 (dk_at dksX6_beats_0 20 rfl rfl)
theorem dX6_beats_23 : decode cX6_beats 23 = .ok (.ifCond .eq 5, 3) := dk_153 0 5 (dk_at dksX6_beats_1 0 rfl rfl)
theorem dX6_beats_26 : decode cX6_beats 26 = .ok (.iconst 0, 1) := dk_3 (dk_at dksX6_beats_1 3 rfl rfl)
theorem dX6_beats_27 : decode cX6_beats 27 = .ok (.ireturn, 1) := dk_172 (dk_at dksX6_beats_1 4 rfl rfl)
theorem dX6_beats_28 : decode cX6_beats 28 = .ok (.iconst 0, 1) := dk_3 (dk_at dksX6_beats_1 5 rfl rfl)
theorem dX6_beats_29 : decode cX6_beats 29 = .ok (.istore_n 2, 1) := dk_61 (dk_at dksX6_beats_1 6 rfl rfl)
theorem dX6_beats_30 : decode cX6_beats 30 = .ok (.iconst 0, 1) := dk_3 (dk_at dksX6_beats_1 7 rfl rfl)
theorem dX6_beats_31 : decode cX6_beats 31 = .ok (.istore_n 3, 1) := dk_62 (dk_at dksX6_beats_1 8 rfl rfl)
theorem dX6_beats_32 : decode cX6_beats 32 = .ok (.iload_n 3, 1) := dk_29 (dk_at dksX6_beats_1 9 rfl rfl)
theorem dX6_beats_33 : decode cX6_beats 33 = .ok (.aload_n 0, 1) := dk_42 (dk_at dksX6_beats_1 10 rfl rfl)
theorem dX6_beats_34 : decode cX6_beats 34 = .ok (.getfield 23, 3) := dk_180 0 23 (dk_at dksX6_beats_1 11 rfl rfl)
theorem dX6_beats_37 : decode cX6_beats 37 = .ok (.iconst 1, 1) := dk_4 (dk_at dksX6_beats_1 14 rfl rfl)
theorem dX6_beats_38 : decode cX6_beats 38 = .ok (.iaload, 1) := dk_46 (dk_at dksX6_beats_1 15 rfl rfl)
theorem dX6_beats_39 : decode cX6_beats 39 = .ok (.if_icmp .ge 37, 3) := dk_162 0 37 (dk_at dksX6_beats_1 16 rfl rfl)
theorem dX6_beats_42 : decode cX6_beats 42 = .ok (.iload_n 2, 1) := dk_28 (dk_at dksX6_beats_1 19 rfl rfl)
theorem dX6_beats_43 : decode cX6_beats 43 = .ok (.aload_n 0, 1) := dk_42 (dk_at dksX6_beats_1 20 rfl rfl)
theorem dX6_beats_44 : decode cX6_beats 44 = .ok (.getfield 67, 3) := dk_180 0 67 (dk_at dksX6_beats_1 21 rfl rfl)
theorem dX6_beats_47 : decode cX6_beats 47 = .ok (.bipush 35, 2) := dk_16 35 (dk_at dksX6_beats_2 0 rfl rfl)
theorem dX6_beats_49 : decode cX6_beats 49 = .ok (.iload_n 3, 1) := dk_29 (dk_at dksX6_beats_2 2 rfl rfl)
theorem dX6_beats_50 : decode cX6_beats 50 = .ok (.iadd, 1) := dk_96 (dk_at dksX6_beats_2 3 rfl rfl)
theorem dX6_beats_51 : decode cX6_beats 51 = .ok (.iaload, 1) := dk_46 (dk_at dksX6_beats_2 4 rfl rfl)
theorem dX6_beats_52 : decode cX6_beats 52 = .ok (.iload_n 1, 1) := dk_27 (dk_at dksX6_beats_2 5 rfl rfl)
theorem dX6_beats_53 : decode cX6_beats 53 = .ok (.if_icmp .ne 14, 3) := dk_160 0 14 (dk_at dksX6_beats_2 6 rfl rfl)
theorem dX6_beats_56 : decode cX6_beats 56 = .ok (.aload_n 0, 1) := dk_42 (dk_at dksX6_beats_2 9 rfl rfl)
theorem dX6_beats_57 : decode cX6_beats 57 = .ok (.getfield 37, 3) := dk_180 0 37 (dk_at dksX6_beats_2 10 rfl rfl)
theorem dX6_beats_60 : decode cX6_beats 60 = .ok (.iload_n 3, 1) := dk_29 (dk_at dksX6_beats_2 13 rfl rfl)
theorem dX6_beats_61 : decode cX6_beats 61 = .ok (.aaload, 1) := dk_50 (dk_at dksX6_beats_2 14 rfl rfl)
theorem dX6_beats_62 : decode cX6_beats 62 = .ok (.iconst 1, 1) := dk_4 (dk_at dksX6_beats_2 15 rfl rfl)
theorem dX6_beats_63 : decode cX6_beats 63 = .ok (.iaload, 1) := dk_46 (dk_at dksX6_beats_2 16 rfl rfl)
theorem dX6_beats_64 : decode cX6_beats 64 = .ok (.goto 4, 3) := dk_167 0 4 (dk_at dksX6_beats_2 17 rfl rfl)
theorem dX6_beats_67 : decode cX6_beats 67 = .ok (.iconst 0, 1) := dk_3 (dk_at dksX6_beats_2 20 rfl rfl)
theorem dX6_beats_68 : decode cX6_beats 68 = .ok (.iadd, 1) := dk_96 (dk_at dksX6_beats_2 21 rfl rfl)
theorem dX6_beats_69 : decode cX6_beats 69 = .ok (.istore_n 2, 1) := dk_61 (dk_at dksX6_beats_2 22 rfl rfl)
theorem dX6_beats_70 : decode cX6_beats 70 = .ok (.iinc 3 1, 3) := dk_132 3 1 (dk_at dksX6_beats_3 0 rfl rfl)
theorem dX6_beats_73 : decode cX6_beats 73 = .ok (.goto (-41), 3) := dk_167 255 215 (dk_at dksX6_beats_3 3 rfl rfl)
theorem dX6_beats_76 : decode cX6_beats 76 = .ok (.iload_n 2, 1) := dk_28 (dk_at dksX6_beats_3 6 rfl rfl)
theorem dX6_beats_77 : decode cX6_beats 77 = .ok (.ireturn, 1) := dk_172 (dk_at dksX6_beats_3 7 rfl rfl)
abbrev cX6_words : ByteArray := prog_34_method_101_code
def yX6_words : MethodName := ⟨RX6, "words", "(I)I"⟩
def dkwX6_words_1 : List UInt8 := [153, 0, 5, 3, 172, 42, 27, 182, 1, 35, 172]
abbrev dktX6_words_1 : List UInt8 := dkwX6_words_1 ++ []
def dkwX6_words_0 : List UInt8 := [42, 3, 181, 0, 95, 42, 42, 27, 182, 1, 68, 154, 0, 7, 4, 167, 0, 4, 3, 4, 3, 182, 0, 171]
abbrev dktX6_words_0 : List UInt8 := dkwX6_words_0 ++ dktX6_words_1
theorem dksX6_words_0 : cX6_words.data.toList.drop 0 = dktX6_words_0 := by decide +kernel
theorem dksX6_words_1 : cX6_words.data.toList.drop 24 = dktX6_words_1 := dk_seg dksX6_words_0 24 rfl rfl
theorem dX6_words_0 : decode cX6_words 0 = .ok (.aload_n 0, 1) := dk_42 (dk_at dksX6_words_0 0 rfl rfl)
theorem dX6_words_1 : decode cX6_words 1 = .ok (.iconst 0, 1) := dk_3 (dk_at dksX6_words_0 1 rfl rfl)
theorem dX6_words_2 : decode cX6_words 2 = .ok (.putfield 95, 3) := dk_181 0 95 (dk_at dksX6_words_0 2 rfl rfl)
theorem dX6_words_5 : decode cX6_words 5 = .ok (.aload_n 0, 1) := dk_42 (dk_at dksX6_words_0 5 rfl rfl)
theorem dX6_words_6 : decode cX6_words 6 = .ok (.aload_n 0, 1) := dk_42 (dk_at dksX6_words_0 6 rfl rfl)
theorem dX6_words_7 : decode cX6_words 7 = .ok (.iload_n 1, 1) := dk_27 (dk_at dksX6_words_0 7 rfl rfl)
theorem dX6_words_8 : decode cX6_words 8 = .ok (.invokevirtual 324, 3) := dk_182 1 68 (dk_at dksX6_words_0 8 rfl rfl)
theorem dX6_words_11 : decode cX6_words 11 = .ok (.ifCond .ne 7, 3) := dk_154 0 7 (dk_at dksX6_words_0 11 rfl rfl)
theorem dX6_words_14 : decode cX6_words 14 = .ok (.iconst 1, 1) := dk_4 (dk_at dksX6_words_0 14 rfl rfl)
theorem dX6_words_15 : decode cX6_words 15 = .ok (.goto 4, 3) := dk_167 0 4 (dk_at dksX6_words_0 15 rfl rfl)
theorem dX6_words_18 : decode cX6_words 18 = .ok (.iconst 0, 1) := dk_3 (dk_at dksX6_words_0 18 rfl rfl)
theorem dX6_words_19 : decode cX6_words 19 = .ok (.iconst 1, 1) := dk_4 (dk_at dksX6_words_0 19 rfl rfl)
theorem dX6_words_20 : decode cX6_words 20 = .ok (.iconst 0, 1) := dk_3 (dk_at dksX6_words_0 20 rfl rfl)
theorem dX6_words_21 : decode cX6_words 21 = .ok (.invokevirtual 171, 3) := dk_182 0 171 (dk_at dksX6_words_0 21 rfl rfl)
theorem dX6_words_24 : decode cX6_words 24 = .ok (.ifCond .eq 5, 3) := dk_153 0 5 (dk_at dksX6_words_1 0 rfl rfl)
theorem dX6_words_27 : decode cX6_words 27 = .ok (.iconst 0, 1) := dk_3 (dk_at dksX6_words_1 3 rfl rfl)
theorem dX6_words_28 : decode cX6_words 28 = .ok (.ireturn, 1) := dk_172 (dk_at dksX6_words_1 4 rfl rfl)
theorem dX6_words_29 : decode cX6_words 29 = .ok (.aload_n 0, 1) := dk_42 (dk_at dksX6_words_1 5 rfl rfl)
theorem dX6_words_30 : decode cX6_words 30 = .ok (.iload_n 1, 1) := dk_27 (dk_at dksX6_words_1 6 rfl rfl)
theorem dX6_words_31 : decode cX6_words 31 = .ok (.invokevirtual 291, 3) := dk_182 1 35 (dk_at dksX6_words_1 7 rfl rfl)
theorem dX6_words_34 : decode cX6_words 34 = .ok (.ireturn, 1) := dk_172 (dk_at dksX6_words_1 10 rfl rfl)
abbrev cX6_mute : ByteArray := prog_34_method_102_code
def yX6_mute : MethodName := ⟨RX6, "mute", "()I"⟩
def dkwX6_mute_2 : List UInt8 := [167, 255, 220, 27, 172]
abbrev dktX6_mute_2 : List UInt8 := dkwX6_mute_2 ++ []
def dkwX6_mute_1 : List UInt8 := [180, 0, 67, 28, 182, 1, 13, 2, 160, 0, 9, 4, 28, 120, 167, 0, 4, 3, 128, 60, 132, 2, 1]
abbrev dktX6_mute_1 : List UInt8 := dkwX6_mute_1 ++ dktX6_mute_2
def dkwX6_mute_0 : List UInt8 := [42, 3, 181, 0, 95, 3, 60, 3, 61, 28, 42, 180, 0, 23, 4, 46, 162, 0, 32, 27, 42, 42]
abbrev dktX6_mute_0 : List UInt8 := dkwX6_mute_0 ++ dktX6_mute_1
theorem dksX6_mute_0 : cX6_mute.data.toList.drop 0 = dktX6_mute_0 := by decide +kernel
theorem dksX6_mute_1 : cX6_mute.data.toList.drop 22 = dktX6_mute_1 := dk_seg dksX6_mute_0 22 rfl rfl
theorem dksX6_mute_2 : cX6_mute.data.toList.drop 45 = dktX6_mute_2 := dk_seg dksX6_mute_1 23 rfl rfl
theorem dX6_mute_0 : decode cX6_mute 0 = .ok (.aload_n 0, 1) := dk_42 (dk_at dksX6_mute_0 0 rfl rfl)
theorem dX6_mute_1 : decode cX6_mute 1 = .ok (.iconst 0, 1) := dk_3 (dk_at dksX6_mute_0 1 rfl rfl)
theorem dX6_mute_2 : decode cX6_mute 2 = .ok (.putfield 95, 3) := dk_181 0 95 (dk_at dksX6_mute_0 2 rfl rfl)
theorem dX6_mute_5 : decode cX6_mute 5 = .ok (.iconst 0, 1) := dk_3 (dk_at dksX6_mute_0 5 rfl rfl)
theorem dX6_mute_6 : decode cX6_mute 6 = .ok (.istore_n 1, 1) := dk_60 (dk_at dksX6_mute_0 6 rfl rfl)
theorem dX6_mute_7 : decode cX6_mute 7 = .ok (.iconst 0, 1) := dk_3 (dk_at dksX6_mute_0 7 rfl rfl)
theorem dX6_mute_8 : decode cX6_mute 8 = .ok (.istore_n 2, 1) := dk_61 (dk_at dksX6_mute_0 8 rfl rfl)
theorem dX6_mute_9 : decode cX6_mute 9 = .ok (.iload_n 2, 1) := dk_28 (dk_at dksX6_mute_0 9 rfl rfl)
theorem dX6_mute_10 : decode cX6_mute 10 = .ok (.aload_n 0, 1) := dk_42 (dk_at dksX6_mute_0 10 rfl rfl)
theorem dX6_mute_11 : decode cX6_mute 11 = .ok (.getfield 23, 3) := dk_180 0 23 (dk_at dksX6_mute_0 11 rfl rfl)
theorem dX6_mute_14 : decode cX6_mute 14 = .ok (.iconst 1, 1) := dk_4 (dk_at dksX6_mute_0 14 rfl rfl)
theorem dX6_mute_15 : decode cX6_mute 15 = .ok (.iaload, 1) := dk_46 (dk_at dksX6_mute_0 15 rfl rfl)
theorem dX6_mute_16 : decode cX6_mute 16 = .ok (.if_icmp .ge 32, 3) := dk_162 0 32 (dk_at dksX6_mute_0 16 rfl rfl)
theorem dX6_mute_19 : decode cX6_mute 19 = .ok (.iload_n 1, 1) := dk_27 (dk_at dksX6_mute_0 19 rfl rfl)
theorem dX6_mute_20 : decode cX6_mute 20 = .ok (.aload_n 0, 1) := dk_42 (dk_at dksX6_mute_0 20 rfl rfl)
theorem dX6_mute_21 : decode cX6_mute 21 = .ok (.aload_n 0, 1) := dk_42 (dk_at dksX6_mute_0 21 rfl rfl)
theorem dX6_mute_22 : decode cX6_mute 22 = .ok (.getfield 67, 3) := dk_180 0 67 (dk_at dksX6_mute_1 0 rfl rfl)
theorem dX6_mute_25 : decode cX6_mute 25 = .ok (.iload_n 2, 1) := dk_28 (dk_at dksX6_mute_1 3 rfl rfl)
theorem dX6_mute_26 : decode cX6_mute 26 = .ok (.invokevirtual 269, 3) := dk_182 1 13 (dk_at dksX6_mute_1 4 rfl rfl)
theorem dX6_mute_29 : decode cX6_mute 29 = .ok (.iconst (-1), 1) := dk_2 (dk_at dksX6_mute_1 7 rfl rfl)
theorem dX6_mute_30 : decode cX6_mute 30 = .ok (.if_icmp .ne 9, 3) := dk_160 0 9 (dk_at dksX6_mute_1 8 rfl rfl)
theorem dX6_mute_33 : decode cX6_mute 33 = .ok (.iconst 1, 1) := dk_4 (dk_at dksX6_mute_1 11 rfl rfl)
theorem dX6_mute_34 : decode cX6_mute 34 = .ok (.iload_n 2, 1) := dk_28 (dk_at dksX6_mute_1 12 rfl rfl)
theorem dX6_mute_35 : decode cX6_mute 35 = .ok (.ishl, 1) := dk_120 (dk_at dksX6_mute_1 13 rfl rfl)
theorem dX6_mute_36 : decode cX6_mute 36 = .ok (.goto 4, 3) := dk_167 0 4 (dk_at dksX6_mute_1 14 rfl rfl)
theorem dX6_mute_39 : decode cX6_mute 39 = .ok (.iconst 0, 1) := dk_3 (dk_at dksX6_mute_1 17 rfl rfl)
theorem dX6_mute_40 : decode cX6_mute 40 = .ok (.ior, 1) := dk_128 (dk_at dksX6_mute_1 18 rfl rfl)
theorem dX6_mute_41 : decode cX6_mute 41 = .ok (.istore_n 1, 1) := dk_60 (dk_at dksX6_mute_1 19 rfl rfl)
theorem dX6_mute_42 : decode cX6_mute 42 = .ok (.iinc 2 1, 3) := dk_132 2 1 (dk_at dksX6_mute_1 20 rfl rfl)
theorem dX6_mute_45 : decode cX6_mute 45 = .ok (.goto (-36), 3) := dk_167 255 220 (dk_at dksX6_mute_2 0 rfl rfl)
theorem dX6_mute_48 : decode cX6_mute 48 = .ok (.iload_n 1, 1) := dk_27 (dk_at dksX6_mute_2 3 rfl rfl)
theorem dX6_mute_49 : decode cX6_mute 49 = .ok (.ireturn, 1) := dk_172 (dk_at dksX6_mute_2 4 rfl rfl)
abbrev cX6_idle : ByteArray := prog_34_method_103_code
def yX6_idle : MethodName := ⟨RX6, "idle", "()I"⟩
def dkwX6_idle_3 : List UInt8 := [132, 2, 1, 167, 255, 212, 27, 172]
abbrev dktX6_idle_3 : List UInt8 := dkwX6_idle_3 ++ []
def dkwX6_idle_2 : List UInt8 := [46, 42, 180, 0, 67, 16, 14, 28, 96, 46, 160, 0, 9, 4, 28, 120, 167, 0, 4, 3, 128, 60]
abbrev dktX6_idle_2 : List UInt8 := dkwX6_idle_2 ++ dktX6_idle_3
def dkwX6_idle_1 : List UInt8 := [182, 1, 24, 3, 61, 28, 42, 180, 0, 23, 3, 46, 162, 0, 40, 27, 42, 180, 0, 70, 16, 14, 28, 96]
abbrev dktX6_idle_1 : List UInt8 := dkwX6_idle_1 ++ dktX6_idle_2
def dkwX6_idle_0 : List UInt8 := [42, 3, 181, 0, 95, 3, 60, 42, 180, 0, 67, 42, 180, 0, 70, 184, 1, 54, 42, 42, 180, 0, 70]
abbrev dktX6_idle_0 : List UInt8 := dkwX6_idle_0 ++ dktX6_idle_1
theorem dksX6_idle_0 : cX6_idle.data.toList.drop 0 = dktX6_idle_0 := by decide +kernel
theorem dksX6_idle_1 : cX6_idle.data.toList.drop 23 = dktX6_idle_1 := dk_seg dksX6_idle_0 23 rfl rfl
theorem dksX6_idle_2 : cX6_idle.data.toList.drop 47 = dktX6_idle_2 := dk_seg dksX6_idle_1 24 rfl rfl
theorem dksX6_idle_3 : cX6_idle.data.toList.drop 69 = dktX6_idle_3 := dk_seg dksX6_idle_2 22 rfl rfl
theorem dX6_idle_0 : decode cX6_idle 0 = .ok (.aload_n 0, 1) := dk_42 (dk_at dksX6_idle_0 0 rfl rfl)
theorem dX6_idle_1 : decode cX6_idle 1 = .ok (.iconst 0, 1) := dk_3 (dk_at dksX6_idle_0 1 rfl rfl)
theorem dX6_idle_2 : decode cX6_idle 2 = .ok (.putfield 95, 3) := dk_181 0 95 (dk_at dksX6_idle_0 2 rfl rfl)
theorem dX6_idle_5 : decode cX6_idle 5 = .ok (.iconst 0, 1) := dk_3 (dk_at dksX6_idle_0 5 rfl rfl)
theorem dX6_idle_6 : decode cX6_idle 6 = .ok (.istore_n 1, 1) := dk_60 (dk_at dksX6_idle_0 6 rfl rfl)
theorem dX6_idle_7 : decode cX6_idle 7 = .ok (.aload_n 0, 1) := dk_42 (dk_at dksX6_idle_0 7 rfl rfl)
theorem dX6_idle_8 : decode cX6_idle 8 = .ok (.getfield 67, 3) := dk_180 0 67 (dk_at dksX6_idle_0 8 rfl rfl)
theorem dX6_idle_11 : decode cX6_idle 11 = .ok (.aload_n 0, 1) := dk_42 (dk_at dksX6_idle_0 11 rfl rfl)
theorem dX6_idle_12 : decode cX6_idle 12 = .ok (.getfield 70, 3) := dk_180 0 70 (dk_at dksX6_idle_0 12 rfl rfl)
theorem dX6_idle_15 : decode cX6_idle 15 = .ok (.invokestatic 310, 3) := dk_184 1 54 (dk_at dksX6_idle_0 15 rfl rfl)
theorem dX6_idle_18 : decode cX6_idle 18 = .ok (.aload_n 0, 1) := dk_42 (dk_at dksX6_idle_0 18 rfl rfl)
theorem dX6_idle_19 : decode cX6_idle 19 = .ok (.aload_n 0, 1) := dk_42 (dk_at dksX6_idle_0 19 rfl rfl)
theorem dX6_idle_20 : decode cX6_idle 20 = .ok (.getfield 70, 3) := dk_180 0 70 (dk_at dksX6_idle_0 20 rfl rfl)
theorem dX6_idle_23 : decode cX6_idle 23 = .ok (.invokevirtual 280, 3) := dk_182 1 24 (dk_at dksX6_idle_1 0 rfl rfl)
theorem dX6_idle_26 : decode cX6_idle 26 = .ok (.iconst 0, 1) := dk_3 (dk_at dksX6_idle_1 3 rfl rfl)
theorem dX6_idle_27 : decode cX6_idle 27 = .ok (.istore_n 2, 1) := dk_61 (dk_at dksX6_idle_1 4 rfl rfl)
theorem dX6_idle_28 : decode cX6_idle 28 = .ok (.iload_n 2, 1) := dk_28 (dk_at dksX6_idle_1 5 rfl rfl)
theorem dX6_idle_29 : decode cX6_idle 29 = .ok (.aload_n 0, 1) := dk_42 (dk_at dksX6_idle_1 6 rfl rfl)
theorem dX6_idle_30 : decode cX6_idle 30 = .ok (.getfield 23, 3) := dk_180 0 23 (dk_at dksX6_idle_1 7 rfl rfl)
theorem dX6_idle_33 : decode cX6_idle 33 = .ok (.iconst 0, 1) := dk_3 (dk_at dksX6_idle_1 10 rfl rfl)
theorem dX6_idle_34 : decode cX6_idle 34 = .ok (.iaload, 1) := dk_46 (dk_at dksX6_idle_1 11 rfl rfl)
theorem dX6_idle_35 : decode cX6_idle 35 = .ok (.if_icmp .ge 40, 3) := dk_162 0 40 (dk_at dksX6_idle_1 12 rfl rfl)
theorem dX6_idle_38 : decode cX6_idle 38 = .ok (.iload_n 1, 1) := dk_27 (dk_at dksX6_idle_1 15 rfl rfl)
theorem dX6_idle_39 : decode cX6_idle 39 = .ok (.aload_n 0, 1) := dk_42 (dk_at dksX6_idle_1 16 rfl rfl)
theorem dX6_idle_40 : decode cX6_idle 40 = .ok (.getfield 70, 3) := dk_180 0 70 (dk_at dksX6_idle_1 17 rfl rfl)
theorem dX6_idle_43 : decode cX6_idle 43 = .ok (.bipush 14, 2) := dk_16 14 (dk_at dksX6_idle_1 20 rfl rfl)
theorem dX6_idle_45 : decode cX6_idle 45 = .ok (.iload_n 2, 1) := dk_28 (dk_at dksX6_idle_1 22 rfl rfl)
theorem dX6_idle_46 : decode cX6_idle 46 = .ok (.iadd, 1) := dk_96 (dk_at dksX6_idle_1 23 rfl rfl)
theorem dX6_idle_47 : decode cX6_idle 47 = .ok (.iaload, 1) := dk_46 (dk_at dksX6_idle_2 0 rfl rfl)
theorem dX6_idle_48 : decode cX6_idle 48 = .ok (.aload_n 0, 1) := dk_42 (dk_at dksX6_idle_2 1 rfl rfl)
theorem dX6_idle_49 : decode cX6_idle 49 = .ok (.getfield 67, 3) := dk_180 0 67 (dk_at dksX6_idle_2 2 rfl rfl)
theorem dX6_idle_52 : decode cX6_idle 52 = .ok (.bipush 14, 2) := dk_16 14 (dk_at dksX6_idle_2 5 rfl rfl)
theorem dX6_idle_54 : decode cX6_idle 54 = .ok (.iload_n 2, 1) := dk_28 (dk_at dksX6_idle_2 7 rfl rfl)
theorem dX6_idle_55 : decode cX6_idle 55 = .ok (.iadd, 1) := dk_96 (dk_at dksX6_idle_2 8 rfl rfl)
theorem dX6_idle_56 : decode cX6_idle 56 = .ok (.iaload, 1) := dk_46 (dk_at dksX6_idle_2 9 rfl rfl)
theorem dX6_idle_57 : decode cX6_idle 57 = .ok (.if_icmp .ne 9, 3) := dk_160 0 9 (dk_at dksX6_idle_2 10 rfl rfl)
theorem dX6_idle_60 : decode cX6_idle 60 = .ok (.iconst 1, 1) := dk_4 (dk_at dksX6_idle_2 13 rfl rfl)
theorem dX6_idle_61 : decode cX6_idle 61 = .ok (.iload_n 2, 1) := dk_28 (dk_at dksX6_idle_2 14 rfl rfl)
theorem dX6_idle_62 : decode cX6_idle 62 = .ok (.ishl, 1) := dk_120 (dk_at dksX6_idle_2 15 rfl rfl)
theorem dX6_idle_63 : decode cX6_idle 63 = .ok (.goto 4, 3) := dk_167 0 4 (dk_at dksX6_idle_2 16 rfl rfl)
theorem dX6_idle_66 : decode cX6_idle 66 = .ok (.iconst 0, 1) := dk_3 (dk_at dksX6_idle_2 19 rfl rfl)
theorem dX6_idle_67 : decode cX6_idle 67 = .ok (.ior, 1) := dk_128 (dk_at dksX6_idle_2 20 rfl rfl)
theorem dX6_idle_68 : decode cX6_idle 68 = .ok (.istore_n 1, 1) := dk_60 (dk_at dksX6_idle_2 21 rfl rfl)
theorem dX6_idle_69 : decode cX6_idle 69 = .ok (.iinc 2 1, 3) := dk_132 2 1 (dk_at dksX6_idle_3 0 rfl rfl)
theorem dX6_idle_72 : decode cX6_idle 72 = .ok (.goto (-44), 3) := dk_167 255 212 (dk_at dksX6_idle_3 3 rfl rfl)
theorem dX6_idle_75 : decode cX6_idle 75 = .ok (.iload_n 1, 1) := dk_27 (dk_at dksX6_idle_3 6 rfl rfl)
theorem dX6_idle_76 : decode cX6_idle 76 = .ok (.ireturn, 1) := dk_172 (dk_at dksX6_idle_3 7 rfl rfl)
abbrev cX6_alone : ByteArray := prog_34_method_104_code
def yX6_alone : MethodName := ⟨RX6, "alone", "(I)I"⟩
def dkwX6_alone_4 : List UInt8 := [160, 0, 7, 28, 167, 0, 4, 2, 172]
abbrev dktX6_alone_4 : List UInt8 := dkwX6_alone_4 ++ []
def dkwX6_alone_3 : List UInt8 := [21, 4, 50, 3, 46, 27, 160, 0, 7, 4, 167, 0, 4, 3, 96, 62, 132, 4, 1, 167, 255, 201, 29, 4]
abbrev dktX6_alone_3 : List UInt8 := dkwX6_alone_3 ++ dktX6_alone_4
def dkwX6_alone_2 : List UInt8 := [180, 0, 31, 21, 4, 50, 3, 46, 27, 160, 0, 8, 21, 4, 167, 0, 4, 28, 61, 29, 42, 180, 0, 31]
abbrev dktX6_alone_2 : List UInt8 := dkwX6_alone_2 ++ dktX6_alone_3
def dkwX6_alone_1 : List UInt8 := [153, 0, 5, 3, 172, 2, 61, 3, 62, 3, 54, 4, 21, 4, 42, 180, 0, 23, 3, 46, 162, 0, 50, 42]
abbrev dktX6_alone_1 : List UInt8 := dkwX6_alone_1 ++ dktX6_alone_2
def dkwX6_alone_0 : List UInt8 := [42, 3, 181, 0, 95, 42, 27, 184, 1, 71, 154, 0, 7, 4, 167, 0, 4, 3, 4, 4, 182, 0, 171]
abbrev dktX6_alone_0 : List UInt8 := dkwX6_alone_0 ++ dktX6_alone_1
theorem dksX6_alone_0 : cX6_alone.data.toList.drop 0 = dktX6_alone_0 := by decide +kernel
theorem dksX6_alone_1 : cX6_alone.data.toList.drop 23 = dktX6_alone_1 := dk_seg dksX6_alone_0 23 rfl rfl
theorem dksX6_alone_2 : cX6_alone.data.toList.drop 47 = dktX6_alone_2 := dk_seg dksX6_alone_1 24 rfl rfl
theorem dksX6_alone_3 : cX6_alone.data.toList.drop 71 = dktX6_alone_3 := dk_seg dksX6_alone_2 24 rfl rfl
theorem dksX6_alone_4 : cX6_alone.data.toList.drop 95 = dktX6_alone_4 := dk_seg dksX6_alone_3 24 rfl rfl
theorem dX6_alone_0 : decode cX6_alone 0 = .ok (.aload_n 0, 1) := dk_42 (dk_at dksX6_alone_0 0 rfl rfl)
theorem dX6_alone_1 : decode cX6_alone 1 = .ok (.iconst 0, 1) := dk_3 (dk_at dksX6_alone_0 1 rfl rfl)
theorem dX6_alone_2 : decode cX6_alone 2 = .ok (.putfield 95, 3) := dk_181 0 95 (dk_at dksX6_alone_0 2 rfl rfl)
theorem dX6_alone_5 : decode cX6_alone 5 = .ok (.aload_n 0, 1) := dk_42 (dk_at dksX6_alone_0 5 rfl rfl)
theorem dX6_alone_6 : decode cX6_alone 6 = .ok (.iload_n 1, 1) := dk_27 (dk_at dksX6_alone_0 6 rfl rfl)
theorem dX6_alone_7 : decode cX6_alone 7 = .ok (.invokestatic 327, 3) := dk_184 1 71 (dk_at dksX6_alone_0 7 rfl rfl)
theorem dX6_alone_10 : decode cX6_alone 10 = .ok (.ifCond .ne 7, 3) := dk_154 0 7 (dk_at dksX6_alone_0 10 rfl rfl)
theorem dX6_alone_13 : decode cX6_alone 13 = .ok (.iconst 1, 1) := dk_4 (dk_at dksX6_alone_0 13 rfl rfl)
theorem dX6_alone_14 : decode cX6_alone 14 = .ok (.goto 4, 3) := dk_167 0 4 (dk_at dksX6_alone_0 14 rfl rfl)
theorem dX6_alone_17 : decode cX6_alone 17 = .ok (.iconst 0, 1) := dk_3 (dk_at dksX6_alone_0 17 rfl rfl)
theorem dX6_alone_18 : decode cX6_alone 18 = .ok (.iconst 1, 1) := dk_4 (dk_at dksX6_alone_0 18 rfl rfl)
theorem dX6_alone_19 : decode cX6_alone 19 = .ok (.iconst 1, 1) := dk_4 (dk_at dksX6_alone_0 19 rfl rfl)
theorem dX6_alone_20 : decode cX6_alone 20 = .ok (.invokevirtual 171, 3) := dk_182 0 171 (dk_at dksX6_alone_0 20 rfl rfl)
theorem dX6_alone_23 : decode cX6_alone 23 = .ok (.ifCond .eq 5, 3) := dk_153 0 5 (dk_at dksX6_alone_1 0 rfl rfl)
theorem dX6_alone_26 : decode cX6_alone 26 = .ok (.iconst 0, 1) := dk_3 (dk_at dksX6_alone_1 3 rfl rfl)
theorem dX6_alone_27 : decode cX6_alone 27 = .ok (.ireturn, 1) := dk_172 (dk_at dksX6_alone_1 4 rfl rfl)
theorem dX6_alone_28 : decode cX6_alone 28 = .ok (.iconst (-1), 1) := dk_2 (dk_at dksX6_alone_1 5 rfl rfl)
theorem dX6_alone_29 : decode cX6_alone 29 = .ok (.istore_n 2, 1) := dk_61 (dk_at dksX6_alone_1 6 rfl rfl)
theorem dX6_alone_30 : decode cX6_alone 30 = .ok (.iconst 0, 1) := dk_3 (dk_at dksX6_alone_1 7 rfl rfl)
theorem dX6_alone_31 : decode cX6_alone 31 = .ok (.istore_n 3, 1) := dk_62 (dk_at dksX6_alone_1 8 rfl rfl)
theorem dX6_alone_32 : decode cX6_alone 32 = .ok (.iconst 0, 1) := dk_3 (dk_at dksX6_alone_1 9 rfl rfl)
theorem dX6_alone_33 : decode cX6_alone 33 = .ok (.istore 4, 2) := dk_54 4 (dk_at dksX6_alone_1 10 rfl rfl)
theorem dX6_alone_35 : decode cX6_alone 35 = .ok (.iload 4, 2) := dk_21 4 (dk_at dksX6_alone_1 12 rfl rfl)
theorem dX6_alone_37 : decode cX6_alone 37 = .ok (.aload_n 0, 1) := dk_42 (dk_at dksX6_alone_1 14 rfl rfl)
theorem dX6_alone_38 : decode cX6_alone 38 = .ok (.getfield 23, 3) := dk_180 0 23 (dk_at dksX6_alone_1 15 rfl rfl)
theorem dX6_alone_41 : decode cX6_alone 41 = .ok (.iconst 0, 1) := dk_3 (dk_at dksX6_alone_1 18 rfl rfl)
theorem dX6_alone_42 : decode cX6_alone 42 = .ok (.iaload, 1) := dk_46 (dk_at dksX6_alone_1 19 rfl rfl)
theorem dX6_alone_43 : decode cX6_alone 43 = .ok (.if_icmp .ge 50, 3) := dk_162 0 50 (dk_at dksX6_alone_1 20 rfl rfl)
theorem dX6_alone_46 : decode cX6_alone 46 = .ok (.aload_n 0, 1) := dk_42 (dk_at dksX6_alone_1 23 rfl rfl)
theorem dX6_alone_47 : decode cX6_alone 47 = .ok (.getfield 31, 3) := dk_180 0 31 (dk_at dksX6_alone_2 0 rfl rfl)
theorem dX6_alone_50 : decode cX6_alone 50 = .ok (.iload 4, 2) := dk_21 4 (dk_at dksX6_alone_2 3 rfl rfl)
theorem dX6_alone_52 : decode cX6_alone 52 = .ok (.aaload, 1) := dk_50 (dk_at dksX6_alone_2 5 rfl rfl)
theorem dX6_alone_53 : decode cX6_alone 53 = .ok (.iconst 0, 1) := dk_3 (dk_at dksX6_alone_2 6 rfl rfl)
theorem dX6_alone_54 : decode cX6_alone 54 = .ok (.iaload, 1) := dk_46 (dk_at dksX6_alone_2 7 rfl rfl)
theorem dX6_alone_55 : decode cX6_alone 55 = .ok (.iload_n 1, 1) := dk_27 (dk_at dksX6_alone_2 8 rfl rfl)
theorem dX6_alone_56 : decode cX6_alone 56 = .ok (.if_icmp .ne 8, 3) := dk_160 0 8 (dk_at dksX6_alone_2 9 rfl rfl)
theorem dX6_alone_59 : decode cX6_alone 59 = .ok (.iload 4, 2) := dk_21 4 (dk_at dksX6_alone_2 12 rfl rfl)
theorem dX6_alone_61 : decode cX6_alone 61 = .ok (.goto 4, 3) := dk_167 0 4 (dk_at dksX6_alone_2 14 rfl rfl)
theorem dX6_alone_64 : decode cX6_alone 64 = .ok (.iload_n 2, 1) := dk_28 (dk_at dksX6_alone_2 17 rfl rfl)
theorem dX6_alone_65 : decode cX6_alone 65 = .ok (.istore_n 2, 1) := dk_61 (dk_at dksX6_alone_2 18 rfl rfl)
theorem dX6_alone_66 : decode cX6_alone 66 = .ok (.iload_n 3, 1) := dk_29 (dk_at dksX6_alone_2 19 rfl rfl)
theorem dX6_alone_67 : decode cX6_alone 67 = .ok (.aload_n 0, 1) := dk_42 (dk_at dksX6_alone_2 20 rfl rfl)
theorem dX6_alone_68 : decode cX6_alone 68 = .ok (.getfield 31, 3) := dk_180 0 31 (dk_at dksX6_alone_2 21 rfl rfl)
theorem dX6_alone_71 : decode cX6_alone 71 = .ok (.iload 4, 2) := dk_21 4 (dk_at dksX6_alone_3 0 rfl rfl)
theorem dX6_alone_73 : decode cX6_alone 73 = .ok (.aaload, 1) := dk_50 (dk_at dksX6_alone_3 2 rfl rfl)
theorem dX6_alone_74 : decode cX6_alone 74 = .ok (.iconst 0, 1) := dk_3 (dk_at dksX6_alone_3 3 rfl rfl)
theorem dX6_alone_75 : decode cX6_alone 75 = .ok (.iaload, 1) := dk_46 (dk_at dksX6_alone_3 4 rfl rfl)
theorem dX6_alone_76 : decode cX6_alone 76 = .ok (.iload_n 1, 1) := dk_27 (dk_at dksX6_alone_3 5 rfl rfl)
theorem dX6_alone_77 : decode cX6_alone 77 = .ok (.if_icmp .ne 7, 3) := dk_160 0 7 (dk_at dksX6_alone_3 6 rfl rfl)
theorem dX6_alone_80 : decode cX6_alone 80 = .ok (.iconst 1, 1) := dk_4 (dk_at dksX6_alone_3 9 rfl rfl)
theorem dX6_alone_81 : decode cX6_alone 81 = .ok (.goto 4, 3) := dk_167 0 4 (dk_at dksX6_alone_3 10 rfl rfl)
theorem dX6_alone_84 : decode cX6_alone 84 = .ok (.iconst 0, 1) := dk_3 (dk_at dksX6_alone_3 13 rfl rfl)
theorem dX6_alone_85 : decode cX6_alone 85 = .ok (.iadd, 1) := dk_96 (dk_at dksX6_alone_3 14 rfl rfl)
theorem dX6_alone_86 : decode cX6_alone 86 = .ok (.istore_n 3, 1) := dk_62 (dk_at dksX6_alone_3 15 rfl rfl)
theorem dX6_alone_87 : decode cX6_alone 87 = .ok (.iinc 4 1, 3) := dk_132 4 1 (dk_at dksX6_alone_3 16 rfl rfl)
theorem dX6_alone_90 : decode cX6_alone 90 = .ok (.goto (-55), 3) := dk_167 255 201 (dk_at dksX6_alone_3 19 rfl rfl)
theorem dX6_alone_93 : decode cX6_alone 93 = .ok (.iload_n 3, 1) := dk_29 (dk_at dksX6_alone_3 22 rfl rfl)
theorem dX6_alone_94 : decode cX6_alone 94 = .ok (.iconst 1, 1) := dk_4 (dk_at dksX6_alone_3 23 rfl rfl)
theorem dX6_alone_95 : decode cX6_alone 95 = .ok (.if_icmp .ne 7, 3) := dk_160 0 7 (dk_at dksX6_alone_4 0 rfl rfl)
theorem dX6_alone_98 : decode cX6_alone 98 = .ok (.iload_n 2, 1) := dk_28 (dk_at dksX6_alone_4 3 rfl rfl)
theorem dX6_alone_99 : decode cX6_alone 99 = .ok (.goto 4, 3) := dk_167 0 4 (dk_at dksX6_alone_4 4 rfl rfl)
theorem dX6_alone_102 : decode cX6_alone 102 = .ok (.iconst (-1), 1) := dk_2 (dk_at dksX6_alone_4 7 rfl rfl)
theorem dX6_alone_103 : decode cX6_alone 103 = .ok (.ireturn, 1) := dk_172 (dk_at dksX6_alone_4 8 rfl rfl)
abbrev cX6_longest : ByteArray := prog_34_method_105_code
def yX6_longest : MethodName := ⟨RX6, "longest", "(I)I"⟩
def dkwX6_longest_4 : List UInt8 := [42, 180, 0, 37, 28, 50, 4, 46, 172]
abbrev dktX6_longest_4 : List UInt8 := dkwX6_longest_4 ++ []
def dkwX6_longest_3 : List UInt8 := [167, 0, 4, 28, 61, 132, 3, 1, 167, 255, 213, 27, 153, 0, 8, 28, 2, 160, 0, 7, 28, 167, 0, 11]
abbrev dktX6_longest_3 : List UInt8 := dkwX6_longest_3 ++ dktX6_longest_4
def dkwX6_longest_2 : List UInt8 := [159, 0, 22, 42, 180, 0, 37, 29, 50, 4, 46, 42, 180, 0, 37, 28, 50, 4, 46, 164, 0, 7, 29]
abbrev dktX6_longest_2 : List UInt8 := dkwX6_longest_2 ++ dktX6_longest_3
def dkwX6_longest_1 : List UInt8 := [182, 0, 171, 153, 0, 5, 3, 172, 2, 61, 3, 62, 29, 42, 180, 0, 23, 4, 46, 162, 0, 39, 28, 2]
abbrev dktX6_longest_1 : List UInt8 := dkwX6_longest_1 ++ dktX6_longest_2
def dkwX6_longest_0 : List UInt8 := [42, 3, 181, 0, 95, 42, 27, 3, 4, 184, 0, 129, 154, 0, 7, 4, 167, 0, 4, 3, 4, 4]
abbrev dktX6_longest_0 : List UInt8 := dkwX6_longest_0 ++ dktX6_longest_1
theorem dksX6_longest_0 : cX6_longest.data.toList.drop 0 = dktX6_longest_0 := by decide +kernel
theorem dksX6_longest_1 : cX6_longest.data.toList.drop 22 = dktX6_longest_1 := dk_seg dksX6_longest_0 22 rfl rfl
theorem dksX6_longest_2 : cX6_longest.data.toList.drop 46 = dktX6_longest_2 := dk_seg dksX6_longest_1 24 rfl rfl
theorem dksX6_longest_3 : cX6_longest.data.toList.drop 69 = dktX6_longest_3 := dk_seg dksX6_longest_2 23 rfl rfl
theorem dksX6_longest_4 : cX6_longest.data.toList.drop 93 = dktX6_longest_4 := dk_seg dksX6_longest_3 24 rfl rfl
theorem dX6_longest_0 : decode cX6_longest 0 = .ok (.aload_n 0, 1) := dk_42 (dk_at dksX6_longest_0 0 rfl rfl)
theorem dX6_longest_1 : decode cX6_longest 1 = .ok (.iconst 0, 1) := dk_3 (dk_at dksX6_longest_0 1 rfl rfl)
theorem dX6_longest_2 : decode cX6_longest 2 = .ok (.putfield 95, 3) := dk_181 0 95 (dk_at dksX6_longest_0 2 rfl rfl)
theorem dX6_longest_5 : decode cX6_longest 5 = .ok (.aload_n 0, 1) := dk_42 (dk_at dksX6_longest_0 5 rfl rfl)
theorem dX6_longest_6 : decode cX6_longest 6 = .ok (.iload_n 1, 1) := dk_27 (dk_at dksX6_longest_0 6 rfl rfl)
theorem dX6_longest_7 : decode cX6_longest 7 = .ok (.iconst 0, 1) := dk_3 (dk_at dksX6_longest_0 7 rfl rfl)
theorem dX6_longest_8 : decode cX6_longest 8 = .ok (.iconst 1, 1) := dk_4 (dk_at dksX6_longest_0 8 rfl rfl)
theorem dX6_longest_9 : decode cX6_longest 9 = .ok (.invokestatic 129, 3) := dk_184 0 129 (dk_at dksX6_longest_0 9 rfl rfl)
theorem dX6_longest_12 : decode cX6_longest 12 = .ok (.ifCond .ne 7, 3) := dk_154 0 7 (dk_at dksX6_longest_0 12 rfl rfl)
theorem dX6_longest_15 : decode cX6_longest 15 = .ok (.iconst 1, 1) := dk_4 (dk_at dksX6_longest_0 15 rfl rfl)
theorem dX6_longest_16 : decode cX6_longest 16 = .ok (.goto 4, 3) := dk_167 0 4 (dk_at dksX6_longest_0 16 rfl rfl)
theorem dX6_longest_19 : decode cX6_longest 19 = .ok (.iconst 0, 1) := dk_3 (dk_at dksX6_longest_0 19 rfl rfl)
theorem dX6_longest_20 : decode cX6_longest 20 = .ok (.iconst 1, 1) := dk_4 (dk_at dksX6_longest_0 20 rfl rfl)
theorem dX6_longest_21 : decode cX6_longest 21 = .ok (.iconst 1, 1) := dk_4 (dk_at dksX6_longest_0 21 rfl rfl)
theorem dX6_longest_22 : decode cX6_longest 22 = .ok (.invokevirtual 171, 3) := dk_182 0 171 (dk_at dksX6_longest_1 0 rfl rfl)
theorem dX6_longest_25 : decode cX6_longest 25 = .ok (.ifCond .eq 5, 3) := dk_153 0 5 (dk_at dksX6_longest_1 3 rfl rfl)
theorem dX6_longest_28 : decode cX6_longest 28 = .ok (.iconst 0, 1) := dk_3 (dk_at dksX6_longest_1 6 rfl rfl)
theorem dX6_longest_29 : decode cX6_longest 29 = .ok (.ireturn, 1) := dk_172 (dk_at dksX6_longest_1 7 rfl rfl)
theorem dX6_longest_30 : decode cX6_longest 30 = .ok (.iconst (-1), 1) := dk_2 (dk_at dksX6_longest_1 8 rfl rfl)
theorem dX6_longest_31 : decode cX6_longest 31 = .ok (.istore_n 2, 1) := dk_61 (dk_at dksX6_longest_1 9 rfl rfl)
theorem dX6_longest_32 : decode cX6_longest 32 = .ok (.iconst 0, 1) := dk_3 (dk_at dksX6_longest_1 10 rfl rfl)
theorem dX6_longest_33 : decode cX6_longest 33 = .ok (.istore_n 3, 1) := dk_62 (dk_at dksX6_longest_1 11 rfl rfl)
theorem dX6_longest_34 : decode cX6_longest 34 = .ok (.iload_n 3, 1) := dk_29 (dk_at dksX6_longest_1 12 rfl rfl)
theorem dX6_longest_35 : decode cX6_longest 35 = .ok (.aload_n 0, 1) := dk_42 (dk_at dksX6_longest_1 13 rfl rfl)
theorem dX6_longest_36 : decode cX6_longest 36 = .ok (.getfield 23, 3) := dk_180 0 23 (dk_at dksX6_longest_1 14 rfl rfl)
theorem dX6_longest_39 : decode cX6_longest 39 = .ok (.iconst 1, 1) := dk_4 (dk_at dksX6_longest_1 17 rfl rfl)
theorem dX6_longest_40 : decode cX6_longest 40 = .ok (.iaload, 1) := dk_46 (dk_at dksX6_longest_1 18 rfl rfl)
theorem dX6_longest_41 : decode cX6_longest 41 = .ok (.if_icmp .ge 39, 3) := dk_162 0 39 (dk_at dksX6_longest_1 19 rfl rfl)
theorem dX6_longest_44 : decode cX6_longest 44 = .ok (.iload_n 2, 1) := dk_28 (dk_at dksX6_longest_1 22 rfl rfl)
theorem dX6_longest_45 : decode cX6_longest 45 = .ok (.iconst (-1), 1) := dk_2 (dk_at dksX6_longest_1 23 rfl rfl)
theorem dX6_longest_46 : decode cX6_longest 46 = .ok (.if_icmp .eq 22, 3) := dk_159 0 22 (dk_at dksX6_longest_2 0 rfl rfl)
theorem dX6_longest_49 : decode cX6_longest 49 = .ok (.aload_n 0, 1) := dk_42 (dk_at dksX6_longest_2 3 rfl rfl)
theorem dX6_longest_50 : decode cX6_longest 50 = .ok (.getfield 37, 3) := dk_180 0 37 (dk_at dksX6_longest_2 4 rfl rfl)
theorem dX6_longest_53 : decode cX6_longest 53 = .ok (.iload_n 3, 1) := dk_29 (dk_at dksX6_longest_2 7 rfl rfl)
theorem dX6_longest_54 : decode cX6_longest 54 = .ok (.aaload, 1) := dk_50 (dk_at dksX6_longest_2 8 rfl rfl)
theorem dX6_longest_55 : decode cX6_longest 55 = .ok (.iconst 1, 1) := dk_4 (dk_at dksX6_longest_2 9 rfl rfl)
theorem dX6_longest_56 : decode cX6_longest 56 = .ok (.iaload, 1) := dk_46 (dk_at dksX6_longest_2 10 rfl rfl)
theorem dX6_longest_57 : decode cX6_longest 57 = .ok (.aload_n 0, 1) := dk_42 (dk_at dksX6_longest_2 11 rfl rfl)
theorem dX6_longest_58 : decode cX6_longest 58 = .ok (.getfield 37, 3) := dk_180 0 37 (dk_at dksX6_longest_2 12 rfl rfl)
theorem dX6_longest_61 : decode cX6_longest 61 = .ok (.iload_n 2, 1) := dk_28 (dk_at dksX6_longest_2 15 rfl rfl)
theorem dX6_longest_62 : decode cX6_longest 62 = .ok (.aaload, 1) := dk_50 (dk_at dksX6_longest_2 16 rfl rfl)
theorem dX6_longest_63 : decode cX6_longest 63 = .ok (.iconst 1, 1) := dk_4 (dk_at dksX6_longest_2 17 rfl rfl)
theorem dX6_longest_64 : decode cX6_longest 64 = .ok (.iaload, 1) := dk_46 (dk_at dksX6_longest_2 18 rfl rfl)
theorem dX6_longest_65 : decode cX6_longest 65 = .ok (.if_icmp .le 7, 3) := dk_164 0 7 (dk_at dksX6_longest_2 19 rfl rfl)
theorem dX6_longest_68 : decode cX6_longest 68 = .ok (.iload_n 3, 1) := dk_29 (dk_at dksX6_longest_2 22 rfl rfl)
theorem dX6_longest_69 : decode cX6_longest 69 = .ok (.goto 4, 3) := dk_167 0 4 (dk_at dksX6_longest_3 0 rfl rfl)
theorem dX6_longest_72 : decode cX6_longest 72 = .ok (.iload_n 2, 1) := dk_28 (dk_at dksX6_longest_3 3 rfl rfl)
theorem dX6_longest_73 : decode cX6_longest 73 = .ok (.istore_n 2, 1) := dk_61 (dk_at dksX6_longest_3 4 rfl rfl)
theorem dX6_longest_74 : decode cX6_longest 74 = .ok (.iinc 3 1, 3) := dk_132 3 1 (dk_at dksX6_longest_3 5 rfl rfl)
theorem dX6_longest_77 : decode cX6_longest 77 = .ok (.goto (-43), 3) := dk_167 255 213 (dk_at dksX6_longest_3 8 rfl rfl)
theorem dX6_longest_80 : decode cX6_longest 80 = .ok (.iload_n 1, 1) := dk_27 (dk_at dksX6_longest_3 11 rfl rfl)
theorem dX6_longest_81 : decode cX6_longest 81 = .ok (.ifCond .eq 8, 3) := dk_153 0 8 (dk_at dksX6_longest_3 12 rfl rfl)
theorem dX6_longest_84 : decode cX6_longest 84 = .ok (.iload_n 2, 1) := dk_28 (dk_at dksX6_longest_3 15 rfl rfl)
theorem dX6_longest_85 : decode cX6_longest 85 = .ok (.iconst (-1), 1) := dk_2 (dk_at dksX6_longest_3 16 rfl rfl)
theorem dX6_longest_86 : decode cX6_longest 86 = .ok (.if_icmp .ne 7, 3) := dk_160 0 7 (dk_at dksX6_longest_3 17 rfl rfl)
theorem dX6_longest_89 : decode cX6_longest 89 = .ok (.iload_n 2, 1) := dk_28 (dk_at dksX6_longest_3 20 rfl rfl)
theorem dX6_longest_90 : decode cX6_longest 90 = .ok (.goto 11, 3) := dk_167 0 11 (dk_at dksX6_longest_3 21 rfl rfl)
theorem dX6_longest_93 : decode cX6_longest 93 = .ok (.aload_n 0, 1) := dk_42 (dk_at dksX6_longest_4 0 rfl rfl)
theorem dX6_longest_94 : decode cX6_longest 94 = .ok (.getfield 37, 3) := dk_180 0 37 (dk_at dksX6_longest_4 1 rfl rfl)
theorem dX6_longest_97 : decode cX6_longest 97 = .ok (.iload_n 2, 1) := dk_28 (dk_at dksX6_longest_4 4 rfl rfl)
theorem dX6_longest_98 : decode cX6_longest 98 = .ok (.aaload, 1) := dk_50 (dk_at dksX6_longest_4 5 rfl rfl)
theorem dX6_longest_99 : decode cX6_longest 99 = .ok (.iconst 1, 1) := dk_4 (dk_at dksX6_longest_4 6 rfl rfl)
theorem dX6_longest_100 : decode cX6_longest 100 = .ok (.iaload, 1) := dk_46 (dk_at dksX6_longest_4 7 rfl rfl)
theorem dX6_longest_101 : decode cX6_longest 101 = .ok (.ireturn, 1) := dk_172 (dk_at dksX6_longest_4 8 rfl rfl)
abbrev cX6_chorus : ByteArray := prog_34_method_106_code
def yX6_chorus : MethodName := ⟨RX6, "chorus", "(I)I"⟩
def dkwX6_chorus_3 : List UInt8 := [180, 0, 67, 16, 14, 182, 1, 62, 100, 172]
abbrev dktX6_chorus_3 : List UInt8 := dkwX6_chorus_3 ++ []
def dkwX6_chorus_2 : List UInt8 := [182, 1, 83, 42, 42, 180, 0, 70, 182, 1, 24, 42, 42, 180, 0, 70, 16, 14, 182, 1, 62, 42, 42]
abbrev dktX6_chorus_2 : List UInt8 := dkwX6_chorus_2 ++ dktX6_chorus_3
def dkwX6_chorus_1 : List UInt8 := [4, 182, 0, 171, 153, 0, 5, 3, 172, 42, 180, 0, 67, 42, 180, 0, 70, 184, 1, 54, 42, 27]
abbrev dktX6_chorus_1 : List UInt8 := dkwX6_chorus_1 ++ dktX6_chorus_2
def dkwX6_chorus_0 : List UInt8 := [42, 3, 181, 0, 95, 42, 27, 3, 42, 182, 1, 74, 184, 0, 129, 154, 0, 7, 4, 167, 0, 4, 3, 4]
abbrev dktX6_chorus_0 : List UInt8 := dkwX6_chorus_0 ++ dktX6_chorus_1
theorem dksX6_chorus_0 : cX6_chorus.data.toList.drop 0 = dktX6_chorus_0 := by decide +kernel
theorem dksX6_chorus_1 : cX6_chorus.data.toList.drop 24 = dktX6_chorus_1 := dk_seg dksX6_chorus_0 24 rfl rfl
theorem dksX6_chorus_2 : cX6_chorus.data.toList.drop 46 = dktX6_chorus_2 := dk_seg dksX6_chorus_1 22 rfl rfl
theorem dksX6_chorus_3 : cX6_chorus.data.toList.drop 69 = dktX6_chorus_3 := dk_seg dksX6_chorus_2 23 rfl rfl
theorem dX6_chorus_0 : decode cX6_chorus 0 = .ok (.aload_n 0, 1) := dk_42 (dk_at dksX6_chorus_0 0 rfl rfl)
theorem dX6_chorus_1 : decode cX6_chorus 1 = .ok (.iconst 0, 1) := dk_3 (dk_at dksX6_chorus_0 1 rfl rfl)
theorem dX6_chorus_2 : decode cX6_chorus 2 = .ok (.putfield 95, 3) := dk_181 0 95 (dk_at dksX6_chorus_0 2 rfl rfl)
theorem dX6_chorus_5 : decode cX6_chorus 5 = .ok (.aload_n 0, 1) := dk_42 (dk_at dksX6_chorus_0 5 rfl rfl)
theorem dX6_chorus_6 : decode cX6_chorus 6 = .ok (.iload_n 1, 1) := dk_27 (dk_at dksX6_chorus_0 6 rfl rfl)
theorem dX6_chorus_7 : decode cX6_chorus 7 = .ok (.iconst 0, 1) := dk_3 (dk_at dksX6_chorus_0 7 rfl rfl)
theorem dX6_chorus_8 : decode cX6_chorus 8 = .ok (.aload_n 0, 1) := dk_42 (dk_at dksX6_chorus_0 8 rfl rfl)
theorem dX6_chorus_9 : decode cX6_chorus 9 = .ok (.invokevirtual 330, 3) := dk_182 1 74 (dk_at dksX6_chorus_0 9 rfl rfl)
theorem dX6_chorus_12 : decode cX6_chorus 12 = .ok (.invokestatic 129, 3) := dk_184 0 129 (dk_at dksX6_chorus_0 12 rfl rfl)
theorem dX6_chorus_15 : decode cX6_chorus 15 = .ok (.ifCond .ne 7, 3) := dk_154 0 7 (dk_at dksX6_chorus_0 15 rfl rfl)
theorem dX6_chorus_18 : decode cX6_chorus 18 = .ok (.iconst 1, 1) := dk_4 (dk_at dksX6_chorus_0 18 rfl rfl)
theorem dX6_chorus_19 : decode cX6_chorus 19 = .ok (.goto 4, 3) := dk_167 0 4 (dk_at dksX6_chorus_0 19 rfl rfl)
theorem dX6_chorus_22 : decode cX6_chorus 22 = .ok (.iconst 0, 1) := dk_3 (dk_at dksX6_chorus_0 22 rfl rfl)
theorem dX6_chorus_23 : decode cX6_chorus 23 = .ok (.iconst 1, 1) := dk_4 (dk_at dksX6_chorus_0 23 rfl rfl)
theorem dX6_chorus_24 : decode cX6_chorus 24 = .ok (.iconst 1, 1) := dk_4 (dk_at dksX6_chorus_1 0 rfl rfl)
theorem dX6_chorus_25 : decode cX6_chorus 25 = .ok (.invokevirtual 171, 3) := dk_182 0 171 (dk_at dksX6_chorus_1 1 rfl rfl)
theorem dX6_chorus_28 : decode cX6_chorus 28 = .ok (.ifCond .eq 5, 3) := dk_153 0 5 (dk_at dksX6_chorus_1 4 rfl rfl)
theorem dX6_chorus_31 : decode cX6_chorus 31 = .ok (.iconst 0, 1) := dk_3 (dk_at dksX6_chorus_1 7 rfl rfl)
theorem dX6_chorus_32 : decode cX6_chorus 32 = .ok (.ireturn, 1) := dk_172 (dk_at dksX6_chorus_1 8 rfl rfl)
theorem dX6_chorus_33 : decode cX6_chorus 33 = .ok (.aload_n 0, 1) := dk_42 (dk_at dksX6_chorus_1 9 rfl rfl)
theorem dX6_chorus_34 : decode cX6_chorus 34 = .ok (.getfield 67, 3) := dk_180 0 67 (dk_at dksX6_chorus_1 10 rfl rfl)
theorem dX6_chorus_37 : decode cX6_chorus 37 = .ok (.aload_n 0, 1) := dk_42 (dk_at dksX6_chorus_1 13 rfl rfl)
theorem dX6_chorus_38 : decode cX6_chorus 38 = .ok (.getfield 70, 3) := dk_180 0 70 (dk_at dksX6_chorus_1 14 rfl rfl)
theorem dX6_chorus_41 : decode cX6_chorus 41 = .ok (.invokestatic 310, 3) := dk_184 1 54 (dk_at dksX6_chorus_1 17 rfl rfl)
theorem dX6_chorus_44 : decode cX6_chorus 44 = .ok (.aload_n 0, 1) := dk_42 (dk_at dksX6_chorus_1 20 rfl rfl)
theorem dX6_chorus_45 : decode cX6_chorus 45 = .ok (.iload_n 1, 1) := dk_27 (dk_at dksX6_chorus_1 21 rfl rfl)
theorem dX6_chorus_46 : decode cX6_chorus 46 = .ok (.invokevirtual 339, 3) := dk_182 1 83 (dk_at dksX6_chorus_2 0 rfl rfl)
theorem dX6_chorus_49 : decode cX6_chorus 49 = .ok (.aload_n 0, 1) := dk_42 (dk_at dksX6_chorus_2 3 rfl rfl)
theorem dX6_chorus_50 : decode cX6_chorus 50 = .ok (.aload_n 0, 1) := dk_42 (dk_at dksX6_chorus_2 4 rfl rfl)
theorem dX6_chorus_51 : decode cX6_chorus 51 = .ok (.getfield 70, 3) := dk_180 0 70 (dk_at dksX6_chorus_2 5 rfl rfl)
theorem dX6_chorus_54 : decode cX6_chorus 54 = .ok (.invokevirtual 280, 3) := dk_182 1 24 (dk_at dksX6_chorus_2 8 rfl rfl)
theorem dX6_chorus_57 : decode cX6_chorus 57 = .ok (.aload_n 0, 1) := dk_42 (dk_at dksX6_chorus_2 11 rfl rfl)
theorem dX6_chorus_58 : decode cX6_chorus 58 = .ok (.aload_n 0, 1) := dk_42 (dk_at dksX6_chorus_2 12 rfl rfl)
theorem dX6_chorus_59 : decode cX6_chorus 59 = .ok (.getfield 70, 3) := dk_180 0 70 (dk_at dksX6_chorus_2 13 rfl rfl)
theorem dX6_chorus_62 : decode cX6_chorus 62 = .ok (.bipush 14, 2) := dk_16 14 (dk_at dksX6_chorus_2 16 rfl rfl)
theorem dX6_chorus_64 : decode cX6_chorus 64 = .ok (.invokevirtual 318, 3) := dk_182 1 62 (dk_at dksX6_chorus_2 18 rfl rfl)
theorem dX6_chorus_67 : decode cX6_chorus 67 = .ok (.aload_n 0, 1) := dk_42 (dk_at dksX6_chorus_2 21 rfl rfl)
theorem dX6_chorus_68 : decode cX6_chorus 68 = .ok (.aload_n 0, 1) := dk_42 (dk_at dksX6_chorus_2 22 rfl rfl)
theorem dX6_chorus_69 : decode cX6_chorus 69 = .ok (.getfield 67, 3) := dk_180 0 67 (dk_at dksX6_chorus_3 0 rfl rfl)
theorem dX6_chorus_72 : decode cX6_chorus 72 = .ok (.bipush 14, 2) := dk_16 14 (dk_at dksX6_chorus_3 3 rfl rfl)
theorem dX6_chorus_74 : decode cX6_chorus 74 = .ok (.invokevirtual 318, 3) := dk_182 1 62 (dk_at dksX6_chorus_3 5 rfl rfl)
theorem dX6_chorus_77 : decode cX6_chorus 77 = .ok (.isub, 1) := dk_100 (dk_at dksX6_chorus_3 8 rfl rfl)
theorem dX6_chorus_78 : decode cX6_chorus 78 = .ok (.ireturn, 1) := dk_172 (dk_at dksX6_chorus_3 9 rfl rfl)
abbrev cX6_spare : ByteArray := prog_34_method_107_code
def yX6_spare : MethodName := ⟨RX6, "spare", "(I)I"⟩
def dkwX6_spare_4 : List UInt8 := [42, 180, 0, 67, 3, 28, 96, 46, 172]
abbrev dktX6_spare_4 : List UInt8 := dkwX6_spare_4 ++ []
def dkwX6_spare_3 : List UInt8 := [167, 0, 4, 28, 61, 132, 3, 1, 167, 255, 213, 27, 153, 0, 8, 28, 2, 160, 0, 7, 28, 167, 0, 11]
abbrev dktX6_spare_3 : List UInt8 := dkwX6_spare_3 ++ dktX6_spare_4
def dkwX6_spare_2 : List UInt8 := [159, 0, 22, 42, 180, 0, 67, 3, 29, 96, 46, 42, 180, 0, 67, 3, 28, 96, 46, 162, 0, 7, 29]
abbrev dktX6_spare_2 : List UInt8 := dkwX6_spare_2 ++ dktX6_spare_3
def dkwX6_spare_1 : List UInt8 := [182, 0, 171, 153, 0, 5, 3, 172, 2, 61, 3, 62, 29, 42, 180, 0, 23, 3, 46, 162, 0, 39, 28, 2]
abbrev dktX6_spare_1 : List UInt8 := dkwX6_spare_1 ++ dktX6_spare_2
def dkwX6_spare_0 : List UInt8 := [42, 3, 181, 0, 95, 42, 27, 3, 4, 184, 0, 129, 154, 0, 7, 4, 167, 0, 4, 3, 4, 4]
abbrev dktX6_spare_0 : List UInt8 := dkwX6_spare_0 ++ dktX6_spare_1
theorem dksX6_spare_0 : cX6_spare.data.toList.drop 0 = dktX6_spare_0 := by decide +kernel
theorem dksX6_spare_1 : cX6_spare.data.toList.drop 22 = dktX6_spare_1 := dk_seg dksX6_spare_0 22 rfl rfl
theorem dksX6_spare_2 : cX6_spare.data.toList.drop 46 = dktX6_spare_2 := dk_seg dksX6_spare_1 24 rfl rfl
theorem dksX6_spare_3 : cX6_spare.data.toList.drop 69 = dktX6_spare_3 := dk_seg dksX6_spare_2 23 rfl rfl
theorem dksX6_spare_4 : cX6_spare.data.toList.drop 93 = dktX6_spare_4 := dk_seg dksX6_spare_3 24 rfl rfl
theorem dX6_spare_0 : decode cX6_spare 0 = .ok (.aload_n 0, 1) := dk_42 (dk_at dksX6_spare_0 0 rfl rfl)
theorem dX6_spare_1 : decode cX6_spare 1 = .ok (.iconst 0, 1) := dk_3 (dk_at dksX6_spare_0 1 rfl rfl)
theorem dX6_spare_2 : decode cX6_spare 2 = .ok (.putfield 95, 3) := dk_181 0 95 (dk_at dksX6_spare_0 2 rfl rfl)
theorem dX6_spare_5 : decode cX6_spare 5 = .ok (.aload_n 0, 1) := dk_42 (dk_at dksX6_spare_0 5 rfl rfl)
theorem dX6_spare_6 : decode cX6_spare 6 = .ok (.iload_n 1, 1) := dk_27 (dk_at dksX6_spare_0 6 rfl rfl)
theorem dX6_spare_7 : decode cX6_spare 7 = .ok (.iconst 0, 1) := dk_3 (dk_at dksX6_spare_0 7 rfl rfl)
theorem dX6_spare_8 : decode cX6_spare 8 = .ok (.iconst 1, 1) := dk_4 (dk_at dksX6_spare_0 8 rfl rfl)
theorem dX6_spare_9 : decode cX6_spare 9 = .ok (.invokestatic 129, 3) := dk_184 0 129 (dk_at dksX6_spare_0 9 rfl rfl)
theorem dX6_spare_12 : decode cX6_spare 12 = .ok (.ifCond .ne 7, 3) := dk_154 0 7 (dk_at dksX6_spare_0 12 rfl rfl)
theorem dX6_spare_15 : decode cX6_spare 15 = .ok (.iconst 1, 1) := dk_4 (dk_at dksX6_spare_0 15 rfl rfl)
theorem dX6_spare_16 : decode cX6_spare 16 = .ok (.goto 4, 3) := dk_167 0 4 (dk_at dksX6_spare_0 16 rfl rfl)
theorem dX6_spare_19 : decode cX6_spare 19 = .ok (.iconst 0, 1) := dk_3 (dk_at dksX6_spare_0 19 rfl rfl)
theorem dX6_spare_20 : decode cX6_spare 20 = .ok (.iconst 1, 1) := dk_4 (dk_at dksX6_spare_0 20 rfl rfl)
theorem dX6_spare_21 : decode cX6_spare 21 = .ok (.iconst 1, 1) := dk_4 (dk_at dksX6_spare_0 21 rfl rfl)
theorem dX6_spare_22 : decode cX6_spare 22 = .ok (.invokevirtual 171, 3) := dk_182 0 171 (dk_at dksX6_spare_1 0 rfl rfl)
theorem dX6_spare_25 : decode cX6_spare 25 = .ok (.ifCond .eq 5, 3) := dk_153 0 5 (dk_at dksX6_spare_1 3 rfl rfl)
theorem dX6_spare_28 : decode cX6_spare 28 = .ok (.iconst 0, 1) := dk_3 (dk_at dksX6_spare_1 6 rfl rfl)
theorem dX6_spare_29 : decode cX6_spare 29 = .ok (.ireturn, 1) := dk_172 (dk_at dksX6_spare_1 7 rfl rfl)
theorem dX6_spare_30 : decode cX6_spare 30 = .ok (.iconst (-1), 1) := dk_2 (dk_at dksX6_spare_1 8 rfl rfl)
theorem dX6_spare_31 : decode cX6_spare 31 = .ok (.istore_n 2, 1) := dk_61 (dk_at dksX6_spare_1 9 rfl rfl)
theorem dX6_spare_32 : decode cX6_spare 32 = .ok (.iconst 0, 1) := dk_3 (dk_at dksX6_spare_1 10 rfl rfl)
theorem dX6_spare_33 : decode cX6_spare 33 = .ok (.istore_n 3, 1) := dk_62 (dk_at dksX6_spare_1 11 rfl rfl)
theorem dX6_spare_34 : decode cX6_spare 34 = .ok (.iload_n 3, 1) := dk_29 (dk_at dksX6_spare_1 12 rfl rfl)
theorem dX6_spare_35 : decode cX6_spare 35 = .ok (.aload_n 0, 1) := dk_42 (dk_at dksX6_spare_1 13 rfl rfl)
theorem dX6_spare_36 : decode cX6_spare 36 = .ok (.getfield 23, 3) := dk_180 0 23 (dk_at dksX6_spare_1 14 rfl rfl)
theorem dX6_spare_39 : decode cX6_spare 39 = .ok (.iconst 0, 1) := dk_3 (dk_at dksX6_spare_1 17 rfl rfl)
theorem dX6_spare_40 : decode cX6_spare 40 = .ok (.iaload, 1) := dk_46 (dk_at dksX6_spare_1 18 rfl rfl)
theorem dX6_spare_41 : decode cX6_spare 41 = .ok (.if_icmp .ge 39, 3) := dk_162 0 39 (dk_at dksX6_spare_1 19 rfl rfl)
theorem dX6_spare_44 : decode cX6_spare 44 = .ok (.iload_n 2, 1) := dk_28 (dk_at dksX6_spare_1 22 rfl rfl)
theorem dX6_spare_45 : decode cX6_spare 45 = .ok (.iconst (-1), 1) := dk_2 (dk_at dksX6_spare_1 23 rfl rfl)
theorem dX6_spare_46 : decode cX6_spare 46 = .ok (.if_icmp .eq 22, 3) := dk_159 0 22 (dk_at dksX6_spare_2 0 rfl rfl)
theorem dX6_spare_49 : decode cX6_spare 49 = .ok (.aload_n 0, 1) := dk_42 (dk_at dksX6_spare_2 3 rfl rfl)
theorem dX6_spare_50 : decode cX6_spare 50 = .ok (.getfield 67, 3) := dk_180 0 67 (dk_at dksX6_spare_2 4 rfl rfl)
theorem dX6_spare_53 : decode cX6_spare 53 = .ok (.iconst 0, 1) := dk_3 (dk_at dksX6_spare_2 7 rfl rfl)
theorem dX6_spare_54 : decode cX6_spare 54 = .ok (.iload_n 3, 1) := dk_29 (dk_at dksX6_spare_2 8 rfl rfl)
theorem dX6_spare_55 : decode cX6_spare 55 = .ok (.iadd, 1) := dk_96 (dk_at dksX6_spare_2 9 rfl rfl)
theorem dX6_spare_56 : decode cX6_spare 56 = .ok (.iaload, 1) := dk_46 (dk_at dksX6_spare_2 10 rfl rfl)
theorem dX6_spare_57 : decode cX6_spare 57 = .ok (.aload_n 0, 1) := dk_42 (dk_at dksX6_spare_2 11 rfl rfl)
theorem dX6_spare_58 : decode cX6_spare 58 = .ok (.getfield 67, 3) := dk_180 0 67 (dk_at dksX6_spare_2 12 rfl rfl)
theorem dX6_spare_61 : decode cX6_spare 61 = .ok (.iconst 0, 1) := dk_3 (dk_at dksX6_spare_2 15 rfl rfl)
theorem dX6_spare_62 : decode cX6_spare 62 = .ok (.iload_n 2, 1) := dk_28 (dk_at dksX6_spare_2 16 rfl rfl)
theorem dX6_spare_63 : decode cX6_spare 63 = .ok (.iadd, 1) := dk_96 (dk_at dksX6_spare_2 17 rfl rfl)
theorem dX6_spare_64 : decode cX6_spare 64 = .ok (.iaload, 1) := dk_46 (dk_at dksX6_spare_2 18 rfl rfl)
theorem dX6_spare_65 : decode cX6_spare 65 = .ok (.if_icmp .ge 7, 3) := dk_162 0 7 (dk_at dksX6_spare_2 19 rfl rfl)
theorem dX6_spare_68 : decode cX6_spare 68 = .ok (.iload_n 3, 1) := dk_29 (dk_at dksX6_spare_2 22 rfl rfl)
theorem dX6_spare_69 : decode cX6_spare 69 = .ok (.goto 4, 3) := dk_167 0 4 (dk_at dksX6_spare_3 0 rfl rfl)
theorem dX6_spare_72 : decode cX6_spare 72 = .ok (.iload_n 2, 1) := dk_28 (dk_at dksX6_spare_3 3 rfl rfl)
theorem dX6_spare_73 : decode cX6_spare 73 = .ok (.istore_n 2, 1) := dk_61 (dk_at dksX6_spare_3 4 rfl rfl)
theorem dX6_spare_74 : decode cX6_spare 74 = .ok (.iinc 3 1, 3) := dk_132 3 1 (dk_at dksX6_spare_3 5 rfl rfl)
theorem dX6_spare_77 : decode cX6_spare 77 = .ok (.goto (-43), 3) := dk_167 255 213 (dk_at dksX6_spare_3 8 rfl rfl)
theorem dX6_spare_80 : decode cX6_spare 80 = .ok (.iload_n 1, 1) := dk_27 (dk_at dksX6_spare_3 11 rfl rfl)
theorem dX6_spare_81 : decode cX6_spare 81 = .ok (.ifCond .eq 8, 3) := dk_153 0 8 (dk_at dksX6_spare_3 12 rfl rfl)
theorem dX6_spare_84 : decode cX6_spare 84 = .ok (.iload_n 2, 1) := dk_28 (dk_at dksX6_spare_3 15 rfl rfl)
theorem dX6_spare_85 : decode cX6_spare 85 = .ok (.iconst (-1), 1) := dk_2 (dk_at dksX6_spare_3 16 rfl rfl)
theorem dX6_spare_86 : decode cX6_spare 86 = .ok (.if_icmp .ne 7, 3) := dk_160 0 7 (dk_at dksX6_spare_3 17 rfl rfl)
theorem dX6_spare_89 : decode cX6_spare 89 = .ok (.iload_n 2, 1) := dk_28 (dk_at dksX6_spare_3 20 rfl rfl)
theorem dX6_spare_90 : decode cX6_spare 90 = .ok (.goto 11, 3) := dk_167 0 11 (dk_at dksX6_spare_3 21 rfl rfl)
theorem dX6_spare_93 : decode cX6_spare 93 = .ok (.aload_n 0, 1) := dk_42 (dk_at dksX6_spare_4 0 rfl rfl)
theorem dX6_spare_94 : decode cX6_spare 94 = .ok (.getfield 67, 3) := dk_180 0 67 (dk_at dksX6_spare_4 1 rfl rfl)
theorem dX6_spare_97 : decode cX6_spare 97 = .ok (.iconst 0, 1) := dk_3 (dk_at dksX6_spare_4 4 rfl rfl)
theorem dX6_spare_98 : decode cX6_spare 98 = .ok (.iload_n 2, 1) := dk_28 (dk_at dksX6_spare_4 5 rfl rfl)
theorem dX6_spare_99 : decode cX6_spare 99 = .ok (.iadd, 1) := dk_96 (dk_at dksX6_spare_4 6 rfl rfl)
theorem dX6_spare_100 : decode cX6_spare 100 = .ok (.iaload, 1) := dk_46 (dk_at dksX6_spare_4 7 rfl rfl)
theorem dX6_spare_101 : decode cX6_spare 101 = .ok (.ireturn, 1) := dk_172 (dk_at dksX6_spare_4 8 rfl rfl)
abbrev cX6_sunday : ByteArray := prog_34_method_111_code
def yX6_sunday : MethodName := ⟨RX6, "sunday", "(IIII)I"⟩
def dkwX6_sunday_5 : List UInt8 := [180, 0, 67, 16, 14, 182, 1, 62, 100, 172]
abbrev dktX6_sunday_5 : List UInt8 := dkwX6_sunday_5 ++ []
def dkwX6_sunday_4 : List UInt8 := [180, 0, 70, 16, 21, 182, 1, 62, 167, 0, 24, 42, 42, 180, 0, 70, 16, 14, 182, 1, 62, 42, 42]
abbrev dktX6_sunday_4 : List UInt8 := dkwX6_sunday_4 ++ dktX6_sunday_5
def dkwX6_sunday_3 : List UInt8 := [160, 0, 14, 42, 42, 180, 0, 70, 182, 1, 58, 167, 0, 43, 21, 4, 5, 160, 0, 16, 42, 42]
abbrev dktX6_sunday_3 : List UInt8 := dkwX6_sunday_3 ++ dktX6_sunday_4
def dkwX6_sunday_2 : List UInt8 := [154, 0, 21, 42, 180, 0, 70, 16, 55, 46, 42, 180, 0, 67, 16, 55, 46, 100, 167, 0, 60, 21, 4, 4]
abbrev dktX6_sunday_2 : List UInt8 := dkwX6_sunday_2 ++ dktX6_sunday_3
def dkwX6_sunday_1 : List UInt8 := [4, 167, 0, 4, 3, 4, 4, 182, 0, 171, 153, 0, 5, 3, 172, 42, 27, 28, 29, 182, 1, 129, 21, 4]
abbrev dktX6_sunday_1 : List UInt8 := dkwX6_sunday_1 ++ dktX6_sunday_2
def dkwX6_sunday_0 : List UInt8 := [42, 3, 181, 0, 95, 42, 28, 29, 184, 1, 126, 153, 0, 13, 21, 4, 3, 6, 184, 0, 129, 154, 0, 7]
abbrev dktX6_sunday_0 : List UInt8 := dkwX6_sunday_0 ++ dktX6_sunday_1
theorem dksX6_sunday_0 : cX6_sunday.data.toList.drop 0 = dktX6_sunday_0 := by decide +kernel
theorem dksX6_sunday_1 : cX6_sunday.data.toList.drop 24 = dktX6_sunday_1 := dk_seg dksX6_sunday_0 24 rfl rfl
theorem dksX6_sunday_2 : cX6_sunday.data.toList.drop 48 = dktX6_sunday_2 := dk_seg dksX6_sunday_1 24 rfl rfl
theorem dksX6_sunday_3 : cX6_sunday.data.toList.drop 72 = dktX6_sunday_3 := dk_seg dksX6_sunday_2 24 rfl rfl
theorem dksX6_sunday_4 : cX6_sunday.data.toList.drop 94 = dktX6_sunday_4 := dk_seg dksX6_sunday_3 22 rfl rfl
theorem dksX6_sunday_5 : cX6_sunday.data.toList.drop 117 = dktX6_sunday_5 := dk_seg dksX6_sunday_4 23 rfl rfl
theorem dX6_sunday_0 : decode cX6_sunday 0 = .ok (.aload_n 0, 1) := dk_42 (dk_at dksX6_sunday_0 0 rfl rfl)
theorem dX6_sunday_1 : decode cX6_sunday 1 = .ok (.iconst 0, 1) := dk_3 (dk_at dksX6_sunday_0 1 rfl rfl)
theorem dX6_sunday_2 : decode cX6_sunday 2 = .ok (.putfield 95, 3) := dk_181 0 95 (dk_at dksX6_sunday_0 2 rfl rfl)
theorem dX6_sunday_5 : decode cX6_sunday 5 = .ok (.aload_n 0, 1) := dk_42 (dk_at dksX6_sunday_0 5 rfl rfl)
theorem dX6_sunday_6 : decode cX6_sunday 6 = .ok (.iload_n 2, 1) := dk_28 (dk_at dksX6_sunday_0 6 rfl rfl)
theorem dX6_sunday_7 : decode cX6_sunday 7 = .ok (.iload_n 3, 1) := dk_29 (dk_at dksX6_sunday_0 7 rfl rfl)
theorem dX6_sunday_8 : decode cX6_sunday 8 = .ok (.invokestatic 382, 3) := dk_184 1 126 (dk_at dksX6_sunday_0 8 rfl rfl)
theorem dX6_sunday_11 : decode cX6_sunday 11 = .ok (.ifCond .eq 13, 3) := dk_153 0 13 (dk_at dksX6_sunday_0 11 rfl rfl)
theorem dX6_sunday_14 : decode cX6_sunday 14 = .ok (.iload 4, 2) := dk_21 4 (dk_at dksX6_sunday_0 14 rfl rfl)
theorem dX6_sunday_16 : decode cX6_sunday 16 = .ok (.iconst 0, 1) := dk_3 (dk_at dksX6_sunday_0 16 rfl rfl)
theorem dX6_sunday_17 : decode cX6_sunday 17 = .ok (.iconst 3, 1) := dk_6 (dk_at dksX6_sunday_0 17 rfl rfl)
theorem dX6_sunday_18 : decode cX6_sunday 18 = .ok (.invokestatic 129, 3) := dk_184 0 129 (dk_at dksX6_sunday_0 18 rfl rfl)
theorem dX6_sunday_21 : decode cX6_sunday 21 = .ok (.ifCond .ne 7, 3) := dk_154 0 7 (dk_at dksX6_sunday_0 21 rfl rfl)
theorem dX6_sunday_24 : decode cX6_sunday 24 = .ok (.iconst 1, 1) := dk_4 (dk_at dksX6_sunday_1 0 rfl rfl)
theorem dX6_sunday_25 : decode cX6_sunday 25 = .ok (.goto 4, 3) := dk_167 0 4 (dk_at dksX6_sunday_1 1 rfl rfl)
theorem dX6_sunday_28 : decode cX6_sunday 28 = .ok (.iconst 0, 1) := dk_3 (dk_at dksX6_sunday_1 4 rfl rfl)
theorem dX6_sunday_29 : decode cX6_sunday 29 = .ok (.iconst 1, 1) := dk_4 (dk_at dksX6_sunday_1 5 rfl rfl)
theorem dX6_sunday_30 : decode cX6_sunday 30 = .ok (.iconst 1, 1) := dk_4 (dk_at dksX6_sunday_1 6 rfl rfl)
theorem dX6_sunday_31 : decode cX6_sunday 31 = .ok (.invokevirtual 171, 3) := dk_182 0 171 (dk_at dksX6_sunday_1 7 rfl rfl)
theorem dX6_sunday_34 : decode cX6_sunday 34 = .ok (.ifCond .eq 5, 3) := dk_153 0 5 (dk_at dksX6_sunday_1 10 rfl rfl)
theorem dX6_sunday_37 : decode cX6_sunday 37 = .ok (.iconst 0, 1) := dk_3 (dk_at dksX6_sunday_1 13 rfl rfl)
theorem dX6_sunday_38 : decode cX6_sunday 38 = .ok (.ireturn, 1) := dk_172 (dk_at dksX6_sunday_1 14 rfl rfl)
theorem dX6_sunday_39 : decode cX6_sunday 39 = .ok (.aload_n 0, 1) := dk_42 (dk_at dksX6_sunday_1 15 rfl rfl)
theorem dX6_sunday_40 : decode cX6_sunday 40 = .ok (.iload_n 1, 1) := dk_27 (dk_at dksX6_sunday_1 16 rfl rfl)
theorem dX6_sunday_41 : decode cX6_sunday 41 = .ok (.iload_n 2, 1) := dk_28 (dk_at dksX6_sunday_1 17 rfl rfl)
theorem dX6_sunday_42 : decode cX6_sunday 42 = .ok (.iload_n 3, 1) := dk_29 (dk_at dksX6_sunday_1 18 rfl rfl)
theorem dX6_sunday_43 : decode cX6_sunday 43 = .ok (.invokevirtual 385, 3) := dk_182 1 129 (dk_at dksX6_sunday_1 19 rfl rfl)
theorem dX6_sunday_46 : decode cX6_sunday 46 = .ok (.iload 4, 2) := dk_21 4 (dk_at dksX6_sunday_1 22 rfl rfl)
theorem dX6_sunday_48 : decode cX6_sunday 48 = .ok (.ifCond .ne 21, 3) := dk_154 0 21 (dk_at dksX6_sunday_2 0 rfl rfl)
theorem dX6_sunday_51 : decode cX6_sunday 51 = .ok (.aload_n 0, 1) := dk_42 (dk_at dksX6_sunday_2 3 rfl rfl)
theorem dX6_sunday_52 : decode cX6_sunday 52 = .ok (.getfield 70, 3) := dk_180 0 70 (dk_at dksX6_sunday_2 4 rfl rfl)
theorem dX6_sunday_55 : decode cX6_sunday 55 = .ok (.bipush 55, 2) := dk_16 55 (dk_at dksX6_sunday_2 7 rfl rfl)
theorem dX6_sunday_57 : decode cX6_sunday 57 = .ok (.iaload, 1) := dk_46 (dk_at dksX6_sunday_2 9 rfl rfl)
theorem dX6_sunday_58 : decode cX6_sunday 58 = .ok (.aload_n 0, 1) := dk_42 (dk_at dksX6_sunday_2 10 rfl rfl)
theorem dX6_sunday_59 : decode cX6_sunday 59 = .ok (.getfield 67, 3) := dk_180 0 67 (dk_at dksX6_sunday_2 11 rfl rfl)
theorem dX6_sunday_62 : decode cX6_sunday 62 = .ok (.bipush 55, 2) := dk_16 55 (dk_at dksX6_sunday_2 14 rfl rfl)
theorem dX6_sunday_64 : decode cX6_sunday 64 = .ok (.iaload, 1) := dk_46 (dk_at dksX6_sunday_2 16 rfl rfl)
theorem dX6_sunday_65 : decode cX6_sunday 65 = .ok (.isub, 1) := dk_100 (dk_at dksX6_sunday_2 17 rfl rfl)
theorem dX6_sunday_66 : decode cX6_sunday 66 = .ok (.goto 60, 3) := dk_167 0 60 (dk_at dksX6_sunday_2 18 rfl rfl)
theorem dX6_sunday_69 : decode cX6_sunday 69 = .ok (.iload 4, 2) := dk_21 4 (dk_at dksX6_sunday_2 21 rfl rfl)
theorem dX6_sunday_71 : decode cX6_sunday 71 = .ok (.iconst 1, 1) := dk_4 (dk_at dksX6_sunday_2 23 rfl rfl)
theorem dX6_sunday_72 : decode cX6_sunday 72 = .ok (.if_icmp .ne 14, 3) := dk_160 0 14 (dk_at dksX6_sunday_3 0 rfl rfl)
theorem dX6_sunday_75 : decode cX6_sunday 75 = .ok (.aload_n 0, 1) := dk_42 (dk_at dksX6_sunday_3 3 rfl rfl)
theorem dX6_sunday_76 : decode cX6_sunday 76 = .ok (.aload_n 0, 1) := dk_42 (dk_at dksX6_sunday_3 4 rfl rfl)
theorem dX6_sunday_77 : decode cX6_sunday 77 = .ok (.getfield 70, 3) := dk_180 0 70 (dk_at dksX6_sunday_3 5 rfl rfl)
theorem dX6_sunday_80 : decode cX6_sunday 80 = .ok (.invokevirtual 314, 3) := dk_182 1 58 (dk_at dksX6_sunday_3 8 rfl rfl)
theorem dX6_sunday_83 : decode cX6_sunday 83 = .ok (.goto 43, 3) := dk_167 0 43 (dk_at dksX6_sunday_3 11 rfl rfl)
theorem dX6_sunday_86 : decode cX6_sunday 86 = .ok (.iload 4, 2) := dk_21 4 (dk_at dksX6_sunday_3 14 rfl rfl)
theorem dX6_sunday_88 : decode cX6_sunday 88 = .ok (.iconst 2, 1) := dk_5 (dk_at dksX6_sunday_3 16 rfl rfl)
theorem dX6_sunday_89 : decode cX6_sunday 89 = .ok (.if_icmp .ne 16, 3) := dk_160 0 16 (dk_at dksX6_sunday_3 17 rfl rfl)
theorem dX6_sunday_92 : decode cX6_sunday 92 = .ok (.aload_n 0, 1) := dk_42 (dk_at dksX6_sunday_3 20 rfl rfl)
theorem dX6_sunday_93 : decode cX6_sunday 93 = .ok (.aload_n 0, 1) := dk_42 (dk_at dksX6_sunday_3 21 rfl rfl)
theorem dX6_sunday_94 : decode cX6_sunday 94 = .ok (.getfield 70, 3) := dk_180 0 70 (dk_at dksX6_sunday_4 0 rfl rfl)
theorem dX6_sunday_97 : decode cX6_sunday 97 = .ok (.bipush 21, 2) := dk_16 21 (dk_at dksX6_sunday_4 3 rfl rfl)
theorem dX6_sunday_99 : decode cX6_sunday 99 = .ok (.invokevirtual 318, 3) := dk_182 1 62 (dk_at dksX6_sunday_4 5 rfl rfl)
theorem dX6_sunday_102 : decode cX6_sunday 102 = .ok (.goto 24, 3) := dk_167 0 24 (dk_at dksX6_sunday_4 8 rfl rfl)
theorem dX6_sunday_105 : decode cX6_sunday 105 = .ok (.aload_n 0, 1) := dk_42 (dk_at dksX6_sunday_4 11 rfl rfl)
theorem dX6_sunday_106 : decode cX6_sunday 106 = .ok (.aload_n 0, 1) := dk_42 (dk_at dksX6_sunday_4 12 rfl rfl)
theorem dX6_sunday_107 : decode cX6_sunday 107 = .ok (.getfield 70, 3) := dk_180 0 70 (dk_at dksX6_sunday_4 13 rfl rfl)
theorem dX6_sunday_110 : decode cX6_sunday 110 = .ok (.bipush 14, 2) := dk_16 14 (dk_at dksX6_sunday_4 16 rfl rfl)
theorem dX6_sunday_112 : decode cX6_sunday 112 = .ok (.invokevirtual 318, 3) := dk_182 1 62 (dk_at dksX6_sunday_4 18 rfl rfl)
theorem dX6_sunday_115 : decode cX6_sunday 115 = .ok (.aload_n 0, 1) := dk_42 (dk_at dksX6_sunday_4 21 rfl rfl)
theorem dX6_sunday_116 : decode cX6_sunday 116 = .ok (.aload_n 0, 1) := dk_42 (dk_at dksX6_sunday_4 22 rfl rfl)
theorem dX6_sunday_117 : decode cX6_sunday 117 = .ok (.getfield 67, 3) := dk_180 0 67 (dk_at dksX6_sunday_5 0 rfl rfl)
theorem dX6_sunday_120 : decode cX6_sunday 120 = .ok (.bipush 14, 2) := dk_16 14 (dk_at dksX6_sunday_5 3 rfl rfl)
theorem dX6_sunday_122 : decode cX6_sunday 122 = .ok (.invokevirtual 318, 3) := dk_182 1 62 (dk_at dksX6_sunday_5 5 rfl rfl)
theorem dX6_sunday_125 : decode cX6_sunday 125 = .ok (.isub, 1) := dk_100 (dk_at dksX6_sunday_5 8 rfl rfl)
theorem dX6_sunday_126 : decode cX6_sunday 126 = .ok (.ireturn, 1) := dk_172 (dk_at dksX6_sunday_5 9 rfl rfl)
abbrev cX6_isSunday : ByteArray := prog_34_method_110_code
def yX6_isSunday : MethodName := ⟨RX6, "isSunday", "(II)Z"⟩
def dkwX6_isSunday_1 : List UInt8 := [3, 172]
abbrev dktX6_isSunday_1 : List UInt8 := dkwX6_isSunday_1 ++ []
def dkwX6_isSunday_0 : List UInt8 := [26, 4, 16, 48, 184, 0, 129, 153, 0, 17, 27, 3, 16, 16, 184, 0, 129, 153, 0, 7, 4, 167, 0, 4]
abbrev dktX6_isSunday_0 : List UInt8 := dkwX6_isSunday_0 ++ dktX6_isSunday_1
theorem dksX6_isSunday_0 : cX6_isSunday.data.toList.drop 0 = dktX6_isSunday_0 := by decide +kernel
theorem dksX6_isSunday_1 : cX6_isSunday.data.toList.drop 24 = dktX6_isSunday_1 := dk_seg dksX6_isSunday_0 24 rfl rfl
theorem dX6_isSunday_0 : decode cX6_isSunday 0 = .ok (.iload_n 0, 1) := dk_26 (dk_at dksX6_isSunday_0 0 rfl rfl)
theorem dX6_isSunday_1 : decode cX6_isSunday 1 = .ok (.iconst 1, 1) := dk_4 (dk_at dksX6_isSunday_0 1 rfl rfl)
theorem dX6_isSunday_2 : decode cX6_isSunday 2 = .ok (.bipush 48, 2) := dk_16 48 (dk_at dksX6_isSunday_0 2 rfl rfl)
theorem dX6_isSunday_4 : decode cX6_isSunday 4 = .ok (.invokestatic 129, 3) := dk_184 0 129 (dk_at dksX6_isSunday_0 4 rfl rfl)
theorem dX6_isSunday_7 : decode cX6_isSunday 7 = .ok (.ifCond .eq 17, 3) := dk_153 0 17 (dk_at dksX6_isSunday_0 7 rfl rfl)
theorem dX6_isSunday_10 : decode cX6_isSunday 10 = .ok (.iload_n 1, 1) := dk_27 (dk_at dksX6_isSunday_0 10 rfl rfl)
theorem dX6_isSunday_11 : decode cX6_isSunday 11 = .ok (.iconst 0, 1) := dk_3 (dk_at dksX6_isSunday_0 11 rfl rfl)
theorem dX6_isSunday_12 : decode cX6_isSunday 12 = .ok (.bipush 16, 2) := dk_16 16 (dk_at dksX6_isSunday_0 12 rfl rfl)
theorem dX6_isSunday_14 : decode cX6_isSunday 14 = .ok (.invokestatic 129, 3) := dk_184 0 129 (dk_at dksX6_isSunday_0 14 rfl rfl)
theorem dX6_isSunday_17 : decode cX6_isSunday 17 = .ok (.ifCond .eq 7, 3) := dk_153 0 7 (dk_at dksX6_isSunday_0 17 rfl rfl)
theorem dX6_isSunday_20 : decode cX6_isSunday 20 = .ok (.iconst 1, 1) := dk_4 (dk_at dksX6_isSunday_0 20 rfl rfl)
theorem dX6_isSunday_21 : decode cX6_isSunday 21 = .ok (.goto 4, 3) := dk_167 0 4 (dk_at dksX6_isSunday_0 21 rfl rfl)
theorem dX6_isSunday_24 : decode cX6_isSunday 24 = .ok (.iconst 0, 1) := dk_3 (dk_at dksX6_isSunday_1 0 rfl rfl)
theorem dX6_isSunday_25 : decode cX6_isSunday 25 = .ok (.ireturn, 1) := dk_172 (dk_at dksX6_isSunday_1 1 rfl rfl)
abbrev cX6_sundayBy : ByteArray := prog_34_method_109_code
def yX6_sundayBy : MethodName := ⟨RX6, "sundayBy", "(III)V"⟩
def dkwX6_sundayBy_6 : List UInt8 := [132, 4, 1, 167, 255, 135, 177]
abbrev dktX6_sundayBy_6 : List UInt8 := dkwX6_sundayBy_6 ++ []
def dkwX6_sundayBy_5 : List UInt8 := [180, 0, 70, 182, 1, 27, 87, 42, 42, 180, 0, 70, 182, 1, 24, 42, 42, 180, 0, 70, 182, 1, 38]
abbrev dktX6_sundayBy_5 : List UInt8 := dkwX6_sundayBy_5 ++ dktX6_sundayBy_6
def dkwX6_sundayBy_4 : List UInt8 := [182, 1, 24, 42, 180, 0, 23, 3, 46, 158, 0, 30, 42, 16, 16, 182, 1, 123, 29, 162, 0, 20, 42, 42]
abbrev dktX6_sundayBy_4 : List UInt8 := dkwX6_sundayBy_4 ++ dktX6_sundayBy_5
def dkwX6_sundayBy_3 : List UInt8 := [4, 42, 180, 0, 70, 16, 7, 21, 5, 96, 46, 100, 167, 0, 4, 3, 79, 42, 42, 180, 0, 70]
abbrev dktX6_sundayBy_3 : List UInt8 := dkwX6_sundayBy_3 ++ dktX6_sundayBy_4
def dkwX6_sundayBy_2 : List UInt8 := [167, 0, 4, 3, 54, 5, 42, 180, 0, 70, 16, 7, 21, 5, 96, 42, 180, 0, 23, 3, 46, 158, 0, 18]
abbrev dktX6_sundayBy_2 : List UInt8 := dkwX6_sundayBy_2 ++ dktX6_sundayBy_3
def dkwX6_sundayBy_1 : List UInt8 := [162, 0, 121, 42, 180, 0, 23, 3, 46, 158, 0, 16, 42, 42, 180, 0, 23, 3, 46, 182, 1, 123]
abbrev dktX6_sundayBy_1 : List UInt8 := dkwX6_sundayBy_1 ++ dktX6_sundayBy_2
def dkwX6_sundayBy_0 : List UInt8 := [42, 180, 0, 67, 42, 180, 0, 70, 184, 1, 54, 42, 27, 181, 1, 119, 3, 54, 4, 21, 4, 28]
abbrev dktX6_sundayBy_0 : List UInt8 := dkwX6_sundayBy_0 ++ dktX6_sundayBy_1
theorem dksX6_sundayBy_0 : cX6_sundayBy.data.toList.drop 0 = dktX6_sundayBy_0 := by decide +kernel
theorem dksX6_sundayBy_1 : cX6_sundayBy.data.toList.drop 22 = dktX6_sundayBy_1 := dk_seg dksX6_sundayBy_0 22 rfl rfl
theorem dksX6_sundayBy_2 : cX6_sundayBy.data.toList.drop 44 = dktX6_sundayBy_2 := dk_seg dksX6_sundayBy_1 22 rfl rfl
theorem dksX6_sundayBy_3 : cX6_sundayBy.data.toList.drop 68 = dktX6_sundayBy_3 := dk_seg dksX6_sundayBy_2 24 rfl rfl
theorem dksX6_sundayBy_4 : cX6_sundayBy.data.toList.drop 90 = dktX6_sundayBy_4 := dk_seg dksX6_sundayBy_3 22 rfl rfl
theorem dksX6_sundayBy_5 : cX6_sundayBy.data.toList.drop 114 = dktX6_sundayBy_5 := dk_seg dksX6_sundayBy_4 24 rfl rfl
theorem dksX6_sundayBy_6 : cX6_sundayBy.data.toList.drop 137 = dktX6_sundayBy_6 := dk_seg dksX6_sundayBy_5 23 rfl rfl
theorem dX6_sundayBy_0 : decode cX6_sundayBy 0 = .ok (.aload_n 0, 1) := dk_42 (dk_at dksX6_sundayBy_0 0 rfl rfl)
theorem dX6_sundayBy_1 : decode cX6_sundayBy 1 = .ok (.getfield 67, 3) := dk_180 0 67 (dk_at dksX6_sundayBy_0 1 rfl rfl)
theorem dX6_sundayBy_4 : decode cX6_sundayBy 4 = .ok (.aload_n 0, 1) := dk_42 (dk_at dksX6_sundayBy_0 4 rfl rfl)
theorem dX6_sundayBy_5 : decode cX6_sundayBy 5 = .ok (.getfield 70, 3) := dk_180 0 70 (dk_at dksX6_sundayBy_0 5 rfl rfl)
theorem dX6_sundayBy_8 : decode cX6_sundayBy 8 = .ok (.invokestatic 310, 3) := dk_184 1 54 (dk_at dksX6_sundayBy_0 8 rfl rfl)
theorem dX6_sundayBy_11 : decode cX6_sundayBy 11 = .ok (.aload_n 0, 1) := dk_42 (dk_at dksX6_sundayBy_0 11 rfl rfl)
theorem dX6_sundayBy_12 : decode cX6_sundayBy 12 = .ok (.iload_n 1, 1) := dk_27 (dk_at dksX6_sundayBy_0 12 rfl rfl)
theorem dX6_sundayBy_13 : decode cX6_sundayBy 13 = .ok (.putfield 375, 3) := dk_181 1 119 (dk_at dksX6_sundayBy_0 13 rfl rfl)
theorem dX6_sundayBy_16 : decode cX6_sundayBy 16 = .ok (.iconst 0, 1) := dk_3 (dk_at dksX6_sundayBy_0 16 rfl rfl)
theorem dX6_sundayBy_17 : decode cX6_sundayBy 17 = .ok (.istore 4, 2) := dk_54 4 (dk_at dksX6_sundayBy_0 17 rfl rfl)
theorem dX6_sundayBy_19 : decode cX6_sundayBy 19 = .ok (.iload 4, 2) := dk_21 4 (dk_at dksX6_sundayBy_0 19 rfl rfl)
theorem dX6_sundayBy_21 : decode cX6_sundayBy 21 = .ok (.iload_n 2, 1) := dk_28 (dk_at dksX6_sundayBy_0 21 rfl rfl)
theorem dX6_sundayBy_22 : decode cX6_sundayBy 22 = .ok (.if_icmp .ge 121, 3) := dk_162 0 121 (dk_at dksX6_sundayBy_1 0 rfl rfl)
theorem dX6_sundayBy_25 : decode cX6_sundayBy 25 = .ok (.aload_n 0, 1) := dk_42 (dk_at dksX6_sundayBy_1 3 rfl rfl)
theorem dX6_sundayBy_26 : decode cX6_sundayBy 26 = .ok (.getfield 23, 3) := dk_180 0 23 (dk_at dksX6_sundayBy_1 4 rfl rfl)
theorem dX6_sundayBy_29 : decode cX6_sundayBy 29 = .ok (.iconst 0, 1) := dk_3 (dk_at dksX6_sundayBy_1 7 rfl rfl)
theorem dX6_sundayBy_30 : decode cX6_sundayBy 30 = .ok (.iaload, 1) := dk_46 (dk_at dksX6_sundayBy_1 8 rfl rfl)
theorem dX6_sundayBy_31 : decode cX6_sundayBy 31 = .ok (.ifCond .le 16, 3) := dk_158 0 16 (dk_at dksX6_sundayBy_1 9 rfl rfl)
theorem dX6_sundayBy_34 : decode cX6_sundayBy 34 = .ok (.aload_n 0, 1) := dk_42 (dk_at dksX6_sundayBy_1 12 rfl rfl)
theorem dX6_sundayBy_35 : decode cX6_sundayBy 35 = .ok (.aload_n 0, 1) := dk_42 (dk_at dksX6_sundayBy_1 13 rfl rfl)
theorem dX6_sundayBy_36 : decode cX6_sundayBy 36 = .ok (.getfield 23, 3) := dk_180 0 23 (dk_at dksX6_sundayBy_1 14 rfl rfl)
theorem dX6_sundayBy_39 : decode cX6_sundayBy 39 = .ok (.iconst 0, 1) := dk_3 (dk_at dksX6_sundayBy_1 17 rfl rfl)
theorem dX6_sundayBy_40 : decode cX6_sundayBy 40 = .ok (.iaload, 1) := dk_46 (dk_at dksX6_sundayBy_1 18 rfl rfl)
theorem dX6_sundayBy_41 : decode cX6_sundayBy 41 = .ok (.invokevirtual 379, 3) := dk_182 1 123 (dk_at dksX6_sundayBy_1 19 rfl rfl)
theorem dX6_sundayBy_44 : decode cX6_sundayBy 44 = .ok (.goto 4, 3) := dk_167 0 4 (dk_at dksX6_sundayBy_2 0 rfl rfl)
theorem dX6_sundayBy_47 : decode cX6_sundayBy 47 = .ok (.iconst 0, 1) := dk_3 (dk_at dksX6_sundayBy_2 3 rfl rfl)
theorem dX6_sundayBy_48 : decode cX6_sundayBy 48 = .ok (.istore 5, 2) := dk_54 5 (dk_at dksX6_sundayBy_2 4 rfl rfl)
theorem dX6_sundayBy_50 : decode cX6_sundayBy 50 = .ok (.aload_n 0, 1) := dk_42 (dk_at dksX6_sundayBy_2 6 rfl rfl)
theorem dX6_sundayBy_51 : decode cX6_sundayBy 51 = .ok (.getfield 70, 3) := dk_180 0 70 (dk_at dksX6_sundayBy_2 7 rfl rfl)
theorem dX6_sundayBy_54 : decode cX6_sundayBy 54 = .ok (.bipush 7, 2) := dk_16 7 (dk_at dksX6_sundayBy_2 10 rfl rfl)
theorem dX6_sundayBy_56 : decode cX6_sundayBy 56 = .ok (.iload 5, 2) := dk_21 5 (dk_at dksX6_sundayBy_2 12 rfl rfl)
theorem dX6_sundayBy_58 : decode cX6_sundayBy 58 = .ok (.iadd, 1) := dk_96 (dk_at dksX6_sundayBy_2 14 rfl rfl)
theorem dX6_sundayBy_59 : decode cX6_sundayBy 59 = .ok (.aload_n 0, 1) := dk_42 (dk_at dksX6_sundayBy_2 15 rfl rfl)
theorem dX6_sundayBy_60 : decode cX6_sundayBy 60 = .ok (.getfield 23, 3) := dk_180 0 23 (dk_at dksX6_sundayBy_2 16 rfl rfl)
theorem dX6_sundayBy_63 : decode cX6_sundayBy 63 = .ok (.iconst 0, 1) := dk_3 (dk_at dksX6_sundayBy_2 19 rfl rfl)
theorem dX6_sundayBy_64 : decode cX6_sundayBy 64 = .ok (.iaload, 1) := dk_46 (dk_at dksX6_sundayBy_2 20 rfl rfl)
theorem dX6_sundayBy_65 : decode cX6_sundayBy 65 = .ok (.ifCond .le 18, 3) := dk_158 0 18 (dk_at dksX6_sundayBy_2 21 rfl rfl)
theorem dX6_sundayBy_68 : decode cX6_sundayBy 68 = .ok (.iconst 1, 1) := dk_4 (dk_at dksX6_sundayBy_3 0 rfl rfl)
theorem dX6_sundayBy_69 : decode cX6_sundayBy 69 = .ok (.aload_n 0, 1) := dk_42 (dk_at dksX6_sundayBy_3 1 rfl rfl)
theorem dX6_sundayBy_70 : decode cX6_sundayBy 70 = .ok (.getfield 70, 3) := dk_180 0 70 (dk_at dksX6_sundayBy_3 2 rfl rfl)
theorem dX6_sundayBy_73 : decode cX6_sundayBy 73 = .ok (.bipush 7, 2) := dk_16 7 (dk_at dksX6_sundayBy_3 5 rfl rfl)
theorem dX6_sundayBy_75 : decode cX6_sundayBy 75 = .ok (.iload 5, 2) := dk_21 5 (dk_at dksX6_sundayBy_3 7 rfl rfl)
theorem dX6_sundayBy_77 : decode cX6_sundayBy 77 = .ok (.iadd, 1) := dk_96 (dk_at dksX6_sundayBy_3 9 rfl rfl)
theorem dX6_sundayBy_78 : decode cX6_sundayBy 78 = .ok (.iaload, 1) := dk_46 (dk_at dksX6_sundayBy_3 10 rfl rfl)
theorem dX6_sundayBy_79 : decode cX6_sundayBy 79 = .ok (.isub, 1) := dk_100 (dk_at dksX6_sundayBy_3 11 rfl rfl)
theorem dX6_sundayBy_80 : decode cX6_sundayBy 80 = .ok (.goto 4, 3) := dk_167 0 4 (dk_at dksX6_sundayBy_3 12 rfl rfl)
theorem dX6_sundayBy_83 : decode cX6_sundayBy 83 = .ok (.iconst 0, 1) := dk_3 (dk_at dksX6_sundayBy_3 15 rfl rfl)
theorem dX6_sundayBy_84 : decode cX6_sundayBy 84 = .ok (.iastore, 1) := dk_79 (dk_at dksX6_sundayBy_3 16 rfl rfl)
theorem dX6_sundayBy_85 : decode cX6_sundayBy 85 = .ok (.aload_n 0, 1) := dk_42 (dk_at dksX6_sundayBy_3 17 rfl rfl)
theorem dX6_sundayBy_86 : decode cX6_sundayBy 86 = .ok (.aload_n 0, 1) := dk_42 (dk_at dksX6_sundayBy_3 18 rfl rfl)
theorem dX6_sundayBy_87 : decode cX6_sundayBy 87 = .ok (.getfield 70, 3) := dk_180 0 70 (dk_at dksX6_sundayBy_3 19 rfl rfl)
theorem dX6_sundayBy_90 : decode cX6_sundayBy 90 = .ok (.invokevirtual 280, 3) := dk_182 1 24 (dk_at dksX6_sundayBy_4 0 rfl rfl)
theorem dX6_sundayBy_93 : decode cX6_sundayBy 93 = .ok (.aload_n 0, 1) := dk_42 (dk_at dksX6_sundayBy_4 3 rfl rfl)
theorem dX6_sundayBy_94 : decode cX6_sundayBy 94 = .ok (.getfield 23, 3) := dk_180 0 23 (dk_at dksX6_sundayBy_4 4 rfl rfl)
theorem dX6_sundayBy_97 : decode cX6_sundayBy 97 = .ok (.iconst 0, 1) := dk_3 (dk_at dksX6_sundayBy_4 7 rfl rfl)
theorem dX6_sundayBy_98 : decode cX6_sundayBy 98 = .ok (.iaload, 1) := dk_46 (dk_at dksX6_sundayBy_4 8 rfl rfl)
theorem dX6_sundayBy_99 : decode cX6_sundayBy 99 = .ok (.ifCond .le 30, 3) := dk_158 0 30 (dk_at dksX6_sundayBy_4 9 rfl rfl)
theorem dX6_sundayBy_102 : decode cX6_sundayBy 102 = .ok (.aload_n 0, 1) := dk_42 (dk_at dksX6_sundayBy_4 12 rfl rfl)
theorem dX6_sundayBy_103 : decode cX6_sundayBy 103 = .ok (.bipush 16, 2) := dk_16 16 (dk_at dksX6_sundayBy_4 13 rfl rfl)
theorem dX6_sundayBy_105 : decode cX6_sundayBy 105 = .ok (.invokevirtual 379, 3) := dk_182 1 123 (dk_at dksX6_sundayBy_4 15 rfl rfl)
theorem dX6_sundayBy_108 : decode cX6_sundayBy 108 = .ok (.iload_n 3, 1) := dk_29 (dk_at dksX6_sundayBy_4 18 rfl rfl)
theorem dX6_sundayBy_109 : decode cX6_sundayBy 109 = .ok (.if_icmp .ge 20, 3) := dk_162 0 20 (dk_at dksX6_sundayBy_4 19 rfl rfl)
theorem dX6_sundayBy_112 : decode cX6_sundayBy 112 = .ok (.aload_n 0, 1) := dk_42 (dk_at dksX6_sundayBy_4 22 rfl rfl)
theorem dX6_sundayBy_113 : decode cX6_sundayBy 113 = .ok (.aload_n 0, 1) := dk_42 (dk_at dksX6_sundayBy_4 23 rfl rfl)
theorem dX6_sundayBy_114 : decode cX6_sundayBy 114 = .ok (.getfield 70, 3) := dk_180 0 70 (dk_at dksX6_sundayBy_5 0 rfl rfl)
theorem dX6_sundayBy_117 : decode cX6_sundayBy 117 = .ok (.invokevirtual 283, 3) := dk_182 1 27 (dk_at dksX6_sundayBy_5 3 rfl rfl)
theorem dX6_sundayBy_120 : decode cX6_sundayBy 120 = .ok (.pop, 1) := dk_87 (dk_at dksX6_sundayBy_5 6 rfl rfl)
theorem dX6_sundayBy_121 : decode cX6_sundayBy 121 = .ok (.aload_n 0, 1) := dk_42 (dk_at dksX6_sundayBy_5 7 rfl rfl)
theorem dX6_sundayBy_122 : decode cX6_sundayBy 122 = .ok (.aload_n 0, 1) := dk_42 (dk_at dksX6_sundayBy_5 8 rfl rfl)
theorem dX6_sundayBy_123 : decode cX6_sundayBy 123 = .ok (.getfield 70, 3) := dk_180 0 70 (dk_at dksX6_sundayBy_5 9 rfl rfl)
theorem dX6_sundayBy_126 : decode cX6_sundayBy 126 = .ok (.invokevirtual 280, 3) := dk_182 1 24 (dk_at dksX6_sundayBy_5 12 rfl rfl)
theorem dX6_sundayBy_129 : decode cX6_sundayBy 129 = .ok (.aload_n 0, 1) := dk_42 (dk_at dksX6_sundayBy_5 15 rfl rfl)
theorem dX6_sundayBy_130 : decode cX6_sundayBy 130 = .ok (.aload_n 0, 1) := dk_42 (dk_at dksX6_sundayBy_5 16 rfl rfl)
theorem dX6_sundayBy_131 : decode cX6_sundayBy 131 = .ok (.getfield 70, 3) := dk_180 0 70 (dk_at dksX6_sundayBy_5 17 rfl rfl)
theorem dX6_sundayBy_134 : decode cX6_sundayBy 134 = .ok (.invokevirtual 294, 3) := dk_182 1 38 (dk_at dksX6_sundayBy_5 20 rfl rfl)
theorem dX6_sundayBy_137 : decode cX6_sundayBy 137 = .ok (.iinc 4 1, 3) := dk_132 4 1 (dk_at dksX6_sundayBy_6 0 rfl rfl)
theorem dX6_sundayBy_140 : decode cX6_sundayBy 140 = .ok (.goto (-121), 3) := dk_167 255 135 (dk_at dksX6_sundayBy_6 3 rfl rfl)
theorem dX6_sundayBy_143 : decode cX6_sundayBy 143 = .ok (.return_, 1) := dk_177 (dk_at dksX6_sundayBy_6 6 rfl rfl)
abbrev cX6_draw : ByteArray := prog_34_method_108_code
def yX6_draw : MethodName := ⟨RX6, "draw", "(I)I"⟩
def dkwX6_draw_1 : List UInt8 := [17, 127, 255, 126, 27, 112, 172]
abbrev dktX6_draw_1 : List UInt8 := dkwX6_draw_1 ++ []
def dkwX6_draw_0 : List UInt8 := [42, 42, 180, 1, 119, 19, 1, 122, 104, 17, 48, 57, 96, 181, 1, 119, 42, 180, 1, 119, 16, 16, 122]
abbrev dktX6_draw_0 : List UInt8 := dkwX6_draw_0 ++ dktX6_draw_1
theorem dksX6_draw_0 : cX6_draw.data.toList.drop 0 = dktX6_draw_0 := by decide +kernel
theorem dksX6_draw_1 : cX6_draw.data.toList.drop 23 = dktX6_draw_1 := dk_seg dksX6_draw_0 23 rfl rfl
theorem dX6_draw_0 : decode cX6_draw 0 = .ok (.aload_n 0, 1) := dk_42 (dk_at dksX6_draw_0 0 rfl rfl)
theorem dX6_draw_1 : decode cX6_draw 1 = .ok (.aload_n 0, 1) := dk_42 (dk_at dksX6_draw_0 1 rfl rfl)
theorem dX6_draw_2 : decode cX6_draw 2 = .ok (.getfield 375, 3) := dk_180 1 119 (dk_at dksX6_draw_0 2 rfl rfl)
theorem dX6_draw_5 : decode cX6_draw 5 = .ok (.ldc_w 378, 3) := dk_19 1 122 (dk_at dksX6_draw_0 5 rfl rfl)
theorem dX6_draw_8 : decode cX6_draw 8 = .ok (.imul, 1) := dk_104 (dk_at dksX6_draw_0 8 rfl rfl)
theorem dX6_draw_9 : decode cX6_draw 9 = .ok (.sipush 12345, 3) := dk_17 48 57 (dk_at dksX6_draw_0 9 rfl rfl)
theorem dX6_draw_12 : decode cX6_draw 12 = .ok (.iadd, 1) := dk_96 (dk_at dksX6_draw_0 12 rfl rfl)
theorem dX6_draw_13 : decode cX6_draw 13 = .ok (.putfield 375, 3) := dk_181 1 119 (dk_at dksX6_draw_0 13 rfl rfl)
theorem dX6_draw_16 : decode cX6_draw 16 = .ok (.aload_n 0, 1) := dk_42 (dk_at dksX6_draw_0 16 rfl rfl)
theorem dX6_draw_17 : decode cX6_draw 17 = .ok (.getfield 375, 3) := dk_180 1 119 (dk_at dksX6_draw_0 17 rfl rfl)
theorem dX6_draw_20 : decode cX6_draw 20 = .ok (.bipush 16, 2) := dk_16 16 (dk_at dksX6_draw_0 20 rfl rfl)
theorem dX6_draw_22 : decode cX6_draw 22 = .ok (.ishr, 1) := dk_122 (dk_at dksX6_draw_0 22 rfl rfl)
theorem dX6_draw_23 : decode cX6_draw 23 = .ok (.sipush 32767, 3) := dk_17 127 255 (dk_at dksX6_draw_1 0 rfl rfl)
theorem dX6_draw_26 : decode cX6_draw 26 = .ok (.iand, 1) := dk_126 (dk_at dksX6_draw_1 3 rfl rfl)
theorem dX6_draw_27 : decode cX6_draw 27 = .ok (.iload_n 1, 1) := dk_27 (dk_at dksX6_draw_1 4 rfl rfl)
theorem dX6_draw_28 : decode cX6_draw 28 = .ok (.irem, 1) := dk_112 (dk_at dksX6_draw_1 5 rfl rfl)
theorem dX6_draw_29 : decode cX6_draw 29 = .ok (.ireturn, 1) := dk_172 (dk_at dksX6_draw_1 6 rfl rfl)
abbrev cX6_span : ByteArray := prog_34_method_112_code
def yX6_span : MethodName := ⟨RX6, "span", "(IIIIII)I"⟩
def dkwX6_span_7 : List UInt8 := [167, 0, 16, 21, 5, 4, 160, 0, 8, 21, 8, 167, 0, 5, 21, 9, 172]
abbrev dktX6_span_7 : List UInt8 := dkwX6_span_7 ++ []
def dkwX6_span_6 : List UInt8 := [16, 7, 21, 6, 96, 46, 96, 54, 9, 132, 10, 1, 167, 255, 175, 21, 5, 154, 0, 8, 21, 7]
abbrev dktX6_span_6 : List UInt8 := dkwX6_span_6 ++ dktX6_span_7
def dkwX6_span_5 : List UInt8 := [21, 7, 21, 11, 184, 0, 235, 54, 7, 21, 8, 21, 11, 184, 0, 238, 54, 8, 21, 9, 42, 180, 0, 70]
abbrev dktX6_span_5 : List UInt8 := dkwX6_span_5 ++ dktX6_span_6
def dkwX6_span_4 : List UInt8 := [16, 55, 46, 42, 180, 0, 67, 16, 55, 46, 100, 54, 11, 21, 7, 2, 160, 0, 8, 21, 11, 167, 0, 10]
abbrev dktX6_span_4 : List UInt8 := dkwX6_span_4 ++ dktX6_span_5
def dkwX6_span_3 : List UInt8 := [54, 10, 21, 10, 28, 162, 0, 81, 42, 27, 21, 10, 96, 29, 21, 4, 182, 1, 129, 42, 180, 0, 70]
abbrev dktX6_span_3 : List UInt8 := dkwX6_span_3 ++ dktX6_span_4
def dkwX6_span_2 : List UInt8 := [167, 0, 4, 3, 4, 4, 182, 0, 171, 153, 0, 5, 3, 172, 2, 54, 7, 3, 54, 8, 3, 54, 9, 3]
abbrev dktX6_span_2 : List UInt8 := dkwX6_span_2 ++ dktX6_span_3
def dkwX6_span_1 : List UInt8 := [153, 0, 22, 21, 5, 3, 5, 184, 0, 129, 153, 0, 12, 42, 21, 6, 182, 1, 65, 154, 0, 7, 4]
abbrev dktX6_span_1 : List UInt8 := dkwX6_span_1 ++ dktX6_span_2
def dkwX6_span_0 : List UInt8 := [42, 3, 181, 0, 95, 42, 28, 4, 16, 10, 184, 0, 129, 153, 0, 31, 29, 21, 4, 184, 1, 126]
abbrev dktX6_span_0 : List UInt8 := dkwX6_span_0 ++ dktX6_span_1
theorem dksX6_span_0 : cX6_span.data.toList.drop 0 = dktX6_span_0 := by decide +kernel
theorem dksX6_span_1 : cX6_span.data.toList.drop 22 = dktX6_span_1 := dk_seg dksX6_span_0 22 rfl rfl
theorem dksX6_span_2 : cX6_span.data.toList.drop 45 = dktX6_span_2 := dk_seg dksX6_span_1 23 rfl rfl
theorem dksX6_span_3 : cX6_span.data.toList.drop 69 = dktX6_span_3 := dk_seg dksX6_span_2 24 rfl rfl
theorem dksX6_span_4 : cX6_span.data.toList.drop 92 = dktX6_span_4 := dk_seg dksX6_span_3 23 rfl rfl
theorem dksX6_span_5 : cX6_span.data.toList.drop 116 = dktX6_span_5 := dk_seg dksX6_span_4 24 rfl rfl
theorem dksX6_span_6 : cX6_span.data.toList.drop 140 = dktX6_span_6 := dk_seg dksX6_span_5 24 rfl rfl
theorem dksX6_span_7 : cX6_span.data.toList.drop 162 = dktX6_span_7 := dk_seg dksX6_span_6 22 rfl rfl
theorem dX6_span_0 : decode cX6_span 0 = .ok (.aload_n 0, 1) := dk_42 (dk_at dksX6_span_0 0 rfl rfl)
theorem dX6_span_1 : decode cX6_span 1 = .ok (.iconst 0, 1) := dk_3 (dk_at dksX6_span_0 1 rfl rfl)
theorem dX6_span_2 : decode cX6_span 2 = .ok (.putfield 95, 3) := dk_181 0 95 (dk_at dksX6_span_0 2 rfl rfl)
theorem dX6_span_5 : decode cX6_span 5 = .ok (.aload_n 0, 1) := dk_42 (dk_at dksX6_span_0 5 rfl rfl)
theorem dX6_span_6 : decode cX6_span 6 = .ok (.iload_n 2, 1) := dk_28 (dk_at dksX6_span_0 6 rfl rfl)
theorem dX6_span_7 : decode cX6_span 7 = .ok (.iconst 1, 1) := dk_4 (dk_at dksX6_span_0 7 rfl rfl)
theorem dX6_span_8 : decode cX6_span 8 = .ok (.bipush 10, 2) := dk_16 10 (dk_at dksX6_span_0 8 rfl rfl)
theorem dX6_span_10 : decode cX6_span 10 = .ok (.invokestatic 129, 3) := dk_184 0 129 (dk_at dksX6_span_0 10 rfl rfl)
theorem dX6_span_13 : decode cX6_span 13 = .ok (.ifCond .eq 31, 3) := dk_153 0 31 (dk_at dksX6_span_0 13 rfl rfl)
theorem dX6_span_16 : decode cX6_span 16 = .ok (.iload_n 3, 1) := dk_29 (dk_at dksX6_span_0 16 rfl rfl)
theorem dX6_span_17 : decode cX6_span 17 = .ok (.iload 4, 2) := dk_21 4 (dk_at dksX6_span_0 17 rfl rfl)
theorem dX6_span_19 : decode cX6_span 19 = .ok (.invokestatic 382, 3) := dk_184 1 126 (dk_at dksX6_span_0 19 rfl rfl)
theorem dX6_span_22 : decode cX6_span 22 = .ok (.ifCond .eq 22, 3) := dk_153 0 22 (dk_at dksX6_span_1 0 rfl rfl)
theorem dX6_span_25 : decode cX6_span 25 = .ok (.iload 5, 2) := dk_21 5 (dk_at dksX6_span_1 3 rfl rfl)
theorem dX6_span_27 : decode cX6_span 27 = .ok (.iconst 0, 1) := dk_3 (dk_at dksX6_span_1 5 rfl rfl)
theorem dX6_span_28 : decode cX6_span 28 = .ok (.iconst 2, 1) := dk_5 (dk_at dksX6_span_1 6 rfl rfl)
theorem dX6_span_29 : decode cX6_span 29 = .ok (.invokestatic 129, 3) := dk_184 0 129 (dk_at dksX6_span_1 7 rfl rfl)
theorem dX6_span_32 : decode cX6_span 32 = .ok (.ifCond .eq 12, 3) := dk_153 0 12 (dk_at dksX6_span_1 10 rfl rfl)
theorem dX6_span_35 : decode cX6_span 35 = .ok (.aload_n 0, 1) := dk_42 (dk_at dksX6_span_1 13 rfl rfl)
theorem dX6_span_36 : decode cX6_span 36 = .ok (.iload 6, 2) := dk_21 6 (dk_at dksX6_span_1 14 rfl rfl)
theorem dX6_span_38 : decode cX6_span 38 = .ok (.invokevirtual 321, 3) := dk_182 1 65 (dk_at dksX6_span_1 16 rfl rfl)
theorem dX6_span_41 : decode cX6_span 41 = .ok (.ifCond .ne 7, 3) := dk_154 0 7 (dk_at dksX6_span_1 19 rfl rfl)
theorem dX6_span_44 : decode cX6_span 44 = .ok (.iconst 1, 1) := dk_4 (dk_at dksX6_span_1 22 rfl rfl)
theorem dX6_span_45 : decode cX6_span 45 = .ok (.goto 4, 3) := dk_167 0 4 (dk_at dksX6_span_2 0 rfl rfl)
theorem dX6_span_48 : decode cX6_span 48 = .ok (.iconst 0, 1) := dk_3 (dk_at dksX6_span_2 3 rfl rfl)
theorem dX6_span_49 : decode cX6_span 49 = .ok (.iconst 1, 1) := dk_4 (dk_at dksX6_span_2 4 rfl rfl)
theorem dX6_span_50 : decode cX6_span 50 = .ok (.iconst 1, 1) := dk_4 (dk_at dksX6_span_2 5 rfl rfl)
theorem dX6_span_51 : decode cX6_span 51 = .ok (.invokevirtual 171, 3) := dk_182 0 171 (dk_at dksX6_span_2 6 rfl rfl)
theorem dX6_span_54 : decode cX6_span 54 = .ok (.ifCond .eq 5, 3) := dk_153 0 5 (dk_at dksX6_span_2 9 rfl rfl)
theorem dX6_span_57 : decode cX6_span 57 = .ok (.iconst 0, 1) := dk_3 (dk_at dksX6_span_2 12 rfl rfl)
theorem dX6_span_58 : decode cX6_span 58 = .ok (.ireturn, 1) := dk_172 (dk_at dksX6_span_2 13 rfl rfl)
theorem dX6_span_59 : decode cX6_span 59 = .ok (.iconst (-1), 1) := dk_2 (dk_at dksX6_span_2 14 rfl rfl)
theorem dX6_span_60 : decode cX6_span 60 = .ok (.istore 7, 2) := dk_54 7 (dk_at dksX6_span_2 15 rfl rfl)
theorem dX6_span_62 : decode cX6_span 62 = .ok (.iconst 0, 1) := dk_3 (dk_at dksX6_span_2 17 rfl rfl)
theorem dX6_span_63 : decode cX6_span 63 = .ok (.istore 8, 2) := dk_54 8 (dk_at dksX6_span_2 18 rfl rfl)
theorem dX6_span_65 : decode cX6_span 65 = .ok (.iconst 0, 1) := dk_3 (dk_at dksX6_span_2 20 rfl rfl)
theorem dX6_span_66 : decode cX6_span 66 = .ok (.istore 9, 2) := dk_54 9 (dk_at dksX6_span_2 21 rfl rfl)
theorem dX6_span_68 : decode cX6_span 68 = .ok (.iconst 0, 1) := dk_3 (dk_at dksX6_span_2 23 rfl rfl)
theorem dX6_span_69 : decode cX6_span 69 = .ok (.istore 10, 2) := dk_54 10 (dk_at dksX6_span_3 0 rfl rfl)
theorem dX6_span_71 : decode cX6_span 71 = .ok (.iload 10, 2) := dk_21 10 (dk_at dksX6_span_3 2 rfl rfl)
theorem dX6_span_73 : decode cX6_span 73 = .ok (.iload_n 2, 1) := dk_28 (dk_at dksX6_span_3 4 rfl rfl)
theorem dX6_span_74 : decode cX6_span 74 = .ok (.if_icmp .ge 81, 3) := dk_162 0 81 (dk_at dksX6_span_3 5 rfl rfl)
theorem dX6_span_77 : decode cX6_span 77 = .ok (.aload_n 0, 1) := dk_42 (dk_at dksX6_span_3 8 rfl rfl)
theorem dX6_span_78 : decode cX6_span 78 = .ok (.iload_n 1, 1) := dk_27 (dk_at dksX6_span_3 9 rfl rfl)
theorem dX6_span_79 : decode cX6_span 79 = .ok (.iload 10, 2) := dk_21 10 (dk_at dksX6_span_3 10 rfl rfl)
theorem dX6_span_81 : decode cX6_span 81 = .ok (.iadd, 1) := dk_96 (dk_at dksX6_span_3 12 rfl rfl)
theorem dX6_span_82 : decode cX6_span 82 = .ok (.iload_n 3, 1) := dk_29 (dk_at dksX6_span_3 13 rfl rfl)
theorem dX6_span_83 : decode cX6_span 83 = .ok (.iload 4, 2) := dk_21 4 (dk_at dksX6_span_3 14 rfl rfl)
theorem dX6_span_85 : decode cX6_span 85 = .ok (.invokevirtual 385, 3) := dk_182 1 129 (dk_at dksX6_span_3 16 rfl rfl)
theorem dX6_span_88 : decode cX6_span 88 = .ok (.aload_n 0, 1) := dk_42 (dk_at dksX6_span_3 19 rfl rfl)
theorem dX6_span_89 : decode cX6_span 89 = .ok (.getfield 70, 3) := dk_180 0 70 (dk_at dksX6_span_3 20 rfl rfl)
theorem dX6_span_92 : decode cX6_span 92 = .ok (.bipush 55, 2) := dk_16 55 (dk_at dksX6_span_4 0 rfl rfl)
theorem dX6_span_94 : decode cX6_span 94 = .ok (.iaload, 1) := dk_46 (dk_at dksX6_span_4 2 rfl rfl)
theorem dX6_span_95 : decode cX6_span 95 = .ok (.aload_n 0, 1) := dk_42 (dk_at dksX6_span_4 3 rfl rfl)
theorem dX6_span_96 : decode cX6_span 96 = .ok (.getfield 67, 3) := dk_180 0 67 (dk_at dksX6_span_4 4 rfl rfl)
theorem dX6_span_99 : decode cX6_span 99 = .ok (.bipush 55, 2) := dk_16 55 (dk_at dksX6_span_4 7 rfl rfl)
theorem dX6_span_101 : decode cX6_span 101 = .ok (.iaload, 1) := dk_46 (dk_at dksX6_span_4 9 rfl rfl)
theorem dX6_span_102 : decode cX6_span 102 = .ok (.isub, 1) := dk_100 (dk_at dksX6_span_4 10 rfl rfl)
theorem dX6_span_103 : decode cX6_span 103 = .ok (.istore 11, 2) := dk_54 11 (dk_at dksX6_span_4 11 rfl rfl)
theorem dX6_span_105 : decode cX6_span 105 = .ok (.iload 7, 2) := dk_21 7 (dk_at dksX6_span_4 13 rfl rfl)
theorem dX6_span_107 : decode cX6_span 107 = .ok (.iconst (-1), 1) := dk_2 (dk_at dksX6_span_4 15 rfl rfl)
theorem dX6_span_108 : decode cX6_span 108 = .ok (.if_icmp .ne 8, 3) := dk_160 0 8 (dk_at dksX6_span_4 16 rfl rfl)
theorem dX6_span_111 : decode cX6_span 111 = .ok (.iload 11, 2) := dk_21 11 (dk_at dksX6_span_4 19 rfl rfl)
theorem dX6_span_113 : decode cX6_span 113 = .ok (.goto 10, 3) := dk_167 0 10 (dk_at dksX6_span_4 21 rfl rfl)
theorem dX6_span_116 : decode cX6_span 116 = .ok (.iload 7, 2) := dk_21 7 (dk_at dksX6_span_5 0 rfl rfl)
theorem dX6_span_118 : decode cX6_span 118 = .ok (.iload 11, 2) := dk_21 11 (dk_at dksX6_span_5 2 rfl rfl)
theorem dX6_span_120 : decode cX6_span 120 = .ok (.invokestatic 235, 3) := dk_184 0 235 (dk_at dksX6_span_5 4 rfl rfl)
theorem dX6_span_123 : decode cX6_span 123 = .ok (.istore 7, 2) := dk_54 7 (dk_at dksX6_span_5 7 rfl rfl)
theorem dX6_span_125 : decode cX6_span 125 = .ok (.iload 8, 2) := dk_21 8 (dk_at dksX6_span_5 9 rfl rfl)
theorem dX6_span_127 : decode cX6_span 127 = .ok (.iload 11, 2) := dk_21 11 (dk_at dksX6_span_5 11 rfl rfl)
theorem dX6_span_129 : decode cX6_span 129 = .ok (.invokestatic 238, 3) := dk_184 0 238 (dk_at dksX6_span_5 13 rfl rfl)
theorem dX6_span_132 : decode cX6_span 132 = .ok (.istore 8, 2) := dk_54 8 (dk_at dksX6_span_5 16 rfl rfl)
theorem dX6_span_134 : decode cX6_span 134 = .ok (.iload 9, 2) := dk_21 9 (dk_at dksX6_span_5 18 rfl rfl)
theorem dX6_span_136 : decode cX6_span 136 = .ok (.aload_n 0, 1) := dk_42 (dk_at dksX6_span_5 20 rfl rfl)
theorem dX6_span_137 : decode cX6_span 137 = .ok (.getfield 70, 3) := dk_180 0 70 (dk_at dksX6_span_5 21 rfl rfl)
theorem dX6_span_140 : decode cX6_span 140 = .ok (.bipush 7, 2) := dk_16 7 (dk_at dksX6_span_6 0 rfl rfl)
theorem dX6_span_142 : decode cX6_span 142 = .ok (.iload 6, 2) := dk_21 6 (dk_at dksX6_span_6 2 rfl rfl)
theorem dX6_span_144 : decode cX6_span 144 = .ok (.iadd, 1) := dk_96 (dk_at dksX6_span_6 4 rfl rfl)
theorem dX6_span_145 : decode cX6_span 145 = .ok (.iaload, 1) := dk_46 (dk_at dksX6_span_6 5 rfl rfl)
theorem dX6_span_146 : decode cX6_span 146 = .ok (.iadd, 1) := dk_96 (dk_at dksX6_span_6 6 rfl rfl)
theorem dX6_span_147 : decode cX6_span 147 = .ok (.istore 9, 2) := dk_54 9 (dk_at dksX6_span_6 7 rfl rfl)
theorem dX6_span_149 : decode cX6_span 149 = .ok (.iinc 10 1, 3) := dk_132 10 1 (dk_at dksX6_span_6 9 rfl rfl)
theorem dX6_span_152 : decode cX6_span 152 = .ok (.goto (-81), 3) := dk_167 255 175 (dk_at dksX6_span_6 12 rfl rfl)
theorem dX6_span_155 : decode cX6_span 155 = .ok (.iload 5, 2) := dk_21 5 (dk_at dksX6_span_6 15 rfl rfl)
theorem dX6_span_157 : decode cX6_span 157 = .ok (.ifCond .ne 8, 3) := dk_154 0 8 (dk_at dksX6_span_6 17 rfl rfl)
theorem dX6_span_160 : decode cX6_span 160 = .ok (.iload 7, 2) := dk_21 7 (dk_at dksX6_span_6 20 rfl rfl)
theorem dX6_span_162 : decode cX6_span 162 = .ok (.goto 16, 3) := dk_167 0 16 (dk_at dksX6_span_7 0 rfl rfl)
theorem dX6_span_165 : decode cX6_span 165 = .ok (.iload 5, 2) := dk_21 5 (dk_at dksX6_span_7 3 rfl rfl)
theorem dX6_span_167 : decode cX6_span 167 = .ok (.iconst 1, 1) := dk_4 (dk_at dksX6_span_7 5 rfl rfl)
theorem dX6_span_168 : decode cX6_span 168 = .ok (.if_icmp .ne 8, 3) := dk_160 0 8 (dk_at dksX6_span_7 6 rfl rfl)
theorem dX6_span_171 : decode cX6_span 171 = .ok (.iload 8, 2) := dk_21 8 (dk_at dksX6_span_7 9 rfl rfl)
theorem dX6_span_173 : decode cX6_span 173 = .ok (.goto 5, 3) := dk_167 0 5 (dk_at dksX6_span_7 11 rfl rfl)
theorem dX6_span_176 : decode cX6_span 176 = .ok (.iload 9, 2) := dk_21 9 (dk_at dksX6_span_7 14 rfl rfl)
theorem dX6_span_178 : decode cX6_span 178 = .ok (.ireturn, 1) := dk_172 (dk_at dksX6_span_7 16 rfl rfl)
abbrev cX6_image : ByteArray := prog_34_method_115_code
def yX6_image : MethodName := ⟨RX6, "image", "()I"⟩
def dkwX6_image_1 : List UInt8 := [50, 3, 182, 1, 139, 42, 89, 180, 0, 204, 4, 96, 181, 0, 204, 42, 180, 0, 204, 172]
abbrev dktX6_image_1 : List UInt8 := dkwX6_image_1 ++ []
def dkwX6_image_0 : List UInt8 := [42, 3, 181, 0, 95, 42, 180, 0, 204, 6, 160, 0, 5, 2, 172, 42, 42, 180, 0, 76, 42, 180, 0, 204]
abbrev dktX6_image_0 : List UInt8 := dkwX6_image_0 ++ dktX6_image_1
theorem dksX6_image_0 : cX6_image.data.toList.drop 0 = dktX6_image_0 := by decide +kernel
theorem dksX6_image_1 : cX6_image.data.toList.drop 24 = dktX6_image_1 := dk_seg dksX6_image_0 24 rfl rfl
theorem dX6_image_0 : decode cX6_image 0 = .ok (.aload_n 0, 1) := dk_42 (dk_at dksX6_image_0 0 rfl rfl)
theorem dX6_image_1 : decode cX6_image 1 = .ok (.iconst 0, 1) := dk_3 (dk_at dksX6_image_0 1 rfl rfl)
theorem dX6_image_2 : decode cX6_image 2 = .ok (.putfield 95, 3) := dk_181 0 95 (dk_at dksX6_image_0 2 rfl rfl)
theorem dX6_image_5 : decode cX6_image 5 = .ok (.aload_n 0, 1) := dk_42 (dk_at dksX6_image_0 5 rfl rfl)
theorem dX6_image_6 : decode cX6_image 6 = .ok (.getfield 204, 3) := dk_180 0 204 (dk_at dksX6_image_0 6 rfl rfl)
theorem dX6_image_9 : decode cX6_image 9 = .ok (.iconst 3, 1) := dk_6 (dk_at dksX6_image_0 9 rfl rfl)
theorem dX6_image_10 : decode cX6_image 10 = .ok (.if_icmp .ne 5, 3) := dk_160 0 5 (dk_at dksX6_image_0 10 rfl rfl)
theorem dX6_image_13 : decode cX6_image 13 = .ok (.iconst (-1), 1) := dk_2 (dk_at dksX6_image_0 13 rfl rfl)
theorem dX6_image_14 : decode cX6_image 14 = .ok (.ireturn, 1) := dk_172 (dk_at dksX6_image_0 14 rfl rfl)
theorem dX6_image_15 : decode cX6_image 15 = .ok (.aload_n 0, 1) := dk_42 (dk_at dksX6_image_0 15 rfl rfl)
theorem dX6_image_16 : decode cX6_image 16 = .ok (.aload_n 0, 1) := dk_42 (dk_at dksX6_image_0 16 rfl rfl)
theorem dX6_image_17 : decode cX6_image 17 = .ok (.getfield 76, 3) := dk_180 0 76 (dk_at dksX6_image_0 17 rfl rfl)
theorem dX6_image_20 : decode cX6_image 20 = .ok (.aload_n 0, 1) := dk_42 (dk_at dksX6_image_0 20 rfl rfl)
theorem dX6_image_21 : decode cX6_image 21 = .ok (.getfield 204, 3) := dk_180 0 204 (dk_at dksX6_image_0 21 rfl rfl)
theorem dX6_image_24 : decode cX6_image 24 = .ok (.aaload, 1) := dk_50 (dk_at dksX6_image_1 0 rfl rfl)
theorem dX6_image_25 : decode cX6_image 25 = .ok (.iconst 0, 1) := dk_3 (dk_at dksX6_image_1 1 rfl rfl)
theorem dX6_image_26 : decode cX6_image 26 = .ok (.invokevirtual 395, 3) := dk_182 1 139 (dk_at dksX6_image_1 2 rfl rfl)
theorem dX6_image_29 : decode cX6_image 29 = .ok (.aload_n 0, 1) := dk_42 (dk_at dksX6_image_1 5 rfl rfl)
theorem dX6_image_30 : decode cX6_image 30 = .ok (.dup, 1) := dk_89 (dk_at dksX6_image_1 6 rfl rfl)
theorem dX6_image_31 : decode cX6_image 31 = .ok (.getfield 204, 3) := dk_180 0 204 (dk_at dksX6_image_1 7 rfl rfl)
theorem dX6_image_34 : decode cX6_image 34 = .ok (.iconst 1, 1) := dk_4 (dk_at dksX6_image_1 10 rfl rfl)
theorem dX6_image_35 : decode cX6_image 35 = .ok (.iadd, 1) := dk_96 (dk_at dksX6_image_1 11 rfl rfl)
theorem dX6_image_36 : decode cX6_image 36 = .ok (.putfield 204, 3) := dk_181 0 204 (dk_at dksX6_image_1 12 rfl rfl)
theorem dX6_image_39 : decode cX6_image 39 = .ok (.aload_n 0, 1) := dk_42 (dk_at dksX6_image_1 15 rfl rfl)
theorem dX6_image_40 : decode cX6_image 40 = .ok (.getfield 204, 3) := dk_180 0 204 (dk_at dksX6_image_1 16 rfl rfl)
theorem dX6_image_43 : decode cX6_image 43 = .ok (.ireturn, 1) := dk_172 (dk_at dksX6_image_1 19 rfl rfl)
abbrev cX6_putsAll : ByteArray := prog_34_method_114_code
def yX6_putsAll : MethodName := ⟨RX6, "putsAll", "([IZ)V"⟩
def dkwX6_putsAll_4 : List UInt8 := [132, 4, 1, 167, 255, 222, 132, 3, 1, 167, 255, 207, 177]
abbrev dktX6_putsAll_4 : List UInt8 := dkwX6_putsAll_4 ++ []
def dkwX6_putsAll_3 : List UInt8 := [180, 0, 73, 29, 50, 21, 4, 42, 43, 42, 180, 0, 73, 29, 50, 21, 4, 46, 28, 182, 1, 135, 79]
abbrev dktX6_putsAll_3 : List UInt8 := dkwX6_putsAll_3 ++ dktX6_putsAll_4
def dkwX6_putsAll_2 : List UInt8 := [167, 255, 229, 3, 62, 29, 16, 16, 162, 0, 49, 3, 54, 4, 21, 4, 16, 57, 162, 0, 33, 42]
abbrev dktX6_putsAll_2 : List UInt8 := dkwX6_putsAll_2 ++ dktX6_putsAll_3
def dkwX6_putsAll_1 : List UInt8 := [162, 0, 27, 42, 180, 0, 67, 29, 42, 43, 42, 180, 0, 67, 29, 46, 28, 182, 1, 135, 79, 132, 3, 1]
abbrev dktX6_putsAll_1 : List UInt8 := dkwX6_putsAll_1 ++ dktX6_putsAll_2
def dkwX6_putsAll_0 : List UInt8 := [42, 3, 181, 1, 132, 42, 42, 43, 42, 180, 0, 198, 28, 182, 1, 135, 181, 0, 198, 3, 62, 29, 16, 57]
abbrev dktX6_putsAll_0 : List UInt8 := dkwX6_putsAll_0 ++ dktX6_putsAll_1
theorem dksX6_putsAll_0 : cX6_putsAll.data.toList.drop 0 = dktX6_putsAll_0 := by decide +kernel
theorem dksX6_putsAll_1 : cX6_putsAll.data.toList.drop 24 = dktX6_putsAll_1 := dk_seg dksX6_putsAll_0 24 rfl rfl
theorem dksX6_putsAll_2 : cX6_putsAll.data.toList.drop 48 = dktX6_putsAll_2 := dk_seg dksX6_putsAll_1 24 rfl rfl
theorem dksX6_putsAll_3 : cX6_putsAll.data.toList.drop 70 = dktX6_putsAll_3 := dk_seg dksX6_putsAll_2 22 rfl rfl
theorem dksX6_putsAll_4 : cX6_putsAll.data.toList.drop 93 = dktX6_putsAll_4 := dk_seg dksX6_putsAll_3 23 rfl rfl
theorem dX6_putsAll_0 : decode cX6_putsAll 0 = .ok (.aload_n 0, 1) := dk_42 (dk_at dksX6_putsAll_0 0 rfl rfl)
theorem dX6_putsAll_1 : decode cX6_putsAll 1 = .ok (.iconst 0, 1) := dk_3 (dk_at dksX6_putsAll_0 1 rfl rfl)
theorem dX6_putsAll_2 : decode cX6_putsAll 2 = .ok (.putfield 388, 3) := dk_181 1 132 (dk_at dksX6_putsAll_0 2 rfl rfl)
theorem dX6_putsAll_5 : decode cX6_putsAll 5 = .ok (.aload_n 0, 1) := dk_42 (dk_at dksX6_putsAll_0 5 rfl rfl)
theorem dX6_putsAll_6 : decode cX6_putsAll 6 = .ok (.aload_n 0, 1) := dk_42 (dk_at dksX6_putsAll_0 6 rfl rfl)
theorem dX6_putsAll_7 : decode cX6_putsAll 7 = .ok (.aload_n 1, 1) := dk_43 (dk_at dksX6_putsAll_0 7 rfl rfl)
theorem dX6_putsAll_8 : decode cX6_putsAll 8 = .ok (.aload_n 0, 1) := dk_42 (dk_at dksX6_putsAll_0 8 rfl rfl)
theorem dX6_putsAll_9 : decode cX6_putsAll 9 = .ok (.getfield 198, 3) := dk_180 0 198 (dk_at dksX6_putsAll_0 9 rfl rfl)
theorem dX6_putsAll_12 : decode cX6_putsAll 12 = .ok (.iload_n 2, 1) := dk_28 (dk_at dksX6_putsAll_0 12 rfl rfl)
theorem dX6_putsAll_13 : decode cX6_putsAll 13 = .ok (.invokevirtual 391, 3) := dk_182 1 135 (dk_at dksX6_putsAll_0 13 rfl rfl)
theorem dX6_putsAll_16 : decode cX6_putsAll 16 = .ok (.putfield 198, 3) := dk_181 0 198 (dk_at dksX6_putsAll_0 16 rfl rfl)
theorem dX6_putsAll_19 : decode cX6_putsAll 19 = .ok (.iconst 0, 1) := dk_3 (dk_at dksX6_putsAll_0 19 rfl rfl)
theorem dX6_putsAll_20 : decode cX6_putsAll 20 = .ok (.istore_n 3, 1) := dk_62 (dk_at dksX6_putsAll_0 20 rfl rfl)
theorem dX6_putsAll_21 : decode cX6_putsAll 21 = .ok (.iload_n 3, 1) := dk_29 (dk_at dksX6_putsAll_0 21 rfl rfl)
theorem dX6_putsAll_22 : decode cX6_putsAll 22 = .ok (.bipush 57, 2) := dk_16 57 (dk_at dksX6_putsAll_0 22 rfl rfl)
theorem dX6_putsAll_24 : decode cX6_putsAll 24 = .ok (.if_icmp .ge 27, 3) := dk_162 0 27 (dk_at dksX6_putsAll_1 0 rfl rfl)
theorem dX6_putsAll_27 : decode cX6_putsAll 27 = .ok (.aload_n 0, 1) := dk_42 (dk_at dksX6_putsAll_1 3 rfl rfl)
theorem dX6_putsAll_28 : decode cX6_putsAll 28 = .ok (.getfield 67, 3) := dk_180 0 67 (dk_at dksX6_putsAll_1 4 rfl rfl)
theorem dX6_putsAll_31 : decode cX6_putsAll 31 = .ok (.iload_n 3, 1) := dk_29 (dk_at dksX6_putsAll_1 7 rfl rfl)
theorem dX6_putsAll_32 : decode cX6_putsAll 32 = .ok (.aload_n 0, 1) := dk_42 (dk_at dksX6_putsAll_1 8 rfl rfl)
theorem dX6_putsAll_33 : decode cX6_putsAll 33 = .ok (.aload_n 1, 1) := dk_43 (dk_at dksX6_putsAll_1 9 rfl rfl)
theorem dX6_putsAll_34 : decode cX6_putsAll 34 = .ok (.aload_n 0, 1) := dk_42 (dk_at dksX6_putsAll_1 10 rfl rfl)
theorem dX6_putsAll_35 : decode cX6_putsAll 35 = .ok (.getfield 67, 3) := dk_180 0 67 (dk_at dksX6_putsAll_1 11 rfl rfl)
theorem dX6_putsAll_38 : decode cX6_putsAll 38 = .ok (.iload_n 3, 1) := dk_29 (dk_at dksX6_putsAll_1 14 rfl rfl)
theorem dX6_putsAll_39 : decode cX6_putsAll 39 = .ok (.iaload, 1) := dk_46 (dk_at dksX6_putsAll_1 15 rfl rfl)
theorem dX6_putsAll_40 : decode cX6_putsAll 40 = .ok (.iload_n 2, 1) := dk_28 (dk_at dksX6_putsAll_1 16 rfl rfl)
theorem dX6_putsAll_41 : decode cX6_putsAll 41 = .ok (.invokevirtual 391, 3) := dk_182 1 135 (dk_at dksX6_putsAll_1 17 rfl rfl)
theorem dX6_putsAll_44 : decode cX6_putsAll 44 = .ok (.iastore, 1) := dk_79 (dk_at dksX6_putsAll_1 20 rfl rfl)
theorem dX6_putsAll_45 : decode cX6_putsAll 45 = .ok (.iinc 3 1, 3) := dk_132 3 1 (dk_at dksX6_putsAll_1 21 rfl rfl)
theorem dX6_putsAll_48 : decode cX6_putsAll 48 = .ok (.goto (-27), 3) := dk_167 255 229 (dk_at dksX6_putsAll_2 0 rfl rfl)
theorem dX6_putsAll_51 : decode cX6_putsAll 51 = .ok (.iconst 0, 1) := dk_3 (dk_at dksX6_putsAll_2 3 rfl rfl)
theorem dX6_putsAll_52 : decode cX6_putsAll 52 = .ok (.istore_n 3, 1) := dk_62 (dk_at dksX6_putsAll_2 4 rfl rfl)
theorem dX6_putsAll_53 : decode cX6_putsAll 53 = .ok (.iload_n 3, 1) := dk_29 (dk_at dksX6_putsAll_2 5 rfl rfl)
theorem dX6_putsAll_54 : decode cX6_putsAll 54 = .ok (.bipush 16, 2) := dk_16 16 (dk_at dksX6_putsAll_2 6 rfl rfl)
theorem dX6_putsAll_56 : decode cX6_putsAll 56 = .ok (.if_icmp .ge 49, 3) := dk_162 0 49 (dk_at dksX6_putsAll_2 8 rfl rfl)
theorem dX6_putsAll_59 : decode cX6_putsAll 59 = .ok (.iconst 0, 1) := dk_3 (dk_at dksX6_putsAll_2 11 rfl rfl)
theorem dX6_putsAll_60 : decode cX6_putsAll 60 = .ok (.istore 4, 2) := dk_54 4 (dk_at dksX6_putsAll_2 12 rfl rfl)
theorem dX6_putsAll_62 : decode cX6_putsAll 62 = .ok (.iload 4, 2) := dk_21 4 (dk_at dksX6_putsAll_2 14 rfl rfl)
theorem dX6_putsAll_64 : decode cX6_putsAll 64 = .ok (.bipush 57, 2) := dk_16 57 (dk_at dksX6_putsAll_2 16 rfl rfl)
theorem dX6_putsAll_66 : decode cX6_putsAll 66 = .ok (.if_icmp .ge 33, 3) := dk_162 0 33 (dk_at dksX6_putsAll_2 18 rfl rfl)
theorem dX6_putsAll_69 : decode cX6_putsAll 69 = .ok (.aload_n 0, 1) := dk_42 (dk_at dksX6_putsAll_2 21 rfl rfl)
theorem dX6_putsAll_70 : decode cX6_putsAll 70 = .ok (.getfield 73, 3) := dk_180 0 73 (dk_at dksX6_putsAll_3 0 rfl rfl)
theorem dX6_putsAll_73 : decode cX6_putsAll 73 = .ok (.iload_n 3, 1) := dk_29 (dk_at dksX6_putsAll_3 3 rfl rfl)
theorem dX6_putsAll_74 : decode cX6_putsAll 74 = .ok (.aaload, 1) := dk_50 (dk_at dksX6_putsAll_3 4 rfl rfl)
theorem dX6_putsAll_75 : decode cX6_putsAll 75 = .ok (.iload 4, 2) := dk_21 4 (dk_at dksX6_putsAll_3 5 rfl rfl)
theorem dX6_putsAll_77 : decode cX6_putsAll 77 = .ok (.aload_n 0, 1) := dk_42 (dk_at dksX6_putsAll_3 7 rfl rfl)
theorem dX6_putsAll_78 : decode cX6_putsAll 78 = .ok (.aload_n 1, 1) := dk_43 (dk_at dksX6_putsAll_3 8 rfl rfl)
theorem dX6_putsAll_79 : decode cX6_putsAll 79 = .ok (.aload_n 0, 1) := dk_42 (dk_at dksX6_putsAll_3 9 rfl rfl)
theorem dX6_putsAll_80 : decode cX6_putsAll 80 = .ok (.getfield 73, 3) := dk_180 0 73 (dk_at dksX6_putsAll_3 10 rfl rfl)
theorem dX6_putsAll_83 : decode cX6_putsAll 83 = .ok (.iload_n 3, 1) := dk_29 (dk_at dksX6_putsAll_3 13 rfl rfl)
theorem dX6_putsAll_84 : decode cX6_putsAll 84 = .ok (.aaload, 1) := dk_50 (dk_at dksX6_putsAll_3 14 rfl rfl)
theorem dX6_putsAll_85 : decode cX6_putsAll 85 = .ok (.iload 4, 2) := dk_21 4 (dk_at dksX6_putsAll_3 15 rfl rfl)
theorem dX6_putsAll_87 : decode cX6_putsAll 87 = .ok (.iaload, 1) := dk_46 (dk_at dksX6_putsAll_3 17 rfl rfl)
theorem dX6_putsAll_88 : decode cX6_putsAll 88 = .ok (.iload_n 2, 1) := dk_28 (dk_at dksX6_putsAll_3 18 rfl rfl)
theorem dX6_putsAll_89 : decode cX6_putsAll 89 = .ok (.invokevirtual 391, 3) := dk_182 1 135 (dk_at dksX6_putsAll_3 19 rfl rfl)
theorem dX6_putsAll_92 : decode cX6_putsAll 92 = .ok (.iastore, 1) := dk_79 (dk_at dksX6_putsAll_3 22 rfl rfl)
theorem dX6_putsAll_93 : decode cX6_putsAll 93 = .ok (.iinc 4 1, 3) := dk_132 4 1 (dk_at dksX6_putsAll_4 0 rfl rfl)
theorem dX6_putsAll_96 : decode cX6_putsAll 96 = .ok (.goto (-34), 3) := dk_167 255 222 (dk_at dksX6_putsAll_4 3 rfl rfl)
theorem dX6_putsAll_99 : decode cX6_putsAll 99 = .ok (.iinc 3 1, 3) := dk_132 3 1 (dk_at dksX6_putsAll_4 6 rfl rfl)
theorem dX6_putsAll_102 : decode cX6_putsAll 102 = .ok (.goto (-49), 3) := dk_167 255 207 (dk_at dksX6_putsAll_4 9 rfl rfl)
theorem dX6_putsAll_105 : decode cX6_putsAll 105 = .ok (.return_, 1) := dk_177 (dk_at dksX6_putsAll_4 12 rfl rfl)
abbrev cX6_puts : ByteArray := prog_34_method_113_code
def yX6_puts : MethodName := ⟨RX6, "puts", "([IIZ)I"⟩
def dkwX6_puts_1 : List UInt8 := [180, 1, 132, 4, 100, 46, 172]
abbrev dktX6_puts_1 : List UInt8 := dkwX6_puts_1 ++ []
def dkwX6_puts_0 : List UInt8 := [29, 154, 0, 10, 43, 42, 180, 1, 132, 28, 79, 42, 89, 180, 1, 132, 4, 96, 181, 1, 132, 43, 42]
abbrev dktX6_puts_0 : List UInt8 := dkwX6_puts_0 ++ dktX6_puts_1
theorem dksX6_puts_0 : cX6_puts.data.toList.drop 0 = dktX6_puts_0 := by decide +kernel
theorem dksX6_puts_1 : cX6_puts.data.toList.drop 23 = dktX6_puts_1 := dk_seg dksX6_puts_0 23 rfl rfl
theorem dX6_puts_0 : decode cX6_puts 0 = .ok (.iload_n 3, 1) := dk_29 (dk_at dksX6_puts_0 0 rfl rfl)
theorem dX6_puts_1 : decode cX6_puts 1 = .ok (.ifCond .ne 10, 3) := dk_154 0 10 (dk_at dksX6_puts_0 1 rfl rfl)
theorem dX6_puts_4 : decode cX6_puts 4 = .ok (.aload_n 1, 1) := dk_43 (dk_at dksX6_puts_0 4 rfl rfl)
theorem dX6_puts_5 : decode cX6_puts 5 = .ok (.aload_n 0, 1) := dk_42 (dk_at dksX6_puts_0 5 rfl rfl)
theorem dX6_puts_6 : decode cX6_puts 6 = .ok (.getfield 388, 3) := dk_180 1 132 (dk_at dksX6_puts_0 6 rfl rfl)
theorem dX6_puts_9 : decode cX6_puts 9 = .ok (.iload_n 2, 1) := dk_28 (dk_at dksX6_puts_0 9 rfl rfl)
theorem dX6_puts_10 : decode cX6_puts 10 = .ok (.iastore, 1) := dk_79 (dk_at dksX6_puts_0 10 rfl rfl)
theorem dX6_puts_11 : decode cX6_puts 11 = .ok (.aload_n 0, 1) := dk_42 (dk_at dksX6_puts_0 11 rfl rfl)
theorem dX6_puts_12 : decode cX6_puts 12 = .ok (.dup, 1) := dk_89 (dk_at dksX6_puts_0 12 rfl rfl)
theorem dX6_puts_13 : decode cX6_puts 13 = .ok (.getfield 388, 3) := dk_180 1 132 (dk_at dksX6_puts_0 13 rfl rfl)
theorem dX6_puts_16 : decode cX6_puts 16 = .ok (.iconst 1, 1) := dk_4 (dk_at dksX6_puts_0 16 rfl rfl)
theorem dX6_puts_17 : decode cX6_puts 17 = .ok (.iadd, 1) := dk_96 (dk_at dksX6_puts_0 17 rfl rfl)
theorem dX6_puts_18 : decode cX6_puts 18 = .ok (.putfield 388, 3) := dk_181 1 132 (dk_at dksX6_puts_0 18 rfl rfl)
theorem dX6_puts_21 : decode cX6_puts 21 = .ok (.aload_n 1, 1) := dk_43 (dk_at dksX6_puts_0 21 rfl rfl)
theorem dX6_puts_22 : decode cX6_puts 22 = .ok (.aload_n 0, 1) := dk_42 (dk_at dksX6_puts_0 22 rfl rfl)
theorem dX6_puts_23 : decode cX6_puts 23 = .ok (.getfield 388, 3) := dk_180 1 132 (dk_at dksX6_puts_1 0 rfl rfl)
theorem dX6_puts_26 : decode cX6_puts 26 = .ok (.iconst 1, 1) := dk_4 (dk_at dksX6_puts_1 3 rfl rfl)
theorem dX6_puts_27 : decode cX6_puts 27 = .ok (.isub, 1) := dk_100 (dk_at dksX6_puts_1 4 rfl rfl)
theorem dX6_puts_28 : decode cX6_puts 28 = .ok (.iaload, 1) := dk_46 (dk_at dksX6_puts_1 5 rfl rfl)
theorem dX6_puts_29 : decode cX6_puts 29 = .ok (.ireturn, 1) := dk_172 (dk_at dksX6_puts_1 6 rfl rfl)
abbrev cX6_restore : ByteArray := prog_34_method_116_code
def yX6_restore : MethodName := ⟨RX6, "restore", "()I"⟩
def dkwX6_restore_1 : List UInt8 := [42, 42, 180, 0, 76, 42, 180, 0, 204, 50, 4, 182, 1, 139, 42, 3, 181, 0, 201, 42, 180, 0, 204, 172]
abbrev dktX6_restore_1 : List UInt8 := dkwX6_restore_1 ++ []
def dkwX6_restore_0 : List UInt8 := [42, 3, 181, 0, 95, 42, 180, 0, 204, 154, 0, 5, 2, 172, 42, 89, 180, 0, 204, 4, 100, 181, 0, 204]
abbrev dktX6_restore_0 : List UInt8 := dkwX6_restore_0 ++ dktX6_restore_1
theorem dksX6_restore_0 : cX6_restore.data.toList.drop 0 = dktX6_restore_0 := by decide +kernel
theorem dksX6_restore_1 : cX6_restore.data.toList.drop 24 = dktX6_restore_1 := dk_seg dksX6_restore_0 24 rfl rfl
theorem dX6_restore_0 : decode cX6_restore 0 = .ok (.aload_n 0, 1) := dk_42 (dk_at dksX6_restore_0 0 rfl rfl)
theorem dX6_restore_1 : decode cX6_restore 1 = .ok (.iconst 0, 1) := dk_3 (dk_at dksX6_restore_0 1 rfl rfl)
theorem dX6_restore_2 : decode cX6_restore 2 = .ok (.putfield 95, 3) := dk_181 0 95 (dk_at dksX6_restore_0 2 rfl rfl)
theorem dX6_restore_5 : decode cX6_restore 5 = .ok (.aload_n 0, 1) := dk_42 (dk_at dksX6_restore_0 5 rfl rfl)
theorem dX6_restore_6 : decode cX6_restore 6 = .ok (.getfield 204, 3) := dk_180 0 204 (dk_at dksX6_restore_0 6 rfl rfl)
theorem dX6_restore_9 : decode cX6_restore 9 = .ok (.ifCond .ne 5, 3) := dk_154 0 5 (dk_at dksX6_restore_0 9 rfl rfl)
theorem dX6_restore_12 : decode cX6_restore 12 = .ok (.iconst (-1), 1) := dk_2 (dk_at dksX6_restore_0 12 rfl rfl)
theorem dX6_restore_13 : decode cX6_restore 13 = .ok (.ireturn, 1) := dk_172 (dk_at dksX6_restore_0 13 rfl rfl)
theorem dX6_restore_14 : decode cX6_restore 14 = .ok (.aload_n 0, 1) := dk_42 (dk_at dksX6_restore_0 14 rfl rfl)
theorem dX6_restore_15 : decode cX6_restore 15 = .ok (.dup, 1) := dk_89 (dk_at dksX6_restore_0 15 rfl rfl)
theorem dX6_restore_16 : decode cX6_restore 16 = .ok (.getfield 204, 3) := dk_180 0 204 (dk_at dksX6_restore_0 16 rfl rfl)
theorem dX6_restore_19 : decode cX6_restore 19 = .ok (.iconst 1, 1) := dk_4 (dk_at dksX6_restore_0 19 rfl rfl)
theorem dX6_restore_20 : decode cX6_restore 20 = .ok (.isub, 1) := dk_100 (dk_at dksX6_restore_0 20 rfl rfl)
theorem dX6_restore_21 : decode cX6_restore 21 = .ok (.putfield 204, 3) := dk_181 0 204 (dk_at dksX6_restore_0 21 rfl rfl)
theorem dX6_restore_24 : decode cX6_restore 24 = .ok (.aload_n 0, 1) := dk_42 (dk_at dksX6_restore_1 0 rfl rfl)
theorem dX6_restore_25 : decode cX6_restore 25 = .ok (.aload_n 0, 1) := dk_42 (dk_at dksX6_restore_1 1 rfl rfl)
theorem dX6_restore_26 : decode cX6_restore 26 = .ok (.getfield 76, 3) := dk_180 0 76 (dk_at dksX6_restore_1 2 rfl rfl)
theorem dX6_restore_29 : decode cX6_restore 29 = .ok (.aload_n 0, 1) := dk_42 (dk_at dksX6_restore_1 5 rfl rfl)
theorem dX6_restore_30 : decode cX6_restore 30 = .ok (.getfield 204, 3) := dk_180 0 204 (dk_at dksX6_restore_1 6 rfl rfl)
theorem dX6_restore_33 : decode cX6_restore 33 = .ok (.aaload, 1) := dk_50 (dk_at dksX6_restore_1 9 rfl rfl)
theorem dX6_restore_34 : decode cX6_restore 34 = .ok (.iconst 1, 1) := dk_4 (dk_at dksX6_restore_1 10 rfl rfl)
theorem dX6_restore_35 : decode cX6_restore 35 = .ok (.invokevirtual 395, 3) := dk_182 1 139 (dk_at dksX6_restore_1 11 rfl rfl)
theorem dX6_restore_38 : decode cX6_restore 38 = .ok (.aload_n 0, 1) := dk_42 (dk_at dksX6_restore_1 14 rfl rfl)
theorem dX6_restore_39 : decode cX6_restore 39 = .ok (.iconst 0, 1) := dk_3 (dk_at dksX6_restore_1 15 rfl rfl)
theorem dX6_restore_40 : decode cX6_restore 40 = .ok (.putfield 201, 3) := dk_181 0 201 (dk_at dksX6_restore_1 16 rfl rfl)
theorem dX6_restore_43 : decode cX6_restore 43 = .ok (.aload_n 0, 1) := dk_42 (dk_at dksX6_restore_1 19 rfl rfl)
theorem dX6_restore_44 : decode cX6_restore 44 = .ok (.getfield 204, 3) := dk_180 0 204 (dk_at dksX6_restore_1 20 rfl rfl)
theorem dX6_restore_47 : decode cX6_restore 47 = .ok (.ireturn, 1) := dk_172 (dk_at dksX6_restore_1 23 rfl rfl)
abbrev cX6_status : ByteArray := prog_34_method_117_code
def yX6_status : MethodName := ⟨RX6, "status", "(I)I"⟩
def dkwX6_status_1 : List UInt8 := [172]
abbrev dktX6_status_1 : List UInt8 := dkwX6_status_1 ++ []
def dkwX6_status_0 : List UInt8 := [42, 3, 181, 0, 95, 27, 3, 4, 184, 0, 129, 153, 0, 12, 42, 180, 0, 17, 27, 46, 167, 0, 4, 2]
abbrev dktX6_status_0 : List UInt8 := dkwX6_status_0 ++ dktX6_status_1
theorem dksX6_status_0 : cX6_status.data.toList.drop 0 = dktX6_status_0 := by decide +kernel
theorem dksX6_status_1 : cX6_status.data.toList.drop 24 = dktX6_status_1 := dk_seg dksX6_status_0 24 rfl rfl
theorem dX6_status_0 : decode cX6_status 0 = .ok (.aload_n 0, 1) := dk_42 (dk_at dksX6_status_0 0 rfl rfl)
theorem dX6_status_1 : decode cX6_status 1 = .ok (.iconst 0, 1) := dk_3 (dk_at dksX6_status_0 1 rfl rfl)
theorem dX6_status_2 : decode cX6_status 2 = .ok (.putfield 95, 3) := dk_181 0 95 (dk_at dksX6_status_0 2 rfl rfl)
theorem dX6_status_5 : decode cX6_status 5 = .ok (.iload_n 1, 1) := dk_27 (dk_at dksX6_status_0 5 rfl rfl)
theorem dX6_status_6 : decode cX6_status 6 = .ok (.iconst 0, 1) := dk_3 (dk_at dksX6_status_0 6 rfl rfl)
theorem dX6_status_7 : decode cX6_status 7 = .ok (.iconst 1, 1) := dk_4 (dk_at dksX6_status_0 7 rfl rfl)
theorem dX6_status_8 : decode cX6_status 8 = .ok (.invokestatic 129, 3) := dk_184 0 129 (dk_at dksX6_status_0 8 rfl rfl)
theorem dX6_status_11 : decode cX6_status 11 = .ok (.ifCond .eq 12, 3) := dk_153 0 12 (dk_at dksX6_status_0 11 rfl rfl)
theorem dX6_status_14 : decode cX6_status 14 = .ok (.aload_n 0, 1) := dk_42 (dk_at dksX6_status_0 14 rfl rfl)
theorem dX6_status_15 : decode cX6_status 15 = .ok (.getfield 17, 3) := dk_180 0 17 (dk_at dksX6_status_0 15 rfl rfl)
theorem dX6_status_18 : decode cX6_status 18 = .ok (.iload_n 1, 1) := dk_27 (dk_at dksX6_status_0 18 rfl rfl)
theorem dX6_status_19 : decode cX6_status 19 = .ok (.iaload, 1) := dk_46 (dk_at dksX6_status_0 19 rfl rfl)
theorem dX6_status_20 : decode cX6_status 20 = .ok (.goto 4, 3) := dk_167 0 4 (dk_at dksX6_status_0 20 rfl rfl)
theorem dX6_status_23 : decode cX6_status 23 = .ok (.iconst (-1), 1) := dk_2 (dk_at dksX6_status_0 23 rfl rfl)
theorem dX6_status_24 : decode cX6_status 24 = .ok (.ireturn, 1) := dk_172 (dk_at dksX6_status_1 0 rfl rfl)
abbrev cX6_count : ByteArray := prog_34_method_118_code
def yX6_count : MethodName := ⟨RX6, "count", "(I)I"⟩
def dkwX6_count_1 : List UInt8 := [180, 0, 98, 167, 0, 16, 27, 5, 160, 0, 10, 42, 180, 0, 198, 167, 0, 4, 2, 172]
abbrev dktX6_count_1 : List UInt8 := dkwX6_count_1 ++ []
def dkwX6_count_0 : List UInt8 := [42, 3, 181, 0, 95, 27, 154, 0, 10, 42, 180, 0, 204, 167, 0, 28, 27, 4, 160, 0, 10, 42]
abbrev dktX6_count_0 : List UInt8 := dkwX6_count_0 ++ dktX6_count_1
theorem dksX6_count_0 : cX6_count.data.toList.drop 0 = dktX6_count_0 := by decide +kernel
theorem dksX6_count_1 : cX6_count.data.toList.drop 22 = dktX6_count_1 := dk_seg dksX6_count_0 22 rfl rfl
theorem dX6_count_0 : decode cX6_count 0 = .ok (.aload_n 0, 1) := dk_42 (dk_at dksX6_count_0 0 rfl rfl)
theorem dX6_count_1 : decode cX6_count 1 = .ok (.iconst 0, 1) := dk_3 (dk_at dksX6_count_0 1 rfl rfl)
theorem dX6_count_2 : decode cX6_count 2 = .ok (.putfield 95, 3) := dk_181 0 95 (dk_at dksX6_count_0 2 rfl rfl)
theorem dX6_count_5 : decode cX6_count 5 = .ok (.iload_n 1, 1) := dk_27 (dk_at dksX6_count_0 5 rfl rfl)
theorem dX6_count_6 : decode cX6_count 6 = .ok (.ifCond .ne 10, 3) := dk_154 0 10 (dk_at dksX6_count_0 6 rfl rfl)
theorem dX6_count_9 : decode cX6_count 9 = .ok (.aload_n 0, 1) := dk_42 (dk_at dksX6_count_0 9 rfl rfl)
theorem dX6_count_10 : decode cX6_count 10 = .ok (.getfield 204, 3) := dk_180 0 204 (dk_at dksX6_count_0 10 rfl rfl)
theorem dX6_count_13 : decode cX6_count 13 = .ok (.goto 28, 3) := dk_167 0 28 (dk_at dksX6_count_0 13 rfl rfl)
theorem dX6_count_16 : decode cX6_count 16 = .ok (.iload_n 1, 1) := dk_27 (dk_at dksX6_count_0 16 rfl rfl)
theorem dX6_count_17 : decode cX6_count 17 = .ok (.iconst 1, 1) := dk_4 (dk_at dksX6_count_0 17 rfl rfl)
theorem dX6_count_18 : decode cX6_count 18 = .ok (.if_icmp .ne 10, 3) := dk_160 0 10 (dk_at dksX6_count_0 18 rfl rfl)
theorem dX6_count_21 : decode cX6_count 21 = .ok (.aload_n 0, 1) := dk_42 (dk_at dksX6_count_0 21 rfl rfl)
theorem dX6_count_22 : decode cX6_count 22 = .ok (.getfield 98, 3) := dk_180 0 98 (dk_at dksX6_count_1 0 rfl rfl)
theorem dX6_count_25 : decode cX6_count 25 = .ok (.goto 16, 3) := dk_167 0 16 (dk_at dksX6_count_1 3 rfl rfl)
theorem dX6_count_28 : decode cX6_count 28 = .ok (.iload_n 1, 1) := dk_27 (dk_at dksX6_count_1 6 rfl rfl)
theorem dX6_count_29 : decode cX6_count 29 = .ok (.iconst 2, 1) := dk_5 (dk_at dksX6_count_1 7 rfl rfl)
theorem dX6_count_30 : decode cX6_count 30 = .ok (.if_icmp .ne 10, 3) := dk_160 0 10 (dk_at dksX6_count_1 8 rfl rfl)
theorem dX6_count_33 : decode cX6_count 33 = .ok (.aload_n 0, 1) := dk_42 (dk_at dksX6_count_1 11 rfl rfl)
theorem dX6_count_34 : decode cX6_count 34 = .ok (.getfield 198, 3) := dk_180 0 198 (dk_at dksX6_count_1 12 rfl rfl)
theorem dX6_count_37 : decode cX6_count 37 = .ok (.goto 4, 3) := dk_167 0 4 (dk_at dksX6_count_1 15 rfl rfl)
theorem dX6_count_40 : decode cX6_count 40 = .ok (.iconst (-1), 1) := dk_2 (dk_at dksX6_count_1 18 rfl rfl)
theorem dX6_count_41 : decode cX6_count 41 = .ok (.ireturn, 1) := dk_172 (dk_at dksX6_count_1 19 rfl rfl)
theorem q124 : (Jvm.Cond.initialized "VowelChoirModel") ∈ lw_all := lw_g (lw_at lw_m1 26 rfl) rfl
theorem q1231 : (Jvm.Cond.selects "VowelChoirModel" ({ cls := "java/lang/Object", name := "getClass", desc := "()Ljava/lang/Class;" } : Jvm.MethodName) ({ cls := "java/lang/Object", name := "getClass", desc := "()Ljava/lang/Class;" } : Jvm.MethodName)) ∈ lw_all := lw_g (lw_at lw_m5 173 rfl) rfl
theorem q2006 : (Jvm.Cond.instantiable "VowelChoirModel" (46 : Nat)) ∈ lw_all := lw_g (lw_at lw_m8 228 rfl) rfl
theorem q2008 : (Jvm.Cond.instanceMethod ({ cls := "VowelChoirModel", name := "<init>", desc := "()V" } : Jvm.MethodName)) ∈ lw_all := lw_g (lw_at lw_m8 230 rfl) rfl
theorem q2009 : (Jvm.Cond.code ({ cls := "VowelChoirModel", name := "<init>", desc := "()V" } : Jvm.MethodName) prog_34_method_1_code (1 : Nat) (Option.none : Option Jvm.ClassFile.FieldType)) ∈ lw_all := lw_g (lw_at lw_m8 231 rfl) rfl
theorem q2010 : (Jvm.Cond.methodLink "VowelChoirModel" (1 : Nat) ({ cls := "java/lang/Object", name := "<init>", desc := "()V" } : Jvm.MethodName)) ∈ lw_all := lw_g (lw_at lw_m8 232 rfl) rfl
theorem q2011 : (Jvm.Cond.classLink "VowelChoirModel" (26 : Nat) "[[I") ∈ lw_all := lw_g (lw_at lw_m8 233 rfl) rfl
theorem q2013 : (Jvm.Cond.methodLink "VowelChoirModel" (89 : Nat) ({ cls := "VowelChoirModel", name := "tellsNothing", desc := "()V" } : Jvm.MethodName)) ∈ lw_all := lw_g (lw_at lw_m8 235 rfl) rfl
theorem q2014 : (Jvm.Cond.privateMethod ({ cls := "VowelChoirModel", name := "tellsNothing", desc := "()V" } : Jvm.MethodName)) ∈ lw_tbl := lw_at lw_m8 236 rfl
theorem q2015 : (Jvm.Cond.instanceMethod ({ cls := "VowelChoirModel", name := "tellsNothing", desc := "()V" } : Jvm.MethodName)) ∈ lw_all := lw_g (lw_at lw_m8 237 rfl) rfl
theorem q2016 : (Jvm.Cond.code ({ cls := "VowelChoirModel", name := "tellsNothing", desc := "()V" } : Jvm.MethodName) prog_34_method_2_code (2 : Nat) (Option.none : Option Jvm.ClassFile.FieldType)) ∈ lw_all := lw_g (lw_at lw_m8 238 rfl) rfl
theorem q2017 : (Jvm.Cond.methodLink "VowelChoirModel" (92 : Nat) ({ cls := "VowelChoirModel", name := "beginsAnew", desc := "()V" } : Jvm.MethodName)) ∈ lw_all := lw_g (lw_at lw_m8 239 rfl) rfl
theorem q2018 : (Jvm.Cond.privateMethod ({ cls := "VowelChoirModel", name := "beginsAnew", desc := "()V" } : Jvm.MethodName)) ∈ lw_tbl := lw_at lw_m9 0 rfl
theorem q2019 : (Jvm.Cond.instanceMethod ({ cls := "VowelChoirModel", name := "beginsAnew", desc := "()V" } : Jvm.MethodName)) ∈ lw_all := lw_g (lw_at lw_m9 1 rfl) rfl
theorem q2020 : (Jvm.Cond.code ({ cls := "VowelChoirModel", name := "beginsAnew", desc := "()V" } : Jvm.MethodName) prog_34_method_31_code (2 : Nat) (Option.none : Option Jvm.ClassFile.FieldType)) ∈ lw_all := lw_g (lw_at lw_m9 2 rfl) rfl
theorem q2021 : (Jvm.Cond.methodLink "VowelChoirModel" (184 : Nat) ({ cls := "VowelChoirModel", name := "lays", desc := "([[I[[II)V" } : Jvm.MethodName)) ∈ lw_all := lw_g (lw_at lw_m9 3 rfl) rfl
theorem q2022 : (Jvm.Cond.static ({ cls := "VowelChoirModel", name := "lays", desc := "([[I[[II)V" } : Jvm.MethodName)) ∈ lw_all := lw_g (lw_at lw_m9 4 rfl) rfl
theorem q2023 : (Jvm.Cond.code ({ cls := "VowelChoirModel", name := "lays", desc := "([[I[[II)V" } : Jvm.MethodName) prog_34_method_29_code (5 : Nat) (Option.none : Option Jvm.ClassFile.FieldType)) ∈ lw_all := lw_g (lw_at lw_m9 5 rfl) rfl
theorem q2024 : (Jvm.Cond.methodLink "VowelChoirModel" (188 : Nat) ({ cls := "VowelChoirModel", name := "breathes", desc := "([I)V" } : Jvm.MethodName)) ∈ lw_all := lw_g (lw_at lw_m9 6 rfl) rfl
theorem q2025 : (Jvm.Cond.privateMethod ({ cls := "VowelChoirModel", name := "breathes", desc := "([I)V" } : Jvm.MethodName)) ∈ lw_tbl := lw_at lw_m9 7 rfl
theorem q2026 : (Jvm.Cond.instanceMethod ({ cls := "VowelChoirModel", name := "breathes", desc := "([I)V" } : Jvm.MethodName)) ∈ lw_all := lw_g (lw_at lw_m9 8 rfl) rfl
theorem q2027 : (Jvm.Cond.code ({ cls := "VowelChoirModel", name := "breathes", desc := "([I)V" } : Jvm.MethodName) prog_34_method_32_code (3 : Nat) (Option.none : Option Jvm.ClassFile.FieldType)) ∈ lw_all := lw_g (lw_at lw_m9 9 rfl) rfl
theorem q2028 : (Jvm.Cond.fieldLink "VowelChoirModel" (95 : Nat) "VowelChoirModel" "thrown" "I") ∈ lw_all := lw_g (lw_at lw_m9 10 rfl) rfl
theorem q2029 : (Jvm.Cond.fieldLink "VowelChoirModel" (98 : Nat) "VowelChoirModel" "tape" "I") ∈ lw_all := lw_g (lw_at lw_m9 11 rfl) rfl
theorem q2030 : (Jvm.Cond.fieldLink "VowelChoirModel" (101 : Nat) "VowelChoirModel" "size" "I") ∈ lw_all := lw_g (lw_at lw_m9 12 rfl) rfl
theorem q2031 : (Jvm.Cond.fieldLink "VowelChoirModel" (9 : Nat) "VowelChoirModel" "place" "I") ∈ lw_all := lw_g (lw_at lw_m9 13 rfl) rfl
theorem q2032 : (Jvm.Cond.fieldLink "VowelChoirModel" (104 : Nat) "VowelChoirModel" "at" "I") ∈ lw_all := lw_g (lw_at lw_m9 14 rfl) rfl
theorem q2033 : (Jvm.Cond.fieldLink "VowelChoirModel" (111 : Nat) "VowelChoirModel" "fault" "I") ∈ lw_all := lw_g (lw_at lw_m9 15 rfl) rfl
theorem q2034 : (Jvm.Cond.fieldLink "VowelChoirModel" (114 : Nat) "VowelChoirModel" "faultAt" "I") ∈ lw_all := lw_g (lw_at lw_m9 16 rfl) rfl
theorem q2035 : (Jvm.Cond.fieldLink "VowelChoirModel" (151 : Nat) "VowelChoirModel" "clauses" "I") ∈ lw_all := lw_g (lw_at lw_m9 17 rfl) rfl
theorem q2036 : (Jvm.Cond.fieldLink "VowelChoirModel" (154 : Nat) "VowelChoirModel" "open" "I") ∈ lw_all := lw_g (lw_at lw_m9 18 rfl) rfl
theorem q2037 : (Jvm.Cond.fieldLink "VowelChoirModel" (13 : Nat) "VowelChoirModel" "fed" "[I") ∈ lw_all := lw_g (lw_at lw_m9 19 rfl) rfl
theorem q2038 : (Jvm.Cond.fieldLink "VowelChoirModel" (17 : Nat) "VowelChoirModel" "refused" "[I") ∈ lw_all := lw_g (lw_at lw_m9 20 rfl) rfl
theorem q2039 : (Jvm.Cond.fieldLink "VowelChoirModel" (20 : Nat) "VowelChoirModel" "readTold" "[I") ∈ lw_all := lw_g (lw_at lw_m9 21 rfl) rfl
theorem q2040 : (Jvm.Cond.fieldLink "VowelChoirModel" (23 : Nat) "VowelChoirModel" "told" "[I") ∈ lw_all := lw_g (lw_at lw_m9 22 rfl) rfl
theorem q2041 : (Jvm.Cond.fieldLink "VowelChoirModel" (28 : Nat) "VowelChoirModel" "readSinger" "[[I") ∈ lw_all := lw_g (lw_at lw_m9 23 rfl) rfl
theorem q2042 : (Jvm.Cond.fieldLink "VowelChoirModel" (31 : Nat) "VowelChoirModel" "singer" "[[I") ∈ lw_all := lw_g (lw_at lw_m9 24 rfl) rfl
theorem q2043 : (Jvm.Cond.fieldLink "VowelChoirModel" (34 : Nat) "VowelChoirModel" "readNote" "[[I") ∈ lw_all := lw_g (lw_at lw_m9 25 rfl) rfl
theorem q2044 : (Jvm.Cond.fieldLink "VowelChoirModel" (37 : Nat) "VowelChoirModel" "note" "[[I") ∈ lw_all := lw_g (lw_at lw_m9 26 rfl) rfl
theorem q2045 : (Jvm.Cond.fieldLink "VowelChoirModel" (40 : Nat) "VowelChoirModel" "readLike" "[[I") ∈ lw_all := lw_g (lw_at lw_m9 27 rfl) rfl
theorem q2046 : (Jvm.Cond.fieldLink "VowelChoirModel" (43 : Nat) "VowelChoirModel" "like" "[[I") ∈ lw_all := lw_g (lw_at lw_m9 28 rfl) rfl
theorem q2047 : (Jvm.Cond.fieldLink "VowelChoirModel" (192 : Nat) "VowelChoirModel" "lawMany" "I") ∈ lw_all := lw_g (lw_at lw_m9 29 rfl) rfl
theorem q2048 : (Jvm.Cond.fieldLink "VowelChoirModel" (207 : Nat) "VowelChoirModel" "readLawMany" "I") ∈ lw_all := lw_g (lw_at lw_m9 30 rfl) rfl
theorem q2049 : (Jvm.Cond.fieldLink "VowelChoirModel" (46 : Nat) "VowelChoirModel" "law" "[[I") ∈ lw_all := lw_g (lw_at lw_m9 31 rfl) rfl
theorem q2050 : (Jvm.Cond.fieldLink "VowelChoirModel" (49 : Nat) "VowelChoirModel" "readLaw" "[[I") ∈ lw_all := lw_g (lw_at lw_m9 32 rfl) rfl
theorem q2051 : (Jvm.Cond.fieldLink "VowelChoirModel" (52 : Nat) "VowelChoirModel" "line" "[[I") ∈ lw_all := lw_g (lw_at lw_m9 33 rfl) rfl
theorem q2052 : (Jvm.Cond.fieldLink "VowelChoirModel" (55 : Nat) "VowelChoirModel" "readLine" "[[I") ∈ lw_all := lw_g (lw_at lw_m9 34 rfl) rfl
theorem q2053 : (Jvm.Cond.fieldLink "VowelChoirModel" (58 : Nat) "VowelChoirModel" "stack" "[I") ∈ lw_all := lw_g (lw_at lw_m9 35 rfl) rfl
theorem q2054 : (Jvm.Cond.fieldLink "VowelChoirModel" (61 : Nat) "VowelChoirModel" "known" "[I") ∈ lw_all := lw_g (lw_at lw_m9 36 rfl) rfl
theorem q2055 : (Jvm.Cond.fieldLink "VowelChoirModel" (64 : Nat) "VowelChoirModel" "step" "[[I") ∈ lw_all := lw_g (lw_at lw_m9 37 rfl) rfl
theorem q2056 : (Jvm.Cond.fieldLink "VowelChoirModel" (248 : Nat) "VowelChoirModel" "steps" "I") ∈ lw_all := lw_g (lw_at lw_m9 38 rfl) rfl
theorem q2057 : (Jvm.Cond.fieldLink "VowelChoirModel" (67 : Nat) "VowelChoirModel" "now" "[I") ∈ lw_all := lw_g (lw_at lw_m9 39 rfl) rfl
theorem q2058 : (Jvm.Cond.fieldLink "VowelChoirModel" (70 : Nat) "VowelChoirModel" "trial" "[I") ∈ lw_all := lw_g (lw_at lw_m9 40 rfl) rfl
theorem q2059 : (Jvm.Cond.fieldLink "VowelChoirModel" (73 : Nat) "VowelChoirModel" "before" "[[I") ∈ lw_all := lw_g (lw_at lw_m9 41 rfl) rfl
theorem q2060 : (Jvm.Cond.fieldLink "VowelChoirModel" (76 : Nat) "VowelChoirModel" "kept" "[[I") ∈ lw_all := lw_g (lw_at lw_m9 42 rfl) rfl
theorem q2061 : (Jvm.Cond.fieldLink "VowelChoirModel" (195 : Nat) "VowelChoirModel" "lines" "I") ∈ lw_all := lw_g (lw_at lw_m9 43 rfl) rfl
theorem q2062 : (Jvm.Cond.fieldLink "VowelChoirModel" (198 : Nat) "VowelChoirModel" "works" "I") ∈ lw_all := lw_g (lw_at lw_m9 44 rfl) rfl
theorem q2063 : (Jvm.Cond.fieldLink "VowelChoirModel" (201 : Nat) "VowelChoirModel" "refusedSteps" "I") ∈ lw_all := lw_g (lw_at lw_m9 45 rfl) rfl
theorem q2064 : (Jvm.Cond.fieldLink "VowelChoirModel" (204 : Nat) "VowelChoirModel" "images" "I") ∈ lw_all := lw_g (lw_at lw_m9 46 rfl) rfl
theorem q2065 : (Jvm.Cond.fieldLink "VowelChoirModel" (388 : Nat) "VowelChoirModel" "spot" "I") ∈ lw_all := lw_g (lw_at lw_m9 47 rfl) rfl
theorem q2066 : (Jvm.Cond.fieldLink "VowelChoirModel" (273 : Nat) "VowelChoirModel" "heard" "I") ∈ lw_all := lw_g (lw_at lw_m9 48 rfl) rfl
theorem q2067 : (Jvm.Cond.fieldLink "VowelChoirModel" (297 : Nat) "VowelChoirModel" "begun" "I") ∈ lw_all := lw_g (lw_at lw_m9 49 rfl) rfl
theorem q2068 : (Jvm.Cond.fieldLink "VowelChoirModel" (307 : Nat) "VowelChoirModel" "doneSteps" "I") ∈ lw_all := lw_g (lw_at lw_m9 50 rfl) rfl
theorem q2069 : (Jvm.Cond.fieldLink "VowelChoirModel" (79 : Nat) "VowelChoirModel" "sits" "[I") ∈ lw_all := lw_g (lw_at lw_m9 51 rfl) rfl
theorem q2070 : (Jvm.Cond.fieldLink "VowelChoirModel" (82 : Nat) "VowelChoirModel" "bestSits" "[I") ∈ lw_all := lw_g (lw_at lw_m9 52 rfl) rfl
theorem q2071 : (Jvm.Cond.fieldLink "VowelChoirModel" (345 : Nat) "VowelChoirModel" "mostHanded" "I") ∈ lw_all := lw_g (lw_at lw_m9 53 rfl) rfl
theorem q2072 : (Jvm.Cond.fieldLink "VowelChoirModel" (85 : Nat) "VowelChoirModel" "exact" "[J") ∈ lw_all := lw_g (lw_at lw_m9 54 rfl) rfl
theorem q2073 : (Jvm.Cond.fieldLink "VowelChoirModel" (375 : Nat) "VowelChoirModel" "lots" "I") ∈ lw_all := lw_g (lw_at lw_m9 55 rfl) rfl
theorem q2074 : (Jvm.Cond.lays "VowelChoirModel" "VowelChoirModel" "thrown" "I") ∈ lw_all := lw_g (lw_at lw_m9 56 rfl) rfl
theorem q2075 : (Jvm.Cond.soleField "VowelChoirModel" "thrown") ∈ lw_all := lw_g (lw_at lw_m9 57 rfl) rfl
theorem q2076 : (Jvm.Cond.lays "VowelChoirModel" "VowelChoirModel" "tape" "I") ∈ lw_all := lw_g (lw_at lw_m9 58 rfl) rfl
theorem q2077 : (Jvm.Cond.soleField "VowelChoirModel" "tape") ∈ lw_all := lw_g (lw_at lw_m9 59 rfl) rfl
theorem q2078 : (Jvm.Cond.lays "VowelChoirModel" "VowelChoirModel" "size" "I") ∈ lw_all := lw_g (lw_at lw_m9 60 rfl) rfl
theorem q2079 : (Jvm.Cond.soleField "VowelChoirModel" "size") ∈ lw_all := lw_g (lw_at lw_m9 61 rfl) rfl
theorem q2080 : (Jvm.Cond.lays "VowelChoirModel" "VowelChoirModel" "place" "I") ∈ lw_all := lw_g (lw_at lw_m9 62 rfl) rfl
theorem q2081 : (Jvm.Cond.soleField "VowelChoirModel" "place") ∈ lw_all := lw_g (lw_at lw_m9 63 rfl) rfl
theorem q2082 : (Jvm.Cond.lays "VowelChoirModel" "VowelChoirModel" "at" "I") ∈ lw_all := lw_g (lw_at lw_m9 64 rfl) rfl
theorem q2083 : (Jvm.Cond.soleField "VowelChoirModel" "at") ∈ lw_all := lw_g (lw_at lw_m9 65 rfl) rfl
theorem q2084 : (Jvm.Cond.lays "VowelChoirModel" "VowelChoirModel" "fault" "I") ∈ lw_all := lw_g (lw_at lw_m9 66 rfl) rfl
theorem q2085 : (Jvm.Cond.soleField "VowelChoirModel" "fault") ∈ lw_all := lw_g (lw_at lw_m9 67 rfl) rfl
theorem q2086 : (Jvm.Cond.lays "VowelChoirModel" "VowelChoirModel" "faultAt" "I") ∈ lw_all := lw_g (lw_at lw_m9 68 rfl) rfl
theorem q2087 : (Jvm.Cond.soleField "VowelChoirModel" "faultAt") ∈ lw_all := lw_g (lw_at lw_m9 69 rfl) rfl
theorem q2088 : (Jvm.Cond.lays "VowelChoirModel" "VowelChoirModel" "clauses" "I") ∈ lw_all := lw_g (lw_at lw_m9 70 rfl) rfl
theorem q2089 : (Jvm.Cond.soleField "VowelChoirModel" "clauses") ∈ lw_all := lw_g (lw_at lw_m9 71 rfl) rfl
theorem q2090 : (Jvm.Cond.lays "VowelChoirModel" "VowelChoirModel" "open" "I") ∈ lw_all := lw_g (lw_at lw_m9 72 rfl) rfl
theorem q2091 : (Jvm.Cond.soleField "VowelChoirModel" "open") ∈ lw_all := lw_g (lw_at lw_m9 73 rfl) rfl
theorem q2092 : (Jvm.Cond.laysFinal "VowelChoirModel" "VowelChoirModel" "fed" "[I") ∈ lw_all := lw_g (lw_at lw_m9 74 rfl) rfl
theorem q2093 : (Jvm.Cond.soleField "VowelChoirModel" "fed") ∈ lw_all := lw_g (lw_at lw_m9 75 rfl) rfl
theorem q2094 : (Jvm.Cond.laysFinal "VowelChoirModel" "VowelChoirModel" "refused" "[I") ∈ lw_all := lw_g (lw_at lw_m9 76 rfl) rfl
theorem q2095 : (Jvm.Cond.soleField "VowelChoirModel" "refused") ∈ lw_all := lw_g (lw_at lw_m9 77 rfl) rfl
theorem q2096 : (Jvm.Cond.laysFinal "VowelChoirModel" "VowelChoirModel" "readTold" "[I") ∈ lw_all := lw_g (lw_at lw_m9 78 rfl) rfl
theorem q2097 : (Jvm.Cond.soleField "VowelChoirModel" "readTold") ∈ lw_all := lw_g (lw_at lw_m9 79 rfl) rfl
theorem q2098 : (Jvm.Cond.laysFinal "VowelChoirModel" "VowelChoirModel" "told" "[I") ∈ lw_all := lw_g (lw_at lw_m9 80 rfl) rfl
theorem q2099 : (Jvm.Cond.soleField "VowelChoirModel" "told") ∈ lw_all := lw_g (lw_at lw_m9 81 rfl) rfl
theorem q2100 : (Jvm.Cond.laysFinal "VowelChoirModel" "VowelChoirModel" "readSinger" "[[I") ∈ lw_all := lw_g (lw_at lw_m9 82 rfl) rfl
theorem q2101 : (Jvm.Cond.soleField "VowelChoirModel" "readSinger") ∈ lw_all := lw_g (lw_at lw_m9 83 rfl) rfl
theorem q2102 : (Jvm.Cond.laysFinal "VowelChoirModel" "VowelChoirModel" "singer" "[[I") ∈ lw_all := lw_g (lw_at lw_m9 84 rfl) rfl
theorem q2103 : (Jvm.Cond.soleField "VowelChoirModel" "singer") ∈ lw_all := lw_g (lw_at lw_m9 85 rfl) rfl
theorem q2104 : (Jvm.Cond.laysFinal "VowelChoirModel" "VowelChoirModel" "readNote" "[[I") ∈ lw_all := lw_g (lw_at lw_m9 86 rfl) rfl
theorem q2105 : (Jvm.Cond.soleField "VowelChoirModel" "readNote") ∈ lw_all := lw_g (lw_at lw_m9 87 rfl) rfl
theorem q2106 : (Jvm.Cond.laysFinal "VowelChoirModel" "VowelChoirModel" "note" "[[I") ∈ lw_all := lw_g (lw_at lw_m9 88 rfl) rfl
theorem q2107 : (Jvm.Cond.soleField "VowelChoirModel" "note") ∈ lw_all := lw_g (lw_at lw_m9 89 rfl) rfl
theorem q2108 : (Jvm.Cond.laysFinal "VowelChoirModel" "VowelChoirModel" "readLike" "[[I") ∈ lw_all := lw_g (lw_at lw_m9 90 rfl) rfl
theorem q2109 : (Jvm.Cond.soleField "VowelChoirModel" "readLike") ∈ lw_all := lw_g (lw_at lw_m9 91 rfl) rfl
theorem q2110 : (Jvm.Cond.laysFinal "VowelChoirModel" "VowelChoirModel" "like" "[[I") ∈ lw_all := lw_g (lw_at lw_m9 92 rfl) rfl
theorem q2111 : (Jvm.Cond.soleField "VowelChoirModel" "like") ∈ lw_all := lw_g (lw_at lw_m9 93 rfl) rfl
theorem q2112 : (Jvm.Cond.lays "VowelChoirModel" "VowelChoirModel" "lawMany" "I") ∈ lw_all := lw_g (lw_at lw_m9 94 rfl) rfl
theorem q2113 : (Jvm.Cond.soleField "VowelChoirModel" "lawMany") ∈ lw_all := lw_g (lw_at lw_m9 95 rfl) rfl
theorem q2114 : (Jvm.Cond.lays "VowelChoirModel" "VowelChoirModel" "readLawMany" "I") ∈ lw_all := lw_g (lw_at lw_m9 96 rfl) rfl
theorem q2115 : (Jvm.Cond.soleField "VowelChoirModel" "readLawMany") ∈ lw_all := lw_g (lw_at lw_m9 97 rfl) rfl
theorem q2116 : (Jvm.Cond.laysFinal "VowelChoirModel" "VowelChoirModel" "law" "[[I") ∈ lw_all := lw_g (lw_at lw_m9 98 rfl) rfl
theorem q2117 : (Jvm.Cond.soleField "VowelChoirModel" "law") ∈ lw_all := lw_g (lw_at lw_m9 99 rfl) rfl
theorem q2118 : (Jvm.Cond.laysFinal "VowelChoirModel" "VowelChoirModel" "readLaw" "[[I") ∈ lw_all := lw_g (lw_at lw_m9 100 rfl) rfl
theorem q2119 : (Jvm.Cond.soleField "VowelChoirModel" "readLaw") ∈ lw_all := lw_g (lw_at lw_m9 101 rfl) rfl
theorem q2120 : (Jvm.Cond.laysFinal "VowelChoirModel" "VowelChoirModel" "line" "[[I") ∈ lw_all := lw_g (lw_at lw_m9 102 rfl) rfl
theorem q2121 : (Jvm.Cond.soleField "VowelChoirModel" "line") ∈ lw_all := lw_g (lw_at lw_m9 103 rfl) rfl
theorem q2122 : (Jvm.Cond.laysFinal "VowelChoirModel" "VowelChoirModel" "readLine" "[[I") ∈ lw_all := lw_g (lw_at lw_m9 104 rfl) rfl
theorem q2123 : (Jvm.Cond.soleField "VowelChoirModel" "readLine") ∈ lw_all := lw_g (lw_at lw_m9 105 rfl) rfl
theorem q2124 : (Jvm.Cond.laysFinal "VowelChoirModel" "VowelChoirModel" "stack" "[I") ∈ lw_all := lw_g (lw_at lw_m9 106 rfl) rfl
theorem q2125 : (Jvm.Cond.soleField "VowelChoirModel" "stack") ∈ lw_all := lw_g (lw_at lw_m9 107 rfl) rfl
theorem q2126 : (Jvm.Cond.laysFinal "VowelChoirModel" "VowelChoirModel" "known" "[I") ∈ lw_all := lw_g (lw_at lw_m9 108 rfl) rfl
theorem q2127 : (Jvm.Cond.soleField "VowelChoirModel" "known") ∈ lw_all := lw_g (lw_at lw_m9 109 rfl) rfl
theorem q2128 : (Jvm.Cond.laysFinal "VowelChoirModel" "VowelChoirModel" "step" "[[I") ∈ lw_all := lw_g (lw_at lw_m9 110 rfl) rfl
theorem q2129 : (Jvm.Cond.soleField "VowelChoirModel" "step") ∈ lw_all := lw_g (lw_at lw_m9 111 rfl) rfl
theorem q2130 : (Jvm.Cond.lays "VowelChoirModel" "VowelChoirModel" "steps" "I") ∈ lw_all := lw_g (lw_at lw_m9 112 rfl) rfl
theorem q2131 : (Jvm.Cond.soleField "VowelChoirModel" "steps") ∈ lw_all := lw_g (lw_at lw_m9 113 rfl) rfl
theorem q2132 : (Jvm.Cond.laysFinal "VowelChoirModel" "VowelChoirModel" "now" "[I") ∈ lw_all := lw_g (lw_at lw_m9 114 rfl) rfl
theorem q2133 : (Jvm.Cond.soleField "VowelChoirModel" "now") ∈ lw_all := lw_g (lw_at lw_m9 115 rfl) rfl
theorem q2134 : (Jvm.Cond.laysFinal "VowelChoirModel" "VowelChoirModel" "trial" "[I") ∈ lw_all := lw_g (lw_at lw_m9 116 rfl) rfl
theorem q2135 : (Jvm.Cond.soleField "VowelChoirModel" "trial") ∈ lw_all := lw_g (lw_at lw_m9 117 rfl) rfl
theorem q2136 : (Jvm.Cond.laysFinal "VowelChoirModel" "VowelChoirModel" "before" "[[I") ∈ lw_all := lw_g (lw_at lw_m9 118 rfl) rfl
theorem q2137 : (Jvm.Cond.soleField "VowelChoirModel" "before") ∈ lw_all := lw_g (lw_at lw_m9 119 rfl) rfl
theorem q2138 : (Jvm.Cond.laysFinal "VowelChoirModel" "VowelChoirModel" "kept" "[[I") ∈ lw_all := lw_g (lw_at lw_m9 120 rfl) rfl
theorem q2139 : (Jvm.Cond.soleField "VowelChoirModel" "kept") ∈ lw_all := lw_g (lw_at lw_m9 121 rfl) rfl
theorem q2140 : (Jvm.Cond.lays "VowelChoirModel" "VowelChoirModel" "lines" "I") ∈ lw_all := lw_g (lw_at lw_m9 122 rfl) rfl
theorem q2141 : (Jvm.Cond.soleField "VowelChoirModel" "lines") ∈ lw_all := lw_g (lw_at lw_m9 123 rfl) rfl
theorem q2142 : (Jvm.Cond.lays "VowelChoirModel" "VowelChoirModel" "works" "I") ∈ lw_all := lw_g (lw_at lw_m9 124 rfl) rfl
theorem q2143 : (Jvm.Cond.soleField "VowelChoirModel" "works") ∈ lw_all := lw_g (lw_at lw_m9 125 rfl) rfl
theorem q2144 : (Jvm.Cond.lays "VowelChoirModel" "VowelChoirModel" "refusedSteps" "I") ∈ lw_all := lw_g (lw_at lw_m9 126 rfl) rfl
theorem q2145 : (Jvm.Cond.soleField "VowelChoirModel" "refusedSteps") ∈ lw_all := lw_g (lw_at lw_m9 127 rfl) rfl
theorem q2146 : (Jvm.Cond.lays "VowelChoirModel" "VowelChoirModel" "images" "I") ∈ lw_all := lw_g (lw_at lw_m9 128 rfl) rfl
theorem q2147 : (Jvm.Cond.soleField "VowelChoirModel" "images") ∈ lw_all := lw_g (lw_at lw_m9 129 rfl) rfl
theorem q2148 : (Jvm.Cond.lays "VowelChoirModel" "VowelChoirModel" "spot" "I") ∈ lw_all := lw_g (lw_at lw_m9 130 rfl) rfl
theorem q2149 : (Jvm.Cond.soleField "VowelChoirModel" "spot") ∈ lw_all := lw_g (lw_at lw_m9 131 rfl) rfl
theorem q2150 : (Jvm.Cond.lays "VowelChoirModel" "VowelChoirModel" "heard" "I") ∈ lw_all := lw_g (lw_at lw_m9 132 rfl) rfl
theorem q2151 : (Jvm.Cond.soleField "VowelChoirModel" "heard") ∈ lw_all := lw_g (lw_at lw_m9 133 rfl) rfl
theorem q2152 : (Jvm.Cond.lays "VowelChoirModel" "VowelChoirModel" "begun" "I") ∈ lw_all := lw_g (lw_at lw_m9 134 rfl) rfl
theorem q2153 : (Jvm.Cond.soleField "VowelChoirModel" "begun") ∈ lw_all := lw_g (lw_at lw_m9 135 rfl) rfl
theorem q2154 : (Jvm.Cond.lays "VowelChoirModel" "VowelChoirModel" "doneSteps" "I") ∈ lw_all := lw_g (lw_at lw_m9 136 rfl) rfl
theorem q2155 : (Jvm.Cond.soleField "VowelChoirModel" "doneSteps") ∈ lw_all := lw_g (lw_at lw_m9 137 rfl) rfl
theorem q2156 : (Jvm.Cond.laysFinal "VowelChoirModel" "VowelChoirModel" "sits" "[I") ∈ lw_all := lw_g (lw_at lw_m9 138 rfl) rfl
theorem q2157 : (Jvm.Cond.soleField "VowelChoirModel" "sits") ∈ lw_all := lw_g (lw_at lw_m9 139 rfl) rfl
theorem q2158 : (Jvm.Cond.laysFinal "VowelChoirModel" "VowelChoirModel" "bestSits" "[I") ∈ lw_all := lw_g (lw_at lw_m9 140 rfl) rfl
theorem q2159 : (Jvm.Cond.soleField "VowelChoirModel" "bestSits") ∈ lw_all := lw_g (lw_at lw_m9 141 rfl) rfl
theorem q2160 : (Jvm.Cond.lays "VowelChoirModel" "VowelChoirModel" "mostHanded" "I") ∈ lw_all := lw_g (lw_at lw_m9 142 rfl) rfl
theorem q2161 : (Jvm.Cond.soleField "VowelChoirModel" "mostHanded") ∈ lw_all := lw_g (lw_at lw_m9 143 rfl) rfl
theorem q2162 : (Jvm.Cond.laysFinal "VowelChoirModel" "VowelChoirModel" "exact" "[J") ∈ lw_all := lw_g (lw_at lw_m9 144 rfl) rfl
theorem q2163 : (Jvm.Cond.soleField "VowelChoirModel" "exact") ∈ lw_all := lw_g (lw_at lw_m9 145 rfl) rfl
theorem q2164 : (Jvm.Cond.lays "VowelChoirModel" "VowelChoirModel" "lots" "I") ∈ lw_all := lw_g (lw_at lw_m9 146 rfl) rfl
theorem q2165 : (Jvm.Cond.soleField "VowelChoirModel" "lots") ∈ lw_all := lw_g (lw_at lw_m9 147 rfl) rfl
theorem q2166 : (Jvm.Cond.superclass "VowelChoirModel" "java/lang/Object") ∈ lw_all := lw_g (lw_at lw_m9 148 rfl) rfl
theorem q2169 : (Jvm.Cond.instanceMethod ({ cls := "VowelChoirModel", name := "thrown", desc := "()I" } : Jvm.MethodName)) ∈ lw_all := lw_g (lw_at lw_m9 151 rfl) rfl
theorem q2170 : (Jvm.Cond.selects "VowelChoirModel" ({ cls := "VowelChoirModel", name := "thrown", desc := "()I" } : Jvm.MethodName) ({ cls := "VowelChoirModel", name := "thrown", desc := "()I" } : Jvm.MethodName)) ∈ lw_all := lw_g (lw_at lw_m9 152 rfl) rfl
theorem q2171 : (Jvm.Cond.code ({ cls := "VowelChoirModel", name := "thrown", desc := "()I" } : Jvm.MethodName) prog_34_method_3_code (1 : Nat) (Option.some Jvm.ClassFile.FieldType.int)) ∈ lw_all := lw_g (lw_at lw_m9 153 rfl) rfl
theorem q2173 : (Jvm.Cond.instanceMethod ({ cls := "VowelChoirModel", name := "feed", desc := "(IIIII)I" } : Jvm.MethodName)) ∈ lw_all := lw_g (lw_at lw_m9 155 rfl) rfl
theorem q2174 : (Jvm.Cond.selects "VowelChoirModel" ({ cls := "VowelChoirModel", name := "feed", desc := "(IIIII)I" } : Jvm.MethodName) ({ cls := "VowelChoirModel", name := "feed", desc := "(IIIII)I" } : Jvm.MethodName)) ∈ lw_all := lw_g (lw_at lw_m9 156 rfl) rfl
theorem q2175 : (Jvm.Cond.code ({ cls := "VowelChoirModel", name := "feed", desc := "(IIIII)I" } : Jvm.MethodName) prog_34_method_9_code (8 : Nat) (Option.some Jvm.ClassFile.FieldType.int)) ∈ lw_all := lw_g (lw_at lw_m9 157 rfl) rfl
theorem q2177 : (Jvm.Cond.instanceMethod ({ cls := "VowelChoirModel", name := "choir", desc := "(I)I" } : Jvm.MethodName)) ∈ lw_all := lw_g (lw_at lw_m9 159 rfl) rfl
theorem q2178 : (Jvm.Cond.selects "VowelChoirModel" ({ cls := "VowelChoirModel", name := "choir", desc := "(I)I" } : Jvm.MethodName) ({ cls := "VowelChoirModel", name := "choir", desc := "(I)I" } : Jvm.MethodName)) ∈ lw_all := lw_g (lw_at lw_m9 160 rfl) rfl
theorem q2179 : (Jvm.Cond.code ({ cls := "VowelChoirModel", name := "choir", desc := "(I)I" } : Jvm.MethodName) prog_34_method_28_code (2 : Nat) (Option.some Jvm.ClassFile.FieldType.int)) ∈ lw_all := lw_g (lw_at lw_m9 161 rfl) rfl
theorem q2180 : (Jvm.Cond.methodLink "VowelChoirModel" (129 : Nat) ({ cls := "VowelChoirModel", name := "in", desc := "(III)Z" } : Jvm.MethodName)) ∈ lw_all := lw_g (lw_at lw_m9 162 rfl) rfl
theorem q2181 : (Jvm.Cond.static ({ cls := "VowelChoirModel", name := "in", desc := "(III)Z" } : Jvm.MethodName)) ∈ lw_all := lw_g (lw_at lw_m9 163 rfl) rfl
theorem q2182 : (Jvm.Cond.code ({ cls := "VowelChoirModel", name := "in", desc := "(III)Z" } : Jvm.MethodName) prog_34_method_5_code (3 : Nat) (Option.some Jvm.ClassFile.FieldType.boolean)) ∈ lw_all := lw_g (lw_at lw_m9 164 rfl) rfl
theorem q2183 : (Jvm.Cond.methodLink "VowelChoirModel" (171 : Nat) ({ cls := "VowelChoirModel", name := "bad", desc := "(ZII)Z" } : Jvm.MethodName)) ∈ lw_all := lw_g (lw_at lw_m9 165 rfl) rfl
theorem q2184 : (Jvm.Cond.privateMethod ({ cls := "VowelChoirModel", name := "bad", desc := "(ZII)Z" } : Jvm.MethodName)) ∈ lw_tbl := lw_at lw_m9 166 rfl
theorem q2185 : (Jvm.Cond.instanceMethod ({ cls := "VowelChoirModel", name := "bad", desc := "(ZII)Z" } : Jvm.MethodName)) ∈ lw_all := lw_g (lw_at lw_m9 167 rfl) rfl
theorem q2186 : (Jvm.Cond.code ({ cls := "VowelChoirModel", name := "bad", desc := "(ZII)Z" } : Jvm.MethodName) prog_34_method_4_code (4 : Nat) (Option.some Jvm.ClassFile.FieldType.boolean)) ∈ lw_all := lw_g (lw_at lw_m9 168 rfl) rfl
theorem q2187 : (Jvm.Cond.methodLink "VowelChoirModel" (175 : Nat) ({ cls := "VowelChoirModel", name := "starts", desc := "(I)V" } : Jvm.MethodName)) ∈ lw_all := lw_g (lw_at lw_m9 169 rfl) rfl
theorem q2188 : (Jvm.Cond.privateMethod ({ cls := "VowelChoirModel", name := "starts", desc := "(I)V" } : Jvm.MethodName)) ∈ lw_tbl := lw_at lw_m9 170 rfl
theorem q2189 : (Jvm.Cond.instanceMethod ({ cls := "VowelChoirModel", name := "starts", desc := "(I)V" } : Jvm.MethodName)) ∈ lw_all := lw_g (lw_at lw_m9 171 rfl) rfl
theorem q2190 : (Jvm.Cond.code ({ cls := "VowelChoirModel", name := "starts", desc := "(I)V" } : Jvm.MethodName) prog_34_method_23_code (2 : Nat) (Option.none : Option Jvm.ClassFile.FieldType)) ∈ lw_all := lw_g (lw_at lw_m9 172 rfl) rfl
theorem q2191 : (Jvm.Cond.methodLink "VowelChoirModel" (117 : Nat) ({ cls := "VowelChoirModel", name := "blanks", desc := "()V" } : Jvm.MethodName)) ∈ lw_all := lw_g (lw_at lw_m9 173 rfl) rfl
theorem q2192 : (Jvm.Cond.privateMethod ({ cls := "VowelChoirModel", name := "blanks", desc := "()V" } : Jvm.MethodName)) ∈ lw_tbl := lw_at lw_m9 174 rfl
theorem q2193 : (Jvm.Cond.instanceMethod ({ cls := "VowelChoirModel", name := "blanks", desc := "()V" } : Jvm.MethodName)) ∈ lw_all := lw_g (lw_at lw_m9 175 rfl) rfl
theorem q2194 : (Jvm.Cond.code ({ cls := "VowelChoirModel", name := "blanks", desc := "()V" } : Jvm.MethodName) prog_34_method_11_code (1 : Nat) (Option.none : Option Jvm.ClassFile.FieldType)) ∈ lw_all := lw_g (lw_at lw_m9 176 rfl) rfl
theorem q2195 : (Jvm.Cond.methodLink "VowelChoirModel" (107 : Nat) ({ cls := "VowelChoirModel", name := "byteAt", desc := "(I)I" } : Jvm.MethodName)) ∈ lw_all := lw_g (lw_at lw_m9 177 rfl) rfl
theorem q2196 : (Jvm.Cond.privateMethod ({ cls := "VowelChoirModel", name := "byteAt", desc := "(I)I" } : Jvm.MethodName)) ∈ lw_tbl := lw_at lw_m9 178 rfl
theorem q2197 : (Jvm.Cond.instanceMethod ({ cls := "VowelChoirModel", name := "byteAt", desc := "(I)I" } : Jvm.MethodName)) ∈ lw_all := lw_g (lw_at lw_m9 179 rfl) rfl
theorem q2198 : (Jvm.Cond.code ({ cls := "VowelChoirModel", name := "byteAt", desc := "(I)I" } : Jvm.MethodName) prog_34_method_10_code (2 : Nat) (Option.some Jvm.ClassFile.FieldType.int)) ∈ lw_all := lw_g (lw_at lw_m9 180 rfl) rfl
theorem q2199 : (Jvm.Cond.methodLink "VowelChoirModel" (178 : Nat) ({ cls := "VowelChoirModel", name := "clause", desc := "()V" } : Jvm.MethodName)) ∈ lw_all := lw_g (lw_at lw_m9 181 rfl) rfl
theorem q2200 : (Jvm.Cond.privateMethod ({ cls := "VowelChoirModel", name := "clause", desc := "()V" } : Jvm.MethodName)) ∈ lw_tbl := lw_at lw_m9 182 rfl
theorem q2201 : (Jvm.Cond.instanceMethod ({ cls := "VowelChoirModel", name := "clause", desc := "()V" } : Jvm.MethodName)) ∈ lw_all := lw_g (lw_at lw_m9 183 rfl) rfl
theorem q2202 : (Jvm.Cond.code ({ cls := "VowelChoirModel", name := "clause", desc := "()V" } : Jvm.MethodName) prog_34_method_27_code (4 : Nat) (Option.none : Option Jvm.ClassFile.FieldType)) ∈ lw_all := lw_g (lw_at lw_m9 184 rfl) rfl
theorem q2203 : (Jvm.Cond.methodLink "VowelChoirModel" (157 : Nat) ({ cls := "VowelChoirModel", name := "kindHere", desc := "()I" } : Jvm.MethodName)) ∈ lw_all := lw_g (lw_at lw_m9 185 rfl) rfl
theorem q2204 : (Jvm.Cond.privateMethod ({ cls := "VowelChoirModel", name := "kindHere", desc := "()I" } : Jvm.MethodName)) ∈ lw_tbl := lw_at lw_m9 186 rfl
theorem q2205 : (Jvm.Cond.instanceMethod ({ cls := "VowelChoirModel", name := "kindHere", desc := "()I" } : Jvm.MethodName)) ∈ lw_all := lw_g (lw_at lw_m9 187 rfl) rfl
theorem q2206 : (Jvm.Cond.code ({ cls := "VowelChoirModel", name := "kindHere", desc := "()I" } : Jvm.MethodName) prog_34_method_25_code (1 : Nat) (Option.some Jvm.ClassFile.FieldType.int)) ∈ lw_all := lw_g (lw_at lw_m9 188 rfl) rfl
theorem q2207 : (Jvm.Cond.methodLink "VowelChoirModel" (144 : Nat) ({ cls := "VowelChoirModel", name := "isWord", desc := "(IIIIII)Z" } : Jvm.MethodName)) ∈ lw_all := lw_g (lw_at lw_m9 189 rfl) rfl
theorem q2208 : (Jvm.Cond.privateMethod ({ cls := "VowelChoirModel", name := "isWord", desc := "(IIIIII)Z" } : Jvm.MethodName)) ∈ lw_tbl := lw_at lw_m9 190 rfl
theorem q2209 : (Jvm.Cond.instanceMethod ({ cls := "VowelChoirModel", name := "isWord", desc := "(IIIIII)Z" } : Jvm.MethodName)) ∈ lw_all := lw_g (lw_at lw_m9 191 rfl) rfl
theorem q2210 : (Jvm.Cond.code ({ cls := "VowelChoirModel", name := "isWord", desc := "(IIIIII)Z" } : Jvm.MethodName) prog_34_method_18_code (7 : Nat) (Option.some Jvm.ClassFile.FieldType.boolean)) ∈ lw_all := lw_g (lw_at lw_m9 192 rfl) rfl
theorem q2211 : (Jvm.Cond.methodLink "VowelChoirModel" (136 : Nat) ({ cls := "VowelChoirModel", name := "wordHere", desc := "()I" } : Jvm.MethodName)) ∈ lw_all := lw_g (lw_at lw_m9 193 rfl) rfl
theorem q2212 : (Jvm.Cond.privateMethod ({ cls := "VowelChoirModel", name := "wordHere", desc := "()I" } : Jvm.MethodName)) ∈ lw_tbl := lw_at lw_m9 194 rfl
theorem q2213 : (Jvm.Cond.instanceMethod ({ cls := "VowelChoirModel", name := "wordHere", desc := "()I" } : Jvm.MethodName)) ∈ lw_all := lw_g (lw_at lw_m9 195 rfl) rfl
theorem q2214 : (Jvm.Cond.code ({ cls := "VowelChoirModel", name := "wordHere", desc := "()I" } : Jvm.MethodName) prog_34_method_16_code (3 : Nat) (Option.some Jvm.ClassFile.FieldType.int)) ∈ lw_all := lw_g (lw_at lw_m9 196 rfl) rfl
theorem q2215 : (Jvm.Cond.methodLink "VowelChoirModel" (133 : Nat) ({ cls := "VowelChoirModel", name := "isSmall", desc := "(I)Z" } : Jvm.MethodName)) ∈ lw_all := lw_g (lw_at lw_m9 197 rfl) rfl
theorem q2216 : (Jvm.Cond.static ({ cls := "VowelChoirModel", name := "isSmall", desc := "(I)Z" } : Jvm.MethodName)) ∈ lw_all := lw_g (lw_at lw_m9 198 rfl) rfl
theorem q2217 : (Jvm.Cond.code ({ cls := "VowelChoirModel", name := "isSmall", desc := "(I)Z" } : Jvm.MethodName) prog_34_method_14_code (1 : Nat) (Option.some Jvm.ClassFile.FieldType.boolean)) ∈ lw_all := lw_g (lw_at lw_m9 199 rfl) rfl
theorem q2218 : (Jvm.Cond.methodLink "VowelChoirModel" (140 : Nat) ({ cls := "VowelChoirModel", name := "six", desc := "(IIIIII)I" } : Jvm.MethodName)) ∈ lw_all := lw_g (lw_at lw_m9 200 rfl) rfl
theorem q2219 : (Jvm.Cond.static ({ cls := "VowelChoirModel", name := "six", desc := "(IIIIII)I" } : Jvm.MethodName)) ∈ lw_all := lw_g (lw_at lw_m9 201 rfl) rfl
theorem q2220 : (Jvm.Cond.code ({ cls := "VowelChoirModel", name := "six", desc := "(IIIIII)I" } : Jvm.MethodName) prog_34_method_17_code (7 : Nat) (Option.some Jvm.ClassFile.FieldType.int)) ∈ lw_all := lw_g (lw_at lw_m9 202 rfl) rfl
theorem q2221 : (Jvm.Cond.methodLink "VowelChoirModel" (124 : Nat) ({ cls := "VowelChoirModel", name := "wrong", desc := "(II)V" } : Jvm.MethodName)) ∈ lw_all := lw_g (lw_at lw_m9 203 rfl) rfl
theorem q2222 : (Jvm.Cond.privateMethod ({ cls := "VowelChoirModel", name := "wrong", desc := "(II)V" } : Jvm.MethodName)) ∈ lw_tbl := lw_at lw_m9 204 rfl
theorem q2223 : (Jvm.Cond.instanceMethod ({ cls := "VowelChoirModel", name := "wrong", desc := "(II)V" } : Jvm.MethodName)) ∈ lw_all := lw_g (lw_at lw_m9 205 rfl) rfl
theorem q2224 : (Jvm.Cond.code ({ cls := "VowelChoirModel", name := "wrong", desc := "(II)V" } : Jvm.MethodName) prog_34_method_12_code (3 : Nat) (Option.none : Option Jvm.ClassFile.FieldType)) ∈ lw_all := lw_g (lw_at lw_m9 206 rfl) rfl
theorem q2225 : (Jvm.Cond.methodLink "VowelChoirModel" (160 : Nat) ({ cls := "VowelChoirModel", name := "mostOf", desc := "(I)I" } : Jvm.MethodName)) ∈ lw_all := lw_g (lw_at lw_m9 207 rfl) rfl
theorem q2226 : (Jvm.Cond.static ({ cls := "VowelChoirModel", name := "mostOf", desc := "(I)I" } : Jvm.MethodName)) ∈ lw_all := lw_g (lw_at lw_m9 208 rfl) rfl
theorem q2227 : (Jvm.Cond.code ({ cls := "VowelChoirModel", name := "mostOf", desc := "(I)I" } : Jvm.MethodName) prog_34_method_26_code (1 : Nat) (Option.some Jvm.ClassFile.FieldType.int)) ∈ lw_all := lw_g (lw_at lw_m9 209 rfl) rfl
theorem q2228 : (Jvm.Cond.methodLink "VowelChoirModel" (148 : Nat) ({ cls := "VowelChoirModel", name := "skipWord", desc := "()V" } : Jvm.MethodName)) ∈ lw_all := lw_g (lw_at lw_m9 210 rfl) rfl
theorem q2229 : (Jvm.Cond.privateMethod ({ cls := "VowelChoirModel", name := "skipWord", desc := "()V" } : Jvm.MethodName)) ∈ lw_tbl := lw_at lw_m9 211 rfl
theorem q2230 : (Jvm.Cond.instanceMethod ({ cls := "VowelChoirModel", name := "skipWord", desc := "()V" } : Jvm.MethodName)) ∈ lw_all := lw_g (lw_at lw_m9 212 rfl) rfl
theorem q2231 : (Jvm.Cond.code ({ cls := "VowelChoirModel", name := "skipWord", desc := "()V" } : Jvm.MethodName) prog_34_method_19_code (1 : Nat) (Option.none : Option Jvm.ClassFile.FieldType)) ∈ lw_all := lw_g (lw_at lw_m9 213 rfl) rfl
theorem q2232 : (Jvm.Cond.methodLink "VowelChoirModel" (163 : Nat) ({ cls := "VowelChoirModel", name := "number", desc := "(II)I" } : Jvm.MethodName)) ∈ lw_all := lw_g (lw_at lw_m9 214 rfl) rfl
theorem q2233 : (Jvm.Cond.privateMethod ({ cls := "VowelChoirModel", name := "number", desc := "(II)I" } : Jvm.MethodName)) ∈ lw_tbl := lw_at lw_m9 215 rfl
theorem q2234 : (Jvm.Cond.instanceMethod ({ cls := "VowelChoirModel", name := "number", desc := "(II)I" } : Jvm.MethodName)) ∈ lw_all := lw_g (lw_at lw_m9 216 rfl) rfl
theorem q2235 : (Jvm.Cond.code ({ cls := "VowelChoirModel", name := "number", desc := "(II)I" } : Jvm.MethodName) prog_34_method_15_code (5 : Nat) (Option.some Jvm.ClassFile.FieldType.int)) ∈ lw_all := lw_g (lw_at lw_m9 217 rfl) rfl
theorem q2236 : (Jvm.Cond.methodLink "VowelChoirModel" (120 : Nat) ({ cls := "VowelChoirModel", name := "isDigit", desc := "(I)Z" } : Jvm.MethodName)) ∈ lw_all := lw_g (lw_at lw_m9 218 rfl) rfl
theorem q2237 : (Jvm.Cond.static ({ cls := "VowelChoirModel", name := "isDigit", desc := "(I)Z" } : Jvm.MethodName)) ∈ lw_all := lw_g (lw_at lw_m9 219 rfl) rfl
theorem q2238 : (Jvm.Cond.code ({ cls := "VowelChoirModel", name := "isDigit", desc := "(I)Z" } : Jvm.MethodName) prog_34_method_13_code (1 : Nat) (Option.some Jvm.ClassFile.FieldType.boolean)) ∈ lw_all := lw_g (lw_at lw_m9 220 rfl) rfl
theorem q2239 : (Jvm.Cond.constant "VowelChoirModel" (128 : Nat) (100000 : Int32)) ∈ lw_all := lw_g (lw_at lw_m9 221 rfl) rfl
theorem q2240 : (Jvm.Cond.methodLink "VowelChoirModel" (167 : Nat) ({ cls := "VowelChoirModel", name := "sign", desc := "(I)V" } : Jvm.MethodName)) ∈ lw_all := lw_g (lw_at lw_m9 222 rfl) rfl
theorem q2241 : (Jvm.Cond.privateMethod ({ cls := "VowelChoirModel", name := "sign", desc := "(I)V" } : Jvm.MethodName)) ∈ lw_tbl := lw_at lw_m9 223 rfl
theorem q2242 : (Jvm.Cond.instanceMethod ({ cls := "VowelChoirModel", name := "sign", desc := "(I)V" } : Jvm.MethodName)) ∈ lw_all := lw_g (lw_at lw_m9 224 rfl) rfl
theorem q2243 : (Jvm.Cond.code ({ cls := "VowelChoirModel", name := "sign", desc := "(I)V" } : Jvm.MethodName) prog_34_method_21_code (2 : Nat) (Option.none : Option Jvm.ClassFile.FieldType)) ∈ lw_all := lw_g (lw_at lw_m9 225 rfl) rfl
theorem q2244 : (Jvm.Cond.methodLink "VowelChoirModel" (181 : Nat) ({ cls := "VowelChoirModel", name := "ends", desc := "()I" } : Jvm.MethodName)) ∈ lw_all := lw_g (lw_at lw_m9 226 rfl) rfl
theorem q2245 : (Jvm.Cond.privateMethod ({ cls := "VowelChoirModel", name := "ends", desc := "()I" } : Jvm.MethodName)) ∈ lw_tbl := lw_at lw_m9 227 rfl
theorem q2246 : (Jvm.Cond.instanceMethod ({ cls := "VowelChoirModel", name := "ends", desc := "()I" } : Jvm.MethodName)) ∈ lw_all := lw_g (lw_at lw_m9 228 rfl) rfl
theorem q2247 : (Jvm.Cond.code ({ cls := "VowelChoirModel", name := "ends", desc := "()I" } : Jvm.MethodName) prog_34_method_24_code (1 : Nat) (Option.some Jvm.ClassFile.FieldType.int)) ∈ lw_all := lw_g (lw_at lw_m9 229 rfl) rfl
theorem q2249 : (Jvm.Cond.instanceMethod ({ cls := "VowelChoirModel", name := "law", desc := "(I)I" } : Jvm.MethodName)) ∈ lw_all := lw_g (lw_at lw_m9 231 rfl) rfl
theorem q2250 : (Jvm.Cond.selects "VowelChoirModel" ({ cls := "VowelChoirModel", name := "law", desc := "(I)I" } : Jvm.MethodName) ({ cls := "VowelChoirModel", name := "law", desc := "(I)I" } : Jvm.MethodName)) ∈ lw_all := lw_g (lw_at lw_m9 232 rfl) rfl
theorem q2251 : (Jvm.Cond.code ({ cls := "VowelChoirModel", name := "law", desc := "(I)I" } : Jvm.MethodName) prog_34_method_39_code (2 : Nat) (Option.some Jvm.ClassFile.FieldType.int)) ∈ lw_all := lw_g (lw_at lw_m9 233 rfl) rfl
theorem q2252 : (Jvm.Cond.methodLink "VowelChoirModel" (229 : Nat) ({ cls := "VowelChoirModel", name := "sum", desc := "()V" } : Jvm.MethodName)) ∈ lw_all := lw_g (lw_at lw_m9 234 rfl) rfl
theorem q2253 : (Jvm.Cond.privateMethod ({ cls := "VowelChoirModel", name := "sum", desc := "()V" } : Jvm.MethodName)) ∈ lw_tbl := lw_at lw_m9 235 rfl
theorem q2254 : (Jvm.Cond.instanceMethod ({ cls := "VowelChoirModel", name := "sum", desc := "()V" } : Jvm.MethodName)) ∈ lw_all := lw_g (lw_at lw_m9 236 rfl) rfl
theorem q2255 : (Jvm.Cond.code ({ cls := "VowelChoirModel", name := "sum", desc := "()V" } : Jvm.MethodName) prog_34_method_35_code (2 : Nat) (Option.none : Option Jvm.ClassFile.FieldType)) ∈ lw_all := lw_g (lw_at lw_m9 237 rfl) rfl
theorem q2256 : (Jvm.Cond.methodLink "VowelChoirModel" (210 : Nat) ({ cls := "VowelChoirModel", name := "product", desc := "()V" } : Jvm.MethodName)) ∈ lw_all := lw_g (lw_at lw_m9 238 rfl) rfl
theorem q2257 : (Jvm.Cond.privateMethod ({ cls := "VowelChoirModel", name := "product", desc := "()V" } : Jvm.MethodName)) ∈ lw_tbl := lw_at lw_m9 239 rfl
theorem q2258 : (Jvm.Cond.instanceMethod ({ cls := "VowelChoirModel", name := "product", desc := "()V" } : Jvm.MethodName)) ∈ lw_all := lw_g (lw_at lw_m10 0 rfl) rfl
theorem q2259 : (Jvm.Cond.code ({ cls := "VowelChoirModel", name := "product", desc := "()V" } : Jvm.MethodName) prog_34_method_36_code (2 : Nat) (Option.none : Option Jvm.ClassFile.FieldType)) ∈ lw_all := lw_g (lw_at lw_m10 1 rfl) rfl
theorem q2260 : (Jvm.Cond.methodLink "VowelChoirModel" (219 : Nat) ({ cls := "VowelChoirModel", name := "one", desc := "()V" } : Jvm.MethodName)) ∈ lw_all := lw_g (lw_at lw_m10 2 rfl) rfl
theorem q2261 : (Jvm.Cond.privateMethod ({ cls := "VowelChoirModel", name := "one", desc := "()V" } : Jvm.MethodName)) ∈ lw_tbl := lw_at lw_m10 3 rfl
theorem q2262 : (Jvm.Cond.instanceMethod ({ cls := "VowelChoirModel", name := "one", desc := "()V" } : Jvm.MethodName)) ∈ lw_all := lw_g (lw_at lw_m10 4 rfl) rfl
theorem q2263 : (Jvm.Cond.code ({ cls := "VowelChoirModel", name := "one", desc := "()V" } : Jvm.MethodName) prog_34_method_38_code (3 : Nat) (Option.none : Option Jvm.ClassFile.FieldType)) ∈ lw_all := lw_g (lw_at lw_m10 5 rfl) rfl
theorem q2264 : (Jvm.Cond.methodLink "VowelChoirModel" (225 : Nat) ({ cls := "VowelChoirModel", name := "opensOne", desc := "()Z" } : Jvm.MethodName)) ∈ lw_all := lw_g (lw_at lw_m10 6 rfl) rfl
theorem q2265 : (Jvm.Cond.privateMethod ({ cls := "VowelChoirModel", name := "opensOne", desc := "()Z" } : Jvm.MethodName)) ∈ lw_tbl := lw_at lw_m10 7 rfl
theorem q2266 : (Jvm.Cond.instanceMethod ({ cls := "VowelChoirModel", name := "opensOne", desc := "()Z" } : Jvm.MethodName)) ∈ lw_all := lw_g (lw_at lw_m10 8 rfl) rfl
theorem q2267 : (Jvm.Cond.code ({ cls := "VowelChoirModel", name := "opensOne", desc := "()Z" } : Jvm.MethodName) prog_34_method_34_code (1 : Nat) (Option.some Jvm.ClassFile.FieldType.boolean)) ∈ lw_all := lw_g (lw_at lw_m10 9 rfl) rfl
theorem q2268 : (Jvm.Cond.methodLink "VowelChoirModel" (216 : Nat) ({ cls := "VowelChoirModel", name := "notes", desc := "(II)V" } : Jvm.MethodName)) ∈ lw_all := lw_g (lw_at lw_m10 10 rfl) rfl
theorem q2269 : (Jvm.Cond.privateMethod ({ cls := "VowelChoirModel", name := "notes", desc := "(II)V" } : Jvm.MethodName)) ∈ lw_tbl := lw_at lw_m10 11 rfl
theorem q2270 : (Jvm.Cond.instanceMethod ({ cls := "VowelChoirModel", name := "notes", desc := "(II)V" } : Jvm.MethodName)) ∈ lw_all := lw_g (lw_at lw_m10 12 rfl) rfl
theorem q2271 : (Jvm.Cond.code ({ cls := "VowelChoirModel", name := "notes", desc := "(II)V" } : Jvm.MethodName) prog_34_method_33_code (3 : Nat) (Option.none : Option Jvm.ClassFile.FieldType)) ∈ lw_all := lw_g (lw_at lw_m10 13 rfl) rfl
theorem q2272 : (Jvm.Cond.methodLink "VowelChoirModel" (232 : Nat) ({ cls := "VowelChoirModel", name := "knownHere", desc := "()I" } : Jvm.MethodName)) ∈ lw_all := lw_g (lw_at lw_m10 14 rfl) rfl
theorem q2273 : (Jvm.Cond.privateMethod ({ cls := "VowelChoirModel", name := "knownHere", desc := "()I" } : Jvm.MethodName)) ∈ lw_tbl := lw_at lw_m10 15 rfl
theorem q2274 : (Jvm.Cond.instanceMethod ({ cls := "VowelChoirModel", name := "knownHere", desc := "()I" } : Jvm.MethodName)) ∈ lw_all := lw_g (lw_at lw_m10 16 rfl) rfl
theorem q2275 : (Jvm.Cond.code ({ cls := "VowelChoirModel", name := "knownHere", desc := "()I" } : Jvm.MethodName) prog_34_method_37_code (1 : Nat) (Option.some Jvm.ClassFile.FieldType.int)) ∈ lw_all := lw_g (lw_at lw_m10 17 rfl) rfl
theorem q2276 : (Jvm.Cond.methodLink "VowelChoirModel" (222 : Nat) ({ cls := "VowelChoirModel", name := "isNext", desc := "(IIIIII)Z" } : Jvm.MethodName)) ∈ lw_all := lw_g (lw_at lw_m10 18 rfl) rfl
theorem q2277 : (Jvm.Cond.privateMethod ({ cls := "VowelChoirModel", name := "isNext", desc := "(IIIIII)Z" } : Jvm.MethodName)) ∈ lw_tbl := lw_at lw_m10 19 rfl
theorem q2278 : (Jvm.Cond.instanceMethod ({ cls := "VowelChoirModel", name := "isNext", desc := "(IIIIII)Z" } : Jvm.MethodName)) ∈ lw_all := lw_g (lw_at lw_m10 20 rfl) rfl
theorem q2279 : (Jvm.Cond.code ({ cls := "VowelChoirModel", name := "isNext", desc := "(IIIIII)Z" } : Jvm.MethodName) prog_34_method_20_code (8 : Nat) (Option.some Jvm.ClassFile.FieldType.boolean)) ∈ lw_all := lw_g (lw_at lw_m10 21 rfl) rfl
theorem q2280 : (Jvm.Cond.methodLink "VowelChoirModel" (213 : Nat) ({ cls := "VowelChoirModel", name := "takesSign", desc := "(I)Z" } : Jvm.MethodName)) ∈ lw_all := lw_g (lw_at lw_m10 22 rfl) rfl
theorem q2281 : (Jvm.Cond.privateMethod ({ cls := "VowelChoirModel", name := "takesSign", desc := "(I)Z" } : Jvm.MethodName)) ∈ lw_tbl := lw_at lw_m10 23 rfl
theorem q2282 : (Jvm.Cond.instanceMethod ({ cls := "VowelChoirModel", name := "takesSign", desc := "(I)Z" } : Jvm.MethodName)) ∈ lw_all := lw_g (lw_at lw_m10 24 rfl) rfl
theorem q2283 : (Jvm.Cond.code ({ cls := "VowelChoirModel", name := "takesSign", desc := "(I)Z" } : Jvm.MethodName) prog_34_method_22_code (3 : Nat) (Option.some Jvm.ClassFile.FieldType.boolean)) ∈ lw_all := lw_g (lw_at lw_m10 25 rfl) rfl
theorem q2285 : (Jvm.Cond.instanceMethod ({ cls := "VowelChoirModel", name := "book", desc := "(I)I" } : Jvm.MethodName)) ∈ lw_all := lw_g (lw_at lw_m10 27 rfl) rfl
theorem q2286 : (Jvm.Cond.selects "VowelChoirModel" ({ cls := "VowelChoirModel", name := "book", desc := "(I)I" } : Jvm.MethodName) ({ cls := "VowelChoirModel", name := "book", desc := "(I)I" } : Jvm.MethodName)) ∈ lw_all := lw_g (lw_at lw_m10 28 rfl) rfl
theorem q2287 : (Jvm.Cond.code ({ cls := "VowelChoirModel", name := "book", desc := "(I)I" } : Jvm.MethodName) prog_34_method_44_code (7 : Nat) (Option.some Jvm.ClassFile.FieldType.int)) ∈ lw_all := lw_g (lw_at lw_m10 29 rfl) rfl
theorem q2288 : (Jvm.Cond.methodLink "VowelChoirModel" (254 : Nat) ({ cls := "VowelChoirModel", name := "has", desc := "(II)Z" } : Jvm.MethodName)) ∈ lw_all := lw_g (lw_at lw_m10 30 rfl) rfl
theorem q2289 : (Jvm.Cond.static ({ cls := "VowelChoirModel", name := "has", desc := "(II)Z" } : Jvm.MethodName)) ∈ lw_all := lw_g (lw_at lw_m10 31 rfl) rfl
theorem q2290 : (Jvm.Cond.code ({ cls := "VowelChoirModel", name := "has", desc := "(II)Z" } : Jvm.MethodName) prog_34_method_8_code (2 : Nat) (Option.some Jvm.ClassFile.FieldType.boolean)) ∈ lw_all := lw_g (lw_at lw_m10 32 rfl) rfl
theorem q2292 : (Jvm.Cond.instanceMethod ({ cls := "VowelChoirModel", name := "fault", desc := "()I" } : Jvm.MethodName)) ∈ lw_all := lw_g (lw_at lw_m10 34 rfl) rfl
theorem q2293 : (Jvm.Cond.selects "VowelChoirModel" ({ cls := "VowelChoirModel", name := "fault", desc := "()I" } : Jvm.MethodName) ({ cls := "VowelChoirModel", name := "fault", desc := "()I" } : Jvm.MethodName)) ∈ lw_all := lw_g (lw_at lw_m10 35 rfl) rfl
theorem q2294 : (Jvm.Cond.code ({ cls := "VowelChoirModel", name := "fault", desc := "()I" } : Jvm.MethodName) prog_34_method_45_code (1 : Nat) (Option.some Jvm.ClassFile.FieldType.int)) ∈ lw_all := lw_g (lw_at lw_m10 36 rfl) rfl
theorem q2296 : (Jvm.Cond.instanceMethod ({ cls := "VowelChoirModel", name := "work", desc := "(I)I" } : Jvm.MethodName)) ∈ lw_all := lw_g (lw_at lw_m10 38 rfl) rfl
theorem q2297 : (Jvm.Cond.selects "VowelChoirModel" ({ cls := "VowelChoirModel", name := "work", desc := "(I)I" } : Jvm.MethodName) ({ cls := "VowelChoirModel", name := "work", desc := "(I)I" } : Jvm.MethodName)) ∈ lw_all := lw_g (lw_at lw_m10 39 rfl) rfl
theorem q2298 : (Jvm.Cond.code ({ cls := "VowelChoirModel", name := "work", desc := "(I)I" } : Jvm.MethodName) prog_34_method_58_code (2 : Nat) (Option.some Jvm.ClassFile.FieldType.int)) ∈ lw_all := lw_g (lw_at lw_m10 40 rfl) rfl
theorem q2299 : (Jvm.Cond.methodLink "VowelChoirModel" (251 : Nat) ({ cls := "VowelChoirModel", name := "readsStep", desc := "()V" } : Jvm.MethodName)) ∈ lw_all := lw_g (lw_at lw_m10 41 rfl) rfl
theorem q2300 : (Jvm.Cond.privateMethod ({ cls := "VowelChoirModel", name := "readsStep", desc := "()V" } : Jvm.MethodName)) ∈ lw_tbl := lw_at lw_m10 42 rfl
theorem q2301 : (Jvm.Cond.instanceMethod ({ cls := "VowelChoirModel", name := "readsStep", desc := "()V" } : Jvm.MethodName)) ∈ lw_all := lw_g (lw_at lw_m10 43 rfl) rfl
theorem q2302 : (Jvm.Cond.code ({ cls := "VowelChoirModel", name := "readsStep", desc := "()V" } : Jvm.MethodName) prog_34_method_43_code (3 : Nat) (Option.none : Option Jvm.ClassFile.FieldType)) ∈ lw_all := lw_g (lw_at lw_m10 44 rfl) rfl
theorem q2303 : (Jvm.Cond.methodLink "VowelChoirModel" (245 : Nat) ({ cls := "VowelChoirModel", name := "stepHere", desc := "()I" } : Jvm.MethodName)) ∈ lw_all := lw_g (lw_at lw_m10 45 rfl) rfl
theorem q2304 : (Jvm.Cond.privateMethod ({ cls := "VowelChoirModel", name := "stepHere", desc := "()I" } : Jvm.MethodName)) ∈ lw_tbl := lw_at lw_m10 46 rfl
theorem q2305 : (Jvm.Cond.instanceMethod ({ cls := "VowelChoirModel", name := "stepHere", desc := "()I" } : Jvm.MethodName)) ∈ lw_all := lw_g (lw_at lw_m10 47 rfl) rfl
theorem q2306 : (Jvm.Cond.code ({ cls := "VowelChoirModel", name := "stepHere", desc := "()I" } : Jvm.MethodName) prog_34_method_42_code (1 : Nat) (Option.some Jvm.ClassFile.FieldType.int)) ∈ lw_all := lw_g (lw_at lw_m10 48 rfl) rfl
theorem q2307 : (Jvm.Cond.methodLink "VowelChoirModel" (310 : Nat) ({ cls := "VowelChoirModel", name := "copies", desc := "([I[I)V" } : Jvm.MethodName)) ∈ lw_all := lw_g (lw_at lw_m10 49 rfl) rfl
theorem q2308 : (Jvm.Cond.static ({ cls := "VowelChoirModel", name := "copies", desc := "([I[I)V" } : Jvm.MethodName)) ∈ lw_all := lw_g (lw_at lw_m10 50 rfl) rfl
theorem q2309 : (Jvm.Cond.code ({ cls := "VowelChoirModel", name := "copies", desc := "([I[I)V" } : Jvm.MethodName) prog_34_method_30_code (3 : Nat) (Option.none : Option Jvm.ClassFile.FieldType)) ∈ lw_all := lw_g (lw_at lw_m10 51 rfl) rfl
theorem q2310 : (Jvm.Cond.methodLink "VowelChoirModel" (300 : Nat) ({ cls := "VowelChoirModel", name := "goes", desc := "(II)V" } : Jvm.MethodName)) ∈ lw_all := lw_g (lw_at lw_m10 52 rfl) rfl
theorem q2311 : (Jvm.Cond.privateMethod ({ cls := "VowelChoirModel", name := "goes", desc := "(II)V" } : Jvm.MethodName)) ∈ lw_tbl := lw_at lw_m10 53 rfl
theorem q2312 : (Jvm.Cond.instanceMethod ({ cls := "VowelChoirModel", name := "goes", desc := "(II)V" } : Jvm.MethodName)) ∈ lw_all := lw_g (lw_at lw_m10 54 rfl) rfl
theorem q2313 : (Jvm.Cond.code ({ cls := "VowelChoirModel", name := "goes", desc := "(II)V" } : Jvm.MethodName) prog_34_method_57_code (5 : Nat) (Option.none : Option Jvm.ClassFile.FieldType)) ∈ lw_all := lw_g (lw_at lw_m10 55 rfl) rfl
theorem q2314 : (Jvm.Cond.methodLink "VowelChoirModel" (303 : Nat) ({ cls := "VowelChoirModel", name := "does", desc := "([I[I)Z" } : Jvm.MethodName)) ∈ lw_all := lw_g (lw_at lw_m10 56 rfl) rfl
theorem q2315 : (Jvm.Cond.privateMethod ({ cls := "VowelChoirModel", name := "does", desc := "([I[I)Z" } : Jvm.MethodName)) ∈ lw_tbl := lw_at lw_m10 57 rfl
theorem q2316 : (Jvm.Cond.instanceMethod ({ cls := "VowelChoirModel", name := "does", desc := "([I[I)Z" } : Jvm.MethodName)) ∈ lw_all := lw_g (lw_at lw_m10 58 rfl) rfl
theorem q2317 : (Jvm.Cond.code ({ cls := "VowelChoirModel", name := "does", desc := "([I[I)Z" } : Jvm.MethodName) prog_34_method_56_code (3 : Nat) (Option.some Jvm.ClassFile.FieldType.boolean)) ∈ lw_all := lw_g (lw_at lw_m10 59 rfl) rfl
theorem q2318 : (Jvm.Cond.methodLink "VowelChoirModel" (276 : Nat) ({ cls := "VowelChoirModel", name := "sings", desc := "([II)Z" } : Jvm.MethodName)) ∈ lw_all := lw_g (lw_at lw_m10 60 rfl) rfl
theorem q2319 : (Jvm.Cond.privateMethod ({ cls := "VowelChoirModel", name := "sings", desc := "([II)Z" } : Jvm.MethodName)) ∈ lw_tbl := lw_at lw_m10 61 rfl
theorem q2320 : (Jvm.Cond.instanceMethod ({ cls := "VowelChoirModel", name := "sings", desc := "([II)Z" } : Jvm.MethodName)) ∈ lw_all := lw_g (lw_at lw_m10 62 rfl) rfl
theorem q2321 : (Jvm.Cond.code ({ cls := "VowelChoirModel", name := "sings", desc := "([II)Z" } : Jvm.MethodName) prog_34_method_50_code (4 : Nat) (Option.some Jvm.ClassFile.FieldType.boolean)) ∈ lw_all := lw_g (lw_at lw_m10 63 rfl) rfl
theorem q2322 : (Jvm.Cond.methodLink "VowelChoirModel" (269 : Nat) ({ cls := "VowelChoirModel", name := "sungBy", desc := "([II)I" } : Jvm.MethodName)) ∈ lw_all := lw_g (lw_at lw_m10 64 rfl) rfl
theorem q2323 : (Jvm.Cond.privateMethod ({ cls := "VowelChoirModel", name := "sungBy", desc := "([II)I" } : Jvm.MethodName)) ∈ lw_tbl := lw_at lw_m10 65 rfl
theorem q2324 : (Jvm.Cond.instanceMethod ({ cls := "VowelChoirModel", name := "sungBy", desc := "([II)I" } : Jvm.MethodName)) ∈ lw_all := lw_g (lw_at lw_m10 66 rfl) rfl
theorem q2325 : (Jvm.Cond.code ({ cls := "VowelChoirModel", name := "sungBy", desc := "([II)I" } : Jvm.MethodName) prog_34_method_49_code (4 : Nat) (Option.some Jvm.ClassFile.FieldType.int)) ∈ lw_all := lw_g (lw_at lw_m10 67 rfl) rfl
theorem q2326 : (Jvm.Cond.methodLink "VowelChoirModel" (265 : Nat) ({ cls := "VowelChoirModel", name := "breathOf", desc := "([III)I" } : Jvm.MethodName)) ∈ lw_all := lw_g (lw_at lw_m10 68 rfl) rfl
theorem q2327 : (Jvm.Cond.privateMethod ({ cls := "VowelChoirModel", name := "breathOf", desc := "([III)I" } : Jvm.MethodName)) ∈ lw_tbl := lw_at lw_m10 69 rfl
theorem q2328 : (Jvm.Cond.instanceMethod ({ cls := "VowelChoirModel", name := "breathOf", desc := "([III)I" } : Jvm.MethodName)) ∈ lw_all := lw_g (lw_at lw_m10 70 rfl) rfl
theorem q2329 : (Jvm.Cond.code ({ cls := "VowelChoirModel", name := "breathOf", desc := "([III)I" } : Jvm.MethodName) prog_34_method_47_code (4 : Nat) (Option.some Jvm.ClassFile.FieldType.int)) ∈ lw_all := lw_g (lw_at lw_m10 71 rfl) rfl
theorem q2330 : (Jvm.Cond.methodLink "VowelChoirModel" (261 : Nat) ({ cls := "VowelChoirModel", name := "breathBy", desc := "(IIIIIIII)I" } : Jvm.MethodName)) ∈ lw_all := lw_g (lw_at lw_m10 72 rfl) rfl
theorem q2331 : (Jvm.Cond.privateMethod ({ cls := "VowelChoirModel", name := "breathBy", desc := "(IIIIIIII)I" } : Jvm.MethodName)) ∈ lw_tbl := lw_at lw_m10 73 rfl
theorem q2332 : (Jvm.Cond.instanceMethod ({ cls := "VowelChoirModel", name := "breathBy", desc := "(IIIIIIII)I" } : Jvm.MethodName)) ∈ lw_all := lw_g (lw_at lw_m10 74 rfl) rfl
theorem q2333 : (Jvm.Cond.code ({ cls := "VowelChoirModel", name := "breathBy", desc := "(IIIIIIII)I" } : Jvm.MethodName) prog_34_method_46_code (9 : Nat) (Option.some Jvm.ClassFile.FieldType.int)) ∈ lw_all := lw_g (lw_at lw_m10 75 rfl) rfl
theorem q2334 : (Jvm.Cond.methodLink "VowelChoirModel" (258 : Nat) ({ cls := "VowelChoirModel", name := "byLaw", desc := "()I" } : Jvm.MethodName)) ∈ lw_all := lw_g (lw_at lw_m10 76 rfl) rfl
theorem q2335 : (Jvm.Cond.privateMethod ({ cls := "VowelChoirModel", name := "byLaw", desc := "()I" } : Jvm.MethodName)) ∈ lw_tbl := lw_at lw_m10 77 rfl
theorem q2336 : (Jvm.Cond.instanceMethod ({ cls := "VowelChoirModel", name := "byLaw", desc := "()I" } : Jvm.MethodName)) ∈ lw_all := lw_g (lw_at lw_m10 78 rfl) rfl
theorem q2337 : (Jvm.Cond.code ({ cls := "VowelChoirModel", name := "byLaw", desc := "()I" } : Jvm.MethodName) prog_34_method_41_code (3 : Nat) (Option.some Jvm.ClassFile.FieldType.int)) ∈ lw_all := lw_g (lw_at lw_m10 79 rfl) rfl
theorem q2338 : (Jvm.Cond.methodLink "VowelChoirModel" (241 : Nat) ({ cls := "VowelChoirModel", name := "by", desc := "(III)I" } : Jvm.MethodName)) ∈ lw_all := lw_g (lw_at lw_m10 80 rfl) rfl
theorem q2339 : (Jvm.Cond.static ({ cls := "VowelChoirModel", name := "by", desc := "(III)I" } : Jvm.MethodName)) ∈ lw_all := lw_g (lw_at lw_m10 81 rfl) rfl
theorem q2340 : (Jvm.Cond.code ({ cls := "VowelChoirModel", name := "by", desc := "(III)I" } : Jvm.MethodName) prog_34_method_40_code (3 : Nat) (Option.some Jvm.ClassFile.FieldType.int)) ∈ lw_all := lw_g (lw_at lw_m10 82 rfl) rfl
theorem q2341 : (Jvm.Cond.methodLink "VowelChoirModel" (235 : Nat) ({ cls := "VowelChoirModel", name := "less", desc := "(II)I" } : Jvm.MethodName)) ∈ lw_all := lw_g (lw_at lw_m10 83 rfl) rfl
theorem q2342 : (Jvm.Cond.static ({ cls := "VowelChoirModel", name := "less", desc := "(II)I" } : Jvm.MethodName)) ∈ lw_all := lw_g (lw_at lw_m10 84 rfl) rfl
theorem q2343 : (Jvm.Cond.code ({ cls := "VowelChoirModel", name := "less", desc := "(II)I" } : Jvm.MethodName) prog_34_method_6_code (2 : Nat) (Option.some Jvm.ClassFile.FieldType.int)) ∈ lw_all := lw_g (lw_at lw_m10 85 rfl) rfl
theorem q2344 : (Jvm.Cond.methodLink "VowelChoirModel" (238 : Nat) ({ cls := "VowelChoirModel", name := "more", desc := "(II)I" } : Jvm.MethodName)) ∈ lw_all := lw_g (lw_at lw_m10 86 rfl) rfl
theorem q2345 : (Jvm.Cond.static ({ cls := "VowelChoirModel", name := "more", desc := "(II)I" } : Jvm.MethodName)) ∈ lw_all := lw_g (lw_at lw_m10 87 rfl) rfl
theorem q2346 : (Jvm.Cond.code ({ cls := "VowelChoirModel", name := "more", desc := "(II)I" } : Jvm.MethodName) prog_34_method_7_code (2 : Nat) (Option.some Jvm.ClassFile.FieldType.int)) ∈ lw_all := lw_g (lw_at lw_m10 88 rfl) rfl
theorem q2347 : (Jvm.Cond.methodLink "VowelChoirModel" (280 : Nat) ({ cls := "VowelChoirModel", name := "hymns", desc := "([I)V" } : Jvm.MethodName)) ∈ lw_all := lw_g (lw_at lw_m10 89 rfl) rfl
theorem q2348 : (Jvm.Cond.privateMethod ({ cls := "VowelChoirModel", name := "hymns", desc := "([I)V" } : Jvm.MethodName)) ∈ lw_tbl := lw_at lw_m10 90 rfl
theorem q2349 : (Jvm.Cond.instanceMethod ({ cls := "VowelChoirModel", name := "hymns", desc := "([I)V" } : Jvm.MethodName)) ∈ lw_all := lw_g (lw_at lw_m10 91 rfl) rfl
theorem q2350 : (Jvm.Cond.code ({ cls := "VowelChoirModel", name := "hymns", desc := "([I)V" } : Jvm.MethodName) prog_34_method_51_code (4 : Nat) (Option.none : Option Jvm.ClassFile.FieldType)) ∈ lw_all := lw_g (lw_at lw_m10 92 rfl) rfl
theorem q2351 : (Jvm.Cond.methodLink "VowelChoirModel" (283 : Nat) ({ cls := "VowelChoirModel", name := "rests", desc := "([I)Z" } : Jvm.MethodName)) ∈ lw_all := lw_g (lw_at lw_m10 93 rfl) rfl
theorem q2352 : (Jvm.Cond.privateMethod ({ cls := "VowelChoirModel", name := "rests", desc := "([I)Z" } : Jvm.MethodName)) ∈ lw_tbl := lw_at lw_m10 94 rfl
theorem q2353 : (Jvm.Cond.instanceMethod ({ cls := "VowelChoirModel", name := "rests", desc := "([I)Z" } : Jvm.MethodName)) ∈ lw_all := lw_g (lw_at lw_m10 95 rfl) rfl
theorem q2354 : (Jvm.Cond.code ({ cls := "VowelChoirModel", name := "rests", desc := "([I)Z" } : Jvm.MethodName) prog_34_method_52_code (4 : Nat) (Option.some Jvm.ClassFile.FieldType.boolean)) ∈ lw_all := lw_g (lw_at lw_m10 96 rfl) rfl
theorem q2355 : (Jvm.Cond.methodLink "VowelChoirModel" (287 : Nat) ({ cls := "VowelChoirModel", name := "becomes", desc := "([III)Z" } : Jvm.MethodName)) ∈ lw_all := lw_g (lw_at lw_m10 97 rfl) rfl
theorem q2356 : (Jvm.Cond.static ({ cls := "VowelChoirModel", name := "becomes", desc := "([III)Z" } : Jvm.MethodName)) ∈ lw_all := lw_g (lw_at lw_m10 98 rfl) rfl
theorem q2357 : (Jvm.Cond.code ({ cls := "VowelChoirModel", name := "becomes", desc := "([III)Z" } : Jvm.MethodName) prog_34_method_54_code (3 : Nat) (Option.some Jvm.ClassFile.FieldType.boolean)) ∈ lw_all := lw_g (lw_at lw_m10 99 rfl) rfl
theorem q2358 : (Jvm.Cond.methodLink "VowelChoirModel" (291 : Nat) ({ cls := "VowelChoirModel", name := "wordsOf", desc := "(I)I" } : Jvm.MethodName)) ∈ lw_all := lw_g (lw_at lw_m10 100 rfl) rfl
theorem q2359 : (Jvm.Cond.privateMethod ({ cls := "VowelChoirModel", name := "wordsOf", desc := "(I)I" } : Jvm.MethodName)) ∈ lw_tbl := lw_at lw_m10 101 rfl
theorem q2360 : (Jvm.Cond.instanceMethod ({ cls := "VowelChoirModel", name := "wordsOf", desc := "(I)I" } : Jvm.MethodName)) ∈ lw_all := lw_g (lw_at lw_m10 102 rfl) rfl
theorem q2361 : (Jvm.Cond.code ({ cls := "VowelChoirModel", name := "wordsOf", desc := "(I)I" } : Jvm.MethodName) prog_34_method_53_code (4 : Nat) (Option.some Jvm.ClassFile.FieldType.int)) ∈ lw_all := lw_g (lw_at lw_m10 103 rfl) rfl
theorem q2362 : (Jvm.Cond.methodLink "VowelChoirModel" (294 : Nat) ({ cls := "VowelChoirModel", name := "dayEnds", desc := "([I)V" } : Jvm.MethodName)) ∈ lw_all := lw_g (lw_at lw_m10 104 rfl) rfl
theorem q2363 : (Jvm.Cond.privateMethod ({ cls := "VowelChoirModel", name := "dayEnds", desc := "([I)V" } : Jvm.MethodName)) ∈ lw_tbl := lw_at lw_m10 105 rfl
theorem q2364 : (Jvm.Cond.instanceMethod ({ cls := "VowelChoirModel", name := "dayEnds", desc := "([I)V" } : Jvm.MethodName)) ∈ lw_all := lw_g (lw_at lw_m10 106 rfl) rfl
theorem q2365 : (Jvm.Cond.code ({ cls := "VowelChoirModel", name := "dayEnds", desc := "([I)V" } : Jvm.MethodName) prog_34_method_55_code (3 : Nat) (Option.none : Option Jvm.ClassFile.FieldType)) ∈ lw_all := lw_g (lw_at lw_m10 107 rfl) rfl
theorem q2367 : (Jvm.Cond.instanceMethod ({ cls := "VowelChoirModel", name := "undo", desc := "()I" } : Jvm.MethodName)) ∈ lw_all := lw_g (lw_at lw_m10 109 rfl) rfl
theorem q2368 : (Jvm.Cond.selects "VowelChoirModel" ({ cls := "VowelChoirModel", name := "undo", desc := "()I" } : Jvm.MethodName) ({ cls := "VowelChoirModel", name := "undo", desc := "()I" } : Jvm.MethodName)) ∈ lw_all := lw_g (lw_at lw_m10 110 rfl) rfl
theorem q2369 : (Jvm.Cond.code ({ cls := "VowelChoirModel", name := "undo", desc := "()I" } : Jvm.MethodName) prog_34_method_59_code (1 : Nat) (Option.some Jvm.ClassFile.FieldType.int)) ∈ lw_all := lw_g (lw_at lw_m10 111 rfl) rfl
theorem q2371 : (Jvm.Cond.instanceMethod ({ cls := "VowelChoirModel", name := "told", desc := "(I)I" } : Jvm.MethodName)) ∈ lw_all := lw_g (lw_at lw_m10 113 rfl) rfl
theorem q2372 : (Jvm.Cond.selects "VowelChoirModel" ({ cls := "VowelChoirModel", name := "told", desc := "(I)I" } : Jvm.MethodName) ({ cls := "VowelChoirModel", name := "told", desc := "(I)I" } : Jvm.MethodName)) ∈ lw_all := lw_g (lw_at lw_m10 114 rfl) rfl
theorem q2373 : (Jvm.Cond.code ({ cls := "VowelChoirModel", name := "told", desc := "(I)I" } : Jvm.MethodName) prog_34_method_62_code (4 : Nat) (Option.some Jvm.ClassFile.FieldType.int)) ∈ lw_all := lw_g (lw_at lw_m10 115 rfl) rfl
theorem q2374 : (Jvm.Cond.methodLink "VowelChoirModel" (314 : Nat) ({ cls := "VowelChoirModel", name := "hoarse", desc := "([I)I" } : Jvm.MethodName)) ∈ lw_all := lw_g (lw_at lw_m10 116 rfl) rfl
theorem q2375 : (Jvm.Cond.privateMethod ({ cls := "VowelChoirModel", name := "hoarse", desc := "([I)I" } : Jvm.MethodName)) ∈ lw_tbl := lw_at lw_m10 117 rfl
theorem q2376 : (Jvm.Cond.instanceMethod ({ cls := "VowelChoirModel", name := "hoarse", desc := "([I)I" } : Jvm.MethodName)) ∈ lw_all := lw_g (lw_at lw_m10 118 rfl) rfl
theorem q2377 : (Jvm.Cond.code ({ cls := "VowelChoirModel", name := "hoarse", desc := "([I)I" } : Jvm.MethodName) prog_34_method_61_code (4 : Nat) (Option.some Jvm.ClassFile.FieldType.int)) ∈ lw_all := lw_g (lw_at lw_m10 119 rfl) rfl
theorem q2378 : (Jvm.Cond.methodLink "VowelChoirModel" (318 : Nat) ({ cls := "VowelChoirModel", name := "all", desc := "([II)I" } : Jvm.MethodName)) ∈ lw_all := lw_g (lw_at lw_m10 120 rfl) rfl
theorem q2379 : (Jvm.Cond.privateMethod ({ cls := "VowelChoirModel", name := "all", desc := "([II)I" } : Jvm.MethodName)) ∈ lw_tbl := lw_at lw_m10 121 rfl
theorem q2380 : (Jvm.Cond.instanceMethod ({ cls := "VowelChoirModel", name := "all", desc := "([II)I" } : Jvm.MethodName)) ∈ lw_all := lw_g (lw_at lw_m10 122 rfl) rfl
theorem q2381 : (Jvm.Cond.code ({ cls := "VowelChoirModel", name := "all", desc := "([II)I" } : Jvm.MethodName) prog_34_method_60_code (5 : Nat) (Option.some Jvm.ClassFile.FieldType.int)) ∈ lw_all := lw_g (lw_at lw_m10 123 rfl) rfl
theorem q2383 : (Jvm.Cond.instanceMethod ({ cls := "VowelChoirModel", name := "singer", desc := "(II)I" } : Jvm.MethodName)) ∈ lw_all := lw_g (lw_at lw_m10 125 rfl) rfl
theorem q2384 : (Jvm.Cond.selects "VowelChoirModel" ({ cls := "VowelChoirModel", name := "singer", desc := "(II)I" } : Jvm.MethodName) ({ cls := "VowelChoirModel", name := "singer", desc := "(II)I" } : Jvm.MethodName)) ∈ lw_all := lw_g (lw_at lw_m10 126 rfl) rfl
theorem q2385 : (Jvm.Cond.code ({ cls := "VowelChoirModel", name := "singer", desc := "(II)I" } : Jvm.MethodName) prog_34_method_66_code (3 : Nat) (Option.some Jvm.ClassFile.FieldType.int)) ∈ lw_all := lw_g (lw_at lw_m10 127 rfl) rfl
theorem q2386 : (Jvm.Cond.methodLink "VowelChoirModel" (321 : Nat) ({ cls := "VowelChoirModel", name := "isSinger", desc := "(I)Z" } : Jvm.MethodName)) ∈ lw_all := lw_g (lw_at lw_m10 128 rfl) rfl
theorem q2387 : (Jvm.Cond.privateMethod ({ cls := "VowelChoirModel", name := "isSinger", desc := "(I)Z" } : Jvm.MethodName)) ∈ lw_tbl := lw_at lw_m10 129 rfl
theorem q2388 : (Jvm.Cond.instanceMethod ({ cls := "VowelChoirModel", name := "isSinger", desc := "(I)Z" } : Jvm.MethodName)) ∈ lw_all := lw_g (lw_at lw_m10 130 rfl) rfl
theorem q2389 : (Jvm.Cond.code ({ cls := "VowelChoirModel", name := "isSinger", desc := "(I)Z" } : Jvm.MethodName) prog_34_method_63_code (2 : Nat) (Option.some Jvm.ClassFile.FieldType.boolean)) ∈ lw_all := lw_g (lw_at lw_m10 131 rfl) rfl
theorem q2391 : (Jvm.Cond.instanceMethod ({ cls := "VowelChoirModel", name := "note", desc := "(II)I" } : Jvm.MethodName)) ∈ lw_all := lw_g (lw_at lw_m10 133 rfl) rfl
theorem q2392 : (Jvm.Cond.selects "VowelChoirModel" ({ cls := "VowelChoirModel", name := "note", desc := "(II)I" } : Jvm.MethodName) ({ cls := "VowelChoirModel", name := "note", desc := "(II)I" } : Jvm.MethodName)) ∈ lw_all := lw_g (lw_at lw_m10 134 rfl) rfl
theorem q2393 : (Jvm.Cond.code ({ cls := "VowelChoirModel", name := "note", desc := "(II)I" } : Jvm.MethodName) prog_34_method_67_code (3 : Nat) (Option.some Jvm.ClassFile.FieldType.int)) ∈ lw_all := lw_g (lw_at lw_m10 135 rfl) rfl
theorem q2394 : (Jvm.Cond.methodLink "VowelChoirModel" (324 : Nat) ({ cls := "VowelChoirModel", name := "isNote", desc := "(I)Z" } : Jvm.MethodName)) ∈ lw_all := lw_g (lw_at lw_m10 136 rfl) rfl
theorem q2395 : (Jvm.Cond.privateMethod ({ cls := "VowelChoirModel", name := "isNote", desc := "(I)Z" } : Jvm.MethodName)) ∈ lw_tbl := lw_at lw_m10 137 rfl
theorem q2396 : (Jvm.Cond.instanceMethod ({ cls := "VowelChoirModel", name := "isNote", desc := "(I)Z" } : Jvm.MethodName)) ∈ lw_all := lw_g (lw_at lw_m10 138 rfl) rfl
theorem q2397 : (Jvm.Cond.code ({ cls := "VowelChoirModel", name := "isNote", desc := "(I)Z" } : Jvm.MethodName) prog_34_method_64_code (2 : Nat) (Option.some Jvm.ClassFile.FieldType.boolean)) ∈ lw_all := lw_g (lw_at lw_m10 139 rfl) rfl
theorem q2399 : (Jvm.Cond.instanceMethod ({ cls := "VowelChoirModel", name := "like", desc := "(II)I" } : Jvm.MethodName)) ∈ lw_all := lw_g (lw_at lw_m10 141 rfl) rfl
theorem q2400 : (Jvm.Cond.selects "VowelChoirModel" ({ cls := "VowelChoirModel", name := "like", desc := "(II)I" } : Jvm.MethodName) ({ cls := "VowelChoirModel", name := "like", desc := "(II)I" } : Jvm.MethodName)) ∈ lw_all := lw_g (lw_at lw_m10 142 rfl) rfl
theorem q2401 : (Jvm.Cond.code ({ cls := "VowelChoirModel", name := "like", desc := "(II)I" } : Jvm.MethodName) prog_34_method_68_code (3 : Nat) (Option.some Jvm.ClassFile.FieldType.int)) ∈ lw_all := lw_g (lw_at lw_m10 143 rfl) rfl
theorem q2403 : (Jvm.Cond.instanceMethod ({ cls := "VowelChoirModel", name := "takes", desc := "(II)I" } : Jvm.MethodName)) ∈ lw_all := lw_g (lw_at lw_m10 145 rfl) rfl
theorem q2404 : (Jvm.Cond.selects "VowelChoirModel" ({ cls := "VowelChoirModel", name := "takes", desc := "(II)I" } : Jvm.MethodName) ({ cls := "VowelChoirModel", name := "takes", desc := "(II)I" } : Jvm.MethodName)) ∈ lw_all := lw_g (lw_at lw_m10 146 rfl) rfl
theorem q2405 : (Jvm.Cond.code ({ cls := "VowelChoirModel", name := "takes", desc := "(II)I" } : Jvm.MethodName) prog_34_method_69_code (3 : Nat) (Option.some Jvm.ClassFile.FieldType.int)) ∈ lw_all := lw_g (lw_at lw_m10 147 rfl) rfl
theorem q2407 : (Jvm.Cond.instanceMethod ({ cls := "VowelChoirModel", name := "would", desc := "(IIIIIIII)I" } : Jvm.MethodName)) ∈ lw_all := lw_g (lw_at lw_m10 149 rfl) rfl
theorem q2408 : (Jvm.Cond.selects "VowelChoirModel" ({ cls := "VowelChoirModel", name := "would", desc := "(IIIIIIII)I" } : Jvm.MethodName) ({ cls := "VowelChoirModel", name := "would", desc := "(IIIIIIII)I" } : Jvm.MethodName)) ∈ lw_all := lw_g (lw_at lw_m10 150 rfl) rfl
theorem q2409 : (Jvm.Cond.code ({ cls := "VowelChoirModel", name := "would", desc := "(IIIIIIII)I" } : Jvm.MethodName) prog_34_method_70_code (9 : Nat) (Option.some Jvm.ClassFile.FieldType.int)) ∈ lw_all := lw_g (lw_at lw_m10 151 rfl) rfl
theorem q2410 : (Jvm.Cond.methodLink "VowelChoirModel" (327 : Nat) ({ cls := "VowelChoirModel", name := "isVowel", desc := "(I)Z" } : Jvm.MethodName)) ∈ lw_all := lw_g (lw_at lw_m10 152 rfl) rfl
theorem q2411 : (Jvm.Cond.static ({ cls := "VowelChoirModel", name := "isVowel", desc := "(I)Z" } : Jvm.MethodName)) ∈ lw_all := lw_g (lw_at lw_m10 153 rfl) rfl
theorem q2412 : (Jvm.Cond.code ({ cls := "VowelChoirModel", name := "isVowel", desc := "(I)Z" } : Jvm.MethodName) prog_34_method_65_code (1 : Nat) (Option.some Jvm.ClassFile.FieldType.boolean)) ∈ lw_all := lw_g (lw_at lw_m10 154 rfl) rfl
theorem q2414 : (Jvm.Cond.instanceMethod ({ cls := "VowelChoirModel", name := "ahead", desc := "(II)I" } : Jvm.MethodName)) ∈ lw_all := lw_g (lw_at lw_m10 156 rfl) rfl
theorem q2415 : (Jvm.Cond.selects "VowelChoirModel" ({ cls := "VowelChoirModel", name := "ahead", desc := "(II)I" } : Jvm.MethodName) ({ cls := "VowelChoirModel", name := "ahead", desc := "(II)I" } : Jvm.MethodName)) ∈ lw_all := lw_g (lw_at lw_m10 157 rfl) rfl
theorem q2416 : (Jvm.Cond.code ({ cls := "VowelChoirModel", name := "ahead", desc := "(II)I" } : Jvm.MethodName) prog_34_method_71_code (5 : Nat) (Option.some Jvm.ClassFile.FieldType.int)) ∈ lw_all := lw_g (lw_at lw_m10 158 rfl) rfl
theorem q2418 : (Jvm.Cond.instanceMethod ({ cls := "VowelChoirModel", name := "cast", desc := "()I" } : Jvm.MethodName)) ∈ lw_all := lw_g (lw_at lw_m10 160 rfl) rfl
theorem q2419 : (Jvm.Cond.selects "VowelChoirModel" ({ cls := "VowelChoirModel", name := "cast", desc := "()I" } : Jvm.MethodName) ({ cls := "VowelChoirModel", name := "cast", desc := "()I" } : Jvm.MethodName)) ∈ lw_all := lw_g (lw_at lw_m10 161 rfl) rfl
theorem q2420 : (Jvm.Cond.code ({ cls := "VowelChoirModel", name := "cast", desc := "()I" } : Jvm.MethodName) prog_34_method_75_code (4 : Nat) (Option.some Jvm.ClassFile.FieldType.int)) ∈ lw_all := lw_g (lw_at lw_m10 162 rfl) rfl
theorem q2421 : (Jvm.Cond.methodLink "VowelChoirModel" (330 : Nat) ({ cls := "VowelChoirModel", name := "everySinger", desc := "()I" } : Jvm.MethodName)) ∈ lw_all := lw_g (lw_at lw_m10 163 rfl) rfl
theorem q2422 : (Jvm.Cond.privateMethod ({ cls := "VowelChoirModel", name := "everySinger", desc := "()I" } : Jvm.MethodName)) ∈ lw_tbl := lw_at lw_m10 164 rfl
theorem q2423 : (Jvm.Cond.instanceMethod ({ cls := "VowelChoirModel", name := "everySinger", desc := "()I" } : Jvm.MethodName)) ∈ lw_all := lw_g (lw_at lw_m10 165 rfl) rfl
theorem q2424 : (Jvm.Cond.code ({ cls := "VowelChoirModel", name := "everySinger", desc := "()I" } : Jvm.MethodName) prog_34_method_72_code (1 : Nat) (Option.some Jvm.ClassFile.FieldType.int)) ∈ lw_all := lw_g (lw_at lw_m10 166 rfl) rfl
theorem q2425 : (Jvm.Cond.methodLink "VowelChoirModel" (333 : Nat) ({ cls := "VowelChoirModel", name := "ones", desc := "(I)I" } : Jvm.MethodName)) ∈ lw_all := lw_g (lw_at lw_m10 167 rfl) rfl
theorem q2426 : (Jvm.Cond.static ({ cls := "VowelChoirModel", name := "ones", desc := "(I)I" } : Jvm.MethodName)) ∈ lw_all := lw_g (lw_at lw_m10 168 rfl) rfl
theorem q2427 : (Jvm.Cond.code ({ cls := "VowelChoirModel", name := "ones", desc := "(I)I" } : Jvm.MethodName) prog_34_method_48_code (3 : Nat) (Option.some Jvm.ClassFile.FieldType.int)) ∈ lw_all := lw_g (lw_at lw_m10 169 rfl) rfl
theorem q2428 : (Jvm.Cond.methodLink "VowelChoirModel" (336 : Nat) ({ cls := "VowelChoirModel", name := "payOf", desc := "(I)I" } : Jvm.MethodName)) ∈ lw_all := lw_g (lw_at lw_m10 170 rfl) rfl
theorem q2429 : (Jvm.Cond.privateMethod ({ cls := "VowelChoirModel", name := "payOf", desc := "(I)I" } : Jvm.MethodName)) ∈ lw_tbl := lw_at lw_m10 171 rfl
theorem q2430 : (Jvm.Cond.instanceMethod ({ cls := "VowelChoirModel", name := "payOf", desc := "(I)I" } : Jvm.MethodName)) ∈ lw_all := lw_g (lw_at lw_m10 172 rfl) rfl
theorem q2431 : (Jvm.Cond.code ({ cls := "VowelChoirModel", name := "payOf", desc := "(I)I" } : Jvm.MethodName) prog_34_method_74_code (4 : Nat) (Option.some Jvm.ClassFile.FieldType.int)) ∈ lw_all := lw_g (lw_at lw_m10 173 rfl) rfl
theorem q2432 : (Jvm.Cond.methodLink "VowelChoirModel" (339 : Nat) ({ cls := "VowelChoirModel", name := "onlyThese", desc := "(I)V" } : Jvm.MethodName)) ∈ lw_all := lw_g (lw_at lw_m10 174 rfl) rfl
theorem q2433 : (Jvm.Cond.privateMethod ({ cls := "VowelChoirModel", name := "onlyThese", desc := "(I)V" } : Jvm.MethodName)) ∈ lw_tbl := lw_at lw_m10 175 rfl
theorem q2434 : (Jvm.Cond.instanceMethod ({ cls := "VowelChoirModel", name := "onlyThese", desc := "(I)V" } : Jvm.MethodName)) ∈ lw_all := lw_g (lw_at lw_m10 176 rfl) rfl
theorem q2435 : (Jvm.Cond.code ({ cls := "VowelChoirModel", name := "onlyThese", desc := "(I)V" } : Jvm.MethodName) prog_34_method_73_code (3 : Nat) (Option.none : Option Jvm.ClassFile.FieldType)) ∈ lw_all := lw_g (lw_at lw_m10 177 rfl) rfl
theorem q2437 : (Jvm.Cond.instanceMethod ({ cls := "VowelChoirModel", name := "handed", desc := "(II)I" } : Jvm.MethodName)) ∈ lw_all := lw_g (lw_at lw_m10 179 rfl) rfl
theorem q2438 : (Jvm.Cond.selects "VowelChoirModel" ({ cls := "VowelChoirModel", name := "handed", desc := "(II)I" } : Jvm.MethodName) ({ cls := "VowelChoirModel", name := "handed", desc := "(II)I" } : Jvm.MethodName)) ∈ lw_all := lw_g (lw_at lw_m10 180 rfl) rfl
theorem q2439 : (Jvm.Cond.code ({ cls := "VowelChoirModel", name := "handed", desc := "(II)I" } : Jvm.MethodName) prog_34_method_77_code (3 : Nat) (Option.some Jvm.ClassFile.FieldType.int)) ∈ lw_all := lw_g (lw_at lw_m10 181 rfl) rfl
theorem q2440 : (Jvm.Cond.methodLink "VowelChoirModel" (342 : Nat) ({ cls := "VowelChoirModel", name := "handedOf", desc := "(II)I" } : Jvm.MethodName)) ∈ lw_all := lw_g (lw_at lw_m10 182 rfl) rfl
theorem q2441 : (Jvm.Cond.privateMethod ({ cls := "VowelChoirModel", name := "handedOf", desc := "(II)I" } : Jvm.MethodName)) ∈ lw_tbl := lw_at lw_m10 183 rfl
theorem q2442 : (Jvm.Cond.instanceMethod ({ cls := "VowelChoirModel", name := "handedOf", desc := "(II)I" } : Jvm.MethodName)) ∈ lw_all := lw_g (lw_at lw_m10 184 rfl) rfl
theorem q2443 : (Jvm.Cond.code ({ cls := "VowelChoirModel", name := "handedOf", desc := "(II)I" } : Jvm.MethodName) prog_34_method_76_code (7 : Nat) (Option.some Jvm.ClassFile.FieldType.int)) ∈ lw_all := lw_g (lw_at lw_m10 185 rfl) rfl
theorem q2445 : (Jvm.Cond.instanceMethod ({ cls := "VowelChoirModel", name := "bench", desc := "()I" } : Jvm.MethodName)) ∈ lw_all := lw_g (lw_at lw_m10 187 rfl) rfl
theorem q2446 : (Jvm.Cond.selects "VowelChoirModel" ({ cls := "VowelChoirModel", name := "bench", desc := "()I" } : Jvm.MethodName) ({ cls := "VowelChoirModel", name := "bench", desc := "()I" } : Jvm.MethodName)) ∈ lw_all := lw_g (lw_at lw_m10 188 rfl) rfl
theorem q2447 : (Jvm.Cond.code ({ cls := "VowelChoirModel", name := "bench", desc := "()I" } : Jvm.MethodName) prog_34_method_80_code (1 : Nat) (Option.some Jvm.ClassFile.FieldType.int)) ∈ lw_all := lw_g (lw_at lw_m10 189 rfl) rfl
theorem q2448 : (Jvm.Cond.methodLink "VowelChoirModel" (352 : Nat) ({ cls := "VowelChoirModel", name := "laysBench", desc := "()V" } : Jvm.MethodName)) ∈ lw_all := lw_g (lw_at lw_m10 190 rfl) rfl
theorem q2449 : (Jvm.Cond.privateMethod ({ cls := "VowelChoirModel", name := "laysBench", desc := "()V" } : Jvm.MethodName)) ∈ lw_tbl := lw_at lw_m10 191 rfl
theorem q2450 : (Jvm.Cond.instanceMethod ({ cls := "VowelChoirModel", name := "laysBench", desc := "()V" } : Jvm.MethodName)) ∈ lw_all := lw_g (lw_at lw_m10 192 rfl) rfl
theorem q2451 : (Jvm.Cond.code ({ cls := "VowelChoirModel", name := "laysBench", desc := "()V" } : Jvm.MethodName) prog_34_method_79_code (1 : Nat) (Option.none : Option Jvm.ClassFile.FieldType)) ∈ lw_all := lw_g (lw_at lw_m10 193 rfl) rfl
theorem q2452 : (Jvm.Cond.methodLink "VowelChoirModel" (348 : Nat) ({ cls := "VowelChoirModel", name := "benches", desc := "(III)V" } : Jvm.MethodName)) ∈ lw_all := lw_g (lw_at lw_m10 194 rfl) rfl
theorem q2453 : (Jvm.Cond.privateMethod ({ cls := "VowelChoirModel", name := "benches", desc := "(III)V" } : Jvm.MethodName)) ∈ lw_tbl := lw_at lw_m10 195 rfl
theorem q2454 : (Jvm.Cond.instanceMethod ({ cls := "VowelChoirModel", name := "benches", desc := "(III)V" } : Jvm.MethodName)) ∈ lw_all := lw_g (lw_at lw_m10 196 rfl) rfl
theorem q2455 : (Jvm.Cond.code ({ cls := "VowelChoirModel", name := "benches", desc := "(III)V" } : Jvm.MethodName) prog_34_method_78_code (5 : Nat) (Option.none : Option Jvm.ClassFile.FieldType)) ∈ lw_all := lw_g (lw_at lw_m10 197 rfl) rfl
theorem q2457 : (Jvm.Cond.instanceMethod ({ cls := "VowelChoirModel", name := "benched", desc := "(I)I" } : Jvm.MethodName)) ∈ lw_all := lw_g (lw_at lw_m10 199 rfl) rfl
theorem q2458 : (Jvm.Cond.selects "VowelChoirModel" ({ cls := "VowelChoirModel", name := "benched", desc := "(I)I" } : Jvm.MethodName) ({ cls := "VowelChoirModel", name := "benched", desc := "(I)I" } : Jvm.MethodName)) ∈ lw_all := lw_g (lw_at lw_m10 200 rfl) rfl
theorem q2459 : (Jvm.Cond.code ({ cls := "VowelChoirModel", name := "benched", desc := "(I)I" } : Jvm.MethodName) prog_34_method_81_code (2 : Nat) (Option.some Jvm.ClassFile.FieldType.int)) ∈ lw_all := lw_g (lw_at lw_m10 201 rfl) rfl
theorem q2461 : (Jvm.Cond.instanceMethod ({ cls := "VowelChoirModel", name := "wording", desc := "()I" } : Jvm.MethodName)) ∈ lw_all := lw_g (lw_at lw_m10 203 rfl) rfl
theorem q2462 : (Jvm.Cond.selects "VowelChoirModel" ({ cls := "VowelChoirModel", name := "wording", desc := "()I" } : Jvm.MethodName) ({ cls := "VowelChoirModel", name := "wording", desc := "()I" } : Jvm.MethodName)) ∈ lw_all := lw_g (lw_at lw_m10 204 rfl) rfl
theorem q2463 : (Jvm.Cond.code ({ cls := "VowelChoirModel", name := "wording", desc := "()I" } : Jvm.MethodName) prog_34_method_82_code (5 : Nat) (Option.some Jvm.ClassFile.FieldType.int)) ∈ lw_all := lw_g (lw_at lw_m10 205 rfl) rfl
theorem q2465 : (Jvm.Cond.instanceMethod ({ cls := "VowelChoirModel", name := "wordings", desc := "(I)J" } : Jvm.MethodName)) ∈ lw_all := lw_g (lw_at lw_m10 207 rfl) rfl
theorem q2466 : (Jvm.Cond.selects "VowelChoirModel" ({ cls := "VowelChoirModel", name := "wordings", desc := "(I)J" } : Jvm.MethodName) ({ cls := "VowelChoirModel", name := "wordings", desc := "(I)J" } : Jvm.MethodName)) ∈ lw_all := lw_g (lw_at lw_m10 208 rfl) rfl
theorem q2467 : (Jvm.Cond.code ({ cls := "VowelChoirModel", name := "wordings", desc := "(I)J" } : Jvm.MethodName) prog_34_method_83_code (5 : Nat) (Option.some Jvm.ClassFile.FieldType.long)) ∈ lw_all := lw_g (lw_at lw_m10 209 rfl) rfl
theorem q2469 : (Jvm.Cond.instanceMethod ({ cls := "VowelChoirModel", name := "who", desc := "(I)I" } : Jvm.MethodName)) ∈ lw_all := lw_g (lw_at lw_m10 211 rfl) rfl
theorem q2470 : (Jvm.Cond.selects "VowelChoirModel" ({ cls := "VowelChoirModel", name := "who", desc := "(I)I" } : Jvm.MethodName) ({ cls := "VowelChoirModel", name := "who", desc := "(I)I" } : Jvm.MethodName)) ∈ lw_all := lw_g (lw_at lw_m10 212 rfl) rfl
theorem q2471 : (Jvm.Cond.code ({ cls := "VowelChoirModel", name := "who", desc := "(I)I" } : Jvm.MethodName) prog_34_method_85_code (5 : Nat) (Option.some Jvm.ClassFile.FieldType.int)) ∈ lw_all := lw_g (lw_at lw_m10 213 rfl) rfl
theorem q2472 : (Jvm.Cond.methodLink "VowelChoirModel" (355 : Nat) ({ cls := "VowelChoirModel", name := "isHeard", desc := "(I)Z" } : Jvm.MethodName)) ∈ lw_all := lw_g (lw_at lw_m10 214 rfl) rfl
theorem q2473 : (Jvm.Cond.privateMethod ({ cls := "VowelChoirModel", name := "isHeard", desc := "(I)Z" } : Jvm.MethodName)) ∈ lw_tbl := lw_at lw_m10 215 rfl
theorem q2474 : (Jvm.Cond.instanceMethod ({ cls := "VowelChoirModel", name := "isHeard", desc := "(I)Z" } : Jvm.MethodName)) ∈ lw_all := lw_g (lw_at lw_m10 216 rfl) rfl
theorem q2475 : (Jvm.Cond.code ({ cls := "VowelChoirModel", name := "isHeard", desc := "(I)Z" } : Jvm.MethodName) prog_34_method_84_code (3 : Nat) (Option.some Jvm.ClassFile.FieldType.boolean)) ∈ lw_all := lw_g (lw_at lw_m10 217 rfl) rfl
theorem q2477 : (Jvm.Cond.instanceMethod ({ cls := "VowelChoirModel", name := "listen", desc := "(I)I" } : Jvm.MethodName)) ∈ lw_all := lw_g (lw_at lw_m10 219 rfl) rfl
theorem q2478 : (Jvm.Cond.selects "VowelChoirModel" ({ cls := "VowelChoirModel", name := "listen", desc := "(I)I" } : Jvm.MethodName) ({ cls := "VowelChoirModel", name := "listen", desc := "(I)I" } : Jvm.MethodName)) ∈ lw_all := lw_g (lw_at lw_m10 220 rfl) rfl
theorem q2479 : (Jvm.Cond.code ({ cls := "VowelChoirModel", name := "listen", desc := "(I)I" } : Jvm.MethodName) prog_34_method_88_code (6 : Nat) (Option.some Jvm.ClassFile.FieldType.int)) ∈ lw_all := lw_g (lw_at lw_m10 221 rfl) rfl
theorem q2480 : (Jvm.Cond.methodLink "VowelChoirModel" (358 : Nat) ({ cls := "VowelChoirModel", name := "isTold", desc := "(I)Z" } : Jvm.MethodName)) ∈ lw_all := lw_g (lw_at lw_m10 222 rfl) rfl
theorem q2481 : (Jvm.Cond.privateMethod ({ cls := "VowelChoirModel", name := "isTold", desc := "(I)Z" } : Jvm.MethodName)) ∈ lw_tbl := lw_at lw_m10 223 rfl
theorem q2482 : (Jvm.Cond.instanceMethod ({ cls := "VowelChoirModel", name := "isTold", desc := "(I)Z" } : Jvm.MethodName)) ∈ lw_all := lw_g (lw_at lw_m10 224 rfl) rfl
theorem q2483 : (Jvm.Cond.code ({ cls := "VowelChoirModel", name := "isTold", desc := "(I)Z" } : Jvm.MethodName) prog_34_method_86_code (3 : Nat) (Option.some Jvm.ClassFile.FieldType.boolean)) ∈ lw_all := lw_g (lw_at lw_m10 225 rfl) rfl
theorem q2484 : (Jvm.Cond.methodLink "VowelChoirModel" (361 : Nat) ({ cls := "VowelChoirModel", name := "worstOf", desc := "(I)I" } : Jvm.MethodName)) ∈ lw_all := lw_g (lw_at lw_m10 226 rfl) rfl
theorem q2485 : (Jvm.Cond.privateMethod ({ cls := "VowelChoirModel", name := "worstOf", desc := "(I)I" } : Jvm.MethodName)) ∈ lw_tbl := lw_at lw_m10 227 rfl
theorem q2486 : (Jvm.Cond.instanceMethod ({ cls := "VowelChoirModel", name := "worstOf", desc := "(I)I" } : Jvm.MethodName)) ∈ lw_all := lw_g (lw_at lw_m10 228 rfl) rfl
theorem q2487 : (Jvm.Cond.code ({ cls := "VowelChoirModel", name := "worstOf", desc := "(I)I" } : Jvm.MethodName) prog_34_method_87_code (5 : Nat) (Option.some Jvm.ClassFile.FieldType.int)) ∈ lw_all := lw_g (lw_at lw_m10 229 rfl) rfl
theorem q2489 : (Jvm.Cond.instanceMethod ({ cls := "VowelChoirModel", name := "duty", desc := "(I)I" } : Jvm.MethodName)) ∈ lw_all := lw_g (lw_at lw_m10 231 rfl) rfl
theorem q2490 : (Jvm.Cond.selects "VowelChoirModel" ({ cls := "VowelChoirModel", name := "duty", desc := "(I)I" } : Jvm.MethodName) ({ cls := "VowelChoirModel", name := "duty", desc := "(I)I" } : Jvm.MethodName)) ∈ lw_all := lw_g (lw_at lw_m10 232 rfl) rfl
theorem q2491 : (Jvm.Cond.code ({ cls := "VowelChoirModel", name := "duty", desc := "(I)I" } : Jvm.MethodName) prog_34_method_89_code (4 : Nat) (Option.some Jvm.ClassFile.FieldType.int)) ∈ lw_all := lw_g (lw_at lw_m10 233 rfl) rfl
theorem q2493 : (Jvm.Cond.instanceMethod ({ cls := "VowelChoirModel", name := "range", desc := "(I)I" } : Jvm.MethodName)) ∈ lw_all := lw_g (lw_at lw_m10 235 rfl) rfl
theorem q2494 : (Jvm.Cond.selects "VowelChoirModel" ({ cls := "VowelChoirModel", name := "range", desc := "(I)I" } : Jvm.MethodName) ({ cls := "VowelChoirModel", name := "range", desc := "(I)I" } : Jvm.MethodName)) ∈ lw_all := lw_g (lw_at lw_m10 236 rfl) rfl
theorem q2495 : (Jvm.Cond.code ({ cls := "VowelChoirModel", name := "range", desc := "(I)I" } : Jvm.MethodName) prog_34_method_90_code (5 : Nat) (Option.some Jvm.ClassFile.FieldType.int)) ∈ lw_all := lw_g (lw_at lw_m10 237 rfl) rfl
theorem q2497 : (Jvm.Cond.instanceMethod ({ cls := "VowelChoirModel", name := "quarrel", desc := "(III)I" } : Jvm.MethodName)) ∈ lw_all := lw_g (lw_at lw_m10 239 rfl) rfl
theorem q2498 : (Jvm.Cond.selects "VowelChoirModel" ({ cls := "VowelChoirModel", name := "quarrel", desc := "(III)I" } : Jvm.MethodName) ({ cls := "VowelChoirModel", name := "quarrel", desc := "(III)I" } : Jvm.MethodName)) ∈ lw_all := lw_g (lw_at lw_m11 0 rfl) rfl
theorem q2499 : (Jvm.Cond.code ({ cls := "VowelChoirModel", name := "quarrel", desc := "(III)I" } : Jvm.MethodName) prog_34_method_93_code (9 : Nat) (Option.some Jvm.ClassFile.FieldType.int)) ∈ lw_all := lw_g (lw_at lw_m11 1 rfl) rfl
theorem q2500 : (Jvm.Cond.methodLink "VowelChoirModel" (368 : Nat) ({ cls := "VowelChoirModel", name := "isBest", desc := "(IIII)Z" } : Jvm.MethodName)) ∈ lw_all := lw_g (lw_at lw_m11 2 rfl) rfl
theorem q2501 : (Jvm.Cond.static ({ cls := "VowelChoirModel", name := "isBest", desc := "(IIII)Z" } : Jvm.MethodName)) ∈ lw_all := lw_g (lw_at lw_m11 3 rfl) rfl
theorem q2502 : (Jvm.Cond.code ({ cls := "VowelChoirModel", name := "isBest", desc := "(IIII)Z" } : Jvm.MethodName) prog_34_method_92_code (4 : Nat) (Option.some Jvm.ClassFile.FieldType.boolean)) ∈ lw_all := lw_g (lw_at lw_m11 4 rfl) rfl
theorem q2503 : (Jvm.Cond.methodLink "VowelChoirModel" (364 : Nat) ({ cls := "VowelChoirModel", name := "hasBy", desc := "(IIII)I" } : Jvm.MethodName)) ∈ lw_all := lw_g (lw_at lw_m11 5 rfl) rfl
theorem q2504 : (Jvm.Cond.static ({ cls := "VowelChoirModel", name := "hasBy", desc := "(IIII)I" } : Jvm.MethodName)) ∈ lw_all := lw_g (lw_at lw_m11 6 rfl) rfl
theorem q2505 : (Jvm.Cond.code ({ cls := "VowelChoirModel", name := "hasBy", desc := "(IIII)I" } : Jvm.MethodName) prog_34_method_91_code (4 : Nat) (Option.some Jvm.ClassFile.FieldType.int)) ∈ lw_all := lw_g (lw_at lw_m11 7 rfl) rfl
theorem q2507 : (Jvm.Cond.instanceMethod ({ cls := "VowelChoirModel", name := "enough", desc := "(IIII)J" } : Jvm.MethodName)) ∈ lw_all := lw_g (lw_at lw_m11 9 rfl) rfl
theorem q2508 : (Jvm.Cond.selects "VowelChoirModel" ({ cls := "VowelChoirModel", name := "enough", desc := "(IIII)J" } : Jvm.MethodName) ({ cls := "VowelChoirModel", name := "enough", desc := "(IIII)J" } : Jvm.MethodName)) ∈ lw_all := lw_g (lw_at lw_m11 10 rfl) rfl
theorem q2509 : (Jvm.Cond.code ({ cls := "VowelChoirModel", name := "enough", desc := "(IIII)J" } : Jvm.MethodName) prog_34_method_94_code (15 : Nat) (Option.some Jvm.ClassFile.FieldType.long)) ∈ lw_all := lw_g (lw_at lw_m11 11 rfl) rfl
theorem q2511 : (Jvm.Cond.instanceMethod ({ cls := "VowelChoirModel", name := "rent", desc := "(III)I" } : Jvm.MethodName)) ∈ lw_all := lw_g (lw_at lw_m11 13 rfl) rfl
theorem q2512 : (Jvm.Cond.selects "VowelChoirModel" ({ cls := "VowelChoirModel", name := "rent", desc := "(III)I" } : Jvm.MethodName) ({ cls := "VowelChoirModel", name := "rent", desc := "(III)I" } : Jvm.MethodName)) ∈ lw_all := lw_g (lw_at lw_m11 14 rfl) rfl
theorem q2513 : (Jvm.Cond.code ({ cls := "VowelChoirModel", name := "rent", desc := "(III)I" } : Jvm.MethodName) prog_34_method_96_code (5 : Nat) (Option.some Jvm.ClassFile.FieldType.int)) ∈ lw_all := lw_g (lw_at lw_m11 15 rfl) rfl
theorem q2514 : (Jvm.Cond.methodLink "VowelChoirModel" (372 : Nat) ({ cls := "VowelChoirModel", name := "givenBy", desc := "(II)I" } : Jvm.MethodName)) ∈ lw_all := lw_g (lw_at lw_m11 16 rfl) rfl
theorem q2515 : (Jvm.Cond.privateMethod ({ cls := "VowelChoirModel", name := "givenBy", desc := "(II)I" } : Jvm.MethodName)) ∈ lw_tbl := lw_at lw_m11 17 rfl
theorem q2516 : (Jvm.Cond.instanceMethod ({ cls := "VowelChoirModel", name := "givenBy", desc := "(II)I" } : Jvm.MethodName)) ∈ lw_all := lw_g (lw_at lw_m11 18 rfl) rfl
theorem q2517 : (Jvm.Cond.code ({ cls := "VowelChoirModel", name := "givenBy", desc := "(II)I" } : Jvm.MethodName) prog_34_method_95_code (5 : Nat) (Option.some Jvm.ClassFile.FieldType.int)) ∈ lw_all := lw_g (lw_at lw_m11 19 rfl) rfl
theorem q2519 : (Jvm.Cond.instanceMethod ({ cls := "VowelChoirModel", name := "dearest", desc := "(I)I" } : Jvm.MethodName)) ∈ lw_all := lw_g (lw_at lw_m11 21 rfl) rfl
theorem q2520 : (Jvm.Cond.selects "VowelChoirModel" ({ cls := "VowelChoirModel", name := "dearest", desc := "(I)I" } : Jvm.MethodName) ({ cls := "VowelChoirModel", name := "dearest", desc := "(I)I" } : Jvm.MethodName)) ∈ lw_all := lw_g (lw_at lw_m11 22 rfl) rfl
theorem q2521 : (Jvm.Cond.code ({ cls := "VowelChoirModel", name := "dearest", desc := "(I)I" } : Jvm.MethodName) prog_34_method_97_code (4 : Nat) (Option.some Jvm.ClassFile.FieldType.int)) ∈ lw_all := lw_g (lw_at lw_m11 23 rfl) rfl
theorem q2523 : (Jvm.Cond.instanceMethod ({ cls := "VowelChoirModel", name := "voices", desc := "(I)I" } : Jvm.MethodName)) ∈ lw_all := lw_g (lw_at lw_m11 25 rfl) rfl
theorem q2524 : (Jvm.Cond.selects "VowelChoirModel" ({ cls := "VowelChoirModel", name := "voices", desc := "(I)I" } : Jvm.MethodName) ({ cls := "VowelChoirModel", name := "voices", desc := "(I)I" } : Jvm.MethodName)) ∈ lw_all := lw_g (lw_at lw_m11 26 rfl) rfl
theorem q2525 : (Jvm.Cond.code ({ cls := "VowelChoirModel", name := "voices", desc := "(I)I" } : Jvm.MethodName) prog_34_method_98_code (4 : Nat) (Option.some Jvm.ClassFile.FieldType.int)) ∈ lw_all := lw_g (lw_at lw_m11 27 rfl) rfl
theorem q2527 : (Jvm.Cond.instanceMethod ({ cls := "VowelChoirModel", name := "sounds", desc := "(I)I" } : Jvm.MethodName)) ∈ lw_all := lw_g (lw_at lw_m11 29 rfl) rfl
theorem q2528 : (Jvm.Cond.selects "VowelChoirModel" ({ cls := "VowelChoirModel", name := "sounds", desc := "(I)I" } : Jvm.MethodName) ({ cls := "VowelChoirModel", name := "sounds", desc := "(I)I" } : Jvm.MethodName)) ∈ lw_all := lw_g (lw_at lw_m11 30 rfl) rfl
theorem q2529 : (Jvm.Cond.code ({ cls := "VowelChoirModel", name := "sounds", desc := "(I)I" } : Jvm.MethodName) prog_34_method_99_code (4 : Nat) (Option.some Jvm.ClassFile.FieldType.int)) ∈ lw_all := lw_g (lw_at lw_m11 31 rfl) rfl
theorem q2531 : (Jvm.Cond.instanceMethod ({ cls := "VowelChoirModel", name := "beats", desc := "(I)I" } : Jvm.MethodName)) ∈ lw_all := lw_g (lw_at lw_m11 33 rfl) rfl
theorem q2532 : (Jvm.Cond.selects "VowelChoirModel" ({ cls := "VowelChoirModel", name := "beats", desc := "(I)I" } : Jvm.MethodName) ({ cls := "VowelChoirModel", name := "beats", desc := "(I)I" } : Jvm.MethodName)) ∈ lw_all := lw_g (lw_at lw_m11 34 rfl) rfl
theorem q2533 : (Jvm.Cond.code ({ cls := "VowelChoirModel", name := "beats", desc := "(I)I" } : Jvm.MethodName) prog_34_method_100_code (4 : Nat) (Option.some Jvm.ClassFile.FieldType.int)) ∈ lw_all := lw_g (lw_at lw_m11 35 rfl) rfl
theorem q2535 : (Jvm.Cond.instanceMethod ({ cls := "VowelChoirModel", name := "words", desc := "(I)I" } : Jvm.MethodName)) ∈ lw_all := lw_g (lw_at lw_m11 37 rfl) rfl
theorem q2536 : (Jvm.Cond.selects "VowelChoirModel" ({ cls := "VowelChoirModel", name := "words", desc := "(I)I" } : Jvm.MethodName) ({ cls := "VowelChoirModel", name := "words", desc := "(I)I" } : Jvm.MethodName)) ∈ lw_all := lw_g (lw_at lw_m11 38 rfl) rfl
theorem q2537 : (Jvm.Cond.code ({ cls := "VowelChoirModel", name := "words", desc := "(I)I" } : Jvm.MethodName) prog_34_method_101_code (2 : Nat) (Option.some Jvm.ClassFile.FieldType.int)) ∈ lw_all := lw_g (lw_at lw_m11 39 rfl) rfl
theorem q2539 : (Jvm.Cond.instanceMethod ({ cls := "VowelChoirModel", name := "mute", desc := "()I" } : Jvm.MethodName)) ∈ lw_all := lw_g (lw_at lw_m11 41 rfl) rfl
theorem q2540 : (Jvm.Cond.selects "VowelChoirModel" ({ cls := "VowelChoirModel", name := "mute", desc := "()I" } : Jvm.MethodName) ({ cls := "VowelChoirModel", name := "mute", desc := "()I" } : Jvm.MethodName)) ∈ lw_all := lw_g (lw_at lw_m11 42 rfl) rfl
theorem q2541 : (Jvm.Cond.code ({ cls := "VowelChoirModel", name := "mute", desc := "()I" } : Jvm.MethodName) prog_34_method_102_code (3 : Nat) (Option.some Jvm.ClassFile.FieldType.int)) ∈ lw_all := lw_g (lw_at lw_m11 43 rfl) rfl
theorem q2543 : (Jvm.Cond.instanceMethod ({ cls := "VowelChoirModel", name := "idle", desc := "()I" } : Jvm.MethodName)) ∈ lw_all := lw_g (lw_at lw_m11 45 rfl) rfl
theorem q2544 : (Jvm.Cond.selects "VowelChoirModel" ({ cls := "VowelChoirModel", name := "idle", desc := "()I" } : Jvm.MethodName) ({ cls := "VowelChoirModel", name := "idle", desc := "()I" } : Jvm.MethodName)) ∈ lw_all := lw_g (lw_at lw_m11 46 rfl) rfl
theorem q2545 : (Jvm.Cond.code ({ cls := "VowelChoirModel", name := "idle", desc := "()I" } : Jvm.MethodName) prog_34_method_103_code (3 : Nat) (Option.some Jvm.ClassFile.FieldType.int)) ∈ lw_all := lw_g (lw_at lw_m11 47 rfl) rfl
theorem q2547 : (Jvm.Cond.instanceMethod ({ cls := "VowelChoirModel", name := "alone", desc := "(I)I" } : Jvm.MethodName)) ∈ lw_all := lw_g (lw_at lw_m11 49 rfl) rfl
theorem q2548 : (Jvm.Cond.selects "VowelChoirModel" ({ cls := "VowelChoirModel", name := "alone", desc := "(I)I" } : Jvm.MethodName) ({ cls := "VowelChoirModel", name := "alone", desc := "(I)I" } : Jvm.MethodName)) ∈ lw_all := lw_g (lw_at lw_m11 50 rfl) rfl
theorem q2549 : (Jvm.Cond.code ({ cls := "VowelChoirModel", name := "alone", desc := "(I)I" } : Jvm.MethodName) prog_34_method_104_code (5 : Nat) (Option.some Jvm.ClassFile.FieldType.int)) ∈ lw_all := lw_g (lw_at lw_m11 51 rfl) rfl
theorem q2551 : (Jvm.Cond.instanceMethod ({ cls := "VowelChoirModel", name := "longest", desc := "(I)I" } : Jvm.MethodName)) ∈ lw_all := lw_g (lw_at lw_m11 53 rfl) rfl
theorem q2552 : (Jvm.Cond.selects "VowelChoirModel" ({ cls := "VowelChoirModel", name := "longest", desc := "(I)I" } : Jvm.MethodName) ({ cls := "VowelChoirModel", name := "longest", desc := "(I)I" } : Jvm.MethodName)) ∈ lw_all := lw_g (lw_at lw_m11 54 rfl) rfl
theorem q2553 : (Jvm.Cond.code ({ cls := "VowelChoirModel", name := "longest", desc := "(I)I" } : Jvm.MethodName) prog_34_method_105_code (4 : Nat) (Option.some Jvm.ClassFile.FieldType.int)) ∈ lw_all := lw_g (lw_at lw_m11 55 rfl) rfl
theorem q2555 : (Jvm.Cond.instanceMethod ({ cls := "VowelChoirModel", name := "chorus", desc := "(I)I" } : Jvm.MethodName)) ∈ lw_all := lw_g (lw_at lw_m11 57 rfl) rfl
theorem q2556 : (Jvm.Cond.selects "VowelChoirModel" ({ cls := "VowelChoirModel", name := "chorus", desc := "(I)I" } : Jvm.MethodName) ({ cls := "VowelChoirModel", name := "chorus", desc := "(I)I" } : Jvm.MethodName)) ∈ lw_all := lw_g (lw_at lw_m11 58 rfl) rfl
theorem q2557 : (Jvm.Cond.code ({ cls := "VowelChoirModel", name := "chorus", desc := "(I)I" } : Jvm.MethodName) prog_34_method_106_code (2 : Nat) (Option.some Jvm.ClassFile.FieldType.int)) ∈ lw_all := lw_g (lw_at lw_m11 59 rfl) rfl
theorem q2559 : (Jvm.Cond.instanceMethod ({ cls := "VowelChoirModel", name := "spare", desc := "(I)I" } : Jvm.MethodName)) ∈ lw_all := lw_g (lw_at lw_m11 61 rfl) rfl
theorem q2560 : (Jvm.Cond.selects "VowelChoirModel" ({ cls := "VowelChoirModel", name := "spare", desc := "(I)I" } : Jvm.MethodName) ({ cls := "VowelChoirModel", name := "spare", desc := "(I)I" } : Jvm.MethodName)) ∈ lw_all := lw_g (lw_at lw_m11 62 rfl) rfl
theorem q2561 : (Jvm.Cond.code ({ cls := "VowelChoirModel", name := "spare", desc := "(I)I" } : Jvm.MethodName) prog_34_method_107_code (4 : Nat) (Option.some Jvm.ClassFile.FieldType.int)) ∈ lw_all := lw_g (lw_at lw_m11 63 rfl) rfl
theorem q2563 : (Jvm.Cond.instanceMethod ({ cls := "VowelChoirModel", name := "sunday", desc := "(IIII)I" } : Jvm.MethodName)) ∈ lw_all := lw_g (lw_at lw_m11 65 rfl) rfl
theorem q2564 : (Jvm.Cond.selects "VowelChoirModel" ({ cls := "VowelChoirModel", name := "sunday", desc := "(IIII)I" } : Jvm.MethodName) ({ cls := "VowelChoirModel", name := "sunday", desc := "(IIII)I" } : Jvm.MethodName)) ∈ lw_all := lw_g (lw_at lw_m11 66 rfl) rfl
theorem q2565 : (Jvm.Cond.code ({ cls := "VowelChoirModel", name := "sunday", desc := "(IIII)I" } : Jvm.MethodName) prog_34_method_111_code (5 : Nat) (Option.some Jvm.ClassFile.FieldType.int)) ∈ lw_all := lw_g (lw_at lw_m11 67 rfl) rfl
theorem q2566 : (Jvm.Cond.methodLink "VowelChoirModel" (382 : Nat) ({ cls := "VowelChoirModel", name := "isSunday", desc := "(II)Z" } : Jvm.MethodName)) ∈ lw_all := lw_g (lw_at lw_m11 68 rfl) rfl
theorem q2567 : (Jvm.Cond.static ({ cls := "VowelChoirModel", name := "isSunday", desc := "(II)Z" } : Jvm.MethodName)) ∈ lw_all := lw_g (lw_at lw_m11 69 rfl) rfl
theorem q2568 : (Jvm.Cond.code ({ cls := "VowelChoirModel", name := "isSunday", desc := "(II)Z" } : Jvm.MethodName) prog_34_method_110_code (2 : Nat) (Option.some Jvm.ClassFile.FieldType.boolean)) ∈ lw_all := lw_g (lw_at lw_m11 70 rfl) rfl
theorem q2569 : (Jvm.Cond.methodLink "VowelChoirModel" (385 : Nat) ({ cls := "VowelChoirModel", name := "sundayBy", desc := "(III)V" } : Jvm.MethodName)) ∈ lw_all := lw_g (lw_at lw_m11 71 rfl) rfl
theorem q2570 : (Jvm.Cond.privateMethod ({ cls := "VowelChoirModel", name := "sundayBy", desc := "(III)V" } : Jvm.MethodName)) ∈ lw_tbl := lw_at lw_m11 72 rfl
theorem q2571 : (Jvm.Cond.instanceMethod ({ cls := "VowelChoirModel", name := "sundayBy", desc := "(III)V" } : Jvm.MethodName)) ∈ lw_all := lw_g (lw_at lw_m11 73 rfl) rfl
theorem q2572 : (Jvm.Cond.code ({ cls := "VowelChoirModel", name := "sundayBy", desc := "(III)V" } : Jvm.MethodName) prog_34_method_109_code (6 : Nat) (Option.none : Option Jvm.ClassFile.FieldType)) ∈ lw_all := lw_g (lw_at lw_m11 74 rfl) rfl
theorem q2573 : (Jvm.Cond.methodLink "VowelChoirModel" (379 : Nat) ({ cls := "VowelChoirModel", name := "draw", desc := "(I)I" } : Jvm.MethodName)) ∈ lw_all := lw_g (lw_at lw_m11 75 rfl) rfl
theorem q2574 : (Jvm.Cond.privateMethod ({ cls := "VowelChoirModel", name := "draw", desc := "(I)I" } : Jvm.MethodName)) ∈ lw_tbl := lw_at lw_m11 76 rfl
theorem q2575 : (Jvm.Cond.instanceMethod ({ cls := "VowelChoirModel", name := "draw", desc := "(I)I" } : Jvm.MethodName)) ∈ lw_all := lw_g (lw_at lw_m11 77 rfl) rfl
theorem q2576 : (Jvm.Cond.code ({ cls := "VowelChoirModel", name := "draw", desc := "(I)I" } : Jvm.MethodName) prog_34_method_108_code (2 : Nat) (Option.some Jvm.ClassFile.FieldType.int)) ∈ lw_all := lw_g (lw_at lw_m11 78 rfl) rfl
theorem q2577 : (Jvm.Cond.constant "VowelChoirModel" (378 : Nat) (1103515245 : Int32)) ∈ lw_all := lw_g (lw_at lw_m11 79 rfl) rfl
theorem q2579 : (Jvm.Cond.instanceMethod ({ cls := "VowelChoirModel", name := "span", desc := "(IIIIII)I" } : Jvm.MethodName)) ∈ lw_all := lw_g (lw_at lw_m11 81 rfl) rfl
theorem q2580 : (Jvm.Cond.selects "VowelChoirModel" ({ cls := "VowelChoirModel", name := "span", desc := "(IIIIII)I" } : Jvm.MethodName) ({ cls := "VowelChoirModel", name := "span", desc := "(IIIIII)I" } : Jvm.MethodName)) ∈ lw_all := lw_g (lw_at lw_m11 82 rfl) rfl
theorem q2581 : (Jvm.Cond.code ({ cls := "VowelChoirModel", name := "span", desc := "(IIIIII)I" } : Jvm.MethodName) prog_34_method_112_code (12 : Nat) (Option.some Jvm.ClassFile.FieldType.int)) ∈ lw_all := lw_g (lw_at lw_m11 83 rfl) rfl
theorem q2583 : (Jvm.Cond.instanceMethod ({ cls := "VowelChoirModel", name := "image", desc := "()I" } : Jvm.MethodName)) ∈ lw_all := lw_g (lw_at lw_m11 85 rfl) rfl
theorem q2584 : (Jvm.Cond.selects "VowelChoirModel" ({ cls := "VowelChoirModel", name := "image", desc := "()I" } : Jvm.MethodName) ({ cls := "VowelChoirModel", name := "image", desc := "()I" } : Jvm.MethodName)) ∈ lw_all := lw_g (lw_at lw_m11 86 rfl) rfl
theorem q2585 : (Jvm.Cond.code ({ cls := "VowelChoirModel", name := "image", desc := "()I" } : Jvm.MethodName) prog_34_method_115_code (1 : Nat) (Option.some Jvm.ClassFile.FieldType.int)) ∈ lw_all := lw_g (lw_at lw_m11 87 rfl) rfl
theorem q2586 : (Jvm.Cond.methodLink "VowelChoirModel" (395 : Nat) ({ cls := "VowelChoirModel", name := "putsAll", desc := "([IZ)V" } : Jvm.MethodName)) ∈ lw_all := lw_g (lw_at lw_m11 88 rfl) rfl
theorem q2587 : (Jvm.Cond.privateMethod ({ cls := "VowelChoirModel", name := "putsAll", desc := "([IZ)V" } : Jvm.MethodName)) ∈ lw_tbl := lw_at lw_m11 89 rfl
theorem q2588 : (Jvm.Cond.instanceMethod ({ cls := "VowelChoirModel", name := "putsAll", desc := "([IZ)V" } : Jvm.MethodName)) ∈ lw_all := lw_g (lw_at lw_m11 90 rfl) rfl
theorem q2589 : (Jvm.Cond.code ({ cls := "VowelChoirModel", name := "putsAll", desc := "([IZ)V" } : Jvm.MethodName) prog_34_method_114_code (5 : Nat) (Option.none : Option Jvm.ClassFile.FieldType)) ∈ lw_all := lw_g (lw_at lw_m11 91 rfl) rfl
theorem q2590 : (Jvm.Cond.methodLink "VowelChoirModel" (391 : Nat) ({ cls := "VowelChoirModel", name := "puts", desc := "([IIZ)I" } : Jvm.MethodName)) ∈ lw_all := lw_g (lw_at lw_m11 92 rfl) rfl
theorem q2591 : (Jvm.Cond.privateMethod ({ cls := "VowelChoirModel", name := "puts", desc := "([IIZ)I" } : Jvm.MethodName)) ∈ lw_tbl := lw_at lw_m11 93 rfl
theorem q2592 : (Jvm.Cond.instanceMethod ({ cls := "VowelChoirModel", name := "puts", desc := "([IIZ)I" } : Jvm.MethodName)) ∈ lw_all := lw_g (lw_at lw_m11 94 rfl) rfl
theorem q2593 : (Jvm.Cond.code ({ cls := "VowelChoirModel", name := "puts", desc := "([IIZ)I" } : Jvm.MethodName) prog_34_method_113_code (4 : Nat) (Option.some Jvm.ClassFile.FieldType.int)) ∈ lw_all := lw_g (lw_at lw_m11 95 rfl) rfl
theorem q2595 : (Jvm.Cond.instanceMethod ({ cls := "VowelChoirModel", name := "restore", desc := "()I" } : Jvm.MethodName)) ∈ lw_all := lw_g (lw_at lw_m11 97 rfl) rfl
theorem q2596 : (Jvm.Cond.selects "VowelChoirModel" ({ cls := "VowelChoirModel", name := "restore", desc := "()I" } : Jvm.MethodName) ({ cls := "VowelChoirModel", name := "restore", desc := "()I" } : Jvm.MethodName)) ∈ lw_all := lw_g (lw_at lw_m11 98 rfl) rfl
theorem q2597 : (Jvm.Cond.code ({ cls := "VowelChoirModel", name := "restore", desc := "()I" } : Jvm.MethodName) prog_34_method_116_code (1 : Nat) (Option.some Jvm.ClassFile.FieldType.int)) ∈ lw_all := lw_g (lw_at lw_m11 99 rfl) rfl
theorem q2599 : (Jvm.Cond.instanceMethod ({ cls := "VowelChoirModel", name := "status", desc := "(I)I" } : Jvm.MethodName)) ∈ lw_all := lw_g (lw_at lw_m11 101 rfl) rfl
theorem q2600 : (Jvm.Cond.selects "VowelChoirModel" ({ cls := "VowelChoirModel", name := "status", desc := "(I)I" } : Jvm.MethodName) ({ cls := "VowelChoirModel", name := "status", desc := "(I)I" } : Jvm.MethodName)) ∈ lw_all := lw_g (lw_at lw_m11 102 rfl) rfl
theorem q2601 : (Jvm.Cond.code ({ cls := "VowelChoirModel", name := "status", desc := "(I)I" } : Jvm.MethodName) prog_34_method_117_code (2 : Nat) (Option.some Jvm.ClassFile.FieldType.int)) ∈ lw_all := lw_g (lw_at lw_m11 103 rfl) rfl
theorem q2603 : (Jvm.Cond.instanceMethod ({ cls := "VowelChoirModel", name := "count", desc := "(I)I" } : Jvm.MethodName)) ∈ lw_all := lw_g (lw_at lw_m11 105 rfl) rfl
theorem q2604 : (Jvm.Cond.selects "VowelChoirModel" ({ cls := "VowelChoirModel", name := "count", desc := "(I)I" } : Jvm.MethodName) ({ cls := "VowelChoirModel", name := "count", desc := "(I)I" } : Jvm.MethodName)) ∈ lw_all := lw_g (lw_at lw_m11 106 rfl) rfl
theorem q2605 : (Jvm.Cond.code ({ cls := "VowelChoirModel", name := "count", desc := "(I)I" } : Jvm.MethodName) prog_34_method_118_code (2 : Nat) (Option.some Jvm.ClassFile.FieldType.int)) ∈ lw_all := lw_g (lw_at lw_m11 107 rfl) rfl
theorem q2643 : (Jvm.Cond.castable "VowelChoirModel" "java/lang/Object") ∈ lw_tbl := lw_at lw_m11 145 rfl
theorem in_X6 : ∀ w ∈ wsX60, w ∈ lw_all := lw_in wsX60 [2074, 2076, 2078, 2080, 2082, 2084, 2086, 2088, 2090, 2092, 2094, 2096, 2098, 2100, 2102, 2104, 2106, 2108, 2110, 2112, 2114, 2116, 2118, 2120, 2122, 2124, 2126, 2128, 2130, 2132, 2134, 2136, 2138, 2140, 2142, 2144, 2146, 2148, 2150, 2152, 2154, 2156, 2158, 2160, 2162, 2164] (by decide +kernel) (by decide +kernel)
