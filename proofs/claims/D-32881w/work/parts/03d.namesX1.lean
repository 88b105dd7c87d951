/-! FigureSurvey -/
set_option maxRecDepth 100000
def RX1 : String := "FigureSurvey"
def TX1 : u_T := fun k => match k with
  | 0 => ("FigureSurvey", "need", "[I", true)
  | 1 => ("FigureSurvey", "panels", "Ljava/util/ArrayList;", true)
  | 2 => ("FigureSurvey", "strokes", "Ljava/util/ArrayList;", true)
  | 3 => ("FigureSurvey", "figures", "Ljava/util/ArrayList;", true)
  | 4 => ("FigureSurvey", "tracings", "Ljava/util/ArrayList;", true)
  | 5 => ("FigureSurvey", "findings", "Ljava/util/TreeMap;", true)
  | 6 => ("FigureSurvey", "told", "I", false)
  | 7 => ("FigureSurvey", "weaponYears", "[I", true)
  | 8 => ("FigureSurvey", "animalYears", "[I", true)
  | 9 => ("FigureSurvey", "styles", "Ljava/util/ArrayList;", true)
  | 10 => ("FigureSurvey", "entries", "Ljava/util/ArrayList;", true)
  | 11 => ("FigureSurvey", "works", "Ljava/util/ArrayList;", true)
  | 12 => ("FigureSurvey", "names", "I", false)
  | 13 => ("FigureSurvey", "year", "I", false)
  | 14 => ("FigureSurvey", "damLevel", "I", false)
  | 15 => ("FigureSurvey", "damYear", "I", false)
  | _ => ("FigureSurvey", "match", "[[I", true)
def tyX1 : Nat → FieldType := fun k => match k with
  | 0 => .array .int
  | 1 => .object "java/util/ArrayList"
  | 2 => .object "java/util/ArrayList"
  | 3 => .object "java/util/ArrayList"
  | 4 => .object "java/util/ArrayList"
  | 5 => .object "java/util/TreeMap"
  | 6 => .int
  | 7 => .array .int
  | 8 => .array .int
  | 9 => .object "java/util/ArrayList"
  | 10 => .object "java/util/ArrayList"
  | 11 => .object "java/util/ArrayList"
  | 12 => .int
  | 13 => .int
  | 14 => .int
  | 15 => .int
  | _ => .array (.array .int)
abbrev wsX10 : List Cond := u_ws RX1 TX1 17
set_option maxRecDepth 100000 in
theorem nmX1 : ∀ a, a < 17 → ∀ b, b < 17 → a ≠ b → (TX1 a).2.1 ≠ (TX1 b).2.1 := by decide +kernel
set_option maxRecDepth 100000 in
theorem tyX1_ok : ∀ k, k < 17 → parseFieldDescriptor (TX1 k).2.2.1 = some (tyX1 k) := by decide +kernel
abbrev cX1_init : ByteArray := prog_1_method_6_code
def yX1_init : MethodName := ⟨RX1, "<init>", "()V"⟩
def dkwX1_init_7 : List UInt8 := [177]
abbrev dktX1_init_7 : List UInt8 := dkwX1_init_7 ++ []
def dkwX1_init_6 : List UInt8 := [183, 0, 48, 181, 0, 81, 42, 2, 181, 0, 84, 42, 16, 9, 17, 1, 0, 197, 0, 88, 2, 181, 0, 90]
abbrev dktX1_init_6 : List UInt8 := dkwX1_init_6 ++ dktX1_init_7
def dkwX1_init_5 : List UInt8 := [183, 0, 48, 181, 0, 75, 42, 187, 0, 46, 89, 183, 0, 48, 181, 0, 78, 42, 187, 0, 46, 89]
abbrev dktX1_init_5 : List UInt8 := dkwX1_init_5 ++ dktX1_init_6
def dkwX1_init_4 : List UInt8 := [17, 117, 48, 79, 89, 6, 17, 117, 48, 79, 89, 7, 17, 117, 48, 79, 181, 0, 72, 42, 187, 0, 46, 89]
abbrev dktX1_init_4 : List UInt8 := dkwX1_init_4 ++ dktX1_init_5
def dkwX1_init_3 : List UInt8 := [188, 10, 181, 0, 69, 42, 8, 188, 10, 89, 3, 17, 117, 48, 79, 89, 4, 17, 117, 48, 79, 89, 5]
abbrev dktX1_init_3 : List UInt8 := dkwX1_init_3 ++ dktX1_init_4
def dkwX1_init_2 : List UInt8 := [187, 0, 46, 89, 183, 0, 48, 181, 0, 59, 42, 187, 0, 62, 89, 183, 0, 64, 181, 0, 65, 42, 8]
abbrev dktX1_init_2 : List UInt8 := dkwX1_init_2 ++ dktX1_init_3
def dkwX1_init_1 : List UInt8 := [42, 187, 0, 46, 89, 183, 0, 48, 181, 0, 53, 42, 187, 0, 46, 89, 183, 0, 48, 181, 0, 56, 42]
abbrev dktX1_init_1 : List UInt8 := dkwX1_init_1 ++ dktX1_init_2
def dkwX1_init_0 : List UInt8 := [42, 183, 0, 41, 42, 17, 1, 0, 188, 10, 181, 0, 7, 42, 187, 0, 46, 89, 183, 0, 48, 181, 0, 49]
abbrev dktX1_init_0 : List UInt8 := dkwX1_init_0 ++ dktX1_init_1
theorem dksX1_init_0 : cX1_init.data.toList.drop 0 = dktX1_init_0 := by decide +kernel
theorem dksX1_init_1 : cX1_init.data.toList.drop 24 = dktX1_init_1 := dk_seg dksX1_init_0 24 rfl rfl
theorem dksX1_init_2 : cX1_init.data.toList.drop 47 = dktX1_init_2 := dk_seg dksX1_init_1 23 rfl rfl
theorem dksX1_init_3 : cX1_init.data.toList.drop 70 = dktX1_init_3 := dk_seg dksX1_init_2 23 rfl rfl
theorem dksX1_init_4 : cX1_init.data.toList.drop 93 = dktX1_init_4 := dk_seg dksX1_init_3 23 rfl rfl
theorem dksX1_init_5 : cX1_init.data.toList.drop 117 = dktX1_init_5 := dk_seg dksX1_init_4 24 rfl rfl
theorem dksX1_init_6 : cX1_init.data.toList.drop 139 = dktX1_init_6 := dk_seg dksX1_init_5 22 rfl rfl
theorem dksX1_init_7 : cX1_init.data.toList.drop 163 = dktX1_init_7 := dk_seg dksX1_init_6 24 rfl rfl
theorem dX1_init_0 : decode cX1_init 0 = .ok (.aload_n 0, 1) := dk_42 (dk_at dksX1_init_0 0 rfl rfl)
theorem dX1_init_1 : decode cX1_init 1 = .ok (.invokespecial 41, 3) := dk_183 0 41 (dk_at dksX1_init_0 1 rfl rfl)
theorem dX1_init_4 : decode cX1_init 4 = .ok (.aload_n 0, 1) := dk_42 (dk_at dksX1_init_0 4 rfl rfl)
theorem dX1_init_5 : decode cX1_init 5 = .ok (.sipush 256, 3) := dk_17 1 0 (dk_at dksX1_init_0 5 rfl rfl)
theorem dX1_init_8 : decode cX1_init 8 = .ok (.newarray .int, 2) := dk_188_10 (dk_at dksX1_init_0 8 rfl rfl)
theorem dX1_init_10 : decode cX1_init 10 = .ok (.putfield 7, 3) := dk_181 0 7 (dk_at dksX1_init_0 10 rfl rfl)
theorem dX1_init_13 : decode cX1_init 13 = .ok (.aload_n 0, 1) := dk_42 (dk_at dksX1_init_0 13 rfl rfl)
theorem dX1_init_14 : decode cX1_init 14 = .ok (.new 46, 3) := dk_187 0 46 (dk_at dksX1_init_0 14 rfl rfl)
theorem dX1_init_17 : decode cX1_init 17 = .ok (.dup, 1) := dk_89 (dk_at dksX1_init_0 17 rfl rfl)
theorem dX1_init_18 : decode cX1_init 18 = .ok (.invokespecial 48, 3) := dk_183 0 48 (dk_at dksX1_init_0 18 rfl rfl)
theorem dX1_init_21 : decode cX1_init 21 = .ok (.putfield 49, 3) := dk_181 0 49 (dk_at dksX1_init_0 21 rfl rfl)
theorem dX1_init_24 : decode cX1_init 24 = .ok (.aload_n 0, 1) := dk_42 (dk_at dksX1_init_1 0 rfl rfl)
theorem dX1_init_25 : decode cX1_init 25 = .ok (.new 46, 3) := dk_187 0 46 (dk_at dksX1_init_1 1 rfl rfl)
theorem dX1_init_28 : decode cX1_init 28 = .ok (.dup, 1) := dk_89 (dk_at dksX1_init_1 4 rfl rfl)
theorem dX1_init_29 : decode cX1_init 29 = .ok (.invokespecial 48, 3) := dk_183 0 48 (dk_at dksX1_init_1 5 rfl rfl)
theorem dX1_init_32 : decode cX1_init 32 = .ok (.putfield 53, 3) := dk_181 0 53 (dk_at dksX1_init_1 8 rfl rfl)
theorem dX1_init_35 : decode cX1_init 35 = .ok (.aload_n 0, 1) := dk_42 (dk_at dksX1_init_1 11 rfl rfl)
theorem dX1_init_36 : decode cX1_init 36 = .ok (.new 46, 3) := dk_187 0 46 (dk_at dksX1_init_1 12 rfl rfl)
theorem dX1_init_39 : decode cX1_init 39 = .ok (.dup, 1) := dk_89 (dk_at dksX1_init_1 15 rfl rfl)
theorem dX1_init_40 : decode cX1_init 40 = .ok (.invokespecial 48, 3) := dk_183 0 48 (dk_at dksX1_init_1 16 rfl rfl)
theorem dX1_init_43 : decode cX1_init 43 = .ok (.putfield 56, 3) := dk_181 0 56 (dk_at dksX1_init_1 19 rfl rfl)
theorem dX1_init_46 : decode cX1_init 46 = .ok (.aload_n 0, 1) := dk_42 (dk_at dksX1_init_1 22 rfl rfl)
theorem dX1_init_47 : decode cX1_init 47 = .ok (.new 46, 3) := dk_187 0 46 (dk_at dksX1_init_2 0 rfl rfl)
theorem dX1_init_50 : decode cX1_init 50 = .ok (.dup, 1) := dk_89 (dk_at dksX1_init_2 3 rfl rfl)
theorem dX1_init_51 : decode cX1_init 51 = .ok (.invokespecial 48, 3) := dk_183 0 48 (dk_at dksX1_init_2 4 rfl rfl)
theorem dX1_init_54 : decode cX1_init 54 = .ok (.putfield 59, 3) := dk_181 0 59 (dk_at dksX1_init_2 7 rfl rfl)
theorem dX1_init_57 : decode cX1_init 57 = .ok (.aload_n 0, 1) := dk_42 (dk_at dksX1_init_2 10 rfl rfl)
theorem dX1_init_58 : decode cX1_init 58 = .ok (.new 62, 3) := dk_187 0 62 (dk_at dksX1_init_2 11 rfl rfl)
theorem dX1_init_61 : decode cX1_init 61 = .ok (.dup, 1) := dk_89 (dk_at dksX1_init_2 14 rfl rfl)
theorem dX1_init_62 : decode cX1_init 62 = .ok (.invokespecial 64, 3) := dk_183 0 64 (dk_at dksX1_init_2 15 rfl rfl)
theorem dX1_init_65 : decode cX1_init 65 = .ok (.putfield 65, 3) := dk_181 0 65 (dk_at dksX1_init_2 18 rfl rfl)
theorem dX1_init_68 : decode cX1_init 68 = .ok (.aload_n 0, 1) := dk_42 (dk_at dksX1_init_2 21 rfl rfl)
theorem dX1_init_69 : decode cX1_init 69 = .ok (.iconst 5, 1) := dk_8 (dk_at dksX1_init_2 22 rfl rfl)
theorem dX1_init_70 : decode cX1_init 70 = .ok (.newarray .int, 2) := dk_188_10 (dk_at dksX1_init_3 0 rfl rfl)
theorem dX1_init_72 : decode cX1_init 72 = .ok (.putfield 69, 3) := dk_181 0 69 (dk_at dksX1_init_3 2 rfl rfl)
theorem dX1_init_75 : decode cX1_init 75 = .ok (.aload_n 0, 1) := dk_42 (dk_at dksX1_init_3 5 rfl rfl)
theorem dX1_init_76 : decode cX1_init 76 = .ok (.iconst 5, 1) := dk_8 (dk_at dksX1_init_3 6 rfl rfl)
theorem dX1_init_77 : decode cX1_init 77 = .ok (.newarray .int, 2) := dk_188_10 (dk_at dksX1_init_3 7 rfl rfl)
theorem dX1_init_79 : decode cX1_init 79 = .ok (.dup, 1) := dk_89 (dk_at dksX1_init_3 9 rfl rfl)
theorem dX1_init_80 : decode cX1_init 80 = .ok (.iconst 0, 1) := dk_3 (dk_at dksX1_init_3 10 rfl rfl)
theorem dX1_init_81 : decode cX1_init 81 = .ok (.sipush 30000, 3) := dk_17 117 48 (dk_at dksX1_init_3 11 rfl rfl)
theorem dX1_init_84 : decode cX1_init 84 = .ok (.iastore, 1) := dk_79 (dk_at dksX1_init_3 14 rfl rfl)
theorem dX1_init_85 : decode cX1_init 85 = .ok (.dup, 1) := dk_89 (dk_at dksX1_init_3 15 rfl rfl)
theorem dX1_init_86 : decode cX1_init 86 = .ok (.iconst 1, 1) := dk_4 (dk_at dksX1_init_3 16 rfl rfl)
theorem dX1_init_87 : decode cX1_init 87 = .ok (.sipush 30000, 3) := dk_17 117 48 (dk_at dksX1_init_3 17 rfl rfl)
theorem dX1_init_90 : decode cX1_init 90 = .ok (.iastore, 1) := dk_79 (dk_at dksX1_init_3 20 rfl rfl)
theorem dX1_init_91 : decode cX1_init 91 = .ok (.dup, 1) := dk_89 (dk_at dksX1_init_3 21 rfl rfl)
theorem dX1_init_92 : decode cX1_init 92 = .ok (.iconst 2, 1) := dk_5 (dk_at dksX1_init_3 22 rfl rfl)
theorem dX1_init_93 : decode cX1_init 93 = .ok (.sipush 30000, 3) := dk_17 117 48 (dk_at dksX1_init_4 0 rfl rfl)
theorem dX1_init_96 : decode cX1_init 96 = .ok (.iastore, 1) := dk_79 (dk_at dksX1_init_4 3 rfl rfl)
theorem dX1_init_97 : decode cX1_init 97 = .ok (.dup, 1) := dk_89 (dk_at dksX1_init_4 4 rfl rfl)
theorem dX1_init_98 : decode cX1_init 98 = .ok (.iconst 3, 1) := dk_6 (dk_at dksX1_init_4 5 rfl rfl)
theorem dX1_init_99 : decode cX1_init 99 = .ok (.sipush 30000, 3) := dk_17 117 48 (dk_at dksX1_init_4 6 rfl rfl)
theorem dX1_init_102 : decode cX1_init 102 = .ok (.iastore, 1) := dk_79 (dk_at dksX1_init_4 9 rfl rfl)
theorem dX1_init_103 : decode cX1_init 103 = .ok (.dup, 1) := dk_89 (dk_at dksX1_init_4 10 rfl rfl)
theorem dX1_init_104 : decode cX1_init 104 = .ok (.iconst 4, 1) := dk_7 (dk_at dksX1_init_4 11 rfl rfl)
theorem dX1_init_105 : decode cX1_init 105 = .ok (.sipush 30000, 3) := dk_17 117 48 (dk_at dksX1_init_4 12 rfl rfl)
theorem dX1_init_108 : decode cX1_init 108 = .ok (.iastore, 1) := dk_79 (dk_at dksX1_init_4 15 rfl rfl)
theorem dX1_init_109 : decode cX1_init 109 = .ok (.putfield 72, 3) := dk_181 0 72 (dk_at dksX1_init_4 16 rfl rfl)
theorem dX1_init_112 : decode cX1_init 112 = .ok (.aload_n 0, 1) := dk_42 (dk_at dksX1_init_4 19 rfl rfl)
theorem dX1_init_113 : decode cX1_init 113 = .ok (.new 46, 3) := dk_187 0 46 (dk_at dksX1_init_4 20 rfl rfl)
theorem dX1_init_116 : decode cX1_init 116 = .ok (.dup, 1) := dk_89 (dk_at dksX1_init_4 23 rfl rfl)
theorem dX1_init_117 : decode cX1_init 117 = .ok (.invokespecial 48, 3) := dk_183 0 48 (dk_at dksX1_init_5 0 rfl rfl)
theorem dX1_init_120 : decode cX1_init 120 = .ok (.putfield 75, 3) := dk_181 0 75 (dk_at dksX1_init_5 3 rfl rfl)
theorem dX1_init_123 : decode cX1_init 123 = .ok (.aload_n 0, 1) := dk_42 (dk_at dksX1_init_5 6 rfl rfl)
theorem dX1_init_124 : decode cX1_init 124 = .ok (.new 46, 3) := dk_187 0 46 (dk_at dksX1_init_5 7 rfl rfl)
theorem dX1_init_127 : decode cX1_init 127 = .ok (.dup, 1) := dk_89 (dk_at dksX1_init_5 10 rfl rfl)
theorem dX1_init_128 : decode cX1_init 128 = .ok (.invokespecial 48, 3) := dk_183 0 48 (dk_at dksX1_init_5 11 rfl rfl)
theorem dX1_init_131 : decode cX1_init 131 = .ok (.putfield 78, 3) := dk_181 0 78 (dk_at dksX1_init_5 14 rfl rfl)
theorem dX1_init_134 : decode cX1_init 134 = .ok (.aload_n 0, 1) := dk_42 (dk_at dksX1_init_5 17 rfl rfl)
theorem dX1_init_135 : decode cX1_init 135 = .ok (.new 46, 3) := dk_187 0 46 (dk_at dksX1_init_5 18 rfl rfl)
theorem dX1_init_138 : decode cX1_init 138 = .ok (.dup, 1) := dk_89 (dk_at dksX1_init_5 21 rfl rfl)
theorem dX1_init_139 : decode cX1_init 139 = .ok (.invokespecial 48, 3) := dk_183 0 48 (dk_at dksX1_init_6 0 rfl rfl)
theorem dX1_init_142 : decode cX1_init 142 = .ok (.putfield 81, 3) := dk_181 0 81 (dk_at dksX1_init_6 3 rfl rfl)
theorem dX1_init_145 : decode cX1_init 145 = .ok (.aload_n 0, 1) := dk_42 (dk_at dksX1_init_6 6 rfl rfl)
theorem dX1_init_146 : decode cX1_init 146 = .ok (.iconst (-1), 1) := dk_2 (dk_at dksX1_init_6 7 rfl rfl)
theorem dX1_init_147 : decode cX1_init 147 = .ok (.putfield 84, 3) := dk_181 0 84 (dk_at dksX1_init_6 8 rfl rfl)
theorem dX1_init_150 : decode cX1_init 150 = .ok (.aload_n 0, 1) := dk_42 (dk_at dksX1_init_6 11 rfl rfl)
theorem dX1_init_151 : decode cX1_init 151 = .ok (.bipush 9, 2) := dk_16 9 (dk_at dksX1_init_6 12 rfl rfl)
theorem dX1_init_153 : decode cX1_init 153 = .ok (.sipush 256, 3) := dk_17 1 0 (dk_at dksX1_init_6 14 rfl rfl)
theorem dX1_init_156 : decode cX1_init 156 = .ok (.multianewarray 88 2, 4) := by decide +kernel
theorem dX1_init_160 : decode cX1_init 160 = .ok (.putfield 90, 3) := dk_181 0 90 (dk_at dksX1_init_6 21 rfl rfl)
theorem dX1_init_163 : decode cX1_init 163 = .ok (.return_, 1) := dk_177 (dk_at dksX1_init_7 0 rfl rfl)
abbrev cX1_recordFirst : ByteArray := prog_1_method_77_code
def yX1_recordFirst : MethodName := ⟨RX1, "recordFirst", "()I"⟩
def dkwX1_recordFirst_4 : List UInt8 := [182, 1, 246, 192, 0, 105, 180, 1, 249, 172]
abbrev dktX1_recordFirst_4 : List UInt8 := dkwX1_recordFirst_4 ++ []
def dkwX1_recordFirst_3 : List UInt8 := [182, 1, 242, 87, 132, 2, 1, 167, 255, 197, 43, 182, 1, 243, 153, 0, 7, 2, 167, 0, 13, 43]
abbrev dktX1_recordFirst_3 : List UInt8 := dkwX1_recordFirst_3 ++ dktX1_recordFirst_4
def dkwX1_recordFirst_2 : List UInt8 := [153, 0, 28, 42, 45, 182, 0, 180, 154, 0, 20, 45, 180, 0, 186, 184, 0, 189, 7, 162, 0, 9, 43, 45]
abbrev dktX1_recordFirst_2 : List UInt8 := dkwX1_recordFirst_2 ++ dktX1_recordFirst_3
def dkwX1_recordFirst_1 : List UInt8 := [182, 0, 93, 162, 0, 54, 42, 180, 0, 49, 28, 182, 0, 141, 192, 0, 105, 78, 42, 45, 182, 0, 112]
abbrev dktX1_recordFirst_1 : List UInt8 := dkwX1_recordFirst_1 ++ dktX1_recordFirst_2
def dkwX1_recordFirst_0 : List UInt8 := [187, 1, 232, 89, 187, 1, 234, 89, 42, 183, 1, 236, 183, 1, 239, 76, 3, 61, 28, 42, 180, 0, 49]
abbrev dktX1_recordFirst_0 : List UInt8 := dkwX1_recordFirst_0 ++ dktX1_recordFirst_1
theorem dksX1_recordFirst_0 : cX1_recordFirst.data.toList.drop 0 = dktX1_recordFirst_0 := by decide +kernel
theorem dksX1_recordFirst_1 : cX1_recordFirst.data.toList.drop 23 = dktX1_recordFirst_1 := dk_seg dksX1_recordFirst_0 23 rfl rfl
theorem dksX1_recordFirst_2 : cX1_recordFirst.data.toList.drop 46 = dktX1_recordFirst_2 := dk_seg dksX1_recordFirst_1 23 rfl rfl
theorem dksX1_recordFirst_3 : cX1_recordFirst.data.toList.drop 70 = dktX1_recordFirst_3 := dk_seg dksX1_recordFirst_2 24 rfl rfl
theorem dksX1_recordFirst_4 : cX1_recordFirst.data.toList.drop 92 = dktX1_recordFirst_4 := dk_seg dksX1_recordFirst_3 22 rfl rfl
theorem dX1_recordFirst_0 : decode cX1_recordFirst 0 = .ok (.new 488, 3) := dk_187 1 232 (dk_at dksX1_recordFirst_0 0 rfl rfl)
theorem dX1_recordFirst_3 : decode cX1_recordFirst 3 = .ok (.dup, 1) := dk_89 (dk_at dksX1_recordFirst_0 3 rfl rfl)
theorem dX1_recordFirst_4 : decode cX1_recordFirst 4 = .ok (.new 490, 3) := dk_187 1 234 (dk_at dksX1_recordFirst_0 4 rfl rfl)
theorem dX1_recordFirst_7 : decode cX1_recordFirst 7 = .ok (.dup, 1) := dk_89 (dk_at dksX1_recordFirst_0 7 rfl rfl)
theorem dX1_recordFirst_8 : decode cX1_recordFirst 8 = .ok (.aload_n 0, 1) := dk_42 (dk_at dksX1_recordFirst_0 8 rfl rfl)
theorem dX1_recordFirst_9 : decode cX1_recordFirst 9 = .ok (.invokespecial 492, 3) := dk_183 1 236 (dk_at dksX1_recordFirst_0 9 rfl rfl)
theorem dX1_recordFirst_12 : decode cX1_recordFirst 12 = .ok (.invokespecial 495, 3) := dk_183 1 239 (dk_at dksX1_recordFirst_0 12 rfl rfl)
theorem dX1_recordFirst_15 : decode cX1_recordFirst 15 = .ok (.astore_n 1, 1) := dk_76 (dk_at dksX1_recordFirst_0 15 rfl rfl)
theorem dX1_recordFirst_16 : decode cX1_recordFirst 16 = .ok (.iconst 0, 1) := dk_3 (dk_at dksX1_recordFirst_0 16 rfl rfl)
theorem dX1_recordFirst_17 : decode cX1_recordFirst 17 = .ok (.istore_n 2, 1) := dk_61 (dk_at dksX1_recordFirst_0 17 rfl rfl)
theorem dX1_recordFirst_18 : decode cX1_recordFirst 18 = .ok (.iload_n 2, 1) := dk_28 (dk_at dksX1_recordFirst_0 18 rfl rfl)
theorem dX1_recordFirst_19 : decode cX1_recordFirst 19 = .ok (.aload_n 0, 1) := dk_42 (dk_at dksX1_recordFirst_0 19 rfl rfl)
theorem dX1_recordFirst_20 : decode cX1_recordFirst 20 = .ok (.getfield 49, 3) := dk_180 0 49 (dk_at dksX1_recordFirst_0 20 rfl rfl)
theorem dX1_recordFirst_23 : decode cX1_recordFirst 23 = .ok (.invokevirtual 93, 3) := dk_182 0 93 (dk_at dksX1_recordFirst_1 0 rfl rfl)
theorem dX1_recordFirst_26 : decode cX1_recordFirst 26 = .ok (.if_icmp .ge 54, 3) := dk_162 0 54 (dk_at dksX1_recordFirst_1 3 rfl rfl)
theorem dX1_recordFirst_29 : decode cX1_recordFirst 29 = .ok (.aload_n 0, 1) := dk_42 (dk_at dksX1_recordFirst_1 6 rfl rfl)
theorem dX1_recordFirst_30 : decode cX1_recordFirst 30 = .ok (.getfield 49, 3) := dk_180 0 49 (dk_at dksX1_recordFirst_1 7 rfl rfl)
theorem dX1_recordFirst_33 : decode cX1_recordFirst 33 = .ok (.iload_n 2, 1) := dk_28 (dk_at dksX1_recordFirst_1 10 rfl rfl)
theorem dX1_recordFirst_34 : decode cX1_recordFirst 34 = .ok (.invokevirtual 141, 3) := dk_182 0 141 (dk_at dksX1_recordFirst_1 11 rfl rfl)
theorem dX1_recordFirst_37 : decode cX1_recordFirst 37 = .ok (.checkcast 105, 3) := dk_192 0 105 (dk_at dksX1_recordFirst_1 14 rfl rfl)
theorem dX1_recordFirst_40 : decode cX1_recordFirst 40 = .ok (.astore_n 3, 1) := dk_78 (dk_at dksX1_recordFirst_1 17 rfl rfl)
theorem dX1_recordFirst_41 : decode cX1_recordFirst 41 = .ok (.aload_n 0, 1) := dk_42 (dk_at dksX1_recordFirst_1 18 rfl rfl)
theorem dX1_recordFirst_42 : decode cX1_recordFirst 42 = .ok (.aload_n 3, 1) := dk_45 (dk_at dksX1_recordFirst_1 19 rfl rfl)
theorem dX1_recordFirst_43 : decode cX1_recordFirst 43 = .ok (.invokevirtual 112, 3) := dk_182 0 112 (dk_at dksX1_recordFirst_1 20 rfl rfl)
theorem dX1_recordFirst_46 : decode cX1_recordFirst 46 = .ok (.ifCond .eq 28, 3) := dk_153 0 28 (dk_at dksX1_recordFirst_2 0 rfl rfl)
theorem dX1_recordFirst_49 : decode cX1_recordFirst 49 = .ok (.aload_n 0, 1) := dk_42 (dk_at dksX1_recordFirst_2 3 rfl rfl)
theorem dX1_recordFirst_50 : decode cX1_recordFirst 50 = .ok (.aload_n 3, 1) := dk_45 (dk_at dksX1_recordFirst_2 4 rfl rfl)
theorem dX1_recordFirst_51 : decode cX1_recordFirst 51 = .ok (.invokevirtual 180, 3) := dk_182 0 180 (dk_at dksX1_recordFirst_2 5 rfl rfl)
theorem dX1_recordFirst_54 : decode cX1_recordFirst 54 = .ok (.ifCond .ne 20, 3) := dk_154 0 20 (dk_at dksX1_recordFirst_2 8 rfl rfl)
theorem dX1_recordFirst_57 : decode cX1_recordFirst 57 = .ok (.aload_n 3, 1) := dk_45 (dk_at dksX1_recordFirst_2 11 rfl rfl)
theorem dX1_recordFirst_58 : decode cX1_recordFirst 58 = .ok (.getfield 186, 3) := dk_180 0 186 (dk_at dksX1_recordFirst_2 12 rfl rfl)
theorem dX1_recordFirst_61 : decode cX1_recordFirst 61 = .ok (.invokestatic 189, 3) := dk_184 0 189 (dk_at dksX1_recordFirst_2 15 rfl rfl)
theorem dX1_recordFirst_64 : decode cX1_recordFirst 64 = .ok (.iconst 4, 1) := dk_7 (dk_at dksX1_recordFirst_2 18 rfl rfl)
theorem dX1_recordFirst_65 : decode cX1_recordFirst 65 = .ok (.if_icmp .ge 9, 3) := dk_162 0 9 (dk_at dksX1_recordFirst_2 19 rfl rfl)
theorem dX1_recordFirst_68 : decode cX1_recordFirst 68 = .ok (.aload_n 1, 1) := dk_43 (dk_at dksX1_recordFirst_2 22 rfl rfl)
theorem dX1_recordFirst_69 : decode cX1_recordFirst 69 = .ok (.aload_n 3, 1) := dk_45 (dk_at dksX1_recordFirst_2 23 rfl rfl)
theorem dX1_recordFirst_70 : decode cX1_recordFirst 70 = .ok (.invokevirtual 498, 3) := dk_182 1 242 (dk_at dksX1_recordFirst_3 0 rfl rfl)
theorem dX1_recordFirst_73 : decode cX1_recordFirst 73 = .ok (.pop, 1) := dk_87 (dk_at dksX1_recordFirst_3 3 rfl rfl)
theorem dX1_recordFirst_74 : decode cX1_recordFirst 74 = .ok (.iinc 2 1, 3) := dk_132 2 1 (dk_at dksX1_recordFirst_3 4 rfl rfl)
theorem dX1_recordFirst_77 : decode cX1_recordFirst 77 = .ok (.goto (-59), 3) := dk_167 255 197 (dk_at dksX1_recordFirst_3 7 rfl rfl)
theorem dX1_recordFirst_80 : decode cX1_recordFirst 80 = .ok (.aload_n 1, 1) := dk_43 (dk_at dksX1_recordFirst_3 10 rfl rfl)
theorem dX1_recordFirst_81 : decode cX1_recordFirst 81 = .ok (.invokevirtual 499, 3) := dk_182 1 243 (dk_at dksX1_recordFirst_3 11 rfl rfl)
theorem dX1_recordFirst_84 : decode cX1_recordFirst 84 = .ok (.ifCond .eq 7, 3) := dk_153 0 7 (dk_at dksX1_recordFirst_3 14 rfl rfl)
theorem dX1_recordFirst_87 : decode cX1_recordFirst 87 = .ok (.iconst (-1), 1) := dk_2 (dk_at dksX1_recordFirst_3 17 rfl rfl)
theorem dX1_recordFirst_88 : decode cX1_recordFirst 88 = .ok (.goto 13, 3) := dk_167 0 13 (dk_at dksX1_recordFirst_3 18 rfl rfl)
theorem dX1_recordFirst_91 : decode cX1_recordFirst 91 = .ok (.aload_n 1, 1) := dk_43 (dk_at dksX1_recordFirst_3 21 rfl rfl)
theorem dX1_recordFirst_92 : decode cX1_recordFirst 92 = .ok (.invokevirtual 502, 3) := dk_182 1 246 (dk_at dksX1_recordFirst_4 0 rfl rfl)
theorem dX1_recordFirst_95 : decode cX1_recordFirst 95 = .ok (.checkcast 105, 3) := dk_192 0 105 (dk_at dksX1_recordFirst_4 3 rfl rfl)
theorem dX1_recordFirst_98 : decode cX1_recordFirst 98 = .ok (.getfield 505, 3) := dk_180 1 249 (dk_at dksX1_recordFirst_4 6 rfl rfl)
theorem dX1_recordFirst_101 : decode cX1_recordFirst 101 = .ok (.ireturn, 1) := dk_172 (dk_at dksX1_recordFirst_4 9 rfl rfl)
abbrev cX1_isLow : ByteArray := prog_1_method_8_code
def yX1_isLow : MethodName := ⟨RX1, "isLow", "(LFigureSurvey$Panel;)Z"⟩
def dkwX1_isLow_1 : List UInt8 := [172]
abbrev dktX1_isLow_1 : List UInt8 := dkwX1_isLow_1 ++ []
def dkwX1_isLow_0 : List UInt8 := [42, 180, 0, 84, 2, 159, 0, 18, 43, 180, 0, 104, 42, 180, 0, 109, 162, 0, 7, 4, 167, 0, 4, 3]
abbrev dktX1_isLow_0 : List UInt8 := dkwX1_isLow_0 ++ dktX1_isLow_1
theorem dksX1_isLow_0 : cX1_isLow.data.toList.drop 0 = dktX1_isLow_0 := by decide +kernel
theorem dksX1_isLow_1 : cX1_isLow.data.toList.drop 24 = dktX1_isLow_1 := dk_seg dksX1_isLow_0 24 rfl rfl
theorem dX1_isLow_0 : decode cX1_isLow 0 = .ok (.aload_n 0, 1) := dk_42 (dk_at dksX1_isLow_0 0 rfl rfl)
theorem dX1_isLow_1 : decode cX1_isLow 1 = .ok (.getfield 84, 3) := dk_180 0 84 (dk_at dksX1_isLow_0 1 rfl rfl)
theorem dX1_isLow_4 : decode cX1_isLow 4 = .ok (.iconst (-1), 1) := dk_2 (dk_at dksX1_isLow_0 4 rfl rfl)
theorem dX1_isLow_5 : decode cX1_isLow 5 = .ok (.if_icmp .eq 18, 3) := dk_159 0 18 (dk_at dksX1_isLow_0 5 rfl rfl)
theorem dX1_isLow_8 : decode cX1_isLow 8 = .ok (.aload_n 1, 1) := dk_43 (dk_at dksX1_isLow_0 8 rfl rfl)
theorem dX1_isLow_9 : decode cX1_isLow 9 = .ok (.getfield 104, 3) := dk_180 0 104 (dk_at dksX1_isLow_0 9 rfl rfl)
theorem dX1_isLow_12 : decode cX1_isLow 12 = .ok (.aload_n 0, 1) := dk_42 (dk_at dksX1_isLow_0 12 rfl rfl)
theorem dX1_isLow_13 : decode cX1_isLow 13 = .ok (.getfield 109, 3) := dk_180 0 109 (dk_at dksX1_isLow_0 13 rfl rfl)
theorem dX1_isLow_16 : decode cX1_isLow 16 = .ok (.if_icmp .ge 7, 3) := dk_162 0 7 (dk_at dksX1_isLow_0 16 rfl rfl)
theorem dX1_isLow_19 : decode cX1_isLow 19 = .ok (.iconst 1, 1) := dk_4 (dk_at dksX1_isLow_0 19 rfl rfl)
theorem dX1_isLow_20 : decode cX1_isLow 20 = .ok (.goto 4, 3) := dk_167 0 4 (dk_at dksX1_isLow_0 20 rfl rfl)
theorem dX1_isLow_23 : decode cX1_isLow 23 = .ok (.iconst 0, 1) := dk_3 (dk_at dksX1_isLow_0 23 rfl rfl)
theorem dX1_isLow_24 : decode cX1_isLow 24 = .ok (.ireturn, 1) := dk_172 (dk_at dksX1_isLow_1 0 rfl rfl)
abbrev cX1_isDrowned : ByteArray := prog_1_method_9_code
def yX1_isDrowned : MethodName := ⟨RX1, "isDrowned", "(LFigureSurvey$Panel;)Z"⟩
def dkwX1_isDrowned_1 : List UInt8 := [172]
abbrev dktX1_isDrowned_1 : List UInt8 := dkwX1_isDrowned_1 ++ []
def dkwX1_isDrowned_0 : List UInt8 := [42, 43, 182, 0, 112, 153, 0, 18, 42, 180, 0, 116, 42, 180, 0, 84, 161, 0, 7, 4, 167, 0, 4, 3]
abbrev dktX1_isDrowned_0 : List UInt8 := dkwX1_isDrowned_0 ++ dktX1_isDrowned_1
theorem dksX1_isDrowned_0 : cX1_isDrowned.data.toList.drop 0 = dktX1_isDrowned_0 := by decide +kernel
theorem dksX1_isDrowned_1 : cX1_isDrowned.data.toList.drop 24 = dktX1_isDrowned_1 := dk_seg dksX1_isDrowned_0 24 rfl rfl
theorem dX1_isDrowned_0 : decode cX1_isDrowned 0 = .ok (.aload_n 0, 1) := dk_42 (dk_at dksX1_isDrowned_0 0 rfl rfl)
theorem dX1_isDrowned_1 : decode cX1_isDrowned 1 = .ok (.aload_n 1, 1) := dk_43 (dk_at dksX1_isDrowned_0 1 rfl rfl)
theorem dX1_isDrowned_2 : decode cX1_isDrowned 2 = .ok (.invokevirtual 112, 3) := dk_182 0 112 (dk_at dksX1_isDrowned_0 2 rfl rfl)
theorem dX1_isDrowned_5 : decode cX1_isDrowned 5 = .ok (.ifCond .eq 18, 3) := dk_153 0 18 (dk_at dksX1_isDrowned_0 5 rfl rfl)
theorem dX1_isDrowned_8 : decode cX1_isDrowned 8 = .ok (.aload_n 0, 1) := dk_42 (dk_at dksX1_isDrowned_0 8 rfl rfl)
theorem dX1_isDrowned_9 : decode cX1_isDrowned 9 = .ok (.getfield 116, 3) := dk_180 0 116 (dk_at dksX1_isDrowned_0 9 rfl rfl)
theorem dX1_isDrowned_12 : decode cX1_isDrowned 12 = .ok (.aload_n 0, 1) := dk_42 (dk_at dksX1_isDrowned_0 12 rfl rfl)
theorem dX1_isDrowned_13 : decode cX1_isDrowned 13 = .ok (.getfield 84, 3) := dk_180 0 84 (dk_at dksX1_isDrowned_0 13 rfl rfl)
theorem dX1_isDrowned_16 : decode cX1_isDrowned 16 = .ok (.if_icmp .lt 7, 3) := dk_161 0 7 (dk_at dksX1_isDrowned_0 16 rfl rfl)
theorem dX1_isDrowned_19 : decode cX1_isDrowned 19 = .ok (.iconst 1, 1) := dk_4 (dk_at dksX1_isDrowned_0 19 rfl rfl)
theorem dX1_isDrowned_20 : decode cX1_isDrowned 20 = .ok (.goto 4, 3) := dk_167 0 4 (dk_at dksX1_isDrowned_0 20 rfl rfl)
theorem dX1_isDrowned_23 : decode cX1_isDrowned 23 = .ok (.iconst 0, 1) := dk_3 (dk_at dksX1_isDrowned_0 23 rfl rfl)
theorem dX1_isDrowned_24 : decode cX1_isDrowned 24 = .ok (.ireturn, 1) := dk_172 (dk_at dksX1_isDrowned_1 0 rfl rfl)
abbrev cX1_genuineOn : ByteArray := prog_1_method_7_code
def yX1_genuineOn : MethodName := ⟨RX1, "genuineOn", "(LFigureSurvey$Panel;)I"⟩
def dkwX1_genuineOn_0 : List UInt8 := [42, 180, 0, 56, 182, 0, 93, 42, 43, 186, 0, 97, 0, 0, 184, 0, 100, 172]
abbrev dktX1_genuineOn_0 : List UInt8 := dkwX1_genuineOn_0 ++ []
theorem dksX1_genuineOn_0 : cX1_genuineOn.data.toList.drop 0 = dktX1_genuineOn_0 := by decide +kernel
theorem dX1_genuineOn_0 : decode cX1_genuineOn 0 = .ok (.aload_n 0, 1) := dk_42 (dk_at dksX1_genuineOn_0 0 rfl rfl)
theorem dX1_genuineOn_1 : decode cX1_genuineOn 1 = .ok (.getfield 56, 3) := dk_180 0 56 (dk_at dksX1_genuineOn_0 1 rfl rfl)
theorem dX1_genuineOn_4 : decode cX1_genuineOn 4 = .ok (.invokevirtual 93, 3) := dk_182 0 93 (dk_at dksX1_genuineOn_0 4 rfl rfl)
theorem dX1_genuineOn_7 : decode cX1_genuineOn 7 = .ok (.aload_n 0, 1) := dk_42 (dk_at dksX1_genuineOn_0 7 rfl rfl)
theorem dX1_genuineOn_8 : decode cX1_genuineOn 8 = .ok (.aload_n 1, 1) := dk_43 (dk_at dksX1_genuineOn_0 8 rfl rfl)
theorem dX1_genuineOn_9 : decode cX1_genuineOn 9 = .ok (.invokedynamic 97, 5) := by decide +kernel
theorem dX1_genuineOn_14 : decode cX1_genuineOn 14 = .ok (.invokestatic 100, 3) := dk_184 0 100 (dk_at dksX1_genuineOn_0 14 rfl rfl)
theorem dX1_genuineOn_17 : decode cX1_genuineOn 17 = .ok (.ireturn, 1) := dk_172 (dk_at dksX1_genuineOn_0 17 rfl rfl)
abbrev cX1_lambda_genuineOn_0 : ByteArray := prog_1_method_85_code
def yX1_lambda_genuineOn_0 : MethodName := ⟨RX1, "lambda$genuineOn$0", "(LFigureSurvey$Panel;I)Z"⟩
def dkwX1_lambda_genuineOn_0_1 : List UInt8 := [182, 0, 141, 192, 0, 32, 182, 1, 176, 153, 0, 7, 4, 167, 0, 4, 3, 172]
abbrev dktX1_lambda_genuineOn_0_1 : List UInt8 := dkwX1_lambda_genuineOn_0_1 ++ []
def dkwX1_lambda_genuineOn_0_0 : List UInt8 := [42, 180, 0, 56, 28, 182, 0, 141, 192, 0, 32, 180, 0, 31, 43, 166, 0, 24, 42, 180, 0, 56, 28]
abbrev dktX1_lambda_genuineOn_0_0 : List UInt8 := dkwX1_lambda_genuineOn_0_0 ++ dktX1_lambda_genuineOn_0_1
theorem dksX1_lambda_genuineOn_0_0 : cX1_lambda_genuineOn_0.data.toList.drop 0 = dktX1_lambda_genuineOn_0_0 := by decide +kernel
theorem dksX1_lambda_genuineOn_0_1 : cX1_lambda_genuineOn_0.data.toList.drop 23 = dktX1_lambda_genuineOn_0_1 := dk_seg dksX1_lambda_genuineOn_0_0 23 rfl rfl
theorem dX1_lambda_genuineOn_0_0 : decode cX1_lambda_genuineOn_0 0 = .ok (.aload_n 0, 1) := dk_42 (dk_at dksX1_lambda_genuineOn_0_0 0 rfl rfl)
theorem dX1_lambda_genuineOn_0_1 : decode cX1_lambda_genuineOn_0 1 = .ok (.getfield 56, 3) := dk_180 0 56 (dk_at dksX1_lambda_genuineOn_0_0 1 rfl rfl)
theorem dX1_lambda_genuineOn_0_4 : decode cX1_lambda_genuineOn_0 4 = .ok (.iload_n 2, 1) := dk_28 (dk_at dksX1_lambda_genuineOn_0_0 4 rfl rfl)
theorem dX1_lambda_genuineOn_0_5 : decode cX1_lambda_genuineOn_0 5 = .ok (.invokevirtual 141, 3) := dk_182 0 141 (dk_at dksX1_lambda_genuineOn_0_0 5 rfl rfl)
theorem dX1_lambda_genuineOn_0_8 : decode cX1_lambda_genuineOn_0 8 = .ok (.checkcast 32, 3) := dk_192 0 32 (dk_at dksX1_lambda_genuineOn_0_0 8 rfl rfl)
theorem dX1_lambda_genuineOn_0_11 : decode cX1_lambda_genuineOn_0 11 = .ok (.getfield 31, 3) := dk_180 0 31 (dk_at dksX1_lambda_genuineOn_0_0 11 rfl rfl)
theorem dX1_lambda_genuineOn_0_14 : decode cX1_lambda_genuineOn_0 14 = .ok (.aload_n 1, 1) := dk_43 (dk_at dksX1_lambda_genuineOn_0_0 14 rfl rfl)
theorem dX1_lambda_genuineOn_0_15 : decode cX1_lambda_genuineOn_0 15 = .ok (.if_acmp .ne 24, 3) := dk_166 0 24 (dk_at dksX1_lambda_genuineOn_0_0 15 rfl rfl)
theorem dX1_lambda_genuineOn_0_18 : decode cX1_lambda_genuineOn_0 18 = .ok (.aload_n 0, 1) := dk_42 (dk_at dksX1_lambda_genuineOn_0_0 18 rfl rfl)
theorem dX1_lambda_genuineOn_0_19 : decode cX1_lambda_genuineOn_0 19 = .ok (.getfield 56, 3) := dk_180 0 56 (dk_at dksX1_lambda_genuineOn_0_0 19 rfl rfl)
theorem dX1_lambda_genuineOn_0_22 : decode cX1_lambda_genuineOn_0 22 = .ok (.iload_n 2, 1) := dk_28 (dk_at dksX1_lambda_genuineOn_0_0 22 rfl rfl)
theorem dX1_lambda_genuineOn_0_23 : decode cX1_lambda_genuineOn_0 23 = .ok (.invokevirtual 141, 3) := dk_182 0 141 (dk_at dksX1_lambda_genuineOn_0_1 0 rfl rfl)
theorem dX1_lambda_genuineOn_0_26 : decode cX1_lambda_genuineOn_0 26 = .ok (.checkcast 32, 3) := dk_192 0 32 (dk_at dksX1_lambda_genuineOn_0_1 3 rfl rfl)
theorem dX1_lambda_genuineOn_0_29 : decode cX1_lambda_genuineOn_0 29 = .ok (.invokevirtual 432, 3) := dk_182 1 176 (dk_at dksX1_lambda_genuineOn_0_1 6 rfl rfl)
theorem dX1_lambda_genuineOn_0_32 : decode cX1_lambda_genuineOn_0 32 = .ok (.ifCond .eq 7, 3) := dk_153 0 7 (dk_at dksX1_lambda_genuineOn_0_1 9 rfl rfl)
theorem dX1_lambda_genuineOn_0_35 : decode cX1_lambda_genuineOn_0 35 = .ok (.iconst 1, 1) := dk_4 (dk_at dksX1_lambda_genuineOn_0_1 12 rfl rfl)
theorem dX1_lambda_genuineOn_0_36 : decode cX1_lambda_genuineOn_0 36 = .ok (.goto 4, 3) := dk_167 0 4 (dk_at dksX1_lambda_genuineOn_0_1 13 rfl rfl)
theorem dX1_lambda_genuineOn_0_39 : decode cX1_lambda_genuineOn_0 39 = .ok (.iconst 0, 1) := dk_3 (dk_at dksX1_lambda_genuineOn_0_1 16 rfl rfl)
theorem dX1_lambda_genuineOn_0_40 : decode cX1_lambda_genuineOn_0 40 = .ok (.ireturn, 1) := dk_172 (dk_at dksX1_lambda_genuineOn_0_1 17 rfl rfl)
abbrev cX1_has : ByteArray := prog_1_method_3_code
def yX1_has : MethodName := ⟨RX1, "has", "(JI)Z"⟩
def dkwX1_has_0 : List UInt8 := [30, 28, 125, 10, 127, 10, 148, 154, 0, 7, 4, 167, 0, 4, 3, 172]
abbrev dktX1_has_0 : List UInt8 := dkwX1_has_0 ++ []
theorem dksX1_has_0 : cX1_has.data.toList.drop 0 = dktX1_has_0 := by decide +kernel
theorem dX1_has_0 : decode cX1_has 0 = .ok (.lload_n 0, 1) := dk_30 (dk_at dksX1_has_0 0 rfl rfl)
theorem dX1_has_1 : decode cX1_has 1 = .ok (.iload_n 2, 1) := dk_28 (dk_at dksX1_has_0 1 rfl rfl)
theorem dX1_has_2 : decode cX1_has 2 = .ok (.lushr, 1) := dk_125 (dk_at dksX1_has_0 2 rfl rfl)
theorem dX1_has_3 : decode cX1_has 3 = .ok (.lconst 1, 1) := dk_10 (dk_at dksX1_has_0 3 rfl rfl)
theorem dX1_has_4 : decode cX1_has 4 = .ok (.land, 1) := dk_127 (dk_at dksX1_has_0 4 rfl rfl)
theorem dX1_has_5 : decode cX1_has 5 = .ok (.lconst 1, 1) := dk_10 (dk_at dksX1_has_0 5 rfl rfl)
theorem dX1_has_6 : decode cX1_has 6 = .ok (.lcmp, 1) := dk_148 (dk_at dksX1_has_0 6 rfl rfl)
theorem dX1_has_7 : decode cX1_has 7 = .ok (.ifCond .ne 7, 3) := dk_154 0 7 (dk_at dksX1_has_0 7 rfl rfl)
theorem dX1_has_10 : decode cX1_has 10 = .ok (.iconst 1, 1) := dk_4 (dk_at dksX1_has_0 10 rfl rfl)
theorem dX1_has_11 : decode cX1_has 11 = .ok (.goto 4, 3) := dk_167 0 4 (dk_at dksX1_has_0 11 rfl rfl)
theorem dX1_has_14 : decode cX1_has 14 = .ok (.iconst 0, 1) := dk_3 (dk_at dksX1_has_0 14 rfl rfl)
theorem dX1_has_15 : decode cX1_has 15 = .ok (.ireturn, 1) := dk_172 (dk_at dksX1_has_0 15 rfl rfl)
abbrev cX1_count : ByteArray := prog_1_method_1_code
def yX1_count : MethodName := ⟨RX1, "count", "(ILFigureSurvey$Pick;)I"⟩
def dkwX1_count_1 : List UInt8 := [132, 3, 1, 167, 255, 235, 28, 172]
abbrev dktX1_count_1 : List UInt8 := dkwX1_count_1 ++ []
def dkwX1_count_0 : List UInt8 := [3, 61, 3, 62, 29, 26, 162, 0, 22, 43, 29, 185, 0, 1, 2, 0, 153, 0, 6, 132, 2, 1]
abbrev dktX1_count_0 : List UInt8 := dkwX1_count_0 ++ dktX1_count_1
theorem dksX1_count_0 : cX1_count.data.toList.drop 0 = dktX1_count_0 := by decide +kernel
theorem dksX1_count_1 : cX1_count.data.toList.drop 22 = dktX1_count_1 := dk_seg dksX1_count_0 22 rfl rfl
theorem dX1_count_0 : decode cX1_count 0 = .ok (.iconst 0, 1) := dk_3 (dk_at dksX1_count_0 0 rfl rfl)
theorem dX1_count_1 : decode cX1_count 1 = .ok (.istore_n 2, 1) := dk_61 (dk_at dksX1_count_0 1 rfl rfl)
theorem dX1_count_2 : decode cX1_count 2 = .ok (.iconst 0, 1) := dk_3 (dk_at dksX1_count_0 2 rfl rfl)
theorem dX1_count_3 : decode cX1_count 3 = .ok (.istore_n 3, 1) := dk_62 (dk_at dksX1_count_0 3 rfl rfl)
theorem dX1_count_4 : decode cX1_count 4 = .ok (.iload_n 3, 1) := dk_29 (dk_at dksX1_count_0 4 rfl rfl)
theorem dX1_count_5 : decode cX1_count 5 = .ok (.iload_n 0, 1) := dk_26 (dk_at dksX1_count_0 5 rfl rfl)
theorem dX1_count_6 : decode cX1_count 6 = .ok (.if_icmp .ge 22, 3) := dk_162 0 22 (dk_at dksX1_count_0 6 rfl rfl)
theorem dX1_count_9 : decode cX1_count 9 = .ok (.aload_n 1, 1) := dk_43 (dk_at dksX1_count_0 9 rfl rfl)
theorem dX1_count_10 : decode cX1_count 10 = .ok (.iload_n 3, 1) := dk_29 (dk_at dksX1_count_0 10 rfl rfl)
theorem dX1_count_11 : decode cX1_count 11 = .ok (.invokeinterface 1 2, 5) := by decide +kernel
theorem dX1_count_16 : decode cX1_count 16 = .ok (.ifCond .eq 6, 3) := dk_153 0 6 (dk_at dksX1_count_0 16 rfl rfl)
theorem dX1_count_19 : decode cX1_count 19 = .ok (.iinc 2 1, 3) := dk_132 2 1 (dk_at dksX1_count_0 19 rfl rfl)
theorem dX1_count_22 : decode cX1_count 22 = .ok (.iinc 3 1, 3) := dk_132 3 1 (dk_at dksX1_count_1 0 rfl rfl)
theorem dX1_count_25 : decode cX1_count 25 = .ok (.goto (-21), 3) := dk_167 255 235 (dk_at dksX1_count_1 3 rfl rfl)
theorem dX1_count_28 : decode cX1_count 28 = .ok (.iload_n 2, 1) := dk_28 (dk_at dksX1_count_1 6 rfl rfl)
theorem dX1_count_29 : decode cX1_count 29 = .ok (.ireturn, 1) := dk_172 (dk_at dksX1_count_1 7 rfl rfl)
abbrev cX1_errors : ByteArray := prog_1_method_78_code
def yX1_errors : MethodName := ⟨RX1, "errors", "()I"⟩
def dkwX1_errors_0 : List UInt8 := [42, 180, 0, 49, 182, 0, 93, 42, 186, 1, 250, 0, 0, 184, 0, 100, 172]
abbrev dktX1_errors_0 : List UInt8 := dkwX1_errors_0 ++ []
theorem dksX1_errors_0 : cX1_errors.data.toList.drop 0 = dktX1_errors_0 := by decide +kernel
theorem dX1_errors_0 : decode cX1_errors 0 = .ok (.aload_n 0, 1) := dk_42 (dk_at dksX1_errors_0 0 rfl rfl)
theorem dX1_errors_1 : decode cX1_errors 1 = .ok (.getfield 49, 3) := dk_180 0 49 (dk_at dksX1_errors_0 1 rfl rfl)
theorem dX1_errors_4 : decode cX1_errors 4 = .ok (.invokevirtual 93, 3) := dk_182 0 93 (dk_at dksX1_errors_0 4 rfl rfl)
theorem dX1_errors_7 : decode cX1_errors 7 = .ok (.aload_n 0, 1) := dk_42 (dk_at dksX1_errors_0 7 rfl rfl)
theorem dX1_errors_8 : decode cX1_errors 8 = .ok (.invokedynamic 506, 5) := by decide +kernel
theorem dX1_errors_13 : decode cX1_errors 13 = .ok (.invokestatic 100, 3) := dk_184 0 100 (dk_at dksX1_errors_0 13 rfl rfl)
theorem dX1_errors_16 : decode cX1_errors 16 = .ok (.ireturn, 1) := dk_172 (dk_at dksX1_errors_0 16 rfl rfl)
abbrev cX1_lambda_errors_4 : ByteArray := prog_1_method_81_code
def yX1_lambda_errors_4 : MethodName := ⟨RX1, "lambda$errors$4", "(I)Z"⟩
def dkwX1_lambda_errors_4_0 : List UInt8 := [187, 0, 29, 89, 42, 42, 180, 0, 49, 27, 182, 0, 141, 192, 0, 105, 183, 0, 37, 182, 1, 251, 172]
abbrev dktX1_lambda_errors_4_0 : List UInt8 := dkwX1_lambda_errors_4_0 ++ []
theorem dksX1_lambda_errors_4_0 : cX1_lambda_errors_4.data.toList.drop 0 = dktX1_lambda_errors_4_0 := by decide +kernel
theorem dX1_lambda_errors_4_0 : decode cX1_lambda_errors_4 0 = .ok (.new 29, 3) := dk_187 0 29 (dk_at dksX1_lambda_errors_4_0 0 rfl rfl)
theorem dX1_lambda_errors_4_3 : decode cX1_lambda_errors_4 3 = .ok (.dup, 1) := dk_89 (dk_at dksX1_lambda_errors_4_0 3 rfl rfl)
theorem dX1_lambda_errors_4_4 : decode cX1_lambda_errors_4 4 = .ok (.aload_n 0, 1) := dk_42 (dk_at dksX1_lambda_errors_4_0 4 rfl rfl)
theorem dX1_lambda_errors_4_5 : decode cX1_lambda_errors_4 5 = .ok (.aload_n 0, 1) := dk_42 (dk_at dksX1_lambda_errors_4_0 5 rfl rfl)
theorem dX1_lambda_errors_4_6 : decode cX1_lambda_errors_4 6 = .ok (.getfield 49, 3) := dk_180 0 49 (dk_at dksX1_lambda_errors_4_0 6 rfl rfl)
theorem dX1_lambda_errors_4_9 : decode cX1_lambda_errors_4 9 = .ok (.iload_n 1, 1) := dk_27 (dk_at dksX1_lambda_errors_4_0 9 rfl rfl)
theorem dX1_lambda_errors_4_10 : decode cX1_lambda_errors_4 10 = .ok (.invokevirtual 141, 3) := dk_182 0 141 (dk_at dksX1_lambda_errors_4_0 10 rfl rfl)
theorem dX1_lambda_errors_4_13 : decode cX1_lambda_errors_4 13 = .ok (.checkcast 105, 3) := dk_192 0 105 (dk_at dksX1_lambda_errors_4_0 13 rfl rfl)
theorem dX1_lambda_errors_4_16 : decode cX1_lambda_errors_4 16 = .ok (.invokespecial 37, 3) := dk_183 0 37 (dk_at dksX1_lambda_errors_4_0 16 rfl rfl)
theorem dX1_lambda_errors_4_19 : decode cX1_lambda_errors_4 19 = .ok (.invokevirtual 507, 3) := dk_182 1 251 (dk_at dksX1_lambda_errors_4_0 19 rfl rfl)
theorem dX1_lambda_errors_4_22 : decode cX1_lambda_errors_4 22 = .ok (.ireturn, 1) := dk_172 (dk_at dksX1_lambda_errors_4_0 22 rfl rfl)
abbrev cX1_has_2 : ByteArray := prog_1_method_2_code
def yX1_has_2 : MethodName := ⟨RX1, "has", "(II)Z"⟩
def dkwX1_has_2_0 : List UInt8 := [26, 27, 122, 4, 126, 4, 160, 0, 7, 4, 167, 0, 4, 3, 172]
abbrev dktX1_has_2_0 : List UInt8 := dkwX1_has_2_0 ++ []
theorem dksX1_has_2_0 : cX1_has_2.data.toList.drop 0 = dktX1_has_2_0 := by decide +kernel
theorem dX1_has_2_0 : decode cX1_has_2 0 = .ok (.iload_n 0, 1) := dk_26 (dk_at dksX1_has_2_0 0 rfl rfl)
theorem dX1_has_2_1 : decode cX1_has_2 1 = .ok (.iload_n 1, 1) := dk_27 (dk_at dksX1_has_2_0 1 rfl rfl)
theorem dX1_has_2_2 : decode cX1_has_2 2 = .ok (.ishr, 1) := dk_122 (dk_at dksX1_has_2_0 2 rfl rfl)
theorem dX1_has_2_3 : decode cX1_has_2 3 = .ok (.iconst 1, 1) := dk_4 (dk_at dksX1_has_2_0 3 rfl rfl)
theorem dX1_has_2_4 : decode cX1_has_2 4 = .ok (.iand, 1) := dk_126 (dk_at dksX1_has_2_0 4 rfl rfl)
theorem dX1_has_2_5 : decode cX1_has_2 5 = .ok (.iconst 1, 1) := dk_4 (dk_at dksX1_has_2_0 5 rfl rfl)
theorem dX1_has_2_6 : decode cX1_has_2 6 = .ok (.if_icmp .ne 7, 3) := dk_160 0 7 (dk_at dksX1_has_2_0 6 rfl rfl)
theorem dX1_has_2_9 : decode cX1_has_2 9 = .ok (.iconst 1, 1) := dk_4 (dk_at dksX1_has_2_0 9 rfl rfl)
theorem dX1_has_2_10 : decode cX1_has_2 10 = .ok (.goto 4, 3) := dk_167 0 4 (dk_at dksX1_has_2_0 10 rfl rfl)
theorem dX1_has_2_13 : decode cX1_has_2 13 = .ok (.iconst 0, 1) := dk_3 (dk_at dksX1_has_2_0 13 rfl rfl)
theorem dX1_has_2_14 : decode cX1_has_2 14 = .ok (.ireturn, 1) := dk_172 (dk_at dksX1_has_2_0 14 rfl rfl)
abbrev cX1_bestRow : ByteArray := prog_1_method_4_code
def yX1_bestRow : MethodName := ⟨RX1, "bestRow", "(ILFigureSurvey$Price;)[I"⟩
def dkwX1_bestRow_8 : List UInt8 := [54, 5, 132, 6, 1, 167, 255, 179, 25, 4, 176]
abbrev dktX1_bestRow_8 : List UInt8 := dkwX1_bestRow_8 ++ []
def dkwX1_bestRow_7 : List UInt8 := [46, 159, 0, 9, 132, 7, 1, 167, 255, 210, 25, 4, 21, 6, 21, 7, 79, 21, 5, 4, 21, 7, 120, 128]
abbrev dktX1_bestRow_7 : List UInt8 := dkwX1_bestRow_7 ++ dktX1_bestRow_8
def dkwX1_bestRow_6 : List UInt8 := [185, 0, 18, 3, 0, 42, 180, 0, 7, 21, 5, 4, 21, 7, 120, 128, 46, 96, 42, 180, 0, 7, 21, 5]
abbrev dktX1_bestRow_6 : List UInt8 := dkwX1_bestRow_6 ++ dktX1_bestRow_7
def dkwX1_bestRow_5 : List UInt8 := [21, 6, 27, 162, 0, 77, 3, 54, 7, 21, 5, 21, 7, 184, 0, 14, 154, 0, 36, 44, 21, 5, 21, 7]
abbrev dktX1_bestRow_5 : List UInt8 := dkwX1_bestRow_5 ++ dktX1_bestRow_6
def dkwX1_bestRow_4 : List UInt8 := [132, 5, 1, 167, 255, 197, 132, 4, 255, 167, 255, 174, 27, 188, 10, 58, 4, 3, 54, 5, 3, 54, 6]
abbrev dktX1_bestRow_4 : List UInt8 := dkwX1_bestRow_4 ++ dktX1_bestRow_5
def dkwX1_bestRow_3 : List UInt8 := [185, 0, 18, 3, 0, 42, 180, 0, 7, 21, 4, 4, 21, 5, 120, 128, 46, 96, 184, 0, 24, 79]
abbrev dktX1_bestRow_3 : List UInt8 := dkwX1_bestRow_3 ++ dktX1_bestRow_4
def dkwX1_bestRow_2 : List UInt8 := [154, 0, 43, 42, 180, 0, 7, 21, 4, 42, 180, 0, 7, 21, 4, 46, 44, 21, 4, 21, 5]
abbrev dktX1_bestRow_2 : List UInt8 := dkwX1_bestRow_2 ++ dktX1_bestRow_3
def dkwX1_bestRow_1 : List UInt8 := [180, 0, 7, 21, 4, 18, 13, 79, 3, 54, 5, 21, 5, 27, 162, 0, 59, 21, 4, 21, 5, 184, 0, 14]
abbrev dktX1_bestRow_1 : List UInt8 := dkwX1_bestRow_1 ++ dktX1_bestRow_2
def dkwX1_bestRow_0 : List UInt8 := [4, 27, 120, 4, 100, 62, 42, 180, 0, 7, 29, 3, 79, 29, 4, 100, 54, 4, 21, 4, 155, 0, 83, 42]
abbrev dktX1_bestRow_0 : List UInt8 := dkwX1_bestRow_0 ++ dktX1_bestRow_1
theorem dksX1_bestRow_0 : cX1_bestRow.data.toList.drop 0 = dktX1_bestRow_0 := by decide +kernel
theorem dksX1_bestRow_1 : cX1_bestRow.data.toList.drop 24 = dktX1_bestRow_1 := dk_seg dksX1_bestRow_0 24 rfl rfl
theorem dksX1_bestRow_2 : cX1_bestRow.data.toList.drop 48 = dktX1_bestRow_2 := dk_seg dksX1_bestRow_1 24 rfl rfl
theorem dksX1_bestRow_3 : cX1_bestRow.data.toList.drop 69 = dktX1_bestRow_3 := dk_seg dksX1_bestRow_2 21 rfl rfl
theorem dksX1_bestRow_4 : cX1_bestRow.data.toList.drop 91 = dktX1_bestRow_4 := dk_seg dksX1_bestRow_3 22 rfl rfl
theorem dksX1_bestRow_5 : cX1_bestRow.data.toList.drop 114 = dktX1_bestRow_5 := dk_seg dksX1_bestRow_4 23 rfl rfl
theorem dksX1_bestRow_6 : cX1_bestRow.data.toList.drop 138 = dktX1_bestRow_6 := dk_seg dksX1_bestRow_5 24 rfl rfl
theorem dksX1_bestRow_7 : cX1_bestRow.data.toList.drop 162 = dktX1_bestRow_7 := dk_seg dksX1_bestRow_6 24 rfl rfl
theorem dksX1_bestRow_8 : cX1_bestRow.data.toList.drop 186 = dktX1_bestRow_8 := dk_seg dksX1_bestRow_7 24 rfl rfl
theorem dX1_bestRow_0 : decode cX1_bestRow 0 = .ok (.iconst 1, 1) := dk_4 (dk_at dksX1_bestRow_0 0 rfl rfl)
theorem dX1_bestRow_1 : decode cX1_bestRow 1 = .ok (.iload_n 1, 1) := dk_27 (dk_at dksX1_bestRow_0 1 rfl rfl)
theorem dX1_bestRow_2 : decode cX1_bestRow 2 = .ok (.ishl, 1) := dk_120 (dk_at dksX1_bestRow_0 2 rfl rfl)
theorem dX1_bestRow_3 : decode cX1_bestRow 3 = .ok (.iconst 1, 1) := dk_4 (dk_at dksX1_bestRow_0 3 rfl rfl)
theorem dX1_bestRow_4 : decode cX1_bestRow 4 = .ok (.isub, 1) := dk_100 (dk_at dksX1_bestRow_0 4 rfl rfl)
theorem dX1_bestRow_5 : decode cX1_bestRow 5 = .ok (.istore_n 3, 1) := dk_62 (dk_at dksX1_bestRow_0 5 rfl rfl)
theorem dX1_bestRow_6 : decode cX1_bestRow 6 = .ok (.aload_n 0, 1) := dk_42 (dk_at dksX1_bestRow_0 6 rfl rfl)
theorem dX1_bestRow_7 : decode cX1_bestRow 7 = .ok (.getfield 7, 3) := dk_180 0 7 (dk_at dksX1_bestRow_0 7 rfl rfl)
theorem dX1_bestRow_10 : decode cX1_bestRow 10 = .ok (.iload_n 3, 1) := dk_29 (dk_at dksX1_bestRow_0 10 rfl rfl)
theorem dX1_bestRow_11 : decode cX1_bestRow 11 = .ok (.iconst 0, 1) := dk_3 (dk_at dksX1_bestRow_0 11 rfl rfl)
theorem dX1_bestRow_12 : decode cX1_bestRow 12 = .ok (.iastore, 1) := dk_79 (dk_at dksX1_bestRow_0 12 rfl rfl)
theorem dX1_bestRow_13 : decode cX1_bestRow 13 = .ok (.iload_n 3, 1) := dk_29 (dk_at dksX1_bestRow_0 13 rfl rfl)
theorem dX1_bestRow_14 : decode cX1_bestRow 14 = .ok (.iconst 1, 1) := dk_4 (dk_at dksX1_bestRow_0 14 rfl rfl)
theorem dX1_bestRow_15 : decode cX1_bestRow 15 = .ok (.isub, 1) := dk_100 (dk_at dksX1_bestRow_0 15 rfl rfl)
theorem dX1_bestRow_16 : decode cX1_bestRow 16 = .ok (.istore 4, 2) := dk_54 4 (dk_at dksX1_bestRow_0 16 rfl rfl)
theorem dX1_bestRow_18 : decode cX1_bestRow 18 = .ok (.iload 4, 2) := dk_21 4 (dk_at dksX1_bestRow_0 18 rfl rfl)
theorem dX1_bestRow_20 : decode cX1_bestRow 20 = .ok (.ifCond .lt 83, 3) := dk_155 0 83 (dk_at dksX1_bestRow_0 20 rfl rfl)
theorem dX1_bestRow_23 : decode cX1_bestRow 23 = .ok (.aload_n 0, 1) := dk_42 (dk_at dksX1_bestRow_0 23 rfl rfl)
theorem dX1_bestRow_24 : decode cX1_bestRow 24 = .ok (.getfield 7, 3) := dk_180 0 7 (dk_at dksX1_bestRow_1 0 rfl rfl)
theorem dX1_bestRow_27 : decode cX1_bestRow 27 = .ok (.iload 4, 2) := dk_21 4 (dk_at dksX1_bestRow_1 3 rfl rfl)
theorem dX1_bestRow_29 : decode cX1_bestRow 29 = .ok (.ldc 13, 2) := dk_18 13 (dk_at dksX1_bestRow_1 5 rfl rfl)
theorem dX1_bestRow_31 : decode cX1_bestRow 31 = .ok (.iastore, 1) := dk_79 (dk_at dksX1_bestRow_1 7 rfl rfl)
theorem dX1_bestRow_32 : decode cX1_bestRow 32 = .ok (.iconst 0, 1) := dk_3 (dk_at dksX1_bestRow_1 8 rfl rfl)
theorem dX1_bestRow_33 : decode cX1_bestRow 33 = .ok (.istore 5, 2) := dk_54 5 (dk_at dksX1_bestRow_1 9 rfl rfl)
theorem dX1_bestRow_35 : decode cX1_bestRow 35 = .ok (.iload 5, 2) := dk_21 5 (dk_at dksX1_bestRow_1 11 rfl rfl)
theorem dX1_bestRow_37 : decode cX1_bestRow 37 = .ok (.iload_n 1, 1) := dk_27 (dk_at dksX1_bestRow_1 13 rfl rfl)
theorem dX1_bestRow_38 : decode cX1_bestRow 38 = .ok (.if_icmp .ge 59, 3) := dk_162 0 59 (dk_at dksX1_bestRow_1 14 rfl rfl)
theorem dX1_bestRow_41 : decode cX1_bestRow 41 = .ok (.iload 4, 2) := dk_21 4 (dk_at dksX1_bestRow_1 17 rfl rfl)
theorem dX1_bestRow_43 : decode cX1_bestRow 43 = .ok (.iload 5, 2) := dk_21 5 (dk_at dksX1_bestRow_1 19 rfl rfl)
theorem dX1_bestRow_45 : decode cX1_bestRow 45 = .ok (.invokestatic 14, 3) := dk_184 0 14 (dk_at dksX1_bestRow_1 21 rfl rfl)
theorem dX1_bestRow_48 : decode cX1_bestRow 48 = .ok (.ifCond .ne 43, 3) := dk_154 0 43 (dk_at dksX1_bestRow_2 0 rfl rfl)
theorem dX1_bestRow_51 : decode cX1_bestRow 51 = .ok (.aload_n 0, 1) := dk_42 (dk_at dksX1_bestRow_2 3 rfl rfl)
theorem dX1_bestRow_52 : decode cX1_bestRow 52 = .ok (.getfield 7, 3) := dk_180 0 7 (dk_at dksX1_bestRow_2 4 rfl rfl)
theorem dX1_bestRow_55 : decode cX1_bestRow 55 = .ok (.iload 4, 2) := dk_21 4 (dk_at dksX1_bestRow_2 7 rfl rfl)
theorem dX1_bestRow_57 : decode cX1_bestRow 57 = .ok (.aload_n 0, 1) := dk_42 (dk_at dksX1_bestRow_2 9 rfl rfl)
theorem dX1_bestRow_58 : decode cX1_bestRow 58 = .ok (.getfield 7, 3) := dk_180 0 7 (dk_at dksX1_bestRow_2 10 rfl rfl)
theorem dX1_bestRow_61 : decode cX1_bestRow 61 = .ok (.iload 4, 2) := dk_21 4 (dk_at dksX1_bestRow_2 13 rfl rfl)
theorem dX1_bestRow_63 : decode cX1_bestRow 63 = .ok (.iaload, 1) := dk_46 (dk_at dksX1_bestRow_2 15 rfl rfl)
theorem dX1_bestRow_64 : decode cX1_bestRow 64 = .ok (.aload_n 2, 1) := dk_44 (dk_at dksX1_bestRow_2 16 rfl rfl)
theorem dX1_bestRow_65 : decode cX1_bestRow 65 = .ok (.iload 4, 2) := dk_21 4 (dk_at dksX1_bestRow_2 17 rfl rfl)
theorem dX1_bestRow_67 : decode cX1_bestRow 67 = .ok (.iload 5, 2) := dk_21 5 (dk_at dksX1_bestRow_2 19 rfl rfl)
theorem dX1_bestRow_69 : decode cX1_bestRow 69 = .ok (.invokeinterface 18 3, 5) := by decide +kernel
theorem dX1_bestRow_74 : decode cX1_bestRow 74 = .ok (.aload_n 0, 1) := dk_42 (dk_at dksX1_bestRow_3 5 rfl rfl)
theorem dX1_bestRow_75 : decode cX1_bestRow 75 = .ok (.getfield 7, 3) := dk_180 0 7 (dk_at dksX1_bestRow_3 6 rfl rfl)
theorem dX1_bestRow_78 : decode cX1_bestRow 78 = .ok (.iload 4, 2) := dk_21 4 (dk_at dksX1_bestRow_3 9 rfl rfl)
theorem dX1_bestRow_80 : decode cX1_bestRow 80 = .ok (.iconst 1, 1) := dk_4 (dk_at dksX1_bestRow_3 11 rfl rfl)
theorem dX1_bestRow_81 : decode cX1_bestRow 81 = .ok (.iload 5, 2) := dk_21 5 (dk_at dksX1_bestRow_3 12 rfl rfl)
theorem dX1_bestRow_83 : decode cX1_bestRow 83 = .ok (.ishl, 1) := dk_120 (dk_at dksX1_bestRow_3 14 rfl rfl)
theorem dX1_bestRow_84 : decode cX1_bestRow 84 = .ok (.ior, 1) := dk_128 (dk_at dksX1_bestRow_3 15 rfl rfl)
theorem dX1_bestRow_85 : decode cX1_bestRow 85 = .ok (.iaload, 1) := dk_46 (dk_at dksX1_bestRow_3 16 rfl rfl)
theorem dX1_bestRow_86 : decode cX1_bestRow 86 = .ok (.iadd, 1) := dk_96 (dk_at dksX1_bestRow_3 17 rfl rfl)
theorem dX1_bestRow_87 : decode cX1_bestRow 87 = .ok (.invokestatic 24, 3) := dk_184 0 24 (dk_at dksX1_bestRow_3 18 rfl rfl)
theorem dX1_bestRow_90 : decode cX1_bestRow 90 = .ok (.iastore, 1) := dk_79 (dk_at dksX1_bestRow_3 21 rfl rfl)
theorem dX1_bestRow_91 : decode cX1_bestRow 91 = .ok (.iinc 5 1, 3) := dk_132 5 1 (dk_at dksX1_bestRow_4 0 rfl rfl)
theorem dX1_bestRow_94 : decode cX1_bestRow 94 = .ok (.goto (-59), 3) := dk_167 255 197 (dk_at dksX1_bestRow_4 3 rfl rfl)
theorem dX1_bestRow_97 : decode cX1_bestRow 97 = .ok (.iinc 4 (-1), 3) := dk_132 4 255 (dk_at dksX1_bestRow_4 6 rfl rfl)
theorem dX1_bestRow_100 : decode cX1_bestRow 100 = .ok (.goto (-82), 3) := dk_167 255 174 (dk_at dksX1_bestRow_4 9 rfl rfl)
theorem dX1_bestRow_103 : decode cX1_bestRow 103 = .ok (.iload_n 1, 1) := dk_27 (dk_at dksX1_bestRow_4 12 rfl rfl)
theorem dX1_bestRow_104 : decode cX1_bestRow 104 = .ok (.newarray .int, 2) := dk_188_10 (dk_at dksX1_bestRow_4 13 rfl rfl)
theorem dX1_bestRow_106 : decode cX1_bestRow 106 = .ok (.astore 4, 2) := dk_58 4 (dk_at dksX1_bestRow_4 15 rfl rfl)
theorem dX1_bestRow_108 : decode cX1_bestRow 108 = .ok (.iconst 0, 1) := dk_3 (dk_at dksX1_bestRow_4 17 rfl rfl)
theorem dX1_bestRow_109 : decode cX1_bestRow 109 = .ok (.istore 5, 2) := dk_54 5 (dk_at dksX1_bestRow_4 18 rfl rfl)
theorem dX1_bestRow_111 : decode cX1_bestRow 111 = .ok (.iconst 0, 1) := dk_3 (dk_at dksX1_bestRow_4 20 rfl rfl)
theorem dX1_bestRow_112 : decode cX1_bestRow 112 = .ok (.istore 6, 2) := dk_54 6 (dk_at dksX1_bestRow_4 21 rfl rfl)
theorem dX1_bestRow_114 : decode cX1_bestRow 114 = .ok (.iload 6, 2) := dk_21 6 (dk_at dksX1_bestRow_5 0 rfl rfl)
theorem dX1_bestRow_116 : decode cX1_bestRow 116 = .ok (.iload_n 1, 1) := dk_27 (dk_at dksX1_bestRow_5 2 rfl rfl)
theorem dX1_bestRow_117 : decode cX1_bestRow 117 = .ok (.if_icmp .ge 77, 3) := dk_162 0 77 (dk_at dksX1_bestRow_5 3 rfl rfl)
theorem dX1_bestRow_120 : decode cX1_bestRow 120 = .ok (.iconst 0, 1) := dk_3 (dk_at dksX1_bestRow_5 6 rfl rfl)
theorem dX1_bestRow_121 : decode cX1_bestRow 121 = .ok (.istore 7, 2) := dk_54 7 (dk_at dksX1_bestRow_5 7 rfl rfl)
theorem dX1_bestRow_123 : decode cX1_bestRow 123 = .ok (.iload 5, 2) := dk_21 5 (dk_at dksX1_bestRow_5 9 rfl rfl)
theorem dX1_bestRow_125 : decode cX1_bestRow 125 = .ok (.iload 7, 2) := dk_21 7 (dk_at dksX1_bestRow_5 11 rfl rfl)
theorem dX1_bestRow_127 : decode cX1_bestRow 127 = .ok (.invokestatic 14, 3) := dk_184 0 14 (dk_at dksX1_bestRow_5 13 rfl rfl)
theorem dX1_bestRow_130 : decode cX1_bestRow 130 = .ok (.ifCond .ne 36, 3) := dk_154 0 36 (dk_at dksX1_bestRow_5 16 rfl rfl)
theorem dX1_bestRow_133 : decode cX1_bestRow 133 = .ok (.aload_n 2, 1) := dk_44 (dk_at dksX1_bestRow_5 19 rfl rfl)
theorem dX1_bestRow_134 : decode cX1_bestRow 134 = .ok (.iload 5, 2) := dk_21 5 (dk_at dksX1_bestRow_5 20 rfl rfl)
theorem dX1_bestRow_136 : decode cX1_bestRow 136 = .ok (.iload 7, 2) := dk_21 7 (dk_at dksX1_bestRow_5 22 rfl rfl)
theorem dX1_bestRow_138 : decode cX1_bestRow 138 = .ok (.invokeinterface 18 3, 5) := by decide +kernel
theorem dX1_bestRow_143 : decode cX1_bestRow 143 = .ok (.aload_n 0, 1) := dk_42 (dk_at dksX1_bestRow_6 5 rfl rfl)
theorem dX1_bestRow_144 : decode cX1_bestRow 144 = .ok (.getfield 7, 3) := dk_180 0 7 (dk_at dksX1_bestRow_6 6 rfl rfl)
theorem dX1_bestRow_147 : decode cX1_bestRow 147 = .ok (.iload 5, 2) := dk_21 5 (dk_at dksX1_bestRow_6 9 rfl rfl)
theorem dX1_bestRow_149 : decode cX1_bestRow 149 = .ok (.iconst 1, 1) := dk_4 (dk_at dksX1_bestRow_6 11 rfl rfl)
theorem dX1_bestRow_150 : decode cX1_bestRow 150 = .ok (.iload 7, 2) := dk_21 7 (dk_at dksX1_bestRow_6 12 rfl rfl)
theorem dX1_bestRow_152 : decode cX1_bestRow 152 = .ok (.ishl, 1) := dk_120 (dk_at dksX1_bestRow_6 14 rfl rfl)
theorem dX1_bestRow_153 : decode cX1_bestRow 153 = .ok (.ior, 1) := dk_128 (dk_at dksX1_bestRow_6 15 rfl rfl)
theorem dX1_bestRow_154 : decode cX1_bestRow 154 = .ok (.iaload, 1) := dk_46 (dk_at dksX1_bestRow_6 16 rfl rfl)
theorem dX1_bestRow_155 : decode cX1_bestRow 155 = .ok (.iadd, 1) := dk_96 (dk_at dksX1_bestRow_6 17 rfl rfl)
theorem dX1_bestRow_156 : decode cX1_bestRow 156 = .ok (.aload_n 0, 1) := dk_42 (dk_at dksX1_bestRow_6 18 rfl rfl)
theorem dX1_bestRow_157 : decode cX1_bestRow 157 = .ok (.getfield 7, 3) := dk_180 0 7 (dk_at dksX1_bestRow_6 19 rfl rfl)
theorem dX1_bestRow_160 : decode cX1_bestRow 160 = .ok (.iload 5, 2) := dk_21 5 (dk_at dksX1_bestRow_6 22 rfl rfl)
theorem dX1_bestRow_162 : decode cX1_bestRow 162 = .ok (.iaload, 1) := dk_46 (dk_at dksX1_bestRow_7 0 rfl rfl)
theorem dX1_bestRow_163 : decode cX1_bestRow 163 = .ok (.if_icmp .eq 9, 3) := dk_159 0 9 (dk_at dksX1_bestRow_7 1 rfl rfl)
theorem dX1_bestRow_166 : decode cX1_bestRow 166 = .ok (.iinc 7 1, 3) := dk_132 7 1 (dk_at dksX1_bestRow_7 4 rfl rfl)
theorem dX1_bestRow_169 : decode cX1_bestRow 169 = .ok (.goto (-46), 3) := dk_167 255 210 (dk_at dksX1_bestRow_7 7 rfl rfl)
theorem dX1_bestRow_172 : decode cX1_bestRow 172 = .ok (.aload 4, 2) := dk_25 4 (dk_at dksX1_bestRow_7 10 rfl rfl)
theorem dX1_bestRow_174 : decode cX1_bestRow 174 = .ok (.iload 6, 2) := dk_21 6 (dk_at dksX1_bestRow_7 12 rfl rfl)
theorem dX1_bestRow_176 : decode cX1_bestRow 176 = .ok (.iload 7, 2) := dk_21 7 (dk_at dksX1_bestRow_7 14 rfl rfl)
theorem dX1_bestRow_178 : decode cX1_bestRow 178 = .ok (.iastore, 1) := dk_79 (dk_at dksX1_bestRow_7 16 rfl rfl)
theorem dX1_bestRow_179 : decode cX1_bestRow 179 = .ok (.iload 5, 2) := dk_21 5 (dk_at dksX1_bestRow_7 17 rfl rfl)
theorem dX1_bestRow_181 : decode cX1_bestRow 181 = .ok (.iconst 1, 1) := dk_4 (dk_at dksX1_bestRow_7 19 rfl rfl)
theorem dX1_bestRow_182 : decode cX1_bestRow 182 = .ok (.iload 7, 2) := dk_21 7 (dk_at dksX1_bestRow_7 20 rfl rfl)
theorem dX1_bestRow_184 : decode cX1_bestRow 184 = .ok (.ishl, 1) := dk_120 (dk_at dksX1_bestRow_7 22 rfl rfl)
theorem dX1_bestRow_185 : decode cX1_bestRow 185 = .ok (.ior, 1) := dk_128 (dk_at dksX1_bestRow_7 23 rfl rfl)
theorem dX1_bestRow_186 : decode cX1_bestRow 186 = .ok (.istore 5, 2) := dk_54 5 (dk_at dksX1_bestRow_8 0 rfl rfl)
theorem dX1_bestRow_188 : decode cX1_bestRow 188 = .ok (.iinc 6 1, 3) := dk_132 6 1 (dk_at dksX1_bestRow_8 2 rfl rfl)
theorem dX1_bestRow_191 : decode cX1_bestRow 191 = .ok (.goto (-77), 3) := dk_167 255 179 (dk_at dksX1_bestRow_8 5 rfl rfl)
theorem dX1_bestRow_194 : decode cX1_bestRow 194 = .ok (.aload 4, 2) := dk_25 4 (dk_at dksX1_bestRow_8 8 rfl rfl)
theorem dX1_bestRow_196 : decode cX1_bestRow 196 = .ok (.areturn, 1) := dk_176 (dk_at dksX1_bestRow_8 10 rfl rfl)
abbrev cX1_meanSpan : ByteArray := prog_1_method_79_code
def yX1_meanSpan : MethodName := ⟨RX1, "meanSpan", "()D"⟩
def dkwX1_meanSpan_5 : List UInt8 := [111, 175]
abbrev dktX1_meanSpan_5 : List UInt8 := dkwX1_meanSpan_5 ++ []
def dkwX1_meanSpan_4 : List UInt8 := [132, 5, 1, 167, 255, 202, 132, 3, 1, 167, 255, 161, 28, 154, 0, 7, 14, 167, 0, 8, 27, 135, 28, 135]
abbrev dktX1_meanSpan_4 : List UInt8 := dkwX1_meanSpan_4 ++ dktX1_meanSpan_5
def dkwX1_meanSpan_3 : List UInt8 := [27, 25, 4, 25, 6, 4, 182, 1, 115, 25, 4, 25, 6, 3, 182, 1, 115, 100, 96, 60, 132, 2, 1]
abbrev dktX1_meanSpan_3 : List UInt8 := dkwX1_meanSpan_3 ++ dktX1_meanSpan_4
def dkwX1_meanSpan_2 : List UInt8 := [180, 1, 100, 182, 0, 93, 162, 0, 47, 25, 4, 180, 1, 100, 21, 5, 182, 0, 141, 192, 0, 32, 58, 6]
abbrev dktX1_meanSpan_2 : List UInt8 := dkwX1_meanSpan_2 ++ dktX1_meanSpan_3
def dkwX1_meanSpan_1 : List UInt8 := [180, 0, 49, 29, 182, 0, 141, 192, 0, 105, 183, 0, 37, 58, 4, 3, 54, 5, 21, 5, 25, 4]
abbrev dktX1_meanSpan_1 : List UInt8 := dkwX1_meanSpan_1 ++ dktX1_meanSpan_2
def dkwX1_meanSpan_0 : List UInt8 := [3, 60, 3, 61, 3, 62, 29, 42, 180, 0, 49, 182, 0, 93, 162, 0, 90, 187, 0, 29, 89, 42, 42]
abbrev dktX1_meanSpan_0 : List UInt8 := dkwX1_meanSpan_0 ++ dktX1_meanSpan_1
theorem dksX1_meanSpan_0 : cX1_meanSpan.data.toList.drop 0 = dktX1_meanSpan_0 := by decide +kernel
theorem dksX1_meanSpan_1 : cX1_meanSpan.data.toList.drop 23 = dktX1_meanSpan_1 := dk_seg dksX1_meanSpan_0 23 rfl rfl
theorem dksX1_meanSpan_2 : cX1_meanSpan.data.toList.drop 45 = dktX1_meanSpan_2 := dk_seg dksX1_meanSpan_1 22 rfl rfl
theorem dksX1_meanSpan_3 : cX1_meanSpan.data.toList.drop 69 = dktX1_meanSpan_3 := dk_seg dksX1_meanSpan_2 24 rfl rfl
theorem dksX1_meanSpan_4 : cX1_meanSpan.data.toList.drop 92 = dktX1_meanSpan_4 := dk_seg dksX1_meanSpan_3 23 rfl rfl
theorem dksX1_meanSpan_5 : cX1_meanSpan.data.toList.drop 116 = dktX1_meanSpan_5 := dk_seg dksX1_meanSpan_4 24 rfl rfl
theorem dX1_meanSpan_0 : decode cX1_meanSpan 0 = .ok (.iconst 0, 1) := dk_3 (dk_at dksX1_meanSpan_0 0 rfl rfl)
theorem dX1_meanSpan_1 : decode cX1_meanSpan 1 = .ok (.istore_n 1, 1) := dk_60 (dk_at dksX1_meanSpan_0 1 rfl rfl)
theorem dX1_meanSpan_2 : decode cX1_meanSpan 2 = .ok (.iconst 0, 1) := dk_3 (dk_at dksX1_meanSpan_0 2 rfl rfl)
theorem dX1_meanSpan_3 : decode cX1_meanSpan 3 = .ok (.istore_n 2, 1) := dk_61 (dk_at dksX1_meanSpan_0 3 rfl rfl)
theorem dX1_meanSpan_4 : decode cX1_meanSpan 4 = .ok (.iconst 0, 1) := dk_3 (dk_at dksX1_meanSpan_0 4 rfl rfl)
theorem dX1_meanSpan_5 : decode cX1_meanSpan 5 = .ok (.istore_n 3, 1) := dk_62 (dk_at dksX1_meanSpan_0 5 rfl rfl)
theorem dX1_meanSpan_6 : decode cX1_meanSpan 6 = .ok (.iload_n 3, 1) := dk_29 (dk_at dksX1_meanSpan_0 6 rfl rfl)
theorem dX1_meanSpan_7 : decode cX1_meanSpan 7 = .ok (.aload_n 0, 1) := dk_42 (dk_at dksX1_meanSpan_0 7 rfl rfl)
theorem dX1_meanSpan_8 : decode cX1_meanSpan 8 = .ok (.getfield 49, 3) := dk_180 0 49 (dk_at dksX1_meanSpan_0 8 rfl rfl)
theorem dX1_meanSpan_11 : decode cX1_meanSpan 11 = .ok (.invokevirtual 93, 3) := dk_182 0 93 (dk_at dksX1_meanSpan_0 11 rfl rfl)
theorem dX1_meanSpan_14 : decode cX1_meanSpan 14 = .ok (.if_icmp .ge 90, 3) := dk_162 0 90 (dk_at dksX1_meanSpan_0 14 rfl rfl)
theorem dX1_meanSpan_17 : decode cX1_meanSpan 17 = .ok (.new 29, 3) := dk_187 0 29 (dk_at dksX1_meanSpan_0 17 rfl rfl)
theorem dX1_meanSpan_20 : decode cX1_meanSpan 20 = .ok (.dup, 1) := dk_89 (dk_at dksX1_meanSpan_0 20 rfl rfl)
theorem dX1_meanSpan_21 : decode cX1_meanSpan 21 = .ok (.aload_n 0, 1) := dk_42 (dk_at dksX1_meanSpan_0 21 rfl rfl)
theorem dX1_meanSpan_22 : decode cX1_meanSpan 22 = .ok (.aload_n 0, 1) := dk_42 (dk_at dksX1_meanSpan_0 22 rfl rfl)
theorem dX1_meanSpan_23 : decode cX1_meanSpan 23 = .ok (.getfield 49, 3) := dk_180 0 49 (dk_at dksX1_meanSpan_1 0 rfl rfl)
theorem dX1_meanSpan_26 : decode cX1_meanSpan 26 = .ok (.iload_n 3, 1) := dk_29 (dk_at dksX1_meanSpan_1 3 rfl rfl)
theorem dX1_meanSpan_27 : decode cX1_meanSpan 27 = .ok (.invokevirtual 141, 3) := dk_182 0 141 (dk_at dksX1_meanSpan_1 4 rfl rfl)
theorem dX1_meanSpan_30 : decode cX1_meanSpan 30 = .ok (.checkcast 105, 3) := dk_192 0 105 (dk_at dksX1_meanSpan_1 7 rfl rfl)
theorem dX1_meanSpan_33 : decode cX1_meanSpan 33 = .ok (.invokespecial 37, 3) := dk_183 0 37 (dk_at dksX1_meanSpan_1 10 rfl rfl)
theorem dX1_meanSpan_36 : decode cX1_meanSpan 36 = .ok (.astore 4, 2) := dk_58 4 (dk_at dksX1_meanSpan_1 13 rfl rfl)
theorem dX1_meanSpan_38 : decode cX1_meanSpan 38 = .ok (.iconst 0, 1) := dk_3 (dk_at dksX1_meanSpan_1 15 rfl rfl)
theorem dX1_meanSpan_39 : decode cX1_meanSpan 39 = .ok (.istore 5, 2) := dk_54 5 (dk_at dksX1_meanSpan_1 16 rfl rfl)
theorem dX1_meanSpan_41 : decode cX1_meanSpan 41 = .ok (.iload 5, 2) := dk_21 5 (dk_at dksX1_meanSpan_1 18 rfl rfl)
theorem dX1_meanSpan_43 : decode cX1_meanSpan 43 = .ok (.aload 4, 2) := dk_25 4 (dk_at dksX1_meanSpan_1 20 rfl rfl)
theorem dX1_meanSpan_45 : decode cX1_meanSpan 45 = .ok (.getfield 356, 3) := dk_180 1 100 (dk_at dksX1_meanSpan_2 0 rfl rfl)
theorem dX1_meanSpan_48 : decode cX1_meanSpan 48 = .ok (.invokevirtual 93, 3) := dk_182 0 93 (dk_at dksX1_meanSpan_2 3 rfl rfl)
theorem dX1_meanSpan_51 : decode cX1_meanSpan 51 = .ok (.if_icmp .ge 47, 3) := dk_162 0 47 (dk_at dksX1_meanSpan_2 6 rfl rfl)
theorem dX1_meanSpan_54 : decode cX1_meanSpan 54 = .ok (.aload 4, 2) := dk_25 4 (dk_at dksX1_meanSpan_2 9 rfl rfl)
theorem dX1_meanSpan_56 : decode cX1_meanSpan 56 = .ok (.getfield 356, 3) := dk_180 1 100 (dk_at dksX1_meanSpan_2 11 rfl rfl)
theorem dX1_meanSpan_59 : decode cX1_meanSpan 59 = .ok (.iload 5, 2) := dk_21 5 (dk_at dksX1_meanSpan_2 14 rfl rfl)
theorem dX1_meanSpan_61 : decode cX1_meanSpan 61 = .ok (.invokevirtual 141, 3) := dk_182 0 141 (dk_at dksX1_meanSpan_2 16 rfl rfl)
theorem dX1_meanSpan_64 : decode cX1_meanSpan 64 = .ok (.checkcast 32, 3) := dk_192 0 32 (dk_at dksX1_meanSpan_2 19 rfl rfl)
theorem dX1_meanSpan_67 : decode cX1_meanSpan 67 = .ok (.astore 6, 2) := dk_58 6 (dk_at dksX1_meanSpan_2 22 rfl rfl)
theorem dX1_meanSpan_69 : decode cX1_meanSpan 69 = .ok (.iload_n 1, 1) := dk_27 (dk_at dksX1_meanSpan_3 0 rfl rfl)
theorem dX1_meanSpan_70 : decode cX1_meanSpan 70 = .ok (.aload 4, 2) := dk_25 4 (dk_at dksX1_meanSpan_3 1 rfl rfl)
theorem dX1_meanSpan_72 : decode cX1_meanSpan 72 = .ok (.aload 6, 2) := dk_25 6 (dk_at dksX1_meanSpan_3 3 rfl rfl)
theorem dX1_meanSpan_74 : decode cX1_meanSpan 74 = .ok (.iconst 1, 1) := dk_4 (dk_at dksX1_meanSpan_3 5 rfl rfl)
theorem dX1_meanSpan_75 : decode cX1_meanSpan 75 = .ok (.invokevirtual 371, 3) := dk_182 1 115 (dk_at dksX1_meanSpan_3 6 rfl rfl)
theorem dX1_meanSpan_78 : decode cX1_meanSpan 78 = .ok (.aload 4, 2) := dk_25 4 (dk_at dksX1_meanSpan_3 9 rfl rfl)
theorem dX1_meanSpan_80 : decode cX1_meanSpan 80 = .ok (.aload 6, 2) := dk_25 6 (dk_at dksX1_meanSpan_3 11 rfl rfl)
theorem dX1_meanSpan_82 : decode cX1_meanSpan 82 = .ok (.iconst 0, 1) := dk_3 (dk_at dksX1_meanSpan_3 13 rfl rfl)
theorem dX1_meanSpan_83 : decode cX1_meanSpan 83 = .ok (.invokevirtual 371, 3) := dk_182 1 115 (dk_at dksX1_meanSpan_3 14 rfl rfl)
theorem dX1_meanSpan_86 : decode cX1_meanSpan 86 = .ok (.isub, 1) := dk_100 (dk_at dksX1_meanSpan_3 17 rfl rfl)
theorem dX1_meanSpan_87 : decode cX1_meanSpan 87 = .ok (.iadd, 1) := dk_96 (dk_at dksX1_meanSpan_3 18 rfl rfl)
theorem dX1_meanSpan_88 : decode cX1_meanSpan 88 = .ok (.istore_n 1, 1) := dk_60 (dk_at dksX1_meanSpan_3 19 rfl rfl)
theorem dX1_meanSpan_89 : decode cX1_meanSpan 89 = .ok (.iinc 2 1, 3) := dk_132 2 1 (dk_at dksX1_meanSpan_3 20 rfl rfl)
theorem dX1_meanSpan_92 : decode cX1_meanSpan 92 = .ok (.iinc 5 1, 3) := dk_132 5 1 (dk_at dksX1_meanSpan_4 0 rfl rfl)
theorem dX1_meanSpan_95 : decode cX1_meanSpan 95 = .ok (.goto (-54), 3) := dk_167 255 202 (dk_at dksX1_meanSpan_4 3 rfl rfl)
theorem dX1_meanSpan_98 : decode cX1_meanSpan 98 = .ok (.iinc 3 1, 3) := dk_132 3 1 (dk_at dksX1_meanSpan_4 6 rfl rfl)
theorem dX1_meanSpan_101 : decode cX1_meanSpan 101 = .ok (.goto (-95), 3) := dk_167 255 161 (dk_at dksX1_meanSpan_4 9 rfl rfl)
theorem dX1_meanSpan_104 : decode cX1_meanSpan 104 = .ok (.iload_n 2, 1) := dk_28 (dk_at dksX1_meanSpan_4 12 rfl rfl)
theorem dX1_meanSpan_105 : decode cX1_meanSpan 105 = .ok (.ifCond .ne 7, 3) := dk_154 0 7 (dk_at dksX1_meanSpan_4 13 rfl rfl)
theorem dX1_meanSpan_108 : decode cX1_meanSpan 108 = .ok (.dconst 0, 1) := dk_14 (dk_at dksX1_meanSpan_4 16 rfl rfl)
theorem dX1_meanSpan_109 : decode cX1_meanSpan 109 = .ok (.goto 8, 3) := dk_167 0 8 (dk_at dksX1_meanSpan_4 17 rfl rfl)
theorem dX1_meanSpan_112 : decode cX1_meanSpan 112 = .ok (.iload_n 1, 1) := dk_27 (dk_at dksX1_meanSpan_4 20 rfl rfl)
theorem dX1_meanSpan_113 : decode cX1_meanSpan 113 = .ok (.i2d, 1) := dk_135 (dk_at dksX1_meanSpan_4 21 rfl rfl)
theorem dX1_meanSpan_114 : decode cX1_meanSpan 114 = .ok (.iload_n 2, 1) := dk_28 (dk_at dksX1_meanSpan_4 22 rfl rfl)
theorem dX1_meanSpan_115 : decode cX1_meanSpan 115 = .ok (.i2d, 1) := dk_135 (dk_at dksX1_meanSpan_4 23 rfl rfl)
theorem dX1_meanSpan_116 : decode cX1_meanSpan 116 = .ok (.ddiv, 1) := dk_111 (dk_at dksX1_meanSpan_5 0 rfl rfl)
theorem dX1_meanSpan_117 : decode cX1_meanSpan 117 = .ok (.dreturn, 1) := dk_175 (dk_at dksX1_meanSpan_5 1 rfl rfl)
abbrev cX1_heldShare : ByteArray := prog_1_method_80_code
def yX1_heldShare : MethodName := ⟨RX1, "heldShare", "()F"⟩
def dkwX1_heldShare_5 : List UInt8 := [11, 167, 0, 8, 27, 134, 28, 134, 110, 174]
abbrev dktX1_heldShare_5 : List UInt8 := dkwX1_heldShare_5 ++ []
def dkwX1_heldShare_4 : List UInt8 := [25, 6, 182, 1, 94, 154, 0, 6, 132, 1, 1, 167, 255, 205, 132, 3, 1, 167, 255, 153, 28, 154, 0, 7]
abbrev dktX1_heldShare_4 : List UInt8 := dkwX1_heldShare_4 ++ dktX1_heldShare_5
def dkwX1_heldShare_3 : List UInt8 := [192, 0, 158, 58, 6, 25, 4, 25, 6, 182, 1, 90, 154, 0, 6, 167, 255, 224, 132, 2, 1, 25, 4]
abbrev dktX1_heldShare_3 : List UInt8 := dkwX1_heldShare_3 ++ dktX1_heldShare_4
def dkwX1_heldShare_2 : List UInt8 := [185, 1, 31, 1, 0, 58, 5, 25, 5, 185, 1, 37, 1, 0, 153, 0, 47, 25, 5, 185, 1, 43, 1, 0]
abbrev dktX1_heldShare_2 : List UInt8 := dkwX1_heldShare_2 ++ dktX1_heldShare_3
def dkwX1_heldShare_1 : List UInt8 := [180, 0, 49, 29, 182, 0, 141, 192, 0, 105, 183, 0, 37, 58, 4, 42, 180, 0, 65, 182, 1, 27]
abbrev dktX1_heldShare_1 : List UInt8 := dkwX1_heldShare_1 ++ dktX1_heldShare_2
def dkwX1_heldShare_0 : List UInt8 := [3, 60, 3, 61, 3, 62, 29, 42, 180, 0, 49, 182, 0, 93, 162, 0, 98, 187, 0, 29, 89, 42, 42]
abbrev dktX1_heldShare_0 : List UInt8 := dkwX1_heldShare_0 ++ dktX1_heldShare_1
theorem dksX1_heldShare_0 : cX1_heldShare.data.toList.drop 0 = dktX1_heldShare_0 := by decide +kernel
theorem dksX1_heldShare_1 : cX1_heldShare.data.toList.drop 23 = dktX1_heldShare_1 := dk_seg dksX1_heldShare_0 23 rfl rfl
theorem dksX1_heldShare_2 : cX1_heldShare.data.toList.drop 45 = dktX1_heldShare_2 := dk_seg dksX1_heldShare_1 22 rfl rfl
theorem dksX1_heldShare_3 : cX1_heldShare.data.toList.drop 69 = dktX1_heldShare_3 := dk_seg dksX1_heldShare_2 24 rfl rfl
theorem dksX1_heldShare_4 : cX1_heldShare.data.toList.drop 92 = dktX1_heldShare_4 := dk_seg dksX1_heldShare_3 23 rfl rfl
theorem dksX1_heldShare_5 : cX1_heldShare.data.toList.drop 116 = dktX1_heldShare_5 := dk_seg dksX1_heldShare_4 24 rfl rfl
theorem dX1_heldShare_0 : decode cX1_heldShare 0 = .ok (.iconst 0, 1) := dk_3 (dk_at dksX1_heldShare_0 0 rfl rfl)
theorem dX1_heldShare_1 : decode cX1_heldShare 1 = .ok (.istore_n 1, 1) := dk_60 (dk_at dksX1_heldShare_0 1 rfl rfl)
theorem dX1_heldShare_2 : decode cX1_heldShare 2 = .ok (.iconst 0, 1) := dk_3 (dk_at dksX1_heldShare_0 2 rfl rfl)
theorem dX1_heldShare_3 : decode cX1_heldShare 3 = .ok (.istore_n 2, 1) := dk_61 (dk_at dksX1_heldShare_0 3 rfl rfl)
theorem dX1_heldShare_4 : decode cX1_heldShare 4 = .ok (.iconst 0, 1) := dk_3 (dk_at dksX1_heldShare_0 4 rfl rfl)
theorem dX1_heldShare_5 : decode cX1_heldShare 5 = .ok (.istore_n 3, 1) := dk_62 (dk_at dksX1_heldShare_0 5 rfl rfl)
theorem dX1_heldShare_6 : decode cX1_heldShare 6 = .ok (.iload_n 3, 1) := dk_29 (dk_at dksX1_heldShare_0 6 rfl rfl)
theorem dX1_heldShare_7 : decode cX1_heldShare 7 = .ok (.aload_n 0, 1) := dk_42 (dk_at dksX1_heldShare_0 7 rfl rfl)
theorem dX1_heldShare_8 : decode cX1_heldShare 8 = .ok (.getfield 49, 3) := dk_180 0 49 (dk_at dksX1_heldShare_0 8 rfl rfl)
theorem dX1_heldShare_11 : decode cX1_heldShare 11 = .ok (.invokevirtual 93, 3) := dk_182 0 93 (dk_at dksX1_heldShare_0 11 rfl rfl)
theorem dX1_heldShare_14 : decode cX1_heldShare 14 = .ok (.if_icmp .ge 98, 3) := dk_162 0 98 (dk_at dksX1_heldShare_0 14 rfl rfl)
theorem dX1_heldShare_17 : decode cX1_heldShare 17 = .ok (.new 29, 3) := dk_187 0 29 (dk_at dksX1_heldShare_0 17 rfl rfl)
theorem dX1_heldShare_20 : decode cX1_heldShare 20 = .ok (.dup, 1) := dk_89 (dk_at dksX1_heldShare_0 20 rfl rfl)
theorem dX1_heldShare_21 : decode cX1_heldShare 21 = .ok (.aload_n 0, 1) := dk_42 (dk_at dksX1_heldShare_0 21 rfl rfl)
theorem dX1_heldShare_22 : decode cX1_heldShare 22 = .ok (.aload_n 0, 1) := dk_42 (dk_at dksX1_heldShare_0 22 rfl rfl)
theorem dX1_heldShare_23 : decode cX1_heldShare 23 = .ok (.getfield 49, 3) := dk_180 0 49 (dk_at dksX1_heldShare_1 0 rfl rfl)
theorem dX1_heldShare_26 : decode cX1_heldShare 26 = .ok (.iload_n 3, 1) := dk_29 (dk_at dksX1_heldShare_1 3 rfl rfl)
theorem dX1_heldShare_27 : decode cX1_heldShare 27 = .ok (.invokevirtual 141, 3) := dk_182 0 141 (dk_at dksX1_heldShare_1 4 rfl rfl)
theorem dX1_heldShare_30 : decode cX1_heldShare 30 = .ok (.checkcast 105, 3) := dk_192 0 105 (dk_at dksX1_heldShare_1 7 rfl rfl)
theorem dX1_heldShare_33 : decode cX1_heldShare 33 = .ok (.invokespecial 37, 3) := dk_183 0 37 (dk_at dksX1_heldShare_1 10 rfl rfl)
theorem dX1_heldShare_36 : decode cX1_heldShare 36 = .ok (.astore 4, 2) := dk_58 4 (dk_at dksX1_heldShare_1 13 rfl rfl)
theorem dX1_heldShare_38 : decode cX1_heldShare 38 = .ok (.aload_n 0, 1) := dk_42 (dk_at dksX1_heldShare_1 15 rfl rfl)
theorem dX1_heldShare_39 : decode cX1_heldShare 39 = .ok (.getfield 65, 3) := dk_180 0 65 (dk_at dksX1_heldShare_1 16 rfl rfl)
theorem dX1_heldShare_42 : decode cX1_heldShare 42 = .ok (.invokevirtual 283, 3) := dk_182 1 27 (dk_at dksX1_heldShare_1 19 rfl rfl)
theorem dX1_heldShare_45 : decode cX1_heldShare 45 = .ok (.invokeinterface 287 1, 5) := by decide +kernel
theorem dX1_heldShare_50 : decode cX1_heldShare 50 = .ok (.astore 5, 2) := dk_58 5 (dk_at dksX1_heldShare_2 5 rfl rfl)
theorem dX1_heldShare_52 : decode cX1_heldShare 52 = .ok (.aload 5, 2) := dk_25 5 (dk_at dksX1_heldShare_2 7 rfl rfl)
theorem dX1_heldShare_54 : decode cX1_heldShare 54 = .ok (.invokeinterface 293 1, 5) := by decide +kernel
theorem dX1_heldShare_59 : decode cX1_heldShare 59 = .ok (.ifCond .eq 47, 3) := dk_153 0 47 (dk_at dksX1_heldShare_2 14 rfl rfl)
theorem dX1_heldShare_62 : decode cX1_heldShare 62 = .ok (.aload 5, 2) := dk_25 5 (dk_at dksX1_heldShare_2 17 rfl rfl)
theorem dX1_heldShare_64 : decode cX1_heldShare 64 = .ok (.invokeinterface 299 1, 5) := by decide +kernel
theorem dX1_heldShare_69 : decode cX1_heldShare 69 = .ok (.checkcast 158, 3) := dk_192 0 158 (dk_at dksX1_heldShare_3 0 rfl rfl)
theorem dX1_heldShare_72 : decode cX1_heldShare 72 = .ok (.astore 6, 2) := dk_58 6 (dk_at dksX1_heldShare_3 3 rfl rfl)
theorem dX1_heldShare_74 : decode cX1_heldShare 74 = .ok (.aload 4, 2) := dk_25 4 (dk_at dksX1_heldShare_3 5 rfl rfl)
theorem dX1_heldShare_76 : decode cX1_heldShare 76 = .ok (.aload 6, 2) := dk_25 6 (dk_at dksX1_heldShare_3 7 rfl rfl)
theorem dX1_heldShare_78 : decode cX1_heldShare 78 = .ok (.invokevirtual 346, 3) := dk_182 1 90 (dk_at dksX1_heldShare_3 9 rfl rfl)
theorem dX1_heldShare_81 : decode cX1_heldShare 81 = .ok (.ifCond .ne 6, 3) := dk_154 0 6 (dk_at dksX1_heldShare_3 12 rfl rfl)
theorem dX1_heldShare_84 : decode cX1_heldShare 84 = .ok (.goto (-32), 3) := dk_167 255 224 (dk_at dksX1_heldShare_3 15 rfl rfl)
theorem dX1_heldShare_87 : decode cX1_heldShare 87 = .ok (.iinc 2 1, 3) := dk_132 2 1 (dk_at dksX1_heldShare_3 18 rfl rfl)
theorem dX1_heldShare_90 : decode cX1_heldShare 90 = .ok (.aload 4, 2) := dk_25 4 (dk_at dksX1_heldShare_3 21 rfl rfl)
theorem dX1_heldShare_92 : decode cX1_heldShare 92 = .ok (.aload 6, 2) := dk_25 6 (dk_at dksX1_heldShare_4 0 rfl rfl)
theorem dX1_heldShare_94 : decode cX1_heldShare 94 = .ok (.invokevirtual 350, 3) := dk_182 1 94 (dk_at dksX1_heldShare_4 2 rfl rfl)
theorem dX1_heldShare_97 : decode cX1_heldShare 97 = .ok (.ifCond .ne 6, 3) := dk_154 0 6 (dk_at dksX1_heldShare_4 5 rfl rfl)
theorem dX1_heldShare_100 : decode cX1_heldShare 100 = .ok (.iinc 1 1, 3) := dk_132 1 1 (dk_at dksX1_heldShare_4 8 rfl rfl)
theorem dX1_heldShare_103 : decode cX1_heldShare 103 = .ok (.goto (-51), 3) := dk_167 255 205 (dk_at dksX1_heldShare_4 11 rfl rfl)
theorem dX1_heldShare_106 : decode cX1_heldShare 106 = .ok (.iinc 3 1, 3) := dk_132 3 1 (dk_at dksX1_heldShare_4 14 rfl rfl)
theorem dX1_heldShare_109 : decode cX1_heldShare 109 = .ok (.goto (-103), 3) := dk_167 255 153 (dk_at dksX1_heldShare_4 17 rfl rfl)
theorem dX1_heldShare_112 : decode cX1_heldShare 112 = .ok (.iload_n 2, 1) := dk_28 (dk_at dksX1_heldShare_4 20 rfl rfl)
theorem dX1_heldShare_113 : decode cX1_heldShare 113 = .ok (.ifCond .ne 7, 3) := dk_154 0 7 (dk_at dksX1_heldShare_4 21 rfl rfl)
theorem dX1_heldShare_116 : decode cX1_heldShare 116 = .ok (.fconst 0, 1) := dk_11 (dk_at dksX1_heldShare_5 0 rfl rfl)
theorem dX1_heldShare_117 : decode cX1_heldShare 117 = .ok (.goto 8, 3) := dk_167 0 8 (dk_at dksX1_heldShare_5 1 rfl rfl)
theorem dX1_heldShare_120 : decode cX1_heldShare 120 = .ok (.iload_n 1, 1) := dk_27 (dk_at dksX1_heldShare_5 4 rfl rfl)
theorem dX1_heldShare_121 : decode cX1_heldShare 121 = .ok (.i2f, 1) := dk_134 (dk_at dksX1_heldShare_5 5 rfl rfl)
theorem dX1_heldShare_122 : decode cX1_heldShare 122 = .ok (.iload_n 2, 1) := dk_28 (dk_at dksX1_heldShare_5 6 rfl rfl)
theorem dX1_heldShare_123 : decode cX1_heldShare 123 = .ok (.i2f, 1) := dk_134 (dk_at dksX1_heldShare_5 7 rfl rfl)
theorem dX1_heldShare_124 : decode cX1_heldShare 124 = .ok (.fdiv, 1) := dk_110 (dk_at dksX1_heldShare_5 8 rfl rfl)
theorem dX1_heldShare_125 : decode cX1_heldShare 125 = .ok (.freturn, 1) := dk_174 (dk_at dksX1_heldShare_5 9 rfl rfl)
abbrev cX1_addPanel : ByteArray := prog_1_method_19_code
def yX1_addPanel : MethodName := ⟨RX1, "addPanel", "(I)I"⟩
def dkwX1_addPanel_2 : List UInt8 := [183, 0, 170, 182, 0, 173, 87, 42, 180, 0, 49, 182, 0, 93, 4, 100, 172]
abbrev dktX1_addPanel_2 : List UInt8 := dkwX1_addPanel_2 ++ []
def dkwX1_addPanel_1 : List UInt8 := [167, 0, 4, 3, 184, 0, 166, 42, 180, 0, 49, 187, 0, 105, 89, 42, 180, 0, 49, 182, 0, 93, 27]
abbrev dktX1_addPanel_1 : List UInt8 := dkwX1_addPanel_1 ++ dktX1_addPanel_2
def dkwX1_addPanel_0 : List UInt8 := [27, 3, 17, 3, 232, 184, 0, 162, 87, 42, 180, 0, 49, 182, 0, 93, 16, 6, 162, 0, 7, 4]
abbrev dktX1_addPanel_0 : List UInt8 := dkwX1_addPanel_0 ++ dktX1_addPanel_1
theorem dksX1_addPanel_0 : cX1_addPanel.data.toList.drop 0 = dktX1_addPanel_0 := by decide +kernel
theorem dksX1_addPanel_1 : cX1_addPanel.data.toList.drop 22 = dktX1_addPanel_1 := dk_seg dksX1_addPanel_0 22 rfl rfl
theorem dksX1_addPanel_2 : cX1_addPanel.data.toList.drop 45 = dktX1_addPanel_2 := dk_seg dksX1_addPanel_1 23 rfl rfl
theorem dX1_addPanel_0 : decode cX1_addPanel 0 = .ok (.iload_n 1, 1) := dk_27 (dk_at dksX1_addPanel_0 0 rfl rfl)
theorem dX1_addPanel_1 : decode cX1_addPanel 1 = .ok (.iconst 0, 1) := dk_3 (dk_at dksX1_addPanel_0 1 rfl rfl)
theorem dX1_addPanel_2 : decode cX1_addPanel 2 = .ok (.sipush 1000, 3) := dk_17 3 232 (dk_at dksX1_addPanel_0 2 rfl rfl)
theorem dX1_addPanel_5 : decode cX1_addPanel 5 = .ok (.invokestatic 162, 3) := dk_184 0 162 (dk_at dksX1_addPanel_0 5 rfl rfl)
theorem dX1_addPanel_8 : decode cX1_addPanel 8 = .ok (.pop, 1) := dk_87 (dk_at dksX1_addPanel_0 8 rfl rfl)
theorem dX1_addPanel_9 : decode cX1_addPanel 9 = .ok (.aload_n 0, 1) := dk_42 (dk_at dksX1_addPanel_0 9 rfl rfl)
theorem dX1_addPanel_10 : decode cX1_addPanel 10 = .ok (.getfield 49, 3) := dk_180 0 49 (dk_at dksX1_addPanel_0 10 rfl rfl)
theorem dX1_addPanel_13 : decode cX1_addPanel 13 = .ok (.invokevirtual 93, 3) := dk_182 0 93 (dk_at dksX1_addPanel_0 13 rfl rfl)
theorem dX1_addPanel_16 : decode cX1_addPanel 16 = .ok (.bipush 6, 2) := dk_16 6 (dk_at dksX1_addPanel_0 16 rfl rfl)
theorem dX1_addPanel_18 : decode cX1_addPanel 18 = .ok (.if_icmp .ge 7, 3) := dk_162 0 7 (dk_at dksX1_addPanel_0 18 rfl rfl)
theorem dX1_addPanel_21 : decode cX1_addPanel 21 = .ok (.iconst 1, 1) := dk_4 (dk_at dksX1_addPanel_0 21 rfl rfl)
theorem dX1_addPanel_22 : decode cX1_addPanel 22 = .ok (.goto 4, 3) := dk_167 0 4 (dk_at dksX1_addPanel_1 0 rfl rfl)
theorem dX1_addPanel_25 : decode cX1_addPanel 25 = .ok (.iconst 0, 1) := dk_3 (dk_at dksX1_addPanel_1 3 rfl rfl)
theorem dX1_addPanel_26 : decode cX1_addPanel 26 = .ok (.invokestatic 166, 3) := dk_184 0 166 (dk_at dksX1_addPanel_1 4 rfl rfl)
theorem dX1_addPanel_29 : decode cX1_addPanel 29 = .ok (.aload_n 0, 1) := dk_42 (dk_at dksX1_addPanel_1 7 rfl rfl)
theorem dX1_addPanel_30 : decode cX1_addPanel 30 = .ok (.getfield 49, 3) := dk_180 0 49 (dk_at dksX1_addPanel_1 8 rfl rfl)
theorem dX1_addPanel_33 : decode cX1_addPanel 33 = .ok (.new 105, 3) := dk_187 0 105 (dk_at dksX1_addPanel_1 11 rfl rfl)
theorem dX1_addPanel_36 : decode cX1_addPanel 36 = .ok (.dup, 1) := dk_89 (dk_at dksX1_addPanel_1 14 rfl rfl)
theorem dX1_addPanel_37 : decode cX1_addPanel 37 = .ok (.aload_n 0, 1) := dk_42 (dk_at dksX1_addPanel_1 15 rfl rfl)
theorem dX1_addPanel_38 : decode cX1_addPanel 38 = .ok (.getfield 49, 3) := dk_180 0 49 (dk_at dksX1_addPanel_1 16 rfl rfl)
theorem dX1_addPanel_41 : decode cX1_addPanel 41 = .ok (.invokevirtual 93, 3) := dk_182 0 93 (dk_at dksX1_addPanel_1 19 rfl rfl)
theorem dX1_addPanel_44 : decode cX1_addPanel 44 = .ok (.iload_n 1, 1) := dk_27 (dk_at dksX1_addPanel_1 22 rfl rfl)
theorem dX1_addPanel_45 : decode cX1_addPanel 45 = .ok (.invokespecial 170, 3) := dk_183 0 170 (dk_at dksX1_addPanel_2 0 rfl rfl)
theorem dX1_addPanel_48 : decode cX1_addPanel 48 = .ok (.invokevirtual 173, 3) := dk_182 0 173 (dk_at dksX1_addPanel_2 3 rfl rfl)
theorem dX1_addPanel_51 : decode cX1_addPanel 51 = .ok (.pop, 1) := dk_87 (dk_at dksX1_addPanel_2 6 rfl rfl)
theorem dX1_addPanel_52 : decode cX1_addPanel 52 = .ok (.aload_n 0, 1) := dk_42 (dk_at dksX1_addPanel_2 7 rfl rfl)
theorem dX1_addPanel_53 : decode cX1_addPanel 53 = .ok (.getfield 49, 3) := dk_180 0 49 (dk_at dksX1_addPanel_2 8 rfl rfl)
theorem dX1_addPanel_56 : decode cX1_addPanel 56 = .ok (.invokevirtual 93, 3) := dk_182 0 93 (dk_at dksX1_addPanel_2 11 rfl rfl)
theorem dX1_addPanel_59 : decode cX1_addPanel 59 = .ok (.iconst 1, 1) := dk_4 (dk_at dksX1_addPanel_2 14 rfl rfl)
theorem dX1_addPanel_60 : decode cX1_addPanel 60 = .ok (.isub, 1) := dk_100 (dk_at dksX1_addPanel_2 15 rfl rfl)
theorem dX1_addPanel_61 : decode cX1_addPanel 61 = .ok (.ireturn, 1) := dk_172 (dk_at dksX1_addPanel_2 16 rfl rfl)
abbrev cX1_in : ByteArray := prog_1_method_10_code
def yX1_in : MethodName := ⟨RX1, "in", "(III)I"⟩
def dkwX1_in_0 : List UInt8 := [26, 27, 161, 0, 8, 26, 28, 164, 0, 13, 187, 0, 119, 89, 18, 121, 183, 0, 123, 191, 26, 172]
abbrev dktX1_in_0 : List UInt8 := dkwX1_in_0 ++ []
theorem dksX1_in_0 : cX1_in.data.toList.drop 0 = dktX1_in_0 := by decide +kernel
theorem dX1_in_0 : decode cX1_in 0 = .ok (.iload_n 0, 1) := dk_26 (dk_at dksX1_in_0 0 rfl rfl)
theorem dX1_in_1 : decode cX1_in 1 = .ok (.iload_n 1, 1) := dk_27 (dk_at dksX1_in_0 1 rfl rfl)
theorem dX1_in_2 : decode cX1_in 2 = .ok (.if_icmp .lt 8, 3) := dk_161 0 8 (dk_at dksX1_in_0 2 rfl rfl)
theorem dX1_in_5 : decode cX1_in 5 = .ok (.iload_n 0, 1) := dk_26 (dk_at dksX1_in_0 5 rfl rfl)
theorem dX1_in_6 : decode cX1_in 6 = .ok (.iload_n 2, 1) := dk_28 (dk_at dksX1_in_0 6 rfl rfl)
theorem dX1_in_7 : decode cX1_in 7 = .ok (.if_icmp .le 13, 3) := dk_164 0 13 (dk_at dksX1_in_0 7 rfl rfl)
theorem dX1_in_10 : decode cX1_in 10 = .ok (.new 119, 3) := dk_187 0 119 (dk_at dksX1_in_0 10 rfl rfl)
theorem dX1_in_13 : decode cX1_in 13 = .ok (.dup, 1) := dk_89 (dk_at dksX1_in_0 13 rfl rfl)
theorem dX1_in_14 : decode cX1_in 14 = .ok (.ldc 121, 2) := dk_18 121 (dk_at dksX1_in_0 14 rfl rfl)
theorem dX1_in_16 : decode cX1_in 16 = .ok (.invokespecial 123, 3) := dk_183 0 123 (dk_at dksX1_in_0 16 rfl rfl)
theorem dX1_in_19 : decode cX1_in 19 = .ok (.athrow, 1) := dk_191 (dk_at dksX1_in_0 19 rfl rfl)
theorem dX1_in_20 : decode cX1_in 20 = .ok (.iload_n 0, 1) := dk_26 (dk_at dksX1_in_0 20 rfl rfl)
theorem dX1_in_21 : decode cX1_in 21 = .ok (.ireturn, 1) := dk_172 (dk_at dksX1_in_0 21 rfl rfl)
abbrev cX1_must : ByteArray := prog_1_method_13_code
def yX1_must : MethodName := ⟨RX1, "must", "(Z)V"⟩
def dkwX1_must_0 : List UInt8 := [26, 154, 0, 13, 187, 0, 133, 89, 18, 135, 183, 0, 137, 191, 177]
abbrev dktX1_must_0 : List UInt8 := dkwX1_must_0 ++ []
theorem dksX1_must_0 : cX1_must.data.toList.drop 0 = dktX1_must_0 := by decide +kernel
theorem dX1_must_0 : decode cX1_must 0 = .ok (.iload_n 0, 1) := dk_26 (dk_at dksX1_must_0 0 rfl rfl)
theorem dX1_must_1 : decode cX1_must 1 = .ok (.ifCond .ne 13, 3) := dk_154 0 13 (dk_at dksX1_must_0 1 rfl rfl)
theorem dX1_must_4 : decode cX1_must 4 = .ok (.new 133, 3) := dk_187 0 133 (dk_at dksX1_must_0 4 rfl rfl)
theorem dX1_must_7 : decode cX1_must 7 = .ok (.dup, 1) := dk_89 (dk_at dksX1_must_0 7 rfl rfl)
theorem dX1_must_8 : decode cX1_must 8 = .ok (.ldc 135, 2) := dk_18 135 (dk_at dksX1_must_0 8 rfl rfl)
theorem dX1_must_10 : decode cX1_must 10 = .ok (.invokespecial 137, 3) := dk_183 0 137 (dk_at dksX1_must_0 10 rfl rfl)
theorem dX1_must_13 : decode cX1_must 13 = .ok (.athrow, 1) := dk_191 (dk_at dksX1_must_0 13 rfl rfl)
theorem dX1_must_14 : decode cX1_must 14 = .ok (.return_, 1) := dk_177 (dk_at dksX1_must_0 14 rfl rfl)
abbrev cX1_setDepth : ByteArray := prog_1_method_20_code
def yX1_setDepth : MethodName := ⟨RX1, "setDepth", "(III)I"⟩
def dkwX1_setDepth_2 : List UInt8 := [54, 5, 25, 4, 180, 0, 183, 28, 29, 79, 21, 5, 172]
abbrev dktX1_setDepth_2 : List UInt8 := dkwX1_setDepth_2 ++ []
def dkwX1_setDepth_1 : List UInt8 := [25, 4, 182, 0, 180, 154, 0, 7, 4, 167, 0, 4, 3, 184, 0, 166, 25, 4, 180, 0, 183, 28, 46]
abbrev dktX1_setDepth_1 : List UInt8 := dkwX1_setDepth_1 ++ dktX1_setDepth_2
def dkwX1_setDepth_0 : List UInt8 := [42, 27, 182, 0, 177, 58, 4, 28, 3, 16, 63, 184, 0, 162, 87, 29, 3, 16, 15, 184, 0, 162, 87, 42]
abbrev dktX1_setDepth_0 : List UInt8 := dkwX1_setDepth_0 ++ dktX1_setDepth_1
theorem dksX1_setDepth_0 : cX1_setDepth.data.toList.drop 0 = dktX1_setDepth_0 := by decide +kernel
theorem dksX1_setDepth_1 : cX1_setDepth.data.toList.drop 24 = dktX1_setDepth_1 := dk_seg dksX1_setDepth_0 24 rfl rfl
theorem dksX1_setDepth_2 : cX1_setDepth.data.toList.drop 47 = dktX1_setDepth_2 := dk_seg dksX1_setDepth_1 23 rfl rfl
theorem dX1_setDepth_0 : decode cX1_setDepth 0 = .ok (.aload_n 0, 1) := dk_42 (dk_at dksX1_setDepth_0 0 rfl rfl)
theorem dX1_setDepth_1 : decode cX1_setDepth 1 = .ok (.iload_n 1, 1) := dk_27 (dk_at dksX1_setDepth_0 1 rfl rfl)
theorem dX1_setDepth_2 : decode cX1_setDepth 2 = .ok (.invokevirtual 177, 3) := dk_182 0 177 (dk_at dksX1_setDepth_0 2 rfl rfl)
theorem dX1_setDepth_5 : decode cX1_setDepth 5 = .ok (.astore 4, 2) := dk_58 4 (dk_at dksX1_setDepth_0 5 rfl rfl)
theorem dX1_setDepth_7 : decode cX1_setDepth 7 = .ok (.iload_n 2, 1) := dk_28 (dk_at dksX1_setDepth_0 7 rfl rfl)
theorem dX1_setDepth_8 : decode cX1_setDepth 8 = .ok (.iconst 0, 1) := dk_3 (dk_at dksX1_setDepth_0 8 rfl rfl)
theorem dX1_setDepth_9 : decode cX1_setDepth 9 = .ok (.bipush 63, 2) := dk_16 63 (dk_at dksX1_setDepth_0 9 rfl rfl)
theorem dX1_setDepth_11 : decode cX1_setDepth 11 = .ok (.invokestatic 162, 3) := dk_184 0 162 (dk_at dksX1_setDepth_0 11 rfl rfl)
theorem dX1_setDepth_14 : decode cX1_setDepth 14 = .ok (.pop, 1) := dk_87 (dk_at dksX1_setDepth_0 14 rfl rfl)
theorem dX1_setDepth_15 : decode cX1_setDepth 15 = .ok (.iload_n 3, 1) := dk_29 (dk_at dksX1_setDepth_0 15 rfl rfl)
theorem dX1_setDepth_16 : decode cX1_setDepth 16 = .ok (.iconst 0, 1) := dk_3 (dk_at dksX1_setDepth_0 16 rfl rfl)
theorem dX1_setDepth_17 : decode cX1_setDepth 17 = .ok (.bipush 15, 2) := dk_16 15 (dk_at dksX1_setDepth_0 17 rfl rfl)
theorem dX1_setDepth_19 : decode cX1_setDepth 19 = .ok (.invokestatic 162, 3) := dk_184 0 162 (dk_at dksX1_setDepth_0 19 rfl rfl)
theorem dX1_setDepth_22 : decode cX1_setDepth 22 = .ok (.pop, 1) := dk_87 (dk_at dksX1_setDepth_0 22 rfl rfl)
theorem dX1_setDepth_23 : decode cX1_setDepth 23 = .ok (.aload_n 0, 1) := dk_42 (dk_at dksX1_setDepth_0 23 rfl rfl)
theorem dX1_setDepth_24 : decode cX1_setDepth 24 = .ok (.aload 4, 2) := dk_25 4 (dk_at dksX1_setDepth_1 0 rfl rfl)
theorem dX1_setDepth_26 : decode cX1_setDepth 26 = .ok (.invokevirtual 180, 3) := dk_182 0 180 (dk_at dksX1_setDepth_1 2 rfl rfl)
theorem dX1_setDepth_29 : decode cX1_setDepth 29 = .ok (.ifCond .ne 7, 3) := dk_154 0 7 (dk_at dksX1_setDepth_1 5 rfl rfl)
theorem dX1_setDepth_32 : decode cX1_setDepth 32 = .ok (.iconst 1, 1) := dk_4 (dk_at dksX1_setDepth_1 8 rfl rfl)
theorem dX1_setDepth_33 : decode cX1_setDepth 33 = .ok (.goto 4, 3) := dk_167 0 4 (dk_at dksX1_setDepth_1 9 rfl rfl)
theorem dX1_setDepth_36 : decode cX1_setDepth 36 = .ok (.iconst 0, 1) := dk_3 (dk_at dksX1_setDepth_1 12 rfl rfl)
theorem dX1_setDepth_37 : decode cX1_setDepth 37 = .ok (.invokestatic 166, 3) := dk_184 0 166 (dk_at dksX1_setDepth_1 13 rfl rfl)
theorem dX1_setDepth_40 : decode cX1_setDepth 40 = .ok (.aload 4, 2) := dk_25 4 (dk_at dksX1_setDepth_1 16 rfl rfl)
theorem dX1_setDepth_42 : decode cX1_setDepth 42 = .ok (.getfield 183, 3) := dk_180 0 183 (dk_at dksX1_setDepth_1 18 rfl rfl)
theorem dX1_setDepth_45 : decode cX1_setDepth 45 = .ok (.iload_n 2, 1) := dk_28 (dk_at dksX1_setDepth_1 21 rfl rfl)
theorem dX1_setDepth_46 : decode cX1_setDepth 46 = .ok (.iaload, 1) := dk_46 (dk_at dksX1_setDepth_1 22 rfl rfl)
theorem dX1_setDepth_47 : decode cX1_setDepth 47 = .ok (.istore 5, 2) := dk_54 5 (dk_at dksX1_setDepth_2 0 rfl rfl)
theorem dX1_setDepth_49 : decode cX1_setDepth 49 = .ok (.aload 4, 2) := dk_25 4 (dk_at dksX1_setDepth_2 2 rfl rfl)
theorem dX1_setDepth_51 : decode cX1_setDepth 51 = .ok (.getfield 183, 3) := dk_180 0 183 (dk_at dksX1_setDepth_2 4 rfl rfl)
theorem dX1_setDepth_54 : decode cX1_setDepth 54 = .ok (.iload_n 2, 1) := dk_28 (dk_at dksX1_setDepth_2 7 rfl rfl)
theorem dX1_setDepth_55 : decode cX1_setDepth 55 = .ok (.iload_n 3, 1) := dk_29 (dk_at dksX1_setDepth_2 8 rfl rfl)
theorem dX1_setDepth_56 : decode cX1_setDepth 56 = .ok (.iastore, 1) := dk_79 (dk_at dksX1_setDepth_2 9 rfl rfl)
theorem dX1_setDepth_57 : decode cX1_setDepth 57 = .ok (.iload 5, 2) := dk_21 5 (dk_at dksX1_setDepth_2 10 rfl rfl)
theorem dX1_setDepth_59 : decode cX1_setDepth 59 = .ok (.ireturn, 1) := dk_172 (dk_at dksX1_setDepth_2 12 rfl rfl)
abbrev cX1_panel : ByteArray := prog_1_method_14_code
def yX1_panel : MethodName := ⟨RX1, "panel", "(I)LFigureSurvey$Panel;"⟩
def dkwX1_panel_0 : List UInt8 := [42, 180, 0, 49, 27, 42, 180, 0, 49, 182, 0, 93, 184, 0, 138, 182, 0, 141, 192, 0, 105, 176]
abbrev dktX1_panel_0 : List UInt8 := dkwX1_panel_0 ++ []
theorem dksX1_panel_0 : cX1_panel.data.toList.drop 0 = dktX1_panel_0 := by decide +kernel
theorem dX1_panel_0 : decode cX1_panel 0 = .ok (.aload_n 0, 1) := dk_42 (dk_at dksX1_panel_0 0 rfl rfl)
theorem dX1_panel_1 : decode cX1_panel 1 = .ok (.getfield 49, 3) := dk_180 0 49 (dk_at dksX1_panel_0 1 rfl rfl)
theorem dX1_panel_4 : decode cX1_panel 4 = .ok (.iload_n 1, 1) := dk_27 (dk_at dksX1_panel_0 4 rfl rfl)
theorem dX1_panel_5 : decode cX1_panel 5 = .ok (.aload_n 0, 1) := dk_42 (dk_at dksX1_panel_0 5 rfl rfl)
theorem dX1_panel_6 : decode cX1_panel 6 = .ok (.getfield 49, 3) := dk_180 0 49 (dk_at dksX1_panel_0 6 rfl rfl)
theorem dX1_panel_9 : decode cX1_panel 9 = .ok (.invokevirtual 93, 3) := dk_182 0 93 (dk_at dksX1_panel_0 9 rfl rfl)
theorem dX1_panel_12 : decode cX1_panel 12 = .ok (.invokestatic 138, 3) := dk_184 0 138 (dk_at dksX1_panel_0 12 rfl rfl)
theorem dX1_panel_15 : decode cX1_panel 15 = .ok (.invokevirtual 141, 3) := dk_182 0 141 (dk_at dksX1_panel_0 15 rfl rfl)
theorem dX1_panel_18 : decode cX1_panel 18 = .ok (.checkcast 105, 3) := dk_192 0 105 (dk_at dksX1_panel_0 18 rfl rfl)
theorem dX1_panel_21 : decode cX1_panel 21 = .ok (.areturn, 1) := dk_176 (dk_at dksX1_panel_0 21 rfl rfl)
abbrev cX1_there : ByteArray := prog_1_method_12_code
def yX1_there : MethodName := ⟨RX1, "there", "(II)I"⟩
def dkwX1_there_0 : List UInt8 := [26, 155, 0, 8, 26, 27, 161, 0, 13, 187, 0, 128, 89, 18, 130, 183, 0, 132, 191, 26, 172]
abbrev dktX1_there_0 : List UInt8 := dkwX1_there_0 ++ []
theorem dksX1_there_0 : cX1_there.data.toList.drop 0 = dktX1_there_0 := by decide +kernel
theorem dX1_there_0 : decode cX1_there 0 = .ok (.iload_n 0, 1) := dk_26 (dk_at dksX1_there_0 0 rfl rfl)
theorem dX1_there_1 : decode cX1_there 1 = .ok (.ifCond .lt 8, 3) := dk_155 0 8 (dk_at dksX1_there_0 1 rfl rfl)
theorem dX1_there_4 : decode cX1_there 4 = .ok (.iload_n 0, 1) := dk_26 (dk_at dksX1_there_0 4 rfl rfl)
theorem dX1_there_5 : decode cX1_there 5 = .ok (.iload_n 1, 1) := dk_27 (dk_at dksX1_there_0 5 rfl rfl)
theorem dX1_there_6 : decode cX1_there 6 = .ok (.if_icmp .lt 13, 3) := dk_161 0 13 (dk_at dksX1_there_0 6 rfl rfl)
theorem dX1_there_9 : decode cX1_there 9 = .ok (.new 128, 3) := dk_187 0 128 (dk_at dksX1_there_0 9 rfl rfl)
theorem dX1_there_12 : decode cX1_there 12 = .ok (.dup, 1) := dk_89 (dk_at dksX1_there_0 12 rfl rfl)
theorem dX1_there_13 : decode cX1_there 13 = .ok (.ldc 130, 2) := dk_18 130 (dk_at dksX1_there_0 13 rfl rfl)
theorem dX1_there_15 : decode cX1_there 15 = .ok (.invokespecial 132, 3) := dk_183 0 132 (dk_at dksX1_there_0 15 rfl rfl)
theorem dX1_there_18 : decode cX1_there 18 = .ok (.athrow, 1) := dk_191 (dk_at dksX1_there_0 18 rfl rfl)
theorem dX1_there_19 : decode cX1_there 19 = .ok (.iload_n 0, 1) := dk_26 (dk_at dksX1_there_0 19 rfl rfl)
theorem dX1_there_20 : decode cX1_there 20 = .ok (.ireturn, 1) := dk_172 (dk_at dksX1_there_0 20 rfl rfl)
abbrev cX1_light : ByteArray := prog_1_method_21_code
def yX1_light : MethodName := ⟨RX1, "light", "(II)I"⟩
def dkwX1_light_2 : List UInt8 := [28, 120, 128, 181, 0, 186, 45, 180, 0, 186, 184, 0, 189, 172]
abbrev dktX1_light_2 : List UInt8 := dkwX1_light_2 ++ []
def dkwX1_light_1 : List UInt8 := [180, 0, 186, 28, 184, 0, 14, 154, 0, 7, 4, 167, 0, 4, 3, 184, 0, 166, 45, 89, 180, 0, 186, 4]
abbrev dktX1_light_1 : List UInt8 := dkwX1_light_1 ++ dktX1_light_2
def dkwX1_light_0 : List UInt8 := [42, 27, 182, 0, 177, 78, 28, 3, 6, 184, 0, 162, 87, 42, 45, 182, 0, 180, 154, 0, 18, 45]
abbrev dktX1_light_0 : List UInt8 := dkwX1_light_0 ++ dktX1_light_1
theorem dksX1_light_0 : cX1_light.data.toList.drop 0 = dktX1_light_0 := by decide +kernel
theorem dksX1_light_1 : cX1_light.data.toList.drop 22 = dktX1_light_1 := dk_seg dksX1_light_0 22 rfl rfl
theorem dksX1_light_2 : cX1_light.data.toList.drop 46 = dktX1_light_2 := dk_seg dksX1_light_1 24 rfl rfl
theorem dX1_light_0 : decode cX1_light 0 = .ok (.aload_n 0, 1) := dk_42 (dk_at dksX1_light_0 0 rfl rfl)
theorem dX1_light_1 : decode cX1_light 1 = .ok (.iload_n 1, 1) := dk_27 (dk_at dksX1_light_0 1 rfl rfl)
theorem dX1_light_2 : decode cX1_light 2 = .ok (.invokevirtual 177, 3) := dk_182 0 177 (dk_at dksX1_light_0 2 rfl rfl)
theorem dX1_light_5 : decode cX1_light 5 = .ok (.astore_n 3, 1) := dk_78 (dk_at dksX1_light_0 5 rfl rfl)
theorem dX1_light_6 : decode cX1_light 6 = .ok (.iload_n 2, 1) := dk_28 (dk_at dksX1_light_0 6 rfl rfl)
theorem dX1_light_7 : decode cX1_light 7 = .ok (.iconst 0, 1) := dk_3 (dk_at dksX1_light_0 7 rfl rfl)
theorem dX1_light_8 : decode cX1_light 8 = .ok (.iconst 3, 1) := dk_6 (dk_at dksX1_light_0 8 rfl rfl)
theorem dX1_light_9 : decode cX1_light 9 = .ok (.invokestatic 162, 3) := dk_184 0 162 (dk_at dksX1_light_0 9 rfl rfl)
theorem dX1_light_12 : decode cX1_light 12 = .ok (.pop, 1) := dk_87 (dk_at dksX1_light_0 12 rfl rfl)
theorem dX1_light_13 : decode cX1_light 13 = .ok (.aload_n 0, 1) := dk_42 (dk_at dksX1_light_0 13 rfl rfl)
theorem dX1_light_14 : decode cX1_light 14 = .ok (.aload_n 3, 1) := dk_45 (dk_at dksX1_light_0 14 rfl rfl)
theorem dX1_light_15 : decode cX1_light 15 = .ok (.invokevirtual 180, 3) := dk_182 0 180 (dk_at dksX1_light_0 15 rfl rfl)
theorem dX1_light_18 : decode cX1_light 18 = .ok (.ifCond .ne 18, 3) := dk_154 0 18 (dk_at dksX1_light_0 18 rfl rfl)
theorem dX1_light_21 : decode cX1_light 21 = .ok (.aload_n 3, 1) := dk_45 (dk_at dksX1_light_0 21 rfl rfl)
theorem dX1_light_22 : decode cX1_light 22 = .ok (.getfield 186, 3) := dk_180 0 186 (dk_at dksX1_light_1 0 rfl rfl)
theorem dX1_light_25 : decode cX1_light 25 = .ok (.iload_n 2, 1) := dk_28 (dk_at dksX1_light_1 3 rfl rfl)
theorem dX1_light_26 : decode cX1_light 26 = .ok (.invokestatic 14, 3) := dk_184 0 14 (dk_at dksX1_light_1 4 rfl rfl)
theorem dX1_light_29 : decode cX1_light 29 = .ok (.ifCond .ne 7, 3) := dk_154 0 7 (dk_at dksX1_light_1 7 rfl rfl)
theorem dX1_light_32 : decode cX1_light 32 = .ok (.iconst 1, 1) := dk_4 (dk_at dksX1_light_1 10 rfl rfl)
theorem dX1_light_33 : decode cX1_light 33 = .ok (.goto 4, 3) := dk_167 0 4 (dk_at dksX1_light_1 11 rfl rfl)
theorem dX1_light_36 : decode cX1_light 36 = .ok (.iconst 0, 1) := dk_3 (dk_at dksX1_light_1 14 rfl rfl)
theorem dX1_light_37 : decode cX1_light 37 = .ok (.invokestatic 166, 3) := dk_184 0 166 (dk_at dksX1_light_1 15 rfl rfl)
theorem dX1_light_40 : decode cX1_light 40 = .ok (.aload_n 3, 1) := dk_45 (dk_at dksX1_light_1 18 rfl rfl)
theorem dX1_light_41 : decode cX1_light 41 = .ok (.dup, 1) := dk_89 (dk_at dksX1_light_1 19 rfl rfl)
theorem dX1_light_42 : decode cX1_light 42 = .ok (.getfield 186, 3) := dk_180 0 186 (dk_at dksX1_light_1 20 rfl rfl)
theorem dX1_light_45 : decode cX1_light 45 = .ok (.iconst 1, 1) := dk_4 (dk_at dksX1_light_1 23 rfl rfl)
theorem dX1_light_46 : decode cX1_light 46 = .ok (.iload_n 2, 1) := dk_28 (dk_at dksX1_light_2 0 rfl rfl)
theorem dX1_light_47 : decode cX1_light 47 = .ok (.ishl, 1) := dk_120 (dk_at dksX1_light_2 1 rfl rfl)
theorem dX1_light_48 : decode cX1_light 48 = .ok (.ior, 1) := dk_128 (dk_at dksX1_light_2 2 rfl rfl)
theorem dX1_light_49 : decode cX1_light 49 = .ok (.putfield 186, 3) := dk_181 0 186 (dk_at dksX1_light_2 3 rfl rfl)
theorem dX1_light_52 : decode cX1_light 52 = .ok (.aload_n 3, 1) := dk_45 (dk_at dksX1_light_2 6 rfl rfl)
theorem dX1_light_53 : decode cX1_light 53 = .ok (.getfield 186, 3) := dk_180 0 186 (dk_at dksX1_light_2 7 rfl rfl)
theorem dX1_light_56 : decode cX1_light 56 = .ok (.invokestatic 189, 3) := dk_184 0 189 (dk_at dksX1_light_2 10 rfl rfl)
theorem dX1_light_59 : decode cX1_light 59 = .ok (.ireturn, 1) := dk_172 (dk_at dksX1_light_2 13 rfl rfl)
abbrev cX1_seen : ByteArray := prog_1_method_22_code
def yX1_seen : MethodName := ⟨RX1, "seen", "(II)I"⟩
def dkwX1_seen_0 : List UInt8 := [42, 27, 182, 0, 177, 78, 45, 28, 3, 16, 63, 184, 0, 162, 182, 0, 193, 172]
abbrev dktX1_seen_0 : List UInt8 := dkwX1_seen_0 ++ []
theorem dksX1_seen_0 : cX1_seen.data.toList.drop 0 = dktX1_seen_0 := by decide +kernel
theorem dX1_seen_0 : decode cX1_seen 0 = .ok (.aload_n 0, 1) := dk_42 (dk_at dksX1_seen_0 0 rfl rfl)
theorem dX1_seen_1 : decode cX1_seen 1 = .ok (.iload_n 1, 1) := dk_27 (dk_at dksX1_seen_0 1 rfl rfl)
theorem dX1_seen_2 : decode cX1_seen 2 = .ok (.invokevirtual 177, 3) := dk_182 0 177 (dk_at dksX1_seen_0 2 rfl rfl)
theorem dX1_seen_5 : decode cX1_seen 5 = .ok (.astore_n 3, 1) := dk_78 (dk_at dksX1_seen_0 5 rfl rfl)
theorem dX1_seen_6 : decode cX1_seen 6 = .ok (.aload_n 3, 1) := dk_45 (dk_at dksX1_seen_0 6 rfl rfl)
theorem dX1_seen_7 : decode cX1_seen 7 = .ok (.iload_n 2, 1) := dk_28 (dk_at dksX1_seen_0 7 rfl rfl)
theorem dX1_seen_8 : decode cX1_seen 8 = .ok (.iconst 0, 1) := dk_3 (dk_at dksX1_seen_0 8 rfl rfl)
theorem dX1_seen_9 : decode cX1_seen 9 = .ok (.bipush 63, 2) := dk_16 63 (dk_at dksX1_seen_0 9 rfl rfl)
theorem dX1_seen_11 : decode cX1_seen 11 = .ok (.invokestatic 162, 3) := dk_184 0 162 (dk_at dksX1_seen_0 11 rfl rfl)
theorem dX1_seen_14 : decode cX1_seen 14 = .ok (.invokevirtual 193, 3) := dk_182 0 193 (dk_at dksX1_seen_0 14 rfl rfl)
theorem dX1_seen_17 : decode cX1_seen 17 = .ok (.ireturn, 1) := dk_172 (dk_at dksX1_seen_0 17 rfl rfl)
abbrev cX1_edges : ByteArray := prog_1_method_23_code
def yX1_edges : MethodName := ⟨RX1, "edges", "(II)J"⟩
def dkwX1_edges_0 : List UInt8 := [42, 27, 182, 0, 177, 78, 45, 28, 4, 7, 184, 0, 162, 182, 0, 196, 173]
abbrev dktX1_edges_0 : List UInt8 := dkwX1_edges_0 ++ []
theorem dksX1_edges_0 : cX1_edges.data.toList.drop 0 = dktX1_edges_0 := by decide +kernel
theorem dX1_edges_0 : decode cX1_edges 0 = .ok (.aload_n 0, 1) := dk_42 (dk_at dksX1_edges_0 0 rfl rfl)
theorem dX1_edges_1 : decode cX1_edges 1 = .ok (.iload_n 1, 1) := dk_27 (dk_at dksX1_edges_0 1 rfl rfl)
theorem dX1_edges_2 : decode cX1_edges 2 = .ok (.invokevirtual 177, 3) := dk_182 0 177 (dk_at dksX1_edges_0 2 rfl rfl)
theorem dX1_edges_5 : decode cX1_edges 5 = .ok (.astore_n 3, 1) := dk_78 (dk_at dksX1_edges_0 5 rfl rfl)
theorem dX1_edges_6 : decode cX1_edges 6 = .ok (.aload_n 3, 1) := dk_45 (dk_at dksX1_edges_0 6 rfl rfl)
theorem dX1_edges_7 : decode cX1_edges 7 = .ok (.iload_n 2, 1) := dk_28 (dk_at dksX1_edges_0 7 rfl rfl)
theorem dX1_edges_8 : decode cX1_edges 8 = .ok (.iconst 1, 1) := dk_4 (dk_at dksX1_edges_0 8 rfl rfl)
theorem dX1_edges_9 : decode cX1_edges 9 = .ok (.iconst 4, 1) := dk_7 (dk_at dksX1_edges_0 9 rfl rfl)
theorem dX1_edges_10 : decode cX1_edges 10 = .ok (.invokestatic 162, 3) := dk_184 0 162 (dk_at dksX1_edges_0 10 rfl rfl)
theorem dX1_edges_13 : decode cX1_edges 13 = .ok (.invokevirtual 196, 3) := dk_182 0 196 (dk_at dksX1_edges_0 13 rfl rfl)
theorem dX1_edges_16 : decode cX1_edges 16 = .ok (.lreturn, 1) := dk_173 (dk_at dksX1_edges_0 16 rfl rfl)
abbrev cX1_addStroke : ByteArray := prog_1_method_24_code
def yX1_addStroke : MethodName := ⟨RX1, "addStroke", "(IJ)I"⟩
def dkwX1_addStroke_3 : List UInt8 := [180, 0, 53, 182, 0, 93, 4, 100, 172]
abbrev dktX1_addStroke_3 : List UInt8 := dkwX1_addStroke_3 ++ []
def dkwX1_addStroke_2 : List UInt8 := [184, 0, 166, 42, 180, 0, 53, 187, 0, 145, 89, 25, 4, 32, 183, 0, 203, 182, 0, 173, 87, 42]
abbrev dktX1_addStroke_2 : List UInt8 := dkwX1_addStroke_2 ++ dktX1_addStroke_3
def dkwX1_addStroke_1 : List UInt8 := [182, 0, 180, 154, 0, 19, 42, 180, 0, 53, 182, 0, 93, 16, 60, 162, 0, 7, 4, 167, 0, 4, 3]
abbrev dktX1_addStroke_1 : List UInt8 := dkwX1_addStroke_1 ++ dktX1_addStroke_2
def dkwX1_addStroke_0 : List UInt8 := [42, 27, 182, 0, 177, 58, 4, 32, 9, 148, 153, 0, 7, 4, 167, 0, 4, 3, 184, 0, 200, 42, 25, 4]
abbrev dktX1_addStroke_0 : List UInt8 := dkwX1_addStroke_0 ++ dktX1_addStroke_1
theorem dksX1_addStroke_0 : cX1_addStroke.data.toList.drop 0 = dktX1_addStroke_0 := by decide +kernel
theorem dksX1_addStroke_1 : cX1_addStroke.data.toList.drop 24 = dktX1_addStroke_1 := dk_seg dksX1_addStroke_0 24 rfl rfl
theorem dksX1_addStroke_2 : cX1_addStroke.data.toList.drop 47 = dktX1_addStroke_2 := dk_seg dksX1_addStroke_1 23 rfl rfl
theorem dksX1_addStroke_3 : cX1_addStroke.data.toList.drop 69 = dktX1_addStroke_3 := dk_seg dksX1_addStroke_2 22 rfl rfl
theorem dX1_addStroke_0 : decode cX1_addStroke 0 = .ok (.aload_n 0, 1) := dk_42 (dk_at dksX1_addStroke_0 0 rfl rfl)
theorem dX1_addStroke_1 : decode cX1_addStroke 1 = .ok (.iload_n 1, 1) := dk_27 (dk_at dksX1_addStroke_0 1 rfl rfl)
theorem dX1_addStroke_2 : decode cX1_addStroke 2 = .ok (.invokevirtual 177, 3) := dk_182 0 177 (dk_at dksX1_addStroke_0 2 rfl rfl)
theorem dX1_addStroke_5 : decode cX1_addStroke 5 = .ok (.astore 4, 2) := dk_58 4 (dk_at dksX1_addStroke_0 5 rfl rfl)
theorem dX1_addStroke_7 : decode cX1_addStroke 7 = .ok (.lload_n 2, 1) := dk_32 (dk_at dksX1_addStroke_0 7 rfl rfl)
theorem dX1_addStroke_8 : decode cX1_addStroke 8 = .ok (.lconst 0, 1) := dk_9 (dk_at dksX1_addStroke_0 8 rfl rfl)
theorem dX1_addStroke_9 : decode cX1_addStroke 9 = .ok (.lcmp, 1) := dk_148 (dk_at dksX1_addStroke_0 9 rfl rfl)
theorem dX1_addStroke_10 : decode cX1_addStroke 10 = .ok (.ifCond .eq 7, 3) := dk_153 0 7 (dk_at dksX1_addStroke_0 10 rfl rfl)
theorem dX1_addStroke_13 : decode cX1_addStroke 13 = .ok (.iconst 1, 1) := dk_4 (dk_at dksX1_addStroke_0 13 rfl rfl)
theorem dX1_addStroke_14 : decode cX1_addStroke 14 = .ok (.goto 4, 3) := dk_167 0 4 (dk_at dksX1_addStroke_0 14 rfl rfl)
theorem dX1_addStroke_17 : decode cX1_addStroke 17 = .ok (.iconst 0, 1) := dk_3 (dk_at dksX1_addStroke_0 17 rfl rfl)
theorem dX1_addStroke_18 : decode cX1_addStroke 18 = .ok (.invokestatic 200, 3) := dk_184 0 200 (dk_at dksX1_addStroke_0 18 rfl rfl)
theorem dX1_addStroke_21 : decode cX1_addStroke 21 = .ok (.aload_n 0, 1) := dk_42 (dk_at dksX1_addStroke_0 21 rfl rfl)
theorem dX1_addStroke_22 : decode cX1_addStroke 22 = .ok (.aload 4, 2) := dk_25 4 (dk_at dksX1_addStroke_0 22 rfl rfl)
theorem dX1_addStroke_24 : decode cX1_addStroke 24 = .ok (.invokevirtual 180, 3) := dk_182 0 180 (dk_at dksX1_addStroke_1 0 rfl rfl)
theorem dX1_addStroke_27 : decode cX1_addStroke 27 = .ok (.ifCond .ne 19, 3) := dk_154 0 19 (dk_at dksX1_addStroke_1 3 rfl rfl)
theorem dX1_addStroke_30 : decode cX1_addStroke 30 = .ok (.aload_n 0, 1) := dk_42 (dk_at dksX1_addStroke_1 6 rfl rfl)
theorem dX1_addStroke_31 : decode cX1_addStroke 31 = .ok (.getfield 53, 3) := dk_180 0 53 (dk_at dksX1_addStroke_1 7 rfl rfl)
theorem dX1_addStroke_34 : decode cX1_addStroke 34 = .ok (.invokevirtual 93, 3) := dk_182 0 93 (dk_at dksX1_addStroke_1 10 rfl rfl)
theorem dX1_addStroke_37 : decode cX1_addStroke 37 = .ok (.bipush 60, 2) := dk_16 60 (dk_at dksX1_addStroke_1 13 rfl rfl)
theorem dX1_addStroke_39 : decode cX1_addStroke 39 = .ok (.if_icmp .ge 7, 3) := dk_162 0 7 (dk_at dksX1_addStroke_1 15 rfl rfl)
theorem dX1_addStroke_42 : decode cX1_addStroke 42 = .ok (.iconst 1, 1) := dk_4 (dk_at dksX1_addStroke_1 18 rfl rfl)
theorem dX1_addStroke_43 : decode cX1_addStroke 43 = .ok (.goto 4, 3) := dk_167 0 4 (dk_at dksX1_addStroke_1 19 rfl rfl)
theorem dX1_addStroke_46 : decode cX1_addStroke 46 = .ok (.iconst 0, 1) := dk_3 (dk_at dksX1_addStroke_1 22 rfl rfl)
theorem dX1_addStroke_47 : decode cX1_addStroke 47 = .ok (.invokestatic 166, 3) := dk_184 0 166 (dk_at dksX1_addStroke_2 0 rfl rfl)
theorem dX1_addStroke_50 : decode cX1_addStroke 50 = .ok (.aload_n 0, 1) := dk_42 (dk_at dksX1_addStroke_2 3 rfl rfl)
theorem dX1_addStroke_51 : decode cX1_addStroke 51 = .ok (.getfield 53, 3) := dk_180 0 53 (dk_at dksX1_addStroke_2 4 rfl rfl)
theorem dX1_addStroke_54 : decode cX1_addStroke 54 = .ok (.new 145, 3) := dk_187 0 145 (dk_at dksX1_addStroke_2 7 rfl rfl)
theorem dX1_addStroke_57 : decode cX1_addStroke 57 = .ok (.dup, 1) := dk_89 (dk_at dksX1_addStroke_2 10 rfl rfl)
theorem dX1_addStroke_58 : decode cX1_addStroke 58 = .ok (.aload 4, 2) := dk_25 4 (dk_at dksX1_addStroke_2 11 rfl rfl)
theorem dX1_addStroke_60 : decode cX1_addStroke 60 = .ok (.lload_n 2, 1) := dk_32 (dk_at dksX1_addStroke_2 13 rfl rfl)
theorem dX1_addStroke_61 : decode cX1_addStroke 61 = .ok (.invokespecial 203, 3) := dk_183 0 203 (dk_at dksX1_addStroke_2 14 rfl rfl)
theorem dX1_addStroke_64 : decode cX1_addStroke 64 = .ok (.invokevirtual 173, 3) := dk_182 0 173 (dk_at dksX1_addStroke_2 17 rfl rfl)
theorem dX1_addStroke_67 : decode cX1_addStroke 67 = .ok (.pop, 1) := dk_87 (dk_at dksX1_addStroke_2 20 rfl rfl)
theorem dX1_addStroke_68 : decode cX1_addStroke 68 = .ok (.aload_n 0, 1) := dk_42 (dk_at dksX1_addStroke_2 21 rfl rfl)
theorem dX1_addStroke_69 : decode cX1_addStroke 69 = .ok (.getfield 53, 3) := dk_180 0 53 (dk_at dksX1_addStroke_3 0 rfl rfl)
theorem dX1_addStroke_72 : decode cX1_addStroke 72 = .ok (.invokevirtual 93, 3) := dk_182 0 93 (dk_at dksX1_addStroke_3 3 rfl rfl)
theorem dX1_addStroke_75 : decode cX1_addStroke 75 = .ok (.iconst 1, 1) := dk_4 (dk_at dksX1_addStroke_3 6 rfl rfl)
theorem dX1_addStroke_76 : decode cX1_addStroke 76 = .ok (.isub, 1) := dk_100 (dk_at dksX1_addStroke_3 7 rfl rfl)
theorem dX1_addStroke_77 : decode cX1_addStroke 77 = .ok (.ireturn, 1) := dk_172 (dk_at dksX1_addStroke_3 8 rfl rfl)
abbrev cX1_right : ByteArray := prog_1_method_11_code
def yX1_right : MethodName := ⟨RX1, "right", "(Z)V"⟩
def dkwX1_right_0 : List UInt8 := [26, 154, 0, 13, 187, 0, 119, 89, 18, 126, 183, 0, 123, 191, 177]
abbrev dktX1_right_0 : List UInt8 := dkwX1_right_0 ++ []
theorem dksX1_right_0 : cX1_right.data.toList.drop 0 = dktX1_right_0 := by decide +kernel
theorem dX1_right_0 : decode cX1_right 0 = .ok (.iload_n 0, 1) := dk_26 (dk_at dksX1_right_0 0 rfl rfl)
theorem dX1_right_1 : decode cX1_right 1 = .ok (.ifCond .ne 13, 3) := dk_154 0 13 (dk_at dksX1_right_0 1 rfl rfl)
theorem dX1_right_4 : decode cX1_right 4 = .ok (.new 119, 3) := dk_187 0 119 (dk_at dksX1_right_0 4 rfl rfl)
theorem dX1_right_7 : decode cX1_right 7 = .ok (.dup, 1) := dk_89 (dk_at dksX1_right_0 7 rfl rfl)
theorem dX1_right_8 : decode cX1_right 8 = .ok (.ldc 126, 2) := dk_18 126 (dk_at dksX1_right_0 8 rfl rfl)
theorem dX1_right_10 : decode cX1_right 10 = .ok (.invokespecial 123, 3) := dk_183 0 123 (dk_at dksX1_right_0 10 rfl rfl)
theorem dX1_right_13 : decode cX1_right 13 = .ok (.athrow, 1) := dk_191 (dk_at dksX1_right_0 13 rfl rfl)
theorem dX1_right_14 : decode cX1_right 14 = .ok (.return_, 1) := dk_177 (dk_at dksX1_right_0 14 rfl rfl)
abbrev cX1_addFigure : ByteArray := prog_1_method_25_code
def yX1_addFigure : MethodName := ⟨RX1, "addFigure", "(I)I"⟩
def dkwX1_addFigure_3 : List UInt8 := [182, 0, 173, 87, 42, 180, 0, 56, 182, 0, 93, 4, 100, 172]
abbrev dktX1_addFigure_3 : List UInt8 := dkwX1_addFigure_3 ++ []
def dkwX1_addFigure_2 : List UInt8 := [184, 0, 166, 42, 180, 0, 56, 187, 0, 32, 89, 42, 180, 0, 56, 182, 0, 93, 44, 183, 0, 207]
abbrev dktX1_addFigure_2 : List UInt8 := dkwX1_addFigure_2 ++ dktX1_addFigure_3
def dkwX1_addFigure_1 : List UInt8 := [182, 0, 93, 42, 44, 186, 0, 206, 0, 0, 184, 0, 100, 16, 8, 162, 0, 7, 4, 167, 0, 4, 3]
abbrev dktX1_addFigure_1 : List UInt8 := dkwX1_addFigure_1 ++ dktX1_addFigure_2
def dkwX1_addFigure_0 : List UInt8 := [42, 27, 182, 0, 177, 77, 42, 180, 0, 56, 182, 0, 93, 16, 24, 162, 0, 29, 42, 180, 0, 56]
abbrev dktX1_addFigure_0 : List UInt8 := dkwX1_addFigure_0 ++ dktX1_addFigure_1
theorem dksX1_addFigure_0 : cX1_addFigure.data.toList.drop 0 = dktX1_addFigure_0 := by decide +kernel
theorem dksX1_addFigure_1 : cX1_addFigure.data.toList.drop 22 = dktX1_addFigure_1 := dk_seg dksX1_addFigure_0 22 rfl rfl
theorem dksX1_addFigure_2 : cX1_addFigure.data.toList.drop 45 = dktX1_addFigure_2 := dk_seg dksX1_addFigure_1 23 rfl rfl
theorem dksX1_addFigure_3 : cX1_addFigure.data.toList.drop 67 = dktX1_addFigure_3 := dk_seg dksX1_addFigure_2 22 rfl rfl
theorem dX1_addFigure_0 : decode cX1_addFigure 0 = .ok (.aload_n 0, 1) := dk_42 (dk_at dksX1_addFigure_0 0 rfl rfl)
theorem dX1_addFigure_1 : decode cX1_addFigure 1 = .ok (.iload_n 1, 1) := dk_27 (dk_at dksX1_addFigure_0 1 rfl rfl)
theorem dX1_addFigure_2 : decode cX1_addFigure 2 = .ok (.invokevirtual 177, 3) := dk_182 0 177 (dk_at dksX1_addFigure_0 2 rfl rfl)
theorem dX1_addFigure_5 : decode cX1_addFigure 5 = .ok (.astore_n 2, 1) := dk_77 (dk_at dksX1_addFigure_0 5 rfl rfl)
theorem dX1_addFigure_6 : decode cX1_addFigure 6 = .ok (.aload_n 0, 1) := dk_42 (dk_at dksX1_addFigure_0 6 rfl rfl)
theorem dX1_addFigure_7 : decode cX1_addFigure 7 = .ok (.getfield 56, 3) := dk_180 0 56 (dk_at dksX1_addFigure_0 7 rfl rfl)
theorem dX1_addFigure_10 : decode cX1_addFigure 10 = .ok (.invokevirtual 93, 3) := dk_182 0 93 (dk_at dksX1_addFigure_0 10 rfl rfl)
theorem dX1_addFigure_13 : decode cX1_addFigure 13 = .ok (.bipush 24, 2) := dk_16 24 (dk_at dksX1_addFigure_0 13 rfl rfl)
theorem dX1_addFigure_15 : decode cX1_addFigure 15 = .ok (.if_icmp .ge 29, 3) := dk_162 0 29 (dk_at dksX1_addFigure_0 15 rfl rfl)
theorem dX1_addFigure_18 : decode cX1_addFigure 18 = .ok (.aload_n 0, 1) := dk_42 (dk_at dksX1_addFigure_0 18 rfl rfl)
theorem dX1_addFigure_19 : decode cX1_addFigure 19 = .ok (.getfield 56, 3) := dk_180 0 56 (dk_at dksX1_addFigure_0 19 rfl rfl)
theorem dX1_addFigure_22 : decode cX1_addFigure 22 = .ok (.invokevirtual 93, 3) := dk_182 0 93 (dk_at dksX1_addFigure_1 0 rfl rfl)
theorem dX1_addFigure_25 : decode cX1_addFigure 25 = .ok (.aload_n 0, 1) := dk_42 (dk_at dksX1_addFigure_1 3 rfl rfl)
theorem dX1_addFigure_26 : decode cX1_addFigure 26 = .ok (.aload_n 2, 1) := dk_44 (dk_at dksX1_addFigure_1 4 rfl rfl)
theorem dX1_addFigure_27 : decode cX1_addFigure 27 = .ok (.invokedynamic 206, 5) := by decide +kernel
theorem dX1_addFigure_32 : decode cX1_addFigure 32 = .ok (.invokestatic 100, 3) := dk_184 0 100 (dk_at dksX1_addFigure_1 10 rfl rfl)
theorem dX1_addFigure_35 : decode cX1_addFigure 35 = .ok (.bipush 8, 2) := dk_16 8 (dk_at dksX1_addFigure_1 13 rfl rfl)
theorem dX1_addFigure_37 : decode cX1_addFigure 37 = .ok (.if_icmp .ge 7, 3) := dk_162 0 7 (dk_at dksX1_addFigure_1 15 rfl rfl)
theorem dX1_addFigure_40 : decode cX1_addFigure 40 = .ok (.iconst 1, 1) := dk_4 (dk_at dksX1_addFigure_1 18 rfl rfl)
theorem dX1_addFigure_41 : decode cX1_addFigure 41 = .ok (.goto 4, 3) := dk_167 0 4 (dk_at dksX1_addFigure_1 19 rfl rfl)
theorem dX1_addFigure_44 : decode cX1_addFigure 44 = .ok (.iconst 0, 1) := dk_3 (dk_at dksX1_addFigure_1 22 rfl rfl)
theorem dX1_addFigure_45 : decode cX1_addFigure 45 = .ok (.invokestatic 166, 3) := dk_184 0 166 (dk_at dksX1_addFigure_2 0 rfl rfl)
theorem dX1_addFigure_48 : decode cX1_addFigure 48 = .ok (.aload_n 0, 1) := dk_42 (dk_at dksX1_addFigure_2 3 rfl rfl)
theorem dX1_addFigure_49 : decode cX1_addFigure 49 = .ok (.getfield 56, 3) := dk_180 0 56 (dk_at dksX1_addFigure_2 4 rfl rfl)
theorem dX1_addFigure_52 : decode cX1_addFigure 52 = .ok (.new 32, 3) := dk_187 0 32 (dk_at dksX1_addFigure_2 7 rfl rfl)
theorem dX1_addFigure_55 : decode cX1_addFigure 55 = .ok (.dup, 1) := dk_89 (dk_at dksX1_addFigure_2 10 rfl rfl)
theorem dX1_addFigure_56 : decode cX1_addFigure 56 = .ok (.aload_n 0, 1) := dk_42 (dk_at dksX1_addFigure_2 11 rfl rfl)
theorem dX1_addFigure_57 : decode cX1_addFigure 57 = .ok (.getfield 56, 3) := dk_180 0 56 (dk_at dksX1_addFigure_2 12 rfl rfl)
theorem dX1_addFigure_60 : decode cX1_addFigure 60 = .ok (.invokevirtual 93, 3) := dk_182 0 93 (dk_at dksX1_addFigure_2 15 rfl rfl)
theorem dX1_addFigure_63 : decode cX1_addFigure 63 = .ok (.aload_n 2, 1) := dk_44 (dk_at dksX1_addFigure_2 18 rfl rfl)
theorem dX1_addFigure_64 : decode cX1_addFigure 64 = .ok (.invokespecial 207, 3) := dk_183 0 207 (dk_at dksX1_addFigure_2 19 rfl rfl)
theorem dX1_addFigure_67 : decode cX1_addFigure 67 = .ok (.invokevirtual 173, 3) := dk_182 0 173 (dk_at dksX1_addFigure_3 0 rfl rfl)
theorem dX1_addFigure_70 : decode cX1_addFigure 70 = .ok (.pop, 1) := dk_87 (dk_at dksX1_addFigure_3 3 rfl rfl)
theorem dX1_addFigure_71 : decode cX1_addFigure 71 = .ok (.aload_n 0, 1) := dk_42 (dk_at dksX1_addFigure_3 4 rfl rfl)
theorem dX1_addFigure_72 : decode cX1_addFigure 72 = .ok (.getfield 56, 3) := dk_180 0 56 (dk_at dksX1_addFigure_3 5 rfl rfl)
theorem dX1_addFigure_75 : decode cX1_addFigure 75 = .ok (.invokevirtual 93, 3) := dk_182 0 93 (dk_at dksX1_addFigure_3 8 rfl rfl)
theorem dX1_addFigure_78 : decode cX1_addFigure 78 = .ok (.iconst 1, 1) := dk_4 (dk_at dksX1_addFigure_3 11 rfl rfl)
theorem dX1_addFigure_79 : decode cX1_addFigure 79 = .ok (.isub, 1) := dk_100 (dk_at dksX1_addFigure_3 12 rfl rfl)
theorem dX1_addFigure_80 : decode cX1_addFigure 80 = .ok (.ireturn, 1) := dk_172 (dk_at dksX1_addFigure_3 13 rfl rfl)
abbrev cX1_lambda_addFigure_1 : ByteArray := prog_1_method_84_code
def yX1_lambda_addFigure_1 : MethodName := ⟨RX1, "lambda$addFigure$1", "(LFigureSurvey$Panel;I)Z"⟩
def dkwX1_lambda_addFigure_1_0 : List UInt8 := [42, 180, 0, 56, 28, 182, 0, 141, 192, 0, 32, 180, 0, 31, 43, 166, 0, 7, 4, 167, 0, 4, 3, 172]
abbrev dktX1_lambda_addFigure_1_0 : List UInt8 := dkwX1_lambda_addFigure_1_0 ++ []
theorem dksX1_lambda_addFigure_1_0 : cX1_lambda_addFigure_1.data.toList.drop 0 = dktX1_lambda_addFigure_1_0 := by decide +kernel
theorem dX1_lambda_addFigure_1_0 : decode cX1_lambda_addFigure_1 0 = .ok (.aload_n 0, 1) := dk_42 (dk_at dksX1_lambda_addFigure_1_0 0 rfl rfl)
theorem dX1_lambda_addFigure_1_1 : decode cX1_lambda_addFigure_1 1 = .ok (.getfield 56, 3) := dk_180 0 56 (dk_at dksX1_lambda_addFigure_1_0 1 rfl rfl)
theorem dX1_lambda_addFigure_1_4 : decode cX1_lambda_addFigure_1 4 = .ok (.iload_n 2, 1) := dk_28 (dk_at dksX1_lambda_addFigure_1_0 4 rfl rfl)
theorem dX1_lambda_addFigure_1_5 : decode cX1_lambda_addFigure_1 5 = .ok (.invokevirtual 141, 3) := dk_182 0 141 (dk_at dksX1_lambda_addFigure_1_0 5 rfl rfl)
theorem dX1_lambda_addFigure_1_8 : decode cX1_lambda_addFigure_1 8 = .ok (.checkcast 32, 3) := dk_192 0 32 (dk_at dksX1_lambda_addFigure_1_0 8 rfl rfl)
theorem dX1_lambda_addFigure_1_11 : decode cX1_lambda_addFigure_1 11 = .ok (.getfield 31, 3) := dk_180 0 31 (dk_at dksX1_lambda_addFigure_1_0 11 rfl rfl)
theorem dX1_lambda_addFigure_1_14 : decode cX1_lambda_addFigure_1 14 = .ok (.aload_n 1, 1) := dk_43 (dk_at dksX1_lambda_addFigure_1_0 14 rfl rfl)
theorem dX1_lambda_addFigure_1_15 : decode cX1_lambda_addFigure_1 15 = .ok (.if_acmp .ne 7, 3) := dk_166 0 7 (dk_at dksX1_lambda_addFigure_1_0 15 rfl rfl)
theorem dX1_lambda_addFigure_1_18 : decode cX1_lambda_addFigure_1 18 = .ok (.iconst 1, 1) := dk_4 (dk_at dksX1_lambda_addFigure_1_0 18 rfl rfl)
theorem dX1_lambda_addFigure_1_19 : decode cX1_lambda_addFigure_1 19 = .ok (.goto 4, 3) := dk_167 0 4 (dk_at dksX1_lambda_addFigure_1_0 19 rfl rfl)
theorem dX1_lambda_addFigure_1_22 : decode cX1_lambda_addFigure_1 22 = .ok (.iconst 0, 1) := dk_3 (dk_at dksX1_lambda_addFigure_1_0 22 rfl rfl)
theorem dX1_lambda_addFigure_1_23 : decode cX1_lambda_addFigure_1 23 = .ok (.ireturn, 1) := dk_172 (dk_at dksX1_lambda_addFigure_1_0 23 rfl rfl)
abbrev cX1_setStroke : ByteArray := prog_1_method_26_code
def yX1_setStroke : MethodName := ⟨RX1, "setStroke", "(IIZ)I"⟩
def dkwX1_setStroke_4 : List UInt8 := [182, 0, 93, 172]
abbrev dktX1_setStroke_4 : List UInt8 := dkwX1_setStroke_4 ++ []
def dkwX1_setStroke_3 : List UInt8 := [182, 0, 173, 167, 0, 13, 25, 4, 180, 0, 219, 25, 5, 182, 0, 223, 54, 6, 25, 4, 180, 0, 219]
abbrev dktX1_setStroke_3 : List UInt8 := dkwX1_setStroke_3 ++ dktX1_setStroke_4
def dkwX1_setStroke_2 : List UInt8 := [159, 0, 7, 4, 167, 0, 4, 3, 184, 0, 166, 29, 153, 0, 16, 25, 4, 180, 0, 219, 25, 5]
abbrev dktX1_setStroke_2 : List UInt8 := dkwX1_setStroke_2 ++ dktX1_setStroke_3
def dkwX1_setStroke_1 : List UInt8 := [166, 0, 7, 4, 167, 0, 4, 3, 184, 0, 200, 25, 4, 180, 0, 219, 25, 5, 182, 0, 220, 29]
abbrev dktX1_setStroke_1 : List UInt8 := dkwX1_setStroke_1 ++ dktX1_setStroke_2
def dkwX1_setStroke_0 : List UInt8 := [42, 27, 182, 0, 210, 58, 4, 42, 28, 182, 0, 214, 58, 5, 25, 4, 180, 0, 31, 25, 5, 180, 0, 218]
abbrev dktX1_setStroke_0 : List UInt8 := dkwX1_setStroke_0 ++ dktX1_setStroke_1
theorem dksX1_setStroke_0 : cX1_setStroke.data.toList.drop 0 = dktX1_setStroke_0 := by decide +kernel
theorem dksX1_setStroke_1 : cX1_setStroke.data.toList.drop 24 = dktX1_setStroke_1 := dk_seg dksX1_setStroke_0 24 rfl rfl
theorem dksX1_setStroke_2 : cX1_setStroke.data.toList.drop 46 = dktX1_setStroke_2 := dk_seg dksX1_setStroke_1 22 rfl rfl
theorem dksX1_setStroke_3 : cX1_setStroke.data.toList.drop 68 = dktX1_setStroke_3 := dk_seg dksX1_setStroke_2 22 rfl rfl
theorem dksX1_setStroke_4 : cX1_setStroke.data.toList.drop 91 = dktX1_setStroke_4 := dk_seg dksX1_setStroke_3 23 rfl rfl
theorem dX1_setStroke_0 : decode cX1_setStroke 0 = .ok (.aload_n 0, 1) := dk_42 (dk_at dksX1_setStroke_0 0 rfl rfl)
theorem dX1_setStroke_1 : decode cX1_setStroke 1 = .ok (.iload_n 1, 1) := dk_27 (dk_at dksX1_setStroke_0 1 rfl rfl)
theorem dX1_setStroke_2 : decode cX1_setStroke 2 = .ok (.invokevirtual 210, 3) := dk_182 0 210 (dk_at dksX1_setStroke_0 2 rfl rfl)
theorem dX1_setStroke_5 : decode cX1_setStroke 5 = .ok (.astore 4, 2) := dk_58 4 (dk_at dksX1_setStroke_0 5 rfl rfl)
theorem dX1_setStroke_7 : decode cX1_setStroke 7 = .ok (.aload_n 0, 1) := dk_42 (dk_at dksX1_setStroke_0 7 rfl rfl)
theorem dX1_setStroke_8 : decode cX1_setStroke 8 = .ok (.iload_n 2, 1) := dk_28 (dk_at dksX1_setStroke_0 8 rfl rfl)
theorem dX1_setStroke_9 : decode cX1_setStroke 9 = .ok (.invokevirtual 214, 3) := dk_182 0 214 (dk_at dksX1_setStroke_0 9 rfl rfl)
theorem dX1_setStroke_12 : decode cX1_setStroke 12 = .ok (.astore 5, 2) := dk_58 5 (dk_at dksX1_setStroke_0 12 rfl rfl)
theorem dX1_setStroke_14 : decode cX1_setStroke 14 = .ok (.aload 4, 2) := dk_25 4 (dk_at dksX1_setStroke_0 14 rfl rfl)
theorem dX1_setStroke_16 : decode cX1_setStroke 16 = .ok (.getfield 31, 3) := dk_180 0 31 (dk_at dksX1_setStroke_0 16 rfl rfl)
theorem dX1_setStroke_19 : decode cX1_setStroke 19 = .ok (.aload 5, 2) := dk_25 5 (dk_at dksX1_setStroke_0 19 rfl rfl)
theorem dX1_setStroke_21 : decode cX1_setStroke 21 = .ok (.getfield 218, 3) := dk_180 0 218 (dk_at dksX1_setStroke_0 21 rfl rfl)
theorem dX1_setStroke_24 : decode cX1_setStroke 24 = .ok (.if_acmp .ne 7, 3) := dk_166 0 7 (dk_at dksX1_setStroke_1 0 rfl rfl)
theorem dX1_setStroke_27 : decode cX1_setStroke 27 = .ok (.iconst 1, 1) := dk_4 (dk_at dksX1_setStroke_1 3 rfl rfl)
theorem dX1_setStroke_28 : decode cX1_setStroke 28 = .ok (.goto 4, 3) := dk_167 0 4 (dk_at dksX1_setStroke_1 4 rfl rfl)
theorem dX1_setStroke_31 : decode cX1_setStroke 31 = .ok (.iconst 0, 1) := dk_3 (dk_at dksX1_setStroke_1 7 rfl rfl)
theorem dX1_setStroke_32 : decode cX1_setStroke 32 = .ok (.invokestatic 200, 3) := dk_184 0 200 (dk_at dksX1_setStroke_1 8 rfl rfl)
theorem dX1_setStroke_35 : decode cX1_setStroke 35 = .ok (.aload 4, 2) := dk_25 4 (dk_at dksX1_setStroke_1 11 rfl rfl)
theorem dX1_setStroke_37 : decode cX1_setStroke 37 = .ok (.getfield 219, 3) := dk_180 0 219 (dk_at dksX1_setStroke_1 13 rfl rfl)
theorem dX1_setStroke_40 : decode cX1_setStroke 40 = .ok (.aload 5, 2) := dk_25 5 (dk_at dksX1_setStroke_1 16 rfl rfl)
theorem dX1_setStroke_42 : decode cX1_setStroke 42 = .ok (.invokevirtual 220, 3) := dk_182 0 220 (dk_at dksX1_setStroke_1 18 rfl rfl)
theorem dX1_setStroke_45 : decode cX1_setStroke 45 = .ok (.iload_n 3, 1) := dk_29 (dk_at dksX1_setStroke_1 21 rfl rfl)
theorem dX1_setStroke_46 : decode cX1_setStroke 46 = .ok (.if_icmp .eq 7, 3) := dk_159 0 7 (dk_at dksX1_setStroke_2 0 rfl rfl)
theorem dX1_setStroke_49 : decode cX1_setStroke 49 = .ok (.iconst 1, 1) := dk_4 (dk_at dksX1_setStroke_2 3 rfl rfl)
theorem dX1_setStroke_50 : decode cX1_setStroke 50 = .ok (.goto 4, 3) := dk_167 0 4 (dk_at dksX1_setStroke_2 4 rfl rfl)
theorem dX1_setStroke_53 : decode cX1_setStroke 53 = .ok (.iconst 0, 1) := dk_3 (dk_at dksX1_setStroke_2 7 rfl rfl)
theorem dX1_setStroke_54 : decode cX1_setStroke 54 = .ok (.invokestatic 166, 3) := dk_184 0 166 (dk_at dksX1_setStroke_2 8 rfl rfl)
theorem dX1_setStroke_57 : decode cX1_setStroke 57 = .ok (.iload_n 3, 1) := dk_29 (dk_at dksX1_setStroke_2 11 rfl rfl)
theorem dX1_setStroke_58 : decode cX1_setStroke 58 = .ok (.ifCond .eq 16, 3) := dk_153 0 16 (dk_at dksX1_setStroke_2 12 rfl rfl)
theorem dX1_setStroke_61 : decode cX1_setStroke 61 = .ok (.aload 4, 2) := dk_25 4 (dk_at dksX1_setStroke_2 15 rfl rfl)
theorem dX1_setStroke_63 : decode cX1_setStroke 63 = .ok (.getfield 219, 3) := dk_180 0 219 (dk_at dksX1_setStroke_2 17 rfl rfl)
theorem dX1_setStroke_66 : decode cX1_setStroke 66 = .ok (.aload 5, 2) := dk_25 5 (dk_at dksX1_setStroke_2 20 rfl rfl)
theorem dX1_setStroke_68 : decode cX1_setStroke 68 = .ok (.invokevirtual 173, 3) := dk_182 0 173 (dk_at dksX1_setStroke_3 0 rfl rfl)
theorem dX1_setStroke_71 : decode cX1_setStroke 71 = .ok (.goto 13, 3) := dk_167 0 13 (dk_at dksX1_setStroke_3 3 rfl rfl)
theorem dX1_setStroke_74 : decode cX1_setStroke 74 = .ok (.aload 4, 2) := dk_25 4 (dk_at dksX1_setStroke_3 6 rfl rfl)
theorem dX1_setStroke_76 : decode cX1_setStroke 76 = .ok (.getfield 219, 3) := dk_180 0 219 (dk_at dksX1_setStroke_3 8 rfl rfl)
theorem dX1_setStroke_79 : decode cX1_setStroke 79 = .ok (.aload 5, 2) := dk_25 5 (dk_at dksX1_setStroke_3 11 rfl rfl)
theorem dX1_setStroke_81 : decode cX1_setStroke 81 = .ok (.invokevirtual 223, 3) := dk_182 0 223 (dk_at dksX1_setStroke_3 13 rfl rfl)
theorem dX1_setStroke_84 : decode cX1_setStroke 84 = .ok (.istore 6, 2) := dk_54 6 (dk_at dksX1_setStroke_3 16 rfl rfl)
theorem dX1_setStroke_86 : decode cX1_setStroke 86 = .ok (.aload 4, 2) := dk_25 4 (dk_at dksX1_setStroke_3 18 rfl rfl)
theorem dX1_setStroke_88 : decode cX1_setStroke 88 = .ok (.getfield 219, 3) := dk_180 0 219 (dk_at dksX1_setStroke_3 20 rfl rfl)
theorem dX1_setStroke_91 : decode cX1_setStroke 91 = .ok (.invokevirtual 93, 3) := dk_182 0 93 (dk_at dksX1_setStroke_4 0 rfl rfl)
theorem dX1_setStroke_94 : decode cX1_setStroke 94 = .ok (.ireturn, 1) := dk_172 (dk_at dksX1_setStroke_4 3 rfl rfl)
abbrev cX1_figure : ByteArray := prog_1_method_16_code
def yX1_figure : MethodName := ⟨RX1, "figure", "(I)LFigureSurvey$Figure;"⟩
def dkwX1_figure_0 : List UInt8 := [42, 180, 0, 56, 27, 42, 180, 0, 56, 182, 0, 93, 184, 0, 138, 182, 0, 141, 192, 0, 32, 176]
abbrev dktX1_figure_0 : List UInt8 := dkwX1_figure_0 ++ []
theorem dksX1_figure_0 : cX1_figure.data.toList.drop 0 = dktX1_figure_0 := by decide +kernel
theorem dX1_figure_0 : decode cX1_figure 0 = .ok (.aload_n 0, 1) := dk_42 (dk_at dksX1_figure_0 0 rfl rfl)
theorem dX1_figure_1 : decode cX1_figure 1 = .ok (.getfield 56, 3) := dk_180 0 56 (dk_at dksX1_figure_0 1 rfl rfl)
theorem dX1_figure_4 : decode cX1_figure 4 = .ok (.iload_n 1, 1) := dk_27 (dk_at dksX1_figure_0 4 rfl rfl)
theorem dX1_figure_5 : decode cX1_figure 5 = .ok (.aload_n 0, 1) := dk_42 (dk_at dksX1_figure_0 5 rfl rfl)
theorem dX1_figure_6 : decode cX1_figure 6 = .ok (.getfield 56, 3) := dk_180 0 56 (dk_at dksX1_figure_0 6 rfl rfl)
theorem dX1_figure_9 : decode cX1_figure 9 = .ok (.invokevirtual 93, 3) := dk_182 0 93 (dk_at dksX1_figure_0 9 rfl rfl)
theorem dX1_figure_12 : decode cX1_figure 12 = .ok (.invokestatic 138, 3) := dk_184 0 138 (dk_at dksX1_figure_0 12 rfl rfl)
theorem dX1_figure_15 : decode cX1_figure 15 = .ok (.invokevirtual 141, 3) := dk_182 0 141 (dk_at dksX1_figure_0 15 rfl rfl)
theorem dX1_figure_18 : decode cX1_figure 18 = .ok (.checkcast 32, 3) := dk_192 0 32 (dk_at dksX1_figure_0 18 rfl rfl)
theorem dX1_figure_21 : decode cX1_figure 21 = .ok (.areturn, 1) := dk_176 (dk_at dksX1_figure_0 21 rfl rfl)
abbrev cX1_stroke : ByteArray := prog_1_method_15_code
def yX1_stroke : MethodName := ⟨RX1, "stroke", "(I)LFigureSurvey$Stroke;"⟩
def dkwX1_stroke_0 : List UInt8 := [42, 180, 0, 53, 27, 42, 180, 0, 53, 182, 0, 93, 184, 0, 138, 182, 0, 141, 192, 0, 145, 176]
abbrev dktX1_stroke_0 : List UInt8 := dkwX1_stroke_0 ++ []
theorem dksX1_stroke_0 : cX1_stroke.data.toList.drop 0 = dktX1_stroke_0 := by decide +kernel
theorem dX1_stroke_0 : decode cX1_stroke 0 = .ok (.aload_n 0, 1) := dk_42 (dk_at dksX1_stroke_0 0 rfl rfl)
theorem dX1_stroke_1 : decode cX1_stroke 1 = .ok (.getfield 53, 3) := dk_180 0 53 (dk_at dksX1_stroke_0 1 rfl rfl)
theorem dX1_stroke_4 : decode cX1_stroke 4 = .ok (.iload_n 1, 1) := dk_27 (dk_at dksX1_stroke_0 4 rfl rfl)
theorem dX1_stroke_5 : decode cX1_stroke 5 = .ok (.aload_n 0, 1) := dk_42 (dk_at dksX1_stroke_0 5 rfl rfl)
theorem dX1_stroke_6 : decode cX1_stroke 6 = .ok (.getfield 53, 3) := dk_180 0 53 (dk_at dksX1_stroke_0 6 rfl rfl)
theorem dX1_stroke_9 : decode cX1_stroke 9 = .ok (.invokevirtual 93, 3) := dk_182 0 93 (dk_at dksX1_stroke_0 9 rfl rfl)
theorem dX1_stroke_12 : decode cX1_stroke 12 = .ok (.invokestatic 138, 3) := dk_184 0 138 (dk_at dksX1_stroke_0 12 rfl rfl)
theorem dX1_stroke_15 : decode cX1_stroke 15 = .ok (.invokevirtual 141, 3) := dk_182 0 141 (dk_at dksX1_stroke_0 15 rfl rfl)
theorem dX1_stroke_18 : decode cX1_stroke 18 = .ok (.checkcast 145, 3) := dk_192 0 145 (dk_at dksX1_stroke_0 18 rfl rfl)
theorem dX1_stroke_21 : decode cX1_stroke 21 = .ok (.areturn, 1) := dk_176 (dk_at dksX1_stroke_0 21 rfl rfl)
abbrev cX1_cellsOf : ByteArray := prog_1_method_27_code
def yX1_cellsOf : MethodName := ⟨RX1, "cellsOf", "(I)J"⟩
def dkwX1_cellsOf_0 : List UInt8 := [42, 27, 182, 0, 210, 182, 0, 226, 173]
abbrev dktX1_cellsOf_0 : List UInt8 := dkwX1_cellsOf_0 ++ []
theorem dksX1_cellsOf_0 : cX1_cellsOf.data.toList.drop 0 = dktX1_cellsOf_0 := by decide +kernel
theorem dX1_cellsOf_0 : decode cX1_cellsOf 0 = .ok (.aload_n 0, 1) := dk_42 (dk_at dksX1_cellsOf_0 0 rfl rfl)
theorem dX1_cellsOf_1 : decode cX1_cellsOf 1 = .ok (.iload_n 1, 1) := dk_27 (dk_at dksX1_cellsOf_0 1 rfl rfl)
theorem dX1_cellsOf_2 : decode cX1_cellsOf 2 = .ok (.invokevirtual 210, 3) := dk_182 0 210 (dk_at dksX1_cellsOf_0 2 rfl rfl)
theorem dX1_cellsOf_5 : decode cX1_cellsOf 5 = .ok (.invokevirtual 226, 3) := dk_182 0 226 (dk_at dksX1_cellsOf_0 5 rfl rfl)
theorem dX1_cellsOf_8 : decode cX1_cellsOf 8 = .ok (.lreturn, 1) := dk_173 (dk_at dksX1_cellsOf_0 8 rfl rfl)
abbrev cX1_foundShare : ByteArray := prog_1_method_28_code
def yX1_foundShare : MethodName := ⟨RX1, "foundShare", "(I)I"⟩
def dkwX1_foundShare_1 : List UInt8 := [33, 44, 180, 0, 31, 4, 182, 0, 196, 127, 184, 0, 230, 104, 33, 184, 0, 230, 108, 172]
abbrev dktX1_foundShare_1 : List UInt8 := dkwX1_foundShare_1 ++ []
def dkwX1_foundShare_0 : List UInt8 := [42, 27, 182, 0, 210, 77, 44, 182, 0, 226, 66, 33, 9, 148, 154, 0, 7, 3, 167, 0, 25, 17, 3, 232]
abbrev dktX1_foundShare_0 : List UInt8 := dkwX1_foundShare_0 ++ dktX1_foundShare_1
theorem dksX1_foundShare_0 : cX1_foundShare.data.toList.drop 0 = dktX1_foundShare_0 := by decide +kernel
theorem dksX1_foundShare_1 : cX1_foundShare.data.toList.drop 24 = dktX1_foundShare_1 := dk_seg dksX1_foundShare_0 24 rfl rfl
theorem dX1_foundShare_0 : decode cX1_foundShare 0 = .ok (.aload_n 0, 1) := dk_42 (dk_at dksX1_foundShare_0 0 rfl rfl)
theorem dX1_foundShare_1 : decode cX1_foundShare 1 = .ok (.iload_n 1, 1) := dk_27 (dk_at dksX1_foundShare_0 1 rfl rfl)
theorem dX1_foundShare_2 : decode cX1_foundShare 2 = .ok (.invokevirtual 210, 3) := dk_182 0 210 (dk_at dksX1_foundShare_0 2 rfl rfl)
theorem dX1_foundShare_5 : decode cX1_foundShare 5 = .ok (.astore_n 2, 1) := dk_77 (dk_at dksX1_foundShare_0 5 rfl rfl)
theorem dX1_foundShare_6 : decode cX1_foundShare 6 = .ok (.aload_n 2, 1) := dk_44 (dk_at dksX1_foundShare_0 6 rfl rfl)
theorem dX1_foundShare_7 : decode cX1_foundShare 7 = .ok (.invokevirtual 226, 3) := dk_182 0 226 (dk_at dksX1_foundShare_0 7 rfl rfl)
theorem dX1_foundShare_10 : decode cX1_foundShare 10 = .ok (.lstore_n 3, 1) := dk_66 (dk_at dksX1_foundShare_0 10 rfl rfl)
theorem dX1_foundShare_11 : decode cX1_foundShare 11 = .ok (.lload_n 3, 1) := dk_33 (dk_at dksX1_foundShare_0 11 rfl rfl)
theorem dX1_foundShare_12 : decode cX1_foundShare 12 = .ok (.lconst 0, 1) := dk_9 (dk_at dksX1_foundShare_0 12 rfl rfl)
theorem dX1_foundShare_13 : decode cX1_foundShare 13 = .ok (.lcmp, 1) := dk_148 (dk_at dksX1_foundShare_0 13 rfl rfl)
theorem dX1_foundShare_14 : decode cX1_foundShare 14 = .ok (.ifCond .ne 7, 3) := dk_154 0 7 (dk_at dksX1_foundShare_0 14 rfl rfl)
theorem dX1_foundShare_17 : decode cX1_foundShare 17 = .ok (.iconst 0, 1) := dk_3 (dk_at dksX1_foundShare_0 17 rfl rfl)
theorem dX1_foundShare_18 : decode cX1_foundShare 18 = .ok (.goto 25, 3) := dk_167 0 25 (dk_at dksX1_foundShare_0 18 rfl rfl)
theorem dX1_foundShare_21 : decode cX1_foundShare 21 = .ok (.sipush 1000, 3) := dk_17 3 232 (dk_at dksX1_foundShare_0 21 rfl rfl)
theorem dX1_foundShare_24 : decode cX1_foundShare 24 = .ok (.lload_n 3, 1) := dk_33 (dk_at dksX1_foundShare_1 0 rfl rfl)
theorem dX1_foundShare_25 : decode cX1_foundShare 25 = .ok (.aload_n 2, 1) := dk_44 (dk_at dksX1_foundShare_1 1 rfl rfl)
theorem dX1_foundShare_26 : decode cX1_foundShare 26 = .ok (.getfield 31, 3) := dk_180 0 31 (dk_at dksX1_foundShare_1 2 rfl rfl)
theorem dX1_foundShare_29 : decode cX1_foundShare 29 = .ok (.iconst 1, 1) := dk_4 (dk_at dksX1_foundShare_1 5 rfl rfl)
theorem dX1_foundShare_30 : decode cX1_foundShare 30 = .ok (.invokevirtual 196, 3) := dk_182 0 196 (dk_at dksX1_foundShare_1 6 rfl rfl)
theorem dX1_foundShare_33 : decode cX1_foundShare 33 = .ok (.land, 1) := dk_127 (dk_at dksX1_foundShare_1 9 rfl rfl)
theorem dX1_foundShare_34 : decode cX1_foundShare 34 = .ok (.invokestatic 230, 3) := dk_184 0 230 (dk_at dksX1_foundShare_1 10 rfl rfl)
theorem dX1_foundShare_37 : decode cX1_foundShare 37 = .ok (.imul, 1) := dk_104 (dk_at dksX1_foundShare_1 13 rfl rfl)
theorem dX1_foundShare_38 : decode cX1_foundShare 38 = .ok (.lload_n 3, 1) := dk_33 (dk_at dksX1_foundShare_1 14 rfl rfl)
theorem dX1_foundShare_39 : decode cX1_foundShare 39 = .ok (.invokestatic 230, 3) := dk_184 0 230 (dk_at dksX1_foundShare_1 15 rfl rfl)
theorem dX1_foundShare_42 : decode cX1_foundShare 42 = .ok (.idiv, 1) := dk_108 (dk_at dksX1_foundShare_1 18 rfl rfl)
theorem dX1_foundShare_43 : decode cX1_foundShare 43 = .ok (.ireturn, 1) := dk_172 (dk_at dksX1_foundShare_1 19 rfl rfl)
abbrev cX1_sharedCells : ByteArray := prog_1_method_29_code
def yX1_sharedCells : MethodName := ⟨RX1, "sharedCells", "(II)I"⟩
def dkwX1_sharedCells_1 : List UInt8 := [165, 0, 7, 3, 167, 0, 16, 45, 182, 0, 226, 25, 4, 182, 0, 226, 127, 184, 0, 230, 172]
abbrev dktX1_sharedCells_1 : List UInt8 := dkwX1_sharedCells_1 ++ []
def dkwX1_sharedCells_0 : List UInt8 := [42, 27, 182, 0, 210, 78, 42, 28, 182, 0, 210, 58, 4, 45, 180, 0, 31, 25, 4, 180, 0, 31]
abbrev dktX1_sharedCells_0 : List UInt8 := dkwX1_sharedCells_0 ++ dktX1_sharedCells_1
theorem dksX1_sharedCells_0 : cX1_sharedCells.data.toList.drop 0 = dktX1_sharedCells_0 := by decide +kernel
theorem dksX1_sharedCells_1 : cX1_sharedCells.data.toList.drop 22 = dktX1_sharedCells_1 := dk_seg dksX1_sharedCells_0 22 rfl rfl
theorem dX1_sharedCells_0 : decode cX1_sharedCells 0 = .ok (.aload_n 0, 1) := dk_42 (dk_at dksX1_sharedCells_0 0 rfl rfl)
theorem dX1_sharedCells_1 : decode cX1_sharedCells 1 = .ok (.iload_n 1, 1) := dk_27 (dk_at dksX1_sharedCells_0 1 rfl rfl)
theorem dX1_sharedCells_2 : decode cX1_sharedCells 2 = .ok (.invokevirtual 210, 3) := dk_182 0 210 (dk_at dksX1_sharedCells_0 2 rfl rfl)
theorem dX1_sharedCells_5 : decode cX1_sharedCells 5 = .ok (.astore_n 3, 1) := dk_78 (dk_at dksX1_sharedCells_0 5 rfl rfl)
theorem dX1_sharedCells_6 : decode cX1_sharedCells 6 = .ok (.aload_n 0, 1) := dk_42 (dk_at dksX1_sharedCells_0 6 rfl rfl)
theorem dX1_sharedCells_7 : decode cX1_sharedCells 7 = .ok (.iload_n 2, 1) := dk_28 (dk_at dksX1_sharedCells_0 7 rfl rfl)
theorem dX1_sharedCells_8 : decode cX1_sharedCells 8 = .ok (.invokevirtual 210, 3) := dk_182 0 210 (dk_at dksX1_sharedCells_0 8 rfl rfl)
theorem dX1_sharedCells_11 : decode cX1_sharedCells 11 = .ok (.astore 4, 2) := dk_58 4 (dk_at dksX1_sharedCells_0 11 rfl rfl)
theorem dX1_sharedCells_13 : decode cX1_sharedCells 13 = .ok (.aload_n 3, 1) := dk_45 (dk_at dksX1_sharedCells_0 13 rfl rfl)
theorem dX1_sharedCells_14 : decode cX1_sharedCells 14 = .ok (.getfield 31, 3) := dk_180 0 31 (dk_at dksX1_sharedCells_0 14 rfl rfl)
theorem dX1_sharedCells_17 : decode cX1_sharedCells 17 = .ok (.aload 4, 2) := dk_25 4 (dk_at dksX1_sharedCells_0 17 rfl rfl)
theorem dX1_sharedCells_19 : decode cX1_sharedCells 19 = .ok (.getfield 31, 3) := dk_180 0 31 (dk_at dksX1_sharedCells_0 19 rfl rfl)
theorem dX1_sharedCells_22 : decode cX1_sharedCells 22 = .ok (.if_acmp .eq 7, 3) := dk_165 0 7 (dk_at dksX1_sharedCells_1 0 rfl rfl)
theorem dX1_sharedCells_25 : decode cX1_sharedCells 25 = .ok (.iconst 0, 1) := dk_3 (dk_at dksX1_sharedCells_1 3 rfl rfl)
theorem dX1_sharedCells_26 : decode cX1_sharedCells 26 = .ok (.goto 16, 3) := dk_167 0 16 (dk_at dksX1_sharedCells_1 4 rfl rfl)
theorem dX1_sharedCells_29 : decode cX1_sharedCells 29 = .ok (.aload_n 3, 1) := dk_45 (dk_at dksX1_sharedCells_1 7 rfl rfl)
theorem dX1_sharedCells_30 : decode cX1_sharedCells 30 = .ok (.invokevirtual 226, 3) := dk_182 0 226 (dk_at dksX1_sharedCells_1 8 rfl rfl)
theorem dX1_sharedCells_33 : decode cX1_sharedCells 33 = .ok (.aload 4, 2) := dk_25 4 (dk_at dksX1_sharedCells_1 11 rfl rfl)
theorem dX1_sharedCells_35 : decode cX1_sharedCells 35 = .ok (.invokevirtual 226, 3) := dk_182 0 226 (dk_at dksX1_sharedCells_1 13 rfl rfl)
theorem dX1_sharedCells_38 : decode cX1_sharedCells 38 = .ok (.land, 1) := dk_127 (dk_at dksX1_sharedCells_1 16 rfl rfl)
theorem dX1_sharedCells_39 : decode cX1_sharedCells 39 = .ok (.invokestatic 230, 3) := dk_184 0 230 (dk_at dksX1_sharedCells_1 17 rfl rfl)
theorem dX1_sharedCells_42 : decode cX1_sharedCells 42 = .ok (.ireturn, 1) := dk_172 (dk_at dksX1_sharedCells_1 20 rfl rfl)
abbrev cX1_harm : ByteArray := prog_1_method_30_code
def yX1_harm : MethodName := ⟨RX1, "harm", "(IJ)I"⟩
def dkwX1_harm_2 : List UInt8 := [22, 5, 184, 0, 230, 172]
abbrev dktX1_harm_2 : List UInt8 := dkwX1_harm_2 ++ []
def dkwX1_harm_1 : List UInt8 := [32, 25, 4, 180, 0, 235, 20, 0, 239, 131, 127, 55, 5, 25, 4, 89, 180, 0, 235, 32, 129, 181, 0, 235]
abbrev dktX1_harm_1 : List UInt8 := dkwX1_harm_1 ++ dktX1_harm_2
def dkwX1_harm_0 : List UInt8 := [42, 27, 182, 0, 177, 58, 4, 42, 25, 4, 182, 0, 180, 154, 0, 7, 4, 167, 0, 4, 3, 184, 0, 166]
abbrev dktX1_harm_0 : List UInt8 := dkwX1_harm_0 ++ dktX1_harm_1
theorem dksX1_harm_0 : cX1_harm.data.toList.drop 0 = dktX1_harm_0 := by decide +kernel
theorem dksX1_harm_1 : cX1_harm.data.toList.drop 24 = dktX1_harm_1 := dk_seg dksX1_harm_0 24 rfl rfl
theorem dksX1_harm_2 : cX1_harm.data.toList.drop 48 = dktX1_harm_2 := dk_seg dksX1_harm_1 24 rfl rfl
theorem dX1_harm_0 : decode cX1_harm 0 = .ok (.aload_n 0, 1) := dk_42 (dk_at dksX1_harm_0 0 rfl rfl)
theorem dX1_harm_1 : decode cX1_harm 1 = .ok (.iload_n 1, 1) := dk_27 (dk_at dksX1_harm_0 1 rfl rfl)
theorem dX1_harm_2 : decode cX1_harm 2 = .ok (.invokevirtual 177, 3) := dk_182 0 177 (dk_at dksX1_harm_0 2 rfl rfl)
theorem dX1_harm_5 : decode cX1_harm 5 = .ok (.astore 4, 2) := dk_58 4 (dk_at dksX1_harm_0 5 rfl rfl)
theorem dX1_harm_7 : decode cX1_harm 7 = .ok (.aload_n 0, 1) := dk_42 (dk_at dksX1_harm_0 7 rfl rfl)
theorem dX1_harm_8 : decode cX1_harm 8 = .ok (.aload 4, 2) := dk_25 4 (dk_at dksX1_harm_0 8 rfl rfl)
theorem dX1_harm_10 : decode cX1_harm 10 = .ok (.invokevirtual 180, 3) := dk_182 0 180 (dk_at dksX1_harm_0 10 rfl rfl)
theorem dX1_harm_13 : decode cX1_harm 13 = .ok (.ifCond .ne 7, 3) := dk_154 0 7 (dk_at dksX1_harm_0 13 rfl rfl)
theorem dX1_harm_16 : decode cX1_harm 16 = .ok (.iconst 1, 1) := dk_4 (dk_at dksX1_harm_0 16 rfl rfl)
theorem dX1_harm_17 : decode cX1_harm 17 = .ok (.goto 4, 3) := dk_167 0 4 (dk_at dksX1_harm_0 17 rfl rfl)
theorem dX1_harm_20 : decode cX1_harm 20 = .ok (.iconst 0, 1) := dk_3 (dk_at dksX1_harm_0 20 rfl rfl)
theorem dX1_harm_21 : decode cX1_harm 21 = .ok (.invokestatic 166, 3) := dk_184 0 166 (dk_at dksX1_harm_0 21 rfl rfl)
theorem dX1_harm_24 : decode cX1_harm 24 = .ok (.lload_n 2, 1) := dk_32 (dk_at dksX1_harm_1 0 rfl rfl)
theorem dX1_harm_25 : decode cX1_harm 25 = .ok (.aload 4, 2) := dk_25 4 (dk_at dksX1_harm_1 1 rfl rfl)
theorem dX1_harm_27 : decode cX1_harm 27 = .ok (.getfield 235, 3) := dk_180 0 235 (dk_at dksX1_harm_1 3 rfl rfl)
theorem dX1_harm_30 : decode cX1_harm 30 = .ok (.ldc2_w 239, 3) := dk_20 0 239 (dk_at dksX1_harm_1 6 rfl rfl)
theorem dX1_harm_33 : decode cX1_harm 33 = .ok (.lxor, 1) := dk_131 (dk_at dksX1_harm_1 9 rfl rfl)
theorem dX1_harm_34 : decode cX1_harm 34 = .ok (.land, 1) := dk_127 (dk_at dksX1_harm_1 10 rfl rfl)
theorem dX1_harm_35 : decode cX1_harm 35 = .ok (.lstore 5, 2) := dk_55 5 (dk_at dksX1_harm_1 11 rfl rfl)
theorem dX1_harm_37 : decode cX1_harm 37 = .ok (.aload 4, 2) := dk_25 4 (dk_at dksX1_harm_1 13 rfl rfl)
theorem dX1_harm_39 : decode cX1_harm 39 = .ok (.dup, 1) := dk_89 (dk_at dksX1_harm_1 15 rfl rfl)
theorem dX1_harm_40 : decode cX1_harm 40 = .ok (.getfield 235, 3) := dk_180 0 235 (dk_at dksX1_harm_1 16 rfl rfl)
theorem dX1_harm_43 : decode cX1_harm 43 = .ok (.lload_n 2, 1) := dk_32 (dk_at dksX1_harm_1 19 rfl rfl)
theorem dX1_harm_44 : decode cX1_harm 44 = .ok (.lor, 1) := dk_129 (dk_at dksX1_harm_1 20 rfl rfl)
theorem dX1_harm_45 : decode cX1_harm 45 = .ok (.putfield 235, 3) := dk_181 0 235 (dk_at dksX1_harm_1 21 rfl rfl)
theorem dX1_harm_48 : decode cX1_harm 48 = .ok (.lload 5, 2) := dk_22 5 (dk_at dksX1_harm_2 0 rfl rfl)
theorem dX1_harm_50 : decode cX1_harm 50 = .ok (.invokestatic 230, 3) := dk_184 0 230 (dk_at dksX1_harm_2 2 rfl rfl)
theorem dX1_harm_53 : decode cX1_harm 53 = .ok (.ireturn, 1) := dk_172 (dk_at dksX1_harm_2 5 rfl rfl)
abbrev cX1_cast : ByteArray := prog_1_method_31_code
def yX1_cast : MethodName := ⟨RX1, "cast", "(I)I"⟩
def dkwX1_cast_3 : List UInt8 := [167, 0, 12, 25, 5, 4, 181, 0, 241, 132, 3, 1, 132, 4, 1, 167, 255, 198, 29, 172]
abbrev dktX1_cast_3 : List UInt8 := dkwX1_cast_3 ++ []
def dkwX1_cast_2 : List UInt8 := [192, 0, 145, 58, 5, 25, 5, 180, 0, 218, 44, 166, 0, 23, 25, 5, 180, 0, 241, 153, 0, 6]
abbrev dktX1_cast_2 : List UInt8 := dkwX1_cast_2 ++ dktX1_cast_3
def dkwX1_cast_1 : List UInt8 := [3, 54, 4, 21, 4, 42, 180, 0, 53, 182, 0, 93, 162, 0, 52, 42, 180, 0, 53, 21, 4, 182, 0, 141]
abbrev dktX1_cast_1 : List UInt8 := dkwX1_cast_1 ++ dktX1_cast_2
def dkwX1_cast_0 : List UInt8 := [42, 27, 182, 0, 177, 77, 42, 44, 182, 0, 180, 154, 0, 7, 4, 167, 0, 4, 3, 184, 0, 166, 3, 62]
abbrev dktX1_cast_0 : List UInt8 := dkwX1_cast_0 ++ dktX1_cast_1
theorem dksX1_cast_0 : cX1_cast.data.toList.drop 0 = dktX1_cast_0 := by decide +kernel
theorem dksX1_cast_1 : cX1_cast.data.toList.drop 24 = dktX1_cast_1 := dk_seg dksX1_cast_0 24 rfl rfl
theorem dksX1_cast_2 : cX1_cast.data.toList.drop 48 = dktX1_cast_2 := dk_seg dksX1_cast_1 24 rfl rfl
theorem dksX1_cast_3 : cX1_cast.data.toList.drop 70 = dktX1_cast_3 := dk_seg dksX1_cast_2 22 rfl rfl
theorem dX1_cast_0 : decode cX1_cast 0 = .ok (.aload_n 0, 1) := dk_42 (dk_at dksX1_cast_0 0 rfl rfl)
theorem dX1_cast_1 : decode cX1_cast 1 = .ok (.iload_n 1, 1) := dk_27 (dk_at dksX1_cast_0 1 rfl rfl)
theorem dX1_cast_2 : decode cX1_cast 2 = .ok (.invokevirtual 177, 3) := dk_182 0 177 (dk_at dksX1_cast_0 2 rfl rfl)
theorem dX1_cast_5 : decode cX1_cast 5 = .ok (.astore_n 2, 1) := dk_77 (dk_at dksX1_cast_0 5 rfl rfl)
theorem dX1_cast_6 : decode cX1_cast 6 = .ok (.aload_n 0, 1) := dk_42 (dk_at dksX1_cast_0 6 rfl rfl)
theorem dX1_cast_7 : decode cX1_cast 7 = .ok (.aload_n 2, 1) := dk_44 (dk_at dksX1_cast_0 7 rfl rfl)
theorem dX1_cast_8 : decode cX1_cast 8 = .ok (.invokevirtual 180, 3) := dk_182 0 180 (dk_at dksX1_cast_0 8 rfl rfl)
theorem dX1_cast_11 : decode cX1_cast 11 = .ok (.ifCond .ne 7, 3) := dk_154 0 7 (dk_at dksX1_cast_0 11 rfl rfl)
theorem dX1_cast_14 : decode cX1_cast 14 = .ok (.iconst 1, 1) := dk_4 (dk_at dksX1_cast_0 14 rfl rfl)
theorem dX1_cast_15 : decode cX1_cast 15 = .ok (.goto 4, 3) := dk_167 0 4 (dk_at dksX1_cast_0 15 rfl rfl)
theorem dX1_cast_18 : decode cX1_cast 18 = .ok (.iconst 0, 1) := dk_3 (dk_at dksX1_cast_0 18 rfl rfl)
theorem dX1_cast_19 : decode cX1_cast 19 = .ok (.invokestatic 166, 3) := dk_184 0 166 (dk_at dksX1_cast_0 19 rfl rfl)
theorem dX1_cast_22 : decode cX1_cast 22 = .ok (.iconst 0, 1) := dk_3 (dk_at dksX1_cast_0 22 rfl rfl)
theorem dX1_cast_23 : decode cX1_cast 23 = .ok (.istore_n 3, 1) := dk_62 (dk_at dksX1_cast_0 23 rfl rfl)
theorem dX1_cast_24 : decode cX1_cast 24 = .ok (.iconst 0, 1) := dk_3 (dk_at dksX1_cast_1 0 rfl rfl)
theorem dX1_cast_25 : decode cX1_cast 25 = .ok (.istore 4, 2) := dk_54 4 (dk_at dksX1_cast_1 1 rfl rfl)
theorem dX1_cast_27 : decode cX1_cast 27 = .ok (.iload 4, 2) := dk_21 4 (dk_at dksX1_cast_1 3 rfl rfl)
theorem dX1_cast_29 : decode cX1_cast 29 = .ok (.aload_n 0, 1) := dk_42 (dk_at dksX1_cast_1 5 rfl rfl)
theorem dX1_cast_30 : decode cX1_cast 30 = .ok (.getfield 53, 3) := dk_180 0 53 (dk_at dksX1_cast_1 6 rfl rfl)
theorem dX1_cast_33 : decode cX1_cast 33 = .ok (.invokevirtual 93, 3) := dk_182 0 93 (dk_at dksX1_cast_1 9 rfl rfl)
theorem dX1_cast_36 : decode cX1_cast 36 = .ok (.if_icmp .ge 52, 3) := dk_162 0 52 (dk_at dksX1_cast_1 12 rfl rfl)
theorem dX1_cast_39 : decode cX1_cast 39 = .ok (.aload_n 0, 1) := dk_42 (dk_at dksX1_cast_1 15 rfl rfl)
theorem dX1_cast_40 : decode cX1_cast 40 = .ok (.getfield 53, 3) := dk_180 0 53 (dk_at dksX1_cast_1 16 rfl rfl)
theorem dX1_cast_43 : decode cX1_cast 43 = .ok (.iload 4, 2) := dk_21 4 (dk_at dksX1_cast_1 19 rfl rfl)
theorem dX1_cast_45 : decode cX1_cast 45 = .ok (.invokevirtual 141, 3) := dk_182 0 141 (dk_at dksX1_cast_1 21 rfl rfl)
theorem dX1_cast_48 : decode cX1_cast 48 = .ok (.checkcast 145, 3) := dk_192 0 145 (dk_at dksX1_cast_2 0 rfl rfl)
theorem dX1_cast_51 : decode cX1_cast 51 = .ok (.astore 5, 2) := dk_58 5 (dk_at dksX1_cast_2 3 rfl rfl)
theorem dX1_cast_53 : decode cX1_cast 53 = .ok (.aload 5, 2) := dk_25 5 (dk_at dksX1_cast_2 5 rfl rfl)
theorem dX1_cast_55 : decode cX1_cast 55 = .ok (.getfield 218, 3) := dk_180 0 218 (dk_at dksX1_cast_2 7 rfl rfl)
theorem dX1_cast_58 : decode cX1_cast 58 = .ok (.aload_n 2, 1) := dk_44 (dk_at dksX1_cast_2 10 rfl rfl)
theorem dX1_cast_59 : decode cX1_cast 59 = .ok (.if_acmp .ne 23, 3) := dk_166 0 23 (dk_at dksX1_cast_2 11 rfl rfl)
theorem dX1_cast_62 : decode cX1_cast 62 = .ok (.aload 5, 2) := dk_25 5 (dk_at dksX1_cast_2 14 rfl rfl)
theorem dX1_cast_64 : decode cX1_cast 64 = .ok (.getfield 241, 3) := dk_180 0 241 (dk_at dksX1_cast_2 16 rfl rfl)
theorem dX1_cast_67 : decode cX1_cast 67 = .ok (.ifCond .eq 6, 3) := dk_153 0 6 (dk_at dksX1_cast_2 19 rfl rfl)
theorem dX1_cast_70 : decode cX1_cast 70 = .ok (.goto 12, 3) := dk_167 0 12 (dk_at dksX1_cast_3 0 rfl rfl)
theorem dX1_cast_73 : decode cX1_cast 73 = .ok (.aload 5, 2) := dk_25 5 (dk_at dksX1_cast_3 3 rfl rfl)
theorem dX1_cast_75 : decode cX1_cast 75 = .ok (.iconst 1, 1) := dk_4 (dk_at dksX1_cast_3 5 rfl rfl)
theorem dX1_cast_76 : decode cX1_cast 76 = .ok (.putfield 241, 3) := dk_181 0 241 (dk_at dksX1_cast_3 6 rfl rfl)
theorem dX1_cast_79 : decode cX1_cast 79 = .ok (.iinc 3 1, 3) := dk_132 3 1 (dk_at dksX1_cast_3 9 rfl rfl)
theorem dX1_cast_82 : decode cX1_cast 82 = .ok (.iinc 4 1, 3) := dk_132 4 1 (dk_at dksX1_cast_3 12 rfl rfl)
theorem dX1_cast_85 : decode cX1_cast 85 = .ok (.goto (-58), 3) := dk_167 255 198 (dk_at dksX1_cast_3 15 rfl rfl)
theorem dX1_cast_88 : decode cX1_cast 88 = .ok (.iload_n 3, 1) := dk_29 (dk_at dksX1_cast_3 18 rfl rfl)
theorem dX1_cast_89 : decode cX1_cast 89 = .ok (.ireturn, 1) := dk_172 (dk_at dksX1_cast_3 19 rfl rfl)
abbrev cX1_trace : ByteArray := prog_1_method_32_code
def yX1_trace : MethodName := ⟨RX1, "trace", "(IIJ)I"⟩
def dkwX1_trace_3 : List UInt8 := [25, 5, 180, 0, 248, 25, 6, 182, 0, 173, 87, 42, 180, 0, 59, 182, 0, 93, 4, 100, 172]
abbrev dktX1_trace_3 : List UInt8 := dkwX1_trace_3 ++ []
def dkwX1_trace_2 : List UInt8 := [187, 0, 147, 89, 27, 25, 5, 33, 183, 0, 245, 58, 6, 42, 180, 0, 59, 25, 6, 182, 0, 173, 87]
abbrev dktX1_trace_2 : List UInt8 := dkwX1_trace_2 ++ dktX1_trace_3
def dkwX1_trace_1 : List UInt8 := [3, 184, 0, 200, 42, 180, 0, 59, 182, 0, 93, 16, 40, 162, 0, 7, 4, 167, 0, 4, 3, 184, 0, 166]
abbrev dktX1_trace_1 : List UInt8 := dkwX1_trace_1 ++ dktX1_trace_2
def dkwX1_trace_0 : List UInt8 := [42, 28, 182, 0, 210, 58, 5, 27, 3, 8, 184, 0, 162, 87, 33, 9, 148, 153, 0, 7, 4, 167, 0, 4]
abbrev dktX1_trace_0 : List UInt8 := dkwX1_trace_0 ++ dktX1_trace_1
theorem dksX1_trace_0 : cX1_trace.data.toList.drop 0 = dktX1_trace_0 := by decide +kernel
theorem dksX1_trace_1 : cX1_trace.data.toList.drop 24 = dktX1_trace_1 := dk_seg dksX1_trace_0 24 rfl rfl
theorem dksX1_trace_2 : cX1_trace.data.toList.drop 48 = dktX1_trace_2 := dk_seg dksX1_trace_1 24 rfl rfl
theorem dksX1_trace_3 : cX1_trace.data.toList.drop 71 = dktX1_trace_3 := dk_seg dksX1_trace_2 23 rfl rfl
theorem dX1_trace_0 : decode cX1_trace 0 = .ok (.aload_n 0, 1) := dk_42 (dk_at dksX1_trace_0 0 rfl rfl)
theorem dX1_trace_1 : decode cX1_trace 1 = .ok (.iload_n 2, 1) := dk_28 (dk_at dksX1_trace_0 1 rfl rfl)
theorem dX1_trace_2 : decode cX1_trace 2 = .ok (.invokevirtual 210, 3) := dk_182 0 210 (dk_at dksX1_trace_0 2 rfl rfl)
theorem dX1_trace_5 : decode cX1_trace 5 = .ok (.astore 5, 2) := dk_58 5 (dk_at dksX1_trace_0 5 rfl rfl)
theorem dX1_trace_7 : decode cX1_trace 7 = .ok (.iload_n 1, 1) := dk_27 (dk_at dksX1_trace_0 7 rfl rfl)
theorem dX1_trace_8 : decode cX1_trace 8 = .ok (.iconst 0, 1) := dk_3 (dk_at dksX1_trace_0 8 rfl rfl)
theorem dX1_trace_9 : decode cX1_trace 9 = .ok (.iconst 5, 1) := dk_8 (dk_at dksX1_trace_0 9 rfl rfl)
theorem dX1_trace_10 : decode cX1_trace 10 = .ok (.invokestatic 162, 3) := dk_184 0 162 (dk_at dksX1_trace_0 10 rfl rfl)
theorem dX1_trace_13 : decode cX1_trace 13 = .ok (.pop, 1) := dk_87 (dk_at dksX1_trace_0 13 rfl rfl)
theorem dX1_trace_14 : decode cX1_trace 14 = .ok (.lload_n 3, 1) := dk_33 (dk_at dksX1_trace_0 14 rfl rfl)
theorem dX1_trace_15 : decode cX1_trace 15 = .ok (.lconst 0, 1) := dk_9 (dk_at dksX1_trace_0 15 rfl rfl)
theorem dX1_trace_16 : decode cX1_trace 16 = .ok (.lcmp, 1) := dk_148 (dk_at dksX1_trace_0 16 rfl rfl)
theorem dX1_trace_17 : decode cX1_trace 17 = .ok (.ifCond .eq 7, 3) := dk_153 0 7 (dk_at dksX1_trace_0 17 rfl rfl)
theorem dX1_trace_20 : decode cX1_trace 20 = .ok (.iconst 1, 1) := dk_4 (dk_at dksX1_trace_0 20 rfl rfl)
theorem dX1_trace_21 : decode cX1_trace 21 = .ok (.goto 4, 3) := dk_167 0 4 (dk_at dksX1_trace_0 21 rfl rfl)
theorem dX1_trace_24 : decode cX1_trace 24 = .ok (.iconst 0, 1) := dk_3 (dk_at dksX1_trace_1 0 rfl rfl)
theorem dX1_trace_25 : decode cX1_trace 25 = .ok (.invokestatic 200, 3) := dk_184 0 200 (dk_at dksX1_trace_1 1 rfl rfl)
theorem dX1_trace_28 : decode cX1_trace 28 = .ok (.aload_n 0, 1) := dk_42 (dk_at dksX1_trace_1 4 rfl rfl)
theorem dX1_trace_29 : decode cX1_trace 29 = .ok (.getfield 59, 3) := dk_180 0 59 (dk_at dksX1_trace_1 5 rfl rfl)
theorem dX1_trace_32 : decode cX1_trace 32 = .ok (.invokevirtual 93, 3) := dk_182 0 93 (dk_at dksX1_trace_1 8 rfl rfl)
theorem dX1_trace_35 : decode cX1_trace 35 = .ok (.bipush 40, 2) := dk_16 40 (dk_at dksX1_trace_1 11 rfl rfl)
theorem dX1_trace_37 : decode cX1_trace 37 = .ok (.if_icmp .ge 7, 3) := dk_162 0 7 (dk_at dksX1_trace_1 13 rfl rfl)
theorem dX1_trace_40 : decode cX1_trace 40 = .ok (.iconst 1, 1) := dk_4 (dk_at dksX1_trace_1 16 rfl rfl)
theorem dX1_trace_41 : decode cX1_trace 41 = .ok (.goto 4, 3) := dk_167 0 4 (dk_at dksX1_trace_1 17 rfl rfl)
theorem dX1_trace_44 : decode cX1_trace 44 = .ok (.iconst 0, 1) := dk_3 (dk_at dksX1_trace_1 20 rfl rfl)
theorem dX1_trace_45 : decode cX1_trace 45 = .ok (.invokestatic 166, 3) := dk_184 0 166 (dk_at dksX1_trace_1 21 rfl rfl)
theorem dX1_trace_48 : decode cX1_trace 48 = .ok (.new 147, 3) := dk_187 0 147 (dk_at dksX1_trace_2 0 rfl rfl)
theorem dX1_trace_51 : decode cX1_trace 51 = .ok (.dup, 1) := dk_89 (dk_at dksX1_trace_2 3 rfl rfl)
theorem dX1_trace_52 : decode cX1_trace 52 = .ok (.iload_n 1, 1) := dk_27 (dk_at dksX1_trace_2 4 rfl rfl)
theorem dX1_trace_53 : decode cX1_trace 53 = .ok (.aload 5, 2) := dk_25 5 (dk_at dksX1_trace_2 5 rfl rfl)
theorem dX1_trace_55 : decode cX1_trace 55 = .ok (.lload_n 3, 1) := dk_33 (dk_at dksX1_trace_2 7 rfl rfl)
theorem dX1_trace_56 : decode cX1_trace 56 = .ok (.invokespecial 245, 3) := dk_183 0 245 (dk_at dksX1_trace_2 8 rfl rfl)
theorem dX1_trace_59 : decode cX1_trace 59 = .ok (.astore 6, 2) := dk_58 6 (dk_at dksX1_trace_2 11 rfl rfl)
theorem dX1_trace_61 : decode cX1_trace 61 = .ok (.aload_n 0, 1) := dk_42 (dk_at dksX1_trace_2 13 rfl rfl)
theorem dX1_trace_62 : decode cX1_trace 62 = .ok (.getfield 59, 3) := dk_180 0 59 (dk_at dksX1_trace_2 14 rfl rfl)
theorem dX1_trace_65 : decode cX1_trace 65 = .ok (.aload 6, 2) := dk_25 6 (dk_at dksX1_trace_2 17 rfl rfl)
theorem dX1_trace_67 : decode cX1_trace 67 = .ok (.invokevirtual 173, 3) := dk_182 0 173 (dk_at dksX1_trace_2 19 rfl rfl)
theorem dX1_trace_70 : decode cX1_trace 70 = .ok (.pop, 1) := dk_87 (dk_at dksX1_trace_2 22 rfl rfl)
theorem dX1_trace_71 : decode cX1_trace 71 = .ok (.aload 5, 2) := dk_25 5 (dk_at dksX1_trace_3 0 rfl rfl)
theorem dX1_trace_73 : decode cX1_trace 73 = .ok (.getfield 248, 3) := dk_180 0 248 (dk_at dksX1_trace_3 2 rfl rfl)
theorem dX1_trace_76 : decode cX1_trace 76 = .ok (.aload 6, 2) := dk_25 6 (dk_at dksX1_trace_3 5 rfl rfl)
theorem dX1_trace_78 : decode cX1_trace 78 = .ok (.invokevirtual 173, 3) := dk_182 0 173 (dk_at dksX1_trace_3 7 rfl rfl)
theorem dX1_trace_81 : decode cX1_trace 81 = .ok (.pop, 1) := dk_87 (dk_at dksX1_trace_3 10 rfl rfl)
theorem dX1_trace_82 : decode cX1_trace 82 = .ok (.aload_n 0, 1) := dk_42 (dk_at dksX1_trace_3 11 rfl rfl)
theorem dX1_trace_83 : decode cX1_trace 83 = .ok (.getfield 59, 3) := dk_180 0 59 (dk_at dksX1_trace_3 12 rfl rfl)
theorem dX1_trace_86 : decode cX1_trace 86 = .ok (.invokevirtual 93, 3) := dk_182 0 93 (dk_at dksX1_trace_3 15 rfl rfl)
theorem dX1_trace_89 : decode cX1_trace 89 = .ok (.iconst 1, 1) := dk_4 (dk_at dksX1_trace_3 18 rfl rfl)
theorem dX1_trace_90 : decode cX1_trace 90 = .ok (.isub, 1) := dk_100 (dk_at dksX1_trace_3 19 rfl rfl)
theorem dX1_trace_91 : decode cX1_trace 91 = .ok (.ireturn, 1) := dk_172 (dk_at dksX1_trace_3 20 rfl rfl)
abbrev cX1_shiftOf : ByteArray := prog_1_method_33_code
def yX1_shiftOf : MethodName := ⟨RX1, "shiftOf", "(I)I"⟩
def dkwX1_shiftOf_1 : List UInt8 := [172]
abbrev dktX1_shiftOf_1 : List UInt8 := dkwX1_shiftOf_1 ++ []
def dkwX1_shiftOf_0 : List UInt8 := [42, 27, 182, 0, 249, 182, 0, 253, 77, 8, 44, 180, 1, 1, 5, 96, 104, 44, 180, 1, 6, 96, 5, 96]
abbrev dktX1_shiftOf_0 : List UInt8 := dkwX1_shiftOf_0 ++ dktX1_shiftOf_1
theorem dksX1_shiftOf_0 : cX1_shiftOf.data.toList.drop 0 = dktX1_shiftOf_0 := by decide +kernel
theorem dksX1_shiftOf_1 : cX1_shiftOf.data.toList.drop 24 = dktX1_shiftOf_1 := dk_seg dksX1_shiftOf_0 24 rfl rfl
theorem dX1_shiftOf_0 : decode cX1_shiftOf 0 = .ok (.aload_n 0, 1) := dk_42 (dk_at dksX1_shiftOf_0 0 rfl rfl)
theorem dX1_shiftOf_1 : decode cX1_shiftOf 1 = .ok (.iload_n 1, 1) := dk_27 (dk_at dksX1_shiftOf_0 1 rfl rfl)
theorem dX1_shiftOf_2 : decode cX1_shiftOf 2 = .ok (.invokevirtual 249, 3) := dk_182 0 249 (dk_at dksX1_shiftOf_0 2 rfl rfl)
theorem dX1_shiftOf_5 : decode cX1_shiftOf 5 = .ok (.invokevirtual 253, 3) := dk_182 0 253 (dk_at dksX1_shiftOf_0 5 rfl rfl)
theorem dX1_shiftOf_8 : decode cX1_shiftOf 8 = .ok (.astore_n 2, 1) := dk_77 (dk_at dksX1_shiftOf_0 8 rfl rfl)
theorem dX1_shiftOf_9 : decode cX1_shiftOf 9 = .ok (.iconst 5, 1) := dk_8 (dk_at dksX1_shiftOf_0 9 rfl rfl)
theorem dX1_shiftOf_10 : decode cX1_shiftOf 10 = .ok (.aload_n 2, 1) := dk_44 (dk_at dksX1_shiftOf_0 10 rfl rfl)
theorem dX1_shiftOf_11 : decode cX1_shiftOf 11 = .ok (.getfield 257, 3) := dk_180 1 1 (dk_at dksX1_shiftOf_0 11 rfl rfl)
theorem dX1_shiftOf_14 : decode cX1_shiftOf 14 = .ok (.iconst 2, 1) := dk_5 (dk_at dksX1_shiftOf_0 14 rfl rfl)
theorem dX1_shiftOf_15 : decode cX1_shiftOf 15 = .ok (.iadd, 1) := dk_96 (dk_at dksX1_shiftOf_0 15 rfl rfl)
theorem dX1_shiftOf_16 : decode cX1_shiftOf 16 = .ok (.imul, 1) := dk_104 (dk_at dksX1_shiftOf_0 16 rfl rfl)
theorem dX1_shiftOf_17 : decode cX1_shiftOf 17 = .ok (.aload_n 2, 1) := dk_44 (dk_at dksX1_shiftOf_0 17 rfl rfl)
theorem dX1_shiftOf_18 : decode cX1_shiftOf 18 = .ok (.getfield 262, 3) := dk_180 1 6 (dk_at dksX1_shiftOf_0 18 rfl rfl)
theorem dX1_shiftOf_21 : decode cX1_shiftOf 21 = .ok (.iadd, 1) := dk_96 (dk_at dksX1_shiftOf_0 21 rfl rfl)
theorem dX1_shiftOf_22 : decode cX1_shiftOf 22 = .ok (.iconst 2, 1) := dk_5 (dk_at dksX1_shiftOf_0 22 rfl rfl)
theorem dX1_shiftOf_23 : decode cX1_shiftOf 23 = .ok (.iadd, 1) := dk_96 (dk_at dksX1_shiftOf_0 23 rfl rfl)
theorem dX1_shiftOf_24 : decode cX1_shiftOf 24 = .ok (.ireturn, 1) := dk_172 (dk_at dksX1_shiftOf_1 0 rfl rfl)
abbrev cX1_tracing : ByteArray := prog_1_method_17_code
def yX1_tracing : MethodName := ⟨RX1, "tracing", "(I)LFigureSurvey$Tracing;"⟩
def dkwX1_tracing_0 : List UInt8 := [42, 180, 0, 59, 27, 42, 180, 0, 59, 182, 0, 93, 184, 0, 138, 182, 0, 141, 192, 0, 147, 176]
abbrev dktX1_tracing_0 : List UInt8 := dkwX1_tracing_0 ++ []
theorem dksX1_tracing_0 : cX1_tracing.data.toList.drop 0 = dktX1_tracing_0 := by decide +kernel
theorem dX1_tracing_0 : decode cX1_tracing 0 = .ok (.aload_n 0, 1) := dk_42 (dk_at dksX1_tracing_0 0 rfl rfl)
theorem dX1_tracing_1 : decode cX1_tracing 1 = .ok (.getfield 59, 3) := dk_180 0 59 (dk_at dksX1_tracing_0 1 rfl rfl)
theorem dX1_tracing_4 : decode cX1_tracing 4 = .ok (.iload_n 1, 1) := dk_27 (dk_at dksX1_tracing_0 4 rfl rfl)
theorem dX1_tracing_5 : decode cX1_tracing 5 = .ok (.aload_n 0, 1) := dk_42 (dk_at dksX1_tracing_0 5 rfl rfl)
theorem dX1_tracing_6 : decode cX1_tracing 6 = .ok (.getfield 59, 3) := dk_180 0 59 (dk_at dksX1_tracing_0 6 rfl rfl)
theorem dX1_tracing_9 : decode cX1_tracing 9 = .ok (.invokevirtual 93, 3) := dk_182 0 93 (dk_at dksX1_tracing_0 9 rfl rfl)
theorem dX1_tracing_12 : decode cX1_tracing 12 = .ok (.invokestatic 138, 3) := dk_184 0 138 (dk_at dksX1_tracing_0 12 rfl rfl)
theorem dX1_tracing_15 : decode cX1_tracing 15 = .ok (.invokevirtual 141, 3) := dk_182 0 141 (dk_at dksX1_tracing_0 15 rfl rfl)
theorem dX1_tracing_18 : decode cX1_tracing 18 = .ok (.checkcast 147, 3) := dk_192 0 147 (dk_at dksX1_tracing_0 18 rfl rfl)
theorem dX1_tracing_21 : decode cX1_tracing 21 = .ok (.areturn, 1) := dk_176 (dk_at dksX1_tracing_0 21 rfl rfl)
abbrev cX1_scoreOf : ByteArray := prog_1_method_34_code
def yX1_scoreOf : MethodName := ⟨RX1, "scoreOf", "(I)I"⟩
def dkwX1_scoreOf_0 : List UInt8 := [42, 27, 182, 0, 249, 182, 1, 9, 172]
abbrev dktX1_scoreOf_0 : List UInt8 := dkwX1_scoreOf_0 ++ []
theorem dksX1_scoreOf_0 : cX1_scoreOf.data.toList.drop 0 = dktX1_scoreOf_0 := by decide +kernel
theorem dX1_scoreOf_0 : decode cX1_scoreOf 0 = .ok (.aload_n 0, 1) := dk_42 (dk_at dksX1_scoreOf_0 0 rfl rfl)
theorem dX1_scoreOf_1 : decode cX1_scoreOf 1 = .ok (.iload_n 1, 1) := dk_27 (dk_at dksX1_scoreOf_0 1 rfl rfl)
theorem dX1_scoreOf_2 : decode cX1_scoreOf 2 = .ok (.invokevirtual 249, 3) := dk_182 0 249 (dk_at dksX1_scoreOf_0 2 rfl rfl)
theorem dX1_scoreOf_5 : decode cX1_scoreOf 5 = .ok (.invokevirtual 265, 3) := dk_182 1 9 (dk_at dksX1_scoreOf_0 5 rfl rfl)
theorem dX1_scoreOf_8 : decode cX1_scoreOf 8 = .ok (.ireturn, 1) := dk_172 (dk_at dksX1_scoreOf_0 8 rfl rfl)
abbrev cX1_handScore : ByteArray := prog_1_method_35_code
def yX1_handScore : MethodName := ⟨RX1, "handScore", "(I)I"⟩
def dkwX1_handScore_3 : List UInt8 := [132, 4, 1, 167, 255, 198, 29, 154, 0, 7, 2, 167, 0, 6, 28, 29, 108, 172]
abbrev dktX1_handScore_3 : List UInt8 := dkwX1_handScore_3 ++ []
def dkwX1_handScore_2 : List UInt8 := [167, 0, 24, 28, 42, 180, 0, 59, 21, 4, 182, 0, 141, 192, 0, 147, 182, 1, 9, 96, 61, 132, 3, 1]
abbrev dktX1_handScore_2 : List UInt8 := dkwX1_handScore_2 ++ dktX1_handScore_3
def dkwX1_handScore_1 : List UInt8 := [162, 0, 52, 42, 180, 0, 59, 21, 4, 182, 0, 141, 192, 0, 147, 180, 1, 12, 27, 159, 0, 6]
abbrev dktX1_handScore_1 : List UInt8 := dkwX1_handScore_1 ++ dktX1_handScore_2
def dkwX1_handScore_0 : List UInt8 := [27, 3, 8, 184, 0, 162, 87, 3, 61, 3, 62, 3, 54, 4, 21, 4, 42, 180, 0, 59, 182, 0, 93]
abbrev dktX1_handScore_0 : List UInt8 := dkwX1_handScore_0 ++ dktX1_handScore_1
theorem dksX1_handScore_0 : cX1_handScore.data.toList.drop 0 = dktX1_handScore_0 := by decide +kernel
theorem dksX1_handScore_1 : cX1_handScore.data.toList.drop 23 = dktX1_handScore_1 := dk_seg dksX1_handScore_0 23 rfl rfl
theorem dksX1_handScore_2 : cX1_handScore.data.toList.drop 45 = dktX1_handScore_2 := dk_seg dksX1_handScore_1 22 rfl rfl
theorem dksX1_handScore_3 : cX1_handScore.data.toList.drop 69 = dktX1_handScore_3 := dk_seg dksX1_handScore_2 24 rfl rfl
theorem dX1_handScore_0 : decode cX1_handScore 0 = .ok (.iload_n 1, 1) := dk_27 (dk_at dksX1_handScore_0 0 rfl rfl)
theorem dX1_handScore_1 : decode cX1_handScore 1 = .ok (.iconst 0, 1) := dk_3 (dk_at dksX1_handScore_0 1 rfl rfl)
theorem dX1_handScore_2 : decode cX1_handScore 2 = .ok (.iconst 5, 1) := dk_8 (dk_at dksX1_handScore_0 2 rfl rfl)
theorem dX1_handScore_3 : decode cX1_handScore 3 = .ok (.invokestatic 162, 3) := dk_184 0 162 (dk_at dksX1_handScore_0 3 rfl rfl)
theorem dX1_handScore_6 : decode cX1_handScore 6 = .ok (.pop, 1) := dk_87 (dk_at dksX1_handScore_0 6 rfl rfl)
theorem dX1_handScore_7 : decode cX1_handScore 7 = .ok (.iconst 0, 1) := dk_3 (dk_at dksX1_handScore_0 7 rfl rfl)
theorem dX1_handScore_8 : decode cX1_handScore 8 = .ok (.istore_n 2, 1) := dk_61 (dk_at dksX1_handScore_0 8 rfl rfl)
theorem dX1_handScore_9 : decode cX1_handScore 9 = .ok (.iconst 0, 1) := dk_3 (dk_at dksX1_handScore_0 9 rfl rfl)
theorem dX1_handScore_10 : decode cX1_handScore 10 = .ok (.istore_n 3, 1) := dk_62 (dk_at dksX1_handScore_0 10 rfl rfl)
theorem dX1_handScore_11 : decode cX1_handScore 11 = .ok (.iconst 0, 1) := dk_3 (dk_at dksX1_handScore_0 11 rfl rfl)
theorem dX1_handScore_12 : decode cX1_handScore 12 = .ok (.istore 4, 2) := dk_54 4 (dk_at dksX1_handScore_0 12 rfl rfl)
theorem dX1_handScore_14 : decode cX1_handScore 14 = .ok (.iload 4, 2) := dk_21 4 (dk_at dksX1_handScore_0 14 rfl rfl)
theorem dX1_handScore_16 : decode cX1_handScore 16 = .ok (.aload_n 0, 1) := dk_42 (dk_at dksX1_handScore_0 16 rfl rfl)
theorem dX1_handScore_17 : decode cX1_handScore 17 = .ok (.getfield 59, 3) := dk_180 0 59 (dk_at dksX1_handScore_0 17 rfl rfl)
theorem dX1_handScore_20 : decode cX1_handScore 20 = .ok (.invokevirtual 93, 3) := dk_182 0 93 (dk_at dksX1_handScore_0 20 rfl rfl)
theorem dX1_handScore_23 : decode cX1_handScore 23 = .ok (.if_icmp .ge 52, 3) := dk_162 0 52 (dk_at dksX1_handScore_1 0 rfl rfl)
theorem dX1_handScore_26 : decode cX1_handScore 26 = .ok (.aload_n 0, 1) := dk_42 (dk_at dksX1_handScore_1 3 rfl rfl)
theorem dX1_handScore_27 : decode cX1_handScore 27 = .ok (.getfield 59, 3) := dk_180 0 59 (dk_at dksX1_handScore_1 4 rfl rfl)
theorem dX1_handScore_30 : decode cX1_handScore 30 = .ok (.iload 4, 2) := dk_21 4 (dk_at dksX1_handScore_1 7 rfl rfl)
theorem dX1_handScore_32 : decode cX1_handScore 32 = .ok (.invokevirtual 141, 3) := dk_182 0 141 (dk_at dksX1_handScore_1 9 rfl rfl)
theorem dX1_handScore_35 : decode cX1_handScore 35 = .ok (.checkcast 147, 3) := dk_192 0 147 (dk_at dksX1_handScore_1 12 rfl rfl)
theorem dX1_handScore_38 : decode cX1_handScore 38 = .ok (.getfield 268, 3) := dk_180 1 12 (dk_at dksX1_handScore_1 15 rfl rfl)
theorem dX1_handScore_41 : decode cX1_handScore 41 = .ok (.iload_n 1, 1) := dk_27 (dk_at dksX1_handScore_1 18 rfl rfl)
theorem dX1_handScore_42 : decode cX1_handScore 42 = .ok (.if_icmp .eq 6, 3) := dk_159 0 6 (dk_at dksX1_handScore_1 19 rfl rfl)
theorem dX1_handScore_45 : decode cX1_handScore 45 = .ok (.goto 24, 3) := dk_167 0 24 (dk_at dksX1_handScore_2 0 rfl rfl)
theorem dX1_handScore_48 : decode cX1_handScore 48 = .ok (.iload_n 2, 1) := dk_28 (dk_at dksX1_handScore_2 3 rfl rfl)
theorem dX1_handScore_49 : decode cX1_handScore 49 = .ok (.aload_n 0, 1) := dk_42 (dk_at dksX1_handScore_2 4 rfl rfl)
theorem dX1_handScore_50 : decode cX1_handScore 50 = .ok (.getfield 59, 3) := dk_180 0 59 (dk_at dksX1_handScore_2 5 rfl rfl)
theorem dX1_handScore_53 : decode cX1_handScore 53 = .ok (.iload 4, 2) := dk_21 4 (dk_at dksX1_handScore_2 8 rfl rfl)
theorem dX1_handScore_55 : decode cX1_handScore 55 = .ok (.invokevirtual 141, 3) := dk_182 0 141 (dk_at dksX1_handScore_2 10 rfl rfl)
theorem dX1_handScore_58 : decode cX1_handScore 58 = .ok (.checkcast 147, 3) := dk_192 0 147 (dk_at dksX1_handScore_2 13 rfl rfl)
theorem dX1_handScore_61 : decode cX1_handScore 61 = .ok (.invokevirtual 265, 3) := dk_182 1 9 (dk_at dksX1_handScore_2 16 rfl rfl)
theorem dX1_handScore_64 : decode cX1_handScore 64 = .ok (.iadd, 1) := dk_96 (dk_at dksX1_handScore_2 19 rfl rfl)
theorem dX1_handScore_65 : decode cX1_handScore 65 = .ok (.istore_n 2, 1) := dk_61 (dk_at dksX1_handScore_2 20 rfl rfl)
theorem dX1_handScore_66 : decode cX1_handScore 66 = .ok (.iinc 3 1, 3) := dk_132 3 1 (dk_at dksX1_handScore_2 21 rfl rfl)
theorem dX1_handScore_69 : decode cX1_handScore 69 = .ok (.iinc 4 1, 3) := dk_132 4 1 (dk_at dksX1_handScore_3 0 rfl rfl)
theorem dX1_handScore_72 : decode cX1_handScore 72 = .ok (.goto (-58), 3) := dk_167 255 198 (dk_at dksX1_handScore_3 3 rfl rfl)
theorem dX1_handScore_75 : decode cX1_handScore 75 = .ok (.iload_n 3, 1) := dk_29 (dk_at dksX1_handScore_3 6 rfl rfl)
theorem dX1_handScore_76 : decode cX1_handScore 76 = .ok (.ifCond .ne 7, 3) := dk_154 0 7 (dk_at dksX1_handScore_3 7 rfl rfl)
theorem dX1_handScore_79 : decode cX1_handScore 79 = .ok (.iconst (-1), 1) := dk_2 (dk_at dksX1_handScore_3 10 rfl rfl)
theorem dX1_handScore_80 : decode cX1_handScore 80 = .ok (.goto 6, 3) := dk_167 0 6 (dk_at dksX1_handScore_3 11 rfl rfl)
theorem dX1_handScore_83 : decode cX1_handScore 83 = .ok (.iload_n 2, 1) := dk_28 (dk_at dksX1_handScore_3 14 rfl rfl)
theorem dX1_handScore_84 : decode cX1_handScore 84 = .ok (.iload_n 3, 1) := dk_29 (dk_at dksX1_handScore_3 15 rfl rfl)
theorem dX1_handScore_85 : decode cX1_handScore 85 = .ok (.idiv, 1) := dk_108 (dk_at dksX1_handScore_3 16 rfl rfl)
theorem dX1_handScore_86 : decode cX1_handScore 86 = .ok (.ireturn, 1) := dk_172 (dk_at dksX1_handScore_3 17 rfl rfl)
abbrev cX1_consensus : ByteArray := prog_1_method_36_code
def yX1_consensus : MethodName := ⟨RX1, "consensus", "(I)J"⟩
def dkwX1_consensus_5 : List UInt8 := [121, 129, 55, 4, 132, 6, 1, 167, 255, 221, 22, 4, 173]
abbrev dktX1_consensus_5 : List UInt8 := dkwX1_consensus_5 ++ []
def dkwX1_consensus_4 : List UInt8 := [162, 0, 34, 5, 45, 21, 6, 46, 104, 44, 180, 0, 248, 182, 0, 93, 164, 0, 12, 22, 4, 10, 21, 6]
abbrev dktX1_consensus_4 : List UInt8 := dkwX1_consensus_4 ++ dktX1_consensus_5
def dkwX1_consensus_3 : List UInt8 := [79, 132, 7, 1, 167, 255, 228, 132, 4, 1, 167, 255, 190, 9, 55, 4, 3, 54, 6, 21, 6, 16, 64]
abbrev dktX1_consensus_3 : List UInt8 := dkwX1_consensus_3 ++ dktX1_consensus_4
def dkwX1_consensus_2 : List UInt8 := [21, 7, 16, 64, 162, 0, 27, 22, 5, 21, 7, 184, 1, 18, 153, 0, 11, 45, 21, 7, 92, 46, 4, 96]
abbrev dktX1_consensus_2 : List UInt8 := dkwX1_consensus_2 ++ dktX1_consensus_3
def dkwX1_consensus_1 : List UInt8 := [162, 0, 60, 44, 180, 0, 248, 21, 4, 182, 0, 141, 192, 0, 147, 182, 1, 15, 55, 5, 3, 54, 7]
abbrev dktX1_consensus_1 : List UInt8 := dkwX1_consensus_1 ++ dktX1_consensus_2
def dkwX1_consensus_0 : List UInt8 := [42, 27, 182, 0, 210, 77, 16, 64, 188, 10, 78, 3, 54, 4, 21, 4, 44, 180, 0, 248, 182, 0, 93]
abbrev dktX1_consensus_0 : List UInt8 := dkwX1_consensus_0 ++ dktX1_consensus_1
theorem dksX1_consensus_0 : cX1_consensus.data.toList.drop 0 = dktX1_consensus_0 := by decide +kernel
theorem dksX1_consensus_1 : cX1_consensus.data.toList.drop 23 = dktX1_consensus_1 := dk_seg dksX1_consensus_0 23 rfl rfl
theorem dksX1_consensus_2 : cX1_consensus.data.toList.drop 46 = dktX1_consensus_2 := dk_seg dksX1_consensus_1 23 rfl rfl
theorem dksX1_consensus_3 : cX1_consensus.data.toList.drop 70 = dktX1_consensus_3 := dk_seg dksX1_consensus_2 24 rfl rfl
theorem dksX1_consensus_4 : cX1_consensus.data.toList.drop 93 = dktX1_consensus_4 := dk_seg dksX1_consensus_3 23 rfl rfl
theorem dksX1_consensus_5 : cX1_consensus.data.toList.drop 117 = dktX1_consensus_5 := dk_seg dksX1_consensus_4 24 rfl rfl
theorem dX1_consensus_0 : decode cX1_consensus 0 = .ok (.aload_n 0, 1) := dk_42 (dk_at dksX1_consensus_0 0 rfl rfl)
theorem dX1_consensus_1 : decode cX1_consensus 1 = .ok (.iload_n 1, 1) := dk_27 (dk_at dksX1_consensus_0 1 rfl rfl)
theorem dX1_consensus_2 : decode cX1_consensus 2 = .ok (.invokevirtual 210, 3) := dk_182 0 210 (dk_at dksX1_consensus_0 2 rfl rfl)
theorem dX1_consensus_5 : decode cX1_consensus 5 = .ok (.astore_n 2, 1) := dk_77 (dk_at dksX1_consensus_0 5 rfl rfl)
theorem dX1_consensus_6 : decode cX1_consensus 6 = .ok (.bipush 64, 2) := dk_16 64 (dk_at dksX1_consensus_0 6 rfl rfl)
theorem dX1_consensus_8 : decode cX1_consensus 8 = .ok (.newarray .int, 2) := dk_188_10 (dk_at dksX1_consensus_0 8 rfl rfl)
theorem dX1_consensus_10 : decode cX1_consensus 10 = .ok (.astore_n 3, 1) := dk_78 (dk_at dksX1_consensus_0 10 rfl rfl)
theorem dX1_consensus_11 : decode cX1_consensus 11 = .ok (.iconst 0, 1) := dk_3 (dk_at dksX1_consensus_0 11 rfl rfl)
theorem dX1_consensus_12 : decode cX1_consensus 12 = .ok (.istore 4, 2) := dk_54 4 (dk_at dksX1_consensus_0 12 rfl rfl)
theorem dX1_consensus_14 : decode cX1_consensus 14 = .ok (.iload 4, 2) := dk_21 4 (dk_at dksX1_consensus_0 14 rfl rfl)
theorem dX1_consensus_16 : decode cX1_consensus 16 = .ok (.aload_n 2, 1) := dk_44 (dk_at dksX1_consensus_0 16 rfl rfl)
theorem dX1_consensus_17 : decode cX1_consensus 17 = .ok (.getfield 248, 3) := dk_180 0 248 (dk_at dksX1_consensus_0 17 rfl rfl)
theorem dX1_consensus_20 : decode cX1_consensus 20 = .ok (.invokevirtual 93, 3) := dk_182 0 93 (dk_at dksX1_consensus_0 20 rfl rfl)
theorem dX1_consensus_23 : decode cX1_consensus 23 = .ok (.if_icmp .ge 60, 3) := dk_162 0 60 (dk_at dksX1_consensus_1 0 rfl rfl)
theorem dX1_consensus_26 : decode cX1_consensus 26 = .ok (.aload_n 2, 1) := dk_44 (dk_at dksX1_consensus_1 3 rfl rfl)
theorem dX1_consensus_27 : decode cX1_consensus 27 = .ok (.getfield 248, 3) := dk_180 0 248 (dk_at dksX1_consensus_1 4 rfl rfl)
theorem dX1_consensus_30 : decode cX1_consensus 30 = .ok (.iload 4, 2) := dk_21 4 (dk_at dksX1_consensus_1 7 rfl rfl)
theorem dX1_consensus_32 : decode cX1_consensus 32 = .ok (.invokevirtual 141, 3) := dk_182 0 141 (dk_at dksX1_consensus_1 9 rfl rfl)
theorem dX1_consensus_35 : decode cX1_consensus 35 = .ok (.checkcast 147, 3) := dk_192 0 147 (dk_at dksX1_consensus_1 12 rfl rfl)
theorem dX1_consensus_38 : decode cX1_consensus 38 = .ok (.invokevirtual 271, 3) := dk_182 1 15 (dk_at dksX1_consensus_1 15 rfl rfl)
theorem dX1_consensus_41 : decode cX1_consensus 41 = .ok (.lstore 5, 2) := dk_55 5 (dk_at dksX1_consensus_1 18 rfl rfl)
theorem dX1_consensus_43 : decode cX1_consensus 43 = .ok (.iconst 0, 1) := dk_3 (dk_at dksX1_consensus_1 20 rfl rfl)
theorem dX1_consensus_44 : decode cX1_consensus 44 = .ok (.istore 7, 2) := dk_54 7 (dk_at dksX1_consensus_1 21 rfl rfl)
theorem dX1_consensus_46 : decode cX1_consensus 46 = .ok (.iload 7, 2) := dk_21 7 (dk_at dksX1_consensus_2 0 rfl rfl)
theorem dX1_consensus_48 : decode cX1_consensus 48 = .ok (.bipush 64, 2) := dk_16 64 (dk_at dksX1_consensus_2 2 rfl rfl)
theorem dX1_consensus_50 : decode cX1_consensus 50 = .ok (.if_icmp .ge 27, 3) := dk_162 0 27 (dk_at dksX1_consensus_2 4 rfl rfl)
theorem dX1_consensus_53 : decode cX1_consensus 53 = .ok (.lload 5, 2) := dk_22 5 (dk_at dksX1_consensus_2 7 rfl rfl)
theorem dX1_consensus_55 : decode cX1_consensus 55 = .ok (.iload 7, 2) := dk_21 7 (dk_at dksX1_consensus_2 9 rfl rfl)
theorem dX1_consensus_57 : decode cX1_consensus 57 = .ok (.invokestatic 274, 3) := dk_184 1 18 (dk_at dksX1_consensus_2 11 rfl rfl)
theorem dX1_consensus_60 : decode cX1_consensus 60 = .ok (.ifCond .eq 11, 3) := dk_153 0 11 (dk_at dksX1_consensus_2 14 rfl rfl)
theorem dX1_consensus_63 : decode cX1_consensus 63 = .ok (.aload_n 3, 1) := dk_45 (dk_at dksX1_consensus_2 17 rfl rfl)
theorem dX1_consensus_64 : decode cX1_consensus 64 = .ok (.iload 7, 2) := dk_21 7 (dk_at dksX1_consensus_2 18 rfl rfl)
theorem dX1_consensus_66 : decode cX1_consensus 66 = .ok (.dup2, 1) := dk_92 (dk_at dksX1_consensus_2 20 rfl rfl)
theorem dX1_consensus_67 : decode cX1_consensus 67 = .ok (.iaload, 1) := dk_46 (dk_at dksX1_consensus_2 21 rfl rfl)
theorem dX1_consensus_68 : decode cX1_consensus 68 = .ok (.iconst 1, 1) := dk_4 (dk_at dksX1_consensus_2 22 rfl rfl)
theorem dX1_consensus_69 : decode cX1_consensus 69 = .ok (.iadd, 1) := dk_96 (dk_at dksX1_consensus_2 23 rfl rfl)
theorem dX1_consensus_70 : decode cX1_consensus 70 = .ok (.iastore, 1) := dk_79 (dk_at dksX1_consensus_3 0 rfl rfl)
theorem dX1_consensus_71 : decode cX1_consensus 71 = .ok (.iinc 7 1, 3) := dk_132 7 1 (dk_at dksX1_consensus_3 1 rfl rfl)
theorem dX1_consensus_74 : decode cX1_consensus 74 = .ok (.goto (-28), 3) := dk_167 255 228 (dk_at dksX1_consensus_3 4 rfl rfl)
theorem dX1_consensus_77 : decode cX1_consensus 77 = .ok (.iinc 4 1, 3) := dk_132 4 1 (dk_at dksX1_consensus_3 7 rfl rfl)
theorem dX1_consensus_80 : decode cX1_consensus 80 = .ok (.goto (-66), 3) := dk_167 255 190 (dk_at dksX1_consensus_3 10 rfl rfl)
theorem dX1_consensus_83 : decode cX1_consensus 83 = .ok (.lconst 0, 1) := dk_9 (dk_at dksX1_consensus_3 13 rfl rfl)
theorem dX1_consensus_84 : decode cX1_consensus 84 = .ok (.lstore 4, 2) := dk_55 4 (dk_at dksX1_consensus_3 14 rfl rfl)
theorem dX1_consensus_86 : decode cX1_consensus 86 = .ok (.iconst 0, 1) := dk_3 (dk_at dksX1_consensus_3 16 rfl rfl)
theorem dX1_consensus_87 : decode cX1_consensus 87 = .ok (.istore 6, 2) := dk_54 6 (dk_at dksX1_consensus_3 17 rfl rfl)
theorem dX1_consensus_89 : decode cX1_consensus 89 = .ok (.iload 6, 2) := dk_21 6 (dk_at dksX1_consensus_3 19 rfl rfl)
theorem dX1_consensus_91 : decode cX1_consensus 91 = .ok (.bipush 64, 2) := dk_16 64 (dk_at dksX1_consensus_3 21 rfl rfl)
theorem dX1_consensus_93 : decode cX1_consensus 93 = .ok (.if_icmp .ge 34, 3) := dk_162 0 34 (dk_at dksX1_consensus_4 0 rfl rfl)
theorem dX1_consensus_96 : decode cX1_consensus 96 = .ok (.iconst 2, 1) := dk_5 (dk_at dksX1_consensus_4 3 rfl rfl)
theorem dX1_consensus_97 : decode cX1_consensus 97 = .ok (.aload_n 3, 1) := dk_45 (dk_at dksX1_consensus_4 4 rfl rfl)
theorem dX1_consensus_98 : decode cX1_consensus 98 = .ok (.iload 6, 2) := dk_21 6 (dk_at dksX1_consensus_4 5 rfl rfl)
theorem dX1_consensus_100 : decode cX1_consensus 100 = .ok (.iaload, 1) := dk_46 (dk_at dksX1_consensus_4 7 rfl rfl)
theorem dX1_consensus_101 : decode cX1_consensus 101 = .ok (.imul, 1) := dk_104 (dk_at dksX1_consensus_4 8 rfl rfl)
theorem dX1_consensus_102 : decode cX1_consensus 102 = .ok (.aload_n 2, 1) := dk_44 (dk_at dksX1_consensus_4 9 rfl rfl)
theorem dX1_consensus_103 : decode cX1_consensus 103 = .ok (.getfield 248, 3) := dk_180 0 248 (dk_at dksX1_consensus_4 10 rfl rfl)
theorem dX1_consensus_106 : decode cX1_consensus 106 = .ok (.invokevirtual 93, 3) := dk_182 0 93 (dk_at dksX1_consensus_4 13 rfl rfl)
theorem dX1_consensus_109 : decode cX1_consensus 109 = .ok (.if_icmp .le 12, 3) := dk_164 0 12 (dk_at dksX1_consensus_4 16 rfl rfl)
theorem dX1_consensus_112 : decode cX1_consensus 112 = .ok (.lload 4, 2) := dk_22 4 (dk_at dksX1_consensus_4 19 rfl rfl)
theorem dX1_consensus_114 : decode cX1_consensus 114 = .ok (.lconst 1, 1) := dk_10 (dk_at dksX1_consensus_4 21 rfl rfl)
theorem dX1_consensus_115 : decode cX1_consensus 115 = .ok (.iload 6, 2) := dk_21 6 (dk_at dksX1_consensus_4 22 rfl rfl)
theorem dX1_consensus_117 : decode cX1_consensus 117 = .ok (.lshl, 1) := dk_121 (dk_at dksX1_consensus_5 0 rfl rfl)
theorem dX1_consensus_118 : decode cX1_consensus 118 = .ok (.lor, 1) := dk_129 (dk_at dksX1_consensus_5 1 rfl rfl)
theorem dX1_consensus_119 : decode cX1_consensus 119 = .ok (.lstore 4, 2) := dk_55 4 (dk_at dksX1_consensus_5 2 rfl rfl)
theorem dX1_consensus_121 : decode cX1_consensus 121 = .ok (.iinc 6 1, 3) := dk_132 6 1 (dk_at dksX1_consensus_5 4 rfl rfl)
theorem dX1_consensus_124 : decode cX1_consensus 124 = .ok (.goto (-35), 3) := dk_167 255 221 (dk_at dksX1_consensus_5 7 rfl rfl)
theorem dX1_consensus_127 : decode cX1_consensus 127 = .ok (.lload 4, 2) := dk_22 4 (dk_at dksX1_consensus_5 10 rfl rfl)
theorem dX1_consensus_129 : decode cX1_consensus 129 = .ok (.lreturn, 1) := dk_173 (dk_at dksX1_consensus_5 12 rfl rfl)
abbrev cX1_mark : ByteArray := prog_1_method_37_code
def yX1_mark : MethodName := ⟨RX1, "mark", "(II)I"⟩
def dkwX1_mark_1 : List UInt8 := [182, 1, 24, 172]
abbrev dktX1_mark_1 : List UInt8 := dkwX1_mark_1 ++ []
def dkwX1_mark_0 : List UInt8 := [42, 27, 182, 0, 210, 78, 45, 89, 180, 1, 21, 28, 4, 16, 9, 184, 0, 162, 96, 181, 1, 21, 45]
abbrev dktX1_mark_0 : List UInt8 := dkwX1_mark_0 ++ dktX1_mark_1
theorem dksX1_mark_0 : cX1_mark.data.toList.drop 0 = dktX1_mark_0 := by decide +kernel
theorem dksX1_mark_1 : cX1_mark.data.toList.drop 23 = dktX1_mark_1 := dk_seg dksX1_mark_0 23 rfl rfl
theorem dX1_mark_0 : decode cX1_mark 0 = .ok (.aload_n 0, 1) := dk_42 (dk_at dksX1_mark_0 0 rfl rfl)
theorem dX1_mark_1 : decode cX1_mark 1 = .ok (.iload_n 1, 1) := dk_27 (dk_at dksX1_mark_0 1 rfl rfl)
theorem dX1_mark_2 : decode cX1_mark 2 = .ok (.invokevirtual 210, 3) := dk_182 0 210 (dk_at dksX1_mark_0 2 rfl rfl)
theorem dX1_mark_5 : decode cX1_mark 5 = .ok (.astore_n 3, 1) := dk_78 (dk_at dksX1_mark_0 5 rfl rfl)
theorem dX1_mark_6 : decode cX1_mark 6 = .ok (.aload_n 3, 1) := dk_45 (dk_at dksX1_mark_0 6 rfl rfl)
theorem dX1_mark_7 : decode cX1_mark 7 = .ok (.dup, 1) := dk_89 (dk_at dksX1_mark_0 7 rfl rfl)
theorem dX1_mark_8 : decode cX1_mark 8 = .ok (.getfield 277, 3) := dk_180 1 21 (dk_at dksX1_mark_0 8 rfl rfl)
theorem dX1_mark_11 : decode cX1_mark 11 = .ok (.iload_n 2, 1) := dk_28 (dk_at dksX1_mark_0 11 rfl rfl)
theorem dX1_mark_12 : decode cX1_mark 12 = .ok (.iconst 1, 1) := dk_4 (dk_at dksX1_mark_0 12 rfl rfl)
theorem dX1_mark_13 : decode cX1_mark 13 = .ok (.bipush 9, 2) := dk_16 9 (dk_at dksX1_mark_0 13 rfl rfl)
theorem dX1_mark_15 : decode cX1_mark 15 = .ok (.invokestatic 162, 3) := dk_184 0 162 (dk_at dksX1_mark_0 15 rfl rfl)
theorem dX1_mark_18 : decode cX1_mark 18 = .ok (.iadd, 1) := dk_96 (dk_at dksX1_mark_0 18 rfl rfl)
theorem dX1_mark_19 : decode cX1_mark 19 = .ok (.putfield 277, 3) := dk_181 1 21 (dk_at dksX1_mark_0 19 rfl rfl)
theorem dX1_mark_22 : decode cX1_mark 22 = .ok (.aload_n 3, 1) := dk_45 (dk_at dksX1_mark_0 22 rfl rfl)
theorem dX1_mark_23 : decode cX1_mark 23 = .ok (.invokevirtual 280, 3) := dk_182 1 24 (dk_at dksX1_mark_1 0 rfl rfl)
theorem dX1_mark_26 : decode cX1_mark 26 = .ok (.ireturn, 1) := dk_172 (dk_at dksX1_mark_1 3 rfl rfl)
abbrev cX1_clearMarks : ByteArray := prog_1_method_38_code
def yX1_clearMarks : MethodName := ⟨RX1, "clearMarks", "(I)I"⟩
def dkwX1_clearMarks_0 : List UInt8 := [42, 27, 182, 0, 210, 77, 44, 180, 1, 21, 62, 44, 3, 181, 1, 21, 29, 172]
abbrev dktX1_clearMarks_0 : List UInt8 := dkwX1_clearMarks_0 ++ []
theorem dksX1_clearMarks_0 : cX1_clearMarks.data.toList.drop 0 = dktX1_clearMarks_0 := by decide +kernel
theorem dX1_clearMarks_0 : decode cX1_clearMarks 0 = .ok (.aload_n 0, 1) := dk_42 (dk_at dksX1_clearMarks_0 0 rfl rfl)
theorem dX1_clearMarks_1 : decode cX1_clearMarks 1 = .ok (.iload_n 1, 1) := dk_27 (dk_at dksX1_clearMarks_0 1 rfl rfl)
theorem dX1_clearMarks_2 : decode cX1_clearMarks 2 = .ok (.invokevirtual 210, 3) := dk_182 0 210 (dk_at dksX1_clearMarks_0 2 rfl rfl)
theorem dX1_clearMarks_5 : decode cX1_clearMarks 5 = .ok (.astore_n 2, 1) := dk_77 (dk_at dksX1_clearMarks_0 5 rfl rfl)
theorem dX1_clearMarks_6 : decode cX1_clearMarks 6 = .ok (.aload_n 2, 1) := dk_44 (dk_at dksX1_clearMarks_0 6 rfl rfl)
theorem dX1_clearMarks_7 : decode cX1_clearMarks 7 = .ok (.getfield 277, 3) := dk_180 1 21 (dk_at dksX1_clearMarks_0 7 rfl rfl)
theorem dX1_clearMarks_10 : decode cX1_clearMarks 10 = .ok (.istore_n 3, 1) := dk_62 (dk_at dksX1_clearMarks_0 10 rfl rfl)
theorem dX1_clearMarks_11 : decode cX1_clearMarks 11 = .ok (.aload_n 2, 1) := dk_44 (dk_at dksX1_clearMarks_0 11 rfl rfl)
theorem dX1_clearMarks_12 : decode cX1_clearMarks 12 = .ok (.iconst 0, 1) := dk_3 (dk_at dksX1_clearMarks_0 12 rfl rfl)
theorem dX1_clearMarks_13 : decode cX1_clearMarks 13 = .ok (.putfield 277, 3) := dk_181 1 21 (dk_at dksX1_clearMarks_0 13 rfl rfl)
theorem dX1_clearMarks_16 : decode cX1_clearMarks 16 = .ok (.iload_n 3, 1) := dk_29 (dk_at dksX1_clearMarks_0 16 rfl rfl)
theorem dX1_clearMarks_17 : decode cX1_clearMarks 17 = .ok (.ireturn, 1) := dk_172 (dk_at dksX1_clearMarks_0 17 rfl rfl)
abbrev cX1_doubtOf : ByteArray := prog_1_method_39_code
def yX1_doubtOf : MethodName := ⟨RX1, "doubtOf", "(I)I"⟩
def dkwX1_doubtOf_0 : List UInt8 := [42, 27, 182, 0, 210, 182, 1, 24, 172]
abbrev dktX1_doubtOf_0 : List UInt8 := dkwX1_doubtOf_0 ++ []
theorem dksX1_doubtOf_0 : cX1_doubtOf.data.toList.drop 0 = dktX1_doubtOf_0 := by decide +kernel
theorem dX1_doubtOf_0 : decode cX1_doubtOf 0 = .ok (.aload_n 0, 1) := dk_42 (dk_at dksX1_doubtOf_0 0 rfl rfl)
theorem dX1_doubtOf_1 : decode cX1_doubtOf 1 = .ok (.iload_n 1, 1) := dk_27 (dk_at dksX1_doubtOf_0 1 rfl rfl)
theorem dX1_doubtOf_2 : decode cX1_doubtOf 2 = .ok (.invokevirtual 210, 3) := dk_182 0 210 (dk_at dksX1_doubtOf_0 2 rfl rfl)
theorem dX1_doubtOf_5 : decode cX1_doubtOf 5 = .ok (.invokevirtual 280, 3) := dk_182 1 24 (dk_at dksX1_doubtOf_0 5 rfl rfl)
theorem dX1_doubtOf_8 : decode cX1_doubtOf 8 = .ok (.ireturn, 1) := dk_172 (dk_at dksX1_doubtOf_0 8 rfl rfl)
abbrev cX1_setWeapon : ByteArray := prog_1_method_40_code
def yX1_setWeapon : MethodName := ⟨RX1, "setWeapon", "(II)I"⟩
def dkwX1_setWeapon_1 : List UInt8 := [180, 0, 69, 27, 28, 79, 29, 172]
abbrev dktX1_setWeapon_1 : List UInt8 := dkwX1_setWeapon_1 ++ []
def dkwX1_setWeapon_0 : List UInt8 := [27, 3, 7, 184, 0, 162, 87, 28, 3, 17, 117, 48, 184, 0, 162, 87, 42, 180, 0, 69, 27, 46, 62, 42]
abbrev dktX1_setWeapon_0 : List UInt8 := dkwX1_setWeapon_0 ++ dktX1_setWeapon_1
theorem dksX1_setWeapon_0 : cX1_setWeapon.data.toList.drop 0 = dktX1_setWeapon_0 := by decide +kernel
theorem dksX1_setWeapon_1 : cX1_setWeapon.data.toList.drop 24 = dktX1_setWeapon_1 := dk_seg dksX1_setWeapon_0 24 rfl rfl
theorem dX1_setWeapon_0 : decode cX1_setWeapon 0 = .ok (.iload_n 1, 1) := dk_27 (dk_at dksX1_setWeapon_0 0 rfl rfl)
theorem dX1_setWeapon_1 : decode cX1_setWeapon 1 = .ok (.iconst 0, 1) := dk_3 (dk_at dksX1_setWeapon_0 1 rfl rfl)
theorem dX1_setWeapon_2 : decode cX1_setWeapon 2 = .ok (.iconst 4, 1) := dk_7 (dk_at dksX1_setWeapon_0 2 rfl rfl)
theorem dX1_setWeapon_3 : decode cX1_setWeapon 3 = .ok (.invokestatic 162, 3) := dk_184 0 162 (dk_at dksX1_setWeapon_0 3 rfl rfl)
theorem dX1_setWeapon_6 : decode cX1_setWeapon 6 = .ok (.pop, 1) := dk_87 (dk_at dksX1_setWeapon_0 6 rfl rfl)
theorem dX1_setWeapon_7 : decode cX1_setWeapon 7 = .ok (.iload_n 2, 1) := dk_28 (dk_at dksX1_setWeapon_0 7 rfl rfl)
theorem dX1_setWeapon_8 : decode cX1_setWeapon 8 = .ok (.iconst 0, 1) := dk_3 (dk_at dksX1_setWeapon_0 8 rfl rfl)
theorem dX1_setWeapon_9 : decode cX1_setWeapon 9 = .ok (.sipush 30000, 3) := dk_17 117 48 (dk_at dksX1_setWeapon_0 9 rfl rfl)
theorem dX1_setWeapon_12 : decode cX1_setWeapon 12 = .ok (.invokestatic 162, 3) := dk_184 0 162 (dk_at dksX1_setWeapon_0 12 rfl rfl)
theorem dX1_setWeapon_15 : decode cX1_setWeapon 15 = .ok (.pop, 1) := dk_87 (dk_at dksX1_setWeapon_0 15 rfl rfl)
theorem dX1_setWeapon_16 : decode cX1_setWeapon 16 = .ok (.aload_n 0, 1) := dk_42 (dk_at dksX1_setWeapon_0 16 rfl rfl)
theorem dX1_setWeapon_17 : decode cX1_setWeapon 17 = .ok (.getfield 69, 3) := dk_180 0 69 (dk_at dksX1_setWeapon_0 17 rfl rfl)
theorem dX1_setWeapon_20 : decode cX1_setWeapon 20 = .ok (.iload_n 1, 1) := dk_27 (dk_at dksX1_setWeapon_0 20 rfl rfl)
theorem dX1_setWeapon_21 : decode cX1_setWeapon 21 = .ok (.iaload, 1) := dk_46 (dk_at dksX1_setWeapon_0 21 rfl rfl)
theorem dX1_setWeapon_22 : decode cX1_setWeapon 22 = .ok (.istore_n 3, 1) := dk_62 (dk_at dksX1_setWeapon_0 22 rfl rfl)
theorem dX1_setWeapon_23 : decode cX1_setWeapon 23 = .ok (.aload_n 0, 1) := dk_42 (dk_at dksX1_setWeapon_0 23 rfl rfl)
theorem dX1_setWeapon_24 : decode cX1_setWeapon 24 = .ok (.getfield 69, 3) := dk_180 0 69 (dk_at dksX1_setWeapon_1 0 rfl rfl)
theorem dX1_setWeapon_27 : decode cX1_setWeapon 27 = .ok (.iload_n 1, 1) := dk_27 (dk_at dksX1_setWeapon_1 3 rfl rfl)
theorem dX1_setWeapon_28 : decode cX1_setWeapon 28 = .ok (.iload_n 2, 1) := dk_28 (dk_at dksX1_setWeapon_1 4 rfl rfl)
theorem dX1_setWeapon_29 : decode cX1_setWeapon 29 = .ok (.iastore, 1) := dk_79 (dk_at dksX1_setWeapon_1 5 rfl rfl)
theorem dX1_setWeapon_30 : decode cX1_setWeapon 30 = .ok (.iload_n 3, 1) := dk_29 (dk_at dksX1_setWeapon_1 6 rfl rfl)
theorem dX1_setWeapon_31 : decode cX1_setWeapon 31 = .ok (.ireturn, 1) := dk_172 (dk_at dksX1_setWeapon_1 7 rfl rfl)
abbrev cX1_setAnimal : ByteArray := prog_1_method_41_code
def yX1_setAnimal : MethodName := ⟨RX1, "setAnimal", "(II)I"⟩
def dkwX1_setAnimal_1 : List UInt8 := [180, 0, 72, 27, 28, 79, 29, 172]
abbrev dktX1_setAnimal_1 : List UInt8 := dkwX1_setAnimal_1 ++ []
def dkwX1_setAnimal_0 : List UInt8 := [27, 3, 7, 184, 0, 162, 87, 28, 3, 17, 117, 48, 184, 0, 162, 87, 42, 180, 0, 72, 27, 46, 62, 42]
abbrev dktX1_setAnimal_0 : List UInt8 := dkwX1_setAnimal_0 ++ dktX1_setAnimal_1
theorem dksX1_setAnimal_0 : cX1_setAnimal.data.toList.drop 0 = dktX1_setAnimal_0 := by decide +kernel
theorem dksX1_setAnimal_1 : cX1_setAnimal.data.toList.drop 24 = dktX1_setAnimal_1 := dk_seg dksX1_setAnimal_0 24 rfl rfl
theorem dX1_setAnimal_0 : decode cX1_setAnimal 0 = .ok (.iload_n 1, 1) := dk_27 (dk_at dksX1_setAnimal_0 0 rfl rfl)
theorem dX1_setAnimal_1 : decode cX1_setAnimal 1 = .ok (.iconst 0, 1) := dk_3 (dk_at dksX1_setAnimal_0 1 rfl rfl)
theorem dX1_setAnimal_2 : decode cX1_setAnimal 2 = .ok (.iconst 4, 1) := dk_7 (dk_at dksX1_setAnimal_0 2 rfl rfl)
theorem dX1_setAnimal_3 : decode cX1_setAnimal 3 = .ok (.invokestatic 162, 3) := dk_184 0 162 (dk_at dksX1_setAnimal_0 3 rfl rfl)
theorem dX1_setAnimal_6 : decode cX1_setAnimal 6 = .ok (.pop, 1) := dk_87 (dk_at dksX1_setAnimal_0 6 rfl rfl)
theorem dX1_setAnimal_7 : decode cX1_setAnimal 7 = .ok (.iload_n 2, 1) := dk_28 (dk_at dksX1_setAnimal_0 7 rfl rfl)
theorem dX1_setAnimal_8 : decode cX1_setAnimal 8 = .ok (.iconst 0, 1) := dk_3 (dk_at dksX1_setAnimal_0 8 rfl rfl)
theorem dX1_setAnimal_9 : decode cX1_setAnimal 9 = .ok (.sipush 30000, 3) := dk_17 117 48 (dk_at dksX1_setAnimal_0 9 rfl rfl)
theorem dX1_setAnimal_12 : decode cX1_setAnimal 12 = .ok (.invokestatic 162, 3) := dk_184 0 162 (dk_at dksX1_setAnimal_0 12 rfl rfl)
theorem dX1_setAnimal_15 : decode cX1_setAnimal 15 = .ok (.pop, 1) := dk_87 (dk_at dksX1_setAnimal_0 15 rfl rfl)
theorem dX1_setAnimal_16 : decode cX1_setAnimal 16 = .ok (.aload_n 0, 1) := dk_42 (dk_at dksX1_setAnimal_0 16 rfl rfl)
theorem dX1_setAnimal_17 : decode cX1_setAnimal 17 = .ok (.getfield 72, 3) := dk_180 0 72 (dk_at dksX1_setAnimal_0 17 rfl rfl)
theorem dX1_setAnimal_20 : decode cX1_setAnimal 20 = .ok (.iload_n 1, 1) := dk_27 (dk_at dksX1_setAnimal_0 20 rfl rfl)
theorem dX1_setAnimal_21 : decode cX1_setAnimal 21 = .ok (.iaload, 1) := dk_46 (dk_at dksX1_setAnimal_0 21 rfl rfl)
theorem dX1_setAnimal_22 : decode cX1_setAnimal 22 = .ok (.istore_n 3, 1) := dk_62 (dk_at dksX1_setAnimal_0 22 rfl rfl)
theorem dX1_setAnimal_23 : decode cX1_setAnimal 23 = .ok (.aload_n 0, 1) := dk_42 (dk_at dksX1_setAnimal_0 23 rfl rfl)
theorem dX1_setAnimal_24 : decode cX1_setAnimal 24 = .ok (.getfield 72, 3) := dk_180 0 72 (dk_at dksX1_setAnimal_1 0 rfl rfl)
theorem dX1_setAnimal_27 : decode cX1_setAnimal 27 = .ok (.iload_n 1, 1) := dk_27 (dk_at dksX1_setAnimal_1 3 rfl rfl)
theorem dX1_setAnimal_28 : decode cX1_setAnimal 28 = .ok (.iload_n 2, 1) := dk_28 (dk_at dksX1_setAnimal_1 4 rfl rfl)
theorem dX1_setAnimal_29 : decode cX1_setAnimal 29 = .ok (.iastore, 1) := dk_79 (dk_at dksX1_setAnimal_1 5 rfl rfl)
theorem dX1_setAnimal_30 : decode cX1_setAnimal 30 = .ok (.iload_n 3, 1) := dk_29 (dk_at dksX1_setAnimal_1 6 rfl rfl)
theorem dX1_setAnimal_31 : decode cX1_setAnimal 31 = .ok (.ireturn, 1) := dk_172 (dk_at dksX1_setAnimal_1 7 rfl rfl)
abbrev cX1_findOver : ByteArray := prog_1_method_44_code
def yX1_findOver : MethodName := ⟨RX1, "findOver", "(III)I"⟩
def dkwX1_findOver_4 : List UInt8 := [183, 1, 67, 182, 1, 70, 172]
abbrev dktX1_findOver_4 : List UInt8 := dkwX1_findOver_4 ++ []
def dkwX1_findOver_3 : List UInt8 := [162, 0, 7, 4, 167, 0, 4, 3, 184, 0, 166, 42, 187, 0, 158, 89, 42, 3, 25, 4, 25, 5, 3, 29]
abbrev dktX1_findOver_3 : List UInt8 := dkwX1_findOver_3 ++ dktX1_findOver_4
def dkwX1_findOver_2 : List UInt8 := [184, 0, 200, 42, 180, 1, 60, 16, 90, 162, 0, 22, 42, 25, 4, 180, 0, 31, 3, 182, 1, 63, 16, 12]
abbrev dktX1_findOver_2 : List UInt8 := dkwX1_findOver_2 ++ dktX1_findOver_3
def dkwX1_findOver_1 : List UInt8 := [25, 5, 165, 0, 20, 25, 4, 180, 0, 31, 25, 5, 180, 0, 31, 166, 0, 7, 4, 167, 0, 4, 3]
abbrev dktX1_findOver_1 : List UInt8 := dkwX1_findOver_1 ++ dktX1_findOver_2
def dkwX1_findOver_0 : List UInt8 := [42, 27, 182, 0, 210, 58, 4, 42, 28, 182, 0, 210, 58, 5, 29, 4, 16, 9, 184, 0, 162, 87, 25, 4]
abbrev dktX1_findOver_0 : List UInt8 := dkwX1_findOver_0 ++ dktX1_findOver_1
theorem dksX1_findOver_0 : cX1_findOver.data.toList.drop 0 = dktX1_findOver_0 := by decide +kernel
theorem dksX1_findOver_1 : cX1_findOver.data.toList.drop 24 = dktX1_findOver_1 := dk_seg dksX1_findOver_0 24 rfl rfl
theorem dksX1_findOver_2 : cX1_findOver.data.toList.drop 47 = dktX1_findOver_2 := dk_seg dksX1_findOver_1 23 rfl rfl
theorem dksX1_findOver_3 : cX1_findOver.data.toList.drop 71 = dktX1_findOver_3 := dk_seg dksX1_findOver_2 24 rfl rfl
theorem dksX1_findOver_4 : cX1_findOver.data.toList.drop 95 = dktX1_findOver_4 := dk_seg dksX1_findOver_3 24 rfl rfl
theorem dX1_findOver_0 : decode cX1_findOver 0 = .ok (.aload_n 0, 1) := dk_42 (dk_at dksX1_findOver_0 0 rfl rfl)
theorem dX1_findOver_1 : decode cX1_findOver 1 = .ok (.iload_n 1, 1) := dk_27 (dk_at dksX1_findOver_0 1 rfl rfl)
theorem dX1_findOver_2 : decode cX1_findOver 2 = .ok (.invokevirtual 210, 3) := dk_182 0 210 (dk_at dksX1_findOver_0 2 rfl rfl)
theorem dX1_findOver_5 : decode cX1_findOver 5 = .ok (.astore 4, 2) := dk_58 4 (dk_at dksX1_findOver_0 5 rfl rfl)
theorem dX1_findOver_7 : decode cX1_findOver 7 = .ok (.aload_n 0, 1) := dk_42 (dk_at dksX1_findOver_0 7 rfl rfl)
theorem dX1_findOver_8 : decode cX1_findOver 8 = .ok (.iload_n 2, 1) := dk_28 (dk_at dksX1_findOver_0 8 rfl rfl)
theorem dX1_findOver_9 : decode cX1_findOver 9 = .ok (.invokevirtual 210, 3) := dk_182 0 210 (dk_at dksX1_findOver_0 9 rfl rfl)
theorem dX1_findOver_12 : decode cX1_findOver 12 = .ok (.astore 5, 2) := dk_58 5 (dk_at dksX1_findOver_0 12 rfl rfl)
theorem dX1_findOver_14 : decode cX1_findOver 14 = .ok (.iload_n 3, 1) := dk_29 (dk_at dksX1_findOver_0 14 rfl rfl)
theorem dX1_findOver_15 : decode cX1_findOver 15 = .ok (.iconst 1, 1) := dk_4 (dk_at dksX1_findOver_0 15 rfl rfl)
theorem dX1_findOver_16 : decode cX1_findOver 16 = .ok (.bipush 9, 2) := dk_16 9 (dk_at dksX1_findOver_0 16 rfl rfl)
theorem dX1_findOver_18 : decode cX1_findOver 18 = .ok (.invokestatic 162, 3) := dk_184 0 162 (dk_at dksX1_findOver_0 18 rfl rfl)
theorem dX1_findOver_21 : decode cX1_findOver 21 = .ok (.pop, 1) := dk_87 (dk_at dksX1_findOver_0 21 rfl rfl)
theorem dX1_findOver_22 : decode cX1_findOver 22 = .ok (.aload 4, 2) := dk_25 4 (dk_at dksX1_findOver_0 22 rfl rfl)
theorem dX1_findOver_24 : decode cX1_findOver 24 = .ok (.aload 5, 2) := dk_25 5 (dk_at dksX1_findOver_1 0 rfl rfl)
theorem dX1_findOver_26 : decode cX1_findOver 26 = .ok (.if_acmp .eq 20, 3) := dk_165 0 20 (dk_at dksX1_findOver_1 2 rfl rfl)
theorem dX1_findOver_29 : decode cX1_findOver 29 = .ok (.aload 4, 2) := dk_25 4 (dk_at dksX1_findOver_1 5 rfl rfl)
theorem dX1_findOver_31 : decode cX1_findOver 31 = .ok (.getfield 31, 3) := dk_180 0 31 (dk_at dksX1_findOver_1 7 rfl rfl)
theorem dX1_findOver_34 : decode cX1_findOver 34 = .ok (.aload 5, 2) := dk_25 5 (dk_at dksX1_findOver_1 10 rfl rfl)
theorem dX1_findOver_36 : decode cX1_findOver 36 = .ok (.getfield 31, 3) := dk_180 0 31 (dk_at dksX1_findOver_1 12 rfl rfl)
theorem dX1_findOver_39 : decode cX1_findOver 39 = .ok (.if_acmp .ne 7, 3) := dk_166 0 7 (dk_at dksX1_findOver_1 15 rfl rfl)
theorem dX1_findOver_42 : decode cX1_findOver 42 = .ok (.iconst 1, 1) := dk_4 (dk_at dksX1_findOver_1 18 rfl rfl)
theorem dX1_findOver_43 : decode cX1_findOver 43 = .ok (.goto 4, 3) := dk_167 0 4 (dk_at dksX1_findOver_1 19 rfl rfl)
theorem dX1_findOver_46 : decode cX1_findOver 46 = .ok (.iconst 0, 1) := dk_3 (dk_at dksX1_findOver_1 22 rfl rfl)
theorem dX1_findOver_47 : decode cX1_findOver 47 = .ok (.invokestatic 200, 3) := dk_184 0 200 (dk_at dksX1_findOver_2 0 rfl rfl)
theorem dX1_findOver_50 : decode cX1_findOver 50 = .ok (.aload_n 0, 1) := dk_42 (dk_at dksX1_findOver_2 3 rfl rfl)
theorem dX1_findOver_51 : decode cX1_findOver 51 = .ok (.getfield 316, 3) := dk_180 1 60 (dk_at dksX1_findOver_2 4 rfl rfl)
theorem dX1_findOver_54 : decode cX1_findOver 54 = .ok (.bipush 90, 2) := dk_16 90 (dk_at dksX1_findOver_2 7 rfl rfl)
theorem dX1_findOver_56 : decode cX1_findOver 56 = .ok (.if_icmp .ge 22, 3) := dk_162 0 22 (dk_at dksX1_findOver_2 9 rfl rfl)
theorem dX1_findOver_59 : decode cX1_findOver 59 = .ok (.aload_n 0, 1) := dk_42 (dk_at dksX1_findOver_2 12 rfl rfl)
theorem dX1_findOver_60 : decode cX1_findOver 60 = .ok (.aload 4, 2) := dk_25 4 (dk_at dksX1_findOver_2 13 rfl rfl)
theorem dX1_findOver_62 : decode cX1_findOver 62 = .ok (.getfield 31, 3) := dk_180 0 31 (dk_at dksX1_findOver_2 15 rfl rfl)
theorem dX1_findOver_65 : decode cX1_findOver 65 = .ok (.iconst 0, 1) := dk_3 (dk_at dksX1_findOver_2 18 rfl rfl)
theorem dX1_findOver_66 : decode cX1_findOver 66 = .ok (.invokevirtual 319, 3) := dk_182 1 63 (dk_at dksX1_findOver_2 19 rfl rfl)
theorem dX1_findOver_69 : decode cX1_findOver 69 = .ok (.bipush 12, 2) := dk_16 12 (dk_at dksX1_findOver_2 22 rfl rfl)
theorem dX1_findOver_71 : decode cX1_findOver 71 = .ok (.if_icmp .ge 7, 3) := dk_162 0 7 (dk_at dksX1_findOver_3 0 rfl rfl)
theorem dX1_findOver_74 : decode cX1_findOver 74 = .ok (.iconst 1, 1) := dk_4 (dk_at dksX1_findOver_3 3 rfl rfl)
theorem dX1_findOver_75 : decode cX1_findOver 75 = .ok (.goto 4, 3) := dk_167 0 4 (dk_at dksX1_findOver_3 4 rfl rfl)
theorem dX1_findOver_78 : decode cX1_findOver 78 = .ok (.iconst 0, 1) := dk_3 (dk_at dksX1_findOver_3 7 rfl rfl)
theorem dX1_findOver_79 : decode cX1_findOver 79 = .ok (.invokestatic 166, 3) := dk_184 0 166 (dk_at dksX1_findOver_3 8 rfl rfl)
theorem dX1_findOver_82 : decode cX1_findOver 82 = .ok (.aload_n 0, 1) := dk_42 (dk_at dksX1_findOver_3 11 rfl rfl)
theorem dX1_findOver_83 : decode cX1_findOver 83 = .ok (.new 158, 3) := dk_187 0 158 (dk_at dksX1_findOver_3 12 rfl rfl)
theorem dX1_findOver_86 : decode cX1_findOver 86 = .ok (.dup, 1) := dk_89 (dk_at dksX1_findOver_3 15 rfl rfl)
theorem dX1_findOver_87 : decode cX1_findOver 87 = .ok (.aload_n 0, 1) := dk_42 (dk_at dksX1_findOver_3 16 rfl rfl)
theorem dX1_findOver_88 : decode cX1_findOver 88 = .ok (.iconst 0, 1) := dk_3 (dk_at dksX1_findOver_3 17 rfl rfl)
theorem dX1_findOver_89 : decode cX1_findOver 89 = .ok (.aload 4, 2) := dk_25 4 (dk_at dksX1_findOver_3 18 rfl rfl)
theorem dX1_findOver_91 : decode cX1_findOver 91 = .ok (.aload 5, 2) := dk_25 5 (dk_at dksX1_findOver_3 20 rfl rfl)
theorem dX1_findOver_93 : decode cX1_findOver 93 = .ok (.iconst 0, 1) := dk_3 (dk_at dksX1_findOver_3 22 rfl rfl)
theorem dX1_findOver_94 : decode cX1_findOver 94 = .ok (.iload_n 3, 1) := dk_29 (dk_at dksX1_findOver_3 23 rfl rfl)
theorem dX1_findOver_95 : decode cX1_findOver 95 = .ok (.invokespecial 323, 3) := dk_183 1 67 (dk_at dksX1_findOver_4 0 rfl rfl)
theorem dX1_findOver_98 : decode cX1_findOver 98 = .ok (.invokevirtual 326, 3) := dk_182 1 70 (dk_at dksX1_findOver_4 3 rfl rfl)
theorem dX1_findOver_101 : decode cX1_findOver 101 = .ok (.ireturn, 1) := dk_172 (dk_at dksX1_findOver_4 6 rfl rfl)
abbrev cX1_findingsOf : ByteArray := prog_1_method_42_code
def yX1_findingsOf : MethodName := ⟨RX1, "findingsOf", "(LFigureSurvey$Panel;I)I"⟩
def dkwX1_findingsOf_2 : List UInt8 := [25, 5, 180, 1, 50, 5, 184, 0, 24, 28, 160, 0, 6, 132, 3, 1, 167, 255, 209, 29, 172]
abbrev dktX1_findingsOf_2 : List UInt8 := dkwX1_findingsOf_2 ++ []
def dkwX1_findingsOf_1 : List UInt8 := [153, 0, 43, 25, 4, 185, 1, 43, 1, 0, 192, 0, 158, 58, 5, 25, 5, 43, 182, 1, 47, 153, 0, 19]
abbrev dktX1_findingsOf_1 : List UInt8 := dkwX1_findingsOf_1 ++ dktX1_findingsOf_2
def dkwX1_findingsOf_0 : List UInt8 := [3, 62, 42, 180, 0, 65, 182, 1, 27, 185, 1, 31, 1, 0, 58, 4, 25, 4, 185, 1, 37, 1, 0]
abbrev dktX1_findingsOf_0 : List UInt8 := dkwX1_findingsOf_0 ++ dktX1_findingsOf_1
theorem dksX1_findingsOf_0 : cX1_findingsOf.data.toList.drop 0 = dktX1_findingsOf_0 := by decide +kernel
theorem dksX1_findingsOf_1 : cX1_findingsOf.data.toList.drop 23 = dktX1_findingsOf_1 := dk_seg dksX1_findingsOf_0 23 rfl rfl
theorem dksX1_findingsOf_2 : cX1_findingsOf.data.toList.drop 47 = dktX1_findingsOf_2 := dk_seg dksX1_findingsOf_1 24 rfl rfl
theorem dX1_findingsOf_0 : decode cX1_findingsOf 0 = .ok (.iconst 0, 1) := dk_3 (dk_at dksX1_findingsOf_0 0 rfl rfl)
theorem dX1_findingsOf_1 : decode cX1_findingsOf 1 = .ok (.istore_n 3, 1) := dk_62 (dk_at dksX1_findingsOf_0 1 rfl rfl)
theorem dX1_findingsOf_2 : decode cX1_findingsOf 2 = .ok (.aload_n 0, 1) := dk_42 (dk_at dksX1_findingsOf_0 2 rfl rfl)
theorem dX1_findingsOf_3 : decode cX1_findingsOf 3 = .ok (.getfield 65, 3) := dk_180 0 65 (dk_at dksX1_findingsOf_0 3 rfl rfl)
theorem dX1_findingsOf_6 : decode cX1_findingsOf 6 = .ok (.invokevirtual 283, 3) := dk_182 1 27 (dk_at dksX1_findingsOf_0 6 rfl rfl)
theorem dX1_findingsOf_9 : decode cX1_findingsOf 9 = .ok (.invokeinterface 287 1, 5) := by decide +kernel
theorem dX1_findingsOf_14 : decode cX1_findingsOf 14 = .ok (.astore 4, 2) := dk_58 4 (dk_at dksX1_findingsOf_0 14 rfl rfl)
theorem dX1_findingsOf_16 : decode cX1_findingsOf 16 = .ok (.aload 4, 2) := dk_25 4 (dk_at dksX1_findingsOf_0 16 rfl rfl)
theorem dX1_findingsOf_18 : decode cX1_findingsOf 18 = .ok (.invokeinterface 293 1, 5) := by decide +kernel
theorem dX1_findingsOf_23 : decode cX1_findingsOf 23 = .ok (.ifCond .eq 43, 3) := dk_153 0 43 (dk_at dksX1_findingsOf_1 0 rfl rfl)
theorem dX1_findingsOf_26 : decode cX1_findingsOf 26 = .ok (.aload 4, 2) := dk_25 4 (dk_at dksX1_findingsOf_1 3 rfl rfl)
theorem dX1_findingsOf_28 : decode cX1_findingsOf 28 = .ok (.invokeinterface 299 1, 5) := by decide +kernel
theorem dX1_findingsOf_33 : decode cX1_findingsOf 33 = .ok (.checkcast 158, 3) := dk_192 0 158 (dk_at dksX1_findingsOf_1 10 rfl rfl)
theorem dX1_findingsOf_36 : decode cX1_findingsOf 36 = .ok (.astore 5, 2) := dk_58 5 (dk_at dksX1_findingsOf_1 13 rfl rfl)
theorem dX1_findingsOf_38 : decode cX1_findingsOf 38 = .ok (.aload 5, 2) := dk_25 5 (dk_at dksX1_findingsOf_1 15 rfl rfl)
theorem dX1_findingsOf_40 : decode cX1_findingsOf 40 = .ok (.aload_n 1, 1) := dk_43 (dk_at dksX1_findingsOf_1 17 rfl rfl)
theorem dX1_findingsOf_41 : decode cX1_findingsOf 41 = .ok (.invokevirtual 303, 3) := dk_182 1 47 (dk_at dksX1_findingsOf_1 18 rfl rfl)
theorem dX1_findingsOf_44 : decode cX1_findingsOf 44 = .ok (.ifCond .eq 19, 3) := dk_153 0 19 (dk_at dksX1_findingsOf_1 21 rfl rfl)
theorem dX1_findingsOf_47 : decode cX1_findingsOf 47 = .ok (.aload 5, 2) := dk_25 5 (dk_at dksX1_findingsOf_2 0 rfl rfl)
theorem dX1_findingsOf_49 : decode cX1_findingsOf 49 = .ok (.getfield 306, 3) := dk_180 1 50 (dk_at dksX1_findingsOf_2 2 rfl rfl)
theorem dX1_findingsOf_52 : decode cX1_findingsOf 52 = .ok (.iconst 2, 1) := dk_5 (dk_at dksX1_findingsOf_2 5 rfl rfl)
theorem dX1_findingsOf_53 : decode cX1_findingsOf 53 = .ok (.invokestatic 24, 3) := dk_184 0 24 (dk_at dksX1_findingsOf_2 6 rfl rfl)
theorem dX1_findingsOf_56 : decode cX1_findingsOf 56 = .ok (.iload_n 2, 1) := dk_28 (dk_at dksX1_findingsOf_2 9 rfl rfl)
theorem dX1_findingsOf_57 : decode cX1_findingsOf 57 = .ok (.if_icmp .ne 6, 3) := dk_160 0 6 (dk_at dksX1_findingsOf_2 10 rfl rfl)
theorem dX1_findingsOf_60 : decode cX1_findingsOf 60 = .ok (.iinc 3 1, 3) := dk_132 3 1 (dk_at dksX1_findingsOf_2 13 rfl rfl)
theorem dX1_findingsOf_63 : decode cX1_findingsOf 63 = .ok (.goto (-47), 3) := dk_167 255 209 (dk_at dksX1_findingsOf_2 16 rfl rfl)
theorem dX1_findingsOf_66 : decode cX1_findingsOf 66 = .ok (.iload_n 3, 1) := dk_29 (dk_at dksX1_findingsOf_2 19 rfl rfl)
theorem dX1_findingsOf_67 : decode cX1_findingsOf 67 = .ok (.ireturn, 1) := dk_172 (dk_at dksX1_findingsOf_2 20 rfl rfl)
abbrev cX1_tell : ByteArray := prog_1_method_43_code
def yX1_tell : MethodName := ⟨RX1, "tell", "(LFigureSurvey$Finding;)I"⟩
def dkwX1_tell_1 : List UInt8 := [90, 4, 96, 181, 1, 60, 172]
abbrev dktX1_tell_1 : List UInt8 := dkwX1_tell_1 ++ []
def dkwX1_tell_0 : List UInt8 := [42, 180, 0, 65, 43, 180, 1, 53, 184, 0, 149, 43, 182, 1, 56, 192, 0, 158, 77, 42, 89, 180, 1, 60]
abbrev dktX1_tell_0 : List UInt8 := dkwX1_tell_0 ++ dktX1_tell_1
theorem dksX1_tell_0 : cX1_tell.data.toList.drop 0 = dktX1_tell_0 := by decide +kernel
theorem dksX1_tell_1 : cX1_tell.data.toList.drop 24 = dktX1_tell_1 := dk_seg dksX1_tell_0 24 rfl rfl
theorem dX1_tell_0 : decode cX1_tell 0 = .ok (.aload_n 0, 1) := dk_42 (dk_at dksX1_tell_0 0 rfl rfl)
theorem dX1_tell_1 : decode cX1_tell 1 = .ok (.getfield 65, 3) := dk_180 0 65 (dk_at dksX1_tell_0 1 rfl rfl)
theorem dX1_tell_4 : decode cX1_tell 4 = .ok (.aload_n 1, 1) := dk_43 (dk_at dksX1_tell_0 4 rfl rfl)
theorem dX1_tell_5 : decode cX1_tell 5 = .ok (.getfield 309, 3) := dk_180 1 53 (dk_at dksX1_tell_0 5 rfl rfl)
theorem dX1_tell_8 : decode cX1_tell 8 = .ok (.invokestatic 149, 3) := dk_184 0 149 (dk_at dksX1_tell_0 8 rfl rfl)
theorem dX1_tell_11 : decode cX1_tell 11 = .ok (.aload_n 1, 1) := dk_43 (dk_at dksX1_tell_0 11 rfl rfl)
theorem dX1_tell_12 : decode cX1_tell 12 = .ok (.invokevirtual 312, 3) := dk_182 1 56 (dk_at dksX1_tell_0 12 rfl rfl)
theorem dX1_tell_15 : decode cX1_tell 15 = .ok (.checkcast 158, 3) := dk_192 0 158 (dk_at dksX1_tell_0 15 rfl rfl)
theorem dX1_tell_18 : decode cX1_tell 18 = .ok (.astore_n 2, 1) := dk_77 (dk_at dksX1_tell_0 18 rfl rfl)
theorem dX1_tell_19 : decode cX1_tell 19 = .ok (.aload_n 0, 1) := dk_42 (dk_at dksX1_tell_0 19 rfl rfl)
theorem dX1_tell_20 : decode cX1_tell 20 = .ok (.dup, 1) := dk_89 (dk_at dksX1_tell_0 20 rfl rfl)
theorem dX1_tell_21 : decode cX1_tell 21 = .ok (.getfield 316, 3) := dk_180 1 60 (dk_at dksX1_tell_0 21 rfl rfl)
theorem dX1_tell_24 : decode cX1_tell 24 = .ok (.dup_x1, 1) := dk_90 (dk_at dksX1_tell_1 0 rfl rfl)
theorem dX1_tell_25 : decode cX1_tell 25 = .ok (.iconst 1, 1) := dk_4 (dk_at dksX1_tell_1 1 rfl rfl)
theorem dX1_tell_26 : decode cX1_tell 26 = .ok (.iadd, 1) := dk_96 (dk_at dksX1_tell_1 2 rfl rfl)
theorem dX1_tell_27 : decode cX1_tell 27 = .ok (.putfield 316, 3) := dk_181 1 60 (dk_at dksX1_tell_1 3 rfl rfl)
theorem dX1_tell_30 : decode cX1_tell 30 = .ok (.ireturn, 1) := dk_172 (dk_at dksX1_tell_1 6 rfl rfl)
abbrev cX1_findDate : ByteArray := prog_1_method_45_code
def yX1_findDate : MethodName := ⟨RX1, "findDate", "(IIII)I"⟩
def dkwX1_findDate_4 : List UInt8 := [25, 5, 1, 29, 21, 4, 183, 1, 67, 182, 1, 70, 172]
abbrev dktX1_findDate_4 : List UInt8 := dkwX1_findDate_4 ++ []
def dkwX1_findDate_3 : List UInt8 := [182, 1, 63, 16, 6, 162, 0, 7, 4, 167, 0, 4, 3, 184, 0, 166, 42, 187, 0, 158, 89, 42, 27]
abbrev dktX1_findDate_3 : List UInt8 := dkwX1_findDate_3 ++ dktX1_findDate_4
def dkwX1_findDate_2 : List UInt8 := [184, 0, 162, 87, 42, 180, 1, 60, 16, 90, 162, 0, 26, 42, 25, 5, 180, 0, 31, 27, 5, 184, 0, 24]
abbrev dktX1_findDate_2 : List UInt8 := dkwX1_findDate_2 ++ dktX1_findDate_3
def dkwX1_findDate_1 : List UInt8 := [3, 27, 6, 160, 0, 9, 17, 1, 144, 167, 0, 4, 7, 184, 0, 162, 87, 21, 4, 4, 16, 9]
abbrev dktX1_findDate_1 : List UInt8 := dkwX1_findDate_1 ++ dktX1_findDate_2
def dkwX1_findDate_0 : List UInt8 := [42, 28, 182, 0, 210, 58, 5, 27, 4, 6, 184, 0, 162, 87, 29, 27, 6, 160, 0, 7, 4, 167, 0, 4]
abbrev dktX1_findDate_0 : List UInt8 := dkwX1_findDate_0 ++ dktX1_findDate_1
theorem dksX1_findDate_0 : cX1_findDate.data.toList.drop 0 = dktX1_findDate_0 := by decide +kernel
theorem dksX1_findDate_1 : cX1_findDate.data.toList.drop 24 = dktX1_findDate_1 := dk_seg dksX1_findDate_0 24 rfl rfl
theorem dksX1_findDate_2 : cX1_findDate.data.toList.drop 46 = dktX1_findDate_2 := dk_seg dksX1_findDate_1 22 rfl rfl
theorem dksX1_findDate_3 : cX1_findDate.data.toList.drop 70 = dktX1_findDate_3 := dk_seg dksX1_findDate_2 24 rfl rfl
theorem dksX1_findDate_4 : cX1_findDate.data.toList.drop 93 = dktX1_findDate_4 := dk_seg dksX1_findDate_3 23 rfl rfl
theorem dX1_findDate_0 : decode cX1_findDate 0 = .ok (.aload_n 0, 1) := dk_42 (dk_at dksX1_findDate_0 0 rfl rfl)
theorem dX1_findDate_1 : decode cX1_findDate 1 = .ok (.iload_n 2, 1) := dk_28 (dk_at dksX1_findDate_0 1 rfl rfl)
theorem dX1_findDate_2 : decode cX1_findDate 2 = .ok (.invokevirtual 210, 3) := dk_182 0 210 (dk_at dksX1_findDate_0 2 rfl rfl)
theorem dX1_findDate_5 : decode cX1_findDate 5 = .ok (.astore 5, 2) := dk_58 5 (dk_at dksX1_findDate_0 5 rfl rfl)
theorem dX1_findDate_7 : decode cX1_findDate 7 = .ok (.iload_n 1, 1) := dk_27 (dk_at dksX1_findDate_0 7 rfl rfl)
theorem dX1_findDate_8 : decode cX1_findDate 8 = .ok (.iconst 1, 1) := dk_4 (dk_at dksX1_findDate_0 8 rfl rfl)
theorem dX1_findDate_9 : decode cX1_findDate 9 = .ok (.iconst 3, 1) := dk_6 (dk_at dksX1_findDate_0 9 rfl rfl)
theorem dX1_findDate_10 : decode cX1_findDate 10 = .ok (.invokestatic 162, 3) := dk_184 0 162 (dk_at dksX1_findDate_0 10 rfl rfl)
theorem dX1_findDate_13 : decode cX1_findDate 13 = .ok (.pop, 1) := dk_87 (dk_at dksX1_findDate_0 13 rfl rfl)
theorem dX1_findDate_14 : decode cX1_findDate 14 = .ok (.iload_n 3, 1) := dk_29 (dk_at dksX1_findDate_0 14 rfl rfl)
theorem dX1_findDate_15 : decode cX1_findDate 15 = .ok (.iload_n 1, 1) := dk_27 (dk_at dksX1_findDate_0 15 rfl rfl)
theorem dX1_findDate_16 : decode cX1_findDate 16 = .ok (.iconst 3, 1) := dk_6 (dk_at dksX1_findDate_0 16 rfl rfl)
theorem dX1_findDate_17 : decode cX1_findDate 17 = .ok (.if_icmp .ne 7, 3) := dk_160 0 7 (dk_at dksX1_findDate_0 17 rfl rfl)
theorem dX1_findDate_20 : decode cX1_findDate 20 = .ok (.iconst 1, 1) := dk_4 (dk_at dksX1_findDate_0 20 rfl rfl)
theorem dX1_findDate_21 : decode cX1_findDate 21 = .ok (.goto 4, 3) := dk_167 0 4 (dk_at dksX1_findDate_0 21 rfl rfl)
theorem dX1_findDate_24 : decode cX1_findDate 24 = .ok (.iconst 0, 1) := dk_3 (dk_at dksX1_findDate_1 0 rfl rfl)
theorem dX1_findDate_25 : decode cX1_findDate 25 = .ok (.iload_n 1, 1) := dk_27 (dk_at dksX1_findDate_1 1 rfl rfl)
theorem dX1_findDate_26 : decode cX1_findDate 26 = .ok (.iconst 3, 1) := dk_6 (dk_at dksX1_findDate_1 2 rfl rfl)
theorem dX1_findDate_27 : decode cX1_findDate 27 = .ok (.if_icmp .ne 9, 3) := dk_160 0 9 (dk_at dksX1_findDate_1 3 rfl rfl)
theorem dX1_findDate_30 : decode cX1_findDate 30 = .ok (.sipush 400, 3) := dk_17 1 144 (dk_at dksX1_findDate_1 6 rfl rfl)
theorem dX1_findDate_33 : decode cX1_findDate 33 = .ok (.goto 4, 3) := dk_167 0 4 (dk_at dksX1_findDate_1 9 rfl rfl)
theorem dX1_findDate_36 : decode cX1_findDate 36 = .ok (.iconst 4, 1) := dk_7 (dk_at dksX1_findDate_1 12 rfl rfl)
theorem dX1_findDate_37 : decode cX1_findDate 37 = .ok (.invokestatic 162, 3) := dk_184 0 162 (dk_at dksX1_findDate_1 13 rfl rfl)
theorem dX1_findDate_40 : decode cX1_findDate 40 = .ok (.pop, 1) := dk_87 (dk_at dksX1_findDate_1 16 rfl rfl)
theorem dX1_findDate_41 : decode cX1_findDate 41 = .ok (.iload 4, 2) := dk_21 4 (dk_at dksX1_findDate_1 17 rfl rfl)
theorem dX1_findDate_43 : decode cX1_findDate 43 = .ok (.iconst 1, 1) := dk_4 (dk_at dksX1_findDate_1 19 rfl rfl)
theorem dX1_findDate_44 : decode cX1_findDate 44 = .ok (.bipush 9, 2) := dk_16 9 (dk_at dksX1_findDate_1 20 rfl rfl)
theorem dX1_findDate_46 : decode cX1_findDate 46 = .ok (.invokestatic 162, 3) := dk_184 0 162 (dk_at dksX1_findDate_2 0 rfl rfl)
theorem dX1_findDate_49 : decode cX1_findDate 49 = .ok (.pop, 1) := dk_87 (dk_at dksX1_findDate_2 3 rfl rfl)
theorem dX1_findDate_50 : decode cX1_findDate 50 = .ok (.aload_n 0, 1) := dk_42 (dk_at dksX1_findDate_2 4 rfl rfl)
theorem dX1_findDate_51 : decode cX1_findDate 51 = .ok (.getfield 316, 3) := dk_180 1 60 (dk_at dksX1_findDate_2 5 rfl rfl)
theorem dX1_findDate_54 : decode cX1_findDate 54 = .ok (.bipush 90, 2) := dk_16 90 (dk_at dksX1_findDate_2 8 rfl rfl)
theorem dX1_findDate_56 : decode cX1_findDate 56 = .ok (.if_icmp .ge 26, 3) := dk_162 0 26 (dk_at dksX1_findDate_2 10 rfl rfl)
theorem dX1_findDate_59 : decode cX1_findDate 59 = .ok (.aload_n 0, 1) := dk_42 (dk_at dksX1_findDate_2 13 rfl rfl)
theorem dX1_findDate_60 : decode cX1_findDate 60 = .ok (.aload 5, 2) := dk_25 5 (dk_at dksX1_findDate_2 14 rfl rfl)
theorem dX1_findDate_62 : decode cX1_findDate 62 = .ok (.getfield 31, 3) := dk_180 0 31 (dk_at dksX1_findDate_2 16 rfl rfl)
theorem dX1_findDate_65 : decode cX1_findDate 65 = .ok (.iload_n 1, 1) := dk_27 (dk_at dksX1_findDate_2 19 rfl rfl)
theorem dX1_findDate_66 : decode cX1_findDate 66 = .ok (.iconst 2, 1) := dk_5 (dk_at dksX1_findDate_2 20 rfl rfl)
theorem dX1_findDate_67 : decode cX1_findDate 67 = .ok (.invokestatic 24, 3) := dk_184 0 24 (dk_at dksX1_findDate_2 21 rfl rfl)
theorem dX1_findDate_70 : decode cX1_findDate 70 = .ok (.invokevirtual 319, 3) := dk_182 1 63 (dk_at dksX1_findDate_3 0 rfl rfl)
theorem dX1_findDate_73 : decode cX1_findDate 73 = .ok (.bipush 6, 2) := dk_16 6 (dk_at dksX1_findDate_3 3 rfl rfl)
theorem dX1_findDate_75 : decode cX1_findDate 75 = .ok (.if_icmp .ge 7, 3) := dk_162 0 7 (dk_at dksX1_findDate_3 5 rfl rfl)
theorem dX1_findDate_78 : decode cX1_findDate 78 = .ok (.iconst 1, 1) := dk_4 (dk_at dksX1_findDate_3 8 rfl rfl)
theorem dX1_findDate_79 : decode cX1_findDate 79 = .ok (.goto 4, 3) := dk_167 0 4 (dk_at dksX1_findDate_3 9 rfl rfl)
theorem dX1_findDate_82 : decode cX1_findDate 82 = .ok (.iconst 0, 1) := dk_3 (dk_at dksX1_findDate_3 12 rfl rfl)
theorem dX1_findDate_83 : decode cX1_findDate 83 = .ok (.invokestatic 166, 3) := dk_184 0 166 (dk_at dksX1_findDate_3 13 rfl rfl)
theorem dX1_findDate_86 : decode cX1_findDate 86 = .ok (.aload_n 0, 1) := dk_42 (dk_at dksX1_findDate_3 16 rfl rfl)
theorem dX1_findDate_87 : decode cX1_findDate 87 = .ok (.new 158, 3) := dk_187 0 158 (dk_at dksX1_findDate_3 17 rfl rfl)
theorem dX1_findDate_90 : decode cX1_findDate 90 = .ok (.dup, 1) := dk_89 (dk_at dksX1_findDate_3 20 rfl rfl)
theorem dX1_findDate_91 : decode cX1_findDate 91 = .ok (.aload_n 0, 1) := dk_42 (dk_at dksX1_findDate_3 21 rfl rfl)
theorem dX1_findDate_92 : decode cX1_findDate 92 = .ok (.iload_n 1, 1) := dk_27 (dk_at dksX1_findDate_3 22 rfl rfl)
theorem dX1_findDate_93 : decode cX1_findDate 93 = .ok (.aload 5, 2) := dk_25 5 (dk_at dksX1_findDate_4 0 rfl rfl)
theorem dX1_findDate_95 : decode cX1_findDate 95 = .ok (.aconst_null, 1) := dk_1 (dk_at dksX1_findDate_4 2 rfl rfl)
theorem dX1_findDate_96 : decode cX1_findDate 96 = .ok (.iload_n 3, 1) := dk_29 (dk_at dksX1_findDate_4 3 rfl rfl)
theorem dX1_findDate_97 : decode cX1_findDate 97 = .ok (.iload 4, 2) := dk_21 4 (dk_at dksX1_findDate_4 4 rfl rfl)
theorem dX1_findDate_99 : decode cX1_findDate 99 = .ok (.invokespecial 323, 3) := dk_183 1 67 (dk_at dksX1_findDate_4 6 rfl rfl)
theorem dX1_findDate_102 : decode cX1_findDate 102 = .ok (.invokevirtual 326, 3) := dk_182 1 70 (dk_at dksX1_findDate_4 9 rfl rfl)
theorem dX1_findDate_105 : decode cX1_findDate 105 = .ok (.ireturn, 1) := dk_172 (dk_at dksX1_findDate_4 12 rfl rfl)
abbrev cX1_remove : ByteArray := prog_1_method_46_code
def yX1_remove : MethodName := ⟨RX1, "remove", "(I)I"⟩
def dkwX1_remove_1 : List UInt8 := [180, 1, 80, 172]
abbrev dktX1_remove_1 : List UInt8 := dkwX1_remove_1 ++ []
def dkwX1_remove_0 : List UInt8 := [42, 27, 182, 1, 74, 77, 42, 180, 0, 65, 27, 184, 0, 149, 182, 1, 78, 192, 0, 158, 78, 44]
abbrev dktX1_remove_0 : List UInt8 := dkwX1_remove_0 ++ dktX1_remove_1
theorem dksX1_remove_0 : cX1_remove.data.toList.drop 0 = dktX1_remove_0 := by decide +kernel
theorem dksX1_remove_1 : cX1_remove.data.toList.drop 22 = dktX1_remove_1 := dk_seg dksX1_remove_0 22 rfl rfl
theorem dX1_remove_0 : decode cX1_remove 0 = .ok (.aload_n 0, 1) := dk_42 (dk_at dksX1_remove_0 0 rfl rfl)
theorem dX1_remove_1 : decode cX1_remove 1 = .ok (.iload_n 1, 1) := dk_27 (dk_at dksX1_remove_0 1 rfl rfl)
theorem dX1_remove_2 : decode cX1_remove 2 = .ok (.invokevirtual 330, 3) := dk_182 1 74 (dk_at dksX1_remove_0 2 rfl rfl)
theorem dX1_remove_5 : decode cX1_remove 5 = .ok (.astore_n 2, 1) := dk_77 (dk_at dksX1_remove_0 5 rfl rfl)
theorem dX1_remove_6 : decode cX1_remove 6 = .ok (.aload_n 0, 1) := dk_42 (dk_at dksX1_remove_0 6 rfl rfl)
theorem dX1_remove_7 : decode cX1_remove 7 = .ok (.getfield 65, 3) := dk_180 0 65 (dk_at dksX1_remove_0 7 rfl rfl)
theorem dX1_remove_10 : decode cX1_remove 10 = .ok (.iload_n 1, 1) := dk_27 (dk_at dksX1_remove_0 10 rfl rfl)
theorem dX1_remove_11 : decode cX1_remove 11 = .ok (.invokestatic 149, 3) := dk_184 0 149 (dk_at dksX1_remove_0 11 rfl rfl)
theorem dX1_remove_14 : decode cX1_remove 14 = .ok (.invokevirtual 334, 3) := dk_182 1 78 (dk_at dksX1_remove_0 14 rfl rfl)
theorem dX1_remove_17 : decode cX1_remove 17 = .ok (.checkcast 158, 3) := dk_192 0 158 (dk_at dksX1_remove_0 17 rfl rfl)
theorem dX1_remove_20 : decode cX1_remove 20 = .ok (.astore_n 3, 1) := dk_78 (dk_at dksX1_remove_0 20 rfl rfl)
theorem dX1_remove_21 : decode cX1_remove 21 = .ok (.aload_n 2, 1) := dk_44 (dk_at dksX1_remove_0 21 rfl rfl)
theorem dX1_remove_22 : decode cX1_remove 22 = .ok (.getfield 336, 3) := dk_180 1 80 (dk_at dksX1_remove_1 0 rfl rfl)
theorem dX1_remove_25 : decode cX1_remove 25 = .ok (.ireturn, 1) := dk_172 (dk_at dksX1_remove_1 3 rfl rfl)
abbrev cX1_finding : ByteArray := prog_1_method_18_code
def yX1_finding : MethodName := ⟨RX1, "finding", "(I)LFigureSurvey$Finding;"⟩
def dkwX1_finding_1 : List UInt8 := [199, 0, 13, 187, 0, 128, 89, 18, 160, 183, 0, 132, 191, 44, 176]
abbrev dktX1_finding_1 : List UInt8 := dkwX1_finding_1 ++ []
def dkwX1_finding_0 : List UInt8 := [27, 156, 0, 7, 1, 167, 0, 17, 42, 180, 0, 65, 27, 184, 0, 149, 182, 0, 155, 192, 0, 158, 77, 44]
abbrev dktX1_finding_0 : List UInt8 := dkwX1_finding_0 ++ dktX1_finding_1
theorem dksX1_finding_0 : cX1_finding.data.toList.drop 0 = dktX1_finding_0 := by decide +kernel
theorem dksX1_finding_1 : cX1_finding.data.toList.drop 24 = dktX1_finding_1 := dk_seg dksX1_finding_0 24 rfl rfl
theorem dX1_finding_0 : decode cX1_finding 0 = .ok (.iload_n 1, 1) := dk_27 (dk_at dksX1_finding_0 0 rfl rfl)
theorem dX1_finding_1 : decode cX1_finding 1 = .ok (.ifCond .ge 7, 3) := dk_156 0 7 (dk_at dksX1_finding_0 1 rfl rfl)
theorem dX1_finding_4 : decode cX1_finding 4 = .ok (.aconst_null, 1) := dk_1 (dk_at dksX1_finding_0 4 rfl rfl)
theorem dX1_finding_5 : decode cX1_finding 5 = .ok (.goto 17, 3) := dk_167 0 17 (dk_at dksX1_finding_0 5 rfl rfl)
theorem dX1_finding_8 : decode cX1_finding 8 = .ok (.aload_n 0, 1) := dk_42 (dk_at dksX1_finding_0 8 rfl rfl)
theorem dX1_finding_9 : decode cX1_finding 9 = .ok (.getfield 65, 3) := dk_180 0 65 (dk_at dksX1_finding_0 9 rfl rfl)
theorem dX1_finding_12 : decode cX1_finding 12 = .ok (.iload_n 1, 1) := dk_27 (dk_at dksX1_finding_0 12 rfl rfl)
theorem dX1_finding_13 : decode cX1_finding 13 = .ok (.invokestatic 149, 3) := dk_184 0 149 (dk_at dksX1_finding_0 13 rfl rfl)
theorem dX1_finding_16 : decode cX1_finding 16 = .ok (.invokevirtual 155, 3) := dk_182 0 155 (dk_at dksX1_finding_0 16 rfl rfl)
theorem dX1_finding_19 : decode cX1_finding 19 = .ok (.checkcast 158, 3) := dk_192 0 158 (dk_at dksX1_finding_0 19 rfl rfl)
theorem dX1_finding_22 : decode cX1_finding 22 = .ok (.astore_n 2, 1) := dk_77 (dk_at dksX1_finding_0 22 rfl rfl)
theorem dX1_finding_23 : decode cX1_finding 23 = .ok (.aload_n 2, 1) := dk_44 (dk_at dksX1_finding_0 23 rfl rfl)
theorem dX1_finding_24 : decode cX1_finding 24 = .ok (.ifnonnull 13, 3) := dk_199 0 13 (dk_at dksX1_finding_1 0 rfl rfl)
theorem dX1_finding_27 : decode cX1_finding 27 = .ok (.new 128, 3) := dk_187 0 128 (dk_at dksX1_finding_1 3 rfl rfl)
theorem dX1_finding_30 : decode cX1_finding 30 = .ok (.dup, 1) := dk_89 (dk_at dksX1_finding_1 6 rfl rfl)
theorem dX1_finding_31 : decode cX1_finding 31 = .ok (.ldc 160, 2) := dk_18 160 (dk_at dksX1_finding_1 7 rfl rfl)
theorem dX1_finding_33 : decode cX1_finding 33 = .ok (.invokespecial 132, 3) := dk_183 0 132 (dk_at dksX1_finding_1 9 rfl rfl)
theorem dX1_finding_36 : decode cX1_finding 36 = .ok (.athrow, 1) := dk_191 (dk_at dksX1_finding_1 12 rfl rfl)
theorem dX1_finding_37 : decode cX1_finding 37 = .ok (.aload_n 2, 1) := dk_44 (dk_at dksX1_finding_1 13 rfl rfl)
theorem dX1_finding_38 : decode cX1_finding 38 = .ok (.areturn, 1) := dk_176 (dk_at dksX1_finding_1 14 rfl rfl)
abbrev cX1_standOf : ByteArray := prog_1_method_47_code
def yX1_standOf : MethodName := ⟨RX1, "standOf", "(I)I"⟩
def dkwX1_standOf_1 : List UInt8 := [167, 0, 16, 45, 44, 182, 1, 94, 153, 0, 7, 4, 167, 0, 4, 3, 172]
abbrev dktX1_standOf_1 : List UInt8 := dkwX1_standOf_1 ++ []
def dkwX1_standOf_0 : List UInt8 := [42, 27, 182, 1, 74, 77, 42, 44, 180, 1, 83, 182, 1, 86, 78, 45, 44, 182, 1, 90, 154, 0, 7, 5]
abbrev dktX1_standOf_0 : List UInt8 := dkwX1_standOf_0 ++ dktX1_standOf_1
theorem dksX1_standOf_0 : cX1_standOf.data.toList.drop 0 = dktX1_standOf_0 := by decide +kernel
theorem dksX1_standOf_1 : cX1_standOf.data.toList.drop 24 = dktX1_standOf_1 := dk_seg dksX1_standOf_0 24 rfl rfl
theorem dX1_standOf_0 : decode cX1_standOf 0 = .ok (.aload_n 0, 1) := dk_42 (dk_at dksX1_standOf_0 0 rfl rfl)
theorem dX1_standOf_1 : decode cX1_standOf 1 = .ok (.iload_n 1, 1) := dk_27 (dk_at dksX1_standOf_0 1 rfl rfl)
theorem dX1_standOf_2 : decode cX1_standOf 2 = .ok (.invokevirtual 330, 3) := dk_182 1 74 (dk_at dksX1_standOf_0 2 rfl rfl)
theorem dX1_standOf_5 : decode cX1_standOf 5 = .ok (.astore_n 2, 1) := dk_77 (dk_at dksX1_standOf_0 5 rfl rfl)
theorem dX1_standOf_6 : decode cX1_standOf 6 = .ok (.aload_n 0, 1) := dk_42 (dk_at dksX1_standOf_0 6 rfl rfl)
theorem dX1_standOf_7 : decode cX1_standOf 7 = .ok (.aload_n 2, 1) := dk_44 (dk_at dksX1_standOf_0 7 rfl rfl)
theorem dX1_standOf_8 : decode cX1_standOf 8 = .ok (.getfield 339, 3) := dk_180 1 83 (dk_at dksX1_standOf_0 8 rfl rfl)
theorem dX1_standOf_11 : decode cX1_standOf 11 = .ok (.invokevirtual 342, 3) := dk_182 1 86 (dk_at dksX1_standOf_0 11 rfl rfl)
theorem dX1_standOf_14 : decode cX1_standOf 14 = .ok (.astore_n 3, 1) := dk_78 (dk_at dksX1_standOf_0 14 rfl rfl)
theorem dX1_standOf_15 : decode cX1_standOf 15 = .ok (.aload_n 3, 1) := dk_45 (dk_at dksX1_standOf_0 15 rfl rfl)
theorem dX1_standOf_16 : decode cX1_standOf 16 = .ok (.aload_n 2, 1) := dk_44 (dk_at dksX1_standOf_0 16 rfl rfl)
theorem dX1_standOf_17 : decode cX1_standOf 17 = .ok (.invokevirtual 346, 3) := dk_182 1 90 (dk_at dksX1_standOf_0 17 rfl rfl)
theorem dX1_standOf_20 : decode cX1_standOf 20 = .ok (.ifCond .ne 7, 3) := dk_154 0 7 (dk_at dksX1_standOf_0 20 rfl rfl)
theorem dX1_standOf_23 : decode cX1_standOf 23 = .ok (.iconst 2, 1) := dk_5 (dk_at dksX1_standOf_0 23 rfl rfl)
theorem dX1_standOf_24 : decode cX1_standOf 24 = .ok (.goto 16, 3) := dk_167 0 16 (dk_at dksX1_standOf_1 0 rfl rfl)
theorem dX1_standOf_27 : decode cX1_standOf 27 = .ok (.aload_n 3, 1) := dk_45 (dk_at dksX1_standOf_1 3 rfl rfl)
theorem dX1_standOf_28 : decode cX1_standOf 28 = .ok (.aload_n 2, 1) := dk_44 (dk_at dksX1_standOf_1 4 rfl rfl)
theorem dX1_standOf_29 : decode cX1_standOf 29 = .ok (.invokevirtual 350, 3) := dk_182 1 94 (dk_at dksX1_standOf_1 5 rfl rfl)
theorem dX1_standOf_32 : decode cX1_standOf 32 = .ok (.ifCond .eq 7, 3) := dk_153 0 7 (dk_at dksX1_standOf_1 8 rfl rfl)
theorem dX1_standOf_35 : decode cX1_standOf 35 = .ok (.iconst 1, 1) := dk_4 (dk_at dksX1_standOf_1 11 rfl rfl)
theorem dX1_standOf_36 : decode cX1_standOf 36 = .ok (.goto 4, 3) := dk_167 0 4 (dk_at dksX1_standOf_1 12 rfl rfl)
theorem dX1_standOf_39 : decode cX1_standOf 39 = .ok (.iconst 0, 1) := dk_3 (dk_at dksX1_standOf_1 15 rfl rfl)
theorem dX1_standOf_40 : decode cX1_standOf 40 = .ok (.ireturn, 1) := dk_172 (dk_at dksX1_standOf_1 16 rfl rfl)
abbrev cX1_scene : ByteArray := prog_1_method_5_code
def yX1_scene : MethodName := ⟨RX1, "scene", "(LFigureSurvey$Figure;)LFigureSurvey$Scene;"⟩
def dkwX1_scene_0 : List UInt8 := [187, 0, 29, 89, 42, 43, 180, 0, 31, 183, 0, 37, 176]
abbrev dktX1_scene_0 : List UInt8 := dkwX1_scene_0 ++ []
theorem dksX1_scene_0 : cX1_scene.data.toList.drop 0 = dktX1_scene_0 := by decide +kernel
theorem dX1_scene_0 : decode cX1_scene 0 = .ok (.new 29, 3) := dk_187 0 29 (dk_at dksX1_scene_0 0 rfl rfl)
theorem dX1_scene_3 : decode cX1_scene 3 = .ok (.dup, 1) := dk_89 (dk_at dksX1_scene_0 3 rfl rfl)
theorem dX1_scene_4 : decode cX1_scene 4 = .ok (.aload_n 0, 1) := dk_42 (dk_at dksX1_scene_0 4 rfl rfl)
theorem dX1_scene_5 : decode cX1_scene 5 = .ok (.aload_n 1, 1) := dk_43 (dk_at dksX1_scene_0 5 rfl rfl)
theorem dX1_scene_6 : decode cX1_scene 6 = .ok (.getfield 31, 3) := dk_180 0 31 (dk_at dksX1_scene_0 6 rfl rfl)
theorem dX1_scene_9 : decode cX1_scene 9 = .ok (.invokespecial 37, 3) := dk_183 0 37 (dk_at dksX1_scene_0 9 rfl rfl)
theorem dX1_scene_12 : decode cX1_scene 12 = .ok (.areturn, 1) := dk_176 (dk_at dksX1_scene_0 12 rfl rfl)
abbrev cX1_orderAt : ByteArray := prog_1_method_48_code
def yX1_orderAt : MethodName := ⟨RX1, "orderAt", "(II)I"⟩
def dkwX1_orderAt_2 : List UInt8 := [180, 1, 103, 172]
abbrev dktX1_orderAt_2 : List UInt8 := dkwX1_orderAt_2 ++ []
def dkwX1_orderAt_1 : List UInt8 := [161, 0, 7, 2, 167, 0, 22, 45, 180, 1, 100, 45, 180, 1, 97, 28, 46, 182, 0, 141, 192, 0, 32]
abbrev dktX1_orderAt_1 : List UInt8 := dkwX1_orderAt_1 ++ dktX1_orderAt_2
def dkwX1_orderAt_0 : List UInt8 := [187, 0, 29, 89, 42, 42, 27, 182, 0, 177, 183, 0, 37, 78, 28, 155, 0, 12, 28, 45, 180, 1, 97, 190]
abbrev dktX1_orderAt_0 : List UInt8 := dkwX1_orderAt_0 ++ dktX1_orderAt_1
theorem dksX1_orderAt_0 : cX1_orderAt.data.toList.drop 0 = dktX1_orderAt_0 := by decide +kernel
theorem dksX1_orderAt_1 : cX1_orderAt.data.toList.drop 24 = dktX1_orderAt_1 := dk_seg dksX1_orderAt_0 24 rfl rfl
theorem dksX1_orderAt_2 : cX1_orderAt.data.toList.drop 47 = dktX1_orderAt_2 := dk_seg dksX1_orderAt_1 23 rfl rfl
theorem dX1_orderAt_0 : decode cX1_orderAt 0 = .ok (.new 29, 3) := dk_187 0 29 (dk_at dksX1_orderAt_0 0 rfl rfl)
theorem dX1_orderAt_3 : decode cX1_orderAt 3 = .ok (.dup, 1) := dk_89 (dk_at dksX1_orderAt_0 3 rfl rfl)
theorem dX1_orderAt_4 : decode cX1_orderAt 4 = .ok (.aload_n 0, 1) := dk_42 (dk_at dksX1_orderAt_0 4 rfl rfl)
theorem dX1_orderAt_5 : decode cX1_orderAt 5 = .ok (.aload_n 0, 1) := dk_42 (dk_at dksX1_orderAt_0 5 rfl rfl)
theorem dX1_orderAt_6 : decode cX1_orderAt 6 = .ok (.iload_n 1, 1) := dk_27 (dk_at dksX1_orderAt_0 6 rfl rfl)
theorem dX1_orderAt_7 : decode cX1_orderAt 7 = .ok (.invokevirtual 177, 3) := dk_182 0 177 (dk_at dksX1_orderAt_0 7 rfl rfl)
theorem dX1_orderAt_10 : decode cX1_orderAt 10 = .ok (.invokespecial 37, 3) := dk_183 0 37 (dk_at dksX1_orderAt_0 10 rfl rfl)
theorem dX1_orderAt_13 : decode cX1_orderAt 13 = .ok (.astore_n 3, 1) := dk_78 (dk_at dksX1_orderAt_0 13 rfl rfl)
theorem dX1_orderAt_14 : decode cX1_orderAt 14 = .ok (.iload_n 2, 1) := dk_28 (dk_at dksX1_orderAt_0 14 rfl rfl)
theorem dX1_orderAt_15 : decode cX1_orderAt 15 = .ok (.ifCond .lt 12, 3) := dk_155 0 12 (dk_at dksX1_orderAt_0 15 rfl rfl)
theorem dX1_orderAt_18 : decode cX1_orderAt 18 = .ok (.iload_n 2, 1) := dk_28 (dk_at dksX1_orderAt_0 18 rfl rfl)
theorem dX1_orderAt_19 : decode cX1_orderAt 19 = .ok (.aload_n 3, 1) := dk_45 (dk_at dksX1_orderAt_0 19 rfl rfl)
theorem dX1_orderAt_20 : decode cX1_orderAt 20 = .ok (.getfield 353, 3) := dk_180 1 97 (dk_at dksX1_orderAt_0 20 rfl rfl)
theorem dX1_orderAt_23 : decode cX1_orderAt 23 = .ok (.arraylength, 1) := dk_190 (dk_at dksX1_orderAt_0 23 rfl rfl)
theorem dX1_orderAt_24 : decode cX1_orderAt 24 = .ok (.if_icmp .lt 7, 3) := dk_161 0 7 (dk_at dksX1_orderAt_1 0 rfl rfl)
theorem dX1_orderAt_27 : decode cX1_orderAt 27 = .ok (.iconst (-1), 1) := dk_2 (dk_at dksX1_orderAt_1 3 rfl rfl)
theorem dX1_orderAt_28 : decode cX1_orderAt 28 = .ok (.goto 22, 3) := dk_167 0 22 (dk_at dksX1_orderAt_1 4 rfl rfl)
theorem dX1_orderAt_31 : decode cX1_orderAt 31 = .ok (.aload_n 3, 1) := dk_45 (dk_at dksX1_orderAt_1 7 rfl rfl)
theorem dX1_orderAt_32 : decode cX1_orderAt 32 = .ok (.getfield 356, 3) := dk_180 1 100 (dk_at dksX1_orderAt_1 8 rfl rfl)
theorem dX1_orderAt_35 : decode cX1_orderAt 35 = .ok (.aload_n 3, 1) := dk_45 (dk_at dksX1_orderAt_1 11 rfl rfl)
theorem dX1_orderAt_36 : decode cX1_orderAt 36 = .ok (.getfield 353, 3) := dk_180 1 97 (dk_at dksX1_orderAt_1 12 rfl rfl)
theorem dX1_orderAt_39 : decode cX1_orderAt 39 = .ok (.iload_n 2, 1) := dk_28 (dk_at dksX1_orderAt_1 15 rfl rfl)
theorem dX1_orderAt_40 : decode cX1_orderAt 40 = .ok (.iaload, 1) := dk_46 (dk_at dksX1_orderAt_1 16 rfl rfl)
theorem dX1_orderAt_41 : decode cX1_orderAt 41 = .ok (.invokevirtual 141, 3) := dk_182 0 141 (dk_at dksX1_orderAt_1 17 rfl rfl)
theorem dX1_orderAt_44 : decode cX1_orderAt 44 = .ok (.checkcast 32, 3) := dk_192 0 32 (dk_at dksX1_orderAt_1 20 rfl rfl)
theorem dX1_orderAt_47 : decode cX1_orderAt 47 = .ok (.getfield 359, 3) := dk_180 1 103 (dk_at dksX1_orderAt_2 0 rfl rfl)
theorem dX1_orderAt_50 : decode cX1_orderAt 50 = .ok (.ireturn, 1) := dk_172 (dk_at dksX1_orderAt_2 3 rfl rfl)
abbrev cX1_brokenWeight : ByteArray := prog_1_method_49_code
def yX1_brokenWeight : MethodName := ⟨RX1, "brokenWeight", "(I)I"⟩
def dkwX1_brokenWeight_0 : List UInt8 := [187, 0, 29, 89, 42, 42, 27, 182, 0, 177, 183, 0, 37, 182, 1, 104, 172]
abbrev dktX1_brokenWeight_0 : List UInt8 := dkwX1_brokenWeight_0 ++ []
theorem dksX1_brokenWeight_0 : cX1_brokenWeight.data.toList.drop 0 = dktX1_brokenWeight_0 := by decide +kernel
theorem dX1_brokenWeight_0 : decode cX1_brokenWeight 0 = .ok (.new 29, 3) := dk_187 0 29 (dk_at dksX1_brokenWeight_0 0 rfl rfl)
theorem dX1_brokenWeight_3 : decode cX1_brokenWeight 3 = .ok (.dup, 1) := dk_89 (dk_at dksX1_brokenWeight_0 3 rfl rfl)
theorem dX1_brokenWeight_4 : decode cX1_brokenWeight 4 = .ok (.aload_n 0, 1) := dk_42 (dk_at dksX1_brokenWeight_0 4 rfl rfl)
theorem dX1_brokenWeight_5 : decode cX1_brokenWeight 5 = .ok (.aload_n 0, 1) := dk_42 (dk_at dksX1_brokenWeight_0 5 rfl rfl)
theorem dX1_brokenWeight_6 : decode cX1_brokenWeight 6 = .ok (.iload_n 1, 1) := dk_27 (dk_at dksX1_brokenWeight_0 6 rfl rfl)
theorem dX1_brokenWeight_7 : decode cX1_brokenWeight 7 = .ok (.invokevirtual 177, 3) := dk_182 0 177 (dk_at dksX1_brokenWeight_0 7 rfl rfl)
theorem dX1_brokenWeight_10 : decode cX1_brokenWeight 10 = .ok (.invokespecial 37, 3) := dk_183 0 37 (dk_at dksX1_brokenWeight_0 10 rfl rfl)
theorem dX1_brokenWeight_13 : decode cX1_brokenWeight 13 = .ok (.invokevirtual 360, 3) := dk_182 1 104 (dk_at dksX1_brokenWeight_0 13 rfl rfl)
theorem dX1_brokenWeight_16 : decode cX1_brokenWeight 16 = .ok (.ireturn, 1) := dk_172 (dk_at dksX1_brokenWeight_0 16 rfl rfl)
abbrev cX1_isAbove : ByteArray := prog_1_method_50_code
def yX1_isAbove : MethodName := ⟨RX1, "isAbove", "(II)Z"⟩
def dkwX1_isAbove_3 : List UInt8 := [21, 7, 51, 153, 0, 7, 4, 167, 0, 4, 3, 172]
abbrev dktX1_isAbove_3 : List UInt8 := dkwX1_isAbove_3 ++ []
def dkwX1_isAbove_2 : List UInt8 := [182, 1, 107, 54, 7, 21, 6, 155, 0, 26, 21, 7, 155, 0, 21, 25, 5, 180, 1, 111, 21, 6, 50]
abbrev dktX1_isAbove_2 : List UInt8 := dkwX1_isAbove_2 ++ dktX1_isAbove_3
def dkwX1_isAbove_1 : List UInt8 := [165, 0, 5, 3, 172, 42, 45, 182, 1, 86, 58, 5, 25, 5, 45, 182, 1, 107, 54, 6, 25, 5, 25, 4]
abbrev dktX1_isAbove_1 : List UInt8 := dkwX1_isAbove_1 ++ dktX1_isAbove_2
def dkwX1_isAbove_0 : List UInt8 := [42, 27, 182, 0, 210, 78, 42, 28, 182, 0, 210, 58, 4, 45, 180, 0, 31, 25, 4, 180, 0, 31]
abbrev dktX1_isAbove_0 : List UInt8 := dkwX1_isAbove_0 ++ dktX1_isAbove_1
theorem dksX1_isAbove_0 : cX1_isAbove.data.toList.drop 0 = dktX1_isAbove_0 := by decide +kernel
theorem dksX1_isAbove_1 : cX1_isAbove.data.toList.drop 22 = dktX1_isAbove_1 := dk_seg dksX1_isAbove_0 22 rfl rfl
theorem dksX1_isAbove_2 : cX1_isAbove.data.toList.drop 46 = dktX1_isAbove_2 := dk_seg dksX1_isAbove_1 24 rfl rfl
theorem dksX1_isAbove_3 : cX1_isAbove.data.toList.drop 69 = dktX1_isAbove_3 := dk_seg dksX1_isAbove_2 23 rfl rfl
theorem dX1_isAbove_0 : decode cX1_isAbove 0 = .ok (.aload_n 0, 1) := dk_42 (dk_at dksX1_isAbove_0 0 rfl rfl)
theorem dX1_isAbove_1 : decode cX1_isAbove 1 = .ok (.iload_n 1, 1) := dk_27 (dk_at dksX1_isAbove_0 1 rfl rfl)
theorem dX1_isAbove_2 : decode cX1_isAbove 2 = .ok (.invokevirtual 210, 3) := dk_182 0 210 (dk_at dksX1_isAbove_0 2 rfl rfl)
theorem dX1_isAbove_5 : decode cX1_isAbove 5 = .ok (.astore_n 3, 1) := dk_78 (dk_at dksX1_isAbove_0 5 rfl rfl)
theorem dX1_isAbove_6 : decode cX1_isAbove 6 = .ok (.aload_n 0, 1) := dk_42 (dk_at dksX1_isAbove_0 6 rfl rfl)
theorem dX1_isAbove_7 : decode cX1_isAbove 7 = .ok (.iload_n 2, 1) := dk_28 (dk_at dksX1_isAbove_0 7 rfl rfl)
theorem dX1_isAbove_8 : decode cX1_isAbove 8 = .ok (.invokevirtual 210, 3) := dk_182 0 210 (dk_at dksX1_isAbove_0 8 rfl rfl)
theorem dX1_isAbove_11 : decode cX1_isAbove 11 = .ok (.astore 4, 2) := dk_58 4 (dk_at dksX1_isAbove_0 11 rfl rfl)
theorem dX1_isAbove_13 : decode cX1_isAbove 13 = .ok (.aload_n 3, 1) := dk_45 (dk_at dksX1_isAbove_0 13 rfl rfl)
theorem dX1_isAbove_14 : decode cX1_isAbove 14 = .ok (.getfield 31, 3) := dk_180 0 31 (dk_at dksX1_isAbove_0 14 rfl rfl)
theorem dX1_isAbove_17 : decode cX1_isAbove 17 = .ok (.aload 4, 2) := dk_25 4 (dk_at dksX1_isAbove_0 17 rfl rfl)
theorem dX1_isAbove_19 : decode cX1_isAbove 19 = .ok (.getfield 31, 3) := dk_180 0 31 (dk_at dksX1_isAbove_0 19 rfl rfl)
theorem dX1_isAbove_22 : decode cX1_isAbove 22 = .ok (.if_acmp .eq 5, 3) := dk_165 0 5 (dk_at dksX1_isAbove_1 0 rfl rfl)
theorem dX1_isAbove_25 : decode cX1_isAbove 25 = .ok (.iconst 0, 1) := dk_3 (dk_at dksX1_isAbove_1 3 rfl rfl)
theorem dX1_isAbove_26 : decode cX1_isAbove 26 = .ok (.ireturn, 1) := dk_172 (dk_at dksX1_isAbove_1 4 rfl rfl)
theorem dX1_isAbove_27 : decode cX1_isAbove 27 = .ok (.aload_n 0, 1) := dk_42 (dk_at dksX1_isAbove_1 5 rfl rfl)
theorem dX1_isAbove_28 : decode cX1_isAbove 28 = .ok (.aload_n 3, 1) := dk_45 (dk_at dksX1_isAbove_1 6 rfl rfl)
theorem dX1_isAbove_29 : decode cX1_isAbove 29 = .ok (.invokevirtual 342, 3) := dk_182 1 86 (dk_at dksX1_isAbove_1 7 rfl rfl)
theorem dX1_isAbove_32 : decode cX1_isAbove 32 = .ok (.astore 5, 2) := dk_58 5 (dk_at dksX1_isAbove_1 10 rfl rfl)
theorem dX1_isAbove_34 : decode cX1_isAbove 34 = .ok (.aload 5, 2) := dk_25 5 (dk_at dksX1_isAbove_1 12 rfl rfl)
theorem dX1_isAbove_36 : decode cX1_isAbove 36 = .ok (.aload_n 3, 1) := dk_45 (dk_at dksX1_isAbove_1 14 rfl rfl)
theorem dX1_isAbove_37 : decode cX1_isAbove 37 = .ok (.invokevirtual 363, 3) := dk_182 1 107 (dk_at dksX1_isAbove_1 15 rfl rfl)
theorem dX1_isAbove_40 : decode cX1_isAbove 40 = .ok (.istore 6, 2) := dk_54 6 (dk_at dksX1_isAbove_1 18 rfl rfl)
theorem dX1_isAbove_42 : decode cX1_isAbove 42 = .ok (.aload 5, 2) := dk_25 5 (dk_at dksX1_isAbove_1 20 rfl rfl)
theorem dX1_isAbove_44 : decode cX1_isAbove 44 = .ok (.aload 4, 2) := dk_25 4 (dk_at dksX1_isAbove_1 22 rfl rfl)
theorem dX1_isAbove_46 : decode cX1_isAbove 46 = .ok (.invokevirtual 363, 3) := dk_182 1 107 (dk_at dksX1_isAbove_2 0 rfl rfl)
theorem dX1_isAbove_49 : decode cX1_isAbove 49 = .ok (.istore 7, 2) := dk_54 7 (dk_at dksX1_isAbove_2 3 rfl rfl)
theorem dX1_isAbove_51 : decode cX1_isAbove 51 = .ok (.iload 6, 2) := dk_21 6 (dk_at dksX1_isAbove_2 5 rfl rfl)
theorem dX1_isAbove_53 : decode cX1_isAbove 53 = .ok (.ifCond .lt 26, 3) := dk_155 0 26 (dk_at dksX1_isAbove_2 7 rfl rfl)
theorem dX1_isAbove_56 : decode cX1_isAbove 56 = .ok (.iload 7, 2) := dk_21 7 (dk_at dksX1_isAbove_2 10 rfl rfl)
theorem dX1_isAbove_58 : decode cX1_isAbove 58 = .ok (.ifCond .lt 21, 3) := dk_155 0 21 (dk_at dksX1_isAbove_2 12 rfl rfl)
theorem dX1_isAbove_61 : decode cX1_isAbove 61 = .ok (.aload 5, 2) := dk_25 5 (dk_at dksX1_isAbove_2 15 rfl rfl)
theorem dX1_isAbove_63 : decode cX1_isAbove 63 = .ok (.getfield 367, 3) := dk_180 1 111 (dk_at dksX1_isAbove_2 17 rfl rfl)
theorem dX1_isAbove_66 : decode cX1_isAbove 66 = .ok (.iload 6, 2) := dk_21 6 (dk_at dksX1_isAbove_2 20 rfl rfl)
theorem dX1_isAbove_68 : decode cX1_isAbove 68 = .ok (.aaload, 1) := dk_50 (dk_at dksX1_isAbove_2 22 rfl rfl)
theorem dX1_isAbove_69 : decode cX1_isAbove 69 = .ok (.iload 7, 2) := dk_21 7 (dk_at dksX1_isAbove_3 0 rfl rfl)
theorem dX1_isAbove_71 : decode cX1_isAbove 71 = .ok (.baload, 1) := dk_51 (dk_at dksX1_isAbove_3 2 rfl rfl)
theorem dX1_isAbove_72 : decode cX1_isAbove 72 = .ok (.ifCond .eq 7, 3) := dk_153 0 7 (dk_at dksX1_isAbove_3 3 rfl rfl)
theorem dX1_isAbove_75 : decode cX1_isAbove 75 = .ok (.iconst 1, 1) := dk_4 (dk_at dksX1_isAbove_3 6 rfl rfl)
theorem dX1_isAbove_76 : decode cX1_isAbove 76 = .ok (.goto 4, 3) := dk_167 0 4 (dk_at dksX1_isAbove_3 7 rfl rfl)
theorem dX1_isAbove_79 : decode cX1_isAbove 79 = .ok (.iconst 0, 1) := dk_3 (dk_at dksX1_isAbove_3 10 rfl rfl)
theorem dX1_isAbove_80 : decode cX1_isAbove 80 = .ok (.ireturn, 1) := dk_172 (dk_at dksX1_isAbove_3 11 rfl rfl)
abbrev cX1_earliest : ByteArray := prog_1_method_51_code
def yX1_earliest : MethodName := ⟨RX1, "earliest", "(I)I"⟩
def dkwX1_earliest_0 : List UInt8 := [42, 27, 182, 0, 210, 77, 42, 44, 182, 1, 86, 44, 3, 182, 1, 115, 172]
abbrev dktX1_earliest_0 : List UInt8 := dkwX1_earliest_0 ++ []
theorem dksX1_earliest_0 : cX1_earliest.data.toList.drop 0 = dktX1_earliest_0 := by decide +kernel
theorem dX1_earliest_0 : decode cX1_earliest 0 = .ok (.aload_n 0, 1) := dk_42 (dk_at dksX1_earliest_0 0 rfl rfl)
theorem dX1_earliest_1 : decode cX1_earliest 1 = .ok (.iload_n 1, 1) := dk_27 (dk_at dksX1_earliest_0 1 rfl rfl)
theorem dX1_earliest_2 : decode cX1_earliest 2 = .ok (.invokevirtual 210, 3) := dk_182 0 210 (dk_at dksX1_earliest_0 2 rfl rfl)
theorem dX1_earliest_5 : decode cX1_earliest 5 = .ok (.astore_n 2, 1) := dk_77 (dk_at dksX1_earliest_0 5 rfl rfl)
theorem dX1_earliest_6 : decode cX1_earliest 6 = .ok (.aload_n 0, 1) := dk_42 (dk_at dksX1_earliest_0 6 rfl rfl)
theorem dX1_earliest_7 : decode cX1_earliest 7 = .ok (.aload_n 2, 1) := dk_44 (dk_at dksX1_earliest_0 7 rfl rfl)
theorem dX1_earliest_8 : decode cX1_earliest 8 = .ok (.invokevirtual 342, 3) := dk_182 1 86 (dk_at dksX1_earliest_0 8 rfl rfl)
theorem dX1_earliest_11 : decode cX1_earliest 11 = .ok (.aload_n 2, 1) := dk_44 (dk_at dksX1_earliest_0 11 rfl rfl)
theorem dX1_earliest_12 : decode cX1_earliest 12 = .ok (.iconst 0, 1) := dk_3 (dk_at dksX1_earliest_0 12 rfl rfl)
theorem dX1_earliest_13 : decode cX1_earliest 13 = .ok (.invokevirtual 371, 3) := dk_182 1 115 (dk_at dksX1_earliest_0 13 rfl rfl)
theorem dX1_earliest_16 : decode cX1_earliest 16 = .ok (.ireturn, 1) := dk_172 (dk_at dksX1_earliest_0 16 rfl rfl)
abbrev cX1_latest : ByteArray := prog_1_method_52_code
def yX1_latest : MethodName := ⟨RX1, "latest", "(I)I"⟩
def dkwX1_latest_0 : List UInt8 := [42, 27, 182, 0, 210, 77, 42, 44, 182, 1, 86, 44, 4, 182, 1, 115, 172]
abbrev dktX1_latest_0 : List UInt8 := dkwX1_latest_0 ++ []
theorem dksX1_latest_0 : cX1_latest.data.toList.drop 0 = dktX1_latest_0 := by decide +kernel
theorem dX1_latest_0 : decode cX1_latest 0 = .ok (.aload_n 0, 1) := dk_42 (dk_at dksX1_latest_0 0 rfl rfl)
theorem dX1_latest_1 : decode cX1_latest 1 = .ok (.iload_n 1, 1) := dk_27 (dk_at dksX1_latest_0 1 rfl rfl)
theorem dX1_latest_2 : decode cX1_latest 2 = .ok (.invokevirtual 210, 3) := dk_182 0 210 (dk_at dksX1_latest_0 2 rfl rfl)
theorem dX1_latest_5 : decode cX1_latest 5 = .ok (.astore_n 2, 1) := dk_77 (dk_at dksX1_latest_0 5 rfl rfl)
theorem dX1_latest_6 : decode cX1_latest 6 = .ok (.aload_n 0, 1) := dk_42 (dk_at dksX1_latest_0 6 rfl rfl)
theorem dX1_latest_7 : decode cX1_latest 7 = .ok (.aload_n 2, 1) := dk_44 (dk_at dksX1_latest_0 7 rfl rfl)
theorem dX1_latest_8 : decode cX1_latest 8 = .ok (.invokevirtual 342, 3) := dk_182 1 86 (dk_at dksX1_latest_0 8 rfl rfl)
theorem dX1_latest_11 : decode cX1_latest 11 = .ok (.aload_n 2, 1) := dk_44 (dk_at dksX1_latest_0 11 rfl rfl)
theorem dX1_latest_12 : decode cX1_latest 12 = .ok (.iconst 1, 1) := dk_4 (dk_at dksX1_latest_0 12 rfl rfl)
theorem dX1_latest_13 : decode cX1_latest 13 = .ok (.invokevirtual 371, 3) := dk_182 1 115 (dk_at dksX1_latest_0 13 rfl rfl)
theorem dX1_latest_16 : decode cX1_latest 16 = .ok (.ireturn, 1) := dk_172 (dk_at dksX1_latest_0 16 rfl rfl)
abbrev cX1_reasonFor : ByteArray := prog_1_method_53_code
def yX1_reasonFor : MethodName := ⟨RX1, "reasonFor", "(IZ)I"⟩
def dkwX1_reasonFor_1 : List UInt8 := [167, 0, 8, 25, 4, 180, 1, 122, 172]
abbrev dktX1_reasonFor_1 : List UInt8 := dkwX1_reasonFor_1 ++ []
def dkwX1_reasonFor_0 : List UInt8 := [42, 27, 182, 0, 210, 78, 42, 45, 182, 1, 86, 45, 28, 182, 1, 118, 58, 4, 25, 4, 199, 0, 7, 2]
abbrev dktX1_reasonFor_0 : List UInt8 := dkwX1_reasonFor_0 ++ dktX1_reasonFor_1
theorem dksX1_reasonFor_0 : cX1_reasonFor.data.toList.drop 0 = dktX1_reasonFor_0 := by decide +kernel
theorem dksX1_reasonFor_1 : cX1_reasonFor.data.toList.drop 24 = dktX1_reasonFor_1 := dk_seg dksX1_reasonFor_0 24 rfl rfl
theorem dX1_reasonFor_0 : decode cX1_reasonFor 0 = .ok (.aload_n 0, 1) := dk_42 (dk_at dksX1_reasonFor_0 0 rfl rfl)
theorem dX1_reasonFor_1 : decode cX1_reasonFor 1 = .ok (.iload_n 1, 1) := dk_27 (dk_at dksX1_reasonFor_0 1 rfl rfl)
theorem dX1_reasonFor_2 : decode cX1_reasonFor 2 = .ok (.invokevirtual 210, 3) := dk_182 0 210 (dk_at dksX1_reasonFor_0 2 rfl rfl)
theorem dX1_reasonFor_5 : decode cX1_reasonFor 5 = .ok (.astore_n 3, 1) := dk_78 (dk_at dksX1_reasonFor_0 5 rfl rfl)
theorem dX1_reasonFor_6 : decode cX1_reasonFor 6 = .ok (.aload_n 0, 1) := dk_42 (dk_at dksX1_reasonFor_0 6 rfl rfl)
theorem dX1_reasonFor_7 : decode cX1_reasonFor 7 = .ok (.aload_n 3, 1) := dk_45 (dk_at dksX1_reasonFor_0 7 rfl rfl)
theorem dX1_reasonFor_8 : decode cX1_reasonFor 8 = .ok (.invokevirtual 342, 3) := dk_182 1 86 (dk_at dksX1_reasonFor_0 8 rfl rfl)
theorem dX1_reasonFor_11 : decode cX1_reasonFor 11 = .ok (.aload_n 3, 1) := dk_45 (dk_at dksX1_reasonFor_0 11 rfl rfl)
theorem dX1_reasonFor_12 : decode cX1_reasonFor 12 = .ok (.iload_n 2, 1) := dk_28 (dk_at dksX1_reasonFor_0 12 rfl rfl)
theorem dX1_reasonFor_13 : decode cX1_reasonFor 13 = .ok (.invokevirtual 374, 3) := dk_182 1 118 (dk_at dksX1_reasonFor_0 13 rfl rfl)
theorem dX1_reasonFor_16 : decode cX1_reasonFor 16 = .ok (.astore 4, 2) := dk_58 4 (dk_at dksX1_reasonFor_0 16 rfl rfl)
theorem dX1_reasonFor_18 : decode cX1_reasonFor 18 = .ok (.aload 4, 2) := dk_25 4 (dk_at dksX1_reasonFor_0 18 rfl rfl)
theorem dX1_reasonFor_20 : decode cX1_reasonFor 20 = .ok (.ifnonnull 7, 3) := dk_199 0 7 (dk_at dksX1_reasonFor_0 20 rfl rfl)
theorem dX1_reasonFor_23 : decode cX1_reasonFor 23 = .ok (.iconst (-1), 1) := dk_2 (dk_at dksX1_reasonFor_0 23 rfl rfl)
theorem dX1_reasonFor_24 : decode cX1_reasonFor 24 = .ok (.goto 8, 3) := dk_167 0 8 (dk_at dksX1_reasonFor_1 0 rfl rfl)
theorem dX1_reasonFor_27 : decode cX1_reasonFor 27 = .ok (.aload 4, 2) := dk_25 4 (dk_at dksX1_reasonFor_1 3 rfl rfl)
theorem dX1_reasonFor_29 : decode cX1_reasonFor 29 = .ok (.getfield 378, 3) := dk_180 1 122 (dk_at dksX1_reasonFor_1 5 rfl rfl)
theorem dX1_reasonFor_32 : decode cX1_reasonFor 32 = .ok (.ireturn, 1) := dk_172 (dk_at dksX1_reasonFor_1 8 rfl rfl)
abbrev cX1_setFeatures : ByteArray := prog_1_method_56_code
def yX1_setFeatures : MethodName := ⟨RX1, "setFeatures", "(II)I"⟩
def dkwX1_setFeatures_0 : List UInt8 := [42, 27, 182, 0, 210, 78, 45, 28, 3, 19, 1, 135, 184, 0, 162, 181, 1, 136, 42, 28, 182, 1, 139, 172]
abbrev dktX1_setFeatures_0 : List UInt8 := dkwX1_setFeatures_0 ++ []
theorem dksX1_setFeatures_0 : cX1_setFeatures.data.toList.drop 0 = dktX1_setFeatures_0 := by decide +kernel
theorem dX1_setFeatures_0 : decode cX1_setFeatures 0 = .ok (.aload_n 0, 1) := dk_42 (dk_at dksX1_setFeatures_0 0 rfl rfl)
theorem dX1_setFeatures_1 : decode cX1_setFeatures 1 = .ok (.iload_n 1, 1) := dk_27 (dk_at dksX1_setFeatures_0 1 rfl rfl)
theorem dX1_setFeatures_2 : decode cX1_setFeatures 2 = .ok (.invokevirtual 210, 3) := dk_182 0 210 (dk_at dksX1_setFeatures_0 2 rfl rfl)
theorem dX1_setFeatures_5 : decode cX1_setFeatures 5 = .ok (.astore_n 3, 1) := dk_78 (dk_at dksX1_setFeatures_0 5 rfl rfl)
theorem dX1_setFeatures_6 : decode cX1_setFeatures 6 = .ok (.aload_n 3, 1) := dk_45 (dk_at dksX1_setFeatures_0 6 rfl rfl)
theorem dX1_setFeatures_7 : decode cX1_setFeatures 7 = .ok (.iload_n 2, 1) := dk_28 (dk_at dksX1_setFeatures_0 7 rfl rfl)
theorem dX1_setFeatures_8 : decode cX1_setFeatures 8 = .ok (.iconst 0, 1) := dk_3 (dk_at dksX1_setFeatures_0 8 rfl rfl)
theorem dX1_setFeatures_9 : decode cX1_setFeatures 9 = .ok (.ldc_w 391, 3) := dk_19 1 135 (dk_at dksX1_setFeatures_0 9 rfl rfl)
theorem dX1_setFeatures_12 : decode cX1_setFeatures 12 = .ok (.invokestatic 162, 3) := dk_184 0 162 (dk_at dksX1_setFeatures_0 12 rfl rfl)
theorem dX1_setFeatures_15 : decode cX1_setFeatures 15 = .ok (.putfield 392, 3) := dk_181 1 136 (dk_at dksX1_setFeatures_0 15 rfl rfl)
theorem dX1_setFeatures_18 : decode cX1_setFeatures 18 = .ok (.aload_n 0, 1) := dk_42 (dk_at dksX1_setFeatures_0 18 rfl rfl)
theorem dX1_setFeatures_19 : decode cX1_setFeatures 19 = .ok (.iload_n 2, 1) := dk_28 (dk_at dksX1_setFeatures_0 19 rfl rfl)
theorem dX1_setFeatures_20 : decode cX1_setFeatures 20 = .ok (.invokevirtual 395, 3) := dk_182 1 139 (dk_at dksX1_setFeatures_0 20 rfl rfl)
theorem dX1_setFeatures_23 : decode cX1_setFeatures 23 = .ok (.ireturn, 1) := dk_172 (dk_at dksX1_setFeatures_0 23 rfl rfl)
abbrev cX1_style : ByteArray := prog_1_method_55_code
def yX1_style : MethodName := ⟨RX1, "style", "(I)I"⟩
def dkwX1_style_3 : List UInt8 := [61, 132, 3, 1, 167, 255, 185, 28, 172]
abbrev dktX1_style_3 : List UInt8 := dkwX1_style_3 ++ []
def dkwX1_style_2 : List UInt8 := [21, 4, 27, 42, 180, 0, 75, 28, 182, 0, 141, 192, 0, 150, 182, 1, 129, 184, 1, 132, 162, 0, 5, 29]
abbrev dktX1_style_2 : List UInt8 := dkwX1_style_2 ++ dktX1_style_3
def dkwX1_style_1 : List UInt8 := [192, 0, 150, 182, 1, 129, 184, 1, 132, 54, 4, 21, 4, 16, 12, 163, 0, 33, 28, 2, 159, 0, 26]
abbrev dktX1_style_1 : List UInt8 := dkwX1_style_1 ++ dktX1_style_2
def dkwX1_style_0 : List UInt8 := [2, 61, 3, 62, 29, 42, 180, 0, 75, 182, 0, 93, 162, 0, 66, 27, 42, 180, 0, 75, 29, 182, 0, 141]
abbrev dktX1_style_0 : List UInt8 := dkwX1_style_0 ++ dktX1_style_1
theorem dksX1_style_0 : cX1_style.data.toList.drop 0 = dktX1_style_0 := by decide +kernel
theorem dksX1_style_1 : cX1_style.data.toList.drop 24 = dktX1_style_1 := dk_seg dksX1_style_0 24 rfl rfl
theorem dksX1_style_2 : cX1_style.data.toList.drop 47 = dktX1_style_2 := dk_seg dksX1_style_1 23 rfl rfl
theorem dksX1_style_3 : cX1_style.data.toList.drop 71 = dktX1_style_3 := dk_seg dksX1_style_2 24 rfl rfl
theorem dX1_style_0 : decode cX1_style 0 = .ok (.iconst (-1), 1) := dk_2 (dk_at dksX1_style_0 0 rfl rfl)
theorem dX1_style_1 : decode cX1_style 1 = .ok (.istore_n 2, 1) := dk_61 (dk_at dksX1_style_0 1 rfl rfl)
theorem dX1_style_2 : decode cX1_style 2 = .ok (.iconst 0, 1) := dk_3 (dk_at dksX1_style_0 2 rfl rfl)
theorem dX1_style_3 : decode cX1_style 3 = .ok (.istore_n 3, 1) := dk_62 (dk_at dksX1_style_0 3 rfl rfl)
theorem dX1_style_4 : decode cX1_style 4 = .ok (.iload_n 3, 1) := dk_29 (dk_at dksX1_style_0 4 rfl rfl)
theorem dX1_style_5 : decode cX1_style 5 = .ok (.aload_n 0, 1) := dk_42 (dk_at dksX1_style_0 5 rfl rfl)
theorem dX1_style_6 : decode cX1_style 6 = .ok (.getfield 75, 3) := dk_180 0 75 (dk_at dksX1_style_0 6 rfl rfl)
theorem dX1_style_9 : decode cX1_style 9 = .ok (.invokevirtual 93, 3) := dk_182 0 93 (dk_at dksX1_style_0 9 rfl rfl)
theorem dX1_style_12 : decode cX1_style 12 = .ok (.if_icmp .ge 66, 3) := dk_162 0 66 (dk_at dksX1_style_0 12 rfl rfl)
theorem dX1_style_15 : decode cX1_style 15 = .ok (.iload_n 1, 1) := dk_27 (dk_at dksX1_style_0 15 rfl rfl)
theorem dX1_style_16 : decode cX1_style 16 = .ok (.aload_n 0, 1) := dk_42 (dk_at dksX1_style_0 16 rfl rfl)
theorem dX1_style_17 : decode cX1_style 17 = .ok (.getfield 75, 3) := dk_180 0 75 (dk_at dksX1_style_0 17 rfl rfl)
theorem dX1_style_20 : decode cX1_style 20 = .ok (.iload_n 3, 1) := dk_29 (dk_at dksX1_style_0 20 rfl rfl)
theorem dX1_style_21 : decode cX1_style 21 = .ok (.invokevirtual 141, 3) := dk_182 0 141 (dk_at dksX1_style_0 21 rfl rfl)
theorem dX1_style_24 : decode cX1_style 24 = .ok (.checkcast 150, 3) := dk_192 0 150 (dk_at dksX1_style_1 0 rfl rfl)
theorem dX1_style_27 : decode cX1_style 27 = .ok (.invokevirtual 385, 3) := dk_182 1 129 (dk_at dksX1_style_1 3 rfl rfl)
theorem dX1_style_30 : decode cX1_style 30 = .ok (.invokestatic 388, 3) := dk_184 1 132 (dk_at dksX1_style_1 6 rfl rfl)
theorem dX1_style_33 : decode cX1_style 33 = .ok (.istore 4, 2) := dk_54 4 (dk_at dksX1_style_1 9 rfl rfl)
theorem dX1_style_35 : decode cX1_style 35 = .ok (.iload 4, 2) := dk_21 4 (dk_at dksX1_style_1 11 rfl rfl)
theorem dX1_style_37 : decode cX1_style 37 = .ok (.bipush 12, 2) := dk_16 12 (dk_at dksX1_style_1 13 rfl rfl)
theorem dX1_style_39 : decode cX1_style 39 = .ok (.if_icmp .gt 33, 3) := dk_163 0 33 (dk_at dksX1_style_1 15 rfl rfl)
theorem dX1_style_42 : decode cX1_style 42 = .ok (.iload_n 2, 1) := dk_28 (dk_at dksX1_style_1 18 rfl rfl)
theorem dX1_style_43 : decode cX1_style 43 = .ok (.iconst (-1), 1) := dk_2 (dk_at dksX1_style_1 19 rfl rfl)
theorem dX1_style_44 : decode cX1_style 44 = .ok (.if_icmp .eq 26, 3) := dk_159 0 26 (dk_at dksX1_style_1 20 rfl rfl)
theorem dX1_style_47 : decode cX1_style 47 = .ok (.iload 4, 2) := dk_21 4 (dk_at dksX1_style_2 0 rfl rfl)
theorem dX1_style_49 : decode cX1_style 49 = .ok (.iload_n 1, 1) := dk_27 (dk_at dksX1_style_2 2 rfl rfl)
theorem dX1_style_50 : decode cX1_style 50 = .ok (.aload_n 0, 1) := dk_42 (dk_at dksX1_style_2 3 rfl rfl)
theorem dX1_style_51 : decode cX1_style 51 = .ok (.getfield 75, 3) := dk_180 0 75 (dk_at dksX1_style_2 4 rfl rfl)
theorem dX1_style_54 : decode cX1_style 54 = .ok (.iload_n 2, 1) := dk_28 (dk_at dksX1_style_2 7 rfl rfl)
theorem dX1_style_55 : decode cX1_style 55 = .ok (.invokevirtual 141, 3) := dk_182 0 141 (dk_at dksX1_style_2 8 rfl rfl)
theorem dX1_style_58 : decode cX1_style 58 = .ok (.checkcast 150, 3) := dk_192 0 150 (dk_at dksX1_style_2 11 rfl rfl)
theorem dX1_style_61 : decode cX1_style 61 = .ok (.invokevirtual 385, 3) := dk_182 1 129 (dk_at dksX1_style_2 14 rfl rfl)
theorem dX1_style_64 : decode cX1_style 64 = .ok (.invokestatic 388, 3) := dk_184 1 132 (dk_at dksX1_style_2 17 rfl rfl)
theorem dX1_style_67 : decode cX1_style 67 = .ok (.if_icmp .ge 5, 3) := dk_162 0 5 (dk_at dksX1_style_2 20 rfl rfl)
theorem dX1_style_70 : decode cX1_style 70 = .ok (.iload_n 3, 1) := dk_29 (dk_at dksX1_style_2 23 rfl rfl)
theorem dX1_style_71 : decode cX1_style 71 = .ok (.istore_n 2, 1) := dk_61 (dk_at dksX1_style_3 0 rfl rfl)
theorem dX1_style_72 : decode cX1_style 72 = .ok (.iinc 3 1, 3) := dk_132 3 1 (dk_at dksX1_style_3 1 rfl rfl)
theorem dX1_style_75 : decode cX1_style 75 = .ok (.goto (-71), 3) := dk_167 255 185 (dk_at dksX1_style_3 4 rfl rfl)
theorem dX1_style_78 : decode cX1_style 78 = .ok (.iload_n 2, 1) := dk_28 (dk_at dksX1_style_3 7 rfl rfl)
theorem dX1_style_79 : decode cX1_style 79 = .ok (.ireturn, 1) := dk_172 (dk_at dksX1_style_3 8 rfl rfl)
abbrev cX1_distance : ByteArray := prog_1_method_54_code
def yX1_distance : MethodName := ⟨RX1, "distance", "(II)I"⟩
def dkwX1_distance_2 : List UInt8 := [167, 255, 218, 28, 172]
abbrev dktX1_distance_2 : List UInt8 := dkwX1_distance_2 ++ []
def dkwX1_distance_1 : List UInt8 := [16, 10, 112, 100, 184, 1, 126, 96, 61, 29, 16, 10, 108, 62, 21, 4, 16, 10, 108, 54, 4, 132, 5, 1]
abbrev dktX1_distance_1 : List UInt8 := dkwX1_distance_1 ++ dktX1_distance_2
def dkwX1_distance_0 : List UInt8 := [3, 61, 26, 62, 27, 54, 4, 3, 54, 5, 21, 5, 16, 6, 162, 0, 37, 28, 29, 16, 10, 112, 21, 4]
abbrev dktX1_distance_0 : List UInt8 := dkwX1_distance_0 ++ dktX1_distance_1
theorem dksX1_distance_0 : cX1_distance.data.toList.drop 0 = dktX1_distance_0 := by decide +kernel
theorem dksX1_distance_1 : cX1_distance.data.toList.drop 24 = dktX1_distance_1 := dk_seg dksX1_distance_0 24 rfl rfl
theorem dksX1_distance_2 : cX1_distance.data.toList.drop 48 = dktX1_distance_2 := dk_seg dksX1_distance_1 24 rfl rfl
theorem dX1_distance_0 : decode cX1_distance 0 = .ok (.iconst 0, 1) := dk_3 (dk_at dksX1_distance_0 0 rfl rfl)
theorem dX1_distance_1 : decode cX1_distance 1 = .ok (.istore_n 2, 1) := dk_61 (dk_at dksX1_distance_0 1 rfl rfl)
theorem dX1_distance_2 : decode cX1_distance 2 = .ok (.iload_n 0, 1) := dk_26 (dk_at dksX1_distance_0 2 rfl rfl)
theorem dX1_distance_3 : decode cX1_distance 3 = .ok (.istore_n 3, 1) := dk_62 (dk_at dksX1_distance_0 3 rfl rfl)
theorem dX1_distance_4 : decode cX1_distance 4 = .ok (.iload_n 1, 1) := dk_27 (dk_at dksX1_distance_0 4 rfl rfl)
theorem dX1_distance_5 : decode cX1_distance 5 = .ok (.istore 4, 2) := dk_54 4 (dk_at dksX1_distance_0 5 rfl rfl)
theorem dX1_distance_7 : decode cX1_distance 7 = .ok (.iconst 0, 1) := dk_3 (dk_at dksX1_distance_0 7 rfl rfl)
theorem dX1_distance_8 : decode cX1_distance 8 = .ok (.istore 5, 2) := dk_54 5 (dk_at dksX1_distance_0 8 rfl rfl)
theorem dX1_distance_10 : decode cX1_distance 10 = .ok (.iload 5, 2) := dk_21 5 (dk_at dksX1_distance_0 10 rfl rfl)
theorem dX1_distance_12 : decode cX1_distance 12 = .ok (.bipush 6, 2) := dk_16 6 (dk_at dksX1_distance_0 12 rfl rfl)
theorem dX1_distance_14 : decode cX1_distance 14 = .ok (.if_icmp .ge 37, 3) := dk_162 0 37 (dk_at dksX1_distance_0 14 rfl rfl)
theorem dX1_distance_17 : decode cX1_distance 17 = .ok (.iload_n 2, 1) := dk_28 (dk_at dksX1_distance_0 17 rfl rfl)
theorem dX1_distance_18 : decode cX1_distance 18 = .ok (.iload_n 3, 1) := dk_29 (dk_at dksX1_distance_0 18 rfl rfl)
theorem dX1_distance_19 : decode cX1_distance 19 = .ok (.bipush 10, 2) := dk_16 10 (dk_at dksX1_distance_0 19 rfl rfl)
theorem dX1_distance_21 : decode cX1_distance 21 = .ok (.irem, 1) := dk_112 (dk_at dksX1_distance_0 21 rfl rfl)
theorem dX1_distance_22 : decode cX1_distance 22 = .ok (.iload 4, 2) := dk_21 4 (dk_at dksX1_distance_0 22 rfl rfl)
theorem dX1_distance_24 : decode cX1_distance 24 = .ok (.bipush 10, 2) := dk_16 10 (dk_at dksX1_distance_1 0 rfl rfl)
theorem dX1_distance_26 : decode cX1_distance 26 = .ok (.irem, 1) := dk_112 (dk_at dksX1_distance_1 2 rfl rfl)
theorem dX1_distance_27 : decode cX1_distance 27 = .ok (.isub, 1) := dk_100 (dk_at dksX1_distance_1 3 rfl rfl)
theorem dX1_distance_28 : decode cX1_distance 28 = .ok (.invokestatic 382, 3) := dk_184 1 126 (dk_at dksX1_distance_1 4 rfl rfl)
theorem dX1_distance_31 : decode cX1_distance 31 = .ok (.iadd, 1) := dk_96 (dk_at dksX1_distance_1 7 rfl rfl)
theorem dX1_distance_32 : decode cX1_distance 32 = .ok (.istore_n 2, 1) := dk_61 (dk_at dksX1_distance_1 8 rfl rfl)
theorem dX1_distance_33 : decode cX1_distance 33 = .ok (.iload_n 3, 1) := dk_29 (dk_at dksX1_distance_1 9 rfl rfl)
theorem dX1_distance_34 : decode cX1_distance 34 = .ok (.bipush 10, 2) := dk_16 10 (dk_at dksX1_distance_1 10 rfl rfl)
theorem dX1_distance_36 : decode cX1_distance 36 = .ok (.idiv, 1) := dk_108 (dk_at dksX1_distance_1 12 rfl rfl)
theorem dX1_distance_37 : decode cX1_distance 37 = .ok (.istore_n 3, 1) := dk_62 (dk_at dksX1_distance_1 13 rfl rfl)
theorem dX1_distance_38 : decode cX1_distance 38 = .ok (.iload 4, 2) := dk_21 4 (dk_at dksX1_distance_1 14 rfl rfl)
theorem dX1_distance_40 : decode cX1_distance 40 = .ok (.bipush 10, 2) := dk_16 10 (dk_at dksX1_distance_1 16 rfl rfl)
theorem dX1_distance_42 : decode cX1_distance 42 = .ok (.idiv, 1) := dk_108 (dk_at dksX1_distance_1 18 rfl rfl)
theorem dX1_distance_43 : decode cX1_distance 43 = .ok (.istore 4, 2) := dk_54 4 (dk_at dksX1_distance_1 19 rfl rfl)
theorem dX1_distance_45 : decode cX1_distance 45 = .ok (.iinc 5 1, 3) := dk_132 5 1 (dk_at dksX1_distance_1 21 rfl rfl)
theorem dX1_distance_48 : decode cX1_distance 48 = .ok (.goto (-38), 3) := dk_167 255 218 (dk_at dksX1_distance_2 0 rfl rfl)
theorem dX1_distance_51 : decode cX1_distance 51 = .ok (.iload_n 2, 1) := dk_28 (dk_at dksX1_distance_2 3 rfl rfl)
theorem dX1_distance_52 : decode cX1_distance 52 = .ok (.ireturn, 1) := dk_172 (dk_at dksX1_distance_2 4 rfl rfl)
abbrev cX1_addStyle : ByteArray := prog_1_method_57_code
def yX1_addStyle : MethodName := ⟨RX1, "addStyle", "(I)I"⟩
def dkwX1_addStyle_2 : List UInt8 := [182, 0, 93, 4, 100, 172]
abbrev dktX1_addStyle_2 : List UInt8 := dkwX1_addStyle_2 ++ []
def dkwX1_addStyle_1 : List UInt8 := [167, 0, 4, 3, 184, 0, 166, 42, 180, 0, 75, 27, 184, 0, 149, 182, 0, 173, 87, 42, 180, 0, 75]
abbrev dktX1_addStyle_1 : List UInt8 := dkwX1_addStyle_1 ++ dktX1_addStyle_2
def dkwX1_addStyle_0 : List UInt8 := [27, 3, 19, 1, 135, 184, 0, 162, 87, 42, 180, 0, 75, 182, 0, 93, 16, 8, 162, 0, 7, 4]
abbrev dktX1_addStyle_0 : List UInt8 := dkwX1_addStyle_0 ++ dktX1_addStyle_1
theorem dksX1_addStyle_0 : cX1_addStyle.data.toList.drop 0 = dktX1_addStyle_0 := by decide +kernel
theorem dksX1_addStyle_1 : cX1_addStyle.data.toList.drop 22 = dktX1_addStyle_1 := dk_seg dksX1_addStyle_0 22 rfl rfl
theorem dksX1_addStyle_2 : cX1_addStyle.data.toList.drop 45 = dktX1_addStyle_2 := dk_seg dksX1_addStyle_1 23 rfl rfl
theorem dX1_addStyle_0 : decode cX1_addStyle 0 = .ok (.iload_n 1, 1) := dk_27 (dk_at dksX1_addStyle_0 0 rfl rfl)
theorem dX1_addStyle_1 : decode cX1_addStyle 1 = .ok (.iconst 0, 1) := dk_3 (dk_at dksX1_addStyle_0 1 rfl rfl)
theorem dX1_addStyle_2 : decode cX1_addStyle 2 = .ok (.ldc_w 391, 3) := dk_19 1 135 (dk_at dksX1_addStyle_0 2 rfl rfl)
theorem dX1_addStyle_5 : decode cX1_addStyle 5 = .ok (.invokestatic 162, 3) := dk_184 0 162 (dk_at dksX1_addStyle_0 5 rfl rfl)
theorem dX1_addStyle_8 : decode cX1_addStyle 8 = .ok (.pop, 1) := dk_87 (dk_at dksX1_addStyle_0 8 rfl rfl)
theorem dX1_addStyle_9 : decode cX1_addStyle 9 = .ok (.aload_n 0, 1) := dk_42 (dk_at dksX1_addStyle_0 9 rfl rfl)
theorem dX1_addStyle_10 : decode cX1_addStyle 10 = .ok (.getfield 75, 3) := dk_180 0 75 (dk_at dksX1_addStyle_0 10 rfl rfl)
theorem dX1_addStyle_13 : decode cX1_addStyle 13 = .ok (.invokevirtual 93, 3) := dk_182 0 93 (dk_at dksX1_addStyle_0 13 rfl rfl)
theorem dX1_addStyle_16 : decode cX1_addStyle 16 = .ok (.bipush 8, 2) := dk_16 8 (dk_at dksX1_addStyle_0 16 rfl rfl)
theorem dX1_addStyle_18 : decode cX1_addStyle 18 = .ok (.if_icmp .ge 7, 3) := dk_162 0 7 (dk_at dksX1_addStyle_0 18 rfl rfl)
theorem dX1_addStyle_21 : decode cX1_addStyle 21 = .ok (.iconst 1, 1) := dk_4 (dk_at dksX1_addStyle_0 21 rfl rfl)
theorem dX1_addStyle_22 : decode cX1_addStyle 22 = .ok (.goto 4, 3) := dk_167 0 4 (dk_at dksX1_addStyle_1 0 rfl rfl)
theorem dX1_addStyle_25 : decode cX1_addStyle 25 = .ok (.iconst 0, 1) := dk_3 (dk_at dksX1_addStyle_1 3 rfl rfl)
theorem dX1_addStyle_26 : decode cX1_addStyle 26 = .ok (.invokestatic 166, 3) := dk_184 0 166 (dk_at dksX1_addStyle_1 4 rfl rfl)
theorem dX1_addStyle_29 : decode cX1_addStyle 29 = .ok (.aload_n 0, 1) := dk_42 (dk_at dksX1_addStyle_1 7 rfl rfl)
theorem dX1_addStyle_30 : decode cX1_addStyle 30 = .ok (.getfield 75, 3) := dk_180 0 75 (dk_at dksX1_addStyle_1 8 rfl rfl)
theorem dX1_addStyle_33 : decode cX1_addStyle 33 = .ok (.iload_n 1, 1) := dk_27 (dk_at dksX1_addStyle_1 11 rfl rfl)
theorem dX1_addStyle_34 : decode cX1_addStyle 34 = .ok (.invokestatic 149, 3) := dk_184 0 149 (dk_at dksX1_addStyle_1 12 rfl rfl)
theorem dX1_addStyle_37 : decode cX1_addStyle 37 = .ok (.invokevirtual 173, 3) := dk_182 0 173 (dk_at dksX1_addStyle_1 15 rfl rfl)
theorem dX1_addStyle_40 : decode cX1_addStyle 40 = .ok (.pop, 1) := dk_87 (dk_at dksX1_addStyle_1 18 rfl rfl)
theorem dX1_addStyle_41 : decode cX1_addStyle 41 = .ok (.aload_n 0, 1) := dk_42 (dk_at dksX1_addStyle_1 19 rfl rfl)
theorem dX1_addStyle_42 : decode cX1_addStyle 42 = .ok (.getfield 75, 3) := dk_180 0 75 (dk_at dksX1_addStyle_1 20 rfl rfl)
theorem dX1_addStyle_45 : decode cX1_addStyle 45 = .ok (.invokevirtual 93, 3) := dk_182 0 93 (dk_at dksX1_addStyle_2 0 rfl rfl)
theorem dX1_addStyle_48 : decode cX1_addStyle 48 = .ok (.iconst 1, 1) := dk_4 (dk_at dksX1_addStyle_2 3 rfl rfl)
theorem dX1_addStyle_49 : decode cX1_addStyle 49 = .ok (.isub, 1) := dk_100 (dk_at dksX1_addStyle_2 4 rfl rfl)
theorem dX1_addStyle_50 : decode cX1_addStyle 50 = .ok (.ireturn, 1) := dk_172 (dk_at dksX1_addStyle_2 5 rfl rfl)
abbrev cX1_styleOf : ByteArray := prog_1_method_58_code
def yX1_styleOf : MethodName := ⟨RX1, "styleOf", "(I)I"⟩
def dkwX1_styleOf_0 : List UInt8 := [42, 42, 27, 182, 0, 210, 180, 1, 136, 182, 1, 139, 172]
abbrev dktX1_styleOf_0 : List UInt8 := dkwX1_styleOf_0 ++ []
theorem dksX1_styleOf_0 : cX1_styleOf.data.toList.drop 0 = dktX1_styleOf_0 := by decide +kernel
theorem dX1_styleOf_0 : decode cX1_styleOf 0 = .ok (.aload_n 0, 1) := dk_42 (dk_at dksX1_styleOf_0 0 rfl rfl)
theorem dX1_styleOf_1 : decode cX1_styleOf 1 = .ok (.aload_n 0, 1) := dk_42 (dk_at dksX1_styleOf_0 1 rfl rfl)
theorem dX1_styleOf_2 : decode cX1_styleOf 2 = .ok (.iload_n 1, 1) := dk_27 (dk_at dksX1_styleOf_0 2 rfl rfl)
theorem dX1_styleOf_3 : decode cX1_styleOf 3 = .ok (.invokevirtual 210, 3) := dk_182 0 210 (dk_at dksX1_styleOf_0 3 rfl rfl)
theorem dX1_styleOf_6 : decode cX1_styleOf 6 = .ok (.getfield 392, 3) := dk_180 1 136 (dk_at dksX1_styleOf_0 6 rfl rfl)
theorem dX1_styleOf_9 : decode cX1_styleOf 9 = .ok (.invokevirtual 395, 3) := dk_182 1 139 (dk_at dksX1_styleOf_0 9 rfl rfl)
theorem dX1_styleOf_12 : decode cX1_styleOf 12 = .ok (.ireturn, 1) := dk_172 (dk_at dksX1_styleOf_0 12 rfl rfl)
abbrev cX1_addEntry : ByteArray := prog_1_method_59_code
def yX1_addEntry : MethodName := ⟨RX1, "addEntry", "(II)I"⟩
def dkwX1_addEntry_3 : List UInt8 := [182, 0, 173, 87, 42, 180, 0, 78, 182, 0, 93, 4, 100, 172]
abbrev dktX1_addEntry_3 : List UInt8 := dkwX1_addEntry_3 ++ []
def dkwX1_addEntry_2 : List UInt8 := [162, 0, 7, 4, 167, 0, 4, 3, 184, 0, 166, 42, 180, 0, 78, 187, 1, 143, 89, 45, 28, 183, 1, 145]
abbrev dktX1_addEntry_2 : List UInt8 := dkwX1_addEntry_2 ++ dktX1_addEntry_3
def dkwX1_addEntry_1 : List UInt8 := [162, 0, 29, 42, 180, 0, 78, 182, 0, 93, 42, 45, 186, 1, 142, 0, 0, 184, 0, 100, 16, 8]
abbrev dktX1_addEntry_1 : List UInt8 := dkwX1_addEntry_1 ++ dktX1_addEntry_2
def dkwX1_addEntry_0 : List UInt8 := [42, 27, 182, 0, 177, 78, 28, 3, 19, 1, 135, 184, 0, 162, 87, 42, 180, 0, 78, 182, 0, 93, 16, 30]
abbrev dktX1_addEntry_0 : List UInt8 := dkwX1_addEntry_0 ++ dktX1_addEntry_1
theorem dksX1_addEntry_0 : cX1_addEntry.data.toList.drop 0 = dktX1_addEntry_0 := by decide +kernel
theorem dksX1_addEntry_1 : cX1_addEntry.data.toList.drop 24 = dktX1_addEntry_1 := dk_seg dksX1_addEntry_0 24 rfl rfl
theorem dksX1_addEntry_2 : cX1_addEntry.data.toList.drop 46 = dktX1_addEntry_2 := dk_seg dksX1_addEntry_1 22 rfl rfl
theorem dksX1_addEntry_3 : cX1_addEntry.data.toList.drop 70 = dktX1_addEntry_3 := dk_seg dksX1_addEntry_2 24 rfl rfl
theorem dX1_addEntry_0 : decode cX1_addEntry 0 = .ok (.aload_n 0, 1) := dk_42 (dk_at dksX1_addEntry_0 0 rfl rfl)
theorem dX1_addEntry_1 : decode cX1_addEntry 1 = .ok (.iload_n 1, 1) := dk_27 (dk_at dksX1_addEntry_0 1 rfl rfl)
theorem dX1_addEntry_2 : decode cX1_addEntry 2 = .ok (.invokevirtual 177, 3) := dk_182 0 177 (dk_at dksX1_addEntry_0 2 rfl rfl)
theorem dX1_addEntry_5 : decode cX1_addEntry 5 = .ok (.astore_n 3, 1) := dk_78 (dk_at dksX1_addEntry_0 5 rfl rfl)
theorem dX1_addEntry_6 : decode cX1_addEntry 6 = .ok (.iload_n 2, 1) := dk_28 (dk_at dksX1_addEntry_0 6 rfl rfl)
theorem dX1_addEntry_7 : decode cX1_addEntry 7 = .ok (.iconst 0, 1) := dk_3 (dk_at dksX1_addEntry_0 7 rfl rfl)
theorem dX1_addEntry_8 : decode cX1_addEntry 8 = .ok (.ldc_w 391, 3) := dk_19 1 135 (dk_at dksX1_addEntry_0 8 rfl rfl)
theorem dX1_addEntry_11 : decode cX1_addEntry 11 = .ok (.invokestatic 162, 3) := dk_184 0 162 (dk_at dksX1_addEntry_0 11 rfl rfl)
theorem dX1_addEntry_14 : decode cX1_addEntry 14 = .ok (.pop, 1) := dk_87 (dk_at dksX1_addEntry_0 14 rfl rfl)
theorem dX1_addEntry_15 : decode cX1_addEntry 15 = .ok (.aload_n 0, 1) := dk_42 (dk_at dksX1_addEntry_0 15 rfl rfl)
theorem dX1_addEntry_16 : decode cX1_addEntry 16 = .ok (.getfield 78, 3) := dk_180 0 78 (dk_at dksX1_addEntry_0 16 rfl rfl)
theorem dX1_addEntry_19 : decode cX1_addEntry 19 = .ok (.invokevirtual 93, 3) := dk_182 0 93 (dk_at dksX1_addEntry_0 19 rfl rfl)
theorem dX1_addEntry_22 : decode cX1_addEntry 22 = .ok (.bipush 30, 2) := dk_16 30 (dk_at dksX1_addEntry_0 22 rfl rfl)
theorem dX1_addEntry_24 : decode cX1_addEntry 24 = .ok (.if_icmp .ge 29, 3) := dk_162 0 29 (dk_at dksX1_addEntry_1 0 rfl rfl)
theorem dX1_addEntry_27 : decode cX1_addEntry 27 = .ok (.aload_n 0, 1) := dk_42 (dk_at dksX1_addEntry_1 3 rfl rfl)
theorem dX1_addEntry_28 : decode cX1_addEntry 28 = .ok (.getfield 78, 3) := dk_180 0 78 (dk_at dksX1_addEntry_1 4 rfl rfl)
theorem dX1_addEntry_31 : decode cX1_addEntry 31 = .ok (.invokevirtual 93, 3) := dk_182 0 93 (dk_at dksX1_addEntry_1 7 rfl rfl)
theorem dX1_addEntry_34 : decode cX1_addEntry 34 = .ok (.aload_n 0, 1) := dk_42 (dk_at dksX1_addEntry_1 10 rfl rfl)
theorem dX1_addEntry_35 : decode cX1_addEntry 35 = .ok (.aload_n 3, 1) := dk_45 (dk_at dksX1_addEntry_1 11 rfl rfl)
theorem dX1_addEntry_36 : decode cX1_addEntry 36 = .ok (.invokedynamic 398, 5) := by decide +kernel
theorem dX1_addEntry_41 : decode cX1_addEntry 41 = .ok (.invokestatic 100, 3) := dk_184 0 100 (dk_at dksX1_addEntry_1 17 rfl rfl)
theorem dX1_addEntry_44 : decode cX1_addEntry 44 = .ok (.bipush 8, 2) := dk_16 8 (dk_at dksX1_addEntry_1 20 rfl rfl)
theorem dX1_addEntry_46 : decode cX1_addEntry 46 = .ok (.if_icmp .ge 7, 3) := dk_162 0 7 (dk_at dksX1_addEntry_2 0 rfl rfl)
theorem dX1_addEntry_49 : decode cX1_addEntry 49 = .ok (.iconst 1, 1) := dk_4 (dk_at dksX1_addEntry_2 3 rfl rfl)
theorem dX1_addEntry_50 : decode cX1_addEntry 50 = .ok (.goto 4, 3) := dk_167 0 4 (dk_at dksX1_addEntry_2 4 rfl rfl)
theorem dX1_addEntry_53 : decode cX1_addEntry 53 = .ok (.iconst 0, 1) := dk_3 (dk_at dksX1_addEntry_2 7 rfl rfl)
theorem dX1_addEntry_54 : decode cX1_addEntry 54 = .ok (.invokestatic 166, 3) := dk_184 0 166 (dk_at dksX1_addEntry_2 8 rfl rfl)
theorem dX1_addEntry_57 : decode cX1_addEntry 57 = .ok (.aload_n 0, 1) := dk_42 (dk_at dksX1_addEntry_2 11 rfl rfl)
theorem dX1_addEntry_58 : decode cX1_addEntry 58 = .ok (.getfield 78, 3) := dk_180 0 78 (dk_at dksX1_addEntry_2 12 rfl rfl)
theorem dX1_addEntry_61 : decode cX1_addEntry 61 = .ok (.new 399, 3) := dk_187 1 143 (dk_at dksX1_addEntry_2 15 rfl rfl)
theorem dX1_addEntry_64 : decode cX1_addEntry 64 = .ok (.dup, 1) := dk_89 (dk_at dksX1_addEntry_2 18 rfl rfl)
theorem dX1_addEntry_65 : decode cX1_addEntry 65 = .ok (.aload_n 3, 1) := dk_45 (dk_at dksX1_addEntry_2 19 rfl rfl)
theorem dX1_addEntry_66 : decode cX1_addEntry 66 = .ok (.iload_n 2, 1) := dk_28 (dk_at dksX1_addEntry_2 20 rfl rfl)
theorem dX1_addEntry_67 : decode cX1_addEntry 67 = .ok (.invokespecial 401, 3) := dk_183 1 145 (dk_at dksX1_addEntry_2 21 rfl rfl)
theorem dX1_addEntry_70 : decode cX1_addEntry 70 = .ok (.invokevirtual 173, 3) := dk_182 0 173 (dk_at dksX1_addEntry_3 0 rfl rfl)
theorem dX1_addEntry_73 : decode cX1_addEntry 73 = .ok (.pop, 1) := dk_87 (dk_at dksX1_addEntry_3 3 rfl rfl)
theorem dX1_addEntry_74 : decode cX1_addEntry 74 = .ok (.aload_n 0, 1) := dk_42 (dk_at dksX1_addEntry_3 4 rfl rfl)
theorem dX1_addEntry_75 : decode cX1_addEntry 75 = .ok (.getfield 78, 3) := dk_180 0 78 (dk_at dksX1_addEntry_3 5 rfl rfl)
theorem dX1_addEntry_78 : decode cX1_addEntry 78 = .ok (.invokevirtual 93, 3) := dk_182 0 93 (dk_at dksX1_addEntry_3 8 rfl rfl)
theorem dX1_addEntry_81 : decode cX1_addEntry 81 = .ok (.iconst 1, 1) := dk_4 (dk_at dksX1_addEntry_3 11 rfl rfl)
theorem dX1_addEntry_82 : decode cX1_addEntry 82 = .ok (.isub, 1) := dk_100 (dk_at dksX1_addEntry_3 12 rfl rfl)
theorem dX1_addEntry_83 : decode cX1_addEntry 83 = .ok (.ireturn, 1) := dk_172 (dk_at dksX1_addEntry_3 13 rfl rfl)
abbrev cX1_lambda_addEntry_2 : ByteArray := prog_1_method_83_code
def yX1_lambda_addEntry_2 : MethodName := ⟨RX1, "lambda$addEntry$2", "(LFigureSurvey$Panel;I)Z"⟩
def dkwX1_lambda_addEntry_2_0 : List UInt8 := [42, 180, 0, 78, 28, 182, 0, 141, 192, 1, 143, 180, 1, 149, 43, 166, 0, 7, 4, 167, 0, 4, 3, 172]
abbrev dktX1_lambda_addEntry_2_0 : List UInt8 := dkwX1_lambda_addEntry_2_0 ++ []
theorem dksX1_lambda_addEntry_2_0 : cX1_lambda_addEntry_2.data.toList.drop 0 = dktX1_lambda_addEntry_2_0 := by decide +kernel
theorem dX1_lambda_addEntry_2_0 : decode cX1_lambda_addEntry_2 0 = .ok (.aload_n 0, 1) := dk_42 (dk_at dksX1_lambda_addEntry_2_0 0 rfl rfl)
theorem dX1_lambda_addEntry_2_1 : decode cX1_lambda_addEntry_2 1 = .ok (.getfield 78, 3) := dk_180 0 78 (dk_at dksX1_lambda_addEntry_2_0 1 rfl rfl)
theorem dX1_lambda_addEntry_2_4 : decode cX1_lambda_addEntry_2 4 = .ok (.iload_n 2, 1) := dk_28 (dk_at dksX1_lambda_addEntry_2_0 4 rfl rfl)
theorem dX1_lambda_addEntry_2_5 : decode cX1_lambda_addEntry_2 5 = .ok (.invokevirtual 141, 3) := dk_182 0 141 (dk_at dksX1_lambda_addEntry_2_0 5 rfl rfl)
theorem dX1_lambda_addEntry_2_8 : decode cX1_lambda_addEntry_2 8 = .ok (.checkcast 399, 3) := dk_192 1 143 (dk_at dksX1_lambda_addEntry_2_0 8 rfl rfl)
theorem dX1_lambda_addEntry_2_11 : decode cX1_lambda_addEntry_2 11 = .ok (.getfield 405, 3) := dk_180 1 149 (dk_at dksX1_lambda_addEntry_2_0 11 rfl rfl)
theorem dX1_lambda_addEntry_2_14 : decode cX1_lambda_addEntry_2 14 = .ok (.aload_n 1, 1) := dk_43 (dk_at dksX1_lambda_addEntry_2_0 14 rfl rfl)
theorem dX1_lambda_addEntry_2_15 : decode cX1_lambda_addEntry_2 15 = .ok (.if_acmp .ne 7, 3) := dk_166 0 7 (dk_at dksX1_lambda_addEntry_2_0 15 rfl rfl)
theorem dX1_lambda_addEntry_2_18 : decode cX1_lambda_addEntry_2 18 = .ok (.iconst 1, 1) := dk_4 (dk_at dksX1_lambda_addEntry_2_0 18 rfl rfl)
theorem dX1_lambda_addEntry_2_19 : decode cX1_lambda_addEntry_2 19 = .ok (.goto 4, 3) := dk_167 0 4 (dk_at dksX1_lambda_addEntry_2_0 19 rfl rfl)
theorem dX1_lambda_addEntry_2_22 : decode cX1_lambda_addEntry_2 22 = .ok (.iconst 0, 1) := dk_3 (dk_at dksX1_lambda_addEntry_2_0 22 rfl rfl)
theorem dX1_lambda_addEntry_2_23 : decode cX1_lambda_addEntry_2 23 = .ok (.ireturn, 1) := dk_172 (dk_at dksX1_lambda_addEntry_2_0 23 rfl rfl)
abbrev cX1_figureFor : ByteArray := prog_1_method_61_code
def yX1_figureFor : MethodName := ⟨RX1, "figureFor", "(I)I"⟩
def dkwX1_figureFor_11 : List UInt8 := [21, 5, 4, 21, 7, 120, 128, 54, 5, 132, 6, 1, 167, 255, 108]
abbrev dktX1_figureFor_11 : List UInt8 := dkwX1_figureFor_11 ++ []
def dkwX1_figureFor_10 : List UInt8 := [25, 4, 21, 7, 182, 0, 141, 192, 0, 32, 180, 1, 103, 172, 21, 7, 25, 4, 182, 0, 93, 162, 0, 12]
abbrev dktX1_figureFor_10 : List UInt8 := dkwX1_figureFor_10 ++ dktX1_figureFor_11
def dkwX1_figureFor_9 : List UInt8 := [21, 6, 182, 0, 141, 44, 166, 0, 31, 21, 7, 25, 4, 182, 0, 93, 160, 0, 7, 2, 167, 0, 16]
abbrev dktX1_figureFor_9 : List UInt8 := dkwX1_figureFor_9 ++ dktX1_figureFor_10
def dkwX1_figureFor_8 : List UInt8 := [128, 46, 96, 42, 180, 0, 90, 21, 6, 50, 21, 5, 46, 159, 0, 9, 132, 7, 1, 167, 255, 174, 45]
abbrev dktX1_figureFor_8 : List UInt8 := dkwX1_figureFor_8 ++ dktX1_figureFor_9
def dkwX1_figureFor_7 : List UInt8 := [192, 0, 32, 180, 1, 136, 184, 1, 132, 42, 180, 0, 90, 21, 6, 4, 96, 50, 21, 5, 4, 21, 7, 120]
abbrev dktX1_figureFor_7 : List UInt8 := dkwX1_figureFor_7 ++ dktX1_figureFor_8
def dkwX1_figureFor_6 : List UInt8 := [154, 0, 62, 45, 21, 6, 182, 0, 141, 192, 1, 143, 180, 1, 148, 25, 4, 21, 7, 182, 0, 141]
abbrev dktX1_figureFor_6 : List UInt8 := dkwX1_figureFor_6 ++ dktX1_figureFor_7
def dkwX1_figureFor_5 : List UInt8 := [3, 54, 6, 3, 54, 7, 21, 7, 25, 4, 182, 0, 93, 162, 0, 78, 21, 5, 21, 7, 184, 0, 14]
abbrev dktX1_figureFor_5 : List UInt8 := dkwX1_figureFor_5 ++ dktX1_figureFor_6
def dkwX1_figureFor_4 : List UInt8 := [89, 42, 44, 180, 1, 149, 183, 0, 37, 180, 1, 100, 58, 4, 42, 45, 25, 4, 182, 1, 150, 3, 54, 5]
abbrev dktX1_figureFor_4 : List UInt8 := dkwX1_figureFor_4 ++ dktX1_figureFor_5
def dkwX1_figureFor_3 : List UInt8 := [180, 0, 78, 21, 4, 182, 0, 141, 192, 1, 143, 182, 0, 173, 87, 132, 4, 1, 167, 255, 202, 187, 0, 29]
abbrev dktX1_figureFor_3 : List UInt8 := dkwX1_figureFor_3 ++ dktX1_figureFor_4
def dkwX1_figureFor_2 : List UInt8 := [180, 0, 78, 21, 4, 182, 0, 141, 192, 1, 143, 180, 1, 149, 44, 180, 1, 149, 166, 0, 20, 45, 42]
abbrev dktX1_figureFor_2 : List UInt8 := dkwX1_figureFor_2 ++ dktX1_figureFor_3
def dkwX1_figureFor_1 : List UInt8 := [187, 0, 46, 89, 183, 0, 48, 78, 3, 54, 4, 21, 4, 42, 180, 0, 78, 182, 0, 93, 162, 0, 48, 42]
abbrev dktX1_figureFor_1 : List UInt8 := dkwX1_figureFor_1 ++ dktX1_figureFor_2
def dkwX1_figureFor_0 : List UInt8 := [42, 180, 0, 78, 27, 42, 180, 0, 78, 182, 0, 93, 184, 0, 138, 182, 0, 141, 192, 1, 143, 77]
abbrev dktX1_figureFor_0 : List UInt8 := dkwX1_figureFor_0 ++ dktX1_figureFor_1
theorem dksX1_figureFor_0 : cX1_figureFor.data.toList.drop 0 = dktX1_figureFor_0 := by decide +kernel
theorem dksX1_figureFor_1 : cX1_figureFor.data.toList.drop 22 = dktX1_figureFor_1 := dk_seg dksX1_figureFor_0 22 rfl rfl
theorem dksX1_figureFor_2 : cX1_figureFor.data.toList.drop 46 = dktX1_figureFor_2 := dk_seg dksX1_figureFor_1 24 rfl rfl
theorem dksX1_figureFor_3 : cX1_figureFor.data.toList.drop 69 = dktX1_figureFor_3 := dk_seg dksX1_figureFor_2 23 rfl rfl
theorem dksX1_figureFor_4 : cX1_figureFor.data.toList.drop 93 = dktX1_figureFor_4 := dk_seg dksX1_figureFor_3 24 rfl rfl
theorem dksX1_figureFor_5 : cX1_figureFor.data.toList.drop 117 = dktX1_figureFor_5 := dk_seg dksX1_figureFor_4 24 rfl rfl
theorem dksX1_figureFor_6 : cX1_figureFor.data.toList.drop 140 = dktX1_figureFor_6 := dk_seg dksX1_figureFor_5 23 rfl rfl
theorem dksX1_figureFor_7 : cX1_figureFor.data.toList.drop 162 = dktX1_figureFor_7 := dk_seg dksX1_figureFor_6 22 rfl rfl
theorem dksX1_figureFor_8 : cX1_figureFor.data.toList.drop 186 = dktX1_figureFor_8 := dk_seg dksX1_figureFor_7 24 rfl rfl
theorem dksX1_figureFor_9 : cX1_figureFor.data.toList.drop 209 = dktX1_figureFor_9 := dk_seg dksX1_figureFor_8 23 rfl rfl
theorem dksX1_figureFor_10 : cX1_figureFor.data.toList.drop 232 = dktX1_figureFor_10 := dk_seg dksX1_figureFor_9 23 rfl rfl
theorem dksX1_figureFor_11 : cX1_figureFor.data.toList.drop 256 = dktX1_figureFor_11 := dk_seg dksX1_figureFor_10 24 rfl rfl
theorem dX1_figureFor_0 : decode cX1_figureFor 0 = .ok (.aload_n 0, 1) := dk_42 (dk_at dksX1_figureFor_0 0 rfl rfl)
theorem dX1_figureFor_1 : decode cX1_figureFor 1 = .ok (.getfield 78, 3) := dk_180 0 78 (dk_at dksX1_figureFor_0 1 rfl rfl)
theorem dX1_figureFor_4 : decode cX1_figureFor 4 = .ok (.iload_n 1, 1) := dk_27 (dk_at dksX1_figureFor_0 4 rfl rfl)
theorem dX1_figureFor_5 : decode cX1_figureFor 5 = .ok (.aload_n 0, 1) := dk_42 (dk_at dksX1_figureFor_0 5 rfl rfl)
theorem dX1_figureFor_6 : decode cX1_figureFor 6 = .ok (.getfield 78, 3) := dk_180 0 78 (dk_at dksX1_figureFor_0 6 rfl rfl)
theorem dX1_figureFor_9 : decode cX1_figureFor 9 = .ok (.invokevirtual 93, 3) := dk_182 0 93 (dk_at dksX1_figureFor_0 9 rfl rfl)
theorem dX1_figureFor_12 : decode cX1_figureFor 12 = .ok (.invokestatic 138, 3) := dk_184 0 138 (dk_at dksX1_figureFor_0 12 rfl rfl)
theorem dX1_figureFor_15 : decode cX1_figureFor 15 = .ok (.invokevirtual 141, 3) := dk_182 0 141 (dk_at dksX1_figureFor_0 15 rfl rfl)
theorem dX1_figureFor_18 : decode cX1_figureFor 18 = .ok (.checkcast 399, 3) := dk_192 1 143 (dk_at dksX1_figureFor_0 18 rfl rfl)
theorem dX1_figureFor_21 : decode cX1_figureFor 21 = .ok (.astore_n 2, 1) := dk_77 (dk_at dksX1_figureFor_0 21 rfl rfl)
theorem dX1_figureFor_22 : decode cX1_figureFor 22 = .ok (.new 46, 3) := dk_187 0 46 (dk_at dksX1_figureFor_1 0 rfl rfl)
theorem dX1_figureFor_25 : decode cX1_figureFor 25 = .ok (.dup, 1) := dk_89 (dk_at dksX1_figureFor_1 3 rfl rfl)
theorem dX1_figureFor_26 : decode cX1_figureFor 26 = .ok (.invokespecial 48, 3) := dk_183 0 48 (dk_at dksX1_figureFor_1 4 rfl rfl)
theorem dX1_figureFor_29 : decode cX1_figureFor 29 = .ok (.astore_n 3, 1) := dk_78 (dk_at dksX1_figureFor_1 7 rfl rfl)
theorem dX1_figureFor_30 : decode cX1_figureFor 30 = .ok (.iconst 0, 1) := dk_3 (dk_at dksX1_figureFor_1 8 rfl rfl)
theorem dX1_figureFor_31 : decode cX1_figureFor 31 = .ok (.istore 4, 2) := dk_54 4 (dk_at dksX1_figureFor_1 9 rfl rfl)
theorem dX1_figureFor_33 : decode cX1_figureFor 33 = .ok (.iload 4, 2) := dk_21 4 (dk_at dksX1_figureFor_1 11 rfl rfl)
theorem dX1_figureFor_35 : decode cX1_figureFor 35 = .ok (.aload_n 0, 1) := dk_42 (dk_at dksX1_figureFor_1 13 rfl rfl)
theorem dX1_figureFor_36 : decode cX1_figureFor 36 = .ok (.getfield 78, 3) := dk_180 0 78 (dk_at dksX1_figureFor_1 14 rfl rfl)
theorem dX1_figureFor_39 : decode cX1_figureFor 39 = .ok (.invokevirtual 93, 3) := dk_182 0 93 (dk_at dksX1_figureFor_1 17 rfl rfl)
theorem dX1_figureFor_42 : decode cX1_figureFor 42 = .ok (.if_icmp .ge 48, 3) := dk_162 0 48 (dk_at dksX1_figureFor_1 20 rfl rfl)
theorem dX1_figureFor_45 : decode cX1_figureFor 45 = .ok (.aload_n 0, 1) := dk_42 (dk_at dksX1_figureFor_1 23 rfl rfl)
theorem dX1_figureFor_46 : decode cX1_figureFor 46 = .ok (.getfield 78, 3) := dk_180 0 78 (dk_at dksX1_figureFor_2 0 rfl rfl)
theorem dX1_figureFor_49 : decode cX1_figureFor 49 = .ok (.iload 4, 2) := dk_21 4 (dk_at dksX1_figureFor_2 3 rfl rfl)
theorem dX1_figureFor_51 : decode cX1_figureFor 51 = .ok (.invokevirtual 141, 3) := dk_182 0 141 (dk_at dksX1_figureFor_2 5 rfl rfl)
theorem dX1_figureFor_54 : decode cX1_figureFor 54 = .ok (.checkcast 399, 3) := dk_192 1 143 (dk_at dksX1_figureFor_2 8 rfl rfl)
theorem dX1_figureFor_57 : decode cX1_figureFor 57 = .ok (.getfield 405, 3) := dk_180 1 149 (dk_at dksX1_figureFor_2 11 rfl rfl)
theorem dX1_figureFor_60 : decode cX1_figureFor 60 = .ok (.aload_n 2, 1) := dk_44 (dk_at dksX1_figureFor_2 14 rfl rfl)
theorem dX1_figureFor_61 : decode cX1_figureFor 61 = .ok (.getfield 405, 3) := dk_180 1 149 (dk_at dksX1_figureFor_2 15 rfl rfl)
theorem dX1_figureFor_64 : decode cX1_figureFor 64 = .ok (.if_acmp .ne 20, 3) := dk_166 0 20 (dk_at dksX1_figureFor_2 18 rfl rfl)
theorem dX1_figureFor_67 : decode cX1_figureFor 67 = .ok (.aload_n 3, 1) := dk_45 (dk_at dksX1_figureFor_2 21 rfl rfl)
theorem dX1_figureFor_68 : decode cX1_figureFor 68 = .ok (.aload_n 0, 1) := dk_42 (dk_at dksX1_figureFor_2 22 rfl rfl)
theorem dX1_figureFor_69 : decode cX1_figureFor 69 = .ok (.getfield 78, 3) := dk_180 0 78 (dk_at dksX1_figureFor_3 0 rfl rfl)
theorem dX1_figureFor_72 : decode cX1_figureFor 72 = .ok (.iload 4, 2) := dk_21 4 (dk_at dksX1_figureFor_3 3 rfl rfl)
theorem dX1_figureFor_74 : decode cX1_figureFor 74 = .ok (.invokevirtual 141, 3) := dk_182 0 141 (dk_at dksX1_figureFor_3 5 rfl rfl)
theorem dX1_figureFor_77 : decode cX1_figureFor 77 = .ok (.checkcast 399, 3) := dk_192 1 143 (dk_at dksX1_figureFor_3 8 rfl rfl)
theorem dX1_figureFor_80 : decode cX1_figureFor 80 = .ok (.invokevirtual 173, 3) := dk_182 0 173 (dk_at dksX1_figureFor_3 11 rfl rfl)
theorem dX1_figureFor_83 : decode cX1_figureFor 83 = .ok (.pop, 1) := dk_87 (dk_at dksX1_figureFor_3 14 rfl rfl)
theorem dX1_figureFor_84 : decode cX1_figureFor 84 = .ok (.iinc 4 1, 3) := dk_132 4 1 (dk_at dksX1_figureFor_3 15 rfl rfl)
theorem dX1_figureFor_87 : decode cX1_figureFor 87 = .ok (.goto (-54), 3) := dk_167 255 202 (dk_at dksX1_figureFor_3 18 rfl rfl)
theorem dX1_figureFor_90 : decode cX1_figureFor 90 = .ok (.new 29, 3) := dk_187 0 29 (dk_at dksX1_figureFor_3 21 rfl rfl)
theorem dX1_figureFor_93 : decode cX1_figureFor 93 = .ok (.dup, 1) := dk_89 (dk_at dksX1_figureFor_4 0 rfl rfl)
theorem dX1_figureFor_94 : decode cX1_figureFor 94 = .ok (.aload_n 0, 1) := dk_42 (dk_at dksX1_figureFor_4 1 rfl rfl)
theorem dX1_figureFor_95 : decode cX1_figureFor 95 = .ok (.aload_n 2, 1) := dk_44 (dk_at dksX1_figureFor_4 2 rfl rfl)
theorem dX1_figureFor_96 : decode cX1_figureFor 96 = .ok (.getfield 405, 3) := dk_180 1 149 (dk_at dksX1_figureFor_4 3 rfl rfl)
theorem dX1_figureFor_99 : decode cX1_figureFor 99 = .ok (.invokespecial 37, 3) := dk_183 0 37 (dk_at dksX1_figureFor_4 6 rfl rfl)
theorem dX1_figureFor_102 : decode cX1_figureFor 102 = .ok (.getfield 356, 3) := dk_180 1 100 (dk_at dksX1_figureFor_4 9 rfl rfl)
theorem dX1_figureFor_105 : decode cX1_figureFor 105 = .ok (.astore 4, 2) := dk_58 4 (dk_at dksX1_figureFor_4 12 rfl rfl)
theorem dX1_figureFor_107 : decode cX1_figureFor 107 = .ok (.aload_n 0, 1) := dk_42 (dk_at dksX1_figureFor_4 14 rfl rfl)
theorem dX1_figureFor_108 : decode cX1_figureFor 108 = .ok (.aload_n 3, 1) := dk_45 (dk_at dksX1_figureFor_4 15 rfl rfl)
theorem dX1_figureFor_109 : decode cX1_figureFor 109 = .ok (.aload 4, 2) := dk_25 4 (dk_at dksX1_figureFor_4 16 rfl rfl)
theorem dX1_figureFor_111 : decode cX1_figureFor 111 = .ok (.invokevirtual 406, 3) := dk_182 1 150 (dk_at dksX1_figureFor_4 18 rfl rfl)
theorem dX1_figureFor_114 : decode cX1_figureFor 114 = .ok (.iconst 0, 1) := dk_3 (dk_at dksX1_figureFor_4 21 rfl rfl)
theorem dX1_figureFor_115 : decode cX1_figureFor 115 = .ok (.istore 5, 2) := dk_54 5 (dk_at dksX1_figureFor_4 22 rfl rfl)
theorem dX1_figureFor_117 : decode cX1_figureFor 117 = .ok (.iconst 0, 1) := dk_3 (dk_at dksX1_figureFor_5 0 rfl rfl)
theorem dX1_figureFor_118 : decode cX1_figureFor 118 = .ok (.istore 6, 2) := dk_54 6 (dk_at dksX1_figureFor_5 1 rfl rfl)
theorem dX1_figureFor_120 : decode cX1_figureFor 120 = .ok (.iconst 0, 1) := dk_3 (dk_at dksX1_figureFor_5 3 rfl rfl)
theorem dX1_figureFor_121 : decode cX1_figureFor 121 = .ok (.istore 7, 2) := dk_54 7 (dk_at dksX1_figureFor_5 4 rfl rfl)
theorem dX1_figureFor_123 : decode cX1_figureFor 123 = .ok (.iload 7, 2) := dk_21 7 (dk_at dksX1_figureFor_5 6 rfl rfl)
theorem dX1_figureFor_125 : decode cX1_figureFor 125 = .ok (.aload 4, 2) := dk_25 4 (dk_at dksX1_figureFor_5 8 rfl rfl)
theorem dX1_figureFor_127 : decode cX1_figureFor 127 = .ok (.invokevirtual 93, 3) := dk_182 0 93 (dk_at dksX1_figureFor_5 10 rfl rfl)
theorem dX1_figureFor_130 : decode cX1_figureFor 130 = .ok (.if_icmp .ge 78, 3) := dk_162 0 78 (dk_at dksX1_figureFor_5 13 rfl rfl)
theorem dX1_figureFor_133 : decode cX1_figureFor 133 = .ok (.iload 5, 2) := dk_21 5 (dk_at dksX1_figureFor_5 16 rfl rfl)
theorem dX1_figureFor_135 : decode cX1_figureFor 135 = .ok (.iload 7, 2) := dk_21 7 (dk_at dksX1_figureFor_5 18 rfl rfl)
theorem dX1_figureFor_137 : decode cX1_figureFor 137 = .ok (.invokestatic 14, 3) := dk_184 0 14 (dk_at dksX1_figureFor_5 20 rfl rfl)
theorem dX1_figureFor_140 : decode cX1_figureFor 140 = .ok (.ifCond .ne 62, 3) := dk_154 0 62 (dk_at dksX1_figureFor_6 0 rfl rfl)
theorem dX1_figureFor_143 : decode cX1_figureFor 143 = .ok (.aload_n 3, 1) := dk_45 (dk_at dksX1_figureFor_6 3 rfl rfl)
theorem dX1_figureFor_144 : decode cX1_figureFor 144 = .ok (.iload 6, 2) := dk_21 6 (dk_at dksX1_figureFor_6 4 rfl rfl)
theorem dX1_figureFor_146 : decode cX1_figureFor 146 = .ok (.invokevirtual 141, 3) := dk_182 0 141 (dk_at dksX1_figureFor_6 6 rfl rfl)
theorem dX1_figureFor_149 : decode cX1_figureFor 149 = .ok (.checkcast 399, 3) := dk_192 1 143 (dk_at dksX1_figureFor_6 9 rfl rfl)
theorem dX1_figureFor_152 : decode cX1_figureFor 152 = .ok (.getfield 404, 3) := dk_180 1 148 (dk_at dksX1_figureFor_6 12 rfl rfl)
theorem dX1_figureFor_155 : decode cX1_figureFor 155 = .ok (.aload 4, 2) := dk_25 4 (dk_at dksX1_figureFor_6 15 rfl rfl)
theorem dX1_figureFor_157 : decode cX1_figureFor 157 = .ok (.iload 7, 2) := dk_21 7 (dk_at dksX1_figureFor_6 17 rfl rfl)
theorem dX1_figureFor_159 : decode cX1_figureFor 159 = .ok (.invokevirtual 141, 3) := dk_182 0 141 (dk_at dksX1_figureFor_6 19 rfl rfl)
theorem dX1_figureFor_162 : decode cX1_figureFor 162 = .ok (.checkcast 32, 3) := dk_192 0 32 (dk_at dksX1_figureFor_7 0 rfl rfl)
theorem dX1_figureFor_165 : decode cX1_figureFor 165 = .ok (.getfield 392, 3) := dk_180 1 136 (dk_at dksX1_figureFor_7 3 rfl rfl)
theorem dX1_figureFor_168 : decode cX1_figureFor 168 = .ok (.invokestatic 388, 3) := dk_184 1 132 (dk_at dksX1_figureFor_7 6 rfl rfl)
theorem dX1_figureFor_171 : decode cX1_figureFor 171 = .ok (.aload_n 0, 1) := dk_42 (dk_at dksX1_figureFor_7 9 rfl rfl)
theorem dX1_figureFor_172 : decode cX1_figureFor 172 = .ok (.getfield 90, 3) := dk_180 0 90 (dk_at dksX1_figureFor_7 10 rfl rfl)
theorem dX1_figureFor_175 : decode cX1_figureFor 175 = .ok (.iload 6, 2) := dk_21 6 (dk_at dksX1_figureFor_7 13 rfl rfl)
theorem dX1_figureFor_177 : decode cX1_figureFor 177 = .ok (.iconst 1, 1) := dk_4 (dk_at dksX1_figureFor_7 15 rfl rfl)
theorem dX1_figureFor_178 : decode cX1_figureFor 178 = .ok (.iadd, 1) := dk_96 (dk_at dksX1_figureFor_7 16 rfl rfl)
theorem dX1_figureFor_179 : decode cX1_figureFor 179 = .ok (.aaload, 1) := dk_50 (dk_at dksX1_figureFor_7 17 rfl rfl)
theorem dX1_figureFor_180 : decode cX1_figureFor 180 = .ok (.iload 5, 2) := dk_21 5 (dk_at dksX1_figureFor_7 18 rfl rfl)
theorem dX1_figureFor_182 : decode cX1_figureFor 182 = .ok (.iconst 1, 1) := dk_4 (dk_at dksX1_figureFor_7 20 rfl rfl)
theorem dX1_figureFor_183 : decode cX1_figureFor 183 = .ok (.iload 7, 2) := dk_21 7 (dk_at dksX1_figureFor_7 21 rfl rfl)
theorem dX1_figureFor_185 : decode cX1_figureFor 185 = .ok (.ishl, 1) := dk_120 (dk_at dksX1_figureFor_7 23 rfl rfl)
theorem dX1_figureFor_186 : decode cX1_figureFor 186 = .ok (.ior, 1) := dk_128 (dk_at dksX1_figureFor_8 0 rfl rfl)
theorem dX1_figureFor_187 : decode cX1_figureFor 187 = .ok (.iaload, 1) := dk_46 (dk_at dksX1_figureFor_8 1 rfl rfl)
theorem dX1_figureFor_188 : decode cX1_figureFor 188 = .ok (.iadd, 1) := dk_96 (dk_at dksX1_figureFor_8 2 rfl rfl)
theorem dX1_figureFor_189 : decode cX1_figureFor 189 = .ok (.aload_n 0, 1) := dk_42 (dk_at dksX1_figureFor_8 3 rfl rfl)
theorem dX1_figureFor_190 : decode cX1_figureFor 190 = .ok (.getfield 90, 3) := dk_180 0 90 (dk_at dksX1_figureFor_8 4 rfl rfl)
theorem dX1_figureFor_193 : decode cX1_figureFor 193 = .ok (.iload 6, 2) := dk_21 6 (dk_at dksX1_figureFor_8 7 rfl rfl)
theorem dX1_figureFor_195 : decode cX1_figureFor 195 = .ok (.aaload, 1) := dk_50 (dk_at dksX1_figureFor_8 9 rfl rfl)
theorem dX1_figureFor_196 : decode cX1_figureFor 196 = .ok (.iload 5, 2) := dk_21 5 (dk_at dksX1_figureFor_8 10 rfl rfl)
theorem dX1_figureFor_198 : decode cX1_figureFor 198 = .ok (.iaload, 1) := dk_46 (dk_at dksX1_figureFor_8 12 rfl rfl)
theorem dX1_figureFor_199 : decode cX1_figureFor 199 = .ok (.if_icmp .eq 9, 3) := dk_159 0 9 (dk_at dksX1_figureFor_8 13 rfl rfl)
theorem dX1_figureFor_202 : decode cX1_figureFor 202 = .ok (.iinc 7 1, 3) := dk_132 7 1 (dk_at dksX1_figureFor_8 16 rfl rfl)
theorem dX1_figureFor_205 : decode cX1_figureFor 205 = .ok (.goto (-82), 3) := dk_167 255 174 (dk_at dksX1_figureFor_8 19 rfl rfl)
theorem dX1_figureFor_208 : decode cX1_figureFor 208 = .ok (.aload_n 3, 1) := dk_45 (dk_at dksX1_figureFor_8 22 rfl rfl)
theorem dX1_figureFor_209 : decode cX1_figureFor 209 = .ok (.iload 6, 2) := dk_21 6 (dk_at dksX1_figureFor_9 0 rfl rfl)
theorem dX1_figureFor_211 : decode cX1_figureFor 211 = .ok (.invokevirtual 141, 3) := dk_182 0 141 (dk_at dksX1_figureFor_9 2 rfl rfl)
theorem dX1_figureFor_214 : decode cX1_figureFor 214 = .ok (.aload_n 2, 1) := dk_44 (dk_at dksX1_figureFor_9 5 rfl rfl)
theorem dX1_figureFor_215 : decode cX1_figureFor 215 = .ok (.if_acmp .ne 31, 3) := dk_166 0 31 (dk_at dksX1_figureFor_9 6 rfl rfl)
theorem dX1_figureFor_218 : decode cX1_figureFor 218 = .ok (.iload 7, 2) := dk_21 7 (dk_at dksX1_figureFor_9 9 rfl rfl)
theorem dX1_figureFor_220 : decode cX1_figureFor 220 = .ok (.aload 4, 2) := dk_25 4 (dk_at dksX1_figureFor_9 11 rfl rfl)
theorem dX1_figureFor_222 : decode cX1_figureFor 222 = .ok (.invokevirtual 93, 3) := dk_182 0 93 (dk_at dksX1_figureFor_9 13 rfl rfl)
theorem dX1_figureFor_225 : decode cX1_figureFor 225 = .ok (.if_icmp .ne 7, 3) := dk_160 0 7 (dk_at dksX1_figureFor_9 16 rfl rfl)
theorem dX1_figureFor_228 : decode cX1_figureFor 228 = .ok (.iconst (-1), 1) := dk_2 (dk_at dksX1_figureFor_9 19 rfl rfl)
theorem dX1_figureFor_229 : decode cX1_figureFor 229 = .ok (.goto 16, 3) := dk_167 0 16 (dk_at dksX1_figureFor_9 20 rfl rfl)
theorem dX1_figureFor_232 : decode cX1_figureFor 232 = .ok (.aload 4, 2) := dk_25 4 (dk_at dksX1_figureFor_10 0 rfl rfl)
theorem dX1_figureFor_234 : decode cX1_figureFor 234 = .ok (.iload 7, 2) := dk_21 7 (dk_at dksX1_figureFor_10 2 rfl rfl)
theorem dX1_figureFor_236 : decode cX1_figureFor 236 = .ok (.invokevirtual 141, 3) := dk_182 0 141 (dk_at dksX1_figureFor_10 4 rfl rfl)
theorem dX1_figureFor_239 : decode cX1_figureFor 239 = .ok (.checkcast 32, 3) := dk_192 0 32 (dk_at dksX1_figureFor_10 7 rfl rfl)
theorem dX1_figureFor_242 : decode cX1_figureFor 242 = .ok (.getfield 359, 3) := dk_180 1 103 (dk_at dksX1_figureFor_10 10 rfl rfl)
theorem dX1_figureFor_245 : decode cX1_figureFor 245 = .ok (.ireturn, 1) := dk_172 (dk_at dksX1_figureFor_10 13 rfl rfl)
theorem dX1_figureFor_246 : decode cX1_figureFor 246 = .ok (.iload 7, 2) := dk_21 7 (dk_at dksX1_figureFor_10 14 rfl rfl)
theorem dX1_figureFor_248 : decode cX1_figureFor 248 = .ok (.aload 4, 2) := dk_25 4 (dk_at dksX1_figureFor_10 16 rfl rfl)
theorem dX1_figureFor_250 : decode cX1_figureFor 250 = .ok (.invokevirtual 93, 3) := dk_182 0 93 (dk_at dksX1_figureFor_10 18 rfl rfl)
theorem dX1_figureFor_253 : decode cX1_figureFor 253 = .ok (.if_icmp .ge 12, 3) := dk_162 0 12 (dk_at dksX1_figureFor_10 21 rfl rfl)
theorem dX1_figureFor_256 : decode cX1_figureFor 256 = .ok (.iload 5, 2) := dk_21 5 (dk_at dksX1_figureFor_11 0 rfl rfl)
theorem dX1_figureFor_258 : decode cX1_figureFor 258 = .ok (.iconst 1, 1) := dk_4 (dk_at dksX1_figureFor_11 2 rfl rfl)
theorem dX1_figureFor_259 : decode cX1_figureFor 259 = .ok (.iload 7, 2) := dk_21 7 (dk_at dksX1_figureFor_11 3 rfl rfl)
theorem dX1_figureFor_261 : decode cX1_figureFor 261 = .ok (.ishl, 1) := dk_120 (dk_at dksX1_figureFor_11 5 rfl rfl)
theorem dX1_figureFor_262 : decode cX1_figureFor 262 = .ok (.ior, 1) := dk_128 (dk_at dksX1_figureFor_11 6 rfl rfl)
theorem dX1_figureFor_263 : decode cX1_figureFor 263 = .ok (.istore 5, 2) := dk_54 5 (dk_at dksX1_figureFor_11 7 rfl rfl)
theorem dX1_figureFor_265 : decode cX1_figureFor 265 = .ok (.iinc 6 1, 3) := dk_132 6 1 (dk_at dksX1_figureFor_11 9 rfl rfl)
theorem dX1_figureFor_268 : decode cX1_figureFor 268 = .ok (.goto (-148), 3) := dk_167 255 108 (dk_at dksX1_figureFor_11 12 rfl rfl)
abbrev cX1_findMatches : ByteArray := prog_1_method_60_code
def yX1_findMatches : MethodName := ⟨RX1, "findMatches", "(Ljava/util/ArrayList;Ljava/util/ArrayList;)V"⟩
def dkwX1_findMatches_9 : List UInt8 := [132, 5, 255, 167, 255, 114, 177]
abbrev dktX1_findMatches_9 : List UInt8 := dkwX1_findMatches_9 ++ []
def dkwX1_findMatches_8 : List UInt8 := [21, 7, 120, 128, 46, 96, 184, 0, 24, 79, 132, 7, 1, 167, 255, 166, 132, 6, 1, 167, 255, 128]
abbrev dktX1_findMatches_8 : List UInt8 := dkwX1_findMatches_8 ++ dktX1_findMatches_9
def dkwX1_findMatches_7 : List UInt8 := [182, 0, 141, 192, 0, 32, 180, 1, 136, 184, 1, 132, 42, 180, 0, 90, 21, 5, 4, 96, 50, 21, 6, 4]
abbrev dktX1_findMatches_7 : List UInt8 := dkwX1_findMatches_7 ++ dktX1_findMatches_8
def dkwX1_findMatches_6 : List UInt8 := [180, 0, 90, 21, 5, 50, 21, 6, 46, 43, 21, 5, 182, 0, 141, 192, 1, 143, 180, 1, 148, 44, 21, 7]
abbrev dktX1_findMatches_6 : List UInt8 := dkwX1_findMatches_6 ++ dktX1_findMatches_7
def dkwX1_findMatches_5 : List UInt8 := [162, 0, 87, 21, 6, 21, 7, 184, 0, 14, 154, 0, 71, 42, 180, 0, 90, 21, 5, 50, 21, 6, 42]
abbrev dktX1_findMatches_5 : List UInt8 := dkwX1_findMatches_5 ++ dktX1_findMatches_6
def dkwX1_findMatches_4 : List UInt8 := [42, 180, 0, 90, 21, 5, 4, 96, 50, 21, 6, 46, 79, 3, 54, 7, 21, 7, 44, 182, 0, 93]
abbrev dktX1_findMatches_4 : List UInt8 := dkwX1_findMatches_4 ++ dktX1_findMatches_5
def dkwX1_findMatches_3 : List UInt8 := [21, 5, 155, 0, 143, 3, 54, 6, 21, 6, 21, 4, 162, 0, 127, 42, 180, 0, 90, 21, 5, 50, 21, 6]
abbrev dktX1_findMatches_3 : List UInt8 := dkwX1_findMatches_3 ++ dktX1_findMatches_4
def dkwX1_findMatches_2 : List UInt8 := [160, 0, 7, 3, 167, 0, 5, 18, 13, 79, 132, 5, 1, 167, 255, 219, 43, 182, 0, 93, 4, 100, 54, 5]
abbrev dktX1_findMatches_2 : List UInt8 := dkwX1_findMatches_2 ++ dktX1_findMatches_3
def dkwX1_findMatches_1 : List UInt8 := [21, 5, 21, 4, 162, 0, 36, 42, 180, 0, 90, 43, 182, 0, 93, 50, 21, 5, 21, 5, 184, 0, 189, 29]
abbrev dktX1_findMatches_1 : List UInt8 := dkwX1_findMatches_1 ++ dktX1_findMatches_2
def dkwX1_findMatches_0 : List UInt8 := [43, 182, 0, 93, 44, 182, 0, 93, 184, 0, 24, 62, 4, 44, 182, 0, 93, 120, 54, 4, 3, 54, 5]
abbrev dktX1_findMatches_0 : List UInt8 := dkwX1_findMatches_0 ++ dktX1_findMatches_1
theorem dksX1_findMatches_0 : cX1_findMatches.data.toList.drop 0 = dktX1_findMatches_0 := by decide +kernel
theorem dksX1_findMatches_1 : cX1_findMatches.data.toList.drop 23 = dktX1_findMatches_1 := dk_seg dksX1_findMatches_0 23 rfl rfl
theorem dksX1_findMatches_2 : cX1_findMatches.data.toList.drop 47 = dktX1_findMatches_2 := dk_seg dksX1_findMatches_1 24 rfl rfl
theorem dksX1_findMatches_3 : cX1_findMatches.data.toList.drop 71 = dktX1_findMatches_3 := dk_seg dksX1_findMatches_2 24 rfl rfl
theorem dksX1_findMatches_4 : cX1_findMatches.data.toList.drop 95 = dktX1_findMatches_4 := dk_seg dksX1_findMatches_3 24 rfl rfl
theorem dksX1_findMatches_5 : cX1_findMatches.data.toList.drop 117 = dktX1_findMatches_5 := dk_seg dksX1_findMatches_4 22 rfl rfl
theorem dksX1_findMatches_6 : cX1_findMatches.data.toList.drop 140 = dktX1_findMatches_6 := dk_seg dksX1_findMatches_5 23 rfl rfl
theorem dksX1_findMatches_7 : cX1_findMatches.data.toList.drop 164 = dktX1_findMatches_7 := dk_seg dksX1_findMatches_6 24 rfl rfl
theorem dksX1_findMatches_8 : cX1_findMatches.data.toList.drop 188 = dktX1_findMatches_8 := dk_seg dksX1_findMatches_7 24 rfl rfl
theorem dksX1_findMatches_9 : cX1_findMatches.data.toList.drop 210 = dktX1_findMatches_9 := dk_seg dksX1_findMatches_8 22 rfl rfl
theorem dX1_findMatches_0 : decode cX1_findMatches 0 = .ok (.aload_n 1, 1) := dk_43 (dk_at dksX1_findMatches_0 0 rfl rfl)
theorem dX1_findMatches_1 : decode cX1_findMatches 1 = .ok (.invokevirtual 93, 3) := dk_182 0 93 (dk_at dksX1_findMatches_0 1 rfl rfl)
theorem dX1_findMatches_4 : decode cX1_findMatches 4 = .ok (.aload_n 2, 1) := dk_44 (dk_at dksX1_findMatches_0 4 rfl rfl)
theorem dX1_findMatches_5 : decode cX1_findMatches 5 = .ok (.invokevirtual 93, 3) := dk_182 0 93 (dk_at dksX1_findMatches_0 5 rfl rfl)
theorem dX1_findMatches_8 : decode cX1_findMatches 8 = .ok (.invokestatic 24, 3) := dk_184 0 24 (dk_at dksX1_findMatches_0 8 rfl rfl)
theorem dX1_findMatches_11 : decode cX1_findMatches 11 = .ok (.istore_n 3, 1) := dk_62 (dk_at dksX1_findMatches_0 11 rfl rfl)
theorem dX1_findMatches_12 : decode cX1_findMatches 12 = .ok (.iconst 1, 1) := dk_4 (dk_at dksX1_findMatches_0 12 rfl rfl)
theorem dX1_findMatches_13 : decode cX1_findMatches 13 = .ok (.aload_n 2, 1) := dk_44 (dk_at dksX1_findMatches_0 13 rfl rfl)
theorem dX1_findMatches_14 : decode cX1_findMatches 14 = .ok (.invokevirtual 93, 3) := dk_182 0 93 (dk_at dksX1_findMatches_0 14 rfl rfl)
theorem dX1_findMatches_17 : decode cX1_findMatches 17 = .ok (.ishl, 1) := dk_120 (dk_at dksX1_findMatches_0 17 rfl rfl)
theorem dX1_findMatches_18 : decode cX1_findMatches 18 = .ok (.istore 4, 2) := dk_54 4 (dk_at dksX1_findMatches_0 18 rfl rfl)
theorem dX1_findMatches_20 : decode cX1_findMatches 20 = .ok (.iconst 0, 1) := dk_3 (dk_at dksX1_findMatches_0 20 rfl rfl)
theorem dX1_findMatches_21 : decode cX1_findMatches 21 = .ok (.istore 5, 2) := dk_54 5 (dk_at dksX1_findMatches_0 21 rfl rfl)
theorem dX1_findMatches_23 : decode cX1_findMatches 23 = .ok (.iload 5, 2) := dk_21 5 (dk_at dksX1_findMatches_1 0 rfl rfl)
theorem dX1_findMatches_25 : decode cX1_findMatches 25 = .ok (.iload 4, 2) := dk_21 4 (dk_at dksX1_findMatches_1 2 rfl rfl)
theorem dX1_findMatches_27 : decode cX1_findMatches 27 = .ok (.if_icmp .ge 36, 3) := dk_162 0 36 (dk_at dksX1_findMatches_1 4 rfl rfl)
theorem dX1_findMatches_30 : decode cX1_findMatches 30 = .ok (.aload_n 0, 1) := dk_42 (dk_at dksX1_findMatches_1 7 rfl rfl)
theorem dX1_findMatches_31 : decode cX1_findMatches 31 = .ok (.getfield 90, 3) := dk_180 0 90 (dk_at dksX1_findMatches_1 8 rfl rfl)
theorem dX1_findMatches_34 : decode cX1_findMatches 34 = .ok (.aload_n 1, 1) := dk_43 (dk_at dksX1_findMatches_1 11 rfl rfl)
theorem dX1_findMatches_35 : decode cX1_findMatches 35 = .ok (.invokevirtual 93, 3) := dk_182 0 93 (dk_at dksX1_findMatches_1 12 rfl rfl)
theorem dX1_findMatches_38 : decode cX1_findMatches 38 = .ok (.aaload, 1) := dk_50 (dk_at dksX1_findMatches_1 15 rfl rfl)
theorem dX1_findMatches_39 : decode cX1_findMatches 39 = .ok (.iload 5, 2) := dk_21 5 (dk_at dksX1_findMatches_1 16 rfl rfl)
theorem dX1_findMatches_41 : decode cX1_findMatches 41 = .ok (.iload 5, 2) := dk_21 5 (dk_at dksX1_findMatches_1 18 rfl rfl)
theorem dX1_findMatches_43 : decode cX1_findMatches 43 = .ok (.invokestatic 189, 3) := dk_184 0 189 (dk_at dksX1_findMatches_1 20 rfl rfl)
theorem dX1_findMatches_46 : decode cX1_findMatches 46 = .ok (.iload_n 3, 1) := dk_29 (dk_at dksX1_findMatches_1 23 rfl rfl)
theorem dX1_findMatches_47 : decode cX1_findMatches 47 = .ok (.if_icmp .ne 7, 3) := dk_160 0 7 (dk_at dksX1_findMatches_2 0 rfl rfl)
theorem dX1_findMatches_50 : decode cX1_findMatches 50 = .ok (.iconst 0, 1) := dk_3 (dk_at dksX1_findMatches_2 3 rfl rfl)
theorem dX1_findMatches_51 : decode cX1_findMatches 51 = .ok (.goto 5, 3) := dk_167 0 5 (dk_at dksX1_findMatches_2 4 rfl rfl)
theorem dX1_findMatches_54 : decode cX1_findMatches 54 = .ok (.ldc 13, 2) := dk_18 13 (dk_at dksX1_findMatches_2 7 rfl rfl)
theorem dX1_findMatches_56 : decode cX1_findMatches 56 = .ok (.iastore, 1) := dk_79 (dk_at dksX1_findMatches_2 9 rfl rfl)
theorem dX1_findMatches_57 : decode cX1_findMatches 57 = .ok (.iinc 5 1, 3) := dk_132 5 1 (dk_at dksX1_findMatches_2 10 rfl rfl)
theorem dX1_findMatches_60 : decode cX1_findMatches 60 = .ok (.goto (-37), 3) := dk_167 255 219 (dk_at dksX1_findMatches_2 13 rfl rfl)
theorem dX1_findMatches_63 : decode cX1_findMatches 63 = .ok (.aload_n 1, 1) := dk_43 (dk_at dksX1_findMatches_2 16 rfl rfl)
theorem dX1_findMatches_64 : decode cX1_findMatches 64 = .ok (.invokevirtual 93, 3) := dk_182 0 93 (dk_at dksX1_findMatches_2 17 rfl rfl)
theorem dX1_findMatches_67 : decode cX1_findMatches 67 = .ok (.iconst 1, 1) := dk_4 (dk_at dksX1_findMatches_2 20 rfl rfl)
theorem dX1_findMatches_68 : decode cX1_findMatches 68 = .ok (.isub, 1) := dk_100 (dk_at dksX1_findMatches_2 21 rfl rfl)
theorem dX1_findMatches_69 : decode cX1_findMatches 69 = .ok (.istore 5, 2) := dk_54 5 (dk_at dksX1_findMatches_2 22 rfl rfl)
theorem dX1_findMatches_71 : decode cX1_findMatches 71 = .ok (.iload 5, 2) := dk_21 5 (dk_at dksX1_findMatches_3 0 rfl rfl)
theorem dX1_findMatches_73 : decode cX1_findMatches 73 = .ok (.ifCond .lt 143, 3) := dk_155 0 143 (dk_at dksX1_findMatches_3 2 rfl rfl)
theorem dX1_findMatches_76 : decode cX1_findMatches 76 = .ok (.iconst 0, 1) := dk_3 (dk_at dksX1_findMatches_3 5 rfl rfl)
theorem dX1_findMatches_77 : decode cX1_findMatches 77 = .ok (.istore 6, 2) := dk_54 6 (dk_at dksX1_findMatches_3 6 rfl rfl)
theorem dX1_findMatches_79 : decode cX1_findMatches 79 = .ok (.iload 6, 2) := dk_21 6 (dk_at dksX1_findMatches_3 8 rfl rfl)
theorem dX1_findMatches_81 : decode cX1_findMatches 81 = .ok (.iload 4, 2) := dk_21 4 (dk_at dksX1_findMatches_3 10 rfl rfl)
theorem dX1_findMatches_83 : decode cX1_findMatches 83 = .ok (.if_icmp .ge 127, 3) := dk_162 0 127 (dk_at dksX1_findMatches_3 12 rfl rfl)
theorem dX1_findMatches_86 : decode cX1_findMatches 86 = .ok (.aload_n 0, 1) := dk_42 (dk_at dksX1_findMatches_3 15 rfl rfl)
theorem dX1_findMatches_87 : decode cX1_findMatches 87 = .ok (.getfield 90, 3) := dk_180 0 90 (dk_at dksX1_findMatches_3 16 rfl rfl)
theorem dX1_findMatches_90 : decode cX1_findMatches 90 = .ok (.iload 5, 2) := dk_21 5 (dk_at dksX1_findMatches_3 19 rfl rfl)
theorem dX1_findMatches_92 : decode cX1_findMatches 92 = .ok (.aaload, 1) := dk_50 (dk_at dksX1_findMatches_3 21 rfl rfl)
theorem dX1_findMatches_93 : decode cX1_findMatches 93 = .ok (.iload 6, 2) := dk_21 6 (dk_at dksX1_findMatches_3 22 rfl rfl)
theorem dX1_findMatches_95 : decode cX1_findMatches 95 = .ok (.aload_n 0, 1) := dk_42 (dk_at dksX1_findMatches_4 0 rfl rfl)
theorem dX1_findMatches_96 : decode cX1_findMatches 96 = .ok (.getfield 90, 3) := dk_180 0 90 (dk_at dksX1_findMatches_4 1 rfl rfl)
theorem dX1_findMatches_99 : decode cX1_findMatches 99 = .ok (.iload 5, 2) := dk_21 5 (dk_at dksX1_findMatches_4 4 rfl rfl)
theorem dX1_findMatches_101 : decode cX1_findMatches 101 = .ok (.iconst 1, 1) := dk_4 (dk_at dksX1_findMatches_4 6 rfl rfl)
theorem dX1_findMatches_102 : decode cX1_findMatches 102 = .ok (.iadd, 1) := dk_96 (dk_at dksX1_findMatches_4 7 rfl rfl)
theorem dX1_findMatches_103 : decode cX1_findMatches 103 = .ok (.aaload, 1) := dk_50 (dk_at dksX1_findMatches_4 8 rfl rfl)
theorem dX1_findMatches_104 : decode cX1_findMatches 104 = .ok (.iload 6, 2) := dk_21 6 (dk_at dksX1_findMatches_4 9 rfl rfl)
theorem dX1_findMatches_106 : decode cX1_findMatches 106 = .ok (.iaload, 1) := dk_46 (dk_at dksX1_findMatches_4 11 rfl rfl)
theorem dX1_findMatches_107 : decode cX1_findMatches 107 = .ok (.iastore, 1) := dk_79 (dk_at dksX1_findMatches_4 12 rfl rfl)
theorem dX1_findMatches_108 : decode cX1_findMatches 108 = .ok (.iconst 0, 1) := dk_3 (dk_at dksX1_findMatches_4 13 rfl rfl)
theorem dX1_findMatches_109 : decode cX1_findMatches 109 = .ok (.istore 7, 2) := dk_54 7 (dk_at dksX1_findMatches_4 14 rfl rfl)
theorem dX1_findMatches_111 : decode cX1_findMatches 111 = .ok (.iload 7, 2) := dk_21 7 (dk_at dksX1_findMatches_4 16 rfl rfl)
theorem dX1_findMatches_113 : decode cX1_findMatches 113 = .ok (.aload_n 2, 1) := dk_44 (dk_at dksX1_findMatches_4 18 rfl rfl)
theorem dX1_findMatches_114 : decode cX1_findMatches 114 = .ok (.invokevirtual 93, 3) := dk_182 0 93 (dk_at dksX1_findMatches_4 19 rfl rfl)
theorem dX1_findMatches_117 : decode cX1_findMatches 117 = .ok (.if_icmp .ge 87, 3) := dk_162 0 87 (dk_at dksX1_findMatches_5 0 rfl rfl)
theorem dX1_findMatches_120 : decode cX1_findMatches 120 = .ok (.iload 6, 2) := dk_21 6 (dk_at dksX1_findMatches_5 3 rfl rfl)
theorem dX1_findMatches_122 : decode cX1_findMatches 122 = .ok (.iload 7, 2) := dk_21 7 (dk_at dksX1_findMatches_5 5 rfl rfl)
theorem dX1_findMatches_124 : decode cX1_findMatches 124 = .ok (.invokestatic 14, 3) := dk_184 0 14 (dk_at dksX1_findMatches_5 7 rfl rfl)
theorem dX1_findMatches_127 : decode cX1_findMatches 127 = .ok (.ifCond .ne 71, 3) := dk_154 0 71 (dk_at dksX1_findMatches_5 10 rfl rfl)
theorem dX1_findMatches_130 : decode cX1_findMatches 130 = .ok (.aload_n 0, 1) := dk_42 (dk_at dksX1_findMatches_5 13 rfl rfl)
theorem dX1_findMatches_131 : decode cX1_findMatches 131 = .ok (.getfield 90, 3) := dk_180 0 90 (dk_at dksX1_findMatches_5 14 rfl rfl)
theorem dX1_findMatches_134 : decode cX1_findMatches 134 = .ok (.iload 5, 2) := dk_21 5 (dk_at dksX1_findMatches_5 17 rfl rfl)
theorem dX1_findMatches_136 : decode cX1_findMatches 136 = .ok (.aaload, 1) := dk_50 (dk_at dksX1_findMatches_5 19 rfl rfl)
theorem dX1_findMatches_137 : decode cX1_findMatches 137 = .ok (.iload 6, 2) := dk_21 6 (dk_at dksX1_findMatches_5 20 rfl rfl)
theorem dX1_findMatches_139 : decode cX1_findMatches 139 = .ok (.aload_n 0, 1) := dk_42 (dk_at dksX1_findMatches_5 22 rfl rfl)
theorem dX1_findMatches_140 : decode cX1_findMatches 140 = .ok (.getfield 90, 3) := dk_180 0 90 (dk_at dksX1_findMatches_6 0 rfl rfl)
theorem dX1_findMatches_143 : decode cX1_findMatches 143 = .ok (.iload 5, 2) := dk_21 5 (dk_at dksX1_findMatches_6 3 rfl rfl)
theorem dX1_findMatches_145 : decode cX1_findMatches 145 = .ok (.aaload, 1) := dk_50 (dk_at dksX1_findMatches_6 5 rfl rfl)
theorem dX1_findMatches_146 : decode cX1_findMatches 146 = .ok (.iload 6, 2) := dk_21 6 (dk_at dksX1_findMatches_6 6 rfl rfl)
theorem dX1_findMatches_148 : decode cX1_findMatches 148 = .ok (.iaload, 1) := dk_46 (dk_at dksX1_findMatches_6 8 rfl rfl)
theorem dX1_findMatches_149 : decode cX1_findMatches 149 = .ok (.aload_n 1, 1) := dk_43 (dk_at dksX1_findMatches_6 9 rfl rfl)
theorem dX1_findMatches_150 : decode cX1_findMatches 150 = .ok (.iload 5, 2) := dk_21 5 (dk_at dksX1_findMatches_6 10 rfl rfl)
theorem dX1_findMatches_152 : decode cX1_findMatches 152 = .ok (.invokevirtual 141, 3) := dk_182 0 141 (dk_at dksX1_findMatches_6 12 rfl rfl)
theorem dX1_findMatches_155 : decode cX1_findMatches 155 = .ok (.checkcast 399, 3) := dk_192 1 143 (dk_at dksX1_findMatches_6 15 rfl rfl)
theorem dX1_findMatches_158 : decode cX1_findMatches 158 = .ok (.getfield 404, 3) := dk_180 1 148 (dk_at dksX1_findMatches_6 18 rfl rfl)
theorem dX1_findMatches_161 : decode cX1_findMatches 161 = .ok (.aload_n 2, 1) := dk_44 (dk_at dksX1_findMatches_6 21 rfl rfl)
theorem dX1_findMatches_162 : decode cX1_findMatches 162 = .ok (.iload 7, 2) := dk_21 7 (dk_at dksX1_findMatches_6 22 rfl rfl)
theorem dX1_findMatches_164 : decode cX1_findMatches 164 = .ok (.invokevirtual 141, 3) := dk_182 0 141 (dk_at dksX1_findMatches_7 0 rfl rfl)
theorem dX1_findMatches_167 : decode cX1_findMatches 167 = .ok (.checkcast 32, 3) := dk_192 0 32 (dk_at dksX1_findMatches_7 3 rfl rfl)
theorem dX1_findMatches_170 : decode cX1_findMatches 170 = .ok (.getfield 392, 3) := dk_180 1 136 (dk_at dksX1_findMatches_7 6 rfl rfl)
theorem dX1_findMatches_173 : decode cX1_findMatches 173 = .ok (.invokestatic 388, 3) := dk_184 1 132 (dk_at dksX1_findMatches_7 9 rfl rfl)
theorem dX1_findMatches_176 : decode cX1_findMatches 176 = .ok (.aload_n 0, 1) := dk_42 (dk_at dksX1_findMatches_7 12 rfl rfl)
theorem dX1_findMatches_177 : decode cX1_findMatches 177 = .ok (.getfield 90, 3) := dk_180 0 90 (dk_at dksX1_findMatches_7 13 rfl rfl)
theorem dX1_findMatches_180 : decode cX1_findMatches 180 = .ok (.iload 5, 2) := dk_21 5 (dk_at dksX1_findMatches_7 16 rfl rfl)
theorem dX1_findMatches_182 : decode cX1_findMatches 182 = .ok (.iconst 1, 1) := dk_4 (dk_at dksX1_findMatches_7 18 rfl rfl)
theorem dX1_findMatches_183 : decode cX1_findMatches 183 = .ok (.iadd, 1) := dk_96 (dk_at dksX1_findMatches_7 19 rfl rfl)
theorem dX1_findMatches_184 : decode cX1_findMatches 184 = .ok (.aaload, 1) := dk_50 (dk_at dksX1_findMatches_7 20 rfl rfl)
theorem dX1_findMatches_185 : decode cX1_findMatches 185 = .ok (.iload 6, 2) := dk_21 6 (dk_at dksX1_findMatches_7 21 rfl rfl)
theorem dX1_findMatches_187 : decode cX1_findMatches 187 = .ok (.iconst 1, 1) := dk_4 (dk_at dksX1_findMatches_7 23 rfl rfl)
theorem dX1_findMatches_188 : decode cX1_findMatches 188 = .ok (.iload 7, 2) := dk_21 7 (dk_at dksX1_findMatches_8 0 rfl rfl)
theorem dX1_findMatches_190 : decode cX1_findMatches 190 = .ok (.ishl, 1) := dk_120 (dk_at dksX1_findMatches_8 2 rfl rfl)
theorem dX1_findMatches_191 : decode cX1_findMatches 191 = .ok (.ior, 1) := dk_128 (dk_at dksX1_findMatches_8 3 rfl rfl)
theorem dX1_findMatches_192 : decode cX1_findMatches 192 = .ok (.iaload, 1) := dk_46 (dk_at dksX1_findMatches_8 4 rfl rfl)
theorem dX1_findMatches_193 : decode cX1_findMatches 193 = .ok (.iadd, 1) := dk_96 (dk_at dksX1_findMatches_8 5 rfl rfl)
theorem dX1_findMatches_194 : decode cX1_findMatches 194 = .ok (.invokestatic 24, 3) := dk_184 0 24 (dk_at dksX1_findMatches_8 6 rfl rfl)
theorem dX1_findMatches_197 : decode cX1_findMatches 197 = .ok (.iastore, 1) := dk_79 (dk_at dksX1_findMatches_8 9 rfl rfl)
theorem dX1_findMatches_198 : decode cX1_findMatches 198 = .ok (.iinc 7 1, 3) := dk_132 7 1 (dk_at dksX1_findMatches_8 10 rfl rfl)
theorem dX1_findMatches_201 : decode cX1_findMatches 201 = .ok (.goto (-90), 3) := dk_167 255 166 (dk_at dksX1_findMatches_8 13 rfl rfl)
theorem dX1_findMatches_204 : decode cX1_findMatches 204 = .ok (.iinc 6 1, 3) := dk_132 6 1 (dk_at dksX1_findMatches_8 16 rfl rfl)
theorem dX1_findMatches_207 : decode cX1_findMatches 207 = .ok (.goto (-128), 3) := dk_167 255 128 (dk_at dksX1_findMatches_8 19 rfl rfl)
theorem dX1_findMatches_210 : decode cX1_findMatches 210 = .ok (.iinc 5 (-1), 3) := dk_132 5 255 (dk_at dksX1_findMatches_9 0 rfl rfl)
theorem dX1_findMatches_213 : decode cX1_findMatches 213 = .ok (.goto (-142), 3) := dk_167 255 114 (dk_at dksX1_findMatches_9 3 rfl rfl)
theorem dX1_findMatches_216 : decode cX1_findMatches 216 = .ok (.return_, 1) := dk_177 (dk_at dksX1_findMatches_9 6 rfl rfl)
abbrev cX1_tellName : ByteArray := prog_1_method_62_code
def yX1_tellName : MethodName := ⟨RX1, "tellName", "(IIII)I"⟩
def dkwX1_tellName_3 : List UInt8 := [21, 4, 183, 1, 161, 182, 0, 173, 87, 25, 5, 180, 1, 157, 182, 0, 93, 172]
abbrev dktX1_tellName_3 : List UInt8 := dkwX1_tellName_3 ++ []
def dkwX1_tellName_2 : List UInt8 := [184, 0, 166, 42, 89, 180, 1, 154, 4, 96, 181, 1, 154, 25, 5, 180, 1, 157, 187, 1, 159, 89, 28, 29]
abbrev dktX1_tellName_2 : List UInt8 := dkwX1_tellName_2 ++ dktX1_tellName_3
def dkwX1_tellName_1 : List UInt8 := [21, 4, 4, 16, 15, 184, 0, 162, 87, 42, 180, 1, 154, 16, 40, 162, 0, 7, 4, 167, 0, 4, 3]
abbrev dktX1_tellName_1 : List UInt8 := dkwX1_tellName_1 ++ dktX1_tellName_2
def dkwX1_tellName_0 : List UInt8 := [42, 27, 182, 0, 210, 58, 5, 28, 4, 17, 39, 15, 184, 0, 162, 87, 29, 4, 16, 15, 184, 0, 162, 87]
abbrev dktX1_tellName_0 : List UInt8 := dkwX1_tellName_0 ++ dktX1_tellName_1
theorem dksX1_tellName_0 : cX1_tellName.data.toList.drop 0 = dktX1_tellName_0 := by decide +kernel
theorem dksX1_tellName_1 : cX1_tellName.data.toList.drop 24 = dktX1_tellName_1 := dk_seg dksX1_tellName_0 24 rfl rfl
theorem dksX1_tellName_2 : cX1_tellName.data.toList.drop 47 = dktX1_tellName_2 := dk_seg dksX1_tellName_1 23 rfl rfl
theorem dksX1_tellName_3 : cX1_tellName.data.toList.drop 71 = dktX1_tellName_3 := dk_seg dksX1_tellName_2 24 rfl rfl
theorem dX1_tellName_0 : decode cX1_tellName 0 = .ok (.aload_n 0, 1) := dk_42 (dk_at dksX1_tellName_0 0 rfl rfl)
theorem dX1_tellName_1 : decode cX1_tellName 1 = .ok (.iload_n 1, 1) := dk_27 (dk_at dksX1_tellName_0 1 rfl rfl)
theorem dX1_tellName_2 : decode cX1_tellName 2 = .ok (.invokevirtual 210, 3) := dk_182 0 210 (dk_at dksX1_tellName_0 2 rfl rfl)
theorem dX1_tellName_5 : decode cX1_tellName 5 = .ok (.astore 5, 2) := dk_58 5 (dk_at dksX1_tellName_0 5 rfl rfl)
theorem dX1_tellName_7 : decode cX1_tellName 7 = .ok (.iload_n 2, 1) := dk_28 (dk_at dksX1_tellName_0 7 rfl rfl)
theorem dX1_tellName_8 : decode cX1_tellName 8 = .ok (.iconst 1, 1) := dk_4 (dk_at dksX1_tellName_0 8 rfl rfl)
theorem dX1_tellName_9 : decode cX1_tellName 9 = .ok (.sipush 9999, 3) := dk_17 39 15 (dk_at dksX1_tellName_0 9 rfl rfl)
theorem dX1_tellName_12 : decode cX1_tellName 12 = .ok (.invokestatic 162, 3) := dk_184 0 162 (dk_at dksX1_tellName_0 12 rfl rfl)
theorem dX1_tellName_15 : decode cX1_tellName 15 = .ok (.pop, 1) := dk_87 (dk_at dksX1_tellName_0 15 rfl rfl)
theorem dX1_tellName_16 : decode cX1_tellName 16 = .ok (.iload_n 3, 1) := dk_29 (dk_at dksX1_tellName_0 16 rfl rfl)
theorem dX1_tellName_17 : decode cX1_tellName 17 = .ok (.iconst 1, 1) := dk_4 (dk_at dksX1_tellName_0 17 rfl rfl)
theorem dX1_tellName_18 : decode cX1_tellName 18 = .ok (.bipush 15, 2) := dk_16 15 (dk_at dksX1_tellName_0 18 rfl rfl)
theorem dX1_tellName_20 : decode cX1_tellName 20 = .ok (.invokestatic 162, 3) := dk_184 0 162 (dk_at dksX1_tellName_0 20 rfl rfl)
theorem dX1_tellName_23 : decode cX1_tellName 23 = .ok (.pop, 1) := dk_87 (dk_at dksX1_tellName_0 23 rfl rfl)
theorem dX1_tellName_24 : decode cX1_tellName 24 = .ok (.iload 4, 2) := dk_21 4 (dk_at dksX1_tellName_1 0 rfl rfl)
theorem dX1_tellName_26 : decode cX1_tellName 26 = .ok (.iconst 1, 1) := dk_4 (dk_at dksX1_tellName_1 2 rfl rfl)
theorem dX1_tellName_27 : decode cX1_tellName 27 = .ok (.bipush 15, 2) := dk_16 15 (dk_at dksX1_tellName_1 3 rfl rfl)
theorem dX1_tellName_29 : decode cX1_tellName 29 = .ok (.invokestatic 162, 3) := dk_184 0 162 (dk_at dksX1_tellName_1 5 rfl rfl)
theorem dX1_tellName_32 : decode cX1_tellName 32 = .ok (.pop, 1) := dk_87 (dk_at dksX1_tellName_1 8 rfl rfl)
theorem dX1_tellName_33 : decode cX1_tellName 33 = .ok (.aload_n 0, 1) := dk_42 (dk_at dksX1_tellName_1 9 rfl rfl)
theorem dX1_tellName_34 : decode cX1_tellName 34 = .ok (.getfield 410, 3) := dk_180 1 154 (dk_at dksX1_tellName_1 10 rfl rfl)
theorem dX1_tellName_37 : decode cX1_tellName 37 = .ok (.bipush 40, 2) := dk_16 40 (dk_at dksX1_tellName_1 13 rfl rfl)
theorem dX1_tellName_39 : decode cX1_tellName 39 = .ok (.if_icmp .ge 7, 3) := dk_162 0 7 (dk_at dksX1_tellName_1 15 rfl rfl)
theorem dX1_tellName_42 : decode cX1_tellName 42 = .ok (.iconst 1, 1) := dk_4 (dk_at dksX1_tellName_1 18 rfl rfl)
theorem dX1_tellName_43 : decode cX1_tellName 43 = .ok (.goto 4, 3) := dk_167 0 4 (dk_at dksX1_tellName_1 19 rfl rfl)
theorem dX1_tellName_46 : decode cX1_tellName 46 = .ok (.iconst 0, 1) := dk_3 (dk_at dksX1_tellName_1 22 rfl rfl)
theorem dX1_tellName_47 : decode cX1_tellName 47 = .ok (.invokestatic 166, 3) := dk_184 0 166 (dk_at dksX1_tellName_2 0 rfl rfl)
theorem dX1_tellName_50 : decode cX1_tellName 50 = .ok (.aload_n 0, 1) := dk_42 (dk_at dksX1_tellName_2 3 rfl rfl)
theorem dX1_tellName_51 : decode cX1_tellName 51 = .ok (.dup, 1) := dk_89 (dk_at dksX1_tellName_2 4 rfl rfl)
theorem dX1_tellName_52 : decode cX1_tellName 52 = .ok (.getfield 410, 3) := dk_180 1 154 (dk_at dksX1_tellName_2 5 rfl rfl)
theorem dX1_tellName_55 : decode cX1_tellName 55 = .ok (.iconst 1, 1) := dk_4 (dk_at dksX1_tellName_2 8 rfl rfl)
theorem dX1_tellName_56 : decode cX1_tellName 56 = .ok (.iadd, 1) := dk_96 (dk_at dksX1_tellName_2 9 rfl rfl)
theorem dX1_tellName_57 : decode cX1_tellName 57 = .ok (.putfield 410, 3) := dk_181 1 154 (dk_at dksX1_tellName_2 10 rfl rfl)
theorem dX1_tellName_60 : decode cX1_tellName 60 = .ok (.aload 5, 2) := dk_25 5 (dk_at dksX1_tellName_2 13 rfl rfl)
theorem dX1_tellName_62 : decode cX1_tellName 62 = .ok (.getfield 413, 3) := dk_180 1 157 (dk_at dksX1_tellName_2 15 rfl rfl)
theorem dX1_tellName_65 : decode cX1_tellName 65 = .ok (.new 415, 3) := dk_187 1 159 (dk_at dksX1_tellName_2 18 rfl rfl)
theorem dX1_tellName_68 : decode cX1_tellName 68 = .ok (.dup, 1) := dk_89 (dk_at dksX1_tellName_2 21 rfl rfl)
theorem dX1_tellName_69 : decode cX1_tellName 69 = .ok (.iload_n 2, 1) := dk_28 (dk_at dksX1_tellName_2 22 rfl rfl)
theorem dX1_tellName_70 : decode cX1_tellName 70 = .ok (.iload_n 3, 1) := dk_29 (dk_at dksX1_tellName_2 23 rfl rfl)
theorem dX1_tellName_71 : decode cX1_tellName 71 = .ok (.iload 4, 2) := dk_21 4 (dk_at dksX1_tellName_3 0 rfl rfl)
theorem dX1_tellName_73 : decode cX1_tellName 73 = .ok (.invokespecial 417, 3) := dk_183 1 161 (dk_at dksX1_tellName_3 2 rfl rfl)
theorem dX1_tellName_76 : decode cX1_tellName 76 = .ok (.invokevirtual 173, 3) := dk_182 0 173 (dk_at dksX1_tellName_3 5 rfl rfl)
theorem dX1_tellName_79 : decode cX1_tellName 79 = .ok (.pop, 1) := dk_87 (dk_at dksX1_tellName_3 8 rfl rfl)
theorem dX1_tellName_80 : decode cX1_tellName 80 = .ok (.aload 5, 2) := dk_25 5 (dk_at dksX1_tellName_3 9 rfl rfl)
theorem dX1_tellName_82 : decode cX1_tellName 82 = .ok (.getfield 413, 3) := dk_180 1 157 (dk_at dksX1_tellName_3 11 rfl rfl)
theorem dX1_tellName_85 : decode cX1_tellName 85 = .ok (.invokevirtual 93, 3) := dk_182 0 93 (dk_at dksX1_tellName_3 14 rfl rfl)
theorem dX1_tellName_88 : decode cX1_tellName 88 = .ok (.ireturn, 1) := dk_172 (dk_at dksX1_tellName_3 17 rfl rfl)
abbrev cX1_nameFor : ByteArray := prog_1_method_63_code
def yX1_nameFor : MethodName := ⟨RX1, "nameFor", "(III)I"⟩
def dkwX1_nameFor_3 : List UInt8 := [182, 1, 167, 29, 184, 0, 14, 153, 0, 9, 25, 6, 182, 1, 170, 172, 132, 5, 255, 167, 255, 203, 2, 172]
abbrev dktX1_nameFor_3 : List UInt8 := dkwX1_nameFor_3 ++ []
def dkwX1_nameFor_2 : List UInt8 := [182, 0, 141, 192, 1, 159, 58, 6, 25, 6, 182, 1, 164, 28, 184, 0, 14, 153, 0, 21, 25, 6]
abbrev dktX1_nameFor_2 : List UInt8 := dkwX1_nameFor_2 ++ dktX1_nameFor_3
def dkwX1_nameFor_1 : List UInt8 := [180, 1, 157, 182, 0, 93, 4, 100, 54, 5, 21, 5, 155, 0, 54, 25, 4, 180, 1, 157, 21, 5]
abbrev dktX1_nameFor_1 : List UInt8 := dkwX1_nameFor_1 ++ dktX1_nameFor_2
def dkwX1_nameFor_0 : List UInt8 := [42, 27, 182, 0, 210, 58, 4, 28, 3, 6, 184, 0, 162, 87, 29, 3, 6, 184, 0, 162, 87, 25, 4]
abbrev dktX1_nameFor_0 : List UInt8 := dkwX1_nameFor_0 ++ dktX1_nameFor_1
theorem dksX1_nameFor_0 : cX1_nameFor.data.toList.drop 0 = dktX1_nameFor_0 := by decide +kernel
theorem dksX1_nameFor_1 : cX1_nameFor.data.toList.drop 23 = dktX1_nameFor_1 := dk_seg dksX1_nameFor_0 23 rfl rfl
theorem dksX1_nameFor_2 : cX1_nameFor.data.toList.drop 45 = dktX1_nameFor_2 := dk_seg dksX1_nameFor_1 22 rfl rfl
theorem dksX1_nameFor_3 : cX1_nameFor.data.toList.drop 67 = dktX1_nameFor_3 := dk_seg dksX1_nameFor_2 22 rfl rfl
theorem dX1_nameFor_0 : decode cX1_nameFor 0 = .ok (.aload_n 0, 1) := dk_42 (dk_at dksX1_nameFor_0 0 rfl rfl)
theorem dX1_nameFor_1 : decode cX1_nameFor 1 = .ok (.iload_n 1, 1) := dk_27 (dk_at dksX1_nameFor_0 1 rfl rfl)
theorem dX1_nameFor_2 : decode cX1_nameFor 2 = .ok (.invokevirtual 210, 3) := dk_182 0 210 (dk_at dksX1_nameFor_0 2 rfl rfl)
theorem dX1_nameFor_5 : decode cX1_nameFor 5 = .ok (.astore 4, 2) := dk_58 4 (dk_at dksX1_nameFor_0 5 rfl rfl)
theorem dX1_nameFor_7 : decode cX1_nameFor 7 = .ok (.iload_n 2, 1) := dk_28 (dk_at dksX1_nameFor_0 7 rfl rfl)
theorem dX1_nameFor_8 : decode cX1_nameFor 8 = .ok (.iconst 0, 1) := dk_3 (dk_at dksX1_nameFor_0 8 rfl rfl)
theorem dX1_nameFor_9 : decode cX1_nameFor 9 = .ok (.iconst 3, 1) := dk_6 (dk_at dksX1_nameFor_0 9 rfl rfl)
theorem dX1_nameFor_10 : decode cX1_nameFor 10 = .ok (.invokestatic 162, 3) := dk_184 0 162 (dk_at dksX1_nameFor_0 10 rfl rfl)
theorem dX1_nameFor_13 : decode cX1_nameFor 13 = .ok (.pop, 1) := dk_87 (dk_at dksX1_nameFor_0 13 rfl rfl)
theorem dX1_nameFor_14 : decode cX1_nameFor 14 = .ok (.iload_n 3, 1) := dk_29 (dk_at dksX1_nameFor_0 14 rfl rfl)
theorem dX1_nameFor_15 : decode cX1_nameFor 15 = .ok (.iconst 0, 1) := dk_3 (dk_at dksX1_nameFor_0 15 rfl rfl)
theorem dX1_nameFor_16 : decode cX1_nameFor 16 = .ok (.iconst 3, 1) := dk_6 (dk_at dksX1_nameFor_0 16 rfl rfl)
theorem dX1_nameFor_17 : decode cX1_nameFor 17 = .ok (.invokestatic 162, 3) := dk_184 0 162 (dk_at dksX1_nameFor_0 17 rfl rfl)
theorem dX1_nameFor_20 : decode cX1_nameFor 20 = .ok (.pop, 1) := dk_87 (dk_at dksX1_nameFor_0 20 rfl rfl)
theorem dX1_nameFor_21 : decode cX1_nameFor 21 = .ok (.aload 4, 2) := dk_25 4 (dk_at dksX1_nameFor_0 21 rfl rfl)
theorem dX1_nameFor_23 : decode cX1_nameFor 23 = .ok (.getfield 413, 3) := dk_180 1 157 (dk_at dksX1_nameFor_1 0 rfl rfl)
theorem dX1_nameFor_26 : decode cX1_nameFor 26 = .ok (.invokevirtual 93, 3) := dk_182 0 93 (dk_at dksX1_nameFor_1 3 rfl rfl)
theorem dX1_nameFor_29 : decode cX1_nameFor 29 = .ok (.iconst 1, 1) := dk_4 (dk_at dksX1_nameFor_1 6 rfl rfl)
theorem dX1_nameFor_30 : decode cX1_nameFor 30 = .ok (.isub, 1) := dk_100 (dk_at dksX1_nameFor_1 7 rfl rfl)
theorem dX1_nameFor_31 : decode cX1_nameFor 31 = .ok (.istore 5, 2) := dk_54 5 (dk_at dksX1_nameFor_1 8 rfl rfl)
theorem dX1_nameFor_33 : decode cX1_nameFor 33 = .ok (.iload 5, 2) := dk_21 5 (dk_at dksX1_nameFor_1 10 rfl rfl)
theorem dX1_nameFor_35 : decode cX1_nameFor 35 = .ok (.ifCond .lt 54, 3) := dk_155 0 54 (dk_at dksX1_nameFor_1 12 rfl rfl)
theorem dX1_nameFor_38 : decode cX1_nameFor 38 = .ok (.aload 4, 2) := dk_25 4 (dk_at dksX1_nameFor_1 15 rfl rfl)
theorem dX1_nameFor_40 : decode cX1_nameFor 40 = .ok (.getfield 413, 3) := dk_180 1 157 (dk_at dksX1_nameFor_1 17 rfl rfl)
theorem dX1_nameFor_43 : decode cX1_nameFor 43 = .ok (.iload 5, 2) := dk_21 5 (dk_at dksX1_nameFor_1 20 rfl rfl)
theorem dX1_nameFor_45 : decode cX1_nameFor 45 = .ok (.invokevirtual 141, 3) := dk_182 0 141 (dk_at dksX1_nameFor_2 0 rfl rfl)
theorem dX1_nameFor_48 : decode cX1_nameFor 48 = .ok (.checkcast 415, 3) := dk_192 1 159 (dk_at dksX1_nameFor_2 3 rfl rfl)
theorem dX1_nameFor_51 : decode cX1_nameFor 51 = .ok (.astore 6, 2) := dk_58 6 (dk_at dksX1_nameFor_2 6 rfl rfl)
theorem dX1_nameFor_53 : decode cX1_nameFor 53 = .ok (.aload 6, 2) := dk_25 6 (dk_at dksX1_nameFor_2 8 rfl rfl)
theorem dX1_nameFor_55 : decode cX1_nameFor 55 = .ok (.invokevirtual 420, 3) := dk_182 1 164 (dk_at dksX1_nameFor_2 10 rfl rfl)
theorem dX1_nameFor_58 : decode cX1_nameFor 58 = .ok (.iload_n 2, 1) := dk_28 (dk_at dksX1_nameFor_2 13 rfl rfl)
theorem dX1_nameFor_59 : decode cX1_nameFor 59 = .ok (.invokestatic 14, 3) := dk_184 0 14 (dk_at dksX1_nameFor_2 14 rfl rfl)
theorem dX1_nameFor_62 : decode cX1_nameFor 62 = .ok (.ifCond .eq 21, 3) := dk_153 0 21 (dk_at dksX1_nameFor_2 17 rfl rfl)
theorem dX1_nameFor_65 : decode cX1_nameFor 65 = .ok (.aload 6, 2) := dk_25 6 (dk_at dksX1_nameFor_2 20 rfl rfl)
theorem dX1_nameFor_67 : decode cX1_nameFor 67 = .ok (.invokevirtual 423, 3) := dk_182 1 167 (dk_at dksX1_nameFor_3 0 rfl rfl)
theorem dX1_nameFor_70 : decode cX1_nameFor 70 = .ok (.iload_n 3, 1) := dk_29 (dk_at dksX1_nameFor_3 3 rfl rfl)
theorem dX1_nameFor_71 : decode cX1_nameFor 71 = .ok (.invokestatic 14, 3) := dk_184 0 14 (dk_at dksX1_nameFor_3 4 rfl rfl)
theorem dX1_nameFor_74 : decode cX1_nameFor 74 = .ok (.ifCond .eq 9, 3) := dk_153 0 9 (dk_at dksX1_nameFor_3 7 rfl rfl)
theorem dX1_nameFor_77 : decode cX1_nameFor 77 = .ok (.aload 6, 2) := dk_25 6 (dk_at dksX1_nameFor_3 10 rfl rfl)
theorem dX1_nameFor_79 : decode cX1_nameFor 79 = .ok (.invokevirtual 426, 3) := dk_182 1 170 (dk_at dksX1_nameFor_3 12 rfl rfl)
theorem dX1_nameFor_82 : decode cX1_nameFor 82 = .ok (.ireturn, 1) := dk_172 (dk_at dksX1_nameFor_3 15 rfl rfl)
theorem dX1_nameFor_83 : decode cX1_nameFor 83 = .ok (.iinc 5 (-1), 3) := dk_132 5 255 (dk_at dksX1_nameFor_3 16 rfl rfl)
theorem dX1_nameFor_86 : decode cX1_nameFor 86 = .ok (.goto (-53), 3) := dk_167 255 203 (dk_at dksX1_nameFor_3 19 rfl rfl)
theorem dX1_nameFor_89 : decode cX1_nameFor 89 = .ok (.iconst (-1), 1) := dk_2 (dk_at dksX1_nameFor_3 22 rfl rfl)
theorem dX1_nameFor_90 : decode cX1_nameFor 90 = .ok (.ireturn, 1) := dk_172 (dk_at dksX1_nameFor_3 23 rfl rfl)
abbrev cX1_setRight : ByteArray := prog_1_method_64_code
def yX1_setRight : MethodName := ⟨RX1, "setRight", "(IIZ)Z"⟩
def dkwX1_setRight_2 : List UInt8 := [180, 1, 173, 4, 28, 120, 2, 130, 126, 181, 1, 173, 21, 5, 172]
abbrev dktX1_setRight_2 : List UInt8 := dkwX1_setRight_2 ++ []
def dkwX1_setRight_1 : List UInt8 := [54, 5, 25, 4, 29, 153, 0, 15, 25, 4, 180, 1, 173, 4, 28, 120, 128, 167, 0, 14, 25, 4]
abbrev dktX1_setRight_1 : List UInt8 := dkwX1_setRight_1 ++ dktX1_setRight_2
def dkwX1_setRight_0 : List UInt8 := [42, 27, 182, 0, 177, 58, 4, 28, 3, 6, 184, 0, 162, 87, 25, 4, 180, 1, 173, 28, 184, 0, 14]
abbrev dktX1_setRight_0 : List UInt8 := dkwX1_setRight_0 ++ dktX1_setRight_1
theorem dksX1_setRight_0 : cX1_setRight.data.toList.drop 0 = dktX1_setRight_0 := by decide +kernel
theorem dksX1_setRight_1 : cX1_setRight.data.toList.drop 23 = dktX1_setRight_1 := dk_seg dksX1_setRight_0 23 rfl rfl
theorem dksX1_setRight_2 : cX1_setRight.data.toList.drop 45 = dktX1_setRight_2 := dk_seg dksX1_setRight_1 22 rfl rfl
theorem dX1_setRight_0 : decode cX1_setRight 0 = .ok (.aload_n 0, 1) := dk_42 (dk_at dksX1_setRight_0 0 rfl rfl)
theorem dX1_setRight_1 : decode cX1_setRight 1 = .ok (.iload_n 1, 1) := dk_27 (dk_at dksX1_setRight_0 1 rfl rfl)
theorem dX1_setRight_2 : decode cX1_setRight 2 = .ok (.invokevirtual 177, 3) := dk_182 0 177 (dk_at dksX1_setRight_0 2 rfl rfl)
theorem dX1_setRight_5 : decode cX1_setRight 5 = .ok (.astore 4, 2) := dk_58 4 (dk_at dksX1_setRight_0 5 rfl rfl)
theorem dX1_setRight_7 : decode cX1_setRight 7 = .ok (.iload_n 2, 1) := dk_28 (dk_at dksX1_setRight_0 7 rfl rfl)
theorem dX1_setRight_8 : decode cX1_setRight 8 = .ok (.iconst 0, 1) := dk_3 (dk_at dksX1_setRight_0 8 rfl rfl)
theorem dX1_setRight_9 : decode cX1_setRight 9 = .ok (.iconst 3, 1) := dk_6 (dk_at dksX1_setRight_0 9 rfl rfl)
theorem dX1_setRight_10 : decode cX1_setRight 10 = .ok (.invokestatic 162, 3) := dk_184 0 162 (dk_at dksX1_setRight_0 10 rfl rfl)
theorem dX1_setRight_13 : decode cX1_setRight 13 = .ok (.pop, 1) := dk_87 (dk_at dksX1_setRight_0 13 rfl rfl)
theorem dX1_setRight_14 : decode cX1_setRight 14 = .ok (.aload 4, 2) := dk_25 4 (dk_at dksX1_setRight_0 14 rfl rfl)
theorem dX1_setRight_16 : decode cX1_setRight 16 = .ok (.getfield 429, 3) := dk_180 1 173 (dk_at dksX1_setRight_0 16 rfl rfl)
theorem dX1_setRight_19 : decode cX1_setRight 19 = .ok (.iload_n 2, 1) := dk_28 (dk_at dksX1_setRight_0 19 rfl rfl)
theorem dX1_setRight_20 : decode cX1_setRight 20 = .ok (.invokestatic 14, 3) := dk_184 0 14 (dk_at dksX1_setRight_0 20 rfl rfl)
theorem dX1_setRight_23 : decode cX1_setRight 23 = .ok (.istore 5, 2) := dk_54 5 (dk_at dksX1_setRight_1 0 rfl rfl)
theorem dX1_setRight_25 : decode cX1_setRight 25 = .ok (.aload 4, 2) := dk_25 4 (dk_at dksX1_setRight_1 2 rfl rfl)
theorem dX1_setRight_27 : decode cX1_setRight 27 = .ok (.iload_n 3, 1) := dk_29 (dk_at dksX1_setRight_1 4 rfl rfl)
theorem dX1_setRight_28 : decode cX1_setRight 28 = .ok (.ifCond .eq 15, 3) := dk_153 0 15 (dk_at dksX1_setRight_1 5 rfl rfl)
theorem dX1_setRight_31 : decode cX1_setRight 31 = .ok (.aload 4, 2) := dk_25 4 (dk_at dksX1_setRight_1 8 rfl rfl)
theorem dX1_setRight_33 : decode cX1_setRight 33 = .ok (.getfield 429, 3) := dk_180 1 173 (dk_at dksX1_setRight_1 10 rfl rfl)
theorem dX1_setRight_36 : decode cX1_setRight 36 = .ok (.iconst 1, 1) := dk_4 (dk_at dksX1_setRight_1 13 rfl rfl)
theorem dX1_setRight_37 : decode cX1_setRight 37 = .ok (.iload_n 2, 1) := dk_28 (dk_at dksX1_setRight_1 14 rfl rfl)
theorem dX1_setRight_38 : decode cX1_setRight 38 = .ok (.ishl, 1) := dk_120 (dk_at dksX1_setRight_1 15 rfl rfl)
theorem dX1_setRight_39 : decode cX1_setRight 39 = .ok (.ior, 1) := dk_128 (dk_at dksX1_setRight_1 16 rfl rfl)
theorem dX1_setRight_40 : decode cX1_setRight 40 = .ok (.goto 14, 3) := dk_167 0 14 (dk_at dksX1_setRight_1 17 rfl rfl)
theorem dX1_setRight_43 : decode cX1_setRight 43 = .ok (.aload 4, 2) := dk_25 4 (dk_at dksX1_setRight_1 20 rfl rfl)
theorem dX1_setRight_45 : decode cX1_setRight 45 = .ok (.getfield 429, 3) := dk_180 1 173 (dk_at dksX1_setRight_2 0 rfl rfl)
theorem dX1_setRight_48 : decode cX1_setRight 48 = .ok (.iconst 1, 1) := dk_4 (dk_at dksX1_setRight_2 3 rfl rfl)
theorem dX1_setRight_49 : decode cX1_setRight 49 = .ok (.iload_n 2, 1) := dk_28 (dk_at dksX1_setRight_2 4 rfl rfl)
theorem dX1_setRight_50 : decode cX1_setRight 50 = .ok (.ishl, 1) := dk_120 (dk_at dksX1_setRight_2 5 rfl rfl)
theorem dX1_setRight_51 : decode cX1_setRight 51 = .ok (.iconst (-1), 1) := dk_2 (dk_at dksX1_setRight_2 6 rfl rfl)
theorem dX1_setRight_52 : decode cX1_setRight 52 = .ok (.ixor, 1) := dk_130 (dk_at dksX1_setRight_2 7 rfl rfl)
theorem dX1_setRight_53 : decode cX1_setRight 53 = .ok (.iand, 1) := dk_126 (dk_at dksX1_setRight_2 8 rfl rfl)
theorem dX1_setRight_54 : decode cX1_setRight 54 = .ok (.putfield 429, 3) := dk_181 1 173 (dk_at dksX1_setRight_2 9 rfl rfl)
theorem dX1_setRight_57 : decode cX1_setRight 57 = .ok (.iload 5, 2) := dk_21 5 (dk_at dksX1_setRight_2 12 rfl rfl)
theorem dX1_setRight_59 : decode cX1_setRight 59 = .ok (.ireturn, 1) := dk_172 (dk_at dksX1_setRight_2 14 rfl rfl)
abbrev cX1_repaint : ByteArray := prog_1_method_65_code
def yX1_repaint : MethodName := ⟨RX1, "repaint", "(II)I"⟩
def dkwX1_repaint_5 : List UInt8 := [20, 0, 239, 131, 127, 181, 0, 235, 22, 4, 184, 0, 230, 172]
abbrev dktX1_repaint_5 : List UInt8 := dkwX1_repaint_5 ++ []
def dkwX1_repaint_4 : List UInt8 := [180, 0, 235, 127, 129, 55, 4, 132, 6, 1, 167, 255, 213, 45, 180, 0, 31, 89, 180, 0, 235, 22, 4]
abbrev dktX1_repaint_4 : List UInt8 := dkwX1_repaint_4 ++ dktX1_repaint_5
def dkwX1_repaint_3 : List UInt8 := [162, 0, 37, 22, 4, 45, 180, 0, 219, 21, 6, 182, 0, 141, 192, 0, 145, 180, 1, 179, 45, 180, 0, 31]
abbrev dktX1_repaint_3 : List UInt8 := dkwX1_repaint_3 ++ dktX1_repaint_4
def dkwX1_repaint_2 : List UInt8 := [167, 0, 4, 3, 184, 0, 166, 9, 55, 4, 3, 54, 6, 21, 6, 45, 180, 0, 219, 182, 0, 93]
abbrev dktX1_repaint_2 : List UInt8 := dkwX1_repaint_2 ++ dktX1_repaint_3
def dkwX1_repaint_1 : List UInt8 := [153, 0, 25, 42, 45, 180, 0, 31, 182, 0, 180, 154, 0, 14, 45, 182, 1, 176, 153, 0, 7, 4]
abbrev dktX1_repaint_1 : List UInt8 := dkwX1_repaint_1 ++ dktX1_repaint_2
def dkwX1_repaint_0 : List UInt8 := [42, 27, 182, 0, 210, 78, 28, 3, 6, 184, 0, 162, 87, 45, 180, 0, 31, 180, 1, 173, 28, 184, 0, 14]
abbrev dktX1_repaint_0 : List UInt8 := dkwX1_repaint_0 ++ dktX1_repaint_1
theorem dksX1_repaint_0 : cX1_repaint.data.toList.drop 0 = dktX1_repaint_0 := by decide +kernel
theorem dksX1_repaint_1 : cX1_repaint.data.toList.drop 24 = dktX1_repaint_1 := dk_seg dksX1_repaint_0 24 rfl rfl
theorem dksX1_repaint_2 : cX1_repaint.data.toList.drop 46 = dktX1_repaint_2 := dk_seg dksX1_repaint_1 22 rfl rfl
theorem dksX1_repaint_3 : cX1_repaint.data.toList.drop 68 = dktX1_repaint_3 := dk_seg dksX1_repaint_2 22 rfl rfl
theorem dksX1_repaint_4 : cX1_repaint.data.toList.drop 92 = dktX1_repaint_4 := dk_seg dksX1_repaint_3 24 rfl rfl
theorem dksX1_repaint_5 : cX1_repaint.data.toList.drop 115 = dktX1_repaint_5 := dk_seg dksX1_repaint_4 23 rfl rfl
theorem dX1_repaint_0 : decode cX1_repaint 0 = .ok (.aload_n 0, 1) := dk_42 (dk_at dksX1_repaint_0 0 rfl rfl)
theorem dX1_repaint_1 : decode cX1_repaint 1 = .ok (.iload_n 1, 1) := dk_27 (dk_at dksX1_repaint_0 1 rfl rfl)
theorem dX1_repaint_2 : decode cX1_repaint 2 = .ok (.invokevirtual 210, 3) := dk_182 0 210 (dk_at dksX1_repaint_0 2 rfl rfl)
theorem dX1_repaint_5 : decode cX1_repaint 5 = .ok (.astore_n 3, 1) := dk_78 (dk_at dksX1_repaint_0 5 rfl rfl)
theorem dX1_repaint_6 : decode cX1_repaint 6 = .ok (.iload_n 2, 1) := dk_28 (dk_at dksX1_repaint_0 6 rfl rfl)
theorem dX1_repaint_7 : decode cX1_repaint 7 = .ok (.iconst 0, 1) := dk_3 (dk_at dksX1_repaint_0 7 rfl rfl)
theorem dX1_repaint_8 : decode cX1_repaint 8 = .ok (.iconst 3, 1) := dk_6 (dk_at dksX1_repaint_0 8 rfl rfl)
theorem dX1_repaint_9 : decode cX1_repaint 9 = .ok (.invokestatic 162, 3) := dk_184 0 162 (dk_at dksX1_repaint_0 9 rfl rfl)
theorem dX1_repaint_12 : decode cX1_repaint 12 = .ok (.pop, 1) := dk_87 (dk_at dksX1_repaint_0 12 rfl rfl)
theorem dX1_repaint_13 : decode cX1_repaint 13 = .ok (.aload_n 3, 1) := dk_45 (dk_at dksX1_repaint_0 13 rfl rfl)
theorem dX1_repaint_14 : decode cX1_repaint 14 = .ok (.getfield 31, 3) := dk_180 0 31 (dk_at dksX1_repaint_0 14 rfl rfl)
theorem dX1_repaint_17 : decode cX1_repaint 17 = .ok (.getfield 429, 3) := dk_180 1 173 (dk_at dksX1_repaint_0 17 rfl rfl)
theorem dX1_repaint_20 : decode cX1_repaint 20 = .ok (.iload_n 2, 1) := dk_28 (dk_at dksX1_repaint_0 20 rfl rfl)
theorem dX1_repaint_21 : decode cX1_repaint 21 = .ok (.invokestatic 14, 3) := dk_184 0 14 (dk_at dksX1_repaint_0 21 rfl rfl)
theorem dX1_repaint_24 : decode cX1_repaint 24 = .ok (.ifCond .eq 25, 3) := dk_153 0 25 (dk_at dksX1_repaint_1 0 rfl rfl)
theorem dX1_repaint_27 : decode cX1_repaint 27 = .ok (.aload_n 0, 1) := dk_42 (dk_at dksX1_repaint_1 3 rfl rfl)
theorem dX1_repaint_28 : decode cX1_repaint 28 = .ok (.aload_n 3, 1) := dk_45 (dk_at dksX1_repaint_1 4 rfl rfl)
theorem dX1_repaint_29 : decode cX1_repaint 29 = .ok (.getfield 31, 3) := dk_180 0 31 (dk_at dksX1_repaint_1 5 rfl rfl)
theorem dX1_repaint_32 : decode cX1_repaint 32 = .ok (.invokevirtual 180, 3) := dk_182 0 180 (dk_at dksX1_repaint_1 8 rfl rfl)
theorem dX1_repaint_35 : decode cX1_repaint 35 = .ok (.ifCond .ne 14, 3) := dk_154 0 14 (dk_at dksX1_repaint_1 11 rfl rfl)
theorem dX1_repaint_38 : decode cX1_repaint 38 = .ok (.aload_n 3, 1) := dk_45 (dk_at dksX1_repaint_1 14 rfl rfl)
theorem dX1_repaint_39 : decode cX1_repaint 39 = .ok (.invokevirtual 432, 3) := dk_182 1 176 (dk_at dksX1_repaint_1 15 rfl rfl)
theorem dX1_repaint_42 : decode cX1_repaint 42 = .ok (.ifCond .eq 7, 3) := dk_153 0 7 (dk_at dksX1_repaint_1 18 rfl rfl)
theorem dX1_repaint_45 : decode cX1_repaint 45 = .ok (.iconst 1, 1) := dk_4 (dk_at dksX1_repaint_1 21 rfl rfl)
theorem dX1_repaint_46 : decode cX1_repaint 46 = .ok (.goto 4, 3) := dk_167 0 4 (dk_at dksX1_repaint_2 0 rfl rfl)
theorem dX1_repaint_49 : decode cX1_repaint 49 = .ok (.iconst 0, 1) := dk_3 (dk_at dksX1_repaint_2 3 rfl rfl)
theorem dX1_repaint_50 : decode cX1_repaint 50 = .ok (.invokestatic 166, 3) := dk_184 0 166 (dk_at dksX1_repaint_2 4 rfl rfl)
theorem dX1_repaint_53 : decode cX1_repaint 53 = .ok (.lconst 0, 1) := dk_9 (dk_at dksX1_repaint_2 7 rfl rfl)
theorem dX1_repaint_54 : decode cX1_repaint 54 = .ok (.lstore 4, 2) := dk_55 4 (dk_at dksX1_repaint_2 8 rfl rfl)
theorem dX1_repaint_56 : decode cX1_repaint 56 = .ok (.iconst 0, 1) := dk_3 (dk_at dksX1_repaint_2 10 rfl rfl)
theorem dX1_repaint_57 : decode cX1_repaint 57 = .ok (.istore 6, 2) := dk_54 6 (dk_at dksX1_repaint_2 11 rfl rfl)
theorem dX1_repaint_59 : decode cX1_repaint 59 = .ok (.iload 6, 2) := dk_21 6 (dk_at dksX1_repaint_2 13 rfl rfl)
theorem dX1_repaint_61 : decode cX1_repaint 61 = .ok (.aload_n 3, 1) := dk_45 (dk_at dksX1_repaint_2 15 rfl rfl)
theorem dX1_repaint_62 : decode cX1_repaint 62 = .ok (.getfield 219, 3) := dk_180 0 219 (dk_at dksX1_repaint_2 16 rfl rfl)
theorem dX1_repaint_65 : decode cX1_repaint 65 = .ok (.invokevirtual 93, 3) := dk_182 0 93 (dk_at dksX1_repaint_2 19 rfl rfl)
theorem dX1_repaint_68 : decode cX1_repaint 68 = .ok (.if_icmp .ge 37, 3) := dk_162 0 37 (dk_at dksX1_repaint_3 0 rfl rfl)
theorem dX1_repaint_71 : decode cX1_repaint 71 = .ok (.lload 4, 2) := dk_22 4 (dk_at dksX1_repaint_3 3 rfl rfl)
theorem dX1_repaint_73 : decode cX1_repaint 73 = .ok (.aload_n 3, 1) := dk_45 (dk_at dksX1_repaint_3 5 rfl rfl)
theorem dX1_repaint_74 : decode cX1_repaint 74 = .ok (.getfield 219, 3) := dk_180 0 219 (dk_at dksX1_repaint_3 6 rfl rfl)
theorem dX1_repaint_77 : decode cX1_repaint 77 = .ok (.iload 6, 2) := dk_21 6 (dk_at dksX1_repaint_3 9 rfl rfl)
theorem dX1_repaint_79 : decode cX1_repaint 79 = .ok (.invokevirtual 141, 3) := dk_182 0 141 (dk_at dksX1_repaint_3 11 rfl rfl)
theorem dX1_repaint_82 : decode cX1_repaint 82 = .ok (.checkcast 145, 3) := dk_192 0 145 (dk_at dksX1_repaint_3 14 rfl rfl)
theorem dX1_repaint_85 : decode cX1_repaint 85 = .ok (.getfield 435, 3) := dk_180 1 179 (dk_at dksX1_repaint_3 17 rfl rfl)
theorem dX1_repaint_88 : decode cX1_repaint 88 = .ok (.aload_n 3, 1) := dk_45 (dk_at dksX1_repaint_3 20 rfl rfl)
theorem dX1_repaint_89 : decode cX1_repaint 89 = .ok (.getfield 31, 3) := dk_180 0 31 (dk_at dksX1_repaint_3 21 rfl rfl)
theorem dX1_repaint_92 : decode cX1_repaint 92 = .ok (.getfield 235, 3) := dk_180 0 235 (dk_at dksX1_repaint_4 0 rfl rfl)
theorem dX1_repaint_95 : decode cX1_repaint 95 = .ok (.land, 1) := dk_127 (dk_at dksX1_repaint_4 3 rfl rfl)
theorem dX1_repaint_96 : decode cX1_repaint 96 = .ok (.lor, 1) := dk_129 (dk_at dksX1_repaint_4 4 rfl rfl)
theorem dX1_repaint_97 : decode cX1_repaint 97 = .ok (.lstore 4, 2) := dk_55 4 (dk_at dksX1_repaint_4 5 rfl rfl)
theorem dX1_repaint_99 : decode cX1_repaint 99 = .ok (.iinc 6 1, 3) := dk_132 6 1 (dk_at dksX1_repaint_4 7 rfl rfl)
theorem dX1_repaint_102 : decode cX1_repaint 102 = .ok (.goto (-43), 3) := dk_167 255 213 (dk_at dksX1_repaint_4 10 rfl rfl)
theorem dX1_repaint_105 : decode cX1_repaint 105 = .ok (.aload_n 3, 1) := dk_45 (dk_at dksX1_repaint_4 13 rfl rfl)
theorem dX1_repaint_106 : decode cX1_repaint 106 = .ok (.getfield 31, 3) := dk_180 0 31 (dk_at dksX1_repaint_4 14 rfl rfl)
theorem dX1_repaint_109 : decode cX1_repaint 109 = .ok (.dup, 1) := dk_89 (dk_at dksX1_repaint_4 17 rfl rfl)
theorem dX1_repaint_110 : decode cX1_repaint 110 = .ok (.getfield 235, 3) := dk_180 0 235 (dk_at dksX1_repaint_4 18 rfl rfl)
theorem dX1_repaint_113 : decode cX1_repaint 113 = .ok (.lload 4, 2) := dk_22 4 (dk_at dksX1_repaint_4 21 rfl rfl)
theorem dX1_repaint_115 : decode cX1_repaint 115 = .ok (.ldc2_w 239, 3) := dk_20 0 239 (dk_at dksX1_repaint_5 0 rfl rfl)
theorem dX1_repaint_118 : decode cX1_repaint 118 = .ok (.lxor, 1) := dk_131 (dk_at dksX1_repaint_5 3 rfl rfl)
theorem dX1_repaint_119 : decode cX1_repaint 119 = .ok (.land, 1) := dk_127 (dk_at dksX1_repaint_5 4 rfl rfl)
theorem dX1_repaint_120 : decode cX1_repaint 120 = .ok (.putfield 235, 3) := dk_181 0 235 (dk_at dksX1_repaint_5 5 rfl rfl)
theorem dX1_repaint_123 : decode cX1_repaint 123 = .ok (.lload 4, 2) := dk_22 4 (dk_at dksX1_repaint_5 8 rfl rfl)
theorem dX1_repaint_125 : decode cX1_repaint 125 = .ok (.invokestatic 230, 3) := dk_184 0 230 (dk_at dksX1_repaint_5 10 rfl rfl)
theorem dX1_repaint_128 : decode cX1_repaint 128 = .ok (.ireturn, 1) := dk_172 (dk_at dksX1_repaint_5 13 rfl rfl)
abbrev cX1_passYears : ByteArray := prog_1_method_66_code
def yX1_passYears : MethodName := ⟨RX1, "passYears", "(I)I"⟩
def dkwX1_passYears_4 : List UInt8 := [181, 1, 190, 132, 3, 1, 167, 255, 203, 132, 2, 1, 167, 255, 180, 42, 180, 0, 116, 172]
abbrev dktX1_passYears_4 : List UInt8 := dkwX1_passYears_4 ++ []
def dkwX1_passYears_3 : List UInt8 := [25, 4, 3, 25, 4, 180, 1, 181, 25, 4, 182, 1, 184, 100, 184, 1, 187, 181, 1, 181, 25, 4, 3]
abbrev dktX1_passYears_3 : List UInt8 := dkwX1_passYears_3 ++ dktX1_passYears_4
def dkwX1_passYears_2 : List UInt8 := [42, 180, 0, 49, 182, 0, 93, 162, 0, 48, 42, 180, 0, 49, 29, 182, 0, 141, 192, 0, 105, 58, 4]
abbrev dktX1_passYears_2 : List UInt8 := dkwX1_passYears_2 ++ dktX1_passYears_3
def dkwX1_passYears_1 : List UInt8 := [3, 184, 0, 166, 3, 61, 28, 27, 162, 0, 77, 42, 89, 180, 0, 116, 4, 96, 181, 0, 116, 3, 62, 29]
abbrev dktX1_passYears_1 : List UInt8 := dkwX1_passYears_1 ++ dktX1_passYears_2
def dkwX1_passYears_0 : List UInt8 := [27, 4, 16, 50, 184, 0, 162, 87, 42, 180, 0, 116, 27, 96, 17, 0, 200, 163, 0, 7, 4, 167, 0, 4]
abbrev dktX1_passYears_0 : List UInt8 := dkwX1_passYears_0 ++ dktX1_passYears_1
theorem dksX1_passYears_0 : cX1_passYears.data.toList.drop 0 = dktX1_passYears_0 := by decide +kernel
theorem dksX1_passYears_1 : cX1_passYears.data.toList.drop 24 = dktX1_passYears_1 := dk_seg dksX1_passYears_0 24 rfl rfl
theorem dksX1_passYears_2 : cX1_passYears.data.toList.drop 48 = dktX1_passYears_2 := dk_seg dksX1_passYears_1 24 rfl rfl
theorem dksX1_passYears_3 : cX1_passYears.data.toList.drop 71 = dktX1_passYears_3 := dk_seg dksX1_passYears_2 23 rfl rfl
theorem dksX1_passYears_4 : cX1_passYears.data.toList.drop 94 = dktX1_passYears_4 := dk_seg dksX1_passYears_3 23 rfl rfl
theorem dX1_passYears_0 : decode cX1_passYears 0 = .ok (.iload_n 1, 1) := dk_27 (dk_at dksX1_passYears_0 0 rfl rfl)
theorem dX1_passYears_1 : decode cX1_passYears 1 = .ok (.iconst 1, 1) := dk_4 (dk_at dksX1_passYears_0 1 rfl rfl)
theorem dX1_passYears_2 : decode cX1_passYears 2 = .ok (.bipush 50, 2) := dk_16 50 (dk_at dksX1_passYears_0 2 rfl rfl)
theorem dX1_passYears_4 : decode cX1_passYears 4 = .ok (.invokestatic 162, 3) := dk_184 0 162 (dk_at dksX1_passYears_0 4 rfl rfl)
theorem dX1_passYears_7 : decode cX1_passYears 7 = .ok (.pop, 1) := dk_87 (dk_at dksX1_passYears_0 7 rfl rfl)
theorem dX1_passYears_8 : decode cX1_passYears 8 = .ok (.aload_n 0, 1) := dk_42 (dk_at dksX1_passYears_0 8 rfl rfl)
theorem dX1_passYears_9 : decode cX1_passYears 9 = .ok (.getfield 116, 3) := dk_180 0 116 (dk_at dksX1_passYears_0 9 rfl rfl)
theorem dX1_passYears_12 : decode cX1_passYears 12 = .ok (.iload_n 1, 1) := dk_27 (dk_at dksX1_passYears_0 12 rfl rfl)
theorem dX1_passYears_13 : decode cX1_passYears 13 = .ok (.iadd, 1) := dk_96 (dk_at dksX1_passYears_0 13 rfl rfl)
theorem dX1_passYears_14 : decode cX1_passYears 14 = .ok (.sipush 200, 3) := dk_17 0 200 (dk_at dksX1_passYears_0 14 rfl rfl)
theorem dX1_passYears_17 : decode cX1_passYears 17 = .ok (.if_icmp .gt 7, 3) := dk_163 0 7 (dk_at dksX1_passYears_0 17 rfl rfl)
theorem dX1_passYears_20 : decode cX1_passYears 20 = .ok (.iconst 1, 1) := dk_4 (dk_at dksX1_passYears_0 20 rfl rfl)
theorem dX1_passYears_21 : decode cX1_passYears 21 = .ok (.goto 4, 3) := dk_167 0 4 (dk_at dksX1_passYears_0 21 rfl rfl)
theorem dX1_passYears_24 : decode cX1_passYears 24 = .ok (.iconst 0, 1) := dk_3 (dk_at dksX1_passYears_1 0 rfl rfl)
theorem dX1_passYears_25 : decode cX1_passYears 25 = .ok (.invokestatic 166, 3) := dk_184 0 166 (dk_at dksX1_passYears_1 1 rfl rfl)
theorem dX1_passYears_28 : decode cX1_passYears 28 = .ok (.iconst 0, 1) := dk_3 (dk_at dksX1_passYears_1 4 rfl rfl)
theorem dX1_passYears_29 : decode cX1_passYears 29 = .ok (.istore_n 2, 1) := dk_61 (dk_at dksX1_passYears_1 5 rfl rfl)
theorem dX1_passYears_30 : decode cX1_passYears 30 = .ok (.iload_n 2, 1) := dk_28 (dk_at dksX1_passYears_1 6 rfl rfl)
theorem dX1_passYears_31 : decode cX1_passYears 31 = .ok (.iload_n 1, 1) := dk_27 (dk_at dksX1_passYears_1 7 rfl rfl)
theorem dX1_passYears_32 : decode cX1_passYears 32 = .ok (.if_icmp .ge 77, 3) := dk_162 0 77 (dk_at dksX1_passYears_1 8 rfl rfl)
theorem dX1_passYears_35 : decode cX1_passYears 35 = .ok (.aload_n 0, 1) := dk_42 (dk_at dksX1_passYears_1 11 rfl rfl)
theorem dX1_passYears_36 : decode cX1_passYears 36 = .ok (.dup, 1) := dk_89 (dk_at dksX1_passYears_1 12 rfl rfl)
theorem dX1_passYears_37 : decode cX1_passYears 37 = .ok (.getfield 116, 3) := dk_180 0 116 (dk_at dksX1_passYears_1 13 rfl rfl)
theorem dX1_passYears_40 : decode cX1_passYears 40 = .ok (.iconst 1, 1) := dk_4 (dk_at dksX1_passYears_1 16 rfl rfl)
theorem dX1_passYears_41 : decode cX1_passYears 41 = .ok (.iadd, 1) := dk_96 (dk_at dksX1_passYears_1 17 rfl rfl)
theorem dX1_passYears_42 : decode cX1_passYears 42 = .ok (.putfield 116, 3) := dk_181 0 116 (dk_at dksX1_passYears_1 18 rfl rfl)
theorem dX1_passYears_45 : decode cX1_passYears 45 = .ok (.iconst 0, 1) := dk_3 (dk_at dksX1_passYears_1 21 rfl rfl)
theorem dX1_passYears_46 : decode cX1_passYears 46 = .ok (.istore_n 3, 1) := dk_62 (dk_at dksX1_passYears_1 22 rfl rfl)
theorem dX1_passYears_47 : decode cX1_passYears 47 = .ok (.iload_n 3, 1) := dk_29 (dk_at dksX1_passYears_1 23 rfl rfl)
theorem dX1_passYears_48 : decode cX1_passYears 48 = .ok (.aload_n 0, 1) := dk_42 (dk_at dksX1_passYears_2 0 rfl rfl)
theorem dX1_passYears_49 : decode cX1_passYears 49 = .ok (.getfield 49, 3) := dk_180 0 49 (dk_at dksX1_passYears_2 1 rfl rfl)
theorem dX1_passYears_52 : decode cX1_passYears 52 = .ok (.invokevirtual 93, 3) := dk_182 0 93 (dk_at dksX1_passYears_2 4 rfl rfl)
theorem dX1_passYears_55 : decode cX1_passYears 55 = .ok (.if_icmp .ge 48, 3) := dk_162 0 48 (dk_at dksX1_passYears_2 7 rfl rfl)
theorem dX1_passYears_58 : decode cX1_passYears 58 = .ok (.aload_n 0, 1) := dk_42 (dk_at dksX1_passYears_2 10 rfl rfl)
theorem dX1_passYears_59 : decode cX1_passYears 59 = .ok (.getfield 49, 3) := dk_180 0 49 (dk_at dksX1_passYears_2 11 rfl rfl)
theorem dX1_passYears_62 : decode cX1_passYears 62 = .ok (.iload_n 3, 1) := dk_29 (dk_at dksX1_passYears_2 14 rfl rfl)
theorem dX1_passYears_63 : decode cX1_passYears 63 = .ok (.invokevirtual 141, 3) := dk_182 0 141 (dk_at dksX1_passYears_2 15 rfl rfl)
theorem dX1_passYears_66 : decode cX1_passYears 66 = .ok (.checkcast 105, 3) := dk_192 0 105 (dk_at dksX1_passYears_2 18 rfl rfl)
theorem dX1_passYears_69 : decode cX1_passYears 69 = .ok (.astore 4, 2) := dk_58 4 (dk_at dksX1_passYears_2 21 rfl rfl)
theorem dX1_passYears_71 : decode cX1_passYears 71 = .ok (.aload 4, 2) := dk_25 4 (dk_at dksX1_passYears_3 0 rfl rfl)
theorem dX1_passYears_73 : decode cX1_passYears 73 = .ok (.iconst 0, 1) := dk_3 (dk_at dksX1_passYears_3 2 rfl rfl)
theorem dX1_passYears_74 : decode cX1_passYears 74 = .ok (.aload 4, 2) := dk_25 4 (dk_at dksX1_passYears_3 3 rfl rfl)
theorem dX1_passYears_76 : decode cX1_passYears 76 = .ok (.getfield 437, 3) := dk_180 1 181 (dk_at dksX1_passYears_3 5 rfl rfl)
theorem dX1_passYears_79 : decode cX1_passYears 79 = .ok (.aload 4, 2) := dk_25 4 (dk_at dksX1_passYears_3 8 rfl rfl)
theorem dX1_passYears_81 : decode cX1_passYears 81 = .ok (.invokevirtual 440, 3) := dk_182 1 184 (dk_at dksX1_passYears_3 10 rfl rfl)
theorem dX1_passYears_84 : decode cX1_passYears 84 = .ok (.isub, 1) := dk_100 (dk_at dksX1_passYears_3 13 rfl rfl)
theorem dX1_passYears_85 : decode cX1_passYears 85 = .ok (.invokestatic 443, 3) := dk_184 1 187 (dk_at dksX1_passYears_3 14 rfl rfl)
theorem dX1_passYears_88 : decode cX1_passYears 88 = .ok (.putfield 437, 3) := dk_181 1 181 (dk_at dksX1_passYears_3 17 rfl rfl)
theorem dX1_passYears_91 : decode cX1_passYears 91 = .ok (.aload 4, 2) := dk_25 4 (dk_at dksX1_passYears_3 20 rfl rfl)
theorem dX1_passYears_93 : decode cX1_passYears 93 = .ok (.iconst 0, 1) := dk_3 (dk_at dksX1_passYears_3 22 rfl rfl)
theorem dX1_passYears_94 : decode cX1_passYears 94 = .ok (.putfield 446, 3) := dk_181 1 190 (dk_at dksX1_passYears_4 0 rfl rfl)
theorem dX1_passYears_97 : decode cX1_passYears 97 = .ok (.iinc 3 1, 3) := dk_132 3 1 (dk_at dksX1_passYears_4 3 rfl rfl)
theorem dX1_passYears_100 : decode cX1_passYears 100 = .ok (.goto (-53), 3) := dk_167 255 203 (dk_at dksX1_passYears_4 6 rfl rfl)
theorem dX1_passYears_103 : decode cX1_passYears 103 = .ok (.iinc 2 1, 3) := dk_132 2 1 (dk_at dksX1_passYears_4 9 rfl rfl)
theorem dX1_passYears_106 : decode cX1_passYears 106 = .ok (.goto (-76), 3) := dk_167 255 180 (dk_at dksX1_passYears_4 12 rfl rfl)
theorem dX1_passYears_109 : decode cX1_passYears 109 = .ok (.aload_n 0, 1) := dk_42 (dk_at dksX1_passYears_4 15 rfl rfl)
theorem dX1_passYears_110 : decode cX1_passYears 110 = .ok (.getfield 116, 3) := dk_180 0 116 (dk_at dksX1_passYears_4 16 rfl rfl)
theorem dX1_passYears_113 : decode cX1_passYears 113 = .ok (.ireturn, 1) := dk_172 (dk_at dksX1_passYears_4 19 rfl rfl)
abbrev cX1_setDecay : ByteArray := prog_1_method_67_code
def yX1_setDecay : MethodName := ⟨RX1, "setDecay", "(IIII)I"⟩
def dkwX1_setDecay_2 : List UInt8 := [21, 4, 181, 1, 199, 25, 5, 182, 1, 184, 172]
abbrev dktX1_setDecay_2 : List UInt8 := dkwX1_setDecay_2 ++ []
def dkwX1_setDecay_1 : List UInt8 := [21, 4, 3, 16, 9, 184, 0, 162, 87, 25, 5, 28, 181, 1, 193, 25, 5, 29, 181, 1, 196, 25, 5]
abbrev dktX1_setDecay_1 : List UInt8 := dkwX1_setDecay_1 ++ dktX1_setDecay_2
def dkwX1_setDecay_0 : List UInt8 := [42, 27, 182, 0, 177, 58, 5, 28, 3, 16, 9, 184, 0, 162, 87, 29, 3, 16, 9, 184, 0, 162, 87]
abbrev dktX1_setDecay_0 : List UInt8 := dkwX1_setDecay_0 ++ dktX1_setDecay_1
theorem dksX1_setDecay_0 : cX1_setDecay.data.toList.drop 0 = dktX1_setDecay_0 := by decide +kernel
theorem dksX1_setDecay_1 : cX1_setDecay.data.toList.drop 23 = dktX1_setDecay_1 := dk_seg dksX1_setDecay_0 23 rfl rfl
theorem dksX1_setDecay_2 : cX1_setDecay.data.toList.drop 46 = dktX1_setDecay_2 := dk_seg dksX1_setDecay_1 23 rfl rfl
theorem dX1_setDecay_0 : decode cX1_setDecay 0 = .ok (.aload_n 0, 1) := dk_42 (dk_at dksX1_setDecay_0 0 rfl rfl)
theorem dX1_setDecay_1 : decode cX1_setDecay 1 = .ok (.iload_n 1, 1) := dk_27 (dk_at dksX1_setDecay_0 1 rfl rfl)
theorem dX1_setDecay_2 : decode cX1_setDecay 2 = .ok (.invokevirtual 177, 3) := dk_182 0 177 (dk_at dksX1_setDecay_0 2 rfl rfl)
theorem dX1_setDecay_5 : decode cX1_setDecay 5 = .ok (.astore 5, 2) := dk_58 5 (dk_at dksX1_setDecay_0 5 rfl rfl)
theorem dX1_setDecay_7 : decode cX1_setDecay 7 = .ok (.iload_n 2, 1) := dk_28 (dk_at dksX1_setDecay_0 7 rfl rfl)
theorem dX1_setDecay_8 : decode cX1_setDecay 8 = .ok (.iconst 0, 1) := dk_3 (dk_at dksX1_setDecay_0 8 rfl rfl)
theorem dX1_setDecay_9 : decode cX1_setDecay 9 = .ok (.bipush 9, 2) := dk_16 9 (dk_at dksX1_setDecay_0 9 rfl rfl)
theorem dX1_setDecay_11 : decode cX1_setDecay 11 = .ok (.invokestatic 162, 3) := dk_184 0 162 (dk_at dksX1_setDecay_0 11 rfl rfl)
theorem dX1_setDecay_14 : decode cX1_setDecay 14 = .ok (.pop, 1) := dk_87 (dk_at dksX1_setDecay_0 14 rfl rfl)
theorem dX1_setDecay_15 : decode cX1_setDecay 15 = .ok (.iload_n 3, 1) := dk_29 (dk_at dksX1_setDecay_0 15 rfl rfl)
theorem dX1_setDecay_16 : decode cX1_setDecay 16 = .ok (.iconst 0, 1) := dk_3 (dk_at dksX1_setDecay_0 16 rfl rfl)
theorem dX1_setDecay_17 : decode cX1_setDecay 17 = .ok (.bipush 9, 2) := dk_16 9 (dk_at dksX1_setDecay_0 17 rfl rfl)
theorem dX1_setDecay_19 : decode cX1_setDecay 19 = .ok (.invokestatic 162, 3) := dk_184 0 162 (dk_at dksX1_setDecay_0 19 rfl rfl)
theorem dX1_setDecay_22 : decode cX1_setDecay 22 = .ok (.pop, 1) := dk_87 (dk_at dksX1_setDecay_0 22 rfl rfl)
theorem dX1_setDecay_23 : decode cX1_setDecay 23 = .ok (.iload 4, 2) := dk_21 4 (dk_at dksX1_setDecay_1 0 rfl rfl)
theorem dX1_setDecay_25 : decode cX1_setDecay 25 = .ok (.iconst 0, 1) := dk_3 (dk_at dksX1_setDecay_1 2 rfl rfl)
theorem dX1_setDecay_26 : decode cX1_setDecay 26 = .ok (.bipush 9, 2) := dk_16 9 (dk_at dksX1_setDecay_1 3 rfl rfl)
theorem dX1_setDecay_28 : decode cX1_setDecay 28 = .ok (.invokestatic 162, 3) := dk_184 0 162 (dk_at dksX1_setDecay_1 5 rfl rfl)
theorem dX1_setDecay_31 : decode cX1_setDecay 31 = .ok (.pop, 1) := dk_87 (dk_at dksX1_setDecay_1 8 rfl rfl)
theorem dX1_setDecay_32 : decode cX1_setDecay 32 = .ok (.aload 5, 2) := dk_25 5 (dk_at dksX1_setDecay_1 9 rfl rfl)
theorem dX1_setDecay_34 : decode cX1_setDecay 34 = .ok (.iload_n 2, 1) := dk_28 (dk_at dksX1_setDecay_1 11 rfl rfl)
theorem dX1_setDecay_35 : decode cX1_setDecay 35 = .ok (.putfield 449, 3) := dk_181 1 193 (dk_at dksX1_setDecay_1 12 rfl rfl)
theorem dX1_setDecay_38 : decode cX1_setDecay 38 = .ok (.aload 5, 2) := dk_25 5 (dk_at dksX1_setDecay_1 15 rfl rfl)
theorem dX1_setDecay_40 : decode cX1_setDecay 40 = .ok (.iload_n 3, 1) := dk_29 (dk_at dksX1_setDecay_1 17 rfl rfl)
theorem dX1_setDecay_41 : decode cX1_setDecay 41 = .ok (.putfield 452, 3) := dk_181 1 196 (dk_at dksX1_setDecay_1 18 rfl rfl)
theorem dX1_setDecay_44 : decode cX1_setDecay 44 = .ok (.aload 5, 2) := dk_25 5 (dk_at dksX1_setDecay_1 21 rfl rfl)
theorem dX1_setDecay_46 : decode cX1_setDecay 46 = .ok (.iload 4, 2) := dk_21 4 (dk_at dksX1_setDecay_2 0 rfl rfl)
theorem dX1_setDecay_48 : decode cX1_setDecay 48 = .ok (.putfield 455, 3) := dk_181 1 199 (dk_at dksX1_setDecay_2 2 rfl rfl)
theorem dX1_setDecay_51 : decode cX1_setDecay 51 = .ok (.aload 5, 2) := dk_25 5 (dk_at dksX1_setDecay_2 5 rfl rfl)
theorem dX1_setDecay_53 : decode cX1_setDecay 53 = .ok (.invokevirtual 440, 3) := dk_182 1 184 (dk_at dksX1_setDecay_2 7 rfl rfl)
theorem dX1_setDecay_56 : decode cX1_setDecay 56 = .ok (.ireturn, 1) := dk_172 (dk_at dksX1_setDecay_2 10 rfl rfl)
abbrev cX1_healthOf : ByteArray := prog_1_method_68_code
def yX1_healthOf : MethodName := ⟨RX1, "healthOf", "(I)I"⟩
def dkwX1_healthOf_0 : List UInt8 := [42, 27, 182, 0, 177, 180, 1, 181, 172]
abbrev dktX1_healthOf_0 : List UInt8 := dkwX1_healthOf_0 ++ []
theorem dksX1_healthOf_0 : cX1_healthOf.data.toList.drop 0 = dktX1_healthOf_0 := by decide +kernel
theorem dX1_healthOf_0 : decode cX1_healthOf 0 = .ok (.aload_n 0, 1) := dk_42 (dk_at dksX1_healthOf_0 0 rfl rfl)
theorem dX1_healthOf_1 : decode cX1_healthOf 1 = .ok (.iload_n 1, 1) := dk_27 (dk_at dksX1_healthOf_0 1 rfl rfl)
theorem dX1_healthOf_2 : decode cX1_healthOf 2 = .ok (.invokevirtual 177, 3) := dk_182 0 177 (dk_at dksX1_healthOf_0 2 rfl rfl)
theorem dX1_healthOf_5 : decode cX1_healthOf 5 = .ok (.getfield 437, 3) := dk_180 1 181 (dk_at dksX1_healthOf_0 5 rfl rfl)
theorem dX1_healthOf_8 : decode cX1_healthOf 8 = .ok (.ireturn, 1) := dk_172 (dk_at dksX1_healthOf_0 8 rfl rfl)
abbrev cX1_addWork : ByteArray := prog_1_method_69_code
def yX1_addWork : MethodName := ⟨RX1, "addWork", "(III)I"⟩
def dkwX1_addWork_3 : List UInt8 := [172]
abbrev dktX1_addWork_3 : List UInt8 := dkwX1_addWork_3 ++ []
def dkwX1_addWork_2 : List UInt8 := [187, 1, 202, 89, 25, 4, 28, 29, 183, 1, 204, 182, 0, 173, 87, 42, 180, 0, 81, 182, 0, 93, 4, 100]
abbrev dktX1_addWork_2 : List UInt8 := dkwX1_addWork_2 ++ dktX1_addWork_3
def dkwX1_addWork_1 : List UInt8 := [42, 180, 0, 81, 182, 0, 93, 16, 10, 162, 0, 7, 4, 167, 0, 4, 3, 184, 0, 166, 42, 180, 0, 81]
abbrev dktX1_addWork_1 : List UInt8 := dkwX1_addWork_1 ++ dktX1_addWork_2
def dkwX1_addWork_0 : List UInt8 := [42, 27, 182, 0, 177, 58, 4, 28, 4, 17, 3, 232, 184, 0, 162, 87, 29, 4, 16, 50, 184, 0, 162, 87]
abbrev dktX1_addWork_0 : List UInt8 := dkwX1_addWork_0 ++ dktX1_addWork_1
theorem dksX1_addWork_0 : cX1_addWork.data.toList.drop 0 = dktX1_addWork_0 := by decide +kernel
theorem dksX1_addWork_1 : cX1_addWork.data.toList.drop 24 = dktX1_addWork_1 := dk_seg dksX1_addWork_0 24 rfl rfl
theorem dksX1_addWork_2 : cX1_addWork.data.toList.drop 48 = dktX1_addWork_2 := dk_seg dksX1_addWork_1 24 rfl rfl
theorem dksX1_addWork_3 : cX1_addWork.data.toList.drop 72 = dktX1_addWork_3 := dk_seg dksX1_addWork_2 24 rfl rfl
theorem dX1_addWork_0 : decode cX1_addWork 0 = .ok (.aload_n 0, 1) := dk_42 (dk_at dksX1_addWork_0 0 rfl rfl)
theorem dX1_addWork_1 : decode cX1_addWork 1 = .ok (.iload_n 1, 1) := dk_27 (dk_at dksX1_addWork_0 1 rfl rfl)
theorem dX1_addWork_2 : decode cX1_addWork 2 = .ok (.invokevirtual 177, 3) := dk_182 0 177 (dk_at dksX1_addWork_0 2 rfl rfl)
theorem dX1_addWork_5 : decode cX1_addWork 5 = .ok (.astore 4, 2) := dk_58 4 (dk_at dksX1_addWork_0 5 rfl rfl)
theorem dX1_addWork_7 : decode cX1_addWork 7 = .ok (.iload_n 2, 1) := dk_28 (dk_at dksX1_addWork_0 7 rfl rfl)
theorem dX1_addWork_8 : decode cX1_addWork 8 = .ok (.iconst 1, 1) := dk_4 (dk_at dksX1_addWork_0 8 rfl rfl)
theorem dX1_addWork_9 : decode cX1_addWork 9 = .ok (.sipush 1000, 3) := dk_17 3 232 (dk_at dksX1_addWork_0 9 rfl rfl)
theorem dX1_addWork_12 : decode cX1_addWork 12 = .ok (.invokestatic 162, 3) := dk_184 0 162 (dk_at dksX1_addWork_0 12 rfl rfl)
theorem dX1_addWork_15 : decode cX1_addWork 15 = .ok (.pop, 1) := dk_87 (dk_at dksX1_addWork_0 15 rfl rfl)
theorem dX1_addWork_16 : decode cX1_addWork 16 = .ok (.iload_n 3, 1) := dk_29 (dk_at dksX1_addWork_0 16 rfl rfl)
theorem dX1_addWork_17 : decode cX1_addWork 17 = .ok (.iconst 1, 1) := dk_4 (dk_at dksX1_addWork_0 17 rfl rfl)
theorem dX1_addWork_18 : decode cX1_addWork 18 = .ok (.bipush 50, 2) := dk_16 50 (dk_at dksX1_addWork_0 18 rfl rfl)
theorem dX1_addWork_20 : decode cX1_addWork 20 = .ok (.invokestatic 162, 3) := dk_184 0 162 (dk_at dksX1_addWork_0 20 rfl rfl)
theorem dX1_addWork_23 : decode cX1_addWork 23 = .ok (.pop, 1) := dk_87 (dk_at dksX1_addWork_0 23 rfl rfl)
theorem dX1_addWork_24 : decode cX1_addWork 24 = .ok (.aload_n 0, 1) := dk_42 (dk_at dksX1_addWork_1 0 rfl rfl)
theorem dX1_addWork_25 : decode cX1_addWork 25 = .ok (.getfield 81, 3) := dk_180 0 81 (dk_at dksX1_addWork_1 1 rfl rfl)
theorem dX1_addWork_28 : decode cX1_addWork 28 = .ok (.invokevirtual 93, 3) := dk_182 0 93 (dk_at dksX1_addWork_1 4 rfl rfl)
theorem dX1_addWork_31 : decode cX1_addWork 31 = .ok (.bipush 10, 2) := dk_16 10 (dk_at dksX1_addWork_1 7 rfl rfl)
theorem dX1_addWork_33 : decode cX1_addWork 33 = .ok (.if_icmp .ge 7, 3) := dk_162 0 7 (dk_at dksX1_addWork_1 9 rfl rfl)
theorem dX1_addWork_36 : decode cX1_addWork 36 = .ok (.iconst 1, 1) := dk_4 (dk_at dksX1_addWork_1 12 rfl rfl)
theorem dX1_addWork_37 : decode cX1_addWork 37 = .ok (.goto 4, 3) := dk_167 0 4 (dk_at dksX1_addWork_1 13 rfl rfl)
theorem dX1_addWork_40 : decode cX1_addWork 40 = .ok (.iconst 0, 1) := dk_3 (dk_at dksX1_addWork_1 16 rfl rfl)
theorem dX1_addWork_41 : decode cX1_addWork 41 = .ok (.invokestatic 166, 3) := dk_184 0 166 (dk_at dksX1_addWork_1 17 rfl rfl)
theorem dX1_addWork_44 : decode cX1_addWork 44 = .ok (.aload_n 0, 1) := dk_42 (dk_at dksX1_addWork_1 20 rfl rfl)
theorem dX1_addWork_45 : decode cX1_addWork 45 = .ok (.getfield 81, 3) := dk_180 0 81 (dk_at dksX1_addWork_1 21 rfl rfl)
theorem dX1_addWork_48 : decode cX1_addWork 48 = .ok (.new 458, 3) := dk_187 1 202 (dk_at dksX1_addWork_2 0 rfl rfl)
theorem dX1_addWork_51 : decode cX1_addWork 51 = .ok (.dup, 1) := dk_89 (dk_at dksX1_addWork_2 3 rfl rfl)
theorem dX1_addWork_52 : decode cX1_addWork 52 = .ok (.aload 4, 2) := dk_25 4 (dk_at dksX1_addWork_2 4 rfl rfl)
theorem dX1_addWork_54 : decode cX1_addWork 54 = .ok (.iload_n 2, 1) := dk_28 (dk_at dksX1_addWork_2 6 rfl rfl)
theorem dX1_addWork_55 : decode cX1_addWork 55 = .ok (.iload_n 3, 1) := dk_29 (dk_at dksX1_addWork_2 7 rfl rfl)
theorem dX1_addWork_56 : decode cX1_addWork 56 = .ok (.invokespecial 460, 3) := dk_183 1 204 (dk_at dksX1_addWork_2 8 rfl rfl)
theorem dX1_addWork_59 : decode cX1_addWork 59 = .ok (.invokevirtual 173, 3) := dk_182 0 173 (dk_at dksX1_addWork_2 11 rfl rfl)
theorem dX1_addWork_62 : decode cX1_addWork 62 = .ok (.pop, 1) := dk_87 (dk_at dksX1_addWork_2 14 rfl rfl)
theorem dX1_addWork_63 : decode cX1_addWork 63 = .ok (.aload_n 0, 1) := dk_42 (dk_at dksX1_addWork_2 15 rfl rfl)
theorem dX1_addWork_64 : decode cX1_addWork 64 = .ok (.getfield 81, 3) := dk_180 0 81 (dk_at dksX1_addWork_2 16 rfl rfl)
theorem dX1_addWork_67 : decode cX1_addWork 67 = .ok (.invokevirtual 93, 3) := dk_182 0 93 (dk_at dksX1_addWork_2 19 rfl rfl)
theorem dX1_addWork_70 : decode cX1_addWork 70 = .ok (.iconst 1, 1) := dk_4 (dk_at dksX1_addWork_2 22 rfl rfl)
theorem dX1_addWork_71 : decode cX1_addWork 71 = .ok (.isub, 1) := dk_100 (dk_at dksX1_addWork_2 23 rfl rfl)
theorem dX1_addWork_72 : decode cX1_addWork 72 = .ok (.ireturn, 1) := dk_172 (dk_at dksX1_addWork_3 0 rfl rfl)
abbrev cX1_worksFor : ByteArray := prog_1_method_71_code
def yX1_worksFor : MethodName := ⟨RX1, "worksFor", "(I)I"⟩
def dkwX1_worksFor_0 : List UInt8 := [42, 27, 3, 17, 39, 16, 184, 0, 162, 182, 1, 220, 172]
abbrev dktX1_worksFor_0 : List UInt8 := dkwX1_worksFor_0 ++ []
theorem dksX1_worksFor_0 : cX1_worksFor.data.toList.drop 0 = dktX1_worksFor_0 := by decide +kernel
theorem dX1_worksFor_0 : decode cX1_worksFor 0 = .ok (.aload_n 0, 1) := dk_42 (dk_at dksX1_worksFor_0 0 rfl rfl)
theorem dX1_worksFor_1 : decode cX1_worksFor 1 = .ok (.iload_n 1, 1) := dk_27 (dk_at dksX1_worksFor_0 1 rfl rfl)
theorem dX1_worksFor_2 : decode cX1_worksFor 2 = .ok (.iconst 0, 1) := dk_3 (dk_at dksX1_worksFor_0 2 rfl rfl)
theorem dX1_worksFor_3 : decode cX1_worksFor 3 = .ok (.sipush 10000, 3) := dk_17 39 16 (dk_at dksX1_worksFor_0 3 rfl rfl)
theorem dX1_worksFor_6 : decode cX1_worksFor 6 = .ok (.invokestatic 162, 3) := dk_184 0 162 (dk_at dksX1_worksFor_0 6 rfl rfl)
theorem dX1_worksFor_9 : decode cX1_worksFor 9 = .ok (.invokevirtual 476, 3) := dk_182 1 220 (dk_at dksX1_worksFor_0 9 rfl rfl)
theorem dX1_worksFor_12 : decode cX1_worksFor 12 = .ok (.ireturn, 1) := dk_172 (dk_at dksX1_worksFor_0 12 rfl rfl)
abbrev cX1_chosen : ByteArray := prog_1_method_70_code
def yX1_chosen : MethodName := ⟨RX1, "chosen", "(I)I"⟩
def dkwX1_chosen_10 : List UInt8 := [54, 7, 132, 8, 1, 167, 255, 127, 21, 5, 172]
abbrev dktX1_chosen_10 : List UInt8 := dkwX1_chosen_10 ++ []
def dkwX1_chosen_9 : List UInt8 := [160, 0, 13, 21, 9, 21, 7, 161, 0, 6, 167, 0, 15, 21, 8, 54, 5, 21, 10, 54, 6, 21, 9]
abbrev dktX1_chosen_9 : List UInt8 := dkwX1_chosen_9 ++ dktX1_chosen_10
def dkwX1_chosen_8 : List UInt8 := [132, 11, 1, 167, 255, 205, 21, 9, 27, 163, 0, 39, 21, 10, 21, 6, 161, 0, 32, 21, 10, 21, 6]
abbrev dktX1_chosen_8 : List UInt8 := dkwX1_chosen_8 ++ dktX1_chosen_9
def dkwX1_chosen_7 : List UInt8 := [21, 11, 182, 0, 141, 192, 1, 202, 180, 1, 217, 96, 54, 9, 21, 10, 45, 21, 11, 46, 96, 54, 10]
abbrev dktX1_chosen_7 : List UInt8 := dkwX1_chosen_7 ++ dktX1_chosen_8
def dkwX1_chosen_6 : List UInt8 := [28, 162, 0, 51, 21, 8, 21, 11, 184, 0, 14, 154, 0, 6, 167, 0, 32, 21, 9, 42, 180, 0, 81]
abbrev dktX1_chosen_6 : List UInt8 := dkwX1_chosen_6 ++ dktX1_chosen_7
def dkwX1_chosen_5 : List UInt8 := [21, 8, 21, 4, 2, 130, 126, 153, 0, 6, 167, 0, 108, 3, 54, 9, 3, 54, 10, 3, 54, 11, 21, 11]
abbrev dktX1_chosen_5 : List UInt8 := dkwX1_chosen_5 ++ dktX1_chosen_6
def dkwX1_chosen_4 : List UInt8 := [167, 255, 179, 3, 54, 5, 3, 54, 6, 3, 54, 7, 4, 54, 8, 21, 8, 4, 28, 120, 162, 0, 127]
abbrev dktX1_chosen_4 : List UInt8 := dkwX1_chosen_4 ++ dktX1_chosen_5
def dkwX1_chosen_3 : List UInt8 := [182, 0, 141, 192, 1, 202, 180, 1, 214, 154, 0, 12, 21, 4, 4, 21, 5, 120, 128, 54, 4, 132, 5, 1]
abbrev dktX1_chosen_3 : List UInt8 := dkwX1_chosen_3 ++ dktX1_chosen_4
def dkwX1_chosen_2 : List UInt8 := [21, 5, 182, 0, 141, 192, 1, 202, 180, 1, 209, 182, 1, 210, 96, 104, 79, 42, 180, 0, 81, 21, 5]
abbrev dktX1_chosen_2 : List UInt8 := dkwX1_chosen_2 ++ dktX1_chosen_3
def dkwX1_chosen_1 : List UInt8 := [45, 21, 5, 42, 180, 0, 81, 21, 5, 182, 0, 141, 192, 1, 202, 180, 1, 207, 4, 42, 42, 180, 0, 81]
abbrev dktX1_chosen_1 : List UInt8 := dkwX1_chosen_1 ++ dktX1_chosen_2
def dkwX1_chosen_0 : List UInt8 := [42, 180, 0, 81, 182, 0, 93, 61, 28, 188, 10, 78, 3, 54, 4, 3, 54, 5, 21, 5, 28, 162, 0, 77]
abbrev dktX1_chosen_0 : List UInt8 := dkwX1_chosen_0 ++ dktX1_chosen_1
theorem dksX1_chosen_0 : cX1_chosen.data.toList.drop 0 = dktX1_chosen_0 := by decide +kernel
theorem dksX1_chosen_1 : cX1_chosen.data.toList.drop 24 = dktX1_chosen_1 := dk_seg dksX1_chosen_0 24 rfl rfl
theorem dksX1_chosen_2 : cX1_chosen.data.toList.drop 48 = dktX1_chosen_2 := dk_seg dksX1_chosen_1 24 rfl rfl
theorem dksX1_chosen_3 : cX1_chosen.data.toList.drop 71 = dktX1_chosen_3 := dk_seg dksX1_chosen_2 23 rfl rfl
theorem dksX1_chosen_4 : cX1_chosen.data.toList.drop 95 = dktX1_chosen_4 := dk_seg dksX1_chosen_3 24 rfl rfl
theorem dksX1_chosen_5 : cX1_chosen.data.toList.drop 118 = dktX1_chosen_5 := dk_seg dksX1_chosen_4 23 rfl rfl
theorem dksX1_chosen_6 : cX1_chosen.data.toList.drop 142 = dktX1_chosen_6 := dk_seg dksX1_chosen_5 24 rfl rfl
theorem dksX1_chosen_7 : cX1_chosen.data.toList.drop 165 = dktX1_chosen_7 := dk_seg dksX1_chosen_6 23 rfl rfl
theorem dksX1_chosen_8 : cX1_chosen.data.toList.drop 188 = dktX1_chosen_8 := dk_seg dksX1_chosen_7 23 rfl rfl
theorem dksX1_chosen_9 : cX1_chosen.data.toList.drop 211 = dktX1_chosen_9 := dk_seg dksX1_chosen_8 23 rfl rfl
theorem dksX1_chosen_10 : cX1_chosen.data.toList.drop 234 = dktX1_chosen_10 := dk_seg dksX1_chosen_9 23 rfl rfl
theorem dX1_chosen_0 : decode cX1_chosen 0 = .ok (.aload_n 0, 1) := dk_42 (dk_at dksX1_chosen_0 0 rfl rfl)
theorem dX1_chosen_1 : decode cX1_chosen 1 = .ok (.getfield 81, 3) := dk_180 0 81 (dk_at dksX1_chosen_0 1 rfl rfl)
theorem dX1_chosen_4 : decode cX1_chosen 4 = .ok (.invokevirtual 93, 3) := dk_182 0 93 (dk_at dksX1_chosen_0 4 rfl rfl)
theorem dX1_chosen_7 : decode cX1_chosen 7 = .ok (.istore_n 2, 1) := dk_61 (dk_at dksX1_chosen_0 7 rfl rfl)
theorem dX1_chosen_8 : decode cX1_chosen 8 = .ok (.iload_n 2, 1) := dk_28 (dk_at dksX1_chosen_0 8 rfl rfl)
theorem dX1_chosen_9 : decode cX1_chosen 9 = .ok (.newarray .int, 2) := dk_188_10 (dk_at dksX1_chosen_0 9 rfl rfl)
theorem dX1_chosen_11 : decode cX1_chosen 11 = .ok (.astore_n 3, 1) := dk_78 (dk_at dksX1_chosen_0 11 rfl rfl)
theorem dX1_chosen_12 : decode cX1_chosen 12 = .ok (.iconst 0, 1) := dk_3 (dk_at dksX1_chosen_0 12 rfl rfl)
theorem dX1_chosen_13 : decode cX1_chosen 13 = .ok (.istore 4, 2) := dk_54 4 (dk_at dksX1_chosen_0 13 rfl rfl)
theorem dX1_chosen_15 : decode cX1_chosen 15 = .ok (.iconst 0, 1) := dk_3 (dk_at dksX1_chosen_0 15 rfl rfl)
theorem dX1_chosen_16 : decode cX1_chosen 16 = .ok (.istore 5, 2) := dk_54 5 (dk_at dksX1_chosen_0 16 rfl rfl)
theorem dX1_chosen_18 : decode cX1_chosen 18 = .ok (.iload 5, 2) := dk_21 5 (dk_at dksX1_chosen_0 18 rfl rfl)
theorem dX1_chosen_20 : decode cX1_chosen 20 = .ok (.iload_n 2, 1) := dk_28 (dk_at dksX1_chosen_0 20 rfl rfl)
theorem dX1_chosen_21 : decode cX1_chosen 21 = .ok (.if_icmp .ge 77, 3) := dk_162 0 77 (dk_at dksX1_chosen_0 21 rfl rfl)
theorem dX1_chosen_24 : decode cX1_chosen 24 = .ok (.aload_n 3, 1) := dk_45 (dk_at dksX1_chosen_1 0 rfl rfl)
theorem dX1_chosen_25 : decode cX1_chosen 25 = .ok (.iload 5, 2) := dk_21 5 (dk_at dksX1_chosen_1 1 rfl rfl)
theorem dX1_chosen_27 : decode cX1_chosen 27 = .ok (.aload_n 0, 1) := dk_42 (dk_at dksX1_chosen_1 3 rfl rfl)
theorem dX1_chosen_28 : decode cX1_chosen 28 = .ok (.getfield 81, 3) := dk_180 0 81 (dk_at dksX1_chosen_1 4 rfl rfl)
theorem dX1_chosen_31 : decode cX1_chosen 31 = .ok (.iload 5, 2) := dk_21 5 (dk_at dksX1_chosen_1 7 rfl rfl)
theorem dX1_chosen_33 : decode cX1_chosen 33 = .ok (.invokevirtual 141, 3) := dk_182 0 141 (dk_at dksX1_chosen_1 9 rfl rfl)
theorem dX1_chosen_36 : decode cX1_chosen 36 = .ok (.checkcast 458, 3) := dk_192 1 202 (dk_at dksX1_chosen_1 12 rfl rfl)
theorem dX1_chosen_39 : decode cX1_chosen 39 = .ok (.getfield 463, 3) := dk_180 1 207 (dk_at dksX1_chosen_1 15 rfl rfl)
theorem dX1_chosen_42 : decode cX1_chosen 42 = .ok (.iconst 1, 1) := dk_4 (dk_at dksX1_chosen_1 18 rfl rfl)
theorem dX1_chosen_43 : decode cX1_chosen 43 = .ok (.aload_n 0, 1) := dk_42 (dk_at dksX1_chosen_1 19 rfl rfl)
theorem dX1_chosen_44 : decode cX1_chosen 44 = .ok (.aload_n 0, 1) := dk_42 (dk_at dksX1_chosen_1 20 rfl rfl)
theorem dX1_chosen_45 : decode cX1_chosen 45 = .ok (.getfield 81, 3) := dk_180 0 81 (dk_at dksX1_chosen_1 21 rfl rfl)
theorem dX1_chosen_48 : decode cX1_chosen 48 = .ok (.iload 5, 2) := dk_21 5 (dk_at dksX1_chosen_2 0 rfl rfl)
theorem dX1_chosen_50 : decode cX1_chosen 50 = .ok (.invokevirtual 141, 3) := dk_182 0 141 (dk_at dksX1_chosen_2 2 rfl rfl)
theorem dX1_chosen_53 : decode cX1_chosen 53 = .ok (.checkcast 458, 3) := dk_192 1 202 (dk_at dksX1_chosen_2 5 rfl rfl)
theorem dX1_chosen_56 : decode cX1_chosen 56 = .ok (.getfield 465, 3) := dk_180 1 209 (dk_at dksX1_chosen_2 8 rfl rfl)
theorem dX1_chosen_59 : decode cX1_chosen 59 = .ok (.invokevirtual 466, 3) := dk_182 1 210 (dk_at dksX1_chosen_2 11 rfl rfl)
theorem dX1_chosen_62 : decode cX1_chosen 62 = .ok (.iadd, 1) := dk_96 (dk_at dksX1_chosen_2 14 rfl rfl)
theorem dX1_chosen_63 : decode cX1_chosen 63 = .ok (.imul, 1) := dk_104 (dk_at dksX1_chosen_2 15 rfl rfl)
theorem dX1_chosen_64 : decode cX1_chosen 64 = .ok (.iastore, 1) := dk_79 (dk_at dksX1_chosen_2 16 rfl rfl)
theorem dX1_chosen_65 : decode cX1_chosen 65 = .ok (.aload_n 0, 1) := dk_42 (dk_at dksX1_chosen_2 17 rfl rfl)
theorem dX1_chosen_66 : decode cX1_chosen 66 = .ok (.getfield 81, 3) := dk_180 0 81 (dk_at dksX1_chosen_2 18 rfl rfl)
theorem dX1_chosen_69 : decode cX1_chosen 69 = .ok (.iload 5, 2) := dk_21 5 (dk_at dksX1_chosen_2 21 rfl rfl)
theorem dX1_chosen_71 : decode cX1_chosen 71 = .ok (.invokevirtual 141, 3) := dk_182 0 141 (dk_at dksX1_chosen_3 0 rfl rfl)
theorem dX1_chosen_74 : decode cX1_chosen 74 = .ok (.checkcast 458, 3) := dk_192 1 202 (dk_at dksX1_chosen_3 3 rfl rfl)
theorem dX1_chosen_77 : decode cX1_chosen 77 = .ok (.getfield 470, 3) := dk_180 1 214 (dk_at dksX1_chosen_3 6 rfl rfl)
theorem dX1_chosen_80 : decode cX1_chosen 80 = .ok (.ifCond .ne 12, 3) := dk_154 0 12 (dk_at dksX1_chosen_3 9 rfl rfl)
theorem dX1_chosen_83 : decode cX1_chosen 83 = .ok (.iload 4, 2) := dk_21 4 (dk_at dksX1_chosen_3 12 rfl rfl)
theorem dX1_chosen_85 : decode cX1_chosen 85 = .ok (.iconst 1, 1) := dk_4 (dk_at dksX1_chosen_3 14 rfl rfl)
theorem dX1_chosen_86 : decode cX1_chosen 86 = .ok (.iload 5, 2) := dk_21 5 (dk_at dksX1_chosen_3 15 rfl rfl)
theorem dX1_chosen_88 : decode cX1_chosen 88 = .ok (.ishl, 1) := dk_120 (dk_at dksX1_chosen_3 17 rfl rfl)
theorem dX1_chosen_89 : decode cX1_chosen 89 = .ok (.ior, 1) := dk_128 (dk_at dksX1_chosen_3 18 rfl rfl)
theorem dX1_chosen_90 : decode cX1_chosen 90 = .ok (.istore 4, 2) := dk_54 4 (dk_at dksX1_chosen_3 19 rfl rfl)
theorem dX1_chosen_92 : decode cX1_chosen 92 = .ok (.iinc 5 1, 3) := dk_132 5 1 (dk_at dksX1_chosen_3 21 rfl rfl)
theorem dX1_chosen_95 : decode cX1_chosen 95 = .ok (.goto (-77), 3) := dk_167 255 179 (dk_at dksX1_chosen_4 0 rfl rfl)
theorem dX1_chosen_98 : decode cX1_chosen 98 = .ok (.iconst 0, 1) := dk_3 (dk_at dksX1_chosen_4 3 rfl rfl)
theorem dX1_chosen_99 : decode cX1_chosen 99 = .ok (.istore 5, 2) := dk_54 5 (dk_at dksX1_chosen_4 4 rfl rfl)
theorem dX1_chosen_101 : decode cX1_chosen 101 = .ok (.iconst 0, 1) := dk_3 (dk_at dksX1_chosen_4 6 rfl rfl)
theorem dX1_chosen_102 : decode cX1_chosen 102 = .ok (.istore 6, 2) := dk_54 6 (dk_at dksX1_chosen_4 7 rfl rfl)
theorem dX1_chosen_104 : decode cX1_chosen 104 = .ok (.iconst 0, 1) := dk_3 (dk_at dksX1_chosen_4 9 rfl rfl)
theorem dX1_chosen_105 : decode cX1_chosen 105 = .ok (.istore 7, 2) := dk_54 7 (dk_at dksX1_chosen_4 10 rfl rfl)
theorem dX1_chosen_107 : decode cX1_chosen 107 = .ok (.iconst 1, 1) := dk_4 (dk_at dksX1_chosen_4 12 rfl rfl)
theorem dX1_chosen_108 : decode cX1_chosen 108 = .ok (.istore 8, 2) := dk_54 8 (dk_at dksX1_chosen_4 13 rfl rfl)
theorem dX1_chosen_110 : decode cX1_chosen 110 = .ok (.iload 8, 2) := dk_21 8 (dk_at dksX1_chosen_4 15 rfl rfl)
theorem dX1_chosen_112 : decode cX1_chosen 112 = .ok (.iconst 1, 1) := dk_4 (dk_at dksX1_chosen_4 17 rfl rfl)
theorem dX1_chosen_113 : decode cX1_chosen 113 = .ok (.iload_n 2, 1) := dk_28 (dk_at dksX1_chosen_4 18 rfl rfl)
theorem dX1_chosen_114 : decode cX1_chosen 114 = .ok (.ishl, 1) := dk_120 (dk_at dksX1_chosen_4 19 rfl rfl)
theorem dX1_chosen_115 : decode cX1_chosen 115 = .ok (.if_icmp .ge 127, 3) := dk_162 0 127 (dk_at dksX1_chosen_4 20 rfl rfl)
theorem dX1_chosen_118 : decode cX1_chosen 118 = .ok (.iload 8, 2) := dk_21 8 (dk_at dksX1_chosen_5 0 rfl rfl)
theorem dX1_chosen_120 : decode cX1_chosen 120 = .ok (.iload 4, 2) := dk_21 4 (dk_at dksX1_chosen_5 2 rfl rfl)
theorem dX1_chosen_122 : decode cX1_chosen 122 = .ok (.iconst (-1), 1) := dk_2 (dk_at dksX1_chosen_5 4 rfl rfl)
theorem dX1_chosen_123 : decode cX1_chosen 123 = .ok (.ixor, 1) := dk_130 (dk_at dksX1_chosen_5 5 rfl rfl)
theorem dX1_chosen_124 : decode cX1_chosen 124 = .ok (.iand, 1) := dk_126 (dk_at dksX1_chosen_5 6 rfl rfl)
theorem dX1_chosen_125 : decode cX1_chosen 125 = .ok (.ifCond .eq 6, 3) := dk_153 0 6 (dk_at dksX1_chosen_5 7 rfl rfl)
theorem dX1_chosen_128 : decode cX1_chosen 128 = .ok (.goto 108, 3) := dk_167 0 108 (dk_at dksX1_chosen_5 10 rfl rfl)
theorem dX1_chosen_131 : decode cX1_chosen 131 = .ok (.iconst 0, 1) := dk_3 (dk_at dksX1_chosen_5 13 rfl rfl)
theorem dX1_chosen_132 : decode cX1_chosen 132 = .ok (.istore 9, 2) := dk_54 9 (dk_at dksX1_chosen_5 14 rfl rfl)
theorem dX1_chosen_134 : decode cX1_chosen 134 = .ok (.iconst 0, 1) := dk_3 (dk_at dksX1_chosen_5 16 rfl rfl)
theorem dX1_chosen_135 : decode cX1_chosen 135 = .ok (.istore 10, 2) := dk_54 10 (dk_at dksX1_chosen_5 17 rfl rfl)
theorem dX1_chosen_137 : decode cX1_chosen 137 = .ok (.iconst 0, 1) := dk_3 (dk_at dksX1_chosen_5 19 rfl rfl)
theorem dX1_chosen_138 : decode cX1_chosen 138 = .ok (.istore 11, 2) := dk_54 11 (dk_at dksX1_chosen_5 20 rfl rfl)
theorem dX1_chosen_140 : decode cX1_chosen 140 = .ok (.iload 11, 2) := dk_21 11 (dk_at dksX1_chosen_5 22 rfl rfl)
theorem dX1_chosen_142 : decode cX1_chosen 142 = .ok (.iload_n 2, 1) := dk_28 (dk_at dksX1_chosen_6 0 rfl rfl)
theorem dX1_chosen_143 : decode cX1_chosen 143 = .ok (.if_icmp .ge 51, 3) := dk_162 0 51 (dk_at dksX1_chosen_6 1 rfl rfl)
theorem dX1_chosen_146 : decode cX1_chosen 146 = .ok (.iload 8, 2) := dk_21 8 (dk_at dksX1_chosen_6 4 rfl rfl)
theorem dX1_chosen_148 : decode cX1_chosen 148 = .ok (.iload 11, 2) := dk_21 11 (dk_at dksX1_chosen_6 6 rfl rfl)
theorem dX1_chosen_150 : decode cX1_chosen 150 = .ok (.invokestatic 14, 3) := dk_184 0 14 (dk_at dksX1_chosen_6 8 rfl rfl)
theorem dX1_chosen_153 : decode cX1_chosen 153 = .ok (.ifCond .ne 6, 3) := dk_154 0 6 (dk_at dksX1_chosen_6 11 rfl rfl)
theorem dX1_chosen_156 : decode cX1_chosen 156 = .ok (.goto 32, 3) := dk_167 0 32 (dk_at dksX1_chosen_6 14 rfl rfl)
theorem dX1_chosen_159 : decode cX1_chosen 159 = .ok (.iload 9, 2) := dk_21 9 (dk_at dksX1_chosen_6 17 rfl rfl)
theorem dX1_chosen_161 : decode cX1_chosen 161 = .ok (.aload_n 0, 1) := dk_42 (dk_at dksX1_chosen_6 19 rfl rfl)
theorem dX1_chosen_162 : decode cX1_chosen 162 = .ok (.getfield 81, 3) := dk_180 0 81 (dk_at dksX1_chosen_6 20 rfl rfl)
theorem dX1_chosen_165 : decode cX1_chosen 165 = .ok (.iload 11, 2) := dk_21 11 (dk_at dksX1_chosen_7 0 rfl rfl)
theorem dX1_chosen_167 : decode cX1_chosen 167 = .ok (.invokevirtual 141, 3) := dk_182 0 141 (dk_at dksX1_chosen_7 2 rfl rfl)
theorem dX1_chosen_170 : decode cX1_chosen 170 = .ok (.checkcast 458, 3) := dk_192 1 202 (dk_at dksX1_chosen_7 5 rfl rfl)
theorem dX1_chosen_173 : decode cX1_chosen 173 = .ok (.getfield 473, 3) := dk_180 1 217 (dk_at dksX1_chosen_7 8 rfl rfl)
theorem dX1_chosen_176 : decode cX1_chosen 176 = .ok (.iadd, 1) := dk_96 (dk_at dksX1_chosen_7 11 rfl rfl)
theorem dX1_chosen_177 : decode cX1_chosen 177 = .ok (.istore 9, 2) := dk_54 9 (dk_at dksX1_chosen_7 12 rfl rfl)
theorem dX1_chosen_179 : decode cX1_chosen 179 = .ok (.iload 10, 2) := dk_21 10 (dk_at dksX1_chosen_7 14 rfl rfl)
theorem dX1_chosen_181 : decode cX1_chosen 181 = .ok (.aload_n 3, 1) := dk_45 (dk_at dksX1_chosen_7 16 rfl rfl)
theorem dX1_chosen_182 : decode cX1_chosen 182 = .ok (.iload 11, 2) := dk_21 11 (dk_at dksX1_chosen_7 17 rfl rfl)
theorem dX1_chosen_184 : decode cX1_chosen 184 = .ok (.iaload, 1) := dk_46 (dk_at dksX1_chosen_7 19 rfl rfl)
theorem dX1_chosen_185 : decode cX1_chosen 185 = .ok (.iadd, 1) := dk_96 (dk_at dksX1_chosen_7 20 rfl rfl)
theorem dX1_chosen_186 : decode cX1_chosen 186 = .ok (.istore 10, 2) := dk_54 10 (dk_at dksX1_chosen_7 21 rfl rfl)
theorem dX1_chosen_188 : decode cX1_chosen 188 = .ok (.iinc 11 1, 3) := dk_132 11 1 (dk_at dksX1_chosen_8 0 rfl rfl)
theorem dX1_chosen_191 : decode cX1_chosen 191 = .ok (.goto (-51), 3) := dk_167 255 205 (dk_at dksX1_chosen_8 3 rfl rfl)
theorem dX1_chosen_194 : decode cX1_chosen 194 = .ok (.iload 9, 2) := dk_21 9 (dk_at dksX1_chosen_8 6 rfl rfl)
theorem dX1_chosen_196 : decode cX1_chosen 196 = .ok (.iload_n 1, 1) := dk_27 (dk_at dksX1_chosen_8 8 rfl rfl)
theorem dX1_chosen_197 : decode cX1_chosen 197 = .ok (.if_icmp .gt 39, 3) := dk_163 0 39 (dk_at dksX1_chosen_8 9 rfl rfl)
theorem dX1_chosen_200 : decode cX1_chosen 200 = .ok (.iload 10, 2) := dk_21 10 (dk_at dksX1_chosen_8 12 rfl rfl)
theorem dX1_chosen_202 : decode cX1_chosen 202 = .ok (.iload 6, 2) := dk_21 6 (dk_at dksX1_chosen_8 14 rfl rfl)
theorem dX1_chosen_204 : decode cX1_chosen 204 = .ok (.if_icmp .lt 32, 3) := dk_161 0 32 (dk_at dksX1_chosen_8 16 rfl rfl)
theorem dX1_chosen_207 : decode cX1_chosen 207 = .ok (.iload 10, 2) := dk_21 10 (dk_at dksX1_chosen_8 19 rfl rfl)
theorem dX1_chosen_209 : decode cX1_chosen 209 = .ok (.iload 6, 2) := dk_21 6 (dk_at dksX1_chosen_8 21 rfl rfl)
theorem dX1_chosen_211 : decode cX1_chosen 211 = .ok (.if_icmp .ne 13, 3) := dk_160 0 13 (dk_at dksX1_chosen_9 0 rfl rfl)
theorem dX1_chosen_214 : decode cX1_chosen 214 = .ok (.iload 9, 2) := dk_21 9 (dk_at dksX1_chosen_9 3 rfl rfl)
theorem dX1_chosen_216 : decode cX1_chosen 216 = .ok (.iload 7, 2) := dk_21 7 (dk_at dksX1_chosen_9 5 rfl rfl)
theorem dX1_chosen_218 : decode cX1_chosen 218 = .ok (.if_icmp .lt 6, 3) := dk_161 0 6 (dk_at dksX1_chosen_9 7 rfl rfl)
theorem dX1_chosen_221 : decode cX1_chosen 221 = .ok (.goto 15, 3) := dk_167 0 15 (dk_at dksX1_chosen_9 10 rfl rfl)
theorem dX1_chosen_224 : decode cX1_chosen 224 = .ok (.iload 8, 2) := dk_21 8 (dk_at dksX1_chosen_9 13 rfl rfl)
theorem dX1_chosen_226 : decode cX1_chosen 226 = .ok (.istore 5, 2) := dk_54 5 (dk_at dksX1_chosen_9 15 rfl rfl)
theorem dX1_chosen_228 : decode cX1_chosen 228 = .ok (.iload 10, 2) := dk_21 10 (dk_at dksX1_chosen_9 17 rfl rfl)
theorem dX1_chosen_230 : decode cX1_chosen 230 = .ok (.istore 6, 2) := dk_54 6 (dk_at dksX1_chosen_9 19 rfl rfl)
theorem dX1_chosen_232 : decode cX1_chosen 232 = .ok (.iload 9, 2) := dk_21 9 (dk_at dksX1_chosen_9 21 rfl rfl)
theorem dX1_chosen_234 : decode cX1_chosen 234 = .ok (.istore 7, 2) := dk_54 7 (dk_at dksX1_chosen_10 0 rfl rfl)
theorem dX1_chosen_236 : decode cX1_chosen 236 = .ok (.iinc 8 1, 3) := dk_132 8 1 (dk_at dksX1_chosen_10 2 rfl rfl)
theorem dX1_chosen_239 : decode cX1_chosen 239 = .ok (.goto (-129), 3) := dk_167 255 127 (dk_at dksX1_chosen_10 5 rfl rfl)
theorem dX1_chosen_242 : decode cX1_chosen 242 = .ok (.iload 5, 2) := dk_21 5 (dk_at dksX1_chosen_10 8 rfl rfl)
theorem dX1_chosen_244 : decode cX1_chosen 244 = .ok (.ireturn, 1) := dk_172 (dk_at dksX1_chosen_10 10 rfl rfl)
abbrev cX1_doWorks : ByteArray := prog_1_method_72_code
def yX1_doWorks : MethodName := ⟨RX1, "doWorks", "(I)I"⟩
def dkwX1_doWorks_4 : List UInt8 := [29, 25, 5, 180, 1, 217, 96, 62, 132, 4, 1, 167, 255, 183, 29, 172]
abbrev dktX1_doWorks_4 : List UInt8 := dkwX1_doWorks_4 ++ []
def dkwX1_doWorks_3 : List UInt8 := [25, 5, 4, 181, 1, 214, 25, 5, 180, 1, 209, 89, 180, 1, 223, 25, 5, 180, 1, 207, 96, 181, 1, 223]
abbrev dktX1_doWorks_3 : List UInt8 := dkwX1_doWorks_3 ++ dktX1_doWorks_4
def dkwX1_doWorks_2 : List UInt8 := [184, 0, 14, 154, 0, 6, 167, 0, 49, 42, 180, 0, 81, 21, 4, 182, 0, 141, 192, 1, 202, 58, 5]
abbrev dktX1_doWorks_2 : List UInt8 := dkwX1_doWorks_2 ++ dktX1_doWorks_3
def dkwX1_doWorks_1 : List UInt8 := [184, 0, 166, 3, 62, 3, 54, 4, 21, 4, 42, 180, 0, 81, 182, 0, 93, 162, 0, 67, 28, 21, 4]
abbrev dktX1_doWorks_1 : List UInt8 := dkwX1_doWorks_1 ++ dktX1_doWorks_2
def dkwX1_doWorks_0 : List UInt8 := [42, 27, 3, 17, 39, 16, 184, 0, 162, 182, 1, 220, 61, 28, 153, 0, 7, 4, 167, 0, 4, 3]
abbrev dktX1_doWorks_0 : List UInt8 := dkwX1_doWorks_0 ++ dktX1_doWorks_1
theorem dksX1_doWorks_0 : cX1_doWorks.data.toList.drop 0 = dktX1_doWorks_0 := by decide +kernel
theorem dksX1_doWorks_1 : cX1_doWorks.data.toList.drop 22 = dktX1_doWorks_1 := dk_seg dksX1_doWorks_0 22 rfl rfl
theorem dksX1_doWorks_2 : cX1_doWorks.data.toList.drop 45 = dktX1_doWorks_2 := dk_seg dksX1_doWorks_1 23 rfl rfl
theorem dksX1_doWorks_3 : cX1_doWorks.data.toList.drop 68 = dktX1_doWorks_3 := dk_seg dksX1_doWorks_2 23 rfl rfl
theorem dksX1_doWorks_4 : cX1_doWorks.data.toList.drop 92 = dktX1_doWorks_4 := dk_seg dksX1_doWorks_3 24 rfl rfl
theorem dX1_doWorks_0 : decode cX1_doWorks 0 = .ok (.aload_n 0, 1) := dk_42 (dk_at dksX1_doWorks_0 0 rfl rfl)
theorem dX1_doWorks_1 : decode cX1_doWorks 1 = .ok (.iload_n 1, 1) := dk_27 (dk_at dksX1_doWorks_0 1 rfl rfl)
theorem dX1_doWorks_2 : decode cX1_doWorks 2 = .ok (.iconst 0, 1) := dk_3 (dk_at dksX1_doWorks_0 2 rfl rfl)
theorem dX1_doWorks_3 : decode cX1_doWorks 3 = .ok (.sipush 10000, 3) := dk_17 39 16 (dk_at dksX1_doWorks_0 3 rfl rfl)
theorem dX1_doWorks_6 : decode cX1_doWorks 6 = .ok (.invokestatic 162, 3) := dk_184 0 162 (dk_at dksX1_doWorks_0 6 rfl rfl)
theorem dX1_doWorks_9 : decode cX1_doWorks 9 = .ok (.invokevirtual 476, 3) := dk_182 1 220 (dk_at dksX1_doWorks_0 9 rfl rfl)
theorem dX1_doWorks_12 : decode cX1_doWorks 12 = .ok (.istore_n 2, 1) := dk_61 (dk_at dksX1_doWorks_0 12 rfl rfl)
theorem dX1_doWorks_13 : decode cX1_doWorks 13 = .ok (.iload_n 2, 1) := dk_28 (dk_at dksX1_doWorks_0 13 rfl rfl)
theorem dX1_doWorks_14 : decode cX1_doWorks 14 = .ok (.ifCond .eq 7, 3) := dk_153 0 7 (dk_at dksX1_doWorks_0 14 rfl rfl)
theorem dX1_doWorks_17 : decode cX1_doWorks 17 = .ok (.iconst 1, 1) := dk_4 (dk_at dksX1_doWorks_0 17 rfl rfl)
theorem dX1_doWorks_18 : decode cX1_doWorks 18 = .ok (.goto 4, 3) := dk_167 0 4 (dk_at dksX1_doWorks_0 18 rfl rfl)
theorem dX1_doWorks_21 : decode cX1_doWorks 21 = .ok (.iconst 0, 1) := dk_3 (dk_at dksX1_doWorks_0 21 rfl rfl)
theorem dX1_doWorks_22 : decode cX1_doWorks 22 = .ok (.invokestatic 166, 3) := dk_184 0 166 (dk_at dksX1_doWorks_1 0 rfl rfl)
theorem dX1_doWorks_25 : decode cX1_doWorks 25 = .ok (.iconst 0, 1) := dk_3 (dk_at dksX1_doWorks_1 3 rfl rfl)
theorem dX1_doWorks_26 : decode cX1_doWorks 26 = .ok (.istore_n 3, 1) := dk_62 (dk_at dksX1_doWorks_1 4 rfl rfl)
theorem dX1_doWorks_27 : decode cX1_doWorks 27 = .ok (.iconst 0, 1) := dk_3 (dk_at dksX1_doWorks_1 5 rfl rfl)
theorem dX1_doWorks_28 : decode cX1_doWorks 28 = .ok (.istore 4, 2) := dk_54 4 (dk_at dksX1_doWorks_1 6 rfl rfl)
theorem dX1_doWorks_30 : decode cX1_doWorks 30 = .ok (.iload 4, 2) := dk_21 4 (dk_at dksX1_doWorks_1 8 rfl rfl)
theorem dX1_doWorks_32 : decode cX1_doWorks 32 = .ok (.aload_n 0, 1) := dk_42 (dk_at dksX1_doWorks_1 10 rfl rfl)
theorem dX1_doWorks_33 : decode cX1_doWorks 33 = .ok (.getfield 81, 3) := dk_180 0 81 (dk_at dksX1_doWorks_1 11 rfl rfl)
theorem dX1_doWorks_36 : decode cX1_doWorks 36 = .ok (.invokevirtual 93, 3) := dk_182 0 93 (dk_at dksX1_doWorks_1 14 rfl rfl)
theorem dX1_doWorks_39 : decode cX1_doWorks 39 = .ok (.if_icmp .ge 67, 3) := dk_162 0 67 (dk_at dksX1_doWorks_1 17 rfl rfl)
theorem dX1_doWorks_42 : decode cX1_doWorks 42 = .ok (.iload_n 2, 1) := dk_28 (dk_at dksX1_doWorks_1 20 rfl rfl)
theorem dX1_doWorks_43 : decode cX1_doWorks 43 = .ok (.iload 4, 2) := dk_21 4 (dk_at dksX1_doWorks_1 21 rfl rfl)
theorem dX1_doWorks_45 : decode cX1_doWorks 45 = .ok (.invokestatic 14, 3) := dk_184 0 14 (dk_at dksX1_doWorks_2 0 rfl rfl)
theorem dX1_doWorks_48 : decode cX1_doWorks 48 = .ok (.ifCond .ne 6, 3) := dk_154 0 6 (dk_at dksX1_doWorks_2 3 rfl rfl)
theorem dX1_doWorks_51 : decode cX1_doWorks 51 = .ok (.goto 49, 3) := dk_167 0 49 (dk_at dksX1_doWorks_2 6 rfl rfl)
theorem dX1_doWorks_54 : decode cX1_doWorks 54 = .ok (.aload_n 0, 1) := dk_42 (dk_at dksX1_doWorks_2 9 rfl rfl)
theorem dX1_doWorks_55 : decode cX1_doWorks 55 = .ok (.getfield 81, 3) := dk_180 0 81 (dk_at dksX1_doWorks_2 10 rfl rfl)
theorem dX1_doWorks_58 : decode cX1_doWorks 58 = .ok (.iload 4, 2) := dk_21 4 (dk_at dksX1_doWorks_2 13 rfl rfl)
theorem dX1_doWorks_60 : decode cX1_doWorks 60 = .ok (.invokevirtual 141, 3) := dk_182 0 141 (dk_at dksX1_doWorks_2 15 rfl rfl)
theorem dX1_doWorks_63 : decode cX1_doWorks 63 = .ok (.checkcast 458, 3) := dk_192 1 202 (dk_at dksX1_doWorks_2 18 rfl rfl)
theorem dX1_doWorks_66 : decode cX1_doWorks 66 = .ok (.astore 5, 2) := dk_58 5 (dk_at dksX1_doWorks_2 21 rfl rfl)
theorem dX1_doWorks_68 : decode cX1_doWorks 68 = .ok (.aload 5, 2) := dk_25 5 (dk_at dksX1_doWorks_3 0 rfl rfl)
theorem dX1_doWorks_70 : decode cX1_doWorks 70 = .ok (.iconst 1, 1) := dk_4 (dk_at dksX1_doWorks_3 2 rfl rfl)
theorem dX1_doWorks_71 : decode cX1_doWorks 71 = .ok (.putfield 470, 3) := dk_181 1 214 (dk_at dksX1_doWorks_3 3 rfl rfl)
theorem dX1_doWorks_74 : decode cX1_doWorks 74 = .ok (.aload 5, 2) := dk_25 5 (dk_at dksX1_doWorks_3 6 rfl rfl)
theorem dX1_doWorks_76 : decode cX1_doWorks 76 = .ok (.getfield 465, 3) := dk_180 1 209 (dk_at dksX1_doWorks_3 8 rfl rfl)
theorem dX1_doWorks_79 : decode cX1_doWorks 79 = .ok (.dup, 1) := dk_89 (dk_at dksX1_doWorks_3 11 rfl rfl)
theorem dX1_doWorks_80 : decode cX1_doWorks 80 = .ok (.getfield 479, 3) := dk_180 1 223 (dk_at dksX1_doWorks_3 12 rfl rfl)
theorem dX1_doWorks_83 : decode cX1_doWorks 83 = .ok (.aload 5, 2) := dk_25 5 (dk_at dksX1_doWorks_3 15 rfl rfl)
theorem dX1_doWorks_85 : decode cX1_doWorks 85 = .ok (.getfield 463, 3) := dk_180 1 207 (dk_at dksX1_doWorks_3 17 rfl rfl)
theorem dX1_doWorks_88 : decode cX1_doWorks 88 = .ok (.iadd, 1) := dk_96 (dk_at dksX1_doWorks_3 20 rfl rfl)
theorem dX1_doWorks_89 : decode cX1_doWorks 89 = .ok (.putfield 479, 3) := dk_181 1 223 (dk_at dksX1_doWorks_3 21 rfl rfl)
theorem dX1_doWorks_92 : decode cX1_doWorks 92 = .ok (.iload_n 3, 1) := dk_29 (dk_at dksX1_doWorks_4 0 rfl rfl)
theorem dX1_doWorks_93 : decode cX1_doWorks 93 = .ok (.aload 5, 2) := dk_25 5 (dk_at dksX1_doWorks_4 1 rfl rfl)
theorem dX1_doWorks_95 : decode cX1_doWorks 95 = .ok (.getfield 473, 3) := dk_180 1 217 (dk_at dksX1_doWorks_4 3 rfl rfl)
theorem dX1_doWorks_98 : decode cX1_doWorks 98 = .ok (.iadd, 1) := dk_96 (dk_at dksX1_doWorks_4 6 rfl rfl)
theorem dX1_doWorks_99 : decode cX1_doWorks 99 = .ok (.istore_n 3, 1) := dk_62 (dk_at dksX1_doWorks_4 7 rfl rfl)
theorem dX1_doWorks_100 : decode cX1_doWorks 100 = .ok (.iinc 4 1, 3) := dk_132 4 1 (dk_at dksX1_doWorks_4 8 rfl rfl)
theorem dX1_doWorks_103 : decode cX1_doWorks 103 = .ok (.goto (-73), 3) := dk_167 255 183 (dk_at dksX1_doWorks_4 11 rfl rfl)
theorem dX1_doWorks_106 : decode cX1_doWorks 106 = .ok (.iload_n 3, 1) := dk_29 (dk_at dksX1_doWorks_4 14 rfl rfl)
theorem dX1_doWorks_107 : decode cX1_doWorks 107 = .ok (.ireturn, 1) := dk_172 (dk_at dksX1_doWorks_4 15 rfl rfl)
abbrev cX1_setLoad : ByteArray := prog_1_method_73_code
def yX1_setLoad : MethodName := ⟨RX1, "setLoad", "(II)I"⟩
def dkwX1_setLoad_1 : List UInt8 := [181, 1, 226, 21, 4, 172]
abbrev dktX1_setLoad_1 : List UInt8 := dkwX1_setLoad_1 ++ []
def dkwX1_setLoad_0 : List UInt8 := [42, 27, 182, 0, 177, 78, 28, 3, 17, 3, 232, 184, 0, 162, 87, 45, 180, 1, 226, 54, 4, 45, 28]
abbrev dktX1_setLoad_0 : List UInt8 := dkwX1_setLoad_0 ++ dktX1_setLoad_1
theorem dksX1_setLoad_0 : cX1_setLoad.data.toList.drop 0 = dktX1_setLoad_0 := by decide +kernel
theorem dksX1_setLoad_1 : cX1_setLoad.data.toList.drop 23 = dktX1_setLoad_1 := dk_seg dksX1_setLoad_0 23 rfl rfl
theorem dX1_setLoad_0 : decode cX1_setLoad 0 = .ok (.aload_n 0, 1) := dk_42 (dk_at dksX1_setLoad_0 0 rfl rfl)
theorem dX1_setLoad_1 : decode cX1_setLoad 1 = .ok (.iload_n 1, 1) := dk_27 (dk_at dksX1_setLoad_0 1 rfl rfl)
theorem dX1_setLoad_2 : decode cX1_setLoad 2 = .ok (.invokevirtual 177, 3) := dk_182 0 177 (dk_at dksX1_setLoad_0 2 rfl rfl)
theorem dX1_setLoad_5 : decode cX1_setLoad 5 = .ok (.astore_n 3, 1) := dk_78 (dk_at dksX1_setLoad_0 5 rfl rfl)
theorem dX1_setLoad_6 : decode cX1_setLoad 6 = .ok (.iload_n 2, 1) := dk_28 (dk_at dksX1_setLoad_0 6 rfl rfl)
theorem dX1_setLoad_7 : decode cX1_setLoad 7 = .ok (.iconst 0, 1) := dk_3 (dk_at dksX1_setLoad_0 7 rfl rfl)
theorem dX1_setLoad_8 : decode cX1_setLoad 8 = .ok (.sipush 1000, 3) := dk_17 3 232 (dk_at dksX1_setLoad_0 8 rfl rfl)
theorem dX1_setLoad_11 : decode cX1_setLoad 11 = .ok (.invokestatic 162, 3) := dk_184 0 162 (dk_at dksX1_setLoad_0 11 rfl rfl)
theorem dX1_setLoad_14 : decode cX1_setLoad 14 = .ok (.pop, 1) := dk_87 (dk_at dksX1_setLoad_0 14 rfl rfl)
theorem dX1_setLoad_15 : decode cX1_setLoad 15 = .ok (.aload_n 3, 1) := dk_45 (dk_at dksX1_setLoad_0 15 rfl rfl)
theorem dX1_setLoad_16 : decode cX1_setLoad 16 = .ok (.getfield 482, 3) := dk_180 1 226 (dk_at dksX1_setLoad_0 16 rfl rfl)
theorem dX1_setLoad_19 : decode cX1_setLoad 19 = .ok (.istore 4, 2) := dk_54 4 (dk_at dksX1_setLoad_0 19 rfl rfl)
theorem dX1_setLoad_21 : decode cX1_setLoad 21 = .ok (.aload_n 3, 1) := dk_45 (dk_at dksX1_setLoad_0 21 rfl rfl)
theorem dX1_setLoad_22 : decode cX1_setLoad 22 = .ok (.iload_n 2, 1) := dk_28 (dk_at dksX1_setLoad_0 22 rfl rfl)
theorem dX1_setLoad_23 : decode cX1_setLoad 23 = .ok (.putfield 482, 3) := dk_181 1 226 (dk_at dksX1_setLoad_1 0 rfl rfl)
theorem dX1_setLoad_26 : decode cX1_setLoad 26 = .ok (.iload 4, 2) := dk_21 4 (dk_at dksX1_setLoad_1 3 rfl rfl)
theorem dX1_setLoad_28 : decode cX1_setLoad 28 = .ok (.ireturn, 1) := dk_172 (dk_at dksX1_setLoad_1 5 rfl rfl)
abbrev cX1_tour : ByteArray := prog_1_method_74_code
def yX1_tour : MethodName := ⟨RX1, "tour", "(II)I"⟩
def dkwX1_tour_3 : List UInt8 := [181, 1, 181, 45, 180, 1, 226, 45, 180, 1, 190, 100, 172]
abbrev dktX1_tour_3 : List UInt8 := dkwX1_tour_3 ++ []
def dkwX1_tour_2 : List UInt8 := [180, 1, 190, 28, 96, 181, 1, 190, 45, 3, 45, 180, 1, 181, 28, 16, 50, 108, 100, 184, 1, 187]
abbrev dktX1_tour_2 : List UInt8 := dkwX1_tour_2 ++ dktX1_tour_3
def dkwX1_tour_1 : List UInt8 := [180, 1, 190, 28, 96, 45, 180, 1, 226, 163, 0, 7, 4, 167, 0, 4, 3, 184, 0, 166, 45, 89]
abbrev dktX1_tour_1 : List UInt8 := dkwX1_tour_1 ++ dktX1_tour_2
def dkwX1_tour_0 : List UInt8 := [42, 27, 182, 0, 177, 78, 28, 4, 17, 0, 200, 184, 0, 162, 87, 42, 45, 182, 0, 180, 154, 0, 20, 45]
abbrev dktX1_tour_0 : List UInt8 := dkwX1_tour_0 ++ dktX1_tour_1
theorem dksX1_tour_0 : cX1_tour.data.toList.drop 0 = dktX1_tour_0 := by decide +kernel
theorem dksX1_tour_1 : cX1_tour.data.toList.drop 24 = dktX1_tour_1 := dk_seg dksX1_tour_0 24 rfl rfl
theorem dksX1_tour_2 : cX1_tour.data.toList.drop 46 = dktX1_tour_2 := dk_seg dksX1_tour_1 22 rfl rfl
theorem dksX1_tour_3 : cX1_tour.data.toList.drop 68 = dktX1_tour_3 := dk_seg dksX1_tour_2 22 rfl rfl
theorem dX1_tour_0 : decode cX1_tour 0 = .ok (.aload_n 0, 1) := dk_42 (dk_at dksX1_tour_0 0 rfl rfl)
theorem dX1_tour_1 : decode cX1_tour 1 = .ok (.iload_n 1, 1) := dk_27 (dk_at dksX1_tour_0 1 rfl rfl)
theorem dX1_tour_2 : decode cX1_tour 2 = .ok (.invokevirtual 177, 3) := dk_182 0 177 (dk_at dksX1_tour_0 2 rfl rfl)
theorem dX1_tour_5 : decode cX1_tour 5 = .ok (.astore_n 3, 1) := dk_78 (dk_at dksX1_tour_0 5 rfl rfl)
theorem dX1_tour_6 : decode cX1_tour 6 = .ok (.iload_n 2, 1) := dk_28 (dk_at dksX1_tour_0 6 rfl rfl)
theorem dX1_tour_7 : decode cX1_tour 7 = .ok (.iconst 1, 1) := dk_4 (dk_at dksX1_tour_0 7 rfl rfl)
theorem dX1_tour_8 : decode cX1_tour 8 = .ok (.sipush 200, 3) := dk_17 0 200 (dk_at dksX1_tour_0 8 rfl rfl)
theorem dX1_tour_11 : decode cX1_tour 11 = .ok (.invokestatic 162, 3) := dk_184 0 162 (dk_at dksX1_tour_0 11 rfl rfl)
theorem dX1_tour_14 : decode cX1_tour 14 = .ok (.pop, 1) := dk_87 (dk_at dksX1_tour_0 14 rfl rfl)
theorem dX1_tour_15 : decode cX1_tour 15 = .ok (.aload_n 0, 1) := dk_42 (dk_at dksX1_tour_0 15 rfl rfl)
theorem dX1_tour_16 : decode cX1_tour 16 = .ok (.aload_n 3, 1) := dk_45 (dk_at dksX1_tour_0 16 rfl rfl)
theorem dX1_tour_17 : decode cX1_tour 17 = .ok (.invokevirtual 180, 3) := dk_182 0 180 (dk_at dksX1_tour_0 17 rfl rfl)
theorem dX1_tour_20 : decode cX1_tour 20 = .ok (.ifCond .ne 20, 3) := dk_154 0 20 (dk_at dksX1_tour_0 20 rfl rfl)
theorem dX1_tour_23 : decode cX1_tour 23 = .ok (.aload_n 3, 1) := dk_45 (dk_at dksX1_tour_0 23 rfl rfl)
theorem dX1_tour_24 : decode cX1_tour 24 = .ok (.getfield 446, 3) := dk_180 1 190 (dk_at dksX1_tour_1 0 rfl rfl)
theorem dX1_tour_27 : decode cX1_tour 27 = .ok (.iload_n 2, 1) := dk_28 (dk_at dksX1_tour_1 3 rfl rfl)
theorem dX1_tour_28 : decode cX1_tour 28 = .ok (.iadd, 1) := dk_96 (dk_at dksX1_tour_1 4 rfl rfl)
theorem dX1_tour_29 : decode cX1_tour 29 = .ok (.aload_n 3, 1) := dk_45 (dk_at dksX1_tour_1 5 rfl rfl)
theorem dX1_tour_30 : decode cX1_tour 30 = .ok (.getfield 482, 3) := dk_180 1 226 (dk_at dksX1_tour_1 6 rfl rfl)
theorem dX1_tour_33 : decode cX1_tour 33 = .ok (.if_icmp .gt 7, 3) := dk_163 0 7 (dk_at dksX1_tour_1 9 rfl rfl)
theorem dX1_tour_36 : decode cX1_tour 36 = .ok (.iconst 1, 1) := dk_4 (dk_at dksX1_tour_1 12 rfl rfl)
theorem dX1_tour_37 : decode cX1_tour 37 = .ok (.goto 4, 3) := dk_167 0 4 (dk_at dksX1_tour_1 13 rfl rfl)
theorem dX1_tour_40 : decode cX1_tour 40 = .ok (.iconst 0, 1) := dk_3 (dk_at dksX1_tour_1 16 rfl rfl)
theorem dX1_tour_41 : decode cX1_tour 41 = .ok (.invokestatic 166, 3) := dk_184 0 166 (dk_at dksX1_tour_1 17 rfl rfl)
theorem dX1_tour_44 : decode cX1_tour 44 = .ok (.aload_n 3, 1) := dk_45 (dk_at dksX1_tour_1 20 rfl rfl)
theorem dX1_tour_45 : decode cX1_tour 45 = .ok (.dup, 1) := dk_89 (dk_at dksX1_tour_1 21 rfl rfl)
theorem dX1_tour_46 : decode cX1_tour 46 = .ok (.getfield 446, 3) := dk_180 1 190 (dk_at dksX1_tour_2 0 rfl rfl)
theorem dX1_tour_49 : decode cX1_tour 49 = .ok (.iload_n 2, 1) := dk_28 (dk_at dksX1_tour_2 3 rfl rfl)
theorem dX1_tour_50 : decode cX1_tour 50 = .ok (.iadd, 1) := dk_96 (dk_at dksX1_tour_2 4 rfl rfl)
theorem dX1_tour_51 : decode cX1_tour 51 = .ok (.putfield 446, 3) := dk_181 1 190 (dk_at dksX1_tour_2 5 rfl rfl)
theorem dX1_tour_54 : decode cX1_tour 54 = .ok (.aload_n 3, 1) := dk_45 (dk_at dksX1_tour_2 8 rfl rfl)
theorem dX1_tour_55 : decode cX1_tour 55 = .ok (.iconst 0, 1) := dk_3 (dk_at dksX1_tour_2 9 rfl rfl)
theorem dX1_tour_56 : decode cX1_tour 56 = .ok (.aload_n 3, 1) := dk_45 (dk_at dksX1_tour_2 10 rfl rfl)
theorem dX1_tour_57 : decode cX1_tour 57 = .ok (.getfield 437, 3) := dk_180 1 181 (dk_at dksX1_tour_2 11 rfl rfl)
theorem dX1_tour_60 : decode cX1_tour 60 = .ok (.iload_n 2, 1) := dk_28 (dk_at dksX1_tour_2 14 rfl rfl)
theorem dX1_tour_61 : decode cX1_tour 61 = .ok (.bipush 50, 2) := dk_16 50 (dk_at dksX1_tour_2 15 rfl rfl)
theorem dX1_tour_63 : decode cX1_tour 63 = .ok (.idiv, 1) := dk_108 (dk_at dksX1_tour_2 17 rfl rfl)
theorem dX1_tour_64 : decode cX1_tour 64 = .ok (.isub, 1) := dk_100 (dk_at dksX1_tour_2 18 rfl rfl)
theorem dX1_tour_65 : decode cX1_tour 65 = .ok (.invokestatic 443, 3) := dk_184 1 187 (dk_at dksX1_tour_2 19 rfl rfl)
theorem dX1_tour_68 : decode cX1_tour 68 = .ok (.putfield 437, 3) := dk_181 1 181 (dk_at dksX1_tour_3 0 rfl rfl)
theorem dX1_tour_71 : decode cX1_tour 71 = .ok (.aload_n 3, 1) := dk_45 (dk_at dksX1_tour_3 3 rfl rfl)
theorem dX1_tour_72 : decode cX1_tour 72 = .ok (.getfield 482, 3) := dk_180 1 226 (dk_at dksX1_tour_3 4 rfl rfl)
theorem dX1_tour_75 : decode cX1_tour 75 = .ok (.aload_n 3, 1) := dk_45 (dk_at dksX1_tour_3 7 rfl rfl)
theorem dX1_tour_76 : decode cX1_tour 76 = .ok (.getfield 446, 3) := dk_180 1 190 (dk_at dksX1_tour_3 8 rfl rfl)
theorem dX1_tour_79 : decode cX1_tour 79 = .ok (.isub, 1) := dk_100 (dk_at dksX1_tour_3 11 rfl rfl)
theorem dX1_tour_80 : decode cX1_tour 80 = .ok (.ireturn, 1) := dk_172 (dk_at dksX1_tour_3 12 rfl rfl)
abbrev cX1_tellDam : ByteArray := prog_1_method_75_code
def yX1_tellDam : MethodName := ⟨RX1, "tellDam", "(II)I"⟩
def dkwX1_tellDam_2 : List UInt8 := [181, 0, 84, 42, 180, 0, 49, 182, 0, 93, 42, 186, 1, 229, 0, 0, 184, 0, 100, 172]
abbrev dktX1_tellDam_2 : List UInt8 := dkwX1_tellDam_2 ++ []
def dkwX1_tellDam_1 : List UInt8 := [180, 0, 84, 2, 160, 0, 7, 4, 167, 0, 4, 3, 184, 0, 166, 42, 27, 181, 0, 109, 42, 28]
abbrev dktX1_tellDam_1 : List UInt8 := dkwX1_tellDam_1 ++ dktX1_tellDam_2
def dkwX1_tellDam_0 : List UInt8 := [27, 3, 17, 3, 233, 184, 0, 162, 87, 28, 42, 180, 0, 116, 4, 96, 17, 0, 200, 184, 0, 162, 87, 42]
abbrev dktX1_tellDam_0 : List UInt8 := dkwX1_tellDam_0 ++ dktX1_tellDam_1
theorem dksX1_tellDam_0 : cX1_tellDam.data.toList.drop 0 = dktX1_tellDam_0 := by decide +kernel
theorem dksX1_tellDam_1 : cX1_tellDam.data.toList.drop 24 = dktX1_tellDam_1 := dk_seg dksX1_tellDam_0 24 rfl rfl
theorem dksX1_tellDam_2 : cX1_tellDam.data.toList.drop 46 = dktX1_tellDam_2 := dk_seg dksX1_tellDam_1 22 rfl rfl
theorem dX1_tellDam_0 : decode cX1_tellDam 0 = .ok (.iload_n 1, 1) := dk_27 (dk_at dksX1_tellDam_0 0 rfl rfl)
theorem dX1_tellDam_1 : decode cX1_tellDam 1 = .ok (.iconst 0, 1) := dk_3 (dk_at dksX1_tellDam_0 1 rfl rfl)
theorem dX1_tellDam_2 : decode cX1_tellDam 2 = .ok (.sipush 1001, 3) := dk_17 3 233 (dk_at dksX1_tellDam_0 2 rfl rfl)
theorem dX1_tellDam_5 : decode cX1_tellDam 5 = .ok (.invokestatic 162, 3) := dk_184 0 162 (dk_at dksX1_tellDam_0 5 rfl rfl)
theorem dX1_tellDam_8 : decode cX1_tellDam 8 = .ok (.pop, 1) := dk_87 (dk_at dksX1_tellDam_0 8 rfl rfl)
theorem dX1_tellDam_9 : decode cX1_tellDam 9 = .ok (.iload_n 2, 1) := dk_28 (dk_at dksX1_tellDam_0 9 rfl rfl)
theorem dX1_tellDam_10 : decode cX1_tellDam 10 = .ok (.aload_n 0, 1) := dk_42 (dk_at dksX1_tellDam_0 10 rfl rfl)
theorem dX1_tellDam_11 : decode cX1_tellDam 11 = .ok (.getfield 116, 3) := dk_180 0 116 (dk_at dksX1_tellDam_0 11 rfl rfl)
theorem dX1_tellDam_14 : decode cX1_tellDam 14 = .ok (.iconst 1, 1) := dk_4 (dk_at dksX1_tellDam_0 14 rfl rfl)
theorem dX1_tellDam_15 : decode cX1_tellDam 15 = .ok (.iadd, 1) := dk_96 (dk_at dksX1_tellDam_0 15 rfl rfl)
theorem dX1_tellDam_16 : decode cX1_tellDam 16 = .ok (.sipush 200, 3) := dk_17 0 200 (dk_at dksX1_tellDam_0 16 rfl rfl)
theorem dX1_tellDam_19 : decode cX1_tellDam 19 = .ok (.invokestatic 162, 3) := dk_184 0 162 (dk_at dksX1_tellDam_0 19 rfl rfl)
theorem dX1_tellDam_22 : decode cX1_tellDam 22 = .ok (.pop, 1) := dk_87 (dk_at dksX1_tellDam_0 22 rfl rfl)
theorem dX1_tellDam_23 : decode cX1_tellDam 23 = .ok (.aload_n 0, 1) := dk_42 (dk_at dksX1_tellDam_0 23 rfl rfl)
theorem dX1_tellDam_24 : decode cX1_tellDam 24 = .ok (.getfield 84, 3) := dk_180 0 84 (dk_at dksX1_tellDam_1 0 rfl rfl)
theorem dX1_tellDam_27 : decode cX1_tellDam 27 = .ok (.iconst (-1), 1) := dk_2 (dk_at dksX1_tellDam_1 3 rfl rfl)
theorem dX1_tellDam_28 : decode cX1_tellDam 28 = .ok (.if_icmp .ne 7, 3) := dk_160 0 7 (dk_at dksX1_tellDam_1 4 rfl rfl)
theorem dX1_tellDam_31 : decode cX1_tellDam 31 = .ok (.iconst 1, 1) := dk_4 (dk_at dksX1_tellDam_1 7 rfl rfl)
theorem dX1_tellDam_32 : decode cX1_tellDam 32 = .ok (.goto 4, 3) := dk_167 0 4 (dk_at dksX1_tellDam_1 8 rfl rfl)
theorem dX1_tellDam_35 : decode cX1_tellDam 35 = .ok (.iconst 0, 1) := dk_3 (dk_at dksX1_tellDam_1 11 rfl rfl)
theorem dX1_tellDam_36 : decode cX1_tellDam 36 = .ok (.invokestatic 166, 3) := dk_184 0 166 (dk_at dksX1_tellDam_1 12 rfl rfl)
theorem dX1_tellDam_39 : decode cX1_tellDam 39 = .ok (.aload_n 0, 1) := dk_42 (dk_at dksX1_tellDam_1 15 rfl rfl)
theorem dX1_tellDam_40 : decode cX1_tellDam 40 = .ok (.iload_n 1, 1) := dk_27 (dk_at dksX1_tellDam_1 16 rfl rfl)
theorem dX1_tellDam_41 : decode cX1_tellDam 41 = .ok (.putfield 109, 3) := dk_181 0 109 (dk_at dksX1_tellDam_1 17 rfl rfl)
theorem dX1_tellDam_44 : decode cX1_tellDam 44 = .ok (.aload_n 0, 1) := dk_42 (dk_at dksX1_tellDam_1 20 rfl rfl)
theorem dX1_tellDam_45 : decode cX1_tellDam 45 = .ok (.iload_n 2, 1) := dk_28 (dk_at dksX1_tellDam_1 21 rfl rfl)
theorem dX1_tellDam_46 : decode cX1_tellDam 46 = .ok (.putfield 84, 3) := dk_181 0 84 (dk_at dksX1_tellDam_2 0 rfl rfl)
theorem dX1_tellDam_49 : decode cX1_tellDam 49 = .ok (.aload_n 0, 1) := dk_42 (dk_at dksX1_tellDam_2 3 rfl rfl)
theorem dX1_tellDam_50 : decode cX1_tellDam 50 = .ok (.getfield 49, 3) := dk_180 0 49 (dk_at dksX1_tellDam_2 4 rfl rfl)
theorem dX1_tellDam_53 : decode cX1_tellDam 53 = .ok (.invokevirtual 93, 3) := dk_182 0 93 (dk_at dksX1_tellDam_2 7 rfl rfl)
theorem dX1_tellDam_56 : decode cX1_tellDam 56 = .ok (.aload_n 0, 1) := dk_42 (dk_at dksX1_tellDam_2 10 rfl rfl)
theorem dX1_tellDam_57 : decode cX1_tellDam 57 = .ok (.invokedynamic 485, 5) := by decide +kernel
theorem dX1_tellDam_62 : decode cX1_tellDam 62 = .ok (.invokestatic 100, 3) := dk_184 0 100 (dk_at dksX1_tellDam_2 16 rfl rfl)
theorem dX1_tellDam_65 : decode cX1_tellDam 65 = .ok (.ireturn, 1) := dk_172 (dk_at dksX1_tellDam_2 19 rfl rfl)
abbrev cX1_lambda_tellDam_3 : ByteArray := prog_1_method_82_code
def yX1_lambda_tellDam_3 : MethodName := ⟨RX1, "lambda$tellDam$3", "(I)Z"⟩
def dkwX1_lambda_tellDam_3_0 : List UInt8 := [42, 42, 180, 0, 49, 27, 182, 0, 141, 192, 0, 105, 182, 0, 112, 172]
abbrev dktX1_lambda_tellDam_3_0 : List UInt8 := dkwX1_lambda_tellDam_3_0 ++ []
theorem dksX1_lambda_tellDam_3_0 : cX1_lambda_tellDam_3.data.toList.drop 0 = dktX1_lambda_tellDam_3_0 := by decide +kernel
theorem dX1_lambda_tellDam_3_0 : decode cX1_lambda_tellDam_3 0 = .ok (.aload_n 0, 1) := dk_42 (dk_at dksX1_lambda_tellDam_3_0 0 rfl rfl)
theorem dX1_lambda_tellDam_3_1 : decode cX1_lambda_tellDam_3 1 = .ok (.aload_n 0, 1) := dk_42 (dk_at dksX1_lambda_tellDam_3_0 1 rfl rfl)
theorem dX1_lambda_tellDam_3_2 : decode cX1_lambda_tellDam_3 2 = .ok (.getfield 49, 3) := dk_180 0 49 (dk_at dksX1_lambda_tellDam_3_0 2 rfl rfl)
theorem dX1_lambda_tellDam_3_5 : decode cX1_lambda_tellDam_3 5 = .ok (.iload_n 1, 1) := dk_27 (dk_at dksX1_lambda_tellDam_3_0 5 rfl rfl)
theorem dX1_lambda_tellDam_3_6 : decode cX1_lambda_tellDam_3 6 = .ok (.invokevirtual 141, 3) := dk_182 0 141 (dk_at dksX1_lambda_tellDam_3_0 6 rfl rfl)
theorem dX1_lambda_tellDam_3_9 : decode cX1_lambda_tellDam_3 9 = .ok (.checkcast 105, 3) := dk_192 0 105 (dk_at dksX1_lambda_tellDam_3_0 9 rfl rfl)
theorem dX1_lambda_tellDam_3_12 : decode cX1_lambda_tellDam_3 12 = .ok (.invokevirtual 112, 3) := dk_182 0 112 (dk_at dksX1_lambda_tellDam_3_0 12 rfl rfl)
theorem dX1_lambda_tellDam_3_15 : decode cX1_lambda_tellDam_3 15 = .ok (.ireturn, 1) := dk_172 (dk_at dksX1_lambda_tellDam_3_0 15 rfl rfl)
abbrev cX1_isDrowned_2 : ByteArray := prog_1_method_76_code
def yX1_isDrowned_2 : MethodName := ⟨RX1, "isDrowned", "(I)Z"⟩
def dkwX1_isDrowned_2_0 : List UInt8 := [42, 42, 27, 182, 0, 177, 182, 0, 180, 172]
abbrev dktX1_isDrowned_2_0 : List UInt8 := dkwX1_isDrowned_2_0 ++ []
theorem dksX1_isDrowned_2_0 : cX1_isDrowned_2.data.toList.drop 0 = dktX1_isDrowned_2_0 := by decide +kernel
theorem dX1_isDrowned_2_0 : decode cX1_isDrowned_2 0 = .ok (.aload_n 0, 1) := dk_42 (dk_at dksX1_isDrowned_2_0 0 rfl rfl)
theorem dX1_isDrowned_2_1 : decode cX1_isDrowned_2 1 = .ok (.aload_n 0, 1) := dk_42 (dk_at dksX1_isDrowned_2_0 1 rfl rfl)
theorem dX1_isDrowned_2_2 : decode cX1_isDrowned_2 2 = .ok (.iload_n 1, 1) := dk_27 (dk_at dksX1_isDrowned_2_0 2 rfl rfl)
theorem dX1_isDrowned_2_3 : decode cX1_isDrowned_2 3 = .ok (.invokevirtual 177, 3) := dk_182 0 177 (dk_at dksX1_isDrowned_2_0 3 rfl rfl)
theorem dX1_isDrowned_2_6 : decode cX1_isDrowned_2 6 = .ok (.invokevirtual 180, 3) := dk_182 0 180 (dk_at dksX1_isDrowned_2_0 6 rfl rfl)
theorem dX1_isDrowned_2_9 : decode cX1_isDrowned_2 9 = .ok (.ireturn, 1) := dk_172 (dk_at dksX1_isDrowned_2_0 9 rfl rfl)
theorem q74 : (Jvm.Cond.initialized "FigureSurvey") ∈ lw_all := lw_g (lw_at lw_m1 1 rfl) rfl
theorem q133 : (Jvm.Cond.instantiable "FigureSurvey" (17 : Nat)) ∈ lw_all := lw_g (lw_at lw_m1 60 rfl) rfl
theorem q135 : (Jvm.Cond.instanceMethod ({ cls := "FigureSurvey", name := "<init>", desc := "()V" } : Jvm.MethodName)) ∈ lw_all := lw_g (lw_at lw_m1 62 rfl) rfl
theorem q136 : (Jvm.Cond.code ({ cls := "FigureSurvey", name := "<init>", desc := "()V" } : Jvm.MethodName) prog_1_method_6_code (1 : Nat) (Option.none : Option Jvm.ClassFile.FieldType)) ∈ lw_all := lw_g (lw_at lw_m1 63 rfl) rfl
theorem q137 : (Jvm.Cond.methodLink "FigureSurvey" (41 : Nat) ({ cls := "java/lang/Object", name := "<init>", desc := "()V" } : Jvm.MethodName)) ∈ lw_all := lw_g (lw_at lw_m1 64 rfl) rfl
theorem q140 : (Jvm.Cond.classLink "FigureSurvey" (46 : Nat) "java/util/ArrayList") ∈ lw_all := lw_g (lw_at lw_m1 67 rfl) rfl
theorem q142 : (Jvm.Cond.methodLink "FigureSurvey" (48 : Nat) ({ cls := "java/util/ArrayList", name := "<init>", desc := "()V" } : Jvm.MethodName)) ∈ lw_all := lw_g (lw_at lw_m1 69 rfl) rfl
theorem q170 : (Jvm.Cond.classLink "FigureSurvey" (62 : Nat) "java/util/TreeMap") ∈ lw_all := lw_g (lw_at lw_m1 97 rfl) rfl
theorem q172 : (Jvm.Cond.methodLink "FigureSurvey" (64 : Nat) ({ cls := "java/util/TreeMap", name := "<init>", desc := "()V" } : Jvm.MethodName)) ∈ lw_all := lw_g (lw_at lw_m1 99 rfl) rfl
theorem q207 : (Jvm.Cond.classLink "FigureSurvey" (88 : Nat) "[[I") ∈ lw_all := lw_g (lw_at lw_m1 134 rfl) rfl
theorem q209 : (Jvm.Cond.fieldLink "FigureSurvey" (7 : Nat) "FigureSurvey" "need" "[I") ∈ lw_all := lw_g (lw_at lw_m1 136 rfl) rfl
theorem q210 : (Jvm.Cond.fieldLink "FigureSurvey" (49 : Nat) "FigureSurvey" "panels" "Ljava/util/ArrayList;") ∈ lw_all := lw_g (lw_at lw_m1 137 rfl) rfl
theorem q211 : (Jvm.Cond.fieldLink "FigureSurvey" (53 : Nat) "FigureSurvey" "strokes" "Ljava/util/ArrayList;") ∈ lw_all := lw_g (lw_at lw_m1 138 rfl) rfl
theorem q213 : (Jvm.Cond.fieldLink "FigureSurvey" (56 : Nat) "FigureSurvey" "figures" "Ljava/util/ArrayList;") ∈ lw_all := lw_g (lw_at lw_m1 140 rfl) rfl
theorem q214 : (Jvm.Cond.fieldLink "FigureSurvey" (59 : Nat) "FigureSurvey" "tracings" "Ljava/util/ArrayList;") ∈ lw_all := lw_g (lw_at lw_m1 141 rfl) rfl
theorem q216 : (Jvm.Cond.fieldLink "FigureSurvey" (65 : Nat) "FigureSurvey" "findings" "Ljava/util/TreeMap;") ∈ lw_all := lw_g (lw_at lw_m1 143 rfl) rfl
theorem q218 : (Jvm.Cond.fieldLink "FigureSurvey" (316 : Nat) "FigureSurvey" "told" "I") ∈ lw_all := lw_g (lw_at lw_m1 145 rfl) rfl
theorem q220 : (Jvm.Cond.fieldLink "FigureSurvey" (69 : Nat) "FigureSurvey" "weaponYears" "[I") ∈ lw_all := lw_g (lw_at lw_m1 147 rfl) rfl
theorem q222 : (Jvm.Cond.fieldLink "FigureSurvey" (72 : Nat) "FigureSurvey" "animalYears" "[I") ∈ lw_all := lw_g (lw_at lw_m1 149 rfl) rfl
theorem q223 : (Jvm.Cond.fieldLink "FigureSurvey" (75 : Nat) "FigureSurvey" "styles" "Ljava/util/ArrayList;") ∈ lw_all := lw_g (lw_at lw_m1 150 rfl) rfl
theorem q224 : (Jvm.Cond.fieldLink "FigureSurvey" (78 : Nat) "FigureSurvey" "entries" "Ljava/util/ArrayList;") ∈ lw_all := lw_g (lw_at lw_m1 151 rfl) rfl
theorem q225 : (Jvm.Cond.fieldLink "FigureSurvey" (81 : Nat) "FigureSurvey" "works" "Ljava/util/ArrayList;") ∈ lw_all := lw_g (lw_at lw_m1 152 rfl) rfl
theorem q226 : (Jvm.Cond.fieldLink "FigureSurvey" (410 : Nat) "FigureSurvey" "names" "I") ∈ lw_all := lw_g (lw_at lw_m1 153 rfl) rfl
theorem q227 : (Jvm.Cond.fieldLink "FigureSurvey" (116 : Nat) "FigureSurvey" "year" "I") ∈ lw_all := lw_g (lw_at lw_m1 154 rfl) rfl
theorem q228 : (Jvm.Cond.fieldLink "FigureSurvey" (109 : Nat) "FigureSurvey" "damLevel" "I") ∈ lw_all := lw_g (lw_at lw_m1 155 rfl) rfl
theorem q229 : (Jvm.Cond.fieldLink "FigureSurvey" (84 : Nat) "FigureSurvey" "damYear" "I") ∈ lw_all := lw_g (lw_at lw_m1 156 rfl) rfl
theorem q230 : (Jvm.Cond.fieldLink "FigureSurvey" (90 : Nat) "FigureSurvey" "match" "[[I") ∈ lw_all := lw_g (lw_at lw_m1 157 rfl) rfl
theorem q231 : (Jvm.Cond.laysFinal "FigureSurvey" "FigureSurvey" "need" "[I") ∈ lw_all := lw_g (lw_at lw_m1 158 rfl) rfl
theorem q232 : (Jvm.Cond.soleField "FigureSurvey" "need") ∈ lw_all := lw_g (lw_at lw_m1 159 rfl) rfl
theorem q233 : (Jvm.Cond.laysFinal "FigureSurvey" "FigureSurvey" "panels" "Ljava/util/ArrayList;") ∈ lw_all := lw_g (lw_at lw_m1 160 rfl) rfl
theorem q234 : (Jvm.Cond.soleField "FigureSurvey" "panels") ∈ lw_all := lw_g (lw_at lw_m1 161 rfl) rfl
theorem q235 : (Jvm.Cond.laysFinal "FigureSurvey" "FigureSurvey" "strokes" "Ljava/util/ArrayList;") ∈ lw_all := lw_g (lw_at lw_m1 162 rfl) rfl
theorem q236 : (Jvm.Cond.soleField "FigureSurvey" "strokes") ∈ lw_all := lw_g (lw_at lw_m1 163 rfl) rfl
theorem q237 : (Jvm.Cond.laysFinal "FigureSurvey" "FigureSurvey" "figures" "Ljava/util/ArrayList;") ∈ lw_all := lw_g (lw_at lw_m1 164 rfl) rfl
theorem q238 : (Jvm.Cond.soleField "FigureSurvey" "figures") ∈ lw_all := lw_g (lw_at lw_m1 165 rfl) rfl
theorem q239 : (Jvm.Cond.laysFinal "FigureSurvey" "FigureSurvey" "tracings" "Ljava/util/ArrayList;") ∈ lw_all := lw_g (lw_at lw_m1 166 rfl) rfl
theorem q240 : (Jvm.Cond.soleField "FigureSurvey" "tracings") ∈ lw_all := lw_g (lw_at lw_m1 167 rfl) rfl
theorem q241 : (Jvm.Cond.laysFinal "FigureSurvey" "FigureSurvey" "findings" "Ljava/util/TreeMap;") ∈ lw_all := lw_g (lw_at lw_m1 168 rfl) rfl
theorem q242 : (Jvm.Cond.soleField "FigureSurvey" "findings") ∈ lw_all := lw_g (lw_at lw_m1 169 rfl) rfl
theorem q243 : (Jvm.Cond.lays "FigureSurvey" "FigureSurvey" "told" "I") ∈ lw_all := lw_g (lw_at lw_m1 170 rfl) rfl
theorem q244 : (Jvm.Cond.soleField "FigureSurvey" "told") ∈ lw_all := lw_g (lw_at lw_m1 171 rfl) rfl
theorem q245 : (Jvm.Cond.laysFinal "FigureSurvey" "FigureSurvey" "weaponYears" "[I") ∈ lw_all := lw_g (lw_at lw_m1 172 rfl) rfl
theorem q246 : (Jvm.Cond.soleField "FigureSurvey" "weaponYears") ∈ lw_all := lw_g (lw_at lw_m1 173 rfl) rfl
theorem q247 : (Jvm.Cond.laysFinal "FigureSurvey" "FigureSurvey" "animalYears" "[I") ∈ lw_all := lw_g (lw_at lw_m1 174 rfl) rfl
theorem q248 : (Jvm.Cond.soleField "FigureSurvey" "animalYears") ∈ lw_all := lw_g (lw_at lw_m1 175 rfl) rfl
theorem q249 : (Jvm.Cond.laysFinal "FigureSurvey" "FigureSurvey" "styles" "Ljava/util/ArrayList;") ∈ lw_all := lw_g (lw_at lw_m1 176 rfl) rfl
theorem q250 : (Jvm.Cond.soleField "FigureSurvey" "styles") ∈ lw_all := lw_g (lw_at lw_m1 177 rfl) rfl
theorem q251 : (Jvm.Cond.laysFinal "FigureSurvey" "FigureSurvey" "entries" "Ljava/util/ArrayList;") ∈ lw_all := lw_g (lw_at lw_m1 178 rfl) rfl
theorem q252 : (Jvm.Cond.soleField "FigureSurvey" "entries") ∈ lw_all := lw_g (lw_at lw_m1 179 rfl) rfl
theorem q253 : (Jvm.Cond.laysFinal "FigureSurvey" "FigureSurvey" "works" "Ljava/util/ArrayList;") ∈ lw_all := lw_g (lw_at lw_m1 180 rfl) rfl
theorem q254 : (Jvm.Cond.soleField "FigureSurvey" "works") ∈ lw_all := lw_g (lw_at lw_m1 181 rfl) rfl
theorem q255 : (Jvm.Cond.lays "FigureSurvey" "FigureSurvey" "names" "I") ∈ lw_all := lw_g (lw_at lw_m1 182 rfl) rfl
theorem q256 : (Jvm.Cond.soleField "FigureSurvey" "names") ∈ lw_all := lw_g (lw_at lw_m1 183 rfl) rfl
theorem q257 : (Jvm.Cond.lays "FigureSurvey" "FigureSurvey" "year" "I") ∈ lw_all := lw_g (lw_at lw_m1 184 rfl) rfl
theorem q258 : (Jvm.Cond.soleField "FigureSurvey" "year") ∈ lw_all := lw_g (lw_at lw_m1 185 rfl) rfl
theorem q259 : (Jvm.Cond.lays "FigureSurvey" "FigureSurvey" "damLevel" "I") ∈ lw_all := lw_g (lw_at lw_m1 186 rfl) rfl
theorem q260 : (Jvm.Cond.soleField "FigureSurvey" "damLevel") ∈ lw_all := lw_g (lw_at lw_m1 187 rfl) rfl
theorem q261 : (Jvm.Cond.lays "FigureSurvey" "FigureSurvey" "damYear" "I") ∈ lw_all := lw_g (lw_at lw_m1 188 rfl) rfl
theorem q262 : (Jvm.Cond.soleField "FigureSurvey" "damYear") ∈ lw_all := lw_g (lw_at lw_m1 189 rfl) rfl
theorem q263 : (Jvm.Cond.laysFinal "FigureSurvey" "FigureSurvey" "match" "[[I") ∈ lw_all := lw_g (lw_at lw_m1 190 rfl) rfl
theorem q264 : (Jvm.Cond.soleField "FigureSurvey" "match") ∈ lw_all := lw_g (lw_at lw_m1 191 rfl) rfl
theorem q265 : (Jvm.Cond.superclass "FigureSurvey" "java/lang/Object") ∈ lw_all := lw_g (lw_at lw_m1 192 rfl) rfl
theorem q267 : (Jvm.Cond.instanceMethod ({ cls := "FigureSurvey", name := "recordFirst", desc := "()I" } : Jvm.MethodName)) ∈ lw_all := lw_g (lw_at lw_m1 194 rfl) rfl
theorem q268 : (Jvm.Cond.selects "FigureSurvey" ({ cls := "FigureSurvey", name := "recordFirst", desc := "()I" } : Jvm.MethodName) ({ cls := "FigureSurvey", name := "recordFirst", desc := "()I" } : Jvm.MethodName)) ∈ lw_all := lw_g (lw_at lw_m1 195 rfl) rfl
theorem q269 : (Jvm.Cond.code ({ cls := "FigureSurvey", name := "recordFirst", desc := "()I" } : Jvm.MethodName) prog_1_method_77_code (4 : Nat) (Option.some Jvm.ClassFile.FieldType.int)) ∈ lw_all := lw_g (lw_at lw_m1 196 rfl) rfl
theorem q270 : (Jvm.Cond.classLink "FigureSurvey" (488 : Nat) "java/util/PriorityQueue") ∈ lw_all := lw_g (lw_at lw_m1 197 rfl) rfl
theorem q272 : (Jvm.Cond.classLink "FigureSurvey" (490 : Nat) "FigureSurvey$ByNeed") ∈ lw_all := lw_g (lw_at lw_m1 199 rfl) rfl
theorem q274 : (Jvm.Cond.methodLinkNest "FigureSurvey" (492 : Nat) ({ cls := "FigureSurvey$ByNeed", name := "<init>", desc := "(LFigureSurvey;)V" } : Jvm.MethodName) "FigureSurvey") ∈ lw_tbl := lw_at lw_m1 201 rfl
theorem q282 : (Jvm.Cond.methodLink "FigureSurvey" (495 : Nat) ({ cls := "java/util/PriorityQueue", name := "<init>", desc := "(Ljava/util/Comparator;)V" } : Jvm.MethodName)) ∈ lw_all := lw_g (lw_at lw_m1 209 rfl) rfl
theorem q375 : (Jvm.Cond.methodLink "FigureSurvey" (93 : Nat) ({ cls := "java/util/ArrayList", name := "size", desc := "()I" } : Jvm.MethodName)) ∈ lw_all := lw_g (lw_at lw_m2 62 rfl) rfl
theorem q379 : (Jvm.Cond.methodLink "FigureSurvey" (141 : Nat) ({ cls := "java/util/ArrayList", name := "get", desc := "(I)Ljava/lang/Object;" } : Jvm.MethodName)) ∈ lw_all := lw_g (lw_at lw_m2 66 rfl) rfl
theorem q393 : (Jvm.Cond.classLink "FigureSurvey" (105 : Nat) "FigureSurvey$Panel") ∈ lw_all := lw_g (lw_at lw_m2 80 rfl) rfl
theorem q394 : (Jvm.Cond.methodLink "FigureSurvey" (112 : Nat) ({ cls := "FigureSurvey", name := "isLow", desc := "(LFigureSurvey$Panel;)Z" } : Jvm.MethodName)) ∈ lw_all := lw_g (lw_at lw_m2 81 rfl) rfl
theorem q395 : (Jvm.Cond.privateMethod ({ cls := "FigureSurvey", name := "isLow", desc := "(LFigureSurvey$Panel;)Z" } : Jvm.MethodName)) ∈ lw_tbl := lw_at lw_m2 82 rfl
theorem q396 : (Jvm.Cond.instanceMethod ({ cls := "FigureSurvey", name := "isLow", desc := "(LFigureSurvey$Panel;)Z" } : Jvm.MethodName)) ∈ lw_all := lw_g (lw_at lw_m2 83 rfl) rfl
theorem q397 : (Jvm.Cond.code ({ cls := "FigureSurvey", name := "isLow", desc := "(LFigureSurvey$Panel;)Z" } : Jvm.MethodName) prog_1_method_8_code (2 : Nat) (Option.some Jvm.ClassFile.FieldType.boolean)) ∈ lw_all := lw_g (lw_at lw_m2 84 rfl) rfl
theorem q398 : (Jvm.Cond.methodLink "FigureSurvey" (180 : Nat) ({ cls := "FigureSurvey", name := "isDrowned", desc := "(LFigureSurvey$Panel;)Z" } : Jvm.MethodName)) ∈ lw_all := lw_g (lw_at lw_m2 85 rfl) rfl
theorem q399 : (Jvm.Cond.privateMethod ({ cls := "FigureSurvey", name := "isDrowned", desc := "(LFigureSurvey$Panel;)Z" } : Jvm.MethodName)) ∈ lw_tbl := lw_at lw_m2 86 rfl
theorem q400 : (Jvm.Cond.instanceMethod ({ cls := "FigureSurvey", name := "isDrowned", desc := "(LFigureSurvey$Panel;)Z" } : Jvm.MethodName)) ∈ lw_all := lw_g (lw_at lw_m2 87 rfl) rfl
theorem q401 : (Jvm.Cond.code ({ cls := "FigureSurvey", name := "isDrowned", desc := "(LFigureSurvey$Panel;)Z" } : Jvm.MethodName) prog_1_method_9_code (2 : Nat) (Option.some Jvm.ClassFile.FieldType.boolean)) ∈ lw_all := lw_g (lw_at lw_m2 88 rfl) rfl
theorem q402 : (Jvm.Cond.methodLink "FigureSurvey" (189 : Nat) ({ cls := "java/lang/Integer", name := "bitCount", desc := "(I)I" } : Jvm.MethodName)) ∈ lw_all := lw_g (lw_at lw_m2 89 rfl) rfl
theorem q408 : (Jvm.Cond.methodLink "FigureSurvey" (498 : Nat) ({ cls := "java/util/PriorityQueue", name := "add", desc := "(Ljava/lang/Object;)Z" } : Jvm.MethodName)) ∈ lw_all := lw_g (lw_at lw_m2 95 rfl) rfl
theorem q436 : (Jvm.Cond.selects "FigureSurvey" ({ cls := "java/lang/Object", name := "getClass", desc := "()Ljava/lang/Class;" } : Jvm.MethodName) ({ cls := "java/lang/Object", name := "getClass", desc := "()Ljava/lang/Class;" } : Jvm.MethodName)) ∈ lw_all := lw_g (lw_at lw_m2 123 rfl) rfl
theorem q508 : (Jvm.Cond.privateMethod ({ cls := "FigureSurvey", name := "genuineOn", desc := "(LFigureSurvey$Panel;)I" } : Jvm.MethodName)) ∈ lw_tbl := lw_at lw_m2 195 rfl
theorem q509 : (Jvm.Cond.instanceMethod ({ cls := "FigureSurvey", name := "genuineOn", desc := "(LFigureSurvey$Panel;)I" } : Jvm.MethodName)) ∈ lw_all := lw_g (lw_at lw_m2 196 rfl) rfl
theorem q510 : (Jvm.Cond.code ({ cls := "FigureSurvey", name := "genuineOn", desc := "(LFigureSurvey$Panel;)I" } : Jvm.MethodName) prog_1_method_7_code (2 : Nat) (Option.some Jvm.ClassFile.FieldType.int)) ∈ lw_all := lw_g (lw_at lw_m2 197 rfl) rfl
theorem q511 : (Jvm.Cond.privateMethod ({ cls := "FigureSurvey", name := "lambda$genuineOn$0", desc := "(LFigureSurvey$Panel;I)Z" } : Jvm.MethodName)) ∈ lw_tbl := lw_at lw_m2 198 rfl
theorem q512 : (Jvm.Cond.instanceMethod ({ cls := "FigureSurvey", name := "lambda$genuineOn$0", desc := "(LFigureSurvey$Panel;I)Z" } : Jvm.MethodName)) ∈ lw_all := lw_g (lw_at lw_m2 199 rfl) rfl
theorem q513 : (Jvm.Cond.code ({ cls := "FigureSurvey", name := "lambda$genuineOn$0", desc := "(LFigureSurvey$Panel;I)Z" } : Jvm.MethodName) prog_1_method_85_code (3 : Nat) (Option.some Jvm.ClassFile.FieldType.boolean)) ∈ lw_all := lw_g (lw_at lw_m2 200 rfl) rfl
theorem q514 : (Jvm.Cond.classLink "FigureSurvey" (32 : Nat) "FigureSurvey$Figure") ∈ lw_all := lw_g (lw_at lw_m2 201 rfl) rfl
theorem q515 : (Jvm.Cond.methodLink "FigureSurvey" (432 : Nat) ({ cls := "FigureSurvey$Figure", name := "isGenuine", desc := "()Z" } : Jvm.MethodName)) ∈ lw_all := lw_g (lw_at lw_m2 202 rfl) rfl
theorem q555 : (Jvm.Cond.static ({ cls := "FigureSurvey", name := "has", desc := "(JI)Z" } : Jvm.MethodName)) ∈ lw_all := lw_g (lw_at lw_m3 2 rfl) rfl
theorem q556 : (Jvm.Cond.code ({ cls := "FigureSurvey", name := "has", desc := "(JI)Z" } : Jvm.MethodName) prog_1_method_3_code (3 : Nat) (Option.some Jvm.ClassFile.FieldType.boolean)) ∈ lw_all := lw_g (lw_at lw_m3 3 rfl) rfl
theorem q569 : (Jvm.Cond.fieldLink "FigureSurvey" (262 : Nat) "FigureSurvey$Shift" "dx" "I") ∈ lw_all := lw_g (lw_at lw_m3 16 rfl) rfl
theorem q572 : (Jvm.Cond.fieldLink "FigureSurvey" (257 : Nat) "FigureSurvey$Shift" "dy" "I") ∈ lw_all := lw_g (lw_at lw_m3 19 rfl) rfl
theorem q595 : (Jvm.Cond.static ({ cls := "FigureSurvey", name := "count", desc := "(ILFigureSurvey$Pick;)I" } : Jvm.MethodName)) ∈ lw_all := lw_g (lw_at lw_m3 42 rfl) rfl
theorem q596 : (Jvm.Cond.code ({ cls := "FigureSurvey", name := "count", desc := "(ILFigureSurvey$Pick;)I" } : Jvm.MethodName) prog_1_method_1_code (4 : Nat) (Option.some Jvm.ClassFile.FieldType.int)) ∈ lw_all := lw_g (lw_at lw_m3 43 rfl) rfl
theorem q597 : (Jvm.Cond.interfaceEntry "FigureSurvey" (1 : Nat)) ∈ lw_tbl := lw_at lw_m3 44 rfl
theorem q598 : (Jvm.Cond.methodLink "FigureSurvey" (1 : Nat) ({ cls := "FigureSurvey$Pick", name := "takes", desc := "(I)Z" } : Jvm.MethodName)) ∈ lw_all := lw_g (lw_at lw_m3 45 rfl) rfl
theorem q601 : (Jvm.Cond.methodLink "FigureSurvey" (100 : Nat) ({ cls := "FigureSurvey", name := "count", desc := "(ILFigureSurvey$Pick;)I" } : Jvm.MethodName)) ∈ lw_all := lw_g (lw_at lw_m3 48 rfl) rfl
theorem q807 : (Jvm.Cond.methodLink "FigureSurvey" (499 : Nat) ({ cls := "java/util/PriorityQueue", name := "isEmpty", desc := "()Z" } : Jvm.MethodName)) ∈ lw_all := lw_g (lw_at lw_m4 14 rfl) rfl
theorem q845 : (Jvm.Cond.methodLink "FigureSurvey" (502 : Nat) ({ cls := "java/util/PriorityQueue", name := "poll", desc := "()Ljava/lang/Object;" } : Jvm.MethodName)) ∈ lw_all := lw_g (lw_at lw_m4 52 rfl) rfl
theorem q856 : (Jvm.Cond.instanceMethod ({ cls := "FigureSurvey", name := "errors", desc := "()I" } : Jvm.MethodName)) ∈ lw_all := lw_g (lw_at lw_m4 63 rfl) rfl
theorem q857 : (Jvm.Cond.selects "FigureSurvey" ({ cls := "FigureSurvey", name := "errors", desc := "()I" } : Jvm.MethodName) ({ cls := "FigureSurvey", name := "errors", desc := "()I" } : Jvm.MethodName)) ∈ lw_all := lw_g (lw_at lw_m4 64 rfl) rfl
theorem q858 : (Jvm.Cond.code ({ cls := "FigureSurvey", name := "errors", desc := "()I" } : Jvm.MethodName) prog_1_method_78_code (1 : Nat) (Option.some Jvm.ClassFile.FieldType.int)) ∈ lw_all := lw_g (lw_at lw_m4 65 rfl) rfl
theorem q859 : (Jvm.Cond.privateMethod ({ cls := "FigureSurvey", name := "lambda$errors$4", desc := "(I)Z" } : Jvm.MethodName)) ∈ lw_tbl := lw_at lw_m4 66 rfl
theorem q860 : (Jvm.Cond.instanceMethod ({ cls := "FigureSurvey", name := "lambda$errors$4", desc := "(I)Z" } : Jvm.MethodName)) ∈ lw_all := lw_g (lw_at lw_m4 67 rfl) rfl
theorem q861 : (Jvm.Cond.code ({ cls := "FigureSurvey", name := "lambda$errors$4", desc := "(I)Z" } : Jvm.MethodName) prog_1_method_81_code (2 : Nat) (Option.some Jvm.ClassFile.FieldType.boolean)) ∈ lw_all := lw_g (lw_at lw_m4 68 rfl) rfl
theorem q862 : (Jvm.Cond.classLink "FigureSurvey" (29 : Nat) "FigureSurvey$Scene") ∈ lw_all := lw_g (lw_at lw_m4 69 rfl) rfl
theorem q864 : (Jvm.Cond.methodLink "FigureSurvey" (37 : Nat) ({ cls := "FigureSurvey$Scene", name := "<init>", desc := "(LFigureSurvey;LFigureSurvey$Panel;)V" } : Jvm.MethodName)) ∈ lw_all := lw_g (lw_at lw_m4 71 rfl) rfl
theorem q1204 : (Jvm.Cond.selects "FigureSurvey" ({ cls := "java/lang/Object", name := "equals", desc := "(Ljava/lang/Object;)Z" } : Jvm.MethodName) ({ cls := "java/lang/Object", name := "equals", desc := "(Ljava/lang/Object;)Z" } : Jvm.MethodName)) ∈ lw_all := lw_g (lw_at lw_m5 171 rfl) rfl
theorem q1244 : (Jvm.Cond.static ({ cls := "FigureSurvey", name := "has", desc := "(II)Z" } : Jvm.MethodName)) ∈ lw_all := lw_g (lw_at lw_m5 211 rfl) rfl
theorem q1245 : (Jvm.Cond.code ({ cls := "FigureSurvey", name := "has", desc := "(II)Z" } : Jvm.MethodName) prog_1_method_2_code (2 : Nat) (Option.some Jvm.ClassFile.FieldType.boolean)) ∈ lw_all := lw_g (lw_at lw_m5 212 rfl) rfl
theorem q1247 : (Jvm.Cond.privateMethod ({ cls := "FigureSurvey", name := "bestRow", desc := "(ILFigureSurvey$Price;)[I" } : Jvm.MethodName)) ∈ lw_tbl := lw_at lw_m5 214 rfl
theorem q1248 : (Jvm.Cond.instanceMethod ({ cls := "FigureSurvey", name := "bestRow", desc := "(ILFigureSurvey$Price;)[I" } : Jvm.MethodName)) ∈ lw_all := lw_g (lw_at lw_m5 215 rfl) rfl
theorem q1249 : (Jvm.Cond.code ({ cls := "FigureSurvey", name := "bestRow", desc := "(ILFigureSurvey$Price;)[I" } : Jvm.MethodName) prog_1_method_4_code (8 : Nat) (Option.some (Jvm.ClassFile.FieldType.array Jvm.ClassFile.FieldType.int))) ∈ lw_all := lw_g (lw_at lw_m5 216 rfl) rfl
theorem q1250 : (Jvm.Cond.constant "FigureSurvey" (13 : Nat) (1000000 : Int32)) ∈ lw_all := lw_g (lw_at lw_m5 217 rfl) rfl
theorem q1251 : (Jvm.Cond.methodLink "FigureSurvey" (14 : Nat) ({ cls := "FigureSurvey", name := "has", desc := "(II)Z" } : Jvm.MethodName)) ∈ lw_all := lw_g (lw_at lw_m5 218 rfl) rfl
theorem q1252 : (Jvm.Cond.interfaceEntry "FigureSurvey" (18 : Nat)) ∈ lw_tbl := lw_at lw_m5 219 rfl
theorem q1253 : (Jvm.Cond.methodLink "FigureSurvey" (18 : Nat) ({ cls := "FigureSurvey$Price", name := "of", desc := "(II)I" } : Jvm.MethodName)) ∈ lw_all := lw_g (lw_at lw_m5 220 rfl) rfl
theorem q1256 : (Jvm.Cond.methodLink "FigureSurvey" (24 : Nat) ({ cls := "java/lang/Math", name := "min", desc := "(II)I" } : Jvm.MethodName)) ∈ lw_all := lw_g (lw_at lw_m5 223 rfl) rfl
theorem q1295 : (Jvm.Cond.fieldLink "FigureSurvey" (356 : Nat) "FigureSurvey$Scene" "genuine" "Ljava/util/ArrayList;") ∈ lw_all := lw_g (lw_at lw_m6 22 rfl) rfl
theorem q1299 : (Jvm.Cond.fieldLink "FigureSurvey" (353 : Nat) "FigureSurvey$Scene" "row" "[I") ∈ lw_all := lw_g (lw_at lw_m6 26 rfl) rfl
theorem q1301 : (Jvm.Cond.fieldLink "FigureSurvey" (367 : Nat) "FigureSurvey$Scene" "isAbove" "[[Z") ∈ lw_all := lw_g (lw_at lw_m6 28 rfl) rfl
theorem q1322 : (Jvm.Cond.methodLink "FigureSurvey" (507 : Nat) ({ cls := "FigureSurvey$Scene", name := "isOther", desc := "()Z" } : Jvm.MethodName)) ∈ lw_all := lw_g (lw_at lw_m6 49 rfl) rfl
theorem q1346 : (Jvm.Cond.instanceMethod ({ cls := "FigureSurvey", name := "meanSpan", desc := "()D" } : Jvm.MethodName)) ∈ lw_all := lw_g (lw_at lw_m6 73 rfl) rfl
theorem q1347 : (Jvm.Cond.selects "FigureSurvey" ({ cls := "FigureSurvey", name := "meanSpan", desc := "()D" } : Jvm.MethodName) ({ cls := "FigureSurvey", name := "meanSpan", desc := "()D" } : Jvm.MethodName)) ∈ lw_all := lw_g (lw_at lw_m6 74 rfl) rfl
theorem q1348 : (Jvm.Cond.code ({ cls := "FigureSurvey", name := "meanSpan", desc := "()D" } : Jvm.MethodName) prog_1_method_79_code (7 : Nat) (Option.some Jvm.ClassFile.FieldType.double)) ∈ lw_all := lw_g (lw_at lw_m6 75 rfl) rfl
theorem q1349 : (Jvm.Cond.methodLink "FigureSurvey" (371 : Nat) ({ cls := "FigureSurvey$Scene", name := "year", desc := "(LFigureSurvey$Figure;Z)I" } : Jvm.MethodName)) ∈ lw_all := lw_g (lw_at lw_m6 76 rfl) rfl
theorem q1385 : (Jvm.Cond.fieldLink "FigureSurvey" (378 : Nat) "FigureSurvey$Bound" "finding" "I") ∈ lw_all := lw_g (lw_at lw_m6 112 rfl) rfl
theorem q1556 : (Jvm.Cond.instanceMethod ({ cls := "FigureSurvey", name := "heldShare", desc := "()F" } : Jvm.MethodName)) ∈ lw_all := lw_g (lw_at lw_m7 43 rfl) rfl
theorem q1557 : (Jvm.Cond.selects "FigureSurvey" ({ cls := "FigureSurvey", name := "heldShare", desc := "()F" } : Jvm.MethodName) ({ cls := "FigureSurvey", name := "heldShare", desc := "()F" } : Jvm.MethodName)) ∈ lw_all := lw_g (lw_at lw_m7 44 rfl) rfl
theorem q1558 : (Jvm.Cond.code ({ cls := "FigureSurvey", name := "heldShare", desc := "()F" } : Jvm.MethodName) prog_1_method_80_code (7 : Nat) (Option.some Jvm.ClassFile.FieldType.float)) ∈ lw_all := lw_g (lw_at lw_m7 45 rfl) rfl
theorem q1559 : (Jvm.Cond.methodLink "FigureSurvey" (283 : Nat) ({ cls := "java/util/TreeMap", name := "values", desc := "()Ljava/util/Collection;" } : Jvm.MethodName)) ∈ lw_all := lw_g (lw_at lw_m7 46 rfl) rfl
theorem q1560 : (Jvm.Cond.interfaceEntry "FigureSurvey" (287 : Nat)) ∈ lw_tbl := lw_at lw_m7 47 rfl
theorem q1561 : (Jvm.Cond.methodLink "FigureSurvey" (287 : Nat) ({ cls := "java/util/Collection", name := "iterator", desc := "()Ljava/util/Iterator;" } : Jvm.MethodName)) ∈ lw_all := lw_g (lw_at lw_m7 48 rfl) rfl
theorem q1562 : (Jvm.Cond.interfaceEntry "FigureSurvey" (293 : Nat)) ∈ lw_tbl := lw_at lw_m7 49 rfl
theorem q1563 : (Jvm.Cond.methodLink "FigureSurvey" (293 : Nat) ({ cls := "java/util/Iterator", name := "hasNext", desc := "()Z" } : Jvm.MethodName)) ∈ lw_all := lw_g (lw_at lw_m7 50 rfl) rfl
theorem q1564 : (Jvm.Cond.interfaceEntry "FigureSurvey" (299 : Nat)) ∈ lw_tbl := lw_at lw_m7 51 rfl
theorem q1565 : (Jvm.Cond.methodLink "FigureSurvey" (299 : Nat) ({ cls := "java/util/Iterator", name := "next", desc := "()Ljava/lang/Object;" } : Jvm.MethodName)) ∈ lw_all := lw_g (lw_at lw_m7 52 rfl) rfl
theorem q1566 : (Jvm.Cond.classLink "FigureSurvey" (158 : Nat) "FigureSurvey$Finding") ∈ lw_all := lw_g (lw_at lw_m7 53 rfl) rfl
theorem q1567 : (Jvm.Cond.methodLink "FigureSurvey" (346 : Nat) ({ cls := "FigureSurvey$Scene", name := "counts", desc := "(LFigureSurvey$Finding;)Z" } : Jvm.MethodName)) ∈ lw_all := lw_g (lw_at lw_m7 54 rfl) rfl
theorem q1568 : (Jvm.Cond.methodLink "FigureSurvey" (350 : Nat) ({ cls := "FigureSurvey$Scene", name := "isBroken", desc := "(LFigureSurvey$Finding;)Z" } : Jvm.MethodName)) ∈ lw_all := lw_g (lw_at lw_m7 55 rfl) rfl
theorem q1575 : (Jvm.Cond.instanceMethod ({ cls := "FigureSurvey", name := "addPanel", desc := "(I)I" } : Jvm.MethodName)) ∈ lw_all := lw_g (lw_at lw_m7 62 rfl) rfl
theorem q1576 : (Jvm.Cond.selects "FigureSurvey" ({ cls := "FigureSurvey", name := "addPanel", desc := "(I)I" } : Jvm.MethodName) ({ cls := "FigureSurvey", name := "addPanel", desc := "(I)I" } : Jvm.MethodName)) ∈ lw_all := lw_g (lw_at lw_m7 63 rfl) rfl
theorem q1577 : (Jvm.Cond.code ({ cls := "FigureSurvey", name := "addPanel", desc := "(I)I" } : Jvm.MethodName) prog_1_method_19_code (2 : Nat) (Option.some Jvm.ClassFile.FieldType.int)) ∈ lw_all := lw_g (lw_at lw_m7 64 rfl) rfl
theorem q1578 : (Jvm.Cond.methodLink "FigureSurvey" (162 : Nat) ({ cls := "FigureSurvey", name := "in", desc := "(III)I" } : Jvm.MethodName)) ∈ lw_all := lw_g (lw_at lw_m7 65 rfl) rfl
theorem q1579 : (Jvm.Cond.static ({ cls := "FigureSurvey", name := "in", desc := "(III)I" } : Jvm.MethodName)) ∈ lw_all := lw_g (lw_at lw_m7 66 rfl) rfl
theorem q1580 : (Jvm.Cond.code ({ cls := "FigureSurvey", name := "in", desc := "(III)I" } : Jvm.MethodName) prog_1_method_10_code (3 : Nat) (Option.some Jvm.ClassFile.FieldType.int)) ∈ lw_all := lw_g (lw_at lw_m7 67 rfl) rfl
theorem q1581 : (Jvm.Cond.classLink "FigureSurvey" (119 : Nat) "java/lang/IllegalArgumentException") ∈ lw_all := lw_g (lw_at lw_m7 68 rfl) rfl
theorem q1582 : (Jvm.Cond.stringRef "FigureSurvey" (121 : Nat) "out of range") ∈ lw_tbl := lw_at lw_m7 69 rfl
theorem q1583 : (Jvm.Cond.methodLink "FigureSurvey" (123 : Nat) ({ cls := "java/lang/IllegalArgumentException", name := "<init>", desc := "(Ljava/lang/String;)V" } : Jvm.MethodName)) ∈ lw_all := lw_g (lw_at lw_m7 70 rfl) rfl
theorem q1595 : (Jvm.Cond.methodLink "FigureSurvey" (166 : Nat) ({ cls := "FigureSurvey", name := "must", desc := "(Z)V" } : Jvm.MethodName)) ∈ lw_all := lw_g (lw_at lw_m7 82 rfl) rfl
theorem q1596 : (Jvm.Cond.static ({ cls := "FigureSurvey", name := "must", desc := "(Z)V" } : Jvm.MethodName)) ∈ lw_all := lw_g (lw_at lw_m7 83 rfl) rfl
theorem q1597 : (Jvm.Cond.code ({ cls := "FigureSurvey", name := "must", desc := "(Z)V" } : Jvm.MethodName) prog_1_method_13_code (1 : Nat) (Option.none : Option Jvm.ClassFile.FieldType)) ∈ lw_all := lw_g (lw_at lw_m7 84 rfl) rfl
theorem q1598 : (Jvm.Cond.classLink "FigureSurvey" (133 : Nat) "java/lang/IllegalStateException") ∈ lw_all := lw_g (lw_at lw_m7 85 rfl) rfl
theorem q1607 : (Jvm.Cond.stringRef "FigureSurvey" (135 : Nat) "not in this state") ∈ lw_tbl := lw_at lw_m7 94 rfl
theorem q1608 : (Jvm.Cond.methodLink "FigureSurvey" (137 : Nat) ({ cls := "java/lang/IllegalStateException", name := "<init>", desc := "(Ljava/lang/String;)V" } : Jvm.MethodName)) ∈ lw_all := lw_g (lw_at lw_m7 95 rfl) rfl
theorem q1616 : (Jvm.Cond.methodLink "FigureSurvey" (170 : Nat) ({ cls := "FigureSurvey$Panel", name := "<init>", desc := "(II)V" } : Jvm.MethodName)) ∈ lw_all := lw_g (lw_at lw_m7 103 rfl) rfl
theorem q1622 : (Jvm.Cond.fieldLink "FigureSurvey" (505 : Nat) "FigureSurvey$Panel" "number" "I") ∈ lw_all := lw_g (lw_at lw_m7 109 rfl) rfl
theorem q1625 : (Jvm.Cond.fieldLink "FigureSurvey" (104 : Nat) "FigureSurvey$Panel" "height" "I") ∈ lw_all := lw_g (lw_at lw_m7 112 rfl) rfl
theorem q1627 : (Jvm.Cond.fieldLink "FigureSurvey" (183 : Nat) "FigureSurvey$Panel" "depth" "[I") ∈ lw_all := lw_g (lw_at lw_m7 114 rfl) rfl
theorem q1629 : (Jvm.Cond.fieldLink "FigureSurvey" (186 : Nat) "FigureSurvey$Panel" "lit" "I") ∈ lw_all := lw_g (lw_at lw_m7 116 rfl) rfl
theorem q1631 : (Jvm.Cond.fieldLink "FigureSurvey" (235 : Nat) "FigureSurvey$Panel" "harmed" "J") ∈ lw_all := lw_g (lw_at lw_m7 118 rfl) rfl
theorem q1632 : (Jvm.Cond.fieldLink "FigureSurvey" (429 : Nat) "FigureSurvey$Panel" "rights" "I") ∈ lw_all := lw_g (lw_at lw_m7 119 rfl) rfl
theorem q1634 : (Jvm.Cond.fieldLink "FigureSurvey" (449 : Nat) "FigureSurvey$Panel" "salts" "I") ∈ lw_all := lw_g (lw_at lw_m7 121 rfl) rfl
theorem q1636 : (Jvm.Cond.fieldLink "FigureSurvey" (452 : Nat) "FigureSurvey$Panel" "roots" "I") ∈ lw_all := lw_g (lw_at lw_m7 123 rfl) rfl
theorem q1638 : (Jvm.Cond.fieldLink "FigureSurvey" (455 : Nat) "FigureSurvey$Panel" "fire" "I") ∈ lw_all := lw_g (lw_at lw_m7 125 rfl) rfl
theorem q1640 : (Jvm.Cond.fieldLink "FigureSurvey" (479 : Nat) "FigureSurvey$Panel" "taken" "I") ∈ lw_all := lw_g (lw_at lw_m7 127 rfl) rfl
theorem q1642 : (Jvm.Cond.fieldLink "FigureSurvey" (437 : Nat) "FigureSurvey$Panel" "health" "I") ∈ lw_all := lw_g (lw_at lw_m7 129 rfl) rfl
theorem q1644 : (Jvm.Cond.fieldLink "FigureSurvey" (482 : Nat) "FigureSurvey$Panel" "load" "I") ∈ lw_all := lw_g (lw_at lw_m7 131 rfl) rfl
theorem q1645 : (Jvm.Cond.fieldLink "FigureSurvey" (446 : Nat) "FigureSurvey$Panel" "visitors" "I") ∈ lw_all := lw_g (lw_at lw_m7 132 rfl) rfl
theorem q1673 : (Jvm.Cond.methodLink "FigureSurvey" (173 : Nat) ({ cls := "java/util/ArrayList", name := "add", desc := "(Ljava/lang/Object;)Z" } : Jvm.MethodName)) ∈ lw_all := lw_g (lw_at lw_m7 160 rfl) rfl
theorem q1702 : (Jvm.Cond.instanceMethod ({ cls := "FigureSurvey", name := "setDepth", desc := "(III)I" } : Jvm.MethodName)) ∈ lw_all := lw_g (lw_at lw_m7 189 rfl) rfl
theorem q1703 : (Jvm.Cond.selects "FigureSurvey" ({ cls := "FigureSurvey", name := "setDepth", desc := "(III)I" } : Jvm.MethodName) ({ cls := "FigureSurvey", name := "setDepth", desc := "(III)I" } : Jvm.MethodName)) ∈ lw_all := lw_g (lw_at lw_m7 190 rfl) rfl
theorem q1704 : (Jvm.Cond.code ({ cls := "FigureSurvey", name := "setDepth", desc := "(III)I" } : Jvm.MethodName) prog_1_method_20_code (6 : Nat) (Option.some Jvm.ClassFile.FieldType.int)) ∈ lw_all := lw_g (lw_at lw_m7 191 rfl) rfl
theorem q1705 : (Jvm.Cond.methodLink "FigureSurvey" (177 : Nat) ({ cls := "FigureSurvey", name := "panel", desc := "(I)LFigureSurvey$Panel;" } : Jvm.MethodName)) ∈ lw_all := lw_g (lw_at lw_m7 192 rfl) rfl
theorem q1706 : (Jvm.Cond.privateMethod ({ cls := "FigureSurvey", name := "panel", desc := "(I)LFigureSurvey$Panel;" } : Jvm.MethodName)) ∈ lw_tbl := lw_at lw_m7 193 rfl
theorem q1707 : (Jvm.Cond.instanceMethod ({ cls := "FigureSurvey", name := "panel", desc := "(I)LFigureSurvey$Panel;" } : Jvm.MethodName)) ∈ lw_all := lw_g (lw_at lw_m7 194 rfl) rfl
theorem q1708 : (Jvm.Cond.code ({ cls := "FigureSurvey", name := "panel", desc := "(I)LFigureSurvey$Panel;" } : Jvm.MethodName) prog_1_method_14_code (2 : Nat) (Option.some (Jvm.ClassFile.FieldType.object "FigureSurvey$Panel"))) ∈ lw_all := lw_g (lw_at lw_m7 195 rfl) rfl
theorem q1709 : (Jvm.Cond.methodLink "FigureSurvey" (138 : Nat) ({ cls := "FigureSurvey", name := "there", desc := "(II)I" } : Jvm.MethodName)) ∈ lw_all := lw_g (lw_at lw_m7 196 rfl) rfl
theorem q1710 : (Jvm.Cond.static ({ cls := "FigureSurvey", name := "there", desc := "(II)I" } : Jvm.MethodName)) ∈ lw_all := lw_g (lw_at lw_m7 197 rfl) rfl
theorem q1711 : (Jvm.Cond.code ({ cls := "FigureSurvey", name := "there", desc := "(II)I" } : Jvm.MethodName) prog_1_method_12_code (2 : Nat) (Option.some Jvm.ClassFile.FieldType.int)) ∈ lw_all := lw_g (lw_at lw_m7 198 rfl) rfl
theorem q1712 : (Jvm.Cond.classLink "FigureSurvey" (128 : Nat) "java/lang/IndexOutOfBoundsException") ∈ lw_all := lw_g (lw_at lw_m7 199 rfl) rfl
theorem q1721 : (Jvm.Cond.stringRef "FigureSurvey" (130 : Nat) "no such number") ∈ lw_tbl := lw_at lw_m7 208 rfl
theorem q1722 : (Jvm.Cond.methodLink "FigureSurvey" (132 : Nat) ({ cls := "java/lang/IndexOutOfBoundsException", name := "<init>", desc := "(Ljava/lang/String;)V" } : Jvm.MethodName)) ∈ lw_all := lw_g (lw_at lw_m7 209 rfl) rfl
theorem q1729 : (Jvm.Cond.instanceMethod ({ cls := "FigureSurvey", name := "light", desc := "(II)I" } : Jvm.MethodName)) ∈ lw_all := lw_g (lw_at lw_m7 216 rfl) rfl
theorem q1730 : (Jvm.Cond.selects "FigureSurvey" ({ cls := "FigureSurvey", name := "light", desc := "(II)I" } : Jvm.MethodName) ({ cls := "FigureSurvey", name := "light", desc := "(II)I" } : Jvm.MethodName)) ∈ lw_all := lw_g (lw_at lw_m7 217 rfl) rfl
theorem q1731 : (Jvm.Cond.code ({ cls := "FigureSurvey", name := "light", desc := "(II)I" } : Jvm.MethodName) prog_1_method_21_code (4 : Nat) (Option.some Jvm.ClassFile.FieldType.int)) ∈ lw_all := lw_g (lw_at lw_m7 218 rfl) rfl
theorem q1736 : (Jvm.Cond.instanceMethod ({ cls := "FigureSurvey", name := "seen", desc := "(II)I" } : Jvm.MethodName)) ∈ lw_all := lw_g (lw_at lw_m7 223 rfl) rfl
theorem q1737 : (Jvm.Cond.selects "FigureSurvey" ({ cls := "FigureSurvey", name := "seen", desc := "(II)I" } : Jvm.MethodName) ({ cls := "FigureSurvey", name := "seen", desc := "(II)I" } : Jvm.MethodName)) ∈ lw_all := lw_g (lw_at lw_m7 224 rfl) rfl
theorem q1738 : (Jvm.Cond.code ({ cls := "FigureSurvey", name := "seen", desc := "(II)I" } : Jvm.MethodName) prog_1_method_22_code (4 : Nat) (Option.some Jvm.ClassFile.FieldType.int)) ∈ lw_all := lw_g (lw_at lw_m7 225 rfl) rfl
theorem q1739 : (Jvm.Cond.methodLink "FigureSurvey" (193 : Nat) ({ cls := "FigureSurvey$Panel", name := "seen", desc := "(I)I" } : Jvm.MethodName)) ∈ lw_all := lw_g (lw_at lw_m7 226 rfl) rfl
theorem q1757 : (Jvm.Cond.instanceMethod ({ cls := "FigureSurvey", name := "edges", desc := "(II)J" } : Jvm.MethodName)) ∈ lw_all := lw_g (lw_at lw_m8 4 rfl) rfl
theorem q1758 : (Jvm.Cond.selects "FigureSurvey" ({ cls := "FigureSurvey", name := "edges", desc := "(II)J" } : Jvm.MethodName) ({ cls := "FigureSurvey", name := "edges", desc := "(II)J" } : Jvm.MethodName)) ∈ lw_all := lw_g (lw_at lw_m8 5 rfl) rfl
theorem q1759 : (Jvm.Cond.code ({ cls := "FigureSurvey", name := "edges", desc := "(II)J" } : Jvm.MethodName) prog_1_method_23_code (4 : Nat) (Option.some Jvm.ClassFile.FieldType.long)) ∈ lw_all := lw_g (lw_at lw_m8 6 rfl) rfl
theorem q1760 : (Jvm.Cond.methodLink "FigureSurvey" (196 : Nat) ({ cls := "FigureSurvey$Panel", name := "edges", desc := "(I)J" } : Jvm.MethodName)) ∈ lw_all := lw_g (lw_at lw_m8 7 rfl) rfl
theorem q1769 : (Jvm.Cond.instanceMethod ({ cls := "FigureSurvey", name := "addStroke", desc := "(IJ)I" } : Jvm.MethodName)) ∈ lw_all := lw_g (lw_at lw_m8 16 rfl) rfl
theorem q1770 : (Jvm.Cond.selects "FigureSurvey" ({ cls := "FigureSurvey", name := "addStroke", desc := "(IJ)I" } : Jvm.MethodName) ({ cls := "FigureSurvey", name := "addStroke", desc := "(IJ)I" } : Jvm.MethodName)) ∈ lw_all := lw_g (lw_at lw_m8 17 rfl) rfl
theorem q1771 : (Jvm.Cond.code ({ cls := "FigureSurvey", name := "addStroke", desc := "(IJ)I" } : Jvm.MethodName) prog_1_method_24_code (5 : Nat) (Option.some Jvm.ClassFile.FieldType.int)) ∈ lw_all := lw_g (lw_at lw_m8 18 rfl) rfl
theorem q1772 : (Jvm.Cond.methodLink "FigureSurvey" (200 : Nat) ({ cls := "FigureSurvey", name := "right", desc := "(Z)V" } : Jvm.MethodName)) ∈ lw_all := lw_g (lw_at lw_m8 19 rfl) rfl
theorem q1773 : (Jvm.Cond.static ({ cls := "FigureSurvey", name := "right", desc := "(Z)V" } : Jvm.MethodName)) ∈ lw_all := lw_g (lw_at lw_m8 20 rfl) rfl
theorem q1774 : (Jvm.Cond.code ({ cls := "FigureSurvey", name := "right", desc := "(Z)V" } : Jvm.MethodName) prog_1_method_11_code (1 : Nat) (Option.none : Option Jvm.ClassFile.FieldType)) ∈ lw_all := lw_g (lw_at lw_m8 21 rfl) rfl
theorem q1775 : (Jvm.Cond.stringRef "FigureSurvey" (126 : Nat) "not such a one") ∈ lw_tbl := lw_at lw_m8 22 rfl
theorem q1776 : (Jvm.Cond.classLink "FigureSurvey" (145 : Nat) "FigureSurvey$Stroke") ∈ lw_all := lw_g (lw_at lw_m8 23 rfl) rfl
theorem q1778 : (Jvm.Cond.methodLink "FigureSurvey" (203 : Nat) ({ cls := "FigureSurvey$Stroke", name := "<init>", desc := "(LFigureSurvey$Panel;J)V" } : Jvm.MethodName)) ∈ lw_all := lw_g (lw_at lw_m8 25 rfl) rfl
theorem q1783 : (Jvm.Cond.fieldLink "FigureSurvey" (218 : Nat) "FigureSurvey$Stroke" "panel" "LFigureSurvey$Panel;") ∈ lw_all := lw_g (lw_at lw_m8 30 rfl) rfl
theorem q1785 : (Jvm.Cond.fieldLink "FigureSurvey" (435 : Nat) "FigureSurvey$Stroke" "cells" "J") ∈ lw_all := lw_g (lw_at lw_m8 32 rfl) rfl
theorem q1787 : (Jvm.Cond.fieldLink "FigureSurvey" (241 : Nat) "FigureSurvey$Stroke" "isCast" "Z") ∈ lw_all := lw_g (lw_at lw_m8 34 rfl) rfl
theorem q1799 : (Jvm.Cond.instanceMethod ({ cls := "FigureSurvey", name := "addFigure", desc := "(I)I" } : Jvm.MethodName)) ∈ lw_all := lw_g (lw_at lw_m8 46 rfl) rfl
theorem q1800 : (Jvm.Cond.selects "FigureSurvey" ({ cls := "FigureSurvey", name := "addFigure", desc := "(I)I" } : Jvm.MethodName) ({ cls := "FigureSurvey", name := "addFigure", desc := "(I)I" } : Jvm.MethodName)) ∈ lw_all := lw_g (lw_at lw_m8 47 rfl) rfl
theorem q1801 : (Jvm.Cond.code ({ cls := "FigureSurvey", name := "addFigure", desc := "(I)I" } : Jvm.MethodName) prog_1_method_25_code (3 : Nat) (Option.some Jvm.ClassFile.FieldType.int)) ∈ lw_all := lw_g (lw_at lw_m8 48 rfl) rfl
theorem q1802 : (Jvm.Cond.privateMethod ({ cls := "FigureSurvey", name := "lambda$addFigure$1", desc := "(LFigureSurvey$Panel;I)Z" } : Jvm.MethodName)) ∈ lw_tbl := lw_at lw_m8 49 rfl
theorem q1803 : (Jvm.Cond.instanceMethod ({ cls := "FigureSurvey", name := "lambda$addFigure$1", desc := "(LFigureSurvey$Panel;I)Z" } : Jvm.MethodName)) ∈ lw_all := lw_g (lw_at lw_m8 50 rfl) rfl
theorem q1804 : (Jvm.Cond.code ({ cls := "FigureSurvey", name := "lambda$addFigure$1", desc := "(LFigureSurvey$Panel;I)Z" } : Jvm.MethodName) prog_1_method_84_code (3 : Nat) (Option.some Jvm.ClassFile.FieldType.boolean)) ∈ lw_all := lw_g (lw_at lw_m8 51 rfl) rfl
theorem q1806 : (Jvm.Cond.methodLink "FigureSurvey" (207 : Nat) ({ cls := "FigureSurvey$Figure", name := "<init>", desc := "(ILFigureSurvey$Panel;)V" } : Jvm.MethodName)) ∈ lw_all := lw_g (lw_at lw_m8 53 rfl) rfl
theorem q1813 : (Jvm.Cond.fieldLink "FigureSurvey" (359 : Nat) "FigureSurvey$Figure" "number" "I") ∈ lw_all := lw_g (lw_at lw_m8 60 rfl) rfl
theorem q1817 : (Jvm.Cond.fieldLink "FigureSurvey" (31 : Nat) "FigureSurvey$Figure" "panel" "LFigureSurvey$Panel;") ∈ lw_all := lw_g (lw_at lw_m8 64 rfl) rfl
theorem q1819 : (Jvm.Cond.fieldLink "FigureSurvey" (219 : Nat) "FigureSurvey$Figure" "strokes" "Ljava/util/ArrayList;") ∈ lw_all := lw_g (lw_at lw_m8 66 rfl) rfl
theorem q1821 : (Jvm.Cond.fieldLink "FigureSurvey" (248 : Nat) "FigureSurvey$Figure" "tracings" "Ljava/util/ArrayList;") ∈ lw_all := lw_g (lw_at lw_m8 68 rfl) rfl
theorem q1823 : (Jvm.Cond.fieldLink "FigureSurvey" (413 : Nat) "FigureSurvey$Figure" "names" "Ljava/util/ArrayList;") ∈ lw_all := lw_g (lw_at lw_m8 70 rfl) rfl
theorem q1825 : (Jvm.Cond.fieldLink "FigureSurvey" (277 : Nat) "FigureSurvey$Figure" "points" "I") ∈ lw_all := lw_g (lw_at lw_m8 72 rfl) rfl
theorem q1826 : (Jvm.Cond.fieldLink "FigureSurvey" (392 : Nat) "FigureSurvey$Figure" "features" "I") ∈ lw_all := lw_g (lw_at lw_m8 73 rfl) rfl
theorem q1846 : (Jvm.Cond.instanceMethod ({ cls := "FigureSurvey", name := "setStroke", desc := "(IIZ)I" } : Jvm.MethodName)) ∈ lw_all := lw_g (lw_at lw_m8 93 rfl) rfl
theorem q1847 : (Jvm.Cond.selects "FigureSurvey" ({ cls := "FigureSurvey", name := "setStroke", desc := "(IIZ)I" } : Jvm.MethodName) ({ cls := "FigureSurvey", name := "setStroke", desc := "(IIZ)I" } : Jvm.MethodName)) ∈ lw_all := lw_g (lw_at lw_m8 94 rfl) rfl
theorem q1848 : (Jvm.Cond.code ({ cls := "FigureSurvey", name := "setStroke", desc := "(IIZ)I" } : Jvm.MethodName) prog_1_method_26_code (7 : Nat) (Option.some Jvm.ClassFile.FieldType.int)) ∈ lw_all := lw_g (lw_at lw_m8 95 rfl) rfl
theorem q1849 : (Jvm.Cond.methodLink "FigureSurvey" (210 : Nat) ({ cls := "FigureSurvey", name := "figure", desc := "(I)LFigureSurvey$Figure;" } : Jvm.MethodName)) ∈ lw_all := lw_g (lw_at lw_m8 96 rfl) rfl
theorem q1850 : (Jvm.Cond.privateMethod ({ cls := "FigureSurvey", name := "figure", desc := "(I)LFigureSurvey$Figure;" } : Jvm.MethodName)) ∈ lw_tbl := lw_at lw_m8 97 rfl
theorem q1851 : (Jvm.Cond.instanceMethod ({ cls := "FigureSurvey", name := "figure", desc := "(I)LFigureSurvey$Figure;" } : Jvm.MethodName)) ∈ lw_all := lw_g (lw_at lw_m8 98 rfl) rfl
theorem q1852 : (Jvm.Cond.code ({ cls := "FigureSurvey", name := "figure", desc := "(I)LFigureSurvey$Figure;" } : Jvm.MethodName) prog_1_method_16_code (2 : Nat) (Option.some (Jvm.ClassFile.FieldType.object "FigureSurvey$Figure"))) ∈ lw_all := lw_g (lw_at lw_m8 99 rfl) rfl
theorem q1853 : (Jvm.Cond.methodLink "FigureSurvey" (214 : Nat) ({ cls := "FigureSurvey", name := "stroke", desc := "(I)LFigureSurvey$Stroke;" } : Jvm.MethodName)) ∈ lw_all := lw_g (lw_at lw_m8 100 rfl) rfl
theorem q1854 : (Jvm.Cond.privateMethod ({ cls := "FigureSurvey", name := "stroke", desc := "(I)LFigureSurvey$Stroke;" } : Jvm.MethodName)) ∈ lw_tbl := lw_at lw_m8 101 rfl
theorem q1855 : (Jvm.Cond.instanceMethod ({ cls := "FigureSurvey", name := "stroke", desc := "(I)LFigureSurvey$Stroke;" } : Jvm.MethodName)) ∈ lw_all := lw_g (lw_at lw_m8 102 rfl) rfl
theorem q1856 : (Jvm.Cond.code ({ cls := "FigureSurvey", name := "stroke", desc := "(I)LFigureSurvey$Stroke;" } : Jvm.MethodName) prog_1_method_15_code (2 : Nat) (Option.some (Jvm.ClassFile.FieldType.object "FigureSurvey$Stroke"))) ∈ lw_all := lw_g (lw_at lw_m8 103 rfl) rfl
theorem q1857 : (Jvm.Cond.methodLink "FigureSurvey" (220 : Nat) ({ cls := "java/util/ArrayList", name := "contains", desc := "(Ljava/lang/Object;)Z" } : Jvm.MethodName)) ∈ lw_all := lw_g (lw_at lw_m8 104 rfl) rfl
theorem q1862 : (Jvm.Cond.methodLink "FigureSurvey" (223 : Nat) ({ cls := "java/util/ArrayList", name := "remove", desc := "(Ljava/lang/Object;)Z" } : Jvm.MethodName)) ∈ lw_all := lw_g (lw_at lw_m8 109 rfl) rfl
theorem q1875 : (Jvm.Cond.instanceMethod ({ cls := "FigureSurvey", name := "cellsOf", desc := "(I)J" } : Jvm.MethodName)) ∈ lw_all := lw_g (lw_at lw_m8 122 rfl) rfl
theorem q1876 : (Jvm.Cond.selects "FigureSurvey" ({ cls := "FigureSurvey", name := "cellsOf", desc := "(I)J" } : Jvm.MethodName) ({ cls := "FigureSurvey", name := "cellsOf", desc := "(I)J" } : Jvm.MethodName)) ∈ lw_all := lw_g (lw_at lw_m8 123 rfl) rfl
theorem q1877 : (Jvm.Cond.code ({ cls := "FigureSurvey", name := "cellsOf", desc := "(I)J" } : Jvm.MethodName) prog_1_method_27_code (2 : Nat) (Option.some Jvm.ClassFile.FieldType.long)) ∈ lw_all := lw_g (lw_at lw_m8 124 rfl) rfl
theorem q1878 : (Jvm.Cond.methodLink "FigureSurvey" (226 : Nat) ({ cls := "FigureSurvey$Figure", name := "cells", desc := "()J" } : Jvm.MethodName)) ∈ lw_all := lw_g (lw_at lw_m8 125 rfl) rfl
theorem q1883 : (Jvm.Cond.instanceMethod ({ cls := "FigureSurvey", name := "foundShare", desc := "(I)I" } : Jvm.MethodName)) ∈ lw_all := lw_g (lw_at lw_m8 130 rfl) rfl
theorem q1884 : (Jvm.Cond.selects "FigureSurvey" ({ cls := "FigureSurvey", name := "foundShare", desc := "(I)I" } : Jvm.MethodName) ({ cls := "FigureSurvey", name := "foundShare", desc := "(I)I" } : Jvm.MethodName)) ∈ lw_all := lw_g (lw_at lw_m8 131 rfl) rfl
theorem q1885 : (Jvm.Cond.code ({ cls := "FigureSurvey", name := "foundShare", desc := "(I)I" } : Jvm.MethodName) prog_1_method_28_code (5 : Nat) (Option.some Jvm.ClassFile.FieldType.int)) ∈ lw_all := lw_g (lw_at lw_m8 132 rfl) rfl
theorem q1886 : (Jvm.Cond.methodLink "FigureSurvey" (230 : Nat) ({ cls := "java/lang/Long", name := "bitCount", desc := "(J)I" } : Jvm.MethodName)) ∈ lw_all := lw_g (lw_at lw_m8 133 rfl) rfl
theorem q1891 : (Jvm.Cond.instanceMethod ({ cls := "FigureSurvey", name := "sharedCells", desc := "(II)I" } : Jvm.MethodName)) ∈ lw_all := lw_g (lw_at lw_m8 138 rfl) rfl
theorem q1892 : (Jvm.Cond.selects "FigureSurvey" ({ cls := "FigureSurvey", name := "sharedCells", desc := "(II)I" } : Jvm.MethodName) ({ cls := "FigureSurvey", name := "sharedCells", desc := "(II)I" } : Jvm.MethodName)) ∈ lw_all := lw_g (lw_at lw_m8 139 rfl) rfl
theorem q1893 : (Jvm.Cond.code ({ cls := "FigureSurvey", name := "sharedCells", desc := "(II)I" } : Jvm.MethodName) prog_1_method_29_code (5 : Nat) (Option.some Jvm.ClassFile.FieldType.int)) ∈ lw_all := lw_g (lw_at lw_m8 140 rfl) rfl
theorem q1898 : (Jvm.Cond.instanceMethod ({ cls := "FigureSurvey", name := "harm", desc := "(IJ)I" } : Jvm.MethodName)) ∈ lw_all := lw_g (lw_at lw_m8 145 rfl) rfl
theorem q1899 : (Jvm.Cond.selects "FigureSurvey" ({ cls := "FigureSurvey", name := "harm", desc := "(IJ)I" } : Jvm.MethodName) ({ cls := "FigureSurvey", name := "harm", desc := "(IJ)I" } : Jvm.MethodName)) ∈ lw_all := lw_g (lw_at lw_m8 146 rfl) rfl
theorem q1900 : (Jvm.Cond.code ({ cls := "FigureSurvey", name := "harm", desc := "(IJ)I" } : Jvm.MethodName) prog_1_method_30_code (7 : Nat) (Option.some Jvm.ClassFile.FieldType.int)) ∈ lw_all := lw_g (lw_at lw_m8 147 rfl) rfl
theorem q1901 : (Jvm.Cond.constantLong "FigureSurvey" (239 : Nat) (-1 : Int64)) ∈ lw_all := lw_g (lw_at lw_m8 148 rfl) rfl
theorem q1906 : (Jvm.Cond.instanceMethod ({ cls := "FigureSurvey", name := "cast", desc := "(I)I" } : Jvm.MethodName)) ∈ lw_all := lw_g (lw_at lw_m8 153 rfl) rfl
theorem q1907 : (Jvm.Cond.selects "FigureSurvey" ({ cls := "FigureSurvey", name := "cast", desc := "(I)I" } : Jvm.MethodName) ({ cls := "FigureSurvey", name := "cast", desc := "(I)I" } : Jvm.MethodName)) ∈ lw_all := lw_g (lw_at lw_m8 154 rfl) rfl
theorem q1908 : (Jvm.Cond.code ({ cls := "FigureSurvey", name := "cast", desc := "(I)I" } : Jvm.MethodName) prog_1_method_31_code (6 : Nat) (Option.some Jvm.ClassFile.FieldType.int)) ∈ lw_all := lw_g (lw_at lw_m8 155 rfl) rfl
theorem q1913 : (Jvm.Cond.instanceMethod ({ cls := "FigureSurvey", name := "trace", desc := "(IIJ)I" } : Jvm.MethodName)) ∈ lw_all := lw_g (lw_at lw_m8 160 rfl) rfl
theorem q1914 : (Jvm.Cond.selects "FigureSurvey" ({ cls := "FigureSurvey", name := "trace", desc := "(IIJ)I" } : Jvm.MethodName) ({ cls := "FigureSurvey", name := "trace", desc := "(IIJ)I" } : Jvm.MethodName)) ∈ lw_all := lw_g (lw_at lw_m8 161 rfl) rfl
theorem q1915 : (Jvm.Cond.code ({ cls := "FigureSurvey", name := "trace", desc := "(IIJ)I" } : Jvm.MethodName) prog_1_method_32_code (7 : Nat) (Option.some Jvm.ClassFile.FieldType.int)) ∈ lw_all := lw_g (lw_at lw_m8 162 rfl) rfl
theorem q1916 : (Jvm.Cond.classLink "FigureSurvey" (147 : Nat) "FigureSurvey$Tracing") ∈ lw_all := lw_g (lw_at lw_m8 163 rfl) rfl
theorem q1917 : (Jvm.Cond.methodLink "FigureSurvey" (245 : Nat) ({ cls := "FigureSurvey$Tracing", name := "<init>", desc := "(ILFigureSurvey$Figure;J)V" } : Jvm.MethodName)) ∈ lw_all := lw_g (lw_at lw_m8 164 rfl) rfl
theorem q1922 : (Jvm.Cond.fieldLink "FigureSurvey" (268 : Nat) "FigureSurvey$Tracing" "hand" "I") ∈ lw_all := lw_g (lw_at lw_m8 169 rfl) rfl
theorem q1936 : (Jvm.Cond.instanceMethod ({ cls := "FigureSurvey", name := "shiftOf", desc := "(I)I" } : Jvm.MethodName)) ∈ lw_all := lw_g (lw_at lw_m8 183 rfl) rfl
theorem q1937 : (Jvm.Cond.selects "FigureSurvey" ({ cls := "FigureSurvey", name := "shiftOf", desc := "(I)I" } : Jvm.MethodName) ({ cls := "FigureSurvey", name := "shiftOf", desc := "(I)I" } : Jvm.MethodName)) ∈ lw_all := lw_g (lw_at lw_m8 184 rfl) rfl
theorem q1938 : (Jvm.Cond.code ({ cls := "FigureSurvey", name := "shiftOf", desc := "(I)I" } : Jvm.MethodName) prog_1_method_33_code (3 : Nat) (Option.some Jvm.ClassFile.FieldType.int)) ∈ lw_all := lw_g (lw_at lw_m8 185 rfl) rfl
theorem q1939 : (Jvm.Cond.methodLink "FigureSurvey" (249 : Nat) ({ cls := "FigureSurvey", name := "tracing", desc := "(I)LFigureSurvey$Tracing;" } : Jvm.MethodName)) ∈ lw_all := lw_g (lw_at lw_m8 186 rfl) rfl
theorem q1940 : (Jvm.Cond.privateMethod ({ cls := "FigureSurvey", name := "tracing", desc := "(I)LFigureSurvey$Tracing;" } : Jvm.MethodName)) ∈ lw_tbl := lw_at lw_m8 187 rfl
theorem q1941 : (Jvm.Cond.instanceMethod ({ cls := "FigureSurvey", name := "tracing", desc := "(I)LFigureSurvey$Tracing;" } : Jvm.MethodName)) ∈ lw_all := lw_g (lw_at lw_m8 188 rfl) rfl
theorem q1942 : (Jvm.Cond.code ({ cls := "FigureSurvey", name := "tracing", desc := "(I)LFigureSurvey$Tracing;" } : Jvm.MethodName) prog_1_method_17_code (2 : Nat) (Option.some (Jvm.ClassFile.FieldType.object "FigureSurvey$Tracing"))) ∈ lw_all := lw_g (lw_at lw_m8 189 rfl) rfl
theorem q1943 : (Jvm.Cond.methodLink "FigureSurvey" (253 : Nat) ({ cls := "FigureSurvey$Tracing", name := "best", desc := "()LFigureSurvey$Shift;" } : Jvm.MethodName)) ∈ lw_all := lw_g (lw_at lw_m8 190 rfl) rfl
theorem q1948 : (Jvm.Cond.instanceMethod ({ cls := "FigureSurvey", name := "scoreOf", desc := "(I)I" } : Jvm.MethodName)) ∈ lw_all := lw_g (lw_at lw_m8 195 rfl) rfl
theorem q1949 : (Jvm.Cond.selects "FigureSurvey" ({ cls := "FigureSurvey", name := "scoreOf", desc := "(I)I" } : Jvm.MethodName) ({ cls := "FigureSurvey", name := "scoreOf", desc := "(I)I" } : Jvm.MethodName)) ∈ lw_all := lw_g (lw_at lw_m8 196 rfl) rfl
theorem q1950 : (Jvm.Cond.code ({ cls := "FigureSurvey", name := "scoreOf", desc := "(I)I" } : Jvm.MethodName) prog_1_method_34_code (2 : Nat) (Option.some Jvm.ClassFile.FieldType.int)) ∈ lw_all := lw_g (lw_at lw_m8 197 rfl) rfl
theorem q1951 : (Jvm.Cond.methodLink "FigureSurvey" (265 : Nat) ({ cls := "FigureSurvey$Tracing", name := "score", desc := "()I" } : Jvm.MethodName)) ∈ lw_all := lw_g (lw_at lw_m8 198 rfl) rfl
theorem q1956 : (Jvm.Cond.instanceMethod ({ cls := "FigureSurvey", name := "handScore", desc := "(I)I" } : Jvm.MethodName)) ∈ lw_all := lw_g (lw_at lw_m8 203 rfl) rfl
theorem q1957 : (Jvm.Cond.selects "FigureSurvey" ({ cls := "FigureSurvey", name := "handScore", desc := "(I)I" } : Jvm.MethodName) ({ cls := "FigureSurvey", name := "handScore", desc := "(I)I" } : Jvm.MethodName)) ∈ lw_all := lw_g (lw_at lw_m8 204 rfl) rfl
theorem q1958 : (Jvm.Cond.code ({ cls := "FigureSurvey", name := "handScore", desc := "(I)I" } : Jvm.MethodName) prog_1_method_35_code (5 : Nat) (Option.some Jvm.ClassFile.FieldType.int)) ∈ lw_all := lw_g (lw_at lw_m8 205 rfl) rfl
theorem q1963 : (Jvm.Cond.instanceMethod ({ cls := "FigureSurvey", name := "consensus", desc := "(I)J" } : Jvm.MethodName)) ∈ lw_all := lw_g (lw_at lw_m8 210 rfl) rfl
theorem q1964 : (Jvm.Cond.selects "FigureSurvey" ({ cls := "FigureSurvey", name := "consensus", desc := "(I)J" } : Jvm.MethodName) ({ cls := "FigureSurvey", name := "consensus", desc := "(I)J" } : Jvm.MethodName)) ∈ lw_all := lw_g (lw_at lw_m8 211 rfl) rfl
theorem q1965 : (Jvm.Cond.code ({ cls := "FigureSurvey", name := "consensus", desc := "(I)J" } : Jvm.MethodName) prog_1_method_36_code (8 : Nat) (Option.some Jvm.ClassFile.FieldType.long)) ∈ lw_all := lw_g (lw_at lw_m8 212 rfl) rfl
theorem q1966 : (Jvm.Cond.methodLink "FigureSurvey" (271 : Nat) ({ cls := "FigureSurvey$Tracing", name := "aligned", desc := "()J" } : Jvm.MethodName)) ∈ lw_all := lw_g (lw_at lw_m8 213 rfl) rfl
theorem q1970 : (Jvm.Cond.methodLink "FigureSurvey" (274 : Nat) ({ cls := "FigureSurvey", name := "has", desc := "(JI)Z" } : Jvm.MethodName)) ∈ lw_all := lw_g (lw_at lw_m8 217 rfl) rfl
theorem q1975 : (Jvm.Cond.instanceMethod ({ cls := "FigureSurvey", name := "mark", desc := "(II)I" } : Jvm.MethodName)) ∈ lw_all := lw_g (lw_at lw_m8 222 rfl) rfl
theorem q1976 : (Jvm.Cond.selects "FigureSurvey" ({ cls := "FigureSurvey", name := "mark", desc := "(II)I" } : Jvm.MethodName) ({ cls := "FigureSurvey", name := "mark", desc := "(II)I" } : Jvm.MethodName)) ∈ lw_all := lw_g (lw_at lw_m8 223 rfl) rfl
theorem q1977 : (Jvm.Cond.code ({ cls := "FigureSurvey", name := "mark", desc := "(II)I" } : Jvm.MethodName) prog_1_method_37_code (4 : Nat) (Option.some Jvm.ClassFile.FieldType.int)) ∈ lw_all := lw_g (lw_at lw_m8 224 rfl) rfl
theorem q1978 : (Jvm.Cond.methodLink "FigureSurvey" (280 : Nat) ({ cls := "FigureSurvey$Figure", name := "doubt", desc := "()I" } : Jvm.MethodName)) ∈ lw_all := lw_g (lw_at lw_m8 225 rfl) rfl
theorem q1983 : (Jvm.Cond.instanceMethod ({ cls := "FigureSurvey", name := "clearMarks", desc := "(I)I" } : Jvm.MethodName)) ∈ lw_all := lw_g (lw_at lw_m8 230 rfl) rfl
theorem q1984 : (Jvm.Cond.selects "FigureSurvey" ({ cls := "FigureSurvey", name := "clearMarks", desc := "(I)I" } : Jvm.MethodName) ({ cls := "FigureSurvey", name := "clearMarks", desc := "(I)I" } : Jvm.MethodName)) ∈ lw_all := lw_g (lw_at lw_m8 231 rfl) rfl
theorem q1985 : (Jvm.Cond.code ({ cls := "FigureSurvey", name := "clearMarks", desc := "(I)I" } : Jvm.MethodName) prog_1_method_38_code (4 : Nat) (Option.some Jvm.ClassFile.FieldType.int)) ∈ lw_all := lw_g (lw_at lw_m8 232 rfl) rfl
theorem q1990 : (Jvm.Cond.instanceMethod ({ cls := "FigureSurvey", name := "doubtOf", desc := "(I)I" } : Jvm.MethodName)) ∈ lw_all := lw_g (lw_at lw_m8 237 rfl) rfl
theorem q1991 : (Jvm.Cond.selects "FigureSurvey" ({ cls := "FigureSurvey", name := "doubtOf", desc := "(I)I" } : Jvm.MethodName) ({ cls := "FigureSurvey", name := "doubtOf", desc := "(I)I" } : Jvm.MethodName)) ∈ lw_all := lw_g (lw_at lw_m8 238 rfl) rfl
theorem q1992 : (Jvm.Cond.code ({ cls := "FigureSurvey", name := "doubtOf", desc := "(I)I" } : Jvm.MethodName) prog_1_method_39_code (2 : Nat) (Option.some Jvm.ClassFile.FieldType.int)) ∈ lw_all := lw_g (lw_at lw_m8 239 rfl) rfl
theorem q1997 : (Jvm.Cond.instanceMethod ({ cls := "FigureSurvey", name := "setWeapon", desc := "(II)I" } : Jvm.MethodName)) ∈ lw_all := lw_g (lw_at lw_m9 4 rfl) rfl
theorem q1998 : (Jvm.Cond.selects "FigureSurvey" ({ cls := "FigureSurvey", name := "setWeapon", desc := "(II)I" } : Jvm.MethodName) ({ cls := "FigureSurvey", name := "setWeapon", desc := "(II)I" } : Jvm.MethodName)) ∈ lw_all := lw_g (lw_at lw_m9 5 rfl) rfl
theorem q1999 : (Jvm.Cond.code ({ cls := "FigureSurvey", name := "setWeapon", desc := "(II)I" } : Jvm.MethodName) prog_1_method_40_code (4 : Nat) (Option.some Jvm.ClassFile.FieldType.int)) ∈ lw_all := lw_g (lw_at lw_m9 6 rfl) rfl
theorem q2004 : (Jvm.Cond.instanceMethod ({ cls := "FigureSurvey", name := "setAnimal", desc := "(II)I" } : Jvm.MethodName)) ∈ lw_all := lw_g (lw_at lw_m9 11 rfl) rfl
theorem q2005 : (Jvm.Cond.selects "FigureSurvey" ({ cls := "FigureSurvey", name := "setAnimal", desc := "(II)I" } : Jvm.MethodName) ({ cls := "FigureSurvey", name := "setAnimal", desc := "(II)I" } : Jvm.MethodName)) ∈ lw_all := lw_g (lw_at lw_m9 12 rfl) rfl
theorem q2006 : (Jvm.Cond.code ({ cls := "FigureSurvey", name := "setAnimal", desc := "(II)I" } : Jvm.MethodName) prog_1_method_41_code (4 : Nat) (Option.some Jvm.ClassFile.FieldType.int)) ∈ lw_all := lw_g (lw_at lw_m9 13 rfl) rfl
theorem q2011 : (Jvm.Cond.instanceMethod ({ cls := "FigureSurvey", name := "findOver", desc := "(III)I" } : Jvm.MethodName)) ∈ lw_all := lw_g (lw_at lw_m9 18 rfl) rfl
theorem q2012 : (Jvm.Cond.selects "FigureSurvey" ({ cls := "FigureSurvey", name := "findOver", desc := "(III)I" } : Jvm.MethodName) ({ cls := "FigureSurvey", name := "findOver", desc := "(III)I" } : Jvm.MethodName)) ∈ lw_all := lw_g (lw_at lw_m9 19 rfl) rfl
theorem q2013 : (Jvm.Cond.code ({ cls := "FigureSurvey", name := "findOver", desc := "(III)I" } : Jvm.MethodName) prog_1_method_44_code (6 : Nat) (Option.some Jvm.ClassFile.FieldType.int)) ∈ lw_all := lw_g (lw_at lw_m9 20 rfl) rfl
theorem q2014 : (Jvm.Cond.methodLink "FigureSurvey" (319 : Nat) ({ cls := "FigureSurvey", name := "findingsOf", desc := "(LFigureSurvey$Panel;I)I" } : Jvm.MethodName)) ∈ lw_all := lw_g (lw_at lw_m9 21 rfl) rfl
theorem q2015 : (Jvm.Cond.privateMethod ({ cls := "FigureSurvey", name := "findingsOf", desc := "(LFigureSurvey$Panel;I)I" } : Jvm.MethodName)) ∈ lw_tbl := lw_at lw_m9 22 rfl
theorem q2016 : (Jvm.Cond.instanceMethod ({ cls := "FigureSurvey", name := "findingsOf", desc := "(LFigureSurvey$Panel;I)I" } : Jvm.MethodName)) ∈ lw_all := lw_g (lw_at lw_m9 23 rfl) rfl
theorem q2017 : (Jvm.Cond.code ({ cls := "FigureSurvey", name := "findingsOf", desc := "(LFigureSurvey$Panel;I)I" } : Jvm.MethodName) prog_1_method_42_code (6 : Nat) (Option.some Jvm.ClassFile.FieldType.int)) ∈ lw_all := lw_g (lw_at lw_m9 24 rfl) rfl
theorem q2018 : (Jvm.Cond.methodLink "FigureSurvey" (303 : Nat) ({ cls := "FigureSurvey$Finding", name := "isOf", desc := "(LFigureSurvey$Panel;)Z" } : Jvm.MethodName)) ∈ lw_all := lw_g (lw_at lw_m9 25 rfl) rfl
theorem q2020 : (Jvm.Cond.methodLink "FigureSurvey" (323 : Nat) ({ cls := "FigureSurvey$Finding", name := "<init>", desc := "(LFigureSurvey;ILFigureSurvey$Figure;LFigureSurvey$Figure;II)V" } : Jvm.MethodName)) ∈ lw_all := lw_g (lw_at lw_m9 27 rfl) rfl
theorem q2026 : (Jvm.Cond.fieldLink "FigureSurvey" (309 : Nat) "FigureSurvey$Finding" "number" "I") ∈ lw_all := lw_g (lw_at lw_m9 33 rfl) rfl
theorem q2029 : (Jvm.Cond.fieldLink "FigureSurvey" (306 : Nat) "FigureSurvey$Finding" "kind" "I") ∈ lw_all := lw_g (lw_at lw_m9 36 rfl) rfl
theorem q2032 : (Jvm.Cond.fieldLink "FigureSurvey" (339 : Nat) "FigureSurvey$Finding" "figure" "LFigureSurvey$Figure;") ∈ lw_all := lw_g (lw_at lw_m9 39 rfl) rfl
theorem q2038 : (Jvm.Cond.fieldLink "FigureSurvey" (336 : Nat) "FigureSurvey$Finding" "weight" "I") ∈ lw_all := lw_g (lw_at lw_m9 45 rfl) rfl
theorem q2055 : (Jvm.Cond.methodLink "FigureSurvey" (326 : Nat) ({ cls := "FigureSurvey", name := "tell", desc := "(LFigureSurvey$Finding;)I" } : Jvm.MethodName)) ∈ lw_all := lw_g (lw_at lw_m9 62 rfl) rfl
theorem q2056 : (Jvm.Cond.privateMethod ({ cls := "FigureSurvey", name := "tell", desc := "(LFigureSurvey$Finding;)I" } : Jvm.MethodName)) ∈ lw_tbl := lw_at lw_m9 63 rfl
theorem q2057 : (Jvm.Cond.instanceMethod ({ cls := "FigureSurvey", name := "tell", desc := "(LFigureSurvey$Finding;)I" } : Jvm.MethodName)) ∈ lw_all := lw_g (lw_at lw_m9 64 rfl) rfl
theorem q2058 : (Jvm.Cond.code ({ cls := "FigureSurvey", name := "tell", desc := "(LFigureSurvey$Finding;)I" } : Jvm.MethodName) prog_1_method_43_code (3 : Nat) (Option.some Jvm.ClassFile.FieldType.int)) ∈ lw_all := lw_g (lw_at lw_m9 65 rfl) rfl
theorem q2059 : (Jvm.Cond.methodLink "FigureSurvey" (149 : Nat) ({ cls := "java/lang/Integer", name := "valueOf", desc := "(I)Ljava/lang/Integer;" } : Jvm.MethodName)) ∈ lw_all := lw_g (lw_at lw_m9 66 rfl) rfl
theorem q2078 : (Jvm.Cond.methodLink "FigureSurvey" (312 : Nat) ({ cls := "java/util/TreeMap", name := "put", desc := "(Ljava/lang/Object;Ljava/lang/Object;)Ljava/lang/Object;" } : Jvm.MethodName)) ∈ lw_all := lw_g (lw_at lw_m9 85 rfl) rfl
theorem q2083 : (Jvm.Cond.instanceMethod ({ cls := "FigureSurvey", name := "findDate", desc := "(IIII)I" } : Jvm.MethodName)) ∈ lw_all := lw_g (lw_at lw_m9 90 rfl) rfl
theorem q2084 : (Jvm.Cond.selects "FigureSurvey" ({ cls := "FigureSurvey", name := "findDate", desc := "(IIII)I" } : Jvm.MethodName) ({ cls := "FigureSurvey", name := "findDate", desc := "(IIII)I" } : Jvm.MethodName)) ∈ lw_all := lw_g (lw_at lw_m9 91 rfl) rfl
theorem q2085 : (Jvm.Cond.code ({ cls := "FigureSurvey", name := "findDate", desc := "(IIII)I" } : Jvm.MethodName) prog_1_method_45_code (6 : Nat) (Option.some Jvm.ClassFile.FieldType.int)) ∈ lw_all := lw_g (lw_at lw_m9 92 rfl) rfl
theorem q2090 : (Jvm.Cond.instanceMethod ({ cls := "FigureSurvey", name := "remove", desc := "(I)I" } : Jvm.MethodName)) ∈ lw_all := lw_g (lw_at lw_m9 97 rfl) rfl
theorem q2091 : (Jvm.Cond.selects "FigureSurvey" ({ cls := "FigureSurvey", name := "remove", desc := "(I)I" } : Jvm.MethodName) ({ cls := "FigureSurvey", name := "remove", desc := "(I)I" } : Jvm.MethodName)) ∈ lw_all := lw_g (lw_at lw_m9 98 rfl) rfl
theorem q2092 : (Jvm.Cond.code ({ cls := "FigureSurvey", name := "remove", desc := "(I)I" } : Jvm.MethodName) prog_1_method_46_code (4 : Nat) (Option.some Jvm.ClassFile.FieldType.int)) ∈ lw_all := lw_g (lw_at lw_m9 99 rfl) rfl
theorem q2093 : (Jvm.Cond.methodLink "FigureSurvey" (330 : Nat) ({ cls := "FigureSurvey", name := "finding", desc := "(I)LFigureSurvey$Finding;" } : Jvm.MethodName)) ∈ lw_all := lw_g (lw_at lw_m9 100 rfl) rfl
theorem q2094 : (Jvm.Cond.privateMethod ({ cls := "FigureSurvey", name := "finding", desc := "(I)LFigureSurvey$Finding;" } : Jvm.MethodName)) ∈ lw_tbl := lw_at lw_m9 101 rfl
theorem q2095 : (Jvm.Cond.instanceMethod ({ cls := "FigureSurvey", name := "finding", desc := "(I)LFigureSurvey$Finding;" } : Jvm.MethodName)) ∈ lw_all := lw_g (lw_at lw_m9 102 rfl) rfl
theorem q2096 : (Jvm.Cond.code ({ cls := "FigureSurvey", name := "finding", desc := "(I)LFigureSurvey$Finding;" } : Jvm.MethodName) prog_1_method_18_code (3 : Nat) (Option.some (Jvm.ClassFile.FieldType.object "FigureSurvey$Finding"))) ∈ lw_all := lw_g (lw_at lw_m9 103 rfl) rfl
theorem q2097 : (Jvm.Cond.methodLink "FigureSurvey" (155 : Nat) ({ cls := "java/util/TreeMap", name := "get", desc := "(Ljava/lang/Object;)Ljava/lang/Object;" } : Jvm.MethodName)) ∈ lw_all := lw_g (lw_at lw_m9 104 rfl) rfl
theorem q2109 : (Jvm.Cond.stringRef "FigureSurvey" (160 : Nat) "no such finding") ∈ lw_tbl := lw_at lw_m9 116 rfl
theorem q2110 : (Jvm.Cond.methodLink "FigureSurvey" (334 : Nat) ({ cls := "java/util/TreeMap", name := "remove", desc := "(Ljava/lang/Object;)Ljava/lang/Object;" } : Jvm.MethodName)) ∈ lw_all := lw_g (lw_at lw_m9 117 rfl) rfl
theorem q2127 : (Jvm.Cond.instanceMethod ({ cls := "FigureSurvey", name := "standOf", desc := "(I)I" } : Jvm.MethodName)) ∈ lw_all := lw_g (lw_at lw_m9 134 rfl) rfl
theorem q2128 : (Jvm.Cond.selects "FigureSurvey" ({ cls := "FigureSurvey", name := "standOf", desc := "(I)I" } : Jvm.MethodName) ({ cls := "FigureSurvey", name := "standOf", desc := "(I)I" } : Jvm.MethodName)) ∈ lw_all := lw_g (lw_at lw_m9 135 rfl) rfl
theorem q2129 : (Jvm.Cond.code ({ cls := "FigureSurvey", name := "standOf", desc := "(I)I" } : Jvm.MethodName) prog_1_method_47_code (4 : Nat) (Option.some Jvm.ClassFile.FieldType.int)) ∈ lw_all := lw_g (lw_at lw_m9 136 rfl) rfl
theorem q2130 : (Jvm.Cond.methodLink "FigureSurvey" (342 : Nat) ({ cls := "FigureSurvey", name := "scene", desc := "(LFigureSurvey$Figure;)LFigureSurvey$Scene;" } : Jvm.MethodName)) ∈ lw_all := lw_g (lw_at lw_m9 137 rfl) rfl
theorem q2131 : (Jvm.Cond.privateMethod ({ cls := "FigureSurvey", name := "scene", desc := "(LFigureSurvey$Figure;)LFigureSurvey$Scene;" } : Jvm.MethodName)) ∈ lw_tbl := lw_at lw_m9 138 rfl
theorem q2132 : (Jvm.Cond.instanceMethod ({ cls := "FigureSurvey", name := "scene", desc := "(LFigureSurvey$Figure;)LFigureSurvey$Scene;" } : Jvm.MethodName)) ∈ lw_all := lw_g (lw_at lw_m9 139 rfl) rfl
theorem q2133 : (Jvm.Cond.code ({ cls := "FigureSurvey", name := "scene", desc := "(LFigureSurvey$Figure;)LFigureSurvey$Scene;" } : Jvm.MethodName) prog_1_method_5_code (2 : Nat) (Option.some (Jvm.ClassFile.FieldType.object "FigureSurvey$Scene"))) ∈ lw_all := lw_g (lw_at lw_m9 140 rfl) rfl
theorem q2138 : (Jvm.Cond.instanceMethod ({ cls := "FigureSurvey", name := "orderAt", desc := "(II)I" } : Jvm.MethodName)) ∈ lw_all := lw_g (lw_at lw_m9 145 rfl) rfl
theorem q2139 : (Jvm.Cond.selects "FigureSurvey" ({ cls := "FigureSurvey", name := "orderAt", desc := "(II)I" } : Jvm.MethodName) ({ cls := "FigureSurvey", name := "orderAt", desc := "(II)I" } : Jvm.MethodName)) ∈ lw_all := lw_g (lw_at lw_m9 146 rfl) rfl
theorem q2140 : (Jvm.Cond.code ({ cls := "FigureSurvey", name := "orderAt", desc := "(II)I" } : Jvm.MethodName) prog_1_method_48_code (4 : Nat) (Option.some Jvm.ClassFile.FieldType.int)) ∈ lw_all := lw_g (lw_at lw_m9 147 rfl) rfl
theorem q2145 : (Jvm.Cond.instanceMethod ({ cls := "FigureSurvey", name := "brokenWeight", desc := "(I)I" } : Jvm.MethodName)) ∈ lw_all := lw_g (lw_at lw_m9 152 rfl) rfl
theorem q2146 : (Jvm.Cond.selects "FigureSurvey" ({ cls := "FigureSurvey", name := "brokenWeight", desc := "(I)I" } : Jvm.MethodName) ({ cls := "FigureSurvey", name := "brokenWeight", desc := "(I)I" } : Jvm.MethodName)) ∈ lw_all := lw_g (lw_at lw_m9 153 rfl) rfl
theorem q2147 : (Jvm.Cond.code ({ cls := "FigureSurvey", name := "brokenWeight", desc := "(I)I" } : Jvm.MethodName) prog_1_method_49_code (2 : Nat) (Option.some Jvm.ClassFile.FieldType.int)) ∈ lw_all := lw_g (lw_at lw_m9 154 rfl) rfl
theorem q2148 : (Jvm.Cond.methodLink "FigureSurvey" (360 : Nat) ({ cls := "FigureSurvey$Scene", name := "brokenWeight", desc := "()I" } : Jvm.MethodName)) ∈ lw_all := lw_g (lw_at lw_m9 155 rfl) rfl
theorem q2153 : (Jvm.Cond.instanceMethod ({ cls := "FigureSurvey", name := "isAbove", desc := "(II)Z" } : Jvm.MethodName)) ∈ lw_all := lw_g (lw_at lw_m9 160 rfl) rfl
theorem q2154 : (Jvm.Cond.selects "FigureSurvey" ({ cls := "FigureSurvey", name := "isAbove", desc := "(II)Z" } : Jvm.MethodName) ({ cls := "FigureSurvey", name := "isAbove", desc := "(II)Z" } : Jvm.MethodName)) ∈ lw_all := lw_g (lw_at lw_m9 161 rfl) rfl
theorem q2155 : (Jvm.Cond.code ({ cls := "FigureSurvey", name := "isAbove", desc := "(II)Z" } : Jvm.MethodName) prog_1_method_50_code (8 : Nat) (Option.some Jvm.ClassFile.FieldType.boolean)) ∈ lw_all := lw_g (lw_at lw_m9 162 rfl) rfl
theorem q2156 : (Jvm.Cond.methodLink "FigureSurvey" (363 : Nat) ({ cls := "FigureSurvey$Scene", name := "index", desc := "(LFigureSurvey$Figure;)I" } : Jvm.MethodName)) ∈ lw_all := lw_g (lw_at lw_m9 163 rfl) rfl
theorem q2161 : (Jvm.Cond.instanceMethod ({ cls := "FigureSurvey", name := "earliest", desc := "(I)I" } : Jvm.MethodName)) ∈ lw_all := lw_g (lw_at lw_m9 168 rfl) rfl
theorem q2162 : (Jvm.Cond.selects "FigureSurvey" ({ cls := "FigureSurvey", name := "earliest", desc := "(I)I" } : Jvm.MethodName) ({ cls := "FigureSurvey", name := "earliest", desc := "(I)I" } : Jvm.MethodName)) ∈ lw_all := lw_g (lw_at lw_m9 169 rfl) rfl
theorem q2163 : (Jvm.Cond.code ({ cls := "FigureSurvey", name := "earliest", desc := "(I)I" } : Jvm.MethodName) prog_1_method_51_code (3 : Nat) (Option.some Jvm.ClassFile.FieldType.int)) ∈ lw_all := lw_g (lw_at lw_m9 170 rfl) rfl
theorem q2168 : (Jvm.Cond.instanceMethod ({ cls := "FigureSurvey", name := "latest", desc := "(I)I" } : Jvm.MethodName)) ∈ lw_all := lw_g (lw_at lw_m9 175 rfl) rfl
theorem q2169 : (Jvm.Cond.selects "FigureSurvey" ({ cls := "FigureSurvey", name := "latest", desc := "(I)I" } : Jvm.MethodName) ({ cls := "FigureSurvey", name := "latest", desc := "(I)I" } : Jvm.MethodName)) ∈ lw_all := lw_g (lw_at lw_m9 176 rfl) rfl
theorem q2170 : (Jvm.Cond.code ({ cls := "FigureSurvey", name := "latest", desc := "(I)I" } : Jvm.MethodName) prog_1_method_52_code (3 : Nat) (Option.some Jvm.ClassFile.FieldType.int)) ∈ lw_all := lw_g (lw_at lw_m9 177 rfl) rfl
theorem q2175 : (Jvm.Cond.instanceMethod ({ cls := "FigureSurvey", name := "reasonFor", desc := "(IZ)I" } : Jvm.MethodName)) ∈ lw_all := lw_g (lw_at lw_m9 182 rfl) rfl
theorem q2176 : (Jvm.Cond.selects "FigureSurvey" ({ cls := "FigureSurvey", name := "reasonFor", desc := "(IZ)I" } : Jvm.MethodName) ({ cls := "FigureSurvey", name := "reasonFor", desc := "(IZ)I" } : Jvm.MethodName)) ∈ lw_all := lw_g (lw_at lw_m9 183 rfl) rfl
theorem q2177 : (Jvm.Cond.code ({ cls := "FigureSurvey", name := "reasonFor", desc := "(IZ)I" } : Jvm.MethodName) prog_1_method_53_code (5 : Nat) (Option.some Jvm.ClassFile.FieldType.int)) ∈ lw_all := lw_g (lw_at lw_m9 184 rfl) rfl
theorem q2178 : (Jvm.Cond.methodLink "FigureSurvey" (374 : Nat) ({ cls := "FigureSurvey$Scene", name := "bound", desc := "(LFigureSurvey$Figure;Z)LFigureSurvey$Bound;" } : Jvm.MethodName)) ∈ lw_all := lw_g (lw_at lw_m9 185 rfl) rfl
theorem q2183 : (Jvm.Cond.instanceMethod ({ cls := "FigureSurvey", name := "setFeatures", desc := "(II)I" } : Jvm.MethodName)) ∈ lw_all := lw_g (lw_at lw_m9 190 rfl) rfl
theorem q2184 : (Jvm.Cond.selects "FigureSurvey" ({ cls := "FigureSurvey", name := "setFeatures", desc := "(II)I" } : Jvm.MethodName) ({ cls := "FigureSurvey", name := "setFeatures", desc := "(II)I" } : Jvm.MethodName)) ∈ lw_all := lw_g (lw_at lw_m9 191 rfl) rfl
theorem q2185 : (Jvm.Cond.code ({ cls := "FigureSurvey", name := "setFeatures", desc := "(II)I" } : Jvm.MethodName) prog_1_method_56_code (4 : Nat) (Option.some Jvm.ClassFile.FieldType.int)) ∈ lw_all := lw_g (lw_at lw_m9 192 rfl) rfl
theorem q2186 : (Jvm.Cond.constant "FigureSurvey" (391 : Nat) (999999 : Int32)) ∈ lw_all := lw_g (lw_at lw_m9 193 rfl) rfl
theorem q2187 : (Jvm.Cond.methodLink "FigureSurvey" (395 : Nat) ({ cls := "FigureSurvey", name := "style", desc := "(I)I" } : Jvm.MethodName)) ∈ lw_all := lw_g (lw_at lw_m9 194 rfl) rfl
theorem q2188 : (Jvm.Cond.privateMethod ({ cls := "FigureSurvey", name := "style", desc := "(I)I" } : Jvm.MethodName)) ∈ lw_tbl := lw_at lw_m9 195 rfl
theorem q2189 : (Jvm.Cond.instanceMethod ({ cls := "FigureSurvey", name := "style", desc := "(I)I" } : Jvm.MethodName)) ∈ lw_all := lw_g (lw_at lw_m9 196 rfl) rfl
theorem q2190 : (Jvm.Cond.code ({ cls := "FigureSurvey", name := "style", desc := "(I)I" } : Jvm.MethodName) prog_1_method_55_code (5 : Nat) (Option.some Jvm.ClassFile.FieldType.int)) ∈ lw_all := lw_g (lw_at lw_m9 197 rfl) rfl
theorem q2191 : (Jvm.Cond.classLink "FigureSurvey" (150 : Nat) "java/lang/Integer") ∈ lw_all := lw_g (lw_at lw_m9 198 rfl) rfl
theorem q2192 : (Jvm.Cond.methodLink "FigureSurvey" (385 : Nat) ({ cls := "java/lang/Integer", name := "intValue", desc := "()I" } : Jvm.MethodName)) ∈ lw_all := lw_g (lw_at lw_m9 199 rfl) rfl
theorem q2193 : (Jvm.Cond.methodLink "FigureSurvey" (388 : Nat) ({ cls := "FigureSurvey", name := "distance", desc := "(II)I" } : Jvm.MethodName)) ∈ lw_all := lw_g (lw_at lw_m9 200 rfl) rfl
theorem q2194 : (Jvm.Cond.static ({ cls := "FigureSurvey", name := "distance", desc := "(II)I" } : Jvm.MethodName)) ∈ lw_all := lw_g (lw_at lw_m9 201 rfl) rfl
theorem q2195 : (Jvm.Cond.code ({ cls := "FigureSurvey", name := "distance", desc := "(II)I" } : Jvm.MethodName) prog_1_method_54_code (6 : Nat) (Option.some Jvm.ClassFile.FieldType.int)) ∈ lw_all := lw_g (lw_at lw_m9 202 rfl) rfl
theorem q2196 : (Jvm.Cond.methodLink "FigureSurvey" (382 : Nat) ({ cls := "java/lang/Math", name := "abs", desc := "(I)I" } : Jvm.MethodName)) ∈ lw_all := lw_g (lw_at lw_m9 203 rfl) rfl
theorem q2201 : (Jvm.Cond.instanceMethod ({ cls := "FigureSurvey", name := "addStyle", desc := "(I)I" } : Jvm.MethodName)) ∈ lw_all := lw_g (lw_at lw_m9 208 rfl) rfl
theorem q2202 : (Jvm.Cond.selects "FigureSurvey" ({ cls := "FigureSurvey", name := "addStyle", desc := "(I)I" } : Jvm.MethodName) ({ cls := "FigureSurvey", name := "addStyle", desc := "(I)I" } : Jvm.MethodName)) ∈ lw_all := lw_g (lw_at lw_m9 209 rfl) rfl
theorem q2203 : (Jvm.Cond.code ({ cls := "FigureSurvey", name := "addStyle", desc := "(I)I" } : Jvm.MethodName) prog_1_method_57_code (2 : Nat) (Option.some Jvm.ClassFile.FieldType.int)) ∈ lw_all := lw_g (lw_at lw_m9 210 rfl) rfl
theorem q2208 : (Jvm.Cond.instanceMethod ({ cls := "FigureSurvey", name := "styleOf", desc := "(I)I" } : Jvm.MethodName)) ∈ lw_all := lw_g (lw_at lw_m9 215 rfl) rfl
theorem q2209 : (Jvm.Cond.selects "FigureSurvey" ({ cls := "FigureSurvey", name := "styleOf", desc := "(I)I" } : Jvm.MethodName) ({ cls := "FigureSurvey", name := "styleOf", desc := "(I)I" } : Jvm.MethodName)) ∈ lw_all := lw_g (lw_at lw_m9 216 rfl) rfl
theorem q2210 : (Jvm.Cond.code ({ cls := "FigureSurvey", name := "styleOf", desc := "(I)I" } : Jvm.MethodName) prog_1_method_58_code (2 : Nat) (Option.some Jvm.ClassFile.FieldType.int)) ∈ lw_all := lw_g (lw_at lw_m9 217 rfl) rfl
theorem q2215 : (Jvm.Cond.instanceMethod ({ cls := "FigureSurvey", name := "addEntry", desc := "(II)I" } : Jvm.MethodName)) ∈ lw_all := lw_g (lw_at lw_m9 222 rfl) rfl
theorem q2216 : (Jvm.Cond.selects "FigureSurvey" ({ cls := "FigureSurvey", name := "addEntry", desc := "(II)I" } : Jvm.MethodName) ({ cls := "FigureSurvey", name := "addEntry", desc := "(II)I" } : Jvm.MethodName)) ∈ lw_all := lw_g (lw_at lw_m9 223 rfl) rfl
theorem q2217 : (Jvm.Cond.code ({ cls := "FigureSurvey", name := "addEntry", desc := "(II)I" } : Jvm.MethodName) prog_1_method_59_code (4 : Nat) (Option.some Jvm.ClassFile.FieldType.int)) ∈ lw_all := lw_g (lw_at lw_m9 224 rfl) rfl
theorem q2218 : (Jvm.Cond.privateMethod ({ cls := "FigureSurvey", name := "lambda$addEntry$2", desc := "(LFigureSurvey$Panel;I)Z" } : Jvm.MethodName)) ∈ lw_tbl := lw_at lw_m9 225 rfl
theorem q2219 : (Jvm.Cond.instanceMethod ({ cls := "FigureSurvey", name := "lambda$addEntry$2", desc := "(LFigureSurvey$Panel;I)Z" } : Jvm.MethodName)) ∈ lw_all := lw_g (lw_at lw_m9 226 rfl) rfl
theorem q2220 : (Jvm.Cond.code ({ cls := "FigureSurvey", name := "lambda$addEntry$2", desc := "(LFigureSurvey$Panel;I)Z" } : Jvm.MethodName) prog_1_method_83_code (3 : Nat) (Option.some Jvm.ClassFile.FieldType.boolean)) ∈ lw_all := lw_g (lw_at lw_m9 227 rfl) rfl
theorem q2221 : (Jvm.Cond.classLink "FigureSurvey" (399 : Nat) "FigureSurvey$Entry") ∈ lw_all := lw_g (lw_at lw_m9 228 rfl) rfl
theorem q2223 : (Jvm.Cond.methodLink "FigureSurvey" (401 : Nat) ({ cls := "FigureSurvey$Entry", name := "<init>", desc := "(LFigureSurvey$Panel;I)V" } : Jvm.MethodName)) ∈ lw_all := lw_g (lw_at lw_m9 230 rfl) rfl
theorem q2228 : (Jvm.Cond.fieldLink "FigureSurvey" (405 : Nat) "FigureSurvey$Entry" "panel" "LFigureSurvey$Panel;") ∈ lw_all := lw_g (lw_at lw_m9 235 rfl) rfl
theorem q2230 : (Jvm.Cond.fieldLink "FigureSurvey" (404 : Nat) "FigureSurvey$Entry" "features" "I") ∈ lw_all := lw_g (lw_at lw_m9 237 rfl) rfl
theorem q2240 : (Jvm.Cond.instanceMethod ({ cls := "FigureSurvey", name := "figureFor", desc := "(I)I" } : Jvm.MethodName)) ∈ lw_all := lw_g (lw_at lw_m10 7 rfl) rfl
theorem q2241 : (Jvm.Cond.selects "FigureSurvey" ({ cls := "FigureSurvey", name := "figureFor", desc := "(I)I" } : Jvm.MethodName) ({ cls := "FigureSurvey", name := "figureFor", desc := "(I)I" } : Jvm.MethodName)) ∈ lw_all := lw_g (lw_at lw_m10 8 rfl) rfl
theorem q2242 : (Jvm.Cond.code ({ cls := "FigureSurvey", name := "figureFor", desc := "(I)I" } : Jvm.MethodName) prog_1_method_61_code (8 : Nat) (Option.some Jvm.ClassFile.FieldType.int)) ∈ lw_all := lw_g (lw_at lw_m10 9 rfl) rfl
theorem q2243 : (Jvm.Cond.methodLink "FigureSurvey" (406 : Nat) ({ cls := "FigureSurvey", name := "findMatches", desc := "(Ljava/util/ArrayList;Ljava/util/ArrayList;)V" } : Jvm.MethodName)) ∈ lw_all := lw_g (lw_at lw_m10 10 rfl) rfl
theorem q2244 : (Jvm.Cond.privateMethod ({ cls := "FigureSurvey", name := "findMatches", desc := "(Ljava/util/ArrayList;Ljava/util/ArrayList;)V" } : Jvm.MethodName)) ∈ lw_tbl := lw_at lw_m10 11 rfl
theorem q2245 : (Jvm.Cond.instanceMethod ({ cls := "FigureSurvey", name := "findMatches", desc := "(Ljava/util/ArrayList;Ljava/util/ArrayList;)V" } : Jvm.MethodName)) ∈ lw_all := lw_g (lw_at lw_m10 12 rfl) rfl
theorem q2246 : (Jvm.Cond.code ({ cls := "FigureSurvey", name := "findMatches", desc := "(Ljava/util/ArrayList;Ljava/util/ArrayList;)V" } : Jvm.MethodName) prog_1_method_60_code (8 : Nat) (Option.none : Option Jvm.ClassFile.FieldType)) ∈ lw_all := lw_g (lw_at lw_m10 13 rfl) rfl
theorem q2251 : (Jvm.Cond.instanceMethod ({ cls := "FigureSurvey", name := "tellName", desc := "(IIII)I" } : Jvm.MethodName)) ∈ lw_all := lw_g (lw_at lw_m10 18 rfl) rfl
theorem q2252 : (Jvm.Cond.selects "FigureSurvey" ({ cls := "FigureSurvey", name := "tellName", desc := "(IIII)I" } : Jvm.MethodName) ({ cls := "FigureSurvey", name := "tellName", desc := "(IIII)I" } : Jvm.MethodName)) ∈ lw_all := lw_g (lw_at lw_m10 19 rfl) rfl
theorem q2253 : (Jvm.Cond.code ({ cls := "FigureSurvey", name := "tellName", desc := "(IIII)I" } : Jvm.MethodName) prog_1_method_62_code (6 : Nat) (Option.some Jvm.ClassFile.FieldType.int)) ∈ lw_all := lw_g (lw_at lw_m10 20 rfl) rfl
theorem q2254 : (Jvm.Cond.classLink "FigureSurvey" (415 : Nat) "FigureSurvey$Name") ∈ lw_all := lw_g (lw_at lw_m10 21 rfl) rfl
theorem q2256 : (Jvm.Cond.methodLinkNest "FigureSurvey" (417 : Nat) ({ cls := "FigureSurvey$Name", name := "<init>", desc := "(III)V" } : Jvm.MethodName) "FigureSurvey") ∈ lw_tbl := lw_at lw_m10 23 rfl
theorem q2277 : (Jvm.Cond.instanceMethod ({ cls := "FigureSurvey", name := "nameFor", desc := "(III)I" } : Jvm.MethodName)) ∈ lw_all := lw_g (lw_at lw_m10 44 rfl) rfl
theorem q2278 : (Jvm.Cond.selects "FigureSurvey" ({ cls := "FigureSurvey", name := "nameFor", desc := "(III)I" } : Jvm.MethodName) ({ cls := "FigureSurvey", name := "nameFor", desc := "(III)I" } : Jvm.MethodName)) ∈ lw_all := lw_g (lw_at lw_m10 45 rfl) rfl
theorem q2279 : (Jvm.Cond.code ({ cls := "FigureSurvey", name := "nameFor", desc := "(III)I" } : Jvm.MethodName) prog_1_method_63_code (7 : Nat) (Option.some Jvm.ClassFile.FieldType.int)) ∈ lw_all := lw_g (lw_at lw_m10 46 rfl) rfl
theorem q2280 : (Jvm.Cond.methodLink "FigureSurvey" (420 : Nat) ({ cls := "FigureSurvey$Name", name := "kins", desc := "()I" } : Jvm.MethodName)) ∈ lw_all := lw_g (lw_at lw_m10 47 rfl) rfl
theorem q2284 : (Jvm.Cond.methodLink "FigureSurvey" (423 : Nat) ({ cls := "FigureSurvey$Name", name := "seasons", desc := "()I" } : Jvm.MethodName)) ∈ lw_all := lw_g (lw_at lw_m10 51 rfl) rfl
theorem q2288 : (Jvm.Cond.methodLink "FigureSurvey" (426 : Nat) ({ cls := "FigureSurvey$Name", name := "name", desc := "()I" } : Jvm.MethodName)) ∈ lw_all := lw_g (lw_at lw_m10 55 rfl) rfl
theorem q2296 : (Jvm.Cond.instanceMethod ({ cls := "FigureSurvey", name := "setRight", desc := "(IIZ)Z" } : Jvm.MethodName)) ∈ lw_all := lw_g (lw_at lw_m10 63 rfl) rfl
theorem q2297 : (Jvm.Cond.selects "FigureSurvey" ({ cls := "FigureSurvey", name := "setRight", desc := "(IIZ)Z" } : Jvm.MethodName) ({ cls := "FigureSurvey", name := "setRight", desc := "(IIZ)Z" } : Jvm.MethodName)) ∈ lw_all := lw_g (lw_at lw_m10 64 rfl) rfl
theorem q2298 : (Jvm.Cond.code ({ cls := "FigureSurvey", name := "setRight", desc := "(IIZ)Z" } : Jvm.MethodName) prog_1_method_64_code (6 : Nat) (Option.some Jvm.ClassFile.FieldType.boolean)) ∈ lw_all := lw_g (lw_at lw_m10 65 rfl) rfl
theorem q2303 : (Jvm.Cond.instanceMethod ({ cls := "FigureSurvey", name := "repaint", desc := "(II)I" } : Jvm.MethodName)) ∈ lw_all := lw_g (lw_at lw_m10 70 rfl) rfl
theorem q2304 : (Jvm.Cond.selects "FigureSurvey" ({ cls := "FigureSurvey", name := "repaint", desc := "(II)I" } : Jvm.MethodName) ({ cls := "FigureSurvey", name := "repaint", desc := "(II)I" } : Jvm.MethodName)) ∈ lw_all := lw_g (lw_at lw_m10 71 rfl) rfl
theorem q2305 : (Jvm.Cond.code ({ cls := "FigureSurvey", name := "repaint", desc := "(II)I" } : Jvm.MethodName) prog_1_method_65_code (7 : Nat) (Option.some Jvm.ClassFile.FieldType.int)) ∈ lw_all := lw_g (lw_at lw_m10 72 rfl) rfl
theorem q2310 : (Jvm.Cond.instanceMethod ({ cls := "FigureSurvey", name := "passYears", desc := "(I)I" } : Jvm.MethodName)) ∈ lw_all := lw_g (lw_at lw_m10 77 rfl) rfl
theorem q2311 : (Jvm.Cond.selects "FigureSurvey" ({ cls := "FigureSurvey", name := "passYears", desc := "(I)I" } : Jvm.MethodName) ({ cls := "FigureSurvey", name := "passYears", desc := "(I)I" } : Jvm.MethodName)) ∈ lw_all := lw_g (lw_at lw_m10 78 rfl) rfl
theorem q2312 : (Jvm.Cond.code ({ cls := "FigureSurvey", name := "passYears", desc := "(I)I" } : Jvm.MethodName) prog_1_method_66_code (5 : Nat) (Option.some Jvm.ClassFile.FieldType.int)) ∈ lw_all := lw_g (lw_at lw_m10 79 rfl) rfl
theorem q2313 : (Jvm.Cond.methodLink "FigureSurvey" (440 : Nat) ({ cls := "FigureSurvey$Panel", name := "decay", desc := "()I" } : Jvm.MethodName)) ∈ lw_all := lw_g (lw_at lw_m10 80 rfl) rfl
theorem q2318 : (Jvm.Cond.methodLink "FigureSurvey" (443 : Nat) ({ cls := "java/lang/Math", name := "max", desc := "(II)I" } : Jvm.MethodName)) ∈ lw_all := lw_g (lw_at lw_m10 85 rfl) rfl
theorem q2323 : (Jvm.Cond.instanceMethod ({ cls := "FigureSurvey", name := "setDecay", desc := "(IIII)I" } : Jvm.MethodName)) ∈ lw_all := lw_g (lw_at lw_m10 90 rfl) rfl
theorem q2324 : (Jvm.Cond.selects "FigureSurvey" ({ cls := "FigureSurvey", name := "setDecay", desc := "(IIII)I" } : Jvm.MethodName) ({ cls := "FigureSurvey", name := "setDecay", desc := "(IIII)I" } : Jvm.MethodName)) ∈ lw_all := lw_g (lw_at lw_m10 91 rfl) rfl
theorem q2325 : (Jvm.Cond.code ({ cls := "FigureSurvey", name := "setDecay", desc := "(IIII)I" } : Jvm.MethodName) prog_1_method_67_code (6 : Nat) (Option.some Jvm.ClassFile.FieldType.int)) ∈ lw_all := lw_g (lw_at lw_m10 92 rfl) rfl
theorem q2330 : (Jvm.Cond.instanceMethod ({ cls := "FigureSurvey", name := "healthOf", desc := "(I)I" } : Jvm.MethodName)) ∈ lw_all := lw_g (lw_at lw_m10 97 rfl) rfl
theorem q2331 : (Jvm.Cond.selects "FigureSurvey" ({ cls := "FigureSurvey", name := "healthOf", desc := "(I)I" } : Jvm.MethodName) ({ cls := "FigureSurvey", name := "healthOf", desc := "(I)I" } : Jvm.MethodName)) ∈ lw_all := lw_g (lw_at lw_m10 98 rfl) rfl
theorem q2332 : (Jvm.Cond.code ({ cls := "FigureSurvey", name := "healthOf", desc := "(I)I" } : Jvm.MethodName) prog_1_method_68_code (2 : Nat) (Option.some Jvm.ClassFile.FieldType.int)) ∈ lw_all := lw_g (lw_at lw_m10 99 rfl) rfl
theorem q2337 : (Jvm.Cond.instanceMethod ({ cls := "FigureSurvey", name := "addWork", desc := "(III)I" } : Jvm.MethodName)) ∈ lw_all := lw_g (lw_at lw_m10 104 rfl) rfl
theorem q2338 : (Jvm.Cond.selects "FigureSurvey" ({ cls := "FigureSurvey", name := "addWork", desc := "(III)I" } : Jvm.MethodName) ({ cls := "FigureSurvey", name := "addWork", desc := "(III)I" } : Jvm.MethodName)) ∈ lw_all := lw_g (lw_at lw_m10 105 rfl) rfl
theorem q2339 : (Jvm.Cond.code ({ cls := "FigureSurvey", name := "addWork", desc := "(III)I" } : Jvm.MethodName) prog_1_method_69_code (5 : Nat) (Option.some Jvm.ClassFile.FieldType.int)) ∈ lw_all := lw_g (lw_at lw_m10 106 rfl) rfl
theorem q2340 : (Jvm.Cond.classLink "FigureSurvey" (458 : Nat) "FigureSurvey$Work") ∈ lw_all := lw_g (lw_at lw_m10 107 rfl) rfl
theorem q2342 : (Jvm.Cond.methodLink "FigureSurvey" (460 : Nat) ({ cls := "FigureSurvey$Work", name := "<init>", desc := "(LFigureSurvey$Panel;II)V" } : Jvm.MethodName)) ∈ lw_all := lw_g (lw_at lw_m10 109 rfl) rfl
theorem q2347 : (Jvm.Cond.fieldLink "FigureSurvey" (465 : Nat) "FigureSurvey$Work" "panel" "LFigureSurvey$Panel;") ∈ lw_all := lw_g (lw_at lw_m10 114 rfl) rfl
theorem q2349 : (Jvm.Cond.fieldLink "FigureSurvey" (473 : Nat) "FigureSurvey$Work" "cost" "I") ∈ lw_all := lw_g (lw_at lw_m10 116 rfl) rfl
theorem q2351 : (Jvm.Cond.fieldLink "FigureSurvey" (463 : Nat) "FigureSurvey$Work" "takes" "I") ∈ lw_all := lw_g (lw_at lw_m10 118 rfl) rfl
theorem q2352 : (Jvm.Cond.fieldLink "FigureSurvey" (470 : Nat) "FigureSurvey$Work" "isDone" "Z") ∈ lw_all := lw_g (lw_at lw_m10 119 rfl) rfl
theorem q2366 : (Jvm.Cond.instanceMethod ({ cls := "FigureSurvey", name := "worksFor", desc := "(I)I" } : Jvm.MethodName)) ∈ lw_all := lw_g (lw_at lw_m10 133 rfl) rfl
theorem q2367 : (Jvm.Cond.selects "FigureSurvey" ({ cls := "FigureSurvey", name := "worksFor", desc := "(I)I" } : Jvm.MethodName) ({ cls := "FigureSurvey", name := "worksFor", desc := "(I)I" } : Jvm.MethodName)) ∈ lw_all := lw_g (lw_at lw_m10 134 rfl) rfl
theorem q2368 : (Jvm.Cond.code ({ cls := "FigureSurvey", name := "worksFor", desc := "(I)I" } : Jvm.MethodName) prog_1_method_71_code (2 : Nat) (Option.some Jvm.ClassFile.FieldType.int)) ∈ lw_all := lw_g (lw_at lw_m10 135 rfl) rfl
theorem q2369 : (Jvm.Cond.methodLink "FigureSurvey" (476 : Nat) ({ cls := "FigureSurvey", name := "chosen", desc := "(I)I" } : Jvm.MethodName)) ∈ lw_all := lw_g (lw_at lw_m10 136 rfl) rfl
theorem q2370 : (Jvm.Cond.privateMethod ({ cls := "FigureSurvey", name := "chosen", desc := "(I)I" } : Jvm.MethodName)) ∈ lw_tbl := lw_at lw_m10 137 rfl
theorem q2371 : (Jvm.Cond.instanceMethod ({ cls := "FigureSurvey", name := "chosen", desc := "(I)I" } : Jvm.MethodName)) ∈ lw_all := lw_g (lw_at lw_m10 138 rfl) rfl
theorem q2372 : (Jvm.Cond.code ({ cls := "FigureSurvey", name := "chosen", desc := "(I)I" } : Jvm.MethodName) prog_1_method_70_code (12 : Nat) (Option.some Jvm.ClassFile.FieldType.int)) ∈ lw_all := lw_g (lw_at lw_m10 139 rfl) rfl
theorem q2373 : (Jvm.Cond.methodLink "FigureSurvey" (466 : Nat) ({ cls := "FigureSurvey", name := "genuineOn", desc := "(LFigureSurvey$Panel;)I" } : Jvm.MethodName)) ∈ lw_all := lw_g (lw_at lw_m10 140 rfl) rfl
theorem q2378 : (Jvm.Cond.instanceMethod ({ cls := "FigureSurvey", name := "doWorks", desc := "(I)I" } : Jvm.MethodName)) ∈ lw_all := lw_g (lw_at lw_m10 145 rfl) rfl
theorem q2379 : (Jvm.Cond.selects "FigureSurvey" ({ cls := "FigureSurvey", name := "doWorks", desc := "(I)I" } : Jvm.MethodName) ({ cls := "FigureSurvey", name := "doWorks", desc := "(I)I" } : Jvm.MethodName)) ∈ lw_all := lw_g (lw_at lw_m10 146 rfl) rfl
theorem q2380 : (Jvm.Cond.code ({ cls := "FigureSurvey", name := "doWorks", desc := "(I)I" } : Jvm.MethodName) prog_1_method_72_code (6 : Nat) (Option.some Jvm.ClassFile.FieldType.int)) ∈ lw_all := lw_g (lw_at lw_m10 147 rfl) rfl
theorem q2385 : (Jvm.Cond.instanceMethod ({ cls := "FigureSurvey", name := "setLoad", desc := "(II)I" } : Jvm.MethodName)) ∈ lw_all := lw_g (lw_at lw_m10 152 rfl) rfl
theorem q2386 : (Jvm.Cond.selects "FigureSurvey" ({ cls := "FigureSurvey", name := "setLoad", desc := "(II)I" } : Jvm.MethodName) ({ cls := "FigureSurvey", name := "setLoad", desc := "(II)I" } : Jvm.MethodName)) ∈ lw_all := lw_g (lw_at lw_m10 153 rfl) rfl
theorem q2387 : (Jvm.Cond.code ({ cls := "FigureSurvey", name := "setLoad", desc := "(II)I" } : Jvm.MethodName) prog_1_method_73_code (5 : Nat) (Option.some Jvm.ClassFile.FieldType.int)) ∈ lw_all := lw_g (lw_at lw_m10 154 rfl) rfl
theorem q2392 : (Jvm.Cond.instanceMethod ({ cls := "FigureSurvey", name := "tour", desc := "(II)I" } : Jvm.MethodName)) ∈ lw_all := lw_g (lw_at lw_m10 159 rfl) rfl
theorem q2393 : (Jvm.Cond.selects "FigureSurvey" ({ cls := "FigureSurvey", name := "tour", desc := "(II)I" } : Jvm.MethodName) ({ cls := "FigureSurvey", name := "tour", desc := "(II)I" } : Jvm.MethodName)) ∈ lw_all := lw_g (lw_at lw_m10 160 rfl) rfl
theorem q2394 : (Jvm.Cond.code ({ cls := "FigureSurvey", name := "tour", desc := "(II)I" } : Jvm.MethodName) prog_1_method_74_code (4 : Nat) (Option.some Jvm.ClassFile.FieldType.int)) ∈ lw_all := lw_g (lw_at lw_m10 161 rfl) rfl
theorem q2399 : (Jvm.Cond.instanceMethod ({ cls := "FigureSurvey", name := "tellDam", desc := "(II)I" } : Jvm.MethodName)) ∈ lw_all := lw_g (lw_at lw_m10 166 rfl) rfl
theorem q2400 : (Jvm.Cond.selects "FigureSurvey" ({ cls := "FigureSurvey", name := "tellDam", desc := "(II)I" } : Jvm.MethodName) ({ cls := "FigureSurvey", name := "tellDam", desc := "(II)I" } : Jvm.MethodName)) ∈ lw_all := lw_g (lw_at lw_m10 167 rfl) rfl
theorem q2401 : (Jvm.Cond.code ({ cls := "FigureSurvey", name := "tellDam", desc := "(II)I" } : Jvm.MethodName) prog_1_method_75_code (3 : Nat) (Option.some Jvm.ClassFile.FieldType.int)) ∈ lw_all := lw_g (lw_at lw_m10 168 rfl) rfl
theorem q2402 : (Jvm.Cond.privateMethod ({ cls := "FigureSurvey", name := "lambda$tellDam$3", desc := "(I)Z" } : Jvm.MethodName)) ∈ lw_tbl := lw_at lw_m10 169 rfl
theorem q2403 : (Jvm.Cond.instanceMethod ({ cls := "FigureSurvey", name := "lambda$tellDam$3", desc := "(I)Z" } : Jvm.MethodName)) ∈ lw_all := lw_g (lw_at lw_m10 170 rfl) rfl
theorem q2404 : (Jvm.Cond.code ({ cls := "FigureSurvey", name := "lambda$tellDam$3", desc := "(I)Z" } : Jvm.MethodName) prog_1_method_82_code (2 : Nat) (Option.some Jvm.ClassFile.FieldType.boolean)) ∈ lw_all := lw_g (lw_at lw_m10 171 rfl) rfl
theorem q2409 : (Jvm.Cond.instanceMethod ({ cls := "FigureSurvey", name := "isDrowned", desc := "(I)Z" } : Jvm.MethodName)) ∈ lw_all := lw_g (lw_at lw_m10 176 rfl) rfl
theorem q2410 : (Jvm.Cond.selects "FigureSurvey" ({ cls := "FigureSurvey", name := "isDrowned", desc := "(I)Z" } : Jvm.MethodName) ({ cls := "FigureSurvey", name := "isDrowned", desc := "(I)Z" } : Jvm.MethodName)) ∈ lw_all := lw_g (lw_at lw_m10 177 rfl) rfl
theorem q2411 : (Jvm.Cond.code ({ cls := "FigureSurvey", name := "isDrowned", desc := "(I)Z" } : Jvm.MethodName) prog_1_method_76_code (2 : Nat) (Option.some Jvm.ClassFile.FieldType.boolean)) ∈ lw_all := lw_g (lw_at lw_m10 178 rfl) rfl
theorem q2926 : (Jvm.Cond.castable "FigureSurvey" "java/lang/Object") ∈ lw_tbl := lw_at lw_m12 213 rfl
theorem in_X1 : ∀ w ∈ wsX10, w ∈ lw_all := lw_in wsX10 [231, 233, 235, 237, 239, 241, 243, 245, 247, 249, 251, 253, 255, 257, 259, 261, 263] (by decide +kernel) (by decide +kernel)
