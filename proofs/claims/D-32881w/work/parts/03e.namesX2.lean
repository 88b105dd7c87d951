/-! FigureSurveyModel -/
set_option maxRecDepth 100000
def RX2 : String := "FigureSurveyModel"
def TX2 : u_T := fun k => match k with
  | 0 => ("FigureSurveyModel", "thrown", "I", false)
  | 1 => ("FigureSurveyModel", "year", "I", false)
  | 2 => ("FigureSurveyModel", "damLevel", "I", false)
  | 3 => ("FigureSurveyModel", "damYear", "I", false)
  | 4 => ("FigureSurveyModel", "panels", "Ljava/util/ArrayList;", true)
  | 5 => ("FigureSurveyModel", "depths", "Ljava/util/ArrayList;", true)
  | 6 => ("FigureSurveyModel", "away", "[J", true)
  | 7 => ("FigureSurveyModel", "strokes", "Ljava/util/ArrayList;", true)
  | 8 => ("FigureSurveyModel", "strokeCells", "[J", true)
  | 9 => ("FigureSurveyModel", "figures", "Ljava/util/ArrayList;", true)
  | 10 => ("FigureSurveyModel", "has", "[[Z", true)
  | 11 => ("FigureSurveyModel", "tracings", "Ljava/util/ArrayList;", true)
  | 12 => ("FigureSurveyModel", "traced", "[J", true)
  | 13 => ("FigureSurveyModel", "findings", "Ljava/util/ArrayList;", true)
  | 14 => ("FigureSurveyModel", "weapons", "[I", true)
  | 15 => ("FigureSurveyModel", "animals", "[I", true)
  | 16 => ("FigureSurveyModel", "styles", "Ljava/util/ArrayList;", true)
  | 17 => ("FigureSurveyModel", "entries", "Ljava/util/ArrayList;", true)
  | 18 => ("FigureSurveyModel", "names", "Ljava/util/ArrayList;", true)
  | _ => ("FigureSurveyModel", "works", "Ljava/util/ArrayList;", true)
def tyX2 : Nat → FieldType := fun k => match k with
  | 0 => .int
  | 1 => .int
  | 2 => .int
  | 3 => .int
  | 4 => .object "java/util/ArrayList"
  | 5 => .object "java/util/ArrayList"
  | 6 => .array .long
  | 7 => .object "java/util/ArrayList"
  | 8 => .array .long
  | 9 => .object "java/util/ArrayList"
  | 10 => .array (.array .boolean)
  | 11 => .object "java/util/ArrayList"
  | 12 => .array .long
  | 13 => .object "java/util/ArrayList"
  | 14 => .array .int
  | 15 => .array .int
  | 16 => .object "java/util/ArrayList"
  | 17 => .object "java/util/ArrayList"
  | 18 => .object "java/util/ArrayList"
  | _ => .object "java/util/ArrayList"
abbrev wsX20 : List Cond := u_ws RX2 TX2 20
set_option maxRecDepth 100000 in
theorem nmX2 : ∀ a, a < 20 → ∀ b, b < 20 → a ≠ b → (TX2 a).2.1 ≠ (TX2 b).2.1 := by decide +kernel
set_option maxRecDepth 100000 in
theorem tyX2_ok : ∀ k, k < 20 → parseFieldDescriptor (TX2 k).2.2.1 = some (tyX2 k) := by decide +kernel
abbrev cX2_init : ByteArray := prog_18_method_1_code
def yX2_init : MethodName := ⟨RX2, "<init>", "()V"⟩
def dkwX2_init_8 : List UInt8 := [181, 0, 63, 42, 187, 0, 13, 89, 183, 0, 15, 181, 0, 66, 177]
abbrev dktX2_init_8 : List UInt8 := dkwX2_init_8 ++ []
def dkwX2_init_7 : List UInt8 := [181, 0, 57, 42, 187, 0, 13, 89, 183, 0, 15, 181, 0, 60, 42, 187, 0, 13, 89, 183, 0, 15]
abbrev dktX2_init_7 : List UInt8 := dkwX2_init_7 ++ dktX2_init_8
def dkwX2_init_6 : List UInt8 := [79, 89, 6, 17, 117, 48, 79, 89, 7, 17, 117, 48, 79, 181, 0, 54, 42, 187, 0, 13, 89, 183, 0, 15]
abbrev dktX2_init_6 : List UInt8 := dkwX2_init_6 ++ dktX2_init_7
def dkwX2_init_5 : List UInt8 := [181, 0, 50, 42, 8, 188, 10, 89, 3, 17, 117, 48, 79, 89, 4, 17, 117, 48, 79, 89, 5, 17, 117, 48]
abbrev dktX2_init_5 : List UInt8 := dkwX2_init_5 ++ dktX2_init_6
def dkwX2_init_4 : List UInt8 := [16, 40, 188, 11, 181, 0, 44, 42, 187, 0, 13, 89, 183, 0, 15, 181, 0, 47, 42, 8, 188, 10]
abbrev dktX2_init_4 : List UInt8 := dkwX2_init_4 ++ dktX2_init_5
def dkwX2_init_3 : List UInt8 := [16, 24, 16, 60, 197, 0, 36, 2, 181, 0, 38, 42, 187, 0, 13, 89, 183, 0, 15, 181, 0, 41, 42]
abbrev dktX2_init_3 : List UInt8 := dkwX2_init_3 ++ dktX2_init_4
def dkwX2_init_2 : List UInt8 := [181, 0, 27, 42, 16, 60, 188, 11, 181, 0, 30, 42, 187, 0, 13, 89, 183, 0, 15, 181, 0, 33, 42]
abbrev dktX2_init_2 : List UInt8 := dkwX2_init_2 ++ dktX2_init_3
def dkwX2_init_1 : List UInt8 := [89, 183, 0, 15, 181, 0, 20, 42, 16, 6, 188, 11, 181, 0, 23, 42, 187, 0, 13, 89, 183, 0, 15]
abbrev dktX2_init_1 : List UInt8 := dkwX2_init_1 ++ dktX2_init_2
def dkwX2_init_0 : List UInt8 := [42, 183, 0, 1, 42, 2, 181, 0, 9, 42, 187, 0, 13, 89, 183, 0, 15, 181, 0, 16, 42, 187, 0, 13]
abbrev dktX2_init_0 : List UInt8 := dkwX2_init_0 ++ dktX2_init_1
theorem dksX2_init_0 : cX2_init.data.toList.drop 0 = dktX2_init_0 := by decide +kernel
theorem dksX2_init_1 : cX2_init.data.toList.drop 24 = dktX2_init_1 := dk_seg dksX2_init_0 24 rfl rfl
theorem dksX2_init_2 : cX2_init.data.toList.drop 47 = dktX2_init_2 := dk_seg dksX2_init_1 23 rfl rfl
theorem dksX2_init_3 : cX2_init.data.toList.drop 70 = dktX2_init_3 := dk_seg dksX2_init_2 23 rfl rfl
theorem dksX2_init_4 : cX2_init.data.toList.drop 93 = dktX2_init_4 := dk_seg dksX2_init_3 23 rfl rfl
theorem dksX2_init_5 : cX2_init.data.toList.drop 115 = dktX2_init_5 := dk_seg dksX2_init_4 22 rfl rfl
theorem dksX2_init_6 : cX2_init.data.toList.drop 139 = dktX2_init_6 := dk_seg dksX2_init_5 24 rfl rfl
theorem dksX2_init_7 : cX2_init.data.toList.drop 163 = dktX2_init_7 := dk_seg dksX2_init_6 24 rfl rfl
theorem dksX2_init_8 : cX2_init.data.toList.drop 185 = dktX2_init_8 := dk_seg dksX2_init_7 22 rfl rfl
theorem dX2_init_0 : decode cX2_init 0 = .ok (.aload_n 0, 1) := dk_42 (dk_at dksX2_init_0 0 rfl rfl)
theorem dX2_init_1 : decode cX2_init 1 = .ok (.invokespecial 1, 3) := dk_183 0 1 (dk_at dksX2_init_0 1 rfl rfl)
theorem dX2_init_4 : decode cX2_init 4 = .ok (.aload_n 0, 1) := dk_42 (dk_at dksX2_init_0 4 rfl rfl)
theorem dX2_init_5 : decode cX2_init 5 = .ok (.iconst (-1), 1) := dk_2 (dk_at dksX2_init_0 5 rfl rfl)
theorem dX2_init_6 : decode cX2_init 6 = .ok (.putfield 9, 3) := dk_181 0 9 (dk_at dksX2_init_0 6 rfl rfl)
theorem dX2_init_9 : decode cX2_init 9 = .ok (.aload_n 0, 1) := dk_42 (dk_at dksX2_init_0 9 rfl rfl)
theorem dX2_init_10 : decode cX2_init 10 = .ok (.new 13, 3) := dk_187 0 13 (dk_at dksX2_init_0 10 rfl rfl)
theorem dX2_init_13 : decode cX2_init 13 = .ok (.dup, 1) := dk_89 (dk_at dksX2_init_0 13 rfl rfl)
theorem dX2_init_14 : decode cX2_init 14 = .ok (.invokespecial 15, 3) := dk_183 0 15 (dk_at dksX2_init_0 14 rfl rfl)
theorem dX2_init_17 : decode cX2_init 17 = .ok (.putfield 16, 3) := dk_181 0 16 (dk_at dksX2_init_0 17 rfl rfl)
theorem dX2_init_20 : decode cX2_init 20 = .ok (.aload_n 0, 1) := dk_42 (dk_at dksX2_init_0 20 rfl rfl)
theorem dX2_init_21 : decode cX2_init 21 = .ok (.new 13, 3) := dk_187 0 13 (dk_at dksX2_init_0 21 rfl rfl)
theorem dX2_init_24 : decode cX2_init 24 = .ok (.dup, 1) := dk_89 (dk_at dksX2_init_1 0 rfl rfl)
theorem dX2_init_25 : decode cX2_init 25 = .ok (.invokespecial 15, 3) := dk_183 0 15 (dk_at dksX2_init_1 1 rfl rfl)
theorem dX2_init_28 : decode cX2_init 28 = .ok (.putfield 20, 3) := dk_181 0 20 (dk_at dksX2_init_1 4 rfl rfl)
theorem dX2_init_31 : decode cX2_init 31 = .ok (.aload_n 0, 1) := dk_42 (dk_at dksX2_init_1 7 rfl rfl)
theorem dX2_init_32 : decode cX2_init 32 = .ok (.bipush 6, 2) := dk_16 6 (dk_at dksX2_init_1 8 rfl rfl)
theorem dX2_init_34 : decode cX2_init 34 = .ok (.newarray .long, 2) := dk_188_11 (dk_at dksX2_init_1 10 rfl rfl)
theorem dX2_init_36 : decode cX2_init 36 = .ok (.putfield 23, 3) := dk_181 0 23 (dk_at dksX2_init_1 12 rfl rfl)
theorem dX2_init_39 : decode cX2_init 39 = .ok (.aload_n 0, 1) := dk_42 (dk_at dksX2_init_1 15 rfl rfl)
theorem dX2_init_40 : decode cX2_init 40 = .ok (.new 13, 3) := dk_187 0 13 (dk_at dksX2_init_1 16 rfl rfl)
theorem dX2_init_43 : decode cX2_init 43 = .ok (.dup, 1) := dk_89 (dk_at dksX2_init_1 19 rfl rfl)
theorem dX2_init_44 : decode cX2_init 44 = .ok (.invokespecial 15, 3) := dk_183 0 15 (dk_at dksX2_init_1 20 rfl rfl)
theorem dX2_init_47 : decode cX2_init 47 = .ok (.putfield 27, 3) := dk_181 0 27 (dk_at dksX2_init_2 0 rfl rfl)
theorem dX2_init_50 : decode cX2_init 50 = .ok (.aload_n 0, 1) := dk_42 (dk_at dksX2_init_2 3 rfl rfl)
theorem dX2_init_51 : decode cX2_init 51 = .ok (.bipush 60, 2) := dk_16 60 (dk_at dksX2_init_2 4 rfl rfl)
theorem dX2_init_53 : decode cX2_init 53 = .ok (.newarray .long, 2) := dk_188_11 (dk_at dksX2_init_2 6 rfl rfl)
theorem dX2_init_55 : decode cX2_init 55 = .ok (.putfield 30, 3) := dk_181 0 30 (dk_at dksX2_init_2 8 rfl rfl)
theorem dX2_init_58 : decode cX2_init 58 = .ok (.aload_n 0, 1) := dk_42 (dk_at dksX2_init_2 11 rfl rfl)
theorem dX2_init_59 : decode cX2_init 59 = .ok (.new 13, 3) := dk_187 0 13 (dk_at dksX2_init_2 12 rfl rfl)
theorem dX2_init_62 : decode cX2_init 62 = .ok (.dup, 1) := dk_89 (dk_at dksX2_init_2 15 rfl rfl)
theorem dX2_init_63 : decode cX2_init 63 = .ok (.invokespecial 15, 3) := dk_183 0 15 (dk_at dksX2_init_2 16 rfl rfl)
theorem dX2_init_66 : decode cX2_init 66 = .ok (.putfield 33, 3) := dk_181 0 33 (dk_at dksX2_init_2 19 rfl rfl)
theorem dX2_init_69 : decode cX2_init 69 = .ok (.aload_n 0, 1) := dk_42 (dk_at dksX2_init_2 22 rfl rfl)
theorem dX2_init_70 : decode cX2_init 70 = .ok (.bipush 24, 2) := dk_16 24 (dk_at dksX2_init_3 0 rfl rfl)
theorem dX2_init_72 : decode cX2_init 72 = .ok (.bipush 60, 2) := dk_16 60 (dk_at dksX2_init_3 2 rfl rfl)
theorem dX2_init_74 : decode cX2_init 74 = .ok (.multianewarray 36 2, 4) := by decide +kernel
theorem dX2_init_78 : decode cX2_init 78 = .ok (.putfield 38, 3) := dk_181 0 38 (dk_at dksX2_init_3 8 rfl rfl)
theorem dX2_init_81 : decode cX2_init 81 = .ok (.aload_n 0, 1) := dk_42 (dk_at dksX2_init_3 11 rfl rfl)
theorem dX2_init_82 : decode cX2_init 82 = .ok (.new 13, 3) := dk_187 0 13 (dk_at dksX2_init_3 12 rfl rfl)
theorem dX2_init_85 : decode cX2_init 85 = .ok (.dup, 1) := dk_89 (dk_at dksX2_init_3 15 rfl rfl)
theorem dX2_init_86 : decode cX2_init 86 = .ok (.invokespecial 15, 3) := dk_183 0 15 (dk_at dksX2_init_3 16 rfl rfl)
theorem dX2_init_89 : decode cX2_init 89 = .ok (.putfield 41, 3) := dk_181 0 41 (dk_at dksX2_init_3 19 rfl rfl)
theorem dX2_init_92 : decode cX2_init 92 = .ok (.aload_n 0, 1) := dk_42 (dk_at dksX2_init_3 22 rfl rfl)
theorem dX2_init_93 : decode cX2_init 93 = .ok (.bipush 40, 2) := dk_16 40 (dk_at dksX2_init_4 0 rfl rfl)
theorem dX2_init_95 : decode cX2_init 95 = .ok (.newarray .long, 2) := dk_188_11 (dk_at dksX2_init_4 2 rfl rfl)
theorem dX2_init_97 : decode cX2_init 97 = .ok (.putfield 44, 3) := dk_181 0 44 (dk_at dksX2_init_4 4 rfl rfl)
theorem dX2_init_100 : decode cX2_init 100 = .ok (.aload_n 0, 1) := dk_42 (dk_at dksX2_init_4 7 rfl rfl)
theorem dX2_init_101 : decode cX2_init 101 = .ok (.new 13, 3) := dk_187 0 13 (dk_at dksX2_init_4 8 rfl rfl)
theorem dX2_init_104 : decode cX2_init 104 = .ok (.dup, 1) := dk_89 (dk_at dksX2_init_4 11 rfl rfl)
theorem dX2_init_105 : decode cX2_init 105 = .ok (.invokespecial 15, 3) := dk_183 0 15 (dk_at dksX2_init_4 12 rfl rfl)
theorem dX2_init_108 : decode cX2_init 108 = .ok (.putfield 47, 3) := dk_181 0 47 (dk_at dksX2_init_4 15 rfl rfl)
theorem dX2_init_111 : decode cX2_init 111 = .ok (.aload_n 0, 1) := dk_42 (dk_at dksX2_init_4 18 rfl rfl)
theorem dX2_init_112 : decode cX2_init 112 = .ok (.iconst 5, 1) := dk_8 (dk_at dksX2_init_4 19 rfl rfl)
theorem dX2_init_113 : decode cX2_init 113 = .ok (.newarray .int, 2) := dk_188_10 (dk_at dksX2_init_4 20 rfl rfl)
theorem dX2_init_115 : decode cX2_init 115 = .ok (.putfield 50, 3) := dk_181 0 50 (dk_at dksX2_init_5 0 rfl rfl)
theorem dX2_init_118 : decode cX2_init 118 = .ok (.aload_n 0, 1) := dk_42 (dk_at dksX2_init_5 3 rfl rfl)
theorem dX2_init_119 : decode cX2_init 119 = .ok (.iconst 5, 1) := dk_8 (dk_at dksX2_init_5 4 rfl rfl)
theorem dX2_init_120 : decode cX2_init 120 = .ok (.newarray .int, 2) := dk_188_10 (dk_at dksX2_init_5 5 rfl rfl)
theorem dX2_init_122 : decode cX2_init 122 = .ok (.dup, 1) := dk_89 (dk_at dksX2_init_5 7 rfl rfl)
theorem dX2_init_123 : decode cX2_init 123 = .ok (.iconst 0, 1) := dk_3 (dk_at dksX2_init_5 8 rfl rfl)
theorem dX2_init_124 : decode cX2_init 124 = .ok (.sipush 30000, 3) := dk_17 117 48 (dk_at dksX2_init_5 9 rfl rfl)
theorem dX2_init_127 : decode cX2_init 127 = .ok (.iastore, 1) := dk_79 (dk_at dksX2_init_5 12 rfl rfl)
theorem dX2_init_128 : decode cX2_init 128 = .ok (.dup, 1) := dk_89 (dk_at dksX2_init_5 13 rfl rfl)
theorem dX2_init_129 : decode cX2_init 129 = .ok (.iconst 1, 1) := dk_4 (dk_at dksX2_init_5 14 rfl rfl)
theorem dX2_init_130 : decode cX2_init 130 = .ok (.sipush 30000, 3) := dk_17 117 48 (dk_at dksX2_init_5 15 rfl rfl)
theorem dX2_init_133 : decode cX2_init 133 = .ok (.iastore, 1) := dk_79 (dk_at dksX2_init_5 18 rfl rfl)
theorem dX2_init_134 : decode cX2_init 134 = .ok (.dup, 1) := dk_89 (dk_at dksX2_init_5 19 rfl rfl)
theorem dX2_init_135 : decode cX2_init 135 = .ok (.iconst 2, 1) := dk_5 (dk_at dksX2_init_5 20 rfl rfl)
theorem dX2_init_136 : decode cX2_init 136 = .ok (.sipush 30000, 3) := dk_17 117 48 (dk_at dksX2_init_5 21 rfl rfl)
theorem dX2_init_139 : decode cX2_init 139 = .ok (.iastore, 1) := dk_79 (dk_at dksX2_init_6 0 rfl rfl)
theorem dX2_init_140 : decode cX2_init 140 = .ok (.dup, 1) := dk_89 (dk_at dksX2_init_6 1 rfl rfl)
theorem dX2_init_141 : decode cX2_init 141 = .ok (.iconst 3, 1) := dk_6 (dk_at dksX2_init_6 2 rfl rfl)
theorem dX2_init_142 : decode cX2_init 142 = .ok (.sipush 30000, 3) := dk_17 117 48 (dk_at dksX2_init_6 3 rfl rfl)
theorem dX2_init_145 : decode cX2_init 145 = .ok (.iastore, 1) := dk_79 (dk_at dksX2_init_6 6 rfl rfl)
theorem dX2_init_146 : decode cX2_init 146 = .ok (.dup, 1) := dk_89 (dk_at dksX2_init_6 7 rfl rfl)
theorem dX2_init_147 : decode cX2_init 147 = .ok (.iconst 4, 1) := dk_7 (dk_at dksX2_init_6 8 rfl rfl)
theorem dX2_init_148 : decode cX2_init 148 = .ok (.sipush 30000, 3) := dk_17 117 48 (dk_at dksX2_init_6 9 rfl rfl)
theorem dX2_init_151 : decode cX2_init 151 = .ok (.iastore, 1) := dk_79 (dk_at dksX2_init_6 12 rfl rfl)
theorem dX2_init_152 : decode cX2_init 152 = .ok (.putfield 54, 3) := dk_181 0 54 (dk_at dksX2_init_6 13 rfl rfl)
theorem dX2_init_155 : decode cX2_init 155 = .ok (.aload_n 0, 1) := dk_42 (dk_at dksX2_init_6 16 rfl rfl)
theorem dX2_init_156 : decode cX2_init 156 = .ok (.new 13, 3) := dk_187 0 13 (dk_at dksX2_init_6 17 rfl rfl)
theorem dX2_init_159 : decode cX2_init 159 = .ok (.dup, 1) := dk_89 (dk_at dksX2_init_6 20 rfl rfl)
theorem dX2_init_160 : decode cX2_init 160 = .ok (.invokespecial 15, 3) := dk_183 0 15 (dk_at dksX2_init_6 21 rfl rfl)
theorem dX2_init_163 : decode cX2_init 163 = .ok (.putfield 57, 3) := dk_181 0 57 (dk_at dksX2_init_7 0 rfl rfl)
theorem dX2_init_166 : decode cX2_init 166 = .ok (.aload_n 0, 1) := dk_42 (dk_at dksX2_init_7 3 rfl rfl)
theorem dX2_init_167 : decode cX2_init 167 = .ok (.new 13, 3) := dk_187 0 13 (dk_at dksX2_init_7 4 rfl rfl)
theorem dX2_init_170 : decode cX2_init 170 = .ok (.dup, 1) := dk_89 (dk_at dksX2_init_7 7 rfl rfl)
theorem dX2_init_171 : decode cX2_init 171 = .ok (.invokespecial 15, 3) := dk_183 0 15 (dk_at dksX2_init_7 8 rfl rfl)
theorem dX2_init_174 : decode cX2_init 174 = .ok (.putfield 60, 3) := dk_181 0 60 (dk_at dksX2_init_7 11 rfl rfl)
theorem dX2_init_177 : decode cX2_init 177 = .ok (.aload_n 0, 1) := dk_42 (dk_at dksX2_init_7 14 rfl rfl)
theorem dX2_init_178 : decode cX2_init 178 = .ok (.new 13, 3) := dk_187 0 13 (dk_at dksX2_init_7 15 rfl rfl)
theorem dX2_init_181 : decode cX2_init 181 = .ok (.dup, 1) := dk_89 (dk_at dksX2_init_7 18 rfl rfl)
theorem dX2_init_182 : decode cX2_init 182 = .ok (.invokespecial 15, 3) := dk_183 0 15 (dk_at dksX2_init_7 19 rfl rfl)
theorem dX2_init_185 : decode cX2_init 185 = .ok (.putfield 63, 3) := dk_181 0 63 (dk_at dksX2_init_8 0 rfl rfl)
theorem dX2_init_188 : decode cX2_init 188 = .ok (.aload_n 0, 1) := dk_42 (dk_at dksX2_init_8 3 rfl rfl)
theorem dX2_init_189 : decode cX2_init 189 = .ok (.new 13, 3) := dk_187 0 13 (dk_at dksX2_init_8 4 rfl rfl)
theorem dX2_init_192 : decode cX2_init 192 = .ok (.dup, 1) := dk_89 (dk_at dksX2_init_8 7 rfl rfl)
theorem dX2_init_193 : decode cX2_init 193 = .ok (.invokespecial 15, 3) := dk_183 0 15 (dk_at dksX2_init_8 8 rfl rfl)
theorem dX2_init_196 : decode cX2_init 196 = .ok (.putfield 66, 3) := dk_181 0 66 (dk_at dksX2_init_8 11 rfl rfl)
theorem dX2_init_199 : decode cX2_init 199 = .ok (.return_, 1) := dk_177 (dk_at dksX2_init_8 14 rfl rfl)
abbrev cX2_thrown : ByteArray := prog_18_method_2_code
def yX2_thrown : MethodName := ⟨RX2, "thrown", "()I"⟩
theorem dX2_thrown_0 : decode cX2_thrown 0 = .ok (.aload_n 0, 1) := by decide +kernel
theorem dX2_thrown_1 : decode cX2_thrown 1 = .ok (.getfield 69, 3) := by decide +kernel
theorem dX2_thrown_4 : decode cX2_thrown 4 = .ok (.ireturn, 1) := by decide +kernel
abbrev cX2_addPanel : ByteArray := prog_18_method_13_code
def yX2_addPanel : MethodName := ⟨RX2, "addPanel", "(I)I"⟩
def dkwX2_addPanel_5 : List UInt8 := [4, 100, 172]
abbrev dktX2_addPanel_5 : List UInt8 := dkwX2_addPanel_5 ++ []
def dkwX2_addPanel_4 : List UInt8 := [79, 182, 0, 99, 87, 42, 180, 0, 20, 16, 64, 188, 10, 182, 0, 99, 87, 42, 180, 0, 16, 182, 0, 72]
abbrev dktX2_addPanel_4 : List UInt8 := dkwX2_addPanel_4 ++ dktX2_addPanel_5
def dkwX2_addPanel_3 : List UInt8 := [3, 79, 89, 16, 6, 17, 3, 232, 79, 89, 16, 7, 16, 100, 79, 89, 16, 8, 3, 79, 89, 16, 9, 3]
abbrev dktX2_addPanel_3 : List UInt8 := dkwX2_addPanel_3 ++ dktX2_addPanel_4
def dkwX2_addPanel_2 : List UInt8 := [188, 10, 89, 3, 27, 79, 89, 4, 3, 79, 89, 5, 3, 79, 89, 6, 3, 79, 89, 7, 3, 79, 89, 8]
abbrev dktX2_addPanel_2 : List UInt8 := dkwX2_addPanel_2 ++ dktX2_addPanel_3
def dkwX2_addPanel_1 : List UInt8 := [180, 0, 16, 182, 0, 72, 16, 6, 160, 0, 9, 42, 5, 182, 0, 95, 172, 42, 180, 0, 16, 16, 10]
abbrev dktX2_addPanel_1 : List UInt8 := dkwX2_addPanel_1 ++ dktX2_addPanel_2
def dkwX2_addPanel_0 : List UInt8 := [42, 3, 181, 0, 69, 27, 3, 17, 3, 232, 184, 0, 76, 154, 0, 9, 42, 4, 182, 0, 95, 172, 42]
abbrev dktX2_addPanel_0 : List UInt8 := dkwX2_addPanel_0 ++ dktX2_addPanel_1
theorem dksX2_addPanel_0 : cX2_addPanel.data.toList.drop 0 = dktX2_addPanel_0 := by decide +kernel
theorem dksX2_addPanel_1 : cX2_addPanel.data.toList.drop 23 = dktX2_addPanel_1 := dk_seg dksX2_addPanel_0 23 rfl rfl
theorem dksX2_addPanel_2 : cX2_addPanel.data.toList.drop 46 = dktX2_addPanel_2 := dk_seg dksX2_addPanel_1 23 rfl rfl
theorem dksX2_addPanel_3 : cX2_addPanel.data.toList.drop 70 = dktX2_addPanel_3 := dk_seg dksX2_addPanel_2 24 rfl rfl
theorem dksX2_addPanel_4 : cX2_addPanel.data.toList.drop 94 = dktX2_addPanel_4 := dk_seg dksX2_addPanel_3 24 rfl rfl
theorem dksX2_addPanel_5 : cX2_addPanel.data.toList.drop 118 = dktX2_addPanel_5 := dk_seg dksX2_addPanel_4 24 rfl rfl
theorem dX2_addPanel_0 : decode cX2_addPanel 0 = .ok (.aload_n 0, 1) := dk_42 (dk_at dksX2_addPanel_0 0 rfl rfl)
theorem dX2_addPanel_1 : decode cX2_addPanel 1 = .ok (.iconst 0, 1) := dk_3 (dk_at dksX2_addPanel_0 1 rfl rfl)
theorem dX2_addPanel_2 : decode cX2_addPanel 2 = .ok (.putfield 69, 3) := dk_181 0 69 (dk_at dksX2_addPanel_0 2 rfl rfl)
theorem dX2_addPanel_5 : decode cX2_addPanel 5 = .ok (.iload_n 1, 1) := dk_27 (dk_at dksX2_addPanel_0 5 rfl rfl)
theorem dX2_addPanel_6 : decode cX2_addPanel 6 = .ok (.iconst 0, 1) := dk_3 (dk_at dksX2_addPanel_0 6 rfl rfl)
theorem dX2_addPanel_7 : decode cX2_addPanel 7 = .ok (.sipush 1000, 3) := dk_17 3 232 (dk_at dksX2_addPanel_0 7 rfl rfl)
theorem dX2_addPanel_10 : decode cX2_addPanel 10 = .ok (.invokestatic 76, 3) := dk_184 0 76 (dk_at dksX2_addPanel_0 10 rfl rfl)
theorem dX2_addPanel_13 : decode cX2_addPanel 13 = .ok (.ifCond .ne 9, 3) := dk_154 0 9 (dk_at dksX2_addPanel_0 13 rfl rfl)
theorem dX2_addPanel_16 : decode cX2_addPanel 16 = .ok (.aload_n 0, 1) := dk_42 (dk_at dksX2_addPanel_0 16 rfl rfl)
theorem dX2_addPanel_17 : decode cX2_addPanel 17 = .ok (.iconst 1, 1) := dk_4 (dk_at dksX2_addPanel_0 17 rfl rfl)
theorem dX2_addPanel_18 : decode cX2_addPanel 18 = .ok (.invokevirtual 95, 3) := dk_182 0 95 (dk_at dksX2_addPanel_0 18 rfl rfl)
theorem dX2_addPanel_21 : decode cX2_addPanel 21 = .ok (.ireturn, 1) := dk_172 (dk_at dksX2_addPanel_0 21 rfl rfl)
theorem dX2_addPanel_22 : decode cX2_addPanel 22 = .ok (.aload_n 0, 1) := dk_42 (dk_at dksX2_addPanel_0 22 rfl rfl)
theorem dX2_addPanel_23 : decode cX2_addPanel 23 = .ok (.getfield 16, 3) := dk_180 0 16 (dk_at dksX2_addPanel_1 0 rfl rfl)
theorem dX2_addPanel_26 : decode cX2_addPanel 26 = .ok (.invokevirtual 72, 3) := dk_182 0 72 (dk_at dksX2_addPanel_1 3 rfl rfl)
theorem dX2_addPanel_29 : decode cX2_addPanel 29 = .ok (.bipush 6, 2) := dk_16 6 (dk_at dksX2_addPanel_1 6 rfl rfl)
theorem dX2_addPanel_31 : decode cX2_addPanel 31 = .ok (.if_icmp .ne 9, 3) := dk_160 0 9 (dk_at dksX2_addPanel_1 8 rfl rfl)
theorem dX2_addPanel_34 : decode cX2_addPanel 34 = .ok (.aload_n 0, 1) := dk_42 (dk_at dksX2_addPanel_1 11 rfl rfl)
theorem dX2_addPanel_35 : decode cX2_addPanel 35 = .ok (.iconst 2, 1) := dk_5 (dk_at dksX2_addPanel_1 12 rfl rfl)
theorem dX2_addPanel_36 : decode cX2_addPanel 36 = .ok (.invokevirtual 95, 3) := dk_182 0 95 (dk_at dksX2_addPanel_1 13 rfl rfl)
theorem dX2_addPanel_39 : decode cX2_addPanel 39 = .ok (.ireturn, 1) := dk_172 (dk_at dksX2_addPanel_1 16 rfl rfl)
theorem dX2_addPanel_40 : decode cX2_addPanel 40 = .ok (.aload_n 0, 1) := dk_42 (dk_at dksX2_addPanel_1 17 rfl rfl)
theorem dX2_addPanel_41 : decode cX2_addPanel 41 = .ok (.getfield 16, 3) := dk_180 0 16 (dk_at dksX2_addPanel_1 18 rfl rfl)
theorem dX2_addPanel_44 : decode cX2_addPanel 44 = .ok (.bipush 10, 2) := dk_16 10 (dk_at dksX2_addPanel_1 21 rfl rfl)
theorem dX2_addPanel_46 : decode cX2_addPanel 46 = .ok (.newarray .int, 2) := dk_188_10 (dk_at dksX2_addPanel_2 0 rfl rfl)
theorem dX2_addPanel_48 : decode cX2_addPanel 48 = .ok (.dup, 1) := dk_89 (dk_at dksX2_addPanel_2 2 rfl rfl)
theorem dX2_addPanel_49 : decode cX2_addPanel 49 = .ok (.iconst 0, 1) := dk_3 (dk_at dksX2_addPanel_2 3 rfl rfl)
theorem dX2_addPanel_50 : decode cX2_addPanel 50 = .ok (.iload_n 1, 1) := dk_27 (dk_at dksX2_addPanel_2 4 rfl rfl)
theorem dX2_addPanel_51 : decode cX2_addPanel 51 = .ok (.iastore, 1) := dk_79 (dk_at dksX2_addPanel_2 5 rfl rfl)
theorem dX2_addPanel_52 : decode cX2_addPanel 52 = .ok (.dup, 1) := dk_89 (dk_at dksX2_addPanel_2 6 rfl rfl)
theorem dX2_addPanel_53 : decode cX2_addPanel 53 = .ok (.iconst 1, 1) := dk_4 (dk_at dksX2_addPanel_2 7 rfl rfl)
theorem dX2_addPanel_54 : decode cX2_addPanel 54 = .ok (.iconst 0, 1) := dk_3 (dk_at dksX2_addPanel_2 8 rfl rfl)
theorem dX2_addPanel_55 : decode cX2_addPanel 55 = .ok (.iastore, 1) := dk_79 (dk_at dksX2_addPanel_2 9 rfl rfl)
theorem dX2_addPanel_56 : decode cX2_addPanel 56 = .ok (.dup, 1) := dk_89 (dk_at dksX2_addPanel_2 10 rfl rfl)
theorem dX2_addPanel_57 : decode cX2_addPanel 57 = .ok (.iconst 2, 1) := dk_5 (dk_at dksX2_addPanel_2 11 rfl rfl)
theorem dX2_addPanel_58 : decode cX2_addPanel 58 = .ok (.iconst 0, 1) := dk_3 (dk_at dksX2_addPanel_2 12 rfl rfl)
theorem dX2_addPanel_59 : decode cX2_addPanel 59 = .ok (.iastore, 1) := dk_79 (dk_at dksX2_addPanel_2 13 rfl rfl)
theorem dX2_addPanel_60 : decode cX2_addPanel 60 = .ok (.dup, 1) := dk_89 (dk_at dksX2_addPanel_2 14 rfl rfl)
theorem dX2_addPanel_61 : decode cX2_addPanel 61 = .ok (.iconst 3, 1) := dk_6 (dk_at dksX2_addPanel_2 15 rfl rfl)
theorem dX2_addPanel_62 : decode cX2_addPanel 62 = .ok (.iconst 0, 1) := dk_3 (dk_at dksX2_addPanel_2 16 rfl rfl)
theorem dX2_addPanel_63 : decode cX2_addPanel 63 = .ok (.iastore, 1) := dk_79 (dk_at dksX2_addPanel_2 17 rfl rfl)
theorem dX2_addPanel_64 : decode cX2_addPanel 64 = .ok (.dup, 1) := dk_89 (dk_at dksX2_addPanel_2 18 rfl rfl)
theorem dX2_addPanel_65 : decode cX2_addPanel 65 = .ok (.iconst 4, 1) := dk_7 (dk_at dksX2_addPanel_2 19 rfl rfl)
theorem dX2_addPanel_66 : decode cX2_addPanel 66 = .ok (.iconst 0, 1) := dk_3 (dk_at dksX2_addPanel_2 20 rfl rfl)
theorem dX2_addPanel_67 : decode cX2_addPanel 67 = .ok (.iastore, 1) := dk_79 (dk_at dksX2_addPanel_2 21 rfl rfl)
theorem dX2_addPanel_68 : decode cX2_addPanel 68 = .ok (.dup, 1) := dk_89 (dk_at dksX2_addPanel_2 22 rfl rfl)
theorem dX2_addPanel_69 : decode cX2_addPanel 69 = .ok (.iconst 5, 1) := dk_8 (dk_at dksX2_addPanel_2 23 rfl rfl)
theorem dX2_addPanel_70 : decode cX2_addPanel 70 = .ok (.iconst 0, 1) := dk_3 (dk_at dksX2_addPanel_3 0 rfl rfl)
theorem dX2_addPanel_71 : decode cX2_addPanel 71 = .ok (.iastore, 1) := dk_79 (dk_at dksX2_addPanel_3 1 rfl rfl)
theorem dX2_addPanel_72 : decode cX2_addPanel 72 = .ok (.dup, 1) := dk_89 (dk_at dksX2_addPanel_3 2 rfl rfl)
theorem dX2_addPanel_73 : decode cX2_addPanel 73 = .ok (.bipush 6, 2) := dk_16 6 (dk_at dksX2_addPanel_3 3 rfl rfl)
theorem dX2_addPanel_75 : decode cX2_addPanel 75 = .ok (.sipush 1000, 3) := dk_17 3 232 (dk_at dksX2_addPanel_3 5 rfl rfl)
theorem dX2_addPanel_78 : decode cX2_addPanel 78 = .ok (.iastore, 1) := dk_79 (dk_at dksX2_addPanel_3 8 rfl rfl)
theorem dX2_addPanel_79 : decode cX2_addPanel 79 = .ok (.dup, 1) := dk_89 (dk_at dksX2_addPanel_3 9 rfl rfl)
theorem dX2_addPanel_80 : decode cX2_addPanel 80 = .ok (.bipush 7, 2) := dk_16 7 (dk_at dksX2_addPanel_3 10 rfl rfl)
theorem dX2_addPanel_82 : decode cX2_addPanel 82 = .ok (.bipush 100, 2) := dk_16 100 (dk_at dksX2_addPanel_3 12 rfl rfl)
theorem dX2_addPanel_84 : decode cX2_addPanel 84 = .ok (.iastore, 1) := dk_79 (dk_at dksX2_addPanel_3 14 rfl rfl)
theorem dX2_addPanel_85 : decode cX2_addPanel 85 = .ok (.dup, 1) := dk_89 (dk_at dksX2_addPanel_3 15 rfl rfl)
theorem dX2_addPanel_86 : decode cX2_addPanel 86 = .ok (.bipush 8, 2) := dk_16 8 (dk_at dksX2_addPanel_3 16 rfl rfl)
theorem dX2_addPanel_88 : decode cX2_addPanel 88 = .ok (.iconst 0, 1) := dk_3 (dk_at dksX2_addPanel_3 18 rfl rfl)
theorem dX2_addPanel_89 : decode cX2_addPanel 89 = .ok (.iastore, 1) := dk_79 (dk_at dksX2_addPanel_3 19 rfl rfl)
theorem dX2_addPanel_90 : decode cX2_addPanel 90 = .ok (.dup, 1) := dk_89 (dk_at dksX2_addPanel_3 20 rfl rfl)
theorem dX2_addPanel_91 : decode cX2_addPanel 91 = .ok (.bipush 9, 2) := dk_16 9 (dk_at dksX2_addPanel_3 21 rfl rfl)
theorem dX2_addPanel_93 : decode cX2_addPanel 93 = .ok (.iconst 0, 1) := dk_3 (dk_at dksX2_addPanel_3 23 rfl rfl)
theorem dX2_addPanel_94 : decode cX2_addPanel 94 = .ok (.iastore, 1) := dk_79 (dk_at dksX2_addPanel_4 0 rfl rfl)
theorem dX2_addPanel_95 : decode cX2_addPanel 95 = .ok (.invokevirtual 99, 3) := dk_182 0 99 (dk_at dksX2_addPanel_4 1 rfl rfl)
theorem dX2_addPanel_98 : decode cX2_addPanel 98 = .ok (.pop, 1) := dk_87 (dk_at dksX2_addPanel_4 4 rfl rfl)
theorem dX2_addPanel_99 : decode cX2_addPanel 99 = .ok (.aload_n 0, 1) := dk_42 (dk_at dksX2_addPanel_4 5 rfl rfl)
theorem dX2_addPanel_100 : decode cX2_addPanel 100 = .ok (.getfield 20, 3) := dk_180 0 20 (dk_at dksX2_addPanel_4 6 rfl rfl)
theorem dX2_addPanel_103 : decode cX2_addPanel 103 = .ok (.bipush 64, 2) := dk_16 64 (dk_at dksX2_addPanel_4 9 rfl rfl)
theorem dX2_addPanel_105 : decode cX2_addPanel 105 = .ok (.newarray .int, 2) := dk_188_10 (dk_at dksX2_addPanel_4 11 rfl rfl)
theorem dX2_addPanel_107 : decode cX2_addPanel 107 = .ok (.invokevirtual 99, 3) := dk_182 0 99 (dk_at dksX2_addPanel_4 13 rfl rfl)
theorem dX2_addPanel_110 : decode cX2_addPanel 110 = .ok (.pop, 1) := dk_87 (dk_at dksX2_addPanel_4 16 rfl rfl)
theorem dX2_addPanel_111 : decode cX2_addPanel 111 = .ok (.aload_n 0, 1) := dk_42 (dk_at dksX2_addPanel_4 17 rfl rfl)
theorem dX2_addPanel_112 : decode cX2_addPanel 112 = .ok (.getfield 16, 3) := dk_180 0 16 (dk_at dksX2_addPanel_4 18 rfl rfl)
theorem dX2_addPanel_115 : decode cX2_addPanel 115 = .ok (.invokevirtual 72, 3) := dk_182 0 72 (dk_at dksX2_addPanel_4 21 rfl rfl)
theorem dX2_addPanel_118 : decode cX2_addPanel 118 = .ok (.iconst 1, 1) := dk_4 (dk_at dksX2_addPanel_5 0 rfl rfl)
theorem dX2_addPanel_119 : decode cX2_addPanel 119 = .ok (.isub, 1) := dk_100 (dk_at dksX2_addPanel_5 1 rfl rfl)
theorem dX2_addPanel_120 : decode cX2_addPanel 120 = .ok (.ireturn, 1) := dk_172 (dk_at dksX2_addPanel_5 2 rfl rfl)
abbrev cX2_in : ByteArray := prog_18_method_4_code
def yX2_in : MethodName := ⟨RX2, "in", "(III)Z"⟩
def dkwX2_in_0 : List UInt8 := [26, 27, 161, 0, 12, 26, 28, 163, 0, 7, 4, 167, 0, 4, 3, 172]
abbrev dktX2_in_0 : List UInt8 := dkwX2_in_0 ++ []
theorem dksX2_in_0 : cX2_in.data.toList.drop 0 = dktX2_in_0 := by decide +kernel
theorem dX2_in_0 : decode cX2_in 0 = .ok (.iload_n 0, 1) := dk_26 (dk_at dksX2_in_0 0 rfl rfl)
theorem dX2_in_1 : decode cX2_in 1 = .ok (.iload_n 1, 1) := dk_27 (dk_at dksX2_in_0 1 rfl rfl)
theorem dX2_in_2 : decode cX2_in 2 = .ok (.if_icmp .lt 12, 3) := dk_161 0 12 (dk_at dksX2_in_0 2 rfl rfl)
theorem dX2_in_5 : decode cX2_in 5 = .ok (.iload_n 0, 1) := dk_26 (dk_at dksX2_in_0 5 rfl rfl)
theorem dX2_in_6 : decode cX2_in 6 = .ok (.iload_n 2, 1) := dk_28 (dk_at dksX2_in_0 6 rfl rfl)
theorem dX2_in_7 : decode cX2_in 7 = .ok (.if_icmp .gt 7, 3) := dk_163 0 7 (dk_at dksX2_in_0 7 rfl rfl)
theorem dX2_in_10 : decode cX2_in 10 = .ok (.iconst 1, 1) := dk_4 (dk_at dksX2_in_0 10 rfl rfl)
theorem dX2_in_11 : decode cX2_in 11 = .ok (.goto 4, 3) := dk_167 0 4 (dk_at dksX2_in_0 11 rfl rfl)
theorem dX2_in_14 : decode cX2_in 14 = .ok (.iconst 0, 1) := dk_3 (dk_at dksX2_in_0 14 rfl rfl)
theorem dX2_in_15 : decode cX2_in 15 = .ok (.ireturn, 1) := dk_172 (dk_at dksX2_in_0 15 rfl rfl)
abbrev cX2_err : ByteArray := prog_18_method_3_code
def yX2_err : MethodName := ⟨RX2, "err", "(I)I"⟩
def dkwX2_err_0 : List UInt8 := [42, 27, 181, 0, 69, 3, 172]
abbrev dktX2_err_0 : List UInt8 := dkwX2_err_0 ++ []
theorem dksX2_err_0 : cX2_err.data.toList.drop 0 = dktX2_err_0 := by decide +kernel
theorem dX2_err_0 : decode cX2_err 0 = .ok (.aload_n 0, 1) := dk_42 (dk_at dksX2_err_0 0 rfl rfl)
theorem dX2_err_1 : decode cX2_err 1 = .ok (.iload_n 1, 1) := dk_27 (dk_at dksX2_err_0 1 rfl rfl)
theorem dX2_err_2 : decode cX2_err 2 = .ok (.putfield 69, 3) := dk_181 0 69 (dk_at dksX2_err_0 2 rfl rfl)
theorem dX2_err_5 : decode cX2_err 5 = .ok (.iconst 0, 1) := dk_3 (dk_at dksX2_err_0 5 rfl rfl)
theorem dX2_err_6 : decode cX2_err 6 = .ok (.ireturn, 1) := dk_172 (dk_at dksX2_err_0 6 rfl rfl)
abbrev cX2_setDepth : ByteArray := prog_18_method_14_code
def yX2_setDepth : MethodName := ⟨RX2, "setDepth", "(III)I"⟩
def dkwX2_setDepth_3 : List UInt8 := [46, 54, 4, 42, 180, 0, 20, 27, 182, 0, 80, 192, 0, 84, 28, 29, 79, 21, 4, 172]
abbrev dktX2_setDepth_3 : List UInt8 := dkwX2_setDepth_3 ++ []
def dkwX2_setDepth_2 : List UInt8 := [182, 0, 106, 153, 0, 9, 42, 6, 182, 0, 95, 172, 42, 180, 0, 20, 27, 182, 0, 80, 192, 0, 84, 28]
abbrev dktX2_setDepth_2 : List UInt8 := dkwX2_setDepth_2 ++ dktX2_setDepth_3
def dkwX2_setDepth_1 : List UInt8 := [184, 0, 76, 153, 0, 13, 29, 3, 16, 15, 184, 0, 76, 154, 0, 9, 42, 5, 182, 0, 95, 172, 42, 27]
abbrev dktX2_setDepth_1 : List UInt8 := dkwX2_setDepth_1 ++ dktX2_setDepth_2
def dkwX2_setDepth_0 : List UInt8 := [42, 3, 181, 0, 69, 42, 27, 182, 0, 103, 153, 0, 9, 42, 4, 182, 0, 95, 172, 28, 3, 16, 63]
abbrev dktX2_setDepth_0 : List UInt8 := dkwX2_setDepth_0 ++ dktX2_setDepth_1
theorem dksX2_setDepth_0 : cX2_setDepth.data.toList.drop 0 = dktX2_setDepth_0 := by decide +kernel
theorem dksX2_setDepth_1 : cX2_setDepth.data.toList.drop 23 = dktX2_setDepth_1 := dk_seg dksX2_setDepth_0 23 rfl rfl
theorem dksX2_setDepth_2 : cX2_setDepth.data.toList.drop 47 = dktX2_setDepth_2 := dk_seg dksX2_setDepth_1 24 rfl rfl
theorem dksX2_setDepth_3 : cX2_setDepth.data.toList.drop 71 = dktX2_setDepth_3 := dk_seg dksX2_setDepth_2 24 rfl rfl
theorem dX2_setDepth_0 : decode cX2_setDepth 0 = .ok (.aload_n 0, 1) := dk_42 (dk_at dksX2_setDepth_0 0 rfl rfl)
theorem dX2_setDepth_1 : decode cX2_setDepth 1 = .ok (.iconst 0, 1) := dk_3 (dk_at dksX2_setDepth_0 1 rfl rfl)
theorem dX2_setDepth_2 : decode cX2_setDepth 2 = .ok (.putfield 69, 3) := dk_181 0 69 (dk_at dksX2_setDepth_0 2 rfl rfl)
theorem dX2_setDepth_5 : decode cX2_setDepth 5 = .ok (.aload_n 0, 1) := dk_42 (dk_at dksX2_setDepth_0 5 rfl rfl)
theorem dX2_setDepth_6 : decode cX2_setDepth 6 = .ok (.iload_n 1, 1) := dk_27 (dk_at dksX2_setDepth_0 6 rfl rfl)
theorem dX2_setDepth_7 : decode cX2_setDepth 7 = .ok (.invokevirtual 103, 3) := dk_182 0 103 (dk_at dksX2_setDepth_0 7 rfl rfl)
theorem dX2_setDepth_10 : decode cX2_setDepth 10 = .ok (.ifCond .eq 9, 3) := dk_153 0 9 (dk_at dksX2_setDepth_0 10 rfl rfl)
theorem dX2_setDepth_13 : decode cX2_setDepth 13 = .ok (.aload_n 0, 1) := dk_42 (dk_at dksX2_setDepth_0 13 rfl rfl)
theorem dX2_setDepth_14 : decode cX2_setDepth 14 = .ok (.iconst 1, 1) := dk_4 (dk_at dksX2_setDepth_0 14 rfl rfl)
theorem dX2_setDepth_15 : decode cX2_setDepth 15 = .ok (.invokevirtual 95, 3) := dk_182 0 95 (dk_at dksX2_setDepth_0 15 rfl rfl)
theorem dX2_setDepth_18 : decode cX2_setDepth 18 = .ok (.ireturn, 1) := dk_172 (dk_at dksX2_setDepth_0 18 rfl rfl)
theorem dX2_setDepth_19 : decode cX2_setDepth 19 = .ok (.iload_n 2, 1) := dk_28 (dk_at dksX2_setDepth_0 19 rfl rfl)
theorem dX2_setDepth_20 : decode cX2_setDepth 20 = .ok (.iconst 0, 1) := dk_3 (dk_at dksX2_setDepth_0 20 rfl rfl)
theorem dX2_setDepth_21 : decode cX2_setDepth 21 = .ok (.bipush 63, 2) := dk_16 63 (dk_at dksX2_setDepth_0 21 rfl rfl)
theorem dX2_setDepth_23 : decode cX2_setDepth 23 = .ok (.invokestatic 76, 3) := dk_184 0 76 (dk_at dksX2_setDepth_1 0 rfl rfl)
theorem dX2_setDepth_26 : decode cX2_setDepth 26 = .ok (.ifCond .eq 13, 3) := dk_153 0 13 (dk_at dksX2_setDepth_1 3 rfl rfl)
theorem dX2_setDepth_29 : decode cX2_setDepth 29 = .ok (.iload_n 3, 1) := dk_29 (dk_at dksX2_setDepth_1 6 rfl rfl)
theorem dX2_setDepth_30 : decode cX2_setDepth 30 = .ok (.iconst 0, 1) := dk_3 (dk_at dksX2_setDepth_1 7 rfl rfl)
theorem dX2_setDepth_31 : decode cX2_setDepth 31 = .ok (.bipush 15, 2) := dk_16 15 (dk_at dksX2_setDepth_1 8 rfl rfl)
theorem dX2_setDepth_33 : decode cX2_setDepth 33 = .ok (.invokestatic 76, 3) := dk_184 0 76 (dk_at dksX2_setDepth_1 10 rfl rfl)
theorem dX2_setDepth_36 : decode cX2_setDepth 36 = .ok (.ifCond .ne 9, 3) := dk_154 0 9 (dk_at dksX2_setDepth_1 13 rfl rfl)
theorem dX2_setDepth_39 : decode cX2_setDepth 39 = .ok (.aload_n 0, 1) := dk_42 (dk_at dksX2_setDepth_1 16 rfl rfl)
theorem dX2_setDepth_40 : decode cX2_setDepth 40 = .ok (.iconst 2, 1) := dk_5 (dk_at dksX2_setDepth_1 17 rfl rfl)
theorem dX2_setDepth_41 : decode cX2_setDepth 41 = .ok (.invokevirtual 95, 3) := dk_182 0 95 (dk_at dksX2_setDepth_1 18 rfl rfl)
theorem dX2_setDepth_44 : decode cX2_setDepth 44 = .ok (.ireturn, 1) := dk_172 (dk_at dksX2_setDepth_1 21 rfl rfl)
theorem dX2_setDepth_45 : decode cX2_setDepth 45 = .ok (.aload_n 0, 1) := dk_42 (dk_at dksX2_setDepth_1 22 rfl rfl)
theorem dX2_setDepth_46 : decode cX2_setDepth 46 = .ok (.iload_n 1, 1) := dk_27 (dk_at dksX2_setDepth_1 23 rfl rfl)
theorem dX2_setDepth_47 : decode cX2_setDepth 47 = .ok (.invokevirtual 106, 3) := dk_182 0 106 (dk_at dksX2_setDepth_2 0 rfl rfl)
theorem dX2_setDepth_50 : decode cX2_setDepth 50 = .ok (.ifCond .eq 9, 3) := dk_153 0 9 (dk_at dksX2_setDepth_2 3 rfl rfl)
theorem dX2_setDepth_53 : decode cX2_setDepth 53 = .ok (.aload_n 0, 1) := dk_42 (dk_at dksX2_setDepth_2 6 rfl rfl)
theorem dX2_setDepth_54 : decode cX2_setDepth 54 = .ok (.iconst 3, 1) := dk_6 (dk_at dksX2_setDepth_2 7 rfl rfl)
theorem dX2_setDepth_55 : decode cX2_setDepth 55 = .ok (.invokevirtual 95, 3) := dk_182 0 95 (dk_at dksX2_setDepth_2 8 rfl rfl)
theorem dX2_setDepth_58 : decode cX2_setDepth 58 = .ok (.ireturn, 1) := dk_172 (dk_at dksX2_setDepth_2 11 rfl rfl)
theorem dX2_setDepth_59 : decode cX2_setDepth 59 = .ok (.aload_n 0, 1) := dk_42 (dk_at dksX2_setDepth_2 12 rfl rfl)
theorem dX2_setDepth_60 : decode cX2_setDepth 60 = .ok (.getfield 20, 3) := dk_180 0 20 (dk_at dksX2_setDepth_2 13 rfl rfl)
theorem dX2_setDepth_63 : decode cX2_setDepth 63 = .ok (.iload_n 1, 1) := dk_27 (dk_at dksX2_setDepth_2 16 rfl rfl)
theorem dX2_setDepth_64 : decode cX2_setDepth 64 = .ok (.invokevirtual 80, 3) := dk_182 0 80 (dk_at dksX2_setDepth_2 17 rfl rfl)
theorem dX2_setDepth_67 : decode cX2_setDepth 67 = .ok (.checkcast 84, 3) := dk_192 0 84 (dk_at dksX2_setDepth_2 20 rfl rfl)
theorem dX2_setDepth_70 : decode cX2_setDepth 70 = .ok (.iload_n 2, 1) := dk_28 (dk_at dksX2_setDepth_2 23 rfl rfl)
theorem dX2_setDepth_71 : decode cX2_setDepth 71 = .ok (.iaload, 1) := dk_46 (dk_at dksX2_setDepth_3 0 rfl rfl)
theorem dX2_setDepth_72 : decode cX2_setDepth 72 = .ok (.istore 4, 2) := dk_54 4 (dk_at dksX2_setDepth_3 1 rfl rfl)
theorem dX2_setDepth_74 : decode cX2_setDepth 74 = .ok (.aload_n 0, 1) := dk_42 (dk_at dksX2_setDepth_3 3 rfl rfl)
theorem dX2_setDepth_75 : decode cX2_setDepth 75 = .ok (.getfield 20, 3) := dk_180 0 20 (dk_at dksX2_setDepth_3 4 rfl rfl)
theorem dX2_setDepth_78 : decode cX2_setDepth 78 = .ok (.iload_n 1, 1) := dk_27 (dk_at dksX2_setDepth_3 7 rfl rfl)
theorem dX2_setDepth_79 : decode cX2_setDepth 79 = .ok (.invokevirtual 80, 3) := dk_182 0 80 (dk_at dksX2_setDepth_3 8 rfl rfl)
theorem dX2_setDepth_82 : decode cX2_setDepth 82 = .ok (.checkcast 84, 3) := dk_192 0 84 (dk_at dksX2_setDepth_3 11 rfl rfl)
theorem dX2_setDepth_85 : decode cX2_setDepth 85 = .ok (.iload_n 2, 1) := dk_28 (dk_at dksX2_setDepth_3 14 rfl rfl)
theorem dX2_setDepth_86 : decode cX2_setDepth 86 = .ok (.iload_n 3, 1) := dk_29 (dk_at dksX2_setDepth_3 15 rfl rfl)
theorem dX2_setDepth_87 : decode cX2_setDepth 87 = .ok (.iastore, 1) := dk_79 (dk_at dksX2_setDepth_3 16 rfl rfl)
theorem dX2_setDepth_88 : decode cX2_setDepth 88 = .ok (.iload 4, 2) := dk_21 4 (dk_at dksX2_setDepth_3 17 rfl rfl)
theorem dX2_setDepth_90 : decode cX2_setDepth 90 = .ok (.ireturn, 1) := dk_172 (dk_at dksX2_setDepth_3 19 rfl rfl)
abbrev cX2_noPanel : ByteArray := prog_18_method_5_code
def yX2_noPanel : MethodName := ⟨RX2, "noPanel", "(I)Z"⟩
def dkwX2_noPanel_0 : List UInt8 := [27, 3, 42, 180, 0, 16, 182, 0, 72, 4, 100, 184, 0, 76, 154, 0, 7, 4, 167, 0, 4, 3, 172]
abbrev dktX2_noPanel_0 : List UInt8 := dkwX2_noPanel_0 ++ []
theorem dksX2_noPanel_0 : cX2_noPanel.data.toList.drop 0 = dktX2_noPanel_0 := by decide +kernel
theorem dX2_noPanel_0 : decode cX2_noPanel 0 = .ok (.iload_n 1, 1) := dk_27 (dk_at dksX2_noPanel_0 0 rfl rfl)
theorem dX2_noPanel_1 : decode cX2_noPanel 1 = .ok (.iconst 0, 1) := dk_3 (dk_at dksX2_noPanel_0 1 rfl rfl)
theorem dX2_noPanel_2 : decode cX2_noPanel 2 = .ok (.aload_n 0, 1) := dk_42 (dk_at dksX2_noPanel_0 2 rfl rfl)
theorem dX2_noPanel_3 : decode cX2_noPanel 3 = .ok (.getfield 16, 3) := dk_180 0 16 (dk_at dksX2_noPanel_0 3 rfl rfl)
theorem dX2_noPanel_6 : decode cX2_noPanel 6 = .ok (.invokevirtual 72, 3) := dk_182 0 72 (dk_at dksX2_noPanel_0 6 rfl rfl)
theorem dX2_noPanel_9 : decode cX2_noPanel 9 = .ok (.iconst 1, 1) := dk_4 (dk_at dksX2_noPanel_0 9 rfl rfl)
theorem dX2_noPanel_10 : decode cX2_noPanel 10 = .ok (.isub, 1) := dk_100 (dk_at dksX2_noPanel_0 10 rfl rfl)
theorem dX2_noPanel_11 : decode cX2_noPanel 11 = .ok (.invokestatic 76, 3) := dk_184 0 76 (dk_at dksX2_noPanel_0 11 rfl rfl)
theorem dX2_noPanel_14 : decode cX2_noPanel 14 = .ok (.ifCond .ne 7, 3) := dk_154 0 7 (dk_at dksX2_noPanel_0 14 rfl rfl)
theorem dX2_noPanel_17 : decode cX2_noPanel 17 = .ok (.iconst 1, 1) := dk_4 (dk_at dksX2_noPanel_0 17 rfl rfl)
theorem dX2_noPanel_18 : decode cX2_noPanel 18 = .ok (.goto 4, 3) := dk_167 0 4 (dk_at dksX2_noPanel_0 18 rfl rfl)
theorem dX2_noPanel_21 : decode cX2_noPanel 21 = .ok (.iconst 0, 1) := dk_3 (dk_at dksX2_noPanel_0 21 rfl rfl)
theorem dX2_noPanel_22 : decode cX2_noPanel 22 = .ok (.ireturn, 1) := dk_172 (dk_at dksX2_noPanel_0 22 rfl rfl)
abbrev cX2_drowned : ByteArray := prog_18_method_12_code
def yX2_drowned : MethodName := ⟨RX2, "drowned", "(I)Z"⟩
def dkwX2_drowned_1 : List UInt8 := [172]
abbrev dktX2_drowned_1 : List UInt8 := dkwX2_drowned_1 ++ []
def dkwX2_drowned_0 : List UInt8 := [42, 27, 182, 0, 85, 153, 0, 18, 42, 180, 0, 89, 42, 180, 0, 92, 161, 0, 7, 4, 167, 0, 4, 3]
abbrev dktX2_drowned_0 : List UInt8 := dkwX2_drowned_0 ++ dktX2_drowned_1
theorem dksX2_drowned_0 : cX2_drowned.data.toList.drop 0 = dktX2_drowned_0 := by decide +kernel
theorem dksX2_drowned_1 : cX2_drowned.data.toList.drop 24 = dktX2_drowned_1 := dk_seg dksX2_drowned_0 24 rfl rfl
theorem dX2_drowned_0 : decode cX2_drowned 0 = .ok (.aload_n 0, 1) := dk_42 (dk_at dksX2_drowned_0 0 rfl rfl)
theorem dX2_drowned_1 : decode cX2_drowned 1 = .ok (.iload_n 1, 1) := dk_27 (dk_at dksX2_drowned_0 1 rfl rfl)
theorem dX2_drowned_2 : decode cX2_drowned 2 = .ok (.invokevirtual 85, 3) := dk_182 0 85 (dk_at dksX2_drowned_0 2 rfl rfl)
theorem dX2_drowned_5 : decode cX2_drowned 5 = .ok (.ifCond .eq 18, 3) := dk_153 0 18 (dk_at dksX2_drowned_0 5 rfl rfl)
theorem dX2_drowned_8 : decode cX2_drowned 8 = .ok (.aload_n 0, 1) := dk_42 (dk_at dksX2_drowned_0 8 rfl rfl)
theorem dX2_drowned_9 : decode cX2_drowned 9 = .ok (.getfield 89, 3) := dk_180 0 89 (dk_at dksX2_drowned_0 9 rfl rfl)
theorem dX2_drowned_12 : decode cX2_drowned 12 = .ok (.aload_n 0, 1) := dk_42 (dk_at dksX2_drowned_0 12 rfl rfl)
theorem dX2_drowned_13 : decode cX2_drowned 13 = .ok (.getfield 92, 3) := dk_180 0 92 (dk_at dksX2_drowned_0 13 rfl rfl)
theorem dX2_drowned_16 : decode cX2_drowned 16 = .ok (.if_icmp .lt 7, 3) := dk_161 0 7 (dk_at dksX2_drowned_0 16 rfl rfl)
theorem dX2_drowned_19 : decode cX2_drowned 19 = .ok (.iconst 1, 1) := dk_4 (dk_at dksX2_drowned_0 19 rfl rfl)
theorem dX2_drowned_20 : decode cX2_drowned 20 = .ok (.goto 4, 3) := dk_167 0 4 (dk_at dksX2_drowned_0 20 rfl rfl)
theorem dX2_drowned_23 : decode cX2_drowned 23 = .ok (.iconst 0, 1) := dk_3 (dk_at dksX2_drowned_0 23 rfl rfl)
theorem dX2_drowned_24 : decode cX2_drowned 24 = .ok (.ireturn, 1) := dk_172 (dk_at dksX2_drowned_1 0 rfl rfl)
abbrev cX2_isUnder : ByteArray := prog_18_method_11_code
def yX2_isUnder : MethodName := ⟨RX2, "isUnder", "(I)Z"⟩
def dkwX2_isUnder_1 : List UInt8 := [180, 0, 9, 162, 0, 7, 4, 167, 0, 4, 3, 172]
abbrev dktX2_isUnder_1 : List UInt8 := dkwX2_isUnder_1 ++ []
def dkwX2_isUnder_0 : List UInt8 := [42, 180, 0, 9, 2, 159, 0, 27, 42, 180, 0, 16, 27, 182, 0, 80, 192, 0, 84, 3, 46, 42]
abbrev dktX2_isUnder_0 : List UInt8 := dkwX2_isUnder_0 ++ dktX2_isUnder_1
theorem dksX2_isUnder_0 : cX2_isUnder.data.toList.drop 0 = dktX2_isUnder_0 := by decide +kernel
theorem dksX2_isUnder_1 : cX2_isUnder.data.toList.drop 22 = dktX2_isUnder_1 := dk_seg dksX2_isUnder_0 22 rfl rfl
theorem dX2_isUnder_0 : decode cX2_isUnder 0 = .ok (.aload_n 0, 1) := dk_42 (dk_at dksX2_isUnder_0 0 rfl rfl)
theorem dX2_isUnder_1 : decode cX2_isUnder 1 = .ok (.getfield 9, 3) := dk_180 0 9 (dk_at dksX2_isUnder_0 1 rfl rfl)
theorem dX2_isUnder_4 : decode cX2_isUnder 4 = .ok (.iconst (-1), 1) := dk_2 (dk_at dksX2_isUnder_0 4 rfl rfl)
theorem dX2_isUnder_5 : decode cX2_isUnder 5 = .ok (.if_icmp .eq 27, 3) := dk_159 0 27 (dk_at dksX2_isUnder_0 5 rfl rfl)
theorem dX2_isUnder_8 : decode cX2_isUnder 8 = .ok (.aload_n 0, 1) := dk_42 (dk_at dksX2_isUnder_0 8 rfl rfl)
theorem dX2_isUnder_9 : decode cX2_isUnder 9 = .ok (.getfield 16, 3) := dk_180 0 16 (dk_at dksX2_isUnder_0 9 rfl rfl)
theorem dX2_isUnder_12 : decode cX2_isUnder 12 = .ok (.iload_n 1, 1) := dk_27 (dk_at dksX2_isUnder_0 12 rfl rfl)
theorem dX2_isUnder_13 : decode cX2_isUnder 13 = .ok (.invokevirtual 80, 3) := dk_182 0 80 (dk_at dksX2_isUnder_0 13 rfl rfl)
theorem dX2_isUnder_16 : decode cX2_isUnder 16 = .ok (.checkcast 84, 3) := dk_192 0 84 (dk_at dksX2_isUnder_0 16 rfl rfl)
theorem dX2_isUnder_19 : decode cX2_isUnder 19 = .ok (.iconst 0, 1) := dk_3 (dk_at dksX2_isUnder_0 19 rfl rfl)
theorem dX2_isUnder_20 : decode cX2_isUnder 20 = .ok (.iaload, 1) := dk_46 (dk_at dksX2_isUnder_0 20 rfl rfl)
theorem dX2_isUnder_21 : decode cX2_isUnder 21 = .ok (.aload_n 0, 1) := dk_42 (dk_at dksX2_isUnder_0 21 rfl rfl)
theorem dX2_isUnder_22 : decode cX2_isUnder 22 = .ok (.getfield 9, 3) := dk_180 0 9 (dk_at dksX2_isUnder_1 0 rfl rfl)
theorem dX2_isUnder_25 : decode cX2_isUnder 25 = .ok (.if_icmp .ge 7, 3) := dk_162 0 7 (dk_at dksX2_isUnder_1 3 rfl rfl)
theorem dX2_isUnder_28 : decode cX2_isUnder 28 = .ok (.iconst 1, 1) := dk_4 (dk_at dksX2_isUnder_1 6 rfl rfl)
theorem dX2_isUnder_29 : decode cX2_isUnder 29 = .ok (.goto 4, 3) := dk_167 0 4 (dk_at dksX2_isUnder_1 7 rfl rfl)
theorem dX2_isUnder_32 : decode cX2_isUnder 32 = .ok (.iconst 0, 1) := dk_3 (dk_at dksX2_isUnder_1 10 rfl rfl)
theorem dX2_isUnder_33 : decode cX2_isUnder 33 = .ok (.ireturn, 1) := dk_172 (dk_at dksX2_isUnder_1 11 rfl rfl)
abbrev cX2_light : ByteArray := prog_18_method_15_code
def yX2_light : MethodName := ⟨RX2, "light", "(II)I"⟩
def dkwX2_light_3 : List UInt8 := [172, 45, 4, 92, 46, 4, 28, 120, 128, 79, 45, 4, 46, 184, 0, 109, 172]
abbrev dktX2_light_3 : List UInt8 := dkwX2_light_3 ++ []
def dkwX2_light_2 : List UInt8 := [42, 27, 182, 0, 106, 154, 0, 14, 45, 4, 46, 28, 122, 4, 126, 4, 160, 0, 9, 42, 6, 182, 0, 95]
abbrev dktX2_light_2 : List UInt8 := dkwX2_light_2 ++ dktX2_light_3
def dkwX2_light_1 : List UInt8 := [184, 0, 76, 154, 0, 9, 42, 5, 182, 0, 95, 172, 42, 180, 0, 16, 27, 182, 0, 80, 192, 0, 84, 78]
abbrev dktX2_light_1 : List UInt8 := dkwX2_light_1 ++ dktX2_light_2
def dkwX2_light_0 : List UInt8 := [42, 3, 181, 0, 69, 42, 27, 182, 0, 103, 153, 0, 9, 42, 4, 182, 0, 95, 172, 28, 3, 6]
abbrev dktX2_light_0 : List UInt8 := dkwX2_light_0 ++ dktX2_light_1
theorem dksX2_light_0 : cX2_light.data.toList.drop 0 = dktX2_light_0 := by decide +kernel
theorem dksX2_light_1 : cX2_light.data.toList.drop 22 = dktX2_light_1 := dk_seg dksX2_light_0 22 rfl rfl
theorem dksX2_light_2 : cX2_light.data.toList.drop 46 = dktX2_light_2 := dk_seg dksX2_light_1 24 rfl rfl
theorem dksX2_light_3 : cX2_light.data.toList.drop 70 = dktX2_light_3 := dk_seg dksX2_light_2 24 rfl rfl
theorem dX2_light_0 : decode cX2_light 0 = .ok (.aload_n 0, 1) := dk_42 (dk_at dksX2_light_0 0 rfl rfl)
theorem dX2_light_1 : decode cX2_light 1 = .ok (.iconst 0, 1) := dk_3 (dk_at dksX2_light_0 1 rfl rfl)
theorem dX2_light_2 : decode cX2_light 2 = .ok (.putfield 69, 3) := dk_181 0 69 (dk_at dksX2_light_0 2 rfl rfl)
theorem dX2_light_5 : decode cX2_light 5 = .ok (.aload_n 0, 1) := dk_42 (dk_at dksX2_light_0 5 rfl rfl)
theorem dX2_light_6 : decode cX2_light 6 = .ok (.iload_n 1, 1) := dk_27 (dk_at dksX2_light_0 6 rfl rfl)
theorem dX2_light_7 : decode cX2_light 7 = .ok (.invokevirtual 103, 3) := dk_182 0 103 (dk_at dksX2_light_0 7 rfl rfl)
theorem dX2_light_10 : decode cX2_light 10 = .ok (.ifCond .eq 9, 3) := dk_153 0 9 (dk_at dksX2_light_0 10 rfl rfl)
theorem dX2_light_13 : decode cX2_light 13 = .ok (.aload_n 0, 1) := dk_42 (dk_at dksX2_light_0 13 rfl rfl)
theorem dX2_light_14 : decode cX2_light 14 = .ok (.iconst 1, 1) := dk_4 (dk_at dksX2_light_0 14 rfl rfl)
theorem dX2_light_15 : decode cX2_light 15 = .ok (.invokevirtual 95, 3) := dk_182 0 95 (dk_at dksX2_light_0 15 rfl rfl)
theorem dX2_light_18 : decode cX2_light 18 = .ok (.ireturn, 1) := dk_172 (dk_at dksX2_light_0 18 rfl rfl)
theorem dX2_light_19 : decode cX2_light 19 = .ok (.iload_n 2, 1) := dk_28 (dk_at dksX2_light_0 19 rfl rfl)
theorem dX2_light_20 : decode cX2_light 20 = .ok (.iconst 0, 1) := dk_3 (dk_at dksX2_light_0 20 rfl rfl)
theorem dX2_light_21 : decode cX2_light 21 = .ok (.iconst 3, 1) := dk_6 (dk_at dksX2_light_0 21 rfl rfl)
theorem dX2_light_22 : decode cX2_light 22 = .ok (.invokestatic 76, 3) := dk_184 0 76 (dk_at dksX2_light_1 0 rfl rfl)
theorem dX2_light_25 : decode cX2_light 25 = .ok (.ifCond .ne 9, 3) := dk_154 0 9 (dk_at dksX2_light_1 3 rfl rfl)
theorem dX2_light_28 : decode cX2_light 28 = .ok (.aload_n 0, 1) := dk_42 (dk_at dksX2_light_1 6 rfl rfl)
theorem dX2_light_29 : decode cX2_light 29 = .ok (.iconst 2, 1) := dk_5 (dk_at dksX2_light_1 7 rfl rfl)
theorem dX2_light_30 : decode cX2_light 30 = .ok (.invokevirtual 95, 3) := dk_182 0 95 (dk_at dksX2_light_1 8 rfl rfl)
theorem dX2_light_33 : decode cX2_light 33 = .ok (.ireturn, 1) := dk_172 (dk_at dksX2_light_1 11 rfl rfl)
theorem dX2_light_34 : decode cX2_light 34 = .ok (.aload_n 0, 1) := dk_42 (dk_at dksX2_light_1 12 rfl rfl)
theorem dX2_light_35 : decode cX2_light 35 = .ok (.getfield 16, 3) := dk_180 0 16 (dk_at dksX2_light_1 13 rfl rfl)
theorem dX2_light_38 : decode cX2_light 38 = .ok (.iload_n 1, 1) := dk_27 (dk_at dksX2_light_1 16 rfl rfl)
theorem dX2_light_39 : decode cX2_light 39 = .ok (.invokevirtual 80, 3) := dk_182 0 80 (dk_at dksX2_light_1 17 rfl rfl)
theorem dX2_light_42 : decode cX2_light 42 = .ok (.checkcast 84, 3) := dk_192 0 84 (dk_at dksX2_light_1 20 rfl rfl)
theorem dX2_light_45 : decode cX2_light 45 = .ok (.astore_n 3, 1) := dk_78 (dk_at dksX2_light_1 23 rfl rfl)
theorem dX2_light_46 : decode cX2_light 46 = .ok (.aload_n 0, 1) := dk_42 (dk_at dksX2_light_2 0 rfl rfl)
theorem dX2_light_47 : decode cX2_light 47 = .ok (.iload_n 1, 1) := dk_27 (dk_at dksX2_light_2 1 rfl rfl)
theorem dX2_light_48 : decode cX2_light 48 = .ok (.invokevirtual 106, 3) := dk_182 0 106 (dk_at dksX2_light_2 2 rfl rfl)
theorem dX2_light_51 : decode cX2_light 51 = .ok (.ifCond .ne 14, 3) := dk_154 0 14 (dk_at dksX2_light_2 5 rfl rfl)
theorem dX2_light_54 : decode cX2_light 54 = .ok (.aload_n 3, 1) := dk_45 (dk_at dksX2_light_2 8 rfl rfl)
theorem dX2_light_55 : decode cX2_light 55 = .ok (.iconst 1, 1) := dk_4 (dk_at dksX2_light_2 9 rfl rfl)
theorem dX2_light_56 : decode cX2_light 56 = .ok (.iaload, 1) := dk_46 (dk_at dksX2_light_2 10 rfl rfl)
theorem dX2_light_57 : decode cX2_light 57 = .ok (.iload_n 2, 1) := dk_28 (dk_at dksX2_light_2 11 rfl rfl)
theorem dX2_light_58 : decode cX2_light 58 = .ok (.ishr, 1) := dk_122 (dk_at dksX2_light_2 12 rfl rfl)
theorem dX2_light_59 : decode cX2_light 59 = .ok (.iconst 1, 1) := dk_4 (dk_at dksX2_light_2 13 rfl rfl)
theorem dX2_light_60 : decode cX2_light 60 = .ok (.iand, 1) := dk_126 (dk_at dksX2_light_2 14 rfl rfl)
theorem dX2_light_61 : decode cX2_light 61 = .ok (.iconst 1, 1) := dk_4 (dk_at dksX2_light_2 15 rfl rfl)
theorem dX2_light_62 : decode cX2_light 62 = .ok (.if_icmp .ne 9, 3) := dk_160 0 9 (dk_at dksX2_light_2 16 rfl rfl)
theorem dX2_light_65 : decode cX2_light 65 = .ok (.aload_n 0, 1) := dk_42 (dk_at dksX2_light_2 19 rfl rfl)
theorem dX2_light_66 : decode cX2_light 66 = .ok (.iconst 3, 1) := dk_6 (dk_at dksX2_light_2 20 rfl rfl)
theorem dX2_light_67 : decode cX2_light 67 = .ok (.invokevirtual 95, 3) := dk_182 0 95 (dk_at dksX2_light_2 21 rfl rfl)
theorem dX2_light_70 : decode cX2_light 70 = .ok (.ireturn, 1) := dk_172 (dk_at dksX2_light_3 0 rfl rfl)
theorem dX2_light_71 : decode cX2_light 71 = .ok (.aload_n 3, 1) := dk_45 (dk_at dksX2_light_3 1 rfl rfl)
theorem dX2_light_72 : decode cX2_light 72 = .ok (.iconst 1, 1) := dk_4 (dk_at dksX2_light_3 2 rfl rfl)
theorem dX2_light_73 : decode cX2_light 73 = .ok (.dup2, 1) := dk_92 (dk_at dksX2_light_3 3 rfl rfl)
theorem dX2_light_74 : decode cX2_light 74 = .ok (.iaload, 1) := dk_46 (dk_at dksX2_light_3 4 rfl rfl)
theorem dX2_light_75 : decode cX2_light 75 = .ok (.iconst 1, 1) := dk_4 (dk_at dksX2_light_3 5 rfl rfl)
theorem dX2_light_76 : decode cX2_light 76 = .ok (.iload_n 2, 1) := dk_28 (dk_at dksX2_light_3 6 rfl rfl)
theorem dX2_light_77 : decode cX2_light 77 = .ok (.ishl, 1) := dk_120 (dk_at dksX2_light_3 7 rfl rfl)
theorem dX2_light_78 : decode cX2_light 78 = .ok (.ior, 1) := dk_128 (dk_at dksX2_light_3 8 rfl rfl)
theorem dX2_light_79 : decode cX2_light 79 = .ok (.iastore, 1) := dk_79 (dk_at dksX2_light_3 9 rfl rfl)
theorem dX2_light_80 : decode cX2_light 80 = .ok (.aload_n 3, 1) := dk_45 (dk_at dksX2_light_3 10 rfl rfl)
theorem dX2_light_81 : decode cX2_light 81 = .ok (.iconst 1, 1) := dk_4 (dk_at dksX2_light_3 11 rfl rfl)
theorem dX2_light_82 : decode cX2_light 82 = .ok (.iaload, 1) := dk_46 (dk_at dksX2_light_3 12 rfl rfl)
theorem dX2_light_83 : decode cX2_light 83 = .ok (.invokestatic 109, 3) := dk_184 0 109 (dk_at dksX2_light_3 13 rfl rfl)
theorem dX2_light_86 : decode cX2_light 86 = .ok (.ireturn, 1) := dk_172 (dk_at dksX2_light_3 16 rfl rfl)
abbrev cX2_seen : ByteArray := prog_18_method_18_code
def yX2_seen : MethodName := ⟨RX2, "seen", "(II)I"⟩
def dkwX2_seen_1 : List UInt8 := [184, 0, 76, 153, 0, 12, 42, 27, 28, 182, 0, 119, 167, 0, 8, 42, 5, 182, 0, 95, 172]
abbrev dktX2_seen_1 : List UInt8 := dkwX2_seen_1 ++ []
def dkwX2_seen_0 : List UInt8 := [42, 3, 181, 0, 69, 42, 27, 182, 0, 103, 153, 0, 9, 42, 4, 182, 0, 95, 172, 28, 3, 16, 63]
abbrev dktX2_seen_0 : List UInt8 := dkwX2_seen_0 ++ dktX2_seen_1
theorem dksX2_seen_0 : cX2_seen.data.toList.drop 0 = dktX2_seen_0 := by decide +kernel
theorem dksX2_seen_1 : cX2_seen.data.toList.drop 23 = dktX2_seen_1 := dk_seg dksX2_seen_0 23 rfl rfl
theorem dX2_seen_0 : decode cX2_seen 0 = .ok (.aload_n 0, 1) := dk_42 (dk_at dksX2_seen_0 0 rfl rfl)
theorem dX2_seen_1 : decode cX2_seen 1 = .ok (.iconst 0, 1) := dk_3 (dk_at dksX2_seen_0 1 rfl rfl)
theorem dX2_seen_2 : decode cX2_seen 2 = .ok (.putfield 69, 3) := dk_181 0 69 (dk_at dksX2_seen_0 2 rfl rfl)
theorem dX2_seen_5 : decode cX2_seen 5 = .ok (.aload_n 0, 1) := dk_42 (dk_at dksX2_seen_0 5 rfl rfl)
theorem dX2_seen_6 : decode cX2_seen 6 = .ok (.iload_n 1, 1) := dk_27 (dk_at dksX2_seen_0 6 rfl rfl)
theorem dX2_seen_7 : decode cX2_seen 7 = .ok (.invokevirtual 103, 3) := dk_182 0 103 (dk_at dksX2_seen_0 7 rfl rfl)
theorem dX2_seen_10 : decode cX2_seen 10 = .ok (.ifCond .eq 9, 3) := dk_153 0 9 (dk_at dksX2_seen_0 10 rfl rfl)
theorem dX2_seen_13 : decode cX2_seen 13 = .ok (.aload_n 0, 1) := dk_42 (dk_at dksX2_seen_0 13 rfl rfl)
theorem dX2_seen_14 : decode cX2_seen 14 = .ok (.iconst 1, 1) := dk_4 (dk_at dksX2_seen_0 14 rfl rfl)
theorem dX2_seen_15 : decode cX2_seen 15 = .ok (.invokevirtual 95, 3) := dk_182 0 95 (dk_at dksX2_seen_0 15 rfl rfl)
theorem dX2_seen_18 : decode cX2_seen 18 = .ok (.ireturn, 1) := dk_172 (dk_at dksX2_seen_0 18 rfl rfl)
theorem dX2_seen_19 : decode cX2_seen 19 = .ok (.iload_n 2, 1) := dk_28 (dk_at dksX2_seen_0 19 rfl rfl)
theorem dX2_seen_20 : decode cX2_seen 20 = .ok (.iconst 0, 1) := dk_3 (dk_at dksX2_seen_0 20 rfl rfl)
theorem dX2_seen_21 : decode cX2_seen 21 = .ok (.bipush 63, 2) := dk_16 63 (dk_at dksX2_seen_0 21 rfl rfl)
theorem dX2_seen_23 : decode cX2_seen 23 = .ok (.invokestatic 76, 3) := dk_184 0 76 (dk_at dksX2_seen_1 0 rfl rfl)
theorem dX2_seen_26 : decode cX2_seen 26 = .ok (.ifCond .eq 12, 3) := dk_153 0 12 (dk_at dksX2_seen_1 3 rfl rfl)
theorem dX2_seen_29 : decode cX2_seen 29 = .ok (.aload_n 0, 1) := dk_42 (dk_at dksX2_seen_1 6 rfl rfl)
theorem dX2_seen_30 : decode cX2_seen 30 = .ok (.iload_n 1, 1) := dk_27 (dk_at dksX2_seen_1 7 rfl rfl)
theorem dX2_seen_31 : decode cX2_seen 31 = .ok (.iload_n 2, 1) := dk_28 (dk_at dksX2_seen_1 8 rfl rfl)
theorem dX2_seen_32 : decode cX2_seen 32 = .ok (.invokevirtual 119, 3) := dk_182 0 119 (dk_at dksX2_seen_1 9 rfl rfl)
theorem dX2_seen_35 : decode cX2_seen 35 = .ok (.goto 8, 3) := dk_167 0 8 (dk_at dksX2_seen_1 12 rfl rfl)
theorem dX2_seen_38 : decode cX2_seen 38 = .ok (.aload_n 0, 1) := dk_42 (dk_at dksX2_seen_1 15 rfl rfl)
theorem dX2_seen_39 : decode cX2_seen 39 = .ok (.iconst 2, 1) := dk_5 (dk_at dksX2_seen_1 16 rfl rfl)
theorem dX2_seen_40 : decode cX2_seen 40 = .ok (.invokevirtual 95, 3) := dk_182 0 95 (dk_at dksX2_seen_1 17 rfl rfl)
theorem dX2_seen_43 : decode cX2_seen 43 = .ok (.ireturn, 1) := dk_172 (dk_at dksX2_seen_1 20 rfl rfl)
abbrev cX2_times : ByteArray := prog_18_method_16_code
def yX2_times : MethodName := ⟨RX2, "times", "(II)I"⟩
def dkwX2_times_7 : List UInt8 := [167, 255, 119, 21, 6, 172]
abbrev dktX2_times_7 : List UInt8 := dkwX2_times_7 ++ []
def dkwX2_times_6 : List UInt8 := [104, 21, 8, 96, 46, 100, 184, 0, 114, 6, 161, 0, 7, 4, 167, 0, 4, 3, 96, 54, 6, 132, 7, 1]
abbrev dktX2_times_6 : List UInt8 := dkwX2_times_6 ++ dktX2_times_7
def dkwX2_times_5 : List UInt8 := [21, 9, 3, 16, 7, 184, 0, 76, 154, 0, 6, 167, 0, 34, 21, 6, 45, 28, 46, 45, 16, 8, 21, 9]
abbrev dktX2_times_5 : List UInt8 := dkwX2_times_5 ++ dktX2_times_6
def dkwX2_times_4 : List UInt8 := [192, 0, 84, 4, 46, 21, 7, 122, 4, 126, 153, 0, 59, 21, 8, 3, 16, 7, 184, 0, 76, 153, 0, 48]
abbrev dktX2_times_4 : List UInt8 := dkwX2_times_4 ++ dktX2_times_5
def dkwX2_times_3 : List UInt8 := [167, 0, 13, 21, 7, 154, 0, 7, 2, 167, 0, 4, 3, 96, 54, 9, 42, 180, 0, 16, 27, 182, 0, 80]
abbrev dktX2_times_3 : List UInt8 := dkwX2_times_3 ++ dktX2_times_4
def dkwX2_times_2 : List UInt8 := [21, 7, 6, 160, 0, 7, 2, 167, 0, 4, 3, 96, 54, 8, 21, 5, 21, 7, 5, 160, 0, 7, 4]
abbrev dktX2_times_2 : List UInt8 := dkwX2_times_2 ++ dktX2_times_3
def dkwX2_times_1 : List UInt8 := [3, 54, 6, 3, 54, 7, 21, 7, 7, 162, 0, 137, 21, 4, 21, 7, 4, 160, 0, 7, 4, 167, 0, 14]
abbrev dktX2_times_1 : List UInt8 := dkwX2_times_1 ++ dktX2_times_2
def dkwX2_times_0 : List UInt8 := [42, 180, 0, 20, 27, 182, 0, 80, 192, 0, 84, 78, 28, 16, 8, 112, 54, 4, 28, 16, 8, 108, 54, 5]
abbrev dktX2_times_0 : List UInt8 := dkwX2_times_0 ++ dktX2_times_1
theorem dksX2_times_0 : cX2_times.data.toList.drop 0 = dktX2_times_0 := by decide +kernel
theorem dksX2_times_1 : cX2_times.data.toList.drop 24 = dktX2_times_1 := dk_seg dksX2_times_0 24 rfl rfl
theorem dksX2_times_2 : cX2_times.data.toList.drop 48 = dktX2_times_2 := dk_seg dksX2_times_1 24 rfl rfl
theorem dksX2_times_3 : cX2_times.data.toList.drop 71 = dktX2_times_3 := dk_seg dksX2_times_2 23 rfl rfl
theorem dksX2_times_4 : cX2_times.data.toList.drop 95 = dktX2_times_4 := dk_seg dksX2_times_3 24 rfl rfl
theorem dksX2_times_5 : cX2_times.data.toList.drop 119 = dktX2_times_5 := dk_seg dksX2_times_4 24 rfl rfl
theorem dksX2_times_6 : cX2_times.data.toList.drop 143 = dktX2_times_6 := dk_seg dksX2_times_5 24 rfl rfl
theorem dksX2_times_7 : cX2_times.data.toList.drop 167 = dktX2_times_7 := dk_seg dksX2_times_6 24 rfl rfl
theorem dX2_times_0 : decode cX2_times 0 = .ok (.aload_n 0, 1) := dk_42 (dk_at dksX2_times_0 0 rfl rfl)
theorem dX2_times_1 : decode cX2_times 1 = .ok (.getfield 20, 3) := dk_180 0 20 (dk_at dksX2_times_0 1 rfl rfl)
theorem dX2_times_4 : decode cX2_times 4 = .ok (.iload_n 1, 1) := dk_27 (dk_at dksX2_times_0 4 rfl rfl)
theorem dX2_times_5 : decode cX2_times 5 = .ok (.invokevirtual 80, 3) := dk_182 0 80 (dk_at dksX2_times_0 5 rfl rfl)
theorem dX2_times_8 : decode cX2_times 8 = .ok (.checkcast 84, 3) := dk_192 0 84 (dk_at dksX2_times_0 8 rfl rfl)
theorem dX2_times_11 : decode cX2_times 11 = .ok (.astore_n 3, 1) := dk_78 (dk_at dksX2_times_0 11 rfl rfl)
theorem dX2_times_12 : decode cX2_times 12 = .ok (.iload_n 2, 1) := dk_28 (dk_at dksX2_times_0 12 rfl rfl)
theorem dX2_times_13 : decode cX2_times 13 = .ok (.bipush 8, 2) := dk_16 8 (dk_at dksX2_times_0 13 rfl rfl)
theorem dX2_times_15 : decode cX2_times 15 = .ok (.irem, 1) := dk_112 (dk_at dksX2_times_0 15 rfl rfl)
theorem dX2_times_16 : decode cX2_times 16 = .ok (.istore 4, 2) := dk_54 4 (dk_at dksX2_times_0 16 rfl rfl)
theorem dX2_times_18 : decode cX2_times 18 = .ok (.iload_n 2, 1) := dk_28 (dk_at dksX2_times_0 18 rfl rfl)
theorem dX2_times_19 : decode cX2_times 19 = .ok (.bipush 8, 2) := dk_16 8 (dk_at dksX2_times_0 19 rfl rfl)
theorem dX2_times_21 : decode cX2_times 21 = .ok (.idiv, 1) := dk_108 (dk_at dksX2_times_0 21 rfl rfl)
theorem dX2_times_22 : decode cX2_times 22 = .ok (.istore 5, 2) := dk_54 5 (dk_at dksX2_times_0 22 rfl rfl)
theorem dX2_times_24 : decode cX2_times 24 = .ok (.iconst 0, 1) := dk_3 (dk_at dksX2_times_1 0 rfl rfl)
theorem dX2_times_25 : decode cX2_times 25 = .ok (.istore 6, 2) := dk_54 6 (dk_at dksX2_times_1 1 rfl rfl)
theorem dX2_times_27 : decode cX2_times 27 = .ok (.iconst 0, 1) := dk_3 (dk_at dksX2_times_1 3 rfl rfl)
theorem dX2_times_28 : decode cX2_times 28 = .ok (.istore 7, 2) := dk_54 7 (dk_at dksX2_times_1 4 rfl rfl)
theorem dX2_times_30 : decode cX2_times 30 = .ok (.iload 7, 2) := dk_21 7 (dk_at dksX2_times_1 6 rfl rfl)
theorem dX2_times_32 : decode cX2_times 32 = .ok (.iconst 4, 1) := dk_7 (dk_at dksX2_times_1 8 rfl rfl)
theorem dX2_times_33 : decode cX2_times 33 = .ok (.if_icmp .ge 137, 3) := dk_162 0 137 (dk_at dksX2_times_1 9 rfl rfl)
theorem dX2_times_36 : decode cX2_times 36 = .ok (.iload 4, 2) := dk_21 4 (dk_at dksX2_times_1 12 rfl rfl)
theorem dX2_times_38 : decode cX2_times 38 = .ok (.iload 7, 2) := dk_21 7 (dk_at dksX2_times_1 14 rfl rfl)
theorem dX2_times_40 : decode cX2_times 40 = .ok (.iconst 1, 1) := dk_4 (dk_at dksX2_times_1 16 rfl rfl)
theorem dX2_times_41 : decode cX2_times 41 = .ok (.if_icmp .ne 7, 3) := dk_160 0 7 (dk_at dksX2_times_1 17 rfl rfl)
theorem dX2_times_44 : decode cX2_times 44 = .ok (.iconst 1, 1) := dk_4 (dk_at dksX2_times_1 20 rfl rfl)
theorem dX2_times_45 : decode cX2_times 45 = .ok (.goto 14, 3) := dk_167 0 14 (dk_at dksX2_times_1 21 rfl rfl)
theorem dX2_times_48 : decode cX2_times 48 = .ok (.iload 7, 2) := dk_21 7 (dk_at dksX2_times_2 0 rfl rfl)
theorem dX2_times_50 : decode cX2_times 50 = .ok (.iconst 3, 1) := dk_6 (dk_at dksX2_times_2 2 rfl rfl)
theorem dX2_times_51 : decode cX2_times 51 = .ok (.if_icmp .ne 7, 3) := dk_160 0 7 (dk_at dksX2_times_2 3 rfl rfl)
theorem dX2_times_54 : decode cX2_times 54 = .ok (.iconst (-1), 1) := dk_2 (dk_at dksX2_times_2 6 rfl rfl)
theorem dX2_times_55 : decode cX2_times 55 = .ok (.goto 4, 3) := dk_167 0 4 (dk_at dksX2_times_2 7 rfl rfl)
theorem dX2_times_58 : decode cX2_times 58 = .ok (.iconst 0, 1) := dk_3 (dk_at dksX2_times_2 10 rfl rfl)
theorem dX2_times_59 : decode cX2_times 59 = .ok (.iadd, 1) := dk_96 (dk_at dksX2_times_2 11 rfl rfl)
theorem dX2_times_60 : decode cX2_times 60 = .ok (.istore 8, 2) := dk_54 8 (dk_at dksX2_times_2 12 rfl rfl)
theorem dX2_times_62 : decode cX2_times 62 = .ok (.iload 5, 2) := dk_21 5 (dk_at dksX2_times_2 14 rfl rfl)
theorem dX2_times_64 : decode cX2_times 64 = .ok (.iload 7, 2) := dk_21 7 (dk_at dksX2_times_2 16 rfl rfl)
theorem dX2_times_66 : decode cX2_times 66 = .ok (.iconst 2, 1) := dk_5 (dk_at dksX2_times_2 18 rfl rfl)
theorem dX2_times_67 : decode cX2_times 67 = .ok (.if_icmp .ne 7, 3) := dk_160 0 7 (dk_at dksX2_times_2 19 rfl rfl)
theorem dX2_times_70 : decode cX2_times 70 = .ok (.iconst 1, 1) := dk_4 (dk_at dksX2_times_2 22 rfl rfl)
theorem dX2_times_71 : decode cX2_times 71 = .ok (.goto 13, 3) := dk_167 0 13 (dk_at dksX2_times_3 0 rfl rfl)
theorem dX2_times_74 : decode cX2_times 74 = .ok (.iload 7, 2) := dk_21 7 (dk_at dksX2_times_3 3 rfl rfl)
theorem dX2_times_76 : decode cX2_times 76 = .ok (.ifCond .ne 7, 3) := dk_154 0 7 (dk_at dksX2_times_3 5 rfl rfl)
theorem dX2_times_79 : decode cX2_times 79 = .ok (.iconst (-1), 1) := dk_2 (dk_at dksX2_times_3 8 rfl rfl)
theorem dX2_times_80 : decode cX2_times 80 = .ok (.goto 4, 3) := dk_167 0 4 (dk_at dksX2_times_3 9 rfl rfl)
theorem dX2_times_83 : decode cX2_times 83 = .ok (.iconst 0, 1) := dk_3 (dk_at dksX2_times_3 12 rfl rfl)
theorem dX2_times_84 : decode cX2_times 84 = .ok (.iadd, 1) := dk_96 (dk_at dksX2_times_3 13 rfl rfl)
theorem dX2_times_85 : decode cX2_times 85 = .ok (.istore 9, 2) := dk_54 9 (dk_at dksX2_times_3 14 rfl rfl)
theorem dX2_times_87 : decode cX2_times 87 = .ok (.aload_n 0, 1) := dk_42 (dk_at dksX2_times_3 16 rfl rfl)
theorem dX2_times_88 : decode cX2_times 88 = .ok (.getfield 16, 3) := dk_180 0 16 (dk_at dksX2_times_3 17 rfl rfl)
theorem dX2_times_91 : decode cX2_times 91 = .ok (.iload_n 1, 1) := dk_27 (dk_at dksX2_times_3 20 rfl rfl)
theorem dX2_times_92 : decode cX2_times 92 = .ok (.invokevirtual 80, 3) := dk_182 0 80 (dk_at dksX2_times_3 21 rfl rfl)
theorem dX2_times_95 : decode cX2_times 95 = .ok (.checkcast 84, 3) := dk_192 0 84 (dk_at dksX2_times_4 0 rfl rfl)
theorem dX2_times_98 : decode cX2_times 98 = .ok (.iconst 1, 1) := dk_4 (dk_at dksX2_times_4 3 rfl rfl)
theorem dX2_times_99 : decode cX2_times 99 = .ok (.iaload, 1) := dk_46 (dk_at dksX2_times_4 4 rfl rfl)
theorem dX2_times_100 : decode cX2_times 100 = .ok (.iload 7, 2) := dk_21 7 (dk_at dksX2_times_4 5 rfl rfl)
theorem dX2_times_102 : decode cX2_times 102 = .ok (.ishr, 1) := dk_122 (dk_at dksX2_times_4 7 rfl rfl)
theorem dX2_times_103 : decode cX2_times 103 = .ok (.iconst 1, 1) := dk_4 (dk_at dksX2_times_4 8 rfl rfl)
theorem dX2_times_104 : decode cX2_times 104 = .ok (.iand, 1) := dk_126 (dk_at dksX2_times_4 9 rfl rfl)
theorem dX2_times_105 : decode cX2_times 105 = .ok (.ifCond .eq 59, 3) := dk_153 0 59 (dk_at dksX2_times_4 10 rfl rfl)
theorem dX2_times_108 : decode cX2_times 108 = .ok (.iload 8, 2) := dk_21 8 (dk_at dksX2_times_4 13 rfl rfl)
theorem dX2_times_110 : decode cX2_times 110 = .ok (.iconst 0, 1) := dk_3 (dk_at dksX2_times_4 15 rfl rfl)
theorem dX2_times_111 : decode cX2_times 111 = .ok (.bipush 7, 2) := dk_16 7 (dk_at dksX2_times_4 16 rfl rfl)
theorem dX2_times_113 : decode cX2_times 113 = .ok (.invokestatic 76, 3) := dk_184 0 76 (dk_at dksX2_times_4 18 rfl rfl)
theorem dX2_times_116 : decode cX2_times 116 = .ok (.ifCond .eq 48, 3) := dk_153 0 48 (dk_at dksX2_times_4 21 rfl rfl)
theorem dX2_times_119 : decode cX2_times 119 = .ok (.iload 9, 2) := dk_21 9 (dk_at dksX2_times_5 0 rfl rfl)
theorem dX2_times_121 : decode cX2_times 121 = .ok (.iconst 0, 1) := dk_3 (dk_at dksX2_times_5 2 rfl rfl)
theorem dX2_times_122 : decode cX2_times 122 = .ok (.bipush 7, 2) := dk_16 7 (dk_at dksX2_times_5 3 rfl rfl)
theorem dX2_times_124 : decode cX2_times 124 = .ok (.invokestatic 76, 3) := dk_184 0 76 (dk_at dksX2_times_5 5 rfl rfl)
theorem dX2_times_127 : decode cX2_times 127 = .ok (.ifCond .ne 6, 3) := dk_154 0 6 (dk_at dksX2_times_5 8 rfl rfl)
theorem dX2_times_130 : decode cX2_times 130 = .ok (.goto 34, 3) := dk_167 0 34 (dk_at dksX2_times_5 11 rfl rfl)
theorem dX2_times_133 : decode cX2_times 133 = .ok (.iload 6, 2) := dk_21 6 (dk_at dksX2_times_5 14 rfl rfl)
theorem dX2_times_135 : decode cX2_times 135 = .ok (.aload_n 3, 1) := dk_45 (dk_at dksX2_times_5 16 rfl rfl)
theorem dX2_times_136 : decode cX2_times 136 = .ok (.iload_n 2, 1) := dk_28 (dk_at dksX2_times_5 17 rfl rfl)
theorem dX2_times_137 : decode cX2_times 137 = .ok (.iaload, 1) := dk_46 (dk_at dksX2_times_5 18 rfl rfl)
theorem dX2_times_138 : decode cX2_times 138 = .ok (.aload_n 3, 1) := dk_45 (dk_at dksX2_times_5 19 rfl rfl)
theorem dX2_times_139 : decode cX2_times 139 = .ok (.bipush 8, 2) := dk_16 8 (dk_at dksX2_times_5 20 rfl rfl)
theorem dX2_times_141 : decode cX2_times 141 = .ok (.iload 9, 2) := dk_21 9 (dk_at dksX2_times_5 22 rfl rfl)
theorem dX2_times_143 : decode cX2_times 143 = .ok (.imul, 1) := dk_104 (dk_at dksX2_times_6 0 rfl rfl)
theorem dX2_times_144 : decode cX2_times 144 = .ok (.iload 8, 2) := dk_21 8 (dk_at dksX2_times_6 1 rfl rfl)
theorem dX2_times_146 : decode cX2_times 146 = .ok (.iadd, 1) := dk_96 (dk_at dksX2_times_6 3 rfl rfl)
theorem dX2_times_147 : decode cX2_times 147 = .ok (.iaload, 1) := dk_46 (dk_at dksX2_times_6 4 rfl rfl)
theorem dX2_times_148 : decode cX2_times 148 = .ok (.isub, 1) := dk_100 (dk_at dksX2_times_6 5 rfl rfl)
theorem dX2_times_149 : decode cX2_times 149 = .ok (.invokestatic 114, 3) := dk_184 0 114 (dk_at dksX2_times_6 6 rfl rfl)
theorem dX2_times_152 : decode cX2_times 152 = .ok (.iconst 3, 1) := dk_6 (dk_at dksX2_times_6 9 rfl rfl)
theorem dX2_times_153 : decode cX2_times 153 = .ok (.if_icmp .lt 7, 3) := dk_161 0 7 (dk_at dksX2_times_6 10 rfl rfl)
theorem dX2_times_156 : decode cX2_times 156 = .ok (.iconst 1, 1) := dk_4 (dk_at dksX2_times_6 13 rfl rfl)
theorem dX2_times_157 : decode cX2_times 157 = .ok (.goto 4, 3) := dk_167 0 4 (dk_at dksX2_times_6 14 rfl rfl)
theorem dX2_times_160 : decode cX2_times 160 = .ok (.iconst 0, 1) := dk_3 (dk_at dksX2_times_6 17 rfl rfl)
theorem dX2_times_161 : decode cX2_times 161 = .ok (.iadd, 1) := dk_96 (dk_at dksX2_times_6 18 rfl rfl)
theorem dX2_times_162 : decode cX2_times 162 = .ok (.istore 6, 2) := dk_54 6 (dk_at dksX2_times_6 19 rfl rfl)
theorem dX2_times_164 : decode cX2_times 164 = .ok (.iinc 7 1, 3) := dk_132 7 1 (dk_at dksX2_times_6 21 rfl rfl)
theorem dX2_times_167 : decode cX2_times 167 = .ok (.goto (-137), 3) := dk_167 255 119 (dk_at dksX2_times_7 0 rfl rfl)
theorem dX2_times_170 : decode cX2_times 170 = .ok (.iload 6, 2) := dk_21 6 (dk_at dksX2_times_7 3 rfl rfl)
theorem dX2_times_172 : decode cX2_times 172 = .ok (.ireturn, 1) := dk_172 (dk_at dksX2_times_7 5 rfl rfl)
abbrev cX2_edges : ByteArray := prog_18_method_19_code
def yX2_edges : MethodName := ⟨RX2, "edges", "(II)J"⟩
def dkwX2_edges_1 : List UInt8 := [184, 0, 76, 153, 0, 12, 42, 27, 28, 182, 0, 123, 167, 0, 9, 42, 5, 182, 0, 95, 133, 173]
abbrev dktX2_edges_1 : List UInt8 := dkwX2_edges_1 ++ []
def dkwX2_edges_0 : List UInt8 := [42, 3, 181, 0, 69, 42, 27, 182, 0, 103, 153, 0, 10, 42, 4, 182, 0, 95, 133, 173, 28, 4, 7]
abbrev dktX2_edges_0 : List UInt8 := dkwX2_edges_0 ++ dktX2_edges_1
theorem dksX2_edges_0 : cX2_edges.data.toList.drop 0 = dktX2_edges_0 := by decide +kernel
theorem dksX2_edges_1 : cX2_edges.data.toList.drop 23 = dktX2_edges_1 := dk_seg dksX2_edges_0 23 rfl rfl
theorem dX2_edges_0 : decode cX2_edges 0 = .ok (.aload_n 0, 1) := dk_42 (dk_at dksX2_edges_0 0 rfl rfl)
theorem dX2_edges_1 : decode cX2_edges 1 = .ok (.iconst 0, 1) := dk_3 (dk_at dksX2_edges_0 1 rfl rfl)
theorem dX2_edges_2 : decode cX2_edges 2 = .ok (.putfield 69, 3) := dk_181 0 69 (dk_at dksX2_edges_0 2 rfl rfl)
theorem dX2_edges_5 : decode cX2_edges 5 = .ok (.aload_n 0, 1) := dk_42 (dk_at dksX2_edges_0 5 rfl rfl)
theorem dX2_edges_6 : decode cX2_edges 6 = .ok (.iload_n 1, 1) := dk_27 (dk_at dksX2_edges_0 6 rfl rfl)
theorem dX2_edges_7 : decode cX2_edges 7 = .ok (.invokevirtual 103, 3) := dk_182 0 103 (dk_at dksX2_edges_0 7 rfl rfl)
theorem dX2_edges_10 : decode cX2_edges 10 = .ok (.ifCond .eq 10, 3) := dk_153 0 10 (dk_at dksX2_edges_0 10 rfl rfl)
theorem dX2_edges_13 : decode cX2_edges 13 = .ok (.aload_n 0, 1) := dk_42 (dk_at dksX2_edges_0 13 rfl rfl)
theorem dX2_edges_14 : decode cX2_edges 14 = .ok (.iconst 1, 1) := dk_4 (dk_at dksX2_edges_0 14 rfl rfl)
theorem dX2_edges_15 : decode cX2_edges 15 = .ok (.invokevirtual 95, 3) := dk_182 0 95 (dk_at dksX2_edges_0 15 rfl rfl)
theorem dX2_edges_18 : decode cX2_edges 18 = .ok (.i2l, 1) := dk_133 (dk_at dksX2_edges_0 18 rfl rfl)
theorem dX2_edges_19 : decode cX2_edges 19 = .ok (.lreturn, 1) := dk_173 (dk_at dksX2_edges_0 19 rfl rfl)
theorem dX2_edges_20 : decode cX2_edges 20 = .ok (.iload_n 2, 1) := dk_28 (dk_at dksX2_edges_0 20 rfl rfl)
theorem dX2_edges_21 : decode cX2_edges 21 = .ok (.iconst 1, 1) := dk_4 (dk_at dksX2_edges_0 21 rfl rfl)
theorem dX2_edges_22 : decode cX2_edges 22 = .ok (.iconst 4, 1) := dk_7 (dk_at dksX2_edges_0 22 rfl rfl)
theorem dX2_edges_23 : decode cX2_edges 23 = .ok (.invokestatic 76, 3) := dk_184 0 76 (dk_at dksX2_edges_1 0 rfl rfl)
theorem dX2_edges_26 : decode cX2_edges 26 = .ok (.ifCond .eq 12, 3) := dk_153 0 12 (dk_at dksX2_edges_1 3 rfl rfl)
theorem dX2_edges_29 : decode cX2_edges 29 = .ok (.aload_n 0, 1) := dk_42 (dk_at dksX2_edges_1 6 rfl rfl)
theorem dX2_edges_30 : decode cX2_edges 30 = .ok (.iload_n 1, 1) := dk_27 (dk_at dksX2_edges_1 7 rfl rfl)
theorem dX2_edges_31 : decode cX2_edges 31 = .ok (.iload_n 2, 1) := dk_28 (dk_at dksX2_edges_1 8 rfl rfl)
theorem dX2_edges_32 : decode cX2_edges 32 = .ok (.invokevirtual 123, 3) := dk_182 0 123 (dk_at dksX2_edges_1 9 rfl rfl)
theorem dX2_edges_35 : decode cX2_edges 35 = .ok (.goto 9, 3) := dk_167 0 9 (dk_at dksX2_edges_1 12 rfl rfl)
theorem dX2_edges_38 : decode cX2_edges 38 = .ok (.aload_n 0, 1) := dk_42 (dk_at dksX2_edges_1 15 rfl rfl)
theorem dX2_edges_39 : decode cX2_edges 39 = .ok (.iconst 2, 1) := dk_5 (dk_at dksX2_edges_1 16 rfl rfl)
theorem dX2_edges_40 : decode cX2_edges 40 = .ok (.invokevirtual 95, 3) := dk_182 0 95 (dk_at dksX2_edges_1 17 rfl rfl)
theorem dX2_edges_43 : decode cX2_edges 43 = .ok (.i2l, 1) := dk_133 (dk_at dksX2_edges_1 20 rfl rfl)
theorem dX2_edges_44 : decode cX2_edges 44 = .ok (.lreturn, 1) := dk_173 (dk_at dksX2_edges_1 21 rfl rfl)
abbrev cX2_often : ByteArray := prog_18_method_17_code
def yX2_often : MethodName := ⟨RX2, "often", "(II)J"⟩
def dkwX2_often_1 : List UInt8 := [10, 21, 5, 121, 129, 66, 132, 5, 1, 167, 255, 228, 33, 173]
abbrev dktX2_often_1 : List UInt8 := dkwX2_often_1 ++ []
def dkwX2_often_0 : List UInt8 := [9, 66, 3, 54, 5, 21, 5, 16, 64, 162, 0, 27, 42, 27, 21, 5, 182, 0, 119, 28, 161, 0, 10, 33]
abbrev dktX2_often_0 : List UInt8 := dkwX2_often_0 ++ dktX2_often_1
theorem dksX2_often_0 : cX2_often.data.toList.drop 0 = dktX2_often_0 := by decide +kernel
theorem dksX2_often_1 : cX2_often.data.toList.drop 24 = dktX2_often_1 := dk_seg dksX2_often_0 24 rfl rfl
theorem dX2_often_0 : decode cX2_often 0 = .ok (.lconst 0, 1) := dk_9 (dk_at dksX2_often_0 0 rfl rfl)
theorem dX2_often_1 : decode cX2_often 1 = .ok (.lstore_n 3, 1) := dk_66 (dk_at dksX2_often_0 1 rfl rfl)
theorem dX2_often_2 : decode cX2_often 2 = .ok (.iconst 0, 1) := dk_3 (dk_at dksX2_often_0 2 rfl rfl)
theorem dX2_often_3 : decode cX2_often 3 = .ok (.istore 5, 2) := dk_54 5 (dk_at dksX2_often_0 3 rfl rfl)
theorem dX2_often_5 : decode cX2_often 5 = .ok (.iload 5, 2) := dk_21 5 (dk_at dksX2_often_0 5 rfl rfl)
theorem dX2_often_7 : decode cX2_often 7 = .ok (.bipush 64, 2) := dk_16 64 (dk_at dksX2_often_0 7 rfl rfl)
theorem dX2_often_9 : decode cX2_often 9 = .ok (.if_icmp .ge 27, 3) := dk_162 0 27 (dk_at dksX2_often_0 9 rfl rfl)
theorem dX2_often_12 : decode cX2_often 12 = .ok (.aload_n 0, 1) := dk_42 (dk_at dksX2_often_0 12 rfl rfl)
theorem dX2_often_13 : decode cX2_often 13 = .ok (.iload_n 1, 1) := dk_27 (dk_at dksX2_often_0 13 rfl rfl)
theorem dX2_often_14 : decode cX2_often 14 = .ok (.iload 5, 2) := dk_21 5 (dk_at dksX2_often_0 14 rfl rfl)
theorem dX2_often_16 : decode cX2_often 16 = .ok (.invokevirtual 119, 3) := dk_182 0 119 (dk_at dksX2_often_0 16 rfl rfl)
theorem dX2_often_19 : decode cX2_often 19 = .ok (.iload_n 2, 1) := dk_28 (dk_at dksX2_often_0 19 rfl rfl)
theorem dX2_often_20 : decode cX2_often 20 = .ok (.if_icmp .lt 10, 3) := dk_161 0 10 (dk_at dksX2_often_0 20 rfl rfl)
theorem dX2_often_23 : decode cX2_often 23 = .ok (.lload_n 3, 1) := dk_33 (dk_at dksX2_often_0 23 rfl rfl)
theorem dX2_often_24 : decode cX2_often 24 = .ok (.lconst 1, 1) := dk_10 (dk_at dksX2_often_1 0 rfl rfl)
theorem dX2_often_25 : decode cX2_often 25 = .ok (.iload 5, 2) := dk_21 5 (dk_at dksX2_often_1 1 rfl rfl)
theorem dX2_often_27 : decode cX2_often 27 = .ok (.lshl, 1) := dk_121 (dk_at dksX2_often_1 3 rfl rfl)
theorem dX2_often_28 : decode cX2_often 28 = .ok (.lor, 1) := dk_129 (dk_at dksX2_often_1 4 rfl rfl)
theorem dX2_often_29 : decode cX2_often 29 = .ok (.lstore_n 3, 1) := dk_66 (dk_at dksX2_often_1 5 rfl rfl)
theorem dX2_often_30 : decode cX2_often 30 = .ok (.iinc 5 1, 3) := dk_132 5 1 (dk_at dksX2_often_1 6 rfl rfl)
theorem dX2_often_33 : decode cX2_often 33 = .ok (.goto (-28), 3) := dk_167 255 228 (dk_at dksX2_often_1 9 rfl rfl)
theorem dX2_often_36 : decode cX2_often 36 = .ok (.lload_n 3, 1) := dk_33 (dk_at dksX2_often_1 12 rfl rfl)
theorem dX2_often_37 : decode cX2_often 37 = .ok (.lreturn, 1) := dk_173 (dk_at dksX2_often_1 13 rfl rfl)
abbrev cX2_addStroke : ByteArray := prog_18_method_20_code
def yX2_addStroke : MethodName := ⟨RX2, "addStroke", "(IJ)I"⟩
def dkwX2_addStroke_4 : List UInt8 := [182, 0, 72, 4, 100, 172]
abbrev dktX2_addStroke_4 : List UInt8 := dkwX2_addStroke_4 ++ []
def dkwX2_addStroke_3 : List UInt8 := [42, 180, 0, 27, 5, 188, 10, 89, 3, 27, 79, 89, 4, 3, 79, 182, 0, 99, 87, 42, 180, 0, 27]
abbrev dktX2_addStroke_3 : List UInt8 := dkwX2_addStroke_3 ++ dktX2_addStroke_4
def dkwX2_addStroke_2 : List UInt8 := [16, 60, 160, 0, 9, 42, 6, 182, 0, 95, 172, 42, 180, 0, 30, 42, 180, 0, 27, 182, 0, 72, 32, 80]
abbrev dktX2_addStroke_2 : List UInt8 := dkwX2_addStroke_2 ++ dktX2_addStroke_3
def dkwX2_addStroke_1 : List UInt8 := [154, 0, 9, 42, 5, 182, 0, 95, 172, 42, 27, 182, 0, 106, 154, 0, 15, 42, 180, 0, 27, 182, 0, 72]
abbrev dktX2_addStroke_1 : List UInt8 := dkwX2_addStroke_1 ++ dktX2_addStroke_2
def dkwX2_addStroke_0 : List UInt8 := [42, 3, 181, 0, 69, 42, 27, 182, 0, 103, 153, 0, 9, 42, 4, 182, 0, 95, 172, 32, 9, 148]
abbrev dktX2_addStroke_0 : List UInt8 := dkwX2_addStroke_0 ++ dktX2_addStroke_1
theorem dksX2_addStroke_0 : cX2_addStroke.data.toList.drop 0 = dktX2_addStroke_0 := by decide +kernel
theorem dksX2_addStroke_1 : cX2_addStroke.data.toList.drop 22 = dktX2_addStroke_1 := dk_seg dksX2_addStroke_0 22 rfl rfl
theorem dksX2_addStroke_2 : cX2_addStroke.data.toList.drop 46 = dktX2_addStroke_2 := dk_seg dksX2_addStroke_1 24 rfl rfl
theorem dksX2_addStroke_3 : cX2_addStroke.data.toList.drop 70 = dktX2_addStroke_3 := dk_seg dksX2_addStroke_2 24 rfl rfl
theorem dksX2_addStroke_4 : cX2_addStroke.data.toList.drop 93 = dktX2_addStroke_4 := dk_seg dksX2_addStroke_3 23 rfl rfl
theorem dX2_addStroke_0 : decode cX2_addStroke 0 = .ok (.aload_n 0, 1) := dk_42 (dk_at dksX2_addStroke_0 0 rfl rfl)
theorem dX2_addStroke_1 : decode cX2_addStroke 1 = .ok (.iconst 0, 1) := dk_3 (dk_at dksX2_addStroke_0 1 rfl rfl)
theorem dX2_addStroke_2 : decode cX2_addStroke 2 = .ok (.putfield 69, 3) := dk_181 0 69 (dk_at dksX2_addStroke_0 2 rfl rfl)
theorem dX2_addStroke_5 : decode cX2_addStroke 5 = .ok (.aload_n 0, 1) := dk_42 (dk_at dksX2_addStroke_0 5 rfl rfl)
theorem dX2_addStroke_6 : decode cX2_addStroke 6 = .ok (.iload_n 1, 1) := dk_27 (dk_at dksX2_addStroke_0 6 rfl rfl)
theorem dX2_addStroke_7 : decode cX2_addStroke 7 = .ok (.invokevirtual 103, 3) := dk_182 0 103 (dk_at dksX2_addStroke_0 7 rfl rfl)
theorem dX2_addStroke_10 : decode cX2_addStroke 10 = .ok (.ifCond .eq 9, 3) := dk_153 0 9 (dk_at dksX2_addStroke_0 10 rfl rfl)
theorem dX2_addStroke_13 : decode cX2_addStroke 13 = .ok (.aload_n 0, 1) := dk_42 (dk_at dksX2_addStroke_0 13 rfl rfl)
theorem dX2_addStroke_14 : decode cX2_addStroke 14 = .ok (.iconst 1, 1) := dk_4 (dk_at dksX2_addStroke_0 14 rfl rfl)
theorem dX2_addStroke_15 : decode cX2_addStroke 15 = .ok (.invokevirtual 95, 3) := dk_182 0 95 (dk_at dksX2_addStroke_0 15 rfl rfl)
theorem dX2_addStroke_18 : decode cX2_addStroke 18 = .ok (.ireturn, 1) := dk_172 (dk_at dksX2_addStroke_0 18 rfl rfl)
theorem dX2_addStroke_19 : decode cX2_addStroke 19 = .ok (.lload_n 2, 1) := dk_32 (dk_at dksX2_addStroke_0 19 rfl rfl)
theorem dX2_addStroke_20 : decode cX2_addStroke 20 = .ok (.lconst 0, 1) := dk_9 (dk_at dksX2_addStroke_0 20 rfl rfl)
theorem dX2_addStroke_21 : decode cX2_addStroke 21 = .ok (.lcmp, 1) := dk_148 (dk_at dksX2_addStroke_0 21 rfl rfl)
theorem dX2_addStroke_22 : decode cX2_addStroke 22 = .ok (.ifCond .ne 9, 3) := dk_154 0 9 (dk_at dksX2_addStroke_1 0 rfl rfl)
theorem dX2_addStroke_25 : decode cX2_addStroke 25 = .ok (.aload_n 0, 1) := dk_42 (dk_at dksX2_addStroke_1 3 rfl rfl)
theorem dX2_addStroke_26 : decode cX2_addStroke 26 = .ok (.iconst 2, 1) := dk_5 (dk_at dksX2_addStroke_1 4 rfl rfl)
theorem dX2_addStroke_27 : decode cX2_addStroke 27 = .ok (.invokevirtual 95, 3) := dk_182 0 95 (dk_at dksX2_addStroke_1 5 rfl rfl)
theorem dX2_addStroke_30 : decode cX2_addStroke 30 = .ok (.ireturn, 1) := dk_172 (dk_at dksX2_addStroke_1 8 rfl rfl)
theorem dX2_addStroke_31 : decode cX2_addStroke 31 = .ok (.aload_n 0, 1) := dk_42 (dk_at dksX2_addStroke_1 9 rfl rfl)
theorem dX2_addStroke_32 : decode cX2_addStroke 32 = .ok (.iload_n 1, 1) := dk_27 (dk_at dksX2_addStroke_1 10 rfl rfl)
theorem dX2_addStroke_33 : decode cX2_addStroke 33 = .ok (.invokevirtual 106, 3) := dk_182 0 106 (dk_at dksX2_addStroke_1 11 rfl rfl)
theorem dX2_addStroke_36 : decode cX2_addStroke 36 = .ok (.ifCond .ne 15, 3) := dk_154 0 15 (dk_at dksX2_addStroke_1 14 rfl rfl)
theorem dX2_addStroke_39 : decode cX2_addStroke 39 = .ok (.aload_n 0, 1) := dk_42 (dk_at dksX2_addStroke_1 17 rfl rfl)
theorem dX2_addStroke_40 : decode cX2_addStroke 40 = .ok (.getfield 27, 3) := dk_180 0 27 (dk_at dksX2_addStroke_1 18 rfl rfl)
theorem dX2_addStroke_43 : decode cX2_addStroke 43 = .ok (.invokevirtual 72, 3) := dk_182 0 72 (dk_at dksX2_addStroke_1 21 rfl rfl)
theorem dX2_addStroke_46 : decode cX2_addStroke 46 = .ok (.bipush 60, 2) := dk_16 60 (dk_at dksX2_addStroke_2 0 rfl rfl)
theorem dX2_addStroke_48 : decode cX2_addStroke 48 = .ok (.if_icmp .ne 9, 3) := dk_160 0 9 (dk_at dksX2_addStroke_2 2 rfl rfl)
theorem dX2_addStroke_51 : decode cX2_addStroke 51 = .ok (.aload_n 0, 1) := dk_42 (dk_at dksX2_addStroke_2 5 rfl rfl)
theorem dX2_addStroke_52 : decode cX2_addStroke 52 = .ok (.iconst 3, 1) := dk_6 (dk_at dksX2_addStroke_2 6 rfl rfl)
theorem dX2_addStroke_53 : decode cX2_addStroke 53 = .ok (.invokevirtual 95, 3) := dk_182 0 95 (dk_at dksX2_addStroke_2 7 rfl rfl)
theorem dX2_addStroke_56 : decode cX2_addStroke 56 = .ok (.ireturn, 1) := dk_172 (dk_at dksX2_addStroke_2 10 rfl rfl)
theorem dX2_addStroke_57 : decode cX2_addStroke 57 = .ok (.aload_n 0, 1) := dk_42 (dk_at dksX2_addStroke_2 11 rfl rfl)
theorem dX2_addStroke_58 : decode cX2_addStroke 58 = .ok (.getfield 30, 3) := dk_180 0 30 (dk_at dksX2_addStroke_2 12 rfl rfl)
theorem dX2_addStroke_61 : decode cX2_addStroke 61 = .ok (.aload_n 0, 1) := dk_42 (dk_at dksX2_addStroke_2 15 rfl rfl)
theorem dX2_addStroke_62 : decode cX2_addStroke 62 = .ok (.getfield 27, 3) := dk_180 0 27 (dk_at dksX2_addStroke_2 16 rfl rfl)
theorem dX2_addStroke_65 : decode cX2_addStroke 65 = .ok (.invokevirtual 72, 3) := dk_182 0 72 (dk_at dksX2_addStroke_2 19 rfl rfl)
theorem dX2_addStroke_68 : decode cX2_addStroke 68 = .ok (.lload_n 2, 1) := dk_32 (dk_at dksX2_addStroke_2 22 rfl rfl)
theorem dX2_addStroke_69 : decode cX2_addStroke 69 = .ok (.lastore, 1) := dk_80 (dk_at dksX2_addStroke_2 23 rfl rfl)
theorem dX2_addStroke_70 : decode cX2_addStroke 70 = .ok (.aload_n 0, 1) := dk_42 (dk_at dksX2_addStroke_3 0 rfl rfl)
theorem dX2_addStroke_71 : decode cX2_addStroke 71 = .ok (.getfield 27, 3) := dk_180 0 27 (dk_at dksX2_addStroke_3 1 rfl rfl)
theorem dX2_addStroke_74 : decode cX2_addStroke 74 = .ok (.iconst 2, 1) := dk_5 (dk_at dksX2_addStroke_3 4 rfl rfl)
theorem dX2_addStroke_75 : decode cX2_addStroke 75 = .ok (.newarray .int, 2) := dk_188_10 (dk_at dksX2_addStroke_3 5 rfl rfl)
theorem dX2_addStroke_77 : decode cX2_addStroke 77 = .ok (.dup, 1) := dk_89 (dk_at dksX2_addStroke_3 7 rfl rfl)
theorem dX2_addStroke_78 : decode cX2_addStroke 78 = .ok (.iconst 0, 1) := dk_3 (dk_at dksX2_addStroke_3 8 rfl rfl)
theorem dX2_addStroke_79 : decode cX2_addStroke 79 = .ok (.iload_n 1, 1) := dk_27 (dk_at dksX2_addStroke_3 9 rfl rfl)
theorem dX2_addStroke_80 : decode cX2_addStroke 80 = .ok (.iastore, 1) := dk_79 (dk_at dksX2_addStroke_3 10 rfl rfl)
theorem dX2_addStroke_81 : decode cX2_addStroke 81 = .ok (.dup, 1) := dk_89 (dk_at dksX2_addStroke_3 11 rfl rfl)
theorem dX2_addStroke_82 : decode cX2_addStroke 82 = .ok (.iconst 1, 1) := dk_4 (dk_at dksX2_addStroke_3 12 rfl rfl)
theorem dX2_addStroke_83 : decode cX2_addStroke 83 = .ok (.iconst 0, 1) := dk_3 (dk_at dksX2_addStroke_3 13 rfl rfl)
theorem dX2_addStroke_84 : decode cX2_addStroke 84 = .ok (.iastore, 1) := dk_79 (dk_at dksX2_addStroke_3 14 rfl rfl)
theorem dX2_addStroke_85 : decode cX2_addStroke 85 = .ok (.invokevirtual 99, 3) := dk_182 0 99 (dk_at dksX2_addStroke_3 15 rfl rfl)
theorem dX2_addStroke_88 : decode cX2_addStroke 88 = .ok (.pop, 1) := dk_87 (dk_at dksX2_addStroke_3 18 rfl rfl)
theorem dX2_addStroke_89 : decode cX2_addStroke 89 = .ok (.aload_n 0, 1) := dk_42 (dk_at dksX2_addStroke_3 19 rfl rfl)
theorem dX2_addStroke_90 : decode cX2_addStroke 90 = .ok (.getfield 27, 3) := dk_180 0 27 (dk_at dksX2_addStroke_3 20 rfl rfl)
theorem dX2_addStroke_93 : decode cX2_addStroke 93 = .ok (.invokevirtual 72, 3) := dk_182 0 72 (dk_at dksX2_addStroke_4 0 rfl rfl)
theorem dX2_addStroke_96 : decode cX2_addStroke 96 = .ok (.iconst 1, 1) := dk_4 (dk_at dksX2_addStroke_4 3 rfl rfl)
theorem dX2_addStroke_97 : decode cX2_addStroke 97 = .ok (.isub, 1) := dk_100 (dk_at dksX2_addStroke_4 4 rfl rfl)
theorem dX2_addStroke_98 : decode cX2_addStroke 98 = .ok (.ireturn, 1) := dk_172 (dk_at dksX2_addStroke_4 5 rfl rfl)
abbrev cX2_addFigure : ByteArray := prog_18_method_21_code
def yX2_addFigure : MethodName := ⟨RX2, "addFigure", "(I)I"⟩
def dkwX2_addFigure_4 : List UInt8 := [89, 5, 3, 79, 182, 0, 99, 87, 42, 180, 0, 33, 182, 0, 72, 4, 100, 172]
abbrev dktX2_addFigure_4 : List UInt8 := dkwX2_addFigure_4 ++ []
def dkwX2_addFigure_3 : List UInt8 := [160, 0, 9, 42, 5, 182, 0, 95, 172, 42, 180, 0, 33, 6, 188, 10, 89, 3, 27, 79, 89, 4, 3, 79]
abbrev dktX2_addFigure_3 : List UInt8 := dkwX2_addFigure_3 ++ dktX2_addFigure_4
def dkwX2_addFigure_2 : List UInt8 := [3, 96, 61, 132, 3, 1, 167, 255, 225, 42, 180, 0, 33, 182, 0, 72, 16, 24, 159, 0, 9, 28, 16, 8]
abbrev dktX2_addFigure_2 : List UInt8 := dkwX2_addFigure_2 ++ dktX2_addFigure_3
def dkwX2_addFigure_1 : List UInt8 := [42, 180, 0, 33, 182, 0, 72, 162, 0, 26, 28, 42, 29, 182, 0, 127, 27, 160, 0, 7, 4, 167, 0, 4]
abbrev dktX2_addFigure_1 : List UInt8 := dkwX2_addFigure_1 ++ dktX2_addFigure_2
def dkwX2_addFigure_0 : List UInt8 := [42, 3, 181, 0, 69, 42, 27, 182, 0, 103, 153, 0, 9, 42, 4, 182, 0, 95, 172, 3, 61, 3, 62, 29]
abbrev dktX2_addFigure_0 : List UInt8 := dkwX2_addFigure_0 ++ dktX2_addFigure_1
theorem dksX2_addFigure_0 : cX2_addFigure.data.toList.drop 0 = dktX2_addFigure_0 := by decide +kernel
theorem dksX2_addFigure_1 : cX2_addFigure.data.toList.drop 24 = dktX2_addFigure_1 := dk_seg dksX2_addFigure_0 24 rfl rfl
theorem dksX2_addFigure_2 : cX2_addFigure.data.toList.drop 48 = dktX2_addFigure_2 := dk_seg dksX2_addFigure_1 24 rfl rfl
theorem dksX2_addFigure_3 : cX2_addFigure.data.toList.drop 72 = dktX2_addFigure_3 := dk_seg dksX2_addFigure_2 24 rfl rfl
theorem dksX2_addFigure_4 : cX2_addFigure.data.toList.drop 96 = dktX2_addFigure_4 := dk_seg dksX2_addFigure_3 24 rfl rfl
theorem dX2_addFigure_0 : decode cX2_addFigure 0 = .ok (.aload_n 0, 1) := dk_42 (dk_at dksX2_addFigure_0 0 rfl rfl)
theorem dX2_addFigure_1 : decode cX2_addFigure 1 = .ok (.iconst 0, 1) := dk_3 (dk_at dksX2_addFigure_0 1 rfl rfl)
theorem dX2_addFigure_2 : decode cX2_addFigure 2 = .ok (.putfield 69, 3) := dk_181 0 69 (dk_at dksX2_addFigure_0 2 rfl rfl)
theorem dX2_addFigure_5 : decode cX2_addFigure 5 = .ok (.aload_n 0, 1) := dk_42 (dk_at dksX2_addFigure_0 5 rfl rfl)
theorem dX2_addFigure_6 : decode cX2_addFigure 6 = .ok (.iload_n 1, 1) := dk_27 (dk_at dksX2_addFigure_0 6 rfl rfl)
theorem dX2_addFigure_7 : decode cX2_addFigure 7 = .ok (.invokevirtual 103, 3) := dk_182 0 103 (dk_at dksX2_addFigure_0 7 rfl rfl)
theorem dX2_addFigure_10 : decode cX2_addFigure 10 = .ok (.ifCond .eq 9, 3) := dk_153 0 9 (dk_at dksX2_addFigure_0 10 rfl rfl)
theorem dX2_addFigure_13 : decode cX2_addFigure 13 = .ok (.aload_n 0, 1) := dk_42 (dk_at dksX2_addFigure_0 13 rfl rfl)
theorem dX2_addFigure_14 : decode cX2_addFigure 14 = .ok (.iconst 1, 1) := dk_4 (dk_at dksX2_addFigure_0 14 rfl rfl)
theorem dX2_addFigure_15 : decode cX2_addFigure 15 = .ok (.invokevirtual 95, 3) := dk_182 0 95 (dk_at dksX2_addFigure_0 15 rfl rfl)
theorem dX2_addFigure_18 : decode cX2_addFigure 18 = .ok (.ireturn, 1) := dk_172 (dk_at dksX2_addFigure_0 18 rfl rfl)
theorem dX2_addFigure_19 : decode cX2_addFigure 19 = .ok (.iconst 0, 1) := dk_3 (dk_at dksX2_addFigure_0 19 rfl rfl)
theorem dX2_addFigure_20 : decode cX2_addFigure 20 = .ok (.istore_n 2, 1) := dk_61 (dk_at dksX2_addFigure_0 20 rfl rfl)
theorem dX2_addFigure_21 : decode cX2_addFigure 21 = .ok (.iconst 0, 1) := dk_3 (dk_at dksX2_addFigure_0 21 rfl rfl)
theorem dX2_addFigure_22 : decode cX2_addFigure 22 = .ok (.istore_n 3, 1) := dk_62 (dk_at dksX2_addFigure_0 22 rfl rfl)
theorem dX2_addFigure_23 : decode cX2_addFigure 23 = .ok (.iload_n 3, 1) := dk_29 (dk_at dksX2_addFigure_0 23 rfl rfl)
theorem dX2_addFigure_24 : decode cX2_addFigure 24 = .ok (.aload_n 0, 1) := dk_42 (dk_at dksX2_addFigure_1 0 rfl rfl)
theorem dX2_addFigure_25 : decode cX2_addFigure 25 = .ok (.getfield 33, 3) := dk_180 0 33 (dk_at dksX2_addFigure_1 1 rfl rfl)
theorem dX2_addFigure_28 : decode cX2_addFigure 28 = .ok (.invokevirtual 72, 3) := dk_182 0 72 (dk_at dksX2_addFigure_1 4 rfl rfl)
theorem dX2_addFigure_31 : decode cX2_addFigure 31 = .ok (.if_icmp .ge 26, 3) := dk_162 0 26 (dk_at dksX2_addFigure_1 7 rfl rfl)
theorem dX2_addFigure_34 : decode cX2_addFigure 34 = .ok (.iload_n 2, 1) := dk_28 (dk_at dksX2_addFigure_1 10 rfl rfl)
theorem dX2_addFigure_35 : decode cX2_addFigure 35 = .ok (.aload_n 0, 1) := dk_42 (dk_at dksX2_addFigure_1 11 rfl rfl)
theorem dX2_addFigure_36 : decode cX2_addFigure 36 = .ok (.iload_n 3, 1) := dk_29 (dk_at dksX2_addFigure_1 12 rfl rfl)
theorem dX2_addFigure_37 : decode cX2_addFigure 37 = .ok (.invokevirtual 127, 3) := dk_182 0 127 (dk_at dksX2_addFigure_1 13 rfl rfl)
theorem dX2_addFigure_40 : decode cX2_addFigure 40 = .ok (.iload_n 1, 1) := dk_27 (dk_at dksX2_addFigure_1 16 rfl rfl)
theorem dX2_addFigure_41 : decode cX2_addFigure 41 = .ok (.if_icmp .ne 7, 3) := dk_160 0 7 (dk_at dksX2_addFigure_1 17 rfl rfl)
theorem dX2_addFigure_44 : decode cX2_addFigure 44 = .ok (.iconst 1, 1) := dk_4 (dk_at dksX2_addFigure_1 20 rfl rfl)
theorem dX2_addFigure_45 : decode cX2_addFigure 45 = .ok (.goto 4, 3) := dk_167 0 4 (dk_at dksX2_addFigure_1 21 rfl rfl)
theorem dX2_addFigure_48 : decode cX2_addFigure 48 = .ok (.iconst 0, 1) := dk_3 (dk_at dksX2_addFigure_2 0 rfl rfl)
theorem dX2_addFigure_49 : decode cX2_addFigure 49 = .ok (.iadd, 1) := dk_96 (dk_at dksX2_addFigure_2 1 rfl rfl)
theorem dX2_addFigure_50 : decode cX2_addFigure 50 = .ok (.istore_n 2, 1) := dk_61 (dk_at dksX2_addFigure_2 2 rfl rfl)
theorem dX2_addFigure_51 : decode cX2_addFigure 51 = .ok (.iinc 3 1, 3) := dk_132 3 1 (dk_at dksX2_addFigure_2 3 rfl rfl)
theorem dX2_addFigure_54 : decode cX2_addFigure 54 = .ok (.goto (-31), 3) := dk_167 255 225 (dk_at dksX2_addFigure_2 6 rfl rfl)
theorem dX2_addFigure_57 : decode cX2_addFigure 57 = .ok (.aload_n 0, 1) := dk_42 (dk_at dksX2_addFigure_2 9 rfl rfl)
theorem dX2_addFigure_58 : decode cX2_addFigure 58 = .ok (.getfield 33, 3) := dk_180 0 33 (dk_at dksX2_addFigure_2 10 rfl rfl)
theorem dX2_addFigure_61 : decode cX2_addFigure 61 = .ok (.invokevirtual 72, 3) := dk_182 0 72 (dk_at dksX2_addFigure_2 13 rfl rfl)
theorem dX2_addFigure_64 : decode cX2_addFigure 64 = .ok (.bipush 24, 2) := dk_16 24 (dk_at dksX2_addFigure_2 16 rfl rfl)
theorem dX2_addFigure_66 : decode cX2_addFigure 66 = .ok (.if_icmp .eq 9, 3) := dk_159 0 9 (dk_at dksX2_addFigure_2 18 rfl rfl)
theorem dX2_addFigure_69 : decode cX2_addFigure 69 = .ok (.iload_n 2, 1) := dk_28 (dk_at dksX2_addFigure_2 21 rfl rfl)
theorem dX2_addFigure_70 : decode cX2_addFigure 70 = .ok (.bipush 8, 2) := dk_16 8 (dk_at dksX2_addFigure_2 22 rfl rfl)
theorem dX2_addFigure_72 : decode cX2_addFigure 72 = .ok (.if_icmp .ne 9, 3) := dk_160 0 9 (dk_at dksX2_addFigure_3 0 rfl rfl)
theorem dX2_addFigure_75 : decode cX2_addFigure 75 = .ok (.aload_n 0, 1) := dk_42 (dk_at dksX2_addFigure_3 3 rfl rfl)
theorem dX2_addFigure_76 : decode cX2_addFigure 76 = .ok (.iconst 2, 1) := dk_5 (dk_at dksX2_addFigure_3 4 rfl rfl)
theorem dX2_addFigure_77 : decode cX2_addFigure 77 = .ok (.invokevirtual 95, 3) := dk_182 0 95 (dk_at dksX2_addFigure_3 5 rfl rfl)
theorem dX2_addFigure_80 : decode cX2_addFigure 80 = .ok (.ireturn, 1) := dk_172 (dk_at dksX2_addFigure_3 8 rfl rfl)
theorem dX2_addFigure_81 : decode cX2_addFigure 81 = .ok (.aload_n 0, 1) := dk_42 (dk_at dksX2_addFigure_3 9 rfl rfl)
theorem dX2_addFigure_82 : decode cX2_addFigure 82 = .ok (.getfield 33, 3) := dk_180 0 33 (dk_at dksX2_addFigure_3 10 rfl rfl)
theorem dX2_addFigure_85 : decode cX2_addFigure 85 = .ok (.iconst 3, 1) := dk_6 (dk_at dksX2_addFigure_3 13 rfl rfl)
theorem dX2_addFigure_86 : decode cX2_addFigure 86 = .ok (.newarray .int, 2) := dk_188_10 (dk_at dksX2_addFigure_3 14 rfl rfl)
theorem dX2_addFigure_88 : decode cX2_addFigure 88 = .ok (.dup, 1) := dk_89 (dk_at dksX2_addFigure_3 16 rfl rfl)
theorem dX2_addFigure_89 : decode cX2_addFigure 89 = .ok (.iconst 0, 1) := dk_3 (dk_at dksX2_addFigure_3 17 rfl rfl)
theorem dX2_addFigure_90 : decode cX2_addFigure 90 = .ok (.iload_n 1, 1) := dk_27 (dk_at dksX2_addFigure_3 18 rfl rfl)
theorem dX2_addFigure_91 : decode cX2_addFigure 91 = .ok (.iastore, 1) := dk_79 (dk_at dksX2_addFigure_3 19 rfl rfl)
theorem dX2_addFigure_92 : decode cX2_addFigure 92 = .ok (.dup, 1) := dk_89 (dk_at dksX2_addFigure_3 20 rfl rfl)
theorem dX2_addFigure_93 : decode cX2_addFigure 93 = .ok (.iconst 1, 1) := dk_4 (dk_at dksX2_addFigure_3 21 rfl rfl)
theorem dX2_addFigure_94 : decode cX2_addFigure 94 = .ok (.iconst 0, 1) := dk_3 (dk_at dksX2_addFigure_3 22 rfl rfl)
theorem dX2_addFigure_95 : decode cX2_addFigure 95 = .ok (.iastore, 1) := dk_79 (dk_at dksX2_addFigure_3 23 rfl rfl)
theorem dX2_addFigure_96 : decode cX2_addFigure 96 = .ok (.dup, 1) := dk_89 (dk_at dksX2_addFigure_4 0 rfl rfl)
theorem dX2_addFigure_97 : decode cX2_addFigure 97 = .ok (.iconst 2, 1) := dk_5 (dk_at dksX2_addFigure_4 1 rfl rfl)
theorem dX2_addFigure_98 : decode cX2_addFigure 98 = .ok (.iconst 0, 1) := dk_3 (dk_at dksX2_addFigure_4 2 rfl rfl)
theorem dX2_addFigure_99 : decode cX2_addFigure 99 = .ok (.iastore, 1) := dk_79 (dk_at dksX2_addFigure_4 3 rfl rfl)
theorem dX2_addFigure_100 : decode cX2_addFigure 100 = .ok (.invokevirtual 99, 3) := dk_182 0 99 (dk_at dksX2_addFigure_4 4 rfl rfl)
theorem dX2_addFigure_103 : decode cX2_addFigure 103 = .ok (.pop, 1) := dk_87 (dk_at dksX2_addFigure_4 7 rfl rfl)
theorem dX2_addFigure_104 : decode cX2_addFigure 104 = .ok (.aload_n 0, 1) := dk_42 (dk_at dksX2_addFigure_4 8 rfl rfl)
theorem dX2_addFigure_105 : decode cX2_addFigure 105 = .ok (.getfield 33, 3) := dk_180 0 33 (dk_at dksX2_addFigure_4 9 rfl rfl)
theorem dX2_addFigure_108 : decode cX2_addFigure 108 = .ok (.invokevirtual 72, 3) := dk_182 0 72 (dk_at dksX2_addFigure_4 12 rfl rfl)
theorem dX2_addFigure_111 : decode cX2_addFigure 111 = .ok (.iconst 1, 1) := dk_4 (dk_at dksX2_addFigure_4 15 rfl rfl)
theorem dX2_addFigure_112 : decode cX2_addFigure 112 = .ok (.isub, 1) := dk_100 (dk_at dksX2_addFigure_4 16 rfl rfl)
theorem dX2_addFigure_113 : decode cX2_addFigure 113 = .ok (.ireturn, 1) := dk_172 (dk_at dksX2_addFigure_4 17 rfl rfl)
abbrev cX2_panelOf : ByteArray := prog_18_method_10_code
def yX2_panelOf : MethodName := ⟨RX2, "panelOf", "(I)I"⟩
def dkwX2_panelOf_0 : List UInt8 := [42, 180, 0, 33, 27, 182, 0, 80, 192, 0, 84, 3, 46, 172]
abbrev dktX2_panelOf_0 : List UInt8 := dkwX2_panelOf_0 ++ []
theorem dksX2_panelOf_0 : cX2_panelOf.data.toList.drop 0 = dktX2_panelOf_0 := by decide +kernel
theorem dX2_panelOf_0 : decode cX2_panelOf 0 = .ok (.aload_n 0, 1) := dk_42 (dk_at dksX2_panelOf_0 0 rfl rfl)
theorem dX2_panelOf_1 : decode cX2_panelOf 1 = .ok (.getfield 33, 3) := dk_180 0 33 (dk_at dksX2_panelOf_0 1 rfl rfl)
theorem dX2_panelOf_4 : decode cX2_panelOf 4 = .ok (.iload_n 1, 1) := dk_27 (dk_at dksX2_panelOf_0 4 rfl rfl)
theorem dX2_panelOf_5 : decode cX2_panelOf 5 = .ok (.invokevirtual 80, 3) := dk_182 0 80 (dk_at dksX2_panelOf_0 5 rfl rfl)
theorem dX2_panelOf_8 : decode cX2_panelOf 8 = .ok (.checkcast 84, 3) := dk_192 0 84 (dk_at dksX2_panelOf_0 8 rfl rfl)
theorem dX2_panelOf_11 : decode cX2_panelOf 11 = .ok (.iconst 0, 1) := dk_3 (dk_at dksX2_panelOf_0 11 rfl rfl)
theorem dX2_panelOf_12 : decode cX2_panelOf 12 = .ok (.iaload, 1) := dk_46 (dk_at dksX2_panelOf_0 12 rfl rfl)
theorem dX2_panelOf_13 : decode cX2_panelOf 13 = .ok (.ireturn, 1) := dk_172 (dk_at dksX2_panelOf_0 13 rfl rfl)
abbrev cX2_setStroke : ByteArray := prog_18_method_22_code
def yX2_setStroke : MethodName := ⟨RX2, "setStroke", "(IIZ)I"⟩
def dkwX2_setStroke_5 : List UInt8 := [167, 0, 4, 3, 96, 54, 4, 132, 5, 1, 167, 255, 219, 21, 4, 172]
abbrev dktX2_setStroke_5 : List UInt8 := dkwX2_setStroke_5 ++ []
def dkwX2_setStroke_4 : List UInt8 := [180, 0, 27, 182, 0, 72, 162, 0, 31, 21, 4, 42, 180, 0, 38, 27, 50, 21, 5, 51, 153, 0, 7, 4]
abbrev dktX2_setStroke_4 : List UInt8 := dkwX2_setStroke_4 ++ dktX2_setStroke_5
def dkwX2_setStroke_3 : List UInt8 := [182, 0, 95, 172, 42, 180, 0, 38, 27, 50, 28, 29, 84, 3, 54, 4, 3, 54, 5, 21, 5, 42]
abbrev dktX2_setStroke_3 : List UInt8 := dkwX2_setStroke_3 ++ dktX2_setStroke_4
def dkwX2_setStroke_2 : List UInt8 := [159, 0, 9, 42, 5, 182, 0, 95, 172, 42, 180, 0, 38, 27, 50, 28, 51, 29, 160, 0, 9, 42, 6]
abbrev dktX2_setStroke_2 : List UInt8 := dkwX2_setStroke_2 ++ dktX2_setStroke_3
def dkwX2_setStroke_1 : List UInt8 := [182, 0, 95, 172, 42, 27, 182, 0, 127, 42, 180, 0, 27, 28, 182, 0, 80, 192, 0, 84, 3, 46]
abbrev dktX2_setStroke_1 : List UInt8 := dkwX2_setStroke_1 ++ dktX2_setStroke_2
def dkwX2_setStroke_0 : List UInt8 := [42, 3, 181, 0, 69, 42, 27, 182, 0, 130, 154, 0, 11, 42, 28, 182, 0, 133, 153, 0, 9, 42, 4]
abbrev dktX2_setStroke_0 : List UInt8 := dkwX2_setStroke_0 ++ dktX2_setStroke_1
theorem dksX2_setStroke_0 : cX2_setStroke.data.toList.drop 0 = dktX2_setStroke_0 := by decide +kernel
theorem dksX2_setStroke_1 : cX2_setStroke.data.toList.drop 23 = dktX2_setStroke_1 := dk_seg dksX2_setStroke_0 23 rfl rfl
theorem dksX2_setStroke_2 : cX2_setStroke.data.toList.drop 45 = dktX2_setStroke_2 := dk_seg dksX2_setStroke_1 22 rfl rfl
theorem dksX2_setStroke_3 : cX2_setStroke.data.toList.drop 68 = dktX2_setStroke_3 := dk_seg dksX2_setStroke_2 23 rfl rfl
theorem dksX2_setStroke_4 : cX2_setStroke.data.toList.drop 90 = dktX2_setStroke_4 := dk_seg dksX2_setStroke_3 22 rfl rfl
theorem dksX2_setStroke_5 : cX2_setStroke.data.toList.drop 114 = dktX2_setStroke_5 := dk_seg dksX2_setStroke_4 24 rfl rfl
theorem dX2_setStroke_0 : decode cX2_setStroke 0 = .ok (.aload_n 0, 1) := dk_42 (dk_at dksX2_setStroke_0 0 rfl rfl)
theorem dX2_setStroke_1 : decode cX2_setStroke 1 = .ok (.iconst 0, 1) := dk_3 (dk_at dksX2_setStroke_0 1 rfl rfl)
theorem dX2_setStroke_2 : decode cX2_setStroke 2 = .ok (.putfield 69, 3) := dk_181 0 69 (dk_at dksX2_setStroke_0 2 rfl rfl)
theorem dX2_setStroke_5 : decode cX2_setStroke 5 = .ok (.aload_n 0, 1) := dk_42 (dk_at dksX2_setStroke_0 5 rfl rfl)
theorem dX2_setStroke_6 : decode cX2_setStroke 6 = .ok (.iload_n 1, 1) := dk_27 (dk_at dksX2_setStroke_0 6 rfl rfl)
theorem dX2_setStroke_7 : decode cX2_setStroke 7 = .ok (.invokevirtual 130, 3) := dk_182 0 130 (dk_at dksX2_setStroke_0 7 rfl rfl)
theorem dX2_setStroke_10 : decode cX2_setStroke 10 = .ok (.ifCond .ne 11, 3) := dk_154 0 11 (dk_at dksX2_setStroke_0 10 rfl rfl)
theorem dX2_setStroke_13 : decode cX2_setStroke 13 = .ok (.aload_n 0, 1) := dk_42 (dk_at dksX2_setStroke_0 13 rfl rfl)
theorem dX2_setStroke_14 : decode cX2_setStroke 14 = .ok (.iload_n 2, 1) := dk_28 (dk_at dksX2_setStroke_0 14 rfl rfl)
theorem dX2_setStroke_15 : decode cX2_setStroke 15 = .ok (.invokevirtual 133, 3) := dk_182 0 133 (dk_at dksX2_setStroke_0 15 rfl rfl)
theorem dX2_setStroke_18 : decode cX2_setStroke 18 = .ok (.ifCond .eq 9, 3) := dk_153 0 9 (dk_at dksX2_setStroke_0 18 rfl rfl)
theorem dX2_setStroke_21 : decode cX2_setStroke 21 = .ok (.aload_n 0, 1) := dk_42 (dk_at dksX2_setStroke_0 21 rfl rfl)
theorem dX2_setStroke_22 : decode cX2_setStroke 22 = .ok (.iconst 1, 1) := dk_4 (dk_at dksX2_setStroke_0 22 rfl rfl)
theorem dX2_setStroke_23 : decode cX2_setStroke 23 = .ok (.invokevirtual 95, 3) := dk_182 0 95 (dk_at dksX2_setStroke_1 0 rfl rfl)
theorem dX2_setStroke_26 : decode cX2_setStroke 26 = .ok (.ireturn, 1) := dk_172 (dk_at dksX2_setStroke_1 3 rfl rfl)
theorem dX2_setStroke_27 : decode cX2_setStroke 27 = .ok (.aload_n 0, 1) := dk_42 (dk_at dksX2_setStroke_1 4 rfl rfl)
theorem dX2_setStroke_28 : decode cX2_setStroke 28 = .ok (.iload_n 1, 1) := dk_27 (dk_at dksX2_setStroke_1 5 rfl rfl)
theorem dX2_setStroke_29 : decode cX2_setStroke 29 = .ok (.invokevirtual 127, 3) := dk_182 0 127 (dk_at dksX2_setStroke_1 6 rfl rfl)
theorem dX2_setStroke_32 : decode cX2_setStroke 32 = .ok (.aload_n 0, 1) := dk_42 (dk_at dksX2_setStroke_1 9 rfl rfl)
theorem dX2_setStroke_33 : decode cX2_setStroke 33 = .ok (.getfield 27, 3) := dk_180 0 27 (dk_at dksX2_setStroke_1 10 rfl rfl)
theorem dX2_setStroke_36 : decode cX2_setStroke 36 = .ok (.iload_n 2, 1) := dk_28 (dk_at dksX2_setStroke_1 13 rfl rfl)
theorem dX2_setStroke_37 : decode cX2_setStroke 37 = .ok (.invokevirtual 80, 3) := dk_182 0 80 (dk_at dksX2_setStroke_1 14 rfl rfl)
theorem dX2_setStroke_40 : decode cX2_setStroke 40 = .ok (.checkcast 84, 3) := dk_192 0 84 (dk_at dksX2_setStroke_1 17 rfl rfl)
theorem dX2_setStroke_43 : decode cX2_setStroke 43 = .ok (.iconst 0, 1) := dk_3 (dk_at dksX2_setStroke_1 20 rfl rfl)
theorem dX2_setStroke_44 : decode cX2_setStroke 44 = .ok (.iaload, 1) := dk_46 (dk_at dksX2_setStroke_1 21 rfl rfl)
theorem dX2_setStroke_45 : decode cX2_setStroke 45 = .ok (.if_icmp .eq 9, 3) := dk_159 0 9 (dk_at dksX2_setStroke_2 0 rfl rfl)
theorem dX2_setStroke_48 : decode cX2_setStroke 48 = .ok (.aload_n 0, 1) := dk_42 (dk_at dksX2_setStroke_2 3 rfl rfl)
theorem dX2_setStroke_49 : decode cX2_setStroke 49 = .ok (.iconst 2, 1) := dk_5 (dk_at dksX2_setStroke_2 4 rfl rfl)
theorem dX2_setStroke_50 : decode cX2_setStroke 50 = .ok (.invokevirtual 95, 3) := dk_182 0 95 (dk_at dksX2_setStroke_2 5 rfl rfl)
theorem dX2_setStroke_53 : decode cX2_setStroke 53 = .ok (.ireturn, 1) := dk_172 (dk_at dksX2_setStroke_2 8 rfl rfl)
theorem dX2_setStroke_54 : decode cX2_setStroke 54 = .ok (.aload_n 0, 1) := dk_42 (dk_at dksX2_setStroke_2 9 rfl rfl)
theorem dX2_setStroke_55 : decode cX2_setStroke 55 = .ok (.getfield 38, 3) := dk_180 0 38 (dk_at dksX2_setStroke_2 10 rfl rfl)
theorem dX2_setStroke_58 : decode cX2_setStroke 58 = .ok (.iload_n 1, 1) := dk_27 (dk_at dksX2_setStroke_2 13 rfl rfl)
theorem dX2_setStroke_59 : decode cX2_setStroke 59 = .ok (.aaload, 1) := dk_50 (dk_at dksX2_setStroke_2 14 rfl rfl)
theorem dX2_setStroke_60 : decode cX2_setStroke 60 = .ok (.iload_n 2, 1) := dk_28 (dk_at dksX2_setStroke_2 15 rfl rfl)
theorem dX2_setStroke_61 : decode cX2_setStroke 61 = .ok (.baload, 1) := dk_51 (dk_at dksX2_setStroke_2 16 rfl rfl)
theorem dX2_setStroke_62 : decode cX2_setStroke 62 = .ok (.iload_n 3, 1) := dk_29 (dk_at dksX2_setStroke_2 17 rfl rfl)
theorem dX2_setStroke_63 : decode cX2_setStroke 63 = .ok (.if_icmp .ne 9, 3) := dk_160 0 9 (dk_at dksX2_setStroke_2 18 rfl rfl)
theorem dX2_setStroke_66 : decode cX2_setStroke 66 = .ok (.aload_n 0, 1) := dk_42 (dk_at dksX2_setStroke_2 21 rfl rfl)
theorem dX2_setStroke_67 : decode cX2_setStroke 67 = .ok (.iconst 3, 1) := dk_6 (dk_at dksX2_setStroke_2 22 rfl rfl)
theorem dX2_setStroke_68 : decode cX2_setStroke 68 = .ok (.invokevirtual 95, 3) := dk_182 0 95 (dk_at dksX2_setStroke_3 0 rfl rfl)
theorem dX2_setStroke_71 : decode cX2_setStroke 71 = .ok (.ireturn, 1) := dk_172 (dk_at dksX2_setStroke_3 3 rfl rfl)
theorem dX2_setStroke_72 : decode cX2_setStroke 72 = .ok (.aload_n 0, 1) := dk_42 (dk_at dksX2_setStroke_3 4 rfl rfl)
theorem dX2_setStroke_73 : decode cX2_setStroke 73 = .ok (.getfield 38, 3) := dk_180 0 38 (dk_at dksX2_setStroke_3 5 rfl rfl)
theorem dX2_setStroke_76 : decode cX2_setStroke 76 = .ok (.iload_n 1, 1) := dk_27 (dk_at dksX2_setStroke_3 8 rfl rfl)
theorem dX2_setStroke_77 : decode cX2_setStroke 77 = .ok (.aaload, 1) := dk_50 (dk_at dksX2_setStroke_3 9 rfl rfl)
theorem dX2_setStroke_78 : decode cX2_setStroke 78 = .ok (.iload_n 2, 1) := dk_28 (dk_at dksX2_setStroke_3 10 rfl rfl)
theorem dX2_setStroke_79 : decode cX2_setStroke 79 = .ok (.iload_n 3, 1) := dk_29 (dk_at dksX2_setStroke_3 11 rfl rfl)
theorem dX2_setStroke_80 : decode cX2_setStroke 80 = .ok (.bastore, 1) := dk_84 (dk_at dksX2_setStroke_3 12 rfl rfl)
theorem dX2_setStroke_81 : decode cX2_setStroke 81 = .ok (.iconst 0, 1) := dk_3 (dk_at dksX2_setStroke_3 13 rfl rfl)
theorem dX2_setStroke_82 : decode cX2_setStroke 82 = .ok (.istore 4, 2) := dk_54 4 (dk_at dksX2_setStroke_3 14 rfl rfl)
theorem dX2_setStroke_84 : decode cX2_setStroke 84 = .ok (.iconst 0, 1) := dk_3 (dk_at dksX2_setStroke_3 16 rfl rfl)
theorem dX2_setStroke_85 : decode cX2_setStroke 85 = .ok (.istore 5, 2) := dk_54 5 (dk_at dksX2_setStroke_3 17 rfl rfl)
theorem dX2_setStroke_87 : decode cX2_setStroke 87 = .ok (.iload 5, 2) := dk_21 5 (dk_at dksX2_setStroke_3 19 rfl rfl)
theorem dX2_setStroke_89 : decode cX2_setStroke 89 = .ok (.aload_n 0, 1) := dk_42 (dk_at dksX2_setStroke_3 21 rfl rfl)
theorem dX2_setStroke_90 : decode cX2_setStroke 90 = .ok (.getfield 27, 3) := dk_180 0 27 (dk_at dksX2_setStroke_4 0 rfl rfl)
theorem dX2_setStroke_93 : decode cX2_setStroke 93 = .ok (.invokevirtual 72, 3) := dk_182 0 72 (dk_at dksX2_setStroke_4 3 rfl rfl)
theorem dX2_setStroke_96 : decode cX2_setStroke 96 = .ok (.if_icmp .ge 31, 3) := dk_162 0 31 (dk_at dksX2_setStroke_4 6 rfl rfl)
theorem dX2_setStroke_99 : decode cX2_setStroke 99 = .ok (.iload 4, 2) := dk_21 4 (dk_at dksX2_setStroke_4 9 rfl rfl)
theorem dX2_setStroke_101 : decode cX2_setStroke 101 = .ok (.aload_n 0, 1) := dk_42 (dk_at dksX2_setStroke_4 11 rfl rfl)
theorem dX2_setStroke_102 : decode cX2_setStroke 102 = .ok (.getfield 38, 3) := dk_180 0 38 (dk_at dksX2_setStroke_4 12 rfl rfl)
theorem dX2_setStroke_105 : decode cX2_setStroke 105 = .ok (.iload_n 1, 1) := dk_27 (dk_at dksX2_setStroke_4 15 rfl rfl)
theorem dX2_setStroke_106 : decode cX2_setStroke 106 = .ok (.aaload, 1) := dk_50 (dk_at dksX2_setStroke_4 16 rfl rfl)
theorem dX2_setStroke_107 : decode cX2_setStroke 107 = .ok (.iload 5, 2) := dk_21 5 (dk_at dksX2_setStroke_4 17 rfl rfl)
theorem dX2_setStroke_109 : decode cX2_setStroke 109 = .ok (.baload, 1) := dk_51 (dk_at dksX2_setStroke_4 19 rfl rfl)
theorem dX2_setStroke_110 : decode cX2_setStroke 110 = .ok (.ifCond .eq 7, 3) := dk_153 0 7 (dk_at dksX2_setStroke_4 20 rfl rfl)
theorem dX2_setStroke_113 : decode cX2_setStroke 113 = .ok (.iconst 1, 1) := dk_4 (dk_at dksX2_setStroke_4 23 rfl rfl)
theorem dX2_setStroke_114 : decode cX2_setStroke 114 = .ok (.goto 4, 3) := dk_167 0 4 (dk_at dksX2_setStroke_5 0 rfl rfl)
theorem dX2_setStroke_117 : decode cX2_setStroke 117 = .ok (.iconst 0, 1) := dk_3 (dk_at dksX2_setStroke_5 3 rfl rfl)
theorem dX2_setStroke_118 : decode cX2_setStroke 118 = .ok (.iadd, 1) := dk_96 (dk_at dksX2_setStroke_5 4 rfl rfl)
theorem dX2_setStroke_119 : decode cX2_setStroke 119 = .ok (.istore 4, 2) := dk_54 4 (dk_at dksX2_setStroke_5 5 rfl rfl)
theorem dX2_setStroke_121 : decode cX2_setStroke 121 = .ok (.iinc 5 1, 3) := dk_132 5 1 (dk_at dksX2_setStroke_5 7 rfl rfl)
theorem dX2_setStroke_124 : decode cX2_setStroke 124 = .ok (.goto (-37), 3) := dk_167 255 219 (dk_at dksX2_setStroke_5 10 rfl rfl)
theorem dX2_setStroke_127 : decode cX2_setStroke 127 = .ok (.iload 4, 2) := dk_21 4 (dk_at dksX2_setStroke_5 13 rfl rfl)
theorem dX2_setStroke_129 : decode cX2_setStroke 129 = .ok (.ireturn, 1) := dk_172 (dk_at dksX2_setStroke_5 15 rfl rfl)
abbrev cX2_noFigure : ByteArray := prog_18_method_7_code
def yX2_noFigure : MethodName := ⟨RX2, "noFigure", "(I)Z"⟩
def dkwX2_noFigure_0 : List UInt8 := [27, 3, 42, 180, 0, 33, 182, 0, 72, 4, 100, 184, 0, 76, 154, 0, 7, 4, 167, 0, 4, 3, 172]
abbrev dktX2_noFigure_0 : List UInt8 := dkwX2_noFigure_0 ++ []
theorem dksX2_noFigure_0 : cX2_noFigure.data.toList.drop 0 = dktX2_noFigure_0 := by decide +kernel
theorem dX2_noFigure_0 : decode cX2_noFigure 0 = .ok (.iload_n 1, 1) := dk_27 (dk_at dksX2_noFigure_0 0 rfl rfl)
theorem dX2_noFigure_1 : decode cX2_noFigure 1 = .ok (.iconst 0, 1) := dk_3 (dk_at dksX2_noFigure_0 1 rfl rfl)
theorem dX2_noFigure_2 : decode cX2_noFigure 2 = .ok (.aload_n 0, 1) := dk_42 (dk_at dksX2_noFigure_0 2 rfl rfl)
theorem dX2_noFigure_3 : decode cX2_noFigure 3 = .ok (.getfield 33, 3) := dk_180 0 33 (dk_at dksX2_noFigure_0 3 rfl rfl)
theorem dX2_noFigure_6 : decode cX2_noFigure 6 = .ok (.invokevirtual 72, 3) := dk_182 0 72 (dk_at dksX2_noFigure_0 6 rfl rfl)
theorem dX2_noFigure_9 : decode cX2_noFigure 9 = .ok (.iconst 1, 1) := dk_4 (dk_at dksX2_noFigure_0 9 rfl rfl)
theorem dX2_noFigure_10 : decode cX2_noFigure 10 = .ok (.isub, 1) := dk_100 (dk_at dksX2_noFigure_0 10 rfl rfl)
theorem dX2_noFigure_11 : decode cX2_noFigure 11 = .ok (.invokestatic 76, 3) := dk_184 0 76 (dk_at dksX2_noFigure_0 11 rfl rfl)
theorem dX2_noFigure_14 : decode cX2_noFigure 14 = .ok (.ifCond .ne 7, 3) := dk_154 0 7 (dk_at dksX2_noFigure_0 14 rfl rfl)
theorem dX2_noFigure_17 : decode cX2_noFigure 17 = .ok (.iconst 1, 1) := dk_4 (dk_at dksX2_noFigure_0 17 rfl rfl)
theorem dX2_noFigure_18 : decode cX2_noFigure 18 = .ok (.goto 4, 3) := dk_167 0 4 (dk_at dksX2_noFigure_0 18 rfl rfl)
theorem dX2_noFigure_21 : decode cX2_noFigure 21 = .ok (.iconst 0, 1) := dk_3 (dk_at dksX2_noFigure_0 21 rfl rfl)
theorem dX2_noFigure_22 : decode cX2_noFigure 22 = .ok (.ireturn, 1) := dk_172 (dk_at dksX2_noFigure_0 22 rfl rfl)
abbrev cX2_noStroke : ByteArray := prog_18_method_6_code
def yX2_noStroke : MethodName := ⟨RX2, "noStroke", "(I)Z"⟩
def dkwX2_noStroke_0 : List UInt8 := [27, 3, 42, 180, 0, 27, 182, 0, 72, 4, 100, 184, 0, 76, 154, 0, 7, 4, 167, 0, 4, 3, 172]
abbrev dktX2_noStroke_0 : List UInt8 := dkwX2_noStroke_0 ++ []
theorem dksX2_noStroke_0 : cX2_noStroke.data.toList.drop 0 = dktX2_noStroke_0 := by decide +kernel
theorem dX2_noStroke_0 : decode cX2_noStroke 0 = .ok (.iload_n 1, 1) := dk_27 (dk_at dksX2_noStroke_0 0 rfl rfl)
theorem dX2_noStroke_1 : decode cX2_noStroke 1 = .ok (.iconst 0, 1) := dk_3 (dk_at dksX2_noStroke_0 1 rfl rfl)
theorem dX2_noStroke_2 : decode cX2_noStroke 2 = .ok (.aload_n 0, 1) := dk_42 (dk_at dksX2_noStroke_0 2 rfl rfl)
theorem dX2_noStroke_3 : decode cX2_noStroke 3 = .ok (.getfield 27, 3) := dk_180 0 27 (dk_at dksX2_noStroke_0 3 rfl rfl)
theorem dX2_noStroke_6 : decode cX2_noStroke 6 = .ok (.invokevirtual 72, 3) := dk_182 0 72 (dk_at dksX2_noStroke_0 6 rfl rfl)
theorem dX2_noStroke_9 : decode cX2_noStroke 9 = .ok (.iconst 1, 1) := dk_4 (dk_at dksX2_noStroke_0 9 rfl rfl)
theorem dX2_noStroke_10 : decode cX2_noStroke 10 = .ok (.isub, 1) := dk_100 (dk_at dksX2_noStroke_0 10 rfl rfl)
theorem dX2_noStroke_11 : decode cX2_noStroke 11 = .ok (.invokestatic 76, 3) := dk_184 0 76 (dk_at dksX2_noStroke_0 11 rfl rfl)
theorem dX2_noStroke_14 : decode cX2_noStroke 14 = .ok (.ifCond .ne 7, 3) := dk_154 0 7 (dk_at dksX2_noStroke_0 14 rfl rfl)
theorem dX2_noStroke_17 : decode cX2_noStroke 17 = .ok (.iconst 1, 1) := dk_4 (dk_at dksX2_noStroke_0 17 rfl rfl)
theorem dX2_noStroke_18 : decode cX2_noStroke 18 = .ok (.goto 4, 3) := dk_167 0 4 (dk_at dksX2_noStroke_0 18 rfl rfl)
theorem dX2_noStroke_21 : decode cX2_noStroke 21 = .ok (.iconst 0, 1) := dk_3 (dk_at dksX2_noStroke_0 21 rfl rfl)
theorem dX2_noStroke_22 : decode cX2_noStroke 22 = .ok (.ireturn, 1) := dk_172 (dk_at dksX2_noStroke_0 22 rfl rfl)
abbrev cX2_cellsOf : ByteArray := prog_18_method_24_code
def yX2_cellsOf : MethodName := ⟨RX2, "cellsOf", "(I)J"⟩
def dkwX2_cellsOf_1 : List UInt8 := [182, 0, 138, 173]
abbrev dktX2_cellsOf_1 : List UInt8 := dkwX2_cellsOf_1 ++ []
def dkwX2_cellsOf_0 : List UInt8 := [42, 3, 181, 0, 69, 42, 27, 182, 0, 130, 153, 0, 12, 42, 4, 182, 0, 95, 133, 167, 0, 8, 42, 27]
abbrev dktX2_cellsOf_0 : List UInt8 := dkwX2_cellsOf_0 ++ dktX2_cellsOf_1
theorem dksX2_cellsOf_0 : cX2_cellsOf.data.toList.drop 0 = dktX2_cellsOf_0 := by decide +kernel
theorem dksX2_cellsOf_1 : cX2_cellsOf.data.toList.drop 24 = dktX2_cellsOf_1 := dk_seg dksX2_cellsOf_0 24 rfl rfl
theorem dX2_cellsOf_0 : decode cX2_cellsOf 0 = .ok (.aload_n 0, 1) := dk_42 (dk_at dksX2_cellsOf_0 0 rfl rfl)
theorem dX2_cellsOf_1 : decode cX2_cellsOf 1 = .ok (.iconst 0, 1) := dk_3 (dk_at dksX2_cellsOf_0 1 rfl rfl)
theorem dX2_cellsOf_2 : decode cX2_cellsOf 2 = .ok (.putfield 69, 3) := dk_181 0 69 (dk_at dksX2_cellsOf_0 2 rfl rfl)
theorem dX2_cellsOf_5 : decode cX2_cellsOf 5 = .ok (.aload_n 0, 1) := dk_42 (dk_at dksX2_cellsOf_0 5 rfl rfl)
theorem dX2_cellsOf_6 : decode cX2_cellsOf 6 = .ok (.iload_n 1, 1) := dk_27 (dk_at dksX2_cellsOf_0 6 rfl rfl)
theorem dX2_cellsOf_7 : decode cX2_cellsOf 7 = .ok (.invokevirtual 130, 3) := dk_182 0 130 (dk_at dksX2_cellsOf_0 7 rfl rfl)
theorem dX2_cellsOf_10 : decode cX2_cellsOf 10 = .ok (.ifCond .eq 12, 3) := dk_153 0 12 (dk_at dksX2_cellsOf_0 10 rfl rfl)
theorem dX2_cellsOf_13 : decode cX2_cellsOf 13 = .ok (.aload_n 0, 1) := dk_42 (dk_at dksX2_cellsOf_0 13 rfl rfl)
theorem dX2_cellsOf_14 : decode cX2_cellsOf 14 = .ok (.iconst 1, 1) := dk_4 (dk_at dksX2_cellsOf_0 14 rfl rfl)
theorem dX2_cellsOf_15 : decode cX2_cellsOf 15 = .ok (.invokevirtual 95, 3) := dk_182 0 95 (dk_at dksX2_cellsOf_0 15 rfl rfl)
theorem dX2_cellsOf_18 : decode cX2_cellsOf 18 = .ok (.i2l, 1) := dk_133 (dk_at dksX2_cellsOf_0 18 rfl rfl)
theorem dX2_cellsOf_19 : decode cX2_cellsOf 19 = .ok (.goto 8, 3) := dk_167 0 8 (dk_at dksX2_cellsOf_0 19 rfl rfl)
theorem dX2_cellsOf_22 : decode cX2_cellsOf 22 = .ok (.aload_n 0, 1) := dk_42 (dk_at dksX2_cellsOf_0 22 rfl rfl)
theorem dX2_cellsOf_23 : decode cX2_cellsOf 23 = .ok (.iload_n 1, 1) := dk_27 (dk_at dksX2_cellsOf_0 23 rfl rfl)
theorem dX2_cellsOf_24 : decode cX2_cellsOf 24 = .ok (.invokevirtual 138, 3) := dk_182 0 138 (dk_at dksX2_cellsOf_1 0 rfl rfl)
theorem dX2_cellsOf_27 : decode cX2_cellsOf 27 = .ok (.lreturn, 1) := dk_173 (dk_at dksX2_cellsOf_1 3 rfl rfl)
abbrev cX2_cells : ByteArray := prog_18_method_23_code
def yX2_cells : MethodName := ⟨RX2, "cells", "(I)J"⟩
def dkwX2_cells_4 : List UInt8 := [132, 4, 1, 167, 255, 167, 32, 173]
abbrev dktX2_cells_4 : List UInt8 := dkwX2_cells_4 ++ []
def dkwX2_cells_3 : List UInt8 := [42, 180, 0, 27, 21, 4, 182, 0, 80, 192, 0, 84, 3, 46, 47, 20, 0, 136, 131, 127, 129, 65]
abbrev dktX2_cells_3 : List UInt8 := dkwX2_cells_3 ++ dktX2_cells_4
def dkwX2_cells_2 : List UInt8 := [160, 0, 13, 42, 180, 0, 30, 21, 4, 47, 167, 0, 34, 42, 180, 0, 30, 21, 4, 47, 42, 180, 0, 23]
abbrev dktX2_cells_2 : List UInt8 := dkwX2_cells_2 ++ dktX2_cells_3
def dkwX2_cells_1 : List UInt8 := [21, 4, 51, 153, 0, 65, 32, 42, 180, 0, 27, 21, 4, 182, 0, 80, 192, 0, 84, 4, 46, 4]
abbrev dktX2_cells_1 : List UInt8 := dkwX2_cells_1 ++ dktX2_cells_2
def dkwX2_cells_0 : List UInt8 := [9, 65, 3, 54, 4, 21, 4, 42, 180, 0, 27, 182, 0, 72, 162, 0, 83, 42, 180, 0, 38, 27, 50]
abbrev dktX2_cells_0 : List UInt8 := dkwX2_cells_0 ++ dktX2_cells_1
theorem dksX2_cells_0 : cX2_cells.data.toList.drop 0 = dktX2_cells_0 := by decide +kernel
theorem dksX2_cells_1 : cX2_cells.data.toList.drop 23 = dktX2_cells_1 := dk_seg dksX2_cells_0 23 rfl rfl
theorem dksX2_cells_2 : cX2_cells.data.toList.drop 45 = dktX2_cells_2 := dk_seg dksX2_cells_1 22 rfl rfl
theorem dksX2_cells_3 : cX2_cells.data.toList.drop 69 = dktX2_cells_3 := dk_seg dksX2_cells_2 24 rfl rfl
theorem dksX2_cells_4 : cX2_cells.data.toList.drop 91 = dktX2_cells_4 := dk_seg dksX2_cells_3 22 rfl rfl
theorem dX2_cells_0 : decode cX2_cells 0 = .ok (.lconst 0, 1) := dk_9 (dk_at dksX2_cells_0 0 rfl rfl)
theorem dX2_cells_1 : decode cX2_cells 1 = .ok (.lstore_n 2, 1) := dk_65 (dk_at dksX2_cells_0 1 rfl rfl)
theorem dX2_cells_2 : decode cX2_cells 2 = .ok (.iconst 0, 1) := dk_3 (dk_at dksX2_cells_0 2 rfl rfl)
theorem dX2_cells_3 : decode cX2_cells 3 = .ok (.istore 4, 2) := dk_54 4 (dk_at dksX2_cells_0 3 rfl rfl)
theorem dX2_cells_5 : decode cX2_cells 5 = .ok (.iload 4, 2) := dk_21 4 (dk_at dksX2_cells_0 5 rfl rfl)
theorem dX2_cells_7 : decode cX2_cells 7 = .ok (.aload_n 0, 1) := dk_42 (dk_at dksX2_cells_0 7 rfl rfl)
theorem dX2_cells_8 : decode cX2_cells 8 = .ok (.getfield 27, 3) := dk_180 0 27 (dk_at dksX2_cells_0 8 rfl rfl)
theorem dX2_cells_11 : decode cX2_cells 11 = .ok (.invokevirtual 72, 3) := dk_182 0 72 (dk_at dksX2_cells_0 11 rfl rfl)
theorem dX2_cells_14 : decode cX2_cells 14 = .ok (.if_icmp .ge 83, 3) := dk_162 0 83 (dk_at dksX2_cells_0 14 rfl rfl)
theorem dX2_cells_17 : decode cX2_cells 17 = .ok (.aload_n 0, 1) := dk_42 (dk_at dksX2_cells_0 17 rfl rfl)
theorem dX2_cells_18 : decode cX2_cells 18 = .ok (.getfield 38, 3) := dk_180 0 38 (dk_at dksX2_cells_0 18 rfl rfl)
theorem dX2_cells_21 : decode cX2_cells 21 = .ok (.iload_n 1, 1) := dk_27 (dk_at dksX2_cells_0 21 rfl rfl)
theorem dX2_cells_22 : decode cX2_cells 22 = .ok (.aaload, 1) := dk_50 (dk_at dksX2_cells_0 22 rfl rfl)
theorem dX2_cells_23 : decode cX2_cells 23 = .ok (.iload 4, 2) := dk_21 4 (dk_at dksX2_cells_1 0 rfl rfl)
theorem dX2_cells_25 : decode cX2_cells 25 = .ok (.baload, 1) := dk_51 (dk_at dksX2_cells_1 2 rfl rfl)
theorem dX2_cells_26 : decode cX2_cells 26 = .ok (.ifCond .eq 65, 3) := dk_153 0 65 (dk_at dksX2_cells_1 3 rfl rfl)
theorem dX2_cells_29 : decode cX2_cells 29 = .ok (.lload_n 2, 1) := dk_32 (dk_at dksX2_cells_1 6 rfl rfl)
theorem dX2_cells_30 : decode cX2_cells 30 = .ok (.aload_n 0, 1) := dk_42 (dk_at dksX2_cells_1 7 rfl rfl)
theorem dX2_cells_31 : decode cX2_cells 31 = .ok (.getfield 27, 3) := dk_180 0 27 (dk_at dksX2_cells_1 8 rfl rfl)
theorem dX2_cells_34 : decode cX2_cells 34 = .ok (.iload 4, 2) := dk_21 4 (dk_at dksX2_cells_1 11 rfl rfl)
theorem dX2_cells_36 : decode cX2_cells 36 = .ok (.invokevirtual 80, 3) := dk_182 0 80 (dk_at dksX2_cells_1 13 rfl rfl)
theorem dX2_cells_39 : decode cX2_cells 39 = .ok (.checkcast 84, 3) := dk_192 0 84 (dk_at dksX2_cells_1 16 rfl rfl)
theorem dX2_cells_42 : decode cX2_cells 42 = .ok (.iconst 1, 1) := dk_4 (dk_at dksX2_cells_1 19 rfl rfl)
theorem dX2_cells_43 : decode cX2_cells 43 = .ok (.iaload, 1) := dk_46 (dk_at dksX2_cells_1 20 rfl rfl)
theorem dX2_cells_44 : decode cX2_cells 44 = .ok (.iconst 1, 1) := dk_4 (dk_at dksX2_cells_1 21 rfl rfl)
theorem dX2_cells_45 : decode cX2_cells 45 = .ok (.if_icmp .ne 13, 3) := dk_160 0 13 (dk_at dksX2_cells_2 0 rfl rfl)
theorem dX2_cells_48 : decode cX2_cells 48 = .ok (.aload_n 0, 1) := dk_42 (dk_at dksX2_cells_2 3 rfl rfl)
theorem dX2_cells_49 : decode cX2_cells 49 = .ok (.getfield 30, 3) := dk_180 0 30 (dk_at dksX2_cells_2 4 rfl rfl)
theorem dX2_cells_52 : decode cX2_cells 52 = .ok (.iload 4, 2) := dk_21 4 (dk_at dksX2_cells_2 7 rfl rfl)
theorem dX2_cells_54 : decode cX2_cells 54 = .ok (.laload, 1) := dk_47 (dk_at dksX2_cells_2 9 rfl rfl)
theorem dX2_cells_55 : decode cX2_cells 55 = .ok (.goto 34, 3) := dk_167 0 34 (dk_at dksX2_cells_2 10 rfl rfl)
theorem dX2_cells_58 : decode cX2_cells 58 = .ok (.aload_n 0, 1) := dk_42 (dk_at dksX2_cells_2 13 rfl rfl)
theorem dX2_cells_59 : decode cX2_cells 59 = .ok (.getfield 30, 3) := dk_180 0 30 (dk_at dksX2_cells_2 14 rfl rfl)
theorem dX2_cells_62 : decode cX2_cells 62 = .ok (.iload 4, 2) := dk_21 4 (dk_at dksX2_cells_2 17 rfl rfl)
theorem dX2_cells_64 : decode cX2_cells 64 = .ok (.laload, 1) := dk_47 (dk_at dksX2_cells_2 19 rfl rfl)
theorem dX2_cells_65 : decode cX2_cells 65 = .ok (.aload_n 0, 1) := dk_42 (dk_at dksX2_cells_2 20 rfl rfl)
theorem dX2_cells_66 : decode cX2_cells 66 = .ok (.getfield 23, 3) := dk_180 0 23 (dk_at dksX2_cells_2 21 rfl rfl)
theorem dX2_cells_69 : decode cX2_cells 69 = .ok (.aload_n 0, 1) := dk_42 (dk_at dksX2_cells_3 0 rfl rfl)
theorem dX2_cells_70 : decode cX2_cells 70 = .ok (.getfield 27, 3) := dk_180 0 27 (dk_at dksX2_cells_3 1 rfl rfl)
theorem dX2_cells_73 : decode cX2_cells 73 = .ok (.iload 4, 2) := dk_21 4 (dk_at dksX2_cells_3 4 rfl rfl)
theorem dX2_cells_75 : decode cX2_cells 75 = .ok (.invokevirtual 80, 3) := dk_182 0 80 (dk_at dksX2_cells_3 6 rfl rfl)
theorem dX2_cells_78 : decode cX2_cells 78 = .ok (.checkcast 84, 3) := dk_192 0 84 (dk_at dksX2_cells_3 9 rfl rfl)
theorem dX2_cells_81 : decode cX2_cells 81 = .ok (.iconst 0, 1) := dk_3 (dk_at dksX2_cells_3 12 rfl rfl)
theorem dX2_cells_82 : decode cX2_cells 82 = .ok (.iaload, 1) := dk_46 (dk_at dksX2_cells_3 13 rfl rfl)
theorem dX2_cells_83 : decode cX2_cells 83 = .ok (.laload, 1) := dk_47 (dk_at dksX2_cells_3 14 rfl rfl)
theorem dX2_cells_84 : decode cX2_cells 84 = .ok (.ldc2_w 136, 3) := dk_20 0 136 (dk_at dksX2_cells_3 15 rfl rfl)
theorem dX2_cells_87 : decode cX2_cells 87 = .ok (.lxor, 1) := dk_131 (dk_at dksX2_cells_3 18 rfl rfl)
theorem dX2_cells_88 : decode cX2_cells 88 = .ok (.land, 1) := dk_127 (dk_at dksX2_cells_3 19 rfl rfl)
theorem dX2_cells_89 : decode cX2_cells 89 = .ok (.lor, 1) := dk_129 (dk_at dksX2_cells_3 20 rfl rfl)
theorem dX2_cells_90 : decode cX2_cells 90 = .ok (.lstore_n 2, 1) := dk_65 (dk_at dksX2_cells_3 21 rfl rfl)
theorem dX2_cells_91 : decode cX2_cells 91 = .ok (.iinc 4 1, 3) := dk_132 4 1 (dk_at dksX2_cells_4 0 rfl rfl)
theorem dX2_cells_94 : decode cX2_cells 94 = .ok (.goto (-89), 3) := dk_167 255 167 (dk_at dksX2_cells_4 3 rfl rfl)
theorem dX2_cells_97 : decode cX2_cells 97 = .ok (.lload_n 2, 1) := dk_32 (dk_at dksX2_cells_4 6 rfl rfl)
theorem dX2_cells_98 : decode cX2_cells 98 = .ok (.lreturn, 1) := dk_173 (dk_at dksX2_cells_4 7 rfl rfl)
abbrev cX2_foundShare : ByteArray := prog_18_method_25_code
def yX2_foundShare : MethodName := ⟨RX2, "foundShare", "(I)I"⟩
def dkwX2_foundShare_2 : List UInt8 := [182, 0, 123, 127, 184, 0, 142, 104, 32, 184, 0, 142, 108, 172]
abbrev dktX2_foundShare_2 : List UInt8 := dkwX2_foundShare_2 ++ []
def dkwX2_foundShare_1 : List UInt8 := [65, 32, 9, 148, 154, 0, 7, 3, 167, 0, 27, 17, 3, 232, 32, 42, 42, 27, 182, 0, 127, 4]
abbrev dktX2_foundShare_1 : List UInt8 := dkwX2_foundShare_1 ++ dktX2_foundShare_2
def dkwX2_foundShare_0 : List UInt8 := [42, 3, 181, 0, 69, 42, 27, 182, 0, 130, 153, 0, 9, 42, 4, 182, 0, 95, 172, 42, 27, 182, 0, 138]
abbrev dktX2_foundShare_0 : List UInt8 := dkwX2_foundShare_0 ++ dktX2_foundShare_1
theorem dksX2_foundShare_0 : cX2_foundShare.data.toList.drop 0 = dktX2_foundShare_0 := by decide +kernel
theorem dksX2_foundShare_1 : cX2_foundShare.data.toList.drop 24 = dktX2_foundShare_1 := dk_seg dksX2_foundShare_0 24 rfl rfl
theorem dksX2_foundShare_2 : cX2_foundShare.data.toList.drop 46 = dktX2_foundShare_2 := dk_seg dksX2_foundShare_1 22 rfl rfl
theorem dX2_foundShare_0 : decode cX2_foundShare 0 = .ok (.aload_n 0, 1) := dk_42 (dk_at dksX2_foundShare_0 0 rfl rfl)
theorem dX2_foundShare_1 : decode cX2_foundShare 1 = .ok (.iconst 0, 1) := dk_3 (dk_at dksX2_foundShare_0 1 rfl rfl)
theorem dX2_foundShare_2 : decode cX2_foundShare 2 = .ok (.putfield 69, 3) := dk_181 0 69 (dk_at dksX2_foundShare_0 2 rfl rfl)
theorem dX2_foundShare_5 : decode cX2_foundShare 5 = .ok (.aload_n 0, 1) := dk_42 (dk_at dksX2_foundShare_0 5 rfl rfl)
theorem dX2_foundShare_6 : decode cX2_foundShare 6 = .ok (.iload_n 1, 1) := dk_27 (dk_at dksX2_foundShare_0 6 rfl rfl)
theorem dX2_foundShare_7 : decode cX2_foundShare 7 = .ok (.invokevirtual 130, 3) := dk_182 0 130 (dk_at dksX2_foundShare_0 7 rfl rfl)
theorem dX2_foundShare_10 : decode cX2_foundShare 10 = .ok (.ifCond .eq 9, 3) := dk_153 0 9 (dk_at dksX2_foundShare_0 10 rfl rfl)
theorem dX2_foundShare_13 : decode cX2_foundShare 13 = .ok (.aload_n 0, 1) := dk_42 (dk_at dksX2_foundShare_0 13 rfl rfl)
theorem dX2_foundShare_14 : decode cX2_foundShare 14 = .ok (.iconst 1, 1) := dk_4 (dk_at dksX2_foundShare_0 14 rfl rfl)
theorem dX2_foundShare_15 : decode cX2_foundShare 15 = .ok (.invokevirtual 95, 3) := dk_182 0 95 (dk_at dksX2_foundShare_0 15 rfl rfl)
theorem dX2_foundShare_18 : decode cX2_foundShare 18 = .ok (.ireturn, 1) := dk_172 (dk_at dksX2_foundShare_0 18 rfl rfl)
theorem dX2_foundShare_19 : decode cX2_foundShare 19 = .ok (.aload_n 0, 1) := dk_42 (dk_at dksX2_foundShare_0 19 rfl rfl)
theorem dX2_foundShare_20 : decode cX2_foundShare 20 = .ok (.iload_n 1, 1) := dk_27 (dk_at dksX2_foundShare_0 20 rfl rfl)
theorem dX2_foundShare_21 : decode cX2_foundShare 21 = .ok (.invokevirtual 138, 3) := dk_182 0 138 (dk_at dksX2_foundShare_0 21 rfl rfl)
theorem dX2_foundShare_24 : decode cX2_foundShare 24 = .ok (.lstore_n 2, 1) := dk_65 (dk_at dksX2_foundShare_1 0 rfl rfl)
theorem dX2_foundShare_25 : decode cX2_foundShare 25 = .ok (.lload_n 2, 1) := dk_32 (dk_at dksX2_foundShare_1 1 rfl rfl)
theorem dX2_foundShare_26 : decode cX2_foundShare 26 = .ok (.lconst 0, 1) := dk_9 (dk_at dksX2_foundShare_1 2 rfl rfl)
theorem dX2_foundShare_27 : decode cX2_foundShare 27 = .ok (.lcmp, 1) := dk_148 (dk_at dksX2_foundShare_1 3 rfl rfl)
theorem dX2_foundShare_28 : decode cX2_foundShare 28 = .ok (.ifCond .ne 7, 3) := dk_154 0 7 (dk_at dksX2_foundShare_1 4 rfl rfl)
theorem dX2_foundShare_31 : decode cX2_foundShare 31 = .ok (.iconst 0, 1) := dk_3 (dk_at dksX2_foundShare_1 7 rfl rfl)
theorem dX2_foundShare_32 : decode cX2_foundShare 32 = .ok (.goto 27, 3) := dk_167 0 27 (dk_at dksX2_foundShare_1 8 rfl rfl)
theorem dX2_foundShare_35 : decode cX2_foundShare 35 = .ok (.sipush 1000, 3) := dk_17 3 232 (dk_at dksX2_foundShare_1 11 rfl rfl)
theorem dX2_foundShare_38 : decode cX2_foundShare 38 = .ok (.lload_n 2, 1) := dk_32 (dk_at dksX2_foundShare_1 14 rfl rfl)
theorem dX2_foundShare_39 : decode cX2_foundShare 39 = .ok (.aload_n 0, 1) := dk_42 (dk_at dksX2_foundShare_1 15 rfl rfl)
theorem dX2_foundShare_40 : decode cX2_foundShare 40 = .ok (.aload_n 0, 1) := dk_42 (dk_at dksX2_foundShare_1 16 rfl rfl)
theorem dX2_foundShare_41 : decode cX2_foundShare 41 = .ok (.iload_n 1, 1) := dk_27 (dk_at dksX2_foundShare_1 17 rfl rfl)
theorem dX2_foundShare_42 : decode cX2_foundShare 42 = .ok (.invokevirtual 127, 3) := dk_182 0 127 (dk_at dksX2_foundShare_1 18 rfl rfl)
theorem dX2_foundShare_45 : decode cX2_foundShare 45 = .ok (.iconst 1, 1) := dk_4 (dk_at dksX2_foundShare_1 21 rfl rfl)
theorem dX2_foundShare_46 : decode cX2_foundShare 46 = .ok (.invokevirtual 123, 3) := dk_182 0 123 (dk_at dksX2_foundShare_2 0 rfl rfl)
theorem dX2_foundShare_49 : decode cX2_foundShare 49 = .ok (.land, 1) := dk_127 (dk_at dksX2_foundShare_2 3 rfl rfl)
theorem dX2_foundShare_50 : decode cX2_foundShare 50 = .ok (.invokestatic 142, 3) := dk_184 0 142 (dk_at dksX2_foundShare_2 4 rfl rfl)
theorem dX2_foundShare_53 : decode cX2_foundShare 53 = .ok (.imul, 1) := dk_104 (dk_at dksX2_foundShare_2 7 rfl rfl)
theorem dX2_foundShare_54 : decode cX2_foundShare 54 = .ok (.lload_n 2, 1) := dk_32 (dk_at dksX2_foundShare_2 8 rfl rfl)
theorem dX2_foundShare_55 : decode cX2_foundShare 55 = .ok (.invokestatic 142, 3) := dk_184 0 142 (dk_at dksX2_foundShare_2 9 rfl rfl)
theorem dX2_foundShare_58 : decode cX2_foundShare 58 = .ok (.idiv, 1) := dk_108 (dk_at dksX2_foundShare_2 12 rfl rfl)
theorem dX2_foundShare_59 : decode cX2_foundShare 59 = .ok (.ireturn, 1) := dk_172 (dk_at dksX2_foundShare_2 13 rfl rfl)
abbrev cX2_sharedCells : ByteArray := prog_18_method_26_code
def yX2_sharedCells : MethodName := ⟨RX2, "sharedCells", "(II)I"⟩
def dkwX2_sharedCells_2 : List UInt8 := [182, 0, 138, 127, 184, 0, 142, 167, 0, 4, 3, 172]
abbrev dktX2_sharedCells_2 : List UInt8 := dkwX2_sharedCells_2 ++ []
def dkwX2_sharedCells_1 : List UInt8 := [182, 0, 95, 172, 42, 27, 182, 0, 127, 42, 28, 182, 0, 127, 160, 0, 20, 42, 27, 182, 0, 138, 42, 28]
abbrev dktX2_sharedCells_1 : List UInt8 := dkwX2_sharedCells_1 ++ dktX2_sharedCells_2
def dkwX2_sharedCells_0 : List UInt8 := [42, 3, 181, 0, 69, 42, 27, 182, 0, 130, 154, 0, 11, 42, 28, 182, 0, 130, 153, 0, 9, 42, 4]
abbrev dktX2_sharedCells_0 : List UInt8 := dkwX2_sharedCells_0 ++ dktX2_sharedCells_1
theorem dksX2_sharedCells_0 : cX2_sharedCells.data.toList.drop 0 = dktX2_sharedCells_0 := by decide +kernel
theorem dksX2_sharedCells_1 : cX2_sharedCells.data.toList.drop 23 = dktX2_sharedCells_1 := dk_seg dksX2_sharedCells_0 23 rfl rfl
theorem dksX2_sharedCells_2 : cX2_sharedCells.data.toList.drop 47 = dktX2_sharedCells_2 := dk_seg dksX2_sharedCells_1 24 rfl rfl
theorem dX2_sharedCells_0 : decode cX2_sharedCells 0 = .ok (.aload_n 0, 1) := dk_42 (dk_at dksX2_sharedCells_0 0 rfl rfl)
theorem dX2_sharedCells_1 : decode cX2_sharedCells 1 = .ok (.iconst 0, 1) := dk_3 (dk_at dksX2_sharedCells_0 1 rfl rfl)
theorem dX2_sharedCells_2 : decode cX2_sharedCells 2 = .ok (.putfield 69, 3) := dk_181 0 69 (dk_at dksX2_sharedCells_0 2 rfl rfl)
theorem dX2_sharedCells_5 : decode cX2_sharedCells 5 = .ok (.aload_n 0, 1) := dk_42 (dk_at dksX2_sharedCells_0 5 rfl rfl)
theorem dX2_sharedCells_6 : decode cX2_sharedCells 6 = .ok (.iload_n 1, 1) := dk_27 (dk_at dksX2_sharedCells_0 6 rfl rfl)
theorem dX2_sharedCells_7 : decode cX2_sharedCells 7 = .ok (.invokevirtual 130, 3) := dk_182 0 130 (dk_at dksX2_sharedCells_0 7 rfl rfl)
theorem dX2_sharedCells_10 : decode cX2_sharedCells 10 = .ok (.ifCond .ne 11, 3) := dk_154 0 11 (dk_at dksX2_sharedCells_0 10 rfl rfl)
theorem dX2_sharedCells_13 : decode cX2_sharedCells 13 = .ok (.aload_n 0, 1) := dk_42 (dk_at dksX2_sharedCells_0 13 rfl rfl)
theorem dX2_sharedCells_14 : decode cX2_sharedCells 14 = .ok (.iload_n 2, 1) := dk_28 (dk_at dksX2_sharedCells_0 14 rfl rfl)
theorem dX2_sharedCells_15 : decode cX2_sharedCells 15 = .ok (.invokevirtual 130, 3) := dk_182 0 130 (dk_at dksX2_sharedCells_0 15 rfl rfl)
theorem dX2_sharedCells_18 : decode cX2_sharedCells 18 = .ok (.ifCond .eq 9, 3) := dk_153 0 9 (dk_at dksX2_sharedCells_0 18 rfl rfl)
theorem dX2_sharedCells_21 : decode cX2_sharedCells 21 = .ok (.aload_n 0, 1) := dk_42 (dk_at dksX2_sharedCells_0 21 rfl rfl)
theorem dX2_sharedCells_22 : decode cX2_sharedCells 22 = .ok (.iconst 1, 1) := dk_4 (dk_at dksX2_sharedCells_0 22 rfl rfl)
theorem dX2_sharedCells_23 : decode cX2_sharedCells 23 = .ok (.invokevirtual 95, 3) := dk_182 0 95 (dk_at dksX2_sharedCells_1 0 rfl rfl)
theorem dX2_sharedCells_26 : decode cX2_sharedCells 26 = .ok (.ireturn, 1) := dk_172 (dk_at dksX2_sharedCells_1 3 rfl rfl)
theorem dX2_sharedCells_27 : decode cX2_sharedCells 27 = .ok (.aload_n 0, 1) := dk_42 (dk_at dksX2_sharedCells_1 4 rfl rfl)
theorem dX2_sharedCells_28 : decode cX2_sharedCells 28 = .ok (.iload_n 1, 1) := dk_27 (dk_at dksX2_sharedCells_1 5 rfl rfl)
theorem dX2_sharedCells_29 : decode cX2_sharedCells 29 = .ok (.invokevirtual 127, 3) := dk_182 0 127 (dk_at dksX2_sharedCells_1 6 rfl rfl)
theorem dX2_sharedCells_32 : decode cX2_sharedCells 32 = .ok (.aload_n 0, 1) := dk_42 (dk_at dksX2_sharedCells_1 9 rfl rfl)
theorem dX2_sharedCells_33 : decode cX2_sharedCells 33 = .ok (.iload_n 2, 1) := dk_28 (dk_at dksX2_sharedCells_1 10 rfl rfl)
theorem dX2_sharedCells_34 : decode cX2_sharedCells 34 = .ok (.invokevirtual 127, 3) := dk_182 0 127 (dk_at dksX2_sharedCells_1 11 rfl rfl)
theorem dX2_sharedCells_37 : decode cX2_sharedCells 37 = .ok (.if_icmp .ne 20, 3) := dk_160 0 20 (dk_at dksX2_sharedCells_1 14 rfl rfl)
theorem dX2_sharedCells_40 : decode cX2_sharedCells 40 = .ok (.aload_n 0, 1) := dk_42 (dk_at dksX2_sharedCells_1 17 rfl rfl)
theorem dX2_sharedCells_41 : decode cX2_sharedCells 41 = .ok (.iload_n 1, 1) := dk_27 (dk_at dksX2_sharedCells_1 18 rfl rfl)
theorem dX2_sharedCells_42 : decode cX2_sharedCells 42 = .ok (.invokevirtual 138, 3) := dk_182 0 138 (dk_at dksX2_sharedCells_1 19 rfl rfl)
theorem dX2_sharedCells_45 : decode cX2_sharedCells 45 = .ok (.aload_n 0, 1) := dk_42 (dk_at dksX2_sharedCells_1 22 rfl rfl)
theorem dX2_sharedCells_46 : decode cX2_sharedCells 46 = .ok (.iload_n 2, 1) := dk_28 (dk_at dksX2_sharedCells_1 23 rfl rfl)
theorem dX2_sharedCells_47 : decode cX2_sharedCells 47 = .ok (.invokevirtual 138, 3) := dk_182 0 138 (dk_at dksX2_sharedCells_2 0 rfl rfl)
theorem dX2_sharedCells_50 : decode cX2_sharedCells 50 = .ok (.land, 1) := dk_127 (dk_at dksX2_sharedCells_2 3 rfl rfl)
theorem dX2_sharedCells_51 : decode cX2_sharedCells 51 = .ok (.invokestatic 142, 3) := dk_184 0 142 (dk_at dksX2_sharedCells_2 4 rfl rfl)
theorem dX2_sharedCells_54 : decode cX2_sharedCells 54 = .ok (.goto 4, 3) := dk_167 0 4 (dk_at dksX2_sharedCells_2 7 rfl rfl)
theorem dX2_sharedCells_57 : decode cX2_sharedCells 57 = .ok (.iconst 0, 1) := dk_3 (dk_at dksX2_sharedCells_2 10 rfl rfl)
theorem dX2_sharedCells_58 : decode cX2_sharedCells 58 = .ok (.ireturn, 1) := dk_172 (dk_at dksX2_sharedCells_2 11 rfl rfl)
abbrev cX2_harm : ByteArray := prog_18_method_27_code
def yX2_harm : MethodName := ⟨RX2, "harm", "(IJ)I"⟩
def dkwX2_harm_2 : List UInt8 := [54, 4, 42, 180, 0, 23, 27, 92, 47, 32, 129, 80, 21, 4, 172]
abbrev dktX2_harm_2 : List UInt8 := dkwX2_harm_2 ++ []
def dkwX2_harm_1 : List UInt8 := [153, 0, 9, 42, 5, 182, 0, 95, 172, 32, 42, 180, 0, 23, 27, 47, 20, 0, 136, 131, 127, 184, 0, 142]
abbrev dktX2_harm_1 : List UInt8 := dkwX2_harm_1 ++ dktX2_harm_2
def dkwX2_harm_0 : List UInt8 := [42, 3, 181, 0, 69, 42, 27, 182, 0, 103, 153, 0, 9, 42, 4, 182, 0, 95, 172, 42, 27, 182, 0, 106]
abbrev dktX2_harm_0 : List UInt8 := dkwX2_harm_0 ++ dktX2_harm_1
theorem dksX2_harm_0 : cX2_harm.data.toList.drop 0 = dktX2_harm_0 := by decide +kernel
theorem dksX2_harm_1 : cX2_harm.data.toList.drop 24 = dktX2_harm_1 := dk_seg dksX2_harm_0 24 rfl rfl
theorem dksX2_harm_2 : cX2_harm.data.toList.drop 48 = dktX2_harm_2 := dk_seg dksX2_harm_1 24 rfl rfl
theorem dX2_harm_0 : decode cX2_harm 0 = .ok (.aload_n 0, 1) := dk_42 (dk_at dksX2_harm_0 0 rfl rfl)
theorem dX2_harm_1 : decode cX2_harm 1 = .ok (.iconst 0, 1) := dk_3 (dk_at dksX2_harm_0 1 rfl rfl)
theorem dX2_harm_2 : decode cX2_harm 2 = .ok (.putfield 69, 3) := dk_181 0 69 (dk_at dksX2_harm_0 2 rfl rfl)
theorem dX2_harm_5 : decode cX2_harm 5 = .ok (.aload_n 0, 1) := dk_42 (dk_at dksX2_harm_0 5 rfl rfl)
theorem dX2_harm_6 : decode cX2_harm 6 = .ok (.iload_n 1, 1) := dk_27 (dk_at dksX2_harm_0 6 rfl rfl)
theorem dX2_harm_7 : decode cX2_harm 7 = .ok (.invokevirtual 103, 3) := dk_182 0 103 (dk_at dksX2_harm_0 7 rfl rfl)
theorem dX2_harm_10 : decode cX2_harm 10 = .ok (.ifCond .eq 9, 3) := dk_153 0 9 (dk_at dksX2_harm_0 10 rfl rfl)
theorem dX2_harm_13 : decode cX2_harm 13 = .ok (.aload_n 0, 1) := dk_42 (dk_at dksX2_harm_0 13 rfl rfl)
theorem dX2_harm_14 : decode cX2_harm 14 = .ok (.iconst 1, 1) := dk_4 (dk_at dksX2_harm_0 14 rfl rfl)
theorem dX2_harm_15 : decode cX2_harm 15 = .ok (.invokevirtual 95, 3) := dk_182 0 95 (dk_at dksX2_harm_0 15 rfl rfl)
theorem dX2_harm_18 : decode cX2_harm 18 = .ok (.ireturn, 1) := dk_172 (dk_at dksX2_harm_0 18 rfl rfl)
theorem dX2_harm_19 : decode cX2_harm 19 = .ok (.aload_n 0, 1) := dk_42 (dk_at dksX2_harm_0 19 rfl rfl)
theorem dX2_harm_20 : decode cX2_harm 20 = .ok (.iload_n 1, 1) := dk_27 (dk_at dksX2_harm_0 20 rfl rfl)
theorem dX2_harm_21 : decode cX2_harm 21 = .ok (.invokevirtual 106, 3) := dk_182 0 106 (dk_at dksX2_harm_0 21 rfl rfl)
theorem dX2_harm_24 : decode cX2_harm 24 = .ok (.ifCond .eq 9, 3) := dk_153 0 9 (dk_at dksX2_harm_1 0 rfl rfl)
theorem dX2_harm_27 : decode cX2_harm 27 = .ok (.aload_n 0, 1) := dk_42 (dk_at dksX2_harm_1 3 rfl rfl)
theorem dX2_harm_28 : decode cX2_harm 28 = .ok (.iconst 2, 1) := dk_5 (dk_at dksX2_harm_1 4 rfl rfl)
theorem dX2_harm_29 : decode cX2_harm 29 = .ok (.invokevirtual 95, 3) := dk_182 0 95 (dk_at dksX2_harm_1 5 rfl rfl)
theorem dX2_harm_32 : decode cX2_harm 32 = .ok (.ireturn, 1) := dk_172 (dk_at dksX2_harm_1 8 rfl rfl)
theorem dX2_harm_33 : decode cX2_harm 33 = .ok (.lload_n 2, 1) := dk_32 (dk_at dksX2_harm_1 9 rfl rfl)
theorem dX2_harm_34 : decode cX2_harm 34 = .ok (.aload_n 0, 1) := dk_42 (dk_at dksX2_harm_1 10 rfl rfl)
theorem dX2_harm_35 : decode cX2_harm 35 = .ok (.getfield 23, 3) := dk_180 0 23 (dk_at dksX2_harm_1 11 rfl rfl)
theorem dX2_harm_38 : decode cX2_harm 38 = .ok (.iload_n 1, 1) := dk_27 (dk_at dksX2_harm_1 14 rfl rfl)
theorem dX2_harm_39 : decode cX2_harm 39 = .ok (.laload, 1) := dk_47 (dk_at dksX2_harm_1 15 rfl rfl)
theorem dX2_harm_40 : decode cX2_harm 40 = .ok (.ldc2_w 136, 3) := dk_20 0 136 (dk_at dksX2_harm_1 16 rfl rfl)
theorem dX2_harm_43 : decode cX2_harm 43 = .ok (.lxor, 1) := dk_131 (dk_at dksX2_harm_1 19 rfl rfl)
theorem dX2_harm_44 : decode cX2_harm 44 = .ok (.land, 1) := dk_127 (dk_at dksX2_harm_1 20 rfl rfl)
theorem dX2_harm_45 : decode cX2_harm 45 = .ok (.invokestatic 142, 3) := dk_184 0 142 (dk_at dksX2_harm_1 21 rfl rfl)
theorem dX2_harm_48 : decode cX2_harm 48 = .ok (.istore 4, 2) := dk_54 4 (dk_at dksX2_harm_2 0 rfl rfl)
theorem dX2_harm_50 : decode cX2_harm 50 = .ok (.aload_n 0, 1) := dk_42 (dk_at dksX2_harm_2 2 rfl rfl)
theorem dX2_harm_51 : decode cX2_harm 51 = .ok (.getfield 23, 3) := dk_180 0 23 (dk_at dksX2_harm_2 3 rfl rfl)
theorem dX2_harm_54 : decode cX2_harm 54 = .ok (.iload_n 1, 1) := dk_27 (dk_at dksX2_harm_2 6 rfl rfl)
theorem dX2_harm_55 : decode cX2_harm 55 = .ok (.dup2, 1) := dk_92 (dk_at dksX2_harm_2 7 rfl rfl)
theorem dX2_harm_56 : decode cX2_harm 56 = .ok (.laload, 1) := dk_47 (dk_at dksX2_harm_2 8 rfl rfl)
theorem dX2_harm_57 : decode cX2_harm 57 = .ok (.lload_n 2, 1) := dk_32 (dk_at dksX2_harm_2 9 rfl rfl)
theorem dX2_harm_58 : decode cX2_harm 58 = .ok (.lor, 1) := dk_129 (dk_at dksX2_harm_2 10 rfl rfl)
theorem dX2_harm_59 : decode cX2_harm 59 = .ok (.lastore, 1) := dk_80 (dk_at dksX2_harm_2 11 rfl rfl)
theorem dX2_harm_60 : decode cX2_harm 60 = .ok (.iload 4, 2) := dk_21 4 (dk_at dksX2_harm_2 12 rfl rfl)
theorem dX2_harm_62 : decode cX2_harm 62 = .ok (.ireturn, 1) := dk_172 (dk_at dksX2_harm_2 14 rfl rfl)
abbrev cX2_cast : ByteArray := prog_18_method_28_code
def yX2_cast : MethodName := ⟨RX2, "cast", "(I)I"⟩
def dkwX2_cast_3 : List UInt8 := [46, 4, 160, 0, 6, 167, 0, 11, 25, 4, 4, 4, 79, 132, 2, 1, 132, 3, 1, 167, 255, 202, 28, 172]
abbrev dktX2_cast_3 : List UInt8 := dkwX2_cast_3 ++ []
def dkwX2_cast_2 : List UInt8 := [42, 180, 0, 27, 29, 182, 0, 80, 192, 0, 84, 58, 4, 25, 4, 3, 46, 27, 160, 0, 22, 25, 4, 4]
abbrev dktX2_cast_2 : List UInt8 := dkwX2_cast_2 ++ dktX2_cast_3
def dkwX2_cast_1 : List UInt8 := [153, 0, 9, 42, 5, 182, 0, 95, 172, 3, 61, 3, 62, 29, 42, 180, 0, 27, 182, 0, 72, 162, 0, 49]
abbrev dktX2_cast_1 : List UInt8 := dkwX2_cast_1 ++ dktX2_cast_2
def dkwX2_cast_0 : List UInt8 := [42, 3, 181, 0, 69, 42, 27, 182, 0, 103, 153, 0, 9, 42, 4, 182, 0, 95, 172, 42, 27, 182, 0, 106]
abbrev dktX2_cast_0 : List UInt8 := dkwX2_cast_0 ++ dktX2_cast_1
theorem dksX2_cast_0 : cX2_cast.data.toList.drop 0 = dktX2_cast_0 := by decide +kernel
theorem dksX2_cast_1 : cX2_cast.data.toList.drop 24 = dktX2_cast_1 := dk_seg dksX2_cast_0 24 rfl rfl
theorem dksX2_cast_2 : cX2_cast.data.toList.drop 48 = dktX2_cast_2 := dk_seg dksX2_cast_1 24 rfl rfl
theorem dksX2_cast_3 : cX2_cast.data.toList.drop 72 = dktX2_cast_3 := dk_seg dksX2_cast_2 24 rfl rfl
theorem dX2_cast_0 : decode cX2_cast 0 = .ok (.aload_n 0, 1) := dk_42 (dk_at dksX2_cast_0 0 rfl rfl)
theorem dX2_cast_1 : decode cX2_cast 1 = .ok (.iconst 0, 1) := dk_3 (dk_at dksX2_cast_0 1 rfl rfl)
theorem dX2_cast_2 : decode cX2_cast 2 = .ok (.putfield 69, 3) := dk_181 0 69 (dk_at dksX2_cast_0 2 rfl rfl)
theorem dX2_cast_5 : decode cX2_cast 5 = .ok (.aload_n 0, 1) := dk_42 (dk_at dksX2_cast_0 5 rfl rfl)
theorem dX2_cast_6 : decode cX2_cast 6 = .ok (.iload_n 1, 1) := dk_27 (dk_at dksX2_cast_0 6 rfl rfl)
theorem dX2_cast_7 : decode cX2_cast 7 = .ok (.invokevirtual 103, 3) := dk_182 0 103 (dk_at dksX2_cast_0 7 rfl rfl)
theorem dX2_cast_10 : decode cX2_cast 10 = .ok (.ifCond .eq 9, 3) := dk_153 0 9 (dk_at dksX2_cast_0 10 rfl rfl)
theorem dX2_cast_13 : decode cX2_cast 13 = .ok (.aload_n 0, 1) := dk_42 (dk_at dksX2_cast_0 13 rfl rfl)
theorem dX2_cast_14 : decode cX2_cast 14 = .ok (.iconst 1, 1) := dk_4 (dk_at dksX2_cast_0 14 rfl rfl)
theorem dX2_cast_15 : decode cX2_cast 15 = .ok (.invokevirtual 95, 3) := dk_182 0 95 (dk_at dksX2_cast_0 15 rfl rfl)
theorem dX2_cast_18 : decode cX2_cast 18 = .ok (.ireturn, 1) := dk_172 (dk_at dksX2_cast_0 18 rfl rfl)
theorem dX2_cast_19 : decode cX2_cast 19 = .ok (.aload_n 0, 1) := dk_42 (dk_at dksX2_cast_0 19 rfl rfl)
theorem dX2_cast_20 : decode cX2_cast 20 = .ok (.iload_n 1, 1) := dk_27 (dk_at dksX2_cast_0 20 rfl rfl)
theorem dX2_cast_21 : decode cX2_cast 21 = .ok (.invokevirtual 106, 3) := dk_182 0 106 (dk_at dksX2_cast_0 21 rfl rfl)
theorem dX2_cast_24 : decode cX2_cast 24 = .ok (.ifCond .eq 9, 3) := dk_153 0 9 (dk_at dksX2_cast_1 0 rfl rfl)
theorem dX2_cast_27 : decode cX2_cast 27 = .ok (.aload_n 0, 1) := dk_42 (dk_at dksX2_cast_1 3 rfl rfl)
theorem dX2_cast_28 : decode cX2_cast 28 = .ok (.iconst 2, 1) := dk_5 (dk_at dksX2_cast_1 4 rfl rfl)
theorem dX2_cast_29 : decode cX2_cast 29 = .ok (.invokevirtual 95, 3) := dk_182 0 95 (dk_at dksX2_cast_1 5 rfl rfl)
theorem dX2_cast_32 : decode cX2_cast 32 = .ok (.ireturn, 1) := dk_172 (dk_at dksX2_cast_1 8 rfl rfl)
theorem dX2_cast_33 : decode cX2_cast 33 = .ok (.iconst 0, 1) := dk_3 (dk_at dksX2_cast_1 9 rfl rfl)
theorem dX2_cast_34 : decode cX2_cast 34 = .ok (.istore_n 2, 1) := dk_61 (dk_at dksX2_cast_1 10 rfl rfl)
theorem dX2_cast_35 : decode cX2_cast 35 = .ok (.iconst 0, 1) := dk_3 (dk_at dksX2_cast_1 11 rfl rfl)
theorem dX2_cast_36 : decode cX2_cast 36 = .ok (.istore_n 3, 1) := dk_62 (dk_at dksX2_cast_1 12 rfl rfl)
theorem dX2_cast_37 : decode cX2_cast 37 = .ok (.iload_n 3, 1) := dk_29 (dk_at dksX2_cast_1 13 rfl rfl)
theorem dX2_cast_38 : decode cX2_cast 38 = .ok (.aload_n 0, 1) := dk_42 (dk_at dksX2_cast_1 14 rfl rfl)
theorem dX2_cast_39 : decode cX2_cast 39 = .ok (.getfield 27, 3) := dk_180 0 27 (dk_at dksX2_cast_1 15 rfl rfl)
theorem dX2_cast_42 : decode cX2_cast 42 = .ok (.invokevirtual 72, 3) := dk_182 0 72 (dk_at dksX2_cast_1 18 rfl rfl)
theorem dX2_cast_45 : decode cX2_cast 45 = .ok (.if_icmp .ge 49, 3) := dk_162 0 49 (dk_at dksX2_cast_1 21 rfl rfl)
theorem dX2_cast_48 : decode cX2_cast 48 = .ok (.aload_n 0, 1) := dk_42 (dk_at dksX2_cast_2 0 rfl rfl)
theorem dX2_cast_49 : decode cX2_cast 49 = .ok (.getfield 27, 3) := dk_180 0 27 (dk_at dksX2_cast_2 1 rfl rfl)
theorem dX2_cast_52 : decode cX2_cast 52 = .ok (.iload_n 3, 1) := dk_29 (dk_at dksX2_cast_2 4 rfl rfl)
theorem dX2_cast_53 : decode cX2_cast 53 = .ok (.invokevirtual 80, 3) := dk_182 0 80 (dk_at dksX2_cast_2 5 rfl rfl)
theorem dX2_cast_56 : decode cX2_cast 56 = .ok (.checkcast 84, 3) := dk_192 0 84 (dk_at dksX2_cast_2 8 rfl rfl)
theorem dX2_cast_59 : decode cX2_cast 59 = .ok (.astore 4, 2) := dk_58 4 (dk_at dksX2_cast_2 11 rfl rfl)
theorem dX2_cast_61 : decode cX2_cast 61 = .ok (.aload 4, 2) := dk_25 4 (dk_at dksX2_cast_2 13 rfl rfl)
theorem dX2_cast_63 : decode cX2_cast 63 = .ok (.iconst 0, 1) := dk_3 (dk_at dksX2_cast_2 15 rfl rfl)
theorem dX2_cast_64 : decode cX2_cast 64 = .ok (.iaload, 1) := dk_46 (dk_at dksX2_cast_2 16 rfl rfl)
theorem dX2_cast_65 : decode cX2_cast 65 = .ok (.iload_n 1, 1) := dk_27 (dk_at dksX2_cast_2 17 rfl rfl)
theorem dX2_cast_66 : decode cX2_cast 66 = .ok (.if_icmp .ne 22, 3) := dk_160 0 22 (dk_at dksX2_cast_2 18 rfl rfl)
theorem dX2_cast_69 : decode cX2_cast 69 = .ok (.aload 4, 2) := dk_25 4 (dk_at dksX2_cast_2 21 rfl rfl)
theorem dX2_cast_71 : decode cX2_cast 71 = .ok (.iconst 1, 1) := dk_4 (dk_at dksX2_cast_2 23 rfl rfl)
theorem dX2_cast_72 : decode cX2_cast 72 = .ok (.iaload, 1) := dk_46 (dk_at dksX2_cast_3 0 rfl rfl)
theorem dX2_cast_73 : decode cX2_cast 73 = .ok (.iconst 1, 1) := dk_4 (dk_at dksX2_cast_3 1 rfl rfl)
theorem dX2_cast_74 : decode cX2_cast 74 = .ok (.if_icmp .ne 6, 3) := dk_160 0 6 (dk_at dksX2_cast_3 2 rfl rfl)
theorem dX2_cast_77 : decode cX2_cast 77 = .ok (.goto 11, 3) := dk_167 0 11 (dk_at dksX2_cast_3 5 rfl rfl)
theorem dX2_cast_80 : decode cX2_cast 80 = .ok (.aload 4, 2) := dk_25 4 (dk_at dksX2_cast_3 8 rfl rfl)
theorem dX2_cast_82 : decode cX2_cast 82 = .ok (.iconst 1, 1) := dk_4 (dk_at dksX2_cast_3 10 rfl rfl)
theorem dX2_cast_83 : decode cX2_cast 83 = .ok (.iconst 1, 1) := dk_4 (dk_at dksX2_cast_3 11 rfl rfl)
theorem dX2_cast_84 : decode cX2_cast 84 = .ok (.iastore, 1) := dk_79 (dk_at dksX2_cast_3 12 rfl rfl)
theorem dX2_cast_85 : decode cX2_cast 85 = .ok (.iinc 2 1, 3) := dk_132 2 1 (dk_at dksX2_cast_3 13 rfl rfl)
theorem dX2_cast_88 : decode cX2_cast 88 = .ok (.iinc 3 1, 3) := dk_132 3 1 (dk_at dksX2_cast_3 16 rfl rfl)
theorem dX2_cast_91 : decode cX2_cast 91 = .ok (.goto (-54), 3) := dk_167 255 202 (dk_at dksX2_cast_3 19 rfl rfl)
theorem dX2_cast_94 : decode cX2_cast 94 = .ok (.iload_n 2, 1) := dk_28 (dk_at dksX2_cast_3 22 rfl rfl)
theorem dX2_cast_95 : decode cX2_cast 95 = .ok (.ireturn, 1) := dk_172 (dk_at dksX2_cast_3 23 rfl rfl)
abbrev cX2_trace : ByteArray := prog_18_method_32_code
def yX2_trace : MethodName := ⟨RX2, "trace", "(IIJ)I"⟩
def dkwX2_trace_4 : List UInt8 := [42, 180, 0, 41, 182, 0, 72, 4, 100, 172]
abbrev dktX2_trace_4 : List UInt8 := dkwX2_trace_4 ++ []
def dkwX2_trace_3 : List UInt8 := [182, 0, 72, 33, 80, 42, 180, 0, 41, 5, 188, 10, 89, 3, 27, 79, 89, 4, 28, 79, 182, 0, 99, 87]
abbrev dktX2_trace_3 : List UInt8 := dkwX2_trace_3 ++ dktX2_trace_4
def dkwX2_trace_2 : List UInt8 := [182, 0, 72, 16, 40, 160, 0, 9, 42, 6, 182, 0, 95, 172, 42, 180, 0, 44, 42, 180, 0, 41]
abbrev dktX2_trace_2 : List UInt8 := dkwX2_trace_2 ++ dktX2_trace_3
def dkwX2_trace_1 : List UInt8 := [184, 0, 76, 153, 0, 9, 33, 9, 148, 154, 0, 9, 42, 5, 182, 0, 95, 172, 42, 180, 0, 41]
abbrev dktX2_trace_1 : List UInt8 := dkwX2_trace_1 ++ dktX2_trace_2
def dkwX2_trace_0 : List UInt8 := [42, 3, 181, 0, 69, 42, 28, 182, 0, 130, 153, 0, 9, 42, 4, 182, 0, 95, 172, 27, 3, 8]
abbrev dktX2_trace_0 : List UInt8 := dkwX2_trace_0 ++ dktX2_trace_1
theorem dksX2_trace_0 : cX2_trace.data.toList.drop 0 = dktX2_trace_0 := by decide +kernel
theorem dksX2_trace_1 : cX2_trace.data.toList.drop 22 = dktX2_trace_1 := dk_seg dksX2_trace_0 22 rfl rfl
theorem dksX2_trace_2 : cX2_trace.data.toList.drop 44 = dktX2_trace_2 := dk_seg dksX2_trace_1 22 rfl rfl
theorem dksX2_trace_3 : cX2_trace.data.toList.drop 66 = dktX2_trace_3 := dk_seg dksX2_trace_2 22 rfl rfl
theorem dksX2_trace_4 : cX2_trace.data.toList.drop 90 = dktX2_trace_4 := dk_seg dksX2_trace_3 24 rfl rfl
theorem dX2_trace_0 : decode cX2_trace 0 = .ok (.aload_n 0, 1) := dk_42 (dk_at dksX2_trace_0 0 rfl rfl)
theorem dX2_trace_1 : decode cX2_trace 1 = .ok (.iconst 0, 1) := dk_3 (dk_at dksX2_trace_0 1 rfl rfl)
theorem dX2_trace_2 : decode cX2_trace 2 = .ok (.putfield 69, 3) := dk_181 0 69 (dk_at dksX2_trace_0 2 rfl rfl)
theorem dX2_trace_5 : decode cX2_trace 5 = .ok (.aload_n 0, 1) := dk_42 (dk_at dksX2_trace_0 5 rfl rfl)
theorem dX2_trace_6 : decode cX2_trace 6 = .ok (.iload_n 2, 1) := dk_28 (dk_at dksX2_trace_0 6 rfl rfl)
theorem dX2_trace_7 : decode cX2_trace 7 = .ok (.invokevirtual 130, 3) := dk_182 0 130 (dk_at dksX2_trace_0 7 rfl rfl)
theorem dX2_trace_10 : decode cX2_trace 10 = .ok (.ifCond .eq 9, 3) := dk_153 0 9 (dk_at dksX2_trace_0 10 rfl rfl)
theorem dX2_trace_13 : decode cX2_trace 13 = .ok (.aload_n 0, 1) := dk_42 (dk_at dksX2_trace_0 13 rfl rfl)
theorem dX2_trace_14 : decode cX2_trace 14 = .ok (.iconst 1, 1) := dk_4 (dk_at dksX2_trace_0 14 rfl rfl)
theorem dX2_trace_15 : decode cX2_trace 15 = .ok (.invokevirtual 95, 3) := dk_182 0 95 (dk_at dksX2_trace_0 15 rfl rfl)
theorem dX2_trace_18 : decode cX2_trace 18 = .ok (.ireturn, 1) := dk_172 (dk_at dksX2_trace_0 18 rfl rfl)
theorem dX2_trace_19 : decode cX2_trace 19 = .ok (.iload_n 1, 1) := dk_27 (dk_at dksX2_trace_0 19 rfl rfl)
theorem dX2_trace_20 : decode cX2_trace 20 = .ok (.iconst 0, 1) := dk_3 (dk_at dksX2_trace_0 20 rfl rfl)
theorem dX2_trace_21 : decode cX2_trace 21 = .ok (.iconst 5, 1) := dk_8 (dk_at dksX2_trace_0 21 rfl rfl)
theorem dX2_trace_22 : decode cX2_trace 22 = .ok (.invokestatic 76, 3) := dk_184 0 76 (dk_at dksX2_trace_1 0 rfl rfl)
theorem dX2_trace_25 : decode cX2_trace 25 = .ok (.ifCond .eq 9, 3) := dk_153 0 9 (dk_at dksX2_trace_1 3 rfl rfl)
theorem dX2_trace_28 : decode cX2_trace 28 = .ok (.lload_n 3, 1) := dk_33 (dk_at dksX2_trace_1 6 rfl rfl)
theorem dX2_trace_29 : decode cX2_trace 29 = .ok (.lconst 0, 1) := dk_9 (dk_at dksX2_trace_1 7 rfl rfl)
theorem dX2_trace_30 : decode cX2_trace 30 = .ok (.lcmp, 1) := dk_148 (dk_at dksX2_trace_1 8 rfl rfl)
theorem dX2_trace_31 : decode cX2_trace 31 = .ok (.ifCond .ne 9, 3) := dk_154 0 9 (dk_at dksX2_trace_1 9 rfl rfl)
theorem dX2_trace_34 : decode cX2_trace 34 = .ok (.aload_n 0, 1) := dk_42 (dk_at dksX2_trace_1 12 rfl rfl)
theorem dX2_trace_35 : decode cX2_trace 35 = .ok (.iconst 2, 1) := dk_5 (dk_at dksX2_trace_1 13 rfl rfl)
theorem dX2_trace_36 : decode cX2_trace 36 = .ok (.invokevirtual 95, 3) := dk_182 0 95 (dk_at dksX2_trace_1 14 rfl rfl)
theorem dX2_trace_39 : decode cX2_trace 39 = .ok (.ireturn, 1) := dk_172 (dk_at dksX2_trace_1 17 rfl rfl)
theorem dX2_trace_40 : decode cX2_trace 40 = .ok (.aload_n 0, 1) := dk_42 (dk_at dksX2_trace_1 18 rfl rfl)
theorem dX2_trace_41 : decode cX2_trace 41 = .ok (.getfield 41, 3) := dk_180 0 41 (dk_at dksX2_trace_1 19 rfl rfl)
theorem dX2_trace_44 : decode cX2_trace 44 = .ok (.invokevirtual 72, 3) := dk_182 0 72 (dk_at dksX2_trace_2 0 rfl rfl)
theorem dX2_trace_47 : decode cX2_trace 47 = .ok (.bipush 40, 2) := dk_16 40 (dk_at dksX2_trace_2 3 rfl rfl)
theorem dX2_trace_49 : decode cX2_trace 49 = .ok (.if_icmp .ne 9, 3) := dk_160 0 9 (dk_at dksX2_trace_2 5 rfl rfl)
theorem dX2_trace_52 : decode cX2_trace 52 = .ok (.aload_n 0, 1) := dk_42 (dk_at dksX2_trace_2 8 rfl rfl)
theorem dX2_trace_53 : decode cX2_trace 53 = .ok (.iconst 3, 1) := dk_6 (dk_at dksX2_trace_2 9 rfl rfl)
theorem dX2_trace_54 : decode cX2_trace 54 = .ok (.invokevirtual 95, 3) := dk_182 0 95 (dk_at dksX2_trace_2 10 rfl rfl)
theorem dX2_trace_57 : decode cX2_trace 57 = .ok (.ireturn, 1) := dk_172 (dk_at dksX2_trace_2 13 rfl rfl)
theorem dX2_trace_58 : decode cX2_trace 58 = .ok (.aload_n 0, 1) := dk_42 (dk_at dksX2_trace_2 14 rfl rfl)
theorem dX2_trace_59 : decode cX2_trace 59 = .ok (.getfield 44, 3) := dk_180 0 44 (dk_at dksX2_trace_2 15 rfl rfl)
theorem dX2_trace_62 : decode cX2_trace 62 = .ok (.aload_n 0, 1) := dk_42 (dk_at dksX2_trace_2 18 rfl rfl)
theorem dX2_trace_63 : decode cX2_trace 63 = .ok (.getfield 41, 3) := dk_180 0 41 (dk_at dksX2_trace_2 19 rfl rfl)
theorem dX2_trace_66 : decode cX2_trace 66 = .ok (.invokevirtual 72, 3) := dk_182 0 72 (dk_at dksX2_trace_3 0 rfl rfl)
theorem dX2_trace_69 : decode cX2_trace 69 = .ok (.lload_n 3, 1) := dk_33 (dk_at dksX2_trace_3 3 rfl rfl)
theorem dX2_trace_70 : decode cX2_trace 70 = .ok (.lastore, 1) := dk_80 (dk_at dksX2_trace_3 4 rfl rfl)
theorem dX2_trace_71 : decode cX2_trace 71 = .ok (.aload_n 0, 1) := dk_42 (dk_at dksX2_trace_3 5 rfl rfl)
theorem dX2_trace_72 : decode cX2_trace 72 = .ok (.getfield 41, 3) := dk_180 0 41 (dk_at dksX2_trace_3 6 rfl rfl)
theorem dX2_trace_75 : decode cX2_trace 75 = .ok (.iconst 2, 1) := dk_5 (dk_at dksX2_trace_3 9 rfl rfl)
theorem dX2_trace_76 : decode cX2_trace 76 = .ok (.newarray .int, 2) := dk_188_10 (dk_at dksX2_trace_3 10 rfl rfl)
theorem dX2_trace_78 : decode cX2_trace 78 = .ok (.dup, 1) := dk_89 (dk_at dksX2_trace_3 12 rfl rfl)
theorem dX2_trace_79 : decode cX2_trace 79 = .ok (.iconst 0, 1) := dk_3 (dk_at dksX2_trace_3 13 rfl rfl)
theorem dX2_trace_80 : decode cX2_trace 80 = .ok (.iload_n 1, 1) := dk_27 (dk_at dksX2_trace_3 14 rfl rfl)
theorem dX2_trace_81 : decode cX2_trace 81 = .ok (.iastore, 1) := dk_79 (dk_at dksX2_trace_3 15 rfl rfl)
theorem dX2_trace_82 : decode cX2_trace 82 = .ok (.dup, 1) := dk_89 (dk_at dksX2_trace_3 16 rfl rfl)
theorem dX2_trace_83 : decode cX2_trace 83 = .ok (.iconst 1, 1) := dk_4 (dk_at dksX2_trace_3 17 rfl rfl)
theorem dX2_trace_84 : decode cX2_trace 84 = .ok (.iload_n 2, 1) := dk_28 (dk_at dksX2_trace_3 18 rfl rfl)
theorem dX2_trace_85 : decode cX2_trace 85 = .ok (.iastore, 1) := dk_79 (dk_at dksX2_trace_3 19 rfl rfl)
theorem dX2_trace_86 : decode cX2_trace 86 = .ok (.invokevirtual 99, 3) := dk_182 0 99 (dk_at dksX2_trace_3 20 rfl rfl)
theorem dX2_trace_89 : decode cX2_trace 89 = .ok (.pop, 1) := dk_87 (dk_at dksX2_trace_3 23 rfl rfl)
theorem dX2_trace_90 : decode cX2_trace 90 = .ok (.aload_n 0, 1) := dk_42 (dk_at dksX2_trace_4 0 rfl rfl)
theorem dX2_trace_91 : decode cX2_trace 91 = .ok (.getfield 41, 3) := dk_180 0 41 (dk_at dksX2_trace_4 1 rfl rfl)
theorem dX2_trace_94 : decode cX2_trace 94 = .ok (.invokevirtual 72, 3) := dk_182 0 72 (dk_at dksX2_trace_4 4 rfl rfl)
theorem dX2_trace_97 : decode cX2_trace 97 = .ok (.iconst 1, 1) := dk_4 (dk_at dksX2_trace_4 7 rfl rfl)
theorem dX2_trace_98 : decode cX2_trace 98 = .ok (.isub, 1) := dk_100 (dk_at dksX2_trace_4 8 rfl rfl)
theorem dX2_trace_99 : decode cX2_trace 99 = .ok (.ireturn, 1) := dk_172 (dk_at dksX2_trace_4 9 rfl rfl)
abbrev cX2_shiftOf : ByteArray := prog_18_method_33_code
def yX2_shiftOf : MethodName := ⟨RX2, "shiftOf", "(I)I"⟩
def dkwX2_shiftOf_1 : List UInt8 := [77, 8, 44, 4, 46, 5, 96, 104, 44, 3, 46, 96, 5, 96, 172]
abbrev dktX2_shiftOf_1 : List UInt8 := dkwX2_shiftOf_1 ++ []
def dkwX2_shiftOf_0 : List UInt8 := [42, 3, 181, 0, 69, 42, 27, 182, 0, 155, 153, 0, 9, 42, 4, 182, 0, 95, 172, 42, 27, 182, 0, 151]
abbrev dktX2_shiftOf_0 : List UInt8 := dkwX2_shiftOf_0 ++ dktX2_shiftOf_1
theorem dksX2_shiftOf_0 : cX2_shiftOf.data.toList.drop 0 = dktX2_shiftOf_0 := by decide +kernel
theorem dksX2_shiftOf_1 : cX2_shiftOf.data.toList.drop 24 = dktX2_shiftOf_1 := dk_seg dksX2_shiftOf_0 24 rfl rfl
theorem dX2_shiftOf_0 : decode cX2_shiftOf 0 = .ok (.aload_n 0, 1) := dk_42 (dk_at dksX2_shiftOf_0 0 rfl rfl)
theorem dX2_shiftOf_1 : decode cX2_shiftOf 1 = .ok (.iconst 0, 1) := dk_3 (dk_at dksX2_shiftOf_0 1 rfl rfl)
theorem dX2_shiftOf_2 : decode cX2_shiftOf 2 = .ok (.putfield 69, 3) := dk_181 0 69 (dk_at dksX2_shiftOf_0 2 rfl rfl)
theorem dX2_shiftOf_5 : decode cX2_shiftOf 5 = .ok (.aload_n 0, 1) := dk_42 (dk_at dksX2_shiftOf_0 5 rfl rfl)
theorem dX2_shiftOf_6 : decode cX2_shiftOf 6 = .ok (.iload_n 1, 1) := dk_27 (dk_at dksX2_shiftOf_0 6 rfl rfl)
theorem dX2_shiftOf_7 : decode cX2_shiftOf 7 = .ok (.invokevirtual 155, 3) := dk_182 0 155 (dk_at dksX2_shiftOf_0 7 rfl rfl)
theorem dX2_shiftOf_10 : decode cX2_shiftOf 10 = .ok (.ifCond .eq 9, 3) := dk_153 0 9 (dk_at dksX2_shiftOf_0 10 rfl rfl)
theorem dX2_shiftOf_13 : decode cX2_shiftOf 13 = .ok (.aload_n 0, 1) := dk_42 (dk_at dksX2_shiftOf_0 13 rfl rfl)
theorem dX2_shiftOf_14 : decode cX2_shiftOf 14 = .ok (.iconst 1, 1) := dk_4 (dk_at dksX2_shiftOf_0 14 rfl rfl)
theorem dX2_shiftOf_15 : decode cX2_shiftOf 15 = .ok (.invokevirtual 95, 3) := dk_182 0 95 (dk_at dksX2_shiftOf_0 15 rfl rfl)
theorem dX2_shiftOf_18 : decode cX2_shiftOf 18 = .ok (.ireturn, 1) := dk_172 (dk_at dksX2_shiftOf_0 18 rfl rfl)
theorem dX2_shiftOf_19 : decode cX2_shiftOf 19 = .ok (.aload_n 0, 1) := dk_42 (dk_at dksX2_shiftOf_0 19 rfl rfl)
theorem dX2_shiftOf_20 : decode cX2_shiftOf 20 = .ok (.iload_n 1, 1) := dk_27 (dk_at dksX2_shiftOf_0 20 rfl rfl)
theorem dX2_shiftOf_21 : decode cX2_shiftOf 21 = .ok (.invokevirtual 151, 3) := dk_182 0 151 (dk_at dksX2_shiftOf_0 21 rfl rfl)
theorem dX2_shiftOf_24 : decode cX2_shiftOf 24 = .ok (.astore_n 2, 1) := dk_77 (dk_at dksX2_shiftOf_1 0 rfl rfl)
theorem dX2_shiftOf_25 : decode cX2_shiftOf 25 = .ok (.iconst 5, 1) := dk_8 (dk_at dksX2_shiftOf_1 1 rfl rfl)
theorem dX2_shiftOf_26 : decode cX2_shiftOf 26 = .ok (.aload_n 2, 1) := dk_44 (dk_at dksX2_shiftOf_1 2 rfl rfl)
theorem dX2_shiftOf_27 : decode cX2_shiftOf 27 = .ok (.iconst 1, 1) := dk_4 (dk_at dksX2_shiftOf_1 3 rfl rfl)
theorem dX2_shiftOf_28 : decode cX2_shiftOf 28 = .ok (.iaload, 1) := dk_46 (dk_at dksX2_shiftOf_1 4 rfl rfl)
theorem dX2_shiftOf_29 : decode cX2_shiftOf 29 = .ok (.iconst 2, 1) := dk_5 (dk_at dksX2_shiftOf_1 5 rfl rfl)
theorem dX2_shiftOf_30 : decode cX2_shiftOf 30 = .ok (.iadd, 1) := dk_96 (dk_at dksX2_shiftOf_1 6 rfl rfl)
theorem dX2_shiftOf_31 : decode cX2_shiftOf 31 = .ok (.imul, 1) := dk_104 (dk_at dksX2_shiftOf_1 7 rfl rfl)
theorem dX2_shiftOf_32 : decode cX2_shiftOf 32 = .ok (.aload_n 2, 1) := dk_44 (dk_at dksX2_shiftOf_1 8 rfl rfl)
theorem dX2_shiftOf_33 : decode cX2_shiftOf 33 = .ok (.iconst 0, 1) := dk_3 (dk_at dksX2_shiftOf_1 9 rfl rfl)
theorem dX2_shiftOf_34 : decode cX2_shiftOf 34 = .ok (.iaload, 1) := dk_46 (dk_at dksX2_shiftOf_1 10 rfl rfl)
theorem dX2_shiftOf_35 : decode cX2_shiftOf 35 = .ok (.iadd, 1) := dk_96 (dk_at dksX2_shiftOf_1 11 rfl rfl)
theorem dX2_shiftOf_36 : decode cX2_shiftOf 36 = .ok (.iconst 2, 1) := dk_5 (dk_at dksX2_shiftOf_1 12 rfl rfl)
theorem dX2_shiftOf_37 : decode cX2_shiftOf 37 = .ok (.iadd, 1) := dk_96 (dk_at dksX2_shiftOf_1 13 rfl rfl)
theorem dX2_shiftOf_38 : decode cX2_shiftOf 38 = .ok (.ireturn, 1) := dk_172 (dk_at dksX2_shiftOf_1 14 rfl rfl)
abbrev cX2_noTracing : ByteArray := prog_18_method_8_code
def yX2_noTracing : MethodName := ⟨RX2, "noTracing", "(I)Z"⟩
def dkwX2_noTracing_0 : List UInt8 := [27, 3, 42, 180, 0, 41, 182, 0, 72, 4, 100, 184, 0, 76, 154, 0, 7, 4, 167, 0, 4, 3, 172]
abbrev dktX2_noTracing_0 : List UInt8 := dkwX2_noTracing_0 ++ []
theorem dksX2_noTracing_0 : cX2_noTracing.data.toList.drop 0 = dktX2_noTracing_0 := by decide +kernel
theorem dX2_noTracing_0 : decode cX2_noTracing 0 = .ok (.iload_n 1, 1) := dk_27 (dk_at dksX2_noTracing_0 0 rfl rfl)
theorem dX2_noTracing_1 : decode cX2_noTracing 1 = .ok (.iconst 0, 1) := dk_3 (dk_at dksX2_noTracing_0 1 rfl rfl)
theorem dX2_noTracing_2 : decode cX2_noTracing 2 = .ok (.aload_n 0, 1) := dk_42 (dk_at dksX2_noTracing_0 2 rfl rfl)
theorem dX2_noTracing_3 : decode cX2_noTracing 3 = .ok (.getfield 41, 3) := dk_180 0 41 (dk_at dksX2_noTracing_0 3 rfl rfl)
theorem dX2_noTracing_6 : decode cX2_noTracing 6 = .ok (.invokevirtual 72, 3) := dk_182 0 72 (dk_at dksX2_noTracing_0 6 rfl rfl)
theorem dX2_noTracing_9 : decode cX2_noTracing 9 = .ok (.iconst 1, 1) := dk_4 (dk_at dksX2_noTracing_0 9 rfl rfl)
theorem dX2_noTracing_10 : decode cX2_noTracing 10 = .ok (.isub, 1) := dk_100 (dk_at dksX2_noTracing_0 10 rfl rfl)
theorem dX2_noTracing_11 : decode cX2_noTracing 11 = .ok (.invokestatic 76, 3) := dk_184 0 76 (dk_at dksX2_noTracing_0 11 rfl rfl)
theorem dX2_noTracing_14 : decode cX2_noTracing 14 = .ok (.ifCond .ne 7, 3) := dk_154 0 7 (dk_at dksX2_noTracing_0 14 rfl rfl)
theorem dX2_noTracing_17 : decode cX2_noTracing 17 = .ok (.iconst 1, 1) := dk_4 (dk_at dksX2_noTracing_0 17 rfl rfl)
theorem dX2_noTracing_18 : decode cX2_noTracing 18 = .ok (.goto 4, 3) := dk_167 0 4 (dk_at dksX2_noTracing_0 18 rfl rfl)
theorem dX2_noTracing_21 : decode cX2_noTracing 21 = .ok (.iconst 0, 1) := dk_3 (dk_at dksX2_noTracing_0 21 rfl rfl)
theorem dX2_noTracing_22 : decode cX2_noTracing 22 = .ok (.ireturn, 1) := dk_172 (dk_at dksX2_noTracing_0 22 rfl rfl)
abbrev cX2_aligned : ByteArray := prog_18_method_30_code
def yX2_aligned : MethodName := ⟨RX2, "aligned", "(I)[I"⟩
def dkwX2_aligned_6 : List UInt8 := [89, 4, 21, 5, 79, 89, 5, 21, 6, 79, 176]
abbrev dktX2_aligned_6 : List UInt8 := dkwX2_aligned_6 ++ []
def dkwX2_aligned_5 : List UInt8 := [21, 9, 54, 6, 132, 8, 1, 167, 255, 173, 132, 7, 1, 167, 255, 157, 6, 188, 10, 89, 3, 21, 4, 79]
abbrev dktX2_aligned_5 : List UInt8 := dkwX2_aligned_5 ++ dktX2_aligned_6
def dkwX2_aligned_4 : List UInt8 := [184, 0, 114, 21, 5, 184, 0, 114, 96, 161, 0, 6, 167, 0, 15, 21, 8, 54, 4, 21, 7, 54, 5]
abbrev dktX2_aligned_4 : List UInt8 := dkwX2_aligned_4 ++ dktX2_aligned_5
def dkwX2_aligned_3 : List UInt8 := [161, 0, 50, 21, 9, 21, 6, 160, 0, 31, 21, 8, 184, 0, 114, 21, 7, 184, 0, 114, 96, 21, 4]
abbrev dktX2_aligned_3 : List UInt8 := dkwX2_aligned_3 ++ dktX2_aligned_4
def dkwX2_aligned_2 : List UInt8 := [180, 0, 44, 27, 47, 21, 8, 21, 7, 184, 0, 147, 32, 127, 184, 0, 142, 54, 9, 21, 9, 21, 6]
abbrev dktX2_aligned_2 : List UInt8 := dkwX2_aligned_2 ++ dktX2_aligned_3
def dkwX2_aligned_1 : List UInt8 := [2, 54, 6, 16, 254, 54, 7, 21, 7, 5, 163, 0, 99, 16, 254, 54, 8, 21, 8, 5, 163, 0, 83, 42]
abbrev dktX2_aligned_1 : List UInt8 := dkwX2_aligned_1 ++ dktX2_aligned_2
def dkwX2_aligned_0 : List UInt8 := [42, 42, 180, 0, 41, 27, 182, 0, 80, 192, 0, 84, 4, 46, 182, 0, 138, 65, 3, 54, 4, 3, 54, 5]
abbrev dktX2_aligned_0 : List UInt8 := dkwX2_aligned_0 ++ dktX2_aligned_1
theorem dksX2_aligned_0 : cX2_aligned.data.toList.drop 0 = dktX2_aligned_0 := by decide +kernel
theorem dksX2_aligned_1 : cX2_aligned.data.toList.drop 24 = dktX2_aligned_1 := dk_seg dksX2_aligned_0 24 rfl rfl
theorem dksX2_aligned_2 : cX2_aligned.data.toList.drop 48 = dktX2_aligned_2 := dk_seg dksX2_aligned_1 24 rfl rfl
theorem dksX2_aligned_3 : cX2_aligned.data.toList.drop 71 = dktX2_aligned_3 := dk_seg dksX2_aligned_2 23 rfl rfl
theorem dksX2_aligned_4 : cX2_aligned.data.toList.drop 94 = dktX2_aligned_4 := dk_seg dksX2_aligned_3 23 rfl rfl
theorem dksX2_aligned_5 : cX2_aligned.data.toList.drop 117 = dktX2_aligned_5 := dk_seg dksX2_aligned_4 23 rfl rfl
theorem dksX2_aligned_6 : cX2_aligned.data.toList.drop 141 = dktX2_aligned_6 := dk_seg dksX2_aligned_5 24 rfl rfl
theorem dX2_aligned_0 : decode cX2_aligned 0 = .ok (.aload_n 0, 1) := dk_42 (dk_at dksX2_aligned_0 0 rfl rfl)
theorem dX2_aligned_1 : decode cX2_aligned 1 = .ok (.aload_n 0, 1) := dk_42 (dk_at dksX2_aligned_0 1 rfl rfl)
theorem dX2_aligned_2 : decode cX2_aligned 2 = .ok (.getfield 41, 3) := dk_180 0 41 (dk_at dksX2_aligned_0 2 rfl rfl)
theorem dX2_aligned_5 : decode cX2_aligned 5 = .ok (.iload_n 1, 1) := dk_27 (dk_at dksX2_aligned_0 5 rfl rfl)
theorem dX2_aligned_6 : decode cX2_aligned 6 = .ok (.invokevirtual 80, 3) := dk_182 0 80 (dk_at dksX2_aligned_0 6 rfl rfl)
theorem dX2_aligned_9 : decode cX2_aligned 9 = .ok (.checkcast 84, 3) := dk_192 0 84 (dk_at dksX2_aligned_0 9 rfl rfl)
theorem dX2_aligned_12 : decode cX2_aligned 12 = .ok (.iconst 1, 1) := dk_4 (dk_at dksX2_aligned_0 12 rfl rfl)
theorem dX2_aligned_13 : decode cX2_aligned 13 = .ok (.iaload, 1) := dk_46 (dk_at dksX2_aligned_0 13 rfl rfl)
theorem dX2_aligned_14 : decode cX2_aligned 14 = .ok (.invokevirtual 138, 3) := dk_182 0 138 (dk_at dksX2_aligned_0 14 rfl rfl)
theorem dX2_aligned_17 : decode cX2_aligned 17 = .ok (.lstore_n 2, 1) := dk_65 (dk_at dksX2_aligned_0 17 rfl rfl)
theorem dX2_aligned_18 : decode cX2_aligned 18 = .ok (.iconst 0, 1) := dk_3 (dk_at dksX2_aligned_0 18 rfl rfl)
theorem dX2_aligned_19 : decode cX2_aligned 19 = .ok (.istore 4, 2) := dk_54 4 (dk_at dksX2_aligned_0 19 rfl rfl)
theorem dX2_aligned_21 : decode cX2_aligned 21 = .ok (.iconst 0, 1) := dk_3 (dk_at dksX2_aligned_0 21 rfl rfl)
theorem dX2_aligned_22 : decode cX2_aligned 22 = .ok (.istore 5, 2) := dk_54 5 (dk_at dksX2_aligned_0 22 rfl rfl)
theorem dX2_aligned_24 : decode cX2_aligned 24 = .ok (.iconst (-1), 1) := dk_2 (dk_at dksX2_aligned_1 0 rfl rfl)
theorem dX2_aligned_25 : decode cX2_aligned 25 = .ok (.istore 6, 2) := dk_54 6 (dk_at dksX2_aligned_1 1 rfl rfl)
theorem dX2_aligned_27 : decode cX2_aligned 27 = .ok (.bipush (-2), 2) := dk_16 254 (dk_at dksX2_aligned_1 3 rfl rfl)
theorem dX2_aligned_29 : decode cX2_aligned 29 = .ok (.istore 7, 2) := dk_54 7 (dk_at dksX2_aligned_1 5 rfl rfl)
theorem dX2_aligned_31 : decode cX2_aligned 31 = .ok (.iload 7, 2) := dk_21 7 (dk_at dksX2_aligned_1 7 rfl rfl)
theorem dX2_aligned_33 : decode cX2_aligned 33 = .ok (.iconst 2, 1) := dk_5 (dk_at dksX2_aligned_1 9 rfl rfl)
theorem dX2_aligned_34 : decode cX2_aligned 34 = .ok (.if_icmp .gt 99, 3) := dk_163 0 99 (dk_at dksX2_aligned_1 10 rfl rfl)
theorem dX2_aligned_37 : decode cX2_aligned 37 = .ok (.bipush (-2), 2) := dk_16 254 (dk_at dksX2_aligned_1 13 rfl rfl)
theorem dX2_aligned_39 : decode cX2_aligned 39 = .ok (.istore 8, 2) := dk_54 8 (dk_at dksX2_aligned_1 15 rfl rfl)
theorem dX2_aligned_41 : decode cX2_aligned 41 = .ok (.iload 8, 2) := dk_21 8 (dk_at dksX2_aligned_1 17 rfl rfl)
theorem dX2_aligned_43 : decode cX2_aligned 43 = .ok (.iconst 2, 1) := dk_5 (dk_at dksX2_aligned_1 19 rfl rfl)
theorem dX2_aligned_44 : decode cX2_aligned 44 = .ok (.if_icmp .gt 83, 3) := dk_163 0 83 (dk_at dksX2_aligned_1 20 rfl rfl)
theorem dX2_aligned_47 : decode cX2_aligned 47 = .ok (.aload_n 0, 1) := dk_42 (dk_at dksX2_aligned_1 23 rfl rfl)
theorem dX2_aligned_48 : decode cX2_aligned 48 = .ok (.getfield 44, 3) := dk_180 0 44 (dk_at dksX2_aligned_2 0 rfl rfl)
theorem dX2_aligned_51 : decode cX2_aligned 51 = .ok (.iload_n 1, 1) := dk_27 (dk_at dksX2_aligned_2 3 rfl rfl)
theorem dX2_aligned_52 : decode cX2_aligned 52 = .ok (.laload, 1) := dk_47 (dk_at dksX2_aligned_2 4 rfl rfl)
theorem dX2_aligned_53 : decode cX2_aligned 53 = .ok (.iload 8, 2) := dk_21 8 (dk_at dksX2_aligned_2 5 rfl rfl)
theorem dX2_aligned_55 : decode cX2_aligned 55 = .ok (.iload 7, 2) := dk_21 7 (dk_at dksX2_aligned_2 7 rfl rfl)
theorem dX2_aligned_57 : decode cX2_aligned 57 = .ok (.invokestatic 147, 3) := dk_184 0 147 (dk_at dksX2_aligned_2 9 rfl rfl)
theorem dX2_aligned_60 : decode cX2_aligned 60 = .ok (.lload_n 2, 1) := dk_32 (dk_at dksX2_aligned_2 12 rfl rfl)
theorem dX2_aligned_61 : decode cX2_aligned 61 = .ok (.land, 1) := dk_127 (dk_at dksX2_aligned_2 13 rfl rfl)
theorem dX2_aligned_62 : decode cX2_aligned 62 = .ok (.invokestatic 142, 3) := dk_184 0 142 (dk_at dksX2_aligned_2 14 rfl rfl)
theorem dX2_aligned_65 : decode cX2_aligned 65 = .ok (.istore 9, 2) := dk_54 9 (dk_at dksX2_aligned_2 17 rfl rfl)
theorem dX2_aligned_67 : decode cX2_aligned 67 = .ok (.iload 9, 2) := dk_21 9 (dk_at dksX2_aligned_2 19 rfl rfl)
theorem dX2_aligned_69 : decode cX2_aligned 69 = .ok (.iload 6, 2) := dk_21 6 (dk_at dksX2_aligned_2 21 rfl rfl)
theorem dX2_aligned_71 : decode cX2_aligned 71 = .ok (.if_icmp .lt 50, 3) := dk_161 0 50 (dk_at dksX2_aligned_3 0 rfl rfl)
theorem dX2_aligned_74 : decode cX2_aligned 74 = .ok (.iload 9, 2) := dk_21 9 (dk_at dksX2_aligned_3 3 rfl rfl)
theorem dX2_aligned_76 : decode cX2_aligned 76 = .ok (.iload 6, 2) := dk_21 6 (dk_at dksX2_aligned_3 5 rfl rfl)
theorem dX2_aligned_78 : decode cX2_aligned 78 = .ok (.if_icmp .ne 31, 3) := dk_160 0 31 (dk_at dksX2_aligned_3 7 rfl rfl)
theorem dX2_aligned_81 : decode cX2_aligned 81 = .ok (.iload 8, 2) := dk_21 8 (dk_at dksX2_aligned_3 10 rfl rfl)
theorem dX2_aligned_83 : decode cX2_aligned 83 = .ok (.invokestatic 114, 3) := dk_184 0 114 (dk_at dksX2_aligned_3 12 rfl rfl)
theorem dX2_aligned_86 : decode cX2_aligned 86 = .ok (.iload 7, 2) := dk_21 7 (dk_at dksX2_aligned_3 15 rfl rfl)
theorem dX2_aligned_88 : decode cX2_aligned 88 = .ok (.invokestatic 114, 3) := dk_184 0 114 (dk_at dksX2_aligned_3 17 rfl rfl)
theorem dX2_aligned_91 : decode cX2_aligned 91 = .ok (.iadd, 1) := dk_96 (dk_at dksX2_aligned_3 20 rfl rfl)
theorem dX2_aligned_92 : decode cX2_aligned 92 = .ok (.iload 4, 2) := dk_21 4 (dk_at dksX2_aligned_3 21 rfl rfl)
theorem dX2_aligned_94 : decode cX2_aligned 94 = .ok (.invokestatic 114, 3) := dk_184 0 114 (dk_at dksX2_aligned_4 0 rfl rfl)
theorem dX2_aligned_97 : decode cX2_aligned 97 = .ok (.iload 5, 2) := dk_21 5 (dk_at dksX2_aligned_4 3 rfl rfl)
theorem dX2_aligned_99 : decode cX2_aligned 99 = .ok (.invokestatic 114, 3) := dk_184 0 114 (dk_at dksX2_aligned_4 5 rfl rfl)
theorem dX2_aligned_102 : decode cX2_aligned 102 = .ok (.iadd, 1) := dk_96 (dk_at dksX2_aligned_4 8 rfl rfl)
theorem dX2_aligned_103 : decode cX2_aligned 103 = .ok (.if_icmp .lt 6, 3) := dk_161 0 6 (dk_at dksX2_aligned_4 9 rfl rfl)
theorem dX2_aligned_106 : decode cX2_aligned 106 = .ok (.goto 15, 3) := dk_167 0 15 (dk_at dksX2_aligned_4 12 rfl rfl)
theorem dX2_aligned_109 : decode cX2_aligned 109 = .ok (.iload 8, 2) := dk_21 8 (dk_at dksX2_aligned_4 15 rfl rfl)
theorem dX2_aligned_111 : decode cX2_aligned 111 = .ok (.istore 4, 2) := dk_54 4 (dk_at dksX2_aligned_4 17 rfl rfl)
theorem dX2_aligned_113 : decode cX2_aligned 113 = .ok (.iload 7, 2) := dk_21 7 (dk_at dksX2_aligned_4 19 rfl rfl)
theorem dX2_aligned_115 : decode cX2_aligned 115 = .ok (.istore 5, 2) := dk_54 5 (dk_at dksX2_aligned_4 21 rfl rfl)
theorem dX2_aligned_117 : decode cX2_aligned 117 = .ok (.iload 9, 2) := dk_21 9 (dk_at dksX2_aligned_5 0 rfl rfl)
theorem dX2_aligned_119 : decode cX2_aligned 119 = .ok (.istore 6, 2) := dk_54 6 (dk_at dksX2_aligned_5 2 rfl rfl)
theorem dX2_aligned_121 : decode cX2_aligned 121 = .ok (.iinc 8 1, 3) := dk_132 8 1 (dk_at dksX2_aligned_5 4 rfl rfl)
theorem dX2_aligned_124 : decode cX2_aligned 124 = .ok (.goto (-83), 3) := dk_167 255 173 (dk_at dksX2_aligned_5 7 rfl rfl)
theorem dX2_aligned_127 : decode cX2_aligned 127 = .ok (.iinc 7 1, 3) := dk_132 7 1 (dk_at dksX2_aligned_5 10 rfl rfl)
theorem dX2_aligned_130 : decode cX2_aligned 130 = .ok (.goto (-99), 3) := dk_167 255 157 (dk_at dksX2_aligned_5 13 rfl rfl)
theorem dX2_aligned_133 : decode cX2_aligned 133 = .ok (.iconst 3, 1) := dk_6 (dk_at dksX2_aligned_5 16 rfl rfl)
theorem dX2_aligned_134 : decode cX2_aligned 134 = .ok (.newarray .int, 2) := dk_188_10 (dk_at dksX2_aligned_5 17 rfl rfl)
theorem dX2_aligned_136 : decode cX2_aligned 136 = .ok (.dup, 1) := dk_89 (dk_at dksX2_aligned_5 19 rfl rfl)
theorem dX2_aligned_137 : decode cX2_aligned 137 = .ok (.iconst 0, 1) := dk_3 (dk_at dksX2_aligned_5 20 rfl rfl)
theorem dX2_aligned_138 : decode cX2_aligned 138 = .ok (.iload 4, 2) := dk_21 4 (dk_at dksX2_aligned_5 21 rfl rfl)
theorem dX2_aligned_140 : decode cX2_aligned 140 = .ok (.iastore, 1) := dk_79 (dk_at dksX2_aligned_5 23 rfl rfl)
theorem dX2_aligned_141 : decode cX2_aligned 141 = .ok (.dup, 1) := dk_89 (dk_at dksX2_aligned_6 0 rfl rfl)
theorem dX2_aligned_142 : decode cX2_aligned 142 = .ok (.iconst 1, 1) := dk_4 (dk_at dksX2_aligned_6 1 rfl rfl)
theorem dX2_aligned_143 : decode cX2_aligned 143 = .ok (.iload 5, 2) := dk_21 5 (dk_at dksX2_aligned_6 2 rfl rfl)
theorem dX2_aligned_145 : decode cX2_aligned 145 = .ok (.iastore, 1) := dk_79 (dk_at dksX2_aligned_6 4 rfl rfl)
theorem dX2_aligned_146 : decode cX2_aligned 146 = .ok (.dup, 1) := dk_89 (dk_at dksX2_aligned_6 5 rfl rfl)
theorem dX2_aligned_147 : decode cX2_aligned 147 = .ok (.iconst 2, 1) := dk_5 (dk_at dksX2_aligned_6 6 rfl rfl)
theorem dX2_aligned_148 : decode cX2_aligned 148 = .ok (.iload 6, 2) := dk_21 6 (dk_at dksX2_aligned_6 7 rfl rfl)
theorem dX2_aligned_150 : decode cX2_aligned 150 = .ok (.iastore, 1) := dk_79 (dk_at dksX2_aligned_6 9 rfl rfl)
theorem dX2_aligned_151 : decode cX2_aligned 151 = .ok (.areturn, 1) := dk_176 (dk_at dksX2_aligned_6 10 rfl rfl)
abbrev cX2_shifted : ByteArray := prog_18_method_29_code
def yX2_shifted : MethodName := ⟨RX2, "shifted", "(JII)J"⟩
def dkwX2_shifted_3 : List UInt8 := [104, 21, 7, 96, 121, 129, 55, 4, 132, 6, 1, 167, 255, 180, 22, 4, 173]
abbrev dktX2_shifted_3 : List UInt8 := dkwX2_shifted_3 ++ []
def dkwX2_shifted_2 : List UInt8 := [184, 0, 76, 153, 0, 29, 21, 8, 3, 16, 7, 184, 0, 76, 153, 0, 18, 22, 4, 10, 16, 8, 21, 8]
abbrev dktX2_shifted_2 : List UInt8 := dkwX2_shifted_2 ++ dktX2_shifted_3
def dkwX2_shifted_1 : List UInt8 := [16, 8, 108, 29, 96, 54, 8, 30, 21, 6, 125, 10, 127, 10, 148, 154, 0, 40, 21, 7, 3, 16, 7]
abbrev dktX2_shifted_1 : List UInt8 := dkwX2_shifted_1 ++ dktX2_shifted_2
def dkwX2_shifted_0 : List UInt8 := [9, 55, 4, 3, 54, 6, 21, 6, 16, 64, 162, 0, 75, 21, 6, 16, 8, 112, 28, 96, 54, 7, 21, 6]
abbrev dktX2_shifted_0 : List UInt8 := dkwX2_shifted_0 ++ dktX2_shifted_1
theorem dksX2_shifted_0 : cX2_shifted.data.toList.drop 0 = dktX2_shifted_0 := by decide +kernel
theorem dksX2_shifted_1 : cX2_shifted.data.toList.drop 24 = dktX2_shifted_1 := dk_seg dksX2_shifted_0 24 rfl rfl
theorem dksX2_shifted_2 : cX2_shifted.data.toList.drop 47 = dktX2_shifted_2 := dk_seg dksX2_shifted_1 23 rfl rfl
theorem dksX2_shifted_3 : cX2_shifted.data.toList.drop 71 = dktX2_shifted_3 := dk_seg dksX2_shifted_2 24 rfl rfl
theorem dX2_shifted_0 : decode cX2_shifted 0 = .ok (.lconst 0, 1) := dk_9 (dk_at dksX2_shifted_0 0 rfl rfl)
theorem dX2_shifted_1 : decode cX2_shifted 1 = .ok (.lstore 4, 2) := dk_55 4 (dk_at dksX2_shifted_0 1 rfl rfl)
theorem dX2_shifted_3 : decode cX2_shifted 3 = .ok (.iconst 0, 1) := dk_3 (dk_at dksX2_shifted_0 3 rfl rfl)
theorem dX2_shifted_4 : decode cX2_shifted 4 = .ok (.istore 6, 2) := dk_54 6 (dk_at dksX2_shifted_0 4 rfl rfl)
theorem dX2_shifted_6 : decode cX2_shifted 6 = .ok (.iload 6, 2) := dk_21 6 (dk_at dksX2_shifted_0 6 rfl rfl)
theorem dX2_shifted_8 : decode cX2_shifted 8 = .ok (.bipush 64, 2) := dk_16 64 (dk_at dksX2_shifted_0 8 rfl rfl)
theorem dX2_shifted_10 : decode cX2_shifted 10 = .ok (.if_icmp .ge 75, 3) := dk_162 0 75 (dk_at dksX2_shifted_0 10 rfl rfl)
theorem dX2_shifted_13 : decode cX2_shifted 13 = .ok (.iload 6, 2) := dk_21 6 (dk_at dksX2_shifted_0 13 rfl rfl)
theorem dX2_shifted_15 : decode cX2_shifted 15 = .ok (.bipush 8, 2) := dk_16 8 (dk_at dksX2_shifted_0 15 rfl rfl)
theorem dX2_shifted_17 : decode cX2_shifted 17 = .ok (.irem, 1) := dk_112 (dk_at dksX2_shifted_0 17 rfl rfl)
theorem dX2_shifted_18 : decode cX2_shifted 18 = .ok (.iload_n 2, 1) := dk_28 (dk_at dksX2_shifted_0 18 rfl rfl)
theorem dX2_shifted_19 : decode cX2_shifted 19 = .ok (.iadd, 1) := dk_96 (dk_at dksX2_shifted_0 19 rfl rfl)
theorem dX2_shifted_20 : decode cX2_shifted 20 = .ok (.istore 7, 2) := dk_54 7 (dk_at dksX2_shifted_0 20 rfl rfl)
theorem dX2_shifted_22 : decode cX2_shifted 22 = .ok (.iload 6, 2) := dk_21 6 (dk_at dksX2_shifted_0 22 rfl rfl)
theorem dX2_shifted_24 : decode cX2_shifted 24 = .ok (.bipush 8, 2) := dk_16 8 (dk_at dksX2_shifted_1 0 rfl rfl)
theorem dX2_shifted_26 : decode cX2_shifted 26 = .ok (.idiv, 1) := dk_108 (dk_at dksX2_shifted_1 2 rfl rfl)
theorem dX2_shifted_27 : decode cX2_shifted 27 = .ok (.iload_n 3, 1) := dk_29 (dk_at dksX2_shifted_1 3 rfl rfl)
theorem dX2_shifted_28 : decode cX2_shifted 28 = .ok (.iadd, 1) := dk_96 (dk_at dksX2_shifted_1 4 rfl rfl)
theorem dX2_shifted_29 : decode cX2_shifted 29 = .ok (.istore 8, 2) := dk_54 8 (dk_at dksX2_shifted_1 5 rfl rfl)
theorem dX2_shifted_31 : decode cX2_shifted 31 = .ok (.lload_n 0, 1) := dk_30 (dk_at dksX2_shifted_1 7 rfl rfl)
theorem dX2_shifted_32 : decode cX2_shifted 32 = .ok (.iload 6, 2) := dk_21 6 (dk_at dksX2_shifted_1 8 rfl rfl)
theorem dX2_shifted_34 : decode cX2_shifted 34 = .ok (.lushr, 1) := dk_125 (dk_at dksX2_shifted_1 10 rfl rfl)
theorem dX2_shifted_35 : decode cX2_shifted 35 = .ok (.lconst 1, 1) := dk_10 (dk_at dksX2_shifted_1 11 rfl rfl)
theorem dX2_shifted_36 : decode cX2_shifted 36 = .ok (.land, 1) := dk_127 (dk_at dksX2_shifted_1 12 rfl rfl)
theorem dX2_shifted_37 : decode cX2_shifted 37 = .ok (.lconst 1, 1) := dk_10 (dk_at dksX2_shifted_1 13 rfl rfl)
theorem dX2_shifted_38 : decode cX2_shifted 38 = .ok (.lcmp, 1) := dk_148 (dk_at dksX2_shifted_1 14 rfl rfl)
theorem dX2_shifted_39 : decode cX2_shifted 39 = .ok (.ifCond .ne 40, 3) := dk_154 0 40 (dk_at dksX2_shifted_1 15 rfl rfl)
theorem dX2_shifted_42 : decode cX2_shifted 42 = .ok (.iload 7, 2) := dk_21 7 (dk_at dksX2_shifted_1 18 rfl rfl)
theorem dX2_shifted_44 : decode cX2_shifted 44 = .ok (.iconst 0, 1) := dk_3 (dk_at dksX2_shifted_1 20 rfl rfl)
theorem dX2_shifted_45 : decode cX2_shifted 45 = .ok (.bipush 7, 2) := dk_16 7 (dk_at dksX2_shifted_1 21 rfl rfl)
theorem dX2_shifted_47 : decode cX2_shifted 47 = .ok (.invokestatic 76, 3) := dk_184 0 76 (dk_at dksX2_shifted_2 0 rfl rfl)
theorem dX2_shifted_50 : decode cX2_shifted 50 = .ok (.ifCond .eq 29, 3) := dk_153 0 29 (dk_at dksX2_shifted_2 3 rfl rfl)
theorem dX2_shifted_53 : decode cX2_shifted 53 = .ok (.iload 8, 2) := dk_21 8 (dk_at dksX2_shifted_2 6 rfl rfl)
theorem dX2_shifted_55 : decode cX2_shifted 55 = .ok (.iconst 0, 1) := dk_3 (dk_at dksX2_shifted_2 8 rfl rfl)
theorem dX2_shifted_56 : decode cX2_shifted 56 = .ok (.bipush 7, 2) := dk_16 7 (dk_at dksX2_shifted_2 9 rfl rfl)
theorem dX2_shifted_58 : decode cX2_shifted 58 = .ok (.invokestatic 76, 3) := dk_184 0 76 (dk_at dksX2_shifted_2 11 rfl rfl)
theorem dX2_shifted_61 : decode cX2_shifted 61 = .ok (.ifCond .eq 18, 3) := dk_153 0 18 (dk_at dksX2_shifted_2 14 rfl rfl)
theorem dX2_shifted_64 : decode cX2_shifted 64 = .ok (.lload 4, 2) := dk_22 4 (dk_at dksX2_shifted_2 17 rfl rfl)
theorem dX2_shifted_66 : decode cX2_shifted 66 = .ok (.lconst 1, 1) := dk_10 (dk_at dksX2_shifted_2 19 rfl rfl)
theorem dX2_shifted_67 : decode cX2_shifted 67 = .ok (.bipush 8, 2) := dk_16 8 (dk_at dksX2_shifted_2 20 rfl rfl)
theorem dX2_shifted_69 : decode cX2_shifted 69 = .ok (.iload 8, 2) := dk_21 8 (dk_at dksX2_shifted_2 22 rfl rfl)
theorem dX2_shifted_71 : decode cX2_shifted 71 = .ok (.imul, 1) := dk_104 (dk_at dksX2_shifted_3 0 rfl rfl)
theorem dX2_shifted_72 : decode cX2_shifted 72 = .ok (.iload 7, 2) := dk_21 7 (dk_at dksX2_shifted_3 1 rfl rfl)
theorem dX2_shifted_74 : decode cX2_shifted 74 = .ok (.iadd, 1) := dk_96 (dk_at dksX2_shifted_3 3 rfl rfl)
theorem dX2_shifted_75 : decode cX2_shifted 75 = .ok (.lshl, 1) := dk_121 (dk_at dksX2_shifted_3 4 rfl rfl)
theorem dX2_shifted_76 : decode cX2_shifted 76 = .ok (.lor, 1) := dk_129 (dk_at dksX2_shifted_3 5 rfl rfl)
theorem dX2_shifted_77 : decode cX2_shifted 77 = .ok (.lstore 4, 2) := dk_55 4 (dk_at dksX2_shifted_3 6 rfl rfl)
theorem dX2_shifted_79 : decode cX2_shifted 79 = .ok (.iinc 6 1, 3) := dk_132 6 1 (dk_at dksX2_shifted_3 8 rfl rfl)
theorem dX2_shifted_82 : decode cX2_shifted 82 = .ok (.goto (-76), 3) := dk_167 255 180 (dk_at dksX2_shifted_3 11 rfl rfl)
theorem dX2_shifted_85 : decode cX2_shifted 85 = .ok (.lload 4, 2) := dk_22 4 (dk_at dksX2_shifted_3 14 rfl rfl)
theorem dX2_shifted_87 : decode cX2_shifted 87 = .ok (.lreturn, 1) := dk_173 (dk_at dksX2_shifted_3 16 rfl rfl)
abbrev cX2_scoreOf : ByteArray := prog_18_method_34_code
def yX2_scoreOf : MethodName := ⟨RX2, "scoreOf", "(I)I"⟩
def dkwX2_scoreOf_1 : List UInt8 := [182, 0, 158, 172]
abbrev dktX2_scoreOf_1 : List UInt8 := dkwX2_scoreOf_1 ++ []
def dkwX2_scoreOf_0 : List UInt8 := [42, 3, 181, 0, 69, 42, 27, 182, 0, 155, 153, 0, 11, 42, 4, 182, 0, 95, 167, 0, 8, 42, 27]
abbrev dktX2_scoreOf_0 : List UInt8 := dkwX2_scoreOf_0 ++ dktX2_scoreOf_1
theorem dksX2_scoreOf_0 : cX2_scoreOf.data.toList.drop 0 = dktX2_scoreOf_0 := by decide +kernel
theorem dksX2_scoreOf_1 : cX2_scoreOf.data.toList.drop 23 = dktX2_scoreOf_1 := dk_seg dksX2_scoreOf_0 23 rfl rfl
theorem dX2_scoreOf_0 : decode cX2_scoreOf 0 = .ok (.aload_n 0, 1) := dk_42 (dk_at dksX2_scoreOf_0 0 rfl rfl)
theorem dX2_scoreOf_1 : decode cX2_scoreOf 1 = .ok (.iconst 0, 1) := dk_3 (dk_at dksX2_scoreOf_0 1 rfl rfl)
theorem dX2_scoreOf_2 : decode cX2_scoreOf 2 = .ok (.putfield 69, 3) := dk_181 0 69 (dk_at dksX2_scoreOf_0 2 rfl rfl)
theorem dX2_scoreOf_5 : decode cX2_scoreOf 5 = .ok (.aload_n 0, 1) := dk_42 (dk_at dksX2_scoreOf_0 5 rfl rfl)
theorem dX2_scoreOf_6 : decode cX2_scoreOf 6 = .ok (.iload_n 1, 1) := dk_27 (dk_at dksX2_scoreOf_0 6 rfl rfl)
theorem dX2_scoreOf_7 : decode cX2_scoreOf 7 = .ok (.invokevirtual 155, 3) := dk_182 0 155 (dk_at dksX2_scoreOf_0 7 rfl rfl)
theorem dX2_scoreOf_10 : decode cX2_scoreOf 10 = .ok (.ifCond .eq 11, 3) := dk_153 0 11 (dk_at dksX2_scoreOf_0 10 rfl rfl)
theorem dX2_scoreOf_13 : decode cX2_scoreOf 13 = .ok (.aload_n 0, 1) := dk_42 (dk_at dksX2_scoreOf_0 13 rfl rfl)
theorem dX2_scoreOf_14 : decode cX2_scoreOf 14 = .ok (.iconst 1, 1) := dk_4 (dk_at dksX2_scoreOf_0 14 rfl rfl)
theorem dX2_scoreOf_15 : decode cX2_scoreOf 15 = .ok (.invokevirtual 95, 3) := dk_182 0 95 (dk_at dksX2_scoreOf_0 15 rfl rfl)
theorem dX2_scoreOf_18 : decode cX2_scoreOf 18 = .ok (.goto 8, 3) := dk_167 0 8 (dk_at dksX2_scoreOf_0 18 rfl rfl)
theorem dX2_scoreOf_21 : decode cX2_scoreOf 21 = .ok (.aload_n 0, 1) := dk_42 (dk_at dksX2_scoreOf_0 21 rfl rfl)
theorem dX2_scoreOf_22 : decode cX2_scoreOf 22 = .ok (.iload_n 1, 1) := dk_27 (dk_at dksX2_scoreOf_0 22 rfl rfl)
theorem dX2_scoreOf_23 : decode cX2_scoreOf 23 = .ok (.invokevirtual 158, 3) := dk_182 0 158 (dk_at dksX2_scoreOf_1 0 rfl rfl)
theorem dX2_scoreOf_26 : decode cX2_scoreOf 26 = .ok (.ireturn, 1) := dk_172 (dk_at dksX2_scoreOf_1 3 rfl rfl)
abbrev cX2_score : ByteArray := prog_18_method_31_code
def yX2_score : MethodName := ⟨RX2, "score", "(I)I"⟩
def dkwX2_score_1 : List UInt8 := [182, 0, 151, 5, 46, 104, 42, 180, 0, 44, 27, 47, 184, 0, 142, 32, 184, 0, 142, 96, 108, 172]
abbrev dktX2_score_1 : List UInt8 := dkwX2_score_1 ++ []
def dkwX2_score_0 : List UInt8 := [42, 42, 180, 0, 41, 27, 182, 0, 80, 192, 0, 84, 4, 46, 182, 0, 138, 65, 17, 0, 200, 42, 27]
abbrev dktX2_score_0 : List UInt8 := dkwX2_score_0 ++ dktX2_score_1
theorem dksX2_score_0 : cX2_score.data.toList.drop 0 = dktX2_score_0 := by decide +kernel
theorem dksX2_score_1 : cX2_score.data.toList.drop 23 = dktX2_score_1 := dk_seg dksX2_score_0 23 rfl rfl
theorem dX2_score_0 : decode cX2_score 0 = .ok (.aload_n 0, 1) := dk_42 (dk_at dksX2_score_0 0 rfl rfl)
theorem dX2_score_1 : decode cX2_score 1 = .ok (.aload_n 0, 1) := dk_42 (dk_at dksX2_score_0 1 rfl rfl)
theorem dX2_score_2 : decode cX2_score 2 = .ok (.getfield 41, 3) := dk_180 0 41 (dk_at dksX2_score_0 2 rfl rfl)
theorem dX2_score_5 : decode cX2_score 5 = .ok (.iload_n 1, 1) := dk_27 (dk_at dksX2_score_0 5 rfl rfl)
theorem dX2_score_6 : decode cX2_score 6 = .ok (.invokevirtual 80, 3) := dk_182 0 80 (dk_at dksX2_score_0 6 rfl rfl)
theorem dX2_score_9 : decode cX2_score 9 = .ok (.checkcast 84, 3) := dk_192 0 84 (dk_at dksX2_score_0 9 rfl rfl)
theorem dX2_score_12 : decode cX2_score 12 = .ok (.iconst 1, 1) := dk_4 (dk_at dksX2_score_0 12 rfl rfl)
theorem dX2_score_13 : decode cX2_score 13 = .ok (.iaload, 1) := dk_46 (dk_at dksX2_score_0 13 rfl rfl)
theorem dX2_score_14 : decode cX2_score 14 = .ok (.invokevirtual 138, 3) := dk_182 0 138 (dk_at dksX2_score_0 14 rfl rfl)
theorem dX2_score_17 : decode cX2_score 17 = .ok (.lstore_n 2, 1) := dk_65 (dk_at dksX2_score_0 17 rfl rfl)
theorem dX2_score_18 : decode cX2_score 18 = .ok (.sipush 200, 3) := dk_17 0 200 (dk_at dksX2_score_0 18 rfl rfl)
theorem dX2_score_21 : decode cX2_score 21 = .ok (.aload_n 0, 1) := dk_42 (dk_at dksX2_score_0 21 rfl rfl)
theorem dX2_score_22 : decode cX2_score 22 = .ok (.iload_n 1, 1) := dk_27 (dk_at dksX2_score_0 22 rfl rfl)
theorem dX2_score_23 : decode cX2_score 23 = .ok (.invokevirtual 151, 3) := dk_182 0 151 (dk_at dksX2_score_1 0 rfl rfl)
theorem dX2_score_26 : decode cX2_score 26 = .ok (.iconst 2, 1) := dk_5 (dk_at dksX2_score_1 3 rfl rfl)
theorem dX2_score_27 : decode cX2_score 27 = .ok (.iaload, 1) := dk_46 (dk_at dksX2_score_1 4 rfl rfl)
theorem dX2_score_28 : decode cX2_score 28 = .ok (.imul, 1) := dk_104 (dk_at dksX2_score_1 5 rfl rfl)
theorem dX2_score_29 : decode cX2_score 29 = .ok (.aload_n 0, 1) := dk_42 (dk_at dksX2_score_1 6 rfl rfl)
theorem dX2_score_30 : decode cX2_score 30 = .ok (.getfield 44, 3) := dk_180 0 44 (dk_at dksX2_score_1 7 rfl rfl)
theorem dX2_score_33 : decode cX2_score 33 = .ok (.iload_n 1, 1) := dk_27 (dk_at dksX2_score_1 10 rfl rfl)
theorem dX2_score_34 : decode cX2_score 34 = .ok (.laload, 1) := dk_47 (dk_at dksX2_score_1 11 rfl rfl)
theorem dX2_score_35 : decode cX2_score 35 = .ok (.invokestatic 142, 3) := dk_184 0 142 (dk_at dksX2_score_1 12 rfl rfl)
theorem dX2_score_38 : decode cX2_score 38 = .ok (.lload_n 2, 1) := dk_32 (dk_at dksX2_score_1 15 rfl rfl)
theorem dX2_score_39 : decode cX2_score 39 = .ok (.invokestatic 142, 3) := dk_184 0 142 (dk_at dksX2_score_1 16 rfl rfl)
theorem dX2_score_42 : decode cX2_score 42 = .ok (.iadd, 1) := dk_96 (dk_at dksX2_score_1 19 rfl rfl)
theorem dX2_score_43 : decode cX2_score 43 = .ok (.idiv, 1) := dk_108 (dk_at dksX2_score_1 20 rfl rfl)
theorem dX2_score_44 : decode cX2_score 44 = .ok (.ireturn, 1) := dk_172 (dk_at dksX2_score_1 21 rfl rfl)
abbrev cX2_handScore : ByteArray := prog_18_method_35_code
def yX2_handScore : MethodName := ⟨RX2, "handScore", "(I)I"⟩
def dkwX2_handScore_3 : List UInt8 := [132, 4, 1, 167, 255, 208, 29, 154, 0, 7, 2, 167, 0, 6, 28, 29, 108, 172]
abbrev dktX2_handScore_3 : List UInt8 := dkwX2_handScore_3 ++ []
def dkwX2_handScore_2 : List UInt8 := [192, 0, 84, 3, 46, 27, 159, 0, 6, 167, 0, 15, 28, 42, 21, 4, 182, 0, 158, 96, 61, 132, 3, 1]
abbrev dktX2_handScore_2 : List UInt8 := dkwX2_handScore_2 ++ dktX2_handScore_3
def dkwX2_handScore_1 : List UInt8 := [3, 54, 4, 21, 4, 42, 180, 0, 41, 182, 0, 72, 162, 0, 42, 42, 180, 0, 41, 21, 4, 182, 0, 80]
abbrev dktX2_handScore_1 : List UInt8 := dkwX2_handScore_1 ++ dktX2_handScore_2
def dkwX2_handScore_0 : List UInt8 := [42, 3, 181, 0, 69, 27, 3, 8, 184, 0, 76, 154, 0, 9, 42, 4, 182, 0, 95, 172, 3, 61, 3, 62]
abbrev dktX2_handScore_0 : List UInt8 := dkwX2_handScore_0 ++ dktX2_handScore_1
theorem dksX2_handScore_0 : cX2_handScore.data.toList.drop 0 = dktX2_handScore_0 := by decide +kernel
theorem dksX2_handScore_1 : cX2_handScore.data.toList.drop 24 = dktX2_handScore_1 := dk_seg dksX2_handScore_0 24 rfl rfl
theorem dksX2_handScore_2 : cX2_handScore.data.toList.drop 48 = dktX2_handScore_2 := dk_seg dksX2_handScore_1 24 rfl rfl
theorem dksX2_handScore_3 : cX2_handScore.data.toList.drop 72 = dktX2_handScore_3 := dk_seg dksX2_handScore_2 24 rfl rfl
theorem dX2_handScore_0 : decode cX2_handScore 0 = .ok (.aload_n 0, 1) := dk_42 (dk_at dksX2_handScore_0 0 rfl rfl)
theorem dX2_handScore_1 : decode cX2_handScore 1 = .ok (.iconst 0, 1) := dk_3 (dk_at dksX2_handScore_0 1 rfl rfl)
theorem dX2_handScore_2 : decode cX2_handScore 2 = .ok (.putfield 69, 3) := dk_181 0 69 (dk_at dksX2_handScore_0 2 rfl rfl)
theorem dX2_handScore_5 : decode cX2_handScore 5 = .ok (.iload_n 1, 1) := dk_27 (dk_at dksX2_handScore_0 5 rfl rfl)
theorem dX2_handScore_6 : decode cX2_handScore 6 = .ok (.iconst 0, 1) := dk_3 (dk_at dksX2_handScore_0 6 rfl rfl)
theorem dX2_handScore_7 : decode cX2_handScore 7 = .ok (.iconst 5, 1) := dk_8 (dk_at dksX2_handScore_0 7 rfl rfl)
theorem dX2_handScore_8 : decode cX2_handScore 8 = .ok (.invokestatic 76, 3) := dk_184 0 76 (dk_at dksX2_handScore_0 8 rfl rfl)
theorem dX2_handScore_11 : decode cX2_handScore 11 = .ok (.ifCond .ne 9, 3) := dk_154 0 9 (dk_at dksX2_handScore_0 11 rfl rfl)
theorem dX2_handScore_14 : decode cX2_handScore 14 = .ok (.aload_n 0, 1) := dk_42 (dk_at dksX2_handScore_0 14 rfl rfl)
theorem dX2_handScore_15 : decode cX2_handScore 15 = .ok (.iconst 1, 1) := dk_4 (dk_at dksX2_handScore_0 15 rfl rfl)
theorem dX2_handScore_16 : decode cX2_handScore 16 = .ok (.invokevirtual 95, 3) := dk_182 0 95 (dk_at dksX2_handScore_0 16 rfl rfl)
theorem dX2_handScore_19 : decode cX2_handScore 19 = .ok (.ireturn, 1) := dk_172 (dk_at dksX2_handScore_0 19 rfl rfl)
theorem dX2_handScore_20 : decode cX2_handScore 20 = .ok (.iconst 0, 1) := dk_3 (dk_at dksX2_handScore_0 20 rfl rfl)
theorem dX2_handScore_21 : decode cX2_handScore 21 = .ok (.istore_n 2, 1) := dk_61 (dk_at dksX2_handScore_0 21 rfl rfl)
theorem dX2_handScore_22 : decode cX2_handScore 22 = .ok (.iconst 0, 1) := dk_3 (dk_at dksX2_handScore_0 22 rfl rfl)
theorem dX2_handScore_23 : decode cX2_handScore 23 = .ok (.istore_n 3, 1) := dk_62 (dk_at dksX2_handScore_0 23 rfl rfl)
theorem dX2_handScore_24 : decode cX2_handScore 24 = .ok (.iconst 0, 1) := dk_3 (dk_at dksX2_handScore_1 0 rfl rfl)
theorem dX2_handScore_25 : decode cX2_handScore 25 = .ok (.istore 4, 2) := dk_54 4 (dk_at dksX2_handScore_1 1 rfl rfl)
theorem dX2_handScore_27 : decode cX2_handScore 27 = .ok (.iload 4, 2) := dk_21 4 (dk_at dksX2_handScore_1 3 rfl rfl)
theorem dX2_handScore_29 : decode cX2_handScore 29 = .ok (.aload_n 0, 1) := dk_42 (dk_at dksX2_handScore_1 5 rfl rfl)
theorem dX2_handScore_30 : decode cX2_handScore 30 = .ok (.getfield 41, 3) := dk_180 0 41 (dk_at dksX2_handScore_1 6 rfl rfl)
theorem dX2_handScore_33 : decode cX2_handScore 33 = .ok (.invokevirtual 72, 3) := dk_182 0 72 (dk_at dksX2_handScore_1 9 rfl rfl)
theorem dX2_handScore_36 : decode cX2_handScore 36 = .ok (.if_icmp .ge 42, 3) := dk_162 0 42 (dk_at dksX2_handScore_1 12 rfl rfl)
theorem dX2_handScore_39 : decode cX2_handScore 39 = .ok (.aload_n 0, 1) := dk_42 (dk_at dksX2_handScore_1 15 rfl rfl)
theorem dX2_handScore_40 : decode cX2_handScore 40 = .ok (.getfield 41, 3) := dk_180 0 41 (dk_at dksX2_handScore_1 16 rfl rfl)
theorem dX2_handScore_43 : decode cX2_handScore 43 = .ok (.iload 4, 2) := dk_21 4 (dk_at dksX2_handScore_1 19 rfl rfl)
theorem dX2_handScore_45 : decode cX2_handScore 45 = .ok (.invokevirtual 80, 3) := dk_182 0 80 (dk_at dksX2_handScore_1 21 rfl rfl)
theorem dX2_handScore_48 : decode cX2_handScore 48 = .ok (.checkcast 84, 3) := dk_192 0 84 (dk_at dksX2_handScore_2 0 rfl rfl)
theorem dX2_handScore_51 : decode cX2_handScore 51 = .ok (.iconst 0, 1) := dk_3 (dk_at dksX2_handScore_2 3 rfl rfl)
theorem dX2_handScore_52 : decode cX2_handScore 52 = .ok (.iaload, 1) := dk_46 (dk_at dksX2_handScore_2 4 rfl rfl)
theorem dX2_handScore_53 : decode cX2_handScore 53 = .ok (.iload_n 1, 1) := dk_27 (dk_at dksX2_handScore_2 5 rfl rfl)
theorem dX2_handScore_54 : decode cX2_handScore 54 = .ok (.if_icmp .eq 6, 3) := dk_159 0 6 (dk_at dksX2_handScore_2 6 rfl rfl)
theorem dX2_handScore_57 : decode cX2_handScore 57 = .ok (.goto 15, 3) := dk_167 0 15 (dk_at dksX2_handScore_2 9 rfl rfl)
theorem dX2_handScore_60 : decode cX2_handScore 60 = .ok (.iload_n 2, 1) := dk_28 (dk_at dksX2_handScore_2 12 rfl rfl)
theorem dX2_handScore_61 : decode cX2_handScore 61 = .ok (.aload_n 0, 1) := dk_42 (dk_at dksX2_handScore_2 13 rfl rfl)
theorem dX2_handScore_62 : decode cX2_handScore 62 = .ok (.iload 4, 2) := dk_21 4 (dk_at dksX2_handScore_2 14 rfl rfl)
theorem dX2_handScore_64 : decode cX2_handScore 64 = .ok (.invokevirtual 158, 3) := dk_182 0 158 (dk_at dksX2_handScore_2 16 rfl rfl)
theorem dX2_handScore_67 : decode cX2_handScore 67 = .ok (.iadd, 1) := dk_96 (dk_at dksX2_handScore_2 19 rfl rfl)
theorem dX2_handScore_68 : decode cX2_handScore 68 = .ok (.istore_n 2, 1) := dk_61 (dk_at dksX2_handScore_2 20 rfl rfl)
theorem dX2_handScore_69 : decode cX2_handScore 69 = .ok (.iinc 3 1, 3) := dk_132 3 1 (dk_at dksX2_handScore_2 21 rfl rfl)
theorem dX2_handScore_72 : decode cX2_handScore 72 = .ok (.iinc 4 1, 3) := dk_132 4 1 (dk_at dksX2_handScore_3 0 rfl rfl)
theorem dX2_handScore_75 : decode cX2_handScore 75 = .ok (.goto (-48), 3) := dk_167 255 208 (dk_at dksX2_handScore_3 3 rfl rfl)
theorem dX2_handScore_78 : decode cX2_handScore 78 = .ok (.iload_n 3, 1) := dk_29 (dk_at dksX2_handScore_3 6 rfl rfl)
theorem dX2_handScore_79 : decode cX2_handScore 79 = .ok (.ifCond .ne 7, 3) := dk_154 0 7 (dk_at dksX2_handScore_3 7 rfl rfl)
theorem dX2_handScore_82 : decode cX2_handScore 82 = .ok (.iconst (-1), 1) := dk_2 (dk_at dksX2_handScore_3 10 rfl rfl)
theorem dX2_handScore_83 : decode cX2_handScore 83 = .ok (.goto 6, 3) := dk_167 0 6 (dk_at dksX2_handScore_3 11 rfl rfl)
theorem dX2_handScore_86 : decode cX2_handScore 86 = .ok (.iload_n 2, 1) := dk_28 (dk_at dksX2_handScore_3 14 rfl rfl)
theorem dX2_handScore_87 : decode cX2_handScore 87 = .ok (.iload_n 3, 1) := dk_29 (dk_at dksX2_handScore_3 15 rfl rfl)
theorem dX2_handScore_88 : decode cX2_handScore 88 = .ok (.idiv, 1) := dk_108 (dk_at dksX2_handScore_3 16 rfl rfl)
theorem dX2_handScore_89 : decode cX2_handScore 89 = .ok (.ireturn, 1) := dk_172 (dk_at dksX2_handScore_3 17 rfl rfl)
abbrev cX2_consensus : ByteArray := prog_18_method_36_code
def yX2_consensus : MethodName := ⟨RX2, "consensus", "(I)J"⟩
def dkwX2_consensus_7 : List UInt8 := [132, 6, 1, 167, 255, 227, 22, 4, 173]
abbrev dktX2_consensus_7 : List UInt8 := dkwX2_consensus_7 ++ []
def dkwX2_consensus_6 : List UInt8 := [162, 0, 28, 5, 44, 21, 6, 46, 104, 29, 164, 0, 12, 22, 4, 10, 21, 6, 121, 129, 55, 4]
abbrev dktX2_consensus_6 : List UInt8 := dkwX2_consensus_6 ++ dktX2_consensus_7
def dkwX2_consensus_5 : List UInt8 := [167, 255, 231, 132, 3, 1, 132, 4, 1, 167, 255, 158, 9, 55, 4, 3, 54, 6, 21, 6, 16, 64]
abbrev dktX2_consensus_5 : List UInt8 := dkwX2_consensus_5 ++ dktX2_consensus_6
def dkwX2_consensus_4 : List UInt8 := [16, 64, 162, 0, 24, 44, 21, 8, 92, 46, 22, 6, 21, 8, 125, 10, 127, 136, 96, 79, 132, 8, 1]
abbrev dktX2_consensus_4 : List UInt8 := dkwX2_consensus_4 ++ dktX2_consensus_5
def dkwX2_consensus_3 : List UInt8 := [180, 0, 44, 21, 4, 47, 25, 5, 3, 46, 25, 5, 4, 46, 184, 0, 147, 55, 6, 3, 54, 8, 21, 8]
abbrev dktX2_consensus_3 : List UInt8 := dkwX2_consensus_3 ++ dktX2_consensus_4
def dkwX2_consensus_2 : List UInt8 := [182, 0, 80, 192, 0, 84, 4, 46, 27, 159, 0, 6, 167, 0, 65, 42, 21, 4, 182, 0, 151, 58, 5, 42]
abbrev dktX2_consensus_2 : List UInt8 := dkwX2_consensus_2 ++ dktX2_consensus_3
def dkwX2_consensus_1 : List UInt8 := [77, 3, 62, 3, 54, 4, 21, 4, 42, 180, 0, 41, 182, 0, 72, 162, 0, 92, 42, 180, 0, 41, 21, 4]
abbrev dktX2_consensus_1 : List UInt8 := dkwX2_consensus_1 ++ dktX2_consensus_2
def dkwX2_consensus_0 : List UInt8 := [42, 3, 181, 0, 69, 42, 27, 182, 0, 130, 153, 0, 10, 42, 4, 182, 0, 95, 133, 173, 16, 64, 188, 10]
abbrev dktX2_consensus_0 : List UInt8 := dkwX2_consensus_0 ++ dktX2_consensus_1
theorem dksX2_consensus_0 : cX2_consensus.data.toList.drop 0 = dktX2_consensus_0 := by decide +kernel
theorem dksX2_consensus_1 : cX2_consensus.data.toList.drop 24 = dktX2_consensus_1 := dk_seg dksX2_consensus_0 24 rfl rfl
theorem dksX2_consensus_2 : cX2_consensus.data.toList.drop 48 = dktX2_consensus_2 := dk_seg dksX2_consensus_1 24 rfl rfl
theorem dksX2_consensus_3 : cX2_consensus.data.toList.drop 72 = dktX2_consensus_3 := dk_seg dksX2_consensus_2 24 rfl rfl
theorem dksX2_consensus_4 : cX2_consensus.data.toList.drop 96 = dktX2_consensus_4 := dk_seg dksX2_consensus_3 24 rfl rfl
theorem dksX2_consensus_5 : cX2_consensus.data.toList.drop 119 = dktX2_consensus_5 := dk_seg dksX2_consensus_4 23 rfl rfl
theorem dksX2_consensus_6 : cX2_consensus.data.toList.drop 141 = dktX2_consensus_6 := dk_seg dksX2_consensus_5 22 rfl rfl
theorem dksX2_consensus_7 : cX2_consensus.data.toList.drop 163 = dktX2_consensus_7 := dk_seg dksX2_consensus_6 22 rfl rfl
theorem dX2_consensus_0 : decode cX2_consensus 0 = .ok (.aload_n 0, 1) := dk_42 (dk_at dksX2_consensus_0 0 rfl rfl)
theorem dX2_consensus_1 : decode cX2_consensus 1 = .ok (.iconst 0, 1) := dk_3 (dk_at dksX2_consensus_0 1 rfl rfl)
theorem dX2_consensus_2 : decode cX2_consensus 2 = .ok (.putfield 69, 3) := dk_181 0 69 (dk_at dksX2_consensus_0 2 rfl rfl)
theorem dX2_consensus_5 : decode cX2_consensus 5 = .ok (.aload_n 0, 1) := dk_42 (dk_at dksX2_consensus_0 5 rfl rfl)
theorem dX2_consensus_6 : decode cX2_consensus 6 = .ok (.iload_n 1, 1) := dk_27 (dk_at dksX2_consensus_0 6 rfl rfl)
theorem dX2_consensus_7 : decode cX2_consensus 7 = .ok (.invokevirtual 130, 3) := dk_182 0 130 (dk_at dksX2_consensus_0 7 rfl rfl)
theorem dX2_consensus_10 : decode cX2_consensus 10 = .ok (.ifCond .eq 10, 3) := dk_153 0 10 (dk_at dksX2_consensus_0 10 rfl rfl)
theorem dX2_consensus_13 : decode cX2_consensus 13 = .ok (.aload_n 0, 1) := dk_42 (dk_at dksX2_consensus_0 13 rfl rfl)
theorem dX2_consensus_14 : decode cX2_consensus 14 = .ok (.iconst 1, 1) := dk_4 (dk_at dksX2_consensus_0 14 rfl rfl)
theorem dX2_consensus_15 : decode cX2_consensus 15 = .ok (.invokevirtual 95, 3) := dk_182 0 95 (dk_at dksX2_consensus_0 15 rfl rfl)
theorem dX2_consensus_18 : decode cX2_consensus 18 = .ok (.i2l, 1) := dk_133 (dk_at dksX2_consensus_0 18 rfl rfl)
theorem dX2_consensus_19 : decode cX2_consensus 19 = .ok (.lreturn, 1) := dk_173 (dk_at dksX2_consensus_0 19 rfl rfl)
theorem dX2_consensus_20 : decode cX2_consensus 20 = .ok (.bipush 64, 2) := dk_16 64 (dk_at dksX2_consensus_0 20 rfl rfl)
theorem dX2_consensus_22 : decode cX2_consensus 22 = .ok (.newarray .int, 2) := dk_188_10 (dk_at dksX2_consensus_0 22 rfl rfl)
theorem dX2_consensus_24 : decode cX2_consensus 24 = .ok (.astore_n 2, 1) := dk_77 (dk_at dksX2_consensus_1 0 rfl rfl)
theorem dX2_consensus_25 : decode cX2_consensus 25 = .ok (.iconst 0, 1) := dk_3 (dk_at dksX2_consensus_1 1 rfl rfl)
theorem dX2_consensus_26 : decode cX2_consensus 26 = .ok (.istore_n 3, 1) := dk_62 (dk_at dksX2_consensus_1 2 rfl rfl)
theorem dX2_consensus_27 : decode cX2_consensus 27 = .ok (.iconst 0, 1) := dk_3 (dk_at dksX2_consensus_1 3 rfl rfl)
theorem dX2_consensus_28 : decode cX2_consensus 28 = .ok (.istore 4, 2) := dk_54 4 (dk_at dksX2_consensus_1 4 rfl rfl)
theorem dX2_consensus_30 : decode cX2_consensus 30 = .ok (.iload 4, 2) := dk_21 4 (dk_at dksX2_consensus_1 6 rfl rfl)
theorem dX2_consensus_32 : decode cX2_consensus 32 = .ok (.aload_n 0, 1) := dk_42 (dk_at dksX2_consensus_1 8 rfl rfl)
theorem dX2_consensus_33 : decode cX2_consensus 33 = .ok (.getfield 41, 3) := dk_180 0 41 (dk_at dksX2_consensus_1 9 rfl rfl)
theorem dX2_consensus_36 : decode cX2_consensus 36 = .ok (.invokevirtual 72, 3) := dk_182 0 72 (dk_at dksX2_consensus_1 12 rfl rfl)
theorem dX2_consensus_39 : decode cX2_consensus 39 = .ok (.if_icmp .ge 92, 3) := dk_162 0 92 (dk_at dksX2_consensus_1 15 rfl rfl)
theorem dX2_consensus_42 : decode cX2_consensus 42 = .ok (.aload_n 0, 1) := dk_42 (dk_at dksX2_consensus_1 18 rfl rfl)
theorem dX2_consensus_43 : decode cX2_consensus 43 = .ok (.getfield 41, 3) := dk_180 0 41 (dk_at dksX2_consensus_1 19 rfl rfl)
theorem dX2_consensus_46 : decode cX2_consensus 46 = .ok (.iload 4, 2) := dk_21 4 (dk_at dksX2_consensus_1 22 rfl rfl)
theorem dX2_consensus_48 : decode cX2_consensus 48 = .ok (.invokevirtual 80, 3) := dk_182 0 80 (dk_at dksX2_consensus_2 0 rfl rfl)
theorem dX2_consensus_51 : decode cX2_consensus 51 = .ok (.checkcast 84, 3) := dk_192 0 84 (dk_at dksX2_consensus_2 3 rfl rfl)
theorem dX2_consensus_54 : decode cX2_consensus 54 = .ok (.iconst 1, 1) := dk_4 (dk_at dksX2_consensus_2 6 rfl rfl)
theorem dX2_consensus_55 : decode cX2_consensus 55 = .ok (.iaload, 1) := dk_46 (dk_at dksX2_consensus_2 7 rfl rfl)
theorem dX2_consensus_56 : decode cX2_consensus 56 = .ok (.iload_n 1, 1) := dk_27 (dk_at dksX2_consensus_2 8 rfl rfl)
theorem dX2_consensus_57 : decode cX2_consensus 57 = .ok (.if_icmp .eq 6, 3) := dk_159 0 6 (dk_at dksX2_consensus_2 9 rfl rfl)
theorem dX2_consensus_60 : decode cX2_consensus 60 = .ok (.goto 65, 3) := dk_167 0 65 (dk_at dksX2_consensus_2 12 rfl rfl)
theorem dX2_consensus_63 : decode cX2_consensus 63 = .ok (.aload_n 0, 1) := dk_42 (dk_at dksX2_consensus_2 15 rfl rfl)
theorem dX2_consensus_64 : decode cX2_consensus 64 = .ok (.iload 4, 2) := dk_21 4 (dk_at dksX2_consensus_2 16 rfl rfl)
theorem dX2_consensus_66 : decode cX2_consensus 66 = .ok (.invokevirtual 151, 3) := dk_182 0 151 (dk_at dksX2_consensus_2 18 rfl rfl)
theorem dX2_consensus_69 : decode cX2_consensus 69 = .ok (.astore 5, 2) := dk_58 5 (dk_at dksX2_consensus_2 21 rfl rfl)
theorem dX2_consensus_71 : decode cX2_consensus 71 = .ok (.aload_n 0, 1) := dk_42 (dk_at dksX2_consensus_2 23 rfl rfl)
theorem dX2_consensus_72 : decode cX2_consensus 72 = .ok (.getfield 44, 3) := dk_180 0 44 (dk_at dksX2_consensus_3 0 rfl rfl)
theorem dX2_consensus_75 : decode cX2_consensus 75 = .ok (.iload 4, 2) := dk_21 4 (dk_at dksX2_consensus_3 3 rfl rfl)
theorem dX2_consensus_77 : decode cX2_consensus 77 = .ok (.laload, 1) := dk_47 (dk_at dksX2_consensus_3 5 rfl rfl)
theorem dX2_consensus_78 : decode cX2_consensus 78 = .ok (.aload 5, 2) := dk_25 5 (dk_at dksX2_consensus_3 6 rfl rfl)
theorem dX2_consensus_80 : decode cX2_consensus 80 = .ok (.iconst 0, 1) := dk_3 (dk_at dksX2_consensus_3 8 rfl rfl)
theorem dX2_consensus_81 : decode cX2_consensus 81 = .ok (.iaload, 1) := dk_46 (dk_at dksX2_consensus_3 9 rfl rfl)
theorem dX2_consensus_82 : decode cX2_consensus 82 = .ok (.aload 5, 2) := dk_25 5 (dk_at dksX2_consensus_3 10 rfl rfl)
theorem dX2_consensus_84 : decode cX2_consensus 84 = .ok (.iconst 1, 1) := dk_4 (dk_at dksX2_consensus_3 12 rfl rfl)
theorem dX2_consensus_85 : decode cX2_consensus 85 = .ok (.iaload, 1) := dk_46 (dk_at dksX2_consensus_3 13 rfl rfl)
theorem dX2_consensus_86 : decode cX2_consensus 86 = .ok (.invokestatic 147, 3) := dk_184 0 147 (dk_at dksX2_consensus_3 14 rfl rfl)
theorem dX2_consensus_89 : decode cX2_consensus 89 = .ok (.lstore 6, 2) := dk_55 6 (dk_at dksX2_consensus_3 17 rfl rfl)
theorem dX2_consensus_91 : decode cX2_consensus 91 = .ok (.iconst 0, 1) := dk_3 (dk_at dksX2_consensus_3 19 rfl rfl)
theorem dX2_consensus_92 : decode cX2_consensus 92 = .ok (.istore 8, 2) := dk_54 8 (dk_at dksX2_consensus_3 20 rfl rfl)
theorem dX2_consensus_94 : decode cX2_consensus 94 = .ok (.iload 8, 2) := dk_21 8 (dk_at dksX2_consensus_3 22 rfl rfl)
theorem dX2_consensus_96 : decode cX2_consensus 96 = .ok (.bipush 64, 2) := dk_16 64 (dk_at dksX2_consensus_4 0 rfl rfl)
theorem dX2_consensus_98 : decode cX2_consensus 98 = .ok (.if_icmp .ge 24, 3) := dk_162 0 24 (dk_at dksX2_consensus_4 2 rfl rfl)
theorem dX2_consensus_101 : decode cX2_consensus 101 = .ok (.aload_n 2, 1) := dk_44 (dk_at dksX2_consensus_4 5 rfl rfl)
theorem dX2_consensus_102 : decode cX2_consensus 102 = .ok (.iload 8, 2) := dk_21 8 (dk_at dksX2_consensus_4 6 rfl rfl)
theorem dX2_consensus_104 : decode cX2_consensus 104 = .ok (.dup2, 1) := dk_92 (dk_at dksX2_consensus_4 8 rfl rfl)
theorem dX2_consensus_105 : decode cX2_consensus 105 = .ok (.iaload, 1) := dk_46 (dk_at dksX2_consensus_4 9 rfl rfl)
theorem dX2_consensus_106 : decode cX2_consensus 106 = .ok (.lload 6, 2) := dk_22 6 (dk_at dksX2_consensus_4 10 rfl rfl)
theorem dX2_consensus_108 : decode cX2_consensus 108 = .ok (.iload 8, 2) := dk_21 8 (dk_at dksX2_consensus_4 12 rfl rfl)
theorem dX2_consensus_110 : decode cX2_consensus 110 = .ok (.lushr, 1) := dk_125 (dk_at dksX2_consensus_4 14 rfl rfl)
theorem dX2_consensus_111 : decode cX2_consensus 111 = .ok (.lconst 1, 1) := dk_10 (dk_at dksX2_consensus_4 15 rfl rfl)
theorem dX2_consensus_112 : decode cX2_consensus 112 = .ok (.land, 1) := dk_127 (dk_at dksX2_consensus_4 16 rfl rfl)
theorem dX2_consensus_113 : decode cX2_consensus 113 = .ok (.l2i, 1) := dk_136 (dk_at dksX2_consensus_4 17 rfl rfl)
theorem dX2_consensus_114 : decode cX2_consensus 114 = .ok (.iadd, 1) := dk_96 (dk_at dksX2_consensus_4 18 rfl rfl)
theorem dX2_consensus_115 : decode cX2_consensus 115 = .ok (.iastore, 1) := dk_79 (dk_at dksX2_consensus_4 19 rfl rfl)
theorem dX2_consensus_116 : decode cX2_consensus 116 = .ok (.iinc 8 1, 3) := dk_132 8 1 (dk_at dksX2_consensus_4 20 rfl rfl)
theorem dX2_consensus_119 : decode cX2_consensus 119 = .ok (.goto (-25), 3) := dk_167 255 231 (dk_at dksX2_consensus_5 0 rfl rfl)
theorem dX2_consensus_122 : decode cX2_consensus 122 = .ok (.iinc 3 1, 3) := dk_132 3 1 (dk_at dksX2_consensus_5 3 rfl rfl)
theorem dX2_consensus_125 : decode cX2_consensus 125 = .ok (.iinc 4 1, 3) := dk_132 4 1 (dk_at dksX2_consensus_5 6 rfl rfl)
theorem dX2_consensus_128 : decode cX2_consensus 128 = .ok (.goto (-98), 3) := dk_167 255 158 (dk_at dksX2_consensus_5 9 rfl rfl)
theorem dX2_consensus_131 : decode cX2_consensus 131 = .ok (.lconst 0, 1) := dk_9 (dk_at dksX2_consensus_5 12 rfl rfl)
theorem dX2_consensus_132 : decode cX2_consensus 132 = .ok (.lstore 4, 2) := dk_55 4 (dk_at dksX2_consensus_5 13 rfl rfl)
theorem dX2_consensus_134 : decode cX2_consensus 134 = .ok (.iconst 0, 1) := dk_3 (dk_at dksX2_consensus_5 15 rfl rfl)
theorem dX2_consensus_135 : decode cX2_consensus 135 = .ok (.istore 6, 2) := dk_54 6 (dk_at dksX2_consensus_5 16 rfl rfl)
theorem dX2_consensus_137 : decode cX2_consensus 137 = .ok (.iload 6, 2) := dk_21 6 (dk_at dksX2_consensus_5 18 rfl rfl)
theorem dX2_consensus_139 : decode cX2_consensus 139 = .ok (.bipush 64, 2) := dk_16 64 (dk_at dksX2_consensus_5 20 rfl rfl)
theorem dX2_consensus_141 : decode cX2_consensus 141 = .ok (.if_icmp .ge 28, 3) := dk_162 0 28 (dk_at dksX2_consensus_6 0 rfl rfl)
theorem dX2_consensus_144 : decode cX2_consensus 144 = .ok (.iconst 2, 1) := dk_5 (dk_at dksX2_consensus_6 3 rfl rfl)
theorem dX2_consensus_145 : decode cX2_consensus 145 = .ok (.aload_n 2, 1) := dk_44 (dk_at dksX2_consensus_6 4 rfl rfl)
theorem dX2_consensus_146 : decode cX2_consensus 146 = .ok (.iload 6, 2) := dk_21 6 (dk_at dksX2_consensus_6 5 rfl rfl)
theorem dX2_consensus_148 : decode cX2_consensus 148 = .ok (.iaload, 1) := dk_46 (dk_at dksX2_consensus_6 7 rfl rfl)
theorem dX2_consensus_149 : decode cX2_consensus 149 = .ok (.imul, 1) := dk_104 (dk_at dksX2_consensus_6 8 rfl rfl)
theorem dX2_consensus_150 : decode cX2_consensus 150 = .ok (.iload_n 3, 1) := dk_29 (dk_at dksX2_consensus_6 9 rfl rfl)
theorem dX2_consensus_151 : decode cX2_consensus 151 = .ok (.if_icmp .le 12, 3) := dk_164 0 12 (dk_at dksX2_consensus_6 10 rfl rfl)
theorem dX2_consensus_154 : decode cX2_consensus 154 = .ok (.lload 4, 2) := dk_22 4 (dk_at dksX2_consensus_6 13 rfl rfl)
theorem dX2_consensus_156 : decode cX2_consensus 156 = .ok (.lconst 1, 1) := dk_10 (dk_at dksX2_consensus_6 15 rfl rfl)
theorem dX2_consensus_157 : decode cX2_consensus 157 = .ok (.iload 6, 2) := dk_21 6 (dk_at dksX2_consensus_6 16 rfl rfl)
theorem dX2_consensus_159 : decode cX2_consensus 159 = .ok (.lshl, 1) := dk_121 (dk_at dksX2_consensus_6 18 rfl rfl)
theorem dX2_consensus_160 : decode cX2_consensus 160 = .ok (.lor, 1) := dk_129 (dk_at dksX2_consensus_6 19 rfl rfl)
theorem dX2_consensus_161 : decode cX2_consensus 161 = .ok (.lstore 4, 2) := dk_55 4 (dk_at dksX2_consensus_6 20 rfl rfl)
theorem dX2_consensus_163 : decode cX2_consensus 163 = .ok (.iinc 6 1, 3) := dk_132 6 1 (dk_at dksX2_consensus_7 0 rfl rfl)
theorem dX2_consensus_166 : decode cX2_consensus 166 = .ok (.goto (-29), 3) := dk_167 255 227 (dk_at dksX2_consensus_7 3 rfl rfl)
theorem dX2_consensus_169 : decode cX2_consensus 169 = .ok (.lload 4, 2) := dk_22 4 (dk_at dksX2_consensus_7 6 rfl rfl)
theorem dX2_consensus_171 : decode cX2_consensus 171 = .ok (.lreturn, 1) := dk_173 (dk_at dksX2_consensus_7 8 rfl rfl)
abbrev cX2_mark : ByteArray := prog_18_method_38_code
def yX2_mark : MethodName := ⟨RX2, "mark", "(II)I"⟩
def dkwX2_mark_2 : List UInt8 := [92, 46, 28, 96, 79, 42, 27, 182, 0, 161, 172]
abbrev dktX2_mark_2 : List UInt8 := dkwX2_mark_2 ++ []
def dkwX2_mark_1 : List UInt8 := [184, 0, 76, 154, 0, 9, 42, 5, 182, 0, 95, 172, 42, 180, 0, 33, 27, 182, 0, 80, 192, 0, 84, 4]
abbrev dktX2_mark_1 : List UInt8 := dkwX2_mark_1 ++ dktX2_mark_2
def dkwX2_mark_0 : List UInt8 := [42, 3, 181, 0, 69, 42, 27, 182, 0, 130, 153, 0, 9, 42, 4, 182, 0, 95, 172, 28, 4, 16, 9]
abbrev dktX2_mark_0 : List UInt8 := dkwX2_mark_0 ++ dktX2_mark_1
theorem dksX2_mark_0 : cX2_mark.data.toList.drop 0 = dktX2_mark_0 := by decide +kernel
theorem dksX2_mark_1 : cX2_mark.data.toList.drop 23 = dktX2_mark_1 := dk_seg dksX2_mark_0 23 rfl rfl
theorem dksX2_mark_2 : cX2_mark.data.toList.drop 47 = dktX2_mark_2 := dk_seg dksX2_mark_1 24 rfl rfl
theorem dX2_mark_0 : decode cX2_mark 0 = .ok (.aload_n 0, 1) := dk_42 (dk_at dksX2_mark_0 0 rfl rfl)
theorem dX2_mark_1 : decode cX2_mark 1 = .ok (.iconst 0, 1) := dk_3 (dk_at dksX2_mark_0 1 rfl rfl)
theorem dX2_mark_2 : decode cX2_mark 2 = .ok (.putfield 69, 3) := dk_181 0 69 (dk_at dksX2_mark_0 2 rfl rfl)
theorem dX2_mark_5 : decode cX2_mark 5 = .ok (.aload_n 0, 1) := dk_42 (dk_at dksX2_mark_0 5 rfl rfl)
theorem dX2_mark_6 : decode cX2_mark 6 = .ok (.iload_n 1, 1) := dk_27 (dk_at dksX2_mark_0 6 rfl rfl)
theorem dX2_mark_7 : decode cX2_mark 7 = .ok (.invokevirtual 130, 3) := dk_182 0 130 (dk_at dksX2_mark_0 7 rfl rfl)
theorem dX2_mark_10 : decode cX2_mark 10 = .ok (.ifCond .eq 9, 3) := dk_153 0 9 (dk_at dksX2_mark_0 10 rfl rfl)
theorem dX2_mark_13 : decode cX2_mark 13 = .ok (.aload_n 0, 1) := dk_42 (dk_at dksX2_mark_0 13 rfl rfl)
theorem dX2_mark_14 : decode cX2_mark 14 = .ok (.iconst 1, 1) := dk_4 (dk_at dksX2_mark_0 14 rfl rfl)
theorem dX2_mark_15 : decode cX2_mark 15 = .ok (.invokevirtual 95, 3) := dk_182 0 95 (dk_at dksX2_mark_0 15 rfl rfl)
theorem dX2_mark_18 : decode cX2_mark 18 = .ok (.ireturn, 1) := dk_172 (dk_at dksX2_mark_0 18 rfl rfl)
theorem dX2_mark_19 : decode cX2_mark 19 = .ok (.iload_n 2, 1) := dk_28 (dk_at dksX2_mark_0 19 rfl rfl)
theorem dX2_mark_20 : decode cX2_mark 20 = .ok (.iconst 1, 1) := dk_4 (dk_at dksX2_mark_0 20 rfl rfl)
theorem dX2_mark_21 : decode cX2_mark 21 = .ok (.bipush 9, 2) := dk_16 9 (dk_at dksX2_mark_0 21 rfl rfl)
theorem dX2_mark_23 : decode cX2_mark 23 = .ok (.invokestatic 76, 3) := dk_184 0 76 (dk_at dksX2_mark_1 0 rfl rfl)
theorem dX2_mark_26 : decode cX2_mark 26 = .ok (.ifCond .ne 9, 3) := dk_154 0 9 (dk_at dksX2_mark_1 3 rfl rfl)
theorem dX2_mark_29 : decode cX2_mark 29 = .ok (.aload_n 0, 1) := dk_42 (dk_at dksX2_mark_1 6 rfl rfl)
theorem dX2_mark_30 : decode cX2_mark 30 = .ok (.iconst 2, 1) := dk_5 (dk_at dksX2_mark_1 7 rfl rfl)
theorem dX2_mark_31 : decode cX2_mark 31 = .ok (.invokevirtual 95, 3) := dk_182 0 95 (dk_at dksX2_mark_1 8 rfl rfl)
theorem dX2_mark_34 : decode cX2_mark 34 = .ok (.ireturn, 1) := dk_172 (dk_at dksX2_mark_1 11 rfl rfl)
theorem dX2_mark_35 : decode cX2_mark 35 = .ok (.aload_n 0, 1) := dk_42 (dk_at dksX2_mark_1 12 rfl rfl)
theorem dX2_mark_36 : decode cX2_mark 36 = .ok (.getfield 33, 3) := dk_180 0 33 (dk_at dksX2_mark_1 13 rfl rfl)
theorem dX2_mark_39 : decode cX2_mark 39 = .ok (.iload_n 1, 1) := dk_27 (dk_at dksX2_mark_1 16 rfl rfl)
theorem dX2_mark_40 : decode cX2_mark 40 = .ok (.invokevirtual 80, 3) := dk_182 0 80 (dk_at dksX2_mark_1 17 rfl rfl)
theorem dX2_mark_43 : decode cX2_mark 43 = .ok (.checkcast 84, 3) := dk_192 0 84 (dk_at dksX2_mark_1 20 rfl rfl)
theorem dX2_mark_46 : decode cX2_mark 46 = .ok (.iconst 1, 1) := dk_4 (dk_at dksX2_mark_1 23 rfl rfl)
theorem dX2_mark_47 : decode cX2_mark 47 = .ok (.dup2, 1) := dk_92 (dk_at dksX2_mark_2 0 rfl rfl)
theorem dX2_mark_48 : decode cX2_mark 48 = .ok (.iaload, 1) := dk_46 (dk_at dksX2_mark_2 1 rfl rfl)
theorem dX2_mark_49 : decode cX2_mark 49 = .ok (.iload_n 2, 1) := dk_28 (dk_at dksX2_mark_2 2 rfl rfl)
theorem dX2_mark_50 : decode cX2_mark 50 = .ok (.iadd, 1) := dk_96 (dk_at dksX2_mark_2 3 rfl rfl)
theorem dX2_mark_51 : decode cX2_mark 51 = .ok (.iastore, 1) := dk_79 (dk_at dksX2_mark_2 4 rfl rfl)
theorem dX2_mark_52 : decode cX2_mark 52 = .ok (.aload_n 0, 1) := dk_42 (dk_at dksX2_mark_2 5 rfl rfl)
theorem dX2_mark_53 : decode cX2_mark 53 = .ok (.iload_n 1, 1) := dk_27 (dk_at dksX2_mark_2 6 rfl rfl)
theorem dX2_mark_54 : decode cX2_mark 54 = .ok (.invokevirtual 161, 3) := dk_182 0 161 (dk_at dksX2_mark_2 7 rfl rfl)
theorem dX2_mark_57 : decode cX2_mark 57 = .ok (.ireturn, 1) := dk_172 (dk_at dksX2_mark_2 10 rfl rfl)
abbrev cX2_doubt : ByteArray := prog_18_method_37_code
def yX2_doubt : MethodName := ⟨RX2, "doubt", "(I)I"⟩
def dkwX2_doubt_4 : List UInt8 := [167, 0, 4, 3, 96, 172]
abbrev dktX2_doubt_4 : List UInt8 := dkwX2_doubt_4 ++ []
def dkwX2_doubt_3 : List UInt8 := [180, 0, 33, 27, 182, 0, 80, 192, 0, 84, 4, 46, 28, 5, 161, 0, 11, 29, 153, 0, 7, 8]
abbrev dktX2_doubt_3 : List UInt8 := dkwX2_doubt_3 ++ dktX2_doubt_4
def dkwX2_doubt_2 : List UInt8 := [21, 4, 182, 0, 158, 16, 95, 161, 0, 7, 4, 167, 0, 4, 3, 62, 132, 4, 1, 167, 255, 196, 42]
abbrev dktX2_doubt_2 : List UInt8 := dkwX2_doubt_2 ++ dktX2_doubt_3
def dkwX2_doubt_1 : List UInt8 := [180, 0, 41, 21, 4, 182, 0, 80, 192, 0, 84, 4, 46, 27, 159, 0, 6, 167, 0, 23, 132, 2, 1, 42]
abbrev dktX2_doubt_1 : List UInt8 := dkwX2_doubt_1 ++ dktX2_doubt_2
def dkwX2_doubt_0 : List UInt8 := [3, 61, 4, 62, 3, 54, 4, 21, 4, 42, 180, 0, 41, 182, 0, 72, 162, 0, 54, 29, 153, 0, 50, 42]
abbrev dktX2_doubt_0 : List UInt8 := dkwX2_doubt_0 ++ dktX2_doubt_1
theorem dksX2_doubt_0 : cX2_doubt.data.toList.drop 0 = dktX2_doubt_0 := by decide +kernel
theorem dksX2_doubt_1 : cX2_doubt.data.toList.drop 24 = dktX2_doubt_1 := dk_seg dksX2_doubt_0 24 rfl rfl
theorem dksX2_doubt_2 : cX2_doubt.data.toList.drop 48 = dktX2_doubt_2 := dk_seg dksX2_doubt_1 24 rfl rfl
theorem dksX2_doubt_3 : cX2_doubt.data.toList.drop 71 = dktX2_doubt_3 := dk_seg dksX2_doubt_2 23 rfl rfl
theorem dksX2_doubt_4 : cX2_doubt.data.toList.drop 93 = dktX2_doubt_4 := dk_seg dksX2_doubt_3 22 rfl rfl
theorem dX2_doubt_0 : decode cX2_doubt 0 = .ok (.iconst 0, 1) := dk_3 (dk_at dksX2_doubt_0 0 rfl rfl)
theorem dX2_doubt_1 : decode cX2_doubt 1 = .ok (.istore_n 2, 1) := dk_61 (dk_at dksX2_doubt_0 1 rfl rfl)
theorem dX2_doubt_2 : decode cX2_doubt 2 = .ok (.iconst 1, 1) := dk_4 (dk_at dksX2_doubt_0 2 rfl rfl)
theorem dX2_doubt_3 : decode cX2_doubt 3 = .ok (.istore_n 3, 1) := dk_62 (dk_at dksX2_doubt_0 3 rfl rfl)
theorem dX2_doubt_4 : decode cX2_doubt 4 = .ok (.iconst 0, 1) := dk_3 (dk_at dksX2_doubt_0 4 rfl rfl)
theorem dX2_doubt_5 : decode cX2_doubt 5 = .ok (.istore 4, 2) := dk_54 4 (dk_at dksX2_doubt_0 5 rfl rfl)
theorem dX2_doubt_7 : decode cX2_doubt 7 = .ok (.iload 4, 2) := dk_21 4 (dk_at dksX2_doubt_0 7 rfl rfl)
theorem dX2_doubt_9 : decode cX2_doubt 9 = .ok (.aload_n 0, 1) := dk_42 (dk_at dksX2_doubt_0 9 rfl rfl)
theorem dX2_doubt_10 : decode cX2_doubt 10 = .ok (.getfield 41, 3) := dk_180 0 41 (dk_at dksX2_doubt_0 10 rfl rfl)
theorem dX2_doubt_13 : decode cX2_doubt 13 = .ok (.invokevirtual 72, 3) := dk_182 0 72 (dk_at dksX2_doubt_0 13 rfl rfl)
theorem dX2_doubt_16 : decode cX2_doubt 16 = .ok (.if_icmp .ge 54, 3) := dk_162 0 54 (dk_at dksX2_doubt_0 16 rfl rfl)
theorem dX2_doubt_19 : decode cX2_doubt 19 = .ok (.iload_n 3, 1) := dk_29 (dk_at dksX2_doubt_0 19 rfl rfl)
theorem dX2_doubt_20 : decode cX2_doubt 20 = .ok (.ifCond .eq 50, 3) := dk_153 0 50 (dk_at dksX2_doubt_0 20 rfl rfl)
theorem dX2_doubt_23 : decode cX2_doubt 23 = .ok (.aload_n 0, 1) := dk_42 (dk_at dksX2_doubt_0 23 rfl rfl)
theorem dX2_doubt_24 : decode cX2_doubt 24 = .ok (.getfield 41, 3) := dk_180 0 41 (dk_at dksX2_doubt_1 0 rfl rfl)
theorem dX2_doubt_27 : decode cX2_doubt 27 = .ok (.iload 4, 2) := dk_21 4 (dk_at dksX2_doubt_1 3 rfl rfl)
theorem dX2_doubt_29 : decode cX2_doubt 29 = .ok (.invokevirtual 80, 3) := dk_182 0 80 (dk_at dksX2_doubt_1 5 rfl rfl)
theorem dX2_doubt_32 : decode cX2_doubt 32 = .ok (.checkcast 84, 3) := dk_192 0 84 (dk_at dksX2_doubt_1 8 rfl rfl)
theorem dX2_doubt_35 : decode cX2_doubt 35 = .ok (.iconst 1, 1) := dk_4 (dk_at dksX2_doubt_1 11 rfl rfl)
theorem dX2_doubt_36 : decode cX2_doubt 36 = .ok (.iaload, 1) := dk_46 (dk_at dksX2_doubt_1 12 rfl rfl)
theorem dX2_doubt_37 : decode cX2_doubt 37 = .ok (.iload_n 1, 1) := dk_27 (dk_at dksX2_doubt_1 13 rfl rfl)
theorem dX2_doubt_38 : decode cX2_doubt 38 = .ok (.if_icmp .eq 6, 3) := dk_159 0 6 (dk_at dksX2_doubt_1 14 rfl rfl)
theorem dX2_doubt_41 : decode cX2_doubt 41 = .ok (.goto 23, 3) := dk_167 0 23 (dk_at dksX2_doubt_1 17 rfl rfl)
theorem dX2_doubt_44 : decode cX2_doubt 44 = .ok (.iinc 2 1, 3) := dk_132 2 1 (dk_at dksX2_doubt_1 20 rfl rfl)
theorem dX2_doubt_47 : decode cX2_doubt 47 = .ok (.aload_n 0, 1) := dk_42 (dk_at dksX2_doubt_1 23 rfl rfl)
theorem dX2_doubt_48 : decode cX2_doubt 48 = .ok (.iload 4, 2) := dk_21 4 (dk_at dksX2_doubt_2 0 rfl rfl)
theorem dX2_doubt_50 : decode cX2_doubt 50 = .ok (.invokevirtual 158, 3) := dk_182 0 158 (dk_at dksX2_doubt_2 2 rfl rfl)
theorem dX2_doubt_53 : decode cX2_doubt 53 = .ok (.bipush 95, 2) := dk_16 95 (dk_at dksX2_doubt_2 5 rfl rfl)
theorem dX2_doubt_55 : decode cX2_doubt 55 = .ok (.if_icmp .lt 7, 3) := dk_161 0 7 (dk_at dksX2_doubt_2 7 rfl rfl)
theorem dX2_doubt_58 : decode cX2_doubt 58 = .ok (.iconst 1, 1) := dk_4 (dk_at dksX2_doubt_2 10 rfl rfl)
theorem dX2_doubt_59 : decode cX2_doubt 59 = .ok (.goto 4, 3) := dk_167 0 4 (dk_at dksX2_doubt_2 11 rfl rfl)
theorem dX2_doubt_62 : decode cX2_doubt 62 = .ok (.iconst 0, 1) := dk_3 (dk_at dksX2_doubt_2 14 rfl rfl)
theorem dX2_doubt_63 : decode cX2_doubt 63 = .ok (.istore_n 3, 1) := dk_62 (dk_at dksX2_doubt_2 15 rfl rfl)
theorem dX2_doubt_64 : decode cX2_doubt 64 = .ok (.iinc 4 1, 3) := dk_132 4 1 (dk_at dksX2_doubt_2 16 rfl rfl)
theorem dX2_doubt_67 : decode cX2_doubt 67 = .ok (.goto (-60), 3) := dk_167 255 196 (dk_at dksX2_doubt_2 19 rfl rfl)
theorem dX2_doubt_70 : decode cX2_doubt 70 = .ok (.aload_n 0, 1) := dk_42 (dk_at dksX2_doubt_2 22 rfl rfl)
theorem dX2_doubt_71 : decode cX2_doubt 71 = .ok (.getfield 33, 3) := dk_180 0 33 (dk_at dksX2_doubt_3 0 rfl rfl)
theorem dX2_doubt_74 : decode cX2_doubt 74 = .ok (.iload_n 1, 1) := dk_27 (dk_at dksX2_doubt_3 3 rfl rfl)
theorem dX2_doubt_75 : decode cX2_doubt 75 = .ok (.invokevirtual 80, 3) := dk_182 0 80 (dk_at dksX2_doubt_3 4 rfl rfl)
theorem dX2_doubt_78 : decode cX2_doubt 78 = .ok (.checkcast 84, 3) := dk_192 0 84 (dk_at dksX2_doubt_3 7 rfl rfl)
theorem dX2_doubt_81 : decode cX2_doubt 81 = .ok (.iconst 1, 1) := dk_4 (dk_at dksX2_doubt_3 10 rfl rfl)
theorem dX2_doubt_82 : decode cX2_doubt 82 = .ok (.iaload, 1) := dk_46 (dk_at dksX2_doubt_3 11 rfl rfl)
theorem dX2_doubt_83 : decode cX2_doubt 83 = .ok (.iload_n 2, 1) := dk_28 (dk_at dksX2_doubt_3 12 rfl rfl)
theorem dX2_doubt_84 : decode cX2_doubt 84 = .ok (.iconst 2, 1) := dk_5 (dk_at dksX2_doubt_3 13 rfl rfl)
theorem dX2_doubt_85 : decode cX2_doubt 85 = .ok (.if_icmp .lt 11, 3) := dk_161 0 11 (dk_at dksX2_doubt_3 14 rfl rfl)
theorem dX2_doubt_88 : decode cX2_doubt 88 = .ok (.iload_n 3, 1) := dk_29 (dk_at dksX2_doubt_3 17 rfl rfl)
theorem dX2_doubt_89 : decode cX2_doubt 89 = .ok (.ifCond .eq 7, 3) := dk_153 0 7 (dk_at dksX2_doubt_3 18 rfl rfl)
theorem dX2_doubt_92 : decode cX2_doubt 92 = .ok (.iconst 5, 1) := dk_8 (dk_at dksX2_doubt_3 21 rfl rfl)
theorem dX2_doubt_93 : decode cX2_doubt 93 = .ok (.goto 4, 3) := dk_167 0 4 (dk_at dksX2_doubt_4 0 rfl rfl)
theorem dX2_doubt_96 : decode cX2_doubt 96 = .ok (.iconst 0, 1) := dk_3 (dk_at dksX2_doubt_4 3 rfl rfl)
theorem dX2_doubt_97 : decode cX2_doubt 97 = .ok (.iadd, 1) := dk_96 (dk_at dksX2_doubt_4 4 rfl rfl)
theorem dX2_doubt_98 : decode cX2_doubt 98 = .ok (.ireturn, 1) := dk_172 (dk_at dksX2_doubt_4 5 rfl rfl)
abbrev cX2_clearMarks : ByteArray := prog_18_method_39_code
def yX2_clearMarks : MethodName := ⟨RX2, "clearMarks", "(I)I"⟩
def dkwX2_clearMarks_2 : List UInt8 := [172]
abbrev dktX2_clearMarks_2 : List UInt8 := dkwX2_clearMarks_2 ++ []
def dkwX2_clearMarks_1 : List UInt8 := [182, 0, 80, 192, 0, 84, 4, 46, 61, 42, 180, 0, 33, 27, 182, 0, 80, 192, 0, 84, 4, 3, 79, 28]
abbrev dktX2_clearMarks_1 : List UInt8 := dkwX2_clearMarks_1 ++ dktX2_clearMarks_2
def dkwX2_clearMarks_0 : List UInt8 := [42, 3, 181, 0, 69, 42, 27, 182, 0, 130, 153, 0, 9, 42, 4, 182, 0, 95, 172, 42, 180, 0, 33, 27]
abbrev dktX2_clearMarks_0 : List UInt8 := dkwX2_clearMarks_0 ++ dktX2_clearMarks_1
theorem dksX2_clearMarks_0 : cX2_clearMarks.data.toList.drop 0 = dktX2_clearMarks_0 := by decide +kernel
theorem dksX2_clearMarks_1 : cX2_clearMarks.data.toList.drop 24 = dktX2_clearMarks_1 := dk_seg dksX2_clearMarks_0 24 rfl rfl
theorem dksX2_clearMarks_2 : cX2_clearMarks.data.toList.drop 48 = dktX2_clearMarks_2 := dk_seg dksX2_clearMarks_1 24 rfl rfl
theorem dX2_clearMarks_0 : decode cX2_clearMarks 0 = .ok (.aload_n 0, 1) := dk_42 (dk_at dksX2_clearMarks_0 0 rfl rfl)
theorem dX2_clearMarks_1 : decode cX2_clearMarks 1 = .ok (.iconst 0, 1) := dk_3 (dk_at dksX2_clearMarks_0 1 rfl rfl)
theorem dX2_clearMarks_2 : decode cX2_clearMarks 2 = .ok (.putfield 69, 3) := dk_181 0 69 (dk_at dksX2_clearMarks_0 2 rfl rfl)
theorem dX2_clearMarks_5 : decode cX2_clearMarks 5 = .ok (.aload_n 0, 1) := dk_42 (dk_at dksX2_clearMarks_0 5 rfl rfl)
theorem dX2_clearMarks_6 : decode cX2_clearMarks 6 = .ok (.iload_n 1, 1) := dk_27 (dk_at dksX2_clearMarks_0 6 rfl rfl)
theorem dX2_clearMarks_7 : decode cX2_clearMarks 7 = .ok (.invokevirtual 130, 3) := dk_182 0 130 (dk_at dksX2_clearMarks_0 7 rfl rfl)
theorem dX2_clearMarks_10 : decode cX2_clearMarks 10 = .ok (.ifCond .eq 9, 3) := dk_153 0 9 (dk_at dksX2_clearMarks_0 10 rfl rfl)
theorem dX2_clearMarks_13 : decode cX2_clearMarks 13 = .ok (.aload_n 0, 1) := dk_42 (dk_at dksX2_clearMarks_0 13 rfl rfl)
theorem dX2_clearMarks_14 : decode cX2_clearMarks 14 = .ok (.iconst 1, 1) := dk_4 (dk_at dksX2_clearMarks_0 14 rfl rfl)
theorem dX2_clearMarks_15 : decode cX2_clearMarks 15 = .ok (.invokevirtual 95, 3) := dk_182 0 95 (dk_at dksX2_clearMarks_0 15 rfl rfl)
theorem dX2_clearMarks_18 : decode cX2_clearMarks 18 = .ok (.ireturn, 1) := dk_172 (dk_at dksX2_clearMarks_0 18 rfl rfl)
theorem dX2_clearMarks_19 : decode cX2_clearMarks 19 = .ok (.aload_n 0, 1) := dk_42 (dk_at dksX2_clearMarks_0 19 rfl rfl)
theorem dX2_clearMarks_20 : decode cX2_clearMarks 20 = .ok (.getfield 33, 3) := dk_180 0 33 (dk_at dksX2_clearMarks_0 20 rfl rfl)
theorem dX2_clearMarks_23 : decode cX2_clearMarks 23 = .ok (.iload_n 1, 1) := dk_27 (dk_at dksX2_clearMarks_0 23 rfl rfl)
theorem dX2_clearMarks_24 : decode cX2_clearMarks 24 = .ok (.invokevirtual 80, 3) := dk_182 0 80 (dk_at dksX2_clearMarks_1 0 rfl rfl)
theorem dX2_clearMarks_27 : decode cX2_clearMarks 27 = .ok (.checkcast 84, 3) := dk_192 0 84 (dk_at dksX2_clearMarks_1 3 rfl rfl)
theorem dX2_clearMarks_30 : decode cX2_clearMarks 30 = .ok (.iconst 1, 1) := dk_4 (dk_at dksX2_clearMarks_1 6 rfl rfl)
theorem dX2_clearMarks_31 : decode cX2_clearMarks 31 = .ok (.iaload, 1) := dk_46 (dk_at dksX2_clearMarks_1 7 rfl rfl)
theorem dX2_clearMarks_32 : decode cX2_clearMarks 32 = .ok (.istore_n 2, 1) := dk_61 (dk_at dksX2_clearMarks_1 8 rfl rfl)
theorem dX2_clearMarks_33 : decode cX2_clearMarks 33 = .ok (.aload_n 0, 1) := dk_42 (dk_at dksX2_clearMarks_1 9 rfl rfl)
theorem dX2_clearMarks_34 : decode cX2_clearMarks 34 = .ok (.getfield 33, 3) := dk_180 0 33 (dk_at dksX2_clearMarks_1 10 rfl rfl)
theorem dX2_clearMarks_37 : decode cX2_clearMarks 37 = .ok (.iload_n 1, 1) := dk_27 (dk_at dksX2_clearMarks_1 13 rfl rfl)
theorem dX2_clearMarks_38 : decode cX2_clearMarks 38 = .ok (.invokevirtual 80, 3) := dk_182 0 80 (dk_at dksX2_clearMarks_1 14 rfl rfl)
theorem dX2_clearMarks_41 : decode cX2_clearMarks 41 = .ok (.checkcast 84, 3) := dk_192 0 84 (dk_at dksX2_clearMarks_1 17 rfl rfl)
theorem dX2_clearMarks_44 : decode cX2_clearMarks 44 = .ok (.iconst 1, 1) := dk_4 (dk_at dksX2_clearMarks_1 20 rfl rfl)
theorem dX2_clearMarks_45 : decode cX2_clearMarks 45 = .ok (.iconst 0, 1) := dk_3 (dk_at dksX2_clearMarks_1 21 rfl rfl)
theorem dX2_clearMarks_46 : decode cX2_clearMarks 46 = .ok (.iastore, 1) := dk_79 (dk_at dksX2_clearMarks_1 22 rfl rfl)
theorem dX2_clearMarks_47 : decode cX2_clearMarks 47 = .ok (.iload_n 2, 1) := dk_28 (dk_at dksX2_clearMarks_1 23 rfl rfl)
theorem dX2_clearMarks_48 : decode cX2_clearMarks 48 = .ok (.ireturn, 1) := dk_172 (dk_at dksX2_clearMarks_2 0 rfl rfl)
abbrev cX2_doubtOf : ByteArray := prog_18_method_40_code
def yX2_doubtOf : MethodName := ⟨RX2, "doubtOf", "(I)I"⟩
def dkwX2_doubtOf_1 : List UInt8 := [182, 0, 161, 172]
abbrev dktX2_doubtOf_1 : List UInt8 := dkwX2_doubtOf_1 ++ []
def dkwX2_doubtOf_0 : List UInt8 := [42, 3, 181, 0, 69, 42, 27, 182, 0, 130, 153, 0, 11, 42, 4, 182, 0, 95, 167, 0, 8, 42, 27]
abbrev dktX2_doubtOf_0 : List UInt8 := dkwX2_doubtOf_0 ++ dktX2_doubtOf_1
theorem dksX2_doubtOf_0 : cX2_doubtOf.data.toList.drop 0 = dktX2_doubtOf_0 := by decide +kernel
theorem dksX2_doubtOf_1 : cX2_doubtOf.data.toList.drop 23 = dktX2_doubtOf_1 := dk_seg dksX2_doubtOf_0 23 rfl rfl
theorem dX2_doubtOf_0 : decode cX2_doubtOf 0 = .ok (.aload_n 0, 1) := dk_42 (dk_at dksX2_doubtOf_0 0 rfl rfl)
theorem dX2_doubtOf_1 : decode cX2_doubtOf 1 = .ok (.iconst 0, 1) := dk_3 (dk_at dksX2_doubtOf_0 1 rfl rfl)
theorem dX2_doubtOf_2 : decode cX2_doubtOf 2 = .ok (.putfield 69, 3) := dk_181 0 69 (dk_at dksX2_doubtOf_0 2 rfl rfl)
theorem dX2_doubtOf_5 : decode cX2_doubtOf 5 = .ok (.aload_n 0, 1) := dk_42 (dk_at dksX2_doubtOf_0 5 rfl rfl)
theorem dX2_doubtOf_6 : decode cX2_doubtOf 6 = .ok (.iload_n 1, 1) := dk_27 (dk_at dksX2_doubtOf_0 6 rfl rfl)
theorem dX2_doubtOf_7 : decode cX2_doubtOf 7 = .ok (.invokevirtual 130, 3) := dk_182 0 130 (dk_at dksX2_doubtOf_0 7 rfl rfl)
theorem dX2_doubtOf_10 : decode cX2_doubtOf 10 = .ok (.ifCond .eq 11, 3) := dk_153 0 11 (dk_at dksX2_doubtOf_0 10 rfl rfl)
theorem dX2_doubtOf_13 : decode cX2_doubtOf 13 = .ok (.aload_n 0, 1) := dk_42 (dk_at dksX2_doubtOf_0 13 rfl rfl)
theorem dX2_doubtOf_14 : decode cX2_doubtOf 14 = .ok (.iconst 1, 1) := dk_4 (dk_at dksX2_doubtOf_0 14 rfl rfl)
theorem dX2_doubtOf_15 : decode cX2_doubtOf 15 = .ok (.invokevirtual 95, 3) := dk_182 0 95 (dk_at dksX2_doubtOf_0 15 rfl rfl)
theorem dX2_doubtOf_18 : decode cX2_doubtOf 18 = .ok (.goto 8, 3) := dk_167 0 8 (dk_at dksX2_doubtOf_0 18 rfl rfl)
theorem dX2_doubtOf_21 : decode cX2_doubtOf 21 = .ok (.aload_n 0, 1) := dk_42 (dk_at dksX2_doubtOf_0 21 rfl rfl)
theorem dX2_doubtOf_22 : decode cX2_doubtOf 22 = .ok (.iload_n 1, 1) := dk_27 (dk_at dksX2_doubtOf_0 22 rfl rfl)
theorem dX2_doubtOf_23 : decode cX2_doubtOf 23 = .ok (.invokevirtual 161, 3) := dk_182 0 161 (dk_at dksX2_doubtOf_1 0 rfl rfl)
theorem dX2_doubtOf_26 : decode cX2_doubtOf 26 = .ok (.ireturn, 1) := dk_172 (dk_at dksX2_doubtOf_1 3 rfl rfl)
abbrev cX2_setWeapon : ByteArray := prog_18_method_41_code
def yX2_setWeapon : MethodName := ⟨RX2, "setWeapon", "(II)I"⟩
def dkwX2_setWeapon_2 : List UInt8 := [172]
abbrev dktX2_setWeapon_2 : List UInt8 := dkwX2_setWeapon_2 ++ []
def dkwX2_setWeapon_1 : List UInt8 := [154, 0, 9, 42, 4, 182, 0, 95, 172, 42, 180, 0, 50, 27, 46, 62, 42, 180, 0, 50, 27, 28, 79, 29]
abbrev dktX2_setWeapon_1 : List UInt8 := dkwX2_setWeapon_1 ++ dktX2_setWeapon_2
def dkwX2_setWeapon_0 : List UInt8 := [42, 3, 181, 0, 69, 27, 3, 7, 184, 0, 76, 153, 0, 14, 28, 3, 17, 117, 48, 184, 0, 76]
abbrev dktX2_setWeapon_0 : List UInt8 := dkwX2_setWeapon_0 ++ dktX2_setWeapon_1
theorem dksX2_setWeapon_0 : cX2_setWeapon.data.toList.drop 0 = dktX2_setWeapon_0 := by decide +kernel
theorem dksX2_setWeapon_1 : cX2_setWeapon.data.toList.drop 22 = dktX2_setWeapon_1 := dk_seg dksX2_setWeapon_0 22 rfl rfl
theorem dksX2_setWeapon_2 : cX2_setWeapon.data.toList.drop 46 = dktX2_setWeapon_2 := dk_seg dksX2_setWeapon_1 24 rfl rfl
theorem dX2_setWeapon_0 : decode cX2_setWeapon 0 = .ok (.aload_n 0, 1) := dk_42 (dk_at dksX2_setWeapon_0 0 rfl rfl)
theorem dX2_setWeapon_1 : decode cX2_setWeapon 1 = .ok (.iconst 0, 1) := dk_3 (dk_at dksX2_setWeapon_0 1 rfl rfl)
theorem dX2_setWeapon_2 : decode cX2_setWeapon 2 = .ok (.putfield 69, 3) := dk_181 0 69 (dk_at dksX2_setWeapon_0 2 rfl rfl)
theorem dX2_setWeapon_5 : decode cX2_setWeapon 5 = .ok (.iload_n 1, 1) := dk_27 (dk_at dksX2_setWeapon_0 5 rfl rfl)
theorem dX2_setWeapon_6 : decode cX2_setWeapon 6 = .ok (.iconst 0, 1) := dk_3 (dk_at dksX2_setWeapon_0 6 rfl rfl)
theorem dX2_setWeapon_7 : decode cX2_setWeapon 7 = .ok (.iconst 4, 1) := dk_7 (dk_at dksX2_setWeapon_0 7 rfl rfl)
theorem dX2_setWeapon_8 : decode cX2_setWeapon 8 = .ok (.invokestatic 76, 3) := dk_184 0 76 (dk_at dksX2_setWeapon_0 8 rfl rfl)
theorem dX2_setWeapon_11 : decode cX2_setWeapon 11 = .ok (.ifCond .eq 14, 3) := dk_153 0 14 (dk_at dksX2_setWeapon_0 11 rfl rfl)
theorem dX2_setWeapon_14 : decode cX2_setWeapon 14 = .ok (.iload_n 2, 1) := dk_28 (dk_at dksX2_setWeapon_0 14 rfl rfl)
theorem dX2_setWeapon_15 : decode cX2_setWeapon 15 = .ok (.iconst 0, 1) := dk_3 (dk_at dksX2_setWeapon_0 15 rfl rfl)
theorem dX2_setWeapon_16 : decode cX2_setWeapon 16 = .ok (.sipush 30000, 3) := dk_17 117 48 (dk_at dksX2_setWeapon_0 16 rfl rfl)
theorem dX2_setWeapon_19 : decode cX2_setWeapon 19 = .ok (.invokestatic 76, 3) := dk_184 0 76 (dk_at dksX2_setWeapon_0 19 rfl rfl)
theorem dX2_setWeapon_22 : decode cX2_setWeapon 22 = .ok (.ifCond .ne 9, 3) := dk_154 0 9 (dk_at dksX2_setWeapon_1 0 rfl rfl)
theorem dX2_setWeapon_25 : decode cX2_setWeapon 25 = .ok (.aload_n 0, 1) := dk_42 (dk_at dksX2_setWeapon_1 3 rfl rfl)
theorem dX2_setWeapon_26 : decode cX2_setWeapon 26 = .ok (.iconst 1, 1) := dk_4 (dk_at dksX2_setWeapon_1 4 rfl rfl)
theorem dX2_setWeapon_27 : decode cX2_setWeapon 27 = .ok (.invokevirtual 95, 3) := dk_182 0 95 (dk_at dksX2_setWeapon_1 5 rfl rfl)
theorem dX2_setWeapon_30 : decode cX2_setWeapon 30 = .ok (.ireturn, 1) := dk_172 (dk_at dksX2_setWeapon_1 8 rfl rfl)
theorem dX2_setWeapon_31 : decode cX2_setWeapon 31 = .ok (.aload_n 0, 1) := dk_42 (dk_at dksX2_setWeapon_1 9 rfl rfl)
theorem dX2_setWeapon_32 : decode cX2_setWeapon 32 = .ok (.getfield 50, 3) := dk_180 0 50 (dk_at dksX2_setWeapon_1 10 rfl rfl)
theorem dX2_setWeapon_35 : decode cX2_setWeapon 35 = .ok (.iload_n 1, 1) := dk_27 (dk_at dksX2_setWeapon_1 13 rfl rfl)
theorem dX2_setWeapon_36 : decode cX2_setWeapon 36 = .ok (.iaload, 1) := dk_46 (dk_at dksX2_setWeapon_1 14 rfl rfl)
theorem dX2_setWeapon_37 : decode cX2_setWeapon 37 = .ok (.istore_n 3, 1) := dk_62 (dk_at dksX2_setWeapon_1 15 rfl rfl)
theorem dX2_setWeapon_38 : decode cX2_setWeapon 38 = .ok (.aload_n 0, 1) := dk_42 (dk_at dksX2_setWeapon_1 16 rfl rfl)
theorem dX2_setWeapon_39 : decode cX2_setWeapon 39 = .ok (.getfield 50, 3) := dk_180 0 50 (dk_at dksX2_setWeapon_1 17 rfl rfl)
theorem dX2_setWeapon_42 : decode cX2_setWeapon 42 = .ok (.iload_n 1, 1) := dk_27 (dk_at dksX2_setWeapon_1 20 rfl rfl)
theorem dX2_setWeapon_43 : decode cX2_setWeapon 43 = .ok (.iload_n 2, 1) := dk_28 (dk_at dksX2_setWeapon_1 21 rfl rfl)
theorem dX2_setWeapon_44 : decode cX2_setWeapon 44 = .ok (.iastore, 1) := dk_79 (dk_at dksX2_setWeapon_1 22 rfl rfl)
theorem dX2_setWeapon_45 : decode cX2_setWeapon 45 = .ok (.iload_n 3, 1) := dk_29 (dk_at dksX2_setWeapon_1 23 rfl rfl)
theorem dX2_setWeapon_46 : decode cX2_setWeapon 46 = .ok (.ireturn, 1) := dk_172 (dk_at dksX2_setWeapon_2 0 rfl rfl)
abbrev cX2_setAnimal : ByteArray := prog_18_method_42_code
def yX2_setAnimal : MethodName := ⟨RX2, "setAnimal", "(II)I"⟩
def dkwX2_setAnimal_2 : List UInt8 := [172]
abbrev dktX2_setAnimal_2 : List UInt8 := dkwX2_setAnimal_2 ++ []
def dkwX2_setAnimal_1 : List UInt8 := [154, 0, 9, 42, 4, 182, 0, 95, 172, 42, 180, 0, 54, 27, 46, 62, 42, 180, 0, 54, 27, 28, 79, 29]
abbrev dktX2_setAnimal_1 : List UInt8 := dkwX2_setAnimal_1 ++ dktX2_setAnimal_2
def dkwX2_setAnimal_0 : List UInt8 := [42, 3, 181, 0, 69, 27, 3, 7, 184, 0, 76, 153, 0, 14, 28, 3, 17, 117, 48, 184, 0, 76]
abbrev dktX2_setAnimal_0 : List UInt8 := dkwX2_setAnimal_0 ++ dktX2_setAnimal_1
theorem dksX2_setAnimal_0 : cX2_setAnimal.data.toList.drop 0 = dktX2_setAnimal_0 := by decide +kernel
theorem dksX2_setAnimal_1 : cX2_setAnimal.data.toList.drop 22 = dktX2_setAnimal_1 := dk_seg dksX2_setAnimal_0 22 rfl rfl
theorem dksX2_setAnimal_2 : cX2_setAnimal.data.toList.drop 46 = dktX2_setAnimal_2 := dk_seg dksX2_setAnimal_1 24 rfl rfl
theorem dX2_setAnimal_0 : decode cX2_setAnimal 0 = .ok (.aload_n 0, 1) := dk_42 (dk_at dksX2_setAnimal_0 0 rfl rfl)
theorem dX2_setAnimal_1 : decode cX2_setAnimal 1 = .ok (.iconst 0, 1) := dk_3 (dk_at dksX2_setAnimal_0 1 rfl rfl)
theorem dX2_setAnimal_2 : decode cX2_setAnimal 2 = .ok (.putfield 69, 3) := dk_181 0 69 (dk_at dksX2_setAnimal_0 2 rfl rfl)
theorem dX2_setAnimal_5 : decode cX2_setAnimal 5 = .ok (.iload_n 1, 1) := dk_27 (dk_at dksX2_setAnimal_0 5 rfl rfl)
theorem dX2_setAnimal_6 : decode cX2_setAnimal 6 = .ok (.iconst 0, 1) := dk_3 (dk_at dksX2_setAnimal_0 6 rfl rfl)
theorem dX2_setAnimal_7 : decode cX2_setAnimal 7 = .ok (.iconst 4, 1) := dk_7 (dk_at dksX2_setAnimal_0 7 rfl rfl)
theorem dX2_setAnimal_8 : decode cX2_setAnimal 8 = .ok (.invokestatic 76, 3) := dk_184 0 76 (dk_at dksX2_setAnimal_0 8 rfl rfl)
theorem dX2_setAnimal_11 : decode cX2_setAnimal 11 = .ok (.ifCond .eq 14, 3) := dk_153 0 14 (dk_at dksX2_setAnimal_0 11 rfl rfl)
theorem dX2_setAnimal_14 : decode cX2_setAnimal 14 = .ok (.iload_n 2, 1) := dk_28 (dk_at dksX2_setAnimal_0 14 rfl rfl)
theorem dX2_setAnimal_15 : decode cX2_setAnimal 15 = .ok (.iconst 0, 1) := dk_3 (dk_at dksX2_setAnimal_0 15 rfl rfl)
theorem dX2_setAnimal_16 : decode cX2_setAnimal 16 = .ok (.sipush 30000, 3) := dk_17 117 48 (dk_at dksX2_setAnimal_0 16 rfl rfl)
theorem dX2_setAnimal_19 : decode cX2_setAnimal 19 = .ok (.invokestatic 76, 3) := dk_184 0 76 (dk_at dksX2_setAnimal_0 19 rfl rfl)
theorem dX2_setAnimal_22 : decode cX2_setAnimal 22 = .ok (.ifCond .ne 9, 3) := dk_154 0 9 (dk_at dksX2_setAnimal_1 0 rfl rfl)
theorem dX2_setAnimal_25 : decode cX2_setAnimal 25 = .ok (.aload_n 0, 1) := dk_42 (dk_at dksX2_setAnimal_1 3 rfl rfl)
theorem dX2_setAnimal_26 : decode cX2_setAnimal 26 = .ok (.iconst 1, 1) := dk_4 (dk_at dksX2_setAnimal_1 4 rfl rfl)
theorem dX2_setAnimal_27 : decode cX2_setAnimal 27 = .ok (.invokevirtual 95, 3) := dk_182 0 95 (dk_at dksX2_setAnimal_1 5 rfl rfl)
theorem dX2_setAnimal_30 : decode cX2_setAnimal 30 = .ok (.ireturn, 1) := dk_172 (dk_at dksX2_setAnimal_1 8 rfl rfl)
theorem dX2_setAnimal_31 : decode cX2_setAnimal 31 = .ok (.aload_n 0, 1) := dk_42 (dk_at dksX2_setAnimal_1 9 rfl rfl)
theorem dX2_setAnimal_32 : decode cX2_setAnimal 32 = .ok (.getfield 54, 3) := dk_180 0 54 (dk_at dksX2_setAnimal_1 10 rfl rfl)
theorem dX2_setAnimal_35 : decode cX2_setAnimal 35 = .ok (.iload_n 1, 1) := dk_27 (dk_at dksX2_setAnimal_1 13 rfl rfl)
theorem dX2_setAnimal_36 : decode cX2_setAnimal 36 = .ok (.iaload, 1) := dk_46 (dk_at dksX2_setAnimal_1 14 rfl rfl)
theorem dX2_setAnimal_37 : decode cX2_setAnimal 37 = .ok (.istore_n 3, 1) := dk_62 (dk_at dksX2_setAnimal_1 15 rfl rfl)
theorem dX2_setAnimal_38 : decode cX2_setAnimal 38 = .ok (.aload_n 0, 1) := dk_42 (dk_at dksX2_setAnimal_1 16 rfl rfl)
theorem dX2_setAnimal_39 : decode cX2_setAnimal 39 = .ok (.getfield 54, 3) := dk_180 0 54 (dk_at dksX2_setAnimal_1 17 rfl rfl)
theorem dX2_setAnimal_42 : decode cX2_setAnimal 42 = .ok (.iload_n 1, 1) := dk_27 (dk_at dksX2_setAnimal_1 20 rfl rfl)
theorem dX2_setAnimal_43 : decode cX2_setAnimal 43 = .ok (.iload_n 2, 1) := dk_28 (dk_at dksX2_setAnimal_1 21 rfl rfl)
theorem dX2_setAnimal_44 : decode cX2_setAnimal 44 = .ok (.iastore, 1) := dk_79 (dk_at dksX2_setAnimal_1 22 rfl rfl)
theorem dX2_setAnimal_45 : decode cX2_setAnimal 45 = .ok (.iload_n 3, 1) := dk_29 (dk_at dksX2_setAnimal_1 23 rfl rfl)
theorem dX2_setAnimal_46 : decode cX2_setAnimal 46 = .ok (.ireturn, 1) := dk_172 (dk_at dksX2_setAnimal_2 0 rfl rfl)
abbrev cX2_findOver : ByteArray := prog_18_method_45_code
def yX2_findOver : MethodName := ⟨RX2, "findOver", "(III)I"⟩
def dkwX2_findOver_4 : List UInt8 := [167, 0, 11, 42, 3, 27, 28, 29, 182, 0, 170, 172]
abbrev dktX2_findOver_4 : List UInt8 := dkwX2_findOver_4 ++ []
def dkwX2_findOver_3 : List UInt8 := [159, 0, 18, 42, 42, 27, 182, 0, 127, 3, 182, 0, 167, 16, 12, 160, 0, 11, 42, 6, 182, 0, 95]
abbrev dktX2_findOver_3 : List UInt8 := dkwX2_findOver_3 ++ dktX2_findOver_4
def dkwX2_findOver_2 : List UInt8 := [42, 28, 182, 0, 127, 159, 0, 9, 42, 5, 182, 0, 95, 172, 42, 180, 0, 47, 182, 0, 72, 16, 90]
abbrev dktX2_findOver_2 : List UInt8 := dkwX2_findOver_2 ++ dktX2_findOver_3
def dkwX2_findOver_1 : List UInt8 := [182, 0, 95, 172, 29, 4, 16, 9, 184, 0, 76, 153, 0, 21, 27, 28, 159, 0, 16, 42, 27, 182, 0, 127]
abbrev dktX2_findOver_1 : List UInt8 := dkwX2_findOver_1 ++ dktX2_findOver_2
def dkwX2_findOver_0 : List UInt8 := [42, 3, 181, 0, 69, 42, 27, 182, 0, 130, 154, 0, 11, 42, 28, 182, 0, 130, 153, 0, 9, 42, 4]
abbrev dktX2_findOver_0 : List UInt8 := dkwX2_findOver_0 ++ dktX2_findOver_1
theorem dksX2_findOver_0 : cX2_findOver.data.toList.drop 0 = dktX2_findOver_0 := by decide +kernel
theorem dksX2_findOver_1 : cX2_findOver.data.toList.drop 23 = dktX2_findOver_1 := dk_seg dksX2_findOver_0 23 rfl rfl
theorem dksX2_findOver_2 : cX2_findOver.data.toList.drop 47 = dktX2_findOver_2 := dk_seg dksX2_findOver_1 24 rfl rfl
theorem dksX2_findOver_3 : cX2_findOver.data.toList.drop 70 = dktX2_findOver_3 := dk_seg dksX2_findOver_2 23 rfl rfl
theorem dksX2_findOver_4 : cX2_findOver.data.toList.drop 93 = dktX2_findOver_4 := dk_seg dksX2_findOver_3 23 rfl rfl
theorem dX2_findOver_0 : decode cX2_findOver 0 = .ok (.aload_n 0, 1) := dk_42 (dk_at dksX2_findOver_0 0 rfl rfl)
theorem dX2_findOver_1 : decode cX2_findOver 1 = .ok (.iconst 0, 1) := dk_3 (dk_at dksX2_findOver_0 1 rfl rfl)
theorem dX2_findOver_2 : decode cX2_findOver 2 = .ok (.putfield 69, 3) := dk_181 0 69 (dk_at dksX2_findOver_0 2 rfl rfl)
theorem dX2_findOver_5 : decode cX2_findOver 5 = .ok (.aload_n 0, 1) := dk_42 (dk_at dksX2_findOver_0 5 rfl rfl)
theorem dX2_findOver_6 : decode cX2_findOver 6 = .ok (.iload_n 1, 1) := dk_27 (dk_at dksX2_findOver_0 6 rfl rfl)
theorem dX2_findOver_7 : decode cX2_findOver 7 = .ok (.invokevirtual 130, 3) := dk_182 0 130 (dk_at dksX2_findOver_0 7 rfl rfl)
theorem dX2_findOver_10 : decode cX2_findOver 10 = .ok (.ifCond .ne 11, 3) := dk_154 0 11 (dk_at dksX2_findOver_0 10 rfl rfl)
theorem dX2_findOver_13 : decode cX2_findOver 13 = .ok (.aload_n 0, 1) := dk_42 (dk_at dksX2_findOver_0 13 rfl rfl)
theorem dX2_findOver_14 : decode cX2_findOver 14 = .ok (.iload_n 2, 1) := dk_28 (dk_at dksX2_findOver_0 14 rfl rfl)
theorem dX2_findOver_15 : decode cX2_findOver 15 = .ok (.invokevirtual 130, 3) := dk_182 0 130 (dk_at dksX2_findOver_0 15 rfl rfl)
theorem dX2_findOver_18 : decode cX2_findOver 18 = .ok (.ifCond .eq 9, 3) := dk_153 0 9 (dk_at dksX2_findOver_0 18 rfl rfl)
theorem dX2_findOver_21 : decode cX2_findOver 21 = .ok (.aload_n 0, 1) := dk_42 (dk_at dksX2_findOver_0 21 rfl rfl)
theorem dX2_findOver_22 : decode cX2_findOver 22 = .ok (.iconst 1, 1) := dk_4 (dk_at dksX2_findOver_0 22 rfl rfl)
theorem dX2_findOver_23 : decode cX2_findOver 23 = .ok (.invokevirtual 95, 3) := dk_182 0 95 (dk_at dksX2_findOver_1 0 rfl rfl)
theorem dX2_findOver_26 : decode cX2_findOver 26 = .ok (.ireturn, 1) := dk_172 (dk_at dksX2_findOver_1 3 rfl rfl)
theorem dX2_findOver_27 : decode cX2_findOver 27 = .ok (.iload_n 3, 1) := dk_29 (dk_at dksX2_findOver_1 4 rfl rfl)
theorem dX2_findOver_28 : decode cX2_findOver 28 = .ok (.iconst 1, 1) := dk_4 (dk_at dksX2_findOver_1 5 rfl rfl)
theorem dX2_findOver_29 : decode cX2_findOver 29 = .ok (.bipush 9, 2) := dk_16 9 (dk_at dksX2_findOver_1 6 rfl rfl)
theorem dX2_findOver_31 : decode cX2_findOver 31 = .ok (.invokestatic 76, 3) := dk_184 0 76 (dk_at dksX2_findOver_1 8 rfl rfl)
theorem dX2_findOver_34 : decode cX2_findOver 34 = .ok (.ifCond .eq 21, 3) := dk_153 0 21 (dk_at dksX2_findOver_1 11 rfl rfl)
theorem dX2_findOver_37 : decode cX2_findOver 37 = .ok (.iload_n 1, 1) := dk_27 (dk_at dksX2_findOver_1 14 rfl rfl)
theorem dX2_findOver_38 : decode cX2_findOver 38 = .ok (.iload_n 2, 1) := dk_28 (dk_at dksX2_findOver_1 15 rfl rfl)
theorem dX2_findOver_39 : decode cX2_findOver 39 = .ok (.if_icmp .eq 16, 3) := dk_159 0 16 (dk_at dksX2_findOver_1 16 rfl rfl)
theorem dX2_findOver_42 : decode cX2_findOver 42 = .ok (.aload_n 0, 1) := dk_42 (dk_at dksX2_findOver_1 19 rfl rfl)
theorem dX2_findOver_43 : decode cX2_findOver 43 = .ok (.iload_n 1, 1) := dk_27 (dk_at dksX2_findOver_1 20 rfl rfl)
theorem dX2_findOver_44 : decode cX2_findOver 44 = .ok (.invokevirtual 127, 3) := dk_182 0 127 (dk_at dksX2_findOver_1 21 rfl rfl)
theorem dX2_findOver_47 : decode cX2_findOver 47 = .ok (.aload_n 0, 1) := dk_42 (dk_at dksX2_findOver_2 0 rfl rfl)
theorem dX2_findOver_48 : decode cX2_findOver 48 = .ok (.iload_n 2, 1) := dk_28 (dk_at dksX2_findOver_2 1 rfl rfl)
theorem dX2_findOver_49 : decode cX2_findOver 49 = .ok (.invokevirtual 127, 3) := dk_182 0 127 (dk_at dksX2_findOver_2 2 rfl rfl)
theorem dX2_findOver_52 : decode cX2_findOver 52 = .ok (.if_icmp .eq 9, 3) := dk_159 0 9 (dk_at dksX2_findOver_2 5 rfl rfl)
theorem dX2_findOver_55 : decode cX2_findOver 55 = .ok (.aload_n 0, 1) := dk_42 (dk_at dksX2_findOver_2 8 rfl rfl)
theorem dX2_findOver_56 : decode cX2_findOver 56 = .ok (.iconst 2, 1) := dk_5 (dk_at dksX2_findOver_2 9 rfl rfl)
theorem dX2_findOver_57 : decode cX2_findOver 57 = .ok (.invokevirtual 95, 3) := dk_182 0 95 (dk_at dksX2_findOver_2 10 rfl rfl)
theorem dX2_findOver_60 : decode cX2_findOver 60 = .ok (.ireturn, 1) := dk_172 (dk_at dksX2_findOver_2 13 rfl rfl)
theorem dX2_findOver_61 : decode cX2_findOver 61 = .ok (.aload_n 0, 1) := dk_42 (dk_at dksX2_findOver_2 14 rfl rfl)
theorem dX2_findOver_62 : decode cX2_findOver 62 = .ok (.getfield 47, 3) := dk_180 0 47 (dk_at dksX2_findOver_2 15 rfl rfl)
theorem dX2_findOver_65 : decode cX2_findOver 65 = .ok (.invokevirtual 72, 3) := dk_182 0 72 (dk_at dksX2_findOver_2 18 rfl rfl)
theorem dX2_findOver_68 : decode cX2_findOver 68 = .ok (.bipush 90, 2) := dk_16 90 (dk_at dksX2_findOver_2 21 rfl rfl)
theorem dX2_findOver_70 : decode cX2_findOver 70 = .ok (.if_icmp .eq 18, 3) := dk_159 0 18 (dk_at dksX2_findOver_3 0 rfl rfl)
theorem dX2_findOver_73 : decode cX2_findOver 73 = .ok (.aload_n 0, 1) := dk_42 (dk_at dksX2_findOver_3 3 rfl rfl)
theorem dX2_findOver_74 : decode cX2_findOver 74 = .ok (.aload_n 0, 1) := dk_42 (dk_at dksX2_findOver_3 4 rfl rfl)
theorem dX2_findOver_75 : decode cX2_findOver 75 = .ok (.iload_n 1, 1) := dk_27 (dk_at dksX2_findOver_3 5 rfl rfl)
theorem dX2_findOver_76 : decode cX2_findOver 76 = .ok (.invokevirtual 127, 3) := dk_182 0 127 (dk_at dksX2_findOver_3 6 rfl rfl)
theorem dX2_findOver_79 : decode cX2_findOver 79 = .ok (.iconst 0, 1) := dk_3 (dk_at dksX2_findOver_3 9 rfl rfl)
theorem dX2_findOver_80 : decode cX2_findOver 80 = .ok (.invokevirtual 167, 3) := dk_182 0 167 (dk_at dksX2_findOver_3 10 rfl rfl)
theorem dX2_findOver_83 : decode cX2_findOver 83 = .ok (.bipush 12, 2) := dk_16 12 (dk_at dksX2_findOver_3 13 rfl rfl)
theorem dX2_findOver_85 : decode cX2_findOver 85 = .ok (.if_icmp .ne 11, 3) := dk_160 0 11 (dk_at dksX2_findOver_3 15 rfl rfl)
theorem dX2_findOver_88 : decode cX2_findOver 88 = .ok (.aload_n 0, 1) := dk_42 (dk_at dksX2_findOver_3 18 rfl rfl)
theorem dX2_findOver_89 : decode cX2_findOver 89 = .ok (.iconst 3, 1) := dk_6 (dk_at dksX2_findOver_3 19 rfl rfl)
theorem dX2_findOver_90 : decode cX2_findOver 90 = .ok (.invokevirtual 95, 3) := dk_182 0 95 (dk_at dksX2_findOver_3 20 rfl rfl)
theorem dX2_findOver_93 : decode cX2_findOver 93 = .ok (.goto 11, 3) := dk_167 0 11 (dk_at dksX2_findOver_4 0 rfl rfl)
theorem dX2_findOver_96 : decode cX2_findOver 96 = .ok (.aload_n 0, 1) := dk_42 (dk_at dksX2_findOver_4 3 rfl rfl)
theorem dX2_findOver_97 : decode cX2_findOver 97 = .ok (.iconst 0, 1) := dk_3 (dk_at dksX2_findOver_4 4 rfl rfl)
theorem dX2_findOver_98 : decode cX2_findOver 98 = .ok (.iload_n 1, 1) := dk_27 (dk_at dksX2_findOver_4 5 rfl rfl)
theorem dX2_findOver_99 : decode cX2_findOver 99 = .ok (.iload_n 2, 1) := dk_28 (dk_at dksX2_findOver_4 6 rfl rfl)
theorem dX2_findOver_100 : decode cX2_findOver 100 = .ok (.iload_n 3, 1) := dk_29 (dk_at dksX2_findOver_4 7 rfl rfl)
theorem dX2_findOver_101 : decode cX2_findOver 101 = .ok (.invokevirtual 170, 3) := dk_182 0 170 (dk_at dksX2_findOver_4 8 rfl rfl)
theorem dX2_findOver_104 : decode cX2_findOver 104 = .ok (.ireturn, 1) := dk_172 (dk_at dksX2_findOver_4 11 rfl rfl)
abbrev cX2_many : ByteArray := prog_18_method_43_code
def yX2_many : MethodName := ⟨RX2, "many", "(II)I"⟩
def dkwX2_many_3 : List UInt8 := [132, 4, 1, 167, 255, 188, 29, 172]
abbrev dktX2_many_3 : List UInt8 := dkwX2_many_3 ++ []
def dkwX2_many_2 : List UInt8 := [27, 160, 0, 19, 25, 5, 3, 46, 5, 184, 0, 164, 28, 160, 0, 7, 4, 167, 0, 4, 3, 96, 62]
abbrev dktX2_many_2 : List UInt8 := dkwX2_many_2 ++ dktX2_many_3
def dkwX2_many_1 : List UInt8 := [182, 0, 80, 192, 0, 84, 58, 5, 29, 25, 5, 7, 46, 154, 0, 31, 42, 25, 5, 4, 46, 182, 0, 127]
abbrev dktX2_many_1 : List UInt8 := dkwX2_many_1 ++ dktX2_many_2
def dkwX2_many_0 : List UInt8 := [3, 62, 3, 54, 4, 21, 4, 42, 180, 0, 47, 182, 0, 72, 162, 0, 62, 42, 180, 0, 47, 21, 4]
abbrev dktX2_many_0 : List UInt8 := dkwX2_many_0 ++ dktX2_many_1
theorem dksX2_many_0 : cX2_many.data.toList.drop 0 = dktX2_many_0 := by decide +kernel
theorem dksX2_many_1 : cX2_many.data.toList.drop 23 = dktX2_many_1 := dk_seg dksX2_many_0 23 rfl rfl
theorem dksX2_many_2 : cX2_many.data.toList.drop 47 = dktX2_many_2 := dk_seg dksX2_many_1 24 rfl rfl
theorem dksX2_many_3 : cX2_many.data.toList.drop 70 = dktX2_many_3 := dk_seg dksX2_many_2 23 rfl rfl
theorem dX2_many_0 : decode cX2_many 0 = .ok (.iconst 0, 1) := dk_3 (dk_at dksX2_many_0 0 rfl rfl)
theorem dX2_many_1 : decode cX2_many 1 = .ok (.istore_n 3, 1) := dk_62 (dk_at dksX2_many_0 1 rfl rfl)
theorem dX2_many_2 : decode cX2_many 2 = .ok (.iconst 0, 1) := dk_3 (dk_at dksX2_many_0 2 rfl rfl)
theorem dX2_many_3 : decode cX2_many 3 = .ok (.istore 4, 2) := dk_54 4 (dk_at dksX2_many_0 3 rfl rfl)
theorem dX2_many_5 : decode cX2_many 5 = .ok (.iload 4, 2) := dk_21 4 (dk_at dksX2_many_0 5 rfl rfl)
theorem dX2_many_7 : decode cX2_many 7 = .ok (.aload_n 0, 1) := dk_42 (dk_at dksX2_many_0 7 rfl rfl)
theorem dX2_many_8 : decode cX2_many 8 = .ok (.getfield 47, 3) := dk_180 0 47 (dk_at dksX2_many_0 8 rfl rfl)
theorem dX2_many_11 : decode cX2_many 11 = .ok (.invokevirtual 72, 3) := dk_182 0 72 (dk_at dksX2_many_0 11 rfl rfl)
theorem dX2_many_14 : decode cX2_many 14 = .ok (.if_icmp .ge 62, 3) := dk_162 0 62 (dk_at dksX2_many_0 14 rfl rfl)
theorem dX2_many_17 : decode cX2_many 17 = .ok (.aload_n 0, 1) := dk_42 (dk_at dksX2_many_0 17 rfl rfl)
theorem dX2_many_18 : decode cX2_many 18 = .ok (.getfield 47, 3) := dk_180 0 47 (dk_at dksX2_many_0 18 rfl rfl)
theorem dX2_many_21 : decode cX2_many 21 = .ok (.iload 4, 2) := dk_21 4 (dk_at dksX2_many_0 21 rfl rfl)
theorem dX2_many_23 : decode cX2_many 23 = .ok (.invokevirtual 80, 3) := dk_182 0 80 (dk_at dksX2_many_1 0 rfl rfl)
theorem dX2_many_26 : decode cX2_many 26 = .ok (.checkcast 84, 3) := dk_192 0 84 (dk_at dksX2_many_1 3 rfl rfl)
theorem dX2_many_29 : decode cX2_many 29 = .ok (.astore 5, 2) := dk_58 5 (dk_at dksX2_many_1 6 rfl rfl)
theorem dX2_many_31 : decode cX2_many 31 = .ok (.iload_n 3, 1) := dk_29 (dk_at dksX2_many_1 8 rfl rfl)
theorem dX2_many_32 : decode cX2_many 32 = .ok (.aload 5, 2) := dk_25 5 (dk_at dksX2_many_1 9 rfl rfl)
theorem dX2_many_34 : decode cX2_many 34 = .ok (.iconst 4, 1) := dk_7 (dk_at dksX2_many_1 11 rfl rfl)
theorem dX2_many_35 : decode cX2_many 35 = .ok (.iaload, 1) := dk_46 (dk_at dksX2_many_1 12 rfl rfl)
theorem dX2_many_36 : decode cX2_many 36 = .ok (.ifCond .ne 31, 3) := dk_154 0 31 (dk_at dksX2_many_1 13 rfl rfl)
theorem dX2_many_39 : decode cX2_many 39 = .ok (.aload_n 0, 1) := dk_42 (dk_at dksX2_many_1 16 rfl rfl)
theorem dX2_many_40 : decode cX2_many 40 = .ok (.aload 5, 2) := dk_25 5 (dk_at dksX2_many_1 17 rfl rfl)
theorem dX2_many_42 : decode cX2_many 42 = .ok (.iconst 1, 1) := dk_4 (dk_at dksX2_many_1 19 rfl rfl)
theorem dX2_many_43 : decode cX2_many 43 = .ok (.iaload, 1) := dk_46 (dk_at dksX2_many_1 20 rfl rfl)
theorem dX2_many_44 : decode cX2_many 44 = .ok (.invokevirtual 127, 3) := dk_182 0 127 (dk_at dksX2_many_1 21 rfl rfl)
theorem dX2_many_47 : decode cX2_many 47 = .ok (.iload_n 1, 1) := dk_27 (dk_at dksX2_many_2 0 rfl rfl)
theorem dX2_many_48 : decode cX2_many 48 = .ok (.if_icmp .ne 19, 3) := dk_160 0 19 (dk_at dksX2_many_2 1 rfl rfl)
theorem dX2_many_51 : decode cX2_many 51 = .ok (.aload 5, 2) := dk_25 5 (dk_at dksX2_many_2 4 rfl rfl)
theorem dX2_many_53 : decode cX2_many 53 = .ok (.iconst 0, 1) := dk_3 (dk_at dksX2_many_2 6 rfl rfl)
theorem dX2_many_54 : decode cX2_many 54 = .ok (.iaload, 1) := dk_46 (dk_at dksX2_many_2 7 rfl rfl)
theorem dX2_many_55 : decode cX2_many 55 = .ok (.iconst 2, 1) := dk_5 (dk_at dksX2_many_2 8 rfl rfl)
theorem dX2_many_56 : decode cX2_many 56 = .ok (.invokestatic 164, 3) := dk_184 0 164 (dk_at dksX2_many_2 9 rfl rfl)
theorem dX2_many_59 : decode cX2_many 59 = .ok (.iload_n 2, 1) := dk_28 (dk_at dksX2_many_2 12 rfl rfl)
theorem dX2_many_60 : decode cX2_many 60 = .ok (.if_icmp .ne 7, 3) := dk_160 0 7 (dk_at dksX2_many_2 13 rfl rfl)
theorem dX2_many_63 : decode cX2_many 63 = .ok (.iconst 1, 1) := dk_4 (dk_at dksX2_many_2 16 rfl rfl)
theorem dX2_many_64 : decode cX2_many 64 = .ok (.goto 4, 3) := dk_167 0 4 (dk_at dksX2_many_2 17 rfl rfl)
theorem dX2_many_67 : decode cX2_many 67 = .ok (.iconst 0, 1) := dk_3 (dk_at dksX2_many_2 20 rfl rfl)
theorem dX2_many_68 : decode cX2_many 68 = .ok (.iadd, 1) := dk_96 (dk_at dksX2_many_2 21 rfl rfl)
theorem dX2_many_69 : decode cX2_many 69 = .ok (.istore_n 3, 1) := dk_62 (dk_at dksX2_many_2 22 rfl rfl)
theorem dX2_many_70 : decode cX2_many 70 = .ok (.iinc 4 1, 3) := dk_132 4 1 (dk_at dksX2_many_3 0 rfl rfl)
theorem dX2_many_73 : decode cX2_many 73 = .ok (.goto (-68), 3) := dk_167 255 188 (dk_at dksX2_many_3 3 rfl rfl)
theorem dX2_many_76 : decode cX2_many 76 = .ok (.iload_n 3, 1) := dk_29 (dk_at dksX2_many_3 6 rfl rfl)
theorem dX2_many_77 : decode cX2_many 77 = .ok (.ireturn, 1) := dk_172 (dk_at dksX2_many_3 7 rfl rfl)
abbrev cX2_find : ByteArray := prog_18_method_44_code
def yX2_find : MethodName := ⟨RX2, "find", "(IIII)I"⟩
def dkwX2_find_1 : List UInt8 := [89, 7, 3, 79, 182, 0, 99, 87, 42, 180, 0, 47, 182, 0, 72, 4, 100, 172]
abbrev dktX2_find_1 : List UInt8 := dkwX2_find_1 ++ []
def dkwX2_find_0 : List UInt8 := [42, 180, 0, 47, 8, 188, 10, 89, 3, 27, 79, 89, 4, 28, 79, 89, 5, 29, 79, 89, 6, 21, 4, 79]
abbrev dktX2_find_0 : List UInt8 := dkwX2_find_0 ++ dktX2_find_1
theorem dksX2_find_0 : cX2_find.data.toList.drop 0 = dktX2_find_0 := by decide +kernel
theorem dksX2_find_1 : cX2_find.data.toList.drop 24 = dktX2_find_1 := dk_seg dksX2_find_0 24 rfl rfl
theorem dX2_find_0 : decode cX2_find 0 = .ok (.aload_n 0, 1) := dk_42 (dk_at dksX2_find_0 0 rfl rfl)
theorem dX2_find_1 : decode cX2_find 1 = .ok (.getfield 47, 3) := dk_180 0 47 (dk_at dksX2_find_0 1 rfl rfl)
theorem dX2_find_4 : decode cX2_find 4 = .ok (.iconst 5, 1) := dk_8 (dk_at dksX2_find_0 4 rfl rfl)
theorem dX2_find_5 : decode cX2_find 5 = .ok (.newarray .int, 2) := dk_188_10 (dk_at dksX2_find_0 5 rfl rfl)
theorem dX2_find_7 : decode cX2_find 7 = .ok (.dup, 1) := dk_89 (dk_at dksX2_find_0 7 rfl rfl)
theorem dX2_find_8 : decode cX2_find 8 = .ok (.iconst 0, 1) := dk_3 (dk_at dksX2_find_0 8 rfl rfl)
theorem dX2_find_9 : decode cX2_find 9 = .ok (.iload_n 1, 1) := dk_27 (dk_at dksX2_find_0 9 rfl rfl)
theorem dX2_find_10 : decode cX2_find 10 = .ok (.iastore, 1) := dk_79 (dk_at dksX2_find_0 10 rfl rfl)
theorem dX2_find_11 : decode cX2_find 11 = .ok (.dup, 1) := dk_89 (dk_at dksX2_find_0 11 rfl rfl)
theorem dX2_find_12 : decode cX2_find 12 = .ok (.iconst 1, 1) := dk_4 (dk_at dksX2_find_0 12 rfl rfl)
theorem dX2_find_13 : decode cX2_find 13 = .ok (.iload_n 2, 1) := dk_28 (dk_at dksX2_find_0 13 rfl rfl)
theorem dX2_find_14 : decode cX2_find 14 = .ok (.iastore, 1) := dk_79 (dk_at dksX2_find_0 14 rfl rfl)
theorem dX2_find_15 : decode cX2_find 15 = .ok (.dup, 1) := dk_89 (dk_at dksX2_find_0 15 rfl rfl)
theorem dX2_find_16 : decode cX2_find 16 = .ok (.iconst 2, 1) := dk_5 (dk_at dksX2_find_0 16 rfl rfl)
theorem dX2_find_17 : decode cX2_find 17 = .ok (.iload_n 3, 1) := dk_29 (dk_at dksX2_find_0 17 rfl rfl)
theorem dX2_find_18 : decode cX2_find 18 = .ok (.iastore, 1) := dk_79 (dk_at dksX2_find_0 18 rfl rfl)
theorem dX2_find_19 : decode cX2_find 19 = .ok (.dup, 1) := dk_89 (dk_at dksX2_find_0 19 rfl rfl)
theorem dX2_find_20 : decode cX2_find 20 = .ok (.iconst 3, 1) := dk_6 (dk_at dksX2_find_0 20 rfl rfl)
theorem dX2_find_21 : decode cX2_find 21 = .ok (.iload 4, 2) := dk_21 4 (dk_at dksX2_find_0 21 rfl rfl)
theorem dX2_find_23 : decode cX2_find 23 = .ok (.iastore, 1) := dk_79 (dk_at dksX2_find_0 23 rfl rfl)
theorem dX2_find_24 : decode cX2_find 24 = .ok (.dup, 1) := dk_89 (dk_at dksX2_find_1 0 rfl rfl)
theorem dX2_find_25 : decode cX2_find 25 = .ok (.iconst 4, 1) := dk_7 (dk_at dksX2_find_1 1 rfl rfl)
theorem dX2_find_26 : decode cX2_find 26 = .ok (.iconst 0, 1) := dk_3 (dk_at dksX2_find_1 2 rfl rfl)
theorem dX2_find_27 : decode cX2_find 27 = .ok (.iastore, 1) := dk_79 (dk_at dksX2_find_1 3 rfl rfl)
theorem dX2_find_28 : decode cX2_find 28 = .ok (.invokevirtual 99, 3) := dk_182 0 99 (dk_at dksX2_find_1 4 rfl rfl)
theorem dX2_find_31 : decode cX2_find 31 = .ok (.pop, 1) := dk_87 (dk_at dksX2_find_1 7 rfl rfl)
theorem dX2_find_32 : decode cX2_find 32 = .ok (.aload_n 0, 1) := dk_42 (dk_at dksX2_find_1 8 rfl rfl)
theorem dX2_find_33 : decode cX2_find 33 = .ok (.getfield 47, 3) := dk_180 0 47 (dk_at dksX2_find_1 9 rfl rfl)
theorem dX2_find_36 : decode cX2_find 36 = .ok (.invokevirtual 72, 3) := dk_182 0 72 (dk_at dksX2_find_1 12 rfl rfl)
theorem dX2_find_39 : decode cX2_find 39 = .ok (.iconst 1, 1) := dk_4 (dk_at dksX2_find_1 15 rfl rfl)
theorem dX2_find_40 : decode cX2_find 40 = .ok (.isub, 1) := dk_100 (dk_at dksX2_find_1 16 rfl rfl)
theorem dX2_find_41 : decode cX2_find 41 = .ok (.ireturn, 1) := dk_172 (dk_at dksX2_find_1 17 rfl rfl)
abbrev cX2_findDate : ByteArray := prog_18_method_46_code
def yX2_findDate : MethodName := ⟨RX2, "findDate", "(IIII)I"⟩
def dkwX2_findDate_5 : List UInt8 := [21, 4, 182, 0, 170, 172]
abbrev dktX2_findDate_5 : List UInt8 := dkwX2_findDate_5 ++ []
def dkwX2_findDate_4 : List UInt8 := [184, 0, 164, 182, 0, 167, 16, 6, 160, 0, 11, 42, 6, 182, 0, 95, 167, 0, 12, 42, 27, 28, 29]
abbrev dktX2_findDate_4 : List UInt8 := dkwX2_findDate_4 ++ dktX2_findDate_5
def dkwX2_findDate_3 : List UInt8 := [182, 0, 95, 172, 42, 180, 0, 47, 182, 0, 72, 16, 90, 159, 0, 22, 42, 42, 28, 182, 0, 127, 27, 5]
abbrev dktX2_findDate_3 : List UInt8 := dkwX2_findDate_3 ++ dktX2_findDate_4
def dkwX2_findDate_2 : List UInt8 := [17, 1, 144, 184, 0, 76, 154, 0, 21, 167, 0, 12, 29, 3, 7, 184, 0, 76, 154, 0, 9, 42, 5]
abbrev dktX2_findDate_2 : List UInt8 := dkwX2_findDate_2 ++ dktX2_findDate_3
def dkwX2_findDate_1 : List UInt8 := [184, 0, 76, 153, 0, 42, 21, 4, 4, 16, 9, 184, 0, 76, 153, 0, 31, 27, 6, 160, 0, 17, 29, 4]
abbrev dktX2_findDate_1 : List UInt8 := dkwX2_findDate_1 ++ dktX2_findDate_2
def dkwX2_findDate_0 : List UInt8 := [42, 3, 181, 0, 69, 42, 28, 182, 0, 130, 153, 0, 9, 42, 4, 182, 0, 95, 172, 27, 4, 6]
abbrev dktX2_findDate_0 : List UInt8 := dkwX2_findDate_0 ++ dktX2_findDate_1
theorem dksX2_findDate_0 : cX2_findDate.data.toList.drop 0 = dktX2_findDate_0 := by decide +kernel
theorem dksX2_findDate_1 : cX2_findDate.data.toList.drop 22 = dktX2_findDate_1 := dk_seg dksX2_findDate_0 22 rfl rfl
theorem dksX2_findDate_2 : cX2_findDate.data.toList.drop 46 = dktX2_findDate_2 := dk_seg dksX2_findDate_1 24 rfl rfl
theorem dksX2_findDate_3 : cX2_findDate.data.toList.drop 69 = dktX2_findDate_3 := dk_seg dksX2_findDate_2 23 rfl rfl
theorem dksX2_findDate_4 : cX2_findDate.data.toList.drop 93 = dktX2_findDate_4 := dk_seg dksX2_findDate_3 24 rfl rfl
theorem dksX2_findDate_5 : cX2_findDate.data.toList.drop 116 = dktX2_findDate_5 := dk_seg dksX2_findDate_4 23 rfl rfl
theorem dX2_findDate_0 : decode cX2_findDate 0 = .ok (.aload_n 0, 1) := dk_42 (dk_at dksX2_findDate_0 0 rfl rfl)
theorem dX2_findDate_1 : decode cX2_findDate 1 = .ok (.iconst 0, 1) := dk_3 (dk_at dksX2_findDate_0 1 rfl rfl)
theorem dX2_findDate_2 : decode cX2_findDate 2 = .ok (.putfield 69, 3) := dk_181 0 69 (dk_at dksX2_findDate_0 2 rfl rfl)
theorem dX2_findDate_5 : decode cX2_findDate 5 = .ok (.aload_n 0, 1) := dk_42 (dk_at dksX2_findDate_0 5 rfl rfl)
theorem dX2_findDate_6 : decode cX2_findDate 6 = .ok (.iload_n 2, 1) := dk_28 (dk_at dksX2_findDate_0 6 rfl rfl)
theorem dX2_findDate_7 : decode cX2_findDate 7 = .ok (.invokevirtual 130, 3) := dk_182 0 130 (dk_at dksX2_findDate_0 7 rfl rfl)
theorem dX2_findDate_10 : decode cX2_findDate 10 = .ok (.ifCond .eq 9, 3) := dk_153 0 9 (dk_at dksX2_findDate_0 10 rfl rfl)
theorem dX2_findDate_13 : decode cX2_findDate 13 = .ok (.aload_n 0, 1) := dk_42 (dk_at dksX2_findDate_0 13 rfl rfl)
theorem dX2_findDate_14 : decode cX2_findDate 14 = .ok (.iconst 1, 1) := dk_4 (dk_at dksX2_findDate_0 14 rfl rfl)
theorem dX2_findDate_15 : decode cX2_findDate 15 = .ok (.invokevirtual 95, 3) := dk_182 0 95 (dk_at dksX2_findDate_0 15 rfl rfl)
theorem dX2_findDate_18 : decode cX2_findDate 18 = .ok (.ireturn, 1) := dk_172 (dk_at dksX2_findDate_0 18 rfl rfl)
theorem dX2_findDate_19 : decode cX2_findDate 19 = .ok (.iload_n 1, 1) := dk_27 (dk_at dksX2_findDate_0 19 rfl rfl)
theorem dX2_findDate_20 : decode cX2_findDate 20 = .ok (.iconst 1, 1) := dk_4 (dk_at dksX2_findDate_0 20 rfl rfl)
theorem dX2_findDate_21 : decode cX2_findDate 21 = .ok (.iconst 3, 1) := dk_6 (dk_at dksX2_findDate_0 21 rfl rfl)
theorem dX2_findDate_22 : decode cX2_findDate 22 = .ok (.invokestatic 76, 3) := dk_184 0 76 (dk_at dksX2_findDate_1 0 rfl rfl)
theorem dX2_findDate_25 : decode cX2_findDate 25 = .ok (.ifCond .eq 42, 3) := dk_153 0 42 (dk_at dksX2_findDate_1 3 rfl rfl)
theorem dX2_findDate_28 : decode cX2_findDate 28 = .ok (.iload 4, 2) := dk_21 4 (dk_at dksX2_findDate_1 6 rfl rfl)
theorem dX2_findDate_30 : decode cX2_findDate 30 = .ok (.iconst 1, 1) := dk_4 (dk_at dksX2_findDate_1 8 rfl rfl)
theorem dX2_findDate_31 : decode cX2_findDate 31 = .ok (.bipush 9, 2) := dk_16 9 (dk_at dksX2_findDate_1 9 rfl rfl)
theorem dX2_findDate_33 : decode cX2_findDate 33 = .ok (.invokestatic 76, 3) := dk_184 0 76 (dk_at dksX2_findDate_1 11 rfl rfl)
theorem dX2_findDate_36 : decode cX2_findDate 36 = .ok (.ifCond .eq 31, 3) := dk_153 0 31 (dk_at dksX2_findDate_1 14 rfl rfl)
theorem dX2_findDate_39 : decode cX2_findDate 39 = .ok (.iload_n 1, 1) := dk_27 (dk_at dksX2_findDate_1 17 rfl rfl)
theorem dX2_findDate_40 : decode cX2_findDate 40 = .ok (.iconst 3, 1) := dk_6 (dk_at dksX2_findDate_1 18 rfl rfl)
theorem dX2_findDate_41 : decode cX2_findDate 41 = .ok (.if_icmp .ne 17, 3) := dk_160 0 17 (dk_at dksX2_findDate_1 19 rfl rfl)
theorem dX2_findDate_44 : decode cX2_findDate 44 = .ok (.iload_n 3, 1) := dk_29 (dk_at dksX2_findDate_1 22 rfl rfl)
theorem dX2_findDate_45 : decode cX2_findDate 45 = .ok (.iconst 1, 1) := dk_4 (dk_at dksX2_findDate_1 23 rfl rfl)
theorem dX2_findDate_46 : decode cX2_findDate 46 = .ok (.sipush 400, 3) := dk_17 1 144 (dk_at dksX2_findDate_2 0 rfl rfl)
theorem dX2_findDate_49 : decode cX2_findDate 49 = .ok (.invokestatic 76, 3) := dk_184 0 76 (dk_at dksX2_findDate_2 3 rfl rfl)
theorem dX2_findDate_52 : decode cX2_findDate 52 = .ok (.ifCond .ne 21, 3) := dk_154 0 21 (dk_at dksX2_findDate_2 6 rfl rfl)
theorem dX2_findDate_55 : decode cX2_findDate 55 = .ok (.goto 12, 3) := dk_167 0 12 (dk_at dksX2_findDate_2 9 rfl rfl)
theorem dX2_findDate_58 : decode cX2_findDate 58 = .ok (.iload_n 3, 1) := dk_29 (dk_at dksX2_findDate_2 12 rfl rfl)
theorem dX2_findDate_59 : decode cX2_findDate 59 = .ok (.iconst 0, 1) := dk_3 (dk_at dksX2_findDate_2 13 rfl rfl)
theorem dX2_findDate_60 : decode cX2_findDate 60 = .ok (.iconst 4, 1) := dk_7 (dk_at dksX2_findDate_2 14 rfl rfl)
theorem dX2_findDate_61 : decode cX2_findDate 61 = .ok (.invokestatic 76, 3) := dk_184 0 76 (dk_at dksX2_findDate_2 15 rfl rfl)
theorem dX2_findDate_64 : decode cX2_findDate 64 = .ok (.ifCond .ne 9, 3) := dk_154 0 9 (dk_at dksX2_findDate_2 18 rfl rfl)
theorem dX2_findDate_67 : decode cX2_findDate 67 = .ok (.aload_n 0, 1) := dk_42 (dk_at dksX2_findDate_2 21 rfl rfl)
theorem dX2_findDate_68 : decode cX2_findDate 68 = .ok (.iconst 2, 1) := dk_5 (dk_at dksX2_findDate_2 22 rfl rfl)
theorem dX2_findDate_69 : decode cX2_findDate 69 = .ok (.invokevirtual 95, 3) := dk_182 0 95 (dk_at dksX2_findDate_3 0 rfl rfl)
theorem dX2_findDate_72 : decode cX2_findDate 72 = .ok (.ireturn, 1) := dk_172 (dk_at dksX2_findDate_3 3 rfl rfl)
theorem dX2_findDate_73 : decode cX2_findDate 73 = .ok (.aload_n 0, 1) := dk_42 (dk_at dksX2_findDate_3 4 rfl rfl)
theorem dX2_findDate_74 : decode cX2_findDate 74 = .ok (.getfield 47, 3) := dk_180 0 47 (dk_at dksX2_findDate_3 5 rfl rfl)
theorem dX2_findDate_77 : decode cX2_findDate 77 = .ok (.invokevirtual 72, 3) := dk_182 0 72 (dk_at dksX2_findDate_3 8 rfl rfl)
theorem dX2_findDate_80 : decode cX2_findDate 80 = .ok (.bipush 90, 2) := dk_16 90 (dk_at dksX2_findDate_3 11 rfl rfl)
theorem dX2_findDate_82 : decode cX2_findDate 82 = .ok (.if_icmp .eq 22, 3) := dk_159 0 22 (dk_at dksX2_findDate_3 13 rfl rfl)
theorem dX2_findDate_85 : decode cX2_findDate 85 = .ok (.aload_n 0, 1) := dk_42 (dk_at dksX2_findDate_3 16 rfl rfl)
theorem dX2_findDate_86 : decode cX2_findDate 86 = .ok (.aload_n 0, 1) := dk_42 (dk_at dksX2_findDate_3 17 rfl rfl)
theorem dX2_findDate_87 : decode cX2_findDate 87 = .ok (.iload_n 2, 1) := dk_28 (dk_at dksX2_findDate_3 18 rfl rfl)
theorem dX2_findDate_88 : decode cX2_findDate 88 = .ok (.invokevirtual 127, 3) := dk_182 0 127 (dk_at dksX2_findDate_3 19 rfl rfl)
theorem dX2_findDate_91 : decode cX2_findDate 91 = .ok (.iload_n 1, 1) := dk_27 (dk_at dksX2_findDate_3 22 rfl rfl)
theorem dX2_findDate_92 : decode cX2_findDate 92 = .ok (.iconst 2, 1) := dk_5 (dk_at dksX2_findDate_3 23 rfl rfl)
theorem dX2_findDate_93 : decode cX2_findDate 93 = .ok (.invokestatic 164, 3) := dk_184 0 164 (dk_at dksX2_findDate_4 0 rfl rfl)
theorem dX2_findDate_96 : decode cX2_findDate 96 = .ok (.invokevirtual 167, 3) := dk_182 0 167 (dk_at dksX2_findDate_4 3 rfl rfl)
theorem dX2_findDate_99 : decode cX2_findDate 99 = .ok (.bipush 6, 2) := dk_16 6 (dk_at dksX2_findDate_4 6 rfl rfl)
theorem dX2_findDate_101 : decode cX2_findDate 101 = .ok (.if_icmp .ne 11, 3) := dk_160 0 11 (dk_at dksX2_findDate_4 8 rfl rfl)
theorem dX2_findDate_104 : decode cX2_findDate 104 = .ok (.aload_n 0, 1) := dk_42 (dk_at dksX2_findDate_4 11 rfl rfl)
theorem dX2_findDate_105 : decode cX2_findDate 105 = .ok (.iconst 3, 1) := dk_6 (dk_at dksX2_findDate_4 12 rfl rfl)
theorem dX2_findDate_106 : decode cX2_findDate 106 = .ok (.invokevirtual 95, 3) := dk_182 0 95 (dk_at dksX2_findDate_4 13 rfl rfl)
theorem dX2_findDate_109 : decode cX2_findDate 109 = .ok (.goto 12, 3) := dk_167 0 12 (dk_at dksX2_findDate_4 16 rfl rfl)
theorem dX2_findDate_112 : decode cX2_findDate 112 = .ok (.aload_n 0, 1) := dk_42 (dk_at dksX2_findDate_4 19 rfl rfl)
theorem dX2_findDate_113 : decode cX2_findDate 113 = .ok (.iload_n 1, 1) := dk_27 (dk_at dksX2_findDate_4 20 rfl rfl)
theorem dX2_findDate_114 : decode cX2_findDate 114 = .ok (.iload_n 2, 1) := dk_28 (dk_at dksX2_findDate_4 21 rfl rfl)
theorem dX2_findDate_115 : decode cX2_findDate 115 = .ok (.iload_n 3, 1) := dk_29 (dk_at dksX2_findDate_4 22 rfl rfl)
theorem dX2_findDate_116 : decode cX2_findDate 116 = .ok (.iload 4, 2) := dk_21 4 (dk_at dksX2_findDate_5 0 rfl rfl)
theorem dX2_findDate_118 : decode cX2_findDate 118 = .ok (.invokevirtual 170, 3) := dk_182 0 170 (dk_at dksX2_findDate_5 2 rfl rfl)
theorem dX2_findDate_121 : decode cX2_findDate 121 = .ok (.ireturn, 1) := dk_172 (dk_at dksX2_findDate_5 5 rfl rfl)
abbrev cX2_remove : ByteArray := prog_18_method_47_code
def yX2_remove : MethodName := ⟨RX2, "remove", "(I)I"⟩
def dkwX2_remove_1 : List UInt8 := [182, 0, 80, 192, 0, 84, 7, 4, 79, 42, 180, 0, 47, 27, 182, 0, 80, 192, 0, 84, 6, 46, 172]
abbrev dktX2_remove_1 : List UInt8 := dkwX2_remove_1 ++ []
def dkwX2_remove_0 : List UInt8 := [42, 3, 181, 0, 69, 42, 27, 182, 0, 174, 153, 0, 9, 42, 4, 182, 0, 95, 172, 42, 180, 0, 47, 27]
abbrev dktX2_remove_0 : List UInt8 := dkwX2_remove_0 ++ dktX2_remove_1
theorem dksX2_remove_0 : cX2_remove.data.toList.drop 0 = dktX2_remove_0 := by decide +kernel
theorem dksX2_remove_1 : cX2_remove.data.toList.drop 24 = dktX2_remove_1 := dk_seg dksX2_remove_0 24 rfl rfl
theorem dX2_remove_0 : decode cX2_remove 0 = .ok (.aload_n 0, 1) := dk_42 (dk_at dksX2_remove_0 0 rfl rfl)
theorem dX2_remove_1 : decode cX2_remove 1 = .ok (.iconst 0, 1) := dk_3 (dk_at dksX2_remove_0 1 rfl rfl)
theorem dX2_remove_2 : decode cX2_remove 2 = .ok (.putfield 69, 3) := dk_181 0 69 (dk_at dksX2_remove_0 2 rfl rfl)
theorem dX2_remove_5 : decode cX2_remove 5 = .ok (.aload_n 0, 1) := dk_42 (dk_at dksX2_remove_0 5 rfl rfl)
theorem dX2_remove_6 : decode cX2_remove 6 = .ok (.iload_n 1, 1) := dk_27 (dk_at dksX2_remove_0 6 rfl rfl)
theorem dX2_remove_7 : decode cX2_remove 7 = .ok (.invokevirtual 174, 3) := dk_182 0 174 (dk_at dksX2_remove_0 7 rfl rfl)
theorem dX2_remove_10 : decode cX2_remove 10 = .ok (.ifCond .eq 9, 3) := dk_153 0 9 (dk_at dksX2_remove_0 10 rfl rfl)
theorem dX2_remove_13 : decode cX2_remove 13 = .ok (.aload_n 0, 1) := dk_42 (dk_at dksX2_remove_0 13 rfl rfl)
theorem dX2_remove_14 : decode cX2_remove 14 = .ok (.iconst 1, 1) := dk_4 (dk_at dksX2_remove_0 14 rfl rfl)
theorem dX2_remove_15 : decode cX2_remove 15 = .ok (.invokevirtual 95, 3) := dk_182 0 95 (dk_at dksX2_remove_0 15 rfl rfl)
theorem dX2_remove_18 : decode cX2_remove 18 = .ok (.ireturn, 1) := dk_172 (dk_at dksX2_remove_0 18 rfl rfl)
theorem dX2_remove_19 : decode cX2_remove 19 = .ok (.aload_n 0, 1) := dk_42 (dk_at dksX2_remove_0 19 rfl rfl)
theorem dX2_remove_20 : decode cX2_remove 20 = .ok (.getfield 47, 3) := dk_180 0 47 (dk_at dksX2_remove_0 20 rfl rfl)
theorem dX2_remove_23 : decode cX2_remove 23 = .ok (.iload_n 1, 1) := dk_27 (dk_at dksX2_remove_0 23 rfl rfl)
theorem dX2_remove_24 : decode cX2_remove 24 = .ok (.invokevirtual 80, 3) := dk_182 0 80 (dk_at dksX2_remove_1 0 rfl rfl)
theorem dX2_remove_27 : decode cX2_remove 27 = .ok (.checkcast 84, 3) := dk_192 0 84 (dk_at dksX2_remove_1 3 rfl rfl)
theorem dX2_remove_30 : decode cX2_remove 30 = .ok (.iconst 4, 1) := dk_7 (dk_at dksX2_remove_1 6 rfl rfl)
theorem dX2_remove_31 : decode cX2_remove 31 = .ok (.iconst 1, 1) := dk_4 (dk_at dksX2_remove_1 7 rfl rfl)
theorem dX2_remove_32 : decode cX2_remove 32 = .ok (.iastore, 1) := dk_79 (dk_at dksX2_remove_1 8 rfl rfl)
theorem dX2_remove_33 : decode cX2_remove 33 = .ok (.aload_n 0, 1) := dk_42 (dk_at dksX2_remove_1 9 rfl rfl)
theorem dX2_remove_34 : decode cX2_remove 34 = .ok (.getfield 47, 3) := dk_180 0 47 (dk_at dksX2_remove_1 10 rfl rfl)
theorem dX2_remove_37 : decode cX2_remove 37 = .ok (.iload_n 1, 1) := dk_27 (dk_at dksX2_remove_1 13 rfl rfl)
theorem dX2_remove_38 : decode cX2_remove 38 = .ok (.invokevirtual 80, 3) := dk_182 0 80 (dk_at dksX2_remove_1 14 rfl rfl)
theorem dX2_remove_41 : decode cX2_remove 41 = .ok (.checkcast 84, 3) := dk_192 0 84 (dk_at dksX2_remove_1 17 rfl rfl)
theorem dX2_remove_44 : decode cX2_remove 44 = .ok (.iconst 3, 1) := dk_6 (dk_at dksX2_remove_1 20 rfl rfl)
theorem dX2_remove_45 : decode cX2_remove 45 = .ok (.iaload, 1) := dk_46 (dk_at dksX2_remove_1 21 rfl rfl)
theorem dX2_remove_46 : decode cX2_remove 46 = .ok (.ireturn, 1) := dk_172 (dk_at dksX2_remove_1 22 rfl rfl)
abbrev cX2_noFinding : ByteArray := prog_18_method_9_code
def yX2_noFinding : MethodName := ⟨RX2, "noFinding", "(I)Z"⟩
def dkwX2_noFinding_1 : List UInt8 := [182, 0, 80, 192, 0, 84, 7, 46, 4, 160, 0, 7, 4, 167, 0, 4, 3, 172]
abbrev dktX2_noFinding_1 : List UInt8 := dkwX2_noFinding_1 ++ []
def dkwX2_noFinding_0 : List UInt8 := [27, 3, 42, 180, 0, 47, 182, 0, 72, 4, 100, 184, 0, 76, 153, 0, 20, 42, 180, 0, 47, 27]
abbrev dktX2_noFinding_0 : List UInt8 := dkwX2_noFinding_0 ++ dktX2_noFinding_1
theorem dksX2_noFinding_0 : cX2_noFinding.data.toList.drop 0 = dktX2_noFinding_0 := by decide +kernel
theorem dksX2_noFinding_1 : cX2_noFinding.data.toList.drop 22 = dktX2_noFinding_1 := dk_seg dksX2_noFinding_0 22 rfl rfl
theorem dX2_noFinding_0 : decode cX2_noFinding 0 = .ok (.iload_n 1, 1) := dk_27 (dk_at dksX2_noFinding_0 0 rfl rfl)
theorem dX2_noFinding_1 : decode cX2_noFinding 1 = .ok (.iconst 0, 1) := dk_3 (dk_at dksX2_noFinding_0 1 rfl rfl)
theorem dX2_noFinding_2 : decode cX2_noFinding 2 = .ok (.aload_n 0, 1) := dk_42 (dk_at dksX2_noFinding_0 2 rfl rfl)
theorem dX2_noFinding_3 : decode cX2_noFinding 3 = .ok (.getfield 47, 3) := dk_180 0 47 (dk_at dksX2_noFinding_0 3 rfl rfl)
theorem dX2_noFinding_6 : decode cX2_noFinding 6 = .ok (.invokevirtual 72, 3) := dk_182 0 72 (dk_at dksX2_noFinding_0 6 rfl rfl)
theorem dX2_noFinding_9 : decode cX2_noFinding 9 = .ok (.iconst 1, 1) := dk_4 (dk_at dksX2_noFinding_0 9 rfl rfl)
theorem dX2_noFinding_10 : decode cX2_noFinding 10 = .ok (.isub, 1) := dk_100 (dk_at dksX2_noFinding_0 10 rfl rfl)
theorem dX2_noFinding_11 : decode cX2_noFinding 11 = .ok (.invokestatic 76, 3) := dk_184 0 76 (dk_at dksX2_noFinding_0 11 rfl rfl)
theorem dX2_noFinding_14 : decode cX2_noFinding 14 = .ok (.ifCond .eq 20, 3) := dk_153 0 20 (dk_at dksX2_noFinding_0 14 rfl rfl)
theorem dX2_noFinding_17 : decode cX2_noFinding 17 = .ok (.aload_n 0, 1) := dk_42 (dk_at dksX2_noFinding_0 17 rfl rfl)
theorem dX2_noFinding_18 : decode cX2_noFinding 18 = .ok (.getfield 47, 3) := dk_180 0 47 (dk_at dksX2_noFinding_0 18 rfl rfl)
theorem dX2_noFinding_21 : decode cX2_noFinding 21 = .ok (.iload_n 1, 1) := dk_27 (dk_at dksX2_noFinding_0 21 rfl rfl)
theorem dX2_noFinding_22 : decode cX2_noFinding 22 = .ok (.invokevirtual 80, 3) := dk_182 0 80 (dk_at dksX2_noFinding_1 0 rfl rfl)
theorem dX2_noFinding_25 : decode cX2_noFinding 25 = .ok (.checkcast 84, 3) := dk_192 0 84 (dk_at dksX2_noFinding_1 3 rfl rfl)
theorem dX2_noFinding_28 : decode cX2_noFinding 28 = .ok (.iconst 4, 1) := dk_7 (dk_at dksX2_noFinding_1 6 rfl rfl)
theorem dX2_noFinding_29 : decode cX2_noFinding 29 = .ok (.iaload, 1) := dk_46 (dk_at dksX2_noFinding_1 7 rfl rfl)
theorem dX2_noFinding_30 : decode cX2_noFinding 30 = .ok (.iconst 1, 1) := dk_4 (dk_at dksX2_noFinding_1 8 rfl rfl)
theorem dX2_noFinding_31 : decode cX2_noFinding 31 = .ok (.if_icmp .ne 7, 3) := dk_160 0 7 (dk_at dksX2_noFinding_1 9 rfl rfl)
theorem dX2_noFinding_34 : decode cX2_noFinding 34 = .ok (.iconst 1, 1) := dk_4 (dk_at dksX2_noFinding_1 12 rfl rfl)
theorem dX2_noFinding_35 : decode cX2_noFinding 35 = .ok (.goto 4, 3) := dk_167 0 4 (dk_at dksX2_noFinding_1 13 rfl rfl)
theorem dX2_noFinding_38 : decode cX2_noFinding 38 = .ok (.iconst 0, 1) := dk_3 (dk_at dksX2_noFinding_1 16 rfl rfl)
theorem dX2_noFinding_39 : decode cX2_noFinding 39 = .ok (.ireturn, 1) := dk_172 (dk_at dksX2_noFinding_1 17 rfl rfl)
abbrev cX2_standOf : ByteArray := prog_18_method_50_code
def yX2_standOf : MethodName := ⟨RX2, "standOf", "(I)I"⟩
def dkwX2_standOf_2 : List UInt8 := [183, 0, 196, 27, 182, 0, 199, 172]
abbrev dktX2_standOf_2 : List UInt8 := dkwX2_standOf_2 ++ []
def dkwX2_standOf_1 : List UInt8 := [187, 0, 178, 89, 42, 42, 42, 180, 0, 47, 27, 182, 0, 80, 192, 0, 84, 4, 46, 182, 0, 127]
abbrev dktX2_standOf_1 : List UInt8 := dkwX2_standOf_1 ++ dktX2_standOf_2
def dkwX2_standOf_0 : List UInt8 := [42, 3, 181, 0, 69, 42, 27, 182, 0, 174, 153, 0, 11, 42, 4, 182, 0, 95, 167, 0, 33, 42]
abbrev dktX2_standOf_0 : List UInt8 := dkwX2_standOf_0 ++ dktX2_standOf_1
theorem dksX2_standOf_0 : cX2_standOf.data.toList.drop 0 = dktX2_standOf_0 := by decide +kernel
theorem dksX2_standOf_1 : cX2_standOf.data.toList.drop 22 = dktX2_standOf_1 := dk_seg dksX2_standOf_0 22 rfl rfl
theorem dksX2_standOf_2 : cX2_standOf.data.toList.drop 44 = dktX2_standOf_2 := dk_seg dksX2_standOf_1 22 rfl rfl
theorem dX2_standOf_0 : decode cX2_standOf 0 = .ok (.aload_n 0, 1) := dk_42 (dk_at dksX2_standOf_0 0 rfl rfl)
theorem dX2_standOf_1 : decode cX2_standOf 1 = .ok (.iconst 0, 1) := dk_3 (dk_at dksX2_standOf_0 1 rfl rfl)
theorem dX2_standOf_2 : decode cX2_standOf 2 = .ok (.putfield 69, 3) := dk_181 0 69 (dk_at dksX2_standOf_0 2 rfl rfl)
theorem dX2_standOf_5 : decode cX2_standOf 5 = .ok (.aload_n 0, 1) := dk_42 (dk_at dksX2_standOf_0 5 rfl rfl)
theorem dX2_standOf_6 : decode cX2_standOf 6 = .ok (.iload_n 1, 1) := dk_27 (dk_at dksX2_standOf_0 6 rfl rfl)
theorem dX2_standOf_7 : decode cX2_standOf 7 = .ok (.invokevirtual 174, 3) := dk_182 0 174 (dk_at dksX2_standOf_0 7 rfl rfl)
theorem dX2_standOf_10 : decode cX2_standOf 10 = .ok (.ifCond .eq 11, 3) := dk_153 0 11 (dk_at dksX2_standOf_0 10 rfl rfl)
theorem dX2_standOf_13 : decode cX2_standOf 13 = .ok (.aload_n 0, 1) := dk_42 (dk_at dksX2_standOf_0 13 rfl rfl)
theorem dX2_standOf_14 : decode cX2_standOf 14 = .ok (.iconst 1, 1) := dk_4 (dk_at dksX2_standOf_0 14 rfl rfl)
theorem dX2_standOf_15 : decode cX2_standOf 15 = .ok (.invokevirtual 95, 3) := dk_182 0 95 (dk_at dksX2_standOf_0 15 rfl rfl)
theorem dX2_standOf_18 : decode cX2_standOf 18 = .ok (.goto 33, 3) := dk_167 0 33 (dk_at dksX2_standOf_0 18 rfl rfl)
theorem dX2_standOf_21 : decode cX2_standOf 21 = .ok (.aload_n 0, 1) := dk_42 (dk_at dksX2_standOf_0 21 rfl rfl)
theorem dX2_standOf_22 : decode cX2_standOf 22 = .ok (.new 178, 3) := dk_187 0 178 (dk_at dksX2_standOf_1 0 rfl rfl)
theorem dX2_standOf_25 : decode cX2_standOf 25 = .ok (.dup, 1) := dk_89 (dk_at dksX2_standOf_1 3 rfl rfl)
theorem dX2_standOf_26 : decode cX2_standOf 26 = .ok (.aload_n 0, 1) := dk_42 (dk_at dksX2_standOf_1 4 rfl rfl)
theorem dX2_standOf_27 : decode cX2_standOf 27 = .ok (.aload_n 0, 1) := dk_42 (dk_at dksX2_standOf_1 5 rfl rfl)
theorem dX2_standOf_28 : decode cX2_standOf 28 = .ok (.aload_n 0, 1) := dk_42 (dk_at dksX2_standOf_1 6 rfl rfl)
theorem dX2_standOf_29 : decode cX2_standOf 29 = .ok (.getfield 47, 3) := dk_180 0 47 (dk_at dksX2_standOf_1 7 rfl rfl)
theorem dX2_standOf_32 : decode cX2_standOf 32 = .ok (.iload_n 1, 1) := dk_27 (dk_at dksX2_standOf_1 10 rfl rfl)
theorem dX2_standOf_33 : decode cX2_standOf 33 = .ok (.invokevirtual 80, 3) := dk_182 0 80 (dk_at dksX2_standOf_1 11 rfl rfl)
theorem dX2_standOf_36 : decode cX2_standOf 36 = .ok (.checkcast 84, 3) := dk_192 0 84 (dk_at dksX2_standOf_1 14 rfl rfl)
theorem dX2_standOf_39 : decode cX2_standOf 39 = .ok (.iconst 1, 1) := dk_4 (dk_at dksX2_standOf_1 17 rfl rfl)
theorem dX2_standOf_40 : decode cX2_standOf 40 = .ok (.iaload, 1) := dk_46 (dk_at dksX2_standOf_1 18 rfl rfl)
theorem dX2_standOf_41 : decode cX2_standOf 41 = .ok (.invokevirtual 127, 3) := dk_182 0 127 (dk_at dksX2_standOf_1 19 rfl rfl)
theorem dX2_standOf_44 : decode cX2_standOf 44 = .ok (.invokespecial 196, 3) := dk_183 0 196 (dk_at dksX2_standOf_2 0 rfl rfl)
theorem dX2_standOf_47 : decode cX2_standOf 47 = .ok (.iload_n 1, 1) := dk_27 (dk_at dksX2_standOf_2 3 rfl rfl)
theorem dX2_standOf_48 : decode cX2_standOf 48 = .ok (.invokevirtual 199, 3) := dk_182 0 199 (dk_at dksX2_standOf_2 4 rfl rfl)
theorem dX2_standOf_51 : decode cX2_standOf 51 = .ok (.ireturn, 1) := dk_172 (dk_at dksX2_standOf_2 7 rfl rfl)
abbrev cX2_stand : ByteArray := prog_18_method_49_code
def yX2_stand : MethodName := ⟨RX2, "stand", "(LFigureSurveyModel$Found;I)I"⟩
def dkwX2_stand_1 : List UInt8 := [167, 0, 4, 3, 172]
abbrev dktX2_stand_1 : List UInt8 := dkwX2_stand_1 ++ []
def dkwX2_stand_0 : List UInt8 := [43, 180, 0, 189, 28, 51, 154, 0, 7, 5, 167, 0, 17, 43, 180, 0, 193, 28, 51, 153, 0, 7, 4]
abbrev dktX2_stand_0 : List UInt8 := dkwX2_stand_0 ++ dktX2_stand_1
theorem dksX2_stand_0 : cX2_stand.data.toList.drop 0 = dktX2_stand_0 := by decide +kernel
theorem dksX2_stand_1 : cX2_stand.data.toList.drop 23 = dktX2_stand_1 := dk_seg dksX2_stand_0 23 rfl rfl
theorem dX2_stand_0 : decode cX2_stand 0 = .ok (.aload_n 1, 1) := dk_43 (dk_at dksX2_stand_0 0 rfl rfl)
theorem dX2_stand_1 : decode cX2_stand 1 = .ok (.getfield 189, 3) := dk_180 0 189 (dk_at dksX2_stand_0 1 rfl rfl)
theorem dX2_stand_4 : decode cX2_stand 4 = .ok (.iload_n 2, 1) := dk_28 (dk_at dksX2_stand_0 4 rfl rfl)
theorem dX2_stand_5 : decode cX2_stand 5 = .ok (.baload, 1) := dk_51 (dk_at dksX2_stand_0 5 rfl rfl)
theorem dX2_stand_6 : decode cX2_stand 6 = .ok (.ifCond .ne 7, 3) := dk_154 0 7 (dk_at dksX2_stand_0 6 rfl rfl)
theorem dX2_stand_9 : decode cX2_stand 9 = .ok (.iconst 2, 1) := dk_5 (dk_at dksX2_stand_0 9 rfl rfl)
theorem dX2_stand_10 : decode cX2_stand 10 = .ok (.goto 17, 3) := dk_167 0 17 (dk_at dksX2_stand_0 10 rfl rfl)
theorem dX2_stand_13 : decode cX2_stand 13 = .ok (.aload_n 1, 1) := dk_43 (dk_at dksX2_stand_0 13 rfl rfl)
theorem dX2_stand_14 : decode cX2_stand 14 = .ok (.getfield 193, 3) := dk_180 0 193 (dk_at dksX2_stand_0 14 rfl rfl)
theorem dX2_stand_17 : decode cX2_stand 17 = .ok (.iload_n 2, 1) := dk_28 (dk_at dksX2_stand_0 17 rfl rfl)
theorem dX2_stand_18 : decode cX2_stand 18 = .ok (.baload, 1) := dk_51 (dk_at dksX2_stand_0 18 rfl rfl)
theorem dX2_stand_19 : decode cX2_stand 19 = .ok (.ifCond .eq 7, 3) := dk_153 0 7 (dk_at dksX2_stand_0 19 rfl rfl)
theorem dX2_stand_22 : decode cX2_stand 22 = .ok (.iconst 1, 1) := dk_4 (dk_at dksX2_stand_0 22 rfl rfl)
theorem dX2_stand_23 : decode cX2_stand 23 = .ok (.goto 4, 3) := dk_167 0 4 (dk_at dksX2_stand_1 0 rfl rfl)
theorem dX2_stand_26 : decode cX2_stand 26 = .ok (.iconst 0, 1) := dk_3 (dk_at dksX2_stand_1 3 rfl rfl)
theorem dX2_stand_27 : decode cX2_stand 27 = .ok (.ireturn, 1) := dk_172 (dk_at dksX2_stand_1 4 rfl rfl)
abbrev cX2_orderAt : ByteArray := prog_18_method_51_code
def yX2_orderAt : MethodName := ⟨RX2, "orderAt", "(II)I"⟩
def dkwX2_orderAt_2 : List UInt8 := [45, 180, 0, 203, 28, 46, 46, 167, 0, 4, 2, 172]
abbrev dktX2_orderAt_2 : List UInt8 := dkwX2_orderAt_2 ++ []
def dkwX2_orderAt_1 : List UInt8 := [27, 183, 0, 196, 78, 28, 3, 45, 180, 0, 203, 190, 4, 100, 184, 0, 76, 153, 0, 17, 45, 180, 0, 206]
abbrev dktX2_orderAt_1 : List UInt8 := dkwX2_orderAt_1 ++ dktX2_orderAt_2
def dkwX2_orderAt_0 : List UInt8 := [42, 3, 181, 0, 69, 42, 27, 182, 0, 103, 153, 0, 9, 42, 4, 182, 0, 95, 172, 187, 0, 178, 89, 42]
abbrev dktX2_orderAt_0 : List UInt8 := dkwX2_orderAt_0 ++ dktX2_orderAt_1
theorem dksX2_orderAt_0 : cX2_orderAt.data.toList.drop 0 = dktX2_orderAt_0 := by decide +kernel
theorem dksX2_orderAt_1 : cX2_orderAt.data.toList.drop 24 = dktX2_orderAt_1 := dk_seg dksX2_orderAt_0 24 rfl rfl
theorem dksX2_orderAt_2 : cX2_orderAt.data.toList.drop 48 = dktX2_orderAt_2 := dk_seg dksX2_orderAt_1 24 rfl rfl
theorem dX2_orderAt_0 : decode cX2_orderAt 0 = .ok (.aload_n 0, 1) := dk_42 (dk_at dksX2_orderAt_0 0 rfl rfl)
theorem dX2_orderAt_1 : decode cX2_orderAt 1 = .ok (.iconst 0, 1) := dk_3 (dk_at dksX2_orderAt_0 1 rfl rfl)
theorem dX2_orderAt_2 : decode cX2_orderAt 2 = .ok (.putfield 69, 3) := dk_181 0 69 (dk_at dksX2_orderAt_0 2 rfl rfl)
theorem dX2_orderAt_5 : decode cX2_orderAt 5 = .ok (.aload_n 0, 1) := dk_42 (dk_at dksX2_orderAt_0 5 rfl rfl)
theorem dX2_orderAt_6 : decode cX2_orderAt 6 = .ok (.iload_n 1, 1) := dk_27 (dk_at dksX2_orderAt_0 6 rfl rfl)
theorem dX2_orderAt_7 : decode cX2_orderAt 7 = .ok (.invokevirtual 103, 3) := dk_182 0 103 (dk_at dksX2_orderAt_0 7 rfl rfl)
theorem dX2_orderAt_10 : decode cX2_orderAt 10 = .ok (.ifCond .eq 9, 3) := dk_153 0 9 (dk_at dksX2_orderAt_0 10 rfl rfl)
theorem dX2_orderAt_13 : decode cX2_orderAt 13 = .ok (.aload_n 0, 1) := dk_42 (dk_at dksX2_orderAt_0 13 rfl rfl)
theorem dX2_orderAt_14 : decode cX2_orderAt 14 = .ok (.iconst 1, 1) := dk_4 (dk_at dksX2_orderAt_0 14 rfl rfl)
theorem dX2_orderAt_15 : decode cX2_orderAt 15 = .ok (.invokevirtual 95, 3) := dk_182 0 95 (dk_at dksX2_orderAt_0 15 rfl rfl)
theorem dX2_orderAt_18 : decode cX2_orderAt 18 = .ok (.ireturn, 1) := dk_172 (dk_at dksX2_orderAt_0 18 rfl rfl)
theorem dX2_orderAt_19 : decode cX2_orderAt 19 = .ok (.new 178, 3) := dk_187 0 178 (dk_at dksX2_orderAt_0 19 rfl rfl)
theorem dX2_orderAt_22 : decode cX2_orderAt 22 = .ok (.dup, 1) := dk_89 (dk_at dksX2_orderAt_0 22 rfl rfl)
theorem dX2_orderAt_23 : decode cX2_orderAt 23 = .ok (.aload_n 0, 1) := dk_42 (dk_at dksX2_orderAt_0 23 rfl rfl)
theorem dX2_orderAt_24 : decode cX2_orderAt 24 = .ok (.iload_n 1, 1) := dk_27 (dk_at dksX2_orderAt_1 0 rfl rfl)
theorem dX2_orderAt_25 : decode cX2_orderAt 25 = .ok (.invokespecial 196, 3) := dk_183 0 196 (dk_at dksX2_orderAt_1 1 rfl rfl)
theorem dX2_orderAt_28 : decode cX2_orderAt 28 = .ok (.astore_n 3, 1) := dk_78 (dk_at dksX2_orderAt_1 4 rfl rfl)
theorem dX2_orderAt_29 : decode cX2_orderAt 29 = .ok (.iload_n 2, 1) := dk_28 (dk_at dksX2_orderAt_1 5 rfl rfl)
theorem dX2_orderAt_30 : decode cX2_orderAt 30 = .ok (.iconst 0, 1) := dk_3 (dk_at dksX2_orderAt_1 6 rfl rfl)
theorem dX2_orderAt_31 : decode cX2_orderAt 31 = .ok (.aload_n 3, 1) := dk_45 (dk_at dksX2_orderAt_1 7 rfl rfl)
theorem dX2_orderAt_32 : decode cX2_orderAt 32 = .ok (.getfield 203, 3) := dk_180 0 203 (dk_at dksX2_orderAt_1 8 rfl rfl)
theorem dX2_orderAt_35 : decode cX2_orderAt 35 = .ok (.arraylength, 1) := dk_190 (dk_at dksX2_orderAt_1 11 rfl rfl)
theorem dX2_orderAt_36 : decode cX2_orderAt 36 = .ok (.iconst 1, 1) := dk_4 (dk_at dksX2_orderAt_1 12 rfl rfl)
theorem dX2_orderAt_37 : decode cX2_orderAt 37 = .ok (.isub, 1) := dk_100 (dk_at dksX2_orderAt_1 13 rfl rfl)
theorem dX2_orderAt_38 : decode cX2_orderAt 38 = .ok (.invokestatic 76, 3) := dk_184 0 76 (dk_at dksX2_orderAt_1 14 rfl rfl)
theorem dX2_orderAt_41 : decode cX2_orderAt 41 = .ok (.ifCond .eq 17, 3) := dk_153 0 17 (dk_at dksX2_orderAt_1 17 rfl rfl)
theorem dX2_orderAt_44 : decode cX2_orderAt 44 = .ok (.aload_n 3, 1) := dk_45 (dk_at dksX2_orderAt_1 20 rfl rfl)
theorem dX2_orderAt_45 : decode cX2_orderAt 45 = .ok (.getfield 206, 3) := dk_180 0 206 (dk_at dksX2_orderAt_1 21 rfl rfl)
theorem dX2_orderAt_48 : decode cX2_orderAt 48 = .ok (.aload_n 3, 1) := dk_45 (dk_at dksX2_orderAt_2 0 rfl rfl)
theorem dX2_orderAt_49 : decode cX2_orderAt 49 = .ok (.getfield 203, 3) := dk_180 0 203 (dk_at dksX2_orderAt_2 1 rfl rfl)
theorem dX2_orderAt_52 : decode cX2_orderAt 52 = .ok (.iload_n 2, 1) := dk_28 (dk_at dksX2_orderAt_2 4 rfl rfl)
theorem dX2_orderAt_53 : decode cX2_orderAt 53 = .ok (.iaload, 1) := dk_46 (dk_at dksX2_orderAt_2 5 rfl rfl)
theorem dX2_orderAt_54 : decode cX2_orderAt 54 = .ok (.iaload, 1) := dk_46 (dk_at dksX2_orderAt_2 6 rfl rfl)
theorem dX2_orderAt_55 : decode cX2_orderAt 55 = .ok (.goto 4, 3) := dk_167 0 4 (dk_at dksX2_orderAt_2 7 rfl rfl)
theorem dX2_orderAt_58 : decode cX2_orderAt 58 = .ok (.iconst (-1), 1) := dk_2 (dk_at dksX2_orderAt_2 10 rfl rfl)
theorem dX2_orderAt_59 : decode cX2_orderAt 59 = .ok (.ireturn, 1) := dk_172 (dk_at dksX2_orderAt_2 11 rfl rfl)
abbrev cX2_brokenWeight : ByteArray := prog_18_method_53_code
def yX2_brokenWeight : MethodName := ⟨RX2, "brokenWeight", "(I)I"⟩
def dkwX2_brokenWeight_1 : List UInt8 := [187, 0, 178, 89, 42, 27, 183, 0, 196, 182, 0, 209, 172]
abbrev dktX2_brokenWeight_1 : List UInt8 := dkwX2_brokenWeight_1 ++ []
def dkwX2_brokenWeight_0 : List UInt8 := [42, 3, 181, 0, 69, 42, 27, 182, 0, 103, 153, 0, 11, 42, 4, 182, 0, 95, 167, 0, 16, 42]
abbrev dktX2_brokenWeight_0 : List UInt8 := dkwX2_brokenWeight_0 ++ dktX2_brokenWeight_1
theorem dksX2_brokenWeight_0 : cX2_brokenWeight.data.toList.drop 0 = dktX2_brokenWeight_0 := by decide +kernel
theorem dksX2_brokenWeight_1 : cX2_brokenWeight.data.toList.drop 22 = dktX2_brokenWeight_1 := dk_seg dksX2_brokenWeight_0 22 rfl rfl
theorem dX2_brokenWeight_0 : decode cX2_brokenWeight 0 = .ok (.aload_n 0, 1) := dk_42 (dk_at dksX2_brokenWeight_0 0 rfl rfl)
theorem dX2_brokenWeight_1 : decode cX2_brokenWeight 1 = .ok (.iconst 0, 1) := dk_3 (dk_at dksX2_brokenWeight_0 1 rfl rfl)
theorem dX2_brokenWeight_2 : decode cX2_brokenWeight 2 = .ok (.putfield 69, 3) := dk_181 0 69 (dk_at dksX2_brokenWeight_0 2 rfl rfl)
theorem dX2_brokenWeight_5 : decode cX2_brokenWeight 5 = .ok (.aload_n 0, 1) := dk_42 (dk_at dksX2_brokenWeight_0 5 rfl rfl)
theorem dX2_brokenWeight_6 : decode cX2_brokenWeight 6 = .ok (.iload_n 1, 1) := dk_27 (dk_at dksX2_brokenWeight_0 6 rfl rfl)
theorem dX2_brokenWeight_7 : decode cX2_brokenWeight 7 = .ok (.invokevirtual 103, 3) := dk_182 0 103 (dk_at dksX2_brokenWeight_0 7 rfl rfl)
theorem dX2_brokenWeight_10 : decode cX2_brokenWeight 10 = .ok (.ifCond .eq 11, 3) := dk_153 0 11 (dk_at dksX2_brokenWeight_0 10 rfl rfl)
theorem dX2_brokenWeight_13 : decode cX2_brokenWeight 13 = .ok (.aload_n 0, 1) := dk_42 (dk_at dksX2_brokenWeight_0 13 rfl rfl)
theorem dX2_brokenWeight_14 : decode cX2_brokenWeight 14 = .ok (.iconst 1, 1) := dk_4 (dk_at dksX2_brokenWeight_0 14 rfl rfl)
theorem dX2_brokenWeight_15 : decode cX2_brokenWeight 15 = .ok (.invokevirtual 95, 3) := dk_182 0 95 (dk_at dksX2_brokenWeight_0 15 rfl rfl)
theorem dX2_brokenWeight_18 : decode cX2_brokenWeight 18 = .ok (.goto 16, 3) := dk_167 0 16 (dk_at dksX2_brokenWeight_0 18 rfl rfl)
theorem dX2_brokenWeight_21 : decode cX2_brokenWeight 21 = .ok (.aload_n 0, 1) := dk_42 (dk_at dksX2_brokenWeight_0 21 rfl rfl)
theorem dX2_brokenWeight_22 : decode cX2_brokenWeight 22 = .ok (.new 178, 3) := dk_187 0 178 (dk_at dksX2_brokenWeight_1 0 rfl rfl)
theorem dX2_brokenWeight_25 : decode cX2_brokenWeight 25 = .ok (.dup, 1) := dk_89 (dk_at dksX2_brokenWeight_1 3 rfl rfl)
theorem dX2_brokenWeight_26 : decode cX2_brokenWeight 26 = .ok (.aload_n 0, 1) := dk_42 (dk_at dksX2_brokenWeight_1 4 rfl rfl)
theorem dX2_brokenWeight_27 : decode cX2_brokenWeight 27 = .ok (.iload_n 1, 1) := dk_27 (dk_at dksX2_brokenWeight_1 5 rfl rfl)
theorem dX2_brokenWeight_28 : decode cX2_brokenWeight 28 = .ok (.invokespecial 196, 3) := dk_183 0 196 (dk_at dksX2_brokenWeight_1 6 rfl rfl)
theorem dX2_brokenWeight_31 : decode cX2_brokenWeight 31 = .ok (.invokevirtual 209, 3) := dk_182 0 209 (dk_at dksX2_brokenWeight_1 9 rfl rfl)
theorem dX2_brokenWeight_34 : decode cX2_brokenWeight 34 = .ok (.ireturn, 1) := dk_172 (dk_at dksX2_brokenWeight_1 12 rfl rfl)
abbrev cX2_weight : ByteArray := prog_18_method_52_code
def yX2_weight : MethodName := ⟨RX2, "weight", "(LFigureSurveyModel$Found;)I"⟩
def dkwX2_weight_2 : List UInt8 := [46, 167, 0, 4, 3, 96, 61, 132, 3, 1, 167, 255, 204, 28, 172]
abbrev dktX2_weight_2 : List UInt8 := dkwX2_weight_2 ++ []
def dkwX2_weight_1 : List UInt8 := [153, 0, 28, 43, 180, 0, 193, 29, 51, 153, 0, 19, 42, 180, 0, 47, 29, 182, 0, 80, 192, 0, 84, 6]
abbrev dktX2_weight_1 : List UInt8 := dkwX2_weight_1 ++ dktX2_weight_2
def dkwX2_weight_0 : List UInt8 := [3, 61, 3, 62, 29, 42, 180, 0, 47, 182, 0, 72, 162, 0, 47, 28, 43, 180, 0, 189, 29, 51]
abbrev dktX2_weight_0 : List UInt8 := dkwX2_weight_0 ++ dktX2_weight_1
theorem dksX2_weight_0 : cX2_weight.data.toList.drop 0 = dktX2_weight_0 := by decide +kernel
theorem dksX2_weight_1 : cX2_weight.data.toList.drop 22 = dktX2_weight_1 := dk_seg dksX2_weight_0 22 rfl rfl
theorem dksX2_weight_2 : cX2_weight.data.toList.drop 46 = dktX2_weight_2 := dk_seg dksX2_weight_1 24 rfl rfl
theorem dX2_weight_0 : decode cX2_weight 0 = .ok (.iconst 0, 1) := dk_3 (dk_at dksX2_weight_0 0 rfl rfl)
theorem dX2_weight_1 : decode cX2_weight 1 = .ok (.istore_n 2, 1) := dk_61 (dk_at dksX2_weight_0 1 rfl rfl)
theorem dX2_weight_2 : decode cX2_weight 2 = .ok (.iconst 0, 1) := dk_3 (dk_at dksX2_weight_0 2 rfl rfl)
theorem dX2_weight_3 : decode cX2_weight 3 = .ok (.istore_n 3, 1) := dk_62 (dk_at dksX2_weight_0 3 rfl rfl)
theorem dX2_weight_4 : decode cX2_weight 4 = .ok (.iload_n 3, 1) := dk_29 (dk_at dksX2_weight_0 4 rfl rfl)
theorem dX2_weight_5 : decode cX2_weight 5 = .ok (.aload_n 0, 1) := dk_42 (dk_at dksX2_weight_0 5 rfl rfl)
theorem dX2_weight_6 : decode cX2_weight 6 = .ok (.getfield 47, 3) := dk_180 0 47 (dk_at dksX2_weight_0 6 rfl rfl)
theorem dX2_weight_9 : decode cX2_weight 9 = .ok (.invokevirtual 72, 3) := dk_182 0 72 (dk_at dksX2_weight_0 9 rfl rfl)
theorem dX2_weight_12 : decode cX2_weight 12 = .ok (.if_icmp .ge 47, 3) := dk_162 0 47 (dk_at dksX2_weight_0 12 rfl rfl)
theorem dX2_weight_15 : decode cX2_weight 15 = .ok (.iload_n 2, 1) := dk_28 (dk_at dksX2_weight_0 15 rfl rfl)
theorem dX2_weight_16 : decode cX2_weight 16 = .ok (.aload_n 1, 1) := dk_43 (dk_at dksX2_weight_0 16 rfl rfl)
theorem dX2_weight_17 : decode cX2_weight 17 = .ok (.getfield 189, 3) := dk_180 0 189 (dk_at dksX2_weight_0 17 rfl rfl)
theorem dX2_weight_20 : decode cX2_weight 20 = .ok (.iload_n 3, 1) := dk_29 (dk_at dksX2_weight_0 20 rfl rfl)
theorem dX2_weight_21 : decode cX2_weight 21 = .ok (.baload, 1) := dk_51 (dk_at dksX2_weight_0 21 rfl rfl)
theorem dX2_weight_22 : decode cX2_weight 22 = .ok (.ifCond .eq 28, 3) := dk_153 0 28 (dk_at dksX2_weight_1 0 rfl rfl)
theorem dX2_weight_25 : decode cX2_weight 25 = .ok (.aload_n 1, 1) := dk_43 (dk_at dksX2_weight_1 3 rfl rfl)
theorem dX2_weight_26 : decode cX2_weight 26 = .ok (.getfield 193, 3) := dk_180 0 193 (dk_at dksX2_weight_1 4 rfl rfl)
theorem dX2_weight_29 : decode cX2_weight 29 = .ok (.iload_n 3, 1) := dk_29 (dk_at dksX2_weight_1 7 rfl rfl)
theorem dX2_weight_30 : decode cX2_weight 30 = .ok (.baload, 1) := dk_51 (dk_at dksX2_weight_1 8 rfl rfl)
theorem dX2_weight_31 : decode cX2_weight 31 = .ok (.ifCond .eq 19, 3) := dk_153 0 19 (dk_at dksX2_weight_1 9 rfl rfl)
theorem dX2_weight_34 : decode cX2_weight 34 = .ok (.aload_n 0, 1) := dk_42 (dk_at dksX2_weight_1 12 rfl rfl)
theorem dX2_weight_35 : decode cX2_weight 35 = .ok (.getfield 47, 3) := dk_180 0 47 (dk_at dksX2_weight_1 13 rfl rfl)
theorem dX2_weight_38 : decode cX2_weight 38 = .ok (.iload_n 3, 1) := dk_29 (dk_at dksX2_weight_1 16 rfl rfl)
theorem dX2_weight_39 : decode cX2_weight 39 = .ok (.invokevirtual 80, 3) := dk_182 0 80 (dk_at dksX2_weight_1 17 rfl rfl)
theorem dX2_weight_42 : decode cX2_weight 42 = .ok (.checkcast 84, 3) := dk_192 0 84 (dk_at dksX2_weight_1 20 rfl rfl)
theorem dX2_weight_45 : decode cX2_weight 45 = .ok (.iconst 3, 1) := dk_6 (dk_at dksX2_weight_1 23 rfl rfl)
theorem dX2_weight_46 : decode cX2_weight 46 = .ok (.iaload, 1) := dk_46 (dk_at dksX2_weight_2 0 rfl rfl)
theorem dX2_weight_47 : decode cX2_weight 47 = .ok (.goto 4, 3) := dk_167 0 4 (dk_at dksX2_weight_2 1 rfl rfl)
theorem dX2_weight_50 : decode cX2_weight 50 = .ok (.iconst 0, 1) := dk_3 (dk_at dksX2_weight_2 4 rfl rfl)
theorem dX2_weight_51 : decode cX2_weight 51 = .ok (.iadd, 1) := dk_96 (dk_at dksX2_weight_2 5 rfl rfl)
theorem dX2_weight_52 : decode cX2_weight 52 = .ok (.istore_n 2, 1) := dk_61 (dk_at dksX2_weight_2 6 rfl rfl)
theorem dX2_weight_53 : decode cX2_weight 53 = .ok (.iinc 3 1, 3) := dk_132 3 1 (dk_at dksX2_weight_2 7 rfl rfl)
theorem dX2_weight_56 : decode cX2_weight 56 = .ok (.goto (-52), 3) := dk_167 255 204 (dk_at dksX2_weight_2 10 rfl rfl)
theorem dX2_weight_59 : decode cX2_weight 59 = .ok (.iload_n 2, 1) := dk_28 (dk_at dksX2_weight_2 13 rfl rfl)
theorem dX2_weight_60 : decode cX2_weight 60 = .ok (.ireturn, 1) := dk_172 (dk_at dksX2_weight_2 14 rfl rfl)
abbrev cX2_isAbove : ByteArray := prog_18_method_54_code
def yX2_isAbove : MethodName := ⟨RX2, "isAbove", "(II)Z"⟩
def dkwX2_isAbove_3 : List UInt8 := [21, 5, 155, 0, 20, 45, 180, 0, 213, 21, 4, 50, 21, 5, 51, 153, 0, 7, 4, 167, 0, 4, 3, 172]
abbrev dktX2_isAbove_3 : List UInt8 := dkwX2_isAbove_3 ++ []
def dkwX2_isAbove_2 : List UInt8 := [183, 0, 196, 78, 45, 27, 182, 0, 177, 54, 4, 45, 28, 182, 0, 177, 54, 5, 21, 4, 155, 0, 25]
abbrev dktX2_isAbove_2 : List UInt8 := dkwX2_isAbove_2 ++ dktX2_isAbove_3
def dkwX2_isAbove_1 : List UInt8 := [182, 0, 95, 158, 0, 7, 4, 167, 0, 4, 3, 172, 187, 0, 178, 89, 42, 42, 27, 182, 0, 127]
abbrev dktX2_isAbove_1 : List UInt8 := dkwX2_isAbove_1 ++ dktX2_isAbove_2
def dkwX2_isAbove_0 : List UInt8 := [42, 3, 181, 0, 69, 42, 27, 182, 0, 130, 154, 0, 11, 42, 28, 182, 0, 130, 153, 0, 17, 42, 4]
abbrev dktX2_isAbove_0 : List UInt8 := dkwX2_isAbove_0 ++ dktX2_isAbove_1
theorem dksX2_isAbove_0 : cX2_isAbove.data.toList.drop 0 = dktX2_isAbove_0 := by decide +kernel
theorem dksX2_isAbove_1 : cX2_isAbove.data.toList.drop 23 = dktX2_isAbove_1 := dk_seg dksX2_isAbove_0 23 rfl rfl
theorem dksX2_isAbove_2 : cX2_isAbove.data.toList.drop 45 = dktX2_isAbove_2 := dk_seg dksX2_isAbove_1 22 rfl rfl
theorem dksX2_isAbove_3 : cX2_isAbove.data.toList.drop 68 = dktX2_isAbove_3 := dk_seg dksX2_isAbove_2 23 rfl rfl
theorem dX2_isAbove_0 : decode cX2_isAbove 0 = .ok (.aload_n 0, 1) := dk_42 (dk_at dksX2_isAbove_0 0 rfl rfl)
theorem dX2_isAbove_1 : decode cX2_isAbove 1 = .ok (.iconst 0, 1) := dk_3 (dk_at dksX2_isAbove_0 1 rfl rfl)
theorem dX2_isAbove_2 : decode cX2_isAbove 2 = .ok (.putfield 69, 3) := dk_181 0 69 (dk_at dksX2_isAbove_0 2 rfl rfl)
theorem dX2_isAbove_5 : decode cX2_isAbove 5 = .ok (.aload_n 0, 1) := dk_42 (dk_at dksX2_isAbove_0 5 rfl rfl)
theorem dX2_isAbove_6 : decode cX2_isAbove 6 = .ok (.iload_n 1, 1) := dk_27 (dk_at dksX2_isAbove_0 6 rfl rfl)
theorem dX2_isAbove_7 : decode cX2_isAbove 7 = .ok (.invokevirtual 130, 3) := dk_182 0 130 (dk_at dksX2_isAbove_0 7 rfl rfl)
theorem dX2_isAbove_10 : decode cX2_isAbove 10 = .ok (.ifCond .ne 11, 3) := dk_154 0 11 (dk_at dksX2_isAbove_0 10 rfl rfl)
theorem dX2_isAbove_13 : decode cX2_isAbove 13 = .ok (.aload_n 0, 1) := dk_42 (dk_at dksX2_isAbove_0 13 rfl rfl)
theorem dX2_isAbove_14 : decode cX2_isAbove 14 = .ok (.iload_n 2, 1) := dk_28 (dk_at dksX2_isAbove_0 14 rfl rfl)
theorem dX2_isAbove_15 : decode cX2_isAbove 15 = .ok (.invokevirtual 130, 3) := dk_182 0 130 (dk_at dksX2_isAbove_0 15 rfl rfl)
theorem dX2_isAbove_18 : decode cX2_isAbove 18 = .ok (.ifCond .eq 17, 3) := dk_153 0 17 (dk_at dksX2_isAbove_0 18 rfl rfl)
theorem dX2_isAbove_21 : decode cX2_isAbove 21 = .ok (.aload_n 0, 1) := dk_42 (dk_at dksX2_isAbove_0 21 rfl rfl)
theorem dX2_isAbove_22 : decode cX2_isAbove 22 = .ok (.iconst 1, 1) := dk_4 (dk_at dksX2_isAbove_0 22 rfl rfl)
theorem dX2_isAbove_23 : decode cX2_isAbove 23 = .ok (.invokevirtual 95, 3) := dk_182 0 95 (dk_at dksX2_isAbove_1 0 rfl rfl)
theorem dX2_isAbove_26 : decode cX2_isAbove 26 = .ok (.ifCond .le 7, 3) := dk_158 0 7 (dk_at dksX2_isAbove_1 3 rfl rfl)
theorem dX2_isAbove_29 : decode cX2_isAbove 29 = .ok (.iconst 1, 1) := dk_4 (dk_at dksX2_isAbove_1 6 rfl rfl)
theorem dX2_isAbove_30 : decode cX2_isAbove 30 = .ok (.goto 4, 3) := dk_167 0 4 (dk_at dksX2_isAbove_1 7 rfl rfl)
theorem dX2_isAbove_33 : decode cX2_isAbove 33 = .ok (.iconst 0, 1) := dk_3 (dk_at dksX2_isAbove_1 10 rfl rfl)
theorem dX2_isAbove_34 : decode cX2_isAbove 34 = .ok (.ireturn, 1) := dk_172 (dk_at dksX2_isAbove_1 11 rfl rfl)
theorem dX2_isAbove_35 : decode cX2_isAbove 35 = .ok (.new 178, 3) := dk_187 0 178 (dk_at dksX2_isAbove_1 12 rfl rfl)
theorem dX2_isAbove_38 : decode cX2_isAbove 38 = .ok (.dup, 1) := dk_89 (dk_at dksX2_isAbove_1 15 rfl rfl)
theorem dX2_isAbove_39 : decode cX2_isAbove 39 = .ok (.aload_n 0, 1) := dk_42 (dk_at dksX2_isAbove_1 16 rfl rfl)
theorem dX2_isAbove_40 : decode cX2_isAbove 40 = .ok (.aload_n 0, 1) := dk_42 (dk_at dksX2_isAbove_1 17 rfl rfl)
theorem dX2_isAbove_41 : decode cX2_isAbove 41 = .ok (.iload_n 1, 1) := dk_27 (dk_at dksX2_isAbove_1 18 rfl rfl)
theorem dX2_isAbove_42 : decode cX2_isAbove 42 = .ok (.invokevirtual 127, 3) := dk_182 0 127 (dk_at dksX2_isAbove_1 19 rfl rfl)
theorem dX2_isAbove_45 : decode cX2_isAbove 45 = .ok (.invokespecial 196, 3) := dk_183 0 196 (dk_at dksX2_isAbove_2 0 rfl rfl)
theorem dX2_isAbove_48 : decode cX2_isAbove 48 = .ok (.astore_n 3, 1) := dk_78 (dk_at dksX2_isAbove_2 3 rfl rfl)
theorem dX2_isAbove_49 : decode cX2_isAbove 49 = .ok (.aload_n 3, 1) := dk_45 (dk_at dksX2_isAbove_2 4 rfl rfl)
theorem dX2_isAbove_50 : decode cX2_isAbove 50 = .ok (.iload_n 1, 1) := dk_27 (dk_at dksX2_isAbove_2 5 rfl rfl)
theorem dX2_isAbove_51 : decode cX2_isAbove 51 = .ok (.invokevirtual 177, 3) := dk_182 0 177 (dk_at dksX2_isAbove_2 6 rfl rfl)
theorem dX2_isAbove_54 : decode cX2_isAbove 54 = .ok (.istore 4, 2) := dk_54 4 (dk_at dksX2_isAbove_2 9 rfl rfl)
theorem dX2_isAbove_56 : decode cX2_isAbove 56 = .ok (.aload_n 3, 1) := dk_45 (dk_at dksX2_isAbove_2 11 rfl rfl)
theorem dX2_isAbove_57 : decode cX2_isAbove 57 = .ok (.iload_n 2, 1) := dk_28 (dk_at dksX2_isAbove_2 12 rfl rfl)
theorem dX2_isAbove_58 : decode cX2_isAbove 58 = .ok (.invokevirtual 177, 3) := dk_182 0 177 (dk_at dksX2_isAbove_2 13 rfl rfl)
theorem dX2_isAbove_61 : decode cX2_isAbove 61 = .ok (.istore 5, 2) := dk_54 5 (dk_at dksX2_isAbove_2 16 rfl rfl)
theorem dX2_isAbove_63 : decode cX2_isAbove 63 = .ok (.iload 4, 2) := dk_21 4 (dk_at dksX2_isAbove_2 18 rfl rfl)
theorem dX2_isAbove_65 : decode cX2_isAbove 65 = .ok (.ifCond .lt 25, 3) := dk_155 0 25 (dk_at dksX2_isAbove_2 20 rfl rfl)
theorem dX2_isAbove_68 : decode cX2_isAbove 68 = .ok (.iload 5, 2) := dk_21 5 (dk_at dksX2_isAbove_3 0 rfl rfl)
theorem dX2_isAbove_70 : decode cX2_isAbove 70 = .ok (.ifCond .lt 20, 3) := dk_155 0 20 (dk_at dksX2_isAbove_3 2 rfl rfl)
theorem dX2_isAbove_73 : decode cX2_isAbove 73 = .ok (.aload_n 3, 1) := dk_45 (dk_at dksX2_isAbove_3 5 rfl rfl)
theorem dX2_isAbove_74 : decode cX2_isAbove 74 = .ok (.getfield 213, 3) := dk_180 0 213 (dk_at dksX2_isAbove_3 6 rfl rfl)
theorem dX2_isAbove_77 : decode cX2_isAbove 77 = .ok (.iload 4, 2) := dk_21 4 (dk_at dksX2_isAbove_3 9 rfl rfl)
theorem dX2_isAbove_79 : decode cX2_isAbove 79 = .ok (.aaload, 1) := dk_50 (dk_at dksX2_isAbove_3 11 rfl rfl)
theorem dX2_isAbove_80 : decode cX2_isAbove 80 = .ok (.iload 5, 2) := dk_21 5 (dk_at dksX2_isAbove_3 12 rfl rfl)
theorem dX2_isAbove_82 : decode cX2_isAbove 82 = .ok (.baload, 1) := dk_51 (dk_at dksX2_isAbove_3 14 rfl rfl)
theorem dX2_isAbove_83 : decode cX2_isAbove 83 = .ok (.ifCond .eq 7, 3) := dk_153 0 7 (dk_at dksX2_isAbove_3 15 rfl rfl)
theorem dX2_isAbove_86 : decode cX2_isAbove 86 = .ok (.iconst 1, 1) := dk_4 (dk_at dksX2_isAbove_3 18 rfl rfl)
theorem dX2_isAbove_87 : decode cX2_isAbove 87 = .ok (.goto 4, 3) := dk_167 0 4 (dk_at dksX2_isAbove_3 19 rfl rfl)
theorem dX2_isAbove_90 : decode cX2_isAbove 90 = .ok (.iconst 0, 1) := dk_3 (dk_at dksX2_isAbove_3 22 rfl rfl)
theorem dX2_isAbove_91 : decode cX2_isAbove 91 = .ok (.ireturn, 1) := dk_172 (dk_at dksX2_isAbove_3 23 rfl rfl)
abbrev cX2_earliest : ByteArray := prog_18_method_55_code
def yX2_earliest : MethodName := ⟨RX2, "earliest", "(I)I"⟩
def dkwX2_earliest_1 : List UInt8 := [187, 0, 178, 89, 42, 42, 27, 182, 0, 127, 183, 0, 196, 27, 3, 182, 0, 216, 172]
abbrev dktX2_earliest_1 : List UInt8 := dkwX2_earliest_1 ++ []
def dkwX2_earliest_0 : List UInt8 := [42, 3, 181, 0, 69, 42, 27, 182, 0, 130, 153, 0, 11, 42, 4, 182, 0, 95, 167, 0, 22, 42]
abbrev dktX2_earliest_0 : List UInt8 := dkwX2_earliest_0 ++ dktX2_earliest_1
theorem dksX2_earliest_0 : cX2_earliest.data.toList.drop 0 = dktX2_earliest_0 := by decide +kernel
theorem dksX2_earliest_1 : cX2_earliest.data.toList.drop 22 = dktX2_earliest_1 := dk_seg dksX2_earliest_0 22 rfl rfl
theorem dX2_earliest_0 : decode cX2_earliest 0 = .ok (.aload_n 0, 1) := dk_42 (dk_at dksX2_earliest_0 0 rfl rfl)
theorem dX2_earliest_1 : decode cX2_earliest 1 = .ok (.iconst 0, 1) := dk_3 (dk_at dksX2_earliest_0 1 rfl rfl)
theorem dX2_earliest_2 : decode cX2_earliest 2 = .ok (.putfield 69, 3) := dk_181 0 69 (dk_at dksX2_earliest_0 2 rfl rfl)
theorem dX2_earliest_5 : decode cX2_earliest 5 = .ok (.aload_n 0, 1) := dk_42 (dk_at dksX2_earliest_0 5 rfl rfl)
theorem dX2_earliest_6 : decode cX2_earliest 6 = .ok (.iload_n 1, 1) := dk_27 (dk_at dksX2_earliest_0 6 rfl rfl)
theorem dX2_earliest_7 : decode cX2_earliest 7 = .ok (.invokevirtual 130, 3) := dk_182 0 130 (dk_at dksX2_earliest_0 7 rfl rfl)
theorem dX2_earliest_10 : decode cX2_earliest 10 = .ok (.ifCond .eq 11, 3) := dk_153 0 11 (dk_at dksX2_earliest_0 10 rfl rfl)
theorem dX2_earliest_13 : decode cX2_earliest 13 = .ok (.aload_n 0, 1) := dk_42 (dk_at dksX2_earliest_0 13 rfl rfl)
theorem dX2_earliest_14 : decode cX2_earliest 14 = .ok (.iconst 1, 1) := dk_4 (dk_at dksX2_earliest_0 14 rfl rfl)
theorem dX2_earliest_15 : decode cX2_earliest 15 = .ok (.invokevirtual 95, 3) := dk_182 0 95 (dk_at dksX2_earliest_0 15 rfl rfl)
theorem dX2_earliest_18 : decode cX2_earliest 18 = .ok (.goto 22, 3) := dk_167 0 22 (dk_at dksX2_earliest_0 18 rfl rfl)
theorem dX2_earliest_21 : decode cX2_earliest 21 = .ok (.aload_n 0, 1) := dk_42 (dk_at dksX2_earliest_0 21 rfl rfl)
theorem dX2_earliest_22 : decode cX2_earliest 22 = .ok (.new 178, 3) := dk_187 0 178 (dk_at dksX2_earliest_1 0 rfl rfl)
theorem dX2_earliest_25 : decode cX2_earliest 25 = .ok (.dup, 1) := dk_89 (dk_at dksX2_earliest_1 3 rfl rfl)
theorem dX2_earliest_26 : decode cX2_earliest 26 = .ok (.aload_n 0, 1) := dk_42 (dk_at dksX2_earliest_1 4 rfl rfl)
theorem dX2_earliest_27 : decode cX2_earliest 27 = .ok (.aload_n 0, 1) := dk_42 (dk_at dksX2_earliest_1 5 rfl rfl)
theorem dX2_earliest_28 : decode cX2_earliest 28 = .ok (.iload_n 1, 1) := dk_27 (dk_at dksX2_earliest_1 6 rfl rfl)
theorem dX2_earliest_29 : decode cX2_earliest 29 = .ok (.invokevirtual 127, 3) := dk_182 0 127 (dk_at dksX2_earliest_1 7 rfl rfl)
theorem dX2_earliest_32 : decode cX2_earliest 32 = .ok (.invokespecial 196, 3) := dk_183 0 196 (dk_at dksX2_earliest_1 10 rfl rfl)
theorem dX2_earliest_35 : decode cX2_earliest 35 = .ok (.iload_n 1, 1) := dk_27 (dk_at dksX2_earliest_1 13 rfl rfl)
theorem dX2_earliest_36 : decode cX2_earliest 36 = .ok (.iconst 0, 1) := dk_3 (dk_at dksX2_earliest_1 14 rfl rfl)
theorem dX2_earliest_37 : decode cX2_earliest 37 = .ok (.invokevirtual 216, 3) := dk_182 0 216 (dk_at dksX2_earliest_1 15 rfl rfl)
theorem dX2_earliest_40 : decode cX2_earliest 40 = .ok (.ireturn, 1) := dk_172 (dk_at dksX2_earliest_1 18 rfl rfl)
abbrev cX2_yearOf : ByteArray := prog_18_method_48_code
def yX2_yearOf : MethodName := ⟨RX2, "yearOf", "(LFigureSurveyModel$Found;IZ)I"⟩
def dkwX2_yearOf_1 : List UInt8 := [160, 0, 17, 29, 153, 0, 9, 17, 117, 48, 167, 0, 13, 3, 167, 0, 9, 43, 21, 4, 182, 0, 186, 172]
abbrev dktX2_yearOf_1 : List UInt8 := dkwX2_yearOf_1 ++ []
def dkwX2_yearOf_0 : List UInt8 := [43, 28, 182, 0, 177, 156, 0, 7, 2, 167, 0, 9, 43, 28, 29, 182, 0, 182, 54, 4, 21, 4, 2]
abbrev dktX2_yearOf_0 : List UInt8 := dkwX2_yearOf_0 ++ dktX2_yearOf_1
theorem dksX2_yearOf_0 : cX2_yearOf.data.toList.drop 0 = dktX2_yearOf_0 := by decide +kernel
theorem dksX2_yearOf_1 : cX2_yearOf.data.toList.drop 23 = dktX2_yearOf_1 := dk_seg dksX2_yearOf_0 23 rfl rfl
theorem dX2_yearOf_0 : decode cX2_yearOf 0 = .ok (.aload_n 1, 1) := dk_43 (dk_at dksX2_yearOf_0 0 rfl rfl)
theorem dX2_yearOf_1 : decode cX2_yearOf 1 = .ok (.iload_n 2, 1) := dk_28 (dk_at dksX2_yearOf_0 1 rfl rfl)
theorem dX2_yearOf_2 : decode cX2_yearOf 2 = .ok (.invokevirtual 177, 3) := dk_182 0 177 (dk_at dksX2_yearOf_0 2 rfl rfl)
theorem dX2_yearOf_5 : decode cX2_yearOf 5 = .ok (.ifCond .ge 7, 3) := dk_156 0 7 (dk_at dksX2_yearOf_0 5 rfl rfl)
theorem dX2_yearOf_8 : decode cX2_yearOf 8 = .ok (.iconst (-1), 1) := dk_2 (dk_at dksX2_yearOf_0 8 rfl rfl)
theorem dX2_yearOf_9 : decode cX2_yearOf 9 = .ok (.goto 9, 3) := dk_167 0 9 (dk_at dksX2_yearOf_0 9 rfl rfl)
theorem dX2_yearOf_12 : decode cX2_yearOf 12 = .ok (.aload_n 1, 1) := dk_43 (dk_at dksX2_yearOf_0 12 rfl rfl)
theorem dX2_yearOf_13 : decode cX2_yearOf 13 = .ok (.iload_n 2, 1) := dk_28 (dk_at dksX2_yearOf_0 13 rfl rfl)
theorem dX2_yearOf_14 : decode cX2_yearOf 14 = .ok (.iload_n 3, 1) := dk_29 (dk_at dksX2_yearOf_0 14 rfl rfl)
theorem dX2_yearOf_15 : decode cX2_yearOf 15 = .ok (.invokevirtual 182, 3) := dk_182 0 182 (dk_at dksX2_yearOf_0 15 rfl rfl)
theorem dX2_yearOf_18 : decode cX2_yearOf 18 = .ok (.istore 4, 2) := dk_54 4 (dk_at dksX2_yearOf_0 18 rfl rfl)
theorem dX2_yearOf_20 : decode cX2_yearOf 20 = .ok (.iload 4, 2) := dk_21 4 (dk_at dksX2_yearOf_0 20 rfl rfl)
theorem dX2_yearOf_22 : decode cX2_yearOf 22 = .ok (.iconst (-1), 1) := dk_2 (dk_at dksX2_yearOf_0 22 rfl rfl)
theorem dX2_yearOf_23 : decode cX2_yearOf 23 = .ok (.if_icmp .ne 17, 3) := dk_160 0 17 (dk_at dksX2_yearOf_1 0 rfl rfl)
theorem dX2_yearOf_26 : decode cX2_yearOf 26 = .ok (.iload_n 3, 1) := dk_29 (dk_at dksX2_yearOf_1 3 rfl rfl)
theorem dX2_yearOf_27 : decode cX2_yearOf 27 = .ok (.ifCond .eq 9, 3) := dk_153 0 9 (dk_at dksX2_yearOf_1 4 rfl rfl)
theorem dX2_yearOf_30 : decode cX2_yearOf 30 = .ok (.sipush 30000, 3) := dk_17 117 48 (dk_at dksX2_yearOf_1 7 rfl rfl)
theorem dX2_yearOf_33 : decode cX2_yearOf 33 = .ok (.goto 13, 3) := dk_167 0 13 (dk_at dksX2_yearOf_1 10 rfl rfl)
theorem dX2_yearOf_36 : decode cX2_yearOf 36 = .ok (.iconst 0, 1) := dk_3 (dk_at dksX2_yearOf_1 13 rfl rfl)
theorem dX2_yearOf_37 : decode cX2_yearOf 37 = .ok (.goto 9, 3) := dk_167 0 9 (dk_at dksX2_yearOf_1 14 rfl rfl)
theorem dX2_yearOf_40 : decode cX2_yearOf 40 = .ok (.aload_n 1, 1) := dk_43 (dk_at dksX2_yearOf_1 17 rfl rfl)
theorem dX2_yearOf_41 : decode cX2_yearOf 41 = .ok (.iload 4, 2) := dk_21 4 (dk_at dksX2_yearOf_1 18 rfl rfl)
theorem dX2_yearOf_43 : decode cX2_yearOf 43 = .ok (.invokevirtual 186, 3) := dk_182 0 186 (dk_at dksX2_yearOf_1 20 rfl rfl)
theorem dX2_yearOf_46 : decode cX2_yearOf 46 = .ok (.ireturn, 1) := dk_172 (dk_at dksX2_yearOf_1 23 rfl rfl)
abbrev cX2_latest : ByteArray := prog_18_method_56_code
def yX2_latest : MethodName := ⟨RX2, "latest", "(I)I"⟩
def dkwX2_latest_1 : List UInt8 := [187, 0, 178, 89, 42, 42, 27, 182, 0, 127, 183, 0, 196, 27, 4, 182, 0, 216, 172]
abbrev dktX2_latest_1 : List UInt8 := dkwX2_latest_1 ++ []
def dkwX2_latest_0 : List UInt8 := [42, 3, 181, 0, 69, 42, 27, 182, 0, 130, 153, 0, 11, 42, 4, 182, 0, 95, 167, 0, 22, 42]
abbrev dktX2_latest_0 : List UInt8 := dkwX2_latest_0 ++ dktX2_latest_1
theorem dksX2_latest_0 : cX2_latest.data.toList.drop 0 = dktX2_latest_0 := by decide +kernel
theorem dksX2_latest_1 : cX2_latest.data.toList.drop 22 = dktX2_latest_1 := dk_seg dksX2_latest_0 22 rfl rfl
theorem dX2_latest_0 : decode cX2_latest 0 = .ok (.aload_n 0, 1) := dk_42 (dk_at dksX2_latest_0 0 rfl rfl)
theorem dX2_latest_1 : decode cX2_latest 1 = .ok (.iconst 0, 1) := dk_3 (dk_at dksX2_latest_0 1 rfl rfl)
theorem dX2_latest_2 : decode cX2_latest 2 = .ok (.putfield 69, 3) := dk_181 0 69 (dk_at dksX2_latest_0 2 rfl rfl)
theorem dX2_latest_5 : decode cX2_latest 5 = .ok (.aload_n 0, 1) := dk_42 (dk_at dksX2_latest_0 5 rfl rfl)
theorem dX2_latest_6 : decode cX2_latest 6 = .ok (.iload_n 1, 1) := dk_27 (dk_at dksX2_latest_0 6 rfl rfl)
theorem dX2_latest_7 : decode cX2_latest 7 = .ok (.invokevirtual 130, 3) := dk_182 0 130 (dk_at dksX2_latest_0 7 rfl rfl)
theorem dX2_latest_10 : decode cX2_latest 10 = .ok (.ifCond .eq 11, 3) := dk_153 0 11 (dk_at dksX2_latest_0 10 rfl rfl)
theorem dX2_latest_13 : decode cX2_latest 13 = .ok (.aload_n 0, 1) := dk_42 (dk_at dksX2_latest_0 13 rfl rfl)
theorem dX2_latest_14 : decode cX2_latest 14 = .ok (.iconst 1, 1) := dk_4 (dk_at dksX2_latest_0 14 rfl rfl)
theorem dX2_latest_15 : decode cX2_latest 15 = .ok (.invokevirtual 95, 3) := dk_182 0 95 (dk_at dksX2_latest_0 15 rfl rfl)
theorem dX2_latest_18 : decode cX2_latest 18 = .ok (.goto 22, 3) := dk_167 0 22 (dk_at dksX2_latest_0 18 rfl rfl)
theorem dX2_latest_21 : decode cX2_latest 21 = .ok (.aload_n 0, 1) := dk_42 (dk_at dksX2_latest_0 21 rfl rfl)
theorem dX2_latest_22 : decode cX2_latest 22 = .ok (.new 178, 3) := dk_187 0 178 (dk_at dksX2_latest_1 0 rfl rfl)
theorem dX2_latest_25 : decode cX2_latest 25 = .ok (.dup, 1) := dk_89 (dk_at dksX2_latest_1 3 rfl rfl)
theorem dX2_latest_26 : decode cX2_latest 26 = .ok (.aload_n 0, 1) := dk_42 (dk_at dksX2_latest_1 4 rfl rfl)
theorem dX2_latest_27 : decode cX2_latest 27 = .ok (.aload_n 0, 1) := dk_42 (dk_at dksX2_latest_1 5 rfl rfl)
theorem dX2_latest_28 : decode cX2_latest 28 = .ok (.iload_n 1, 1) := dk_27 (dk_at dksX2_latest_1 6 rfl rfl)
theorem dX2_latest_29 : decode cX2_latest 29 = .ok (.invokevirtual 127, 3) := dk_182 0 127 (dk_at dksX2_latest_1 7 rfl rfl)
theorem dX2_latest_32 : decode cX2_latest 32 = .ok (.invokespecial 196, 3) := dk_183 0 196 (dk_at dksX2_latest_1 10 rfl rfl)
theorem dX2_latest_35 : decode cX2_latest 35 = .ok (.iload_n 1, 1) := dk_27 (dk_at dksX2_latest_1 13 rfl rfl)
theorem dX2_latest_36 : decode cX2_latest 36 = .ok (.iconst 1, 1) := dk_4 (dk_at dksX2_latest_1 14 rfl rfl)
theorem dX2_latest_37 : decode cX2_latest 37 = .ok (.invokevirtual 216, 3) := dk_182 0 216 (dk_at dksX2_latest_1 15 rfl rfl)
theorem dX2_latest_40 : decode cX2_latest 40 = .ok (.ireturn, 1) := dk_172 (dk_at dksX2_latest_1 18 rfl rfl)
abbrev cX2_reasonFor : ByteArray := prog_18_method_57_code
def yX2_reasonFor : MethodName := ⟨RX2, "reasonFor", "(IZ)I"⟩
def dkwX2_reasonFor_2 : List UInt8 := [182, 0, 182, 172]
abbrev dktX2_reasonFor_2 : List UInt8 := dkwX2_reasonFor_2 ++ []
def dkwX2_reasonFor_1 : List UInt8 := [42, 27, 182, 0, 127, 183, 0, 196, 78, 45, 27, 182, 0, 177, 156, 0, 7, 2, 167, 0, 9, 45, 27, 28]
abbrev dktX2_reasonFor_1 : List UInt8 := dkwX2_reasonFor_1 ++ dktX2_reasonFor_2
def dkwX2_reasonFor_0 : List UInt8 := [42, 3, 181, 0, 69, 42, 27, 182, 0, 130, 153, 0, 9, 42, 4, 182, 0, 95, 172, 187, 0, 178, 89, 42]
abbrev dktX2_reasonFor_0 : List UInt8 := dkwX2_reasonFor_0 ++ dktX2_reasonFor_1
theorem dksX2_reasonFor_0 : cX2_reasonFor.data.toList.drop 0 = dktX2_reasonFor_0 := by decide +kernel
theorem dksX2_reasonFor_1 : cX2_reasonFor.data.toList.drop 24 = dktX2_reasonFor_1 := dk_seg dksX2_reasonFor_0 24 rfl rfl
theorem dksX2_reasonFor_2 : cX2_reasonFor.data.toList.drop 48 = dktX2_reasonFor_2 := dk_seg dksX2_reasonFor_1 24 rfl rfl
theorem dX2_reasonFor_0 : decode cX2_reasonFor 0 = .ok (.aload_n 0, 1) := dk_42 (dk_at dksX2_reasonFor_0 0 rfl rfl)
theorem dX2_reasonFor_1 : decode cX2_reasonFor 1 = .ok (.iconst 0, 1) := dk_3 (dk_at dksX2_reasonFor_0 1 rfl rfl)
theorem dX2_reasonFor_2 : decode cX2_reasonFor 2 = .ok (.putfield 69, 3) := dk_181 0 69 (dk_at dksX2_reasonFor_0 2 rfl rfl)
theorem dX2_reasonFor_5 : decode cX2_reasonFor 5 = .ok (.aload_n 0, 1) := dk_42 (dk_at dksX2_reasonFor_0 5 rfl rfl)
theorem dX2_reasonFor_6 : decode cX2_reasonFor 6 = .ok (.iload_n 1, 1) := dk_27 (dk_at dksX2_reasonFor_0 6 rfl rfl)
theorem dX2_reasonFor_7 : decode cX2_reasonFor 7 = .ok (.invokevirtual 130, 3) := dk_182 0 130 (dk_at dksX2_reasonFor_0 7 rfl rfl)
theorem dX2_reasonFor_10 : decode cX2_reasonFor 10 = .ok (.ifCond .eq 9, 3) := dk_153 0 9 (dk_at dksX2_reasonFor_0 10 rfl rfl)
theorem dX2_reasonFor_13 : decode cX2_reasonFor 13 = .ok (.aload_n 0, 1) := dk_42 (dk_at dksX2_reasonFor_0 13 rfl rfl)
theorem dX2_reasonFor_14 : decode cX2_reasonFor 14 = .ok (.iconst 1, 1) := dk_4 (dk_at dksX2_reasonFor_0 14 rfl rfl)
theorem dX2_reasonFor_15 : decode cX2_reasonFor 15 = .ok (.invokevirtual 95, 3) := dk_182 0 95 (dk_at dksX2_reasonFor_0 15 rfl rfl)
theorem dX2_reasonFor_18 : decode cX2_reasonFor 18 = .ok (.ireturn, 1) := dk_172 (dk_at dksX2_reasonFor_0 18 rfl rfl)
theorem dX2_reasonFor_19 : decode cX2_reasonFor 19 = .ok (.new 178, 3) := dk_187 0 178 (dk_at dksX2_reasonFor_0 19 rfl rfl)
theorem dX2_reasonFor_22 : decode cX2_reasonFor 22 = .ok (.dup, 1) := dk_89 (dk_at dksX2_reasonFor_0 22 rfl rfl)
theorem dX2_reasonFor_23 : decode cX2_reasonFor 23 = .ok (.aload_n 0, 1) := dk_42 (dk_at dksX2_reasonFor_0 23 rfl rfl)
theorem dX2_reasonFor_24 : decode cX2_reasonFor 24 = .ok (.aload_n 0, 1) := dk_42 (dk_at dksX2_reasonFor_1 0 rfl rfl)
theorem dX2_reasonFor_25 : decode cX2_reasonFor 25 = .ok (.iload_n 1, 1) := dk_27 (dk_at dksX2_reasonFor_1 1 rfl rfl)
theorem dX2_reasonFor_26 : decode cX2_reasonFor 26 = .ok (.invokevirtual 127, 3) := dk_182 0 127 (dk_at dksX2_reasonFor_1 2 rfl rfl)
theorem dX2_reasonFor_29 : decode cX2_reasonFor 29 = .ok (.invokespecial 196, 3) := dk_183 0 196 (dk_at dksX2_reasonFor_1 5 rfl rfl)
theorem dX2_reasonFor_32 : decode cX2_reasonFor 32 = .ok (.astore_n 3, 1) := dk_78 (dk_at dksX2_reasonFor_1 8 rfl rfl)
theorem dX2_reasonFor_33 : decode cX2_reasonFor 33 = .ok (.aload_n 3, 1) := dk_45 (dk_at dksX2_reasonFor_1 9 rfl rfl)
theorem dX2_reasonFor_34 : decode cX2_reasonFor 34 = .ok (.iload_n 1, 1) := dk_27 (dk_at dksX2_reasonFor_1 10 rfl rfl)
theorem dX2_reasonFor_35 : decode cX2_reasonFor 35 = .ok (.invokevirtual 177, 3) := dk_182 0 177 (dk_at dksX2_reasonFor_1 11 rfl rfl)
theorem dX2_reasonFor_38 : decode cX2_reasonFor 38 = .ok (.ifCond .ge 7, 3) := dk_156 0 7 (dk_at dksX2_reasonFor_1 14 rfl rfl)
theorem dX2_reasonFor_41 : decode cX2_reasonFor 41 = .ok (.iconst (-1), 1) := dk_2 (dk_at dksX2_reasonFor_1 17 rfl rfl)
theorem dX2_reasonFor_42 : decode cX2_reasonFor 42 = .ok (.goto 9, 3) := dk_167 0 9 (dk_at dksX2_reasonFor_1 18 rfl rfl)
theorem dX2_reasonFor_45 : decode cX2_reasonFor 45 = .ok (.aload_n 3, 1) := dk_45 (dk_at dksX2_reasonFor_1 21 rfl rfl)
theorem dX2_reasonFor_46 : decode cX2_reasonFor 46 = .ok (.iload_n 1, 1) := dk_27 (dk_at dksX2_reasonFor_1 22 rfl rfl)
theorem dX2_reasonFor_47 : decode cX2_reasonFor 47 = .ok (.iload_n 2, 1) := dk_28 (dk_at dksX2_reasonFor_1 23 rfl rfl)
theorem dX2_reasonFor_48 : decode cX2_reasonFor 48 = .ok (.invokevirtual 182, 3) := dk_182 0 182 (dk_at dksX2_reasonFor_2 0 rfl rfl)
theorem dX2_reasonFor_51 : decode cX2_reasonFor 51 = .ok (.ireturn, 1) := dk_172 (dk_at dksX2_reasonFor_2 3 rfl rfl)
abbrev cX2_setFeatures : ByteArray := prog_18_method_60_code
def yX2_setFeatures : MethodName := ⟨RX2, "setFeatures", "(II)I"⟩
def dkwX2_setFeatures_2 : List UInt8 := [28, 79, 42, 27, 182, 0, 227, 172]
abbrev dktX2_setFeatures_2 : List UInt8 := dkwX2_setFeatures_2 ++ []
def dkwX2_setFeatures_1 : List UInt8 := [184, 0, 76, 154, 0, 9, 42, 5, 182, 0, 95, 172, 42, 180, 0, 33, 27, 182, 0, 80, 192, 0, 84, 5]
abbrev dktX2_setFeatures_1 : List UInt8 := dkwX2_setFeatures_1 ++ dktX2_setFeatures_2
def dkwX2_setFeatures_0 : List UInt8 := [42, 3, 181, 0, 69, 42, 27, 182, 0, 130, 153, 0, 9, 42, 4, 182, 0, 95, 172, 28, 3, 18, 226]
abbrev dktX2_setFeatures_0 : List UInt8 := dkwX2_setFeatures_0 ++ dktX2_setFeatures_1
theorem dksX2_setFeatures_0 : cX2_setFeatures.data.toList.drop 0 = dktX2_setFeatures_0 := by decide +kernel
theorem dksX2_setFeatures_1 : cX2_setFeatures.data.toList.drop 23 = dktX2_setFeatures_1 := dk_seg dksX2_setFeatures_0 23 rfl rfl
theorem dksX2_setFeatures_2 : cX2_setFeatures.data.toList.drop 47 = dktX2_setFeatures_2 := dk_seg dksX2_setFeatures_1 24 rfl rfl
theorem dX2_setFeatures_0 : decode cX2_setFeatures 0 = .ok (.aload_n 0, 1) := dk_42 (dk_at dksX2_setFeatures_0 0 rfl rfl)
theorem dX2_setFeatures_1 : decode cX2_setFeatures 1 = .ok (.iconst 0, 1) := dk_3 (dk_at dksX2_setFeatures_0 1 rfl rfl)
theorem dX2_setFeatures_2 : decode cX2_setFeatures 2 = .ok (.putfield 69, 3) := dk_181 0 69 (dk_at dksX2_setFeatures_0 2 rfl rfl)
theorem dX2_setFeatures_5 : decode cX2_setFeatures 5 = .ok (.aload_n 0, 1) := dk_42 (dk_at dksX2_setFeatures_0 5 rfl rfl)
theorem dX2_setFeatures_6 : decode cX2_setFeatures 6 = .ok (.iload_n 1, 1) := dk_27 (dk_at dksX2_setFeatures_0 6 rfl rfl)
theorem dX2_setFeatures_7 : decode cX2_setFeatures 7 = .ok (.invokevirtual 130, 3) := dk_182 0 130 (dk_at dksX2_setFeatures_0 7 rfl rfl)
theorem dX2_setFeatures_10 : decode cX2_setFeatures 10 = .ok (.ifCond .eq 9, 3) := dk_153 0 9 (dk_at dksX2_setFeatures_0 10 rfl rfl)
theorem dX2_setFeatures_13 : decode cX2_setFeatures 13 = .ok (.aload_n 0, 1) := dk_42 (dk_at dksX2_setFeatures_0 13 rfl rfl)
theorem dX2_setFeatures_14 : decode cX2_setFeatures 14 = .ok (.iconst 1, 1) := dk_4 (dk_at dksX2_setFeatures_0 14 rfl rfl)
theorem dX2_setFeatures_15 : decode cX2_setFeatures 15 = .ok (.invokevirtual 95, 3) := dk_182 0 95 (dk_at dksX2_setFeatures_0 15 rfl rfl)
theorem dX2_setFeatures_18 : decode cX2_setFeatures 18 = .ok (.ireturn, 1) := dk_172 (dk_at dksX2_setFeatures_0 18 rfl rfl)
theorem dX2_setFeatures_19 : decode cX2_setFeatures 19 = .ok (.iload_n 2, 1) := dk_28 (dk_at dksX2_setFeatures_0 19 rfl rfl)
theorem dX2_setFeatures_20 : decode cX2_setFeatures 20 = .ok (.iconst 0, 1) := dk_3 (dk_at dksX2_setFeatures_0 20 rfl rfl)
theorem dX2_setFeatures_21 : decode cX2_setFeatures 21 = .ok (.ldc 226, 2) := dk_18 226 (dk_at dksX2_setFeatures_0 21 rfl rfl)
theorem dX2_setFeatures_23 : decode cX2_setFeatures 23 = .ok (.invokestatic 76, 3) := dk_184 0 76 (dk_at dksX2_setFeatures_1 0 rfl rfl)
theorem dX2_setFeatures_26 : decode cX2_setFeatures 26 = .ok (.ifCond .ne 9, 3) := dk_154 0 9 (dk_at dksX2_setFeatures_1 3 rfl rfl)
theorem dX2_setFeatures_29 : decode cX2_setFeatures 29 = .ok (.aload_n 0, 1) := dk_42 (dk_at dksX2_setFeatures_1 6 rfl rfl)
theorem dX2_setFeatures_30 : decode cX2_setFeatures 30 = .ok (.iconst 2, 1) := dk_5 (dk_at dksX2_setFeatures_1 7 rfl rfl)
theorem dX2_setFeatures_31 : decode cX2_setFeatures 31 = .ok (.invokevirtual 95, 3) := dk_182 0 95 (dk_at dksX2_setFeatures_1 8 rfl rfl)
theorem dX2_setFeatures_34 : decode cX2_setFeatures 34 = .ok (.ireturn, 1) := dk_172 (dk_at dksX2_setFeatures_1 11 rfl rfl)
theorem dX2_setFeatures_35 : decode cX2_setFeatures 35 = .ok (.aload_n 0, 1) := dk_42 (dk_at dksX2_setFeatures_1 12 rfl rfl)
theorem dX2_setFeatures_36 : decode cX2_setFeatures 36 = .ok (.getfield 33, 3) := dk_180 0 33 (dk_at dksX2_setFeatures_1 13 rfl rfl)
theorem dX2_setFeatures_39 : decode cX2_setFeatures 39 = .ok (.iload_n 1, 1) := dk_27 (dk_at dksX2_setFeatures_1 16 rfl rfl)
theorem dX2_setFeatures_40 : decode cX2_setFeatures 40 = .ok (.invokevirtual 80, 3) := dk_182 0 80 (dk_at dksX2_setFeatures_1 17 rfl rfl)
theorem dX2_setFeatures_43 : decode cX2_setFeatures 43 = .ok (.checkcast 84, 3) := dk_192 0 84 (dk_at dksX2_setFeatures_1 20 rfl rfl)
theorem dX2_setFeatures_46 : decode cX2_setFeatures 46 = .ok (.iconst 2, 1) := dk_5 (dk_at dksX2_setFeatures_1 23 rfl rfl)
theorem dX2_setFeatures_47 : decode cX2_setFeatures 47 = .ok (.iload_n 2, 1) := dk_28 (dk_at dksX2_setFeatures_2 0 rfl rfl)
theorem dX2_setFeatures_48 : decode cX2_setFeatures 48 = .ok (.iastore, 1) := dk_79 (dk_at dksX2_setFeatures_2 1 rfl rfl)
theorem dX2_setFeatures_49 : decode cX2_setFeatures 49 = .ok (.aload_n 0, 1) := dk_42 (dk_at dksX2_setFeatures_2 2 rfl rfl)
theorem dX2_setFeatures_50 : decode cX2_setFeatures 50 = .ok (.iload_n 1, 1) := dk_27 (dk_at dksX2_setFeatures_2 3 rfl rfl)
theorem dX2_setFeatures_51 : decode cX2_setFeatures 51 = .ok (.invokevirtual 227, 3) := dk_182 0 227 (dk_at dksX2_setFeatures_2 4 rfl rfl)
theorem dX2_setFeatures_54 : decode cX2_setFeatures 54 = .ok (.ireturn, 1) := dk_172 (dk_at dksX2_setFeatures_2 7 rfl rfl)
abbrev cX2_style : ByteArray := prog_18_method_59_code
def yX2_style : MethodName := ⟨RX2, "style", "(I)I"⟩
def dkwX2_style_4 : List UInt8 := [162, 0, 5, 29, 61, 132, 3, 1, 167, 255, 161, 28, 172]
abbrev dktX2_style_4 : List UInt8 := dkwX2_style_4 ++ []
def dkwX2_style_3 : List UInt8 := [192, 0, 84, 5, 46, 42, 180, 0, 57, 28, 182, 0, 80, 192, 0, 110, 182, 0, 220, 184, 0, 223]
abbrev dktX2_style_3 : List UInt8 := dkwX2_style_3 ++ dktX2_style_4
def dkwX2_style_2 : List UInt8 := [21, 4, 16, 12, 163, 0, 45, 28, 2, 159, 0, 38, 21, 4, 42, 180, 0, 33, 27, 182, 0, 80]
abbrev dktX2_style_2 : List UInt8 := dkwX2_style_2 ++ dktX2_style_3
def dkwX2_style_1 : List UInt8 := [192, 0, 84, 5, 46, 42, 180, 0, 57, 29, 182, 0, 80, 192, 0, 110, 182, 0, 220, 184, 0, 223, 54, 4]
abbrev dktX2_style_1 : List UInt8 := dkwX2_style_1 ++ dktX2_style_2
def dkwX2_style_0 : List UInt8 := [2, 61, 3, 62, 29, 42, 180, 0, 57, 182, 0, 72, 162, 0, 90, 42, 180, 0, 33, 27, 182, 0, 80]
abbrev dktX2_style_0 : List UInt8 := dkwX2_style_0 ++ dktX2_style_1
theorem dksX2_style_0 : cX2_style.data.toList.drop 0 = dktX2_style_0 := by decide +kernel
theorem dksX2_style_1 : cX2_style.data.toList.drop 23 = dktX2_style_1 := dk_seg dksX2_style_0 23 rfl rfl
theorem dksX2_style_2 : cX2_style.data.toList.drop 47 = dktX2_style_2 := dk_seg dksX2_style_1 24 rfl rfl
theorem dksX2_style_3 : cX2_style.data.toList.drop 69 = dktX2_style_3 := dk_seg dksX2_style_2 22 rfl rfl
theorem dksX2_style_4 : cX2_style.data.toList.drop 91 = dktX2_style_4 := dk_seg dksX2_style_3 22 rfl rfl
theorem dX2_style_0 : decode cX2_style 0 = .ok (.iconst (-1), 1) := dk_2 (dk_at dksX2_style_0 0 rfl rfl)
theorem dX2_style_1 : decode cX2_style 1 = .ok (.istore_n 2, 1) := dk_61 (dk_at dksX2_style_0 1 rfl rfl)
theorem dX2_style_2 : decode cX2_style 2 = .ok (.iconst 0, 1) := dk_3 (dk_at dksX2_style_0 2 rfl rfl)
theorem dX2_style_3 : decode cX2_style 3 = .ok (.istore_n 3, 1) := dk_62 (dk_at dksX2_style_0 3 rfl rfl)
theorem dX2_style_4 : decode cX2_style 4 = .ok (.iload_n 3, 1) := dk_29 (dk_at dksX2_style_0 4 rfl rfl)
theorem dX2_style_5 : decode cX2_style 5 = .ok (.aload_n 0, 1) := dk_42 (dk_at dksX2_style_0 5 rfl rfl)
theorem dX2_style_6 : decode cX2_style 6 = .ok (.getfield 57, 3) := dk_180 0 57 (dk_at dksX2_style_0 6 rfl rfl)
theorem dX2_style_9 : decode cX2_style 9 = .ok (.invokevirtual 72, 3) := dk_182 0 72 (dk_at dksX2_style_0 9 rfl rfl)
theorem dX2_style_12 : decode cX2_style 12 = .ok (.if_icmp .ge 90, 3) := dk_162 0 90 (dk_at dksX2_style_0 12 rfl rfl)
theorem dX2_style_15 : decode cX2_style 15 = .ok (.aload_n 0, 1) := dk_42 (dk_at dksX2_style_0 15 rfl rfl)
theorem dX2_style_16 : decode cX2_style 16 = .ok (.getfield 33, 3) := dk_180 0 33 (dk_at dksX2_style_0 16 rfl rfl)
theorem dX2_style_19 : decode cX2_style 19 = .ok (.iload_n 1, 1) := dk_27 (dk_at dksX2_style_0 19 rfl rfl)
theorem dX2_style_20 : decode cX2_style 20 = .ok (.invokevirtual 80, 3) := dk_182 0 80 (dk_at dksX2_style_0 20 rfl rfl)
theorem dX2_style_23 : decode cX2_style 23 = .ok (.checkcast 84, 3) := dk_192 0 84 (dk_at dksX2_style_1 0 rfl rfl)
theorem dX2_style_26 : decode cX2_style 26 = .ok (.iconst 2, 1) := dk_5 (dk_at dksX2_style_1 3 rfl rfl)
theorem dX2_style_27 : decode cX2_style 27 = .ok (.iaload, 1) := dk_46 (dk_at dksX2_style_1 4 rfl rfl)
theorem dX2_style_28 : decode cX2_style 28 = .ok (.aload_n 0, 1) := dk_42 (dk_at dksX2_style_1 5 rfl rfl)
theorem dX2_style_29 : decode cX2_style 29 = .ok (.getfield 57, 3) := dk_180 0 57 (dk_at dksX2_style_1 6 rfl rfl)
theorem dX2_style_32 : decode cX2_style 32 = .ok (.iload_n 3, 1) := dk_29 (dk_at dksX2_style_1 9 rfl rfl)
theorem dX2_style_33 : decode cX2_style 33 = .ok (.invokevirtual 80, 3) := dk_182 0 80 (dk_at dksX2_style_1 10 rfl rfl)
theorem dX2_style_36 : decode cX2_style 36 = .ok (.checkcast 110, 3) := dk_192 0 110 (dk_at dksX2_style_1 13 rfl rfl)
theorem dX2_style_39 : decode cX2_style 39 = .ok (.invokevirtual 220, 3) := dk_182 0 220 (dk_at dksX2_style_1 16 rfl rfl)
theorem dX2_style_42 : decode cX2_style 42 = .ok (.invokestatic 223, 3) := dk_184 0 223 (dk_at dksX2_style_1 19 rfl rfl)
theorem dX2_style_45 : decode cX2_style 45 = .ok (.istore 4, 2) := dk_54 4 (dk_at dksX2_style_1 22 rfl rfl)
theorem dX2_style_47 : decode cX2_style 47 = .ok (.iload 4, 2) := dk_21 4 (dk_at dksX2_style_2 0 rfl rfl)
theorem dX2_style_49 : decode cX2_style 49 = .ok (.bipush 12, 2) := dk_16 12 (dk_at dksX2_style_2 2 rfl rfl)
theorem dX2_style_51 : decode cX2_style 51 = .ok (.if_icmp .gt 45, 3) := dk_163 0 45 (dk_at dksX2_style_2 4 rfl rfl)
theorem dX2_style_54 : decode cX2_style 54 = .ok (.iload_n 2, 1) := dk_28 (dk_at dksX2_style_2 7 rfl rfl)
theorem dX2_style_55 : decode cX2_style 55 = .ok (.iconst (-1), 1) := dk_2 (dk_at dksX2_style_2 8 rfl rfl)
theorem dX2_style_56 : decode cX2_style 56 = .ok (.if_icmp .eq 38, 3) := dk_159 0 38 (dk_at dksX2_style_2 9 rfl rfl)
theorem dX2_style_59 : decode cX2_style 59 = .ok (.iload 4, 2) := dk_21 4 (dk_at dksX2_style_2 12 rfl rfl)
theorem dX2_style_61 : decode cX2_style 61 = .ok (.aload_n 0, 1) := dk_42 (dk_at dksX2_style_2 14 rfl rfl)
theorem dX2_style_62 : decode cX2_style 62 = .ok (.getfield 33, 3) := dk_180 0 33 (dk_at dksX2_style_2 15 rfl rfl)
theorem dX2_style_65 : decode cX2_style 65 = .ok (.iload_n 1, 1) := dk_27 (dk_at dksX2_style_2 18 rfl rfl)
theorem dX2_style_66 : decode cX2_style 66 = .ok (.invokevirtual 80, 3) := dk_182 0 80 (dk_at dksX2_style_2 19 rfl rfl)
theorem dX2_style_69 : decode cX2_style 69 = .ok (.checkcast 84, 3) := dk_192 0 84 (dk_at dksX2_style_3 0 rfl rfl)
theorem dX2_style_72 : decode cX2_style 72 = .ok (.iconst 2, 1) := dk_5 (dk_at dksX2_style_3 3 rfl rfl)
theorem dX2_style_73 : decode cX2_style 73 = .ok (.iaload, 1) := dk_46 (dk_at dksX2_style_3 4 rfl rfl)
theorem dX2_style_74 : decode cX2_style 74 = .ok (.aload_n 0, 1) := dk_42 (dk_at dksX2_style_3 5 rfl rfl)
theorem dX2_style_75 : decode cX2_style 75 = .ok (.getfield 57, 3) := dk_180 0 57 (dk_at dksX2_style_3 6 rfl rfl)
theorem dX2_style_78 : decode cX2_style 78 = .ok (.iload_n 2, 1) := dk_28 (dk_at dksX2_style_3 9 rfl rfl)
theorem dX2_style_79 : decode cX2_style 79 = .ok (.invokevirtual 80, 3) := dk_182 0 80 (dk_at dksX2_style_3 10 rfl rfl)
theorem dX2_style_82 : decode cX2_style 82 = .ok (.checkcast 110, 3) := dk_192 0 110 (dk_at dksX2_style_3 13 rfl rfl)
theorem dX2_style_85 : decode cX2_style 85 = .ok (.invokevirtual 220, 3) := dk_182 0 220 (dk_at dksX2_style_3 16 rfl rfl)
theorem dX2_style_88 : decode cX2_style 88 = .ok (.invokestatic 223, 3) := dk_184 0 223 (dk_at dksX2_style_3 19 rfl rfl)
theorem dX2_style_91 : decode cX2_style 91 = .ok (.if_icmp .ge 5, 3) := dk_162 0 5 (dk_at dksX2_style_4 0 rfl rfl)
theorem dX2_style_94 : decode cX2_style 94 = .ok (.iload_n 3, 1) := dk_29 (dk_at dksX2_style_4 3 rfl rfl)
theorem dX2_style_95 : decode cX2_style 95 = .ok (.istore_n 2, 1) := dk_61 (dk_at dksX2_style_4 4 rfl rfl)
theorem dX2_style_96 : decode cX2_style 96 = .ok (.iinc 3 1, 3) := dk_132 3 1 (dk_at dksX2_style_4 5 rfl rfl)
theorem dX2_style_99 : decode cX2_style 99 = .ok (.goto (-95), 3) := dk_167 255 161 (dk_at dksX2_style_4 8 rfl rfl)
theorem dX2_style_102 : decode cX2_style 102 = .ok (.iload_n 2, 1) := dk_28 (dk_at dksX2_style_4 11 rfl rfl)
theorem dX2_style_103 : decode cX2_style 103 = .ok (.ireturn, 1) := dk_172 (dk_at dksX2_style_4 12 rfl rfl)
abbrev cX2_distance : ByteArray := prog_18_method_58_code
def yX2_distance : MethodName := ⟨RX2, "distance", "(II)I"⟩
def dkwX2_distance_2 : List UInt8 := [54, 5, 167, 255, 216, 28, 172]
abbrev dktX2_distance_2 : List UInt8 := dkwX2_distance_2 ++ []
def dkwX2_distance_1 : List UInt8 := [16, 10, 112, 100, 184, 0, 114, 96, 61, 132, 3, 1, 21, 4, 16, 10, 108, 54, 4, 21, 5, 16, 10, 108]
abbrev dktX2_distance_1 : List UInt8 := dkwX2_distance_1 ++ dktX2_distance_2
def dkwX2_distance_0 : List UInt8 := [3, 61, 3, 62, 26, 54, 4, 27, 54, 5, 29, 16, 6, 162, 0, 40, 28, 21, 4, 16, 10, 112, 21, 5]
abbrev dktX2_distance_0 : List UInt8 := dkwX2_distance_0 ++ dktX2_distance_1
theorem dksX2_distance_0 : cX2_distance.data.toList.drop 0 = dktX2_distance_0 := by decide +kernel
theorem dksX2_distance_1 : cX2_distance.data.toList.drop 24 = dktX2_distance_1 := dk_seg dksX2_distance_0 24 rfl rfl
theorem dksX2_distance_2 : cX2_distance.data.toList.drop 48 = dktX2_distance_2 := dk_seg dksX2_distance_1 24 rfl rfl
theorem dX2_distance_0 : decode cX2_distance 0 = .ok (.iconst 0, 1) := dk_3 (dk_at dksX2_distance_0 0 rfl rfl)
theorem dX2_distance_1 : decode cX2_distance 1 = .ok (.istore_n 2, 1) := dk_61 (dk_at dksX2_distance_0 1 rfl rfl)
theorem dX2_distance_2 : decode cX2_distance 2 = .ok (.iconst 0, 1) := dk_3 (dk_at dksX2_distance_0 2 rfl rfl)
theorem dX2_distance_3 : decode cX2_distance 3 = .ok (.istore_n 3, 1) := dk_62 (dk_at dksX2_distance_0 3 rfl rfl)
theorem dX2_distance_4 : decode cX2_distance 4 = .ok (.iload_n 0, 1) := dk_26 (dk_at dksX2_distance_0 4 rfl rfl)
theorem dX2_distance_5 : decode cX2_distance 5 = .ok (.istore 4, 2) := dk_54 4 (dk_at dksX2_distance_0 5 rfl rfl)
theorem dX2_distance_7 : decode cX2_distance 7 = .ok (.iload_n 1, 1) := dk_27 (dk_at dksX2_distance_0 7 rfl rfl)
theorem dX2_distance_8 : decode cX2_distance 8 = .ok (.istore 5, 2) := dk_54 5 (dk_at dksX2_distance_0 8 rfl rfl)
theorem dX2_distance_10 : decode cX2_distance 10 = .ok (.iload_n 3, 1) := dk_29 (dk_at dksX2_distance_0 10 rfl rfl)
theorem dX2_distance_11 : decode cX2_distance 11 = .ok (.bipush 6, 2) := dk_16 6 (dk_at dksX2_distance_0 11 rfl rfl)
theorem dX2_distance_13 : decode cX2_distance 13 = .ok (.if_icmp .ge 40, 3) := dk_162 0 40 (dk_at dksX2_distance_0 13 rfl rfl)
theorem dX2_distance_16 : decode cX2_distance 16 = .ok (.iload_n 2, 1) := dk_28 (dk_at dksX2_distance_0 16 rfl rfl)
theorem dX2_distance_17 : decode cX2_distance 17 = .ok (.iload 4, 2) := dk_21 4 (dk_at dksX2_distance_0 17 rfl rfl)
theorem dX2_distance_19 : decode cX2_distance 19 = .ok (.bipush 10, 2) := dk_16 10 (dk_at dksX2_distance_0 19 rfl rfl)
theorem dX2_distance_21 : decode cX2_distance 21 = .ok (.irem, 1) := dk_112 (dk_at dksX2_distance_0 21 rfl rfl)
theorem dX2_distance_22 : decode cX2_distance 22 = .ok (.iload 5, 2) := dk_21 5 (dk_at dksX2_distance_0 22 rfl rfl)
theorem dX2_distance_24 : decode cX2_distance 24 = .ok (.bipush 10, 2) := dk_16 10 (dk_at dksX2_distance_1 0 rfl rfl)
theorem dX2_distance_26 : decode cX2_distance 26 = .ok (.irem, 1) := dk_112 (dk_at dksX2_distance_1 2 rfl rfl)
theorem dX2_distance_27 : decode cX2_distance 27 = .ok (.isub, 1) := dk_100 (dk_at dksX2_distance_1 3 rfl rfl)
theorem dX2_distance_28 : decode cX2_distance 28 = .ok (.invokestatic 114, 3) := dk_184 0 114 (dk_at dksX2_distance_1 4 rfl rfl)
theorem dX2_distance_31 : decode cX2_distance 31 = .ok (.iadd, 1) := dk_96 (dk_at dksX2_distance_1 7 rfl rfl)
theorem dX2_distance_32 : decode cX2_distance 32 = .ok (.istore_n 2, 1) := dk_61 (dk_at dksX2_distance_1 8 rfl rfl)
theorem dX2_distance_33 : decode cX2_distance 33 = .ok (.iinc 3 1, 3) := dk_132 3 1 (dk_at dksX2_distance_1 9 rfl rfl)
theorem dX2_distance_36 : decode cX2_distance 36 = .ok (.iload 4, 2) := dk_21 4 (dk_at dksX2_distance_1 12 rfl rfl)
theorem dX2_distance_38 : decode cX2_distance 38 = .ok (.bipush 10, 2) := dk_16 10 (dk_at dksX2_distance_1 14 rfl rfl)
theorem dX2_distance_40 : decode cX2_distance 40 = .ok (.idiv, 1) := dk_108 (dk_at dksX2_distance_1 16 rfl rfl)
theorem dX2_distance_41 : decode cX2_distance 41 = .ok (.istore 4, 2) := dk_54 4 (dk_at dksX2_distance_1 17 rfl rfl)
theorem dX2_distance_43 : decode cX2_distance 43 = .ok (.iload 5, 2) := dk_21 5 (dk_at dksX2_distance_1 19 rfl rfl)
theorem dX2_distance_45 : decode cX2_distance 45 = .ok (.bipush 10, 2) := dk_16 10 (dk_at dksX2_distance_1 21 rfl rfl)
theorem dX2_distance_47 : decode cX2_distance 47 = .ok (.idiv, 1) := dk_108 (dk_at dksX2_distance_1 23 rfl rfl)
theorem dX2_distance_48 : decode cX2_distance 48 = .ok (.istore 5, 2) := dk_54 5 (dk_at dksX2_distance_2 0 rfl rfl)
theorem dX2_distance_50 : decode cX2_distance 50 = .ok (.goto (-40), 3) := dk_167 255 216 (dk_at dksX2_distance_2 2 rfl rfl)
theorem dX2_distance_53 : decode cX2_distance 53 = .ok (.iload_n 2, 1) := dk_28 (dk_at dksX2_distance_2 5 rfl rfl)
theorem dX2_distance_54 : decode cX2_distance 54 = .ok (.ireturn, 1) := dk_172 (dk_at dksX2_distance_2 6 rfl rfl)
abbrev cX2_addStyle : ByteArray := prog_18_method_61_code
def yX2_addStyle : MethodName := ⟨RX2, "addStyle", "(I)I"⟩
def dkwX2_addStyle_2 : List UInt8 := [184, 0, 230, 182, 0, 99, 87, 42, 180, 0, 57, 182, 0, 72, 4, 100, 172]
abbrev dktX2_addStyle_2 : List UInt8 := dkwX2_addStyle_2 ++ []
def dkwX2_addStyle_1 : List UInt8 := [180, 0, 57, 182, 0, 72, 16, 8, 160, 0, 9, 42, 5, 182, 0, 95, 172, 42, 180, 0, 57, 27]
abbrev dktX2_addStyle_1 : List UInt8 := dkwX2_addStyle_1 ++ dktX2_addStyle_2
def dkwX2_addStyle_0 : List UInt8 := [42, 3, 181, 0, 69, 27, 3, 18, 226, 184, 0, 76, 154, 0, 9, 42, 4, 182, 0, 95, 172, 42]
abbrev dktX2_addStyle_0 : List UInt8 := dkwX2_addStyle_0 ++ dktX2_addStyle_1
theorem dksX2_addStyle_0 : cX2_addStyle.data.toList.drop 0 = dktX2_addStyle_0 := by decide +kernel
theorem dksX2_addStyle_1 : cX2_addStyle.data.toList.drop 22 = dktX2_addStyle_1 := dk_seg dksX2_addStyle_0 22 rfl rfl
theorem dksX2_addStyle_2 : cX2_addStyle.data.toList.drop 44 = dktX2_addStyle_2 := dk_seg dksX2_addStyle_1 22 rfl rfl
theorem dX2_addStyle_0 : decode cX2_addStyle 0 = .ok (.aload_n 0, 1) := dk_42 (dk_at dksX2_addStyle_0 0 rfl rfl)
theorem dX2_addStyle_1 : decode cX2_addStyle 1 = .ok (.iconst 0, 1) := dk_3 (dk_at dksX2_addStyle_0 1 rfl rfl)
theorem dX2_addStyle_2 : decode cX2_addStyle 2 = .ok (.putfield 69, 3) := dk_181 0 69 (dk_at dksX2_addStyle_0 2 rfl rfl)
theorem dX2_addStyle_5 : decode cX2_addStyle 5 = .ok (.iload_n 1, 1) := dk_27 (dk_at dksX2_addStyle_0 5 rfl rfl)
theorem dX2_addStyle_6 : decode cX2_addStyle 6 = .ok (.iconst 0, 1) := dk_3 (dk_at dksX2_addStyle_0 6 rfl rfl)
theorem dX2_addStyle_7 : decode cX2_addStyle 7 = .ok (.ldc 226, 2) := dk_18 226 (dk_at dksX2_addStyle_0 7 rfl rfl)
theorem dX2_addStyle_9 : decode cX2_addStyle 9 = .ok (.invokestatic 76, 3) := dk_184 0 76 (dk_at dksX2_addStyle_0 9 rfl rfl)
theorem dX2_addStyle_12 : decode cX2_addStyle 12 = .ok (.ifCond .ne 9, 3) := dk_154 0 9 (dk_at dksX2_addStyle_0 12 rfl rfl)
theorem dX2_addStyle_15 : decode cX2_addStyle 15 = .ok (.aload_n 0, 1) := dk_42 (dk_at dksX2_addStyle_0 15 rfl rfl)
theorem dX2_addStyle_16 : decode cX2_addStyle 16 = .ok (.iconst 1, 1) := dk_4 (dk_at dksX2_addStyle_0 16 rfl rfl)
theorem dX2_addStyle_17 : decode cX2_addStyle 17 = .ok (.invokevirtual 95, 3) := dk_182 0 95 (dk_at dksX2_addStyle_0 17 rfl rfl)
theorem dX2_addStyle_20 : decode cX2_addStyle 20 = .ok (.ireturn, 1) := dk_172 (dk_at dksX2_addStyle_0 20 rfl rfl)
theorem dX2_addStyle_21 : decode cX2_addStyle 21 = .ok (.aload_n 0, 1) := dk_42 (dk_at dksX2_addStyle_0 21 rfl rfl)
theorem dX2_addStyle_22 : decode cX2_addStyle 22 = .ok (.getfield 57, 3) := dk_180 0 57 (dk_at dksX2_addStyle_1 0 rfl rfl)
theorem dX2_addStyle_25 : decode cX2_addStyle 25 = .ok (.invokevirtual 72, 3) := dk_182 0 72 (dk_at dksX2_addStyle_1 3 rfl rfl)
theorem dX2_addStyle_28 : decode cX2_addStyle 28 = .ok (.bipush 8, 2) := dk_16 8 (dk_at dksX2_addStyle_1 6 rfl rfl)
theorem dX2_addStyle_30 : decode cX2_addStyle 30 = .ok (.if_icmp .ne 9, 3) := dk_160 0 9 (dk_at dksX2_addStyle_1 8 rfl rfl)
theorem dX2_addStyle_33 : decode cX2_addStyle 33 = .ok (.aload_n 0, 1) := dk_42 (dk_at dksX2_addStyle_1 11 rfl rfl)
theorem dX2_addStyle_34 : decode cX2_addStyle 34 = .ok (.iconst 2, 1) := dk_5 (dk_at dksX2_addStyle_1 12 rfl rfl)
theorem dX2_addStyle_35 : decode cX2_addStyle 35 = .ok (.invokevirtual 95, 3) := dk_182 0 95 (dk_at dksX2_addStyle_1 13 rfl rfl)
theorem dX2_addStyle_38 : decode cX2_addStyle 38 = .ok (.ireturn, 1) := dk_172 (dk_at dksX2_addStyle_1 16 rfl rfl)
theorem dX2_addStyle_39 : decode cX2_addStyle 39 = .ok (.aload_n 0, 1) := dk_42 (dk_at dksX2_addStyle_1 17 rfl rfl)
theorem dX2_addStyle_40 : decode cX2_addStyle 40 = .ok (.getfield 57, 3) := dk_180 0 57 (dk_at dksX2_addStyle_1 18 rfl rfl)
theorem dX2_addStyle_43 : decode cX2_addStyle 43 = .ok (.iload_n 1, 1) := dk_27 (dk_at dksX2_addStyle_1 21 rfl rfl)
theorem dX2_addStyle_44 : decode cX2_addStyle 44 = .ok (.invokestatic 230, 3) := dk_184 0 230 (dk_at dksX2_addStyle_2 0 rfl rfl)
theorem dX2_addStyle_47 : decode cX2_addStyle 47 = .ok (.invokevirtual 99, 3) := dk_182 0 99 (dk_at dksX2_addStyle_2 3 rfl rfl)
theorem dX2_addStyle_50 : decode cX2_addStyle 50 = .ok (.pop, 1) := dk_87 (dk_at dksX2_addStyle_2 6 rfl rfl)
theorem dX2_addStyle_51 : decode cX2_addStyle 51 = .ok (.aload_n 0, 1) := dk_42 (dk_at dksX2_addStyle_2 7 rfl rfl)
theorem dX2_addStyle_52 : decode cX2_addStyle 52 = .ok (.getfield 57, 3) := dk_180 0 57 (dk_at dksX2_addStyle_2 8 rfl rfl)
theorem dX2_addStyle_55 : decode cX2_addStyle 55 = .ok (.invokevirtual 72, 3) := dk_182 0 72 (dk_at dksX2_addStyle_2 11 rfl rfl)
theorem dX2_addStyle_58 : decode cX2_addStyle 58 = .ok (.iconst 1, 1) := dk_4 (dk_at dksX2_addStyle_2 14 rfl rfl)
theorem dX2_addStyle_59 : decode cX2_addStyle 59 = .ok (.isub, 1) := dk_100 (dk_at dksX2_addStyle_2 15 rfl rfl)
theorem dX2_addStyle_60 : decode cX2_addStyle 60 = .ok (.ireturn, 1) := dk_172 (dk_at dksX2_addStyle_2 16 rfl rfl)
abbrev cX2_styleOf : ByteArray := prog_18_method_62_code
def yX2_styleOf : MethodName := ⟨RX2, "styleOf", "(I)I"⟩
def dkwX2_styleOf_1 : List UInt8 := [182, 0, 227, 172]
abbrev dktX2_styleOf_1 : List UInt8 := dkwX2_styleOf_1 ++ []
def dkwX2_styleOf_0 : List UInt8 := [42, 3, 181, 0, 69, 42, 27, 182, 0, 130, 153, 0, 11, 42, 4, 182, 0, 95, 167, 0, 8, 42, 27]
abbrev dktX2_styleOf_0 : List UInt8 := dkwX2_styleOf_0 ++ dktX2_styleOf_1
theorem dksX2_styleOf_0 : cX2_styleOf.data.toList.drop 0 = dktX2_styleOf_0 := by decide +kernel
theorem dksX2_styleOf_1 : cX2_styleOf.data.toList.drop 23 = dktX2_styleOf_1 := dk_seg dksX2_styleOf_0 23 rfl rfl
theorem dX2_styleOf_0 : decode cX2_styleOf 0 = .ok (.aload_n 0, 1) := dk_42 (dk_at dksX2_styleOf_0 0 rfl rfl)
theorem dX2_styleOf_1 : decode cX2_styleOf 1 = .ok (.iconst 0, 1) := dk_3 (dk_at dksX2_styleOf_0 1 rfl rfl)
theorem dX2_styleOf_2 : decode cX2_styleOf 2 = .ok (.putfield 69, 3) := dk_181 0 69 (dk_at dksX2_styleOf_0 2 rfl rfl)
theorem dX2_styleOf_5 : decode cX2_styleOf 5 = .ok (.aload_n 0, 1) := dk_42 (dk_at dksX2_styleOf_0 5 rfl rfl)
theorem dX2_styleOf_6 : decode cX2_styleOf 6 = .ok (.iload_n 1, 1) := dk_27 (dk_at dksX2_styleOf_0 6 rfl rfl)
theorem dX2_styleOf_7 : decode cX2_styleOf 7 = .ok (.invokevirtual 130, 3) := dk_182 0 130 (dk_at dksX2_styleOf_0 7 rfl rfl)
theorem dX2_styleOf_10 : decode cX2_styleOf 10 = .ok (.ifCond .eq 11, 3) := dk_153 0 11 (dk_at dksX2_styleOf_0 10 rfl rfl)
theorem dX2_styleOf_13 : decode cX2_styleOf 13 = .ok (.aload_n 0, 1) := dk_42 (dk_at dksX2_styleOf_0 13 rfl rfl)
theorem dX2_styleOf_14 : decode cX2_styleOf 14 = .ok (.iconst 1, 1) := dk_4 (dk_at dksX2_styleOf_0 14 rfl rfl)
theorem dX2_styleOf_15 : decode cX2_styleOf 15 = .ok (.invokevirtual 95, 3) := dk_182 0 95 (dk_at dksX2_styleOf_0 15 rfl rfl)
theorem dX2_styleOf_18 : decode cX2_styleOf 18 = .ok (.goto 8, 3) := dk_167 0 8 (dk_at dksX2_styleOf_0 18 rfl rfl)
theorem dX2_styleOf_21 : decode cX2_styleOf 21 = .ok (.aload_n 0, 1) := dk_42 (dk_at dksX2_styleOf_0 21 rfl rfl)
theorem dX2_styleOf_22 : decode cX2_styleOf 22 = .ok (.iload_n 1, 1) := dk_27 (dk_at dksX2_styleOf_0 22 rfl rfl)
theorem dX2_styleOf_23 : decode cX2_styleOf 23 = .ok (.invokevirtual 227, 3) := dk_182 0 227 (dk_at dksX2_styleOf_1 0 rfl rfl)
theorem dX2_styleOf_26 : decode cX2_styleOf 26 = .ok (.ireturn, 1) := dk_172 (dk_at dksX2_styleOf_1 3 rfl rfl)
abbrev cX2_addEntry : ByteArray := prog_18_method_63_code
def yX2_addEntry : MethodName := ⟨RX2, "addEntry", "(II)I"⟩
def dkwX2_addEntry_5 : List UInt8 := [89, 3, 27, 79, 89, 4, 28, 79, 182, 0, 99, 87, 42, 180, 0, 60, 182, 0, 72, 4, 100, 172]
abbrev dktX2_addEntry_5 : List UInt8 := dkwX2_addEntry_5 ++ []
def dkwX2_addEntry_4 : List UInt8 := [16, 30, 159, 0, 9, 29, 16, 8, 160, 0, 9, 42, 6, 182, 0, 95, 172, 42, 180, 0, 60, 5, 188, 10]
abbrev dktX2_addEntry_4 : List UInt8 := dkwX2_addEntry_4 ++ dktX2_addEntry_5
def dkwX2_addEntry_3 : List UInt8 := [160, 0, 7, 4, 167, 0, 4, 3, 96, 62, 132, 4, 1, 167, 255, 215, 42, 180, 0, 60, 182, 0, 72]
abbrev dktX2_addEntry_3 : List UInt8 := dkwX2_addEntry_3 ++ dktX2_addEntry_4
def dkwX2_addEntry_2 : List UInt8 := [182, 0, 72, 162, 0, 35, 29, 42, 180, 0, 60, 21, 4, 182, 0, 80, 192, 0, 84, 3, 46, 27]
abbrev dktX2_addEntry_2 : List UInt8 := dkwX2_addEntry_2 ++ dktX2_addEntry_3
def dkwX2_addEntry_1 : List UInt8 := [184, 0, 76, 154, 0, 9, 42, 5, 182, 0, 95, 172, 3, 62, 3, 54, 4, 21, 4, 42, 180, 0, 60]
abbrev dktX2_addEntry_1 : List UInt8 := dkwX2_addEntry_1 ++ dktX2_addEntry_2
def dkwX2_addEntry_0 : List UInt8 := [42, 3, 181, 0, 69, 42, 27, 182, 0, 103, 153, 0, 9, 42, 4, 182, 0, 95, 172, 28, 3, 18, 226]
abbrev dktX2_addEntry_0 : List UInt8 := dkwX2_addEntry_0 ++ dktX2_addEntry_1
theorem dksX2_addEntry_0 : cX2_addEntry.data.toList.drop 0 = dktX2_addEntry_0 := by decide +kernel
theorem dksX2_addEntry_1 : cX2_addEntry.data.toList.drop 23 = dktX2_addEntry_1 := dk_seg dksX2_addEntry_0 23 rfl rfl
theorem dksX2_addEntry_2 : cX2_addEntry.data.toList.drop 46 = dktX2_addEntry_2 := dk_seg dksX2_addEntry_1 23 rfl rfl
theorem dksX2_addEntry_3 : cX2_addEntry.data.toList.drop 68 = dktX2_addEntry_3 := dk_seg dksX2_addEntry_2 22 rfl rfl
theorem dksX2_addEntry_4 : cX2_addEntry.data.toList.drop 91 = dktX2_addEntry_4 := dk_seg dksX2_addEntry_3 23 rfl rfl
theorem dksX2_addEntry_5 : cX2_addEntry.data.toList.drop 115 = dktX2_addEntry_5 := dk_seg dksX2_addEntry_4 24 rfl rfl
theorem dX2_addEntry_0 : decode cX2_addEntry 0 = .ok (.aload_n 0, 1) := dk_42 (dk_at dksX2_addEntry_0 0 rfl rfl)
theorem dX2_addEntry_1 : decode cX2_addEntry 1 = .ok (.iconst 0, 1) := dk_3 (dk_at dksX2_addEntry_0 1 rfl rfl)
theorem dX2_addEntry_2 : decode cX2_addEntry 2 = .ok (.putfield 69, 3) := dk_181 0 69 (dk_at dksX2_addEntry_0 2 rfl rfl)
theorem dX2_addEntry_5 : decode cX2_addEntry 5 = .ok (.aload_n 0, 1) := dk_42 (dk_at dksX2_addEntry_0 5 rfl rfl)
theorem dX2_addEntry_6 : decode cX2_addEntry 6 = .ok (.iload_n 1, 1) := dk_27 (dk_at dksX2_addEntry_0 6 rfl rfl)
theorem dX2_addEntry_7 : decode cX2_addEntry 7 = .ok (.invokevirtual 103, 3) := dk_182 0 103 (dk_at dksX2_addEntry_0 7 rfl rfl)
theorem dX2_addEntry_10 : decode cX2_addEntry 10 = .ok (.ifCond .eq 9, 3) := dk_153 0 9 (dk_at dksX2_addEntry_0 10 rfl rfl)
theorem dX2_addEntry_13 : decode cX2_addEntry 13 = .ok (.aload_n 0, 1) := dk_42 (dk_at dksX2_addEntry_0 13 rfl rfl)
theorem dX2_addEntry_14 : decode cX2_addEntry 14 = .ok (.iconst 1, 1) := dk_4 (dk_at dksX2_addEntry_0 14 rfl rfl)
theorem dX2_addEntry_15 : decode cX2_addEntry 15 = .ok (.invokevirtual 95, 3) := dk_182 0 95 (dk_at dksX2_addEntry_0 15 rfl rfl)
theorem dX2_addEntry_18 : decode cX2_addEntry 18 = .ok (.ireturn, 1) := dk_172 (dk_at dksX2_addEntry_0 18 rfl rfl)
theorem dX2_addEntry_19 : decode cX2_addEntry 19 = .ok (.iload_n 2, 1) := dk_28 (dk_at dksX2_addEntry_0 19 rfl rfl)
theorem dX2_addEntry_20 : decode cX2_addEntry 20 = .ok (.iconst 0, 1) := dk_3 (dk_at dksX2_addEntry_0 20 rfl rfl)
theorem dX2_addEntry_21 : decode cX2_addEntry 21 = .ok (.ldc 226, 2) := dk_18 226 (dk_at dksX2_addEntry_0 21 rfl rfl)
theorem dX2_addEntry_23 : decode cX2_addEntry 23 = .ok (.invokestatic 76, 3) := dk_184 0 76 (dk_at dksX2_addEntry_1 0 rfl rfl)
theorem dX2_addEntry_26 : decode cX2_addEntry 26 = .ok (.ifCond .ne 9, 3) := dk_154 0 9 (dk_at dksX2_addEntry_1 3 rfl rfl)
theorem dX2_addEntry_29 : decode cX2_addEntry 29 = .ok (.aload_n 0, 1) := dk_42 (dk_at dksX2_addEntry_1 6 rfl rfl)
theorem dX2_addEntry_30 : decode cX2_addEntry 30 = .ok (.iconst 2, 1) := dk_5 (dk_at dksX2_addEntry_1 7 rfl rfl)
theorem dX2_addEntry_31 : decode cX2_addEntry 31 = .ok (.invokevirtual 95, 3) := dk_182 0 95 (dk_at dksX2_addEntry_1 8 rfl rfl)
theorem dX2_addEntry_34 : decode cX2_addEntry 34 = .ok (.ireturn, 1) := dk_172 (dk_at dksX2_addEntry_1 11 rfl rfl)
theorem dX2_addEntry_35 : decode cX2_addEntry 35 = .ok (.iconst 0, 1) := dk_3 (dk_at dksX2_addEntry_1 12 rfl rfl)
theorem dX2_addEntry_36 : decode cX2_addEntry 36 = .ok (.istore_n 3, 1) := dk_62 (dk_at dksX2_addEntry_1 13 rfl rfl)
theorem dX2_addEntry_37 : decode cX2_addEntry 37 = .ok (.iconst 0, 1) := dk_3 (dk_at dksX2_addEntry_1 14 rfl rfl)
theorem dX2_addEntry_38 : decode cX2_addEntry 38 = .ok (.istore 4, 2) := dk_54 4 (dk_at dksX2_addEntry_1 15 rfl rfl)
theorem dX2_addEntry_40 : decode cX2_addEntry 40 = .ok (.iload 4, 2) := dk_21 4 (dk_at dksX2_addEntry_1 17 rfl rfl)
theorem dX2_addEntry_42 : decode cX2_addEntry 42 = .ok (.aload_n 0, 1) := dk_42 (dk_at dksX2_addEntry_1 19 rfl rfl)
theorem dX2_addEntry_43 : decode cX2_addEntry 43 = .ok (.getfield 60, 3) := dk_180 0 60 (dk_at dksX2_addEntry_1 20 rfl rfl)
theorem dX2_addEntry_46 : decode cX2_addEntry 46 = .ok (.invokevirtual 72, 3) := dk_182 0 72 (dk_at dksX2_addEntry_2 0 rfl rfl)
theorem dX2_addEntry_49 : decode cX2_addEntry 49 = .ok (.if_icmp .ge 35, 3) := dk_162 0 35 (dk_at dksX2_addEntry_2 3 rfl rfl)
theorem dX2_addEntry_52 : decode cX2_addEntry 52 = .ok (.iload_n 3, 1) := dk_29 (dk_at dksX2_addEntry_2 6 rfl rfl)
theorem dX2_addEntry_53 : decode cX2_addEntry 53 = .ok (.aload_n 0, 1) := dk_42 (dk_at dksX2_addEntry_2 7 rfl rfl)
theorem dX2_addEntry_54 : decode cX2_addEntry 54 = .ok (.getfield 60, 3) := dk_180 0 60 (dk_at dksX2_addEntry_2 8 rfl rfl)
theorem dX2_addEntry_57 : decode cX2_addEntry 57 = .ok (.iload 4, 2) := dk_21 4 (dk_at dksX2_addEntry_2 11 rfl rfl)
theorem dX2_addEntry_59 : decode cX2_addEntry 59 = .ok (.invokevirtual 80, 3) := dk_182 0 80 (dk_at dksX2_addEntry_2 13 rfl rfl)
theorem dX2_addEntry_62 : decode cX2_addEntry 62 = .ok (.checkcast 84, 3) := dk_192 0 84 (dk_at dksX2_addEntry_2 16 rfl rfl)
theorem dX2_addEntry_65 : decode cX2_addEntry 65 = .ok (.iconst 0, 1) := dk_3 (dk_at dksX2_addEntry_2 19 rfl rfl)
theorem dX2_addEntry_66 : decode cX2_addEntry 66 = .ok (.iaload, 1) := dk_46 (dk_at dksX2_addEntry_2 20 rfl rfl)
theorem dX2_addEntry_67 : decode cX2_addEntry 67 = .ok (.iload_n 1, 1) := dk_27 (dk_at dksX2_addEntry_2 21 rfl rfl)
theorem dX2_addEntry_68 : decode cX2_addEntry 68 = .ok (.if_icmp .ne 7, 3) := dk_160 0 7 (dk_at dksX2_addEntry_3 0 rfl rfl)
theorem dX2_addEntry_71 : decode cX2_addEntry 71 = .ok (.iconst 1, 1) := dk_4 (dk_at dksX2_addEntry_3 3 rfl rfl)
theorem dX2_addEntry_72 : decode cX2_addEntry 72 = .ok (.goto 4, 3) := dk_167 0 4 (dk_at dksX2_addEntry_3 4 rfl rfl)
theorem dX2_addEntry_75 : decode cX2_addEntry 75 = .ok (.iconst 0, 1) := dk_3 (dk_at dksX2_addEntry_3 7 rfl rfl)
theorem dX2_addEntry_76 : decode cX2_addEntry 76 = .ok (.iadd, 1) := dk_96 (dk_at dksX2_addEntry_3 8 rfl rfl)
theorem dX2_addEntry_77 : decode cX2_addEntry 77 = .ok (.istore_n 3, 1) := dk_62 (dk_at dksX2_addEntry_3 9 rfl rfl)
theorem dX2_addEntry_78 : decode cX2_addEntry 78 = .ok (.iinc 4 1, 3) := dk_132 4 1 (dk_at dksX2_addEntry_3 10 rfl rfl)
theorem dX2_addEntry_81 : decode cX2_addEntry 81 = .ok (.goto (-41), 3) := dk_167 255 215 (dk_at dksX2_addEntry_3 13 rfl rfl)
theorem dX2_addEntry_84 : decode cX2_addEntry 84 = .ok (.aload_n 0, 1) := dk_42 (dk_at dksX2_addEntry_3 16 rfl rfl)
theorem dX2_addEntry_85 : decode cX2_addEntry 85 = .ok (.getfield 60, 3) := dk_180 0 60 (dk_at dksX2_addEntry_3 17 rfl rfl)
theorem dX2_addEntry_88 : decode cX2_addEntry 88 = .ok (.invokevirtual 72, 3) := dk_182 0 72 (dk_at dksX2_addEntry_3 20 rfl rfl)
theorem dX2_addEntry_91 : decode cX2_addEntry 91 = .ok (.bipush 30, 2) := dk_16 30 (dk_at dksX2_addEntry_4 0 rfl rfl)
theorem dX2_addEntry_93 : decode cX2_addEntry 93 = .ok (.if_icmp .eq 9, 3) := dk_159 0 9 (dk_at dksX2_addEntry_4 2 rfl rfl)
theorem dX2_addEntry_96 : decode cX2_addEntry 96 = .ok (.iload_n 3, 1) := dk_29 (dk_at dksX2_addEntry_4 5 rfl rfl)
theorem dX2_addEntry_97 : decode cX2_addEntry 97 = .ok (.bipush 8, 2) := dk_16 8 (dk_at dksX2_addEntry_4 6 rfl rfl)
theorem dX2_addEntry_99 : decode cX2_addEntry 99 = .ok (.if_icmp .ne 9, 3) := dk_160 0 9 (dk_at dksX2_addEntry_4 8 rfl rfl)
theorem dX2_addEntry_102 : decode cX2_addEntry 102 = .ok (.aload_n 0, 1) := dk_42 (dk_at dksX2_addEntry_4 11 rfl rfl)
theorem dX2_addEntry_103 : decode cX2_addEntry 103 = .ok (.iconst 3, 1) := dk_6 (dk_at dksX2_addEntry_4 12 rfl rfl)
theorem dX2_addEntry_104 : decode cX2_addEntry 104 = .ok (.invokevirtual 95, 3) := dk_182 0 95 (dk_at dksX2_addEntry_4 13 rfl rfl)
theorem dX2_addEntry_107 : decode cX2_addEntry 107 = .ok (.ireturn, 1) := dk_172 (dk_at dksX2_addEntry_4 16 rfl rfl)
theorem dX2_addEntry_108 : decode cX2_addEntry 108 = .ok (.aload_n 0, 1) := dk_42 (dk_at dksX2_addEntry_4 17 rfl rfl)
theorem dX2_addEntry_109 : decode cX2_addEntry 109 = .ok (.getfield 60, 3) := dk_180 0 60 (dk_at dksX2_addEntry_4 18 rfl rfl)
theorem dX2_addEntry_112 : decode cX2_addEntry 112 = .ok (.iconst 2, 1) := dk_5 (dk_at dksX2_addEntry_4 21 rfl rfl)
theorem dX2_addEntry_113 : decode cX2_addEntry 113 = .ok (.newarray .int, 2) := dk_188_10 (dk_at dksX2_addEntry_4 22 rfl rfl)
theorem dX2_addEntry_115 : decode cX2_addEntry 115 = .ok (.dup, 1) := dk_89 (dk_at dksX2_addEntry_5 0 rfl rfl)
theorem dX2_addEntry_116 : decode cX2_addEntry 116 = .ok (.iconst 0, 1) := dk_3 (dk_at dksX2_addEntry_5 1 rfl rfl)
theorem dX2_addEntry_117 : decode cX2_addEntry 117 = .ok (.iload_n 1, 1) := dk_27 (dk_at dksX2_addEntry_5 2 rfl rfl)
theorem dX2_addEntry_118 : decode cX2_addEntry 118 = .ok (.iastore, 1) := dk_79 (dk_at dksX2_addEntry_5 3 rfl rfl)
theorem dX2_addEntry_119 : decode cX2_addEntry 119 = .ok (.dup, 1) := dk_89 (dk_at dksX2_addEntry_5 4 rfl rfl)
theorem dX2_addEntry_120 : decode cX2_addEntry 120 = .ok (.iconst 1, 1) := dk_4 (dk_at dksX2_addEntry_5 5 rfl rfl)
theorem dX2_addEntry_121 : decode cX2_addEntry 121 = .ok (.iload_n 2, 1) := dk_28 (dk_at dksX2_addEntry_5 6 rfl rfl)
theorem dX2_addEntry_122 : decode cX2_addEntry 122 = .ok (.iastore, 1) := dk_79 (dk_at dksX2_addEntry_5 7 rfl rfl)
theorem dX2_addEntry_123 : decode cX2_addEntry 123 = .ok (.invokevirtual 99, 3) := dk_182 0 99 (dk_at dksX2_addEntry_5 8 rfl rfl)
theorem dX2_addEntry_126 : decode cX2_addEntry 126 = .ok (.pop, 1) := dk_87 (dk_at dksX2_addEntry_5 11 rfl rfl)
theorem dX2_addEntry_127 : decode cX2_addEntry 127 = .ok (.aload_n 0, 1) := dk_42 (dk_at dksX2_addEntry_5 12 rfl rfl)
theorem dX2_addEntry_128 : decode cX2_addEntry 128 = .ok (.getfield 60, 3) := dk_180 0 60 (dk_at dksX2_addEntry_5 13 rfl rfl)
theorem dX2_addEntry_131 : decode cX2_addEntry 131 = .ok (.invokevirtual 72, 3) := dk_182 0 72 (dk_at dksX2_addEntry_5 16 rfl rfl)
theorem dX2_addEntry_134 : decode cX2_addEntry 134 = .ok (.iconst 1, 1) := dk_4 (dk_at dksX2_addEntry_5 19 rfl rfl)
theorem dX2_addEntry_135 : decode cX2_addEntry 135 = .ok (.isub, 1) := dk_100 (dk_at dksX2_addEntry_5 20 rfl rfl)
theorem dX2_addEntry_136 : decode cX2_addEntry 136 = .ok (.ireturn, 1) := dk_172 (dk_at dksX2_addEntry_5 21 rfl rfl)
abbrev cX2_figureFor : ByteArray := prog_18_method_64_code
def yX2_figureFor : MethodName := ⟨RX2, "figureFor", "(I)I"⟩
def dkwX2_figureFor_21 : List UInt8 := [167, 255, 114, 2, 172]
abbrev dktX2_figureFor_21 : List UInt8 := dkwX2_figureFor_21 ++ []
def dkwX2_figureFor_20 : List UInt8 := [167, 0, 4, 2, 172, 21, 12, 21, 4, 162, 0, 12, 21, 10, 4, 21, 12, 120, 128, 54, 10, 132, 11, 1]
abbrev dktX2_figureFor_20 : List UInt8 := dkwX2_figureFor_20 ++ dktX2_figureFor_21
def dkwX2_figureFor_19 : List UInt8 := [167, 255, 171, 25, 5, 21, 11, 46, 27, 160, 0, 20, 21, 12, 21, 4, 162, 0, 11, 25, 6, 21, 12, 46]
abbrev dktX2_figureFor_19 : List UInt8 := dkwX2_figureFor_19 ++ dktX2_figureFor_20
def dkwX2_figureFor_18 : List UInt8 := [21, 10, 4, 21, 12, 120, 128, 46, 96, 25, 9, 21, 11, 50, 21, 10, 46, 159, 0, 9, 132, 12, 1]
abbrev dktX2_figureFor_18 : List UInt8 := dkwX2_figureFor_18 ++ dktX2_figureFor_19
def dkwX2_figureFor_17 : List UInt8 := [25, 6, 21, 12, 46, 182, 0, 80, 192, 0, 84, 5, 46, 184, 0, 223, 25, 9, 21, 11, 4, 96, 50]
abbrev dktX2_figureFor_17 : List UInt8 := dkwX2_figureFor_17 ++ dktX2_figureFor_18
def dkwX2_figureFor_16 : List UInt8 := [159, 0, 67, 42, 180, 0, 60, 25, 5, 21, 11, 46, 182, 0, 80, 192, 0, 84, 4, 46, 42, 180, 0, 33]
abbrev dktX2_figureFor_16 : List UInt8 := dkwX2_figureFor_16 ++ dktX2_figureFor_17
def dkwX2_figureFor_15 : List UInt8 := [21, 11, 29, 162, 0, 142, 3, 54, 12, 21, 12, 21, 4, 162, 0, 84, 21, 10, 21, 12, 122, 4, 126, 4]
abbrev dktX2_figureFor_15 : List UInt8 := dkwX2_figureFor_15 ++ dktX2_figureFor_16
def dkwX2_figureFor_14 : List UInt8 := [21, 12, 184, 0, 164, 79, 132, 11, 1, 167, 255, 113, 132, 10, 255, 167, 255, 99, 3, 54, 10, 3, 54, 11]
abbrev dktX2_figureFor_14 : List UInt8 := dkwX2_figureFor_14 ++ dktX2_figureFor_15
def dkwX2_figureFor_13 : List UInt8 := [120, 128, 46, 96, 184, 0, 164, 54, 12, 132, 13, 1, 167, 255, 176, 25, 9, 21, 10, 50, 21, 11, 21, 8]
abbrev dktX2_figureFor_13 : List UInt8 := dkwX2_figureFor_13 ++ dktX2_figureFor_14
def dkwX2_figureFor_12 : List UInt8 := [46, 182, 0, 80, 192, 0, 84, 5, 46, 184, 0, 223, 25, 9, 21, 10, 4, 96, 50, 21, 11, 4, 21, 13]
abbrev dktX2_figureFor_12 : List UInt8 := dkwX2_figureFor_12 ++ dktX2_figureFor_13
def dkwX2_figureFor_11 : List UInt8 := [180, 0, 60, 25, 5, 21, 10, 46, 182, 0, 80, 192, 0, 84, 4, 46, 42, 180, 0, 33, 25, 6, 21, 13]
abbrev dktX2_figureFor_11 : List UInt8 := dkwX2_figureFor_11 ++ dktX2_figureFor_12
def dkwX2_figureFor_10 : List UInt8 := [54, 13, 21, 13, 21, 4, 162, 0, 79, 21, 11, 21, 13, 122, 4, 126, 154, 0, 63, 21, 12, 42]
abbrev dktX2_figureFor_10 : List UInt8 := dkwX2_figureFor_10 ++ dktX2_figureFor_11
def dkwX2_figureFor_9 : List UInt8 := [100, 21, 7, 162, 0, 16, 25, 9, 21, 10, 4, 96, 50, 21, 11, 46, 167, 0, 5, 21, 8, 54, 12, 3]
abbrev dktX2_figureFor_9 : List UInt8 := dkwX2_figureFor_9 ++ dktX2_figureFor_10
def dkwX2_figureFor_8 : List UInt8 := [21, 10, 155, 0, 158, 3, 54, 11, 21, 11, 4, 21, 4, 120, 162, 0, 140, 21, 10, 21, 11, 184, 0, 109]
abbrev dktX2_figureFor_8 : List UInt8 := dkwX2_figureFor_8 ++ dktX2_figureFor_9
def dkwX2_figureFor_7 : List UInt8 := [54, 7, 18, 237, 54, 8, 29, 4, 96, 4, 21, 4, 120, 197, 0, 238, 2, 58, 9, 29, 4, 100, 54, 10]
abbrev dktX2_figureFor_7 : List UInt8 := dkwX2_figureFor_7 ++ dktX2_figureFor_8
def dkwX2_figureFor_6 : List UInt8 := [25, 6, 21, 4, 132, 4, 1, 21, 7, 79, 132, 7, 1, 167, 255, 210, 3, 29, 21, 4, 100, 184, 0, 234]
abbrev dktX2_figureFor_6 : List UInt8 := dkwX2_figureFor_6 ++ dktX2_figureFor_7
def dkwX2_figureFor_5 : List UInt8 := [162, 0, 40, 42, 21, 7, 182, 0, 127, 28, 160, 0, 24, 42, 21, 7, 182, 0, 161, 16, 10, 162, 0, 13]
abbrev dktX2_figureFor_5 : List UInt8 := dkwX2_figureFor_5 ++ dktX2_figureFor_6
def dkwX2_figureFor_4 : List UInt8 := [132, 3, 1, 21, 7, 79, 132, 7, 1, 167, 255, 214, 3, 54, 7, 21, 7, 42, 180, 0, 33, 182, 0, 72]
abbrev dktX2_figureFor_4 : List UInt8 := dkwX2_figureFor_4 ++ dktX2_figureFor_5
def dkwX2_figureFor_3 : List UInt8 := [162, 0, 36, 42, 180, 0, 60, 21, 7, 182, 0, 80, 192, 0, 84, 3, 46, 28, 160, 0, 12, 25, 5, 29]
abbrev dktX2_figureFor_3 : List UInt8 := dkwX2_figureFor_3 ++ dktX2_figureFor_4
def dkwX2_figureFor_2 : List UInt8 := [16, 8, 188, 10, 58, 5, 16, 8, 188, 10, 58, 6, 3, 54, 7, 21, 7, 42, 180, 0, 60, 182, 0, 72]
abbrev dktX2_figureFor_2 : List UInt8 := dkwX2_figureFor_2 ++ dktX2_figureFor_3
def dkwX2_figureFor_1 : List UInt8 := [182, 0, 95, 172, 42, 180, 0, 60, 27, 182, 0, 80, 192, 0, 84, 3, 46, 61, 3, 62, 3, 54, 4]
abbrev dktX2_figureFor_1 : List UInt8 := dkwX2_figureFor_1 ++ dktX2_figureFor_2
def dkwX2_figureFor_0 : List UInt8 := [42, 3, 181, 0, 69, 27, 3, 42, 180, 0, 60, 182, 0, 72, 4, 100, 184, 0, 76, 154, 0, 9, 42, 4]
abbrev dktX2_figureFor_0 : List UInt8 := dkwX2_figureFor_0 ++ dktX2_figureFor_1
theorem dksX2_figureFor_0 : cX2_figureFor.data.toList.drop 0 = dktX2_figureFor_0 := by decide +kernel
theorem dksX2_figureFor_1 : cX2_figureFor.data.toList.drop 24 = dktX2_figureFor_1 := dk_seg dksX2_figureFor_0 24 rfl rfl
theorem dksX2_figureFor_2 : cX2_figureFor.data.toList.drop 47 = dktX2_figureFor_2 := dk_seg dksX2_figureFor_1 23 rfl rfl
theorem dksX2_figureFor_3 : cX2_figureFor.data.toList.drop 71 = dktX2_figureFor_3 := dk_seg dksX2_figureFor_2 24 rfl rfl
theorem dksX2_figureFor_4 : cX2_figureFor.data.toList.drop 95 = dktX2_figureFor_4 := dk_seg dksX2_figureFor_3 24 rfl rfl
theorem dksX2_figureFor_5 : cX2_figureFor.data.toList.drop 119 = dktX2_figureFor_5 := dk_seg dksX2_figureFor_4 24 rfl rfl
theorem dksX2_figureFor_6 : cX2_figureFor.data.toList.drop 143 = dktX2_figureFor_6 := dk_seg dksX2_figureFor_5 24 rfl rfl
theorem dksX2_figureFor_7 : cX2_figureFor.data.toList.drop 167 = dktX2_figureFor_7 := dk_seg dksX2_figureFor_6 24 rfl rfl
theorem dksX2_figureFor_8 : cX2_figureFor.data.toList.drop 191 = dktX2_figureFor_8 := dk_seg dksX2_figureFor_7 24 rfl rfl
theorem dksX2_figureFor_9 : cX2_figureFor.data.toList.drop 215 = dktX2_figureFor_9 := dk_seg dksX2_figureFor_8 24 rfl rfl
theorem dksX2_figureFor_10 : cX2_figureFor.data.toList.drop 239 = dktX2_figureFor_10 := dk_seg dksX2_figureFor_9 24 rfl rfl
theorem dksX2_figureFor_11 : cX2_figureFor.data.toList.drop 261 = dktX2_figureFor_11 := dk_seg dksX2_figureFor_10 22 rfl rfl
theorem dksX2_figureFor_12 : cX2_figureFor.data.toList.drop 285 = dktX2_figureFor_12 := dk_seg dksX2_figureFor_11 24 rfl rfl
theorem dksX2_figureFor_13 : cX2_figureFor.data.toList.drop 309 = dktX2_figureFor_13 := dk_seg dksX2_figureFor_12 24 rfl rfl
theorem dksX2_figureFor_14 : cX2_figureFor.data.toList.drop 333 = dktX2_figureFor_14 := dk_seg dksX2_figureFor_13 24 rfl rfl
theorem dksX2_figureFor_15 : cX2_figureFor.data.toList.drop 357 = dktX2_figureFor_15 := dk_seg dksX2_figureFor_14 24 rfl rfl
theorem dksX2_figureFor_16 : cX2_figureFor.data.toList.drop 381 = dktX2_figureFor_16 := dk_seg dksX2_figureFor_15 24 rfl rfl
theorem dksX2_figureFor_17 : cX2_figureFor.data.toList.drop 405 = dktX2_figureFor_17 := dk_seg dksX2_figureFor_16 24 rfl rfl
theorem dksX2_figureFor_18 : cX2_figureFor.data.toList.drop 428 = dktX2_figureFor_18 := dk_seg dksX2_figureFor_17 23 rfl rfl
theorem dksX2_figureFor_19 : cX2_figureFor.data.toList.drop 451 = dktX2_figureFor_19 := dk_seg dksX2_figureFor_18 23 rfl rfl
theorem dksX2_figureFor_20 : cX2_figureFor.data.toList.drop 475 = dktX2_figureFor_20 := dk_seg dksX2_figureFor_19 24 rfl rfl
theorem dksX2_figureFor_21 : cX2_figureFor.data.toList.drop 499 = dktX2_figureFor_21 := dk_seg dksX2_figureFor_20 24 rfl rfl
theorem dX2_figureFor_0 : decode cX2_figureFor 0 = .ok (.aload_n 0, 1) := dk_42 (dk_at dksX2_figureFor_0 0 rfl rfl)
theorem dX2_figureFor_1 : decode cX2_figureFor 1 = .ok (.iconst 0, 1) := dk_3 (dk_at dksX2_figureFor_0 1 rfl rfl)
theorem dX2_figureFor_2 : decode cX2_figureFor 2 = .ok (.putfield 69, 3) := dk_181 0 69 (dk_at dksX2_figureFor_0 2 rfl rfl)
theorem dX2_figureFor_5 : decode cX2_figureFor 5 = .ok (.iload_n 1, 1) := dk_27 (dk_at dksX2_figureFor_0 5 rfl rfl)
theorem dX2_figureFor_6 : decode cX2_figureFor 6 = .ok (.iconst 0, 1) := dk_3 (dk_at dksX2_figureFor_0 6 rfl rfl)
theorem dX2_figureFor_7 : decode cX2_figureFor 7 = .ok (.aload_n 0, 1) := dk_42 (dk_at dksX2_figureFor_0 7 rfl rfl)
theorem dX2_figureFor_8 : decode cX2_figureFor 8 = .ok (.getfield 60, 3) := dk_180 0 60 (dk_at dksX2_figureFor_0 8 rfl rfl)
theorem dX2_figureFor_11 : decode cX2_figureFor 11 = .ok (.invokevirtual 72, 3) := dk_182 0 72 (dk_at dksX2_figureFor_0 11 rfl rfl)
theorem dX2_figureFor_14 : decode cX2_figureFor 14 = .ok (.iconst 1, 1) := dk_4 (dk_at dksX2_figureFor_0 14 rfl rfl)
theorem dX2_figureFor_15 : decode cX2_figureFor 15 = .ok (.isub, 1) := dk_100 (dk_at dksX2_figureFor_0 15 rfl rfl)
theorem dX2_figureFor_16 : decode cX2_figureFor 16 = .ok (.invokestatic 76, 3) := dk_184 0 76 (dk_at dksX2_figureFor_0 16 rfl rfl)
theorem dX2_figureFor_19 : decode cX2_figureFor 19 = .ok (.ifCond .ne 9, 3) := dk_154 0 9 (dk_at dksX2_figureFor_0 19 rfl rfl)
theorem dX2_figureFor_22 : decode cX2_figureFor 22 = .ok (.aload_n 0, 1) := dk_42 (dk_at dksX2_figureFor_0 22 rfl rfl)
theorem dX2_figureFor_23 : decode cX2_figureFor 23 = .ok (.iconst 1, 1) := dk_4 (dk_at dksX2_figureFor_0 23 rfl rfl)
theorem dX2_figureFor_24 : decode cX2_figureFor 24 = .ok (.invokevirtual 95, 3) := dk_182 0 95 (dk_at dksX2_figureFor_1 0 rfl rfl)
theorem dX2_figureFor_27 : decode cX2_figureFor 27 = .ok (.ireturn, 1) := dk_172 (dk_at dksX2_figureFor_1 3 rfl rfl)
theorem dX2_figureFor_28 : decode cX2_figureFor 28 = .ok (.aload_n 0, 1) := dk_42 (dk_at dksX2_figureFor_1 4 rfl rfl)
theorem dX2_figureFor_29 : decode cX2_figureFor 29 = .ok (.getfield 60, 3) := dk_180 0 60 (dk_at dksX2_figureFor_1 5 rfl rfl)
theorem dX2_figureFor_32 : decode cX2_figureFor 32 = .ok (.iload_n 1, 1) := dk_27 (dk_at dksX2_figureFor_1 8 rfl rfl)
theorem dX2_figureFor_33 : decode cX2_figureFor 33 = .ok (.invokevirtual 80, 3) := dk_182 0 80 (dk_at dksX2_figureFor_1 9 rfl rfl)
theorem dX2_figureFor_36 : decode cX2_figureFor 36 = .ok (.checkcast 84, 3) := dk_192 0 84 (dk_at dksX2_figureFor_1 12 rfl rfl)
theorem dX2_figureFor_39 : decode cX2_figureFor 39 = .ok (.iconst 0, 1) := dk_3 (dk_at dksX2_figureFor_1 15 rfl rfl)
theorem dX2_figureFor_40 : decode cX2_figureFor 40 = .ok (.iaload, 1) := dk_46 (dk_at dksX2_figureFor_1 16 rfl rfl)
theorem dX2_figureFor_41 : decode cX2_figureFor 41 = .ok (.istore_n 2, 1) := dk_61 (dk_at dksX2_figureFor_1 17 rfl rfl)
theorem dX2_figureFor_42 : decode cX2_figureFor 42 = .ok (.iconst 0, 1) := dk_3 (dk_at dksX2_figureFor_1 18 rfl rfl)
theorem dX2_figureFor_43 : decode cX2_figureFor 43 = .ok (.istore_n 3, 1) := dk_62 (dk_at dksX2_figureFor_1 19 rfl rfl)
theorem dX2_figureFor_44 : decode cX2_figureFor 44 = .ok (.iconst 0, 1) := dk_3 (dk_at dksX2_figureFor_1 20 rfl rfl)
theorem dX2_figureFor_45 : decode cX2_figureFor 45 = .ok (.istore 4, 2) := dk_54 4 (dk_at dksX2_figureFor_1 21 rfl rfl)
theorem dX2_figureFor_47 : decode cX2_figureFor 47 = .ok (.bipush 8, 2) := dk_16 8 (dk_at dksX2_figureFor_2 0 rfl rfl)
theorem dX2_figureFor_49 : decode cX2_figureFor 49 = .ok (.newarray .int, 2) := dk_188_10 (dk_at dksX2_figureFor_2 2 rfl rfl)
theorem dX2_figureFor_51 : decode cX2_figureFor 51 = .ok (.astore 5, 2) := dk_58 5 (dk_at dksX2_figureFor_2 4 rfl rfl)
theorem dX2_figureFor_53 : decode cX2_figureFor 53 = .ok (.bipush 8, 2) := dk_16 8 (dk_at dksX2_figureFor_2 6 rfl rfl)
theorem dX2_figureFor_55 : decode cX2_figureFor 55 = .ok (.newarray .int, 2) := dk_188_10 (dk_at dksX2_figureFor_2 8 rfl rfl)
theorem dX2_figureFor_57 : decode cX2_figureFor 57 = .ok (.astore 6, 2) := dk_58 6 (dk_at dksX2_figureFor_2 10 rfl rfl)
theorem dX2_figureFor_59 : decode cX2_figureFor 59 = .ok (.iconst 0, 1) := dk_3 (dk_at dksX2_figureFor_2 12 rfl rfl)
theorem dX2_figureFor_60 : decode cX2_figureFor 60 = .ok (.istore 7, 2) := dk_54 7 (dk_at dksX2_figureFor_2 13 rfl rfl)
theorem dX2_figureFor_62 : decode cX2_figureFor 62 = .ok (.iload 7, 2) := dk_21 7 (dk_at dksX2_figureFor_2 15 rfl rfl)
theorem dX2_figureFor_64 : decode cX2_figureFor 64 = .ok (.aload_n 0, 1) := dk_42 (dk_at dksX2_figureFor_2 17 rfl rfl)
theorem dX2_figureFor_65 : decode cX2_figureFor 65 = .ok (.getfield 60, 3) := dk_180 0 60 (dk_at dksX2_figureFor_2 18 rfl rfl)
theorem dX2_figureFor_68 : decode cX2_figureFor 68 = .ok (.invokevirtual 72, 3) := dk_182 0 72 (dk_at dksX2_figureFor_2 21 rfl rfl)
theorem dX2_figureFor_71 : decode cX2_figureFor 71 = .ok (.if_icmp .ge 36, 3) := dk_162 0 36 (dk_at dksX2_figureFor_3 0 rfl rfl)
theorem dX2_figureFor_74 : decode cX2_figureFor 74 = .ok (.aload_n 0, 1) := dk_42 (dk_at dksX2_figureFor_3 3 rfl rfl)
theorem dX2_figureFor_75 : decode cX2_figureFor 75 = .ok (.getfield 60, 3) := dk_180 0 60 (dk_at dksX2_figureFor_3 4 rfl rfl)
theorem dX2_figureFor_78 : decode cX2_figureFor 78 = .ok (.iload 7, 2) := dk_21 7 (dk_at dksX2_figureFor_3 7 rfl rfl)
theorem dX2_figureFor_80 : decode cX2_figureFor 80 = .ok (.invokevirtual 80, 3) := dk_182 0 80 (dk_at dksX2_figureFor_3 9 rfl rfl)
theorem dX2_figureFor_83 : decode cX2_figureFor 83 = .ok (.checkcast 84, 3) := dk_192 0 84 (dk_at dksX2_figureFor_3 12 rfl rfl)
theorem dX2_figureFor_86 : decode cX2_figureFor 86 = .ok (.iconst 0, 1) := dk_3 (dk_at dksX2_figureFor_3 15 rfl rfl)
theorem dX2_figureFor_87 : decode cX2_figureFor 87 = .ok (.iaload, 1) := dk_46 (dk_at dksX2_figureFor_3 16 rfl rfl)
theorem dX2_figureFor_88 : decode cX2_figureFor 88 = .ok (.iload_n 2, 1) := dk_28 (dk_at dksX2_figureFor_3 17 rfl rfl)
theorem dX2_figureFor_89 : decode cX2_figureFor 89 = .ok (.if_icmp .ne 12, 3) := dk_160 0 12 (dk_at dksX2_figureFor_3 18 rfl rfl)
theorem dX2_figureFor_92 : decode cX2_figureFor 92 = .ok (.aload 5, 2) := dk_25 5 (dk_at dksX2_figureFor_3 21 rfl rfl)
theorem dX2_figureFor_94 : decode cX2_figureFor 94 = .ok (.iload_n 3, 1) := dk_29 (dk_at dksX2_figureFor_3 23 rfl rfl)
theorem dX2_figureFor_95 : decode cX2_figureFor 95 = .ok (.iinc 3 1, 3) := dk_132 3 1 (dk_at dksX2_figureFor_4 0 rfl rfl)
theorem dX2_figureFor_98 : decode cX2_figureFor 98 = .ok (.iload 7, 2) := dk_21 7 (dk_at dksX2_figureFor_4 3 rfl rfl)
theorem dX2_figureFor_100 : decode cX2_figureFor 100 = .ok (.iastore, 1) := dk_79 (dk_at dksX2_figureFor_4 5 rfl rfl)
theorem dX2_figureFor_101 : decode cX2_figureFor 101 = .ok (.iinc 7 1, 3) := dk_132 7 1 (dk_at dksX2_figureFor_4 6 rfl rfl)
theorem dX2_figureFor_104 : decode cX2_figureFor 104 = .ok (.goto (-42), 3) := dk_167 255 214 (dk_at dksX2_figureFor_4 9 rfl rfl)
theorem dX2_figureFor_107 : decode cX2_figureFor 107 = .ok (.iconst 0, 1) := dk_3 (dk_at dksX2_figureFor_4 12 rfl rfl)
theorem dX2_figureFor_108 : decode cX2_figureFor 108 = .ok (.istore 7, 2) := dk_54 7 (dk_at dksX2_figureFor_4 13 rfl rfl)
theorem dX2_figureFor_110 : decode cX2_figureFor 110 = .ok (.iload 7, 2) := dk_21 7 (dk_at dksX2_figureFor_4 15 rfl rfl)
theorem dX2_figureFor_112 : decode cX2_figureFor 112 = .ok (.aload_n 0, 1) := dk_42 (dk_at dksX2_figureFor_4 17 rfl rfl)
theorem dX2_figureFor_113 : decode cX2_figureFor 113 = .ok (.getfield 33, 3) := dk_180 0 33 (dk_at dksX2_figureFor_4 18 rfl rfl)
theorem dX2_figureFor_116 : decode cX2_figureFor 116 = .ok (.invokevirtual 72, 3) := dk_182 0 72 (dk_at dksX2_figureFor_4 21 rfl rfl)
theorem dX2_figureFor_119 : decode cX2_figureFor 119 = .ok (.if_icmp .ge 40, 3) := dk_162 0 40 (dk_at dksX2_figureFor_5 0 rfl rfl)
theorem dX2_figureFor_122 : decode cX2_figureFor 122 = .ok (.aload_n 0, 1) := dk_42 (dk_at dksX2_figureFor_5 3 rfl rfl)
theorem dX2_figureFor_123 : decode cX2_figureFor 123 = .ok (.iload 7, 2) := dk_21 7 (dk_at dksX2_figureFor_5 4 rfl rfl)
theorem dX2_figureFor_125 : decode cX2_figureFor 125 = .ok (.invokevirtual 127, 3) := dk_182 0 127 (dk_at dksX2_figureFor_5 6 rfl rfl)
theorem dX2_figureFor_128 : decode cX2_figureFor 128 = .ok (.iload_n 2, 1) := dk_28 (dk_at dksX2_figureFor_5 9 rfl rfl)
theorem dX2_figureFor_129 : decode cX2_figureFor 129 = .ok (.if_icmp .ne 24, 3) := dk_160 0 24 (dk_at dksX2_figureFor_5 10 rfl rfl)
theorem dX2_figureFor_132 : decode cX2_figureFor 132 = .ok (.aload_n 0, 1) := dk_42 (dk_at dksX2_figureFor_5 13 rfl rfl)
theorem dX2_figureFor_133 : decode cX2_figureFor 133 = .ok (.iload 7, 2) := dk_21 7 (dk_at dksX2_figureFor_5 14 rfl rfl)
theorem dX2_figureFor_135 : decode cX2_figureFor 135 = .ok (.invokevirtual 161, 3) := dk_182 0 161 (dk_at dksX2_figureFor_5 16 rfl rfl)
theorem dX2_figureFor_138 : decode cX2_figureFor 138 = .ok (.bipush 10, 2) := dk_16 10 (dk_at dksX2_figureFor_5 19 rfl rfl)
theorem dX2_figureFor_140 : decode cX2_figureFor 140 = .ok (.if_icmp .ge 13, 3) := dk_162 0 13 (dk_at dksX2_figureFor_5 21 rfl rfl)
theorem dX2_figureFor_143 : decode cX2_figureFor 143 = .ok (.aload 6, 2) := dk_25 6 (dk_at dksX2_figureFor_6 0 rfl rfl)
theorem dX2_figureFor_145 : decode cX2_figureFor 145 = .ok (.iload 4, 2) := dk_21 4 (dk_at dksX2_figureFor_6 2 rfl rfl)
theorem dX2_figureFor_147 : decode cX2_figureFor 147 = .ok (.iinc 4 1, 3) := dk_132 4 1 (dk_at dksX2_figureFor_6 4 rfl rfl)
theorem dX2_figureFor_150 : decode cX2_figureFor 150 = .ok (.iload 7, 2) := dk_21 7 (dk_at dksX2_figureFor_6 7 rfl rfl)
theorem dX2_figureFor_152 : decode cX2_figureFor 152 = .ok (.iastore, 1) := dk_79 (dk_at dksX2_figureFor_6 9 rfl rfl)
theorem dX2_figureFor_153 : decode cX2_figureFor 153 = .ok (.iinc 7 1, 3) := dk_132 7 1 (dk_at dksX2_figureFor_6 10 rfl rfl)
theorem dX2_figureFor_156 : decode cX2_figureFor 156 = .ok (.goto (-46), 3) := dk_167 255 210 (dk_at dksX2_figureFor_6 13 rfl rfl)
theorem dX2_figureFor_159 : decode cX2_figureFor 159 = .ok (.iconst 0, 1) := dk_3 (dk_at dksX2_figureFor_6 16 rfl rfl)
theorem dX2_figureFor_160 : decode cX2_figureFor 160 = .ok (.iload_n 3, 1) := dk_29 (dk_at dksX2_figureFor_6 17 rfl rfl)
theorem dX2_figureFor_161 : decode cX2_figureFor 161 = .ok (.iload 4, 2) := dk_21 4 (dk_at dksX2_figureFor_6 18 rfl rfl)
theorem dX2_figureFor_163 : decode cX2_figureFor 163 = .ok (.isub, 1) := dk_100 (dk_at dksX2_figureFor_6 20 rfl rfl)
theorem dX2_figureFor_164 : decode cX2_figureFor 164 = .ok (.invokestatic 234, 3) := dk_184 0 234 (dk_at dksX2_figureFor_6 21 rfl rfl)
theorem dX2_figureFor_167 : decode cX2_figureFor 167 = .ok (.istore 7, 2) := dk_54 7 (dk_at dksX2_figureFor_7 0 rfl rfl)
theorem dX2_figureFor_169 : decode cX2_figureFor 169 = .ok (.ldc 237, 2) := dk_18 237 (dk_at dksX2_figureFor_7 2 rfl rfl)
theorem dX2_figureFor_171 : decode cX2_figureFor 171 = .ok (.istore 8, 2) := dk_54 8 (dk_at dksX2_figureFor_7 4 rfl rfl)
theorem dX2_figureFor_173 : decode cX2_figureFor 173 = .ok (.iload_n 3, 1) := dk_29 (dk_at dksX2_figureFor_7 6 rfl rfl)
theorem dX2_figureFor_174 : decode cX2_figureFor 174 = .ok (.iconst 1, 1) := dk_4 (dk_at dksX2_figureFor_7 7 rfl rfl)
theorem dX2_figureFor_175 : decode cX2_figureFor 175 = .ok (.iadd, 1) := dk_96 (dk_at dksX2_figureFor_7 8 rfl rfl)
theorem dX2_figureFor_176 : decode cX2_figureFor 176 = .ok (.iconst 1, 1) := dk_4 (dk_at dksX2_figureFor_7 9 rfl rfl)
theorem dX2_figureFor_177 : decode cX2_figureFor 177 = .ok (.iload 4, 2) := dk_21 4 (dk_at dksX2_figureFor_7 10 rfl rfl)
theorem dX2_figureFor_179 : decode cX2_figureFor 179 = .ok (.ishl, 1) := dk_120 (dk_at dksX2_figureFor_7 12 rfl rfl)
theorem dX2_figureFor_180 : decode cX2_figureFor 180 = .ok (.multianewarray 238 2, 4) := by decide +kernel
theorem dX2_figureFor_184 : decode cX2_figureFor 184 = .ok (.astore 9, 2) := dk_58 9 (dk_at dksX2_figureFor_7 17 rfl rfl)
theorem dX2_figureFor_186 : decode cX2_figureFor 186 = .ok (.iload_n 3, 1) := dk_29 (dk_at dksX2_figureFor_7 19 rfl rfl)
theorem dX2_figureFor_187 : decode cX2_figureFor 187 = .ok (.iconst 1, 1) := dk_4 (dk_at dksX2_figureFor_7 20 rfl rfl)
theorem dX2_figureFor_188 : decode cX2_figureFor 188 = .ok (.isub, 1) := dk_100 (dk_at dksX2_figureFor_7 21 rfl rfl)
theorem dX2_figureFor_189 : decode cX2_figureFor 189 = .ok (.istore 10, 2) := dk_54 10 (dk_at dksX2_figureFor_7 22 rfl rfl)
theorem dX2_figureFor_191 : decode cX2_figureFor 191 = .ok (.iload 10, 2) := dk_21 10 (dk_at dksX2_figureFor_8 0 rfl rfl)
theorem dX2_figureFor_193 : decode cX2_figureFor 193 = .ok (.ifCond .lt 158, 3) := dk_155 0 158 (dk_at dksX2_figureFor_8 2 rfl rfl)
theorem dX2_figureFor_196 : decode cX2_figureFor 196 = .ok (.iconst 0, 1) := dk_3 (dk_at dksX2_figureFor_8 5 rfl rfl)
theorem dX2_figureFor_197 : decode cX2_figureFor 197 = .ok (.istore 11, 2) := dk_54 11 (dk_at dksX2_figureFor_8 6 rfl rfl)
theorem dX2_figureFor_199 : decode cX2_figureFor 199 = .ok (.iload 11, 2) := dk_21 11 (dk_at dksX2_figureFor_8 8 rfl rfl)
theorem dX2_figureFor_201 : decode cX2_figureFor 201 = .ok (.iconst 1, 1) := dk_4 (dk_at dksX2_figureFor_8 10 rfl rfl)
theorem dX2_figureFor_202 : decode cX2_figureFor 202 = .ok (.iload 4, 2) := dk_21 4 (dk_at dksX2_figureFor_8 11 rfl rfl)
theorem dX2_figureFor_204 : decode cX2_figureFor 204 = .ok (.ishl, 1) := dk_120 (dk_at dksX2_figureFor_8 13 rfl rfl)
theorem dX2_figureFor_205 : decode cX2_figureFor 205 = .ok (.if_icmp .ge 140, 3) := dk_162 0 140 (dk_at dksX2_figureFor_8 14 rfl rfl)
theorem dX2_figureFor_208 : decode cX2_figureFor 208 = .ok (.iload 10, 2) := dk_21 10 (dk_at dksX2_figureFor_8 17 rfl rfl)
theorem dX2_figureFor_210 : decode cX2_figureFor 210 = .ok (.iload 11, 2) := dk_21 11 (dk_at dksX2_figureFor_8 19 rfl rfl)
theorem dX2_figureFor_212 : decode cX2_figureFor 212 = .ok (.invokestatic 109, 3) := dk_184 0 109 (dk_at dksX2_figureFor_8 21 rfl rfl)
theorem dX2_figureFor_215 : decode cX2_figureFor 215 = .ok (.isub, 1) := dk_100 (dk_at dksX2_figureFor_9 0 rfl rfl)
theorem dX2_figureFor_216 : decode cX2_figureFor 216 = .ok (.iload 7, 2) := dk_21 7 (dk_at dksX2_figureFor_9 1 rfl rfl)
theorem dX2_figureFor_218 : decode cX2_figureFor 218 = .ok (.if_icmp .ge 16, 3) := dk_162 0 16 (dk_at dksX2_figureFor_9 3 rfl rfl)
theorem dX2_figureFor_221 : decode cX2_figureFor 221 = .ok (.aload 9, 2) := dk_25 9 (dk_at dksX2_figureFor_9 6 rfl rfl)
theorem dX2_figureFor_223 : decode cX2_figureFor 223 = .ok (.iload 10, 2) := dk_21 10 (dk_at dksX2_figureFor_9 8 rfl rfl)
theorem dX2_figureFor_225 : decode cX2_figureFor 225 = .ok (.iconst 1, 1) := dk_4 (dk_at dksX2_figureFor_9 10 rfl rfl)
theorem dX2_figureFor_226 : decode cX2_figureFor 226 = .ok (.iadd, 1) := dk_96 (dk_at dksX2_figureFor_9 11 rfl rfl)
theorem dX2_figureFor_227 : decode cX2_figureFor 227 = .ok (.aaload, 1) := dk_50 (dk_at dksX2_figureFor_9 12 rfl rfl)
theorem dX2_figureFor_228 : decode cX2_figureFor 228 = .ok (.iload 11, 2) := dk_21 11 (dk_at dksX2_figureFor_9 13 rfl rfl)
theorem dX2_figureFor_230 : decode cX2_figureFor 230 = .ok (.iaload, 1) := dk_46 (dk_at dksX2_figureFor_9 15 rfl rfl)
theorem dX2_figureFor_231 : decode cX2_figureFor 231 = .ok (.goto 5, 3) := dk_167 0 5 (dk_at dksX2_figureFor_9 16 rfl rfl)
theorem dX2_figureFor_234 : decode cX2_figureFor 234 = .ok (.iload 8, 2) := dk_21 8 (dk_at dksX2_figureFor_9 19 rfl rfl)
theorem dX2_figureFor_236 : decode cX2_figureFor 236 = .ok (.istore 12, 2) := dk_54 12 (dk_at dksX2_figureFor_9 21 rfl rfl)
theorem dX2_figureFor_238 : decode cX2_figureFor 238 = .ok (.iconst 0, 1) := dk_3 (dk_at dksX2_figureFor_9 23 rfl rfl)
theorem dX2_figureFor_239 : decode cX2_figureFor 239 = .ok (.istore 13, 2) := dk_54 13 (dk_at dksX2_figureFor_10 0 rfl rfl)
theorem dX2_figureFor_241 : decode cX2_figureFor 241 = .ok (.iload 13, 2) := dk_21 13 (dk_at dksX2_figureFor_10 2 rfl rfl)
theorem dX2_figureFor_243 : decode cX2_figureFor 243 = .ok (.iload 4, 2) := dk_21 4 (dk_at dksX2_figureFor_10 4 rfl rfl)
theorem dX2_figureFor_245 : decode cX2_figureFor 245 = .ok (.if_icmp .ge 79, 3) := dk_162 0 79 (dk_at dksX2_figureFor_10 6 rfl rfl)
theorem dX2_figureFor_248 : decode cX2_figureFor 248 = .ok (.iload 11, 2) := dk_21 11 (dk_at dksX2_figureFor_10 9 rfl rfl)
theorem dX2_figureFor_250 : decode cX2_figureFor 250 = .ok (.iload 13, 2) := dk_21 13 (dk_at dksX2_figureFor_10 11 rfl rfl)
theorem dX2_figureFor_252 : decode cX2_figureFor 252 = .ok (.ishr, 1) := dk_122 (dk_at dksX2_figureFor_10 13 rfl rfl)
theorem dX2_figureFor_253 : decode cX2_figureFor 253 = .ok (.iconst 1, 1) := dk_4 (dk_at dksX2_figureFor_10 14 rfl rfl)
theorem dX2_figureFor_254 : decode cX2_figureFor 254 = .ok (.iand, 1) := dk_126 (dk_at dksX2_figureFor_10 15 rfl rfl)
theorem dX2_figureFor_255 : decode cX2_figureFor 255 = .ok (.ifCond .ne 63, 3) := dk_154 0 63 (dk_at dksX2_figureFor_10 16 rfl rfl)
theorem dX2_figureFor_258 : decode cX2_figureFor 258 = .ok (.iload 12, 2) := dk_21 12 (dk_at dksX2_figureFor_10 19 rfl rfl)
theorem dX2_figureFor_260 : decode cX2_figureFor 260 = .ok (.aload_n 0, 1) := dk_42 (dk_at dksX2_figureFor_10 21 rfl rfl)
theorem dX2_figureFor_261 : decode cX2_figureFor 261 = .ok (.getfield 60, 3) := dk_180 0 60 (dk_at dksX2_figureFor_11 0 rfl rfl)
theorem dX2_figureFor_264 : decode cX2_figureFor 264 = .ok (.aload 5, 2) := dk_25 5 (dk_at dksX2_figureFor_11 3 rfl rfl)
theorem dX2_figureFor_266 : decode cX2_figureFor 266 = .ok (.iload 10, 2) := dk_21 10 (dk_at dksX2_figureFor_11 5 rfl rfl)
theorem dX2_figureFor_268 : decode cX2_figureFor 268 = .ok (.iaload, 1) := dk_46 (dk_at dksX2_figureFor_11 7 rfl rfl)
theorem dX2_figureFor_269 : decode cX2_figureFor 269 = .ok (.invokevirtual 80, 3) := dk_182 0 80 (dk_at dksX2_figureFor_11 8 rfl rfl)
theorem dX2_figureFor_272 : decode cX2_figureFor 272 = .ok (.checkcast 84, 3) := dk_192 0 84 (dk_at dksX2_figureFor_11 11 rfl rfl)
theorem dX2_figureFor_275 : decode cX2_figureFor 275 = .ok (.iconst 1, 1) := dk_4 (dk_at dksX2_figureFor_11 14 rfl rfl)
theorem dX2_figureFor_276 : decode cX2_figureFor 276 = .ok (.iaload, 1) := dk_46 (dk_at dksX2_figureFor_11 15 rfl rfl)
theorem dX2_figureFor_277 : decode cX2_figureFor 277 = .ok (.aload_n 0, 1) := dk_42 (dk_at dksX2_figureFor_11 16 rfl rfl)
theorem dX2_figureFor_278 : decode cX2_figureFor 278 = .ok (.getfield 33, 3) := dk_180 0 33 (dk_at dksX2_figureFor_11 17 rfl rfl)
theorem dX2_figureFor_281 : decode cX2_figureFor 281 = .ok (.aload 6, 2) := dk_25 6 (dk_at dksX2_figureFor_11 20 rfl rfl)
theorem dX2_figureFor_283 : decode cX2_figureFor 283 = .ok (.iload 13, 2) := dk_21 13 (dk_at dksX2_figureFor_11 22 rfl rfl)
theorem dX2_figureFor_285 : decode cX2_figureFor 285 = .ok (.iaload, 1) := dk_46 (dk_at dksX2_figureFor_12 0 rfl rfl)
theorem dX2_figureFor_286 : decode cX2_figureFor 286 = .ok (.invokevirtual 80, 3) := dk_182 0 80 (dk_at dksX2_figureFor_12 1 rfl rfl)
theorem dX2_figureFor_289 : decode cX2_figureFor 289 = .ok (.checkcast 84, 3) := dk_192 0 84 (dk_at dksX2_figureFor_12 4 rfl rfl)
theorem dX2_figureFor_292 : decode cX2_figureFor 292 = .ok (.iconst 2, 1) := dk_5 (dk_at dksX2_figureFor_12 7 rfl rfl)
theorem dX2_figureFor_293 : decode cX2_figureFor 293 = .ok (.iaload, 1) := dk_46 (dk_at dksX2_figureFor_12 8 rfl rfl)
theorem dX2_figureFor_294 : decode cX2_figureFor 294 = .ok (.invokestatic 223, 3) := dk_184 0 223 (dk_at dksX2_figureFor_12 9 rfl rfl)
theorem dX2_figureFor_297 : decode cX2_figureFor 297 = .ok (.aload 9, 2) := dk_25 9 (dk_at dksX2_figureFor_12 12 rfl rfl)
theorem dX2_figureFor_299 : decode cX2_figureFor 299 = .ok (.iload 10, 2) := dk_21 10 (dk_at dksX2_figureFor_12 14 rfl rfl)
theorem dX2_figureFor_301 : decode cX2_figureFor 301 = .ok (.iconst 1, 1) := dk_4 (dk_at dksX2_figureFor_12 16 rfl rfl)
theorem dX2_figureFor_302 : decode cX2_figureFor 302 = .ok (.iadd, 1) := dk_96 (dk_at dksX2_figureFor_12 17 rfl rfl)
theorem dX2_figureFor_303 : decode cX2_figureFor 303 = .ok (.aaload, 1) := dk_50 (dk_at dksX2_figureFor_12 18 rfl rfl)
theorem dX2_figureFor_304 : decode cX2_figureFor 304 = .ok (.iload 11, 2) := dk_21 11 (dk_at dksX2_figureFor_12 19 rfl rfl)
theorem dX2_figureFor_306 : decode cX2_figureFor 306 = .ok (.iconst 1, 1) := dk_4 (dk_at dksX2_figureFor_12 21 rfl rfl)
theorem dX2_figureFor_307 : decode cX2_figureFor 307 = .ok (.iload 13, 2) := dk_21 13 (dk_at dksX2_figureFor_12 22 rfl rfl)
theorem dX2_figureFor_309 : decode cX2_figureFor 309 = .ok (.ishl, 1) := dk_120 (dk_at dksX2_figureFor_13 0 rfl rfl)
theorem dX2_figureFor_310 : decode cX2_figureFor 310 = .ok (.ior, 1) := dk_128 (dk_at dksX2_figureFor_13 1 rfl rfl)
theorem dX2_figureFor_311 : decode cX2_figureFor 311 = .ok (.iaload, 1) := dk_46 (dk_at dksX2_figureFor_13 2 rfl rfl)
theorem dX2_figureFor_312 : decode cX2_figureFor 312 = .ok (.iadd, 1) := dk_96 (dk_at dksX2_figureFor_13 3 rfl rfl)
theorem dX2_figureFor_313 : decode cX2_figureFor 313 = .ok (.invokestatic 164, 3) := dk_184 0 164 (dk_at dksX2_figureFor_13 4 rfl rfl)
theorem dX2_figureFor_316 : decode cX2_figureFor 316 = .ok (.istore 12, 2) := dk_54 12 (dk_at dksX2_figureFor_13 7 rfl rfl)
theorem dX2_figureFor_318 : decode cX2_figureFor 318 = .ok (.iinc 13 1, 3) := dk_132 13 1 (dk_at dksX2_figureFor_13 9 rfl rfl)
theorem dX2_figureFor_321 : decode cX2_figureFor 321 = .ok (.goto (-80), 3) := dk_167 255 176 (dk_at dksX2_figureFor_13 12 rfl rfl)
theorem dX2_figureFor_324 : decode cX2_figureFor 324 = .ok (.aload 9, 2) := dk_25 9 (dk_at dksX2_figureFor_13 15 rfl rfl)
theorem dX2_figureFor_326 : decode cX2_figureFor 326 = .ok (.iload 10, 2) := dk_21 10 (dk_at dksX2_figureFor_13 17 rfl rfl)
theorem dX2_figureFor_328 : decode cX2_figureFor 328 = .ok (.aaload, 1) := dk_50 (dk_at dksX2_figureFor_13 19 rfl rfl)
theorem dX2_figureFor_329 : decode cX2_figureFor 329 = .ok (.iload 11, 2) := dk_21 11 (dk_at dksX2_figureFor_13 20 rfl rfl)
theorem dX2_figureFor_331 : decode cX2_figureFor 331 = .ok (.iload 8, 2) := dk_21 8 (dk_at dksX2_figureFor_13 22 rfl rfl)
theorem dX2_figureFor_333 : decode cX2_figureFor 333 = .ok (.iload 12, 2) := dk_21 12 (dk_at dksX2_figureFor_14 0 rfl rfl)
theorem dX2_figureFor_335 : decode cX2_figureFor 335 = .ok (.invokestatic 164, 3) := dk_184 0 164 (dk_at dksX2_figureFor_14 2 rfl rfl)
theorem dX2_figureFor_338 : decode cX2_figureFor 338 = .ok (.iastore, 1) := dk_79 (dk_at dksX2_figureFor_14 5 rfl rfl)
theorem dX2_figureFor_339 : decode cX2_figureFor 339 = .ok (.iinc 11 1, 3) := dk_132 11 1 (dk_at dksX2_figureFor_14 6 rfl rfl)
theorem dX2_figureFor_342 : decode cX2_figureFor 342 = .ok (.goto (-143), 3) := dk_167 255 113 (dk_at dksX2_figureFor_14 9 rfl rfl)
theorem dX2_figureFor_345 : decode cX2_figureFor 345 = .ok (.iinc 10 (-1), 3) := dk_132 10 255 (dk_at dksX2_figureFor_14 12 rfl rfl)
theorem dX2_figureFor_348 : decode cX2_figureFor 348 = .ok (.goto (-157), 3) := dk_167 255 99 (dk_at dksX2_figureFor_14 15 rfl rfl)
theorem dX2_figureFor_351 : decode cX2_figureFor 351 = .ok (.iconst 0, 1) := dk_3 (dk_at dksX2_figureFor_14 18 rfl rfl)
theorem dX2_figureFor_352 : decode cX2_figureFor 352 = .ok (.istore 10, 2) := dk_54 10 (dk_at dksX2_figureFor_14 19 rfl rfl)
theorem dX2_figureFor_354 : decode cX2_figureFor 354 = .ok (.iconst 0, 1) := dk_3 (dk_at dksX2_figureFor_14 21 rfl rfl)
theorem dX2_figureFor_355 : decode cX2_figureFor 355 = .ok (.istore 11, 2) := dk_54 11 (dk_at dksX2_figureFor_14 22 rfl rfl)
theorem dX2_figureFor_357 : decode cX2_figureFor 357 = .ok (.iload 11, 2) := dk_21 11 (dk_at dksX2_figureFor_15 0 rfl rfl)
theorem dX2_figureFor_359 : decode cX2_figureFor 359 = .ok (.iload_n 3, 1) := dk_29 (dk_at dksX2_figureFor_15 2 rfl rfl)
theorem dX2_figureFor_360 : decode cX2_figureFor 360 = .ok (.if_icmp .ge 142, 3) := dk_162 0 142 (dk_at dksX2_figureFor_15 3 rfl rfl)
theorem dX2_figureFor_363 : decode cX2_figureFor 363 = .ok (.iconst 0, 1) := dk_3 (dk_at dksX2_figureFor_15 6 rfl rfl)
theorem dX2_figureFor_364 : decode cX2_figureFor 364 = .ok (.istore 12, 2) := dk_54 12 (dk_at dksX2_figureFor_15 7 rfl rfl)
theorem dX2_figureFor_366 : decode cX2_figureFor 366 = .ok (.iload 12, 2) := dk_21 12 (dk_at dksX2_figureFor_15 9 rfl rfl)
theorem dX2_figureFor_368 : decode cX2_figureFor 368 = .ok (.iload 4, 2) := dk_21 4 (dk_at dksX2_figureFor_15 11 rfl rfl)
theorem dX2_figureFor_370 : decode cX2_figureFor 370 = .ok (.if_icmp .ge 84, 3) := dk_162 0 84 (dk_at dksX2_figureFor_15 13 rfl rfl)
theorem dX2_figureFor_373 : decode cX2_figureFor 373 = .ok (.iload 10, 2) := dk_21 10 (dk_at dksX2_figureFor_15 16 rfl rfl)
theorem dX2_figureFor_375 : decode cX2_figureFor 375 = .ok (.iload 12, 2) := dk_21 12 (dk_at dksX2_figureFor_15 18 rfl rfl)
theorem dX2_figureFor_377 : decode cX2_figureFor 377 = .ok (.ishr, 1) := dk_122 (dk_at dksX2_figureFor_15 20 rfl rfl)
theorem dX2_figureFor_378 : decode cX2_figureFor 378 = .ok (.iconst 1, 1) := dk_4 (dk_at dksX2_figureFor_15 21 rfl rfl)
theorem dX2_figureFor_379 : decode cX2_figureFor 379 = .ok (.iand, 1) := dk_126 (dk_at dksX2_figureFor_15 22 rfl rfl)
theorem dX2_figureFor_380 : decode cX2_figureFor 380 = .ok (.iconst 1, 1) := dk_4 (dk_at dksX2_figureFor_15 23 rfl rfl)
theorem dX2_figureFor_381 : decode cX2_figureFor 381 = .ok (.if_icmp .eq 67, 3) := dk_159 0 67 (dk_at dksX2_figureFor_16 0 rfl rfl)
theorem dX2_figureFor_384 : decode cX2_figureFor 384 = .ok (.aload_n 0, 1) := dk_42 (dk_at dksX2_figureFor_16 3 rfl rfl)
theorem dX2_figureFor_385 : decode cX2_figureFor 385 = .ok (.getfield 60, 3) := dk_180 0 60 (dk_at dksX2_figureFor_16 4 rfl rfl)
theorem dX2_figureFor_388 : decode cX2_figureFor 388 = .ok (.aload 5, 2) := dk_25 5 (dk_at dksX2_figureFor_16 7 rfl rfl)
theorem dX2_figureFor_390 : decode cX2_figureFor 390 = .ok (.iload 11, 2) := dk_21 11 (dk_at dksX2_figureFor_16 9 rfl rfl)
theorem dX2_figureFor_392 : decode cX2_figureFor 392 = .ok (.iaload, 1) := dk_46 (dk_at dksX2_figureFor_16 11 rfl rfl)
theorem dX2_figureFor_393 : decode cX2_figureFor 393 = .ok (.invokevirtual 80, 3) := dk_182 0 80 (dk_at dksX2_figureFor_16 12 rfl rfl)
theorem dX2_figureFor_396 : decode cX2_figureFor 396 = .ok (.checkcast 84, 3) := dk_192 0 84 (dk_at dksX2_figureFor_16 15 rfl rfl)
theorem dX2_figureFor_399 : decode cX2_figureFor 399 = .ok (.iconst 1, 1) := dk_4 (dk_at dksX2_figureFor_16 18 rfl rfl)
theorem dX2_figureFor_400 : decode cX2_figureFor 400 = .ok (.iaload, 1) := dk_46 (dk_at dksX2_figureFor_16 19 rfl rfl)
theorem dX2_figureFor_401 : decode cX2_figureFor 401 = .ok (.aload_n 0, 1) := dk_42 (dk_at dksX2_figureFor_16 20 rfl rfl)
theorem dX2_figureFor_402 : decode cX2_figureFor 402 = .ok (.getfield 33, 3) := dk_180 0 33 (dk_at dksX2_figureFor_16 21 rfl rfl)
theorem dX2_figureFor_405 : decode cX2_figureFor 405 = .ok (.aload 6, 2) := dk_25 6 (dk_at dksX2_figureFor_17 0 rfl rfl)
theorem dX2_figureFor_407 : decode cX2_figureFor 407 = .ok (.iload 12, 2) := dk_21 12 (dk_at dksX2_figureFor_17 2 rfl rfl)
theorem dX2_figureFor_409 : decode cX2_figureFor 409 = .ok (.iaload, 1) := dk_46 (dk_at dksX2_figureFor_17 4 rfl rfl)
theorem dX2_figureFor_410 : decode cX2_figureFor 410 = .ok (.invokevirtual 80, 3) := dk_182 0 80 (dk_at dksX2_figureFor_17 5 rfl rfl)
theorem dX2_figureFor_413 : decode cX2_figureFor 413 = .ok (.checkcast 84, 3) := dk_192 0 84 (dk_at dksX2_figureFor_17 8 rfl rfl)
theorem dX2_figureFor_416 : decode cX2_figureFor 416 = .ok (.iconst 2, 1) := dk_5 (dk_at dksX2_figureFor_17 11 rfl rfl)
theorem dX2_figureFor_417 : decode cX2_figureFor 417 = .ok (.iaload, 1) := dk_46 (dk_at dksX2_figureFor_17 12 rfl rfl)
theorem dX2_figureFor_418 : decode cX2_figureFor 418 = .ok (.invokestatic 223, 3) := dk_184 0 223 (dk_at dksX2_figureFor_17 13 rfl rfl)
theorem dX2_figureFor_421 : decode cX2_figureFor 421 = .ok (.aload 9, 2) := dk_25 9 (dk_at dksX2_figureFor_17 16 rfl rfl)
theorem dX2_figureFor_423 : decode cX2_figureFor 423 = .ok (.iload 11, 2) := dk_21 11 (dk_at dksX2_figureFor_17 18 rfl rfl)
theorem dX2_figureFor_425 : decode cX2_figureFor 425 = .ok (.iconst 1, 1) := dk_4 (dk_at dksX2_figureFor_17 20 rfl rfl)
theorem dX2_figureFor_426 : decode cX2_figureFor 426 = .ok (.iadd, 1) := dk_96 (dk_at dksX2_figureFor_17 21 rfl rfl)
theorem dX2_figureFor_427 : decode cX2_figureFor 427 = .ok (.aaload, 1) := dk_50 (dk_at dksX2_figureFor_17 22 rfl rfl)
theorem dX2_figureFor_428 : decode cX2_figureFor 428 = .ok (.iload 10, 2) := dk_21 10 (dk_at dksX2_figureFor_18 0 rfl rfl)
theorem dX2_figureFor_430 : decode cX2_figureFor 430 = .ok (.iconst 1, 1) := dk_4 (dk_at dksX2_figureFor_18 2 rfl rfl)
theorem dX2_figureFor_431 : decode cX2_figureFor 431 = .ok (.iload 12, 2) := dk_21 12 (dk_at dksX2_figureFor_18 3 rfl rfl)
theorem dX2_figureFor_433 : decode cX2_figureFor 433 = .ok (.ishl, 1) := dk_120 (dk_at dksX2_figureFor_18 5 rfl rfl)
theorem dX2_figureFor_434 : decode cX2_figureFor 434 = .ok (.ior, 1) := dk_128 (dk_at dksX2_figureFor_18 6 rfl rfl)
theorem dX2_figureFor_435 : decode cX2_figureFor 435 = .ok (.iaload, 1) := dk_46 (dk_at dksX2_figureFor_18 7 rfl rfl)
theorem dX2_figureFor_436 : decode cX2_figureFor 436 = .ok (.iadd, 1) := dk_96 (dk_at dksX2_figureFor_18 8 rfl rfl)
theorem dX2_figureFor_437 : decode cX2_figureFor 437 = .ok (.aload 9, 2) := dk_25 9 (dk_at dksX2_figureFor_18 9 rfl rfl)
theorem dX2_figureFor_439 : decode cX2_figureFor 439 = .ok (.iload 11, 2) := dk_21 11 (dk_at dksX2_figureFor_18 11 rfl rfl)
theorem dX2_figureFor_441 : decode cX2_figureFor 441 = .ok (.aaload, 1) := dk_50 (dk_at dksX2_figureFor_18 13 rfl rfl)
theorem dX2_figureFor_442 : decode cX2_figureFor 442 = .ok (.iload 10, 2) := dk_21 10 (dk_at dksX2_figureFor_18 14 rfl rfl)
theorem dX2_figureFor_444 : decode cX2_figureFor 444 = .ok (.iaload, 1) := dk_46 (dk_at dksX2_figureFor_18 16 rfl rfl)
theorem dX2_figureFor_445 : decode cX2_figureFor 445 = .ok (.if_icmp .eq 9, 3) := dk_159 0 9 (dk_at dksX2_figureFor_18 17 rfl rfl)
theorem dX2_figureFor_448 : decode cX2_figureFor 448 = .ok (.iinc 12 1, 3) := dk_132 12 1 (dk_at dksX2_figureFor_18 20 rfl rfl)
theorem dX2_figureFor_451 : decode cX2_figureFor 451 = .ok (.goto (-85), 3) := dk_167 255 171 (dk_at dksX2_figureFor_19 0 rfl rfl)
theorem dX2_figureFor_454 : decode cX2_figureFor 454 = .ok (.aload 5, 2) := dk_25 5 (dk_at dksX2_figureFor_19 3 rfl rfl)
theorem dX2_figureFor_456 : decode cX2_figureFor 456 = .ok (.iload 11, 2) := dk_21 11 (dk_at dksX2_figureFor_19 5 rfl rfl)
theorem dX2_figureFor_458 : decode cX2_figureFor 458 = .ok (.iaload, 1) := dk_46 (dk_at dksX2_figureFor_19 7 rfl rfl)
theorem dX2_figureFor_459 : decode cX2_figureFor 459 = .ok (.iload_n 1, 1) := dk_27 (dk_at dksX2_figureFor_19 8 rfl rfl)
theorem dX2_figureFor_460 : decode cX2_figureFor 460 = .ok (.if_icmp .ne 20, 3) := dk_160 0 20 (dk_at dksX2_figureFor_19 9 rfl rfl)
theorem dX2_figureFor_463 : decode cX2_figureFor 463 = .ok (.iload 12, 2) := dk_21 12 (dk_at dksX2_figureFor_19 12 rfl rfl)
theorem dX2_figureFor_465 : decode cX2_figureFor 465 = .ok (.iload 4, 2) := dk_21 4 (dk_at dksX2_figureFor_19 14 rfl rfl)
theorem dX2_figureFor_467 : decode cX2_figureFor 467 = .ok (.if_icmp .ge 11, 3) := dk_162 0 11 (dk_at dksX2_figureFor_19 16 rfl rfl)
theorem dX2_figureFor_470 : decode cX2_figureFor 470 = .ok (.aload 6, 2) := dk_25 6 (dk_at dksX2_figureFor_19 19 rfl rfl)
theorem dX2_figureFor_472 : decode cX2_figureFor 472 = .ok (.iload 12, 2) := dk_21 12 (dk_at dksX2_figureFor_19 21 rfl rfl)
theorem dX2_figureFor_474 : decode cX2_figureFor 474 = .ok (.iaload, 1) := dk_46 (dk_at dksX2_figureFor_19 23 rfl rfl)
theorem dX2_figureFor_475 : decode cX2_figureFor 475 = .ok (.goto 4, 3) := dk_167 0 4 (dk_at dksX2_figureFor_20 0 rfl rfl)
theorem dX2_figureFor_478 : decode cX2_figureFor 478 = .ok (.iconst (-1), 1) := dk_2 (dk_at dksX2_figureFor_20 3 rfl rfl)
theorem dX2_figureFor_479 : decode cX2_figureFor 479 = .ok (.ireturn, 1) := dk_172 (dk_at dksX2_figureFor_20 4 rfl rfl)
theorem dX2_figureFor_480 : decode cX2_figureFor 480 = .ok (.iload 12, 2) := dk_21 12 (dk_at dksX2_figureFor_20 5 rfl rfl)
theorem dX2_figureFor_482 : decode cX2_figureFor 482 = .ok (.iload 4, 2) := dk_21 4 (dk_at dksX2_figureFor_20 7 rfl rfl)
theorem dX2_figureFor_484 : decode cX2_figureFor 484 = .ok (.if_icmp .ge 12, 3) := dk_162 0 12 (dk_at dksX2_figureFor_20 9 rfl rfl)
theorem dX2_figureFor_487 : decode cX2_figureFor 487 = .ok (.iload 10, 2) := dk_21 10 (dk_at dksX2_figureFor_20 12 rfl rfl)
theorem dX2_figureFor_489 : decode cX2_figureFor 489 = .ok (.iconst 1, 1) := dk_4 (dk_at dksX2_figureFor_20 14 rfl rfl)
theorem dX2_figureFor_490 : decode cX2_figureFor 490 = .ok (.iload 12, 2) := dk_21 12 (dk_at dksX2_figureFor_20 15 rfl rfl)
theorem dX2_figureFor_492 : decode cX2_figureFor 492 = .ok (.ishl, 1) := dk_120 (dk_at dksX2_figureFor_20 17 rfl rfl)
theorem dX2_figureFor_493 : decode cX2_figureFor 493 = .ok (.ior, 1) := dk_128 (dk_at dksX2_figureFor_20 18 rfl rfl)
theorem dX2_figureFor_494 : decode cX2_figureFor 494 = .ok (.istore 10, 2) := dk_54 10 (dk_at dksX2_figureFor_20 19 rfl rfl)
theorem dX2_figureFor_496 : decode cX2_figureFor 496 = .ok (.iinc 11 1, 3) := dk_132 11 1 (dk_at dksX2_figureFor_20 21 rfl rfl)
theorem dX2_figureFor_499 : decode cX2_figureFor 499 = .ok (.goto (-142), 3) := dk_167 255 114 (dk_at dksX2_figureFor_21 0 rfl rfl)
theorem dX2_figureFor_502 : decode cX2_figureFor 502 = .ok (.iconst (-1), 1) := dk_2 (dk_at dksX2_figureFor_21 3 rfl rfl)
theorem dX2_figureFor_503 : decode cX2_figureFor 503 = .ok (.ireturn, 1) := dk_172 (dk_at dksX2_figureFor_21 4 rfl rfl)
abbrev cX2_tellName : ByteArray := prog_18_method_65_code
def yX2_tellName : MethodName := ⟨RX2, "tellName", "(IIII)I"⟩
def dkwX2_tellName_6 : List UInt8 := [167, 0, 4, 3, 96, 54, 5, 132, 6, 1, 167, 255, 213, 21, 5, 172]
abbrev dktX2_tellName_6 : List UInt8 := dkwX2_tellName_6 ++ []
def dkwX2_tellName_5 : List UInt8 := [162, 0, 37, 21, 5, 42, 180, 0, 63, 21, 6, 182, 0, 80, 192, 0, 84, 3, 46, 27, 160, 0, 7, 4]
abbrev dktX2_tellName_5 : List UInt8 := dkwX2_tellName_5 ++ dktX2_tellName_6
def dkwX2_tellName_4 : List UInt8 := [6, 21, 4, 79, 182, 0, 99, 87, 3, 54, 5, 3, 54, 6, 21, 6, 42, 180, 0, 63, 182, 0, 72]
abbrev dktX2_tellName_4 : List UInt8 := dkwX2_tellName_4 ++ dktX2_tellName_5
def dkwX2_tellName_3 : List UInt8 := [182, 0, 95, 172, 42, 180, 0, 63, 7, 188, 10, 89, 3, 27, 79, 89, 4, 28, 79, 89, 5, 29, 79, 89]
abbrev dktX2_tellName_3 : List UInt8 := dkwX2_tellName_3 ++ dktX2_tellName_4
def dkwX2_tellName_2 : List UInt8 := [154, 0, 9, 42, 5, 182, 0, 95, 172, 42, 180, 0, 63, 182, 0, 72, 16, 40, 160, 0, 9, 42, 6]
abbrev dktX2_tellName_2 : List UInt8 := dkwX2_tellName_2 ++ dktX2_tellName_3
def dkwX2_tellName_1 : List UInt8 := [184, 0, 76, 153, 0, 24, 29, 4, 16, 15, 184, 0, 76, 153, 0, 14, 21, 4, 4, 16, 15, 184, 0, 76]
abbrev dktX2_tellName_1 : List UInt8 := dkwX2_tellName_1 ++ dktX2_tellName_2
def dkwX2_tellName_0 : List UInt8 := [42, 3, 181, 0, 69, 42, 27, 182, 0, 130, 153, 0, 9, 42, 4, 182, 0, 95, 172, 28, 4, 17, 39, 15]
abbrev dktX2_tellName_0 : List UInt8 := dkwX2_tellName_0 ++ dktX2_tellName_1
theorem dksX2_tellName_0 : cX2_tellName.data.toList.drop 0 = dktX2_tellName_0 := by decide +kernel
theorem dksX2_tellName_1 : cX2_tellName.data.toList.drop 24 = dktX2_tellName_1 := dk_seg dksX2_tellName_0 24 rfl rfl
theorem dksX2_tellName_2 : cX2_tellName.data.toList.drop 48 = dktX2_tellName_2 := dk_seg dksX2_tellName_1 24 rfl rfl
theorem dksX2_tellName_3 : cX2_tellName.data.toList.drop 71 = dktX2_tellName_3 := dk_seg dksX2_tellName_2 23 rfl rfl
theorem dksX2_tellName_4 : cX2_tellName.data.toList.drop 95 = dktX2_tellName_4 := dk_seg dksX2_tellName_3 24 rfl rfl
theorem dksX2_tellName_5 : cX2_tellName.data.toList.drop 118 = dktX2_tellName_5 := dk_seg dksX2_tellName_4 23 rfl rfl
theorem dksX2_tellName_6 : cX2_tellName.data.toList.drop 142 = dktX2_tellName_6 := dk_seg dksX2_tellName_5 24 rfl rfl
theorem dX2_tellName_0 : decode cX2_tellName 0 = .ok (.aload_n 0, 1) := dk_42 (dk_at dksX2_tellName_0 0 rfl rfl)
theorem dX2_tellName_1 : decode cX2_tellName 1 = .ok (.iconst 0, 1) := dk_3 (dk_at dksX2_tellName_0 1 rfl rfl)
theorem dX2_tellName_2 : decode cX2_tellName 2 = .ok (.putfield 69, 3) := dk_181 0 69 (dk_at dksX2_tellName_0 2 rfl rfl)
theorem dX2_tellName_5 : decode cX2_tellName 5 = .ok (.aload_n 0, 1) := dk_42 (dk_at dksX2_tellName_0 5 rfl rfl)
theorem dX2_tellName_6 : decode cX2_tellName 6 = .ok (.iload_n 1, 1) := dk_27 (dk_at dksX2_tellName_0 6 rfl rfl)
theorem dX2_tellName_7 : decode cX2_tellName 7 = .ok (.invokevirtual 130, 3) := dk_182 0 130 (dk_at dksX2_tellName_0 7 rfl rfl)
theorem dX2_tellName_10 : decode cX2_tellName 10 = .ok (.ifCond .eq 9, 3) := dk_153 0 9 (dk_at dksX2_tellName_0 10 rfl rfl)
theorem dX2_tellName_13 : decode cX2_tellName 13 = .ok (.aload_n 0, 1) := dk_42 (dk_at dksX2_tellName_0 13 rfl rfl)
theorem dX2_tellName_14 : decode cX2_tellName 14 = .ok (.iconst 1, 1) := dk_4 (dk_at dksX2_tellName_0 14 rfl rfl)
theorem dX2_tellName_15 : decode cX2_tellName 15 = .ok (.invokevirtual 95, 3) := dk_182 0 95 (dk_at dksX2_tellName_0 15 rfl rfl)
theorem dX2_tellName_18 : decode cX2_tellName 18 = .ok (.ireturn, 1) := dk_172 (dk_at dksX2_tellName_0 18 rfl rfl)
theorem dX2_tellName_19 : decode cX2_tellName 19 = .ok (.iload_n 2, 1) := dk_28 (dk_at dksX2_tellName_0 19 rfl rfl)
theorem dX2_tellName_20 : decode cX2_tellName 20 = .ok (.iconst 1, 1) := dk_4 (dk_at dksX2_tellName_0 20 rfl rfl)
theorem dX2_tellName_21 : decode cX2_tellName 21 = .ok (.sipush 9999, 3) := dk_17 39 15 (dk_at dksX2_tellName_0 21 rfl rfl)
theorem dX2_tellName_24 : decode cX2_tellName 24 = .ok (.invokestatic 76, 3) := dk_184 0 76 (dk_at dksX2_tellName_1 0 rfl rfl)
theorem dX2_tellName_27 : decode cX2_tellName 27 = .ok (.ifCond .eq 24, 3) := dk_153 0 24 (dk_at dksX2_tellName_1 3 rfl rfl)
theorem dX2_tellName_30 : decode cX2_tellName 30 = .ok (.iload_n 3, 1) := dk_29 (dk_at dksX2_tellName_1 6 rfl rfl)
theorem dX2_tellName_31 : decode cX2_tellName 31 = .ok (.iconst 1, 1) := dk_4 (dk_at dksX2_tellName_1 7 rfl rfl)
theorem dX2_tellName_32 : decode cX2_tellName 32 = .ok (.bipush 15, 2) := dk_16 15 (dk_at dksX2_tellName_1 8 rfl rfl)
theorem dX2_tellName_34 : decode cX2_tellName 34 = .ok (.invokestatic 76, 3) := dk_184 0 76 (dk_at dksX2_tellName_1 10 rfl rfl)
theorem dX2_tellName_37 : decode cX2_tellName 37 = .ok (.ifCond .eq 14, 3) := dk_153 0 14 (dk_at dksX2_tellName_1 13 rfl rfl)
theorem dX2_tellName_40 : decode cX2_tellName 40 = .ok (.iload 4, 2) := dk_21 4 (dk_at dksX2_tellName_1 16 rfl rfl)
theorem dX2_tellName_42 : decode cX2_tellName 42 = .ok (.iconst 1, 1) := dk_4 (dk_at dksX2_tellName_1 18 rfl rfl)
theorem dX2_tellName_43 : decode cX2_tellName 43 = .ok (.bipush 15, 2) := dk_16 15 (dk_at dksX2_tellName_1 19 rfl rfl)
theorem dX2_tellName_45 : decode cX2_tellName 45 = .ok (.invokestatic 76, 3) := dk_184 0 76 (dk_at dksX2_tellName_1 21 rfl rfl)
theorem dX2_tellName_48 : decode cX2_tellName 48 = .ok (.ifCond .ne 9, 3) := dk_154 0 9 (dk_at dksX2_tellName_2 0 rfl rfl)
theorem dX2_tellName_51 : decode cX2_tellName 51 = .ok (.aload_n 0, 1) := dk_42 (dk_at dksX2_tellName_2 3 rfl rfl)
theorem dX2_tellName_52 : decode cX2_tellName 52 = .ok (.iconst 2, 1) := dk_5 (dk_at dksX2_tellName_2 4 rfl rfl)
theorem dX2_tellName_53 : decode cX2_tellName 53 = .ok (.invokevirtual 95, 3) := dk_182 0 95 (dk_at dksX2_tellName_2 5 rfl rfl)
theorem dX2_tellName_56 : decode cX2_tellName 56 = .ok (.ireturn, 1) := dk_172 (dk_at dksX2_tellName_2 8 rfl rfl)
theorem dX2_tellName_57 : decode cX2_tellName 57 = .ok (.aload_n 0, 1) := dk_42 (dk_at dksX2_tellName_2 9 rfl rfl)
theorem dX2_tellName_58 : decode cX2_tellName 58 = .ok (.getfield 63, 3) := dk_180 0 63 (dk_at dksX2_tellName_2 10 rfl rfl)
theorem dX2_tellName_61 : decode cX2_tellName 61 = .ok (.invokevirtual 72, 3) := dk_182 0 72 (dk_at dksX2_tellName_2 13 rfl rfl)
theorem dX2_tellName_64 : decode cX2_tellName 64 = .ok (.bipush 40, 2) := dk_16 40 (dk_at dksX2_tellName_2 16 rfl rfl)
theorem dX2_tellName_66 : decode cX2_tellName 66 = .ok (.if_icmp .ne 9, 3) := dk_160 0 9 (dk_at dksX2_tellName_2 18 rfl rfl)
theorem dX2_tellName_69 : decode cX2_tellName 69 = .ok (.aload_n 0, 1) := dk_42 (dk_at dksX2_tellName_2 21 rfl rfl)
theorem dX2_tellName_70 : decode cX2_tellName 70 = .ok (.iconst 3, 1) := dk_6 (dk_at dksX2_tellName_2 22 rfl rfl)
theorem dX2_tellName_71 : decode cX2_tellName 71 = .ok (.invokevirtual 95, 3) := dk_182 0 95 (dk_at dksX2_tellName_3 0 rfl rfl)
theorem dX2_tellName_74 : decode cX2_tellName 74 = .ok (.ireturn, 1) := dk_172 (dk_at dksX2_tellName_3 3 rfl rfl)
theorem dX2_tellName_75 : decode cX2_tellName 75 = .ok (.aload_n 0, 1) := dk_42 (dk_at dksX2_tellName_3 4 rfl rfl)
theorem dX2_tellName_76 : decode cX2_tellName 76 = .ok (.getfield 63, 3) := dk_180 0 63 (dk_at dksX2_tellName_3 5 rfl rfl)
theorem dX2_tellName_79 : decode cX2_tellName 79 = .ok (.iconst 4, 1) := dk_7 (dk_at dksX2_tellName_3 8 rfl rfl)
theorem dX2_tellName_80 : decode cX2_tellName 80 = .ok (.newarray .int, 2) := dk_188_10 (dk_at dksX2_tellName_3 9 rfl rfl)
theorem dX2_tellName_82 : decode cX2_tellName 82 = .ok (.dup, 1) := dk_89 (dk_at dksX2_tellName_3 11 rfl rfl)
theorem dX2_tellName_83 : decode cX2_tellName 83 = .ok (.iconst 0, 1) := dk_3 (dk_at dksX2_tellName_3 12 rfl rfl)
theorem dX2_tellName_84 : decode cX2_tellName 84 = .ok (.iload_n 1, 1) := dk_27 (dk_at dksX2_tellName_3 13 rfl rfl)
theorem dX2_tellName_85 : decode cX2_tellName 85 = .ok (.iastore, 1) := dk_79 (dk_at dksX2_tellName_3 14 rfl rfl)
theorem dX2_tellName_86 : decode cX2_tellName 86 = .ok (.dup, 1) := dk_89 (dk_at dksX2_tellName_3 15 rfl rfl)
theorem dX2_tellName_87 : decode cX2_tellName 87 = .ok (.iconst 1, 1) := dk_4 (dk_at dksX2_tellName_3 16 rfl rfl)
theorem dX2_tellName_88 : decode cX2_tellName 88 = .ok (.iload_n 2, 1) := dk_28 (dk_at dksX2_tellName_3 17 rfl rfl)
theorem dX2_tellName_89 : decode cX2_tellName 89 = .ok (.iastore, 1) := dk_79 (dk_at dksX2_tellName_3 18 rfl rfl)
theorem dX2_tellName_90 : decode cX2_tellName 90 = .ok (.dup, 1) := dk_89 (dk_at dksX2_tellName_3 19 rfl rfl)
theorem dX2_tellName_91 : decode cX2_tellName 91 = .ok (.iconst 2, 1) := dk_5 (dk_at dksX2_tellName_3 20 rfl rfl)
theorem dX2_tellName_92 : decode cX2_tellName 92 = .ok (.iload_n 3, 1) := dk_29 (dk_at dksX2_tellName_3 21 rfl rfl)
theorem dX2_tellName_93 : decode cX2_tellName 93 = .ok (.iastore, 1) := dk_79 (dk_at dksX2_tellName_3 22 rfl rfl)
theorem dX2_tellName_94 : decode cX2_tellName 94 = .ok (.dup, 1) := dk_89 (dk_at dksX2_tellName_3 23 rfl rfl)
theorem dX2_tellName_95 : decode cX2_tellName 95 = .ok (.iconst 3, 1) := dk_6 (dk_at dksX2_tellName_4 0 rfl rfl)
theorem dX2_tellName_96 : decode cX2_tellName 96 = .ok (.iload 4, 2) := dk_21 4 (dk_at dksX2_tellName_4 1 rfl rfl)
theorem dX2_tellName_98 : decode cX2_tellName 98 = .ok (.iastore, 1) := dk_79 (dk_at dksX2_tellName_4 3 rfl rfl)
theorem dX2_tellName_99 : decode cX2_tellName 99 = .ok (.invokevirtual 99, 3) := dk_182 0 99 (dk_at dksX2_tellName_4 4 rfl rfl)
theorem dX2_tellName_102 : decode cX2_tellName 102 = .ok (.pop, 1) := dk_87 (dk_at dksX2_tellName_4 7 rfl rfl)
theorem dX2_tellName_103 : decode cX2_tellName 103 = .ok (.iconst 0, 1) := dk_3 (dk_at dksX2_tellName_4 8 rfl rfl)
theorem dX2_tellName_104 : decode cX2_tellName 104 = .ok (.istore 5, 2) := dk_54 5 (dk_at dksX2_tellName_4 9 rfl rfl)
theorem dX2_tellName_106 : decode cX2_tellName 106 = .ok (.iconst 0, 1) := dk_3 (dk_at dksX2_tellName_4 11 rfl rfl)
theorem dX2_tellName_107 : decode cX2_tellName 107 = .ok (.istore 6, 2) := dk_54 6 (dk_at dksX2_tellName_4 12 rfl rfl)
theorem dX2_tellName_109 : decode cX2_tellName 109 = .ok (.iload 6, 2) := dk_21 6 (dk_at dksX2_tellName_4 14 rfl rfl)
theorem dX2_tellName_111 : decode cX2_tellName 111 = .ok (.aload_n 0, 1) := dk_42 (dk_at dksX2_tellName_4 16 rfl rfl)
theorem dX2_tellName_112 : decode cX2_tellName 112 = .ok (.getfield 63, 3) := dk_180 0 63 (dk_at dksX2_tellName_4 17 rfl rfl)
theorem dX2_tellName_115 : decode cX2_tellName 115 = .ok (.invokevirtual 72, 3) := dk_182 0 72 (dk_at dksX2_tellName_4 20 rfl rfl)
theorem dX2_tellName_118 : decode cX2_tellName 118 = .ok (.if_icmp .ge 37, 3) := dk_162 0 37 (dk_at dksX2_tellName_5 0 rfl rfl)
theorem dX2_tellName_121 : decode cX2_tellName 121 = .ok (.iload 5, 2) := dk_21 5 (dk_at dksX2_tellName_5 3 rfl rfl)
theorem dX2_tellName_123 : decode cX2_tellName 123 = .ok (.aload_n 0, 1) := dk_42 (dk_at dksX2_tellName_5 5 rfl rfl)
theorem dX2_tellName_124 : decode cX2_tellName 124 = .ok (.getfield 63, 3) := dk_180 0 63 (dk_at dksX2_tellName_5 6 rfl rfl)
theorem dX2_tellName_127 : decode cX2_tellName 127 = .ok (.iload 6, 2) := dk_21 6 (dk_at dksX2_tellName_5 9 rfl rfl)
theorem dX2_tellName_129 : decode cX2_tellName 129 = .ok (.invokevirtual 80, 3) := dk_182 0 80 (dk_at dksX2_tellName_5 11 rfl rfl)
theorem dX2_tellName_132 : decode cX2_tellName 132 = .ok (.checkcast 84, 3) := dk_192 0 84 (dk_at dksX2_tellName_5 14 rfl rfl)
theorem dX2_tellName_135 : decode cX2_tellName 135 = .ok (.iconst 0, 1) := dk_3 (dk_at dksX2_tellName_5 17 rfl rfl)
theorem dX2_tellName_136 : decode cX2_tellName 136 = .ok (.iaload, 1) := dk_46 (dk_at dksX2_tellName_5 18 rfl rfl)
theorem dX2_tellName_137 : decode cX2_tellName 137 = .ok (.iload_n 1, 1) := dk_27 (dk_at dksX2_tellName_5 19 rfl rfl)
theorem dX2_tellName_138 : decode cX2_tellName 138 = .ok (.if_icmp .ne 7, 3) := dk_160 0 7 (dk_at dksX2_tellName_5 20 rfl rfl)
theorem dX2_tellName_141 : decode cX2_tellName 141 = .ok (.iconst 1, 1) := dk_4 (dk_at dksX2_tellName_5 23 rfl rfl)
theorem dX2_tellName_142 : decode cX2_tellName 142 = .ok (.goto 4, 3) := dk_167 0 4 (dk_at dksX2_tellName_6 0 rfl rfl)
theorem dX2_tellName_145 : decode cX2_tellName 145 = .ok (.iconst 0, 1) := dk_3 (dk_at dksX2_tellName_6 3 rfl rfl)
theorem dX2_tellName_146 : decode cX2_tellName 146 = .ok (.iadd, 1) := dk_96 (dk_at dksX2_tellName_6 4 rfl rfl)
theorem dX2_tellName_147 : decode cX2_tellName 147 = .ok (.istore 5, 2) := dk_54 5 (dk_at dksX2_tellName_6 5 rfl rfl)
theorem dX2_tellName_149 : decode cX2_tellName 149 = .ok (.iinc 6 1, 3) := dk_132 6 1 (dk_at dksX2_tellName_6 7 rfl rfl)
theorem dX2_tellName_152 : decode cX2_tellName 152 = .ok (.goto (-43), 3) := dk_167 255 213 (dk_at dksX2_tellName_6 10 rfl rfl)
theorem dX2_tellName_155 : decode cX2_tellName 155 = .ok (.iload 5, 2) := dk_21 5 (dk_at dksX2_tellName_6 13 rfl rfl)
theorem dX2_tellName_157 : decode cX2_tellName 157 = .ok (.ireturn, 1) := dk_172 (dk_at dksX2_tellName_6 15 rfl rfl)
abbrev cX2_nameFor : ByteArray := prog_18_method_66_code
def yX2_nameFor : MethodName := ⟨RX2, "nameFor", "(III)I"⟩
def dkwX2_nameFor_5 : List UInt8 := [167, 255, 189, 21, 4, 172]
abbrev dktX2_nameFor_5 : List UInt8 := dkwX2_nameFor_5 ++ []
def dkwX2_nameFor_4 : List UInt8 := [160, 0, 21, 25, 6, 6, 46, 29, 122, 4, 126, 4, 160, 0, 9, 25, 6, 4, 46, 54, 4, 132, 5, 1]
abbrev dktX2_nameFor_4 : List UInt8 := dkwX2_nameFor_4 ++ dktX2_nameFor_5
def dkwX2_nameFor_3 : List UInt8 := [192, 0, 84, 58, 6, 25, 6, 3, 46, 27, 160, 0, 33, 25, 6, 5, 46, 28, 122, 4, 126, 4]
abbrev dktX2_nameFor_3 : List UInt8 := dkwX2_nameFor_3 ++ dktX2_nameFor_4
def dkwX2_nameFor_2 : List UInt8 := [3, 54, 5, 21, 5, 42, 180, 0, 63, 182, 0, 72, 162, 0, 61, 42, 180, 0, 63, 21, 5, 182, 0, 80]
abbrev dktX2_nameFor_2 : List UInt8 := dkwX2_nameFor_2 ++ dktX2_nameFor_3
def dkwX2_nameFor_1 : List UInt8 := [184, 0, 76, 153, 0, 12, 29, 3, 6, 184, 0, 76, 154, 0, 9, 42, 5, 182, 0, 95, 172, 2, 54, 4]
abbrev dktX2_nameFor_1 : List UInt8 := dkwX2_nameFor_1 ++ dktX2_nameFor_2
def dkwX2_nameFor_0 : List UInt8 := [42, 3, 181, 0, 69, 42, 27, 182, 0, 130, 153, 0, 9, 42, 4, 182, 0, 95, 172, 28, 3, 6]
abbrev dktX2_nameFor_0 : List UInt8 := dkwX2_nameFor_0 ++ dktX2_nameFor_1
theorem dksX2_nameFor_0 : cX2_nameFor.data.toList.drop 0 = dktX2_nameFor_0 := by decide +kernel
theorem dksX2_nameFor_1 : cX2_nameFor.data.toList.drop 22 = dktX2_nameFor_1 := dk_seg dksX2_nameFor_0 22 rfl rfl
theorem dksX2_nameFor_2 : cX2_nameFor.data.toList.drop 46 = dktX2_nameFor_2 := dk_seg dksX2_nameFor_1 24 rfl rfl
theorem dksX2_nameFor_3 : cX2_nameFor.data.toList.drop 70 = dktX2_nameFor_3 := dk_seg dksX2_nameFor_2 24 rfl rfl
theorem dksX2_nameFor_4 : cX2_nameFor.data.toList.drop 92 = dktX2_nameFor_4 := dk_seg dksX2_nameFor_3 22 rfl rfl
theorem dksX2_nameFor_5 : cX2_nameFor.data.toList.drop 116 = dktX2_nameFor_5 := dk_seg dksX2_nameFor_4 24 rfl rfl
theorem dX2_nameFor_0 : decode cX2_nameFor 0 = .ok (.aload_n 0, 1) := dk_42 (dk_at dksX2_nameFor_0 0 rfl rfl)
theorem dX2_nameFor_1 : decode cX2_nameFor 1 = .ok (.iconst 0, 1) := dk_3 (dk_at dksX2_nameFor_0 1 rfl rfl)
theorem dX2_nameFor_2 : decode cX2_nameFor 2 = .ok (.putfield 69, 3) := dk_181 0 69 (dk_at dksX2_nameFor_0 2 rfl rfl)
theorem dX2_nameFor_5 : decode cX2_nameFor 5 = .ok (.aload_n 0, 1) := dk_42 (dk_at dksX2_nameFor_0 5 rfl rfl)
theorem dX2_nameFor_6 : decode cX2_nameFor 6 = .ok (.iload_n 1, 1) := dk_27 (dk_at dksX2_nameFor_0 6 rfl rfl)
theorem dX2_nameFor_7 : decode cX2_nameFor 7 = .ok (.invokevirtual 130, 3) := dk_182 0 130 (dk_at dksX2_nameFor_0 7 rfl rfl)
theorem dX2_nameFor_10 : decode cX2_nameFor 10 = .ok (.ifCond .eq 9, 3) := dk_153 0 9 (dk_at dksX2_nameFor_0 10 rfl rfl)
theorem dX2_nameFor_13 : decode cX2_nameFor 13 = .ok (.aload_n 0, 1) := dk_42 (dk_at dksX2_nameFor_0 13 rfl rfl)
theorem dX2_nameFor_14 : decode cX2_nameFor 14 = .ok (.iconst 1, 1) := dk_4 (dk_at dksX2_nameFor_0 14 rfl rfl)
theorem dX2_nameFor_15 : decode cX2_nameFor 15 = .ok (.invokevirtual 95, 3) := dk_182 0 95 (dk_at dksX2_nameFor_0 15 rfl rfl)
theorem dX2_nameFor_18 : decode cX2_nameFor 18 = .ok (.ireturn, 1) := dk_172 (dk_at dksX2_nameFor_0 18 rfl rfl)
theorem dX2_nameFor_19 : decode cX2_nameFor 19 = .ok (.iload_n 2, 1) := dk_28 (dk_at dksX2_nameFor_0 19 rfl rfl)
theorem dX2_nameFor_20 : decode cX2_nameFor 20 = .ok (.iconst 0, 1) := dk_3 (dk_at dksX2_nameFor_0 20 rfl rfl)
theorem dX2_nameFor_21 : decode cX2_nameFor 21 = .ok (.iconst 3, 1) := dk_6 (dk_at dksX2_nameFor_0 21 rfl rfl)
theorem dX2_nameFor_22 : decode cX2_nameFor 22 = .ok (.invokestatic 76, 3) := dk_184 0 76 (dk_at dksX2_nameFor_1 0 rfl rfl)
theorem dX2_nameFor_25 : decode cX2_nameFor 25 = .ok (.ifCond .eq 12, 3) := dk_153 0 12 (dk_at dksX2_nameFor_1 3 rfl rfl)
theorem dX2_nameFor_28 : decode cX2_nameFor 28 = .ok (.iload_n 3, 1) := dk_29 (dk_at dksX2_nameFor_1 6 rfl rfl)
theorem dX2_nameFor_29 : decode cX2_nameFor 29 = .ok (.iconst 0, 1) := dk_3 (dk_at dksX2_nameFor_1 7 rfl rfl)
theorem dX2_nameFor_30 : decode cX2_nameFor 30 = .ok (.iconst 3, 1) := dk_6 (dk_at dksX2_nameFor_1 8 rfl rfl)
theorem dX2_nameFor_31 : decode cX2_nameFor 31 = .ok (.invokestatic 76, 3) := dk_184 0 76 (dk_at dksX2_nameFor_1 9 rfl rfl)
theorem dX2_nameFor_34 : decode cX2_nameFor 34 = .ok (.ifCond .ne 9, 3) := dk_154 0 9 (dk_at dksX2_nameFor_1 12 rfl rfl)
theorem dX2_nameFor_37 : decode cX2_nameFor 37 = .ok (.aload_n 0, 1) := dk_42 (dk_at dksX2_nameFor_1 15 rfl rfl)
theorem dX2_nameFor_38 : decode cX2_nameFor 38 = .ok (.iconst 2, 1) := dk_5 (dk_at dksX2_nameFor_1 16 rfl rfl)
theorem dX2_nameFor_39 : decode cX2_nameFor 39 = .ok (.invokevirtual 95, 3) := dk_182 0 95 (dk_at dksX2_nameFor_1 17 rfl rfl)
theorem dX2_nameFor_42 : decode cX2_nameFor 42 = .ok (.ireturn, 1) := dk_172 (dk_at dksX2_nameFor_1 20 rfl rfl)
theorem dX2_nameFor_43 : decode cX2_nameFor 43 = .ok (.iconst (-1), 1) := dk_2 (dk_at dksX2_nameFor_1 21 rfl rfl)
theorem dX2_nameFor_44 : decode cX2_nameFor 44 = .ok (.istore 4, 2) := dk_54 4 (dk_at dksX2_nameFor_1 22 rfl rfl)
theorem dX2_nameFor_46 : decode cX2_nameFor 46 = .ok (.iconst 0, 1) := dk_3 (dk_at dksX2_nameFor_2 0 rfl rfl)
theorem dX2_nameFor_47 : decode cX2_nameFor 47 = .ok (.istore 5, 2) := dk_54 5 (dk_at dksX2_nameFor_2 1 rfl rfl)
theorem dX2_nameFor_49 : decode cX2_nameFor 49 = .ok (.iload 5, 2) := dk_21 5 (dk_at dksX2_nameFor_2 3 rfl rfl)
theorem dX2_nameFor_51 : decode cX2_nameFor 51 = .ok (.aload_n 0, 1) := dk_42 (dk_at dksX2_nameFor_2 5 rfl rfl)
theorem dX2_nameFor_52 : decode cX2_nameFor 52 = .ok (.getfield 63, 3) := dk_180 0 63 (dk_at dksX2_nameFor_2 6 rfl rfl)
theorem dX2_nameFor_55 : decode cX2_nameFor 55 = .ok (.invokevirtual 72, 3) := dk_182 0 72 (dk_at dksX2_nameFor_2 9 rfl rfl)
theorem dX2_nameFor_58 : decode cX2_nameFor 58 = .ok (.if_icmp .ge 61, 3) := dk_162 0 61 (dk_at dksX2_nameFor_2 12 rfl rfl)
theorem dX2_nameFor_61 : decode cX2_nameFor 61 = .ok (.aload_n 0, 1) := dk_42 (dk_at dksX2_nameFor_2 15 rfl rfl)
theorem dX2_nameFor_62 : decode cX2_nameFor 62 = .ok (.getfield 63, 3) := dk_180 0 63 (dk_at dksX2_nameFor_2 16 rfl rfl)
theorem dX2_nameFor_65 : decode cX2_nameFor 65 = .ok (.iload 5, 2) := dk_21 5 (dk_at dksX2_nameFor_2 19 rfl rfl)
theorem dX2_nameFor_67 : decode cX2_nameFor 67 = .ok (.invokevirtual 80, 3) := dk_182 0 80 (dk_at dksX2_nameFor_2 21 rfl rfl)
theorem dX2_nameFor_70 : decode cX2_nameFor 70 = .ok (.checkcast 84, 3) := dk_192 0 84 (dk_at dksX2_nameFor_3 0 rfl rfl)
theorem dX2_nameFor_73 : decode cX2_nameFor 73 = .ok (.astore 6, 2) := dk_58 6 (dk_at dksX2_nameFor_3 3 rfl rfl)
theorem dX2_nameFor_75 : decode cX2_nameFor 75 = .ok (.aload 6, 2) := dk_25 6 (dk_at dksX2_nameFor_3 5 rfl rfl)
theorem dX2_nameFor_77 : decode cX2_nameFor 77 = .ok (.iconst 0, 1) := dk_3 (dk_at dksX2_nameFor_3 7 rfl rfl)
theorem dX2_nameFor_78 : decode cX2_nameFor 78 = .ok (.iaload, 1) := dk_46 (dk_at dksX2_nameFor_3 8 rfl rfl)
theorem dX2_nameFor_79 : decode cX2_nameFor 79 = .ok (.iload_n 1, 1) := dk_27 (dk_at dksX2_nameFor_3 9 rfl rfl)
theorem dX2_nameFor_80 : decode cX2_nameFor 80 = .ok (.if_icmp .ne 33, 3) := dk_160 0 33 (dk_at dksX2_nameFor_3 10 rfl rfl)
theorem dX2_nameFor_83 : decode cX2_nameFor 83 = .ok (.aload 6, 2) := dk_25 6 (dk_at dksX2_nameFor_3 13 rfl rfl)
theorem dX2_nameFor_85 : decode cX2_nameFor 85 = .ok (.iconst 2, 1) := dk_5 (dk_at dksX2_nameFor_3 15 rfl rfl)
theorem dX2_nameFor_86 : decode cX2_nameFor 86 = .ok (.iaload, 1) := dk_46 (dk_at dksX2_nameFor_3 16 rfl rfl)
theorem dX2_nameFor_87 : decode cX2_nameFor 87 = .ok (.iload_n 2, 1) := dk_28 (dk_at dksX2_nameFor_3 17 rfl rfl)
theorem dX2_nameFor_88 : decode cX2_nameFor 88 = .ok (.ishr, 1) := dk_122 (dk_at dksX2_nameFor_3 18 rfl rfl)
theorem dX2_nameFor_89 : decode cX2_nameFor 89 = .ok (.iconst 1, 1) := dk_4 (dk_at dksX2_nameFor_3 19 rfl rfl)
theorem dX2_nameFor_90 : decode cX2_nameFor 90 = .ok (.iand, 1) := dk_126 (dk_at dksX2_nameFor_3 20 rfl rfl)
theorem dX2_nameFor_91 : decode cX2_nameFor 91 = .ok (.iconst 1, 1) := dk_4 (dk_at dksX2_nameFor_3 21 rfl rfl)
theorem dX2_nameFor_92 : decode cX2_nameFor 92 = .ok (.if_icmp .ne 21, 3) := dk_160 0 21 (dk_at dksX2_nameFor_4 0 rfl rfl)
theorem dX2_nameFor_95 : decode cX2_nameFor 95 = .ok (.aload 6, 2) := dk_25 6 (dk_at dksX2_nameFor_4 3 rfl rfl)
theorem dX2_nameFor_97 : decode cX2_nameFor 97 = .ok (.iconst 3, 1) := dk_6 (dk_at dksX2_nameFor_4 5 rfl rfl)
theorem dX2_nameFor_98 : decode cX2_nameFor 98 = .ok (.iaload, 1) := dk_46 (dk_at dksX2_nameFor_4 6 rfl rfl)
theorem dX2_nameFor_99 : decode cX2_nameFor 99 = .ok (.iload_n 3, 1) := dk_29 (dk_at dksX2_nameFor_4 7 rfl rfl)
theorem dX2_nameFor_100 : decode cX2_nameFor 100 = .ok (.ishr, 1) := dk_122 (dk_at dksX2_nameFor_4 8 rfl rfl)
theorem dX2_nameFor_101 : decode cX2_nameFor 101 = .ok (.iconst 1, 1) := dk_4 (dk_at dksX2_nameFor_4 9 rfl rfl)
theorem dX2_nameFor_102 : decode cX2_nameFor 102 = .ok (.iand, 1) := dk_126 (dk_at dksX2_nameFor_4 10 rfl rfl)
theorem dX2_nameFor_103 : decode cX2_nameFor 103 = .ok (.iconst 1, 1) := dk_4 (dk_at dksX2_nameFor_4 11 rfl rfl)
theorem dX2_nameFor_104 : decode cX2_nameFor 104 = .ok (.if_icmp .ne 9, 3) := dk_160 0 9 (dk_at dksX2_nameFor_4 12 rfl rfl)
theorem dX2_nameFor_107 : decode cX2_nameFor 107 = .ok (.aload 6, 2) := dk_25 6 (dk_at dksX2_nameFor_4 15 rfl rfl)
theorem dX2_nameFor_109 : decode cX2_nameFor 109 = .ok (.iconst 1, 1) := dk_4 (dk_at dksX2_nameFor_4 17 rfl rfl)
theorem dX2_nameFor_110 : decode cX2_nameFor 110 = .ok (.iaload, 1) := dk_46 (dk_at dksX2_nameFor_4 18 rfl rfl)
theorem dX2_nameFor_111 : decode cX2_nameFor 111 = .ok (.istore 4, 2) := dk_54 4 (dk_at dksX2_nameFor_4 19 rfl rfl)
theorem dX2_nameFor_113 : decode cX2_nameFor 113 = .ok (.iinc 5 1, 3) := dk_132 5 1 (dk_at dksX2_nameFor_4 21 rfl rfl)
theorem dX2_nameFor_116 : decode cX2_nameFor 116 = .ok (.goto (-67), 3) := dk_167 255 189 (dk_at dksX2_nameFor_5 0 rfl rfl)
theorem dX2_nameFor_119 : decode cX2_nameFor 119 = .ok (.iload 4, 2) := dk_21 4 (dk_at dksX2_nameFor_5 3 rfl rfl)
theorem dX2_nameFor_121 : decode cX2_nameFor 121 = .ok (.ireturn, 1) := dk_172 (dk_at dksX2_nameFor_5 5 rfl rfl)
abbrev cX2_setRight : ByteArray := prog_18_method_67_code
def yX2_setRight : MethodName := ⟨RX2, "setRight", "(IIZ)Z"⟩
def dkwX2_setRight_5 : List UInt8 := [172]
abbrev dktX2_setRight_5 : List UInt8 := dkwX2_setRight_5 ++ []
def dkwX2_setRight_4 : List UInt8 := [16, 9, 46, 4, 28, 120, 128, 167, 0, 14, 25, 4, 16, 9, 46, 4, 28, 120, 2, 130, 126, 79, 21, 5]
abbrev dktX2_setRight_4 : List UInt8 := dkwX2_setRight_4 ++ dktX2_setRight_5
def dkwX2_setRight_3 : List UInt8 := [122, 4, 126, 4, 160, 0, 7, 4, 167, 0, 4, 3, 54, 5, 25, 4, 16, 9, 29, 153, 0, 15, 25, 4]
abbrev dktX2_setRight_3 : List UInt8 := dkwX2_setRight_3 ++ dktX2_setRight_4
def dkwX2_setRight_2 : List UInt8 := [167, 0, 4, 3, 172, 42, 180, 0, 16, 27, 182, 0, 80, 192, 0, 84, 58, 4, 25, 4, 16, 9, 46, 28]
abbrev dktX2_setRight_2 : List UInt8 := dkwX2_setRight_2 ++ dktX2_setRight_3
def dkwX2_setRight_1 : List UInt8 := [167, 0, 4, 3, 172, 28, 3, 6, 184, 0, 76, 154, 0, 17, 42, 5, 182, 0, 95, 158, 0, 7, 4]
abbrev dktX2_setRight_1 : List UInt8 := dkwX2_setRight_1 ++ dktX2_setRight_2
def dkwX2_setRight_0 : List UInt8 := [42, 3, 181, 0, 69, 42, 27, 182, 0, 103, 153, 0, 17, 42, 4, 182, 0, 95, 158, 0, 7, 4]
abbrev dktX2_setRight_0 : List UInt8 := dkwX2_setRight_0 ++ dktX2_setRight_1
theorem dksX2_setRight_0 : cX2_setRight.data.toList.drop 0 = dktX2_setRight_0 := by decide +kernel
theorem dksX2_setRight_1 : cX2_setRight.data.toList.drop 22 = dktX2_setRight_1 := dk_seg dksX2_setRight_0 22 rfl rfl
theorem dksX2_setRight_2 : cX2_setRight.data.toList.drop 45 = dktX2_setRight_2 := dk_seg dksX2_setRight_1 23 rfl rfl
theorem dksX2_setRight_3 : cX2_setRight.data.toList.drop 69 = dktX2_setRight_3 := dk_seg dksX2_setRight_2 24 rfl rfl
theorem dksX2_setRight_4 : cX2_setRight.data.toList.drop 93 = dktX2_setRight_4 := dk_seg dksX2_setRight_3 24 rfl rfl
theorem dksX2_setRight_5 : cX2_setRight.data.toList.drop 117 = dktX2_setRight_5 := dk_seg dksX2_setRight_4 24 rfl rfl
theorem dX2_setRight_0 : decode cX2_setRight 0 = .ok (.aload_n 0, 1) := dk_42 (dk_at dksX2_setRight_0 0 rfl rfl)
theorem dX2_setRight_1 : decode cX2_setRight 1 = .ok (.iconst 0, 1) := dk_3 (dk_at dksX2_setRight_0 1 rfl rfl)
theorem dX2_setRight_2 : decode cX2_setRight 2 = .ok (.putfield 69, 3) := dk_181 0 69 (dk_at dksX2_setRight_0 2 rfl rfl)
theorem dX2_setRight_5 : decode cX2_setRight 5 = .ok (.aload_n 0, 1) := dk_42 (dk_at dksX2_setRight_0 5 rfl rfl)
theorem dX2_setRight_6 : decode cX2_setRight 6 = .ok (.iload_n 1, 1) := dk_27 (dk_at dksX2_setRight_0 6 rfl rfl)
theorem dX2_setRight_7 : decode cX2_setRight 7 = .ok (.invokevirtual 103, 3) := dk_182 0 103 (dk_at dksX2_setRight_0 7 rfl rfl)
theorem dX2_setRight_10 : decode cX2_setRight 10 = .ok (.ifCond .eq 17, 3) := dk_153 0 17 (dk_at dksX2_setRight_0 10 rfl rfl)
theorem dX2_setRight_13 : decode cX2_setRight 13 = .ok (.aload_n 0, 1) := dk_42 (dk_at dksX2_setRight_0 13 rfl rfl)
theorem dX2_setRight_14 : decode cX2_setRight 14 = .ok (.iconst 1, 1) := dk_4 (dk_at dksX2_setRight_0 14 rfl rfl)
theorem dX2_setRight_15 : decode cX2_setRight 15 = .ok (.invokevirtual 95, 3) := dk_182 0 95 (dk_at dksX2_setRight_0 15 rfl rfl)
theorem dX2_setRight_18 : decode cX2_setRight 18 = .ok (.ifCond .le 7, 3) := dk_158 0 7 (dk_at dksX2_setRight_0 18 rfl rfl)
theorem dX2_setRight_21 : decode cX2_setRight 21 = .ok (.iconst 1, 1) := dk_4 (dk_at dksX2_setRight_0 21 rfl rfl)
theorem dX2_setRight_22 : decode cX2_setRight 22 = .ok (.goto 4, 3) := dk_167 0 4 (dk_at dksX2_setRight_1 0 rfl rfl)
theorem dX2_setRight_25 : decode cX2_setRight 25 = .ok (.iconst 0, 1) := dk_3 (dk_at dksX2_setRight_1 3 rfl rfl)
theorem dX2_setRight_26 : decode cX2_setRight 26 = .ok (.ireturn, 1) := dk_172 (dk_at dksX2_setRight_1 4 rfl rfl)
theorem dX2_setRight_27 : decode cX2_setRight 27 = .ok (.iload_n 2, 1) := dk_28 (dk_at dksX2_setRight_1 5 rfl rfl)
theorem dX2_setRight_28 : decode cX2_setRight 28 = .ok (.iconst 0, 1) := dk_3 (dk_at dksX2_setRight_1 6 rfl rfl)
theorem dX2_setRight_29 : decode cX2_setRight 29 = .ok (.iconst 3, 1) := dk_6 (dk_at dksX2_setRight_1 7 rfl rfl)
theorem dX2_setRight_30 : decode cX2_setRight 30 = .ok (.invokestatic 76, 3) := dk_184 0 76 (dk_at dksX2_setRight_1 8 rfl rfl)
theorem dX2_setRight_33 : decode cX2_setRight 33 = .ok (.ifCond .ne 17, 3) := dk_154 0 17 (dk_at dksX2_setRight_1 11 rfl rfl)
theorem dX2_setRight_36 : decode cX2_setRight 36 = .ok (.aload_n 0, 1) := dk_42 (dk_at dksX2_setRight_1 14 rfl rfl)
theorem dX2_setRight_37 : decode cX2_setRight 37 = .ok (.iconst 2, 1) := dk_5 (dk_at dksX2_setRight_1 15 rfl rfl)
theorem dX2_setRight_38 : decode cX2_setRight 38 = .ok (.invokevirtual 95, 3) := dk_182 0 95 (dk_at dksX2_setRight_1 16 rfl rfl)
theorem dX2_setRight_41 : decode cX2_setRight 41 = .ok (.ifCond .le 7, 3) := dk_158 0 7 (dk_at dksX2_setRight_1 19 rfl rfl)
theorem dX2_setRight_44 : decode cX2_setRight 44 = .ok (.iconst 1, 1) := dk_4 (dk_at dksX2_setRight_1 22 rfl rfl)
theorem dX2_setRight_45 : decode cX2_setRight 45 = .ok (.goto 4, 3) := dk_167 0 4 (dk_at dksX2_setRight_2 0 rfl rfl)
theorem dX2_setRight_48 : decode cX2_setRight 48 = .ok (.iconst 0, 1) := dk_3 (dk_at dksX2_setRight_2 3 rfl rfl)
theorem dX2_setRight_49 : decode cX2_setRight 49 = .ok (.ireturn, 1) := dk_172 (dk_at dksX2_setRight_2 4 rfl rfl)
theorem dX2_setRight_50 : decode cX2_setRight 50 = .ok (.aload_n 0, 1) := dk_42 (dk_at dksX2_setRight_2 5 rfl rfl)
theorem dX2_setRight_51 : decode cX2_setRight 51 = .ok (.getfield 16, 3) := dk_180 0 16 (dk_at dksX2_setRight_2 6 rfl rfl)
theorem dX2_setRight_54 : decode cX2_setRight 54 = .ok (.iload_n 1, 1) := dk_27 (dk_at dksX2_setRight_2 9 rfl rfl)
theorem dX2_setRight_55 : decode cX2_setRight 55 = .ok (.invokevirtual 80, 3) := dk_182 0 80 (dk_at dksX2_setRight_2 10 rfl rfl)
theorem dX2_setRight_58 : decode cX2_setRight 58 = .ok (.checkcast 84, 3) := dk_192 0 84 (dk_at dksX2_setRight_2 13 rfl rfl)
theorem dX2_setRight_61 : decode cX2_setRight 61 = .ok (.astore 4, 2) := dk_58 4 (dk_at dksX2_setRight_2 16 rfl rfl)
theorem dX2_setRight_63 : decode cX2_setRight 63 = .ok (.aload 4, 2) := dk_25 4 (dk_at dksX2_setRight_2 18 rfl rfl)
theorem dX2_setRight_65 : decode cX2_setRight 65 = .ok (.bipush 9, 2) := dk_16 9 (dk_at dksX2_setRight_2 20 rfl rfl)
theorem dX2_setRight_67 : decode cX2_setRight 67 = .ok (.iaload, 1) := dk_46 (dk_at dksX2_setRight_2 22 rfl rfl)
theorem dX2_setRight_68 : decode cX2_setRight 68 = .ok (.iload_n 2, 1) := dk_28 (dk_at dksX2_setRight_2 23 rfl rfl)
theorem dX2_setRight_69 : decode cX2_setRight 69 = .ok (.ishr, 1) := dk_122 (dk_at dksX2_setRight_3 0 rfl rfl)
theorem dX2_setRight_70 : decode cX2_setRight 70 = .ok (.iconst 1, 1) := dk_4 (dk_at dksX2_setRight_3 1 rfl rfl)
theorem dX2_setRight_71 : decode cX2_setRight 71 = .ok (.iand, 1) := dk_126 (dk_at dksX2_setRight_3 2 rfl rfl)
theorem dX2_setRight_72 : decode cX2_setRight 72 = .ok (.iconst 1, 1) := dk_4 (dk_at dksX2_setRight_3 3 rfl rfl)
theorem dX2_setRight_73 : decode cX2_setRight 73 = .ok (.if_icmp .ne 7, 3) := dk_160 0 7 (dk_at dksX2_setRight_3 4 rfl rfl)
theorem dX2_setRight_76 : decode cX2_setRight 76 = .ok (.iconst 1, 1) := dk_4 (dk_at dksX2_setRight_3 7 rfl rfl)
theorem dX2_setRight_77 : decode cX2_setRight 77 = .ok (.goto 4, 3) := dk_167 0 4 (dk_at dksX2_setRight_3 8 rfl rfl)
theorem dX2_setRight_80 : decode cX2_setRight 80 = .ok (.iconst 0, 1) := dk_3 (dk_at dksX2_setRight_3 11 rfl rfl)
theorem dX2_setRight_81 : decode cX2_setRight 81 = .ok (.istore 5, 2) := dk_54 5 (dk_at dksX2_setRight_3 12 rfl rfl)
theorem dX2_setRight_83 : decode cX2_setRight 83 = .ok (.aload 4, 2) := dk_25 4 (dk_at dksX2_setRight_3 14 rfl rfl)
theorem dX2_setRight_85 : decode cX2_setRight 85 = .ok (.bipush 9, 2) := dk_16 9 (dk_at dksX2_setRight_3 16 rfl rfl)
theorem dX2_setRight_87 : decode cX2_setRight 87 = .ok (.iload_n 3, 1) := dk_29 (dk_at dksX2_setRight_3 18 rfl rfl)
theorem dX2_setRight_88 : decode cX2_setRight 88 = .ok (.ifCond .eq 15, 3) := dk_153 0 15 (dk_at dksX2_setRight_3 19 rfl rfl)
theorem dX2_setRight_91 : decode cX2_setRight 91 = .ok (.aload 4, 2) := dk_25 4 (dk_at dksX2_setRight_3 22 rfl rfl)
theorem dX2_setRight_93 : decode cX2_setRight 93 = .ok (.bipush 9, 2) := dk_16 9 (dk_at dksX2_setRight_4 0 rfl rfl)
theorem dX2_setRight_95 : decode cX2_setRight 95 = .ok (.iaload, 1) := dk_46 (dk_at dksX2_setRight_4 2 rfl rfl)
theorem dX2_setRight_96 : decode cX2_setRight 96 = .ok (.iconst 1, 1) := dk_4 (dk_at dksX2_setRight_4 3 rfl rfl)
theorem dX2_setRight_97 : decode cX2_setRight 97 = .ok (.iload_n 2, 1) := dk_28 (dk_at dksX2_setRight_4 4 rfl rfl)
theorem dX2_setRight_98 : decode cX2_setRight 98 = .ok (.ishl, 1) := dk_120 (dk_at dksX2_setRight_4 5 rfl rfl)
theorem dX2_setRight_99 : decode cX2_setRight 99 = .ok (.ior, 1) := dk_128 (dk_at dksX2_setRight_4 6 rfl rfl)
theorem dX2_setRight_100 : decode cX2_setRight 100 = .ok (.goto 14, 3) := dk_167 0 14 (dk_at dksX2_setRight_4 7 rfl rfl)
theorem dX2_setRight_103 : decode cX2_setRight 103 = .ok (.aload 4, 2) := dk_25 4 (dk_at dksX2_setRight_4 10 rfl rfl)
theorem dX2_setRight_105 : decode cX2_setRight 105 = .ok (.bipush 9, 2) := dk_16 9 (dk_at dksX2_setRight_4 12 rfl rfl)
theorem dX2_setRight_107 : decode cX2_setRight 107 = .ok (.iaload, 1) := dk_46 (dk_at dksX2_setRight_4 14 rfl rfl)
theorem dX2_setRight_108 : decode cX2_setRight 108 = .ok (.iconst 1, 1) := dk_4 (dk_at dksX2_setRight_4 15 rfl rfl)
theorem dX2_setRight_109 : decode cX2_setRight 109 = .ok (.iload_n 2, 1) := dk_28 (dk_at dksX2_setRight_4 16 rfl rfl)
theorem dX2_setRight_110 : decode cX2_setRight 110 = .ok (.ishl, 1) := dk_120 (dk_at dksX2_setRight_4 17 rfl rfl)
theorem dX2_setRight_111 : decode cX2_setRight 111 = .ok (.iconst (-1), 1) := dk_2 (dk_at dksX2_setRight_4 18 rfl rfl)
theorem dX2_setRight_112 : decode cX2_setRight 112 = .ok (.ixor, 1) := dk_130 (dk_at dksX2_setRight_4 19 rfl rfl)
theorem dX2_setRight_113 : decode cX2_setRight 113 = .ok (.iand, 1) := dk_126 (dk_at dksX2_setRight_4 20 rfl rfl)
theorem dX2_setRight_114 : decode cX2_setRight 114 = .ok (.iastore, 1) := dk_79 (dk_at dksX2_setRight_4 21 rfl rfl)
theorem dX2_setRight_115 : decode cX2_setRight 115 = .ok (.iload 5, 2) := dk_21 5 (dk_at dksX2_setRight_4 22 rfl rfl)
theorem dX2_setRight_117 : decode cX2_setRight 117 = .ok (.ireturn, 1) := dk_172 (dk_at dksX2_setRight_5 0 rfl rfl)
abbrev cX2_repaint : ByteArray := prog_18_method_68_code
def yX2_repaint : MethodName := ⟨RX2, "repaint", "(II)I"⟩
def dkwX2_repaint_6 : List UInt8 := [180, 0, 23, 29, 92, 47, 22, 4, 20, 0, 136, 131, 127, 80, 22, 4, 184, 0, 142, 172]
abbrev dktX2_repaint_6 : List UInt8 := dkwX2_repaint_6 ++ []
def dkwX2_repaint_5 : List UInt8 := [42, 180, 0, 30, 21, 6, 47, 42, 180, 0, 23, 29, 47, 127, 129, 55, 4, 132, 6, 1, 167, 255, 210, 42]
abbrev dktX2_repaint_5 : List UInt8 := dkwX2_repaint_5 ++ dktX2_repaint_6
def dkwX2_repaint_4 : List UInt8 := [42, 180, 0, 27, 182, 0, 72, 162, 0, 40, 42, 180, 0, 38, 27, 50, 21, 6, 51, 153, 0, 22, 22, 4]
abbrev dktX2_repaint_4 : List UInt8 := dkwX2_repaint_4 ++ dktX2_repaint_5
def dkwX2_repaint_3 : List UInt8 := [42, 27, 182, 0, 161, 16, 10, 161, 0, 9, 42, 6, 182, 0, 95, 172, 9, 55, 4, 3, 54, 6, 21, 6]
abbrev dktX2_repaint_3 : List UInt8 := dkwX2_repaint_3 ++ dktX2_repaint_4
def dkwX2_repaint_2 : List UInt8 := [182, 0, 80, 192, 0, 84, 16, 9, 46, 28, 122, 4, 126, 153, 0, 21, 42, 29, 182, 0, 106, 154, 0, 13]
abbrev dktX2_repaint_2 : List UInt8 := dkwX2_repaint_2 ++ dktX2_repaint_3
def dkwX2_repaint_1 : List UInt8 := [184, 0, 76, 154, 0, 9, 42, 5, 182, 0, 95, 172, 42, 27, 182, 0, 127, 62, 42, 180, 0, 16, 29]
abbrev dktX2_repaint_1 : List UInt8 := dkwX2_repaint_1 ++ dktX2_repaint_2
def dkwX2_repaint_0 : List UInt8 := [42, 3, 181, 0, 69, 42, 27, 182, 0, 130, 153, 0, 9, 42, 4, 182, 0, 95, 172, 28, 3, 6]
abbrev dktX2_repaint_0 : List UInt8 := dkwX2_repaint_0 ++ dktX2_repaint_1
theorem dksX2_repaint_0 : cX2_repaint.data.toList.drop 0 = dktX2_repaint_0 := by decide +kernel
theorem dksX2_repaint_1 : cX2_repaint.data.toList.drop 22 = dktX2_repaint_1 := dk_seg dksX2_repaint_0 22 rfl rfl
theorem dksX2_repaint_2 : cX2_repaint.data.toList.drop 45 = dktX2_repaint_2 := dk_seg dksX2_repaint_1 23 rfl rfl
theorem dksX2_repaint_3 : cX2_repaint.data.toList.drop 69 = dktX2_repaint_3 := dk_seg dksX2_repaint_2 24 rfl rfl
theorem dksX2_repaint_4 : cX2_repaint.data.toList.drop 93 = dktX2_repaint_4 := dk_seg dksX2_repaint_3 24 rfl rfl
theorem dksX2_repaint_5 : cX2_repaint.data.toList.drop 117 = dktX2_repaint_5 := dk_seg dksX2_repaint_4 24 rfl rfl
theorem dksX2_repaint_6 : cX2_repaint.data.toList.drop 141 = dktX2_repaint_6 := dk_seg dksX2_repaint_5 24 rfl rfl
theorem dX2_repaint_0 : decode cX2_repaint 0 = .ok (.aload_n 0, 1) := dk_42 (dk_at dksX2_repaint_0 0 rfl rfl)
theorem dX2_repaint_1 : decode cX2_repaint 1 = .ok (.iconst 0, 1) := dk_3 (dk_at dksX2_repaint_0 1 rfl rfl)
theorem dX2_repaint_2 : decode cX2_repaint 2 = .ok (.putfield 69, 3) := dk_181 0 69 (dk_at dksX2_repaint_0 2 rfl rfl)
theorem dX2_repaint_5 : decode cX2_repaint 5 = .ok (.aload_n 0, 1) := dk_42 (dk_at dksX2_repaint_0 5 rfl rfl)
theorem dX2_repaint_6 : decode cX2_repaint 6 = .ok (.iload_n 1, 1) := dk_27 (dk_at dksX2_repaint_0 6 rfl rfl)
theorem dX2_repaint_7 : decode cX2_repaint 7 = .ok (.invokevirtual 130, 3) := dk_182 0 130 (dk_at dksX2_repaint_0 7 rfl rfl)
theorem dX2_repaint_10 : decode cX2_repaint 10 = .ok (.ifCond .eq 9, 3) := dk_153 0 9 (dk_at dksX2_repaint_0 10 rfl rfl)
theorem dX2_repaint_13 : decode cX2_repaint 13 = .ok (.aload_n 0, 1) := dk_42 (dk_at dksX2_repaint_0 13 rfl rfl)
theorem dX2_repaint_14 : decode cX2_repaint 14 = .ok (.iconst 1, 1) := dk_4 (dk_at dksX2_repaint_0 14 rfl rfl)
theorem dX2_repaint_15 : decode cX2_repaint 15 = .ok (.invokevirtual 95, 3) := dk_182 0 95 (dk_at dksX2_repaint_0 15 rfl rfl)
theorem dX2_repaint_18 : decode cX2_repaint 18 = .ok (.ireturn, 1) := dk_172 (dk_at dksX2_repaint_0 18 rfl rfl)
theorem dX2_repaint_19 : decode cX2_repaint 19 = .ok (.iload_n 2, 1) := dk_28 (dk_at dksX2_repaint_0 19 rfl rfl)
theorem dX2_repaint_20 : decode cX2_repaint 20 = .ok (.iconst 0, 1) := dk_3 (dk_at dksX2_repaint_0 20 rfl rfl)
theorem dX2_repaint_21 : decode cX2_repaint 21 = .ok (.iconst 3, 1) := dk_6 (dk_at dksX2_repaint_0 21 rfl rfl)
theorem dX2_repaint_22 : decode cX2_repaint 22 = .ok (.invokestatic 76, 3) := dk_184 0 76 (dk_at dksX2_repaint_1 0 rfl rfl)
theorem dX2_repaint_25 : decode cX2_repaint 25 = .ok (.ifCond .ne 9, 3) := dk_154 0 9 (dk_at dksX2_repaint_1 3 rfl rfl)
theorem dX2_repaint_28 : decode cX2_repaint 28 = .ok (.aload_n 0, 1) := dk_42 (dk_at dksX2_repaint_1 6 rfl rfl)
theorem dX2_repaint_29 : decode cX2_repaint 29 = .ok (.iconst 2, 1) := dk_5 (dk_at dksX2_repaint_1 7 rfl rfl)
theorem dX2_repaint_30 : decode cX2_repaint 30 = .ok (.invokevirtual 95, 3) := dk_182 0 95 (dk_at dksX2_repaint_1 8 rfl rfl)
theorem dX2_repaint_33 : decode cX2_repaint 33 = .ok (.ireturn, 1) := dk_172 (dk_at dksX2_repaint_1 11 rfl rfl)
theorem dX2_repaint_34 : decode cX2_repaint 34 = .ok (.aload_n 0, 1) := dk_42 (dk_at dksX2_repaint_1 12 rfl rfl)
theorem dX2_repaint_35 : decode cX2_repaint 35 = .ok (.iload_n 1, 1) := dk_27 (dk_at dksX2_repaint_1 13 rfl rfl)
theorem dX2_repaint_36 : decode cX2_repaint 36 = .ok (.invokevirtual 127, 3) := dk_182 0 127 (dk_at dksX2_repaint_1 14 rfl rfl)
theorem dX2_repaint_39 : decode cX2_repaint 39 = .ok (.istore_n 3, 1) := dk_62 (dk_at dksX2_repaint_1 17 rfl rfl)
theorem dX2_repaint_40 : decode cX2_repaint 40 = .ok (.aload_n 0, 1) := dk_42 (dk_at dksX2_repaint_1 18 rfl rfl)
theorem dX2_repaint_41 : decode cX2_repaint 41 = .ok (.getfield 16, 3) := dk_180 0 16 (dk_at dksX2_repaint_1 19 rfl rfl)
theorem dX2_repaint_44 : decode cX2_repaint 44 = .ok (.iload_n 3, 1) := dk_29 (dk_at dksX2_repaint_1 22 rfl rfl)
theorem dX2_repaint_45 : decode cX2_repaint 45 = .ok (.invokevirtual 80, 3) := dk_182 0 80 (dk_at dksX2_repaint_2 0 rfl rfl)
theorem dX2_repaint_48 : decode cX2_repaint 48 = .ok (.checkcast 84, 3) := dk_192 0 84 (dk_at dksX2_repaint_2 3 rfl rfl)
theorem dX2_repaint_51 : decode cX2_repaint 51 = .ok (.bipush 9, 2) := dk_16 9 (dk_at dksX2_repaint_2 6 rfl rfl)
theorem dX2_repaint_53 : decode cX2_repaint 53 = .ok (.iaload, 1) := dk_46 (dk_at dksX2_repaint_2 8 rfl rfl)
theorem dX2_repaint_54 : decode cX2_repaint 54 = .ok (.iload_n 2, 1) := dk_28 (dk_at dksX2_repaint_2 9 rfl rfl)
theorem dX2_repaint_55 : decode cX2_repaint 55 = .ok (.ishr, 1) := dk_122 (dk_at dksX2_repaint_2 10 rfl rfl)
theorem dX2_repaint_56 : decode cX2_repaint 56 = .ok (.iconst 1, 1) := dk_4 (dk_at dksX2_repaint_2 11 rfl rfl)
theorem dX2_repaint_57 : decode cX2_repaint 57 = .ok (.iand, 1) := dk_126 (dk_at dksX2_repaint_2 12 rfl rfl)
theorem dX2_repaint_58 : decode cX2_repaint 58 = .ok (.ifCond .eq 21, 3) := dk_153 0 21 (dk_at dksX2_repaint_2 13 rfl rfl)
theorem dX2_repaint_61 : decode cX2_repaint 61 = .ok (.aload_n 0, 1) := dk_42 (dk_at dksX2_repaint_2 16 rfl rfl)
theorem dX2_repaint_62 : decode cX2_repaint 62 = .ok (.iload_n 3, 1) := dk_29 (dk_at dksX2_repaint_2 17 rfl rfl)
theorem dX2_repaint_63 : decode cX2_repaint 63 = .ok (.invokevirtual 106, 3) := dk_182 0 106 (dk_at dksX2_repaint_2 18 rfl rfl)
theorem dX2_repaint_66 : decode cX2_repaint 66 = .ok (.ifCond .ne 13, 3) := dk_154 0 13 (dk_at dksX2_repaint_2 21 rfl rfl)
theorem dX2_repaint_69 : decode cX2_repaint 69 = .ok (.aload_n 0, 1) := dk_42 (dk_at dksX2_repaint_3 0 rfl rfl)
theorem dX2_repaint_70 : decode cX2_repaint 70 = .ok (.iload_n 1, 1) := dk_27 (dk_at dksX2_repaint_3 1 rfl rfl)
theorem dX2_repaint_71 : decode cX2_repaint 71 = .ok (.invokevirtual 161, 3) := dk_182 0 161 (dk_at dksX2_repaint_3 2 rfl rfl)
theorem dX2_repaint_74 : decode cX2_repaint 74 = .ok (.bipush 10, 2) := dk_16 10 (dk_at dksX2_repaint_3 5 rfl rfl)
theorem dX2_repaint_76 : decode cX2_repaint 76 = .ok (.if_icmp .lt 9, 3) := dk_161 0 9 (dk_at dksX2_repaint_3 7 rfl rfl)
theorem dX2_repaint_79 : decode cX2_repaint 79 = .ok (.aload_n 0, 1) := dk_42 (dk_at dksX2_repaint_3 10 rfl rfl)
theorem dX2_repaint_80 : decode cX2_repaint 80 = .ok (.iconst 3, 1) := dk_6 (dk_at dksX2_repaint_3 11 rfl rfl)
theorem dX2_repaint_81 : decode cX2_repaint 81 = .ok (.invokevirtual 95, 3) := dk_182 0 95 (dk_at dksX2_repaint_3 12 rfl rfl)
theorem dX2_repaint_84 : decode cX2_repaint 84 = .ok (.ireturn, 1) := dk_172 (dk_at dksX2_repaint_3 15 rfl rfl)
theorem dX2_repaint_85 : decode cX2_repaint 85 = .ok (.lconst 0, 1) := dk_9 (dk_at dksX2_repaint_3 16 rfl rfl)
theorem dX2_repaint_86 : decode cX2_repaint 86 = .ok (.lstore 4, 2) := dk_55 4 (dk_at dksX2_repaint_3 17 rfl rfl)
theorem dX2_repaint_88 : decode cX2_repaint 88 = .ok (.iconst 0, 1) := dk_3 (dk_at dksX2_repaint_3 19 rfl rfl)
theorem dX2_repaint_89 : decode cX2_repaint 89 = .ok (.istore 6, 2) := dk_54 6 (dk_at dksX2_repaint_3 20 rfl rfl)
theorem dX2_repaint_91 : decode cX2_repaint 91 = .ok (.iload 6, 2) := dk_21 6 (dk_at dksX2_repaint_3 22 rfl rfl)
theorem dX2_repaint_93 : decode cX2_repaint 93 = .ok (.aload_n 0, 1) := dk_42 (dk_at dksX2_repaint_4 0 rfl rfl)
theorem dX2_repaint_94 : decode cX2_repaint 94 = .ok (.getfield 27, 3) := dk_180 0 27 (dk_at dksX2_repaint_4 1 rfl rfl)
theorem dX2_repaint_97 : decode cX2_repaint 97 = .ok (.invokevirtual 72, 3) := dk_182 0 72 (dk_at dksX2_repaint_4 4 rfl rfl)
theorem dX2_repaint_100 : decode cX2_repaint 100 = .ok (.if_icmp .ge 40, 3) := dk_162 0 40 (dk_at dksX2_repaint_4 7 rfl rfl)
theorem dX2_repaint_103 : decode cX2_repaint 103 = .ok (.aload_n 0, 1) := dk_42 (dk_at dksX2_repaint_4 10 rfl rfl)
theorem dX2_repaint_104 : decode cX2_repaint 104 = .ok (.getfield 38, 3) := dk_180 0 38 (dk_at dksX2_repaint_4 11 rfl rfl)
theorem dX2_repaint_107 : decode cX2_repaint 107 = .ok (.iload_n 1, 1) := dk_27 (dk_at dksX2_repaint_4 14 rfl rfl)
theorem dX2_repaint_108 : decode cX2_repaint 108 = .ok (.aaload, 1) := dk_50 (dk_at dksX2_repaint_4 15 rfl rfl)
theorem dX2_repaint_109 : decode cX2_repaint 109 = .ok (.iload 6, 2) := dk_21 6 (dk_at dksX2_repaint_4 16 rfl rfl)
theorem dX2_repaint_111 : decode cX2_repaint 111 = .ok (.baload, 1) := dk_51 (dk_at dksX2_repaint_4 18 rfl rfl)
theorem dX2_repaint_112 : decode cX2_repaint 112 = .ok (.ifCond .eq 22, 3) := dk_153 0 22 (dk_at dksX2_repaint_4 19 rfl rfl)
theorem dX2_repaint_115 : decode cX2_repaint 115 = .ok (.lload 4, 2) := dk_22 4 (dk_at dksX2_repaint_4 22 rfl rfl)
theorem dX2_repaint_117 : decode cX2_repaint 117 = .ok (.aload_n 0, 1) := dk_42 (dk_at dksX2_repaint_5 0 rfl rfl)
theorem dX2_repaint_118 : decode cX2_repaint 118 = .ok (.getfield 30, 3) := dk_180 0 30 (dk_at dksX2_repaint_5 1 rfl rfl)
theorem dX2_repaint_121 : decode cX2_repaint 121 = .ok (.iload 6, 2) := dk_21 6 (dk_at dksX2_repaint_5 4 rfl rfl)
theorem dX2_repaint_123 : decode cX2_repaint 123 = .ok (.laload, 1) := dk_47 (dk_at dksX2_repaint_5 6 rfl rfl)
theorem dX2_repaint_124 : decode cX2_repaint 124 = .ok (.aload_n 0, 1) := dk_42 (dk_at dksX2_repaint_5 7 rfl rfl)
theorem dX2_repaint_125 : decode cX2_repaint 125 = .ok (.getfield 23, 3) := dk_180 0 23 (dk_at dksX2_repaint_5 8 rfl rfl)
theorem dX2_repaint_128 : decode cX2_repaint 128 = .ok (.iload_n 3, 1) := dk_29 (dk_at dksX2_repaint_5 11 rfl rfl)
theorem dX2_repaint_129 : decode cX2_repaint 129 = .ok (.laload, 1) := dk_47 (dk_at dksX2_repaint_5 12 rfl rfl)
theorem dX2_repaint_130 : decode cX2_repaint 130 = .ok (.land, 1) := dk_127 (dk_at dksX2_repaint_5 13 rfl rfl)
theorem dX2_repaint_131 : decode cX2_repaint 131 = .ok (.lor, 1) := dk_129 (dk_at dksX2_repaint_5 14 rfl rfl)
theorem dX2_repaint_132 : decode cX2_repaint 132 = .ok (.lstore 4, 2) := dk_55 4 (dk_at dksX2_repaint_5 15 rfl rfl)
theorem dX2_repaint_134 : decode cX2_repaint 134 = .ok (.iinc 6 1, 3) := dk_132 6 1 (dk_at dksX2_repaint_5 17 rfl rfl)
theorem dX2_repaint_137 : decode cX2_repaint 137 = .ok (.goto (-46), 3) := dk_167 255 210 (dk_at dksX2_repaint_5 20 rfl rfl)
theorem dX2_repaint_140 : decode cX2_repaint 140 = .ok (.aload_n 0, 1) := dk_42 (dk_at dksX2_repaint_5 23 rfl rfl)
theorem dX2_repaint_141 : decode cX2_repaint 141 = .ok (.getfield 23, 3) := dk_180 0 23 (dk_at dksX2_repaint_6 0 rfl rfl)
theorem dX2_repaint_144 : decode cX2_repaint 144 = .ok (.iload_n 3, 1) := dk_29 (dk_at dksX2_repaint_6 3 rfl rfl)
theorem dX2_repaint_145 : decode cX2_repaint 145 = .ok (.dup2, 1) := dk_92 (dk_at dksX2_repaint_6 4 rfl rfl)
theorem dX2_repaint_146 : decode cX2_repaint 146 = .ok (.laload, 1) := dk_47 (dk_at dksX2_repaint_6 5 rfl rfl)
theorem dX2_repaint_147 : decode cX2_repaint 147 = .ok (.lload 4, 2) := dk_22 4 (dk_at dksX2_repaint_6 6 rfl rfl)
theorem dX2_repaint_149 : decode cX2_repaint 149 = .ok (.ldc2_w 136, 3) := dk_20 0 136 (dk_at dksX2_repaint_6 8 rfl rfl)
theorem dX2_repaint_152 : decode cX2_repaint 152 = .ok (.lxor, 1) := dk_131 (dk_at dksX2_repaint_6 11 rfl rfl)
theorem dX2_repaint_153 : decode cX2_repaint 153 = .ok (.land, 1) := dk_127 (dk_at dksX2_repaint_6 12 rfl rfl)
theorem dX2_repaint_154 : decode cX2_repaint 154 = .ok (.lastore, 1) := dk_80 (dk_at dksX2_repaint_6 13 rfl rfl)
theorem dX2_repaint_155 : decode cX2_repaint 155 = .ok (.lload 4, 2) := dk_22 4 (dk_at dksX2_repaint_6 14 rfl rfl)
theorem dX2_repaint_157 : decode cX2_repaint 157 = .ok (.invokestatic 142, 3) := dk_184 0 142 (dk_at dksX2_repaint_6 16 rfl rfl)
theorem dX2_repaint_160 : decode cX2_repaint 160 = .ok (.ireturn, 1) := dk_172 (dk_at dksX2_repaint_6 19 rfl rfl)
abbrev cX2_passYears : ByteArray := prog_18_method_70_code
def yX2_passYears : MethodName := ⟨RX2, "passYears", "(I)I"⟩
def dkwX2_passYears_5 : List UInt8 := [16, 8, 3, 79, 132, 3, 1, 167, 255, 189, 132, 2, 1, 167, 255, 166, 42, 180, 0, 89, 172]
abbrev dktX2_passYears_5 : List UInt8 := dkwX2_passYears_5 ++ []
def dkwX2_passYears_4 : List UInt8 := [16, 6, 46, 42, 29, 182, 0, 240, 100, 184, 0, 234, 79, 42, 180, 0, 16, 29, 182, 0, 80, 192, 0, 84]
abbrev dktX2_passYears_4 : List UInt8 := dkwX2_passYears_4 ++ dktX2_passYears_5
def dkwX2_passYears_3 : List UInt8 := [180, 0, 16, 29, 182, 0, 80, 192, 0, 84, 16, 6, 3, 42, 180, 0, 16, 29, 182, 0, 80, 192, 0, 84]
abbrev dktX2_passYears_3 : List UInt8 := dkwX2_passYears_3 ++ dktX2_passYears_4
def dkwX2_passYears_2 : List UInt8 := [42, 89, 180, 0, 89, 4, 96, 181, 0, 89, 3, 62, 29, 42, 180, 0, 16, 182, 0, 72, 162, 0, 62, 42]
abbrev dktX2_passYears_2 : List UInt8 := dkwX2_passYears_2 ++ dktX2_passYears_3
def dkwX2_passYears_1 : List UInt8 := [180, 0, 89, 27, 96, 17, 0, 200, 164, 0, 9, 42, 5, 182, 0, 95, 172, 3, 61, 28, 27, 162, 0, 91]
abbrev dktX2_passYears_1 : List UInt8 := dkwX2_passYears_1 ++ dktX2_passYears_2
def dkwX2_passYears_0 : List UInt8 := [42, 3, 181, 0, 69, 27, 4, 16, 50, 184, 0, 76, 154, 0, 9, 42, 4, 182, 0, 95, 172, 42]
abbrev dktX2_passYears_0 : List UInt8 := dkwX2_passYears_0 ++ dktX2_passYears_1
theorem dksX2_passYears_0 : cX2_passYears.data.toList.drop 0 = dktX2_passYears_0 := by decide +kernel
theorem dksX2_passYears_1 : cX2_passYears.data.toList.drop 22 = dktX2_passYears_1 := dk_seg dksX2_passYears_0 22 rfl rfl
theorem dksX2_passYears_2 : cX2_passYears.data.toList.drop 46 = dktX2_passYears_2 := dk_seg dksX2_passYears_1 24 rfl rfl
theorem dksX2_passYears_3 : cX2_passYears.data.toList.drop 70 = dktX2_passYears_3 := dk_seg dksX2_passYears_2 24 rfl rfl
theorem dksX2_passYears_4 : cX2_passYears.data.toList.drop 94 = dktX2_passYears_4 := dk_seg dksX2_passYears_3 24 rfl rfl
theorem dksX2_passYears_5 : cX2_passYears.data.toList.drop 118 = dktX2_passYears_5 := dk_seg dksX2_passYears_4 24 rfl rfl
theorem dX2_passYears_0 : decode cX2_passYears 0 = .ok (.aload_n 0, 1) := dk_42 (dk_at dksX2_passYears_0 0 rfl rfl)
theorem dX2_passYears_1 : decode cX2_passYears 1 = .ok (.iconst 0, 1) := dk_3 (dk_at dksX2_passYears_0 1 rfl rfl)
theorem dX2_passYears_2 : decode cX2_passYears 2 = .ok (.putfield 69, 3) := dk_181 0 69 (dk_at dksX2_passYears_0 2 rfl rfl)
theorem dX2_passYears_5 : decode cX2_passYears 5 = .ok (.iload_n 1, 1) := dk_27 (dk_at dksX2_passYears_0 5 rfl rfl)
theorem dX2_passYears_6 : decode cX2_passYears 6 = .ok (.iconst 1, 1) := dk_4 (dk_at dksX2_passYears_0 6 rfl rfl)
theorem dX2_passYears_7 : decode cX2_passYears 7 = .ok (.bipush 50, 2) := dk_16 50 (dk_at dksX2_passYears_0 7 rfl rfl)
theorem dX2_passYears_9 : decode cX2_passYears 9 = .ok (.invokestatic 76, 3) := dk_184 0 76 (dk_at dksX2_passYears_0 9 rfl rfl)
theorem dX2_passYears_12 : decode cX2_passYears 12 = .ok (.ifCond .ne 9, 3) := dk_154 0 9 (dk_at dksX2_passYears_0 12 rfl rfl)
theorem dX2_passYears_15 : decode cX2_passYears 15 = .ok (.aload_n 0, 1) := dk_42 (dk_at dksX2_passYears_0 15 rfl rfl)
theorem dX2_passYears_16 : decode cX2_passYears 16 = .ok (.iconst 1, 1) := dk_4 (dk_at dksX2_passYears_0 16 rfl rfl)
theorem dX2_passYears_17 : decode cX2_passYears 17 = .ok (.invokevirtual 95, 3) := dk_182 0 95 (dk_at dksX2_passYears_0 17 rfl rfl)
theorem dX2_passYears_20 : decode cX2_passYears 20 = .ok (.ireturn, 1) := dk_172 (dk_at dksX2_passYears_0 20 rfl rfl)
theorem dX2_passYears_21 : decode cX2_passYears 21 = .ok (.aload_n 0, 1) := dk_42 (dk_at dksX2_passYears_0 21 rfl rfl)
theorem dX2_passYears_22 : decode cX2_passYears 22 = .ok (.getfield 89, 3) := dk_180 0 89 (dk_at dksX2_passYears_1 0 rfl rfl)
theorem dX2_passYears_25 : decode cX2_passYears 25 = .ok (.iload_n 1, 1) := dk_27 (dk_at dksX2_passYears_1 3 rfl rfl)
theorem dX2_passYears_26 : decode cX2_passYears 26 = .ok (.iadd, 1) := dk_96 (dk_at dksX2_passYears_1 4 rfl rfl)
theorem dX2_passYears_27 : decode cX2_passYears 27 = .ok (.sipush 200, 3) := dk_17 0 200 (dk_at dksX2_passYears_1 5 rfl rfl)
theorem dX2_passYears_30 : decode cX2_passYears 30 = .ok (.if_icmp .le 9, 3) := dk_164 0 9 (dk_at dksX2_passYears_1 8 rfl rfl)
theorem dX2_passYears_33 : decode cX2_passYears 33 = .ok (.aload_n 0, 1) := dk_42 (dk_at dksX2_passYears_1 11 rfl rfl)
theorem dX2_passYears_34 : decode cX2_passYears 34 = .ok (.iconst 2, 1) := dk_5 (dk_at dksX2_passYears_1 12 rfl rfl)
theorem dX2_passYears_35 : decode cX2_passYears 35 = .ok (.invokevirtual 95, 3) := dk_182 0 95 (dk_at dksX2_passYears_1 13 rfl rfl)
theorem dX2_passYears_38 : decode cX2_passYears 38 = .ok (.ireturn, 1) := dk_172 (dk_at dksX2_passYears_1 16 rfl rfl)
theorem dX2_passYears_39 : decode cX2_passYears 39 = .ok (.iconst 0, 1) := dk_3 (dk_at dksX2_passYears_1 17 rfl rfl)
theorem dX2_passYears_40 : decode cX2_passYears 40 = .ok (.istore_n 2, 1) := dk_61 (dk_at dksX2_passYears_1 18 rfl rfl)
theorem dX2_passYears_41 : decode cX2_passYears 41 = .ok (.iload_n 2, 1) := dk_28 (dk_at dksX2_passYears_1 19 rfl rfl)
theorem dX2_passYears_42 : decode cX2_passYears 42 = .ok (.iload_n 1, 1) := dk_27 (dk_at dksX2_passYears_1 20 rfl rfl)
theorem dX2_passYears_43 : decode cX2_passYears 43 = .ok (.if_icmp .ge 91, 3) := dk_162 0 91 (dk_at dksX2_passYears_1 21 rfl rfl)
theorem dX2_passYears_46 : decode cX2_passYears 46 = .ok (.aload_n 0, 1) := dk_42 (dk_at dksX2_passYears_2 0 rfl rfl)
theorem dX2_passYears_47 : decode cX2_passYears 47 = .ok (.dup, 1) := dk_89 (dk_at dksX2_passYears_2 1 rfl rfl)
theorem dX2_passYears_48 : decode cX2_passYears 48 = .ok (.getfield 89, 3) := dk_180 0 89 (dk_at dksX2_passYears_2 2 rfl rfl)
theorem dX2_passYears_51 : decode cX2_passYears 51 = .ok (.iconst 1, 1) := dk_4 (dk_at dksX2_passYears_2 5 rfl rfl)
theorem dX2_passYears_52 : decode cX2_passYears 52 = .ok (.iadd, 1) := dk_96 (dk_at dksX2_passYears_2 6 rfl rfl)
theorem dX2_passYears_53 : decode cX2_passYears 53 = .ok (.putfield 89, 3) := dk_181 0 89 (dk_at dksX2_passYears_2 7 rfl rfl)
theorem dX2_passYears_56 : decode cX2_passYears 56 = .ok (.iconst 0, 1) := dk_3 (dk_at dksX2_passYears_2 10 rfl rfl)
theorem dX2_passYears_57 : decode cX2_passYears 57 = .ok (.istore_n 3, 1) := dk_62 (dk_at dksX2_passYears_2 11 rfl rfl)
theorem dX2_passYears_58 : decode cX2_passYears 58 = .ok (.iload_n 3, 1) := dk_29 (dk_at dksX2_passYears_2 12 rfl rfl)
theorem dX2_passYears_59 : decode cX2_passYears 59 = .ok (.aload_n 0, 1) := dk_42 (dk_at dksX2_passYears_2 13 rfl rfl)
theorem dX2_passYears_60 : decode cX2_passYears 60 = .ok (.getfield 16, 3) := dk_180 0 16 (dk_at dksX2_passYears_2 14 rfl rfl)
theorem dX2_passYears_63 : decode cX2_passYears 63 = .ok (.invokevirtual 72, 3) := dk_182 0 72 (dk_at dksX2_passYears_2 17 rfl rfl)
theorem dX2_passYears_66 : decode cX2_passYears 66 = .ok (.if_icmp .ge 62, 3) := dk_162 0 62 (dk_at dksX2_passYears_2 20 rfl rfl)
theorem dX2_passYears_69 : decode cX2_passYears 69 = .ok (.aload_n 0, 1) := dk_42 (dk_at dksX2_passYears_2 23 rfl rfl)
theorem dX2_passYears_70 : decode cX2_passYears 70 = .ok (.getfield 16, 3) := dk_180 0 16 (dk_at dksX2_passYears_3 0 rfl rfl)
theorem dX2_passYears_73 : decode cX2_passYears 73 = .ok (.iload_n 3, 1) := dk_29 (dk_at dksX2_passYears_3 3 rfl rfl)
theorem dX2_passYears_74 : decode cX2_passYears 74 = .ok (.invokevirtual 80, 3) := dk_182 0 80 (dk_at dksX2_passYears_3 4 rfl rfl)
theorem dX2_passYears_77 : decode cX2_passYears 77 = .ok (.checkcast 84, 3) := dk_192 0 84 (dk_at dksX2_passYears_3 7 rfl rfl)
theorem dX2_passYears_80 : decode cX2_passYears 80 = .ok (.bipush 6, 2) := dk_16 6 (dk_at dksX2_passYears_3 10 rfl rfl)
theorem dX2_passYears_82 : decode cX2_passYears 82 = .ok (.iconst 0, 1) := dk_3 (dk_at dksX2_passYears_3 12 rfl rfl)
theorem dX2_passYears_83 : decode cX2_passYears 83 = .ok (.aload_n 0, 1) := dk_42 (dk_at dksX2_passYears_3 13 rfl rfl)
theorem dX2_passYears_84 : decode cX2_passYears 84 = .ok (.getfield 16, 3) := dk_180 0 16 (dk_at dksX2_passYears_3 14 rfl rfl)
theorem dX2_passYears_87 : decode cX2_passYears 87 = .ok (.iload_n 3, 1) := dk_29 (dk_at dksX2_passYears_3 17 rfl rfl)
theorem dX2_passYears_88 : decode cX2_passYears 88 = .ok (.invokevirtual 80, 3) := dk_182 0 80 (dk_at dksX2_passYears_3 18 rfl rfl)
theorem dX2_passYears_91 : decode cX2_passYears 91 = .ok (.checkcast 84, 3) := dk_192 0 84 (dk_at dksX2_passYears_3 21 rfl rfl)
theorem dX2_passYears_94 : decode cX2_passYears 94 = .ok (.bipush 6, 2) := dk_16 6 (dk_at dksX2_passYears_4 0 rfl rfl)
theorem dX2_passYears_96 : decode cX2_passYears 96 = .ok (.iaload, 1) := dk_46 (dk_at dksX2_passYears_4 2 rfl rfl)
theorem dX2_passYears_97 : decode cX2_passYears 97 = .ok (.aload_n 0, 1) := dk_42 (dk_at dksX2_passYears_4 3 rfl rfl)
theorem dX2_passYears_98 : decode cX2_passYears 98 = .ok (.iload_n 3, 1) := dk_29 (dk_at dksX2_passYears_4 4 rfl rfl)
theorem dX2_passYears_99 : decode cX2_passYears 99 = .ok (.invokevirtual 240, 3) := dk_182 0 240 (dk_at dksX2_passYears_4 5 rfl rfl)
theorem dX2_passYears_102 : decode cX2_passYears 102 = .ok (.isub, 1) := dk_100 (dk_at dksX2_passYears_4 8 rfl rfl)
theorem dX2_passYears_103 : decode cX2_passYears 103 = .ok (.invokestatic 234, 3) := dk_184 0 234 (dk_at dksX2_passYears_4 9 rfl rfl)
theorem dX2_passYears_106 : decode cX2_passYears 106 = .ok (.iastore, 1) := dk_79 (dk_at dksX2_passYears_4 12 rfl rfl)
theorem dX2_passYears_107 : decode cX2_passYears 107 = .ok (.aload_n 0, 1) := dk_42 (dk_at dksX2_passYears_4 13 rfl rfl)
theorem dX2_passYears_108 : decode cX2_passYears 108 = .ok (.getfield 16, 3) := dk_180 0 16 (dk_at dksX2_passYears_4 14 rfl rfl)
theorem dX2_passYears_111 : decode cX2_passYears 111 = .ok (.iload_n 3, 1) := dk_29 (dk_at dksX2_passYears_4 17 rfl rfl)
theorem dX2_passYears_112 : decode cX2_passYears 112 = .ok (.invokevirtual 80, 3) := dk_182 0 80 (dk_at dksX2_passYears_4 18 rfl rfl)
theorem dX2_passYears_115 : decode cX2_passYears 115 = .ok (.checkcast 84, 3) := dk_192 0 84 (dk_at dksX2_passYears_4 21 rfl rfl)
theorem dX2_passYears_118 : decode cX2_passYears 118 = .ok (.bipush 8, 2) := dk_16 8 (dk_at dksX2_passYears_5 0 rfl rfl)
theorem dX2_passYears_120 : decode cX2_passYears 120 = .ok (.iconst 0, 1) := dk_3 (dk_at dksX2_passYears_5 2 rfl rfl)
theorem dX2_passYears_121 : decode cX2_passYears 121 = .ok (.iastore, 1) := dk_79 (dk_at dksX2_passYears_5 3 rfl rfl)
theorem dX2_passYears_122 : decode cX2_passYears 122 = .ok (.iinc 3 1, 3) := dk_132 3 1 (dk_at dksX2_passYears_5 4 rfl rfl)
theorem dX2_passYears_125 : decode cX2_passYears 125 = .ok (.goto (-67), 3) := dk_167 255 189 (dk_at dksX2_passYears_5 7 rfl rfl)
theorem dX2_passYears_128 : decode cX2_passYears 128 = .ok (.iinc 2 1, 3) := dk_132 2 1 (dk_at dksX2_passYears_5 10 rfl rfl)
theorem dX2_passYears_131 : decode cX2_passYears 131 = .ok (.goto (-90), 3) := dk_167 255 166 (dk_at dksX2_passYears_5 13 rfl rfl)
theorem dX2_passYears_134 : decode cX2_passYears 134 = .ok (.aload_n 0, 1) := dk_42 (dk_at dksX2_passYears_5 16 rfl rfl)
theorem dX2_passYears_135 : decode cX2_passYears 135 = .ok (.getfield 89, 3) := dk_180 0 89 (dk_at dksX2_passYears_5 17 rfl rfl)
theorem dX2_passYears_138 : decode cX2_passYears 138 = .ok (.ireturn, 1) := dk_172 (dk_at dksX2_passYears_5 20 rfl rfl)
abbrev cX2_decay : ByteArray := prog_18_method_69_code
def yX2_decay : MethodName := ⟨RX2, "decay", "(I)I"⟩
def dkwX2_decay_1 : List UInt8 := [44, 7, 46, 96, 44, 8, 46, 100, 184, 0, 234, 172]
abbrev dktX2_decay_1 : List UInt8 := dkwX2_decay_1 ++ []
def dkwX2_decay_0 : List UInt8 := [42, 180, 0, 16, 27, 182, 0, 80, 192, 0, 84, 77, 3, 6, 44, 5, 46, 104, 5, 44, 6, 46, 104, 96]
abbrev dktX2_decay_0 : List UInt8 := dkwX2_decay_0 ++ dktX2_decay_1
theorem dksX2_decay_0 : cX2_decay.data.toList.drop 0 = dktX2_decay_0 := by decide +kernel
theorem dksX2_decay_1 : cX2_decay.data.toList.drop 24 = dktX2_decay_1 := dk_seg dksX2_decay_0 24 rfl rfl
theorem dX2_decay_0 : decode cX2_decay 0 = .ok (.aload_n 0, 1) := dk_42 (dk_at dksX2_decay_0 0 rfl rfl)
theorem dX2_decay_1 : decode cX2_decay 1 = .ok (.getfield 16, 3) := dk_180 0 16 (dk_at dksX2_decay_0 1 rfl rfl)
theorem dX2_decay_4 : decode cX2_decay 4 = .ok (.iload_n 1, 1) := dk_27 (dk_at dksX2_decay_0 4 rfl rfl)
theorem dX2_decay_5 : decode cX2_decay 5 = .ok (.invokevirtual 80, 3) := dk_182 0 80 (dk_at dksX2_decay_0 5 rfl rfl)
theorem dX2_decay_8 : decode cX2_decay 8 = .ok (.checkcast 84, 3) := dk_192 0 84 (dk_at dksX2_decay_0 8 rfl rfl)
theorem dX2_decay_11 : decode cX2_decay 11 = .ok (.astore_n 2, 1) := dk_77 (dk_at dksX2_decay_0 11 rfl rfl)
theorem dX2_decay_12 : decode cX2_decay 12 = .ok (.iconst 0, 1) := dk_3 (dk_at dksX2_decay_0 12 rfl rfl)
theorem dX2_decay_13 : decode cX2_decay 13 = .ok (.iconst 3, 1) := dk_6 (dk_at dksX2_decay_0 13 rfl rfl)
theorem dX2_decay_14 : decode cX2_decay 14 = .ok (.aload_n 2, 1) := dk_44 (dk_at dksX2_decay_0 14 rfl rfl)
theorem dX2_decay_15 : decode cX2_decay 15 = .ok (.iconst 2, 1) := dk_5 (dk_at dksX2_decay_0 15 rfl rfl)
theorem dX2_decay_16 : decode cX2_decay 16 = .ok (.iaload, 1) := dk_46 (dk_at dksX2_decay_0 16 rfl rfl)
theorem dX2_decay_17 : decode cX2_decay 17 = .ok (.imul, 1) := dk_104 (dk_at dksX2_decay_0 17 rfl rfl)
theorem dX2_decay_18 : decode cX2_decay 18 = .ok (.iconst 2, 1) := dk_5 (dk_at dksX2_decay_0 18 rfl rfl)
theorem dX2_decay_19 : decode cX2_decay 19 = .ok (.aload_n 2, 1) := dk_44 (dk_at dksX2_decay_0 19 rfl rfl)
theorem dX2_decay_20 : decode cX2_decay 20 = .ok (.iconst 3, 1) := dk_6 (dk_at dksX2_decay_0 20 rfl rfl)
theorem dX2_decay_21 : decode cX2_decay 21 = .ok (.iaload, 1) := dk_46 (dk_at dksX2_decay_0 21 rfl rfl)
theorem dX2_decay_22 : decode cX2_decay 22 = .ok (.imul, 1) := dk_104 (dk_at dksX2_decay_0 22 rfl rfl)
theorem dX2_decay_23 : decode cX2_decay 23 = .ok (.iadd, 1) := dk_96 (dk_at dksX2_decay_0 23 rfl rfl)
theorem dX2_decay_24 : decode cX2_decay 24 = .ok (.aload_n 2, 1) := dk_44 (dk_at dksX2_decay_1 0 rfl rfl)
theorem dX2_decay_25 : decode cX2_decay 25 = .ok (.iconst 4, 1) := dk_7 (dk_at dksX2_decay_1 1 rfl rfl)
theorem dX2_decay_26 : decode cX2_decay 26 = .ok (.iaload, 1) := dk_46 (dk_at dksX2_decay_1 2 rfl rfl)
theorem dX2_decay_27 : decode cX2_decay 27 = .ok (.iadd, 1) := dk_96 (dk_at dksX2_decay_1 3 rfl rfl)
theorem dX2_decay_28 : decode cX2_decay 28 = .ok (.aload_n 2, 1) := dk_44 (dk_at dksX2_decay_1 4 rfl rfl)
theorem dX2_decay_29 : decode cX2_decay 29 = .ok (.iconst 5, 1) := dk_8 (dk_at dksX2_decay_1 5 rfl rfl)
theorem dX2_decay_30 : decode cX2_decay 30 = .ok (.iaload, 1) := dk_46 (dk_at dksX2_decay_1 6 rfl rfl)
theorem dX2_decay_31 : decode cX2_decay 31 = .ok (.isub, 1) := dk_100 (dk_at dksX2_decay_1 7 rfl rfl)
theorem dX2_decay_32 : decode cX2_decay 32 = .ok (.invokestatic 234, 3) := dk_184 0 234 (dk_at dksX2_decay_1 8 rfl rfl)
theorem dX2_decay_35 : decode cX2_decay 35 = .ok (.ireturn, 1) := dk_172 (dk_at dksX2_decay_1 11 rfl rfl)
abbrev cX2_setDecay : ByteArray := prog_18_method_71_code
def yX2_setDecay : MethodName := ⟨RX2, "setDecay", "(IIII)I"⟩
def dkwX2_setDecay_4 : List UInt8 := [7, 21, 4, 79, 42, 27, 182, 0, 240, 172]
abbrev dktX2_setDecay_4 : List UInt8 := dkwX2_setDecay_4 ++ []
def dkwX2_setDecay_3 : List UInt8 := [180, 0, 16, 27, 182, 0, 80, 192, 0, 84, 6, 29, 79, 42, 180, 0, 16, 27, 182, 0, 80, 192, 0, 84]
abbrev dktX2_setDecay_3 : List UInt8 := dkwX2_setDecay_3 ++ dktX2_setDecay_4
def dkwX2_setDecay_2 : List UInt8 := [154, 0, 9, 42, 5, 182, 0, 95, 172, 42, 180, 0, 16, 27, 182, 0, 80, 192, 0, 84, 5, 28, 79, 42]
abbrev dktX2_setDecay_2 : List UInt8 := dkwX2_setDecay_2 ++ dktX2_setDecay_3
def dkwX2_setDecay_1 : List UInt8 := [184, 0, 76, 153, 0, 24, 29, 3, 16, 9, 184, 0, 76, 153, 0, 14, 21, 4, 3, 16, 9, 184, 0, 76]
abbrev dktX2_setDecay_1 : List UInt8 := dkwX2_setDecay_1 ++ dktX2_setDecay_2
def dkwX2_setDecay_0 : List UInt8 := [42, 3, 181, 0, 69, 42, 27, 182, 0, 103, 153, 0, 9, 42, 4, 182, 0, 95, 172, 28, 3, 16, 9]
abbrev dktX2_setDecay_0 : List UInt8 := dkwX2_setDecay_0 ++ dktX2_setDecay_1
theorem dksX2_setDecay_0 : cX2_setDecay.data.toList.drop 0 = dktX2_setDecay_0 := by decide +kernel
theorem dksX2_setDecay_1 : cX2_setDecay.data.toList.drop 23 = dktX2_setDecay_1 := dk_seg dksX2_setDecay_0 23 rfl rfl
theorem dksX2_setDecay_2 : cX2_setDecay.data.toList.drop 47 = dktX2_setDecay_2 := dk_seg dksX2_setDecay_1 24 rfl rfl
theorem dksX2_setDecay_3 : cX2_setDecay.data.toList.drop 71 = dktX2_setDecay_3 := dk_seg dksX2_setDecay_2 24 rfl rfl
theorem dksX2_setDecay_4 : cX2_setDecay.data.toList.drop 95 = dktX2_setDecay_4 := dk_seg dksX2_setDecay_3 24 rfl rfl
theorem dX2_setDecay_0 : decode cX2_setDecay 0 = .ok (.aload_n 0, 1) := dk_42 (dk_at dksX2_setDecay_0 0 rfl rfl)
theorem dX2_setDecay_1 : decode cX2_setDecay 1 = .ok (.iconst 0, 1) := dk_3 (dk_at dksX2_setDecay_0 1 rfl rfl)
theorem dX2_setDecay_2 : decode cX2_setDecay 2 = .ok (.putfield 69, 3) := dk_181 0 69 (dk_at dksX2_setDecay_0 2 rfl rfl)
theorem dX2_setDecay_5 : decode cX2_setDecay 5 = .ok (.aload_n 0, 1) := dk_42 (dk_at dksX2_setDecay_0 5 rfl rfl)
theorem dX2_setDecay_6 : decode cX2_setDecay 6 = .ok (.iload_n 1, 1) := dk_27 (dk_at dksX2_setDecay_0 6 rfl rfl)
theorem dX2_setDecay_7 : decode cX2_setDecay 7 = .ok (.invokevirtual 103, 3) := dk_182 0 103 (dk_at dksX2_setDecay_0 7 rfl rfl)
theorem dX2_setDecay_10 : decode cX2_setDecay 10 = .ok (.ifCond .eq 9, 3) := dk_153 0 9 (dk_at dksX2_setDecay_0 10 rfl rfl)
theorem dX2_setDecay_13 : decode cX2_setDecay 13 = .ok (.aload_n 0, 1) := dk_42 (dk_at dksX2_setDecay_0 13 rfl rfl)
theorem dX2_setDecay_14 : decode cX2_setDecay 14 = .ok (.iconst 1, 1) := dk_4 (dk_at dksX2_setDecay_0 14 rfl rfl)
theorem dX2_setDecay_15 : decode cX2_setDecay 15 = .ok (.invokevirtual 95, 3) := dk_182 0 95 (dk_at dksX2_setDecay_0 15 rfl rfl)
theorem dX2_setDecay_18 : decode cX2_setDecay 18 = .ok (.ireturn, 1) := dk_172 (dk_at dksX2_setDecay_0 18 rfl rfl)
theorem dX2_setDecay_19 : decode cX2_setDecay 19 = .ok (.iload_n 2, 1) := dk_28 (dk_at dksX2_setDecay_0 19 rfl rfl)
theorem dX2_setDecay_20 : decode cX2_setDecay 20 = .ok (.iconst 0, 1) := dk_3 (dk_at dksX2_setDecay_0 20 rfl rfl)
theorem dX2_setDecay_21 : decode cX2_setDecay 21 = .ok (.bipush 9, 2) := dk_16 9 (dk_at dksX2_setDecay_0 21 rfl rfl)
theorem dX2_setDecay_23 : decode cX2_setDecay 23 = .ok (.invokestatic 76, 3) := dk_184 0 76 (dk_at dksX2_setDecay_1 0 rfl rfl)
theorem dX2_setDecay_26 : decode cX2_setDecay 26 = .ok (.ifCond .eq 24, 3) := dk_153 0 24 (dk_at dksX2_setDecay_1 3 rfl rfl)
theorem dX2_setDecay_29 : decode cX2_setDecay 29 = .ok (.iload_n 3, 1) := dk_29 (dk_at dksX2_setDecay_1 6 rfl rfl)
theorem dX2_setDecay_30 : decode cX2_setDecay 30 = .ok (.iconst 0, 1) := dk_3 (dk_at dksX2_setDecay_1 7 rfl rfl)
theorem dX2_setDecay_31 : decode cX2_setDecay 31 = .ok (.bipush 9, 2) := dk_16 9 (dk_at dksX2_setDecay_1 8 rfl rfl)
theorem dX2_setDecay_33 : decode cX2_setDecay 33 = .ok (.invokestatic 76, 3) := dk_184 0 76 (dk_at dksX2_setDecay_1 10 rfl rfl)
theorem dX2_setDecay_36 : decode cX2_setDecay 36 = .ok (.ifCond .eq 14, 3) := dk_153 0 14 (dk_at dksX2_setDecay_1 13 rfl rfl)
theorem dX2_setDecay_39 : decode cX2_setDecay 39 = .ok (.iload 4, 2) := dk_21 4 (dk_at dksX2_setDecay_1 16 rfl rfl)
theorem dX2_setDecay_41 : decode cX2_setDecay 41 = .ok (.iconst 0, 1) := dk_3 (dk_at dksX2_setDecay_1 18 rfl rfl)
theorem dX2_setDecay_42 : decode cX2_setDecay 42 = .ok (.bipush 9, 2) := dk_16 9 (dk_at dksX2_setDecay_1 19 rfl rfl)
theorem dX2_setDecay_44 : decode cX2_setDecay 44 = .ok (.invokestatic 76, 3) := dk_184 0 76 (dk_at dksX2_setDecay_1 21 rfl rfl)
theorem dX2_setDecay_47 : decode cX2_setDecay 47 = .ok (.ifCond .ne 9, 3) := dk_154 0 9 (dk_at dksX2_setDecay_2 0 rfl rfl)
theorem dX2_setDecay_50 : decode cX2_setDecay 50 = .ok (.aload_n 0, 1) := dk_42 (dk_at dksX2_setDecay_2 3 rfl rfl)
theorem dX2_setDecay_51 : decode cX2_setDecay 51 = .ok (.iconst 2, 1) := dk_5 (dk_at dksX2_setDecay_2 4 rfl rfl)
theorem dX2_setDecay_52 : decode cX2_setDecay 52 = .ok (.invokevirtual 95, 3) := dk_182 0 95 (dk_at dksX2_setDecay_2 5 rfl rfl)
theorem dX2_setDecay_55 : decode cX2_setDecay 55 = .ok (.ireturn, 1) := dk_172 (dk_at dksX2_setDecay_2 8 rfl rfl)
theorem dX2_setDecay_56 : decode cX2_setDecay 56 = .ok (.aload_n 0, 1) := dk_42 (dk_at dksX2_setDecay_2 9 rfl rfl)
theorem dX2_setDecay_57 : decode cX2_setDecay 57 = .ok (.getfield 16, 3) := dk_180 0 16 (dk_at dksX2_setDecay_2 10 rfl rfl)
theorem dX2_setDecay_60 : decode cX2_setDecay 60 = .ok (.iload_n 1, 1) := dk_27 (dk_at dksX2_setDecay_2 13 rfl rfl)
theorem dX2_setDecay_61 : decode cX2_setDecay 61 = .ok (.invokevirtual 80, 3) := dk_182 0 80 (dk_at dksX2_setDecay_2 14 rfl rfl)
theorem dX2_setDecay_64 : decode cX2_setDecay 64 = .ok (.checkcast 84, 3) := dk_192 0 84 (dk_at dksX2_setDecay_2 17 rfl rfl)
theorem dX2_setDecay_67 : decode cX2_setDecay 67 = .ok (.iconst 2, 1) := dk_5 (dk_at dksX2_setDecay_2 20 rfl rfl)
theorem dX2_setDecay_68 : decode cX2_setDecay 68 = .ok (.iload_n 2, 1) := dk_28 (dk_at dksX2_setDecay_2 21 rfl rfl)
theorem dX2_setDecay_69 : decode cX2_setDecay 69 = .ok (.iastore, 1) := dk_79 (dk_at dksX2_setDecay_2 22 rfl rfl)
theorem dX2_setDecay_70 : decode cX2_setDecay 70 = .ok (.aload_n 0, 1) := dk_42 (dk_at dksX2_setDecay_2 23 rfl rfl)
theorem dX2_setDecay_71 : decode cX2_setDecay 71 = .ok (.getfield 16, 3) := dk_180 0 16 (dk_at dksX2_setDecay_3 0 rfl rfl)
theorem dX2_setDecay_74 : decode cX2_setDecay 74 = .ok (.iload_n 1, 1) := dk_27 (dk_at dksX2_setDecay_3 3 rfl rfl)
theorem dX2_setDecay_75 : decode cX2_setDecay 75 = .ok (.invokevirtual 80, 3) := dk_182 0 80 (dk_at dksX2_setDecay_3 4 rfl rfl)
theorem dX2_setDecay_78 : decode cX2_setDecay 78 = .ok (.checkcast 84, 3) := dk_192 0 84 (dk_at dksX2_setDecay_3 7 rfl rfl)
theorem dX2_setDecay_81 : decode cX2_setDecay 81 = .ok (.iconst 3, 1) := dk_6 (dk_at dksX2_setDecay_3 10 rfl rfl)
theorem dX2_setDecay_82 : decode cX2_setDecay 82 = .ok (.iload_n 3, 1) := dk_29 (dk_at dksX2_setDecay_3 11 rfl rfl)
theorem dX2_setDecay_83 : decode cX2_setDecay 83 = .ok (.iastore, 1) := dk_79 (dk_at dksX2_setDecay_3 12 rfl rfl)
theorem dX2_setDecay_84 : decode cX2_setDecay 84 = .ok (.aload_n 0, 1) := dk_42 (dk_at dksX2_setDecay_3 13 rfl rfl)
theorem dX2_setDecay_85 : decode cX2_setDecay 85 = .ok (.getfield 16, 3) := dk_180 0 16 (dk_at dksX2_setDecay_3 14 rfl rfl)
theorem dX2_setDecay_88 : decode cX2_setDecay 88 = .ok (.iload_n 1, 1) := dk_27 (dk_at dksX2_setDecay_3 17 rfl rfl)
theorem dX2_setDecay_89 : decode cX2_setDecay 89 = .ok (.invokevirtual 80, 3) := dk_182 0 80 (dk_at dksX2_setDecay_3 18 rfl rfl)
theorem dX2_setDecay_92 : decode cX2_setDecay 92 = .ok (.checkcast 84, 3) := dk_192 0 84 (dk_at dksX2_setDecay_3 21 rfl rfl)
theorem dX2_setDecay_95 : decode cX2_setDecay 95 = .ok (.iconst 4, 1) := dk_7 (dk_at dksX2_setDecay_4 0 rfl rfl)
theorem dX2_setDecay_96 : decode cX2_setDecay 96 = .ok (.iload 4, 2) := dk_21 4 (dk_at dksX2_setDecay_4 1 rfl rfl)
theorem dX2_setDecay_98 : decode cX2_setDecay 98 = .ok (.iastore, 1) := dk_79 (dk_at dksX2_setDecay_4 3 rfl rfl)
theorem dX2_setDecay_99 : decode cX2_setDecay 99 = .ok (.aload_n 0, 1) := dk_42 (dk_at dksX2_setDecay_4 4 rfl rfl)
theorem dX2_setDecay_100 : decode cX2_setDecay 100 = .ok (.iload_n 1, 1) := dk_27 (dk_at dksX2_setDecay_4 5 rfl rfl)
theorem dX2_setDecay_101 : decode cX2_setDecay 101 = .ok (.invokevirtual 240, 3) := dk_182 0 240 (dk_at dksX2_setDecay_4 6 rfl rfl)
theorem dX2_setDecay_104 : decode cX2_setDecay 104 = .ok (.ireturn, 1) := dk_172 (dk_at dksX2_setDecay_4 9 rfl rfl)
abbrev cX2_healthOf : ByteArray := prog_18_method_72_code
def yX2_healthOf : MethodName := ⟨RX2, "healthOf", "(I)I"⟩
def dkwX2_healthOf_1 : List UInt8 := [180, 0, 16, 27, 182, 0, 80, 192, 0, 84, 16, 6, 46, 172]
abbrev dktX2_healthOf_1 : List UInt8 := dkwX2_healthOf_1 ++ []
def dkwX2_healthOf_0 : List UInt8 := [42, 3, 181, 0, 69, 42, 27, 182, 0, 103, 153, 0, 11, 42, 4, 182, 0, 95, 167, 0, 17, 42]
abbrev dktX2_healthOf_0 : List UInt8 := dkwX2_healthOf_0 ++ dktX2_healthOf_1
theorem dksX2_healthOf_0 : cX2_healthOf.data.toList.drop 0 = dktX2_healthOf_0 := by decide +kernel
theorem dksX2_healthOf_1 : cX2_healthOf.data.toList.drop 22 = dktX2_healthOf_1 := dk_seg dksX2_healthOf_0 22 rfl rfl
theorem dX2_healthOf_0 : decode cX2_healthOf 0 = .ok (.aload_n 0, 1) := dk_42 (dk_at dksX2_healthOf_0 0 rfl rfl)
theorem dX2_healthOf_1 : decode cX2_healthOf 1 = .ok (.iconst 0, 1) := dk_3 (dk_at dksX2_healthOf_0 1 rfl rfl)
theorem dX2_healthOf_2 : decode cX2_healthOf 2 = .ok (.putfield 69, 3) := dk_181 0 69 (dk_at dksX2_healthOf_0 2 rfl rfl)
theorem dX2_healthOf_5 : decode cX2_healthOf 5 = .ok (.aload_n 0, 1) := dk_42 (dk_at dksX2_healthOf_0 5 rfl rfl)
theorem dX2_healthOf_6 : decode cX2_healthOf 6 = .ok (.iload_n 1, 1) := dk_27 (dk_at dksX2_healthOf_0 6 rfl rfl)
theorem dX2_healthOf_7 : decode cX2_healthOf 7 = .ok (.invokevirtual 103, 3) := dk_182 0 103 (dk_at dksX2_healthOf_0 7 rfl rfl)
theorem dX2_healthOf_10 : decode cX2_healthOf 10 = .ok (.ifCond .eq 11, 3) := dk_153 0 11 (dk_at dksX2_healthOf_0 10 rfl rfl)
theorem dX2_healthOf_13 : decode cX2_healthOf 13 = .ok (.aload_n 0, 1) := dk_42 (dk_at dksX2_healthOf_0 13 rfl rfl)
theorem dX2_healthOf_14 : decode cX2_healthOf 14 = .ok (.iconst 1, 1) := dk_4 (dk_at dksX2_healthOf_0 14 rfl rfl)
theorem dX2_healthOf_15 : decode cX2_healthOf 15 = .ok (.invokevirtual 95, 3) := dk_182 0 95 (dk_at dksX2_healthOf_0 15 rfl rfl)
theorem dX2_healthOf_18 : decode cX2_healthOf 18 = .ok (.goto 17, 3) := dk_167 0 17 (dk_at dksX2_healthOf_0 18 rfl rfl)
theorem dX2_healthOf_21 : decode cX2_healthOf 21 = .ok (.aload_n 0, 1) := dk_42 (dk_at dksX2_healthOf_0 21 rfl rfl)
theorem dX2_healthOf_22 : decode cX2_healthOf 22 = .ok (.getfield 16, 3) := dk_180 0 16 (dk_at dksX2_healthOf_1 0 rfl rfl)
theorem dX2_healthOf_25 : decode cX2_healthOf 25 = .ok (.iload_n 1, 1) := dk_27 (dk_at dksX2_healthOf_1 3 rfl rfl)
theorem dX2_healthOf_26 : decode cX2_healthOf 26 = .ok (.invokevirtual 80, 3) := dk_182 0 80 (dk_at dksX2_healthOf_1 4 rfl rfl)
theorem dX2_healthOf_29 : decode cX2_healthOf 29 = .ok (.checkcast 84, 3) := dk_192 0 84 (dk_at dksX2_healthOf_1 7 rfl rfl)
theorem dX2_healthOf_32 : decode cX2_healthOf 32 = .ok (.bipush 6, 2) := dk_16 6 (dk_at dksX2_healthOf_1 10 rfl rfl)
theorem dX2_healthOf_34 : decode cX2_healthOf 34 = .ok (.iaload, 1) := dk_46 (dk_at dksX2_healthOf_1 12 rfl rfl)
theorem dX2_healthOf_35 : decode cX2_healthOf 35 = .ok (.ireturn, 1) := dk_172 (dk_at dksX2_healthOf_1 13 rfl rfl)
abbrev cX2_addWork : ByteArray := prog_18_method_73_code
def yX2_addWork : MethodName := ⟨RX2, "addWork", "(III)I"⟩
def dkwX2_addWork_4 : List UInt8 := [182, 0, 72, 4, 100, 172]
abbrev dktX2_addWork_4 : List UInt8 := dkwX2_addWork_4 ++ []
def dkwX2_addWork_3 : List UInt8 := [89, 3, 27, 79, 89, 4, 28, 79, 89, 5, 29, 79, 89, 6, 3, 79, 182, 0, 99, 87, 42, 180, 0, 66]
abbrev dktX2_addWork_3 : List UInt8 := dkwX2_addWork_3 ++ dktX2_addWork_4
def dkwX2_addWork_2 : List UInt8 := [180, 0, 66, 182, 0, 72, 16, 10, 160, 0, 9, 42, 6, 182, 0, 95, 172, 42, 180, 0, 66, 7, 188, 10]
abbrev dktX2_addWork_2 : List UInt8 := dkwX2_addWork_2 ++ dktX2_addWork_3
def dkwX2_addWork_1 : List UInt8 := [184, 0, 76, 153, 0, 13, 29, 4, 16, 50, 184, 0, 76, 154, 0, 9, 42, 5, 182, 0, 95, 172, 42]
abbrev dktX2_addWork_1 : List UInt8 := dkwX2_addWork_1 ++ dktX2_addWork_2
def dkwX2_addWork_0 : List UInt8 := [42, 3, 181, 0, 69, 42, 27, 182, 0, 103, 153, 0, 9, 42, 4, 182, 0, 95, 172, 28, 4, 17, 3, 232]
abbrev dktX2_addWork_0 : List UInt8 := dkwX2_addWork_0 ++ dktX2_addWork_1
theorem dksX2_addWork_0 : cX2_addWork.data.toList.drop 0 = dktX2_addWork_0 := by decide +kernel
theorem dksX2_addWork_1 : cX2_addWork.data.toList.drop 24 = dktX2_addWork_1 := dk_seg dksX2_addWork_0 24 rfl rfl
theorem dksX2_addWork_2 : cX2_addWork.data.toList.drop 47 = dktX2_addWork_2 := dk_seg dksX2_addWork_1 23 rfl rfl
theorem dksX2_addWork_3 : cX2_addWork.data.toList.drop 71 = dktX2_addWork_3 := dk_seg dksX2_addWork_2 24 rfl rfl
theorem dksX2_addWork_4 : cX2_addWork.data.toList.drop 95 = dktX2_addWork_4 := dk_seg dksX2_addWork_3 24 rfl rfl
theorem dX2_addWork_0 : decode cX2_addWork 0 = .ok (.aload_n 0, 1) := dk_42 (dk_at dksX2_addWork_0 0 rfl rfl)
theorem dX2_addWork_1 : decode cX2_addWork 1 = .ok (.iconst 0, 1) := dk_3 (dk_at dksX2_addWork_0 1 rfl rfl)
theorem dX2_addWork_2 : decode cX2_addWork 2 = .ok (.putfield 69, 3) := dk_181 0 69 (dk_at dksX2_addWork_0 2 rfl rfl)
theorem dX2_addWork_5 : decode cX2_addWork 5 = .ok (.aload_n 0, 1) := dk_42 (dk_at dksX2_addWork_0 5 rfl rfl)
theorem dX2_addWork_6 : decode cX2_addWork 6 = .ok (.iload_n 1, 1) := dk_27 (dk_at dksX2_addWork_0 6 rfl rfl)
theorem dX2_addWork_7 : decode cX2_addWork 7 = .ok (.invokevirtual 103, 3) := dk_182 0 103 (dk_at dksX2_addWork_0 7 rfl rfl)
theorem dX2_addWork_10 : decode cX2_addWork 10 = .ok (.ifCond .eq 9, 3) := dk_153 0 9 (dk_at dksX2_addWork_0 10 rfl rfl)
theorem dX2_addWork_13 : decode cX2_addWork 13 = .ok (.aload_n 0, 1) := dk_42 (dk_at dksX2_addWork_0 13 rfl rfl)
theorem dX2_addWork_14 : decode cX2_addWork 14 = .ok (.iconst 1, 1) := dk_4 (dk_at dksX2_addWork_0 14 rfl rfl)
theorem dX2_addWork_15 : decode cX2_addWork 15 = .ok (.invokevirtual 95, 3) := dk_182 0 95 (dk_at dksX2_addWork_0 15 rfl rfl)
theorem dX2_addWork_18 : decode cX2_addWork 18 = .ok (.ireturn, 1) := dk_172 (dk_at dksX2_addWork_0 18 rfl rfl)
theorem dX2_addWork_19 : decode cX2_addWork 19 = .ok (.iload_n 2, 1) := dk_28 (dk_at dksX2_addWork_0 19 rfl rfl)
theorem dX2_addWork_20 : decode cX2_addWork 20 = .ok (.iconst 1, 1) := dk_4 (dk_at dksX2_addWork_0 20 rfl rfl)
theorem dX2_addWork_21 : decode cX2_addWork 21 = .ok (.sipush 1000, 3) := dk_17 3 232 (dk_at dksX2_addWork_0 21 rfl rfl)
theorem dX2_addWork_24 : decode cX2_addWork 24 = .ok (.invokestatic 76, 3) := dk_184 0 76 (dk_at dksX2_addWork_1 0 rfl rfl)
theorem dX2_addWork_27 : decode cX2_addWork 27 = .ok (.ifCond .eq 13, 3) := dk_153 0 13 (dk_at dksX2_addWork_1 3 rfl rfl)
theorem dX2_addWork_30 : decode cX2_addWork 30 = .ok (.iload_n 3, 1) := dk_29 (dk_at dksX2_addWork_1 6 rfl rfl)
theorem dX2_addWork_31 : decode cX2_addWork 31 = .ok (.iconst 1, 1) := dk_4 (dk_at dksX2_addWork_1 7 rfl rfl)
theorem dX2_addWork_32 : decode cX2_addWork 32 = .ok (.bipush 50, 2) := dk_16 50 (dk_at dksX2_addWork_1 8 rfl rfl)
theorem dX2_addWork_34 : decode cX2_addWork 34 = .ok (.invokestatic 76, 3) := dk_184 0 76 (dk_at dksX2_addWork_1 10 rfl rfl)
theorem dX2_addWork_37 : decode cX2_addWork 37 = .ok (.ifCond .ne 9, 3) := dk_154 0 9 (dk_at dksX2_addWork_1 13 rfl rfl)
theorem dX2_addWork_40 : decode cX2_addWork 40 = .ok (.aload_n 0, 1) := dk_42 (dk_at dksX2_addWork_1 16 rfl rfl)
theorem dX2_addWork_41 : decode cX2_addWork 41 = .ok (.iconst 2, 1) := dk_5 (dk_at dksX2_addWork_1 17 rfl rfl)
theorem dX2_addWork_42 : decode cX2_addWork 42 = .ok (.invokevirtual 95, 3) := dk_182 0 95 (dk_at dksX2_addWork_1 18 rfl rfl)
theorem dX2_addWork_45 : decode cX2_addWork 45 = .ok (.ireturn, 1) := dk_172 (dk_at dksX2_addWork_1 21 rfl rfl)
theorem dX2_addWork_46 : decode cX2_addWork 46 = .ok (.aload_n 0, 1) := dk_42 (dk_at dksX2_addWork_1 22 rfl rfl)
theorem dX2_addWork_47 : decode cX2_addWork 47 = .ok (.getfield 66, 3) := dk_180 0 66 (dk_at dksX2_addWork_2 0 rfl rfl)
theorem dX2_addWork_50 : decode cX2_addWork 50 = .ok (.invokevirtual 72, 3) := dk_182 0 72 (dk_at dksX2_addWork_2 3 rfl rfl)
theorem dX2_addWork_53 : decode cX2_addWork 53 = .ok (.bipush 10, 2) := dk_16 10 (dk_at dksX2_addWork_2 6 rfl rfl)
theorem dX2_addWork_55 : decode cX2_addWork 55 = .ok (.if_icmp .ne 9, 3) := dk_160 0 9 (dk_at dksX2_addWork_2 8 rfl rfl)
theorem dX2_addWork_58 : decode cX2_addWork 58 = .ok (.aload_n 0, 1) := dk_42 (dk_at dksX2_addWork_2 11 rfl rfl)
theorem dX2_addWork_59 : decode cX2_addWork 59 = .ok (.iconst 3, 1) := dk_6 (dk_at dksX2_addWork_2 12 rfl rfl)
theorem dX2_addWork_60 : decode cX2_addWork 60 = .ok (.invokevirtual 95, 3) := dk_182 0 95 (dk_at dksX2_addWork_2 13 rfl rfl)
theorem dX2_addWork_63 : decode cX2_addWork 63 = .ok (.ireturn, 1) := dk_172 (dk_at dksX2_addWork_2 16 rfl rfl)
theorem dX2_addWork_64 : decode cX2_addWork 64 = .ok (.aload_n 0, 1) := dk_42 (dk_at dksX2_addWork_2 17 rfl rfl)
theorem dX2_addWork_65 : decode cX2_addWork 65 = .ok (.getfield 66, 3) := dk_180 0 66 (dk_at dksX2_addWork_2 18 rfl rfl)
theorem dX2_addWork_68 : decode cX2_addWork 68 = .ok (.iconst 4, 1) := dk_7 (dk_at dksX2_addWork_2 21 rfl rfl)
theorem dX2_addWork_69 : decode cX2_addWork 69 = .ok (.newarray .int, 2) := dk_188_10 (dk_at dksX2_addWork_2 22 rfl rfl)
theorem dX2_addWork_71 : decode cX2_addWork 71 = .ok (.dup, 1) := dk_89 (dk_at dksX2_addWork_3 0 rfl rfl)
theorem dX2_addWork_72 : decode cX2_addWork 72 = .ok (.iconst 0, 1) := dk_3 (dk_at dksX2_addWork_3 1 rfl rfl)
theorem dX2_addWork_73 : decode cX2_addWork 73 = .ok (.iload_n 1, 1) := dk_27 (dk_at dksX2_addWork_3 2 rfl rfl)
theorem dX2_addWork_74 : decode cX2_addWork 74 = .ok (.iastore, 1) := dk_79 (dk_at dksX2_addWork_3 3 rfl rfl)
theorem dX2_addWork_75 : decode cX2_addWork 75 = .ok (.dup, 1) := dk_89 (dk_at dksX2_addWork_3 4 rfl rfl)
theorem dX2_addWork_76 : decode cX2_addWork 76 = .ok (.iconst 1, 1) := dk_4 (dk_at dksX2_addWork_3 5 rfl rfl)
theorem dX2_addWork_77 : decode cX2_addWork 77 = .ok (.iload_n 2, 1) := dk_28 (dk_at dksX2_addWork_3 6 rfl rfl)
theorem dX2_addWork_78 : decode cX2_addWork 78 = .ok (.iastore, 1) := dk_79 (dk_at dksX2_addWork_3 7 rfl rfl)
theorem dX2_addWork_79 : decode cX2_addWork 79 = .ok (.dup, 1) := dk_89 (dk_at dksX2_addWork_3 8 rfl rfl)
theorem dX2_addWork_80 : decode cX2_addWork 80 = .ok (.iconst 2, 1) := dk_5 (dk_at dksX2_addWork_3 9 rfl rfl)
theorem dX2_addWork_81 : decode cX2_addWork 81 = .ok (.iload_n 3, 1) := dk_29 (dk_at dksX2_addWork_3 10 rfl rfl)
theorem dX2_addWork_82 : decode cX2_addWork 82 = .ok (.iastore, 1) := dk_79 (dk_at dksX2_addWork_3 11 rfl rfl)
theorem dX2_addWork_83 : decode cX2_addWork 83 = .ok (.dup, 1) := dk_89 (dk_at dksX2_addWork_3 12 rfl rfl)
theorem dX2_addWork_84 : decode cX2_addWork 84 = .ok (.iconst 3, 1) := dk_6 (dk_at dksX2_addWork_3 13 rfl rfl)
theorem dX2_addWork_85 : decode cX2_addWork 85 = .ok (.iconst 0, 1) := dk_3 (dk_at dksX2_addWork_3 14 rfl rfl)
theorem dX2_addWork_86 : decode cX2_addWork 86 = .ok (.iastore, 1) := dk_79 (dk_at dksX2_addWork_3 15 rfl rfl)
theorem dX2_addWork_87 : decode cX2_addWork 87 = .ok (.invokevirtual 99, 3) := dk_182 0 99 (dk_at dksX2_addWork_3 16 rfl rfl)
theorem dX2_addWork_90 : decode cX2_addWork 90 = .ok (.pop, 1) := dk_87 (dk_at dksX2_addWork_3 19 rfl rfl)
theorem dX2_addWork_91 : decode cX2_addWork 91 = .ok (.aload_n 0, 1) := dk_42 (dk_at dksX2_addWork_3 20 rfl rfl)
theorem dX2_addWork_92 : decode cX2_addWork 92 = .ok (.getfield 66, 3) := dk_180 0 66 (dk_at dksX2_addWork_3 21 rfl rfl)
theorem dX2_addWork_95 : decode cX2_addWork 95 = .ok (.invokevirtual 72, 3) := dk_182 0 72 (dk_at dksX2_addWork_4 0 rfl rfl)
theorem dX2_addWork_98 : decode cX2_addWork 98 = .ok (.iconst 1, 1) := dk_4 (dk_at dksX2_addWork_4 3 rfl rfl)
theorem dX2_addWork_99 : decode cX2_addWork 99 = .ok (.isub, 1) := dk_100 (dk_at dksX2_addWork_4 4 rfl rfl)
theorem dX2_addWork_100 : decode cX2_addWork 100 = .ok (.ireturn, 1) := dk_172 (dk_at dksX2_addWork_4 5 rfl rfl)
abbrev cX2_worksFor : ByteArray := prog_18_method_76_code
def yX2_worksFor : MethodName := ⟨RX2, "worksFor", "(I)I"⟩
def dkwX2_worksFor_1 : List UInt8 := [42, 4, 182, 0, 95, 172]
abbrev dktX2_worksFor_1 : List UInt8 := dkwX2_worksFor_1 ++ []
def dkwX2_worksFor_0 : List UInt8 := [42, 3, 181, 0, 69, 27, 3, 17, 39, 16, 184, 0, 76, 153, 0, 11, 42, 27, 182, 0, 246, 167, 0, 8]
abbrev dktX2_worksFor_0 : List UInt8 := dkwX2_worksFor_0 ++ dktX2_worksFor_1
theorem dksX2_worksFor_0 : cX2_worksFor.data.toList.drop 0 = dktX2_worksFor_0 := by decide +kernel
theorem dksX2_worksFor_1 : cX2_worksFor.data.toList.drop 24 = dktX2_worksFor_1 := dk_seg dksX2_worksFor_0 24 rfl rfl
theorem dX2_worksFor_0 : decode cX2_worksFor 0 = .ok (.aload_n 0, 1) := dk_42 (dk_at dksX2_worksFor_0 0 rfl rfl)
theorem dX2_worksFor_1 : decode cX2_worksFor 1 = .ok (.iconst 0, 1) := dk_3 (dk_at dksX2_worksFor_0 1 rfl rfl)
theorem dX2_worksFor_2 : decode cX2_worksFor 2 = .ok (.putfield 69, 3) := dk_181 0 69 (dk_at dksX2_worksFor_0 2 rfl rfl)
theorem dX2_worksFor_5 : decode cX2_worksFor 5 = .ok (.iload_n 1, 1) := dk_27 (dk_at dksX2_worksFor_0 5 rfl rfl)
theorem dX2_worksFor_6 : decode cX2_worksFor 6 = .ok (.iconst 0, 1) := dk_3 (dk_at dksX2_worksFor_0 6 rfl rfl)
theorem dX2_worksFor_7 : decode cX2_worksFor 7 = .ok (.sipush 10000, 3) := dk_17 39 16 (dk_at dksX2_worksFor_0 7 rfl rfl)
theorem dX2_worksFor_10 : decode cX2_worksFor 10 = .ok (.invokestatic 76, 3) := dk_184 0 76 (dk_at dksX2_worksFor_0 10 rfl rfl)
theorem dX2_worksFor_13 : decode cX2_worksFor 13 = .ok (.ifCond .eq 11, 3) := dk_153 0 11 (dk_at dksX2_worksFor_0 13 rfl rfl)
theorem dX2_worksFor_16 : decode cX2_worksFor 16 = .ok (.aload_n 0, 1) := dk_42 (dk_at dksX2_worksFor_0 16 rfl rfl)
theorem dX2_worksFor_17 : decode cX2_worksFor 17 = .ok (.iload_n 1, 1) := dk_27 (dk_at dksX2_worksFor_0 17 rfl rfl)
theorem dX2_worksFor_18 : decode cX2_worksFor 18 = .ok (.invokevirtual 246, 3) := dk_182 0 246 (dk_at dksX2_worksFor_0 18 rfl rfl)
theorem dX2_worksFor_21 : decode cX2_worksFor 21 = .ok (.goto 8, 3) := dk_167 0 8 (dk_at dksX2_worksFor_0 21 rfl rfl)
theorem dX2_worksFor_24 : decode cX2_worksFor 24 = .ok (.aload_n 0, 1) := dk_42 (dk_at dksX2_worksFor_1 0 rfl rfl)
theorem dX2_worksFor_25 : decode cX2_worksFor 25 = .ok (.iconst 1, 1) := dk_4 (dk_at dksX2_worksFor_1 1 rfl rfl)
theorem dX2_worksFor_26 : decode cX2_worksFor 26 = .ok (.invokevirtual 95, 3) := dk_182 0 95 (dk_at dksX2_worksFor_1 2 rfl rfl)
theorem dX2_worksFor_29 : decode cX2_worksFor 29 = .ok (.ireturn, 1) := dk_172 (dk_at dksX2_worksFor_1 5 rfl rfl)
abbrev cX2_bestWorks : ByteArray := prog_18_method_75_code
def yX2_bestWorks : MethodName := ⟨RX2, "bestWorks", "(I)I"⟩
def dkwX2_bestWorks_9 : List UInt8 := [54, 5, 132, 6, 1, 167, 255, 108, 29, 172]
abbrev dktX2_bestWorks_9 : List UInt8 := dkwX2_bestWorks_9 ++ []
def dkwX2_bestWorks_8 : List UInt8 := [21, 7, 21, 4, 160, 0, 21, 21, 8, 21, 5, 162, 0, 14, 21, 6, 62, 21, 7, 54, 4, 21, 8]
abbrev dktX2_bestWorks_8 : List UInt8 := dkwX2_bestWorks_8 ++ dktX2_bestWorks_9
def dkwX2_bestWorks_7 : List UInt8 := [132, 10, 1, 167, 255, 178, 21, 9, 153, 0, 41, 21, 8, 27, 163, 0, 35, 21, 7, 21, 4, 163, 0, 17]
abbrev dktX2_bestWorks_7 : List UInt8 := dkwX2_bestWorks_7 ++ dktX2_bestWorks_8
def dkwX2_bestWorks_6 : List UInt8 := [180, 0, 66, 21, 10, 182, 0, 80, 192, 0, 84, 6, 46, 154, 0, 7, 4, 167, 0, 4, 3, 126, 54, 9]
abbrev dktX2_bestWorks_6 : List UInt8 := dkwX2_bestWorks_6 ++ dktX2_bestWorks_7
def dkwX2_bestWorks_5 : List UInt8 := [54, 7, 21, 8, 42, 180, 0, 66, 21, 10, 182, 0, 80, 192, 0, 84, 4, 46, 96, 54, 8, 21, 9, 42]
abbrev dktX2_bestWorks_5 : List UInt8 := dkwX2_bestWorks_5 ++ dktX2_bestWorks_6
def dkwX2_bestWorks_4 : List UInt8 := [190, 162, 0, 77, 21, 6, 21, 10, 122, 4, 126, 154, 0, 6, 167, 0, 58, 21, 7, 44, 21, 10, 46, 96]
abbrev dktX2_bestWorks_4 : List UInt8 := dkwX2_bestWorks_4 ++ dktX2_bestWorks_5
def dkwX2_bestWorks_3 : List UInt8 := [21, 6, 4, 44, 190, 120, 162, 0, 145, 3, 54, 7, 3, 54, 8, 4, 54, 9, 3, 54, 10, 21, 10, 44]
abbrev dktX2_bestWorks_3 : List UInt8 := dkwX2_bestWorks_3 ++ dktX2_bestWorks_4
def dkwX2_bestWorks_2 : List UInt8 := [182, 0, 243, 96, 104, 79, 132, 3, 1, 167, 255, 211, 3, 62, 3, 54, 4, 3, 54, 5, 4, 54, 6]
abbrev dktX2_bestWorks_2 : List UInt8 := dkwX2_bestWorks_2 ++ dktX2_bestWorks_3
def dkwX2_bestWorks_1 : List UInt8 := [29, 182, 0, 80, 192, 0, 84, 5, 46, 4, 42, 42, 180, 0, 66, 29, 182, 0, 80, 192, 0, 84, 3, 46]
abbrev dktX2_bestWorks_1 : List UInt8 := dkwX2_bestWorks_1 ++ dktX2_bestWorks_2
def dkwX2_bestWorks_0 : List UInt8 := [42, 180, 0, 66, 182, 0, 72, 188, 10, 77, 3, 62, 29, 44, 190, 162, 0, 45, 44, 29, 42, 180, 0, 66]
abbrev dktX2_bestWorks_0 : List UInt8 := dkwX2_bestWorks_0 ++ dktX2_bestWorks_1
theorem dksX2_bestWorks_0 : cX2_bestWorks.data.toList.drop 0 = dktX2_bestWorks_0 := by decide +kernel
theorem dksX2_bestWorks_1 : cX2_bestWorks.data.toList.drop 24 = dktX2_bestWorks_1 := dk_seg dksX2_bestWorks_0 24 rfl rfl
theorem dksX2_bestWorks_2 : cX2_bestWorks.data.toList.drop 48 = dktX2_bestWorks_2 := dk_seg dksX2_bestWorks_1 24 rfl rfl
theorem dksX2_bestWorks_3 : cX2_bestWorks.data.toList.drop 71 = dktX2_bestWorks_3 := dk_seg dksX2_bestWorks_2 23 rfl rfl
theorem dksX2_bestWorks_4 : cX2_bestWorks.data.toList.drop 95 = dktX2_bestWorks_4 := dk_seg dksX2_bestWorks_3 24 rfl rfl
theorem dksX2_bestWorks_5 : cX2_bestWorks.data.toList.drop 119 = dktX2_bestWorks_5 := dk_seg dksX2_bestWorks_4 24 rfl rfl
theorem dksX2_bestWorks_6 : cX2_bestWorks.data.toList.drop 143 = dktX2_bestWorks_6 := dk_seg dksX2_bestWorks_5 24 rfl rfl
theorem dksX2_bestWorks_7 : cX2_bestWorks.data.toList.drop 167 = dktX2_bestWorks_7 := dk_seg dksX2_bestWorks_6 24 rfl rfl
theorem dksX2_bestWorks_8 : cX2_bestWorks.data.toList.drop 191 = dktX2_bestWorks_8 := dk_seg dksX2_bestWorks_7 24 rfl rfl
theorem dksX2_bestWorks_9 : cX2_bestWorks.data.toList.drop 214 = dktX2_bestWorks_9 := dk_seg dksX2_bestWorks_8 23 rfl rfl
theorem dX2_bestWorks_0 : decode cX2_bestWorks 0 = .ok (.aload_n 0, 1) := dk_42 (dk_at dksX2_bestWorks_0 0 rfl rfl)
theorem dX2_bestWorks_1 : decode cX2_bestWorks 1 = .ok (.getfield 66, 3) := dk_180 0 66 (dk_at dksX2_bestWorks_0 1 rfl rfl)
theorem dX2_bestWorks_4 : decode cX2_bestWorks 4 = .ok (.invokevirtual 72, 3) := dk_182 0 72 (dk_at dksX2_bestWorks_0 4 rfl rfl)
theorem dX2_bestWorks_7 : decode cX2_bestWorks 7 = .ok (.newarray .int, 2) := dk_188_10 (dk_at dksX2_bestWorks_0 7 rfl rfl)
theorem dX2_bestWorks_9 : decode cX2_bestWorks 9 = .ok (.astore_n 2, 1) := dk_77 (dk_at dksX2_bestWorks_0 9 rfl rfl)
theorem dX2_bestWorks_10 : decode cX2_bestWorks 10 = .ok (.iconst 0, 1) := dk_3 (dk_at dksX2_bestWorks_0 10 rfl rfl)
theorem dX2_bestWorks_11 : decode cX2_bestWorks 11 = .ok (.istore_n 3, 1) := dk_62 (dk_at dksX2_bestWorks_0 11 rfl rfl)
theorem dX2_bestWorks_12 : decode cX2_bestWorks 12 = .ok (.iload_n 3, 1) := dk_29 (dk_at dksX2_bestWorks_0 12 rfl rfl)
theorem dX2_bestWorks_13 : decode cX2_bestWorks 13 = .ok (.aload_n 2, 1) := dk_44 (dk_at dksX2_bestWorks_0 13 rfl rfl)
theorem dX2_bestWorks_14 : decode cX2_bestWorks 14 = .ok (.arraylength, 1) := dk_190 (dk_at dksX2_bestWorks_0 14 rfl rfl)
theorem dX2_bestWorks_15 : decode cX2_bestWorks 15 = .ok (.if_icmp .ge 45, 3) := dk_162 0 45 (dk_at dksX2_bestWorks_0 15 rfl rfl)
theorem dX2_bestWorks_18 : decode cX2_bestWorks 18 = .ok (.aload_n 2, 1) := dk_44 (dk_at dksX2_bestWorks_0 18 rfl rfl)
theorem dX2_bestWorks_19 : decode cX2_bestWorks 19 = .ok (.iload_n 3, 1) := dk_29 (dk_at dksX2_bestWorks_0 19 rfl rfl)
theorem dX2_bestWorks_20 : decode cX2_bestWorks 20 = .ok (.aload_n 0, 1) := dk_42 (dk_at dksX2_bestWorks_0 20 rfl rfl)
theorem dX2_bestWorks_21 : decode cX2_bestWorks 21 = .ok (.getfield 66, 3) := dk_180 0 66 (dk_at dksX2_bestWorks_0 21 rfl rfl)
theorem dX2_bestWorks_24 : decode cX2_bestWorks 24 = .ok (.iload_n 3, 1) := dk_29 (dk_at dksX2_bestWorks_1 0 rfl rfl)
theorem dX2_bestWorks_25 : decode cX2_bestWorks 25 = .ok (.invokevirtual 80, 3) := dk_182 0 80 (dk_at dksX2_bestWorks_1 1 rfl rfl)
theorem dX2_bestWorks_28 : decode cX2_bestWorks 28 = .ok (.checkcast 84, 3) := dk_192 0 84 (dk_at dksX2_bestWorks_1 4 rfl rfl)
theorem dX2_bestWorks_31 : decode cX2_bestWorks 31 = .ok (.iconst 2, 1) := dk_5 (dk_at dksX2_bestWorks_1 7 rfl rfl)
theorem dX2_bestWorks_32 : decode cX2_bestWorks 32 = .ok (.iaload, 1) := dk_46 (dk_at dksX2_bestWorks_1 8 rfl rfl)
theorem dX2_bestWorks_33 : decode cX2_bestWorks 33 = .ok (.iconst 1, 1) := dk_4 (dk_at dksX2_bestWorks_1 9 rfl rfl)
theorem dX2_bestWorks_34 : decode cX2_bestWorks 34 = .ok (.aload_n 0, 1) := dk_42 (dk_at dksX2_bestWorks_1 10 rfl rfl)
theorem dX2_bestWorks_35 : decode cX2_bestWorks 35 = .ok (.aload_n 0, 1) := dk_42 (dk_at dksX2_bestWorks_1 11 rfl rfl)
theorem dX2_bestWorks_36 : decode cX2_bestWorks 36 = .ok (.getfield 66, 3) := dk_180 0 66 (dk_at dksX2_bestWorks_1 12 rfl rfl)
theorem dX2_bestWorks_39 : decode cX2_bestWorks 39 = .ok (.iload_n 3, 1) := dk_29 (dk_at dksX2_bestWorks_1 15 rfl rfl)
theorem dX2_bestWorks_40 : decode cX2_bestWorks 40 = .ok (.invokevirtual 80, 3) := dk_182 0 80 (dk_at dksX2_bestWorks_1 16 rfl rfl)
theorem dX2_bestWorks_43 : decode cX2_bestWorks 43 = .ok (.checkcast 84, 3) := dk_192 0 84 (dk_at dksX2_bestWorks_1 19 rfl rfl)
theorem dX2_bestWorks_46 : decode cX2_bestWorks 46 = .ok (.iconst 0, 1) := dk_3 (dk_at dksX2_bestWorks_1 22 rfl rfl)
theorem dX2_bestWorks_47 : decode cX2_bestWorks 47 = .ok (.iaload, 1) := dk_46 (dk_at dksX2_bestWorks_1 23 rfl rfl)
theorem dX2_bestWorks_48 : decode cX2_bestWorks 48 = .ok (.invokevirtual 243, 3) := dk_182 0 243 (dk_at dksX2_bestWorks_2 0 rfl rfl)
theorem dX2_bestWorks_51 : decode cX2_bestWorks 51 = .ok (.iadd, 1) := dk_96 (dk_at dksX2_bestWorks_2 3 rfl rfl)
theorem dX2_bestWorks_52 : decode cX2_bestWorks 52 = .ok (.imul, 1) := dk_104 (dk_at dksX2_bestWorks_2 4 rfl rfl)
theorem dX2_bestWorks_53 : decode cX2_bestWorks 53 = .ok (.iastore, 1) := dk_79 (dk_at dksX2_bestWorks_2 5 rfl rfl)
theorem dX2_bestWorks_54 : decode cX2_bestWorks 54 = .ok (.iinc 3 1, 3) := dk_132 3 1 (dk_at dksX2_bestWorks_2 6 rfl rfl)
theorem dX2_bestWorks_57 : decode cX2_bestWorks 57 = .ok (.goto (-45), 3) := dk_167 255 211 (dk_at dksX2_bestWorks_2 9 rfl rfl)
theorem dX2_bestWorks_60 : decode cX2_bestWorks 60 = .ok (.iconst 0, 1) := dk_3 (dk_at dksX2_bestWorks_2 12 rfl rfl)
theorem dX2_bestWorks_61 : decode cX2_bestWorks 61 = .ok (.istore_n 3, 1) := dk_62 (dk_at dksX2_bestWorks_2 13 rfl rfl)
theorem dX2_bestWorks_62 : decode cX2_bestWorks 62 = .ok (.iconst 0, 1) := dk_3 (dk_at dksX2_bestWorks_2 14 rfl rfl)
theorem dX2_bestWorks_63 : decode cX2_bestWorks 63 = .ok (.istore 4, 2) := dk_54 4 (dk_at dksX2_bestWorks_2 15 rfl rfl)
theorem dX2_bestWorks_65 : decode cX2_bestWorks 65 = .ok (.iconst 0, 1) := dk_3 (dk_at dksX2_bestWorks_2 17 rfl rfl)
theorem dX2_bestWorks_66 : decode cX2_bestWorks 66 = .ok (.istore 5, 2) := dk_54 5 (dk_at dksX2_bestWorks_2 18 rfl rfl)
theorem dX2_bestWorks_68 : decode cX2_bestWorks 68 = .ok (.iconst 1, 1) := dk_4 (dk_at dksX2_bestWorks_2 20 rfl rfl)
theorem dX2_bestWorks_69 : decode cX2_bestWorks 69 = .ok (.istore 6, 2) := dk_54 6 (dk_at dksX2_bestWorks_2 21 rfl rfl)
theorem dX2_bestWorks_71 : decode cX2_bestWorks 71 = .ok (.iload 6, 2) := dk_21 6 (dk_at dksX2_bestWorks_3 0 rfl rfl)
theorem dX2_bestWorks_73 : decode cX2_bestWorks 73 = .ok (.iconst 1, 1) := dk_4 (dk_at dksX2_bestWorks_3 2 rfl rfl)
theorem dX2_bestWorks_74 : decode cX2_bestWorks 74 = .ok (.aload_n 2, 1) := dk_44 (dk_at dksX2_bestWorks_3 3 rfl rfl)
theorem dX2_bestWorks_75 : decode cX2_bestWorks 75 = .ok (.arraylength, 1) := dk_190 (dk_at dksX2_bestWorks_3 4 rfl rfl)
theorem dX2_bestWorks_76 : decode cX2_bestWorks 76 = .ok (.ishl, 1) := dk_120 (dk_at dksX2_bestWorks_3 5 rfl rfl)
theorem dX2_bestWorks_77 : decode cX2_bestWorks 77 = .ok (.if_icmp .ge 145, 3) := dk_162 0 145 (dk_at dksX2_bestWorks_3 6 rfl rfl)
theorem dX2_bestWorks_80 : decode cX2_bestWorks 80 = .ok (.iconst 0, 1) := dk_3 (dk_at dksX2_bestWorks_3 9 rfl rfl)
theorem dX2_bestWorks_81 : decode cX2_bestWorks 81 = .ok (.istore 7, 2) := dk_54 7 (dk_at dksX2_bestWorks_3 10 rfl rfl)
theorem dX2_bestWorks_83 : decode cX2_bestWorks 83 = .ok (.iconst 0, 1) := dk_3 (dk_at dksX2_bestWorks_3 12 rfl rfl)
theorem dX2_bestWorks_84 : decode cX2_bestWorks 84 = .ok (.istore 8, 2) := dk_54 8 (dk_at dksX2_bestWorks_3 13 rfl rfl)
theorem dX2_bestWorks_86 : decode cX2_bestWorks 86 = .ok (.iconst 1, 1) := dk_4 (dk_at dksX2_bestWorks_3 15 rfl rfl)
theorem dX2_bestWorks_87 : decode cX2_bestWorks 87 = .ok (.istore 9, 2) := dk_54 9 (dk_at dksX2_bestWorks_3 16 rfl rfl)
theorem dX2_bestWorks_89 : decode cX2_bestWorks 89 = .ok (.iconst 0, 1) := dk_3 (dk_at dksX2_bestWorks_3 18 rfl rfl)
theorem dX2_bestWorks_90 : decode cX2_bestWorks 90 = .ok (.istore 10, 2) := dk_54 10 (dk_at dksX2_bestWorks_3 19 rfl rfl)
theorem dX2_bestWorks_92 : decode cX2_bestWorks 92 = .ok (.iload 10, 2) := dk_21 10 (dk_at dksX2_bestWorks_3 21 rfl rfl)
theorem dX2_bestWorks_94 : decode cX2_bestWorks 94 = .ok (.aload_n 2, 1) := dk_44 (dk_at dksX2_bestWorks_3 23 rfl rfl)
theorem dX2_bestWorks_95 : decode cX2_bestWorks 95 = .ok (.arraylength, 1) := dk_190 (dk_at dksX2_bestWorks_4 0 rfl rfl)
theorem dX2_bestWorks_96 : decode cX2_bestWorks 96 = .ok (.if_icmp .ge 77, 3) := dk_162 0 77 (dk_at dksX2_bestWorks_4 1 rfl rfl)
theorem dX2_bestWorks_99 : decode cX2_bestWorks 99 = .ok (.iload 6, 2) := dk_21 6 (dk_at dksX2_bestWorks_4 4 rfl rfl)
theorem dX2_bestWorks_101 : decode cX2_bestWorks 101 = .ok (.iload 10, 2) := dk_21 10 (dk_at dksX2_bestWorks_4 6 rfl rfl)
theorem dX2_bestWorks_103 : decode cX2_bestWorks 103 = .ok (.ishr, 1) := dk_122 (dk_at dksX2_bestWorks_4 8 rfl rfl)
theorem dX2_bestWorks_104 : decode cX2_bestWorks 104 = .ok (.iconst 1, 1) := dk_4 (dk_at dksX2_bestWorks_4 9 rfl rfl)
theorem dX2_bestWorks_105 : decode cX2_bestWorks 105 = .ok (.iand, 1) := dk_126 (dk_at dksX2_bestWorks_4 10 rfl rfl)
theorem dX2_bestWorks_106 : decode cX2_bestWorks 106 = .ok (.ifCond .ne 6, 3) := dk_154 0 6 (dk_at dksX2_bestWorks_4 11 rfl rfl)
theorem dX2_bestWorks_109 : decode cX2_bestWorks 109 = .ok (.goto 58, 3) := dk_167 0 58 (dk_at dksX2_bestWorks_4 14 rfl rfl)
theorem dX2_bestWorks_112 : decode cX2_bestWorks 112 = .ok (.iload 7, 2) := dk_21 7 (dk_at dksX2_bestWorks_4 17 rfl rfl)
theorem dX2_bestWorks_114 : decode cX2_bestWorks 114 = .ok (.aload_n 2, 1) := dk_44 (dk_at dksX2_bestWorks_4 19 rfl rfl)
theorem dX2_bestWorks_115 : decode cX2_bestWorks 115 = .ok (.iload 10, 2) := dk_21 10 (dk_at dksX2_bestWorks_4 20 rfl rfl)
theorem dX2_bestWorks_117 : decode cX2_bestWorks 117 = .ok (.iaload, 1) := dk_46 (dk_at dksX2_bestWorks_4 22 rfl rfl)
theorem dX2_bestWorks_118 : decode cX2_bestWorks 118 = .ok (.iadd, 1) := dk_96 (dk_at dksX2_bestWorks_4 23 rfl rfl)
theorem dX2_bestWorks_119 : decode cX2_bestWorks 119 = .ok (.istore 7, 2) := dk_54 7 (dk_at dksX2_bestWorks_5 0 rfl rfl)
theorem dX2_bestWorks_121 : decode cX2_bestWorks 121 = .ok (.iload 8, 2) := dk_21 8 (dk_at dksX2_bestWorks_5 2 rfl rfl)
theorem dX2_bestWorks_123 : decode cX2_bestWorks 123 = .ok (.aload_n 0, 1) := dk_42 (dk_at dksX2_bestWorks_5 4 rfl rfl)
theorem dX2_bestWorks_124 : decode cX2_bestWorks 124 = .ok (.getfield 66, 3) := dk_180 0 66 (dk_at dksX2_bestWorks_5 5 rfl rfl)
theorem dX2_bestWorks_127 : decode cX2_bestWorks 127 = .ok (.iload 10, 2) := dk_21 10 (dk_at dksX2_bestWorks_5 8 rfl rfl)
theorem dX2_bestWorks_129 : decode cX2_bestWorks 129 = .ok (.invokevirtual 80, 3) := dk_182 0 80 (dk_at dksX2_bestWorks_5 10 rfl rfl)
theorem dX2_bestWorks_132 : decode cX2_bestWorks 132 = .ok (.checkcast 84, 3) := dk_192 0 84 (dk_at dksX2_bestWorks_5 13 rfl rfl)
theorem dX2_bestWorks_135 : decode cX2_bestWorks 135 = .ok (.iconst 1, 1) := dk_4 (dk_at dksX2_bestWorks_5 16 rfl rfl)
theorem dX2_bestWorks_136 : decode cX2_bestWorks 136 = .ok (.iaload, 1) := dk_46 (dk_at dksX2_bestWorks_5 17 rfl rfl)
theorem dX2_bestWorks_137 : decode cX2_bestWorks 137 = .ok (.iadd, 1) := dk_96 (dk_at dksX2_bestWorks_5 18 rfl rfl)
theorem dX2_bestWorks_138 : decode cX2_bestWorks 138 = .ok (.istore 8, 2) := dk_54 8 (dk_at dksX2_bestWorks_5 19 rfl rfl)
theorem dX2_bestWorks_140 : decode cX2_bestWorks 140 = .ok (.iload 9, 2) := dk_21 9 (dk_at dksX2_bestWorks_5 21 rfl rfl)
theorem dX2_bestWorks_142 : decode cX2_bestWorks 142 = .ok (.aload_n 0, 1) := dk_42 (dk_at dksX2_bestWorks_5 23 rfl rfl)
theorem dX2_bestWorks_143 : decode cX2_bestWorks 143 = .ok (.getfield 66, 3) := dk_180 0 66 (dk_at dksX2_bestWorks_6 0 rfl rfl)
theorem dX2_bestWorks_146 : decode cX2_bestWorks 146 = .ok (.iload 10, 2) := dk_21 10 (dk_at dksX2_bestWorks_6 3 rfl rfl)
theorem dX2_bestWorks_148 : decode cX2_bestWorks 148 = .ok (.invokevirtual 80, 3) := dk_182 0 80 (dk_at dksX2_bestWorks_6 5 rfl rfl)
theorem dX2_bestWorks_151 : decode cX2_bestWorks 151 = .ok (.checkcast 84, 3) := dk_192 0 84 (dk_at dksX2_bestWorks_6 8 rfl rfl)
theorem dX2_bestWorks_154 : decode cX2_bestWorks 154 = .ok (.iconst 3, 1) := dk_6 (dk_at dksX2_bestWorks_6 11 rfl rfl)
theorem dX2_bestWorks_155 : decode cX2_bestWorks 155 = .ok (.iaload, 1) := dk_46 (dk_at dksX2_bestWorks_6 12 rfl rfl)
theorem dX2_bestWorks_156 : decode cX2_bestWorks 156 = .ok (.ifCond .ne 7, 3) := dk_154 0 7 (dk_at dksX2_bestWorks_6 13 rfl rfl)
theorem dX2_bestWorks_159 : decode cX2_bestWorks 159 = .ok (.iconst 1, 1) := dk_4 (dk_at dksX2_bestWorks_6 16 rfl rfl)
theorem dX2_bestWorks_160 : decode cX2_bestWorks 160 = .ok (.goto 4, 3) := dk_167 0 4 (dk_at dksX2_bestWorks_6 17 rfl rfl)
theorem dX2_bestWorks_163 : decode cX2_bestWorks 163 = .ok (.iconst 0, 1) := dk_3 (dk_at dksX2_bestWorks_6 20 rfl rfl)
theorem dX2_bestWorks_164 : decode cX2_bestWorks 164 = .ok (.iand, 1) := dk_126 (dk_at dksX2_bestWorks_6 21 rfl rfl)
theorem dX2_bestWorks_165 : decode cX2_bestWorks 165 = .ok (.istore 9, 2) := dk_54 9 (dk_at dksX2_bestWorks_6 22 rfl rfl)
theorem dX2_bestWorks_167 : decode cX2_bestWorks 167 = .ok (.iinc 10 1, 3) := dk_132 10 1 (dk_at dksX2_bestWorks_7 0 rfl rfl)
theorem dX2_bestWorks_170 : decode cX2_bestWorks 170 = .ok (.goto (-78), 3) := dk_167 255 178 (dk_at dksX2_bestWorks_7 3 rfl rfl)
theorem dX2_bestWorks_173 : decode cX2_bestWorks 173 = .ok (.iload 9, 2) := dk_21 9 (dk_at dksX2_bestWorks_7 6 rfl rfl)
theorem dX2_bestWorks_175 : decode cX2_bestWorks 175 = .ok (.ifCond .eq 41, 3) := dk_153 0 41 (dk_at dksX2_bestWorks_7 8 rfl rfl)
theorem dX2_bestWorks_178 : decode cX2_bestWorks 178 = .ok (.iload 8, 2) := dk_21 8 (dk_at dksX2_bestWorks_7 11 rfl rfl)
theorem dX2_bestWorks_180 : decode cX2_bestWorks 180 = .ok (.iload_n 1, 1) := dk_27 (dk_at dksX2_bestWorks_7 13 rfl rfl)
theorem dX2_bestWorks_181 : decode cX2_bestWorks 181 = .ok (.if_icmp .gt 35, 3) := dk_163 0 35 (dk_at dksX2_bestWorks_7 14 rfl rfl)
theorem dX2_bestWorks_184 : decode cX2_bestWorks 184 = .ok (.iload 7, 2) := dk_21 7 (dk_at dksX2_bestWorks_7 17 rfl rfl)
theorem dX2_bestWorks_186 : decode cX2_bestWorks 186 = .ok (.iload 4, 2) := dk_21 4 (dk_at dksX2_bestWorks_7 19 rfl rfl)
theorem dX2_bestWorks_188 : decode cX2_bestWorks 188 = .ok (.if_icmp .gt 17, 3) := dk_163 0 17 (dk_at dksX2_bestWorks_7 21 rfl rfl)
theorem dX2_bestWorks_191 : decode cX2_bestWorks 191 = .ok (.iload 7, 2) := dk_21 7 (dk_at dksX2_bestWorks_8 0 rfl rfl)
theorem dX2_bestWorks_193 : decode cX2_bestWorks 193 = .ok (.iload 4, 2) := dk_21 4 (dk_at dksX2_bestWorks_8 2 rfl rfl)
theorem dX2_bestWorks_195 : decode cX2_bestWorks 195 = .ok (.if_icmp .ne 21, 3) := dk_160 0 21 (dk_at dksX2_bestWorks_8 4 rfl rfl)
theorem dX2_bestWorks_198 : decode cX2_bestWorks 198 = .ok (.iload 8, 2) := dk_21 8 (dk_at dksX2_bestWorks_8 7 rfl rfl)
theorem dX2_bestWorks_200 : decode cX2_bestWorks 200 = .ok (.iload 5, 2) := dk_21 5 (dk_at dksX2_bestWorks_8 9 rfl rfl)
theorem dX2_bestWorks_202 : decode cX2_bestWorks 202 = .ok (.if_icmp .ge 14, 3) := dk_162 0 14 (dk_at dksX2_bestWorks_8 11 rfl rfl)
theorem dX2_bestWorks_205 : decode cX2_bestWorks 205 = .ok (.iload 6, 2) := dk_21 6 (dk_at dksX2_bestWorks_8 14 rfl rfl)
theorem dX2_bestWorks_207 : decode cX2_bestWorks 207 = .ok (.istore_n 3, 1) := dk_62 (dk_at dksX2_bestWorks_8 16 rfl rfl)
theorem dX2_bestWorks_208 : decode cX2_bestWorks 208 = .ok (.iload 7, 2) := dk_21 7 (dk_at dksX2_bestWorks_8 17 rfl rfl)
theorem dX2_bestWorks_210 : decode cX2_bestWorks 210 = .ok (.istore 4, 2) := dk_54 4 (dk_at dksX2_bestWorks_8 19 rfl rfl)
theorem dX2_bestWorks_212 : decode cX2_bestWorks 212 = .ok (.iload 8, 2) := dk_21 8 (dk_at dksX2_bestWorks_8 21 rfl rfl)
theorem dX2_bestWorks_214 : decode cX2_bestWorks 214 = .ok (.istore 5, 2) := dk_54 5 (dk_at dksX2_bestWorks_9 0 rfl rfl)
theorem dX2_bestWorks_216 : decode cX2_bestWorks 216 = .ok (.iinc 6 1, 3) := dk_132 6 1 (dk_at dksX2_bestWorks_9 2 rfl rfl)
theorem dX2_bestWorks_219 : decode cX2_bestWorks 219 = .ok (.goto (-148), 3) := dk_167 255 108 (dk_at dksX2_bestWorks_9 5 rfl rfl)
theorem dX2_bestWorks_222 : decode cX2_bestWorks 222 = .ok (.iload_n 3, 1) := dk_29 (dk_at dksX2_bestWorks_9 8 rfl rfl)
theorem dX2_bestWorks_223 : decode cX2_bestWorks 223 = .ok (.ireturn, 1) := dk_172 (dk_at dksX2_bestWorks_9 9 rfl rfl)
abbrev cX2_genuineOn : ByteArray := prog_18_method_74_code
def yX2_genuineOn : MethodName := ⟨RX2, "genuineOn", "(I)I"⟩
def dkwX2_genuineOn_2 : List UInt8 := [167, 255, 215, 28, 172]
abbrev dktX2_genuineOn_2 : List UInt8 := dkwX2_genuineOn_2 ++ []
def dkwX2_genuineOn_1 : List UInt8 := [160, 0, 17, 42, 29, 182, 0, 161, 16, 10, 162, 0, 7, 4, 167, 0, 4, 3, 96, 61, 132, 3, 1]
abbrev dktX2_genuineOn_1 : List UInt8 := dkwX2_genuineOn_1 ++ dktX2_genuineOn_2
def dkwX2_genuineOn_0 : List UInt8 := [3, 61, 3, 62, 29, 42, 180, 0, 33, 182, 0, 72, 162, 0, 36, 28, 42, 29, 182, 0, 127, 27]
abbrev dktX2_genuineOn_0 : List UInt8 := dkwX2_genuineOn_0 ++ dktX2_genuineOn_1
theorem dksX2_genuineOn_0 : cX2_genuineOn.data.toList.drop 0 = dktX2_genuineOn_0 := by decide +kernel
theorem dksX2_genuineOn_1 : cX2_genuineOn.data.toList.drop 22 = dktX2_genuineOn_1 := dk_seg dksX2_genuineOn_0 22 rfl rfl
theorem dksX2_genuineOn_2 : cX2_genuineOn.data.toList.drop 45 = dktX2_genuineOn_2 := dk_seg dksX2_genuineOn_1 23 rfl rfl
theorem dX2_genuineOn_0 : decode cX2_genuineOn 0 = .ok (.iconst 0, 1) := dk_3 (dk_at dksX2_genuineOn_0 0 rfl rfl)
theorem dX2_genuineOn_1 : decode cX2_genuineOn 1 = .ok (.istore_n 2, 1) := dk_61 (dk_at dksX2_genuineOn_0 1 rfl rfl)
theorem dX2_genuineOn_2 : decode cX2_genuineOn 2 = .ok (.iconst 0, 1) := dk_3 (dk_at dksX2_genuineOn_0 2 rfl rfl)
theorem dX2_genuineOn_3 : decode cX2_genuineOn 3 = .ok (.istore_n 3, 1) := dk_62 (dk_at dksX2_genuineOn_0 3 rfl rfl)
theorem dX2_genuineOn_4 : decode cX2_genuineOn 4 = .ok (.iload_n 3, 1) := dk_29 (dk_at dksX2_genuineOn_0 4 rfl rfl)
theorem dX2_genuineOn_5 : decode cX2_genuineOn 5 = .ok (.aload_n 0, 1) := dk_42 (dk_at dksX2_genuineOn_0 5 rfl rfl)
theorem dX2_genuineOn_6 : decode cX2_genuineOn 6 = .ok (.getfield 33, 3) := dk_180 0 33 (dk_at dksX2_genuineOn_0 6 rfl rfl)
theorem dX2_genuineOn_9 : decode cX2_genuineOn 9 = .ok (.invokevirtual 72, 3) := dk_182 0 72 (dk_at dksX2_genuineOn_0 9 rfl rfl)
theorem dX2_genuineOn_12 : decode cX2_genuineOn 12 = .ok (.if_icmp .ge 36, 3) := dk_162 0 36 (dk_at dksX2_genuineOn_0 12 rfl rfl)
theorem dX2_genuineOn_15 : decode cX2_genuineOn 15 = .ok (.iload_n 2, 1) := dk_28 (dk_at dksX2_genuineOn_0 15 rfl rfl)
theorem dX2_genuineOn_16 : decode cX2_genuineOn 16 = .ok (.aload_n 0, 1) := dk_42 (dk_at dksX2_genuineOn_0 16 rfl rfl)
theorem dX2_genuineOn_17 : decode cX2_genuineOn 17 = .ok (.iload_n 3, 1) := dk_29 (dk_at dksX2_genuineOn_0 17 rfl rfl)
theorem dX2_genuineOn_18 : decode cX2_genuineOn 18 = .ok (.invokevirtual 127, 3) := dk_182 0 127 (dk_at dksX2_genuineOn_0 18 rfl rfl)
theorem dX2_genuineOn_21 : decode cX2_genuineOn 21 = .ok (.iload_n 1, 1) := dk_27 (dk_at dksX2_genuineOn_0 21 rfl rfl)
theorem dX2_genuineOn_22 : decode cX2_genuineOn 22 = .ok (.if_icmp .ne 17, 3) := dk_160 0 17 (dk_at dksX2_genuineOn_1 0 rfl rfl)
theorem dX2_genuineOn_25 : decode cX2_genuineOn 25 = .ok (.aload_n 0, 1) := dk_42 (dk_at dksX2_genuineOn_1 3 rfl rfl)
theorem dX2_genuineOn_26 : decode cX2_genuineOn 26 = .ok (.iload_n 3, 1) := dk_29 (dk_at dksX2_genuineOn_1 4 rfl rfl)
theorem dX2_genuineOn_27 : decode cX2_genuineOn 27 = .ok (.invokevirtual 161, 3) := dk_182 0 161 (dk_at dksX2_genuineOn_1 5 rfl rfl)
theorem dX2_genuineOn_30 : decode cX2_genuineOn 30 = .ok (.bipush 10, 2) := dk_16 10 (dk_at dksX2_genuineOn_1 8 rfl rfl)
theorem dX2_genuineOn_32 : decode cX2_genuineOn 32 = .ok (.if_icmp .ge 7, 3) := dk_162 0 7 (dk_at dksX2_genuineOn_1 10 rfl rfl)
theorem dX2_genuineOn_35 : decode cX2_genuineOn 35 = .ok (.iconst 1, 1) := dk_4 (dk_at dksX2_genuineOn_1 13 rfl rfl)
theorem dX2_genuineOn_36 : decode cX2_genuineOn 36 = .ok (.goto 4, 3) := dk_167 0 4 (dk_at dksX2_genuineOn_1 14 rfl rfl)
theorem dX2_genuineOn_39 : decode cX2_genuineOn 39 = .ok (.iconst 0, 1) := dk_3 (dk_at dksX2_genuineOn_1 17 rfl rfl)
theorem dX2_genuineOn_40 : decode cX2_genuineOn 40 = .ok (.iadd, 1) := dk_96 (dk_at dksX2_genuineOn_1 18 rfl rfl)
theorem dX2_genuineOn_41 : decode cX2_genuineOn 41 = .ok (.istore_n 2, 1) := dk_61 (dk_at dksX2_genuineOn_1 19 rfl rfl)
theorem dX2_genuineOn_42 : decode cX2_genuineOn 42 = .ok (.iinc 3 1, 3) := dk_132 3 1 (dk_at dksX2_genuineOn_1 20 rfl rfl)
theorem dX2_genuineOn_45 : decode cX2_genuineOn 45 = .ok (.goto (-41), 3) := dk_167 255 215 (dk_at dksX2_genuineOn_2 0 rfl rfl)
theorem dX2_genuineOn_48 : decode cX2_genuineOn 48 = .ok (.iload_n 2, 1) := dk_28 (dk_at dksX2_genuineOn_2 3 rfl rfl)
theorem dX2_genuineOn_49 : decode cX2_genuineOn 49 = .ok (.ireturn, 1) := dk_172 (dk_at dksX2_genuineOn_2 4 rfl rfl)
abbrev cX2_doWorks : ByteArray := prog_18_method_77_code
def yX2_doWorks : MethodName := ⟨RX2, "doWorks", "(I)I"⟩
def dkwX2_doWorks_5 : List UInt8 := [132, 4, 1, 167, 255, 180, 29, 172]
abbrev dktX2_doWorks_5 : List UInt8 := dkwX2_doWorks_5 ++ []
def dkwX2_doWorks_4 : List UInt8 := [182, 0, 80, 192, 0, 84, 8, 92, 46, 25, 5, 5, 46, 96, 79, 29, 25, 5, 4, 46, 96, 62]
abbrev dktX2_doWorks_4 : List UInt8 := dkwX2_doWorks_4 ++ dktX2_doWorks_5
def dkwX2_doWorks_3 : List UInt8 := [21, 4, 122, 4, 126, 154, 0, 6, 167, 0, 38, 25, 5, 6, 4, 79, 42, 180, 0, 16, 25, 5, 3, 46]
abbrev dktX2_doWorks_3 : List UInt8 := dkwX2_doWorks_3 ++ dktX2_doWorks_4
def dkwX2_doWorks_2 : List UInt8 := [180, 0, 66, 182, 0, 72, 162, 0, 70, 42, 180, 0, 66, 21, 4, 182, 0, 80, 192, 0, 84, 58, 5, 28]
abbrev dktX2_doWorks_2 : List UInt8 := dkwX2_doWorks_2 ++ dktX2_doWorks_3
def dkwX2_doWorks_1 : List UInt8 := [182, 0, 246, 61, 3, 62, 28, 154, 0, 9, 42, 5, 182, 0, 95, 172, 3, 54, 4, 21, 4, 42]
abbrev dktX2_doWorks_1 : List UInt8 := dkwX2_doWorks_1 ++ dktX2_doWorks_2
def dkwX2_doWorks_0 : List UInt8 := [42, 3, 181, 0, 69, 27, 3, 17, 39, 16, 184, 0, 76, 154, 0, 9, 42, 4, 182, 0, 95, 172, 42, 27]
abbrev dktX2_doWorks_0 : List UInt8 := dkwX2_doWorks_0 ++ dktX2_doWorks_1
theorem dksX2_doWorks_0 : cX2_doWorks.data.toList.drop 0 = dktX2_doWorks_0 := by decide +kernel
theorem dksX2_doWorks_1 : cX2_doWorks.data.toList.drop 24 = dktX2_doWorks_1 := dk_seg dksX2_doWorks_0 24 rfl rfl
theorem dksX2_doWorks_2 : cX2_doWorks.data.toList.drop 46 = dktX2_doWorks_2 := dk_seg dksX2_doWorks_1 22 rfl rfl
theorem dksX2_doWorks_3 : cX2_doWorks.data.toList.drop 70 = dktX2_doWorks_3 := dk_seg dksX2_doWorks_2 24 rfl rfl
theorem dksX2_doWorks_4 : cX2_doWorks.data.toList.drop 94 = dktX2_doWorks_4 := dk_seg dksX2_doWorks_3 24 rfl rfl
theorem dksX2_doWorks_5 : cX2_doWorks.data.toList.drop 116 = dktX2_doWorks_5 := dk_seg dksX2_doWorks_4 22 rfl rfl
theorem dX2_doWorks_0 : decode cX2_doWorks 0 = .ok (.aload_n 0, 1) := dk_42 (dk_at dksX2_doWorks_0 0 rfl rfl)
theorem dX2_doWorks_1 : decode cX2_doWorks 1 = .ok (.iconst 0, 1) := dk_3 (dk_at dksX2_doWorks_0 1 rfl rfl)
theorem dX2_doWorks_2 : decode cX2_doWorks 2 = .ok (.putfield 69, 3) := dk_181 0 69 (dk_at dksX2_doWorks_0 2 rfl rfl)
theorem dX2_doWorks_5 : decode cX2_doWorks 5 = .ok (.iload_n 1, 1) := dk_27 (dk_at dksX2_doWorks_0 5 rfl rfl)
theorem dX2_doWorks_6 : decode cX2_doWorks 6 = .ok (.iconst 0, 1) := dk_3 (dk_at dksX2_doWorks_0 6 rfl rfl)
theorem dX2_doWorks_7 : decode cX2_doWorks 7 = .ok (.sipush 10000, 3) := dk_17 39 16 (dk_at dksX2_doWorks_0 7 rfl rfl)
theorem dX2_doWorks_10 : decode cX2_doWorks 10 = .ok (.invokestatic 76, 3) := dk_184 0 76 (dk_at dksX2_doWorks_0 10 rfl rfl)
theorem dX2_doWorks_13 : decode cX2_doWorks 13 = .ok (.ifCond .ne 9, 3) := dk_154 0 9 (dk_at dksX2_doWorks_0 13 rfl rfl)
theorem dX2_doWorks_16 : decode cX2_doWorks 16 = .ok (.aload_n 0, 1) := dk_42 (dk_at dksX2_doWorks_0 16 rfl rfl)
theorem dX2_doWorks_17 : decode cX2_doWorks 17 = .ok (.iconst 1, 1) := dk_4 (dk_at dksX2_doWorks_0 17 rfl rfl)
theorem dX2_doWorks_18 : decode cX2_doWorks 18 = .ok (.invokevirtual 95, 3) := dk_182 0 95 (dk_at dksX2_doWorks_0 18 rfl rfl)
theorem dX2_doWorks_21 : decode cX2_doWorks 21 = .ok (.ireturn, 1) := dk_172 (dk_at dksX2_doWorks_0 21 rfl rfl)
theorem dX2_doWorks_22 : decode cX2_doWorks 22 = .ok (.aload_n 0, 1) := dk_42 (dk_at dksX2_doWorks_0 22 rfl rfl)
theorem dX2_doWorks_23 : decode cX2_doWorks 23 = .ok (.iload_n 1, 1) := dk_27 (dk_at dksX2_doWorks_0 23 rfl rfl)
theorem dX2_doWorks_24 : decode cX2_doWorks 24 = .ok (.invokevirtual 246, 3) := dk_182 0 246 (dk_at dksX2_doWorks_1 0 rfl rfl)
theorem dX2_doWorks_27 : decode cX2_doWorks 27 = .ok (.istore_n 2, 1) := dk_61 (dk_at dksX2_doWorks_1 3 rfl rfl)
theorem dX2_doWorks_28 : decode cX2_doWorks 28 = .ok (.iconst 0, 1) := dk_3 (dk_at dksX2_doWorks_1 4 rfl rfl)
theorem dX2_doWorks_29 : decode cX2_doWorks 29 = .ok (.istore_n 3, 1) := dk_62 (dk_at dksX2_doWorks_1 5 rfl rfl)
theorem dX2_doWorks_30 : decode cX2_doWorks 30 = .ok (.iload_n 2, 1) := dk_28 (dk_at dksX2_doWorks_1 6 rfl rfl)
theorem dX2_doWorks_31 : decode cX2_doWorks 31 = .ok (.ifCond .ne 9, 3) := dk_154 0 9 (dk_at dksX2_doWorks_1 7 rfl rfl)
theorem dX2_doWorks_34 : decode cX2_doWorks 34 = .ok (.aload_n 0, 1) := dk_42 (dk_at dksX2_doWorks_1 10 rfl rfl)
theorem dX2_doWorks_35 : decode cX2_doWorks 35 = .ok (.iconst 2, 1) := dk_5 (dk_at dksX2_doWorks_1 11 rfl rfl)
theorem dX2_doWorks_36 : decode cX2_doWorks 36 = .ok (.invokevirtual 95, 3) := dk_182 0 95 (dk_at dksX2_doWorks_1 12 rfl rfl)
theorem dX2_doWorks_39 : decode cX2_doWorks 39 = .ok (.ireturn, 1) := dk_172 (dk_at dksX2_doWorks_1 15 rfl rfl)
theorem dX2_doWorks_40 : decode cX2_doWorks 40 = .ok (.iconst 0, 1) := dk_3 (dk_at dksX2_doWorks_1 16 rfl rfl)
theorem dX2_doWorks_41 : decode cX2_doWorks 41 = .ok (.istore 4, 2) := dk_54 4 (dk_at dksX2_doWorks_1 17 rfl rfl)
theorem dX2_doWorks_43 : decode cX2_doWorks 43 = .ok (.iload 4, 2) := dk_21 4 (dk_at dksX2_doWorks_1 19 rfl rfl)
theorem dX2_doWorks_45 : decode cX2_doWorks 45 = .ok (.aload_n 0, 1) := dk_42 (dk_at dksX2_doWorks_1 21 rfl rfl)
theorem dX2_doWorks_46 : decode cX2_doWorks 46 = .ok (.getfield 66, 3) := dk_180 0 66 (dk_at dksX2_doWorks_2 0 rfl rfl)
theorem dX2_doWorks_49 : decode cX2_doWorks 49 = .ok (.invokevirtual 72, 3) := dk_182 0 72 (dk_at dksX2_doWorks_2 3 rfl rfl)
theorem dX2_doWorks_52 : decode cX2_doWorks 52 = .ok (.if_icmp .ge 70, 3) := dk_162 0 70 (dk_at dksX2_doWorks_2 6 rfl rfl)
theorem dX2_doWorks_55 : decode cX2_doWorks 55 = .ok (.aload_n 0, 1) := dk_42 (dk_at dksX2_doWorks_2 9 rfl rfl)
theorem dX2_doWorks_56 : decode cX2_doWorks 56 = .ok (.getfield 66, 3) := dk_180 0 66 (dk_at dksX2_doWorks_2 10 rfl rfl)
theorem dX2_doWorks_59 : decode cX2_doWorks 59 = .ok (.iload 4, 2) := dk_21 4 (dk_at dksX2_doWorks_2 13 rfl rfl)
theorem dX2_doWorks_61 : decode cX2_doWorks 61 = .ok (.invokevirtual 80, 3) := dk_182 0 80 (dk_at dksX2_doWorks_2 15 rfl rfl)
theorem dX2_doWorks_64 : decode cX2_doWorks 64 = .ok (.checkcast 84, 3) := dk_192 0 84 (dk_at dksX2_doWorks_2 18 rfl rfl)
theorem dX2_doWorks_67 : decode cX2_doWorks 67 = .ok (.astore 5, 2) := dk_58 5 (dk_at dksX2_doWorks_2 21 rfl rfl)
theorem dX2_doWorks_69 : decode cX2_doWorks 69 = .ok (.iload_n 2, 1) := dk_28 (dk_at dksX2_doWorks_2 23 rfl rfl)
theorem dX2_doWorks_70 : decode cX2_doWorks 70 = .ok (.iload 4, 2) := dk_21 4 (dk_at dksX2_doWorks_3 0 rfl rfl)
theorem dX2_doWorks_72 : decode cX2_doWorks 72 = .ok (.ishr, 1) := dk_122 (dk_at dksX2_doWorks_3 2 rfl rfl)
theorem dX2_doWorks_73 : decode cX2_doWorks 73 = .ok (.iconst 1, 1) := dk_4 (dk_at dksX2_doWorks_3 3 rfl rfl)
theorem dX2_doWorks_74 : decode cX2_doWorks 74 = .ok (.iand, 1) := dk_126 (dk_at dksX2_doWorks_3 4 rfl rfl)
theorem dX2_doWorks_75 : decode cX2_doWorks 75 = .ok (.ifCond .ne 6, 3) := dk_154 0 6 (dk_at dksX2_doWorks_3 5 rfl rfl)
theorem dX2_doWorks_78 : decode cX2_doWorks 78 = .ok (.goto 38, 3) := dk_167 0 38 (dk_at dksX2_doWorks_3 8 rfl rfl)
theorem dX2_doWorks_81 : decode cX2_doWorks 81 = .ok (.aload 5, 2) := dk_25 5 (dk_at dksX2_doWorks_3 11 rfl rfl)
theorem dX2_doWorks_83 : decode cX2_doWorks 83 = .ok (.iconst 3, 1) := dk_6 (dk_at dksX2_doWorks_3 13 rfl rfl)
theorem dX2_doWorks_84 : decode cX2_doWorks 84 = .ok (.iconst 1, 1) := dk_4 (dk_at dksX2_doWorks_3 14 rfl rfl)
theorem dX2_doWorks_85 : decode cX2_doWorks 85 = .ok (.iastore, 1) := dk_79 (dk_at dksX2_doWorks_3 15 rfl rfl)
theorem dX2_doWorks_86 : decode cX2_doWorks 86 = .ok (.aload_n 0, 1) := dk_42 (dk_at dksX2_doWorks_3 16 rfl rfl)
theorem dX2_doWorks_87 : decode cX2_doWorks 87 = .ok (.getfield 16, 3) := dk_180 0 16 (dk_at dksX2_doWorks_3 17 rfl rfl)
theorem dX2_doWorks_90 : decode cX2_doWorks 90 = .ok (.aload 5, 2) := dk_25 5 (dk_at dksX2_doWorks_3 20 rfl rfl)
theorem dX2_doWorks_92 : decode cX2_doWorks 92 = .ok (.iconst 0, 1) := dk_3 (dk_at dksX2_doWorks_3 22 rfl rfl)
theorem dX2_doWorks_93 : decode cX2_doWorks 93 = .ok (.iaload, 1) := dk_46 (dk_at dksX2_doWorks_3 23 rfl rfl)
theorem dX2_doWorks_94 : decode cX2_doWorks 94 = .ok (.invokevirtual 80, 3) := dk_182 0 80 (dk_at dksX2_doWorks_4 0 rfl rfl)
theorem dX2_doWorks_97 : decode cX2_doWorks 97 = .ok (.checkcast 84, 3) := dk_192 0 84 (dk_at dksX2_doWorks_4 3 rfl rfl)
theorem dX2_doWorks_100 : decode cX2_doWorks 100 = .ok (.iconst 5, 1) := dk_8 (dk_at dksX2_doWorks_4 6 rfl rfl)
theorem dX2_doWorks_101 : decode cX2_doWorks 101 = .ok (.dup2, 1) := dk_92 (dk_at dksX2_doWorks_4 7 rfl rfl)
theorem dX2_doWorks_102 : decode cX2_doWorks 102 = .ok (.iaload, 1) := dk_46 (dk_at dksX2_doWorks_4 8 rfl rfl)
theorem dX2_doWorks_103 : decode cX2_doWorks 103 = .ok (.aload 5, 2) := dk_25 5 (dk_at dksX2_doWorks_4 9 rfl rfl)
theorem dX2_doWorks_105 : decode cX2_doWorks 105 = .ok (.iconst 2, 1) := dk_5 (dk_at dksX2_doWorks_4 11 rfl rfl)
theorem dX2_doWorks_106 : decode cX2_doWorks 106 = .ok (.iaload, 1) := dk_46 (dk_at dksX2_doWorks_4 12 rfl rfl)
theorem dX2_doWorks_107 : decode cX2_doWorks 107 = .ok (.iadd, 1) := dk_96 (dk_at dksX2_doWorks_4 13 rfl rfl)
theorem dX2_doWorks_108 : decode cX2_doWorks 108 = .ok (.iastore, 1) := dk_79 (dk_at dksX2_doWorks_4 14 rfl rfl)
theorem dX2_doWorks_109 : decode cX2_doWorks 109 = .ok (.iload_n 3, 1) := dk_29 (dk_at dksX2_doWorks_4 15 rfl rfl)
theorem dX2_doWorks_110 : decode cX2_doWorks 110 = .ok (.aload 5, 2) := dk_25 5 (dk_at dksX2_doWorks_4 16 rfl rfl)
theorem dX2_doWorks_112 : decode cX2_doWorks 112 = .ok (.iconst 1, 1) := dk_4 (dk_at dksX2_doWorks_4 18 rfl rfl)
theorem dX2_doWorks_113 : decode cX2_doWorks 113 = .ok (.iaload, 1) := dk_46 (dk_at dksX2_doWorks_4 19 rfl rfl)
theorem dX2_doWorks_114 : decode cX2_doWorks 114 = .ok (.iadd, 1) := dk_96 (dk_at dksX2_doWorks_4 20 rfl rfl)
theorem dX2_doWorks_115 : decode cX2_doWorks 115 = .ok (.istore_n 3, 1) := dk_62 (dk_at dksX2_doWorks_4 21 rfl rfl)
theorem dX2_doWorks_116 : decode cX2_doWorks 116 = .ok (.iinc 4 1, 3) := dk_132 4 1 (dk_at dksX2_doWorks_5 0 rfl rfl)
theorem dX2_doWorks_119 : decode cX2_doWorks 119 = .ok (.goto (-76), 3) := dk_167 255 180 (dk_at dksX2_doWorks_5 3 rfl rfl)
theorem dX2_doWorks_122 : decode cX2_doWorks 122 = .ok (.iload_n 3, 1) := dk_29 (dk_at dksX2_doWorks_5 6 rfl rfl)
theorem dX2_doWorks_123 : decode cX2_doWorks 123 = .ok (.ireturn, 1) := dk_172 (dk_at dksX2_doWorks_5 7 rfl rfl)
abbrev cX2_setLoad : ByteArray := prog_18_method_78_code
def yX2_setLoad : MethodName := ⟨RX2, "setLoad", "(II)I"⟩
def dkwX2_setLoad_2 : List UInt8 := [16, 7, 46, 62, 42, 180, 0, 16, 27, 182, 0, 80, 192, 0, 84, 16, 7, 28, 79, 29, 172]
abbrev dktX2_setLoad_2 : List UInt8 := dkwX2_setLoad_2 ++ []
def dkwX2_setLoad_1 : List UInt8 := [184, 0, 76, 154, 0, 9, 42, 5, 182, 0, 95, 172, 42, 180, 0, 16, 27, 182, 0, 80, 192, 0, 84]
abbrev dktX2_setLoad_1 : List UInt8 := dkwX2_setLoad_1 ++ dktX2_setLoad_2
def dkwX2_setLoad_0 : List UInt8 := [42, 3, 181, 0, 69, 42, 27, 182, 0, 103, 153, 0, 9, 42, 4, 182, 0, 95, 172, 28, 3, 17, 3, 232]
abbrev dktX2_setLoad_0 : List UInt8 := dkwX2_setLoad_0 ++ dktX2_setLoad_1
theorem dksX2_setLoad_0 : cX2_setLoad.data.toList.drop 0 = dktX2_setLoad_0 := by decide +kernel
theorem dksX2_setLoad_1 : cX2_setLoad.data.toList.drop 24 = dktX2_setLoad_1 := dk_seg dksX2_setLoad_0 24 rfl rfl
theorem dksX2_setLoad_2 : cX2_setLoad.data.toList.drop 47 = dktX2_setLoad_2 := dk_seg dksX2_setLoad_1 23 rfl rfl
theorem dX2_setLoad_0 : decode cX2_setLoad 0 = .ok (.aload_n 0, 1) := dk_42 (dk_at dksX2_setLoad_0 0 rfl rfl)
theorem dX2_setLoad_1 : decode cX2_setLoad 1 = .ok (.iconst 0, 1) := dk_3 (dk_at dksX2_setLoad_0 1 rfl rfl)
theorem dX2_setLoad_2 : decode cX2_setLoad 2 = .ok (.putfield 69, 3) := dk_181 0 69 (dk_at dksX2_setLoad_0 2 rfl rfl)
theorem dX2_setLoad_5 : decode cX2_setLoad 5 = .ok (.aload_n 0, 1) := dk_42 (dk_at dksX2_setLoad_0 5 rfl rfl)
theorem dX2_setLoad_6 : decode cX2_setLoad 6 = .ok (.iload_n 1, 1) := dk_27 (dk_at dksX2_setLoad_0 6 rfl rfl)
theorem dX2_setLoad_7 : decode cX2_setLoad 7 = .ok (.invokevirtual 103, 3) := dk_182 0 103 (dk_at dksX2_setLoad_0 7 rfl rfl)
theorem dX2_setLoad_10 : decode cX2_setLoad 10 = .ok (.ifCond .eq 9, 3) := dk_153 0 9 (dk_at dksX2_setLoad_0 10 rfl rfl)
theorem dX2_setLoad_13 : decode cX2_setLoad 13 = .ok (.aload_n 0, 1) := dk_42 (dk_at dksX2_setLoad_0 13 rfl rfl)
theorem dX2_setLoad_14 : decode cX2_setLoad 14 = .ok (.iconst 1, 1) := dk_4 (dk_at dksX2_setLoad_0 14 rfl rfl)
theorem dX2_setLoad_15 : decode cX2_setLoad 15 = .ok (.invokevirtual 95, 3) := dk_182 0 95 (dk_at dksX2_setLoad_0 15 rfl rfl)
theorem dX2_setLoad_18 : decode cX2_setLoad 18 = .ok (.ireturn, 1) := dk_172 (dk_at dksX2_setLoad_0 18 rfl rfl)
theorem dX2_setLoad_19 : decode cX2_setLoad 19 = .ok (.iload_n 2, 1) := dk_28 (dk_at dksX2_setLoad_0 19 rfl rfl)
theorem dX2_setLoad_20 : decode cX2_setLoad 20 = .ok (.iconst 0, 1) := dk_3 (dk_at dksX2_setLoad_0 20 rfl rfl)
theorem dX2_setLoad_21 : decode cX2_setLoad 21 = .ok (.sipush 1000, 3) := dk_17 3 232 (dk_at dksX2_setLoad_0 21 rfl rfl)
theorem dX2_setLoad_24 : decode cX2_setLoad 24 = .ok (.invokestatic 76, 3) := dk_184 0 76 (dk_at dksX2_setLoad_1 0 rfl rfl)
theorem dX2_setLoad_27 : decode cX2_setLoad 27 = .ok (.ifCond .ne 9, 3) := dk_154 0 9 (dk_at dksX2_setLoad_1 3 rfl rfl)
theorem dX2_setLoad_30 : decode cX2_setLoad 30 = .ok (.aload_n 0, 1) := dk_42 (dk_at dksX2_setLoad_1 6 rfl rfl)
theorem dX2_setLoad_31 : decode cX2_setLoad 31 = .ok (.iconst 2, 1) := dk_5 (dk_at dksX2_setLoad_1 7 rfl rfl)
theorem dX2_setLoad_32 : decode cX2_setLoad 32 = .ok (.invokevirtual 95, 3) := dk_182 0 95 (dk_at dksX2_setLoad_1 8 rfl rfl)
theorem dX2_setLoad_35 : decode cX2_setLoad 35 = .ok (.ireturn, 1) := dk_172 (dk_at dksX2_setLoad_1 11 rfl rfl)
theorem dX2_setLoad_36 : decode cX2_setLoad 36 = .ok (.aload_n 0, 1) := dk_42 (dk_at dksX2_setLoad_1 12 rfl rfl)
theorem dX2_setLoad_37 : decode cX2_setLoad 37 = .ok (.getfield 16, 3) := dk_180 0 16 (dk_at dksX2_setLoad_1 13 rfl rfl)
theorem dX2_setLoad_40 : decode cX2_setLoad 40 = .ok (.iload_n 1, 1) := dk_27 (dk_at dksX2_setLoad_1 16 rfl rfl)
theorem dX2_setLoad_41 : decode cX2_setLoad 41 = .ok (.invokevirtual 80, 3) := dk_182 0 80 (dk_at dksX2_setLoad_1 17 rfl rfl)
theorem dX2_setLoad_44 : decode cX2_setLoad 44 = .ok (.checkcast 84, 3) := dk_192 0 84 (dk_at dksX2_setLoad_1 20 rfl rfl)
theorem dX2_setLoad_47 : decode cX2_setLoad 47 = .ok (.bipush 7, 2) := dk_16 7 (dk_at dksX2_setLoad_2 0 rfl rfl)
theorem dX2_setLoad_49 : decode cX2_setLoad 49 = .ok (.iaload, 1) := dk_46 (dk_at dksX2_setLoad_2 2 rfl rfl)
theorem dX2_setLoad_50 : decode cX2_setLoad 50 = .ok (.istore_n 3, 1) := dk_62 (dk_at dksX2_setLoad_2 3 rfl rfl)
theorem dX2_setLoad_51 : decode cX2_setLoad 51 = .ok (.aload_n 0, 1) := dk_42 (dk_at dksX2_setLoad_2 4 rfl rfl)
theorem dX2_setLoad_52 : decode cX2_setLoad 52 = .ok (.getfield 16, 3) := dk_180 0 16 (dk_at dksX2_setLoad_2 5 rfl rfl)
theorem dX2_setLoad_55 : decode cX2_setLoad 55 = .ok (.iload_n 1, 1) := dk_27 (dk_at dksX2_setLoad_2 8 rfl rfl)
theorem dX2_setLoad_56 : decode cX2_setLoad 56 = .ok (.invokevirtual 80, 3) := dk_182 0 80 (dk_at dksX2_setLoad_2 9 rfl rfl)
theorem dX2_setLoad_59 : decode cX2_setLoad 59 = .ok (.checkcast 84, 3) := dk_192 0 84 (dk_at dksX2_setLoad_2 12 rfl rfl)
theorem dX2_setLoad_62 : decode cX2_setLoad 62 = .ok (.bipush 7, 2) := dk_16 7 (dk_at dksX2_setLoad_2 15 rfl rfl)
theorem dX2_setLoad_64 : decode cX2_setLoad 64 = .ok (.iload_n 2, 1) := dk_28 (dk_at dksX2_setLoad_2 17 rfl rfl)
theorem dX2_setLoad_65 : decode cX2_setLoad 65 = .ok (.iastore, 1) := dk_79 (dk_at dksX2_setLoad_2 18 rfl rfl)
theorem dX2_setLoad_66 : decode cX2_setLoad 66 = .ok (.iload_n 3, 1) := dk_29 (dk_at dksX2_setLoad_2 19 rfl rfl)
theorem dX2_setLoad_67 : decode cX2_setLoad 67 = .ok (.ireturn, 1) := dk_172 (dk_at dksX2_setLoad_2 20 rfl rfl)
abbrev cX2_tour : ByteArray := prog_18_method_79_code
def yX2_tour : MethodName := ⟨RX2, "tour", "(II)I"⟩
def dkwX2_tour_4 : List UInt8 := [100, 184, 0, 234, 79, 45, 16, 7, 46, 45, 16, 8, 46, 100, 172]
abbrev dktX2_tour_4 : List UInt8 := dkwX2_tour_4 ++ []
def dkwX2_tour_3 : List UInt8 := [182, 0, 95, 172, 45, 16, 8, 92, 46, 28, 96, 79, 45, 16, 6, 3, 45, 16, 6, 46, 28, 16, 50, 108]
abbrev dktX2_tour_3 : List UInt8 := dkwX2_tour_3 ++ dktX2_tour_4
def dkwX2_tour_2 : List UInt8 := [42, 27, 182, 0, 106, 154, 0, 16, 45, 16, 8, 46, 28, 96, 45, 16, 7, 46, 164, 0, 9, 42, 6]
abbrev dktX2_tour_2 : List UInt8 := dkwX2_tour_2 ++ dktX2_tour_3
def dkwX2_tour_1 : List UInt8 := [184, 0, 76, 154, 0, 9, 42, 5, 182, 0, 95, 172, 42, 180, 0, 16, 27, 182, 0, 80, 192, 0, 84, 78]
abbrev dktX2_tour_1 : List UInt8 := dkwX2_tour_1 ++ dktX2_tour_2
def dkwX2_tour_0 : List UInt8 := [42, 3, 181, 0, 69, 42, 27, 182, 0, 103, 153, 0, 9, 42, 4, 182, 0, 95, 172, 28, 4, 17, 0, 200]
abbrev dktX2_tour_0 : List UInt8 := dkwX2_tour_0 ++ dktX2_tour_1
theorem dksX2_tour_0 : cX2_tour.data.toList.drop 0 = dktX2_tour_0 := by decide +kernel
theorem dksX2_tour_1 : cX2_tour.data.toList.drop 24 = dktX2_tour_1 := dk_seg dksX2_tour_0 24 rfl rfl
theorem dksX2_tour_2 : cX2_tour.data.toList.drop 48 = dktX2_tour_2 := dk_seg dksX2_tour_1 24 rfl rfl
theorem dksX2_tour_3 : cX2_tour.data.toList.drop 71 = dktX2_tour_3 := dk_seg dksX2_tour_2 23 rfl rfl
theorem dksX2_tour_4 : cX2_tour.data.toList.drop 95 = dktX2_tour_4 := dk_seg dksX2_tour_3 24 rfl rfl
theorem dX2_tour_0 : decode cX2_tour 0 = .ok (.aload_n 0, 1) := dk_42 (dk_at dksX2_tour_0 0 rfl rfl)
theorem dX2_tour_1 : decode cX2_tour 1 = .ok (.iconst 0, 1) := dk_3 (dk_at dksX2_tour_0 1 rfl rfl)
theorem dX2_tour_2 : decode cX2_tour 2 = .ok (.putfield 69, 3) := dk_181 0 69 (dk_at dksX2_tour_0 2 rfl rfl)
theorem dX2_tour_5 : decode cX2_tour 5 = .ok (.aload_n 0, 1) := dk_42 (dk_at dksX2_tour_0 5 rfl rfl)
theorem dX2_tour_6 : decode cX2_tour 6 = .ok (.iload_n 1, 1) := dk_27 (dk_at dksX2_tour_0 6 rfl rfl)
theorem dX2_tour_7 : decode cX2_tour 7 = .ok (.invokevirtual 103, 3) := dk_182 0 103 (dk_at dksX2_tour_0 7 rfl rfl)
theorem dX2_tour_10 : decode cX2_tour 10 = .ok (.ifCond .eq 9, 3) := dk_153 0 9 (dk_at dksX2_tour_0 10 rfl rfl)
theorem dX2_tour_13 : decode cX2_tour 13 = .ok (.aload_n 0, 1) := dk_42 (dk_at dksX2_tour_0 13 rfl rfl)
theorem dX2_tour_14 : decode cX2_tour 14 = .ok (.iconst 1, 1) := dk_4 (dk_at dksX2_tour_0 14 rfl rfl)
theorem dX2_tour_15 : decode cX2_tour 15 = .ok (.invokevirtual 95, 3) := dk_182 0 95 (dk_at dksX2_tour_0 15 rfl rfl)
theorem dX2_tour_18 : decode cX2_tour 18 = .ok (.ireturn, 1) := dk_172 (dk_at dksX2_tour_0 18 rfl rfl)
theorem dX2_tour_19 : decode cX2_tour 19 = .ok (.iload_n 2, 1) := dk_28 (dk_at dksX2_tour_0 19 rfl rfl)
theorem dX2_tour_20 : decode cX2_tour 20 = .ok (.iconst 1, 1) := dk_4 (dk_at dksX2_tour_0 20 rfl rfl)
theorem dX2_tour_21 : decode cX2_tour 21 = .ok (.sipush 200, 3) := dk_17 0 200 (dk_at dksX2_tour_0 21 rfl rfl)
theorem dX2_tour_24 : decode cX2_tour 24 = .ok (.invokestatic 76, 3) := dk_184 0 76 (dk_at dksX2_tour_1 0 rfl rfl)
theorem dX2_tour_27 : decode cX2_tour 27 = .ok (.ifCond .ne 9, 3) := dk_154 0 9 (dk_at dksX2_tour_1 3 rfl rfl)
theorem dX2_tour_30 : decode cX2_tour 30 = .ok (.aload_n 0, 1) := dk_42 (dk_at dksX2_tour_1 6 rfl rfl)
theorem dX2_tour_31 : decode cX2_tour 31 = .ok (.iconst 2, 1) := dk_5 (dk_at dksX2_tour_1 7 rfl rfl)
theorem dX2_tour_32 : decode cX2_tour 32 = .ok (.invokevirtual 95, 3) := dk_182 0 95 (dk_at dksX2_tour_1 8 rfl rfl)
theorem dX2_tour_35 : decode cX2_tour 35 = .ok (.ireturn, 1) := dk_172 (dk_at dksX2_tour_1 11 rfl rfl)
theorem dX2_tour_36 : decode cX2_tour 36 = .ok (.aload_n 0, 1) := dk_42 (dk_at dksX2_tour_1 12 rfl rfl)
theorem dX2_tour_37 : decode cX2_tour 37 = .ok (.getfield 16, 3) := dk_180 0 16 (dk_at dksX2_tour_1 13 rfl rfl)
theorem dX2_tour_40 : decode cX2_tour 40 = .ok (.iload_n 1, 1) := dk_27 (dk_at dksX2_tour_1 16 rfl rfl)
theorem dX2_tour_41 : decode cX2_tour 41 = .ok (.invokevirtual 80, 3) := dk_182 0 80 (dk_at dksX2_tour_1 17 rfl rfl)
theorem dX2_tour_44 : decode cX2_tour 44 = .ok (.checkcast 84, 3) := dk_192 0 84 (dk_at dksX2_tour_1 20 rfl rfl)
theorem dX2_tour_47 : decode cX2_tour 47 = .ok (.astore_n 3, 1) := dk_78 (dk_at dksX2_tour_1 23 rfl rfl)
theorem dX2_tour_48 : decode cX2_tour 48 = .ok (.aload_n 0, 1) := dk_42 (dk_at dksX2_tour_2 0 rfl rfl)
theorem dX2_tour_49 : decode cX2_tour 49 = .ok (.iload_n 1, 1) := dk_27 (dk_at dksX2_tour_2 1 rfl rfl)
theorem dX2_tour_50 : decode cX2_tour 50 = .ok (.invokevirtual 106, 3) := dk_182 0 106 (dk_at dksX2_tour_2 2 rfl rfl)
theorem dX2_tour_53 : decode cX2_tour 53 = .ok (.ifCond .ne 16, 3) := dk_154 0 16 (dk_at dksX2_tour_2 5 rfl rfl)
theorem dX2_tour_56 : decode cX2_tour 56 = .ok (.aload_n 3, 1) := dk_45 (dk_at dksX2_tour_2 8 rfl rfl)
theorem dX2_tour_57 : decode cX2_tour 57 = .ok (.bipush 8, 2) := dk_16 8 (dk_at dksX2_tour_2 9 rfl rfl)
theorem dX2_tour_59 : decode cX2_tour 59 = .ok (.iaload, 1) := dk_46 (dk_at dksX2_tour_2 11 rfl rfl)
theorem dX2_tour_60 : decode cX2_tour 60 = .ok (.iload_n 2, 1) := dk_28 (dk_at dksX2_tour_2 12 rfl rfl)
theorem dX2_tour_61 : decode cX2_tour 61 = .ok (.iadd, 1) := dk_96 (dk_at dksX2_tour_2 13 rfl rfl)
theorem dX2_tour_62 : decode cX2_tour 62 = .ok (.aload_n 3, 1) := dk_45 (dk_at dksX2_tour_2 14 rfl rfl)
theorem dX2_tour_63 : decode cX2_tour 63 = .ok (.bipush 7, 2) := dk_16 7 (dk_at dksX2_tour_2 15 rfl rfl)
theorem dX2_tour_65 : decode cX2_tour 65 = .ok (.iaload, 1) := dk_46 (dk_at dksX2_tour_2 17 rfl rfl)
theorem dX2_tour_66 : decode cX2_tour 66 = .ok (.if_icmp .le 9, 3) := dk_164 0 9 (dk_at dksX2_tour_2 18 rfl rfl)
theorem dX2_tour_69 : decode cX2_tour 69 = .ok (.aload_n 0, 1) := dk_42 (dk_at dksX2_tour_2 21 rfl rfl)
theorem dX2_tour_70 : decode cX2_tour 70 = .ok (.iconst 3, 1) := dk_6 (dk_at dksX2_tour_2 22 rfl rfl)
theorem dX2_tour_71 : decode cX2_tour 71 = .ok (.invokevirtual 95, 3) := dk_182 0 95 (dk_at dksX2_tour_3 0 rfl rfl)
theorem dX2_tour_74 : decode cX2_tour 74 = .ok (.ireturn, 1) := dk_172 (dk_at dksX2_tour_3 3 rfl rfl)
theorem dX2_tour_75 : decode cX2_tour 75 = .ok (.aload_n 3, 1) := dk_45 (dk_at dksX2_tour_3 4 rfl rfl)
theorem dX2_tour_76 : decode cX2_tour 76 = .ok (.bipush 8, 2) := dk_16 8 (dk_at dksX2_tour_3 5 rfl rfl)
theorem dX2_tour_78 : decode cX2_tour 78 = .ok (.dup2, 1) := dk_92 (dk_at dksX2_tour_3 7 rfl rfl)
theorem dX2_tour_79 : decode cX2_tour 79 = .ok (.iaload, 1) := dk_46 (dk_at dksX2_tour_3 8 rfl rfl)
theorem dX2_tour_80 : decode cX2_tour 80 = .ok (.iload_n 2, 1) := dk_28 (dk_at dksX2_tour_3 9 rfl rfl)
theorem dX2_tour_81 : decode cX2_tour 81 = .ok (.iadd, 1) := dk_96 (dk_at dksX2_tour_3 10 rfl rfl)
theorem dX2_tour_82 : decode cX2_tour 82 = .ok (.iastore, 1) := dk_79 (dk_at dksX2_tour_3 11 rfl rfl)
theorem dX2_tour_83 : decode cX2_tour 83 = .ok (.aload_n 3, 1) := dk_45 (dk_at dksX2_tour_3 12 rfl rfl)
theorem dX2_tour_84 : decode cX2_tour 84 = .ok (.bipush 6, 2) := dk_16 6 (dk_at dksX2_tour_3 13 rfl rfl)
theorem dX2_tour_86 : decode cX2_tour 86 = .ok (.iconst 0, 1) := dk_3 (dk_at dksX2_tour_3 15 rfl rfl)
theorem dX2_tour_87 : decode cX2_tour 87 = .ok (.aload_n 3, 1) := dk_45 (dk_at dksX2_tour_3 16 rfl rfl)
theorem dX2_tour_88 : decode cX2_tour 88 = .ok (.bipush 6, 2) := dk_16 6 (dk_at dksX2_tour_3 17 rfl rfl)
theorem dX2_tour_90 : decode cX2_tour 90 = .ok (.iaload, 1) := dk_46 (dk_at dksX2_tour_3 19 rfl rfl)
theorem dX2_tour_91 : decode cX2_tour 91 = .ok (.iload_n 2, 1) := dk_28 (dk_at dksX2_tour_3 20 rfl rfl)
theorem dX2_tour_92 : decode cX2_tour 92 = .ok (.bipush 50, 2) := dk_16 50 (dk_at dksX2_tour_3 21 rfl rfl)
theorem dX2_tour_94 : decode cX2_tour 94 = .ok (.idiv, 1) := dk_108 (dk_at dksX2_tour_3 23 rfl rfl)
theorem dX2_tour_95 : decode cX2_tour 95 = .ok (.isub, 1) := dk_100 (dk_at dksX2_tour_4 0 rfl rfl)
theorem dX2_tour_96 : decode cX2_tour 96 = .ok (.invokestatic 234, 3) := dk_184 0 234 (dk_at dksX2_tour_4 1 rfl rfl)
theorem dX2_tour_99 : decode cX2_tour 99 = .ok (.iastore, 1) := dk_79 (dk_at dksX2_tour_4 4 rfl rfl)
theorem dX2_tour_100 : decode cX2_tour 100 = .ok (.aload_n 3, 1) := dk_45 (dk_at dksX2_tour_4 5 rfl rfl)
theorem dX2_tour_101 : decode cX2_tour 101 = .ok (.bipush 7, 2) := dk_16 7 (dk_at dksX2_tour_4 6 rfl rfl)
theorem dX2_tour_103 : decode cX2_tour 103 = .ok (.iaload, 1) := dk_46 (dk_at dksX2_tour_4 8 rfl rfl)
theorem dX2_tour_104 : decode cX2_tour 104 = .ok (.aload_n 3, 1) := dk_45 (dk_at dksX2_tour_4 9 rfl rfl)
theorem dX2_tour_105 : decode cX2_tour 105 = .ok (.bipush 8, 2) := dk_16 8 (dk_at dksX2_tour_4 10 rfl rfl)
theorem dX2_tour_107 : decode cX2_tour 107 = .ok (.iaload, 1) := dk_46 (dk_at dksX2_tour_4 12 rfl rfl)
theorem dX2_tour_108 : decode cX2_tour 108 = .ok (.isub, 1) := dk_100 (dk_at dksX2_tour_4 13 rfl rfl)
theorem dX2_tour_109 : decode cX2_tour 109 = .ok (.ireturn, 1) := dk_172 (dk_at dksX2_tour_4 14 rfl rfl)
abbrev cX2_tellDam : ByteArray := prog_18_method_80_code
def yX2_tellDam : MethodName := ⟨RX2, "tellDam", "(II)I"⟩
def dkwX2_tellDam_4 : List UInt8 := [96, 62, 132, 4, 1, 167, 255, 224, 29, 172]
abbrev dktX2_tellDam_4 : List UInt8 := dkwX2_tellDam_4 ++ []
def dkwX2_tellDam_3 : List UInt8 := [180, 0, 16, 182, 0, 72, 162, 0, 26, 29, 42, 21, 4, 182, 0, 85, 153, 0, 7, 4, 167, 0, 4, 3]
abbrev dktX2_tellDam_3 : List UInt8 := dkwX2_tellDam_3 ++ dktX2_tellDam_4
def dkwX2_tellDam_2 : List UInt8 := [5, 182, 0, 95, 172, 42, 27, 181, 0, 9, 42, 28, 181, 0, 92, 3, 62, 3, 54, 4, 21, 4, 42]
abbrev dktX2_tellDam_2 : List UInt8 := dkwX2_tellDam_2 ++ dktX2_tellDam_3
def dkwX2_tellDam_1 : List UInt8 := [17, 0, 200, 184, 0, 76, 154, 0, 9, 42, 4, 182, 0, 95, 172, 42, 180, 0, 9, 2, 159, 0, 9, 42]
abbrev dktX2_tellDam_1 : List UInt8 := dkwX2_tellDam_1 ++ dktX2_tellDam_2
def dkwX2_tellDam_0 : List UInt8 := [42, 3, 181, 0, 69, 27, 3, 17, 3, 233, 184, 0, 76, 153, 0, 19, 28, 42, 180, 0, 89, 4, 96]
abbrev dktX2_tellDam_0 : List UInt8 := dkwX2_tellDam_0 ++ dktX2_tellDam_1
theorem dksX2_tellDam_0 : cX2_tellDam.data.toList.drop 0 = dktX2_tellDam_0 := by decide +kernel
theorem dksX2_tellDam_1 : cX2_tellDam.data.toList.drop 23 = dktX2_tellDam_1 := dk_seg dksX2_tellDam_0 23 rfl rfl
theorem dksX2_tellDam_2 : cX2_tellDam.data.toList.drop 47 = dktX2_tellDam_2 := dk_seg dksX2_tellDam_1 24 rfl rfl
theorem dksX2_tellDam_3 : cX2_tellDam.data.toList.drop 70 = dktX2_tellDam_3 := dk_seg dksX2_tellDam_2 23 rfl rfl
theorem dksX2_tellDam_4 : cX2_tellDam.data.toList.drop 94 = dktX2_tellDam_4 := dk_seg dksX2_tellDam_3 24 rfl rfl
theorem dX2_tellDam_0 : decode cX2_tellDam 0 = .ok (.aload_n 0, 1) := dk_42 (dk_at dksX2_tellDam_0 0 rfl rfl)
theorem dX2_tellDam_1 : decode cX2_tellDam 1 = .ok (.iconst 0, 1) := dk_3 (dk_at dksX2_tellDam_0 1 rfl rfl)
theorem dX2_tellDam_2 : decode cX2_tellDam 2 = .ok (.putfield 69, 3) := dk_181 0 69 (dk_at dksX2_tellDam_0 2 rfl rfl)
theorem dX2_tellDam_5 : decode cX2_tellDam 5 = .ok (.iload_n 1, 1) := dk_27 (dk_at dksX2_tellDam_0 5 rfl rfl)
theorem dX2_tellDam_6 : decode cX2_tellDam 6 = .ok (.iconst 0, 1) := dk_3 (dk_at dksX2_tellDam_0 6 rfl rfl)
theorem dX2_tellDam_7 : decode cX2_tellDam 7 = .ok (.sipush 1001, 3) := dk_17 3 233 (dk_at dksX2_tellDam_0 7 rfl rfl)
theorem dX2_tellDam_10 : decode cX2_tellDam 10 = .ok (.invokestatic 76, 3) := dk_184 0 76 (dk_at dksX2_tellDam_0 10 rfl rfl)
theorem dX2_tellDam_13 : decode cX2_tellDam 13 = .ok (.ifCond .eq 19, 3) := dk_153 0 19 (dk_at dksX2_tellDam_0 13 rfl rfl)
theorem dX2_tellDam_16 : decode cX2_tellDam 16 = .ok (.iload_n 2, 1) := dk_28 (dk_at dksX2_tellDam_0 16 rfl rfl)
theorem dX2_tellDam_17 : decode cX2_tellDam 17 = .ok (.aload_n 0, 1) := dk_42 (dk_at dksX2_tellDam_0 17 rfl rfl)
theorem dX2_tellDam_18 : decode cX2_tellDam 18 = .ok (.getfield 89, 3) := dk_180 0 89 (dk_at dksX2_tellDam_0 18 rfl rfl)
theorem dX2_tellDam_21 : decode cX2_tellDam 21 = .ok (.iconst 1, 1) := dk_4 (dk_at dksX2_tellDam_0 21 rfl rfl)
theorem dX2_tellDam_22 : decode cX2_tellDam 22 = .ok (.iadd, 1) := dk_96 (dk_at dksX2_tellDam_0 22 rfl rfl)
theorem dX2_tellDam_23 : decode cX2_tellDam 23 = .ok (.sipush 200, 3) := dk_17 0 200 (dk_at dksX2_tellDam_1 0 rfl rfl)
theorem dX2_tellDam_26 : decode cX2_tellDam 26 = .ok (.invokestatic 76, 3) := dk_184 0 76 (dk_at dksX2_tellDam_1 3 rfl rfl)
theorem dX2_tellDam_29 : decode cX2_tellDam 29 = .ok (.ifCond .ne 9, 3) := dk_154 0 9 (dk_at dksX2_tellDam_1 6 rfl rfl)
theorem dX2_tellDam_32 : decode cX2_tellDam 32 = .ok (.aload_n 0, 1) := dk_42 (dk_at dksX2_tellDam_1 9 rfl rfl)
theorem dX2_tellDam_33 : decode cX2_tellDam 33 = .ok (.iconst 1, 1) := dk_4 (dk_at dksX2_tellDam_1 10 rfl rfl)
theorem dX2_tellDam_34 : decode cX2_tellDam 34 = .ok (.invokevirtual 95, 3) := dk_182 0 95 (dk_at dksX2_tellDam_1 11 rfl rfl)
theorem dX2_tellDam_37 : decode cX2_tellDam 37 = .ok (.ireturn, 1) := dk_172 (dk_at dksX2_tellDam_1 14 rfl rfl)
theorem dX2_tellDam_38 : decode cX2_tellDam 38 = .ok (.aload_n 0, 1) := dk_42 (dk_at dksX2_tellDam_1 15 rfl rfl)
theorem dX2_tellDam_39 : decode cX2_tellDam 39 = .ok (.getfield 9, 3) := dk_180 0 9 (dk_at dksX2_tellDam_1 16 rfl rfl)
theorem dX2_tellDam_42 : decode cX2_tellDam 42 = .ok (.iconst (-1), 1) := dk_2 (dk_at dksX2_tellDam_1 19 rfl rfl)
theorem dX2_tellDam_43 : decode cX2_tellDam 43 = .ok (.if_icmp .eq 9, 3) := dk_159 0 9 (dk_at dksX2_tellDam_1 20 rfl rfl)
theorem dX2_tellDam_46 : decode cX2_tellDam 46 = .ok (.aload_n 0, 1) := dk_42 (dk_at dksX2_tellDam_1 23 rfl rfl)
theorem dX2_tellDam_47 : decode cX2_tellDam 47 = .ok (.iconst 2, 1) := dk_5 (dk_at dksX2_tellDam_2 0 rfl rfl)
theorem dX2_tellDam_48 : decode cX2_tellDam 48 = .ok (.invokevirtual 95, 3) := dk_182 0 95 (dk_at dksX2_tellDam_2 1 rfl rfl)
theorem dX2_tellDam_51 : decode cX2_tellDam 51 = .ok (.ireturn, 1) := dk_172 (dk_at dksX2_tellDam_2 4 rfl rfl)
theorem dX2_tellDam_52 : decode cX2_tellDam 52 = .ok (.aload_n 0, 1) := dk_42 (dk_at dksX2_tellDam_2 5 rfl rfl)
theorem dX2_tellDam_53 : decode cX2_tellDam 53 = .ok (.iload_n 1, 1) := dk_27 (dk_at dksX2_tellDam_2 6 rfl rfl)
theorem dX2_tellDam_54 : decode cX2_tellDam 54 = .ok (.putfield 9, 3) := dk_181 0 9 (dk_at dksX2_tellDam_2 7 rfl rfl)
theorem dX2_tellDam_57 : decode cX2_tellDam 57 = .ok (.aload_n 0, 1) := dk_42 (dk_at dksX2_tellDam_2 10 rfl rfl)
theorem dX2_tellDam_58 : decode cX2_tellDam 58 = .ok (.iload_n 2, 1) := dk_28 (dk_at dksX2_tellDam_2 11 rfl rfl)
theorem dX2_tellDam_59 : decode cX2_tellDam 59 = .ok (.putfield 92, 3) := dk_181 0 92 (dk_at dksX2_tellDam_2 12 rfl rfl)
theorem dX2_tellDam_62 : decode cX2_tellDam 62 = .ok (.iconst 0, 1) := dk_3 (dk_at dksX2_tellDam_2 15 rfl rfl)
theorem dX2_tellDam_63 : decode cX2_tellDam 63 = .ok (.istore_n 3, 1) := dk_62 (dk_at dksX2_tellDam_2 16 rfl rfl)
theorem dX2_tellDam_64 : decode cX2_tellDam 64 = .ok (.iconst 0, 1) := dk_3 (dk_at dksX2_tellDam_2 17 rfl rfl)
theorem dX2_tellDam_65 : decode cX2_tellDam 65 = .ok (.istore 4, 2) := dk_54 4 (dk_at dksX2_tellDam_2 18 rfl rfl)
theorem dX2_tellDam_67 : decode cX2_tellDam 67 = .ok (.iload 4, 2) := dk_21 4 (dk_at dksX2_tellDam_2 20 rfl rfl)
theorem dX2_tellDam_69 : decode cX2_tellDam 69 = .ok (.aload_n 0, 1) := dk_42 (dk_at dksX2_tellDam_2 22 rfl rfl)
theorem dX2_tellDam_70 : decode cX2_tellDam 70 = .ok (.getfield 16, 3) := dk_180 0 16 (dk_at dksX2_tellDam_3 0 rfl rfl)
theorem dX2_tellDam_73 : decode cX2_tellDam 73 = .ok (.invokevirtual 72, 3) := dk_182 0 72 (dk_at dksX2_tellDam_3 3 rfl rfl)
theorem dX2_tellDam_76 : decode cX2_tellDam 76 = .ok (.if_icmp .ge 26, 3) := dk_162 0 26 (dk_at dksX2_tellDam_3 6 rfl rfl)
theorem dX2_tellDam_79 : decode cX2_tellDam 79 = .ok (.iload_n 3, 1) := dk_29 (dk_at dksX2_tellDam_3 9 rfl rfl)
theorem dX2_tellDam_80 : decode cX2_tellDam 80 = .ok (.aload_n 0, 1) := dk_42 (dk_at dksX2_tellDam_3 10 rfl rfl)
theorem dX2_tellDam_81 : decode cX2_tellDam 81 = .ok (.iload 4, 2) := dk_21 4 (dk_at dksX2_tellDam_3 11 rfl rfl)
theorem dX2_tellDam_83 : decode cX2_tellDam 83 = .ok (.invokevirtual 85, 3) := dk_182 0 85 (dk_at dksX2_tellDam_3 13 rfl rfl)
theorem dX2_tellDam_86 : decode cX2_tellDam 86 = .ok (.ifCond .eq 7, 3) := dk_153 0 7 (dk_at dksX2_tellDam_3 16 rfl rfl)
theorem dX2_tellDam_89 : decode cX2_tellDam 89 = .ok (.iconst 1, 1) := dk_4 (dk_at dksX2_tellDam_3 19 rfl rfl)
theorem dX2_tellDam_90 : decode cX2_tellDam 90 = .ok (.goto 4, 3) := dk_167 0 4 (dk_at dksX2_tellDam_3 20 rfl rfl)
theorem dX2_tellDam_93 : decode cX2_tellDam 93 = .ok (.iconst 0, 1) := dk_3 (dk_at dksX2_tellDam_3 23 rfl rfl)
theorem dX2_tellDam_94 : decode cX2_tellDam 94 = .ok (.iadd, 1) := dk_96 (dk_at dksX2_tellDam_4 0 rfl rfl)
theorem dX2_tellDam_95 : decode cX2_tellDam 95 = .ok (.istore_n 3, 1) := dk_62 (dk_at dksX2_tellDam_4 1 rfl rfl)
theorem dX2_tellDam_96 : decode cX2_tellDam 96 = .ok (.iinc 4 1, 3) := dk_132 4 1 (dk_at dksX2_tellDam_4 2 rfl rfl)
theorem dX2_tellDam_99 : decode cX2_tellDam 99 = .ok (.goto (-32), 3) := dk_167 255 224 (dk_at dksX2_tellDam_4 5 rfl rfl)
theorem dX2_tellDam_102 : decode cX2_tellDam 102 = .ok (.iload_n 3, 1) := dk_29 (dk_at dksX2_tellDam_4 8 rfl rfl)
theorem dX2_tellDam_103 : decode cX2_tellDam 103 = .ok (.ireturn, 1) := dk_172 (dk_at dksX2_tellDam_4 9 rfl rfl)
abbrev cX2_isDrowned : ByteArray := prog_18_method_81_code
def yX2_isDrowned : MethodName := ⟨RX2, "isDrowned", "(I)Z"⟩
def dkwX2_isDrowned_1 : List UInt8 := [167, 0, 12, 3, 167, 0, 8, 42, 27, 182, 0, 106, 172]
abbrev dktX2_isDrowned_1 : List UInt8 := dkwX2_isDrowned_1 ++ []
def dkwX2_isDrowned_0 : List UInt8 := [42, 3, 181, 0, 69, 42, 27, 182, 0, 103, 153, 0, 19, 42, 4, 182, 0, 95, 158, 0, 7, 4]
abbrev dktX2_isDrowned_0 : List UInt8 := dkwX2_isDrowned_0 ++ dktX2_isDrowned_1
theorem dksX2_isDrowned_0 : cX2_isDrowned.data.toList.drop 0 = dktX2_isDrowned_0 := by decide +kernel
theorem dksX2_isDrowned_1 : cX2_isDrowned.data.toList.drop 22 = dktX2_isDrowned_1 := dk_seg dksX2_isDrowned_0 22 rfl rfl
theorem dX2_isDrowned_0 : decode cX2_isDrowned 0 = .ok (.aload_n 0, 1) := dk_42 (dk_at dksX2_isDrowned_0 0 rfl rfl)
theorem dX2_isDrowned_1 : decode cX2_isDrowned 1 = .ok (.iconst 0, 1) := dk_3 (dk_at dksX2_isDrowned_0 1 rfl rfl)
theorem dX2_isDrowned_2 : decode cX2_isDrowned 2 = .ok (.putfield 69, 3) := dk_181 0 69 (dk_at dksX2_isDrowned_0 2 rfl rfl)
theorem dX2_isDrowned_5 : decode cX2_isDrowned 5 = .ok (.aload_n 0, 1) := dk_42 (dk_at dksX2_isDrowned_0 5 rfl rfl)
theorem dX2_isDrowned_6 : decode cX2_isDrowned 6 = .ok (.iload_n 1, 1) := dk_27 (dk_at dksX2_isDrowned_0 6 rfl rfl)
theorem dX2_isDrowned_7 : decode cX2_isDrowned 7 = .ok (.invokevirtual 103, 3) := dk_182 0 103 (dk_at dksX2_isDrowned_0 7 rfl rfl)
theorem dX2_isDrowned_10 : decode cX2_isDrowned 10 = .ok (.ifCond .eq 19, 3) := dk_153 0 19 (dk_at dksX2_isDrowned_0 10 rfl rfl)
theorem dX2_isDrowned_13 : decode cX2_isDrowned 13 = .ok (.aload_n 0, 1) := dk_42 (dk_at dksX2_isDrowned_0 13 rfl rfl)
theorem dX2_isDrowned_14 : decode cX2_isDrowned 14 = .ok (.iconst 1, 1) := dk_4 (dk_at dksX2_isDrowned_0 14 rfl rfl)
theorem dX2_isDrowned_15 : decode cX2_isDrowned 15 = .ok (.invokevirtual 95, 3) := dk_182 0 95 (dk_at dksX2_isDrowned_0 15 rfl rfl)
theorem dX2_isDrowned_18 : decode cX2_isDrowned 18 = .ok (.ifCond .le 7, 3) := dk_158 0 7 (dk_at dksX2_isDrowned_0 18 rfl rfl)
theorem dX2_isDrowned_21 : decode cX2_isDrowned 21 = .ok (.iconst 1, 1) := dk_4 (dk_at dksX2_isDrowned_0 21 rfl rfl)
theorem dX2_isDrowned_22 : decode cX2_isDrowned 22 = .ok (.goto 12, 3) := dk_167 0 12 (dk_at dksX2_isDrowned_1 0 rfl rfl)
theorem dX2_isDrowned_25 : decode cX2_isDrowned 25 = .ok (.iconst 0, 1) := dk_3 (dk_at dksX2_isDrowned_1 3 rfl rfl)
theorem dX2_isDrowned_26 : decode cX2_isDrowned 26 = .ok (.goto 8, 3) := dk_167 0 8 (dk_at dksX2_isDrowned_1 4 rfl rfl)
theorem dX2_isDrowned_29 : decode cX2_isDrowned 29 = .ok (.aload_n 0, 1) := dk_42 (dk_at dksX2_isDrowned_1 7 rfl rfl)
theorem dX2_isDrowned_30 : decode cX2_isDrowned 30 = .ok (.iload_n 1, 1) := dk_27 (dk_at dksX2_isDrowned_1 8 rfl rfl)
theorem dX2_isDrowned_31 : decode cX2_isDrowned 31 = .ok (.invokevirtual 106, 3) := dk_182 0 106 (dk_at dksX2_isDrowned_1 9 rfl rfl)
theorem dX2_isDrowned_34 : decode cX2_isDrowned 34 = .ok (.ireturn, 1) := dk_172 (dk_at dksX2_isDrowned_1 12 rfl rfl)
abbrev cX2_recordFirst : ByteArray := prog_18_method_82_code
def yX2_recordFirst : MethodName := ⟨RX2, "recordFirst", "()I"⟩
def dkwX2_recordFirst_5 : List UInt8 := [28, 60, 132, 2, 1, 167, 255, 145, 27, 172]
abbrev dktX2_recordFirst_5 : List UInt8 := dkwX2_recordFirst_5 ++ []
def dkwX2_recordFirst_4 : List UInt8 := [46, 100, 62, 29, 157, 0, 20, 29, 154, 0, 18, 42, 28, 182, 0, 243, 42, 27, 182, 0, 243, 164, 0, 5]
abbrev dktX2_recordFirst_4 : List UInt8 := dkwX2_recordFirst_4 ++ dktX2_recordFirst_5
def dkwX2_recordFirst_3 : List UInt8 := [180, 0, 16, 27, 182, 0, 80, 192, 0, 84, 3, 46, 42, 180, 0, 16, 28, 182, 0, 80, 192, 0, 84, 3]
abbrev dktX2_recordFirst_3 : List UInt8 := dkwX2_recordFirst_3 ++ dktX2_recordFirst_4
def dkwX2_recordFirst_2 : List UInt8 := [192, 0, 84, 4, 46, 16, 15, 160, 0, 6, 167, 0, 63, 27, 2, 160, 0, 7, 4, 167, 0, 30, 42]
abbrev dktX2_recordFirst_2 : List UInt8 := dkwX2_recordFirst_2 ++ dktX2_recordFirst_3
def dkwX2_recordFirst_1 : List UInt8 := [182, 0, 85, 153, 0, 92, 42, 28, 182, 0, 106, 154, 0, 84, 42, 180, 0, 16, 28, 182, 0, 80]
abbrev dktX2_recordFirst_1 : List UInt8 := dkwX2_recordFirst_1 ++ dktX2_recordFirst_2
def dkwX2_recordFirst_0 : List UInt8 := [42, 3, 181, 0, 69, 2, 60, 3, 61, 28, 42, 180, 0, 16, 182, 0, 72, 162, 0, 106, 42, 28]
abbrev dktX2_recordFirst_0 : List UInt8 := dkwX2_recordFirst_0 ++ dktX2_recordFirst_1
theorem dksX2_recordFirst_0 : cX2_recordFirst.data.toList.drop 0 = dktX2_recordFirst_0 := by decide +kernel
theorem dksX2_recordFirst_1 : cX2_recordFirst.data.toList.drop 22 = dktX2_recordFirst_1 := dk_seg dksX2_recordFirst_0 22 rfl rfl
theorem dksX2_recordFirst_2 : cX2_recordFirst.data.toList.drop 44 = dktX2_recordFirst_2 := dk_seg dksX2_recordFirst_1 22 rfl rfl
theorem dksX2_recordFirst_3 : cX2_recordFirst.data.toList.drop 67 = dktX2_recordFirst_3 := dk_seg dksX2_recordFirst_2 23 rfl rfl
theorem dksX2_recordFirst_4 : cX2_recordFirst.data.toList.drop 91 = dktX2_recordFirst_4 := dk_seg dksX2_recordFirst_3 24 rfl rfl
theorem dksX2_recordFirst_5 : cX2_recordFirst.data.toList.drop 115 = dktX2_recordFirst_5 := dk_seg dksX2_recordFirst_4 24 rfl rfl
theorem dX2_recordFirst_0 : decode cX2_recordFirst 0 = .ok (.aload_n 0, 1) := dk_42 (dk_at dksX2_recordFirst_0 0 rfl rfl)
theorem dX2_recordFirst_1 : decode cX2_recordFirst 1 = .ok (.iconst 0, 1) := dk_3 (dk_at dksX2_recordFirst_0 1 rfl rfl)
theorem dX2_recordFirst_2 : decode cX2_recordFirst 2 = .ok (.putfield 69, 3) := dk_181 0 69 (dk_at dksX2_recordFirst_0 2 rfl rfl)
theorem dX2_recordFirst_5 : decode cX2_recordFirst 5 = .ok (.iconst (-1), 1) := dk_2 (dk_at dksX2_recordFirst_0 5 rfl rfl)
theorem dX2_recordFirst_6 : decode cX2_recordFirst 6 = .ok (.istore_n 1, 1) := dk_60 (dk_at dksX2_recordFirst_0 6 rfl rfl)
theorem dX2_recordFirst_7 : decode cX2_recordFirst 7 = .ok (.iconst 0, 1) := dk_3 (dk_at dksX2_recordFirst_0 7 rfl rfl)
theorem dX2_recordFirst_8 : decode cX2_recordFirst 8 = .ok (.istore_n 2, 1) := dk_61 (dk_at dksX2_recordFirst_0 8 rfl rfl)
theorem dX2_recordFirst_9 : decode cX2_recordFirst 9 = .ok (.iload_n 2, 1) := dk_28 (dk_at dksX2_recordFirst_0 9 rfl rfl)
theorem dX2_recordFirst_10 : decode cX2_recordFirst 10 = .ok (.aload_n 0, 1) := dk_42 (dk_at dksX2_recordFirst_0 10 rfl rfl)
theorem dX2_recordFirst_11 : decode cX2_recordFirst 11 = .ok (.getfield 16, 3) := dk_180 0 16 (dk_at dksX2_recordFirst_0 11 rfl rfl)
theorem dX2_recordFirst_14 : decode cX2_recordFirst 14 = .ok (.invokevirtual 72, 3) := dk_182 0 72 (dk_at dksX2_recordFirst_0 14 rfl rfl)
theorem dX2_recordFirst_17 : decode cX2_recordFirst 17 = .ok (.if_icmp .ge 106, 3) := dk_162 0 106 (dk_at dksX2_recordFirst_0 17 rfl rfl)
theorem dX2_recordFirst_20 : decode cX2_recordFirst 20 = .ok (.aload_n 0, 1) := dk_42 (dk_at dksX2_recordFirst_0 20 rfl rfl)
theorem dX2_recordFirst_21 : decode cX2_recordFirst 21 = .ok (.iload_n 2, 1) := dk_28 (dk_at dksX2_recordFirst_0 21 rfl rfl)
theorem dX2_recordFirst_22 : decode cX2_recordFirst 22 = .ok (.invokevirtual 85, 3) := dk_182 0 85 (dk_at dksX2_recordFirst_1 0 rfl rfl)
theorem dX2_recordFirst_25 : decode cX2_recordFirst 25 = .ok (.ifCond .eq 92, 3) := dk_153 0 92 (dk_at dksX2_recordFirst_1 3 rfl rfl)
theorem dX2_recordFirst_28 : decode cX2_recordFirst 28 = .ok (.aload_n 0, 1) := dk_42 (dk_at dksX2_recordFirst_1 6 rfl rfl)
theorem dX2_recordFirst_29 : decode cX2_recordFirst 29 = .ok (.iload_n 2, 1) := dk_28 (dk_at dksX2_recordFirst_1 7 rfl rfl)
theorem dX2_recordFirst_30 : decode cX2_recordFirst 30 = .ok (.invokevirtual 106, 3) := dk_182 0 106 (dk_at dksX2_recordFirst_1 8 rfl rfl)
theorem dX2_recordFirst_33 : decode cX2_recordFirst 33 = .ok (.ifCond .ne 84, 3) := dk_154 0 84 (dk_at dksX2_recordFirst_1 11 rfl rfl)
theorem dX2_recordFirst_36 : decode cX2_recordFirst 36 = .ok (.aload_n 0, 1) := dk_42 (dk_at dksX2_recordFirst_1 14 rfl rfl)
theorem dX2_recordFirst_37 : decode cX2_recordFirst 37 = .ok (.getfield 16, 3) := dk_180 0 16 (dk_at dksX2_recordFirst_1 15 rfl rfl)
theorem dX2_recordFirst_40 : decode cX2_recordFirst 40 = .ok (.iload_n 2, 1) := dk_28 (dk_at dksX2_recordFirst_1 18 rfl rfl)
theorem dX2_recordFirst_41 : decode cX2_recordFirst 41 = .ok (.invokevirtual 80, 3) := dk_182 0 80 (dk_at dksX2_recordFirst_1 19 rfl rfl)
theorem dX2_recordFirst_44 : decode cX2_recordFirst 44 = .ok (.checkcast 84, 3) := dk_192 0 84 (dk_at dksX2_recordFirst_2 0 rfl rfl)
theorem dX2_recordFirst_47 : decode cX2_recordFirst 47 = .ok (.iconst 1, 1) := dk_4 (dk_at dksX2_recordFirst_2 3 rfl rfl)
theorem dX2_recordFirst_48 : decode cX2_recordFirst 48 = .ok (.iaload, 1) := dk_46 (dk_at dksX2_recordFirst_2 4 rfl rfl)
theorem dX2_recordFirst_49 : decode cX2_recordFirst 49 = .ok (.bipush 15, 2) := dk_16 15 (dk_at dksX2_recordFirst_2 5 rfl rfl)
theorem dX2_recordFirst_51 : decode cX2_recordFirst 51 = .ok (.if_icmp .ne 6, 3) := dk_160 0 6 (dk_at dksX2_recordFirst_2 7 rfl rfl)
theorem dX2_recordFirst_54 : decode cX2_recordFirst 54 = .ok (.goto 63, 3) := dk_167 0 63 (dk_at dksX2_recordFirst_2 10 rfl rfl)
theorem dX2_recordFirst_57 : decode cX2_recordFirst 57 = .ok (.iload_n 1, 1) := dk_27 (dk_at dksX2_recordFirst_2 13 rfl rfl)
theorem dX2_recordFirst_58 : decode cX2_recordFirst 58 = .ok (.iconst (-1), 1) := dk_2 (dk_at dksX2_recordFirst_2 14 rfl rfl)
theorem dX2_recordFirst_59 : decode cX2_recordFirst 59 = .ok (.if_icmp .ne 7, 3) := dk_160 0 7 (dk_at dksX2_recordFirst_2 15 rfl rfl)
theorem dX2_recordFirst_62 : decode cX2_recordFirst 62 = .ok (.iconst 1, 1) := dk_4 (dk_at dksX2_recordFirst_2 18 rfl rfl)
theorem dX2_recordFirst_63 : decode cX2_recordFirst 63 = .ok (.goto 30, 3) := dk_167 0 30 (dk_at dksX2_recordFirst_2 19 rfl rfl)
theorem dX2_recordFirst_66 : decode cX2_recordFirst 66 = .ok (.aload_n 0, 1) := dk_42 (dk_at dksX2_recordFirst_2 22 rfl rfl)
theorem dX2_recordFirst_67 : decode cX2_recordFirst 67 = .ok (.getfield 16, 3) := dk_180 0 16 (dk_at dksX2_recordFirst_3 0 rfl rfl)
theorem dX2_recordFirst_70 : decode cX2_recordFirst 70 = .ok (.iload_n 1, 1) := dk_27 (dk_at dksX2_recordFirst_3 3 rfl rfl)
theorem dX2_recordFirst_71 : decode cX2_recordFirst 71 = .ok (.invokevirtual 80, 3) := dk_182 0 80 (dk_at dksX2_recordFirst_3 4 rfl rfl)
theorem dX2_recordFirst_74 : decode cX2_recordFirst 74 = .ok (.checkcast 84, 3) := dk_192 0 84 (dk_at dksX2_recordFirst_3 7 rfl rfl)
theorem dX2_recordFirst_77 : decode cX2_recordFirst 77 = .ok (.iconst 0, 1) := dk_3 (dk_at dksX2_recordFirst_3 10 rfl rfl)
theorem dX2_recordFirst_78 : decode cX2_recordFirst 78 = .ok (.iaload, 1) := dk_46 (dk_at dksX2_recordFirst_3 11 rfl rfl)
theorem dX2_recordFirst_79 : decode cX2_recordFirst 79 = .ok (.aload_n 0, 1) := dk_42 (dk_at dksX2_recordFirst_3 12 rfl rfl)
theorem dX2_recordFirst_80 : decode cX2_recordFirst 80 = .ok (.getfield 16, 3) := dk_180 0 16 (dk_at dksX2_recordFirst_3 13 rfl rfl)
theorem dX2_recordFirst_83 : decode cX2_recordFirst 83 = .ok (.iload_n 2, 1) := dk_28 (dk_at dksX2_recordFirst_3 16 rfl rfl)
theorem dX2_recordFirst_84 : decode cX2_recordFirst 84 = .ok (.invokevirtual 80, 3) := dk_182 0 80 (dk_at dksX2_recordFirst_3 17 rfl rfl)
theorem dX2_recordFirst_87 : decode cX2_recordFirst 87 = .ok (.checkcast 84, 3) := dk_192 0 84 (dk_at dksX2_recordFirst_3 20 rfl rfl)
theorem dX2_recordFirst_90 : decode cX2_recordFirst 90 = .ok (.iconst 0, 1) := dk_3 (dk_at dksX2_recordFirst_3 23 rfl rfl)
theorem dX2_recordFirst_91 : decode cX2_recordFirst 91 = .ok (.iaload, 1) := dk_46 (dk_at dksX2_recordFirst_4 0 rfl rfl)
theorem dX2_recordFirst_92 : decode cX2_recordFirst 92 = .ok (.isub, 1) := dk_100 (dk_at dksX2_recordFirst_4 1 rfl rfl)
theorem dX2_recordFirst_93 : decode cX2_recordFirst 93 = .ok (.istore_n 3, 1) := dk_62 (dk_at dksX2_recordFirst_4 2 rfl rfl)
theorem dX2_recordFirst_94 : decode cX2_recordFirst 94 = .ok (.iload_n 3, 1) := dk_29 (dk_at dksX2_recordFirst_4 3 rfl rfl)
theorem dX2_recordFirst_95 : decode cX2_recordFirst 95 = .ok (.ifCond .gt 20, 3) := dk_157 0 20 (dk_at dksX2_recordFirst_4 4 rfl rfl)
theorem dX2_recordFirst_98 : decode cX2_recordFirst 98 = .ok (.iload_n 3, 1) := dk_29 (dk_at dksX2_recordFirst_4 7 rfl rfl)
theorem dX2_recordFirst_99 : decode cX2_recordFirst 99 = .ok (.ifCond .ne 18, 3) := dk_154 0 18 (dk_at dksX2_recordFirst_4 8 rfl rfl)
theorem dX2_recordFirst_102 : decode cX2_recordFirst 102 = .ok (.aload_n 0, 1) := dk_42 (dk_at dksX2_recordFirst_4 11 rfl rfl)
theorem dX2_recordFirst_103 : decode cX2_recordFirst 103 = .ok (.iload_n 2, 1) := dk_28 (dk_at dksX2_recordFirst_4 12 rfl rfl)
theorem dX2_recordFirst_104 : decode cX2_recordFirst 104 = .ok (.invokevirtual 243, 3) := dk_182 0 243 (dk_at dksX2_recordFirst_4 13 rfl rfl)
theorem dX2_recordFirst_107 : decode cX2_recordFirst 107 = .ok (.aload_n 0, 1) := dk_42 (dk_at dksX2_recordFirst_4 16 rfl rfl)
theorem dX2_recordFirst_108 : decode cX2_recordFirst 108 = .ok (.iload_n 1, 1) := dk_27 (dk_at dksX2_recordFirst_4 17 rfl rfl)
theorem dX2_recordFirst_109 : decode cX2_recordFirst 109 = .ok (.invokevirtual 243, 3) := dk_182 0 243 (dk_at dksX2_recordFirst_4 18 rfl rfl)
theorem dX2_recordFirst_112 : decode cX2_recordFirst 112 = .ok (.if_icmp .le 5, 3) := dk_164 0 5 (dk_at dksX2_recordFirst_4 21 rfl rfl)
theorem dX2_recordFirst_115 : decode cX2_recordFirst 115 = .ok (.iload_n 2, 1) := dk_28 (dk_at dksX2_recordFirst_5 0 rfl rfl)
theorem dX2_recordFirst_116 : decode cX2_recordFirst 116 = .ok (.istore_n 1, 1) := dk_60 (dk_at dksX2_recordFirst_5 1 rfl rfl)
theorem dX2_recordFirst_117 : decode cX2_recordFirst 117 = .ok (.iinc 2 1, 3) := dk_132 2 1 (dk_at dksX2_recordFirst_5 2 rfl rfl)
theorem dX2_recordFirst_120 : decode cX2_recordFirst 120 = .ok (.goto (-111), 3) := dk_167 255 145 (dk_at dksX2_recordFirst_5 5 rfl rfl)
theorem dX2_recordFirst_123 : decode cX2_recordFirst 123 = .ok (.iload_n 1, 1) := dk_27 (dk_at dksX2_recordFirst_5 8 rfl rfl)
theorem dX2_recordFirst_124 : decode cX2_recordFirst 124 = .ok (.ireturn, 1) := dk_172 (dk_at dksX2_recordFirst_5 9 rfl rfl)
abbrev cX2_errors : ByteArray := prog_18_method_84_code
def yX2_errors : MethodName := ⟨RX2, "errors", "()I"⟩
def dkwX2_errors_6 : List UInt8 := [60, 132, 2, 1, 167, 255, 117, 27, 172]
abbrev dktX2_errors_6 : List UInt8 := dkwX2_errors_6 ++ []
def dkwX2_errors_5 : List UInt8 := [132, 5, 1, 167, 255, 181, 27, 21, 4, 42, 45, 3, 182, 0, 253, 160, 0, 7, 3, 167, 0, 4, 4, 96]
abbrev dktX2_errors_5 : List UInt8 := dkwX2_errors_5 ++ dktX2_errors_6
def dkwX2_errors_4 : List UInt8 := [154, 0, 20, 42, 180, 0, 47, 21, 5, 182, 0, 80, 192, 0, 84, 6, 46, 167, 0, 4, 3, 96, 54, 4]
abbrev dktX2_errors_4 : List UInt8 := dkwX2_errors_4 ++ dktX2_errors_5
def dkwX2_errors_3 : List UInt8 := [45, 180, 0, 193, 21, 5, 51, 153, 0, 37, 42, 180, 0, 47, 21, 5, 182, 0, 80, 192, 0, 84, 3, 46]
abbrev dktX2_errors_3 : List UInt8 := dkwX2_errors_3 ++ dktX2_errors_4
def dkwX2_errors_2 : List UInt8 := [21, 5, 42, 180, 0, 47, 182, 0, 72, 162, 0, 69, 21, 4, 45, 180, 0, 189, 21, 5, 51, 153, 0, 47]
abbrev dktX2_errors_2 : List UInt8 := dkwX2_errors_2 ++ dktX2_errors_3
def dkwX2_errors_1 : List UInt8 := [42, 28, 183, 0, 196, 78, 45, 180, 0, 206, 190, 8, 164, 0, 6, 167, 0, 106, 3, 54, 4, 3, 54, 5]
abbrev dktX2_errors_1 : List UInt8 := dkwX2_errors_1 ++ dktX2_errors_2
def dkwX2_errors_0 : List UInt8 := [42, 3, 181, 0, 69, 3, 60, 3, 61, 28, 42, 180, 0, 16, 182, 0, 72, 162, 0, 134, 187, 0, 178, 89]
abbrev dktX2_errors_0 : List UInt8 := dkwX2_errors_0 ++ dktX2_errors_1
theorem dksX2_errors_0 : cX2_errors.data.toList.drop 0 = dktX2_errors_0 := by decide +kernel
theorem dksX2_errors_1 : cX2_errors.data.toList.drop 24 = dktX2_errors_1 := dk_seg dksX2_errors_0 24 rfl rfl
theorem dksX2_errors_2 : cX2_errors.data.toList.drop 48 = dktX2_errors_2 := dk_seg dksX2_errors_1 24 rfl rfl
theorem dksX2_errors_3 : cX2_errors.data.toList.drop 72 = dktX2_errors_3 := dk_seg dksX2_errors_2 24 rfl rfl
theorem dksX2_errors_4 : cX2_errors.data.toList.drop 96 = dktX2_errors_4 := dk_seg dksX2_errors_3 24 rfl rfl
theorem dksX2_errors_5 : cX2_errors.data.toList.drop 120 = dktX2_errors_5 := dk_seg dksX2_errors_4 24 rfl rfl
theorem dksX2_errors_6 : cX2_errors.data.toList.drop 144 = dktX2_errors_6 := dk_seg dksX2_errors_5 24 rfl rfl
theorem dX2_errors_0 : decode cX2_errors 0 = .ok (.aload_n 0, 1) := dk_42 (dk_at dksX2_errors_0 0 rfl rfl)
theorem dX2_errors_1 : decode cX2_errors 1 = .ok (.iconst 0, 1) := dk_3 (dk_at dksX2_errors_0 1 rfl rfl)
theorem dX2_errors_2 : decode cX2_errors 2 = .ok (.putfield 69, 3) := dk_181 0 69 (dk_at dksX2_errors_0 2 rfl rfl)
theorem dX2_errors_5 : decode cX2_errors 5 = .ok (.iconst 0, 1) := dk_3 (dk_at dksX2_errors_0 5 rfl rfl)
theorem dX2_errors_6 : decode cX2_errors 6 = .ok (.istore_n 1, 1) := dk_60 (dk_at dksX2_errors_0 6 rfl rfl)
theorem dX2_errors_7 : decode cX2_errors 7 = .ok (.iconst 0, 1) := dk_3 (dk_at dksX2_errors_0 7 rfl rfl)
theorem dX2_errors_8 : decode cX2_errors 8 = .ok (.istore_n 2, 1) := dk_61 (dk_at dksX2_errors_0 8 rfl rfl)
theorem dX2_errors_9 : decode cX2_errors 9 = .ok (.iload_n 2, 1) := dk_28 (dk_at dksX2_errors_0 9 rfl rfl)
theorem dX2_errors_10 : decode cX2_errors 10 = .ok (.aload_n 0, 1) := dk_42 (dk_at dksX2_errors_0 10 rfl rfl)
theorem dX2_errors_11 : decode cX2_errors 11 = .ok (.getfield 16, 3) := dk_180 0 16 (dk_at dksX2_errors_0 11 rfl rfl)
theorem dX2_errors_14 : decode cX2_errors 14 = .ok (.invokevirtual 72, 3) := dk_182 0 72 (dk_at dksX2_errors_0 14 rfl rfl)
theorem dX2_errors_17 : decode cX2_errors 17 = .ok (.if_icmp .ge 134, 3) := dk_162 0 134 (dk_at dksX2_errors_0 17 rfl rfl)
theorem dX2_errors_20 : decode cX2_errors 20 = .ok (.new 178, 3) := dk_187 0 178 (dk_at dksX2_errors_0 20 rfl rfl)
theorem dX2_errors_23 : decode cX2_errors 23 = .ok (.dup, 1) := dk_89 (dk_at dksX2_errors_0 23 rfl rfl)
theorem dX2_errors_24 : decode cX2_errors 24 = .ok (.aload_n 0, 1) := dk_42 (dk_at dksX2_errors_1 0 rfl rfl)
theorem dX2_errors_25 : decode cX2_errors 25 = .ok (.iload_n 2, 1) := dk_28 (dk_at dksX2_errors_1 1 rfl rfl)
theorem dX2_errors_26 : decode cX2_errors 26 = .ok (.invokespecial 196, 3) := dk_183 0 196 (dk_at dksX2_errors_1 2 rfl rfl)
theorem dX2_errors_29 : decode cX2_errors 29 = .ok (.astore_n 3, 1) := dk_78 (dk_at dksX2_errors_1 5 rfl rfl)
theorem dX2_errors_30 : decode cX2_errors 30 = .ok (.aload_n 3, 1) := dk_45 (dk_at dksX2_errors_1 6 rfl rfl)
theorem dX2_errors_31 : decode cX2_errors 31 = .ok (.getfield 206, 3) := dk_180 0 206 (dk_at dksX2_errors_1 7 rfl rfl)
theorem dX2_errors_34 : decode cX2_errors 34 = .ok (.arraylength, 1) := dk_190 (dk_at dksX2_errors_1 10 rfl rfl)
theorem dX2_errors_35 : decode cX2_errors 35 = .ok (.iconst 5, 1) := dk_8 (dk_at dksX2_errors_1 11 rfl rfl)
theorem dX2_errors_36 : decode cX2_errors 36 = .ok (.if_icmp .le 6, 3) := dk_164 0 6 (dk_at dksX2_errors_1 12 rfl rfl)
theorem dX2_errors_39 : decode cX2_errors 39 = .ok (.goto 106, 3) := dk_167 0 106 (dk_at dksX2_errors_1 15 rfl rfl)
theorem dX2_errors_42 : decode cX2_errors 42 = .ok (.iconst 0, 1) := dk_3 (dk_at dksX2_errors_1 18 rfl rfl)
theorem dX2_errors_43 : decode cX2_errors 43 = .ok (.istore 4, 2) := dk_54 4 (dk_at dksX2_errors_1 19 rfl rfl)
theorem dX2_errors_45 : decode cX2_errors 45 = .ok (.iconst 0, 1) := dk_3 (dk_at dksX2_errors_1 21 rfl rfl)
theorem dX2_errors_46 : decode cX2_errors 46 = .ok (.istore 5, 2) := dk_54 5 (dk_at dksX2_errors_1 22 rfl rfl)
theorem dX2_errors_48 : decode cX2_errors 48 = .ok (.iload 5, 2) := dk_21 5 (dk_at dksX2_errors_2 0 rfl rfl)
theorem dX2_errors_50 : decode cX2_errors 50 = .ok (.aload_n 0, 1) := dk_42 (dk_at dksX2_errors_2 2 rfl rfl)
theorem dX2_errors_51 : decode cX2_errors 51 = .ok (.getfield 47, 3) := dk_180 0 47 (dk_at dksX2_errors_2 3 rfl rfl)
theorem dX2_errors_54 : decode cX2_errors 54 = .ok (.invokevirtual 72, 3) := dk_182 0 72 (dk_at dksX2_errors_2 6 rfl rfl)
theorem dX2_errors_57 : decode cX2_errors 57 = .ok (.if_icmp .ge 69, 3) := dk_162 0 69 (dk_at dksX2_errors_2 9 rfl rfl)
theorem dX2_errors_60 : decode cX2_errors 60 = .ok (.iload 4, 2) := dk_21 4 (dk_at dksX2_errors_2 12 rfl rfl)
theorem dX2_errors_62 : decode cX2_errors 62 = .ok (.aload_n 3, 1) := dk_45 (dk_at dksX2_errors_2 14 rfl rfl)
theorem dX2_errors_63 : decode cX2_errors 63 = .ok (.getfield 189, 3) := dk_180 0 189 (dk_at dksX2_errors_2 15 rfl rfl)
theorem dX2_errors_66 : decode cX2_errors 66 = .ok (.iload 5, 2) := dk_21 5 (dk_at dksX2_errors_2 18 rfl rfl)
theorem dX2_errors_68 : decode cX2_errors 68 = .ok (.baload, 1) := dk_51 (dk_at dksX2_errors_2 20 rfl rfl)
theorem dX2_errors_69 : decode cX2_errors 69 = .ok (.ifCond .eq 47, 3) := dk_153 0 47 (dk_at dksX2_errors_2 21 rfl rfl)
theorem dX2_errors_72 : decode cX2_errors 72 = .ok (.aload_n 3, 1) := dk_45 (dk_at dksX2_errors_3 0 rfl rfl)
theorem dX2_errors_73 : decode cX2_errors 73 = .ok (.getfield 193, 3) := dk_180 0 193 (dk_at dksX2_errors_3 1 rfl rfl)
theorem dX2_errors_76 : decode cX2_errors 76 = .ok (.iload 5, 2) := dk_21 5 (dk_at dksX2_errors_3 4 rfl rfl)
theorem dX2_errors_78 : decode cX2_errors 78 = .ok (.baload, 1) := dk_51 (dk_at dksX2_errors_3 6 rfl rfl)
theorem dX2_errors_79 : decode cX2_errors 79 = .ok (.ifCond .eq 37, 3) := dk_153 0 37 (dk_at dksX2_errors_3 7 rfl rfl)
theorem dX2_errors_82 : decode cX2_errors 82 = .ok (.aload_n 0, 1) := dk_42 (dk_at dksX2_errors_3 10 rfl rfl)
theorem dX2_errors_83 : decode cX2_errors 83 = .ok (.getfield 47, 3) := dk_180 0 47 (dk_at dksX2_errors_3 11 rfl rfl)
theorem dX2_errors_86 : decode cX2_errors 86 = .ok (.iload 5, 2) := dk_21 5 (dk_at dksX2_errors_3 14 rfl rfl)
theorem dX2_errors_88 : decode cX2_errors 88 = .ok (.invokevirtual 80, 3) := dk_182 0 80 (dk_at dksX2_errors_3 16 rfl rfl)
theorem dX2_errors_91 : decode cX2_errors 91 = .ok (.checkcast 84, 3) := dk_192 0 84 (dk_at dksX2_errors_3 19 rfl rfl)
theorem dX2_errors_94 : decode cX2_errors 94 = .ok (.iconst 0, 1) := dk_3 (dk_at dksX2_errors_3 22 rfl rfl)
theorem dX2_errors_95 : decode cX2_errors 95 = .ok (.iaload, 1) := dk_46 (dk_at dksX2_errors_3 23 rfl rfl)
theorem dX2_errors_96 : decode cX2_errors 96 = .ok (.ifCond .ne 20, 3) := dk_154 0 20 (dk_at dksX2_errors_4 0 rfl rfl)
theorem dX2_errors_99 : decode cX2_errors 99 = .ok (.aload_n 0, 1) := dk_42 (dk_at dksX2_errors_4 3 rfl rfl)
theorem dX2_errors_100 : decode cX2_errors 100 = .ok (.getfield 47, 3) := dk_180 0 47 (dk_at dksX2_errors_4 4 rfl rfl)
theorem dX2_errors_103 : decode cX2_errors 103 = .ok (.iload 5, 2) := dk_21 5 (dk_at dksX2_errors_4 7 rfl rfl)
theorem dX2_errors_105 : decode cX2_errors 105 = .ok (.invokevirtual 80, 3) := dk_182 0 80 (dk_at dksX2_errors_4 9 rfl rfl)
theorem dX2_errors_108 : decode cX2_errors 108 = .ok (.checkcast 84, 3) := dk_192 0 84 (dk_at dksX2_errors_4 12 rfl rfl)
theorem dX2_errors_111 : decode cX2_errors 111 = .ok (.iconst 3, 1) := dk_6 (dk_at dksX2_errors_4 15 rfl rfl)
theorem dX2_errors_112 : decode cX2_errors 112 = .ok (.iaload, 1) := dk_46 (dk_at dksX2_errors_4 16 rfl rfl)
theorem dX2_errors_113 : decode cX2_errors 113 = .ok (.goto 4, 3) := dk_167 0 4 (dk_at dksX2_errors_4 17 rfl rfl)
theorem dX2_errors_116 : decode cX2_errors 116 = .ok (.iconst 0, 1) := dk_3 (dk_at dksX2_errors_4 20 rfl rfl)
theorem dX2_errors_117 : decode cX2_errors 117 = .ok (.iadd, 1) := dk_96 (dk_at dksX2_errors_4 21 rfl rfl)
theorem dX2_errors_118 : decode cX2_errors 118 = .ok (.istore 4, 2) := dk_54 4 (dk_at dksX2_errors_4 22 rfl rfl)
theorem dX2_errors_120 : decode cX2_errors 120 = .ok (.iinc 5 1, 3) := dk_132 5 1 (dk_at dksX2_errors_5 0 rfl rfl)
theorem dX2_errors_123 : decode cX2_errors 123 = .ok (.goto (-75), 3) := dk_167 255 181 (dk_at dksX2_errors_5 3 rfl rfl)
theorem dX2_errors_126 : decode cX2_errors 126 = .ok (.iload_n 1, 1) := dk_27 (dk_at dksX2_errors_5 6 rfl rfl)
theorem dX2_errors_127 : decode cX2_errors 127 = .ok (.iload 4, 2) := dk_21 4 (dk_at dksX2_errors_5 7 rfl rfl)
theorem dX2_errors_129 : decode cX2_errors 129 = .ok (.aload_n 0, 1) := dk_42 (dk_at dksX2_errors_5 9 rfl rfl)
theorem dX2_errors_130 : decode cX2_errors 130 = .ok (.aload_n 3, 1) := dk_45 (dk_at dksX2_errors_5 10 rfl rfl)
theorem dX2_errors_131 : decode cX2_errors 131 = .ok (.iconst 0, 1) := dk_3 (dk_at dksX2_errors_5 11 rfl rfl)
theorem dX2_errors_132 : decode cX2_errors 132 = .ok (.invokevirtual 253, 3) := dk_182 0 253 (dk_at dksX2_errors_5 12 rfl rfl)
theorem dX2_errors_135 : decode cX2_errors 135 = .ok (.if_icmp .ne 7, 3) := dk_160 0 7 (dk_at dksX2_errors_5 15 rfl rfl)
theorem dX2_errors_138 : decode cX2_errors 138 = .ok (.iconst 0, 1) := dk_3 (dk_at dksX2_errors_5 18 rfl rfl)
theorem dX2_errors_139 : decode cX2_errors 139 = .ok (.goto 4, 3) := dk_167 0 4 (dk_at dksX2_errors_5 19 rfl rfl)
theorem dX2_errors_142 : decode cX2_errors 142 = .ok (.iconst 1, 1) := dk_4 (dk_at dksX2_errors_5 22 rfl rfl)
theorem dX2_errors_143 : decode cX2_errors 143 = .ok (.iadd, 1) := dk_96 (dk_at dksX2_errors_5 23 rfl rfl)
theorem dX2_errors_144 : decode cX2_errors 144 = .ok (.istore_n 1, 1) := dk_60 (dk_at dksX2_errors_6 0 rfl rfl)
theorem dX2_errors_145 : decode cX2_errors 145 = .ok (.iinc 2 1, 3) := dk_132 2 1 (dk_at dksX2_errors_6 1 rfl rfl)
theorem dX2_errors_148 : decode cX2_errors 148 = .ok (.goto (-139), 3) := dk_167 255 117 (dk_at dksX2_errors_6 4 rfl rfl)
theorem dX2_errors_151 : decode cX2_errors 151 = .ok (.iload_n 1, 1) := dk_27 (dk_at dksX2_errors_6 7 rfl rfl)
theorem dX2_errors_152 : decode cX2_errors 152 = .ok (.ireturn, 1) := dk_172 (dk_at dksX2_errors_6 8 rfl rfl)
abbrev cX2_tried : ByteArray := prog_18_method_83_code
def yX2_tried : MethodName := ⟨RX2, "tried", "(LFigureSurveyModel$Found;I)I"⟩
def dkwX2_tried_3 : List UInt8 := [21, 4, 172]
abbrev dktX2_tried_3 : List UInt8 := dkwX2_tried_3 ++ []
def dkwX2_tried_2 : List UInt8 := [42, 43, 28, 4, 21, 5, 120, 128, 182, 0, 253, 96, 184, 0, 164, 54, 4, 132, 5, 1, 167, 255, 212]
abbrev dktX2_tried_2 : List UInt8 := dkwX2_tried_2 ++ dktX2_tried_3
def dkwX2_tried_1 : List UInt8 := [21, 5, 29, 162, 0, 44, 28, 21, 5, 122, 4, 126, 154, 0, 29, 21, 4, 43, 28, 21, 5, 182, 0, 250]
abbrev dktX2_tried_1 : List UInt8 := dkwX2_tried_1 ++ dktX2_tried_2
def dkwX2_tried_0 : List UInt8 := [43, 180, 0, 206, 190, 62, 18, 249, 54, 4, 28, 4, 29, 120, 4, 100, 160, 0, 5, 3, 172, 3, 54, 5]
abbrev dktX2_tried_0 : List UInt8 := dkwX2_tried_0 ++ dktX2_tried_1
theorem dksX2_tried_0 : cX2_tried.data.toList.drop 0 = dktX2_tried_0 := by decide +kernel
theorem dksX2_tried_1 : cX2_tried.data.toList.drop 24 = dktX2_tried_1 := dk_seg dksX2_tried_0 24 rfl rfl
theorem dksX2_tried_2 : cX2_tried.data.toList.drop 48 = dktX2_tried_2 := dk_seg dksX2_tried_1 24 rfl rfl
theorem dksX2_tried_3 : cX2_tried.data.toList.drop 71 = dktX2_tried_3 := dk_seg dksX2_tried_2 23 rfl rfl
theorem dX2_tried_0 : decode cX2_tried 0 = .ok (.aload_n 1, 1) := dk_43 (dk_at dksX2_tried_0 0 rfl rfl)
theorem dX2_tried_1 : decode cX2_tried 1 = .ok (.getfield 206, 3) := dk_180 0 206 (dk_at dksX2_tried_0 1 rfl rfl)
theorem dX2_tried_4 : decode cX2_tried 4 = .ok (.arraylength, 1) := dk_190 (dk_at dksX2_tried_0 4 rfl rfl)
theorem dX2_tried_5 : decode cX2_tried 5 = .ok (.istore_n 3, 1) := dk_62 (dk_at dksX2_tried_0 5 rfl rfl)
theorem dX2_tried_6 : decode cX2_tried 6 = .ok (.ldc 249, 2) := dk_18 249 (dk_at dksX2_tried_0 6 rfl rfl)
theorem dX2_tried_8 : decode cX2_tried 8 = .ok (.istore 4, 2) := dk_54 4 (dk_at dksX2_tried_0 8 rfl rfl)
theorem dX2_tried_10 : decode cX2_tried 10 = .ok (.iload_n 2, 1) := dk_28 (dk_at dksX2_tried_0 10 rfl rfl)
theorem dX2_tried_11 : decode cX2_tried 11 = .ok (.iconst 1, 1) := dk_4 (dk_at dksX2_tried_0 11 rfl rfl)
theorem dX2_tried_12 : decode cX2_tried 12 = .ok (.iload_n 3, 1) := dk_29 (dk_at dksX2_tried_0 12 rfl rfl)
theorem dX2_tried_13 : decode cX2_tried 13 = .ok (.ishl, 1) := dk_120 (dk_at dksX2_tried_0 13 rfl rfl)
theorem dX2_tried_14 : decode cX2_tried 14 = .ok (.iconst 1, 1) := dk_4 (dk_at dksX2_tried_0 14 rfl rfl)
theorem dX2_tried_15 : decode cX2_tried 15 = .ok (.isub, 1) := dk_100 (dk_at dksX2_tried_0 15 rfl rfl)
theorem dX2_tried_16 : decode cX2_tried 16 = .ok (.if_icmp .ne 5, 3) := dk_160 0 5 (dk_at dksX2_tried_0 16 rfl rfl)
theorem dX2_tried_19 : decode cX2_tried 19 = .ok (.iconst 0, 1) := dk_3 (dk_at dksX2_tried_0 19 rfl rfl)
theorem dX2_tried_20 : decode cX2_tried 20 = .ok (.ireturn, 1) := dk_172 (dk_at dksX2_tried_0 20 rfl rfl)
theorem dX2_tried_21 : decode cX2_tried 21 = .ok (.iconst 0, 1) := dk_3 (dk_at dksX2_tried_0 21 rfl rfl)
theorem dX2_tried_22 : decode cX2_tried 22 = .ok (.istore 5, 2) := dk_54 5 (dk_at dksX2_tried_0 22 rfl rfl)
theorem dX2_tried_24 : decode cX2_tried 24 = .ok (.iload 5, 2) := dk_21 5 (dk_at dksX2_tried_1 0 rfl rfl)
theorem dX2_tried_26 : decode cX2_tried 26 = .ok (.iload_n 3, 1) := dk_29 (dk_at dksX2_tried_1 2 rfl rfl)
theorem dX2_tried_27 : decode cX2_tried 27 = .ok (.if_icmp .ge 44, 3) := dk_162 0 44 (dk_at dksX2_tried_1 3 rfl rfl)
theorem dX2_tried_30 : decode cX2_tried 30 = .ok (.iload_n 2, 1) := dk_28 (dk_at dksX2_tried_1 6 rfl rfl)
theorem dX2_tried_31 : decode cX2_tried 31 = .ok (.iload 5, 2) := dk_21 5 (dk_at dksX2_tried_1 7 rfl rfl)
theorem dX2_tried_33 : decode cX2_tried 33 = .ok (.ishr, 1) := dk_122 (dk_at dksX2_tried_1 9 rfl rfl)
theorem dX2_tried_34 : decode cX2_tried 34 = .ok (.iconst 1, 1) := dk_4 (dk_at dksX2_tried_1 10 rfl rfl)
theorem dX2_tried_35 : decode cX2_tried 35 = .ok (.iand, 1) := dk_126 (dk_at dksX2_tried_1 11 rfl rfl)
theorem dX2_tried_36 : decode cX2_tried 36 = .ok (.ifCond .ne 29, 3) := dk_154 0 29 (dk_at dksX2_tried_1 12 rfl rfl)
theorem dX2_tried_39 : decode cX2_tried 39 = .ok (.iload 4, 2) := dk_21 4 (dk_at dksX2_tried_1 15 rfl rfl)
theorem dX2_tried_41 : decode cX2_tried 41 = .ok (.aload_n 1, 1) := dk_43 (dk_at dksX2_tried_1 17 rfl rfl)
theorem dX2_tried_42 : decode cX2_tried 42 = .ok (.iload_n 2, 1) := dk_28 (dk_at dksX2_tried_1 18 rfl rfl)
theorem dX2_tried_43 : decode cX2_tried 43 = .ok (.iload 5, 2) := dk_21 5 (dk_at dksX2_tried_1 19 rfl rfl)
theorem dX2_tried_45 : decode cX2_tried 45 = .ok (.invokevirtual 250, 3) := dk_182 0 250 (dk_at dksX2_tried_1 21 rfl rfl)
theorem dX2_tried_48 : decode cX2_tried 48 = .ok (.aload_n 0, 1) := dk_42 (dk_at dksX2_tried_2 0 rfl rfl)
theorem dX2_tried_49 : decode cX2_tried 49 = .ok (.aload_n 1, 1) := dk_43 (dk_at dksX2_tried_2 1 rfl rfl)
theorem dX2_tried_50 : decode cX2_tried 50 = .ok (.iload_n 2, 1) := dk_28 (dk_at dksX2_tried_2 2 rfl rfl)
theorem dX2_tried_51 : decode cX2_tried 51 = .ok (.iconst 1, 1) := dk_4 (dk_at dksX2_tried_2 3 rfl rfl)
theorem dX2_tried_52 : decode cX2_tried 52 = .ok (.iload 5, 2) := dk_21 5 (dk_at dksX2_tried_2 4 rfl rfl)
theorem dX2_tried_54 : decode cX2_tried 54 = .ok (.ishl, 1) := dk_120 (dk_at dksX2_tried_2 6 rfl rfl)
theorem dX2_tried_55 : decode cX2_tried 55 = .ok (.ior, 1) := dk_128 (dk_at dksX2_tried_2 7 rfl rfl)
theorem dX2_tried_56 : decode cX2_tried 56 = .ok (.invokevirtual 253, 3) := dk_182 0 253 (dk_at dksX2_tried_2 8 rfl rfl)
theorem dX2_tried_59 : decode cX2_tried 59 = .ok (.iadd, 1) := dk_96 (dk_at dksX2_tried_2 11 rfl rfl)
theorem dX2_tried_60 : decode cX2_tried 60 = .ok (.invokestatic 164, 3) := dk_184 0 164 (dk_at dksX2_tried_2 12 rfl rfl)
theorem dX2_tried_63 : decode cX2_tried 63 = .ok (.istore 4, 2) := dk_54 4 (dk_at dksX2_tried_2 15 rfl rfl)
theorem dX2_tried_65 : decode cX2_tried 65 = .ok (.iinc 5 1, 3) := dk_132 5 1 (dk_at dksX2_tried_2 17 rfl rfl)
theorem dX2_tried_68 : decode cX2_tried 68 = .ok (.goto (-44), 3) := dk_167 255 212 (dk_at dksX2_tried_2 20 rfl rfl)
theorem dX2_tried_71 : decode cX2_tried 71 = .ok (.iload 4, 2) := dk_21 4 (dk_at dksX2_tried_3 0 rfl rfl)
theorem dX2_tried_73 : decode cX2_tried 73 = .ok (.ireturn, 1) := dk_172 (dk_at dksX2_tried_3 2 rfl rfl)
abbrev cX2_meanSpan : ByteArray := prog_18_method_85_code
def yX2_meanSpan : MethodName := ⟨RX2, "meanSpan", "()D"⟩
def dkwX2_meanSpan_5 : List UInt8 := [111, 175]
abbrev dktX2_meanSpan_5 : List UInt8 := dkwX2_meanSpan_5 ++ []
def dkwX2_meanSpan_4 : List UInt8 := [180, 0, 206, 190, 96, 61, 132, 3, 1, 167, 255, 168, 28, 154, 0, 7, 14, 167, 0, 8, 27, 135, 28, 135]
abbrev dktX2_meanSpan_4 : List UInt8 := dkwX2_meanSpan_4 ++ dktX2_meanSpan_5
def dkwX2_meanSpan_3 : List UInt8 := [180, 0, 206, 21, 5, 46, 3, 182, 0, 216, 100, 96, 60, 132, 5, 1, 167, 255, 208, 28, 25, 4]
abbrev dktX2_meanSpan_3 : List UInt8 := dkwX2_meanSpan_3 ++ dktX2_meanSpan_4
def dkwX2_meanSpan_2 : List UInt8 := [162, 0, 43, 27, 42, 25, 4, 25, 4, 180, 0, 206, 21, 5, 46, 4, 182, 0, 216, 42, 25, 4, 25, 4]
abbrev dktX2_meanSpan_2 : List UInt8 := dkwX2_meanSpan_2 ++ dktX2_meanSpan_3
def dkwX2_meanSpan_1 : List UInt8 := [187, 0, 178, 89, 42, 29, 183, 0, 196, 58, 4, 3, 54, 5, 21, 5, 25, 4, 180, 0, 206, 190]
abbrev dktX2_meanSpan_1 : List UInt8 := dkwX2_meanSpan_1 ++ dktX2_meanSpan_2
def dkwX2_meanSpan_0 : List UInt8 := [42, 3, 181, 0, 69, 3, 60, 3, 61, 3, 62, 29, 42, 180, 0, 16, 182, 0, 72, 162, 0, 83]
abbrev dktX2_meanSpan_0 : List UInt8 := dkwX2_meanSpan_0 ++ dktX2_meanSpan_1
theorem dksX2_meanSpan_0 : cX2_meanSpan.data.toList.drop 0 = dktX2_meanSpan_0 := by decide +kernel
theorem dksX2_meanSpan_1 : cX2_meanSpan.data.toList.drop 22 = dktX2_meanSpan_1 := dk_seg dksX2_meanSpan_0 22 rfl rfl
theorem dksX2_meanSpan_2 : cX2_meanSpan.data.toList.drop 44 = dktX2_meanSpan_2 := dk_seg dksX2_meanSpan_1 22 rfl rfl
theorem dksX2_meanSpan_3 : cX2_meanSpan.data.toList.drop 68 = dktX2_meanSpan_3 := dk_seg dksX2_meanSpan_2 24 rfl rfl
theorem dksX2_meanSpan_4 : cX2_meanSpan.data.toList.drop 90 = dktX2_meanSpan_4 := dk_seg dksX2_meanSpan_3 22 rfl rfl
theorem dksX2_meanSpan_5 : cX2_meanSpan.data.toList.drop 114 = dktX2_meanSpan_5 := dk_seg dksX2_meanSpan_4 24 rfl rfl
theorem dX2_meanSpan_0 : decode cX2_meanSpan 0 = .ok (.aload_n 0, 1) := dk_42 (dk_at dksX2_meanSpan_0 0 rfl rfl)
theorem dX2_meanSpan_1 : decode cX2_meanSpan 1 = .ok (.iconst 0, 1) := dk_3 (dk_at dksX2_meanSpan_0 1 rfl rfl)
theorem dX2_meanSpan_2 : decode cX2_meanSpan 2 = .ok (.putfield 69, 3) := dk_181 0 69 (dk_at dksX2_meanSpan_0 2 rfl rfl)
theorem dX2_meanSpan_5 : decode cX2_meanSpan 5 = .ok (.iconst 0, 1) := dk_3 (dk_at dksX2_meanSpan_0 5 rfl rfl)
theorem dX2_meanSpan_6 : decode cX2_meanSpan 6 = .ok (.istore_n 1, 1) := dk_60 (dk_at dksX2_meanSpan_0 6 rfl rfl)
theorem dX2_meanSpan_7 : decode cX2_meanSpan 7 = .ok (.iconst 0, 1) := dk_3 (dk_at dksX2_meanSpan_0 7 rfl rfl)
theorem dX2_meanSpan_8 : decode cX2_meanSpan 8 = .ok (.istore_n 2, 1) := dk_61 (dk_at dksX2_meanSpan_0 8 rfl rfl)
theorem dX2_meanSpan_9 : decode cX2_meanSpan 9 = .ok (.iconst 0, 1) := dk_3 (dk_at dksX2_meanSpan_0 9 rfl rfl)
theorem dX2_meanSpan_10 : decode cX2_meanSpan 10 = .ok (.istore_n 3, 1) := dk_62 (dk_at dksX2_meanSpan_0 10 rfl rfl)
theorem dX2_meanSpan_11 : decode cX2_meanSpan 11 = .ok (.iload_n 3, 1) := dk_29 (dk_at dksX2_meanSpan_0 11 rfl rfl)
theorem dX2_meanSpan_12 : decode cX2_meanSpan 12 = .ok (.aload_n 0, 1) := dk_42 (dk_at dksX2_meanSpan_0 12 rfl rfl)
theorem dX2_meanSpan_13 : decode cX2_meanSpan 13 = .ok (.getfield 16, 3) := dk_180 0 16 (dk_at dksX2_meanSpan_0 13 rfl rfl)
theorem dX2_meanSpan_16 : decode cX2_meanSpan 16 = .ok (.invokevirtual 72, 3) := dk_182 0 72 (dk_at dksX2_meanSpan_0 16 rfl rfl)
theorem dX2_meanSpan_19 : decode cX2_meanSpan 19 = .ok (.if_icmp .ge 83, 3) := dk_162 0 83 (dk_at dksX2_meanSpan_0 19 rfl rfl)
theorem dX2_meanSpan_22 : decode cX2_meanSpan 22 = .ok (.new 178, 3) := dk_187 0 178 (dk_at dksX2_meanSpan_1 0 rfl rfl)
theorem dX2_meanSpan_25 : decode cX2_meanSpan 25 = .ok (.dup, 1) := dk_89 (dk_at dksX2_meanSpan_1 3 rfl rfl)
theorem dX2_meanSpan_26 : decode cX2_meanSpan 26 = .ok (.aload_n 0, 1) := dk_42 (dk_at dksX2_meanSpan_1 4 rfl rfl)
theorem dX2_meanSpan_27 : decode cX2_meanSpan 27 = .ok (.iload_n 3, 1) := dk_29 (dk_at dksX2_meanSpan_1 5 rfl rfl)
theorem dX2_meanSpan_28 : decode cX2_meanSpan 28 = .ok (.invokespecial 196, 3) := dk_183 0 196 (dk_at dksX2_meanSpan_1 6 rfl rfl)
theorem dX2_meanSpan_31 : decode cX2_meanSpan 31 = .ok (.astore 4, 2) := dk_58 4 (dk_at dksX2_meanSpan_1 9 rfl rfl)
theorem dX2_meanSpan_33 : decode cX2_meanSpan 33 = .ok (.iconst 0, 1) := dk_3 (dk_at dksX2_meanSpan_1 11 rfl rfl)
theorem dX2_meanSpan_34 : decode cX2_meanSpan 34 = .ok (.istore 5, 2) := dk_54 5 (dk_at dksX2_meanSpan_1 12 rfl rfl)
theorem dX2_meanSpan_36 : decode cX2_meanSpan 36 = .ok (.iload 5, 2) := dk_21 5 (dk_at dksX2_meanSpan_1 14 rfl rfl)
theorem dX2_meanSpan_38 : decode cX2_meanSpan 38 = .ok (.aload 4, 2) := dk_25 4 (dk_at dksX2_meanSpan_1 16 rfl rfl)
theorem dX2_meanSpan_40 : decode cX2_meanSpan 40 = .ok (.getfield 206, 3) := dk_180 0 206 (dk_at dksX2_meanSpan_1 18 rfl rfl)
theorem dX2_meanSpan_43 : decode cX2_meanSpan 43 = .ok (.arraylength, 1) := dk_190 (dk_at dksX2_meanSpan_1 21 rfl rfl)
theorem dX2_meanSpan_44 : decode cX2_meanSpan 44 = .ok (.if_icmp .ge 43, 3) := dk_162 0 43 (dk_at dksX2_meanSpan_2 0 rfl rfl)
theorem dX2_meanSpan_47 : decode cX2_meanSpan 47 = .ok (.iload_n 1, 1) := dk_27 (dk_at dksX2_meanSpan_2 3 rfl rfl)
theorem dX2_meanSpan_48 : decode cX2_meanSpan 48 = .ok (.aload_n 0, 1) := dk_42 (dk_at dksX2_meanSpan_2 4 rfl rfl)
theorem dX2_meanSpan_49 : decode cX2_meanSpan 49 = .ok (.aload 4, 2) := dk_25 4 (dk_at dksX2_meanSpan_2 5 rfl rfl)
theorem dX2_meanSpan_51 : decode cX2_meanSpan 51 = .ok (.aload 4, 2) := dk_25 4 (dk_at dksX2_meanSpan_2 7 rfl rfl)
theorem dX2_meanSpan_53 : decode cX2_meanSpan 53 = .ok (.getfield 206, 3) := dk_180 0 206 (dk_at dksX2_meanSpan_2 9 rfl rfl)
theorem dX2_meanSpan_56 : decode cX2_meanSpan 56 = .ok (.iload 5, 2) := dk_21 5 (dk_at dksX2_meanSpan_2 12 rfl rfl)
theorem dX2_meanSpan_58 : decode cX2_meanSpan 58 = .ok (.iaload, 1) := dk_46 (dk_at dksX2_meanSpan_2 14 rfl rfl)
theorem dX2_meanSpan_59 : decode cX2_meanSpan 59 = .ok (.iconst 1, 1) := dk_4 (dk_at dksX2_meanSpan_2 15 rfl rfl)
theorem dX2_meanSpan_60 : decode cX2_meanSpan 60 = .ok (.invokevirtual 216, 3) := dk_182 0 216 (dk_at dksX2_meanSpan_2 16 rfl rfl)
theorem dX2_meanSpan_63 : decode cX2_meanSpan 63 = .ok (.aload_n 0, 1) := dk_42 (dk_at dksX2_meanSpan_2 19 rfl rfl)
theorem dX2_meanSpan_64 : decode cX2_meanSpan 64 = .ok (.aload 4, 2) := dk_25 4 (dk_at dksX2_meanSpan_2 20 rfl rfl)
theorem dX2_meanSpan_66 : decode cX2_meanSpan 66 = .ok (.aload 4, 2) := dk_25 4 (dk_at dksX2_meanSpan_2 22 rfl rfl)
theorem dX2_meanSpan_68 : decode cX2_meanSpan 68 = .ok (.getfield 206, 3) := dk_180 0 206 (dk_at dksX2_meanSpan_3 0 rfl rfl)
theorem dX2_meanSpan_71 : decode cX2_meanSpan 71 = .ok (.iload 5, 2) := dk_21 5 (dk_at dksX2_meanSpan_3 3 rfl rfl)
theorem dX2_meanSpan_73 : decode cX2_meanSpan 73 = .ok (.iaload, 1) := dk_46 (dk_at dksX2_meanSpan_3 5 rfl rfl)
theorem dX2_meanSpan_74 : decode cX2_meanSpan 74 = .ok (.iconst 0, 1) := dk_3 (dk_at dksX2_meanSpan_3 6 rfl rfl)
theorem dX2_meanSpan_75 : decode cX2_meanSpan 75 = .ok (.invokevirtual 216, 3) := dk_182 0 216 (dk_at dksX2_meanSpan_3 7 rfl rfl)
theorem dX2_meanSpan_78 : decode cX2_meanSpan 78 = .ok (.isub, 1) := dk_100 (dk_at dksX2_meanSpan_3 10 rfl rfl)
theorem dX2_meanSpan_79 : decode cX2_meanSpan 79 = .ok (.iadd, 1) := dk_96 (dk_at dksX2_meanSpan_3 11 rfl rfl)
theorem dX2_meanSpan_80 : decode cX2_meanSpan 80 = .ok (.istore_n 1, 1) := dk_60 (dk_at dksX2_meanSpan_3 12 rfl rfl)
theorem dX2_meanSpan_81 : decode cX2_meanSpan 81 = .ok (.iinc 5 1, 3) := dk_132 5 1 (dk_at dksX2_meanSpan_3 13 rfl rfl)
theorem dX2_meanSpan_84 : decode cX2_meanSpan 84 = .ok (.goto (-48), 3) := dk_167 255 208 (dk_at dksX2_meanSpan_3 16 rfl rfl)
theorem dX2_meanSpan_87 : decode cX2_meanSpan 87 = .ok (.iload_n 2, 1) := dk_28 (dk_at dksX2_meanSpan_3 19 rfl rfl)
theorem dX2_meanSpan_88 : decode cX2_meanSpan 88 = .ok (.aload 4, 2) := dk_25 4 (dk_at dksX2_meanSpan_3 20 rfl rfl)
theorem dX2_meanSpan_90 : decode cX2_meanSpan 90 = .ok (.getfield 206, 3) := dk_180 0 206 (dk_at dksX2_meanSpan_4 0 rfl rfl)
theorem dX2_meanSpan_93 : decode cX2_meanSpan 93 = .ok (.arraylength, 1) := dk_190 (dk_at dksX2_meanSpan_4 3 rfl rfl)
theorem dX2_meanSpan_94 : decode cX2_meanSpan 94 = .ok (.iadd, 1) := dk_96 (dk_at dksX2_meanSpan_4 4 rfl rfl)
theorem dX2_meanSpan_95 : decode cX2_meanSpan 95 = .ok (.istore_n 2, 1) := dk_61 (dk_at dksX2_meanSpan_4 5 rfl rfl)
theorem dX2_meanSpan_96 : decode cX2_meanSpan 96 = .ok (.iinc 3 1, 3) := dk_132 3 1 (dk_at dksX2_meanSpan_4 6 rfl rfl)
theorem dX2_meanSpan_99 : decode cX2_meanSpan 99 = .ok (.goto (-88), 3) := dk_167 255 168 (dk_at dksX2_meanSpan_4 9 rfl rfl)
theorem dX2_meanSpan_102 : decode cX2_meanSpan 102 = .ok (.iload_n 2, 1) := dk_28 (dk_at dksX2_meanSpan_4 12 rfl rfl)
theorem dX2_meanSpan_103 : decode cX2_meanSpan 103 = .ok (.ifCond .ne 7, 3) := dk_154 0 7 (dk_at dksX2_meanSpan_4 13 rfl rfl)
theorem dX2_meanSpan_106 : decode cX2_meanSpan 106 = .ok (.dconst 0, 1) := dk_14 (dk_at dksX2_meanSpan_4 16 rfl rfl)
theorem dX2_meanSpan_107 : decode cX2_meanSpan 107 = .ok (.goto 8, 3) := dk_167 0 8 (dk_at dksX2_meanSpan_4 17 rfl rfl)
theorem dX2_meanSpan_110 : decode cX2_meanSpan 110 = .ok (.iload_n 1, 1) := dk_27 (dk_at dksX2_meanSpan_4 20 rfl rfl)
theorem dX2_meanSpan_111 : decode cX2_meanSpan 111 = .ok (.i2d, 1) := dk_135 (dk_at dksX2_meanSpan_4 21 rfl rfl)
theorem dX2_meanSpan_112 : decode cX2_meanSpan 112 = .ok (.iload_n 2, 1) := dk_28 (dk_at dksX2_meanSpan_4 22 rfl rfl)
theorem dX2_meanSpan_113 : decode cX2_meanSpan 113 = .ok (.i2d, 1) := dk_135 (dk_at dksX2_meanSpan_4 23 rfl rfl)
theorem dX2_meanSpan_114 : decode cX2_meanSpan 114 = .ok (.ddiv, 1) := dk_111 (dk_at dksX2_meanSpan_5 0 rfl rfl)
theorem dX2_meanSpan_115 : decode cX2_meanSpan 115 = .ok (.dreturn, 1) := dk_175 (dk_at dksX2_meanSpan_5 1 rfl rfl)
abbrev cX2_heldShare : ByteArray := prog_18_method_86_code
def yX2_heldShare : MethodName := ⟨RX2, "heldShare", "()F"⟩
def dkwX2_heldShare_5 : List UInt8 := [167, 0, 8, 27, 134, 28, 134, 110, 174]
abbrev dktX2_heldShare_5 : List UInt8 := dkwX2_heldShare_5 ++ []
def dkwX2_heldShare_4 : List UInt8 := [167, 0, 4, 3, 96, 61, 132, 5, 1, 167, 255, 192, 132, 3, 1, 167, 255, 161, 28, 154, 0, 7, 11]
abbrev dktX2_heldShare_4 : List UInt8 := dkwX2_heldShare_4 ++ dktX2_heldShare_5
def dkwX2_heldShare_3 : List UInt8 := [154, 0, 7, 4, 167, 0, 4, 3, 96, 60, 28, 25, 4, 180, 0, 189, 21, 5, 51, 153, 0, 7, 4]
abbrev dktX2_heldShare_3 : List UInt8 := dkwX2_heldShare_3 ++ dktX2_heldShare_4
def dkwX2_heldShare_2 : List UInt8 := [162, 0, 58, 27, 25, 4, 180, 0, 189, 21, 5, 51, 153, 0, 18, 25, 4, 180, 0, 193, 21, 5, 51]
abbrev dktX2_heldShare_2 : List UInt8 := dkwX2_heldShare_2 ++ dktX2_heldShare_3
def dkwX2_heldShare_1 : List UInt8 := [187, 0, 178, 89, 42, 29, 183, 0, 196, 58, 4, 3, 54, 5, 21, 5, 42, 180, 0, 47, 182, 0, 72]
abbrev dktX2_heldShare_1 : List UInt8 := dkwX2_heldShare_1 ++ dktX2_heldShare_2
def dkwX2_heldShare_0 : List UInt8 := [42, 3, 181, 0, 69, 3, 60, 3, 61, 3, 62, 29, 42, 180, 0, 16, 182, 0, 72, 162, 0, 90]
abbrev dktX2_heldShare_0 : List UInt8 := dkwX2_heldShare_0 ++ dktX2_heldShare_1
theorem dksX2_heldShare_0 : cX2_heldShare.data.toList.drop 0 = dktX2_heldShare_0 := by decide +kernel
theorem dksX2_heldShare_1 : cX2_heldShare.data.toList.drop 22 = dktX2_heldShare_1 := dk_seg dksX2_heldShare_0 22 rfl rfl
theorem dksX2_heldShare_2 : cX2_heldShare.data.toList.drop 45 = dktX2_heldShare_2 := dk_seg dksX2_heldShare_1 23 rfl rfl
theorem dksX2_heldShare_3 : cX2_heldShare.data.toList.drop 68 = dktX2_heldShare_3 := dk_seg dksX2_heldShare_2 23 rfl rfl
theorem dksX2_heldShare_4 : cX2_heldShare.data.toList.drop 91 = dktX2_heldShare_4 := dk_seg dksX2_heldShare_3 23 rfl rfl
theorem dksX2_heldShare_5 : cX2_heldShare.data.toList.drop 114 = dktX2_heldShare_5 := dk_seg dksX2_heldShare_4 23 rfl rfl
theorem dX2_heldShare_0 : decode cX2_heldShare 0 = .ok (.aload_n 0, 1) := dk_42 (dk_at dksX2_heldShare_0 0 rfl rfl)
theorem dX2_heldShare_1 : decode cX2_heldShare 1 = .ok (.iconst 0, 1) := dk_3 (dk_at dksX2_heldShare_0 1 rfl rfl)
theorem dX2_heldShare_2 : decode cX2_heldShare 2 = .ok (.putfield 69, 3) := dk_181 0 69 (dk_at dksX2_heldShare_0 2 rfl rfl)
theorem dX2_heldShare_5 : decode cX2_heldShare 5 = .ok (.iconst 0, 1) := dk_3 (dk_at dksX2_heldShare_0 5 rfl rfl)
theorem dX2_heldShare_6 : decode cX2_heldShare 6 = .ok (.istore_n 1, 1) := dk_60 (dk_at dksX2_heldShare_0 6 rfl rfl)
theorem dX2_heldShare_7 : decode cX2_heldShare 7 = .ok (.iconst 0, 1) := dk_3 (dk_at dksX2_heldShare_0 7 rfl rfl)
theorem dX2_heldShare_8 : decode cX2_heldShare 8 = .ok (.istore_n 2, 1) := dk_61 (dk_at dksX2_heldShare_0 8 rfl rfl)
theorem dX2_heldShare_9 : decode cX2_heldShare 9 = .ok (.iconst 0, 1) := dk_3 (dk_at dksX2_heldShare_0 9 rfl rfl)
theorem dX2_heldShare_10 : decode cX2_heldShare 10 = .ok (.istore_n 3, 1) := dk_62 (dk_at dksX2_heldShare_0 10 rfl rfl)
theorem dX2_heldShare_11 : decode cX2_heldShare 11 = .ok (.iload_n 3, 1) := dk_29 (dk_at dksX2_heldShare_0 11 rfl rfl)
theorem dX2_heldShare_12 : decode cX2_heldShare 12 = .ok (.aload_n 0, 1) := dk_42 (dk_at dksX2_heldShare_0 12 rfl rfl)
theorem dX2_heldShare_13 : decode cX2_heldShare 13 = .ok (.getfield 16, 3) := dk_180 0 16 (dk_at dksX2_heldShare_0 13 rfl rfl)
theorem dX2_heldShare_16 : decode cX2_heldShare 16 = .ok (.invokevirtual 72, 3) := dk_182 0 72 (dk_at dksX2_heldShare_0 16 rfl rfl)
theorem dX2_heldShare_19 : decode cX2_heldShare 19 = .ok (.if_icmp .ge 90, 3) := dk_162 0 90 (dk_at dksX2_heldShare_0 19 rfl rfl)
theorem dX2_heldShare_22 : decode cX2_heldShare 22 = .ok (.new 178, 3) := dk_187 0 178 (dk_at dksX2_heldShare_1 0 rfl rfl)
theorem dX2_heldShare_25 : decode cX2_heldShare 25 = .ok (.dup, 1) := dk_89 (dk_at dksX2_heldShare_1 3 rfl rfl)
theorem dX2_heldShare_26 : decode cX2_heldShare 26 = .ok (.aload_n 0, 1) := dk_42 (dk_at dksX2_heldShare_1 4 rfl rfl)
theorem dX2_heldShare_27 : decode cX2_heldShare 27 = .ok (.iload_n 3, 1) := dk_29 (dk_at dksX2_heldShare_1 5 rfl rfl)
theorem dX2_heldShare_28 : decode cX2_heldShare 28 = .ok (.invokespecial 196, 3) := dk_183 0 196 (dk_at dksX2_heldShare_1 6 rfl rfl)
theorem dX2_heldShare_31 : decode cX2_heldShare 31 = .ok (.astore 4, 2) := dk_58 4 (dk_at dksX2_heldShare_1 9 rfl rfl)
theorem dX2_heldShare_33 : decode cX2_heldShare 33 = .ok (.iconst 0, 1) := dk_3 (dk_at dksX2_heldShare_1 11 rfl rfl)
theorem dX2_heldShare_34 : decode cX2_heldShare 34 = .ok (.istore 5, 2) := dk_54 5 (dk_at dksX2_heldShare_1 12 rfl rfl)
theorem dX2_heldShare_36 : decode cX2_heldShare 36 = .ok (.iload 5, 2) := dk_21 5 (dk_at dksX2_heldShare_1 14 rfl rfl)
theorem dX2_heldShare_38 : decode cX2_heldShare 38 = .ok (.aload_n 0, 1) := dk_42 (dk_at dksX2_heldShare_1 16 rfl rfl)
theorem dX2_heldShare_39 : decode cX2_heldShare 39 = .ok (.getfield 47, 3) := dk_180 0 47 (dk_at dksX2_heldShare_1 17 rfl rfl)
theorem dX2_heldShare_42 : decode cX2_heldShare 42 = .ok (.invokevirtual 72, 3) := dk_182 0 72 (dk_at dksX2_heldShare_1 20 rfl rfl)
theorem dX2_heldShare_45 : decode cX2_heldShare 45 = .ok (.if_icmp .ge 58, 3) := dk_162 0 58 (dk_at dksX2_heldShare_2 0 rfl rfl)
theorem dX2_heldShare_48 : decode cX2_heldShare 48 = .ok (.iload_n 1, 1) := dk_27 (dk_at dksX2_heldShare_2 3 rfl rfl)
theorem dX2_heldShare_49 : decode cX2_heldShare 49 = .ok (.aload 4, 2) := dk_25 4 (dk_at dksX2_heldShare_2 4 rfl rfl)
theorem dX2_heldShare_51 : decode cX2_heldShare 51 = .ok (.getfield 189, 3) := dk_180 0 189 (dk_at dksX2_heldShare_2 6 rfl rfl)
theorem dX2_heldShare_54 : decode cX2_heldShare 54 = .ok (.iload 5, 2) := dk_21 5 (dk_at dksX2_heldShare_2 9 rfl rfl)
theorem dX2_heldShare_56 : decode cX2_heldShare 56 = .ok (.baload, 1) := dk_51 (dk_at dksX2_heldShare_2 11 rfl rfl)
theorem dX2_heldShare_57 : decode cX2_heldShare 57 = .ok (.ifCond .eq 18, 3) := dk_153 0 18 (dk_at dksX2_heldShare_2 12 rfl rfl)
theorem dX2_heldShare_60 : decode cX2_heldShare 60 = .ok (.aload 4, 2) := dk_25 4 (dk_at dksX2_heldShare_2 15 rfl rfl)
theorem dX2_heldShare_62 : decode cX2_heldShare 62 = .ok (.getfield 193, 3) := dk_180 0 193 (dk_at dksX2_heldShare_2 17 rfl rfl)
theorem dX2_heldShare_65 : decode cX2_heldShare 65 = .ok (.iload 5, 2) := dk_21 5 (dk_at dksX2_heldShare_2 20 rfl rfl)
theorem dX2_heldShare_67 : decode cX2_heldShare 67 = .ok (.baload, 1) := dk_51 (dk_at dksX2_heldShare_2 22 rfl rfl)
theorem dX2_heldShare_68 : decode cX2_heldShare 68 = .ok (.ifCond .ne 7, 3) := dk_154 0 7 (dk_at dksX2_heldShare_3 0 rfl rfl)
theorem dX2_heldShare_71 : decode cX2_heldShare 71 = .ok (.iconst 1, 1) := dk_4 (dk_at dksX2_heldShare_3 3 rfl rfl)
theorem dX2_heldShare_72 : decode cX2_heldShare 72 = .ok (.goto 4, 3) := dk_167 0 4 (dk_at dksX2_heldShare_3 4 rfl rfl)
theorem dX2_heldShare_75 : decode cX2_heldShare 75 = .ok (.iconst 0, 1) := dk_3 (dk_at dksX2_heldShare_3 7 rfl rfl)
theorem dX2_heldShare_76 : decode cX2_heldShare 76 = .ok (.iadd, 1) := dk_96 (dk_at dksX2_heldShare_3 8 rfl rfl)
theorem dX2_heldShare_77 : decode cX2_heldShare 77 = .ok (.istore_n 1, 1) := dk_60 (dk_at dksX2_heldShare_3 9 rfl rfl)
theorem dX2_heldShare_78 : decode cX2_heldShare 78 = .ok (.iload_n 2, 1) := dk_28 (dk_at dksX2_heldShare_3 10 rfl rfl)
theorem dX2_heldShare_79 : decode cX2_heldShare 79 = .ok (.aload 4, 2) := dk_25 4 (dk_at dksX2_heldShare_3 11 rfl rfl)
theorem dX2_heldShare_81 : decode cX2_heldShare 81 = .ok (.getfield 189, 3) := dk_180 0 189 (dk_at dksX2_heldShare_3 13 rfl rfl)
theorem dX2_heldShare_84 : decode cX2_heldShare 84 = .ok (.iload 5, 2) := dk_21 5 (dk_at dksX2_heldShare_3 16 rfl rfl)
theorem dX2_heldShare_86 : decode cX2_heldShare 86 = .ok (.baload, 1) := dk_51 (dk_at dksX2_heldShare_3 18 rfl rfl)
theorem dX2_heldShare_87 : decode cX2_heldShare 87 = .ok (.ifCond .eq 7, 3) := dk_153 0 7 (dk_at dksX2_heldShare_3 19 rfl rfl)
theorem dX2_heldShare_90 : decode cX2_heldShare 90 = .ok (.iconst 1, 1) := dk_4 (dk_at dksX2_heldShare_3 22 rfl rfl)
theorem dX2_heldShare_91 : decode cX2_heldShare 91 = .ok (.goto 4, 3) := dk_167 0 4 (dk_at dksX2_heldShare_4 0 rfl rfl)
theorem dX2_heldShare_94 : decode cX2_heldShare 94 = .ok (.iconst 0, 1) := dk_3 (dk_at dksX2_heldShare_4 3 rfl rfl)
theorem dX2_heldShare_95 : decode cX2_heldShare 95 = .ok (.iadd, 1) := dk_96 (dk_at dksX2_heldShare_4 4 rfl rfl)
theorem dX2_heldShare_96 : decode cX2_heldShare 96 = .ok (.istore_n 2, 1) := dk_61 (dk_at dksX2_heldShare_4 5 rfl rfl)
theorem dX2_heldShare_97 : decode cX2_heldShare 97 = .ok (.iinc 5 1, 3) := dk_132 5 1 (dk_at dksX2_heldShare_4 6 rfl rfl)
theorem dX2_heldShare_100 : decode cX2_heldShare 100 = .ok (.goto (-64), 3) := dk_167 255 192 (dk_at dksX2_heldShare_4 9 rfl rfl)
theorem dX2_heldShare_103 : decode cX2_heldShare 103 = .ok (.iinc 3 1, 3) := dk_132 3 1 (dk_at dksX2_heldShare_4 12 rfl rfl)
theorem dX2_heldShare_106 : decode cX2_heldShare 106 = .ok (.goto (-95), 3) := dk_167 255 161 (dk_at dksX2_heldShare_4 15 rfl rfl)
theorem dX2_heldShare_109 : decode cX2_heldShare 109 = .ok (.iload_n 2, 1) := dk_28 (dk_at dksX2_heldShare_4 18 rfl rfl)
theorem dX2_heldShare_110 : decode cX2_heldShare 110 = .ok (.ifCond .ne 7, 3) := dk_154 0 7 (dk_at dksX2_heldShare_4 19 rfl rfl)
theorem dX2_heldShare_113 : decode cX2_heldShare 113 = .ok (.fconst 0, 1) := dk_11 (dk_at dksX2_heldShare_4 22 rfl rfl)
theorem dX2_heldShare_114 : decode cX2_heldShare 114 = .ok (.goto 8, 3) := dk_167 0 8 (dk_at dksX2_heldShare_5 0 rfl rfl)
theorem dX2_heldShare_117 : decode cX2_heldShare 117 = .ok (.iload_n 1, 1) := dk_27 (dk_at dksX2_heldShare_5 3 rfl rfl)
theorem dX2_heldShare_118 : decode cX2_heldShare 118 = .ok (.i2f, 1) := dk_134 (dk_at dksX2_heldShare_5 4 rfl rfl)
theorem dX2_heldShare_119 : decode cX2_heldShare 119 = .ok (.iload_n 2, 1) := dk_28 (dk_at dksX2_heldShare_5 5 rfl rfl)
theorem dX2_heldShare_120 : decode cX2_heldShare 120 = .ok (.i2f, 1) := dk_134 (dk_at dksX2_heldShare_5 6 rfl rfl)
theorem dX2_heldShare_121 : decode cX2_heldShare 121 = .ok (.fdiv, 1) := dk_110 (dk_at dksX2_heldShare_5 7 rfl rfl)
theorem dX2_heldShare_122 : decode cX2_heldShare 122 = .ok (.freturn, 1) := dk_174 (dk_at dksX2_heldShare_5 8 rfl rfl)
theorem q80 : (Jvm.Cond.initialized "FigureSurveyModel") ∈ lw_all := lw_g (lw_at lw_m1 7 rfl) rfl
theorem q449 : (Jvm.Cond.selects "FigureSurveyModel" ({ cls := "java/lang/Object", name := "getClass", desc := "()Ljava/lang/Class;" } : Jvm.MethodName) ({ cls := "java/lang/Object", name := "getClass", desc := "()Ljava/lang/Class;" } : Jvm.MethodName)) ∈ lw_all := lw_g (lw_at lw_m2 136 rfl) rfl
theorem q1219 : (Jvm.Cond.selects "FigureSurveyModel" ({ cls := "java/lang/Object", name := "equals", desc := "(Ljava/lang/Object;)Z" } : Jvm.MethodName) ({ cls := "java/lang/Object", name := "equals", desc := "(Ljava/lang/Object;)Z" } : Jvm.MethodName)) ∈ lw_all := lw_g (lw_at lw_m5 186 rfl) rfl
theorem q2413 : (Jvm.Cond.instantiable "FigureSurveyModel" (20 : Nat)) ∈ lw_all := lw_g (lw_at lw_m10 180 rfl) rfl
theorem q2415 : (Jvm.Cond.instanceMethod ({ cls := "FigureSurveyModel", name := "<init>", desc := "()V" } : Jvm.MethodName)) ∈ lw_all := lw_g (lw_at lw_m10 182 rfl) rfl
theorem q2416 : (Jvm.Cond.code ({ cls := "FigureSurveyModel", name := "<init>", desc := "()V" } : Jvm.MethodName) prog_18_method_1_code (1 : Nat) (Option.none : Option Jvm.ClassFile.FieldType)) ∈ lw_all := lw_g (lw_at lw_m10 183 rfl) rfl
theorem q2417 : (Jvm.Cond.methodLink "FigureSurveyModel" (1 : Nat) ({ cls := "java/lang/Object", name := "<init>", desc := "()V" } : Jvm.MethodName)) ∈ lw_all := lw_g (lw_at lw_m10 184 rfl) rfl
theorem q2418 : (Jvm.Cond.classLink "FigureSurveyModel" (13 : Nat) "java/util/ArrayList") ∈ lw_all := lw_g (lw_at lw_m10 185 rfl) rfl
theorem q2419 : (Jvm.Cond.methodLink "FigureSurveyModel" (15 : Nat) ({ cls := "java/util/ArrayList", name := "<init>", desc := "()V" } : Jvm.MethodName)) ∈ lw_all := lw_g (lw_at lw_m10 186 rfl) rfl
theorem q2420 : (Jvm.Cond.classLink "FigureSurveyModel" (36 : Nat) "[[Z") ∈ lw_all := lw_g (lw_at lw_m10 187 rfl) rfl
theorem q2421 : (Jvm.Cond.fieldLink "FigureSurveyModel" (69 : Nat) "FigureSurveyModel" "thrown" "I") ∈ lw_all := lw_g (lw_at lw_m10 188 rfl) rfl
theorem q2422 : (Jvm.Cond.fieldLink "FigureSurveyModel" (89 : Nat) "FigureSurveyModel" "year" "I") ∈ lw_all := lw_g (lw_at lw_m10 189 rfl) rfl
theorem q2423 : (Jvm.Cond.fieldLink "FigureSurveyModel" (9 : Nat) "FigureSurveyModel" "damLevel" "I") ∈ lw_all := lw_g (lw_at lw_m10 190 rfl) rfl
theorem q2424 : (Jvm.Cond.fieldLink "FigureSurveyModel" (92 : Nat) "FigureSurveyModel" "damYear" "I") ∈ lw_all := lw_g (lw_at lw_m10 191 rfl) rfl
theorem q2425 : (Jvm.Cond.fieldLink "FigureSurveyModel" (16 : Nat) "FigureSurveyModel" "panels" "Ljava/util/ArrayList;") ∈ lw_all := lw_g (lw_at lw_m10 192 rfl) rfl
theorem q2426 : (Jvm.Cond.fieldLink "FigureSurveyModel" (20 : Nat) "FigureSurveyModel" "depths" "Ljava/util/ArrayList;") ∈ lw_all := lw_g (lw_at lw_m10 193 rfl) rfl
theorem q2427 : (Jvm.Cond.fieldLink "FigureSurveyModel" (23 : Nat) "FigureSurveyModel" "away" "[J") ∈ lw_all := lw_g (lw_at lw_m10 194 rfl) rfl
theorem q2428 : (Jvm.Cond.fieldLink "FigureSurveyModel" (27 : Nat) "FigureSurveyModel" "strokes" "Ljava/util/ArrayList;") ∈ lw_all := lw_g (lw_at lw_m10 195 rfl) rfl
theorem q2429 : (Jvm.Cond.fieldLink "FigureSurveyModel" (30 : Nat) "FigureSurveyModel" "strokeCells" "[J") ∈ lw_all := lw_g (lw_at lw_m10 196 rfl) rfl
theorem q2431 : (Jvm.Cond.fieldLink "FigureSurveyModel" (33 : Nat) "FigureSurveyModel" "figures" "Ljava/util/ArrayList;") ∈ lw_all := lw_g (lw_at lw_m10 198 rfl) rfl
theorem q2432 : (Jvm.Cond.fieldLink "FigureSurveyModel" (38 : Nat) "FigureSurveyModel" "has" "[[Z") ∈ lw_all := lw_g (lw_at lw_m10 199 rfl) rfl
theorem q2433 : (Jvm.Cond.fieldLink "FigureSurveyModel" (41 : Nat) "FigureSurveyModel" "tracings" "Ljava/util/ArrayList;") ∈ lw_all := lw_g (lw_at lw_m10 200 rfl) rfl
theorem q2434 : (Jvm.Cond.fieldLink "FigureSurveyModel" (44 : Nat) "FigureSurveyModel" "traced" "[J") ∈ lw_all := lw_g (lw_at lw_m10 201 rfl) rfl
theorem q2436 : (Jvm.Cond.fieldLink "FigureSurveyModel" (47 : Nat) "FigureSurveyModel" "findings" "Ljava/util/ArrayList;") ∈ lw_all := lw_g (lw_at lw_m10 203 rfl) rfl
theorem q2437 : (Jvm.Cond.fieldLink "FigureSurveyModel" (50 : Nat) "FigureSurveyModel" "weapons" "[I") ∈ lw_all := lw_g (lw_at lw_m10 204 rfl) rfl
theorem q2439 : (Jvm.Cond.fieldLink "FigureSurveyModel" (54 : Nat) "FigureSurveyModel" "animals" "[I") ∈ lw_all := lw_g (lw_at lw_m10 206 rfl) rfl
theorem q2441 : (Jvm.Cond.fieldLink "FigureSurveyModel" (57 : Nat) "FigureSurveyModel" "styles" "Ljava/util/ArrayList;") ∈ lw_all := lw_g (lw_at lw_m10 208 rfl) rfl
theorem q2442 : (Jvm.Cond.fieldLink "FigureSurveyModel" (60 : Nat) "FigureSurveyModel" "entries" "Ljava/util/ArrayList;") ∈ lw_all := lw_g (lw_at lw_m10 209 rfl) rfl
theorem q2443 : (Jvm.Cond.fieldLink "FigureSurveyModel" (63 : Nat) "FigureSurveyModel" "names" "Ljava/util/ArrayList;") ∈ lw_all := lw_g (lw_at lw_m10 210 rfl) rfl
theorem q2444 : (Jvm.Cond.fieldLink "FigureSurveyModel" (66 : Nat) "FigureSurveyModel" "works" "Ljava/util/ArrayList;") ∈ lw_all := lw_g (lw_at lw_m10 211 rfl) rfl
theorem q2445 : (Jvm.Cond.lays "FigureSurveyModel" "FigureSurveyModel" "thrown" "I") ∈ lw_all := lw_g (lw_at lw_m10 212 rfl) rfl
theorem q2446 : (Jvm.Cond.soleField "FigureSurveyModel" "thrown") ∈ lw_all := lw_g (lw_at lw_m10 213 rfl) rfl
theorem q2447 : (Jvm.Cond.lays "FigureSurveyModel" "FigureSurveyModel" "year" "I") ∈ lw_all := lw_g (lw_at lw_m10 214 rfl) rfl
theorem q2448 : (Jvm.Cond.soleField "FigureSurveyModel" "year") ∈ lw_all := lw_g (lw_at lw_m10 215 rfl) rfl
theorem q2449 : (Jvm.Cond.lays "FigureSurveyModel" "FigureSurveyModel" "damLevel" "I") ∈ lw_all := lw_g (lw_at lw_m10 216 rfl) rfl
theorem q2450 : (Jvm.Cond.soleField "FigureSurveyModel" "damLevel") ∈ lw_all := lw_g (lw_at lw_m10 217 rfl) rfl
theorem q2451 : (Jvm.Cond.lays "FigureSurveyModel" "FigureSurveyModel" "damYear" "I") ∈ lw_all := lw_g (lw_at lw_m10 218 rfl) rfl
theorem q2452 : (Jvm.Cond.soleField "FigureSurveyModel" "damYear") ∈ lw_all := lw_g (lw_at lw_m10 219 rfl) rfl
theorem q2453 : (Jvm.Cond.laysFinal "FigureSurveyModel" "FigureSurveyModel" "panels" "Ljava/util/ArrayList;") ∈ lw_all := lw_g (lw_at lw_m10 220 rfl) rfl
theorem q2454 : (Jvm.Cond.soleField "FigureSurveyModel" "panels") ∈ lw_all := lw_g (lw_at lw_m10 221 rfl) rfl
theorem q2455 : (Jvm.Cond.laysFinal "FigureSurveyModel" "FigureSurveyModel" "depths" "Ljava/util/ArrayList;") ∈ lw_all := lw_g (lw_at lw_m10 222 rfl) rfl
theorem q2456 : (Jvm.Cond.soleField "FigureSurveyModel" "depths") ∈ lw_all := lw_g (lw_at lw_m10 223 rfl) rfl
theorem q2457 : (Jvm.Cond.laysFinal "FigureSurveyModel" "FigureSurveyModel" "away" "[J") ∈ lw_all := lw_g (lw_at lw_m10 224 rfl) rfl
theorem q2458 : (Jvm.Cond.soleField "FigureSurveyModel" "away") ∈ lw_all := lw_g (lw_at lw_m10 225 rfl) rfl
theorem q2459 : (Jvm.Cond.laysFinal "FigureSurveyModel" "FigureSurveyModel" "strokes" "Ljava/util/ArrayList;") ∈ lw_all := lw_g (lw_at lw_m10 226 rfl) rfl
theorem q2460 : (Jvm.Cond.soleField "FigureSurveyModel" "strokes") ∈ lw_all := lw_g (lw_at lw_m10 227 rfl) rfl
theorem q2461 : (Jvm.Cond.laysFinal "FigureSurveyModel" "FigureSurveyModel" "strokeCells" "[J") ∈ lw_all := lw_g (lw_at lw_m10 228 rfl) rfl
theorem q2462 : (Jvm.Cond.soleField "FigureSurveyModel" "strokeCells") ∈ lw_all := lw_g (lw_at lw_m10 229 rfl) rfl
theorem q2463 : (Jvm.Cond.laysFinal "FigureSurveyModel" "FigureSurveyModel" "figures" "Ljava/util/ArrayList;") ∈ lw_all := lw_g (lw_at lw_m10 230 rfl) rfl
theorem q2464 : (Jvm.Cond.soleField "FigureSurveyModel" "figures") ∈ lw_all := lw_g (lw_at lw_m10 231 rfl) rfl
theorem q2465 : (Jvm.Cond.laysFinal "FigureSurveyModel" "FigureSurveyModel" "has" "[[Z") ∈ lw_all := lw_g (lw_at lw_m10 232 rfl) rfl
theorem q2466 : (Jvm.Cond.soleField "FigureSurveyModel" "has") ∈ lw_all := lw_g (lw_at lw_m10 233 rfl) rfl
theorem q2467 : (Jvm.Cond.laysFinal "FigureSurveyModel" "FigureSurveyModel" "tracings" "Ljava/util/ArrayList;") ∈ lw_all := lw_g (lw_at lw_m10 234 rfl) rfl
theorem q2468 : (Jvm.Cond.soleField "FigureSurveyModel" "tracings") ∈ lw_all := lw_g (lw_at lw_m10 235 rfl) rfl
theorem q2469 : (Jvm.Cond.laysFinal "FigureSurveyModel" "FigureSurveyModel" "traced" "[J") ∈ lw_all := lw_g (lw_at lw_m10 236 rfl) rfl
theorem q2470 : (Jvm.Cond.soleField "FigureSurveyModel" "traced") ∈ lw_all := lw_g (lw_at lw_m10 237 rfl) rfl
theorem q2471 : (Jvm.Cond.laysFinal "FigureSurveyModel" "FigureSurveyModel" "findings" "Ljava/util/ArrayList;") ∈ lw_all := lw_g (lw_at lw_m10 238 rfl) rfl
theorem q2472 : (Jvm.Cond.soleField "FigureSurveyModel" "findings") ∈ lw_all := lw_g (lw_at lw_m10 239 rfl) rfl
theorem q2473 : (Jvm.Cond.laysFinal "FigureSurveyModel" "FigureSurveyModel" "weapons" "[I") ∈ lw_all := lw_g (lw_at lw_m11 0 rfl) rfl
theorem q2474 : (Jvm.Cond.soleField "FigureSurveyModel" "weapons") ∈ lw_all := lw_g (lw_at lw_m11 1 rfl) rfl
theorem q2475 : (Jvm.Cond.laysFinal "FigureSurveyModel" "FigureSurveyModel" "animals" "[I") ∈ lw_all := lw_g (lw_at lw_m11 2 rfl) rfl
theorem q2476 : (Jvm.Cond.soleField "FigureSurveyModel" "animals") ∈ lw_all := lw_g (lw_at lw_m11 3 rfl) rfl
theorem q2477 : (Jvm.Cond.laysFinal "FigureSurveyModel" "FigureSurveyModel" "styles" "Ljava/util/ArrayList;") ∈ lw_all := lw_g (lw_at lw_m11 4 rfl) rfl
theorem q2478 : (Jvm.Cond.soleField "FigureSurveyModel" "styles") ∈ lw_all := lw_g (lw_at lw_m11 5 rfl) rfl
theorem q2479 : (Jvm.Cond.laysFinal "FigureSurveyModel" "FigureSurveyModel" "entries" "Ljava/util/ArrayList;") ∈ lw_all := lw_g (lw_at lw_m11 6 rfl) rfl
theorem q2480 : (Jvm.Cond.soleField "FigureSurveyModel" "entries") ∈ lw_all := lw_g (lw_at lw_m11 7 rfl) rfl
theorem q2481 : (Jvm.Cond.laysFinal "FigureSurveyModel" "FigureSurveyModel" "names" "Ljava/util/ArrayList;") ∈ lw_all := lw_g (lw_at lw_m11 8 rfl) rfl
theorem q2482 : (Jvm.Cond.soleField "FigureSurveyModel" "names") ∈ lw_all := lw_g (lw_at lw_m11 9 rfl) rfl
theorem q2483 : (Jvm.Cond.laysFinal "FigureSurveyModel" "FigureSurveyModel" "works" "Ljava/util/ArrayList;") ∈ lw_all := lw_g (lw_at lw_m11 10 rfl) rfl
theorem q2484 : (Jvm.Cond.soleField "FigureSurveyModel" "works") ∈ lw_all := lw_g (lw_at lw_m11 11 rfl) rfl
theorem q2485 : (Jvm.Cond.superclass "FigureSurveyModel" "java/lang/Object") ∈ lw_all := lw_g (lw_at lw_m11 12 rfl) rfl
theorem q2488 : (Jvm.Cond.instanceMethod ({ cls := "FigureSurveyModel", name := "thrown", desc := "()I" } : Jvm.MethodName)) ∈ lw_all := lw_g (lw_at lw_m11 15 rfl) rfl
theorem q2489 : (Jvm.Cond.selects "FigureSurveyModel" ({ cls := "FigureSurveyModel", name := "thrown", desc := "()I" } : Jvm.MethodName) ({ cls := "FigureSurveyModel", name := "thrown", desc := "()I" } : Jvm.MethodName)) ∈ lw_all := lw_g (lw_at lw_m11 16 rfl) rfl
theorem q2490 : (Jvm.Cond.code ({ cls := "FigureSurveyModel", name := "thrown", desc := "()I" } : Jvm.MethodName) prog_18_method_2_code (1 : Nat) (Option.some Jvm.ClassFile.FieldType.int)) ∈ lw_all := lw_g (lw_at lw_m11 17 rfl) rfl
theorem q2492 : (Jvm.Cond.instanceMethod ({ cls := "FigureSurveyModel", name := "addPanel", desc := "(I)I" } : Jvm.MethodName)) ∈ lw_all := lw_g (lw_at lw_m11 19 rfl) rfl
theorem q2493 : (Jvm.Cond.selects "FigureSurveyModel" ({ cls := "FigureSurveyModel", name := "addPanel", desc := "(I)I" } : Jvm.MethodName) ({ cls := "FigureSurveyModel", name := "addPanel", desc := "(I)I" } : Jvm.MethodName)) ∈ lw_all := lw_g (lw_at lw_m11 20 rfl) rfl
theorem q2494 : (Jvm.Cond.code ({ cls := "FigureSurveyModel", name := "addPanel", desc := "(I)I" } : Jvm.MethodName) prog_18_method_13_code (2 : Nat) (Option.some Jvm.ClassFile.FieldType.int)) ∈ lw_all := lw_g (lw_at lw_m11 21 rfl) rfl
theorem q2495 : (Jvm.Cond.methodLink "FigureSurveyModel" (76 : Nat) ({ cls := "FigureSurveyModel", name := "in", desc := "(III)Z" } : Jvm.MethodName)) ∈ lw_all := lw_g (lw_at lw_m11 22 rfl) rfl
theorem q2496 : (Jvm.Cond.static ({ cls := "FigureSurveyModel", name := "in", desc := "(III)Z" } : Jvm.MethodName)) ∈ lw_all := lw_g (lw_at lw_m11 23 rfl) rfl
theorem q2497 : (Jvm.Cond.code ({ cls := "FigureSurveyModel", name := "in", desc := "(III)Z" } : Jvm.MethodName) prog_18_method_4_code (3 : Nat) (Option.some Jvm.ClassFile.FieldType.boolean)) ∈ lw_all := lw_g (lw_at lw_m11 24 rfl) rfl
theorem q2498 : (Jvm.Cond.methodLink "FigureSurveyModel" (95 : Nat) ({ cls := "FigureSurveyModel", name := "err", desc := "(I)I" } : Jvm.MethodName)) ∈ lw_all := lw_g (lw_at lw_m11 25 rfl) rfl
theorem q2499 : (Jvm.Cond.privateMethod ({ cls := "FigureSurveyModel", name := "err", desc := "(I)I" } : Jvm.MethodName)) ∈ lw_tbl := lw_at lw_m11 26 rfl
theorem q2500 : (Jvm.Cond.instanceMethod ({ cls := "FigureSurveyModel", name := "err", desc := "(I)I" } : Jvm.MethodName)) ∈ lw_all := lw_g (lw_at lw_m11 27 rfl) rfl
theorem q2501 : (Jvm.Cond.code ({ cls := "FigureSurveyModel", name := "err", desc := "(I)I" } : Jvm.MethodName) prog_18_method_3_code (2 : Nat) (Option.some Jvm.ClassFile.FieldType.int)) ∈ lw_all := lw_g (lw_at lw_m11 28 rfl) rfl
theorem q2502 : (Jvm.Cond.methodLink "FigureSurveyModel" (72 : Nat) ({ cls := "java/util/ArrayList", name := "size", desc := "()I" } : Jvm.MethodName)) ∈ lw_all := lw_g (lw_at lw_m11 29 rfl) rfl
theorem q2503 : (Jvm.Cond.methodLink "FigureSurveyModel" (99 : Nat) ({ cls := "java/util/ArrayList", name := "add", desc := "(Ljava/lang/Object;)Z" } : Jvm.MethodName)) ∈ lw_all := lw_g (lw_at lw_m11 30 rfl) rfl
theorem q2505 : (Jvm.Cond.instanceMethod ({ cls := "FigureSurveyModel", name := "setDepth", desc := "(III)I" } : Jvm.MethodName)) ∈ lw_all := lw_g (lw_at lw_m11 32 rfl) rfl
theorem q2506 : (Jvm.Cond.selects "FigureSurveyModel" ({ cls := "FigureSurveyModel", name := "setDepth", desc := "(III)I" } : Jvm.MethodName) ({ cls := "FigureSurveyModel", name := "setDepth", desc := "(III)I" } : Jvm.MethodName)) ∈ lw_all := lw_g (lw_at lw_m11 33 rfl) rfl
theorem q2507 : (Jvm.Cond.code ({ cls := "FigureSurveyModel", name := "setDepth", desc := "(III)I" } : Jvm.MethodName) prog_18_method_14_code (5 : Nat) (Option.some Jvm.ClassFile.FieldType.int)) ∈ lw_all := lw_g (lw_at lw_m11 34 rfl) rfl
theorem q2508 : (Jvm.Cond.methodLink "FigureSurveyModel" (103 : Nat) ({ cls := "FigureSurveyModel", name := "noPanel", desc := "(I)Z" } : Jvm.MethodName)) ∈ lw_all := lw_g (lw_at lw_m11 35 rfl) rfl
theorem q2509 : (Jvm.Cond.privateMethod ({ cls := "FigureSurveyModel", name := "noPanel", desc := "(I)Z" } : Jvm.MethodName)) ∈ lw_tbl := lw_at lw_m11 36 rfl
theorem q2510 : (Jvm.Cond.instanceMethod ({ cls := "FigureSurveyModel", name := "noPanel", desc := "(I)Z" } : Jvm.MethodName)) ∈ lw_all := lw_g (lw_at lw_m11 37 rfl) rfl
theorem q2511 : (Jvm.Cond.code ({ cls := "FigureSurveyModel", name := "noPanel", desc := "(I)Z" } : Jvm.MethodName) prog_18_method_5_code (2 : Nat) (Option.some Jvm.ClassFile.FieldType.boolean)) ∈ lw_all := lw_g (lw_at lw_m11 38 rfl) rfl
theorem q2512 : (Jvm.Cond.methodLink "FigureSurveyModel" (106 : Nat) ({ cls := "FigureSurveyModel", name := "drowned", desc := "(I)Z" } : Jvm.MethodName)) ∈ lw_all := lw_g (lw_at lw_m11 39 rfl) rfl
theorem q2513 : (Jvm.Cond.privateMethod ({ cls := "FigureSurveyModel", name := "drowned", desc := "(I)Z" } : Jvm.MethodName)) ∈ lw_tbl := lw_at lw_m11 40 rfl
theorem q2514 : (Jvm.Cond.instanceMethod ({ cls := "FigureSurveyModel", name := "drowned", desc := "(I)Z" } : Jvm.MethodName)) ∈ lw_all := lw_g (lw_at lw_m11 41 rfl) rfl
theorem q2515 : (Jvm.Cond.code ({ cls := "FigureSurveyModel", name := "drowned", desc := "(I)Z" } : Jvm.MethodName) prog_18_method_12_code (2 : Nat) (Option.some Jvm.ClassFile.FieldType.boolean)) ∈ lw_all := lw_g (lw_at lw_m11 42 rfl) rfl
theorem q2516 : (Jvm.Cond.methodLink "FigureSurveyModel" (85 : Nat) ({ cls := "FigureSurveyModel", name := "isUnder", desc := "(I)Z" } : Jvm.MethodName)) ∈ lw_all := lw_g (lw_at lw_m11 43 rfl) rfl
theorem q2517 : (Jvm.Cond.privateMethod ({ cls := "FigureSurveyModel", name := "isUnder", desc := "(I)Z" } : Jvm.MethodName)) ∈ lw_tbl := lw_at lw_m11 44 rfl
theorem q2518 : (Jvm.Cond.instanceMethod ({ cls := "FigureSurveyModel", name := "isUnder", desc := "(I)Z" } : Jvm.MethodName)) ∈ lw_all := lw_g (lw_at lw_m11 45 rfl) rfl
theorem q2519 : (Jvm.Cond.code ({ cls := "FigureSurveyModel", name := "isUnder", desc := "(I)Z" } : Jvm.MethodName) prog_18_method_11_code (2 : Nat) (Option.some Jvm.ClassFile.FieldType.boolean)) ∈ lw_all := lw_g (lw_at lw_m11 46 rfl) rfl
theorem q2520 : (Jvm.Cond.methodLink "FigureSurveyModel" (80 : Nat) ({ cls := "java/util/ArrayList", name := "get", desc := "(I)Ljava/lang/Object;" } : Jvm.MethodName)) ∈ lw_all := lw_g (lw_at lw_m11 47 rfl) rfl
theorem q2521 : (Jvm.Cond.classLink "FigureSurveyModel" (84 : Nat) "[I") ∈ lw_all := lw_g (lw_at lw_m11 48 rfl) rfl
theorem q2523 : (Jvm.Cond.instanceMethod ({ cls := "FigureSurveyModel", name := "light", desc := "(II)I" } : Jvm.MethodName)) ∈ lw_all := lw_g (lw_at lw_m11 50 rfl) rfl
theorem q2524 : (Jvm.Cond.selects "FigureSurveyModel" ({ cls := "FigureSurveyModel", name := "light", desc := "(II)I" } : Jvm.MethodName) ({ cls := "FigureSurveyModel", name := "light", desc := "(II)I" } : Jvm.MethodName)) ∈ lw_all := lw_g (lw_at lw_m11 51 rfl) rfl
theorem q2525 : (Jvm.Cond.code ({ cls := "FigureSurveyModel", name := "light", desc := "(II)I" } : Jvm.MethodName) prog_18_method_15_code (4 : Nat) (Option.some Jvm.ClassFile.FieldType.int)) ∈ lw_all := lw_g (lw_at lw_m11 52 rfl) rfl
theorem q2526 : (Jvm.Cond.methodLink "FigureSurveyModel" (109 : Nat) ({ cls := "java/lang/Integer", name := "bitCount", desc := "(I)I" } : Jvm.MethodName)) ∈ lw_all := lw_g (lw_at lw_m11 53 rfl) rfl
theorem q2528 : (Jvm.Cond.instanceMethod ({ cls := "FigureSurveyModel", name := "seen", desc := "(II)I" } : Jvm.MethodName)) ∈ lw_all := lw_g (lw_at lw_m11 55 rfl) rfl
theorem q2529 : (Jvm.Cond.selects "FigureSurveyModel" ({ cls := "FigureSurveyModel", name := "seen", desc := "(II)I" } : Jvm.MethodName) ({ cls := "FigureSurveyModel", name := "seen", desc := "(II)I" } : Jvm.MethodName)) ∈ lw_all := lw_g (lw_at lw_m11 56 rfl) rfl
theorem q2530 : (Jvm.Cond.code ({ cls := "FigureSurveyModel", name := "seen", desc := "(II)I" } : Jvm.MethodName) prog_18_method_18_code (3 : Nat) (Option.some Jvm.ClassFile.FieldType.int)) ∈ lw_all := lw_g (lw_at lw_m11 57 rfl) rfl
theorem q2531 : (Jvm.Cond.methodLink "FigureSurveyModel" (119 : Nat) ({ cls := "FigureSurveyModel", name := "times", desc := "(II)I" } : Jvm.MethodName)) ∈ lw_all := lw_g (lw_at lw_m11 58 rfl) rfl
theorem q2532 : (Jvm.Cond.privateMethod ({ cls := "FigureSurveyModel", name := "times", desc := "(II)I" } : Jvm.MethodName)) ∈ lw_tbl := lw_at lw_m11 59 rfl
theorem q2533 : (Jvm.Cond.instanceMethod ({ cls := "FigureSurveyModel", name := "times", desc := "(II)I" } : Jvm.MethodName)) ∈ lw_all := lw_g (lw_at lw_m11 60 rfl) rfl
theorem q2534 : (Jvm.Cond.code ({ cls := "FigureSurveyModel", name := "times", desc := "(II)I" } : Jvm.MethodName) prog_18_method_16_code (10 : Nat) (Option.some Jvm.ClassFile.FieldType.int)) ∈ lw_all := lw_g (lw_at lw_m11 61 rfl) rfl
theorem q2535 : (Jvm.Cond.methodLink "FigureSurveyModel" (114 : Nat) ({ cls := "java/lang/Math", name := "abs", desc := "(I)I" } : Jvm.MethodName)) ∈ lw_all := lw_g (lw_at lw_m11 62 rfl) rfl
theorem q2537 : (Jvm.Cond.instanceMethod ({ cls := "FigureSurveyModel", name := "edges", desc := "(II)J" } : Jvm.MethodName)) ∈ lw_all := lw_g (lw_at lw_m11 64 rfl) rfl
theorem q2538 : (Jvm.Cond.selects "FigureSurveyModel" ({ cls := "FigureSurveyModel", name := "edges", desc := "(II)J" } : Jvm.MethodName) ({ cls := "FigureSurveyModel", name := "edges", desc := "(II)J" } : Jvm.MethodName)) ∈ lw_all := lw_g (lw_at lw_m11 65 rfl) rfl
theorem q2539 : (Jvm.Cond.code ({ cls := "FigureSurveyModel", name := "edges", desc := "(II)J" } : Jvm.MethodName) prog_18_method_19_code (3 : Nat) (Option.some Jvm.ClassFile.FieldType.long)) ∈ lw_all := lw_g (lw_at lw_m11 66 rfl) rfl
theorem q2540 : (Jvm.Cond.methodLink "FigureSurveyModel" (123 : Nat) ({ cls := "FigureSurveyModel", name := "often", desc := "(II)J" } : Jvm.MethodName)) ∈ lw_all := lw_g (lw_at lw_m11 67 rfl) rfl
theorem q2541 : (Jvm.Cond.privateMethod ({ cls := "FigureSurveyModel", name := "often", desc := "(II)J" } : Jvm.MethodName)) ∈ lw_tbl := lw_at lw_m11 68 rfl
theorem q2542 : (Jvm.Cond.instanceMethod ({ cls := "FigureSurveyModel", name := "often", desc := "(II)J" } : Jvm.MethodName)) ∈ lw_all := lw_g (lw_at lw_m11 69 rfl) rfl
theorem q2543 : (Jvm.Cond.code ({ cls := "FigureSurveyModel", name := "often", desc := "(II)J" } : Jvm.MethodName) prog_18_method_17_code (6 : Nat) (Option.some Jvm.ClassFile.FieldType.long)) ∈ lw_all := lw_g (lw_at lw_m11 70 rfl) rfl
theorem q2545 : (Jvm.Cond.instanceMethod ({ cls := "FigureSurveyModel", name := "addStroke", desc := "(IJ)I" } : Jvm.MethodName)) ∈ lw_all := lw_g (lw_at lw_m11 72 rfl) rfl
theorem q2546 : (Jvm.Cond.selects "FigureSurveyModel" ({ cls := "FigureSurveyModel", name := "addStroke", desc := "(IJ)I" } : Jvm.MethodName) ({ cls := "FigureSurveyModel", name := "addStroke", desc := "(IJ)I" } : Jvm.MethodName)) ∈ lw_all := lw_g (lw_at lw_m11 73 rfl) rfl
theorem q2547 : (Jvm.Cond.code ({ cls := "FigureSurveyModel", name := "addStroke", desc := "(IJ)I" } : Jvm.MethodName) prog_18_method_20_code (4 : Nat) (Option.some Jvm.ClassFile.FieldType.int)) ∈ lw_all := lw_g (lw_at lw_m11 74 rfl) rfl
theorem q2549 : (Jvm.Cond.instanceMethod ({ cls := "FigureSurveyModel", name := "addFigure", desc := "(I)I" } : Jvm.MethodName)) ∈ lw_all := lw_g (lw_at lw_m11 76 rfl) rfl
theorem q2550 : (Jvm.Cond.selects "FigureSurveyModel" ({ cls := "FigureSurveyModel", name := "addFigure", desc := "(I)I" } : Jvm.MethodName) ({ cls := "FigureSurveyModel", name := "addFigure", desc := "(I)I" } : Jvm.MethodName)) ∈ lw_all := lw_g (lw_at lw_m11 77 rfl) rfl
theorem q2551 : (Jvm.Cond.code ({ cls := "FigureSurveyModel", name := "addFigure", desc := "(I)I" } : Jvm.MethodName) prog_18_method_21_code (4 : Nat) (Option.some Jvm.ClassFile.FieldType.int)) ∈ lw_all := lw_g (lw_at lw_m11 78 rfl) rfl
theorem q2552 : (Jvm.Cond.methodLink "FigureSurveyModel" (127 : Nat) ({ cls := "FigureSurveyModel", name := "panelOf", desc := "(I)I" } : Jvm.MethodName)) ∈ lw_all := lw_g (lw_at lw_m11 79 rfl) rfl
theorem q2553 : (Jvm.Cond.privateMethod ({ cls := "FigureSurveyModel", name := "panelOf", desc := "(I)I" } : Jvm.MethodName)) ∈ lw_tbl := lw_at lw_m11 80 rfl
theorem q2554 : (Jvm.Cond.instanceMethod ({ cls := "FigureSurveyModel", name := "panelOf", desc := "(I)I" } : Jvm.MethodName)) ∈ lw_all := lw_g (lw_at lw_m11 81 rfl) rfl
theorem q2555 : (Jvm.Cond.code ({ cls := "FigureSurveyModel", name := "panelOf", desc := "(I)I" } : Jvm.MethodName) prog_18_method_10_code (2 : Nat) (Option.some Jvm.ClassFile.FieldType.int)) ∈ lw_all := lw_g (lw_at lw_m11 82 rfl) rfl
theorem q2557 : (Jvm.Cond.instanceMethod ({ cls := "FigureSurveyModel", name := "setStroke", desc := "(IIZ)I" } : Jvm.MethodName)) ∈ lw_all := lw_g (lw_at lw_m11 84 rfl) rfl
theorem q2558 : (Jvm.Cond.selects "FigureSurveyModel" ({ cls := "FigureSurveyModel", name := "setStroke", desc := "(IIZ)I" } : Jvm.MethodName) ({ cls := "FigureSurveyModel", name := "setStroke", desc := "(IIZ)I" } : Jvm.MethodName)) ∈ lw_all := lw_g (lw_at lw_m11 85 rfl) rfl
theorem q2559 : (Jvm.Cond.code ({ cls := "FigureSurveyModel", name := "setStroke", desc := "(IIZ)I" } : Jvm.MethodName) prog_18_method_22_code (6 : Nat) (Option.some Jvm.ClassFile.FieldType.int)) ∈ lw_all := lw_g (lw_at lw_m11 86 rfl) rfl
theorem q2560 : (Jvm.Cond.methodLink "FigureSurveyModel" (130 : Nat) ({ cls := "FigureSurveyModel", name := "noFigure", desc := "(I)Z" } : Jvm.MethodName)) ∈ lw_all := lw_g (lw_at lw_m11 87 rfl) rfl
theorem q2561 : (Jvm.Cond.privateMethod ({ cls := "FigureSurveyModel", name := "noFigure", desc := "(I)Z" } : Jvm.MethodName)) ∈ lw_tbl := lw_at lw_m11 88 rfl
theorem q2562 : (Jvm.Cond.instanceMethod ({ cls := "FigureSurveyModel", name := "noFigure", desc := "(I)Z" } : Jvm.MethodName)) ∈ lw_all := lw_g (lw_at lw_m11 89 rfl) rfl
theorem q2563 : (Jvm.Cond.code ({ cls := "FigureSurveyModel", name := "noFigure", desc := "(I)Z" } : Jvm.MethodName) prog_18_method_7_code (2 : Nat) (Option.some Jvm.ClassFile.FieldType.boolean)) ∈ lw_all := lw_g (lw_at lw_m11 90 rfl) rfl
theorem q2564 : (Jvm.Cond.methodLink "FigureSurveyModel" (133 : Nat) ({ cls := "FigureSurveyModel", name := "noStroke", desc := "(I)Z" } : Jvm.MethodName)) ∈ lw_all := lw_g (lw_at lw_m11 91 rfl) rfl
theorem q2565 : (Jvm.Cond.privateMethod ({ cls := "FigureSurveyModel", name := "noStroke", desc := "(I)Z" } : Jvm.MethodName)) ∈ lw_tbl := lw_at lw_m11 92 rfl
theorem q2566 : (Jvm.Cond.instanceMethod ({ cls := "FigureSurveyModel", name := "noStroke", desc := "(I)Z" } : Jvm.MethodName)) ∈ lw_all := lw_g (lw_at lw_m11 93 rfl) rfl
theorem q2567 : (Jvm.Cond.code ({ cls := "FigureSurveyModel", name := "noStroke", desc := "(I)Z" } : Jvm.MethodName) prog_18_method_6_code (2 : Nat) (Option.some Jvm.ClassFile.FieldType.boolean)) ∈ lw_all := lw_g (lw_at lw_m11 94 rfl) rfl
theorem q2569 : (Jvm.Cond.instanceMethod ({ cls := "FigureSurveyModel", name := "cellsOf", desc := "(I)J" } : Jvm.MethodName)) ∈ lw_all := lw_g (lw_at lw_m11 96 rfl) rfl
theorem q2570 : (Jvm.Cond.selects "FigureSurveyModel" ({ cls := "FigureSurveyModel", name := "cellsOf", desc := "(I)J" } : Jvm.MethodName) ({ cls := "FigureSurveyModel", name := "cellsOf", desc := "(I)J" } : Jvm.MethodName)) ∈ lw_all := lw_g (lw_at lw_m11 97 rfl) rfl
theorem q2571 : (Jvm.Cond.code ({ cls := "FigureSurveyModel", name := "cellsOf", desc := "(I)J" } : Jvm.MethodName) prog_18_method_24_code (2 : Nat) (Option.some Jvm.ClassFile.FieldType.long)) ∈ lw_all := lw_g (lw_at lw_m11 98 rfl) rfl
theorem q2572 : (Jvm.Cond.methodLink "FigureSurveyModel" (138 : Nat) ({ cls := "FigureSurveyModel", name := "cells", desc := "(I)J" } : Jvm.MethodName)) ∈ lw_all := lw_g (lw_at lw_m11 99 rfl) rfl
theorem q2573 : (Jvm.Cond.privateMethod ({ cls := "FigureSurveyModel", name := "cells", desc := "(I)J" } : Jvm.MethodName)) ∈ lw_tbl := lw_at lw_m11 100 rfl
theorem q2574 : (Jvm.Cond.instanceMethod ({ cls := "FigureSurveyModel", name := "cells", desc := "(I)J" } : Jvm.MethodName)) ∈ lw_all := lw_g (lw_at lw_m11 101 rfl) rfl
theorem q2575 : (Jvm.Cond.code ({ cls := "FigureSurveyModel", name := "cells", desc := "(I)J" } : Jvm.MethodName) prog_18_method_23_code (5 : Nat) (Option.some Jvm.ClassFile.FieldType.long)) ∈ lw_all := lw_g (lw_at lw_m11 102 rfl) rfl
theorem q2576 : (Jvm.Cond.constantLong "FigureSurveyModel" (136 : Nat) (-1 : Int64)) ∈ lw_all := lw_g (lw_at lw_m11 103 rfl) rfl
theorem q2578 : (Jvm.Cond.instanceMethod ({ cls := "FigureSurveyModel", name := "foundShare", desc := "(I)I" } : Jvm.MethodName)) ∈ lw_all := lw_g (lw_at lw_m11 105 rfl) rfl
theorem q2579 : (Jvm.Cond.selects "FigureSurveyModel" ({ cls := "FigureSurveyModel", name := "foundShare", desc := "(I)I" } : Jvm.MethodName) ({ cls := "FigureSurveyModel", name := "foundShare", desc := "(I)I" } : Jvm.MethodName)) ∈ lw_all := lw_g (lw_at lw_m11 106 rfl) rfl
theorem q2580 : (Jvm.Cond.code ({ cls := "FigureSurveyModel", name := "foundShare", desc := "(I)I" } : Jvm.MethodName) prog_18_method_25_code (4 : Nat) (Option.some Jvm.ClassFile.FieldType.int)) ∈ lw_all := lw_g (lw_at lw_m11 107 rfl) rfl
theorem q2581 : (Jvm.Cond.methodLink "FigureSurveyModel" (142 : Nat) ({ cls := "java/lang/Long", name := "bitCount", desc := "(J)I" } : Jvm.MethodName)) ∈ lw_all := lw_g (lw_at lw_m11 108 rfl) rfl
theorem q2583 : (Jvm.Cond.instanceMethod ({ cls := "FigureSurveyModel", name := "sharedCells", desc := "(II)I" } : Jvm.MethodName)) ∈ lw_all := lw_g (lw_at lw_m11 110 rfl) rfl
theorem q2584 : (Jvm.Cond.selects "FigureSurveyModel" ({ cls := "FigureSurveyModel", name := "sharedCells", desc := "(II)I" } : Jvm.MethodName) ({ cls := "FigureSurveyModel", name := "sharedCells", desc := "(II)I" } : Jvm.MethodName)) ∈ lw_all := lw_g (lw_at lw_m11 111 rfl) rfl
theorem q2585 : (Jvm.Cond.code ({ cls := "FigureSurveyModel", name := "sharedCells", desc := "(II)I" } : Jvm.MethodName) prog_18_method_26_code (3 : Nat) (Option.some Jvm.ClassFile.FieldType.int)) ∈ lw_all := lw_g (lw_at lw_m11 112 rfl) rfl
theorem q2587 : (Jvm.Cond.instanceMethod ({ cls := "FigureSurveyModel", name := "harm", desc := "(IJ)I" } : Jvm.MethodName)) ∈ lw_all := lw_g (lw_at lw_m11 114 rfl) rfl
theorem q2588 : (Jvm.Cond.selects "FigureSurveyModel" ({ cls := "FigureSurveyModel", name := "harm", desc := "(IJ)I" } : Jvm.MethodName) ({ cls := "FigureSurveyModel", name := "harm", desc := "(IJ)I" } : Jvm.MethodName)) ∈ lw_all := lw_g (lw_at lw_m11 115 rfl) rfl
theorem q2589 : (Jvm.Cond.code ({ cls := "FigureSurveyModel", name := "harm", desc := "(IJ)I" } : Jvm.MethodName) prog_18_method_27_code (5 : Nat) (Option.some Jvm.ClassFile.FieldType.int)) ∈ lw_all := lw_g (lw_at lw_m11 116 rfl) rfl
theorem q2591 : (Jvm.Cond.instanceMethod ({ cls := "FigureSurveyModel", name := "cast", desc := "(I)I" } : Jvm.MethodName)) ∈ lw_all := lw_g (lw_at lw_m11 118 rfl) rfl
theorem q2592 : (Jvm.Cond.selects "FigureSurveyModel" ({ cls := "FigureSurveyModel", name := "cast", desc := "(I)I" } : Jvm.MethodName) ({ cls := "FigureSurveyModel", name := "cast", desc := "(I)I" } : Jvm.MethodName)) ∈ lw_all := lw_g (lw_at lw_m11 119 rfl) rfl
theorem q2593 : (Jvm.Cond.code ({ cls := "FigureSurveyModel", name := "cast", desc := "(I)I" } : Jvm.MethodName) prog_18_method_28_code (5 : Nat) (Option.some Jvm.ClassFile.FieldType.int)) ∈ lw_all := lw_g (lw_at lw_m11 120 rfl) rfl
theorem q2595 : (Jvm.Cond.instanceMethod ({ cls := "FigureSurveyModel", name := "trace", desc := "(IIJ)I" } : Jvm.MethodName)) ∈ lw_all := lw_g (lw_at lw_m11 122 rfl) rfl
theorem q2596 : (Jvm.Cond.selects "FigureSurveyModel" ({ cls := "FigureSurveyModel", name := "trace", desc := "(IIJ)I" } : Jvm.MethodName) ({ cls := "FigureSurveyModel", name := "trace", desc := "(IIJ)I" } : Jvm.MethodName)) ∈ lw_all := lw_g (lw_at lw_m11 123 rfl) rfl
theorem q2597 : (Jvm.Cond.code ({ cls := "FigureSurveyModel", name := "trace", desc := "(IIJ)I" } : Jvm.MethodName) prog_18_method_32_code (5 : Nat) (Option.some Jvm.ClassFile.FieldType.int)) ∈ lw_all := lw_g (lw_at lw_m11 124 rfl) rfl
theorem q2599 : (Jvm.Cond.instanceMethod ({ cls := "FigureSurveyModel", name := "shiftOf", desc := "(I)I" } : Jvm.MethodName)) ∈ lw_all := lw_g (lw_at lw_m11 126 rfl) rfl
theorem q2600 : (Jvm.Cond.selects "FigureSurveyModel" ({ cls := "FigureSurveyModel", name := "shiftOf", desc := "(I)I" } : Jvm.MethodName) ({ cls := "FigureSurveyModel", name := "shiftOf", desc := "(I)I" } : Jvm.MethodName)) ∈ lw_all := lw_g (lw_at lw_m11 127 rfl) rfl
theorem q2601 : (Jvm.Cond.code ({ cls := "FigureSurveyModel", name := "shiftOf", desc := "(I)I" } : Jvm.MethodName) prog_18_method_33_code (3 : Nat) (Option.some Jvm.ClassFile.FieldType.int)) ∈ lw_all := lw_g (lw_at lw_m11 128 rfl) rfl
theorem q2602 : (Jvm.Cond.methodLink "FigureSurveyModel" (155 : Nat) ({ cls := "FigureSurveyModel", name := "noTracing", desc := "(I)Z" } : Jvm.MethodName)) ∈ lw_all := lw_g (lw_at lw_m11 129 rfl) rfl
theorem q2603 : (Jvm.Cond.privateMethod ({ cls := "FigureSurveyModel", name := "noTracing", desc := "(I)Z" } : Jvm.MethodName)) ∈ lw_tbl := lw_at lw_m11 130 rfl
theorem q2604 : (Jvm.Cond.instanceMethod ({ cls := "FigureSurveyModel", name := "noTracing", desc := "(I)Z" } : Jvm.MethodName)) ∈ lw_all := lw_g (lw_at lw_m11 131 rfl) rfl
theorem q2605 : (Jvm.Cond.code ({ cls := "FigureSurveyModel", name := "noTracing", desc := "(I)Z" } : Jvm.MethodName) prog_18_method_8_code (2 : Nat) (Option.some Jvm.ClassFile.FieldType.boolean)) ∈ lw_all := lw_g (lw_at lw_m11 132 rfl) rfl
theorem q2606 : (Jvm.Cond.methodLink "FigureSurveyModel" (151 : Nat) ({ cls := "FigureSurveyModel", name := "aligned", desc := "(I)[I" } : Jvm.MethodName)) ∈ lw_all := lw_g (lw_at lw_m11 133 rfl) rfl
theorem q2607 : (Jvm.Cond.privateMethod ({ cls := "FigureSurveyModel", name := "aligned", desc := "(I)[I" } : Jvm.MethodName)) ∈ lw_tbl := lw_at lw_m11 134 rfl
theorem q2608 : (Jvm.Cond.instanceMethod ({ cls := "FigureSurveyModel", name := "aligned", desc := "(I)[I" } : Jvm.MethodName)) ∈ lw_all := lw_g (lw_at lw_m11 135 rfl) rfl
theorem q2609 : (Jvm.Cond.code ({ cls := "FigureSurveyModel", name := "aligned", desc := "(I)[I" } : Jvm.MethodName) prog_18_method_30_code (10 : Nat) (Option.some (Jvm.ClassFile.FieldType.array Jvm.ClassFile.FieldType.int))) ∈ lw_all := lw_g (lw_at lw_m11 136 rfl) rfl
theorem q2610 : (Jvm.Cond.methodLink "FigureSurveyModel" (147 : Nat) ({ cls := "FigureSurveyModel", name := "shifted", desc := "(JII)J" } : Jvm.MethodName)) ∈ lw_all := lw_g (lw_at lw_m11 137 rfl) rfl
theorem q2611 : (Jvm.Cond.static ({ cls := "FigureSurveyModel", name := "shifted", desc := "(JII)J" } : Jvm.MethodName)) ∈ lw_all := lw_g (lw_at lw_m11 138 rfl) rfl
theorem q2612 : (Jvm.Cond.code ({ cls := "FigureSurveyModel", name := "shifted", desc := "(JII)J" } : Jvm.MethodName) prog_18_method_29_code (9 : Nat) (Option.some Jvm.ClassFile.FieldType.long)) ∈ lw_all := lw_g (lw_at lw_m11 139 rfl) rfl
theorem q2614 : (Jvm.Cond.instanceMethod ({ cls := "FigureSurveyModel", name := "scoreOf", desc := "(I)I" } : Jvm.MethodName)) ∈ lw_all := lw_g (lw_at lw_m11 141 rfl) rfl
theorem q2615 : (Jvm.Cond.selects "FigureSurveyModel" ({ cls := "FigureSurveyModel", name := "scoreOf", desc := "(I)I" } : Jvm.MethodName) ({ cls := "FigureSurveyModel", name := "scoreOf", desc := "(I)I" } : Jvm.MethodName)) ∈ lw_all := lw_g (lw_at lw_m11 142 rfl) rfl
theorem q2616 : (Jvm.Cond.code ({ cls := "FigureSurveyModel", name := "scoreOf", desc := "(I)I" } : Jvm.MethodName) prog_18_method_34_code (2 : Nat) (Option.some Jvm.ClassFile.FieldType.int)) ∈ lw_all := lw_g (lw_at lw_m11 143 rfl) rfl
theorem q2617 : (Jvm.Cond.methodLink "FigureSurveyModel" (158 : Nat) ({ cls := "FigureSurveyModel", name := "score", desc := "(I)I" } : Jvm.MethodName)) ∈ lw_all := lw_g (lw_at lw_m11 144 rfl) rfl
theorem q2618 : (Jvm.Cond.privateMethod ({ cls := "FigureSurveyModel", name := "score", desc := "(I)I" } : Jvm.MethodName)) ∈ lw_tbl := lw_at lw_m11 145 rfl
theorem q2619 : (Jvm.Cond.instanceMethod ({ cls := "FigureSurveyModel", name := "score", desc := "(I)I" } : Jvm.MethodName)) ∈ lw_all := lw_g (lw_at lw_m11 146 rfl) rfl
theorem q2620 : (Jvm.Cond.code ({ cls := "FigureSurveyModel", name := "score", desc := "(I)I" } : Jvm.MethodName) prog_18_method_31_code (4 : Nat) (Option.some Jvm.ClassFile.FieldType.int)) ∈ lw_all := lw_g (lw_at lw_m11 147 rfl) rfl
theorem q2622 : (Jvm.Cond.instanceMethod ({ cls := "FigureSurveyModel", name := "handScore", desc := "(I)I" } : Jvm.MethodName)) ∈ lw_all := lw_g (lw_at lw_m11 149 rfl) rfl
theorem q2623 : (Jvm.Cond.selects "FigureSurveyModel" ({ cls := "FigureSurveyModel", name := "handScore", desc := "(I)I" } : Jvm.MethodName) ({ cls := "FigureSurveyModel", name := "handScore", desc := "(I)I" } : Jvm.MethodName)) ∈ lw_all := lw_g (lw_at lw_m11 150 rfl) rfl
theorem q2624 : (Jvm.Cond.code ({ cls := "FigureSurveyModel", name := "handScore", desc := "(I)I" } : Jvm.MethodName) prog_18_method_35_code (5 : Nat) (Option.some Jvm.ClassFile.FieldType.int)) ∈ lw_all := lw_g (lw_at lw_m11 151 rfl) rfl
theorem q2626 : (Jvm.Cond.instanceMethod ({ cls := "FigureSurveyModel", name := "consensus", desc := "(I)J" } : Jvm.MethodName)) ∈ lw_all := lw_g (lw_at lw_m11 153 rfl) rfl
theorem q2627 : (Jvm.Cond.selects "FigureSurveyModel" ({ cls := "FigureSurveyModel", name := "consensus", desc := "(I)J" } : Jvm.MethodName) ({ cls := "FigureSurveyModel", name := "consensus", desc := "(I)J" } : Jvm.MethodName)) ∈ lw_all := lw_g (lw_at lw_m11 154 rfl) rfl
theorem q2628 : (Jvm.Cond.code ({ cls := "FigureSurveyModel", name := "consensus", desc := "(I)J" } : Jvm.MethodName) prog_18_method_36_code (9 : Nat) (Option.some Jvm.ClassFile.FieldType.long)) ∈ lw_all := lw_g (lw_at lw_m11 155 rfl) rfl
theorem q2630 : (Jvm.Cond.instanceMethod ({ cls := "FigureSurveyModel", name := "mark", desc := "(II)I" } : Jvm.MethodName)) ∈ lw_all := lw_g (lw_at lw_m11 157 rfl) rfl
theorem q2631 : (Jvm.Cond.selects "FigureSurveyModel" ({ cls := "FigureSurveyModel", name := "mark", desc := "(II)I" } : Jvm.MethodName) ({ cls := "FigureSurveyModel", name := "mark", desc := "(II)I" } : Jvm.MethodName)) ∈ lw_all := lw_g (lw_at lw_m11 158 rfl) rfl
theorem q2632 : (Jvm.Cond.code ({ cls := "FigureSurveyModel", name := "mark", desc := "(II)I" } : Jvm.MethodName) prog_18_method_38_code (3 : Nat) (Option.some Jvm.ClassFile.FieldType.int)) ∈ lw_all := lw_g (lw_at lw_m11 159 rfl) rfl
theorem q2633 : (Jvm.Cond.methodLink "FigureSurveyModel" (161 : Nat) ({ cls := "FigureSurveyModel", name := "doubt", desc := "(I)I" } : Jvm.MethodName)) ∈ lw_all := lw_g (lw_at lw_m11 160 rfl) rfl
theorem q2634 : (Jvm.Cond.privateMethod ({ cls := "FigureSurveyModel", name := "doubt", desc := "(I)I" } : Jvm.MethodName)) ∈ lw_tbl := lw_at lw_m11 161 rfl
theorem q2635 : (Jvm.Cond.instanceMethod ({ cls := "FigureSurveyModel", name := "doubt", desc := "(I)I" } : Jvm.MethodName)) ∈ lw_all := lw_g (lw_at lw_m11 162 rfl) rfl
theorem q2636 : (Jvm.Cond.code ({ cls := "FigureSurveyModel", name := "doubt", desc := "(I)I" } : Jvm.MethodName) prog_18_method_37_code (5 : Nat) (Option.some Jvm.ClassFile.FieldType.int)) ∈ lw_all := lw_g (lw_at lw_m11 163 rfl) rfl
theorem q2638 : (Jvm.Cond.instanceMethod ({ cls := "FigureSurveyModel", name := "clearMarks", desc := "(I)I" } : Jvm.MethodName)) ∈ lw_all := lw_g (lw_at lw_m11 165 rfl) rfl
theorem q2639 : (Jvm.Cond.selects "FigureSurveyModel" ({ cls := "FigureSurveyModel", name := "clearMarks", desc := "(I)I" } : Jvm.MethodName) ({ cls := "FigureSurveyModel", name := "clearMarks", desc := "(I)I" } : Jvm.MethodName)) ∈ lw_all := lw_g (lw_at lw_m11 166 rfl) rfl
theorem q2640 : (Jvm.Cond.code ({ cls := "FigureSurveyModel", name := "clearMarks", desc := "(I)I" } : Jvm.MethodName) prog_18_method_39_code (3 : Nat) (Option.some Jvm.ClassFile.FieldType.int)) ∈ lw_all := lw_g (lw_at lw_m11 167 rfl) rfl
theorem q2642 : (Jvm.Cond.instanceMethod ({ cls := "FigureSurveyModel", name := "doubtOf", desc := "(I)I" } : Jvm.MethodName)) ∈ lw_all := lw_g (lw_at lw_m11 169 rfl) rfl
theorem q2643 : (Jvm.Cond.selects "FigureSurveyModel" ({ cls := "FigureSurveyModel", name := "doubtOf", desc := "(I)I" } : Jvm.MethodName) ({ cls := "FigureSurveyModel", name := "doubtOf", desc := "(I)I" } : Jvm.MethodName)) ∈ lw_all := lw_g (lw_at lw_m11 170 rfl) rfl
theorem q2644 : (Jvm.Cond.code ({ cls := "FigureSurveyModel", name := "doubtOf", desc := "(I)I" } : Jvm.MethodName) prog_18_method_40_code (2 : Nat) (Option.some Jvm.ClassFile.FieldType.int)) ∈ lw_all := lw_g (lw_at lw_m11 171 rfl) rfl
theorem q2646 : (Jvm.Cond.instanceMethod ({ cls := "FigureSurveyModel", name := "setWeapon", desc := "(II)I" } : Jvm.MethodName)) ∈ lw_all := lw_g (lw_at lw_m11 173 rfl) rfl
theorem q2647 : (Jvm.Cond.selects "FigureSurveyModel" ({ cls := "FigureSurveyModel", name := "setWeapon", desc := "(II)I" } : Jvm.MethodName) ({ cls := "FigureSurveyModel", name := "setWeapon", desc := "(II)I" } : Jvm.MethodName)) ∈ lw_all := lw_g (lw_at lw_m11 174 rfl) rfl
theorem q2648 : (Jvm.Cond.code ({ cls := "FigureSurveyModel", name := "setWeapon", desc := "(II)I" } : Jvm.MethodName) prog_18_method_41_code (4 : Nat) (Option.some Jvm.ClassFile.FieldType.int)) ∈ lw_all := lw_g (lw_at lw_m11 175 rfl) rfl
theorem q2650 : (Jvm.Cond.instanceMethod ({ cls := "FigureSurveyModel", name := "setAnimal", desc := "(II)I" } : Jvm.MethodName)) ∈ lw_all := lw_g (lw_at lw_m11 177 rfl) rfl
theorem q2651 : (Jvm.Cond.selects "FigureSurveyModel" ({ cls := "FigureSurveyModel", name := "setAnimal", desc := "(II)I" } : Jvm.MethodName) ({ cls := "FigureSurveyModel", name := "setAnimal", desc := "(II)I" } : Jvm.MethodName)) ∈ lw_all := lw_g (lw_at lw_m11 178 rfl) rfl
theorem q2652 : (Jvm.Cond.code ({ cls := "FigureSurveyModel", name := "setAnimal", desc := "(II)I" } : Jvm.MethodName) prog_18_method_42_code (4 : Nat) (Option.some Jvm.ClassFile.FieldType.int)) ∈ lw_all := lw_g (lw_at lw_m11 179 rfl) rfl
theorem q2654 : (Jvm.Cond.instanceMethod ({ cls := "FigureSurveyModel", name := "findOver", desc := "(III)I" } : Jvm.MethodName)) ∈ lw_all := lw_g (lw_at lw_m11 181 rfl) rfl
theorem q2655 : (Jvm.Cond.selects "FigureSurveyModel" ({ cls := "FigureSurveyModel", name := "findOver", desc := "(III)I" } : Jvm.MethodName) ({ cls := "FigureSurveyModel", name := "findOver", desc := "(III)I" } : Jvm.MethodName)) ∈ lw_all := lw_g (lw_at lw_m11 182 rfl) rfl
theorem q2656 : (Jvm.Cond.code ({ cls := "FigureSurveyModel", name := "findOver", desc := "(III)I" } : Jvm.MethodName) prog_18_method_45_code (4 : Nat) (Option.some Jvm.ClassFile.FieldType.int)) ∈ lw_all := lw_g (lw_at lw_m11 183 rfl) rfl
theorem q2657 : (Jvm.Cond.methodLink "FigureSurveyModel" (167 : Nat) ({ cls := "FigureSurveyModel", name := "many", desc := "(II)I" } : Jvm.MethodName)) ∈ lw_all := lw_g (lw_at lw_m11 184 rfl) rfl
theorem q2658 : (Jvm.Cond.privateMethod ({ cls := "FigureSurveyModel", name := "many", desc := "(II)I" } : Jvm.MethodName)) ∈ lw_tbl := lw_at lw_m11 185 rfl
theorem q2659 : (Jvm.Cond.instanceMethod ({ cls := "FigureSurveyModel", name := "many", desc := "(II)I" } : Jvm.MethodName)) ∈ lw_all := lw_g (lw_at lw_m11 186 rfl) rfl
theorem q2660 : (Jvm.Cond.code ({ cls := "FigureSurveyModel", name := "many", desc := "(II)I" } : Jvm.MethodName) prog_18_method_43_code (6 : Nat) (Option.some Jvm.ClassFile.FieldType.int)) ∈ lw_all := lw_g (lw_at lw_m11 187 rfl) rfl
theorem q2661 : (Jvm.Cond.methodLink "FigureSurveyModel" (164 : Nat) ({ cls := "java/lang/Math", name := "min", desc := "(II)I" } : Jvm.MethodName)) ∈ lw_all := lw_g (lw_at lw_m11 188 rfl) rfl
theorem q2662 : (Jvm.Cond.methodLink "FigureSurveyModel" (170 : Nat) ({ cls := "FigureSurveyModel", name := "find", desc := "(IIII)I" } : Jvm.MethodName)) ∈ lw_all := lw_g (lw_at lw_m11 189 rfl) rfl
theorem q2663 : (Jvm.Cond.privateMethod ({ cls := "FigureSurveyModel", name := "find", desc := "(IIII)I" } : Jvm.MethodName)) ∈ lw_tbl := lw_at lw_m11 190 rfl
theorem q2664 : (Jvm.Cond.instanceMethod ({ cls := "FigureSurveyModel", name := "find", desc := "(IIII)I" } : Jvm.MethodName)) ∈ lw_all := lw_g (lw_at lw_m11 191 rfl) rfl
theorem q2665 : (Jvm.Cond.code ({ cls := "FigureSurveyModel", name := "find", desc := "(IIII)I" } : Jvm.MethodName) prog_18_method_44_code (5 : Nat) (Option.some Jvm.ClassFile.FieldType.int)) ∈ lw_all := lw_g (lw_at lw_m11 192 rfl) rfl
theorem q2667 : (Jvm.Cond.instanceMethod ({ cls := "FigureSurveyModel", name := "findDate", desc := "(IIII)I" } : Jvm.MethodName)) ∈ lw_all := lw_g (lw_at lw_m11 194 rfl) rfl
theorem q2668 : (Jvm.Cond.selects "FigureSurveyModel" ({ cls := "FigureSurveyModel", name := "findDate", desc := "(IIII)I" } : Jvm.MethodName) ({ cls := "FigureSurveyModel", name := "findDate", desc := "(IIII)I" } : Jvm.MethodName)) ∈ lw_all := lw_g (lw_at lw_m11 195 rfl) rfl
theorem q2669 : (Jvm.Cond.code ({ cls := "FigureSurveyModel", name := "findDate", desc := "(IIII)I" } : Jvm.MethodName) prog_18_method_46_code (5 : Nat) (Option.some Jvm.ClassFile.FieldType.int)) ∈ lw_all := lw_g (lw_at lw_m11 196 rfl) rfl
theorem q2671 : (Jvm.Cond.instanceMethod ({ cls := "FigureSurveyModel", name := "remove", desc := "(I)I" } : Jvm.MethodName)) ∈ lw_all := lw_g (lw_at lw_m11 198 rfl) rfl
theorem q2672 : (Jvm.Cond.selects "FigureSurveyModel" ({ cls := "FigureSurveyModel", name := "remove", desc := "(I)I" } : Jvm.MethodName) ({ cls := "FigureSurveyModel", name := "remove", desc := "(I)I" } : Jvm.MethodName)) ∈ lw_all := lw_g (lw_at lw_m11 199 rfl) rfl
theorem q2673 : (Jvm.Cond.code ({ cls := "FigureSurveyModel", name := "remove", desc := "(I)I" } : Jvm.MethodName) prog_18_method_47_code (2 : Nat) (Option.some Jvm.ClassFile.FieldType.int)) ∈ lw_all := lw_g (lw_at lw_m11 200 rfl) rfl
theorem q2674 : (Jvm.Cond.methodLink "FigureSurveyModel" (174 : Nat) ({ cls := "FigureSurveyModel", name := "noFinding", desc := "(I)Z" } : Jvm.MethodName)) ∈ lw_all := lw_g (lw_at lw_m11 201 rfl) rfl
theorem q2675 : (Jvm.Cond.privateMethod ({ cls := "FigureSurveyModel", name := "noFinding", desc := "(I)Z" } : Jvm.MethodName)) ∈ lw_tbl := lw_at lw_m11 202 rfl
theorem q2676 : (Jvm.Cond.instanceMethod ({ cls := "FigureSurveyModel", name := "noFinding", desc := "(I)Z" } : Jvm.MethodName)) ∈ lw_all := lw_g (lw_at lw_m11 203 rfl) rfl
theorem q2677 : (Jvm.Cond.code ({ cls := "FigureSurveyModel", name := "noFinding", desc := "(I)Z" } : Jvm.MethodName) prog_18_method_9_code (2 : Nat) (Option.some Jvm.ClassFile.FieldType.boolean)) ∈ lw_all := lw_g (lw_at lw_m11 204 rfl) rfl
theorem q2679 : (Jvm.Cond.instanceMethod ({ cls := "FigureSurveyModel", name := "standOf", desc := "(I)I" } : Jvm.MethodName)) ∈ lw_all := lw_g (lw_at lw_m11 206 rfl) rfl
theorem q2680 : (Jvm.Cond.selects "FigureSurveyModel" ({ cls := "FigureSurveyModel", name := "standOf", desc := "(I)I" } : Jvm.MethodName) ({ cls := "FigureSurveyModel", name := "standOf", desc := "(I)I" } : Jvm.MethodName)) ∈ lw_all := lw_g (lw_at lw_m11 207 rfl) rfl
theorem q2681 : (Jvm.Cond.code ({ cls := "FigureSurveyModel", name := "standOf", desc := "(I)I" } : Jvm.MethodName) prog_18_method_50_code (2 : Nat) (Option.some Jvm.ClassFile.FieldType.int)) ∈ lw_all := lw_g (lw_at lw_m11 208 rfl) rfl
theorem q2682 : (Jvm.Cond.classLink "FigureSurveyModel" (178 : Nat) "FigureSurveyModel$Found") ∈ lw_all := lw_g (lw_at lw_m11 209 rfl) rfl
theorem q2684 : (Jvm.Cond.methodLink "FigureSurveyModel" (196 : Nat) ({ cls := "FigureSurveyModel$Found", name := "<init>", desc := "(LFigureSurveyModel;I)V" } : Jvm.MethodName)) ∈ lw_all := lw_g (lw_at lw_m11 211 rfl) rfl
theorem q2725 : (Jvm.Cond.fieldLink "FigureSurveyModel" (206 : Nat) "FigureSurveyModel$Found" "genuine" "[I") ∈ lw_all := lw_g (lw_at lw_m12 12 rfl) rfl
theorem q2727 : (Jvm.Cond.fieldLink "FigureSurveyModel" (203 : Nat) "FigureSurveyModel$Found" "order" "[I") ∈ lw_all := lw_g (lw_at lw_m12 14 rfl) rfl
theorem q2731 : (Jvm.Cond.fieldLink "FigureSurveyModel" (189 : Nat) "FigureSurveyModel$Found" "counts" "[Z") ∈ lw_all := lw_g (lw_at lw_m12 18 rfl) rfl
theorem q2733 : (Jvm.Cond.fieldLink "FigureSurveyModel" (193 : Nat) "FigureSurveyModel$Found" "broken" "[Z") ∈ lw_all := lw_g (lw_at lw_m12 20 rfl) rfl
theorem q2735 : (Jvm.Cond.fieldLink "FigureSurveyModel" (213 : Nat) "FigureSurveyModel$Found" "above" "[[Z") ∈ lw_all := lw_g (lw_at lw_m12 22 rfl) rfl
theorem q2754 : (Jvm.Cond.methodLink "FigureSurveyModel" (199 : Nat) ({ cls := "FigureSurveyModel", name := "stand", desc := "(LFigureSurveyModel$Found;I)I" } : Jvm.MethodName)) ∈ lw_all := lw_g (lw_at lw_m12 41 rfl) rfl
theorem q2755 : (Jvm.Cond.privateMethod ({ cls := "FigureSurveyModel", name := "stand", desc := "(LFigureSurveyModel$Found;I)I" } : Jvm.MethodName)) ∈ lw_tbl := lw_at lw_m12 42 rfl
theorem q2756 : (Jvm.Cond.instanceMethod ({ cls := "FigureSurveyModel", name := "stand", desc := "(LFigureSurveyModel$Found;I)I" } : Jvm.MethodName)) ∈ lw_all := lw_g (lw_at lw_m12 43 rfl) rfl
theorem q2757 : (Jvm.Cond.code ({ cls := "FigureSurveyModel", name := "stand", desc := "(LFigureSurveyModel$Found;I)I" } : Jvm.MethodName) prog_18_method_49_code (3 : Nat) (Option.some Jvm.ClassFile.FieldType.int)) ∈ lw_all := lw_g (lw_at lw_m12 44 rfl) rfl
theorem q2759 : (Jvm.Cond.instanceMethod ({ cls := "FigureSurveyModel", name := "orderAt", desc := "(II)I" } : Jvm.MethodName)) ∈ lw_all := lw_g (lw_at lw_m12 46 rfl) rfl
theorem q2760 : (Jvm.Cond.selects "FigureSurveyModel" ({ cls := "FigureSurveyModel", name := "orderAt", desc := "(II)I" } : Jvm.MethodName) ({ cls := "FigureSurveyModel", name := "orderAt", desc := "(II)I" } : Jvm.MethodName)) ∈ lw_all := lw_g (lw_at lw_m12 47 rfl) rfl
theorem q2761 : (Jvm.Cond.code ({ cls := "FigureSurveyModel", name := "orderAt", desc := "(II)I" } : Jvm.MethodName) prog_18_method_51_code (4 : Nat) (Option.some Jvm.ClassFile.FieldType.int)) ∈ lw_all := lw_g (lw_at lw_m12 48 rfl) rfl
theorem q2763 : (Jvm.Cond.instanceMethod ({ cls := "FigureSurveyModel", name := "brokenWeight", desc := "(I)I" } : Jvm.MethodName)) ∈ lw_all := lw_g (lw_at lw_m12 50 rfl) rfl
theorem q2764 : (Jvm.Cond.selects "FigureSurveyModel" ({ cls := "FigureSurveyModel", name := "brokenWeight", desc := "(I)I" } : Jvm.MethodName) ({ cls := "FigureSurveyModel", name := "brokenWeight", desc := "(I)I" } : Jvm.MethodName)) ∈ lw_all := lw_g (lw_at lw_m12 51 rfl) rfl
theorem q2765 : (Jvm.Cond.code ({ cls := "FigureSurveyModel", name := "brokenWeight", desc := "(I)I" } : Jvm.MethodName) prog_18_method_53_code (2 : Nat) (Option.some Jvm.ClassFile.FieldType.int)) ∈ lw_all := lw_g (lw_at lw_m12 52 rfl) rfl
theorem q2766 : (Jvm.Cond.methodLink "FigureSurveyModel" (209 : Nat) ({ cls := "FigureSurveyModel", name := "weight", desc := "(LFigureSurveyModel$Found;)I" } : Jvm.MethodName)) ∈ lw_all := lw_g (lw_at lw_m12 53 rfl) rfl
theorem q2767 : (Jvm.Cond.privateMethod ({ cls := "FigureSurveyModel", name := "weight", desc := "(LFigureSurveyModel$Found;)I" } : Jvm.MethodName)) ∈ lw_tbl := lw_at lw_m12 54 rfl
theorem q2768 : (Jvm.Cond.instanceMethod ({ cls := "FigureSurveyModel", name := "weight", desc := "(LFigureSurveyModel$Found;)I" } : Jvm.MethodName)) ∈ lw_all := lw_g (lw_at lw_m12 55 rfl) rfl
theorem q2769 : (Jvm.Cond.code ({ cls := "FigureSurveyModel", name := "weight", desc := "(LFigureSurveyModel$Found;)I" } : Jvm.MethodName) prog_18_method_52_code (4 : Nat) (Option.some Jvm.ClassFile.FieldType.int)) ∈ lw_all := lw_g (lw_at lw_m12 56 rfl) rfl
theorem q2771 : (Jvm.Cond.instanceMethod ({ cls := "FigureSurveyModel", name := "isAbove", desc := "(II)Z" } : Jvm.MethodName)) ∈ lw_all := lw_g (lw_at lw_m12 58 rfl) rfl
theorem q2772 : (Jvm.Cond.selects "FigureSurveyModel" ({ cls := "FigureSurveyModel", name := "isAbove", desc := "(II)Z" } : Jvm.MethodName) ({ cls := "FigureSurveyModel", name := "isAbove", desc := "(II)Z" } : Jvm.MethodName)) ∈ lw_all := lw_g (lw_at lw_m12 59 rfl) rfl
theorem q2773 : (Jvm.Cond.code ({ cls := "FigureSurveyModel", name := "isAbove", desc := "(II)Z" } : Jvm.MethodName) prog_18_method_54_code (6 : Nat) (Option.some Jvm.ClassFile.FieldType.boolean)) ∈ lw_all := lw_g (lw_at lw_m12 60 rfl) rfl
theorem q2774 : (Jvm.Cond.methodLink "FigureSurveyModel" (177 : Nat) ({ cls := "FigureSurveyModel$Found", name := "place", desc := "(I)I" } : Jvm.MethodName)) ∈ lw_all := lw_g (lw_at lw_m12 61 rfl) rfl
theorem q2776 : (Jvm.Cond.instanceMethod ({ cls := "FigureSurveyModel", name := "earliest", desc := "(I)I" } : Jvm.MethodName)) ∈ lw_all := lw_g (lw_at lw_m12 63 rfl) rfl
theorem q2777 : (Jvm.Cond.selects "FigureSurveyModel" ({ cls := "FigureSurveyModel", name := "earliest", desc := "(I)I" } : Jvm.MethodName) ({ cls := "FigureSurveyModel", name := "earliest", desc := "(I)I" } : Jvm.MethodName)) ∈ lw_all := lw_g (lw_at lw_m12 64 rfl) rfl
theorem q2778 : (Jvm.Cond.code ({ cls := "FigureSurveyModel", name := "earliest", desc := "(I)I" } : Jvm.MethodName) prog_18_method_55_code (2 : Nat) (Option.some Jvm.ClassFile.FieldType.int)) ∈ lw_all := lw_g (lw_at lw_m12 65 rfl) rfl
theorem q2779 : (Jvm.Cond.methodLink "FigureSurveyModel" (216 : Nat) ({ cls := "FigureSurveyModel", name := "yearOf", desc := "(LFigureSurveyModel$Found;IZ)I" } : Jvm.MethodName)) ∈ lw_all := lw_g (lw_at lw_m12 66 rfl) rfl
theorem q2780 : (Jvm.Cond.privateMethod ({ cls := "FigureSurveyModel", name := "yearOf", desc := "(LFigureSurveyModel$Found;IZ)I" } : Jvm.MethodName)) ∈ lw_tbl := lw_at lw_m12 67 rfl
theorem q2781 : (Jvm.Cond.instanceMethod ({ cls := "FigureSurveyModel", name := "yearOf", desc := "(LFigureSurveyModel$Found;IZ)I" } : Jvm.MethodName)) ∈ lw_all := lw_g (lw_at lw_m12 68 rfl) rfl
theorem q2782 : (Jvm.Cond.code ({ cls := "FigureSurveyModel", name := "yearOf", desc := "(LFigureSurveyModel$Found;IZ)I" } : Jvm.MethodName) prog_18_method_48_code (5 : Nat) (Option.some Jvm.ClassFile.FieldType.int)) ∈ lw_all := lw_g (lw_at lw_m12 69 rfl) rfl
theorem q2783 : (Jvm.Cond.methodLink "FigureSurveyModel" (182 : Nat) ({ cls := "FigureSurveyModel$Found", name := "reason", desc := "(IZ)I" } : Jvm.MethodName)) ∈ lw_all := lw_g (lw_at lw_m12 70 rfl) rfl
theorem q2787 : (Jvm.Cond.methodLink "FigureSurveyModel" (186 : Nat) ({ cls := "FigureSurveyModel$Found", name := "bound", desc := "(I)I" } : Jvm.MethodName)) ∈ lw_all := lw_g (lw_at lw_m12 74 rfl) rfl
theorem q2789 : (Jvm.Cond.instanceMethod ({ cls := "FigureSurveyModel", name := "latest", desc := "(I)I" } : Jvm.MethodName)) ∈ lw_all := lw_g (lw_at lw_m12 76 rfl) rfl
theorem q2790 : (Jvm.Cond.selects "FigureSurveyModel" ({ cls := "FigureSurveyModel", name := "latest", desc := "(I)I" } : Jvm.MethodName) ({ cls := "FigureSurveyModel", name := "latest", desc := "(I)I" } : Jvm.MethodName)) ∈ lw_all := lw_g (lw_at lw_m12 77 rfl) rfl
theorem q2791 : (Jvm.Cond.code ({ cls := "FigureSurveyModel", name := "latest", desc := "(I)I" } : Jvm.MethodName) prog_18_method_56_code (2 : Nat) (Option.some Jvm.ClassFile.FieldType.int)) ∈ lw_all := lw_g (lw_at lw_m12 78 rfl) rfl
theorem q2793 : (Jvm.Cond.instanceMethod ({ cls := "FigureSurveyModel", name := "reasonFor", desc := "(IZ)I" } : Jvm.MethodName)) ∈ lw_all := lw_g (lw_at lw_m12 80 rfl) rfl
theorem q2794 : (Jvm.Cond.selects "FigureSurveyModel" ({ cls := "FigureSurveyModel", name := "reasonFor", desc := "(IZ)I" } : Jvm.MethodName) ({ cls := "FigureSurveyModel", name := "reasonFor", desc := "(IZ)I" } : Jvm.MethodName)) ∈ lw_all := lw_g (lw_at lw_m12 81 rfl) rfl
theorem q2795 : (Jvm.Cond.code ({ cls := "FigureSurveyModel", name := "reasonFor", desc := "(IZ)I" } : Jvm.MethodName) prog_18_method_57_code (4 : Nat) (Option.some Jvm.ClassFile.FieldType.int)) ∈ lw_all := lw_g (lw_at lw_m12 82 rfl) rfl
theorem q2797 : (Jvm.Cond.instanceMethod ({ cls := "FigureSurveyModel", name := "setFeatures", desc := "(II)I" } : Jvm.MethodName)) ∈ lw_all := lw_g (lw_at lw_m12 84 rfl) rfl
theorem q2798 : (Jvm.Cond.selects "FigureSurveyModel" ({ cls := "FigureSurveyModel", name := "setFeatures", desc := "(II)I" } : Jvm.MethodName) ({ cls := "FigureSurveyModel", name := "setFeatures", desc := "(II)I" } : Jvm.MethodName)) ∈ lw_all := lw_g (lw_at lw_m12 85 rfl) rfl
theorem q2799 : (Jvm.Cond.code ({ cls := "FigureSurveyModel", name := "setFeatures", desc := "(II)I" } : Jvm.MethodName) prog_18_method_60_code (3 : Nat) (Option.some Jvm.ClassFile.FieldType.int)) ∈ lw_all := lw_g (lw_at lw_m12 86 rfl) rfl
theorem q2800 : (Jvm.Cond.constant "FigureSurveyModel" (226 : Nat) (999999 : Int32)) ∈ lw_all := lw_g (lw_at lw_m12 87 rfl) rfl
theorem q2801 : (Jvm.Cond.methodLink "FigureSurveyModel" (227 : Nat) ({ cls := "FigureSurveyModel", name := "style", desc := "(I)I" } : Jvm.MethodName)) ∈ lw_all := lw_g (lw_at lw_m12 88 rfl) rfl
theorem q2802 : (Jvm.Cond.privateMethod ({ cls := "FigureSurveyModel", name := "style", desc := "(I)I" } : Jvm.MethodName)) ∈ lw_tbl := lw_at lw_m12 89 rfl
theorem q2803 : (Jvm.Cond.instanceMethod ({ cls := "FigureSurveyModel", name := "style", desc := "(I)I" } : Jvm.MethodName)) ∈ lw_all := lw_g (lw_at lw_m12 90 rfl) rfl
theorem q2804 : (Jvm.Cond.code ({ cls := "FigureSurveyModel", name := "style", desc := "(I)I" } : Jvm.MethodName) prog_18_method_59_code (5 : Nat) (Option.some Jvm.ClassFile.FieldType.int)) ∈ lw_all := lw_g (lw_at lw_m12 91 rfl) rfl
theorem q2805 : (Jvm.Cond.classLink "FigureSurveyModel" (110 : Nat) "java/lang/Integer") ∈ lw_all := lw_g (lw_at lw_m12 92 rfl) rfl
theorem q2806 : (Jvm.Cond.methodLink "FigureSurveyModel" (220 : Nat) ({ cls := "java/lang/Integer", name := "intValue", desc := "()I" } : Jvm.MethodName)) ∈ lw_all := lw_g (lw_at lw_m12 93 rfl) rfl
theorem q2807 : (Jvm.Cond.methodLink "FigureSurveyModel" (223 : Nat) ({ cls := "FigureSurveyModel", name := "distance", desc := "(II)I" } : Jvm.MethodName)) ∈ lw_all := lw_g (lw_at lw_m12 94 rfl) rfl
theorem q2808 : (Jvm.Cond.static ({ cls := "FigureSurveyModel", name := "distance", desc := "(II)I" } : Jvm.MethodName)) ∈ lw_all := lw_g (lw_at lw_m12 95 rfl) rfl
theorem q2809 : (Jvm.Cond.code ({ cls := "FigureSurveyModel", name := "distance", desc := "(II)I" } : Jvm.MethodName) prog_18_method_58_code (6 : Nat) (Option.some Jvm.ClassFile.FieldType.int)) ∈ lw_all := lw_g (lw_at lw_m12 96 rfl) rfl
theorem q2811 : (Jvm.Cond.instanceMethod ({ cls := "FigureSurveyModel", name := "addStyle", desc := "(I)I" } : Jvm.MethodName)) ∈ lw_all := lw_g (lw_at lw_m12 98 rfl) rfl
theorem q2812 : (Jvm.Cond.selects "FigureSurveyModel" ({ cls := "FigureSurveyModel", name := "addStyle", desc := "(I)I" } : Jvm.MethodName) ({ cls := "FigureSurveyModel", name := "addStyle", desc := "(I)I" } : Jvm.MethodName)) ∈ lw_all := lw_g (lw_at lw_m12 99 rfl) rfl
theorem q2813 : (Jvm.Cond.code ({ cls := "FigureSurveyModel", name := "addStyle", desc := "(I)I" } : Jvm.MethodName) prog_18_method_61_code (2 : Nat) (Option.some Jvm.ClassFile.FieldType.int)) ∈ lw_all := lw_g (lw_at lw_m12 100 rfl) rfl
theorem q2814 : (Jvm.Cond.methodLink "FigureSurveyModel" (230 : Nat) ({ cls := "java/lang/Integer", name := "valueOf", desc := "(I)Ljava/lang/Integer;" } : Jvm.MethodName)) ∈ lw_all := lw_g (lw_at lw_m12 101 rfl) rfl
theorem q2816 : (Jvm.Cond.instanceMethod ({ cls := "FigureSurveyModel", name := "styleOf", desc := "(I)I" } : Jvm.MethodName)) ∈ lw_all := lw_g (lw_at lw_m12 103 rfl) rfl
theorem q2817 : (Jvm.Cond.selects "FigureSurveyModel" ({ cls := "FigureSurveyModel", name := "styleOf", desc := "(I)I" } : Jvm.MethodName) ({ cls := "FigureSurveyModel", name := "styleOf", desc := "(I)I" } : Jvm.MethodName)) ∈ lw_all := lw_g (lw_at lw_m12 104 rfl) rfl
theorem q2818 : (Jvm.Cond.code ({ cls := "FigureSurveyModel", name := "styleOf", desc := "(I)I" } : Jvm.MethodName) prog_18_method_62_code (2 : Nat) (Option.some Jvm.ClassFile.FieldType.int)) ∈ lw_all := lw_g (lw_at lw_m12 105 rfl) rfl
theorem q2820 : (Jvm.Cond.instanceMethod ({ cls := "FigureSurveyModel", name := "addEntry", desc := "(II)I" } : Jvm.MethodName)) ∈ lw_all := lw_g (lw_at lw_m12 107 rfl) rfl
theorem q2821 : (Jvm.Cond.selects "FigureSurveyModel" ({ cls := "FigureSurveyModel", name := "addEntry", desc := "(II)I" } : Jvm.MethodName) ({ cls := "FigureSurveyModel", name := "addEntry", desc := "(II)I" } : Jvm.MethodName)) ∈ lw_all := lw_g (lw_at lw_m12 108 rfl) rfl
theorem q2822 : (Jvm.Cond.code ({ cls := "FigureSurveyModel", name := "addEntry", desc := "(II)I" } : Jvm.MethodName) prog_18_method_63_code (5 : Nat) (Option.some Jvm.ClassFile.FieldType.int)) ∈ lw_all := lw_g (lw_at lw_m12 109 rfl) rfl
theorem q2824 : (Jvm.Cond.instanceMethod ({ cls := "FigureSurveyModel", name := "figureFor", desc := "(I)I" } : Jvm.MethodName)) ∈ lw_all := lw_g (lw_at lw_m12 111 rfl) rfl
theorem q2825 : (Jvm.Cond.selects "FigureSurveyModel" ({ cls := "FigureSurveyModel", name := "figureFor", desc := "(I)I" } : Jvm.MethodName) ({ cls := "FigureSurveyModel", name := "figureFor", desc := "(I)I" } : Jvm.MethodName)) ∈ lw_all := lw_g (lw_at lw_m12 112 rfl) rfl
theorem q2826 : (Jvm.Cond.code ({ cls := "FigureSurveyModel", name := "figureFor", desc := "(I)I" } : Jvm.MethodName) prog_18_method_64_code (14 : Nat) (Option.some Jvm.ClassFile.FieldType.int)) ∈ lw_all := lw_g (lw_at lw_m12 113 rfl) rfl
theorem q2827 : (Jvm.Cond.methodLink "FigureSurveyModel" (234 : Nat) ({ cls := "java/lang/Math", name := "max", desc := "(II)I" } : Jvm.MethodName)) ∈ lw_all := lw_g (lw_at lw_m12 114 rfl) rfl
theorem q2828 : (Jvm.Cond.constant "FigureSurveyModel" (237 : Nat) (1000000 : Int32)) ∈ lw_all := lw_g (lw_at lw_m12 115 rfl) rfl
theorem q2829 : (Jvm.Cond.classLink "FigureSurveyModel" (238 : Nat) "[[I") ∈ lw_all := lw_g (lw_at lw_m12 116 rfl) rfl
theorem q2831 : (Jvm.Cond.instanceMethod ({ cls := "FigureSurveyModel", name := "tellName", desc := "(IIII)I" } : Jvm.MethodName)) ∈ lw_all := lw_g (lw_at lw_m12 118 rfl) rfl
theorem q2832 : (Jvm.Cond.selects "FigureSurveyModel" ({ cls := "FigureSurveyModel", name := "tellName", desc := "(IIII)I" } : Jvm.MethodName) ({ cls := "FigureSurveyModel", name := "tellName", desc := "(IIII)I" } : Jvm.MethodName)) ∈ lw_all := lw_g (lw_at lw_m12 119 rfl) rfl
theorem q2833 : (Jvm.Cond.code ({ cls := "FigureSurveyModel", name := "tellName", desc := "(IIII)I" } : Jvm.MethodName) prog_18_method_65_code (7 : Nat) (Option.some Jvm.ClassFile.FieldType.int)) ∈ lw_all := lw_g (lw_at lw_m12 120 rfl) rfl
theorem q2835 : (Jvm.Cond.instanceMethod ({ cls := "FigureSurveyModel", name := "nameFor", desc := "(III)I" } : Jvm.MethodName)) ∈ lw_all := lw_g (lw_at lw_m12 122 rfl) rfl
theorem q2836 : (Jvm.Cond.selects "FigureSurveyModel" ({ cls := "FigureSurveyModel", name := "nameFor", desc := "(III)I" } : Jvm.MethodName) ({ cls := "FigureSurveyModel", name := "nameFor", desc := "(III)I" } : Jvm.MethodName)) ∈ lw_all := lw_g (lw_at lw_m12 123 rfl) rfl
theorem q2837 : (Jvm.Cond.code ({ cls := "FigureSurveyModel", name := "nameFor", desc := "(III)I" } : Jvm.MethodName) prog_18_method_66_code (7 : Nat) (Option.some Jvm.ClassFile.FieldType.int)) ∈ lw_all := lw_g (lw_at lw_m12 124 rfl) rfl
theorem q2839 : (Jvm.Cond.instanceMethod ({ cls := "FigureSurveyModel", name := "setRight", desc := "(IIZ)Z" } : Jvm.MethodName)) ∈ lw_all := lw_g (lw_at lw_m12 126 rfl) rfl
theorem q2840 : (Jvm.Cond.selects "FigureSurveyModel" ({ cls := "FigureSurveyModel", name := "setRight", desc := "(IIZ)Z" } : Jvm.MethodName) ({ cls := "FigureSurveyModel", name := "setRight", desc := "(IIZ)Z" } : Jvm.MethodName)) ∈ lw_all := lw_g (lw_at lw_m12 127 rfl) rfl
theorem q2841 : (Jvm.Cond.code ({ cls := "FigureSurveyModel", name := "setRight", desc := "(IIZ)Z" } : Jvm.MethodName) prog_18_method_67_code (6 : Nat) (Option.some Jvm.ClassFile.FieldType.boolean)) ∈ lw_all := lw_g (lw_at lw_m12 128 rfl) rfl
theorem q2843 : (Jvm.Cond.instanceMethod ({ cls := "FigureSurveyModel", name := "repaint", desc := "(II)I" } : Jvm.MethodName)) ∈ lw_all := lw_g (lw_at lw_m12 130 rfl) rfl
theorem q2844 : (Jvm.Cond.selects "FigureSurveyModel" ({ cls := "FigureSurveyModel", name := "repaint", desc := "(II)I" } : Jvm.MethodName) ({ cls := "FigureSurveyModel", name := "repaint", desc := "(II)I" } : Jvm.MethodName)) ∈ lw_all := lw_g (lw_at lw_m12 131 rfl) rfl
theorem q2845 : (Jvm.Cond.code ({ cls := "FigureSurveyModel", name := "repaint", desc := "(II)I" } : Jvm.MethodName) prog_18_method_68_code (7 : Nat) (Option.some Jvm.ClassFile.FieldType.int)) ∈ lw_all := lw_g (lw_at lw_m12 132 rfl) rfl
theorem q2847 : (Jvm.Cond.instanceMethod ({ cls := "FigureSurveyModel", name := "passYears", desc := "(I)I" } : Jvm.MethodName)) ∈ lw_all := lw_g (lw_at lw_m12 134 rfl) rfl
theorem q2848 : (Jvm.Cond.selects "FigureSurveyModel" ({ cls := "FigureSurveyModel", name := "passYears", desc := "(I)I" } : Jvm.MethodName) ({ cls := "FigureSurveyModel", name := "passYears", desc := "(I)I" } : Jvm.MethodName)) ∈ lw_all := lw_g (lw_at lw_m12 135 rfl) rfl
theorem q2849 : (Jvm.Cond.code ({ cls := "FigureSurveyModel", name := "passYears", desc := "(I)I" } : Jvm.MethodName) prog_18_method_70_code (4 : Nat) (Option.some Jvm.ClassFile.FieldType.int)) ∈ lw_all := lw_g (lw_at lw_m12 136 rfl) rfl
theorem q2850 : (Jvm.Cond.methodLink "FigureSurveyModel" (240 : Nat) ({ cls := "FigureSurveyModel", name := "decay", desc := "(I)I" } : Jvm.MethodName)) ∈ lw_all := lw_g (lw_at lw_m12 137 rfl) rfl
theorem q2851 : (Jvm.Cond.privateMethod ({ cls := "FigureSurveyModel", name := "decay", desc := "(I)I" } : Jvm.MethodName)) ∈ lw_tbl := lw_at lw_m12 138 rfl
theorem q2852 : (Jvm.Cond.instanceMethod ({ cls := "FigureSurveyModel", name := "decay", desc := "(I)I" } : Jvm.MethodName)) ∈ lw_all := lw_g (lw_at lw_m12 139 rfl) rfl
theorem q2853 : (Jvm.Cond.code ({ cls := "FigureSurveyModel", name := "decay", desc := "(I)I" } : Jvm.MethodName) prog_18_method_69_code (3 : Nat) (Option.some Jvm.ClassFile.FieldType.int)) ∈ lw_all := lw_g (lw_at lw_m12 140 rfl) rfl
theorem q2855 : (Jvm.Cond.instanceMethod ({ cls := "FigureSurveyModel", name := "setDecay", desc := "(IIII)I" } : Jvm.MethodName)) ∈ lw_all := lw_g (lw_at lw_m12 142 rfl) rfl
theorem q2856 : (Jvm.Cond.selects "FigureSurveyModel" ({ cls := "FigureSurveyModel", name := "setDecay", desc := "(IIII)I" } : Jvm.MethodName) ({ cls := "FigureSurveyModel", name := "setDecay", desc := "(IIII)I" } : Jvm.MethodName)) ∈ lw_all := lw_g (lw_at lw_m12 143 rfl) rfl
theorem q2857 : (Jvm.Cond.code ({ cls := "FigureSurveyModel", name := "setDecay", desc := "(IIII)I" } : Jvm.MethodName) prog_18_method_71_code (5 : Nat) (Option.some Jvm.ClassFile.FieldType.int)) ∈ lw_all := lw_g (lw_at lw_m12 144 rfl) rfl
theorem q2859 : (Jvm.Cond.instanceMethod ({ cls := "FigureSurveyModel", name := "healthOf", desc := "(I)I" } : Jvm.MethodName)) ∈ lw_all := lw_g (lw_at lw_m12 146 rfl) rfl
theorem q2860 : (Jvm.Cond.selects "FigureSurveyModel" ({ cls := "FigureSurveyModel", name := "healthOf", desc := "(I)I" } : Jvm.MethodName) ({ cls := "FigureSurveyModel", name := "healthOf", desc := "(I)I" } : Jvm.MethodName)) ∈ lw_all := lw_g (lw_at lw_m12 147 rfl) rfl
theorem q2861 : (Jvm.Cond.code ({ cls := "FigureSurveyModel", name := "healthOf", desc := "(I)I" } : Jvm.MethodName) prog_18_method_72_code (2 : Nat) (Option.some Jvm.ClassFile.FieldType.int)) ∈ lw_all := lw_g (lw_at lw_m12 148 rfl) rfl
theorem q2863 : (Jvm.Cond.instanceMethod ({ cls := "FigureSurveyModel", name := "addWork", desc := "(III)I" } : Jvm.MethodName)) ∈ lw_all := lw_g (lw_at lw_m12 150 rfl) rfl
theorem q2864 : (Jvm.Cond.selects "FigureSurveyModel" ({ cls := "FigureSurveyModel", name := "addWork", desc := "(III)I" } : Jvm.MethodName) ({ cls := "FigureSurveyModel", name := "addWork", desc := "(III)I" } : Jvm.MethodName)) ∈ lw_all := lw_g (lw_at lw_m12 151 rfl) rfl
theorem q2865 : (Jvm.Cond.code ({ cls := "FigureSurveyModel", name := "addWork", desc := "(III)I" } : Jvm.MethodName) prog_18_method_73_code (4 : Nat) (Option.some Jvm.ClassFile.FieldType.int)) ∈ lw_all := lw_g (lw_at lw_m12 152 rfl) rfl
theorem q2867 : (Jvm.Cond.instanceMethod ({ cls := "FigureSurveyModel", name := "worksFor", desc := "(I)I" } : Jvm.MethodName)) ∈ lw_all := lw_g (lw_at lw_m12 154 rfl) rfl
theorem q2868 : (Jvm.Cond.selects "FigureSurveyModel" ({ cls := "FigureSurveyModel", name := "worksFor", desc := "(I)I" } : Jvm.MethodName) ({ cls := "FigureSurveyModel", name := "worksFor", desc := "(I)I" } : Jvm.MethodName)) ∈ lw_all := lw_g (lw_at lw_m12 155 rfl) rfl
theorem q2869 : (Jvm.Cond.code ({ cls := "FigureSurveyModel", name := "worksFor", desc := "(I)I" } : Jvm.MethodName) prog_18_method_76_code (2 : Nat) (Option.some Jvm.ClassFile.FieldType.int)) ∈ lw_all := lw_g (lw_at lw_m12 156 rfl) rfl
theorem q2870 : (Jvm.Cond.methodLink "FigureSurveyModel" (246 : Nat) ({ cls := "FigureSurveyModel", name := "bestWorks", desc := "(I)I" } : Jvm.MethodName)) ∈ lw_all := lw_g (lw_at lw_m12 157 rfl) rfl
theorem q2871 : (Jvm.Cond.privateMethod ({ cls := "FigureSurveyModel", name := "bestWorks", desc := "(I)I" } : Jvm.MethodName)) ∈ lw_tbl := lw_at lw_m12 158 rfl
theorem q2872 : (Jvm.Cond.instanceMethod ({ cls := "FigureSurveyModel", name := "bestWorks", desc := "(I)I" } : Jvm.MethodName)) ∈ lw_all := lw_g (lw_at lw_m12 159 rfl) rfl
theorem q2873 : (Jvm.Cond.code ({ cls := "FigureSurveyModel", name := "bestWorks", desc := "(I)I" } : Jvm.MethodName) prog_18_method_75_code (11 : Nat) (Option.some Jvm.ClassFile.FieldType.int)) ∈ lw_all := lw_g (lw_at lw_m12 160 rfl) rfl
theorem q2874 : (Jvm.Cond.methodLink "FigureSurveyModel" (243 : Nat) ({ cls := "FigureSurveyModel", name := "genuineOn", desc := "(I)I" } : Jvm.MethodName)) ∈ lw_all := lw_g (lw_at lw_m12 161 rfl) rfl
theorem q2875 : (Jvm.Cond.privateMethod ({ cls := "FigureSurveyModel", name := "genuineOn", desc := "(I)I" } : Jvm.MethodName)) ∈ lw_tbl := lw_at lw_m12 162 rfl
theorem q2876 : (Jvm.Cond.instanceMethod ({ cls := "FigureSurveyModel", name := "genuineOn", desc := "(I)I" } : Jvm.MethodName)) ∈ lw_all := lw_g (lw_at lw_m12 163 rfl) rfl
theorem q2877 : (Jvm.Cond.code ({ cls := "FigureSurveyModel", name := "genuineOn", desc := "(I)I" } : Jvm.MethodName) prog_18_method_74_code (4 : Nat) (Option.some Jvm.ClassFile.FieldType.int)) ∈ lw_all := lw_g (lw_at lw_m12 164 rfl) rfl
theorem q2879 : (Jvm.Cond.instanceMethod ({ cls := "FigureSurveyModel", name := "doWorks", desc := "(I)I" } : Jvm.MethodName)) ∈ lw_all := lw_g (lw_at lw_m12 166 rfl) rfl
theorem q2880 : (Jvm.Cond.selects "FigureSurveyModel" ({ cls := "FigureSurveyModel", name := "doWorks", desc := "(I)I" } : Jvm.MethodName) ({ cls := "FigureSurveyModel", name := "doWorks", desc := "(I)I" } : Jvm.MethodName)) ∈ lw_all := lw_g (lw_at lw_m12 167 rfl) rfl
theorem q2881 : (Jvm.Cond.code ({ cls := "FigureSurveyModel", name := "doWorks", desc := "(I)I" } : Jvm.MethodName) prog_18_method_77_code (6 : Nat) (Option.some Jvm.ClassFile.FieldType.int)) ∈ lw_all := lw_g (lw_at lw_m12 168 rfl) rfl
theorem q2883 : (Jvm.Cond.instanceMethod ({ cls := "FigureSurveyModel", name := "setLoad", desc := "(II)I" } : Jvm.MethodName)) ∈ lw_all := lw_g (lw_at lw_m12 170 rfl) rfl
theorem q2884 : (Jvm.Cond.selects "FigureSurveyModel" ({ cls := "FigureSurveyModel", name := "setLoad", desc := "(II)I" } : Jvm.MethodName) ({ cls := "FigureSurveyModel", name := "setLoad", desc := "(II)I" } : Jvm.MethodName)) ∈ lw_all := lw_g (lw_at lw_m12 171 rfl) rfl
theorem q2885 : (Jvm.Cond.code ({ cls := "FigureSurveyModel", name := "setLoad", desc := "(II)I" } : Jvm.MethodName) prog_18_method_78_code (4 : Nat) (Option.some Jvm.ClassFile.FieldType.int)) ∈ lw_all := lw_g (lw_at lw_m12 172 rfl) rfl
theorem q2887 : (Jvm.Cond.instanceMethod ({ cls := "FigureSurveyModel", name := "tour", desc := "(II)I" } : Jvm.MethodName)) ∈ lw_all := lw_g (lw_at lw_m12 174 rfl) rfl
theorem q2888 : (Jvm.Cond.selects "FigureSurveyModel" ({ cls := "FigureSurveyModel", name := "tour", desc := "(II)I" } : Jvm.MethodName) ({ cls := "FigureSurveyModel", name := "tour", desc := "(II)I" } : Jvm.MethodName)) ∈ lw_all := lw_g (lw_at lw_m12 175 rfl) rfl
theorem q2889 : (Jvm.Cond.code ({ cls := "FigureSurveyModel", name := "tour", desc := "(II)I" } : Jvm.MethodName) prog_18_method_79_code (4 : Nat) (Option.some Jvm.ClassFile.FieldType.int)) ∈ lw_all := lw_g (lw_at lw_m12 176 rfl) rfl
theorem q2891 : (Jvm.Cond.instanceMethod ({ cls := "FigureSurveyModel", name := "tellDam", desc := "(II)I" } : Jvm.MethodName)) ∈ lw_all := lw_g (lw_at lw_m12 178 rfl) rfl
theorem q2892 : (Jvm.Cond.selects "FigureSurveyModel" ({ cls := "FigureSurveyModel", name := "tellDam", desc := "(II)I" } : Jvm.MethodName) ({ cls := "FigureSurveyModel", name := "tellDam", desc := "(II)I" } : Jvm.MethodName)) ∈ lw_all := lw_g (lw_at lw_m12 179 rfl) rfl
theorem q2893 : (Jvm.Cond.code ({ cls := "FigureSurveyModel", name := "tellDam", desc := "(II)I" } : Jvm.MethodName) prog_18_method_80_code (5 : Nat) (Option.some Jvm.ClassFile.FieldType.int)) ∈ lw_all := lw_g (lw_at lw_m12 180 rfl) rfl
theorem q2895 : (Jvm.Cond.instanceMethod ({ cls := "FigureSurveyModel", name := "isDrowned", desc := "(I)Z" } : Jvm.MethodName)) ∈ lw_all := lw_g (lw_at lw_m12 182 rfl) rfl
theorem q2896 : (Jvm.Cond.selects "FigureSurveyModel" ({ cls := "FigureSurveyModel", name := "isDrowned", desc := "(I)Z" } : Jvm.MethodName) ({ cls := "FigureSurveyModel", name := "isDrowned", desc := "(I)Z" } : Jvm.MethodName)) ∈ lw_all := lw_g (lw_at lw_m12 183 rfl) rfl
theorem q2897 : (Jvm.Cond.code ({ cls := "FigureSurveyModel", name := "isDrowned", desc := "(I)Z" } : Jvm.MethodName) prog_18_method_81_code (2 : Nat) (Option.some Jvm.ClassFile.FieldType.boolean)) ∈ lw_all := lw_g (lw_at lw_m12 184 rfl) rfl
theorem q2899 : (Jvm.Cond.instanceMethod ({ cls := "FigureSurveyModel", name := "recordFirst", desc := "()I" } : Jvm.MethodName)) ∈ lw_all := lw_g (lw_at lw_m12 186 rfl) rfl
theorem q2900 : (Jvm.Cond.selects "FigureSurveyModel" ({ cls := "FigureSurveyModel", name := "recordFirst", desc := "()I" } : Jvm.MethodName) ({ cls := "FigureSurveyModel", name := "recordFirst", desc := "()I" } : Jvm.MethodName)) ∈ lw_all := lw_g (lw_at lw_m12 187 rfl) rfl
theorem q2901 : (Jvm.Cond.code ({ cls := "FigureSurveyModel", name := "recordFirst", desc := "()I" } : Jvm.MethodName) prog_18_method_82_code (4 : Nat) (Option.some Jvm.ClassFile.FieldType.int)) ∈ lw_all := lw_g (lw_at lw_m12 188 rfl) rfl
theorem q2903 : (Jvm.Cond.instanceMethod ({ cls := "FigureSurveyModel", name := "errors", desc := "()I" } : Jvm.MethodName)) ∈ lw_all := lw_g (lw_at lw_m12 190 rfl) rfl
theorem q2904 : (Jvm.Cond.selects "FigureSurveyModel" ({ cls := "FigureSurveyModel", name := "errors", desc := "()I" } : Jvm.MethodName) ({ cls := "FigureSurveyModel", name := "errors", desc := "()I" } : Jvm.MethodName)) ∈ lw_all := lw_g (lw_at lw_m12 191 rfl) rfl
theorem q2905 : (Jvm.Cond.code ({ cls := "FigureSurveyModel", name := "errors", desc := "()I" } : Jvm.MethodName) prog_18_method_84_code (6 : Nat) (Option.some Jvm.ClassFile.FieldType.int)) ∈ lw_all := lw_g (lw_at lw_m12 192 rfl) rfl
theorem q2906 : (Jvm.Cond.methodLink "FigureSurveyModel" (253 : Nat) ({ cls := "FigureSurveyModel", name := "tried", desc := "(LFigureSurveyModel$Found;I)I" } : Jvm.MethodName)) ∈ lw_all := lw_g (lw_at lw_m12 193 rfl) rfl
theorem q2907 : (Jvm.Cond.privateMethod ({ cls := "FigureSurveyModel", name := "tried", desc := "(LFigureSurveyModel$Found;I)I" } : Jvm.MethodName)) ∈ lw_tbl := lw_at lw_m12 194 rfl
theorem q2908 : (Jvm.Cond.instanceMethod ({ cls := "FigureSurveyModel", name := "tried", desc := "(LFigureSurveyModel$Found;I)I" } : Jvm.MethodName)) ∈ lw_all := lw_g (lw_at lw_m12 195 rfl) rfl
theorem q2909 : (Jvm.Cond.code ({ cls := "FigureSurveyModel", name := "tried", desc := "(LFigureSurveyModel$Found;I)I" } : Jvm.MethodName) prog_18_method_83_code (6 : Nat) (Option.some Jvm.ClassFile.FieldType.int)) ∈ lw_all := lw_g (lw_at lw_m12 196 rfl) rfl
theorem q2910 : (Jvm.Cond.constant "FigureSurveyModel" (249 : Nat) (2147483647 : Int32)) ∈ lw_all := lw_g (lw_at lw_m12 197 rfl) rfl
theorem q2911 : (Jvm.Cond.methodLink "FigureSurveyModel" (250 : Nat) ({ cls := "FigureSurveyModel$Found", name := "cost", desc := "(II)I" } : Jvm.MethodName)) ∈ lw_all := lw_g (lw_at lw_m12 198 rfl) rfl
theorem q2913 : (Jvm.Cond.instanceMethod ({ cls := "FigureSurveyModel", name := "meanSpan", desc := "()D" } : Jvm.MethodName)) ∈ lw_all := lw_g (lw_at lw_m12 200 rfl) rfl
theorem q2914 : (Jvm.Cond.selects "FigureSurveyModel" ({ cls := "FigureSurveyModel", name := "meanSpan", desc := "()D" } : Jvm.MethodName) ({ cls := "FigureSurveyModel", name := "meanSpan", desc := "()D" } : Jvm.MethodName)) ∈ lw_all := lw_g (lw_at lw_m12 201 rfl) rfl
theorem q2915 : (Jvm.Cond.code ({ cls := "FigureSurveyModel", name := "meanSpan", desc := "()D" } : Jvm.MethodName) prog_18_method_85_code (6 : Nat) (Option.some Jvm.ClassFile.FieldType.double)) ∈ lw_all := lw_g (lw_at lw_m12 202 rfl) rfl
theorem q2917 : (Jvm.Cond.instanceMethod ({ cls := "FigureSurveyModel", name := "heldShare", desc := "()F" } : Jvm.MethodName)) ∈ lw_all := lw_g (lw_at lw_m12 204 rfl) rfl
theorem q2918 : (Jvm.Cond.selects "FigureSurveyModel" ({ cls := "FigureSurveyModel", name := "heldShare", desc := "()F" } : Jvm.MethodName) ({ cls := "FigureSurveyModel", name := "heldShare", desc := "()F" } : Jvm.MethodName)) ∈ lw_all := lw_g (lw_at lw_m12 205 rfl) rfl
theorem q2919 : (Jvm.Cond.code ({ cls := "FigureSurveyModel", name := "heldShare", desc := "()F" } : Jvm.MethodName) prog_18_method_86_code (6 : Nat) (Option.some Jvm.ClassFile.FieldType.float)) ∈ lw_all := lw_g (lw_at lw_m12 206 rfl) rfl
theorem q2929 : (Jvm.Cond.castable "FigureSurveyModel" "java/lang/Object") ∈ lw_tbl := lw_at lw_m12 216 rfl
theorem in_X2 : ∀ w ∈ wsX20, w ∈ lw_all := lw_in wsX20 [2445, 2447, 2449, 2451, 2453, 2455, 2457, 2459, 2461, 2463, 2465, 2467, 2469, 2471, 2473, 2475, 2477, 2479, 2481, 2483] (by decide +kernel) (by decide +kernel)
