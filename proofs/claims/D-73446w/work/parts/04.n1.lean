/-! SchemeLister -/
set_option maxRecDepth 100000
def RX1 : String := "SchemeLister"
def TX1 : u_T := fun k => match k with
  | 0 => ("SchemeLister", "listed", "Ljava/util/ArrayList;", true)
  | 1 => ("SchemeLister", "listPoints", "I", false)
  | 2 => ("SchemeLister", "listLines", "I", false)
  | 3 => ("SchemeLister", "now", "LSchemeLister$Scheme;", true)
  | 4 => ("SchemeLister", "tried", "LSchemeLister$Scheme;", true)
  | 5 => ("SchemeLister", "imageNow", "LSchemeLister$Scheme;", true)
  | 6 => ("SchemeLister", "shelves", "[LSchemeLister$Scheme;", true)
  | 7 => ("SchemeLister", "imageShelves", "[LSchemeLister$Scheme;", true)
  | 8 => ("SchemeLister", "acts", "Ljava/util/ArrayList;", true)
  | 9 => ("SchemeLister", "imageActs", "Ljava/util/ArrayList;", true)
  | 10 => ("SchemeLister", "refused", "[I", true)
  | 11 => ("SchemeLister", "imageRefused", "[I", true)
  | 12 => ("SchemeLister", "hasImage", "Z", false)
  | 13 => ("SchemeLister", "tape", "[B", true)
  | 14 => ("SchemeLister", "taped", "I", false)
  | 15 => ("SchemeLister", "faultPlace", "I", false)
  | 16 => ("SchemeLister", "orbit", "[I", true)
  | 17 => ("SchemeLister", "lineFor", "[I", true)
  | 18 => ("SchemeLister", "dualities", "I", false)
  | 19 => ("SchemeLister", "polarities", "I", false)
  | 20 => ("SchemeLister", "shortest", "I", false)
  | 21 => ("SchemeLister", "placeX", "[I", true)
  | 22 => ("SchemeLister", "placeY", "[I", true)
  | 23 => ("SchemeLister", "placeZ", "[I", true)
  | 24 => ("SchemeLister", "lies", "[I", true)
  | 25 => ("SchemeLister", "firstLies", "[I", true)
  | 26 => ("SchemeLister", "worth", "[I", true)
  | _ => ("SchemeLister", "its", "I", false)
def tyX1 : Nat → FieldType := fun k => match k with
  | 0 => .object "java/util/ArrayList"
  | 1 => .int
  | 2 => .int
  | 3 => .object "SchemeLister$Scheme"
  | 4 => .object "SchemeLister$Scheme"
  | 5 => .object "SchemeLister$Scheme"
  | 6 => .array (.object "SchemeLister$Scheme")
  | 7 => .array (.object "SchemeLister$Scheme")
  | 8 => .object "java/util/ArrayList"
  | 9 => .object "java/util/ArrayList"
  | 10 => .array .int
  | 11 => .array .int
  | 12 => .boolean
  | 13 => .array .byte
  | 14 => .int
  | 15 => .int
  | 16 => .array .int
  | 17 => .array .int
  | 18 => .int
  | 19 => .int
  | 20 => .int
  | 21 => .array .int
  | 22 => .array .int
  | 23 => .array .int
  | 24 => .array .int
  | 25 => .array .int
  | 26 => .array .int
  | _ => .int
abbrev wsX10 : List Cond := u_ws RX1 TX1 28
set_option maxRecDepth 100000 in
theorem nmX1 : ∀ a, a < 28 → ∀ b, b < 28 → a ≠ b → (TX1 a).2.1 ≠ (TX1 b).2.1 := by decide +kernel
set_option maxRecDepth 100000 in
theorem tyX1_ok : ∀ k, k < 28 → parseFieldDescriptor (TX1 k).2.2.1 = some (tyX1 k) := by decide +kernel
abbrev cX1_init : ByteArray := prog_1_method_9_code
def yX1_init : MethodName := ⟨RX1, "<init>", "()V"⟩
def dkwX1_init_8 : List UInt8 := [188, 10, 181, 0, 183, 42, 180, 0, 124, 3, 181, 0, 7, 177]
abbrev dktX1_init_8 : List UInt8 := dkwX1_init_8 ++ []
def dkwX1_init_7 : List UInt8 := [188, 10, 181, 0, 173, 42, 16, 8, 188, 10, 181, 0, 176, 42, 16, 8, 188, 10, 181, 0, 179, 42, 18, 182]
abbrev dktX1_init_7 : List UInt8 := dkwX1_init_7 ++ dktX1_init_8
def dkwX1_init_6 : List UInt8 := [188, 10, 181, 0, 164, 42, 16, 16, 188, 10, 181, 0, 167, 42, 16, 16, 188, 10, 181, 0, 170, 42, 16, 16]
abbrev dktX1_init_6 : List UInt8 := dkwX1_init_6 ++ dktX1_init_7
def dkwX1_init_5 : List UInt8 := [17, 1, 144, 188, 8, 181, 0, 154, 42, 2, 181, 0, 158, 42, 16, 8, 188, 10, 181, 0, 161, 42, 16, 8]
abbrev dktX1_init_5 : List UInt8 := dkwX1_init_5 ++ dktX1_init_6
def dkwX1_init_4 : List UInt8 := [16, 40, 183, 0, 141, 181, 0, 145, 42, 5, 188, 10, 181, 0, 148, 42, 5, 188, 10, 181, 0, 151, 42]
abbrev dktX1_init_4 : List UInt8 := dkwX1_init_4 ++ dktX1_init_5
def dkwX1_init_3 : List UInt8 := [189, 0, 2, 181, 0, 138, 42, 187, 0, 65, 89, 16, 40, 183, 0, 141, 181, 0, 142, 42, 187, 0, 65, 89]
abbrev dktX1_init_3 : List UInt8 := dkwX1_init_3 ++ dktX1_init_4
def dkwX1_init_2 : List UInt8 := [181, 0, 128, 42, 187, 0, 2, 89, 183, 0, 123, 181, 0, 131, 42, 7, 189, 0, 2, 181, 0, 134, 42, 7]
abbrev dktX1_init_2 : List UInt8 := dkwX1_init_2 ++ dktX1_init_3
def dkwX1_init_1 : List UInt8 := [181, 0, 99, 42, 187, 0, 2, 89, 183, 0, 123, 181, 0, 124, 42, 187, 0, 2, 89, 183, 0, 123]
abbrev dktX1_init_1 : List UInt8 := dkwX1_init_1 ++ dktX1_init_2
def dkwX1_init_0 : List UInt8 := [42, 183, 0, 118, 42, 187, 0, 65, 89, 183, 0, 122, 181, 0, 60, 42, 2, 181, 0, 96, 42, 2]
abbrev dktX1_init_0 : List UInt8 := dkwX1_init_0 ++ dktX1_init_1
theorem dksX1_init_0 : cX1_init.data.toList.drop 0 = dktX1_init_0 := by decide +kernel
theorem dksX1_init_1 : cX1_init.data.toList.drop 22 = dktX1_init_1 := dk_seg dksX1_init_0 22 rfl rfl
theorem dksX1_init_2 : cX1_init.data.toList.drop 44 = dktX1_init_2 := dk_seg dksX1_init_1 22 rfl rfl
theorem dksX1_init_3 : cX1_init.data.toList.drop 68 = dktX1_init_3 := dk_seg dksX1_init_2 24 rfl rfl
theorem dksX1_init_4 : cX1_init.data.toList.drop 92 = dktX1_init_4 := dk_seg dksX1_init_3 24 rfl rfl
theorem dksX1_init_5 : cX1_init.data.toList.drop 115 = dktX1_init_5 := dk_seg dksX1_init_4 23 rfl rfl
theorem dksX1_init_6 : cX1_init.data.toList.drop 139 = dktX1_init_6 := dk_seg dksX1_init_5 24 rfl rfl
theorem dksX1_init_7 : cX1_init.data.toList.drop 163 = dktX1_init_7 := dk_seg dksX1_init_6 24 rfl rfl
theorem dksX1_init_8 : cX1_init.data.toList.drop 187 = dktX1_init_8 := dk_seg dksX1_init_7 24 rfl rfl
theorem dX1_init_0 : decode cX1_init 0 = .ok (.aload_n 0, 1) := dk_42 (dk_at dksX1_init_0 0 rfl rfl)
theorem dX1_init_1 : decode cX1_init 1 = .ok (.invokespecial 118, 3) := dk_183 0 118 (dk_at dksX1_init_0 1 rfl rfl)
theorem dX1_init_4 : decode cX1_init 4 = .ok (.aload_n 0, 1) := dk_42 (dk_at dksX1_init_0 4 rfl rfl)
theorem dX1_init_5 : decode cX1_init 5 = .ok (.new 65, 3) := dk_187 0 65 (dk_at dksX1_init_0 5 rfl rfl)
theorem dX1_init_8 : decode cX1_init 8 = .ok (.dup, 1) := dk_89 (dk_at dksX1_init_0 8 rfl rfl)
theorem dX1_init_9 : decode cX1_init 9 = .ok (.invokespecial 122, 3) := dk_183 0 122 (dk_at dksX1_init_0 9 rfl rfl)
theorem dX1_init_12 : decode cX1_init 12 = .ok (.putfield 60, 3) := dk_181 0 60 (dk_at dksX1_init_0 12 rfl rfl)
theorem dX1_init_15 : decode cX1_init 15 = .ok (.aload_n 0, 1) := dk_42 (dk_at dksX1_init_0 15 rfl rfl)
theorem dX1_init_16 : decode cX1_init 16 = .ok (.iconst (-1), 1) := dk_2 (dk_at dksX1_init_0 16 rfl rfl)
theorem dX1_init_17 : decode cX1_init 17 = .ok (.putfield 96, 3) := dk_181 0 96 (dk_at dksX1_init_0 17 rfl rfl)
theorem dX1_init_20 : decode cX1_init 20 = .ok (.aload_n 0, 1) := dk_42 (dk_at dksX1_init_0 20 rfl rfl)
theorem dX1_init_21 : decode cX1_init 21 = .ok (.iconst (-1), 1) := dk_2 (dk_at dksX1_init_0 21 rfl rfl)
theorem dX1_init_22 : decode cX1_init 22 = .ok (.putfield 99, 3) := dk_181 0 99 (dk_at dksX1_init_1 0 rfl rfl)
theorem dX1_init_25 : decode cX1_init 25 = .ok (.aload_n 0, 1) := dk_42 (dk_at dksX1_init_1 3 rfl rfl)
theorem dX1_init_26 : decode cX1_init 26 = .ok (.new 2, 3) := dk_187 0 2 (dk_at dksX1_init_1 4 rfl rfl)
theorem dX1_init_29 : decode cX1_init 29 = .ok (.dup, 1) := dk_89 (dk_at dksX1_init_1 7 rfl rfl)
theorem dX1_init_30 : decode cX1_init 30 = .ok (.invokespecial 123, 3) := dk_183 0 123 (dk_at dksX1_init_1 8 rfl rfl)
theorem dX1_init_33 : decode cX1_init 33 = .ok (.putfield 124, 3) := dk_181 0 124 (dk_at dksX1_init_1 11 rfl rfl)
theorem dX1_init_36 : decode cX1_init 36 = .ok (.aload_n 0, 1) := dk_42 (dk_at dksX1_init_1 14 rfl rfl)
theorem dX1_init_37 : decode cX1_init 37 = .ok (.new 2, 3) := dk_187 0 2 (dk_at dksX1_init_1 15 rfl rfl)
theorem dX1_init_40 : decode cX1_init 40 = .ok (.dup, 1) := dk_89 (dk_at dksX1_init_1 18 rfl rfl)
theorem dX1_init_41 : decode cX1_init 41 = .ok (.invokespecial 123, 3) := dk_183 0 123 (dk_at dksX1_init_1 19 rfl rfl)
theorem dX1_init_44 : decode cX1_init 44 = .ok (.putfield 128, 3) := dk_181 0 128 (dk_at dksX1_init_2 0 rfl rfl)
theorem dX1_init_47 : decode cX1_init 47 = .ok (.aload_n 0, 1) := dk_42 (dk_at dksX1_init_2 3 rfl rfl)
theorem dX1_init_48 : decode cX1_init 48 = .ok (.new 2, 3) := dk_187 0 2 (dk_at dksX1_init_2 4 rfl rfl)
theorem dX1_init_51 : decode cX1_init 51 = .ok (.dup, 1) := dk_89 (dk_at dksX1_init_2 7 rfl rfl)
theorem dX1_init_52 : decode cX1_init 52 = .ok (.invokespecial 123, 3) := dk_183 0 123 (dk_at dksX1_init_2 8 rfl rfl)
theorem dX1_init_55 : decode cX1_init 55 = .ok (.putfield 131, 3) := dk_181 0 131 (dk_at dksX1_init_2 11 rfl rfl)
theorem dX1_init_58 : decode cX1_init 58 = .ok (.aload_n 0, 1) := dk_42 (dk_at dksX1_init_2 14 rfl rfl)
theorem dX1_init_59 : decode cX1_init 59 = .ok (.iconst 4, 1) := dk_7 (dk_at dksX1_init_2 15 rfl rfl)
theorem dX1_init_60 : decode cX1_init 60 = .ok (.anewarray 2, 3) := dk_189 0 2 (dk_at dksX1_init_2 16 rfl rfl)
theorem dX1_init_63 : decode cX1_init 63 = .ok (.putfield 134, 3) := dk_181 0 134 (dk_at dksX1_init_2 19 rfl rfl)
theorem dX1_init_66 : decode cX1_init 66 = .ok (.aload_n 0, 1) := dk_42 (dk_at dksX1_init_2 22 rfl rfl)
theorem dX1_init_67 : decode cX1_init 67 = .ok (.iconst 4, 1) := dk_7 (dk_at dksX1_init_2 23 rfl rfl)
theorem dX1_init_68 : decode cX1_init 68 = .ok (.anewarray 2, 3) := dk_189 0 2 (dk_at dksX1_init_3 0 rfl rfl)
theorem dX1_init_71 : decode cX1_init 71 = .ok (.putfield 138, 3) := dk_181 0 138 (dk_at dksX1_init_3 3 rfl rfl)
theorem dX1_init_74 : decode cX1_init 74 = .ok (.aload_n 0, 1) := dk_42 (dk_at dksX1_init_3 6 rfl rfl)
theorem dX1_init_75 : decode cX1_init 75 = .ok (.new 65, 3) := dk_187 0 65 (dk_at dksX1_init_3 7 rfl rfl)
theorem dX1_init_78 : decode cX1_init 78 = .ok (.dup, 1) := dk_89 (dk_at dksX1_init_3 10 rfl rfl)
theorem dX1_init_79 : decode cX1_init 79 = .ok (.bipush 40, 2) := dk_16 40 (dk_at dksX1_init_3 11 rfl rfl)
theorem dX1_init_81 : decode cX1_init 81 = .ok (.invokespecial 141, 3) := dk_183 0 141 (dk_at dksX1_init_3 13 rfl rfl)
theorem dX1_init_84 : decode cX1_init 84 = .ok (.putfield 142, 3) := dk_181 0 142 (dk_at dksX1_init_3 16 rfl rfl)
theorem dX1_init_87 : decode cX1_init 87 = .ok (.aload_n 0, 1) := dk_42 (dk_at dksX1_init_3 19 rfl rfl)
theorem dX1_init_88 : decode cX1_init 88 = .ok (.new 65, 3) := dk_187 0 65 (dk_at dksX1_init_3 20 rfl rfl)
theorem dX1_init_91 : decode cX1_init 91 = .ok (.dup, 1) := dk_89 (dk_at dksX1_init_3 23 rfl rfl)
theorem dX1_init_92 : decode cX1_init 92 = .ok (.bipush 40, 2) := dk_16 40 (dk_at dksX1_init_4 0 rfl rfl)
theorem dX1_init_94 : decode cX1_init 94 = .ok (.invokespecial 141, 3) := dk_183 0 141 (dk_at dksX1_init_4 2 rfl rfl)
theorem dX1_init_97 : decode cX1_init 97 = .ok (.putfield 145, 3) := dk_181 0 145 (dk_at dksX1_init_4 5 rfl rfl)
theorem dX1_init_100 : decode cX1_init 100 = .ok (.aload_n 0, 1) := dk_42 (dk_at dksX1_init_4 8 rfl rfl)
theorem dX1_init_101 : decode cX1_init 101 = .ok (.iconst 2, 1) := dk_5 (dk_at dksX1_init_4 9 rfl rfl)
theorem dX1_init_102 : decode cX1_init 102 = .ok (.newarray .int, 2) := dk_188_10 (dk_at dksX1_init_4 10 rfl rfl)
theorem dX1_init_104 : decode cX1_init 104 = .ok (.putfield 148, 3) := dk_181 0 148 (dk_at dksX1_init_4 12 rfl rfl)
theorem dX1_init_107 : decode cX1_init 107 = .ok (.aload_n 0, 1) := dk_42 (dk_at dksX1_init_4 15 rfl rfl)
theorem dX1_init_108 : decode cX1_init 108 = .ok (.iconst 2, 1) := dk_5 (dk_at dksX1_init_4 16 rfl rfl)
theorem dX1_init_109 : decode cX1_init 109 = .ok (.newarray .int, 2) := dk_188_10 (dk_at dksX1_init_4 17 rfl rfl)
theorem dX1_init_111 : decode cX1_init 111 = .ok (.putfield 151, 3) := dk_181 0 151 (dk_at dksX1_init_4 19 rfl rfl)
theorem dX1_init_114 : decode cX1_init 114 = .ok (.aload_n 0, 1) := dk_42 (dk_at dksX1_init_4 22 rfl rfl)
theorem dX1_init_115 : decode cX1_init 115 = .ok (.sipush 400, 3) := dk_17 1 144 (dk_at dksX1_init_5 0 rfl rfl)
theorem dX1_init_118 : decode cX1_init 118 = .ok (.newarray .byte, 2) := dk_188_8 (dk_at dksX1_init_5 3 rfl rfl)
theorem dX1_init_120 : decode cX1_init 120 = .ok (.putfield 154, 3) := dk_181 0 154 (dk_at dksX1_init_5 5 rfl rfl)
theorem dX1_init_123 : decode cX1_init 123 = .ok (.aload_n 0, 1) := dk_42 (dk_at dksX1_init_5 8 rfl rfl)
theorem dX1_init_124 : decode cX1_init 124 = .ok (.iconst (-1), 1) := dk_2 (dk_at dksX1_init_5 9 rfl rfl)
theorem dX1_init_125 : decode cX1_init 125 = .ok (.putfield 158, 3) := dk_181 0 158 (dk_at dksX1_init_5 10 rfl rfl)
theorem dX1_init_128 : decode cX1_init 128 = .ok (.aload_n 0, 1) := dk_42 (dk_at dksX1_init_5 13 rfl rfl)
theorem dX1_init_129 : decode cX1_init 129 = .ok (.bipush 8, 2) := dk_16 8 (dk_at dksX1_init_5 14 rfl rfl)
theorem dX1_init_131 : decode cX1_init 131 = .ok (.newarray .int, 2) := dk_188_10 (dk_at dksX1_init_5 16 rfl rfl)
theorem dX1_init_133 : decode cX1_init 133 = .ok (.putfield 161, 3) := dk_181 0 161 (dk_at dksX1_init_5 18 rfl rfl)
theorem dX1_init_136 : decode cX1_init 136 = .ok (.aload_n 0, 1) := dk_42 (dk_at dksX1_init_5 21 rfl rfl)
theorem dX1_init_137 : decode cX1_init 137 = .ok (.bipush 8, 2) := dk_16 8 (dk_at dksX1_init_5 22 rfl rfl)
theorem dX1_init_139 : decode cX1_init 139 = .ok (.newarray .int, 2) := dk_188_10 (dk_at dksX1_init_6 0 rfl rfl)
theorem dX1_init_141 : decode cX1_init 141 = .ok (.putfield 164, 3) := dk_181 0 164 (dk_at dksX1_init_6 2 rfl rfl)
theorem dX1_init_144 : decode cX1_init 144 = .ok (.aload_n 0, 1) := dk_42 (dk_at dksX1_init_6 5 rfl rfl)
theorem dX1_init_145 : decode cX1_init 145 = .ok (.bipush 16, 2) := dk_16 16 (dk_at dksX1_init_6 6 rfl rfl)
theorem dX1_init_147 : decode cX1_init 147 = .ok (.newarray .int, 2) := dk_188_10 (dk_at dksX1_init_6 8 rfl rfl)
theorem dX1_init_149 : decode cX1_init 149 = .ok (.putfield 167, 3) := dk_181 0 167 (dk_at dksX1_init_6 10 rfl rfl)
theorem dX1_init_152 : decode cX1_init 152 = .ok (.aload_n 0, 1) := dk_42 (dk_at dksX1_init_6 13 rfl rfl)
theorem dX1_init_153 : decode cX1_init 153 = .ok (.bipush 16, 2) := dk_16 16 (dk_at dksX1_init_6 14 rfl rfl)
theorem dX1_init_155 : decode cX1_init 155 = .ok (.newarray .int, 2) := dk_188_10 (dk_at dksX1_init_6 16 rfl rfl)
theorem dX1_init_157 : decode cX1_init 157 = .ok (.putfield 170, 3) := dk_181 0 170 (dk_at dksX1_init_6 18 rfl rfl)
theorem dX1_init_160 : decode cX1_init 160 = .ok (.aload_n 0, 1) := dk_42 (dk_at dksX1_init_6 21 rfl rfl)
theorem dX1_init_161 : decode cX1_init 161 = .ok (.bipush 16, 2) := dk_16 16 (dk_at dksX1_init_6 22 rfl rfl)
theorem dX1_init_163 : decode cX1_init 163 = .ok (.newarray .int, 2) := dk_188_10 (dk_at dksX1_init_7 0 rfl rfl)
theorem dX1_init_165 : decode cX1_init 165 = .ok (.putfield 173, 3) := dk_181 0 173 (dk_at dksX1_init_7 2 rfl rfl)
theorem dX1_init_168 : decode cX1_init 168 = .ok (.aload_n 0, 1) := dk_42 (dk_at dksX1_init_7 5 rfl rfl)
theorem dX1_init_169 : decode cX1_init 169 = .ok (.bipush 8, 2) := dk_16 8 (dk_at dksX1_init_7 6 rfl rfl)
theorem dX1_init_171 : decode cX1_init 171 = .ok (.newarray .int, 2) := dk_188_10 (dk_at dksX1_init_7 8 rfl rfl)
theorem dX1_init_173 : decode cX1_init 173 = .ok (.putfield 176, 3) := dk_181 0 176 (dk_at dksX1_init_7 10 rfl rfl)
theorem dX1_init_176 : decode cX1_init 176 = .ok (.aload_n 0, 1) := dk_42 (dk_at dksX1_init_7 13 rfl rfl)
theorem dX1_init_177 : decode cX1_init 177 = .ok (.bipush 8, 2) := dk_16 8 (dk_at dksX1_init_7 14 rfl rfl)
theorem dX1_init_179 : decode cX1_init 179 = .ok (.newarray .int, 2) := dk_188_10 (dk_at dksX1_init_7 16 rfl rfl)
theorem dX1_init_181 : decode cX1_init 181 = .ok (.putfield 179, 3) := dk_181 0 179 (dk_at dksX1_init_7 18 rfl rfl)
theorem dX1_init_184 : decode cX1_init 184 = .ok (.aload_n 0, 1) := dk_42 (dk_at dksX1_init_7 21 rfl rfl)
theorem dX1_init_185 : decode cX1_init 185 = .ok (.ldc 182, 2) := dk_18 182 (dk_at dksX1_init_7 22 rfl rfl)
theorem dX1_init_187 : decode cX1_init 187 = .ok (.newarray .int, 2) := dk_188_10 (dk_at dksX1_init_8 0 rfl rfl)
theorem dX1_init_189 : decode cX1_init 189 = .ok (.putfield 183, 3) := dk_181 0 183 (dk_at dksX1_init_8 2 rfl rfl)
theorem dX1_init_192 : decode cX1_init 192 = .ok (.aload_n 0, 1) := dk_42 (dk_at dksX1_init_8 5 rfl rfl)
theorem dX1_init_193 : decode cX1_init 193 = .ok (.getfield 124, 3) := dk_180 0 124 (dk_at dksX1_init_8 6 rfl rfl)
theorem dX1_init_196 : decode cX1_init 196 = .ok (.iconst 0, 1) := dk_3 (dk_at dksX1_init_8 9 rfl rfl)
theorem dX1_init_197 : decode cX1_init 197 = .ok (.putfield 7, 3) := dk_181 0 7 (dk_at dksX1_init_8 10 rfl rfl)
theorem dX1_init_200 : decode cX1_init 200 = .ok (.return_, 1) := dk_177 (dk_at dksX1_init_8 13 rfl rfl)
abbrev cX1_feed : ByteArray := prog_1_method_13_code
def yX1_feed : MethodName := ⟨RX1, "feed", "(IIIII)I"⟩
def dkwX1_feed_2 : List UInt8 := [172]
abbrev dktX1_feed_2 : List UInt8 := dkwX1_feed_2 ++ []
def dkwX1_feed_1 : List UInt8 := [182, 0, 195, 42, 29, 182, 0, 195, 42, 21, 4, 182, 0, 195, 42, 21, 5, 182, 0, 195, 42, 180, 0, 192]
abbrev dktX1_feed_1 : List UInt8 := dkwX1_feed_1 ++ dktX1_feed_2
def dkwX1_feed_0 : List UInt8 := [42, 180, 0, 192, 16, 20, 96, 17, 1, 144, 164, 0, 5, 2, 172, 42, 27, 182, 0, 195, 42, 28]
abbrev dktX1_feed_0 : List UInt8 := dkwX1_feed_0 ++ dktX1_feed_1
theorem dksX1_feed_0 : cX1_feed.data.toList.drop 0 = dktX1_feed_0 := by decide +kernel
theorem dksX1_feed_1 : cX1_feed.data.toList.drop 22 = dktX1_feed_1 := dk_seg dksX1_feed_0 22 rfl rfl
theorem dksX1_feed_2 : cX1_feed.data.toList.drop 46 = dktX1_feed_2 := dk_seg dksX1_feed_1 24 rfl rfl
theorem dX1_feed_0 : decode cX1_feed 0 = .ok (.aload_n 0, 1) := dk_42 (dk_at dksX1_feed_0 0 rfl rfl)
theorem dX1_feed_1 : decode cX1_feed 1 = .ok (.getfield 192, 3) := dk_180 0 192 (dk_at dksX1_feed_0 1 rfl rfl)
theorem dX1_feed_4 : decode cX1_feed 4 = .ok (.bipush 20, 2) := dk_16 20 (dk_at dksX1_feed_0 4 rfl rfl)
theorem dX1_feed_6 : decode cX1_feed 6 = .ok (.iadd, 1) := dk_96 (dk_at dksX1_feed_0 6 rfl rfl)
theorem dX1_feed_7 : decode cX1_feed 7 = .ok (.sipush 400, 3) := dk_17 1 144 (dk_at dksX1_feed_0 7 rfl rfl)
theorem dX1_feed_10 : decode cX1_feed 10 = .ok (.if_icmp .le 5, 3) := dk_164 0 5 (dk_at dksX1_feed_0 10 rfl rfl)
theorem dX1_feed_13 : decode cX1_feed 13 = .ok (.iconst (-1), 1) := dk_2 (dk_at dksX1_feed_0 13 rfl rfl)
theorem dX1_feed_14 : decode cX1_feed 14 = .ok (.ireturn, 1) := dk_172 (dk_at dksX1_feed_0 14 rfl rfl)
theorem dX1_feed_15 : decode cX1_feed 15 = .ok (.aload_n 0, 1) := dk_42 (dk_at dksX1_feed_0 15 rfl rfl)
theorem dX1_feed_16 : decode cX1_feed 16 = .ok (.iload_n 1, 1) := dk_27 (dk_at dksX1_feed_0 16 rfl rfl)
theorem dX1_feed_17 : decode cX1_feed 17 = .ok (.invokevirtual 195, 3) := dk_182 0 195 (dk_at dksX1_feed_0 17 rfl rfl)
theorem dX1_feed_20 : decode cX1_feed 20 = .ok (.aload_n 0, 1) := dk_42 (dk_at dksX1_feed_0 20 rfl rfl)
theorem dX1_feed_21 : decode cX1_feed 21 = .ok (.iload_n 2, 1) := dk_28 (dk_at dksX1_feed_0 21 rfl rfl)
theorem dX1_feed_22 : decode cX1_feed 22 = .ok (.invokevirtual 195, 3) := dk_182 0 195 (dk_at dksX1_feed_1 0 rfl rfl)
theorem dX1_feed_25 : decode cX1_feed 25 = .ok (.aload_n 0, 1) := dk_42 (dk_at dksX1_feed_1 3 rfl rfl)
theorem dX1_feed_26 : decode cX1_feed 26 = .ok (.iload_n 3, 1) := dk_29 (dk_at dksX1_feed_1 4 rfl rfl)
theorem dX1_feed_27 : decode cX1_feed 27 = .ok (.invokevirtual 195, 3) := dk_182 0 195 (dk_at dksX1_feed_1 5 rfl rfl)
theorem dX1_feed_30 : decode cX1_feed 30 = .ok (.aload_n 0, 1) := dk_42 (dk_at dksX1_feed_1 8 rfl rfl)
theorem dX1_feed_31 : decode cX1_feed 31 = .ok (.iload 4, 2) := dk_21 4 (dk_at dksX1_feed_1 9 rfl rfl)
theorem dX1_feed_33 : decode cX1_feed 33 = .ok (.invokevirtual 195, 3) := dk_182 0 195 (dk_at dksX1_feed_1 11 rfl rfl)
theorem dX1_feed_36 : decode cX1_feed 36 = .ok (.aload_n 0, 1) := dk_42 (dk_at dksX1_feed_1 14 rfl rfl)
theorem dX1_feed_37 : decode cX1_feed 37 = .ok (.iload 5, 2) := dk_21 5 (dk_at dksX1_feed_1 15 rfl rfl)
theorem dX1_feed_39 : decode cX1_feed 39 = .ok (.invokevirtual 195, 3) := dk_182 0 195 (dk_at dksX1_feed_1 17 rfl rfl)
theorem dX1_feed_42 : decode cX1_feed 42 = .ok (.aload_n 0, 1) := dk_42 (dk_at dksX1_feed_1 20 rfl rfl)
theorem dX1_feed_43 : decode cX1_feed 43 = .ok (.getfield 192, 3) := dk_180 0 192 (dk_at dksX1_feed_1 21 rfl rfl)
theorem dX1_feed_46 : decode cX1_feed 46 = .ok (.ireturn, 1) := dk_172 (dk_at dksX1_feed_2 0 rfl rfl)
abbrev cX1_lay : ByteArray := prog_1_method_14_code
def yX1_lay : MethodName := ⟨RX1, "lay", "(I)V"⟩
def dkwX1_lay_1 : List UInt8 := [180, 0, 192, 4, 96, 181, 0, 192, 132, 2, 248, 167, 255, 226, 177]
abbrev dktX1_lay_1 : List UInt8 := dkwX1_lay_1 ++ []
def dkwX1_lay_0 : List UInt8 := [16, 24, 61, 28, 155, 0, 32, 42, 180, 0, 154, 42, 180, 0, 192, 27, 28, 122, 145, 84, 42, 89]
abbrev dktX1_lay_0 : List UInt8 := dkwX1_lay_0 ++ dktX1_lay_1
theorem dksX1_lay_0 : cX1_lay.data.toList.drop 0 = dktX1_lay_0 := by decide +kernel
theorem dksX1_lay_1 : cX1_lay.data.toList.drop 22 = dktX1_lay_1 := dk_seg dksX1_lay_0 22 rfl rfl
theorem dX1_lay_0 : decode cX1_lay 0 = .ok (.bipush 24, 2) := dk_16 24 (dk_at dksX1_lay_0 0 rfl rfl)
theorem dX1_lay_2 : decode cX1_lay 2 = .ok (.istore_n 2, 1) := dk_61 (dk_at dksX1_lay_0 2 rfl rfl)
theorem dX1_lay_3 : decode cX1_lay 3 = .ok (.iload_n 2, 1) := dk_28 (dk_at dksX1_lay_0 3 rfl rfl)
theorem dX1_lay_4 : decode cX1_lay 4 = .ok (.ifCond .lt 32, 3) := dk_155 0 32 (dk_at dksX1_lay_0 4 rfl rfl)
theorem dX1_lay_7 : decode cX1_lay 7 = .ok (.aload_n 0, 1) := dk_42 (dk_at dksX1_lay_0 7 rfl rfl)
theorem dX1_lay_8 : decode cX1_lay 8 = .ok (.getfield 154, 3) := dk_180 0 154 (dk_at dksX1_lay_0 8 rfl rfl)
theorem dX1_lay_11 : decode cX1_lay 11 = .ok (.aload_n 0, 1) := dk_42 (dk_at dksX1_lay_0 11 rfl rfl)
theorem dX1_lay_12 : decode cX1_lay 12 = .ok (.getfield 192, 3) := dk_180 0 192 (dk_at dksX1_lay_0 12 rfl rfl)
theorem dX1_lay_15 : decode cX1_lay 15 = .ok (.iload_n 1, 1) := dk_27 (dk_at dksX1_lay_0 15 rfl rfl)
theorem dX1_lay_16 : decode cX1_lay 16 = .ok (.iload_n 2, 1) := dk_28 (dk_at dksX1_lay_0 16 rfl rfl)
theorem dX1_lay_17 : decode cX1_lay 17 = .ok (.ishr, 1) := dk_122 (dk_at dksX1_lay_0 17 rfl rfl)
theorem dX1_lay_18 : decode cX1_lay 18 = .ok (.i2b, 1) := dk_145 (dk_at dksX1_lay_0 18 rfl rfl)
theorem dX1_lay_19 : decode cX1_lay 19 = .ok (.bastore, 1) := dk_84 (dk_at dksX1_lay_0 19 rfl rfl)
theorem dX1_lay_20 : decode cX1_lay 20 = .ok (.aload_n 0, 1) := dk_42 (dk_at dksX1_lay_0 20 rfl rfl)
theorem dX1_lay_21 : decode cX1_lay 21 = .ok (.dup, 1) := dk_89 (dk_at dksX1_lay_0 21 rfl rfl)
theorem dX1_lay_22 : decode cX1_lay 22 = .ok (.getfield 192, 3) := dk_180 0 192 (dk_at dksX1_lay_1 0 rfl rfl)
theorem dX1_lay_25 : decode cX1_lay 25 = .ok (.iconst 1, 1) := dk_4 (dk_at dksX1_lay_1 3 rfl rfl)
theorem dX1_lay_26 : decode cX1_lay 26 = .ok (.iadd, 1) := dk_96 (dk_at dksX1_lay_1 4 rfl rfl)
theorem dX1_lay_27 : decode cX1_lay 27 = .ok (.putfield 192, 3) := dk_181 0 192 (dk_at dksX1_lay_1 5 rfl rfl)
theorem dX1_lay_30 : decode cX1_lay 30 = .ok (.iinc 2 (-8), 3) := dk_132 2 248 (dk_at dksX1_lay_1 8 rfl rfl)
theorem dX1_lay_33 : decode cX1_lay 33 = .ok (.goto (-30), 3) := dk_167 255 226 (dk_at dksX1_lay_1 11 rfl rfl)
theorem dX1_lay_36 : decode cX1_lay 36 = .ok (.return_, 1) := dk_177 (dk_at dksX1_lay_1 14 rfl rfl)
abbrev cX1_fault : ByteArray := prog_1_method_16_code
def yX1_fault : MethodName := ⟨RX1, "fault", "()I"⟩
theorem dX1_fault_0 : decode cX1_fault 0 = .ok (.aload_n 0, 1) := by decide +kernel
theorem dX1_fault_1 : decode cX1_fault 1 = .ok (.getfield 158, 3) := by decide +kernel
theorem dX1_fault_4 : decode cX1_fault 4 = .ok (.ireturn, 1) := by decide +kernel
abbrev cX1_add : ByteArray := prog_1_method_58_code
def yX1_add : MethodName := ⟨RX1, "add", "(I)I"⟩
def dkwX1_add_1 : List UInt8 := [27, 182, 1, 145, 42, 180, 0, 124, 180, 0, 7, 4, 100, 172]
abbrev dktX1_add_1 : List UInt8 := dkwX1_add_1 ++ []
def dkwX1_add_0 : List UInt8 := [42, 180, 0, 124, 27, 182, 1, 136, 154, 0, 8, 42, 182, 1, 139, 172, 42, 182, 1, 142, 42, 180, 0, 124]
abbrev dktX1_add_0 : List UInt8 := dkwX1_add_0 ++ dktX1_add_1
theorem dksX1_add_0 : cX1_add.data.toList.drop 0 = dktX1_add_0 := by decide +kernel
theorem dksX1_add_1 : cX1_add.data.toList.drop 24 = dktX1_add_1 := dk_seg dksX1_add_0 24 rfl rfl
theorem dX1_add_0 : decode cX1_add 0 = .ok (.aload_n 0, 1) := dk_42 (dk_at dksX1_add_0 0 rfl rfl)
theorem dX1_add_1 : decode cX1_add 1 = .ok (.getfield 124, 3) := dk_180 0 124 (dk_at dksX1_add_0 1 rfl rfl)
theorem dX1_add_4 : decode cX1_add 4 = .ok (.iload_n 1, 1) := dk_27 (dk_at dksX1_add_0 4 rfl rfl)
theorem dX1_add_5 : decode cX1_add 5 = .ok (.invokevirtual 392, 3) := dk_182 1 136 (dk_at dksX1_add_0 5 rfl rfl)
theorem dX1_add_8 : decode cX1_add 8 = .ok (.ifCond .ne 8, 3) := dk_154 0 8 (dk_at dksX1_add_0 8 rfl rfl)
theorem dX1_add_11 : decode cX1_add 11 = .ok (.aload_n 0, 1) := dk_42 (dk_at dksX1_add_0 11 rfl rfl)
theorem dX1_add_12 : decode cX1_add 12 = .ok (.invokevirtual 395, 3) := dk_182 1 139 (dk_at dksX1_add_0 12 rfl rfl)
theorem dX1_add_15 : decode cX1_add 15 = .ok (.ireturn, 1) := dk_172 (dk_at dksX1_add_0 15 rfl rfl)
theorem dX1_add_16 : decode cX1_add 16 = .ok (.aload_n 0, 1) := dk_42 (dk_at dksX1_add_0 16 rfl rfl)
theorem dX1_add_17 : decode cX1_add 17 = .ok (.invokevirtual 398, 3) := dk_182 1 142 (dk_at dksX1_add_0 17 rfl rfl)
theorem dX1_add_20 : decode cX1_add 20 = .ok (.aload_n 0, 1) := dk_42 (dk_at dksX1_add_0 20 rfl rfl)
theorem dX1_add_21 : decode cX1_add 21 = .ok (.getfield 124, 3) := dk_180 0 124 (dk_at dksX1_add_0 21 rfl rfl)
theorem dX1_add_24 : decode cX1_add 24 = .ok (.iload_n 1, 1) := dk_27 (dk_at dksX1_add_1 0 rfl rfl)
theorem dX1_add_25 : decode cX1_add 25 = .ok (.invokevirtual 401, 3) := dk_182 1 145 (dk_at dksX1_add_1 1 rfl rfl)
theorem dX1_add_28 : decode cX1_add 28 = .ok (.aload_n 0, 1) := dk_42 (dk_at dksX1_add_1 4 rfl rfl)
theorem dX1_add_29 : decode cX1_add 29 = .ok (.getfield 124, 3) := dk_180 0 124 (dk_at dksX1_add_1 5 rfl rfl)
theorem dX1_add_32 : decode cX1_add 32 = .ok (.getfield 7, 3) := dk_180 0 7 (dk_at dksX1_add_1 8 rfl rfl)
theorem dX1_add_35 : decode cX1_add 35 = .ok (.iconst 1, 1) := dk_4 (dk_at dksX1_add_1 11 rfl rfl)
theorem dX1_add_36 : decode cX1_add 36 = .ok (.isub, 1) := dk_100 (dk_at dksX1_add_1 12 rfl rfl)
theorem dX1_add_37 : decode cX1_add 37 = .ok (.ireturn, 1) := dk_172 (dk_at dksX1_add_1 13 rfl rfl)
abbrev cX1_refuses : ByteArray := prog_1_method_55_code
def yX1_refuses : MethodName := ⟨RX1, "refuses", "()I"⟩
def dkwX1_refuses_0 : List UInt8 := [42, 180, 0, 148, 4, 92, 46, 4, 96, 79, 2, 172]
abbrev dktX1_refuses_0 : List UInt8 := dkwX1_refuses_0 ++ []
theorem dksX1_refuses_0 : cX1_refuses.data.toList.drop 0 = dktX1_refuses_0 := by decide +kernel
theorem dX1_refuses_0 : decode cX1_refuses 0 = .ok (.aload_n 0, 1) := dk_42 (dk_at dksX1_refuses_0 0 rfl rfl)
theorem dX1_refuses_1 : decode cX1_refuses 1 = .ok (.getfield 148, 3) := dk_180 0 148 (dk_at dksX1_refuses_0 1 rfl rfl)
theorem dX1_refuses_4 : decode cX1_refuses 4 = .ok (.iconst 1, 1) := dk_4 (dk_at dksX1_refuses_0 4 rfl rfl)
theorem dX1_refuses_5 : decode cX1_refuses 5 = .ok (.dup2, 1) := dk_92 (dk_at dksX1_refuses_0 5 rfl rfl)
theorem dX1_refuses_6 : decode cX1_refuses 6 = .ok (.iaload, 1) := dk_46 (dk_at dksX1_refuses_0 6 rfl rfl)
theorem dX1_refuses_7 : decode cX1_refuses 7 = .ok (.iconst 1, 1) := dk_4 (dk_at dksX1_refuses_0 7 rfl rfl)
theorem dX1_refuses_8 : decode cX1_refuses 8 = .ok (.iadd, 1) := dk_96 (dk_at dksX1_refuses_0 8 rfl rfl)
theorem dX1_refuses_9 : decode cX1_refuses 9 = .ok (.iastore, 1) := dk_79 (dk_at dksX1_refuses_0 9 rfl rfl)
theorem dX1_refuses_10 : decode cX1_refuses 10 = .ok (.iconst (-1), 1) := dk_2 (dk_at dksX1_refuses_0 10 rfl rfl)
theorem dX1_refuses_11 : decode cX1_refuses 11 = .ok (.ireturn, 1) := dk_172 (dk_at dksX1_refuses_0 11 rfl rfl)
abbrev cX1_keepsNow : ByteArray := prog_1_method_57_code
def yX1_keepsNow : MethodName := ⟨RX1, "keepsNow", "()V"⟩
def dkwX1_keepsNow_0 : List UInt8 := [42, 180, 0, 124, 182, 1, 127, 76, 42, 42, 43, 186, 1, 130, 0, 0, 182, 1, 133, 177]
abbrev dktX1_keepsNow_0 : List UInt8 := dkwX1_keepsNow_0 ++ []
theorem dksX1_keepsNow_0 : cX1_keepsNow.data.toList.drop 0 = dktX1_keepsNow_0 := by decide +kernel
theorem dX1_keepsNow_0 : decode cX1_keepsNow 0 = .ok (.aload_n 0, 1) := dk_42 (dk_at dksX1_keepsNow_0 0 rfl rfl)
theorem dX1_keepsNow_1 : decode cX1_keepsNow 1 = .ok (.getfield 124, 3) := dk_180 0 124 (dk_at dksX1_keepsNow_0 1 rfl rfl)
theorem dX1_keepsNow_4 : decode cX1_keepsNow 4 = .ok (.invokevirtual 383, 3) := dk_182 1 127 (dk_at dksX1_keepsNow_0 4 rfl rfl)
theorem dX1_keepsNow_7 : decode cX1_keepsNow 7 = .ok (.astore_n 1, 1) := dk_76 (dk_at dksX1_keepsNow_0 7 rfl rfl)
theorem dX1_keepsNow_8 : decode cX1_keepsNow 8 = .ok (.aload_n 0, 1) := dk_42 (dk_at dksX1_keepsNow_0 8 rfl rfl)
theorem dX1_keepsNow_9 : decode cX1_keepsNow 9 = .ok (.aload_n 0, 1) := dk_42 (dk_at dksX1_keepsNow_0 9 rfl rfl)
theorem dX1_keepsNow_10 : decode cX1_keepsNow 10 = .ok (.aload_n 1, 1) := dk_43 (dk_at dksX1_keepsNow_0 10 rfl rfl)
theorem dX1_keepsNow_11 : decode cX1_keepsNow 11 = .ok (.invokedynamic 386, 5) := by decide +kernel
theorem dX1_keepsNow_16 : decode cX1_keepsNow 16 = .ok (.invokevirtual 389, 3) := dk_182 1 133 (dk_at dksX1_keepsNow_0 16 rfl rfl)
theorem dX1_keepsNow_19 : decode cX1_keepsNow 19 = .ok (.return_, 1) := dk_177 (dk_at dksX1_keepsNow_0 19 rfl rfl)
abbrev cX1_lambda_keepsNow_3 : ByteArray := prog_1_method_99_code
def yX1_lambda_keepsNow_3 : MethodName := ⟨RX1, "lambda$keepsNow$3", "(LSchemeLister$Scheme;)V"⟩
def dkwX1_lambda_keepsNow_3_0 : List UInt8 := [42, 180, 0, 124, 43, 182, 0, 207, 177]
abbrev dktX1_lambda_keepsNow_3_0 : List UInt8 := dkwX1_lambda_keepsNow_3_0 ++ []
theorem dksX1_lambda_keepsNow_3_0 : cX1_lambda_keepsNow_3.data.toList.drop 0 = dktX1_lambda_keepsNow_3_0 := by decide +kernel
theorem dX1_lambda_keepsNow_3_0 : decode cX1_lambda_keepsNow_3 0 = .ok (.aload_n 0, 1) := dk_42 (dk_at dksX1_lambda_keepsNow_3_0 0 rfl rfl)
theorem dX1_lambda_keepsNow_3_1 : decode cX1_lambda_keepsNow_3 1 = .ok (.getfield 124, 3) := dk_180 0 124 (dk_at dksX1_lambda_keepsNow_3_0 1 rfl rfl)
theorem dX1_lambda_keepsNow_3_4 : decode cX1_lambda_keepsNow_3 4 = .ok (.aload_n 1, 1) := dk_43 (dk_at dksX1_lambda_keepsNow_3_0 4 rfl rfl)
theorem dX1_lambda_keepsNow_3_5 : decode cX1_lambda_keepsNow_3 5 = .ok (.invokevirtual 207, 3) := dk_182 0 207 (dk_at dksX1_lambda_keepsNow_3_0 5 rfl rfl)
theorem dX1_lambda_keepsNow_3_8 : decode cX1_lambda_keepsNow_3 8 = .ok (.return_, 1) := dk_177 (dk_at dksX1_lambda_keepsNow_3_0 8 rfl rfl)
abbrev cX1_keeps : ByteArray := prog_1_method_56_code
def yX1_keeps : MethodName := ⟨RX1, "keeps", "(LSchemeLister$Back;)V"⟩
def dkwX1_keeps_1 : List UInt8 := [180, 0, 142, 187, 1, 122, 89, 43, 183, 1, 124, 182, 0, 64, 87, 177]
abbrev dktX1_keeps_1 : List UInt8 := dkwX1_keeps_1 ++ []
def dkwX1_keeps_0 : List UInt8 := [42, 180, 0, 142, 182, 0, 106, 16, 40, 160, 0, 12, 42, 180, 0, 142, 3, 182, 1, 119, 87, 42]
abbrev dktX1_keeps_0 : List UInt8 := dkwX1_keeps_0 ++ dktX1_keeps_1
theorem dksX1_keeps_0 : cX1_keeps.data.toList.drop 0 = dktX1_keeps_0 := by decide +kernel
theorem dksX1_keeps_1 : cX1_keeps.data.toList.drop 22 = dktX1_keeps_1 := dk_seg dksX1_keeps_0 22 rfl rfl
theorem dX1_keeps_0 : decode cX1_keeps 0 = .ok (.aload_n 0, 1) := dk_42 (dk_at dksX1_keeps_0 0 rfl rfl)
theorem dX1_keeps_1 : decode cX1_keeps 1 = .ok (.getfield 142, 3) := dk_180 0 142 (dk_at dksX1_keeps_0 1 rfl rfl)
theorem dX1_keeps_4 : decode cX1_keeps 4 = .ok (.invokevirtual 106, 3) := dk_182 0 106 (dk_at dksX1_keeps_0 4 rfl rfl)
theorem dX1_keeps_7 : decode cX1_keeps 7 = .ok (.bipush 40, 2) := dk_16 40 (dk_at dksX1_keeps_0 7 rfl rfl)
theorem dX1_keeps_9 : decode cX1_keeps 9 = .ok (.if_icmp .ne 12, 3) := dk_160 0 12 (dk_at dksX1_keeps_0 9 rfl rfl)
theorem dX1_keeps_12 : decode cX1_keeps 12 = .ok (.aload_n 0, 1) := dk_42 (dk_at dksX1_keeps_0 12 rfl rfl)
theorem dX1_keeps_13 : decode cX1_keeps 13 = .ok (.getfield 142, 3) := dk_180 0 142 (dk_at dksX1_keeps_0 13 rfl rfl)
theorem dX1_keeps_16 : decode cX1_keeps 16 = .ok (.iconst 0, 1) := dk_3 (dk_at dksX1_keeps_0 16 rfl rfl)
theorem dX1_keeps_17 : decode cX1_keeps 17 = .ok (.invokevirtual 375, 3) := dk_182 1 119 (dk_at dksX1_keeps_0 17 rfl rfl)
theorem dX1_keeps_20 : decode cX1_keeps 20 = .ok (.pop, 1) := dk_87 (dk_at dksX1_keeps_0 20 rfl rfl)
theorem dX1_keeps_21 : decode cX1_keeps 21 = .ok (.aload_n 0, 1) := dk_42 (dk_at dksX1_keeps_0 21 rfl rfl)
theorem dX1_keeps_22 : decode cX1_keeps 22 = .ok (.getfield 142, 3) := dk_180 0 142 (dk_at dksX1_keeps_1 0 rfl rfl)
theorem dX1_keeps_25 : decode cX1_keeps 25 = .ok (.new 378, 3) := dk_187 1 122 (dk_at dksX1_keeps_1 3 rfl rfl)
theorem dX1_keeps_28 : decode cX1_keeps 28 = .ok (.dup, 1) := dk_89 (dk_at dksX1_keeps_1 6 rfl rfl)
theorem dX1_keeps_29 : decode cX1_keeps 29 = .ok (.aload_n 1, 1) := dk_43 (dk_at dksX1_keeps_1 7 rfl rfl)
theorem dX1_keeps_30 : decode cX1_keeps 30 = .ok (.invokespecial 380, 3) := dk_183 1 124 (dk_at dksX1_keeps_1 8 rfl rfl)
theorem dX1_keeps_33 : decode cX1_keeps 33 = .ok (.invokevirtual 64, 3) := dk_182 0 64 (dk_at dksX1_keeps_1 11 rfl rfl)
theorem dX1_keeps_36 : decode cX1_keeps 36 = .ok (.pop, 1) := dk_87 (dk_at dksX1_keeps_1 14 rfl rfl)
theorem dX1_keeps_37 : decode cX1_keeps 37 = .ok (.return_, 1) := dk_177 (dk_at dksX1_keeps_1 15 rfl rfl)
abbrev cX1_drop : ByteArray := prog_1_method_59_code
def yX1_drop : MethodName := ⟨RX1, "drop", "(I)I"⟩
def dkwX1_drop_1 : List UInt8 := [42, 180, 0, 124, 180, 0, 37, 27, 46, 61, 42, 180, 0, 124, 27, 182, 1, 148, 28, 172]
abbrev dktX1_drop_1 : List UInt8 := dkwX1_drop_1 ++ []
def dkwX1_drop_0 : List UInt8 := [27, 155, 0, 14, 27, 42, 180, 0, 124, 180, 0, 7, 161, 0, 8, 42, 182, 1, 139, 172, 42, 182, 1, 142]
abbrev dktX1_drop_0 : List UInt8 := dkwX1_drop_0 ++ dktX1_drop_1
theorem dksX1_drop_0 : cX1_drop.data.toList.drop 0 = dktX1_drop_0 := by decide +kernel
theorem dksX1_drop_1 : cX1_drop.data.toList.drop 24 = dktX1_drop_1 := dk_seg dksX1_drop_0 24 rfl rfl
theorem dX1_drop_0 : decode cX1_drop 0 = .ok (.iload_n 1, 1) := dk_27 (dk_at dksX1_drop_0 0 rfl rfl)
theorem dX1_drop_1 : decode cX1_drop 1 = .ok (.ifCond .lt 14, 3) := dk_155 0 14 (dk_at dksX1_drop_0 1 rfl rfl)
theorem dX1_drop_4 : decode cX1_drop 4 = .ok (.iload_n 1, 1) := dk_27 (dk_at dksX1_drop_0 4 rfl rfl)
theorem dX1_drop_5 : decode cX1_drop 5 = .ok (.aload_n 0, 1) := dk_42 (dk_at dksX1_drop_0 5 rfl rfl)
theorem dX1_drop_6 : decode cX1_drop 6 = .ok (.getfield 124, 3) := dk_180 0 124 (dk_at dksX1_drop_0 6 rfl rfl)
theorem dX1_drop_9 : decode cX1_drop 9 = .ok (.getfield 7, 3) := dk_180 0 7 (dk_at dksX1_drop_0 9 rfl rfl)
theorem dX1_drop_12 : decode cX1_drop 12 = .ok (.if_icmp .lt 8, 3) := dk_161 0 8 (dk_at dksX1_drop_0 12 rfl rfl)
theorem dX1_drop_15 : decode cX1_drop 15 = .ok (.aload_n 0, 1) := dk_42 (dk_at dksX1_drop_0 15 rfl rfl)
theorem dX1_drop_16 : decode cX1_drop 16 = .ok (.invokevirtual 395, 3) := dk_182 1 139 (dk_at dksX1_drop_0 16 rfl rfl)
theorem dX1_drop_19 : decode cX1_drop 19 = .ok (.ireturn, 1) := dk_172 (dk_at dksX1_drop_0 19 rfl rfl)
theorem dX1_drop_20 : decode cX1_drop 20 = .ok (.aload_n 0, 1) := dk_42 (dk_at dksX1_drop_0 20 rfl rfl)
theorem dX1_drop_21 : decode cX1_drop 21 = .ok (.invokevirtual 398, 3) := dk_182 1 142 (dk_at dksX1_drop_0 21 rfl rfl)
theorem dX1_drop_24 : decode cX1_drop 24 = .ok (.aload_n 0, 1) := dk_42 (dk_at dksX1_drop_1 0 rfl rfl)
theorem dX1_drop_25 : decode cX1_drop 25 = .ok (.getfield 124, 3) := dk_180 0 124 (dk_at dksX1_drop_1 1 rfl rfl)
theorem dX1_drop_28 : decode cX1_drop 28 = .ok (.getfield 37, 3) := dk_180 0 37 (dk_at dksX1_drop_1 4 rfl rfl)
theorem dX1_drop_31 : decode cX1_drop 31 = .ok (.iload_n 1, 1) := dk_27 (dk_at dksX1_drop_1 7 rfl rfl)
theorem dX1_drop_32 : decode cX1_drop 32 = .ok (.iaload, 1) := dk_46 (dk_at dksX1_drop_1 8 rfl rfl)
theorem dX1_drop_33 : decode cX1_drop 33 = .ok (.istore_n 2, 1) := dk_61 (dk_at dksX1_drop_1 9 rfl rfl)
theorem dX1_drop_34 : decode cX1_drop 34 = .ok (.aload_n 0, 1) := dk_42 (dk_at dksX1_drop_1 10 rfl rfl)
theorem dX1_drop_35 : decode cX1_drop 35 = .ok (.getfield 124, 3) := dk_180 0 124 (dk_at dksX1_drop_1 11 rfl rfl)
theorem dX1_drop_38 : decode cX1_drop 38 = .ok (.iload_n 1, 1) := dk_27 (dk_at dksX1_drop_1 14 rfl rfl)
theorem dX1_drop_39 : decode cX1_drop 39 = .ok (.invokevirtual 404, 3) := dk_182 1 148 (dk_at dksX1_drop_1 15 rfl rfl)
theorem dX1_drop_42 : decode cX1_drop 42 = .ok (.iload_n 2, 1) := dk_28 (dk_at dksX1_drop_1 18 rfl rfl)
theorem dX1_drop_43 : decode cX1_drop 43 = .ok (.ireturn, 1) := dk_172 (dk_at dksX1_drop_1 19 rfl rfl)
abbrev cX1_swap : ByteArray := prog_1_method_60_code
def yX1_swap : MethodName := ⟨RX1, "swap", "(II)Z"⟩
def dkwX1_swap_2 : List UInt8 := [186, 1, 151, 0, 0, 182, 1, 133, 42, 180, 0, 124, 27, 28, 182, 1, 154, 4, 172]
abbrev dktX1_swap_2 : List UInt8 := dkwX1_swap_2 ++ []
def dkwX1_swap_1 : List UInt8 := [160, 0, 16, 42, 182, 1, 139, 154, 0, 7, 4, 167, 0, 4, 3, 172, 42, 42, 27, 28]
abbrev dktX1_swap_1 : List UInt8 := dkwX1_swap_1 ++ dktX1_swap_2
def dkwX1_swap_0 : List UInt8 := [42, 180, 0, 124, 27, 182, 1, 97, 153, 0, 19, 42, 180, 0, 124, 28, 182, 1, 97, 153, 0, 8, 27, 28]
abbrev dktX1_swap_0 : List UInt8 := dkwX1_swap_0 ++ dktX1_swap_1
theorem dksX1_swap_0 : cX1_swap.data.toList.drop 0 = dktX1_swap_0 := by decide +kernel
theorem dksX1_swap_1 : cX1_swap.data.toList.drop 24 = dktX1_swap_1 := dk_seg dksX1_swap_0 24 rfl rfl
theorem dksX1_swap_2 : cX1_swap.data.toList.drop 44 = dktX1_swap_2 := dk_seg dksX1_swap_1 20 rfl rfl
theorem dX1_swap_0 : decode cX1_swap 0 = .ok (.aload_n 0, 1) := dk_42 (dk_at dksX1_swap_0 0 rfl rfl)
theorem dX1_swap_1 : decode cX1_swap 1 = .ok (.getfield 124, 3) := dk_180 0 124 (dk_at dksX1_swap_0 1 rfl rfl)
theorem dX1_swap_4 : decode cX1_swap 4 = .ok (.iload_n 1, 1) := dk_27 (dk_at dksX1_swap_0 4 rfl rfl)
theorem dX1_swap_5 : decode cX1_swap 5 = .ok (.invokevirtual 353, 3) := dk_182 1 97 (dk_at dksX1_swap_0 5 rfl rfl)
theorem dX1_swap_8 : decode cX1_swap 8 = .ok (.ifCond .eq 19, 3) := dk_153 0 19 (dk_at dksX1_swap_0 8 rfl rfl)
theorem dX1_swap_11 : decode cX1_swap 11 = .ok (.aload_n 0, 1) := dk_42 (dk_at dksX1_swap_0 11 rfl rfl)
theorem dX1_swap_12 : decode cX1_swap 12 = .ok (.getfield 124, 3) := dk_180 0 124 (dk_at dksX1_swap_0 12 rfl rfl)
theorem dX1_swap_15 : decode cX1_swap 15 = .ok (.iload_n 2, 1) := dk_28 (dk_at dksX1_swap_0 15 rfl rfl)
theorem dX1_swap_16 : decode cX1_swap 16 = .ok (.invokevirtual 353, 3) := dk_182 1 97 (dk_at dksX1_swap_0 16 rfl rfl)
theorem dX1_swap_19 : decode cX1_swap 19 = .ok (.ifCond .eq 8, 3) := dk_153 0 8 (dk_at dksX1_swap_0 19 rfl rfl)
theorem dX1_swap_22 : decode cX1_swap 22 = .ok (.iload_n 1, 1) := dk_27 (dk_at dksX1_swap_0 22 rfl rfl)
theorem dX1_swap_23 : decode cX1_swap 23 = .ok (.iload_n 2, 1) := dk_28 (dk_at dksX1_swap_0 23 rfl rfl)
theorem dX1_swap_24 : decode cX1_swap 24 = .ok (.if_icmp .ne 16, 3) := dk_160 0 16 (dk_at dksX1_swap_1 0 rfl rfl)
theorem dX1_swap_27 : decode cX1_swap 27 = .ok (.aload_n 0, 1) := dk_42 (dk_at dksX1_swap_1 3 rfl rfl)
theorem dX1_swap_28 : decode cX1_swap 28 = .ok (.invokevirtual 395, 3) := dk_182 1 139 (dk_at dksX1_swap_1 4 rfl rfl)
theorem dX1_swap_31 : decode cX1_swap 31 = .ok (.ifCond .ne 7, 3) := dk_154 0 7 (dk_at dksX1_swap_1 7 rfl rfl)
theorem dX1_swap_34 : decode cX1_swap 34 = .ok (.iconst 1, 1) := dk_4 (dk_at dksX1_swap_1 10 rfl rfl)
theorem dX1_swap_35 : decode cX1_swap 35 = .ok (.goto 4, 3) := dk_167 0 4 (dk_at dksX1_swap_1 11 rfl rfl)
theorem dX1_swap_38 : decode cX1_swap 38 = .ok (.iconst 0, 1) := dk_3 (dk_at dksX1_swap_1 14 rfl rfl)
theorem dX1_swap_39 : decode cX1_swap 39 = .ok (.ireturn, 1) := dk_172 (dk_at dksX1_swap_1 15 rfl rfl)
theorem dX1_swap_40 : decode cX1_swap 40 = .ok (.aload_n 0, 1) := dk_42 (dk_at dksX1_swap_1 16 rfl rfl)
theorem dX1_swap_41 : decode cX1_swap 41 = .ok (.aload_n 0, 1) := dk_42 (dk_at dksX1_swap_1 17 rfl rfl)
theorem dX1_swap_42 : decode cX1_swap 42 = .ok (.iload_n 1, 1) := dk_27 (dk_at dksX1_swap_1 18 rfl rfl)
theorem dX1_swap_43 : decode cX1_swap 43 = .ok (.iload_n 2, 1) := dk_28 (dk_at dksX1_swap_1 19 rfl rfl)
theorem dX1_swap_44 : decode cX1_swap 44 = .ok (.invokedynamic 407, 5) := by decide +kernel
theorem dX1_swap_49 : decode cX1_swap 49 = .ok (.invokevirtual 389, 3) := dk_182 1 133 (dk_at dksX1_swap_2 5 rfl rfl)
theorem dX1_swap_52 : decode cX1_swap 52 = .ok (.aload_n 0, 1) := dk_42 (dk_at dksX1_swap_2 8 rfl rfl)
theorem dX1_swap_53 : decode cX1_swap 53 = .ok (.getfield 124, 3) := dk_180 0 124 (dk_at dksX1_swap_2 9 rfl rfl)
theorem dX1_swap_56 : decode cX1_swap 56 = .ok (.iload_n 1, 1) := dk_27 (dk_at dksX1_swap_2 12 rfl rfl)
theorem dX1_swap_57 : decode cX1_swap 57 = .ok (.iload_n 2, 1) := dk_28 (dk_at dksX1_swap_2 13 rfl rfl)
theorem dX1_swap_58 : decode cX1_swap 58 = .ok (.invokevirtual 410, 3) := dk_182 1 154 (dk_at dksX1_swap_2 14 rfl rfl)
theorem dX1_swap_61 : decode cX1_swap 61 = .ok (.iconst 1, 1) := dk_4 (dk_at dksX1_swap_2 17 rfl rfl)
theorem dX1_swap_62 : decode cX1_swap 62 = .ok (.ireturn, 1) := dk_172 (dk_at dksX1_swap_2 18 rfl rfl)
abbrev cX1_lambda_swap_4 : ByteArray := prog_1_method_98_code
def yX1_lambda_swap_4 : MethodName := ⟨RX1, "lambda$swap$4", "(II)V"⟩
def dkwX1_lambda_swap_4_0 : List UInt8 := [42, 180, 0, 124, 27, 28, 182, 1, 154, 177]
abbrev dktX1_lambda_swap_4_0 : List UInt8 := dkwX1_lambda_swap_4_0 ++ []
theorem dksX1_lambda_swap_4_0 : cX1_lambda_swap_4.data.toList.drop 0 = dktX1_lambda_swap_4_0 := by decide +kernel
theorem dX1_lambda_swap_4_0 : decode cX1_lambda_swap_4 0 = .ok (.aload_n 0, 1) := dk_42 (dk_at dksX1_lambda_swap_4_0 0 rfl rfl)
theorem dX1_lambda_swap_4_1 : decode cX1_lambda_swap_4 1 = .ok (.getfield 124, 3) := dk_180 0 124 (dk_at dksX1_lambda_swap_4_0 1 rfl rfl)
theorem dX1_lambda_swap_4_4 : decode cX1_lambda_swap_4 4 = .ok (.iload_n 1, 1) := dk_27 (dk_at dksX1_lambda_swap_4_0 4 rfl rfl)
theorem dX1_lambda_swap_4_5 : decode cX1_lambda_swap_4 5 = .ok (.iload_n 2, 1) := dk_28 (dk_at dksX1_lambda_swap_4_0 5 rfl rfl)
theorem dX1_lambda_swap_4_6 : decode cX1_lambda_swap_4 6 = .ok (.invokevirtual 410, 3) := dk_182 1 154 (dk_at dksX1_lambda_swap_4_0 6 rfl rfl)
theorem dX1_lambda_swap_4_9 : decode cX1_lambda_swap_4 9 = .ok (.return_, 1) := dk_177 (dk_at dksX1_lambda_swap_4_0 9 rfl rfl)
abbrev cX1_turn : ByteArray := prog_1_method_61_code
def yX1_turn : MethodName := ⟨RX1, "turn", "()I"⟩
def dkwX1_turn_1 : List UInt8 := [172, 76, 42, 182, 1, 139, 172]
abbrev dktX1_turn_1 : List UInt8 := dkwX1_turn_1 ++ []
def dkwX1_turn_0 : List UInt8 := [42, 180, 0, 124, 182, 1, 107, 76, 42, 182, 1, 142, 42, 180, 0, 124, 43, 182, 0, 207, 43, 180, 0, 7]
abbrev dktX1_turn_0 : List UInt8 := dkwX1_turn_0 ++ dktX1_turn_1
theorem dksX1_turn_0 : cX1_turn.data.toList.drop 0 = dktX1_turn_0 := by decide +kernel
theorem dksX1_turn_1 : cX1_turn.data.toList.drop 24 = dktX1_turn_1 := dk_seg dksX1_turn_0 24 rfl rfl
theorem dX1_turn_0 : decode cX1_turn 0 = .ok (.aload_n 0, 1) := dk_42 (dk_at dksX1_turn_0 0 rfl rfl)
theorem dX1_turn_1 : decode cX1_turn 1 = .ok (.getfield 124, 3) := dk_180 0 124 (dk_at dksX1_turn_0 1 rfl rfl)
theorem dX1_turn_4 : decode cX1_turn 4 = .ok (.invokevirtual 363, 3) := dk_182 1 107 (dk_at dksX1_turn_0 4 rfl rfl)
theorem dX1_turn_7 : decode cX1_turn 7 = .ok (.astore_n 1, 1) := dk_76 (dk_at dksX1_turn_0 7 rfl rfl)
theorem dX1_turn_8 : decode cX1_turn 8 = .ok (.aload_n 0, 1) := dk_42 (dk_at dksX1_turn_0 8 rfl rfl)
theorem dX1_turn_9 : decode cX1_turn 9 = .ok (.invokevirtual 398, 3) := dk_182 1 142 (dk_at dksX1_turn_0 9 rfl rfl)
theorem dX1_turn_12 : decode cX1_turn 12 = .ok (.aload_n 0, 1) := dk_42 (dk_at dksX1_turn_0 12 rfl rfl)
theorem dX1_turn_13 : decode cX1_turn 13 = .ok (.getfield 124, 3) := dk_180 0 124 (dk_at dksX1_turn_0 13 rfl rfl)
theorem dX1_turn_16 : decode cX1_turn 16 = .ok (.aload_n 1, 1) := dk_43 (dk_at dksX1_turn_0 16 rfl rfl)
theorem dX1_turn_17 : decode cX1_turn 17 = .ok (.invokevirtual 207, 3) := dk_182 0 207 (dk_at dksX1_turn_0 17 rfl rfl)
theorem dX1_turn_20 : decode cX1_turn 20 = .ok (.aload_n 1, 1) := dk_43 (dk_at dksX1_turn_0 20 rfl rfl)
theorem dX1_turn_21 : decode cX1_turn 21 = .ok (.getfield 7, 3) := dk_180 0 7 (dk_at dksX1_turn_0 21 rfl rfl)
theorem dX1_turn_24 : decode cX1_turn 24 = .ok (.ireturn, 1) := dk_172 (dk_at dksX1_turn_1 0 rfl rfl)
theorem dX1_turn_25 : decode cX1_turn 25 = .ok (.astore_n 1, 1) := dk_76 (dk_at dksX1_turn_1 1 rfl rfl)
theorem dX1_turn_26 : decode cX1_turn 26 = .ok (.aload_n 0, 1) := dk_42 (dk_at dksX1_turn_1 2 rfl rfl)
theorem dX1_turn_27 : decode cX1_turn 27 = .ok (.invokevirtual 395, 3) := dk_182 1 139 (dk_at dksX1_turn_1 3 rfl rfl)
theorem dX1_turn_30 : decode cX1_turn 30 = .ok (.ireturn, 1) := dk_172 (dk_at dksX1_turn_1 6 rfl rfl)
abbrev cX1_grow : ByteArray := prog_1_method_62_code
def yX1_grow : MethodName := ⟨RX1, "grow", "(Z)I"⟩
def dkwX1_grow_2 : List UInt8 := [182, 1, 157, 167, 0, 10, 42, 180, 0, 124, 182, 1, 160, 42, 180, 0, 124, 180, 0, 1, 172]
abbrev dktX1_grow_2 : List UInt8 := dkwX1_grow_2 ++ []
def dkwX1_grow_1 : List UInt8 := [180, 0, 1, 4, 160, 0, 8, 42, 182, 1, 139, 172, 42, 182, 1, 142, 27, 153, 0, 13, 42, 180, 0, 124]
abbrev dktX1_grow_1 : List UInt8 := dkwX1_grow_1 ++ dktX1_grow_2
def dkwX1_grow_0 : List UInt8 := [27, 153, 0, 18, 42, 180, 0, 124, 180, 0, 1, 16, 8, 160, 0, 22, 167, 0, 14, 42, 180, 0, 124]
abbrev dktX1_grow_0 : List UInt8 := dkwX1_grow_0 ++ dktX1_grow_1
theorem dksX1_grow_0 : cX1_grow.data.toList.drop 0 = dktX1_grow_0 := by decide +kernel
theorem dksX1_grow_1 : cX1_grow.data.toList.drop 23 = dktX1_grow_1 := dk_seg dksX1_grow_0 23 rfl rfl
theorem dksX1_grow_2 : cX1_grow.data.toList.drop 47 = dktX1_grow_2 := dk_seg dksX1_grow_1 24 rfl rfl
theorem dX1_grow_0 : decode cX1_grow 0 = .ok (.iload_n 1, 1) := dk_27 (dk_at dksX1_grow_0 0 rfl rfl)
theorem dX1_grow_1 : decode cX1_grow 1 = .ok (.ifCond .eq 18, 3) := dk_153 0 18 (dk_at dksX1_grow_0 1 rfl rfl)
theorem dX1_grow_4 : decode cX1_grow 4 = .ok (.aload_n 0, 1) := dk_42 (dk_at dksX1_grow_0 4 rfl rfl)
theorem dX1_grow_5 : decode cX1_grow 5 = .ok (.getfield 124, 3) := dk_180 0 124 (dk_at dksX1_grow_0 5 rfl rfl)
theorem dX1_grow_8 : decode cX1_grow 8 = .ok (.getfield 1, 3) := dk_180 0 1 (dk_at dksX1_grow_0 8 rfl rfl)
theorem dX1_grow_11 : decode cX1_grow 11 = .ok (.bipush 8, 2) := dk_16 8 (dk_at dksX1_grow_0 11 rfl rfl)
theorem dX1_grow_13 : decode cX1_grow 13 = .ok (.if_icmp .ne 22, 3) := dk_160 0 22 (dk_at dksX1_grow_0 13 rfl rfl)
theorem dX1_grow_16 : decode cX1_grow 16 = .ok (.goto 14, 3) := dk_167 0 14 (dk_at dksX1_grow_0 16 rfl rfl)
theorem dX1_grow_19 : decode cX1_grow 19 = .ok (.aload_n 0, 1) := dk_42 (dk_at dksX1_grow_0 19 rfl rfl)
theorem dX1_grow_20 : decode cX1_grow 20 = .ok (.getfield 124, 3) := dk_180 0 124 (dk_at dksX1_grow_0 20 rfl rfl)
theorem dX1_grow_23 : decode cX1_grow 23 = .ok (.getfield 1, 3) := dk_180 0 1 (dk_at dksX1_grow_1 0 rfl rfl)
theorem dX1_grow_26 : decode cX1_grow 26 = .ok (.iconst 1, 1) := dk_4 (dk_at dksX1_grow_1 3 rfl rfl)
theorem dX1_grow_27 : decode cX1_grow 27 = .ok (.if_icmp .ne 8, 3) := dk_160 0 8 (dk_at dksX1_grow_1 4 rfl rfl)
theorem dX1_grow_30 : decode cX1_grow 30 = .ok (.aload_n 0, 1) := dk_42 (dk_at dksX1_grow_1 7 rfl rfl)
theorem dX1_grow_31 : decode cX1_grow 31 = .ok (.invokevirtual 395, 3) := dk_182 1 139 (dk_at dksX1_grow_1 8 rfl rfl)
theorem dX1_grow_34 : decode cX1_grow 34 = .ok (.ireturn, 1) := dk_172 (dk_at dksX1_grow_1 11 rfl rfl)
theorem dX1_grow_35 : decode cX1_grow 35 = .ok (.aload_n 0, 1) := dk_42 (dk_at dksX1_grow_1 12 rfl rfl)
theorem dX1_grow_36 : decode cX1_grow 36 = .ok (.invokevirtual 398, 3) := dk_182 1 142 (dk_at dksX1_grow_1 13 rfl rfl)
theorem dX1_grow_39 : decode cX1_grow 39 = .ok (.iload_n 1, 1) := dk_27 (dk_at dksX1_grow_1 16 rfl rfl)
theorem dX1_grow_40 : decode cX1_grow 40 = .ok (.ifCond .eq 13, 3) := dk_153 0 13 (dk_at dksX1_grow_1 17 rfl rfl)
theorem dX1_grow_43 : decode cX1_grow 43 = .ok (.aload_n 0, 1) := dk_42 (dk_at dksX1_grow_1 20 rfl rfl)
theorem dX1_grow_44 : decode cX1_grow 44 = .ok (.getfield 124, 3) := dk_180 0 124 (dk_at dksX1_grow_1 21 rfl rfl)
theorem dX1_grow_47 : decode cX1_grow 47 = .ok (.invokevirtual 413, 3) := dk_182 1 157 (dk_at dksX1_grow_2 0 rfl rfl)
theorem dX1_grow_50 : decode cX1_grow 50 = .ok (.goto 10, 3) := dk_167 0 10 (dk_at dksX1_grow_2 3 rfl rfl)
theorem dX1_grow_53 : decode cX1_grow 53 = .ok (.aload_n 0, 1) := dk_42 (dk_at dksX1_grow_2 6 rfl rfl)
theorem dX1_grow_54 : decode cX1_grow 54 = .ok (.getfield 124, 3) := dk_180 0 124 (dk_at dksX1_grow_2 7 rfl rfl)
theorem dX1_grow_57 : decode cX1_grow 57 = .ok (.invokevirtual 416, 3) := dk_182 1 160 (dk_at dksX1_grow_2 10 rfl rfl)
theorem dX1_grow_60 : decode cX1_grow 60 = .ok (.aload_n 0, 1) := dk_42 (dk_at dksX1_grow_2 13 rfl rfl)
theorem dX1_grow_61 : decode cX1_grow 61 = .ok (.getfield 124, 3) := dk_180 0 124 (dk_at dksX1_grow_2 14 rfl rfl)
theorem dX1_grow_64 : decode cX1_grow 64 = .ok (.getfield 1, 3) := dk_180 0 1 (dk_at dksX1_grow_2 17 rfl rfl)
theorem dX1_grow_67 : decode cX1_grow 67 = .ok (.ireturn, 1) := dk_172 (dk_at dksX1_grow_2 20 rfl rfl)
abbrev cX1_place : ByteArray := prog_1_method_64_code
def yX1_place : MethodName := ⟨RX1, "place", "(III)Z"⟩
def dkwX1_place_3 : List UInt8 := [21, 4, 21, 5, 186, 1, 163, 0, 0, 182, 1, 133, 42, 27, 28, 29, 182, 1, 166, 4, 172]
abbrev dktX1_place_3 : List UInt8 := dkwX1_place_3 ++ []
def dkwX1_place_2 : List UInt8 := [180, 0, 124, 180, 1, 24, 27, 46, 54, 4, 42, 180, 0, 124, 180, 1, 27, 27, 46, 54, 5, 42, 42, 27]
abbrev dktX1_place_2 : List UInt8 := dkwX1_place_2 ++ dktX1_place_3
def dkwX1_place_1 : List UInt8 := [16, 247, 16, 9, 184, 0, 88, 154, 0, 16, 42, 182, 1, 139, 154, 0, 7, 4, 167, 0, 4, 3, 172, 42]
abbrev dktX1_place_1 : List UInt8 := dkwX1_place_1 ++ dktX1_place_2
def dkwX1_place_0 : List UInt8 := [42, 180, 0, 124, 27, 182, 1, 97, 153, 0, 25, 28, 16, 247, 16, 9, 184, 0, 88, 153, 0, 14, 29]
abbrev dktX1_place_0 : List UInt8 := dkwX1_place_0 ++ dktX1_place_1
theorem dksX1_place_0 : cX1_place.data.toList.drop 0 = dktX1_place_0 := by decide +kernel
theorem dksX1_place_1 : cX1_place.data.toList.drop 23 = dktX1_place_1 := dk_seg dksX1_place_0 23 rfl rfl
theorem dksX1_place_2 : cX1_place.data.toList.drop 47 = dktX1_place_2 := dk_seg dksX1_place_1 24 rfl rfl
theorem dksX1_place_3 : cX1_place.data.toList.drop 71 = dktX1_place_3 := dk_seg dksX1_place_2 24 rfl rfl
theorem dX1_place_0 : decode cX1_place 0 = .ok (.aload_n 0, 1) := dk_42 (dk_at dksX1_place_0 0 rfl rfl)
theorem dX1_place_1 : decode cX1_place 1 = .ok (.getfield 124, 3) := dk_180 0 124 (dk_at dksX1_place_0 1 rfl rfl)
theorem dX1_place_4 : decode cX1_place 4 = .ok (.iload_n 1, 1) := dk_27 (dk_at dksX1_place_0 4 rfl rfl)
theorem dX1_place_5 : decode cX1_place 5 = .ok (.invokevirtual 353, 3) := dk_182 1 97 (dk_at dksX1_place_0 5 rfl rfl)
theorem dX1_place_8 : decode cX1_place 8 = .ok (.ifCond .eq 25, 3) := dk_153 0 25 (dk_at dksX1_place_0 8 rfl rfl)
theorem dX1_place_11 : decode cX1_place 11 = .ok (.iload_n 2, 1) := dk_28 (dk_at dksX1_place_0 11 rfl rfl)
theorem dX1_place_12 : decode cX1_place 12 = .ok (.bipush (-9), 2) := dk_16 247 (dk_at dksX1_place_0 12 rfl rfl)
theorem dX1_place_14 : decode cX1_place 14 = .ok (.bipush 9, 2) := dk_16 9 (dk_at dksX1_place_0 14 rfl rfl)
theorem dX1_place_16 : decode cX1_place 16 = .ok (.invokestatic 88, 3) := dk_184 0 88 (dk_at dksX1_place_0 16 rfl rfl)
theorem dX1_place_19 : decode cX1_place 19 = .ok (.ifCond .eq 14, 3) := dk_153 0 14 (dk_at dksX1_place_0 19 rfl rfl)
theorem dX1_place_22 : decode cX1_place 22 = .ok (.iload_n 3, 1) := dk_29 (dk_at dksX1_place_0 22 rfl rfl)
theorem dX1_place_23 : decode cX1_place 23 = .ok (.bipush (-9), 2) := dk_16 247 (dk_at dksX1_place_1 0 rfl rfl)
theorem dX1_place_25 : decode cX1_place 25 = .ok (.bipush 9, 2) := dk_16 9 (dk_at dksX1_place_1 2 rfl rfl)
theorem dX1_place_27 : decode cX1_place 27 = .ok (.invokestatic 88, 3) := dk_184 0 88 (dk_at dksX1_place_1 4 rfl rfl)
theorem dX1_place_30 : decode cX1_place 30 = .ok (.ifCond .ne 16, 3) := dk_154 0 16 (dk_at dksX1_place_1 7 rfl rfl)
theorem dX1_place_33 : decode cX1_place 33 = .ok (.aload_n 0, 1) := dk_42 (dk_at dksX1_place_1 10 rfl rfl)
theorem dX1_place_34 : decode cX1_place 34 = .ok (.invokevirtual 395, 3) := dk_182 1 139 (dk_at dksX1_place_1 11 rfl rfl)
theorem dX1_place_37 : decode cX1_place 37 = .ok (.ifCond .ne 7, 3) := dk_154 0 7 (dk_at dksX1_place_1 14 rfl rfl)
theorem dX1_place_40 : decode cX1_place 40 = .ok (.iconst 1, 1) := dk_4 (dk_at dksX1_place_1 17 rfl rfl)
theorem dX1_place_41 : decode cX1_place 41 = .ok (.goto 4, 3) := dk_167 0 4 (dk_at dksX1_place_1 18 rfl rfl)
theorem dX1_place_44 : decode cX1_place 44 = .ok (.iconst 0, 1) := dk_3 (dk_at dksX1_place_1 21 rfl rfl)
theorem dX1_place_45 : decode cX1_place 45 = .ok (.ireturn, 1) := dk_172 (dk_at dksX1_place_1 22 rfl rfl)
theorem dX1_place_46 : decode cX1_place 46 = .ok (.aload_n 0, 1) := dk_42 (dk_at dksX1_place_1 23 rfl rfl)
theorem dX1_place_47 : decode cX1_place 47 = .ok (.getfield 124, 3) := dk_180 0 124 (dk_at dksX1_place_2 0 rfl rfl)
theorem dX1_place_50 : decode cX1_place 50 = .ok (.getfield 280, 3) := dk_180 1 24 (dk_at dksX1_place_2 3 rfl rfl)
theorem dX1_place_53 : decode cX1_place 53 = .ok (.iload_n 1, 1) := dk_27 (dk_at dksX1_place_2 6 rfl rfl)
theorem dX1_place_54 : decode cX1_place 54 = .ok (.iaload, 1) := dk_46 (dk_at dksX1_place_2 7 rfl rfl)
theorem dX1_place_55 : decode cX1_place 55 = .ok (.istore 4, 2) := dk_54 4 (dk_at dksX1_place_2 8 rfl rfl)
theorem dX1_place_57 : decode cX1_place 57 = .ok (.aload_n 0, 1) := dk_42 (dk_at dksX1_place_2 10 rfl rfl)
theorem dX1_place_58 : decode cX1_place 58 = .ok (.getfield 124, 3) := dk_180 0 124 (dk_at dksX1_place_2 11 rfl rfl)
theorem dX1_place_61 : decode cX1_place 61 = .ok (.getfield 283, 3) := dk_180 1 27 (dk_at dksX1_place_2 14 rfl rfl)
theorem dX1_place_64 : decode cX1_place 64 = .ok (.iload_n 1, 1) := dk_27 (dk_at dksX1_place_2 17 rfl rfl)
theorem dX1_place_65 : decode cX1_place 65 = .ok (.iaload, 1) := dk_46 (dk_at dksX1_place_2 18 rfl rfl)
theorem dX1_place_66 : decode cX1_place 66 = .ok (.istore 5, 2) := dk_54 5 (dk_at dksX1_place_2 19 rfl rfl)
theorem dX1_place_68 : decode cX1_place 68 = .ok (.aload_n 0, 1) := dk_42 (dk_at dksX1_place_2 21 rfl rfl)
theorem dX1_place_69 : decode cX1_place 69 = .ok (.aload_n 0, 1) := dk_42 (dk_at dksX1_place_2 22 rfl rfl)
theorem dX1_place_70 : decode cX1_place 70 = .ok (.iload_n 1, 1) := dk_27 (dk_at dksX1_place_2 23 rfl rfl)
theorem dX1_place_71 : decode cX1_place 71 = .ok (.iload 4, 2) := dk_21 4 (dk_at dksX1_place_3 0 rfl rfl)
theorem dX1_place_73 : decode cX1_place 73 = .ok (.iload 5, 2) := dk_21 5 (dk_at dksX1_place_3 2 rfl rfl)
theorem dX1_place_75 : decode cX1_place 75 = .ok (.invokedynamic 419, 5) := by decide +kernel
theorem dX1_place_80 : decode cX1_place 80 = .ok (.invokevirtual 389, 3) := dk_182 1 133 (dk_at dksX1_place_3 9 rfl rfl)
theorem dX1_place_83 : decode cX1_place 83 = .ok (.aload_n 0, 1) := dk_42 (dk_at dksX1_place_3 12 rfl rfl)
theorem dX1_place_84 : decode cX1_place 84 = .ok (.iload_n 1, 1) := dk_27 (dk_at dksX1_place_3 13 rfl rfl)
theorem dX1_place_85 : decode cX1_place 85 = .ok (.iload_n 2, 1) := dk_28 (dk_at dksX1_place_3 14 rfl rfl)
theorem dX1_place_86 : decode cX1_place 86 = .ok (.iload_n 3, 1) := dk_29 (dk_at dksX1_place_3 15 rfl rfl)
theorem dX1_place_87 : decode cX1_place 87 = .ok (.invokevirtual 422, 3) := dk_182 1 166 (dk_at dksX1_place_3 16 rfl rfl)
theorem dX1_place_90 : decode cX1_place 90 = .ok (.iconst 1, 1) := dk_4 (dk_at dksX1_place_3 19 rfl rfl)
theorem dX1_place_91 : decode cX1_place 91 = .ok (.ireturn, 1) := dk_172 (dk_at dksX1_place_3 20 rfl rfl)
abbrev cX1_within : ByteArray := prog_1_method_12_code
def yX1_within : MethodName := ⟨RX1, "within", "(III)Z"⟩
def dkwX1_within_0 : List UInt8 := [26, 27, 161, 0, 12, 26, 28, 163, 0, 7, 4, 167, 0, 4, 3, 172]
abbrev dktX1_within_0 : List UInt8 := dkwX1_within_0 ++ []
theorem dksX1_within_0 : cX1_within.data.toList.drop 0 = dktX1_within_0 := by decide +kernel
theorem dX1_within_0 : decode cX1_within 0 = .ok (.iload_n 0, 1) := dk_26 (dk_at dksX1_within_0 0 rfl rfl)
theorem dX1_within_1 : decode cX1_within 1 = .ok (.iload_n 1, 1) := dk_27 (dk_at dksX1_within_0 1 rfl rfl)
theorem dX1_within_2 : decode cX1_within 2 = .ok (.if_icmp .lt 12, 3) := dk_161 0 12 (dk_at dksX1_within_0 2 rfl rfl)
theorem dX1_within_5 : decode cX1_within 5 = .ok (.iload_n 0, 1) := dk_26 (dk_at dksX1_within_0 5 rfl rfl)
theorem dX1_within_6 : decode cX1_within 6 = .ok (.iload_n 2, 1) := dk_28 (dk_at dksX1_within_0 6 rfl rfl)
theorem dX1_within_7 : decode cX1_within 7 = .ok (.if_icmp .gt 7, 3) := dk_163 0 7 (dk_at dksX1_within_0 7 rfl rfl)
theorem dX1_within_10 : decode cX1_within 10 = .ok (.iconst 1, 1) := dk_4 (dk_at dksX1_within_0 10 rfl rfl)
theorem dX1_within_11 : decode cX1_within 11 = .ok (.goto 4, 3) := dk_167 0 4 (dk_at dksX1_within_0 11 rfl rfl)
theorem dX1_within_14 : decode cX1_within 14 = .ok (.iconst 0, 1) := dk_3 (dk_at dksX1_within_0 14 rfl rfl)
theorem dX1_within_15 : decode cX1_within 15 = .ok (.ireturn, 1) := dk_172 (dk_at dksX1_within_0 15 rfl rfl)
abbrev cX1_lambda_place_5 : ByteArray := prog_1_method_97_code
def yX1_lambda_place_5 : MethodName := ⟨RX1, "lambda$place$5", "(III)V"⟩
def dkwX1_lambda_place_5_0 : List UInt8 := [42, 27, 28, 29, 182, 1, 166, 177]
abbrev dktX1_lambda_place_5_0 : List UInt8 := dkwX1_lambda_place_5_0 ++ []
theorem dksX1_lambda_place_5_0 : cX1_lambda_place_5.data.toList.drop 0 = dktX1_lambda_place_5_0 := by decide +kernel
theorem dX1_lambda_place_5_0 : decode cX1_lambda_place_5 0 = .ok (.aload_n 0, 1) := dk_42 (dk_at dksX1_lambda_place_5_0 0 rfl rfl)
theorem dX1_lambda_place_5_1 : decode cX1_lambda_place_5 1 = .ok (.iload_n 1, 1) := dk_27 (dk_at dksX1_lambda_place_5_0 1 rfl rfl)
theorem dX1_lambda_place_5_2 : decode cX1_lambda_place_5 2 = .ok (.iload_n 2, 1) := dk_28 (dk_at dksX1_lambda_place_5_0 2 rfl rfl)
theorem dX1_lambda_place_5_3 : decode cX1_lambda_place_5 3 = .ok (.iload_n 3, 1) := dk_29 (dk_at dksX1_lambda_place_5_0 3 rfl rfl)
theorem dX1_lambda_place_5_4 : decode cX1_lambda_place_5 4 = .ok (.invokevirtual 422, 3) := dk_182 1 166 (dk_at dksX1_lambda_place_5_0 4 rfl rfl)
theorem dX1_lambda_place_5_7 : decode cX1_lambda_place_5 7 = .ok (.return_, 1) := dk_177 (dk_at dksX1_lambda_place_5_0 7 rfl rfl)
abbrev cX1_lies : ByteArray := prog_1_method_63_code
def yX1_lies : MethodName := ⟨RX1, "lies", "(III)V"⟩
def dkwX1_lies_0 : List UInt8 := [42, 180, 0, 124, 180, 1, 24, 27, 28, 79, 42, 180, 0, 124, 180, 1, 27, 27, 29, 79, 177]
abbrev dktX1_lies_0 : List UInt8 := dkwX1_lies_0 ++ []
theorem dksX1_lies_0 : cX1_lies.data.toList.drop 0 = dktX1_lies_0 := by decide +kernel
theorem dX1_lies_0 : decode cX1_lies 0 = .ok (.aload_n 0, 1) := dk_42 (dk_at dksX1_lies_0 0 rfl rfl)
theorem dX1_lies_1 : decode cX1_lies 1 = .ok (.getfield 124, 3) := dk_180 0 124 (dk_at dksX1_lies_0 1 rfl rfl)
theorem dX1_lies_4 : decode cX1_lies 4 = .ok (.getfield 280, 3) := dk_180 1 24 (dk_at dksX1_lies_0 4 rfl rfl)
theorem dX1_lies_7 : decode cX1_lies 7 = .ok (.iload_n 1, 1) := dk_27 (dk_at dksX1_lies_0 7 rfl rfl)
theorem dX1_lies_8 : decode cX1_lies 8 = .ok (.iload_n 2, 1) := dk_28 (dk_at dksX1_lies_0 8 rfl rfl)
theorem dX1_lies_9 : decode cX1_lies 9 = .ok (.iastore, 1) := dk_79 (dk_at dksX1_lies_0 9 rfl rfl)
theorem dX1_lies_10 : decode cX1_lies 10 = .ok (.aload_n 0, 1) := dk_42 (dk_at dksX1_lies_0 10 rfl rfl)
theorem dX1_lies_11 : decode cX1_lies 11 = .ok (.getfield 124, 3) := dk_180 0 124 (dk_at dksX1_lies_0 11 rfl rfl)
theorem dX1_lies_14 : decode cX1_lies 14 = .ok (.getfield 283, 3) := dk_180 1 27 (dk_at dksX1_lies_0 14 rfl rfl)
theorem dX1_lies_17 : decode cX1_lies 17 = .ok (.iload_n 1, 1) := dk_27 (dk_at dksX1_lies_0 17 rfl rfl)
theorem dX1_lies_18 : decode cX1_lies 18 = .ok (.iload_n 3, 1) := dk_29 (dk_at dksX1_lies_0 18 rfl rfl)
theorem dX1_lies_19 : decode cX1_lies 19 = .ok (.iastore, 1) := dk_79 (dk_at dksX1_lies_0 19 rfl rfl)
theorem dX1_lies_20 : decode cX1_lies 20 = .ok (.return_, 1) := dk_177 (dk_at dksX1_lies_0 20 rfl rfl)
abbrev cX1_put : ByteArray := prog_1_method_66_code
def yX1_put : MethodName := ⟨RX1, "put", "(I)I"⟩
def dkwX1_put_2 : List UInt8 := [199, 0, 7, 3, 167, 0, 4, 4, 172]
abbrev dktX1_put_2 : List UInt8 := dkwX1_put_2 ++ []
def dkwX1_put_1 : List UInt8 := [44, 186, 1, 169, 0, 0, 182, 1, 133, 42, 180, 0, 134, 27, 42, 180, 0, 124, 182, 1, 127, 83, 44]
abbrev dktX1_put_1 : List UInt8 := dkwX1_put_1 ++ dktX1_put_2
def dkwX1_put_0 : List UInt8 := [27, 3, 6, 184, 0, 88, 154, 0, 8, 42, 182, 1, 139, 172, 42, 180, 0, 134, 27, 50, 77, 42, 42, 27]
abbrev dktX1_put_0 : List UInt8 := dkwX1_put_0 ++ dktX1_put_1
theorem dksX1_put_0 : cX1_put.data.toList.drop 0 = dktX1_put_0 := by decide +kernel
theorem dksX1_put_1 : cX1_put.data.toList.drop 24 = dktX1_put_1 := dk_seg dksX1_put_0 24 rfl rfl
theorem dksX1_put_2 : cX1_put.data.toList.drop 47 = dktX1_put_2 := dk_seg dksX1_put_1 23 rfl rfl
theorem dX1_put_0 : decode cX1_put 0 = .ok (.iload_n 1, 1) := dk_27 (dk_at dksX1_put_0 0 rfl rfl)
theorem dX1_put_1 : decode cX1_put 1 = .ok (.iconst 0, 1) := dk_3 (dk_at dksX1_put_0 1 rfl rfl)
theorem dX1_put_2 : decode cX1_put 2 = .ok (.iconst 3, 1) := dk_6 (dk_at dksX1_put_0 2 rfl rfl)
theorem dX1_put_3 : decode cX1_put 3 = .ok (.invokestatic 88, 3) := dk_184 0 88 (dk_at dksX1_put_0 3 rfl rfl)
theorem dX1_put_6 : decode cX1_put 6 = .ok (.ifCond .ne 8, 3) := dk_154 0 8 (dk_at dksX1_put_0 6 rfl rfl)
theorem dX1_put_9 : decode cX1_put 9 = .ok (.aload_n 0, 1) := dk_42 (dk_at dksX1_put_0 9 rfl rfl)
theorem dX1_put_10 : decode cX1_put 10 = .ok (.invokevirtual 395, 3) := dk_182 1 139 (dk_at dksX1_put_0 10 rfl rfl)
theorem dX1_put_13 : decode cX1_put 13 = .ok (.ireturn, 1) := dk_172 (dk_at dksX1_put_0 13 rfl rfl)
theorem dX1_put_14 : decode cX1_put 14 = .ok (.aload_n 0, 1) := dk_42 (dk_at dksX1_put_0 14 rfl rfl)
theorem dX1_put_15 : decode cX1_put 15 = .ok (.getfield 134, 3) := dk_180 0 134 (dk_at dksX1_put_0 15 rfl rfl)
theorem dX1_put_18 : decode cX1_put 18 = .ok (.iload_n 1, 1) := dk_27 (dk_at dksX1_put_0 18 rfl rfl)
theorem dX1_put_19 : decode cX1_put 19 = .ok (.aaload, 1) := dk_50 (dk_at dksX1_put_0 19 rfl rfl)
theorem dX1_put_20 : decode cX1_put 20 = .ok (.astore_n 2, 1) := dk_77 (dk_at dksX1_put_0 20 rfl rfl)
theorem dX1_put_21 : decode cX1_put 21 = .ok (.aload_n 0, 1) := dk_42 (dk_at dksX1_put_0 21 rfl rfl)
theorem dX1_put_22 : decode cX1_put 22 = .ok (.aload_n 0, 1) := dk_42 (dk_at dksX1_put_0 22 rfl rfl)
theorem dX1_put_23 : decode cX1_put 23 = .ok (.iload_n 1, 1) := dk_27 (dk_at dksX1_put_0 23 rfl rfl)
theorem dX1_put_24 : decode cX1_put 24 = .ok (.aload_n 2, 1) := dk_44 (dk_at dksX1_put_1 0 rfl rfl)
theorem dX1_put_25 : decode cX1_put 25 = .ok (.invokedynamic 425, 5) := by decide +kernel
theorem dX1_put_30 : decode cX1_put 30 = .ok (.invokevirtual 389, 3) := dk_182 1 133 (dk_at dksX1_put_1 6 rfl rfl)
theorem dX1_put_33 : decode cX1_put 33 = .ok (.aload_n 0, 1) := dk_42 (dk_at dksX1_put_1 9 rfl rfl)
theorem dX1_put_34 : decode cX1_put 34 = .ok (.getfield 134, 3) := dk_180 0 134 (dk_at dksX1_put_1 10 rfl rfl)
theorem dX1_put_37 : decode cX1_put 37 = .ok (.iload_n 1, 1) := dk_27 (dk_at dksX1_put_1 13 rfl rfl)
theorem dX1_put_38 : decode cX1_put 38 = .ok (.aload_n 0, 1) := dk_42 (dk_at dksX1_put_1 14 rfl rfl)
theorem dX1_put_39 : decode cX1_put 39 = .ok (.getfield 124, 3) := dk_180 0 124 (dk_at dksX1_put_1 15 rfl rfl)
theorem dX1_put_42 : decode cX1_put 42 = .ok (.invokevirtual 383, 3) := dk_182 1 127 (dk_at dksX1_put_1 18 rfl rfl)
theorem dX1_put_45 : decode cX1_put 45 = .ok (.aastore, 1) := dk_83 (dk_at dksX1_put_1 21 rfl rfl)
theorem dX1_put_46 : decode cX1_put 46 = .ok (.aload_n 2, 1) := dk_44 (dk_at dksX1_put_1 22 rfl rfl)
theorem dX1_put_47 : decode cX1_put 47 = .ok (.ifnonnull 7, 3) := dk_199 0 7 (dk_at dksX1_put_2 0 rfl rfl)
theorem dX1_put_50 : decode cX1_put 50 = .ok (.iconst 0, 1) := dk_3 (dk_at dksX1_put_2 3 rfl rfl)
theorem dX1_put_51 : decode cX1_put 51 = .ok (.goto 4, 3) := dk_167 0 4 (dk_at dksX1_put_2 4 rfl rfl)
theorem dX1_put_54 : decode cX1_put 54 = .ok (.iconst 1, 1) := dk_4 (dk_at dksX1_put_2 7 rfl rfl)
theorem dX1_put_55 : decode cX1_put 55 = .ok (.ireturn, 1) := dk_172 (dk_at dksX1_put_2 8 rfl rfl)
abbrev cX1_lambda_put_6 : ByteArray := prog_1_method_96_code
def yX1_lambda_put_6 : MethodName := ⟨RX1, "lambda$put$6", "(ILSchemeLister$Scheme;)V"⟩
def dkwX1_lambda_put_6_0 : List UInt8 := [42, 27, 44, 182, 2, 2, 177]
abbrev dktX1_lambda_put_6_0 : List UInt8 := dkwX1_lambda_put_6_0 ++ []
theorem dksX1_lambda_put_6_0 : cX1_lambda_put_6.data.toList.drop 0 = dktX1_lambda_put_6_0 := by decide +kernel
theorem dX1_lambda_put_6_0 : decode cX1_lambda_put_6 0 = .ok (.aload_n 0, 1) := dk_42 (dk_at dksX1_lambda_put_6_0 0 rfl rfl)
theorem dX1_lambda_put_6_1 : decode cX1_lambda_put_6 1 = .ok (.iload_n 1, 1) := dk_27 (dk_at dksX1_lambda_put_6_0 1 rfl rfl)
theorem dX1_lambda_put_6_2 : decode cX1_lambda_put_6 2 = .ok (.aload_n 2, 1) := dk_44 (dk_at dksX1_lambda_put_6_0 2 rfl rfl)
theorem dX1_lambda_put_6_3 : decode cX1_lambda_put_6 3 = .ok (.invokevirtual 514, 3) := dk_182 2 2 (dk_at dksX1_lambda_put_6_0 3 rfl rfl)
theorem dX1_lambda_put_6_6 : decode cX1_lambda_put_6 6 = .ok (.return_, 1) := dk_177 (dk_at dksX1_lambda_put_6_0 6 rfl rfl)
abbrev cX1_lays : ByteArray := prog_1_method_65_code
def yX1_lays : MethodName := ⟨RX1, "lays", "(ILSchemeLister$Scheme;)V"⟩
def dkwX1_lays_0 : List UInt8 := [42, 180, 0, 134, 27, 44, 83, 177]
abbrev dktX1_lays_0 : List UInt8 := dkwX1_lays_0 ++ []
theorem dksX1_lays_0 : cX1_lays.data.toList.drop 0 = dktX1_lays_0 := by decide +kernel
theorem dX1_lays_0 : decode cX1_lays 0 = .ok (.aload_n 0, 1) := dk_42 (dk_at dksX1_lays_0 0 rfl rfl)
theorem dX1_lays_1 : decode cX1_lays 1 = .ok (.getfield 134, 3) := dk_180 0 134 (dk_at dksX1_lays_0 1 rfl rfl)
theorem dX1_lays_4 : decode cX1_lays 4 = .ok (.iload_n 1, 1) := dk_27 (dk_at dksX1_lays_0 4 rfl rfl)
theorem dX1_lays_5 : decode cX1_lays 5 = .ok (.aload_n 2, 1) := dk_44 (dk_at dksX1_lays_0 5 rfl rfl)
theorem dX1_lays_6 : decode cX1_lays 6 = .ok (.aastore, 1) := dk_83 (dk_at dksX1_lays_0 6 rfl rfl)
theorem dX1_lays_7 : decode cX1_lays 7 = .ok (.return_, 1) := dk_177 (dk_at dksX1_lays_0 7 rfl rfl)
abbrev cX1_take : ByteArray := prog_1_method_67_code
def yX1_take : MethodName := ⟨RX1, "take", "(I)I"⟩
def dkwX1_take_1 : List UInt8 := [182, 1, 142, 42, 180, 0, 124, 42, 180, 0, 134, 27, 50, 182, 0, 207, 42, 180, 0, 124, 180, 0, 1, 172]
abbrev dktX1_take_1 : List UInt8 := dkwX1_take_1 ++ []
def dkwX1_take_0 : List UInt8 := [27, 3, 6, 184, 0, 88, 153, 0, 12, 42, 180, 0, 134, 27, 50, 199, 0, 8, 42, 182, 1, 139, 172, 42]
abbrev dktX1_take_0 : List UInt8 := dkwX1_take_0 ++ dktX1_take_1
theorem dksX1_take_0 : cX1_take.data.toList.drop 0 = dktX1_take_0 := by decide +kernel
theorem dksX1_take_1 : cX1_take.data.toList.drop 24 = dktX1_take_1 := dk_seg dksX1_take_0 24 rfl rfl
theorem dX1_take_0 : decode cX1_take 0 = .ok (.iload_n 1, 1) := dk_27 (dk_at dksX1_take_0 0 rfl rfl)
theorem dX1_take_1 : decode cX1_take 1 = .ok (.iconst 0, 1) := dk_3 (dk_at dksX1_take_0 1 rfl rfl)
theorem dX1_take_2 : decode cX1_take 2 = .ok (.iconst 3, 1) := dk_6 (dk_at dksX1_take_0 2 rfl rfl)
theorem dX1_take_3 : decode cX1_take 3 = .ok (.invokestatic 88, 3) := dk_184 0 88 (dk_at dksX1_take_0 3 rfl rfl)
theorem dX1_take_6 : decode cX1_take 6 = .ok (.ifCond .eq 12, 3) := dk_153 0 12 (dk_at dksX1_take_0 6 rfl rfl)
theorem dX1_take_9 : decode cX1_take 9 = .ok (.aload_n 0, 1) := dk_42 (dk_at dksX1_take_0 9 rfl rfl)
theorem dX1_take_10 : decode cX1_take 10 = .ok (.getfield 134, 3) := dk_180 0 134 (dk_at dksX1_take_0 10 rfl rfl)
theorem dX1_take_13 : decode cX1_take 13 = .ok (.iload_n 1, 1) := dk_27 (dk_at dksX1_take_0 13 rfl rfl)
theorem dX1_take_14 : decode cX1_take 14 = .ok (.aaload, 1) := dk_50 (dk_at dksX1_take_0 14 rfl rfl)
theorem dX1_take_15 : decode cX1_take 15 = .ok (.ifnonnull 8, 3) := dk_199 0 8 (dk_at dksX1_take_0 15 rfl rfl)
theorem dX1_take_18 : decode cX1_take 18 = .ok (.aload_n 0, 1) := dk_42 (dk_at dksX1_take_0 18 rfl rfl)
theorem dX1_take_19 : decode cX1_take 19 = .ok (.invokevirtual 395, 3) := dk_182 1 139 (dk_at dksX1_take_0 19 rfl rfl)
theorem dX1_take_22 : decode cX1_take 22 = .ok (.ireturn, 1) := dk_172 (dk_at dksX1_take_0 22 rfl rfl)
theorem dX1_take_23 : decode cX1_take 23 = .ok (.aload_n 0, 1) := dk_42 (dk_at dksX1_take_0 23 rfl rfl)
theorem dX1_take_24 : decode cX1_take 24 = .ok (.invokevirtual 398, 3) := dk_182 1 142 (dk_at dksX1_take_1 0 rfl rfl)
theorem dX1_take_27 : decode cX1_take 27 = .ok (.aload_n 0, 1) := dk_42 (dk_at dksX1_take_1 3 rfl rfl)
theorem dX1_take_28 : decode cX1_take 28 = .ok (.getfield 124, 3) := dk_180 0 124 (dk_at dksX1_take_1 4 rfl rfl)
theorem dX1_take_31 : decode cX1_take 31 = .ok (.aload_n 0, 1) := dk_42 (dk_at dksX1_take_1 7 rfl rfl)
theorem dX1_take_32 : decode cX1_take 32 = .ok (.getfield 134, 3) := dk_180 0 134 (dk_at dksX1_take_1 8 rfl rfl)
theorem dX1_take_35 : decode cX1_take 35 = .ok (.iload_n 1, 1) := dk_27 (dk_at dksX1_take_1 11 rfl rfl)
theorem dX1_take_36 : decode cX1_take 36 = .ok (.aaload, 1) := dk_50 (dk_at dksX1_take_1 12 rfl rfl)
theorem dX1_take_37 : decode cX1_take 37 = .ok (.invokevirtual 207, 3) := dk_182 0 207 (dk_at dksX1_take_1 13 rfl rfl)
theorem dX1_take_40 : decode cX1_take 40 = .ok (.aload_n 0, 1) := dk_42 (dk_at dksX1_take_1 16 rfl rfl)
theorem dX1_take_41 : decode cX1_take 41 = .ok (.getfield 124, 3) := dk_180 0 124 (dk_at dksX1_take_1 17 rfl rfl)
theorem dX1_take_44 : decode cX1_take 44 = .ok (.getfield 1, 3) := dk_180 0 1 (dk_at dksX1_take_1 20 rfl rfl)
theorem dX1_take_47 : decode cX1_take 47 = .ok (.ireturn, 1) := dk_172 (dk_at dksX1_take_1 23 rfl rfl)
abbrev cX1_undo : ByteArray := prog_1_method_68_code
def yX1_undo : MethodName := ⟨RX1, "undo", "()I"⟩
def dkwX1_undo_1 : List UInt8 := [100, 182, 1, 119, 192, 1, 122, 180, 1, 175, 185, 1, 179, 1, 0, 42, 180, 0, 142, 182, 0, 106, 172]
abbrev dktX1_undo_1 : List UInt8 := dkwX1_undo_1 ++ []
def dkwX1_undo_0 : List UInt8 := [42, 180, 0, 142, 182, 1, 172, 153, 0, 5, 2, 172, 42, 180, 0, 142, 42, 180, 0, 142, 182, 0, 106, 4]
abbrev dktX1_undo_0 : List UInt8 := dkwX1_undo_0 ++ dktX1_undo_1
theorem dksX1_undo_0 : cX1_undo.data.toList.drop 0 = dktX1_undo_0 := by decide +kernel
theorem dksX1_undo_1 : cX1_undo.data.toList.drop 24 = dktX1_undo_1 := dk_seg dksX1_undo_0 24 rfl rfl
theorem dX1_undo_0 : decode cX1_undo 0 = .ok (.aload_n 0, 1) := dk_42 (dk_at dksX1_undo_0 0 rfl rfl)
theorem dX1_undo_1 : decode cX1_undo 1 = .ok (.getfield 142, 3) := dk_180 0 142 (dk_at dksX1_undo_0 1 rfl rfl)
theorem dX1_undo_4 : decode cX1_undo 4 = .ok (.invokevirtual 428, 3) := dk_182 1 172 (dk_at dksX1_undo_0 4 rfl rfl)
theorem dX1_undo_7 : decode cX1_undo 7 = .ok (.ifCond .eq 5, 3) := dk_153 0 5 (dk_at dksX1_undo_0 7 rfl rfl)
theorem dX1_undo_10 : decode cX1_undo 10 = .ok (.iconst (-1), 1) := dk_2 (dk_at dksX1_undo_0 10 rfl rfl)
theorem dX1_undo_11 : decode cX1_undo 11 = .ok (.ireturn, 1) := dk_172 (dk_at dksX1_undo_0 11 rfl rfl)
theorem dX1_undo_12 : decode cX1_undo 12 = .ok (.aload_n 0, 1) := dk_42 (dk_at dksX1_undo_0 12 rfl rfl)
theorem dX1_undo_13 : decode cX1_undo 13 = .ok (.getfield 142, 3) := dk_180 0 142 (dk_at dksX1_undo_0 13 rfl rfl)
theorem dX1_undo_16 : decode cX1_undo 16 = .ok (.aload_n 0, 1) := dk_42 (dk_at dksX1_undo_0 16 rfl rfl)
theorem dX1_undo_17 : decode cX1_undo 17 = .ok (.getfield 142, 3) := dk_180 0 142 (dk_at dksX1_undo_0 17 rfl rfl)
theorem dX1_undo_20 : decode cX1_undo 20 = .ok (.invokevirtual 106, 3) := dk_182 0 106 (dk_at dksX1_undo_0 20 rfl rfl)
theorem dX1_undo_23 : decode cX1_undo 23 = .ok (.iconst 1, 1) := dk_4 (dk_at dksX1_undo_0 23 rfl rfl)
theorem dX1_undo_24 : decode cX1_undo 24 = .ok (.isub, 1) := dk_100 (dk_at dksX1_undo_1 0 rfl rfl)
theorem dX1_undo_25 : decode cX1_undo 25 = .ok (.invokevirtual 375, 3) := dk_182 1 119 (dk_at dksX1_undo_1 1 rfl rfl)
theorem dX1_undo_28 : decode cX1_undo 28 = .ok (.checkcast 378, 3) := dk_192 1 122 (dk_at dksX1_undo_1 4 rfl rfl)
theorem dX1_undo_31 : decode cX1_undo 31 = .ok (.getfield 431, 3) := dk_180 1 175 (dk_at dksX1_undo_1 7 rfl rfl)
theorem dX1_undo_34 : decode cX1_undo 34 = .ok (.invokeinterface 435 1, 5) := by decide +kernel
theorem dX1_undo_39 : decode cX1_undo 39 = .ok (.aload_n 0, 1) := dk_42 (dk_at dksX1_undo_1 15 rfl rfl)
theorem dX1_undo_40 : decode cX1_undo 40 = .ok (.getfield 142, 3) := dk_180 0 142 (dk_at dksX1_undo_1 16 rfl rfl)
theorem dX1_undo_43 : decode cX1_undo 43 = .ok (.invokevirtual 106, 3) := dk_182 0 106 (dk_at dksX1_undo_1 19 rfl rfl)
theorem dX1_undo_46 : decode cX1_undo 46 = .ok (.ireturn, 1) := dk_172 (dk_at dksX1_undo_1 22 rfl rfl)
abbrev cX1_image : ByteArray := prog_1_method_92_code
def yX1_image : MethodName := ⟨RX1, "image", "()V"⟩
def dkwX1_image_2 : List UInt8 := [5, 184, 0, 54, 42, 4, 181, 0, 219, 177]
abbrev dktX1_image_2 : List UInt8 := dkwX1_image_2 ++ []
def dkwX1_image_1 : List UInt8 := [184, 0, 54, 42, 180, 0, 142, 42, 180, 0, 145, 184, 1, 247, 42, 180, 0, 148, 3, 42, 180, 0, 151, 3]
abbrev dktX1_image_1 : List UInt8 := dkwX1_image_1 ++ dktX1_image_2
def dkwX1_image_0 : List UInt8 := [42, 180, 0, 131, 42, 180, 0, 124, 182, 0, 207, 42, 180, 0, 134, 3, 42, 180, 0, 138, 3, 7]
abbrev dktX1_image_0 : List UInt8 := dkwX1_image_0 ++ dktX1_image_1
theorem dksX1_image_0 : cX1_image.data.toList.drop 0 = dktX1_image_0 := by decide +kernel
theorem dksX1_image_1 : cX1_image.data.toList.drop 22 = dktX1_image_1 := dk_seg dksX1_image_0 22 rfl rfl
theorem dksX1_image_2 : cX1_image.data.toList.drop 46 = dktX1_image_2 := dk_seg dksX1_image_1 24 rfl rfl
theorem dX1_image_0 : decode cX1_image 0 = .ok (.aload_n 0, 1) := dk_42 (dk_at dksX1_image_0 0 rfl rfl)
theorem dX1_image_1 : decode cX1_image 1 = .ok (.getfield 131, 3) := dk_180 0 131 (dk_at dksX1_image_0 1 rfl rfl)
theorem dX1_image_4 : decode cX1_image 4 = .ok (.aload_n 0, 1) := dk_42 (dk_at dksX1_image_0 4 rfl rfl)
theorem dX1_image_5 : decode cX1_image 5 = .ok (.getfield 124, 3) := dk_180 0 124 (dk_at dksX1_image_0 5 rfl rfl)
theorem dX1_image_8 : decode cX1_image 8 = .ok (.invokevirtual 207, 3) := dk_182 0 207 (dk_at dksX1_image_0 8 rfl rfl)
theorem dX1_image_11 : decode cX1_image 11 = .ok (.aload_n 0, 1) := dk_42 (dk_at dksX1_image_0 11 rfl rfl)
theorem dX1_image_12 : decode cX1_image 12 = .ok (.getfield 134, 3) := dk_180 0 134 (dk_at dksX1_image_0 12 rfl rfl)
theorem dX1_image_15 : decode cX1_image 15 = .ok (.iconst 0, 1) := dk_3 (dk_at dksX1_image_0 15 rfl rfl)
theorem dX1_image_16 : decode cX1_image 16 = .ok (.aload_n 0, 1) := dk_42 (dk_at dksX1_image_0 16 rfl rfl)
theorem dX1_image_17 : decode cX1_image 17 = .ok (.getfield 138, 3) := dk_180 0 138 (dk_at dksX1_image_0 17 rfl rfl)
theorem dX1_image_20 : decode cX1_image 20 = .ok (.iconst 0, 1) := dk_3 (dk_at dksX1_image_0 20 rfl rfl)
theorem dX1_image_21 : decode cX1_image 21 = .ok (.iconst 4, 1) := dk_7 (dk_at dksX1_image_0 21 rfl rfl)
theorem dX1_image_22 : decode cX1_image 22 = .ok (.invokestatic 54, 3) := dk_184 0 54 (dk_at dksX1_image_1 0 rfl rfl)
theorem dX1_image_25 : decode cX1_image 25 = .ok (.aload_n 0, 1) := dk_42 (dk_at dksX1_image_1 3 rfl rfl)
theorem dX1_image_26 : decode cX1_image 26 = .ok (.getfield 142, 3) := dk_180 0 142 (dk_at dksX1_image_1 4 rfl rfl)
theorem dX1_image_29 : decode cX1_image 29 = .ok (.aload_n 0, 1) := dk_42 (dk_at dksX1_image_1 7 rfl rfl)
theorem dX1_image_30 : decode cX1_image 30 = .ok (.getfield 145, 3) := dk_180 0 145 (dk_at dksX1_image_1 8 rfl rfl)
theorem dX1_image_33 : decode cX1_image 33 = .ok (.invokestatic 503, 3) := dk_184 1 247 (dk_at dksX1_image_1 11 rfl rfl)
theorem dX1_image_36 : decode cX1_image 36 = .ok (.aload_n 0, 1) := dk_42 (dk_at dksX1_image_1 14 rfl rfl)
theorem dX1_image_37 : decode cX1_image 37 = .ok (.getfield 148, 3) := dk_180 0 148 (dk_at dksX1_image_1 15 rfl rfl)
theorem dX1_image_40 : decode cX1_image 40 = .ok (.iconst 0, 1) := dk_3 (dk_at dksX1_image_1 18 rfl rfl)
theorem dX1_image_41 : decode cX1_image 41 = .ok (.aload_n 0, 1) := dk_42 (dk_at dksX1_image_1 19 rfl rfl)
theorem dX1_image_42 : decode cX1_image 42 = .ok (.getfield 151, 3) := dk_180 0 151 (dk_at dksX1_image_1 20 rfl rfl)
theorem dX1_image_45 : decode cX1_image 45 = .ok (.iconst 0, 1) := dk_3 (dk_at dksX1_image_1 23 rfl rfl)
theorem dX1_image_46 : decode cX1_image 46 = .ok (.iconst 2, 1) := dk_5 (dk_at dksX1_image_2 0 rfl rfl)
theorem dX1_image_47 : decode cX1_image 47 = .ok (.invokestatic 54, 3) := dk_184 0 54 (dk_at dksX1_image_2 1 rfl rfl)
theorem dX1_image_50 : decode cX1_image 50 = .ok (.aload_n 0, 1) := dk_42 (dk_at dksX1_image_2 4 rfl rfl)
theorem dX1_image_51 : decode cX1_image 51 = .ok (.iconst 1, 1) := dk_4 (dk_at dksX1_image_2 5 rfl rfl)
theorem dX1_image_52 : decode cX1_image 52 = .ok (.putfield 219, 3) := dk_181 0 219 (dk_at dksX1_image_2 6 rfl rfl)
theorem dX1_image_55 : decode cX1_image 55 = .ok (.return_, 1) := dk_177 (dk_at dksX1_image_2 9 rfl rfl)
abbrev cX1_copies : ByteArray := prog_1_method_91_code
def yX1_copies : MethodName := ⟨RX1, "copies", "(Ljava/util/ArrayList;Ljava/util/ArrayList;)V"⟩
def dkwX1_copies_1 : List UInt8 := [182, 0, 64, 87, 132, 2, 1, 167, 255, 232, 177]
abbrev dktX1_copies_1 : List UInt8 := dkwX1_copies_1 ++ []
def dkwX1_copies_0 : List UInt8 := [43, 182, 0, 102, 3, 61, 28, 42, 182, 0, 106, 162, 0, 22, 43, 42, 28, 182, 0, 113, 192, 1, 122]
abbrev dktX1_copies_0 : List UInt8 := dkwX1_copies_0 ++ dktX1_copies_1
theorem dksX1_copies_0 : cX1_copies.data.toList.drop 0 = dktX1_copies_0 := by decide +kernel
theorem dksX1_copies_1 : cX1_copies.data.toList.drop 23 = dktX1_copies_1 := dk_seg dksX1_copies_0 23 rfl rfl
theorem dX1_copies_0 : decode cX1_copies 0 = .ok (.aload_n 1, 1) := dk_43 (dk_at dksX1_copies_0 0 rfl rfl)
theorem dX1_copies_1 : decode cX1_copies 1 = .ok (.invokevirtual 102, 3) := dk_182 0 102 (dk_at dksX1_copies_0 1 rfl rfl)
theorem dX1_copies_4 : decode cX1_copies 4 = .ok (.iconst 0, 1) := dk_3 (dk_at dksX1_copies_0 4 rfl rfl)
theorem dX1_copies_5 : decode cX1_copies 5 = .ok (.istore_n 2, 1) := dk_61 (dk_at dksX1_copies_0 5 rfl rfl)
theorem dX1_copies_6 : decode cX1_copies 6 = .ok (.iload_n 2, 1) := dk_28 (dk_at dksX1_copies_0 6 rfl rfl)
theorem dX1_copies_7 : decode cX1_copies 7 = .ok (.aload_n 0, 1) := dk_42 (dk_at dksX1_copies_0 7 rfl rfl)
theorem dX1_copies_8 : decode cX1_copies 8 = .ok (.invokevirtual 106, 3) := dk_182 0 106 (dk_at dksX1_copies_0 8 rfl rfl)
theorem dX1_copies_11 : decode cX1_copies 11 = .ok (.if_icmp .ge 22, 3) := dk_162 0 22 (dk_at dksX1_copies_0 11 rfl rfl)
theorem dX1_copies_14 : decode cX1_copies 14 = .ok (.aload_n 1, 1) := dk_43 (dk_at dksX1_copies_0 14 rfl rfl)
theorem dX1_copies_15 : decode cX1_copies 15 = .ok (.aload_n 0, 1) := dk_42 (dk_at dksX1_copies_0 15 rfl rfl)
theorem dX1_copies_16 : decode cX1_copies 16 = .ok (.iload_n 2, 1) := dk_28 (dk_at dksX1_copies_0 16 rfl rfl)
theorem dX1_copies_17 : decode cX1_copies 17 = .ok (.invokevirtual 113, 3) := dk_182 0 113 (dk_at dksX1_copies_0 17 rfl rfl)
theorem dX1_copies_20 : decode cX1_copies 20 = .ok (.checkcast 378, 3) := dk_192 1 122 (dk_at dksX1_copies_0 20 rfl rfl)
theorem dX1_copies_23 : decode cX1_copies 23 = .ok (.invokevirtual 64, 3) := dk_182 0 64 (dk_at dksX1_copies_1 0 rfl rfl)
theorem dX1_copies_26 : decode cX1_copies 26 = .ok (.pop, 1) := dk_87 (dk_at dksX1_copies_1 3 rfl rfl)
theorem dX1_copies_27 : decode cX1_copies 27 = .ok (.iinc 2 1, 3) := dk_132 2 1 (dk_at dksX1_copies_1 4 rfl rfl)
theorem dX1_copies_30 : decode cX1_copies 30 = .ok (.goto (-24), 3) := dk_167 255 232 (dk_at dksX1_copies_1 7 rfl rfl)
theorem dX1_copies_33 : decode cX1_copies 33 = .ok (.return_, 1) := dk_177 (dk_at dksX1_copies_1 10 rfl rfl)
abbrev cX1_restore : ByteArray := prog_1_method_93_code
def yX1_restore : MethodName := ⟨RX1, "restore", "()Z"⟩
def dkwX1_restore_2 : List UInt8 := [180, 0, 151, 3, 42, 180, 0, 148, 3, 5, 184, 0, 54, 4, 172]
abbrev dktX1_restore_2 : List UInt8 := dkwX1_restore_2 ++ []
def dkwX1_restore_1 : List UInt8 := [3, 42, 180, 0, 134, 3, 7, 184, 0, 54, 42, 180, 0, 145, 42, 180, 0, 142, 184, 1, 247, 42]
abbrev dktX1_restore_1 : List UInt8 := dkwX1_restore_1 ++ dktX1_restore_2
def dkwX1_restore_0 : List UInt8 := [42, 180, 0, 219, 154, 0, 5, 3, 172, 42, 180, 0, 124, 42, 180, 0, 131, 182, 0, 207, 42, 180, 0, 138]
abbrev dktX1_restore_0 : List UInt8 := dkwX1_restore_0 ++ dktX1_restore_1
theorem dksX1_restore_0 : cX1_restore.data.toList.drop 0 = dktX1_restore_0 := by decide +kernel
theorem dksX1_restore_1 : cX1_restore.data.toList.drop 24 = dktX1_restore_1 := dk_seg dksX1_restore_0 24 rfl rfl
theorem dksX1_restore_2 : cX1_restore.data.toList.drop 46 = dktX1_restore_2 := dk_seg dksX1_restore_1 22 rfl rfl
theorem dX1_restore_0 : decode cX1_restore 0 = .ok (.aload_n 0, 1) := dk_42 (dk_at dksX1_restore_0 0 rfl rfl)
theorem dX1_restore_1 : decode cX1_restore 1 = .ok (.getfield 219, 3) := dk_180 0 219 (dk_at dksX1_restore_0 1 rfl rfl)
theorem dX1_restore_4 : decode cX1_restore 4 = .ok (.ifCond .ne 5, 3) := dk_154 0 5 (dk_at dksX1_restore_0 4 rfl rfl)
theorem dX1_restore_7 : decode cX1_restore 7 = .ok (.iconst 0, 1) := dk_3 (dk_at dksX1_restore_0 7 rfl rfl)
theorem dX1_restore_8 : decode cX1_restore 8 = .ok (.ireturn, 1) := dk_172 (dk_at dksX1_restore_0 8 rfl rfl)
theorem dX1_restore_9 : decode cX1_restore 9 = .ok (.aload_n 0, 1) := dk_42 (dk_at dksX1_restore_0 9 rfl rfl)
theorem dX1_restore_10 : decode cX1_restore 10 = .ok (.getfield 124, 3) := dk_180 0 124 (dk_at dksX1_restore_0 10 rfl rfl)
theorem dX1_restore_13 : decode cX1_restore 13 = .ok (.aload_n 0, 1) := dk_42 (dk_at dksX1_restore_0 13 rfl rfl)
theorem dX1_restore_14 : decode cX1_restore 14 = .ok (.getfield 131, 3) := dk_180 0 131 (dk_at dksX1_restore_0 14 rfl rfl)
theorem dX1_restore_17 : decode cX1_restore 17 = .ok (.invokevirtual 207, 3) := dk_182 0 207 (dk_at dksX1_restore_0 17 rfl rfl)
theorem dX1_restore_20 : decode cX1_restore 20 = .ok (.aload_n 0, 1) := dk_42 (dk_at dksX1_restore_0 20 rfl rfl)
theorem dX1_restore_21 : decode cX1_restore 21 = .ok (.getfield 138, 3) := dk_180 0 138 (dk_at dksX1_restore_0 21 rfl rfl)
theorem dX1_restore_24 : decode cX1_restore 24 = .ok (.iconst 0, 1) := dk_3 (dk_at dksX1_restore_1 0 rfl rfl)
theorem dX1_restore_25 : decode cX1_restore 25 = .ok (.aload_n 0, 1) := dk_42 (dk_at dksX1_restore_1 1 rfl rfl)
theorem dX1_restore_26 : decode cX1_restore 26 = .ok (.getfield 134, 3) := dk_180 0 134 (dk_at dksX1_restore_1 2 rfl rfl)
theorem dX1_restore_29 : decode cX1_restore 29 = .ok (.iconst 0, 1) := dk_3 (dk_at dksX1_restore_1 5 rfl rfl)
theorem dX1_restore_30 : decode cX1_restore 30 = .ok (.iconst 4, 1) := dk_7 (dk_at dksX1_restore_1 6 rfl rfl)
theorem dX1_restore_31 : decode cX1_restore 31 = .ok (.invokestatic 54, 3) := dk_184 0 54 (dk_at dksX1_restore_1 7 rfl rfl)
theorem dX1_restore_34 : decode cX1_restore 34 = .ok (.aload_n 0, 1) := dk_42 (dk_at dksX1_restore_1 10 rfl rfl)
theorem dX1_restore_35 : decode cX1_restore 35 = .ok (.getfield 145, 3) := dk_180 0 145 (dk_at dksX1_restore_1 11 rfl rfl)
theorem dX1_restore_38 : decode cX1_restore 38 = .ok (.aload_n 0, 1) := dk_42 (dk_at dksX1_restore_1 14 rfl rfl)
theorem dX1_restore_39 : decode cX1_restore 39 = .ok (.getfield 142, 3) := dk_180 0 142 (dk_at dksX1_restore_1 15 rfl rfl)
theorem dX1_restore_42 : decode cX1_restore 42 = .ok (.invokestatic 503, 3) := dk_184 1 247 (dk_at dksX1_restore_1 18 rfl rfl)
theorem dX1_restore_45 : decode cX1_restore 45 = .ok (.aload_n 0, 1) := dk_42 (dk_at dksX1_restore_1 21 rfl rfl)
theorem dX1_restore_46 : decode cX1_restore 46 = .ok (.getfield 151, 3) := dk_180 0 151 (dk_at dksX1_restore_2 0 rfl rfl)
theorem dX1_restore_49 : decode cX1_restore 49 = .ok (.iconst 0, 1) := dk_3 (dk_at dksX1_restore_2 3 rfl rfl)
theorem dX1_restore_50 : decode cX1_restore 50 = .ok (.aload_n 0, 1) := dk_42 (dk_at dksX1_restore_2 4 rfl rfl)
theorem dX1_restore_51 : decode cX1_restore 51 = .ok (.getfield 148, 3) := dk_180 0 148 (dk_at dksX1_restore_2 5 rfl rfl)
theorem dX1_restore_54 : decode cX1_restore 54 = .ok (.iconst 0, 1) := dk_3 (dk_at dksX1_restore_2 8 rfl rfl)
theorem dX1_restore_55 : decode cX1_restore 55 = .ok (.iconst 2, 1) := dk_5 (dk_at dksX1_restore_2 9 rfl rfl)
theorem dX1_restore_56 : decode cX1_restore 56 = .ok (.invokestatic 54, 3) := dk_184 0 54 (dk_at dksX1_restore_2 10 rfl rfl)
theorem dX1_restore_59 : decode cX1_restore 59 = .ok (.iconst 1, 1) := dk_4 (dk_at dksX1_restore_2 13 rfl rfl)
theorem dX1_restore_60 : decode cX1_restore 60 = .ok (.ireturn, 1) := dk_172 (dk_at dksX1_restore_2 14 rfl rfl)
abbrev cX1_scheme : ByteArray := prog_1_method_15_code
def yX1_scheme : MethodName := ⟨RX1, "scheme", "(I)I"⟩
def dkwX1_scheme_4 : List UInt8 := [132, 2, 1, 167, 255, 241, 42, 180, 0, 142, 182, 0, 102, 42, 3, 181, 0, 219, 3, 172]
abbrev dktX1_scheme_4 : List UInt8 := dkwX1_scheme_4 ++ []
def dkwX1_scheme_3 : List UInt8 := [46, 4, 96, 79, 44, 180, 0, 216, 172, 3, 61, 28, 7, 162, 0, 16, 42, 180, 0, 134, 28, 1, 83]
abbrev dktX1_scheme_3 : List UInt8 := dkwX1_scheme_3 ++ dktX1_scheme_4
def dkwX1_scheme_2 : List UInt8 := [182, 0, 203, 182, 0, 207, 167, 0, 27, 77, 42, 44, 180, 0, 213, 181, 0, 158, 42, 180, 0, 148, 3, 92]
abbrev dktX1_scheme_2 : List UInt8 := dkwX1_scheme_2 ++ dktX1_scheme_3
def dkwX1_scheme_1 : List UInt8 := [181, 0, 192, 42, 2, 181, 0, 158, 42, 180, 0, 124, 187, 0, 198, 89, 42, 180, 0, 154, 27, 183, 0, 200]
abbrev dktX1_scheme_1 : List UInt8 := dkwX1_scheme_1 ++ dktX1_scheme_2
def dkwX1_scheme_0 : List UInt8 := [27, 155, 0, 15, 27, 42, 180, 0, 192, 163, 0, 7, 4, 167, 0, 4, 3, 184, 0, 92, 42, 3]
abbrev dktX1_scheme_0 : List UInt8 := dkwX1_scheme_0 ++ dktX1_scheme_1
theorem dksX1_scheme_0 : cX1_scheme.data.toList.drop 0 = dktX1_scheme_0 := by decide +kernel
theorem dksX1_scheme_1 : cX1_scheme.data.toList.drop 22 = dktX1_scheme_1 := dk_seg dksX1_scheme_0 22 rfl rfl
theorem dksX1_scheme_2 : cX1_scheme.data.toList.drop 46 = dktX1_scheme_2 := dk_seg dksX1_scheme_1 24 rfl rfl
theorem dksX1_scheme_3 : cX1_scheme.data.toList.drop 70 = dktX1_scheme_3 := dk_seg dksX1_scheme_2 24 rfl rfl
theorem dksX1_scheme_4 : cX1_scheme.data.toList.drop 93 = dktX1_scheme_4 := dk_seg dksX1_scheme_3 23 rfl rfl
theorem dX1_scheme_0 : decode cX1_scheme 0 = .ok (.iload_n 1, 1) := dk_27 (dk_at dksX1_scheme_0 0 rfl rfl)
theorem dX1_scheme_1 : decode cX1_scheme 1 = .ok (.ifCond .lt 15, 3) := dk_155 0 15 (dk_at dksX1_scheme_0 1 rfl rfl)
theorem dX1_scheme_4 : decode cX1_scheme 4 = .ok (.iload_n 1, 1) := dk_27 (dk_at dksX1_scheme_0 4 rfl rfl)
theorem dX1_scheme_5 : decode cX1_scheme 5 = .ok (.aload_n 0, 1) := dk_42 (dk_at dksX1_scheme_0 5 rfl rfl)
theorem dX1_scheme_6 : decode cX1_scheme 6 = .ok (.getfield 192, 3) := dk_180 0 192 (dk_at dksX1_scheme_0 6 rfl rfl)
theorem dX1_scheme_9 : decode cX1_scheme 9 = .ok (.if_icmp .gt 7, 3) := dk_163 0 7 (dk_at dksX1_scheme_0 9 rfl rfl)
theorem dX1_scheme_12 : decode cX1_scheme 12 = .ok (.iconst 1, 1) := dk_4 (dk_at dksX1_scheme_0 12 rfl rfl)
theorem dX1_scheme_13 : decode cX1_scheme 13 = .ok (.goto 4, 3) := dk_167 0 4 (dk_at dksX1_scheme_0 13 rfl rfl)
theorem dX1_scheme_16 : decode cX1_scheme 16 = .ok (.iconst 0, 1) := dk_3 (dk_at dksX1_scheme_0 16 rfl rfl)
theorem dX1_scheme_17 : decode cX1_scheme 17 = .ok (.invokestatic 92, 3) := dk_184 0 92 (dk_at dksX1_scheme_0 17 rfl rfl)
theorem dX1_scheme_20 : decode cX1_scheme 20 = .ok (.aload_n 0, 1) := dk_42 (dk_at dksX1_scheme_0 20 rfl rfl)
theorem dX1_scheme_21 : decode cX1_scheme 21 = .ok (.iconst 0, 1) := dk_3 (dk_at dksX1_scheme_0 21 rfl rfl)
theorem dX1_scheme_22 : decode cX1_scheme 22 = .ok (.putfield 192, 3) := dk_181 0 192 (dk_at dksX1_scheme_1 0 rfl rfl)
theorem dX1_scheme_25 : decode cX1_scheme 25 = .ok (.aload_n 0, 1) := dk_42 (dk_at dksX1_scheme_1 3 rfl rfl)
theorem dX1_scheme_26 : decode cX1_scheme 26 = .ok (.iconst (-1), 1) := dk_2 (dk_at dksX1_scheme_1 4 rfl rfl)
theorem dX1_scheme_27 : decode cX1_scheme 27 = .ok (.putfield 158, 3) := dk_181 0 158 (dk_at dksX1_scheme_1 5 rfl rfl)
theorem dX1_scheme_30 : decode cX1_scheme 30 = .ok (.aload_n 0, 1) := dk_42 (dk_at dksX1_scheme_1 8 rfl rfl)
theorem dX1_scheme_31 : decode cX1_scheme 31 = .ok (.getfield 124, 3) := dk_180 0 124 (dk_at dksX1_scheme_1 9 rfl rfl)
theorem dX1_scheme_34 : decode cX1_scheme 34 = .ok (.new 198, 3) := dk_187 0 198 (dk_at dksX1_scheme_1 12 rfl rfl)
theorem dX1_scheme_37 : decode cX1_scheme 37 = .ok (.dup, 1) := dk_89 (dk_at dksX1_scheme_1 15 rfl rfl)
theorem dX1_scheme_38 : decode cX1_scheme 38 = .ok (.aload_n 0, 1) := dk_42 (dk_at dksX1_scheme_1 16 rfl rfl)
theorem dX1_scheme_39 : decode cX1_scheme 39 = .ok (.getfield 154, 3) := dk_180 0 154 (dk_at dksX1_scheme_1 17 rfl rfl)
theorem dX1_scheme_42 : decode cX1_scheme 42 = .ok (.iload_n 1, 1) := dk_27 (dk_at dksX1_scheme_1 20 rfl rfl)
theorem dX1_scheme_43 : decode cX1_scheme 43 = .ok (.invokespecial 200, 3) := dk_183 0 200 (dk_at dksX1_scheme_1 21 rfl rfl)
theorem dX1_scheme_46 : decode cX1_scheme 46 = .ok (.invokevirtual 203, 3) := dk_182 0 203 (dk_at dksX1_scheme_2 0 rfl rfl)
theorem dX1_scheme_49 : decode cX1_scheme 49 = .ok (.invokevirtual 207, 3) := dk_182 0 207 (dk_at dksX1_scheme_2 3 rfl rfl)
theorem dX1_scheme_52 : decode cX1_scheme 52 = .ok (.goto 27, 3) := dk_167 0 27 (dk_at dksX1_scheme_2 6 rfl rfl)
theorem dX1_scheme_55 : decode cX1_scheme 55 = .ok (.astore_n 2, 1) := dk_77 (dk_at dksX1_scheme_2 9 rfl rfl)
theorem dX1_scheme_56 : decode cX1_scheme 56 = .ok (.aload_n 0, 1) := dk_42 (dk_at dksX1_scheme_2 10 rfl rfl)
theorem dX1_scheme_57 : decode cX1_scheme 57 = .ok (.aload_n 2, 1) := dk_44 (dk_at dksX1_scheme_2 11 rfl rfl)
theorem dX1_scheme_58 : decode cX1_scheme 58 = .ok (.getfield 213, 3) := dk_180 0 213 (dk_at dksX1_scheme_2 12 rfl rfl)
theorem dX1_scheme_61 : decode cX1_scheme 61 = .ok (.putfield 158, 3) := dk_181 0 158 (dk_at dksX1_scheme_2 15 rfl rfl)
theorem dX1_scheme_64 : decode cX1_scheme 64 = .ok (.aload_n 0, 1) := dk_42 (dk_at dksX1_scheme_2 18 rfl rfl)
theorem dX1_scheme_65 : decode cX1_scheme 65 = .ok (.getfield 148, 3) := dk_180 0 148 (dk_at dksX1_scheme_2 19 rfl rfl)
theorem dX1_scheme_68 : decode cX1_scheme 68 = .ok (.iconst 0, 1) := dk_3 (dk_at dksX1_scheme_2 22 rfl rfl)
theorem dX1_scheme_69 : decode cX1_scheme 69 = .ok (.dup2, 1) := dk_92 (dk_at dksX1_scheme_2 23 rfl rfl)
theorem dX1_scheme_70 : decode cX1_scheme 70 = .ok (.iaload, 1) := dk_46 (dk_at dksX1_scheme_3 0 rfl rfl)
theorem dX1_scheme_71 : decode cX1_scheme 71 = .ok (.iconst 1, 1) := dk_4 (dk_at dksX1_scheme_3 1 rfl rfl)
theorem dX1_scheme_72 : decode cX1_scheme 72 = .ok (.iadd, 1) := dk_96 (dk_at dksX1_scheme_3 2 rfl rfl)
theorem dX1_scheme_73 : decode cX1_scheme 73 = .ok (.iastore, 1) := dk_79 (dk_at dksX1_scheme_3 3 rfl rfl)
theorem dX1_scheme_74 : decode cX1_scheme 74 = .ok (.aload_n 2, 1) := dk_44 (dk_at dksX1_scheme_3 4 rfl rfl)
theorem dX1_scheme_75 : decode cX1_scheme 75 = .ok (.getfield 216, 3) := dk_180 0 216 (dk_at dksX1_scheme_3 5 rfl rfl)
theorem dX1_scheme_78 : decode cX1_scheme 78 = .ok (.ireturn, 1) := dk_172 (dk_at dksX1_scheme_3 8 rfl rfl)
theorem dX1_scheme_79 : decode cX1_scheme 79 = .ok (.iconst 0, 1) := dk_3 (dk_at dksX1_scheme_3 9 rfl rfl)
theorem dX1_scheme_80 : decode cX1_scheme 80 = .ok (.istore_n 2, 1) := dk_61 (dk_at dksX1_scheme_3 10 rfl rfl)
theorem dX1_scheme_81 : decode cX1_scheme 81 = .ok (.iload_n 2, 1) := dk_28 (dk_at dksX1_scheme_3 11 rfl rfl)
theorem dX1_scheme_82 : decode cX1_scheme 82 = .ok (.iconst 4, 1) := dk_7 (dk_at dksX1_scheme_3 12 rfl rfl)
theorem dX1_scheme_83 : decode cX1_scheme 83 = .ok (.if_icmp .ge 16, 3) := dk_162 0 16 (dk_at dksX1_scheme_3 13 rfl rfl)
theorem dX1_scheme_86 : decode cX1_scheme 86 = .ok (.aload_n 0, 1) := dk_42 (dk_at dksX1_scheme_3 16 rfl rfl)
theorem dX1_scheme_87 : decode cX1_scheme 87 = .ok (.getfield 134, 3) := dk_180 0 134 (dk_at dksX1_scheme_3 17 rfl rfl)
theorem dX1_scheme_90 : decode cX1_scheme 90 = .ok (.iload_n 2, 1) := dk_28 (dk_at dksX1_scheme_3 20 rfl rfl)
theorem dX1_scheme_91 : decode cX1_scheme 91 = .ok (.aconst_null, 1) := dk_1 (dk_at dksX1_scheme_3 21 rfl rfl)
theorem dX1_scheme_92 : decode cX1_scheme 92 = .ok (.aastore, 1) := dk_83 (dk_at dksX1_scheme_3 22 rfl rfl)
theorem dX1_scheme_93 : decode cX1_scheme 93 = .ok (.iinc 2 1, 3) := dk_132 2 1 (dk_at dksX1_scheme_4 0 rfl rfl)
theorem dX1_scheme_96 : decode cX1_scheme 96 = .ok (.goto (-15), 3) := dk_167 255 241 (dk_at dksX1_scheme_4 3 rfl rfl)
theorem dX1_scheme_99 : decode cX1_scheme 99 = .ok (.aload_n 0, 1) := dk_42 (dk_at dksX1_scheme_4 6 rfl rfl)
theorem dX1_scheme_100 : decode cX1_scheme 100 = .ok (.getfield 142, 3) := dk_180 0 142 (dk_at dksX1_scheme_4 7 rfl rfl)
theorem dX1_scheme_103 : decode cX1_scheme 103 = .ok (.invokevirtual 102, 3) := dk_182 0 102 (dk_at dksX1_scheme_4 10 rfl rfl)
theorem dX1_scheme_106 : decode cX1_scheme 106 = .ok (.aload_n 0, 1) := dk_42 (dk_at dksX1_scheme_4 13 rfl rfl)
theorem dX1_scheme_107 : decode cX1_scheme 107 = .ok (.iconst 0, 1) := dk_3 (dk_at dksX1_scheme_4 14 rfl rfl)
theorem dX1_scheme_108 : decode cX1_scheme 108 = .ok (.putfield 219, 3) := dk_181 0 219 (dk_at dksX1_scheme_4 15 rfl rfl)
theorem dX1_scheme_111 : decode cX1_scheme 111 = .ok (.iconst 0, 1) := dk_3 (dk_at dksX1_scheme_4 18 rfl rfl)
theorem dX1_scheme_112 : decode cX1_scheme 112 = .ok (.ireturn, 1) := dk_172 (dk_at dksX1_scheme_4 19 rfl rfl)
abbrev cX1_right : ByteArray := prog_1_method_10_code
def yX1_right : MethodName := ⟨RX1, "right", "(Z)V"⟩
def dkwX1_right_0 : List UInt8 := [26, 154, 0, 11, 187, 0, 186, 89, 183, 0, 188, 191, 177]
abbrev dktX1_right_0 : List UInt8 := dkwX1_right_0 ++ []
theorem dksX1_right_0 : cX1_right.data.toList.drop 0 = dktX1_right_0 := by decide +kernel
theorem dX1_right_0 : decode cX1_right 0 = .ok (.iload_n 0, 1) := dk_26 (dk_at dksX1_right_0 0 rfl rfl)
theorem dX1_right_1 : decode cX1_right 1 = .ok (.ifCond .ne 11, 3) := dk_154 0 11 (dk_at dksX1_right_0 1 rfl rfl)
theorem dX1_right_4 : decode cX1_right 4 = .ok (.new 186, 3) := dk_187 0 186 (dk_at dksX1_right_0 4 rfl rfl)
theorem dX1_right_7 : decode cX1_right 7 = .ok (.dup, 1) := dk_89 (dk_at dksX1_right_0 7 rfl rfl)
theorem dX1_right_8 : decode cX1_right 8 = .ok (.invokespecial 188, 3) := dk_183 0 188 (dk_at dksX1_right_0 8 rfl rfl)
theorem dX1_right_11 : decode cX1_right 11 = .ok (.athrow, 1) := dk_191 (dk_at dksX1_right_0 11 rfl rfl)
theorem dX1_right_12 : decode cX1_right 12 = .ok (.return_, 1) := dk_177 (dk_at dksX1_right_0 12 rfl rfl)
abbrev cX1_count : ByteArray := prog_1_method_44_code
def yX1_count : MethodName := ⟨RX1, "count", "(I)I"⟩
def dkwX1_count_10 : List UInt8 := [182, 1, 91, 172, 42, 182, 1, 94, 172]
abbrev dktX1_count_10 : List UInt8 := dkwX1_count_10 ++ []
def dkwX1_count_9 : List UInt8 := [180, 0, 142, 182, 0, 106, 172, 42, 180, 0, 192, 172, 42, 180, 0, 148, 27, 16, 18, 100, 46, 172, 42]
abbrev dktX1_count_9 : List UInt8 := dkwX1_count_9 ++ dktX1_count_10
def dkwX1_count_8 : List UInt8 := [182, 1, 79, 42, 180, 1, 11, 172, 42, 182, 1, 82, 172, 42, 182, 1, 85, 172, 42, 182, 1, 88, 172, 42]
abbrev dktX1_count_8 : List UInt8 := dkwX1_count_8 ++ dktX1_count_9
def dkwX1_count_7 : List UInt8 := [184, 1, 72, 180, 0, 251, 172, 42, 182, 1, 76, 172, 42, 182, 1, 79, 42, 180, 1, 4, 172, 42]
abbrev dktX1_count_7 : List UInt8 := dkwX1_count_7 ++ dktX1_count_8
def dkwX1_count_6 : List UInt8 := [172, 42, 180, 0, 124, 184, 1, 65, 172, 42, 182, 1, 69, 172, 42, 180, 0, 124, 42, 180, 0, 124, 2]
abbrev dktX1_count_6 : List UInt8 := dkwX1_count_6 ++ dktX1_count_7
def dkwX1_count_5 : List UInt8 := [154, 0, 7, 3, 167, 0, 15, 42, 180, 0, 124, 180, 0, 37, 3, 46, 184, 0, 70, 172, 42, 182, 1, 62]
abbrev dktX1_count_5 : List UInt8 := dkwX1_count_5 ++ dktX1_count_6
def dkwX1_count_4 : List UInt8 := [167, 0, 4, 2, 172, 42, 182, 1, 59, 154, 0, 7, 2, 167, 0, 29, 42, 180, 0, 124, 180, 0, 7]
abbrev dktX1_count_4 : List UInt8 := dkwX1_count_4 ++ dktX1_count_5
def dkwX1_count_3 : List UInt8 := [182, 1, 59, 153, 0, 7, 4, 167, 0, 4, 3, 172, 42, 182, 1, 59, 153, 0, 11, 42, 3, 182, 0, 225]
abbrev dktX1_count_3 : List UInt8 := dkwX1_count_3 ++ dktX1_count_4
def dkwX1_count_2 : List UInt8 := [42, 180, 0, 124, 180, 0, 1, 172, 42, 180, 0, 124, 180, 0, 7, 172, 42, 182, 1, 56, 172, 42]
abbrev dktX1_count_2 : List UInt8 := dkwX1_count_2 ++ dktX1_count_3
def dkwX1_count_1 : List UInt8 := [170, 0, 0, 1, 30, 0, 0, 0, 0, 0, 0, 0, 20, 0, 0, 0, 97, 0, 0, 0, 105, 0, 0, 0, 113, 0, 0, 0, 118, 0, 0, 0, 131, 0, 0, 0, 148, 0, 0, 0, 186, 0, 0, 0, 191, 0, 0, 0, 199, 0, 0, 0, 204, 0, 0, 0, 220, 0, 0, 0, 225, 0, 0, 0, 234, 0, 0, 0, 243, 0, 0, 0, 248, 0, 0, 0, 253, 0, 0, 1, 2, 0, 0, 1, 10, 0, 0, 1, 15, 0, 0, 1, 15, 0, 0, 1, 25]
abbrev dktX1_count_1 : List UInt8 := dkwX1_count_1 ++ dktX1_count_2
def dkwX1_count_0 : List UInt8 := [27, 3, 16, 21, 184, 0, 88, 184, 0, 110, 27]
abbrev dktX1_count_0 : List UInt8 := dkwX1_count_0 ++ dktX1_count_1
theorem dksX1_count_0 : cX1_count.data.toList.drop 0 = dktX1_count_0 := by decide +kernel
theorem dksX1_count_1 : cX1_count.data.toList.drop 11 = dktX1_count_1 := dk_seg dksX1_count_0 11 rfl rfl
theorem dksX1_count_2 : cX1_count.data.toList.drop 108 = dktX1_count_2 := dk_seg dksX1_count_1 97 rfl rfl
theorem dksX1_count_3 : cX1_count.data.toList.drop 130 = dktX1_count_3 := dk_seg dksX1_count_2 22 rfl rfl
theorem dksX1_count_4 : cX1_count.data.toList.drop 154 = dktX1_count_4 := dk_seg dksX1_count_3 24 rfl rfl
theorem dksX1_count_5 : cX1_count.data.toList.drop 177 = dktX1_count_5 := dk_seg dksX1_count_4 23 rfl rfl
theorem dksX1_count_6 : cX1_count.data.toList.drop 201 = dktX1_count_6 := dk_seg dksX1_count_5 24 rfl rfl
theorem dksX1_count_7 : cX1_count.data.toList.drop 224 = dktX1_count_7 := dk_seg dksX1_count_6 23 rfl rfl
theorem dksX1_count_8 : cX1_count.data.toList.drop 246 = dktX1_count_8 := dk_seg dksX1_count_7 22 rfl rfl
theorem dksX1_count_9 : cX1_count.data.toList.drop 270 = dktX1_count_9 := dk_seg dksX1_count_8 24 rfl rfl
theorem dksX1_count_10 : cX1_count.data.toList.drop 293 = dktX1_count_10 := dk_seg dksX1_count_9 23 rfl rfl
theorem dX1_count_0 : decode cX1_count 0 = .ok (.iload_n 1, 1) := dk_27 (dk_at dksX1_count_0 0 rfl rfl)
theorem dX1_count_1 : decode cX1_count 1 = .ok (.iconst 0, 1) := dk_3 (dk_at dksX1_count_0 1 rfl rfl)
theorem dX1_count_2 : decode cX1_count 2 = .ok (.bipush 21, 2) := dk_16 21 (dk_at dksX1_count_0 2 rfl rfl)
theorem dX1_count_4 : decode cX1_count 4 = .ok (.invokestatic 88, 3) := dk_184 0 88 (dk_at dksX1_count_0 4 rfl rfl)
theorem dX1_count_7 : decode cX1_count 7 = .ok (.invokestatic 110, 3) := dk_184 0 110 (dk_at dksX1_count_0 7 rfl rfl)
theorem dX1_count_10 : decode cX1_count 10 = .ok (.iload_n 1, 1) := dk_27 (dk_at dksX1_count_0 10 rfl rfl)
theorem dX1_count_11 : decode cX1_count 11 = .ok (.tableswitch 286 0 20 #[97, 105, 113, 118, 131, 148, 186, 191, 199, 204, 220, 225, 234, 243, 248, 253, 258, 266, 271, 271, 281], 97) := by decide +kernel
theorem dX1_count_108 : decode cX1_count 108 = .ok (.aload_n 0, 1) := dk_42 (dk_at dksX1_count_2 0 rfl rfl)
theorem dX1_count_109 : decode cX1_count 109 = .ok (.getfield 124, 3) := dk_180 0 124 (dk_at dksX1_count_2 1 rfl rfl)
theorem dX1_count_112 : decode cX1_count 112 = .ok (.getfield 1, 3) := dk_180 0 1 (dk_at dksX1_count_2 4 rfl rfl)
theorem dX1_count_115 : decode cX1_count 115 = .ok (.ireturn, 1) := dk_172 (dk_at dksX1_count_2 7 rfl rfl)
theorem dX1_count_116 : decode cX1_count 116 = .ok (.aload_n 0, 1) := dk_42 (dk_at dksX1_count_2 8 rfl rfl)
theorem dX1_count_117 : decode cX1_count 117 = .ok (.getfield 124, 3) := dk_180 0 124 (dk_at dksX1_count_2 9 rfl rfl)
theorem dX1_count_120 : decode cX1_count 120 = .ok (.getfield 7, 3) := dk_180 0 7 (dk_at dksX1_count_2 12 rfl rfl)
theorem dX1_count_123 : decode cX1_count 123 = .ok (.ireturn, 1) := dk_172 (dk_at dksX1_count_2 15 rfl rfl)
theorem dX1_count_124 : decode cX1_count 124 = .ok (.aload_n 0, 1) := dk_42 (dk_at dksX1_count_2 16 rfl rfl)
theorem dX1_count_125 : decode cX1_count 125 = .ok (.invokevirtual 312, 3) := dk_182 1 56 (dk_at dksX1_count_2 17 rfl rfl)
theorem dX1_count_128 : decode cX1_count 128 = .ok (.ireturn, 1) := dk_172 (dk_at dksX1_count_2 20 rfl rfl)
theorem dX1_count_129 : decode cX1_count 129 = .ok (.aload_n 0, 1) := dk_42 (dk_at dksX1_count_2 21 rfl rfl)
theorem dX1_count_130 : decode cX1_count 130 = .ok (.invokevirtual 315, 3) := dk_182 1 59 (dk_at dksX1_count_3 0 rfl rfl)
theorem dX1_count_133 : decode cX1_count 133 = .ok (.ifCond .eq 7, 3) := dk_153 0 7 (dk_at dksX1_count_3 3 rfl rfl)
theorem dX1_count_136 : decode cX1_count 136 = .ok (.iconst 1, 1) := dk_4 (dk_at dksX1_count_3 6 rfl rfl)
theorem dX1_count_137 : decode cX1_count 137 = .ok (.goto 4, 3) := dk_167 0 4 (dk_at dksX1_count_3 7 rfl rfl)
theorem dX1_count_140 : decode cX1_count 140 = .ok (.iconst 0, 1) := dk_3 (dk_at dksX1_count_3 10 rfl rfl)
theorem dX1_count_141 : decode cX1_count 141 = .ok (.ireturn, 1) := dk_172 (dk_at dksX1_count_3 11 rfl rfl)
theorem dX1_count_142 : decode cX1_count 142 = .ok (.aload_n 0, 1) := dk_42 (dk_at dksX1_count_3 12 rfl rfl)
theorem dX1_count_143 : decode cX1_count 143 = .ok (.invokevirtual 315, 3) := dk_182 1 59 (dk_at dksX1_count_3 13 rfl rfl)
theorem dX1_count_146 : decode cX1_count 146 = .ok (.ifCond .eq 11, 3) := dk_153 0 11 (dk_at dksX1_count_3 16 rfl rfl)
theorem dX1_count_149 : decode cX1_count 149 = .ok (.aload_n 0, 1) := dk_42 (dk_at dksX1_count_3 19 rfl rfl)
theorem dX1_count_150 : decode cX1_count 150 = .ok (.iconst 0, 1) := dk_3 (dk_at dksX1_count_3 20 rfl rfl)
theorem dX1_count_151 : decode cX1_count 151 = .ok (.invokevirtual 225, 3) := dk_182 0 225 (dk_at dksX1_count_3 21 rfl rfl)
theorem dX1_count_154 : decode cX1_count 154 = .ok (.goto 4, 3) := dk_167 0 4 (dk_at dksX1_count_4 0 rfl rfl)
theorem dX1_count_157 : decode cX1_count 157 = .ok (.iconst (-1), 1) := dk_2 (dk_at dksX1_count_4 3 rfl rfl)
theorem dX1_count_158 : decode cX1_count 158 = .ok (.ireturn, 1) := dk_172 (dk_at dksX1_count_4 4 rfl rfl)
theorem dX1_count_159 : decode cX1_count 159 = .ok (.aload_n 0, 1) := dk_42 (dk_at dksX1_count_4 5 rfl rfl)
theorem dX1_count_160 : decode cX1_count 160 = .ok (.invokevirtual 315, 3) := dk_182 1 59 (dk_at dksX1_count_4 6 rfl rfl)
theorem dX1_count_163 : decode cX1_count 163 = .ok (.ifCond .ne 7, 3) := dk_154 0 7 (dk_at dksX1_count_4 9 rfl rfl)
theorem dX1_count_166 : decode cX1_count 166 = .ok (.iconst (-1), 1) := dk_2 (dk_at dksX1_count_4 12 rfl rfl)
theorem dX1_count_167 : decode cX1_count 167 = .ok (.goto 29, 3) := dk_167 0 29 (dk_at dksX1_count_4 13 rfl rfl)
theorem dX1_count_170 : decode cX1_count 170 = .ok (.aload_n 0, 1) := dk_42 (dk_at dksX1_count_4 16 rfl rfl)
theorem dX1_count_171 : decode cX1_count 171 = .ok (.getfield 124, 3) := dk_180 0 124 (dk_at dksX1_count_4 17 rfl rfl)
theorem dX1_count_174 : decode cX1_count 174 = .ok (.getfield 7, 3) := dk_180 0 7 (dk_at dksX1_count_4 20 rfl rfl)
theorem dX1_count_177 : decode cX1_count 177 = .ok (.ifCond .ne 7, 3) := dk_154 0 7 (dk_at dksX1_count_5 0 rfl rfl)
theorem dX1_count_180 : decode cX1_count 180 = .ok (.iconst 0, 1) := dk_3 (dk_at dksX1_count_5 3 rfl rfl)
theorem dX1_count_181 : decode cX1_count 181 = .ok (.goto 15, 3) := dk_167 0 15 (dk_at dksX1_count_5 4 rfl rfl)
theorem dX1_count_184 : decode cX1_count 184 = .ok (.aload_n 0, 1) := dk_42 (dk_at dksX1_count_5 7 rfl rfl)
theorem dX1_count_185 : decode cX1_count 185 = .ok (.getfield 124, 3) := dk_180 0 124 (dk_at dksX1_count_5 8 rfl rfl)
theorem dX1_count_188 : decode cX1_count 188 = .ok (.getfield 37, 3) := dk_180 0 37 (dk_at dksX1_count_5 11 rfl rfl)
theorem dX1_count_191 : decode cX1_count 191 = .ok (.iconst 0, 1) := dk_3 (dk_at dksX1_count_5 14 rfl rfl)
theorem dX1_count_192 : decode cX1_count 192 = .ok (.iaload, 1) := dk_46 (dk_at dksX1_count_5 15 rfl rfl)
theorem dX1_count_193 : decode cX1_count 193 = .ok (.invokestatic 70, 3) := dk_184 0 70 (dk_at dksX1_count_5 16 rfl rfl)
theorem dX1_count_196 : decode cX1_count 196 = .ok (.ireturn, 1) := dk_172 (dk_at dksX1_count_5 19 rfl rfl)
theorem dX1_count_197 : decode cX1_count 197 = .ok (.aload_n 0, 1) := dk_42 (dk_at dksX1_count_5 20 rfl rfl)
theorem dX1_count_198 : decode cX1_count 198 = .ok (.invokevirtual 318, 3) := dk_182 1 62 (dk_at dksX1_count_5 21 rfl rfl)
theorem dX1_count_201 : decode cX1_count 201 = .ok (.ireturn, 1) := dk_172 (dk_at dksX1_count_6 0 rfl rfl)
theorem dX1_count_202 : decode cX1_count 202 = .ok (.aload_n 0, 1) := dk_42 (dk_at dksX1_count_6 1 rfl rfl)
theorem dX1_count_203 : decode cX1_count 203 = .ok (.getfield 124, 3) := dk_180 0 124 (dk_at dksX1_count_6 2 rfl rfl)
theorem dX1_count_206 : decode cX1_count 206 = .ok (.invokestatic 321, 3) := dk_184 1 65 (dk_at dksX1_count_6 5 rfl rfl)
theorem dX1_count_209 : decode cX1_count 209 = .ok (.ireturn, 1) := dk_172 (dk_at dksX1_count_6 8 rfl rfl)
theorem dX1_count_210 : decode cX1_count 210 = .ok (.aload_n 0, 1) := dk_42 (dk_at dksX1_count_6 9 rfl rfl)
theorem dX1_count_211 : decode cX1_count 211 = .ok (.invokevirtual 325, 3) := dk_182 1 69 (dk_at dksX1_count_6 10 rfl rfl)
theorem dX1_count_214 : decode cX1_count 214 = .ok (.ireturn, 1) := dk_172 (dk_at dksX1_count_6 13 rfl rfl)
theorem dX1_count_215 : decode cX1_count 215 = .ok (.aload_n 0, 1) := dk_42 (dk_at dksX1_count_6 14 rfl rfl)
theorem dX1_count_216 : decode cX1_count 216 = .ok (.getfield 124, 3) := dk_180 0 124 (dk_at dksX1_count_6 15 rfl rfl)
theorem dX1_count_219 : decode cX1_count 219 = .ok (.aload_n 0, 1) := dk_42 (dk_at dksX1_count_6 18 rfl rfl)
theorem dX1_count_220 : decode cX1_count 220 = .ok (.getfield 124, 3) := dk_180 0 124 (dk_at dksX1_count_6 19 rfl rfl)
theorem dX1_count_223 : decode cX1_count 223 = .ok (.iconst (-1), 1) := dk_2 (dk_at dksX1_count_6 22 rfl rfl)
theorem dX1_count_224 : decode cX1_count 224 = .ok (.invokestatic 328, 3) := dk_184 1 72 (dk_at dksX1_count_7 0 rfl rfl)
theorem dX1_count_227 : decode cX1_count 227 = .ok (.getfield 251, 3) := dk_180 0 251 (dk_at dksX1_count_7 3 rfl rfl)
theorem dX1_count_230 : decode cX1_count 230 = .ok (.ireturn, 1) := dk_172 (dk_at dksX1_count_7 6 rfl rfl)
theorem dX1_count_231 : decode cX1_count 231 = .ok (.aload_n 0, 1) := dk_42 (dk_at dksX1_count_7 7 rfl rfl)
theorem dX1_count_232 : decode cX1_count 232 = .ok (.invokevirtual 332, 3) := dk_182 1 76 (dk_at dksX1_count_7 8 rfl rfl)
theorem dX1_count_235 : decode cX1_count 235 = .ok (.ireturn, 1) := dk_172 (dk_at dksX1_count_7 11 rfl rfl)
theorem dX1_count_236 : decode cX1_count 236 = .ok (.aload_n 0, 1) := dk_42 (dk_at dksX1_count_7 12 rfl rfl)
theorem dX1_count_237 : decode cX1_count 237 = .ok (.invokevirtual 335, 3) := dk_182 1 79 (dk_at dksX1_count_7 13 rfl rfl)
theorem dX1_count_240 : decode cX1_count 240 = .ok (.aload_n 0, 1) := dk_42 (dk_at dksX1_count_7 16 rfl rfl)
theorem dX1_count_241 : decode cX1_count 241 = .ok (.getfield 260, 3) := dk_180 1 4 (dk_at dksX1_count_7 17 rfl rfl)
theorem dX1_count_244 : decode cX1_count 244 = .ok (.ireturn, 1) := dk_172 (dk_at dksX1_count_7 20 rfl rfl)
theorem dX1_count_245 : decode cX1_count 245 = .ok (.aload_n 0, 1) := dk_42 (dk_at dksX1_count_7 21 rfl rfl)
theorem dX1_count_246 : decode cX1_count 246 = .ok (.invokevirtual 335, 3) := dk_182 1 79 (dk_at dksX1_count_8 0 rfl rfl)
theorem dX1_count_249 : decode cX1_count 249 = .ok (.aload_n 0, 1) := dk_42 (dk_at dksX1_count_8 3 rfl rfl)
theorem dX1_count_250 : decode cX1_count 250 = .ok (.getfield 267, 3) := dk_180 1 11 (dk_at dksX1_count_8 4 rfl rfl)
theorem dX1_count_253 : decode cX1_count 253 = .ok (.ireturn, 1) := dk_172 (dk_at dksX1_count_8 7 rfl rfl)
theorem dX1_count_254 : decode cX1_count 254 = .ok (.aload_n 0, 1) := dk_42 (dk_at dksX1_count_8 8 rfl rfl)
theorem dX1_count_255 : decode cX1_count 255 = .ok (.invokevirtual 338, 3) := dk_182 1 82 (dk_at dksX1_count_8 9 rfl rfl)
theorem dX1_count_258 : decode cX1_count 258 = .ok (.ireturn, 1) := dk_172 (dk_at dksX1_count_8 12 rfl rfl)
theorem dX1_count_259 : decode cX1_count 259 = .ok (.aload_n 0, 1) := dk_42 (dk_at dksX1_count_8 13 rfl rfl)
theorem dX1_count_260 : decode cX1_count 260 = .ok (.invokevirtual 341, 3) := dk_182 1 85 (dk_at dksX1_count_8 14 rfl rfl)
theorem dX1_count_263 : decode cX1_count 263 = .ok (.ireturn, 1) := dk_172 (dk_at dksX1_count_8 17 rfl rfl)
theorem dX1_count_264 : decode cX1_count 264 = .ok (.aload_n 0, 1) := dk_42 (dk_at dksX1_count_8 18 rfl rfl)
theorem dX1_count_265 : decode cX1_count 265 = .ok (.invokevirtual 344, 3) := dk_182 1 88 (dk_at dksX1_count_8 19 rfl rfl)
theorem dX1_count_268 : decode cX1_count 268 = .ok (.ireturn, 1) := dk_172 (dk_at dksX1_count_8 22 rfl rfl)
theorem dX1_count_269 : decode cX1_count 269 = .ok (.aload_n 0, 1) := dk_42 (dk_at dksX1_count_8 23 rfl rfl)
theorem dX1_count_270 : decode cX1_count 270 = .ok (.getfield 142, 3) := dk_180 0 142 (dk_at dksX1_count_9 0 rfl rfl)
theorem dX1_count_273 : decode cX1_count 273 = .ok (.invokevirtual 106, 3) := dk_182 0 106 (dk_at dksX1_count_9 3 rfl rfl)
theorem dX1_count_276 : decode cX1_count 276 = .ok (.ireturn, 1) := dk_172 (dk_at dksX1_count_9 6 rfl rfl)
theorem dX1_count_277 : decode cX1_count 277 = .ok (.aload_n 0, 1) := dk_42 (dk_at dksX1_count_9 7 rfl rfl)
theorem dX1_count_278 : decode cX1_count 278 = .ok (.getfield 192, 3) := dk_180 0 192 (dk_at dksX1_count_9 8 rfl rfl)
theorem dX1_count_281 : decode cX1_count 281 = .ok (.ireturn, 1) := dk_172 (dk_at dksX1_count_9 11 rfl rfl)
theorem dX1_count_282 : decode cX1_count 282 = .ok (.aload_n 0, 1) := dk_42 (dk_at dksX1_count_9 12 rfl rfl)
theorem dX1_count_283 : decode cX1_count 283 = .ok (.getfield 148, 3) := dk_180 0 148 (dk_at dksX1_count_9 13 rfl rfl)
theorem dX1_count_286 : decode cX1_count 286 = .ok (.iload_n 1, 1) := dk_27 (dk_at dksX1_count_9 16 rfl rfl)
theorem dX1_count_287 : decode cX1_count 287 = .ok (.bipush 18, 2) := dk_16 18 (dk_at dksX1_count_9 17 rfl rfl)
theorem dX1_count_289 : decode cX1_count 289 = .ok (.isub, 1) := dk_100 (dk_at dksX1_count_9 19 rfl rfl)
theorem dX1_count_290 : decode cX1_count 290 = .ok (.iaload, 1) := dk_46 (dk_at dksX1_count_9 20 rfl rfl)
theorem dX1_count_291 : decode cX1_count 291 = .ok (.ireturn, 1) := dk_172 (dk_at dksX1_count_9 21 rfl rfl)
theorem dX1_count_292 : decode cX1_count 292 = .ok (.aload_n 0, 1) := dk_42 (dk_at dksX1_count_9 22 rfl rfl)
theorem dX1_count_293 : decode cX1_count 293 = .ok (.invokevirtual 347, 3) := dk_182 1 91 (dk_at dksX1_count_10 0 rfl rfl)
theorem dX1_count_296 : decode cX1_count 296 = .ok (.ireturn, 1) := dk_172 (dk_at dksX1_count_10 3 rfl rfl)
theorem dX1_count_297 : decode cX1_count 297 = .ok (.aload_n 0, 1) := dk_42 (dk_at dksX1_count_10 4 rfl rfl)
theorem dX1_count_298 : decode cX1_count 298 = .ok (.invokevirtual 350, 3) := dk_182 1 94 (dk_at dksX1_count_10 5 rfl rfl)
theorem dX1_count_301 : decode cX1_count 301 = .ok (.ireturn, 1) := dk_172 (dk_at dksX1_count_10 8 rfl rfl)
abbrev cX1_there : ByteArray := prog_1_method_11_code
def yX1_there : MethodName := ⟨RX1, "there", "(Z)V"⟩
def dkwX1_there_0 : List UInt8 := [26, 154, 0, 11, 187, 0, 189, 89, 183, 0, 191, 191, 177]
abbrev dktX1_there_0 : List UInt8 := dkwX1_there_0 ++ []
theorem dksX1_there_0 : cX1_there.data.toList.drop 0 = dktX1_there_0 := by decide +kernel
theorem dX1_there_0 : decode cX1_there 0 = .ok (.iload_n 0, 1) := dk_26 (dk_at dksX1_there_0 0 rfl rfl)
theorem dX1_there_1 : decode cX1_there 1 = .ok (.ifCond .ne 11, 3) := dk_154 0 11 (dk_at dksX1_there_0 1 rfl rfl)
theorem dX1_there_4 : decode cX1_there 4 = .ok (.new 189, 3) := dk_187 0 189 (dk_at dksX1_there_0 4 rfl rfl)
theorem dX1_there_7 : decode cX1_there 7 = .ok (.dup, 1) := dk_89 (dk_at dksX1_there_0 7 rfl rfl)
theorem dX1_there_8 : decode cX1_there 8 = .ok (.invokespecial 191, 3) := dk_183 0 191 (dk_at dksX1_there_0 8 rfl rfl)
theorem dX1_there_11 : decode cX1_there 11 = .ok (.athrow, 1) := dk_191 (dk_at dksX1_there_0 11 rfl rfl)
theorem dX1_there_12 : decode cX1_there 12 = .ok (.return_, 1) := dk_177 (dk_at dksX1_there_0 12 rfl rfl)
abbrev cX1_flags : ByteArray := prog_1_method_17_code
def yX1_flags : MethodName := ⟨RX1, "flags", "()I"⟩
def dkwX1_flags_1 : List UInt8 := [46, 184, 0, 70, 96, 60, 132, 2, 1, 167, 255, 227, 27, 172]
abbrev dktX1_flags_1 : List UInt8 := dkwX1_flags_1 ++ []
def dkwX1_flags_0 : List UInt8 := [3, 60, 3, 61, 28, 42, 180, 0, 124, 180, 0, 7, 162, 0, 24, 27, 42, 180, 0, 124, 180, 0, 37, 28]
abbrev dktX1_flags_0 : List UInt8 := dkwX1_flags_0 ++ dktX1_flags_1
theorem dksX1_flags_0 : cX1_flags.data.toList.drop 0 = dktX1_flags_0 := by decide +kernel
theorem dksX1_flags_1 : cX1_flags.data.toList.drop 24 = dktX1_flags_1 := dk_seg dksX1_flags_0 24 rfl rfl
theorem dX1_flags_0 : decode cX1_flags 0 = .ok (.iconst 0, 1) := dk_3 (dk_at dksX1_flags_0 0 rfl rfl)
theorem dX1_flags_1 : decode cX1_flags 1 = .ok (.istore_n 1, 1) := dk_60 (dk_at dksX1_flags_0 1 rfl rfl)
theorem dX1_flags_2 : decode cX1_flags 2 = .ok (.iconst 0, 1) := dk_3 (dk_at dksX1_flags_0 2 rfl rfl)
theorem dX1_flags_3 : decode cX1_flags 3 = .ok (.istore_n 2, 1) := dk_61 (dk_at dksX1_flags_0 3 rfl rfl)
theorem dX1_flags_4 : decode cX1_flags 4 = .ok (.iload_n 2, 1) := dk_28 (dk_at dksX1_flags_0 4 rfl rfl)
theorem dX1_flags_5 : decode cX1_flags 5 = .ok (.aload_n 0, 1) := dk_42 (dk_at dksX1_flags_0 5 rfl rfl)
theorem dX1_flags_6 : decode cX1_flags 6 = .ok (.getfield 124, 3) := dk_180 0 124 (dk_at dksX1_flags_0 6 rfl rfl)
theorem dX1_flags_9 : decode cX1_flags 9 = .ok (.getfield 7, 3) := dk_180 0 7 (dk_at dksX1_flags_0 9 rfl rfl)
theorem dX1_flags_12 : decode cX1_flags 12 = .ok (.if_icmp .ge 24, 3) := dk_162 0 24 (dk_at dksX1_flags_0 12 rfl rfl)
theorem dX1_flags_15 : decode cX1_flags 15 = .ok (.iload_n 1, 1) := dk_27 (dk_at dksX1_flags_0 15 rfl rfl)
theorem dX1_flags_16 : decode cX1_flags 16 = .ok (.aload_n 0, 1) := dk_42 (dk_at dksX1_flags_0 16 rfl rfl)
theorem dX1_flags_17 : decode cX1_flags 17 = .ok (.getfield 124, 3) := dk_180 0 124 (dk_at dksX1_flags_0 17 rfl rfl)
theorem dX1_flags_20 : decode cX1_flags 20 = .ok (.getfield 37, 3) := dk_180 0 37 (dk_at dksX1_flags_0 20 rfl rfl)
theorem dX1_flags_23 : decode cX1_flags 23 = .ok (.iload_n 2, 1) := dk_28 (dk_at dksX1_flags_0 23 rfl rfl)
theorem dX1_flags_24 : decode cX1_flags 24 = .ok (.iaload, 1) := dk_46 (dk_at dksX1_flags_1 0 rfl rfl)
theorem dX1_flags_25 : decode cX1_flags 25 = .ok (.invokestatic 70, 3) := dk_184 0 70 (dk_at dksX1_flags_1 1 rfl rfl)
theorem dX1_flags_28 : decode cX1_flags 28 = .ok (.iadd, 1) := dk_96 (dk_at dksX1_flags_1 4 rfl rfl)
theorem dX1_flags_29 : decode cX1_flags 29 = .ok (.istore_n 1, 1) := dk_60 (dk_at dksX1_flags_1 5 rfl rfl)
theorem dX1_flags_30 : decode cX1_flags 30 = .ok (.iinc 2 1, 3) := dk_132 2 1 (dk_at dksX1_flags_1 6 rfl rfl)
theorem dX1_flags_33 : decode cX1_flags 33 = .ok (.goto (-29), 3) := dk_167 255 227 (dk_at dksX1_flags_1 9 rfl rfl)
theorem dX1_flags_36 : decode cX1_flags 36 = .ok (.iload_n 1, 1) := dk_27 (dk_at dksX1_flags_1 12 rfl rfl)
theorem dX1_flags_37 : decode cX1_flags 37 = .ok (.ireturn, 1) := dk_172 (dk_at dksX1_flags_1 13 rfl rfl)
abbrev cX1_isRegular : ByteArray := prog_1_method_19_code
def yX1_isRegular : MethodName := ⟨RX1, "isRegular", "()Z"⟩
def dkwX1_isRegular_3 : List UInt8 := [159, 0, 5, 3, 172, 132, 1, 1, 167, 255, 213, 4, 172]
abbrev dktX1_isRegular_3 : List UInt8 := dkwX1_isRegular_3 ++ []
def dkwX1_isRegular_2 : List UInt8 := [42, 180, 0, 124, 180, 0, 37, 27, 46, 184, 0, 70, 42, 180, 0, 124, 180, 0, 37, 3, 46, 184, 0, 70]
abbrev dktX1_isRegular_2 : List UInt8 := dkwX1_isRegular_2 ++ dktX1_isRegular_3
def dkwX1_isRegular_1 : List UInt8 := [159, 0, 5, 3, 172, 132, 1, 1, 167, 255, 227, 4, 60, 27, 42, 180, 0, 124, 180, 0, 7, 162, 0, 38]
abbrev dktX1_isRegular_1 : List UInt8 := dkwX1_isRegular_1 ++ dktX1_isRegular_2
def dkwX1_isRegular_0 : List UInt8 := [4, 60, 27, 42, 180, 0, 124, 180, 0, 1, 162, 0, 24, 42, 27, 182, 0, 225, 42, 3, 182, 0, 225]
abbrev dktX1_isRegular_0 : List UInt8 := dkwX1_isRegular_0 ++ dktX1_isRegular_1
theorem dksX1_isRegular_0 : cX1_isRegular.data.toList.drop 0 = dktX1_isRegular_0 := by decide +kernel
theorem dksX1_isRegular_1 : cX1_isRegular.data.toList.drop 23 = dktX1_isRegular_1 := dk_seg dksX1_isRegular_0 23 rfl rfl
theorem dksX1_isRegular_2 : cX1_isRegular.data.toList.drop 47 = dktX1_isRegular_2 := dk_seg dksX1_isRegular_1 24 rfl rfl
theorem dksX1_isRegular_3 : cX1_isRegular.data.toList.drop 71 = dktX1_isRegular_3 := dk_seg dksX1_isRegular_2 24 rfl rfl
theorem dX1_isRegular_0 : decode cX1_isRegular 0 = .ok (.iconst 1, 1) := dk_4 (dk_at dksX1_isRegular_0 0 rfl rfl)
theorem dX1_isRegular_1 : decode cX1_isRegular 1 = .ok (.istore_n 1, 1) := dk_60 (dk_at dksX1_isRegular_0 1 rfl rfl)
theorem dX1_isRegular_2 : decode cX1_isRegular 2 = .ok (.iload_n 1, 1) := dk_27 (dk_at dksX1_isRegular_0 2 rfl rfl)
theorem dX1_isRegular_3 : decode cX1_isRegular 3 = .ok (.aload_n 0, 1) := dk_42 (dk_at dksX1_isRegular_0 3 rfl rfl)
theorem dX1_isRegular_4 : decode cX1_isRegular 4 = .ok (.getfield 124, 3) := dk_180 0 124 (dk_at dksX1_isRegular_0 4 rfl rfl)
theorem dX1_isRegular_7 : decode cX1_isRegular 7 = .ok (.getfield 1, 3) := dk_180 0 1 (dk_at dksX1_isRegular_0 7 rfl rfl)
theorem dX1_isRegular_10 : decode cX1_isRegular 10 = .ok (.if_icmp .ge 24, 3) := dk_162 0 24 (dk_at dksX1_isRegular_0 10 rfl rfl)
theorem dX1_isRegular_13 : decode cX1_isRegular 13 = .ok (.aload_n 0, 1) := dk_42 (dk_at dksX1_isRegular_0 13 rfl rfl)
theorem dX1_isRegular_14 : decode cX1_isRegular 14 = .ok (.iload_n 1, 1) := dk_27 (dk_at dksX1_isRegular_0 14 rfl rfl)
theorem dX1_isRegular_15 : decode cX1_isRegular 15 = .ok (.invokevirtual 225, 3) := dk_182 0 225 (dk_at dksX1_isRegular_0 15 rfl rfl)
theorem dX1_isRegular_18 : decode cX1_isRegular 18 = .ok (.aload_n 0, 1) := dk_42 (dk_at dksX1_isRegular_0 18 rfl rfl)
theorem dX1_isRegular_19 : decode cX1_isRegular 19 = .ok (.iconst 0, 1) := dk_3 (dk_at dksX1_isRegular_0 19 rfl rfl)
theorem dX1_isRegular_20 : decode cX1_isRegular 20 = .ok (.invokevirtual 225, 3) := dk_182 0 225 (dk_at dksX1_isRegular_0 20 rfl rfl)
theorem dX1_isRegular_23 : decode cX1_isRegular 23 = .ok (.if_icmp .eq 5, 3) := dk_159 0 5 (dk_at dksX1_isRegular_1 0 rfl rfl)
theorem dX1_isRegular_26 : decode cX1_isRegular 26 = .ok (.iconst 0, 1) := dk_3 (dk_at dksX1_isRegular_1 3 rfl rfl)
theorem dX1_isRegular_27 : decode cX1_isRegular 27 = .ok (.ireturn, 1) := dk_172 (dk_at dksX1_isRegular_1 4 rfl rfl)
theorem dX1_isRegular_28 : decode cX1_isRegular 28 = .ok (.iinc 1 1, 3) := dk_132 1 1 (dk_at dksX1_isRegular_1 5 rfl rfl)
theorem dX1_isRegular_31 : decode cX1_isRegular 31 = .ok (.goto (-29), 3) := dk_167 255 227 (dk_at dksX1_isRegular_1 8 rfl rfl)
theorem dX1_isRegular_34 : decode cX1_isRegular 34 = .ok (.iconst 1, 1) := dk_4 (dk_at dksX1_isRegular_1 11 rfl rfl)
theorem dX1_isRegular_35 : decode cX1_isRegular 35 = .ok (.istore_n 1, 1) := dk_60 (dk_at dksX1_isRegular_1 12 rfl rfl)
theorem dX1_isRegular_36 : decode cX1_isRegular 36 = .ok (.iload_n 1, 1) := dk_27 (dk_at dksX1_isRegular_1 13 rfl rfl)
theorem dX1_isRegular_37 : decode cX1_isRegular 37 = .ok (.aload_n 0, 1) := dk_42 (dk_at dksX1_isRegular_1 14 rfl rfl)
theorem dX1_isRegular_38 : decode cX1_isRegular 38 = .ok (.getfield 124, 3) := dk_180 0 124 (dk_at dksX1_isRegular_1 15 rfl rfl)
theorem dX1_isRegular_41 : decode cX1_isRegular 41 = .ok (.getfield 7, 3) := dk_180 0 7 (dk_at dksX1_isRegular_1 18 rfl rfl)
theorem dX1_isRegular_44 : decode cX1_isRegular 44 = .ok (.if_icmp .ge 38, 3) := dk_162 0 38 (dk_at dksX1_isRegular_1 21 rfl rfl)
theorem dX1_isRegular_47 : decode cX1_isRegular 47 = .ok (.aload_n 0, 1) := dk_42 (dk_at dksX1_isRegular_2 0 rfl rfl)
theorem dX1_isRegular_48 : decode cX1_isRegular 48 = .ok (.getfield 124, 3) := dk_180 0 124 (dk_at dksX1_isRegular_2 1 rfl rfl)
theorem dX1_isRegular_51 : decode cX1_isRegular 51 = .ok (.getfield 37, 3) := dk_180 0 37 (dk_at dksX1_isRegular_2 4 rfl rfl)
theorem dX1_isRegular_54 : decode cX1_isRegular 54 = .ok (.iload_n 1, 1) := dk_27 (dk_at dksX1_isRegular_2 7 rfl rfl)
theorem dX1_isRegular_55 : decode cX1_isRegular 55 = .ok (.iaload, 1) := dk_46 (dk_at dksX1_isRegular_2 8 rfl rfl)
theorem dX1_isRegular_56 : decode cX1_isRegular 56 = .ok (.invokestatic 70, 3) := dk_184 0 70 (dk_at dksX1_isRegular_2 9 rfl rfl)
theorem dX1_isRegular_59 : decode cX1_isRegular 59 = .ok (.aload_n 0, 1) := dk_42 (dk_at dksX1_isRegular_2 12 rfl rfl)
theorem dX1_isRegular_60 : decode cX1_isRegular 60 = .ok (.getfield 124, 3) := dk_180 0 124 (dk_at dksX1_isRegular_2 13 rfl rfl)
theorem dX1_isRegular_63 : decode cX1_isRegular 63 = .ok (.getfield 37, 3) := dk_180 0 37 (dk_at dksX1_isRegular_2 16 rfl rfl)
theorem dX1_isRegular_66 : decode cX1_isRegular 66 = .ok (.iconst 0, 1) := dk_3 (dk_at dksX1_isRegular_2 19 rfl rfl)
theorem dX1_isRegular_67 : decode cX1_isRegular 67 = .ok (.iaload, 1) := dk_46 (dk_at dksX1_isRegular_2 20 rfl rfl)
theorem dX1_isRegular_68 : decode cX1_isRegular 68 = .ok (.invokestatic 70, 3) := dk_184 0 70 (dk_at dksX1_isRegular_2 21 rfl rfl)
theorem dX1_isRegular_71 : decode cX1_isRegular 71 = .ok (.if_icmp .eq 5, 3) := dk_159 0 5 (dk_at dksX1_isRegular_3 0 rfl rfl)
theorem dX1_isRegular_74 : decode cX1_isRegular 74 = .ok (.iconst 0, 1) := dk_3 (dk_at dksX1_isRegular_3 3 rfl rfl)
theorem dX1_isRegular_75 : decode cX1_isRegular 75 = .ok (.ireturn, 1) := dk_172 (dk_at dksX1_isRegular_3 4 rfl rfl)
theorem dX1_isRegular_76 : decode cX1_isRegular 76 = .ok (.iinc 1 1, 3) := dk_132 1 1 (dk_at dksX1_isRegular_3 5 rfl rfl)
theorem dX1_isRegular_79 : decode cX1_isRegular 79 = .ok (.goto (-43), 3) := dk_167 255 213 (dk_at dksX1_isRegular_3 8 rfl rfl)
theorem dX1_isRegular_82 : decode cX1_isRegular 82 = .ok (.iconst 1, 1) := dk_4 (dk_at dksX1_isRegular_3 11 rfl rfl)
theorem dX1_isRegular_83 : decode cX1_isRegular 83 = .ok (.ireturn, 1) := dk_172 (dk_at dksX1_isRegular_3 12 rfl rfl)
abbrev cX1_linesThrough : ByteArray := prog_1_method_18_code
def yX1_linesThrough : MethodName := ⟨RX1, "linesThrough", "(I)I"⟩
def dkwX1_linesThrough_0 : List UInt8 := [42, 180, 0, 124, 27, 182, 0, 222, 184, 0, 70, 172]
abbrev dktX1_linesThrough_0 : List UInt8 := dkwX1_linesThrough_0 ++ []
theorem dksX1_linesThrough_0 : cX1_linesThrough.data.toList.drop 0 = dktX1_linesThrough_0 := by decide +kernel
theorem dX1_linesThrough_0 : decode cX1_linesThrough 0 = .ok (.aload_n 0, 1) := dk_42 (dk_at dksX1_linesThrough_0 0 rfl rfl)
theorem dX1_linesThrough_1 : decode cX1_linesThrough 1 = .ok (.getfield 124, 3) := dk_180 0 124 (dk_at dksX1_linesThrough_0 1 rfl rfl)
theorem dX1_linesThrough_4 : decode cX1_linesThrough 4 = .ok (.iload_n 1, 1) := dk_27 (dk_at dksX1_linesThrough_0 4 rfl rfl)
theorem dX1_linesThrough_5 : decode cX1_linesThrough 5 = .ok (.invokevirtual 222, 3) := dk_182 0 222 (dk_at dksX1_linesThrough_0 5 rfl rfl)
theorem dX1_linesThrough_8 : decode cX1_linesThrough 8 = .ok (.invokestatic 70, 3) := dk_184 0 70 (dk_at dksX1_linesThrough_0 8 rfl rfl)
theorem dX1_linesThrough_11 : decode cX1_linesThrough 11 = .ok (.ireturn, 1) := dk_172 (dk_at dksX1_linesThrough_0 11 rfl rfl)
abbrev cX1_joinedPairs : ByteArray := prog_1_method_20_code
def yX1_joinedPairs : MethodName := ⟨RX1, "joinedPairs", "()I"⟩
def dkwX1_joinedPairs_2 : List UInt8 := [167, 255, 227, 132, 2, 1, 167, 255, 208, 27, 172]
abbrev dktX1_joinedPairs_2 : List UInt8 := dkwX1_joinedPairs_2 ++ []
def dkwX1_joinedPairs_1 : List UInt8 := [180, 0, 124, 4, 28, 120, 4, 29, 120, 128, 182, 0, 228, 2, 159, 0, 6, 132, 1, 1, 132, 3, 1]
abbrev dktX1_joinedPairs_1 : List UInt8 := dkwX1_joinedPairs_1 ++ dktX1_joinedPairs_2
def dkwX1_joinedPairs_0 : List UInt8 := [3, 60, 3, 61, 28, 42, 180, 0, 124, 180, 0, 1, 162, 0, 43, 3, 62, 29, 28, 162, 0, 30, 42]
abbrev dktX1_joinedPairs_0 : List UInt8 := dkwX1_joinedPairs_0 ++ dktX1_joinedPairs_1
theorem dksX1_joinedPairs_0 : cX1_joinedPairs.data.toList.drop 0 = dktX1_joinedPairs_0 := by decide +kernel
theorem dksX1_joinedPairs_1 : cX1_joinedPairs.data.toList.drop 23 = dktX1_joinedPairs_1 := dk_seg dksX1_joinedPairs_0 23 rfl rfl
theorem dksX1_joinedPairs_2 : cX1_joinedPairs.data.toList.drop 46 = dktX1_joinedPairs_2 := dk_seg dksX1_joinedPairs_1 23 rfl rfl
theorem dX1_joinedPairs_0 : decode cX1_joinedPairs 0 = .ok (.iconst 0, 1) := dk_3 (dk_at dksX1_joinedPairs_0 0 rfl rfl)
theorem dX1_joinedPairs_1 : decode cX1_joinedPairs 1 = .ok (.istore_n 1, 1) := dk_60 (dk_at dksX1_joinedPairs_0 1 rfl rfl)
theorem dX1_joinedPairs_2 : decode cX1_joinedPairs 2 = .ok (.iconst 0, 1) := dk_3 (dk_at dksX1_joinedPairs_0 2 rfl rfl)
theorem dX1_joinedPairs_3 : decode cX1_joinedPairs 3 = .ok (.istore_n 2, 1) := dk_61 (dk_at dksX1_joinedPairs_0 3 rfl rfl)
theorem dX1_joinedPairs_4 : decode cX1_joinedPairs 4 = .ok (.iload_n 2, 1) := dk_28 (dk_at dksX1_joinedPairs_0 4 rfl rfl)
theorem dX1_joinedPairs_5 : decode cX1_joinedPairs 5 = .ok (.aload_n 0, 1) := dk_42 (dk_at dksX1_joinedPairs_0 5 rfl rfl)
theorem dX1_joinedPairs_6 : decode cX1_joinedPairs 6 = .ok (.getfield 124, 3) := dk_180 0 124 (dk_at dksX1_joinedPairs_0 6 rfl rfl)
theorem dX1_joinedPairs_9 : decode cX1_joinedPairs 9 = .ok (.getfield 1, 3) := dk_180 0 1 (dk_at dksX1_joinedPairs_0 9 rfl rfl)
theorem dX1_joinedPairs_12 : decode cX1_joinedPairs 12 = .ok (.if_icmp .ge 43, 3) := dk_162 0 43 (dk_at dksX1_joinedPairs_0 12 rfl rfl)
theorem dX1_joinedPairs_15 : decode cX1_joinedPairs 15 = .ok (.iconst 0, 1) := dk_3 (dk_at dksX1_joinedPairs_0 15 rfl rfl)
theorem dX1_joinedPairs_16 : decode cX1_joinedPairs 16 = .ok (.istore_n 3, 1) := dk_62 (dk_at dksX1_joinedPairs_0 16 rfl rfl)
theorem dX1_joinedPairs_17 : decode cX1_joinedPairs 17 = .ok (.iload_n 3, 1) := dk_29 (dk_at dksX1_joinedPairs_0 17 rfl rfl)
theorem dX1_joinedPairs_18 : decode cX1_joinedPairs 18 = .ok (.iload_n 2, 1) := dk_28 (dk_at dksX1_joinedPairs_0 18 rfl rfl)
theorem dX1_joinedPairs_19 : decode cX1_joinedPairs 19 = .ok (.if_icmp .ge 30, 3) := dk_162 0 30 (dk_at dksX1_joinedPairs_0 19 rfl rfl)
theorem dX1_joinedPairs_22 : decode cX1_joinedPairs 22 = .ok (.aload_n 0, 1) := dk_42 (dk_at dksX1_joinedPairs_0 22 rfl rfl)
theorem dX1_joinedPairs_23 : decode cX1_joinedPairs 23 = .ok (.getfield 124, 3) := dk_180 0 124 (dk_at dksX1_joinedPairs_1 0 rfl rfl)
theorem dX1_joinedPairs_26 : decode cX1_joinedPairs 26 = .ok (.iconst 1, 1) := dk_4 (dk_at dksX1_joinedPairs_1 3 rfl rfl)
theorem dX1_joinedPairs_27 : decode cX1_joinedPairs 27 = .ok (.iload_n 2, 1) := dk_28 (dk_at dksX1_joinedPairs_1 4 rfl rfl)
theorem dX1_joinedPairs_28 : decode cX1_joinedPairs 28 = .ok (.ishl, 1) := dk_120 (dk_at dksX1_joinedPairs_1 5 rfl rfl)
theorem dX1_joinedPairs_29 : decode cX1_joinedPairs 29 = .ok (.iconst 1, 1) := dk_4 (dk_at dksX1_joinedPairs_1 6 rfl rfl)
theorem dX1_joinedPairs_30 : decode cX1_joinedPairs 30 = .ok (.iload_n 3, 1) := dk_29 (dk_at dksX1_joinedPairs_1 7 rfl rfl)
theorem dX1_joinedPairs_31 : decode cX1_joinedPairs 31 = .ok (.ishl, 1) := dk_120 (dk_at dksX1_joinedPairs_1 8 rfl rfl)
theorem dX1_joinedPairs_32 : decode cX1_joinedPairs 32 = .ok (.ior, 1) := dk_128 (dk_at dksX1_joinedPairs_1 9 rfl rfl)
theorem dX1_joinedPairs_33 : decode cX1_joinedPairs 33 = .ok (.invokevirtual 228, 3) := dk_182 0 228 (dk_at dksX1_joinedPairs_1 10 rfl rfl)
theorem dX1_joinedPairs_36 : decode cX1_joinedPairs 36 = .ok (.iconst (-1), 1) := dk_2 (dk_at dksX1_joinedPairs_1 13 rfl rfl)
theorem dX1_joinedPairs_37 : decode cX1_joinedPairs 37 = .ok (.if_icmp .eq 6, 3) := dk_159 0 6 (dk_at dksX1_joinedPairs_1 14 rfl rfl)
theorem dX1_joinedPairs_40 : decode cX1_joinedPairs 40 = .ok (.iinc 1 1, 3) := dk_132 1 1 (dk_at dksX1_joinedPairs_1 17 rfl rfl)
theorem dX1_joinedPairs_43 : decode cX1_joinedPairs 43 = .ok (.iinc 3 1, 3) := dk_132 3 1 (dk_at dksX1_joinedPairs_1 20 rfl rfl)
theorem dX1_joinedPairs_46 : decode cX1_joinedPairs 46 = .ok (.goto (-29), 3) := dk_167 255 227 (dk_at dksX1_joinedPairs_2 0 rfl rfl)
theorem dX1_joinedPairs_49 : decode cX1_joinedPairs 49 = .ok (.iinc 2 1, 3) := dk_132 2 1 (dk_at dksX1_joinedPairs_2 3 rfl rfl)
theorem dX1_joinedPairs_52 : decode cX1_joinedPairs 52 = .ok (.goto (-48), 3) := dk_167 255 208 (dk_at dksX1_joinedPairs_2 6 rfl rfl)
theorem dX1_joinedPairs_55 : decode cX1_joinedPairs 55 = .ok (.iload_n 1, 1) := dk_27 (dk_at dksX1_joinedPairs_2 9 rfl rfl)
theorem dX1_joinedPairs_56 : decode cX1_joinedPairs 56 = .ok (.ireturn, 1) := dk_172 (dk_at dksX1_joinedPairs_2 10 rfl rfl)
abbrev cX1_trianglesOf : ByteArray := prog_1_method_21_code
def yX1_trianglesOf : MethodName := ⟨RX1, "trianglesOf", "(LSchemeLister$Scheme;)I"⟩
def dkwX1_trianglesOf_5 : List UInt8 := [27, 172]
abbrev dktX1_trianglesOf_5 : List UInt8 := dkwX1_trianglesOf_5 ++ []
def dkwX1_trianglesOf_4 : List UInt8 := [159, 0, 6, 132, 1, 1, 132, 4, 1, 167, 255, 175, 132, 3, 1, 167, 255, 161, 132, 2, 1, 167, 255, 145]
abbrev dktX1_trianglesOf_4 : List UInt8 := dkwX1_trianglesOf_4 ++ dktX1_trianglesOf_5
def dkwX1_trianglesOf_3 : List UInt8 := [126, 54, 7, 21, 5, 153, 0, 23, 21, 6, 153, 0, 18, 21, 7, 153, 0, 13, 21, 5, 21, 6]
abbrev dktX1_trianglesOf_3 : List UInt8 := dkwX1_trianglesOf_3 ++ dktX1_trianglesOf_4
def dkwX1_trianglesOf_2 : List UInt8 := [46, 42, 180, 0, 37, 21, 4, 46, 126, 54, 6, 42, 180, 0, 37, 28, 46, 42, 180, 0, 37, 21, 4, 46]
abbrev dktX1_trianglesOf_2 : List UInt8 := dkwX1_trianglesOf_2 ++ dktX1_trianglesOf_3
def dkwX1_trianglesOf_1 : List UInt8 := [29, 162, 0, 81, 42, 180, 0, 37, 28, 46, 42, 180, 0, 37, 29, 46, 126, 54, 5, 42, 180, 0, 37, 29]
abbrev dktX1_trianglesOf_1 : List UInt8 := dkwX1_trianglesOf_1 ++ dktX1_trianglesOf_2
def dkwX1_trianglesOf_0 : List UInt8 := [3, 60, 3, 61, 28, 42, 180, 0, 7, 162, 0, 109, 3, 62, 29, 28, 162, 0, 96, 3, 54, 4, 21, 4]
abbrev dktX1_trianglesOf_0 : List UInt8 := dkwX1_trianglesOf_0 ++ dktX1_trianglesOf_1
theorem dksX1_trianglesOf_0 : cX1_trianglesOf.data.toList.drop 0 = dktX1_trianglesOf_0 := by decide +kernel
theorem dksX1_trianglesOf_1 : cX1_trianglesOf.data.toList.drop 24 = dktX1_trianglesOf_1 := dk_seg dksX1_trianglesOf_0 24 rfl rfl
theorem dksX1_trianglesOf_2 : cX1_trianglesOf.data.toList.drop 48 = dktX1_trianglesOf_2 := dk_seg dksX1_trianglesOf_1 24 rfl rfl
theorem dksX1_trianglesOf_3 : cX1_trianglesOf.data.toList.drop 72 = dktX1_trianglesOf_3 := dk_seg dksX1_trianglesOf_2 24 rfl rfl
theorem dksX1_trianglesOf_4 : cX1_trianglesOf.data.toList.drop 94 = dktX1_trianglesOf_4 := dk_seg dksX1_trianglesOf_3 22 rfl rfl
theorem dksX1_trianglesOf_5 : cX1_trianglesOf.data.toList.drop 118 = dktX1_trianglesOf_5 := dk_seg dksX1_trianglesOf_4 24 rfl rfl
theorem dX1_trianglesOf_0 : decode cX1_trianglesOf 0 = .ok (.iconst 0, 1) := dk_3 (dk_at dksX1_trianglesOf_0 0 rfl rfl)
theorem dX1_trianglesOf_1 : decode cX1_trianglesOf 1 = .ok (.istore_n 1, 1) := dk_60 (dk_at dksX1_trianglesOf_0 1 rfl rfl)
theorem dX1_trianglesOf_2 : decode cX1_trianglesOf 2 = .ok (.iconst 0, 1) := dk_3 (dk_at dksX1_trianglesOf_0 2 rfl rfl)
theorem dX1_trianglesOf_3 : decode cX1_trianglesOf 3 = .ok (.istore_n 2, 1) := dk_61 (dk_at dksX1_trianglesOf_0 3 rfl rfl)
theorem dX1_trianglesOf_4 : decode cX1_trianglesOf 4 = .ok (.iload_n 2, 1) := dk_28 (dk_at dksX1_trianglesOf_0 4 rfl rfl)
theorem dX1_trianglesOf_5 : decode cX1_trianglesOf 5 = .ok (.aload_n 0, 1) := dk_42 (dk_at dksX1_trianglesOf_0 5 rfl rfl)
theorem dX1_trianglesOf_6 : decode cX1_trianglesOf 6 = .ok (.getfield 7, 3) := dk_180 0 7 (dk_at dksX1_trianglesOf_0 6 rfl rfl)
theorem dX1_trianglesOf_9 : decode cX1_trianglesOf 9 = .ok (.if_icmp .ge 109, 3) := dk_162 0 109 (dk_at dksX1_trianglesOf_0 9 rfl rfl)
theorem dX1_trianglesOf_12 : decode cX1_trianglesOf 12 = .ok (.iconst 0, 1) := dk_3 (dk_at dksX1_trianglesOf_0 12 rfl rfl)
theorem dX1_trianglesOf_13 : decode cX1_trianglesOf 13 = .ok (.istore_n 3, 1) := dk_62 (dk_at dksX1_trianglesOf_0 13 rfl rfl)
theorem dX1_trianglesOf_14 : decode cX1_trianglesOf 14 = .ok (.iload_n 3, 1) := dk_29 (dk_at dksX1_trianglesOf_0 14 rfl rfl)
theorem dX1_trianglesOf_15 : decode cX1_trianglesOf 15 = .ok (.iload_n 2, 1) := dk_28 (dk_at dksX1_trianglesOf_0 15 rfl rfl)
theorem dX1_trianglesOf_16 : decode cX1_trianglesOf 16 = .ok (.if_icmp .ge 96, 3) := dk_162 0 96 (dk_at dksX1_trianglesOf_0 16 rfl rfl)
theorem dX1_trianglesOf_19 : decode cX1_trianglesOf 19 = .ok (.iconst 0, 1) := dk_3 (dk_at dksX1_trianglesOf_0 19 rfl rfl)
theorem dX1_trianglesOf_20 : decode cX1_trianglesOf 20 = .ok (.istore 4, 2) := dk_54 4 (dk_at dksX1_trianglesOf_0 20 rfl rfl)
theorem dX1_trianglesOf_22 : decode cX1_trianglesOf 22 = .ok (.iload 4, 2) := dk_21 4 (dk_at dksX1_trianglesOf_0 22 rfl rfl)
theorem dX1_trianglesOf_24 : decode cX1_trianglesOf 24 = .ok (.iload_n 3, 1) := dk_29 (dk_at dksX1_trianglesOf_1 0 rfl rfl)
theorem dX1_trianglesOf_25 : decode cX1_trianglesOf 25 = .ok (.if_icmp .ge 81, 3) := dk_162 0 81 (dk_at dksX1_trianglesOf_1 1 rfl rfl)
theorem dX1_trianglesOf_28 : decode cX1_trianglesOf 28 = .ok (.aload_n 0, 1) := dk_42 (dk_at dksX1_trianglesOf_1 4 rfl rfl)
theorem dX1_trianglesOf_29 : decode cX1_trianglesOf 29 = .ok (.getfield 37, 3) := dk_180 0 37 (dk_at dksX1_trianglesOf_1 5 rfl rfl)
theorem dX1_trianglesOf_32 : decode cX1_trianglesOf 32 = .ok (.iload_n 2, 1) := dk_28 (dk_at dksX1_trianglesOf_1 8 rfl rfl)
theorem dX1_trianglesOf_33 : decode cX1_trianglesOf 33 = .ok (.iaload, 1) := dk_46 (dk_at dksX1_trianglesOf_1 9 rfl rfl)
theorem dX1_trianglesOf_34 : decode cX1_trianglesOf 34 = .ok (.aload_n 0, 1) := dk_42 (dk_at dksX1_trianglesOf_1 10 rfl rfl)
theorem dX1_trianglesOf_35 : decode cX1_trianglesOf 35 = .ok (.getfield 37, 3) := dk_180 0 37 (dk_at dksX1_trianglesOf_1 11 rfl rfl)
theorem dX1_trianglesOf_38 : decode cX1_trianglesOf 38 = .ok (.iload_n 3, 1) := dk_29 (dk_at dksX1_trianglesOf_1 14 rfl rfl)
theorem dX1_trianglesOf_39 : decode cX1_trianglesOf 39 = .ok (.iaload, 1) := dk_46 (dk_at dksX1_trianglesOf_1 15 rfl rfl)
theorem dX1_trianglesOf_40 : decode cX1_trianglesOf 40 = .ok (.iand, 1) := dk_126 (dk_at dksX1_trianglesOf_1 16 rfl rfl)
theorem dX1_trianglesOf_41 : decode cX1_trianglesOf 41 = .ok (.istore 5, 2) := dk_54 5 (dk_at dksX1_trianglesOf_1 17 rfl rfl)
theorem dX1_trianglesOf_43 : decode cX1_trianglesOf 43 = .ok (.aload_n 0, 1) := dk_42 (dk_at dksX1_trianglesOf_1 19 rfl rfl)
theorem dX1_trianglesOf_44 : decode cX1_trianglesOf 44 = .ok (.getfield 37, 3) := dk_180 0 37 (dk_at dksX1_trianglesOf_1 20 rfl rfl)
theorem dX1_trianglesOf_47 : decode cX1_trianglesOf 47 = .ok (.iload_n 3, 1) := dk_29 (dk_at dksX1_trianglesOf_1 23 rfl rfl)
theorem dX1_trianglesOf_48 : decode cX1_trianglesOf 48 = .ok (.iaload, 1) := dk_46 (dk_at dksX1_trianglesOf_2 0 rfl rfl)
theorem dX1_trianglesOf_49 : decode cX1_trianglesOf 49 = .ok (.aload_n 0, 1) := dk_42 (dk_at dksX1_trianglesOf_2 1 rfl rfl)
theorem dX1_trianglesOf_50 : decode cX1_trianglesOf 50 = .ok (.getfield 37, 3) := dk_180 0 37 (dk_at dksX1_trianglesOf_2 2 rfl rfl)
theorem dX1_trianglesOf_53 : decode cX1_trianglesOf 53 = .ok (.iload 4, 2) := dk_21 4 (dk_at dksX1_trianglesOf_2 5 rfl rfl)
theorem dX1_trianglesOf_55 : decode cX1_trianglesOf 55 = .ok (.iaload, 1) := dk_46 (dk_at dksX1_trianglesOf_2 7 rfl rfl)
theorem dX1_trianglesOf_56 : decode cX1_trianglesOf 56 = .ok (.iand, 1) := dk_126 (dk_at dksX1_trianglesOf_2 8 rfl rfl)
theorem dX1_trianglesOf_57 : decode cX1_trianglesOf 57 = .ok (.istore 6, 2) := dk_54 6 (dk_at dksX1_trianglesOf_2 9 rfl rfl)
theorem dX1_trianglesOf_59 : decode cX1_trianglesOf 59 = .ok (.aload_n 0, 1) := dk_42 (dk_at dksX1_trianglesOf_2 11 rfl rfl)
theorem dX1_trianglesOf_60 : decode cX1_trianglesOf 60 = .ok (.getfield 37, 3) := dk_180 0 37 (dk_at dksX1_trianglesOf_2 12 rfl rfl)
theorem dX1_trianglesOf_63 : decode cX1_trianglesOf 63 = .ok (.iload_n 2, 1) := dk_28 (dk_at dksX1_trianglesOf_2 15 rfl rfl)
theorem dX1_trianglesOf_64 : decode cX1_trianglesOf 64 = .ok (.iaload, 1) := dk_46 (dk_at dksX1_trianglesOf_2 16 rfl rfl)
theorem dX1_trianglesOf_65 : decode cX1_trianglesOf 65 = .ok (.aload_n 0, 1) := dk_42 (dk_at dksX1_trianglesOf_2 17 rfl rfl)
theorem dX1_trianglesOf_66 : decode cX1_trianglesOf 66 = .ok (.getfield 37, 3) := dk_180 0 37 (dk_at dksX1_trianglesOf_2 18 rfl rfl)
theorem dX1_trianglesOf_69 : decode cX1_trianglesOf 69 = .ok (.iload 4, 2) := dk_21 4 (dk_at dksX1_trianglesOf_2 21 rfl rfl)
theorem dX1_trianglesOf_71 : decode cX1_trianglesOf 71 = .ok (.iaload, 1) := dk_46 (dk_at dksX1_trianglesOf_2 23 rfl rfl)
theorem dX1_trianglesOf_72 : decode cX1_trianglesOf 72 = .ok (.iand, 1) := dk_126 (dk_at dksX1_trianglesOf_3 0 rfl rfl)
theorem dX1_trianglesOf_73 : decode cX1_trianglesOf 73 = .ok (.istore 7, 2) := dk_54 7 (dk_at dksX1_trianglesOf_3 1 rfl rfl)
theorem dX1_trianglesOf_75 : decode cX1_trianglesOf 75 = .ok (.iload 5, 2) := dk_21 5 (dk_at dksX1_trianglesOf_3 3 rfl rfl)
theorem dX1_trianglesOf_77 : decode cX1_trianglesOf 77 = .ok (.ifCond .eq 23, 3) := dk_153 0 23 (dk_at dksX1_trianglesOf_3 5 rfl rfl)
theorem dX1_trianglesOf_80 : decode cX1_trianglesOf 80 = .ok (.iload 6, 2) := dk_21 6 (dk_at dksX1_trianglesOf_3 8 rfl rfl)
theorem dX1_trianglesOf_82 : decode cX1_trianglesOf 82 = .ok (.ifCond .eq 18, 3) := dk_153 0 18 (dk_at dksX1_trianglesOf_3 10 rfl rfl)
theorem dX1_trianglesOf_85 : decode cX1_trianglesOf 85 = .ok (.iload 7, 2) := dk_21 7 (dk_at dksX1_trianglesOf_3 13 rfl rfl)
theorem dX1_trianglesOf_87 : decode cX1_trianglesOf 87 = .ok (.ifCond .eq 13, 3) := dk_153 0 13 (dk_at dksX1_trianglesOf_3 15 rfl rfl)
theorem dX1_trianglesOf_90 : decode cX1_trianglesOf 90 = .ok (.iload 5, 2) := dk_21 5 (dk_at dksX1_trianglesOf_3 18 rfl rfl)
theorem dX1_trianglesOf_92 : decode cX1_trianglesOf 92 = .ok (.iload 6, 2) := dk_21 6 (dk_at dksX1_trianglesOf_3 20 rfl rfl)
theorem dX1_trianglesOf_94 : decode cX1_trianglesOf 94 = .ok (.if_icmp .eq 6, 3) := dk_159 0 6 (dk_at dksX1_trianglesOf_4 0 rfl rfl)
theorem dX1_trianglesOf_97 : decode cX1_trianglesOf 97 = .ok (.iinc 1 1, 3) := dk_132 1 1 (dk_at dksX1_trianglesOf_4 3 rfl rfl)
theorem dX1_trianglesOf_100 : decode cX1_trianglesOf 100 = .ok (.iinc 4 1, 3) := dk_132 4 1 (dk_at dksX1_trianglesOf_4 6 rfl rfl)
theorem dX1_trianglesOf_103 : decode cX1_trianglesOf 103 = .ok (.goto (-81), 3) := dk_167 255 175 (dk_at dksX1_trianglesOf_4 9 rfl rfl)
theorem dX1_trianglesOf_106 : decode cX1_trianglesOf 106 = .ok (.iinc 3 1, 3) := dk_132 3 1 (dk_at dksX1_trianglesOf_4 12 rfl rfl)
theorem dX1_trianglesOf_109 : decode cX1_trianglesOf 109 = .ok (.goto (-95), 3) := dk_167 255 161 (dk_at dksX1_trianglesOf_4 15 rfl rfl)
theorem dX1_trianglesOf_112 : decode cX1_trianglesOf 112 = .ok (.iinc 2 1, 3) := dk_132 2 1 (dk_at dksX1_trianglesOf_4 18 rfl rfl)
theorem dX1_trianglesOf_115 : decode cX1_trianglesOf 115 = .ok (.goto (-111), 3) := dk_167 255 145 (dk_at dksX1_trianglesOf_4 21 rfl rfl)
theorem dX1_trianglesOf_118 : decode cX1_trianglesOf 118 = .ok (.iload_n 1, 1) := dk_27 (dk_at dksX1_trianglesOf_5 0 rfl rfl)
theorem dX1_trianglesOf_119 : decode cX1_trianglesOf 119 = .ok (.ireturn, 1) := dk_172 (dk_at dksX1_trianglesOf_5 1 rfl rfl)
abbrev cX1_pieces : ByteArray := prog_1_method_28_code
def yX1_pieces : MethodName := ⟨RX1, "pieces", "()I"⟩
def dkwX1_pieces_1 : List UInt8 := [160, 0, 6, 132, 1, 1, 132, 2, 1, 167, 255, 227, 27, 172]
abbrev dktX1_pieces_1 : List UInt8 := dkwX1_pieces_1 ++ []
def dkwX1_pieces_0 : List UInt8 := [3, 60, 3, 61, 28, 42, 180, 0, 124, 180, 0, 1, 162, 0, 24, 42, 28, 182, 0, 242, 184, 0, 245, 28]
abbrev dktX1_pieces_0 : List UInt8 := dkwX1_pieces_0 ++ dktX1_pieces_1
theorem dksX1_pieces_0 : cX1_pieces.data.toList.drop 0 = dktX1_pieces_0 := by decide +kernel
theorem dksX1_pieces_1 : cX1_pieces.data.toList.drop 24 = dktX1_pieces_1 := dk_seg dksX1_pieces_0 24 rfl rfl
theorem dX1_pieces_0 : decode cX1_pieces 0 = .ok (.iconst 0, 1) := dk_3 (dk_at dksX1_pieces_0 0 rfl rfl)
theorem dX1_pieces_1 : decode cX1_pieces 1 = .ok (.istore_n 1, 1) := dk_60 (dk_at dksX1_pieces_0 1 rfl rfl)
theorem dX1_pieces_2 : decode cX1_pieces 2 = .ok (.iconst 0, 1) := dk_3 (dk_at dksX1_pieces_0 2 rfl rfl)
theorem dX1_pieces_3 : decode cX1_pieces 3 = .ok (.istore_n 2, 1) := dk_61 (dk_at dksX1_pieces_0 3 rfl rfl)
theorem dX1_pieces_4 : decode cX1_pieces 4 = .ok (.iload_n 2, 1) := dk_28 (dk_at dksX1_pieces_0 4 rfl rfl)
theorem dX1_pieces_5 : decode cX1_pieces 5 = .ok (.aload_n 0, 1) := dk_42 (dk_at dksX1_pieces_0 5 rfl rfl)
theorem dX1_pieces_6 : decode cX1_pieces 6 = .ok (.getfield 124, 3) := dk_180 0 124 (dk_at dksX1_pieces_0 6 rfl rfl)
theorem dX1_pieces_9 : decode cX1_pieces 9 = .ok (.getfield 1, 3) := dk_180 0 1 (dk_at dksX1_pieces_0 9 rfl rfl)
theorem dX1_pieces_12 : decode cX1_pieces 12 = .ok (.if_icmp .ge 24, 3) := dk_162 0 24 (dk_at dksX1_pieces_0 12 rfl rfl)
theorem dX1_pieces_15 : decode cX1_pieces 15 = .ok (.aload_n 0, 1) := dk_42 (dk_at dksX1_pieces_0 15 rfl rfl)
theorem dX1_pieces_16 : decode cX1_pieces 16 = .ok (.iload_n 2, 1) := dk_28 (dk_at dksX1_pieces_0 16 rfl rfl)
theorem dX1_pieces_17 : decode cX1_pieces 17 = .ok (.invokevirtual 242, 3) := dk_182 0 242 (dk_at dksX1_pieces_0 17 rfl rfl)
theorem dX1_pieces_20 : decode cX1_pieces 20 = .ok (.invokestatic 245, 3) := dk_184 0 245 (dk_at dksX1_pieces_0 20 rfl rfl)
theorem dX1_pieces_23 : decode cX1_pieces 23 = .ok (.iload_n 2, 1) := dk_28 (dk_at dksX1_pieces_0 23 rfl rfl)
theorem dX1_pieces_24 : decode cX1_pieces 24 = .ok (.if_icmp .ne 6, 3) := dk_160 0 6 (dk_at dksX1_pieces_1 0 rfl rfl)
theorem dX1_pieces_27 : decode cX1_pieces 27 = .ok (.iinc 1 1, 3) := dk_132 1 1 (dk_at dksX1_pieces_1 3 rfl rfl)
theorem dX1_pieces_30 : decode cX1_pieces 30 = .ok (.iinc 2 1, 3) := dk_132 2 1 (dk_at dksX1_pieces_1 6 rfl rfl)
theorem dX1_pieces_33 : decode cX1_pieces 33 = .ok (.goto (-29), 3) := dk_167 255 227 (dk_at dksX1_pieces_1 9 rfl rfl)
theorem dX1_pieces_36 : decode cX1_pieces 36 = .ok (.iload_n 1, 1) := dk_27 (dk_at dksX1_pieces_1 12 rfl rfl)
theorem dX1_pieces_37 : decode cX1_pieces 37 = .ok (.ireturn, 1) := dk_172 (dk_at dksX1_pieces_1 13 rfl rfl)
abbrev cX1_piece : ByteArray := prog_1_method_26_code
def yX1_piece : MethodName := ⟨RX1, "piece", "(I)I"⟩
def dkwX1_piece_2 : List UInt8 := [180, 0, 37, 21, 4, 46, 128, 61, 132, 4, 1, 167, 255, 213, 132, 3, 1, 167, 255, 198, 28, 172]
abbrev dktX1_piece_2 : List UInt8 := dkwX1_piece_2 ++ []
def dkwX1_piece_1 : List UInt8 := [162, 0, 37, 42, 180, 0, 124, 180, 0, 37, 21, 4, 46, 28, 126, 153, 0, 16, 28, 42, 180, 0, 124]
abbrev dktX1_piece_1 : List UInt8 := dkwX1_piece_1 ++ dktX1_piece_2
def dkwX1_piece_0 : List UInt8 := [4, 27, 120, 61, 3, 62, 29, 16, 12, 162, 0, 58, 3, 54, 4, 21, 4, 42, 180, 0, 124, 180, 0, 7]
abbrev dktX1_piece_0 : List UInt8 := dkwX1_piece_0 ++ dktX1_piece_1
theorem dksX1_piece_0 : cX1_piece.data.toList.drop 0 = dktX1_piece_0 := by decide +kernel
theorem dksX1_piece_1 : cX1_piece.data.toList.drop 24 = dktX1_piece_1 := dk_seg dksX1_piece_0 24 rfl rfl
theorem dksX1_piece_2 : cX1_piece.data.toList.drop 47 = dktX1_piece_2 := dk_seg dksX1_piece_1 23 rfl rfl
theorem dX1_piece_0 : decode cX1_piece 0 = .ok (.iconst 1, 1) := dk_4 (dk_at dksX1_piece_0 0 rfl rfl)
theorem dX1_piece_1 : decode cX1_piece 1 = .ok (.iload_n 1, 1) := dk_27 (dk_at dksX1_piece_0 1 rfl rfl)
theorem dX1_piece_2 : decode cX1_piece 2 = .ok (.ishl, 1) := dk_120 (dk_at dksX1_piece_0 2 rfl rfl)
theorem dX1_piece_3 : decode cX1_piece 3 = .ok (.istore_n 2, 1) := dk_61 (dk_at dksX1_piece_0 3 rfl rfl)
theorem dX1_piece_4 : decode cX1_piece 4 = .ok (.iconst 0, 1) := dk_3 (dk_at dksX1_piece_0 4 rfl rfl)
theorem dX1_piece_5 : decode cX1_piece 5 = .ok (.istore_n 3, 1) := dk_62 (dk_at dksX1_piece_0 5 rfl rfl)
theorem dX1_piece_6 : decode cX1_piece 6 = .ok (.iload_n 3, 1) := dk_29 (dk_at dksX1_piece_0 6 rfl rfl)
theorem dX1_piece_7 : decode cX1_piece 7 = .ok (.bipush 12, 2) := dk_16 12 (dk_at dksX1_piece_0 7 rfl rfl)
theorem dX1_piece_9 : decode cX1_piece 9 = .ok (.if_icmp .ge 58, 3) := dk_162 0 58 (dk_at dksX1_piece_0 9 rfl rfl)
theorem dX1_piece_12 : decode cX1_piece 12 = .ok (.iconst 0, 1) := dk_3 (dk_at dksX1_piece_0 12 rfl rfl)
theorem dX1_piece_13 : decode cX1_piece 13 = .ok (.istore 4, 2) := dk_54 4 (dk_at dksX1_piece_0 13 rfl rfl)
theorem dX1_piece_15 : decode cX1_piece 15 = .ok (.iload 4, 2) := dk_21 4 (dk_at dksX1_piece_0 15 rfl rfl)
theorem dX1_piece_17 : decode cX1_piece 17 = .ok (.aload_n 0, 1) := dk_42 (dk_at dksX1_piece_0 17 rfl rfl)
theorem dX1_piece_18 : decode cX1_piece 18 = .ok (.getfield 124, 3) := dk_180 0 124 (dk_at dksX1_piece_0 18 rfl rfl)
theorem dX1_piece_21 : decode cX1_piece 21 = .ok (.getfield 7, 3) := dk_180 0 7 (dk_at dksX1_piece_0 21 rfl rfl)
theorem dX1_piece_24 : decode cX1_piece 24 = .ok (.if_icmp .ge 37, 3) := dk_162 0 37 (dk_at dksX1_piece_1 0 rfl rfl)
theorem dX1_piece_27 : decode cX1_piece 27 = .ok (.aload_n 0, 1) := dk_42 (dk_at dksX1_piece_1 3 rfl rfl)
theorem dX1_piece_28 : decode cX1_piece 28 = .ok (.getfield 124, 3) := dk_180 0 124 (dk_at dksX1_piece_1 4 rfl rfl)
theorem dX1_piece_31 : decode cX1_piece 31 = .ok (.getfield 37, 3) := dk_180 0 37 (dk_at dksX1_piece_1 7 rfl rfl)
theorem dX1_piece_34 : decode cX1_piece 34 = .ok (.iload 4, 2) := dk_21 4 (dk_at dksX1_piece_1 10 rfl rfl)
theorem dX1_piece_36 : decode cX1_piece 36 = .ok (.iaload, 1) := dk_46 (dk_at dksX1_piece_1 12 rfl rfl)
theorem dX1_piece_37 : decode cX1_piece 37 = .ok (.iload_n 2, 1) := dk_28 (dk_at dksX1_piece_1 13 rfl rfl)
theorem dX1_piece_38 : decode cX1_piece 38 = .ok (.iand, 1) := dk_126 (dk_at dksX1_piece_1 14 rfl rfl)
theorem dX1_piece_39 : decode cX1_piece 39 = .ok (.ifCond .eq 16, 3) := dk_153 0 16 (dk_at dksX1_piece_1 15 rfl rfl)
theorem dX1_piece_42 : decode cX1_piece 42 = .ok (.iload_n 2, 1) := dk_28 (dk_at dksX1_piece_1 18 rfl rfl)
theorem dX1_piece_43 : decode cX1_piece 43 = .ok (.aload_n 0, 1) := dk_42 (dk_at dksX1_piece_1 19 rfl rfl)
theorem dX1_piece_44 : decode cX1_piece 44 = .ok (.getfield 124, 3) := dk_180 0 124 (dk_at dksX1_piece_1 20 rfl rfl)
theorem dX1_piece_47 : decode cX1_piece 47 = .ok (.getfield 37, 3) := dk_180 0 37 (dk_at dksX1_piece_2 0 rfl rfl)
theorem dX1_piece_50 : decode cX1_piece 50 = .ok (.iload 4, 2) := dk_21 4 (dk_at dksX1_piece_2 3 rfl rfl)
theorem dX1_piece_52 : decode cX1_piece 52 = .ok (.iaload, 1) := dk_46 (dk_at dksX1_piece_2 5 rfl rfl)
theorem dX1_piece_53 : decode cX1_piece 53 = .ok (.ior, 1) := dk_128 (dk_at dksX1_piece_2 6 rfl rfl)
theorem dX1_piece_54 : decode cX1_piece 54 = .ok (.istore_n 2, 1) := dk_61 (dk_at dksX1_piece_2 7 rfl rfl)
theorem dX1_piece_55 : decode cX1_piece 55 = .ok (.iinc 4 1, 3) := dk_132 4 1 (dk_at dksX1_piece_2 8 rfl rfl)
theorem dX1_piece_58 : decode cX1_piece 58 = .ok (.goto (-43), 3) := dk_167 255 213 (dk_at dksX1_piece_2 11 rfl rfl)
theorem dX1_piece_61 : decode cX1_piece 61 = .ok (.iinc 3 1, 3) := dk_132 3 1 (dk_at dksX1_piece_2 14 rfl rfl)
theorem dX1_piece_64 : decode cX1_piece 64 = .ok (.goto (-58), 3) := dk_167 255 198 (dk_at dksX1_piece_2 17 rfl rfl)
theorem dX1_piece_67 : decode cX1_piece 67 = .ok (.iload_n 2, 1) := dk_28 (dk_at dksX1_piece_2 20 rfl rfl)
theorem dX1_piece_68 : decode cX1_piece 68 = .ok (.ireturn, 1) := dk_172 (dk_at dksX1_piece_2 21 rfl rfl)
abbrev cX1_lowest : ByteArray := prog_1_method_27_code
def yX1_lowest : MethodName := ⟨RX1, "lowest", "(I)I"⟩
theorem dX1_lowest_0 : decode cX1_lowest 0 = .ok (.iload_n 0, 1) := by decide +kernel
theorem dX1_lowest_1 : decode cX1_lowest 1 = .ok (.invokestatic 239, 3) := by decide +kernel
theorem dX1_lowest_4 : decode cX1_lowest 4 = .ok (.ireturn, 1) := by decide +kernel
abbrev cX1_likeness : ByteArray := prog_1_method_2_code
def yX1_likeness : MethodName := ⟨RX1, "likeness", "(LSchemeLister$Scheme;LSchemeLister$Scheme;I)LSchemeLister$Tally;"⟩
def dkwX1_likeness_1 : List UInt8 := [183, 0, 24, 3, 45, 186, 0, 27, 0, 0, 182, 0, 31, 87, 45, 176]
abbrev dktX1_likeness_1 : List UInt8 := dkwX1_likeness_1 ++ []
def dkwX1_likeness_0 : List UInt8 := [187, 0, 10, 89, 28, 183, 0, 12, 78, 42, 43, 184, 0, 16, 153, 0, 24, 187, 0, 22, 89, 42, 43, 4]
abbrev dktX1_likeness_0 : List UInt8 := dkwX1_likeness_0 ++ dktX1_likeness_1
theorem dksX1_likeness_0 : cX1_likeness.data.toList.drop 0 = dktX1_likeness_0 := by decide +kernel
theorem dksX1_likeness_1 : cX1_likeness.data.toList.drop 24 = dktX1_likeness_1 := dk_seg dksX1_likeness_0 24 rfl rfl
theorem dX1_likeness_0 : decode cX1_likeness 0 = .ok (.new 10, 3) := dk_187 0 10 (dk_at dksX1_likeness_0 0 rfl rfl)
theorem dX1_likeness_3 : decode cX1_likeness 3 = .ok (.dup, 1) := dk_89 (dk_at dksX1_likeness_0 3 rfl rfl)
theorem dX1_likeness_4 : decode cX1_likeness 4 = .ok (.iload_n 2, 1) := dk_28 (dk_at dksX1_likeness_0 4 rfl rfl)
theorem dX1_likeness_5 : decode cX1_likeness 5 = .ok (.invokespecial 12, 3) := dk_183 0 12 (dk_at dksX1_likeness_0 5 rfl rfl)
theorem dX1_likeness_8 : decode cX1_likeness 8 = .ok (.astore_n 3, 1) := dk_78 (dk_at dksX1_likeness_0 8 rfl rfl)
theorem dX1_likeness_9 : decode cX1_likeness 9 = .ok (.aload_n 0, 1) := dk_42 (dk_at dksX1_likeness_0 9 rfl rfl)
theorem dX1_likeness_10 : decode cX1_likeness 10 = .ok (.aload_n 1, 1) := dk_43 (dk_at dksX1_likeness_0 10 rfl rfl)
theorem dX1_likeness_11 : decode cX1_likeness 11 = .ok (.invokestatic 16, 3) := dk_184 0 16 (dk_at dksX1_likeness_0 11 rfl rfl)
theorem dX1_likeness_14 : decode cX1_likeness 14 = .ok (.ifCond .eq 24, 3) := dk_153 0 24 (dk_at dksX1_likeness_0 14 rfl rfl)
theorem dX1_likeness_17 : decode cX1_likeness 17 = .ok (.new 22, 3) := dk_187 0 22 (dk_at dksX1_likeness_0 17 rfl rfl)
theorem dX1_likeness_20 : decode cX1_likeness 20 = .ok (.dup, 1) := dk_89 (dk_at dksX1_likeness_0 20 rfl rfl)
theorem dX1_likeness_21 : decode cX1_likeness 21 = .ok (.aload_n 0, 1) := dk_42 (dk_at dksX1_likeness_0 21 rfl rfl)
theorem dX1_likeness_22 : decode cX1_likeness 22 = .ok (.aload_n 1, 1) := dk_43 (dk_at dksX1_likeness_0 22 rfl rfl)
theorem dX1_likeness_23 : decode cX1_likeness 23 = .ok (.iconst 1, 1) := dk_4 (dk_at dksX1_likeness_0 23 rfl rfl)
theorem dX1_likeness_24 : decode cX1_likeness 24 = .ok (.invokespecial 24, 3) := dk_183 0 24 (dk_at dksX1_likeness_1 0 rfl rfl)
theorem dX1_likeness_27 : decode cX1_likeness 27 = .ok (.iconst 0, 1) := dk_3 (dk_at dksX1_likeness_1 3 rfl rfl)
theorem dX1_likeness_28 : decode cX1_likeness 28 = .ok (.aload_n 3, 1) := dk_45 (dk_at dksX1_likeness_1 4 rfl rfl)
theorem dX1_likeness_29 : decode cX1_likeness 29 = .ok (.invokedynamic 27, 5) := by decide +kernel
theorem dX1_likeness_34 : decode cX1_likeness 34 = .ok (.invokevirtual 31, 3) := dk_182 0 31 (dk_at dksX1_likeness_1 10 rfl rfl)
theorem dX1_likeness_37 : decode cX1_likeness 37 = .ok (.pop, 1) := dk_87 (dk_at dksX1_likeness_1 13 rfl rfl)
theorem dX1_likeness_38 : decode cX1_likeness 38 = .ok (.aload_n 3, 1) := dk_45 (dk_at dksX1_likeness_1 14 rfl rfl)
theorem dX1_likeness_39 : decode cX1_likeness 39 = .ok (.areturn, 1) := dk_176 (dk_at dksX1_likeness_1 15 rfl rfl)
abbrev cX1_canBeLike : ByteArray := prog_1_method_1_code
def yX1_canBeLike : MethodName := ⟨RX1, "canBeLike", "(LSchemeLister$Scheme;LSchemeLister$Scheme;)Z"⟩
def dkwX1_canBeLike_1 : List UInt8 := [167, 0, 4, 3, 172]
abbrev dktX1_canBeLike_1 : List UInt8 := dkwX1_canBeLike_1 ++ []
def dkwX1_canBeLike_0 : List UInt8 := [42, 180, 0, 1, 43, 180, 0, 1, 160, 0, 18, 42, 180, 0, 7, 43, 180, 0, 7, 160, 0, 7, 4]
abbrev dktX1_canBeLike_0 : List UInt8 := dkwX1_canBeLike_0 ++ dktX1_canBeLike_1
theorem dksX1_canBeLike_0 : cX1_canBeLike.data.toList.drop 0 = dktX1_canBeLike_0 := by decide +kernel
theorem dksX1_canBeLike_1 : cX1_canBeLike.data.toList.drop 23 = dktX1_canBeLike_1 := dk_seg dksX1_canBeLike_0 23 rfl rfl
theorem dX1_canBeLike_0 : decode cX1_canBeLike 0 = .ok (.aload_n 0, 1) := dk_42 (dk_at dksX1_canBeLike_0 0 rfl rfl)
theorem dX1_canBeLike_1 : decode cX1_canBeLike 1 = .ok (.getfield 1, 3) := dk_180 0 1 (dk_at dksX1_canBeLike_0 1 rfl rfl)
theorem dX1_canBeLike_4 : decode cX1_canBeLike 4 = .ok (.aload_n 1, 1) := dk_43 (dk_at dksX1_canBeLike_0 4 rfl rfl)
theorem dX1_canBeLike_5 : decode cX1_canBeLike 5 = .ok (.getfield 1, 3) := dk_180 0 1 (dk_at dksX1_canBeLike_0 5 rfl rfl)
theorem dX1_canBeLike_8 : decode cX1_canBeLike 8 = .ok (.if_icmp .ne 18, 3) := dk_160 0 18 (dk_at dksX1_canBeLike_0 8 rfl rfl)
theorem dX1_canBeLike_11 : decode cX1_canBeLike 11 = .ok (.aload_n 0, 1) := dk_42 (dk_at dksX1_canBeLike_0 11 rfl rfl)
theorem dX1_canBeLike_12 : decode cX1_canBeLike 12 = .ok (.getfield 7, 3) := dk_180 0 7 (dk_at dksX1_canBeLike_0 12 rfl rfl)
theorem dX1_canBeLike_15 : decode cX1_canBeLike 15 = .ok (.aload_n 1, 1) := dk_43 (dk_at dksX1_canBeLike_0 15 rfl rfl)
theorem dX1_canBeLike_16 : decode cX1_canBeLike 16 = .ok (.getfield 7, 3) := dk_180 0 7 (dk_at dksX1_canBeLike_0 16 rfl rfl)
theorem dX1_canBeLike_19 : decode cX1_canBeLike 19 = .ok (.if_icmp .ne 7, 3) := dk_160 0 7 (dk_at dksX1_canBeLike_0 19 rfl rfl)
theorem dX1_canBeLike_22 : decode cX1_canBeLike 22 = .ok (.iconst 1, 1) := dk_4 (dk_at dksX1_canBeLike_0 22 rfl rfl)
theorem dX1_canBeLike_23 : decode cX1_canBeLike 23 = .ok (.goto 4, 3) := dk_167 0 4 (dk_at dksX1_canBeLike_1 0 rfl rfl)
theorem dX1_canBeLike_26 : decode cX1_canBeLike 26 = .ok (.iconst 0, 1) := dk_3 (dk_at dksX1_canBeLike_1 3 rfl rfl)
theorem dX1_canBeLike_27 : decode cX1_canBeLike 27 = .ok (.ireturn, 1) := dk_172 (dk_at dksX1_canBeLike_1 4 rfl rfl)
abbrev cX1_lambda_likeness_0 : ByteArray := prog_1_method_102_code
def yX1_lambda_likeness_0 : MethodName := ⟨RX1, "lambda$likeness$0", "(LSchemeLister$Tally;[I)Z"⟩
def dkwX1_lambda_likeness_0_0 : List UInt8 := [42, 43, 182, 2, 6, 172]
abbrev dktX1_lambda_likeness_0_0 : List UInt8 := dkwX1_lambda_likeness_0_0 ++ []
theorem dksX1_lambda_likeness_0_0 : cX1_lambda_likeness_0.data.toList.drop 0 = dktX1_lambda_likeness_0_0 := by decide +kernel
theorem dX1_lambda_likeness_0_0 : decode cX1_lambda_likeness_0 0 = .ok (.aload_n 0, 1) := dk_42 (dk_at dksX1_lambda_likeness_0_0 0 rfl rfl)
theorem dX1_lambda_likeness_0_1 : decode cX1_lambda_likeness_0 1 = .ok (.aload_n 1, 1) := dk_43 (dk_at dksX1_lambda_likeness_0_0 1 rfl rfl)
theorem dX1_lambda_likeness_0_2 : decode cX1_lambda_likeness_0 2 = .ok (.invokevirtual 518, 3) := dk_182 2 6 (dk_at dksX1_lambda_likeness_0_0 2 rfl rfl)
theorem dX1_lambda_likeness_0_5 : decode cX1_lambda_likeness_0 5 = .ok (.ireturn, 1) := dk_172 (dk_at dksX1_lambda_likeness_0_0 5 rfl rfl)
abbrev cX1_orbits : ByteArray := prog_1_method_30_code
def yX1_orbits : MethodName := ⟨RX1, "orbits", "()I"⟩
def dkwX1_orbits_1 : List UInt8 := [28, 46, 28, 160, 0, 6, 132, 1, 1, 132, 2, 1, 167, 255, 229, 27, 172]
abbrev dktX1_orbits_1 : List UInt8 := dkwX1_orbits_1 ++ []
def dkwX1_orbits_0 : List UInt8 := [42, 182, 0, 254, 87, 3, 60, 3, 61, 28, 42, 180, 0, 124, 180, 0, 1, 162, 0, 22, 42, 180, 0, 161]
abbrev dktX1_orbits_0 : List UInt8 := dkwX1_orbits_0 ++ dktX1_orbits_1
theorem dksX1_orbits_0 : cX1_orbits.data.toList.drop 0 = dktX1_orbits_0 := by decide +kernel
theorem dksX1_orbits_1 : cX1_orbits.data.toList.drop 24 = dktX1_orbits_1 := dk_seg dksX1_orbits_0 24 rfl rfl
theorem dX1_orbits_0 : decode cX1_orbits 0 = .ok (.aload_n 0, 1) := dk_42 (dk_at dksX1_orbits_0 0 rfl rfl)
theorem dX1_orbits_1 : decode cX1_orbits 1 = .ok (.invokevirtual 254, 3) := dk_182 0 254 (dk_at dksX1_orbits_0 1 rfl rfl)
theorem dX1_orbits_4 : decode cX1_orbits 4 = .ok (.pop, 1) := dk_87 (dk_at dksX1_orbits_0 4 rfl rfl)
theorem dX1_orbits_5 : decode cX1_orbits 5 = .ok (.iconst 0, 1) := dk_3 (dk_at dksX1_orbits_0 5 rfl rfl)
theorem dX1_orbits_6 : decode cX1_orbits 6 = .ok (.istore_n 1, 1) := dk_60 (dk_at dksX1_orbits_0 6 rfl rfl)
theorem dX1_orbits_7 : decode cX1_orbits 7 = .ok (.iconst 0, 1) := dk_3 (dk_at dksX1_orbits_0 7 rfl rfl)
theorem dX1_orbits_8 : decode cX1_orbits 8 = .ok (.istore_n 2, 1) := dk_61 (dk_at dksX1_orbits_0 8 rfl rfl)
theorem dX1_orbits_9 : decode cX1_orbits 9 = .ok (.iload_n 2, 1) := dk_28 (dk_at dksX1_orbits_0 9 rfl rfl)
theorem dX1_orbits_10 : decode cX1_orbits 10 = .ok (.aload_n 0, 1) := dk_42 (dk_at dksX1_orbits_0 10 rfl rfl)
theorem dX1_orbits_11 : decode cX1_orbits 11 = .ok (.getfield 124, 3) := dk_180 0 124 (dk_at dksX1_orbits_0 11 rfl rfl)
theorem dX1_orbits_14 : decode cX1_orbits 14 = .ok (.getfield 1, 3) := dk_180 0 1 (dk_at dksX1_orbits_0 14 rfl rfl)
theorem dX1_orbits_17 : decode cX1_orbits 17 = .ok (.if_icmp .ge 22, 3) := dk_162 0 22 (dk_at dksX1_orbits_0 17 rfl rfl)
theorem dX1_orbits_20 : decode cX1_orbits 20 = .ok (.aload_n 0, 1) := dk_42 (dk_at dksX1_orbits_0 20 rfl rfl)
theorem dX1_orbits_21 : decode cX1_orbits 21 = .ok (.getfield 161, 3) := dk_180 0 161 (dk_at dksX1_orbits_0 21 rfl rfl)
theorem dX1_orbits_24 : decode cX1_orbits 24 = .ok (.iload_n 2, 1) := dk_28 (dk_at dksX1_orbits_1 0 rfl rfl)
theorem dX1_orbits_25 : decode cX1_orbits 25 = .ok (.iaload, 1) := dk_46 (dk_at dksX1_orbits_1 1 rfl rfl)
theorem dX1_orbits_26 : decode cX1_orbits 26 = .ok (.iload_n 2, 1) := dk_28 (dk_at dksX1_orbits_1 2 rfl rfl)
theorem dX1_orbits_27 : decode cX1_orbits 27 = .ok (.if_icmp .ne 6, 3) := dk_160 0 6 (dk_at dksX1_orbits_1 3 rfl rfl)
theorem dX1_orbits_30 : decode cX1_orbits 30 = .ok (.iinc 1 1, 3) := dk_132 1 1 (dk_at dksX1_orbits_1 6 rfl rfl)
theorem dX1_orbits_33 : decode cX1_orbits 33 = .ok (.iinc 2 1, 3) := dk_132 2 1 (dk_at dksX1_orbits_1 9 rfl rfl)
theorem dX1_orbits_36 : decode cX1_orbits 36 = .ok (.goto (-27), 3) := dk_167 255 229 (dk_at dksX1_orbits_1 12 rfl rfl)
theorem dX1_orbits_39 : decode cX1_orbits 39 = .ok (.iload_n 1, 1) := dk_27 (dk_at dksX1_orbits_1 15 rfl rfl)
theorem dX1_orbits_40 : decode cX1_orbits 40 = .ok (.ireturn, 1) := dk_172 (dk_at dksX1_orbits_1 16 rfl rfl)
abbrev cX1_laysOrbits : ByteArray := prog_1_method_29_code
def yX1_laysOrbits : MethodName := ⟨RX1, "laysOrbits", "()I"⟩
def dkwX1_laysOrbits_2 : List UInt8 := [43, 186, 0, 248, 0, 0, 182, 0, 31, 87, 43, 180, 0, 251, 172]
abbrev dktX1_laysOrbits_2 : List UInt8 := dkwX1_laysOrbits_2 ++ []
def dkwX1_laysOrbits_1 : List UInt8 := [89, 2, 183, 0, 12, 76, 187, 0, 22, 89, 42, 180, 0, 124, 42, 180, 0, 124, 4, 183, 0, 24, 3, 42]
abbrev dktX1_laysOrbits_1 : List UInt8 := dkwX1_laysOrbits_1 ++ dktX1_laysOrbits_2
def dkwX1_laysOrbits_0 : List UInt8 := [3, 60, 27, 16, 8, 162, 0, 16, 42, 180, 0, 161, 27, 27, 79, 132, 1, 1, 167, 255, 240, 187, 0, 10]
abbrev dktX1_laysOrbits_0 : List UInt8 := dkwX1_laysOrbits_0 ++ dktX1_laysOrbits_1
theorem dksX1_laysOrbits_0 : cX1_laysOrbits.data.toList.drop 0 = dktX1_laysOrbits_0 := by decide +kernel
theorem dksX1_laysOrbits_1 : cX1_laysOrbits.data.toList.drop 24 = dktX1_laysOrbits_1 := dk_seg dksX1_laysOrbits_0 24 rfl rfl
theorem dksX1_laysOrbits_2 : cX1_laysOrbits.data.toList.drop 48 = dktX1_laysOrbits_2 := dk_seg dksX1_laysOrbits_1 24 rfl rfl
theorem dX1_laysOrbits_0 : decode cX1_laysOrbits 0 = .ok (.iconst 0, 1) := dk_3 (dk_at dksX1_laysOrbits_0 0 rfl rfl)
theorem dX1_laysOrbits_1 : decode cX1_laysOrbits 1 = .ok (.istore_n 1, 1) := dk_60 (dk_at dksX1_laysOrbits_0 1 rfl rfl)
theorem dX1_laysOrbits_2 : decode cX1_laysOrbits 2 = .ok (.iload_n 1, 1) := dk_27 (dk_at dksX1_laysOrbits_0 2 rfl rfl)
theorem dX1_laysOrbits_3 : decode cX1_laysOrbits 3 = .ok (.bipush 8, 2) := dk_16 8 (dk_at dksX1_laysOrbits_0 3 rfl rfl)
theorem dX1_laysOrbits_5 : decode cX1_laysOrbits 5 = .ok (.if_icmp .ge 16, 3) := dk_162 0 16 (dk_at dksX1_laysOrbits_0 5 rfl rfl)
theorem dX1_laysOrbits_8 : decode cX1_laysOrbits 8 = .ok (.aload_n 0, 1) := dk_42 (dk_at dksX1_laysOrbits_0 8 rfl rfl)
theorem dX1_laysOrbits_9 : decode cX1_laysOrbits 9 = .ok (.getfield 161, 3) := dk_180 0 161 (dk_at dksX1_laysOrbits_0 9 rfl rfl)
theorem dX1_laysOrbits_12 : decode cX1_laysOrbits 12 = .ok (.iload_n 1, 1) := dk_27 (dk_at dksX1_laysOrbits_0 12 rfl rfl)
theorem dX1_laysOrbits_13 : decode cX1_laysOrbits 13 = .ok (.iload_n 1, 1) := dk_27 (dk_at dksX1_laysOrbits_0 13 rfl rfl)
theorem dX1_laysOrbits_14 : decode cX1_laysOrbits 14 = .ok (.iastore, 1) := dk_79 (dk_at dksX1_laysOrbits_0 14 rfl rfl)
theorem dX1_laysOrbits_15 : decode cX1_laysOrbits 15 = .ok (.iinc 1 1, 3) := dk_132 1 1 (dk_at dksX1_laysOrbits_0 15 rfl rfl)
theorem dX1_laysOrbits_18 : decode cX1_laysOrbits 18 = .ok (.goto (-16), 3) := dk_167 255 240 (dk_at dksX1_laysOrbits_0 18 rfl rfl)
theorem dX1_laysOrbits_21 : decode cX1_laysOrbits 21 = .ok (.new 10, 3) := dk_187 0 10 (dk_at dksX1_laysOrbits_0 21 rfl rfl)
theorem dX1_laysOrbits_24 : decode cX1_laysOrbits 24 = .ok (.dup, 1) := dk_89 (dk_at dksX1_laysOrbits_1 0 rfl rfl)
theorem dX1_laysOrbits_25 : decode cX1_laysOrbits 25 = .ok (.iconst (-1), 1) := dk_2 (dk_at dksX1_laysOrbits_1 1 rfl rfl)
theorem dX1_laysOrbits_26 : decode cX1_laysOrbits 26 = .ok (.invokespecial 12, 3) := dk_183 0 12 (dk_at dksX1_laysOrbits_1 2 rfl rfl)
theorem dX1_laysOrbits_29 : decode cX1_laysOrbits 29 = .ok (.astore_n 1, 1) := dk_76 (dk_at dksX1_laysOrbits_1 5 rfl rfl)
theorem dX1_laysOrbits_30 : decode cX1_laysOrbits 30 = .ok (.new 22, 3) := dk_187 0 22 (dk_at dksX1_laysOrbits_1 6 rfl rfl)
theorem dX1_laysOrbits_33 : decode cX1_laysOrbits 33 = .ok (.dup, 1) := dk_89 (dk_at dksX1_laysOrbits_1 9 rfl rfl)
theorem dX1_laysOrbits_34 : decode cX1_laysOrbits 34 = .ok (.aload_n 0, 1) := dk_42 (dk_at dksX1_laysOrbits_1 10 rfl rfl)
theorem dX1_laysOrbits_35 : decode cX1_laysOrbits 35 = .ok (.getfield 124, 3) := dk_180 0 124 (dk_at dksX1_laysOrbits_1 11 rfl rfl)
theorem dX1_laysOrbits_38 : decode cX1_laysOrbits 38 = .ok (.aload_n 0, 1) := dk_42 (dk_at dksX1_laysOrbits_1 14 rfl rfl)
theorem dX1_laysOrbits_39 : decode cX1_laysOrbits 39 = .ok (.getfield 124, 3) := dk_180 0 124 (dk_at dksX1_laysOrbits_1 15 rfl rfl)
theorem dX1_laysOrbits_42 : decode cX1_laysOrbits 42 = .ok (.iconst 1, 1) := dk_4 (dk_at dksX1_laysOrbits_1 18 rfl rfl)
theorem dX1_laysOrbits_43 : decode cX1_laysOrbits 43 = .ok (.invokespecial 24, 3) := dk_183 0 24 (dk_at dksX1_laysOrbits_1 19 rfl rfl)
theorem dX1_laysOrbits_46 : decode cX1_laysOrbits 46 = .ok (.iconst 0, 1) := dk_3 (dk_at dksX1_laysOrbits_1 22 rfl rfl)
theorem dX1_laysOrbits_47 : decode cX1_laysOrbits 47 = .ok (.aload_n 0, 1) := dk_42 (dk_at dksX1_laysOrbits_1 23 rfl rfl)
theorem dX1_laysOrbits_48 : decode cX1_laysOrbits 48 = .ok (.aload_n 1, 1) := dk_43 (dk_at dksX1_laysOrbits_2 0 rfl rfl)
theorem dX1_laysOrbits_49 : decode cX1_laysOrbits 49 = .ok (.invokedynamic 248, 5) := by decide +kernel
theorem dX1_laysOrbits_54 : decode cX1_laysOrbits 54 = .ok (.invokevirtual 31, 3) := dk_182 0 31 (dk_at dksX1_laysOrbits_2 6 rfl rfl)
theorem dX1_laysOrbits_57 : decode cX1_laysOrbits 57 = .ok (.pop, 1) := dk_87 (dk_at dksX1_laysOrbits_2 9 rfl rfl)
theorem dX1_laysOrbits_58 : decode cX1_laysOrbits 58 = .ok (.aload_n 1, 1) := dk_43 (dk_at dksX1_laysOrbits_2 10 rfl rfl)
theorem dX1_laysOrbits_59 : decode cX1_laysOrbits 59 = .ok (.getfield 251, 3) := dk_180 0 251 (dk_at dksX1_laysOrbits_2 11 rfl rfl)
theorem dX1_laysOrbits_62 : decode cX1_laysOrbits 62 = .ok (.ireturn, 1) := dk_172 (dk_at dksX1_laysOrbits_2 14 rfl rfl)
abbrev cX1_lambda_laysOrbits_2 : ByteArray := prog_1_method_100_code
def yX1_lambda_laysOrbits_2 : MethodName := ⟨RX1, "lambda$laysOrbits$2", "(LSchemeLister$Tally;[I)Z"⟩
def dkwX1_lambda_laysOrbits_2_1 : List UInt8 := [44, 29, 46, 46, 29, 184, 1, 46, 79, 132, 3, 1, 167, 255, 222, 43, 44, 182, 2, 6, 172]
abbrev dktX1_lambda_laysOrbits_2_1 : List UInt8 := dkwX1_lambda_laysOrbits_2_1 ++ []
def dkwX1_lambda_laysOrbits_2_0 : List UInt8 := [3, 62, 29, 42, 180, 0, 124, 180, 0, 1, 162, 0, 29, 42, 180, 0, 161, 44, 29, 46, 42, 180, 0, 161]
abbrev dktX1_lambda_laysOrbits_2_0 : List UInt8 := dkwX1_lambda_laysOrbits_2_0 ++ dktX1_lambda_laysOrbits_2_1
theorem dksX1_lambda_laysOrbits_2_0 : cX1_lambda_laysOrbits_2.data.toList.drop 0 = dktX1_lambda_laysOrbits_2_0 := by decide +kernel
theorem dksX1_lambda_laysOrbits_2_1 : cX1_lambda_laysOrbits_2.data.toList.drop 24 = dktX1_lambda_laysOrbits_2_1 := dk_seg dksX1_lambda_laysOrbits_2_0 24 rfl rfl
theorem dX1_lambda_laysOrbits_2_0 : decode cX1_lambda_laysOrbits_2 0 = .ok (.iconst 0, 1) := dk_3 (dk_at dksX1_lambda_laysOrbits_2_0 0 rfl rfl)
theorem dX1_lambda_laysOrbits_2_1 : decode cX1_lambda_laysOrbits_2 1 = .ok (.istore_n 3, 1) := dk_62 (dk_at dksX1_lambda_laysOrbits_2_0 1 rfl rfl)
theorem dX1_lambda_laysOrbits_2_2 : decode cX1_lambda_laysOrbits_2 2 = .ok (.iload_n 3, 1) := dk_29 (dk_at dksX1_lambda_laysOrbits_2_0 2 rfl rfl)
theorem dX1_lambda_laysOrbits_2_3 : decode cX1_lambda_laysOrbits_2 3 = .ok (.aload_n 0, 1) := dk_42 (dk_at dksX1_lambda_laysOrbits_2_0 3 rfl rfl)
theorem dX1_lambda_laysOrbits_2_4 : decode cX1_lambda_laysOrbits_2 4 = .ok (.getfield 124, 3) := dk_180 0 124 (dk_at dksX1_lambda_laysOrbits_2_0 4 rfl rfl)
theorem dX1_lambda_laysOrbits_2_7 : decode cX1_lambda_laysOrbits_2 7 = .ok (.getfield 1, 3) := dk_180 0 1 (dk_at dksX1_lambda_laysOrbits_2_0 7 rfl rfl)
theorem dX1_lambda_laysOrbits_2_10 : decode cX1_lambda_laysOrbits_2 10 = .ok (.if_icmp .ge 29, 3) := dk_162 0 29 (dk_at dksX1_lambda_laysOrbits_2_0 10 rfl rfl)
theorem dX1_lambda_laysOrbits_2_13 : decode cX1_lambda_laysOrbits_2 13 = .ok (.aload_n 0, 1) := dk_42 (dk_at dksX1_lambda_laysOrbits_2_0 13 rfl rfl)
theorem dX1_lambda_laysOrbits_2_14 : decode cX1_lambda_laysOrbits_2 14 = .ok (.getfield 161, 3) := dk_180 0 161 (dk_at dksX1_lambda_laysOrbits_2_0 14 rfl rfl)
theorem dX1_lambda_laysOrbits_2_17 : decode cX1_lambda_laysOrbits_2 17 = .ok (.aload_n 2, 1) := dk_44 (dk_at dksX1_lambda_laysOrbits_2_0 17 rfl rfl)
theorem dX1_lambda_laysOrbits_2_18 : decode cX1_lambda_laysOrbits_2 18 = .ok (.iload_n 3, 1) := dk_29 (dk_at dksX1_lambda_laysOrbits_2_0 18 rfl rfl)
theorem dX1_lambda_laysOrbits_2_19 : decode cX1_lambda_laysOrbits_2 19 = .ok (.iaload, 1) := dk_46 (dk_at dksX1_lambda_laysOrbits_2_0 19 rfl rfl)
theorem dX1_lambda_laysOrbits_2_20 : decode cX1_lambda_laysOrbits_2 20 = .ok (.aload_n 0, 1) := dk_42 (dk_at dksX1_lambda_laysOrbits_2_0 20 rfl rfl)
theorem dX1_lambda_laysOrbits_2_21 : decode cX1_lambda_laysOrbits_2 21 = .ok (.getfield 161, 3) := dk_180 0 161 (dk_at dksX1_lambda_laysOrbits_2_0 21 rfl rfl)
theorem dX1_lambda_laysOrbits_2_24 : decode cX1_lambda_laysOrbits_2 24 = .ok (.aload_n 2, 1) := dk_44 (dk_at dksX1_lambda_laysOrbits_2_1 0 rfl rfl)
theorem dX1_lambda_laysOrbits_2_25 : decode cX1_lambda_laysOrbits_2 25 = .ok (.iload_n 3, 1) := dk_29 (dk_at dksX1_lambda_laysOrbits_2_1 1 rfl rfl)
theorem dX1_lambda_laysOrbits_2_26 : decode cX1_lambda_laysOrbits_2 26 = .ok (.iaload, 1) := dk_46 (dk_at dksX1_lambda_laysOrbits_2_1 2 rfl rfl)
theorem dX1_lambda_laysOrbits_2_27 : decode cX1_lambda_laysOrbits_2 27 = .ok (.iaload, 1) := dk_46 (dk_at dksX1_lambda_laysOrbits_2_1 3 rfl rfl)
theorem dX1_lambda_laysOrbits_2_28 : decode cX1_lambda_laysOrbits_2 28 = .ok (.iload_n 3, 1) := dk_29 (dk_at dksX1_lambda_laysOrbits_2_1 4 rfl rfl)
theorem dX1_lambda_laysOrbits_2_29 : decode cX1_lambda_laysOrbits_2 29 = .ok (.invokestatic 302, 3) := dk_184 1 46 (dk_at dksX1_lambda_laysOrbits_2_1 5 rfl rfl)
theorem dX1_lambda_laysOrbits_2_32 : decode cX1_lambda_laysOrbits_2 32 = .ok (.iastore, 1) := dk_79 (dk_at dksX1_lambda_laysOrbits_2_1 8 rfl rfl)
theorem dX1_lambda_laysOrbits_2_33 : decode cX1_lambda_laysOrbits_2 33 = .ok (.iinc 3 1, 3) := dk_132 3 1 (dk_at dksX1_lambda_laysOrbits_2_1 9 rfl rfl)
theorem dX1_lambda_laysOrbits_2_36 : decode cX1_lambda_laysOrbits_2 36 = .ok (.goto (-34), 3) := dk_167 255 222 (dk_at dksX1_lambda_laysOrbits_2_1 12 rfl rfl)
theorem dX1_lambda_laysOrbits_2_39 : decode cX1_lambda_laysOrbits_2 39 = .ok (.aload_n 1, 1) := dk_43 (dk_at dksX1_lambda_laysOrbits_2_1 15 rfl rfl)
theorem dX1_lambda_laysOrbits_2_40 : decode cX1_lambda_laysOrbits_2 40 = .ok (.aload_n 2, 1) := dk_44 (dk_at dksX1_lambda_laysOrbits_2_1 16 rfl rfl)
theorem dX1_lambda_laysOrbits_2_41 : decode cX1_lambda_laysOrbits_2 41 = .ok (.invokevirtual 518, 3) := dk_182 2 6 (dk_at dksX1_lambda_laysOrbits_2_1 17 rfl rfl)
theorem dX1_lambda_laysOrbits_2_44 : decode cX1_lambda_laysOrbits_2 44 = .ok (.ireturn, 1) := dk_172 (dk_at dksX1_lambda_laysOrbits_2_1 20 rfl rfl)
abbrev cX1_laysDualities : ByteArray := prog_1_method_35_code
def yX1_laysDualities : MethodName := ⟨RX1, "laysDualities", "()V"⟩
def dkwX1_laysDualities_1 : List UInt8 := [160, 0, 9, 42, 3, 3, 182, 1, 17, 177]
abbrev dktX1_laysDualities_1 : List UInt8 := dkwX1_laysDualities_1 ++ []
def dkwX1_laysDualities_0 : List UInt8 := [42, 3, 181, 1, 4, 42, 3, 181, 1, 11, 42, 180, 0, 124, 180, 0, 1, 42, 180, 0, 124, 180, 0, 7]
abbrev dktX1_laysDualities_0 : List UInt8 := dkwX1_laysDualities_0 ++ dktX1_laysDualities_1
theorem dksX1_laysDualities_0 : cX1_laysDualities.data.toList.drop 0 = dktX1_laysDualities_0 := by decide +kernel
theorem dksX1_laysDualities_1 : cX1_laysDualities.data.toList.drop 24 = dktX1_laysDualities_1 := dk_seg dksX1_laysDualities_0 24 rfl rfl
theorem dX1_laysDualities_0 : decode cX1_laysDualities 0 = .ok (.aload_n 0, 1) := dk_42 (dk_at dksX1_laysDualities_0 0 rfl rfl)
theorem dX1_laysDualities_1 : decode cX1_laysDualities 1 = .ok (.iconst 0, 1) := dk_3 (dk_at dksX1_laysDualities_0 1 rfl rfl)
theorem dX1_laysDualities_2 : decode cX1_laysDualities 2 = .ok (.putfield 260, 3) := dk_181 1 4 (dk_at dksX1_laysDualities_0 2 rfl rfl)
theorem dX1_laysDualities_5 : decode cX1_laysDualities 5 = .ok (.aload_n 0, 1) := dk_42 (dk_at dksX1_laysDualities_0 5 rfl rfl)
theorem dX1_laysDualities_6 : decode cX1_laysDualities 6 = .ok (.iconst 0, 1) := dk_3 (dk_at dksX1_laysDualities_0 6 rfl rfl)
theorem dX1_laysDualities_7 : decode cX1_laysDualities 7 = .ok (.putfield 267, 3) := dk_181 1 11 (dk_at dksX1_laysDualities_0 7 rfl rfl)
theorem dX1_laysDualities_10 : decode cX1_laysDualities 10 = .ok (.aload_n 0, 1) := dk_42 (dk_at dksX1_laysDualities_0 10 rfl rfl)
theorem dX1_laysDualities_11 : decode cX1_laysDualities 11 = .ok (.getfield 124, 3) := dk_180 0 124 (dk_at dksX1_laysDualities_0 11 rfl rfl)
theorem dX1_laysDualities_14 : decode cX1_laysDualities 14 = .ok (.getfield 1, 3) := dk_180 0 1 (dk_at dksX1_laysDualities_0 14 rfl rfl)
theorem dX1_laysDualities_17 : decode cX1_laysDualities 17 = .ok (.aload_n 0, 1) := dk_42 (dk_at dksX1_laysDualities_0 17 rfl rfl)
theorem dX1_laysDualities_18 : decode cX1_laysDualities 18 = .ok (.getfield 124, 3) := dk_180 0 124 (dk_at dksX1_laysDualities_0 18 rfl rfl)
theorem dX1_laysDualities_21 : decode cX1_laysDualities 21 = .ok (.getfield 7, 3) := dk_180 0 7 (dk_at dksX1_laysDualities_0 21 rfl rfl)
theorem dX1_laysDualities_24 : decode cX1_laysDualities 24 = .ok (.if_icmp .ne 9, 3) := dk_160 0 9 (dk_at dksX1_laysDualities_1 0 rfl rfl)
theorem dX1_laysDualities_27 : decode cX1_laysDualities 27 = .ok (.aload_n 0, 1) := dk_42 (dk_at dksX1_laysDualities_1 3 rfl rfl)
theorem dX1_laysDualities_28 : decode cX1_laysDualities 28 = .ok (.iconst 0, 1) := dk_3 (dk_at dksX1_laysDualities_1 4 rfl rfl)
theorem dX1_laysDualities_29 : decode cX1_laysDualities 29 = .ok (.iconst 0, 1) := dk_3 (dk_at dksX1_laysDualities_1 5 rfl rfl)
theorem dX1_laysDualities_30 : decode cX1_laysDualities 30 = .ok (.invokevirtual 273, 3) := dk_182 1 17 (dk_at dksX1_laysDualities_1 6 rfl rfl)
theorem dX1_laysDualities_33 : decode cX1_laysDualities 33 = .ok (.return_, 1) := dk_177 (dk_at dksX1_laysDualities_1 9 rfl rfl)
abbrev cX1_names : ByteArray := prog_1_method_33_code
def yX1_names : MethodName := ⟨RX1, "names", "(II)V"⟩
def dkwX1_names_4 : List UInt8 := [167, 255, 203, 177]
abbrev dktX1_names_4 : List UInt8 := dkwX1_names_4 ++ []
def dkwX1_names_3 : List UInt8 := [79, 42, 27, 182, 1, 14, 153, 0, 15, 42, 27, 4, 96, 28, 4, 29, 120, 128, 182, 1, 17, 132, 3, 1]
abbrev dktX1_names_3 : List UInt8 := dkwX1_names_3 ++ dktX1_names_4
def dkwX1_names_2 : List UInt8 := [180, 0, 7, 162, 0, 48, 28, 29, 122, 4, 126, 4, 160, 0, 6, 167, 0, 30, 42, 180, 0, 164, 27, 29]
abbrev dktX1_names_2 : List UInt8 := dkwX1_names_2 ++ dktX1_names_3
def dkwX1_names_1 : List UInt8 := [182, 1, 7, 153, 0, 13, 42, 89, 180, 1, 11, 4, 96, 181, 1, 11, 177, 3, 62, 29, 42, 180, 0, 124]
abbrev dktX1_names_1 : List UInt8 := dkwX1_names_1 ++ dktX1_names_2
def dkwX1_names_0 : List UInt8 := [27, 42, 180, 0, 124, 180, 0, 1, 160, 0, 31, 42, 89, 180, 1, 4, 4, 96, 181, 1, 4, 42]
abbrev dktX1_names_0 : List UInt8 := dkwX1_names_0 ++ dktX1_names_1
theorem dksX1_names_0 : cX1_names.data.toList.drop 0 = dktX1_names_0 := by decide +kernel
theorem dksX1_names_1 : cX1_names.data.toList.drop 22 = dktX1_names_1 := dk_seg dksX1_names_0 22 rfl rfl
theorem dksX1_names_2 : cX1_names.data.toList.drop 46 = dktX1_names_2 := dk_seg dksX1_names_1 24 rfl rfl
theorem dksX1_names_3 : cX1_names.data.toList.drop 70 = dktX1_names_3 := dk_seg dksX1_names_2 24 rfl rfl
theorem dksX1_names_4 : cX1_names.data.toList.drop 94 = dktX1_names_4 := dk_seg dksX1_names_3 24 rfl rfl
theorem dX1_names_0 : decode cX1_names 0 = .ok (.iload_n 1, 1) := dk_27 (dk_at dksX1_names_0 0 rfl rfl)
theorem dX1_names_1 : decode cX1_names 1 = .ok (.aload_n 0, 1) := dk_42 (dk_at dksX1_names_0 1 rfl rfl)
theorem dX1_names_2 : decode cX1_names 2 = .ok (.getfield 124, 3) := dk_180 0 124 (dk_at dksX1_names_0 2 rfl rfl)
theorem dX1_names_5 : decode cX1_names 5 = .ok (.getfield 1, 3) := dk_180 0 1 (dk_at dksX1_names_0 5 rfl rfl)
theorem dX1_names_8 : decode cX1_names 8 = .ok (.if_icmp .ne 31, 3) := dk_160 0 31 (dk_at dksX1_names_0 8 rfl rfl)
theorem dX1_names_11 : decode cX1_names 11 = .ok (.aload_n 0, 1) := dk_42 (dk_at dksX1_names_0 11 rfl rfl)
theorem dX1_names_12 : decode cX1_names 12 = .ok (.dup, 1) := dk_89 (dk_at dksX1_names_0 12 rfl rfl)
theorem dX1_names_13 : decode cX1_names 13 = .ok (.getfield 260, 3) := dk_180 1 4 (dk_at dksX1_names_0 13 rfl rfl)
theorem dX1_names_16 : decode cX1_names 16 = .ok (.iconst 1, 1) := dk_4 (dk_at dksX1_names_0 16 rfl rfl)
theorem dX1_names_17 : decode cX1_names 17 = .ok (.iadd, 1) := dk_96 (dk_at dksX1_names_0 17 rfl rfl)
theorem dX1_names_18 : decode cX1_names 18 = .ok (.putfield 260, 3) := dk_181 1 4 (dk_at dksX1_names_0 18 rfl rfl)
theorem dX1_names_21 : decode cX1_names 21 = .ok (.aload_n 0, 1) := dk_42 (dk_at dksX1_names_0 21 rfl rfl)
theorem dX1_names_22 : decode cX1_names 22 = .ok (.invokevirtual 263, 3) := dk_182 1 7 (dk_at dksX1_names_1 0 rfl rfl)
theorem dX1_names_25 : decode cX1_names 25 = .ok (.ifCond .eq 13, 3) := dk_153 0 13 (dk_at dksX1_names_1 3 rfl rfl)
theorem dX1_names_28 : decode cX1_names 28 = .ok (.aload_n 0, 1) := dk_42 (dk_at dksX1_names_1 6 rfl rfl)
theorem dX1_names_29 : decode cX1_names 29 = .ok (.dup, 1) := dk_89 (dk_at dksX1_names_1 7 rfl rfl)
theorem dX1_names_30 : decode cX1_names 30 = .ok (.getfield 267, 3) := dk_180 1 11 (dk_at dksX1_names_1 8 rfl rfl)
theorem dX1_names_33 : decode cX1_names 33 = .ok (.iconst 1, 1) := dk_4 (dk_at dksX1_names_1 11 rfl rfl)
theorem dX1_names_34 : decode cX1_names 34 = .ok (.iadd, 1) := dk_96 (dk_at dksX1_names_1 12 rfl rfl)
theorem dX1_names_35 : decode cX1_names 35 = .ok (.putfield 267, 3) := dk_181 1 11 (dk_at dksX1_names_1 13 rfl rfl)
theorem dX1_names_38 : decode cX1_names 38 = .ok (.return_, 1) := dk_177 (dk_at dksX1_names_1 16 rfl rfl)
theorem dX1_names_39 : decode cX1_names 39 = .ok (.iconst 0, 1) := dk_3 (dk_at dksX1_names_1 17 rfl rfl)
theorem dX1_names_40 : decode cX1_names 40 = .ok (.istore_n 3, 1) := dk_62 (dk_at dksX1_names_1 18 rfl rfl)
theorem dX1_names_41 : decode cX1_names 41 = .ok (.iload_n 3, 1) := dk_29 (dk_at dksX1_names_1 19 rfl rfl)
theorem dX1_names_42 : decode cX1_names 42 = .ok (.aload_n 0, 1) := dk_42 (dk_at dksX1_names_1 20 rfl rfl)
theorem dX1_names_43 : decode cX1_names 43 = .ok (.getfield 124, 3) := dk_180 0 124 (dk_at dksX1_names_1 21 rfl rfl)
theorem dX1_names_46 : decode cX1_names 46 = .ok (.getfield 7, 3) := dk_180 0 7 (dk_at dksX1_names_2 0 rfl rfl)
theorem dX1_names_49 : decode cX1_names 49 = .ok (.if_icmp .ge 48, 3) := dk_162 0 48 (dk_at dksX1_names_2 3 rfl rfl)
theorem dX1_names_52 : decode cX1_names 52 = .ok (.iload_n 2, 1) := dk_28 (dk_at dksX1_names_2 6 rfl rfl)
theorem dX1_names_53 : decode cX1_names 53 = .ok (.iload_n 3, 1) := dk_29 (dk_at dksX1_names_2 7 rfl rfl)
theorem dX1_names_54 : decode cX1_names 54 = .ok (.ishr, 1) := dk_122 (dk_at dksX1_names_2 8 rfl rfl)
theorem dX1_names_55 : decode cX1_names 55 = .ok (.iconst 1, 1) := dk_4 (dk_at dksX1_names_2 9 rfl rfl)
theorem dX1_names_56 : decode cX1_names 56 = .ok (.iand, 1) := dk_126 (dk_at dksX1_names_2 10 rfl rfl)
theorem dX1_names_57 : decode cX1_names 57 = .ok (.iconst 1, 1) := dk_4 (dk_at dksX1_names_2 11 rfl rfl)
theorem dX1_names_58 : decode cX1_names 58 = .ok (.if_icmp .ne 6, 3) := dk_160 0 6 (dk_at dksX1_names_2 12 rfl rfl)
theorem dX1_names_61 : decode cX1_names 61 = .ok (.goto 30, 3) := dk_167 0 30 (dk_at dksX1_names_2 15 rfl rfl)
theorem dX1_names_64 : decode cX1_names 64 = .ok (.aload_n 0, 1) := dk_42 (dk_at dksX1_names_2 18 rfl rfl)
theorem dX1_names_65 : decode cX1_names 65 = .ok (.getfield 164, 3) := dk_180 0 164 (dk_at dksX1_names_2 19 rfl rfl)
theorem dX1_names_68 : decode cX1_names 68 = .ok (.iload_n 1, 1) := dk_27 (dk_at dksX1_names_2 22 rfl rfl)
theorem dX1_names_69 : decode cX1_names 69 = .ok (.iload_n 3, 1) := dk_29 (dk_at dksX1_names_2 23 rfl rfl)
theorem dX1_names_70 : decode cX1_names 70 = .ok (.iastore, 1) := dk_79 (dk_at dksX1_names_3 0 rfl rfl)
theorem dX1_names_71 : decode cX1_names 71 = .ok (.aload_n 0, 1) := dk_42 (dk_at dksX1_names_3 1 rfl rfl)
theorem dX1_names_72 : decode cX1_names 72 = .ok (.iload_n 1, 1) := dk_27 (dk_at dksX1_names_3 2 rfl rfl)
theorem dX1_names_73 : decode cX1_names 73 = .ok (.invokevirtual 270, 3) := dk_182 1 14 (dk_at dksX1_names_3 3 rfl rfl)
theorem dX1_names_76 : decode cX1_names 76 = .ok (.ifCond .eq 15, 3) := dk_153 0 15 (dk_at dksX1_names_3 6 rfl rfl)
theorem dX1_names_79 : decode cX1_names 79 = .ok (.aload_n 0, 1) := dk_42 (dk_at dksX1_names_3 9 rfl rfl)
theorem dX1_names_80 : decode cX1_names 80 = .ok (.iload_n 1, 1) := dk_27 (dk_at dksX1_names_3 10 rfl rfl)
theorem dX1_names_81 : decode cX1_names 81 = .ok (.iconst 1, 1) := dk_4 (dk_at dksX1_names_3 11 rfl rfl)
theorem dX1_names_82 : decode cX1_names 82 = .ok (.iadd, 1) := dk_96 (dk_at dksX1_names_3 12 rfl rfl)
theorem dX1_names_83 : decode cX1_names 83 = .ok (.iload_n 2, 1) := dk_28 (dk_at dksX1_names_3 13 rfl rfl)
theorem dX1_names_84 : decode cX1_names 84 = .ok (.iconst 1, 1) := dk_4 (dk_at dksX1_names_3 14 rfl rfl)
theorem dX1_names_85 : decode cX1_names 85 = .ok (.iload_n 3, 1) := dk_29 (dk_at dksX1_names_3 15 rfl rfl)
theorem dX1_names_86 : decode cX1_names 86 = .ok (.ishl, 1) := dk_120 (dk_at dksX1_names_3 16 rfl rfl)
theorem dX1_names_87 : decode cX1_names 87 = .ok (.ior, 1) := dk_128 (dk_at dksX1_names_3 17 rfl rfl)
theorem dX1_names_88 : decode cX1_names 88 = .ok (.invokevirtual 273, 3) := dk_182 1 17 (dk_at dksX1_names_3 18 rfl rfl)
theorem dX1_names_91 : decode cX1_names 91 = .ok (.iinc 3 1, 3) := dk_132 3 1 (dk_at dksX1_names_3 21 rfl rfl)
theorem dX1_names_94 : decode cX1_names 94 = .ok (.goto (-53), 3) := dk_167 255 203 (dk_at dksX1_names_4 0 rfl rfl)
theorem dX1_names_97 : decode cX1_names 97 = .ok (.return_, 1) := dk_177 (dk_at dksX1_names_4 3 rfl rfl)
abbrev cX1_isPolarity : ByteArray := prog_1_method_32_code
def yX1_isPolarity : MethodName := ⟨RX1, "isPolarity", "()Z"⟩
def dkwX1_isPolarity_2 : List UInt8 := [159, 0, 5, 3, 172, 132, 2, 1, 167, 255, 215, 132, 1, 1, 167, 255, 196, 4, 172]
abbrev dktX1_isPolarity_2 : List UInt8 := dkwX1_isPolarity_2 ++ []
def dkwX1_isPolarity_1 : List UInt8 := [27, 42, 180, 0, 164, 28, 46, 182, 1, 1, 42, 180, 0, 124, 28, 42, 180, 0, 164, 27, 46, 182, 1, 1]
abbrev dktX1_isPolarity_1 : List UInt8 := dkwX1_isPolarity_1 ++ dktX1_isPolarity_2
def dkwX1_isPolarity_0 : List UInt8 := [3, 60, 27, 42, 180, 0, 124, 180, 0, 1, 162, 0, 55, 3, 61, 28, 27, 162, 0, 42, 42, 180, 0, 124]
abbrev dktX1_isPolarity_0 : List UInt8 := dkwX1_isPolarity_0 ++ dktX1_isPolarity_1
theorem dksX1_isPolarity_0 : cX1_isPolarity.data.toList.drop 0 = dktX1_isPolarity_0 := by decide +kernel
theorem dksX1_isPolarity_1 : cX1_isPolarity.data.toList.drop 24 = dktX1_isPolarity_1 := dk_seg dksX1_isPolarity_0 24 rfl rfl
theorem dksX1_isPolarity_2 : cX1_isPolarity.data.toList.drop 48 = dktX1_isPolarity_2 := dk_seg dksX1_isPolarity_1 24 rfl rfl
theorem dX1_isPolarity_0 : decode cX1_isPolarity 0 = .ok (.iconst 0, 1) := dk_3 (dk_at dksX1_isPolarity_0 0 rfl rfl)
theorem dX1_isPolarity_1 : decode cX1_isPolarity 1 = .ok (.istore_n 1, 1) := dk_60 (dk_at dksX1_isPolarity_0 1 rfl rfl)
theorem dX1_isPolarity_2 : decode cX1_isPolarity 2 = .ok (.iload_n 1, 1) := dk_27 (dk_at dksX1_isPolarity_0 2 rfl rfl)
theorem dX1_isPolarity_3 : decode cX1_isPolarity 3 = .ok (.aload_n 0, 1) := dk_42 (dk_at dksX1_isPolarity_0 3 rfl rfl)
theorem dX1_isPolarity_4 : decode cX1_isPolarity 4 = .ok (.getfield 124, 3) := dk_180 0 124 (dk_at dksX1_isPolarity_0 4 rfl rfl)
theorem dX1_isPolarity_7 : decode cX1_isPolarity 7 = .ok (.getfield 1, 3) := dk_180 0 1 (dk_at dksX1_isPolarity_0 7 rfl rfl)
theorem dX1_isPolarity_10 : decode cX1_isPolarity 10 = .ok (.if_icmp .ge 55, 3) := dk_162 0 55 (dk_at dksX1_isPolarity_0 10 rfl rfl)
theorem dX1_isPolarity_13 : decode cX1_isPolarity 13 = .ok (.iconst 0, 1) := dk_3 (dk_at dksX1_isPolarity_0 13 rfl rfl)
theorem dX1_isPolarity_14 : decode cX1_isPolarity 14 = .ok (.istore_n 2, 1) := dk_61 (dk_at dksX1_isPolarity_0 14 rfl rfl)
theorem dX1_isPolarity_15 : decode cX1_isPolarity 15 = .ok (.iload_n 2, 1) := dk_28 (dk_at dksX1_isPolarity_0 15 rfl rfl)
theorem dX1_isPolarity_16 : decode cX1_isPolarity 16 = .ok (.iload_n 1, 1) := dk_27 (dk_at dksX1_isPolarity_0 16 rfl rfl)
theorem dX1_isPolarity_17 : decode cX1_isPolarity 17 = .ok (.if_icmp .ge 42, 3) := dk_162 0 42 (dk_at dksX1_isPolarity_0 17 rfl rfl)
theorem dX1_isPolarity_20 : decode cX1_isPolarity 20 = .ok (.aload_n 0, 1) := dk_42 (dk_at dksX1_isPolarity_0 20 rfl rfl)
theorem dX1_isPolarity_21 : decode cX1_isPolarity 21 = .ok (.getfield 124, 3) := dk_180 0 124 (dk_at dksX1_isPolarity_0 21 rfl rfl)
theorem dX1_isPolarity_24 : decode cX1_isPolarity 24 = .ok (.iload_n 1, 1) := dk_27 (dk_at dksX1_isPolarity_1 0 rfl rfl)
theorem dX1_isPolarity_25 : decode cX1_isPolarity 25 = .ok (.aload_n 0, 1) := dk_42 (dk_at dksX1_isPolarity_1 1 rfl rfl)
theorem dX1_isPolarity_26 : decode cX1_isPolarity 26 = .ok (.getfield 164, 3) := dk_180 0 164 (dk_at dksX1_isPolarity_1 2 rfl rfl)
theorem dX1_isPolarity_29 : decode cX1_isPolarity 29 = .ok (.iload_n 2, 1) := dk_28 (dk_at dksX1_isPolarity_1 5 rfl rfl)
theorem dX1_isPolarity_30 : decode cX1_isPolarity 30 = .ok (.iaload, 1) := dk_46 (dk_at dksX1_isPolarity_1 6 rfl rfl)
theorem dX1_isPolarity_31 : decode cX1_isPolarity 31 = .ok (.invokevirtual 257, 3) := dk_182 1 1 (dk_at dksX1_isPolarity_1 7 rfl rfl)
theorem dX1_isPolarity_34 : decode cX1_isPolarity 34 = .ok (.aload_n 0, 1) := dk_42 (dk_at dksX1_isPolarity_1 10 rfl rfl)
theorem dX1_isPolarity_35 : decode cX1_isPolarity 35 = .ok (.getfield 124, 3) := dk_180 0 124 (dk_at dksX1_isPolarity_1 11 rfl rfl)
theorem dX1_isPolarity_38 : decode cX1_isPolarity 38 = .ok (.iload_n 2, 1) := dk_28 (dk_at dksX1_isPolarity_1 14 rfl rfl)
theorem dX1_isPolarity_39 : decode cX1_isPolarity 39 = .ok (.aload_n 0, 1) := dk_42 (dk_at dksX1_isPolarity_1 15 rfl rfl)
theorem dX1_isPolarity_40 : decode cX1_isPolarity 40 = .ok (.getfield 164, 3) := dk_180 0 164 (dk_at dksX1_isPolarity_1 16 rfl rfl)
theorem dX1_isPolarity_43 : decode cX1_isPolarity 43 = .ok (.iload_n 1, 1) := dk_27 (dk_at dksX1_isPolarity_1 19 rfl rfl)
theorem dX1_isPolarity_44 : decode cX1_isPolarity 44 = .ok (.iaload, 1) := dk_46 (dk_at dksX1_isPolarity_1 20 rfl rfl)
theorem dX1_isPolarity_45 : decode cX1_isPolarity 45 = .ok (.invokevirtual 257, 3) := dk_182 1 1 (dk_at dksX1_isPolarity_1 21 rfl rfl)
theorem dX1_isPolarity_48 : decode cX1_isPolarity 48 = .ok (.if_icmp .eq 5, 3) := dk_159 0 5 (dk_at dksX1_isPolarity_2 0 rfl rfl)
theorem dX1_isPolarity_51 : decode cX1_isPolarity 51 = .ok (.iconst 0, 1) := dk_3 (dk_at dksX1_isPolarity_2 3 rfl rfl)
theorem dX1_isPolarity_52 : decode cX1_isPolarity 52 = .ok (.ireturn, 1) := dk_172 (dk_at dksX1_isPolarity_2 4 rfl rfl)
theorem dX1_isPolarity_53 : decode cX1_isPolarity 53 = .ok (.iinc 2 1, 3) := dk_132 2 1 (dk_at dksX1_isPolarity_2 5 rfl rfl)
theorem dX1_isPolarity_56 : decode cX1_isPolarity 56 = .ok (.goto (-41), 3) := dk_167 255 215 (dk_at dksX1_isPolarity_2 8 rfl rfl)
theorem dX1_isPolarity_59 : decode cX1_isPolarity 59 = .ok (.iinc 1 1, 3) := dk_132 1 1 (dk_at dksX1_isPolarity_2 11 rfl rfl)
theorem dX1_isPolarity_62 : decode cX1_isPolarity 62 = .ok (.goto (-60), 3) := dk_167 255 196 (dk_at dksX1_isPolarity_2 14 rfl rfl)
theorem dX1_isPolarity_65 : decode cX1_isPolarity 65 = .ok (.iconst 1, 1) := dk_4 (dk_at dksX1_isPolarity_2 17 rfl rfl)
theorem dX1_isPolarity_66 : decode cX1_isPolarity 66 = .ok (.ireturn, 1) := dk_172 (dk_at dksX1_isPolarity_2 18 rfl rfl)
abbrev cX1_isNamedWell : ByteArray := prog_1_method_34_code
def yX1_isNamedWell : MethodName := ⟨RX1, "isNamedWell", "(I)Z"⟩
def dkwX1_isNamedWell_1 : List UInt8 := [4, 160, 0, 14, 42, 28, 182, 1, 21, 2, 160, 0, 5, 3, 172, 132, 2, 1, 167, 255, 216, 4, 172]
abbrev dktX1_isNamedWell_1 : List UInt8 := dkwX1_isNamedWell_1 ++ []
def dkwX1_isNamedWell_0 : List UInt8 := [3, 61, 28, 42, 180, 0, 124, 180, 0, 7, 162, 0, 35, 42, 180, 0, 124, 180, 0, 37, 28, 46, 27, 122]
abbrev dktX1_isNamedWell_0 : List UInt8 := dkwX1_isNamedWell_0 ++ dktX1_isNamedWell_1
theorem dksX1_isNamedWell_0 : cX1_isNamedWell.data.toList.drop 0 = dktX1_isNamedWell_0 := by decide +kernel
theorem dksX1_isNamedWell_1 : cX1_isNamedWell.data.toList.drop 24 = dktX1_isNamedWell_1 := dk_seg dksX1_isNamedWell_0 24 rfl rfl
theorem dX1_isNamedWell_0 : decode cX1_isNamedWell 0 = .ok (.iconst 0, 1) := dk_3 (dk_at dksX1_isNamedWell_0 0 rfl rfl)
theorem dX1_isNamedWell_1 : decode cX1_isNamedWell 1 = .ok (.istore_n 2, 1) := dk_61 (dk_at dksX1_isNamedWell_0 1 rfl rfl)
theorem dX1_isNamedWell_2 : decode cX1_isNamedWell 2 = .ok (.iload_n 2, 1) := dk_28 (dk_at dksX1_isNamedWell_0 2 rfl rfl)
theorem dX1_isNamedWell_3 : decode cX1_isNamedWell 3 = .ok (.aload_n 0, 1) := dk_42 (dk_at dksX1_isNamedWell_0 3 rfl rfl)
theorem dX1_isNamedWell_4 : decode cX1_isNamedWell 4 = .ok (.getfield 124, 3) := dk_180 0 124 (dk_at dksX1_isNamedWell_0 4 rfl rfl)
theorem dX1_isNamedWell_7 : decode cX1_isNamedWell 7 = .ok (.getfield 7, 3) := dk_180 0 7 (dk_at dksX1_isNamedWell_0 7 rfl rfl)
theorem dX1_isNamedWell_10 : decode cX1_isNamedWell 10 = .ok (.if_icmp .ge 35, 3) := dk_162 0 35 (dk_at dksX1_isNamedWell_0 10 rfl rfl)
theorem dX1_isNamedWell_13 : decode cX1_isNamedWell 13 = .ok (.aload_n 0, 1) := dk_42 (dk_at dksX1_isNamedWell_0 13 rfl rfl)
theorem dX1_isNamedWell_14 : decode cX1_isNamedWell 14 = .ok (.getfield 124, 3) := dk_180 0 124 (dk_at dksX1_isNamedWell_0 14 rfl rfl)
theorem dX1_isNamedWell_17 : decode cX1_isNamedWell 17 = .ok (.getfield 37, 3) := dk_180 0 37 (dk_at dksX1_isNamedWell_0 17 rfl rfl)
theorem dX1_isNamedWell_20 : decode cX1_isNamedWell 20 = .ok (.iload_n 2, 1) := dk_28 (dk_at dksX1_isNamedWell_0 20 rfl rfl)
theorem dX1_isNamedWell_21 : decode cX1_isNamedWell 21 = .ok (.iaload, 1) := dk_46 (dk_at dksX1_isNamedWell_0 21 rfl rfl)
theorem dX1_isNamedWell_22 : decode cX1_isNamedWell 22 = .ok (.iload_n 1, 1) := dk_27 (dk_at dksX1_isNamedWell_0 22 rfl rfl)
theorem dX1_isNamedWell_23 : decode cX1_isNamedWell 23 = .ok (.ishr, 1) := dk_122 (dk_at dksX1_isNamedWell_0 23 rfl rfl)
theorem dX1_isNamedWell_24 : decode cX1_isNamedWell 24 = .ok (.iconst 1, 1) := dk_4 (dk_at dksX1_isNamedWell_1 0 rfl rfl)
theorem dX1_isNamedWell_25 : decode cX1_isNamedWell 25 = .ok (.if_icmp .ne 14, 3) := dk_160 0 14 (dk_at dksX1_isNamedWell_1 1 rfl rfl)
theorem dX1_isNamedWell_28 : decode cX1_isNamedWell 28 = .ok (.aload_n 0, 1) := dk_42 (dk_at dksX1_isNamedWell_1 4 rfl rfl)
theorem dX1_isNamedWell_29 : decode cX1_isNamedWell 29 = .ok (.iload_n 2, 1) := dk_28 (dk_at dksX1_isNamedWell_1 5 rfl rfl)
theorem dX1_isNamedWell_30 : decode cX1_isNamedWell 30 = .ok (.invokevirtual 277, 3) := dk_182 1 21 (dk_at dksX1_isNamedWell_1 6 rfl rfl)
theorem dX1_isNamedWell_33 : decode cX1_isNamedWell 33 = .ok (.iconst (-1), 1) := dk_2 (dk_at dksX1_isNamedWell_1 9 rfl rfl)
theorem dX1_isNamedWell_34 : decode cX1_isNamedWell 34 = .ok (.if_icmp .ne 5, 3) := dk_160 0 5 (dk_at dksX1_isNamedWell_1 10 rfl rfl)
theorem dX1_isNamedWell_37 : decode cX1_isNamedWell 37 = .ok (.iconst 0, 1) := dk_3 (dk_at dksX1_isNamedWell_1 13 rfl rfl)
theorem dX1_isNamedWell_38 : decode cX1_isNamedWell 38 = .ok (.ireturn, 1) := dk_172 (dk_at dksX1_isNamedWell_1 14 rfl rfl)
theorem dX1_isNamedWell_39 : decode cX1_isNamedWell 39 = .ok (.iinc 2 1, 3) := dk_132 2 1 (dk_at dksX1_isNamedWell_1 15 rfl rfl)
theorem dX1_isNamedWell_42 : decode cX1_isNamedWell 42 = .ok (.goto (-40), 3) := dk_167 255 216 (dk_at dksX1_isNamedWell_1 18 rfl rfl)
theorem dX1_isNamedWell_45 : decode cX1_isNamedWell 45 = .ok (.iconst 1, 1) := dk_4 (dk_at dksX1_isNamedWell_1 21 rfl rfl)
theorem dX1_isNamedWell_46 : decode cX1_isNamedWell 46 = .ok (.ireturn, 1) := dk_172 (dk_at dksX1_isNamedWell_1 22 rfl rfl)
abbrev cX1_pole : ByteArray := prog_1_method_31_code
def yX1_pole : MethodName := ⟨RX1, "pole", "(I)I"⟩
def dkwX1_pole_3 : List UInt8 := [132, 3, 1, 167, 255, 228, 2, 172]
abbrev dktX1_pole_3 : List UInt8 := dkwX1_pole_3 ++ []
def dkwX1_pole_2 : List UInt8 := [180, 0, 124, 180, 0, 1, 162, 0, 23, 42, 180, 0, 124, 29, 182, 0, 222, 28, 160, 0, 5, 29, 172]
abbrev dktX1_pole_2 : List UInt8 := dkwX1_pole_2 ++ dktX1_pole_3
def dkwX1_pole_1 : List UInt8 := [153, 0, 14, 28, 4, 42, 180, 0, 164, 29, 46, 120, 128, 61, 132, 3, 1, 167, 255, 219, 3, 62, 29, 42]
abbrev dktX1_pole_1 : List UInt8 := dkwX1_pole_1 ++ dktX1_pole_2
def dkwX1_pole_0 : List UInt8 := [3, 61, 3, 62, 29, 42, 180, 0, 124, 180, 0, 1, 162, 0, 32, 42, 180, 0, 124, 29, 27, 182, 1, 1]
abbrev dktX1_pole_0 : List UInt8 := dkwX1_pole_0 ++ dktX1_pole_1
theorem dksX1_pole_0 : cX1_pole.data.toList.drop 0 = dktX1_pole_0 := by decide +kernel
theorem dksX1_pole_1 : cX1_pole.data.toList.drop 24 = dktX1_pole_1 := dk_seg dksX1_pole_0 24 rfl rfl
theorem dksX1_pole_2 : cX1_pole.data.toList.drop 48 = dktX1_pole_2 := dk_seg dksX1_pole_1 24 rfl rfl
theorem dksX1_pole_3 : cX1_pole.data.toList.drop 71 = dktX1_pole_3 := dk_seg dksX1_pole_2 23 rfl rfl
theorem dX1_pole_0 : decode cX1_pole 0 = .ok (.iconst 0, 1) := dk_3 (dk_at dksX1_pole_0 0 rfl rfl)
theorem dX1_pole_1 : decode cX1_pole 1 = .ok (.istore_n 2, 1) := dk_61 (dk_at dksX1_pole_0 1 rfl rfl)
theorem dX1_pole_2 : decode cX1_pole 2 = .ok (.iconst 0, 1) := dk_3 (dk_at dksX1_pole_0 2 rfl rfl)
theorem dX1_pole_3 : decode cX1_pole 3 = .ok (.istore_n 3, 1) := dk_62 (dk_at dksX1_pole_0 3 rfl rfl)
theorem dX1_pole_4 : decode cX1_pole 4 = .ok (.iload_n 3, 1) := dk_29 (dk_at dksX1_pole_0 4 rfl rfl)
theorem dX1_pole_5 : decode cX1_pole 5 = .ok (.aload_n 0, 1) := dk_42 (dk_at dksX1_pole_0 5 rfl rfl)
theorem dX1_pole_6 : decode cX1_pole 6 = .ok (.getfield 124, 3) := dk_180 0 124 (dk_at dksX1_pole_0 6 rfl rfl)
theorem dX1_pole_9 : decode cX1_pole 9 = .ok (.getfield 1, 3) := dk_180 0 1 (dk_at dksX1_pole_0 9 rfl rfl)
theorem dX1_pole_12 : decode cX1_pole 12 = .ok (.if_icmp .ge 32, 3) := dk_162 0 32 (dk_at dksX1_pole_0 12 rfl rfl)
theorem dX1_pole_15 : decode cX1_pole 15 = .ok (.aload_n 0, 1) := dk_42 (dk_at dksX1_pole_0 15 rfl rfl)
theorem dX1_pole_16 : decode cX1_pole 16 = .ok (.getfield 124, 3) := dk_180 0 124 (dk_at dksX1_pole_0 16 rfl rfl)
theorem dX1_pole_19 : decode cX1_pole 19 = .ok (.iload_n 3, 1) := dk_29 (dk_at dksX1_pole_0 19 rfl rfl)
theorem dX1_pole_20 : decode cX1_pole 20 = .ok (.iload_n 1, 1) := dk_27 (dk_at dksX1_pole_0 20 rfl rfl)
theorem dX1_pole_21 : decode cX1_pole 21 = .ok (.invokevirtual 257, 3) := dk_182 1 1 (dk_at dksX1_pole_0 21 rfl rfl)
theorem dX1_pole_24 : decode cX1_pole 24 = .ok (.ifCond .eq 14, 3) := dk_153 0 14 (dk_at dksX1_pole_1 0 rfl rfl)
theorem dX1_pole_27 : decode cX1_pole 27 = .ok (.iload_n 2, 1) := dk_28 (dk_at dksX1_pole_1 3 rfl rfl)
theorem dX1_pole_28 : decode cX1_pole 28 = .ok (.iconst 1, 1) := dk_4 (dk_at dksX1_pole_1 4 rfl rfl)
theorem dX1_pole_29 : decode cX1_pole 29 = .ok (.aload_n 0, 1) := dk_42 (dk_at dksX1_pole_1 5 rfl rfl)
theorem dX1_pole_30 : decode cX1_pole 30 = .ok (.getfield 164, 3) := dk_180 0 164 (dk_at dksX1_pole_1 6 rfl rfl)
theorem dX1_pole_33 : decode cX1_pole 33 = .ok (.iload_n 3, 1) := dk_29 (dk_at dksX1_pole_1 9 rfl rfl)
theorem dX1_pole_34 : decode cX1_pole 34 = .ok (.iaload, 1) := dk_46 (dk_at dksX1_pole_1 10 rfl rfl)
theorem dX1_pole_35 : decode cX1_pole 35 = .ok (.ishl, 1) := dk_120 (dk_at dksX1_pole_1 11 rfl rfl)
theorem dX1_pole_36 : decode cX1_pole 36 = .ok (.ior, 1) := dk_128 (dk_at dksX1_pole_1 12 rfl rfl)
theorem dX1_pole_37 : decode cX1_pole 37 = .ok (.istore_n 2, 1) := dk_61 (dk_at dksX1_pole_1 13 rfl rfl)
theorem dX1_pole_38 : decode cX1_pole 38 = .ok (.iinc 3 1, 3) := dk_132 3 1 (dk_at dksX1_pole_1 14 rfl rfl)
theorem dX1_pole_41 : decode cX1_pole 41 = .ok (.goto (-37), 3) := dk_167 255 219 (dk_at dksX1_pole_1 17 rfl rfl)
theorem dX1_pole_44 : decode cX1_pole 44 = .ok (.iconst 0, 1) := dk_3 (dk_at dksX1_pole_1 20 rfl rfl)
theorem dX1_pole_45 : decode cX1_pole 45 = .ok (.istore_n 3, 1) := dk_62 (dk_at dksX1_pole_1 21 rfl rfl)
theorem dX1_pole_46 : decode cX1_pole 46 = .ok (.iload_n 3, 1) := dk_29 (dk_at dksX1_pole_1 22 rfl rfl)
theorem dX1_pole_47 : decode cX1_pole 47 = .ok (.aload_n 0, 1) := dk_42 (dk_at dksX1_pole_1 23 rfl rfl)
theorem dX1_pole_48 : decode cX1_pole 48 = .ok (.getfield 124, 3) := dk_180 0 124 (dk_at dksX1_pole_2 0 rfl rfl)
theorem dX1_pole_51 : decode cX1_pole 51 = .ok (.getfield 1, 3) := dk_180 0 1 (dk_at dksX1_pole_2 3 rfl rfl)
theorem dX1_pole_54 : decode cX1_pole 54 = .ok (.if_icmp .ge 23, 3) := dk_162 0 23 (dk_at dksX1_pole_2 6 rfl rfl)
theorem dX1_pole_57 : decode cX1_pole 57 = .ok (.aload_n 0, 1) := dk_42 (dk_at dksX1_pole_2 9 rfl rfl)
theorem dX1_pole_58 : decode cX1_pole 58 = .ok (.getfield 124, 3) := dk_180 0 124 (dk_at dksX1_pole_2 10 rfl rfl)
theorem dX1_pole_61 : decode cX1_pole 61 = .ok (.iload_n 3, 1) := dk_29 (dk_at dksX1_pole_2 13 rfl rfl)
theorem dX1_pole_62 : decode cX1_pole 62 = .ok (.invokevirtual 222, 3) := dk_182 0 222 (dk_at dksX1_pole_2 14 rfl rfl)
theorem dX1_pole_65 : decode cX1_pole 65 = .ok (.iload_n 2, 1) := dk_28 (dk_at dksX1_pole_2 17 rfl rfl)
theorem dX1_pole_66 : decode cX1_pole 66 = .ok (.if_icmp .ne 5, 3) := dk_160 0 5 (dk_at dksX1_pole_2 18 rfl rfl)
theorem dX1_pole_69 : decode cX1_pole 69 = .ok (.iload_n 3, 1) := dk_29 (dk_at dksX1_pole_2 21 rfl rfl)
theorem dX1_pole_70 : decode cX1_pole 70 = .ok (.ireturn, 1) := dk_172 (dk_at dksX1_pole_2 22 rfl rfl)
theorem dX1_pole_71 : decode cX1_pole 71 = .ok (.iinc 3 1, 3) := dk_132 3 1 (dk_at dksX1_pole_3 0 rfl rfl)
theorem dX1_pole_74 : decode cX1_pole 74 = .ok (.goto (-28), 3) := dk_167 255 228 (dk_at dksX1_pole_3 3 rfl rfl)
theorem dX1_pole_77 : decode cX1_pole 77 = .ok (.iconst (-1), 1) := dk_2 (dk_at dksX1_pole_3 6 rfl rfl)
theorem dX1_pole_78 : decode cX1_pole 78 = .ok (.ireturn, 1) := dk_172 (dk_at dksX1_pole_3 7 rfl rfl)
abbrev cX1_slipsMany : ByteArray := prog_1_method_40_code
def yX1_slipsMany : MethodName := ⟨RX1, "slipsMany", "()I"⟩
def dkwX1_slipsMany_1 : List UInt8 := [132, 1, 1, 132, 2, 1, 167, 255, 231, 27, 172]
abbrev dktX1_slipsMany_1 : List UInt8 := dkwX1_slipsMany_1 ++ []
def dkwX1_slipsMany_0 : List UInt8 := [3, 60, 3, 61, 28, 42, 180, 0, 124, 180, 0, 7, 162, 0, 20, 42, 28, 182, 1, 40, 153, 0, 6]
abbrev dktX1_slipsMany_0 : List UInt8 := dkwX1_slipsMany_0 ++ dktX1_slipsMany_1
theorem dksX1_slipsMany_0 : cX1_slipsMany.data.toList.drop 0 = dktX1_slipsMany_0 := by decide +kernel
theorem dksX1_slipsMany_1 : cX1_slipsMany.data.toList.drop 23 = dktX1_slipsMany_1 := dk_seg dksX1_slipsMany_0 23 rfl rfl
theorem dX1_slipsMany_0 : decode cX1_slipsMany 0 = .ok (.iconst 0, 1) := dk_3 (dk_at dksX1_slipsMany_0 0 rfl rfl)
theorem dX1_slipsMany_1 : decode cX1_slipsMany 1 = .ok (.istore_n 1, 1) := dk_60 (dk_at dksX1_slipsMany_0 1 rfl rfl)
theorem dX1_slipsMany_2 : decode cX1_slipsMany 2 = .ok (.iconst 0, 1) := dk_3 (dk_at dksX1_slipsMany_0 2 rfl rfl)
theorem dX1_slipsMany_3 : decode cX1_slipsMany 3 = .ok (.istore_n 2, 1) := dk_61 (dk_at dksX1_slipsMany_0 3 rfl rfl)
theorem dX1_slipsMany_4 : decode cX1_slipsMany 4 = .ok (.iload_n 2, 1) := dk_28 (dk_at dksX1_slipsMany_0 4 rfl rfl)
theorem dX1_slipsMany_5 : decode cX1_slipsMany 5 = .ok (.aload_n 0, 1) := dk_42 (dk_at dksX1_slipsMany_0 5 rfl rfl)
theorem dX1_slipsMany_6 : decode cX1_slipsMany 6 = .ok (.getfield 124, 3) := dk_180 0 124 (dk_at dksX1_slipsMany_0 6 rfl rfl)
theorem dX1_slipsMany_9 : decode cX1_slipsMany 9 = .ok (.getfield 7, 3) := dk_180 0 7 (dk_at dksX1_slipsMany_0 9 rfl rfl)
theorem dX1_slipsMany_12 : decode cX1_slipsMany 12 = .ok (.if_icmp .ge 20, 3) := dk_162 0 20 (dk_at dksX1_slipsMany_0 12 rfl rfl)
theorem dX1_slipsMany_15 : decode cX1_slipsMany 15 = .ok (.aload_n 0, 1) := dk_42 (dk_at dksX1_slipsMany_0 15 rfl rfl)
theorem dX1_slipsMany_16 : decode cX1_slipsMany 16 = .ok (.iload_n 2, 1) := dk_28 (dk_at dksX1_slipsMany_0 16 rfl rfl)
theorem dX1_slipsMany_17 : decode cX1_slipsMany 17 = .ok (.invokevirtual 296, 3) := dk_182 1 40 (dk_at dksX1_slipsMany_0 17 rfl rfl)
theorem dX1_slipsMany_20 : decode cX1_slipsMany 20 = .ok (.ifCond .eq 6, 3) := dk_153 0 6 (dk_at dksX1_slipsMany_0 20 rfl rfl)
theorem dX1_slipsMany_23 : decode cX1_slipsMany 23 = .ok (.iinc 1 1, 3) := dk_132 1 1 (dk_at dksX1_slipsMany_1 0 rfl rfl)
theorem dX1_slipsMany_26 : decode cX1_slipsMany 26 = .ok (.iinc 2 1, 3) := dk_132 2 1 (dk_at dksX1_slipsMany_1 3 rfl rfl)
theorem dX1_slipsMany_29 : decode cX1_slipsMany 29 = .ok (.goto (-25), 3) := dk_167 255 231 (dk_at dksX1_slipsMany_1 6 rfl rfl)
theorem dX1_slipsMany_32 : decode cX1_slipsMany 32 = .ok (.iload_n 1, 1) := dk_27 (dk_at dksX1_slipsMany_1 9 rfl rfl)
theorem dX1_slipsMany_33 : decode cX1_slipsMany 33 = .ok (.ireturn, 1) := dk_172 (dk_at dksX1_slipsMany_1 10 rfl rfl)
abbrev cX1_slips : ByteArray := prog_1_method_39_code
def yX1_slips : MethodName := ⟨RX1, "slips", "(I)Z"⟩
def dkwX1_slips_4 : List UInt8 := [132, 4, 1, 167, 255, 221, 132, 3, 1, 167, 255, 169, 132, 2, 1, 167, 255, 150, 3, 172]
abbrev dktX1_slips_4 : List UInt8 := dkwX1_slips_4 ++ []
def dkwX1_slips_3 : List UInt8 := [21, 4, 27, 182, 1, 1, 153, 0, 16, 42, 28, 29, 21, 4, 182, 1, 37, 154, 0, 5, 4, 172]
abbrev dktX1_slips_3 : List UInt8 := dkwX1_slips_3 ++ dktX1_slips_4
def dkwX1_slips_2 : List UInt8 := [28, 29, 182, 1, 34, 153, 0, 5, 4, 172, 3, 54, 4, 21, 4, 29, 162, 0, 35, 42, 180, 0, 124]
abbrev dktX1_slips_2 : List UInt8 := dkwX1_slips_2 ++ dktX1_slips_3
def dkwX1_slips_1 : List UInt8 := [28, 27, 182, 1, 1, 153, 0, 70, 42, 180, 0, 124, 29, 27, 182, 1, 1, 154, 0, 6, 167, 0, 55, 42]
abbrev dktX1_slips_1 : List UInt8 := dkwX1_slips_1 ++ dktX1_slips_2
def dkwX1_slips_0 : List UInt8 := [3, 61, 28, 42, 180, 0, 124, 180, 0, 1, 162, 0, 101, 3, 62, 29, 28, 162, 0, 88, 42, 180, 0, 124]
abbrev dktX1_slips_0 : List UInt8 := dkwX1_slips_0 ++ dktX1_slips_1
theorem dksX1_slips_0 : cX1_slips.data.toList.drop 0 = dktX1_slips_0 := by decide +kernel
theorem dksX1_slips_1 : cX1_slips.data.toList.drop 24 = dktX1_slips_1 := dk_seg dksX1_slips_0 24 rfl rfl
theorem dksX1_slips_2 : cX1_slips.data.toList.drop 48 = dktX1_slips_2 := dk_seg dksX1_slips_1 24 rfl rfl
theorem dksX1_slips_3 : cX1_slips.data.toList.drop 71 = dktX1_slips_3 := dk_seg dksX1_slips_2 23 rfl rfl
theorem dksX1_slips_4 : cX1_slips.data.toList.drop 93 = dktX1_slips_4 := dk_seg dksX1_slips_3 22 rfl rfl
theorem dX1_slips_0 : decode cX1_slips 0 = .ok (.iconst 0, 1) := dk_3 (dk_at dksX1_slips_0 0 rfl rfl)
theorem dX1_slips_1 : decode cX1_slips 1 = .ok (.istore_n 2, 1) := dk_61 (dk_at dksX1_slips_0 1 rfl rfl)
theorem dX1_slips_2 : decode cX1_slips 2 = .ok (.iload_n 2, 1) := dk_28 (dk_at dksX1_slips_0 2 rfl rfl)
theorem dX1_slips_3 : decode cX1_slips 3 = .ok (.aload_n 0, 1) := dk_42 (dk_at dksX1_slips_0 3 rfl rfl)
theorem dX1_slips_4 : decode cX1_slips 4 = .ok (.getfield 124, 3) := dk_180 0 124 (dk_at dksX1_slips_0 4 rfl rfl)
theorem dX1_slips_7 : decode cX1_slips 7 = .ok (.getfield 1, 3) := dk_180 0 1 (dk_at dksX1_slips_0 7 rfl rfl)
theorem dX1_slips_10 : decode cX1_slips 10 = .ok (.if_icmp .ge 101, 3) := dk_162 0 101 (dk_at dksX1_slips_0 10 rfl rfl)
theorem dX1_slips_13 : decode cX1_slips 13 = .ok (.iconst 0, 1) := dk_3 (dk_at dksX1_slips_0 13 rfl rfl)
theorem dX1_slips_14 : decode cX1_slips 14 = .ok (.istore_n 3, 1) := dk_62 (dk_at dksX1_slips_0 14 rfl rfl)
theorem dX1_slips_15 : decode cX1_slips 15 = .ok (.iload_n 3, 1) := dk_29 (dk_at dksX1_slips_0 15 rfl rfl)
theorem dX1_slips_16 : decode cX1_slips 16 = .ok (.iload_n 2, 1) := dk_28 (dk_at dksX1_slips_0 16 rfl rfl)
theorem dX1_slips_17 : decode cX1_slips 17 = .ok (.if_icmp .ge 88, 3) := dk_162 0 88 (dk_at dksX1_slips_0 17 rfl rfl)
theorem dX1_slips_20 : decode cX1_slips 20 = .ok (.aload_n 0, 1) := dk_42 (dk_at dksX1_slips_0 20 rfl rfl)
theorem dX1_slips_21 : decode cX1_slips 21 = .ok (.getfield 124, 3) := dk_180 0 124 (dk_at dksX1_slips_0 21 rfl rfl)
theorem dX1_slips_24 : decode cX1_slips 24 = .ok (.iload_n 2, 1) := dk_28 (dk_at dksX1_slips_1 0 rfl rfl)
theorem dX1_slips_25 : decode cX1_slips 25 = .ok (.iload_n 1, 1) := dk_27 (dk_at dksX1_slips_1 1 rfl rfl)
theorem dX1_slips_26 : decode cX1_slips 26 = .ok (.invokevirtual 257, 3) := dk_182 1 1 (dk_at dksX1_slips_1 2 rfl rfl)
theorem dX1_slips_29 : decode cX1_slips 29 = .ok (.ifCond .eq 70, 3) := dk_153 0 70 (dk_at dksX1_slips_1 5 rfl rfl)
theorem dX1_slips_32 : decode cX1_slips 32 = .ok (.aload_n 0, 1) := dk_42 (dk_at dksX1_slips_1 8 rfl rfl)
theorem dX1_slips_33 : decode cX1_slips 33 = .ok (.getfield 124, 3) := dk_180 0 124 (dk_at dksX1_slips_1 9 rfl rfl)
theorem dX1_slips_36 : decode cX1_slips 36 = .ok (.iload_n 3, 1) := dk_29 (dk_at dksX1_slips_1 12 rfl rfl)
theorem dX1_slips_37 : decode cX1_slips 37 = .ok (.iload_n 1, 1) := dk_27 (dk_at dksX1_slips_1 13 rfl rfl)
theorem dX1_slips_38 : decode cX1_slips 38 = .ok (.invokevirtual 257, 3) := dk_182 1 1 (dk_at dksX1_slips_1 14 rfl rfl)
theorem dX1_slips_41 : decode cX1_slips 41 = .ok (.ifCond .ne 6, 3) := dk_154 0 6 (dk_at dksX1_slips_1 17 rfl rfl)
theorem dX1_slips_44 : decode cX1_slips 44 = .ok (.goto 55, 3) := dk_167 0 55 (dk_at dksX1_slips_1 20 rfl rfl)
theorem dX1_slips_47 : decode cX1_slips 47 = .ok (.aload_n 0, 1) := dk_42 (dk_at dksX1_slips_1 23 rfl rfl)
theorem dX1_slips_48 : decode cX1_slips 48 = .ok (.iload_n 2, 1) := dk_28 (dk_at dksX1_slips_2 0 rfl rfl)
theorem dX1_slips_49 : decode cX1_slips 49 = .ok (.iload_n 3, 1) := dk_29 (dk_at dksX1_slips_2 1 rfl rfl)
theorem dX1_slips_50 : decode cX1_slips 50 = .ok (.invokevirtual 290, 3) := dk_182 1 34 (dk_at dksX1_slips_2 2 rfl rfl)
theorem dX1_slips_53 : decode cX1_slips 53 = .ok (.ifCond .eq 5, 3) := dk_153 0 5 (dk_at dksX1_slips_2 5 rfl rfl)
theorem dX1_slips_56 : decode cX1_slips 56 = .ok (.iconst 1, 1) := dk_4 (dk_at dksX1_slips_2 8 rfl rfl)
theorem dX1_slips_57 : decode cX1_slips 57 = .ok (.ireturn, 1) := dk_172 (dk_at dksX1_slips_2 9 rfl rfl)
theorem dX1_slips_58 : decode cX1_slips 58 = .ok (.iconst 0, 1) := dk_3 (dk_at dksX1_slips_2 10 rfl rfl)
theorem dX1_slips_59 : decode cX1_slips 59 = .ok (.istore 4, 2) := dk_54 4 (dk_at dksX1_slips_2 11 rfl rfl)
theorem dX1_slips_61 : decode cX1_slips 61 = .ok (.iload 4, 2) := dk_21 4 (dk_at dksX1_slips_2 13 rfl rfl)
theorem dX1_slips_63 : decode cX1_slips 63 = .ok (.iload_n 3, 1) := dk_29 (dk_at dksX1_slips_2 15 rfl rfl)
theorem dX1_slips_64 : decode cX1_slips 64 = .ok (.if_icmp .ge 35, 3) := dk_162 0 35 (dk_at dksX1_slips_2 16 rfl rfl)
theorem dX1_slips_67 : decode cX1_slips 67 = .ok (.aload_n 0, 1) := dk_42 (dk_at dksX1_slips_2 19 rfl rfl)
theorem dX1_slips_68 : decode cX1_slips 68 = .ok (.getfield 124, 3) := dk_180 0 124 (dk_at dksX1_slips_2 20 rfl rfl)
theorem dX1_slips_71 : decode cX1_slips 71 = .ok (.iload 4, 2) := dk_21 4 (dk_at dksX1_slips_3 0 rfl rfl)
theorem dX1_slips_73 : decode cX1_slips 73 = .ok (.iload_n 1, 1) := dk_27 (dk_at dksX1_slips_3 2 rfl rfl)
theorem dX1_slips_74 : decode cX1_slips 74 = .ok (.invokevirtual 257, 3) := dk_182 1 1 (dk_at dksX1_slips_3 3 rfl rfl)
theorem dX1_slips_77 : decode cX1_slips 77 = .ok (.ifCond .eq 16, 3) := dk_153 0 16 (dk_at dksX1_slips_3 6 rfl rfl)
theorem dX1_slips_80 : decode cX1_slips 80 = .ok (.aload_n 0, 1) := dk_42 (dk_at dksX1_slips_3 9 rfl rfl)
theorem dX1_slips_81 : decode cX1_slips 81 = .ok (.iload_n 2, 1) := dk_28 (dk_at dksX1_slips_3 10 rfl rfl)
theorem dX1_slips_82 : decode cX1_slips 82 = .ok (.iload_n 3, 1) := dk_29 (dk_at dksX1_slips_3 11 rfl rfl)
theorem dX1_slips_83 : decode cX1_slips 83 = .ok (.iload 4, 2) := dk_21 4 (dk_at dksX1_slips_3 12 rfl rfl)
theorem dX1_slips_85 : decode cX1_slips 85 = .ok (.invokevirtual 293, 3) := dk_182 1 37 (dk_at dksX1_slips_3 14 rfl rfl)
theorem dX1_slips_88 : decode cX1_slips 88 = .ok (.ifCond .ne 5, 3) := dk_154 0 5 (dk_at dksX1_slips_3 17 rfl rfl)
theorem dX1_slips_91 : decode cX1_slips 91 = .ok (.iconst 1, 1) := dk_4 (dk_at dksX1_slips_3 20 rfl rfl)
theorem dX1_slips_92 : decode cX1_slips 92 = .ok (.ireturn, 1) := dk_172 (dk_at dksX1_slips_3 21 rfl rfl)
theorem dX1_slips_93 : decode cX1_slips 93 = .ok (.iinc 4 1, 3) := dk_132 4 1 (dk_at dksX1_slips_4 0 rfl rfl)
theorem dX1_slips_96 : decode cX1_slips 96 = .ok (.goto (-35), 3) := dk_167 255 221 (dk_at dksX1_slips_4 3 rfl rfl)
theorem dX1_slips_99 : decode cX1_slips 99 = .ok (.iinc 3 1, 3) := dk_132 3 1 (dk_at dksX1_slips_4 6 rfl rfl)
theorem dX1_slips_102 : decode cX1_slips 102 = .ok (.goto (-87), 3) := dk_167 255 169 (dk_at dksX1_slips_4 9 rfl rfl)
theorem dX1_slips_105 : decode cX1_slips 105 = .ok (.iinc 2 1, 3) := dk_132 2 1 (dk_at dksX1_slips_4 12 rfl rfl)
theorem dX1_slips_108 : decode cX1_slips 108 = .ok (.goto (-106), 3) := dk_167 255 150 (dk_at dksX1_slips_4 15 rfl rfl)
theorem dX1_slips_111 : decode cX1_slips 111 = .ok (.iconst 0, 1) := dk_3 (dk_at dksX1_slips_4 18 rfl rfl)
theorem dX1_slips_112 : decode cX1_slips 112 = .ok (.ireturn, 1) := dk_172 (dk_at dksX1_slips_4 19 rfl rfl)
abbrev cX1_areSame : ByteArray := prog_1_method_38_code
def yX1_areSame : MethodName := ⟨RX1, "areSame", "(II)Z"⟩
def dkwX1_areSame_2 : List UInt8 := [3, 172]
abbrev dktX1_areSame_2 : List UInt8 := dkwX1_areSame_2 ++ []
def dkwX1_areSame_1 : List UInt8 := [180, 0, 124, 180, 1, 27, 27, 46, 42, 180, 0, 124, 180, 1, 27, 28, 46, 160, 0, 7, 4, 167, 0, 4]
abbrev dktX1_areSame_1 : List UInt8 := dkwX1_areSame_1 ++ dktX1_areSame_2
def dkwX1_areSame_0 : List UInt8 := [42, 180, 0, 124, 180, 1, 24, 27, 46, 42, 180, 0, 124, 180, 1, 24, 28, 46, 160, 0, 28, 42]
abbrev dktX1_areSame_0 : List UInt8 := dkwX1_areSame_0 ++ dktX1_areSame_1
theorem dksX1_areSame_0 : cX1_areSame.data.toList.drop 0 = dktX1_areSame_0 := by decide +kernel
theorem dksX1_areSame_1 : cX1_areSame.data.toList.drop 22 = dktX1_areSame_1 := dk_seg dksX1_areSame_0 22 rfl rfl
theorem dksX1_areSame_2 : cX1_areSame.data.toList.drop 46 = dktX1_areSame_2 := dk_seg dksX1_areSame_1 24 rfl rfl
theorem dX1_areSame_0 : decode cX1_areSame 0 = .ok (.aload_n 0, 1) := dk_42 (dk_at dksX1_areSame_0 0 rfl rfl)
theorem dX1_areSame_1 : decode cX1_areSame 1 = .ok (.getfield 124, 3) := dk_180 0 124 (dk_at dksX1_areSame_0 1 rfl rfl)
theorem dX1_areSame_4 : decode cX1_areSame 4 = .ok (.getfield 280, 3) := dk_180 1 24 (dk_at dksX1_areSame_0 4 rfl rfl)
theorem dX1_areSame_7 : decode cX1_areSame 7 = .ok (.iload_n 1, 1) := dk_27 (dk_at dksX1_areSame_0 7 rfl rfl)
theorem dX1_areSame_8 : decode cX1_areSame 8 = .ok (.iaload, 1) := dk_46 (dk_at dksX1_areSame_0 8 rfl rfl)
theorem dX1_areSame_9 : decode cX1_areSame 9 = .ok (.aload_n 0, 1) := dk_42 (dk_at dksX1_areSame_0 9 rfl rfl)
theorem dX1_areSame_10 : decode cX1_areSame 10 = .ok (.getfield 124, 3) := dk_180 0 124 (dk_at dksX1_areSame_0 10 rfl rfl)
theorem dX1_areSame_13 : decode cX1_areSame 13 = .ok (.getfield 280, 3) := dk_180 1 24 (dk_at dksX1_areSame_0 13 rfl rfl)
theorem dX1_areSame_16 : decode cX1_areSame 16 = .ok (.iload_n 2, 1) := dk_28 (dk_at dksX1_areSame_0 16 rfl rfl)
theorem dX1_areSame_17 : decode cX1_areSame 17 = .ok (.iaload, 1) := dk_46 (dk_at dksX1_areSame_0 17 rfl rfl)
theorem dX1_areSame_18 : decode cX1_areSame 18 = .ok (.if_icmp .ne 28, 3) := dk_160 0 28 (dk_at dksX1_areSame_0 18 rfl rfl)
theorem dX1_areSame_21 : decode cX1_areSame 21 = .ok (.aload_n 0, 1) := dk_42 (dk_at dksX1_areSame_0 21 rfl rfl)
theorem dX1_areSame_22 : decode cX1_areSame 22 = .ok (.getfield 124, 3) := dk_180 0 124 (dk_at dksX1_areSame_1 0 rfl rfl)
theorem dX1_areSame_25 : decode cX1_areSame 25 = .ok (.getfield 283, 3) := dk_180 1 27 (dk_at dksX1_areSame_1 3 rfl rfl)
theorem dX1_areSame_28 : decode cX1_areSame 28 = .ok (.iload_n 1, 1) := dk_27 (dk_at dksX1_areSame_1 6 rfl rfl)
theorem dX1_areSame_29 : decode cX1_areSame 29 = .ok (.iaload, 1) := dk_46 (dk_at dksX1_areSame_1 7 rfl rfl)
theorem dX1_areSame_30 : decode cX1_areSame 30 = .ok (.aload_n 0, 1) := dk_42 (dk_at dksX1_areSame_1 8 rfl rfl)
theorem dX1_areSame_31 : decode cX1_areSame 31 = .ok (.getfield 124, 3) := dk_180 0 124 (dk_at dksX1_areSame_1 9 rfl rfl)
theorem dX1_areSame_34 : decode cX1_areSame 34 = .ok (.getfield 283, 3) := dk_180 1 27 (dk_at dksX1_areSame_1 12 rfl rfl)
theorem dX1_areSame_37 : decode cX1_areSame 37 = .ok (.iload_n 2, 1) := dk_28 (dk_at dksX1_areSame_1 15 rfl rfl)
theorem dX1_areSame_38 : decode cX1_areSame 38 = .ok (.iaload, 1) := dk_46 (dk_at dksX1_areSame_1 16 rfl rfl)
theorem dX1_areSame_39 : decode cX1_areSame 39 = .ok (.if_icmp .ne 7, 3) := dk_160 0 7 (dk_at dksX1_areSame_1 17 rfl rfl)
theorem dX1_areSame_42 : decode cX1_areSame 42 = .ok (.iconst 1, 1) := dk_4 (dk_at dksX1_areSame_1 20 rfl rfl)
theorem dX1_areSame_43 : decode cX1_areSame 43 = .ok (.goto 4, 3) := dk_167 0 4 (dk_at dksX1_areSame_1 21 rfl rfl)
theorem dX1_areSame_46 : decode cX1_areSame 46 = .ok (.iconst 0, 1) := dk_3 (dk_at dksX1_areSame_2 0 rfl rfl)
theorem dX1_areSame_47 : decode cX1_areSame 47 = .ok (.ireturn, 1) := dk_172 (dk_at dksX1_areSame_2 1 rfl rfl)
abbrev cX1_isInLine : ByteArray := prog_1_method_37_code
def yX1_isInLine : MethodName := ⟨RX1, "isInLine", "(III)Z"⟩
def dkwX1_isInLine_3 : List UInt8 := [180, 1, 27, 27, 46, 100, 184, 1, 30, 154, 0, 7, 4, 167, 0, 4, 3, 172]
abbrev dktX1_isInLine_3 : List UInt8 := dkwX1_isInLine_3 ++ []
def dkwX1_isInLine_2 : List UInt8 := [42, 180, 0, 124, 180, 1, 24, 27, 46, 100, 42, 180, 0, 124, 180, 1, 27, 29, 46, 42, 180, 0, 124]
abbrev dktX1_isInLine_2 : List UInt8 := dkwX1_isInLine_2 ++ dktX1_isInLine_3
def dkwX1_isInLine_1 : List UInt8 := [180, 1, 27, 28, 46, 42, 180, 0, 124, 180, 1, 27, 27, 46, 100, 42, 180, 0, 124, 180, 1, 24, 29, 46]
abbrev dktX1_isInLine_1 : List UInt8 := dkwX1_isInLine_1 ++ dktX1_isInLine_2
def dkwX1_isInLine_0 : List UInt8 := [42, 180, 0, 124, 180, 1, 24, 28, 46, 42, 180, 0, 124, 180, 1, 24, 27, 46, 100, 42, 180, 0, 124]
abbrev dktX1_isInLine_0 : List UInt8 := dkwX1_isInLine_0 ++ dktX1_isInLine_1
theorem dksX1_isInLine_0 : cX1_isInLine.data.toList.drop 0 = dktX1_isInLine_0 := by decide +kernel
theorem dksX1_isInLine_1 : cX1_isInLine.data.toList.drop 23 = dktX1_isInLine_1 := dk_seg dksX1_isInLine_0 23 rfl rfl
theorem dksX1_isInLine_2 : cX1_isInLine.data.toList.drop 47 = dktX1_isInLine_2 := dk_seg dksX1_isInLine_1 24 rfl rfl
theorem dksX1_isInLine_3 : cX1_isInLine.data.toList.drop 70 = dktX1_isInLine_3 := dk_seg dksX1_isInLine_2 23 rfl rfl
theorem dX1_isInLine_0 : decode cX1_isInLine 0 = .ok (.aload_n 0, 1) := dk_42 (dk_at dksX1_isInLine_0 0 rfl rfl)
theorem dX1_isInLine_1 : decode cX1_isInLine 1 = .ok (.getfield 124, 3) := dk_180 0 124 (dk_at dksX1_isInLine_0 1 rfl rfl)
theorem dX1_isInLine_4 : decode cX1_isInLine 4 = .ok (.getfield 280, 3) := dk_180 1 24 (dk_at dksX1_isInLine_0 4 rfl rfl)
theorem dX1_isInLine_7 : decode cX1_isInLine 7 = .ok (.iload_n 2, 1) := dk_28 (dk_at dksX1_isInLine_0 7 rfl rfl)
theorem dX1_isInLine_8 : decode cX1_isInLine 8 = .ok (.iaload, 1) := dk_46 (dk_at dksX1_isInLine_0 8 rfl rfl)
theorem dX1_isInLine_9 : decode cX1_isInLine 9 = .ok (.aload_n 0, 1) := dk_42 (dk_at dksX1_isInLine_0 9 rfl rfl)
theorem dX1_isInLine_10 : decode cX1_isInLine 10 = .ok (.getfield 124, 3) := dk_180 0 124 (dk_at dksX1_isInLine_0 10 rfl rfl)
theorem dX1_isInLine_13 : decode cX1_isInLine 13 = .ok (.getfield 280, 3) := dk_180 1 24 (dk_at dksX1_isInLine_0 13 rfl rfl)
theorem dX1_isInLine_16 : decode cX1_isInLine 16 = .ok (.iload_n 1, 1) := dk_27 (dk_at dksX1_isInLine_0 16 rfl rfl)
theorem dX1_isInLine_17 : decode cX1_isInLine 17 = .ok (.iaload, 1) := dk_46 (dk_at dksX1_isInLine_0 17 rfl rfl)
theorem dX1_isInLine_18 : decode cX1_isInLine 18 = .ok (.isub, 1) := dk_100 (dk_at dksX1_isInLine_0 18 rfl rfl)
theorem dX1_isInLine_19 : decode cX1_isInLine 19 = .ok (.aload_n 0, 1) := dk_42 (dk_at dksX1_isInLine_0 19 rfl rfl)
theorem dX1_isInLine_20 : decode cX1_isInLine 20 = .ok (.getfield 124, 3) := dk_180 0 124 (dk_at dksX1_isInLine_0 20 rfl rfl)
theorem dX1_isInLine_23 : decode cX1_isInLine 23 = .ok (.getfield 283, 3) := dk_180 1 27 (dk_at dksX1_isInLine_1 0 rfl rfl)
theorem dX1_isInLine_26 : decode cX1_isInLine 26 = .ok (.iload_n 2, 1) := dk_28 (dk_at dksX1_isInLine_1 3 rfl rfl)
theorem dX1_isInLine_27 : decode cX1_isInLine 27 = .ok (.iaload, 1) := dk_46 (dk_at dksX1_isInLine_1 4 rfl rfl)
theorem dX1_isInLine_28 : decode cX1_isInLine 28 = .ok (.aload_n 0, 1) := dk_42 (dk_at dksX1_isInLine_1 5 rfl rfl)
theorem dX1_isInLine_29 : decode cX1_isInLine 29 = .ok (.getfield 124, 3) := dk_180 0 124 (dk_at dksX1_isInLine_1 6 rfl rfl)
theorem dX1_isInLine_32 : decode cX1_isInLine 32 = .ok (.getfield 283, 3) := dk_180 1 27 (dk_at dksX1_isInLine_1 9 rfl rfl)
theorem dX1_isInLine_35 : decode cX1_isInLine 35 = .ok (.iload_n 1, 1) := dk_27 (dk_at dksX1_isInLine_1 12 rfl rfl)
theorem dX1_isInLine_36 : decode cX1_isInLine 36 = .ok (.iaload, 1) := dk_46 (dk_at dksX1_isInLine_1 13 rfl rfl)
theorem dX1_isInLine_37 : decode cX1_isInLine 37 = .ok (.isub, 1) := dk_100 (dk_at dksX1_isInLine_1 14 rfl rfl)
theorem dX1_isInLine_38 : decode cX1_isInLine 38 = .ok (.aload_n 0, 1) := dk_42 (dk_at dksX1_isInLine_1 15 rfl rfl)
theorem dX1_isInLine_39 : decode cX1_isInLine 39 = .ok (.getfield 124, 3) := dk_180 0 124 (dk_at dksX1_isInLine_1 16 rfl rfl)
theorem dX1_isInLine_42 : decode cX1_isInLine 42 = .ok (.getfield 280, 3) := dk_180 1 24 (dk_at dksX1_isInLine_1 19 rfl rfl)
theorem dX1_isInLine_45 : decode cX1_isInLine 45 = .ok (.iload_n 3, 1) := dk_29 (dk_at dksX1_isInLine_1 22 rfl rfl)
theorem dX1_isInLine_46 : decode cX1_isInLine 46 = .ok (.iaload, 1) := dk_46 (dk_at dksX1_isInLine_1 23 rfl rfl)
theorem dX1_isInLine_47 : decode cX1_isInLine 47 = .ok (.aload_n 0, 1) := dk_42 (dk_at dksX1_isInLine_2 0 rfl rfl)
theorem dX1_isInLine_48 : decode cX1_isInLine 48 = .ok (.getfield 124, 3) := dk_180 0 124 (dk_at dksX1_isInLine_2 1 rfl rfl)
theorem dX1_isInLine_51 : decode cX1_isInLine 51 = .ok (.getfield 280, 3) := dk_180 1 24 (dk_at dksX1_isInLine_2 4 rfl rfl)
theorem dX1_isInLine_54 : decode cX1_isInLine 54 = .ok (.iload_n 1, 1) := dk_27 (dk_at dksX1_isInLine_2 7 rfl rfl)
theorem dX1_isInLine_55 : decode cX1_isInLine 55 = .ok (.iaload, 1) := dk_46 (dk_at dksX1_isInLine_2 8 rfl rfl)
theorem dX1_isInLine_56 : decode cX1_isInLine 56 = .ok (.isub, 1) := dk_100 (dk_at dksX1_isInLine_2 9 rfl rfl)
theorem dX1_isInLine_57 : decode cX1_isInLine 57 = .ok (.aload_n 0, 1) := dk_42 (dk_at dksX1_isInLine_2 10 rfl rfl)
theorem dX1_isInLine_58 : decode cX1_isInLine 58 = .ok (.getfield 124, 3) := dk_180 0 124 (dk_at dksX1_isInLine_2 11 rfl rfl)
theorem dX1_isInLine_61 : decode cX1_isInLine 61 = .ok (.getfield 283, 3) := dk_180 1 27 (dk_at dksX1_isInLine_2 14 rfl rfl)
theorem dX1_isInLine_64 : decode cX1_isInLine 64 = .ok (.iload_n 3, 1) := dk_29 (dk_at dksX1_isInLine_2 17 rfl rfl)
theorem dX1_isInLine_65 : decode cX1_isInLine 65 = .ok (.iaload, 1) := dk_46 (dk_at dksX1_isInLine_2 18 rfl rfl)
theorem dX1_isInLine_66 : decode cX1_isInLine 66 = .ok (.aload_n 0, 1) := dk_42 (dk_at dksX1_isInLine_2 19 rfl rfl)
theorem dX1_isInLine_67 : decode cX1_isInLine 67 = .ok (.getfield 124, 3) := dk_180 0 124 (dk_at dksX1_isInLine_2 20 rfl rfl)
theorem dX1_isInLine_70 : decode cX1_isInLine 70 = .ok (.getfield 283, 3) := dk_180 1 27 (dk_at dksX1_isInLine_3 0 rfl rfl)
theorem dX1_isInLine_73 : decode cX1_isInLine 73 = .ok (.iload_n 1, 1) := dk_27 (dk_at dksX1_isInLine_3 3 rfl rfl)
theorem dX1_isInLine_74 : decode cX1_isInLine 74 = .ok (.iaload, 1) := dk_46 (dk_at dksX1_isInLine_3 4 rfl rfl)
theorem dX1_isInLine_75 : decode cX1_isInLine 75 = .ok (.isub, 1) := dk_100 (dk_at dksX1_isInLine_3 5 rfl rfl)
theorem dX1_isInLine_76 : decode cX1_isInLine 76 = .ok (.invokestatic 286, 3) := dk_184 1 30 (dk_at dksX1_isInLine_3 6 rfl rfl)
theorem dX1_isInLine_79 : decode cX1_isInLine 79 = .ok (.ifCond .ne 7, 3) := dk_154 0 7 (dk_at dksX1_isInLine_3 9 rfl rfl)
theorem dX1_isInLine_82 : decode cX1_isInLine 82 = .ok (.iconst 1, 1) := dk_4 (dk_at dksX1_isInLine_3 12 rfl rfl)
theorem dX1_isInLine_83 : decode cX1_isInLine 83 = .ok (.goto 4, 3) := dk_167 0 4 (dk_at dksX1_isInLine_3 13 rfl rfl)
theorem dX1_isInLine_86 : decode cX1_isInLine 86 = .ok (.iconst 0, 1) := dk_3 (dk_at dksX1_isInLine_3 16 rfl rfl)
theorem dX1_isInLine_87 : decode cX1_isInLine 87 = .ok (.ireturn, 1) := dk_172 (dk_at dksX1_isInLine_3 17 rfl rfl)
abbrev cX1_span : ByteArray := prog_1_method_36_code
def yX1_span : MethodName := ⟨RX1, "span", "(IIII)I"⟩
def dkwX1_span_0 : List UInt8 := [26, 29, 104, 28, 27, 104, 100, 172]
abbrev dktX1_span_0 : List UInt8 := dkwX1_span_0 ++ []
theorem dksX1_span_0 : cX1_span.data.toList.drop 0 = dktX1_span_0 := by decide +kernel
theorem dX1_span_0 : decode cX1_span 0 = .ok (.iload_n 0, 1) := dk_26 (dk_at dksX1_span_0 0 rfl rfl)
theorem dX1_span_1 : decode cX1_span 1 = .ok (.iload_n 3, 1) := dk_29 (dk_at dksX1_span_0 1 rfl rfl)
theorem dX1_span_2 : decode cX1_span 2 = .ok (.imul, 1) := dk_104 (dk_at dksX1_span_0 2 rfl rfl)
theorem dX1_span_3 : decode cX1_span 3 = .ok (.iload_n 2, 1) := dk_28 (dk_at dksX1_span_0 3 rfl rfl)
theorem dX1_span_4 : decode cX1_span 4 = .ok (.iload_n 1, 1) := dk_27 (dk_at dksX1_span_0 4 rfl rfl)
theorem dX1_span_5 : decode cX1_span 5 = .ok (.imul, 1) := dk_104 (dk_at dksX1_span_0 5 rfl rfl)
theorem dX1_span_6 : decode cX1_span 6 = .ok (.isub, 1) := dk_100 (dk_at dksX1_span_0 6 rfl rfl)
theorem dX1_span_7 : decode cX1_span 7 = .ok (.ireturn, 1) := dk_172 (dk_at dksX1_span_0 7 rfl rfl)
abbrev cX1_strays : ByteArray := prog_1_method_41_code
def yX1_strays : MethodName := ⟨RX1, "strays", "()I"⟩
def dkwX1_strays_3 : List UInt8 := [167, 255, 210, 132, 3, 1, 167, 255, 196, 132, 2, 1, 167, 255, 177, 27, 172]
abbrev dktX1_strays_3 : List UInt8 := dkwX1_strays_3 ++ []
def dkwX1_strays_2 : List UInt8 := [182, 0, 228, 2, 160, 0, 17, 42, 28, 29, 21, 4, 182, 1, 37, 153, 0, 6, 132, 1, 1, 132, 4, 1]
abbrev dktX1_strays_2 : List UInt8 := dkwX1_strays_2 ++ dktX1_strays_3
def dkwX1_strays_1 : List UInt8 := [54, 4, 21, 4, 29, 162, 0, 46, 42, 180, 0, 124, 4, 28, 120, 4, 29, 120, 128, 4, 21, 4, 120, 128]
abbrev dktX1_strays_1 : List UInt8 := dkwX1_strays_1 ++ dktX1_strays_2
def dkwX1_strays_0 : List UInt8 := [3, 60, 3, 61, 28, 42, 180, 0, 124, 180, 0, 1, 162, 0, 74, 3, 62, 29, 28, 162, 0, 61, 3]
abbrev dktX1_strays_0 : List UInt8 := dkwX1_strays_0 ++ dktX1_strays_1
theorem dksX1_strays_0 : cX1_strays.data.toList.drop 0 = dktX1_strays_0 := by decide +kernel
theorem dksX1_strays_1 : cX1_strays.data.toList.drop 23 = dktX1_strays_1 := dk_seg dksX1_strays_0 23 rfl rfl
theorem dksX1_strays_2 : cX1_strays.data.toList.drop 47 = dktX1_strays_2 := dk_seg dksX1_strays_1 24 rfl rfl
theorem dksX1_strays_3 : cX1_strays.data.toList.drop 71 = dktX1_strays_3 := dk_seg dksX1_strays_2 24 rfl rfl
theorem dX1_strays_0 : decode cX1_strays 0 = .ok (.iconst 0, 1) := dk_3 (dk_at dksX1_strays_0 0 rfl rfl)
theorem dX1_strays_1 : decode cX1_strays 1 = .ok (.istore_n 1, 1) := dk_60 (dk_at dksX1_strays_0 1 rfl rfl)
theorem dX1_strays_2 : decode cX1_strays 2 = .ok (.iconst 0, 1) := dk_3 (dk_at dksX1_strays_0 2 rfl rfl)
theorem dX1_strays_3 : decode cX1_strays 3 = .ok (.istore_n 2, 1) := dk_61 (dk_at dksX1_strays_0 3 rfl rfl)
theorem dX1_strays_4 : decode cX1_strays 4 = .ok (.iload_n 2, 1) := dk_28 (dk_at dksX1_strays_0 4 rfl rfl)
theorem dX1_strays_5 : decode cX1_strays 5 = .ok (.aload_n 0, 1) := dk_42 (dk_at dksX1_strays_0 5 rfl rfl)
theorem dX1_strays_6 : decode cX1_strays 6 = .ok (.getfield 124, 3) := dk_180 0 124 (dk_at dksX1_strays_0 6 rfl rfl)
theorem dX1_strays_9 : decode cX1_strays 9 = .ok (.getfield 1, 3) := dk_180 0 1 (dk_at dksX1_strays_0 9 rfl rfl)
theorem dX1_strays_12 : decode cX1_strays 12 = .ok (.if_icmp .ge 74, 3) := dk_162 0 74 (dk_at dksX1_strays_0 12 rfl rfl)
theorem dX1_strays_15 : decode cX1_strays 15 = .ok (.iconst 0, 1) := dk_3 (dk_at dksX1_strays_0 15 rfl rfl)
theorem dX1_strays_16 : decode cX1_strays 16 = .ok (.istore_n 3, 1) := dk_62 (dk_at dksX1_strays_0 16 rfl rfl)
theorem dX1_strays_17 : decode cX1_strays 17 = .ok (.iload_n 3, 1) := dk_29 (dk_at dksX1_strays_0 17 rfl rfl)
theorem dX1_strays_18 : decode cX1_strays 18 = .ok (.iload_n 2, 1) := dk_28 (dk_at dksX1_strays_0 18 rfl rfl)
theorem dX1_strays_19 : decode cX1_strays 19 = .ok (.if_icmp .ge 61, 3) := dk_162 0 61 (dk_at dksX1_strays_0 19 rfl rfl)
theorem dX1_strays_22 : decode cX1_strays 22 = .ok (.iconst 0, 1) := dk_3 (dk_at dksX1_strays_0 22 rfl rfl)
theorem dX1_strays_23 : decode cX1_strays 23 = .ok (.istore 4, 2) := dk_54 4 (dk_at dksX1_strays_1 0 rfl rfl)
theorem dX1_strays_25 : decode cX1_strays 25 = .ok (.iload 4, 2) := dk_21 4 (dk_at dksX1_strays_1 2 rfl rfl)
theorem dX1_strays_27 : decode cX1_strays 27 = .ok (.iload_n 3, 1) := dk_29 (dk_at dksX1_strays_1 4 rfl rfl)
theorem dX1_strays_28 : decode cX1_strays 28 = .ok (.if_icmp .ge 46, 3) := dk_162 0 46 (dk_at dksX1_strays_1 5 rfl rfl)
theorem dX1_strays_31 : decode cX1_strays 31 = .ok (.aload_n 0, 1) := dk_42 (dk_at dksX1_strays_1 8 rfl rfl)
theorem dX1_strays_32 : decode cX1_strays 32 = .ok (.getfield 124, 3) := dk_180 0 124 (dk_at dksX1_strays_1 9 rfl rfl)
theorem dX1_strays_35 : decode cX1_strays 35 = .ok (.iconst 1, 1) := dk_4 (dk_at dksX1_strays_1 12 rfl rfl)
theorem dX1_strays_36 : decode cX1_strays 36 = .ok (.iload_n 2, 1) := dk_28 (dk_at dksX1_strays_1 13 rfl rfl)
theorem dX1_strays_37 : decode cX1_strays 37 = .ok (.ishl, 1) := dk_120 (dk_at dksX1_strays_1 14 rfl rfl)
theorem dX1_strays_38 : decode cX1_strays 38 = .ok (.iconst 1, 1) := dk_4 (dk_at dksX1_strays_1 15 rfl rfl)
theorem dX1_strays_39 : decode cX1_strays 39 = .ok (.iload_n 3, 1) := dk_29 (dk_at dksX1_strays_1 16 rfl rfl)
theorem dX1_strays_40 : decode cX1_strays 40 = .ok (.ishl, 1) := dk_120 (dk_at dksX1_strays_1 17 rfl rfl)
theorem dX1_strays_41 : decode cX1_strays 41 = .ok (.ior, 1) := dk_128 (dk_at dksX1_strays_1 18 rfl rfl)
theorem dX1_strays_42 : decode cX1_strays 42 = .ok (.iconst 1, 1) := dk_4 (dk_at dksX1_strays_1 19 rfl rfl)
theorem dX1_strays_43 : decode cX1_strays 43 = .ok (.iload 4, 2) := dk_21 4 (dk_at dksX1_strays_1 20 rfl rfl)
theorem dX1_strays_45 : decode cX1_strays 45 = .ok (.ishl, 1) := dk_120 (dk_at dksX1_strays_1 22 rfl rfl)
theorem dX1_strays_46 : decode cX1_strays 46 = .ok (.ior, 1) := dk_128 (dk_at dksX1_strays_1 23 rfl rfl)
theorem dX1_strays_47 : decode cX1_strays 47 = .ok (.invokevirtual 228, 3) := dk_182 0 228 (dk_at dksX1_strays_2 0 rfl rfl)
theorem dX1_strays_50 : decode cX1_strays 50 = .ok (.iconst (-1), 1) := dk_2 (dk_at dksX1_strays_2 3 rfl rfl)
theorem dX1_strays_51 : decode cX1_strays 51 = .ok (.if_icmp .ne 17, 3) := dk_160 0 17 (dk_at dksX1_strays_2 4 rfl rfl)
theorem dX1_strays_54 : decode cX1_strays 54 = .ok (.aload_n 0, 1) := dk_42 (dk_at dksX1_strays_2 7 rfl rfl)
theorem dX1_strays_55 : decode cX1_strays 55 = .ok (.iload_n 2, 1) := dk_28 (dk_at dksX1_strays_2 8 rfl rfl)
theorem dX1_strays_56 : decode cX1_strays 56 = .ok (.iload_n 3, 1) := dk_29 (dk_at dksX1_strays_2 9 rfl rfl)
theorem dX1_strays_57 : decode cX1_strays 57 = .ok (.iload 4, 2) := dk_21 4 (dk_at dksX1_strays_2 10 rfl rfl)
theorem dX1_strays_59 : decode cX1_strays 59 = .ok (.invokevirtual 293, 3) := dk_182 1 37 (dk_at dksX1_strays_2 12 rfl rfl)
theorem dX1_strays_62 : decode cX1_strays 62 = .ok (.ifCond .eq 6, 3) := dk_153 0 6 (dk_at dksX1_strays_2 15 rfl rfl)
theorem dX1_strays_65 : decode cX1_strays 65 = .ok (.iinc 1 1, 3) := dk_132 1 1 (dk_at dksX1_strays_2 18 rfl rfl)
theorem dX1_strays_68 : decode cX1_strays 68 = .ok (.iinc 4 1, 3) := dk_132 4 1 (dk_at dksX1_strays_2 21 rfl rfl)
theorem dX1_strays_71 : decode cX1_strays 71 = .ok (.goto (-46), 3) := dk_167 255 210 (dk_at dksX1_strays_3 0 rfl rfl)
theorem dX1_strays_74 : decode cX1_strays 74 = .ok (.iinc 3 1, 3) := dk_132 3 1 (dk_at dksX1_strays_3 3 rfl rfl)
theorem dX1_strays_77 : decode cX1_strays 77 = .ok (.goto (-60), 3) := dk_167 255 196 (dk_at dksX1_strays_3 6 rfl rfl)
theorem dX1_strays_80 : decode cX1_strays 80 = .ok (.iinc 2 1, 3) := dk_132 2 1 (dk_at dksX1_strays_3 9 rfl rfl)
theorem dX1_strays_83 : decode cX1_strays 83 = .ok (.goto (-79), 3) := dk_167 255 177 (dk_at dksX1_strays_3 12 rfl rfl)
theorem dX1_strays_86 : decode cX1_strays 86 = .ok (.iload_n 1, 1) := dk_27 (dk_at dksX1_strays_3 15 rfl rfl)
theorem dX1_strays_87 : decode cX1_strays 87 = .ok (.ireturn, 1) := dk_172 (dk_at dksX1_strays_3 16 rfl rfl)
abbrev cX1_girth : ByteArray := prog_1_method_43_code
def yX1_girth : MethodName := ⟨RX1, "girth", "()I"⟩
def dkwX1_girth_2 : List UInt8 := [167, 0, 7, 42, 180, 1, 43, 172]
abbrev dktX1_girth_2 : List UInt8 := dkwX1_girth_2 ++ []
def dkwX1_girth_1 : List UInt8 := [27, 120, 3, 4, 182, 1, 52, 132, 1, 1, 167, 255, 231, 42, 180, 1, 43, 17, 3, 231, 160, 0, 7, 2]
abbrev dktX1_girth_1 : List UInt8 := dkwX1_girth_1 ++ dktX1_girth_2
def dkwX1_girth_0 : List UInt8 := [42, 17, 3, 231, 181, 1, 43, 3, 60, 27, 42, 180, 0, 124, 180, 0, 7, 162, 0, 20, 42, 27, 27, 4]
abbrev dktX1_girth_0 : List UInt8 := dkwX1_girth_0 ++ dktX1_girth_1
theorem dksX1_girth_0 : cX1_girth.data.toList.drop 0 = dktX1_girth_0 := by decide +kernel
theorem dksX1_girth_1 : cX1_girth.data.toList.drop 24 = dktX1_girth_1 := dk_seg dksX1_girth_0 24 rfl rfl
theorem dksX1_girth_2 : cX1_girth.data.toList.drop 48 = dktX1_girth_2 := dk_seg dksX1_girth_1 24 rfl rfl
theorem dX1_girth_0 : decode cX1_girth 0 = .ok (.aload_n 0, 1) := dk_42 (dk_at dksX1_girth_0 0 rfl rfl)
theorem dX1_girth_1 : decode cX1_girth 1 = .ok (.sipush 999, 3) := dk_17 3 231 (dk_at dksX1_girth_0 1 rfl rfl)
theorem dX1_girth_4 : decode cX1_girth 4 = .ok (.putfield 299, 3) := dk_181 1 43 (dk_at dksX1_girth_0 4 rfl rfl)
theorem dX1_girth_7 : decode cX1_girth 7 = .ok (.iconst 0, 1) := dk_3 (dk_at dksX1_girth_0 7 rfl rfl)
theorem dX1_girth_8 : decode cX1_girth 8 = .ok (.istore_n 1, 1) := dk_60 (dk_at dksX1_girth_0 8 rfl rfl)
theorem dX1_girth_9 : decode cX1_girth 9 = .ok (.iload_n 1, 1) := dk_27 (dk_at dksX1_girth_0 9 rfl rfl)
theorem dX1_girth_10 : decode cX1_girth 10 = .ok (.aload_n 0, 1) := dk_42 (dk_at dksX1_girth_0 10 rfl rfl)
theorem dX1_girth_11 : decode cX1_girth 11 = .ok (.getfield 124, 3) := dk_180 0 124 (dk_at dksX1_girth_0 11 rfl rfl)
theorem dX1_girth_14 : decode cX1_girth 14 = .ok (.getfield 7, 3) := dk_180 0 7 (dk_at dksX1_girth_0 14 rfl rfl)
theorem dX1_girth_17 : decode cX1_girth 17 = .ok (.if_icmp .ge 20, 3) := dk_162 0 20 (dk_at dksX1_girth_0 17 rfl rfl)
theorem dX1_girth_20 : decode cX1_girth 20 = .ok (.aload_n 0, 1) := dk_42 (dk_at dksX1_girth_0 20 rfl rfl)
theorem dX1_girth_21 : decode cX1_girth 21 = .ok (.iload_n 1, 1) := dk_27 (dk_at dksX1_girth_0 21 rfl rfl)
theorem dX1_girth_22 : decode cX1_girth 22 = .ok (.iload_n 1, 1) := dk_27 (dk_at dksX1_girth_0 22 rfl rfl)
theorem dX1_girth_23 : decode cX1_girth 23 = .ok (.iconst 1, 1) := dk_4 (dk_at dksX1_girth_0 23 rfl rfl)
theorem dX1_girth_24 : decode cX1_girth 24 = .ok (.iload_n 1, 1) := dk_27 (dk_at dksX1_girth_1 0 rfl rfl)
theorem dX1_girth_25 : decode cX1_girth 25 = .ok (.ishl, 1) := dk_120 (dk_at dksX1_girth_1 1 rfl rfl)
theorem dX1_girth_26 : decode cX1_girth 26 = .ok (.iconst 0, 1) := dk_3 (dk_at dksX1_girth_1 2 rfl rfl)
theorem dX1_girth_27 : decode cX1_girth 27 = .ok (.iconst 1, 1) := dk_4 (dk_at dksX1_girth_1 3 rfl rfl)
theorem dX1_girth_28 : decode cX1_girth 28 = .ok (.invokevirtual 308, 3) := dk_182 1 52 (dk_at dksX1_girth_1 4 rfl rfl)
theorem dX1_girth_31 : decode cX1_girth 31 = .ok (.iinc 1 1, 3) := dk_132 1 1 (dk_at dksX1_girth_1 7 rfl rfl)
theorem dX1_girth_34 : decode cX1_girth 34 = .ok (.goto (-25), 3) := dk_167 255 231 (dk_at dksX1_girth_1 10 rfl rfl)
theorem dX1_girth_37 : decode cX1_girth 37 = .ok (.aload_n 0, 1) := dk_42 (dk_at dksX1_girth_1 13 rfl rfl)
theorem dX1_girth_38 : decode cX1_girth 38 = .ok (.getfield 299, 3) := dk_180 1 43 (dk_at dksX1_girth_1 14 rfl rfl)
theorem dX1_girth_41 : decode cX1_girth 41 = .ok (.sipush 999, 3) := dk_17 3 231 (dk_at dksX1_girth_1 17 rfl rfl)
theorem dX1_girth_44 : decode cX1_girth 44 = .ok (.if_icmp .ne 7, 3) := dk_160 0 7 (dk_at dksX1_girth_1 20 rfl rfl)
theorem dX1_girth_47 : decode cX1_girth 47 = .ok (.iconst (-1), 1) := dk_2 (dk_at dksX1_girth_1 23 rfl rfl)
theorem dX1_girth_48 : decode cX1_girth 48 = .ok (.goto 7, 3) := dk_167 0 7 (dk_at dksX1_girth_2 0 rfl rfl)
theorem dX1_girth_51 : decode cX1_girth 51 = .ok (.aload_n 0, 1) := dk_42 (dk_at dksX1_girth_2 3 rfl rfl)
theorem dX1_girth_52 : decode cX1_girth 52 = .ok (.getfield 299, 3) := dk_180 1 43 (dk_at dksX1_girth_2 4 rfl rfl)
theorem dX1_girth_55 : decode cX1_girth 55 = .ok (.ireturn, 1) := dk_172 (dk_at dksX1_girth_2 7 rfl rfl)
abbrev cX1_rings : ByteArray := prog_1_method_42_code
def yX1_rings : MethodName := ⟨RX1, "rings", "(IIIII)V"⟩
def dkwX1_rings_6 : List UInt8 := [128, 21, 5, 4, 96, 182, 1, 52, 132, 7, 1, 167, 255, 194, 132, 6, 1, 167, 255, 112, 177]
abbrev dktX1_rings_6 : List UInt8 := dkwX1_rings_6 ++ []
def dkwX1_rings_5 : List UInt8 := [21, 7, 182, 1, 1, 153, 0, 27, 42, 27, 21, 7, 29, 4, 21, 7, 120, 128, 21, 4, 4, 21, 6, 120]
abbrev dktX1_rings_5 : List UInt8 := dkwX1_rings_5 ++ dktX1_rings_6
def dkwX1_rings_4 : List UInt8 := [180, 0, 124, 180, 0, 7, 162, 0, 56, 29, 21, 7, 122, 4, 126, 154, 0, 41, 42, 180, 0, 124, 21, 6]
abbrev dktX1_rings_4 : List UInt8 := dkwX1_rings_4 ++ dktX1_rings_5
def dkwX1_rings_3 : List UInt8 := [153, 0, 16, 42, 42, 180, 1, 43, 21, 5, 184, 1, 46, 181, 1, 43, 27, 4, 96, 54, 7, 21, 7, 42]
abbrev dktX1_rings_3 : List UInt8 := dkwX1_rings_3 ++ dktX1_rings_4
def dkwX1_rings_2 : List UInt8 := [160, 0, 6, 167, 0, 105, 21, 5, 6, 161, 0, 29, 42, 180, 0, 124, 21, 6, 27, 182, 1, 1]
abbrev dktX1_rings_2 : List UInt8 := dkwX1_rings_2 ++ dktX1_rings_3
def dkwX1_rings_1 : List UInt8 := [162, 0, 138, 42, 180, 0, 124, 21, 6, 28, 182, 1, 1, 153, 0, 119, 21, 4, 21, 6, 122, 4, 126, 4]
abbrev dktX1_rings_1 : List UInt8 := dkwX1_rings_1 ++ dktX1_rings_2
def dkwX1_rings_0 : List UInt8 := [21, 5, 42, 180, 1, 43, 161, 0, 4, 177, 3, 54, 6, 21, 6, 42, 180, 0, 124, 180, 0, 1]
abbrev dktX1_rings_0 : List UInt8 := dkwX1_rings_0 ++ dktX1_rings_1
theorem dksX1_rings_0 : cX1_rings.data.toList.drop 0 = dktX1_rings_0 := by decide +kernel
theorem dksX1_rings_1 : cX1_rings.data.toList.drop 22 = dktX1_rings_1 := dk_seg dksX1_rings_0 22 rfl rfl
theorem dksX1_rings_2 : cX1_rings.data.toList.drop 46 = dktX1_rings_2 := dk_seg dksX1_rings_1 24 rfl rfl
theorem dksX1_rings_3 : cX1_rings.data.toList.drop 68 = dktX1_rings_3 := dk_seg dksX1_rings_2 22 rfl rfl
theorem dksX1_rings_4 : cX1_rings.data.toList.drop 92 = dktX1_rings_4 := dk_seg dksX1_rings_3 24 rfl rfl
theorem dksX1_rings_5 : cX1_rings.data.toList.drop 116 = dktX1_rings_5 := dk_seg dksX1_rings_4 24 rfl rfl
theorem dksX1_rings_6 : cX1_rings.data.toList.drop 140 = dktX1_rings_6 := dk_seg dksX1_rings_5 24 rfl rfl
theorem dX1_rings_0 : decode cX1_rings 0 = .ok (.iload 5, 2) := dk_21 5 (dk_at dksX1_rings_0 0 rfl rfl)
theorem dX1_rings_2 : decode cX1_rings 2 = .ok (.aload_n 0, 1) := dk_42 (dk_at dksX1_rings_0 2 rfl rfl)
theorem dX1_rings_3 : decode cX1_rings 3 = .ok (.getfield 299, 3) := dk_180 1 43 (dk_at dksX1_rings_0 3 rfl rfl)
theorem dX1_rings_6 : decode cX1_rings 6 = .ok (.if_icmp .lt 4, 3) := dk_161 0 4 (dk_at dksX1_rings_0 6 rfl rfl)
theorem dX1_rings_9 : decode cX1_rings 9 = .ok (.return_, 1) := dk_177 (dk_at dksX1_rings_0 9 rfl rfl)
theorem dX1_rings_10 : decode cX1_rings 10 = .ok (.iconst 0, 1) := dk_3 (dk_at dksX1_rings_0 10 rfl rfl)
theorem dX1_rings_11 : decode cX1_rings 11 = .ok (.istore 6, 2) := dk_54 6 (dk_at dksX1_rings_0 11 rfl rfl)
theorem dX1_rings_13 : decode cX1_rings 13 = .ok (.iload 6, 2) := dk_21 6 (dk_at dksX1_rings_0 13 rfl rfl)
theorem dX1_rings_15 : decode cX1_rings 15 = .ok (.aload_n 0, 1) := dk_42 (dk_at dksX1_rings_0 15 rfl rfl)
theorem dX1_rings_16 : decode cX1_rings 16 = .ok (.getfield 124, 3) := dk_180 0 124 (dk_at dksX1_rings_0 16 rfl rfl)
theorem dX1_rings_19 : decode cX1_rings 19 = .ok (.getfield 1, 3) := dk_180 0 1 (dk_at dksX1_rings_0 19 rfl rfl)
theorem dX1_rings_22 : decode cX1_rings 22 = .ok (.if_icmp .ge 138, 3) := dk_162 0 138 (dk_at dksX1_rings_1 0 rfl rfl)
theorem dX1_rings_25 : decode cX1_rings 25 = .ok (.aload_n 0, 1) := dk_42 (dk_at dksX1_rings_1 3 rfl rfl)
theorem dX1_rings_26 : decode cX1_rings 26 = .ok (.getfield 124, 3) := dk_180 0 124 (dk_at dksX1_rings_1 4 rfl rfl)
theorem dX1_rings_29 : decode cX1_rings 29 = .ok (.iload 6, 2) := dk_21 6 (dk_at dksX1_rings_1 7 rfl rfl)
theorem dX1_rings_31 : decode cX1_rings 31 = .ok (.iload_n 2, 1) := dk_28 (dk_at dksX1_rings_1 9 rfl rfl)
theorem dX1_rings_32 : decode cX1_rings 32 = .ok (.invokevirtual 257, 3) := dk_182 1 1 (dk_at dksX1_rings_1 10 rfl rfl)
theorem dX1_rings_35 : decode cX1_rings 35 = .ok (.ifCond .eq 119, 3) := dk_153 0 119 (dk_at dksX1_rings_1 13 rfl rfl)
theorem dX1_rings_38 : decode cX1_rings 38 = .ok (.iload 4, 2) := dk_21 4 (dk_at dksX1_rings_1 16 rfl rfl)
theorem dX1_rings_40 : decode cX1_rings 40 = .ok (.iload 6, 2) := dk_21 6 (dk_at dksX1_rings_1 18 rfl rfl)
theorem dX1_rings_42 : decode cX1_rings 42 = .ok (.ishr, 1) := dk_122 (dk_at dksX1_rings_1 20 rfl rfl)
theorem dX1_rings_43 : decode cX1_rings 43 = .ok (.iconst 1, 1) := dk_4 (dk_at dksX1_rings_1 21 rfl rfl)
theorem dX1_rings_44 : decode cX1_rings 44 = .ok (.iand, 1) := dk_126 (dk_at dksX1_rings_1 22 rfl rfl)
theorem dX1_rings_45 : decode cX1_rings 45 = .ok (.iconst 1, 1) := dk_4 (dk_at dksX1_rings_1 23 rfl rfl)
theorem dX1_rings_46 : decode cX1_rings 46 = .ok (.if_icmp .ne 6, 3) := dk_160 0 6 (dk_at dksX1_rings_2 0 rfl rfl)
theorem dX1_rings_49 : decode cX1_rings 49 = .ok (.goto 105, 3) := dk_167 0 105 (dk_at dksX1_rings_2 3 rfl rfl)
theorem dX1_rings_52 : decode cX1_rings 52 = .ok (.iload 5, 2) := dk_21 5 (dk_at dksX1_rings_2 6 rfl rfl)
theorem dX1_rings_54 : decode cX1_rings 54 = .ok (.iconst 3, 1) := dk_6 (dk_at dksX1_rings_2 8 rfl rfl)
theorem dX1_rings_55 : decode cX1_rings 55 = .ok (.if_icmp .lt 29, 3) := dk_161 0 29 (dk_at dksX1_rings_2 9 rfl rfl)
theorem dX1_rings_58 : decode cX1_rings 58 = .ok (.aload_n 0, 1) := dk_42 (dk_at dksX1_rings_2 12 rfl rfl)
theorem dX1_rings_59 : decode cX1_rings 59 = .ok (.getfield 124, 3) := dk_180 0 124 (dk_at dksX1_rings_2 13 rfl rfl)
theorem dX1_rings_62 : decode cX1_rings 62 = .ok (.iload 6, 2) := dk_21 6 (dk_at dksX1_rings_2 16 rfl rfl)
theorem dX1_rings_64 : decode cX1_rings 64 = .ok (.iload_n 1, 1) := dk_27 (dk_at dksX1_rings_2 18 rfl rfl)
theorem dX1_rings_65 : decode cX1_rings 65 = .ok (.invokevirtual 257, 3) := dk_182 1 1 (dk_at dksX1_rings_2 19 rfl rfl)
theorem dX1_rings_68 : decode cX1_rings 68 = .ok (.ifCond .eq 16, 3) := dk_153 0 16 (dk_at dksX1_rings_3 0 rfl rfl)
theorem dX1_rings_71 : decode cX1_rings 71 = .ok (.aload_n 0, 1) := dk_42 (dk_at dksX1_rings_3 3 rfl rfl)
theorem dX1_rings_72 : decode cX1_rings 72 = .ok (.aload_n 0, 1) := dk_42 (dk_at dksX1_rings_3 4 rfl rfl)
theorem dX1_rings_73 : decode cX1_rings 73 = .ok (.getfield 299, 3) := dk_180 1 43 (dk_at dksX1_rings_3 5 rfl rfl)
theorem dX1_rings_76 : decode cX1_rings 76 = .ok (.iload 5, 2) := dk_21 5 (dk_at dksX1_rings_3 8 rfl rfl)
theorem dX1_rings_78 : decode cX1_rings 78 = .ok (.invokestatic 302, 3) := dk_184 1 46 (dk_at dksX1_rings_3 10 rfl rfl)
theorem dX1_rings_81 : decode cX1_rings 81 = .ok (.putfield 299, 3) := dk_181 1 43 (dk_at dksX1_rings_3 13 rfl rfl)
theorem dX1_rings_84 : decode cX1_rings 84 = .ok (.iload_n 1, 1) := dk_27 (dk_at dksX1_rings_3 16 rfl rfl)
theorem dX1_rings_85 : decode cX1_rings 85 = .ok (.iconst 1, 1) := dk_4 (dk_at dksX1_rings_3 17 rfl rfl)
theorem dX1_rings_86 : decode cX1_rings 86 = .ok (.iadd, 1) := dk_96 (dk_at dksX1_rings_3 18 rfl rfl)
theorem dX1_rings_87 : decode cX1_rings 87 = .ok (.istore 7, 2) := dk_54 7 (dk_at dksX1_rings_3 19 rfl rfl)
theorem dX1_rings_89 : decode cX1_rings 89 = .ok (.iload 7, 2) := dk_21 7 (dk_at dksX1_rings_3 21 rfl rfl)
theorem dX1_rings_91 : decode cX1_rings 91 = .ok (.aload_n 0, 1) := dk_42 (dk_at dksX1_rings_3 23 rfl rfl)
theorem dX1_rings_92 : decode cX1_rings 92 = .ok (.getfield 124, 3) := dk_180 0 124 (dk_at dksX1_rings_4 0 rfl rfl)
theorem dX1_rings_95 : decode cX1_rings 95 = .ok (.getfield 7, 3) := dk_180 0 7 (dk_at dksX1_rings_4 3 rfl rfl)
theorem dX1_rings_98 : decode cX1_rings 98 = .ok (.if_icmp .ge 56, 3) := dk_162 0 56 (dk_at dksX1_rings_4 6 rfl rfl)
theorem dX1_rings_101 : decode cX1_rings 101 = .ok (.iload_n 3, 1) := dk_29 (dk_at dksX1_rings_4 9 rfl rfl)
theorem dX1_rings_102 : decode cX1_rings 102 = .ok (.iload 7, 2) := dk_21 7 (dk_at dksX1_rings_4 10 rfl rfl)
theorem dX1_rings_104 : decode cX1_rings 104 = .ok (.ishr, 1) := dk_122 (dk_at dksX1_rings_4 12 rfl rfl)
theorem dX1_rings_105 : decode cX1_rings 105 = .ok (.iconst 1, 1) := dk_4 (dk_at dksX1_rings_4 13 rfl rfl)
theorem dX1_rings_106 : decode cX1_rings 106 = .ok (.iand, 1) := dk_126 (dk_at dksX1_rings_4 14 rfl rfl)
theorem dX1_rings_107 : decode cX1_rings 107 = .ok (.ifCond .ne 41, 3) := dk_154 0 41 (dk_at dksX1_rings_4 15 rfl rfl)
theorem dX1_rings_110 : decode cX1_rings 110 = .ok (.aload_n 0, 1) := dk_42 (dk_at dksX1_rings_4 18 rfl rfl)
theorem dX1_rings_111 : decode cX1_rings 111 = .ok (.getfield 124, 3) := dk_180 0 124 (dk_at dksX1_rings_4 19 rfl rfl)
theorem dX1_rings_114 : decode cX1_rings 114 = .ok (.iload 6, 2) := dk_21 6 (dk_at dksX1_rings_4 22 rfl rfl)
theorem dX1_rings_116 : decode cX1_rings 116 = .ok (.iload 7, 2) := dk_21 7 (dk_at dksX1_rings_5 0 rfl rfl)
theorem dX1_rings_118 : decode cX1_rings 118 = .ok (.invokevirtual 257, 3) := dk_182 1 1 (dk_at dksX1_rings_5 2 rfl rfl)
theorem dX1_rings_121 : decode cX1_rings 121 = .ok (.ifCond .eq 27, 3) := dk_153 0 27 (dk_at dksX1_rings_5 5 rfl rfl)
theorem dX1_rings_124 : decode cX1_rings 124 = .ok (.aload_n 0, 1) := dk_42 (dk_at dksX1_rings_5 8 rfl rfl)
theorem dX1_rings_125 : decode cX1_rings 125 = .ok (.iload_n 1, 1) := dk_27 (dk_at dksX1_rings_5 9 rfl rfl)
theorem dX1_rings_126 : decode cX1_rings 126 = .ok (.iload 7, 2) := dk_21 7 (dk_at dksX1_rings_5 10 rfl rfl)
theorem dX1_rings_128 : decode cX1_rings 128 = .ok (.iload_n 3, 1) := dk_29 (dk_at dksX1_rings_5 12 rfl rfl)
theorem dX1_rings_129 : decode cX1_rings 129 = .ok (.iconst 1, 1) := dk_4 (dk_at dksX1_rings_5 13 rfl rfl)
theorem dX1_rings_130 : decode cX1_rings 130 = .ok (.iload 7, 2) := dk_21 7 (dk_at dksX1_rings_5 14 rfl rfl)
theorem dX1_rings_132 : decode cX1_rings 132 = .ok (.ishl, 1) := dk_120 (dk_at dksX1_rings_5 16 rfl rfl)
theorem dX1_rings_133 : decode cX1_rings 133 = .ok (.ior, 1) := dk_128 (dk_at dksX1_rings_5 17 rfl rfl)
theorem dX1_rings_134 : decode cX1_rings 134 = .ok (.iload 4, 2) := dk_21 4 (dk_at dksX1_rings_5 18 rfl rfl)
theorem dX1_rings_136 : decode cX1_rings 136 = .ok (.iconst 1, 1) := dk_4 (dk_at dksX1_rings_5 20 rfl rfl)
theorem dX1_rings_137 : decode cX1_rings 137 = .ok (.iload 6, 2) := dk_21 6 (dk_at dksX1_rings_5 21 rfl rfl)
theorem dX1_rings_139 : decode cX1_rings 139 = .ok (.ishl, 1) := dk_120 (dk_at dksX1_rings_5 23 rfl rfl)
theorem dX1_rings_140 : decode cX1_rings 140 = .ok (.ior, 1) := dk_128 (dk_at dksX1_rings_6 0 rfl rfl)
theorem dX1_rings_141 : decode cX1_rings 141 = .ok (.iload 5, 2) := dk_21 5 (dk_at dksX1_rings_6 1 rfl rfl)
theorem dX1_rings_143 : decode cX1_rings 143 = .ok (.iconst 1, 1) := dk_4 (dk_at dksX1_rings_6 3 rfl rfl)
theorem dX1_rings_144 : decode cX1_rings 144 = .ok (.iadd, 1) := dk_96 (dk_at dksX1_rings_6 4 rfl rfl)
theorem dX1_rings_145 : decode cX1_rings 145 = .ok (.invokevirtual 308, 3) := dk_182 1 52 (dk_at dksX1_rings_6 5 rfl rfl)
theorem dX1_rings_148 : decode cX1_rings 148 = .ok (.iinc 7 1, 3) := dk_132 7 1 (dk_at dksX1_rings_6 8 rfl rfl)
theorem dX1_rings_151 : decode cX1_rings 151 = .ok (.goto (-62), 3) := dk_167 255 194 (dk_at dksX1_rings_6 11 rfl rfl)
theorem dX1_rings_154 : decode cX1_rings 154 = .ok (.iinc 6 1, 3) := dk_132 6 1 (dk_at dksX1_rings_6 14 rfl rfl)
theorem dX1_rings_157 : decode cX1_rings 157 = .ok (.goto (-144), 3) := dk_167 255 112 (dk_at dksX1_rings_6 17 rfl rfl)
theorem dX1_rings_160 : decode cX1_rings 160 = .ok (.return_, 1) := dk_177 (dk_at dksX1_rings_6 20 rfl rfl)
abbrev cX1_fours : ByteArray := prog_1_method_24_code
def yX1_fours : MethodName := ⟨RX1, "fours", "()I"⟩
def dkwX1_fours_1 : List UInt8 := [160, 0, 14, 42, 28, 182, 0, 231, 153, 0, 6, 132, 1, 1, 132, 2, 1, 167, 255, 221, 27, 172]
abbrev dktX1_fours_1 : List UInt8 := dkwX1_fours_1 ++ []
def dkwX1_fours_0 : List UInt8 := [3, 60, 3, 61, 28, 4, 42, 180, 0, 124, 180, 0, 7, 120, 162, 0, 28, 28, 184, 0, 70, 7]
abbrev dktX1_fours_0 : List UInt8 := dkwX1_fours_0 ++ dktX1_fours_1
theorem dksX1_fours_0 : cX1_fours.data.toList.drop 0 = dktX1_fours_0 := by decide +kernel
theorem dksX1_fours_1 : cX1_fours.data.toList.drop 22 = dktX1_fours_1 := dk_seg dksX1_fours_0 22 rfl rfl
theorem dX1_fours_0 : decode cX1_fours 0 = .ok (.iconst 0, 1) := dk_3 (dk_at dksX1_fours_0 0 rfl rfl)
theorem dX1_fours_1 : decode cX1_fours 1 = .ok (.istore_n 1, 1) := dk_60 (dk_at dksX1_fours_0 1 rfl rfl)
theorem dX1_fours_2 : decode cX1_fours 2 = .ok (.iconst 0, 1) := dk_3 (dk_at dksX1_fours_0 2 rfl rfl)
theorem dX1_fours_3 : decode cX1_fours 3 = .ok (.istore_n 2, 1) := dk_61 (dk_at dksX1_fours_0 3 rfl rfl)
theorem dX1_fours_4 : decode cX1_fours 4 = .ok (.iload_n 2, 1) := dk_28 (dk_at dksX1_fours_0 4 rfl rfl)
theorem dX1_fours_5 : decode cX1_fours 5 = .ok (.iconst 1, 1) := dk_4 (dk_at dksX1_fours_0 5 rfl rfl)
theorem dX1_fours_6 : decode cX1_fours 6 = .ok (.aload_n 0, 1) := dk_42 (dk_at dksX1_fours_0 6 rfl rfl)
theorem dX1_fours_7 : decode cX1_fours 7 = .ok (.getfield 124, 3) := dk_180 0 124 (dk_at dksX1_fours_0 7 rfl rfl)
theorem dX1_fours_10 : decode cX1_fours 10 = .ok (.getfield 7, 3) := dk_180 0 7 (dk_at dksX1_fours_0 10 rfl rfl)
theorem dX1_fours_13 : decode cX1_fours 13 = .ok (.ishl, 1) := dk_120 (dk_at dksX1_fours_0 13 rfl rfl)
theorem dX1_fours_14 : decode cX1_fours 14 = .ok (.if_icmp .ge 28, 3) := dk_162 0 28 (dk_at dksX1_fours_0 14 rfl rfl)
theorem dX1_fours_17 : decode cX1_fours 17 = .ok (.iload_n 2, 1) := dk_28 (dk_at dksX1_fours_0 17 rfl rfl)
theorem dX1_fours_18 : decode cX1_fours 18 = .ok (.invokestatic 70, 3) := dk_184 0 70 (dk_at dksX1_fours_0 18 rfl rfl)
theorem dX1_fours_21 : decode cX1_fours 21 = .ok (.iconst 4, 1) := dk_7 (dk_at dksX1_fours_0 21 rfl rfl)
theorem dX1_fours_22 : decode cX1_fours 22 = .ok (.if_icmp .ne 14, 3) := dk_160 0 14 (dk_at dksX1_fours_1 0 rfl rfl)
theorem dX1_fours_25 : decode cX1_fours 25 = .ok (.aload_n 0, 1) := dk_42 (dk_at dksX1_fours_1 3 rfl rfl)
theorem dX1_fours_26 : decode cX1_fours 26 = .ok (.iload_n 2, 1) := dk_28 (dk_at dksX1_fours_1 4 rfl rfl)
theorem dX1_fours_27 : decode cX1_fours 27 = .ok (.invokevirtual 231, 3) := dk_182 0 231 (dk_at dksX1_fours_1 5 rfl rfl)
theorem dX1_fours_30 : decode cX1_fours 30 = .ok (.ifCond .eq 6, 3) := dk_153 0 6 (dk_at dksX1_fours_1 8 rfl rfl)
theorem dX1_fours_33 : decode cX1_fours 33 = .ok (.iinc 1 1, 3) := dk_132 1 1 (dk_at dksX1_fours_1 11 rfl rfl)
theorem dX1_fours_36 : decode cX1_fours 36 = .ok (.iinc 2 1, 3) := dk_132 2 1 (dk_at dksX1_fours_1 14 rfl rfl)
theorem dX1_fours_39 : decode cX1_fours 39 = .ok (.goto (-35), 3) := dk_167 255 221 (dk_at dksX1_fours_1 17 rfl rfl)
theorem dX1_fours_42 : decode cX1_fours 42 = .ok (.iload_n 1, 1) := dk_27 (dk_at dksX1_fours_1 20 rfl rfl)
theorem dX1_fours_43 : decode cX1_fours 43 = .ok (.ireturn, 1) := dk_172 (dk_at dksX1_fours_1 21 rfl rfl)
abbrev cX1_areAround : ByteArray := prog_1_method_23_code
def yX1_areAround : MethodName := ⟨RX1, "areAround", "(I)Z"⟩
def dkwX1_areAround_4 : List UInt8 := [167, 255, 166, 4, 172]
abbrev dktX1_areAround_4 : List UInt8 := dkwX1_areAround_4 ++ []
def dkwX1_areAround_3 : List UInt8 := [21, 5, 126, 153, 0, 5, 3, 172, 28, 21, 5, 128, 61, 132, 4, 1, 167, 255, 186, 132, 3, 1]
abbrev dktX1_areAround_3 : List UInt8 := dkwX1_areAround_3 ++ dktX1_areAround_4
def dkwX1_areAround_2 : List UInt8 := [180, 0, 37, 29, 46, 42, 180, 0, 124, 180, 0, 37, 21, 4, 46, 126, 54, 5, 21, 5, 153, 0, 10, 28]
abbrev dktX1_areAround_2 : List UInt8 := dkwX1_areAround_2 ++ dktX1_areAround_3
def dkwX1_areAround_1 : List UInt8 := [27, 29, 122, 4, 126, 153, 0, 56, 27, 21, 4, 122, 4, 126, 154, 0, 6, 167, 0, 44, 42, 180, 0, 124]
abbrev dktX1_areAround_1 : List UInt8 := dkwX1_areAround_1 ++ dktX1_areAround_2
def dkwX1_areAround_0 : List UInt8 := [3, 61, 3, 62, 29, 42, 180, 0, 124, 180, 0, 7, 162, 0, 85, 3, 54, 4, 21, 4, 29, 162, 0, 70]
abbrev dktX1_areAround_0 : List UInt8 := dkwX1_areAround_0 ++ dktX1_areAround_1
theorem dksX1_areAround_0 : cX1_areAround.data.toList.drop 0 = dktX1_areAround_0 := by decide +kernel
theorem dksX1_areAround_1 : cX1_areAround.data.toList.drop 24 = dktX1_areAround_1 := dk_seg dksX1_areAround_0 24 rfl rfl
theorem dksX1_areAround_2 : cX1_areAround.data.toList.drop 48 = dktX1_areAround_2 := dk_seg dksX1_areAround_1 24 rfl rfl
theorem dksX1_areAround_3 : cX1_areAround.data.toList.drop 72 = dktX1_areAround_3 := dk_seg dksX1_areAround_2 24 rfl rfl
theorem dksX1_areAround_4 : cX1_areAround.data.toList.drop 94 = dktX1_areAround_4 := dk_seg dksX1_areAround_3 22 rfl rfl
theorem dX1_areAround_0 : decode cX1_areAround 0 = .ok (.iconst 0, 1) := dk_3 (dk_at dksX1_areAround_0 0 rfl rfl)
theorem dX1_areAround_1 : decode cX1_areAround 1 = .ok (.istore_n 2, 1) := dk_61 (dk_at dksX1_areAround_0 1 rfl rfl)
theorem dX1_areAround_2 : decode cX1_areAround 2 = .ok (.iconst 0, 1) := dk_3 (dk_at dksX1_areAround_0 2 rfl rfl)
theorem dX1_areAround_3 : decode cX1_areAround 3 = .ok (.istore_n 3, 1) := dk_62 (dk_at dksX1_areAround_0 3 rfl rfl)
theorem dX1_areAround_4 : decode cX1_areAround 4 = .ok (.iload_n 3, 1) := dk_29 (dk_at dksX1_areAround_0 4 rfl rfl)
theorem dX1_areAround_5 : decode cX1_areAround 5 = .ok (.aload_n 0, 1) := dk_42 (dk_at dksX1_areAround_0 5 rfl rfl)
theorem dX1_areAround_6 : decode cX1_areAround 6 = .ok (.getfield 124, 3) := dk_180 0 124 (dk_at dksX1_areAround_0 6 rfl rfl)
theorem dX1_areAround_9 : decode cX1_areAround 9 = .ok (.getfield 7, 3) := dk_180 0 7 (dk_at dksX1_areAround_0 9 rfl rfl)
theorem dX1_areAround_12 : decode cX1_areAround 12 = .ok (.if_icmp .ge 85, 3) := dk_162 0 85 (dk_at dksX1_areAround_0 12 rfl rfl)
theorem dX1_areAround_15 : decode cX1_areAround 15 = .ok (.iconst 0, 1) := dk_3 (dk_at dksX1_areAround_0 15 rfl rfl)
theorem dX1_areAround_16 : decode cX1_areAround 16 = .ok (.istore 4, 2) := dk_54 4 (dk_at dksX1_areAround_0 16 rfl rfl)
theorem dX1_areAround_18 : decode cX1_areAround 18 = .ok (.iload 4, 2) := dk_21 4 (dk_at dksX1_areAround_0 18 rfl rfl)
theorem dX1_areAround_20 : decode cX1_areAround 20 = .ok (.iload_n 3, 1) := dk_29 (dk_at dksX1_areAround_0 20 rfl rfl)
theorem dX1_areAround_21 : decode cX1_areAround 21 = .ok (.if_icmp .ge 70, 3) := dk_162 0 70 (dk_at dksX1_areAround_0 21 rfl rfl)
theorem dX1_areAround_24 : decode cX1_areAround 24 = .ok (.iload_n 1, 1) := dk_27 (dk_at dksX1_areAround_1 0 rfl rfl)
theorem dX1_areAround_25 : decode cX1_areAround 25 = .ok (.iload_n 3, 1) := dk_29 (dk_at dksX1_areAround_1 1 rfl rfl)
theorem dX1_areAround_26 : decode cX1_areAround 26 = .ok (.ishr, 1) := dk_122 (dk_at dksX1_areAround_1 2 rfl rfl)
theorem dX1_areAround_27 : decode cX1_areAround 27 = .ok (.iconst 1, 1) := dk_4 (dk_at dksX1_areAround_1 3 rfl rfl)
theorem dX1_areAround_28 : decode cX1_areAround 28 = .ok (.iand, 1) := dk_126 (dk_at dksX1_areAround_1 4 rfl rfl)
theorem dX1_areAround_29 : decode cX1_areAround 29 = .ok (.ifCond .eq 56, 3) := dk_153 0 56 (dk_at dksX1_areAround_1 5 rfl rfl)
theorem dX1_areAround_32 : decode cX1_areAround 32 = .ok (.iload_n 1, 1) := dk_27 (dk_at dksX1_areAround_1 8 rfl rfl)
theorem dX1_areAround_33 : decode cX1_areAround 33 = .ok (.iload 4, 2) := dk_21 4 (dk_at dksX1_areAround_1 9 rfl rfl)
theorem dX1_areAround_35 : decode cX1_areAround 35 = .ok (.ishr, 1) := dk_122 (dk_at dksX1_areAround_1 11 rfl rfl)
theorem dX1_areAround_36 : decode cX1_areAround 36 = .ok (.iconst 1, 1) := dk_4 (dk_at dksX1_areAround_1 12 rfl rfl)
theorem dX1_areAround_37 : decode cX1_areAround 37 = .ok (.iand, 1) := dk_126 (dk_at dksX1_areAround_1 13 rfl rfl)
theorem dX1_areAround_38 : decode cX1_areAround 38 = .ok (.ifCond .ne 6, 3) := dk_154 0 6 (dk_at dksX1_areAround_1 14 rfl rfl)
theorem dX1_areAround_41 : decode cX1_areAround 41 = .ok (.goto 44, 3) := dk_167 0 44 (dk_at dksX1_areAround_1 17 rfl rfl)
theorem dX1_areAround_44 : decode cX1_areAround 44 = .ok (.aload_n 0, 1) := dk_42 (dk_at dksX1_areAround_1 20 rfl rfl)
theorem dX1_areAround_45 : decode cX1_areAround 45 = .ok (.getfield 124, 3) := dk_180 0 124 (dk_at dksX1_areAround_1 21 rfl rfl)
theorem dX1_areAround_48 : decode cX1_areAround 48 = .ok (.getfield 37, 3) := dk_180 0 37 (dk_at dksX1_areAround_2 0 rfl rfl)
theorem dX1_areAround_51 : decode cX1_areAround 51 = .ok (.iload_n 3, 1) := dk_29 (dk_at dksX1_areAround_2 3 rfl rfl)
theorem dX1_areAround_52 : decode cX1_areAround 52 = .ok (.iaload, 1) := dk_46 (dk_at dksX1_areAround_2 4 rfl rfl)
theorem dX1_areAround_53 : decode cX1_areAround 53 = .ok (.aload_n 0, 1) := dk_42 (dk_at dksX1_areAround_2 5 rfl rfl)
theorem dX1_areAround_54 : decode cX1_areAround 54 = .ok (.getfield 124, 3) := dk_180 0 124 (dk_at dksX1_areAround_2 6 rfl rfl)
theorem dX1_areAround_57 : decode cX1_areAround 57 = .ok (.getfield 37, 3) := dk_180 0 37 (dk_at dksX1_areAround_2 9 rfl rfl)
theorem dX1_areAround_60 : decode cX1_areAround 60 = .ok (.iload 4, 2) := dk_21 4 (dk_at dksX1_areAround_2 12 rfl rfl)
theorem dX1_areAround_62 : decode cX1_areAround 62 = .ok (.iaload, 1) := dk_46 (dk_at dksX1_areAround_2 14 rfl rfl)
theorem dX1_areAround_63 : decode cX1_areAround 63 = .ok (.iand, 1) := dk_126 (dk_at dksX1_areAround_2 15 rfl rfl)
theorem dX1_areAround_64 : decode cX1_areAround 64 = .ok (.istore 5, 2) := dk_54 5 (dk_at dksX1_areAround_2 16 rfl rfl)
theorem dX1_areAround_66 : decode cX1_areAround 66 = .ok (.iload 5, 2) := dk_21 5 (dk_at dksX1_areAround_2 18 rfl rfl)
theorem dX1_areAround_68 : decode cX1_areAround 68 = .ok (.ifCond .eq 10, 3) := dk_153 0 10 (dk_at dksX1_areAround_2 20 rfl rfl)
theorem dX1_areAround_71 : decode cX1_areAround 71 = .ok (.iload_n 2, 1) := dk_28 (dk_at dksX1_areAround_2 23 rfl rfl)
theorem dX1_areAround_72 : decode cX1_areAround 72 = .ok (.iload 5, 2) := dk_21 5 (dk_at dksX1_areAround_3 0 rfl rfl)
theorem dX1_areAround_74 : decode cX1_areAround 74 = .ok (.iand, 1) := dk_126 (dk_at dksX1_areAround_3 2 rfl rfl)
theorem dX1_areAround_75 : decode cX1_areAround 75 = .ok (.ifCond .eq 5, 3) := dk_153 0 5 (dk_at dksX1_areAround_3 3 rfl rfl)
theorem dX1_areAround_78 : decode cX1_areAround 78 = .ok (.iconst 0, 1) := dk_3 (dk_at dksX1_areAround_3 6 rfl rfl)
theorem dX1_areAround_79 : decode cX1_areAround 79 = .ok (.ireturn, 1) := dk_172 (dk_at dksX1_areAround_3 7 rfl rfl)
theorem dX1_areAround_80 : decode cX1_areAround 80 = .ok (.iload_n 2, 1) := dk_28 (dk_at dksX1_areAround_3 8 rfl rfl)
theorem dX1_areAround_81 : decode cX1_areAround 81 = .ok (.iload 5, 2) := dk_21 5 (dk_at dksX1_areAround_3 9 rfl rfl)
theorem dX1_areAround_83 : decode cX1_areAround 83 = .ok (.ior, 1) := dk_128 (dk_at dksX1_areAround_3 11 rfl rfl)
theorem dX1_areAround_84 : decode cX1_areAround 84 = .ok (.istore_n 2, 1) := dk_61 (dk_at dksX1_areAround_3 12 rfl rfl)
theorem dX1_areAround_85 : decode cX1_areAround 85 = .ok (.iinc 4 1, 3) := dk_132 4 1 (dk_at dksX1_areAround_3 13 rfl rfl)
theorem dX1_areAround_88 : decode cX1_areAround 88 = .ok (.goto (-70), 3) := dk_167 255 186 (dk_at dksX1_areAround_3 16 rfl rfl)
theorem dX1_areAround_91 : decode cX1_areAround 91 = .ok (.iinc 3 1, 3) := dk_132 3 1 (dk_at dksX1_areAround_3 19 rfl rfl)
theorem dX1_areAround_94 : decode cX1_areAround 94 = .ok (.goto (-90), 3) := dk_167 255 166 (dk_at dksX1_areAround_4 0 rfl rfl)
theorem dX1_areAround_97 : decode cX1_areAround 97 = .ok (.iconst 1, 1) := dk_4 (dk_at dksX1_areAround_4 3 rfl rfl)
theorem dX1_areAround_98 : decode cX1_areAround 98 = .ok (.ireturn, 1) := dk_172 (dk_at dksX1_areAround_4 4 rfl rfl)
abbrev cX1_apart : ByteArray := prog_1_method_25_code
def yX1_apart : MethodName := ⟨RX1, "apart", "()I"⟩
def dkwX1_apart_1 : List UInt8 := [29, 182, 0, 235, 154, 0, 6, 132, 1, 1, 132, 3, 1, 167, 255, 236, 132, 2, 1, 167, 255, 217, 27, 172]
abbrev dktX1_apart_1 : List UInt8 := dkwX1_apart_1 ++ []
def dkwX1_apart_0 : List UInt8 := [3, 60, 3, 61, 28, 42, 180, 0, 124, 180, 0, 7, 162, 0, 34, 3, 62, 29, 28, 162, 0, 21, 42, 28]
abbrev dktX1_apart_0 : List UInt8 := dkwX1_apart_0 ++ dktX1_apart_1
theorem dksX1_apart_0 : cX1_apart.data.toList.drop 0 = dktX1_apart_0 := by decide +kernel
theorem dksX1_apart_1 : cX1_apart.data.toList.drop 24 = dktX1_apart_1 := dk_seg dksX1_apart_0 24 rfl rfl
theorem dX1_apart_0 : decode cX1_apart 0 = .ok (.iconst 0, 1) := dk_3 (dk_at dksX1_apart_0 0 rfl rfl)
theorem dX1_apart_1 : decode cX1_apart 1 = .ok (.istore_n 1, 1) := dk_60 (dk_at dksX1_apart_0 1 rfl rfl)
theorem dX1_apart_2 : decode cX1_apart 2 = .ok (.iconst 0, 1) := dk_3 (dk_at dksX1_apart_0 2 rfl rfl)
theorem dX1_apart_3 : decode cX1_apart 3 = .ok (.istore_n 2, 1) := dk_61 (dk_at dksX1_apart_0 3 rfl rfl)
theorem dX1_apart_4 : decode cX1_apart 4 = .ok (.iload_n 2, 1) := dk_28 (dk_at dksX1_apart_0 4 rfl rfl)
theorem dX1_apart_5 : decode cX1_apart 5 = .ok (.aload_n 0, 1) := dk_42 (dk_at dksX1_apart_0 5 rfl rfl)
theorem dX1_apart_6 : decode cX1_apart 6 = .ok (.getfield 124, 3) := dk_180 0 124 (dk_at dksX1_apart_0 6 rfl rfl)
theorem dX1_apart_9 : decode cX1_apart 9 = .ok (.getfield 7, 3) := dk_180 0 7 (dk_at dksX1_apart_0 9 rfl rfl)
theorem dX1_apart_12 : decode cX1_apart 12 = .ok (.if_icmp .ge 34, 3) := dk_162 0 34 (dk_at dksX1_apart_0 12 rfl rfl)
theorem dX1_apart_15 : decode cX1_apart 15 = .ok (.iconst 0, 1) := dk_3 (dk_at dksX1_apart_0 15 rfl rfl)
theorem dX1_apart_16 : decode cX1_apart 16 = .ok (.istore_n 3, 1) := dk_62 (dk_at dksX1_apart_0 16 rfl rfl)
theorem dX1_apart_17 : decode cX1_apart 17 = .ok (.iload_n 3, 1) := dk_29 (dk_at dksX1_apart_0 17 rfl rfl)
theorem dX1_apart_18 : decode cX1_apart 18 = .ok (.iload_n 2, 1) := dk_28 (dk_at dksX1_apart_0 18 rfl rfl)
theorem dX1_apart_19 : decode cX1_apart 19 = .ok (.if_icmp .ge 21, 3) := dk_162 0 21 (dk_at dksX1_apart_0 19 rfl rfl)
theorem dX1_apart_22 : decode cX1_apart 22 = .ok (.aload_n 0, 1) := dk_42 (dk_at dksX1_apart_0 22 rfl rfl)
theorem dX1_apart_23 : decode cX1_apart 23 = .ok (.iload_n 2, 1) := dk_28 (dk_at dksX1_apart_0 23 rfl rfl)
theorem dX1_apart_24 : decode cX1_apart 24 = .ok (.iload_n 3, 1) := dk_29 (dk_at dksX1_apart_1 0 rfl rfl)
theorem dX1_apart_25 : decode cX1_apart 25 = .ok (.invokevirtual 235, 3) := dk_182 0 235 (dk_at dksX1_apart_1 1 rfl rfl)
theorem dX1_apart_28 : decode cX1_apart 28 = .ok (.ifCond .ne 6, 3) := dk_154 0 6 (dk_at dksX1_apart_1 4 rfl rfl)
theorem dX1_apart_31 : decode cX1_apart 31 = .ok (.iinc 1 1, 3) := dk_132 1 1 (dk_at dksX1_apart_1 7 rfl rfl)
theorem dX1_apart_34 : decode cX1_apart 34 = .ok (.iinc 3 1, 3) := dk_132 3 1 (dk_at dksX1_apart_1 10 rfl rfl)
theorem dX1_apart_37 : decode cX1_apart 37 = .ok (.goto (-20), 3) := dk_167 255 236 (dk_at dksX1_apart_1 13 rfl rfl)
theorem dX1_apart_40 : decode cX1_apart 40 = .ok (.iinc 2 1, 3) := dk_132 2 1 (dk_at dksX1_apart_1 16 rfl rfl)
theorem dX1_apart_43 : decode cX1_apart 43 = .ok (.goto (-39), 3) := dk_167 255 217 (dk_at dksX1_apart_1 19 rfl rfl)
theorem dX1_apart_46 : decode cX1_apart 46 = .ok (.iload_n 1, 1) := dk_27 (dk_at dksX1_apart_1 22 rfl rfl)
theorem dX1_apart_47 : decode cX1_apart 47 = .ok (.ireturn, 1) := dk_172 (dk_at dksX1_apart_1 23 rfl rfl)
abbrev cX1_doMeet : ByteArray := prog_1_method_22_code
def yX1_doMeet : MethodName := ⟨RX1, "doMeet", "(II)Z"⟩
def dkwX1_doMeet_1 : List UInt8 := [167, 0, 4, 3, 172]
abbrev dktX1_doMeet_1 : List UInt8 := dkwX1_doMeet_1 ++ []
def dkwX1_doMeet_0 : List UInt8 := [42, 180, 0, 124, 180, 0, 37, 27, 46, 42, 180, 0, 124, 180, 0, 37, 28, 46, 126, 153, 0, 7, 4]
abbrev dktX1_doMeet_0 : List UInt8 := dkwX1_doMeet_0 ++ dktX1_doMeet_1
theorem dksX1_doMeet_0 : cX1_doMeet.data.toList.drop 0 = dktX1_doMeet_0 := by decide +kernel
theorem dksX1_doMeet_1 : cX1_doMeet.data.toList.drop 23 = dktX1_doMeet_1 := dk_seg dksX1_doMeet_0 23 rfl rfl
theorem dX1_doMeet_0 : decode cX1_doMeet 0 = .ok (.aload_n 0, 1) := dk_42 (dk_at dksX1_doMeet_0 0 rfl rfl)
theorem dX1_doMeet_1 : decode cX1_doMeet 1 = .ok (.getfield 124, 3) := dk_180 0 124 (dk_at dksX1_doMeet_0 1 rfl rfl)
theorem dX1_doMeet_4 : decode cX1_doMeet 4 = .ok (.getfield 37, 3) := dk_180 0 37 (dk_at dksX1_doMeet_0 4 rfl rfl)
theorem dX1_doMeet_7 : decode cX1_doMeet 7 = .ok (.iload_n 1, 1) := dk_27 (dk_at dksX1_doMeet_0 7 rfl rfl)
theorem dX1_doMeet_8 : decode cX1_doMeet 8 = .ok (.iaload, 1) := dk_46 (dk_at dksX1_doMeet_0 8 rfl rfl)
theorem dX1_doMeet_9 : decode cX1_doMeet 9 = .ok (.aload_n 0, 1) := dk_42 (dk_at dksX1_doMeet_0 9 rfl rfl)
theorem dX1_doMeet_10 : decode cX1_doMeet 10 = .ok (.getfield 124, 3) := dk_180 0 124 (dk_at dksX1_doMeet_0 10 rfl rfl)
theorem dX1_doMeet_13 : decode cX1_doMeet 13 = .ok (.getfield 37, 3) := dk_180 0 37 (dk_at dksX1_doMeet_0 13 rfl rfl)
theorem dX1_doMeet_16 : decode cX1_doMeet 16 = .ok (.iload_n 2, 1) := dk_28 (dk_at dksX1_doMeet_0 16 rfl rfl)
theorem dX1_doMeet_17 : decode cX1_doMeet 17 = .ok (.iaload, 1) := dk_46 (dk_at dksX1_doMeet_0 17 rfl rfl)
theorem dX1_doMeet_18 : decode cX1_doMeet 18 = .ok (.iand, 1) := dk_126 (dk_at dksX1_doMeet_0 18 rfl rfl)
theorem dX1_doMeet_19 : decode cX1_doMeet 19 = .ok (.ifCond .eq 7, 3) := dk_153 0 7 (dk_at dksX1_doMeet_0 19 rfl rfl)
theorem dX1_doMeet_22 : decode cX1_doMeet 22 = .ok (.iconst 1, 1) := dk_4 (dk_at dksX1_doMeet_0 22 rfl rfl)
theorem dX1_doMeet_23 : decode cX1_doMeet 23 = .ok (.goto 4, 3) := dk_167 0 4 (dk_at dksX1_doMeet_1 0 rfl rfl)
theorem dX1_doMeet_26 : decode cX1_doMeet 26 = .ok (.iconst 0, 1) := dk_3 (dk_at dksX1_doMeet_1 3 rfl rfl)
theorem dX1_doMeet_27 : decode cX1_doMeet 27 = .ok (.ireturn, 1) := dk_172 (dk_at dksX1_doMeet_1 4 rfl rfl)
abbrev cX1_line : ByteArray := prog_1_method_45_code
def yX1_line : MethodName := ⟨RX1, "line", "(I)I"⟩
def dkwX1_line_1 : List UInt8 := [180, 0, 124, 180, 0, 37, 27, 46, 172]
abbrev dktX1_line_1 : List UInt8 := dkwX1_line_1 ++ []
def dkwX1_line_0 : List UInt8 := [27, 155, 0, 18, 27, 42, 180, 0, 124, 180, 0, 7, 162, 0, 7, 4, 167, 0, 4, 3, 184, 0, 110, 42]
abbrev dktX1_line_0 : List UInt8 := dkwX1_line_0 ++ dktX1_line_1
theorem dksX1_line_0 : cX1_line.data.toList.drop 0 = dktX1_line_0 := by decide +kernel
theorem dksX1_line_1 : cX1_line.data.toList.drop 24 = dktX1_line_1 := dk_seg dksX1_line_0 24 rfl rfl
theorem dX1_line_0 : decode cX1_line 0 = .ok (.iload_n 1, 1) := dk_27 (dk_at dksX1_line_0 0 rfl rfl)
theorem dX1_line_1 : decode cX1_line 1 = .ok (.ifCond .lt 18, 3) := dk_155 0 18 (dk_at dksX1_line_0 1 rfl rfl)
theorem dX1_line_4 : decode cX1_line 4 = .ok (.iload_n 1, 1) := dk_27 (dk_at dksX1_line_0 4 rfl rfl)
theorem dX1_line_5 : decode cX1_line 5 = .ok (.aload_n 0, 1) := dk_42 (dk_at dksX1_line_0 5 rfl rfl)
theorem dX1_line_6 : decode cX1_line 6 = .ok (.getfield 124, 3) := dk_180 0 124 (dk_at dksX1_line_0 6 rfl rfl)
theorem dX1_line_9 : decode cX1_line 9 = .ok (.getfield 7, 3) := dk_180 0 7 (dk_at dksX1_line_0 9 rfl rfl)
theorem dX1_line_12 : decode cX1_line 12 = .ok (.if_icmp .ge 7, 3) := dk_162 0 7 (dk_at dksX1_line_0 12 rfl rfl)
theorem dX1_line_15 : decode cX1_line 15 = .ok (.iconst 1, 1) := dk_4 (dk_at dksX1_line_0 15 rfl rfl)
theorem dX1_line_16 : decode cX1_line 16 = .ok (.goto 4, 3) := dk_167 0 4 (dk_at dksX1_line_0 16 rfl rfl)
theorem dX1_line_19 : decode cX1_line 19 = .ok (.iconst 0, 1) := dk_3 (dk_at dksX1_line_0 19 rfl rfl)
theorem dX1_line_20 : decode cX1_line 20 = .ok (.invokestatic 110, 3) := dk_184 0 110 (dk_at dksX1_line_0 20 rfl rfl)
theorem dX1_line_23 : decode cX1_line 23 = .ok (.aload_n 0, 1) := dk_42 (dk_at dksX1_line_0 23 rfl rfl)
theorem dX1_line_24 : decode cX1_line 24 = .ok (.getfield 124, 3) := dk_180 0 124 (dk_at dksX1_line_1 0 rfl rfl)
theorem dX1_line_27 : decode cX1_line 27 = .ok (.getfield 37, 3) := dk_180 0 37 (dk_at dksX1_line_1 3 rfl rfl)
theorem dX1_line_30 : decode cX1_line 30 = .ok (.iload_n 1, 1) := dk_27 (dk_at dksX1_line_1 6 rfl rfl)
theorem dX1_line_31 : decode cX1_line 31 = .ok (.iaload, 1) := dk_46 (dk_at dksX1_line_1 7 rfl rfl)
theorem dX1_line_32 : decode cX1_line 32 = .ok (.ireturn, 1) := dk_172 (dk_at dksX1_line_1 8 rfl rfl)
abbrev cX1_point : ByteArray := prog_1_method_46_code
def yX1_point : MethodName := ⟨RX1, "point", "(II)I"⟩
def dkwX1_point_4 : List UInt8 := [180, 0, 161, 27, 46, 167, 0, 11, 42, 27, 182, 0, 242, 184, 0, 245, 172]
abbrev dktX1_point_4 : List UInt8 := dkwX1_point_4 ++ []
def dkwX1_point_3 : List UInt8 := [5, 160, 0, 15, 42, 180, 0, 124, 180, 1, 27, 27, 46, 167, 0, 25, 28, 6, 160, 0, 12, 42]
abbrev dktX1_point_3 : List UInt8 := dkwX1_point_3 ++ dktX1_point_4
def dkwX1_point_2 : List UInt8 := [182, 0, 222, 167, 0, 59, 28, 4, 160, 0, 15, 42, 180, 0, 124, 180, 1, 24, 27, 46, 167, 0, 42, 28]
abbrev dktX1_point_2 : List UInt8 := dkwX1_point_2 ++ dktX1_point_3
def dkwX1_point_1 : List UInt8 := [3, 184, 0, 110, 28, 6, 160, 0, 8, 42, 182, 0, 254, 87, 28, 154, 0, 14, 42, 180, 0, 124, 27]
abbrev dktX1_point_1 : List UInt8 := dkwX1_point_1 ++ dktX1_point_2
def dkwX1_point_0 : List UInt8 := [42, 180, 0, 124, 27, 182, 1, 97, 153, 0, 16, 28, 3, 7, 184, 0, 88, 153, 0, 7, 4, 167, 0, 4]
abbrev dktX1_point_0 : List UInt8 := dkwX1_point_0 ++ dktX1_point_1
theorem dksX1_point_0 : cX1_point.data.toList.drop 0 = dktX1_point_0 := by decide +kernel
theorem dksX1_point_1 : cX1_point.data.toList.drop 24 = dktX1_point_1 := dk_seg dksX1_point_0 24 rfl rfl
theorem dksX1_point_2 : cX1_point.data.toList.drop 47 = dktX1_point_2 := dk_seg dksX1_point_1 23 rfl rfl
theorem dksX1_point_3 : cX1_point.data.toList.drop 71 = dktX1_point_3 := dk_seg dksX1_point_2 24 rfl rfl
theorem dksX1_point_4 : cX1_point.data.toList.drop 93 = dktX1_point_4 := dk_seg dksX1_point_3 22 rfl rfl
theorem dX1_point_0 : decode cX1_point 0 = .ok (.aload_n 0, 1) := dk_42 (dk_at dksX1_point_0 0 rfl rfl)
theorem dX1_point_1 : decode cX1_point 1 = .ok (.getfield 124, 3) := dk_180 0 124 (dk_at dksX1_point_0 1 rfl rfl)
theorem dX1_point_4 : decode cX1_point 4 = .ok (.iload_n 1, 1) := dk_27 (dk_at dksX1_point_0 4 rfl rfl)
theorem dX1_point_5 : decode cX1_point 5 = .ok (.invokevirtual 353, 3) := dk_182 1 97 (dk_at dksX1_point_0 5 rfl rfl)
theorem dX1_point_8 : decode cX1_point 8 = .ok (.ifCond .eq 16, 3) := dk_153 0 16 (dk_at dksX1_point_0 8 rfl rfl)
theorem dX1_point_11 : decode cX1_point 11 = .ok (.iload_n 2, 1) := dk_28 (dk_at dksX1_point_0 11 rfl rfl)
theorem dX1_point_12 : decode cX1_point 12 = .ok (.iconst 0, 1) := dk_3 (dk_at dksX1_point_0 12 rfl rfl)
theorem dX1_point_13 : decode cX1_point 13 = .ok (.iconst 4, 1) := dk_7 (dk_at dksX1_point_0 13 rfl rfl)
theorem dX1_point_14 : decode cX1_point 14 = .ok (.invokestatic 88, 3) := dk_184 0 88 (dk_at dksX1_point_0 14 rfl rfl)
theorem dX1_point_17 : decode cX1_point 17 = .ok (.ifCond .eq 7, 3) := dk_153 0 7 (dk_at dksX1_point_0 17 rfl rfl)
theorem dX1_point_20 : decode cX1_point 20 = .ok (.iconst 1, 1) := dk_4 (dk_at dksX1_point_0 20 rfl rfl)
theorem dX1_point_21 : decode cX1_point 21 = .ok (.goto 4, 3) := dk_167 0 4 (dk_at dksX1_point_0 21 rfl rfl)
theorem dX1_point_24 : decode cX1_point 24 = .ok (.iconst 0, 1) := dk_3 (dk_at dksX1_point_1 0 rfl rfl)
theorem dX1_point_25 : decode cX1_point 25 = .ok (.invokestatic 110, 3) := dk_184 0 110 (dk_at dksX1_point_1 1 rfl rfl)
theorem dX1_point_28 : decode cX1_point 28 = .ok (.iload_n 2, 1) := dk_28 (dk_at dksX1_point_1 4 rfl rfl)
theorem dX1_point_29 : decode cX1_point 29 = .ok (.iconst 3, 1) := dk_6 (dk_at dksX1_point_1 5 rfl rfl)
theorem dX1_point_30 : decode cX1_point 30 = .ok (.if_icmp .ne 8, 3) := dk_160 0 8 (dk_at dksX1_point_1 6 rfl rfl)
theorem dX1_point_33 : decode cX1_point 33 = .ok (.aload_n 0, 1) := dk_42 (dk_at dksX1_point_1 9 rfl rfl)
theorem dX1_point_34 : decode cX1_point 34 = .ok (.invokevirtual 254, 3) := dk_182 0 254 (dk_at dksX1_point_1 10 rfl rfl)
theorem dX1_point_37 : decode cX1_point 37 = .ok (.pop, 1) := dk_87 (dk_at dksX1_point_1 13 rfl rfl)
theorem dX1_point_38 : decode cX1_point 38 = .ok (.iload_n 2, 1) := dk_28 (dk_at dksX1_point_1 14 rfl rfl)
theorem dX1_point_39 : decode cX1_point 39 = .ok (.ifCond .ne 14, 3) := dk_154 0 14 (dk_at dksX1_point_1 15 rfl rfl)
theorem dX1_point_42 : decode cX1_point 42 = .ok (.aload_n 0, 1) := dk_42 (dk_at dksX1_point_1 18 rfl rfl)
theorem dX1_point_43 : decode cX1_point 43 = .ok (.getfield 124, 3) := dk_180 0 124 (dk_at dksX1_point_1 19 rfl rfl)
theorem dX1_point_46 : decode cX1_point 46 = .ok (.iload_n 1, 1) := dk_27 (dk_at dksX1_point_1 22 rfl rfl)
theorem dX1_point_47 : decode cX1_point 47 = .ok (.invokevirtual 222, 3) := dk_182 0 222 (dk_at dksX1_point_2 0 rfl rfl)
theorem dX1_point_50 : decode cX1_point 50 = .ok (.goto 59, 3) := dk_167 0 59 (dk_at dksX1_point_2 3 rfl rfl)
theorem dX1_point_53 : decode cX1_point 53 = .ok (.iload_n 2, 1) := dk_28 (dk_at dksX1_point_2 6 rfl rfl)
theorem dX1_point_54 : decode cX1_point 54 = .ok (.iconst 1, 1) := dk_4 (dk_at dksX1_point_2 7 rfl rfl)
theorem dX1_point_55 : decode cX1_point 55 = .ok (.if_icmp .ne 15, 3) := dk_160 0 15 (dk_at dksX1_point_2 8 rfl rfl)
theorem dX1_point_58 : decode cX1_point 58 = .ok (.aload_n 0, 1) := dk_42 (dk_at dksX1_point_2 11 rfl rfl)
theorem dX1_point_59 : decode cX1_point 59 = .ok (.getfield 124, 3) := dk_180 0 124 (dk_at dksX1_point_2 12 rfl rfl)
theorem dX1_point_62 : decode cX1_point 62 = .ok (.getfield 280, 3) := dk_180 1 24 (dk_at dksX1_point_2 15 rfl rfl)
theorem dX1_point_65 : decode cX1_point 65 = .ok (.iload_n 1, 1) := dk_27 (dk_at dksX1_point_2 18 rfl rfl)
theorem dX1_point_66 : decode cX1_point 66 = .ok (.iaload, 1) := dk_46 (dk_at dksX1_point_2 19 rfl rfl)
theorem dX1_point_67 : decode cX1_point 67 = .ok (.goto 42, 3) := dk_167 0 42 (dk_at dksX1_point_2 20 rfl rfl)
theorem dX1_point_70 : decode cX1_point 70 = .ok (.iload_n 2, 1) := dk_28 (dk_at dksX1_point_2 23 rfl rfl)
theorem dX1_point_71 : decode cX1_point 71 = .ok (.iconst 2, 1) := dk_5 (dk_at dksX1_point_3 0 rfl rfl)
theorem dX1_point_72 : decode cX1_point 72 = .ok (.if_icmp .ne 15, 3) := dk_160 0 15 (dk_at dksX1_point_3 1 rfl rfl)
theorem dX1_point_75 : decode cX1_point 75 = .ok (.aload_n 0, 1) := dk_42 (dk_at dksX1_point_3 4 rfl rfl)
theorem dX1_point_76 : decode cX1_point 76 = .ok (.getfield 124, 3) := dk_180 0 124 (dk_at dksX1_point_3 5 rfl rfl)
theorem dX1_point_79 : decode cX1_point 79 = .ok (.getfield 283, 3) := dk_180 1 27 (dk_at dksX1_point_3 8 rfl rfl)
theorem dX1_point_82 : decode cX1_point 82 = .ok (.iload_n 1, 1) := dk_27 (dk_at dksX1_point_3 11 rfl rfl)
theorem dX1_point_83 : decode cX1_point 83 = .ok (.iaload, 1) := dk_46 (dk_at dksX1_point_3 12 rfl rfl)
theorem dX1_point_84 : decode cX1_point 84 = .ok (.goto 25, 3) := dk_167 0 25 (dk_at dksX1_point_3 13 rfl rfl)
theorem dX1_point_87 : decode cX1_point 87 = .ok (.iload_n 2, 1) := dk_28 (dk_at dksX1_point_3 16 rfl rfl)
theorem dX1_point_88 : decode cX1_point 88 = .ok (.iconst 3, 1) := dk_6 (dk_at dksX1_point_3 17 rfl rfl)
theorem dX1_point_89 : decode cX1_point 89 = .ok (.if_icmp .ne 12, 3) := dk_160 0 12 (dk_at dksX1_point_3 18 rfl rfl)
theorem dX1_point_92 : decode cX1_point 92 = .ok (.aload_n 0, 1) := dk_42 (dk_at dksX1_point_3 21 rfl rfl)
theorem dX1_point_93 : decode cX1_point 93 = .ok (.getfield 161, 3) := dk_180 0 161 (dk_at dksX1_point_4 0 rfl rfl)
theorem dX1_point_96 : decode cX1_point 96 = .ok (.iload_n 1, 1) := dk_27 (dk_at dksX1_point_4 3 rfl rfl)
theorem dX1_point_97 : decode cX1_point 97 = .ok (.iaload, 1) := dk_46 (dk_at dksX1_point_4 4 rfl rfl)
theorem dX1_point_98 : decode cX1_point 98 = .ok (.goto 11, 3) := dk_167 0 11 (dk_at dksX1_point_4 5 rfl rfl)
theorem dX1_point_101 : decode cX1_point 101 = .ok (.aload_n 0, 1) := dk_42 (dk_at dksX1_point_4 8 rfl rfl)
theorem dX1_point_102 : decode cX1_point 102 = .ok (.iload_n 1, 1) := dk_27 (dk_at dksX1_point_4 9 rfl rfl)
theorem dX1_point_103 : decode cX1_point 103 = .ok (.invokevirtual 242, 3) := dk_182 0 242 (dk_at dksX1_point_4 10 rfl rfl)
theorem dX1_point_106 : decode cX1_point 106 = .ok (.invokestatic 245, 3) := dk_184 0 245 (dk_at dksX1_point_4 13 rfl rfl)
theorem dX1_point_109 : decode cX1_point 109 = .ok (.ireturn, 1) := dk_172 (dk_at dksX1_point_4 16 rfl rfl)
abbrev cX1_joined : ByteArray := prog_1_method_47_code
def yX1_joined : MethodName := ⟨RX1, "joined", "(II)I"⟩
def dkwX1_joined_2 : List UInt8 := [4, 27, 120, 4, 28, 120, 128, 182, 0, 228, 172]
abbrev dktX1_joined_2 : List UInt8 := dkwX1_joined_2 ++ []
def dkwX1_joined_1 : List UInt8 := [167, 0, 4, 3, 184, 0, 110, 27, 28, 159, 0, 7, 4, 167, 0, 4, 3, 184, 0, 92, 42, 180, 0, 124]
abbrev dktX1_joined_1 : List UInt8 := dkwX1_joined_1 ++ dktX1_joined_2
def dkwX1_joined_0 : List UInt8 := [42, 180, 0, 124, 27, 182, 1, 97, 153, 0, 18, 42, 180, 0, 124, 28, 182, 1, 97, 153, 0, 7, 4]
abbrev dktX1_joined_0 : List UInt8 := dkwX1_joined_0 ++ dktX1_joined_1
theorem dksX1_joined_0 : cX1_joined.data.toList.drop 0 = dktX1_joined_0 := by decide +kernel
theorem dksX1_joined_1 : cX1_joined.data.toList.drop 23 = dktX1_joined_1 := dk_seg dksX1_joined_0 23 rfl rfl
theorem dksX1_joined_2 : cX1_joined.data.toList.drop 47 = dktX1_joined_2 := dk_seg dksX1_joined_1 24 rfl rfl
theorem dX1_joined_0 : decode cX1_joined 0 = .ok (.aload_n 0, 1) := dk_42 (dk_at dksX1_joined_0 0 rfl rfl)
theorem dX1_joined_1 : decode cX1_joined 1 = .ok (.getfield 124, 3) := dk_180 0 124 (dk_at dksX1_joined_0 1 rfl rfl)
theorem dX1_joined_4 : decode cX1_joined 4 = .ok (.iload_n 1, 1) := dk_27 (dk_at dksX1_joined_0 4 rfl rfl)
theorem dX1_joined_5 : decode cX1_joined 5 = .ok (.invokevirtual 353, 3) := dk_182 1 97 (dk_at dksX1_joined_0 5 rfl rfl)
theorem dX1_joined_8 : decode cX1_joined 8 = .ok (.ifCond .eq 18, 3) := dk_153 0 18 (dk_at dksX1_joined_0 8 rfl rfl)
theorem dX1_joined_11 : decode cX1_joined 11 = .ok (.aload_n 0, 1) := dk_42 (dk_at dksX1_joined_0 11 rfl rfl)
theorem dX1_joined_12 : decode cX1_joined 12 = .ok (.getfield 124, 3) := dk_180 0 124 (dk_at dksX1_joined_0 12 rfl rfl)
theorem dX1_joined_15 : decode cX1_joined 15 = .ok (.iload_n 2, 1) := dk_28 (dk_at dksX1_joined_0 15 rfl rfl)
theorem dX1_joined_16 : decode cX1_joined 16 = .ok (.invokevirtual 353, 3) := dk_182 1 97 (dk_at dksX1_joined_0 16 rfl rfl)
theorem dX1_joined_19 : decode cX1_joined 19 = .ok (.ifCond .eq 7, 3) := dk_153 0 7 (dk_at dksX1_joined_0 19 rfl rfl)
theorem dX1_joined_22 : decode cX1_joined 22 = .ok (.iconst 1, 1) := dk_4 (dk_at dksX1_joined_0 22 rfl rfl)
theorem dX1_joined_23 : decode cX1_joined 23 = .ok (.goto 4, 3) := dk_167 0 4 (dk_at dksX1_joined_1 0 rfl rfl)
theorem dX1_joined_26 : decode cX1_joined 26 = .ok (.iconst 0, 1) := dk_3 (dk_at dksX1_joined_1 3 rfl rfl)
theorem dX1_joined_27 : decode cX1_joined 27 = .ok (.invokestatic 110, 3) := dk_184 0 110 (dk_at dksX1_joined_1 4 rfl rfl)
theorem dX1_joined_30 : decode cX1_joined 30 = .ok (.iload_n 1, 1) := dk_27 (dk_at dksX1_joined_1 7 rfl rfl)
theorem dX1_joined_31 : decode cX1_joined 31 = .ok (.iload_n 2, 1) := dk_28 (dk_at dksX1_joined_1 8 rfl rfl)
theorem dX1_joined_32 : decode cX1_joined 32 = .ok (.if_icmp .eq 7, 3) := dk_159 0 7 (dk_at dksX1_joined_1 9 rfl rfl)
theorem dX1_joined_35 : decode cX1_joined 35 = .ok (.iconst 1, 1) := dk_4 (dk_at dksX1_joined_1 12 rfl rfl)
theorem dX1_joined_36 : decode cX1_joined 36 = .ok (.goto 4, 3) := dk_167 0 4 (dk_at dksX1_joined_1 13 rfl rfl)
theorem dX1_joined_39 : decode cX1_joined 39 = .ok (.iconst 0, 1) := dk_3 (dk_at dksX1_joined_1 16 rfl rfl)
theorem dX1_joined_40 : decode cX1_joined 40 = .ok (.invokestatic 92, 3) := dk_184 0 92 (dk_at dksX1_joined_1 17 rfl rfl)
theorem dX1_joined_43 : decode cX1_joined 43 = .ok (.aload_n 0, 1) := dk_42 (dk_at dksX1_joined_1 20 rfl rfl)
theorem dX1_joined_44 : decode cX1_joined 44 = .ok (.getfield 124, 3) := dk_180 0 124 (dk_at dksX1_joined_1 21 rfl rfl)
theorem dX1_joined_47 : decode cX1_joined 47 = .ok (.iconst 1, 1) := dk_4 (dk_at dksX1_joined_2 0 rfl rfl)
theorem dX1_joined_48 : decode cX1_joined 48 = .ok (.iload_n 1, 1) := dk_27 (dk_at dksX1_joined_2 1 rfl rfl)
theorem dX1_joined_49 : decode cX1_joined 49 = .ok (.ishl, 1) := dk_120 (dk_at dksX1_joined_2 2 rfl rfl)
theorem dX1_joined_50 : decode cX1_joined 50 = .ok (.iconst 1, 1) := dk_4 (dk_at dksX1_joined_2 3 rfl rfl)
theorem dX1_joined_51 : decode cX1_joined 51 = .ok (.iload_n 2, 1) := dk_28 (dk_at dksX1_joined_2 4 rfl rfl)
theorem dX1_joined_52 : decode cX1_joined 52 = .ok (.ishl, 1) := dk_120 (dk_at dksX1_joined_2 5 rfl rfl)
theorem dX1_joined_53 : decode cX1_joined 53 = .ok (.ior, 1) := dk_128 (dk_at dksX1_joined_2 6 rfl rfl)
theorem dX1_joined_54 : decode cX1_joined 54 = .ok (.invokevirtual 228, 3) := dk_182 0 228 (dk_at dksX1_joined_2 7 rfl rfl)
theorem dX1_joined_57 : decode cX1_joined 57 = .ok (.ireturn, 1) := dk_172 (dk_at dksX1_joined_2 10 rfl rfl)
abbrev cX1_meet : ByteArray := prog_1_method_48_code
def yX1_meet : MethodName := ⟨RX1, "meet", "(II)I"⟩
def dkwX1_meet_3 : List UInt8 := [180, 0, 124, 180, 0, 37, 28, 46, 126, 184, 0, 245, 167, 0, 4, 2, 172]
abbrev dktX1_meet_3 : List UInt8 := dkwX1_meet_3 ++ []
def dkwX1_meet_2 : List UInt8 := [184, 0, 92, 42, 27, 28, 182, 0, 235, 153, 0, 28, 42, 180, 0, 124, 180, 0, 37, 27, 46, 42]
abbrev dktX1_meet_2 : List UInt8 := dkwX1_meet_2 ++ dktX1_meet_3
def dkwX1_meet_1 : List UInt8 := [180, 0, 7, 162, 0, 7, 4, 167, 0, 4, 3, 184, 0, 110, 27, 28, 159, 0, 7, 4, 167, 0, 4, 3]
abbrev dktX1_meet_1 : List UInt8 := dkwX1_meet_1 ++ dktX1_meet_2
def dkwX1_meet_0 : List UInt8 := [27, 155, 0, 33, 27, 42, 180, 0, 124, 180, 0, 7, 162, 0, 22, 28, 155, 0, 18, 28, 42, 180, 0, 124]
abbrev dktX1_meet_0 : List UInt8 := dkwX1_meet_0 ++ dktX1_meet_1
theorem dksX1_meet_0 : cX1_meet.data.toList.drop 0 = dktX1_meet_0 := by decide +kernel
theorem dksX1_meet_1 : cX1_meet.data.toList.drop 24 = dktX1_meet_1 := dk_seg dksX1_meet_0 24 rfl rfl
theorem dksX1_meet_2 : cX1_meet.data.toList.drop 48 = dktX1_meet_2 := dk_seg dksX1_meet_1 24 rfl rfl
theorem dksX1_meet_3 : cX1_meet.data.toList.drop 70 = dktX1_meet_3 := dk_seg dksX1_meet_2 22 rfl rfl
theorem dX1_meet_0 : decode cX1_meet 0 = .ok (.iload_n 1, 1) := dk_27 (dk_at dksX1_meet_0 0 rfl rfl)
theorem dX1_meet_1 : decode cX1_meet 1 = .ok (.ifCond .lt 33, 3) := dk_155 0 33 (dk_at dksX1_meet_0 1 rfl rfl)
theorem dX1_meet_4 : decode cX1_meet 4 = .ok (.iload_n 1, 1) := dk_27 (dk_at dksX1_meet_0 4 rfl rfl)
theorem dX1_meet_5 : decode cX1_meet 5 = .ok (.aload_n 0, 1) := dk_42 (dk_at dksX1_meet_0 5 rfl rfl)
theorem dX1_meet_6 : decode cX1_meet 6 = .ok (.getfield 124, 3) := dk_180 0 124 (dk_at dksX1_meet_0 6 rfl rfl)
theorem dX1_meet_9 : decode cX1_meet 9 = .ok (.getfield 7, 3) := dk_180 0 7 (dk_at dksX1_meet_0 9 rfl rfl)
theorem dX1_meet_12 : decode cX1_meet 12 = .ok (.if_icmp .ge 22, 3) := dk_162 0 22 (dk_at dksX1_meet_0 12 rfl rfl)
theorem dX1_meet_15 : decode cX1_meet 15 = .ok (.iload_n 2, 1) := dk_28 (dk_at dksX1_meet_0 15 rfl rfl)
theorem dX1_meet_16 : decode cX1_meet 16 = .ok (.ifCond .lt 18, 3) := dk_155 0 18 (dk_at dksX1_meet_0 16 rfl rfl)
theorem dX1_meet_19 : decode cX1_meet 19 = .ok (.iload_n 2, 1) := dk_28 (dk_at dksX1_meet_0 19 rfl rfl)
theorem dX1_meet_20 : decode cX1_meet 20 = .ok (.aload_n 0, 1) := dk_42 (dk_at dksX1_meet_0 20 rfl rfl)
theorem dX1_meet_21 : decode cX1_meet 21 = .ok (.getfield 124, 3) := dk_180 0 124 (dk_at dksX1_meet_0 21 rfl rfl)
theorem dX1_meet_24 : decode cX1_meet 24 = .ok (.getfield 7, 3) := dk_180 0 7 (dk_at dksX1_meet_1 0 rfl rfl)
theorem dX1_meet_27 : decode cX1_meet 27 = .ok (.if_icmp .ge 7, 3) := dk_162 0 7 (dk_at dksX1_meet_1 3 rfl rfl)
theorem dX1_meet_30 : decode cX1_meet 30 = .ok (.iconst 1, 1) := dk_4 (dk_at dksX1_meet_1 6 rfl rfl)
theorem dX1_meet_31 : decode cX1_meet 31 = .ok (.goto 4, 3) := dk_167 0 4 (dk_at dksX1_meet_1 7 rfl rfl)
theorem dX1_meet_34 : decode cX1_meet 34 = .ok (.iconst 0, 1) := dk_3 (dk_at dksX1_meet_1 10 rfl rfl)
theorem dX1_meet_35 : decode cX1_meet 35 = .ok (.invokestatic 110, 3) := dk_184 0 110 (dk_at dksX1_meet_1 11 rfl rfl)
theorem dX1_meet_38 : decode cX1_meet 38 = .ok (.iload_n 1, 1) := dk_27 (dk_at dksX1_meet_1 14 rfl rfl)
theorem dX1_meet_39 : decode cX1_meet 39 = .ok (.iload_n 2, 1) := dk_28 (dk_at dksX1_meet_1 15 rfl rfl)
theorem dX1_meet_40 : decode cX1_meet 40 = .ok (.if_icmp .eq 7, 3) := dk_159 0 7 (dk_at dksX1_meet_1 16 rfl rfl)
theorem dX1_meet_43 : decode cX1_meet 43 = .ok (.iconst 1, 1) := dk_4 (dk_at dksX1_meet_1 19 rfl rfl)
theorem dX1_meet_44 : decode cX1_meet 44 = .ok (.goto 4, 3) := dk_167 0 4 (dk_at dksX1_meet_1 20 rfl rfl)
theorem dX1_meet_47 : decode cX1_meet 47 = .ok (.iconst 0, 1) := dk_3 (dk_at dksX1_meet_1 23 rfl rfl)
theorem dX1_meet_48 : decode cX1_meet 48 = .ok (.invokestatic 92, 3) := dk_184 0 92 (dk_at dksX1_meet_2 0 rfl rfl)
theorem dX1_meet_51 : decode cX1_meet 51 = .ok (.aload_n 0, 1) := dk_42 (dk_at dksX1_meet_2 3 rfl rfl)
theorem dX1_meet_52 : decode cX1_meet 52 = .ok (.iload_n 1, 1) := dk_27 (dk_at dksX1_meet_2 4 rfl rfl)
theorem dX1_meet_53 : decode cX1_meet 53 = .ok (.iload_n 2, 1) := dk_28 (dk_at dksX1_meet_2 5 rfl rfl)
theorem dX1_meet_54 : decode cX1_meet 54 = .ok (.invokevirtual 235, 3) := dk_182 0 235 (dk_at dksX1_meet_2 6 rfl rfl)
theorem dX1_meet_57 : decode cX1_meet 57 = .ok (.ifCond .eq 28, 3) := dk_153 0 28 (dk_at dksX1_meet_2 9 rfl rfl)
theorem dX1_meet_60 : decode cX1_meet 60 = .ok (.aload_n 0, 1) := dk_42 (dk_at dksX1_meet_2 12 rfl rfl)
theorem dX1_meet_61 : decode cX1_meet 61 = .ok (.getfield 124, 3) := dk_180 0 124 (dk_at dksX1_meet_2 13 rfl rfl)
theorem dX1_meet_64 : decode cX1_meet 64 = .ok (.getfield 37, 3) := dk_180 0 37 (dk_at dksX1_meet_2 16 rfl rfl)
theorem dX1_meet_67 : decode cX1_meet 67 = .ok (.iload_n 1, 1) := dk_27 (dk_at dksX1_meet_2 19 rfl rfl)
theorem dX1_meet_68 : decode cX1_meet 68 = .ok (.iaload, 1) := dk_46 (dk_at dksX1_meet_2 20 rfl rfl)
theorem dX1_meet_69 : decode cX1_meet 69 = .ok (.aload_n 0, 1) := dk_42 (dk_at dksX1_meet_2 21 rfl rfl)
theorem dX1_meet_70 : decode cX1_meet 70 = .ok (.getfield 124, 3) := dk_180 0 124 (dk_at dksX1_meet_3 0 rfl rfl)
theorem dX1_meet_73 : decode cX1_meet 73 = .ok (.getfield 37, 3) := dk_180 0 37 (dk_at dksX1_meet_3 3 rfl rfl)
theorem dX1_meet_76 : decode cX1_meet 76 = .ok (.iload_n 2, 1) := dk_28 (dk_at dksX1_meet_3 6 rfl rfl)
theorem dX1_meet_77 : decode cX1_meet 77 = .ok (.iaload, 1) := dk_46 (dk_at dksX1_meet_3 7 rfl rfl)
theorem dX1_meet_78 : decode cX1_meet 78 = .ok (.iand, 1) := dk_126 (dk_at dksX1_meet_3 8 rfl rfl)
theorem dX1_meet_79 : decode cX1_meet 79 = .ok (.invokestatic 245, 3) := dk_184 0 245 (dk_at dksX1_meet_3 9 rfl rfl)
theorem dX1_meet_82 : decode cX1_meet 82 = .ok (.goto 4, 3) := dk_167 0 4 (dk_at dksX1_meet_3 12 rfl rfl)
theorem dX1_meet_85 : decode cX1_meet 85 = .ok (.iconst (-1), 1) := dk_2 (dk_at dksX1_meet_3 15 rfl rfl)
theorem dX1_meet_86 : decode cX1_meet 86 = .ok (.ireturn, 1) := dk_172 (dk_at dksX1_meet_3 16 rfl rfl)
abbrev cX1_symmetry : ByteArray := prog_1_method_49_code
def yX1_symmetry : MethodName := ⟨RX1, "symmetry", "(II)I"⟩
def dkwX1_symmetry_2 : List UInt8 := [3, 184, 0, 110, 45, 180, 1, 100, 28, 46, 172]
abbrev dktX1_symmetry_2 : List UInt8 := dkwX1_symmetry_2 ++ []
def dkwX1_symmetry_1 : List UInt8 := [180, 0, 124, 42, 180, 0, 124, 27, 184, 1, 72, 78, 27, 45, 180, 0, 251, 162, 0, 7, 4, 167, 0, 4]
abbrev dktX1_symmetry_1 : List UInt8 := dkwX1_symmetry_1 ++ dktX1_symmetry_2
def dkwX1_symmetry_0 : List UInt8 := [27, 155, 0, 18, 42, 180, 0, 124, 28, 182, 1, 97, 153, 0, 7, 4, 167, 0, 4, 3, 184, 0, 110, 42]
abbrev dktX1_symmetry_0 : List UInt8 := dkwX1_symmetry_0 ++ dktX1_symmetry_1
theorem dksX1_symmetry_0 : cX1_symmetry.data.toList.drop 0 = dktX1_symmetry_0 := by decide +kernel
theorem dksX1_symmetry_1 : cX1_symmetry.data.toList.drop 24 = dktX1_symmetry_1 := dk_seg dksX1_symmetry_0 24 rfl rfl
theorem dksX1_symmetry_2 : cX1_symmetry.data.toList.drop 48 = dktX1_symmetry_2 := dk_seg dksX1_symmetry_1 24 rfl rfl
theorem dX1_symmetry_0 : decode cX1_symmetry 0 = .ok (.iload_n 1, 1) := dk_27 (dk_at dksX1_symmetry_0 0 rfl rfl)
theorem dX1_symmetry_1 : decode cX1_symmetry 1 = .ok (.ifCond .lt 18, 3) := dk_155 0 18 (dk_at dksX1_symmetry_0 1 rfl rfl)
theorem dX1_symmetry_4 : decode cX1_symmetry 4 = .ok (.aload_n 0, 1) := dk_42 (dk_at dksX1_symmetry_0 4 rfl rfl)
theorem dX1_symmetry_5 : decode cX1_symmetry 5 = .ok (.getfield 124, 3) := dk_180 0 124 (dk_at dksX1_symmetry_0 5 rfl rfl)
theorem dX1_symmetry_8 : decode cX1_symmetry 8 = .ok (.iload_n 2, 1) := dk_28 (dk_at dksX1_symmetry_0 8 rfl rfl)
theorem dX1_symmetry_9 : decode cX1_symmetry 9 = .ok (.invokevirtual 353, 3) := dk_182 1 97 (dk_at dksX1_symmetry_0 9 rfl rfl)
theorem dX1_symmetry_12 : decode cX1_symmetry 12 = .ok (.ifCond .eq 7, 3) := dk_153 0 7 (dk_at dksX1_symmetry_0 12 rfl rfl)
theorem dX1_symmetry_15 : decode cX1_symmetry 15 = .ok (.iconst 1, 1) := dk_4 (dk_at dksX1_symmetry_0 15 rfl rfl)
theorem dX1_symmetry_16 : decode cX1_symmetry 16 = .ok (.goto 4, 3) := dk_167 0 4 (dk_at dksX1_symmetry_0 16 rfl rfl)
theorem dX1_symmetry_19 : decode cX1_symmetry 19 = .ok (.iconst 0, 1) := dk_3 (dk_at dksX1_symmetry_0 19 rfl rfl)
theorem dX1_symmetry_20 : decode cX1_symmetry 20 = .ok (.invokestatic 110, 3) := dk_184 0 110 (dk_at dksX1_symmetry_0 20 rfl rfl)
theorem dX1_symmetry_23 : decode cX1_symmetry 23 = .ok (.aload_n 0, 1) := dk_42 (dk_at dksX1_symmetry_0 23 rfl rfl)
theorem dX1_symmetry_24 : decode cX1_symmetry 24 = .ok (.getfield 124, 3) := dk_180 0 124 (dk_at dksX1_symmetry_1 0 rfl rfl)
theorem dX1_symmetry_27 : decode cX1_symmetry 27 = .ok (.aload_n 0, 1) := dk_42 (dk_at dksX1_symmetry_1 3 rfl rfl)
theorem dX1_symmetry_28 : decode cX1_symmetry 28 = .ok (.getfield 124, 3) := dk_180 0 124 (dk_at dksX1_symmetry_1 4 rfl rfl)
theorem dX1_symmetry_31 : decode cX1_symmetry 31 = .ok (.iload_n 1, 1) := dk_27 (dk_at dksX1_symmetry_1 7 rfl rfl)
theorem dX1_symmetry_32 : decode cX1_symmetry 32 = .ok (.invokestatic 328, 3) := dk_184 1 72 (dk_at dksX1_symmetry_1 8 rfl rfl)
theorem dX1_symmetry_35 : decode cX1_symmetry 35 = .ok (.astore_n 3, 1) := dk_78 (dk_at dksX1_symmetry_1 11 rfl rfl)
theorem dX1_symmetry_36 : decode cX1_symmetry 36 = .ok (.iload_n 1, 1) := dk_27 (dk_at dksX1_symmetry_1 12 rfl rfl)
theorem dX1_symmetry_37 : decode cX1_symmetry 37 = .ok (.aload_n 3, 1) := dk_45 (dk_at dksX1_symmetry_1 13 rfl rfl)
theorem dX1_symmetry_38 : decode cX1_symmetry 38 = .ok (.getfield 251, 3) := dk_180 0 251 (dk_at dksX1_symmetry_1 14 rfl rfl)
theorem dX1_symmetry_41 : decode cX1_symmetry 41 = .ok (.if_icmp .ge 7, 3) := dk_162 0 7 (dk_at dksX1_symmetry_1 17 rfl rfl)
theorem dX1_symmetry_44 : decode cX1_symmetry 44 = .ok (.iconst 1, 1) := dk_4 (dk_at dksX1_symmetry_1 20 rfl rfl)
theorem dX1_symmetry_45 : decode cX1_symmetry 45 = .ok (.goto 4, 3) := dk_167 0 4 (dk_at dksX1_symmetry_1 21 rfl rfl)
theorem dX1_symmetry_48 : decode cX1_symmetry 48 = .ok (.iconst 0, 1) := dk_3 (dk_at dksX1_symmetry_2 0 rfl rfl)
theorem dX1_symmetry_49 : decode cX1_symmetry 49 = .ok (.invokestatic 110, 3) := dk_184 0 110 (dk_at dksX1_symmetry_2 1 rfl rfl)
theorem dX1_symmetry_52 : decode cX1_symmetry 52 = .ok (.aload_n 3, 1) := dk_45 (dk_at dksX1_symmetry_2 4 rfl rfl)
theorem dX1_symmetry_53 : decode cX1_symmetry 53 = .ok (.getfield 356, 3) := dk_180 1 100 (dk_at dksX1_symmetry_2 5 rfl rfl)
theorem dX1_symmetry_56 : decode cX1_symmetry 56 = .ok (.iload_n 2, 1) := dk_28 (dk_at dksX1_symmetry_2 8 rfl rfl)
theorem dX1_symmetry_57 : decode cX1_symmetry 57 = .ok (.iaload, 1) := dk_46 (dk_at dksX1_symmetry_2 9 rfl rfl)
theorem dX1_symmetry_58 : decode cX1_symmetry 58 = .ok (.ireturn, 1) := dk_172 (dk_at dksX1_symmetry_2 10 rfl rfl)
abbrev cX1_normal : ByteArray := prog_1_method_50_code
def yX1_normal : MethodName := ⟨RX1, "normal", "(I)I"⟩
def dkwX1_normal_1 : List UInt8 := [180, 0, 124, 184, 1, 103, 27, 46, 172]
abbrev dktX1_normal_1 : List UInt8 := dkwX1_normal_1 ++ []
def dkwX1_normal_0 : List UInt8 := [27, 155, 0, 18, 27, 42, 180, 0, 124, 180, 0, 7, 162, 0, 7, 4, 167, 0, 4, 3, 184, 0, 110, 42]
abbrev dktX1_normal_0 : List UInt8 := dkwX1_normal_0 ++ dktX1_normal_1
theorem dksX1_normal_0 : cX1_normal.data.toList.drop 0 = dktX1_normal_0 := by decide +kernel
theorem dksX1_normal_1 : cX1_normal.data.toList.drop 24 = dktX1_normal_1 := dk_seg dksX1_normal_0 24 rfl rfl
theorem dX1_normal_0 : decode cX1_normal 0 = .ok (.iload_n 1, 1) := dk_27 (dk_at dksX1_normal_0 0 rfl rfl)
theorem dX1_normal_1 : decode cX1_normal 1 = .ok (.ifCond .lt 18, 3) := dk_155 0 18 (dk_at dksX1_normal_0 1 rfl rfl)
theorem dX1_normal_4 : decode cX1_normal 4 = .ok (.iload_n 1, 1) := dk_27 (dk_at dksX1_normal_0 4 rfl rfl)
theorem dX1_normal_5 : decode cX1_normal 5 = .ok (.aload_n 0, 1) := dk_42 (dk_at dksX1_normal_0 5 rfl rfl)
theorem dX1_normal_6 : decode cX1_normal 6 = .ok (.getfield 124, 3) := dk_180 0 124 (dk_at dksX1_normal_0 6 rfl rfl)
theorem dX1_normal_9 : decode cX1_normal 9 = .ok (.getfield 7, 3) := dk_180 0 7 (dk_at dksX1_normal_0 9 rfl rfl)
theorem dX1_normal_12 : decode cX1_normal 12 = .ok (.if_icmp .ge 7, 3) := dk_162 0 7 (dk_at dksX1_normal_0 12 rfl rfl)
theorem dX1_normal_15 : decode cX1_normal 15 = .ok (.iconst 1, 1) := dk_4 (dk_at dksX1_normal_0 15 rfl rfl)
theorem dX1_normal_16 : decode cX1_normal 16 = .ok (.goto 4, 3) := dk_167 0 4 (dk_at dksX1_normal_0 16 rfl rfl)
theorem dX1_normal_19 : decode cX1_normal 19 = .ok (.iconst 0, 1) := dk_3 (dk_at dksX1_normal_0 19 rfl rfl)
theorem dX1_normal_20 : decode cX1_normal 20 = .ok (.invokestatic 110, 3) := dk_184 0 110 (dk_at dksX1_normal_0 20 rfl rfl)
theorem dX1_normal_23 : decode cX1_normal 23 = .ok (.aload_n 0, 1) := dk_42 (dk_at dksX1_normal_0 23 rfl rfl)
theorem dX1_normal_24 : decode cX1_normal 24 = .ok (.getfield 124, 3) := dk_180 0 124 (dk_at dksX1_normal_1 0 rfl rfl)
theorem dX1_normal_27 : decode cX1_normal 27 = .ok (.invokestatic 359, 3) := dk_184 1 103 (dk_at dksX1_normal_1 3 rfl rfl)
theorem dX1_normal_30 : decode cX1_normal 30 = .ok (.iload_n 1, 1) := dk_27 (dk_at dksX1_normal_1 6 rfl rfl)
theorem dX1_normal_31 : decode cX1_normal 31 = .ok (.iaload, 1) := dk_46 (dk_at dksX1_normal_1 7 rfl rfl)
theorem dX1_normal_32 : decode cX1_normal 32 = .ok (.ireturn, 1) := dk_172 (dk_at dksX1_normal_1 8 rfl rfl)
abbrev cX1_normalOf : ByteArray := prog_1_method_4_code
def yX1_normalOf : MethodName := ⟨RX1, "normalOf", "(LSchemeLister$Scheme;)[I"⟩
def dkwX1_normalOf_1 : List UInt8 := [182, 0, 44, 43, 180, 0, 47, 176]
abbrev dktX1_normalOf_1 : List UInt8 := dkwX1_normalOf_1 ++ []
def dkwX1_normalOf_0 : List UInt8 := [187, 0, 35, 89, 42, 180, 0, 1, 42, 180, 0, 37, 42, 180, 0, 7, 183, 0, 41, 76, 43, 3, 3, 4]
abbrev dktX1_normalOf_0 : List UInt8 := dkwX1_normalOf_0 ++ dktX1_normalOf_1
theorem dksX1_normalOf_0 : cX1_normalOf.data.toList.drop 0 = dktX1_normalOf_0 := by decide +kernel
theorem dksX1_normalOf_1 : cX1_normalOf.data.toList.drop 24 = dktX1_normalOf_1 := dk_seg dksX1_normalOf_0 24 rfl rfl
theorem dX1_normalOf_0 : decode cX1_normalOf 0 = .ok (.new 35, 3) := dk_187 0 35 (dk_at dksX1_normalOf_0 0 rfl rfl)
theorem dX1_normalOf_3 : decode cX1_normalOf 3 = .ok (.dup, 1) := dk_89 (dk_at dksX1_normalOf_0 3 rfl rfl)
theorem dX1_normalOf_4 : decode cX1_normalOf 4 = .ok (.aload_n 0, 1) := dk_42 (dk_at dksX1_normalOf_0 4 rfl rfl)
theorem dX1_normalOf_5 : decode cX1_normalOf 5 = .ok (.getfield 1, 3) := dk_180 0 1 (dk_at dksX1_normalOf_0 5 rfl rfl)
theorem dX1_normalOf_8 : decode cX1_normalOf 8 = .ok (.aload_n 0, 1) := dk_42 (dk_at dksX1_normalOf_0 8 rfl rfl)
theorem dX1_normalOf_9 : decode cX1_normalOf 9 = .ok (.getfield 37, 3) := dk_180 0 37 (dk_at dksX1_normalOf_0 9 rfl rfl)
theorem dX1_normalOf_12 : decode cX1_normalOf 12 = .ok (.aload_n 0, 1) := dk_42 (dk_at dksX1_normalOf_0 12 rfl rfl)
theorem dX1_normalOf_13 : decode cX1_normalOf 13 = .ok (.getfield 7, 3) := dk_180 0 7 (dk_at dksX1_normalOf_0 13 rfl rfl)
theorem dX1_normalOf_16 : decode cX1_normalOf 16 = .ok (.invokespecial 41, 3) := dk_183 0 41 (dk_at dksX1_normalOf_0 16 rfl rfl)
theorem dX1_normalOf_19 : decode cX1_normalOf 19 = .ok (.astore_n 1, 1) := dk_76 (dk_at dksX1_normalOf_0 19 rfl rfl)
theorem dX1_normalOf_20 : decode cX1_normalOf 20 = .ok (.aload_n 1, 1) := dk_43 (dk_at dksX1_normalOf_0 20 rfl rfl)
theorem dX1_normalOf_21 : decode cX1_normalOf 21 = .ok (.iconst 0, 1) := dk_3 (dk_at dksX1_normalOf_0 21 rfl rfl)
theorem dX1_normalOf_22 : decode cX1_normalOf 22 = .ok (.iconst 0, 1) := dk_3 (dk_at dksX1_normalOf_0 22 rfl rfl)
theorem dX1_normalOf_23 : decode cX1_normalOf 23 = .ok (.iconst 1, 1) := dk_4 (dk_at dksX1_normalOf_0 23 rfl rfl)
theorem dX1_normalOf_24 : decode cX1_normalOf 24 = .ok (.invokevirtual 44, 3) := dk_182 0 44 (dk_at dksX1_normalOf_1 0 rfl rfl)
theorem dX1_normalOf_27 : decode cX1_normalOf 27 = .ok (.aload_n 1, 1) := dk_43 (dk_at dksX1_normalOf_1 3 rfl rfl)
theorem dX1_normalOf_28 : decode cX1_normalOf 28 = .ok (.getfield 47, 3) := dk_180 0 47 (dk_at dksX1_normalOf_1 4 rfl rfl)
theorem dX1_normalOf_31 : decode cX1_normalOf 31 = .ok (.areturn, 1) := dk_176 (dk_at dksX1_normalOf_1 7 rfl rfl)
abbrev cX1_dual : ByteArray := prog_1_method_51_code
def yX1_dual : MethodName := ⟨RX1, "dual", "(I)I"⟩
def dkwX1_dual_2 : List UInt8 := [160, 0, 7, 4, 167, 0, 4, 3, 184, 0, 110, 2, 172]
abbrev dktX1_dual_2 : List UInt8 := dkwX1_dual_2 ++ []
def dkwX1_dual_1 : List UInt8 := [180, 0, 7, 162, 0, 7, 4, 167, 0, 4, 3, 184, 0, 110, 44, 180, 0, 37, 27, 46, 172, 77, 27, 2]
abbrev dktX1_dual_1 : List UInt8 := dkwX1_dual_1 ++ dktX1_dual_2
def dkwX1_dual_0 : List UInt8 := [42, 180, 0, 124, 182, 1, 107, 77, 27, 2, 160, 0, 8, 44, 180, 0, 7, 172, 27, 155, 0, 15, 27, 44]
abbrev dktX1_dual_0 : List UInt8 := dkwX1_dual_0 ++ dktX1_dual_1
theorem dksX1_dual_0 : cX1_dual.data.toList.drop 0 = dktX1_dual_0 := by decide +kernel
theorem dksX1_dual_1 : cX1_dual.data.toList.drop 24 = dktX1_dual_1 := dk_seg dksX1_dual_0 24 rfl rfl
theorem dksX1_dual_2 : cX1_dual.data.toList.drop 48 = dktX1_dual_2 := dk_seg dksX1_dual_1 24 rfl rfl
theorem dX1_dual_0 : decode cX1_dual 0 = .ok (.aload_n 0, 1) := dk_42 (dk_at dksX1_dual_0 0 rfl rfl)
theorem dX1_dual_1 : decode cX1_dual 1 = .ok (.getfield 124, 3) := dk_180 0 124 (dk_at dksX1_dual_0 1 rfl rfl)
theorem dX1_dual_4 : decode cX1_dual 4 = .ok (.invokevirtual 363, 3) := dk_182 1 107 (dk_at dksX1_dual_0 4 rfl rfl)
theorem dX1_dual_7 : decode cX1_dual 7 = .ok (.astore_n 2, 1) := dk_77 (dk_at dksX1_dual_0 7 rfl rfl)
theorem dX1_dual_8 : decode cX1_dual 8 = .ok (.iload_n 1, 1) := dk_27 (dk_at dksX1_dual_0 8 rfl rfl)
theorem dX1_dual_9 : decode cX1_dual 9 = .ok (.iconst (-1), 1) := dk_2 (dk_at dksX1_dual_0 9 rfl rfl)
theorem dX1_dual_10 : decode cX1_dual 10 = .ok (.if_icmp .ne 8, 3) := dk_160 0 8 (dk_at dksX1_dual_0 10 rfl rfl)
theorem dX1_dual_13 : decode cX1_dual 13 = .ok (.aload_n 2, 1) := dk_44 (dk_at dksX1_dual_0 13 rfl rfl)
theorem dX1_dual_14 : decode cX1_dual 14 = .ok (.getfield 7, 3) := dk_180 0 7 (dk_at dksX1_dual_0 14 rfl rfl)
theorem dX1_dual_17 : decode cX1_dual 17 = .ok (.ireturn, 1) := dk_172 (dk_at dksX1_dual_0 17 rfl rfl)
theorem dX1_dual_18 : decode cX1_dual 18 = .ok (.iload_n 1, 1) := dk_27 (dk_at dksX1_dual_0 18 rfl rfl)
theorem dX1_dual_19 : decode cX1_dual 19 = .ok (.ifCond .lt 15, 3) := dk_155 0 15 (dk_at dksX1_dual_0 19 rfl rfl)
theorem dX1_dual_22 : decode cX1_dual 22 = .ok (.iload_n 1, 1) := dk_27 (dk_at dksX1_dual_0 22 rfl rfl)
theorem dX1_dual_23 : decode cX1_dual 23 = .ok (.aload_n 2, 1) := dk_44 (dk_at dksX1_dual_0 23 rfl rfl)
theorem dX1_dual_24 : decode cX1_dual 24 = .ok (.getfield 7, 3) := dk_180 0 7 (dk_at dksX1_dual_1 0 rfl rfl)
theorem dX1_dual_27 : decode cX1_dual 27 = .ok (.if_icmp .ge 7, 3) := dk_162 0 7 (dk_at dksX1_dual_1 3 rfl rfl)
theorem dX1_dual_30 : decode cX1_dual 30 = .ok (.iconst 1, 1) := dk_4 (dk_at dksX1_dual_1 6 rfl rfl)
theorem dX1_dual_31 : decode cX1_dual 31 = .ok (.goto 4, 3) := dk_167 0 4 (dk_at dksX1_dual_1 7 rfl rfl)
theorem dX1_dual_34 : decode cX1_dual 34 = .ok (.iconst 0, 1) := dk_3 (dk_at dksX1_dual_1 10 rfl rfl)
theorem dX1_dual_35 : decode cX1_dual 35 = .ok (.invokestatic 110, 3) := dk_184 0 110 (dk_at dksX1_dual_1 11 rfl rfl)
theorem dX1_dual_38 : decode cX1_dual 38 = .ok (.aload_n 2, 1) := dk_44 (dk_at dksX1_dual_1 14 rfl rfl)
theorem dX1_dual_39 : decode cX1_dual 39 = .ok (.getfield 37, 3) := dk_180 0 37 (dk_at dksX1_dual_1 15 rfl rfl)
theorem dX1_dual_42 : decode cX1_dual 42 = .ok (.iload_n 1, 1) := dk_27 (dk_at dksX1_dual_1 18 rfl rfl)
theorem dX1_dual_43 : decode cX1_dual 43 = .ok (.iaload, 1) := dk_46 (dk_at dksX1_dual_1 19 rfl rfl)
theorem dX1_dual_44 : decode cX1_dual 44 = .ok (.ireturn, 1) := dk_172 (dk_at dksX1_dual_1 20 rfl rfl)
theorem dX1_dual_45 : decode cX1_dual 45 = .ok (.astore_n 2, 1) := dk_77 (dk_at dksX1_dual_1 21 rfl rfl)
theorem dX1_dual_46 : decode cX1_dual 46 = .ok (.iload_n 1, 1) := dk_27 (dk_at dksX1_dual_1 22 rfl rfl)
theorem dX1_dual_47 : decode cX1_dual 47 = .ok (.iconst (-1), 1) := dk_2 (dk_at dksX1_dual_1 23 rfl rfl)
theorem dX1_dual_48 : decode cX1_dual 48 = .ok (.if_icmp .ne 7, 3) := dk_160 0 7 (dk_at dksX1_dual_2 0 rfl rfl)
theorem dX1_dual_51 : decode cX1_dual 51 = .ok (.iconst 1, 1) := dk_4 (dk_at dksX1_dual_2 3 rfl rfl)
theorem dX1_dual_52 : decode cX1_dual 52 = .ok (.goto 4, 3) := dk_167 0 4 (dk_at dksX1_dual_2 4 rfl rfl)
theorem dX1_dual_55 : decode cX1_dual 55 = .ok (.iconst 0, 1) := dk_3 (dk_at dksX1_dual_2 7 rfl rfl)
theorem dX1_dual_56 : decode cX1_dual 56 = .ok (.invokestatic 110, 3) := dk_184 0 110 (dk_at dksX1_dual_2 8 rfl rfl)
theorem dX1_dual_59 : decode cX1_dual 59 = .ok (.iconst (-1), 1) := dk_2 (dk_at dksX1_dual_2 11 rfl rfl)
theorem dX1_dual_60 : decode cX1_dual 60 = .ok (.ireturn, 1) := dk_172 (dk_at dksX1_dual_2 12 rfl rfl)
abbrev cX1_shelf : ByteArray := prog_1_method_53_code
def yX1_shelf : MethodName := ⟨RX1, "shelf", "(II)I"⟩
def dkwX1_shelf_2 : List UInt8 := [180, 0, 251, 167, 0, 19, 28, 5, 160, 0, 10, 45, 180, 0, 1, 167, 0, 7, 45, 180, 0, 7, 172]
abbrev dktX1_shelf_2 : List UInt8 := dkwX1_shelf_2 ++ []
def dkwX1_shelf_1 : List UInt8 := [2, 184, 1, 72, 180, 0, 251, 167, 0, 39, 28, 4, 160, 0, 18, 45, 42, 180, 0, 124, 2, 184, 1, 116]
abbrev dktX1_shelf_1 : List UInt8 := dkwX1_shelf_1 ++ dktX1_shelf_2
def dkwX1_shelf_0 : List UInt8 := [42, 27, 182, 1, 112, 78, 28, 3, 6, 184, 0, 88, 184, 0, 110, 28, 154, 0, 18, 45, 42, 180, 0, 124]
abbrev dktX1_shelf_0 : List UInt8 := dkwX1_shelf_0 ++ dktX1_shelf_1
theorem dksX1_shelf_0 : cX1_shelf.data.toList.drop 0 = dktX1_shelf_0 := by decide +kernel
theorem dksX1_shelf_1 : cX1_shelf.data.toList.drop 24 = dktX1_shelf_1 := dk_seg dksX1_shelf_0 24 rfl rfl
theorem dksX1_shelf_2 : cX1_shelf.data.toList.drop 48 = dktX1_shelf_2 := dk_seg dksX1_shelf_1 24 rfl rfl
theorem dX1_shelf_0 : decode cX1_shelf 0 = .ok (.aload_n 0, 1) := dk_42 (dk_at dksX1_shelf_0 0 rfl rfl)
theorem dX1_shelf_1 : decode cX1_shelf 1 = .ok (.iload_n 1, 1) := dk_27 (dk_at dksX1_shelf_0 1 rfl rfl)
theorem dX1_shelf_2 : decode cX1_shelf 2 = .ok (.invokevirtual 368, 3) := dk_182 1 112 (dk_at dksX1_shelf_0 2 rfl rfl)
theorem dX1_shelf_5 : decode cX1_shelf 5 = .ok (.astore_n 3, 1) := dk_78 (dk_at dksX1_shelf_0 5 rfl rfl)
theorem dX1_shelf_6 : decode cX1_shelf 6 = .ok (.iload_n 2, 1) := dk_28 (dk_at dksX1_shelf_0 6 rfl rfl)
theorem dX1_shelf_7 : decode cX1_shelf 7 = .ok (.iconst 0, 1) := dk_3 (dk_at dksX1_shelf_0 7 rfl rfl)
theorem dX1_shelf_8 : decode cX1_shelf 8 = .ok (.iconst 3, 1) := dk_6 (dk_at dksX1_shelf_0 8 rfl rfl)
theorem dX1_shelf_9 : decode cX1_shelf 9 = .ok (.invokestatic 88, 3) := dk_184 0 88 (dk_at dksX1_shelf_0 9 rfl rfl)
theorem dX1_shelf_12 : decode cX1_shelf 12 = .ok (.invokestatic 110, 3) := dk_184 0 110 (dk_at dksX1_shelf_0 12 rfl rfl)
theorem dX1_shelf_15 : decode cX1_shelf 15 = .ok (.iload_n 2, 1) := dk_28 (dk_at dksX1_shelf_0 15 rfl rfl)
theorem dX1_shelf_16 : decode cX1_shelf 16 = .ok (.ifCond .ne 18, 3) := dk_154 0 18 (dk_at dksX1_shelf_0 16 rfl rfl)
theorem dX1_shelf_19 : decode cX1_shelf 19 = .ok (.aload_n 3, 1) := dk_45 (dk_at dksX1_shelf_0 19 rfl rfl)
theorem dX1_shelf_20 : decode cX1_shelf 20 = .ok (.aload_n 0, 1) := dk_42 (dk_at dksX1_shelf_0 20 rfl rfl)
theorem dX1_shelf_21 : decode cX1_shelf 21 = .ok (.getfield 124, 3) := dk_180 0 124 (dk_at dksX1_shelf_0 21 rfl rfl)
theorem dX1_shelf_24 : decode cX1_shelf 24 = .ok (.iconst (-1), 1) := dk_2 (dk_at dksX1_shelf_1 0 rfl rfl)
theorem dX1_shelf_25 : decode cX1_shelf 25 = .ok (.invokestatic 328, 3) := dk_184 1 72 (dk_at dksX1_shelf_1 1 rfl rfl)
theorem dX1_shelf_28 : decode cX1_shelf 28 = .ok (.getfield 251, 3) := dk_180 0 251 (dk_at dksX1_shelf_1 4 rfl rfl)
theorem dX1_shelf_31 : decode cX1_shelf 31 = .ok (.goto 39, 3) := dk_167 0 39 (dk_at dksX1_shelf_1 7 rfl rfl)
theorem dX1_shelf_34 : decode cX1_shelf 34 = .ok (.iload_n 2, 1) := dk_28 (dk_at dksX1_shelf_1 10 rfl rfl)
theorem dX1_shelf_35 : decode cX1_shelf 35 = .ok (.iconst 1, 1) := dk_4 (dk_at dksX1_shelf_1 11 rfl rfl)
theorem dX1_shelf_36 : decode cX1_shelf 36 = .ok (.if_icmp .ne 18, 3) := dk_160 0 18 (dk_at dksX1_shelf_1 12 rfl rfl)
theorem dX1_shelf_39 : decode cX1_shelf 39 = .ok (.aload_n 3, 1) := dk_45 (dk_at dksX1_shelf_1 15 rfl rfl)
theorem dX1_shelf_40 : decode cX1_shelf 40 = .ok (.aload_n 0, 1) := dk_42 (dk_at dksX1_shelf_1 16 rfl rfl)
theorem dX1_shelf_41 : decode cX1_shelf 41 = .ok (.getfield 124, 3) := dk_180 0 124 (dk_at dksX1_shelf_1 17 rfl rfl)
theorem dX1_shelf_44 : decode cX1_shelf 44 = .ok (.iconst (-1), 1) := dk_2 (dk_at dksX1_shelf_1 20 rfl rfl)
theorem dX1_shelf_45 : decode cX1_shelf 45 = .ok (.invokestatic 372, 3) := dk_184 1 116 (dk_at dksX1_shelf_1 21 rfl rfl)
theorem dX1_shelf_48 : decode cX1_shelf 48 = .ok (.getfield 251, 3) := dk_180 0 251 (dk_at dksX1_shelf_2 0 rfl rfl)
theorem dX1_shelf_51 : decode cX1_shelf 51 = .ok (.goto 19, 3) := dk_167 0 19 (dk_at dksX1_shelf_2 3 rfl rfl)
theorem dX1_shelf_54 : decode cX1_shelf 54 = .ok (.iload_n 2, 1) := dk_28 (dk_at dksX1_shelf_2 6 rfl rfl)
theorem dX1_shelf_55 : decode cX1_shelf 55 = .ok (.iconst 2, 1) := dk_5 (dk_at dksX1_shelf_2 7 rfl rfl)
theorem dX1_shelf_56 : decode cX1_shelf 56 = .ok (.if_icmp .ne 10, 3) := dk_160 0 10 (dk_at dksX1_shelf_2 8 rfl rfl)
theorem dX1_shelf_59 : decode cX1_shelf 59 = .ok (.aload_n 3, 1) := dk_45 (dk_at dksX1_shelf_2 11 rfl rfl)
theorem dX1_shelf_60 : decode cX1_shelf 60 = .ok (.getfield 1, 3) := dk_180 0 1 (dk_at dksX1_shelf_2 12 rfl rfl)
theorem dX1_shelf_63 : decode cX1_shelf 63 = .ok (.goto 7, 3) := dk_167 0 7 (dk_at dksX1_shelf_2 15 rfl rfl)
theorem dX1_shelf_66 : decode cX1_shelf 66 = .ok (.aload_n 3, 1) := dk_45 (dk_at dksX1_shelf_2 18 rfl rfl)
theorem dX1_shelf_67 : decode cX1_shelf 67 = .ok (.getfield 7, 3) := dk_180 0 7 (dk_at dksX1_shelf_2 19 rfl rfl)
theorem dX1_shelf_70 : decode cX1_shelf 70 = .ok (.ireturn, 1) := dk_172 (dk_at dksX1_shelf_2 22 rfl rfl)
abbrev cX1_shelved : ByteArray := prog_1_method_52_code
def yX1_shelved : MethodName := ⟨RX1, "shelved", "(I)LSchemeLister$Scheme;"⟩
def dkwX1_shelved_1 : List UInt8 := [184, 0, 110, 42, 180, 0, 134, 27, 50, 176]
abbrev dktX1_shelved_1 : List UInt8 := dkwX1_shelved_1 ++ []
def dkwX1_shelved_0 : List UInt8 := [27, 3, 6, 184, 0, 88, 153, 0, 16, 42, 180, 0, 134, 27, 50, 198, 0, 7, 4, 167, 0, 4, 3]
abbrev dktX1_shelved_0 : List UInt8 := dkwX1_shelved_0 ++ dktX1_shelved_1
theorem dksX1_shelved_0 : cX1_shelved.data.toList.drop 0 = dktX1_shelved_0 := by decide +kernel
theorem dksX1_shelved_1 : cX1_shelved.data.toList.drop 23 = dktX1_shelved_1 := dk_seg dksX1_shelved_0 23 rfl rfl
theorem dX1_shelved_0 : decode cX1_shelved 0 = .ok (.iload_n 1, 1) := dk_27 (dk_at dksX1_shelved_0 0 rfl rfl)
theorem dX1_shelved_1 : decode cX1_shelved 1 = .ok (.iconst 0, 1) := dk_3 (dk_at dksX1_shelved_0 1 rfl rfl)
theorem dX1_shelved_2 : decode cX1_shelved 2 = .ok (.iconst 3, 1) := dk_6 (dk_at dksX1_shelved_0 2 rfl rfl)
theorem dX1_shelved_3 : decode cX1_shelved 3 = .ok (.invokestatic 88, 3) := dk_184 0 88 (dk_at dksX1_shelved_0 3 rfl rfl)
theorem dX1_shelved_6 : decode cX1_shelved 6 = .ok (.ifCond .eq 16, 3) := dk_153 0 16 (dk_at dksX1_shelved_0 6 rfl rfl)
theorem dX1_shelved_9 : decode cX1_shelved 9 = .ok (.aload_n 0, 1) := dk_42 (dk_at dksX1_shelved_0 9 rfl rfl)
theorem dX1_shelved_10 : decode cX1_shelved 10 = .ok (.getfield 134, 3) := dk_180 0 134 (dk_at dksX1_shelved_0 10 rfl rfl)
theorem dX1_shelved_13 : decode cX1_shelved 13 = .ok (.iload_n 1, 1) := dk_27 (dk_at dksX1_shelved_0 13 rfl rfl)
theorem dX1_shelved_14 : decode cX1_shelved 14 = .ok (.aaload, 1) := dk_50 (dk_at dksX1_shelved_0 14 rfl rfl)
theorem dX1_shelved_15 : decode cX1_shelved 15 = .ok (.ifnull 7, 3) := dk_198 0 7 (dk_at dksX1_shelved_0 15 rfl rfl)
theorem dX1_shelved_18 : decode cX1_shelved 18 = .ok (.iconst 1, 1) := dk_4 (dk_at dksX1_shelved_0 18 rfl rfl)
theorem dX1_shelved_19 : decode cX1_shelved 19 = .ok (.goto 4, 3) := dk_167 0 4 (dk_at dksX1_shelved_0 19 rfl rfl)
theorem dX1_shelved_22 : decode cX1_shelved 22 = .ok (.iconst 0, 1) := dk_3 (dk_at dksX1_shelved_0 22 rfl rfl)
theorem dX1_shelved_23 : decode cX1_shelved 23 = .ok (.invokestatic 110, 3) := dk_184 0 110 (dk_at dksX1_shelved_1 0 rfl rfl)
theorem dX1_shelved_26 : decode cX1_shelved 26 = .ok (.aload_n 0, 1) := dk_42 (dk_at dksX1_shelved_1 3 rfl rfl)
theorem dX1_shelved_27 : decode cX1_shelved 27 = .ok (.getfield 134, 3) := dk_180 0 134 (dk_at dksX1_shelved_1 4 rfl rfl)
theorem dX1_shelved_30 : decode cX1_shelved 30 = .ok (.iload_n 1, 1) := dk_27 (dk_at dksX1_shelved_1 7 rfl rfl)
theorem dX1_shelved_31 : decode cX1_shelved 31 = .ok (.aaload, 1) := dk_50 (dk_at dksX1_shelved_1 8 rfl rfl)
theorem dX1_shelved_32 : decode cX1_shelved 32 = .ok (.areturn, 1) := dk_176 (dk_at dksX1_shelved_1 9 rfl rfl)
abbrev cX1_lying : ByteArray := prog_1_method_3_code
def yX1_lying : MethodName := ⟨RX1, "lying", "(LSchemeLister$Scheme;LSchemeLister$Scheme;I)LSchemeLister$Tally;"⟩
def dkwX1_lying_1 : List UInt8 := [42, 43, 3, 183, 0, 24, 3, 45, 186, 0, 34, 0, 0, 182, 0, 31, 87, 45, 176]
abbrev dktX1_lying_1 : List UInt8 := dkwX1_lying_1 ++ []
def dkwX1_lying_0 : List UInt8 := [187, 0, 10, 89, 28, 183, 0, 12, 78, 42, 180, 0, 1, 43, 180, 0, 1, 163, 0, 24, 187, 0, 22, 89]
abbrev dktX1_lying_0 : List UInt8 := dkwX1_lying_0 ++ dktX1_lying_1
theorem dksX1_lying_0 : cX1_lying.data.toList.drop 0 = dktX1_lying_0 := by decide +kernel
theorem dksX1_lying_1 : cX1_lying.data.toList.drop 24 = dktX1_lying_1 := dk_seg dksX1_lying_0 24 rfl rfl
theorem dX1_lying_0 : decode cX1_lying 0 = .ok (.new 10, 3) := dk_187 0 10 (dk_at dksX1_lying_0 0 rfl rfl)
theorem dX1_lying_3 : decode cX1_lying 3 = .ok (.dup, 1) := dk_89 (dk_at dksX1_lying_0 3 rfl rfl)
theorem dX1_lying_4 : decode cX1_lying 4 = .ok (.iload_n 2, 1) := dk_28 (dk_at dksX1_lying_0 4 rfl rfl)
theorem dX1_lying_5 : decode cX1_lying 5 = .ok (.invokespecial 12, 3) := dk_183 0 12 (dk_at dksX1_lying_0 5 rfl rfl)
theorem dX1_lying_8 : decode cX1_lying 8 = .ok (.astore_n 3, 1) := dk_78 (dk_at dksX1_lying_0 8 rfl rfl)
theorem dX1_lying_9 : decode cX1_lying 9 = .ok (.aload_n 0, 1) := dk_42 (dk_at dksX1_lying_0 9 rfl rfl)
theorem dX1_lying_10 : decode cX1_lying 10 = .ok (.getfield 1, 3) := dk_180 0 1 (dk_at dksX1_lying_0 10 rfl rfl)
theorem dX1_lying_13 : decode cX1_lying 13 = .ok (.aload_n 1, 1) := dk_43 (dk_at dksX1_lying_0 13 rfl rfl)
theorem dX1_lying_14 : decode cX1_lying 14 = .ok (.getfield 1, 3) := dk_180 0 1 (dk_at dksX1_lying_0 14 rfl rfl)
theorem dX1_lying_17 : decode cX1_lying 17 = .ok (.if_icmp .gt 24, 3) := dk_163 0 24 (dk_at dksX1_lying_0 17 rfl rfl)
theorem dX1_lying_20 : decode cX1_lying 20 = .ok (.new 22, 3) := dk_187 0 22 (dk_at dksX1_lying_0 20 rfl rfl)
theorem dX1_lying_23 : decode cX1_lying 23 = .ok (.dup, 1) := dk_89 (dk_at dksX1_lying_0 23 rfl rfl)
theorem dX1_lying_24 : decode cX1_lying 24 = .ok (.aload_n 0, 1) := dk_42 (dk_at dksX1_lying_1 0 rfl rfl)
theorem dX1_lying_25 : decode cX1_lying 25 = .ok (.aload_n 1, 1) := dk_43 (dk_at dksX1_lying_1 1 rfl rfl)
theorem dX1_lying_26 : decode cX1_lying 26 = .ok (.iconst 0, 1) := dk_3 (dk_at dksX1_lying_1 2 rfl rfl)
theorem dX1_lying_27 : decode cX1_lying 27 = .ok (.invokespecial 24, 3) := dk_183 0 24 (dk_at dksX1_lying_1 3 rfl rfl)
theorem dX1_lying_30 : decode cX1_lying 30 = .ok (.iconst 0, 1) := dk_3 (dk_at dksX1_lying_1 6 rfl rfl)
theorem dX1_lying_31 : decode cX1_lying 31 = .ok (.aload_n 3, 1) := dk_45 (dk_at dksX1_lying_1 7 rfl rfl)
theorem dX1_lying_32 : decode cX1_lying 32 = .ok (.invokedynamic 34, 5) := by decide +kernel
theorem dX1_lying_37 : decode cX1_lying 37 = .ok (.invokevirtual 31, 3) := dk_182 0 31 (dk_at dksX1_lying_1 13 rfl rfl)
theorem dX1_lying_40 : decode cX1_lying 40 = .ok (.pop, 1) := dk_87 (dk_at dksX1_lying_1 16 rfl rfl)
theorem dX1_lying_41 : decode cX1_lying 41 = .ok (.aload_n 3, 1) := dk_45 (dk_at dksX1_lying_1 17 rfl rfl)
theorem dX1_lying_42 : decode cX1_lying 42 = .ok (.areturn, 1) := dk_176 (dk_at dksX1_lying_1 18 rfl rfl)
abbrev cX1_lambda_lying_1 : ByteArray := prog_1_method_101_code
def yX1_lambda_lying_1 : MethodName := ⟨RX1, "lambda$lying$1", "(LSchemeLister$Tally;[I)Z"⟩
def dkwX1_lambda_lying_1_0 : List UInt8 := [42, 43, 182, 2, 6, 172]
abbrev dktX1_lambda_lying_1_0 : List UInt8 := dkwX1_lambda_lying_1_0 ++ []
theorem dksX1_lambda_lying_1_0 : cX1_lambda_lying_1.data.toList.drop 0 = dktX1_lambda_lying_1_0 := by decide +kernel
theorem dX1_lambda_lying_1_0 : decode cX1_lambda_lying_1 0 = .ok (.aload_n 0, 1) := dk_42 (dk_at dksX1_lambda_lying_1_0 0 rfl rfl)
theorem dX1_lambda_lying_1_1 : decode cX1_lambda_lying_1 1 = .ok (.aload_n 1, 1) := dk_43 (dk_at dksX1_lambda_lying_1_0 1 rfl rfl)
theorem dX1_lambda_lying_1_2 : decode cX1_lambda_lying_1 2 = .ok (.invokevirtual 518, 3) := dk_182 2 6 (dk_at dksX1_lambda_lying_1_0 2 rfl rfl)
theorem dX1_lambda_lying_1_5 : decode cX1_lambda_lying_1 5 = .ok (.ireturn, 1) := dk_172 (dk_at dksX1_lambda_lying_1_0 5 rfl rfl)
abbrev cX1_way : ByteArray := prog_1_method_54_code
def yX1_way : MethodName := ⟨RX1, "way", "(II)I"⟩
def dkwX1_way_1 : List UInt8 := [58, 4, 25, 4, 180, 0, 251, 154, 0, 7, 2, 167, 0, 10, 25, 4, 180, 1, 100, 28, 46, 172]
abbrev dktX1_way_1 : List UInt8 := dkwX1_way_1 ++ []
def dkwX1_way_0 : List UInt8 := [42, 27, 182, 1, 112, 78, 45, 28, 182, 1, 97, 184, 0, 110, 45, 42, 180, 0, 124, 3, 184, 1, 116]
abbrev dktX1_way_0 : List UInt8 := dkwX1_way_0 ++ dktX1_way_1
theorem dksX1_way_0 : cX1_way.data.toList.drop 0 = dktX1_way_0 := by decide +kernel
theorem dksX1_way_1 : cX1_way.data.toList.drop 23 = dktX1_way_1 := dk_seg dksX1_way_0 23 rfl rfl
theorem dX1_way_0 : decode cX1_way 0 = .ok (.aload_n 0, 1) := dk_42 (dk_at dksX1_way_0 0 rfl rfl)
theorem dX1_way_1 : decode cX1_way 1 = .ok (.iload_n 1, 1) := dk_27 (dk_at dksX1_way_0 1 rfl rfl)
theorem dX1_way_2 : decode cX1_way 2 = .ok (.invokevirtual 368, 3) := dk_182 1 112 (dk_at dksX1_way_0 2 rfl rfl)
theorem dX1_way_5 : decode cX1_way 5 = .ok (.astore_n 3, 1) := dk_78 (dk_at dksX1_way_0 5 rfl rfl)
theorem dX1_way_6 : decode cX1_way 6 = .ok (.aload_n 3, 1) := dk_45 (dk_at dksX1_way_0 6 rfl rfl)
theorem dX1_way_7 : decode cX1_way 7 = .ok (.iload_n 2, 1) := dk_28 (dk_at dksX1_way_0 7 rfl rfl)
theorem dX1_way_8 : decode cX1_way 8 = .ok (.invokevirtual 353, 3) := dk_182 1 97 (dk_at dksX1_way_0 8 rfl rfl)
theorem dX1_way_11 : decode cX1_way 11 = .ok (.invokestatic 110, 3) := dk_184 0 110 (dk_at dksX1_way_0 11 rfl rfl)
theorem dX1_way_14 : decode cX1_way 14 = .ok (.aload_n 3, 1) := dk_45 (dk_at dksX1_way_0 14 rfl rfl)
theorem dX1_way_15 : decode cX1_way 15 = .ok (.aload_n 0, 1) := dk_42 (dk_at dksX1_way_0 15 rfl rfl)
theorem dX1_way_16 : decode cX1_way 16 = .ok (.getfield 124, 3) := dk_180 0 124 (dk_at dksX1_way_0 16 rfl rfl)
theorem dX1_way_19 : decode cX1_way 19 = .ok (.iconst 0, 1) := dk_3 (dk_at dksX1_way_0 19 rfl rfl)
theorem dX1_way_20 : decode cX1_way 20 = .ok (.invokestatic 372, 3) := dk_184 1 116 (dk_at dksX1_way_0 20 rfl rfl)
theorem dX1_way_23 : decode cX1_way 23 = .ok (.astore 4, 2) := dk_58 4 (dk_at dksX1_way_1 0 rfl rfl)
theorem dX1_way_25 : decode cX1_way 25 = .ok (.aload 4, 2) := dk_25 4 (dk_at dksX1_way_1 2 rfl rfl)
theorem dX1_way_27 : decode cX1_way 27 = .ok (.getfield 251, 3) := dk_180 0 251 (dk_at dksX1_way_1 4 rfl rfl)
theorem dX1_way_30 : decode cX1_way 30 = .ok (.ifCond .ne 7, 3) := dk_154 0 7 (dk_at dksX1_way_1 7 rfl rfl)
theorem dX1_way_33 : decode cX1_way 33 = .ok (.iconst (-1), 1) := dk_2 (dk_at dksX1_way_1 10 rfl rfl)
theorem dX1_way_34 : decode cX1_way 34 = .ok (.goto 10, 3) := dk_167 0 10 (dk_at dksX1_way_1 11 rfl rfl)
theorem dX1_way_37 : decode cX1_way 37 = .ok (.aload 4, 2) := dk_25 4 (dk_at dksX1_way_1 14 rfl rfl)
theorem dX1_way_39 : decode cX1_way 39 = .ok (.getfield 356, 3) := dk_180 1 100 (dk_at dksX1_way_1 16 rfl rfl)
theorem dX1_way_42 : decode cX1_way 42 = .ok (.iload_n 2, 1) := dk_28 (dk_at dksX1_way_1 19 rfl rfl)
theorem dX1_way_43 : decode cX1_way 43 = .ok (.iaload, 1) := dk_46 (dk_at dksX1_way_1 20 rfl rfl)
theorem dX1_way_44 : decode cX1_way 44 = .ok (.ireturn, 1) := dk_172 (dk_at dksX1_way_1 21 rfl rfl)
abbrev cX1_list : ByteArray := prog_1_method_8_code
def yX1_list : MethodName := ⟨RX1, "list", "(IIII)I"⟩
def dkwX1_list_5 : List UInt8 := [184, 0, 110, 42, 180, 0, 60, 29, 182, 0, 113, 192, 0, 117, 21, 4, 46, 172]
abbrev dktX1_list_5 : List UInt8 := dkwX1_list_5 ++ []
def dkwX1_list_4 : List UInt8 := [182, 0, 106, 162, 0, 18, 21, 4, 155, 0, 13, 21, 4, 28, 162, 0, 7, 4, 167, 0, 4, 3]
abbrev dktX1_list_4 : List UInt8 := dkwX1_list_4 ++ dktX1_list_5
def dkwX1_list_3 : List UInt8 := [29, 2, 160, 0, 11, 42, 180, 0, 60, 182, 0, 106, 172, 29, 155, 0, 29, 29, 42, 180, 0, 60]
abbrev dktX1_list_3 : List UInt8 := dkwX1_list_3 ++ dktX1_list_4
def dkwX1_list_2 : List UInt8 := [182, 0, 102, 42, 27, 28, 16, 7, 188, 10, 3, 182, 0, 84, 42, 27, 181, 0, 96, 42, 28, 181, 0, 99]
abbrev dktX1_list_2 : List UInt8 := dkwX1_list_2 ++ dktX1_list_3
def dkwX1_list_1 : List UInt8 := [3, 184, 0, 92, 27, 42, 180, 0, 96, 160, 0, 11, 28, 42, 180, 0, 99, 159, 0, 31, 42, 180, 0, 60]
abbrev dktX1_list_1 : List UInt8 := dkwX1_list_1 ++ dktX1_list_2
def dkwX1_list_0 : List UInt8 := [27, 6, 16, 7, 184, 0, 88, 153, 0, 17, 28, 3, 16, 7, 184, 0, 88, 153, 0, 7, 4, 167, 0, 4]
abbrev dktX1_list_0 : List UInt8 := dkwX1_list_0 ++ dktX1_list_1
theorem dksX1_list_0 : cX1_list.data.toList.drop 0 = dktX1_list_0 := by decide +kernel
theorem dksX1_list_1 : cX1_list.data.toList.drop 24 = dktX1_list_1 := dk_seg dksX1_list_0 24 rfl rfl
theorem dksX1_list_2 : cX1_list.data.toList.drop 48 = dktX1_list_2 := dk_seg dksX1_list_1 24 rfl rfl
theorem dksX1_list_3 : cX1_list.data.toList.drop 72 = dktX1_list_3 := dk_seg dksX1_list_2 24 rfl rfl
theorem dksX1_list_4 : cX1_list.data.toList.drop 94 = dktX1_list_4 := dk_seg dksX1_list_3 22 rfl rfl
theorem dksX1_list_5 : cX1_list.data.toList.drop 116 = dktX1_list_5 := dk_seg dksX1_list_4 22 rfl rfl
theorem dX1_list_0 : decode cX1_list 0 = .ok (.iload_n 1, 1) := dk_27 (dk_at dksX1_list_0 0 rfl rfl)
theorem dX1_list_1 : decode cX1_list 1 = .ok (.iconst 3, 1) := dk_6 (dk_at dksX1_list_0 1 rfl rfl)
theorem dX1_list_2 : decode cX1_list 2 = .ok (.bipush 7, 2) := dk_16 7 (dk_at dksX1_list_0 2 rfl rfl)
theorem dX1_list_4 : decode cX1_list 4 = .ok (.invokestatic 88, 3) := dk_184 0 88 (dk_at dksX1_list_0 4 rfl rfl)
theorem dX1_list_7 : decode cX1_list 7 = .ok (.ifCond .eq 17, 3) := dk_153 0 17 (dk_at dksX1_list_0 7 rfl rfl)
theorem dX1_list_10 : decode cX1_list 10 = .ok (.iload_n 2, 1) := dk_28 (dk_at dksX1_list_0 10 rfl rfl)
theorem dX1_list_11 : decode cX1_list 11 = .ok (.iconst 0, 1) := dk_3 (dk_at dksX1_list_0 11 rfl rfl)
theorem dX1_list_12 : decode cX1_list 12 = .ok (.bipush 7, 2) := dk_16 7 (dk_at dksX1_list_0 12 rfl rfl)
theorem dX1_list_14 : decode cX1_list 14 = .ok (.invokestatic 88, 3) := dk_184 0 88 (dk_at dksX1_list_0 14 rfl rfl)
theorem dX1_list_17 : decode cX1_list 17 = .ok (.ifCond .eq 7, 3) := dk_153 0 7 (dk_at dksX1_list_0 17 rfl rfl)
theorem dX1_list_20 : decode cX1_list 20 = .ok (.iconst 1, 1) := dk_4 (dk_at dksX1_list_0 20 rfl rfl)
theorem dX1_list_21 : decode cX1_list 21 = .ok (.goto 4, 3) := dk_167 0 4 (dk_at dksX1_list_0 21 rfl rfl)
theorem dX1_list_24 : decode cX1_list 24 = .ok (.iconst 0, 1) := dk_3 (dk_at dksX1_list_1 0 rfl rfl)
theorem dX1_list_25 : decode cX1_list 25 = .ok (.invokestatic 92, 3) := dk_184 0 92 (dk_at dksX1_list_1 1 rfl rfl)
theorem dX1_list_28 : decode cX1_list 28 = .ok (.iload_n 1, 1) := dk_27 (dk_at dksX1_list_1 4 rfl rfl)
theorem dX1_list_29 : decode cX1_list 29 = .ok (.aload_n 0, 1) := dk_42 (dk_at dksX1_list_1 5 rfl rfl)
theorem dX1_list_30 : decode cX1_list 30 = .ok (.getfield 96, 3) := dk_180 0 96 (dk_at dksX1_list_1 6 rfl rfl)
theorem dX1_list_33 : decode cX1_list 33 = .ok (.if_icmp .ne 11, 3) := dk_160 0 11 (dk_at dksX1_list_1 9 rfl rfl)
theorem dX1_list_36 : decode cX1_list 36 = .ok (.iload_n 2, 1) := dk_28 (dk_at dksX1_list_1 12 rfl rfl)
theorem dX1_list_37 : decode cX1_list 37 = .ok (.aload_n 0, 1) := dk_42 (dk_at dksX1_list_1 13 rfl rfl)
theorem dX1_list_38 : decode cX1_list 38 = .ok (.getfield 99, 3) := dk_180 0 99 (dk_at dksX1_list_1 14 rfl rfl)
theorem dX1_list_41 : decode cX1_list 41 = .ok (.if_icmp .eq 31, 3) := dk_159 0 31 (dk_at dksX1_list_1 17 rfl rfl)
theorem dX1_list_44 : decode cX1_list 44 = .ok (.aload_n 0, 1) := dk_42 (dk_at dksX1_list_1 20 rfl rfl)
theorem dX1_list_45 : decode cX1_list 45 = .ok (.getfield 60, 3) := dk_180 0 60 (dk_at dksX1_list_1 21 rfl rfl)
theorem dX1_list_48 : decode cX1_list 48 = .ok (.invokevirtual 102, 3) := dk_182 0 102 (dk_at dksX1_list_2 0 rfl rfl)
theorem dX1_list_51 : decode cX1_list 51 = .ok (.aload_n 0, 1) := dk_42 (dk_at dksX1_list_2 3 rfl rfl)
theorem dX1_list_52 : decode cX1_list 52 = .ok (.iload_n 1, 1) := dk_27 (dk_at dksX1_list_2 4 rfl rfl)
theorem dX1_list_53 : decode cX1_list 53 = .ok (.iload_n 2, 1) := dk_28 (dk_at dksX1_list_2 5 rfl rfl)
theorem dX1_list_54 : decode cX1_list 54 = .ok (.bipush 7, 2) := dk_16 7 (dk_at dksX1_list_2 6 rfl rfl)
theorem dX1_list_56 : decode cX1_list 56 = .ok (.newarray .int, 2) := dk_188_10 (dk_at dksX1_list_2 8 rfl rfl)
theorem dX1_list_58 : decode cX1_list 58 = .ok (.iconst 0, 1) := dk_3 (dk_at dksX1_list_2 10 rfl rfl)
theorem dX1_list_59 : decode cX1_list 59 = .ok (.invokevirtual 84, 3) := dk_182 0 84 (dk_at dksX1_list_2 11 rfl rfl)
theorem dX1_list_62 : decode cX1_list 62 = .ok (.aload_n 0, 1) := dk_42 (dk_at dksX1_list_2 14 rfl rfl)
theorem dX1_list_63 : decode cX1_list 63 = .ok (.iload_n 1, 1) := dk_27 (dk_at dksX1_list_2 15 rfl rfl)
theorem dX1_list_64 : decode cX1_list 64 = .ok (.putfield 96, 3) := dk_181 0 96 (dk_at dksX1_list_2 16 rfl rfl)
theorem dX1_list_67 : decode cX1_list 67 = .ok (.aload_n 0, 1) := dk_42 (dk_at dksX1_list_2 19 rfl rfl)
theorem dX1_list_68 : decode cX1_list 68 = .ok (.iload_n 2, 1) := dk_28 (dk_at dksX1_list_2 20 rfl rfl)
theorem dX1_list_69 : decode cX1_list 69 = .ok (.putfield 99, 3) := dk_181 0 99 (dk_at dksX1_list_2 21 rfl rfl)
theorem dX1_list_72 : decode cX1_list 72 = .ok (.iload_n 3, 1) := dk_29 (dk_at dksX1_list_3 0 rfl rfl)
theorem dX1_list_73 : decode cX1_list 73 = .ok (.iconst (-1), 1) := dk_2 (dk_at dksX1_list_3 1 rfl rfl)
theorem dX1_list_74 : decode cX1_list 74 = .ok (.if_icmp .ne 11, 3) := dk_160 0 11 (dk_at dksX1_list_3 2 rfl rfl)
theorem dX1_list_77 : decode cX1_list 77 = .ok (.aload_n 0, 1) := dk_42 (dk_at dksX1_list_3 5 rfl rfl)
theorem dX1_list_78 : decode cX1_list 78 = .ok (.getfield 60, 3) := dk_180 0 60 (dk_at dksX1_list_3 6 rfl rfl)
theorem dX1_list_81 : decode cX1_list 81 = .ok (.invokevirtual 106, 3) := dk_182 0 106 (dk_at dksX1_list_3 9 rfl rfl)
theorem dX1_list_84 : decode cX1_list 84 = .ok (.ireturn, 1) := dk_172 (dk_at dksX1_list_3 12 rfl rfl)
theorem dX1_list_85 : decode cX1_list 85 = .ok (.iload_n 3, 1) := dk_29 (dk_at dksX1_list_3 13 rfl rfl)
theorem dX1_list_86 : decode cX1_list 86 = .ok (.ifCond .lt 29, 3) := dk_155 0 29 (dk_at dksX1_list_3 14 rfl rfl)
theorem dX1_list_89 : decode cX1_list 89 = .ok (.iload_n 3, 1) := dk_29 (dk_at dksX1_list_3 17 rfl rfl)
theorem dX1_list_90 : decode cX1_list 90 = .ok (.aload_n 0, 1) := dk_42 (dk_at dksX1_list_3 18 rfl rfl)
theorem dX1_list_91 : decode cX1_list 91 = .ok (.getfield 60, 3) := dk_180 0 60 (dk_at dksX1_list_3 19 rfl rfl)
theorem dX1_list_94 : decode cX1_list 94 = .ok (.invokevirtual 106, 3) := dk_182 0 106 (dk_at dksX1_list_4 0 rfl rfl)
theorem dX1_list_97 : decode cX1_list 97 = .ok (.if_icmp .ge 18, 3) := dk_162 0 18 (dk_at dksX1_list_4 3 rfl rfl)
theorem dX1_list_100 : decode cX1_list 100 = .ok (.iload 4, 2) := dk_21 4 (dk_at dksX1_list_4 6 rfl rfl)
theorem dX1_list_102 : decode cX1_list 102 = .ok (.ifCond .lt 13, 3) := dk_155 0 13 (dk_at dksX1_list_4 8 rfl rfl)
theorem dX1_list_105 : decode cX1_list 105 = .ok (.iload 4, 2) := dk_21 4 (dk_at dksX1_list_4 11 rfl rfl)
theorem dX1_list_107 : decode cX1_list 107 = .ok (.iload_n 2, 1) := dk_28 (dk_at dksX1_list_4 13 rfl rfl)
theorem dX1_list_108 : decode cX1_list 108 = .ok (.if_icmp .ge 7, 3) := dk_162 0 7 (dk_at dksX1_list_4 14 rfl rfl)
theorem dX1_list_111 : decode cX1_list 111 = .ok (.iconst 1, 1) := dk_4 (dk_at dksX1_list_4 17 rfl rfl)
theorem dX1_list_112 : decode cX1_list 112 = .ok (.goto 4, 3) := dk_167 0 4 (dk_at dksX1_list_4 18 rfl rfl)
theorem dX1_list_115 : decode cX1_list 115 = .ok (.iconst 0, 1) := dk_3 (dk_at dksX1_list_4 21 rfl rfl)
theorem dX1_list_116 : decode cX1_list 116 = .ok (.invokestatic 110, 3) := dk_184 0 110 (dk_at dksX1_list_5 0 rfl rfl)
theorem dX1_list_119 : decode cX1_list 119 = .ok (.aload_n 0, 1) := dk_42 (dk_at dksX1_list_5 3 rfl rfl)
theorem dX1_list_120 : decode cX1_list 120 = .ok (.getfield 60, 3) := dk_180 0 60 (dk_at dksX1_list_5 4 rfl rfl)
theorem dX1_list_123 : decode cX1_list 123 = .ok (.iload_n 3, 1) := dk_29 (dk_at dksX1_list_5 7 rfl rfl)
theorem dX1_list_124 : decode cX1_list 124 = .ok (.invokevirtual 113, 3) := dk_182 0 113 (dk_at dksX1_list_5 8 rfl rfl)
theorem dX1_list_127 : decode cX1_list 127 = .ok (.checkcast 117, 3) := dk_192 0 117 (dk_at dksX1_list_5 11 rfl rfl)
theorem dX1_list_130 : decode cX1_list 130 = .ok (.iload 4, 2) := dk_21 4 (dk_at dksX1_list_5 14 rfl rfl)
theorem dX1_list_132 : decode cX1_list 132 = .ok (.iaload, 1) := dk_46 (dk_at dksX1_list_5 16 rfl rfl)
theorem dX1_list_133 : decode cX1_list 133 = .ok (.ireturn, 1) := dk_172 (dk_at dksX1_list_5 17 rfl rfl)
abbrev cX1_lists : ByteArray := prog_1_method_6_code
def yX1_lists : MethodName := ⟨RX1, "lists", "(II[II)V"⟩
def dkwX1_lists_5 : List UInt8 := [177]
abbrev dktX1_lists_5 : List UInt8 := dkwX1_lists_5 ++ []
def dkwX1_lists_4 : List UInt8 := [96, 184, 0, 80, 153, 0, 14, 42, 27, 28, 45, 21, 4, 4, 96, 182, 0, 84, 132, 5, 1, 167, 255, 193]
abbrev dktX1_lists_4 : List UInt8 := dkwX1_lists_4 ++ dktX1_lists_5
def dkwX1_lists_3 : List UInt8 := [21, 4, 21, 5, 184, 0, 76, 154, 0, 6, 167, 0, 32, 45, 21, 4, 21, 5, 79, 27, 45, 21, 4, 4]
abbrev dktX1_lists_3 : List UInt8 := dkwX1_lists_3 ++ dktX1_lists_4
def dkwX1_lists_2 : List UInt8 := [100, 46, 4, 96, 54, 5, 21, 5, 4, 27, 120, 162, 0, 61, 21, 5, 184, 0, 70, 6, 160, 0, 46, 45]
abbrev dktX1_lists_2 : List UInt8 := dkwX1_lists_2 ++ dktX1_lists_3
def dkwX1_lists_1 : List UInt8 := [180, 0, 60, 25, 5, 182, 0, 64, 87, 177, 21, 4, 154, 0, 8, 16, 7, 167, 0, 11, 45, 21, 4, 4]
abbrev dktX1_lists_1 : List UInt8 := dkwX1_lists_1 ++ dktX1_lists_2
def dkwX1_lists_0 : List UInt8 := [21, 4, 28, 160, 0, 29, 16, 7, 188, 10, 58, 5, 45, 3, 25, 5, 3, 28, 184, 0, 54, 42]
abbrev dktX1_lists_0 : List UInt8 := dkwX1_lists_0 ++ dktX1_lists_1
theorem dksX1_lists_0 : cX1_lists.data.toList.drop 0 = dktX1_lists_0 := by decide +kernel
theorem dksX1_lists_1 : cX1_lists.data.toList.drop 22 = dktX1_lists_1 := dk_seg dksX1_lists_0 22 rfl rfl
theorem dksX1_lists_2 : cX1_lists.data.toList.drop 46 = dktX1_lists_2 := dk_seg dksX1_lists_1 24 rfl rfl
theorem dksX1_lists_3 : cX1_lists.data.toList.drop 70 = dktX1_lists_3 := dk_seg dksX1_lists_2 24 rfl rfl
theorem dksX1_lists_4 : cX1_lists.data.toList.drop 94 = dktX1_lists_4 := dk_seg dksX1_lists_3 24 rfl rfl
theorem dksX1_lists_5 : cX1_lists.data.toList.drop 118 = dktX1_lists_5 := dk_seg dksX1_lists_4 24 rfl rfl
theorem dX1_lists_0 : decode cX1_lists 0 = .ok (.iload 4, 2) := dk_21 4 (dk_at dksX1_lists_0 0 rfl rfl)
theorem dX1_lists_2 : decode cX1_lists 2 = .ok (.iload_n 2, 1) := dk_28 (dk_at dksX1_lists_0 2 rfl rfl)
theorem dX1_lists_3 : decode cX1_lists 3 = .ok (.if_icmp .ne 29, 3) := dk_160 0 29 (dk_at dksX1_lists_0 3 rfl rfl)
theorem dX1_lists_6 : decode cX1_lists 6 = .ok (.bipush 7, 2) := dk_16 7 (dk_at dksX1_lists_0 6 rfl rfl)
theorem dX1_lists_8 : decode cX1_lists 8 = .ok (.newarray .int, 2) := dk_188_10 (dk_at dksX1_lists_0 8 rfl rfl)
theorem dX1_lists_10 : decode cX1_lists 10 = .ok (.astore 5, 2) := dk_58 5 (dk_at dksX1_lists_0 10 rfl rfl)
theorem dX1_lists_12 : decode cX1_lists 12 = .ok (.aload_n 3, 1) := dk_45 (dk_at dksX1_lists_0 12 rfl rfl)
theorem dX1_lists_13 : decode cX1_lists 13 = .ok (.iconst 0, 1) := dk_3 (dk_at dksX1_lists_0 13 rfl rfl)
theorem dX1_lists_14 : decode cX1_lists 14 = .ok (.aload 5, 2) := dk_25 5 (dk_at dksX1_lists_0 14 rfl rfl)
theorem dX1_lists_16 : decode cX1_lists 16 = .ok (.iconst 0, 1) := dk_3 (dk_at dksX1_lists_0 16 rfl rfl)
theorem dX1_lists_17 : decode cX1_lists 17 = .ok (.iload_n 2, 1) := dk_28 (dk_at dksX1_lists_0 17 rfl rfl)
theorem dX1_lists_18 : decode cX1_lists 18 = .ok (.invokestatic 54, 3) := dk_184 0 54 (dk_at dksX1_lists_0 18 rfl rfl)
theorem dX1_lists_21 : decode cX1_lists 21 = .ok (.aload_n 0, 1) := dk_42 (dk_at dksX1_lists_0 21 rfl rfl)
theorem dX1_lists_22 : decode cX1_lists 22 = .ok (.getfield 60, 3) := dk_180 0 60 (dk_at dksX1_lists_1 0 rfl rfl)
theorem dX1_lists_25 : decode cX1_lists 25 = .ok (.aload 5, 2) := dk_25 5 (dk_at dksX1_lists_1 3 rfl rfl)
theorem dX1_lists_27 : decode cX1_lists 27 = .ok (.invokevirtual 64, 3) := dk_182 0 64 (dk_at dksX1_lists_1 5 rfl rfl)
theorem dX1_lists_30 : decode cX1_lists 30 = .ok (.pop, 1) := dk_87 (dk_at dksX1_lists_1 8 rfl rfl)
theorem dX1_lists_31 : decode cX1_lists 31 = .ok (.return_, 1) := dk_177 (dk_at dksX1_lists_1 9 rfl rfl)
theorem dX1_lists_32 : decode cX1_lists 32 = .ok (.iload 4, 2) := dk_21 4 (dk_at dksX1_lists_1 10 rfl rfl)
theorem dX1_lists_34 : decode cX1_lists 34 = .ok (.ifCond .ne 8, 3) := dk_154 0 8 (dk_at dksX1_lists_1 12 rfl rfl)
theorem dX1_lists_37 : decode cX1_lists 37 = .ok (.bipush 7, 2) := dk_16 7 (dk_at dksX1_lists_1 15 rfl rfl)
theorem dX1_lists_39 : decode cX1_lists 39 = .ok (.goto 11, 3) := dk_167 0 11 (dk_at dksX1_lists_1 17 rfl rfl)
theorem dX1_lists_42 : decode cX1_lists 42 = .ok (.aload_n 3, 1) := dk_45 (dk_at dksX1_lists_1 20 rfl rfl)
theorem dX1_lists_43 : decode cX1_lists 43 = .ok (.iload 4, 2) := dk_21 4 (dk_at dksX1_lists_1 21 rfl rfl)
theorem dX1_lists_45 : decode cX1_lists 45 = .ok (.iconst 1, 1) := dk_4 (dk_at dksX1_lists_1 23 rfl rfl)
theorem dX1_lists_46 : decode cX1_lists 46 = .ok (.isub, 1) := dk_100 (dk_at dksX1_lists_2 0 rfl rfl)
theorem dX1_lists_47 : decode cX1_lists 47 = .ok (.iaload, 1) := dk_46 (dk_at dksX1_lists_2 1 rfl rfl)
theorem dX1_lists_48 : decode cX1_lists 48 = .ok (.iconst 1, 1) := dk_4 (dk_at dksX1_lists_2 2 rfl rfl)
theorem dX1_lists_49 : decode cX1_lists 49 = .ok (.iadd, 1) := dk_96 (dk_at dksX1_lists_2 3 rfl rfl)
theorem dX1_lists_50 : decode cX1_lists 50 = .ok (.istore 5, 2) := dk_54 5 (dk_at dksX1_lists_2 4 rfl rfl)
theorem dX1_lists_52 : decode cX1_lists 52 = .ok (.iload 5, 2) := dk_21 5 (dk_at dksX1_lists_2 6 rfl rfl)
theorem dX1_lists_54 : decode cX1_lists 54 = .ok (.iconst 1, 1) := dk_4 (dk_at dksX1_lists_2 8 rfl rfl)
theorem dX1_lists_55 : decode cX1_lists 55 = .ok (.iload_n 1, 1) := dk_27 (dk_at dksX1_lists_2 9 rfl rfl)
theorem dX1_lists_56 : decode cX1_lists 56 = .ok (.ishl, 1) := dk_120 (dk_at dksX1_lists_2 10 rfl rfl)
theorem dX1_lists_57 : decode cX1_lists 57 = .ok (.if_icmp .ge 61, 3) := dk_162 0 61 (dk_at dksX1_lists_2 11 rfl rfl)
theorem dX1_lists_60 : decode cX1_lists 60 = .ok (.iload 5, 2) := dk_21 5 (dk_at dksX1_lists_2 14 rfl rfl)
theorem dX1_lists_62 : decode cX1_lists 62 = .ok (.invokestatic 70, 3) := dk_184 0 70 (dk_at dksX1_lists_2 16 rfl rfl)
theorem dX1_lists_65 : decode cX1_lists 65 = .ok (.iconst 3, 1) := dk_6 (dk_at dksX1_lists_2 19 rfl rfl)
theorem dX1_lists_66 : decode cX1_lists 66 = .ok (.if_icmp .ne 46, 3) := dk_160 0 46 (dk_at dksX1_lists_2 20 rfl rfl)
theorem dX1_lists_69 : decode cX1_lists 69 = .ok (.aload_n 3, 1) := dk_45 (dk_at dksX1_lists_2 23 rfl rfl)
theorem dX1_lists_70 : decode cX1_lists 70 = .ok (.iload 4, 2) := dk_21 4 (dk_at dksX1_lists_3 0 rfl rfl)
theorem dX1_lists_72 : decode cX1_lists 72 = .ok (.iload 5, 2) := dk_21 5 (dk_at dksX1_lists_3 2 rfl rfl)
theorem dX1_lists_74 : decode cX1_lists 74 = .ok (.invokestatic 76, 3) := dk_184 0 76 (dk_at dksX1_lists_3 4 rfl rfl)
theorem dX1_lists_77 : decode cX1_lists 77 = .ok (.ifCond .ne 6, 3) := dk_154 0 6 (dk_at dksX1_lists_3 7 rfl rfl)
theorem dX1_lists_80 : decode cX1_lists 80 = .ok (.goto 32, 3) := dk_167 0 32 (dk_at dksX1_lists_3 10 rfl rfl)
theorem dX1_lists_83 : decode cX1_lists 83 = .ok (.aload_n 3, 1) := dk_45 (dk_at dksX1_lists_3 13 rfl rfl)
theorem dX1_lists_84 : decode cX1_lists 84 = .ok (.iload 4, 2) := dk_21 4 (dk_at dksX1_lists_3 14 rfl rfl)
theorem dX1_lists_86 : decode cX1_lists 86 = .ok (.iload 5, 2) := dk_21 5 (dk_at dksX1_lists_3 16 rfl rfl)
theorem dX1_lists_88 : decode cX1_lists 88 = .ok (.iastore, 1) := dk_79 (dk_at dksX1_lists_3 18 rfl rfl)
theorem dX1_lists_89 : decode cX1_lists 89 = .ok (.iload_n 1, 1) := dk_27 (dk_at dksX1_lists_3 19 rfl rfl)
theorem dX1_lists_90 : decode cX1_lists 90 = .ok (.aload_n 3, 1) := dk_45 (dk_at dksX1_lists_3 20 rfl rfl)
theorem dX1_lists_91 : decode cX1_lists 91 = .ok (.iload 4, 2) := dk_21 4 (dk_at dksX1_lists_3 21 rfl rfl)
theorem dX1_lists_93 : decode cX1_lists 93 = .ok (.iconst 1, 1) := dk_4 (dk_at dksX1_lists_3 23 rfl rfl)
theorem dX1_lists_94 : decode cX1_lists 94 = .ok (.iadd, 1) := dk_96 (dk_at dksX1_lists_4 0 rfl rfl)
theorem dX1_lists_95 : decode cX1_lists 95 = .ok (.invokestatic 80, 3) := dk_184 0 80 (dk_at dksX1_lists_4 1 rfl rfl)
theorem dX1_lists_98 : decode cX1_lists 98 = .ok (.ifCond .eq 14, 3) := dk_153 0 14 (dk_at dksX1_lists_4 4 rfl rfl)
theorem dX1_lists_101 : decode cX1_lists 101 = .ok (.aload_n 0, 1) := dk_42 (dk_at dksX1_lists_4 7 rfl rfl)
theorem dX1_lists_102 : decode cX1_lists 102 = .ok (.iload_n 1, 1) := dk_27 (dk_at dksX1_lists_4 8 rfl rfl)
theorem dX1_lists_103 : decode cX1_lists 103 = .ok (.iload_n 2, 1) := dk_28 (dk_at dksX1_lists_4 9 rfl rfl)
theorem dX1_lists_104 : decode cX1_lists 104 = .ok (.aload_n 3, 1) := dk_45 (dk_at dksX1_lists_4 10 rfl rfl)
theorem dX1_lists_105 : decode cX1_lists 105 = .ok (.iload 4, 2) := dk_21 4 (dk_at dksX1_lists_4 11 rfl rfl)
theorem dX1_lists_107 : decode cX1_lists 107 = .ok (.iconst 1, 1) := dk_4 (dk_at dksX1_lists_4 13 rfl rfl)
theorem dX1_lists_108 : decode cX1_lists 108 = .ok (.iadd, 1) := dk_96 (dk_at dksX1_lists_4 14 rfl rfl)
theorem dX1_lists_109 : decode cX1_lists 109 = .ok (.invokevirtual 84, 3) := dk_182 0 84 (dk_at dksX1_lists_4 15 rfl rfl)
theorem dX1_lists_112 : decode cX1_lists 112 = .ok (.iinc 5 1, 3) := dk_132 5 1 (dk_at dksX1_lists_4 18 rfl rfl)
theorem dX1_lists_115 : decode cX1_lists 115 = .ok (.goto (-63), 3) := dk_167 255 193 (dk_at dksX1_lists_4 21 rfl rfl)
theorem dX1_lists_118 : decode cX1_lists 118 = .ok (.return_, 1) := dk_177 (dk_at dksX1_lists_5 0 rfl rfl)
abbrev cX1_isFree : ByteArray := prog_1_method_7_code
def yX1_isFree : MethodName := ⟨RX1, "isFree", "([III)Z"⟩
def dkwX1_isFree_1 : List UInt8 := [167, 255, 234, 4, 172]
abbrev dktX1_isFree_1 : List UInt8 := dkwX1_isFree_1 ++ []
def dkwX1_isFree_0 : List UInt8 := [3, 62, 29, 27, 162, 0, 23, 42, 29, 46, 28, 126, 184, 0, 70, 4, 164, 0, 5, 3, 172, 132, 3, 1]
abbrev dktX1_isFree_0 : List UInt8 := dkwX1_isFree_0 ++ dktX1_isFree_1
theorem dksX1_isFree_0 : cX1_isFree.data.toList.drop 0 = dktX1_isFree_0 := by decide +kernel
theorem dksX1_isFree_1 : cX1_isFree.data.toList.drop 24 = dktX1_isFree_1 := dk_seg dksX1_isFree_0 24 rfl rfl
theorem dX1_isFree_0 : decode cX1_isFree 0 = .ok (.iconst 0, 1) := dk_3 (dk_at dksX1_isFree_0 0 rfl rfl)
theorem dX1_isFree_1 : decode cX1_isFree 1 = .ok (.istore_n 3, 1) := dk_62 (dk_at dksX1_isFree_0 1 rfl rfl)
theorem dX1_isFree_2 : decode cX1_isFree 2 = .ok (.iload_n 3, 1) := dk_29 (dk_at dksX1_isFree_0 2 rfl rfl)
theorem dX1_isFree_3 : decode cX1_isFree 3 = .ok (.iload_n 1, 1) := dk_27 (dk_at dksX1_isFree_0 3 rfl rfl)
theorem dX1_isFree_4 : decode cX1_isFree 4 = .ok (.if_icmp .ge 23, 3) := dk_162 0 23 (dk_at dksX1_isFree_0 4 rfl rfl)
theorem dX1_isFree_7 : decode cX1_isFree 7 = .ok (.aload_n 0, 1) := dk_42 (dk_at dksX1_isFree_0 7 rfl rfl)
theorem dX1_isFree_8 : decode cX1_isFree 8 = .ok (.iload_n 3, 1) := dk_29 (dk_at dksX1_isFree_0 8 rfl rfl)
theorem dX1_isFree_9 : decode cX1_isFree 9 = .ok (.iaload, 1) := dk_46 (dk_at dksX1_isFree_0 9 rfl rfl)
theorem dX1_isFree_10 : decode cX1_isFree 10 = .ok (.iload_n 2, 1) := dk_28 (dk_at dksX1_isFree_0 10 rfl rfl)
theorem dX1_isFree_11 : decode cX1_isFree 11 = .ok (.iand, 1) := dk_126 (dk_at dksX1_isFree_0 11 rfl rfl)
theorem dX1_isFree_12 : decode cX1_isFree 12 = .ok (.invokestatic 70, 3) := dk_184 0 70 (dk_at dksX1_isFree_0 12 rfl rfl)
theorem dX1_isFree_15 : decode cX1_isFree 15 = .ok (.iconst 1, 1) := dk_4 (dk_at dksX1_isFree_0 15 rfl rfl)
theorem dX1_isFree_16 : decode cX1_isFree 16 = .ok (.if_icmp .le 5, 3) := dk_164 0 5 (dk_at dksX1_isFree_0 16 rfl rfl)
theorem dX1_isFree_19 : decode cX1_isFree 19 = .ok (.iconst 0, 1) := dk_3 (dk_at dksX1_isFree_0 19 rfl rfl)
theorem dX1_isFree_20 : decode cX1_isFree 20 = .ok (.ireturn, 1) := dk_172 (dk_at dksX1_isFree_0 20 rfl rfl)
theorem dX1_isFree_21 : decode cX1_isFree 21 = .ok (.iinc 3 1, 3) := dk_132 3 1 (dk_at dksX1_isFree_0 21 rfl rfl)
theorem dX1_isFree_24 : decode cX1_isFree 24 = .ok (.goto (-22), 3) := dk_167 255 234 (dk_at dksX1_isFree_1 0 rfl rfl)
theorem dX1_isFree_27 : decode cX1_isFree 27 = .ok (.iconst 1, 1) := dk_4 (dk_at dksX1_isFree_1 3 rfl rfl)
theorem dX1_isFree_28 : decode cX1_isFree 28 = .ok (.ireturn, 1) := dk_172 (dk_at dksX1_isFree_1 4 rfl rfl)
abbrev cX1_isNormal : ByteArray := prog_1_method_5_code
def yX1_isNormal : MethodName := ⟨RX1, "isNormal", "(I[II)Z"⟩
def dkwX1_isNormal_1 : List UInt8 := [154, 0, 7, 4, 167, 0, 4, 3, 172]
abbrev dktX1_isNormal_1 : List UInt8 := dkwX1_isNormal_1 ++ []
def dkwX1_isNormal_0 : List UInt8 := [187, 0, 35, 89, 26, 43, 28, 183, 0, 41, 78, 45, 3, 3, 3, 182, 0, 44, 45, 180, 0, 50]
abbrev dktX1_isNormal_0 : List UInt8 := dkwX1_isNormal_0 ++ dktX1_isNormal_1
theorem dksX1_isNormal_0 : cX1_isNormal.data.toList.drop 0 = dktX1_isNormal_0 := by decide +kernel
theorem dksX1_isNormal_1 : cX1_isNormal.data.toList.drop 22 = dktX1_isNormal_1 := dk_seg dksX1_isNormal_0 22 rfl rfl
theorem dX1_isNormal_0 : decode cX1_isNormal 0 = .ok (.new 35, 3) := dk_187 0 35 (dk_at dksX1_isNormal_0 0 rfl rfl)
theorem dX1_isNormal_3 : decode cX1_isNormal 3 = .ok (.dup, 1) := dk_89 (dk_at dksX1_isNormal_0 3 rfl rfl)
theorem dX1_isNormal_4 : decode cX1_isNormal 4 = .ok (.iload_n 0, 1) := dk_26 (dk_at dksX1_isNormal_0 4 rfl rfl)
theorem dX1_isNormal_5 : decode cX1_isNormal 5 = .ok (.aload_n 1, 1) := dk_43 (dk_at dksX1_isNormal_0 5 rfl rfl)
theorem dX1_isNormal_6 : decode cX1_isNormal 6 = .ok (.iload_n 2, 1) := dk_28 (dk_at dksX1_isNormal_0 6 rfl rfl)
theorem dX1_isNormal_7 : decode cX1_isNormal 7 = .ok (.invokespecial 41, 3) := dk_183 0 41 (dk_at dksX1_isNormal_0 7 rfl rfl)
theorem dX1_isNormal_10 : decode cX1_isNormal 10 = .ok (.astore_n 3, 1) := dk_78 (dk_at dksX1_isNormal_0 10 rfl rfl)
theorem dX1_isNormal_11 : decode cX1_isNormal 11 = .ok (.aload_n 3, 1) := dk_45 (dk_at dksX1_isNormal_0 11 rfl rfl)
theorem dX1_isNormal_12 : decode cX1_isNormal 12 = .ok (.iconst 0, 1) := dk_3 (dk_at dksX1_isNormal_0 12 rfl rfl)
theorem dX1_isNormal_13 : decode cX1_isNormal 13 = .ok (.iconst 0, 1) := dk_3 (dk_at dksX1_isNormal_0 13 rfl rfl)
theorem dX1_isNormal_14 : decode cX1_isNormal 14 = .ok (.iconst 0, 1) := dk_3 (dk_at dksX1_isNormal_0 14 rfl rfl)
theorem dX1_isNormal_15 : decode cX1_isNormal 15 = .ok (.invokevirtual 44, 3) := dk_182 0 44 (dk_at dksX1_isNormal_0 15 rfl rfl)
theorem dX1_isNormal_18 : decode cX1_isNormal 18 = .ok (.aload_n 3, 1) := dk_45 (dk_at dksX1_isNormal_0 18 rfl rfl)
theorem dX1_isNormal_19 : decode cX1_isNormal 19 = .ok (.getfield 50, 3) := dk_180 0 50 (dk_at dksX1_isNormal_0 19 rfl rfl)
theorem dX1_isNormal_22 : decode cX1_isNormal 22 = .ok (.ifCond .ne 7, 3) := dk_154 0 7 (dk_at dksX1_isNormal_1 0 rfl rfl)
theorem dX1_isNormal_25 : decode cX1_isNormal 25 = .ok (.iconst 1, 1) := dk_4 (dk_at dksX1_isNormal_1 3 rfl rfl)
theorem dX1_isNormal_26 : decode cX1_isNormal 26 = .ok (.goto 4, 3) := dk_167 0 4 (dk_at dksX1_isNormal_1 4 rfl rfl)
theorem dX1_isNormal_29 : decode cX1_isNormal 29 = .ok (.iconst 0, 1) := dk_3 (dk_at dksX1_isNormal_1 7 rfl rfl)
theorem dX1_isNormal_30 : decode cX1_isNormal 30 = .ok (.ireturn, 1) := dk_172 (dk_at dksX1_isNormal_1 8 rfl rfl)
abbrev cX1_square : ByteArray := prog_1_method_74_code
def yX1_square : MethodName := ⟨RX1, "square", "(II)I"⟩
def dkwX1_square_2 : List UInt8 := [180, 0, 179, 28, 46, 172]
abbrev dktX1_square_2 : List UInt8 := dkwX1_square_2 ++ []
def dkwX1_square_1 : List UInt8 := [104, 27, 186, 1, 196, 0, 0, 3, 3, 182, 1, 192, 62, 29, 154, 0, 7, 2, 167, 0, 9, 42]
abbrev dktX1_square_1 : List UInt8 := dkwX1_square_1 ++ dktX1_square_2
def dkwX1_square_0 : List UInt8 := [42, 180, 0, 124, 28, 182, 1, 97, 184, 0, 110, 27, 5, 7, 184, 0, 88, 184, 0, 92, 42, 3, 27, 27]
abbrev dktX1_square_0 : List UInt8 := dkwX1_square_0 ++ dktX1_square_1
theorem dksX1_square_0 : cX1_square.data.toList.drop 0 = dktX1_square_0 := by decide +kernel
theorem dksX1_square_1 : cX1_square.data.toList.drop 24 = dktX1_square_1 := dk_seg dksX1_square_0 24 rfl rfl
theorem dksX1_square_2 : cX1_square.data.toList.drop 46 = dktX1_square_2 := dk_seg dksX1_square_1 22 rfl rfl
theorem dX1_square_0 : decode cX1_square 0 = .ok (.aload_n 0, 1) := dk_42 (dk_at dksX1_square_0 0 rfl rfl)
theorem dX1_square_1 : decode cX1_square 1 = .ok (.getfield 124, 3) := dk_180 0 124 (dk_at dksX1_square_0 1 rfl rfl)
theorem dX1_square_4 : decode cX1_square 4 = .ok (.iload_n 2, 1) := dk_28 (dk_at dksX1_square_0 4 rfl rfl)
theorem dX1_square_5 : decode cX1_square 5 = .ok (.invokevirtual 353, 3) := dk_182 1 97 (dk_at dksX1_square_0 5 rfl rfl)
theorem dX1_square_8 : decode cX1_square 8 = .ok (.invokestatic 110, 3) := dk_184 0 110 (dk_at dksX1_square_0 8 rfl rfl)
theorem dX1_square_11 : decode cX1_square 11 = .ok (.iload_n 1, 1) := dk_27 (dk_at dksX1_square_0 11 rfl rfl)
theorem dX1_square_12 : decode cX1_square 12 = .ok (.iconst 2, 1) := dk_5 (dk_at dksX1_square_0 12 rfl rfl)
theorem dX1_square_13 : decode cX1_square 13 = .ok (.iconst 4, 1) := dk_7 (dk_at dksX1_square_0 13 rfl rfl)
theorem dX1_square_14 : decode cX1_square 14 = .ok (.invokestatic 88, 3) := dk_184 0 88 (dk_at dksX1_square_0 14 rfl rfl)
theorem dX1_square_17 : decode cX1_square 17 = .ok (.invokestatic 92, 3) := dk_184 0 92 (dk_at dksX1_square_0 17 rfl rfl)
theorem dX1_square_20 : decode cX1_square 20 = .ok (.aload_n 0, 1) := dk_42 (dk_at dksX1_square_0 20 rfl rfl)
theorem dX1_square_21 : decode cX1_square 21 = .ok (.iconst 0, 1) := dk_3 (dk_at dksX1_square_0 21 rfl rfl)
theorem dX1_square_22 : decode cX1_square 22 = .ok (.iload_n 1, 1) := dk_27 (dk_at dksX1_square_0 22 rfl rfl)
theorem dX1_square_23 : decode cX1_square 23 = .ok (.iload_n 1, 1) := dk_27 (dk_at dksX1_square_0 23 rfl rfl)
theorem dX1_square_24 : decode cX1_square 24 = .ok (.imul, 1) := dk_104 (dk_at dksX1_square_1 0 rfl rfl)
theorem dX1_square_25 : decode cX1_square 25 = .ok (.iload_n 1, 1) := dk_27 (dk_at dksX1_square_1 1 rfl rfl)
theorem dX1_square_26 : decode cX1_square 26 = .ok (.invokedynamic 452, 5) := by decide +kernel
theorem dX1_square_31 : decode cX1_square 31 = .ok (.iconst 0, 1) := dk_3 (dk_at dksX1_square_1 7 rfl rfl)
theorem dX1_square_32 : decode cX1_square 32 = .ok (.iconst 0, 1) := dk_3 (dk_at dksX1_square_1 8 rfl rfl)
theorem dX1_square_33 : decode cX1_square 33 = .ok (.invokevirtual 448, 3) := dk_182 1 192 (dk_at dksX1_square_1 9 rfl rfl)
theorem dX1_square_36 : decode cX1_square 36 = .ok (.istore_n 3, 1) := dk_62 (dk_at dksX1_square_1 12 rfl rfl)
theorem dX1_square_37 : decode cX1_square 37 = .ok (.iload_n 3, 1) := dk_29 (dk_at dksX1_square_1 13 rfl rfl)
theorem dX1_square_38 : decode cX1_square 38 = .ok (.ifCond .ne 7, 3) := dk_154 0 7 (dk_at dksX1_square_1 14 rfl rfl)
theorem dX1_square_41 : decode cX1_square 41 = .ok (.iconst (-1), 1) := dk_2 (dk_at dksX1_square_1 17 rfl rfl)
theorem dX1_square_42 : decode cX1_square 42 = .ok (.goto 9, 3) := dk_167 0 9 (dk_at dksX1_square_1 18 rfl rfl)
theorem dX1_square_45 : decode cX1_square 45 = .ok (.aload_n 0, 1) := dk_42 (dk_at dksX1_square_1 21 rfl rfl)
theorem dX1_square_46 : decode cX1_square 46 = .ok (.getfield 179, 3) := dk_180 0 179 (dk_at dksX1_square_2 0 rfl rfl)
theorem dX1_square_49 : decode cX1_square 49 = .ok (.iload_n 2, 1) := dk_28 (dk_at dksX1_square_2 3 rfl rfl)
theorem dX1_square_50 : decode cX1_square 50 = .ok (.iaload, 1) := dk_46 (dk_at dksX1_square_2 4 rfl rfl)
theorem dX1_square_51 : decode cX1_square 51 = .ok (.ireturn, 1) := dk_172 (dk_at dksX1_square_2 5 rfl rfl)
abbrev cX1_lambda_square_7 : ByteArray := prog_1_method_95_code
def yX1_lambda_square_7 : MethodName := ⟨RX1, "lambda$square$7", "(IIII)Z"⟩
def dkwX1_lambda_square_7_0 : List UInt8 := [26, 27, 28, 29, 184, 1, 255, 172]
abbrev dktX1_lambda_square_7_0 : List UInt8 := dkwX1_lambda_square_7_0 ++ []
theorem dksX1_lambda_square_7_0 : cX1_lambda_square_7.data.toList.drop 0 = dktX1_lambda_square_7_0 := by decide +kernel
theorem dX1_lambda_square_7_0 : decode cX1_lambda_square_7 0 = .ok (.iload_n 0, 1) := dk_26 (dk_at dksX1_lambda_square_7_0 0 rfl rfl)
theorem dX1_lambda_square_7_1 : decode cX1_lambda_square_7 1 = .ok (.iload_n 1, 1) := dk_27 (dk_at dksX1_lambda_square_7_0 1 rfl rfl)
theorem dX1_lambda_square_7_2 : decode cX1_lambda_square_7 2 = .ok (.iload_n 2, 1) := dk_28 (dk_at dksX1_lambda_square_7_0 2 rfl rfl)
theorem dX1_lambda_square_7_3 : decode cX1_lambda_square_7 3 = .ok (.iload_n 3, 1) := dk_29 (dk_at dksX1_lambda_square_7_0 3 rfl rfl)
theorem dX1_lambda_square_7_4 : decode cX1_lambda_square_7 4 = .ok (.invokestatic 511, 3) := dk_184 1 255 (dk_at dksX1_lambda_square_7_0 4 rfl rfl)
theorem dX1_lambda_square_7_7 : decode cX1_lambda_square_7 7 = .ok (.ireturn, 1) := dk_172 (dk_at dksX1_lambda_square_7_0 7 rfl rfl)
abbrev cX1_isOnSquare : ByteArray := prog_1_method_69_code
def yX1_isOnSquare : MethodName := ⟨RX1, "isOnSquare", "(IIII)Z"⟩
def dkwX1_isOnSquare_1 : List UInt8 := [27, 26, 108, 100, 184, 1, 30, 154, 0, 7, 4, 167, 0, 4, 3, 172]
abbrev dktX1_isOnSquare_1 : List UInt8 := dkwX1_isOnSquare_1 ++ []
def dkwX1_isOnSquare_0 : List UInt8 := [28, 26, 112, 27, 26, 112, 100, 28, 26, 108, 27, 26, 108, 100, 29, 26, 112, 27, 26, 112, 100, 29, 26, 108]
abbrev dktX1_isOnSquare_0 : List UInt8 := dkwX1_isOnSquare_0 ++ dktX1_isOnSquare_1
theorem dksX1_isOnSquare_0 : cX1_isOnSquare.data.toList.drop 0 = dktX1_isOnSquare_0 := by decide +kernel
theorem dksX1_isOnSquare_1 : cX1_isOnSquare.data.toList.drop 24 = dktX1_isOnSquare_1 := dk_seg dksX1_isOnSquare_0 24 rfl rfl
theorem dX1_isOnSquare_0 : decode cX1_isOnSquare 0 = .ok (.iload_n 2, 1) := dk_28 (dk_at dksX1_isOnSquare_0 0 rfl rfl)
theorem dX1_isOnSquare_1 : decode cX1_isOnSquare 1 = .ok (.iload_n 0, 1) := dk_26 (dk_at dksX1_isOnSquare_0 1 rfl rfl)
theorem dX1_isOnSquare_2 : decode cX1_isOnSquare 2 = .ok (.irem, 1) := dk_112 (dk_at dksX1_isOnSquare_0 2 rfl rfl)
theorem dX1_isOnSquare_3 : decode cX1_isOnSquare 3 = .ok (.iload_n 1, 1) := dk_27 (dk_at dksX1_isOnSquare_0 3 rfl rfl)
theorem dX1_isOnSquare_4 : decode cX1_isOnSquare 4 = .ok (.iload_n 0, 1) := dk_26 (dk_at dksX1_isOnSquare_0 4 rfl rfl)
theorem dX1_isOnSquare_5 : decode cX1_isOnSquare 5 = .ok (.irem, 1) := dk_112 (dk_at dksX1_isOnSquare_0 5 rfl rfl)
theorem dX1_isOnSquare_6 : decode cX1_isOnSquare 6 = .ok (.isub, 1) := dk_100 (dk_at dksX1_isOnSquare_0 6 rfl rfl)
theorem dX1_isOnSquare_7 : decode cX1_isOnSquare 7 = .ok (.iload_n 2, 1) := dk_28 (dk_at dksX1_isOnSquare_0 7 rfl rfl)
theorem dX1_isOnSquare_8 : decode cX1_isOnSquare 8 = .ok (.iload_n 0, 1) := dk_26 (dk_at dksX1_isOnSquare_0 8 rfl rfl)
theorem dX1_isOnSquare_9 : decode cX1_isOnSquare 9 = .ok (.idiv, 1) := dk_108 (dk_at dksX1_isOnSquare_0 9 rfl rfl)
theorem dX1_isOnSquare_10 : decode cX1_isOnSquare 10 = .ok (.iload_n 1, 1) := dk_27 (dk_at dksX1_isOnSquare_0 10 rfl rfl)
theorem dX1_isOnSquare_11 : decode cX1_isOnSquare 11 = .ok (.iload_n 0, 1) := dk_26 (dk_at dksX1_isOnSquare_0 11 rfl rfl)
theorem dX1_isOnSquare_12 : decode cX1_isOnSquare 12 = .ok (.idiv, 1) := dk_108 (dk_at dksX1_isOnSquare_0 12 rfl rfl)
theorem dX1_isOnSquare_13 : decode cX1_isOnSquare 13 = .ok (.isub, 1) := dk_100 (dk_at dksX1_isOnSquare_0 13 rfl rfl)
theorem dX1_isOnSquare_14 : decode cX1_isOnSquare 14 = .ok (.iload_n 3, 1) := dk_29 (dk_at dksX1_isOnSquare_0 14 rfl rfl)
theorem dX1_isOnSquare_15 : decode cX1_isOnSquare 15 = .ok (.iload_n 0, 1) := dk_26 (dk_at dksX1_isOnSquare_0 15 rfl rfl)
theorem dX1_isOnSquare_16 : decode cX1_isOnSquare 16 = .ok (.irem, 1) := dk_112 (dk_at dksX1_isOnSquare_0 16 rfl rfl)
theorem dX1_isOnSquare_17 : decode cX1_isOnSquare 17 = .ok (.iload_n 1, 1) := dk_27 (dk_at dksX1_isOnSquare_0 17 rfl rfl)
theorem dX1_isOnSquare_18 : decode cX1_isOnSquare 18 = .ok (.iload_n 0, 1) := dk_26 (dk_at dksX1_isOnSquare_0 18 rfl rfl)
theorem dX1_isOnSquare_19 : decode cX1_isOnSquare 19 = .ok (.irem, 1) := dk_112 (dk_at dksX1_isOnSquare_0 19 rfl rfl)
theorem dX1_isOnSquare_20 : decode cX1_isOnSquare 20 = .ok (.isub, 1) := dk_100 (dk_at dksX1_isOnSquare_0 20 rfl rfl)
theorem dX1_isOnSquare_21 : decode cX1_isOnSquare 21 = .ok (.iload_n 3, 1) := dk_29 (dk_at dksX1_isOnSquare_0 21 rfl rfl)
theorem dX1_isOnSquare_22 : decode cX1_isOnSquare 22 = .ok (.iload_n 0, 1) := dk_26 (dk_at dksX1_isOnSquare_0 22 rfl rfl)
theorem dX1_isOnSquare_23 : decode cX1_isOnSquare 23 = .ok (.idiv, 1) := dk_108 (dk_at dksX1_isOnSquare_0 23 rfl rfl)
theorem dX1_isOnSquare_24 : decode cX1_isOnSquare 24 = .ok (.iload_n 1, 1) := dk_27 (dk_at dksX1_isOnSquare_1 0 rfl rfl)
theorem dX1_isOnSquare_25 : decode cX1_isOnSquare 25 = .ok (.iload_n 0, 1) := dk_26 (dk_at dksX1_isOnSquare_1 1 rfl rfl)
theorem dX1_isOnSquare_26 : decode cX1_isOnSquare 26 = .ok (.idiv, 1) := dk_108 (dk_at dksX1_isOnSquare_1 2 rfl rfl)
theorem dX1_isOnSquare_27 : decode cX1_isOnSquare 27 = .ok (.isub, 1) := dk_100 (dk_at dksX1_isOnSquare_1 3 rfl rfl)
theorem dX1_isOnSquare_28 : decode cX1_isOnSquare 28 = .ok (.invokestatic 286, 3) := dk_184 1 30 (dk_at dksX1_isOnSquare_1 4 rfl rfl)
theorem dX1_isOnSquare_31 : decode cX1_isOnSquare 31 = .ok (.ifCond .ne 7, 3) := dk_154 0 7 (dk_at dksX1_isOnSquare_1 7 rfl rfl)
theorem dX1_isOnSquare_34 : decode cX1_isOnSquare 34 = .ok (.iconst 1, 1) := dk_4 (dk_at dksX1_isOnSquare_1 10 rfl rfl)
theorem dX1_isOnSquare_35 : decode cX1_isOnSquare 35 = .ok (.goto 4, 3) := dk_167 0 4 (dk_at dksX1_isOnSquare_1 11 rfl rfl)
theorem dX1_isOnSquare_38 : decode cX1_isOnSquare 38 = .ok (.iconst 0, 1) := dk_3 (dk_at dksX1_isOnSquare_1 14 rfl rfl)
theorem dX1_isOnSquare_39 : decode cX1_isOnSquare 39 = .ok (.ireturn, 1) := dk_172 (dk_at dksX1_isOnSquare_1 15 rfl rfl)
abbrev cX1_draws : ByteArray := prog_1_method_73_code
def yX1_draws : MethodName := ⟨RX1, "draws", "(IILSchemeLister$Line;ZI)I"⟩
def dkwX1_draws_4 : List UInt8 := [132, 7, 1, 167, 255, 199, 21, 6, 172]
abbrev dktX1_draws_4 : List UInt8 := dkwX1_draws_4 ++ []
def dkwX1_draws_3 : List UInt8 := [153, 0, 24, 21, 6, 42, 27, 4, 96, 28, 45, 21, 4, 21, 5, 21, 6, 96, 182, 1, 192, 96, 54, 6]
abbrev dktX1_draws_3 : List UInt8 := dkwX1_draws_3 ++ dktX1_draws_4
def dkwX1_draws_2 : List UInt8 := [21, 4, 154, 0, 8, 21, 6, 154, 0, 47, 42, 180, 0, 176, 27, 21, 7, 79, 42, 27, 45, 182, 1, 188]
abbrev dktX1_draws_2 : List UInt8 := dkwX1_draws_2 ++ dktX1_draws_3
def dkwX1_draws_1 : List UInt8 := [180, 0, 179, 3, 16, 8, 184, 0, 54, 4, 172, 3, 54, 6, 3, 54, 7, 21, 7, 28, 162, 0, 57]
abbrev dktX1_draws_1 : List UInt8 := dkwX1_draws_1 ++ dktX1_draws_2
def dkwX1_draws_0 : List UInt8 := [27, 42, 180, 0, 124, 180, 0, 1, 160, 0, 25, 21, 5, 154, 0, 18, 42, 180, 0, 176, 3, 42]
abbrev dktX1_draws_0 : List UInt8 := dkwX1_draws_0 ++ dktX1_draws_1
theorem dksX1_draws_0 : cX1_draws.data.toList.drop 0 = dktX1_draws_0 := by decide +kernel
theorem dksX1_draws_1 : cX1_draws.data.toList.drop 22 = dktX1_draws_1 := dk_seg dksX1_draws_0 22 rfl rfl
theorem dksX1_draws_2 : cX1_draws.data.toList.drop 45 = dktX1_draws_2 := dk_seg dksX1_draws_1 23 rfl rfl
theorem dksX1_draws_3 : cX1_draws.data.toList.drop 69 = dktX1_draws_3 := dk_seg dksX1_draws_2 24 rfl rfl
theorem dksX1_draws_4 : cX1_draws.data.toList.drop 93 = dktX1_draws_4 := dk_seg dksX1_draws_3 24 rfl rfl
theorem dX1_draws_0 : decode cX1_draws 0 = .ok (.iload_n 1, 1) := dk_27 (dk_at dksX1_draws_0 0 rfl rfl)
theorem dX1_draws_1 : decode cX1_draws 1 = .ok (.aload_n 0, 1) := dk_42 (dk_at dksX1_draws_0 1 rfl rfl)
theorem dX1_draws_2 : decode cX1_draws 2 = .ok (.getfield 124, 3) := dk_180 0 124 (dk_at dksX1_draws_0 2 rfl rfl)
theorem dX1_draws_5 : decode cX1_draws 5 = .ok (.getfield 1, 3) := dk_180 0 1 (dk_at dksX1_draws_0 5 rfl rfl)
theorem dX1_draws_8 : decode cX1_draws 8 = .ok (.if_icmp .ne 25, 3) := dk_160 0 25 (dk_at dksX1_draws_0 8 rfl rfl)
theorem dX1_draws_11 : decode cX1_draws 11 = .ok (.iload 5, 2) := dk_21 5 (dk_at dksX1_draws_0 11 rfl rfl)
theorem dX1_draws_13 : decode cX1_draws 13 = .ok (.ifCond .ne 18, 3) := dk_154 0 18 (dk_at dksX1_draws_0 13 rfl rfl)
theorem dX1_draws_16 : decode cX1_draws 16 = .ok (.aload_n 0, 1) := dk_42 (dk_at dksX1_draws_0 16 rfl rfl)
theorem dX1_draws_17 : decode cX1_draws 17 = .ok (.getfield 176, 3) := dk_180 0 176 (dk_at dksX1_draws_0 17 rfl rfl)
theorem dX1_draws_20 : decode cX1_draws 20 = .ok (.iconst 0, 1) := dk_3 (dk_at dksX1_draws_0 20 rfl rfl)
theorem dX1_draws_21 : decode cX1_draws 21 = .ok (.aload_n 0, 1) := dk_42 (dk_at dksX1_draws_0 21 rfl rfl)
theorem dX1_draws_22 : decode cX1_draws 22 = .ok (.getfield 179, 3) := dk_180 0 179 (dk_at dksX1_draws_1 0 rfl rfl)
theorem dX1_draws_25 : decode cX1_draws 25 = .ok (.iconst 0, 1) := dk_3 (dk_at dksX1_draws_1 3 rfl rfl)
theorem dX1_draws_26 : decode cX1_draws 26 = .ok (.bipush 8, 2) := dk_16 8 (dk_at dksX1_draws_1 4 rfl rfl)
theorem dX1_draws_28 : decode cX1_draws 28 = .ok (.invokestatic 54, 3) := dk_184 0 54 (dk_at dksX1_draws_1 6 rfl rfl)
theorem dX1_draws_31 : decode cX1_draws 31 = .ok (.iconst 1, 1) := dk_4 (dk_at dksX1_draws_1 9 rfl rfl)
theorem dX1_draws_32 : decode cX1_draws 32 = .ok (.ireturn, 1) := dk_172 (dk_at dksX1_draws_1 10 rfl rfl)
theorem dX1_draws_33 : decode cX1_draws 33 = .ok (.iconst 0, 1) := dk_3 (dk_at dksX1_draws_1 11 rfl rfl)
theorem dX1_draws_34 : decode cX1_draws 34 = .ok (.istore 6, 2) := dk_54 6 (dk_at dksX1_draws_1 12 rfl rfl)
theorem dX1_draws_36 : decode cX1_draws 36 = .ok (.iconst 0, 1) := dk_3 (dk_at dksX1_draws_1 14 rfl rfl)
theorem dX1_draws_37 : decode cX1_draws 37 = .ok (.istore 7, 2) := dk_54 7 (dk_at dksX1_draws_1 15 rfl rfl)
theorem dX1_draws_39 : decode cX1_draws 39 = .ok (.iload 7, 2) := dk_21 7 (dk_at dksX1_draws_1 17 rfl rfl)
theorem dX1_draws_41 : decode cX1_draws 41 = .ok (.iload_n 2, 1) := dk_28 (dk_at dksX1_draws_1 19 rfl rfl)
theorem dX1_draws_42 : decode cX1_draws 42 = .ok (.if_icmp .ge 57, 3) := dk_162 0 57 (dk_at dksX1_draws_1 20 rfl rfl)
theorem dX1_draws_45 : decode cX1_draws 45 = .ok (.iload 4, 2) := dk_21 4 (dk_at dksX1_draws_2 0 rfl rfl)
theorem dX1_draws_47 : decode cX1_draws 47 = .ok (.ifCond .ne 8, 3) := dk_154 0 8 (dk_at dksX1_draws_2 2 rfl rfl)
theorem dX1_draws_50 : decode cX1_draws 50 = .ok (.iload 6, 2) := dk_21 6 (dk_at dksX1_draws_2 5 rfl rfl)
theorem dX1_draws_52 : decode cX1_draws 52 = .ok (.ifCond .ne 47, 3) := dk_154 0 47 (dk_at dksX1_draws_2 7 rfl rfl)
theorem dX1_draws_55 : decode cX1_draws 55 = .ok (.aload_n 0, 1) := dk_42 (dk_at dksX1_draws_2 10 rfl rfl)
theorem dX1_draws_56 : decode cX1_draws 56 = .ok (.getfield 176, 3) := dk_180 0 176 (dk_at dksX1_draws_2 11 rfl rfl)
theorem dX1_draws_59 : decode cX1_draws 59 = .ok (.iload_n 1, 1) := dk_27 (dk_at dksX1_draws_2 14 rfl rfl)
theorem dX1_draws_60 : decode cX1_draws 60 = .ok (.iload 7, 2) := dk_21 7 (dk_at dksX1_draws_2 15 rfl rfl)
theorem dX1_draws_62 : decode cX1_draws 62 = .ok (.iastore, 1) := dk_79 (dk_at dksX1_draws_2 17 rfl rfl)
theorem dX1_draws_63 : decode cX1_draws 63 = .ok (.aload_n 0, 1) := dk_42 (dk_at dksX1_draws_2 18 rfl rfl)
theorem dX1_draws_64 : decode cX1_draws 64 = .ok (.iload_n 1, 1) := dk_27 (dk_at dksX1_draws_2 19 rfl rfl)
theorem dX1_draws_65 : decode cX1_draws 65 = .ok (.aload_n 3, 1) := dk_45 (dk_at dksX1_draws_2 20 rfl rfl)
theorem dX1_draws_66 : decode cX1_draws 66 = .ok (.invokevirtual 444, 3) := dk_182 1 188 (dk_at dksX1_draws_2 21 rfl rfl)
theorem dX1_draws_69 : decode cX1_draws 69 = .ok (.ifCond .eq 24, 3) := dk_153 0 24 (dk_at dksX1_draws_3 0 rfl rfl)
theorem dX1_draws_72 : decode cX1_draws 72 = .ok (.iload 6, 2) := dk_21 6 (dk_at dksX1_draws_3 3 rfl rfl)
theorem dX1_draws_74 : decode cX1_draws 74 = .ok (.aload_n 0, 1) := dk_42 (dk_at dksX1_draws_3 5 rfl rfl)
theorem dX1_draws_75 : decode cX1_draws 75 = .ok (.iload_n 1, 1) := dk_27 (dk_at dksX1_draws_3 6 rfl rfl)
theorem dX1_draws_76 : decode cX1_draws 76 = .ok (.iconst 1, 1) := dk_4 (dk_at dksX1_draws_3 7 rfl rfl)
theorem dX1_draws_77 : decode cX1_draws 77 = .ok (.iadd, 1) := dk_96 (dk_at dksX1_draws_3 8 rfl rfl)
theorem dX1_draws_78 : decode cX1_draws 78 = .ok (.iload_n 2, 1) := dk_28 (dk_at dksX1_draws_3 9 rfl rfl)
theorem dX1_draws_79 : decode cX1_draws 79 = .ok (.aload_n 3, 1) := dk_45 (dk_at dksX1_draws_3 10 rfl rfl)
theorem dX1_draws_80 : decode cX1_draws 80 = .ok (.iload 4, 2) := dk_21 4 (dk_at dksX1_draws_3 11 rfl rfl)
theorem dX1_draws_82 : decode cX1_draws 82 = .ok (.iload 5, 2) := dk_21 5 (dk_at dksX1_draws_3 13 rfl rfl)
theorem dX1_draws_84 : decode cX1_draws 84 = .ok (.iload 6, 2) := dk_21 6 (dk_at dksX1_draws_3 15 rfl rfl)
theorem dX1_draws_86 : decode cX1_draws 86 = .ok (.iadd, 1) := dk_96 (dk_at dksX1_draws_3 17 rfl rfl)
theorem dX1_draws_87 : decode cX1_draws 87 = .ok (.invokevirtual 448, 3) := dk_182 1 192 (dk_at dksX1_draws_3 18 rfl rfl)
theorem dX1_draws_90 : decode cX1_draws 90 = .ok (.iadd, 1) := dk_96 (dk_at dksX1_draws_3 21 rfl rfl)
theorem dX1_draws_91 : decode cX1_draws 91 = .ok (.istore 6, 2) := dk_54 6 (dk_at dksX1_draws_3 22 rfl rfl)
theorem dX1_draws_93 : decode cX1_draws 93 = .ok (.iinc 7 1, 3) := dk_132 7 1 (dk_at dksX1_draws_4 0 rfl rfl)
theorem dX1_draws_96 : decode cX1_draws 96 = .ok (.goto (-57), 3) := dk_167 255 199 (dk_at dksX1_draws_4 3 rfl rfl)
theorem dX1_draws_99 : decode cX1_draws 99 = .ok (.iload 6, 2) := dk_21 6 (dk_at dksX1_draws_4 6 rfl rfl)
theorem dX1_draws_101 : decode cX1_draws 101 = .ok (.ireturn, 1) := dk_172 (dk_at dksX1_draws_4 8 rfl rfl)
abbrev cX1_isDrawn : ByteArray := prog_1_method_72_code
def yX1_isDrawn : MethodName := ⟨RX1, "isDrawn", "(ILSchemeLister$Line;)Z"⟩
def dkwX1_isDrawn_4 : List UInt8 := [167, 255, 189, 132, 3, 1, 167, 255, 158, 4, 172]
abbrev dktX1_isDrawn_4 : List UInt8 := dkwX1_isDrawn_4 ++ []
def dkwX1_isDrawn_3 : List UInt8 := [21, 4, 120, 128, 182, 0, 228, 2, 159, 0, 7, 4, 167, 0, 4, 3, 159, 0, 5, 3, 172, 132, 4, 1]
abbrev dktX1_isDrawn_3 : List UInt8 := dkwX1_isDrawn_3 ++ dktX1_isDrawn_4
def dkwX1_isDrawn_2 : List UInt8 := [180, 0, 176, 21, 4, 46, 185, 1, 183, 4, 0, 42, 180, 0, 124, 4, 27, 120, 4, 29, 120, 128, 4]
abbrev dktX1_isDrawn_2 : List UInt8 := dkwX1_isDrawn_2 ++ dktX1_isDrawn_3
def dkwX1_isDrawn_1 : List UInt8 := [3, 54, 4, 21, 4, 29, 162, 0, 67, 44, 42, 180, 0, 176, 27, 46, 42, 180, 0, 176, 29, 46, 42]
abbrev dktX1_isDrawn_1 : List UInt8 := dkwX1_isDrawn_1 ++ dktX1_isDrawn_2
def dkwX1_isDrawn_0 : List UInt8 := [3, 62, 29, 27, 162, 0, 99, 42, 180, 0, 176, 29, 46, 42, 180, 0, 176, 27, 46, 160, 0, 5, 3, 172]
abbrev dktX1_isDrawn_0 : List UInt8 := dkwX1_isDrawn_0 ++ dktX1_isDrawn_1
theorem dksX1_isDrawn_0 : cX1_isDrawn.data.toList.drop 0 = dktX1_isDrawn_0 := by decide +kernel
theorem dksX1_isDrawn_1 : cX1_isDrawn.data.toList.drop 24 = dktX1_isDrawn_1 := dk_seg dksX1_isDrawn_0 24 rfl rfl
theorem dksX1_isDrawn_2 : cX1_isDrawn.data.toList.drop 47 = dktX1_isDrawn_2 := dk_seg dksX1_isDrawn_1 23 rfl rfl
theorem dksX1_isDrawn_3 : cX1_isDrawn.data.toList.drop 70 = dktX1_isDrawn_3 := dk_seg dksX1_isDrawn_2 23 rfl rfl
theorem dksX1_isDrawn_4 : cX1_isDrawn.data.toList.drop 94 = dktX1_isDrawn_4 := dk_seg dksX1_isDrawn_3 24 rfl rfl
theorem dX1_isDrawn_0 : decode cX1_isDrawn 0 = .ok (.iconst 0, 1) := dk_3 (dk_at dksX1_isDrawn_0 0 rfl rfl)
theorem dX1_isDrawn_1 : decode cX1_isDrawn 1 = .ok (.istore_n 3, 1) := dk_62 (dk_at dksX1_isDrawn_0 1 rfl rfl)
theorem dX1_isDrawn_2 : decode cX1_isDrawn 2 = .ok (.iload_n 3, 1) := dk_29 (dk_at dksX1_isDrawn_0 2 rfl rfl)
theorem dX1_isDrawn_3 : decode cX1_isDrawn 3 = .ok (.iload_n 1, 1) := dk_27 (dk_at dksX1_isDrawn_0 3 rfl rfl)
theorem dX1_isDrawn_4 : decode cX1_isDrawn 4 = .ok (.if_icmp .ge 99, 3) := dk_162 0 99 (dk_at dksX1_isDrawn_0 4 rfl rfl)
theorem dX1_isDrawn_7 : decode cX1_isDrawn 7 = .ok (.aload_n 0, 1) := dk_42 (dk_at dksX1_isDrawn_0 7 rfl rfl)
theorem dX1_isDrawn_8 : decode cX1_isDrawn 8 = .ok (.getfield 176, 3) := dk_180 0 176 (dk_at dksX1_isDrawn_0 8 rfl rfl)
theorem dX1_isDrawn_11 : decode cX1_isDrawn 11 = .ok (.iload_n 3, 1) := dk_29 (dk_at dksX1_isDrawn_0 11 rfl rfl)
theorem dX1_isDrawn_12 : decode cX1_isDrawn 12 = .ok (.iaload, 1) := dk_46 (dk_at dksX1_isDrawn_0 12 rfl rfl)
theorem dX1_isDrawn_13 : decode cX1_isDrawn 13 = .ok (.aload_n 0, 1) := dk_42 (dk_at dksX1_isDrawn_0 13 rfl rfl)
theorem dX1_isDrawn_14 : decode cX1_isDrawn 14 = .ok (.getfield 176, 3) := dk_180 0 176 (dk_at dksX1_isDrawn_0 14 rfl rfl)
theorem dX1_isDrawn_17 : decode cX1_isDrawn 17 = .ok (.iload_n 1, 1) := dk_27 (dk_at dksX1_isDrawn_0 17 rfl rfl)
theorem dX1_isDrawn_18 : decode cX1_isDrawn 18 = .ok (.iaload, 1) := dk_46 (dk_at dksX1_isDrawn_0 18 rfl rfl)
theorem dX1_isDrawn_19 : decode cX1_isDrawn 19 = .ok (.if_icmp .ne 5, 3) := dk_160 0 5 (dk_at dksX1_isDrawn_0 19 rfl rfl)
theorem dX1_isDrawn_22 : decode cX1_isDrawn 22 = .ok (.iconst 0, 1) := dk_3 (dk_at dksX1_isDrawn_0 22 rfl rfl)
theorem dX1_isDrawn_23 : decode cX1_isDrawn 23 = .ok (.ireturn, 1) := dk_172 (dk_at dksX1_isDrawn_0 23 rfl rfl)
theorem dX1_isDrawn_24 : decode cX1_isDrawn 24 = .ok (.iconst 0, 1) := dk_3 (dk_at dksX1_isDrawn_1 0 rfl rfl)
theorem dX1_isDrawn_25 : decode cX1_isDrawn 25 = .ok (.istore 4, 2) := dk_54 4 (dk_at dksX1_isDrawn_1 1 rfl rfl)
theorem dX1_isDrawn_27 : decode cX1_isDrawn 27 = .ok (.iload 4, 2) := dk_21 4 (dk_at dksX1_isDrawn_1 3 rfl rfl)
theorem dX1_isDrawn_29 : decode cX1_isDrawn 29 = .ok (.iload_n 3, 1) := dk_29 (dk_at dksX1_isDrawn_1 5 rfl rfl)
theorem dX1_isDrawn_30 : decode cX1_isDrawn 30 = .ok (.if_icmp .ge 67, 3) := dk_162 0 67 (dk_at dksX1_isDrawn_1 6 rfl rfl)
theorem dX1_isDrawn_33 : decode cX1_isDrawn 33 = .ok (.aload_n 2, 1) := dk_44 (dk_at dksX1_isDrawn_1 9 rfl rfl)
theorem dX1_isDrawn_34 : decode cX1_isDrawn 34 = .ok (.aload_n 0, 1) := dk_42 (dk_at dksX1_isDrawn_1 10 rfl rfl)
theorem dX1_isDrawn_35 : decode cX1_isDrawn 35 = .ok (.getfield 176, 3) := dk_180 0 176 (dk_at dksX1_isDrawn_1 11 rfl rfl)
theorem dX1_isDrawn_38 : decode cX1_isDrawn 38 = .ok (.iload_n 1, 1) := dk_27 (dk_at dksX1_isDrawn_1 14 rfl rfl)
theorem dX1_isDrawn_39 : decode cX1_isDrawn 39 = .ok (.iaload, 1) := dk_46 (dk_at dksX1_isDrawn_1 15 rfl rfl)
theorem dX1_isDrawn_40 : decode cX1_isDrawn 40 = .ok (.aload_n 0, 1) := dk_42 (dk_at dksX1_isDrawn_1 16 rfl rfl)
theorem dX1_isDrawn_41 : decode cX1_isDrawn 41 = .ok (.getfield 176, 3) := dk_180 0 176 (dk_at dksX1_isDrawn_1 17 rfl rfl)
theorem dX1_isDrawn_44 : decode cX1_isDrawn 44 = .ok (.iload_n 3, 1) := dk_29 (dk_at dksX1_isDrawn_1 20 rfl rfl)
theorem dX1_isDrawn_45 : decode cX1_isDrawn 45 = .ok (.iaload, 1) := dk_46 (dk_at dksX1_isDrawn_1 21 rfl rfl)
theorem dX1_isDrawn_46 : decode cX1_isDrawn 46 = .ok (.aload_n 0, 1) := dk_42 (dk_at dksX1_isDrawn_1 22 rfl rfl)
theorem dX1_isDrawn_47 : decode cX1_isDrawn 47 = .ok (.getfield 176, 3) := dk_180 0 176 (dk_at dksX1_isDrawn_2 0 rfl rfl)
theorem dX1_isDrawn_50 : decode cX1_isDrawn 50 = .ok (.iload 4, 2) := dk_21 4 (dk_at dksX1_isDrawn_2 3 rfl rfl)
theorem dX1_isDrawn_52 : decode cX1_isDrawn 52 = .ok (.iaload, 1) := dk_46 (dk_at dksX1_isDrawn_2 5 rfl rfl)
theorem dX1_isDrawn_53 : decode cX1_isDrawn 53 = .ok (.invokeinterface 439 4, 5) := by decide +kernel
theorem dX1_isDrawn_58 : decode cX1_isDrawn 58 = .ok (.aload_n 0, 1) := dk_42 (dk_at dksX1_isDrawn_2 11 rfl rfl)
theorem dX1_isDrawn_59 : decode cX1_isDrawn 59 = .ok (.getfield 124, 3) := dk_180 0 124 (dk_at dksX1_isDrawn_2 12 rfl rfl)
theorem dX1_isDrawn_62 : decode cX1_isDrawn 62 = .ok (.iconst 1, 1) := dk_4 (dk_at dksX1_isDrawn_2 15 rfl rfl)
theorem dX1_isDrawn_63 : decode cX1_isDrawn 63 = .ok (.iload_n 1, 1) := dk_27 (dk_at dksX1_isDrawn_2 16 rfl rfl)
theorem dX1_isDrawn_64 : decode cX1_isDrawn 64 = .ok (.ishl, 1) := dk_120 (dk_at dksX1_isDrawn_2 17 rfl rfl)
theorem dX1_isDrawn_65 : decode cX1_isDrawn 65 = .ok (.iconst 1, 1) := dk_4 (dk_at dksX1_isDrawn_2 18 rfl rfl)
theorem dX1_isDrawn_66 : decode cX1_isDrawn 66 = .ok (.iload_n 3, 1) := dk_29 (dk_at dksX1_isDrawn_2 19 rfl rfl)
theorem dX1_isDrawn_67 : decode cX1_isDrawn 67 = .ok (.ishl, 1) := dk_120 (dk_at dksX1_isDrawn_2 20 rfl rfl)
theorem dX1_isDrawn_68 : decode cX1_isDrawn 68 = .ok (.ior, 1) := dk_128 (dk_at dksX1_isDrawn_2 21 rfl rfl)
theorem dX1_isDrawn_69 : decode cX1_isDrawn 69 = .ok (.iconst 1, 1) := dk_4 (dk_at dksX1_isDrawn_2 22 rfl rfl)
theorem dX1_isDrawn_70 : decode cX1_isDrawn 70 = .ok (.iload 4, 2) := dk_21 4 (dk_at dksX1_isDrawn_3 0 rfl rfl)
theorem dX1_isDrawn_72 : decode cX1_isDrawn 72 = .ok (.ishl, 1) := dk_120 (dk_at dksX1_isDrawn_3 2 rfl rfl)
theorem dX1_isDrawn_73 : decode cX1_isDrawn 73 = .ok (.ior, 1) := dk_128 (dk_at dksX1_isDrawn_3 3 rfl rfl)
theorem dX1_isDrawn_74 : decode cX1_isDrawn 74 = .ok (.invokevirtual 228, 3) := dk_182 0 228 (dk_at dksX1_isDrawn_3 4 rfl rfl)
theorem dX1_isDrawn_77 : decode cX1_isDrawn 77 = .ok (.iconst (-1), 1) := dk_2 (dk_at dksX1_isDrawn_3 7 rfl rfl)
theorem dX1_isDrawn_78 : decode cX1_isDrawn 78 = .ok (.if_icmp .eq 7, 3) := dk_159 0 7 (dk_at dksX1_isDrawn_3 8 rfl rfl)
theorem dX1_isDrawn_81 : decode cX1_isDrawn 81 = .ok (.iconst 1, 1) := dk_4 (dk_at dksX1_isDrawn_3 11 rfl rfl)
theorem dX1_isDrawn_82 : decode cX1_isDrawn 82 = .ok (.goto 4, 3) := dk_167 0 4 (dk_at dksX1_isDrawn_3 12 rfl rfl)
theorem dX1_isDrawn_85 : decode cX1_isDrawn 85 = .ok (.iconst 0, 1) := dk_3 (dk_at dksX1_isDrawn_3 15 rfl rfl)
theorem dX1_isDrawn_86 : decode cX1_isDrawn 86 = .ok (.if_icmp .eq 5, 3) := dk_159 0 5 (dk_at dksX1_isDrawn_3 16 rfl rfl)
theorem dX1_isDrawn_89 : decode cX1_isDrawn 89 = .ok (.iconst 0, 1) := dk_3 (dk_at dksX1_isDrawn_3 19 rfl rfl)
theorem dX1_isDrawn_90 : decode cX1_isDrawn 90 = .ok (.ireturn, 1) := dk_172 (dk_at dksX1_isDrawn_3 20 rfl rfl)
theorem dX1_isDrawn_91 : decode cX1_isDrawn 91 = .ok (.iinc 4 1, 3) := dk_132 4 1 (dk_at dksX1_isDrawn_3 21 rfl rfl)
theorem dX1_isDrawn_94 : decode cX1_isDrawn 94 = .ok (.goto (-67), 3) := dk_167 255 189 (dk_at dksX1_isDrawn_4 0 rfl rfl)
theorem dX1_isDrawn_97 : decode cX1_isDrawn 97 = .ok (.iinc 3 1, 3) := dk_132 3 1 (dk_at dksX1_isDrawn_4 3 rfl rfl)
theorem dX1_isDrawn_100 : decode cX1_isDrawn 100 = .ok (.goto (-98), 3) := dk_167 255 158 (dk_at dksX1_isDrawn_4 6 rfl rfl)
theorem dX1_isDrawn_103 : decode cX1_isDrawn 103 = .ok (.iconst 1, 1) := dk_4 (dk_at dksX1_isDrawn_4 9 rfl rfl)
theorem dX1_isDrawn_104 : decode cX1_isDrawn 104 = .ok (.ireturn, 1) := dk_172 (dk_at dksX1_isDrawn_4 10 rfl rfl)
abbrev cX1_plane : ByteArray := prog_1_method_75_code
def yX1_plane : MethodName := ⟨RX1, "plane", "(II)I"⟩
def dkwX1_plane_3 : List UInt8 := [160, 0, 8, 21, 4, 167, 0, 18, 21, 4, 154, 0, 7, 2, 167, 0, 9, 42, 180, 0, 179, 28, 46, 172]
abbrev dktX1_plane_3 : List UInt8 := dkwX1_plane_3 ++ []
def dkwX1_plane_2 : List UInt8 := [186, 1, 202, 0, 0, 28, 2, 160, 0, 7, 4, 167, 0, 4, 3, 3, 182, 1, 192, 54, 4, 28, 2]
abbrev dktX1_plane_2 : List UInt8 := dkwX1_plane_2 ++ dktX1_plane_3
def dkwX1_plane_1 : List UInt8 := [27, 5, 6, 184, 0, 88, 184, 0, 92, 42, 27, 182, 1, 199, 62, 42, 3, 29, 42, 27]
abbrev dktX1_plane_1 : List UInt8 := dkwX1_plane_1 ++ dktX1_plane_2
def dkwX1_plane_0 : List UInt8 := [28, 2, 159, 0, 14, 42, 180, 0, 124, 28, 182, 1, 97, 153, 0, 7, 4, 167, 0, 4, 3, 184, 0, 110]
abbrev dktX1_plane_0 : List UInt8 := dkwX1_plane_0 ++ dktX1_plane_1
theorem dksX1_plane_0 : cX1_plane.data.toList.drop 0 = dktX1_plane_0 := by decide +kernel
theorem dksX1_plane_1 : cX1_plane.data.toList.drop 24 = dktX1_plane_1 := dk_seg dksX1_plane_0 24 rfl rfl
theorem dksX1_plane_2 : cX1_plane.data.toList.drop 44 = dktX1_plane_2 := dk_seg dksX1_plane_1 20 rfl rfl
theorem dksX1_plane_3 : cX1_plane.data.toList.drop 67 = dktX1_plane_3 := dk_seg dksX1_plane_2 23 rfl rfl
theorem dX1_plane_0 : decode cX1_plane 0 = .ok (.iload_n 2, 1) := dk_28 (dk_at dksX1_plane_0 0 rfl rfl)
theorem dX1_plane_1 : decode cX1_plane 1 = .ok (.iconst (-1), 1) := dk_2 (dk_at dksX1_plane_0 1 rfl rfl)
theorem dX1_plane_2 : decode cX1_plane 2 = .ok (.if_icmp .eq 14, 3) := dk_159 0 14 (dk_at dksX1_plane_0 2 rfl rfl)
theorem dX1_plane_5 : decode cX1_plane 5 = .ok (.aload_n 0, 1) := dk_42 (dk_at dksX1_plane_0 5 rfl rfl)
theorem dX1_plane_6 : decode cX1_plane 6 = .ok (.getfield 124, 3) := dk_180 0 124 (dk_at dksX1_plane_0 6 rfl rfl)
theorem dX1_plane_9 : decode cX1_plane 9 = .ok (.iload_n 2, 1) := dk_28 (dk_at dksX1_plane_0 9 rfl rfl)
theorem dX1_plane_10 : decode cX1_plane 10 = .ok (.invokevirtual 353, 3) := dk_182 1 97 (dk_at dksX1_plane_0 10 rfl rfl)
theorem dX1_plane_13 : decode cX1_plane 13 = .ok (.ifCond .eq 7, 3) := dk_153 0 7 (dk_at dksX1_plane_0 13 rfl rfl)
theorem dX1_plane_16 : decode cX1_plane 16 = .ok (.iconst 1, 1) := dk_4 (dk_at dksX1_plane_0 16 rfl rfl)
theorem dX1_plane_17 : decode cX1_plane 17 = .ok (.goto 4, 3) := dk_167 0 4 (dk_at dksX1_plane_0 17 rfl rfl)
theorem dX1_plane_20 : decode cX1_plane 20 = .ok (.iconst 0, 1) := dk_3 (dk_at dksX1_plane_0 20 rfl rfl)
theorem dX1_plane_21 : decode cX1_plane 21 = .ok (.invokestatic 110, 3) := dk_184 0 110 (dk_at dksX1_plane_0 21 rfl rfl)
theorem dX1_plane_24 : decode cX1_plane 24 = .ok (.iload_n 1, 1) := dk_27 (dk_at dksX1_plane_1 0 rfl rfl)
theorem dX1_plane_25 : decode cX1_plane 25 = .ok (.iconst 2, 1) := dk_5 (dk_at dksX1_plane_1 1 rfl rfl)
theorem dX1_plane_26 : decode cX1_plane 26 = .ok (.iconst 3, 1) := dk_6 (dk_at dksX1_plane_1 2 rfl rfl)
theorem dX1_plane_27 : decode cX1_plane 27 = .ok (.invokestatic 88, 3) := dk_184 0 88 (dk_at dksX1_plane_1 3 rfl rfl)
theorem dX1_plane_30 : decode cX1_plane 30 = .ok (.invokestatic 92, 3) := dk_184 0 92 (dk_at dksX1_plane_1 6 rfl rfl)
theorem dX1_plane_33 : decode cX1_plane 33 = .ok (.aload_n 0, 1) := dk_42 (dk_at dksX1_plane_1 9 rfl rfl)
theorem dX1_plane_34 : decode cX1_plane 34 = .ok (.iload_n 1, 1) := dk_27 (dk_at dksX1_plane_1 10 rfl rfl)
theorem dX1_plane_35 : decode cX1_plane 35 = .ok (.invokevirtual 455, 3) := dk_182 1 199 (dk_at dksX1_plane_1 11 rfl rfl)
theorem dX1_plane_38 : decode cX1_plane 38 = .ok (.istore_n 3, 1) := dk_62 (dk_at dksX1_plane_1 14 rfl rfl)
theorem dX1_plane_39 : decode cX1_plane 39 = .ok (.aload_n 0, 1) := dk_42 (dk_at dksX1_plane_1 15 rfl rfl)
theorem dX1_plane_40 : decode cX1_plane 40 = .ok (.iconst 0, 1) := dk_3 (dk_at dksX1_plane_1 16 rfl rfl)
theorem dX1_plane_41 : decode cX1_plane 41 = .ok (.iload_n 3, 1) := dk_29 (dk_at dksX1_plane_1 17 rfl rfl)
theorem dX1_plane_42 : decode cX1_plane 42 = .ok (.aload_n 0, 1) := dk_42 (dk_at dksX1_plane_1 18 rfl rfl)
theorem dX1_plane_43 : decode cX1_plane 43 = .ok (.iload_n 1, 1) := dk_27 (dk_at dksX1_plane_1 19 rfl rfl)
theorem dX1_plane_44 : decode cX1_plane 44 = .ok (.invokedynamic 458, 5) := by decide +kernel
theorem dX1_plane_49 : decode cX1_plane 49 = .ok (.iload_n 2, 1) := dk_28 (dk_at dksX1_plane_2 5 rfl rfl)
theorem dX1_plane_50 : decode cX1_plane 50 = .ok (.iconst (-1), 1) := dk_2 (dk_at dksX1_plane_2 6 rfl rfl)
theorem dX1_plane_51 : decode cX1_plane 51 = .ok (.if_icmp .ne 7, 3) := dk_160 0 7 (dk_at dksX1_plane_2 7 rfl rfl)
theorem dX1_plane_54 : decode cX1_plane 54 = .ok (.iconst 1, 1) := dk_4 (dk_at dksX1_plane_2 10 rfl rfl)
theorem dX1_plane_55 : decode cX1_plane 55 = .ok (.goto 4, 3) := dk_167 0 4 (dk_at dksX1_plane_2 11 rfl rfl)
theorem dX1_plane_58 : decode cX1_plane 58 = .ok (.iconst 0, 1) := dk_3 (dk_at dksX1_plane_2 14 rfl rfl)
theorem dX1_plane_59 : decode cX1_plane 59 = .ok (.iconst 0, 1) := dk_3 (dk_at dksX1_plane_2 15 rfl rfl)
theorem dX1_plane_60 : decode cX1_plane 60 = .ok (.invokevirtual 448, 3) := dk_182 1 192 (dk_at dksX1_plane_2 16 rfl rfl)
theorem dX1_plane_63 : decode cX1_plane 63 = .ok (.istore 4, 2) := dk_54 4 (dk_at dksX1_plane_2 19 rfl rfl)
theorem dX1_plane_65 : decode cX1_plane 65 = .ok (.iload_n 2, 1) := dk_28 (dk_at dksX1_plane_2 21 rfl rfl)
theorem dX1_plane_66 : decode cX1_plane 66 = .ok (.iconst (-1), 1) := dk_2 (dk_at dksX1_plane_2 22 rfl rfl)
theorem dX1_plane_67 : decode cX1_plane 67 = .ok (.if_icmp .ne 8, 3) := dk_160 0 8 (dk_at dksX1_plane_3 0 rfl rfl)
theorem dX1_plane_70 : decode cX1_plane 70 = .ok (.iload 4, 2) := dk_21 4 (dk_at dksX1_plane_3 3 rfl rfl)
theorem dX1_plane_72 : decode cX1_plane 72 = .ok (.goto 18, 3) := dk_167 0 18 (dk_at dksX1_plane_3 5 rfl rfl)
theorem dX1_plane_75 : decode cX1_plane 75 = .ok (.iload 4, 2) := dk_21 4 (dk_at dksX1_plane_3 8 rfl rfl)
theorem dX1_plane_77 : decode cX1_plane 77 = .ok (.ifCond .ne 7, 3) := dk_154 0 7 (dk_at dksX1_plane_3 10 rfl rfl)
theorem dX1_plane_80 : decode cX1_plane 80 = .ok (.iconst (-1), 1) := dk_2 (dk_at dksX1_plane_3 13 rfl rfl)
theorem dX1_plane_81 : decode cX1_plane 81 = .ok (.goto 9, 3) := dk_167 0 9 (dk_at dksX1_plane_3 14 rfl rfl)
theorem dX1_plane_84 : decode cX1_plane 84 = .ok (.aload_n 0, 1) := dk_42 (dk_at dksX1_plane_3 17 rfl rfl)
theorem dX1_plane_85 : decode cX1_plane 85 = .ok (.getfield 179, 3) := dk_180 0 179 (dk_at dksX1_plane_3 18 rfl rfl)
theorem dX1_plane_88 : decode cX1_plane 88 = .ok (.iload_n 2, 1) := dk_28 (dk_at dksX1_plane_3 21 rfl rfl)
theorem dX1_plane_89 : decode cX1_plane 89 = .ok (.iaload, 1) := dk_46 (dk_at dksX1_plane_3 22 rfl rfl)
theorem dX1_plane_90 : decode cX1_plane 90 = .ok (.ireturn, 1) := dk_172 (dk_at dksX1_plane_3 23 rfl rfl)
abbrev cX1_laysPlane : ByteArray := prog_1_method_70_code
def yX1_laysPlane : MethodName := ⟨RX1, "laysPlane", "(I)I"⟩
def dkwX1_laysPlane_4 : List UInt8 := [28, 172]
abbrev dktX1_laysPlane_4 : List UInt8 := dkwX1_laysPlane_4 ++ []
def dkwX1_laysPlane_3 : List UInt8 := [180, 0, 170, 28, 21, 5, 79, 42, 180, 0, 173, 28, 21, 6, 79, 132, 2, 1, 132, 3, 1, 167, 255, 169]
abbrev dktX1_laysPlane_3 : List UInt8 := dkwX1_laysPlane_3 ++ dktX1_laysPlane_4
def dkwX1_laysPlane_2 : List UInt8 := [21, 5, 167, 0, 5, 21, 6, 4, 159, 0, 6, 167, 0, 30, 42, 180, 0, 167, 28, 21, 4, 79, 42]
abbrev dktX1_laysPlane_2 : List UInt8 := dkwX1_laysPlane_2 ++ dktX1_laysPlane_3
def dkwX1_laysPlane_1 : List UInt8 := [112, 54, 5, 29, 27, 112, 54, 6, 21, 4, 153, 0, 8, 21, 4, 167, 0, 15, 21, 5, 153, 0, 8]
abbrev dktX1_laysPlane_1 : List UInt8 := dkwX1_laysPlane_1 ++ dktX1_laysPlane_2
def dkwX1_laysPlane_0 : List UInt8 := [3, 61, 4, 62, 29, 27, 27, 104, 27, 104, 162, 0, 84, 29, 27, 27, 104, 108, 54, 4, 29, 27, 108, 27]
abbrev dktX1_laysPlane_0 : List UInt8 := dkwX1_laysPlane_0 ++ dktX1_laysPlane_1
theorem dksX1_laysPlane_0 : cX1_laysPlane.data.toList.drop 0 = dktX1_laysPlane_0 := by decide +kernel
theorem dksX1_laysPlane_1 : cX1_laysPlane.data.toList.drop 24 = dktX1_laysPlane_1 := dk_seg dksX1_laysPlane_0 24 rfl rfl
theorem dksX1_laysPlane_2 : cX1_laysPlane.data.toList.drop 47 = dktX1_laysPlane_2 := dk_seg dksX1_laysPlane_1 23 rfl rfl
theorem dksX1_laysPlane_3 : cX1_laysPlane.data.toList.drop 70 = dktX1_laysPlane_3 := dk_seg dksX1_laysPlane_2 23 rfl rfl
theorem dksX1_laysPlane_4 : cX1_laysPlane.data.toList.drop 94 = dktX1_laysPlane_4 := dk_seg dksX1_laysPlane_3 24 rfl rfl
theorem dX1_laysPlane_0 : decode cX1_laysPlane 0 = .ok (.iconst 0, 1) := dk_3 (dk_at dksX1_laysPlane_0 0 rfl rfl)
theorem dX1_laysPlane_1 : decode cX1_laysPlane 1 = .ok (.istore_n 2, 1) := dk_61 (dk_at dksX1_laysPlane_0 1 rfl rfl)
theorem dX1_laysPlane_2 : decode cX1_laysPlane 2 = .ok (.iconst 1, 1) := dk_4 (dk_at dksX1_laysPlane_0 2 rfl rfl)
theorem dX1_laysPlane_3 : decode cX1_laysPlane 3 = .ok (.istore_n 3, 1) := dk_62 (dk_at dksX1_laysPlane_0 3 rfl rfl)
theorem dX1_laysPlane_4 : decode cX1_laysPlane 4 = .ok (.iload_n 3, 1) := dk_29 (dk_at dksX1_laysPlane_0 4 rfl rfl)
theorem dX1_laysPlane_5 : decode cX1_laysPlane 5 = .ok (.iload_n 1, 1) := dk_27 (dk_at dksX1_laysPlane_0 5 rfl rfl)
theorem dX1_laysPlane_6 : decode cX1_laysPlane 6 = .ok (.iload_n 1, 1) := dk_27 (dk_at dksX1_laysPlane_0 6 rfl rfl)
theorem dX1_laysPlane_7 : decode cX1_laysPlane 7 = .ok (.imul, 1) := dk_104 (dk_at dksX1_laysPlane_0 7 rfl rfl)
theorem dX1_laysPlane_8 : decode cX1_laysPlane 8 = .ok (.iload_n 1, 1) := dk_27 (dk_at dksX1_laysPlane_0 8 rfl rfl)
theorem dX1_laysPlane_9 : decode cX1_laysPlane 9 = .ok (.imul, 1) := dk_104 (dk_at dksX1_laysPlane_0 9 rfl rfl)
theorem dX1_laysPlane_10 : decode cX1_laysPlane 10 = .ok (.if_icmp .ge 84, 3) := dk_162 0 84 (dk_at dksX1_laysPlane_0 10 rfl rfl)
theorem dX1_laysPlane_13 : decode cX1_laysPlane 13 = .ok (.iload_n 3, 1) := dk_29 (dk_at dksX1_laysPlane_0 13 rfl rfl)
theorem dX1_laysPlane_14 : decode cX1_laysPlane 14 = .ok (.iload_n 1, 1) := dk_27 (dk_at dksX1_laysPlane_0 14 rfl rfl)
theorem dX1_laysPlane_15 : decode cX1_laysPlane 15 = .ok (.iload_n 1, 1) := dk_27 (dk_at dksX1_laysPlane_0 15 rfl rfl)
theorem dX1_laysPlane_16 : decode cX1_laysPlane 16 = .ok (.imul, 1) := dk_104 (dk_at dksX1_laysPlane_0 16 rfl rfl)
theorem dX1_laysPlane_17 : decode cX1_laysPlane 17 = .ok (.idiv, 1) := dk_108 (dk_at dksX1_laysPlane_0 17 rfl rfl)
theorem dX1_laysPlane_18 : decode cX1_laysPlane 18 = .ok (.istore 4, 2) := dk_54 4 (dk_at dksX1_laysPlane_0 18 rfl rfl)
theorem dX1_laysPlane_20 : decode cX1_laysPlane 20 = .ok (.iload_n 3, 1) := dk_29 (dk_at dksX1_laysPlane_0 20 rfl rfl)
theorem dX1_laysPlane_21 : decode cX1_laysPlane 21 = .ok (.iload_n 1, 1) := dk_27 (dk_at dksX1_laysPlane_0 21 rfl rfl)
theorem dX1_laysPlane_22 : decode cX1_laysPlane 22 = .ok (.idiv, 1) := dk_108 (dk_at dksX1_laysPlane_0 22 rfl rfl)
theorem dX1_laysPlane_23 : decode cX1_laysPlane 23 = .ok (.iload_n 1, 1) := dk_27 (dk_at dksX1_laysPlane_0 23 rfl rfl)
theorem dX1_laysPlane_24 : decode cX1_laysPlane 24 = .ok (.irem, 1) := dk_112 (dk_at dksX1_laysPlane_1 0 rfl rfl)
theorem dX1_laysPlane_25 : decode cX1_laysPlane 25 = .ok (.istore 5, 2) := dk_54 5 (dk_at dksX1_laysPlane_1 1 rfl rfl)
theorem dX1_laysPlane_27 : decode cX1_laysPlane 27 = .ok (.iload_n 3, 1) := dk_29 (dk_at dksX1_laysPlane_1 3 rfl rfl)
theorem dX1_laysPlane_28 : decode cX1_laysPlane 28 = .ok (.iload_n 1, 1) := dk_27 (dk_at dksX1_laysPlane_1 4 rfl rfl)
theorem dX1_laysPlane_29 : decode cX1_laysPlane 29 = .ok (.irem, 1) := dk_112 (dk_at dksX1_laysPlane_1 5 rfl rfl)
theorem dX1_laysPlane_30 : decode cX1_laysPlane 30 = .ok (.istore 6, 2) := dk_54 6 (dk_at dksX1_laysPlane_1 6 rfl rfl)
theorem dX1_laysPlane_32 : decode cX1_laysPlane 32 = .ok (.iload 4, 2) := dk_21 4 (dk_at dksX1_laysPlane_1 8 rfl rfl)
theorem dX1_laysPlane_34 : decode cX1_laysPlane 34 = .ok (.ifCond .eq 8, 3) := dk_153 0 8 (dk_at dksX1_laysPlane_1 10 rfl rfl)
theorem dX1_laysPlane_37 : decode cX1_laysPlane 37 = .ok (.iload 4, 2) := dk_21 4 (dk_at dksX1_laysPlane_1 13 rfl rfl)
theorem dX1_laysPlane_39 : decode cX1_laysPlane 39 = .ok (.goto 15, 3) := dk_167 0 15 (dk_at dksX1_laysPlane_1 15 rfl rfl)
theorem dX1_laysPlane_42 : decode cX1_laysPlane 42 = .ok (.iload 5, 2) := dk_21 5 (dk_at dksX1_laysPlane_1 18 rfl rfl)
theorem dX1_laysPlane_44 : decode cX1_laysPlane 44 = .ok (.ifCond .eq 8, 3) := dk_153 0 8 (dk_at dksX1_laysPlane_1 20 rfl rfl)
theorem dX1_laysPlane_47 : decode cX1_laysPlane 47 = .ok (.iload 5, 2) := dk_21 5 (dk_at dksX1_laysPlane_2 0 rfl rfl)
theorem dX1_laysPlane_49 : decode cX1_laysPlane 49 = .ok (.goto 5, 3) := dk_167 0 5 (dk_at dksX1_laysPlane_2 2 rfl rfl)
theorem dX1_laysPlane_52 : decode cX1_laysPlane 52 = .ok (.iload 6, 2) := dk_21 6 (dk_at dksX1_laysPlane_2 5 rfl rfl)
theorem dX1_laysPlane_54 : decode cX1_laysPlane 54 = .ok (.iconst 1, 1) := dk_4 (dk_at dksX1_laysPlane_2 7 rfl rfl)
theorem dX1_laysPlane_55 : decode cX1_laysPlane 55 = .ok (.if_icmp .eq 6, 3) := dk_159 0 6 (dk_at dksX1_laysPlane_2 8 rfl rfl)
theorem dX1_laysPlane_58 : decode cX1_laysPlane 58 = .ok (.goto 30, 3) := dk_167 0 30 (dk_at dksX1_laysPlane_2 11 rfl rfl)
theorem dX1_laysPlane_61 : decode cX1_laysPlane 61 = .ok (.aload_n 0, 1) := dk_42 (dk_at dksX1_laysPlane_2 14 rfl rfl)
theorem dX1_laysPlane_62 : decode cX1_laysPlane 62 = .ok (.getfield 167, 3) := dk_180 0 167 (dk_at dksX1_laysPlane_2 15 rfl rfl)
theorem dX1_laysPlane_65 : decode cX1_laysPlane 65 = .ok (.iload_n 2, 1) := dk_28 (dk_at dksX1_laysPlane_2 18 rfl rfl)
theorem dX1_laysPlane_66 : decode cX1_laysPlane 66 = .ok (.iload 4, 2) := dk_21 4 (dk_at dksX1_laysPlane_2 19 rfl rfl)
theorem dX1_laysPlane_68 : decode cX1_laysPlane 68 = .ok (.iastore, 1) := dk_79 (dk_at dksX1_laysPlane_2 21 rfl rfl)
theorem dX1_laysPlane_69 : decode cX1_laysPlane 69 = .ok (.aload_n 0, 1) := dk_42 (dk_at dksX1_laysPlane_2 22 rfl rfl)
theorem dX1_laysPlane_70 : decode cX1_laysPlane 70 = .ok (.getfield 170, 3) := dk_180 0 170 (dk_at dksX1_laysPlane_3 0 rfl rfl)
theorem dX1_laysPlane_73 : decode cX1_laysPlane 73 = .ok (.iload_n 2, 1) := dk_28 (dk_at dksX1_laysPlane_3 3 rfl rfl)
theorem dX1_laysPlane_74 : decode cX1_laysPlane 74 = .ok (.iload 5, 2) := dk_21 5 (dk_at dksX1_laysPlane_3 4 rfl rfl)
theorem dX1_laysPlane_76 : decode cX1_laysPlane 76 = .ok (.iastore, 1) := dk_79 (dk_at dksX1_laysPlane_3 6 rfl rfl)
theorem dX1_laysPlane_77 : decode cX1_laysPlane 77 = .ok (.aload_n 0, 1) := dk_42 (dk_at dksX1_laysPlane_3 7 rfl rfl)
theorem dX1_laysPlane_78 : decode cX1_laysPlane 78 = .ok (.getfield 173, 3) := dk_180 0 173 (dk_at dksX1_laysPlane_3 8 rfl rfl)
theorem dX1_laysPlane_81 : decode cX1_laysPlane 81 = .ok (.iload_n 2, 1) := dk_28 (dk_at dksX1_laysPlane_3 11 rfl rfl)
theorem dX1_laysPlane_82 : decode cX1_laysPlane 82 = .ok (.iload 6, 2) := dk_21 6 (dk_at dksX1_laysPlane_3 12 rfl rfl)
theorem dX1_laysPlane_84 : decode cX1_laysPlane 84 = .ok (.iastore, 1) := dk_79 (dk_at dksX1_laysPlane_3 14 rfl rfl)
theorem dX1_laysPlane_85 : decode cX1_laysPlane 85 = .ok (.iinc 2 1, 3) := dk_132 2 1 (dk_at dksX1_laysPlane_3 15 rfl rfl)
theorem dX1_laysPlane_88 : decode cX1_laysPlane 88 = .ok (.iinc 3 1, 3) := dk_132 3 1 (dk_at dksX1_laysPlane_3 18 rfl rfl)
theorem dX1_laysPlane_91 : decode cX1_laysPlane 91 = .ok (.goto (-87), 3) := dk_167 255 169 (dk_at dksX1_laysPlane_3 21 rfl rfl)
theorem dX1_laysPlane_94 : decode cX1_laysPlane 94 = .ok (.iload_n 2, 1) := dk_28 (dk_at dksX1_laysPlane_4 0 rfl rfl)
theorem dX1_laysPlane_95 : decode cX1_laysPlane 95 = .ok (.ireturn, 1) := dk_172 (dk_at dksX1_laysPlane_4 1 rfl rfl)
abbrev cX1_lambda_plane_8 : ByteArray := prog_1_method_94_code
def yX1_lambda_plane_8 : MethodName := ⟨RX1, "lambda$plane$8", "(IIII)Z"⟩
def dkwX1_lambda_plane_8_0 : List UInt8 := [42, 27, 28, 29, 21, 4, 182, 1, 251, 172]
abbrev dktX1_lambda_plane_8_0 : List UInt8 := dkwX1_lambda_plane_8_0 ++ []
theorem dksX1_lambda_plane_8_0 : cX1_lambda_plane_8.data.toList.drop 0 = dktX1_lambda_plane_8_0 := by decide +kernel
theorem dX1_lambda_plane_8_0 : decode cX1_lambda_plane_8 0 = .ok (.aload_n 0, 1) := dk_42 (dk_at dksX1_lambda_plane_8_0 0 rfl rfl)
theorem dX1_lambda_plane_8_1 : decode cX1_lambda_plane_8 1 = .ok (.iload_n 1, 1) := dk_27 (dk_at dksX1_lambda_plane_8_0 1 rfl rfl)
theorem dX1_lambda_plane_8_2 : decode cX1_lambda_plane_8 2 = .ok (.iload_n 2, 1) := dk_28 (dk_at dksX1_lambda_plane_8_0 2 rfl rfl)
theorem dX1_lambda_plane_8_3 : decode cX1_lambda_plane_8 3 = .ok (.iload_n 3, 1) := dk_29 (dk_at dksX1_lambda_plane_8_0 3 rfl rfl)
theorem dX1_lambda_plane_8_4 : decode cX1_lambda_plane_8 4 = .ok (.iload 4, 2) := dk_21 4 (dk_at dksX1_lambda_plane_8_0 4 rfl rfl)
theorem dX1_lambda_plane_8_6 : decode cX1_lambda_plane_8 6 = .ok (.invokevirtual 507, 3) := dk_182 1 251 (dk_at dksX1_lambda_plane_8_0 6 rfl rfl)
theorem dX1_lambda_plane_8_9 : decode cX1_lambda_plane_8 9 = .ok (.ireturn, 1) := dk_172 (dk_at dksX1_lambda_plane_8_0 9 rfl rfl)
abbrev cX1_isOnPlane : ByteArray := prog_1_method_71_code
def yX1_isOnPlane : MethodName := ⟨RX1, "isOnPlane", "(IIII)Z"⟩
def dkwX1_isOnPlane_5 : List UInt8 := [4, 167, 0, 4, 3, 172]
abbrev dktX1_isOnPlane_5 : List UInt8 := dkwX1_isOnPlane_5 ++ []
def dkwX1_isOnPlane_4 : List UInt8 := [21, 4, 46, 42, 180, 0, 170, 21, 4, 46, 184, 1, 30, 104, 96, 54, 5, 21, 5, 27, 112, 154, 0, 7]
abbrev dktX1_isOnPlane_4 : List UInt8 := dkwX1_isOnPlane_4 ++ dktX1_isOnPlane_5
def dkwX1_isOnPlane_3 : List UInt8 := [100, 42, 180, 0, 173, 28, 46, 42, 180, 0, 167, 29, 46, 42, 180, 0, 170, 29, 46, 42, 180, 0, 167]
abbrev dktX1_isOnPlane_3 : List UInt8 := dkwX1_isOnPlane_3 ++ dktX1_isOnPlane_4
def dkwX1_isOnPlane_2 : List UInt8 := [42, 180, 0, 173, 29, 46, 42, 180, 0, 167, 21, 4, 46, 42, 180, 0, 173, 21, 4, 46, 184, 1, 30, 104]
abbrev dktX1_isOnPlane_2 : List UInt8 := dkwX1_isOnPlane_2 ++ dktX1_isOnPlane_3
def dkwX1_isOnPlane_1 : List UInt8 := [46, 42, 180, 0, 173, 21, 4, 46, 184, 1, 30, 104, 42, 180, 0, 170, 28, 46, 42, 180, 0, 167, 29, 46]
abbrev dktX1_isOnPlane_1 : List UInt8 := dkwX1_isOnPlane_1 ++ dktX1_isOnPlane_2
def dkwX1_isOnPlane_0 : List UInt8 := [42, 180, 0, 167, 28, 46, 42, 180, 0, 170, 29, 46, 42, 180, 0, 173, 29, 46, 42, 180, 0, 170, 21, 4]
abbrev dktX1_isOnPlane_0 : List UInt8 := dkwX1_isOnPlane_0 ++ dktX1_isOnPlane_1
theorem dksX1_isOnPlane_0 : cX1_isOnPlane.data.toList.drop 0 = dktX1_isOnPlane_0 := by decide +kernel
theorem dksX1_isOnPlane_1 : cX1_isOnPlane.data.toList.drop 24 = dktX1_isOnPlane_1 := dk_seg dksX1_isOnPlane_0 24 rfl rfl
theorem dksX1_isOnPlane_2 : cX1_isOnPlane.data.toList.drop 48 = dktX1_isOnPlane_2 := dk_seg dksX1_isOnPlane_1 24 rfl rfl
theorem dksX1_isOnPlane_3 : cX1_isOnPlane.data.toList.drop 72 = dktX1_isOnPlane_3 := dk_seg dksX1_isOnPlane_2 24 rfl rfl
theorem dksX1_isOnPlane_4 : cX1_isOnPlane.data.toList.drop 95 = dktX1_isOnPlane_4 := dk_seg dksX1_isOnPlane_3 23 rfl rfl
theorem dksX1_isOnPlane_5 : cX1_isOnPlane.data.toList.drop 119 = dktX1_isOnPlane_5 := dk_seg dksX1_isOnPlane_4 24 rfl rfl
theorem dX1_isOnPlane_0 : decode cX1_isOnPlane 0 = .ok (.aload_n 0, 1) := dk_42 (dk_at dksX1_isOnPlane_0 0 rfl rfl)
theorem dX1_isOnPlane_1 : decode cX1_isOnPlane 1 = .ok (.getfield 167, 3) := dk_180 0 167 (dk_at dksX1_isOnPlane_0 1 rfl rfl)
theorem dX1_isOnPlane_4 : decode cX1_isOnPlane 4 = .ok (.iload_n 2, 1) := dk_28 (dk_at dksX1_isOnPlane_0 4 rfl rfl)
theorem dX1_isOnPlane_5 : decode cX1_isOnPlane 5 = .ok (.iaload, 1) := dk_46 (dk_at dksX1_isOnPlane_0 5 rfl rfl)
theorem dX1_isOnPlane_6 : decode cX1_isOnPlane 6 = .ok (.aload_n 0, 1) := dk_42 (dk_at dksX1_isOnPlane_0 6 rfl rfl)
theorem dX1_isOnPlane_7 : decode cX1_isOnPlane 7 = .ok (.getfield 170, 3) := dk_180 0 170 (dk_at dksX1_isOnPlane_0 7 rfl rfl)
theorem dX1_isOnPlane_10 : decode cX1_isOnPlane 10 = .ok (.iload_n 3, 1) := dk_29 (dk_at dksX1_isOnPlane_0 10 rfl rfl)
theorem dX1_isOnPlane_11 : decode cX1_isOnPlane 11 = .ok (.iaload, 1) := dk_46 (dk_at dksX1_isOnPlane_0 11 rfl rfl)
theorem dX1_isOnPlane_12 : decode cX1_isOnPlane 12 = .ok (.aload_n 0, 1) := dk_42 (dk_at dksX1_isOnPlane_0 12 rfl rfl)
theorem dX1_isOnPlane_13 : decode cX1_isOnPlane 13 = .ok (.getfield 173, 3) := dk_180 0 173 (dk_at dksX1_isOnPlane_0 13 rfl rfl)
theorem dX1_isOnPlane_16 : decode cX1_isOnPlane 16 = .ok (.iload_n 3, 1) := dk_29 (dk_at dksX1_isOnPlane_0 16 rfl rfl)
theorem dX1_isOnPlane_17 : decode cX1_isOnPlane 17 = .ok (.iaload, 1) := dk_46 (dk_at dksX1_isOnPlane_0 17 rfl rfl)
theorem dX1_isOnPlane_18 : decode cX1_isOnPlane 18 = .ok (.aload_n 0, 1) := dk_42 (dk_at dksX1_isOnPlane_0 18 rfl rfl)
theorem dX1_isOnPlane_19 : decode cX1_isOnPlane 19 = .ok (.getfield 170, 3) := dk_180 0 170 (dk_at dksX1_isOnPlane_0 19 rfl rfl)
theorem dX1_isOnPlane_22 : decode cX1_isOnPlane 22 = .ok (.iload 4, 2) := dk_21 4 (dk_at dksX1_isOnPlane_0 22 rfl rfl)
theorem dX1_isOnPlane_24 : decode cX1_isOnPlane 24 = .ok (.iaload, 1) := dk_46 (dk_at dksX1_isOnPlane_1 0 rfl rfl)
theorem dX1_isOnPlane_25 : decode cX1_isOnPlane 25 = .ok (.aload_n 0, 1) := dk_42 (dk_at dksX1_isOnPlane_1 1 rfl rfl)
theorem dX1_isOnPlane_26 : decode cX1_isOnPlane 26 = .ok (.getfield 173, 3) := dk_180 0 173 (dk_at dksX1_isOnPlane_1 2 rfl rfl)
theorem dX1_isOnPlane_29 : decode cX1_isOnPlane 29 = .ok (.iload 4, 2) := dk_21 4 (dk_at dksX1_isOnPlane_1 5 rfl rfl)
theorem dX1_isOnPlane_31 : decode cX1_isOnPlane 31 = .ok (.iaload, 1) := dk_46 (dk_at dksX1_isOnPlane_1 7 rfl rfl)
theorem dX1_isOnPlane_32 : decode cX1_isOnPlane 32 = .ok (.invokestatic 286, 3) := dk_184 1 30 (dk_at dksX1_isOnPlane_1 8 rfl rfl)
theorem dX1_isOnPlane_35 : decode cX1_isOnPlane 35 = .ok (.imul, 1) := dk_104 (dk_at dksX1_isOnPlane_1 11 rfl rfl)
theorem dX1_isOnPlane_36 : decode cX1_isOnPlane 36 = .ok (.aload_n 0, 1) := dk_42 (dk_at dksX1_isOnPlane_1 12 rfl rfl)
theorem dX1_isOnPlane_37 : decode cX1_isOnPlane 37 = .ok (.getfield 170, 3) := dk_180 0 170 (dk_at dksX1_isOnPlane_1 13 rfl rfl)
theorem dX1_isOnPlane_40 : decode cX1_isOnPlane 40 = .ok (.iload_n 2, 1) := dk_28 (dk_at dksX1_isOnPlane_1 16 rfl rfl)
theorem dX1_isOnPlane_41 : decode cX1_isOnPlane 41 = .ok (.iaload, 1) := dk_46 (dk_at dksX1_isOnPlane_1 17 rfl rfl)
theorem dX1_isOnPlane_42 : decode cX1_isOnPlane 42 = .ok (.aload_n 0, 1) := dk_42 (dk_at dksX1_isOnPlane_1 18 rfl rfl)
theorem dX1_isOnPlane_43 : decode cX1_isOnPlane 43 = .ok (.getfield 167, 3) := dk_180 0 167 (dk_at dksX1_isOnPlane_1 19 rfl rfl)
theorem dX1_isOnPlane_46 : decode cX1_isOnPlane 46 = .ok (.iload_n 3, 1) := dk_29 (dk_at dksX1_isOnPlane_1 22 rfl rfl)
theorem dX1_isOnPlane_47 : decode cX1_isOnPlane 47 = .ok (.iaload, 1) := dk_46 (dk_at dksX1_isOnPlane_1 23 rfl rfl)
theorem dX1_isOnPlane_48 : decode cX1_isOnPlane 48 = .ok (.aload_n 0, 1) := dk_42 (dk_at dksX1_isOnPlane_2 0 rfl rfl)
theorem dX1_isOnPlane_49 : decode cX1_isOnPlane 49 = .ok (.getfield 173, 3) := dk_180 0 173 (dk_at dksX1_isOnPlane_2 1 rfl rfl)
theorem dX1_isOnPlane_52 : decode cX1_isOnPlane 52 = .ok (.iload_n 3, 1) := dk_29 (dk_at dksX1_isOnPlane_2 4 rfl rfl)
theorem dX1_isOnPlane_53 : decode cX1_isOnPlane 53 = .ok (.iaload, 1) := dk_46 (dk_at dksX1_isOnPlane_2 5 rfl rfl)
theorem dX1_isOnPlane_54 : decode cX1_isOnPlane 54 = .ok (.aload_n 0, 1) := dk_42 (dk_at dksX1_isOnPlane_2 6 rfl rfl)
theorem dX1_isOnPlane_55 : decode cX1_isOnPlane 55 = .ok (.getfield 167, 3) := dk_180 0 167 (dk_at dksX1_isOnPlane_2 7 rfl rfl)
theorem dX1_isOnPlane_58 : decode cX1_isOnPlane 58 = .ok (.iload 4, 2) := dk_21 4 (dk_at dksX1_isOnPlane_2 10 rfl rfl)
theorem dX1_isOnPlane_60 : decode cX1_isOnPlane 60 = .ok (.iaload, 1) := dk_46 (dk_at dksX1_isOnPlane_2 12 rfl rfl)
theorem dX1_isOnPlane_61 : decode cX1_isOnPlane 61 = .ok (.aload_n 0, 1) := dk_42 (dk_at dksX1_isOnPlane_2 13 rfl rfl)
theorem dX1_isOnPlane_62 : decode cX1_isOnPlane 62 = .ok (.getfield 173, 3) := dk_180 0 173 (dk_at dksX1_isOnPlane_2 14 rfl rfl)
theorem dX1_isOnPlane_65 : decode cX1_isOnPlane 65 = .ok (.iload 4, 2) := dk_21 4 (dk_at dksX1_isOnPlane_2 17 rfl rfl)
theorem dX1_isOnPlane_67 : decode cX1_isOnPlane 67 = .ok (.iaload, 1) := dk_46 (dk_at dksX1_isOnPlane_2 19 rfl rfl)
theorem dX1_isOnPlane_68 : decode cX1_isOnPlane 68 = .ok (.invokestatic 286, 3) := dk_184 1 30 (dk_at dksX1_isOnPlane_2 20 rfl rfl)
theorem dX1_isOnPlane_71 : decode cX1_isOnPlane 71 = .ok (.imul, 1) := dk_104 (dk_at dksX1_isOnPlane_2 23 rfl rfl)
theorem dX1_isOnPlane_72 : decode cX1_isOnPlane 72 = .ok (.isub, 1) := dk_100 (dk_at dksX1_isOnPlane_3 0 rfl rfl)
theorem dX1_isOnPlane_73 : decode cX1_isOnPlane 73 = .ok (.aload_n 0, 1) := dk_42 (dk_at dksX1_isOnPlane_3 1 rfl rfl)
theorem dX1_isOnPlane_74 : decode cX1_isOnPlane 74 = .ok (.getfield 173, 3) := dk_180 0 173 (dk_at dksX1_isOnPlane_3 2 rfl rfl)
theorem dX1_isOnPlane_77 : decode cX1_isOnPlane 77 = .ok (.iload_n 2, 1) := dk_28 (dk_at dksX1_isOnPlane_3 5 rfl rfl)
theorem dX1_isOnPlane_78 : decode cX1_isOnPlane 78 = .ok (.iaload, 1) := dk_46 (dk_at dksX1_isOnPlane_3 6 rfl rfl)
theorem dX1_isOnPlane_79 : decode cX1_isOnPlane 79 = .ok (.aload_n 0, 1) := dk_42 (dk_at dksX1_isOnPlane_3 7 rfl rfl)
theorem dX1_isOnPlane_80 : decode cX1_isOnPlane 80 = .ok (.getfield 167, 3) := dk_180 0 167 (dk_at dksX1_isOnPlane_3 8 rfl rfl)
theorem dX1_isOnPlane_83 : decode cX1_isOnPlane 83 = .ok (.iload_n 3, 1) := dk_29 (dk_at dksX1_isOnPlane_3 11 rfl rfl)
theorem dX1_isOnPlane_84 : decode cX1_isOnPlane 84 = .ok (.iaload, 1) := dk_46 (dk_at dksX1_isOnPlane_3 12 rfl rfl)
theorem dX1_isOnPlane_85 : decode cX1_isOnPlane 85 = .ok (.aload_n 0, 1) := dk_42 (dk_at dksX1_isOnPlane_3 13 rfl rfl)
theorem dX1_isOnPlane_86 : decode cX1_isOnPlane 86 = .ok (.getfield 170, 3) := dk_180 0 170 (dk_at dksX1_isOnPlane_3 14 rfl rfl)
theorem dX1_isOnPlane_89 : decode cX1_isOnPlane 89 = .ok (.iload_n 3, 1) := dk_29 (dk_at dksX1_isOnPlane_3 17 rfl rfl)
theorem dX1_isOnPlane_90 : decode cX1_isOnPlane 90 = .ok (.iaload, 1) := dk_46 (dk_at dksX1_isOnPlane_3 18 rfl rfl)
theorem dX1_isOnPlane_91 : decode cX1_isOnPlane 91 = .ok (.aload_n 0, 1) := dk_42 (dk_at dksX1_isOnPlane_3 19 rfl rfl)
theorem dX1_isOnPlane_92 : decode cX1_isOnPlane 92 = .ok (.getfield 167, 3) := dk_180 0 167 (dk_at dksX1_isOnPlane_3 20 rfl rfl)
theorem dX1_isOnPlane_95 : decode cX1_isOnPlane 95 = .ok (.iload 4, 2) := dk_21 4 (dk_at dksX1_isOnPlane_4 0 rfl rfl)
theorem dX1_isOnPlane_97 : decode cX1_isOnPlane 97 = .ok (.iaload, 1) := dk_46 (dk_at dksX1_isOnPlane_4 2 rfl rfl)
theorem dX1_isOnPlane_98 : decode cX1_isOnPlane 98 = .ok (.aload_n 0, 1) := dk_42 (dk_at dksX1_isOnPlane_4 3 rfl rfl)
theorem dX1_isOnPlane_99 : decode cX1_isOnPlane 99 = .ok (.getfield 170, 3) := dk_180 0 170 (dk_at dksX1_isOnPlane_4 4 rfl rfl)
theorem dX1_isOnPlane_102 : decode cX1_isOnPlane 102 = .ok (.iload 4, 2) := dk_21 4 (dk_at dksX1_isOnPlane_4 7 rfl rfl)
theorem dX1_isOnPlane_104 : decode cX1_isOnPlane 104 = .ok (.iaload, 1) := dk_46 (dk_at dksX1_isOnPlane_4 9 rfl rfl)
theorem dX1_isOnPlane_105 : decode cX1_isOnPlane 105 = .ok (.invokestatic 286, 3) := dk_184 1 30 (dk_at dksX1_isOnPlane_4 10 rfl rfl)
theorem dX1_isOnPlane_108 : decode cX1_isOnPlane 108 = .ok (.imul, 1) := dk_104 (dk_at dksX1_isOnPlane_4 13 rfl rfl)
theorem dX1_isOnPlane_109 : decode cX1_isOnPlane 109 = .ok (.iadd, 1) := dk_96 (dk_at dksX1_isOnPlane_4 14 rfl rfl)
theorem dX1_isOnPlane_110 : decode cX1_isOnPlane 110 = .ok (.istore 5, 2) := dk_54 5 (dk_at dksX1_isOnPlane_4 15 rfl rfl)
theorem dX1_isOnPlane_112 : decode cX1_isOnPlane 112 = .ok (.iload 5, 2) := dk_21 5 (dk_at dksX1_isOnPlane_4 17 rfl rfl)
theorem dX1_isOnPlane_114 : decode cX1_isOnPlane 114 = .ok (.iload_n 1, 1) := dk_27 (dk_at dksX1_isOnPlane_4 19 rfl rfl)
theorem dX1_isOnPlane_115 : decode cX1_isOnPlane 115 = .ok (.irem, 1) := dk_112 (dk_at dksX1_isOnPlane_4 20 rfl rfl)
theorem dX1_isOnPlane_116 : decode cX1_isOnPlane 116 = .ok (.ifCond .ne 7, 3) := dk_154 0 7 (dk_at dksX1_isOnPlane_4 21 rfl rfl)
theorem dX1_isOnPlane_119 : decode cX1_isOnPlane 119 = .ok (.iconst 1, 1) := dk_4 (dk_at dksX1_isOnPlane_5 0 rfl rfl)
theorem dX1_isOnPlane_120 : decode cX1_isOnPlane 120 = .ok (.goto 4, 3) := dk_167 0 4 (dk_at dksX1_isOnPlane_5 1 rfl rfl)
theorem dX1_isOnPlane_123 : decode cX1_isOnPlane 123 = .ok (.iconst 0, 1) := dk_3 (dk_at dksX1_isOnPlane_5 4 rfl rfl)
theorem dX1_isOnPlane_124 : decode cX1_isOnPlane 124 = .ok (.ireturn, 1) := dk_172 (dk_at dksX1_isOnPlane_5 5 rfl rfl)
abbrev cX1_set : ByteArray := prog_1_method_83_code
def yX1_set : MethodName := ⟨RX1, "set", "(I)I"⟩
def dkwX1_set_3 : List UInt8 := [3, 182, 1, 220, 167, 0, 17, 42, 27, 8, 160, 0, 7, 4, 167, 0, 4, 3, 182, 1, 224, 172]
abbrev dktX1_set_3 : List UInt8 := dkwX1_set_3 ++ []
def dkwX1_set_2 : List UInt8 := [42, 182, 1, 214, 167, 0, 41, 42, 182, 1, 217, 167, 0, 34, 42, 27, 6, 160, 0, 7, 4, 167, 0, 4]
abbrev dktX1_set_2 : List UInt8 := dkwX1_set_2 ++ dktX1_set_3
def dkwX1_set_1 : List UInt8 := [170, 0, 0, 0, 0, 61, 0, 0, 0, 0, 0, 0, 0, 3, 0, 0, 0, 30, 0, 0, 0, 37, 0, 0, 0, 44, 0, 0, 0, 44]
abbrev dktX1_set_1 : List UInt8 := dkwX1_set_1 ++ dktX1_set_2
def dkwX1_set_0 : List UInt8 := [27, 3, 8, 184, 0, 88, 184, 0, 110, 27]
abbrev dktX1_set_0 : List UInt8 := dkwX1_set_0 ++ dktX1_set_1
theorem dksX1_set_0 : cX1_set.data.toList.drop 0 = dktX1_set_0 := by decide +kernel
theorem dksX1_set_1 : cX1_set.data.toList.drop 10 = dktX1_set_1 := dk_seg dksX1_set_0 10 rfl rfl
theorem dksX1_set_2 : cX1_set.data.toList.drop 40 = dktX1_set_2 := dk_seg dksX1_set_1 30 rfl rfl
theorem dksX1_set_3 : cX1_set.data.toList.drop 64 = dktX1_set_3 := dk_seg dksX1_set_2 24 rfl rfl
theorem dX1_set_0 : decode cX1_set 0 = .ok (.iload_n 1, 1) := dk_27 (dk_at dksX1_set_0 0 rfl rfl)
theorem dX1_set_1 : decode cX1_set 1 = .ok (.iconst 0, 1) := dk_3 (dk_at dksX1_set_0 1 rfl rfl)
theorem dX1_set_2 : decode cX1_set 2 = .ok (.iconst 5, 1) := dk_8 (dk_at dksX1_set_0 2 rfl rfl)
theorem dX1_set_3 : decode cX1_set 3 = .ok (.invokestatic 88, 3) := dk_184 0 88 (dk_at dksX1_set_0 3 rfl rfl)
theorem dX1_set_6 : decode cX1_set 6 = .ok (.invokestatic 110, 3) := dk_184 0 110 (dk_at dksX1_set_0 6 rfl rfl)
theorem dX1_set_9 : decode cX1_set 9 = .ok (.iload_n 1, 1) := dk_27 (dk_at dksX1_set_0 9 rfl rfl)
theorem dX1_set_10 : decode cX1_set 10 = .ok (.tableswitch 61 0 3 #[30, 37, 44, 44], 30) := by decide +kernel
theorem dX1_set_40 : decode cX1_set 40 = .ok (.aload_n 0, 1) := dk_42 (dk_at dksX1_set_2 0 rfl rfl)
theorem dX1_set_41 : decode cX1_set 41 = .ok (.invokevirtual 470, 3) := dk_182 1 214 (dk_at dksX1_set_2 1 rfl rfl)
theorem dX1_set_44 : decode cX1_set 44 = .ok (.goto 41, 3) := dk_167 0 41 (dk_at dksX1_set_2 4 rfl rfl)
theorem dX1_set_47 : decode cX1_set 47 = .ok (.aload_n 0, 1) := dk_42 (dk_at dksX1_set_2 7 rfl rfl)
theorem dX1_set_48 : decode cX1_set 48 = .ok (.invokevirtual 473, 3) := dk_182 1 217 (dk_at dksX1_set_2 8 rfl rfl)
theorem dX1_set_51 : decode cX1_set 51 = .ok (.goto 34, 3) := dk_167 0 34 (dk_at dksX1_set_2 11 rfl rfl)
theorem dX1_set_54 : decode cX1_set 54 = .ok (.aload_n 0, 1) := dk_42 (dk_at dksX1_set_2 14 rfl rfl)
theorem dX1_set_55 : decode cX1_set 55 = .ok (.iload_n 1, 1) := dk_27 (dk_at dksX1_set_2 15 rfl rfl)
theorem dX1_set_56 : decode cX1_set 56 = .ok (.iconst 3, 1) := dk_6 (dk_at dksX1_set_2 16 rfl rfl)
theorem dX1_set_57 : decode cX1_set 57 = .ok (.if_icmp .ne 7, 3) := dk_160 0 7 (dk_at dksX1_set_2 17 rfl rfl)
theorem dX1_set_60 : decode cX1_set 60 = .ok (.iconst 1, 1) := dk_4 (dk_at dksX1_set_2 20 rfl rfl)
theorem dX1_set_61 : decode cX1_set 61 = .ok (.goto 4, 3) := dk_167 0 4 (dk_at dksX1_set_2 21 rfl rfl)
theorem dX1_set_64 : decode cX1_set 64 = .ok (.iconst 0, 1) := dk_3 (dk_at dksX1_set_3 0 rfl rfl)
theorem dX1_set_65 : decode cX1_set 65 = .ok (.invokevirtual 476, 3) := dk_182 1 220 (dk_at dksX1_set_3 1 rfl rfl)
theorem dX1_set_68 : decode cX1_set 68 = .ok (.goto 17, 3) := dk_167 0 17 (dk_at dksX1_set_3 4 rfl rfl)
theorem dX1_set_71 : decode cX1_set 71 = .ok (.aload_n 0, 1) := dk_42 (dk_at dksX1_set_3 7 rfl rfl)
theorem dX1_set_72 : decode cX1_set 72 = .ok (.iload_n 1, 1) := dk_27 (dk_at dksX1_set_3 8 rfl rfl)
theorem dX1_set_73 : decode cX1_set 73 = .ok (.iconst 5, 1) := dk_8 (dk_at dksX1_set_3 9 rfl rfl)
theorem dX1_set_74 : decode cX1_set 74 = .ok (.if_icmp .ne 7, 3) := dk_160 0 7 (dk_at dksX1_set_3 10 rfl rfl)
theorem dX1_set_77 : decode cX1_set 77 = .ok (.iconst 1, 1) := dk_4 (dk_at dksX1_set_3 13 rfl rfl)
theorem dX1_set_78 : decode cX1_set 78 = .ok (.goto 4, 3) := dk_167 0 4 (dk_at dksX1_set_3 14 rfl rfl)
theorem dX1_set_81 : decode cX1_set 81 = .ok (.iconst 0, 1) := dk_3 (dk_at dksX1_set_3 17 rfl rfl)
theorem dX1_set_82 : decode cX1_set 82 = .ok (.invokevirtual 480, 3) := dk_182 1 224 (dk_at dksX1_set_3 18 rfl rfl)
theorem dX1_set_85 : decode cX1_set 85 = .ok (.ireturn, 1) := dk_172 (dk_at dksX1_set_3 21 rfl rfl)
abbrev cX1_cover : ByteArray := prog_1_method_78_code
def yX1_cover : MethodName := ⟨RX1, "cover", "()I"⟩
def dkwX1_cover_2 : List UInt8 := [167, 255, 228, 27, 172]
abbrev dktX1_cover_2 : List UInt8 := dkwX1_cover_2 ++ []
def dkwX1_cover_1 : List UInt8 := [182, 1, 205, 153, 0, 16, 28, 184, 0, 70, 27, 184, 0, 70, 163, 0, 5, 28, 60, 132, 2, 255]
abbrev dktX1_cover_1 : List UInt8 := dkwX1_cover_1 ++ dktX1_cover_2
def dkwX1_cover_0 : List UInt8 := [4, 42, 180, 0, 124, 180, 0, 1, 120, 4, 100, 60, 27, 4, 100, 61, 28, 155, 0, 30, 42, 28]
abbrev dktX1_cover_0 : List UInt8 := dkwX1_cover_0 ++ dktX1_cover_1
theorem dksX1_cover_0 : cX1_cover.data.toList.drop 0 = dktX1_cover_0 := by decide +kernel
theorem dksX1_cover_1 : cX1_cover.data.toList.drop 22 = dktX1_cover_1 := dk_seg dksX1_cover_0 22 rfl rfl
theorem dksX1_cover_2 : cX1_cover.data.toList.drop 44 = dktX1_cover_2 := dk_seg dksX1_cover_1 22 rfl rfl
theorem dX1_cover_0 : decode cX1_cover 0 = .ok (.iconst 1, 1) := dk_4 (dk_at dksX1_cover_0 0 rfl rfl)
theorem dX1_cover_1 : decode cX1_cover 1 = .ok (.aload_n 0, 1) := dk_42 (dk_at dksX1_cover_0 1 rfl rfl)
theorem dX1_cover_2 : decode cX1_cover 2 = .ok (.getfield 124, 3) := dk_180 0 124 (dk_at dksX1_cover_0 2 rfl rfl)
theorem dX1_cover_5 : decode cX1_cover 5 = .ok (.getfield 1, 3) := dk_180 0 1 (dk_at dksX1_cover_0 5 rfl rfl)
theorem dX1_cover_8 : decode cX1_cover 8 = .ok (.ishl, 1) := dk_120 (dk_at dksX1_cover_0 8 rfl rfl)
theorem dX1_cover_9 : decode cX1_cover 9 = .ok (.iconst 1, 1) := dk_4 (dk_at dksX1_cover_0 9 rfl rfl)
theorem dX1_cover_10 : decode cX1_cover 10 = .ok (.isub, 1) := dk_100 (dk_at dksX1_cover_0 10 rfl rfl)
theorem dX1_cover_11 : decode cX1_cover 11 = .ok (.istore_n 1, 1) := dk_60 (dk_at dksX1_cover_0 11 rfl rfl)
theorem dX1_cover_12 : decode cX1_cover 12 = .ok (.iload_n 1, 1) := dk_27 (dk_at dksX1_cover_0 12 rfl rfl)
theorem dX1_cover_13 : decode cX1_cover 13 = .ok (.iconst 1, 1) := dk_4 (dk_at dksX1_cover_0 13 rfl rfl)
theorem dX1_cover_14 : decode cX1_cover 14 = .ok (.isub, 1) := dk_100 (dk_at dksX1_cover_0 14 rfl rfl)
theorem dX1_cover_15 : decode cX1_cover 15 = .ok (.istore_n 2, 1) := dk_61 (dk_at dksX1_cover_0 15 rfl rfl)
theorem dX1_cover_16 : decode cX1_cover 16 = .ok (.iload_n 2, 1) := dk_28 (dk_at dksX1_cover_0 16 rfl rfl)
theorem dX1_cover_17 : decode cX1_cover 17 = .ok (.ifCond .lt 30, 3) := dk_155 0 30 (dk_at dksX1_cover_0 17 rfl rfl)
theorem dX1_cover_20 : decode cX1_cover 20 = .ok (.aload_n 0, 1) := dk_42 (dk_at dksX1_cover_0 20 rfl rfl)
theorem dX1_cover_21 : decode cX1_cover 21 = .ok (.iload_n 2, 1) := dk_28 (dk_at dksX1_cover_0 21 rfl rfl)
theorem dX1_cover_22 : decode cX1_cover 22 = .ok (.invokevirtual 461, 3) := dk_182 1 205 (dk_at dksX1_cover_1 0 rfl rfl)
theorem dX1_cover_25 : decode cX1_cover 25 = .ok (.ifCond .eq 16, 3) := dk_153 0 16 (dk_at dksX1_cover_1 3 rfl rfl)
theorem dX1_cover_28 : decode cX1_cover 28 = .ok (.iload_n 2, 1) := dk_28 (dk_at dksX1_cover_1 6 rfl rfl)
theorem dX1_cover_29 : decode cX1_cover 29 = .ok (.invokestatic 70, 3) := dk_184 0 70 (dk_at dksX1_cover_1 7 rfl rfl)
theorem dX1_cover_32 : decode cX1_cover 32 = .ok (.iload_n 1, 1) := dk_27 (dk_at dksX1_cover_1 10 rfl rfl)
theorem dX1_cover_33 : decode cX1_cover 33 = .ok (.invokestatic 70, 3) := dk_184 0 70 (dk_at dksX1_cover_1 11 rfl rfl)
theorem dX1_cover_36 : decode cX1_cover 36 = .ok (.if_icmp .gt 5, 3) := dk_163 0 5 (dk_at dksX1_cover_1 14 rfl rfl)
theorem dX1_cover_39 : decode cX1_cover 39 = .ok (.iload_n 2, 1) := dk_28 (dk_at dksX1_cover_1 17 rfl rfl)
theorem dX1_cover_40 : decode cX1_cover 40 = .ok (.istore_n 1, 1) := dk_60 (dk_at dksX1_cover_1 18 rfl rfl)
theorem dX1_cover_41 : decode cX1_cover 41 = .ok (.iinc 2 (-1), 3) := dk_132 2 255 (dk_at dksX1_cover_1 19 rfl rfl)
theorem dX1_cover_44 : decode cX1_cover 44 = .ok (.goto (-28), 3) := dk_167 255 228 (dk_at dksX1_cover_2 0 rfl rfl)
theorem dX1_cover_47 : decode cX1_cover 47 = .ok (.iload_n 1, 1) := dk_27 (dk_at dksX1_cover_2 3 rfl rfl)
theorem dX1_cover_48 : decode cX1_cover 48 = .ok (.ireturn, 1) := dk_172 (dk_at dksX1_cover_2 4 rfl rfl)
abbrev cX1_meetsAll : ByteArray := prog_1_method_76_code
def yX1_meetsAll : MethodName := ⟨RX1, "meetsAll", "(I)Z"⟩
def dkwX1_meetsAll_1 : List UInt8 := [154, 0, 5, 3, 172, 132, 2, 1, 167, 255, 226, 4, 172]
abbrev dktX1_meetsAll_1 : List UInt8 := dkwX1_meetsAll_1 ++ []
def dkwX1_meetsAll_0 : List UInt8 := [3, 61, 28, 42, 180, 0, 124, 180, 0, 7, 162, 0, 25, 42, 180, 0, 124, 180, 0, 37, 28, 46, 27, 126]
abbrev dktX1_meetsAll_0 : List UInt8 := dkwX1_meetsAll_0 ++ dktX1_meetsAll_1
theorem dksX1_meetsAll_0 : cX1_meetsAll.data.toList.drop 0 = dktX1_meetsAll_0 := by decide +kernel
theorem dksX1_meetsAll_1 : cX1_meetsAll.data.toList.drop 24 = dktX1_meetsAll_1 := dk_seg dksX1_meetsAll_0 24 rfl rfl
theorem dX1_meetsAll_0 : decode cX1_meetsAll 0 = .ok (.iconst 0, 1) := dk_3 (dk_at dksX1_meetsAll_0 0 rfl rfl)
theorem dX1_meetsAll_1 : decode cX1_meetsAll 1 = .ok (.istore_n 2, 1) := dk_61 (dk_at dksX1_meetsAll_0 1 rfl rfl)
theorem dX1_meetsAll_2 : decode cX1_meetsAll 2 = .ok (.iload_n 2, 1) := dk_28 (dk_at dksX1_meetsAll_0 2 rfl rfl)
theorem dX1_meetsAll_3 : decode cX1_meetsAll 3 = .ok (.aload_n 0, 1) := dk_42 (dk_at dksX1_meetsAll_0 3 rfl rfl)
theorem dX1_meetsAll_4 : decode cX1_meetsAll 4 = .ok (.getfield 124, 3) := dk_180 0 124 (dk_at dksX1_meetsAll_0 4 rfl rfl)
theorem dX1_meetsAll_7 : decode cX1_meetsAll 7 = .ok (.getfield 7, 3) := dk_180 0 7 (dk_at dksX1_meetsAll_0 7 rfl rfl)
theorem dX1_meetsAll_10 : decode cX1_meetsAll 10 = .ok (.if_icmp .ge 25, 3) := dk_162 0 25 (dk_at dksX1_meetsAll_0 10 rfl rfl)
theorem dX1_meetsAll_13 : decode cX1_meetsAll 13 = .ok (.aload_n 0, 1) := dk_42 (dk_at dksX1_meetsAll_0 13 rfl rfl)
theorem dX1_meetsAll_14 : decode cX1_meetsAll 14 = .ok (.getfield 124, 3) := dk_180 0 124 (dk_at dksX1_meetsAll_0 14 rfl rfl)
theorem dX1_meetsAll_17 : decode cX1_meetsAll 17 = .ok (.getfield 37, 3) := dk_180 0 37 (dk_at dksX1_meetsAll_0 17 rfl rfl)
theorem dX1_meetsAll_20 : decode cX1_meetsAll 20 = .ok (.iload_n 2, 1) := dk_28 (dk_at dksX1_meetsAll_0 20 rfl rfl)
theorem dX1_meetsAll_21 : decode cX1_meetsAll 21 = .ok (.iaload, 1) := dk_46 (dk_at dksX1_meetsAll_0 21 rfl rfl)
theorem dX1_meetsAll_22 : decode cX1_meetsAll 22 = .ok (.iload_n 1, 1) := dk_27 (dk_at dksX1_meetsAll_0 22 rfl rfl)
theorem dX1_meetsAll_23 : decode cX1_meetsAll 23 = .ok (.iand, 1) := dk_126 (dk_at dksX1_meetsAll_0 23 rfl rfl)
theorem dX1_meetsAll_24 : decode cX1_meetsAll 24 = .ok (.ifCond .ne 5, 3) := dk_154 0 5 (dk_at dksX1_meetsAll_1 0 rfl rfl)
theorem dX1_meetsAll_27 : decode cX1_meetsAll 27 = .ok (.iconst 0, 1) := dk_3 (dk_at dksX1_meetsAll_1 3 rfl rfl)
theorem dX1_meetsAll_28 : decode cX1_meetsAll 28 = .ok (.ireturn, 1) := dk_172 (dk_at dksX1_meetsAll_1 4 rfl rfl)
theorem dX1_meetsAll_29 : decode cX1_meetsAll 29 = .ok (.iinc 2 1, 3) := dk_132 2 1 (dk_at dksX1_meetsAll_1 5 rfl rfl)
theorem dX1_meetsAll_32 : decode cX1_meetsAll 32 = .ok (.goto (-30), 3) := dk_167 255 226 (dk_at dksX1_meetsAll_1 8 rfl rfl)
theorem dX1_meetsAll_35 : decode cX1_meetsAll 35 = .ok (.iconst 1, 1) := dk_4 (dk_at dksX1_meetsAll_1 11 rfl rfl)
theorem dX1_meetsAll_36 : decode cX1_meetsAll 36 = .ok (.ireturn, 1) := dk_172 (dk_at dksX1_meetsAll_1 12 rfl rfl)
abbrev cX1_cap : ByteArray := prog_1_method_79_code
def yX1_cap : MethodName := ⟨RX1, "cap", "()I"⟩
def dkwX1_cap_1 : List UInt8 := [153, 0, 16, 28, 184, 0, 70, 27, 184, 0, 70, 164, 0, 5, 28, 60, 132, 2, 1, 167, 255, 219, 27, 172]
abbrev dktX1_cap_1 : List UInt8 := dkwX1_cap_1 ++ []
def dkwX1_cap_0 : List UInt8 := [3, 60, 4, 61, 28, 4, 42, 180, 0, 124, 180, 0, 1, 120, 162, 0, 30, 42, 28, 182, 1, 208]
abbrev dktX1_cap_0 : List UInt8 := dkwX1_cap_0 ++ dktX1_cap_1
theorem dksX1_cap_0 : cX1_cap.data.toList.drop 0 = dktX1_cap_0 := by decide +kernel
theorem dksX1_cap_1 : cX1_cap.data.toList.drop 22 = dktX1_cap_1 := dk_seg dksX1_cap_0 22 rfl rfl
theorem dX1_cap_0 : decode cX1_cap 0 = .ok (.iconst 0, 1) := dk_3 (dk_at dksX1_cap_0 0 rfl rfl)
theorem dX1_cap_1 : decode cX1_cap 1 = .ok (.istore_n 1, 1) := dk_60 (dk_at dksX1_cap_0 1 rfl rfl)
theorem dX1_cap_2 : decode cX1_cap 2 = .ok (.iconst 1, 1) := dk_4 (dk_at dksX1_cap_0 2 rfl rfl)
theorem dX1_cap_3 : decode cX1_cap 3 = .ok (.istore_n 2, 1) := dk_61 (dk_at dksX1_cap_0 3 rfl rfl)
theorem dX1_cap_4 : decode cX1_cap 4 = .ok (.iload_n 2, 1) := dk_28 (dk_at dksX1_cap_0 4 rfl rfl)
theorem dX1_cap_5 : decode cX1_cap 5 = .ok (.iconst 1, 1) := dk_4 (dk_at dksX1_cap_0 5 rfl rfl)
theorem dX1_cap_6 : decode cX1_cap 6 = .ok (.aload_n 0, 1) := dk_42 (dk_at dksX1_cap_0 6 rfl rfl)
theorem dX1_cap_7 : decode cX1_cap 7 = .ok (.getfield 124, 3) := dk_180 0 124 (dk_at dksX1_cap_0 7 rfl rfl)
theorem dX1_cap_10 : decode cX1_cap 10 = .ok (.getfield 1, 3) := dk_180 0 1 (dk_at dksX1_cap_0 10 rfl rfl)
theorem dX1_cap_13 : decode cX1_cap 13 = .ok (.ishl, 1) := dk_120 (dk_at dksX1_cap_0 13 rfl rfl)
theorem dX1_cap_14 : decode cX1_cap 14 = .ok (.if_icmp .ge 30, 3) := dk_162 0 30 (dk_at dksX1_cap_0 14 rfl rfl)
theorem dX1_cap_17 : decode cX1_cap 17 = .ok (.aload_n 0, 1) := dk_42 (dk_at dksX1_cap_0 17 rfl rfl)
theorem dX1_cap_18 : decode cX1_cap 18 = .ok (.iload_n 2, 1) := dk_28 (dk_at dksX1_cap_0 18 rfl rfl)
theorem dX1_cap_19 : decode cX1_cap 19 = .ok (.invokevirtual 464, 3) := dk_182 1 208 (dk_at dksX1_cap_0 19 rfl rfl)
theorem dX1_cap_22 : decode cX1_cap 22 = .ok (.ifCond .eq 16, 3) := dk_153 0 16 (dk_at dksX1_cap_1 0 rfl rfl)
theorem dX1_cap_25 : decode cX1_cap 25 = .ok (.iload_n 2, 1) := dk_28 (dk_at dksX1_cap_1 3 rfl rfl)
theorem dX1_cap_26 : decode cX1_cap 26 = .ok (.invokestatic 70, 3) := dk_184 0 70 (dk_at dksX1_cap_1 4 rfl rfl)
theorem dX1_cap_29 : decode cX1_cap 29 = .ok (.iload_n 1, 1) := dk_27 (dk_at dksX1_cap_1 7 rfl rfl)
theorem dX1_cap_30 : decode cX1_cap 30 = .ok (.invokestatic 70, 3) := dk_184 0 70 (dk_at dksX1_cap_1 8 rfl rfl)
theorem dX1_cap_33 : decode cX1_cap 33 = .ok (.if_icmp .le 5, 3) := dk_164 0 5 (dk_at dksX1_cap_1 11 rfl rfl)
theorem dX1_cap_36 : decode cX1_cap 36 = .ok (.iload_n 2, 1) := dk_28 (dk_at dksX1_cap_1 14 rfl rfl)
theorem dX1_cap_37 : decode cX1_cap 37 = .ok (.istore_n 1, 1) := dk_60 (dk_at dksX1_cap_1 15 rfl rfl)
theorem dX1_cap_38 : decode cX1_cap 38 = .ok (.iinc 2 1, 3) := dk_132 2 1 (dk_at dksX1_cap_1 16 rfl rfl)
theorem dX1_cap_41 : decode cX1_cap 41 = .ok (.goto (-37), 3) := dk_167 255 219 (dk_at dksX1_cap_1 19 rfl rfl)
theorem dX1_cap_44 : decode cX1_cap 44 = .ok (.iload_n 1, 1) := dk_27 (dk_at dksX1_cap_1 22 rfl rfl)
theorem dX1_cap_45 : decode cX1_cap 45 = .ok (.ireturn, 1) := dk_172 (dk_at dksX1_cap_1 23 rfl rfl)
abbrev cX1_hasNone : ByteArray := prog_1_method_77_code
def yX1_hasNone : MethodName := ⟨RX1, "hasNone", "(I)Z"⟩
def dkwX1_hasNone_1 : List UInt8 := [130, 126, 154, 0, 5, 3, 172, 132, 2, 1, 167, 255, 224, 4, 172]
abbrev dktX1_hasNone_1 : List UInt8 := dkwX1_hasNone_1 ++ []
def dkwX1_hasNone_0 : List UInt8 := [3, 61, 28, 42, 180, 0, 124, 180, 0, 7, 162, 0, 27, 42, 180, 0, 124, 180, 0, 37, 28, 46, 27, 2]
abbrev dktX1_hasNone_0 : List UInt8 := dkwX1_hasNone_0 ++ dktX1_hasNone_1
theorem dksX1_hasNone_0 : cX1_hasNone.data.toList.drop 0 = dktX1_hasNone_0 := by decide +kernel
theorem dksX1_hasNone_1 : cX1_hasNone.data.toList.drop 24 = dktX1_hasNone_1 := dk_seg dksX1_hasNone_0 24 rfl rfl
theorem dX1_hasNone_0 : decode cX1_hasNone 0 = .ok (.iconst 0, 1) := dk_3 (dk_at dksX1_hasNone_0 0 rfl rfl)
theorem dX1_hasNone_1 : decode cX1_hasNone 1 = .ok (.istore_n 2, 1) := dk_61 (dk_at dksX1_hasNone_0 1 rfl rfl)
theorem dX1_hasNone_2 : decode cX1_hasNone 2 = .ok (.iload_n 2, 1) := dk_28 (dk_at dksX1_hasNone_0 2 rfl rfl)
theorem dX1_hasNone_3 : decode cX1_hasNone 3 = .ok (.aload_n 0, 1) := dk_42 (dk_at dksX1_hasNone_0 3 rfl rfl)
theorem dX1_hasNone_4 : decode cX1_hasNone 4 = .ok (.getfield 124, 3) := dk_180 0 124 (dk_at dksX1_hasNone_0 4 rfl rfl)
theorem dX1_hasNone_7 : decode cX1_hasNone 7 = .ok (.getfield 7, 3) := dk_180 0 7 (dk_at dksX1_hasNone_0 7 rfl rfl)
theorem dX1_hasNone_10 : decode cX1_hasNone 10 = .ok (.if_icmp .ge 27, 3) := dk_162 0 27 (dk_at dksX1_hasNone_0 10 rfl rfl)
theorem dX1_hasNone_13 : decode cX1_hasNone 13 = .ok (.aload_n 0, 1) := dk_42 (dk_at dksX1_hasNone_0 13 rfl rfl)
theorem dX1_hasNone_14 : decode cX1_hasNone 14 = .ok (.getfield 124, 3) := dk_180 0 124 (dk_at dksX1_hasNone_0 14 rfl rfl)
theorem dX1_hasNone_17 : decode cX1_hasNone 17 = .ok (.getfield 37, 3) := dk_180 0 37 (dk_at dksX1_hasNone_0 17 rfl rfl)
theorem dX1_hasNone_20 : decode cX1_hasNone 20 = .ok (.iload_n 2, 1) := dk_28 (dk_at dksX1_hasNone_0 20 rfl rfl)
theorem dX1_hasNone_21 : decode cX1_hasNone 21 = .ok (.iaload, 1) := dk_46 (dk_at dksX1_hasNone_0 21 rfl rfl)
theorem dX1_hasNone_22 : decode cX1_hasNone 22 = .ok (.iload_n 1, 1) := dk_27 (dk_at dksX1_hasNone_0 22 rfl rfl)
theorem dX1_hasNone_23 : decode cX1_hasNone 23 = .ok (.iconst (-1), 1) := dk_2 (dk_at dksX1_hasNone_0 23 rfl rfl)
theorem dX1_hasNone_24 : decode cX1_hasNone 24 = .ok (.ixor, 1) := dk_130 (dk_at dksX1_hasNone_1 0 rfl rfl)
theorem dX1_hasNone_25 : decode cX1_hasNone 25 = .ok (.iand, 1) := dk_126 (dk_at dksX1_hasNone_1 1 rfl rfl)
theorem dX1_hasNone_26 : decode cX1_hasNone 26 = .ok (.ifCond .ne 5, 3) := dk_154 0 5 (dk_at dksX1_hasNone_1 2 rfl rfl)
theorem dX1_hasNone_29 : decode cX1_hasNone 29 = .ok (.iconst 0, 1) := dk_3 (dk_at dksX1_hasNone_1 5 rfl rfl)
theorem dX1_hasNone_30 : decode cX1_hasNone 30 = .ok (.ireturn, 1) := dk_172 (dk_at dksX1_hasNone_1 6 rfl rfl)
theorem dX1_hasNone_31 : decode cX1_hasNone 31 = .ok (.iinc 2 1, 3) := dk_132 2 1 (dk_at dksX1_hasNone_1 7 rfl rfl)
theorem dX1_hasNone_34 : decode cX1_hasNone 34 = .ok (.goto (-32), 3) := dk_167 255 224 (dk_at dksX1_hasNone_1 10 rfl rfl)
theorem dX1_hasNone_37 : decode cX1_hasNone 37 = .ok (.iconst 1, 1) := dk_4 (dk_at dksX1_hasNone_1 13 rfl rfl)
theorem dX1_hasNone_38 : decode cX1_hasNone 38 = .ok (.ireturn, 1) := dk_172 (dk_at dksX1_hasNone_1 14 rfl rfl)
abbrev cX1_halves : ByteArray := prog_1_method_80_code
def yX1_halves : MethodName := ⟨RX1, "halves", "(Z)I"⟩
def dkwX1_halves_3 : List UInt8 := [29, 172]
abbrev dktX1_halves_3 : List UInt8 := dkwX1_halves_3 ++ []
def dkwX1_halves_2 : List UInt8 := [27, 153, 0, 6, 21, 4, 172, 132, 3, 1, 132, 4, 2, 167, 255, 212, 27, 153, 0, 7, 2, 167, 0, 4]
abbrev dktX1_halves_2 : List UInt8 := dkwX1_halves_2 ++ dktX1_halves_3
def dkwX1_halves_1 : List UInt8 := [21, 4, 182, 1, 208, 153, 0, 29, 42, 28, 21, 4, 2, 130, 126, 182, 1, 208, 154, 0, 6, 167, 0, 13]
abbrev dktX1_halves_1 : List UInt8 := dkwX1_halves_1 ++ dktX1_halves_2
def dkwX1_halves_0 : List UInt8 := [4, 42, 180, 0, 124, 180, 0, 1, 120, 4, 100, 61, 3, 62, 4, 54, 4, 21, 4, 28, 163, 0, 44, 42]
abbrev dktX1_halves_0 : List UInt8 := dkwX1_halves_0 ++ dktX1_halves_1
theorem dksX1_halves_0 : cX1_halves.data.toList.drop 0 = dktX1_halves_0 := by decide +kernel
theorem dksX1_halves_1 : cX1_halves.data.toList.drop 24 = dktX1_halves_1 := dk_seg dksX1_halves_0 24 rfl rfl
theorem dksX1_halves_2 : cX1_halves.data.toList.drop 48 = dktX1_halves_2 := dk_seg dksX1_halves_1 24 rfl rfl
theorem dksX1_halves_3 : cX1_halves.data.toList.drop 72 = dktX1_halves_3 := dk_seg dksX1_halves_2 24 rfl rfl
theorem dX1_halves_0 : decode cX1_halves 0 = .ok (.iconst 1, 1) := dk_4 (dk_at dksX1_halves_0 0 rfl rfl)
theorem dX1_halves_1 : decode cX1_halves 1 = .ok (.aload_n 0, 1) := dk_42 (dk_at dksX1_halves_0 1 rfl rfl)
theorem dX1_halves_2 : decode cX1_halves 2 = .ok (.getfield 124, 3) := dk_180 0 124 (dk_at dksX1_halves_0 2 rfl rfl)
theorem dX1_halves_5 : decode cX1_halves 5 = .ok (.getfield 1, 3) := dk_180 0 1 (dk_at dksX1_halves_0 5 rfl rfl)
theorem dX1_halves_8 : decode cX1_halves 8 = .ok (.ishl, 1) := dk_120 (dk_at dksX1_halves_0 8 rfl rfl)
theorem dX1_halves_9 : decode cX1_halves 9 = .ok (.iconst 1, 1) := dk_4 (dk_at dksX1_halves_0 9 rfl rfl)
theorem dX1_halves_10 : decode cX1_halves 10 = .ok (.isub, 1) := dk_100 (dk_at dksX1_halves_0 10 rfl rfl)
theorem dX1_halves_11 : decode cX1_halves 11 = .ok (.istore_n 2, 1) := dk_61 (dk_at dksX1_halves_0 11 rfl rfl)
theorem dX1_halves_12 : decode cX1_halves 12 = .ok (.iconst 0, 1) := dk_3 (dk_at dksX1_halves_0 12 rfl rfl)
theorem dX1_halves_13 : decode cX1_halves 13 = .ok (.istore_n 3, 1) := dk_62 (dk_at dksX1_halves_0 13 rfl rfl)
theorem dX1_halves_14 : decode cX1_halves 14 = .ok (.iconst 1, 1) := dk_4 (dk_at dksX1_halves_0 14 rfl rfl)
theorem dX1_halves_15 : decode cX1_halves 15 = .ok (.istore 4, 2) := dk_54 4 (dk_at dksX1_halves_0 15 rfl rfl)
theorem dX1_halves_17 : decode cX1_halves 17 = .ok (.iload 4, 2) := dk_21 4 (dk_at dksX1_halves_0 17 rfl rfl)
theorem dX1_halves_19 : decode cX1_halves 19 = .ok (.iload_n 2, 1) := dk_28 (dk_at dksX1_halves_0 19 rfl rfl)
theorem dX1_halves_20 : decode cX1_halves 20 = .ok (.if_icmp .gt 44, 3) := dk_163 0 44 (dk_at dksX1_halves_0 20 rfl rfl)
theorem dX1_halves_23 : decode cX1_halves 23 = .ok (.aload_n 0, 1) := dk_42 (dk_at dksX1_halves_0 23 rfl rfl)
theorem dX1_halves_24 : decode cX1_halves 24 = .ok (.iload 4, 2) := dk_21 4 (dk_at dksX1_halves_1 0 rfl rfl)
theorem dX1_halves_26 : decode cX1_halves 26 = .ok (.invokevirtual 464, 3) := dk_182 1 208 (dk_at dksX1_halves_1 2 rfl rfl)
theorem dX1_halves_29 : decode cX1_halves 29 = .ok (.ifCond .eq 29, 3) := dk_153 0 29 (dk_at dksX1_halves_1 5 rfl rfl)
theorem dX1_halves_32 : decode cX1_halves 32 = .ok (.aload_n 0, 1) := dk_42 (dk_at dksX1_halves_1 8 rfl rfl)
theorem dX1_halves_33 : decode cX1_halves 33 = .ok (.iload_n 2, 1) := dk_28 (dk_at dksX1_halves_1 9 rfl rfl)
theorem dX1_halves_34 : decode cX1_halves 34 = .ok (.iload 4, 2) := dk_21 4 (dk_at dksX1_halves_1 10 rfl rfl)
theorem dX1_halves_36 : decode cX1_halves 36 = .ok (.iconst (-1), 1) := dk_2 (dk_at dksX1_halves_1 12 rfl rfl)
theorem dX1_halves_37 : decode cX1_halves 37 = .ok (.ixor, 1) := dk_130 (dk_at dksX1_halves_1 13 rfl rfl)
theorem dX1_halves_38 : decode cX1_halves 38 = .ok (.iand, 1) := dk_126 (dk_at dksX1_halves_1 14 rfl rfl)
theorem dX1_halves_39 : decode cX1_halves 39 = .ok (.invokevirtual 464, 3) := dk_182 1 208 (dk_at dksX1_halves_1 15 rfl rfl)
theorem dX1_halves_42 : decode cX1_halves 42 = .ok (.ifCond .ne 6, 3) := dk_154 0 6 (dk_at dksX1_halves_1 18 rfl rfl)
theorem dX1_halves_45 : decode cX1_halves 45 = .ok (.goto 13, 3) := dk_167 0 13 (dk_at dksX1_halves_1 21 rfl rfl)
theorem dX1_halves_48 : decode cX1_halves 48 = .ok (.iload_n 1, 1) := dk_27 (dk_at dksX1_halves_2 0 rfl rfl)
theorem dX1_halves_49 : decode cX1_halves 49 = .ok (.ifCond .eq 6, 3) := dk_153 0 6 (dk_at dksX1_halves_2 1 rfl rfl)
theorem dX1_halves_52 : decode cX1_halves 52 = .ok (.iload 4, 2) := dk_21 4 (dk_at dksX1_halves_2 4 rfl rfl)
theorem dX1_halves_54 : decode cX1_halves 54 = .ok (.ireturn, 1) := dk_172 (dk_at dksX1_halves_2 6 rfl rfl)
theorem dX1_halves_55 : decode cX1_halves 55 = .ok (.iinc 3 1, 3) := dk_132 3 1 (dk_at dksX1_halves_2 7 rfl rfl)
theorem dX1_halves_58 : decode cX1_halves 58 = .ok (.iinc 4 2, 3) := dk_132 4 2 (dk_at dksX1_halves_2 10 rfl rfl)
theorem dX1_halves_61 : decode cX1_halves 61 = .ok (.goto (-44), 3) := dk_167 255 212 (dk_at dksX1_halves_2 13 rfl rfl)
theorem dX1_halves_64 : decode cX1_halves 64 = .ok (.iload_n 1, 1) := dk_27 (dk_at dksX1_halves_2 16 rfl rfl)
theorem dX1_halves_65 : decode cX1_halves 65 = .ok (.ifCond .eq 7, 3) := dk_153 0 7 (dk_at dksX1_halves_2 17 rfl rfl)
theorem dX1_halves_68 : decode cX1_halves 68 = .ok (.iconst (-1), 1) := dk_2 (dk_at dksX1_halves_2 20 rfl rfl)
theorem dX1_halves_69 : decode cX1_halves 69 = .ok (.goto 4, 3) := dk_167 0 4 (dk_at dksX1_halves_2 21 rfl rfl)
theorem dX1_halves_72 : decode cX1_halves 72 = .ok (.iload_n 3, 1) := dk_29 (dk_at dksX1_halves_3 0 rfl rfl)
theorem dX1_halves_73 : decode cX1_halves 73 = .ok (.ireturn, 1) := dk_172 (dk_at dksX1_halves_3 1 rfl rfl)
abbrev cX1_spreads : ByteArray := prog_1_method_81_code
def yX1_spreads : MethodName := ⟨RX1, "spreads", "(Z)I"⟩
def dkwX1_spreads_2 : List UInt8 := [153, 0, 7, 2, 167, 0, 4, 28, 172]
abbrev dktX1_spreads_2 : List UInt8 := dkwX1_spreads_2 ++ []
def dkwX1_spreads_1 : List UInt8 := [154, 0, 6, 167, 0, 12, 27, 153, 0, 5, 29, 172, 132, 2, 1, 132, 3, 1, 167, 255, 220, 27]
abbrev dktX1_spreads_1 : List UInt8 := dkwX1_spreads_1 ++ dktX1_spreads_2
def dkwX1_spreads_0 : List UInt8 := [3, 61, 4, 62, 29, 4, 42, 180, 0, 124, 180, 0, 7, 120, 162, 0, 29, 42, 29, 182, 1, 211]
abbrev dktX1_spreads_0 : List UInt8 := dkwX1_spreads_0 ++ dktX1_spreads_1
theorem dksX1_spreads_0 : cX1_spreads.data.toList.drop 0 = dktX1_spreads_0 := by decide +kernel
theorem dksX1_spreads_1 : cX1_spreads.data.toList.drop 22 = dktX1_spreads_1 := dk_seg dksX1_spreads_0 22 rfl rfl
theorem dksX1_spreads_2 : cX1_spreads.data.toList.drop 44 = dktX1_spreads_2 := dk_seg dksX1_spreads_1 22 rfl rfl
theorem dX1_spreads_0 : decode cX1_spreads 0 = .ok (.iconst 0, 1) := dk_3 (dk_at dksX1_spreads_0 0 rfl rfl)
theorem dX1_spreads_1 : decode cX1_spreads 1 = .ok (.istore_n 2, 1) := dk_61 (dk_at dksX1_spreads_0 1 rfl rfl)
theorem dX1_spreads_2 : decode cX1_spreads 2 = .ok (.iconst 1, 1) := dk_4 (dk_at dksX1_spreads_0 2 rfl rfl)
theorem dX1_spreads_3 : decode cX1_spreads 3 = .ok (.istore_n 3, 1) := dk_62 (dk_at dksX1_spreads_0 3 rfl rfl)
theorem dX1_spreads_4 : decode cX1_spreads 4 = .ok (.iload_n 3, 1) := dk_29 (dk_at dksX1_spreads_0 4 rfl rfl)
theorem dX1_spreads_5 : decode cX1_spreads 5 = .ok (.iconst 1, 1) := dk_4 (dk_at dksX1_spreads_0 5 rfl rfl)
theorem dX1_spreads_6 : decode cX1_spreads 6 = .ok (.aload_n 0, 1) := dk_42 (dk_at dksX1_spreads_0 6 rfl rfl)
theorem dX1_spreads_7 : decode cX1_spreads 7 = .ok (.getfield 124, 3) := dk_180 0 124 (dk_at dksX1_spreads_0 7 rfl rfl)
theorem dX1_spreads_10 : decode cX1_spreads 10 = .ok (.getfield 7, 3) := dk_180 0 7 (dk_at dksX1_spreads_0 10 rfl rfl)
theorem dX1_spreads_13 : decode cX1_spreads 13 = .ok (.ishl, 1) := dk_120 (dk_at dksX1_spreads_0 13 rfl rfl)
theorem dX1_spreads_14 : decode cX1_spreads 14 = .ok (.if_icmp .ge 29, 3) := dk_162 0 29 (dk_at dksX1_spreads_0 14 rfl rfl)
theorem dX1_spreads_17 : decode cX1_spreads 17 = .ok (.aload_n 0, 1) := dk_42 (dk_at dksX1_spreads_0 17 rfl rfl)
theorem dX1_spreads_18 : decode cX1_spreads 18 = .ok (.iload_n 3, 1) := dk_29 (dk_at dksX1_spreads_0 18 rfl rfl)
theorem dX1_spreads_19 : decode cX1_spreads 19 = .ok (.invokevirtual 467, 3) := dk_182 1 211 (dk_at dksX1_spreads_0 19 rfl rfl)
theorem dX1_spreads_22 : decode cX1_spreads 22 = .ok (.ifCond .ne 6, 3) := dk_154 0 6 (dk_at dksX1_spreads_1 0 rfl rfl)
theorem dX1_spreads_25 : decode cX1_spreads 25 = .ok (.goto 12, 3) := dk_167 0 12 (dk_at dksX1_spreads_1 3 rfl rfl)
theorem dX1_spreads_28 : decode cX1_spreads 28 = .ok (.iload_n 1, 1) := dk_27 (dk_at dksX1_spreads_1 6 rfl rfl)
theorem dX1_spreads_29 : decode cX1_spreads 29 = .ok (.ifCond .eq 5, 3) := dk_153 0 5 (dk_at dksX1_spreads_1 7 rfl rfl)
theorem dX1_spreads_32 : decode cX1_spreads 32 = .ok (.iload_n 3, 1) := dk_29 (dk_at dksX1_spreads_1 10 rfl rfl)
theorem dX1_spreads_33 : decode cX1_spreads 33 = .ok (.ireturn, 1) := dk_172 (dk_at dksX1_spreads_1 11 rfl rfl)
theorem dX1_spreads_34 : decode cX1_spreads 34 = .ok (.iinc 2 1, 3) := dk_132 2 1 (dk_at dksX1_spreads_1 12 rfl rfl)
theorem dX1_spreads_37 : decode cX1_spreads 37 = .ok (.iinc 3 1, 3) := dk_132 3 1 (dk_at dksX1_spreads_1 15 rfl rfl)
theorem dX1_spreads_40 : decode cX1_spreads 40 = .ok (.goto (-36), 3) := dk_167 255 220 (dk_at dksX1_spreads_1 18 rfl rfl)
theorem dX1_spreads_43 : decode cX1_spreads 43 = .ok (.iload_n 1, 1) := dk_27 (dk_at dksX1_spreads_1 21 rfl rfl)
theorem dX1_spreads_44 : decode cX1_spreads 44 = .ok (.ifCond .eq 7, 3) := dk_153 0 7 (dk_at dksX1_spreads_2 0 rfl rfl)
theorem dX1_spreads_47 : decode cX1_spreads 47 = .ok (.iconst (-1), 1) := dk_2 (dk_at dksX1_spreads_2 3 rfl rfl)
theorem dX1_spreads_48 : decode cX1_spreads 48 = .ok (.goto 4, 3) := dk_167 0 4 (dk_at dksX1_spreads_2 4 rfl rfl)
theorem dX1_spreads_51 : decode cX1_spreads 51 = .ok (.iload_n 2, 1) := dk_28 (dk_at dksX1_spreads_2 7 rfl rfl)
theorem dX1_spreads_52 : decode cX1_spreads 52 = .ok (.ireturn, 1) := dk_172 (dk_at dksX1_spreads_2 8 rfl rfl)
abbrev cX1_parts : ByteArray := prog_1_method_82_code
def yX1_parts : MethodName := ⟨RX1, "parts", "(I)Z"⟩
def dkwX1_parts_3 : List UInt8 := [100, 160, 0, 7, 4, 167, 0, 4, 3, 172]
abbrev dktX1_parts_3 : List UInt8 := dkwX1_parts_3 ++ []
def dkwX1_parts_2 : List UInt8 := [180, 0, 37, 29, 46, 128, 61, 132, 3, 1, 167, 255, 203, 28, 4, 42, 180, 0, 124, 180, 0, 1, 120, 4]
abbrev dktX1_parts_2 : List UInt8 := dkwX1_parts_2 ++ dktX1_parts_3
def dkwX1_parts_1 : List UInt8 := [167, 0, 31, 28, 42, 180, 0, 124, 180, 0, 37, 29, 46, 126, 153, 0, 5, 3, 172, 28, 42, 180, 0, 124]
abbrev dktX1_parts_1 : List UInt8 := dkwX1_parts_1 ++ dktX1_parts_2
def dkwX1_parts_0 : List UInt8 := [3, 61, 3, 62, 29, 42, 180, 0, 124, 180, 0, 7, 162, 0, 48, 27, 29, 122, 4, 126, 154, 0, 6]
abbrev dktX1_parts_0 : List UInt8 := dkwX1_parts_0 ++ dktX1_parts_1
theorem dksX1_parts_0 : cX1_parts.data.toList.drop 0 = dktX1_parts_0 := by decide +kernel
theorem dksX1_parts_1 : cX1_parts.data.toList.drop 23 = dktX1_parts_1 := dk_seg dksX1_parts_0 23 rfl rfl
theorem dksX1_parts_2 : cX1_parts.data.toList.drop 47 = dktX1_parts_2 := dk_seg dksX1_parts_1 24 rfl rfl
theorem dksX1_parts_3 : cX1_parts.data.toList.drop 71 = dktX1_parts_3 := dk_seg dksX1_parts_2 24 rfl rfl
theorem dX1_parts_0 : decode cX1_parts 0 = .ok (.iconst 0, 1) := dk_3 (dk_at dksX1_parts_0 0 rfl rfl)
theorem dX1_parts_1 : decode cX1_parts 1 = .ok (.istore_n 2, 1) := dk_61 (dk_at dksX1_parts_0 1 rfl rfl)
theorem dX1_parts_2 : decode cX1_parts 2 = .ok (.iconst 0, 1) := dk_3 (dk_at dksX1_parts_0 2 rfl rfl)
theorem dX1_parts_3 : decode cX1_parts 3 = .ok (.istore_n 3, 1) := dk_62 (dk_at dksX1_parts_0 3 rfl rfl)
theorem dX1_parts_4 : decode cX1_parts 4 = .ok (.iload_n 3, 1) := dk_29 (dk_at dksX1_parts_0 4 rfl rfl)
theorem dX1_parts_5 : decode cX1_parts 5 = .ok (.aload_n 0, 1) := dk_42 (dk_at dksX1_parts_0 5 rfl rfl)
theorem dX1_parts_6 : decode cX1_parts 6 = .ok (.getfield 124, 3) := dk_180 0 124 (dk_at dksX1_parts_0 6 rfl rfl)
theorem dX1_parts_9 : decode cX1_parts 9 = .ok (.getfield 7, 3) := dk_180 0 7 (dk_at dksX1_parts_0 9 rfl rfl)
theorem dX1_parts_12 : decode cX1_parts 12 = .ok (.if_icmp .ge 48, 3) := dk_162 0 48 (dk_at dksX1_parts_0 12 rfl rfl)
theorem dX1_parts_15 : decode cX1_parts 15 = .ok (.iload_n 1, 1) := dk_27 (dk_at dksX1_parts_0 15 rfl rfl)
theorem dX1_parts_16 : decode cX1_parts 16 = .ok (.iload_n 3, 1) := dk_29 (dk_at dksX1_parts_0 16 rfl rfl)
theorem dX1_parts_17 : decode cX1_parts 17 = .ok (.ishr, 1) := dk_122 (dk_at dksX1_parts_0 17 rfl rfl)
theorem dX1_parts_18 : decode cX1_parts 18 = .ok (.iconst 1, 1) := dk_4 (dk_at dksX1_parts_0 18 rfl rfl)
theorem dX1_parts_19 : decode cX1_parts 19 = .ok (.iand, 1) := dk_126 (dk_at dksX1_parts_0 19 rfl rfl)
theorem dX1_parts_20 : decode cX1_parts 20 = .ok (.ifCond .ne 6, 3) := dk_154 0 6 (dk_at dksX1_parts_0 20 rfl rfl)
theorem dX1_parts_23 : decode cX1_parts 23 = .ok (.goto 31, 3) := dk_167 0 31 (dk_at dksX1_parts_1 0 rfl rfl)
theorem dX1_parts_26 : decode cX1_parts 26 = .ok (.iload_n 2, 1) := dk_28 (dk_at dksX1_parts_1 3 rfl rfl)
theorem dX1_parts_27 : decode cX1_parts 27 = .ok (.aload_n 0, 1) := dk_42 (dk_at dksX1_parts_1 4 rfl rfl)
theorem dX1_parts_28 : decode cX1_parts 28 = .ok (.getfield 124, 3) := dk_180 0 124 (dk_at dksX1_parts_1 5 rfl rfl)
theorem dX1_parts_31 : decode cX1_parts 31 = .ok (.getfield 37, 3) := dk_180 0 37 (dk_at dksX1_parts_1 8 rfl rfl)
theorem dX1_parts_34 : decode cX1_parts 34 = .ok (.iload_n 3, 1) := dk_29 (dk_at dksX1_parts_1 11 rfl rfl)
theorem dX1_parts_35 : decode cX1_parts 35 = .ok (.iaload, 1) := dk_46 (dk_at dksX1_parts_1 12 rfl rfl)
theorem dX1_parts_36 : decode cX1_parts 36 = .ok (.iand, 1) := dk_126 (dk_at dksX1_parts_1 13 rfl rfl)
theorem dX1_parts_37 : decode cX1_parts 37 = .ok (.ifCond .eq 5, 3) := dk_153 0 5 (dk_at dksX1_parts_1 14 rfl rfl)
theorem dX1_parts_40 : decode cX1_parts 40 = .ok (.iconst 0, 1) := dk_3 (dk_at dksX1_parts_1 17 rfl rfl)
theorem dX1_parts_41 : decode cX1_parts 41 = .ok (.ireturn, 1) := dk_172 (dk_at dksX1_parts_1 18 rfl rfl)
theorem dX1_parts_42 : decode cX1_parts 42 = .ok (.iload_n 2, 1) := dk_28 (dk_at dksX1_parts_1 19 rfl rfl)
theorem dX1_parts_43 : decode cX1_parts 43 = .ok (.aload_n 0, 1) := dk_42 (dk_at dksX1_parts_1 20 rfl rfl)
theorem dX1_parts_44 : decode cX1_parts 44 = .ok (.getfield 124, 3) := dk_180 0 124 (dk_at dksX1_parts_1 21 rfl rfl)
theorem dX1_parts_47 : decode cX1_parts 47 = .ok (.getfield 37, 3) := dk_180 0 37 (dk_at dksX1_parts_2 0 rfl rfl)
theorem dX1_parts_50 : decode cX1_parts 50 = .ok (.iload_n 3, 1) := dk_29 (dk_at dksX1_parts_2 3 rfl rfl)
theorem dX1_parts_51 : decode cX1_parts 51 = .ok (.iaload, 1) := dk_46 (dk_at dksX1_parts_2 4 rfl rfl)
theorem dX1_parts_52 : decode cX1_parts 52 = .ok (.ior, 1) := dk_128 (dk_at dksX1_parts_2 5 rfl rfl)
theorem dX1_parts_53 : decode cX1_parts 53 = .ok (.istore_n 2, 1) := dk_61 (dk_at dksX1_parts_2 6 rfl rfl)
theorem dX1_parts_54 : decode cX1_parts 54 = .ok (.iinc 3 1, 3) := dk_132 3 1 (dk_at dksX1_parts_2 7 rfl rfl)
theorem dX1_parts_57 : decode cX1_parts 57 = .ok (.goto (-53), 3) := dk_167 255 203 (dk_at dksX1_parts_2 10 rfl rfl)
theorem dX1_parts_60 : decode cX1_parts 60 = .ok (.iload_n 2, 1) := dk_28 (dk_at dksX1_parts_2 13 rfl rfl)
theorem dX1_parts_61 : decode cX1_parts 61 = .ok (.iconst 1, 1) := dk_4 (dk_at dksX1_parts_2 14 rfl rfl)
theorem dX1_parts_62 : decode cX1_parts 62 = .ok (.aload_n 0, 1) := dk_42 (dk_at dksX1_parts_2 15 rfl rfl)
theorem dX1_parts_63 : decode cX1_parts 63 = .ok (.getfield 124, 3) := dk_180 0 124 (dk_at dksX1_parts_2 16 rfl rfl)
theorem dX1_parts_66 : decode cX1_parts 66 = .ok (.getfield 1, 3) := dk_180 0 1 (dk_at dksX1_parts_2 19 rfl rfl)
theorem dX1_parts_69 : decode cX1_parts 69 = .ok (.ishl, 1) := dk_120 (dk_at dksX1_parts_2 22 rfl rfl)
theorem dX1_parts_70 : decode cX1_parts 70 = .ok (.iconst 1, 1) := dk_4 (dk_at dksX1_parts_2 23 rfl rfl)
theorem dX1_parts_71 : decode cX1_parts 71 = .ok (.isub, 1) := dk_100 (dk_at dksX1_parts_3 0 rfl rfl)
theorem dX1_parts_72 : decode cX1_parts 72 = .ok (.if_icmp .ne 7, 3) := dk_160 0 7 (dk_at dksX1_parts_3 1 rfl rfl)
theorem dX1_parts_75 : decode cX1_parts 75 = .ok (.iconst 1, 1) := dk_4 (dk_at dksX1_parts_3 4 rfl rfl)
theorem dX1_parts_76 : decode cX1_parts 76 = .ok (.goto 4, 3) := dk_167 0 4 (dk_at dksX1_parts_3 5 rfl rfl)
theorem dX1_parts_79 : decode cX1_parts 79 = .ok (.iconst 0, 1) := dk_3 (dk_at dksX1_parts_3 8 rfl rfl)
theorem dX1_parts_80 : decode cX1_parts 80 = .ok (.ireturn, 1) := dk_172 (dk_at dksX1_parts_3 9 rfl rfl)
abbrev cX1_far : ByteArray := prog_1_method_84_code
def yX1_far : MethodName := ⟨RX1, "far", "(II)I"⟩
def dkwX1_far_5 : List UInt8 := [2, 172]
abbrev dktX1_far_5 : List UInt8 := dkwX1_far_5 ++ []
def dkwX1_far_4 : List UInt8 := [180, 0, 37, 21, 6, 46, 128, 54, 5, 132, 6, 1, 167, 255, 211, 21, 5, 62, 132, 4, 1, 167, 255, 177]
abbrev dktX1_far_4 : List UInt8 := dkwX1_far_4 ++ dktX1_far_5
def dkwX1_far_3 : List UInt8 := [162, 0, 39, 42, 180, 0, 124, 180, 0, 37, 21, 6, 46, 29, 126, 153, 0, 18, 21, 5, 42, 180, 0, 124]
abbrev dktX1_far_3 : List UInt8 := dkwX1_far_3 ++ dktX1_far_4
def dkwX1_far_2 : List UInt8 := [4, 126, 4, 160, 0, 6, 21, 4, 172, 29, 54, 5, 3, 54, 6, 21, 6, 42, 180, 0, 124, 180, 0, 7]
abbrev dktX1_far_2 : List UInt8 := dkwX1_far_2 ++ dktX1_far_3
def dkwX1_far_1 : List UInt8 := [167, 0, 4, 3, 184, 0, 110, 4, 27, 120, 62, 3, 54, 4, 21, 4, 16, 8, 163, 0, 78, 29, 28, 122]
abbrev dktX1_far_1 : List UInt8 := dkwX1_far_1 ++ dktX1_far_2
def dkwX1_far_0 : List UInt8 := [42, 180, 0, 124, 27, 182, 1, 97, 153, 0, 18, 42, 180, 0, 124, 28, 182, 1, 97, 153, 0, 7, 4]
abbrev dktX1_far_0 : List UInt8 := dkwX1_far_0 ++ dktX1_far_1
theorem dksX1_far_0 : cX1_far.data.toList.drop 0 = dktX1_far_0 := by decide +kernel
theorem dksX1_far_1 : cX1_far.data.toList.drop 23 = dktX1_far_1 := dk_seg dksX1_far_0 23 rfl rfl
theorem dksX1_far_2 : cX1_far.data.toList.drop 47 = dktX1_far_2 := dk_seg dksX1_far_1 24 rfl rfl
theorem dksX1_far_3 : cX1_far.data.toList.drop 71 = dktX1_far_3 := dk_seg dksX1_far_2 24 rfl rfl
theorem dksX1_far_4 : cX1_far.data.toList.drop 95 = dktX1_far_4 := dk_seg dksX1_far_3 24 rfl rfl
theorem dksX1_far_5 : cX1_far.data.toList.drop 119 = dktX1_far_5 := dk_seg dksX1_far_4 24 rfl rfl
theorem dX1_far_0 : decode cX1_far 0 = .ok (.aload_n 0, 1) := dk_42 (dk_at dksX1_far_0 0 rfl rfl)
theorem dX1_far_1 : decode cX1_far 1 = .ok (.getfield 124, 3) := dk_180 0 124 (dk_at dksX1_far_0 1 rfl rfl)
theorem dX1_far_4 : decode cX1_far 4 = .ok (.iload_n 1, 1) := dk_27 (dk_at dksX1_far_0 4 rfl rfl)
theorem dX1_far_5 : decode cX1_far 5 = .ok (.invokevirtual 353, 3) := dk_182 1 97 (dk_at dksX1_far_0 5 rfl rfl)
theorem dX1_far_8 : decode cX1_far 8 = .ok (.ifCond .eq 18, 3) := dk_153 0 18 (dk_at dksX1_far_0 8 rfl rfl)
theorem dX1_far_11 : decode cX1_far 11 = .ok (.aload_n 0, 1) := dk_42 (dk_at dksX1_far_0 11 rfl rfl)
theorem dX1_far_12 : decode cX1_far 12 = .ok (.getfield 124, 3) := dk_180 0 124 (dk_at dksX1_far_0 12 rfl rfl)
theorem dX1_far_15 : decode cX1_far 15 = .ok (.iload_n 2, 1) := dk_28 (dk_at dksX1_far_0 15 rfl rfl)
theorem dX1_far_16 : decode cX1_far 16 = .ok (.invokevirtual 353, 3) := dk_182 1 97 (dk_at dksX1_far_0 16 rfl rfl)
theorem dX1_far_19 : decode cX1_far 19 = .ok (.ifCond .eq 7, 3) := dk_153 0 7 (dk_at dksX1_far_0 19 rfl rfl)
theorem dX1_far_22 : decode cX1_far 22 = .ok (.iconst 1, 1) := dk_4 (dk_at dksX1_far_0 22 rfl rfl)
theorem dX1_far_23 : decode cX1_far 23 = .ok (.goto 4, 3) := dk_167 0 4 (dk_at dksX1_far_1 0 rfl rfl)
theorem dX1_far_26 : decode cX1_far 26 = .ok (.iconst 0, 1) := dk_3 (dk_at dksX1_far_1 3 rfl rfl)
theorem dX1_far_27 : decode cX1_far 27 = .ok (.invokestatic 110, 3) := dk_184 0 110 (dk_at dksX1_far_1 4 rfl rfl)
theorem dX1_far_30 : decode cX1_far 30 = .ok (.iconst 1, 1) := dk_4 (dk_at dksX1_far_1 7 rfl rfl)
theorem dX1_far_31 : decode cX1_far 31 = .ok (.iload_n 1, 1) := dk_27 (dk_at dksX1_far_1 8 rfl rfl)
theorem dX1_far_32 : decode cX1_far 32 = .ok (.ishl, 1) := dk_120 (dk_at dksX1_far_1 9 rfl rfl)
theorem dX1_far_33 : decode cX1_far 33 = .ok (.istore_n 3, 1) := dk_62 (dk_at dksX1_far_1 10 rfl rfl)
theorem dX1_far_34 : decode cX1_far 34 = .ok (.iconst 0, 1) := dk_3 (dk_at dksX1_far_1 11 rfl rfl)
theorem dX1_far_35 : decode cX1_far 35 = .ok (.istore 4, 2) := dk_54 4 (dk_at dksX1_far_1 12 rfl rfl)
theorem dX1_far_37 : decode cX1_far 37 = .ok (.iload 4, 2) := dk_21 4 (dk_at dksX1_far_1 14 rfl rfl)
theorem dX1_far_39 : decode cX1_far 39 = .ok (.bipush 8, 2) := dk_16 8 (dk_at dksX1_far_1 16 rfl rfl)
theorem dX1_far_41 : decode cX1_far 41 = .ok (.if_icmp .gt 78, 3) := dk_163 0 78 (dk_at dksX1_far_1 18 rfl rfl)
theorem dX1_far_44 : decode cX1_far 44 = .ok (.iload_n 3, 1) := dk_29 (dk_at dksX1_far_1 21 rfl rfl)
theorem dX1_far_45 : decode cX1_far 45 = .ok (.iload_n 2, 1) := dk_28 (dk_at dksX1_far_1 22 rfl rfl)
theorem dX1_far_46 : decode cX1_far 46 = .ok (.ishr, 1) := dk_122 (dk_at dksX1_far_1 23 rfl rfl)
theorem dX1_far_47 : decode cX1_far 47 = .ok (.iconst 1, 1) := dk_4 (dk_at dksX1_far_2 0 rfl rfl)
theorem dX1_far_48 : decode cX1_far 48 = .ok (.iand, 1) := dk_126 (dk_at dksX1_far_2 1 rfl rfl)
theorem dX1_far_49 : decode cX1_far 49 = .ok (.iconst 1, 1) := dk_4 (dk_at dksX1_far_2 2 rfl rfl)
theorem dX1_far_50 : decode cX1_far 50 = .ok (.if_icmp .ne 6, 3) := dk_160 0 6 (dk_at dksX1_far_2 3 rfl rfl)
theorem dX1_far_53 : decode cX1_far 53 = .ok (.iload 4, 2) := dk_21 4 (dk_at dksX1_far_2 6 rfl rfl)
theorem dX1_far_55 : decode cX1_far 55 = .ok (.ireturn, 1) := dk_172 (dk_at dksX1_far_2 8 rfl rfl)
theorem dX1_far_56 : decode cX1_far 56 = .ok (.iload_n 3, 1) := dk_29 (dk_at dksX1_far_2 9 rfl rfl)
theorem dX1_far_57 : decode cX1_far 57 = .ok (.istore 5, 2) := dk_54 5 (dk_at dksX1_far_2 10 rfl rfl)
theorem dX1_far_59 : decode cX1_far 59 = .ok (.iconst 0, 1) := dk_3 (dk_at dksX1_far_2 12 rfl rfl)
theorem dX1_far_60 : decode cX1_far 60 = .ok (.istore 6, 2) := dk_54 6 (dk_at dksX1_far_2 13 rfl rfl)
theorem dX1_far_62 : decode cX1_far 62 = .ok (.iload 6, 2) := dk_21 6 (dk_at dksX1_far_2 15 rfl rfl)
theorem dX1_far_64 : decode cX1_far 64 = .ok (.aload_n 0, 1) := dk_42 (dk_at dksX1_far_2 17 rfl rfl)
theorem dX1_far_65 : decode cX1_far 65 = .ok (.getfield 124, 3) := dk_180 0 124 (dk_at dksX1_far_2 18 rfl rfl)
theorem dX1_far_68 : decode cX1_far 68 = .ok (.getfield 7, 3) := dk_180 0 7 (dk_at dksX1_far_2 21 rfl rfl)
theorem dX1_far_71 : decode cX1_far 71 = .ok (.if_icmp .ge 39, 3) := dk_162 0 39 (dk_at dksX1_far_3 0 rfl rfl)
theorem dX1_far_74 : decode cX1_far 74 = .ok (.aload_n 0, 1) := dk_42 (dk_at dksX1_far_3 3 rfl rfl)
theorem dX1_far_75 : decode cX1_far 75 = .ok (.getfield 124, 3) := dk_180 0 124 (dk_at dksX1_far_3 4 rfl rfl)
theorem dX1_far_78 : decode cX1_far 78 = .ok (.getfield 37, 3) := dk_180 0 37 (dk_at dksX1_far_3 7 rfl rfl)
theorem dX1_far_81 : decode cX1_far 81 = .ok (.iload 6, 2) := dk_21 6 (dk_at dksX1_far_3 10 rfl rfl)
theorem dX1_far_83 : decode cX1_far 83 = .ok (.iaload, 1) := dk_46 (dk_at dksX1_far_3 12 rfl rfl)
theorem dX1_far_84 : decode cX1_far 84 = .ok (.iload_n 3, 1) := dk_29 (dk_at dksX1_far_3 13 rfl rfl)
theorem dX1_far_85 : decode cX1_far 85 = .ok (.iand, 1) := dk_126 (dk_at dksX1_far_3 14 rfl rfl)
theorem dX1_far_86 : decode cX1_far 86 = .ok (.ifCond .eq 18, 3) := dk_153 0 18 (dk_at dksX1_far_3 15 rfl rfl)
theorem dX1_far_89 : decode cX1_far 89 = .ok (.iload 5, 2) := dk_21 5 (dk_at dksX1_far_3 18 rfl rfl)
theorem dX1_far_91 : decode cX1_far 91 = .ok (.aload_n 0, 1) := dk_42 (dk_at dksX1_far_3 20 rfl rfl)
theorem dX1_far_92 : decode cX1_far 92 = .ok (.getfield 124, 3) := dk_180 0 124 (dk_at dksX1_far_3 21 rfl rfl)
theorem dX1_far_95 : decode cX1_far 95 = .ok (.getfield 37, 3) := dk_180 0 37 (dk_at dksX1_far_4 0 rfl rfl)
theorem dX1_far_98 : decode cX1_far 98 = .ok (.iload 6, 2) := dk_21 6 (dk_at dksX1_far_4 3 rfl rfl)
theorem dX1_far_100 : decode cX1_far 100 = .ok (.iaload, 1) := dk_46 (dk_at dksX1_far_4 5 rfl rfl)
theorem dX1_far_101 : decode cX1_far 101 = .ok (.ior, 1) := dk_128 (dk_at dksX1_far_4 6 rfl rfl)
theorem dX1_far_102 : decode cX1_far 102 = .ok (.istore 5, 2) := dk_54 5 (dk_at dksX1_far_4 7 rfl rfl)
theorem dX1_far_104 : decode cX1_far 104 = .ok (.iinc 6 1, 3) := dk_132 6 1 (dk_at dksX1_far_4 9 rfl rfl)
theorem dX1_far_107 : decode cX1_far 107 = .ok (.goto (-45), 3) := dk_167 255 211 (dk_at dksX1_far_4 12 rfl rfl)
theorem dX1_far_110 : decode cX1_far 110 = .ok (.iload 5, 2) := dk_21 5 (dk_at dksX1_far_4 15 rfl rfl)
theorem dX1_far_112 : decode cX1_far 112 = .ok (.istore_n 3, 1) := dk_62 (dk_at dksX1_far_4 17 rfl rfl)
theorem dX1_far_113 : decode cX1_far 113 = .ok (.iinc 4 1, 3) := dk_132 4 1 (dk_at dksX1_far_4 18 rfl rfl)
theorem dX1_far_116 : decode cX1_far 116 = .ok (.goto (-79), 3) := dk_167 255 177 (dk_at dksX1_far_4 21 rfl rfl)
theorem dX1_far_119 : decode cX1_far 119 = .ok (.iconst (-1), 1) := dk_2 (dk_at dksX1_far_5 0 rfl rfl)
theorem dX1_far_120 : decode cX1_far 120 = .ok (.ireturn, 1) := dk_172 (dk_at dksX1_far_5 1 rfl rfl)
abbrev cX1_game : ByteArray := prog_1_method_87_code
def yX1_game : MethodName := ⟨RX1, "game", "(I)I"⟩
def dkwX1_game_2 : List UInt8 := [3, 62, 42, 4, 29, 120, 3, 182, 1, 227, 28, 159, 0, 9, 132, 3, 1, 167, 255, 241, 29, 172]
abbrev dktX1_game_2 : List UInt8 := dkwX1_game_2 ++ []
def dkwX1_game_1 : List UInt8 := [28, 17, 3, 231, 79, 132, 2, 1, 167, 255, 235, 42, 3, 3, 182, 1, 233, 61, 27, 154, 0, 5, 28, 172]
abbrev dktX1_game_1 : List UInt8 := dkwX1_game_1 ++ dktX1_game_2
def dkwX1_game_0 : List UInt8 := [27, 3, 4, 184, 0, 88, 184, 0, 110, 3, 61, 28, 42, 180, 0, 183, 190, 162, 0, 18, 42, 180, 0, 183]
abbrev dktX1_game_0 : List UInt8 := dkwX1_game_0 ++ dktX1_game_1
theorem dksX1_game_0 : cX1_game.data.toList.drop 0 = dktX1_game_0 := by decide +kernel
theorem dksX1_game_1 : cX1_game.data.toList.drop 24 = dktX1_game_1 := dk_seg dksX1_game_0 24 rfl rfl
theorem dksX1_game_2 : cX1_game.data.toList.drop 48 = dktX1_game_2 := dk_seg dksX1_game_1 24 rfl rfl
theorem dX1_game_0 : decode cX1_game 0 = .ok (.iload_n 1, 1) := dk_27 (dk_at dksX1_game_0 0 rfl rfl)
theorem dX1_game_1 : decode cX1_game 1 = .ok (.iconst 0, 1) := dk_3 (dk_at dksX1_game_0 1 rfl rfl)
theorem dX1_game_2 : decode cX1_game 2 = .ok (.iconst 1, 1) := dk_4 (dk_at dksX1_game_0 2 rfl rfl)
theorem dX1_game_3 : decode cX1_game 3 = .ok (.invokestatic 88, 3) := dk_184 0 88 (dk_at dksX1_game_0 3 rfl rfl)
theorem dX1_game_6 : decode cX1_game 6 = .ok (.invokestatic 110, 3) := dk_184 0 110 (dk_at dksX1_game_0 6 rfl rfl)
theorem dX1_game_9 : decode cX1_game 9 = .ok (.iconst 0, 1) := dk_3 (dk_at dksX1_game_0 9 rfl rfl)
theorem dX1_game_10 : decode cX1_game 10 = .ok (.istore_n 2, 1) := dk_61 (dk_at dksX1_game_0 10 rfl rfl)
theorem dX1_game_11 : decode cX1_game 11 = .ok (.iload_n 2, 1) := dk_28 (dk_at dksX1_game_0 11 rfl rfl)
theorem dX1_game_12 : decode cX1_game 12 = .ok (.aload_n 0, 1) := dk_42 (dk_at dksX1_game_0 12 rfl rfl)
theorem dX1_game_13 : decode cX1_game 13 = .ok (.getfield 183, 3) := dk_180 0 183 (dk_at dksX1_game_0 13 rfl rfl)
theorem dX1_game_16 : decode cX1_game 16 = .ok (.arraylength, 1) := dk_190 (dk_at dksX1_game_0 16 rfl rfl)
theorem dX1_game_17 : decode cX1_game 17 = .ok (.if_icmp .ge 18, 3) := dk_162 0 18 (dk_at dksX1_game_0 17 rfl rfl)
theorem dX1_game_20 : decode cX1_game 20 = .ok (.aload_n 0, 1) := dk_42 (dk_at dksX1_game_0 20 rfl rfl)
theorem dX1_game_21 : decode cX1_game 21 = .ok (.getfield 183, 3) := dk_180 0 183 (dk_at dksX1_game_0 21 rfl rfl)
theorem dX1_game_24 : decode cX1_game 24 = .ok (.iload_n 2, 1) := dk_28 (dk_at dksX1_game_1 0 rfl rfl)
theorem dX1_game_25 : decode cX1_game 25 = .ok (.sipush 999, 3) := dk_17 3 231 (dk_at dksX1_game_1 1 rfl rfl)
theorem dX1_game_28 : decode cX1_game 28 = .ok (.iastore, 1) := dk_79 (dk_at dksX1_game_1 4 rfl rfl)
theorem dX1_game_29 : decode cX1_game 29 = .ok (.iinc 2 1, 3) := dk_132 2 1 (dk_at dksX1_game_1 5 rfl rfl)
theorem dX1_game_32 : decode cX1_game 32 = .ok (.goto (-21), 3) := dk_167 255 235 (dk_at dksX1_game_1 8 rfl rfl)
theorem dX1_game_35 : decode cX1_game 35 = .ok (.aload_n 0, 1) := dk_42 (dk_at dksX1_game_1 11 rfl rfl)
theorem dX1_game_36 : decode cX1_game 36 = .ok (.iconst 0, 1) := dk_3 (dk_at dksX1_game_1 12 rfl rfl)
theorem dX1_game_37 : decode cX1_game 37 = .ok (.iconst 0, 1) := dk_3 (dk_at dksX1_game_1 13 rfl rfl)
theorem dX1_game_38 : decode cX1_game 38 = .ok (.invokevirtual 489, 3) := dk_182 1 233 (dk_at dksX1_game_1 14 rfl rfl)
theorem dX1_game_41 : decode cX1_game 41 = .ok (.istore_n 2, 1) := dk_61 (dk_at dksX1_game_1 17 rfl rfl)
theorem dX1_game_42 : decode cX1_game 42 = .ok (.iload_n 1, 1) := dk_27 (dk_at dksX1_game_1 18 rfl rfl)
theorem dX1_game_43 : decode cX1_game 43 = .ok (.ifCond .ne 5, 3) := dk_154 0 5 (dk_at dksX1_game_1 19 rfl rfl)
theorem dX1_game_46 : decode cX1_game 46 = .ok (.iload_n 2, 1) := dk_28 (dk_at dksX1_game_1 22 rfl rfl)
theorem dX1_game_47 : decode cX1_game 47 = .ok (.ireturn, 1) := dk_172 (dk_at dksX1_game_1 23 rfl rfl)
theorem dX1_game_48 : decode cX1_game 48 = .ok (.iconst 0, 1) := dk_3 (dk_at dksX1_game_2 0 rfl rfl)
theorem dX1_game_49 : decode cX1_game 49 = .ok (.istore_n 3, 1) := dk_62 (dk_at dksX1_game_2 1 rfl rfl)
theorem dX1_game_50 : decode cX1_game 50 = .ok (.aload_n 0, 1) := dk_42 (dk_at dksX1_game_2 2 rfl rfl)
theorem dX1_game_51 : decode cX1_game 51 = .ok (.iconst 1, 1) := dk_4 (dk_at dksX1_game_2 3 rfl rfl)
theorem dX1_game_52 : decode cX1_game 52 = .ok (.iload_n 3, 1) := dk_29 (dk_at dksX1_game_2 4 rfl rfl)
theorem dX1_game_53 : decode cX1_game 53 = .ok (.ishl, 1) := dk_120 (dk_at dksX1_game_2 5 rfl rfl)
theorem dX1_game_54 : decode cX1_game 54 = .ok (.iconst 0, 1) := dk_3 (dk_at dksX1_game_2 6 rfl rfl)
theorem dX1_game_55 : decode cX1_game 55 = .ok (.invokevirtual 483, 3) := dk_182 1 227 (dk_at dksX1_game_2 7 rfl rfl)
theorem dX1_game_58 : decode cX1_game 58 = .ok (.iload_n 2, 1) := dk_28 (dk_at dksX1_game_2 10 rfl rfl)
theorem dX1_game_59 : decode cX1_game 59 = .ok (.if_icmp .eq 9, 3) := dk_159 0 9 (dk_at dksX1_game_2 11 rfl rfl)
theorem dX1_game_62 : decode cX1_game 62 = .ok (.iinc 3 1, 3) := dk_132 3 1 (dk_at dksX1_game_2 14 rfl rfl)
theorem dX1_game_65 : decode cX1_game 65 = .ok (.goto (-15), 3) := dk_167 255 241 (dk_at dksX1_game_2 17 rfl rfl)
theorem dX1_game_68 : decode cX1_game 68 = .ok (.iload_n 3, 1) := dk_29 (dk_at dksX1_game_2 20 rfl rfl)
theorem dX1_game_69 : decode cX1_game 69 = .ok (.ireturn, 1) := dk_172 (dk_at dksX1_game_2 21 rfl rfl)
abbrev cX1_plays : ByteArray := prog_1_method_85_code
def yX1_plays : MethodName := ⟨RX1, "plays", "(II)I"⟩
def dkwX1_plays_5 : List UInt8 := [172]
abbrev dktX1_plays_5 : List UInt8 := dkwX1_plays_5 ++ []
def dkwX1_plays_4 : List UInt8 := [182, 1, 227, 184, 1, 230, 54, 4, 132, 5, 1, 167, 255, 202, 42, 180, 0, 183, 29, 21, 4, 79, 21, 4]
abbrev dktX1_plays_4 : List UInt8 := dkwX1_plays_4 ++ dktX1_plays_5
def dkwX1_plays_3 : List UInt8 := [28, 128, 21, 5, 122, 4, 126, 4, 160, 0, 6, 167, 0, 21, 21, 4, 42, 27, 4, 21, 5, 120, 128, 28]
abbrev dktX1_plays_3 : List UInt8 := dkwX1_plays_3 ++ dktX1_plays_4
def dkwX1_plays_2 : List UInt8 := [54, 4, 3, 54, 5, 21, 5, 42, 180, 0, 124, 180, 0, 1, 162, 0, 48, 21, 4, 4, 162, 0, 42, 27]
abbrev dktX1_plays_2 : List UInt8 := dkwX1_plays_2 ++ dktX1_plays_3
def dkwX1_plays_1 : List UInt8 := [46, 172, 27, 28, 96, 4, 42, 180, 0, 124, 180, 0, 1, 120, 4, 100, 160, 0, 7, 3, 167, 0, 4, 2]
abbrev dktX1_plays_1 : List UInt8 := dkwX1_plays_1 ++ dktX1_plays_2
def dkwX1_plays_0 : List UInt8 := [27, 16, 8, 120, 28, 128, 62, 42, 180, 0, 183, 29, 46, 17, 3, 231, 159, 0, 10, 42, 180, 0, 183, 29]
abbrev dktX1_plays_0 : List UInt8 := dkwX1_plays_0 ++ dktX1_plays_1
theorem dksX1_plays_0 : cX1_plays.data.toList.drop 0 = dktX1_plays_0 := by decide +kernel
theorem dksX1_plays_1 : cX1_plays.data.toList.drop 24 = dktX1_plays_1 := dk_seg dksX1_plays_0 24 rfl rfl
theorem dksX1_plays_2 : cX1_plays.data.toList.drop 48 = dktX1_plays_2 := dk_seg dksX1_plays_1 24 rfl rfl
theorem dksX1_plays_3 : cX1_plays.data.toList.drop 72 = dktX1_plays_3 := dk_seg dksX1_plays_2 24 rfl rfl
theorem dksX1_plays_4 : cX1_plays.data.toList.drop 96 = dktX1_plays_4 := dk_seg dksX1_plays_3 24 rfl rfl
theorem dksX1_plays_5 : cX1_plays.data.toList.drop 120 = dktX1_plays_5 := dk_seg dksX1_plays_4 24 rfl rfl
theorem dX1_plays_0 : decode cX1_plays 0 = .ok (.iload_n 1, 1) := dk_27 (dk_at dksX1_plays_0 0 rfl rfl)
theorem dX1_plays_1 : decode cX1_plays 1 = .ok (.bipush 8, 2) := dk_16 8 (dk_at dksX1_plays_0 1 rfl rfl)
theorem dX1_plays_3 : decode cX1_plays 3 = .ok (.ishl, 1) := dk_120 (dk_at dksX1_plays_0 3 rfl rfl)
theorem dX1_plays_4 : decode cX1_plays 4 = .ok (.iload_n 2, 1) := dk_28 (dk_at dksX1_plays_0 4 rfl rfl)
theorem dX1_plays_5 : decode cX1_plays 5 = .ok (.ior, 1) := dk_128 (dk_at dksX1_plays_0 5 rfl rfl)
theorem dX1_plays_6 : decode cX1_plays 6 = .ok (.istore_n 3, 1) := dk_62 (dk_at dksX1_plays_0 6 rfl rfl)
theorem dX1_plays_7 : decode cX1_plays 7 = .ok (.aload_n 0, 1) := dk_42 (dk_at dksX1_plays_0 7 rfl rfl)
theorem dX1_plays_8 : decode cX1_plays 8 = .ok (.getfield 183, 3) := dk_180 0 183 (dk_at dksX1_plays_0 8 rfl rfl)
theorem dX1_plays_11 : decode cX1_plays 11 = .ok (.iload_n 3, 1) := dk_29 (dk_at dksX1_plays_0 11 rfl rfl)
theorem dX1_plays_12 : decode cX1_plays 12 = .ok (.iaload, 1) := dk_46 (dk_at dksX1_plays_0 12 rfl rfl)
theorem dX1_plays_13 : decode cX1_plays 13 = .ok (.sipush 999, 3) := dk_17 3 231 (dk_at dksX1_plays_0 13 rfl rfl)
theorem dX1_plays_16 : decode cX1_plays 16 = .ok (.if_icmp .eq 10, 3) := dk_159 0 10 (dk_at dksX1_plays_0 16 rfl rfl)
theorem dX1_plays_19 : decode cX1_plays 19 = .ok (.aload_n 0, 1) := dk_42 (dk_at dksX1_plays_0 19 rfl rfl)
theorem dX1_plays_20 : decode cX1_plays 20 = .ok (.getfield 183, 3) := dk_180 0 183 (dk_at dksX1_plays_0 20 rfl rfl)
theorem dX1_plays_23 : decode cX1_plays 23 = .ok (.iload_n 3, 1) := dk_29 (dk_at dksX1_plays_0 23 rfl rfl)
theorem dX1_plays_24 : decode cX1_plays 24 = .ok (.iaload, 1) := dk_46 (dk_at dksX1_plays_1 0 rfl rfl)
theorem dX1_plays_25 : decode cX1_plays 25 = .ok (.ireturn, 1) := dk_172 (dk_at dksX1_plays_1 1 rfl rfl)
theorem dX1_plays_26 : decode cX1_plays 26 = .ok (.iload_n 1, 1) := dk_27 (dk_at dksX1_plays_1 2 rfl rfl)
theorem dX1_plays_27 : decode cX1_plays 27 = .ok (.iload_n 2, 1) := dk_28 (dk_at dksX1_plays_1 3 rfl rfl)
theorem dX1_plays_28 : decode cX1_plays 28 = .ok (.iadd, 1) := dk_96 (dk_at dksX1_plays_1 4 rfl rfl)
theorem dX1_plays_29 : decode cX1_plays 29 = .ok (.iconst 1, 1) := dk_4 (dk_at dksX1_plays_1 5 rfl rfl)
theorem dX1_plays_30 : decode cX1_plays 30 = .ok (.aload_n 0, 1) := dk_42 (dk_at dksX1_plays_1 6 rfl rfl)
theorem dX1_plays_31 : decode cX1_plays 31 = .ok (.getfield 124, 3) := dk_180 0 124 (dk_at dksX1_plays_1 7 rfl rfl)
theorem dX1_plays_34 : decode cX1_plays 34 = .ok (.getfield 1, 3) := dk_180 0 1 (dk_at dksX1_plays_1 10 rfl rfl)
theorem dX1_plays_37 : decode cX1_plays 37 = .ok (.ishl, 1) := dk_120 (dk_at dksX1_plays_1 13 rfl rfl)
theorem dX1_plays_38 : decode cX1_plays 38 = .ok (.iconst 1, 1) := dk_4 (dk_at dksX1_plays_1 14 rfl rfl)
theorem dX1_plays_39 : decode cX1_plays 39 = .ok (.isub, 1) := dk_100 (dk_at dksX1_plays_1 15 rfl rfl)
theorem dX1_plays_40 : decode cX1_plays 40 = .ok (.if_icmp .ne 7, 3) := dk_160 0 7 (dk_at dksX1_plays_1 16 rfl rfl)
theorem dX1_plays_43 : decode cX1_plays 43 = .ok (.iconst 0, 1) := dk_3 (dk_at dksX1_plays_1 19 rfl rfl)
theorem dX1_plays_44 : decode cX1_plays 44 = .ok (.goto 4, 3) := dk_167 0 4 (dk_at dksX1_plays_1 20 rfl rfl)
theorem dX1_plays_47 : decode cX1_plays 47 = .ok (.iconst (-1), 1) := dk_2 (dk_at dksX1_plays_1 23 rfl rfl)
theorem dX1_plays_48 : decode cX1_plays 48 = .ok (.istore 4, 2) := dk_54 4 (dk_at dksX1_plays_2 0 rfl rfl)
theorem dX1_plays_50 : decode cX1_plays 50 = .ok (.iconst 0, 1) := dk_3 (dk_at dksX1_plays_2 2 rfl rfl)
theorem dX1_plays_51 : decode cX1_plays 51 = .ok (.istore 5, 2) := dk_54 5 (dk_at dksX1_plays_2 3 rfl rfl)
theorem dX1_plays_53 : decode cX1_plays 53 = .ok (.iload 5, 2) := dk_21 5 (dk_at dksX1_plays_2 5 rfl rfl)
theorem dX1_plays_55 : decode cX1_plays 55 = .ok (.aload_n 0, 1) := dk_42 (dk_at dksX1_plays_2 7 rfl rfl)
theorem dX1_plays_56 : decode cX1_plays 56 = .ok (.getfield 124, 3) := dk_180 0 124 (dk_at dksX1_plays_2 8 rfl rfl)
theorem dX1_plays_59 : decode cX1_plays 59 = .ok (.getfield 1, 3) := dk_180 0 1 (dk_at dksX1_plays_2 11 rfl rfl)
theorem dX1_plays_62 : decode cX1_plays 62 = .ok (.if_icmp .ge 48, 3) := dk_162 0 48 (dk_at dksX1_plays_2 14 rfl rfl)
theorem dX1_plays_65 : decode cX1_plays 65 = .ok (.iload 4, 2) := dk_21 4 (dk_at dksX1_plays_2 17 rfl rfl)
theorem dX1_plays_67 : decode cX1_plays 67 = .ok (.iconst 1, 1) := dk_4 (dk_at dksX1_plays_2 19 rfl rfl)
theorem dX1_plays_68 : decode cX1_plays 68 = .ok (.if_icmp .ge 42, 3) := dk_162 0 42 (dk_at dksX1_plays_2 20 rfl rfl)
theorem dX1_plays_71 : decode cX1_plays 71 = .ok (.iload_n 1, 1) := dk_27 (dk_at dksX1_plays_2 23 rfl rfl)
theorem dX1_plays_72 : decode cX1_plays 72 = .ok (.iload_n 2, 1) := dk_28 (dk_at dksX1_plays_3 0 rfl rfl)
theorem dX1_plays_73 : decode cX1_plays 73 = .ok (.ior, 1) := dk_128 (dk_at dksX1_plays_3 1 rfl rfl)
theorem dX1_plays_74 : decode cX1_plays 74 = .ok (.iload 5, 2) := dk_21 5 (dk_at dksX1_plays_3 2 rfl rfl)
theorem dX1_plays_76 : decode cX1_plays 76 = .ok (.ishr, 1) := dk_122 (dk_at dksX1_plays_3 4 rfl rfl)
theorem dX1_plays_77 : decode cX1_plays 77 = .ok (.iconst 1, 1) := dk_4 (dk_at dksX1_plays_3 5 rfl rfl)
theorem dX1_plays_78 : decode cX1_plays 78 = .ok (.iand, 1) := dk_126 (dk_at dksX1_plays_3 6 rfl rfl)
theorem dX1_plays_79 : decode cX1_plays 79 = .ok (.iconst 1, 1) := dk_4 (dk_at dksX1_plays_3 7 rfl rfl)
theorem dX1_plays_80 : decode cX1_plays 80 = .ok (.if_icmp .ne 6, 3) := dk_160 0 6 (dk_at dksX1_plays_3 8 rfl rfl)
theorem dX1_plays_83 : decode cX1_plays 83 = .ok (.goto 21, 3) := dk_167 0 21 (dk_at dksX1_plays_3 11 rfl rfl)
theorem dX1_plays_86 : decode cX1_plays 86 = .ok (.iload 4, 2) := dk_21 4 (dk_at dksX1_plays_3 14 rfl rfl)
theorem dX1_plays_88 : decode cX1_plays 88 = .ok (.aload_n 0, 1) := dk_42 (dk_at dksX1_plays_3 16 rfl rfl)
theorem dX1_plays_89 : decode cX1_plays 89 = .ok (.iload_n 1, 1) := dk_27 (dk_at dksX1_plays_3 17 rfl rfl)
theorem dX1_plays_90 : decode cX1_plays 90 = .ok (.iconst 1, 1) := dk_4 (dk_at dksX1_plays_3 18 rfl rfl)
theorem dX1_plays_91 : decode cX1_plays 91 = .ok (.iload 5, 2) := dk_21 5 (dk_at dksX1_plays_3 19 rfl rfl)
theorem dX1_plays_93 : decode cX1_plays 93 = .ok (.ishl, 1) := dk_120 (dk_at dksX1_plays_3 21 rfl rfl)
theorem dX1_plays_94 : decode cX1_plays 94 = .ok (.ior, 1) := dk_128 (dk_at dksX1_plays_3 22 rfl rfl)
theorem dX1_plays_95 : decode cX1_plays 95 = .ok (.iload_n 2, 1) := dk_28 (dk_at dksX1_plays_3 23 rfl rfl)
theorem dX1_plays_96 : decode cX1_plays 96 = .ok (.invokevirtual 483, 3) := dk_182 1 227 (dk_at dksX1_plays_4 0 rfl rfl)
theorem dX1_plays_99 : decode cX1_plays 99 = .ok (.invokestatic 486, 3) := dk_184 1 230 (dk_at dksX1_plays_4 3 rfl rfl)
theorem dX1_plays_102 : decode cX1_plays 102 = .ok (.istore 4, 2) := dk_54 4 (dk_at dksX1_plays_4 6 rfl rfl)
theorem dX1_plays_104 : decode cX1_plays 104 = .ok (.iinc 5 1, 3) := dk_132 5 1 (dk_at dksX1_plays_4 8 rfl rfl)
theorem dX1_plays_107 : decode cX1_plays 107 = .ok (.goto (-54), 3) := dk_167 255 202 (dk_at dksX1_plays_4 11 rfl rfl)
theorem dX1_plays_110 : decode cX1_plays 110 = .ok (.aload_n 0, 1) := dk_42 (dk_at dksX1_plays_4 14 rfl rfl)
theorem dX1_plays_111 : decode cX1_plays 111 = .ok (.getfield 183, 3) := dk_180 0 183 (dk_at dksX1_plays_4 15 rfl rfl)
theorem dX1_plays_114 : decode cX1_plays 114 = .ok (.iload_n 3, 1) := dk_29 (dk_at dksX1_plays_4 18 rfl rfl)
theorem dX1_plays_115 : decode cX1_plays 115 = .ok (.iload 4, 2) := dk_21 4 (dk_at dksX1_plays_4 19 rfl rfl)
theorem dX1_plays_117 : decode cX1_plays 117 = .ok (.iastore, 1) := dk_79 (dk_at dksX1_plays_4 21 rfl rfl)
theorem dX1_plays_118 : decode cX1_plays 118 = .ok (.iload 4, 2) := dk_21 4 (dk_at dksX1_plays_4 22 rfl rfl)
theorem dX1_plays_120 : decode cX1_plays 120 = .ok (.ireturn, 1) := dk_172 (dk_at dksX1_plays_5 0 rfl rfl)
abbrev cX1_comesTo : ByteArray := prog_1_method_86_code
def yX1_comesTo : MethodName := ⟨RX1, "comesTo", "(II)I"⟩
def dkwX1_comesTo_0 : List UInt8 := [42, 27, 182, 1, 208, 153, 0, 13, 42, 28, 27, 182, 1, 233, 116, 167, 0, 4, 4, 172]
abbrev dktX1_comesTo_0 : List UInt8 := dkwX1_comesTo_0 ++ []
theorem dksX1_comesTo_0 : cX1_comesTo.data.toList.drop 0 = dktX1_comesTo_0 := by decide +kernel
theorem dX1_comesTo_0 : decode cX1_comesTo 0 = .ok (.aload_n 0, 1) := dk_42 (dk_at dksX1_comesTo_0 0 rfl rfl)
theorem dX1_comesTo_1 : decode cX1_comesTo 1 = .ok (.iload_n 1, 1) := dk_27 (dk_at dksX1_comesTo_0 1 rfl rfl)
theorem dX1_comesTo_2 : decode cX1_comesTo 2 = .ok (.invokevirtual 464, 3) := dk_182 1 208 (dk_at dksX1_comesTo_0 2 rfl rfl)
theorem dX1_comesTo_5 : decode cX1_comesTo 5 = .ok (.ifCond .eq 13, 3) := dk_153 0 13 (dk_at dksX1_comesTo_0 5 rfl rfl)
theorem dX1_comesTo_8 : decode cX1_comesTo 8 = .ok (.aload_n 0, 1) := dk_42 (dk_at dksX1_comesTo_0 8 rfl rfl)
theorem dX1_comesTo_9 : decode cX1_comesTo 9 = .ok (.iload_n 2, 1) := dk_28 (dk_at dksX1_comesTo_0 9 rfl rfl)
theorem dX1_comesTo_10 : decode cX1_comesTo 10 = .ok (.iload_n 1, 1) := dk_27 (dk_at dksX1_comesTo_0 10 rfl rfl)
theorem dX1_comesTo_11 : decode cX1_comesTo 11 = .ok (.invokevirtual 489, 3) := dk_182 1 233 (dk_at dksX1_comesTo_0 11 rfl rfl)
theorem dX1_comesTo_14 : decode cX1_comesTo 14 = .ok (.ineg, 1) := dk_116 (dk_at dksX1_comesTo_0 14 rfl rfl)
theorem dX1_comesTo_15 : decode cX1_comesTo 15 = .ok (.goto 4, 3) := dk_167 0 4 (dk_at dksX1_comesTo_0 15 rfl rfl)
theorem dX1_comesTo_18 : decode cX1_comesTo 18 = .ok (.iconst 1, 1) := dk_4 (dk_at dksX1_comesTo_0 18 rfl rfl)
theorem dX1_comesTo_19 : decode cX1_comesTo 19 = .ok (.ireturn, 1) := dk_172 (dk_at dksX1_comesTo_0 19 rfl rfl)
abbrev cX1_years : ByteArray := prog_1_method_90_code
def yX1_years : MethodName := ⟨RX1, "years", "(III)I"⟩
def dkwX1_years_4 : List UInt8 := [21, 4, 172]
abbrev dktX1_years_4 : List UInt8 := dkwX1_years_4 ++ []
def dkwX1_years_3 : List UInt8 := [180, 0, 128, 180, 0, 7, 167, 0, 20, 29, 4, 160, 0, 13, 42, 180, 0, 128, 184, 1, 65, 167, 0, 5]
abbrev dktX1_years_3 : List UInt8 := dkwX1_years_3 ++ dktX1_years_4
def dkwX1_years_2 : List UInt8 := [42, 180, 0, 128, 182, 1, 243, 153, 0, 6, 132, 4, 1, 132, 5, 1, 167, 255, 233, 29, 154, 0, 13, 42]
abbrev dktX1_years_2 : List UInt8 := dkwX1_years_2 ++ dktX1_years_3
def dkwX1_years_1 : List UInt8 := [180, 0, 124, 182, 0, 207, 42, 27, 181, 1, 236, 3, 54, 4, 3, 54, 5, 21, 5, 28, 162, 0, 23, 42]
abbrev dktX1_years_1 : List UInt8 := dkwX1_years_1 ++ dktX1_years_2
def dkwX1_years_0 : List UInt8 := [29, 3, 5, 184, 0, 88, 184, 0, 110, 28, 3, 16, 60, 184, 0, 88, 184, 0, 92, 42, 180, 0, 128, 42]
abbrev dktX1_years_0 : List UInt8 := dkwX1_years_0 ++ dktX1_years_1
theorem dksX1_years_0 : cX1_years.data.toList.drop 0 = dktX1_years_0 := by decide +kernel
theorem dksX1_years_1 : cX1_years.data.toList.drop 24 = dktX1_years_1 := dk_seg dksX1_years_0 24 rfl rfl
theorem dksX1_years_2 : cX1_years.data.toList.drop 48 = dktX1_years_2 := dk_seg dksX1_years_1 24 rfl rfl
theorem dksX1_years_3 : cX1_years.data.toList.drop 72 = dktX1_years_3 := dk_seg dksX1_years_2 24 rfl rfl
theorem dksX1_years_4 : cX1_years.data.toList.drop 96 = dktX1_years_4 := dk_seg dksX1_years_3 24 rfl rfl
theorem dX1_years_0 : decode cX1_years 0 = .ok (.iload_n 3, 1) := dk_29 (dk_at dksX1_years_0 0 rfl rfl)
theorem dX1_years_1 : decode cX1_years 1 = .ok (.iconst 0, 1) := dk_3 (dk_at dksX1_years_0 1 rfl rfl)
theorem dX1_years_2 : decode cX1_years 2 = .ok (.iconst 2, 1) := dk_5 (dk_at dksX1_years_0 2 rfl rfl)
theorem dX1_years_3 : decode cX1_years 3 = .ok (.invokestatic 88, 3) := dk_184 0 88 (dk_at dksX1_years_0 3 rfl rfl)
theorem dX1_years_6 : decode cX1_years 6 = .ok (.invokestatic 110, 3) := dk_184 0 110 (dk_at dksX1_years_0 6 rfl rfl)
theorem dX1_years_9 : decode cX1_years 9 = .ok (.iload_n 2, 1) := dk_28 (dk_at dksX1_years_0 9 rfl rfl)
theorem dX1_years_10 : decode cX1_years 10 = .ok (.iconst 0, 1) := dk_3 (dk_at dksX1_years_0 10 rfl rfl)
theorem dX1_years_11 : decode cX1_years 11 = .ok (.bipush 60, 2) := dk_16 60 (dk_at dksX1_years_0 11 rfl rfl)
theorem dX1_years_13 : decode cX1_years 13 = .ok (.invokestatic 88, 3) := dk_184 0 88 (dk_at dksX1_years_0 13 rfl rfl)
theorem dX1_years_16 : decode cX1_years 16 = .ok (.invokestatic 92, 3) := dk_184 0 92 (dk_at dksX1_years_0 16 rfl rfl)
theorem dX1_years_19 : decode cX1_years 19 = .ok (.aload_n 0, 1) := dk_42 (dk_at dksX1_years_0 19 rfl rfl)
theorem dX1_years_20 : decode cX1_years 20 = .ok (.getfield 128, 3) := dk_180 0 128 (dk_at dksX1_years_0 20 rfl rfl)
theorem dX1_years_23 : decode cX1_years 23 = .ok (.aload_n 0, 1) := dk_42 (dk_at dksX1_years_0 23 rfl rfl)
theorem dX1_years_24 : decode cX1_years 24 = .ok (.getfield 124, 3) := dk_180 0 124 (dk_at dksX1_years_1 0 rfl rfl)
theorem dX1_years_27 : decode cX1_years 27 = .ok (.invokevirtual 207, 3) := dk_182 0 207 (dk_at dksX1_years_1 3 rfl rfl)
theorem dX1_years_30 : decode cX1_years 30 = .ok (.aload_n 0, 1) := dk_42 (dk_at dksX1_years_1 6 rfl rfl)
theorem dX1_years_31 : decode cX1_years 31 = .ok (.iload_n 1, 1) := dk_27 (dk_at dksX1_years_1 7 rfl rfl)
theorem dX1_years_32 : decode cX1_years 32 = .ok (.putfield 492, 3) := dk_181 1 236 (dk_at dksX1_years_1 8 rfl rfl)
theorem dX1_years_35 : decode cX1_years 35 = .ok (.iconst 0, 1) := dk_3 (dk_at dksX1_years_1 11 rfl rfl)
theorem dX1_years_36 : decode cX1_years 36 = .ok (.istore 4, 2) := dk_54 4 (dk_at dksX1_years_1 12 rfl rfl)
theorem dX1_years_38 : decode cX1_years 38 = .ok (.iconst 0, 1) := dk_3 (dk_at dksX1_years_1 14 rfl rfl)
theorem dX1_years_39 : decode cX1_years 39 = .ok (.istore 5, 2) := dk_54 5 (dk_at dksX1_years_1 15 rfl rfl)
theorem dX1_years_41 : decode cX1_years 41 = .ok (.iload 5, 2) := dk_21 5 (dk_at dksX1_years_1 17 rfl rfl)
theorem dX1_years_43 : decode cX1_years 43 = .ok (.iload_n 2, 1) := dk_28 (dk_at dksX1_years_1 19 rfl rfl)
theorem dX1_years_44 : decode cX1_years 44 = .ok (.if_icmp .ge 23, 3) := dk_162 0 23 (dk_at dksX1_years_1 20 rfl rfl)
theorem dX1_years_47 : decode cX1_years 47 = .ok (.aload_n 0, 1) := dk_42 (dk_at dksX1_years_1 23 rfl rfl)
theorem dX1_years_48 : decode cX1_years 48 = .ok (.aload_n 0, 1) := dk_42 (dk_at dksX1_years_2 0 rfl rfl)
theorem dX1_years_49 : decode cX1_years 49 = .ok (.getfield 128, 3) := dk_180 0 128 (dk_at dksX1_years_2 1 rfl rfl)
theorem dX1_years_52 : decode cX1_years 52 = .ok (.invokevirtual 499, 3) := dk_182 1 243 (dk_at dksX1_years_2 4 rfl rfl)
theorem dX1_years_55 : decode cX1_years 55 = .ok (.ifCond .eq 6, 3) := dk_153 0 6 (dk_at dksX1_years_2 7 rfl rfl)
theorem dX1_years_58 : decode cX1_years 58 = .ok (.iinc 4 1, 3) := dk_132 4 1 (dk_at dksX1_years_2 10 rfl rfl)
theorem dX1_years_61 : decode cX1_years 61 = .ok (.iinc 5 1, 3) := dk_132 5 1 (dk_at dksX1_years_2 13 rfl rfl)
theorem dX1_years_64 : decode cX1_years 64 = .ok (.goto (-23), 3) := dk_167 255 233 (dk_at dksX1_years_2 16 rfl rfl)
theorem dX1_years_67 : decode cX1_years 67 = .ok (.iload_n 3, 1) := dk_29 (dk_at dksX1_years_2 19 rfl rfl)
theorem dX1_years_68 : decode cX1_years 68 = .ok (.ifCond .ne 13, 3) := dk_154 0 13 (dk_at dksX1_years_2 20 rfl rfl)
theorem dX1_years_71 : decode cX1_years 71 = .ok (.aload_n 0, 1) := dk_42 (dk_at dksX1_years_2 23 rfl rfl)
theorem dX1_years_72 : decode cX1_years 72 = .ok (.getfield 128, 3) := dk_180 0 128 (dk_at dksX1_years_3 0 rfl rfl)
theorem dX1_years_75 : decode cX1_years 75 = .ok (.getfield 7, 3) := dk_180 0 7 (dk_at dksX1_years_3 3 rfl rfl)
theorem dX1_years_78 : decode cX1_years 78 = .ok (.goto 20, 3) := dk_167 0 20 (dk_at dksX1_years_3 6 rfl rfl)
theorem dX1_years_81 : decode cX1_years 81 = .ok (.iload_n 3, 1) := dk_29 (dk_at dksX1_years_3 9 rfl rfl)
theorem dX1_years_82 : decode cX1_years 82 = .ok (.iconst 1, 1) := dk_4 (dk_at dksX1_years_3 10 rfl rfl)
theorem dX1_years_83 : decode cX1_years 83 = .ok (.if_icmp .ne 13, 3) := dk_160 0 13 (dk_at dksX1_years_3 11 rfl rfl)
theorem dX1_years_86 : decode cX1_years 86 = .ok (.aload_n 0, 1) := dk_42 (dk_at dksX1_years_3 14 rfl rfl)
theorem dX1_years_87 : decode cX1_years 87 = .ok (.getfield 128, 3) := dk_180 0 128 (dk_at dksX1_years_3 15 rfl rfl)
theorem dX1_years_90 : decode cX1_years 90 = .ok (.invokestatic 321, 3) := dk_184 1 65 (dk_at dksX1_years_3 18 rfl rfl)
theorem dX1_years_93 : decode cX1_years 93 = .ok (.goto 5, 3) := dk_167 0 5 (dk_at dksX1_years_3 21 rfl rfl)
theorem dX1_years_96 : decode cX1_years 96 = .ok (.iload 4, 2) := dk_21 4 (dk_at dksX1_years_4 0 rfl rfl)
theorem dX1_years_98 : decode cX1_years 98 = .ok (.ireturn, 1) := dk_172 (dk_at dksX1_years_4 2 rfl rfl)
abbrev cX1_happens : ByteArray := prog_1_method_89_code
def yX1_happens : MethodName := ⟨RX1, "happens", "(LSchemeLister$Scheme;)Z"⟩
def dkwX1_happens_3 : List UInt8 := [184, 0, 70, 6, 160, 0, 11, 43, 28, 182, 1, 136, 154, 0, 5, 3, 172, 43, 28, 182, 1, 145, 4, 172]
abbrev dktX1_happens_3 : List UInt8 := dkwX1_happens_3 ++ []
def dkwX1_happens_2 : List UInt8 := [180, 0, 1, 182, 1, 240, 120, 128, 61, 28, 4, 42, 43, 180, 0, 1, 182, 1, 240, 120, 128, 61, 28]
abbrev dktX1_happens_2 : List UInt8 := dkwX1_happens_2 ++ dktX1_happens_3
def dkwX1_happens_1 : List UInt8 := [182, 1, 240, 182, 1, 148, 3, 172, 4, 42, 43, 180, 0, 1, 182, 1, 240, 120, 61, 28, 4, 42, 43]
abbrev dktX1_happens_1 : List UInt8 := dkwX1_happens_1 ++ dktX1_happens_2
def dkwX1_happens_0 : List UInt8 := [42, 6, 182, 1, 240, 5, 160, 0, 24, 43, 180, 0, 7, 158, 0, 15, 43, 42, 43, 180, 0, 7]
abbrev dktX1_happens_0 : List UInt8 := dkwX1_happens_0 ++ dktX1_happens_1
theorem dksX1_happens_0 : cX1_happens.data.toList.drop 0 = dktX1_happens_0 := by decide +kernel
theorem dksX1_happens_1 : cX1_happens.data.toList.drop 22 = dktX1_happens_1 := dk_seg dksX1_happens_0 22 rfl rfl
theorem dksX1_happens_2 : cX1_happens.data.toList.drop 45 = dktX1_happens_2 := dk_seg dksX1_happens_1 23 rfl rfl
theorem dksX1_happens_3 : cX1_happens.data.toList.drop 68 = dktX1_happens_3 := dk_seg dksX1_happens_2 23 rfl rfl
theorem dX1_happens_0 : decode cX1_happens 0 = .ok (.aload_n 0, 1) := dk_42 (dk_at dksX1_happens_0 0 rfl rfl)
theorem dX1_happens_1 : decode cX1_happens 1 = .ok (.iconst 3, 1) := dk_6 (dk_at dksX1_happens_0 1 rfl rfl)
theorem dX1_happens_2 : decode cX1_happens 2 = .ok (.invokevirtual 496, 3) := dk_182 1 240 (dk_at dksX1_happens_0 2 rfl rfl)
theorem dX1_happens_5 : decode cX1_happens 5 = .ok (.iconst 2, 1) := dk_5 (dk_at dksX1_happens_0 5 rfl rfl)
theorem dX1_happens_6 : decode cX1_happens 6 = .ok (.if_icmp .ne 24, 3) := dk_160 0 24 (dk_at dksX1_happens_0 6 rfl rfl)
theorem dX1_happens_9 : decode cX1_happens 9 = .ok (.aload_n 1, 1) := dk_43 (dk_at dksX1_happens_0 9 rfl rfl)
theorem dX1_happens_10 : decode cX1_happens 10 = .ok (.getfield 7, 3) := dk_180 0 7 (dk_at dksX1_happens_0 10 rfl rfl)
theorem dX1_happens_13 : decode cX1_happens 13 = .ok (.ifCond .le 15, 3) := dk_158 0 15 (dk_at dksX1_happens_0 13 rfl rfl)
theorem dX1_happens_16 : decode cX1_happens 16 = .ok (.aload_n 1, 1) := dk_43 (dk_at dksX1_happens_0 16 rfl rfl)
theorem dX1_happens_17 : decode cX1_happens 17 = .ok (.aload_n 0, 1) := dk_42 (dk_at dksX1_happens_0 17 rfl rfl)
theorem dX1_happens_18 : decode cX1_happens 18 = .ok (.aload_n 1, 1) := dk_43 (dk_at dksX1_happens_0 18 rfl rfl)
theorem dX1_happens_19 : decode cX1_happens 19 = .ok (.getfield 7, 3) := dk_180 0 7 (dk_at dksX1_happens_0 19 rfl rfl)
theorem dX1_happens_22 : decode cX1_happens 22 = .ok (.invokevirtual 496, 3) := dk_182 1 240 (dk_at dksX1_happens_1 0 rfl rfl)
theorem dX1_happens_25 : decode cX1_happens 25 = .ok (.invokevirtual 404, 3) := dk_182 1 148 (dk_at dksX1_happens_1 3 rfl rfl)
theorem dX1_happens_28 : decode cX1_happens 28 = .ok (.iconst 0, 1) := dk_3 (dk_at dksX1_happens_1 6 rfl rfl)
theorem dX1_happens_29 : decode cX1_happens 29 = .ok (.ireturn, 1) := dk_172 (dk_at dksX1_happens_1 7 rfl rfl)
theorem dX1_happens_30 : decode cX1_happens 30 = .ok (.iconst 1, 1) := dk_4 (dk_at dksX1_happens_1 8 rfl rfl)
theorem dX1_happens_31 : decode cX1_happens 31 = .ok (.aload_n 0, 1) := dk_42 (dk_at dksX1_happens_1 9 rfl rfl)
theorem dX1_happens_32 : decode cX1_happens 32 = .ok (.aload_n 1, 1) := dk_43 (dk_at dksX1_happens_1 10 rfl rfl)
theorem dX1_happens_33 : decode cX1_happens 33 = .ok (.getfield 1, 3) := dk_180 0 1 (dk_at dksX1_happens_1 11 rfl rfl)
theorem dX1_happens_36 : decode cX1_happens 36 = .ok (.invokevirtual 496, 3) := dk_182 1 240 (dk_at dksX1_happens_1 14 rfl rfl)
theorem dX1_happens_39 : decode cX1_happens 39 = .ok (.ishl, 1) := dk_120 (dk_at dksX1_happens_1 17 rfl rfl)
theorem dX1_happens_40 : decode cX1_happens 40 = .ok (.istore_n 2, 1) := dk_61 (dk_at dksX1_happens_1 18 rfl rfl)
theorem dX1_happens_41 : decode cX1_happens 41 = .ok (.iload_n 2, 1) := dk_28 (dk_at dksX1_happens_1 19 rfl rfl)
theorem dX1_happens_42 : decode cX1_happens 42 = .ok (.iconst 1, 1) := dk_4 (dk_at dksX1_happens_1 20 rfl rfl)
theorem dX1_happens_43 : decode cX1_happens 43 = .ok (.aload_n 0, 1) := dk_42 (dk_at dksX1_happens_1 21 rfl rfl)
theorem dX1_happens_44 : decode cX1_happens 44 = .ok (.aload_n 1, 1) := dk_43 (dk_at dksX1_happens_1 22 rfl rfl)
theorem dX1_happens_45 : decode cX1_happens 45 = .ok (.getfield 1, 3) := dk_180 0 1 (dk_at dksX1_happens_2 0 rfl rfl)
theorem dX1_happens_48 : decode cX1_happens 48 = .ok (.invokevirtual 496, 3) := dk_182 1 240 (dk_at dksX1_happens_2 3 rfl rfl)
theorem dX1_happens_51 : decode cX1_happens 51 = .ok (.ishl, 1) := dk_120 (dk_at dksX1_happens_2 6 rfl rfl)
theorem dX1_happens_52 : decode cX1_happens 52 = .ok (.ior, 1) := dk_128 (dk_at dksX1_happens_2 7 rfl rfl)
theorem dX1_happens_53 : decode cX1_happens 53 = .ok (.istore_n 2, 1) := dk_61 (dk_at dksX1_happens_2 8 rfl rfl)
theorem dX1_happens_54 : decode cX1_happens 54 = .ok (.iload_n 2, 1) := dk_28 (dk_at dksX1_happens_2 9 rfl rfl)
theorem dX1_happens_55 : decode cX1_happens 55 = .ok (.iconst 1, 1) := dk_4 (dk_at dksX1_happens_2 10 rfl rfl)
theorem dX1_happens_56 : decode cX1_happens 56 = .ok (.aload_n 0, 1) := dk_42 (dk_at dksX1_happens_2 11 rfl rfl)
theorem dX1_happens_57 : decode cX1_happens 57 = .ok (.aload_n 1, 1) := dk_43 (dk_at dksX1_happens_2 12 rfl rfl)
theorem dX1_happens_58 : decode cX1_happens 58 = .ok (.getfield 1, 3) := dk_180 0 1 (dk_at dksX1_happens_2 13 rfl rfl)
theorem dX1_happens_61 : decode cX1_happens 61 = .ok (.invokevirtual 496, 3) := dk_182 1 240 (dk_at dksX1_happens_2 16 rfl rfl)
theorem dX1_happens_64 : decode cX1_happens 64 = .ok (.ishl, 1) := dk_120 (dk_at dksX1_happens_2 19 rfl rfl)
theorem dX1_happens_65 : decode cX1_happens 65 = .ok (.ior, 1) := dk_128 (dk_at dksX1_happens_2 20 rfl rfl)
theorem dX1_happens_66 : decode cX1_happens 66 = .ok (.istore_n 2, 1) := dk_61 (dk_at dksX1_happens_2 21 rfl rfl)
theorem dX1_happens_67 : decode cX1_happens 67 = .ok (.iload_n 2, 1) := dk_28 (dk_at dksX1_happens_2 22 rfl rfl)
theorem dX1_happens_68 : decode cX1_happens 68 = .ok (.invokestatic 70, 3) := dk_184 0 70 (dk_at dksX1_happens_3 0 rfl rfl)
theorem dX1_happens_71 : decode cX1_happens 71 = .ok (.iconst 3, 1) := dk_6 (dk_at dksX1_happens_3 3 rfl rfl)
theorem dX1_happens_72 : decode cX1_happens 72 = .ok (.if_icmp .ne 11, 3) := dk_160 0 11 (dk_at dksX1_happens_3 4 rfl rfl)
theorem dX1_happens_75 : decode cX1_happens 75 = .ok (.aload_n 1, 1) := dk_43 (dk_at dksX1_happens_3 7 rfl rfl)
theorem dX1_happens_76 : decode cX1_happens 76 = .ok (.iload_n 2, 1) := dk_28 (dk_at dksX1_happens_3 8 rfl rfl)
theorem dX1_happens_77 : decode cX1_happens 77 = .ok (.invokevirtual 392, 3) := dk_182 1 136 (dk_at dksX1_happens_3 9 rfl rfl)
theorem dX1_happens_80 : decode cX1_happens 80 = .ok (.ifCond .ne 5, 3) := dk_154 0 5 (dk_at dksX1_happens_3 12 rfl rfl)
theorem dX1_happens_83 : decode cX1_happens 83 = .ok (.iconst 0, 1) := dk_3 (dk_at dksX1_happens_3 15 rfl rfl)
theorem dX1_happens_84 : decode cX1_happens 84 = .ok (.ireturn, 1) := dk_172 (dk_at dksX1_happens_3 16 rfl rfl)
theorem dX1_happens_85 : decode cX1_happens 85 = .ok (.aload_n 1, 1) := dk_43 (dk_at dksX1_happens_3 17 rfl rfl)
theorem dX1_happens_86 : decode cX1_happens 86 = .ok (.iload_n 2, 1) := dk_28 (dk_at dksX1_happens_3 18 rfl rfl)
theorem dX1_happens_87 : decode cX1_happens 87 = .ok (.invokevirtual 401, 3) := dk_182 1 145 (dk_at dksX1_happens_3 19 rfl rfl)
theorem dX1_happens_90 : decode cX1_happens 90 = .ok (.iconst 1, 1) := dk_4 (dk_at dksX1_happens_3 22 rfl rfl)
theorem dX1_happens_91 : decode cX1_happens 91 = .ok (.ireturn, 1) := dk_172 (dk_at dksX1_happens_3 23 rfl rfl)
abbrev cX1_draw : ByteArray := prog_1_method_88_code
def yX1_draw : MethodName := ⟨RX1, "draw", "(I)I"⟩
def dkwX1_draw_1 : List UInt8 := [17, 127, 255, 126, 27, 112, 172]
abbrev dktX1_draw_1 : List UInt8 := dkwX1_draw_1 ++ []
def dkwX1_draw_0 : List UInt8 := [42, 42, 180, 1, 236, 19, 1, 239, 104, 17, 48, 57, 96, 181, 1, 236, 42, 180, 1, 236, 16, 16, 122]
abbrev dktX1_draw_0 : List UInt8 := dkwX1_draw_0 ++ dktX1_draw_1
theorem dksX1_draw_0 : cX1_draw.data.toList.drop 0 = dktX1_draw_0 := by decide +kernel
theorem dksX1_draw_1 : cX1_draw.data.toList.drop 23 = dktX1_draw_1 := dk_seg dksX1_draw_0 23 rfl rfl
theorem dX1_draw_0 : decode cX1_draw 0 = .ok (.aload_n 0, 1) := dk_42 (dk_at dksX1_draw_0 0 rfl rfl)
theorem dX1_draw_1 : decode cX1_draw 1 = .ok (.aload_n 0, 1) := dk_42 (dk_at dksX1_draw_0 1 rfl rfl)
theorem dX1_draw_2 : decode cX1_draw 2 = .ok (.getfield 492, 3) := dk_180 1 236 (dk_at dksX1_draw_0 2 rfl rfl)
theorem dX1_draw_5 : decode cX1_draw 5 = .ok (.ldc_w 495, 3) := dk_19 1 239 (dk_at dksX1_draw_0 5 rfl rfl)
theorem dX1_draw_8 : decode cX1_draw 8 = .ok (.imul, 1) := dk_104 (dk_at dksX1_draw_0 8 rfl rfl)
theorem dX1_draw_9 : decode cX1_draw 9 = .ok (.sipush 12345, 3) := dk_17 48 57 (dk_at dksX1_draw_0 9 rfl rfl)
theorem dX1_draw_12 : decode cX1_draw 12 = .ok (.iadd, 1) := dk_96 (dk_at dksX1_draw_0 12 rfl rfl)
theorem dX1_draw_13 : decode cX1_draw 13 = .ok (.putfield 492, 3) := dk_181 1 236 (dk_at dksX1_draw_0 13 rfl rfl)
theorem dX1_draw_16 : decode cX1_draw 16 = .ok (.aload_n 0, 1) := dk_42 (dk_at dksX1_draw_0 16 rfl rfl)
theorem dX1_draw_17 : decode cX1_draw 17 = .ok (.getfield 492, 3) := dk_180 1 236 (dk_at dksX1_draw_0 17 rfl rfl)
theorem dX1_draw_20 : decode cX1_draw 20 = .ok (.bipush 16, 2) := dk_16 16 (dk_at dksX1_draw_0 20 rfl rfl)
theorem dX1_draw_22 : decode cX1_draw 22 = .ok (.ishr, 1) := dk_122 (dk_at dksX1_draw_0 22 rfl rfl)
theorem dX1_draw_23 : decode cX1_draw 23 = .ok (.sipush 32767, 3) := dk_17 127 255 (dk_at dksX1_draw_1 0 rfl rfl)
theorem dX1_draw_26 : decode cX1_draw 26 = .ok (.iand, 1) := dk_126 (dk_at dksX1_draw_1 3 rfl rfl)
theorem dX1_draw_27 : decode cX1_draw 27 = .ok (.iload_n 1, 1) := dk_27 (dk_at dksX1_draw_1 4 rfl rfl)
theorem dX1_draw_28 : decode cX1_draw 28 = .ok (.irem, 1) := dk_112 (dk_at dksX1_draw_1 5 rfl rfl)
theorem dX1_draw_29 : decode cX1_draw 29 = .ok (.ireturn, 1) := dk_172 (dk_at dksX1_draw_1 6 rfl rfl)
theorem q151 : (Jvm.Cond.initialized "SchemeLister") ∈ lw_all := lw_g (lw_at lw_m1 1 rfl) rfl
theorem q185 : (Jvm.Cond.instantiable "SchemeLister" (28 : Nat)) ∈ lw_all := lw_g (lw_at lw_m1 35 rfl) rfl
theorem q187 : (Jvm.Cond.instanceMethod ({ cls := "SchemeLister", name := "<init>", desc := "()V" } : Jvm.MethodName)) ∈ lw_all := lw_g (lw_at lw_m1 37 rfl) rfl
theorem q188 : (Jvm.Cond.code ({ cls := "SchemeLister", name := "<init>", desc := "()V" } : Jvm.MethodName) prog_1_method_9_code (1 : Nat) (Option.none : Option Jvm.ClassFile.FieldType)) ∈ lw_all := lw_g (lw_at lw_m1 38 rfl) rfl
theorem q189 : (Jvm.Cond.methodLink "SchemeLister" (118 : Nat) ({ cls := "java/lang/Object", name := "<init>", desc := "()V" } : Jvm.MethodName)) ∈ lw_all := lw_g (lw_at lw_m1 39 rfl) rfl
theorem q192 : (Jvm.Cond.classLink "SchemeLister" (65 : Nat) "java/util/ArrayList") ∈ lw_all := lw_g (lw_at lw_m1 42 rfl) rfl
theorem q194 : (Jvm.Cond.methodLink "SchemeLister" (122 : Nat) ({ cls := "java/util/ArrayList", name := "<init>", desc := "()V" } : Jvm.MethodName)) ∈ lw_all := lw_g (lw_at lw_m1 44 rfl) rfl
theorem q218 : (Jvm.Cond.classLink "SchemeLister" (2 : Nat) "SchemeLister$Scheme") ∈ lw_all := lw_g (lw_at lw_m1 68 rfl) rfl
theorem q220 : (Jvm.Cond.methodLinkNest "SchemeLister" (123 : Nat) ({ cls := "SchemeLister$Scheme", name := "<init>", desc := "()V" } : Jvm.MethodName) "SchemeLister") ∈ lw_tbl := lw_at lw_m1 70 rfl
theorem q224 : (Jvm.Cond.fieldLinkNest "SchemeLister" (1 : Nat) "SchemeLister$Scheme" "points" "I" "SchemeLister") ∈ lw_tbl := lw_at lw_m1 74 rfl
theorem q228 : (Jvm.Cond.fieldLinkNest "SchemeLister" (7 : Nat) "SchemeLister$Scheme" "lines" "I" "SchemeLister") ∈ lw_tbl := lw_at lw_m1 78 rfl
theorem q234 : (Jvm.Cond.fieldLinkNest "SchemeLister" (37 : Nat) "SchemeLister$Scheme" "line" "[I" "SchemeLister") ∈ lw_tbl := lw_at lw_m1 84 rfl
theorem q237 : (Jvm.Cond.fieldLinkNest "SchemeLister" (280 : Nat) "SchemeLister$Scheme" "x" "[I" "SchemeLister") ∈ lw_tbl := lw_at lw_m1 87 rfl
theorem q240 : (Jvm.Cond.fieldLinkNest "SchemeLister" (283 : Nat) "SchemeLister$Scheme" "y" "[I" "SchemeLister") ∈ lw_tbl := lw_at lw_m1 90 rfl
theorem q254 : (Jvm.Cond.methodLink "SchemeLister" (141 : Nat) ({ cls := "java/util/ArrayList", name := "<init>", desc := "(I)V" } : Jvm.MethodName)) ∈ lw_all := lw_g (lw_at lw_m1 104 rfl) rfl
theorem q576 : (Jvm.Cond.constant "SchemeLister" (182 : Nat) (65536 : Int32)) ∈ lw_all := lw_g (lw_at lw_m2 186 rfl) rfl
theorem q577 : (Jvm.Cond.fieldLink "SchemeLister" (60 : Nat) "SchemeLister" "listed" "Ljava/util/ArrayList;") ∈ lw_all := lw_g (lw_at lw_m2 187 rfl) rfl
theorem q578 : (Jvm.Cond.fieldLink "SchemeLister" (96 : Nat) "SchemeLister" "listPoints" "I") ∈ lw_all := lw_g (lw_at lw_m2 188 rfl) rfl
theorem q579 : (Jvm.Cond.fieldLink "SchemeLister" (99 : Nat) "SchemeLister" "listLines" "I") ∈ lw_all := lw_g (lw_at lw_m2 189 rfl) rfl
theorem q580 : (Jvm.Cond.fieldLink "SchemeLister" (124 : Nat) "SchemeLister" "now" "LSchemeLister$Scheme;") ∈ lw_all := lw_g (lw_at lw_m2 190 rfl) rfl
theorem q581 : (Jvm.Cond.fieldLink "SchemeLister" (128 : Nat) "SchemeLister" "tried" "LSchemeLister$Scheme;") ∈ lw_all := lw_g (lw_at lw_m2 191 rfl) rfl
theorem q582 : (Jvm.Cond.fieldLink "SchemeLister" (131 : Nat) "SchemeLister" "imageNow" "LSchemeLister$Scheme;") ∈ lw_all := lw_g (lw_at lw_m2 192 rfl) rfl
theorem q583 : (Jvm.Cond.fieldLink "SchemeLister" (134 : Nat) "SchemeLister" "shelves" "[LSchemeLister$Scheme;") ∈ lw_all := lw_g (lw_at lw_m2 193 rfl) rfl
theorem q584 : (Jvm.Cond.fieldLink "SchemeLister" (138 : Nat) "SchemeLister" "imageShelves" "[LSchemeLister$Scheme;") ∈ lw_all := lw_g (lw_at lw_m2 194 rfl) rfl
theorem q585 : (Jvm.Cond.fieldLink "SchemeLister" (142 : Nat) "SchemeLister" "acts" "Ljava/util/ArrayList;") ∈ lw_all := lw_g (lw_at lw_m2 195 rfl) rfl
theorem q586 : (Jvm.Cond.fieldLink "SchemeLister" (145 : Nat) "SchemeLister" "imageActs" "Ljava/util/ArrayList;") ∈ lw_all := lw_g (lw_at lw_m2 196 rfl) rfl
theorem q587 : (Jvm.Cond.fieldLink "SchemeLister" (148 : Nat) "SchemeLister" "refused" "[I") ∈ lw_all := lw_g (lw_at lw_m2 197 rfl) rfl
theorem q588 : (Jvm.Cond.fieldLink "SchemeLister" (151 : Nat) "SchemeLister" "imageRefused" "[I") ∈ lw_all := lw_g (lw_at lw_m2 198 rfl) rfl
theorem q589 : (Jvm.Cond.fieldLink "SchemeLister" (219 : Nat) "SchemeLister" "hasImage" "Z") ∈ lw_all := lw_g (lw_at lw_m2 199 rfl) rfl
theorem q590 : (Jvm.Cond.fieldLink "SchemeLister" (154 : Nat) "SchemeLister" "tape" "[B") ∈ lw_all := lw_g (lw_at lw_m2 200 rfl) rfl
theorem q591 : (Jvm.Cond.fieldLink "SchemeLister" (192 : Nat) "SchemeLister" "taped" "I") ∈ lw_all := lw_g (lw_at lw_m2 201 rfl) rfl
theorem q592 : (Jvm.Cond.fieldLink "SchemeLister" (158 : Nat) "SchemeLister" "faultPlace" "I") ∈ lw_all := lw_g (lw_at lw_m2 202 rfl) rfl
theorem q593 : (Jvm.Cond.fieldLink "SchemeLister" (161 : Nat) "SchemeLister" "orbit" "[I") ∈ lw_all := lw_g (lw_at lw_m2 203 rfl) rfl
theorem q594 : (Jvm.Cond.fieldLink "SchemeLister" (164 : Nat) "SchemeLister" "lineFor" "[I") ∈ lw_all := lw_g (lw_at lw_m2 204 rfl) rfl
theorem q595 : (Jvm.Cond.fieldLink "SchemeLister" (260 : Nat) "SchemeLister" "dualities" "I") ∈ lw_all := lw_g (lw_at lw_m2 205 rfl) rfl
theorem q596 : (Jvm.Cond.fieldLink "SchemeLister" (267 : Nat) "SchemeLister" "polarities" "I") ∈ lw_all := lw_g (lw_at lw_m2 206 rfl) rfl
theorem q597 : (Jvm.Cond.fieldLink "SchemeLister" (299 : Nat) "SchemeLister" "shortest" "I") ∈ lw_all := lw_g (lw_at lw_m2 207 rfl) rfl
theorem q598 : (Jvm.Cond.fieldLink "SchemeLister" (167 : Nat) "SchemeLister" "placeX" "[I") ∈ lw_all := lw_g (lw_at lw_m2 208 rfl) rfl
theorem q599 : (Jvm.Cond.fieldLink "SchemeLister" (170 : Nat) "SchemeLister" "placeY" "[I") ∈ lw_all := lw_g (lw_at lw_m2 209 rfl) rfl
theorem q600 : (Jvm.Cond.fieldLink "SchemeLister" (173 : Nat) "SchemeLister" "placeZ" "[I") ∈ lw_all := lw_g (lw_at lw_m2 210 rfl) rfl
theorem q601 : (Jvm.Cond.fieldLink "SchemeLister" (176 : Nat) "SchemeLister" "lies" "[I") ∈ lw_all := lw_g (lw_at lw_m2 211 rfl) rfl
theorem q602 : (Jvm.Cond.fieldLink "SchemeLister" (179 : Nat) "SchemeLister" "firstLies" "[I") ∈ lw_all := lw_g (lw_at lw_m2 212 rfl) rfl
theorem q603 : (Jvm.Cond.fieldLink "SchemeLister" (183 : Nat) "SchemeLister" "worth" "[I") ∈ lw_all := lw_g (lw_at lw_m2 213 rfl) rfl
theorem q604 : (Jvm.Cond.fieldLink "SchemeLister" (492 : Nat) "SchemeLister" "its" "I") ∈ lw_all := lw_g (lw_at lw_m2 214 rfl) rfl
theorem q605 : (Jvm.Cond.laysFinal "SchemeLister" "SchemeLister" "listed" "Ljava/util/ArrayList;") ∈ lw_all := lw_g (lw_at lw_m2 215 rfl) rfl
theorem q606 : (Jvm.Cond.soleField "SchemeLister" "listed") ∈ lw_all := lw_g (lw_at lw_m2 216 rfl) rfl
theorem q607 : (Jvm.Cond.lays "SchemeLister" "SchemeLister" "listPoints" "I") ∈ lw_all := lw_g (lw_at lw_m2 217 rfl) rfl
theorem q608 : (Jvm.Cond.soleField "SchemeLister" "listPoints") ∈ lw_all := lw_g (lw_at lw_m2 218 rfl) rfl
theorem q609 : (Jvm.Cond.lays "SchemeLister" "SchemeLister" "listLines" "I") ∈ lw_all := lw_g (lw_at lw_m2 219 rfl) rfl
theorem q610 : (Jvm.Cond.soleField "SchemeLister" "listLines") ∈ lw_all := lw_g (lw_at lw_m2 220 rfl) rfl
theorem q611 : (Jvm.Cond.laysFinal "SchemeLister" "SchemeLister" "now" "LSchemeLister$Scheme;") ∈ lw_all := lw_g (lw_at lw_m2 221 rfl) rfl
theorem q612 : (Jvm.Cond.soleField "SchemeLister" "now") ∈ lw_all := lw_g (lw_at lw_m2 222 rfl) rfl
theorem q613 : (Jvm.Cond.laysFinal "SchemeLister" "SchemeLister" "tried" "LSchemeLister$Scheme;") ∈ lw_all := lw_g (lw_at lw_m2 223 rfl) rfl
theorem q614 : (Jvm.Cond.soleField "SchemeLister" "tried") ∈ lw_all := lw_g (lw_at lw_m2 224 rfl) rfl
theorem q615 : (Jvm.Cond.laysFinal "SchemeLister" "SchemeLister" "imageNow" "LSchemeLister$Scheme;") ∈ lw_all := lw_g (lw_at lw_m2 225 rfl) rfl
theorem q616 : (Jvm.Cond.soleField "SchemeLister" "imageNow") ∈ lw_all := lw_g (lw_at lw_m2 226 rfl) rfl
theorem q617 : (Jvm.Cond.laysFinal "SchemeLister" "SchemeLister" "shelves" "[LSchemeLister$Scheme;") ∈ lw_all := lw_g (lw_at lw_m2 227 rfl) rfl
theorem q618 : (Jvm.Cond.soleField "SchemeLister" "shelves") ∈ lw_all := lw_g (lw_at lw_m2 228 rfl) rfl
theorem q619 : (Jvm.Cond.laysFinal "SchemeLister" "SchemeLister" "imageShelves" "[LSchemeLister$Scheme;") ∈ lw_all := lw_g (lw_at lw_m2 229 rfl) rfl
theorem q620 : (Jvm.Cond.soleField "SchemeLister" "imageShelves") ∈ lw_all := lw_g (lw_at lw_m2 230 rfl) rfl
theorem q621 : (Jvm.Cond.laysFinal "SchemeLister" "SchemeLister" "acts" "Ljava/util/ArrayList;") ∈ lw_all := lw_g (lw_at lw_m2 231 rfl) rfl
theorem q622 : (Jvm.Cond.soleField "SchemeLister" "acts") ∈ lw_all := lw_g (lw_at lw_m2 232 rfl) rfl
theorem q623 : (Jvm.Cond.laysFinal "SchemeLister" "SchemeLister" "imageActs" "Ljava/util/ArrayList;") ∈ lw_all := lw_g (lw_at lw_m2 233 rfl) rfl
theorem q624 : (Jvm.Cond.soleField "SchemeLister" "imageActs") ∈ lw_all := lw_g (lw_at lw_m2 234 rfl) rfl
theorem q625 : (Jvm.Cond.laysFinal "SchemeLister" "SchemeLister" "refused" "[I") ∈ lw_all := lw_g (lw_at lw_m2 235 rfl) rfl
theorem q626 : (Jvm.Cond.soleField "SchemeLister" "refused") ∈ lw_all := lw_g (lw_at lw_m2 236 rfl) rfl
theorem q627 : (Jvm.Cond.laysFinal "SchemeLister" "SchemeLister" "imageRefused" "[I") ∈ lw_all := lw_g (lw_at lw_m2 237 rfl) rfl
theorem q628 : (Jvm.Cond.soleField "SchemeLister" "imageRefused") ∈ lw_all := lw_g (lw_at lw_m2 238 rfl) rfl
theorem q629 : (Jvm.Cond.lays "SchemeLister" "SchemeLister" "hasImage" "Z") ∈ lw_all := lw_g (lw_at lw_m2 239 rfl) rfl
theorem q630 : (Jvm.Cond.soleField "SchemeLister" "hasImage") ∈ lw_all := lw_g (lw_at lw_m3 0 rfl) rfl
theorem q631 : (Jvm.Cond.laysFinal "SchemeLister" "SchemeLister" "tape" "[B") ∈ lw_all := lw_g (lw_at lw_m3 1 rfl) rfl
theorem q632 : (Jvm.Cond.soleField "SchemeLister" "tape") ∈ lw_all := lw_g (lw_at lw_m3 2 rfl) rfl
theorem q633 : (Jvm.Cond.lays "SchemeLister" "SchemeLister" "taped" "I") ∈ lw_all := lw_g (lw_at lw_m3 3 rfl) rfl
theorem q634 : (Jvm.Cond.soleField "SchemeLister" "taped") ∈ lw_all := lw_g (lw_at lw_m3 4 rfl) rfl
theorem q635 : (Jvm.Cond.lays "SchemeLister" "SchemeLister" "faultPlace" "I") ∈ lw_all := lw_g (lw_at lw_m3 5 rfl) rfl
theorem q636 : (Jvm.Cond.soleField "SchemeLister" "faultPlace") ∈ lw_all := lw_g (lw_at lw_m3 6 rfl) rfl
theorem q637 : (Jvm.Cond.laysFinal "SchemeLister" "SchemeLister" "orbit" "[I") ∈ lw_all := lw_g (lw_at lw_m3 7 rfl) rfl
theorem q638 : (Jvm.Cond.soleField "SchemeLister" "orbit") ∈ lw_all := lw_g (lw_at lw_m3 8 rfl) rfl
theorem q639 : (Jvm.Cond.laysFinal "SchemeLister" "SchemeLister" "lineFor" "[I") ∈ lw_all := lw_g (lw_at lw_m3 9 rfl) rfl
theorem q640 : (Jvm.Cond.soleField "SchemeLister" "lineFor") ∈ lw_all := lw_g (lw_at lw_m3 10 rfl) rfl
theorem q641 : (Jvm.Cond.lays "SchemeLister" "SchemeLister" "dualities" "I") ∈ lw_all := lw_g (lw_at lw_m3 11 rfl) rfl
theorem q642 : (Jvm.Cond.soleField "SchemeLister" "dualities") ∈ lw_all := lw_g (lw_at lw_m3 12 rfl) rfl
theorem q643 : (Jvm.Cond.lays "SchemeLister" "SchemeLister" "polarities" "I") ∈ lw_all := lw_g (lw_at lw_m3 13 rfl) rfl
theorem q644 : (Jvm.Cond.soleField "SchemeLister" "polarities") ∈ lw_all := lw_g (lw_at lw_m3 14 rfl) rfl
theorem q645 : (Jvm.Cond.lays "SchemeLister" "SchemeLister" "shortest" "I") ∈ lw_all := lw_g (lw_at lw_m3 15 rfl) rfl
theorem q646 : (Jvm.Cond.soleField "SchemeLister" "shortest") ∈ lw_all := lw_g (lw_at lw_m3 16 rfl) rfl
theorem q647 : (Jvm.Cond.laysFinal "SchemeLister" "SchemeLister" "placeX" "[I") ∈ lw_all := lw_g (lw_at lw_m3 17 rfl) rfl
theorem q648 : (Jvm.Cond.soleField "SchemeLister" "placeX") ∈ lw_all := lw_g (lw_at lw_m3 18 rfl) rfl
theorem q649 : (Jvm.Cond.laysFinal "SchemeLister" "SchemeLister" "placeY" "[I") ∈ lw_all := lw_g (lw_at lw_m3 19 rfl) rfl
theorem q650 : (Jvm.Cond.soleField "SchemeLister" "placeY") ∈ lw_all := lw_g (lw_at lw_m3 20 rfl) rfl
theorem q651 : (Jvm.Cond.laysFinal "SchemeLister" "SchemeLister" "placeZ" "[I") ∈ lw_all := lw_g (lw_at lw_m3 21 rfl) rfl
theorem q652 : (Jvm.Cond.soleField "SchemeLister" "placeZ") ∈ lw_all := lw_g (lw_at lw_m3 22 rfl) rfl
theorem q653 : (Jvm.Cond.laysFinal "SchemeLister" "SchemeLister" "lies" "[I") ∈ lw_all := lw_g (lw_at lw_m3 23 rfl) rfl
theorem q654 : (Jvm.Cond.soleField "SchemeLister" "lies") ∈ lw_all := lw_g (lw_at lw_m3 24 rfl) rfl
theorem q655 : (Jvm.Cond.laysFinal "SchemeLister" "SchemeLister" "firstLies" "[I") ∈ lw_all := lw_g (lw_at lw_m3 25 rfl) rfl
theorem q656 : (Jvm.Cond.soleField "SchemeLister" "firstLies") ∈ lw_all := lw_g (lw_at lw_m3 26 rfl) rfl
theorem q657 : (Jvm.Cond.laysFinal "SchemeLister" "SchemeLister" "worth" "[I") ∈ lw_all := lw_g (lw_at lw_m3 27 rfl) rfl
theorem q658 : (Jvm.Cond.soleField "SchemeLister" "worth") ∈ lw_all := lw_g (lw_at lw_m3 28 rfl) rfl
theorem q659 : (Jvm.Cond.lays "SchemeLister" "SchemeLister" "its" "I") ∈ lw_all := lw_g (lw_at lw_m3 29 rfl) rfl
theorem q660 : (Jvm.Cond.soleField "SchemeLister" "its") ∈ lw_all := lw_g (lw_at lw_m3 30 rfl) rfl
theorem q661 : (Jvm.Cond.superclass "SchemeLister" "java/lang/Object") ∈ lw_all := lw_g (lw_at lw_m3 31 rfl) rfl
theorem q663 : (Jvm.Cond.instanceMethod ({ cls := "SchemeLister", name := "feed", desc := "(IIIII)I" } : Jvm.MethodName)) ∈ lw_all := lw_g (lw_at lw_m3 33 rfl) rfl
theorem q664 : (Jvm.Cond.selects "SchemeLister" ({ cls := "SchemeLister", name := "feed", desc := "(IIIII)I" } : Jvm.MethodName) ({ cls := "SchemeLister", name := "feed", desc := "(IIIII)I" } : Jvm.MethodName)) ∈ lw_all := lw_g (lw_at lw_m3 34 rfl) rfl
theorem q665 : (Jvm.Cond.code ({ cls := "SchemeLister", name := "feed", desc := "(IIIII)I" } : Jvm.MethodName) prog_1_method_13_code (6 : Nat) (Option.some Jvm.ClassFile.FieldType.int)) ∈ lw_all := lw_g (lw_at lw_m3 35 rfl) rfl
theorem q666 : (Jvm.Cond.methodLink "SchemeLister" (195 : Nat) ({ cls := "SchemeLister", name := "lay", desc := "(I)V" } : Jvm.MethodName)) ∈ lw_all := lw_g (lw_at lw_m3 36 rfl) rfl
theorem q667 : (Jvm.Cond.privateMethod ({ cls := "SchemeLister", name := "lay", desc := "(I)V" } : Jvm.MethodName)) ∈ lw_tbl := lw_at lw_m3 37 rfl
theorem q668 : (Jvm.Cond.instanceMethod ({ cls := "SchemeLister", name := "lay", desc := "(I)V" } : Jvm.MethodName)) ∈ lw_all := lw_g (lw_at lw_m3 38 rfl) rfl
theorem q669 : (Jvm.Cond.code ({ cls := "SchemeLister", name := "lay", desc := "(I)V" } : Jvm.MethodName) prog_1_method_14_code (3 : Nat) (Option.none : Option Jvm.ClassFile.FieldType)) ∈ lw_all := lw_g (lw_at lw_m3 39 rfl) rfl
theorem q671 : (Jvm.Cond.instanceMethod ({ cls := "SchemeLister", name := "fault", desc := "()I" } : Jvm.MethodName)) ∈ lw_all := lw_g (lw_at lw_m3 41 rfl) rfl
theorem q672 : (Jvm.Cond.selects "SchemeLister" ({ cls := "SchemeLister", name := "fault", desc := "()I" } : Jvm.MethodName) ({ cls := "SchemeLister", name := "fault", desc := "()I" } : Jvm.MethodName)) ∈ lw_all := lw_g (lw_at lw_m3 42 rfl) rfl
theorem q673 : (Jvm.Cond.code ({ cls := "SchemeLister", name := "fault", desc := "()I" } : Jvm.MethodName) prog_1_method_16_code (1 : Nat) (Option.some Jvm.ClassFile.FieldType.int)) ∈ lw_all := lw_g (lw_at lw_m3 43 rfl) rfl
theorem q675 : (Jvm.Cond.instanceMethod ({ cls := "SchemeLister", name := "add", desc := "(I)I" } : Jvm.MethodName)) ∈ lw_all := lw_g (lw_at lw_m3 45 rfl) rfl
theorem q676 : (Jvm.Cond.selects "SchemeLister" ({ cls := "SchemeLister", name := "add", desc := "(I)I" } : Jvm.MethodName) ({ cls := "SchemeLister", name := "add", desc := "(I)I" } : Jvm.MethodName)) ∈ lw_all := lw_g (lw_at lw_m3 46 rfl) rfl
theorem q677 : (Jvm.Cond.code ({ cls := "SchemeLister", name := "add", desc := "(I)I" } : Jvm.MethodName) prog_1_method_58_code (2 : Nat) (Option.some Jvm.ClassFile.FieldType.int)) ∈ lw_all := lw_g (lw_at lw_m3 47 rfl) rfl
theorem q678 : (Jvm.Cond.methodLink "SchemeLister" (392 : Nat) ({ cls := "SchemeLister$Scheme", name := "canAdd", desc := "(I)Z" } : Jvm.MethodName)) ∈ lw_all := lw_g (lw_at lw_m3 48 rfl) rfl
theorem q692 : (Jvm.Cond.methodLink "SchemeLister" (395 : Nat) ({ cls := "SchemeLister", name := "refuses", desc := "()I" } : Jvm.MethodName)) ∈ lw_all := lw_g (lw_at lw_m3 62 rfl) rfl
theorem q693 : (Jvm.Cond.privateMethod ({ cls := "SchemeLister", name := "refuses", desc := "()I" } : Jvm.MethodName)) ∈ lw_tbl := lw_at lw_m3 63 rfl
theorem q694 : (Jvm.Cond.instanceMethod ({ cls := "SchemeLister", name := "refuses", desc := "()I" } : Jvm.MethodName)) ∈ lw_all := lw_g (lw_at lw_m3 64 rfl) rfl
theorem q695 : (Jvm.Cond.code ({ cls := "SchemeLister", name := "refuses", desc := "()I" } : Jvm.MethodName) prog_1_method_55_code (1 : Nat) (Option.some Jvm.ClassFile.FieldType.int)) ∈ lw_all := lw_g (lw_at lw_m3 65 rfl) rfl
theorem q696 : (Jvm.Cond.methodLink "SchemeLister" (398 : Nat) ({ cls := "SchemeLister", name := "keepsNow", desc := "()V" } : Jvm.MethodName)) ∈ lw_all := lw_g (lw_at lw_m3 66 rfl) rfl
theorem q697 : (Jvm.Cond.privateMethod ({ cls := "SchemeLister", name := "keepsNow", desc := "()V" } : Jvm.MethodName)) ∈ lw_tbl := lw_at lw_m3 67 rfl
theorem q698 : (Jvm.Cond.instanceMethod ({ cls := "SchemeLister", name := "keepsNow", desc := "()V" } : Jvm.MethodName)) ∈ lw_all := lw_g (lw_at lw_m3 68 rfl) rfl
theorem q699 : (Jvm.Cond.code ({ cls := "SchemeLister", name := "keepsNow", desc := "()V" } : Jvm.MethodName) prog_1_method_57_code (2 : Nat) (Option.none : Option Jvm.ClassFile.FieldType)) ∈ lw_all := lw_g (lw_at lw_m3 69 rfl) rfl
theorem q700 : (Jvm.Cond.methodLink "SchemeLister" (383 : Nat) ({ cls := "SchemeLister$Scheme", name := "copy", desc := "()LSchemeLister$Scheme;" } : Jvm.MethodName)) ∈ lw_all := lw_g (lw_at lw_m3 70 rfl) rfl
theorem q711 : (Jvm.Cond.privateMethod ({ cls := "SchemeLister", name := "lambda$keepsNow$3", desc := "(LSchemeLister$Scheme;)V" } : Jvm.MethodName)) ∈ lw_tbl := lw_at lw_m3 81 rfl
theorem q712 : (Jvm.Cond.instanceMethod ({ cls := "SchemeLister", name := "lambda$keepsNow$3", desc := "(LSchemeLister$Scheme;)V" } : Jvm.MethodName)) ∈ lw_all := lw_g (lw_at lw_m3 82 rfl) rfl
theorem q713 : (Jvm.Cond.code ({ cls := "SchemeLister", name := "lambda$keepsNow$3", desc := "(LSchemeLister$Scheme;)V" } : Jvm.MethodName) prog_1_method_99_code (2 : Nat) (Option.none : Option Jvm.ClassFile.FieldType)) ∈ lw_all := lw_g (lw_at lw_m3 83 rfl) rfl
theorem q714 : (Jvm.Cond.methodLink "SchemeLister" (207 : Nat) ({ cls := "SchemeLister$Scheme", name := "like", desc := "(LSchemeLister$Scheme;)V" } : Jvm.MethodName)) ∈ lw_all := lw_g (lw_at lw_m3 84 rfl) rfl
theorem q715 : (Jvm.Cond.methodLink "SchemeLister" (389 : Nat) ({ cls := "SchemeLister", name := "keeps", desc := "(LSchemeLister$Back;)V" } : Jvm.MethodName)) ∈ lw_all := lw_g (lw_at lw_m3 85 rfl) rfl
theorem q716 : (Jvm.Cond.privateMethod ({ cls := "SchemeLister", name := "keeps", desc := "(LSchemeLister$Back;)V" } : Jvm.MethodName)) ∈ lw_tbl := lw_at lw_m3 86 rfl
theorem q717 : (Jvm.Cond.instanceMethod ({ cls := "SchemeLister", name := "keeps", desc := "(LSchemeLister$Back;)V" } : Jvm.MethodName)) ∈ lw_all := lw_g (lw_at lw_m3 87 rfl) rfl
theorem q718 : (Jvm.Cond.code ({ cls := "SchemeLister", name := "keeps", desc := "(LSchemeLister$Back;)V" } : Jvm.MethodName) prog_1_method_56_code (2 : Nat) (Option.none : Option Jvm.ClassFile.FieldType)) ∈ lw_all := lw_g (lw_at lw_m3 88 rfl) rfl
theorem q719 : (Jvm.Cond.methodLink "SchemeLister" (106 : Nat) ({ cls := "java/util/ArrayList", name := "size", desc := "()I" } : Jvm.MethodName)) ∈ lw_all := lw_g (lw_at lw_m3 89 rfl) rfl
theorem q723 : (Jvm.Cond.methodLink "SchemeLister" (375 : Nat) ({ cls := "java/util/ArrayList", name := "remove", desc := "(I)Ljava/lang/Object;" } : Jvm.MethodName)) ∈ lw_all := lw_g (lw_at lw_m3 93 rfl) rfl
theorem q738 : (Jvm.Cond.classLink "SchemeLister" (378 : Nat) "SchemeLister$Done") ∈ lw_all := lw_g (lw_at lw_m3 108 rfl) rfl
theorem q740 : (Jvm.Cond.methodLink "SchemeLister" (380 : Nat) ({ cls := "SchemeLister$Done", name := "<init>", desc := "(LSchemeLister$Back;)V" } : Jvm.MethodName)) ∈ lw_all := lw_g (lw_at lw_m3 110 rfl) rfl
theorem q745 : (Jvm.Cond.fieldLinkNest "SchemeLister" (431 : Nat) "SchemeLister$Done" "back" "LSchemeLister$Back;" "SchemeLister") ∈ lw_tbl := lw_at lw_m3 115 rfl
theorem q749 : (Jvm.Cond.methodLink "SchemeLister" (64 : Nat) ({ cls := "java/util/ArrayList", name := "add", desc := "(Ljava/lang/Object;)Z" } : Jvm.MethodName)) ∈ lw_all := lw_g (lw_at lw_m3 119 rfl) rfl
theorem q772 : (Jvm.Cond.selects "SchemeLister" ({ cls := "java/lang/Object", name := "getClass", desc := "()Ljava/lang/Class;" } : Jvm.MethodName) ({ cls := "java/lang/Object", name := "getClass", desc := "()Ljava/lang/Class;" } : Jvm.MethodName)) ∈ lw_all := lw_g (lw_at lw_m3 142 rfl) rfl
theorem q796 : (Jvm.Cond.methodLink "SchemeLister" (401 : Nat) ({ cls := "SchemeLister$Scheme", name := "adds", desc := "(I)V" } : Jvm.MethodName)) ∈ lw_all := lw_g (lw_at lw_m3 166 rfl) rfl
theorem q801 : (Jvm.Cond.instanceMethod ({ cls := "SchemeLister", name := "drop", desc := "(I)I" } : Jvm.MethodName)) ∈ lw_all := lw_g (lw_at lw_m3 171 rfl) rfl
theorem q802 : (Jvm.Cond.selects "SchemeLister" ({ cls := "SchemeLister", name := "drop", desc := "(I)I" } : Jvm.MethodName) ({ cls := "SchemeLister", name := "drop", desc := "(I)I" } : Jvm.MethodName)) ∈ lw_all := lw_g (lw_at lw_m3 172 rfl) rfl
theorem q803 : (Jvm.Cond.code ({ cls := "SchemeLister", name := "drop", desc := "(I)I" } : Jvm.MethodName) prog_1_method_59_code (3 : Nat) (Option.some Jvm.ClassFile.FieldType.int)) ∈ lw_all := lw_g (lw_at lw_m3 173 rfl) rfl
theorem q804 : (Jvm.Cond.methodLink "SchemeLister" (404 : Nat) ({ cls := "SchemeLister$Scheme", name := "drops", desc := "(I)V" } : Jvm.MethodName)) ∈ lw_all := lw_g (lw_at lw_m3 174 rfl) rfl
theorem q809 : (Jvm.Cond.instanceMethod ({ cls := "SchemeLister", name := "swap", desc := "(II)Z" } : Jvm.MethodName)) ∈ lw_all := lw_g (lw_at lw_m3 179 rfl) rfl
theorem q810 : (Jvm.Cond.selects "SchemeLister" ({ cls := "SchemeLister", name := "swap", desc := "(II)Z" } : Jvm.MethodName) ({ cls := "SchemeLister", name := "swap", desc := "(II)Z" } : Jvm.MethodName)) ∈ lw_all := lw_g (lw_at lw_m3 180 rfl) rfl
theorem q811 : (Jvm.Cond.code ({ cls := "SchemeLister", name := "swap", desc := "(II)Z" } : Jvm.MethodName) prog_1_method_60_code (3 : Nat) (Option.some Jvm.ClassFile.FieldType.boolean)) ∈ lw_all := lw_g (lw_at lw_m3 181 rfl) rfl
theorem q812 : (Jvm.Cond.methodLink "SchemeLister" (353 : Nat) ({ cls := "SchemeLister$Scheme", name := "isPoint", desc := "(I)Z" } : Jvm.MethodName)) ∈ lw_all := lw_g (lw_at lw_m3 182 rfl) rfl
theorem q816 : (Jvm.Cond.privateMethod ({ cls := "SchemeLister", name := "lambda$swap$4", desc := "(II)V" } : Jvm.MethodName)) ∈ lw_tbl := lw_at lw_m3 186 rfl
theorem q817 : (Jvm.Cond.instanceMethod ({ cls := "SchemeLister", name := "lambda$swap$4", desc := "(II)V" } : Jvm.MethodName)) ∈ lw_all := lw_g (lw_at lw_m3 187 rfl) rfl
theorem q818 : (Jvm.Cond.code ({ cls := "SchemeLister", name := "lambda$swap$4", desc := "(II)V" } : Jvm.MethodName) prog_1_method_98_code (3 : Nat) (Option.none : Option Jvm.ClassFile.FieldType)) ∈ lw_all := lw_g (lw_at lw_m3 188 rfl) rfl
theorem q819 : (Jvm.Cond.methodLink "SchemeLister" (410 : Nat) ({ cls := "SchemeLister$Scheme", name := "swaps", desc := "(II)V" } : Jvm.MethodName)) ∈ lw_all := lw_g (lw_at lw_m3 189 rfl) rfl
theorem q827 : (Jvm.Cond.instanceMethod ({ cls := "SchemeLister", name := "turn", desc := "()I" } : Jvm.MethodName)) ∈ lw_all := lw_g (lw_at lw_m3 197 rfl) rfl
theorem q828 : (Jvm.Cond.selects "SchemeLister" ({ cls := "SchemeLister", name := "turn", desc := "()I" } : Jvm.MethodName) ({ cls := "SchemeLister", name := "turn", desc := "()I" } : Jvm.MethodName)) ∈ lw_all := lw_g (lw_at lw_m3 198 rfl) rfl
theorem q829 : (Jvm.Cond.codeWith ({ cls := "SchemeLister", name := "turn", desc := "()I" } : Jvm.MethodName) prog_1_method_61_code (2 : Nat) (Option.some Jvm.ClassFile.FieldType.int) [((0 : Nat), (24 : Nat), (25 : Nat), (366 : Nat))]) ∈ lw_all := lw_g (lw_at lw_m3 199 rfl) rfl
theorem q830 : (Jvm.Cond.classLink "SchemeLister" (366 : Nat) "SchemeLister$NoDual") ∈ lw_all := lw_g (lw_at lw_m3 200 rfl) rfl
theorem q831 : (Jvm.Cond.methodLink "SchemeLister" (363 : Nat) ({ cls := "SchemeLister$Scheme", name := "dual", desc := "()LSchemeLister$Scheme;" } : Jvm.MethodName)) ∈ lw_all := lw_g (lw_at lw_m3 201 rfl) rfl
theorem q862 : (Jvm.Cond.instanceMethod ({ cls := "SchemeLister", name := "grow", desc := "(Z)I" } : Jvm.MethodName)) ∈ lw_all := lw_g (lw_at lw_m3 232 rfl) rfl
theorem q863 : (Jvm.Cond.selects "SchemeLister" ({ cls := "SchemeLister", name := "grow", desc := "(Z)I" } : Jvm.MethodName) ({ cls := "SchemeLister", name := "grow", desc := "(Z)I" } : Jvm.MethodName)) ∈ lw_all := lw_g (lw_at lw_m3 233 rfl) rfl
theorem q864 : (Jvm.Cond.code ({ cls := "SchemeLister", name := "grow", desc := "(Z)I" } : Jvm.MethodName) prog_1_method_62_code (2 : Nat) (Option.some Jvm.ClassFile.FieldType.int)) ∈ lw_all := lw_g (lw_at lw_m3 234 rfl) rfl
theorem q865 : (Jvm.Cond.methodLink "SchemeLister" (413 : Nat) ({ cls := "SchemeLister$Scheme", name := "grows", desc := "()V" } : Jvm.MethodName)) ∈ lw_all := lw_g (lw_at lw_m3 235 rfl) rfl
theorem q869 : (Jvm.Cond.methodLink "SchemeLister" (416 : Nat) ({ cls := "SchemeLister$Scheme", name := "shrinks", desc := "()V" } : Jvm.MethodName)) ∈ lw_all := lw_g (lw_at lw_m3 239 rfl) rfl
theorem q875 : (Jvm.Cond.instanceMethod ({ cls := "SchemeLister", name := "place", desc := "(III)Z" } : Jvm.MethodName)) ∈ lw_all := lw_g (lw_at lw_m4 5 rfl) rfl
theorem q876 : (Jvm.Cond.selects "SchemeLister" ({ cls := "SchemeLister", name := "place", desc := "(III)Z" } : Jvm.MethodName) ({ cls := "SchemeLister", name := "place", desc := "(III)Z" } : Jvm.MethodName)) ∈ lw_all := lw_g (lw_at lw_m4 6 rfl) rfl
theorem q877 : (Jvm.Cond.code ({ cls := "SchemeLister", name := "place", desc := "(III)Z" } : Jvm.MethodName) prog_1_method_64_code (6 : Nat) (Option.some Jvm.ClassFile.FieldType.boolean)) ∈ lw_all := lw_g (lw_at lw_m4 7 rfl) rfl
theorem q878 : (Jvm.Cond.methodLink "SchemeLister" (88 : Nat) ({ cls := "SchemeLister", name := "within", desc := "(III)Z" } : Jvm.MethodName)) ∈ lw_all := lw_g (lw_at lw_m4 8 rfl) rfl
theorem q879 : (Jvm.Cond.static ({ cls := "SchemeLister", name := "within", desc := "(III)Z" } : Jvm.MethodName)) ∈ lw_all := lw_g (lw_at lw_m4 9 rfl) rfl
theorem q880 : (Jvm.Cond.code ({ cls := "SchemeLister", name := "within", desc := "(III)Z" } : Jvm.MethodName) prog_1_method_12_code (3 : Nat) (Option.some Jvm.ClassFile.FieldType.boolean)) ∈ lw_all := lw_g (lw_at lw_m4 10 rfl) rfl
theorem q881 : (Jvm.Cond.privateMethod ({ cls := "SchemeLister", name := "lambda$place$5", desc := "(III)V" } : Jvm.MethodName)) ∈ lw_tbl := lw_at lw_m4 11 rfl
theorem q882 : (Jvm.Cond.instanceMethod ({ cls := "SchemeLister", name := "lambda$place$5", desc := "(III)V" } : Jvm.MethodName)) ∈ lw_all := lw_g (lw_at lw_m4 12 rfl) rfl
theorem q883 : (Jvm.Cond.code ({ cls := "SchemeLister", name := "lambda$place$5", desc := "(III)V" } : Jvm.MethodName) prog_1_method_97_code (4 : Nat) (Option.none : Option Jvm.ClassFile.FieldType)) ∈ lw_all := lw_g (lw_at lw_m4 13 rfl) rfl
theorem q884 : (Jvm.Cond.methodLink "SchemeLister" (422 : Nat) ({ cls := "SchemeLister", name := "lies", desc := "(III)V" } : Jvm.MethodName)) ∈ lw_all := lw_g (lw_at lw_m4 14 rfl) rfl
theorem q885 : (Jvm.Cond.privateMethod ({ cls := "SchemeLister", name := "lies", desc := "(III)V" } : Jvm.MethodName)) ∈ lw_tbl := lw_at lw_m4 15 rfl
theorem q886 : (Jvm.Cond.instanceMethod ({ cls := "SchemeLister", name := "lies", desc := "(III)V" } : Jvm.MethodName)) ∈ lw_all := lw_g (lw_at lw_m4 16 rfl) rfl
theorem q887 : (Jvm.Cond.code ({ cls := "SchemeLister", name := "lies", desc := "(III)V" } : Jvm.MethodName) prog_1_method_63_code (4 : Nat) (Option.none : Option Jvm.ClassFile.FieldType)) ∈ lw_all := lw_g (lw_at lw_m4 17 rfl) rfl
theorem q889 : (Jvm.Cond.instanceMethod ({ cls := "SchemeLister", name := "put", desc := "(I)I" } : Jvm.MethodName)) ∈ lw_all := lw_g (lw_at lw_m4 19 rfl) rfl
theorem q890 : (Jvm.Cond.selects "SchemeLister" ({ cls := "SchemeLister", name := "put", desc := "(I)I" } : Jvm.MethodName) ({ cls := "SchemeLister", name := "put", desc := "(I)I" } : Jvm.MethodName)) ∈ lw_all := lw_g (lw_at lw_m4 20 rfl) rfl
theorem q891 : (Jvm.Cond.code ({ cls := "SchemeLister", name := "put", desc := "(I)I" } : Jvm.MethodName) prog_1_method_66_code (3 : Nat) (Option.some Jvm.ClassFile.FieldType.int)) ∈ lw_all := lw_g (lw_at lw_m4 21 rfl) rfl
theorem q892 : (Jvm.Cond.privateMethod ({ cls := "SchemeLister", name := "lambda$put$6", desc := "(ILSchemeLister$Scheme;)V" } : Jvm.MethodName)) ∈ lw_tbl := lw_at lw_m4 22 rfl
theorem q893 : (Jvm.Cond.instanceMethod ({ cls := "SchemeLister", name := "lambda$put$6", desc := "(ILSchemeLister$Scheme;)V" } : Jvm.MethodName)) ∈ lw_all := lw_g (lw_at lw_m4 23 rfl) rfl
theorem q894 : (Jvm.Cond.code ({ cls := "SchemeLister", name := "lambda$put$6", desc := "(ILSchemeLister$Scheme;)V" } : Jvm.MethodName) prog_1_method_96_code (3 : Nat) (Option.none : Option Jvm.ClassFile.FieldType)) ∈ lw_all := lw_g (lw_at lw_m4 24 rfl) rfl
theorem q895 : (Jvm.Cond.methodLink "SchemeLister" (514 : Nat) ({ cls := "SchemeLister", name := "lays", desc := "(ILSchemeLister$Scheme;)V" } : Jvm.MethodName)) ∈ lw_all := lw_g (lw_at lw_m4 25 rfl) rfl
theorem q896 : (Jvm.Cond.privateMethod ({ cls := "SchemeLister", name := "lays", desc := "(ILSchemeLister$Scheme;)V" } : Jvm.MethodName)) ∈ lw_tbl := lw_at lw_m4 26 rfl
theorem q897 : (Jvm.Cond.instanceMethod ({ cls := "SchemeLister", name := "lays", desc := "(ILSchemeLister$Scheme;)V" } : Jvm.MethodName)) ∈ lw_all := lw_g (lw_at lw_m4 27 rfl) rfl
theorem q898 : (Jvm.Cond.code ({ cls := "SchemeLister", name := "lays", desc := "(ILSchemeLister$Scheme;)V" } : Jvm.MethodName) prog_1_method_65_code (3 : Nat) (Option.none : Option Jvm.ClassFile.FieldType)) ∈ lw_all := lw_g (lw_at lw_m4 28 rfl) rfl
theorem q900 : (Jvm.Cond.instanceMethod ({ cls := "SchemeLister", name := "take", desc := "(I)I" } : Jvm.MethodName)) ∈ lw_all := lw_g (lw_at lw_m4 30 rfl) rfl
theorem q901 : (Jvm.Cond.selects "SchemeLister" ({ cls := "SchemeLister", name := "take", desc := "(I)I" } : Jvm.MethodName) ({ cls := "SchemeLister", name := "take", desc := "(I)I" } : Jvm.MethodName)) ∈ lw_all := lw_g (lw_at lw_m4 31 rfl) rfl
theorem q902 : (Jvm.Cond.code ({ cls := "SchemeLister", name := "take", desc := "(I)I" } : Jvm.MethodName) prog_1_method_67_code (2 : Nat) (Option.some Jvm.ClassFile.FieldType.int)) ∈ lw_all := lw_g (lw_at lw_m4 32 rfl) rfl
theorem q904 : (Jvm.Cond.instanceMethod ({ cls := "SchemeLister", name := "undo", desc := "()I" } : Jvm.MethodName)) ∈ lw_all := lw_g (lw_at lw_m4 34 rfl) rfl
theorem q905 : (Jvm.Cond.selects "SchemeLister" ({ cls := "SchemeLister", name := "undo", desc := "()I" } : Jvm.MethodName) ({ cls := "SchemeLister", name := "undo", desc := "()I" } : Jvm.MethodName)) ∈ lw_all := lw_g (lw_at lw_m4 35 rfl) rfl
theorem q906 : (Jvm.Cond.code ({ cls := "SchemeLister", name := "undo", desc := "()I" } : Jvm.MethodName) prog_1_method_68_code (1 : Nat) (Option.some Jvm.ClassFile.FieldType.int)) ∈ lw_all := lw_g (lw_at lw_m4 36 rfl) rfl
theorem q907 : (Jvm.Cond.methodLink "SchemeLister" (428 : Nat) ({ cls := "java/util/ArrayList", name := "isEmpty", desc := "()Z" } : Jvm.MethodName)) ∈ lw_all := lw_g (lw_at lw_m4 37 rfl) rfl
theorem q911 : (Jvm.Cond.interfaceEntry "SchemeLister" (435 : Nat)) ∈ lw_tbl := lw_at lw_m4 41 rfl
theorem q912 : (Jvm.Cond.methodLink "SchemeLister" (435 : Nat) ({ cls := "SchemeLister$Back", name := "goes", desc := "()V" } : Jvm.MethodName)) ∈ lw_all := lw_g (lw_at lw_m4 42 rfl) rfl
theorem q916 : (Jvm.Cond.instanceMethod ({ cls := "SchemeLister", name := "image", desc := "()V" } : Jvm.MethodName)) ∈ lw_all := lw_g (lw_at lw_m4 46 rfl) rfl
theorem q917 : (Jvm.Cond.selects "SchemeLister" ({ cls := "SchemeLister", name := "image", desc := "()V" } : Jvm.MethodName) ({ cls := "SchemeLister", name := "image", desc := "()V" } : Jvm.MethodName)) ∈ lw_all := lw_g (lw_at lw_m4 47 rfl) rfl
theorem q918 : (Jvm.Cond.code ({ cls := "SchemeLister", name := "image", desc := "()V" } : Jvm.MethodName) prog_1_method_92_code (1 : Nat) (Option.none : Option Jvm.ClassFile.FieldType)) ∈ lw_all := lw_g (lw_at lw_m4 48 rfl) rfl
theorem q919 : (Jvm.Cond.methodLink "SchemeLister" (54 : Nat) ({ cls := "java/lang/System", name := "arraycopy", desc := "(Ljava/lang/Object;ILjava/lang/Object;II)V" } : Jvm.MethodName)) ∈ lw_all := lw_g (lw_at lw_m4 49 rfl) rfl
theorem q920 : (Jvm.Cond.methodLink "SchemeLister" (503 : Nat) ({ cls := "SchemeLister", name := "copies", desc := "(Ljava/util/ArrayList;Ljava/util/ArrayList;)V" } : Jvm.MethodName)) ∈ lw_all := lw_g (lw_at lw_m4 50 rfl) rfl
theorem q921 : (Jvm.Cond.static ({ cls := "SchemeLister", name := "copies", desc := "(Ljava/util/ArrayList;Ljava/util/ArrayList;)V" } : Jvm.MethodName)) ∈ lw_all := lw_g (lw_at lw_m4 51 rfl) rfl
theorem q922 : (Jvm.Cond.code ({ cls := "SchemeLister", name := "copies", desc := "(Ljava/util/ArrayList;Ljava/util/ArrayList;)V" } : Jvm.MethodName) prog_1_method_91_code (3 : Nat) (Option.none : Option Jvm.ClassFile.FieldType)) ∈ lw_all := lw_g (lw_at lw_m4 52 rfl) rfl
theorem q923 : (Jvm.Cond.methodLink "SchemeLister" (102 : Nat) ({ cls := "java/util/ArrayList", name := "clear", desc := "()V" } : Jvm.MethodName)) ∈ lw_all := lw_g (lw_at lw_m4 53 rfl) rfl
theorem q927 : (Jvm.Cond.methodLink "SchemeLister" (113 : Nat) ({ cls := "java/util/ArrayList", name := "get", desc := "(I)Ljava/lang/Object;" } : Jvm.MethodName)) ∈ lw_all := lw_g (lw_at lw_m4 57 rfl) rfl
theorem q936 : (Jvm.Cond.instanceMethod ({ cls := "SchemeLister", name := "restore", desc := "()Z" } : Jvm.MethodName)) ∈ lw_all := lw_g (lw_at lw_m4 66 rfl) rfl
theorem q937 : (Jvm.Cond.selects "SchemeLister" ({ cls := "SchemeLister", name := "restore", desc := "()Z" } : Jvm.MethodName) ({ cls := "SchemeLister", name := "restore", desc := "()Z" } : Jvm.MethodName)) ∈ lw_all := lw_g (lw_at lw_m4 67 rfl) rfl
theorem q938 : (Jvm.Cond.code ({ cls := "SchemeLister", name := "restore", desc := "()Z" } : Jvm.MethodName) prog_1_method_93_code (1 : Nat) (Option.some Jvm.ClassFile.FieldType.boolean)) ∈ lw_all := lw_g (lw_at lw_m4 68 rfl) rfl
theorem q944 : (Jvm.Cond.instanceMethod ({ cls := "SchemeLister", name := "scheme", desc := "(I)I" } : Jvm.MethodName)) ∈ lw_all := lw_g (lw_at lw_m4 74 rfl) rfl
theorem q945 : (Jvm.Cond.selects "SchemeLister" ({ cls := "SchemeLister", name := "scheme", desc := "(I)I" } : Jvm.MethodName) ({ cls := "SchemeLister", name := "scheme", desc := "(I)I" } : Jvm.MethodName)) ∈ lw_all := lw_g (lw_at lw_m4 75 rfl) rfl
theorem q946 : (Jvm.Cond.codeWith ({ cls := "SchemeLister", name := "scheme", desc := "(I)I" } : Jvm.MethodName) prog_1_method_15_code (3 : Nat) (Option.some Jvm.ClassFile.FieldType.int) [((30 : Nat), (52 : Nat), (55 : Nat), (211 : Nat))]) ∈ lw_all := lw_g (lw_at lw_m4 76 rfl) rfl
theorem q947 : (Jvm.Cond.classLink "SchemeLister" (211 : Nat) "SchemeLister$Fault") ∈ lw_all := lw_g (lw_at lw_m4 77 rfl) rfl
theorem q948 : (Jvm.Cond.methodLink "SchemeLister" (92 : Nat) ({ cls := "SchemeLister", name := "right", desc := "(Z)V" } : Jvm.MethodName)) ∈ lw_all := lw_g (lw_at lw_m4 78 rfl) rfl
theorem q949 : (Jvm.Cond.static ({ cls := "SchemeLister", name := "right", desc := "(Z)V" } : Jvm.MethodName)) ∈ lw_all := lw_g (lw_at lw_m4 79 rfl) rfl
theorem q950 : (Jvm.Cond.code ({ cls := "SchemeLister", name := "right", desc := "(Z)V" } : Jvm.MethodName) prog_1_method_10_code (1 : Nat) (Option.none : Option Jvm.ClassFile.FieldType)) ∈ lw_all := lw_g (lw_at lw_m4 80 rfl) rfl
theorem q951 : (Jvm.Cond.classLink "SchemeLister" (186 : Nat) "java/lang/IllegalArgumentException") ∈ lw_all := lw_g (lw_at lw_m4 81 rfl) rfl
theorem q952 : (Jvm.Cond.methodLink "SchemeLister" (188 : Nat) ({ cls := "java/lang/IllegalArgumentException", name := "<init>", desc := "()V" } : Jvm.MethodName)) ∈ lw_all := lw_g (lw_at lw_m4 82 rfl) rfl
theorem q962 : (Jvm.Cond.classLink "SchemeLister" (198 : Nat) "SchemeLister$Reader") ∈ lw_all := lw_g (lw_at lw_m4 92 rfl) rfl
theorem q964 : (Jvm.Cond.methodLink "SchemeLister" (200 : Nat) ({ cls := "SchemeLister$Reader", name := "<init>", desc := "([BI)V" } : Jvm.MethodName)) ∈ lw_all := lw_g (lw_at lw_m4 94 rfl) rfl
theorem q1049 : (Jvm.Cond.methodLink "SchemeLister" (203 : Nat) ({ cls := "SchemeLister$Reader", name := "whole", desc := "()LSchemeLister$Scheme;" } : Jvm.MethodName)) ∈ lw_all := lw_g (lw_at lw_m4 179 rfl) rfl
theorem q1071 : (Jvm.Cond.fieldLinkNest "SchemeLister" (216 : Nat) "SchemeLister$Fault" "kind" "I" "SchemeLister") ∈ lw_tbl := lw_at lw_m4 201 rfl
theorem q1073 : (Jvm.Cond.fieldLinkNest "SchemeLister" (213 : Nat) "SchemeLister$Fault" "place" "I" "SchemeLister") ∈ lw_tbl := lw_at lw_m4 203 rfl
theorem q1179 : (Jvm.Cond.instanceMethod ({ cls := "SchemeLister", name := "count", desc := "(I)I" } : Jvm.MethodName)) ∈ lw_all := lw_g (lw_at lw_m5 69 rfl) rfl
theorem q1180 : (Jvm.Cond.selects "SchemeLister" ({ cls := "SchemeLister", name := "count", desc := "(I)I" } : Jvm.MethodName) ({ cls := "SchemeLister", name := "count", desc := "(I)I" } : Jvm.MethodName)) ∈ lw_all := lw_g (lw_at lw_m5 70 rfl) rfl
theorem q1181 : (Jvm.Cond.code ({ cls := "SchemeLister", name := "count", desc := "(I)I" } : Jvm.MethodName) prog_1_method_44_code (2 : Nat) (Option.some Jvm.ClassFile.FieldType.int)) ∈ lw_all := lw_g (lw_at lw_m5 71 rfl) rfl
theorem q1182 : (Jvm.Cond.methodLink "SchemeLister" (110 : Nat) ({ cls := "SchemeLister", name := "there", desc := "(Z)V" } : Jvm.MethodName)) ∈ lw_all := lw_g (lw_at lw_m5 72 rfl) rfl
theorem q1183 : (Jvm.Cond.static ({ cls := "SchemeLister", name := "there", desc := "(Z)V" } : Jvm.MethodName)) ∈ lw_all := lw_g (lw_at lw_m5 73 rfl) rfl
theorem q1184 : (Jvm.Cond.code ({ cls := "SchemeLister", name := "there", desc := "(Z)V" } : Jvm.MethodName) prog_1_method_11_code (1 : Nat) (Option.none : Option Jvm.ClassFile.FieldType)) ∈ lw_all := lw_g (lw_at lw_m5 74 rfl) rfl
theorem q1185 : (Jvm.Cond.classLink "SchemeLister" (189 : Nat) "java/util/NoSuchElementException") ∈ lw_all := lw_g (lw_at lw_m5 75 rfl) rfl
theorem q1194 : (Jvm.Cond.methodLink "SchemeLister" (191 : Nat) ({ cls := "java/util/NoSuchElementException", name := "<init>", desc := "()V" } : Jvm.MethodName)) ∈ lw_all := lw_g (lw_at lw_m5 84 rfl) rfl
theorem q1200 : (Jvm.Cond.methodLink "SchemeLister" (312 : Nat) ({ cls := "SchemeLister", name := "flags", desc := "()I" } : Jvm.MethodName)) ∈ lw_all := lw_g (lw_at lw_m5 90 rfl) rfl
theorem q1201 : (Jvm.Cond.privateMethod ({ cls := "SchemeLister", name := "flags", desc := "()I" } : Jvm.MethodName)) ∈ lw_tbl := lw_at lw_m5 91 rfl
theorem q1202 : (Jvm.Cond.instanceMethod ({ cls := "SchemeLister", name := "flags", desc := "()I" } : Jvm.MethodName)) ∈ lw_all := lw_g (lw_at lw_m5 92 rfl) rfl
theorem q1203 : (Jvm.Cond.code ({ cls := "SchemeLister", name := "flags", desc := "()I" } : Jvm.MethodName) prog_1_method_17_code (3 : Nat) (Option.some Jvm.ClassFile.FieldType.int)) ∈ lw_all := lw_g (lw_at lw_m5 93 rfl) rfl
theorem q1204 : (Jvm.Cond.methodLink "SchemeLister" (70 : Nat) ({ cls := "java/lang/Integer", name := "bitCount", desc := "(I)I" } : Jvm.MethodName)) ∈ lw_all := lw_g (lw_at lw_m5 94 rfl) rfl
theorem q1205 : (Jvm.Cond.methodLink "SchemeLister" (315 : Nat) ({ cls := "SchemeLister", name := "isRegular", desc := "()Z" } : Jvm.MethodName)) ∈ lw_all := lw_g (lw_at lw_m5 95 rfl) rfl
theorem q1206 : (Jvm.Cond.privateMethod ({ cls := "SchemeLister", name := "isRegular", desc := "()Z" } : Jvm.MethodName)) ∈ lw_tbl := lw_at lw_m5 96 rfl
theorem q1207 : (Jvm.Cond.instanceMethod ({ cls := "SchemeLister", name := "isRegular", desc := "()Z" } : Jvm.MethodName)) ∈ lw_all := lw_g (lw_at lw_m5 97 rfl) rfl
theorem q1208 : (Jvm.Cond.code ({ cls := "SchemeLister", name := "isRegular", desc := "()Z" } : Jvm.MethodName) prog_1_method_19_code (2 : Nat) (Option.some Jvm.ClassFile.FieldType.boolean)) ∈ lw_all := lw_g (lw_at lw_m5 98 rfl) rfl
theorem q1209 : (Jvm.Cond.methodLink "SchemeLister" (225 : Nat) ({ cls := "SchemeLister", name := "linesThrough", desc := "(I)I" } : Jvm.MethodName)) ∈ lw_all := lw_g (lw_at lw_m5 99 rfl) rfl
theorem q1210 : (Jvm.Cond.privateMethod ({ cls := "SchemeLister", name := "linesThrough", desc := "(I)I" } : Jvm.MethodName)) ∈ lw_tbl := lw_at lw_m5 100 rfl
theorem q1211 : (Jvm.Cond.instanceMethod ({ cls := "SchemeLister", name := "linesThrough", desc := "(I)I" } : Jvm.MethodName)) ∈ lw_all := lw_g (lw_at lw_m5 101 rfl) rfl
theorem q1212 : (Jvm.Cond.code ({ cls := "SchemeLister", name := "linesThrough", desc := "(I)I" } : Jvm.MethodName) prog_1_method_18_code (2 : Nat) (Option.some Jvm.ClassFile.FieldType.int)) ∈ lw_all := lw_g (lw_at lw_m5 102 rfl) rfl
theorem q1213 : (Jvm.Cond.methodLink "SchemeLister" (222 : Nat) ({ cls := "SchemeLister$Scheme", name := "through", desc := "(I)I" } : Jvm.MethodName)) ∈ lw_all := lw_g (lw_at lw_m5 103 rfl) rfl
theorem q1214 : (Jvm.Cond.methodLink "SchemeLister" (318 : Nat) ({ cls := "SchemeLister", name := "joinedPairs", desc := "()I" } : Jvm.MethodName)) ∈ lw_all := lw_g (lw_at lw_m5 104 rfl) rfl
theorem q1215 : (Jvm.Cond.privateMethod ({ cls := "SchemeLister", name := "joinedPairs", desc := "()I" } : Jvm.MethodName)) ∈ lw_tbl := lw_at lw_m5 105 rfl
theorem q1216 : (Jvm.Cond.instanceMethod ({ cls := "SchemeLister", name := "joinedPairs", desc := "()I" } : Jvm.MethodName)) ∈ lw_all := lw_g (lw_at lw_m5 106 rfl) rfl
theorem q1217 : (Jvm.Cond.code ({ cls := "SchemeLister", name := "joinedPairs", desc := "()I" } : Jvm.MethodName) prog_1_method_20_code (4 : Nat) (Option.some Jvm.ClassFile.FieldType.int)) ∈ lw_all := lw_g (lw_at lw_m5 107 rfl) rfl
theorem q1218 : (Jvm.Cond.methodLink "SchemeLister" (228 : Nat) ({ cls := "SchemeLister$Scheme", name := "lineOf", desc := "(I)I" } : Jvm.MethodName)) ∈ lw_all := lw_g (lw_at lw_m5 108 rfl) rfl
theorem q1222 : (Jvm.Cond.methodLink "SchemeLister" (321 : Nat) ({ cls := "SchemeLister", name := "trianglesOf", desc := "(LSchemeLister$Scheme;)I" } : Jvm.MethodName)) ∈ lw_all := lw_g (lw_at lw_m5 112 rfl) rfl
theorem q1223 : (Jvm.Cond.static ({ cls := "SchemeLister", name := "trianglesOf", desc := "(LSchemeLister$Scheme;)I" } : Jvm.MethodName)) ∈ lw_all := lw_g (lw_at lw_m5 113 rfl) rfl
theorem q1224 : (Jvm.Cond.code ({ cls := "SchemeLister", name := "trianglesOf", desc := "(LSchemeLister$Scheme;)I" } : Jvm.MethodName) prog_1_method_21_code (8 : Nat) (Option.some Jvm.ClassFile.FieldType.int)) ∈ lw_all := lw_g (lw_at lw_m5 114 rfl) rfl
theorem q1225 : (Jvm.Cond.methodLink "SchemeLister" (325 : Nat) ({ cls := "SchemeLister", name := "pieces", desc := "()I" } : Jvm.MethodName)) ∈ lw_all := lw_g (lw_at lw_m5 115 rfl) rfl
theorem q1226 : (Jvm.Cond.privateMethod ({ cls := "SchemeLister", name := "pieces", desc := "()I" } : Jvm.MethodName)) ∈ lw_tbl := lw_at lw_m5 116 rfl
theorem q1227 : (Jvm.Cond.instanceMethod ({ cls := "SchemeLister", name := "pieces", desc := "()I" } : Jvm.MethodName)) ∈ lw_all := lw_g (lw_at lw_m5 117 rfl) rfl
theorem q1228 : (Jvm.Cond.code ({ cls := "SchemeLister", name := "pieces", desc := "()I" } : Jvm.MethodName) prog_1_method_28_code (3 : Nat) (Option.some Jvm.ClassFile.FieldType.int)) ∈ lw_all := lw_g (lw_at lw_m5 118 rfl) rfl
theorem q1229 : (Jvm.Cond.methodLink "SchemeLister" (242 : Nat) ({ cls := "SchemeLister", name := "piece", desc := "(I)I" } : Jvm.MethodName)) ∈ lw_all := lw_g (lw_at lw_m5 119 rfl) rfl
theorem q1230 : (Jvm.Cond.privateMethod ({ cls := "SchemeLister", name := "piece", desc := "(I)I" } : Jvm.MethodName)) ∈ lw_tbl := lw_at lw_m5 120 rfl
theorem q1231 : (Jvm.Cond.instanceMethod ({ cls := "SchemeLister", name := "piece", desc := "(I)I" } : Jvm.MethodName)) ∈ lw_all := lw_g (lw_at lw_m5 121 rfl) rfl
theorem q1232 : (Jvm.Cond.code ({ cls := "SchemeLister", name := "piece", desc := "(I)I" } : Jvm.MethodName) prog_1_method_26_code (5 : Nat) (Option.some Jvm.ClassFile.FieldType.int)) ∈ lw_all := lw_g (lw_at lw_m5 122 rfl) rfl
theorem q1233 : (Jvm.Cond.methodLink "SchemeLister" (245 : Nat) ({ cls := "SchemeLister", name := "lowest", desc := "(I)I" } : Jvm.MethodName)) ∈ lw_all := lw_g (lw_at lw_m5 123 rfl) rfl
theorem q1234 : (Jvm.Cond.static ({ cls := "SchemeLister", name := "lowest", desc := "(I)I" } : Jvm.MethodName)) ∈ lw_all := lw_g (lw_at lw_m5 124 rfl) rfl
theorem q1235 : (Jvm.Cond.code ({ cls := "SchemeLister", name := "lowest", desc := "(I)I" } : Jvm.MethodName) prog_1_method_27_code (1 : Nat) (Option.some Jvm.ClassFile.FieldType.int)) ∈ lw_all := lw_g (lw_at lw_m5 125 rfl) rfl
theorem q1236 : (Jvm.Cond.methodLink "SchemeLister" (239 : Nat) ({ cls := "java/lang/Integer", name := "numberOfTrailingZeros", desc := "(I)I" } : Jvm.MethodName)) ∈ lw_all := lw_g (lw_at lw_m5 126 rfl) rfl
theorem q1240 : (Jvm.Cond.methodLink "SchemeLister" (328 : Nat) ({ cls := "SchemeLister", name := "likeness", desc := "(LSchemeLister$Scheme;LSchemeLister$Scheme;I)LSchemeLister$Tally;" } : Jvm.MethodName)) ∈ lw_all := lw_g (lw_at lw_m5 130 rfl) rfl
theorem q1241 : (Jvm.Cond.static ({ cls := "SchemeLister", name := "likeness", desc := "(LSchemeLister$Scheme;LSchemeLister$Scheme;I)LSchemeLister$Tally;" } : Jvm.MethodName)) ∈ lw_all := lw_g (lw_at lw_m5 131 rfl) rfl
theorem q1242 : (Jvm.Cond.code ({ cls := "SchemeLister", name := "likeness", desc := "(LSchemeLister$Scheme;LSchemeLister$Scheme;I)LSchemeLister$Tally;" } : Jvm.MethodName) prog_1_method_2_code (4 : Nat) (Option.some (Jvm.ClassFile.FieldType.object "SchemeLister$Tally"))) ∈ lw_all := lw_g (lw_at lw_m5 132 rfl) rfl
theorem q1243 : (Jvm.Cond.classLink "SchemeLister" (10 : Nat) "SchemeLister$Tally") ∈ lw_all := lw_g (lw_at lw_m5 133 rfl) rfl
theorem q1245 : (Jvm.Cond.methodLink "SchemeLister" (12 : Nat) ({ cls := "SchemeLister$Tally", name := "<init>", desc := "(I)V" } : Jvm.MethodName)) ∈ lw_all := lw_g (lw_at lw_m5 135 rfl) rfl
theorem q1250 : (Jvm.Cond.fieldLinkNest "SchemeLister" (251 : Nat) "SchemeLister$Tally" "many" "I" "SchemeLister") ∈ lw_tbl := lw_at lw_m5 140 rfl
theorem q1253 : (Jvm.Cond.fieldLinkNest "SchemeLister" (356 : Nat) "SchemeLister$Tally" "kept" "[I" "SchemeLister") ∈ lw_tbl := lw_at lw_m5 143 rfl
theorem q1261 : (Jvm.Cond.methodLink "SchemeLister" (16 : Nat) ({ cls := "SchemeLister", name := "canBeLike", desc := "(LSchemeLister$Scheme;LSchemeLister$Scheme;)Z" } : Jvm.MethodName)) ∈ lw_all := lw_g (lw_at lw_m5 151 rfl) rfl
theorem q1262 : (Jvm.Cond.static ({ cls := "SchemeLister", name := "canBeLike", desc := "(LSchemeLister$Scheme;LSchemeLister$Scheme;)Z" } : Jvm.MethodName)) ∈ lw_all := lw_g (lw_at lw_m5 152 rfl) rfl
theorem q1263 : (Jvm.Cond.code ({ cls := "SchemeLister", name := "canBeLike", desc := "(LSchemeLister$Scheme;LSchemeLister$Scheme;)Z" } : Jvm.MethodName) prog_1_method_1_code (2 : Nat) (Option.some Jvm.ClassFile.FieldType.boolean)) ∈ lw_all := lw_g (lw_at lw_m5 153 rfl) rfl
theorem q1264 : (Jvm.Cond.classLink "SchemeLister" (22 : Nat) "SchemeLister$Search") ∈ lw_all := lw_g (lw_at lw_m5 154 rfl) rfl
theorem q1266 : (Jvm.Cond.methodLink "SchemeLister" (24 : Nat) ({ cls := "SchemeLister$Search", name := "<init>", desc := "(LSchemeLister$Scheme;LSchemeLister$Scheme;Z)V" } : Jvm.MethodName)) ∈ lw_all := lw_g (lw_at lw_m5 156 rfl) rfl
theorem q1289 : (Jvm.Cond.static ({ cls := "SchemeLister", name := "lambda$likeness$0", desc := "(LSchemeLister$Tally;[I)Z" } : Jvm.MethodName)) ∈ lw_all := lw_g (lw_at lw_m5 179 rfl) rfl
theorem q1290 : (Jvm.Cond.code ({ cls := "SchemeLister", name := "lambda$likeness$0", desc := "(LSchemeLister$Tally;[I)Z" } : Jvm.MethodName) prog_1_method_102_code (2 : Nat) (Option.some Jvm.ClassFile.FieldType.boolean)) ∈ lw_all := lw_g (lw_at lw_m5 180 rfl) rfl
theorem q1291 : (Jvm.Cond.methodLink "SchemeLister" (518 : Nat) ({ cls := "SchemeLister$Tally", name := "takes", desc := "([I)Z" } : Jvm.MethodName)) ∈ lw_all := lw_g (lw_at lw_m5 181 rfl) rfl
theorem q1296 : (Jvm.Cond.methodLink "SchemeLister" (31 : Nat) ({ cls := "SchemeLister$Search", name := "goes", desc := "(ILSchemeLister$Way;)Z" } : Jvm.MethodName)) ∈ lw_all := lw_g (lw_at lw_m5 186 rfl) rfl
theorem q1318 : (Jvm.Cond.methodLink "SchemeLister" (332 : Nat) ({ cls := "SchemeLister", name := "orbits", desc := "()I" } : Jvm.MethodName)) ∈ lw_all := lw_g (lw_at lw_m5 208 rfl) rfl
theorem q1319 : (Jvm.Cond.privateMethod ({ cls := "SchemeLister", name := "orbits", desc := "()I" } : Jvm.MethodName)) ∈ lw_tbl := lw_at lw_m5 209 rfl
theorem q1320 : (Jvm.Cond.instanceMethod ({ cls := "SchemeLister", name := "orbits", desc := "()I" } : Jvm.MethodName)) ∈ lw_all := lw_g (lw_at lw_m5 210 rfl) rfl
theorem q1321 : (Jvm.Cond.code ({ cls := "SchemeLister", name := "orbits", desc := "()I" } : Jvm.MethodName) prog_1_method_30_code (3 : Nat) (Option.some Jvm.ClassFile.FieldType.int)) ∈ lw_all := lw_g (lw_at lw_m5 211 rfl) rfl
theorem q1322 : (Jvm.Cond.methodLink "SchemeLister" (254 : Nat) ({ cls := "SchemeLister", name := "laysOrbits", desc := "()I" } : Jvm.MethodName)) ∈ lw_all := lw_g (lw_at lw_m5 212 rfl) rfl
theorem q1323 : (Jvm.Cond.privateMethod ({ cls := "SchemeLister", name := "laysOrbits", desc := "()I" } : Jvm.MethodName)) ∈ lw_tbl := lw_at lw_m5 213 rfl
theorem q1324 : (Jvm.Cond.instanceMethod ({ cls := "SchemeLister", name := "laysOrbits", desc := "()I" } : Jvm.MethodName)) ∈ lw_all := lw_g (lw_at lw_m5 214 rfl) rfl
theorem q1325 : (Jvm.Cond.code ({ cls := "SchemeLister", name := "laysOrbits", desc := "()I" } : Jvm.MethodName) prog_1_method_29_code (2 : Nat) (Option.some Jvm.ClassFile.FieldType.int)) ∈ lw_all := lw_g (lw_at lw_m5 215 rfl) rfl
theorem q1326 : (Jvm.Cond.privateMethod ({ cls := "SchemeLister", name := "lambda$laysOrbits$2", desc := "(LSchemeLister$Tally;[I)Z" } : Jvm.MethodName)) ∈ lw_tbl := lw_at lw_m5 216 rfl
theorem q1327 : (Jvm.Cond.instanceMethod ({ cls := "SchemeLister", name := "lambda$laysOrbits$2", desc := "(LSchemeLister$Tally;[I)Z" } : Jvm.MethodName)) ∈ lw_all := lw_g (lw_at lw_m5 217 rfl) rfl
theorem q1328 : (Jvm.Cond.code ({ cls := "SchemeLister", name := "lambda$laysOrbits$2", desc := "(LSchemeLister$Tally;[I)Z" } : Jvm.MethodName) prog_1_method_100_code (4 : Nat) (Option.some Jvm.ClassFile.FieldType.boolean)) ∈ lw_all := lw_g (lw_at lw_m5 218 rfl) rfl
theorem q1329 : (Jvm.Cond.methodLink "SchemeLister" (302 : Nat) ({ cls := "java/lang/Math", name := "min", desc := "(II)I" } : Jvm.MethodName)) ∈ lw_all := lw_g (lw_at lw_m5 219 rfl) rfl
theorem q1330 : (Jvm.Cond.methodLink "SchemeLister" (335 : Nat) ({ cls := "SchemeLister", name := "laysDualities", desc := "()V" } : Jvm.MethodName)) ∈ lw_all := lw_g (lw_at lw_m5 220 rfl) rfl
theorem q1331 : (Jvm.Cond.privateMethod ({ cls := "SchemeLister", name := "laysDualities", desc := "()V" } : Jvm.MethodName)) ∈ lw_tbl := lw_at lw_m5 221 rfl
theorem q1332 : (Jvm.Cond.instanceMethod ({ cls := "SchemeLister", name := "laysDualities", desc := "()V" } : Jvm.MethodName)) ∈ lw_all := lw_g (lw_at lw_m5 222 rfl) rfl
theorem q1333 : (Jvm.Cond.code ({ cls := "SchemeLister", name := "laysDualities", desc := "()V" } : Jvm.MethodName) prog_1_method_35_code (1 : Nat) (Option.none : Option Jvm.ClassFile.FieldType)) ∈ lw_all := lw_g (lw_at lw_m5 223 rfl) rfl
theorem q1334 : (Jvm.Cond.methodLink "SchemeLister" (273 : Nat) ({ cls := "SchemeLister", name := "names", desc := "(II)V" } : Jvm.MethodName)) ∈ lw_all := lw_g (lw_at lw_m5 224 rfl) rfl
theorem q1335 : (Jvm.Cond.privateMethod ({ cls := "SchemeLister", name := "names", desc := "(II)V" } : Jvm.MethodName)) ∈ lw_tbl := lw_at lw_m5 225 rfl
theorem q1336 : (Jvm.Cond.instanceMethod ({ cls := "SchemeLister", name := "names", desc := "(II)V" } : Jvm.MethodName)) ∈ lw_all := lw_g (lw_at lw_m5 226 rfl) rfl
theorem q1337 : (Jvm.Cond.code ({ cls := "SchemeLister", name := "names", desc := "(II)V" } : Jvm.MethodName) prog_1_method_33_code (4 : Nat) (Option.none : Option Jvm.ClassFile.FieldType)) ∈ lw_all := lw_g (lw_at lw_m5 227 rfl) rfl
theorem q1338 : (Jvm.Cond.methodLink "SchemeLister" (263 : Nat) ({ cls := "SchemeLister", name := "isPolarity", desc := "()Z" } : Jvm.MethodName)) ∈ lw_all := lw_g (lw_at lw_m5 228 rfl) rfl
theorem q1339 : (Jvm.Cond.privateMethod ({ cls := "SchemeLister", name := "isPolarity", desc := "()Z" } : Jvm.MethodName)) ∈ lw_tbl := lw_at lw_m5 229 rfl
theorem q1340 : (Jvm.Cond.instanceMethod ({ cls := "SchemeLister", name := "isPolarity", desc := "()Z" } : Jvm.MethodName)) ∈ lw_all := lw_g (lw_at lw_m5 230 rfl) rfl
theorem q1341 : (Jvm.Cond.code ({ cls := "SchemeLister", name := "isPolarity", desc := "()Z" } : Jvm.MethodName) prog_1_method_32_code (3 : Nat) (Option.some Jvm.ClassFile.FieldType.boolean)) ∈ lw_all := lw_g (lw_at lw_m5 231 rfl) rfl
theorem q1342 : (Jvm.Cond.methodLink "SchemeLister" (257 : Nat) ({ cls := "SchemeLister$Scheme", name := "isOn", desc := "(II)Z" } : Jvm.MethodName)) ∈ lw_all := lw_g (lw_at lw_m5 232 rfl) rfl
theorem q1343 : (Jvm.Cond.methodLink "SchemeLister" (270 : Nat) ({ cls := "SchemeLister", name := "isNamedWell", desc := "(I)Z" } : Jvm.MethodName)) ∈ lw_all := lw_g (lw_at lw_m5 233 rfl) rfl
theorem q1344 : (Jvm.Cond.privateMethod ({ cls := "SchemeLister", name := "isNamedWell", desc := "(I)Z" } : Jvm.MethodName)) ∈ lw_tbl := lw_at lw_m5 234 rfl
theorem q1345 : (Jvm.Cond.instanceMethod ({ cls := "SchemeLister", name := "isNamedWell", desc := "(I)Z" } : Jvm.MethodName)) ∈ lw_all := lw_g (lw_at lw_m5 235 rfl) rfl
theorem q1346 : (Jvm.Cond.code ({ cls := "SchemeLister", name := "isNamedWell", desc := "(I)Z" } : Jvm.MethodName) prog_1_method_34_code (3 : Nat) (Option.some Jvm.ClassFile.FieldType.boolean)) ∈ lw_all := lw_g (lw_at lw_m5 236 rfl) rfl
theorem q1347 : (Jvm.Cond.methodLink "SchemeLister" (277 : Nat) ({ cls := "SchemeLister", name := "pole", desc := "(I)I" } : Jvm.MethodName)) ∈ lw_all := lw_g (lw_at lw_m5 237 rfl) rfl
theorem q1348 : (Jvm.Cond.privateMethod ({ cls := "SchemeLister", name := "pole", desc := "(I)I" } : Jvm.MethodName)) ∈ lw_tbl := lw_at lw_m5 238 rfl
theorem q1349 : (Jvm.Cond.instanceMethod ({ cls := "SchemeLister", name := "pole", desc := "(I)I" } : Jvm.MethodName)) ∈ lw_all := lw_g (lw_at lw_m5 239 rfl) rfl
theorem q1350 : (Jvm.Cond.code ({ cls := "SchemeLister", name := "pole", desc := "(I)I" } : Jvm.MethodName) prog_1_method_31_code (4 : Nat) (Option.some Jvm.ClassFile.FieldType.int)) ∈ lw_all := lw_g (lw_at lw_m6 0 rfl) rfl
theorem q1351 : (Jvm.Cond.methodLink "SchemeLister" (338 : Nat) ({ cls := "SchemeLister", name := "slipsMany", desc := "()I" } : Jvm.MethodName)) ∈ lw_all := lw_g (lw_at lw_m6 1 rfl) rfl
theorem q1352 : (Jvm.Cond.privateMethod ({ cls := "SchemeLister", name := "slipsMany", desc := "()I" } : Jvm.MethodName)) ∈ lw_tbl := lw_at lw_m6 2 rfl
theorem q1353 : (Jvm.Cond.instanceMethod ({ cls := "SchemeLister", name := "slipsMany", desc := "()I" } : Jvm.MethodName)) ∈ lw_all := lw_g (lw_at lw_m6 3 rfl) rfl
theorem q1354 : (Jvm.Cond.code ({ cls := "SchemeLister", name := "slipsMany", desc := "()I" } : Jvm.MethodName) prog_1_method_40_code (3 : Nat) (Option.some Jvm.ClassFile.FieldType.int)) ∈ lw_all := lw_g (lw_at lw_m6 4 rfl) rfl
theorem q1355 : (Jvm.Cond.methodLink "SchemeLister" (296 : Nat) ({ cls := "SchemeLister", name := "slips", desc := "(I)Z" } : Jvm.MethodName)) ∈ lw_all := lw_g (lw_at lw_m6 5 rfl) rfl
theorem q1356 : (Jvm.Cond.privateMethod ({ cls := "SchemeLister", name := "slips", desc := "(I)Z" } : Jvm.MethodName)) ∈ lw_tbl := lw_at lw_m6 6 rfl
theorem q1357 : (Jvm.Cond.instanceMethod ({ cls := "SchemeLister", name := "slips", desc := "(I)Z" } : Jvm.MethodName)) ∈ lw_all := lw_g (lw_at lw_m6 7 rfl) rfl
theorem q1358 : (Jvm.Cond.code ({ cls := "SchemeLister", name := "slips", desc := "(I)Z" } : Jvm.MethodName) prog_1_method_39_code (5 : Nat) (Option.some Jvm.ClassFile.FieldType.boolean)) ∈ lw_all := lw_g (lw_at lw_m6 8 rfl) rfl
theorem q1359 : (Jvm.Cond.methodLink "SchemeLister" (290 : Nat) ({ cls := "SchemeLister", name := "areSame", desc := "(II)Z" } : Jvm.MethodName)) ∈ lw_all := lw_g (lw_at lw_m6 9 rfl) rfl
theorem q1360 : (Jvm.Cond.privateMethod ({ cls := "SchemeLister", name := "areSame", desc := "(II)Z" } : Jvm.MethodName)) ∈ lw_tbl := lw_at lw_m6 10 rfl
theorem q1361 : (Jvm.Cond.instanceMethod ({ cls := "SchemeLister", name := "areSame", desc := "(II)Z" } : Jvm.MethodName)) ∈ lw_all := lw_g (lw_at lw_m6 11 rfl) rfl
theorem q1362 : (Jvm.Cond.code ({ cls := "SchemeLister", name := "areSame", desc := "(II)Z" } : Jvm.MethodName) prog_1_method_38_code (3 : Nat) (Option.some Jvm.ClassFile.FieldType.boolean)) ∈ lw_all := lw_g (lw_at lw_m6 12 rfl) rfl
theorem q1363 : (Jvm.Cond.methodLink "SchemeLister" (293 : Nat) ({ cls := "SchemeLister", name := "isInLine", desc := "(III)Z" } : Jvm.MethodName)) ∈ lw_all := lw_g (lw_at lw_m6 13 rfl) rfl
theorem q1364 : (Jvm.Cond.privateMethod ({ cls := "SchemeLister", name := "isInLine", desc := "(III)Z" } : Jvm.MethodName)) ∈ lw_tbl := lw_at lw_m6 14 rfl
theorem q1365 : (Jvm.Cond.instanceMethod ({ cls := "SchemeLister", name := "isInLine", desc := "(III)Z" } : Jvm.MethodName)) ∈ lw_all := lw_g (lw_at lw_m6 15 rfl) rfl
theorem q1366 : (Jvm.Cond.code ({ cls := "SchemeLister", name := "isInLine", desc := "(III)Z" } : Jvm.MethodName) prog_1_method_37_code (4 : Nat) (Option.some Jvm.ClassFile.FieldType.boolean)) ∈ lw_all := lw_g (lw_at lw_m6 16 rfl) rfl
theorem q1367 : (Jvm.Cond.methodLink "SchemeLister" (286 : Nat) ({ cls := "SchemeLister", name := "span", desc := "(IIII)I" } : Jvm.MethodName)) ∈ lw_all := lw_g (lw_at lw_m6 17 rfl) rfl
theorem q1368 : (Jvm.Cond.static ({ cls := "SchemeLister", name := "span", desc := "(IIII)I" } : Jvm.MethodName)) ∈ lw_all := lw_g (lw_at lw_m6 18 rfl) rfl
theorem q1369 : (Jvm.Cond.code ({ cls := "SchemeLister", name := "span", desc := "(IIII)I" } : Jvm.MethodName) prog_1_method_36_code (4 : Nat) (Option.some Jvm.ClassFile.FieldType.int)) ∈ lw_all := lw_g (lw_at lw_m6 19 rfl) rfl
theorem q1370 : (Jvm.Cond.methodLink "SchemeLister" (341 : Nat) ({ cls := "SchemeLister", name := "strays", desc := "()I" } : Jvm.MethodName)) ∈ lw_all := lw_g (lw_at lw_m6 20 rfl) rfl
theorem q1371 : (Jvm.Cond.privateMethod ({ cls := "SchemeLister", name := "strays", desc := "()I" } : Jvm.MethodName)) ∈ lw_tbl := lw_at lw_m6 21 rfl
theorem q1372 : (Jvm.Cond.instanceMethod ({ cls := "SchemeLister", name := "strays", desc := "()I" } : Jvm.MethodName)) ∈ lw_all := lw_g (lw_at lw_m6 22 rfl) rfl
theorem q1373 : (Jvm.Cond.code ({ cls := "SchemeLister", name := "strays", desc := "()I" } : Jvm.MethodName) prog_1_method_41_code (5 : Nat) (Option.some Jvm.ClassFile.FieldType.int)) ∈ lw_all := lw_g (lw_at lw_m6 23 rfl) rfl
theorem q1374 : (Jvm.Cond.methodLink "SchemeLister" (344 : Nat) ({ cls := "SchemeLister", name := "girth", desc := "()I" } : Jvm.MethodName)) ∈ lw_all := lw_g (lw_at lw_m6 24 rfl) rfl
theorem q1375 : (Jvm.Cond.privateMethod ({ cls := "SchemeLister", name := "girth", desc := "()I" } : Jvm.MethodName)) ∈ lw_tbl := lw_at lw_m6 25 rfl
theorem q1376 : (Jvm.Cond.instanceMethod ({ cls := "SchemeLister", name := "girth", desc := "()I" } : Jvm.MethodName)) ∈ lw_all := lw_g (lw_at lw_m6 26 rfl) rfl
theorem q1377 : (Jvm.Cond.code ({ cls := "SchemeLister", name := "girth", desc := "()I" } : Jvm.MethodName) prog_1_method_43_code (2 : Nat) (Option.some Jvm.ClassFile.FieldType.int)) ∈ lw_all := lw_g (lw_at lw_m6 27 rfl) rfl
theorem q1378 : (Jvm.Cond.methodLink "SchemeLister" (308 : Nat) ({ cls := "SchemeLister", name := "rings", desc := "(IIIII)V" } : Jvm.MethodName)) ∈ lw_all := lw_g (lw_at lw_m6 28 rfl) rfl
theorem q1379 : (Jvm.Cond.privateMethod ({ cls := "SchemeLister", name := "rings", desc := "(IIIII)V" } : Jvm.MethodName)) ∈ lw_tbl := lw_at lw_m6 29 rfl
theorem q1380 : (Jvm.Cond.instanceMethod ({ cls := "SchemeLister", name := "rings", desc := "(IIIII)V" } : Jvm.MethodName)) ∈ lw_all := lw_g (lw_at lw_m6 30 rfl) rfl
theorem q1381 : (Jvm.Cond.code ({ cls := "SchemeLister", name := "rings", desc := "(IIIII)V" } : Jvm.MethodName) prog_1_method_42_code (8 : Nat) (Option.none : Option Jvm.ClassFile.FieldType)) ∈ lw_all := lw_g (lw_at lw_m6 31 rfl) rfl
theorem q1382 : (Jvm.Cond.methodLink "SchemeLister" (347 : Nat) ({ cls := "SchemeLister", name := "fours", desc := "()I" } : Jvm.MethodName)) ∈ lw_all := lw_g (lw_at lw_m6 32 rfl) rfl
theorem q1383 : (Jvm.Cond.privateMethod ({ cls := "SchemeLister", name := "fours", desc := "()I" } : Jvm.MethodName)) ∈ lw_tbl := lw_at lw_m6 33 rfl
theorem q1384 : (Jvm.Cond.instanceMethod ({ cls := "SchemeLister", name := "fours", desc := "()I" } : Jvm.MethodName)) ∈ lw_all := lw_g (lw_at lw_m6 34 rfl) rfl
theorem q1385 : (Jvm.Cond.code ({ cls := "SchemeLister", name := "fours", desc := "()I" } : Jvm.MethodName) prog_1_method_24_code (3 : Nat) (Option.some Jvm.ClassFile.FieldType.int)) ∈ lw_all := lw_g (lw_at lw_m6 35 rfl) rfl
theorem q1386 : (Jvm.Cond.methodLink "SchemeLister" (231 : Nat) ({ cls := "SchemeLister", name := "areAround", desc := "(I)Z" } : Jvm.MethodName)) ∈ lw_all := lw_g (lw_at lw_m6 36 rfl) rfl
theorem q1387 : (Jvm.Cond.privateMethod ({ cls := "SchemeLister", name := "areAround", desc := "(I)Z" } : Jvm.MethodName)) ∈ lw_tbl := lw_at lw_m6 37 rfl
theorem q1388 : (Jvm.Cond.instanceMethod ({ cls := "SchemeLister", name := "areAround", desc := "(I)Z" } : Jvm.MethodName)) ∈ lw_all := lw_g (lw_at lw_m6 38 rfl) rfl
theorem q1389 : (Jvm.Cond.code ({ cls := "SchemeLister", name := "areAround", desc := "(I)Z" } : Jvm.MethodName) prog_1_method_23_code (6 : Nat) (Option.some Jvm.ClassFile.FieldType.boolean)) ∈ lw_all := lw_g (lw_at lw_m6 39 rfl) rfl
theorem q1390 : (Jvm.Cond.methodLink "SchemeLister" (350 : Nat) ({ cls := "SchemeLister", name := "apart", desc := "()I" } : Jvm.MethodName)) ∈ lw_all := lw_g (lw_at lw_m6 40 rfl) rfl
theorem q1391 : (Jvm.Cond.privateMethod ({ cls := "SchemeLister", name := "apart", desc := "()I" } : Jvm.MethodName)) ∈ lw_tbl := lw_at lw_m6 41 rfl
theorem q1392 : (Jvm.Cond.instanceMethod ({ cls := "SchemeLister", name := "apart", desc := "()I" } : Jvm.MethodName)) ∈ lw_all := lw_g (lw_at lw_m6 42 rfl) rfl
theorem q1393 : (Jvm.Cond.code ({ cls := "SchemeLister", name := "apart", desc := "()I" } : Jvm.MethodName) prog_1_method_25_code (4 : Nat) (Option.some Jvm.ClassFile.FieldType.int)) ∈ lw_all := lw_g (lw_at lw_m6 43 rfl) rfl
theorem q1394 : (Jvm.Cond.methodLink "SchemeLister" (235 : Nat) ({ cls := "SchemeLister", name := "doMeet", desc := "(II)Z" } : Jvm.MethodName)) ∈ lw_all := lw_g (lw_at lw_m6 44 rfl) rfl
theorem q1395 : (Jvm.Cond.privateMethod ({ cls := "SchemeLister", name := "doMeet", desc := "(II)Z" } : Jvm.MethodName)) ∈ lw_tbl := lw_at lw_m6 45 rfl
theorem q1396 : (Jvm.Cond.instanceMethod ({ cls := "SchemeLister", name := "doMeet", desc := "(II)Z" } : Jvm.MethodName)) ∈ lw_all := lw_g (lw_at lw_m6 46 rfl) rfl
theorem q1397 : (Jvm.Cond.code ({ cls := "SchemeLister", name := "doMeet", desc := "(II)Z" } : Jvm.MethodName) prog_1_method_22_code (3 : Nat) (Option.some Jvm.ClassFile.FieldType.boolean)) ∈ lw_all := lw_g (lw_at lw_m6 47 rfl) rfl
theorem q1402 : (Jvm.Cond.instanceMethod ({ cls := "SchemeLister", name := "line", desc := "(I)I" } : Jvm.MethodName)) ∈ lw_all := lw_g (lw_at lw_m6 52 rfl) rfl
theorem q1403 : (Jvm.Cond.selects "SchemeLister" ({ cls := "SchemeLister", name := "line", desc := "(I)I" } : Jvm.MethodName) ({ cls := "SchemeLister", name := "line", desc := "(I)I" } : Jvm.MethodName)) ∈ lw_all := lw_g (lw_at lw_m6 53 rfl) rfl
theorem q1404 : (Jvm.Cond.code ({ cls := "SchemeLister", name := "line", desc := "(I)I" } : Jvm.MethodName) prog_1_method_45_code (2 : Nat) (Option.some Jvm.ClassFile.FieldType.int)) ∈ lw_all := lw_g (lw_at lw_m6 54 rfl) rfl
theorem q1409 : (Jvm.Cond.instanceMethod ({ cls := "SchemeLister", name := "point", desc := "(II)I" } : Jvm.MethodName)) ∈ lw_all := lw_g (lw_at lw_m6 59 rfl) rfl
theorem q1410 : (Jvm.Cond.selects "SchemeLister" ({ cls := "SchemeLister", name := "point", desc := "(II)I" } : Jvm.MethodName) ({ cls := "SchemeLister", name := "point", desc := "(II)I" } : Jvm.MethodName)) ∈ lw_all := lw_g (lw_at lw_m6 60 rfl) rfl
theorem q1411 : (Jvm.Cond.code ({ cls := "SchemeLister", name := "point", desc := "(II)I" } : Jvm.MethodName) prog_1_method_46_code (3 : Nat) (Option.some Jvm.ClassFile.FieldType.int)) ∈ lw_all := lw_g (lw_at lw_m6 61 rfl) rfl
theorem q1416 : (Jvm.Cond.instanceMethod ({ cls := "SchemeLister", name := "joined", desc := "(II)I" } : Jvm.MethodName)) ∈ lw_all := lw_g (lw_at lw_m6 66 rfl) rfl
theorem q1417 : (Jvm.Cond.selects "SchemeLister" ({ cls := "SchemeLister", name := "joined", desc := "(II)I" } : Jvm.MethodName) ({ cls := "SchemeLister", name := "joined", desc := "(II)I" } : Jvm.MethodName)) ∈ lw_all := lw_g (lw_at lw_m6 67 rfl) rfl
theorem q1418 : (Jvm.Cond.code ({ cls := "SchemeLister", name := "joined", desc := "(II)I" } : Jvm.MethodName) prog_1_method_47_code (3 : Nat) (Option.some Jvm.ClassFile.FieldType.int)) ∈ lw_all := lw_g (lw_at lw_m6 68 rfl) rfl
theorem q1423 : (Jvm.Cond.instanceMethod ({ cls := "SchemeLister", name := "meet", desc := "(II)I" } : Jvm.MethodName)) ∈ lw_all := lw_g (lw_at lw_m6 73 rfl) rfl
theorem q1424 : (Jvm.Cond.selects "SchemeLister" ({ cls := "SchemeLister", name := "meet", desc := "(II)I" } : Jvm.MethodName) ({ cls := "SchemeLister", name := "meet", desc := "(II)I" } : Jvm.MethodName)) ∈ lw_all := lw_g (lw_at lw_m6 74 rfl) rfl
theorem q1425 : (Jvm.Cond.code ({ cls := "SchemeLister", name := "meet", desc := "(II)I" } : Jvm.MethodName) prog_1_method_48_code (3 : Nat) (Option.some Jvm.ClassFile.FieldType.int)) ∈ lw_all := lw_g (lw_at lw_m6 75 rfl) rfl
theorem q1430 : (Jvm.Cond.instanceMethod ({ cls := "SchemeLister", name := "symmetry", desc := "(II)I" } : Jvm.MethodName)) ∈ lw_all := lw_g (lw_at lw_m6 80 rfl) rfl
theorem q1431 : (Jvm.Cond.selects "SchemeLister" ({ cls := "SchemeLister", name := "symmetry", desc := "(II)I" } : Jvm.MethodName) ({ cls := "SchemeLister", name := "symmetry", desc := "(II)I" } : Jvm.MethodName)) ∈ lw_all := lw_g (lw_at lw_m6 81 rfl) rfl
theorem q1432 : (Jvm.Cond.code ({ cls := "SchemeLister", name := "symmetry", desc := "(II)I" } : Jvm.MethodName) prog_1_method_49_code (4 : Nat) (Option.some Jvm.ClassFile.FieldType.int)) ∈ lw_all := lw_g (lw_at lw_m6 82 rfl) rfl
theorem q1437 : (Jvm.Cond.instanceMethod ({ cls := "SchemeLister", name := "normal", desc := "(I)I" } : Jvm.MethodName)) ∈ lw_all := lw_g (lw_at lw_m6 87 rfl) rfl
theorem q1438 : (Jvm.Cond.selects "SchemeLister" ({ cls := "SchemeLister", name := "normal", desc := "(I)I" } : Jvm.MethodName) ({ cls := "SchemeLister", name := "normal", desc := "(I)I" } : Jvm.MethodName)) ∈ lw_all := lw_g (lw_at lw_m6 88 rfl) rfl
theorem q1439 : (Jvm.Cond.code ({ cls := "SchemeLister", name := "normal", desc := "(I)I" } : Jvm.MethodName) prog_1_method_50_code (2 : Nat) (Option.some Jvm.ClassFile.FieldType.int)) ∈ lw_all := lw_g (lw_at lw_m6 89 rfl) rfl
theorem q1440 : (Jvm.Cond.methodLink "SchemeLister" (359 : Nat) ({ cls := "SchemeLister", name := "normalOf", desc := "(LSchemeLister$Scheme;)[I" } : Jvm.MethodName)) ∈ lw_all := lw_g (lw_at lw_m6 90 rfl) rfl
theorem q1441 : (Jvm.Cond.static ({ cls := "SchemeLister", name := "normalOf", desc := "(LSchemeLister$Scheme;)[I" } : Jvm.MethodName)) ∈ lw_all := lw_g (lw_at lw_m6 91 rfl) rfl
theorem q1442 : (Jvm.Cond.code ({ cls := "SchemeLister", name := "normalOf", desc := "(LSchemeLister$Scheme;)[I" } : Jvm.MethodName) prog_1_method_4_code (2 : Nat) (Option.some (Jvm.ClassFile.FieldType.array Jvm.ClassFile.FieldType.int))) ∈ lw_all := lw_g (lw_at lw_m6 92 rfl) rfl
theorem q1443 : (Jvm.Cond.classLink "SchemeLister" (35 : Nat) "SchemeLister$Rows") ∈ lw_all := lw_g (lw_at lw_m6 93 rfl) rfl
theorem q1445 : (Jvm.Cond.methodLink "SchemeLister" (41 : Nat) ({ cls := "SchemeLister$Rows", name := "<init>", desc := "(I[II)V" } : Jvm.MethodName)) ∈ lw_all := lw_g (lw_at lw_m6 95 rfl) rfl
theorem q1460 : (Jvm.Cond.fieldLinkNest "SchemeLister" (47 : Nat) "SchemeLister$Rows" "least" "[I" "SchemeLister") ∈ lw_tbl := lw_at lw_m6 110 rfl
theorem q1462 : (Jvm.Cond.fieldLinkNest "SchemeLister" (50 : Nat) "SchemeLister$Rows" "isLess" "Z" "SchemeLister") ∈ lw_tbl := lw_at lw_m6 112 rfl
theorem q1478 : (Jvm.Cond.methodLink "SchemeLister" (44 : Nat) ({ cls := "SchemeLister$Rows", name := "goes", desc := "(IIZ)V" } : Jvm.MethodName)) ∈ lw_all := lw_g (lw_at lw_m6 128 rfl) rfl
theorem q1491 : (Jvm.Cond.instanceMethod ({ cls := "SchemeLister", name := "dual", desc := "(I)I" } : Jvm.MethodName)) ∈ lw_all := lw_g (lw_at lw_m6 141 rfl) rfl
theorem q1492 : (Jvm.Cond.selects "SchemeLister" ({ cls := "SchemeLister", name := "dual", desc := "(I)I" } : Jvm.MethodName) ({ cls := "SchemeLister", name := "dual", desc := "(I)I" } : Jvm.MethodName)) ∈ lw_all := lw_g (lw_at lw_m6 142 rfl) rfl
theorem q1493 : (Jvm.Cond.codeWith ({ cls := "SchemeLister", name := "dual", desc := "(I)I" } : Jvm.MethodName) prog_1_method_51_code (3 : Nat) (Option.some Jvm.ClassFile.FieldType.int) [((0 : Nat), (17 : Nat), (45 : Nat), (366 : Nat)), ((18 : Nat), (44 : Nat), (45 : Nat), (366 : Nat))]) ∈ lw_all := lw_g (lw_at lw_m6 143 rfl) rfl
theorem q1498 : (Jvm.Cond.instanceMethod ({ cls := "SchemeLister", name := "shelf", desc := "(II)I" } : Jvm.MethodName)) ∈ lw_all := lw_g (lw_at lw_m6 148 rfl) rfl
theorem q1499 : (Jvm.Cond.selects "SchemeLister" ({ cls := "SchemeLister", name := "shelf", desc := "(II)I" } : Jvm.MethodName) ({ cls := "SchemeLister", name := "shelf", desc := "(II)I" } : Jvm.MethodName)) ∈ lw_all := lw_g (lw_at lw_m6 149 rfl) rfl
theorem q1500 : (Jvm.Cond.code ({ cls := "SchemeLister", name := "shelf", desc := "(II)I" } : Jvm.MethodName) prog_1_method_53_code (4 : Nat) (Option.some Jvm.ClassFile.FieldType.int)) ∈ lw_all := lw_g (lw_at lw_m6 150 rfl) rfl
theorem q1501 : (Jvm.Cond.methodLink "SchemeLister" (368 : Nat) ({ cls := "SchemeLister", name := "shelved", desc := "(I)LSchemeLister$Scheme;" } : Jvm.MethodName)) ∈ lw_all := lw_g (lw_at lw_m6 151 rfl) rfl
theorem q1502 : (Jvm.Cond.privateMethod ({ cls := "SchemeLister", name := "shelved", desc := "(I)LSchemeLister$Scheme;" } : Jvm.MethodName)) ∈ lw_tbl := lw_at lw_m6 152 rfl
theorem q1503 : (Jvm.Cond.instanceMethod ({ cls := "SchemeLister", name := "shelved", desc := "(I)LSchemeLister$Scheme;" } : Jvm.MethodName)) ∈ lw_all := lw_g (lw_at lw_m6 153 rfl) rfl
theorem q1504 : (Jvm.Cond.code ({ cls := "SchemeLister", name := "shelved", desc := "(I)LSchemeLister$Scheme;" } : Jvm.MethodName) prog_1_method_52_code (2 : Nat) (Option.some (Jvm.ClassFile.FieldType.object "SchemeLister$Scheme"))) ∈ lw_all := lw_g (lw_at lw_m6 154 rfl) rfl
theorem q1505 : (Jvm.Cond.methodLink "SchemeLister" (372 : Nat) ({ cls := "SchemeLister", name := "lying", desc := "(LSchemeLister$Scheme;LSchemeLister$Scheme;I)LSchemeLister$Tally;" } : Jvm.MethodName)) ∈ lw_all := lw_g (lw_at lw_m6 155 rfl) rfl
theorem q1506 : (Jvm.Cond.static ({ cls := "SchemeLister", name := "lying", desc := "(LSchemeLister$Scheme;LSchemeLister$Scheme;I)LSchemeLister$Tally;" } : Jvm.MethodName)) ∈ lw_all := lw_g (lw_at lw_m6 156 rfl) rfl
theorem q1507 : (Jvm.Cond.code ({ cls := "SchemeLister", name := "lying", desc := "(LSchemeLister$Scheme;LSchemeLister$Scheme;I)LSchemeLister$Tally;" } : Jvm.MethodName) prog_1_method_3_code (4 : Nat) (Option.some (Jvm.ClassFile.FieldType.object "SchemeLister$Tally"))) ∈ lw_all := lw_g (lw_at lw_m6 157 rfl) rfl
theorem q1508 : (Jvm.Cond.static ({ cls := "SchemeLister", name := "lambda$lying$1", desc := "(LSchemeLister$Tally;[I)Z" } : Jvm.MethodName)) ∈ lw_all := lw_g (lw_at lw_m6 158 rfl) rfl
theorem q1509 : (Jvm.Cond.code ({ cls := "SchemeLister", name := "lambda$lying$1", desc := "(LSchemeLister$Tally;[I)Z" } : Jvm.MethodName) prog_1_method_101_code (2 : Nat) (Option.some Jvm.ClassFile.FieldType.boolean)) ∈ lw_all := lw_g (lw_at lw_m6 159 rfl) rfl
theorem q1514 : (Jvm.Cond.instanceMethod ({ cls := "SchemeLister", name := "way", desc := "(II)I" } : Jvm.MethodName)) ∈ lw_all := lw_g (lw_at lw_m6 164 rfl) rfl
theorem q1515 : (Jvm.Cond.selects "SchemeLister" ({ cls := "SchemeLister", name := "way", desc := "(II)I" } : Jvm.MethodName) ({ cls := "SchemeLister", name := "way", desc := "(II)I" } : Jvm.MethodName)) ∈ lw_all := lw_g (lw_at lw_m6 165 rfl) rfl
theorem q1516 : (Jvm.Cond.code ({ cls := "SchemeLister", name := "way", desc := "(II)I" } : Jvm.MethodName) prog_1_method_54_code (5 : Nat) (Option.some Jvm.ClassFile.FieldType.int)) ∈ lw_all := lw_g (lw_at lw_m6 166 rfl) rfl
theorem q1521 : (Jvm.Cond.instanceMethod ({ cls := "SchemeLister", name := "list", desc := "(IIII)I" } : Jvm.MethodName)) ∈ lw_all := lw_g (lw_at lw_m6 171 rfl) rfl
theorem q1522 : (Jvm.Cond.selects "SchemeLister" ({ cls := "SchemeLister", name := "list", desc := "(IIII)I" } : Jvm.MethodName) ({ cls := "SchemeLister", name := "list", desc := "(IIII)I" } : Jvm.MethodName)) ∈ lw_all := lw_g (lw_at lw_m6 172 rfl) rfl
theorem q1523 : (Jvm.Cond.code ({ cls := "SchemeLister", name := "list", desc := "(IIII)I" } : Jvm.MethodName) prog_1_method_8_code (5 : Nat) (Option.some Jvm.ClassFile.FieldType.int)) ∈ lw_all := lw_g (lw_at lw_m6 173 rfl) rfl
theorem q1524 : (Jvm.Cond.methodLink "SchemeLister" (84 : Nat) ({ cls := "SchemeLister", name := "lists", desc := "(II[II)V" } : Jvm.MethodName)) ∈ lw_all := lw_g (lw_at lw_m6 174 rfl) rfl
theorem q1525 : (Jvm.Cond.privateMethod ({ cls := "SchemeLister", name := "lists", desc := "(II[II)V" } : Jvm.MethodName)) ∈ lw_tbl := lw_at lw_m6 175 rfl
theorem q1526 : (Jvm.Cond.instanceMethod ({ cls := "SchemeLister", name := "lists", desc := "(II[II)V" } : Jvm.MethodName)) ∈ lw_all := lw_g (lw_at lw_m6 176 rfl) rfl
theorem q1527 : (Jvm.Cond.code ({ cls := "SchemeLister", name := "lists", desc := "(II[II)V" } : Jvm.MethodName) prog_1_method_6_code (6 : Nat) (Option.none : Option Jvm.ClassFile.FieldType)) ∈ lw_all := lw_g (lw_at lw_m6 177 rfl) rfl
theorem q1528 : (Jvm.Cond.methodLink "SchemeLister" (76 : Nat) ({ cls := "SchemeLister", name := "isFree", desc := "([III)Z" } : Jvm.MethodName)) ∈ lw_all := lw_g (lw_at lw_m6 178 rfl) rfl
theorem q1529 : (Jvm.Cond.static ({ cls := "SchemeLister", name := "isFree", desc := "([III)Z" } : Jvm.MethodName)) ∈ lw_all := lw_g (lw_at lw_m6 179 rfl) rfl
theorem q1530 : (Jvm.Cond.code ({ cls := "SchemeLister", name := "isFree", desc := "([III)Z" } : Jvm.MethodName) prog_1_method_7_code (4 : Nat) (Option.some Jvm.ClassFile.FieldType.boolean)) ∈ lw_all := lw_g (lw_at lw_m6 180 rfl) rfl
theorem q1531 : (Jvm.Cond.methodLink "SchemeLister" (80 : Nat) ({ cls := "SchemeLister", name := "isNormal", desc := "(I[II)Z" } : Jvm.MethodName)) ∈ lw_all := lw_g (lw_at lw_m6 181 rfl) rfl
theorem q1532 : (Jvm.Cond.static ({ cls := "SchemeLister", name := "isNormal", desc := "(I[II)Z" } : Jvm.MethodName)) ∈ lw_all := lw_g (lw_at lw_m6 182 rfl) rfl
theorem q1533 : (Jvm.Cond.code ({ cls := "SchemeLister", name := "isNormal", desc := "(I[II)Z" } : Jvm.MethodName) prog_1_method_5_code (4 : Nat) (Option.some Jvm.ClassFile.FieldType.boolean)) ∈ lw_all := lw_g (lw_at lw_m6 183 rfl) rfl
theorem q1534 : (Jvm.Cond.classLink "SchemeLister" (117 : Nat) "[I") ∈ lw_all := lw_g (lw_at lw_m6 184 rfl) rfl
theorem q1539 : (Jvm.Cond.instanceMethod ({ cls := "SchemeLister", name := "square", desc := "(II)I" } : Jvm.MethodName)) ∈ lw_all := lw_g (lw_at lw_m6 189 rfl) rfl
theorem q1540 : (Jvm.Cond.selects "SchemeLister" ({ cls := "SchemeLister", name := "square", desc := "(II)I" } : Jvm.MethodName) ({ cls := "SchemeLister", name := "square", desc := "(II)I" } : Jvm.MethodName)) ∈ lw_all := lw_g (lw_at lw_m6 190 rfl) rfl
theorem q1541 : (Jvm.Cond.code ({ cls := "SchemeLister", name := "square", desc := "(II)I" } : Jvm.MethodName) prog_1_method_74_code (4 : Nat) (Option.some Jvm.ClassFile.FieldType.int)) ∈ lw_all := lw_g (lw_at lw_m6 191 rfl) rfl
theorem q1542 : (Jvm.Cond.static ({ cls := "SchemeLister", name := "lambda$square$7", desc := "(IIII)Z" } : Jvm.MethodName)) ∈ lw_all := lw_g (lw_at lw_m6 192 rfl) rfl
theorem q1543 : (Jvm.Cond.code ({ cls := "SchemeLister", name := "lambda$square$7", desc := "(IIII)Z" } : Jvm.MethodName) prog_1_method_95_code (4 : Nat) (Option.some Jvm.ClassFile.FieldType.boolean)) ∈ lw_all := lw_g (lw_at lw_m6 193 rfl) rfl
theorem q1544 : (Jvm.Cond.methodLink "SchemeLister" (511 : Nat) ({ cls := "SchemeLister", name := "isOnSquare", desc := "(IIII)Z" } : Jvm.MethodName)) ∈ lw_all := lw_g (lw_at lw_m6 194 rfl) rfl
theorem q1545 : (Jvm.Cond.static ({ cls := "SchemeLister", name := "isOnSquare", desc := "(IIII)Z" } : Jvm.MethodName)) ∈ lw_all := lw_g (lw_at lw_m6 195 rfl) rfl
theorem q1546 : (Jvm.Cond.code ({ cls := "SchemeLister", name := "isOnSquare", desc := "(IIII)Z" } : Jvm.MethodName) prog_1_method_69_code (4 : Nat) (Option.some Jvm.ClassFile.FieldType.boolean)) ∈ lw_all := lw_g (lw_at lw_m6 196 rfl) rfl
theorem q1547 : (Jvm.Cond.methodLink "SchemeLister" (448 : Nat) ({ cls := "SchemeLister", name := "draws", desc := "(IILSchemeLister$Line;ZI)I" } : Jvm.MethodName)) ∈ lw_all := lw_g (lw_at lw_m6 197 rfl) rfl
theorem q1548 : (Jvm.Cond.privateMethod ({ cls := "SchemeLister", name := "draws", desc := "(IILSchemeLister$Line;ZI)I" } : Jvm.MethodName)) ∈ lw_tbl := lw_at lw_m6 198 rfl
theorem q1549 : (Jvm.Cond.instanceMethod ({ cls := "SchemeLister", name := "draws", desc := "(IILSchemeLister$Line;ZI)I" } : Jvm.MethodName)) ∈ lw_all := lw_g (lw_at lw_m6 199 rfl) rfl
theorem q1550 : (Jvm.Cond.code ({ cls := "SchemeLister", name := "draws", desc := "(IILSchemeLister$Line;ZI)I" } : Jvm.MethodName) prog_1_method_73_code (8 : Nat) (Option.some Jvm.ClassFile.FieldType.int)) ∈ lw_all := lw_g (lw_at lw_m6 200 rfl) rfl
theorem q1551 : (Jvm.Cond.methodLink "SchemeLister" (444 : Nat) ({ cls := "SchemeLister", name := "isDrawn", desc := "(ILSchemeLister$Line;)Z" } : Jvm.MethodName)) ∈ lw_all := lw_g (lw_at lw_m6 201 rfl) rfl
theorem q1552 : (Jvm.Cond.privateMethod ({ cls := "SchemeLister", name := "isDrawn", desc := "(ILSchemeLister$Line;)Z" } : Jvm.MethodName)) ∈ lw_tbl := lw_at lw_m6 202 rfl
theorem q1553 : (Jvm.Cond.instanceMethod ({ cls := "SchemeLister", name := "isDrawn", desc := "(ILSchemeLister$Line;)Z" } : Jvm.MethodName)) ∈ lw_all := lw_g (lw_at lw_m6 203 rfl) rfl
theorem q1554 : (Jvm.Cond.code ({ cls := "SchemeLister", name := "isDrawn", desc := "(ILSchemeLister$Line;)Z" } : Jvm.MethodName) prog_1_method_72_code (5 : Nat) (Option.some Jvm.ClassFile.FieldType.boolean)) ∈ lw_all := lw_g (lw_at lw_m6 204 rfl) rfl
theorem q1555 : (Jvm.Cond.interfaceEntry "SchemeLister" (439 : Nat)) ∈ lw_tbl := lw_at lw_m6 205 rfl
theorem q1556 : (Jvm.Cond.methodLink "SchemeLister" (439 : Nat) ({ cls := "SchemeLister$Line", name := "is", desc := "(III)Z" } : Jvm.MethodName)) ∈ lw_all := lw_g (lw_at lw_m6 206 rfl) rfl
theorem q1563 : (Jvm.Cond.instanceMethod ({ cls := "SchemeLister", name := "plane", desc := "(II)I" } : Jvm.MethodName)) ∈ lw_all := lw_g (lw_at lw_m6 213 rfl) rfl
theorem q1564 : (Jvm.Cond.selects "SchemeLister" ({ cls := "SchemeLister", name := "plane", desc := "(II)I" } : Jvm.MethodName) ({ cls := "SchemeLister", name := "plane", desc := "(II)I" } : Jvm.MethodName)) ∈ lw_all := lw_g (lw_at lw_m6 214 rfl) rfl
theorem q1565 : (Jvm.Cond.code ({ cls := "SchemeLister", name := "plane", desc := "(II)I" } : Jvm.MethodName) prog_1_method_75_code (5 : Nat) (Option.some Jvm.ClassFile.FieldType.int)) ∈ lw_all := lw_g (lw_at lw_m6 215 rfl) rfl
theorem q1566 : (Jvm.Cond.methodLink "SchemeLister" (455 : Nat) ({ cls := "SchemeLister", name := "laysPlane", desc := "(I)I" } : Jvm.MethodName)) ∈ lw_all := lw_g (lw_at lw_m6 216 rfl) rfl
theorem q1567 : (Jvm.Cond.privateMethod ({ cls := "SchemeLister", name := "laysPlane", desc := "(I)I" } : Jvm.MethodName)) ∈ lw_tbl := lw_at lw_m6 217 rfl
theorem q1568 : (Jvm.Cond.instanceMethod ({ cls := "SchemeLister", name := "laysPlane", desc := "(I)I" } : Jvm.MethodName)) ∈ lw_all := lw_g (lw_at lw_m6 218 rfl) rfl
theorem q1569 : (Jvm.Cond.code ({ cls := "SchemeLister", name := "laysPlane", desc := "(I)I" } : Jvm.MethodName) prog_1_method_70_code (7 : Nat) (Option.some Jvm.ClassFile.FieldType.int)) ∈ lw_all := lw_g (lw_at lw_m6 219 rfl) rfl
theorem q1570 : (Jvm.Cond.privateMethod ({ cls := "SchemeLister", name := "lambda$plane$8", desc := "(IIII)Z" } : Jvm.MethodName)) ∈ lw_tbl := lw_at lw_m6 220 rfl
theorem q1571 : (Jvm.Cond.instanceMethod ({ cls := "SchemeLister", name := "lambda$plane$8", desc := "(IIII)Z" } : Jvm.MethodName)) ∈ lw_all := lw_g (lw_at lw_m6 221 rfl) rfl
theorem q1572 : (Jvm.Cond.code ({ cls := "SchemeLister", name := "lambda$plane$8", desc := "(IIII)Z" } : Jvm.MethodName) prog_1_method_94_code (5 : Nat) (Option.some Jvm.ClassFile.FieldType.boolean)) ∈ lw_all := lw_g (lw_at lw_m6 222 rfl) rfl
theorem q1573 : (Jvm.Cond.methodLink "SchemeLister" (507 : Nat) ({ cls := "SchemeLister", name := "isOnPlane", desc := "(IIII)Z" } : Jvm.MethodName)) ∈ lw_all := lw_g (lw_at lw_m6 223 rfl) rfl
theorem q1574 : (Jvm.Cond.privateMethod ({ cls := "SchemeLister", name := "isOnPlane", desc := "(IIII)Z" } : Jvm.MethodName)) ∈ lw_tbl := lw_at lw_m6 224 rfl
theorem q1575 : (Jvm.Cond.instanceMethod ({ cls := "SchemeLister", name := "isOnPlane", desc := "(IIII)Z" } : Jvm.MethodName)) ∈ lw_all := lw_g (lw_at lw_m6 225 rfl) rfl
theorem q1576 : (Jvm.Cond.code ({ cls := "SchemeLister", name := "isOnPlane", desc := "(IIII)Z" } : Jvm.MethodName) prog_1_method_71_code (6 : Nat) (Option.some Jvm.ClassFile.FieldType.boolean)) ∈ lw_all := lw_g (lw_at lw_m6 226 rfl) rfl
theorem q1581 : (Jvm.Cond.instanceMethod ({ cls := "SchemeLister", name := "set", desc := "(I)I" } : Jvm.MethodName)) ∈ lw_all := lw_g (lw_at lw_m6 231 rfl) rfl
theorem q1582 : (Jvm.Cond.selects "SchemeLister" ({ cls := "SchemeLister", name := "set", desc := "(I)I" } : Jvm.MethodName) ({ cls := "SchemeLister", name := "set", desc := "(I)I" } : Jvm.MethodName)) ∈ lw_all := lw_g (lw_at lw_m6 232 rfl) rfl
theorem q1583 : (Jvm.Cond.code ({ cls := "SchemeLister", name := "set", desc := "(I)I" } : Jvm.MethodName) prog_1_method_83_code (2 : Nat) (Option.some Jvm.ClassFile.FieldType.int)) ∈ lw_all := lw_g (lw_at lw_m6 233 rfl) rfl
theorem q1584 : (Jvm.Cond.methodLink "SchemeLister" (470 : Nat) ({ cls := "SchemeLister", name := "cover", desc := "()I" } : Jvm.MethodName)) ∈ lw_all := lw_g (lw_at lw_m6 234 rfl) rfl
theorem q1585 : (Jvm.Cond.privateMethod ({ cls := "SchemeLister", name := "cover", desc := "()I" } : Jvm.MethodName)) ∈ lw_tbl := lw_at lw_m6 235 rfl
theorem q1586 : (Jvm.Cond.instanceMethod ({ cls := "SchemeLister", name := "cover", desc := "()I" } : Jvm.MethodName)) ∈ lw_all := lw_g (lw_at lw_m6 236 rfl) rfl
theorem q1587 : (Jvm.Cond.code ({ cls := "SchemeLister", name := "cover", desc := "()I" } : Jvm.MethodName) prog_1_method_78_code (3 : Nat) (Option.some Jvm.ClassFile.FieldType.int)) ∈ lw_all := lw_g (lw_at lw_m6 237 rfl) rfl
theorem q1588 : (Jvm.Cond.methodLink "SchemeLister" (461 : Nat) ({ cls := "SchemeLister", name := "meetsAll", desc := "(I)Z" } : Jvm.MethodName)) ∈ lw_all := lw_g (lw_at lw_m6 238 rfl) rfl
theorem q1589 : (Jvm.Cond.privateMethod ({ cls := "SchemeLister", name := "meetsAll", desc := "(I)Z" } : Jvm.MethodName)) ∈ lw_tbl := lw_at lw_m6 239 rfl
theorem q1590 : (Jvm.Cond.instanceMethod ({ cls := "SchemeLister", name := "meetsAll", desc := "(I)Z" } : Jvm.MethodName)) ∈ lw_all := lw_g (lw_at lw_m7 0 rfl) rfl
theorem q1591 : (Jvm.Cond.code ({ cls := "SchemeLister", name := "meetsAll", desc := "(I)Z" } : Jvm.MethodName) prog_1_method_76_code (3 : Nat) (Option.some Jvm.ClassFile.FieldType.boolean)) ∈ lw_all := lw_g (lw_at lw_m7 1 rfl) rfl
theorem q1592 : (Jvm.Cond.methodLink "SchemeLister" (473 : Nat) ({ cls := "SchemeLister", name := "cap", desc := "()I" } : Jvm.MethodName)) ∈ lw_all := lw_g (lw_at lw_m7 2 rfl) rfl
theorem q1593 : (Jvm.Cond.privateMethod ({ cls := "SchemeLister", name := "cap", desc := "()I" } : Jvm.MethodName)) ∈ lw_tbl := lw_at lw_m7 3 rfl
theorem q1594 : (Jvm.Cond.instanceMethod ({ cls := "SchemeLister", name := "cap", desc := "()I" } : Jvm.MethodName)) ∈ lw_all := lw_g (lw_at lw_m7 4 rfl) rfl
theorem q1595 : (Jvm.Cond.code ({ cls := "SchemeLister", name := "cap", desc := "()I" } : Jvm.MethodName) prog_1_method_79_code (3 : Nat) (Option.some Jvm.ClassFile.FieldType.int)) ∈ lw_all := lw_g (lw_at lw_m7 5 rfl) rfl
theorem q1596 : (Jvm.Cond.methodLink "SchemeLister" (464 : Nat) ({ cls := "SchemeLister", name := "hasNone", desc := "(I)Z" } : Jvm.MethodName)) ∈ lw_all := lw_g (lw_at lw_m7 6 rfl) rfl
theorem q1597 : (Jvm.Cond.privateMethod ({ cls := "SchemeLister", name := "hasNone", desc := "(I)Z" } : Jvm.MethodName)) ∈ lw_tbl := lw_at lw_m7 7 rfl
theorem q1598 : (Jvm.Cond.instanceMethod ({ cls := "SchemeLister", name := "hasNone", desc := "(I)Z" } : Jvm.MethodName)) ∈ lw_all := lw_g (lw_at lw_m7 8 rfl) rfl
theorem q1599 : (Jvm.Cond.code ({ cls := "SchemeLister", name := "hasNone", desc := "(I)Z" } : Jvm.MethodName) prog_1_method_77_code (3 : Nat) (Option.some Jvm.ClassFile.FieldType.boolean)) ∈ lw_all := lw_g (lw_at lw_m7 9 rfl) rfl
theorem q1600 : (Jvm.Cond.methodLink "SchemeLister" (476 : Nat) ({ cls := "SchemeLister", name := "halves", desc := "(Z)I" } : Jvm.MethodName)) ∈ lw_all := lw_g (lw_at lw_m7 10 rfl) rfl
theorem q1601 : (Jvm.Cond.privateMethod ({ cls := "SchemeLister", name := "halves", desc := "(Z)I" } : Jvm.MethodName)) ∈ lw_tbl := lw_at lw_m7 11 rfl
theorem q1602 : (Jvm.Cond.instanceMethod ({ cls := "SchemeLister", name := "halves", desc := "(Z)I" } : Jvm.MethodName)) ∈ lw_all := lw_g (lw_at lw_m7 12 rfl) rfl
theorem q1603 : (Jvm.Cond.code ({ cls := "SchemeLister", name := "halves", desc := "(Z)I" } : Jvm.MethodName) prog_1_method_80_code (5 : Nat) (Option.some Jvm.ClassFile.FieldType.int)) ∈ lw_all := lw_g (lw_at lw_m7 13 rfl) rfl
theorem q1604 : (Jvm.Cond.methodLink "SchemeLister" (480 : Nat) ({ cls := "SchemeLister", name := "spreads", desc := "(Z)I" } : Jvm.MethodName)) ∈ lw_all := lw_g (lw_at lw_m7 14 rfl) rfl
theorem q1605 : (Jvm.Cond.privateMethod ({ cls := "SchemeLister", name := "spreads", desc := "(Z)I" } : Jvm.MethodName)) ∈ lw_tbl := lw_at lw_m7 15 rfl
theorem q1606 : (Jvm.Cond.instanceMethod ({ cls := "SchemeLister", name := "spreads", desc := "(Z)I" } : Jvm.MethodName)) ∈ lw_all := lw_g (lw_at lw_m7 16 rfl) rfl
theorem q1607 : (Jvm.Cond.code ({ cls := "SchemeLister", name := "spreads", desc := "(Z)I" } : Jvm.MethodName) prog_1_method_81_code (4 : Nat) (Option.some Jvm.ClassFile.FieldType.int)) ∈ lw_all := lw_g (lw_at lw_m7 17 rfl) rfl
theorem q1608 : (Jvm.Cond.methodLink "SchemeLister" (467 : Nat) ({ cls := "SchemeLister", name := "parts", desc := "(I)Z" } : Jvm.MethodName)) ∈ lw_all := lw_g (lw_at lw_m7 18 rfl) rfl
theorem q1609 : (Jvm.Cond.privateMethod ({ cls := "SchemeLister", name := "parts", desc := "(I)Z" } : Jvm.MethodName)) ∈ lw_tbl := lw_at lw_m7 19 rfl
theorem q1610 : (Jvm.Cond.instanceMethod ({ cls := "SchemeLister", name := "parts", desc := "(I)Z" } : Jvm.MethodName)) ∈ lw_all := lw_g (lw_at lw_m7 20 rfl) rfl
theorem q1611 : (Jvm.Cond.code ({ cls := "SchemeLister", name := "parts", desc := "(I)Z" } : Jvm.MethodName) prog_1_method_82_code (4 : Nat) (Option.some Jvm.ClassFile.FieldType.boolean)) ∈ lw_all := lw_g (lw_at lw_m7 21 rfl) rfl
theorem q1616 : (Jvm.Cond.instanceMethod ({ cls := "SchemeLister", name := "far", desc := "(II)I" } : Jvm.MethodName)) ∈ lw_all := lw_g (lw_at lw_m7 26 rfl) rfl
theorem q1617 : (Jvm.Cond.selects "SchemeLister" ({ cls := "SchemeLister", name := "far", desc := "(II)I" } : Jvm.MethodName) ({ cls := "SchemeLister", name := "far", desc := "(II)I" } : Jvm.MethodName)) ∈ lw_all := lw_g (lw_at lw_m7 27 rfl) rfl
theorem q1618 : (Jvm.Cond.code ({ cls := "SchemeLister", name := "far", desc := "(II)I" } : Jvm.MethodName) prog_1_method_84_code (7 : Nat) (Option.some Jvm.ClassFile.FieldType.int)) ∈ lw_all := lw_g (lw_at lw_m7 28 rfl) rfl
theorem q1623 : (Jvm.Cond.instanceMethod ({ cls := "SchemeLister", name := "game", desc := "(I)I" } : Jvm.MethodName)) ∈ lw_all := lw_g (lw_at lw_m7 33 rfl) rfl
theorem q1624 : (Jvm.Cond.selects "SchemeLister" ({ cls := "SchemeLister", name := "game", desc := "(I)I" } : Jvm.MethodName) ({ cls := "SchemeLister", name := "game", desc := "(I)I" } : Jvm.MethodName)) ∈ lw_all := lw_g (lw_at lw_m7 34 rfl) rfl
theorem q1625 : (Jvm.Cond.code ({ cls := "SchemeLister", name := "game", desc := "(I)I" } : Jvm.MethodName) prog_1_method_87_code (4 : Nat) (Option.some Jvm.ClassFile.FieldType.int)) ∈ lw_all := lw_g (lw_at lw_m7 35 rfl) rfl
theorem q1626 : (Jvm.Cond.methodLink "SchemeLister" (489 : Nat) ({ cls := "SchemeLister", name := "plays", desc := "(II)I" } : Jvm.MethodName)) ∈ lw_all := lw_g (lw_at lw_m7 36 rfl) rfl
theorem q1627 : (Jvm.Cond.privateMethod ({ cls := "SchemeLister", name := "plays", desc := "(II)I" } : Jvm.MethodName)) ∈ lw_tbl := lw_at lw_m7 37 rfl
theorem q1628 : (Jvm.Cond.instanceMethod ({ cls := "SchemeLister", name := "plays", desc := "(II)I" } : Jvm.MethodName)) ∈ lw_all := lw_g (lw_at lw_m7 38 rfl) rfl
theorem q1629 : (Jvm.Cond.code ({ cls := "SchemeLister", name := "plays", desc := "(II)I" } : Jvm.MethodName) prog_1_method_85_code (6 : Nat) (Option.some Jvm.ClassFile.FieldType.int)) ∈ lw_all := lw_g (lw_at lw_m7 39 rfl) rfl
theorem q1630 : (Jvm.Cond.methodLink "SchemeLister" (483 : Nat) ({ cls := "SchemeLister", name := "comesTo", desc := "(II)I" } : Jvm.MethodName)) ∈ lw_all := lw_g (lw_at lw_m7 40 rfl) rfl
theorem q1631 : (Jvm.Cond.privateMethod ({ cls := "SchemeLister", name := "comesTo", desc := "(II)I" } : Jvm.MethodName)) ∈ lw_tbl := lw_at lw_m7 41 rfl
theorem q1632 : (Jvm.Cond.instanceMethod ({ cls := "SchemeLister", name := "comesTo", desc := "(II)I" } : Jvm.MethodName)) ∈ lw_all := lw_g (lw_at lw_m7 42 rfl) rfl
theorem q1633 : (Jvm.Cond.code ({ cls := "SchemeLister", name := "comesTo", desc := "(II)I" } : Jvm.MethodName) prog_1_method_86_code (3 : Nat) (Option.some Jvm.ClassFile.FieldType.int)) ∈ lw_all := lw_g (lw_at lw_m7 43 rfl) rfl
theorem q1634 : (Jvm.Cond.methodLink "SchemeLister" (486 : Nat) ({ cls := "java/lang/Math", name := "max", desc := "(II)I" } : Jvm.MethodName)) ∈ lw_all := lw_g (lw_at lw_m7 44 rfl) rfl
theorem q1639 : (Jvm.Cond.instanceMethod ({ cls := "SchemeLister", name := "years", desc := "(III)I" } : Jvm.MethodName)) ∈ lw_all := lw_g (lw_at lw_m7 49 rfl) rfl
theorem q1640 : (Jvm.Cond.selects "SchemeLister" ({ cls := "SchemeLister", name := "years", desc := "(III)I" } : Jvm.MethodName) ({ cls := "SchemeLister", name := "years", desc := "(III)I" } : Jvm.MethodName)) ∈ lw_all := lw_g (lw_at lw_m7 50 rfl) rfl
theorem q1641 : (Jvm.Cond.code ({ cls := "SchemeLister", name := "years", desc := "(III)I" } : Jvm.MethodName) prog_1_method_90_code (6 : Nat) (Option.some Jvm.ClassFile.FieldType.int)) ∈ lw_all := lw_g (lw_at lw_m7 51 rfl) rfl
theorem q1642 : (Jvm.Cond.methodLink "SchemeLister" (499 : Nat) ({ cls := "SchemeLister", name := "happens", desc := "(LSchemeLister$Scheme;)Z" } : Jvm.MethodName)) ∈ lw_all := lw_g (lw_at lw_m7 52 rfl) rfl
theorem q1643 : (Jvm.Cond.privateMethod ({ cls := "SchemeLister", name := "happens", desc := "(LSchemeLister$Scheme;)Z" } : Jvm.MethodName)) ∈ lw_tbl := lw_at lw_m7 53 rfl
theorem q1644 : (Jvm.Cond.instanceMethod ({ cls := "SchemeLister", name := "happens", desc := "(LSchemeLister$Scheme;)Z" } : Jvm.MethodName)) ∈ lw_all := lw_g (lw_at lw_m7 54 rfl) rfl
theorem q1645 : (Jvm.Cond.code ({ cls := "SchemeLister", name := "happens", desc := "(LSchemeLister$Scheme;)Z" } : Jvm.MethodName) prog_1_method_89_code (3 : Nat) (Option.some Jvm.ClassFile.FieldType.boolean)) ∈ lw_all := lw_g (lw_at lw_m7 55 rfl) rfl
theorem q1646 : (Jvm.Cond.methodLink "SchemeLister" (496 : Nat) ({ cls := "SchemeLister", name := "draw", desc := "(I)I" } : Jvm.MethodName)) ∈ lw_all := lw_g (lw_at lw_m7 56 rfl) rfl
theorem q1647 : (Jvm.Cond.privateMethod ({ cls := "SchemeLister", name := "draw", desc := "(I)I" } : Jvm.MethodName)) ∈ lw_tbl := lw_at lw_m7 57 rfl
theorem q1648 : (Jvm.Cond.instanceMethod ({ cls := "SchemeLister", name := "draw", desc := "(I)I" } : Jvm.MethodName)) ∈ lw_all := lw_g (lw_at lw_m7 58 rfl) rfl
theorem q1649 : (Jvm.Cond.code ({ cls := "SchemeLister", name := "draw", desc := "(I)I" } : Jvm.MethodName) prog_1_method_88_code (2 : Nat) (Option.some Jvm.ClassFile.FieldType.int)) ∈ lw_all := lw_g (lw_at lw_m7 59 rfl) rfl
theorem q1650 : (Jvm.Cond.constant "SchemeLister" (495 : Nat) (1103515245 : Int32)) ∈ lw_all := lw_g (lw_at lw_m7 60 rfl) rfl
theorem q2320 : (Jvm.Cond.castable "SchemeLister" "java/lang/Object") ∈ lw_tbl := lw_at lw_m10 10 rfl
theorem in_X1 : ∀ w ∈ wsX10, w ∈ lw_all := lw_in wsX10 [605, 607, 609, 611, 613, 615, 617, 619, 621, 623, 625, 627, 629, 631, 633, 635, 637, 639, 641, 643, 645, 647, 649, 651, 653, 655, 657, 659] (by decide +kernel) (by decide +kernel)
