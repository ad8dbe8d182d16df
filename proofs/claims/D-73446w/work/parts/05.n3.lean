/-! SchemeListerModel -/
set_option maxRecDepth 100000
def RX3 : String := "SchemeListerModel"
def TX3 : u_T := fun k => match k with
  | 0 => ("SchemeListerModel", "code", "I", false)
  | 1 => ("SchemeListerModel", "now", "[I", true)
  | 2 => ("SchemeListerModel", "read", "[I", true)
  | 3 => ("SchemeListerModel", "status", "[I", true)
  | 4 => ("SchemeListerModel", "tape", "[I", true)
  | 5 => ("SchemeListerModel", "taped", "I", false)
  | 6 => ("SchemeListerModel", "at", "I", false)
  | 7 => ("SchemeListerModel", "textSize", "I", false)
  | 8 => ("SchemeListerModel", "token", "I", false)
  | 9 => ("SchemeListerModel", "number", "I", false)
  | 10 => ("SchemeListerModel", "begins", "I", false)
  | 11 => ("SchemeListerModel", "stops", "I", false)
  | 12 => ("SchemeListerModel", "bad", "I", false)
  | 13 => ("SchemeListerModel", "badPlace", "I", false)
  | 14 => ("SchemeListerModel", "faultPlace", "I", false)
  | 15 => ("SchemeListerModel", "clauses", "I", false)
  | 16 => ("SchemeListerModel", "naming", "[I", true)
  | 17 => ("SchemeListerModel", "lineBy", "[I", true)
  | 18 => ("SchemeListerModel", "becomes", "[I", true)
  | 19 => ("SchemeListerModel", "dualLines", "[I", true)
  | 20 => ("SchemeListerModel", "on", "[I", true)
  | 21 => ("SchemeListerModel", "rowNow", "[I", true)
  | 22 => ("SchemeListerModel", "least", "[I", true)
  | 23 => ("SchemeListerModel", "wayFirst", "[I", true)
  | 24 => ("SchemeListerModel", "ways", "I", false)
  | 25 => ("SchemeListerModel", "acts", "I", false)
  | 26 => ("SchemeListerModel", "past", "[I", true)
  | 27 => ("SchemeListerModel", "listPoints", "I", false)
  | 28 => ("SchemeListerModel", "listLines", "I", false)
  | 29 => ("SchemeListerModel", "listed", "I", false)
  | 30 => ("SchemeListerModel", "list", "[I", true)
  | 31 => ("SchemeListerModel", "path", "[I", true)
  | 32 => ("SchemeListerModel", "places", "[I", true)
  | 33 => ("SchemeListerModel", "firstPlaces", "[I", true)
  | 34 => ("SchemeListerModel", "px", "[I", true)
  | 35 => ("SchemeListerModel", "py", "[I", true)
  | 36 => ("SchemeListerModel", "pz", "[I", true)
  | 37 => ("SchemeListerModel", "placeMany", "I", false)
  | 38 => ("SchemeListerModel", "modulus", "I", false)
  | 39 => ("SchemeListerModel", "drawn", "I", false)
  | 40 => ("SchemeListerModel", "halvesMany", "I", false)
  | 41 => ("SchemeListerModel", "halvesFirst", "I", false)
  | 42 => ("SchemeListerModel", "spreadsMany", "I", false)
  | 43 => ("SchemeListerModel", "spreadsFirst", "I", false)
  | 44 => ("SchemeListerModel", "comesTo", "[I", true)
  | 45 => ("SchemeListerModel", "seedNow", "I", false)
  | 46 => ("SchemeListerModel", "rowThen", "[I", true)
  | 47 => ("SchemeListerModel", "hasImage", "Z", false)
  | 48 => ("SchemeListerModel", "actsThen", "I", false)
  | 49 => ("SchemeListerModel", "imageRow", "[I", true)
  | 50 => ("SchemeListerModel", "pastThen", "[I", true)
  | _ => ("SchemeListerModel", "statusThen", "[I", true)
def tyX3 : Nat → FieldType := fun k => match k with
  | 0 => .int
  | 1 => .array .int
  | 2 => .array .int
  | 3 => .array .int
  | 4 => .array .int
  | 5 => .int
  | 6 => .int
  | 7 => .int
  | 8 => .int
  | 9 => .int
  | 10 => .int
  | 11 => .int
  | 12 => .int
  | 13 => .int
  | 14 => .int
  | 15 => .int
  | 16 => .array .int
  | 17 => .array .int
  | 18 => .array .int
  | 19 => .array .int
  | 20 => .array .int
  | 21 => .array .int
  | 22 => .array .int
  | 23 => .array .int
  | 24 => .int
  | 25 => .int
  | 26 => .array .int
  | 27 => .int
  | 28 => .int
  | 29 => .int
  | 30 => .array .int
  | 31 => .array .int
  | 32 => .array .int
  | 33 => .array .int
  | 34 => .array .int
  | 35 => .array .int
  | 36 => .array .int
  | 37 => .int
  | 38 => .int
  | 39 => .int
  | 40 => .int
  | 41 => .int
  | 42 => .int
  | 43 => .int
  | 44 => .array .int
  | 45 => .int
  | 46 => .array .int
  | 47 => .boolean
  | 48 => .int
  | 49 => .array .int
  | 50 => .array .int
  | _ => .array .int
abbrev wsX30 : List Cond := u_ws RX3 TX3 52
set_option maxRecDepth 100000 in
theorem nmX3 : ∀ a, a < 52 → ∀ b, b < 52 → a ≠ b → (TX3 a).2.1 ≠ (TX3 b).2.1 := by decide +kernel
set_option maxRecDepth 100000 in
theorem tyX3_ok : ∀ k, k < 52 → parseFieldDescriptor (TX3 k).2.2.1 = some (tyX3 k) := by decide +kernel
abbrev cX3_init : ByteArray := prog_15_method_1_code
def yX3_init : MethodName := ⟨RX3, "<init>", "()V"⟩
def dkwX3_init_9 : List UInt8 := [181, 0, 87, 42, 5, 188, 10, 181, 0, 90, 42, 180, 0, 9, 3, 16, 7, 79, 177]
abbrev dktX3_init_9 : List UInt8 := dkwX3_init_9 ++ []
def dkwX3_init_8 : List UInt8 := [17, 0, 154, 188, 10, 181, 0, 81, 42, 17, 0, 154, 188, 10, 181, 0, 84, 42, 17, 24, 16, 188, 10]
abbrev dktX3_init_8 : List UInt8 := dkwX3_init_8 ++ dktX3_init_9
def dkwX3_init_7 : List UInt8 := [188, 10, 181, 0, 71, 42, 16, 16, 188, 10, 181, 0, 74, 42, 18, 77, 188, 10, 181, 0, 78, 42]
abbrev dktX3_init_7 : List UInt8 := dkwX3_init_7 ++ dktX3_init_8
def dkwX3_init_6 : List UInt8 := [188, 10, 181, 0, 62, 42, 16, 8, 188, 10, 181, 0, 65, 42, 16, 16, 188, 10, 181, 0, 68, 42, 16, 16]
abbrev dktX3_init_6 : List UInt8 := dkwX3_init_6 ++ dktX3_init_7
def dkwX3_init_5 : List UInt8 := [181, 0, 53, 42, 17, 54, 176, 188, 10, 181, 0, 56, 42, 16, 7, 188, 10, 181, 0, 59, 42, 16, 8]
abbrev dktX3_init_5 : List UInt8 := dkwX3_init_5 ++ dktX3_init_6
def dkwX3_init_4 : List UInt8 := [188, 10, 181, 0, 44, 42, 16, 8, 188, 10, 181, 0, 47, 42, 17, 24, 16, 188, 10, 181, 0, 50, 42, 2]
abbrev dktX3_init_4 : List UInt8 := dkwX3_init_4 ++ dktX3_init_5
def dkwX3_init_3 : List UInt8 := [188, 10, 181, 0, 35, 42, 16, 8, 188, 10, 181, 0, 38, 42, 16, 12, 188, 10, 181, 0, 41, 42, 16, 12]
abbrev dktX3_init_3 : List UInt8 := dkwX3_init_3 ++ dktX3_init_4
def dkwX3_init_2 : List UInt8 := [181, 0, 26, 42, 17, 1, 0, 188, 10, 181, 0, 29, 42, 16, 8, 188, 10, 181, 0, 32, 42, 16, 8]
abbrev dktX3_init_2 : List UInt8 := dkwX3_init_2 ++ dktX3_init_3
def dkwX3_init_1 : List UInt8 := [188, 10, 181, 0, 16, 42, 17, 1, 144, 188, 10, 181, 0, 19, 42, 2, 181, 0, 22, 42, 16, 8, 188, 10]
abbrev dktX3_init_1 : List UInt8 := dkwX3_init_1 ++ dktX3_init_2
def dkwX3_init_0 : List UInt8 := [42, 183, 0, 1, 42, 17, 0, 154, 188, 10, 181, 0, 9, 42, 16, 30, 188, 10, 181, 0, 13, 42, 5]
abbrev dktX3_init_0 : List UInt8 := dkwX3_init_0 ++ dktX3_init_1
theorem dksX3_init_0 : cX3_init.data.toList.drop 0 = dktX3_init_0 := by decide +kernel
theorem dksX3_init_1 : cX3_init.data.toList.drop 23 = dktX3_init_1 := dk_seg dksX3_init_0 23 rfl rfl
theorem dksX3_init_2 : cX3_init.data.toList.drop 47 = dktX3_init_2 := dk_seg dksX3_init_1 24 rfl rfl
theorem dksX3_init_3 : cX3_init.data.toList.drop 70 = dktX3_init_3 := dk_seg dksX3_init_2 23 rfl rfl
theorem dksX3_init_4 : cX3_init.data.toList.drop 94 = dktX3_init_4 := dk_seg dksX3_init_3 24 rfl rfl
theorem dksX3_init_5 : cX3_init.data.toList.drop 118 = dktX3_init_5 := dk_seg dksX3_init_4 24 rfl rfl
theorem dksX3_init_6 : cX3_init.data.toList.drop 141 = dktX3_init_6 := dk_seg dksX3_init_5 23 rfl rfl
theorem dksX3_init_7 : cX3_init.data.toList.drop 165 = dktX3_init_7 := dk_seg dksX3_init_6 24 rfl rfl
theorem dksX3_init_8 : cX3_init.data.toList.drop 187 = dktX3_init_8 := dk_seg dksX3_init_7 22 rfl rfl
theorem dksX3_init_9 : cX3_init.data.toList.drop 210 = dktX3_init_9 := dk_seg dksX3_init_8 23 rfl rfl
theorem dX3_init_0 : decode cX3_init 0 = .ok (.aload_n 0, 1) := dk_42 (dk_at dksX3_init_0 0 rfl rfl)
theorem dX3_init_1 : decode cX3_init 1 = .ok (.invokespecial 1, 3) := dk_183 0 1 (dk_at dksX3_init_0 1 rfl rfl)
theorem dX3_init_4 : decode cX3_init 4 = .ok (.aload_n 0, 1) := dk_42 (dk_at dksX3_init_0 4 rfl rfl)
theorem dX3_init_5 : decode cX3_init 5 = .ok (.sipush 154, 3) := dk_17 0 154 (dk_at dksX3_init_0 5 rfl rfl)
theorem dX3_init_8 : decode cX3_init 8 = .ok (.newarray .int, 2) := dk_188_10 (dk_at dksX3_init_0 8 rfl rfl)
theorem dX3_init_10 : decode cX3_init 10 = .ok (.putfield 9, 3) := dk_181 0 9 (dk_at dksX3_init_0 10 rfl rfl)
theorem dX3_init_13 : decode cX3_init 13 = .ok (.aload_n 0, 1) := dk_42 (dk_at dksX3_init_0 13 rfl rfl)
theorem dX3_init_14 : decode cX3_init 14 = .ok (.bipush 30, 2) := dk_16 30 (dk_at dksX3_init_0 14 rfl rfl)
theorem dX3_init_16 : decode cX3_init 16 = .ok (.newarray .int, 2) := dk_188_10 (dk_at dksX3_init_0 16 rfl rfl)
theorem dX3_init_18 : decode cX3_init 18 = .ok (.putfield 13, 3) := dk_181 0 13 (dk_at dksX3_init_0 18 rfl rfl)
theorem dX3_init_21 : decode cX3_init 21 = .ok (.aload_n 0, 1) := dk_42 (dk_at dksX3_init_0 21 rfl rfl)
theorem dX3_init_22 : decode cX3_init 22 = .ok (.iconst 2, 1) := dk_5 (dk_at dksX3_init_0 22 rfl rfl)
theorem dX3_init_23 : decode cX3_init 23 = .ok (.newarray .int, 2) := dk_188_10 (dk_at dksX3_init_1 0 rfl rfl)
theorem dX3_init_25 : decode cX3_init 25 = .ok (.putfield 16, 3) := dk_181 0 16 (dk_at dksX3_init_1 2 rfl rfl)
theorem dX3_init_28 : decode cX3_init 28 = .ok (.aload_n 0, 1) := dk_42 (dk_at dksX3_init_1 5 rfl rfl)
theorem dX3_init_29 : decode cX3_init 29 = .ok (.sipush 400, 3) := dk_17 1 144 (dk_at dksX3_init_1 6 rfl rfl)
theorem dX3_init_32 : decode cX3_init 32 = .ok (.newarray .int, 2) := dk_188_10 (dk_at dksX3_init_1 9 rfl rfl)
theorem dX3_init_34 : decode cX3_init 34 = .ok (.putfield 19, 3) := dk_181 0 19 (dk_at dksX3_init_1 11 rfl rfl)
theorem dX3_init_37 : decode cX3_init 37 = .ok (.aload_n 0, 1) := dk_42 (dk_at dksX3_init_1 14 rfl rfl)
theorem dX3_init_38 : decode cX3_init 38 = .ok (.iconst (-1), 1) := dk_2 (dk_at dksX3_init_1 15 rfl rfl)
theorem dX3_init_39 : decode cX3_init 39 = .ok (.putfield 22, 3) := dk_181 0 22 (dk_at dksX3_init_1 16 rfl rfl)
theorem dX3_init_42 : decode cX3_init 42 = .ok (.aload_n 0, 1) := dk_42 (dk_at dksX3_init_1 19 rfl rfl)
theorem dX3_init_43 : decode cX3_init 43 = .ok (.bipush 8, 2) := dk_16 8 (dk_at dksX3_init_1 20 rfl rfl)
theorem dX3_init_45 : decode cX3_init 45 = .ok (.newarray .int, 2) := dk_188_10 (dk_at dksX3_init_1 22 rfl rfl)
theorem dX3_init_47 : decode cX3_init 47 = .ok (.putfield 26, 3) := dk_181 0 26 (dk_at dksX3_init_2 0 rfl rfl)
theorem dX3_init_50 : decode cX3_init 50 = .ok (.aload_n 0, 1) := dk_42 (dk_at dksX3_init_2 3 rfl rfl)
theorem dX3_init_51 : decode cX3_init 51 = .ok (.sipush 256, 3) := dk_17 1 0 (dk_at dksX3_init_2 4 rfl rfl)
theorem dX3_init_54 : decode cX3_init 54 = .ok (.newarray .int, 2) := dk_188_10 (dk_at dksX3_init_2 7 rfl rfl)
theorem dX3_init_56 : decode cX3_init 56 = .ok (.putfield 29, 3) := dk_181 0 29 (dk_at dksX3_init_2 9 rfl rfl)
theorem dX3_init_59 : decode cX3_init 59 = .ok (.aload_n 0, 1) := dk_42 (dk_at dksX3_init_2 12 rfl rfl)
theorem dX3_init_60 : decode cX3_init 60 = .ok (.bipush 8, 2) := dk_16 8 (dk_at dksX3_init_2 13 rfl rfl)
theorem dX3_init_62 : decode cX3_init 62 = .ok (.newarray .int, 2) := dk_188_10 (dk_at dksX3_init_2 15 rfl rfl)
theorem dX3_init_64 : decode cX3_init 64 = .ok (.putfield 32, 3) := dk_181 0 32 (dk_at dksX3_init_2 17 rfl rfl)
theorem dX3_init_67 : decode cX3_init 67 = .ok (.aload_n 0, 1) := dk_42 (dk_at dksX3_init_2 20 rfl rfl)
theorem dX3_init_68 : decode cX3_init 68 = .ok (.bipush 8, 2) := dk_16 8 (dk_at dksX3_init_2 21 rfl rfl)
theorem dX3_init_70 : decode cX3_init 70 = .ok (.newarray .int, 2) := dk_188_10 (dk_at dksX3_init_3 0 rfl rfl)
theorem dX3_init_72 : decode cX3_init 72 = .ok (.putfield 35, 3) := dk_181 0 35 (dk_at dksX3_init_3 2 rfl rfl)
theorem dX3_init_75 : decode cX3_init 75 = .ok (.aload_n 0, 1) := dk_42 (dk_at dksX3_init_3 5 rfl rfl)
theorem dX3_init_76 : decode cX3_init 76 = .ok (.bipush 8, 2) := dk_16 8 (dk_at dksX3_init_3 6 rfl rfl)
theorem dX3_init_78 : decode cX3_init 78 = .ok (.newarray .int, 2) := dk_188_10 (dk_at dksX3_init_3 8 rfl rfl)
theorem dX3_init_80 : decode cX3_init 80 = .ok (.putfield 38, 3) := dk_181 0 38 (dk_at dksX3_init_3 10 rfl rfl)
theorem dX3_init_83 : decode cX3_init 83 = .ok (.aload_n 0, 1) := dk_42 (dk_at dksX3_init_3 13 rfl rfl)
theorem dX3_init_84 : decode cX3_init 84 = .ok (.bipush 12, 2) := dk_16 12 (dk_at dksX3_init_3 14 rfl rfl)
theorem dX3_init_86 : decode cX3_init 86 = .ok (.newarray .int, 2) := dk_188_10 (dk_at dksX3_init_3 16 rfl rfl)
theorem dX3_init_88 : decode cX3_init 88 = .ok (.putfield 41, 3) := dk_181 0 41 (dk_at dksX3_init_3 18 rfl rfl)
theorem dX3_init_91 : decode cX3_init 91 = .ok (.aload_n 0, 1) := dk_42 (dk_at dksX3_init_3 21 rfl rfl)
theorem dX3_init_92 : decode cX3_init 92 = .ok (.bipush 12, 2) := dk_16 12 (dk_at dksX3_init_3 22 rfl rfl)
theorem dX3_init_94 : decode cX3_init 94 = .ok (.newarray .int, 2) := dk_188_10 (dk_at dksX3_init_4 0 rfl rfl)
theorem dX3_init_96 : decode cX3_init 96 = .ok (.putfield 44, 3) := dk_181 0 44 (dk_at dksX3_init_4 2 rfl rfl)
theorem dX3_init_99 : decode cX3_init 99 = .ok (.aload_n 0, 1) := dk_42 (dk_at dksX3_init_4 5 rfl rfl)
theorem dX3_init_100 : decode cX3_init 100 = .ok (.bipush 8, 2) := dk_16 8 (dk_at dksX3_init_4 6 rfl rfl)
theorem dX3_init_102 : decode cX3_init 102 = .ok (.newarray .int, 2) := dk_188_10 (dk_at dksX3_init_4 8 rfl rfl)
theorem dX3_init_104 : decode cX3_init 104 = .ok (.putfield 47, 3) := dk_181 0 47 (dk_at dksX3_init_4 10 rfl rfl)
theorem dX3_init_107 : decode cX3_init 107 = .ok (.aload_n 0, 1) := dk_42 (dk_at dksX3_init_4 13 rfl rfl)
theorem dX3_init_108 : decode cX3_init 108 = .ok (.sipush 6160, 3) := dk_17 24 16 (dk_at dksX3_init_4 14 rfl rfl)
theorem dX3_init_111 : decode cX3_init 111 = .ok (.newarray .int, 2) := dk_188_10 (dk_at dksX3_init_4 17 rfl rfl)
theorem dX3_init_113 : decode cX3_init 113 = .ok (.putfield 50, 3) := dk_181 0 50 (dk_at dksX3_init_4 19 rfl rfl)
theorem dX3_init_116 : decode cX3_init 116 = .ok (.aload_n 0, 1) := dk_42 (dk_at dksX3_init_4 22 rfl rfl)
theorem dX3_init_117 : decode cX3_init 117 = .ok (.iconst (-1), 1) := dk_2 (dk_at dksX3_init_4 23 rfl rfl)
theorem dX3_init_118 : decode cX3_init 118 = .ok (.putfield 53, 3) := dk_181 0 53 (dk_at dksX3_init_5 0 rfl rfl)
theorem dX3_init_121 : decode cX3_init 121 = .ok (.aload_n 0, 1) := dk_42 (dk_at dksX3_init_5 3 rfl rfl)
theorem dX3_init_122 : decode cX3_init 122 = .ok (.sipush 14000, 3) := dk_17 54 176 (dk_at dksX3_init_5 4 rfl rfl)
theorem dX3_init_125 : decode cX3_init 125 = .ok (.newarray .int, 2) := dk_188_10 (dk_at dksX3_init_5 7 rfl rfl)
theorem dX3_init_127 : decode cX3_init 127 = .ok (.putfield 56, 3) := dk_181 0 56 (dk_at dksX3_init_5 9 rfl rfl)
theorem dX3_init_130 : decode cX3_init 130 = .ok (.aload_n 0, 1) := dk_42 (dk_at dksX3_init_5 12 rfl rfl)
theorem dX3_init_131 : decode cX3_init 131 = .ok (.bipush 7, 2) := dk_16 7 (dk_at dksX3_init_5 13 rfl rfl)
theorem dX3_init_133 : decode cX3_init 133 = .ok (.newarray .int, 2) := dk_188_10 (dk_at dksX3_init_5 15 rfl rfl)
theorem dX3_init_135 : decode cX3_init 135 = .ok (.putfield 59, 3) := dk_181 0 59 (dk_at dksX3_init_5 17 rfl rfl)
theorem dX3_init_138 : decode cX3_init 138 = .ok (.aload_n 0, 1) := dk_42 (dk_at dksX3_init_5 20 rfl rfl)
theorem dX3_init_139 : decode cX3_init 139 = .ok (.bipush 8, 2) := dk_16 8 (dk_at dksX3_init_5 21 rfl rfl)
theorem dX3_init_141 : decode cX3_init 141 = .ok (.newarray .int, 2) := dk_188_10 (dk_at dksX3_init_6 0 rfl rfl)
theorem dX3_init_143 : decode cX3_init 143 = .ok (.putfield 62, 3) := dk_181 0 62 (dk_at dksX3_init_6 2 rfl rfl)
theorem dX3_init_146 : decode cX3_init 146 = .ok (.aload_n 0, 1) := dk_42 (dk_at dksX3_init_6 5 rfl rfl)
theorem dX3_init_147 : decode cX3_init 147 = .ok (.bipush 8, 2) := dk_16 8 (dk_at dksX3_init_6 6 rfl rfl)
theorem dX3_init_149 : decode cX3_init 149 = .ok (.newarray .int, 2) := dk_188_10 (dk_at dksX3_init_6 8 rfl rfl)
theorem dX3_init_151 : decode cX3_init 151 = .ok (.putfield 65, 3) := dk_181 0 65 (dk_at dksX3_init_6 10 rfl rfl)
theorem dX3_init_154 : decode cX3_init 154 = .ok (.aload_n 0, 1) := dk_42 (dk_at dksX3_init_6 13 rfl rfl)
theorem dX3_init_155 : decode cX3_init 155 = .ok (.bipush 16, 2) := dk_16 16 (dk_at dksX3_init_6 14 rfl rfl)
theorem dX3_init_157 : decode cX3_init 157 = .ok (.newarray .int, 2) := dk_188_10 (dk_at dksX3_init_6 16 rfl rfl)
theorem dX3_init_159 : decode cX3_init 159 = .ok (.putfield 68, 3) := dk_181 0 68 (dk_at dksX3_init_6 18 rfl rfl)
theorem dX3_init_162 : decode cX3_init 162 = .ok (.aload_n 0, 1) := dk_42 (dk_at dksX3_init_6 21 rfl rfl)
theorem dX3_init_163 : decode cX3_init 163 = .ok (.bipush 16, 2) := dk_16 16 (dk_at dksX3_init_6 22 rfl rfl)
theorem dX3_init_165 : decode cX3_init 165 = .ok (.newarray .int, 2) := dk_188_10 (dk_at dksX3_init_7 0 rfl rfl)
theorem dX3_init_167 : decode cX3_init 167 = .ok (.putfield 71, 3) := dk_181 0 71 (dk_at dksX3_init_7 2 rfl rfl)
theorem dX3_init_170 : decode cX3_init 170 = .ok (.aload_n 0, 1) := dk_42 (dk_at dksX3_init_7 5 rfl rfl)
theorem dX3_init_171 : decode cX3_init 171 = .ok (.bipush 16, 2) := dk_16 16 (dk_at dksX3_init_7 6 rfl rfl)
theorem dX3_init_173 : decode cX3_init 173 = .ok (.newarray .int, 2) := dk_188_10 (dk_at dksX3_init_7 8 rfl rfl)
theorem dX3_init_175 : decode cX3_init 175 = .ok (.putfield 74, 3) := dk_181 0 74 (dk_at dksX3_init_7 10 rfl rfl)
theorem dX3_init_178 : decode cX3_init 178 = .ok (.aload_n 0, 1) := dk_42 (dk_at dksX3_init_7 13 rfl rfl)
theorem dX3_init_179 : decode cX3_init 179 = .ok (.ldc 77, 2) := dk_18 77 (dk_at dksX3_init_7 14 rfl rfl)
theorem dX3_init_181 : decode cX3_init 181 = .ok (.newarray .int, 2) := dk_188_10 (dk_at dksX3_init_7 16 rfl rfl)
theorem dX3_init_183 : decode cX3_init 183 = .ok (.putfield 78, 3) := dk_181 0 78 (dk_at dksX3_init_7 18 rfl rfl)
theorem dX3_init_186 : decode cX3_init 186 = .ok (.aload_n 0, 1) := dk_42 (dk_at dksX3_init_7 21 rfl rfl)
theorem dX3_init_187 : decode cX3_init 187 = .ok (.sipush 154, 3) := dk_17 0 154 (dk_at dksX3_init_8 0 rfl rfl)
theorem dX3_init_190 : decode cX3_init 190 = .ok (.newarray .int, 2) := dk_188_10 (dk_at dksX3_init_8 3 rfl rfl)
theorem dX3_init_192 : decode cX3_init 192 = .ok (.putfield 81, 3) := dk_181 0 81 (dk_at dksX3_init_8 5 rfl rfl)
theorem dX3_init_195 : decode cX3_init 195 = .ok (.aload_n 0, 1) := dk_42 (dk_at dksX3_init_8 8 rfl rfl)
theorem dX3_init_196 : decode cX3_init 196 = .ok (.sipush 154, 3) := dk_17 0 154 (dk_at dksX3_init_8 9 rfl rfl)
theorem dX3_init_199 : decode cX3_init 199 = .ok (.newarray .int, 2) := dk_188_10 (dk_at dksX3_init_8 12 rfl rfl)
theorem dX3_init_201 : decode cX3_init 201 = .ok (.putfield 84, 3) := dk_181 0 84 (dk_at dksX3_init_8 14 rfl rfl)
theorem dX3_init_204 : decode cX3_init 204 = .ok (.aload_n 0, 1) := dk_42 (dk_at dksX3_init_8 17 rfl rfl)
theorem dX3_init_205 : decode cX3_init 205 = .ok (.sipush 6160, 3) := dk_17 24 16 (dk_at dksX3_init_8 18 rfl rfl)
theorem dX3_init_208 : decode cX3_init 208 = .ok (.newarray .int, 2) := dk_188_10 (dk_at dksX3_init_8 21 rfl rfl)
theorem dX3_init_210 : decode cX3_init 210 = .ok (.putfield 87, 3) := dk_181 0 87 (dk_at dksX3_init_9 0 rfl rfl)
theorem dX3_init_213 : decode cX3_init 213 = .ok (.aload_n 0, 1) := dk_42 (dk_at dksX3_init_9 3 rfl rfl)
theorem dX3_init_214 : decode cX3_init 214 = .ok (.iconst 2, 1) := dk_5 (dk_at dksX3_init_9 4 rfl rfl)
theorem dX3_init_215 : decode cX3_init 215 = .ok (.newarray .int, 2) := dk_188_10 (dk_at dksX3_init_9 5 rfl rfl)
theorem dX3_init_217 : decode cX3_init 217 = .ok (.putfield 90, 3) := dk_181 0 90 (dk_at dksX3_init_9 7 rfl rfl)
theorem dX3_init_220 : decode cX3_init 220 = .ok (.aload_n 0, 1) := dk_42 (dk_at dksX3_init_9 10 rfl rfl)
theorem dX3_init_221 : decode cX3_init 221 = .ok (.getfield 9, 3) := dk_180 0 9 (dk_at dksX3_init_9 11 rfl rfl)
theorem dX3_init_224 : decode cX3_init 224 = .ok (.iconst 0, 1) := dk_3 (dk_at dksX3_init_9 14 rfl rfl)
theorem dX3_init_225 : decode cX3_init 225 = .ok (.bipush 7, 2) := dk_16 7 (dk_at dksX3_init_9 15 rfl rfl)
theorem dX3_init_227 : decode cX3_init 227 = .ok (.iastore, 1) := dk_79 (dk_at dksX3_init_9 17 rfl rfl)
theorem dX3_init_228 : decode cX3_init 228 = .ok (.return_, 1) := dk_177 (dk_at dksX3_init_9 18 rfl rfl)
abbrev cX3_thrown : ByteArray := prog_15_method_2_code
def yX3_thrown : MethodName := ⟨RX3, "thrown", "()I"⟩
theorem dX3_thrown_0 : decode cX3_thrown 0 = .ok (.aload_n 0, 1) := by decide +kernel
theorem dX3_thrown_1 : decode cX3_thrown 1 = .ok (.getfield 93, 3) := by decide +kernel
theorem dX3_thrown_4 : decode cX3_thrown 4 = .ok (.ireturn, 1) := by decide +kernel
abbrev cX3_feed : ByteArray := prog_15_method_5_code
def yX3_feed : MethodName := ⟨RX3, "feed", "(IIIII)I"⟩
def dkwX3_feed_5 : List UInt8 := [167, 255, 162, 42, 180, 0, 96, 172]
abbrev dktX3_feed_5 : List UInt8 := dkwX3_feed_5 ++ []
def dkwX3_feed_4 : List UInt8 := [112, 104, 100, 122, 17, 0, 255, 126, 79, 42, 89, 180, 0, 96, 4, 96, 181, 0, 96, 132, 6, 1]
abbrev dktX3_feed_4 : List UInt8 := dkwX3_feed_4 ++ dktX3_feed_5
def dkwX3_feed_3 : List UInt8 := [167, 0, 5, 21, 5, 54, 7, 42, 180, 0, 19, 42, 180, 0, 96, 21, 7, 16, 24, 16, 8, 21, 6, 7]
abbrev dktX3_feed_3 : List UInt8 := dkwX3_feed_3 ++ dktX3_feed_4
def dkwX3_feed_2 : List UInt8 := [28, 167, 0, 28, 21, 6, 16, 12, 162, 0, 7, 29, 167, 0, 17, 21, 6, 16, 16, 162, 0, 8, 21, 4]
abbrev dktX3_feed_2 : List UInt8 := dkwX3_feed_2 ++ dktX3_feed_3
def dkwX3_feed_1 : List UInt8 := [21, 6, 16, 20, 162, 0, 93, 21, 6, 7, 162, 0, 7, 27, 167, 0, 39, 21, 6, 16, 8, 162, 0, 7]
abbrev dktX3_feed_1 : List UInt8 := dkwX3_feed_1 ++ dktX3_feed_2
def dkwX3_feed_0 : List UInt8 := [42, 3, 181, 0, 93, 42, 180, 0, 96, 16, 20, 96, 17, 1, 144, 164, 0, 5, 2, 172, 3, 54, 6]
abbrev dktX3_feed_0 : List UInt8 := dkwX3_feed_0 ++ dktX3_feed_1
theorem dksX3_feed_0 : cX3_feed.data.toList.drop 0 = dktX3_feed_0 := by decide +kernel
theorem dksX3_feed_1 : cX3_feed.data.toList.drop 23 = dktX3_feed_1 := dk_seg dksX3_feed_0 23 rfl rfl
theorem dksX3_feed_2 : cX3_feed.data.toList.drop 47 = dktX3_feed_2 := dk_seg dksX3_feed_1 24 rfl rfl
theorem dksX3_feed_3 : cX3_feed.data.toList.drop 71 = dktX3_feed_3 := dk_seg dksX3_feed_2 24 rfl rfl
theorem dksX3_feed_4 : cX3_feed.data.toList.drop 95 = dktX3_feed_4 := dk_seg dksX3_feed_3 24 rfl rfl
theorem dksX3_feed_5 : cX3_feed.data.toList.drop 117 = dktX3_feed_5 := dk_seg dksX3_feed_4 22 rfl rfl
theorem dX3_feed_0 : decode cX3_feed 0 = .ok (.aload_n 0, 1) := dk_42 (dk_at dksX3_feed_0 0 rfl rfl)
theorem dX3_feed_1 : decode cX3_feed 1 = .ok (.iconst 0, 1) := dk_3 (dk_at dksX3_feed_0 1 rfl rfl)
theorem dX3_feed_2 : decode cX3_feed 2 = .ok (.putfield 93, 3) := dk_181 0 93 (dk_at dksX3_feed_0 2 rfl rfl)
theorem dX3_feed_5 : decode cX3_feed 5 = .ok (.aload_n 0, 1) := dk_42 (dk_at dksX3_feed_0 5 rfl rfl)
theorem dX3_feed_6 : decode cX3_feed 6 = .ok (.getfield 96, 3) := dk_180 0 96 (dk_at dksX3_feed_0 6 rfl rfl)
theorem dX3_feed_9 : decode cX3_feed 9 = .ok (.bipush 20, 2) := dk_16 20 (dk_at dksX3_feed_0 9 rfl rfl)
theorem dX3_feed_11 : decode cX3_feed 11 = .ok (.iadd, 1) := dk_96 (dk_at dksX3_feed_0 11 rfl rfl)
theorem dX3_feed_12 : decode cX3_feed 12 = .ok (.sipush 400, 3) := dk_17 1 144 (dk_at dksX3_feed_0 12 rfl rfl)
theorem dX3_feed_15 : decode cX3_feed 15 = .ok (.if_icmp .le 5, 3) := dk_164 0 5 (dk_at dksX3_feed_0 15 rfl rfl)
theorem dX3_feed_18 : decode cX3_feed 18 = .ok (.iconst (-1), 1) := dk_2 (dk_at dksX3_feed_0 18 rfl rfl)
theorem dX3_feed_19 : decode cX3_feed 19 = .ok (.ireturn, 1) := dk_172 (dk_at dksX3_feed_0 19 rfl rfl)
theorem dX3_feed_20 : decode cX3_feed 20 = .ok (.iconst 0, 1) := dk_3 (dk_at dksX3_feed_0 20 rfl rfl)
theorem dX3_feed_21 : decode cX3_feed 21 = .ok (.istore 6, 2) := dk_54 6 (dk_at dksX3_feed_0 21 rfl rfl)
theorem dX3_feed_23 : decode cX3_feed 23 = .ok (.iload 6, 2) := dk_21 6 (dk_at dksX3_feed_1 0 rfl rfl)
theorem dX3_feed_25 : decode cX3_feed 25 = .ok (.bipush 20, 2) := dk_16 20 (dk_at dksX3_feed_1 2 rfl rfl)
theorem dX3_feed_27 : decode cX3_feed 27 = .ok (.if_icmp .ge 93, 3) := dk_162 0 93 (dk_at dksX3_feed_1 4 rfl rfl)
theorem dX3_feed_30 : decode cX3_feed 30 = .ok (.iload 6, 2) := dk_21 6 (dk_at dksX3_feed_1 7 rfl rfl)
theorem dX3_feed_32 : decode cX3_feed 32 = .ok (.iconst 4, 1) := dk_7 (dk_at dksX3_feed_1 9 rfl rfl)
theorem dX3_feed_33 : decode cX3_feed 33 = .ok (.if_icmp .ge 7, 3) := dk_162 0 7 (dk_at dksX3_feed_1 10 rfl rfl)
theorem dX3_feed_36 : decode cX3_feed 36 = .ok (.iload_n 1, 1) := dk_27 (dk_at dksX3_feed_1 13 rfl rfl)
theorem dX3_feed_37 : decode cX3_feed 37 = .ok (.goto 39, 3) := dk_167 0 39 (dk_at dksX3_feed_1 14 rfl rfl)
theorem dX3_feed_40 : decode cX3_feed 40 = .ok (.iload 6, 2) := dk_21 6 (dk_at dksX3_feed_1 17 rfl rfl)
theorem dX3_feed_42 : decode cX3_feed 42 = .ok (.bipush 8, 2) := dk_16 8 (dk_at dksX3_feed_1 19 rfl rfl)
theorem dX3_feed_44 : decode cX3_feed 44 = .ok (.if_icmp .ge 7, 3) := dk_162 0 7 (dk_at dksX3_feed_1 21 rfl rfl)
theorem dX3_feed_47 : decode cX3_feed 47 = .ok (.iload_n 2, 1) := dk_28 (dk_at dksX3_feed_2 0 rfl rfl)
theorem dX3_feed_48 : decode cX3_feed 48 = .ok (.goto 28, 3) := dk_167 0 28 (dk_at dksX3_feed_2 1 rfl rfl)
theorem dX3_feed_51 : decode cX3_feed 51 = .ok (.iload 6, 2) := dk_21 6 (dk_at dksX3_feed_2 4 rfl rfl)
theorem dX3_feed_53 : decode cX3_feed 53 = .ok (.bipush 12, 2) := dk_16 12 (dk_at dksX3_feed_2 6 rfl rfl)
theorem dX3_feed_55 : decode cX3_feed 55 = .ok (.if_icmp .ge 7, 3) := dk_162 0 7 (dk_at dksX3_feed_2 8 rfl rfl)
theorem dX3_feed_58 : decode cX3_feed 58 = .ok (.iload_n 3, 1) := dk_29 (dk_at dksX3_feed_2 11 rfl rfl)
theorem dX3_feed_59 : decode cX3_feed 59 = .ok (.goto 17, 3) := dk_167 0 17 (dk_at dksX3_feed_2 12 rfl rfl)
theorem dX3_feed_62 : decode cX3_feed 62 = .ok (.iload 6, 2) := dk_21 6 (dk_at dksX3_feed_2 15 rfl rfl)
theorem dX3_feed_64 : decode cX3_feed 64 = .ok (.bipush 16, 2) := dk_16 16 (dk_at dksX3_feed_2 17 rfl rfl)
theorem dX3_feed_66 : decode cX3_feed 66 = .ok (.if_icmp .ge 8, 3) := dk_162 0 8 (dk_at dksX3_feed_2 19 rfl rfl)
theorem dX3_feed_69 : decode cX3_feed 69 = .ok (.iload 4, 2) := dk_21 4 (dk_at dksX3_feed_2 22 rfl rfl)
theorem dX3_feed_71 : decode cX3_feed 71 = .ok (.goto 5, 3) := dk_167 0 5 (dk_at dksX3_feed_3 0 rfl rfl)
theorem dX3_feed_74 : decode cX3_feed 74 = .ok (.iload 5, 2) := dk_21 5 (dk_at dksX3_feed_3 3 rfl rfl)
theorem dX3_feed_76 : decode cX3_feed 76 = .ok (.istore 7, 2) := dk_54 7 (dk_at dksX3_feed_3 5 rfl rfl)
theorem dX3_feed_78 : decode cX3_feed 78 = .ok (.aload_n 0, 1) := dk_42 (dk_at dksX3_feed_3 7 rfl rfl)
theorem dX3_feed_79 : decode cX3_feed 79 = .ok (.getfield 19, 3) := dk_180 0 19 (dk_at dksX3_feed_3 8 rfl rfl)
theorem dX3_feed_82 : decode cX3_feed 82 = .ok (.aload_n 0, 1) := dk_42 (dk_at dksX3_feed_3 11 rfl rfl)
theorem dX3_feed_83 : decode cX3_feed 83 = .ok (.getfield 96, 3) := dk_180 0 96 (dk_at dksX3_feed_3 12 rfl rfl)
theorem dX3_feed_86 : decode cX3_feed 86 = .ok (.iload 7, 2) := dk_21 7 (dk_at dksX3_feed_3 15 rfl rfl)
theorem dX3_feed_88 : decode cX3_feed 88 = .ok (.bipush 24, 2) := dk_16 24 (dk_at dksX3_feed_3 17 rfl rfl)
theorem dX3_feed_90 : decode cX3_feed 90 = .ok (.bipush 8, 2) := dk_16 8 (dk_at dksX3_feed_3 19 rfl rfl)
theorem dX3_feed_92 : decode cX3_feed 92 = .ok (.iload 6, 2) := dk_21 6 (dk_at dksX3_feed_3 21 rfl rfl)
theorem dX3_feed_94 : decode cX3_feed 94 = .ok (.iconst 4, 1) := dk_7 (dk_at dksX3_feed_3 23 rfl rfl)
theorem dX3_feed_95 : decode cX3_feed 95 = .ok (.irem, 1) := dk_112 (dk_at dksX3_feed_4 0 rfl rfl)
theorem dX3_feed_96 : decode cX3_feed 96 = .ok (.imul, 1) := dk_104 (dk_at dksX3_feed_4 1 rfl rfl)
theorem dX3_feed_97 : decode cX3_feed 97 = .ok (.isub, 1) := dk_100 (dk_at dksX3_feed_4 2 rfl rfl)
theorem dX3_feed_98 : decode cX3_feed 98 = .ok (.ishr, 1) := dk_122 (dk_at dksX3_feed_4 3 rfl rfl)
theorem dX3_feed_99 : decode cX3_feed 99 = .ok (.sipush 255, 3) := dk_17 0 255 (dk_at dksX3_feed_4 4 rfl rfl)
theorem dX3_feed_102 : decode cX3_feed 102 = .ok (.iand, 1) := dk_126 (dk_at dksX3_feed_4 7 rfl rfl)
theorem dX3_feed_103 : decode cX3_feed 103 = .ok (.iastore, 1) := dk_79 (dk_at dksX3_feed_4 8 rfl rfl)
theorem dX3_feed_104 : decode cX3_feed 104 = .ok (.aload_n 0, 1) := dk_42 (dk_at dksX3_feed_4 9 rfl rfl)
theorem dX3_feed_105 : decode cX3_feed 105 = .ok (.dup, 1) := dk_89 (dk_at dksX3_feed_4 10 rfl rfl)
theorem dX3_feed_106 : decode cX3_feed 106 = .ok (.getfield 96, 3) := dk_180 0 96 (dk_at dksX3_feed_4 11 rfl rfl)
theorem dX3_feed_109 : decode cX3_feed 109 = .ok (.iconst 1, 1) := dk_4 (dk_at dksX3_feed_4 14 rfl rfl)
theorem dX3_feed_110 : decode cX3_feed 110 = .ok (.iadd, 1) := dk_96 (dk_at dksX3_feed_4 15 rfl rfl)
theorem dX3_feed_111 : decode cX3_feed 111 = .ok (.putfield 96, 3) := dk_181 0 96 (dk_at dksX3_feed_4 16 rfl rfl)
theorem dX3_feed_114 : decode cX3_feed 114 = .ok (.iinc 6 1, 3) := dk_132 6 1 (dk_at dksX3_feed_4 19 rfl rfl)
theorem dX3_feed_117 : decode cX3_feed 117 = .ok (.goto (-94), 3) := dk_167 255 162 (dk_at dksX3_feed_5 0 rfl rfl)
theorem dX3_feed_120 : decode cX3_feed 120 = .ok (.aload_n 0, 1) := dk_42 (dk_at dksX3_feed_5 3 rfl rfl)
theorem dX3_feed_121 : decode cX3_feed 121 = .ok (.getfield 96, 3) := dk_180 0 96 (dk_at dksX3_feed_5 4 rfl rfl)
theorem dX3_feed_124 : decode cX3_feed 124 = .ok (.ireturn, 1) := dk_172 (dk_at dksX3_feed_5 7 rfl rfl)
abbrev cX3_scheme : ByteArray := prog_15_method_19_code
def yX3_scheme : MethodName := ⟨RX3, "scheme", "(I)I"⟩
def dkwX3_scheme_7 : List UInt8 := [167, 0, 4, 3, 79, 132, 2, 1, 167, 255, 224, 42, 3, 181, 0, 198, 42, 3, 181, 0, 201, 3, 172]
abbrev dktX3_scheme_7 : List UInt8 := dkwX3_scheme_7 ++ []
def dkwX3_scheme_6 : List UInt8 := [17, 0, 154, 162, 0, 31, 42, 180, 0, 9, 28, 28, 16, 30, 162, 0, 12, 42, 180, 0, 13, 28, 46]
abbrev dktX3_scheme_6 : List UInt8 := dkwX3_scheme_6 ++ dktX3_scheme_7
def dkwX3_scheme_5 : List UInt8 := [180, 0, 138, 181, 0, 22, 42, 180, 0, 16, 3, 92, 46, 4, 96, 79, 42, 180, 0, 135, 172, 3, 61, 28]
abbrev dktX3_scheme_5 : List UInt8 := dkwX3_scheme_5 ++ dktX3_scheme_6
def dkwX3_scheme_4 : List UInt8 := [180, 0, 112, 153, 0, 10, 42, 182, 0, 195, 167, 255, 238, 42, 180, 0, 135, 153, 0, 26, 42, 42]
abbrev dktX3_scheme_4 : List UInt8 := dkwX3_scheme_4 ++ dktX3_scheme_5
def dkwX3_scheme_3 : List UInt8 := [167, 255, 240, 42, 180, 0, 13, 3, 16, 7, 79, 42, 182, 0, 158, 42, 180, 0, 135, 154, 0, 17, 42]
abbrev dktX3_scheme_3 : List UInt8 := dkwX3_scheme_3 ++ dktX3_scheme_4
def dkwX3_scheme_2 : List UInt8 := [42, 3, 181, 0, 180, 3, 61, 28, 16, 30, 162, 0, 16, 42, 180, 0, 13, 28, 3, 79, 132, 2, 1]
abbrev dktX3_scheme_2 : List UInt8 := dkwX3_scheme_2 ++ dktX3_scheme_3
def dkwX3_scheme_1 : List UInt8 := [3, 181, 0, 96, 42, 27, 181, 0, 99, 42, 3, 181, 0, 102, 42, 3, 181, 0, 135, 42, 2, 181, 0, 22]
abbrev dktX3_scheme_1 : List UInt8 := dkwX3_scheme_1 ++ dktX3_scheme_2
def dkwX3_scheme_0 : List UInt8 := [42, 3, 181, 0, 93, 27, 155, 0, 11, 27, 42, 180, 0, 96, 164, 0, 9, 42, 4, 182, 0, 192, 172, 42]
abbrev dktX3_scheme_0 : List UInt8 := dkwX3_scheme_0 ++ dktX3_scheme_1
theorem dksX3_scheme_0 : cX3_scheme.data.toList.drop 0 = dktX3_scheme_0 := by decide +kernel
theorem dksX3_scheme_1 : cX3_scheme.data.toList.drop 24 = dktX3_scheme_1 := dk_seg dksX3_scheme_0 24 rfl rfl
theorem dksX3_scheme_2 : cX3_scheme.data.toList.drop 48 = dktX3_scheme_2 := dk_seg dksX3_scheme_1 24 rfl rfl
theorem dksX3_scheme_3 : cX3_scheme.data.toList.drop 71 = dktX3_scheme_3 := dk_seg dksX3_scheme_2 23 rfl rfl
theorem dksX3_scheme_4 : cX3_scheme.data.toList.drop 94 = dktX3_scheme_4 := dk_seg dksX3_scheme_3 23 rfl rfl
theorem dksX3_scheme_5 : cX3_scheme.data.toList.drop 116 = dktX3_scheme_5 := dk_seg dksX3_scheme_4 22 rfl rfl
theorem dksX3_scheme_6 : cX3_scheme.data.toList.drop 140 = dktX3_scheme_6 := dk_seg dksX3_scheme_5 24 rfl rfl
theorem dksX3_scheme_7 : cX3_scheme.data.toList.drop 163 = dktX3_scheme_7 := dk_seg dksX3_scheme_6 23 rfl rfl
theorem dX3_scheme_0 : decode cX3_scheme 0 = .ok (.aload_n 0, 1) := dk_42 (dk_at dksX3_scheme_0 0 rfl rfl)
theorem dX3_scheme_1 : decode cX3_scheme 1 = .ok (.iconst 0, 1) := dk_3 (dk_at dksX3_scheme_0 1 rfl rfl)
theorem dX3_scheme_2 : decode cX3_scheme 2 = .ok (.putfield 93, 3) := dk_181 0 93 (dk_at dksX3_scheme_0 2 rfl rfl)
theorem dX3_scheme_5 : decode cX3_scheme 5 = .ok (.iload_n 1, 1) := dk_27 (dk_at dksX3_scheme_0 5 rfl rfl)
theorem dX3_scheme_6 : decode cX3_scheme 6 = .ok (.ifCond .lt 11, 3) := dk_155 0 11 (dk_at dksX3_scheme_0 6 rfl rfl)
theorem dX3_scheme_9 : decode cX3_scheme 9 = .ok (.iload_n 1, 1) := dk_27 (dk_at dksX3_scheme_0 9 rfl rfl)
theorem dX3_scheme_10 : decode cX3_scheme 10 = .ok (.aload_n 0, 1) := dk_42 (dk_at dksX3_scheme_0 10 rfl rfl)
theorem dX3_scheme_11 : decode cX3_scheme 11 = .ok (.getfield 96, 3) := dk_180 0 96 (dk_at dksX3_scheme_0 11 rfl rfl)
theorem dX3_scheme_14 : decode cX3_scheme 14 = .ok (.if_icmp .le 9, 3) := dk_164 0 9 (dk_at dksX3_scheme_0 14 rfl rfl)
theorem dX3_scheme_17 : decode cX3_scheme 17 = .ok (.aload_n 0, 1) := dk_42 (dk_at dksX3_scheme_0 17 rfl rfl)
theorem dX3_scheme_18 : decode cX3_scheme 18 = .ok (.iconst 1, 1) := dk_4 (dk_at dksX3_scheme_0 18 rfl rfl)
theorem dX3_scheme_19 : decode cX3_scheme 19 = .ok (.invokevirtual 192, 3) := dk_182 0 192 (dk_at dksX3_scheme_0 19 rfl rfl)
theorem dX3_scheme_22 : decode cX3_scheme 22 = .ok (.ireturn, 1) := dk_172 (dk_at dksX3_scheme_0 22 rfl rfl)
theorem dX3_scheme_23 : decode cX3_scheme 23 = .ok (.aload_n 0, 1) := dk_42 (dk_at dksX3_scheme_0 23 rfl rfl)
theorem dX3_scheme_24 : decode cX3_scheme 24 = .ok (.iconst 0, 1) := dk_3 (dk_at dksX3_scheme_1 0 rfl rfl)
theorem dX3_scheme_25 : decode cX3_scheme 25 = .ok (.putfield 96, 3) := dk_181 0 96 (dk_at dksX3_scheme_1 1 rfl rfl)
theorem dX3_scheme_28 : decode cX3_scheme 28 = .ok (.aload_n 0, 1) := dk_42 (dk_at dksX3_scheme_1 4 rfl rfl)
theorem dX3_scheme_29 : decode cX3_scheme 29 = .ok (.iload_n 1, 1) := dk_27 (dk_at dksX3_scheme_1 5 rfl rfl)
theorem dX3_scheme_30 : decode cX3_scheme 30 = .ok (.putfield 99, 3) := dk_181 0 99 (dk_at dksX3_scheme_1 6 rfl rfl)
theorem dX3_scheme_33 : decode cX3_scheme 33 = .ok (.aload_n 0, 1) := dk_42 (dk_at dksX3_scheme_1 9 rfl rfl)
theorem dX3_scheme_34 : decode cX3_scheme 34 = .ok (.iconst 0, 1) := dk_3 (dk_at dksX3_scheme_1 10 rfl rfl)
theorem dX3_scheme_35 : decode cX3_scheme 35 = .ok (.putfield 102, 3) := dk_181 0 102 (dk_at dksX3_scheme_1 11 rfl rfl)
theorem dX3_scheme_38 : decode cX3_scheme 38 = .ok (.aload_n 0, 1) := dk_42 (dk_at dksX3_scheme_1 14 rfl rfl)
theorem dX3_scheme_39 : decode cX3_scheme 39 = .ok (.iconst 0, 1) := dk_3 (dk_at dksX3_scheme_1 15 rfl rfl)
theorem dX3_scheme_40 : decode cX3_scheme 40 = .ok (.putfield 135, 3) := dk_181 0 135 (dk_at dksX3_scheme_1 16 rfl rfl)
theorem dX3_scheme_43 : decode cX3_scheme 43 = .ok (.aload_n 0, 1) := dk_42 (dk_at dksX3_scheme_1 19 rfl rfl)
theorem dX3_scheme_44 : decode cX3_scheme 44 = .ok (.iconst (-1), 1) := dk_2 (dk_at dksX3_scheme_1 20 rfl rfl)
theorem dX3_scheme_45 : decode cX3_scheme 45 = .ok (.putfield 22, 3) := dk_181 0 22 (dk_at dksX3_scheme_1 21 rfl rfl)
theorem dX3_scheme_48 : decode cX3_scheme 48 = .ok (.aload_n 0, 1) := dk_42 (dk_at dksX3_scheme_2 0 rfl rfl)
theorem dX3_scheme_49 : decode cX3_scheme 49 = .ok (.iconst 0, 1) := dk_3 (dk_at dksX3_scheme_2 1 rfl rfl)
theorem dX3_scheme_50 : decode cX3_scheme 50 = .ok (.putfield 180, 3) := dk_181 0 180 (dk_at dksX3_scheme_2 2 rfl rfl)
theorem dX3_scheme_53 : decode cX3_scheme 53 = .ok (.iconst 0, 1) := dk_3 (dk_at dksX3_scheme_2 5 rfl rfl)
theorem dX3_scheme_54 : decode cX3_scheme 54 = .ok (.istore_n 2, 1) := dk_61 (dk_at dksX3_scheme_2 6 rfl rfl)
theorem dX3_scheme_55 : decode cX3_scheme 55 = .ok (.iload_n 2, 1) := dk_28 (dk_at dksX3_scheme_2 7 rfl rfl)
theorem dX3_scheme_56 : decode cX3_scheme 56 = .ok (.bipush 30, 2) := dk_16 30 (dk_at dksX3_scheme_2 8 rfl rfl)
theorem dX3_scheme_58 : decode cX3_scheme 58 = .ok (.if_icmp .ge 16, 3) := dk_162 0 16 (dk_at dksX3_scheme_2 10 rfl rfl)
theorem dX3_scheme_61 : decode cX3_scheme 61 = .ok (.aload_n 0, 1) := dk_42 (dk_at dksX3_scheme_2 13 rfl rfl)
theorem dX3_scheme_62 : decode cX3_scheme 62 = .ok (.getfield 13, 3) := dk_180 0 13 (dk_at dksX3_scheme_2 14 rfl rfl)
theorem dX3_scheme_65 : decode cX3_scheme 65 = .ok (.iload_n 2, 1) := dk_28 (dk_at dksX3_scheme_2 17 rfl rfl)
theorem dX3_scheme_66 : decode cX3_scheme 66 = .ok (.iconst 0, 1) := dk_3 (dk_at dksX3_scheme_2 18 rfl rfl)
theorem dX3_scheme_67 : decode cX3_scheme 67 = .ok (.iastore, 1) := dk_79 (dk_at dksX3_scheme_2 19 rfl rfl)
theorem dX3_scheme_68 : decode cX3_scheme 68 = .ok (.iinc 2 1, 3) := dk_132 2 1 (dk_at dksX3_scheme_2 20 rfl rfl)
theorem dX3_scheme_71 : decode cX3_scheme 71 = .ok (.goto (-16), 3) := dk_167 255 240 (dk_at dksX3_scheme_3 0 rfl rfl)
theorem dX3_scheme_74 : decode cX3_scheme 74 = .ok (.aload_n 0, 1) := dk_42 (dk_at dksX3_scheme_3 3 rfl rfl)
theorem dX3_scheme_75 : decode cX3_scheme 75 = .ok (.getfield 13, 3) := dk_180 0 13 (dk_at dksX3_scheme_3 4 rfl rfl)
theorem dX3_scheme_78 : decode cX3_scheme 78 = .ok (.iconst 0, 1) := dk_3 (dk_at dksX3_scheme_3 7 rfl rfl)
theorem dX3_scheme_79 : decode cX3_scheme 79 = .ok (.bipush 7, 2) := dk_16 7 (dk_at dksX3_scheme_3 8 rfl rfl)
theorem dX3_scheme_81 : decode cX3_scheme 81 = .ok (.iastore, 1) := dk_79 (dk_at dksX3_scheme_3 10 rfl rfl)
theorem dX3_scheme_82 : decode cX3_scheme 82 = .ok (.aload_n 0, 1) := dk_42 (dk_at dksX3_scheme_3 11 rfl rfl)
theorem dX3_scheme_83 : decode cX3_scheme 83 = .ok (.invokevirtual 158, 3) := dk_182 0 158 (dk_at dksX3_scheme_3 12 rfl rfl)
theorem dX3_scheme_86 : decode cX3_scheme 86 = .ok (.aload_n 0, 1) := dk_42 (dk_at dksX3_scheme_3 15 rfl rfl)
theorem dX3_scheme_87 : decode cX3_scheme 87 = .ok (.getfield 135, 3) := dk_180 0 135 (dk_at dksX3_scheme_3 16 rfl rfl)
theorem dX3_scheme_90 : decode cX3_scheme 90 = .ok (.ifCond .ne 17, 3) := dk_154 0 17 (dk_at dksX3_scheme_3 19 rfl rfl)
theorem dX3_scheme_93 : decode cX3_scheme 93 = .ok (.aload_n 0, 1) := dk_42 (dk_at dksX3_scheme_3 22 rfl rfl)
theorem dX3_scheme_94 : decode cX3_scheme 94 = .ok (.getfield 112, 3) := dk_180 0 112 (dk_at dksX3_scheme_4 0 rfl rfl)
theorem dX3_scheme_97 : decode cX3_scheme 97 = .ok (.ifCond .eq 10, 3) := dk_153 0 10 (dk_at dksX3_scheme_4 3 rfl rfl)
theorem dX3_scheme_100 : decode cX3_scheme 100 = .ok (.aload_n 0, 1) := dk_42 (dk_at dksX3_scheme_4 6 rfl rfl)
theorem dX3_scheme_101 : decode cX3_scheme 101 = .ok (.invokevirtual 195, 3) := dk_182 0 195 (dk_at dksX3_scheme_4 7 rfl rfl)
theorem dX3_scheme_104 : decode cX3_scheme 104 = .ok (.goto (-18), 3) := dk_167 255 238 (dk_at dksX3_scheme_4 10 rfl rfl)
theorem dX3_scheme_107 : decode cX3_scheme 107 = .ok (.aload_n 0, 1) := dk_42 (dk_at dksX3_scheme_4 13 rfl rfl)
theorem dX3_scheme_108 : decode cX3_scheme 108 = .ok (.getfield 135, 3) := dk_180 0 135 (dk_at dksX3_scheme_4 14 rfl rfl)
theorem dX3_scheme_111 : decode cX3_scheme 111 = .ok (.ifCond .eq 26, 3) := dk_153 0 26 (dk_at dksX3_scheme_4 17 rfl rfl)
theorem dX3_scheme_114 : decode cX3_scheme 114 = .ok (.aload_n 0, 1) := dk_42 (dk_at dksX3_scheme_4 20 rfl rfl)
theorem dX3_scheme_115 : decode cX3_scheme 115 = .ok (.aload_n 0, 1) := dk_42 (dk_at dksX3_scheme_4 21 rfl rfl)
theorem dX3_scheme_116 : decode cX3_scheme 116 = .ok (.getfield 138, 3) := dk_180 0 138 (dk_at dksX3_scheme_5 0 rfl rfl)
theorem dX3_scheme_119 : decode cX3_scheme 119 = .ok (.putfield 22, 3) := dk_181 0 22 (dk_at dksX3_scheme_5 3 rfl rfl)
theorem dX3_scheme_122 : decode cX3_scheme 122 = .ok (.aload_n 0, 1) := dk_42 (dk_at dksX3_scheme_5 6 rfl rfl)
theorem dX3_scheme_123 : decode cX3_scheme 123 = .ok (.getfield 16, 3) := dk_180 0 16 (dk_at dksX3_scheme_5 7 rfl rfl)
theorem dX3_scheme_126 : decode cX3_scheme 126 = .ok (.iconst 0, 1) := dk_3 (dk_at dksX3_scheme_5 10 rfl rfl)
theorem dX3_scheme_127 : decode cX3_scheme 127 = .ok (.dup2, 1) := dk_92 (dk_at dksX3_scheme_5 11 rfl rfl)
theorem dX3_scheme_128 : decode cX3_scheme 128 = .ok (.iaload, 1) := dk_46 (dk_at dksX3_scheme_5 12 rfl rfl)
theorem dX3_scheme_129 : decode cX3_scheme 129 = .ok (.iconst 1, 1) := dk_4 (dk_at dksX3_scheme_5 13 rfl rfl)
theorem dX3_scheme_130 : decode cX3_scheme 130 = .ok (.iadd, 1) := dk_96 (dk_at dksX3_scheme_5 14 rfl rfl)
theorem dX3_scheme_131 : decode cX3_scheme 131 = .ok (.iastore, 1) := dk_79 (dk_at dksX3_scheme_5 15 rfl rfl)
theorem dX3_scheme_132 : decode cX3_scheme 132 = .ok (.aload_n 0, 1) := dk_42 (dk_at dksX3_scheme_5 16 rfl rfl)
theorem dX3_scheme_133 : decode cX3_scheme 133 = .ok (.getfield 135, 3) := dk_180 0 135 (dk_at dksX3_scheme_5 17 rfl rfl)
theorem dX3_scheme_136 : decode cX3_scheme 136 = .ok (.ireturn, 1) := dk_172 (dk_at dksX3_scheme_5 20 rfl rfl)
theorem dX3_scheme_137 : decode cX3_scheme 137 = .ok (.iconst 0, 1) := dk_3 (dk_at dksX3_scheme_5 21 rfl rfl)
theorem dX3_scheme_138 : decode cX3_scheme 138 = .ok (.istore_n 2, 1) := dk_61 (dk_at dksX3_scheme_5 22 rfl rfl)
theorem dX3_scheme_139 : decode cX3_scheme 139 = .ok (.iload_n 2, 1) := dk_28 (dk_at dksX3_scheme_5 23 rfl rfl)
theorem dX3_scheme_140 : decode cX3_scheme 140 = .ok (.sipush 154, 3) := dk_17 0 154 (dk_at dksX3_scheme_6 0 rfl rfl)
theorem dX3_scheme_143 : decode cX3_scheme 143 = .ok (.if_icmp .ge 31, 3) := dk_162 0 31 (dk_at dksX3_scheme_6 3 rfl rfl)
theorem dX3_scheme_146 : decode cX3_scheme 146 = .ok (.aload_n 0, 1) := dk_42 (dk_at dksX3_scheme_6 6 rfl rfl)
theorem dX3_scheme_147 : decode cX3_scheme 147 = .ok (.getfield 9, 3) := dk_180 0 9 (dk_at dksX3_scheme_6 7 rfl rfl)
theorem dX3_scheme_150 : decode cX3_scheme 150 = .ok (.iload_n 2, 1) := dk_28 (dk_at dksX3_scheme_6 10 rfl rfl)
theorem dX3_scheme_151 : decode cX3_scheme 151 = .ok (.iload_n 2, 1) := dk_28 (dk_at dksX3_scheme_6 11 rfl rfl)
theorem dX3_scheme_152 : decode cX3_scheme 152 = .ok (.bipush 30, 2) := dk_16 30 (dk_at dksX3_scheme_6 12 rfl rfl)
theorem dX3_scheme_154 : decode cX3_scheme 154 = .ok (.if_icmp .ge 12, 3) := dk_162 0 12 (dk_at dksX3_scheme_6 14 rfl rfl)
theorem dX3_scheme_157 : decode cX3_scheme 157 = .ok (.aload_n 0, 1) := dk_42 (dk_at dksX3_scheme_6 17 rfl rfl)
theorem dX3_scheme_158 : decode cX3_scheme 158 = .ok (.getfield 13, 3) := dk_180 0 13 (dk_at dksX3_scheme_6 18 rfl rfl)
theorem dX3_scheme_161 : decode cX3_scheme 161 = .ok (.iload_n 2, 1) := dk_28 (dk_at dksX3_scheme_6 21 rfl rfl)
theorem dX3_scheme_162 : decode cX3_scheme 162 = .ok (.iaload, 1) := dk_46 (dk_at dksX3_scheme_6 22 rfl rfl)
theorem dX3_scheme_163 : decode cX3_scheme 163 = .ok (.goto 4, 3) := dk_167 0 4 (dk_at dksX3_scheme_7 0 rfl rfl)
theorem dX3_scheme_166 : decode cX3_scheme 166 = .ok (.iconst 0, 1) := dk_3 (dk_at dksX3_scheme_7 3 rfl rfl)
theorem dX3_scheme_167 : decode cX3_scheme 167 = .ok (.iastore, 1) := dk_79 (dk_at dksX3_scheme_7 4 rfl rfl)
theorem dX3_scheme_168 : decode cX3_scheme 168 = .ok (.iinc 2 1, 3) := dk_132 2 1 (dk_at dksX3_scheme_7 5 rfl rfl)
theorem dX3_scheme_171 : decode cX3_scheme 171 = .ok (.goto (-32), 3) := dk_167 255 224 (dk_at dksX3_scheme_7 8 rfl rfl)
theorem dX3_scheme_174 : decode cX3_scheme 174 = .ok (.aload_n 0, 1) := dk_42 (dk_at dksX3_scheme_7 11 rfl rfl)
theorem dX3_scheme_175 : decode cX3_scheme 175 = .ok (.iconst 0, 1) := dk_3 (dk_at dksX3_scheme_7 12 rfl rfl)
theorem dX3_scheme_176 : decode cX3_scheme 176 = .ok (.putfield 198, 3) := dk_181 0 198 (dk_at dksX3_scheme_7 13 rfl rfl)
theorem dX3_scheme_179 : decode cX3_scheme 179 = .ok (.aload_n 0, 1) := dk_42 (dk_at dksX3_scheme_7 16 rfl rfl)
theorem dX3_scheme_180 : decode cX3_scheme 180 = .ok (.iconst 0, 1) := dk_3 (dk_at dksX3_scheme_7 17 rfl rfl)
theorem dX3_scheme_181 : decode cX3_scheme 181 = .ok (.putfield 201, 3) := dk_181 0 201 (dk_at dksX3_scheme_7 18 rfl rfl)
theorem dX3_scheme_184 : decode cX3_scheme 184 = .ok (.iconst 0, 1) := dk_3 (dk_at dksX3_scheme_7 21 rfl rfl)
theorem dX3_scheme_185 : decode cX3_scheme 185 = .ok (.ireturn, 1) := dk_172 (dk_at dksX3_scheme_7 22 rfl rfl)
abbrev cX3_fail : ByteArray := prog_15_method_3_code
def yX3_fail : MethodName := ⟨RX3, "fail", "(I)I"⟩
def dkwX3_fail_0 : List UInt8 := [42, 27, 181, 0, 93, 3, 172]
abbrev dktX3_fail_0 : List UInt8 := dkwX3_fail_0 ++ []
theorem dksX3_fail_0 : cX3_fail.data.toList.drop 0 = dktX3_fail_0 := by decide +kernel
theorem dX3_fail_0 : decode cX3_fail 0 = .ok (.aload_n 0, 1) := dk_42 (dk_at dksX3_fail_0 0 rfl rfl)
theorem dX3_fail_1 : decode cX3_fail 1 = .ok (.iload_n 1, 1) := dk_27 (dk_at dksX3_fail_0 1 rfl rfl)
theorem dX3_fail_2 : decode cX3_fail 2 = .ok (.putfield 93, 3) := dk_181 0 93 (dk_at dksX3_fail_0 2 rfl rfl)
theorem dX3_fail_5 : decode cX3_fail 5 = .ok (.iconst 0, 1) := dk_3 (dk_at dksX3_fail_0 5 rfl rfl)
theorem dX3_fail_6 : decode cX3_fail 6 = .ok (.ireturn, 1) := dk_172 (dk_at dksX3_fail_0 6 rfl rfl)
abbrev cX3_stepOn : ByteArray := prog_15_method_9_code
def yX3_stepOn : MethodName := ⟨RX3, "stepOn", "()V"⟩
def dkwX3_stepOn_9 : List UInt8 := [167, 0, 4, 7, 181, 0, 112, 42, 42, 180, 0, 102, 181, 0, 132, 177]
abbrev dktX3_stepOn_9 : List UInt8 := dkwX3_stepOn_9 ++ []
def dkwX3_stepOn_8 : List UInt8 := [42, 89, 180, 0, 102, 4, 96, 181, 0, 102, 42, 27, 16, 59, 159, 0, 9, 27, 16, 45, 160, 0, 7, 6]
abbrev dktX3_stepOn_8 : List UInt8 := dkwX3_stepOn_8 ++ dktX3_stepOn_9
def dkwX3_stepOn_7 : List UInt8 := [181, 0, 122, 42, 89, 180, 0, 102, 4, 96, 181, 0, 102, 167, 255, 204, 42, 5, 181, 0, 112, 167, 0, 34]
abbrev dktX3_stepOn_7 : List UInt8 := dkwX3_stepOn_7 ++ dktX3_stepOn_8
def dkwX3_stepOn_6 : List UInt8 := [18, 125, 16, 10, 42, 180, 0, 122, 104, 42, 42, 180, 0, 102, 182, 0, 105, 96, 16, 48, 100, 184, 0, 126]
abbrev dktX3_stepOn_6 : List UInt8 := dkwX3_stepOn_6 ++ dktX3_stepOn_7
def dkwX3_stepOn_5 : List UInt8 := [153, 0, 71, 42, 3, 181, 0, 122, 42, 42, 180, 0, 102, 182, 0, 105, 184, 0, 119, 153, 0, 44, 42]
abbrev dktX3_stepOn_5 : List UInt8 := dkwX3_stepOn_5 ++ dktX3_stepOn_6
def dkwX3_stepOn_4 : List UInt8 := [180, 0, 102, 4, 96, 181, 0, 102, 167, 255, 232, 42, 4, 181, 0, 112, 167, 0, 109, 27, 184, 0, 119]
abbrev dktX3_stepOn_4 : List UInt8 := dkwX3_stepOn_4 ++ dktX3_stepOn_5
def dkwX3_stepOn_3 : List UInt8 := [184, 0, 115, 153, 0, 38, 42, 42, 180, 0, 102, 182, 0, 105, 184, 0, 115, 153, 0, 16, 42, 89]
abbrev dktX3_stepOn_3 : List UInt8 := dkwX3_stepOn_3 ++ dktX3_stepOn_4
def dkwX3_stepOn_2 : List UInt8 := [42, 42, 180, 0, 102, 182, 0, 105, 60, 27, 2, 160, 0, 11, 42, 3, 181, 0, 112, 167, 0, 151, 27]
abbrev dktX3_stepOn_2 : List UInt8 := dkwX3_stepOn_2 ++ dktX3_stepOn_3
def dkwX3_stepOn_1 : List UInt8 := [160, 0, 16, 42, 89, 180, 0, 102, 4, 96, 181, 0, 102, 167, 255, 220, 42, 42, 180, 0, 102, 181, 0, 109]
abbrev dktX3_stepOn_1 : List UInt8 := dkwX3_stepOn_1 ++ dktX3_stepOn_2
def dkwX3_stepOn_0 : List UInt8 := [42, 42, 180, 0, 102, 182, 0, 105, 16, 32, 159, 0, 16, 42, 42, 180, 0, 102, 182, 0, 105, 16, 10]
abbrev dktX3_stepOn_0 : List UInt8 := dkwX3_stepOn_0 ++ dktX3_stepOn_1
theorem dksX3_stepOn_0 : cX3_stepOn.data.toList.drop 0 = dktX3_stepOn_0 := by decide +kernel
theorem dksX3_stepOn_1 : cX3_stepOn.data.toList.drop 23 = dktX3_stepOn_1 := dk_seg dksX3_stepOn_0 23 rfl rfl
theorem dksX3_stepOn_2 : cX3_stepOn.data.toList.drop 47 = dktX3_stepOn_2 := dk_seg dksX3_stepOn_1 24 rfl rfl
theorem dksX3_stepOn_3 : cX3_stepOn.data.toList.drop 70 = dktX3_stepOn_3 := dk_seg dksX3_stepOn_2 23 rfl rfl
theorem dksX3_stepOn_4 : cX3_stepOn.data.toList.drop 92 = dktX3_stepOn_4 := dk_seg dksX3_stepOn_3 22 rfl rfl
theorem dksX3_stepOn_5 : cX3_stepOn.data.toList.drop 115 = dktX3_stepOn_5 := dk_seg dksX3_stepOn_4 23 rfl rfl
theorem dksX3_stepOn_6 : cX3_stepOn.data.toList.drop 138 = dktX3_stepOn_6 := dk_seg dksX3_stepOn_5 23 rfl rfl
theorem dksX3_stepOn_7 : cX3_stepOn.data.toList.drop 162 = dktX3_stepOn_7 := dk_seg dksX3_stepOn_6 24 rfl rfl
theorem dksX3_stepOn_8 : cX3_stepOn.data.toList.drop 186 = dktX3_stepOn_8 := dk_seg dksX3_stepOn_7 24 rfl rfl
theorem dksX3_stepOn_9 : cX3_stepOn.data.toList.drop 210 = dktX3_stepOn_9 := dk_seg dksX3_stepOn_8 24 rfl rfl
theorem dX3_stepOn_0 : decode cX3_stepOn 0 = .ok (.aload_n 0, 1) := dk_42 (dk_at dksX3_stepOn_0 0 rfl rfl)
theorem dX3_stepOn_1 : decode cX3_stepOn 1 = .ok (.aload_n 0, 1) := dk_42 (dk_at dksX3_stepOn_0 1 rfl rfl)
theorem dX3_stepOn_2 : decode cX3_stepOn 2 = .ok (.getfield 102, 3) := dk_180 0 102 (dk_at dksX3_stepOn_0 2 rfl rfl)
theorem dX3_stepOn_5 : decode cX3_stepOn 5 = .ok (.invokevirtual 105, 3) := dk_182 0 105 (dk_at dksX3_stepOn_0 5 rfl rfl)
theorem dX3_stepOn_8 : decode cX3_stepOn 8 = .ok (.bipush 32, 2) := dk_16 32 (dk_at dksX3_stepOn_0 8 rfl rfl)
theorem dX3_stepOn_10 : decode cX3_stepOn 10 = .ok (.if_icmp .eq 16, 3) := dk_159 0 16 (dk_at dksX3_stepOn_0 10 rfl rfl)
theorem dX3_stepOn_13 : decode cX3_stepOn 13 = .ok (.aload_n 0, 1) := dk_42 (dk_at dksX3_stepOn_0 13 rfl rfl)
theorem dX3_stepOn_14 : decode cX3_stepOn 14 = .ok (.aload_n 0, 1) := dk_42 (dk_at dksX3_stepOn_0 14 rfl rfl)
theorem dX3_stepOn_15 : decode cX3_stepOn 15 = .ok (.getfield 102, 3) := dk_180 0 102 (dk_at dksX3_stepOn_0 15 rfl rfl)
theorem dX3_stepOn_18 : decode cX3_stepOn 18 = .ok (.invokevirtual 105, 3) := dk_182 0 105 (dk_at dksX3_stepOn_0 18 rfl rfl)
theorem dX3_stepOn_21 : decode cX3_stepOn 21 = .ok (.bipush 10, 2) := dk_16 10 (dk_at dksX3_stepOn_0 21 rfl rfl)
theorem dX3_stepOn_23 : decode cX3_stepOn 23 = .ok (.if_icmp .ne 16, 3) := dk_160 0 16 (dk_at dksX3_stepOn_1 0 rfl rfl)
theorem dX3_stepOn_26 : decode cX3_stepOn 26 = .ok (.aload_n 0, 1) := dk_42 (dk_at dksX3_stepOn_1 3 rfl rfl)
theorem dX3_stepOn_27 : decode cX3_stepOn 27 = .ok (.dup, 1) := dk_89 (dk_at dksX3_stepOn_1 4 rfl rfl)
theorem dX3_stepOn_28 : decode cX3_stepOn 28 = .ok (.getfield 102, 3) := dk_180 0 102 (dk_at dksX3_stepOn_1 5 rfl rfl)
theorem dX3_stepOn_31 : decode cX3_stepOn 31 = .ok (.iconst 1, 1) := dk_4 (dk_at dksX3_stepOn_1 8 rfl rfl)
theorem dX3_stepOn_32 : decode cX3_stepOn 32 = .ok (.iadd, 1) := dk_96 (dk_at dksX3_stepOn_1 9 rfl rfl)
theorem dX3_stepOn_33 : decode cX3_stepOn 33 = .ok (.putfield 102, 3) := dk_181 0 102 (dk_at dksX3_stepOn_1 10 rfl rfl)
theorem dX3_stepOn_36 : decode cX3_stepOn 36 = .ok (.goto (-36), 3) := dk_167 255 220 (dk_at dksX3_stepOn_1 13 rfl rfl)
theorem dX3_stepOn_39 : decode cX3_stepOn 39 = .ok (.aload_n 0, 1) := dk_42 (dk_at dksX3_stepOn_1 16 rfl rfl)
theorem dX3_stepOn_40 : decode cX3_stepOn 40 = .ok (.aload_n 0, 1) := dk_42 (dk_at dksX3_stepOn_1 17 rfl rfl)
theorem dX3_stepOn_41 : decode cX3_stepOn 41 = .ok (.getfield 102, 3) := dk_180 0 102 (dk_at dksX3_stepOn_1 18 rfl rfl)
theorem dX3_stepOn_44 : decode cX3_stepOn 44 = .ok (.putfield 109, 3) := dk_181 0 109 (dk_at dksX3_stepOn_1 21 rfl rfl)
theorem dX3_stepOn_47 : decode cX3_stepOn 47 = .ok (.aload_n 0, 1) := dk_42 (dk_at dksX3_stepOn_2 0 rfl rfl)
theorem dX3_stepOn_48 : decode cX3_stepOn 48 = .ok (.aload_n 0, 1) := dk_42 (dk_at dksX3_stepOn_2 1 rfl rfl)
theorem dX3_stepOn_49 : decode cX3_stepOn 49 = .ok (.getfield 102, 3) := dk_180 0 102 (dk_at dksX3_stepOn_2 2 rfl rfl)
theorem dX3_stepOn_52 : decode cX3_stepOn 52 = .ok (.invokevirtual 105, 3) := dk_182 0 105 (dk_at dksX3_stepOn_2 5 rfl rfl)
theorem dX3_stepOn_55 : decode cX3_stepOn 55 = .ok (.istore_n 1, 1) := dk_60 (dk_at dksX3_stepOn_2 8 rfl rfl)
theorem dX3_stepOn_56 : decode cX3_stepOn 56 = .ok (.iload_n 1, 1) := dk_27 (dk_at dksX3_stepOn_2 9 rfl rfl)
theorem dX3_stepOn_57 : decode cX3_stepOn 57 = .ok (.iconst (-1), 1) := dk_2 (dk_at dksX3_stepOn_2 10 rfl rfl)
theorem dX3_stepOn_58 : decode cX3_stepOn 58 = .ok (.if_icmp .ne 11, 3) := dk_160 0 11 (dk_at dksX3_stepOn_2 11 rfl rfl)
theorem dX3_stepOn_61 : decode cX3_stepOn 61 = .ok (.aload_n 0, 1) := dk_42 (dk_at dksX3_stepOn_2 14 rfl rfl)
theorem dX3_stepOn_62 : decode cX3_stepOn 62 = .ok (.iconst 0, 1) := dk_3 (dk_at dksX3_stepOn_2 15 rfl rfl)
theorem dX3_stepOn_63 : decode cX3_stepOn 63 = .ok (.putfield 112, 3) := dk_181 0 112 (dk_at dksX3_stepOn_2 16 rfl rfl)
theorem dX3_stepOn_66 : decode cX3_stepOn 66 = .ok (.goto 151, 3) := dk_167 0 151 (dk_at dksX3_stepOn_2 19 rfl rfl)
theorem dX3_stepOn_69 : decode cX3_stepOn 69 = .ok (.iload_n 1, 1) := dk_27 (dk_at dksX3_stepOn_2 22 rfl rfl)
theorem dX3_stepOn_70 : decode cX3_stepOn 70 = .ok (.invokestatic 115, 3) := dk_184 0 115 (dk_at dksX3_stepOn_3 0 rfl rfl)
theorem dX3_stepOn_73 : decode cX3_stepOn 73 = .ok (.ifCond .eq 38, 3) := dk_153 0 38 (dk_at dksX3_stepOn_3 3 rfl rfl)
theorem dX3_stepOn_76 : decode cX3_stepOn 76 = .ok (.aload_n 0, 1) := dk_42 (dk_at dksX3_stepOn_3 6 rfl rfl)
theorem dX3_stepOn_77 : decode cX3_stepOn 77 = .ok (.aload_n 0, 1) := dk_42 (dk_at dksX3_stepOn_3 7 rfl rfl)
theorem dX3_stepOn_78 : decode cX3_stepOn 78 = .ok (.getfield 102, 3) := dk_180 0 102 (dk_at dksX3_stepOn_3 8 rfl rfl)
theorem dX3_stepOn_81 : decode cX3_stepOn 81 = .ok (.invokevirtual 105, 3) := dk_182 0 105 (dk_at dksX3_stepOn_3 11 rfl rfl)
theorem dX3_stepOn_84 : decode cX3_stepOn 84 = .ok (.invokestatic 115, 3) := dk_184 0 115 (dk_at dksX3_stepOn_3 14 rfl rfl)
theorem dX3_stepOn_87 : decode cX3_stepOn 87 = .ok (.ifCond .eq 16, 3) := dk_153 0 16 (dk_at dksX3_stepOn_3 17 rfl rfl)
theorem dX3_stepOn_90 : decode cX3_stepOn 90 = .ok (.aload_n 0, 1) := dk_42 (dk_at dksX3_stepOn_3 20 rfl rfl)
theorem dX3_stepOn_91 : decode cX3_stepOn 91 = .ok (.dup, 1) := dk_89 (dk_at dksX3_stepOn_3 21 rfl rfl)
theorem dX3_stepOn_92 : decode cX3_stepOn 92 = .ok (.getfield 102, 3) := dk_180 0 102 (dk_at dksX3_stepOn_4 0 rfl rfl)
theorem dX3_stepOn_95 : decode cX3_stepOn 95 = .ok (.iconst 1, 1) := dk_4 (dk_at dksX3_stepOn_4 3 rfl rfl)
theorem dX3_stepOn_96 : decode cX3_stepOn 96 = .ok (.iadd, 1) := dk_96 (dk_at dksX3_stepOn_4 4 rfl rfl)
theorem dX3_stepOn_97 : decode cX3_stepOn 97 = .ok (.putfield 102, 3) := dk_181 0 102 (dk_at dksX3_stepOn_4 5 rfl rfl)
theorem dX3_stepOn_100 : decode cX3_stepOn 100 = .ok (.goto (-24), 3) := dk_167 255 232 (dk_at dksX3_stepOn_4 8 rfl rfl)
theorem dX3_stepOn_103 : decode cX3_stepOn 103 = .ok (.aload_n 0, 1) := dk_42 (dk_at dksX3_stepOn_4 11 rfl rfl)
theorem dX3_stepOn_104 : decode cX3_stepOn 104 = .ok (.iconst 1, 1) := dk_4 (dk_at dksX3_stepOn_4 12 rfl rfl)
theorem dX3_stepOn_105 : decode cX3_stepOn 105 = .ok (.putfield 112, 3) := dk_181 0 112 (dk_at dksX3_stepOn_4 13 rfl rfl)
theorem dX3_stepOn_108 : decode cX3_stepOn 108 = .ok (.goto 109, 3) := dk_167 0 109 (dk_at dksX3_stepOn_4 16 rfl rfl)
theorem dX3_stepOn_111 : decode cX3_stepOn 111 = .ok (.iload_n 1, 1) := dk_27 (dk_at dksX3_stepOn_4 19 rfl rfl)
theorem dX3_stepOn_112 : decode cX3_stepOn 112 = .ok (.invokestatic 119, 3) := dk_184 0 119 (dk_at dksX3_stepOn_4 20 rfl rfl)
theorem dX3_stepOn_115 : decode cX3_stepOn 115 = .ok (.ifCond .eq 71, 3) := dk_153 0 71 (dk_at dksX3_stepOn_5 0 rfl rfl)
theorem dX3_stepOn_118 : decode cX3_stepOn 118 = .ok (.aload_n 0, 1) := dk_42 (dk_at dksX3_stepOn_5 3 rfl rfl)
theorem dX3_stepOn_119 : decode cX3_stepOn 119 = .ok (.iconst 0, 1) := dk_3 (dk_at dksX3_stepOn_5 4 rfl rfl)
theorem dX3_stepOn_120 : decode cX3_stepOn 120 = .ok (.putfield 122, 3) := dk_181 0 122 (dk_at dksX3_stepOn_5 5 rfl rfl)
theorem dX3_stepOn_123 : decode cX3_stepOn 123 = .ok (.aload_n 0, 1) := dk_42 (dk_at dksX3_stepOn_5 8 rfl rfl)
theorem dX3_stepOn_124 : decode cX3_stepOn 124 = .ok (.aload_n 0, 1) := dk_42 (dk_at dksX3_stepOn_5 9 rfl rfl)
theorem dX3_stepOn_125 : decode cX3_stepOn 125 = .ok (.getfield 102, 3) := dk_180 0 102 (dk_at dksX3_stepOn_5 10 rfl rfl)
theorem dX3_stepOn_128 : decode cX3_stepOn 128 = .ok (.invokevirtual 105, 3) := dk_182 0 105 (dk_at dksX3_stepOn_5 13 rfl rfl)
theorem dX3_stepOn_131 : decode cX3_stepOn 131 = .ok (.invokestatic 119, 3) := dk_184 0 119 (dk_at dksX3_stepOn_5 16 rfl rfl)
theorem dX3_stepOn_134 : decode cX3_stepOn 134 = .ok (.ifCond .eq 44, 3) := dk_153 0 44 (dk_at dksX3_stepOn_5 19 rfl rfl)
theorem dX3_stepOn_137 : decode cX3_stepOn 137 = .ok (.aload_n 0, 1) := dk_42 (dk_at dksX3_stepOn_5 22 rfl rfl)
theorem dX3_stepOn_138 : decode cX3_stepOn 138 = .ok (.ldc 125, 2) := dk_18 125 (dk_at dksX3_stepOn_6 0 rfl rfl)
theorem dX3_stepOn_140 : decode cX3_stepOn 140 = .ok (.bipush 10, 2) := dk_16 10 (dk_at dksX3_stepOn_6 2 rfl rfl)
theorem dX3_stepOn_142 : decode cX3_stepOn 142 = .ok (.aload_n 0, 1) := dk_42 (dk_at dksX3_stepOn_6 4 rfl rfl)
theorem dX3_stepOn_143 : decode cX3_stepOn 143 = .ok (.getfield 122, 3) := dk_180 0 122 (dk_at dksX3_stepOn_6 5 rfl rfl)
theorem dX3_stepOn_146 : decode cX3_stepOn 146 = .ok (.imul, 1) := dk_104 (dk_at dksX3_stepOn_6 8 rfl rfl)
theorem dX3_stepOn_147 : decode cX3_stepOn 147 = .ok (.aload_n 0, 1) := dk_42 (dk_at dksX3_stepOn_6 9 rfl rfl)
theorem dX3_stepOn_148 : decode cX3_stepOn 148 = .ok (.aload_n 0, 1) := dk_42 (dk_at dksX3_stepOn_6 10 rfl rfl)
theorem dX3_stepOn_149 : decode cX3_stepOn 149 = .ok (.getfield 102, 3) := dk_180 0 102 (dk_at dksX3_stepOn_6 11 rfl rfl)
theorem dX3_stepOn_152 : decode cX3_stepOn 152 = .ok (.invokevirtual 105, 3) := dk_182 0 105 (dk_at dksX3_stepOn_6 14 rfl rfl)
theorem dX3_stepOn_155 : decode cX3_stepOn 155 = .ok (.iadd, 1) := dk_96 (dk_at dksX3_stepOn_6 17 rfl rfl)
theorem dX3_stepOn_156 : decode cX3_stepOn 156 = .ok (.bipush 48, 2) := dk_16 48 (dk_at dksX3_stepOn_6 18 rfl rfl)
theorem dX3_stepOn_158 : decode cX3_stepOn 158 = .ok (.isub, 1) := dk_100 (dk_at dksX3_stepOn_6 20 rfl rfl)
theorem dX3_stepOn_159 : decode cX3_stepOn 159 = .ok (.invokestatic 126, 3) := dk_184 0 126 (dk_at dksX3_stepOn_6 21 rfl rfl)
theorem dX3_stepOn_162 : decode cX3_stepOn 162 = .ok (.putfield 122, 3) := dk_181 0 122 (dk_at dksX3_stepOn_7 0 rfl rfl)
theorem dX3_stepOn_165 : decode cX3_stepOn 165 = .ok (.aload_n 0, 1) := dk_42 (dk_at dksX3_stepOn_7 3 rfl rfl)
theorem dX3_stepOn_166 : decode cX3_stepOn 166 = .ok (.dup, 1) := dk_89 (dk_at dksX3_stepOn_7 4 rfl rfl)
theorem dX3_stepOn_167 : decode cX3_stepOn 167 = .ok (.getfield 102, 3) := dk_180 0 102 (dk_at dksX3_stepOn_7 5 rfl rfl)
theorem dX3_stepOn_170 : decode cX3_stepOn 170 = .ok (.iconst 1, 1) := dk_4 (dk_at dksX3_stepOn_7 8 rfl rfl)
theorem dX3_stepOn_171 : decode cX3_stepOn 171 = .ok (.iadd, 1) := dk_96 (dk_at dksX3_stepOn_7 9 rfl rfl)
theorem dX3_stepOn_172 : decode cX3_stepOn 172 = .ok (.putfield 102, 3) := dk_181 0 102 (dk_at dksX3_stepOn_7 10 rfl rfl)
theorem dX3_stepOn_175 : decode cX3_stepOn 175 = .ok (.goto (-52), 3) := dk_167 255 204 (dk_at dksX3_stepOn_7 13 rfl rfl)
theorem dX3_stepOn_178 : decode cX3_stepOn 178 = .ok (.aload_n 0, 1) := dk_42 (dk_at dksX3_stepOn_7 16 rfl rfl)
theorem dX3_stepOn_179 : decode cX3_stepOn 179 = .ok (.iconst 2, 1) := dk_5 (dk_at dksX3_stepOn_7 17 rfl rfl)
theorem dX3_stepOn_180 : decode cX3_stepOn 180 = .ok (.putfield 112, 3) := dk_181 0 112 (dk_at dksX3_stepOn_7 18 rfl rfl)
theorem dX3_stepOn_183 : decode cX3_stepOn 183 = .ok (.goto 34, 3) := dk_167 0 34 (dk_at dksX3_stepOn_7 21 rfl rfl)
theorem dX3_stepOn_186 : decode cX3_stepOn 186 = .ok (.aload_n 0, 1) := dk_42 (dk_at dksX3_stepOn_8 0 rfl rfl)
theorem dX3_stepOn_187 : decode cX3_stepOn 187 = .ok (.dup, 1) := dk_89 (dk_at dksX3_stepOn_8 1 rfl rfl)
theorem dX3_stepOn_188 : decode cX3_stepOn 188 = .ok (.getfield 102, 3) := dk_180 0 102 (dk_at dksX3_stepOn_8 2 rfl rfl)
theorem dX3_stepOn_191 : decode cX3_stepOn 191 = .ok (.iconst 1, 1) := dk_4 (dk_at dksX3_stepOn_8 5 rfl rfl)
theorem dX3_stepOn_192 : decode cX3_stepOn 192 = .ok (.iadd, 1) := dk_96 (dk_at dksX3_stepOn_8 6 rfl rfl)
theorem dX3_stepOn_193 : decode cX3_stepOn 193 = .ok (.putfield 102, 3) := dk_181 0 102 (dk_at dksX3_stepOn_8 7 rfl rfl)
theorem dX3_stepOn_196 : decode cX3_stepOn 196 = .ok (.aload_n 0, 1) := dk_42 (dk_at dksX3_stepOn_8 10 rfl rfl)
theorem dX3_stepOn_197 : decode cX3_stepOn 197 = .ok (.iload_n 1, 1) := dk_27 (dk_at dksX3_stepOn_8 11 rfl rfl)
theorem dX3_stepOn_198 : decode cX3_stepOn 198 = .ok (.bipush 59, 2) := dk_16 59 (dk_at dksX3_stepOn_8 12 rfl rfl)
theorem dX3_stepOn_200 : decode cX3_stepOn 200 = .ok (.if_icmp .eq 9, 3) := dk_159 0 9 (dk_at dksX3_stepOn_8 14 rfl rfl)
theorem dX3_stepOn_203 : decode cX3_stepOn 203 = .ok (.iload_n 1, 1) := dk_27 (dk_at dksX3_stepOn_8 17 rfl rfl)
theorem dX3_stepOn_204 : decode cX3_stepOn 204 = .ok (.bipush 45, 2) := dk_16 45 (dk_at dksX3_stepOn_8 18 rfl rfl)
theorem dX3_stepOn_206 : decode cX3_stepOn 206 = .ok (.if_icmp .ne 7, 3) := dk_160 0 7 (dk_at dksX3_stepOn_8 20 rfl rfl)
theorem dX3_stepOn_209 : decode cX3_stepOn 209 = .ok (.iconst 3, 1) := dk_6 (dk_at dksX3_stepOn_8 23 rfl rfl)
theorem dX3_stepOn_210 : decode cX3_stepOn 210 = .ok (.goto 4, 3) := dk_167 0 4 (dk_at dksX3_stepOn_9 0 rfl rfl)
theorem dX3_stepOn_213 : decode cX3_stepOn 213 = .ok (.iconst 4, 1) := dk_7 (dk_at dksX3_stepOn_9 3 rfl rfl)
theorem dX3_stepOn_214 : decode cX3_stepOn 214 = .ok (.putfield 112, 3) := dk_181 0 112 (dk_at dksX3_stepOn_9 4 rfl rfl)
theorem dX3_stepOn_217 : decode cX3_stepOn 217 = .ok (.aload_n 0, 1) := dk_42 (dk_at dksX3_stepOn_9 7 rfl rfl)
theorem dX3_stepOn_218 : decode cX3_stepOn 218 = .ok (.aload_n 0, 1) := dk_42 (dk_at dksX3_stepOn_9 8 rfl rfl)
theorem dX3_stepOn_219 : decode cX3_stepOn 219 = .ok (.getfield 102, 3) := dk_180 0 102 (dk_at dksX3_stepOn_9 9 rfl rfl)
theorem dX3_stepOn_222 : decode cX3_stepOn 222 = .ok (.putfield 132, 3) := dk_181 0 132 (dk_at dksX3_stepOn_9 12 rfl rfl)
theorem dX3_stepOn_225 : decode cX3_stepOn 225 = .ok (.return_, 1) := dk_177 (dk_at dksX3_stepOn_9 15 rfl rfl)
abbrev cX3_byteAt : ByteArray := prog_15_method_6_code
def yX3_byteAt : MethodName := ⟨RX3, "byteAt", "(I)I"⟩
def dkwX3_byteAt_0 : List UInt8 := [27, 42, 180, 0, 99, 162, 0, 12, 42, 180, 0, 19, 27, 46, 167, 0, 4, 2, 172]
abbrev dktX3_byteAt_0 : List UInt8 := dkwX3_byteAt_0 ++ []
theorem dksX3_byteAt_0 : cX3_byteAt.data.toList.drop 0 = dktX3_byteAt_0 := by decide +kernel
theorem dX3_byteAt_0 : decode cX3_byteAt 0 = .ok (.iload_n 1, 1) := dk_27 (dk_at dksX3_byteAt_0 0 rfl rfl)
theorem dX3_byteAt_1 : decode cX3_byteAt 1 = .ok (.aload_n 0, 1) := dk_42 (dk_at dksX3_byteAt_0 1 rfl rfl)
theorem dX3_byteAt_2 : decode cX3_byteAt 2 = .ok (.getfield 99, 3) := dk_180 0 99 (dk_at dksX3_byteAt_0 2 rfl rfl)
theorem dX3_byteAt_5 : decode cX3_byteAt 5 = .ok (.if_icmp .ge 12, 3) := dk_162 0 12 (dk_at dksX3_byteAt_0 5 rfl rfl)
theorem dX3_byteAt_8 : decode cX3_byteAt 8 = .ok (.aload_n 0, 1) := dk_42 (dk_at dksX3_byteAt_0 8 rfl rfl)
theorem dX3_byteAt_9 : decode cX3_byteAt 9 = .ok (.getfield 19, 3) := dk_180 0 19 (dk_at dksX3_byteAt_0 9 rfl rfl)
theorem dX3_byteAt_12 : decode cX3_byteAt 12 = .ok (.iload_n 1, 1) := dk_27 (dk_at dksX3_byteAt_0 12 rfl rfl)
theorem dX3_byteAt_13 : decode cX3_byteAt 13 = .ok (.iaload, 1) := dk_46 (dk_at dksX3_byteAt_0 13 rfl rfl)
theorem dX3_byteAt_14 : decode cX3_byteAt 14 = .ok (.goto 4, 3) := dk_167 0 4 (dk_at dksX3_byteAt_0 14 rfl rfl)
theorem dX3_byteAt_17 : decode cX3_byteAt 17 = .ok (.iconst (-1), 1) := dk_2 (dk_at dksX3_byteAt_0 17 rfl rfl)
theorem dX3_byteAt_18 : decode cX3_byteAt 18 = .ok (.ireturn, 1) := dk_172 (dk_at dksX3_byteAt_0 18 rfl rfl)
abbrev cX3_isLetter : ByteArray := prog_15_method_7_code
def yX3_isLetter : MethodName := ⟨RX3, "isLetter", "(I)Z"⟩
def dkwX3_isLetter_0 : List UInt8 := [26, 16, 97, 161, 0, 13, 26, 16, 122, 163, 0, 7, 4, 167, 0, 4, 3, 172]
abbrev dktX3_isLetter_0 : List UInt8 := dkwX3_isLetter_0 ++ []
theorem dksX3_isLetter_0 : cX3_isLetter.data.toList.drop 0 = dktX3_isLetter_0 := by decide +kernel
theorem dX3_isLetter_0 : decode cX3_isLetter 0 = .ok (.iload_n 0, 1) := dk_26 (dk_at dksX3_isLetter_0 0 rfl rfl)
theorem dX3_isLetter_1 : decode cX3_isLetter 1 = .ok (.bipush 97, 2) := dk_16 97 (dk_at dksX3_isLetter_0 1 rfl rfl)
theorem dX3_isLetter_3 : decode cX3_isLetter 3 = .ok (.if_icmp .lt 13, 3) := dk_161 0 13 (dk_at dksX3_isLetter_0 3 rfl rfl)
theorem dX3_isLetter_6 : decode cX3_isLetter 6 = .ok (.iload_n 0, 1) := dk_26 (dk_at dksX3_isLetter_0 6 rfl rfl)
theorem dX3_isLetter_7 : decode cX3_isLetter 7 = .ok (.bipush 122, 2) := dk_16 122 (dk_at dksX3_isLetter_0 7 rfl rfl)
theorem dX3_isLetter_9 : decode cX3_isLetter 9 = .ok (.if_icmp .gt 7, 3) := dk_163 0 7 (dk_at dksX3_isLetter_0 9 rfl rfl)
theorem dX3_isLetter_12 : decode cX3_isLetter 12 = .ok (.iconst 1, 1) := dk_4 (dk_at dksX3_isLetter_0 12 rfl rfl)
theorem dX3_isLetter_13 : decode cX3_isLetter 13 = .ok (.goto 4, 3) := dk_167 0 4 (dk_at dksX3_isLetter_0 13 rfl rfl)
theorem dX3_isLetter_16 : decode cX3_isLetter 16 = .ok (.iconst 0, 1) := dk_3 (dk_at dksX3_isLetter_0 16 rfl rfl)
theorem dX3_isLetter_17 : decode cX3_isLetter 17 = .ok (.ireturn, 1) := dk_172 (dk_at dksX3_isLetter_0 17 rfl rfl)
abbrev cX3_isDigit : ByteArray := prog_15_method_8_code
def yX3_isDigit : MethodName := ⟨RX3, "isDigit", "(I)Z"⟩
def dkwX3_isDigit_0 : List UInt8 := [26, 16, 48, 161, 0, 13, 26, 16, 57, 163, 0, 7, 4, 167, 0, 4, 3, 172]
abbrev dktX3_isDigit_0 : List UInt8 := dkwX3_isDigit_0 ++ []
theorem dksX3_isDigit_0 : cX3_isDigit.data.toList.drop 0 = dktX3_isDigit_0 := by decide +kernel
theorem dX3_isDigit_0 : decode cX3_isDigit 0 = .ok (.iload_n 0, 1) := dk_26 (dk_at dksX3_isDigit_0 0 rfl rfl)
theorem dX3_isDigit_1 : decode cX3_isDigit 1 = .ok (.bipush 48, 2) := dk_16 48 (dk_at dksX3_isDigit_0 1 rfl rfl)
theorem dX3_isDigit_3 : decode cX3_isDigit 3 = .ok (.if_icmp .lt 13, 3) := dk_161 0 13 (dk_at dksX3_isDigit_0 3 rfl rfl)
theorem dX3_isDigit_6 : decode cX3_isDigit 6 = .ok (.iload_n 0, 1) := dk_26 (dk_at dksX3_isDigit_0 6 rfl rfl)
theorem dX3_isDigit_7 : decode cX3_isDigit 7 = .ok (.bipush 57, 2) := dk_16 57 (dk_at dksX3_isDigit_0 7 rfl rfl)
theorem dX3_isDigit_9 : decode cX3_isDigit 9 = .ok (.if_icmp .gt 7, 3) := dk_163 0 7 (dk_at dksX3_isDigit_0 9 rfl rfl)
theorem dX3_isDigit_12 : decode cX3_isDigit 12 = .ok (.iconst 1, 1) := dk_4 (dk_at dksX3_isDigit_0 12 rfl rfl)
theorem dX3_isDigit_13 : decode cX3_isDigit 13 = .ok (.goto 4, 3) := dk_167 0 4 (dk_at dksX3_isDigit_0 13 rfl rfl)
theorem dX3_isDigit_16 : decode cX3_isDigit 16 = .ok (.iconst 0, 1) := dk_3 (dk_at dksX3_isDigit_0 16 rfl rfl)
theorem dX3_isDigit_17 : decode cX3_isDigit 17 = .ok (.ireturn, 1) := dk_172 (dk_at dksX3_isDigit_0 17 rfl rfl)
abbrev cX3_readClause : ByteArray := prog_15_method_18_code
def yX3_readClause : MethodName := ⟨RX3, "readClause", "()V"⟩
def dkwX3_readClause_8 : List UInt8 := [181, 0, 180, 177]
abbrev dktX3_readClause_8 : List UInt8 := dkwX3_readClause_8 ++ []
def dkwX3_readClause_7 : List UInt8 := [42, 4, 182, 0, 151, 42, 180, 0, 135, 154, 0, 7, 42, 182, 0, 158, 42, 89, 180, 0, 180, 4, 96]
abbrev dktX3_readClause_7 : List UInt8 := dkwX3_readClause_7 ++ dktX3_readClause_8
def dkwX3_readClause_6 : List UInt8 := [167, 0, 8, 42, 4, 182, 0, 151, 42, 180, 0, 135, 154, 0, 17, 42, 16, 59, 182, 0, 161, 154, 0, 8]
abbrev dktX3_readClause_6 : List UInt8 := dkwX3_readClause_6 ++ dktX3_readClause_7
def dkwX3_readClause_5 : List UInt8 := [16, 14, 27, 96, 28, 79, 42, 180, 0, 135, 154, 0, 13, 42, 180, 0, 13, 16, 22, 27, 96, 29, 79]
abbrev dktX3_readClause_5 : List UInt8 := dkwX3_readClause_5 ++ dktX3_readClause_6
def dkwX3_readClause_4 : List UInt8 := [182, 0, 158, 42, 182, 0, 189, 61, 42, 182, 0, 189, 62, 42, 180, 0, 135, 154, 0, 13, 42, 180, 0, 13]
abbrev dktX3_readClause_4 : List UInt8 := dkwX3_readClause_4 ++ dktX3_readClause_5
def dkwX3_readClause_3 : List UInt8 := [182, 0, 176, 153, 0, 70, 42, 182, 0, 158, 42, 182, 0, 167, 60, 42, 180, 0, 135, 154, 0, 7, 42]
abbrev dktX3_readClause_3 : List UInt8 := dkwX3_readClause_3 ++ dktX3_readClause_4
def dkwX3_readClause_2 : List UInt8 := [167, 0, 100, 42, 18, 183, 182, 0, 176, 153, 0, 10, 42, 182, 0, 185, 167, 0, 84, 42, 18, 188]
abbrev dktX3_readClause_2 : List UInt8 := dkwX3_readClause_2 ++ dktX3_readClause_3
def dkwX3_readClause_1 : List UInt8 := [180, 0, 135, 154, 0, 7, 42, 182, 0, 158, 42, 180, 0, 13, 3, 42, 4, 16, 8, 182, 0, 164, 79]
abbrev dktX3_readClause_1 : List UInt8 := dkwX3_readClause_1 ++ dktX3_readClause_2
def dkwX3_readClause_0 : List UInt8 := [42, 18, 174, 182, 0, 176, 153, 0, 42, 42, 180, 0, 180, 158, 0, 8, 42, 7, 182, 0, 151, 42]
abbrev dktX3_readClause_0 : List UInt8 := dkwX3_readClause_0 ++ dktX3_readClause_1
theorem dksX3_readClause_0 : cX3_readClause.data.toList.drop 0 = dktX3_readClause_0 := by decide +kernel
theorem dksX3_readClause_1 : cX3_readClause.data.toList.drop 22 = dktX3_readClause_1 := dk_seg dksX3_readClause_0 22 rfl rfl
theorem dksX3_readClause_2 : cX3_readClause.data.toList.drop 45 = dktX3_readClause_2 := dk_seg dksX3_readClause_1 23 rfl rfl
theorem dksX3_readClause_3 : cX3_readClause.data.toList.drop 67 = dktX3_readClause_3 := dk_seg dksX3_readClause_2 22 rfl rfl
theorem dksX3_readClause_4 : cX3_readClause.data.toList.drop 90 = dktX3_readClause_4 := dk_seg dksX3_readClause_3 23 rfl rfl
theorem dksX3_readClause_5 : cX3_readClause.data.toList.drop 114 = dktX3_readClause_5 := dk_seg dksX3_readClause_4 24 rfl rfl
theorem dksX3_readClause_6 : cX3_readClause.data.toList.drop 137 = dktX3_readClause_6 := dk_seg dksX3_readClause_5 23 rfl rfl
theorem dksX3_readClause_7 : cX3_readClause.data.toList.drop 161 = dktX3_readClause_7 := dk_seg dksX3_readClause_6 24 rfl rfl
theorem dksX3_readClause_8 : cX3_readClause.data.toList.drop 184 = dktX3_readClause_8 := dk_seg dksX3_readClause_7 23 rfl rfl
theorem dX3_readClause_0 : decode cX3_readClause 0 = .ok (.aload_n 0, 1) := dk_42 (dk_at dksX3_readClause_0 0 rfl rfl)
theorem dX3_readClause_1 : decode cX3_readClause 1 = .ok (.ldc 174, 2) := dk_18 174 (dk_at dksX3_readClause_0 1 rfl rfl)
theorem dX3_readClause_3 : decode cX3_readClause 3 = .ok (.invokevirtual 176, 3) := dk_182 0 176 (dk_at dksX3_readClause_0 3 rfl rfl)
theorem dX3_readClause_6 : decode cX3_readClause 6 = .ok (.ifCond .eq 42, 3) := dk_153 0 42 (dk_at dksX3_readClause_0 6 rfl rfl)
theorem dX3_readClause_9 : decode cX3_readClause 9 = .ok (.aload_n 0, 1) := dk_42 (dk_at dksX3_readClause_0 9 rfl rfl)
theorem dX3_readClause_10 : decode cX3_readClause 10 = .ok (.getfield 180, 3) := dk_180 0 180 (dk_at dksX3_readClause_0 10 rfl rfl)
theorem dX3_readClause_13 : decode cX3_readClause 13 = .ok (.ifCond .le 8, 3) := dk_158 0 8 (dk_at dksX3_readClause_0 13 rfl rfl)
theorem dX3_readClause_16 : decode cX3_readClause 16 = .ok (.aload_n 0, 1) := dk_42 (dk_at dksX3_readClause_0 16 rfl rfl)
theorem dX3_readClause_17 : decode cX3_readClause 17 = .ok (.iconst 4, 1) := dk_7 (dk_at dksX3_readClause_0 17 rfl rfl)
theorem dX3_readClause_18 : decode cX3_readClause 18 = .ok (.invokevirtual 151, 3) := dk_182 0 151 (dk_at dksX3_readClause_0 18 rfl rfl)
theorem dX3_readClause_21 : decode cX3_readClause 21 = .ok (.aload_n 0, 1) := dk_42 (dk_at dksX3_readClause_0 21 rfl rfl)
theorem dX3_readClause_22 : decode cX3_readClause 22 = .ok (.getfield 135, 3) := dk_180 0 135 (dk_at dksX3_readClause_1 0 rfl rfl)
theorem dX3_readClause_25 : decode cX3_readClause 25 = .ok (.ifCond .ne 7, 3) := dk_154 0 7 (dk_at dksX3_readClause_1 3 rfl rfl)
theorem dX3_readClause_28 : decode cX3_readClause 28 = .ok (.aload_n 0, 1) := dk_42 (dk_at dksX3_readClause_1 6 rfl rfl)
theorem dX3_readClause_29 : decode cX3_readClause 29 = .ok (.invokevirtual 158, 3) := dk_182 0 158 (dk_at dksX3_readClause_1 7 rfl rfl)
theorem dX3_readClause_32 : decode cX3_readClause 32 = .ok (.aload_n 0, 1) := dk_42 (dk_at dksX3_readClause_1 10 rfl rfl)
theorem dX3_readClause_33 : decode cX3_readClause 33 = .ok (.getfield 13, 3) := dk_180 0 13 (dk_at dksX3_readClause_1 11 rfl rfl)
theorem dX3_readClause_36 : decode cX3_readClause 36 = .ok (.iconst 0, 1) := dk_3 (dk_at dksX3_readClause_1 14 rfl rfl)
theorem dX3_readClause_37 : decode cX3_readClause 37 = .ok (.aload_n 0, 1) := dk_42 (dk_at dksX3_readClause_1 15 rfl rfl)
theorem dX3_readClause_38 : decode cX3_readClause 38 = .ok (.iconst 1, 1) := dk_4 (dk_at dksX3_readClause_1 16 rfl rfl)
theorem dX3_readClause_39 : decode cX3_readClause 39 = .ok (.bipush 8, 2) := dk_16 8 (dk_at dksX3_readClause_1 17 rfl rfl)
theorem dX3_readClause_41 : decode cX3_readClause 41 = .ok (.invokevirtual 164, 3) := dk_182 0 164 (dk_at dksX3_readClause_1 19 rfl rfl)
theorem dX3_readClause_44 : decode cX3_readClause 44 = .ok (.iastore, 1) := dk_79 (dk_at dksX3_readClause_1 22 rfl rfl)
theorem dX3_readClause_45 : decode cX3_readClause 45 = .ok (.goto 100, 3) := dk_167 0 100 (dk_at dksX3_readClause_2 0 rfl rfl)
theorem dX3_readClause_48 : decode cX3_readClause 48 = .ok (.aload_n 0, 1) := dk_42 (dk_at dksX3_readClause_2 3 rfl rfl)
theorem dX3_readClause_49 : decode cX3_readClause 49 = .ok (.ldc 183, 2) := dk_18 183 (dk_at dksX3_readClause_2 4 rfl rfl)
theorem dX3_readClause_51 : decode cX3_readClause 51 = .ok (.invokevirtual 176, 3) := dk_182 0 176 (dk_at dksX3_readClause_2 6 rfl rfl)
theorem dX3_readClause_54 : decode cX3_readClause 54 = .ok (.ifCond .eq 10, 3) := dk_153 0 10 (dk_at dksX3_readClause_2 9 rfl rfl)
theorem dX3_readClause_57 : decode cX3_readClause 57 = .ok (.aload_n 0, 1) := dk_42 (dk_at dksX3_readClause_2 12 rfl rfl)
theorem dX3_readClause_58 : decode cX3_readClause 58 = .ok (.invokevirtual 185, 3) := dk_182 0 185 (dk_at dksX3_readClause_2 13 rfl rfl)
theorem dX3_readClause_61 : decode cX3_readClause 61 = .ok (.goto 84, 3) := dk_167 0 84 (dk_at dksX3_readClause_2 16 rfl rfl)
theorem dX3_readClause_64 : decode cX3_readClause 64 = .ok (.aload_n 0, 1) := dk_42 (dk_at dksX3_readClause_2 19 rfl rfl)
theorem dX3_readClause_65 : decode cX3_readClause 65 = .ok (.ldc 188, 2) := dk_18 188 (dk_at dksX3_readClause_2 20 rfl rfl)
theorem dX3_readClause_67 : decode cX3_readClause 67 = .ok (.invokevirtual 176, 3) := dk_182 0 176 (dk_at dksX3_readClause_3 0 rfl rfl)
theorem dX3_readClause_70 : decode cX3_readClause 70 = .ok (.ifCond .eq 70, 3) := dk_153 0 70 (dk_at dksX3_readClause_3 3 rfl rfl)
theorem dX3_readClause_73 : decode cX3_readClause 73 = .ok (.aload_n 0, 1) := dk_42 (dk_at dksX3_readClause_3 6 rfl rfl)
theorem dX3_readClause_74 : decode cX3_readClause 74 = .ok (.invokevirtual 158, 3) := dk_182 0 158 (dk_at dksX3_readClause_3 7 rfl rfl)
theorem dX3_readClause_77 : decode cX3_readClause 77 = .ok (.aload_n 0, 1) := dk_42 (dk_at dksX3_readClause_3 10 rfl rfl)
theorem dX3_readClause_78 : decode cX3_readClause 78 = .ok (.invokevirtual 167, 3) := dk_182 0 167 (dk_at dksX3_readClause_3 11 rfl rfl)
theorem dX3_readClause_81 : decode cX3_readClause 81 = .ok (.istore_n 1, 1) := dk_60 (dk_at dksX3_readClause_3 14 rfl rfl)
theorem dX3_readClause_82 : decode cX3_readClause 82 = .ok (.aload_n 0, 1) := dk_42 (dk_at dksX3_readClause_3 15 rfl rfl)
theorem dX3_readClause_83 : decode cX3_readClause 83 = .ok (.getfield 135, 3) := dk_180 0 135 (dk_at dksX3_readClause_3 16 rfl rfl)
theorem dX3_readClause_86 : decode cX3_readClause 86 = .ok (.ifCond .ne 7, 3) := dk_154 0 7 (dk_at dksX3_readClause_3 19 rfl rfl)
theorem dX3_readClause_89 : decode cX3_readClause 89 = .ok (.aload_n 0, 1) := dk_42 (dk_at dksX3_readClause_3 22 rfl rfl)
theorem dX3_readClause_90 : decode cX3_readClause 90 = .ok (.invokevirtual 158, 3) := dk_182 0 158 (dk_at dksX3_readClause_4 0 rfl rfl)
theorem dX3_readClause_93 : decode cX3_readClause 93 = .ok (.aload_n 0, 1) := dk_42 (dk_at dksX3_readClause_4 3 rfl rfl)
theorem dX3_readClause_94 : decode cX3_readClause 94 = .ok (.invokevirtual 189, 3) := dk_182 0 189 (dk_at dksX3_readClause_4 4 rfl rfl)
theorem dX3_readClause_97 : decode cX3_readClause 97 = .ok (.istore_n 2, 1) := dk_61 (dk_at dksX3_readClause_4 7 rfl rfl)
theorem dX3_readClause_98 : decode cX3_readClause 98 = .ok (.aload_n 0, 1) := dk_42 (dk_at dksX3_readClause_4 8 rfl rfl)
theorem dX3_readClause_99 : decode cX3_readClause 99 = .ok (.invokevirtual 189, 3) := dk_182 0 189 (dk_at dksX3_readClause_4 9 rfl rfl)
theorem dX3_readClause_102 : decode cX3_readClause 102 = .ok (.istore_n 3, 1) := dk_62 (dk_at dksX3_readClause_4 12 rfl rfl)
theorem dX3_readClause_103 : decode cX3_readClause 103 = .ok (.aload_n 0, 1) := dk_42 (dk_at dksX3_readClause_4 13 rfl rfl)
theorem dX3_readClause_104 : decode cX3_readClause 104 = .ok (.getfield 135, 3) := dk_180 0 135 (dk_at dksX3_readClause_4 14 rfl rfl)
theorem dX3_readClause_107 : decode cX3_readClause 107 = .ok (.ifCond .ne 13, 3) := dk_154 0 13 (dk_at dksX3_readClause_4 17 rfl rfl)
theorem dX3_readClause_110 : decode cX3_readClause 110 = .ok (.aload_n 0, 1) := dk_42 (dk_at dksX3_readClause_4 20 rfl rfl)
theorem dX3_readClause_111 : decode cX3_readClause 111 = .ok (.getfield 13, 3) := dk_180 0 13 (dk_at dksX3_readClause_4 21 rfl rfl)
theorem dX3_readClause_114 : decode cX3_readClause 114 = .ok (.bipush 14, 2) := dk_16 14 (dk_at dksX3_readClause_5 0 rfl rfl)
theorem dX3_readClause_116 : decode cX3_readClause 116 = .ok (.iload_n 1, 1) := dk_27 (dk_at dksX3_readClause_5 2 rfl rfl)
theorem dX3_readClause_117 : decode cX3_readClause 117 = .ok (.iadd, 1) := dk_96 (dk_at dksX3_readClause_5 3 rfl rfl)
theorem dX3_readClause_118 : decode cX3_readClause 118 = .ok (.iload_n 2, 1) := dk_28 (dk_at dksX3_readClause_5 4 rfl rfl)
theorem dX3_readClause_119 : decode cX3_readClause 119 = .ok (.iastore, 1) := dk_79 (dk_at dksX3_readClause_5 5 rfl rfl)
theorem dX3_readClause_120 : decode cX3_readClause 120 = .ok (.aload_n 0, 1) := dk_42 (dk_at dksX3_readClause_5 6 rfl rfl)
theorem dX3_readClause_121 : decode cX3_readClause 121 = .ok (.getfield 135, 3) := dk_180 0 135 (dk_at dksX3_readClause_5 7 rfl rfl)
theorem dX3_readClause_124 : decode cX3_readClause 124 = .ok (.ifCond .ne 13, 3) := dk_154 0 13 (dk_at dksX3_readClause_5 10 rfl rfl)
theorem dX3_readClause_127 : decode cX3_readClause 127 = .ok (.aload_n 0, 1) := dk_42 (dk_at dksX3_readClause_5 13 rfl rfl)
theorem dX3_readClause_128 : decode cX3_readClause 128 = .ok (.getfield 13, 3) := dk_180 0 13 (dk_at dksX3_readClause_5 14 rfl rfl)
theorem dX3_readClause_131 : decode cX3_readClause 131 = .ok (.bipush 22, 2) := dk_16 22 (dk_at dksX3_readClause_5 17 rfl rfl)
theorem dX3_readClause_133 : decode cX3_readClause 133 = .ok (.iload_n 1, 1) := dk_27 (dk_at dksX3_readClause_5 19 rfl rfl)
theorem dX3_readClause_134 : decode cX3_readClause 134 = .ok (.iadd, 1) := dk_96 (dk_at dksX3_readClause_5 20 rfl rfl)
theorem dX3_readClause_135 : decode cX3_readClause 135 = .ok (.iload_n 3, 1) := dk_29 (dk_at dksX3_readClause_5 21 rfl rfl)
theorem dX3_readClause_136 : decode cX3_readClause 136 = .ok (.iastore, 1) := dk_79 (dk_at dksX3_readClause_5 22 rfl rfl)
theorem dX3_readClause_137 : decode cX3_readClause 137 = .ok (.goto 8, 3) := dk_167 0 8 (dk_at dksX3_readClause_6 0 rfl rfl)
theorem dX3_readClause_140 : decode cX3_readClause 140 = .ok (.aload_n 0, 1) := dk_42 (dk_at dksX3_readClause_6 3 rfl rfl)
theorem dX3_readClause_141 : decode cX3_readClause 141 = .ok (.iconst 1, 1) := dk_4 (dk_at dksX3_readClause_6 4 rfl rfl)
theorem dX3_readClause_142 : decode cX3_readClause 142 = .ok (.invokevirtual 151, 3) := dk_182 0 151 (dk_at dksX3_readClause_6 5 rfl rfl)
theorem dX3_readClause_145 : decode cX3_readClause 145 = .ok (.aload_n 0, 1) := dk_42 (dk_at dksX3_readClause_6 8 rfl rfl)
theorem dX3_readClause_146 : decode cX3_readClause 146 = .ok (.getfield 135, 3) := dk_180 0 135 (dk_at dksX3_readClause_6 9 rfl rfl)
theorem dX3_readClause_149 : decode cX3_readClause 149 = .ok (.ifCond .ne 17, 3) := dk_154 0 17 (dk_at dksX3_readClause_6 12 rfl rfl)
theorem dX3_readClause_152 : decode cX3_readClause 152 = .ok (.aload_n 0, 1) := dk_42 (dk_at dksX3_readClause_6 15 rfl rfl)
theorem dX3_readClause_153 : decode cX3_readClause 153 = .ok (.bipush 59, 2) := dk_16 59 (dk_at dksX3_readClause_6 16 rfl rfl)
theorem dX3_readClause_155 : decode cX3_readClause 155 = .ok (.invokevirtual 161, 3) := dk_182 0 161 (dk_at dksX3_readClause_6 18 rfl rfl)
theorem dX3_readClause_158 : decode cX3_readClause 158 = .ok (.ifCond .ne 8, 3) := dk_154 0 8 (dk_at dksX3_readClause_6 21 rfl rfl)
theorem dX3_readClause_161 : decode cX3_readClause 161 = .ok (.aload_n 0, 1) := dk_42 (dk_at dksX3_readClause_7 0 rfl rfl)
theorem dX3_readClause_162 : decode cX3_readClause 162 = .ok (.iconst 1, 1) := dk_4 (dk_at dksX3_readClause_7 1 rfl rfl)
theorem dX3_readClause_163 : decode cX3_readClause 163 = .ok (.invokevirtual 151, 3) := dk_182 0 151 (dk_at dksX3_readClause_7 2 rfl rfl)
theorem dX3_readClause_166 : decode cX3_readClause 166 = .ok (.aload_n 0, 1) := dk_42 (dk_at dksX3_readClause_7 5 rfl rfl)
theorem dX3_readClause_167 : decode cX3_readClause 167 = .ok (.getfield 135, 3) := dk_180 0 135 (dk_at dksX3_readClause_7 6 rfl rfl)
theorem dX3_readClause_170 : decode cX3_readClause 170 = .ok (.ifCond .ne 7, 3) := dk_154 0 7 (dk_at dksX3_readClause_7 9 rfl rfl)
theorem dX3_readClause_173 : decode cX3_readClause 173 = .ok (.aload_n 0, 1) := dk_42 (dk_at dksX3_readClause_7 12 rfl rfl)
theorem dX3_readClause_174 : decode cX3_readClause 174 = .ok (.invokevirtual 158, 3) := dk_182 0 158 (dk_at dksX3_readClause_7 13 rfl rfl)
theorem dX3_readClause_177 : decode cX3_readClause 177 = .ok (.aload_n 0, 1) := dk_42 (dk_at dksX3_readClause_7 16 rfl rfl)
theorem dX3_readClause_178 : decode cX3_readClause 178 = .ok (.dup, 1) := dk_89 (dk_at dksX3_readClause_7 17 rfl rfl)
theorem dX3_readClause_179 : decode cX3_readClause 179 = .ok (.getfield 180, 3) := dk_180 0 180 (dk_at dksX3_readClause_7 18 rfl rfl)
theorem dX3_readClause_182 : decode cX3_readClause 182 = .ok (.iconst 1, 1) := dk_4 (dk_at dksX3_readClause_7 21 rfl rfl)
theorem dX3_readClause_183 : decode cX3_readClause 183 = .ok (.iadd, 1) := dk_96 (dk_at dksX3_readClause_7 22 rfl rfl)
theorem dX3_readClause_184 : decode cX3_readClause 184 = .ok (.putfield 180, 3) := dk_181 0 180 (dk_at dksX3_readClause_8 0 rfl rfl)
theorem dX3_readClause_187 : decode cX3_readClause 187 = .ok (.return_, 1) := dk_177 (dk_at dksX3_readClause_8 3 rfl rfl)
abbrev cX3_is : ByteArray := prog_15_method_11_code
def yX3_is : MethodName := ⟨RX3, "is", "(Ljava/lang/String;)Z"⟩
def dkwX3_is_3 : List UInt8 := [167, 0, 4, 3, 61, 132, 3, 1, 167, 255, 216, 28, 172]
abbrev dktX3_is_3 : List UInt8 := dkwX3_is_3 ++ []
def dkwX3_is_2 : List UInt8 := [162, 0, 34, 43, 29, 182, 0, 147, 42, 180, 0, 19, 42, 180, 0, 109, 29, 96, 46, 160, 0, 7, 4]
abbrev dktX3_is_2 : List UInt8 := dkwX3_is_2 ++ dktX3_is_3
def dkwX3_is_1 : List UInt8 := [180, 0, 109, 100, 160, 0, 7, 4, 167, 0, 4, 3, 61, 3, 62, 28, 153, 0, 42, 29, 43, 182, 0, 141]
abbrev dktX3_is_1 : List UInt8 := dkwX3_is_1 ++ dktX3_is_2
def dkwX3_is_0 : List UInt8 := [42, 180, 0, 135, 154, 0, 31, 42, 180, 0, 112, 4, 160, 0, 23, 43, 182, 0, 141, 42, 180, 0, 132, 42]
abbrev dktX3_is_0 : List UInt8 := dkwX3_is_0 ++ dktX3_is_1
theorem dksX3_is_0 : cX3_is.data.toList.drop 0 = dktX3_is_0 := by decide +kernel
theorem dksX3_is_1 : cX3_is.data.toList.drop 24 = dktX3_is_1 := dk_seg dksX3_is_0 24 rfl rfl
theorem dksX3_is_2 : cX3_is.data.toList.drop 48 = dktX3_is_2 := dk_seg dksX3_is_1 24 rfl rfl
theorem dksX3_is_3 : cX3_is.data.toList.drop 71 = dktX3_is_3 := dk_seg dksX3_is_2 23 rfl rfl
theorem dX3_is_0 : decode cX3_is 0 = .ok (.aload_n 0, 1) := dk_42 (dk_at dksX3_is_0 0 rfl rfl)
theorem dX3_is_1 : decode cX3_is 1 = .ok (.getfield 135, 3) := dk_180 0 135 (dk_at dksX3_is_0 1 rfl rfl)
theorem dX3_is_4 : decode cX3_is 4 = .ok (.ifCond .ne 31, 3) := dk_154 0 31 (dk_at dksX3_is_0 4 rfl rfl)
theorem dX3_is_7 : decode cX3_is 7 = .ok (.aload_n 0, 1) := dk_42 (dk_at dksX3_is_0 7 rfl rfl)
theorem dX3_is_8 : decode cX3_is 8 = .ok (.getfield 112, 3) := dk_180 0 112 (dk_at dksX3_is_0 8 rfl rfl)
theorem dX3_is_11 : decode cX3_is 11 = .ok (.iconst 1, 1) := dk_4 (dk_at dksX3_is_0 11 rfl rfl)
theorem dX3_is_12 : decode cX3_is 12 = .ok (.if_icmp .ne 23, 3) := dk_160 0 23 (dk_at dksX3_is_0 12 rfl rfl)
theorem dX3_is_15 : decode cX3_is 15 = .ok (.aload_n 1, 1) := dk_43 (dk_at dksX3_is_0 15 rfl rfl)
theorem dX3_is_16 : decode cX3_is 16 = .ok (.invokevirtual 141, 3) := dk_182 0 141 (dk_at dksX3_is_0 16 rfl rfl)
theorem dX3_is_19 : decode cX3_is 19 = .ok (.aload_n 0, 1) := dk_42 (dk_at dksX3_is_0 19 rfl rfl)
theorem dX3_is_20 : decode cX3_is 20 = .ok (.getfield 132, 3) := dk_180 0 132 (dk_at dksX3_is_0 20 rfl rfl)
theorem dX3_is_23 : decode cX3_is 23 = .ok (.aload_n 0, 1) := dk_42 (dk_at dksX3_is_0 23 rfl rfl)
theorem dX3_is_24 : decode cX3_is 24 = .ok (.getfield 109, 3) := dk_180 0 109 (dk_at dksX3_is_1 0 rfl rfl)
theorem dX3_is_27 : decode cX3_is 27 = .ok (.isub, 1) := dk_100 (dk_at dksX3_is_1 3 rfl rfl)
theorem dX3_is_28 : decode cX3_is 28 = .ok (.if_icmp .ne 7, 3) := dk_160 0 7 (dk_at dksX3_is_1 4 rfl rfl)
theorem dX3_is_31 : decode cX3_is 31 = .ok (.iconst 1, 1) := dk_4 (dk_at dksX3_is_1 7 rfl rfl)
theorem dX3_is_32 : decode cX3_is 32 = .ok (.goto 4, 3) := dk_167 0 4 (dk_at dksX3_is_1 8 rfl rfl)
theorem dX3_is_35 : decode cX3_is 35 = .ok (.iconst 0, 1) := dk_3 (dk_at dksX3_is_1 11 rfl rfl)
theorem dX3_is_36 : decode cX3_is 36 = .ok (.istore_n 2, 1) := dk_61 (dk_at dksX3_is_1 12 rfl rfl)
theorem dX3_is_37 : decode cX3_is 37 = .ok (.iconst 0, 1) := dk_3 (dk_at dksX3_is_1 13 rfl rfl)
theorem dX3_is_38 : decode cX3_is 38 = .ok (.istore_n 3, 1) := dk_62 (dk_at dksX3_is_1 14 rfl rfl)
theorem dX3_is_39 : decode cX3_is 39 = .ok (.iload_n 2, 1) := dk_28 (dk_at dksX3_is_1 15 rfl rfl)
theorem dX3_is_40 : decode cX3_is 40 = .ok (.ifCond .eq 42, 3) := dk_153 0 42 (dk_at dksX3_is_1 16 rfl rfl)
theorem dX3_is_43 : decode cX3_is 43 = .ok (.iload_n 3, 1) := dk_29 (dk_at dksX3_is_1 19 rfl rfl)
theorem dX3_is_44 : decode cX3_is 44 = .ok (.aload_n 1, 1) := dk_43 (dk_at dksX3_is_1 20 rfl rfl)
theorem dX3_is_45 : decode cX3_is 45 = .ok (.invokevirtual 141, 3) := dk_182 0 141 (dk_at dksX3_is_1 21 rfl rfl)
theorem dX3_is_48 : decode cX3_is 48 = .ok (.if_icmp .ge 34, 3) := dk_162 0 34 (dk_at dksX3_is_2 0 rfl rfl)
theorem dX3_is_51 : decode cX3_is 51 = .ok (.aload_n 1, 1) := dk_43 (dk_at dksX3_is_2 3 rfl rfl)
theorem dX3_is_52 : decode cX3_is 52 = .ok (.iload_n 3, 1) := dk_29 (dk_at dksX3_is_2 4 rfl rfl)
theorem dX3_is_53 : decode cX3_is 53 = .ok (.invokevirtual 147, 3) := dk_182 0 147 (dk_at dksX3_is_2 5 rfl rfl)
theorem dX3_is_56 : decode cX3_is 56 = .ok (.aload_n 0, 1) := dk_42 (dk_at dksX3_is_2 8 rfl rfl)
theorem dX3_is_57 : decode cX3_is 57 = .ok (.getfield 19, 3) := dk_180 0 19 (dk_at dksX3_is_2 9 rfl rfl)
theorem dX3_is_60 : decode cX3_is 60 = .ok (.aload_n 0, 1) := dk_42 (dk_at dksX3_is_2 12 rfl rfl)
theorem dX3_is_61 : decode cX3_is 61 = .ok (.getfield 109, 3) := dk_180 0 109 (dk_at dksX3_is_2 13 rfl rfl)
theorem dX3_is_64 : decode cX3_is 64 = .ok (.iload_n 3, 1) := dk_29 (dk_at dksX3_is_2 16 rfl rfl)
theorem dX3_is_65 : decode cX3_is 65 = .ok (.iadd, 1) := dk_96 (dk_at dksX3_is_2 17 rfl rfl)
theorem dX3_is_66 : decode cX3_is 66 = .ok (.iaload, 1) := dk_46 (dk_at dksX3_is_2 18 rfl rfl)
theorem dX3_is_67 : decode cX3_is 67 = .ok (.if_icmp .ne 7, 3) := dk_160 0 7 (dk_at dksX3_is_2 19 rfl rfl)
theorem dX3_is_70 : decode cX3_is 70 = .ok (.iconst 1, 1) := dk_4 (dk_at dksX3_is_2 22 rfl rfl)
theorem dX3_is_71 : decode cX3_is 71 = .ok (.goto 4, 3) := dk_167 0 4 (dk_at dksX3_is_3 0 rfl rfl)
theorem dX3_is_74 : decode cX3_is 74 = .ok (.iconst 0, 1) := dk_3 (dk_at dksX3_is_3 3 rfl rfl)
theorem dX3_is_75 : decode cX3_is 75 = .ok (.istore_n 2, 1) := dk_61 (dk_at dksX3_is_3 4 rfl rfl)
theorem dX3_is_76 : decode cX3_is 76 = .ok (.iinc 3 1, 3) := dk_132 3 1 (dk_at dksX3_is_3 5 rfl rfl)
theorem dX3_is_79 : decode cX3_is 79 = .ok (.goto (-40), 3) := dk_167 255 216 (dk_at dksX3_is_3 8 rfl rfl)
theorem dX3_is_82 : decode cX3_is 82 = .ok (.iload_n 2, 1) := dk_28 (dk_at dksX3_is_3 11 rfl rfl)
theorem dX3_is_83 : decode cX3_is 83 = .ok (.ireturn, 1) := dk_172 (dk_at dksX3_is_3 12 rfl rfl)
abbrev cX3_wrong : ByteArray := prog_15_method_10_code
def yX3_wrong : MethodName := ⟨RX3, "wrong", "(I)V"⟩
def dkwX3_wrong_0 : List UInt8 := [42, 180, 0, 135, 153, 0, 4, 177, 42, 27, 181, 0, 135, 42, 42, 180, 0, 109, 181, 0, 138, 177]
abbrev dktX3_wrong_0 : List UInt8 := dkwX3_wrong_0 ++ []
theorem dksX3_wrong_0 : cX3_wrong.data.toList.drop 0 = dktX3_wrong_0 := by decide +kernel
theorem dX3_wrong_0 : decode cX3_wrong 0 = .ok (.aload_n 0, 1) := dk_42 (dk_at dksX3_wrong_0 0 rfl rfl)
theorem dX3_wrong_1 : decode cX3_wrong 1 = .ok (.getfield 135, 3) := dk_180 0 135 (dk_at dksX3_wrong_0 1 rfl rfl)
theorem dX3_wrong_4 : decode cX3_wrong 4 = .ok (.ifCond .eq 4, 3) := dk_153 0 4 (dk_at dksX3_wrong_0 4 rfl rfl)
theorem dX3_wrong_7 : decode cX3_wrong 7 = .ok (.return_, 1) := dk_177 (dk_at dksX3_wrong_0 7 rfl rfl)
theorem dX3_wrong_8 : decode cX3_wrong 8 = .ok (.aload_n 0, 1) := dk_42 (dk_at dksX3_wrong_0 8 rfl rfl)
theorem dX3_wrong_9 : decode cX3_wrong 9 = .ok (.iload_n 1, 1) := dk_27 (dk_at dksX3_wrong_0 9 rfl rfl)
theorem dX3_wrong_10 : decode cX3_wrong 10 = .ok (.putfield 135, 3) := dk_181 0 135 (dk_at dksX3_wrong_0 10 rfl rfl)
theorem dX3_wrong_13 : decode cX3_wrong 13 = .ok (.aload_n 0, 1) := dk_42 (dk_at dksX3_wrong_0 13 rfl rfl)
theorem dX3_wrong_14 : decode cX3_wrong 14 = .ok (.aload_n 0, 1) := dk_42 (dk_at dksX3_wrong_0 14 rfl rfl)
theorem dX3_wrong_15 : decode cX3_wrong 15 = .ok (.getfield 109, 3) := dk_180 0 109 (dk_at dksX3_wrong_0 15 rfl rfl)
theorem dX3_wrong_18 : decode cX3_wrong 18 = .ok (.putfield 138, 3) := dk_181 0 138 (dk_at dksX3_wrong_0 18 rfl rfl)
theorem dX3_wrong_21 : decode cX3_wrong 21 = .ok (.return_, 1) := dk_177 (dk_at dksX3_wrong_0 21 rfl rfl)
abbrev cX3_readNumber : ByteArray := prog_15_method_14_code
def yX3_readNumber : MethodName := ⟨RX3, "readNumber", "(II)I"⟩
def dkwX3_readNumber_0 : List UInt8 := [42, 27, 28, 182, 0, 155, 62, 42, 180, 0, 135, 154, 0, 7, 42, 182, 0, 158, 29, 172]
abbrev dktX3_readNumber_0 : List UInt8 := dkwX3_readNumber_0 ++ []
theorem dksX3_readNumber_0 : cX3_readNumber.data.toList.drop 0 = dktX3_readNumber_0 := by decide +kernel
theorem dX3_readNumber_0 : decode cX3_readNumber 0 = .ok (.aload_n 0, 1) := dk_42 (dk_at dksX3_readNumber_0 0 rfl rfl)
theorem dX3_readNumber_1 : decode cX3_readNumber 1 = .ok (.iload_n 1, 1) := dk_27 (dk_at dksX3_readNumber_0 1 rfl rfl)
theorem dX3_readNumber_2 : decode cX3_readNumber 2 = .ok (.iload_n 2, 1) := dk_28 (dk_at dksX3_readNumber_0 2 rfl rfl)
theorem dX3_readNumber_3 : decode cX3_readNumber 3 = .ok (.invokevirtual 155, 3) := dk_182 0 155 (dk_at dksX3_readNumber_0 3 rfl rfl)
theorem dX3_readNumber_6 : decode cX3_readNumber 6 = .ok (.istore_n 3, 1) := dk_62 (dk_at dksX3_readNumber_0 6 rfl rfl)
theorem dX3_readNumber_7 : decode cX3_readNumber 7 = .ok (.aload_n 0, 1) := dk_42 (dk_at dksX3_readNumber_0 7 rfl rfl)
theorem dX3_readNumber_8 : decode cX3_readNumber 8 = .ok (.getfield 135, 3) := dk_180 0 135 (dk_at dksX3_readNumber_0 8 rfl rfl)
theorem dX3_readNumber_11 : decode cX3_readNumber 11 = .ok (.ifCond .ne 7, 3) := dk_154 0 7 (dk_at dksX3_readNumber_0 11 rfl rfl)
theorem dX3_readNumber_14 : decode cX3_readNumber 14 = .ok (.aload_n 0, 1) := dk_42 (dk_at dksX3_readNumber_0 14 rfl rfl)
theorem dX3_readNumber_15 : decode cX3_readNumber 15 = .ok (.invokevirtual 158, 3) := dk_182 0 158 (dk_at dksX3_readNumber_0 15 rfl rfl)
theorem dX3_readNumber_18 : decode cX3_readNumber 18 = .ok (.iload_n 3, 1) := dk_29 (dk_at dksX3_readNumber_0 18 rfl rfl)
theorem dX3_readNumber_19 : decode cX3_readNumber 19 = .ok (.ireturn, 1) := dk_172 (dk_at dksX3_readNumber_0 19 rfl rfl)
abbrev cX3_numberNow : ByteArray := prog_15_method_13_code
def yX3_numberNow : MethodName := ⟨RX3, "numberNow", "(II)I"⟩
def dkwX3_numberNow_3 : List UInt8 := [167, 0, 4, 27, 172]
abbrev dktX3_numberNow_3 : List UInt8 := dkwX3_numberNow_3 ++ []
def dkwX3_numberNow_2 : List UInt8 := [42, 180, 0, 122, 28, 164, 0, 8, 42, 5, 182, 0, 151, 42, 180, 0, 135, 154, 0, 10, 42, 180, 0, 122]
abbrev dktX3_numberNow_2 : List UInt8 := dkwX3_numberNow_2 ++ dktX3_numberNow_3
def dkwX3_numberNow_1 : List UInt8 := [167, 0, 37, 42, 180, 0, 132, 42, 180, 0, 109, 100, 4, 163, 0, 19, 42, 180, 0, 122, 27, 161, 0, 11]
abbrev dktX3_numberNow_1 : List UInt8 := dkwX3_numberNow_1 ++ dktX3_numberNow_2
def dkwX3_numberNow_0 : List UInt8 := [42, 180, 0, 135, 153, 0, 5, 27, 172, 42, 180, 0, 112, 5, 159, 0, 11, 42, 4, 182, 0, 151]
abbrev dktX3_numberNow_0 : List UInt8 := dkwX3_numberNow_0 ++ dktX3_numberNow_1
theorem dksX3_numberNow_0 : cX3_numberNow.data.toList.drop 0 = dktX3_numberNow_0 := by decide +kernel
theorem dksX3_numberNow_1 : cX3_numberNow.data.toList.drop 22 = dktX3_numberNow_1 := dk_seg dksX3_numberNow_0 22 rfl rfl
theorem dksX3_numberNow_2 : cX3_numberNow.data.toList.drop 46 = dktX3_numberNow_2 := dk_seg dksX3_numberNow_1 24 rfl rfl
theorem dksX3_numberNow_3 : cX3_numberNow.data.toList.drop 70 = dktX3_numberNow_3 := dk_seg dksX3_numberNow_2 24 rfl rfl
theorem dX3_numberNow_0 : decode cX3_numberNow 0 = .ok (.aload_n 0, 1) := dk_42 (dk_at dksX3_numberNow_0 0 rfl rfl)
theorem dX3_numberNow_1 : decode cX3_numberNow 1 = .ok (.getfield 135, 3) := dk_180 0 135 (dk_at dksX3_numberNow_0 1 rfl rfl)
theorem dX3_numberNow_4 : decode cX3_numberNow 4 = .ok (.ifCond .eq 5, 3) := dk_153 0 5 (dk_at dksX3_numberNow_0 4 rfl rfl)
theorem dX3_numberNow_7 : decode cX3_numberNow 7 = .ok (.iload_n 1, 1) := dk_27 (dk_at dksX3_numberNow_0 7 rfl rfl)
theorem dX3_numberNow_8 : decode cX3_numberNow 8 = .ok (.ireturn, 1) := dk_172 (dk_at dksX3_numberNow_0 8 rfl rfl)
theorem dX3_numberNow_9 : decode cX3_numberNow 9 = .ok (.aload_n 0, 1) := dk_42 (dk_at dksX3_numberNow_0 9 rfl rfl)
theorem dX3_numberNow_10 : decode cX3_numberNow 10 = .ok (.getfield 112, 3) := dk_180 0 112 (dk_at dksX3_numberNow_0 10 rfl rfl)
theorem dX3_numberNow_13 : decode cX3_numberNow 13 = .ok (.iconst 2, 1) := dk_5 (dk_at dksX3_numberNow_0 13 rfl rfl)
theorem dX3_numberNow_14 : decode cX3_numberNow 14 = .ok (.if_icmp .eq 11, 3) := dk_159 0 11 (dk_at dksX3_numberNow_0 14 rfl rfl)
theorem dX3_numberNow_17 : decode cX3_numberNow 17 = .ok (.aload_n 0, 1) := dk_42 (dk_at dksX3_numberNow_0 17 rfl rfl)
theorem dX3_numberNow_18 : decode cX3_numberNow 18 = .ok (.iconst 1, 1) := dk_4 (dk_at dksX3_numberNow_0 18 rfl rfl)
theorem dX3_numberNow_19 : decode cX3_numberNow 19 = .ok (.invokevirtual 151, 3) := dk_182 0 151 (dk_at dksX3_numberNow_0 19 rfl rfl)
theorem dX3_numberNow_22 : decode cX3_numberNow 22 = .ok (.goto 37, 3) := dk_167 0 37 (dk_at dksX3_numberNow_1 0 rfl rfl)
theorem dX3_numberNow_25 : decode cX3_numberNow 25 = .ok (.aload_n 0, 1) := dk_42 (dk_at dksX3_numberNow_1 3 rfl rfl)
theorem dX3_numberNow_26 : decode cX3_numberNow 26 = .ok (.getfield 132, 3) := dk_180 0 132 (dk_at dksX3_numberNow_1 4 rfl rfl)
theorem dX3_numberNow_29 : decode cX3_numberNow 29 = .ok (.aload_n 0, 1) := dk_42 (dk_at dksX3_numberNow_1 7 rfl rfl)
theorem dX3_numberNow_30 : decode cX3_numberNow 30 = .ok (.getfield 109, 3) := dk_180 0 109 (dk_at dksX3_numberNow_1 8 rfl rfl)
theorem dX3_numberNow_33 : decode cX3_numberNow 33 = .ok (.isub, 1) := dk_100 (dk_at dksX3_numberNow_1 11 rfl rfl)
theorem dX3_numberNow_34 : decode cX3_numberNow 34 = .ok (.iconst 1, 1) := dk_4 (dk_at dksX3_numberNow_1 12 rfl rfl)
theorem dX3_numberNow_35 : decode cX3_numberNow 35 = .ok (.if_icmp .gt 19, 3) := dk_163 0 19 (dk_at dksX3_numberNow_1 13 rfl rfl)
theorem dX3_numberNow_38 : decode cX3_numberNow 38 = .ok (.aload_n 0, 1) := dk_42 (dk_at dksX3_numberNow_1 16 rfl rfl)
theorem dX3_numberNow_39 : decode cX3_numberNow 39 = .ok (.getfield 122, 3) := dk_180 0 122 (dk_at dksX3_numberNow_1 17 rfl rfl)
theorem dX3_numberNow_42 : decode cX3_numberNow 42 = .ok (.iload_n 1, 1) := dk_27 (dk_at dksX3_numberNow_1 20 rfl rfl)
theorem dX3_numberNow_43 : decode cX3_numberNow 43 = .ok (.if_icmp .lt 11, 3) := dk_161 0 11 (dk_at dksX3_numberNow_1 21 rfl rfl)
theorem dX3_numberNow_46 : decode cX3_numberNow 46 = .ok (.aload_n 0, 1) := dk_42 (dk_at dksX3_numberNow_2 0 rfl rfl)
theorem dX3_numberNow_47 : decode cX3_numberNow 47 = .ok (.getfield 122, 3) := dk_180 0 122 (dk_at dksX3_numberNow_2 1 rfl rfl)
theorem dX3_numberNow_50 : decode cX3_numberNow 50 = .ok (.iload_n 2, 1) := dk_28 (dk_at dksX3_numberNow_2 4 rfl rfl)
theorem dX3_numberNow_51 : decode cX3_numberNow 51 = .ok (.if_icmp .le 8, 3) := dk_164 0 8 (dk_at dksX3_numberNow_2 5 rfl rfl)
theorem dX3_numberNow_54 : decode cX3_numberNow 54 = .ok (.aload_n 0, 1) := dk_42 (dk_at dksX3_numberNow_2 8 rfl rfl)
theorem dX3_numberNow_55 : decode cX3_numberNow 55 = .ok (.iconst 2, 1) := dk_5 (dk_at dksX3_numberNow_2 9 rfl rfl)
theorem dX3_numberNow_56 : decode cX3_numberNow 56 = .ok (.invokevirtual 151, 3) := dk_182 0 151 (dk_at dksX3_numberNow_2 10 rfl rfl)
theorem dX3_numberNow_59 : decode cX3_numberNow 59 = .ok (.aload_n 0, 1) := dk_42 (dk_at dksX3_numberNow_2 13 rfl rfl)
theorem dX3_numberNow_60 : decode cX3_numberNow 60 = .ok (.getfield 135, 3) := dk_180 0 135 (dk_at dksX3_numberNow_2 14 rfl rfl)
theorem dX3_numberNow_63 : decode cX3_numberNow 63 = .ok (.ifCond .ne 10, 3) := dk_154 0 10 (dk_at dksX3_numberNow_2 17 rfl rfl)
theorem dX3_numberNow_66 : decode cX3_numberNow 66 = .ok (.aload_n 0, 1) := dk_42 (dk_at dksX3_numberNow_2 20 rfl rfl)
theorem dX3_numberNow_67 : decode cX3_numberNow 67 = .ok (.getfield 122, 3) := dk_180 0 122 (dk_at dksX3_numberNow_2 21 rfl rfl)
theorem dX3_numberNow_70 : decode cX3_numberNow 70 = .ok (.goto 4, 3) := dk_167 0 4 (dk_at dksX3_numberNow_3 0 rfl rfl)
theorem dX3_numberNow_73 : decode cX3_numberNow 73 = .ok (.iload_n 1, 1) := dk_27 (dk_at dksX3_numberNow_3 3 rfl rfl)
theorem dX3_numberNow_74 : decode cX3_numberNow 74 = .ok (.ireturn, 1) := dk_172 (dk_at dksX3_numberNow_3 4 rfl rfl)
abbrev cX3_readLine : ByteArray := prog_15_method_17_code
def yX3_readLine : MethodName := ⟨RX3, "readLine", "()V"⟩
def dkwX3_readLine_6 : List UInt8 := [180, 0, 13, 5, 42, 180, 0, 13, 4, 46, 96, 27, 79, 42, 180, 0, 13, 4, 92, 46, 4, 96, 79, 177]
abbrev dktX3_readLine_6 : List UInt8 := dkwX3_readLine_6 ++ []
def dkwX3_readLine_5 : List UInt8 := [182, 0, 161, 153, 0, 19, 42, 180, 0, 13, 27, 184, 0, 170, 153, 0, 8, 42, 8, 182, 0, 151, 42]
abbrev dktX3_readLine_5 : List UInt8 := dkwX3_readLine_5 ++ dktX3_readLine_6
def dkwX3_readLine_4 : List UInt8 := [154, 0, 7, 42, 182, 0, 158, 132, 2, 1, 167, 255, 185, 42, 180, 0, 135, 154, 0, 28, 42, 16, 59]
abbrev dktX3_readLine_4 : List UInt8 := dkwX3_readLine_4 ++ dktX3_readLine_5
def dkwX3_readLine_3 : List UInt8 := [29, 122, 4, 126, 4, 160, 0, 8, 42, 8, 182, 0, 151, 27, 4, 29, 120, 128, 60, 42, 180, 0, 135]
abbrev dktX3_readLine_3 : List UInt8 := dkwX3_readLine_3 ++ dktX3_readLine_4
def dkwX3_readLine_2 : List UInt8 := [161, 0, 11, 42, 180, 0, 112, 5, 160, 0, 52, 42, 182, 0, 167, 62, 42, 180, 0, 135, 154, 0, 17, 27]
abbrev dktX3_readLine_2 : List UInt8 := dkwX3_readLine_2 ++ dktX3_readLine_3
def dkwX3_readLine_1 : List UInt8 := [42, 182, 0, 158, 3, 60, 3, 61, 28, 7, 162, 0, 72, 42, 180, 0, 135, 154, 0, 65, 28, 5]
abbrev dktX3_readLine_1 : List UInt8 := dkwX3_readLine_1 ++ dktX3_readLine_2
def dkwX3_readLine_0 : List UInt8 := [42, 180, 0, 13, 4, 46, 16, 12, 160, 0, 8, 42, 5, 182, 0, 151, 42, 180, 0, 135, 153, 0, 4, 177]
abbrev dktX3_readLine_0 : List UInt8 := dkwX3_readLine_0 ++ dktX3_readLine_1
theorem dksX3_readLine_0 : cX3_readLine.data.toList.drop 0 = dktX3_readLine_0 := by decide +kernel
theorem dksX3_readLine_1 : cX3_readLine.data.toList.drop 24 = dktX3_readLine_1 := dk_seg dksX3_readLine_0 24 rfl rfl
theorem dksX3_readLine_2 : cX3_readLine.data.toList.drop 46 = dktX3_readLine_2 := dk_seg dksX3_readLine_1 22 rfl rfl
theorem dksX3_readLine_3 : cX3_readLine.data.toList.drop 70 = dktX3_readLine_3 := dk_seg dksX3_readLine_2 24 rfl rfl
theorem dksX3_readLine_4 : cX3_readLine.data.toList.drop 93 = dktX3_readLine_4 := dk_seg dksX3_readLine_3 23 rfl rfl
theorem dksX3_readLine_5 : cX3_readLine.data.toList.drop 116 = dktX3_readLine_5 := dk_seg dksX3_readLine_4 23 rfl rfl
theorem dksX3_readLine_6 : cX3_readLine.data.toList.drop 139 = dktX3_readLine_6 := dk_seg dksX3_readLine_5 23 rfl rfl
theorem dX3_readLine_0 : decode cX3_readLine 0 = .ok (.aload_n 0, 1) := dk_42 (dk_at dksX3_readLine_0 0 rfl rfl)
theorem dX3_readLine_1 : decode cX3_readLine 1 = .ok (.getfield 13, 3) := dk_180 0 13 (dk_at dksX3_readLine_0 1 rfl rfl)
theorem dX3_readLine_4 : decode cX3_readLine 4 = .ok (.iconst 1, 1) := dk_4 (dk_at dksX3_readLine_0 4 rfl rfl)
theorem dX3_readLine_5 : decode cX3_readLine 5 = .ok (.iaload, 1) := dk_46 (dk_at dksX3_readLine_0 5 rfl rfl)
theorem dX3_readLine_6 : decode cX3_readLine 6 = .ok (.bipush 12, 2) := dk_16 12 (dk_at dksX3_readLine_0 6 rfl rfl)
theorem dX3_readLine_8 : decode cX3_readLine 8 = .ok (.if_icmp .ne 8, 3) := dk_160 0 8 (dk_at dksX3_readLine_0 8 rfl rfl)
theorem dX3_readLine_11 : decode cX3_readLine 11 = .ok (.aload_n 0, 1) := dk_42 (dk_at dksX3_readLine_0 11 rfl rfl)
theorem dX3_readLine_12 : decode cX3_readLine 12 = .ok (.iconst 2, 1) := dk_5 (dk_at dksX3_readLine_0 12 rfl rfl)
theorem dX3_readLine_13 : decode cX3_readLine 13 = .ok (.invokevirtual 151, 3) := dk_182 0 151 (dk_at dksX3_readLine_0 13 rfl rfl)
theorem dX3_readLine_16 : decode cX3_readLine 16 = .ok (.aload_n 0, 1) := dk_42 (dk_at dksX3_readLine_0 16 rfl rfl)
theorem dX3_readLine_17 : decode cX3_readLine 17 = .ok (.getfield 135, 3) := dk_180 0 135 (dk_at dksX3_readLine_0 17 rfl rfl)
theorem dX3_readLine_20 : decode cX3_readLine 20 = .ok (.ifCond .eq 4, 3) := dk_153 0 4 (dk_at dksX3_readLine_0 20 rfl rfl)
theorem dX3_readLine_23 : decode cX3_readLine 23 = .ok (.return_, 1) := dk_177 (dk_at dksX3_readLine_0 23 rfl rfl)
theorem dX3_readLine_24 : decode cX3_readLine 24 = .ok (.aload_n 0, 1) := dk_42 (dk_at dksX3_readLine_1 0 rfl rfl)
theorem dX3_readLine_25 : decode cX3_readLine 25 = .ok (.invokevirtual 158, 3) := dk_182 0 158 (dk_at dksX3_readLine_1 1 rfl rfl)
theorem dX3_readLine_28 : decode cX3_readLine 28 = .ok (.iconst 0, 1) := dk_3 (dk_at dksX3_readLine_1 4 rfl rfl)
theorem dX3_readLine_29 : decode cX3_readLine 29 = .ok (.istore_n 1, 1) := dk_60 (dk_at dksX3_readLine_1 5 rfl rfl)
theorem dX3_readLine_30 : decode cX3_readLine 30 = .ok (.iconst 0, 1) := dk_3 (dk_at dksX3_readLine_1 6 rfl rfl)
theorem dX3_readLine_31 : decode cX3_readLine 31 = .ok (.istore_n 2, 1) := dk_61 (dk_at dksX3_readLine_1 7 rfl rfl)
theorem dX3_readLine_32 : decode cX3_readLine 32 = .ok (.iload_n 2, 1) := dk_28 (dk_at dksX3_readLine_1 8 rfl rfl)
theorem dX3_readLine_33 : decode cX3_readLine 33 = .ok (.iconst 4, 1) := dk_7 (dk_at dksX3_readLine_1 9 rfl rfl)
theorem dX3_readLine_34 : decode cX3_readLine 34 = .ok (.if_icmp .ge 72, 3) := dk_162 0 72 (dk_at dksX3_readLine_1 10 rfl rfl)
theorem dX3_readLine_37 : decode cX3_readLine 37 = .ok (.aload_n 0, 1) := dk_42 (dk_at dksX3_readLine_1 13 rfl rfl)
theorem dX3_readLine_38 : decode cX3_readLine 38 = .ok (.getfield 135, 3) := dk_180 0 135 (dk_at dksX3_readLine_1 14 rfl rfl)
theorem dX3_readLine_41 : decode cX3_readLine 41 = .ok (.ifCond .ne 65, 3) := dk_154 0 65 (dk_at dksX3_readLine_1 17 rfl rfl)
theorem dX3_readLine_44 : decode cX3_readLine 44 = .ok (.iload_n 2, 1) := dk_28 (dk_at dksX3_readLine_1 20 rfl rfl)
theorem dX3_readLine_45 : decode cX3_readLine 45 = .ok (.iconst 2, 1) := dk_5 (dk_at dksX3_readLine_1 21 rfl rfl)
theorem dX3_readLine_46 : decode cX3_readLine 46 = .ok (.if_icmp .lt 11, 3) := dk_161 0 11 (dk_at dksX3_readLine_2 0 rfl rfl)
theorem dX3_readLine_49 : decode cX3_readLine 49 = .ok (.aload_n 0, 1) := dk_42 (dk_at dksX3_readLine_2 3 rfl rfl)
theorem dX3_readLine_50 : decode cX3_readLine 50 = .ok (.getfield 112, 3) := dk_180 0 112 (dk_at dksX3_readLine_2 4 rfl rfl)
theorem dX3_readLine_53 : decode cX3_readLine 53 = .ok (.iconst 2, 1) := dk_5 (dk_at dksX3_readLine_2 7 rfl rfl)
theorem dX3_readLine_54 : decode cX3_readLine 54 = .ok (.if_icmp .ne 52, 3) := dk_160 0 52 (dk_at dksX3_readLine_2 8 rfl rfl)
theorem dX3_readLine_57 : decode cX3_readLine 57 = .ok (.aload_n 0, 1) := dk_42 (dk_at dksX3_readLine_2 11 rfl rfl)
theorem dX3_readLine_58 : decode cX3_readLine 58 = .ok (.invokevirtual 167, 3) := dk_182 0 167 (dk_at dksX3_readLine_2 12 rfl rfl)
theorem dX3_readLine_61 : decode cX3_readLine 61 = .ok (.istore_n 3, 1) := dk_62 (dk_at dksX3_readLine_2 15 rfl rfl)
theorem dX3_readLine_62 : decode cX3_readLine 62 = .ok (.aload_n 0, 1) := dk_42 (dk_at dksX3_readLine_2 16 rfl rfl)
theorem dX3_readLine_63 : decode cX3_readLine 63 = .ok (.getfield 135, 3) := dk_180 0 135 (dk_at dksX3_readLine_2 17 rfl rfl)
theorem dX3_readLine_66 : decode cX3_readLine 66 = .ok (.ifCond .ne 17, 3) := dk_154 0 17 (dk_at dksX3_readLine_2 20 rfl rfl)
theorem dX3_readLine_69 : decode cX3_readLine 69 = .ok (.iload_n 1, 1) := dk_27 (dk_at dksX3_readLine_2 23 rfl rfl)
theorem dX3_readLine_70 : decode cX3_readLine 70 = .ok (.iload_n 3, 1) := dk_29 (dk_at dksX3_readLine_3 0 rfl rfl)
theorem dX3_readLine_71 : decode cX3_readLine 71 = .ok (.ishr, 1) := dk_122 (dk_at dksX3_readLine_3 1 rfl rfl)
theorem dX3_readLine_72 : decode cX3_readLine 72 = .ok (.iconst 1, 1) := dk_4 (dk_at dksX3_readLine_3 2 rfl rfl)
theorem dX3_readLine_73 : decode cX3_readLine 73 = .ok (.iand, 1) := dk_126 (dk_at dksX3_readLine_3 3 rfl rfl)
theorem dX3_readLine_74 : decode cX3_readLine 74 = .ok (.iconst 1, 1) := dk_4 (dk_at dksX3_readLine_3 4 rfl rfl)
theorem dX3_readLine_75 : decode cX3_readLine 75 = .ok (.if_icmp .ne 8, 3) := dk_160 0 8 (dk_at dksX3_readLine_3 5 rfl rfl)
theorem dX3_readLine_78 : decode cX3_readLine 78 = .ok (.aload_n 0, 1) := dk_42 (dk_at dksX3_readLine_3 8 rfl rfl)
theorem dX3_readLine_79 : decode cX3_readLine 79 = .ok (.iconst 5, 1) := dk_8 (dk_at dksX3_readLine_3 9 rfl rfl)
theorem dX3_readLine_80 : decode cX3_readLine 80 = .ok (.invokevirtual 151, 3) := dk_182 0 151 (dk_at dksX3_readLine_3 10 rfl rfl)
theorem dX3_readLine_83 : decode cX3_readLine 83 = .ok (.iload_n 1, 1) := dk_27 (dk_at dksX3_readLine_3 13 rfl rfl)
theorem dX3_readLine_84 : decode cX3_readLine 84 = .ok (.iconst 1, 1) := dk_4 (dk_at dksX3_readLine_3 14 rfl rfl)
theorem dX3_readLine_85 : decode cX3_readLine 85 = .ok (.iload_n 3, 1) := dk_29 (dk_at dksX3_readLine_3 15 rfl rfl)
theorem dX3_readLine_86 : decode cX3_readLine 86 = .ok (.ishl, 1) := dk_120 (dk_at dksX3_readLine_3 16 rfl rfl)
theorem dX3_readLine_87 : decode cX3_readLine 87 = .ok (.ior, 1) := dk_128 (dk_at dksX3_readLine_3 17 rfl rfl)
theorem dX3_readLine_88 : decode cX3_readLine 88 = .ok (.istore_n 1, 1) := dk_60 (dk_at dksX3_readLine_3 18 rfl rfl)
theorem dX3_readLine_89 : decode cX3_readLine 89 = .ok (.aload_n 0, 1) := dk_42 (dk_at dksX3_readLine_3 19 rfl rfl)
theorem dX3_readLine_90 : decode cX3_readLine 90 = .ok (.getfield 135, 3) := dk_180 0 135 (dk_at dksX3_readLine_3 20 rfl rfl)
theorem dX3_readLine_93 : decode cX3_readLine 93 = .ok (.ifCond .ne 7, 3) := dk_154 0 7 (dk_at dksX3_readLine_4 0 rfl rfl)
theorem dX3_readLine_96 : decode cX3_readLine 96 = .ok (.aload_n 0, 1) := dk_42 (dk_at dksX3_readLine_4 3 rfl rfl)
theorem dX3_readLine_97 : decode cX3_readLine 97 = .ok (.invokevirtual 158, 3) := dk_182 0 158 (dk_at dksX3_readLine_4 4 rfl rfl)
theorem dX3_readLine_100 : decode cX3_readLine 100 = .ok (.iinc 2 1, 3) := dk_132 2 1 (dk_at dksX3_readLine_4 7 rfl rfl)
theorem dX3_readLine_103 : decode cX3_readLine 103 = .ok (.goto (-71), 3) := dk_167 255 185 (dk_at dksX3_readLine_4 10 rfl rfl)
theorem dX3_readLine_106 : decode cX3_readLine 106 = .ok (.aload_n 0, 1) := dk_42 (dk_at dksX3_readLine_4 13 rfl rfl)
theorem dX3_readLine_107 : decode cX3_readLine 107 = .ok (.getfield 135, 3) := dk_180 0 135 (dk_at dksX3_readLine_4 14 rfl rfl)
theorem dX3_readLine_110 : decode cX3_readLine 110 = .ok (.ifCond .ne 28, 3) := dk_154 0 28 (dk_at dksX3_readLine_4 17 rfl rfl)
theorem dX3_readLine_113 : decode cX3_readLine 113 = .ok (.aload_n 0, 1) := dk_42 (dk_at dksX3_readLine_4 20 rfl rfl)
theorem dX3_readLine_114 : decode cX3_readLine 114 = .ok (.bipush 59, 2) := dk_16 59 (dk_at dksX3_readLine_4 21 rfl rfl)
theorem dX3_readLine_116 : decode cX3_readLine 116 = .ok (.invokevirtual 161, 3) := dk_182 0 161 (dk_at dksX3_readLine_5 0 rfl rfl)
theorem dX3_readLine_119 : decode cX3_readLine 119 = .ok (.ifCond .eq 19, 3) := dk_153 0 19 (dk_at dksX3_readLine_5 3 rfl rfl)
theorem dX3_readLine_122 : decode cX3_readLine 122 = .ok (.aload_n 0, 1) := dk_42 (dk_at dksX3_readLine_5 6 rfl rfl)
theorem dX3_readLine_123 : decode cX3_readLine 123 = .ok (.getfield 13, 3) := dk_180 0 13 (dk_at dksX3_readLine_5 7 rfl rfl)
theorem dX3_readLine_126 : decode cX3_readLine 126 = .ok (.iload_n 1, 1) := dk_27 (dk_at dksX3_readLine_5 10 rfl rfl)
theorem dX3_readLine_127 : decode cX3_readLine 127 = .ok (.invokestatic 170, 3) := dk_184 0 170 (dk_at dksX3_readLine_5 11 rfl rfl)
theorem dX3_readLine_130 : decode cX3_readLine 130 = .ok (.ifCond .eq 8, 3) := dk_153 0 8 (dk_at dksX3_readLine_5 14 rfl rfl)
theorem dX3_readLine_133 : decode cX3_readLine 133 = .ok (.aload_n 0, 1) := dk_42 (dk_at dksX3_readLine_5 17 rfl rfl)
theorem dX3_readLine_134 : decode cX3_readLine 134 = .ok (.iconst 5, 1) := dk_8 (dk_at dksX3_readLine_5 18 rfl rfl)
theorem dX3_readLine_135 : decode cX3_readLine 135 = .ok (.invokevirtual 151, 3) := dk_182 0 151 (dk_at dksX3_readLine_5 19 rfl rfl)
theorem dX3_readLine_138 : decode cX3_readLine 138 = .ok (.aload_n 0, 1) := dk_42 (dk_at dksX3_readLine_5 22 rfl rfl)
theorem dX3_readLine_139 : decode cX3_readLine 139 = .ok (.getfield 13, 3) := dk_180 0 13 (dk_at dksX3_readLine_6 0 rfl rfl)
theorem dX3_readLine_142 : decode cX3_readLine 142 = .ok (.iconst 2, 1) := dk_5 (dk_at dksX3_readLine_6 3 rfl rfl)
theorem dX3_readLine_143 : decode cX3_readLine 143 = .ok (.aload_n 0, 1) := dk_42 (dk_at dksX3_readLine_6 4 rfl rfl)
theorem dX3_readLine_144 : decode cX3_readLine 144 = .ok (.getfield 13, 3) := dk_180 0 13 (dk_at dksX3_readLine_6 5 rfl rfl)
theorem dX3_readLine_147 : decode cX3_readLine 147 = .ok (.iconst 1, 1) := dk_4 (dk_at dksX3_readLine_6 8 rfl rfl)
theorem dX3_readLine_148 : decode cX3_readLine 148 = .ok (.iaload, 1) := dk_46 (dk_at dksX3_readLine_6 9 rfl rfl)
theorem dX3_readLine_149 : decode cX3_readLine 149 = .ok (.iadd, 1) := dk_96 (dk_at dksX3_readLine_6 10 rfl rfl)
theorem dX3_readLine_150 : decode cX3_readLine 150 = .ok (.iload_n 1, 1) := dk_27 (dk_at dksX3_readLine_6 11 rfl rfl)
theorem dX3_readLine_151 : decode cX3_readLine 151 = .ok (.iastore, 1) := dk_79 (dk_at dksX3_readLine_6 12 rfl rfl)
theorem dX3_readLine_152 : decode cX3_readLine 152 = .ok (.aload_n 0, 1) := dk_42 (dk_at dksX3_readLine_6 13 rfl rfl)
theorem dX3_readLine_153 : decode cX3_readLine 153 = .ok (.getfield 13, 3) := dk_180 0 13 (dk_at dksX3_readLine_6 14 rfl rfl)
theorem dX3_readLine_156 : decode cX3_readLine 156 = .ok (.iconst 1, 1) := dk_4 (dk_at dksX3_readLine_6 17 rfl rfl)
theorem dX3_readLine_157 : decode cX3_readLine 157 = .ok (.dup2, 1) := dk_92 (dk_at dksX3_readLine_6 18 rfl rfl)
theorem dX3_readLine_158 : decode cX3_readLine 158 = .ok (.iaload, 1) := dk_46 (dk_at dksX3_readLine_6 19 rfl rfl)
theorem dX3_readLine_159 : decode cX3_readLine 159 = .ok (.iconst 1, 1) := dk_4 (dk_at dksX3_readLine_6 20 rfl rfl)
theorem dX3_readLine_160 : decode cX3_readLine 160 = .ok (.iadd, 1) := dk_96 (dk_at dksX3_readLine_6 21 rfl rfl)
theorem dX3_readLine_161 : decode cX3_readLine 161 = .ok (.iastore, 1) := dk_79 (dk_at dksX3_readLine_6 22 rfl rfl)
theorem dX3_readLine_162 : decode cX3_readLine 162 = .ok (.return_, 1) := dk_177 (dk_at dksX3_readLine_6 23 rfl rfl)
abbrev cX3_pointNow : ByteArray := prog_15_method_16_code
def yX3_pointNow : MethodName := ⟨RX3, "pointNow", "()I"⟩
def dkwX3_pointNow_1 : List UInt8 := [161, 0, 8, 42, 6, 182, 0, 151, 27, 172]
abbrev dktX3_pointNow_1 : List UInt8 := dkwX3_pointNow_1 ++ []
def dkwX3_pointNow_0 : List UInt8 := [42, 3, 16, 9, 182, 0, 155, 60, 42, 180, 0, 135, 154, 0, 18, 27, 42, 180, 0, 13, 3, 46]
abbrev dktX3_pointNow_0 : List UInt8 := dkwX3_pointNow_0 ++ dktX3_pointNow_1
theorem dksX3_pointNow_0 : cX3_pointNow.data.toList.drop 0 = dktX3_pointNow_0 := by decide +kernel
theorem dksX3_pointNow_1 : cX3_pointNow.data.toList.drop 22 = dktX3_pointNow_1 := dk_seg dksX3_pointNow_0 22 rfl rfl
theorem dX3_pointNow_0 : decode cX3_pointNow 0 = .ok (.aload_n 0, 1) := dk_42 (dk_at dksX3_pointNow_0 0 rfl rfl)
theorem dX3_pointNow_1 : decode cX3_pointNow 1 = .ok (.iconst 0, 1) := dk_3 (dk_at dksX3_pointNow_0 1 rfl rfl)
theorem dX3_pointNow_2 : decode cX3_pointNow 2 = .ok (.bipush 9, 2) := dk_16 9 (dk_at dksX3_pointNow_0 2 rfl rfl)
theorem dX3_pointNow_4 : decode cX3_pointNow 4 = .ok (.invokevirtual 155, 3) := dk_182 0 155 (dk_at dksX3_pointNow_0 4 rfl rfl)
theorem dX3_pointNow_7 : decode cX3_pointNow 7 = .ok (.istore_n 1, 1) := dk_60 (dk_at dksX3_pointNow_0 7 rfl rfl)
theorem dX3_pointNow_8 : decode cX3_pointNow 8 = .ok (.aload_n 0, 1) := dk_42 (dk_at dksX3_pointNow_0 8 rfl rfl)
theorem dX3_pointNow_9 : decode cX3_pointNow 9 = .ok (.getfield 135, 3) := dk_180 0 135 (dk_at dksX3_pointNow_0 9 rfl rfl)
theorem dX3_pointNow_12 : decode cX3_pointNow 12 = .ok (.ifCond .ne 18, 3) := dk_154 0 18 (dk_at dksX3_pointNow_0 12 rfl rfl)
theorem dX3_pointNow_15 : decode cX3_pointNow 15 = .ok (.iload_n 1, 1) := dk_27 (dk_at dksX3_pointNow_0 15 rfl rfl)
theorem dX3_pointNow_16 : decode cX3_pointNow 16 = .ok (.aload_n 0, 1) := dk_42 (dk_at dksX3_pointNow_0 16 rfl rfl)
theorem dX3_pointNow_17 : decode cX3_pointNow 17 = .ok (.getfield 13, 3) := dk_180 0 13 (dk_at dksX3_pointNow_0 17 rfl rfl)
theorem dX3_pointNow_20 : decode cX3_pointNow 20 = .ok (.iconst 0, 1) := dk_3 (dk_at dksX3_pointNow_0 20 rfl rfl)
theorem dX3_pointNow_21 : decode cX3_pointNow 21 = .ok (.iaload, 1) := dk_46 (dk_at dksX3_pointNow_0 21 rfl rfl)
theorem dX3_pointNow_22 : decode cX3_pointNow 22 = .ok (.if_icmp .lt 8, 3) := dk_161 0 8 (dk_at dksX3_pointNow_1 0 rfl rfl)
theorem dX3_pointNow_25 : decode cX3_pointNow 25 = .ok (.aload_n 0, 1) := dk_42 (dk_at dksX3_pointNow_1 3 rfl rfl)
theorem dX3_pointNow_26 : decode cX3_pointNow 26 = .ok (.iconst 3, 1) := dk_6 (dk_at dksX3_pointNow_1 4 rfl rfl)
theorem dX3_pointNow_27 : decode cX3_pointNow 27 = .ok (.invokevirtual 151, 3) := dk_182 0 151 (dk_at dksX3_pointNow_1 5 rfl rfl)
theorem dX3_pointNow_30 : decode cX3_pointNow 30 = .ok (.iload_n 1, 1) := dk_27 (dk_at dksX3_pointNow_1 8 rfl rfl)
theorem dX3_pointNow_31 : decode cX3_pointNow 31 = .ok (.ireturn, 1) := dk_172 (dk_at dksX3_pointNow_1 9 rfl rfl)
abbrev cX3_isMarked : ByteArray := prog_15_method_12_code
def yX3_isMarked : MethodName := ⟨RX3, "isMarked", "(I)Z"⟩
def dkwX3_isMarked_1 : List UInt8 := [27, 160, 0, 7, 4, 167, 0, 4, 3, 172]
abbrev dktX3_isMarked_1 : List UInt8 := dkwX3_isMarked_1 ++ []
def dkwX3_isMarked_0 : List UInt8 := [42, 180, 0, 135, 154, 0, 28, 42, 180, 0, 112, 6, 160, 0, 20, 42, 180, 0, 19, 42, 180, 0, 109, 46]
abbrev dktX3_isMarked_0 : List UInt8 := dkwX3_isMarked_0 ++ dktX3_isMarked_1
theorem dksX3_isMarked_0 : cX3_isMarked.data.toList.drop 0 = dktX3_isMarked_0 := by decide +kernel
theorem dksX3_isMarked_1 : cX3_isMarked.data.toList.drop 24 = dktX3_isMarked_1 := dk_seg dksX3_isMarked_0 24 rfl rfl
theorem dX3_isMarked_0 : decode cX3_isMarked 0 = .ok (.aload_n 0, 1) := dk_42 (dk_at dksX3_isMarked_0 0 rfl rfl)
theorem dX3_isMarked_1 : decode cX3_isMarked 1 = .ok (.getfield 135, 3) := dk_180 0 135 (dk_at dksX3_isMarked_0 1 rfl rfl)
theorem dX3_isMarked_4 : decode cX3_isMarked 4 = .ok (.ifCond .ne 28, 3) := dk_154 0 28 (dk_at dksX3_isMarked_0 4 rfl rfl)
theorem dX3_isMarked_7 : decode cX3_isMarked 7 = .ok (.aload_n 0, 1) := dk_42 (dk_at dksX3_isMarked_0 7 rfl rfl)
theorem dX3_isMarked_8 : decode cX3_isMarked 8 = .ok (.getfield 112, 3) := dk_180 0 112 (dk_at dksX3_isMarked_0 8 rfl rfl)
theorem dX3_isMarked_11 : decode cX3_isMarked 11 = .ok (.iconst 3, 1) := dk_6 (dk_at dksX3_isMarked_0 11 rfl rfl)
theorem dX3_isMarked_12 : decode cX3_isMarked 12 = .ok (.if_icmp .ne 20, 3) := dk_160 0 20 (dk_at dksX3_isMarked_0 12 rfl rfl)
theorem dX3_isMarked_15 : decode cX3_isMarked 15 = .ok (.aload_n 0, 1) := dk_42 (dk_at dksX3_isMarked_0 15 rfl rfl)
theorem dX3_isMarked_16 : decode cX3_isMarked 16 = .ok (.getfield 19, 3) := dk_180 0 19 (dk_at dksX3_isMarked_0 16 rfl rfl)
theorem dX3_isMarked_19 : decode cX3_isMarked 19 = .ok (.aload_n 0, 1) := dk_42 (dk_at dksX3_isMarked_0 19 rfl rfl)
theorem dX3_isMarked_20 : decode cX3_isMarked 20 = .ok (.getfield 109, 3) := dk_180 0 109 (dk_at dksX3_isMarked_0 20 rfl rfl)
theorem dX3_isMarked_23 : decode cX3_isMarked 23 = .ok (.iaload, 1) := dk_46 (dk_at dksX3_isMarked_0 23 rfl rfl)
theorem dX3_isMarked_24 : decode cX3_isMarked 24 = .ok (.iload_n 1, 1) := dk_27 (dk_at dksX3_isMarked_1 0 rfl rfl)
theorem dX3_isMarked_25 : decode cX3_isMarked 25 = .ok (.if_icmp .ne 7, 3) := dk_160 0 7 (dk_at dksX3_isMarked_1 1 rfl rfl)
theorem dX3_isMarked_28 : decode cX3_isMarked 28 = .ok (.iconst 1, 1) := dk_4 (dk_at dksX3_isMarked_1 4 rfl rfl)
theorem dX3_isMarked_29 : decode cX3_isMarked 29 = .ok (.goto 4, 3) := dk_167 0 4 (dk_at dksX3_isMarked_1 5 rfl rfl)
theorem dX3_isMarked_32 : decode cX3_isMarked 32 = .ok (.iconst 0, 1) := dk_3 (dk_at dksX3_isMarked_1 8 rfl rfl)
theorem dX3_isMarked_33 : decode cX3_isMarked 33 = .ok (.ireturn, 1) := dk_172 (dk_at dksX3_isMarked_1 9 rfl rfl)
abbrev cX3_sharesTwo : ByteArray := prog_15_method_22_code
def yX3_sharesTwo : MethodName := ⟨RX3, "sharesTwo", "([II)Z"⟩
def dkwX3_sharesTwo_1 : List UInt8 := [184, 0, 210, 4, 164, 0, 7, 4, 167, 0, 4, 3, 61, 132, 3, 1, 167, 255, 222, 28, 172]
abbrev dktX3_sharesTwo_1 : List UInt8 := dkwX3_sharesTwo_1 ++ []
def dkwX3_sharesTwo_0 : List UInt8 := [3, 61, 3, 62, 29, 42, 4, 46, 162, 0, 33, 28, 154, 0, 17, 42, 5, 29, 96, 46, 27, 126]
abbrev dktX3_sharesTwo_0 : List UInt8 := dkwX3_sharesTwo_0 ++ dktX3_sharesTwo_1
theorem dksX3_sharesTwo_0 : cX3_sharesTwo.data.toList.drop 0 = dktX3_sharesTwo_0 := by decide +kernel
theorem dksX3_sharesTwo_1 : cX3_sharesTwo.data.toList.drop 22 = dktX3_sharesTwo_1 := dk_seg dksX3_sharesTwo_0 22 rfl rfl
theorem dX3_sharesTwo_0 : decode cX3_sharesTwo 0 = .ok (.iconst 0, 1) := dk_3 (dk_at dksX3_sharesTwo_0 0 rfl rfl)
theorem dX3_sharesTwo_1 : decode cX3_sharesTwo 1 = .ok (.istore_n 2, 1) := dk_61 (dk_at dksX3_sharesTwo_0 1 rfl rfl)
theorem dX3_sharesTwo_2 : decode cX3_sharesTwo 2 = .ok (.iconst 0, 1) := dk_3 (dk_at dksX3_sharesTwo_0 2 rfl rfl)
theorem dX3_sharesTwo_3 : decode cX3_sharesTwo 3 = .ok (.istore_n 3, 1) := dk_62 (dk_at dksX3_sharesTwo_0 3 rfl rfl)
theorem dX3_sharesTwo_4 : decode cX3_sharesTwo 4 = .ok (.iload_n 3, 1) := dk_29 (dk_at dksX3_sharesTwo_0 4 rfl rfl)
theorem dX3_sharesTwo_5 : decode cX3_sharesTwo 5 = .ok (.aload_n 0, 1) := dk_42 (dk_at dksX3_sharesTwo_0 5 rfl rfl)
theorem dX3_sharesTwo_6 : decode cX3_sharesTwo 6 = .ok (.iconst 1, 1) := dk_4 (dk_at dksX3_sharesTwo_0 6 rfl rfl)
theorem dX3_sharesTwo_7 : decode cX3_sharesTwo 7 = .ok (.iaload, 1) := dk_46 (dk_at dksX3_sharesTwo_0 7 rfl rfl)
theorem dX3_sharesTwo_8 : decode cX3_sharesTwo 8 = .ok (.if_icmp .ge 33, 3) := dk_162 0 33 (dk_at dksX3_sharesTwo_0 8 rfl rfl)
theorem dX3_sharesTwo_11 : decode cX3_sharesTwo 11 = .ok (.iload_n 2, 1) := dk_28 (dk_at dksX3_sharesTwo_0 11 rfl rfl)
theorem dX3_sharesTwo_12 : decode cX3_sharesTwo 12 = .ok (.ifCond .ne 17, 3) := dk_154 0 17 (dk_at dksX3_sharesTwo_0 12 rfl rfl)
theorem dX3_sharesTwo_15 : decode cX3_sharesTwo 15 = .ok (.aload_n 0, 1) := dk_42 (dk_at dksX3_sharesTwo_0 15 rfl rfl)
theorem dX3_sharesTwo_16 : decode cX3_sharesTwo 16 = .ok (.iconst 2, 1) := dk_5 (dk_at dksX3_sharesTwo_0 16 rfl rfl)
theorem dX3_sharesTwo_17 : decode cX3_sharesTwo 17 = .ok (.iload_n 3, 1) := dk_29 (dk_at dksX3_sharesTwo_0 17 rfl rfl)
theorem dX3_sharesTwo_18 : decode cX3_sharesTwo 18 = .ok (.iadd, 1) := dk_96 (dk_at dksX3_sharesTwo_0 18 rfl rfl)
theorem dX3_sharesTwo_19 : decode cX3_sharesTwo 19 = .ok (.iaload, 1) := dk_46 (dk_at dksX3_sharesTwo_0 19 rfl rfl)
theorem dX3_sharesTwo_20 : decode cX3_sharesTwo 20 = .ok (.iload_n 1, 1) := dk_27 (dk_at dksX3_sharesTwo_0 20 rfl rfl)
theorem dX3_sharesTwo_21 : decode cX3_sharesTwo 21 = .ok (.iand, 1) := dk_126 (dk_at dksX3_sharesTwo_0 21 rfl rfl)
theorem dX3_sharesTwo_22 : decode cX3_sharesTwo 22 = .ok (.invokestatic 210, 3) := dk_184 0 210 (dk_at dksX3_sharesTwo_1 0 rfl rfl)
theorem dX3_sharesTwo_25 : decode cX3_sharesTwo 25 = .ok (.iconst 1, 1) := dk_4 (dk_at dksX3_sharesTwo_1 3 rfl rfl)
theorem dX3_sharesTwo_26 : decode cX3_sharesTwo 26 = .ok (.if_icmp .le 7, 3) := dk_164 0 7 (dk_at dksX3_sharesTwo_1 4 rfl rfl)
theorem dX3_sharesTwo_29 : decode cX3_sharesTwo 29 = .ok (.iconst 1, 1) := dk_4 (dk_at dksX3_sharesTwo_1 7 rfl rfl)
theorem dX3_sharesTwo_30 : decode cX3_sharesTwo 30 = .ok (.goto 4, 3) := dk_167 0 4 (dk_at dksX3_sharesTwo_1 8 rfl rfl)
theorem dX3_sharesTwo_33 : decode cX3_sharesTwo 33 = .ok (.iconst 0, 1) := dk_3 (dk_at dksX3_sharesTwo_1 11 rfl rfl)
theorem dX3_sharesTwo_34 : decode cX3_sharesTwo 34 = .ok (.istore_n 2, 1) := dk_61 (dk_at dksX3_sharesTwo_1 12 rfl rfl)
theorem dX3_sharesTwo_35 : decode cX3_sharesTwo 35 = .ok (.iinc 3 1, 3) := dk_132 3 1 (dk_at dksX3_sharesTwo_1 13 rfl rfl)
theorem dX3_sharesTwo_38 : decode cX3_sharesTwo 38 = .ok (.goto (-34), 3) := dk_167 255 222 (dk_at dksX3_sharesTwo_1 16 rfl rfl)
theorem dX3_sharesTwo_41 : decode cX3_sharesTwo 41 = .ok (.iload_n 2, 1) := dk_28 (dk_at dksX3_sharesTwo_1 19 rfl rfl)
theorem dX3_sharesTwo_42 : decode cX3_sharesTwo 42 = .ok (.ireturn, 1) := dk_172 (dk_at dksX3_sharesTwo_1 20 rfl rfl)
abbrev cX3_bits : ByteArray := prog_15_method_21_code
def yX3_bits : MethodName := ⟨RX3, "bits", "(I)I"⟩
theorem dX3_bits_0 : decode cX3_bits 0 = .ok (.iload_n 0, 1) := by decide +kernel
theorem dX3_bits_1 : decode cX3_bits 1 = .ok (.invokestatic 205, 3) := by decide +kernel
theorem dX3_bits_4 : decode cX3_bits 4 = .ok (.ireturn, 1) := by decide +kernel
abbrev cX3_readSigned : ByteArray := prog_15_method_15_code
def yX3_readSigned : MethodName := ⟨RX3, "readSigned", "()I"⟩
def dkwX3_readSigned_1 : List UInt8 := [153, 0, 8, 28, 116, 167, 0, 4, 28, 172]
abbrev dktX3_readSigned_1 : List UInt8 := dkwX3_readSigned_1 ++ []
def dkwX3_readSigned_0 : List UInt8 := [42, 16, 45, 182, 0, 161, 60, 27, 153, 0, 7, 42, 182, 0, 158, 42, 3, 16, 9, 182, 0, 164, 61, 27]
abbrev dktX3_readSigned_0 : List UInt8 := dkwX3_readSigned_0 ++ dktX3_readSigned_1
theorem dksX3_readSigned_0 : cX3_readSigned.data.toList.drop 0 = dktX3_readSigned_0 := by decide +kernel
theorem dksX3_readSigned_1 : cX3_readSigned.data.toList.drop 24 = dktX3_readSigned_1 := dk_seg dksX3_readSigned_0 24 rfl rfl
theorem dX3_readSigned_0 : decode cX3_readSigned 0 = .ok (.aload_n 0, 1) := dk_42 (dk_at dksX3_readSigned_0 0 rfl rfl)
theorem dX3_readSigned_1 : decode cX3_readSigned 1 = .ok (.bipush 45, 2) := dk_16 45 (dk_at dksX3_readSigned_0 1 rfl rfl)
theorem dX3_readSigned_3 : decode cX3_readSigned 3 = .ok (.invokevirtual 161, 3) := dk_182 0 161 (dk_at dksX3_readSigned_0 3 rfl rfl)
theorem dX3_readSigned_6 : decode cX3_readSigned 6 = .ok (.istore_n 1, 1) := dk_60 (dk_at dksX3_readSigned_0 6 rfl rfl)
theorem dX3_readSigned_7 : decode cX3_readSigned 7 = .ok (.iload_n 1, 1) := dk_27 (dk_at dksX3_readSigned_0 7 rfl rfl)
theorem dX3_readSigned_8 : decode cX3_readSigned 8 = .ok (.ifCond .eq 7, 3) := dk_153 0 7 (dk_at dksX3_readSigned_0 8 rfl rfl)
theorem dX3_readSigned_11 : decode cX3_readSigned 11 = .ok (.aload_n 0, 1) := dk_42 (dk_at dksX3_readSigned_0 11 rfl rfl)
theorem dX3_readSigned_12 : decode cX3_readSigned 12 = .ok (.invokevirtual 158, 3) := dk_182 0 158 (dk_at dksX3_readSigned_0 12 rfl rfl)
theorem dX3_readSigned_15 : decode cX3_readSigned 15 = .ok (.aload_n 0, 1) := dk_42 (dk_at dksX3_readSigned_0 15 rfl rfl)
theorem dX3_readSigned_16 : decode cX3_readSigned 16 = .ok (.iconst 0, 1) := dk_3 (dk_at dksX3_readSigned_0 16 rfl rfl)
theorem dX3_readSigned_17 : decode cX3_readSigned 17 = .ok (.bipush 9, 2) := dk_16 9 (dk_at dksX3_readSigned_0 17 rfl rfl)
theorem dX3_readSigned_19 : decode cX3_readSigned 19 = .ok (.invokevirtual 164, 3) := dk_182 0 164 (dk_at dksX3_readSigned_0 19 rfl rfl)
theorem dX3_readSigned_22 : decode cX3_readSigned 22 = .ok (.istore_n 2, 1) := dk_61 (dk_at dksX3_readSigned_0 22 rfl rfl)
theorem dX3_readSigned_23 : decode cX3_readSigned 23 = .ok (.iload_n 1, 1) := dk_27 (dk_at dksX3_readSigned_0 23 rfl rfl)
theorem dX3_readSigned_24 : decode cX3_readSigned 24 = .ok (.ifCond .eq 8, 3) := dk_153 0 8 (dk_at dksX3_readSigned_1 0 rfl rfl)
theorem dX3_readSigned_27 : decode cX3_readSigned 27 = .ok (.iload_n 2, 1) := dk_28 (dk_at dksX3_readSigned_1 3 rfl rfl)
theorem dX3_readSigned_28 : decode cX3_readSigned 28 = .ok (.ineg, 1) := dk_116 (dk_at dksX3_readSigned_1 4 rfl rfl)
theorem dX3_readSigned_29 : decode cX3_readSigned 29 = .ok (.goto 4, 3) := dk_167 0 4 (dk_at dksX3_readSigned_1 5 rfl rfl)
theorem dX3_readSigned_32 : decode cX3_readSigned 32 = .ok (.iload_n 2, 1) := dk_28 (dk_at dksX3_readSigned_1 8 rfl rfl)
theorem dX3_readSigned_33 : decode cX3_readSigned 33 = .ok (.ireturn, 1) := dk_172 (dk_at dksX3_readSigned_1 9 rfl rfl)
abbrev cX3_fault : ByteArray := prog_15_method_20_code
def yX3_fault : MethodName := ⟨RX3, "fault", "()I"⟩
def dkwX3_fault_0 : List UInt8 := [42, 3, 181, 0, 93, 42, 180, 0, 22, 172]
abbrev dktX3_fault_0 : List UInt8 := dkwX3_fault_0 ++ []
theorem dksX3_fault_0 : cX3_fault.data.toList.drop 0 = dktX3_fault_0 := by decide +kernel
theorem dX3_fault_0 : decode cX3_fault 0 = .ok (.aload_n 0, 1) := dk_42 (dk_at dksX3_fault_0 0 rfl rfl)
theorem dX3_fault_1 : decode cX3_fault 1 = .ok (.iconst 0, 1) := dk_3 (dk_at dksX3_fault_0 1 rfl rfl)
theorem dX3_fault_2 : decode cX3_fault 2 = .ok (.putfield 93, 3) := dk_181 0 93 (dk_at dksX3_fault_0 2 rfl rfl)
theorem dX3_fault_5 : decode cX3_fault 5 = .ok (.aload_n 0, 1) := dk_42 (dk_at dksX3_fault_0 5 rfl rfl)
theorem dX3_fault_6 : decode cX3_fault 6 = .ok (.getfield 22, 3) := dk_180 0 22 (dk_at dksX3_fault_0 6 rfl rfl)
theorem dX3_fault_9 : decode cX3_fault 9 = .ok (.ireturn, 1) := dk_172 (dk_at dksX3_fault_0 9 rfl rfl)
abbrev cX3_count : ByteArray := prog_15_method_59_code
def yX3_count : MethodName := ⟨RX3, "count", "(I)I"⟩
def dkwX3_count_8 : List UInt8 := [172, 42, 4, 182, 0, 192, 172]
abbrev dktX3_count_8 : List UInt8 := dkwX3_count_8 ++ []
def dkwX3_count_7 : List UInt8 := [42, 180, 0, 96, 172, 42, 180, 0, 16, 27, 16, 18, 100, 46, 172, 42, 182, 1, 65, 172, 42, 182, 1, 68]
abbrev dktX3_count_7 : List UInt8 := dkwX3_count_7 ++ dktX3_count_8
def dkwX3_count_6 : List UInt8 := [182, 1, 52, 172, 42, 182, 1, 56, 172, 42, 182, 1, 59, 172, 42, 182, 1, 62, 172, 42, 180, 0, 198, 172]
abbrev dktX3_count_6 : List UInt8 := dkwX3_count_6 ++ dktX3_count_7
def dkwX3_count_5 : List UInt8 := [172, 42, 182, 1, 46, 172, 42, 182, 1, 7, 172, 42, 182, 1, 49, 172, 42, 3, 182, 1, 52, 172, 42, 4]
abbrev dktX3_count_5 : List UInt8 := dkwX3_count_5 ++ dktX3_count_6
def dkwX3_count_4 : List UInt8 := [182, 1, 37, 153, 0, 10, 42, 182, 0, 234, 167, 0, 4, 2, 172, 42, 182, 1, 40, 172, 42, 182, 1, 43]
abbrev dktX3_count_4 : List UInt8 := dkwX3_count_4 ++ dktX3_count_5
def dkwX3_count_3 : List UInt8 := [167, 0, 4, 3, 172, 42, 182, 1, 37, 153, 0, 10, 42, 182, 0, 231, 167, 0, 4, 2, 172, 42]
abbrev dktX3_count_3 : List UInt8 := dkwX3_count_3 ++ dktX3_count_4
def dkwX3_count_2 : List UInt8 := [42, 182, 0, 222, 172, 42, 182, 0, 213, 172, 42, 182, 1, 34, 172, 42, 182, 1, 37, 153, 0, 7, 4]
abbrev dktX3_count_2 : List UInt8 := dkwX3_count_2 ++ dktX3_count_3
def dkwX3_count_1 : List UInt8 := [170, 0, 0, 0, 0, 244, 0, 0, 0, 0, 0, 0, 0, 21, 0, 0, 0, 102, 0, 0, 0, 107, 0, 0, 0, 112, 0, 0, 0, 117, 0, 0, 0, 130, 0, 0, 0, 146, 0, 0, 0, 162, 0, 0, 0, 167, 0, 0, 0, 172, 0, 0, 0, 177, 0, 0, 0, 182, 0, 0, 0, 187, 0, 0, 0, 193, 0, 0, 0, 199, 0, 0, 0, 204, 0, 0, 0, 209, 0, 0, 0, 214, 0, 0, 0, 219, 0, 0, 0, 224, 0, 0, 0, 224, 0, 0, 0, 234, 0, 0, 0, 239]
abbrev dktX3_count_1 : List UInt8 := dkwX3_count_1 ++ dktX3_count_2
def dkwX3_count_0 : List UInt8 := [42, 3, 181, 0, 93, 27]
abbrev dktX3_count_0 : List UInt8 := dkwX3_count_0 ++ dktX3_count_1
theorem dksX3_count_0 : cX3_count.data.toList.drop 0 = dktX3_count_0 := by decide +kernel
theorem dksX3_count_1 : cX3_count.data.toList.drop 6 = dktX3_count_1 := dk_seg dksX3_count_0 6 rfl rfl
theorem dksX3_count_2 : cX3_count.data.toList.drop 108 = dktX3_count_2 := dk_seg dksX3_count_1 102 rfl rfl
theorem dksX3_count_3 : cX3_count.data.toList.drop 131 = dktX3_count_3 := dk_seg dksX3_count_2 23 rfl rfl
theorem dksX3_count_4 : cX3_count.data.toList.drop 153 = dktX3_count_4 := dk_seg dksX3_count_3 22 rfl rfl
theorem dksX3_count_5 : cX3_count.data.toList.drop 177 = dktX3_count_5 := dk_seg dksX3_count_4 24 rfl rfl
theorem dksX3_count_6 : cX3_count.data.toList.drop 201 = dktX3_count_6 := dk_seg dksX3_count_5 24 rfl rfl
theorem dksX3_count_7 : cX3_count.data.toList.drop 225 = dktX3_count_7 := dk_seg dksX3_count_6 24 rfl rfl
theorem dksX3_count_8 : cX3_count.data.toList.drop 249 = dktX3_count_8 := dk_seg dksX3_count_7 24 rfl rfl
theorem dX3_count_0 : decode cX3_count 0 = .ok (.aload_n 0, 1) := dk_42 (dk_at dksX3_count_0 0 rfl rfl)
theorem dX3_count_1 : decode cX3_count 1 = .ok (.iconst 0, 1) := dk_3 (dk_at dksX3_count_0 1 rfl rfl)
theorem dX3_count_2 : decode cX3_count 2 = .ok (.putfield 93, 3) := dk_181 0 93 (dk_at dksX3_count_0 2 rfl rfl)
theorem dX3_count_5 : decode cX3_count 5 = .ok (.iload_n 1, 1) := dk_27 (dk_at dksX3_count_0 5 rfl rfl)
theorem dX3_count_6 : decode cX3_count 6 = .ok (.tableswitch 244 0 21 #[102, 107, 112, 117, 130, 146, 162, 167, 172, 177, 182, 187, 193, 199, 204, 209, 214, 219, 224, 224, 234, 239], 102) := by decide +kernel
theorem dX3_count_108 : decode cX3_count 108 = .ok (.aload_n 0, 1) := dk_42 (dk_at dksX3_count_2 0 rfl rfl)
theorem dX3_count_109 : decode cX3_count 109 = .ok (.invokevirtual 222, 3) := dk_182 0 222 (dk_at dksX3_count_2 1 rfl rfl)
theorem dX3_count_112 : decode cX3_count 112 = .ok (.ireturn, 1) := dk_172 (dk_at dksX3_count_2 4 rfl rfl)
theorem dX3_count_113 : decode cX3_count 113 = .ok (.aload_n 0, 1) := dk_42 (dk_at dksX3_count_2 5 rfl rfl)
theorem dX3_count_114 : decode cX3_count 114 = .ok (.invokevirtual 213, 3) := dk_182 0 213 (dk_at dksX3_count_2 6 rfl rfl)
theorem dX3_count_117 : decode cX3_count 117 = .ok (.ireturn, 1) := dk_172 (dk_at dksX3_count_2 9 rfl rfl)
theorem dX3_count_118 : decode cX3_count 118 = .ok (.aload_n 0, 1) := dk_42 (dk_at dksX3_count_2 10 rfl rfl)
theorem dX3_count_119 : decode cX3_count 119 = .ok (.invokevirtual 290, 3) := dk_182 1 34 (dk_at dksX3_count_2 11 rfl rfl)
theorem dX3_count_122 : decode cX3_count 122 = .ok (.ireturn, 1) := dk_172 (dk_at dksX3_count_2 14 rfl rfl)
theorem dX3_count_123 : decode cX3_count 123 = .ok (.aload_n 0, 1) := dk_42 (dk_at dksX3_count_2 15 rfl rfl)
theorem dX3_count_124 : decode cX3_count 124 = .ok (.invokevirtual 293, 3) := dk_182 1 37 (dk_at dksX3_count_2 16 rfl rfl)
theorem dX3_count_127 : decode cX3_count 127 = .ok (.ifCond .eq 7, 3) := dk_153 0 7 (dk_at dksX3_count_2 19 rfl rfl)
theorem dX3_count_130 : decode cX3_count 130 = .ok (.iconst 1, 1) := dk_4 (dk_at dksX3_count_2 22 rfl rfl)
theorem dX3_count_131 : decode cX3_count 131 = .ok (.goto 4, 3) := dk_167 0 4 (dk_at dksX3_count_3 0 rfl rfl)
theorem dX3_count_134 : decode cX3_count 134 = .ok (.iconst 0, 1) := dk_3 (dk_at dksX3_count_3 3 rfl rfl)
theorem dX3_count_135 : decode cX3_count 135 = .ok (.ireturn, 1) := dk_172 (dk_at dksX3_count_3 4 rfl rfl)
theorem dX3_count_136 : decode cX3_count 136 = .ok (.aload_n 0, 1) := dk_42 (dk_at dksX3_count_3 5 rfl rfl)
theorem dX3_count_137 : decode cX3_count 137 = .ok (.invokevirtual 293, 3) := dk_182 1 37 (dk_at dksX3_count_3 6 rfl rfl)
theorem dX3_count_140 : decode cX3_count 140 = .ok (.ifCond .eq 10, 3) := dk_153 0 10 (dk_at dksX3_count_3 9 rfl rfl)
theorem dX3_count_143 : decode cX3_count 143 = .ok (.aload_n 0, 1) := dk_42 (dk_at dksX3_count_3 12 rfl rfl)
theorem dX3_count_144 : decode cX3_count 144 = .ok (.invokevirtual 231, 3) := dk_182 0 231 (dk_at dksX3_count_3 13 rfl rfl)
theorem dX3_count_147 : decode cX3_count 147 = .ok (.goto 4, 3) := dk_167 0 4 (dk_at dksX3_count_3 16 rfl rfl)
theorem dX3_count_150 : decode cX3_count 150 = .ok (.iconst (-1), 1) := dk_2 (dk_at dksX3_count_3 19 rfl rfl)
theorem dX3_count_151 : decode cX3_count 151 = .ok (.ireturn, 1) := dk_172 (dk_at dksX3_count_3 20 rfl rfl)
theorem dX3_count_152 : decode cX3_count 152 = .ok (.aload_n 0, 1) := dk_42 (dk_at dksX3_count_3 21 rfl rfl)
theorem dX3_count_153 : decode cX3_count 153 = .ok (.invokevirtual 293, 3) := dk_182 1 37 (dk_at dksX3_count_4 0 rfl rfl)
theorem dX3_count_156 : decode cX3_count 156 = .ok (.ifCond .eq 10, 3) := dk_153 0 10 (dk_at dksX3_count_4 3 rfl rfl)
theorem dX3_count_159 : decode cX3_count 159 = .ok (.aload_n 0, 1) := dk_42 (dk_at dksX3_count_4 6 rfl rfl)
theorem dX3_count_160 : decode cX3_count 160 = .ok (.invokevirtual 234, 3) := dk_182 0 234 (dk_at dksX3_count_4 7 rfl rfl)
theorem dX3_count_163 : decode cX3_count 163 = .ok (.goto 4, 3) := dk_167 0 4 (dk_at dksX3_count_4 10 rfl rfl)
theorem dX3_count_166 : decode cX3_count 166 = .ok (.iconst (-1), 1) := dk_2 (dk_at dksX3_count_4 13 rfl rfl)
theorem dX3_count_167 : decode cX3_count 167 = .ok (.ireturn, 1) := dk_172 (dk_at dksX3_count_4 14 rfl rfl)
theorem dX3_count_168 : decode cX3_count 168 = .ok (.aload_n 0, 1) := dk_42 (dk_at dksX3_count_4 15 rfl rfl)
theorem dX3_count_169 : decode cX3_count 169 = .ok (.invokevirtual 296, 3) := dk_182 1 40 (dk_at dksX3_count_4 16 rfl rfl)
theorem dX3_count_172 : decode cX3_count 172 = .ok (.ireturn, 1) := dk_172 (dk_at dksX3_count_4 19 rfl rfl)
theorem dX3_count_173 : decode cX3_count 173 = .ok (.aload_n 0, 1) := dk_42 (dk_at dksX3_count_4 20 rfl rfl)
theorem dX3_count_174 : decode cX3_count 174 = .ok (.invokevirtual 299, 3) := dk_182 1 43 (dk_at dksX3_count_4 21 rfl rfl)
theorem dX3_count_177 : decode cX3_count 177 = .ok (.ireturn, 1) := dk_172 (dk_at dksX3_count_5 0 rfl rfl)
theorem dX3_count_178 : decode cX3_count 178 = .ok (.aload_n 0, 1) := dk_42 (dk_at dksX3_count_5 1 rfl rfl)
theorem dX3_count_179 : decode cX3_count 179 = .ok (.invokevirtual 302, 3) := dk_182 1 46 (dk_at dksX3_count_5 2 rfl rfl)
theorem dX3_count_182 : decode cX3_count 182 = .ok (.ireturn, 1) := dk_172 (dk_at dksX3_count_5 5 rfl rfl)
theorem dX3_count_183 : decode cX3_count 183 = .ok (.aload_n 0, 1) := dk_42 (dk_at dksX3_count_5 6 rfl rfl)
theorem dX3_count_184 : decode cX3_count 184 = .ok (.invokevirtual 263, 3) := dk_182 1 7 (dk_at dksX3_count_5 7 rfl rfl)
theorem dX3_count_187 : decode cX3_count 187 = .ok (.ireturn, 1) := dk_172 (dk_at dksX3_count_5 10 rfl rfl)
theorem dX3_count_188 : decode cX3_count 188 = .ok (.aload_n 0, 1) := dk_42 (dk_at dksX3_count_5 11 rfl rfl)
theorem dX3_count_189 : decode cX3_count 189 = .ok (.invokevirtual 305, 3) := dk_182 1 49 (dk_at dksX3_count_5 12 rfl rfl)
theorem dX3_count_192 : decode cX3_count 192 = .ok (.ireturn, 1) := dk_172 (dk_at dksX3_count_5 15 rfl rfl)
theorem dX3_count_193 : decode cX3_count 193 = .ok (.aload_n 0, 1) := dk_42 (dk_at dksX3_count_5 16 rfl rfl)
theorem dX3_count_194 : decode cX3_count 194 = .ok (.iconst 0, 1) := dk_3 (dk_at dksX3_count_5 17 rfl rfl)
theorem dX3_count_195 : decode cX3_count 195 = .ok (.invokevirtual 308, 3) := dk_182 1 52 (dk_at dksX3_count_5 18 rfl rfl)
theorem dX3_count_198 : decode cX3_count 198 = .ok (.ireturn, 1) := dk_172 (dk_at dksX3_count_5 21 rfl rfl)
theorem dX3_count_199 : decode cX3_count 199 = .ok (.aload_n 0, 1) := dk_42 (dk_at dksX3_count_5 22 rfl rfl)
theorem dX3_count_200 : decode cX3_count 200 = .ok (.iconst 1, 1) := dk_4 (dk_at dksX3_count_5 23 rfl rfl)
theorem dX3_count_201 : decode cX3_count 201 = .ok (.invokevirtual 308, 3) := dk_182 1 52 (dk_at dksX3_count_6 0 rfl rfl)
theorem dX3_count_204 : decode cX3_count 204 = .ok (.ireturn, 1) := dk_172 (dk_at dksX3_count_6 3 rfl rfl)
theorem dX3_count_205 : decode cX3_count 205 = .ok (.aload_n 0, 1) := dk_42 (dk_at dksX3_count_6 4 rfl rfl)
theorem dX3_count_206 : decode cX3_count 206 = .ok (.invokevirtual 312, 3) := dk_182 1 56 (dk_at dksX3_count_6 5 rfl rfl)
theorem dX3_count_209 : decode cX3_count 209 = .ok (.ireturn, 1) := dk_172 (dk_at dksX3_count_6 8 rfl rfl)
theorem dX3_count_210 : decode cX3_count 210 = .ok (.aload_n 0, 1) := dk_42 (dk_at dksX3_count_6 9 rfl rfl)
theorem dX3_count_211 : decode cX3_count 211 = .ok (.invokevirtual 315, 3) := dk_182 1 59 (dk_at dksX3_count_6 10 rfl rfl)
theorem dX3_count_214 : decode cX3_count 214 = .ok (.ireturn, 1) := dk_172 (dk_at dksX3_count_6 13 rfl rfl)
theorem dX3_count_215 : decode cX3_count 215 = .ok (.aload_n 0, 1) := dk_42 (dk_at dksX3_count_6 14 rfl rfl)
theorem dX3_count_216 : decode cX3_count 216 = .ok (.invokevirtual 318, 3) := dk_182 1 62 (dk_at dksX3_count_6 15 rfl rfl)
theorem dX3_count_219 : decode cX3_count 219 = .ok (.ireturn, 1) := dk_172 (dk_at dksX3_count_6 18 rfl rfl)
theorem dX3_count_220 : decode cX3_count 220 = .ok (.aload_n 0, 1) := dk_42 (dk_at dksX3_count_6 19 rfl rfl)
theorem dX3_count_221 : decode cX3_count 221 = .ok (.getfield 198, 3) := dk_180 0 198 (dk_at dksX3_count_6 20 rfl rfl)
theorem dX3_count_224 : decode cX3_count 224 = .ok (.ireturn, 1) := dk_172 (dk_at dksX3_count_6 23 rfl rfl)
theorem dX3_count_225 : decode cX3_count 225 = .ok (.aload_n 0, 1) := dk_42 (dk_at dksX3_count_7 0 rfl rfl)
theorem dX3_count_226 : decode cX3_count 226 = .ok (.getfield 96, 3) := dk_180 0 96 (dk_at dksX3_count_7 1 rfl rfl)
theorem dX3_count_229 : decode cX3_count 229 = .ok (.ireturn, 1) := dk_172 (dk_at dksX3_count_7 4 rfl rfl)
theorem dX3_count_230 : decode cX3_count 230 = .ok (.aload_n 0, 1) := dk_42 (dk_at dksX3_count_7 5 rfl rfl)
theorem dX3_count_231 : decode cX3_count 231 = .ok (.getfield 16, 3) := dk_180 0 16 (dk_at dksX3_count_7 6 rfl rfl)
theorem dX3_count_234 : decode cX3_count 234 = .ok (.iload_n 1, 1) := dk_27 (dk_at dksX3_count_7 9 rfl rfl)
theorem dX3_count_235 : decode cX3_count 235 = .ok (.bipush 18, 2) := dk_16 18 (dk_at dksX3_count_7 10 rfl rfl)
theorem dX3_count_237 : decode cX3_count 237 = .ok (.isub, 1) := dk_100 (dk_at dksX3_count_7 12 rfl rfl)
theorem dX3_count_238 : decode cX3_count 238 = .ok (.iaload, 1) := dk_46 (dk_at dksX3_count_7 13 rfl rfl)
theorem dX3_count_239 : decode cX3_count 239 = .ok (.ireturn, 1) := dk_172 (dk_at dksX3_count_7 14 rfl rfl)
theorem dX3_count_240 : decode cX3_count 240 = .ok (.aload_n 0, 1) := dk_42 (dk_at dksX3_count_7 15 rfl rfl)
theorem dX3_count_241 : decode cX3_count 241 = .ok (.invokevirtual 321, 3) := dk_182 1 65 (dk_at dksX3_count_7 16 rfl rfl)
theorem dX3_count_244 : decode cX3_count 244 = .ok (.ireturn, 1) := dk_172 (dk_at dksX3_count_7 19 rfl rfl)
theorem dX3_count_245 : decode cX3_count 245 = .ok (.aload_n 0, 1) := dk_42 (dk_at dksX3_count_7 20 rfl rfl)
theorem dX3_count_246 : decode cX3_count 246 = .ok (.invokevirtual 324, 3) := dk_182 1 68 (dk_at dksX3_count_7 21 rfl rfl)
theorem dX3_count_249 : decode cX3_count 249 = .ok (.ireturn, 1) := dk_172 (dk_at dksX3_count_8 0 rfl rfl)
theorem dX3_count_250 : decode cX3_count 250 = .ok (.aload_n 0, 1) := dk_42 (dk_at dksX3_count_8 1 rfl rfl)
theorem dX3_count_251 : decode cX3_count 251 = .ok (.iconst 1, 1) := dk_4 (dk_at dksX3_count_8 2 rfl rfl)
theorem dX3_count_252 : decode cX3_count 252 = .ok (.invokevirtual 192, 3) := dk_182 0 192 (dk_at dksX3_count_8 3 rfl rfl)
theorem dX3_count_255 : decode cX3_count 255 = .ok (.ireturn, 1) := dk_172 (dk_at dksX3_count_8 6 rfl rfl)
abbrev cX3_points : ByteArray := prog_15_method_23_code
def yX3_points : MethodName := ⟨RX3, "points", "()I"⟩
def dkwX3_points_0 : List UInt8 := [42, 180, 0, 9, 3, 46, 172]
abbrev dktX3_points_0 : List UInt8 := dkwX3_points_0 ++ []
theorem dksX3_points_0 : cX3_points.data.toList.drop 0 = dktX3_points_0 := by decide +kernel
theorem dX3_points_0 : decode cX3_points 0 = .ok (.aload_n 0, 1) := dk_42 (dk_at dksX3_points_0 0 rfl rfl)
theorem dX3_points_1 : decode cX3_points 1 = .ok (.getfield 9, 3) := dk_180 0 9 (dk_at dksX3_points_0 1 rfl rfl)
theorem dX3_points_4 : decode cX3_points 4 = .ok (.iconst 0, 1) := dk_3 (dk_at dksX3_points_0 4 rfl rfl)
theorem dX3_points_5 : decode cX3_points 5 = .ok (.iaload, 1) := dk_46 (dk_at dksX3_points_0 5 rfl rfl)
theorem dX3_points_6 : decode cX3_points 6 = .ok (.ireturn, 1) := dk_172 (dk_at dksX3_points_0 6 rfl rfl)
abbrev cX3_lines : ByteArray := prog_15_method_24_code
def yX3_lines : MethodName := ⟨RX3, "lines", "()I"⟩
def dkwX3_lines_0 : List UInt8 := [42, 180, 0, 9, 4, 46, 172]
abbrev dktX3_lines_0 : List UInt8 := dkwX3_lines_0 ++ []
theorem dksX3_lines_0 : cX3_lines.data.toList.drop 0 = dktX3_lines_0 := by decide +kernel
theorem dX3_lines_0 : decode cX3_lines 0 = .ok (.aload_n 0, 1) := dk_42 (dk_at dksX3_lines_0 0 rfl rfl)
theorem dX3_lines_1 : decode cX3_lines 1 = .ok (.getfield 9, 3) := dk_180 0 9 (dk_at dksX3_lines_0 1 rfl rfl)
theorem dX3_lines_4 : decode cX3_lines 4 = .ok (.iconst 1, 1) := dk_4 (dk_at dksX3_lines_0 4 rfl rfl)
theorem dX3_lines_5 : decode cX3_lines 5 = .ok (.iaload, 1) := dk_46 (dk_at dksX3_lines_0 5 rfl rfl)
theorem dX3_lines_6 : decode cX3_lines 6 = .ok (.ireturn, 1) := dk_172 (dk_at dksX3_lines_0 6 rfl rfl)
abbrev cX3_flags : ByteArray := prog_15_method_29_code
def yX3_flags : MethodName := ⟨RX3, "flags", "()I"⟩
def dkwX3_flags_1 : List UInt8 := [132, 2, 1, 167, 255, 234, 27, 172]
abbrev dktX3_flags_1 : List UInt8 := dkwX3_flags_1 ++ []
def dkwX3_flags_0 : List UInt8 := [3, 60, 3, 61, 28, 42, 182, 0, 213, 162, 0, 20, 27, 42, 28, 182, 0, 216, 184, 0, 210, 96, 60]
abbrev dktX3_flags_0 : List UInt8 := dkwX3_flags_0 ++ dktX3_flags_1
theorem dksX3_flags_0 : cX3_flags.data.toList.drop 0 = dktX3_flags_0 := by decide +kernel
theorem dksX3_flags_1 : cX3_flags.data.toList.drop 23 = dktX3_flags_1 := dk_seg dksX3_flags_0 23 rfl rfl
theorem dX3_flags_0 : decode cX3_flags 0 = .ok (.iconst 0, 1) := dk_3 (dk_at dksX3_flags_0 0 rfl rfl)
theorem dX3_flags_1 : decode cX3_flags 1 = .ok (.istore_n 1, 1) := dk_60 (dk_at dksX3_flags_0 1 rfl rfl)
theorem dX3_flags_2 : decode cX3_flags 2 = .ok (.iconst 0, 1) := dk_3 (dk_at dksX3_flags_0 2 rfl rfl)
theorem dX3_flags_3 : decode cX3_flags 3 = .ok (.istore_n 2, 1) := dk_61 (dk_at dksX3_flags_0 3 rfl rfl)
theorem dX3_flags_4 : decode cX3_flags 4 = .ok (.iload_n 2, 1) := dk_28 (dk_at dksX3_flags_0 4 rfl rfl)
theorem dX3_flags_5 : decode cX3_flags 5 = .ok (.aload_n 0, 1) := dk_42 (dk_at dksX3_flags_0 5 rfl rfl)
theorem dX3_flags_6 : decode cX3_flags 6 = .ok (.invokevirtual 213, 3) := dk_182 0 213 (dk_at dksX3_flags_0 6 rfl rfl)
theorem dX3_flags_9 : decode cX3_flags 9 = .ok (.if_icmp .ge 20, 3) := dk_162 0 20 (dk_at dksX3_flags_0 9 rfl rfl)
theorem dX3_flags_12 : decode cX3_flags 12 = .ok (.iload_n 1, 1) := dk_27 (dk_at dksX3_flags_0 12 rfl rfl)
theorem dX3_flags_13 : decode cX3_flags 13 = .ok (.aload_n 0, 1) := dk_42 (dk_at dksX3_flags_0 13 rfl rfl)
theorem dX3_flags_14 : decode cX3_flags 14 = .ok (.iload_n 2, 1) := dk_28 (dk_at dksX3_flags_0 14 rfl rfl)
theorem dX3_flags_15 : decode cX3_flags 15 = .ok (.invokevirtual 216, 3) := dk_182 0 216 (dk_at dksX3_flags_0 15 rfl rfl)
theorem dX3_flags_18 : decode cX3_flags 18 = .ok (.invokestatic 210, 3) := dk_184 0 210 (dk_at dksX3_flags_0 18 rfl rfl)
theorem dX3_flags_21 : decode cX3_flags 21 = .ok (.iadd, 1) := dk_96 (dk_at dksX3_flags_0 21 rfl rfl)
theorem dX3_flags_22 : decode cX3_flags 22 = .ok (.istore_n 1, 1) := dk_60 (dk_at dksX3_flags_0 22 rfl rfl)
theorem dX3_flags_23 : decode cX3_flags 23 = .ok (.iinc 2 1, 3) := dk_132 2 1 (dk_at dksX3_flags_1 0 rfl rfl)
theorem dX3_flags_26 : decode cX3_flags 26 = .ok (.goto (-22), 3) := dk_167 255 234 (dk_at dksX3_flags_1 3 rfl rfl)
theorem dX3_flags_29 : decode cX3_flags 29 = .ok (.iload_n 1, 1) := dk_27 (dk_at dksX3_flags_1 6 rfl rfl)
theorem dX3_flags_30 : decode cX3_flags 30 = .ok (.ireturn, 1) := dk_172 (dk_at dksX3_flags_1 7 rfl rfl)
abbrev cX3_lineAt : ByteArray := prog_15_method_25_code
def yX3_lineAt : MethodName := ⟨RX3, "lineAt", "(I)I"⟩
def dkwX3_lineAt_0 : List UInt8 := [42, 180, 0, 9, 5, 27, 96, 46, 172]
abbrev dktX3_lineAt_0 : List UInt8 := dkwX3_lineAt_0 ++ []
theorem dksX3_lineAt_0 : cX3_lineAt.data.toList.drop 0 = dktX3_lineAt_0 := by decide +kernel
theorem dX3_lineAt_0 : decode cX3_lineAt 0 = .ok (.aload_n 0, 1) := dk_42 (dk_at dksX3_lineAt_0 0 rfl rfl)
theorem dX3_lineAt_1 : decode cX3_lineAt 1 = .ok (.getfield 9, 3) := dk_180 0 9 (dk_at dksX3_lineAt_0 1 rfl rfl)
theorem dX3_lineAt_4 : decode cX3_lineAt 4 = .ok (.iconst 2, 1) := dk_5 (dk_at dksX3_lineAt_0 4 rfl rfl)
theorem dX3_lineAt_5 : decode cX3_lineAt 5 = .ok (.iload_n 1, 1) := dk_27 (dk_at dksX3_lineAt_0 5 rfl rfl)
theorem dX3_lineAt_6 : decode cX3_lineAt 6 = .ok (.iadd, 1) := dk_96 (dk_at dksX3_lineAt_0 6 rfl rfl)
theorem dX3_lineAt_7 : decode cX3_lineAt 7 = .ok (.iaload, 1) := dk_46 (dk_at dksX3_lineAt_0 7 rfl rfl)
theorem dX3_lineAt_8 : decode cX3_lineAt 8 = .ok (.ireturn, 1) := dk_172 (dk_at dksX3_lineAt_0 8 rfl rfl)
abbrev cX3_isRegular : ByteArray := prog_15_method_33_code
def yX3_isRegular : MethodName := ⟨RX3, "isRegular", "()Z"⟩
def dkwX3_isRegular_0 : List UInt8 := [42, 182, 0, 231, 2, 159, 0, 15, 42, 182, 0, 234, 2, 159, 0, 7, 4, 167, 0, 4, 3, 172]
abbrev dktX3_isRegular_0 : List UInt8 := dkwX3_isRegular_0 ++ []
theorem dksX3_isRegular_0 : cX3_isRegular.data.toList.drop 0 = dktX3_isRegular_0 := by decide +kernel
theorem dX3_isRegular_0 : decode cX3_isRegular 0 = .ok (.aload_n 0, 1) := dk_42 (dk_at dksX3_isRegular_0 0 rfl rfl)
theorem dX3_isRegular_1 : decode cX3_isRegular 1 = .ok (.invokevirtual 231, 3) := dk_182 0 231 (dk_at dksX3_isRegular_0 1 rfl rfl)
theorem dX3_isRegular_4 : decode cX3_isRegular 4 = .ok (.iconst (-1), 1) := dk_2 (dk_at dksX3_isRegular_0 4 rfl rfl)
theorem dX3_isRegular_5 : decode cX3_isRegular 5 = .ok (.if_icmp .eq 15, 3) := dk_159 0 15 (dk_at dksX3_isRegular_0 5 rfl rfl)
theorem dX3_isRegular_8 : decode cX3_isRegular 8 = .ok (.aload_n 0, 1) := dk_42 (dk_at dksX3_isRegular_0 8 rfl rfl)
theorem dX3_isRegular_9 : decode cX3_isRegular 9 = .ok (.invokevirtual 234, 3) := dk_182 0 234 (dk_at dksX3_isRegular_0 9 rfl rfl)
theorem dX3_isRegular_12 : decode cX3_isRegular 12 = .ok (.iconst (-1), 1) := dk_2 (dk_at dksX3_isRegular_0 12 rfl rfl)
theorem dX3_isRegular_13 : decode cX3_isRegular 13 = .ok (.if_icmp .eq 7, 3) := dk_159 0 7 (dk_at dksX3_isRegular_0 13 rfl rfl)
theorem dX3_isRegular_16 : decode cX3_isRegular 16 = .ok (.iconst 1, 1) := dk_4 (dk_at dksX3_isRegular_0 16 rfl rfl)
theorem dX3_isRegular_17 : decode cX3_isRegular 17 = .ok (.goto 4, 3) := dk_167 0 4 (dk_at dksX3_isRegular_0 17 rfl rfl)
theorem dX3_isRegular_20 : decode cX3_isRegular 20 = .ok (.iconst 0, 1) := dk_3 (dk_at dksX3_isRegular_0 20 rfl rfl)
theorem dX3_isRegular_21 : decode cX3_isRegular 21 = .ok (.ireturn, 1) := dk_172 (dk_at dksX3_isRegular_0 21 rfl rfl)
abbrev cX3_regularR : ByteArray := prog_15_method_31_code
def yX3_regularR : MethodName := ⟨RX3, "regularR", "()I"⟩
def dkwX3_regularR_1 : List UInt8 := [184, 0, 210, 27, 159, 0, 5, 2, 172, 132, 2, 1, 167, 255, 231, 27, 172]
abbrev dktX3_regularR_1 : List UInt8 := dkwX3_regularR_1 ++ []
def dkwX3_regularR_0 : List UInt8 := [42, 3, 182, 0, 228, 184, 0, 210, 60, 4, 61, 28, 42, 182, 0, 222, 162, 0, 23, 42, 28, 182, 0, 228]
abbrev dktX3_regularR_0 : List UInt8 := dkwX3_regularR_0 ++ dktX3_regularR_1
theorem dksX3_regularR_0 : cX3_regularR.data.toList.drop 0 = dktX3_regularR_0 := by decide +kernel
theorem dksX3_regularR_1 : cX3_regularR.data.toList.drop 24 = dktX3_regularR_1 := dk_seg dksX3_regularR_0 24 rfl rfl
theorem dX3_regularR_0 : decode cX3_regularR 0 = .ok (.aload_n 0, 1) := dk_42 (dk_at dksX3_regularR_0 0 rfl rfl)
theorem dX3_regularR_1 : decode cX3_regularR 1 = .ok (.iconst 0, 1) := dk_3 (dk_at dksX3_regularR_0 1 rfl rfl)
theorem dX3_regularR_2 : decode cX3_regularR 2 = .ok (.invokevirtual 228, 3) := dk_182 0 228 (dk_at dksX3_regularR_0 2 rfl rfl)
theorem dX3_regularR_5 : decode cX3_regularR 5 = .ok (.invokestatic 210, 3) := dk_184 0 210 (dk_at dksX3_regularR_0 5 rfl rfl)
theorem dX3_regularR_8 : decode cX3_regularR 8 = .ok (.istore_n 1, 1) := dk_60 (dk_at dksX3_regularR_0 8 rfl rfl)
theorem dX3_regularR_9 : decode cX3_regularR 9 = .ok (.iconst 1, 1) := dk_4 (dk_at dksX3_regularR_0 9 rfl rfl)
theorem dX3_regularR_10 : decode cX3_regularR 10 = .ok (.istore_n 2, 1) := dk_61 (dk_at dksX3_regularR_0 10 rfl rfl)
theorem dX3_regularR_11 : decode cX3_regularR 11 = .ok (.iload_n 2, 1) := dk_28 (dk_at dksX3_regularR_0 11 rfl rfl)
theorem dX3_regularR_12 : decode cX3_regularR 12 = .ok (.aload_n 0, 1) := dk_42 (dk_at dksX3_regularR_0 12 rfl rfl)
theorem dX3_regularR_13 : decode cX3_regularR 13 = .ok (.invokevirtual 222, 3) := dk_182 0 222 (dk_at dksX3_regularR_0 13 rfl rfl)
theorem dX3_regularR_16 : decode cX3_regularR 16 = .ok (.if_icmp .ge 23, 3) := dk_162 0 23 (dk_at dksX3_regularR_0 16 rfl rfl)
theorem dX3_regularR_19 : decode cX3_regularR 19 = .ok (.aload_n 0, 1) := dk_42 (dk_at dksX3_regularR_0 19 rfl rfl)
theorem dX3_regularR_20 : decode cX3_regularR 20 = .ok (.iload_n 2, 1) := dk_28 (dk_at dksX3_regularR_0 20 rfl rfl)
theorem dX3_regularR_21 : decode cX3_regularR 21 = .ok (.invokevirtual 228, 3) := dk_182 0 228 (dk_at dksX3_regularR_0 21 rfl rfl)
theorem dX3_regularR_24 : decode cX3_regularR 24 = .ok (.invokestatic 210, 3) := dk_184 0 210 (dk_at dksX3_regularR_1 0 rfl rfl)
theorem dX3_regularR_27 : decode cX3_regularR 27 = .ok (.iload_n 1, 1) := dk_27 (dk_at dksX3_regularR_1 3 rfl rfl)
theorem dX3_regularR_28 : decode cX3_regularR 28 = .ok (.if_icmp .eq 5, 3) := dk_159 0 5 (dk_at dksX3_regularR_1 4 rfl rfl)
theorem dX3_regularR_31 : decode cX3_regularR 31 = .ok (.iconst (-1), 1) := dk_2 (dk_at dksX3_regularR_1 7 rfl rfl)
theorem dX3_regularR_32 : decode cX3_regularR 32 = .ok (.ireturn, 1) := dk_172 (dk_at dksX3_regularR_1 8 rfl rfl)
theorem dX3_regularR_33 : decode cX3_regularR 33 = .ok (.iinc 2 1, 3) := dk_132 2 1 (dk_at dksX3_regularR_1 9 rfl rfl)
theorem dX3_regularR_36 : decode cX3_regularR 36 = .ok (.goto (-25), 3) := dk_167 255 231 (dk_at dksX3_regularR_1 12 rfl rfl)
theorem dX3_regularR_39 : decode cX3_regularR 39 = .ok (.iload_n 1, 1) := dk_27 (dk_at dksX3_regularR_1 15 rfl rfl)
theorem dX3_regularR_40 : decode cX3_regularR 40 = .ok (.ireturn, 1) := dk_172 (dk_at dksX3_regularR_1 16 rfl rfl)
abbrev cX3_linesOn : ByteArray := prog_15_method_26_code
def yX3_linesOn : MethodName := ⟨RX3, "linesOn", "(I)I"⟩
def dkwX3_linesOn_1 : List UInt8 := [128, 61, 132, 3, 1, 167, 255, 231, 28, 172]
abbrev dktX3_linesOn_1 : List UInt8 := dkwX3_linesOn_1 ++ []
def dkwX3_linesOn_0 : List UInt8 := [3, 61, 3, 62, 29, 42, 182, 0, 213, 162, 0, 23, 28, 42, 29, 182, 0, 216, 27, 122, 4, 126, 29, 120]
abbrev dktX3_linesOn_0 : List UInt8 := dkwX3_linesOn_0 ++ dktX3_linesOn_1
theorem dksX3_linesOn_0 : cX3_linesOn.data.toList.drop 0 = dktX3_linesOn_0 := by decide +kernel
theorem dksX3_linesOn_1 : cX3_linesOn.data.toList.drop 24 = dktX3_linesOn_1 := dk_seg dksX3_linesOn_0 24 rfl rfl
theorem dX3_linesOn_0 : decode cX3_linesOn 0 = .ok (.iconst 0, 1) := dk_3 (dk_at dksX3_linesOn_0 0 rfl rfl)
theorem dX3_linesOn_1 : decode cX3_linesOn 1 = .ok (.istore_n 2, 1) := dk_61 (dk_at dksX3_linesOn_0 1 rfl rfl)
theorem dX3_linesOn_2 : decode cX3_linesOn 2 = .ok (.iconst 0, 1) := dk_3 (dk_at dksX3_linesOn_0 2 rfl rfl)
theorem dX3_linesOn_3 : decode cX3_linesOn 3 = .ok (.istore_n 3, 1) := dk_62 (dk_at dksX3_linesOn_0 3 rfl rfl)
theorem dX3_linesOn_4 : decode cX3_linesOn 4 = .ok (.iload_n 3, 1) := dk_29 (dk_at dksX3_linesOn_0 4 rfl rfl)
theorem dX3_linesOn_5 : decode cX3_linesOn 5 = .ok (.aload_n 0, 1) := dk_42 (dk_at dksX3_linesOn_0 5 rfl rfl)
theorem dX3_linesOn_6 : decode cX3_linesOn 6 = .ok (.invokevirtual 213, 3) := dk_182 0 213 (dk_at dksX3_linesOn_0 6 rfl rfl)
theorem dX3_linesOn_9 : decode cX3_linesOn 9 = .ok (.if_icmp .ge 23, 3) := dk_162 0 23 (dk_at dksX3_linesOn_0 9 rfl rfl)
theorem dX3_linesOn_12 : decode cX3_linesOn 12 = .ok (.iload_n 2, 1) := dk_28 (dk_at dksX3_linesOn_0 12 rfl rfl)
theorem dX3_linesOn_13 : decode cX3_linesOn 13 = .ok (.aload_n 0, 1) := dk_42 (dk_at dksX3_linesOn_0 13 rfl rfl)
theorem dX3_linesOn_14 : decode cX3_linesOn 14 = .ok (.iload_n 3, 1) := dk_29 (dk_at dksX3_linesOn_0 14 rfl rfl)
theorem dX3_linesOn_15 : decode cX3_linesOn 15 = .ok (.invokevirtual 216, 3) := dk_182 0 216 (dk_at dksX3_linesOn_0 15 rfl rfl)
theorem dX3_linesOn_18 : decode cX3_linesOn 18 = .ok (.iload_n 1, 1) := dk_27 (dk_at dksX3_linesOn_0 18 rfl rfl)
theorem dX3_linesOn_19 : decode cX3_linesOn 19 = .ok (.ishr, 1) := dk_122 (dk_at dksX3_linesOn_0 19 rfl rfl)
theorem dX3_linesOn_20 : decode cX3_linesOn 20 = .ok (.iconst 1, 1) := dk_4 (dk_at dksX3_linesOn_0 20 rfl rfl)
theorem dX3_linesOn_21 : decode cX3_linesOn 21 = .ok (.iand, 1) := dk_126 (dk_at dksX3_linesOn_0 21 rfl rfl)
theorem dX3_linesOn_22 : decode cX3_linesOn 22 = .ok (.iload_n 3, 1) := dk_29 (dk_at dksX3_linesOn_0 22 rfl rfl)
theorem dX3_linesOn_23 : decode cX3_linesOn 23 = .ok (.ishl, 1) := dk_120 (dk_at dksX3_linesOn_0 23 rfl rfl)
theorem dX3_linesOn_24 : decode cX3_linesOn 24 = .ok (.ior, 1) := dk_128 (dk_at dksX3_linesOn_1 0 rfl rfl)
theorem dX3_linesOn_25 : decode cX3_linesOn 25 = .ok (.istore_n 2, 1) := dk_61 (dk_at dksX3_linesOn_1 1 rfl rfl)
theorem dX3_linesOn_26 : decode cX3_linesOn 26 = .ok (.iinc 3 1, 3) := dk_132 3 1 (dk_at dksX3_linesOn_1 2 rfl rfl)
theorem dX3_linesOn_29 : decode cX3_linesOn 29 = .ok (.goto (-25), 3) := dk_167 255 231 (dk_at dksX3_linesOn_1 5 rfl rfl)
theorem dX3_linesOn_32 : decode cX3_linesOn 32 = .ok (.iload_n 2, 1) := dk_28 (dk_at dksX3_linesOn_1 8 rfl rfl)
theorem dX3_linesOn_33 : decode cX3_linesOn 33 = .ok (.ireturn, 1) := dk_172 (dk_at dksX3_linesOn_1 9 rfl rfl)
abbrev cX3_regularK : ByteArray := prog_15_method_32_code
def yX3_regularK : MethodName := ⟨RX3, "regularK", "()I"⟩
def dkwX3_regularK_2 : List UInt8 := [167, 255, 231, 27, 172]
abbrev dktX3_regularK_2 : List UInt8 := dkwX3_regularK_2 ++ []
def dkwX3_regularK_1 : List UInt8 := [182, 0, 213, 162, 0, 23, 42, 28, 182, 0, 216, 184, 0, 210, 27, 159, 0, 5, 2, 172, 132, 2, 1]
abbrev dktX3_regularK_1 : List UInt8 := dkwX3_regularK_1 ++ dktX3_regularK_2
def dkwX3_regularK_0 : List UInt8 := [42, 182, 0, 213, 154, 0, 7, 3, 167, 0, 11, 42, 3, 182, 0, 216, 184, 0, 210, 60, 4, 61, 28, 42]
abbrev dktX3_regularK_0 : List UInt8 := dkwX3_regularK_0 ++ dktX3_regularK_1
theorem dksX3_regularK_0 : cX3_regularK.data.toList.drop 0 = dktX3_regularK_0 := by decide +kernel
theorem dksX3_regularK_1 : cX3_regularK.data.toList.drop 24 = dktX3_regularK_1 := dk_seg dksX3_regularK_0 24 rfl rfl
theorem dksX3_regularK_2 : cX3_regularK.data.toList.drop 47 = dktX3_regularK_2 := dk_seg dksX3_regularK_1 23 rfl rfl
theorem dX3_regularK_0 : decode cX3_regularK 0 = .ok (.aload_n 0, 1) := dk_42 (dk_at dksX3_regularK_0 0 rfl rfl)
theorem dX3_regularK_1 : decode cX3_regularK 1 = .ok (.invokevirtual 213, 3) := dk_182 0 213 (dk_at dksX3_regularK_0 1 rfl rfl)
theorem dX3_regularK_4 : decode cX3_regularK 4 = .ok (.ifCond .ne 7, 3) := dk_154 0 7 (dk_at dksX3_regularK_0 4 rfl rfl)
theorem dX3_regularK_7 : decode cX3_regularK 7 = .ok (.iconst 0, 1) := dk_3 (dk_at dksX3_regularK_0 7 rfl rfl)
theorem dX3_regularK_8 : decode cX3_regularK 8 = .ok (.goto 11, 3) := dk_167 0 11 (dk_at dksX3_regularK_0 8 rfl rfl)
theorem dX3_regularK_11 : decode cX3_regularK 11 = .ok (.aload_n 0, 1) := dk_42 (dk_at dksX3_regularK_0 11 rfl rfl)
theorem dX3_regularK_12 : decode cX3_regularK 12 = .ok (.iconst 0, 1) := dk_3 (dk_at dksX3_regularK_0 12 rfl rfl)
theorem dX3_regularK_13 : decode cX3_regularK 13 = .ok (.invokevirtual 216, 3) := dk_182 0 216 (dk_at dksX3_regularK_0 13 rfl rfl)
theorem dX3_regularK_16 : decode cX3_regularK 16 = .ok (.invokestatic 210, 3) := dk_184 0 210 (dk_at dksX3_regularK_0 16 rfl rfl)
theorem dX3_regularK_19 : decode cX3_regularK 19 = .ok (.istore_n 1, 1) := dk_60 (dk_at dksX3_regularK_0 19 rfl rfl)
theorem dX3_regularK_20 : decode cX3_regularK 20 = .ok (.iconst 1, 1) := dk_4 (dk_at dksX3_regularK_0 20 rfl rfl)
theorem dX3_regularK_21 : decode cX3_regularK 21 = .ok (.istore_n 2, 1) := dk_61 (dk_at dksX3_regularK_0 21 rfl rfl)
theorem dX3_regularK_22 : decode cX3_regularK 22 = .ok (.iload_n 2, 1) := dk_28 (dk_at dksX3_regularK_0 22 rfl rfl)
theorem dX3_regularK_23 : decode cX3_regularK 23 = .ok (.aload_n 0, 1) := dk_42 (dk_at dksX3_regularK_0 23 rfl rfl)
theorem dX3_regularK_24 : decode cX3_regularK 24 = .ok (.invokevirtual 213, 3) := dk_182 0 213 (dk_at dksX3_regularK_1 0 rfl rfl)
theorem dX3_regularK_27 : decode cX3_regularK 27 = .ok (.if_icmp .ge 23, 3) := dk_162 0 23 (dk_at dksX3_regularK_1 3 rfl rfl)
theorem dX3_regularK_30 : decode cX3_regularK 30 = .ok (.aload_n 0, 1) := dk_42 (dk_at dksX3_regularK_1 6 rfl rfl)
theorem dX3_regularK_31 : decode cX3_regularK 31 = .ok (.iload_n 2, 1) := dk_28 (dk_at dksX3_regularK_1 7 rfl rfl)
theorem dX3_regularK_32 : decode cX3_regularK 32 = .ok (.invokevirtual 216, 3) := dk_182 0 216 (dk_at dksX3_regularK_1 8 rfl rfl)
theorem dX3_regularK_35 : decode cX3_regularK 35 = .ok (.invokestatic 210, 3) := dk_184 0 210 (dk_at dksX3_regularK_1 11 rfl rfl)
theorem dX3_regularK_38 : decode cX3_regularK 38 = .ok (.iload_n 1, 1) := dk_27 (dk_at dksX3_regularK_1 14 rfl rfl)
theorem dX3_regularK_39 : decode cX3_regularK 39 = .ok (.if_icmp .eq 5, 3) := dk_159 0 5 (dk_at dksX3_regularK_1 15 rfl rfl)
theorem dX3_regularK_42 : decode cX3_regularK 42 = .ok (.iconst (-1), 1) := dk_2 (dk_at dksX3_regularK_1 18 rfl rfl)
theorem dX3_regularK_43 : decode cX3_regularK 43 = .ok (.ireturn, 1) := dk_172 (dk_at dksX3_regularK_1 19 rfl rfl)
theorem dX3_regularK_44 : decode cX3_regularK 44 = .ok (.iinc 2 1, 3) := dk_132 2 1 (dk_at dksX3_regularK_1 20 rfl rfl)
theorem dX3_regularK_47 : decode cX3_regularK 47 = .ok (.goto (-25), 3) := dk_167 255 231 (dk_at dksX3_regularK_2 0 rfl rfl)
theorem dX3_regularK_50 : decode cX3_regularK 50 = .ok (.iload_n 1, 1) := dk_27 (dk_at dksX3_regularK_2 3 rfl rfl)
theorem dX3_regularK_51 : decode cX3_regularK 51 = .ok (.ireturn, 1) := dk_172 (dk_at dksX3_regularK_2 4 rfl rfl)
abbrev cX3_pairs : ByteArray := prog_15_method_30_code
def yX3_pairs : MethodName := ⟨RX3, "pairs", "()I"⟩
def dkwX3_pairs_2 : List UInt8 := [132, 2, 1, 167, 255, 210, 27, 172]
abbrev dktX3_pairs_2 : List UInt8 := dkwX3_pairs_2 ++ []
def dkwX3_pairs_1 : List UInt8 := [27, 42, 28, 29, 182, 0, 224, 153, 0, 7, 4, 167, 0, 4, 3, 96, 60, 132, 3, 1, 167, 255, 228]
abbrev dktX3_pairs_1 : List UInt8 := dkwX3_pairs_1 ++ dktX3_pairs_2
def dkwX3_pairs_0 : List UInt8 := [3, 60, 3, 61, 28, 42, 182, 0, 222, 162, 0, 44, 28, 4, 96, 62, 29, 42, 182, 0, 222, 162, 0, 26]
abbrev dktX3_pairs_0 : List UInt8 := dkwX3_pairs_0 ++ dktX3_pairs_1
theorem dksX3_pairs_0 : cX3_pairs.data.toList.drop 0 = dktX3_pairs_0 := by decide +kernel
theorem dksX3_pairs_1 : cX3_pairs.data.toList.drop 24 = dktX3_pairs_1 := dk_seg dksX3_pairs_0 24 rfl rfl
theorem dksX3_pairs_2 : cX3_pairs.data.toList.drop 47 = dktX3_pairs_2 := dk_seg dksX3_pairs_1 23 rfl rfl
theorem dX3_pairs_0 : decode cX3_pairs 0 = .ok (.iconst 0, 1) := dk_3 (dk_at dksX3_pairs_0 0 rfl rfl)
theorem dX3_pairs_1 : decode cX3_pairs 1 = .ok (.istore_n 1, 1) := dk_60 (dk_at dksX3_pairs_0 1 rfl rfl)
theorem dX3_pairs_2 : decode cX3_pairs 2 = .ok (.iconst 0, 1) := dk_3 (dk_at dksX3_pairs_0 2 rfl rfl)
theorem dX3_pairs_3 : decode cX3_pairs 3 = .ok (.istore_n 2, 1) := dk_61 (dk_at dksX3_pairs_0 3 rfl rfl)
theorem dX3_pairs_4 : decode cX3_pairs 4 = .ok (.iload_n 2, 1) := dk_28 (dk_at dksX3_pairs_0 4 rfl rfl)
theorem dX3_pairs_5 : decode cX3_pairs 5 = .ok (.aload_n 0, 1) := dk_42 (dk_at dksX3_pairs_0 5 rfl rfl)
theorem dX3_pairs_6 : decode cX3_pairs 6 = .ok (.invokevirtual 222, 3) := dk_182 0 222 (dk_at dksX3_pairs_0 6 rfl rfl)
theorem dX3_pairs_9 : decode cX3_pairs 9 = .ok (.if_icmp .ge 44, 3) := dk_162 0 44 (dk_at dksX3_pairs_0 9 rfl rfl)
theorem dX3_pairs_12 : decode cX3_pairs 12 = .ok (.iload_n 2, 1) := dk_28 (dk_at dksX3_pairs_0 12 rfl rfl)
theorem dX3_pairs_13 : decode cX3_pairs 13 = .ok (.iconst 1, 1) := dk_4 (dk_at dksX3_pairs_0 13 rfl rfl)
theorem dX3_pairs_14 : decode cX3_pairs 14 = .ok (.iadd, 1) := dk_96 (dk_at dksX3_pairs_0 14 rfl rfl)
theorem dX3_pairs_15 : decode cX3_pairs 15 = .ok (.istore_n 3, 1) := dk_62 (dk_at dksX3_pairs_0 15 rfl rfl)
theorem dX3_pairs_16 : decode cX3_pairs 16 = .ok (.iload_n 3, 1) := dk_29 (dk_at dksX3_pairs_0 16 rfl rfl)
theorem dX3_pairs_17 : decode cX3_pairs 17 = .ok (.aload_n 0, 1) := dk_42 (dk_at dksX3_pairs_0 17 rfl rfl)
theorem dX3_pairs_18 : decode cX3_pairs 18 = .ok (.invokevirtual 222, 3) := dk_182 0 222 (dk_at dksX3_pairs_0 18 rfl rfl)
theorem dX3_pairs_21 : decode cX3_pairs 21 = .ok (.if_icmp .ge 26, 3) := dk_162 0 26 (dk_at dksX3_pairs_0 21 rfl rfl)
theorem dX3_pairs_24 : decode cX3_pairs 24 = .ok (.iload_n 1, 1) := dk_27 (dk_at dksX3_pairs_1 0 rfl rfl)
theorem dX3_pairs_25 : decode cX3_pairs 25 = .ok (.aload_n 0, 1) := dk_42 (dk_at dksX3_pairs_1 1 rfl rfl)
theorem dX3_pairs_26 : decode cX3_pairs 26 = .ok (.iload_n 2, 1) := dk_28 (dk_at dksX3_pairs_1 2 rfl rfl)
theorem dX3_pairs_27 : decode cX3_pairs 27 = .ok (.iload_n 3, 1) := dk_29 (dk_at dksX3_pairs_1 3 rfl rfl)
theorem dX3_pairs_28 : decode cX3_pairs 28 = .ok (.invokevirtual 224, 3) := dk_182 0 224 (dk_at dksX3_pairs_1 4 rfl rfl)
theorem dX3_pairs_31 : decode cX3_pairs 31 = .ok (.ifCond .eq 7, 3) := dk_153 0 7 (dk_at dksX3_pairs_1 7 rfl rfl)
theorem dX3_pairs_34 : decode cX3_pairs 34 = .ok (.iconst 1, 1) := dk_4 (dk_at dksX3_pairs_1 10 rfl rfl)
theorem dX3_pairs_35 : decode cX3_pairs 35 = .ok (.goto 4, 3) := dk_167 0 4 (dk_at dksX3_pairs_1 11 rfl rfl)
theorem dX3_pairs_38 : decode cX3_pairs 38 = .ok (.iconst 0, 1) := dk_3 (dk_at dksX3_pairs_1 14 rfl rfl)
theorem dX3_pairs_39 : decode cX3_pairs 39 = .ok (.iadd, 1) := dk_96 (dk_at dksX3_pairs_1 15 rfl rfl)
theorem dX3_pairs_40 : decode cX3_pairs 40 = .ok (.istore_n 1, 1) := dk_60 (dk_at dksX3_pairs_1 16 rfl rfl)
theorem dX3_pairs_41 : decode cX3_pairs 41 = .ok (.iinc 3 1, 3) := dk_132 3 1 (dk_at dksX3_pairs_1 17 rfl rfl)
theorem dX3_pairs_44 : decode cX3_pairs 44 = .ok (.goto (-28), 3) := dk_167 255 228 (dk_at dksX3_pairs_1 20 rfl rfl)
theorem dX3_pairs_47 : decode cX3_pairs 47 = .ok (.iinc 2 1, 3) := dk_132 2 1 (dk_at dksX3_pairs_2 0 rfl rfl)
theorem dX3_pairs_50 : decode cX3_pairs 50 = .ok (.goto (-46), 3) := dk_167 255 210 (dk_at dksX3_pairs_2 3 rfl rfl)
theorem dX3_pairs_53 : decode cX3_pairs 53 = .ok (.iload_n 1, 1) := dk_27 (dk_at dksX3_pairs_2 6 rfl rfl)
theorem dX3_pairs_54 : decode cX3_pairs 54 = .ok (.ireturn, 1) := dk_172 (dk_at dksX3_pairs_2 7 rfl rfl)
abbrev cX3_areJoined : ByteArray := prog_15_method_28_code
def yX3_areJoined : MethodName := ⟨RX3, "areJoined", "(II)Z"⟩
def dkwX3_areJoined_0 : List UInt8 := [42, 4, 27, 120, 4, 28, 120, 128, 182, 0, 219, 2, 159, 0, 7, 4, 167, 0, 4, 3, 172]
abbrev dktX3_areJoined_0 : List UInt8 := dkwX3_areJoined_0 ++ []
theorem dksX3_areJoined_0 : cX3_areJoined.data.toList.drop 0 = dktX3_areJoined_0 := by decide +kernel
theorem dX3_areJoined_0 : decode cX3_areJoined 0 = .ok (.aload_n 0, 1) := dk_42 (dk_at dksX3_areJoined_0 0 rfl rfl)
theorem dX3_areJoined_1 : decode cX3_areJoined 1 = .ok (.iconst 1, 1) := dk_4 (dk_at dksX3_areJoined_0 1 rfl rfl)
theorem dX3_areJoined_2 : decode cX3_areJoined 2 = .ok (.iload_n 1, 1) := dk_27 (dk_at dksX3_areJoined_0 2 rfl rfl)
theorem dX3_areJoined_3 : decode cX3_areJoined 3 = .ok (.ishl, 1) := dk_120 (dk_at dksX3_areJoined_0 3 rfl rfl)
theorem dX3_areJoined_4 : decode cX3_areJoined 4 = .ok (.iconst 1, 1) := dk_4 (dk_at dksX3_areJoined_0 4 rfl rfl)
theorem dX3_areJoined_5 : decode cX3_areJoined 5 = .ok (.iload_n 2, 1) := dk_28 (dk_at dksX3_areJoined_0 5 rfl rfl)
theorem dX3_areJoined_6 : decode cX3_areJoined 6 = .ok (.ishl, 1) := dk_120 (dk_at dksX3_areJoined_0 6 rfl rfl)
theorem dX3_areJoined_7 : decode cX3_areJoined 7 = .ok (.ior, 1) := dk_128 (dk_at dksX3_areJoined_0 7 rfl rfl)
theorem dX3_areJoined_8 : decode cX3_areJoined 8 = .ok (.invokevirtual 219, 3) := dk_182 0 219 (dk_at dksX3_areJoined_0 8 rfl rfl)
theorem dX3_areJoined_11 : decode cX3_areJoined 11 = .ok (.iconst (-1), 1) := dk_2 (dk_at dksX3_areJoined_0 11 rfl rfl)
theorem dX3_areJoined_12 : decode cX3_areJoined 12 = .ok (.if_icmp .eq 7, 3) := dk_159 0 7 (dk_at dksX3_areJoined_0 12 rfl rfl)
theorem dX3_areJoined_15 : decode cX3_areJoined 15 = .ok (.iconst 1, 1) := dk_4 (dk_at dksX3_areJoined_0 15 rfl rfl)
theorem dX3_areJoined_16 : decode cX3_areJoined 16 = .ok (.goto 4, 3) := dk_167 0 4 (dk_at dksX3_areJoined_0 16 rfl rfl)
theorem dX3_areJoined_19 : decode cX3_areJoined 19 = .ok (.iconst 0, 1) := dk_3 (dk_at dksX3_areJoined_0 19 rfl rfl)
theorem dX3_areJoined_20 : decode cX3_areJoined 20 = .ok (.ireturn, 1) := dk_172 (dk_at dksX3_areJoined_0 20 rfl rfl)
abbrev cX3_lineOf : ByteArray := prog_15_method_27_code
def yX3_lineOf : MethodName := ⟨RX3, "lineOf", "(I)I"⟩
def dkwX3_lineOf_1 : List UInt8 := [132, 2, 1, 167, 255, 232, 2, 172]
abbrev dktX3_lineOf_1 : List UInt8 := dkwX3_lineOf_1 ++ []
def dkwX3_lineOf_0 : List UInt8 := [3, 61, 28, 42, 182, 0, 213, 162, 0, 22, 42, 28, 182, 0, 216, 27, 126, 27, 160, 0, 5, 28, 172]
abbrev dktX3_lineOf_0 : List UInt8 := dkwX3_lineOf_0 ++ dktX3_lineOf_1
theorem dksX3_lineOf_0 : cX3_lineOf.data.toList.drop 0 = dktX3_lineOf_0 := by decide +kernel
theorem dksX3_lineOf_1 : cX3_lineOf.data.toList.drop 23 = dktX3_lineOf_1 := dk_seg dksX3_lineOf_0 23 rfl rfl
theorem dX3_lineOf_0 : decode cX3_lineOf 0 = .ok (.iconst 0, 1) := dk_3 (dk_at dksX3_lineOf_0 0 rfl rfl)
theorem dX3_lineOf_1 : decode cX3_lineOf 1 = .ok (.istore_n 2, 1) := dk_61 (dk_at dksX3_lineOf_0 1 rfl rfl)
theorem dX3_lineOf_2 : decode cX3_lineOf 2 = .ok (.iload_n 2, 1) := dk_28 (dk_at dksX3_lineOf_0 2 rfl rfl)
theorem dX3_lineOf_3 : decode cX3_lineOf 3 = .ok (.aload_n 0, 1) := dk_42 (dk_at dksX3_lineOf_0 3 rfl rfl)
theorem dX3_lineOf_4 : decode cX3_lineOf 4 = .ok (.invokevirtual 213, 3) := dk_182 0 213 (dk_at dksX3_lineOf_0 4 rfl rfl)
theorem dX3_lineOf_7 : decode cX3_lineOf 7 = .ok (.if_icmp .ge 22, 3) := dk_162 0 22 (dk_at dksX3_lineOf_0 7 rfl rfl)
theorem dX3_lineOf_10 : decode cX3_lineOf 10 = .ok (.aload_n 0, 1) := dk_42 (dk_at dksX3_lineOf_0 10 rfl rfl)
theorem dX3_lineOf_11 : decode cX3_lineOf 11 = .ok (.iload_n 2, 1) := dk_28 (dk_at dksX3_lineOf_0 11 rfl rfl)
theorem dX3_lineOf_12 : decode cX3_lineOf 12 = .ok (.invokevirtual 216, 3) := dk_182 0 216 (dk_at dksX3_lineOf_0 12 rfl rfl)
theorem dX3_lineOf_15 : decode cX3_lineOf 15 = .ok (.iload_n 1, 1) := dk_27 (dk_at dksX3_lineOf_0 15 rfl rfl)
theorem dX3_lineOf_16 : decode cX3_lineOf 16 = .ok (.iand, 1) := dk_126 (dk_at dksX3_lineOf_0 16 rfl rfl)
theorem dX3_lineOf_17 : decode cX3_lineOf 17 = .ok (.iload_n 1, 1) := dk_27 (dk_at dksX3_lineOf_0 17 rfl rfl)
theorem dX3_lineOf_18 : decode cX3_lineOf 18 = .ok (.if_icmp .ne 5, 3) := dk_160 0 5 (dk_at dksX3_lineOf_0 18 rfl rfl)
theorem dX3_lineOf_21 : decode cX3_lineOf 21 = .ok (.iload_n 2, 1) := dk_28 (dk_at dksX3_lineOf_0 21 rfl rfl)
theorem dX3_lineOf_22 : decode cX3_lineOf 22 = .ok (.ireturn, 1) := dk_172 (dk_at dksX3_lineOf_0 22 rfl rfl)
theorem dX3_lineOf_23 : decode cX3_lineOf 23 = .ok (.iinc 2 1, 3) := dk_132 2 1 (dk_at dksX3_lineOf_1 0 rfl rfl)
theorem dX3_lineOf_26 : decode cX3_lineOf 26 = .ok (.goto (-24), 3) := dk_167 255 232 (dk_at dksX3_lineOf_1 3 rfl rfl)
theorem dX3_lineOf_29 : decode cX3_lineOf 29 = .ok (.iconst (-1), 1) := dk_2 (dk_at dksX3_lineOf_1 6 rfl rfl)
theorem dX3_lineOf_30 : decode cX3_lineOf 30 = .ok (.ireturn, 1) := dk_172 (dk_at dksX3_lineOf_1 7 rfl rfl)
abbrev cX3_triangles : ByteArray := prog_15_method_34_code
def yX3_triangles : MethodName := ⟨RX3, "triangles", "()I"⟩
def dkwX3_triangles_5 : List UInt8 := [132, 4, 1, 167, 255, 165, 132, 3, 1, 167, 255, 146, 132, 2, 1, 167, 255, 128, 27, 172]
abbrev dktX3_triangles_5 : List UInt8 := dkwX3_triangles_5 ++ []
def dkwX3_triangles_4 : List UInt8 := [21, 5, 21, 6, 128, 21, 7, 128, 184, 0, 210, 6, 160, 0, 7, 4, 167, 0, 4, 3, 96, 60]
abbrev dktX3_triangles_4 : List UInt8 := dkwX3_triangles_4 ++ dktX3_triangles_5
def dkwX3_triangles_3 : List UInt8 := [21, 4, 182, 0, 216, 126, 54, 7, 27, 21, 5, 153, 0, 32, 21, 6, 153, 0, 27, 21, 7, 153, 0, 22]
abbrev dktX3_triangles_3 : List UInt8 := dkwX3_triangles_3 ++ dktX3_triangles_4
def dkwX3_triangles_2 : List UInt8 := [126, 54, 5, 42, 28, 182, 0, 216, 42, 21, 4, 182, 0, 216, 126, 54, 6, 42, 29, 182, 0, 216, 42]
abbrev dktX3_triangles_2 : List UInt8 := dkwX3_triangles_2 ++ dktX3_triangles_3
def dkwX3_triangles_1 : List UInt8 := [29, 4, 96, 54, 4, 21, 4, 42, 182, 0, 213, 162, 0, 88, 42, 28, 182, 0, 216, 42, 29, 182, 0, 216]
abbrev dktX3_triangles_1 : List UInt8 := dkwX3_triangles_1 ++ dktX3_triangles_2
def dkwX3_triangles_0 : List UInt8 := [3, 60, 3, 61, 28, 42, 182, 0, 213, 162, 0, 126, 28, 4, 96, 62, 29, 42, 182, 0, 213, 162, 0, 108]
abbrev dktX3_triangles_0 : List UInt8 := dkwX3_triangles_0 ++ dktX3_triangles_1
theorem dksX3_triangles_0 : cX3_triangles.data.toList.drop 0 = dktX3_triangles_0 := by decide +kernel
theorem dksX3_triangles_1 : cX3_triangles.data.toList.drop 24 = dktX3_triangles_1 := dk_seg dksX3_triangles_0 24 rfl rfl
theorem dksX3_triangles_2 : cX3_triangles.data.toList.drop 48 = dktX3_triangles_2 := dk_seg dksX3_triangles_1 24 rfl rfl
theorem dksX3_triangles_3 : cX3_triangles.data.toList.drop 71 = dktX3_triangles_3 := dk_seg dksX3_triangles_2 23 rfl rfl
theorem dksX3_triangles_4 : cX3_triangles.data.toList.drop 95 = dktX3_triangles_4 := dk_seg dksX3_triangles_3 24 rfl rfl
theorem dksX3_triangles_5 : cX3_triangles.data.toList.drop 117 = dktX3_triangles_5 := dk_seg dksX3_triangles_4 22 rfl rfl
theorem dX3_triangles_0 : decode cX3_triangles 0 = .ok (.iconst 0, 1) := dk_3 (dk_at dksX3_triangles_0 0 rfl rfl)
theorem dX3_triangles_1 : decode cX3_triangles 1 = .ok (.istore_n 1, 1) := dk_60 (dk_at dksX3_triangles_0 1 rfl rfl)
theorem dX3_triangles_2 : decode cX3_triangles 2 = .ok (.iconst 0, 1) := dk_3 (dk_at dksX3_triangles_0 2 rfl rfl)
theorem dX3_triangles_3 : decode cX3_triangles 3 = .ok (.istore_n 2, 1) := dk_61 (dk_at dksX3_triangles_0 3 rfl rfl)
theorem dX3_triangles_4 : decode cX3_triangles 4 = .ok (.iload_n 2, 1) := dk_28 (dk_at dksX3_triangles_0 4 rfl rfl)
theorem dX3_triangles_5 : decode cX3_triangles 5 = .ok (.aload_n 0, 1) := dk_42 (dk_at dksX3_triangles_0 5 rfl rfl)
theorem dX3_triangles_6 : decode cX3_triangles 6 = .ok (.invokevirtual 213, 3) := dk_182 0 213 (dk_at dksX3_triangles_0 6 rfl rfl)
theorem dX3_triangles_9 : decode cX3_triangles 9 = .ok (.if_icmp .ge 126, 3) := dk_162 0 126 (dk_at dksX3_triangles_0 9 rfl rfl)
theorem dX3_triangles_12 : decode cX3_triangles 12 = .ok (.iload_n 2, 1) := dk_28 (dk_at dksX3_triangles_0 12 rfl rfl)
theorem dX3_triangles_13 : decode cX3_triangles 13 = .ok (.iconst 1, 1) := dk_4 (dk_at dksX3_triangles_0 13 rfl rfl)
theorem dX3_triangles_14 : decode cX3_triangles 14 = .ok (.iadd, 1) := dk_96 (dk_at dksX3_triangles_0 14 rfl rfl)
theorem dX3_triangles_15 : decode cX3_triangles 15 = .ok (.istore_n 3, 1) := dk_62 (dk_at dksX3_triangles_0 15 rfl rfl)
theorem dX3_triangles_16 : decode cX3_triangles 16 = .ok (.iload_n 3, 1) := dk_29 (dk_at dksX3_triangles_0 16 rfl rfl)
theorem dX3_triangles_17 : decode cX3_triangles 17 = .ok (.aload_n 0, 1) := dk_42 (dk_at dksX3_triangles_0 17 rfl rfl)
theorem dX3_triangles_18 : decode cX3_triangles 18 = .ok (.invokevirtual 213, 3) := dk_182 0 213 (dk_at dksX3_triangles_0 18 rfl rfl)
theorem dX3_triangles_21 : decode cX3_triangles 21 = .ok (.if_icmp .ge 108, 3) := dk_162 0 108 (dk_at dksX3_triangles_0 21 rfl rfl)
theorem dX3_triangles_24 : decode cX3_triangles 24 = .ok (.iload_n 3, 1) := dk_29 (dk_at dksX3_triangles_1 0 rfl rfl)
theorem dX3_triangles_25 : decode cX3_triangles 25 = .ok (.iconst 1, 1) := dk_4 (dk_at dksX3_triangles_1 1 rfl rfl)
theorem dX3_triangles_26 : decode cX3_triangles 26 = .ok (.iadd, 1) := dk_96 (dk_at dksX3_triangles_1 2 rfl rfl)
theorem dX3_triangles_27 : decode cX3_triangles 27 = .ok (.istore 4, 2) := dk_54 4 (dk_at dksX3_triangles_1 3 rfl rfl)
theorem dX3_triangles_29 : decode cX3_triangles 29 = .ok (.iload 4, 2) := dk_21 4 (dk_at dksX3_triangles_1 5 rfl rfl)
theorem dX3_triangles_31 : decode cX3_triangles 31 = .ok (.aload_n 0, 1) := dk_42 (dk_at dksX3_triangles_1 7 rfl rfl)
theorem dX3_triangles_32 : decode cX3_triangles 32 = .ok (.invokevirtual 213, 3) := dk_182 0 213 (dk_at dksX3_triangles_1 8 rfl rfl)
theorem dX3_triangles_35 : decode cX3_triangles 35 = .ok (.if_icmp .ge 88, 3) := dk_162 0 88 (dk_at dksX3_triangles_1 11 rfl rfl)
theorem dX3_triangles_38 : decode cX3_triangles 38 = .ok (.aload_n 0, 1) := dk_42 (dk_at dksX3_triangles_1 14 rfl rfl)
theorem dX3_triangles_39 : decode cX3_triangles 39 = .ok (.iload_n 2, 1) := dk_28 (dk_at dksX3_triangles_1 15 rfl rfl)
theorem dX3_triangles_40 : decode cX3_triangles 40 = .ok (.invokevirtual 216, 3) := dk_182 0 216 (dk_at dksX3_triangles_1 16 rfl rfl)
theorem dX3_triangles_43 : decode cX3_triangles 43 = .ok (.aload_n 0, 1) := dk_42 (dk_at dksX3_triangles_1 19 rfl rfl)
theorem dX3_triangles_44 : decode cX3_triangles 44 = .ok (.iload_n 3, 1) := dk_29 (dk_at dksX3_triangles_1 20 rfl rfl)
theorem dX3_triangles_45 : decode cX3_triangles 45 = .ok (.invokevirtual 216, 3) := dk_182 0 216 (dk_at dksX3_triangles_1 21 rfl rfl)
theorem dX3_triangles_48 : decode cX3_triangles 48 = .ok (.iand, 1) := dk_126 (dk_at dksX3_triangles_2 0 rfl rfl)
theorem dX3_triangles_49 : decode cX3_triangles 49 = .ok (.istore 5, 2) := dk_54 5 (dk_at dksX3_triangles_2 1 rfl rfl)
theorem dX3_triangles_51 : decode cX3_triangles 51 = .ok (.aload_n 0, 1) := dk_42 (dk_at dksX3_triangles_2 3 rfl rfl)
theorem dX3_triangles_52 : decode cX3_triangles 52 = .ok (.iload_n 2, 1) := dk_28 (dk_at dksX3_triangles_2 4 rfl rfl)
theorem dX3_triangles_53 : decode cX3_triangles 53 = .ok (.invokevirtual 216, 3) := dk_182 0 216 (dk_at dksX3_triangles_2 5 rfl rfl)
theorem dX3_triangles_56 : decode cX3_triangles 56 = .ok (.aload_n 0, 1) := dk_42 (dk_at dksX3_triangles_2 8 rfl rfl)
theorem dX3_triangles_57 : decode cX3_triangles 57 = .ok (.iload 4, 2) := dk_21 4 (dk_at dksX3_triangles_2 9 rfl rfl)
theorem dX3_triangles_59 : decode cX3_triangles 59 = .ok (.invokevirtual 216, 3) := dk_182 0 216 (dk_at dksX3_triangles_2 11 rfl rfl)
theorem dX3_triangles_62 : decode cX3_triangles 62 = .ok (.iand, 1) := dk_126 (dk_at dksX3_triangles_2 14 rfl rfl)
theorem dX3_triangles_63 : decode cX3_triangles 63 = .ok (.istore 6, 2) := dk_54 6 (dk_at dksX3_triangles_2 15 rfl rfl)
theorem dX3_triangles_65 : decode cX3_triangles 65 = .ok (.aload_n 0, 1) := dk_42 (dk_at dksX3_triangles_2 17 rfl rfl)
theorem dX3_triangles_66 : decode cX3_triangles 66 = .ok (.iload_n 3, 1) := dk_29 (dk_at dksX3_triangles_2 18 rfl rfl)
theorem dX3_triangles_67 : decode cX3_triangles 67 = .ok (.invokevirtual 216, 3) := dk_182 0 216 (dk_at dksX3_triangles_2 19 rfl rfl)
theorem dX3_triangles_70 : decode cX3_triangles 70 = .ok (.aload_n 0, 1) := dk_42 (dk_at dksX3_triangles_2 22 rfl rfl)
theorem dX3_triangles_71 : decode cX3_triangles 71 = .ok (.iload 4, 2) := dk_21 4 (dk_at dksX3_triangles_3 0 rfl rfl)
theorem dX3_triangles_73 : decode cX3_triangles 73 = .ok (.invokevirtual 216, 3) := dk_182 0 216 (dk_at dksX3_triangles_3 2 rfl rfl)
theorem dX3_triangles_76 : decode cX3_triangles 76 = .ok (.iand, 1) := dk_126 (dk_at dksX3_triangles_3 5 rfl rfl)
theorem dX3_triangles_77 : decode cX3_triangles 77 = .ok (.istore 7, 2) := dk_54 7 (dk_at dksX3_triangles_3 6 rfl rfl)
theorem dX3_triangles_79 : decode cX3_triangles 79 = .ok (.iload_n 1, 1) := dk_27 (dk_at dksX3_triangles_3 8 rfl rfl)
theorem dX3_triangles_80 : decode cX3_triangles 80 = .ok (.iload 5, 2) := dk_21 5 (dk_at dksX3_triangles_3 9 rfl rfl)
theorem dX3_triangles_82 : decode cX3_triangles 82 = .ok (.ifCond .eq 32, 3) := dk_153 0 32 (dk_at dksX3_triangles_3 11 rfl rfl)
theorem dX3_triangles_85 : decode cX3_triangles 85 = .ok (.iload 6, 2) := dk_21 6 (dk_at dksX3_triangles_3 14 rfl rfl)
theorem dX3_triangles_87 : decode cX3_triangles 87 = .ok (.ifCond .eq 27, 3) := dk_153 0 27 (dk_at dksX3_triangles_3 16 rfl rfl)
theorem dX3_triangles_90 : decode cX3_triangles 90 = .ok (.iload 7, 2) := dk_21 7 (dk_at dksX3_triangles_3 19 rfl rfl)
theorem dX3_triangles_92 : decode cX3_triangles 92 = .ok (.ifCond .eq 22, 3) := dk_153 0 22 (dk_at dksX3_triangles_3 21 rfl rfl)
theorem dX3_triangles_95 : decode cX3_triangles 95 = .ok (.iload 5, 2) := dk_21 5 (dk_at dksX3_triangles_4 0 rfl rfl)
theorem dX3_triangles_97 : decode cX3_triangles 97 = .ok (.iload 6, 2) := dk_21 6 (dk_at dksX3_triangles_4 2 rfl rfl)
theorem dX3_triangles_99 : decode cX3_triangles 99 = .ok (.ior, 1) := dk_128 (dk_at dksX3_triangles_4 4 rfl rfl)
theorem dX3_triangles_100 : decode cX3_triangles 100 = .ok (.iload 7, 2) := dk_21 7 (dk_at dksX3_triangles_4 5 rfl rfl)
theorem dX3_triangles_102 : decode cX3_triangles 102 = .ok (.ior, 1) := dk_128 (dk_at dksX3_triangles_4 7 rfl rfl)
theorem dX3_triangles_103 : decode cX3_triangles 103 = .ok (.invokestatic 210, 3) := dk_184 0 210 (dk_at dksX3_triangles_4 8 rfl rfl)
theorem dX3_triangles_106 : decode cX3_triangles 106 = .ok (.iconst 3, 1) := dk_6 (dk_at dksX3_triangles_4 11 rfl rfl)
theorem dX3_triangles_107 : decode cX3_triangles 107 = .ok (.if_icmp .ne 7, 3) := dk_160 0 7 (dk_at dksX3_triangles_4 12 rfl rfl)
theorem dX3_triangles_110 : decode cX3_triangles 110 = .ok (.iconst 1, 1) := dk_4 (dk_at dksX3_triangles_4 15 rfl rfl)
theorem dX3_triangles_111 : decode cX3_triangles 111 = .ok (.goto 4, 3) := dk_167 0 4 (dk_at dksX3_triangles_4 16 rfl rfl)
theorem dX3_triangles_114 : decode cX3_triangles 114 = .ok (.iconst 0, 1) := dk_3 (dk_at dksX3_triangles_4 19 rfl rfl)
theorem dX3_triangles_115 : decode cX3_triangles 115 = .ok (.iadd, 1) := dk_96 (dk_at dksX3_triangles_4 20 rfl rfl)
theorem dX3_triangles_116 : decode cX3_triangles 116 = .ok (.istore_n 1, 1) := dk_60 (dk_at dksX3_triangles_4 21 rfl rfl)
theorem dX3_triangles_117 : decode cX3_triangles 117 = .ok (.iinc 4 1, 3) := dk_132 4 1 (dk_at dksX3_triangles_5 0 rfl rfl)
theorem dX3_triangles_120 : decode cX3_triangles 120 = .ok (.goto (-91), 3) := dk_167 255 165 (dk_at dksX3_triangles_5 3 rfl rfl)
theorem dX3_triangles_123 : decode cX3_triangles 123 = .ok (.iinc 3 1, 3) := dk_132 3 1 (dk_at dksX3_triangles_5 6 rfl rfl)
theorem dX3_triangles_126 : decode cX3_triangles 126 = .ok (.goto (-110), 3) := dk_167 255 146 (dk_at dksX3_triangles_5 9 rfl rfl)
theorem dX3_triangles_129 : decode cX3_triangles 129 = .ok (.iinc 2 1, 3) := dk_132 2 1 (dk_at dksX3_triangles_5 12 rfl rfl)
theorem dX3_triangles_132 : decode cX3_triangles 132 = .ok (.goto (-128), 3) := dk_167 255 128 (dk_at dksX3_triangles_5 15 rfl rfl)
theorem dX3_triangles_135 : decode cX3_triangles 135 = .ok (.iload_n 1, 1) := dk_27 (dk_at dksX3_triangles_5 18 rfl rfl)
theorem dX3_triangles_136 : decode cX3_triangles 136 = .ok (.ireturn, 1) := dk_172 (dk_at dksX3_triangles_5 19 rfl rfl)
abbrev cX3_pieces : ByteArray := prog_15_method_38_code
def yX3_pieces : MethodName := ⟨RX3, "pieces", "()I"⟩
def dkwX3_pieces_1 : List UInt8 := [160, 0, 7, 4, 167, 0, 4, 3, 96, 60, 132, 2, 1, 167, 255, 225, 27, 172]
abbrev dktX3_pieces_1 : List UInt8 := dkwX3_pieces_1 ++ []
def dkwX3_pieces_0 : List UInt8 := [3, 60, 3, 61, 28, 42, 182, 0, 222, 162, 0, 29, 27, 42, 28, 182, 0, 237, 184, 0, 240, 28]
abbrev dktX3_pieces_0 : List UInt8 := dkwX3_pieces_0 ++ dktX3_pieces_1
theorem dksX3_pieces_0 : cX3_pieces.data.toList.drop 0 = dktX3_pieces_0 := by decide +kernel
theorem dksX3_pieces_1 : cX3_pieces.data.toList.drop 22 = dktX3_pieces_1 := dk_seg dksX3_pieces_0 22 rfl rfl
theorem dX3_pieces_0 : decode cX3_pieces 0 = .ok (.iconst 0, 1) := dk_3 (dk_at dksX3_pieces_0 0 rfl rfl)
theorem dX3_pieces_1 : decode cX3_pieces 1 = .ok (.istore_n 1, 1) := dk_60 (dk_at dksX3_pieces_0 1 rfl rfl)
theorem dX3_pieces_2 : decode cX3_pieces 2 = .ok (.iconst 0, 1) := dk_3 (dk_at dksX3_pieces_0 2 rfl rfl)
theorem dX3_pieces_3 : decode cX3_pieces 3 = .ok (.istore_n 2, 1) := dk_61 (dk_at dksX3_pieces_0 3 rfl rfl)
theorem dX3_pieces_4 : decode cX3_pieces 4 = .ok (.iload_n 2, 1) := dk_28 (dk_at dksX3_pieces_0 4 rfl rfl)
theorem dX3_pieces_5 : decode cX3_pieces 5 = .ok (.aload_n 0, 1) := dk_42 (dk_at dksX3_pieces_0 5 rfl rfl)
theorem dX3_pieces_6 : decode cX3_pieces 6 = .ok (.invokevirtual 222, 3) := dk_182 0 222 (dk_at dksX3_pieces_0 6 rfl rfl)
theorem dX3_pieces_9 : decode cX3_pieces 9 = .ok (.if_icmp .ge 29, 3) := dk_162 0 29 (dk_at dksX3_pieces_0 9 rfl rfl)
theorem dX3_pieces_12 : decode cX3_pieces 12 = .ok (.iload_n 1, 1) := dk_27 (dk_at dksX3_pieces_0 12 rfl rfl)
theorem dX3_pieces_13 : decode cX3_pieces 13 = .ok (.aload_n 0, 1) := dk_42 (dk_at dksX3_pieces_0 13 rfl rfl)
theorem dX3_pieces_14 : decode cX3_pieces 14 = .ok (.iload_n 2, 1) := dk_28 (dk_at dksX3_pieces_0 14 rfl rfl)
theorem dX3_pieces_15 : decode cX3_pieces 15 = .ok (.invokevirtual 237, 3) := dk_182 0 237 (dk_at dksX3_pieces_0 15 rfl rfl)
theorem dX3_pieces_18 : decode cX3_pieces 18 = .ok (.invokestatic 240, 3) := dk_184 0 240 (dk_at dksX3_pieces_0 18 rfl rfl)
theorem dX3_pieces_21 : decode cX3_pieces 21 = .ok (.iload_n 2, 1) := dk_28 (dk_at dksX3_pieces_0 21 rfl rfl)
theorem dX3_pieces_22 : decode cX3_pieces 22 = .ok (.if_icmp .ne 7, 3) := dk_160 0 7 (dk_at dksX3_pieces_1 0 rfl rfl)
theorem dX3_pieces_25 : decode cX3_pieces 25 = .ok (.iconst 1, 1) := dk_4 (dk_at dksX3_pieces_1 3 rfl rfl)
theorem dX3_pieces_26 : decode cX3_pieces 26 = .ok (.goto 4, 3) := dk_167 0 4 (dk_at dksX3_pieces_1 4 rfl rfl)
theorem dX3_pieces_29 : decode cX3_pieces 29 = .ok (.iconst 0, 1) := dk_3 (dk_at dksX3_pieces_1 7 rfl rfl)
theorem dX3_pieces_30 : decode cX3_pieces 30 = .ok (.iadd, 1) := dk_96 (dk_at dksX3_pieces_1 8 rfl rfl)
theorem dX3_pieces_31 : decode cX3_pieces 31 = .ok (.istore_n 1, 1) := dk_60 (dk_at dksX3_pieces_1 9 rfl rfl)
theorem dX3_pieces_32 : decode cX3_pieces 32 = .ok (.iinc 2 1, 3) := dk_132 2 1 (dk_at dksX3_pieces_1 10 rfl rfl)
theorem dX3_pieces_35 : decode cX3_pieces 35 = .ok (.goto (-31), 3) := dk_167 255 225 (dk_at dksX3_pieces_1 13 rfl rfl)
theorem dX3_pieces_38 : decode cX3_pieces 38 = .ok (.iload_n 1, 1) := dk_27 (dk_at dksX3_pieces_1 16 rfl rfl)
theorem dX3_pieces_39 : decode cX3_pieces 39 = .ok (.ireturn, 1) := dk_172 (dk_at dksX3_pieces_1 17 rfl rfl)
abbrev cX3_pieceOf : ByteArray := prog_15_method_37_code
def yX3_pieceOf : MethodName := ⟨RX3, "pieceOf", "(I)I"⟩
def dkwX3_pieceOf_2 : List UInt8 := [132, 4, 1, 167, 255, 224, 132, 3, 1, 167, 255, 207, 28, 172]
abbrev dktX3_pieceOf_2 : List UInt8 := dkwX3_pieceOf_2 ++ []
def dkwX3_pieceOf_1 : List UInt8 := [162, 0, 29, 42, 21, 4, 182, 0, 216, 28, 126, 153, 0, 12, 28, 42, 21, 4, 182, 0, 216, 128, 61]
abbrev dktX3_pieceOf_1 : List UInt8 := dkwX3_pieceOf_1 ++ dktX3_pieceOf_2
def dkwX3_pieceOf_0 : List UInt8 := [4, 27, 120, 61, 3, 62, 29, 42, 182, 0, 222, 162, 0, 47, 3, 54, 4, 21, 4, 42, 182, 0, 213]
abbrev dktX3_pieceOf_0 : List UInt8 := dkwX3_pieceOf_0 ++ dktX3_pieceOf_1
theorem dksX3_pieceOf_0 : cX3_pieceOf.data.toList.drop 0 = dktX3_pieceOf_0 := by decide +kernel
theorem dksX3_pieceOf_1 : cX3_pieceOf.data.toList.drop 23 = dktX3_pieceOf_1 := dk_seg dksX3_pieceOf_0 23 rfl rfl
theorem dksX3_pieceOf_2 : cX3_pieceOf.data.toList.drop 46 = dktX3_pieceOf_2 := dk_seg dksX3_pieceOf_1 23 rfl rfl
theorem dX3_pieceOf_0 : decode cX3_pieceOf 0 = .ok (.iconst 1, 1) := dk_4 (dk_at dksX3_pieceOf_0 0 rfl rfl)
theorem dX3_pieceOf_1 : decode cX3_pieceOf 1 = .ok (.iload_n 1, 1) := dk_27 (dk_at dksX3_pieceOf_0 1 rfl rfl)
theorem dX3_pieceOf_2 : decode cX3_pieceOf 2 = .ok (.ishl, 1) := dk_120 (dk_at dksX3_pieceOf_0 2 rfl rfl)
theorem dX3_pieceOf_3 : decode cX3_pieceOf 3 = .ok (.istore_n 2, 1) := dk_61 (dk_at dksX3_pieceOf_0 3 rfl rfl)
theorem dX3_pieceOf_4 : decode cX3_pieceOf 4 = .ok (.iconst 0, 1) := dk_3 (dk_at dksX3_pieceOf_0 4 rfl rfl)
theorem dX3_pieceOf_5 : decode cX3_pieceOf 5 = .ok (.istore_n 3, 1) := dk_62 (dk_at dksX3_pieceOf_0 5 rfl rfl)
theorem dX3_pieceOf_6 : decode cX3_pieceOf 6 = .ok (.iload_n 3, 1) := dk_29 (dk_at dksX3_pieceOf_0 6 rfl rfl)
theorem dX3_pieceOf_7 : decode cX3_pieceOf 7 = .ok (.aload_n 0, 1) := dk_42 (dk_at dksX3_pieceOf_0 7 rfl rfl)
theorem dX3_pieceOf_8 : decode cX3_pieceOf 8 = .ok (.invokevirtual 222, 3) := dk_182 0 222 (dk_at dksX3_pieceOf_0 8 rfl rfl)
theorem dX3_pieceOf_11 : decode cX3_pieceOf 11 = .ok (.if_icmp .ge 47, 3) := dk_162 0 47 (dk_at dksX3_pieceOf_0 11 rfl rfl)
theorem dX3_pieceOf_14 : decode cX3_pieceOf 14 = .ok (.iconst 0, 1) := dk_3 (dk_at dksX3_pieceOf_0 14 rfl rfl)
theorem dX3_pieceOf_15 : decode cX3_pieceOf 15 = .ok (.istore 4, 2) := dk_54 4 (dk_at dksX3_pieceOf_0 15 rfl rfl)
theorem dX3_pieceOf_17 : decode cX3_pieceOf 17 = .ok (.iload 4, 2) := dk_21 4 (dk_at dksX3_pieceOf_0 17 rfl rfl)
theorem dX3_pieceOf_19 : decode cX3_pieceOf 19 = .ok (.aload_n 0, 1) := dk_42 (dk_at dksX3_pieceOf_0 19 rfl rfl)
theorem dX3_pieceOf_20 : decode cX3_pieceOf 20 = .ok (.invokevirtual 213, 3) := dk_182 0 213 (dk_at dksX3_pieceOf_0 20 rfl rfl)
theorem dX3_pieceOf_23 : decode cX3_pieceOf 23 = .ok (.if_icmp .ge 29, 3) := dk_162 0 29 (dk_at dksX3_pieceOf_1 0 rfl rfl)
theorem dX3_pieceOf_26 : decode cX3_pieceOf 26 = .ok (.aload_n 0, 1) := dk_42 (dk_at dksX3_pieceOf_1 3 rfl rfl)
theorem dX3_pieceOf_27 : decode cX3_pieceOf 27 = .ok (.iload 4, 2) := dk_21 4 (dk_at dksX3_pieceOf_1 4 rfl rfl)
theorem dX3_pieceOf_29 : decode cX3_pieceOf 29 = .ok (.invokevirtual 216, 3) := dk_182 0 216 (dk_at dksX3_pieceOf_1 6 rfl rfl)
theorem dX3_pieceOf_32 : decode cX3_pieceOf 32 = .ok (.iload_n 2, 1) := dk_28 (dk_at dksX3_pieceOf_1 9 rfl rfl)
theorem dX3_pieceOf_33 : decode cX3_pieceOf 33 = .ok (.iand, 1) := dk_126 (dk_at dksX3_pieceOf_1 10 rfl rfl)
theorem dX3_pieceOf_34 : decode cX3_pieceOf 34 = .ok (.ifCond .eq 12, 3) := dk_153 0 12 (dk_at dksX3_pieceOf_1 11 rfl rfl)
theorem dX3_pieceOf_37 : decode cX3_pieceOf 37 = .ok (.iload_n 2, 1) := dk_28 (dk_at dksX3_pieceOf_1 14 rfl rfl)
theorem dX3_pieceOf_38 : decode cX3_pieceOf 38 = .ok (.aload_n 0, 1) := dk_42 (dk_at dksX3_pieceOf_1 15 rfl rfl)
theorem dX3_pieceOf_39 : decode cX3_pieceOf 39 = .ok (.iload 4, 2) := dk_21 4 (dk_at dksX3_pieceOf_1 16 rfl rfl)
theorem dX3_pieceOf_41 : decode cX3_pieceOf 41 = .ok (.invokevirtual 216, 3) := dk_182 0 216 (dk_at dksX3_pieceOf_1 18 rfl rfl)
theorem dX3_pieceOf_44 : decode cX3_pieceOf 44 = .ok (.ior, 1) := dk_128 (dk_at dksX3_pieceOf_1 21 rfl rfl)
theorem dX3_pieceOf_45 : decode cX3_pieceOf 45 = .ok (.istore_n 2, 1) := dk_61 (dk_at dksX3_pieceOf_1 22 rfl rfl)
theorem dX3_pieceOf_46 : decode cX3_pieceOf 46 = .ok (.iinc 4 1, 3) := dk_132 4 1 (dk_at dksX3_pieceOf_2 0 rfl rfl)
theorem dX3_pieceOf_49 : decode cX3_pieceOf 49 = .ok (.goto (-32), 3) := dk_167 255 224 (dk_at dksX3_pieceOf_2 3 rfl rfl)
theorem dX3_pieceOf_52 : decode cX3_pieceOf 52 = .ok (.iinc 3 1, 3) := dk_132 3 1 (dk_at dksX3_pieceOf_2 6 rfl rfl)
theorem dX3_pieceOf_55 : decode cX3_pieceOf 55 = .ok (.goto (-49), 3) := dk_167 255 207 (dk_at dksX3_pieceOf_2 9 rfl rfl)
theorem dX3_pieceOf_58 : decode cX3_pieceOf 58 = .ok (.iload_n 2, 1) := dk_28 (dk_at dksX3_pieceOf_2 12 rfl rfl)
theorem dX3_pieceOf_59 : decode cX3_pieceOf 59 = .ok (.ireturn, 1) := dk_172 (dk_at dksX3_pieceOf_2 13 rfl rfl)
abbrev cX3_symmetries : ByteArray := prog_15_method_45_code
def yX3_symmetries : MethodName := ⟨RX3, "symmetries", "()I"⟩
def dkwX3_symmetries_4 : List UInt8 := [167, 255, 200, 27, 172]
abbrev dktX3_symmetries_4 : List UInt8 := dkwX3_symmetries_4 ++ []
def dkwX3_symmetries_3 : List UInt8 := [180, 0, 26, 29, 46, 120, 128, 79, 132, 3, 1, 167, 255, 228, 42, 42, 182, 0, 222, 182, 1, 4, 61]
abbrev dktX3_symmetries_3 : List UInt8 := dkwX3_symmetries_3 ++ dktX3_symmetries_4
def dkwX3_symmetries_2 : List UInt8 := [132, 1, 1, 3, 62, 29, 42, 182, 0, 222, 162, 0, 26, 42, 180, 0, 32, 29, 92, 46, 4, 42]
abbrev dktX3_symmetries_2 : List UInt8 := dkwX3_symmetries_2 ++ dktX3_symmetries_3
def dkwX3_symmetries_1 : List UInt8 := [167, 255, 240, 42, 42, 182, 0, 222, 182, 0, 253, 4, 61, 28, 153, 0, 58, 42, 182, 1, 0, 153, 0, 39]
abbrev dktX3_symmetries_1 : List UInt8 := dkwX3_symmetries_1 ++ dktX3_symmetries_2
def dkwX3_symmetries_0 : List UInt8 := [3, 60, 42, 182, 0, 250, 3, 61, 28, 16, 8, 162, 0, 16, 42, 180, 0, 32, 28, 3, 79, 132, 2, 1]
abbrev dktX3_symmetries_0 : List UInt8 := dkwX3_symmetries_0 ++ dktX3_symmetries_1
theorem dksX3_symmetries_0 : cX3_symmetries.data.toList.drop 0 = dktX3_symmetries_0 := by decide +kernel
theorem dksX3_symmetries_1 : cX3_symmetries.data.toList.drop 24 = dktX3_symmetries_1 := dk_seg dksX3_symmetries_0 24 rfl rfl
theorem dksX3_symmetries_2 : cX3_symmetries.data.toList.drop 48 = dktX3_symmetries_2 := dk_seg dksX3_symmetries_1 24 rfl rfl
theorem dksX3_symmetries_3 : cX3_symmetries.data.toList.drop 70 = dktX3_symmetries_3 := dk_seg dksX3_symmetries_2 22 rfl rfl
theorem dksX3_symmetries_4 : cX3_symmetries.data.toList.drop 93 = dktX3_symmetries_4 := dk_seg dksX3_symmetries_3 23 rfl rfl
theorem dX3_symmetries_0 : decode cX3_symmetries 0 = .ok (.iconst 0, 1) := dk_3 (dk_at dksX3_symmetries_0 0 rfl rfl)
theorem dX3_symmetries_1 : decode cX3_symmetries 1 = .ok (.istore_n 1, 1) := dk_60 (dk_at dksX3_symmetries_0 1 rfl rfl)
theorem dX3_symmetries_2 : decode cX3_symmetries 2 = .ok (.aload_n 0, 1) := dk_42 (dk_at dksX3_symmetries_0 2 rfl rfl)
theorem dX3_symmetries_3 : decode cX3_symmetries 3 = .ok (.invokevirtual 250, 3) := dk_182 0 250 (dk_at dksX3_symmetries_0 3 rfl rfl)
theorem dX3_symmetries_6 : decode cX3_symmetries 6 = .ok (.iconst 0, 1) := dk_3 (dk_at dksX3_symmetries_0 6 rfl rfl)
theorem dX3_symmetries_7 : decode cX3_symmetries 7 = .ok (.istore_n 2, 1) := dk_61 (dk_at dksX3_symmetries_0 7 rfl rfl)
theorem dX3_symmetries_8 : decode cX3_symmetries 8 = .ok (.iload_n 2, 1) := dk_28 (dk_at dksX3_symmetries_0 8 rfl rfl)
theorem dX3_symmetries_9 : decode cX3_symmetries 9 = .ok (.bipush 8, 2) := dk_16 8 (dk_at dksX3_symmetries_0 9 rfl rfl)
theorem dX3_symmetries_11 : decode cX3_symmetries 11 = .ok (.if_icmp .ge 16, 3) := dk_162 0 16 (dk_at dksX3_symmetries_0 11 rfl rfl)
theorem dX3_symmetries_14 : decode cX3_symmetries 14 = .ok (.aload_n 0, 1) := dk_42 (dk_at dksX3_symmetries_0 14 rfl rfl)
theorem dX3_symmetries_15 : decode cX3_symmetries 15 = .ok (.getfield 32, 3) := dk_180 0 32 (dk_at dksX3_symmetries_0 15 rfl rfl)
theorem dX3_symmetries_18 : decode cX3_symmetries 18 = .ok (.iload_n 2, 1) := dk_28 (dk_at dksX3_symmetries_0 18 rfl rfl)
theorem dX3_symmetries_19 : decode cX3_symmetries 19 = .ok (.iconst 0, 1) := dk_3 (dk_at dksX3_symmetries_0 19 rfl rfl)
theorem dX3_symmetries_20 : decode cX3_symmetries 20 = .ok (.iastore, 1) := dk_79 (dk_at dksX3_symmetries_0 20 rfl rfl)
theorem dX3_symmetries_21 : decode cX3_symmetries 21 = .ok (.iinc 2 1, 3) := dk_132 2 1 (dk_at dksX3_symmetries_0 21 rfl rfl)
theorem dX3_symmetries_24 : decode cX3_symmetries 24 = .ok (.goto (-16), 3) := dk_167 255 240 (dk_at dksX3_symmetries_1 0 rfl rfl)
theorem dX3_symmetries_27 : decode cX3_symmetries 27 = .ok (.aload_n 0, 1) := dk_42 (dk_at dksX3_symmetries_1 3 rfl rfl)
theorem dX3_symmetries_28 : decode cX3_symmetries 28 = .ok (.aload_n 0, 1) := dk_42 (dk_at dksX3_symmetries_1 4 rfl rfl)
theorem dX3_symmetries_29 : decode cX3_symmetries 29 = .ok (.invokevirtual 222, 3) := dk_182 0 222 (dk_at dksX3_symmetries_1 5 rfl rfl)
theorem dX3_symmetries_32 : decode cX3_symmetries 32 = .ok (.invokevirtual 253, 3) := dk_182 0 253 (dk_at dksX3_symmetries_1 8 rfl rfl)
theorem dX3_symmetries_35 : decode cX3_symmetries 35 = .ok (.iconst 1, 1) := dk_4 (dk_at dksX3_symmetries_1 11 rfl rfl)
theorem dX3_symmetries_36 : decode cX3_symmetries 36 = .ok (.istore_n 2, 1) := dk_61 (dk_at dksX3_symmetries_1 12 rfl rfl)
theorem dX3_symmetries_37 : decode cX3_symmetries 37 = .ok (.iload_n 2, 1) := dk_28 (dk_at dksX3_symmetries_1 13 rfl rfl)
theorem dX3_symmetries_38 : decode cX3_symmetries 38 = .ok (.ifCond .eq 58, 3) := dk_153 0 58 (dk_at dksX3_symmetries_1 14 rfl rfl)
theorem dX3_symmetries_41 : decode cX3_symmetries 41 = .ok (.aload_n 0, 1) := dk_42 (dk_at dksX3_symmetries_1 17 rfl rfl)
theorem dX3_symmetries_42 : decode cX3_symmetries 42 = .ok (.invokevirtual 256, 3) := dk_182 1 0 (dk_at dksX3_symmetries_1 18 rfl rfl)
theorem dX3_symmetries_45 : decode cX3_symmetries 45 = .ok (.ifCond .eq 39, 3) := dk_153 0 39 (dk_at dksX3_symmetries_1 21 rfl rfl)
theorem dX3_symmetries_48 : decode cX3_symmetries 48 = .ok (.iinc 1 1, 3) := dk_132 1 1 (dk_at dksX3_symmetries_2 0 rfl rfl)
theorem dX3_symmetries_51 : decode cX3_symmetries 51 = .ok (.iconst 0, 1) := dk_3 (dk_at dksX3_symmetries_2 3 rfl rfl)
theorem dX3_symmetries_52 : decode cX3_symmetries 52 = .ok (.istore_n 3, 1) := dk_62 (dk_at dksX3_symmetries_2 4 rfl rfl)
theorem dX3_symmetries_53 : decode cX3_symmetries 53 = .ok (.iload_n 3, 1) := dk_29 (dk_at dksX3_symmetries_2 5 rfl rfl)
theorem dX3_symmetries_54 : decode cX3_symmetries 54 = .ok (.aload_n 0, 1) := dk_42 (dk_at dksX3_symmetries_2 6 rfl rfl)
theorem dX3_symmetries_55 : decode cX3_symmetries 55 = .ok (.invokevirtual 222, 3) := dk_182 0 222 (dk_at dksX3_symmetries_2 7 rfl rfl)
theorem dX3_symmetries_58 : decode cX3_symmetries 58 = .ok (.if_icmp .ge 26, 3) := dk_162 0 26 (dk_at dksX3_symmetries_2 10 rfl rfl)
theorem dX3_symmetries_61 : decode cX3_symmetries 61 = .ok (.aload_n 0, 1) := dk_42 (dk_at dksX3_symmetries_2 13 rfl rfl)
theorem dX3_symmetries_62 : decode cX3_symmetries 62 = .ok (.getfield 32, 3) := dk_180 0 32 (dk_at dksX3_symmetries_2 14 rfl rfl)
theorem dX3_symmetries_65 : decode cX3_symmetries 65 = .ok (.iload_n 3, 1) := dk_29 (dk_at dksX3_symmetries_2 17 rfl rfl)
theorem dX3_symmetries_66 : decode cX3_symmetries 66 = .ok (.dup2, 1) := dk_92 (dk_at dksX3_symmetries_2 18 rfl rfl)
theorem dX3_symmetries_67 : decode cX3_symmetries 67 = .ok (.iaload, 1) := dk_46 (dk_at dksX3_symmetries_2 19 rfl rfl)
theorem dX3_symmetries_68 : decode cX3_symmetries 68 = .ok (.iconst 1, 1) := dk_4 (dk_at dksX3_symmetries_2 20 rfl rfl)
theorem dX3_symmetries_69 : decode cX3_symmetries 69 = .ok (.aload_n 0, 1) := dk_42 (dk_at dksX3_symmetries_2 21 rfl rfl)
theorem dX3_symmetries_70 : decode cX3_symmetries 70 = .ok (.getfield 26, 3) := dk_180 0 26 (dk_at dksX3_symmetries_3 0 rfl rfl)
theorem dX3_symmetries_73 : decode cX3_symmetries 73 = .ok (.iload_n 3, 1) := dk_29 (dk_at dksX3_symmetries_3 3 rfl rfl)
theorem dX3_symmetries_74 : decode cX3_symmetries 74 = .ok (.iaload, 1) := dk_46 (dk_at dksX3_symmetries_3 4 rfl rfl)
theorem dX3_symmetries_75 : decode cX3_symmetries 75 = .ok (.ishl, 1) := dk_120 (dk_at dksX3_symmetries_3 5 rfl rfl)
theorem dX3_symmetries_76 : decode cX3_symmetries 76 = .ok (.ior, 1) := dk_128 (dk_at dksX3_symmetries_3 6 rfl rfl)
theorem dX3_symmetries_77 : decode cX3_symmetries 77 = .ok (.iastore, 1) := dk_79 (dk_at dksX3_symmetries_3 7 rfl rfl)
theorem dX3_symmetries_78 : decode cX3_symmetries 78 = .ok (.iinc 3 1, 3) := dk_132 3 1 (dk_at dksX3_symmetries_3 8 rfl rfl)
theorem dX3_symmetries_81 : decode cX3_symmetries 81 = .ok (.goto (-28), 3) := dk_167 255 228 (dk_at dksX3_symmetries_3 11 rfl rfl)
theorem dX3_symmetries_84 : decode cX3_symmetries 84 = .ok (.aload_n 0, 1) := dk_42 (dk_at dksX3_symmetries_3 14 rfl rfl)
theorem dX3_symmetries_85 : decode cX3_symmetries 85 = .ok (.aload_n 0, 1) := dk_42 (dk_at dksX3_symmetries_3 15 rfl rfl)
theorem dX3_symmetries_86 : decode cX3_symmetries 86 = .ok (.invokevirtual 222, 3) := dk_182 0 222 (dk_at dksX3_symmetries_3 16 rfl rfl)
theorem dX3_symmetries_89 : decode cX3_symmetries 89 = .ok (.invokevirtual 260, 3) := dk_182 1 4 (dk_at dksX3_symmetries_3 19 rfl rfl)
theorem dX3_symmetries_92 : decode cX3_symmetries 92 = .ok (.istore_n 2, 1) := dk_61 (dk_at dksX3_symmetries_3 22 rfl rfl)
theorem dX3_symmetries_93 : decode cX3_symmetries 93 = .ok (.goto (-56), 3) := dk_167 255 200 (dk_at dksX3_symmetries_4 0 rfl rfl)
theorem dX3_symmetries_96 : decode cX3_symmetries 96 = .ok (.iload_n 1, 1) := dk_27 (dk_at dksX3_symmetries_4 3 rfl rfl)
theorem dX3_symmetries_97 : decode cX3_symmetries 97 = .ok (.ireturn, 1) := dk_172 (dk_at dksX3_symmetries_4 4 rfl rfl)
abbrev cX3_tellLines : ByteArray := prog_15_method_43_code
def yX3_tellLines : MethodName := ⟨RX3, "tellLines", "()V"⟩
def dkwX3_tellLines_2 : List UInt8 := [167, 255, 234, 177]
abbrev dktX3_tellLines_2 : List UInt8 := dkwX3_tellLines_2 ++ []
def dkwX3_tellLines_1 : List UInt8 := [27, 42, 182, 0, 213, 162, 0, 20, 42, 180, 0, 29, 42, 27, 182, 0, 216, 27, 79, 132, 1, 1]
abbrev dktX3_tellLines_1 : List UInt8 := dkwX3_tellLines_1 ++ dktX3_tellLines_2
def dkwX3_tellLines_0 : List UInt8 := [3, 60, 27, 17, 1, 0, 162, 0, 16, 42, 180, 0, 29, 27, 2, 79, 132, 1, 1, 167, 255, 239, 3, 60]
abbrev dktX3_tellLines_0 : List UInt8 := dkwX3_tellLines_0 ++ dktX3_tellLines_1
theorem dksX3_tellLines_0 : cX3_tellLines.data.toList.drop 0 = dktX3_tellLines_0 := by decide +kernel
theorem dksX3_tellLines_1 : cX3_tellLines.data.toList.drop 24 = dktX3_tellLines_1 := dk_seg dksX3_tellLines_0 24 rfl rfl
theorem dksX3_tellLines_2 : cX3_tellLines.data.toList.drop 46 = dktX3_tellLines_2 := dk_seg dksX3_tellLines_1 22 rfl rfl
theorem dX3_tellLines_0 : decode cX3_tellLines 0 = .ok (.iconst 0, 1) := dk_3 (dk_at dksX3_tellLines_0 0 rfl rfl)
theorem dX3_tellLines_1 : decode cX3_tellLines 1 = .ok (.istore_n 1, 1) := dk_60 (dk_at dksX3_tellLines_0 1 rfl rfl)
theorem dX3_tellLines_2 : decode cX3_tellLines 2 = .ok (.iload_n 1, 1) := dk_27 (dk_at dksX3_tellLines_0 2 rfl rfl)
theorem dX3_tellLines_3 : decode cX3_tellLines 3 = .ok (.sipush 256, 3) := dk_17 1 0 (dk_at dksX3_tellLines_0 3 rfl rfl)
theorem dX3_tellLines_6 : decode cX3_tellLines 6 = .ok (.if_icmp .ge 16, 3) := dk_162 0 16 (dk_at dksX3_tellLines_0 6 rfl rfl)
theorem dX3_tellLines_9 : decode cX3_tellLines 9 = .ok (.aload_n 0, 1) := dk_42 (dk_at dksX3_tellLines_0 9 rfl rfl)
theorem dX3_tellLines_10 : decode cX3_tellLines 10 = .ok (.getfield 29, 3) := dk_180 0 29 (dk_at dksX3_tellLines_0 10 rfl rfl)
theorem dX3_tellLines_13 : decode cX3_tellLines 13 = .ok (.iload_n 1, 1) := dk_27 (dk_at dksX3_tellLines_0 13 rfl rfl)
theorem dX3_tellLines_14 : decode cX3_tellLines 14 = .ok (.iconst (-1), 1) := dk_2 (dk_at dksX3_tellLines_0 14 rfl rfl)
theorem dX3_tellLines_15 : decode cX3_tellLines 15 = .ok (.iastore, 1) := dk_79 (dk_at dksX3_tellLines_0 15 rfl rfl)
theorem dX3_tellLines_16 : decode cX3_tellLines 16 = .ok (.iinc 1 1, 3) := dk_132 1 1 (dk_at dksX3_tellLines_0 16 rfl rfl)
theorem dX3_tellLines_19 : decode cX3_tellLines 19 = .ok (.goto (-17), 3) := dk_167 255 239 (dk_at dksX3_tellLines_0 19 rfl rfl)
theorem dX3_tellLines_22 : decode cX3_tellLines 22 = .ok (.iconst 0, 1) := dk_3 (dk_at dksX3_tellLines_0 22 rfl rfl)
theorem dX3_tellLines_23 : decode cX3_tellLines 23 = .ok (.istore_n 1, 1) := dk_60 (dk_at dksX3_tellLines_0 23 rfl rfl)
theorem dX3_tellLines_24 : decode cX3_tellLines 24 = .ok (.iload_n 1, 1) := dk_27 (dk_at dksX3_tellLines_1 0 rfl rfl)
theorem dX3_tellLines_25 : decode cX3_tellLines 25 = .ok (.aload_n 0, 1) := dk_42 (dk_at dksX3_tellLines_1 1 rfl rfl)
theorem dX3_tellLines_26 : decode cX3_tellLines 26 = .ok (.invokevirtual 213, 3) := dk_182 0 213 (dk_at dksX3_tellLines_1 2 rfl rfl)
theorem dX3_tellLines_29 : decode cX3_tellLines 29 = .ok (.if_icmp .ge 20, 3) := dk_162 0 20 (dk_at dksX3_tellLines_1 5 rfl rfl)
theorem dX3_tellLines_32 : decode cX3_tellLines 32 = .ok (.aload_n 0, 1) := dk_42 (dk_at dksX3_tellLines_1 8 rfl rfl)
theorem dX3_tellLines_33 : decode cX3_tellLines 33 = .ok (.getfield 29, 3) := dk_180 0 29 (dk_at dksX3_tellLines_1 9 rfl rfl)
theorem dX3_tellLines_36 : decode cX3_tellLines 36 = .ok (.aload_n 0, 1) := dk_42 (dk_at dksX3_tellLines_1 12 rfl rfl)
theorem dX3_tellLines_37 : decode cX3_tellLines 37 = .ok (.iload_n 1, 1) := dk_27 (dk_at dksX3_tellLines_1 13 rfl rfl)
theorem dX3_tellLines_38 : decode cX3_tellLines 38 = .ok (.invokevirtual 216, 3) := dk_182 0 216 (dk_at dksX3_tellLines_1 14 rfl rfl)
theorem dX3_tellLines_41 : decode cX3_tellLines 41 = .ok (.iload_n 1, 1) := dk_27 (dk_at dksX3_tellLines_1 17 rfl rfl)
theorem dX3_tellLines_42 : decode cX3_tellLines 42 = .ok (.iastore, 1) := dk_79 (dk_at dksX3_tellLines_1 18 rfl rfl)
theorem dX3_tellLines_43 : decode cX3_tellLines 43 = .ok (.iinc 1 1, 3) := dk_132 1 1 (dk_at dksX3_tellLines_1 19 rfl rfl)
theorem dX3_tellLines_46 : decode cX3_tellLines 46 = .ok (.goto (-22), 3) := dk_167 255 234 (dk_at dksX3_tellLines_2 0 rfl rfl)
theorem dX3_tellLines_49 : decode cX3_tellLines 49 = .ok (.return_, 1) := dk_177 (dk_at dksX3_tellLines_2 3 rfl rfl)
abbrev cX3_beginNaming : ByteArray := prog_15_method_39_code
def yX3_beginNaming : MethodName := ⟨RX3, "beginNaming", "(I)V"⟩
def dkwX3_beginNaming_0 : List UInt8 := [3, 61, 28, 27, 162, 0, 16, 42, 180, 0, 26, 28, 28, 79, 132, 2, 1, 167, 255, 241, 177]
abbrev dktX3_beginNaming_0 : List UInt8 := dkwX3_beginNaming_0 ++ []
theorem dksX3_beginNaming_0 : cX3_beginNaming.data.toList.drop 0 = dktX3_beginNaming_0 := by decide +kernel
theorem dX3_beginNaming_0 : decode cX3_beginNaming 0 = .ok (.iconst 0, 1) := dk_3 (dk_at dksX3_beginNaming_0 0 rfl rfl)
theorem dX3_beginNaming_1 : decode cX3_beginNaming 1 = .ok (.istore_n 2, 1) := dk_61 (dk_at dksX3_beginNaming_0 1 rfl rfl)
theorem dX3_beginNaming_2 : decode cX3_beginNaming 2 = .ok (.iload_n 2, 1) := dk_28 (dk_at dksX3_beginNaming_0 2 rfl rfl)
theorem dX3_beginNaming_3 : decode cX3_beginNaming 3 = .ok (.iload_n 1, 1) := dk_27 (dk_at dksX3_beginNaming_0 3 rfl rfl)
theorem dX3_beginNaming_4 : decode cX3_beginNaming 4 = .ok (.if_icmp .ge 16, 3) := dk_162 0 16 (dk_at dksX3_beginNaming_0 4 rfl rfl)
theorem dX3_beginNaming_7 : decode cX3_beginNaming 7 = .ok (.aload_n 0, 1) := dk_42 (dk_at dksX3_beginNaming_0 7 rfl rfl)
theorem dX3_beginNaming_8 : decode cX3_beginNaming 8 = .ok (.getfield 26, 3) := dk_180 0 26 (dk_at dksX3_beginNaming_0 8 rfl rfl)
theorem dX3_beginNaming_11 : decode cX3_beginNaming 11 = .ok (.iload_n 2, 1) := dk_28 (dk_at dksX3_beginNaming_0 11 rfl rfl)
theorem dX3_beginNaming_12 : decode cX3_beginNaming 12 = .ok (.iload_n 2, 1) := dk_28 (dk_at dksX3_beginNaming_0 12 rfl rfl)
theorem dX3_beginNaming_13 : decode cX3_beginNaming 13 = .ok (.iastore, 1) := dk_79 (dk_at dksX3_beginNaming_0 13 rfl rfl)
theorem dX3_beginNaming_14 : decode cX3_beginNaming 14 = .ok (.iinc 2 1, 3) := dk_132 2 1 (dk_at dksX3_beginNaming_0 14 rfl rfl)
theorem dX3_beginNaming_17 : decode cX3_beginNaming 17 = .ok (.goto (-15), 3) := dk_167 255 241 (dk_at dksX3_beginNaming_0 17 rfl rfl)
theorem dX3_beginNaming_20 : decode cX3_beginNaming 20 = .ok (.return_, 1) := dk_177 (dk_at dksX3_beginNaming_0 20 rfl rfl)
abbrev cX3_isSymmetry : ByteArray := prog_15_method_44_code
def yX3_isSymmetry : MethodName := ⟨RX3, "isSymmetry", "()Z"⟩
def dkwX3_isSymmetry_1 : List UInt8 := [2, 160, 0, 5, 3, 172, 132, 1, 1, 167, 255, 225, 4, 172]
abbrev dktX3_isSymmetry_1 : List UInt8 := dkwX3_isSymmetry_1 ++ []
def dkwX3_isSymmetry_0 : List UInt8 := [3, 60, 27, 42, 182, 0, 213, 162, 0, 29, 42, 180, 0, 29, 42, 42, 27, 182, 0, 216, 182, 0, 247, 46]
abbrev dktX3_isSymmetry_0 : List UInt8 := dkwX3_isSymmetry_0 ++ dktX3_isSymmetry_1
theorem dksX3_isSymmetry_0 : cX3_isSymmetry.data.toList.drop 0 = dktX3_isSymmetry_0 := by decide +kernel
theorem dksX3_isSymmetry_1 : cX3_isSymmetry.data.toList.drop 24 = dktX3_isSymmetry_1 := dk_seg dksX3_isSymmetry_0 24 rfl rfl
theorem dX3_isSymmetry_0 : decode cX3_isSymmetry 0 = .ok (.iconst 0, 1) := dk_3 (dk_at dksX3_isSymmetry_0 0 rfl rfl)
theorem dX3_isSymmetry_1 : decode cX3_isSymmetry 1 = .ok (.istore_n 1, 1) := dk_60 (dk_at dksX3_isSymmetry_0 1 rfl rfl)
theorem dX3_isSymmetry_2 : decode cX3_isSymmetry 2 = .ok (.iload_n 1, 1) := dk_27 (dk_at dksX3_isSymmetry_0 2 rfl rfl)
theorem dX3_isSymmetry_3 : decode cX3_isSymmetry 3 = .ok (.aload_n 0, 1) := dk_42 (dk_at dksX3_isSymmetry_0 3 rfl rfl)
theorem dX3_isSymmetry_4 : decode cX3_isSymmetry 4 = .ok (.invokevirtual 213, 3) := dk_182 0 213 (dk_at dksX3_isSymmetry_0 4 rfl rfl)
theorem dX3_isSymmetry_7 : decode cX3_isSymmetry 7 = .ok (.if_icmp .ge 29, 3) := dk_162 0 29 (dk_at dksX3_isSymmetry_0 7 rfl rfl)
theorem dX3_isSymmetry_10 : decode cX3_isSymmetry 10 = .ok (.aload_n 0, 1) := dk_42 (dk_at dksX3_isSymmetry_0 10 rfl rfl)
theorem dX3_isSymmetry_11 : decode cX3_isSymmetry 11 = .ok (.getfield 29, 3) := dk_180 0 29 (dk_at dksX3_isSymmetry_0 11 rfl rfl)
theorem dX3_isSymmetry_14 : decode cX3_isSymmetry 14 = .ok (.aload_n 0, 1) := dk_42 (dk_at dksX3_isSymmetry_0 14 rfl rfl)
theorem dX3_isSymmetry_15 : decode cX3_isSymmetry 15 = .ok (.aload_n 0, 1) := dk_42 (dk_at dksX3_isSymmetry_0 15 rfl rfl)
theorem dX3_isSymmetry_16 : decode cX3_isSymmetry 16 = .ok (.iload_n 1, 1) := dk_27 (dk_at dksX3_isSymmetry_0 16 rfl rfl)
theorem dX3_isSymmetry_17 : decode cX3_isSymmetry 17 = .ok (.invokevirtual 216, 3) := dk_182 0 216 (dk_at dksX3_isSymmetry_0 17 rfl rfl)
theorem dX3_isSymmetry_20 : decode cX3_isSymmetry 20 = .ok (.invokevirtual 247, 3) := dk_182 0 247 (dk_at dksX3_isSymmetry_0 20 rfl rfl)
theorem dX3_isSymmetry_23 : decode cX3_isSymmetry 23 = .ok (.iaload, 1) := dk_46 (dk_at dksX3_isSymmetry_0 23 rfl rfl)
theorem dX3_isSymmetry_24 : decode cX3_isSymmetry 24 = .ok (.iconst (-1), 1) := dk_2 (dk_at dksX3_isSymmetry_1 0 rfl rfl)
theorem dX3_isSymmetry_25 : decode cX3_isSymmetry 25 = .ok (.if_icmp .ne 5, 3) := dk_160 0 5 (dk_at dksX3_isSymmetry_1 1 rfl rfl)
theorem dX3_isSymmetry_28 : decode cX3_isSymmetry 28 = .ok (.iconst 0, 1) := dk_3 (dk_at dksX3_isSymmetry_1 4 rfl rfl)
theorem dX3_isSymmetry_29 : decode cX3_isSymmetry 29 = .ok (.ireturn, 1) := dk_172 (dk_at dksX3_isSymmetry_1 5 rfl rfl)
theorem dX3_isSymmetry_30 : decode cX3_isSymmetry 30 = .ok (.iinc 1 1, 3) := dk_132 1 1 (dk_at dksX3_isSymmetry_1 6 rfl rfl)
theorem dX3_isSymmetry_33 : decode cX3_isSymmetry 33 = .ok (.goto (-31), 3) := dk_167 255 225 (dk_at dksX3_isSymmetry_1 9 rfl rfl)
theorem dX3_isSymmetry_36 : decode cX3_isSymmetry 36 = .ok (.iconst 1, 1) := dk_4 (dk_at dksX3_isSymmetry_1 12 rfl rfl)
theorem dX3_isSymmetry_37 : decode cX3_isSymmetry 37 = .ok (.ireturn, 1) := dk_172 (dk_at dksX3_isSymmetry_1 13 rfl rfl)
abbrev cX3_named : ByteArray := prog_15_method_42_code
def yX3_named : MethodName := ⟨RX3, "named", "(I)I"⟩
def dkwX3_named_1 : List UInt8 := [4, 100, 126, 62, 167, 255, 232, 28, 172]
abbrev dktX3_named_1 : List UInt8 := dkwX3_named_1 ++ []
def dkwX3_named_0 : List UInt8 := [3, 61, 27, 62, 29, 153, 0, 26, 28, 4, 42, 180, 0, 26, 29, 184, 0, 240, 46, 120, 128, 61, 29, 29]
abbrev dktX3_named_0 : List UInt8 := dkwX3_named_0 ++ dktX3_named_1
theorem dksX3_named_0 : cX3_named.data.toList.drop 0 = dktX3_named_0 := by decide +kernel
theorem dksX3_named_1 : cX3_named.data.toList.drop 24 = dktX3_named_1 := dk_seg dksX3_named_0 24 rfl rfl
theorem dX3_named_0 : decode cX3_named 0 = .ok (.iconst 0, 1) := dk_3 (dk_at dksX3_named_0 0 rfl rfl)
theorem dX3_named_1 : decode cX3_named 1 = .ok (.istore_n 2, 1) := dk_61 (dk_at dksX3_named_0 1 rfl rfl)
theorem dX3_named_2 : decode cX3_named 2 = .ok (.iload_n 1, 1) := dk_27 (dk_at dksX3_named_0 2 rfl rfl)
theorem dX3_named_3 : decode cX3_named 3 = .ok (.istore_n 3, 1) := dk_62 (dk_at dksX3_named_0 3 rfl rfl)
theorem dX3_named_4 : decode cX3_named 4 = .ok (.iload_n 3, 1) := dk_29 (dk_at dksX3_named_0 4 rfl rfl)
theorem dX3_named_5 : decode cX3_named 5 = .ok (.ifCond .eq 26, 3) := dk_153 0 26 (dk_at dksX3_named_0 5 rfl rfl)
theorem dX3_named_8 : decode cX3_named 8 = .ok (.iload_n 2, 1) := dk_28 (dk_at dksX3_named_0 8 rfl rfl)
theorem dX3_named_9 : decode cX3_named 9 = .ok (.iconst 1, 1) := dk_4 (dk_at dksX3_named_0 9 rfl rfl)
theorem dX3_named_10 : decode cX3_named 10 = .ok (.aload_n 0, 1) := dk_42 (dk_at dksX3_named_0 10 rfl rfl)
theorem dX3_named_11 : decode cX3_named 11 = .ok (.getfield 26, 3) := dk_180 0 26 (dk_at dksX3_named_0 11 rfl rfl)
theorem dX3_named_14 : decode cX3_named 14 = .ok (.iload_n 3, 1) := dk_29 (dk_at dksX3_named_0 14 rfl rfl)
theorem dX3_named_15 : decode cX3_named 15 = .ok (.invokestatic 240, 3) := dk_184 0 240 (dk_at dksX3_named_0 15 rfl rfl)
theorem dX3_named_18 : decode cX3_named 18 = .ok (.iaload, 1) := dk_46 (dk_at dksX3_named_0 18 rfl rfl)
theorem dX3_named_19 : decode cX3_named 19 = .ok (.ishl, 1) := dk_120 (dk_at dksX3_named_0 19 rfl rfl)
theorem dX3_named_20 : decode cX3_named 20 = .ok (.ior, 1) := dk_128 (dk_at dksX3_named_0 20 rfl rfl)
theorem dX3_named_21 : decode cX3_named 21 = .ok (.istore_n 2, 1) := dk_61 (dk_at dksX3_named_0 21 rfl rfl)
theorem dX3_named_22 : decode cX3_named 22 = .ok (.iload_n 3, 1) := dk_29 (dk_at dksX3_named_0 22 rfl rfl)
theorem dX3_named_23 : decode cX3_named 23 = .ok (.iload_n 3, 1) := dk_29 (dk_at dksX3_named_0 23 rfl rfl)
theorem dX3_named_24 : decode cX3_named 24 = .ok (.iconst 1, 1) := dk_4 (dk_at dksX3_named_1 0 rfl rfl)
theorem dX3_named_25 : decode cX3_named 25 = .ok (.isub, 1) := dk_100 (dk_at dksX3_named_1 1 rfl rfl)
theorem dX3_named_26 : decode cX3_named 26 = .ok (.iand, 1) := dk_126 (dk_at dksX3_named_1 2 rfl rfl)
theorem dX3_named_27 : decode cX3_named 27 = .ok (.istore_n 3, 1) := dk_62 (dk_at dksX3_named_1 3 rfl rfl)
theorem dX3_named_28 : decode cX3_named 28 = .ok (.goto (-24), 3) := dk_167 255 232 (dk_at dksX3_named_1 4 rfl rfl)
theorem dX3_named_31 : decode cX3_named 31 = .ok (.iload_n 2, 1) := dk_28 (dk_at dksX3_named_1 7 rfl rfl)
theorem dX3_named_32 : decode cX3_named 32 = .ok (.ireturn, 1) := dk_172 (dk_at dksX3_named_1 8 rfl rfl)
abbrev cX3_nextNaming : ByteArray := prog_15_method_40_code
def yX3_nextNaming : MethodName := ⟨RX3, "nextNaming", "(I)Z"⟩
def dkwX3_nextNaming_4 : List UInt8 := [132, 4, 1, 132, 5, 255, 167, 255, 235, 4, 172]
abbrev dktX3_nextNaming_4 : List UInt8 := dkwX3_nextNaming_4 ++ []
def dkwX3_nextNaming_3 : List UInt8 := [96, 54, 4, 27, 4, 100, 54, 5, 21, 4, 21, 5, 162, 0, 20, 42, 21, 4, 21, 5, 182, 0, 243]
abbrev dktX3_nextNaming_3 : List UInt8 := dkwX3_nextNaming_3 ++ dktX3_nextNaming_4
def dkwX3_nextNaming_2 : List UInt8 := [46, 42, 180, 0, 26, 28, 46, 162, 0, 9, 132, 3, 255, 167, 255, 238, 42, 28, 29, 182, 0, 243, 28, 4]
abbrev dktX3_nextNaming_2 : List UInt8 := dkwX3_nextNaming_2 ++ dktX3_nextNaming_3
def dkwX3_nextNaming_1 : List UInt8 := [164, 0, 9, 132, 2, 255, 167, 255, 232, 28, 156, 0, 5, 3, 172, 27, 4, 100, 62, 42, 180, 0, 26, 29]
abbrev dktX3_nextNaming_1 : List UInt8 := dkwX3_nextNaming_1 ++ dktX3_nextNaming_2
def dkwX3_nextNaming_0 : List UInt8 := [27, 5, 100, 61, 28, 155, 0, 26, 42, 180, 0, 26, 28, 46, 42, 180, 0, 26, 28, 4, 96, 46]
abbrev dktX3_nextNaming_0 : List UInt8 := dkwX3_nextNaming_0 ++ dktX3_nextNaming_1
theorem dksX3_nextNaming_0 : cX3_nextNaming.data.toList.drop 0 = dktX3_nextNaming_0 := by decide +kernel
theorem dksX3_nextNaming_1 : cX3_nextNaming.data.toList.drop 22 = dktX3_nextNaming_1 := dk_seg dksX3_nextNaming_0 22 rfl rfl
theorem dksX3_nextNaming_2 : cX3_nextNaming.data.toList.drop 46 = dktX3_nextNaming_2 := dk_seg dksX3_nextNaming_1 24 rfl rfl
theorem dksX3_nextNaming_3 : cX3_nextNaming.data.toList.drop 70 = dktX3_nextNaming_3 := dk_seg dksX3_nextNaming_2 24 rfl rfl
theorem dksX3_nextNaming_4 : cX3_nextNaming.data.toList.drop 93 = dktX3_nextNaming_4 := dk_seg dksX3_nextNaming_3 23 rfl rfl
theorem dX3_nextNaming_0 : decode cX3_nextNaming 0 = .ok (.iload_n 1, 1) := dk_27 (dk_at dksX3_nextNaming_0 0 rfl rfl)
theorem dX3_nextNaming_1 : decode cX3_nextNaming 1 = .ok (.iconst 2, 1) := dk_5 (dk_at dksX3_nextNaming_0 1 rfl rfl)
theorem dX3_nextNaming_2 : decode cX3_nextNaming 2 = .ok (.isub, 1) := dk_100 (dk_at dksX3_nextNaming_0 2 rfl rfl)
theorem dX3_nextNaming_3 : decode cX3_nextNaming 3 = .ok (.istore_n 2, 1) := dk_61 (dk_at dksX3_nextNaming_0 3 rfl rfl)
theorem dX3_nextNaming_4 : decode cX3_nextNaming 4 = .ok (.iload_n 2, 1) := dk_28 (dk_at dksX3_nextNaming_0 4 rfl rfl)
theorem dX3_nextNaming_5 : decode cX3_nextNaming 5 = .ok (.ifCond .lt 26, 3) := dk_155 0 26 (dk_at dksX3_nextNaming_0 5 rfl rfl)
theorem dX3_nextNaming_8 : decode cX3_nextNaming 8 = .ok (.aload_n 0, 1) := dk_42 (dk_at dksX3_nextNaming_0 8 rfl rfl)
theorem dX3_nextNaming_9 : decode cX3_nextNaming 9 = .ok (.getfield 26, 3) := dk_180 0 26 (dk_at dksX3_nextNaming_0 9 rfl rfl)
theorem dX3_nextNaming_12 : decode cX3_nextNaming 12 = .ok (.iload_n 2, 1) := dk_28 (dk_at dksX3_nextNaming_0 12 rfl rfl)
theorem dX3_nextNaming_13 : decode cX3_nextNaming 13 = .ok (.iaload, 1) := dk_46 (dk_at dksX3_nextNaming_0 13 rfl rfl)
theorem dX3_nextNaming_14 : decode cX3_nextNaming 14 = .ok (.aload_n 0, 1) := dk_42 (dk_at dksX3_nextNaming_0 14 rfl rfl)
theorem dX3_nextNaming_15 : decode cX3_nextNaming 15 = .ok (.getfield 26, 3) := dk_180 0 26 (dk_at dksX3_nextNaming_0 15 rfl rfl)
theorem dX3_nextNaming_18 : decode cX3_nextNaming 18 = .ok (.iload_n 2, 1) := dk_28 (dk_at dksX3_nextNaming_0 18 rfl rfl)
theorem dX3_nextNaming_19 : decode cX3_nextNaming 19 = .ok (.iconst 1, 1) := dk_4 (dk_at dksX3_nextNaming_0 19 rfl rfl)
theorem dX3_nextNaming_20 : decode cX3_nextNaming 20 = .ok (.iadd, 1) := dk_96 (dk_at dksX3_nextNaming_0 20 rfl rfl)
theorem dX3_nextNaming_21 : decode cX3_nextNaming 21 = .ok (.iaload, 1) := dk_46 (dk_at dksX3_nextNaming_0 21 rfl rfl)
theorem dX3_nextNaming_22 : decode cX3_nextNaming 22 = .ok (.if_icmp .le 9, 3) := dk_164 0 9 (dk_at dksX3_nextNaming_1 0 rfl rfl)
theorem dX3_nextNaming_25 : decode cX3_nextNaming 25 = .ok (.iinc 2 (-1), 3) := dk_132 2 255 (dk_at dksX3_nextNaming_1 3 rfl rfl)
theorem dX3_nextNaming_28 : decode cX3_nextNaming 28 = .ok (.goto (-24), 3) := dk_167 255 232 (dk_at dksX3_nextNaming_1 6 rfl rfl)
theorem dX3_nextNaming_31 : decode cX3_nextNaming 31 = .ok (.iload_n 2, 1) := dk_28 (dk_at dksX3_nextNaming_1 9 rfl rfl)
theorem dX3_nextNaming_32 : decode cX3_nextNaming 32 = .ok (.ifCond .ge 5, 3) := dk_156 0 5 (dk_at dksX3_nextNaming_1 10 rfl rfl)
theorem dX3_nextNaming_35 : decode cX3_nextNaming 35 = .ok (.iconst 0, 1) := dk_3 (dk_at dksX3_nextNaming_1 13 rfl rfl)
theorem dX3_nextNaming_36 : decode cX3_nextNaming 36 = .ok (.ireturn, 1) := dk_172 (dk_at dksX3_nextNaming_1 14 rfl rfl)
theorem dX3_nextNaming_37 : decode cX3_nextNaming 37 = .ok (.iload_n 1, 1) := dk_27 (dk_at dksX3_nextNaming_1 15 rfl rfl)
theorem dX3_nextNaming_38 : decode cX3_nextNaming 38 = .ok (.iconst 1, 1) := dk_4 (dk_at dksX3_nextNaming_1 16 rfl rfl)
theorem dX3_nextNaming_39 : decode cX3_nextNaming 39 = .ok (.isub, 1) := dk_100 (dk_at dksX3_nextNaming_1 17 rfl rfl)
theorem dX3_nextNaming_40 : decode cX3_nextNaming 40 = .ok (.istore_n 3, 1) := dk_62 (dk_at dksX3_nextNaming_1 18 rfl rfl)
theorem dX3_nextNaming_41 : decode cX3_nextNaming 41 = .ok (.aload_n 0, 1) := dk_42 (dk_at dksX3_nextNaming_1 19 rfl rfl)
theorem dX3_nextNaming_42 : decode cX3_nextNaming 42 = .ok (.getfield 26, 3) := dk_180 0 26 (dk_at dksX3_nextNaming_1 20 rfl rfl)
theorem dX3_nextNaming_45 : decode cX3_nextNaming 45 = .ok (.iload_n 3, 1) := dk_29 (dk_at dksX3_nextNaming_1 23 rfl rfl)
theorem dX3_nextNaming_46 : decode cX3_nextNaming 46 = .ok (.iaload, 1) := dk_46 (dk_at dksX3_nextNaming_2 0 rfl rfl)
theorem dX3_nextNaming_47 : decode cX3_nextNaming 47 = .ok (.aload_n 0, 1) := dk_42 (dk_at dksX3_nextNaming_2 1 rfl rfl)
theorem dX3_nextNaming_48 : decode cX3_nextNaming 48 = .ok (.getfield 26, 3) := dk_180 0 26 (dk_at dksX3_nextNaming_2 2 rfl rfl)
theorem dX3_nextNaming_51 : decode cX3_nextNaming 51 = .ok (.iload_n 2, 1) := dk_28 (dk_at dksX3_nextNaming_2 5 rfl rfl)
theorem dX3_nextNaming_52 : decode cX3_nextNaming 52 = .ok (.iaload, 1) := dk_46 (dk_at dksX3_nextNaming_2 6 rfl rfl)
theorem dX3_nextNaming_53 : decode cX3_nextNaming 53 = .ok (.if_icmp .ge 9, 3) := dk_162 0 9 (dk_at dksX3_nextNaming_2 7 rfl rfl)
theorem dX3_nextNaming_56 : decode cX3_nextNaming 56 = .ok (.iinc 3 (-1), 3) := dk_132 3 255 (dk_at dksX3_nextNaming_2 10 rfl rfl)
theorem dX3_nextNaming_59 : decode cX3_nextNaming 59 = .ok (.goto (-18), 3) := dk_167 255 238 (dk_at dksX3_nextNaming_2 13 rfl rfl)
theorem dX3_nextNaming_62 : decode cX3_nextNaming 62 = .ok (.aload_n 0, 1) := dk_42 (dk_at dksX3_nextNaming_2 16 rfl rfl)
theorem dX3_nextNaming_63 : decode cX3_nextNaming 63 = .ok (.iload_n 2, 1) := dk_28 (dk_at dksX3_nextNaming_2 17 rfl rfl)
theorem dX3_nextNaming_64 : decode cX3_nextNaming 64 = .ok (.iload_n 3, 1) := dk_29 (dk_at dksX3_nextNaming_2 18 rfl rfl)
theorem dX3_nextNaming_65 : decode cX3_nextNaming 65 = .ok (.invokevirtual 243, 3) := dk_182 0 243 (dk_at dksX3_nextNaming_2 19 rfl rfl)
theorem dX3_nextNaming_68 : decode cX3_nextNaming 68 = .ok (.iload_n 2, 1) := dk_28 (dk_at dksX3_nextNaming_2 22 rfl rfl)
theorem dX3_nextNaming_69 : decode cX3_nextNaming 69 = .ok (.iconst 1, 1) := dk_4 (dk_at dksX3_nextNaming_2 23 rfl rfl)
theorem dX3_nextNaming_70 : decode cX3_nextNaming 70 = .ok (.iadd, 1) := dk_96 (dk_at dksX3_nextNaming_3 0 rfl rfl)
theorem dX3_nextNaming_71 : decode cX3_nextNaming 71 = .ok (.istore 4, 2) := dk_54 4 (dk_at dksX3_nextNaming_3 1 rfl rfl)
theorem dX3_nextNaming_73 : decode cX3_nextNaming 73 = .ok (.iload_n 1, 1) := dk_27 (dk_at dksX3_nextNaming_3 3 rfl rfl)
theorem dX3_nextNaming_74 : decode cX3_nextNaming 74 = .ok (.iconst 1, 1) := dk_4 (dk_at dksX3_nextNaming_3 4 rfl rfl)
theorem dX3_nextNaming_75 : decode cX3_nextNaming 75 = .ok (.isub, 1) := dk_100 (dk_at dksX3_nextNaming_3 5 rfl rfl)
theorem dX3_nextNaming_76 : decode cX3_nextNaming 76 = .ok (.istore 5, 2) := dk_54 5 (dk_at dksX3_nextNaming_3 6 rfl rfl)
theorem dX3_nextNaming_78 : decode cX3_nextNaming 78 = .ok (.iload 4, 2) := dk_21 4 (dk_at dksX3_nextNaming_3 8 rfl rfl)
theorem dX3_nextNaming_80 : decode cX3_nextNaming 80 = .ok (.iload 5, 2) := dk_21 5 (dk_at dksX3_nextNaming_3 10 rfl rfl)
theorem dX3_nextNaming_82 : decode cX3_nextNaming 82 = .ok (.if_icmp .ge 20, 3) := dk_162 0 20 (dk_at dksX3_nextNaming_3 12 rfl rfl)
theorem dX3_nextNaming_85 : decode cX3_nextNaming 85 = .ok (.aload_n 0, 1) := dk_42 (dk_at dksX3_nextNaming_3 15 rfl rfl)
theorem dX3_nextNaming_86 : decode cX3_nextNaming 86 = .ok (.iload 4, 2) := dk_21 4 (dk_at dksX3_nextNaming_3 16 rfl rfl)
theorem dX3_nextNaming_88 : decode cX3_nextNaming 88 = .ok (.iload 5, 2) := dk_21 5 (dk_at dksX3_nextNaming_3 18 rfl rfl)
theorem dX3_nextNaming_90 : decode cX3_nextNaming 90 = .ok (.invokevirtual 243, 3) := dk_182 0 243 (dk_at dksX3_nextNaming_3 20 rfl rfl)
theorem dX3_nextNaming_93 : decode cX3_nextNaming 93 = .ok (.iinc 4 1, 3) := dk_132 4 1 (dk_at dksX3_nextNaming_4 0 rfl rfl)
theorem dX3_nextNaming_96 : decode cX3_nextNaming 96 = .ok (.iinc 5 (-1), 3) := dk_132 5 255 (dk_at dksX3_nextNaming_4 3 rfl rfl)
theorem dX3_nextNaming_99 : decode cX3_nextNaming 99 = .ok (.goto (-21), 3) := dk_167 255 235 (dk_at dksX3_nextNaming_4 6 rfl rfl)
theorem dX3_nextNaming_102 : decode cX3_nextNaming 102 = .ok (.iconst 1, 1) := dk_4 (dk_at dksX3_nextNaming_4 9 rfl rfl)
theorem dX3_nextNaming_103 : decode cX3_nextNaming 103 = .ok (.ireturn, 1) := dk_172 (dk_at dksX3_nextNaming_4 10 rfl rfl)
abbrev cX3_exchange : ByteArray := prog_15_method_41_code
def yX3_exchange : MethodName := ⟨RX3, "exchange", "(II)V"⟩
def dkwX3_exchange_1 : List UInt8 := [29, 79, 177]
abbrev dktX3_exchange_1 : List UInt8 := dkwX3_exchange_1 ++ []
def dkwX3_exchange_0 : List UInt8 := [42, 180, 0, 26, 27, 46, 62, 42, 180, 0, 26, 27, 42, 180, 0, 26, 28, 46, 79, 42, 180, 0, 26, 28]
abbrev dktX3_exchange_0 : List UInt8 := dkwX3_exchange_0 ++ dktX3_exchange_1
theorem dksX3_exchange_0 : cX3_exchange.data.toList.drop 0 = dktX3_exchange_0 := by decide +kernel
theorem dksX3_exchange_1 : cX3_exchange.data.toList.drop 24 = dktX3_exchange_1 := dk_seg dksX3_exchange_0 24 rfl rfl
theorem dX3_exchange_0 : decode cX3_exchange 0 = .ok (.aload_n 0, 1) := dk_42 (dk_at dksX3_exchange_0 0 rfl rfl)
theorem dX3_exchange_1 : decode cX3_exchange 1 = .ok (.getfield 26, 3) := dk_180 0 26 (dk_at dksX3_exchange_0 1 rfl rfl)
theorem dX3_exchange_4 : decode cX3_exchange 4 = .ok (.iload_n 1, 1) := dk_27 (dk_at dksX3_exchange_0 4 rfl rfl)
theorem dX3_exchange_5 : decode cX3_exchange 5 = .ok (.iaload, 1) := dk_46 (dk_at dksX3_exchange_0 5 rfl rfl)
theorem dX3_exchange_6 : decode cX3_exchange 6 = .ok (.istore_n 3, 1) := dk_62 (dk_at dksX3_exchange_0 6 rfl rfl)
theorem dX3_exchange_7 : decode cX3_exchange 7 = .ok (.aload_n 0, 1) := dk_42 (dk_at dksX3_exchange_0 7 rfl rfl)
theorem dX3_exchange_8 : decode cX3_exchange 8 = .ok (.getfield 26, 3) := dk_180 0 26 (dk_at dksX3_exchange_0 8 rfl rfl)
theorem dX3_exchange_11 : decode cX3_exchange 11 = .ok (.iload_n 1, 1) := dk_27 (dk_at dksX3_exchange_0 11 rfl rfl)
theorem dX3_exchange_12 : decode cX3_exchange 12 = .ok (.aload_n 0, 1) := dk_42 (dk_at dksX3_exchange_0 12 rfl rfl)
theorem dX3_exchange_13 : decode cX3_exchange 13 = .ok (.getfield 26, 3) := dk_180 0 26 (dk_at dksX3_exchange_0 13 rfl rfl)
theorem dX3_exchange_16 : decode cX3_exchange 16 = .ok (.iload_n 2, 1) := dk_28 (dk_at dksX3_exchange_0 16 rfl rfl)
theorem dX3_exchange_17 : decode cX3_exchange 17 = .ok (.iaload, 1) := dk_46 (dk_at dksX3_exchange_0 17 rfl rfl)
theorem dX3_exchange_18 : decode cX3_exchange 18 = .ok (.iastore, 1) := dk_79 (dk_at dksX3_exchange_0 18 rfl rfl)
theorem dX3_exchange_19 : decode cX3_exchange 19 = .ok (.aload_n 0, 1) := dk_42 (dk_at dksX3_exchange_0 19 rfl rfl)
theorem dX3_exchange_20 : decode cX3_exchange 20 = .ok (.getfield 26, 3) := dk_180 0 26 (dk_at dksX3_exchange_0 20 rfl rfl)
theorem dX3_exchange_23 : decode cX3_exchange 23 = .ok (.iload_n 2, 1) := dk_28 (dk_at dksX3_exchange_0 23 rfl rfl)
theorem dX3_exchange_24 : decode cX3_exchange 24 = .ok (.iload_n 3, 1) := dk_29 (dk_at dksX3_exchange_1 0 rfl rfl)
theorem dX3_exchange_25 : decode cX3_exchange 25 = .ok (.iastore, 1) := dk_79 (dk_at dksX3_exchange_1 1 rfl rfl)
theorem dX3_exchange_26 : decode cX3_exchange 26 = .ok (.return_, 1) := dk_177 (dk_at dksX3_exchange_1 2 rfl rfl)
abbrev cX3_orbits : ByteArray := prog_15_method_46_code
def yX3_orbits : MethodName := ⟨RX3, "orbits", "()I"⟩
def dkwX3_orbits_1 : List UInt8 := [184, 0, 240, 28, 160, 0, 7, 4, 167, 0, 4, 3, 96, 60, 132, 2, 1, 167, 255, 224, 27, 172]
abbrev dktX3_orbits_1 : List UInt8 := dkwX3_orbits_1 ++ []
def dkwX3_orbits_0 : List UInt8 := [42, 182, 1, 7, 60, 3, 60, 3, 61, 28, 42, 182, 0, 222, 162, 0, 30, 27, 42, 180, 0, 32, 28, 46]
abbrev dktX3_orbits_0 : List UInt8 := dkwX3_orbits_0 ++ dktX3_orbits_1
theorem dksX3_orbits_0 : cX3_orbits.data.toList.drop 0 = dktX3_orbits_0 := by decide +kernel
theorem dksX3_orbits_1 : cX3_orbits.data.toList.drop 24 = dktX3_orbits_1 := dk_seg dksX3_orbits_0 24 rfl rfl
theorem dX3_orbits_0 : decode cX3_orbits 0 = .ok (.aload_n 0, 1) := dk_42 (dk_at dksX3_orbits_0 0 rfl rfl)
theorem dX3_orbits_1 : decode cX3_orbits 1 = .ok (.invokevirtual 263, 3) := dk_182 1 7 (dk_at dksX3_orbits_0 1 rfl rfl)
theorem dX3_orbits_4 : decode cX3_orbits 4 = .ok (.istore_n 1, 1) := dk_60 (dk_at dksX3_orbits_0 4 rfl rfl)
theorem dX3_orbits_5 : decode cX3_orbits 5 = .ok (.iconst 0, 1) := dk_3 (dk_at dksX3_orbits_0 5 rfl rfl)
theorem dX3_orbits_6 : decode cX3_orbits 6 = .ok (.istore_n 1, 1) := dk_60 (dk_at dksX3_orbits_0 6 rfl rfl)
theorem dX3_orbits_7 : decode cX3_orbits 7 = .ok (.iconst 0, 1) := dk_3 (dk_at dksX3_orbits_0 7 rfl rfl)
theorem dX3_orbits_8 : decode cX3_orbits 8 = .ok (.istore_n 2, 1) := dk_61 (dk_at dksX3_orbits_0 8 rfl rfl)
theorem dX3_orbits_9 : decode cX3_orbits 9 = .ok (.iload_n 2, 1) := dk_28 (dk_at dksX3_orbits_0 9 rfl rfl)
theorem dX3_orbits_10 : decode cX3_orbits 10 = .ok (.aload_n 0, 1) := dk_42 (dk_at dksX3_orbits_0 10 rfl rfl)
theorem dX3_orbits_11 : decode cX3_orbits 11 = .ok (.invokevirtual 222, 3) := dk_182 0 222 (dk_at dksX3_orbits_0 11 rfl rfl)
theorem dX3_orbits_14 : decode cX3_orbits 14 = .ok (.if_icmp .ge 30, 3) := dk_162 0 30 (dk_at dksX3_orbits_0 14 rfl rfl)
theorem dX3_orbits_17 : decode cX3_orbits 17 = .ok (.iload_n 1, 1) := dk_27 (dk_at dksX3_orbits_0 17 rfl rfl)
theorem dX3_orbits_18 : decode cX3_orbits 18 = .ok (.aload_n 0, 1) := dk_42 (dk_at dksX3_orbits_0 18 rfl rfl)
theorem dX3_orbits_19 : decode cX3_orbits 19 = .ok (.getfield 32, 3) := dk_180 0 32 (dk_at dksX3_orbits_0 19 rfl rfl)
theorem dX3_orbits_22 : decode cX3_orbits 22 = .ok (.iload_n 2, 1) := dk_28 (dk_at dksX3_orbits_0 22 rfl rfl)
theorem dX3_orbits_23 : decode cX3_orbits 23 = .ok (.iaload, 1) := dk_46 (dk_at dksX3_orbits_0 23 rfl rfl)
theorem dX3_orbits_24 : decode cX3_orbits 24 = .ok (.invokestatic 240, 3) := dk_184 0 240 (dk_at dksX3_orbits_1 0 rfl rfl)
theorem dX3_orbits_27 : decode cX3_orbits 27 = .ok (.iload_n 2, 1) := dk_28 (dk_at dksX3_orbits_1 3 rfl rfl)
theorem dX3_orbits_28 : decode cX3_orbits 28 = .ok (.if_icmp .ne 7, 3) := dk_160 0 7 (dk_at dksX3_orbits_1 4 rfl rfl)
theorem dX3_orbits_31 : decode cX3_orbits 31 = .ok (.iconst 1, 1) := dk_4 (dk_at dksX3_orbits_1 7 rfl rfl)
theorem dX3_orbits_32 : decode cX3_orbits 32 = .ok (.goto 4, 3) := dk_167 0 4 (dk_at dksX3_orbits_1 8 rfl rfl)
theorem dX3_orbits_35 : decode cX3_orbits 35 = .ok (.iconst 0, 1) := dk_3 (dk_at dksX3_orbits_1 11 rfl rfl)
theorem dX3_orbits_36 : decode cX3_orbits 36 = .ok (.iadd, 1) := dk_96 (dk_at dksX3_orbits_1 12 rfl rfl)
theorem dX3_orbits_37 : decode cX3_orbits 37 = .ok (.istore_n 1, 1) := dk_60 (dk_at dksX3_orbits_1 13 rfl rfl)
theorem dX3_orbits_38 : decode cX3_orbits 38 = .ok (.iinc 2 1, 3) := dk_132 2 1 (dk_at dksX3_orbits_1 14 rfl rfl)
theorem dX3_orbits_41 : decode cX3_orbits 41 = .ok (.goto (-32), 3) := dk_167 255 224 (dk_at dksX3_orbits_1 17 rfl rfl)
theorem dX3_orbits_44 : decode cX3_orbits 44 = .ok (.iload_n 1, 1) := dk_27 (dk_at dksX3_orbits_1 20 rfl rfl)
theorem dX3_orbits_45 : decode cX3_orbits 45 = .ok (.ireturn, 1) := dk_172 (dk_at dksX3_orbits_1 21 rfl rfl)
abbrev cX3_dualities : ByteArray := prog_15_method_50_code
def yX3_dualities : MethodName := ⟨RX3, "dualities", "(Z)I"⟩
def dkwX3_dualities_4 : List UInt8 := [167, 255, 217, 28, 172]
abbrev dktX3_dualities_4 : List UInt8 := dkwX3_dualities_4 ++ []
def dkwX3_dualities_3 : List UInt8 := [42, 182, 1, 13, 153, 0, 7, 4, 167, 0, 4, 3, 96, 61, 42, 42, 182, 0, 222, 182, 1, 4, 62]
abbrev dktX3_dualities_3 : List UInt8 := dkwX3_dualities_3 ++ dktX3_dualities_4
def dkwX3_dualities_2 : List UInt8 := [182, 0, 222, 182, 0, 253, 4, 62, 29, 153, 0, 41, 28, 42, 182, 1, 10, 153, 0, 18, 27, 153, 0, 10]
abbrev dktX3_dualities_2 : List UInt8 := dkwX3_dualities_2 ++ dktX3_dualities_3
def dkwX3_dualities_1 : List UInt8 := [162, 0, 20, 42, 180, 0, 38, 29, 42, 29, 182, 0, 228, 79, 132, 3, 1, 167, 255, 234, 42, 42]
abbrev dktX3_dualities_1 : List UInt8 := dkwX3_dualities_1 ++ dktX3_dualities_2
def dkwX3_dualities_0 : List UInt8 := [42, 182, 0, 222, 42, 182, 0, 213, 159, 0, 5, 3, 172, 3, 61, 3, 62, 29, 42, 182, 0, 222]
abbrev dktX3_dualities_0 : List UInt8 := dkwX3_dualities_0 ++ dktX3_dualities_1
theorem dksX3_dualities_0 : cX3_dualities.data.toList.drop 0 = dktX3_dualities_0 := by decide +kernel
theorem dksX3_dualities_1 : cX3_dualities.data.toList.drop 22 = dktX3_dualities_1 := dk_seg dksX3_dualities_0 22 rfl rfl
theorem dksX3_dualities_2 : cX3_dualities.data.toList.drop 44 = dktX3_dualities_2 := dk_seg dksX3_dualities_1 22 rfl rfl
theorem dksX3_dualities_3 : cX3_dualities.data.toList.drop 68 = dktX3_dualities_3 := dk_seg dksX3_dualities_2 24 rfl rfl
theorem dksX3_dualities_4 : cX3_dualities.data.toList.drop 91 = dktX3_dualities_4 := dk_seg dksX3_dualities_3 23 rfl rfl
theorem dX3_dualities_0 : decode cX3_dualities 0 = .ok (.aload_n 0, 1) := dk_42 (dk_at dksX3_dualities_0 0 rfl rfl)
theorem dX3_dualities_1 : decode cX3_dualities 1 = .ok (.invokevirtual 222, 3) := dk_182 0 222 (dk_at dksX3_dualities_0 1 rfl rfl)
theorem dX3_dualities_4 : decode cX3_dualities 4 = .ok (.aload_n 0, 1) := dk_42 (dk_at dksX3_dualities_0 4 rfl rfl)
theorem dX3_dualities_5 : decode cX3_dualities 5 = .ok (.invokevirtual 213, 3) := dk_182 0 213 (dk_at dksX3_dualities_0 5 rfl rfl)
theorem dX3_dualities_8 : decode cX3_dualities 8 = .ok (.if_icmp .eq 5, 3) := dk_159 0 5 (dk_at dksX3_dualities_0 8 rfl rfl)
theorem dX3_dualities_11 : decode cX3_dualities 11 = .ok (.iconst 0, 1) := dk_3 (dk_at dksX3_dualities_0 11 rfl rfl)
theorem dX3_dualities_12 : decode cX3_dualities 12 = .ok (.ireturn, 1) := dk_172 (dk_at dksX3_dualities_0 12 rfl rfl)
theorem dX3_dualities_13 : decode cX3_dualities 13 = .ok (.iconst 0, 1) := dk_3 (dk_at dksX3_dualities_0 13 rfl rfl)
theorem dX3_dualities_14 : decode cX3_dualities 14 = .ok (.istore_n 2, 1) := dk_61 (dk_at dksX3_dualities_0 14 rfl rfl)
theorem dX3_dualities_15 : decode cX3_dualities 15 = .ok (.iconst 0, 1) := dk_3 (dk_at dksX3_dualities_0 15 rfl rfl)
theorem dX3_dualities_16 : decode cX3_dualities 16 = .ok (.istore_n 3, 1) := dk_62 (dk_at dksX3_dualities_0 16 rfl rfl)
theorem dX3_dualities_17 : decode cX3_dualities 17 = .ok (.iload_n 3, 1) := dk_29 (dk_at dksX3_dualities_0 17 rfl rfl)
theorem dX3_dualities_18 : decode cX3_dualities 18 = .ok (.aload_n 0, 1) := dk_42 (dk_at dksX3_dualities_0 18 rfl rfl)
theorem dX3_dualities_19 : decode cX3_dualities 19 = .ok (.invokevirtual 222, 3) := dk_182 0 222 (dk_at dksX3_dualities_0 19 rfl rfl)
theorem dX3_dualities_22 : decode cX3_dualities 22 = .ok (.if_icmp .ge 20, 3) := dk_162 0 20 (dk_at dksX3_dualities_1 0 rfl rfl)
theorem dX3_dualities_25 : decode cX3_dualities 25 = .ok (.aload_n 0, 1) := dk_42 (dk_at dksX3_dualities_1 3 rfl rfl)
theorem dX3_dualities_26 : decode cX3_dualities 26 = .ok (.getfield 38, 3) := dk_180 0 38 (dk_at dksX3_dualities_1 4 rfl rfl)
theorem dX3_dualities_29 : decode cX3_dualities 29 = .ok (.iload_n 3, 1) := dk_29 (dk_at dksX3_dualities_1 7 rfl rfl)
theorem dX3_dualities_30 : decode cX3_dualities 30 = .ok (.aload_n 0, 1) := dk_42 (dk_at dksX3_dualities_1 8 rfl rfl)
theorem dX3_dualities_31 : decode cX3_dualities 31 = .ok (.iload_n 3, 1) := dk_29 (dk_at dksX3_dualities_1 9 rfl rfl)
theorem dX3_dualities_32 : decode cX3_dualities 32 = .ok (.invokevirtual 228, 3) := dk_182 0 228 (dk_at dksX3_dualities_1 10 rfl rfl)
theorem dX3_dualities_35 : decode cX3_dualities 35 = .ok (.iastore, 1) := dk_79 (dk_at dksX3_dualities_1 13 rfl rfl)
theorem dX3_dualities_36 : decode cX3_dualities 36 = .ok (.iinc 3 1, 3) := dk_132 3 1 (dk_at dksX3_dualities_1 14 rfl rfl)
theorem dX3_dualities_39 : decode cX3_dualities 39 = .ok (.goto (-22), 3) := dk_167 255 234 (dk_at dksX3_dualities_1 17 rfl rfl)
theorem dX3_dualities_42 : decode cX3_dualities 42 = .ok (.aload_n 0, 1) := dk_42 (dk_at dksX3_dualities_1 20 rfl rfl)
theorem dX3_dualities_43 : decode cX3_dualities 43 = .ok (.aload_n 0, 1) := dk_42 (dk_at dksX3_dualities_1 21 rfl rfl)
theorem dX3_dualities_44 : decode cX3_dualities 44 = .ok (.invokevirtual 222, 3) := dk_182 0 222 (dk_at dksX3_dualities_2 0 rfl rfl)
theorem dX3_dualities_47 : decode cX3_dualities 47 = .ok (.invokevirtual 253, 3) := dk_182 0 253 (dk_at dksX3_dualities_2 3 rfl rfl)
theorem dX3_dualities_50 : decode cX3_dualities 50 = .ok (.iconst 1, 1) := dk_4 (dk_at dksX3_dualities_2 6 rfl rfl)
theorem dX3_dualities_51 : decode cX3_dualities 51 = .ok (.istore_n 3, 1) := dk_62 (dk_at dksX3_dualities_2 7 rfl rfl)
theorem dX3_dualities_52 : decode cX3_dualities 52 = .ok (.iload_n 3, 1) := dk_29 (dk_at dksX3_dualities_2 8 rfl rfl)
theorem dX3_dualities_53 : decode cX3_dualities 53 = .ok (.ifCond .eq 41, 3) := dk_153 0 41 (dk_at dksX3_dualities_2 9 rfl rfl)
theorem dX3_dualities_56 : decode cX3_dualities 56 = .ok (.iload_n 2, 1) := dk_28 (dk_at dksX3_dualities_2 12 rfl rfl)
theorem dX3_dualities_57 : decode cX3_dualities 57 = .ok (.aload_n 0, 1) := dk_42 (dk_at dksX3_dualities_2 13 rfl rfl)
theorem dX3_dualities_58 : decode cX3_dualities 58 = .ok (.invokevirtual 266, 3) := dk_182 1 10 (dk_at dksX3_dualities_2 14 rfl rfl)
theorem dX3_dualities_61 : decode cX3_dualities 61 = .ok (.ifCond .eq 18, 3) := dk_153 0 18 (dk_at dksX3_dualities_2 17 rfl rfl)
theorem dX3_dualities_64 : decode cX3_dualities 64 = .ok (.iload_n 1, 1) := dk_27 (dk_at dksX3_dualities_2 20 rfl rfl)
theorem dX3_dualities_65 : decode cX3_dualities 65 = .ok (.ifCond .eq 10, 3) := dk_153 0 10 (dk_at dksX3_dualities_2 21 rfl rfl)
theorem dX3_dualities_68 : decode cX3_dualities 68 = .ok (.aload_n 0, 1) := dk_42 (dk_at dksX3_dualities_3 0 rfl rfl)
theorem dX3_dualities_69 : decode cX3_dualities 69 = .ok (.invokevirtual 269, 3) := dk_182 1 13 (dk_at dksX3_dualities_3 1 rfl rfl)
theorem dX3_dualities_72 : decode cX3_dualities 72 = .ok (.ifCond .eq 7, 3) := dk_153 0 7 (dk_at dksX3_dualities_3 4 rfl rfl)
theorem dX3_dualities_75 : decode cX3_dualities 75 = .ok (.iconst 1, 1) := dk_4 (dk_at dksX3_dualities_3 7 rfl rfl)
theorem dX3_dualities_76 : decode cX3_dualities 76 = .ok (.goto 4, 3) := dk_167 0 4 (dk_at dksX3_dualities_3 8 rfl rfl)
theorem dX3_dualities_79 : decode cX3_dualities 79 = .ok (.iconst 0, 1) := dk_3 (dk_at dksX3_dualities_3 11 rfl rfl)
theorem dX3_dualities_80 : decode cX3_dualities 80 = .ok (.iadd, 1) := dk_96 (dk_at dksX3_dualities_3 12 rfl rfl)
theorem dX3_dualities_81 : decode cX3_dualities 81 = .ok (.istore_n 2, 1) := dk_61 (dk_at dksX3_dualities_3 13 rfl rfl)
theorem dX3_dualities_82 : decode cX3_dualities 82 = .ok (.aload_n 0, 1) := dk_42 (dk_at dksX3_dualities_3 14 rfl rfl)
theorem dX3_dualities_83 : decode cX3_dualities 83 = .ok (.aload_n 0, 1) := dk_42 (dk_at dksX3_dualities_3 15 rfl rfl)
theorem dX3_dualities_84 : decode cX3_dualities 84 = .ok (.invokevirtual 222, 3) := dk_182 0 222 (dk_at dksX3_dualities_3 16 rfl rfl)
theorem dX3_dualities_87 : decode cX3_dualities 87 = .ok (.invokevirtual 260, 3) := dk_182 1 4 (dk_at dksX3_dualities_3 19 rfl rfl)
theorem dX3_dualities_90 : decode cX3_dualities 90 = .ok (.istore_n 3, 1) := dk_62 (dk_at dksX3_dualities_3 22 rfl rfl)
theorem dX3_dualities_91 : decode cX3_dualities 91 = .ok (.goto (-39), 3) := dk_167 255 217 (dk_at dksX3_dualities_4 0 rfl rfl)
theorem dX3_dualities_94 : decode cX3_dualities 94 = .ok (.iload_n 2, 1) := dk_28 (dk_at dksX3_dualities_4 3 rfl rfl)
theorem dX3_dualities_95 : decode cX3_dualities 95 = .ok (.ireturn, 1) := dk_172 (dk_at dksX3_dualities_4 4 rfl rfl)
abbrev cX3_isDuality : ByteArray := prog_15_method_48_code
def yX3_isDuality : MethodName := ⟨RX3, "isDuality", "()Z"⟩
def dkwX3_isDuality_4 : List UInt8 := [167, 255, 169, 4, 172]
abbrev dktX3_isDuality_4 : List UInt8 := dkwX3_isDuality_4 ++ []
def dkwX3_isDuality_3 : List UInt8 := [27, 21, 4, 122, 4, 126, 4, 160, 0, 5, 3, 172, 27, 4, 21, 4, 120, 128, 60, 132, 2, 1]
abbrev dktX3_isDuality_3 : List UInt8 := dkwX3_isDuality_3 ++ dktX3_isDuality_4
def dkwX3_isDuality_2 : List UInt8 := [160, 0, 8, 21, 5, 167, 0, 5, 21, 4, 54, 4, 132, 5, 1, 167, 255, 224, 21, 4, 2, 159, 0, 13]
abbrev dktX3_isDuality_2 : List UInt8 := dkwX3_isDuality_2 ++ dktX3_isDuality_3
def dkwX3_isDuality_1 : List UInt8 := [54, 4, 3, 54, 5, 21, 5, 42, 182, 0, 222, 162, 0, 29, 42, 180, 0, 38, 21, 5, 46, 29]
abbrev dktX3_isDuality_1 : List UInt8 := dkwX3_isDuality_1 ++ dktX3_isDuality_2
def dkwX3_isDuality_0 : List UInt8 := [3, 60, 3, 61, 28, 42, 182, 0, 213, 162, 0, 85, 42, 42, 28, 182, 0, 216, 182, 0, 247, 62, 2]
abbrev dktX3_isDuality_0 : List UInt8 := dkwX3_isDuality_0 ++ dktX3_isDuality_1
theorem dksX3_isDuality_0 : cX3_isDuality.data.toList.drop 0 = dktX3_isDuality_0 := by decide +kernel
theorem dksX3_isDuality_1 : cX3_isDuality.data.toList.drop 23 = dktX3_isDuality_1 := dk_seg dksX3_isDuality_0 23 rfl rfl
theorem dksX3_isDuality_2 : cX3_isDuality.data.toList.drop 45 = dktX3_isDuality_2 := dk_seg dksX3_isDuality_1 22 rfl rfl
theorem dksX3_isDuality_3 : cX3_isDuality.data.toList.drop 69 = dktX3_isDuality_3 := dk_seg dksX3_isDuality_2 24 rfl rfl
theorem dksX3_isDuality_4 : cX3_isDuality.data.toList.drop 91 = dktX3_isDuality_4 := dk_seg dksX3_isDuality_3 22 rfl rfl
theorem dX3_isDuality_0 : decode cX3_isDuality 0 = .ok (.iconst 0, 1) := dk_3 (dk_at dksX3_isDuality_0 0 rfl rfl)
theorem dX3_isDuality_1 : decode cX3_isDuality 1 = .ok (.istore_n 1, 1) := dk_60 (dk_at dksX3_isDuality_0 1 rfl rfl)
theorem dX3_isDuality_2 : decode cX3_isDuality 2 = .ok (.iconst 0, 1) := dk_3 (dk_at dksX3_isDuality_0 2 rfl rfl)
theorem dX3_isDuality_3 : decode cX3_isDuality 3 = .ok (.istore_n 2, 1) := dk_61 (dk_at dksX3_isDuality_0 3 rfl rfl)
theorem dX3_isDuality_4 : decode cX3_isDuality 4 = .ok (.iload_n 2, 1) := dk_28 (dk_at dksX3_isDuality_0 4 rfl rfl)
theorem dX3_isDuality_5 : decode cX3_isDuality 5 = .ok (.aload_n 0, 1) := dk_42 (dk_at dksX3_isDuality_0 5 rfl rfl)
theorem dX3_isDuality_6 : decode cX3_isDuality 6 = .ok (.invokevirtual 213, 3) := dk_182 0 213 (dk_at dksX3_isDuality_0 6 rfl rfl)
theorem dX3_isDuality_9 : decode cX3_isDuality 9 = .ok (.if_icmp .ge 85, 3) := dk_162 0 85 (dk_at dksX3_isDuality_0 9 rfl rfl)
theorem dX3_isDuality_12 : decode cX3_isDuality 12 = .ok (.aload_n 0, 1) := dk_42 (dk_at dksX3_isDuality_0 12 rfl rfl)
theorem dX3_isDuality_13 : decode cX3_isDuality 13 = .ok (.aload_n 0, 1) := dk_42 (dk_at dksX3_isDuality_0 13 rfl rfl)
theorem dX3_isDuality_14 : decode cX3_isDuality 14 = .ok (.iload_n 2, 1) := dk_28 (dk_at dksX3_isDuality_0 14 rfl rfl)
theorem dX3_isDuality_15 : decode cX3_isDuality 15 = .ok (.invokevirtual 216, 3) := dk_182 0 216 (dk_at dksX3_isDuality_0 15 rfl rfl)
theorem dX3_isDuality_18 : decode cX3_isDuality 18 = .ok (.invokevirtual 247, 3) := dk_182 0 247 (dk_at dksX3_isDuality_0 18 rfl rfl)
theorem dX3_isDuality_21 : decode cX3_isDuality 21 = .ok (.istore_n 3, 1) := dk_62 (dk_at dksX3_isDuality_0 21 rfl rfl)
theorem dX3_isDuality_22 : decode cX3_isDuality 22 = .ok (.iconst (-1), 1) := dk_2 (dk_at dksX3_isDuality_0 22 rfl rfl)
theorem dX3_isDuality_23 : decode cX3_isDuality 23 = .ok (.istore 4, 2) := dk_54 4 (dk_at dksX3_isDuality_1 0 rfl rfl)
theorem dX3_isDuality_25 : decode cX3_isDuality 25 = .ok (.iconst 0, 1) := dk_3 (dk_at dksX3_isDuality_1 2 rfl rfl)
theorem dX3_isDuality_26 : decode cX3_isDuality 26 = .ok (.istore 5, 2) := dk_54 5 (dk_at dksX3_isDuality_1 3 rfl rfl)
theorem dX3_isDuality_28 : decode cX3_isDuality 28 = .ok (.iload 5, 2) := dk_21 5 (dk_at dksX3_isDuality_1 5 rfl rfl)
theorem dX3_isDuality_30 : decode cX3_isDuality 30 = .ok (.aload_n 0, 1) := dk_42 (dk_at dksX3_isDuality_1 7 rfl rfl)
theorem dX3_isDuality_31 : decode cX3_isDuality 31 = .ok (.invokevirtual 222, 3) := dk_182 0 222 (dk_at dksX3_isDuality_1 8 rfl rfl)
theorem dX3_isDuality_34 : decode cX3_isDuality 34 = .ok (.if_icmp .ge 29, 3) := dk_162 0 29 (dk_at dksX3_isDuality_1 11 rfl rfl)
theorem dX3_isDuality_37 : decode cX3_isDuality 37 = .ok (.aload_n 0, 1) := dk_42 (dk_at dksX3_isDuality_1 14 rfl rfl)
theorem dX3_isDuality_38 : decode cX3_isDuality 38 = .ok (.getfield 38, 3) := dk_180 0 38 (dk_at dksX3_isDuality_1 15 rfl rfl)
theorem dX3_isDuality_41 : decode cX3_isDuality 41 = .ok (.iload 5, 2) := dk_21 5 (dk_at dksX3_isDuality_1 18 rfl rfl)
theorem dX3_isDuality_43 : decode cX3_isDuality 43 = .ok (.iaload, 1) := dk_46 (dk_at dksX3_isDuality_1 20 rfl rfl)
theorem dX3_isDuality_44 : decode cX3_isDuality 44 = .ok (.iload_n 3, 1) := dk_29 (dk_at dksX3_isDuality_1 21 rfl rfl)
theorem dX3_isDuality_45 : decode cX3_isDuality 45 = .ok (.if_icmp .ne 8, 3) := dk_160 0 8 (dk_at dksX3_isDuality_2 0 rfl rfl)
theorem dX3_isDuality_48 : decode cX3_isDuality 48 = .ok (.iload 5, 2) := dk_21 5 (dk_at dksX3_isDuality_2 3 rfl rfl)
theorem dX3_isDuality_50 : decode cX3_isDuality 50 = .ok (.goto 5, 3) := dk_167 0 5 (dk_at dksX3_isDuality_2 5 rfl rfl)
theorem dX3_isDuality_53 : decode cX3_isDuality 53 = .ok (.iload 4, 2) := dk_21 4 (dk_at dksX3_isDuality_2 8 rfl rfl)
theorem dX3_isDuality_55 : decode cX3_isDuality 55 = .ok (.istore 4, 2) := dk_54 4 (dk_at dksX3_isDuality_2 10 rfl rfl)
theorem dX3_isDuality_57 : decode cX3_isDuality 57 = .ok (.iinc 5 1, 3) := dk_132 5 1 (dk_at dksX3_isDuality_2 12 rfl rfl)
theorem dX3_isDuality_60 : decode cX3_isDuality 60 = .ok (.goto (-32), 3) := dk_167 255 224 (dk_at dksX3_isDuality_2 15 rfl rfl)
theorem dX3_isDuality_63 : decode cX3_isDuality 63 = .ok (.iload 4, 2) := dk_21 4 (dk_at dksX3_isDuality_2 18 rfl rfl)
theorem dX3_isDuality_65 : decode cX3_isDuality 65 = .ok (.iconst (-1), 1) := dk_2 (dk_at dksX3_isDuality_2 20 rfl rfl)
theorem dX3_isDuality_66 : decode cX3_isDuality 66 = .ok (.if_icmp .eq 13, 3) := dk_159 0 13 (dk_at dksX3_isDuality_2 21 rfl rfl)
theorem dX3_isDuality_69 : decode cX3_isDuality 69 = .ok (.iload_n 1, 1) := dk_27 (dk_at dksX3_isDuality_3 0 rfl rfl)
theorem dX3_isDuality_70 : decode cX3_isDuality 70 = .ok (.iload 4, 2) := dk_21 4 (dk_at dksX3_isDuality_3 1 rfl rfl)
theorem dX3_isDuality_72 : decode cX3_isDuality 72 = .ok (.ishr, 1) := dk_122 (dk_at dksX3_isDuality_3 3 rfl rfl)
theorem dX3_isDuality_73 : decode cX3_isDuality 73 = .ok (.iconst 1, 1) := dk_4 (dk_at dksX3_isDuality_3 4 rfl rfl)
theorem dX3_isDuality_74 : decode cX3_isDuality 74 = .ok (.iand, 1) := dk_126 (dk_at dksX3_isDuality_3 5 rfl rfl)
theorem dX3_isDuality_75 : decode cX3_isDuality 75 = .ok (.iconst 1, 1) := dk_4 (dk_at dksX3_isDuality_3 6 rfl rfl)
theorem dX3_isDuality_76 : decode cX3_isDuality 76 = .ok (.if_icmp .ne 5, 3) := dk_160 0 5 (dk_at dksX3_isDuality_3 7 rfl rfl)
theorem dX3_isDuality_79 : decode cX3_isDuality 79 = .ok (.iconst 0, 1) := dk_3 (dk_at dksX3_isDuality_3 10 rfl rfl)
theorem dX3_isDuality_80 : decode cX3_isDuality 80 = .ok (.ireturn, 1) := dk_172 (dk_at dksX3_isDuality_3 11 rfl rfl)
theorem dX3_isDuality_81 : decode cX3_isDuality 81 = .ok (.iload_n 1, 1) := dk_27 (dk_at dksX3_isDuality_3 12 rfl rfl)
theorem dX3_isDuality_82 : decode cX3_isDuality 82 = .ok (.iconst 1, 1) := dk_4 (dk_at dksX3_isDuality_3 13 rfl rfl)
theorem dX3_isDuality_83 : decode cX3_isDuality 83 = .ok (.iload 4, 2) := dk_21 4 (dk_at dksX3_isDuality_3 14 rfl rfl)
theorem dX3_isDuality_85 : decode cX3_isDuality 85 = .ok (.ishl, 1) := dk_120 (dk_at dksX3_isDuality_3 16 rfl rfl)
theorem dX3_isDuality_86 : decode cX3_isDuality 86 = .ok (.ior, 1) := dk_128 (dk_at dksX3_isDuality_3 17 rfl rfl)
theorem dX3_isDuality_87 : decode cX3_isDuality 87 = .ok (.istore_n 1, 1) := dk_60 (dk_at dksX3_isDuality_3 18 rfl rfl)
theorem dX3_isDuality_88 : decode cX3_isDuality 88 = .ok (.iinc 2 1, 3) := dk_132 2 1 (dk_at dksX3_isDuality_3 19 rfl rfl)
theorem dX3_isDuality_91 : decode cX3_isDuality 91 = .ok (.goto (-87), 3) := dk_167 255 169 (dk_at dksX3_isDuality_4 0 rfl rfl)
theorem dX3_isDuality_94 : decode cX3_isDuality 94 = .ok (.iconst 1, 1) := dk_4 (dk_at dksX3_isDuality_4 3 rfl rfl)
theorem dX3_isDuality_95 : decode cX3_isDuality 95 = .ok (.ireturn, 1) := dk_172 (dk_at dksX3_isDuality_4 4 rfl rfl)
abbrev cX3_isPolarity : ByteArray := prog_15_method_49_code
def yX3_isPolarity : MethodName := ⟨RX3, "isPolarity", "()Z"⟩
def dkwX3_isPolarity_2 : List UInt8 := [3, 172, 132, 2, 1, 167, 255, 215, 132, 1, 1, 167, 255, 199, 4, 172]
abbrev dktX3_isPolarity_2 : List UInt8 := dkwX3_isPolarity_2 ++ []
def dkwX3_isPolarity_1 : List UInt8 := [182, 0, 216, 27, 122, 4, 126, 42, 42, 180, 0, 26, 27, 46, 182, 0, 216, 28, 122, 4, 126, 159, 0, 5]
abbrev dktX3_isPolarity_1 : List UInt8 := dkwX3_isPolarity_1 ++ dktX3_isPolarity_2
def dkwX3_isPolarity_0 : List UInt8 := [3, 60, 27, 42, 182, 0, 222, 162, 0, 55, 3, 61, 28, 27, 162, 0, 42, 42, 42, 180, 0, 26, 28, 46]
abbrev dktX3_isPolarity_0 : List UInt8 := dkwX3_isPolarity_0 ++ dktX3_isPolarity_1
theorem dksX3_isPolarity_0 : cX3_isPolarity.data.toList.drop 0 = dktX3_isPolarity_0 := by decide +kernel
theorem dksX3_isPolarity_1 : cX3_isPolarity.data.toList.drop 24 = dktX3_isPolarity_1 := dk_seg dksX3_isPolarity_0 24 rfl rfl
theorem dksX3_isPolarity_2 : cX3_isPolarity.data.toList.drop 48 = dktX3_isPolarity_2 := dk_seg dksX3_isPolarity_1 24 rfl rfl
theorem dX3_isPolarity_0 : decode cX3_isPolarity 0 = .ok (.iconst 0, 1) := dk_3 (dk_at dksX3_isPolarity_0 0 rfl rfl)
theorem dX3_isPolarity_1 : decode cX3_isPolarity 1 = .ok (.istore_n 1, 1) := dk_60 (dk_at dksX3_isPolarity_0 1 rfl rfl)
theorem dX3_isPolarity_2 : decode cX3_isPolarity 2 = .ok (.iload_n 1, 1) := dk_27 (dk_at dksX3_isPolarity_0 2 rfl rfl)
theorem dX3_isPolarity_3 : decode cX3_isPolarity 3 = .ok (.aload_n 0, 1) := dk_42 (dk_at dksX3_isPolarity_0 3 rfl rfl)
theorem dX3_isPolarity_4 : decode cX3_isPolarity 4 = .ok (.invokevirtual 222, 3) := dk_182 0 222 (dk_at dksX3_isPolarity_0 4 rfl rfl)
theorem dX3_isPolarity_7 : decode cX3_isPolarity 7 = .ok (.if_icmp .ge 55, 3) := dk_162 0 55 (dk_at dksX3_isPolarity_0 7 rfl rfl)
theorem dX3_isPolarity_10 : decode cX3_isPolarity 10 = .ok (.iconst 0, 1) := dk_3 (dk_at dksX3_isPolarity_0 10 rfl rfl)
theorem dX3_isPolarity_11 : decode cX3_isPolarity 11 = .ok (.istore_n 2, 1) := dk_61 (dk_at dksX3_isPolarity_0 11 rfl rfl)
theorem dX3_isPolarity_12 : decode cX3_isPolarity 12 = .ok (.iload_n 2, 1) := dk_28 (dk_at dksX3_isPolarity_0 12 rfl rfl)
theorem dX3_isPolarity_13 : decode cX3_isPolarity 13 = .ok (.iload_n 1, 1) := dk_27 (dk_at dksX3_isPolarity_0 13 rfl rfl)
theorem dX3_isPolarity_14 : decode cX3_isPolarity 14 = .ok (.if_icmp .ge 42, 3) := dk_162 0 42 (dk_at dksX3_isPolarity_0 14 rfl rfl)
theorem dX3_isPolarity_17 : decode cX3_isPolarity 17 = .ok (.aload_n 0, 1) := dk_42 (dk_at dksX3_isPolarity_0 17 rfl rfl)
theorem dX3_isPolarity_18 : decode cX3_isPolarity 18 = .ok (.aload_n 0, 1) := dk_42 (dk_at dksX3_isPolarity_0 18 rfl rfl)
theorem dX3_isPolarity_19 : decode cX3_isPolarity 19 = .ok (.getfield 26, 3) := dk_180 0 26 (dk_at dksX3_isPolarity_0 19 rfl rfl)
theorem dX3_isPolarity_22 : decode cX3_isPolarity 22 = .ok (.iload_n 2, 1) := dk_28 (dk_at dksX3_isPolarity_0 22 rfl rfl)
theorem dX3_isPolarity_23 : decode cX3_isPolarity 23 = .ok (.iaload, 1) := dk_46 (dk_at dksX3_isPolarity_0 23 rfl rfl)
theorem dX3_isPolarity_24 : decode cX3_isPolarity 24 = .ok (.invokevirtual 216, 3) := dk_182 0 216 (dk_at dksX3_isPolarity_1 0 rfl rfl)
theorem dX3_isPolarity_27 : decode cX3_isPolarity 27 = .ok (.iload_n 1, 1) := dk_27 (dk_at dksX3_isPolarity_1 3 rfl rfl)
theorem dX3_isPolarity_28 : decode cX3_isPolarity 28 = .ok (.ishr, 1) := dk_122 (dk_at dksX3_isPolarity_1 4 rfl rfl)
theorem dX3_isPolarity_29 : decode cX3_isPolarity 29 = .ok (.iconst 1, 1) := dk_4 (dk_at dksX3_isPolarity_1 5 rfl rfl)
theorem dX3_isPolarity_30 : decode cX3_isPolarity 30 = .ok (.iand, 1) := dk_126 (dk_at dksX3_isPolarity_1 6 rfl rfl)
theorem dX3_isPolarity_31 : decode cX3_isPolarity 31 = .ok (.aload_n 0, 1) := dk_42 (dk_at dksX3_isPolarity_1 7 rfl rfl)
theorem dX3_isPolarity_32 : decode cX3_isPolarity 32 = .ok (.aload_n 0, 1) := dk_42 (dk_at dksX3_isPolarity_1 8 rfl rfl)
theorem dX3_isPolarity_33 : decode cX3_isPolarity 33 = .ok (.getfield 26, 3) := dk_180 0 26 (dk_at dksX3_isPolarity_1 9 rfl rfl)
theorem dX3_isPolarity_36 : decode cX3_isPolarity 36 = .ok (.iload_n 1, 1) := dk_27 (dk_at dksX3_isPolarity_1 12 rfl rfl)
theorem dX3_isPolarity_37 : decode cX3_isPolarity 37 = .ok (.iaload, 1) := dk_46 (dk_at dksX3_isPolarity_1 13 rfl rfl)
theorem dX3_isPolarity_38 : decode cX3_isPolarity 38 = .ok (.invokevirtual 216, 3) := dk_182 0 216 (dk_at dksX3_isPolarity_1 14 rfl rfl)
theorem dX3_isPolarity_41 : decode cX3_isPolarity 41 = .ok (.iload_n 2, 1) := dk_28 (dk_at dksX3_isPolarity_1 17 rfl rfl)
theorem dX3_isPolarity_42 : decode cX3_isPolarity 42 = .ok (.ishr, 1) := dk_122 (dk_at dksX3_isPolarity_1 18 rfl rfl)
theorem dX3_isPolarity_43 : decode cX3_isPolarity 43 = .ok (.iconst 1, 1) := dk_4 (dk_at dksX3_isPolarity_1 19 rfl rfl)
theorem dX3_isPolarity_44 : decode cX3_isPolarity 44 = .ok (.iand, 1) := dk_126 (dk_at dksX3_isPolarity_1 20 rfl rfl)
theorem dX3_isPolarity_45 : decode cX3_isPolarity 45 = .ok (.if_icmp .eq 5, 3) := dk_159 0 5 (dk_at dksX3_isPolarity_1 21 rfl rfl)
theorem dX3_isPolarity_48 : decode cX3_isPolarity 48 = .ok (.iconst 0, 1) := dk_3 (dk_at dksX3_isPolarity_2 0 rfl rfl)
theorem dX3_isPolarity_49 : decode cX3_isPolarity 49 = .ok (.ireturn, 1) := dk_172 (dk_at dksX3_isPolarity_2 1 rfl rfl)
theorem dX3_isPolarity_50 : decode cX3_isPolarity 50 = .ok (.iinc 2 1, 3) := dk_132 2 1 (dk_at dksX3_isPolarity_2 2 rfl rfl)
theorem dX3_isPolarity_53 : decode cX3_isPolarity 53 = .ok (.goto (-41), 3) := dk_167 255 215 (dk_at dksX3_isPolarity_2 5 rfl rfl)
theorem dX3_isPolarity_56 : decode cX3_isPolarity 56 = .ok (.iinc 1 1, 3) := dk_132 1 1 (dk_at dksX3_isPolarity_2 8 rfl rfl)
theorem dX3_isPolarity_59 : decode cX3_isPolarity 59 = .ok (.goto (-57), 3) := dk_167 255 199 (dk_at dksX3_isPolarity_2 11 rfl rfl)
theorem dX3_isPolarity_62 : decode cX3_isPolarity 62 = .ok (.iconst 1, 1) := dk_4 (dk_at dksX3_isPolarity_2 14 rfl rfl)
theorem dX3_isPolarity_63 : decode cX3_isPolarity 63 = .ok (.ireturn, 1) := dk_172 (dk_at dksX3_isPolarity_2 15 rfl rfl)
abbrev cX3_slips : ByteArray := prog_15_method_55_code
def yX3_slips : MethodName := ⟨RX3, "slips", "()I"⟩
def dkwX3_slips_1 : List UInt8 := [167, 0, 4, 3, 96, 60, 132, 2, 1, 167, 255, 229, 27, 172]
abbrev dktX3_slips_1 : List UInt8 := dkwX3_slips_1 ++ []
def dkwX3_slips_0 : List UInt8 := [3, 60, 3, 61, 28, 42, 182, 0, 213, 162, 0, 25, 27, 42, 28, 182, 1, 27, 153, 0, 7, 4]
abbrev dktX3_slips_0 : List UInt8 := dkwX3_slips_0 ++ dktX3_slips_1
theorem dksX3_slips_0 : cX3_slips.data.toList.drop 0 = dktX3_slips_0 := by decide +kernel
theorem dksX3_slips_1 : cX3_slips.data.toList.drop 22 = dktX3_slips_1 := dk_seg dksX3_slips_0 22 rfl rfl
theorem dX3_slips_0 : decode cX3_slips 0 = .ok (.iconst 0, 1) := dk_3 (dk_at dksX3_slips_0 0 rfl rfl)
theorem dX3_slips_1 : decode cX3_slips 1 = .ok (.istore_n 1, 1) := dk_60 (dk_at dksX3_slips_0 1 rfl rfl)
theorem dX3_slips_2 : decode cX3_slips 2 = .ok (.iconst 0, 1) := dk_3 (dk_at dksX3_slips_0 2 rfl rfl)
theorem dX3_slips_3 : decode cX3_slips 3 = .ok (.istore_n 2, 1) := dk_61 (dk_at dksX3_slips_0 3 rfl rfl)
theorem dX3_slips_4 : decode cX3_slips 4 = .ok (.iload_n 2, 1) := dk_28 (dk_at dksX3_slips_0 4 rfl rfl)
theorem dX3_slips_5 : decode cX3_slips 5 = .ok (.aload_n 0, 1) := dk_42 (dk_at dksX3_slips_0 5 rfl rfl)
theorem dX3_slips_6 : decode cX3_slips 6 = .ok (.invokevirtual 213, 3) := dk_182 0 213 (dk_at dksX3_slips_0 6 rfl rfl)
theorem dX3_slips_9 : decode cX3_slips 9 = .ok (.if_icmp .ge 25, 3) := dk_162 0 25 (dk_at dksX3_slips_0 9 rfl rfl)
theorem dX3_slips_12 : decode cX3_slips 12 = .ok (.iload_n 1, 1) := dk_27 (dk_at dksX3_slips_0 12 rfl rfl)
theorem dX3_slips_13 : decode cX3_slips 13 = .ok (.aload_n 0, 1) := dk_42 (dk_at dksX3_slips_0 13 rfl rfl)
theorem dX3_slips_14 : decode cX3_slips 14 = .ok (.iload_n 2, 1) := dk_28 (dk_at dksX3_slips_0 14 rfl rfl)
theorem dX3_slips_15 : decode cX3_slips 15 = .ok (.invokevirtual 283, 3) := dk_182 1 27 (dk_at dksX3_slips_0 15 rfl rfl)
theorem dX3_slips_18 : decode cX3_slips 18 = .ok (.ifCond .eq 7, 3) := dk_153 0 7 (dk_at dksX3_slips_0 18 rfl rfl)
theorem dX3_slips_21 : decode cX3_slips 21 = .ok (.iconst 1, 1) := dk_4 (dk_at dksX3_slips_0 21 rfl rfl)
theorem dX3_slips_22 : decode cX3_slips 22 = .ok (.goto 4, 3) := dk_167 0 4 (dk_at dksX3_slips_1 0 rfl rfl)
theorem dX3_slips_25 : decode cX3_slips 25 = .ok (.iconst 0, 1) := dk_3 (dk_at dksX3_slips_1 3 rfl rfl)
theorem dX3_slips_26 : decode cX3_slips 26 = .ok (.iadd, 1) := dk_96 (dk_at dksX3_slips_1 4 rfl rfl)
theorem dX3_slips_27 : decode cX3_slips 27 = .ok (.istore_n 1, 1) := dk_60 (dk_at dksX3_slips_1 5 rfl rfl)
theorem dX3_slips_28 : decode cX3_slips 28 = .ok (.iinc 2 1, 3) := dk_132 2 1 (dk_at dksX3_slips_1 6 rfl rfl)
theorem dX3_slips_31 : decode cX3_slips 31 = .ok (.goto (-27), 3) := dk_167 255 229 (dk_at dksX3_slips_1 9 rfl rfl)
theorem dX3_slips_34 : decode cX3_slips 34 = .ok (.iload_n 1, 1) := dk_27 (dk_at dksX3_slips_1 12 rfl rfl)
theorem dX3_slips_35 : decode cX3_slips 35 = .ok (.ireturn, 1) := dk_172 (dk_at dksX3_slips_1 13 rfl rfl)
abbrev cX3_doesSlip : ByteArray := prog_15_method_54_code
def yX3_doesSlip : MethodName := ⟨RX3, "doesSlip", "(I)Z"⟩
def dkwX3_doesSlip_4 : List UInt8 := [132, 4, 1, 167, 255, 179, 132, 3, 1, 167, 255, 162, 3, 172]
abbrev dktX3_doesSlip_4 : List UInt8 := dkwX3_doesSlip_4 ++ []
def dkwX3_doesSlip_3 : List UInt8 := [4, 160, 0, 17, 42, 29, 21, 4, 21, 5, 182, 1, 23, 154, 0, 5, 4, 172, 132, 5, 1, 167, 255, 222]
abbrev dktX3_doesSlip_3 : List UInt8 := dkwX3_doesSlip_3 ++ dktX3_doesSlip_4
def dkwX3_doesSlip_2 : List UInt8 := [182, 1, 20, 153, 0, 5, 4, 172, 3, 54, 5, 21, 5, 21, 4, 162, 0, 33, 28, 21, 5, 122, 4, 126]
abbrev dktX3_doesSlip_2 : List UInt8 := dkwX3_doesSlip_2 ++ dktX3_doesSlip_3
def dkwX3_doesSlip_1 : List UInt8 := [162, 0, 77, 28, 29, 122, 28, 21, 4, 122, 126, 4, 126, 154, 0, 6, 167, 0, 55, 42, 29, 21, 4]
abbrev dktX3_doesSlip_1 : List UInt8 := dkwX3_doesSlip_1 ++ dktX3_doesSlip_2
def dkwX3_doesSlip_0 : List UInt8 := [42, 27, 182, 0, 216, 61, 3, 62, 29, 42, 182, 0, 222, 162, 0, 92, 3, 54, 4, 21, 4, 29]
abbrev dktX3_doesSlip_0 : List UInt8 := dkwX3_doesSlip_0 ++ dktX3_doesSlip_1
theorem dksX3_doesSlip_0 : cX3_doesSlip.data.toList.drop 0 = dktX3_doesSlip_0 := by decide +kernel
theorem dksX3_doesSlip_1 : cX3_doesSlip.data.toList.drop 22 = dktX3_doesSlip_1 := dk_seg dksX3_doesSlip_0 22 rfl rfl
theorem dksX3_doesSlip_2 : cX3_doesSlip.data.toList.drop 45 = dktX3_doesSlip_2 := dk_seg dksX3_doesSlip_1 23 rfl rfl
theorem dksX3_doesSlip_3 : cX3_doesSlip.data.toList.drop 69 = dktX3_doesSlip_3 := dk_seg dksX3_doesSlip_2 24 rfl rfl
theorem dksX3_doesSlip_4 : cX3_doesSlip.data.toList.drop 93 = dktX3_doesSlip_4 := dk_seg dksX3_doesSlip_3 24 rfl rfl
theorem dX3_doesSlip_0 : decode cX3_doesSlip 0 = .ok (.aload_n 0, 1) := dk_42 (dk_at dksX3_doesSlip_0 0 rfl rfl)
theorem dX3_doesSlip_1 : decode cX3_doesSlip 1 = .ok (.iload_n 1, 1) := dk_27 (dk_at dksX3_doesSlip_0 1 rfl rfl)
theorem dX3_doesSlip_2 : decode cX3_doesSlip 2 = .ok (.invokevirtual 216, 3) := dk_182 0 216 (dk_at dksX3_doesSlip_0 2 rfl rfl)
theorem dX3_doesSlip_5 : decode cX3_doesSlip 5 = .ok (.istore_n 2, 1) := dk_61 (dk_at dksX3_doesSlip_0 5 rfl rfl)
theorem dX3_doesSlip_6 : decode cX3_doesSlip 6 = .ok (.iconst 0, 1) := dk_3 (dk_at dksX3_doesSlip_0 6 rfl rfl)
theorem dX3_doesSlip_7 : decode cX3_doesSlip 7 = .ok (.istore_n 3, 1) := dk_62 (dk_at dksX3_doesSlip_0 7 rfl rfl)
theorem dX3_doesSlip_8 : decode cX3_doesSlip 8 = .ok (.iload_n 3, 1) := dk_29 (dk_at dksX3_doesSlip_0 8 rfl rfl)
theorem dX3_doesSlip_9 : decode cX3_doesSlip 9 = .ok (.aload_n 0, 1) := dk_42 (dk_at dksX3_doesSlip_0 9 rfl rfl)
theorem dX3_doesSlip_10 : decode cX3_doesSlip 10 = .ok (.invokevirtual 222, 3) := dk_182 0 222 (dk_at dksX3_doesSlip_0 10 rfl rfl)
theorem dX3_doesSlip_13 : decode cX3_doesSlip 13 = .ok (.if_icmp .ge 92, 3) := dk_162 0 92 (dk_at dksX3_doesSlip_0 13 rfl rfl)
theorem dX3_doesSlip_16 : decode cX3_doesSlip 16 = .ok (.iconst 0, 1) := dk_3 (dk_at dksX3_doesSlip_0 16 rfl rfl)
theorem dX3_doesSlip_17 : decode cX3_doesSlip 17 = .ok (.istore 4, 2) := dk_54 4 (dk_at dksX3_doesSlip_0 17 rfl rfl)
theorem dX3_doesSlip_19 : decode cX3_doesSlip 19 = .ok (.iload 4, 2) := dk_21 4 (dk_at dksX3_doesSlip_0 19 rfl rfl)
theorem dX3_doesSlip_21 : decode cX3_doesSlip 21 = .ok (.iload_n 3, 1) := dk_29 (dk_at dksX3_doesSlip_0 21 rfl rfl)
theorem dX3_doesSlip_22 : decode cX3_doesSlip 22 = .ok (.if_icmp .ge 77, 3) := dk_162 0 77 (dk_at dksX3_doesSlip_1 0 rfl rfl)
theorem dX3_doesSlip_25 : decode cX3_doesSlip 25 = .ok (.iload_n 2, 1) := dk_28 (dk_at dksX3_doesSlip_1 3 rfl rfl)
theorem dX3_doesSlip_26 : decode cX3_doesSlip 26 = .ok (.iload_n 3, 1) := dk_29 (dk_at dksX3_doesSlip_1 4 rfl rfl)
theorem dX3_doesSlip_27 : decode cX3_doesSlip 27 = .ok (.ishr, 1) := dk_122 (dk_at dksX3_doesSlip_1 5 rfl rfl)
theorem dX3_doesSlip_28 : decode cX3_doesSlip 28 = .ok (.iload_n 2, 1) := dk_28 (dk_at dksX3_doesSlip_1 6 rfl rfl)
theorem dX3_doesSlip_29 : decode cX3_doesSlip 29 = .ok (.iload 4, 2) := dk_21 4 (dk_at dksX3_doesSlip_1 7 rfl rfl)
theorem dX3_doesSlip_31 : decode cX3_doesSlip 31 = .ok (.ishr, 1) := dk_122 (dk_at dksX3_doesSlip_1 9 rfl rfl)
theorem dX3_doesSlip_32 : decode cX3_doesSlip 32 = .ok (.iand, 1) := dk_126 (dk_at dksX3_doesSlip_1 10 rfl rfl)
theorem dX3_doesSlip_33 : decode cX3_doesSlip 33 = .ok (.iconst 1, 1) := dk_4 (dk_at dksX3_doesSlip_1 11 rfl rfl)
theorem dX3_doesSlip_34 : decode cX3_doesSlip 34 = .ok (.iand, 1) := dk_126 (dk_at dksX3_doesSlip_1 12 rfl rfl)
theorem dX3_doesSlip_35 : decode cX3_doesSlip 35 = .ok (.ifCond .ne 6, 3) := dk_154 0 6 (dk_at dksX3_doesSlip_1 13 rfl rfl)
theorem dX3_doesSlip_38 : decode cX3_doesSlip 38 = .ok (.goto 55, 3) := dk_167 0 55 (dk_at dksX3_doesSlip_1 16 rfl rfl)
theorem dX3_doesSlip_41 : decode cX3_doesSlip 41 = .ok (.aload_n 0, 1) := dk_42 (dk_at dksX3_doesSlip_1 19 rfl rfl)
theorem dX3_doesSlip_42 : decode cX3_doesSlip 42 = .ok (.iload_n 3, 1) := dk_29 (dk_at dksX3_doesSlip_1 20 rfl rfl)
theorem dX3_doesSlip_43 : decode cX3_doesSlip 43 = .ok (.iload 4, 2) := dk_21 4 (dk_at dksX3_doesSlip_1 21 rfl rfl)
theorem dX3_doesSlip_45 : decode cX3_doesSlip 45 = .ok (.invokevirtual 276, 3) := dk_182 1 20 (dk_at dksX3_doesSlip_2 0 rfl rfl)
theorem dX3_doesSlip_48 : decode cX3_doesSlip 48 = .ok (.ifCond .eq 5, 3) := dk_153 0 5 (dk_at dksX3_doesSlip_2 3 rfl rfl)
theorem dX3_doesSlip_51 : decode cX3_doesSlip 51 = .ok (.iconst 1, 1) := dk_4 (dk_at dksX3_doesSlip_2 6 rfl rfl)
theorem dX3_doesSlip_52 : decode cX3_doesSlip 52 = .ok (.ireturn, 1) := dk_172 (dk_at dksX3_doesSlip_2 7 rfl rfl)
theorem dX3_doesSlip_53 : decode cX3_doesSlip 53 = .ok (.iconst 0, 1) := dk_3 (dk_at dksX3_doesSlip_2 8 rfl rfl)
theorem dX3_doesSlip_54 : decode cX3_doesSlip 54 = .ok (.istore 5, 2) := dk_54 5 (dk_at dksX3_doesSlip_2 9 rfl rfl)
theorem dX3_doesSlip_56 : decode cX3_doesSlip 56 = .ok (.iload 5, 2) := dk_21 5 (dk_at dksX3_doesSlip_2 11 rfl rfl)
theorem dX3_doesSlip_58 : decode cX3_doesSlip 58 = .ok (.iload 4, 2) := dk_21 4 (dk_at dksX3_doesSlip_2 13 rfl rfl)
theorem dX3_doesSlip_60 : decode cX3_doesSlip 60 = .ok (.if_icmp .ge 33, 3) := dk_162 0 33 (dk_at dksX3_doesSlip_2 15 rfl rfl)
theorem dX3_doesSlip_63 : decode cX3_doesSlip 63 = .ok (.iload_n 2, 1) := dk_28 (dk_at dksX3_doesSlip_2 18 rfl rfl)
theorem dX3_doesSlip_64 : decode cX3_doesSlip 64 = .ok (.iload 5, 2) := dk_21 5 (dk_at dksX3_doesSlip_2 19 rfl rfl)
theorem dX3_doesSlip_66 : decode cX3_doesSlip 66 = .ok (.ishr, 1) := dk_122 (dk_at dksX3_doesSlip_2 21 rfl rfl)
theorem dX3_doesSlip_67 : decode cX3_doesSlip 67 = .ok (.iconst 1, 1) := dk_4 (dk_at dksX3_doesSlip_2 22 rfl rfl)
theorem dX3_doesSlip_68 : decode cX3_doesSlip 68 = .ok (.iand, 1) := dk_126 (dk_at dksX3_doesSlip_2 23 rfl rfl)
theorem dX3_doesSlip_69 : decode cX3_doesSlip 69 = .ok (.iconst 1, 1) := dk_4 (dk_at dksX3_doesSlip_3 0 rfl rfl)
theorem dX3_doesSlip_70 : decode cX3_doesSlip 70 = .ok (.if_icmp .ne 17, 3) := dk_160 0 17 (dk_at dksX3_doesSlip_3 1 rfl rfl)
theorem dX3_doesSlip_73 : decode cX3_doesSlip 73 = .ok (.aload_n 0, 1) := dk_42 (dk_at dksX3_doesSlip_3 4 rfl rfl)
theorem dX3_doesSlip_74 : decode cX3_doesSlip 74 = .ok (.iload_n 3, 1) := dk_29 (dk_at dksX3_doesSlip_3 5 rfl rfl)
theorem dX3_doesSlip_75 : decode cX3_doesSlip 75 = .ok (.iload 4, 2) := dk_21 4 (dk_at dksX3_doesSlip_3 6 rfl rfl)
theorem dX3_doesSlip_77 : decode cX3_doesSlip 77 = .ok (.iload 5, 2) := dk_21 5 (dk_at dksX3_doesSlip_3 8 rfl rfl)
theorem dX3_doesSlip_79 : decode cX3_doesSlip 79 = .ok (.invokevirtual 279, 3) := dk_182 1 23 (dk_at dksX3_doesSlip_3 10 rfl rfl)
theorem dX3_doesSlip_82 : decode cX3_doesSlip 82 = .ok (.ifCond .ne 5, 3) := dk_154 0 5 (dk_at dksX3_doesSlip_3 13 rfl rfl)
theorem dX3_doesSlip_85 : decode cX3_doesSlip 85 = .ok (.iconst 1, 1) := dk_4 (dk_at dksX3_doesSlip_3 16 rfl rfl)
theorem dX3_doesSlip_86 : decode cX3_doesSlip 86 = .ok (.ireturn, 1) := dk_172 (dk_at dksX3_doesSlip_3 17 rfl rfl)
theorem dX3_doesSlip_87 : decode cX3_doesSlip 87 = .ok (.iinc 5 1, 3) := dk_132 5 1 (dk_at dksX3_doesSlip_3 18 rfl rfl)
theorem dX3_doesSlip_90 : decode cX3_doesSlip 90 = .ok (.goto (-34), 3) := dk_167 255 222 (dk_at dksX3_doesSlip_3 21 rfl rfl)
theorem dX3_doesSlip_93 : decode cX3_doesSlip 93 = .ok (.iinc 4 1, 3) := dk_132 4 1 (dk_at dksX3_doesSlip_4 0 rfl rfl)
theorem dX3_doesSlip_96 : decode cX3_doesSlip 96 = .ok (.goto (-77), 3) := dk_167 255 179 (dk_at dksX3_doesSlip_4 3 rfl rfl)
theorem dX3_doesSlip_99 : decode cX3_doesSlip 99 = .ok (.iinc 3 1, 3) := dk_132 3 1 (dk_at dksX3_doesSlip_4 6 rfl rfl)
theorem dX3_doesSlip_102 : decode cX3_doesSlip 102 = .ok (.goto (-94), 3) := dk_167 255 162 (dk_at dksX3_doesSlip_4 9 rfl rfl)
theorem dX3_doesSlip_105 : decode cX3_doesSlip 105 = .ok (.iconst 0, 1) := dk_3 (dk_at dksX3_doesSlip_4 12 rfl rfl)
theorem dX3_doesSlip_106 : decode cX3_doesSlip 106 = .ok (.ireturn, 1) := dk_172 (dk_at dksX3_doesSlip_4 13 rfl rfl)
abbrev cX3_areAtOne : ByteArray := prog_15_method_53_code
def yX3_areAtOne : MethodName := ⟨RX3, "areAtOne", "(II)Z"⟩
def dkwX3_areAtOne_2 : List UInt8 := [3, 172]
abbrev dktX3_areAtOne_2 : List UInt8 := dkwX3_areAtOne_2 ++ []
def dkwX3_areAtOne_1 : List UInt8 := [180, 0, 9, 16, 22, 27, 96, 46, 42, 180, 0, 9, 16, 22, 28, 96, 46, 160, 0, 7, 4, 167, 0, 4]
abbrev dktX3_areAtOne_1 : List UInt8 := dkwX3_areAtOne_1 ++ dktX3_areAtOne_2
def dkwX3_areAtOne_0 : List UInt8 := [42, 180, 0, 9, 16, 14, 27, 96, 46, 42, 180, 0, 9, 16, 14, 28, 96, 46, 160, 0, 28, 42]
abbrev dktX3_areAtOne_0 : List UInt8 := dkwX3_areAtOne_0 ++ dktX3_areAtOne_1
theorem dksX3_areAtOne_0 : cX3_areAtOne.data.toList.drop 0 = dktX3_areAtOne_0 := by decide +kernel
theorem dksX3_areAtOne_1 : cX3_areAtOne.data.toList.drop 22 = dktX3_areAtOne_1 := dk_seg dksX3_areAtOne_0 22 rfl rfl
theorem dksX3_areAtOne_2 : cX3_areAtOne.data.toList.drop 46 = dktX3_areAtOne_2 := dk_seg dksX3_areAtOne_1 24 rfl rfl
theorem dX3_areAtOne_0 : decode cX3_areAtOne 0 = .ok (.aload_n 0, 1) := dk_42 (dk_at dksX3_areAtOne_0 0 rfl rfl)
theorem dX3_areAtOne_1 : decode cX3_areAtOne 1 = .ok (.getfield 9, 3) := dk_180 0 9 (dk_at dksX3_areAtOne_0 1 rfl rfl)
theorem dX3_areAtOne_4 : decode cX3_areAtOne 4 = .ok (.bipush 14, 2) := dk_16 14 (dk_at dksX3_areAtOne_0 4 rfl rfl)
theorem dX3_areAtOne_6 : decode cX3_areAtOne 6 = .ok (.iload_n 1, 1) := dk_27 (dk_at dksX3_areAtOne_0 6 rfl rfl)
theorem dX3_areAtOne_7 : decode cX3_areAtOne 7 = .ok (.iadd, 1) := dk_96 (dk_at dksX3_areAtOne_0 7 rfl rfl)
theorem dX3_areAtOne_8 : decode cX3_areAtOne 8 = .ok (.iaload, 1) := dk_46 (dk_at dksX3_areAtOne_0 8 rfl rfl)
theorem dX3_areAtOne_9 : decode cX3_areAtOne 9 = .ok (.aload_n 0, 1) := dk_42 (dk_at dksX3_areAtOne_0 9 rfl rfl)
theorem dX3_areAtOne_10 : decode cX3_areAtOne 10 = .ok (.getfield 9, 3) := dk_180 0 9 (dk_at dksX3_areAtOne_0 10 rfl rfl)
theorem dX3_areAtOne_13 : decode cX3_areAtOne 13 = .ok (.bipush 14, 2) := dk_16 14 (dk_at dksX3_areAtOne_0 13 rfl rfl)
theorem dX3_areAtOne_15 : decode cX3_areAtOne 15 = .ok (.iload_n 2, 1) := dk_28 (dk_at dksX3_areAtOne_0 15 rfl rfl)
theorem dX3_areAtOne_16 : decode cX3_areAtOne 16 = .ok (.iadd, 1) := dk_96 (dk_at dksX3_areAtOne_0 16 rfl rfl)
theorem dX3_areAtOne_17 : decode cX3_areAtOne 17 = .ok (.iaload, 1) := dk_46 (dk_at dksX3_areAtOne_0 17 rfl rfl)
theorem dX3_areAtOne_18 : decode cX3_areAtOne 18 = .ok (.if_icmp .ne 28, 3) := dk_160 0 28 (dk_at dksX3_areAtOne_0 18 rfl rfl)
theorem dX3_areAtOne_21 : decode cX3_areAtOne 21 = .ok (.aload_n 0, 1) := dk_42 (dk_at dksX3_areAtOne_0 21 rfl rfl)
theorem dX3_areAtOne_22 : decode cX3_areAtOne 22 = .ok (.getfield 9, 3) := dk_180 0 9 (dk_at dksX3_areAtOne_1 0 rfl rfl)
theorem dX3_areAtOne_25 : decode cX3_areAtOne 25 = .ok (.bipush 22, 2) := dk_16 22 (dk_at dksX3_areAtOne_1 3 rfl rfl)
theorem dX3_areAtOne_27 : decode cX3_areAtOne 27 = .ok (.iload_n 1, 1) := dk_27 (dk_at dksX3_areAtOne_1 5 rfl rfl)
theorem dX3_areAtOne_28 : decode cX3_areAtOne 28 = .ok (.iadd, 1) := dk_96 (dk_at dksX3_areAtOne_1 6 rfl rfl)
theorem dX3_areAtOne_29 : decode cX3_areAtOne 29 = .ok (.iaload, 1) := dk_46 (dk_at dksX3_areAtOne_1 7 rfl rfl)
theorem dX3_areAtOne_30 : decode cX3_areAtOne 30 = .ok (.aload_n 0, 1) := dk_42 (dk_at dksX3_areAtOne_1 8 rfl rfl)
theorem dX3_areAtOne_31 : decode cX3_areAtOne 31 = .ok (.getfield 9, 3) := dk_180 0 9 (dk_at dksX3_areAtOne_1 9 rfl rfl)
theorem dX3_areAtOne_34 : decode cX3_areAtOne 34 = .ok (.bipush 22, 2) := dk_16 22 (dk_at dksX3_areAtOne_1 12 rfl rfl)
theorem dX3_areAtOne_36 : decode cX3_areAtOne 36 = .ok (.iload_n 2, 1) := dk_28 (dk_at dksX3_areAtOne_1 14 rfl rfl)
theorem dX3_areAtOne_37 : decode cX3_areAtOne 37 = .ok (.iadd, 1) := dk_96 (dk_at dksX3_areAtOne_1 15 rfl rfl)
theorem dX3_areAtOne_38 : decode cX3_areAtOne 38 = .ok (.iaload, 1) := dk_46 (dk_at dksX3_areAtOne_1 16 rfl rfl)
theorem dX3_areAtOne_39 : decode cX3_areAtOne 39 = .ok (.if_icmp .ne 7, 3) := dk_160 0 7 (dk_at dksX3_areAtOne_1 17 rfl rfl)
theorem dX3_areAtOne_42 : decode cX3_areAtOne 42 = .ok (.iconst 1, 1) := dk_4 (dk_at dksX3_areAtOne_1 20 rfl rfl)
theorem dX3_areAtOne_43 : decode cX3_areAtOne 43 = .ok (.goto 4, 3) := dk_167 0 4 (dk_at dksX3_areAtOne_1 21 rfl rfl)
theorem dX3_areAtOne_46 : decode cX3_areAtOne 46 = .ok (.iconst 0, 1) := dk_3 (dk_at dksX3_areAtOne_2 0 rfl rfl)
theorem dX3_areAtOne_47 : decode cX3_areAtOne 47 = .ok (.ireturn, 1) := dk_172 (dk_at dksX3_areAtOne_2 1 rfl rfl)
abbrev cX3_areInLineAt : ByteArray := prog_15_method_52_code
def yX3_areInLineAt : MethodName := ⟨RX3, "areInLineAt", "(III)Z"⟩
def dkwX3_areInLineAt_2 : List UInt8 := [180, 0, 9, 16, 22, 29, 96, 46, 184, 1, 16, 172]
abbrev dktX3_areInLineAt_2 : List UInt8 := dkwX3_areInLineAt_2 ++ []
def dkwX3_areInLineAt_1 : List UInt8 := [28, 96, 46, 42, 180, 0, 9, 16, 22, 28, 96, 46, 42, 180, 0, 9, 16, 14, 29, 96, 46, 42]
abbrev dktX3_areInLineAt_1 : List UInt8 := dkwX3_areInLineAt_1 ++ dktX3_areInLineAt_2
def dkwX3_areInLineAt_0 : List UInt8 := [42, 180, 0, 9, 16, 14, 27, 96, 46, 42, 180, 0, 9, 16, 22, 27, 96, 46, 42, 180, 0, 9, 16, 14]
abbrev dktX3_areInLineAt_0 : List UInt8 := dkwX3_areInLineAt_0 ++ dktX3_areInLineAt_1
theorem dksX3_areInLineAt_0 : cX3_areInLineAt.data.toList.drop 0 = dktX3_areInLineAt_0 := by decide +kernel
theorem dksX3_areInLineAt_1 : cX3_areInLineAt.data.toList.drop 24 = dktX3_areInLineAt_1 := dk_seg dksX3_areInLineAt_0 24 rfl rfl
theorem dksX3_areInLineAt_2 : cX3_areInLineAt.data.toList.drop 46 = dktX3_areInLineAt_2 := dk_seg dksX3_areInLineAt_1 22 rfl rfl
theorem dX3_areInLineAt_0 : decode cX3_areInLineAt 0 = .ok (.aload_n 0, 1) := dk_42 (dk_at dksX3_areInLineAt_0 0 rfl rfl)
theorem dX3_areInLineAt_1 : decode cX3_areInLineAt 1 = .ok (.getfield 9, 3) := dk_180 0 9 (dk_at dksX3_areInLineAt_0 1 rfl rfl)
theorem dX3_areInLineAt_4 : decode cX3_areInLineAt 4 = .ok (.bipush 14, 2) := dk_16 14 (dk_at dksX3_areInLineAt_0 4 rfl rfl)
theorem dX3_areInLineAt_6 : decode cX3_areInLineAt 6 = .ok (.iload_n 1, 1) := dk_27 (dk_at dksX3_areInLineAt_0 6 rfl rfl)
theorem dX3_areInLineAt_7 : decode cX3_areInLineAt 7 = .ok (.iadd, 1) := dk_96 (dk_at dksX3_areInLineAt_0 7 rfl rfl)
theorem dX3_areInLineAt_8 : decode cX3_areInLineAt 8 = .ok (.iaload, 1) := dk_46 (dk_at dksX3_areInLineAt_0 8 rfl rfl)
theorem dX3_areInLineAt_9 : decode cX3_areInLineAt 9 = .ok (.aload_n 0, 1) := dk_42 (dk_at dksX3_areInLineAt_0 9 rfl rfl)
theorem dX3_areInLineAt_10 : decode cX3_areInLineAt 10 = .ok (.getfield 9, 3) := dk_180 0 9 (dk_at dksX3_areInLineAt_0 10 rfl rfl)
theorem dX3_areInLineAt_13 : decode cX3_areInLineAt 13 = .ok (.bipush 22, 2) := dk_16 22 (dk_at dksX3_areInLineAt_0 13 rfl rfl)
theorem dX3_areInLineAt_15 : decode cX3_areInLineAt 15 = .ok (.iload_n 1, 1) := dk_27 (dk_at dksX3_areInLineAt_0 15 rfl rfl)
theorem dX3_areInLineAt_16 : decode cX3_areInLineAt 16 = .ok (.iadd, 1) := dk_96 (dk_at dksX3_areInLineAt_0 16 rfl rfl)
theorem dX3_areInLineAt_17 : decode cX3_areInLineAt 17 = .ok (.iaload, 1) := dk_46 (dk_at dksX3_areInLineAt_0 17 rfl rfl)
theorem dX3_areInLineAt_18 : decode cX3_areInLineAt 18 = .ok (.aload_n 0, 1) := dk_42 (dk_at dksX3_areInLineAt_0 18 rfl rfl)
theorem dX3_areInLineAt_19 : decode cX3_areInLineAt 19 = .ok (.getfield 9, 3) := dk_180 0 9 (dk_at dksX3_areInLineAt_0 19 rfl rfl)
theorem dX3_areInLineAt_22 : decode cX3_areInLineAt 22 = .ok (.bipush 14, 2) := dk_16 14 (dk_at dksX3_areInLineAt_0 22 rfl rfl)
theorem dX3_areInLineAt_24 : decode cX3_areInLineAt 24 = .ok (.iload_n 2, 1) := dk_28 (dk_at dksX3_areInLineAt_1 0 rfl rfl)
theorem dX3_areInLineAt_25 : decode cX3_areInLineAt 25 = .ok (.iadd, 1) := dk_96 (dk_at dksX3_areInLineAt_1 1 rfl rfl)
theorem dX3_areInLineAt_26 : decode cX3_areInLineAt 26 = .ok (.iaload, 1) := dk_46 (dk_at dksX3_areInLineAt_1 2 rfl rfl)
theorem dX3_areInLineAt_27 : decode cX3_areInLineAt 27 = .ok (.aload_n 0, 1) := dk_42 (dk_at dksX3_areInLineAt_1 3 rfl rfl)
theorem dX3_areInLineAt_28 : decode cX3_areInLineAt 28 = .ok (.getfield 9, 3) := dk_180 0 9 (dk_at dksX3_areInLineAt_1 4 rfl rfl)
theorem dX3_areInLineAt_31 : decode cX3_areInLineAt 31 = .ok (.bipush 22, 2) := dk_16 22 (dk_at dksX3_areInLineAt_1 7 rfl rfl)
theorem dX3_areInLineAt_33 : decode cX3_areInLineAt 33 = .ok (.iload_n 2, 1) := dk_28 (dk_at dksX3_areInLineAt_1 9 rfl rfl)
theorem dX3_areInLineAt_34 : decode cX3_areInLineAt 34 = .ok (.iadd, 1) := dk_96 (dk_at dksX3_areInLineAt_1 10 rfl rfl)
theorem dX3_areInLineAt_35 : decode cX3_areInLineAt 35 = .ok (.iaload, 1) := dk_46 (dk_at dksX3_areInLineAt_1 11 rfl rfl)
theorem dX3_areInLineAt_36 : decode cX3_areInLineAt 36 = .ok (.aload_n 0, 1) := dk_42 (dk_at dksX3_areInLineAt_1 12 rfl rfl)
theorem dX3_areInLineAt_37 : decode cX3_areInLineAt 37 = .ok (.getfield 9, 3) := dk_180 0 9 (dk_at dksX3_areInLineAt_1 13 rfl rfl)
theorem dX3_areInLineAt_40 : decode cX3_areInLineAt 40 = .ok (.bipush 14, 2) := dk_16 14 (dk_at dksX3_areInLineAt_1 16 rfl rfl)
theorem dX3_areInLineAt_42 : decode cX3_areInLineAt 42 = .ok (.iload_n 3, 1) := dk_29 (dk_at dksX3_areInLineAt_1 18 rfl rfl)
theorem dX3_areInLineAt_43 : decode cX3_areInLineAt 43 = .ok (.iadd, 1) := dk_96 (dk_at dksX3_areInLineAt_1 19 rfl rfl)
theorem dX3_areInLineAt_44 : decode cX3_areInLineAt 44 = .ok (.iaload, 1) := dk_46 (dk_at dksX3_areInLineAt_1 20 rfl rfl)
theorem dX3_areInLineAt_45 : decode cX3_areInLineAt 45 = .ok (.aload_n 0, 1) := dk_42 (dk_at dksX3_areInLineAt_1 21 rfl rfl)
theorem dX3_areInLineAt_46 : decode cX3_areInLineAt 46 = .ok (.getfield 9, 3) := dk_180 0 9 (dk_at dksX3_areInLineAt_2 0 rfl rfl)
theorem dX3_areInLineAt_49 : decode cX3_areInLineAt 49 = .ok (.bipush 22, 2) := dk_16 22 (dk_at dksX3_areInLineAt_2 3 rfl rfl)
theorem dX3_areInLineAt_51 : decode cX3_areInLineAt 51 = .ok (.iload_n 3, 1) := dk_29 (dk_at dksX3_areInLineAt_2 5 rfl rfl)
theorem dX3_areInLineAt_52 : decode cX3_areInLineAt 52 = .ok (.iadd, 1) := dk_96 (dk_at dksX3_areInLineAt_2 6 rfl rfl)
theorem dX3_areInLineAt_53 : decode cX3_areInLineAt 53 = .ok (.iaload, 1) := dk_46 (dk_at dksX3_areInLineAt_2 7 rfl rfl)
theorem dX3_areInLineAt_54 : decode cX3_areInLineAt 54 = .ok (.invokestatic 272, 3) := dk_184 1 16 (dk_at dksX3_areInLineAt_2 8 rfl rfl)
theorem dX3_areInLineAt_57 : decode cX3_areInLineAt 57 = .ok (.ireturn, 1) := dk_172 (dk_at dksX3_areInLineAt_2 11 rfl rfl)
abbrev cX3_areInLine : ByteArray := prog_15_method_51_code
def yX3_areInLine : MethodName := ⟨RX3, "areInLine", "(IIIIII)Z"⟩
def dkwX3_areInLine_1 : List UInt8 := [172]
abbrev dktX3_areInLine_1 : List UInt8 := dkwX3_areInLine_1 ++ []
def dkwX3_areInLine_0 : List UInt8 := [28, 26, 100, 21, 5, 27, 100, 104, 21, 4, 26, 100, 29, 27, 100, 104, 160, 0, 7, 4, 167, 0, 4, 3]
abbrev dktX3_areInLine_0 : List UInt8 := dkwX3_areInLine_0 ++ dktX3_areInLine_1
theorem dksX3_areInLine_0 : cX3_areInLine.data.toList.drop 0 = dktX3_areInLine_0 := by decide +kernel
theorem dksX3_areInLine_1 : cX3_areInLine.data.toList.drop 24 = dktX3_areInLine_1 := dk_seg dksX3_areInLine_0 24 rfl rfl
theorem dX3_areInLine_0 : decode cX3_areInLine 0 = .ok (.iload_n 2, 1) := dk_28 (dk_at dksX3_areInLine_0 0 rfl rfl)
theorem dX3_areInLine_1 : decode cX3_areInLine 1 = .ok (.iload_n 0, 1) := dk_26 (dk_at dksX3_areInLine_0 1 rfl rfl)
theorem dX3_areInLine_2 : decode cX3_areInLine 2 = .ok (.isub, 1) := dk_100 (dk_at dksX3_areInLine_0 2 rfl rfl)
theorem dX3_areInLine_3 : decode cX3_areInLine 3 = .ok (.iload 5, 2) := dk_21 5 (dk_at dksX3_areInLine_0 3 rfl rfl)
theorem dX3_areInLine_5 : decode cX3_areInLine 5 = .ok (.iload_n 1, 1) := dk_27 (dk_at dksX3_areInLine_0 5 rfl rfl)
theorem dX3_areInLine_6 : decode cX3_areInLine 6 = .ok (.isub, 1) := dk_100 (dk_at dksX3_areInLine_0 6 rfl rfl)
theorem dX3_areInLine_7 : decode cX3_areInLine 7 = .ok (.imul, 1) := dk_104 (dk_at dksX3_areInLine_0 7 rfl rfl)
theorem dX3_areInLine_8 : decode cX3_areInLine 8 = .ok (.iload 4, 2) := dk_21 4 (dk_at dksX3_areInLine_0 8 rfl rfl)
theorem dX3_areInLine_10 : decode cX3_areInLine 10 = .ok (.iload_n 0, 1) := dk_26 (dk_at dksX3_areInLine_0 10 rfl rfl)
theorem dX3_areInLine_11 : decode cX3_areInLine 11 = .ok (.isub, 1) := dk_100 (dk_at dksX3_areInLine_0 11 rfl rfl)
theorem dX3_areInLine_12 : decode cX3_areInLine 12 = .ok (.iload_n 3, 1) := dk_29 (dk_at dksX3_areInLine_0 12 rfl rfl)
theorem dX3_areInLine_13 : decode cX3_areInLine 13 = .ok (.iload_n 1, 1) := dk_27 (dk_at dksX3_areInLine_0 13 rfl rfl)
theorem dX3_areInLine_14 : decode cX3_areInLine 14 = .ok (.isub, 1) := dk_100 (dk_at dksX3_areInLine_0 14 rfl rfl)
theorem dX3_areInLine_15 : decode cX3_areInLine 15 = .ok (.imul, 1) := dk_104 (dk_at dksX3_areInLine_0 15 rfl rfl)
theorem dX3_areInLine_16 : decode cX3_areInLine 16 = .ok (.if_icmp .ne 7, 3) := dk_160 0 7 (dk_at dksX3_areInLine_0 16 rfl rfl)
theorem dX3_areInLine_19 : decode cX3_areInLine 19 = .ok (.iconst 1, 1) := dk_4 (dk_at dksX3_areInLine_0 19 rfl rfl)
theorem dX3_areInLine_20 : decode cX3_areInLine 20 = .ok (.goto 4, 3) := dk_167 0 4 (dk_at dksX3_areInLine_0 20 rfl rfl)
theorem dX3_areInLine_23 : decode cX3_areInLine 23 = .ok (.iconst 0, 1) := dk_3 (dk_at dksX3_areInLine_0 23 rfl rfl)
theorem dX3_areInLine_24 : decode cX3_areInLine 24 = .ok (.ireturn, 1) := dk_172 (dk_at dksX3_areInLine_1 0 rfl rfl)
abbrev cX3_strays : ByteArray := prog_15_method_56_code
def yX3_strays : MethodName := ⟨RX3, "strays", "()I"⟩
def dkwX3_strays_3 : List UInt8 := [167, 255, 208, 132, 3, 1, 167, 255, 194, 132, 2, 1, 167, 255, 178, 27, 172]
abbrev dktX3_strays_3 : List UInt8 := dkwX3_strays_3 ++ []
def dkwX3_strays_2 : List UInt8 := [160, 0, 18, 42, 28, 29, 21, 4, 182, 1, 23, 153, 0, 7, 4, 167, 0, 4, 3, 96, 60, 132, 4, 1]
abbrev dktX3_strays_2 : List UInt8 := dkwX3_strays_2 ++ dktX3_strays_3
def dkwX3_strays_1 : List UInt8 := [29, 162, 0, 48, 27, 42, 4, 28, 120, 4, 29, 120, 128, 4, 21, 4, 120, 128, 182, 0, 219, 2]
abbrev dktX3_strays_1 : List UInt8 := dkwX3_strays_1 ++ dktX3_strays_2
def dkwX3_strays_0 : List UInt8 := [3, 60, 3, 61, 28, 42, 182, 0, 222, 162, 0, 76, 3, 62, 29, 28, 162, 0, 63, 3, 54, 4, 21, 4]
abbrev dktX3_strays_0 : List UInt8 := dkwX3_strays_0 ++ dktX3_strays_1
theorem dksX3_strays_0 : cX3_strays.data.toList.drop 0 = dktX3_strays_0 := by decide +kernel
theorem dksX3_strays_1 : cX3_strays.data.toList.drop 24 = dktX3_strays_1 := dk_seg dksX3_strays_0 24 rfl rfl
theorem dksX3_strays_2 : cX3_strays.data.toList.drop 46 = dktX3_strays_2 := dk_seg dksX3_strays_1 22 rfl rfl
theorem dksX3_strays_3 : cX3_strays.data.toList.drop 70 = dktX3_strays_3 := dk_seg dksX3_strays_2 24 rfl rfl
theorem dX3_strays_0 : decode cX3_strays 0 = .ok (.iconst 0, 1) := dk_3 (dk_at dksX3_strays_0 0 rfl rfl)
theorem dX3_strays_1 : decode cX3_strays 1 = .ok (.istore_n 1, 1) := dk_60 (dk_at dksX3_strays_0 1 rfl rfl)
theorem dX3_strays_2 : decode cX3_strays 2 = .ok (.iconst 0, 1) := dk_3 (dk_at dksX3_strays_0 2 rfl rfl)
theorem dX3_strays_3 : decode cX3_strays 3 = .ok (.istore_n 2, 1) := dk_61 (dk_at dksX3_strays_0 3 rfl rfl)
theorem dX3_strays_4 : decode cX3_strays 4 = .ok (.iload_n 2, 1) := dk_28 (dk_at dksX3_strays_0 4 rfl rfl)
theorem dX3_strays_5 : decode cX3_strays 5 = .ok (.aload_n 0, 1) := dk_42 (dk_at dksX3_strays_0 5 rfl rfl)
theorem dX3_strays_6 : decode cX3_strays 6 = .ok (.invokevirtual 222, 3) := dk_182 0 222 (dk_at dksX3_strays_0 6 rfl rfl)
theorem dX3_strays_9 : decode cX3_strays 9 = .ok (.if_icmp .ge 76, 3) := dk_162 0 76 (dk_at dksX3_strays_0 9 rfl rfl)
theorem dX3_strays_12 : decode cX3_strays 12 = .ok (.iconst 0, 1) := dk_3 (dk_at dksX3_strays_0 12 rfl rfl)
theorem dX3_strays_13 : decode cX3_strays 13 = .ok (.istore_n 3, 1) := dk_62 (dk_at dksX3_strays_0 13 rfl rfl)
theorem dX3_strays_14 : decode cX3_strays 14 = .ok (.iload_n 3, 1) := dk_29 (dk_at dksX3_strays_0 14 rfl rfl)
theorem dX3_strays_15 : decode cX3_strays 15 = .ok (.iload_n 2, 1) := dk_28 (dk_at dksX3_strays_0 15 rfl rfl)
theorem dX3_strays_16 : decode cX3_strays 16 = .ok (.if_icmp .ge 63, 3) := dk_162 0 63 (dk_at dksX3_strays_0 16 rfl rfl)
theorem dX3_strays_19 : decode cX3_strays 19 = .ok (.iconst 0, 1) := dk_3 (dk_at dksX3_strays_0 19 rfl rfl)
theorem dX3_strays_20 : decode cX3_strays 20 = .ok (.istore 4, 2) := dk_54 4 (dk_at dksX3_strays_0 20 rfl rfl)
theorem dX3_strays_22 : decode cX3_strays 22 = .ok (.iload 4, 2) := dk_21 4 (dk_at dksX3_strays_0 22 rfl rfl)
theorem dX3_strays_24 : decode cX3_strays 24 = .ok (.iload_n 3, 1) := dk_29 (dk_at dksX3_strays_1 0 rfl rfl)
theorem dX3_strays_25 : decode cX3_strays 25 = .ok (.if_icmp .ge 48, 3) := dk_162 0 48 (dk_at dksX3_strays_1 1 rfl rfl)
theorem dX3_strays_28 : decode cX3_strays 28 = .ok (.iload_n 1, 1) := dk_27 (dk_at dksX3_strays_1 4 rfl rfl)
theorem dX3_strays_29 : decode cX3_strays 29 = .ok (.aload_n 0, 1) := dk_42 (dk_at dksX3_strays_1 5 rfl rfl)
theorem dX3_strays_30 : decode cX3_strays 30 = .ok (.iconst 1, 1) := dk_4 (dk_at dksX3_strays_1 6 rfl rfl)
theorem dX3_strays_31 : decode cX3_strays 31 = .ok (.iload_n 2, 1) := dk_28 (dk_at dksX3_strays_1 7 rfl rfl)
theorem dX3_strays_32 : decode cX3_strays 32 = .ok (.ishl, 1) := dk_120 (dk_at dksX3_strays_1 8 rfl rfl)
theorem dX3_strays_33 : decode cX3_strays 33 = .ok (.iconst 1, 1) := dk_4 (dk_at dksX3_strays_1 9 rfl rfl)
theorem dX3_strays_34 : decode cX3_strays 34 = .ok (.iload_n 3, 1) := dk_29 (dk_at dksX3_strays_1 10 rfl rfl)
theorem dX3_strays_35 : decode cX3_strays 35 = .ok (.ishl, 1) := dk_120 (dk_at dksX3_strays_1 11 rfl rfl)
theorem dX3_strays_36 : decode cX3_strays 36 = .ok (.ior, 1) := dk_128 (dk_at dksX3_strays_1 12 rfl rfl)
theorem dX3_strays_37 : decode cX3_strays 37 = .ok (.iconst 1, 1) := dk_4 (dk_at dksX3_strays_1 13 rfl rfl)
theorem dX3_strays_38 : decode cX3_strays 38 = .ok (.iload 4, 2) := dk_21 4 (dk_at dksX3_strays_1 14 rfl rfl)
theorem dX3_strays_40 : decode cX3_strays 40 = .ok (.ishl, 1) := dk_120 (dk_at dksX3_strays_1 16 rfl rfl)
theorem dX3_strays_41 : decode cX3_strays 41 = .ok (.ior, 1) := dk_128 (dk_at dksX3_strays_1 17 rfl rfl)
theorem dX3_strays_42 : decode cX3_strays 42 = .ok (.invokevirtual 219, 3) := dk_182 0 219 (dk_at dksX3_strays_1 18 rfl rfl)
theorem dX3_strays_45 : decode cX3_strays 45 = .ok (.iconst (-1), 1) := dk_2 (dk_at dksX3_strays_1 21 rfl rfl)
theorem dX3_strays_46 : decode cX3_strays 46 = .ok (.if_icmp .ne 18, 3) := dk_160 0 18 (dk_at dksX3_strays_2 0 rfl rfl)
theorem dX3_strays_49 : decode cX3_strays 49 = .ok (.aload_n 0, 1) := dk_42 (dk_at dksX3_strays_2 3 rfl rfl)
theorem dX3_strays_50 : decode cX3_strays 50 = .ok (.iload_n 2, 1) := dk_28 (dk_at dksX3_strays_2 4 rfl rfl)
theorem dX3_strays_51 : decode cX3_strays 51 = .ok (.iload_n 3, 1) := dk_29 (dk_at dksX3_strays_2 5 rfl rfl)
theorem dX3_strays_52 : decode cX3_strays 52 = .ok (.iload 4, 2) := dk_21 4 (dk_at dksX3_strays_2 6 rfl rfl)
theorem dX3_strays_54 : decode cX3_strays 54 = .ok (.invokevirtual 279, 3) := dk_182 1 23 (dk_at dksX3_strays_2 8 rfl rfl)
theorem dX3_strays_57 : decode cX3_strays 57 = .ok (.ifCond .eq 7, 3) := dk_153 0 7 (dk_at dksX3_strays_2 11 rfl rfl)
theorem dX3_strays_60 : decode cX3_strays 60 = .ok (.iconst 1, 1) := dk_4 (dk_at dksX3_strays_2 14 rfl rfl)
theorem dX3_strays_61 : decode cX3_strays 61 = .ok (.goto 4, 3) := dk_167 0 4 (dk_at dksX3_strays_2 15 rfl rfl)
theorem dX3_strays_64 : decode cX3_strays 64 = .ok (.iconst 0, 1) := dk_3 (dk_at dksX3_strays_2 18 rfl rfl)
theorem dX3_strays_65 : decode cX3_strays 65 = .ok (.iadd, 1) := dk_96 (dk_at dksX3_strays_2 19 rfl rfl)
theorem dX3_strays_66 : decode cX3_strays 66 = .ok (.istore_n 1, 1) := dk_60 (dk_at dksX3_strays_2 20 rfl rfl)
theorem dX3_strays_67 : decode cX3_strays 67 = .ok (.iinc 4 1, 3) := dk_132 4 1 (dk_at dksX3_strays_2 21 rfl rfl)
theorem dX3_strays_70 : decode cX3_strays 70 = .ok (.goto (-48), 3) := dk_167 255 208 (dk_at dksX3_strays_3 0 rfl rfl)
theorem dX3_strays_73 : decode cX3_strays 73 = .ok (.iinc 3 1, 3) := dk_132 3 1 (dk_at dksX3_strays_3 3 rfl rfl)
theorem dX3_strays_76 : decode cX3_strays 76 = .ok (.goto (-62), 3) := dk_167 255 194 (dk_at dksX3_strays_3 6 rfl rfl)
theorem dX3_strays_79 : decode cX3_strays 79 = .ok (.iinc 2 1, 3) := dk_132 2 1 (dk_at dksX3_strays_3 9 rfl rfl)
theorem dX3_strays_82 : decode cX3_strays 82 = .ok (.goto (-78), 3) := dk_167 255 178 (dk_at dksX3_strays_3 12 rfl rfl)
theorem dX3_strays_85 : decode cX3_strays 85 = .ok (.iload_n 1, 1) := dk_27 (dk_at dksX3_strays_3 15 rfl rfl)
theorem dX3_strays_86 : decode cX3_strays 86 = .ok (.ireturn, 1) := dk_172 (dk_at dksX3_strays_3 16 rfl rfl)
abbrev cX3_girth : ByteArray := prog_15_method_58_code
def yX3_girth : MethodName := ⟨RX3, "girth", "()I"⟩
def dkwX3_girth_2 : List UInt8 := [167, 255, 211, 2, 172]
abbrev dktX3_girth_2 : List UInt8 := dkwX3_girth_2 ++ []
def dkwX3_girth_1 : List UInt8 := [4, 100, 4, 28, 120, 3, 182, 1, 30, 153, 0, 5, 27, 172, 132, 2, 1, 167, 255, 227, 132, 1, 1]
abbrev dktX3_girth_1 : List UInt8 := dkwX3_girth_1 ++ dktX3_girth_2
def dkwX3_girth_0 : List UInt8 := [6, 60, 27, 42, 182, 0, 213, 163, 0, 43, 3, 61, 28, 42, 182, 0, 213, 162, 0, 27, 42, 28, 28, 27]
abbrev dktX3_girth_0 : List UInt8 := dkwX3_girth_0 ++ dktX3_girth_1
theorem dksX3_girth_0 : cX3_girth.data.toList.drop 0 = dktX3_girth_0 := by decide +kernel
theorem dksX3_girth_1 : cX3_girth.data.toList.drop 24 = dktX3_girth_1 := dk_seg dksX3_girth_0 24 rfl rfl
theorem dksX3_girth_2 : cX3_girth.data.toList.drop 47 = dktX3_girth_2 := dk_seg dksX3_girth_1 23 rfl rfl
theorem dX3_girth_0 : decode cX3_girth 0 = .ok (.iconst 3, 1) := dk_6 (dk_at dksX3_girth_0 0 rfl rfl)
theorem dX3_girth_1 : decode cX3_girth 1 = .ok (.istore_n 1, 1) := dk_60 (dk_at dksX3_girth_0 1 rfl rfl)
theorem dX3_girth_2 : decode cX3_girth 2 = .ok (.iload_n 1, 1) := dk_27 (dk_at dksX3_girth_0 2 rfl rfl)
theorem dX3_girth_3 : decode cX3_girth 3 = .ok (.aload_n 0, 1) := dk_42 (dk_at dksX3_girth_0 3 rfl rfl)
theorem dX3_girth_4 : decode cX3_girth 4 = .ok (.invokevirtual 213, 3) := dk_182 0 213 (dk_at dksX3_girth_0 4 rfl rfl)
theorem dX3_girth_7 : decode cX3_girth 7 = .ok (.if_icmp .gt 43, 3) := dk_163 0 43 (dk_at dksX3_girth_0 7 rfl rfl)
theorem dX3_girth_10 : decode cX3_girth 10 = .ok (.iconst 0, 1) := dk_3 (dk_at dksX3_girth_0 10 rfl rfl)
theorem dX3_girth_11 : decode cX3_girth 11 = .ok (.istore_n 2, 1) := dk_61 (dk_at dksX3_girth_0 11 rfl rfl)
theorem dX3_girth_12 : decode cX3_girth 12 = .ok (.iload_n 2, 1) := dk_28 (dk_at dksX3_girth_0 12 rfl rfl)
theorem dX3_girth_13 : decode cX3_girth 13 = .ok (.aload_n 0, 1) := dk_42 (dk_at dksX3_girth_0 13 rfl rfl)
theorem dX3_girth_14 : decode cX3_girth 14 = .ok (.invokevirtual 213, 3) := dk_182 0 213 (dk_at dksX3_girth_0 14 rfl rfl)
theorem dX3_girth_17 : decode cX3_girth 17 = .ok (.if_icmp .ge 27, 3) := dk_162 0 27 (dk_at dksX3_girth_0 17 rfl rfl)
theorem dX3_girth_20 : decode cX3_girth 20 = .ok (.aload_n 0, 1) := dk_42 (dk_at dksX3_girth_0 20 rfl rfl)
theorem dX3_girth_21 : decode cX3_girth 21 = .ok (.iload_n 2, 1) := dk_28 (dk_at dksX3_girth_0 21 rfl rfl)
theorem dX3_girth_22 : decode cX3_girth 22 = .ok (.iload_n 2, 1) := dk_28 (dk_at dksX3_girth_0 22 rfl rfl)
theorem dX3_girth_23 : decode cX3_girth 23 = .ok (.iload_n 1, 1) := dk_27 (dk_at dksX3_girth_0 23 rfl rfl)
theorem dX3_girth_24 : decode cX3_girth 24 = .ok (.iconst 1, 1) := dk_4 (dk_at dksX3_girth_1 0 rfl rfl)
theorem dX3_girth_25 : decode cX3_girth 25 = .ok (.isub, 1) := dk_100 (dk_at dksX3_girth_1 1 rfl rfl)
theorem dX3_girth_26 : decode cX3_girth 26 = .ok (.iconst 1, 1) := dk_4 (dk_at dksX3_girth_1 2 rfl rfl)
theorem dX3_girth_27 : decode cX3_girth 27 = .ok (.iload_n 2, 1) := dk_28 (dk_at dksX3_girth_1 3 rfl rfl)
theorem dX3_girth_28 : decode cX3_girth 28 = .ok (.ishl, 1) := dk_120 (dk_at dksX3_girth_1 4 rfl rfl)
theorem dX3_girth_29 : decode cX3_girth 29 = .ok (.iconst 0, 1) := dk_3 (dk_at dksX3_girth_1 5 rfl rfl)
theorem dX3_girth_30 : decode cX3_girth 30 = .ok (.invokevirtual 286, 3) := dk_182 1 30 (dk_at dksX3_girth_1 6 rfl rfl)
theorem dX3_girth_33 : decode cX3_girth 33 = .ok (.ifCond .eq 5, 3) := dk_153 0 5 (dk_at dksX3_girth_1 9 rfl rfl)
theorem dX3_girth_36 : decode cX3_girth 36 = .ok (.iload_n 1, 1) := dk_27 (dk_at dksX3_girth_1 12 rfl rfl)
theorem dX3_girth_37 : decode cX3_girth 37 = .ok (.ireturn, 1) := dk_172 (dk_at dksX3_girth_1 13 rfl rfl)
theorem dX3_girth_38 : decode cX3_girth 38 = .ok (.iinc 2 1, 3) := dk_132 2 1 (dk_at dksX3_girth_1 14 rfl rfl)
theorem dX3_girth_41 : decode cX3_girth 41 = .ok (.goto (-29), 3) := dk_167 255 227 (dk_at dksX3_girth_1 17 rfl rfl)
theorem dX3_girth_44 : decode cX3_girth 44 = .ok (.iinc 1 1, 3) := dk_132 1 1 (dk_at dksX3_girth_1 20 rfl rfl)
theorem dX3_girth_47 : decode cX3_girth 47 = .ok (.goto (-45), 3) := dk_167 255 211 (dk_at dksX3_girth_2 0 rfl rfl)
theorem dX3_girth_50 : decode cX3_girth 50 = .ok (.iconst (-1), 1) := dk_2 (dk_at dksX3_girth_2 3 rfl rfl)
theorem dX3_girth_51 : decode cX3_girth 51 = .ok (.ireturn, 1) := dk_172 (dk_at dksX3_girth_2 4 rfl rfl)
abbrev cX3_goesRound : ByteArray := prog_15_method_57_code
def yX3_goesRound : MethodName := ⟨RX3, "goesRound", "(IIIII)Z"⟩
def dkwX3_goesRound_5 : List UInt8 := [132, 6, 1, 167, 255, 143, 3, 172]
abbrev dktX3_goesRound_5 : List UInt8 := dkwX3_goesRound_5 ++ []
def dkwX3_goesRound_4 : List UInt8 := [4, 100, 21, 4, 4, 21, 6, 120, 128, 21, 5, 21, 8, 128, 182, 1, 30, 153, 0, 5, 4, 172]
abbrev dktX3_goesRound_4 : List UInt8 := dkwX3_goesRound_4 ++ dktX3_goesRound_5
def dkwX3_goesRound_3 : List UInt8 := [153, 0, 46, 21, 8, 21, 5, 126, 153, 0, 6, 167, 0, 35, 21, 7, 154, 0, 28, 42, 27, 21, 6, 29]
abbrev dktX3_goesRound_3 : List UInt8 := dkwX3_goesRound_3 ++ dktX3_goesRound_4
def dkwX3_goesRound_2 : List UInt8 := [160, 0, 6, 167, 0, 65, 42, 28, 182, 0, 216, 42, 21, 6, 182, 0, 216, 126, 54, 8, 21, 8]
abbrev dktX3_goesRound_2 : List UInt8 := dkwX3_goesRound_2 ++ dktX3_goesRound_3
def dkwX3_goesRound_1 : List UInt8 := [21, 7, 153, 0, 12, 21, 6, 27, 159, 0, 20, 167, 0, 79, 21, 4, 21, 6, 122, 4, 126, 4]
abbrev dktX3_goesRound_1 : List UInt8 := dkwX3_goesRound_1 ++ dktX3_goesRound_2
def dkwX3_goesRound_0 : List UInt8 := [3, 54, 6, 21, 6, 42, 182, 0, 213, 162, 0, 110, 29, 154, 0, 7, 4, 167, 0, 4, 3, 54, 7]
abbrev dktX3_goesRound_0 : List UInt8 := dkwX3_goesRound_0 ++ dktX3_goesRound_1
theorem dksX3_goesRound_0 : cX3_goesRound.data.toList.drop 0 = dktX3_goesRound_0 := by decide +kernel
theorem dksX3_goesRound_1 : cX3_goesRound.data.toList.drop 23 = dktX3_goesRound_1 := dk_seg dksX3_goesRound_0 23 rfl rfl
theorem dksX3_goesRound_2 : cX3_goesRound.data.toList.drop 45 = dktX3_goesRound_2 := dk_seg dksX3_goesRound_1 22 rfl rfl
theorem dksX3_goesRound_3 : cX3_goesRound.data.toList.drop 67 = dktX3_goesRound_3 := dk_seg dksX3_goesRound_2 22 rfl rfl
theorem dksX3_goesRound_4 : cX3_goesRound.data.toList.drop 91 = dktX3_goesRound_4 := dk_seg dksX3_goesRound_3 24 rfl rfl
theorem dksX3_goesRound_5 : cX3_goesRound.data.toList.drop 113 = dktX3_goesRound_5 := dk_seg dksX3_goesRound_4 22 rfl rfl
theorem dX3_goesRound_0 : decode cX3_goesRound 0 = .ok (.iconst 0, 1) := dk_3 (dk_at dksX3_goesRound_0 0 rfl rfl)
theorem dX3_goesRound_1 : decode cX3_goesRound 1 = .ok (.istore 6, 2) := dk_54 6 (dk_at dksX3_goesRound_0 1 rfl rfl)
theorem dX3_goesRound_3 : decode cX3_goesRound 3 = .ok (.iload 6, 2) := dk_21 6 (dk_at dksX3_goesRound_0 3 rfl rfl)
theorem dX3_goesRound_5 : decode cX3_goesRound 5 = .ok (.aload_n 0, 1) := dk_42 (dk_at dksX3_goesRound_0 5 rfl rfl)
theorem dX3_goesRound_6 : decode cX3_goesRound 6 = .ok (.invokevirtual 213, 3) := dk_182 0 213 (dk_at dksX3_goesRound_0 6 rfl rfl)
theorem dX3_goesRound_9 : decode cX3_goesRound 9 = .ok (.if_icmp .ge 110, 3) := dk_162 0 110 (dk_at dksX3_goesRound_0 9 rfl rfl)
theorem dX3_goesRound_12 : decode cX3_goesRound 12 = .ok (.iload_n 3, 1) := dk_29 (dk_at dksX3_goesRound_0 12 rfl rfl)
theorem dX3_goesRound_13 : decode cX3_goesRound 13 = .ok (.ifCond .ne 7, 3) := dk_154 0 7 (dk_at dksX3_goesRound_0 13 rfl rfl)
theorem dX3_goesRound_16 : decode cX3_goesRound 16 = .ok (.iconst 1, 1) := dk_4 (dk_at dksX3_goesRound_0 16 rfl rfl)
theorem dX3_goesRound_17 : decode cX3_goesRound 17 = .ok (.goto 4, 3) := dk_167 0 4 (dk_at dksX3_goesRound_0 17 rfl rfl)
theorem dX3_goesRound_20 : decode cX3_goesRound 20 = .ok (.iconst 0, 1) := dk_3 (dk_at dksX3_goesRound_0 20 rfl rfl)
theorem dX3_goesRound_21 : decode cX3_goesRound 21 = .ok (.istore 7, 2) := dk_54 7 (dk_at dksX3_goesRound_0 21 rfl rfl)
theorem dX3_goesRound_23 : decode cX3_goesRound 23 = .ok (.iload 7, 2) := dk_21 7 (dk_at dksX3_goesRound_1 0 rfl rfl)
theorem dX3_goesRound_25 : decode cX3_goesRound 25 = .ok (.ifCond .eq 12, 3) := dk_153 0 12 (dk_at dksX3_goesRound_1 2 rfl rfl)
theorem dX3_goesRound_28 : decode cX3_goesRound 28 = .ok (.iload 6, 2) := dk_21 6 (dk_at dksX3_goesRound_1 5 rfl rfl)
theorem dX3_goesRound_30 : decode cX3_goesRound 30 = .ok (.iload_n 1, 1) := dk_27 (dk_at dksX3_goesRound_1 7 rfl rfl)
theorem dX3_goesRound_31 : decode cX3_goesRound 31 = .ok (.if_icmp .eq 20, 3) := dk_159 0 20 (dk_at dksX3_goesRound_1 8 rfl rfl)
theorem dX3_goesRound_34 : decode cX3_goesRound 34 = .ok (.goto 79, 3) := dk_167 0 79 (dk_at dksX3_goesRound_1 11 rfl rfl)
theorem dX3_goesRound_37 : decode cX3_goesRound 37 = .ok (.iload 4, 2) := dk_21 4 (dk_at dksX3_goesRound_1 14 rfl rfl)
theorem dX3_goesRound_39 : decode cX3_goesRound 39 = .ok (.iload 6, 2) := dk_21 6 (dk_at dksX3_goesRound_1 16 rfl rfl)
theorem dX3_goesRound_41 : decode cX3_goesRound 41 = .ok (.ishr, 1) := dk_122 (dk_at dksX3_goesRound_1 18 rfl rfl)
theorem dX3_goesRound_42 : decode cX3_goesRound 42 = .ok (.iconst 1, 1) := dk_4 (dk_at dksX3_goesRound_1 19 rfl rfl)
theorem dX3_goesRound_43 : decode cX3_goesRound 43 = .ok (.iand, 1) := dk_126 (dk_at dksX3_goesRound_1 20 rfl rfl)
theorem dX3_goesRound_44 : decode cX3_goesRound 44 = .ok (.iconst 1, 1) := dk_4 (dk_at dksX3_goesRound_1 21 rfl rfl)
theorem dX3_goesRound_45 : decode cX3_goesRound 45 = .ok (.if_icmp .ne 6, 3) := dk_160 0 6 (dk_at dksX3_goesRound_2 0 rfl rfl)
theorem dX3_goesRound_48 : decode cX3_goesRound 48 = .ok (.goto 65, 3) := dk_167 0 65 (dk_at dksX3_goesRound_2 3 rfl rfl)
theorem dX3_goesRound_51 : decode cX3_goesRound 51 = .ok (.aload_n 0, 1) := dk_42 (dk_at dksX3_goesRound_2 6 rfl rfl)
theorem dX3_goesRound_52 : decode cX3_goesRound 52 = .ok (.iload_n 2, 1) := dk_28 (dk_at dksX3_goesRound_2 7 rfl rfl)
theorem dX3_goesRound_53 : decode cX3_goesRound 53 = .ok (.invokevirtual 216, 3) := dk_182 0 216 (dk_at dksX3_goesRound_2 8 rfl rfl)
theorem dX3_goesRound_56 : decode cX3_goesRound 56 = .ok (.aload_n 0, 1) := dk_42 (dk_at dksX3_goesRound_2 11 rfl rfl)
theorem dX3_goesRound_57 : decode cX3_goesRound 57 = .ok (.iload 6, 2) := dk_21 6 (dk_at dksX3_goesRound_2 12 rfl rfl)
theorem dX3_goesRound_59 : decode cX3_goesRound 59 = .ok (.invokevirtual 216, 3) := dk_182 0 216 (dk_at dksX3_goesRound_2 14 rfl rfl)
theorem dX3_goesRound_62 : decode cX3_goesRound 62 = .ok (.iand, 1) := dk_126 (dk_at dksX3_goesRound_2 17 rfl rfl)
theorem dX3_goesRound_63 : decode cX3_goesRound 63 = .ok (.istore 8, 2) := dk_54 8 (dk_at dksX3_goesRound_2 18 rfl rfl)
theorem dX3_goesRound_65 : decode cX3_goesRound 65 = .ok (.iload 8, 2) := dk_21 8 (dk_at dksX3_goesRound_2 20 rfl rfl)
theorem dX3_goesRound_67 : decode cX3_goesRound 67 = .ok (.ifCond .eq 46, 3) := dk_153 0 46 (dk_at dksX3_goesRound_3 0 rfl rfl)
theorem dX3_goesRound_70 : decode cX3_goesRound 70 = .ok (.iload 8, 2) := dk_21 8 (dk_at dksX3_goesRound_3 3 rfl rfl)
theorem dX3_goesRound_72 : decode cX3_goesRound 72 = .ok (.iload 5, 2) := dk_21 5 (dk_at dksX3_goesRound_3 5 rfl rfl)
theorem dX3_goesRound_74 : decode cX3_goesRound 74 = .ok (.iand, 1) := dk_126 (dk_at dksX3_goesRound_3 7 rfl rfl)
theorem dX3_goesRound_75 : decode cX3_goesRound 75 = .ok (.ifCond .eq 6, 3) := dk_153 0 6 (dk_at dksX3_goesRound_3 8 rfl rfl)
theorem dX3_goesRound_78 : decode cX3_goesRound 78 = .ok (.goto 35, 3) := dk_167 0 35 (dk_at dksX3_goesRound_3 11 rfl rfl)
theorem dX3_goesRound_81 : decode cX3_goesRound 81 = .ok (.iload 7, 2) := dk_21 7 (dk_at dksX3_goesRound_3 14 rfl rfl)
theorem dX3_goesRound_83 : decode cX3_goesRound 83 = .ok (.ifCond .ne 28, 3) := dk_154 0 28 (dk_at dksX3_goesRound_3 16 rfl rfl)
theorem dX3_goesRound_86 : decode cX3_goesRound 86 = .ok (.aload_n 0, 1) := dk_42 (dk_at dksX3_goesRound_3 19 rfl rfl)
theorem dX3_goesRound_87 : decode cX3_goesRound 87 = .ok (.iload_n 1, 1) := dk_27 (dk_at dksX3_goesRound_3 20 rfl rfl)
theorem dX3_goesRound_88 : decode cX3_goesRound 88 = .ok (.iload 6, 2) := dk_21 6 (dk_at dksX3_goesRound_3 21 rfl rfl)
theorem dX3_goesRound_90 : decode cX3_goesRound 90 = .ok (.iload_n 3, 1) := dk_29 (dk_at dksX3_goesRound_3 23 rfl rfl)
theorem dX3_goesRound_91 : decode cX3_goesRound 91 = .ok (.iconst 1, 1) := dk_4 (dk_at dksX3_goesRound_4 0 rfl rfl)
theorem dX3_goesRound_92 : decode cX3_goesRound 92 = .ok (.isub, 1) := dk_100 (dk_at dksX3_goesRound_4 1 rfl rfl)
theorem dX3_goesRound_93 : decode cX3_goesRound 93 = .ok (.iload 4, 2) := dk_21 4 (dk_at dksX3_goesRound_4 2 rfl rfl)
theorem dX3_goesRound_95 : decode cX3_goesRound 95 = .ok (.iconst 1, 1) := dk_4 (dk_at dksX3_goesRound_4 4 rfl rfl)
theorem dX3_goesRound_96 : decode cX3_goesRound 96 = .ok (.iload 6, 2) := dk_21 6 (dk_at dksX3_goesRound_4 5 rfl rfl)
theorem dX3_goesRound_98 : decode cX3_goesRound 98 = .ok (.ishl, 1) := dk_120 (dk_at dksX3_goesRound_4 7 rfl rfl)
theorem dX3_goesRound_99 : decode cX3_goesRound 99 = .ok (.ior, 1) := dk_128 (dk_at dksX3_goesRound_4 8 rfl rfl)
theorem dX3_goesRound_100 : decode cX3_goesRound 100 = .ok (.iload 5, 2) := dk_21 5 (dk_at dksX3_goesRound_4 9 rfl rfl)
theorem dX3_goesRound_102 : decode cX3_goesRound 102 = .ok (.iload 8, 2) := dk_21 8 (dk_at dksX3_goesRound_4 11 rfl rfl)
theorem dX3_goesRound_104 : decode cX3_goesRound 104 = .ok (.ior, 1) := dk_128 (dk_at dksX3_goesRound_4 13 rfl rfl)
theorem dX3_goesRound_105 : decode cX3_goesRound 105 = .ok (.invokevirtual 286, 3) := dk_182 1 30 (dk_at dksX3_goesRound_4 14 rfl rfl)
theorem dX3_goesRound_108 : decode cX3_goesRound 108 = .ok (.ifCond .eq 5, 3) := dk_153 0 5 (dk_at dksX3_goesRound_4 17 rfl rfl)
theorem dX3_goesRound_111 : decode cX3_goesRound 111 = .ok (.iconst 1, 1) := dk_4 (dk_at dksX3_goesRound_4 20 rfl rfl)
theorem dX3_goesRound_112 : decode cX3_goesRound 112 = .ok (.ireturn, 1) := dk_172 (dk_at dksX3_goesRound_4 21 rfl rfl)
theorem dX3_goesRound_113 : decode cX3_goesRound 113 = .ok (.iinc 6 1, 3) := dk_132 6 1 (dk_at dksX3_goesRound_5 0 rfl rfl)
theorem dX3_goesRound_116 : decode cX3_goesRound 116 = .ok (.goto (-113), 3) := dk_167 255 143 (dk_at dksX3_goesRound_5 3 rfl rfl)
theorem dX3_goesRound_119 : decode cX3_goesRound 119 = .ok (.iconst 0, 1) := dk_3 (dk_at dksX3_goesRound_5 6 rfl rfl)
theorem dX3_goesRound_120 : decode cX3_goesRound 120 = .ok (.ireturn, 1) := dk_172 (dk_at dksX3_goesRound_5 7 rfl rfl)
abbrev cX3_fours : ByteArray := prog_15_method_35_code
def yX3_fours : MethodName := ⟨RX3, "fours", "()I"⟩
def dkwX3_fours_5 : List UInt8 := [172]
abbrev dktX3_fours_5 : List UInt8 := dkwX3_fours_5 ++ []
def dkwX3_fours_4 : List UInt8 := [27, 29, 184, 0, 210, 16, 6, 160, 0, 7, 4, 167, 0, 4, 3, 96, 60, 132, 2, 1, 167, 255, 148, 27]
abbrev dktX3_fours_4 : List UInt8 := dkwX3_fours_4 ++ dktX3_fours_5
def dkwX3_fours_3 : List UInt8 := [182, 0, 216, 42, 21, 5, 182, 0, 216, 126, 128, 62, 132, 5, 1, 167, 255, 215, 132, 4, 1, 167, 255, 197]
abbrev dktX3_fours_3 : List UInt8 := dkwX3_fours_3 ++ dktX3_fours_4
def dkwX3_fours_2 : List UInt8 := [162, 0, 40, 28, 21, 4, 122, 28, 21, 5, 122, 126, 4, 126, 4, 160, 0, 19, 29, 42, 21, 4]
abbrev dktX3_fours_2 : List UInt8 := dkwX3_fours_2 ++ dktX3_fours_3
def dkwX3_fours_1 : List UInt8 := [167, 0, 87, 3, 62, 3, 54, 4, 21, 4, 42, 182, 0, 213, 162, 0, 56, 3, 54, 5, 21, 5, 21, 4]
abbrev dktX3_fours_1 : List UInt8 := dkwX3_fours_1 ++ dktX3_fours_2
def dkwX3_fours_0 : List UInt8 := [3, 60, 3, 61, 28, 4, 42, 182, 0, 213, 120, 162, 0, 104, 28, 184, 0, 210, 7, 159, 0, 6]
abbrev dktX3_fours_0 : List UInt8 := dkwX3_fours_0 ++ dktX3_fours_1
theorem dksX3_fours_0 : cX3_fours.data.toList.drop 0 = dktX3_fours_0 := by decide +kernel
theorem dksX3_fours_1 : cX3_fours.data.toList.drop 22 = dktX3_fours_1 := dk_seg dksX3_fours_0 22 rfl rfl
theorem dksX3_fours_2 : cX3_fours.data.toList.drop 46 = dktX3_fours_2 := dk_seg dksX3_fours_1 24 rfl rfl
theorem dksX3_fours_3 : cX3_fours.data.toList.drop 68 = dktX3_fours_3 := dk_seg dksX3_fours_2 22 rfl rfl
theorem dksX3_fours_4 : cX3_fours.data.toList.drop 92 = dktX3_fours_4 := dk_seg dksX3_fours_3 24 rfl rfl
theorem dksX3_fours_5 : cX3_fours.data.toList.drop 116 = dktX3_fours_5 := dk_seg dksX3_fours_4 24 rfl rfl
theorem dX3_fours_0 : decode cX3_fours 0 = .ok (.iconst 0, 1) := dk_3 (dk_at dksX3_fours_0 0 rfl rfl)
theorem dX3_fours_1 : decode cX3_fours 1 = .ok (.istore_n 1, 1) := dk_60 (dk_at dksX3_fours_0 1 rfl rfl)
theorem dX3_fours_2 : decode cX3_fours 2 = .ok (.iconst 0, 1) := dk_3 (dk_at dksX3_fours_0 2 rfl rfl)
theorem dX3_fours_3 : decode cX3_fours 3 = .ok (.istore_n 2, 1) := dk_61 (dk_at dksX3_fours_0 3 rfl rfl)
theorem dX3_fours_4 : decode cX3_fours 4 = .ok (.iload_n 2, 1) := dk_28 (dk_at dksX3_fours_0 4 rfl rfl)
theorem dX3_fours_5 : decode cX3_fours 5 = .ok (.iconst 1, 1) := dk_4 (dk_at dksX3_fours_0 5 rfl rfl)
theorem dX3_fours_6 : decode cX3_fours 6 = .ok (.aload_n 0, 1) := dk_42 (dk_at dksX3_fours_0 6 rfl rfl)
theorem dX3_fours_7 : decode cX3_fours 7 = .ok (.invokevirtual 213, 3) := dk_182 0 213 (dk_at dksX3_fours_0 7 rfl rfl)
theorem dX3_fours_10 : decode cX3_fours 10 = .ok (.ishl, 1) := dk_120 (dk_at dksX3_fours_0 10 rfl rfl)
theorem dX3_fours_11 : decode cX3_fours 11 = .ok (.if_icmp .ge 104, 3) := dk_162 0 104 (dk_at dksX3_fours_0 11 rfl rfl)
theorem dX3_fours_14 : decode cX3_fours 14 = .ok (.iload_n 2, 1) := dk_28 (dk_at dksX3_fours_0 14 rfl rfl)
theorem dX3_fours_15 : decode cX3_fours 15 = .ok (.invokestatic 210, 3) := dk_184 0 210 (dk_at dksX3_fours_0 15 rfl rfl)
theorem dX3_fours_18 : decode cX3_fours 18 = .ok (.iconst 4, 1) := dk_7 (dk_at dksX3_fours_0 18 rfl rfl)
theorem dX3_fours_19 : decode cX3_fours 19 = .ok (.if_icmp .eq 6, 3) := dk_159 0 6 (dk_at dksX3_fours_0 19 rfl rfl)
theorem dX3_fours_22 : decode cX3_fours 22 = .ok (.goto 87, 3) := dk_167 0 87 (dk_at dksX3_fours_1 0 rfl rfl)
theorem dX3_fours_25 : decode cX3_fours 25 = .ok (.iconst 0, 1) := dk_3 (dk_at dksX3_fours_1 3 rfl rfl)
theorem dX3_fours_26 : decode cX3_fours 26 = .ok (.istore_n 3, 1) := dk_62 (dk_at dksX3_fours_1 4 rfl rfl)
theorem dX3_fours_27 : decode cX3_fours 27 = .ok (.iconst 0, 1) := dk_3 (dk_at dksX3_fours_1 5 rfl rfl)
theorem dX3_fours_28 : decode cX3_fours 28 = .ok (.istore 4, 2) := dk_54 4 (dk_at dksX3_fours_1 6 rfl rfl)
theorem dX3_fours_30 : decode cX3_fours 30 = .ok (.iload 4, 2) := dk_21 4 (dk_at dksX3_fours_1 8 rfl rfl)
theorem dX3_fours_32 : decode cX3_fours 32 = .ok (.aload_n 0, 1) := dk_42 (dk_at dksX3_fours_1 10 rfl rfl)
theorem dX3_fours_33 : decode cX3_fours 33 = .ok (.invokevirtual 213, 3) := dk_182 0 213 (dk_at dksX3_fours_1 11 rfl rfl)
theorem dX3_fours_36 : decode cX3_fours 36 = .ok (.if_icmp .ge 56, 3) := dk_162 0 56 (dk_at dksX3_fours_1 14 rfl rfl)
theorem dX3_fours_39 : decode cX3_fours 39 = .ok (.iconst 0, 1) := dk_3 (dk_at dksX3_fours_1 17 rfl rfl)
theorem dX3_fours_40 : decode cX3_fours 40 = .ok (.istore 5, 2) := dk_54 5 (dk_at dksX3_fours_1 18 rfl rfl)
theorem dX3_fours_42 : decode cX3_fours 42 = .ok (.iload 5, 2) := dk_21 5 (dk_at dksX3_fours_1 20 rfl rfl)
theorem dX3_fours_44 : decode cX3_fours 44 = .ok (.iload 4, 2) := dk_21 4 (dk_at dksX3_fours_1 22 rfl rfl)
theorem dX3_fours_46 : decode cX3_fours 46 = .ok (.if_icmp .ge 40, 3) := dk_162 0 40 (dk_at dksX3_fours_2 0 rfl rfl)
theorem dX3_fours_49 : decode cX3_fours 49 = .ok (.iload_n 2, 1) := dk_28 (dk_at dksX3_fours_2 3 rfl rfl)
theorem dX3_fours_50 : decode cX3_fours 50 = .ok (.iload 4, 2) := dk_21 4 (dk_at dksX3_fours_2 4 rfl rfl)
theorem dX3_fours_52 : decode cX3_fours 52 = .ok (.ishr, 1) := dk_122 (dk_at dksX3_fours_2 6 rfl rfl)
theorem dX3_fours_53 : decode cX3_fours 53 = .ok (.iload_n 2, 1) := dk_28 (dk_at dksX3_fours_2 7 rfl rfl)
theorem dX3_fours_54 : decode cX3_fours 54 = .ok (.iload 5, 2) := dk_21 5 (dk_at dksX3_fours_2 8 rfl rfl)
theorem dX3_fours_56 : decode cX3_fours 56 = .ok (.ishr, 1) := dk_122 (dk_at dksX3_fours_2 10 rfl rfl)
theorem dX3_fours_57 : decode cX3_fours 57 = .ok (.iand, 1) := dk_126 (dk_at dksX3_fours_2 11 rfl rfl)
theorem dX3_fours_58 : decode cX3_fours 58 = .ok (.iconst 1, 1) := dk_4 (dk_at dksX3_fours_2 12 rfl rfl)
theorem dX3_fours_59 : decode cX3_fours 59 = .ok (.iand, 1) := dk_126 (dk_at dksX3_fours_2 13 rfl rfl)
theorem dX3_fours_60 : decode cX3_fours 60 = .ok (.iconst 1, 1) := dk_4 (dk_at dksX3_fours_2 14 rfl rfl)
theorem dX3_fours_61 : decode cX3_fours 61 = .ok (.if_icmp .ne 19, 3) := dk_160 0 19 (dk_at dksX3_fours_2 15 rfl rfl)
theorem dX3_fours_64 : decode cX3_fours 64 = .ok (.iload_n 3, 1) := dk_29 (dk_at dksX3_fours_2 18 rfl rfl)
theorem dX3_fours_65 : decode cX3_fours 65 = .ok (.aload_n 0, 1) := dk_42 (dk_at dksX3_fours_2 19 rfl rfl)
theorem dX3_fours_66 : decode cX3_fours 66 = .ok (.iload 4, 2) := dk_21 4 (dk_at dksX3_fours_2 20 rfl rfl)
theorem dX3_fours_68 : decode cX3_fours 68 = .ok (.invokevirtual 216, 3) := dk_182 0 216 (dk_at dksX3_fours_3 0 rfl rfl)
theorem dX3_fours_71 : decode cX3_fours 71 = .ok (.aload_n 0, 1) := dk_42 (dk_at dksX3_fours_3 3 rfl rfl)
theorem dX3_fours_72 : decode cX3_fours 72 = .ok (.iload 5, 2) := dk_21 5 (dk_at dksX3_fours_3 4 rfl rfl)
theorem dX3_fours_74 : decode cX3_fours 74 = .ok (.invokevirtual 216, 3) := dk_182 0 216 (dk_at dksX3_fours_3 6 rfl rfl)
theorem dX3_fours_77 : decode cX3_fours 77 = .ok (.iand, 1) := dk_126 (dk_at dksX3_fours_3 9 rfl rfl)
theorem dX3_fours_78 : decode cX3_fours 78 = .ok (.ior, 1) := dk_128 (dk_at dksX3_fours_3 10 rfl rfl)
theorem dX3_fours_79 : decode cX3_fours 79 = .ok (.istore_n 3, 1) := dk_62 (dk_at dksX3_fours_3 11 rfl rfl)
theorem dX3_fours_80 : decode cX3_fours 80 = .ok (.iinc 5 1, 3) := dk_132 5 1 (dk_at dksX3_fours_3 12 rfl rfl)
theorem dX3_fours_83 : decode cX3_fours 83 = .ok (.goto (-41), 3) := dk_167 255 215 (dk_at dksX3_fours_3 15 rfl rfl)
theorem dX3_fours_86 : decode cX3_fours 86 = .ok (.iinc 4 1, 3) := dk_132 4 1 (dk_at dksX3_fours_3 18 rfl rfl)
theorem dX3_fours_89 : decode cX3_fours 89 = .ok (.goto (-59), 3) := dk_167 255 197 (dk_at dksX3_fours_3 21 rfl rfl)
theorem dX3_fours_92 : decode cX3_fours 92 = .ok (.iload_n 1, 1) := dk_27 (dk_at dksX3_fours_4 0 rfl rfl)
theorem dX3_fours_93 : decode cX3_fours 93 = .ok (.iload_n 3, 1) := dk_29 (dk_at dksX3_fours_4 1 rfl rfl)
theorem dX3_fours_94 : decode cX3_fours 94 = .ok (.invokestatic 210, 3) := dk_184 0 210 (dk_at dksX3_fours_4 2 rfl rfl)
theorem dX3_fours_97 : decode cX3_fours 97 = .ok (.bipush 6, 2) := dk_16 6 (dk_at dksX3_fours_4 5 rfl rfl)
theorem dX3_fours_99 : decode cX3_fours 99 = .ok (.if_icmp .ne 7, 3) := dk_160 0 7 (dk_at dksX3_fours_4 7 rfl rfl)
theorem dX3_fours_102 : decode cX3_fours 102 = .ok (.iconst 1, 1) := dk_4 (dk_at dksX3_fours_4 10 rfl rfl)
theorem dX3_fours_103 : decode cX3_fours 103 = .ok (.goto 4, 3) := dk_167 0 4 (dk_at dksX3_fours_4 11 rfl rfl)
theorem dX3_fours_106 : decode cX3_fours 106 = .ok (.iconst 0, 1) := dk_3 (dk_at dksX3_fours_4 14 rfl rfl)
theorem dX3_fours_107 : decode cX3_fours 107 = .ok (.iadd, 1) := dk_96 (dk_at dksX3_fours_4 15 rfl rfl)
theorem dX3_fours_108 : decode cX3_fours 108 = .ok (.istore_n 1, 1) := dk_60 (dk_at dksX3_fours_4 16 rfl rfl)
theorem dX3_fours_109 : decode cX3_fours 109 = .ok (.iinc 2 1, 3) := dk_132 2 1 (dk_at dksX3_fours_4 17 rfl rfl)
theorem dX3_fours_112 : decode cX3_fours 112 = .ok (.goto (-108), 3) := dk_167 255 148 (dk_at dksX3_fours_4 20 rfl rfl)
theorem dX3_fours_115 : decode cX3_fours 115 = .ok (.iload_n 1, 1) := dk_27 (dk_at dksX3_fours_4 23 rfl rfl)
theorem dX3_fours_116 : decode cX3_fours 116 = .ok (.ireturn, 1) := dk_172 (dk_at dksX3_fours_5 0 rfl rfl)
abbrev cX3_apart : ByteArray := prog_15_method_36_code
def yX3_apart : MethodName := ⟨RX3, "apart", "()I"⟩
def dkwX3_apart_2 : List UInt8 := [132, 3, 1, 167, 255, 223, 132, 2, 1, 167, 255, 205, 27, 172]
abbrev dktX3_apart_2 : List UInt8 := dkwX3_apart_2 ++ []
def dkwX3_apart_1 : List UInt8 := [27, 42, 28, 182, 0, 216, 42, 29, 182, 0, 216, 126, 154, 0, 7, 4, 167, 0, 4, 3, 96, 60]
abbrev dktX3_apart_1 : List UInt8 := dkwX3_apart_1 ++ dktX3_apart_2
def dkwX3_apart_0 : List UInt8 := [3, 60, 3, 61, 28, 42, 182, 0, 213, 162, 0, 49, 28, 4, 96, 62, 29, 42, 182, 0, 213, 162, 0, 31]
abbrev dktX3_apart_0 : List UInt8 := dkwX3_apart_0 ++ dktX3_apart_1
theorem dksX3_apart_0 : cX3_apart.data.toList.drop 0 = dktX3_apart_0 := by decide +kernel
theorem dksX3_apart_1 : cX3_apart.data.toList.drop 24 = dktX3_apart_1 := dk_seg dksX3_apart_0 24 rfl rfl
theorem dksX3_apart_2 : cX3_apart.data.toList.drop 46 = dktX3_apart_2 := dk_seg dksX3_apart_1 22 rfl rfl
theorem dX3_apart_0 : decode cX3_apart 0 = .ok (.iconst 0, 1) := dk_3 (dk_at dksX3_apart_0 0 rfl rfl)
theorem dX3_apart_1 : decode cX3_apart 1 = .ok (.istore_n 1, 1) := dk_60 (dk_at dksX3_apart_0 1 rfl rfl)
theorem dX3_apart_2 : decode cX3_apart 2 = .ok (.iconst 0, 1) := dk_3 (dk_at dksX3_apart_0 2 rfl rfl)
theorem dX3_apart_3 : decode cX3_apart 3 = .ok (.istore_n 2, 1) := dk_61 (dk_at dksX3_apart_0 3 rfl rfl)
theorem dX3_apart_4 : decode cX3_apart 4 = .ok (.iload_n 2, 1) := dk_28 (dk_at dksX3_apart_0 4 rfl rfl)
theorem dX3_apart_5 : decode cX3_apart 5 = .ok (.aload_n 0, 1) := dk_42 (dk_at dksX3_apart_0 5 rfl rfl)
theorem dX3_apart_6 : decode cX3_apart 6 = .ok (.invokevirtual 213, 3) := dk_182 0 213 (dk_at dksX3_apart_0 6 rfl rfl)
theorem dX3_apart_9 : decode cX3_apart 9 = .ok (.if_icmp .ge 49, 3) := dk_162 0 49 (dk_at dksX3_apart_0 9 rfl rfl)
theorem dX3_apart_12 : decode cX3_apart 12 = .ok (.iload_n 2, 1) := dk_28 (dk_at dksX3_apart_0 12 rfl rfl)
theorem dX3_apart_13 : decode cX3_apart 13 = .ok (.iconst 1, 1) := dk_4 (dk_at dksX3_apart_0 13 rfl rfl)
theorem dX3_apart_14 : decode cX3_apart 14 = .ok (.iadd, 1) := dk_96 (dk_at dksX3_apart_0 14 rfl rfl)
theorem dX3_apart_15 : decode cX3_apart 15 = .ok (.istore_n 3, 1) := dk_62 (dk_at dksX3_apart_0 15 rfl rfl)
theorem dX3_apart_16 : decode cX3_apart 16 = .ok (.iload_n 3, 1) := dk_29 (dk_at dksX3_apart_0 16 rfl rfl)
theorem dX3_apart_17 : decode cX3_apart 17 = .ok (.aload_n 0, 1) := dk_42 (dk_at dksX3_apart_0 17 rfl rfl)
theorem dX3_apart_18 : decode cX3_apart 18 = .ok (.invokevirtual 213, 3) := dk_182 0 213 (dk_at dksX3_apart_0 18 rfl rfl)
theorem dX3_apart_21 : decode cX3_apart 21 = .ok (.if_icmp .ge 31, 3) := dk_162 0 31 (dk_at dksX3_apart_0 21 rfl rfl)
theorem dX3_apart_24 : decode cX3_apart 24 = .ok (.iload_n 1, 1) := dk_27 (dk_at dksX3_apart_1 0 rfl rfl)
theorem dX3_apart_25 : decode cX3_apart 25 = .ok (.aload_n 0, 1) := dk_42 (dk_at dksX3_apart_1 1 rfl rfl)
theorem dX3_apart_26 : decode cX3_apart 26 = .ok (.iload_n 2, 1) := dk_28 (dk_at dksX3_apart_1 2 rfl rfl)
theorem dX3_apart_27 : decode cX3_apart 27 = .ok (.invokevirtual 216, 3) := dk_182 0 216 (dk_at dksX3_apart_1 3 rfl rfl)
theorem dX3_apart_30 : decode cX3_apart 30 = .ok (.aload_n 0, 1) := dk_42 (dk_at dksX3_apart_1 6 rfl rfl)
theorem dX3_apart_31 : decode cX3_apart 31 = .ok (.iload_n 3, 1) := dk_29 (dk_at dksX3_apart_1 7 rfl rfl)
theorem dX3_apart_32 : decode cX3_apart 32 = .ok (.invokevirtual 216, 3) := dk_182 0 216 (dk_at dksX3_apart_1 8 rfl rfl)
theorem dX3_apart_35 : decode cX3_apart 35 = .ok (.iand, 1) := dk_126 (dk_at dksX3_apart_1 11 rfl rfl)
theorem dX3_apart_36 : decode cX3_apart 36 = .ok (.ifCond .ne 7, 3) := dk_154 0 7 (dk_at dksX3_apart_1 12 rfl rfl)
theorem dX3_apart_39 : decode cX3_apart 39 = .ok (.iconst 1, 1) := dk_4 (dk_at dksX3_apart_1 15 rfl rfl)
theorem dX3_apart_40 : decode cX3_apart 40 = .ok (.goto 4, 3) := dk_167 0 4 (dk_at dksX3_apart_1 16 rfl rfl)
theorem dX3_apart_43 : decode cX3_apart 43 = .ok (.iconst 0, 1) := dk_3 (dk_at dksX3_apart_1 19 rfl rfl)
theorem dX3_apart_44 : decode cX3_apart 44 = .ok (.iadd, 1) := dk_96 (dk_at dksX3_apart_1 20 rfl rfl)
theorem dX3_apart_45 : decode cX3_apart 45 = .ok (.istore_n 1, 1) := dk_60 (dk_at dksX3_apart_1 21 rfl rfl)
theorem dX3_apart_46 : decode cX3_apart 46 = .ok (.iinc 3 1, 3) := dk_132 3 1 (dk_at dksX3_apart_2 0 rfl rfl)
theorem dX3_apart_49 : decode cX3_apart 49 = .ok (.goto (-33), 3) := dk_167 255 223 (dk_at dksX3_apart_2 3 rfl rfl)
theorem dX3_apart_52 : decode cX3_apart 52 = .ok (.iinc 2 1, 3) := dk_132 2 1 (dk_at dksX3_apart_2 6 rfl rfl)
theorem dX3_apart_55 : decode cX3_apart 55 = .ok (.goto (-51), 3) := dk_167 255 205 (dk_at dksX3_apart_2 9 rfl rfl)
theorem dX3_apart_58 : decode cX3_apart 58 = .ok (.iload_n 1, 1) := dk_27 (dk_at dksX3_apart_2 12 rfl rfl)
theorem dX3_apart_59 : decode cX3_apart 59 = .ok (.ireturn, 1) := dk_172 (dk_at dksX3_apart_2 13 rfl rfl)
abbrev cX3_line : ByteArray := prog_15_method_62_code
def yX3_line : MethodName := ⟨RX3, "line", "(I)I"⟩
def dkwX3_line_1 : List UInt8 := [182, 0, 192, 172]
abbrev dktX3_line_1 : List UInt8 := dkwX3_line_1 ++ []
def dkwX3_line_0 : List UInt8 := [42, 3, 181, 0, 93, 42, 27, 182, 1, 74, 153, 0, 11, 42, 27, 182, 0, 216, 167, 0, 8, 42, 4]
abbrev dktX3_line_0 : List UInt8 := dkwX3_line_0 ++ dktX3_line_1
theorem dksX3_line_0 : cX3_line.data.toList.drop 0 = dktX3_line_0 := by decide +kernel
theorem dksX3_line_1 : cX3_line.data.toList.drop 23 = dktX3_line_1 := dk_seg dksX3_line_0 23 rfl rfl
theorem dX3_line_0 : decode cX3_line 0 = .ok (.aload_n 0, 1) := dk_42 (dk_at dksX3_line_0 0 rfl rfl)
theorem dX3_line_1 : decode cX3_line 1 = .ok (.iconst 0, 1) := dk_3 (dk_at dksX3_line_0 1 rfl rfl)
theorem dX3_line_2 : decode cX3_line 2 = .ok (.putfield 93, 3) := dk_181 0 93 (dk_at dksX3_line_0 2 rfl rfl)
theorem dX3_line_5 : decode cX3_line 5 = .ok (.aload_n 0, 1) := dk_42 (dk_at dksX3_line_0 5 rfl rfl)
theorem dX3_line_6 : decode cX3_line 6 = .ok (.iload_n 1, 1) := dk_27 (dk_at dksX3_line_0 6 rfl rfl)
theorem dX3_line_7 : decode cX3_line 7 = .ok (.invokevirtual 330, 3) := dk_182 1 74 (dk_at dksX3_line_0 7 rfl rfl)
theorem dX3_line_10 : decode cX3_line 10 = .ok (.ifCond .eq 11, 3) := dk_153 0 11 (dk_at dksX3_line_0 10 rfl rfl)
theorem dX3_line_13 : decode cX3_line 13 = .ok (.aload_n 0, 1) := dk_42 (dk_at dksX3_line_0 13 rfl rfl)
theorem dX3_line_14 : decode cX3_line 14 = .ok (.iload_n 1, 1) := dk_27 (dk_at dksX3_line_0 14 rfl rfl)
theorem dX3_line_15 : decode cX3_line 15 = .ok (.invokevirtual 216, 3) := dk_182 0 216 (dk_at dksX3_line_0 15 rfl rfl)
theorem dX3_line_18 : decode cX3_line 18 = .ok (.goto 8, 3) := dk_167 0 8 (dk_at dksX3_line_0 18 rfl rfl)
theorem dX3_line_21 : decode cX3_line 21 = .ok (.aload_n 0, 1) := dk_42 (dk_at dksX3_line_0 21 rfl rfl)
theorem dX3_line_22 : decode cX3_line 22 = .ok (.iconst 1, 1) := dk_4 (dk_at dksX3_line_0 22 rfl rfl)
theorem dX3_line_23 : decode cX3_line 23 = .ok (.invokevirtual 192, 3) := dk_182 0 192 (dk_at dksX3_line_1 0 rfl rfl)
theorem dX3_line_26 : decode cX3_line 26 = .ok (.ireturn, 1) := dk_172 (dk_at dksX3_line_1 3 rfl rfl)
abbrev cX3_isLine : ByteArray := prog_15_method_61_code
def yX3_isLine : MethodName := ⟨RX3, "isLine", "(I)Z"⟩
def dkwX3_isLine_0 : List UInt8 := [27, 3, 42, 182, 0, 213, 4, 100, 184, 1, 71, 172]
abbrev dktX3_isLine_0 : List UInt8 := dkwX3_isLine_0 ++ []
theorem dksX3_isLine_0 : cX3_isLine.data.toList.drop 0 = dktX3_isLine_0 := by decide +kernel
theorem dX3_isLine_0 : decode cX3_isLine 0 = .ok (.iload_n 1, 1) := dk_27 (dk_at dksX3_isLine_0 0 rfl rfl)
theorem dX3_isLine_1 : decode cX3_isLine 1 = .ok (.iconst 0, 1) := dk_3 (dk_at dksX3_isLine_0 1 rfl rfl)
theorem dX3_isLine_2 : decode cX3_isLine 2 = .ok (.aload_n 0, 1) := dk_42 (dk_at dksX3_isLine_0 2 rfl rfl)
theorem dX3_isLine_3 : decode cX3_isLine 3 = .ok (.invokevirtual 213, 3) := dk_182 0 213 (dk_at dksX3_isLine_0 3 rfl rfl)
theorem dX3_isLine_6 : decode cX3_isLine 6 = .ok (.iconst 1, 1) := dk_4 (dk_at dksX3_isLine_0 6 rfl rfl)
theorem dX3_isLine_7 : decode cX3_isLine 7 = .ok (.isub, 1) := dk_100 (dk_at dksX3_isLine_0 7 rfl rfl)
theorem dX3_isLine_8 : decode cX3_isLine 8 = .ok (.invokestatic 327, 3) := dk_184 1 71 (dk_at dksX3_isLine_0 8 rfl rfl)
theorem dX3_isLine_11 : decode cX3_isLine 11 = .ok (.ireturn, 1) := dk_172 (dk_at dksX3_isLine_0 11 rfl rfl)
abbrev cX3_isIn : ByteArray := prog_15_method_4_code
def yX3_isIn : MethodName := ⟨RX3, "isIn", "(III)Z"⟩
def dkwX3_isIn_0 : List UInt8 := [26, 27, 161, 0, 12, 26, 28, 163, 0, 7, 4, 167, 0, 4, 3, 172]
abbrev dktX3_isIn_0 : List UInt8 := dkwX3_isIn_0 ++ []
theorem dksX3_isIn_0 : cX3_isIn.data.toList.drop 0 = dktX3_isIn_0 := by decide +kernel
theorem dX3_isIn_0 : decode cX3_isIn 0 = .ok (.iload_n 0, 1) := dk_26 (dk_at dksX3_isIn_0 0 rfl rfl)
theorem dX3_isIn_1 : decode cX3_isIn 1 = .ok (.iload_n 1, 1) := dk_27 (dk_at dksX3_isIn_0 1 rfl rfl)
theorem dX3_isIn_2 : decode cX3_isIn 2 = .ok (.if_icmp .lt 12, 3) := dk_161 0 12 (dk_at dksX3_isIn_0 2 rfl rfl)
theorem dX3_isIn_5 : decode cX3_isIn 5 = .ok (.iload_n 0, 1) := dk_26 (dk_at dksX3_isIn_0 5 rfl rfl)
theorem dX3_isIn_6 : decode cX3_isIn 6 = .ok (.iload_n 2, 1) := dk_28 (dk_at dksX3_isIn_0 6 rfl rfl)
theorem dX3_isIn_7 : decode cX3_isIn 7 = .ok (.if_icmp .gt 7, 3) := dk_163 0 7 (dk_at dksX3_isIn_0 7 rfl rfl)
theorem dX3_isIn_10 : decode cX3_isIn 10 = .ok (.iconst 1, 1) := dk_4 (dk_at dksX3_isIn_0 10 rfl rfl)
theorem dX3_isIn_11 : decode cX3_isIn 11 = .ok (.goto 4, 3) := dk_167 0 4 (dk_at dksX3_isIn_0 11 rfl rfl)
theorem dX3_isIn_14 : decode cX3_isIn 14 = .ok (.iconst 0, 1) := dk_3 (dk_at dksX3_isIn_0 14 rfl rfl)
theorem dX3_isIn_15 : decode cX3_isIn 15 = .ok (.ireturn, 1) := dk_172 (dk_at dksX3_isIn_0 15 rfl rfl)
abbrev cX3_point : ByteArray := prog_15_method_63_code
def yX3_point : MethodName := ⟨RX3, "point", "(II)I"⟩
def dkwX3_point_4 : List UInt8 := [27, 182, 0, 237, 184, 0, 240, 172, 42, 4, 182, 0, 192, 172]
abbrev dktX3_point_4 : List UInt8 := dkwX3_point_4 ++ []
def dkwX3_point_3 : List UInt8 := [46, 172, 42, 182, 1, 7, 158, 0, 15, 42, 180, 0, 32, 27, 46, 184, 0, 240, 167, 0, 4, 27, 172, 42]
abbrev dktX3_point_3 : List UInt8 := dkwX3_point_3 ++ dktX3_point_4
def dkwX3_point_2 : List UInt8 := [42, 27, 182, 0, 228, 172, 42, 180, 0, 9, 16, 14, 27, 96, 46, 172, 42, 180, 0, 9, 16, 22, 27, 96]
abbrev dktX3_point_2 : List UInt8 := dkwX3_point_2 ++ dktX3_point_3
def dkwX3_point_1 : List UInt8 := [170, 0, 0, 0, 0, 0, 0, 92, 0, 0, 0, 0, 0, 0, 0, 4, 0, 0, 0, 36, 0, 0, 0, 42, 0, 0, 0, 52, 0, 0, 0, 62, 0, 0, 0, 83]
abbrev dktX3_point_1 : List UInt8 := dkwX3_point_1 ++ dktX3_point_2
def dkwX3_point_0 : List UInt8 := [42, 3, 181, 0, 93, 42, 27, 182, 1, 77, 154, 0, 9, 42, 4, 182, 0, 192, 172, 28]
abbrev dktX3_point_0 : List UInt8 := dkwX3_point_0 ++ dktX3_point_1
theorem dksX3_point_0 : cX3_point.data.toList.drop 0 = dktX3_point_0 := by decide +kernel
theorem dksX3_point_1 : cX3_point.data.toList.drop 20 = dktX3_point_1 := dk_seg dksX3_point_0 20 rfl rfl
theorem dksX3_point_2 : cX3_point.data.toList.drop 56 = dktX3_point_2 := dk_seg dksX3_point_1 36 rfl rfl
theorem dksX3_point_3 : cX3_point.data.toList.drop 80 = dktX3_point_3 := dk_seg dksX3_point_2 24 rfl rfl
theorem dksX3_point_4 : cX3_point.data.toList.drop 104 = dktX3_point_4 := dk_seg dksX3_point_3 24 rfl rfl
theorem dX3_point_0 : decode cX3_point 0 = .ok (.aload_n 0, 1) := dk_42 (dk_at dksX3_point_0 0 rfl rfl)
theorem dX3_point_1 : decode cX3_point 1 = .ok (.iconst 0, 1) := dk_3 (dk_at dksX3_point_0 1 rfl rfl)
theorem dX3_point_2 : decode cX3_point 2 = .ok (.putfield 93, 3) := dk_181 0 93 (dk_at dksX3_point_0 2 rfl rfl)
theorem dX3_point_5 : decode cX3_point 5 = .ok (.aload_n 0, 1) := dk_42 (dk_at dksX3_point_0 5 rfl rfl)
theorem dX3_point_6 : decode cX3_point 6 = .ok (.iload_n 1, 1) := dk_27 (dk_at dksX3_point_0 6 rfl rfl)
theorem dX3_point_7 : decode cX3_point 7 = .ok (.invokevirtual 333, 3) := dk_182 1 77 (dk_at dksX3_point_0 7 rfl rfl)
theorem dX3_point_10 : decode cX3_point 10 = .ok (.ifCond .ne 9, 3) := dk_154 0 9 (dk_at dksX3_point_0 10 rfl rfl)
theorem dX3_point_13 : decode cX3_point 13 = .ok (.aload_n 0, 1) := dk_42 (dk_at dksX3_point_0 13 rfl rfl)
theorem dX3_point_14 : decode cX3_point 14 = .ok (.iconst 1, 1) := dk_4 (dk_at dksX3_point_0 14 rfl rfl)
theorem dX3_point_15 : decode cX3_point 15 = .ok (.invokevirtual 192, 3) := dk_182 0 192 (dk_at dksX3_point_0 15 rfl rfl)
theorem dX3_point_18 : decode cX3_point 18 = .ok (.ireturn, 1) := dk_172 (dk_at dksX3_point_0 18 rfl rfl)
theorem dX3_point_19 : decode cX3_point 19 = .ok (.iload_n 2, 1) := dk_28 (dk_at dksX3_point_0 19 rfl rfl)
theorem dX3_point_20 : decode cX3_point 20 = .ok (.tableswitch 92 0 4 #[36, 42, 52, 62, 83], 36) := by decide +kernel
theorem dX3_point_56 : decode cX3_point 56 = .ok (.aload_n 0, 1) := dk_42 (dk_at dksX3_point_2 0 rfl rfl)
theorem dX3_point_57 : decode cX3_point 57 = .ok (.iload_n 1, 1) := dk_27 (dk_at dksX3_point_2 1 rfl rfl)
theorem dX3_point_58 : decode cX3_point 58 = .ok (.invokevirtual 228, 3) := dk_182 0 228 (dk_at dksX3_point_2 2 rfl rfl)
theorem dX3_point_61 : decode cX3_point 61 = .ok (.ireturn, 1) := dk_172 (dk_at dksX3_point_2 5 rfl rfl)
theorem dX3_point_62 : decode cX3_point 62 = .ok (.aload_n 0, 1) := dk_42 (dk_at dksX3_point_2 6 rfl rfl)
theorem dX3_point_63 : decode cX3_point 63 = .ok (.getfield 9, 3) := dk_180 0 9 (dk_at dksX3_point_2 7 rfl rfl)
theorem dX3_point_66 : decode cX3_point 66 = .ok (.bipush 14, 2) := dk_16 14 (dk_at dksX3_point_2 10 rfl rfl)
theorem dX3_point_68 : decode cX3_point 68 = .ok (.iload_n 1, 1) := dk_27 (dk_at dksX3_point_2 12 rfl rfl)
theorem dX3_point_69 : decode cX3_point 69 = .ok (.iadd, 1) := dk_96 (dk_at dksX3_point_2 13 rfl rfl)
theorem dX3_point_70 : decode cX3_point 70 = .ok (.iaload, 1) := dk_46 (dk_at dksX3_point_2 14 rfl rfl)
theorem dX3_point_71 : decode cX3_point 71 = .ok (.ireturn, 1) := dk_172 (dk_at dksX3_point_2 15 rfl rfl)
theorem dX3_point_72 : decode cX3_point 72 = .ok (.aload_n 0, 1) := dk_42 (dk_at dksX3_point_2 16 rfl rfl)
theorem dX3_point_73 : decode cX3_point 73 = .ok (.getfield 9, 3) := dk_180 0 9 (dk_at dksX3_point_2 17 rfl rfl)
theorem dX3_point_76 : decode cX3_point 76 = .ok (.bipush 22, 2) := dk_16 22 (dk_at dksX3_point_2 20 rfl rfl)
theorem dX3_point_78 : decode cX3_point 78 = .ok (.iload_n 1, 1) := dk_27 (dk_at dksX3_point_2 22 rfl rfl)
theorem dX3_point_79 : decode cX3_point 79 = .ok (.iadd, 1) := dk_96 (dk_at dksX3_point_2 23 rfl rfl)
theorem dX3_point_80 : decode cX3_point 80 = .ok (.iaload, 1) := dk_46 (dk_at dksX3_point_3 0 rfl rfl)
theorem dX3_point_81 : decode cX3_point 81 = .ok (.ireturn, 1) := dk_172 (dk_at dksX3_point_3 1 rfl rfl)
theorem dX3_point_82 : decode cX3_point 82 = .ok (.aload_n 0, 1) := dk_42 (dk_at dksX3_point_3 2 rfl rfl)
theorem dX3_point_83 : decode cX3_point 83 = .ok (.invokevirtual 263, 3) := dk_182 1 7 (dk_at dksX3_point_3 3 rfl rfl)
theorem dX3_point_86 : decode cX3_point 86 = .ok (.ifCond .le 15, 3) := dk_158 0 15 (dk_at dksX3_point_3 6 rfl rfl)
theorem dX3_point_89 : decode cX3_point 89 = .ok (.aload_n 0, 1) := dk_42 (dk_at dksX3_point_3 9 rfl rfl)
theorem dX3_point_90 : decode cX3_point 90 = .ok (.getfield 32, 3) := dk_180 0 32 (dk_at dksX3_point_3 10 rfl rfl)
theorem dX3_point_93 : decode cX3_point 93 = .ok (.iload_n 1, 1) := dk_27 (dk_at dksX3_point_3 13 rfl rfl)
theorem dX3_point_94 : decode cX3_point 94 = .ok (.iaload, 1) := dk_46 (dk_at dksX3_point_3 14 rfl rfl)
theorem dX3_point_95 : decode cX3_point 95 = .ok (.invokestatic 240, 3) := dk_184 0 240 (dk_at dksX3_point_3 15 rfl rfl)
theorem dX3_point_98 : decode cX3_point 98 = .ok (.goto 4, 3) := dk_167 0 4 (dk_at dksX3_point_3 18 rfl rfl)
theorem dX3_point_101 : decode cX3_point 101 = .ok (.iload_n 1, 1) := dk_27 (dk_at dksX3_point_3 21 rfl rfl)
theorem dX3_point_102 : decode cX3_point 102 = .ok (.ireturn, 1) := dk_172 (dk_at dksX3_point_3 22 rfl rfl)
theorem dX3_point_103 : decode cX3_point 103 = .ok (.aload_n 0, 1) := dk_42 (dk_at dksX3_point_3 23 rfl rfl)
theorem dX3_point_104 : decode cX3_point 104 = .ok (.iload_n 1, 1) := dk_27 (dk_at dksX3_point_4 0 rfl rfl)
theorem dX3_point_105 : decode cX3_point 105 = .ok (.invokevirtual 237, 3) := dk_182 0 237 (dk_at dksX3_point_4 1 rfl rfl)
theorem dX3_point_108 : decode cX3_point 108 = .ok (.invokestatic 240, 3) := dk_184 0 240 (dk_at dksX3_point_4 4 rfl rfl)
theorem dX3_point_111 : decode cX3_point 111 = .ok (.ireturn, 1) := dk_172 (dk_at dksX3_point_4 7 rfl rfl)
theorem dX3_point_112 : decode cX3_point 112 = .ok (.aload_n 0, 1) := dk_42 (dk_at dksX3_point_4 8 rfl rfl)
theorem dX3_point_113 : decode cX3_point 113 = .ok (.iconst 1, 1) := dk_4 (dk_at dksX3_point_4 9 rfl rfl)
theorem dX3_point_114 : decode cX3_point 114 = .ok (.invokevirtual 192, 3) := dk_182 0 192 (dk_at dksX3_point_4 10 rfl rfl)
theorem dX3_point_117 : decode cX3_point 117 = .ok (.ireturn, 1) := dk_172 (dk_at dksX3_point_4 13 rfl rfl)
abbrev cX3_isPoint : ByteArray := prog_15_method_60_code
def yX3_isPoint : MethodName := ⟨RX3, "isPoint", "(I)Z"⟩
def dkwX3_isPoint_0 : List UInt8 := [27, 3, 42, 182, 0, 222, 4, 100, 184, 1, 71, 172]
abbrev dktX3_isPoint_0 : List UInt8 := dkwX3_isPoint_0 ++ []
theorem dksX3_isPoint_0 : cX3_isPoint.data.toList.drop 0 = dktX3_isPoint_0 := by decide +kernel
theorem dX3_isPoint_0 : decode cX3_isPoint 0 = .ok (.iload_n 1, 1) := dk_27 (dk_at dksX3_isPoint_0 0 rfl rfl)
theorem dX3_isPoint_1 : decode cX3_isPoint 1 = .ok (.iconst 0, 1) := dk_3 (dk_at dksX3_isPoint_0 1 rfl rfl)
theorem dX3_isPoint_2 : decode cX3_isPoint 2 = .ok (.aload_n 0, 1) := dk_42 (dk_at dksX3_isPoint_0 2 rfl rfl)
theorem dX3_isPoint_3 : decode cX3_isPoint 3 = .ok (.invokevirtual 222, 3) := dk_182 0 222 (dk_at dksX3_isPoint_0 3 rfl rfl)
theorem dX3_isPoint_6 : decode cX3_isPoint 6 = .ok (.iconst 1, 1) := dk_4 (dk_at dksX3_isPoint_0 6 rfl rfl)
theorem dX3_isPoint_7 : decode cX3_isPoint 7 = .ok (.isub, 1) := dk_100 (dk_at dksX3_isPoint_0 7 rfl rfl)
theorem dX3_isPoint_8 : decode cX3_isPoint 8 = .ok (.invokestatic 327, 3) := dk_184 1 71 (dk_at dksX3_isPoint_0 8 rfl rfl)
theorem dX3_isPoint_11 : decode cX3_isPoint 11 = .ok (.ireturn, 1) := dk_172 (dk_at dksX3_isPoint_0 11 rfl rfl)
abbrev cX3_joined : ByteArray := prog_15_method_64_code
def yX3_joined : MethodName := ⟨RX3, "joined", "(II)I"⟩
def dkwX3_joined_2 : List UInt8 := [128, 182, 0, 219, 172]
abbrev dktX3_joined_2 : List UInt8 := dkwX3_joined_2 ++ []
def dkwX3_joined_1 : List UInt8 := [182, 0, 192, 172, 27, 28, 160, 0, 11, 42, 5, 182, 0, 192, 167, 0, 14, 42, 4, 27, 120, 4, 28, 120]
abbrev dktX3_joined_1 : List UInt8 := dkwX3_joined_1 ++ dktX3_joined_2
def dkwX3_joined_0 : List UInt8 := [42, 3, 181, 0, 93, 42, 27, 182, 1, 77, 153, 0, 11, 42, 28, 182, 1, 77, 154, 0, 9, 42, 4]
abbrev dktX3_joined_0 : List UInt8 := dkwX3_joined_0 ++ dktX3_joined_1
theorem dksX3_joined_0 : cX3_joined.data.toList.drop 0 = dktX3_joined_0 := by decide +kernel
theorem dksX3_joined_1 : cX3_joined.data.toList.drop 23 = dktX3_joined_1 := dk_seg dksX3_joined_0 23 rfl rfl
theorem dksX3_joined_2 : cX3_joined.data.toList.drop 47 = dktX3_joined_2 := dk_seg dksX3_joined_1 24 rfl rfl
theorem dX3_joined_0 : decode cX3_joined 0 = .ok (.aload_n 0, 1) := dk_42 (dk_at dksX3_joined_0 0 rfl rfl)
theorem dX3_joined_1 : decode cX3_joined 1 = .ok (.iconst 0, 1) := dk_3 (dk_at dksX3_joined_0 1 rfl rfl)
theorem dX3_joined_2 : decode cX3_joined 2 = .ok (.putfield 93, 3) := dk_181 0 93 (dk_at dksX3_joined_0 2 rfl rfl)
theorem dX3_joined_5 : decode cX3_joined 5 = .ok (.aload_n 0, 1) := dk_42 (dk_at dksX3_joined_0 5 rfl rfl)
theorem dX3_joined_6 : decode cX3_joined 6 = .ok (.iload_n 1, 1) := dk_27 (dk_at dksX3_joined_0 6 rfl rfl)
theorem dX3_joined_7 : decode cX3_joined 7 = .ok (.invokevirtual 333, 3) := dk_182 1 77 (dk_at dksX3_joined_0 7 rfl rfl)
theorem dX3_joined_10 : decode cX3_joined 10 = .ok (.ifCond .eq 11, 3) := dk_153 0 11 (dk_at dksX3_joined_0 10 rfl rfl)
theorem dX3_joined_13 : decode cX3_joined 13 = .ok (.aload_n 0, 1) := dk_42 (dk_at dksX3_joined_0 13 rfl rfl)
theorem dX3_joined_14 : decode cX3_joined 14 = .ok (.iload_n 2, 1) := dk_28 (dk_at dksX3_joined_0 14 rfl rfl)
theorem dX3_joined_15 : decode cX3_joined 15 = .ok (.invokevirtual 333, 3) := dk_182 1 77 (dk_at dksX3_joined_0 15 rfl rfl)
theorem dX3_joined_18 : decode cX3_joined 18 = .ok (.ifCond .ne 9, 3) := dk_154 0 9 (dk_at dksX3_joined_0 18 rfl rfl)
theorem dX3_joined_21 : decode cX3_joined 21 = .ok (.aload_n 0, 1) := dk_42 (dk_at dksX3_joined_0 21 rfl rfl)
theorem dX3_joined_22 : decode cX3_joined 22 = .ok (.iconst 1, 1) := dk_4 (dk_at dksX3_joined_0 22 rfl rfl)
theorem dX3_joined_23 : decode cX3_joined 23 = .ok (.invokevirtual 192, 3) := dk_182 0 192 (dk_at dksX3_joined_1 0 rfl rfl)
theorem dX3_joined_26 : decode cX3_joined 26 = .ok (.ireturn, 1) := dk_172 (dk_at dksX3_joined_1 3 rfl rfl)
theorem dX3_joined_27 : decode cX3_joined 27 = .ok (.iload_n 1, 1) := dk_27 (dk_at dksX3_joined_1 4 rfl rfl)
theorem dX3_joined_28 : decode cX3_joined 28 = .ok (.iload_n 2, 1) := dk_28 (dk_at dksX3_joined_1 5 rfl rfl)
theorem dX3_joined_29 : decode cX3_joined 29 = .ok (.if_icmp .ne 11, 3) := dk_160 0 11 (dk_at dksX3_joined_1 6 rfl rfl)
theorem dX3_joined_32 : decode cX3_joined 32 = .ok (.aload_n 0, 1) := dk_42 (dk_at dksX3_joined_1 9 rfl rfl)
theorem dX3_joined_33 : decode cX3_joined 33 = .ok (.iconst 2, 1) := dk_5 (dk_at dksX3_joined_1 10 rfl rfl)
theorem dX3_joined_34 : decode cX3_joined 34 = .ok (.invokevirtual 192, 3) := dk_182 0 192 (dk_at dksX3_joined_1 11 rfl rfl)
theorem dX3_joined_37 : decode cX3_joined 37 = .ok (.goto 14, 3) := dk_167 0 14 (dk_at dksX3_joined_1 14 rfl rfl)
theorem dX3_joined_40 : decode cX3_joined 40 = .ok (.aload_n 0, 1) := dk_42 (dk_at dksX3_joined_1 17 rfl rfl)
theorem dX3_joined_41 : decode cX3_joined 41 = .ok (.iconst 1, 1) := dk_4 (dk_at dksX3_joined_1 18 rfl rfl)
theorem dX3_joined_42 : decode cX3_joined 42 = .ok (.iload_n 1, 1) := dk_27 (dk_at dksX3_joined_1 19 rfl rfl)
theorem dX3_joined_43 : decode cX3_joined 43 = .ok (.ishl, 1) := dk_120 (dk_at dksX3_joined_1 20 rfl rfl)
theorem dX3_joined_44 : decode cX3_joined 44 = .ok (.iconst 1, 1) := dk_4 (dk_at dksX3_joined_1 21 rfl rfl)
theorem dX3_joined_45 : decode cX3_joined 45 = .ok (.iload_n 2, 1) := dk_28 (dk_at dksX3_joined_1 22 rfl rfl)
theorem dX3_joined_46 : decode cX3_joined 46 = .ok (.ishl, 1) := dk_120 (dk_at dksX3_joined_1 23 rfl rfl)
theorem dX3_joined_47 : decode cX3_joined 47 = .ok (.ior, 1) := dk_128 (dk_at dksX3_joined_2 0 rfl rfl)
theorem dX3_joined_48 : decode cX3_joined 48 = .ok (.invokevirtual 219, 3) := dk_182 0 219 (dk_at dksX3_joined_2 1 rfl rfl)
theorem dX3_joined_51 : decode cX3_joined 51 = .ok (.ireturn, 1) := dk_172 (dk_at dksX3_joined_2 4 rfl rfl)
abbrev cX3_meet : ByteArray := prog_15_method_65_code
def yX3_meet : MethodName := ⟨RX3, "meet", "(II)I"⟩
def dkwX3_meet_2 : List UInt8 := [182, 0, 192, 167, 0, 15, 29, 154, 0, 7, 2, 167, 0, 7, 29, 184, 0, 240, 172]
abbrev dktX3_meet_2 : List UInt8 := dkwX3_meet_2 ++ []
def dkwX3_meet_1 : List UInt8 := [182, 0, 192, 172, 42, 27, 182, 0, 216, 42, 28, 182, 0, 216, 126, 62, 27, 28, 160, 0, 11, 42, 5]
abbrev dktX3_meet_1 : List UInt8 := dkwX3_meet_1 ++ dktX3_meet_2
def dkwX3_meet_0 : List UInt8 := [42, 3, 181, 0, 93, 42, 27, 182, 1, 74, 153, 0, 11, 42, 28, 182, 1, 74, 154, 0, 9, 42, 4]
abbrev dktX3_meet_0 : List UInt8 := dkwX3_meet_0 ++ dktX3_meet_1
theorem dksX3_meet_0 : cX3_meet.data.toList.drop 0 = dktX3_meet_0 := by decide +kernel
theorem dksX3_meet_1 : cX3_meet.data.toList.drop 23 = dktX3_meet_1 := dk_seg dksX3_meet_0 23 rfl rfl
theorem dksX3_meet_2 : cX3_meet.data.toList.drop 46 = dktX3_meet_2 := dk_seg dksX3_meet_1 23 rfl rfl
theorem dX3_meet_0 : decode cX3_meet 0 = .ok (.aload_n 0, 1) := dk_42 (dk_at dksX3_meet_0 0 rfl rfl)
theorem dX3_meet_1 : decode cX3_meet 1 = .ok (.iconst 0, 1) := dk_3 (dk_at dksX3_meet_0 1 rfl rfl)
theorem dX3_meet_2 : decode cX3_meet 2 = .ok (.putfield 93, 3) := dk_181 0 93 (dk_at dksX3_meet_0 2 rfl rfl)
theorem dX3_meet_5 : decode cX3_meet 5 = .ok (.aload_n 0, 1) := dk_42 (dk_at dksX3_meet_0 5 rfl rfl)
theorem dX3_meet_6 : decode cX3_meet 6 = .ok (.iload_n 1, 1) := dk_27 (dk_at dksX3_meet_0 6 rfl rfl)
theorem dX3_meet_7 : decode cX3_meet 7 = .ok (.invokevirtual 330, 3) := dk_182 1 74 (dk_at dksX3_meet_0 7 rfl rfl)
theorem dX3_meet_10 : decode cX3_meet 10 = .ok (.ifCond .eq 11, 3) := dk_153 0 11 (dk_at dksX3_meet_0 10 rfl rfl)
theorem dX3_meet_13 : decode cX3_meet 13 = .ok (.aload_n 0, 1) := dk_42 (dk_at dksX3_meet_0 13 rfl rfl)
theorem dX3_meet_14 : decode cX3_meet 14 = .ok (.iload_n 2, 1) := dk_28 (dk_at dksX3_meet_0 14 rfl rfl)
theorem dX3_meet_15 : decode cX3_meet 15 = .ok (.invokevirtual 330, 3) := dk_182 1 74 (dk_at dksX3_meet_0 15 rfl rfl)
theorem dX3_meet_18 : decode cX3_meet 18 = .ok (.ifCond .ne 9, 3) := dk_154 0 9 (dk_at dksX3_meet_0 18 rfl rfl)
theorem dX3_meet_21 : decode cX3_meet 21 = .ok (.aload_n 0, 1) := dk_42 (dk_at dksX3_meet_0 21 rfl rfl)
theorem dX3_meet_22 : decode cX3_meet 22 = .ok (.iconst 1, 1) := dk_4 (dk_at dksX3_meet_0 22 rfl rfl)
theorem dX3_meet_23 : decode cX3_meet 23 = .ok (.invokevirtual 192, 3) := dk_182 0 192 (dk_at dksX3_meet_1 0 rfl rfl)
theorem dX3_meet_26 : decode cX3_meet 26 = .ok (.ireturn, 1) := dk_172 (dk_at dksX3_meet_1 3 rfl rfl)
theorem dX3_meet_27 : decode cX3_meet 27 = .ok (.aload_n 0, 1) := dk_42 (dk_at dksX3_meet_1 4 rfl rfl)
theorem dX3_meet_28 : decode cX3_meet 28 = .ok (.iload_n 1, 1) := dk_27 (dk_at dksX3_meet_1 5 rfl rfl)
theorem dX3_meet_29 : decode cX3_meet 29 = .ok (.invokevirtual 216, 3) := dk_182 0 216 (dk_at dksX3_meet_1 6 rfl rfl)
theorem dX3_meet_32 : decode cX3_meet 32 = .ok (.aload_n 0, 1) := dk_42 (dk_at dksX3_meet_1 9 rfl rfl)
theorem dX3_meet_33 : decode cX3_meet 33 = .ok (.iload_n 2, 1) := dk_28 (dk_at dksX3_meet_1 10 rfl rfl)
theorem dX3_meet_34 : decode cX3_meet 34 = .ok (.invokevirtual 216, 3) := dk_182 0 216 (dk_at dksX3_meet_1 11 rfl rfl)
theorem dX3_meet_37 : decode cX3_meet 37 = .ok (.iand, 1) := dk_126 (dk_at dksX3_meet_1 14 rfl rfl)
theorem dX3_meet_38 : decode cX3_meet 38 = .ok (.istore_n 3, 1) := dk_62 (dk_at dksX3_meet_1 15 rfl rfl)
theorem dX3_meet_39 : decode cX3_meet 39 = .ok (.iload_n 1, 1) := dk_27 (dk_at dksX3_meet_1 16 rfl rfl)
theorem dX3_meet_40 : decode cX3_meet 40 = .ok (.iload_n 2, 1) := dk_28 (dk_at dksX3_meet_1 17 rfl rfl)
theorem dX3_meet_41 : decode cX3_meet 41 = .ok (.if_icmp .ne 11, 3) := dk_160 0 11 (dk_at dksX3_meet_1 18 rfl rfl)
theorem dX3_meet_44 : decode cX3_meet 44 = .ok (.aload_n 0, 1) := dk_42 (dk_at dksX3_meet_1 21 rfl rfl)
theorem dX3_meet_45 : decode cX3_meet 45 = .ok (.iconst 2, 1) := dk_5 (dk_at dksX3_meet_1 22 rfl rfl)
theorem dX3_meet_46 : decode cX3_meet 46 = .ok (.invokevirtual 192, 3) := dk_182 0 192 (dk_at dksX3_meet_2 0 rfl rfl)
theorem dX3_meet_49 : decode cX3_meet 49 = .ok (.goto 15, 3) := dk_167 0 15 (dk_at dksX3_meet_2 3 rfl rfl)
theorem dX3_meet_52 : decode cX3_meet 52 = .ok (.iload_n 3, 1) := dk_29 (dk_at dksX3_meet_2 6 rfl rfl)
theorem dX3_meet_53 : decode cX3_meet 53 = .ok (.ifCond .ne 7, 3) := dk_154 0 7 (dk_at dksX3_meet_2 7 rfl rfl)
theorem dX3_meet_56 : decode cX3_meet 56 = .ok (.iconst (-1), 1) := dk_2 (dk_at dksX3_meet_2 10 rfl rfl)
theorem dX3_meet_57 : decode cX3_meet 57 = .ok (.goto 7, 3) := dk_167 0 7 (dk_at dksX3_meet_2 11 rfl rfl)
theorem dX3_meet_60 : decode cX3_meet 60 = .ok (.iload_n 3, 1) := dk_29 (dk_at dksX3_meet_2 14 rfl rfl)
theorem dX3_meet_61 : decode cX3_meet 61 = .ok (.invokestatic 240, 3) := dk_184 0 240 (dk_at dksX3_meet_2 15 rfl rfl)
theorem dX3_meet_64 : decode cX3_meet 64 = .ok (.ireturn, 1) := dk_172 (dk_at dksX3_meet_2 18 rfl rfl)
abbrev cX3_symmetry : ByteArray := prog_15_method_66_code
def yX3_symmetry : MethodName := ⟨RX3, "symmetry", "(II)I"⟩
def dkwX3_symmetry_3 : List UInt8 := [182, 0, 222, 182, 1, 4, 54, 4, 167, 255, 219, 42, 4, 182, 0, 192, 172]
abbrev dktX3_symmetry_3 : List UInt8 := dkwX3_symmetry_3 ++ []
def dkwX3_symmetry_2 : List UInt8 := [182, 1, 0, 153, 0, 18, 29, 27, 160, 0, 10, 42, 180, 0, 26, 28, 46, 172, 132, 3, 1, 42, 42]
abbrev dktX3_symmetry_2 : List UInt8 := dkwX3_symmetry_2 ++ dktX3_symmetry_3
def dkwX3_symmetry_1 : List UInt8 := [62, 42, 182, 0, 250, 42, 42, 182, 0, 222, 182, 0, 253, 4, 54, 4, 21, 4, 153, 0, 38, 42]
abbrev dktX3_symmetry_1 : List UInt8 := dkwX3_symmetry_1 ++ dktX3_symmetry_2
def dkwX3_symmetry_0 : List UInt8 := [42, 3, 181, 0, 93, 42, 28, 182, 1, 77, 153, 0, 7, 27, 156, 0, 9, 42, 4, 182, 0, 192, 172, 3]
abbrev dktX3_symmetry_0 : List UInt8 := dkwX3_symmetry_0 ++ dktX3_symmetry_1
theorem dksX3_symmetry_0 : cX3_symmetry.data.toList.drop 0 = dktX3_symmetry_0 := by decide +kernel
theorem dksX3_symmetry_1 : cX3_symmetry.data.toList.drop 24 = dktX3_symmetry_1 := dk_seg dksX3_symmetry_0 24 rfl rfl
theorem dksX3_symmetry_2 : cX3_symmetry.data.toList.drop 46 = dktX3_symmetry_2 := dk_seg dksX3_symmetry_1 22 rfl rfl
theorem dksX3_symmetry_3 : cX3_symmetry.data.toList.drop 69 = dktX3_symmetry_3 := dk_seg dksX3_symmetry_2 23 rfl rfl
theorem dX3_symmetry_0 : decode cX3_symmetry 0 = .ok (.aload_n 0, 1) := dk_42 (dk_at dksX3_symmetry_0 0 rfl rfl)
theorem dX3_symmetry_1 : decode cX3_symmetry 1 = .ok (.iconst 0, 1) := dk_3 (dk_at dksX3_symmetry_0 1 rfl rfl)
theorem dX3_symmetry_2 : decode cX3_symmetry 2 = .ok (.putfield 93, 3) := dk_181 0 93 (dk_at dksX3_symmetry_0 2 rfl rfl)
theorem dX3_symmetry_5 : decode cX3_symmetry 5 = .ok (.aload_n 0, 1) := dk_42 (dk_at dksX3_symmetry_0 5 rfl rfl)
theorem dX3_symmetry_6 : decode cX3_symmetry 6 = .ok (.iload_n 2, 1) := dk_28 (dk_at dksX3_symmetry_0 6 rfl rfl)
theorem dX3_symmetry_7 : decode cX3_symmetry 7 = .ok (.invokevirtual 333, 3) := dk_182 1 77 (dk_at dksX3_symmetry_0 7 rfl rfl)
theorem dX3_symmetry_10 : decode cX3_symmetry 10 = .ok (.ifCond .eq 7, 3) := dk_153 0 7 (dk_at dksX3_symmetry_0 10 rfl rfl)
theorem dX3_symmetry_13 : decode cX3_symmetry 13 = .ok (.iload_n 1, 1) := dk_27 (dk_at dksX3_symmetry_0 13 rfl rfl)
theorem dX3_symmetry_14 : decode cX3_symmetry 14 = .ok (.ifCond .ge 9, 3) := dk_156 0 9 (dk_at dksX3_symmetry_0 14 rfl rfl)
theorem dX3_symmetry_17 : decode cX3_symmetry 17 = .ok (.aload_n 0, 1) := dk_42 (dk_at dksX3_symmetry_0 17 rfl rfl)
theorem dX3_symmetry_18 : decode cX3_symmetry 18 = .ok (.iconst 1, 1) := dk_4 (dk_at dksX3_symmetry_0 18 rfl rfl)
theorem dX3_symmetry_19 : decode cX3_symmetry 19 = .ok (.invokevirtual 192, 3) := dk_182 0 192 (dk_at dksX3_symmetry_0 19 rfl rfl)
theorem dX3_symmetry_22 : decode cX3_symmetry 22 = .ok (.ireturn, 1) := dk_172 (dk_at dksX3_symmetry_0 22 rfl rfl)
theorem dX3_symmetry_23 : decode cX3_symmetry 23 = .ok (.iconst 0, 1) := dk_3 (dk_at dksX3_symmetry_0 23 rfl rfl)
theorem dX3_symmetry_24 : decode cX3_symmetry 24 = .ok (.istore_n 3, 1) := dk_62 (dk_at dksX3_symmetry_1 0 rfl rfl)
theorem dX3_symmetry_25 : decode cX3_symmetry 25 = .ok (.aload_n 0, 1) := dk_42 (dk_at dksX3_symmetry_1 1 rfl rfl)
theorem dX3_symmetry_26 : decode cX3_symmetry 26 = .ok (.invokevirtual 250, 3) := dk_182 0 250 (dk_at dksX3_symmetry_1 2 rfl rfl)
theorem dX3_symmetry_29 : decode cX3_symmetry 29 = .ok (.aload_n 0, 1) := dk_42 (dk_at dksX3_symmetry_1 5 rfl rfl)
theorem dX3_symmetry_30 : decode cX3_symmetry 30 = .ok (.aload_n 0, 1) := dk_42 (dk_at dksX3_symmetry_1 6 rfl rfl)
theorem dX3_symmetry_31 : decode cX3_symmetry 31 = .ok (.invokevirtual 222, 3) := dk_182 0 222 (dk_at dksX3_symmetry_1 7 rfl rfl)
theorem dX3_symmetry_34 : decode cX3_symmetry 34 = .ok (.invokevirtual 253, 3) := dk_182 0 253 (dk_at dksX3_symmetry_1 10 rfl rfl)
theorem dX3_symmetry_37 : decode cX3_symmetry 37 = .ok (.iconst 1, 1) := dk_4 (dk_at dksX3_symmetry_1 13 rfl rfl)
theorem dX3_symmetry_38 : decode cX3_symmetry 38 = .ok (.istore 4, 2) := dk_54 4 (dk_at dksX3_symmetry_1 14 rfl rfl)
theorem dX3_symmetry_40 : decode cX3_symmetry 40 = .ok (.iload 4, 2) := dk_21 4 (dk_at dksX3_symmetry_1 16 rfl rfl)
theorem dX3_symmetry_42 : decode cX3_symmetry 42 = .ok (.ifCond .eq 38, 3) := dk_153 0 38 (dk_at dksX3_symmetry_1 18 rfl rfl)
theorem dX3_symmetry_45 : decode cX3_symmetry 45 = .ok (.aload_n 0, 1) := dk_42 (dk_at dksX3_symmetry_1 21 rfl rfl)
theorem dX3_symmetry_46 : decode cX3_symmetry 46 = .ok (.invokevirtual 256, 3) := dk_182 1 0 (dk_at dksX3_symmetry_2 0 rfl rfl)
theorem dX3_symmetry_49 : decode cX3_symmetry 49 = .ok (.ifCond .eq 18, 3) := dk_153 0 18 (dk_at dksX3_symmetry_2 3 rfl rfl)
theorem dX3_symmetry_52 : decode cX3_symmetry 52 = .ok (.iload_n 3, 1) := dk_29 (dk_at dksX3_symmetry_2 6 rfl rfl)
theorem dX3_symmetry_53 : decode cX3_symmetry 53 = .ok (.iload_n 1, 1) := dk_27 (dk_at dksX3_symmetry_2 7 rfl rfl)
theorem dX3_symmetry_54 : decode cX3_symmetry 54 = .ok (.if_icmp .ne 10, 3) := dk_160 0 10 (dk_at dksX3_symmetry_2 8 rfl rfl)
theorem dX3_symmetry_57 : decode cX3_symmetry 57 = .ok (.aload_n 0, 1) := dk_42 (dk_at dksX3_symmetry_2 11 rfl rfl)
theorem dX3_symmetry_58 : decode cX3_symmetry 58 = .ok (.getfield 26, 3) := dk_180 0 26 (dk_at dksX3_symmetry_2 12 rfl rfl)
theorem dX3_symmetry_61 : decode cX3_symmetry 61 = .ok (.iload_n 2, 1) := dk_28 (dk_at dksX3_symmetry_2 15 rfl rfl)
theorem dX3_symmetry_62 : decode cX3_symmetry 62 = .ok (.iaload, 1) := dk_46 (dk_at dksX3_symmetry_2 16 rfl rfl)
theorem dX3_symmetry_63 : decode cX3_symmetry 63 = .ok (.ireturn, 1) := dk_172 (dk_at dksX3_symmetry_2 17 rfl rfl)
theorem dX3_symmetry_64 : decode cX3_symmetry 64 = .ok (.iinc 3 1, 3) := dk_132 3 1 (dk_at dksX3_symmetry_2 18 rfl rfl)
theorem dX3_symmetry_67 : decode cX3_symmetry 67 = .ok (.aload_n 0, 1) := dk_42 (dk_at dksX3_symmetry_2 21 rfl rfl)
theorem dX3_symmetry_68 : decode cX3_symmetry 68 = .ok (.aload_n 0, 1) := dk_42 (dk_at dksX3_symmetry_2 22 rfl rfl)
theorem dX3_symmetry_69 : decode cX3_symmetry 69 = .ok (.invokevirtual 222, 3) := dk_182 0 222 (dk_at dksX3_symmetry_3 0 rfl rfl)
theorem dX3_symmetry_72 : decode cX3_symmetry 72 = .ok (.invokevirtual 260, 3) := dk_182 1 4 (dk_at dksX3_symmetry_3 3 rfl rfl)
theorem dX3_symmetry_75 : decode cX3_symmetry 75 = .ok (.istore 4, 2) := dk_54 4 (dk_at dksX3_symmetry_3 6 rfl rfl)
theorem dX3_symmetry_77 : decode cX3_symmetry 77 = .ok (.goto (-37), 3) := dk_167 255 219 (dk_at dksX3_symmetry_3 8 rfl rfl)
theorem dX3_symmetry_80 : decode cX3_symmetry 80 = .ok (.aload_n 0, 1) := dk_42 (dk_at dksX3_symmetry_3 11 rfl rfl)
theorem dX3_symmetry_81 : decode cX3_symmetry 81 = .ok (.iconst 1, 1) := dk_4 (dk_at dksX3_symmetry_3 12 rfl rfl)
theorem dX3_symmetry_82 : decode cX3_symmetry 82 = .ok (.invokevirtual 192, 3) := dk_182 0 192 (dk_at dksX3_symmetry_3 13 rfl rfl)
theorem dX3_symmetry_85 : decode cX3_symmetry 85 = .ok (.ireturn, 1) := dk_172 (dk_at dksX3_symmetry_3 16 rfl rfl)
abbrev cX3_normal : ByteArray := prog_15_method_70_code
def yX3_normal : MethodName := ⟨RX3, "normal", "(I)I"⟩
def dkwX3_normal_1 : List UInt8 := [180, 0, 44, 27, 46, 172]
abbrev dktX3_normal_1 : List UInt8 := dkwX3_normal_1 ++ []
def dkwX3_normal_0 : List UInt8 := [42, 3, 181, 0, 93, 42, 27, 182, 1, 74, 154, 0, 9, 42, 4, 182, 0, 192, 172, 42, 182, 1, 87, 42]
abbrev dktX3_normal_0 : List UInt8 := dkwX3_normal_0 ++ dktX3_normal_1
theorem dksX3_normal_0 : cX3_normal.data.toList.drop 0 = dktX3_normal_0 := by decide +kernel
theorem dksX3_normal_1 : cX3_normal.data.toList.drop 24 = dktX3_normal_1 := dk_seg dksX3_normal_0 24 rfl rfl
theorem dX3_normal_0 : decode cX3_normal 0 = .ok (.aload_n 0, 1) := dk_42 (dk_at dksX3_normal_0 0 rfl rfl)
theorem dX3_normal_1 : decode cX3_normal 1 = .ok (.iconst 0, 1) := dk_3 (dk_at dksX3_normal_0 1 rfl rfl)
theorem dX3_normal_2 : decode cX3_normal 2 = .ok (.putfield 93, 3) := dk_181 0 93 (dk_at dksX3_normal_0 2 rfl rfl)
theorem dX3_normal_5 : decode cX3_normal 5 = .ok (.aload_n 0, 1) := dk_42 (dk_at dksX3_normal_0 5 rfl rfl)
theorem dX3_normal_6 : decode cX3_normal 6 = .ok (.iload_n 1, 1) := dk_27 (dk_at dksX3_normal_0 6 rfl rfl)
theorem dX3_normal_7 : decode cX3_normal 7 = .ok (.invokevirtual 330, 3) := dk_182 1 74 (dk_at dksX3_normal_0 7 rfl rfl)
theorem dX3_normal_10 : decode cX3_normal 10 = .ok (.ifCond .ne 9, 3) := dk_154 0 9 (dk_at dksX3_normal_0 10 rfl rfl)
theorem dX3_normal_13 : decode cX3_normal 13 = .ok (.aload_n 0, 1) := dk_42 (dk_at dksX3_normal_0 13 rfl rfl)
theorem dX3_normal_14 : decode cX3_normal 14 = .ok (.iconst 1, 1) := dk_4 (dk_at dksX3_normal_0 14 rfl rfl)
theorem dX3_normal_15 : decode cX3_normal 15 = .ok (.invokevirtual 192, 3) := dk_182 0 192 (dk_at dksX3_normal_0 15 rfl rfl)
theorem dX3_normal_18 : decode cX3_normal 18 = .ok (.ireturn, 1) := dk_172 (dk_at dksX3_normal_0 18 rfl rfl)
theorem dX3_normal_19 : decode cX3_normal 19 = .ok (.aload_n 0, 1) := dk_42 (dk_at dksX3_normal_0 19 rfl rfl)
theorem dX3_normal_20 : decode cX3_normal 20 = .ok (.invokevirtual 343, 3) := dk_182 1 87 (dk_at dksX3_normal_0 20 rfl rfl)
theorem dX3_normal_23 : decode cX3_normal 23 = .ok (.aload_n 0, 1) := dk_42 (dk_at dksX3_normal_0 23 rfl rfl)
theorem dX3_normal_24 : decode cX3_normal 24 = .ok (.getfield 44, 3) := dk_180 0 44 (dk_at dksX3_normal_1 0 rfl rfl)
theorem dX3_normal_27 : decode cX3_normal 27 = .ok (.iload_n 1, 1) := dk_27 (dk_at dksX3_normal_1 3 rfl rfl)
theorem dX3_normal_28 : decode cX3_normal 28 = .ok (.iaload, 1) := dk_46 (dk_at dksX3_normal_1 4 rfl rfl)
theorem dX3_normal_29 : decode cX3_normal 29 = .ok (.ireturn, 1) := dk_172 (dk_at dksX3_normal_1 5 rfl rfl)
abbrev cX3_tellLeast : ByteArray := prog_15_method_69_code
def yX3_tellLeast : MethodName := ⟨RX3, "tellLeast", "()V"⟩
def dkwX3_tellLeast_5 : List UInt8 := [182, 0, 222, 182, 1, 4, 62, 167, 255, 150, 177]
abbrev dktX3_tellLeast_5 : List UInt8 := dkwX3_tellLeast_5 ++ []
def dkwX3_tellLeast_4 : List UInt8 := [42, 180, 0, 44, 21, 5, 42, 180, 0, 41, 21, 5, 46, 79, 132, 5, 1, 167, 255, 228, 3, 61, 42, 42]
abbrev dktX3_tellLeast_4 : List UInt8 := dkwX3_tellLeast_4 ++ dktX3_tellLeast_5
def dkwX3_tellLeast_3 : List UInt8 := [156, 0, 7, 4, 167, 0, 4, 3, 54, 4, 3, 54, 5, 21, 5, 27, 162, 0, 28, 21, 4, 153, 0, 23]
abbrev dktX3_tellLeast_3 : List UInt8 := dkwX3_tellLeast_3 ++ dktX3_tellLeast_4
def dkwX3_tellLeast_2 : List UInt8 := [132, 4, 1, 167, 255, 231, 28, 154, 0, 18, 42, 180, 0, 41, 42, 180, 0, 44, 27, 184, 1, 83]
abbrev dktX3_tellLeast_2 : List UInt8 := dkwX3_tellLeast_2 ++ dktX3_tellLeast_3
def dkwX3_tellLeast_1 : List UInt8 := [21, 4, 27, 162, 0, 25, 42, 21, 4, 42, 42, 21, 4, 182, 0, 216, 182, 0, 247, 182, 1, 80]
abbrev dktX3_tellLeast_1 : List UInt8 := dkwX3_tellLeast_1 ++ dktX3_tellLeast_2
def dkwX3_tellLeast_0 : List UInt8 := [42, 182, 0, 213, 60, 4, 61, 4, 62, 42, 42, 182, 0, 222, 182, 0, 253, 29, 153, 0, 108, 3, 54, 4]
abbrev dktX3_tellLeast_0 : List UInt8 := dkwX3_tellLeast_0 ++ dktX3_tellLeast_1
theorem dksX3_tellLeast_0 : cX3_tellLeast.data.toList.drop 0 = dktX3_tellLeast_0 := by decide +kernel
theorem dksX3_tellLeast_1 : cX3_tellLeast.data.toList.drop 24 = dktX3_tellLeast_1 := dk_seg dksX3_tellLeast_0 24 rfl rfl
theorem dksX3_tellLeast_2 : cX3_tellLeast.data.toList.drop 46 = dktX3_tellLeast_2 := dk_seg dksX3_tellLeast_1 22 rfl rfl
theorem dksX3_tellLeast_3 : cX3_tellLeast.data.toList.drop 68 = dktX3_tellLeast_3 := dk_seg dksX3_tellLeast_2 22 rfl rfl
theorem dksX3_tellLeast_4 : cX3_tellLeast.data.toList.drop 92 = dktX3_tellLeast_4 := dk_seg dksX3_tellLeast_3 24 rfl rfl
theorem dksX3_tellLeast_5 : cX3_tellLeast.data.toList.drop 116 = dktX3_tellLeast_5 := dk_seg dksX3_tellLeast_4 24 rfl rfl
theorem dX3_tellLeast_0 : decode cX3_tellLeast 0 = .ok (.aload_n 0, 1) := dk_42 (dk_at dksX3_tellLeast_0 0 rfl rfl)
theorem dX3_tellLeast_1 : decode cX3_tellLeast 1 = .ok (.invokevirtual 213, 3) := dk_182 0 213 (dk_at dksX3_tellLeast_0 1 rfl rfl)
theorem dX3_tellLeast_4 : decode cX3_tellLeast 4 = .ok (.istore_n 1, 1) := dk_60 (dk_at dksX3_tellLeast_0 4 rfl rfl)
theorem dX3_tellLeast_5 : decode cX3_tellLeast 5 = .ok (.iconst 1, 1) := dk_4 (dk_at dksX3_tellLeast_0 5 rfl rfl)
theorem dX3_tellLeast_6 : decode cX3_tellLeast 6 = .ok (.istore_n 2, 1) := dk_61 (dk_at dksX3_tellLeast_0 6 rfl rfl)
theorem dX3_tellLeast_7 : decode cX3_tellLeast 7 = .ok (.iconst 1, 1) := dk_4 (dk_at dksX3_tellLeast_0 7 rfl rfl)
theorem dX3_tellLeast_8 : decode cX3_tellLeast 8 = .ok (.istore_n 3, 1) := dk_62 (dk_at dksX3_tellLeast_0 8 rfl rfl)
theorem dX3_tellLeast_9 : decode cX3_tellLeast 9 = .ok (.aload_n 0, 1) := dk_42 (dk_at dksX3_tellLeast_0 9 rfl rfl)
theorem dX3_tellLeast_10 : decode cX3_tellLeast 10 = .ok (.aload_n 0, 1) := dk_42 (dk_at dksX3_tellLeast_0 10 rfl rfl)
theorem dX3_tellLeast_11 : decode cX3_tellLeast 11 = .ok (.invokevirtual 222, 3) := dk_182 0 222 (dk_at dksX3_tellLeast_0 11 rfl rfl)
theorem dX3_tellLeast_14 : decode cX3_tellLeast 14 = .ok (.invokevirtual 253, 3) := dk_182 0 253 (dk_at dksX3_tellLeast_0 14 rfl rfl)
theorem dX3_tellLeast_17 : decode cX3_tellLeast 17 = .ok (.iload_n 3, 1) := dk_29 (dk_at dksX3_tellLeast_0 17 rfl rfl)
theorem dX3_tellLeast_18 : decode cX3_tellLeast 18 = .ok (.ifCond .eq 108, 3) := dk_153 0 108 (dk_at dksX3_tellLeast_0 18 rfl rfl)
theorem dX3_tellLeast_21 : decode cX3_tellLeast 21 = .ok (.iconst 0, 1) := dk_3 (dk_at dksX3_tellLeast_0 21 rfl rfl)
theorem dX3_tellLeast_22 : decode cX3_tellLeast 22 = .ok (.istore 4, 2) := dk_54 4 (dk_at dksX3_tellLeast_0 22 rfl rfl)
theorem dX3_tellLeast_24 : decode cX3_tellLeast 24 = .ok (.iload 4, 2) := dk_21 4 (dk_at dksX3_tellLeast_1 0 rfl rfl)
theorem dX3_tellLeast_26 : decode cX3_tellLeast 26 = .ok (.iload_n 1, 1) := dk_27 (dk_at dksX3_tellLeast_1 2 rfl rfl)
theorem dX3_tellLeast_27 : decode cX3_tellLeast 27 = .ok (.if_icmp .ge 25, 3) := dk_162 0 25 (dk_at dksX3_tellLeast_1 3 rfl rfl)
theorem dX3_tellLeast_30 : decode cX3_tellLeast 30 = .ok (.aload_n 0, 1) := dk_42 (dk_at dksX3_tellLeast_1 6 rfl rfl)
theorem dX3_tellLeast_31 : decode cX3_tellLeast 31 = .ok (.iload 4, 2) := dk_21 4 (dk_at dksX3_tellLeast_1 7 rfl rfl)
theorem dX3_tellLeast_33 : decode cX3_tellLeast 33 = .ok (.aload_n 0, 1) := dk_42 (dk_at dksX3_tellLeast_1 9 rfl rfl)
theorem dX3_tellLeast_34 : decode cX3_tellLeast 34 = .ok (.aload_n 0, 1) := dk_42 (dk_at dksX3_tellLeast_1 10 rfl rfl)
theorem dX3_tellLeast_35 : decode cX3_tellLeast 35 = .ok (.iload 4, 2) := dk_21 4 (dk_at dksX3_tellLeast_1 11 rfl rfl)
theorem dX3_tellLeast_37 : decode cX3_tellLeast 37 = .ok (.invokevirtual 216, 3) := dk_182 0 216 (dk_at dksX3_tellLeast_1 13 rfl rfl)
theorem dX3_tellLeast_40 : decode cX3_tellLeast 40 = .ok (.invokevirtual 247, 3) := dk_182 0 247 (dk_at dksX3_tellLeast_1 16 rfl rfl)
theorem dX3_tellLeast_43 : decode cX3_tellLeast 43 = .ok (.invokevirtual 336, 3) := dk_182 1 80 (dk_at dksX3_tellLeast_1 19 rfl rfl)
theorem dX3_tellLeast_46 : decode cX3_tellLeast 46 = .ok (.iinc 4 1, 3) := dk_132 4 1 (dk_at dksX3_tellLeast_2 0 rfl rfl)
theorem dX3_tellLeast_49 : decode cX3_tellLeast 49 = .ok (.goto (-25), 3) := dk_167 255 231 (dk_at dksX3_tellLeast_2 3 rfl rfl)
theorem dX3_tellLeast_52 : decode cX3_tellLeast 52 = .ok (.iload_n 2, 1) := dk_28 (dk_at dksX3_tellLeast_2 6 rfl rfl)
theorem dX3_tellLeast_53 : decode cX3_tellLeast 53 = .ok (.ifCond .ne 18, 3) := dk_154 0 18 (dk_at dksX3_tellLeast_2 7 rfl rfl)
theorem dX3_tellLeast_56 : decode cX3_tellLeast 56 = .ok (.aload_n 0, 1) := dk_42 (dk_at dksX3_tellLeast_2 10 rfl rfl)
theorem dX3_tellLeast_57 : decode cX3_tellLeast 57 = .ok (.getfield 41, 3) := dk_180 0 41 (dk_at dksX3_tellLeast_2 11 rfl rfl)
theorem dX3_tellLeast_60 : decode cX3_tellLeast 60 = .ok (.aload_n 0, 1) := dk_42 (dk_at dksX3_tellLeast_2 14 rfl rfl)
theorem dX3_tellLeast_61 : decode cX3_tellLeast 61 = .ok (.getfield 44, 3) := dk_180 0 44 (dk_at dksX3_tellLeast_2 15 rfl rfl)
theorem dX3_tellLeast_64 : decode cX3_tellLeast 64 = .ok (.iload_n 1, 1) := dk_27 (dk_at dksX3_tellLeast_2 18 rfl rfl)
theorem dX3_tellLeast_65 : decode cX3_tellLeast 65 = .ok (.invokestatic 339, 3) := dk_184 1 83 (dk_at dksX3_tellLeast_2 19 rfl rfl)
theorem dX3_tellLeast_68 : decode cX3_tellLeast 68 = .ok (.ifCond .ge 7, 3) := dk_156 0 7 (dk_at dksX3_tellLeast_3 0 rfl rfl)
theorem dX3_tellLeast_71 : decode cX3_tellLeast 71 = .ok (.iconst 1, 1) := dk_4 (dk_at dksX3_tellLeast_3 3 rfl rfl)
theorem dX3_tellLeast_72 : decode cX3_tellLeast 72 = .ok (.goto 4, 3) := dk_167 0 4 (dk_at dksX3_tellLeast_3 4 rfl rfl)
theorem dX3_tellLeast_75 : decode cX3_tellLeast 75 = .ok (.iconst 0, 1) := dk_3 (dk_at dksX3_tellLeast_3 7 rfl rfl)
theorem dX3_tellLeast_76 : decode cX3_tellLeast 76 = .ok (.istore 4, 2) := dk_54 4 (dk_at dksX3_tellLeast_3 8 rfl rfl)
theorem dX3_tellLeast_78 : decode cX3_tellLeast 78 = .ok (.iconst 0, 1) := dk_3 (dk_at dksX3_tellLeast_3 10 rfl rfl)
theorem dX3_tellLeast_79 : decode cX3_tellLeast 79 = .ok (.istore 5, 2) := dk_54 5 (dk_at dksX3_tellLeast_3 11 rfl rfl)
theorem dX3_tellLeast_81 : decode cX3_tellLeast 81 = .ok (.iload 5, 2) := dk_21 5 (dk_at dksX3_tellLeast_3 13 rfl rfl)
theorem dX3_tellLeast_83 : decode cX3_tellLeast 83 = .ok (.iload_n 1, 1) := dk_27 (dk_at dksX3_tellLeast_3 15 rfl rfl)
theorem dX3_tellLeast_84 : decode cX3_tellLeast 84 = .ok (.if_icmp .ge 28, 3) := dk_162 0 28 (dk_at dksX3_tellLeast_3 16 rfl rfl)
theorem dX3_tellLeast_87 : decode cX3_tellLeast 87 = .ok (.iload 4, 2) := dk_21 4 (dk_at dksX3_tellLeast_3 19 rfl rfl)
theorem dX3_tellLeast_89 : decode cX3_tellLeast 89 = .ok (.ifCond .eq 23, 3) := dk_153 0 23 (dk_at dksX3_tellLeast_3 21 rfl rfl)
theorem dX3_tellLeast_92 : decode cX3_tellLeast 92 = .ok (.aload_n 0, 1) := dk_42 (dk_at dksX3_tellLeast_4 0 rfl rfl)
theorem dX3_tellLeast_93 : decode cX3_tellLeast 93 = .ok (.getfield 44, 3) := dk_180 0 44 (dk_at dksX3_tellLeast_4 1 rfl rfl)
theorem dX3_tellLeast_96 : decode cX3_tellLeast 96 = .ok (.iload 5, 2) := dk_21 5 (dk_at dksX3_tellLeast_4 4 rfl rfl)
theorem dX3_tellLeast_98 : decode cX3_tellLeast 98 = .ok (.aload_n 0, 1) := dk_42 (dk_at dksX3_tellLeast_4 6 rfl rfl)
theorem dX3_tellLeast_99 : decode cX3_tellLeast 99 = .ok (.getfield 41, 3) := dk_180 0 41 (dk_at dksX3_tellLeast_4 7 rfl rfl)
theorem dX3_tellLeast_102 : decode cX3_tellLeast 102 = .ok (.iload 5, 2) := dk_21 5 (dk_at dksX3_tellLeast_4 10 rfl rfl)
theorem dX3_tellLeast_104 : decode cX3_tellLeast 104 = .ok (.iaload, 1) := dk_46 (dk_at dksX3_tellLeast_4 12 rfl rfl)
theorem dX3_tellLeast_105 : decode cX3_tellLeast 105 = .ok (.iastore, 1) := dk_79 (dk_at dksX3_tellLeast_4 13 rfl rfl)
theorem dX3_tellLeast_106 : decode cX3_tellLeast 106 = .ok (.iinc 5 1, 3) := dk_132 5 1 (dk_at dksX3_tellLeast_4 14 rfl rfl)
theorem dX3_tellLeast_109 : decode cX3_tellLeast 109 = .ok (.goto (-28), 3) := dk_167 255 228 (dk_at dksX3_tellLeast_4 17 rfl rfl)
theorem dX3_tellLeast_112 : decode cX3_tellLeast 112 = .ok (.iconst 0, 1) := dk_3 (dk_at dksX3_tellLeast_4 20 rfl rfl)
theorem dX3_tellLeast_113 : decode cX3_tellLeast 113 = .ok (.istore_n 2, 1) := dk_61 (dk_at dksX3_tellLeast_4 21 rfl rfl)
theorem dX3_tellLeast_114 : decode cX3_tellLeast 114 = .ok (.aload_n 0, 1) := dk_42 (dk_at dksX3_tellLeast_4 22 rfl rfl)
theorem dX3_tellLeast_115 : decode cX3_tellLeast 115 = .ok (.aload_n 0, 1) := dk_42 (dk_at dksX3_tellLeast_4 23 rfl rfl)
theorem dX3_tellLeast_116 : decode cX3_tellLeast 116 = .ok (.invokevirtual 222, 3) := dk_182 0 222 (dk_at dksX3_tellLeast_5 0 rfl rfl)
theorem dX3_tellLeast_119 : decode cX3_tellLeast 119 = .ok (.invokevirtual 260, 3) := dk_182 1 4 (dk_at dksX3_tellLeast_5 3 rfl rfl)
theorem dX3_tellLeast_122 : decode cX3_tellLeast 122 = .ok (.istore_n 3, 1) := dk_62 (dk_at dksX3_tellLeast_5 6 rfl rfl)
theorem dX3_tellLeast_123 : decode cX3_tellLeast 123 = .ok (.goto (-106), 3) := dk_167 255 150 (dk_at dksX3_tellLeast_5 7 rfl rfl)
theorem dX3_tellLeast_126 : decode cX3_tellLeast 126 = .ok (.return_, 1) := dk_177 (dk_at dksX3_tellLeast_5 10 rfl rfl)
abbrev cX3_putSorted : ByteArray := prog_15_method_67_code
def yX3_putSorted : MethodName := ⟨RX3, "putSorted", "(II)V"⟩
def dkwX3_putSorted_1 : List UInt8 := [180, 0, 41, 29, 4, 100, 46, 79, 132, 3, 255, 167, 255, 223, 42, 180, 0, 41, 29, 28, 79, 177]
abbrev dktX3_putSorted_1 : List UInt8 := dkwX3_putSorted_1 ++ []
def dkwX3_putSorted_0 : List UInt8 := [27, 62, 29, 158, 0, 35, 42, 180, 0, 41, 29, 4, 100, 46, 28, 164, 0, 23, 42, 180, 0, 41, 29, 42]
abbrev dktX3_putSorted_0 : List UInt8 := dkwX3_putSorted_0 ++ dktX3_putSorted_1
theorem dksX3_putSorted_0 : cX3_putSorted.data.toList.drop 0 = dktX3_putSorted_0 := by decide +kernel
theorem dksX3_putSorted_1 : cX3_putSorted.data.toList.drop 24 = dktX3_putSorted_1 := dk_seg dksX3_putSorted_0 24 rfl rfl
theorem dX3_putSorted_0 : decode cX3_putSorted 0 = .ok (.iload_n 1, 1) := dk_27 (dk_at dksX3_putSorted_0 0 rfl rfl)
theorem dX3_putSorted_1 : decode cX3_putSorted 1 = .ok (.istore_n 3, 1) := dk_62 (dk_at dksX3_putSorted_0 1 rfl rfl)
theorem dX3_putSorted_2 : decode cX3_putSorted 2 = .ok (.iload_n 3, 1) := dk_29 (dk_at dksX3_putSorted_0 2 rfl rfl)
theorem dX3_putSorted_3 : decode cX3_putSorted 3 = .ok (.ifCond .le 35, 3) := dk_158 0 35 (dk_at dksX3_putSorted_0 3 rfl rfl)
theorem dX3_putSorted_6 : decode cX3_putSorted 6 = .ok (.aload_n 0, 1) := dk_42 (dk_at dksX3_putSorted_0 6 rfl rfl)
theorem dX3_putSorted_7 : decode cX3_putSorted 7 = .ok (.getfield 41, 3) := dk_180 0 41 (dk_at dksX3_putSorted_0 7 rfl rfl)
theorem dX3_putSorted_10 : decode cX3_putSorted 10 = .ok (.iload_n 3, 1) := dk_29 (dk_at dksX3_putSorted_0 10 rfl rfl)
theorem dX3_putSorted_11 : decode cX3_putSorted 11 = .ok (.iconst 1, 1) := dk_4 (dk_at dksX3_putSorted_0 11 rfl rfl)
theorem dX3_putSorted_12 : decode cX3_putSorted 12 = .ok (.isub, 1) := dk_100 (dk_at dksX3_putSorted_0 12 rfl rfl)
theorem dX3_putSorted_13 : decode cX3_putSorted 13 = .ok (.iaload, 1) := dk_46 (dk_at dksX3_putSorted_0 13 rfl rfl)
theorem dX3_putSorted_14 : decode cX3_putSorted 14 = .ok (.iload_n 2, 1) := dk_28 (dk_at dksX3_putSorted_0 14 rfl rfl)
theorem dX3_putSorted_15 : decode cX3_putSorted 15 = .ok (.if_icmp .le 23, 3) := dk_164 0 23 (dk_at dksX3_putSorted_0 15 rfl rfl)
theorem dX3_putSorted_18 : decode cX3_putSorted 18 = .ok (.aload_n 0, 1) := dk_42 (dk_at dksX3_putSorted_0 18 rfl rfl)
theorem dX3_putSorted_19 : decode cX3_putSorted 19 = .ok (.getfield 41, 3) := dk_180 0 41 (dk_at dksX3_putSorted_0 19 rfl rfl)
theorem dX3_putSorted_22 : decode cX3_putSorted 22 = .ok (.iload_n 3, 1) := dk_29 (dk_at dksX3_putSorted_0 22 rfl rfl)
theorem dX3_putSorted_23 : decode cX3_putSorted 23 = .ok (.aload_n 0, 1) := dk_42 (dk_at dksX3_putSorted_0 23 rfl rfl)
theorem dX3_putSorted_24 : decode cX3_putSorted 24 = .ok (.getfield 41, 3) := dk_180 0 41 (dk_at dksX3_putSorted_1 0 rfl rfl)
theorem dX3_putSorted_27 : decode cX3_putSorted 27 = .ok (.iload_n 3, 1) := dk_29 (dk_at dksX3_putSorted_1 3 rfl rfl)
theorem dX3_putSorted_28 : decode cX3_putSorted 28 = .ok (.iconst 1, 1) := dk_4 (dk_at dksX3_putSorted_1 4 rfl rfl)
theorem dX3_putSorted_29 : decode cX3_putSorted 29 = .ok (.isub, 1) := dk_100 (dk_at dksX3_putSorted_1 5 rfl rfl)
theorem dX3_putSorted_30 : decode cX3_putSorted 30 = .ok (.iaload, 1) := dk_46 (dk_at dksX3_putSorted_1 6 rfl rfl)
theorem dX3_putSorted_31 : decode cX3_putSorted 31 = .ok (.iastore, 1) := dk_79 (dk_at dksX3_putSorted_1 7 rfl rfl)
theorem dX3_putSorted_32 : decode cX3_putSorted 32 = .ok (.iinc 3 (-1), 3) := dk_132 3 255 (dk_at dksX3_putSorted_1 8 rfl rfl)
theorem dX3_putSorted_35 : decode cX3_putSorted 35 = .ok (.goto (-33), 3) := dk_167 255 223 (dk_at dksX3_putSorted_1 11 rfl rfl)
theorem dX3_putSorted_38 : decode cX3_putSorted 38 = .ok (.aload_n 0, 1) := dk_42 (dk_at dksX3_putSorted_1 14 rfl rfl)
theorem dX3_putSorted_39 : decode cX3_putSorted 39 = .ok (.getfield 41, 3) := dk_180 0 41 (dk_at dksX3_putSorted_1 15 rfl rfl)
theorem dX3_putSorted_42 : decode cX3_putSorted 42 = .ok (.iload_n 3, 1) := dk_29 (dk_at dksX3_putSorted_1 18 rfl rfl)
theorem dX3_putSorted_43 : decode cX3_putSorted 43 = .ok (.iload_n 2, 1) := dk_28 (dk_at dksX3_putSorted_1 19 rfl rfl)
theorem dX3_putSorted_44 : decode cX3_putSorted 44 = .ok (.iastore, 1) := dk_79 (dk_at dksX3_putSorted_1 20 rfl rfl)
theorem dX3_putSorted_45 : decode cX3_putSorted 45 = .ok (.return_, 1) := dk_177 (dk_at dksX3_putSorted_1 21 rfl rfl)
abbrev cX3_compare : ByteArray := prog_15_method_68_code
def yX3_compare : MethodName := ⟨RX3, "compare", "([I[II)I"⟩
def dkwX3_compare_1 : List UInt8 := [132, 3, 1, 167, 255, 231, 3, 172]
abbrev dktX3_compare_1 : List UInt8 := dkwX3_compare_1 ++ []
def dkwX3_compare_0 : List UInt8 := [3, 62, 29, 28, 162, 0, 26, 42, 29, 46, 43, 29, 46, 159, 0, 11, 42, 29, 46, 43, 29, 46, 100, 172]
abbrev dktX3_compare_0 : List UInt8 := dkwX3_compare_0 ++ dktX3_compare_1
theorem dksX3_compare_0 : cX3_compare.data.toList.drop 0 = dktX3_compare_0 := by decide +kernel
theorem dksX3_compare_1 : cX3_compare.data.toList.drop 24 = dktX3_compare_1 := dk_seg dksX3_compare_0 24 rfl rfl
theorem dX3_compare_0 : decode cX3_compare 0 = .ok (.iconst 0, 1) := dk_3 (dk_at dksX3_compare_0 0 rfl rfl)
theorem dX3_compare_1 : decode cX3_compare 1 = .ok (.istore_n 3, 1) := dk_62 (dk_at dksX3_compare_0 1 rfl rfl)
theorem dX3_compare_2 : decode cX3_compare 2 = .ok (.iload_n 3, 1) := dk_29 (dk_at dksX3_compare_0 2 rfl rfl)
theorem dX3_compare_3 : decode cX3_compare 3 = .ok (.iload_n 2, 1) := dk_28 (dk_at dksX3_compare_0 3 rfl rfl)
theorem dX3_compare_4 : decode cX3_compare 4 = .ok (.if_icmp .ge 26, 3) := dk_162 0 26 (dk_at dksX3_compare_0 4 rfl rfl)
theorem dX3_compare_7 : decode cX3_compare 7 = .ok (.aload_n 0, 1) := dk_42 (dk_at dksX3_compare_0 7 rfl rfl)
theorem dX3_compare_8 : decode cX3_compare 8 = .ok (.iload_n 3, 1) := dk_29 (dk_at dksX3_compare_0 8 rfl rfl)
theorem dX3_compare_9 : decode cX3_compare 9 = .ok (.iaload, 1) := dk_46 (dk_at dksX3_compare_0 9 rfl rfl)
theorem dX3_compare_10 : decode cX3_compare 10 = .ok (.aload_n 1, 1) := dk_43 (dk_at dksX3_compare_0 10 rfl rfl)
theorem dX3_compare_11 : decode cX3_compare 11 = .ok (.iload_n 3, 1) := dk_29 (dk_at dksX3_compare_0 11 rfl rfl)
theorem dX3_compare_12 : decode cX3_compare 12 = .ok (.iaload, 1) := dk_46 (dk_at dksX3_compare_0 12 rfl rfl)
theorem dX3_compare_13 : decode cX3_compare 13 = .ok (.if_icmp .eq 11, 3) := dk_159 0 11 (dk_at dksX3_compare_0 13 rfl rfl)
theorem dX3_compare_16 : decode cX3_compare 16 = .ok (.aload_n 0, 1) := dk_42 (dk_at dksX3_compare_0 16 rfl rfl)
theorem dX3_compare_17 : decode cX3_compare 17 = .ok (.iload_n 3, 1) := dk_29 (dk_at dksX3_compare_0 17 rfl rfl)
theorem dX3_compare_18 : decode cX3_compare 18 = .ok (.iaload, 1) := dk_46 (dk_at dksX3_compare_0 18 rfl rfl)
theorem dX3_compare_19 : decode cX3_compare 19 = .ok (.aload_n 1, 1) := dk_43 (dk_at dksX3_compare_0 19 rfl rfl)
theorem dX3_compare_20 : decode cX3_compare 20 = .ok (.iload_n 3, 1) := dk_29 (dk_at dksX3_compare_0 20 rfl rfl)
theorem dX3_compare_21 : decode cX3_compare 21 = .ok (.iaload, 1) := dk_46 (dk_at dksX3_compare_0 21 rfl rfl)
theorem dX3_compare_22 : decode cX3_compare 22 = .ok (.isub, 1) := dk_100 (dk_at dksX3_compare_0 22 rfl rfl)
theorem dX3_compare_23 : decode cX3_compare 23 = .ok (.ireturn, 1) := dk_172 (dk_at dksX3_compare_0 23 rfl rfl)
theorem dX3_compare_24 : decode cX3_compare 24 = .ok (.iinc 3 1, 3) := dk_132 3 1 (dk_at dksX3_compare_1 0 rfl rfl)
theorem dX3_compare_27 : decode cX3_compare 27 = .ok (.goto (-25), 3) := dk_167 255 231 (dk_at dksX3_compare_1 3 rfl rfl)
theorem dX3_compare_30 : decode cX3_compare 30 = .ok (.iconst 0, 1) := dk_3 (dk_at dksX3_compare_1 6 rfl rfl)
theorem dX3_compare_31 : decode cX3_compare 31 = .ok (.ireturn, 1) := dk_172 (dk_at dksX3_compare_1 7 rfl rfl)
abbrev cX3_dual : ByteArray := prog_15_method_71_code
def yX3_dual : MethodName := ⟨RX3, "dual", "(I)I"⟩
def dkwX3_dual_1 : List UInt8 := [184, 1, 71, 153, 0, 12, 42, 180, 0, 35, 27, 46, 167, 0, 8, 42, 4, 182, 0, 192, 172]
abbrev dktX3_dual_1 : List UInt8 := dkwX3_dual_1 ++ []
def dkwX3_dual_0 : List UInt8 := [42, 3, 181, 0, 93, 42, 182, 1, 90, 61, 27, 2, 160, 0, 5, 28, 172, 27, 3, 28, 4, 100]
abbrev dktX3_dual_0 : List UInt8 := dkwX3_dual_0 ++ dktX3_dual_1
theorem dksX3_dual_0 : cX3_dual.data.toList.drop 0 = dktX3_dual_0 := by decide +kernel
theorem dksX3_dual_1 : cX3_dual.data.toList.drop 22 = dktX3_dual_1 := dk_seg dksX3_dual_0 22 rfl rfl
theorem dX3_dual_0 : decode cX3_dual 0 = .ok (.aload_n 0, 1) := dk_42 (dk_at dksX3_dual_0 0 rfl rfl)
theorem dX3_dual_1 : decode cX3_dual 1 = .ok (.iconst 0, 1) := dk_3 (dk_at dksX3_dual_0 1 rfl rfl)
theorem dX3_dual_2 : decode cX3_dual 2 = .ok (.putfield 93, 3) := dk_181 0 93 (dk_at dksX3_dual_0 2 rfl rfl)
theorem dX3_dual_5 : decode cX3_dual 5 = .ok (.aload_n 0, 1) := dk_42 (dk_at dksX3_dual_0 5 rfl rfl)
theorem dX3_dual_6 : decode cX3_dual 6 = .ok (.invokevirtual 346, 3) := dk_182 1 90 (dk_at dksX3_dual_0 6 rfl rfl)
theorem dX3_dual_9 : decode cX3_dual 9 = .ok (.istore_n 2, 1) := dk_61 (dk_at dksX3_dual_0 9 rfl rfl)
theorem dX3_dual_10 : decode cX3_dual 10 = .ok (.iload_n 1, 1) := dk_27 (dk_at dksX3_dual_0 10 rfl rfl)
theorem dX3_dual_11 : decode cX3_dual 11 = .ok (.iconst (-1), 1) := dk_2 (dk_at dksX3_dual_0 11 rfl rfl)
theorem dX3_dual_12 : decode cX3_dual 12 = .ok (.if_icmp .ne 5, 3) := dk_160 0 5 (dk_at dksX3_dual_0 12 rfl rfl)
theorem dX3_dual_15 : decode cX3_dual 15 = .ok (.iload_n 2, 1) := dk_28 (dk_at dksX3_dual_0 15 rfl rfl)
theorem dX3_dual_16 : decode cX3_dual 16 = .ok (.ireturn, 1) := dk_172 (dk_at dksX3_dual_0 16 rfl rfl)
theorem dX3_dual_17 : decode cX3_dual 17 = .ok (.iload_n 1, 1) := dk_27 (dk_at dksX3_dual_0 17 rfl rfl)
theorem dX3_dual_18 : decode cX3_dual 18 = .ok (.iconst 0, 1) := dk_3 (dk_at dksX3_dual_0 18 rfl rfl)
theorem dX3_dual_19 : decode cX3_dual 19 = .ok (.iload_n 2, 1) := dk_28 (dk_at dksX3_dual_0 19 rfl rfl)
theorem dX3_dual_20 : decode cX3_dual 20 = .ok (.iconst 1, 1) := dk_4 (dk_at dksX3_dual_0 20 rfl rfl)
theorem dX3_dual_21 : decode cX3_dual 21 = .ok (.isub, 1) := dk_100 (dk_at dksX3_dual_0 21 rfl rfl)
theorem dX3_dual_22 : decode cX3_dual 22 = .ok (.invokestatic 327, 3) := dk_184 1 71 (dk_at dksX3_dual_1 0 rfl rfl)
theorem dX3_dual_25 : decode cX3_dual 25 = .ok (.ifCond .eq 12, 3) := dk_153 0 12 (dk_at dksX3_dual_1 3 rfl rfl)
theorem dX3_dual_28 : decode cX3_dual 28 = .ok (.aload_n 0, 1) := dk_42 (dk_at dksX3_dual_1 6 rfl rfl)
theorem dX3_dual_29 : decode cX3_dual 29 = .ok (.getfield 35, 3) := dk_180 0 35 (dk_at dksX3_dual_1 7 rfl rfl)
theorem dX3_dual_32 : decode cX3_dual 32 = .ok (.iload_n 1, 1) := dk_27 (dk_at dksX3_dual_1 10 rfl rfl)
theorem dX3_dual_33 : decode cX3_dual 33 = .ok (.iaload, 1) := dk_46 (dk_at dksX3_dual_1 11 rfl rfl)
theorem dX3_dual_34 : decode cX3_dual 34 = .ok (.goto 8, 3) := dk_167 0 8 (dk_at dksX3_dual_1 12 rfl rfl)
theorem dX3_dual_37 : decode cX3_dual 37 = .ok (.aload_n 0, 1) := dk_42 (dk_at dksX3_dual_1 15 rfl rfl)
theorem dX3_dual_38 : decode cX3_dual 38 = .ok (.iconst 1, 1) := dk_4 (dk_at dksX3_dual_1 16 rfl rfl)
theorem dX3_dual_39 : decode cX3_dual 39 = .ok (.invokevirtual 192, 3) := dk_182 0 192 (dk_at dksX3_dual_1 17 rfl rfl)
theorem dX3_dual_42 : decode cX3_dual 42 = .ok (.ireturn, 1) := dk_172 (dk_at dksX3_dual_1 20 rfl rfl)
abbrev cX3_tellDual : ByteArray := prog_15_method_47_code
def yX3_tellDual : MethodName := ⟨RX3, "tellDual", "()I"⟩
def dkwX3_tellDual_3 : List UInt8 := [167, 255, 208, 27, 172]
abbrev dktX3_tellDual_3 : List UInt8 := dkwX3_tellDual_3 ++ []
def dkwX3_tellDual_2 : List UInt8 := [184, 0, 210, 5, 162, 0, 6, 167, 0, 13, 42, 180, 0, 35, 27, 29, 79, 132, 1, 1, 132, 2, 1]
abbrev dktX3_tellDual_2 : List UInt8 := dkwX3_tellDual_2 ++ dktX3_tellDual_3
def dkwX3_tellDual_1 : List UInt8 := [182, 0, 222, 162, 0, 46, 42, 28, 182, 0, 228, 62, 29, 184, 0, 210, 7, 164, 0, 5, 2, 172, 29]
abbrev dktX3_tellDual_1 : List UInt8 := dkwX3_tellDual_1 ++ dktX3_tellDual_2
def dkwX3_tellDual_0 : List UInt8 := [42, 182, 0, 213, 153, 0, 12, 42, 182, 0, 213, 16, 8, 164, 0, 5, 2, 172, 3, 60, 3, 61, 28, 42]
abbrev dktX3_tellDual_0 : List UInt8 := dkwX3_tellDual_0 ++ dktX3_tellDual_1
theorem dksX3_tellDual_0 : cX3_tellDual.data.toList.drop 0 = dktX3_tellDual_0 := by decide +kernel
theorem dksX3_tellDual_1 : cX3_tellDual.data.toList.drop 24 = dktX3_tellDual_1 := dk_seg dksX3_tellDual_0 24 rfl rfl
theorem dksX3_tellDual_2 : cX3_tellDual.data.toList.drop 47 = dktX3_tellDual_2 := dk_seg dksX3_tellDual_1 23 rfl rfl
theorem dksX3_tellDual_3 : cX3_tellDual.data.toList.drop 70 = dktX3_tellDual_3 := dk_seg dksX3_tellDual_2 23 rfl rfl
theorem dX3_tellDual_0 : decode cX3_tellDual 0 = .ok (.aload_n 0, 1) := dk_42 (dk_at dksX3_tellDual_0 0 rfl rfl)
theorem dX3_tellDual_1 : decode cX3_tellDual 1 = .ok (.invokevirtual 213, 3) := dk_182 0 213 (dk_at dksX3_tellDual_0 1 rfl rfl)
theorem dX3_tellDual_4 : decode cX3_tellDual 4 = .ok (.ifCond .eq 12, 3) := dk_153 0 12 (dk_at dksX3_tellDual_0 4 rfl rfl)
theorem dX3_tellDual_7 : decode cX3_tellDual 7 = .ok (.aload_n 0, 1) := dk_42 (dk_at dksX3_tellDual_0 7 rfl rfl)
theorem dX3_tellDual_8 : decode cX3_tellDual 8 = .ok (.invokevirtual 213, 3) := dk_182 0 213 (dk_at dksX3_tellDual_0 8 rfl rfl)
theorem dX3_tellDual_11 : decode cX3_tellDual 11 = .ok (.bipush 8, 2) := dk_16 8 (dk_at dksX3_tellDual_0 11 rfl rfl)
theorem dX3_tellDual_13 : decode cX3_tellDual 13 = .ok (.if_icmp .le 5, 3) := dk_164 0 5 (dk_at dksX3_tellDual_0 13 rfl rfl)
theorem dX3_tellDual_16 : decode cX3_tellDual 16 = .ok (.iconst (-1), 1) := dk_2 (dk_at dksX3_tellDual_0 16 rfl rfl)
theorem dX3_tellDual_17 : decode cX3_tellDual 17 = .ok (.ireturn, 1) := dk_172 (dk_at dksX3_tellDual_0 17 rfl rfl)
theorem dX3_tellDual_18 : decode cX3_tellDual 18 = .ok (.iconst 0, 1) := dk_3 (dk_at dksX3_tellDual_0 18 rfl rfl)
theorem dX3_tellDual_19 : decode cX3_tellDual 19 = .ok (.istore_n 1, 1) := dk_60 (dk_at dksX3_tellDual_0 19 rfl rfl)
theorem dX3_tellDual_20 : decode cX3_tellDual 20 = .ok (.iconst 0, 1) := dk_3 (dk_at dksX3_tellDual_0 20 rfl rfl)
theorem dX3_tellDual_21 : decode cX3_tellDual 21 = .ok (.istore_n 2, 1) := dk_61 (dk_at dksX3_tellDual_0 21 rfl rfl)
theorem dX3_tellDual_22 : decode cX3_tellDual 22 = .ok (.iload_n 2, 1) := dk_28 (dk_at dksX3_tellDual_0 22 rfl rfl)
theorem dX3_tellDual_23 : decode cX3_tellDual 23 = .ok (.aload_n 0, 1) := dk_42 (dk_at dksX3_tellDual_0 23 rfl rfl)
theorem dX3_tellDual_24 : decode cX3_tellDual 24 = .ok (.invokevirtual 222, 3) := dk_182 0 222 (dk_at dksX3_tellDual_1 0 rfl rfl)
theorem dX3_tellDual_27 : decode cX3_tellDual 27 = .ok (.if_icmp .ge 46, 3) := dk_162 0 46 (dk_at dksX3_tellDual_1 3 rfl rfl)
theorem dX3_tellDual_30 : decode cX3_tellDual 30 = .ok (.aload_n 0, 1) := dk_42 (dk_at dksX3_tellDual_1 6 rfl rfl)
theorem dX3_tellDual_31 : decode cX3_tellDual 31 = .ok (.iload_n 2, 1) := dk_28 (dk_at dksX3_tellDual_1 7 rfl rfl)
theorem dX3_tellDual_32 : decode cX3_tellDual 32 = .ok (.invokevirtual 228, 3) := dk_182 0 228 (dk_at dksX3_tellDual_1 8 rfl rfl)
theorem dX3_tellDual_35 : decode cX3_tellDual 35 = .ok (.istore_n 3, 1) := dk_62 (dk_at dksX3_tellDual_1 11 rfl rfl)
theorem dX3_tellDual_36 : decode cX3_tellDual 36 = .ok (.iload_n 3, 1) := dk_29 (dk_at dksX3_tellDual_1 12 rfl rfl)
theorem dX3_tellDual_37 : decode cX3_tellDual 37 = .ok (.invokestatic 210, 3) := dk_184 0 210 (dk_at dksX3_tellDual_1 13 rfl rfl)
theorem dX3_tellDual_40 : decode cX3_tellDual 40 = .ok (.iconst 4, 1) := dk_7 (dk_at dksX3_tellDual_1 16 rfl rfl)
theorem dX3_tellDual_41 : decode cX3_tellDual 41 = .ok (.if_icmp .le 5, 3) := dk_164 0 5 (dk_at dksX3_tellDual_1 17 rfl rfl)
theorem dX3_tellDual_44 : decode cX3_tellDual 44 = .ok (.iconst (-1), 1) := dk_2 (dk_at dksX3_tellDual_1 20 rfl rfl)
theorem dX3_tellDual_45 : decode cX3_tellDual 45 = .ok (.ireturn, 1) := dk_172 (dk_at dksX3_tellDual_1 21 rfl rfl)
theorem dX3_tellDual_46 : decode cX3_tellDual 46 = .ok (.iload_n 3, 1) := dk_29 (dk_at dksX3_tellDual_1 22 rfl rfl)
theorem dX3_tellDual_47 : decode cX3_tellDual 47 = .ok (.invokestatic 210, 3) := dk_184 0 210 (dk_at dksX3_tellDual_2 0 rfl rfl)
theorem dX3_tellDual_50 : decode cX3_tellDual 50 = .ok (.iconst 2, 1) := dk_5 (dk_at dksX3_tellDual_2 3 rfl rfl)
theorem dX3_tellDual_51 : decode cX3_tellDual 51 = .ok (.if_icmp .ge 6, 3) := dk_162 0 6 (dk_at dksX3_tellDual_2 4 rfl rfl)
theorem dX3_tellDual_54 : decode cX3_tellDual 54 = .ok (.goto 13, 3) := dk_167 0 13 (dk_at dksX3_tellDual_2 7 rfl rfl)
theorem dX3_tellDual_57 : decode cX3_tellDual 57 = .ok (.aload_n 0, 1) := dk_42 (dk_at dksX3_tellDual_2 10 rfl rfl)
theorem dX3_tellDual_58 : decode cX3_tellDual 58 = .ok (.getfield 35, 3) := dk_180 0 35 (dk_at dksX3_tellDual_2 11 rfl rfl)
theorem dX3_tellDual_61 : decode cX3_tellDual 61 = .ok (.iload_n 1, 1) := dk_27 (dk_at dksX3_tellDual_2 14 rfl rfl)
theorem dX3_tellDual_62 : decode cX3_tellDual 62 = .ok (.iload_n 3, 1) := dk_29 (dk_at dksX3_tellDual_2 15 rfl rfl)
theorem dX3_tellDual_63 : decode cX3_tellDual 63 = .ok (.iastore, 1) := dk_79 (dk_at dksX3_tellDual_2 16 rfl rfl)
theorem dX3_tellDual_64 : decode cX3_tellDual 64 = .ok (.iinc 1 1, 3) := dk_132 1 1 (dk_at dksX3_tellDual_2 17 rfl rfl)
theorem dX3_tellDual_67 : decode cX3_tellDual 67 = .ok (.iinc 2 1, 3) := dk_132 2 1 (dk_at dksX3_tellDual_2 20 rfl rfl)
theorem dX3_tellDual_70 : decode cX3_tellDual 70 = .ok (.goto (-48), 3) := dk_167 255 208 (dk_at dksX3_tellDual_3 0 rfl rfl)
theorem dX3_tellDual_73 : decode cX3_tellDual 73 = .ok (.iload_n 1, 1) := dk_27 (dk_at dksX3_tellDual_3 3 rfl rfl)
theorem dX3_tellDual_74 : decode cX3_tellDual 74 = .ok (.ireturn, 1) := dk_172 (dk_at dksX3_tellDual_3 4 rfl rfl)
abbrev cX3_shelf : ByteArray := prog_15_method_78_code
def yX3_shelf : MethodName := ⟨RX3, "shelf", "(II)I"⟩
def dkwX3_shelf_3 : List UInt8 := [42, 180, 1, 102, 172]
abbrev dktX3_shelf_3 : List UInt8 := dkwX3_shelf_3 ++ []
def dkwX3_shelf_2 : List UInt8 := [160, 0, 7, 3, 167, 0, 4, 4, 182, 1, 96, 172, 42, 3, 181, 1, 102, 42, 27, 3, 3, 182, 1, 105]
abbrev dktX3_shelf_2 : List UInt8 := dkwX3_shelf_2 ++ dktX3_shelf_3
def dkwX3_shelf_1 : List UInt8 := [182, 0, 192, 172, 28, 154, 0, 9, 42, 27, 182, 1, 112, 172, 28, 4, 164, 0, 19, 42, 27, 28, 5]
abbrev dktX3_shelf_1 : List UInt8 := dkwX3_shelf_1 ++ dktX3_shelf_2
def dkwX3_shelf_0 : List UInt8 := [42, 3, 181, 0, 93, 42, 27, 182, 1, 109, 153, 0, 12, 28, 3, 6, 184, 1, 71, 154, 0, 9, 42, 4]
abbrev dktX3_shelf_0 : List UInt8 := dkwX3_shelf_0 ++ dktX3_shelf_1
theorem dksX3_shelf_0 : cX3_shelf.data.toList.drop 0 = dktX3_shelf_0 := by decide +kernel
theorem dksX3_shelf_1 : cX3_shelf.data.toList.drop 24 = dktX3_shelf_1 := dk_seg dksX3_shelf_0 24 rfl rfl
theorem dksX3_shelf_2 : cX3_shelf.data.toList.drop 47 = dktX3_shelf_2 := dk_seg dksX3_shelf_1 23 rfl rfl
theorem dksX3_shelf_3 : cX3_shelf.data.toList.drop 71 = dktX3_shelf_3 := dk_seg dksX3_shelf_2 24 rfl rfl
theorem dX3_shelf_0 : decode cX3_shelf 0 = .ok (.aload_n 0, 1) := dk_42 (dk_at dksX3_shelf_0 0 rfl rfl)
theorem dX3_shelf_1 : decode cX3_shelf 1 = .ok (.iconst 0, 1) := dk_3 (dk_at dksX3_shelf_0 1 rfl rfl)
theorem dX3_shelf_2 : decode cX3_shelf 2 = .ok (.putfield 93, 3) := dk_181 0 93 (dk_at dksX3_shelf_0 2 rfl rfl)
theorem dX3_shelf_5 : decode cX3_shelf 5 = .ok (.aload_n 0, 1) := dk_42 (dk_at dksX3_shelf_0 5 rfl rfl)
theorem dX3_shelf_6 : decode cX3_shelf 6 = .ok (.iload_n 1, 1) := dk_27 (dk_at dksX3_shelf_0 6 rfl rfl)
theorem dX3_shelf_7 : decode cX3_shelf 7 = .ok (.invokevirtual 365, 3) := dk_182 1 109 (dk_at dksX3_shelf_0 7 rfl rfl)
theorem dX3_shelf_10 : decode cX3_shelf 10 = .ok (.ifCond .eq 12, 3) := dk_153 0 12 (dk_at dksX3_shelf_0 10 rfl rfl)
theorem dX3_shelf_13 : decode cX3_shelf 13 = .ok (.iload_n 2, 1) := dk_28 (dk_at dksX3_shelf_0 13 rfl rfl)
theorem dX3_shelf_14 : decode cX3_shelf 14 = .ok (.iconst 0, 1) := dk_3 (dk_at dksX3_shelf_0 14 rfl rfl)
theorem dX3_shelf_15 : decode cX3_shelf 15 = .ok (.iconst 3, 1) := dk_6 (dk_at dksX3_shelf_0 15 rfl rfl)
theorem dX3_shelf_16 : decode cX3_shelf 16 = .ok (.invokestatic 327, 3) := dk_184 1 71 (dk_at dksX3_shelf_0 16 rfl rfl)
theorem dX3_shelf_19 : decode cX3_shelf 19 = .ok (.ifCond .ne 9, 3) := dk_154 0 9 (dk_at dksX3_shelf_0 19 rfl rfl)
theorem dX3_shelf_22 : decode cX3_shelf 22 = .ok (.aload_n 0, 1) := dk_42 (dk_at dksX3_shelf_0 22 rfl rfl)
theorem dX3_shelf_23 : decode cX3_shelf 23 = .ok (.iconst 1, 1) := dk_4 (dk_at dksX3_shelf_0 23 rfl rfl)
theorem dX3_shelf_24 : decode cX3_shelf 24 = .ok (.invokevirtual 192, 3) := dk_182 0 192 (dk_at dksX3_shelf_1 0 rfl rfl)
theorem dX3_shelf_27 : decode cX3_shelf 27 = .ok (.ireturn, 1) := dk_172 (dk_at dksX3_shelf_1 3 rfl rfl)
theorem dX3_shelf_28 : decode cX3_shelf 28 = .ok (.iload_n 2, 1) := dk_28 (dk_at dksX3_shelf_1 4 rfl rfl)
theorem dX3_shelf_29 : decode cX3_shelf 29 = .ok (.ifCond .ne 9, 3) := dk_154 0 9 (dk_at dksX3_shelf_1 5 rfl rfl)
theorem dX3_shelf_32 : decode cX3_shelf 32 = .ok (.aload_n 0, 1) := dk_42 (dk_at dksX3_shelf_1 8 rfl rfl)
theorem dX3_shelf_33 : decode cX3_shelf 33 = .ok (.iload_n 1, 1) := dk_27 (dk_at dksX3_shelf_1 9 rfl rfl)
theorem dX3_shelf_34 : decode cX3_shelf 34 = .ok (.invokevirtual 368, 3) := dk_182 1 112 (dk_at dksX3_shelf_1 10 rfl rfl)
theorem dX3_shelf_37 : decode cX3_shelf 37 = .ok (.ireturn, 1) := dk_172 (dk_at dksX3_shelf_1 13 rfl rfl)
theorem dX3_shelf_38 : decode cX3_shelf 38 = .ok (.iload_n 2, 1) := dk_28 (dk_at dksX3_shelf_1 14 rfl rfl)
theorem dX3_shelf_39 : decode cX3_shelf 39 = .ok (.iconst 1, 1) := dk_4 (dk_at dksX3_shelf_1 15 rfl rfl)
theorem dX3_shelf_40 : decode cX3_shelf 40 = .ok (.if_icmp .le 19, 3) := dk_164 0 19 (dk_at dksX3_shelf_1 16 rfl rfl)
theorem dX3_shelf_43 : decode cX3_shelf 43 = .ok (.aload_n 0, 1) := dk_42 (dk_at dksX3_shelf_1 19 rfl rfl)
theorem dX3_shelf_44 : decode cX3_shelf 44 = .ok (.iload_n 1, 1) := dk_27 (dk_at dksX3_shelf_1 20 rfl rfl)
theorem dX3_shelf_45 : decode cX3_shelf 45 = .ok (.iload_n 2, 1) := dk_28 (dk_at dksX3_shelf_1 21 rfl rfl)
theorem dX3_shelf_46 : decode cX3_shelf 46 = .ok (.iconst 2, 1) := dk_5 (dk_at dksX3_shelf_1 22 rfl rfl)
theorem dX3_shelf_47 : decode cX3_shelf 47 = .ok (.if_icmp .ne 7, 3) := dk_160 0 7 (dk_at dksX3_shelf_2 0 rfl rfl)
theorem dX3_shelf_50 : decode cX3_shelf 50 = .ok (.iconst 0, 1) := dk_3 (dk_at dksX3_shelf_2 3 rfl rfl)
theorem dX3_shelf_51 : decode cX3_shelf 51 = .ok (.goto 4, 3) := dk_167 0 4 (dk_at dksX3_shelf_2 4 rfl rfl)
theorem dX3_shelf_54 : decode cX3_shelf 54 = .ok (.iconst 1, 1) := dk_4 (dk_at dksX3_shelf_2 7 rfl rfl)
theorem dX3_shelf_55 : decode cX3_shelf 55 = .ok (.invokevirtual 352, 3) := dk_182 1 96 (dk_at dksX3_shelf_2 8 rfl rfl)
theorem dX3_shelf_58 : decode cX3_shelf 58 = .ok (.ireturn, 1) := dk_172 (dk_at dksX3_shelf_2 11 rfl rfl)
theorem dX3_shelf_59 : decode cX3_shelf 59 = .ok (.aload_n 0, 1) := dk_42 (dk_at dksX3_shelf_2 12 rfl rfl)
theorem dX3_shelf_60 : decode cX3_shelf 60 = .ok (.iconst 0, 1) := dk_3 (dk_at dksX3_shelf_2 13 rfl rfl)
theorem dX3_shelf_61 : decode cX3_shelf 61 = .ok (.putfield 358, 3) := dk_181 1 102 (dk_at dksX3_shelf_2 14 rfl rfl)
theorem dX3_shelf_64 : decode cX3_shelf 64 = .ok (.aload_n 0, 1) := dk_42 (dk_at dksX3_shelf_2 17 rfl rfl)
theorem dX3_shelf_65 : decode cX3_shelf 65 = .ok (.iload_n 1, 1) := dk_27 (dk_at dksX3_shelf_2 18 rfl rfl)
theorem dX3_shelf_66 : decode cX3_shelf 66 = .ok (.iconst 0, 1) := dk_3 (dk_at dksX3_shelf_2 19 rfl rfl)
theorem dX3_shelf_67 : decode cX3_shelf 67 = .ok (.iconst 0, 1) := dk_3 (dk_at dksX3_shelf_2 20 rfl rfl)
theorem dX3_shelf_68 : decode cX3_shelf 68 = .ok (.invokevirtual 361, 3) := dk_182 1 105 (dk_at dksX3_shelf_2 21 rfl rfl)
theorem dX3_shelf_71 : decode cX3_shelf 71 = .ok (.aload_n 0, 1) := dk_42 (dk_at dksX3_shelf_3 0 rfl rfl)
theorem dX3_shelf_72 : decode cX3_shelf 72 = .ok (.getfield 358, 3) := dk_180 1 102 (dk_at dksX3_shelf_3 1 rfl rfl)
theorem dX3_shelf_75 : decode cX3_shelf 75 = .ok (.ireturn, 1) := dk_172 (dk_at dksX3_shelf_3 4 rfl rfl)
abbrev cX3_hasShelf : ByteArray := prog_15_method_73_code
def yX3_hasShelf : MethodName := ⟨RX3, "hasShelf", "(I)Z"⟩
def dkwX3_hasShelf_1 : List UInt8 := [167, 0, 4, 3, 172]
abbrev dktX3_hasShelf_1 : List UInt8 := dkwX3_hasShelf_1 ++ []
def dkwX3_hasShelf_0 : List UInt8 := [27, 3, 6, 184, 1, 71, 153, 0, 20, 42, 180, 0, 9, 27, 184, 1, 93, 46, 4, 160, 0, 7, 4]
abbrev dktX3_hasShelf_0 : List UInt8 := dkwX3_hasShelf_0 ++ dktX3_hasShelf_1
theorem dksX3_hasShelf_0 : cX3_hasShelf.data.toList.drop 0 = dktX3_hasShelf_0 := by decide +kernel
theorem dksX3_hasShelf_1 : cX3_hasShelf.data.toList.drop 23 = dktX3_hasShelf_1 := dk_seg dksX3_hasShelf_0 23 rfl rfl
theorem dX3_hasShelf_0 : decode cX3_hasShelf 0 = .ok (.iload_n 1, 1) := dk_27 (dk_at dksX3_hasShelf_0 0 rfl rfl)
theorem dX3_hasShelf_1 : decode cX3_hasShelf 1 = .ok (.iconst 0, 1) := dk_3 (dk_at dksX3_hasShelf_0 1 rfl rfl)
theorem dX3_hasShelf_2 : decode cX3_hasShelf 2 = .ok (.iconst 3, 1) := dk_6 (dk_at dksX3_hasShelf_0 2 rfl rfl)
theorem dX3_hasShelf_3 : decode cX3_hasShelf 3 = .ok (.invokestatic 327, 3) := dk_184 1 71 (dk_at dksX3_hasShelf_0 3 rfl rfl)
theorem dX3_hasShelf_6 : decode cX3_hasShelf 6 = .ok (.ifCond .eq 20, 3) := dk_153 0 20 (dk_at dksX3_hasShelf_0 6 rfl rfl)
theorem dX3_hasShelf_9 : decode cX3_hasShelf 9 = .ok (.aload_n 0, 1) := dk_42 (dk_at dksX3_hasShelf_0 9 rfl rfl)
theorem dX3_hasShelf_10 : decode cX3_hasShelf 10 = .ok (.getfield 9, 3) := dk_180 0 9 (dk_at dksX3_hasShelf_0 10 rfl rfl)
theorem dX3_hasShelf_13 : decode cX3_hasShelf 13 = .ok (.iload_n 1, 1) := dk_27 (dk_at dksX3_hasShelf_0 13 rfl rfl)
theorem dX3_hasShelf_14 : decode cX3_hasShelf 14 = .ok (.invokestatic 349, 3) := dk_184 1 93 (dk_at dksX3_hasShelf_0 14 rfl rfl)
theorem dX3_hasShelf_17 : decode cX3_hasShelf 17 = .ok (.iaload, 1) := dk_46 (dk_at dksX3_hasShelf_0 17 rfl rfl)
theorem dX3_hasShelf_18 : decode cX3_hasShelf 18 = .ok (.iconst 1, 1) := dk_4 (dk_at dksX3_hasShelf_0 18 rfl rfl)
theorem dX3_hasShelf_19 : decode cX3_hasShelf 19 = .ok (.if_icmp .ne 7, 3) := dk_160 0 7 (dk_at dksX3_hasShelf_0 19 rfl rfl)
theorem dX3_hasShelf_22 : decode cX3_hasShelf 22 = .ok (.iconst 1, 1) := dk_4 (dk_at dksX3_hasShelf_0 22 rfl rfl)
theorem dX3_hasShelf_23 : decode cX3_hasShelf 23 = .ok (.goto 4, 3) := dk_167 0 4 (dk_at dksX3_hasShelf_1 0 rfl rfl)
theorem dX3_hasShelf_26 : decode cX3_hasShelf 26 = .ok (.iconst 0, 1) := dk_3 (dk_at dksX3_hasShelf_1 3 rfl rfl)
theorem dX3_hasShelf_27 : decode cX3_hasShelf 27 = .ok (.ireturn, 1) := dk_172 (dk_at dksX3_hasShelf_1 4 rfl rfl)
abbrev cX3_shelfAt : ByteArray := prog_15_method_72_code
def yX3_shelfAt : MethodName := ⟨RX3, "shelfAt", "(I)I"⟩
def dkwX3_shelfAt_0 : List UInt8 := [16, 30, 16, 31, 26, 104, 96, 172]
abbrev dktX3_shelfAt_0 : List UInt8 := dkwX3_shelfAt_0 ++ []
theorem dksX3_shelfAt_0 : cX3_shelfAt.data.toList.drop 0 = dktX3_shelfAt_0 := by decide +kernel
theorem dX3_shelfAt_0 : decode cX3_shelfAt 0 = .ok (.bipush 30, 2) := dk_16 30 (dk_at dksX3_shelfAt_0 0 rfl rfl)
theorem dX3_shelfAt_2 : decode cX3_shelfAt 2 = .ok (.bipush 31, 2) := dk_16 31 (dk_at dksX3_shelfAt_0 2 rfl rfl)
theorem dX3_shelfAt_4 : decode cX3_shelfAt 4 = .ok (.iload_n 0, 1) := dk_26 (dk_at dksX3_shelfAt_0 4 rfl rfl)
theorem dX3_shelfAt_5 : decode cX3_shelfAt 5 = .ok (.imul, 1) := dk_104 (dk_at dksX3_shelfAt_0 5 rfl rfl)
theorem dX3_shelfAt_6 : decode cX3_shelfAt 6 = .ok (.iadd, 1) := dk_96 (dk_at dksX3_shelfAt_0 6 rfl rfl)
theorem dX3_shelfAt_7 : decode cX3_shelfAt 7 = .ok (.ireturn, 1) := dk_172 (dk_at dksX3_shelfAt_0 7 rfl rfl)
abbrev cX3_likes : ByteArray := prog_15_method_75_code
def yX3_likes : MethodName := ⟨RX3, "likes", "(I)I"⟩
def dkwX3_likes_5 : List UInt8 := [61, 42, 42, 182, 0, 222, 182, 1, 4, 62, 167, 255, 175, 28, 172]
abbrev dktX3_likes_5 : List UInt8 := dkwX3_likes_5 ++ []
def dkwX3_likes_4 : List UInt8 := [167, 0, 4, 3, 54, 4, 132, 5, 1, 167, 255, 210, 28, 21, 4, 153, 0, 7, 4, 167, 0, 4, 3, 96]
abbrev dktX3_likes_4 : List UInt8 := dkwX3_likes_4 ++ dktX3_likes_5
def dkwX3_likes_3 : List UInt8 := [180, 0, 29, 42, 42, 27, 5, 21, 5, 96, 182, 1, 96, 182, 0, 247, 46, 2, 159, 0, 7, 4]
abbrev dktX3_likes_3 : List UInt8 := dkwX3_likes_3 ++ dktX3_likes_4
def dkwX3_likes_2 : List UInt8 := [153, 0, 83, 4, 54, 4, 3, 54, 5, 21, 5, 42, 182, 0, 213, 162, 0, 43, 21, 4, 153, 0, 38, 42]
abbrev dktX3_likes_2 : List UInt8 := dkwX3_likes_2 ++ dktX3_likes_3
def dkwX3_likes_1 : List UInt8 := [159, 0, 5, 3, 172, 3, 61, 42, 182, 0, 250, 42, 42, 182, 0, 222, 182, 0, 253, 4, 62, 29]
abbrev dktX3_likes_1 : List UInt8 := dkwX3_likes_1 ++ dktX3_likes_2
def dkwX3_likes_0 : List UInt8 := [42, 27, 3, 182, 1, 96, 42, 182, 0, 222, 160, 0, 16, 42, 27, 4, 182, 1, 96, 42, 182, 0, 213]
abbrev dktX3_likes_0 : List UInt8 := dkwX3_likes_0 ++ dktX3_likes_1
theorem dksX3_likes_0 : cX3_likes.data.toList.drop 0 = dktX3_likes_0 := by decide +kernel
theorem dksX3_likes_1 : cX3_likes.data.toList.drop 23 = dktX3_likes_1 := dk_seg dksX3_likes_0 23 rfl rfl
theorem dksX3_likes_2 : cX3_likes.data.toList.drop 45 = dktX3_likes_2 := dk_seg dksX3_likes_1 22 rfl rfl
theorem dksX3_likes_3 : cX3_likes.data.toList.drop 69 = dktX3_likes_3 := dk_seg dksX3_likes_2 24 rfl rfl
theorem dksX3_likes_4 : cX3_likes.data.toList.drop 91 = dktX3_likes_4 := dk_seg dksX3_likes_3 22 rfl rfl
theorem dksX3_likes_5 : cX3_likes.data.toList.drop 115 = dktX3_likes_5 := dk_seg dksX3_likes_4 24 rfl rfl
theorem dX3_likes_0 : decode cX3_likes 0 = .ok (.aload_n 0, 1) := dk_42 (dk_at dksX3_likes_0 0 rfl rfl)
theorem dX3_likes_1 : decode cX3_likes 1 = .ok (.iload_n 1, 1) := dk_27 (dk_at dksX3_likes_0 1 rfl rfl)
theorem dX3_likes_2 : decode cX3_likes 2 = .ok (.iconst 0, 1) := dk_3 (dk_at dksX3_likes_0 2 rfl rfl)
theorem dX3_likes_3 : decode cX3_likes 3 = .ok (.invokevirtual 352, 3) := dk_182 1 96 (dk_at dksX3_likes_0 3 rfl rfl)
theorem dX3_likes_6 : decode cX3_likes 6 = .ok (.aload_n 0, 1) := dk_42 (dk_at dksX3_likes_0 6 rfl rfl)
theorem dX3_likes_7 : decode cX3_likes 7 = .ok (.invokevirtual 222, 3) := dk_182 0 222 (dk_at dksX3_likes_0 7 rfl rfl)
theorem dX3_likes_10 : decode cX3_likes 10 = .ok (.if_icmp .ne 16, 3) := dk_160 0 16 (dk_at dksX3_likes_0 10 rfl rfl)
theorem dX3_likes_13 : decode cX3_likes 13 = .ok (.aload_n 0, 1) := dk_42 (dk_at dksX3_likes_0 13 rfl rfl)
theorem dX3_likes_14 : decode cX3_likes 14 = .ok (.iload_n 1, 1) := dk_27 (dk_at dksX3_likes_0 14 rfl rfl)
theorem dX3_likes_15 : decode cX3_likes 15 = .ok (.iconst 1, 1) := dk_4 (dk_at dksX3_likes_0 15 rfl rfl)
theorem dX3_likes_16 : decode cX3_likes 16 = .ok (.invokevirtual 352, 3) := dk_182 1 96 (dk_at dksX3_likes_0 16 rfl rfl)
theorem dX3_likes_19 : decode cX3_likes 19 = .ok (.aload_n 0, 1) := dk_42 (dk_at dksX3_likes_0 19 rfl rfl)
theorem dX3_likes_20 : decode cX3_likes 20 = .ok (.invokevirtual 213, 3) := dk_182 0 213 (dk_at dksX3_likes_0 20 rfl rfl)
theorem dX3_likes_23 : decode cX3_likes 23 = .ok (.if_icmp .eq 5, 3) := dk_159 0 5 (dk_at dksX3_likes_1 0 rfl rfl)
theorem dX3_likes_26 : decode cX3_likes 26 = .ok (.iconst 0, 1) := dk_3 (dk_at dksX3_likes_1 3 rfl rfl)
theorem dX3_likes_27 : decode cX3_likes 27 = .ok (.ireturn, 1) := dk_172 (dk_at dksX3_likes_1 4 rfl rfl)
theorem dX3_likes_28 : decode cX3_likes 28 = .ok (.iconst 0, 1) := dk_3 (dk_at dksX3_likes_1 5 rfl rfl)
theorem dX3_likes_29 : decode cX3_likes 29 = .ok (.istore_n 2, 1) := dk_61 (dk_at dksX3_likes_1 6 rfl rfl)
theorem dX3_likes_30 : decode cX3_likes 30 = .ok (.aload_n 0, 1) := dk_42 (dk_at dksX3_likes_1 7 rfl rfl)
theorem dX3_likes_31 : decode cX3_likes 31 = .ok (.invokevirtual 250, 3) := dk_182 0 250 (dk_at dksX3_likes_1 8 rfl rfl)
theorem dX3_likes_34 : decode cX3_likes 34 = .ok (.aload_n 0, 1) := dk_42 (dk_at dksX3_likes_1 11 rfl rfl)
theorem dX3_likes_35 : decode cX3_likes 35 = .ok (.aload_n 0, 1) := dk_42 (dk_at dksX3_likes_1 12 rfl rfl)
theorem dX3_likes_36 : decode cX3_likes 36 = .ok (.invokevirtual 222, 3) := dk_182 0 222 (dk_at dksX3_likes_1 13 rfl rfl)
theorem dX3_likes_39 : decode cX3_likes 39 = .ok (.invokevirtual 253, 3) := dk_182 0 253 (dk_at dksX3_likes_1 16 rfl rfl)
theorem dX3_likes_42 : decode cX3_likes 42 = .ok (.iconst 1, 1) := dk_4 (dk_at dksX3_likes_1 19 rfl rfl)
theorem dX3_likes_43 : decode cX3_likes 43 = .ok (.istore_n 3, 1) := dk_62 (dk_at dksX3_likes_1 20 rfl rfl)
theorem dX3_likes_44 : decode cX3_likes 44 = .ok (.iload_n 3, 1) := dk_29 (dk_at dksX3_likes_1 21 rfl rfl)
theorem dX3_likes_45 : decode cX3_likes 45 = .ok (.ifCond .eq 83, 3) := dk_153 0 83 (dk_at dksX3_likes_2 0 rfl rfl)
theorem dX3_likes_48 : decode cX3_likes 48 = .ok (.iconst 1, 1) := dk_4 (dk_at dksX3_likes_2 3 rfl rfl)
theorem dX3_likes_49 : decode cX3_likes 49 = .ok (.istore 4, 2) := dk_54 4 (dk_at dksX3_likes_2 4 rfl rfl)
theorem dX3_likes_51 : decode cX3_likes 51 = .ok (.iconst 0, 1) := dk_3 (dk_at dksX3_likes_2 6 rfl rfl)
theorem dX3_likes_52 : decode cX3_likes 52 = .ok (.istore 5, 2) := dk_54 5 (dk_at dksX3_likes_2 7 rfl rfl)
theorem dX3_likes_54 : decode cX3_likes 54 = .ok (.iload 5, 2) := dk_21 5 (dk_at dksX3_likes_2 9 rfl rfl)
theorem dX3_likes_56 : decode cX3_likes 56 = .ok (.aload_n 0, 1) := dk_42 (dk_at dksX3_likes_2 11 rfl rfl)
theorem dX3_likes_57 : decode cX3_likes 57 = .ok (.invokevirtual 213, 3) := dk_182 0 213 (dk_at dksX3_likes_2 12 rfl rfl)
theorem dX3_likes_60 : decode cX3_likes 60 = .ok (.if_icmp .ge 43, 3) := dk_162 0 43 (dk_at dksX3_likes_2 15 rfl rfl)
theorem dX3_likes_63 : decode cX3_likes 63 = .ok (.iload 4, 2) := dk_21 4 (dk_at dksX3_likes_2 18 rfl rfl)
theorem dX3_likes_65 : decode cX3_likes 65 = .ok (.ifCond .eq 38, 3) := dk_153 0 38 (dk_at dksX3_likes_2 20 rfl rfl)
theorem dX3_likes_68 : decode cX3_likes 68 = .ok (.aload_n 0, 1) := dk_42 (dk_at dksX3_likes_2 23 rfl rfl)
theorem dX3_likes_69 : decode cX3_likes 69 = .ok (.getfield 29, 3) := dk_180 0 29 (dk_at dksX3_likes_3 0 rfl rfl)
theorem dX3_likes_72 : decode cX3_likes 72 = .ok (.aload_n 0, 1) := dk_42 (dk_at dksX3_likes_3 3 rfl rfl)
theorem dX3_likes_73 : decode cX3_likes 73 = .ok (.aload_n 0, 1) := dk_42 (dk_at dksX3_likes_3 4 rfl rfl)
theorem dX3_likes_74 : decode cX3_likes 74 = .ok (.iload_n 1, 1) := dk_27 (dk_at dksX3_likes_3 5 rfl rfl)
theorem dX3_likes_75 : decode cX3_likes 75 = .ok (.iconst 2, 1) := dk_5 (dk_at dksX3_likes_3 6 rfl rfl)
theorem dX3_likes_76 : decode cX3_likes 76 = .ok (.iload 5, 2) := dk_21 5 (dk_at dksX3_likes_3 7 rfl rfl)
theorem dX3_likes_78 : decode cX3_likes 78 = .ok (.iadd, 1) := dk_96 (dk_at dksX3_likes_3 9 rfl rfl)
theorem dX3_likes_79 : decode cX3_likes 79 = .ok (.invokevirtual 352, 3) := dk_182 1 96 (dk_at dksX3_likes_3 10 rfl rfl)
theorem dX3_likes_82 : decode cX3_likes 82 = .ok (.invokevirtual 247, 3) := dk_182 0 247 (dk_at dksX3_likes_3 13 rfl rfl)
theorem dX3_likes_85 : decode cX3_likes 85 = .ok (.iaload, 1) := dk_46 (dk_at dksX3_likes_3 16 rfl rfl)
theorem dX3_likes_86 : decode cX3_likes 86 = .ok (.iconst (-1), 1) := dk_2 (dk_at dksX3_likes_3 17 rfl rfl)
theorem dX3_likes_87 : decode cX3_likes 87 = .ok (.if_icmp .eq 7, 3) := dk_159 0 7 (dk_at dksX3_likes_3 18 rfl rfl)
theorem dX3_likes_90 : decode cX3_likes 90 = .ok (.iconst 1, 1) := dk_4 (dk_at dksX3_likes_3 21 rfl rfl)
theorem dX3_likes_91 : decode cX3_likes 91 = .ok (.goto 4, 3) := dk_167 0 4 (dk_at dksX3_likes_4 0 rfl rfl)
theorem dX3_likes_94 : decode cX3_likes 94 = .ok (.iconst 0, 1) := dk_3 (dk_at dksX3_likes_4 3 rfl rfl)
theorem dX3_likes_95 : decode cX3_likes 95 = .ok (.istore 4, 2) := dk_54 4 (dk_at dksX3_likes_4 4 rfl rfl)
theorem dX3_likes_97 : decode cX3_likes 97 = .ok (.iinc 5 1, 3) := dk_132 5 1 (dk_at dksX3_likes_4 6 rfl rfl)
theorem dX3_likes_100 : decode cX3_likes 100 = .ok (.goto (-46), 3) := dk_167 255 210 (dk_at dksX3_likes_4 9 rfl rfl)
theorem dX3_likes_103 : decode cX3_likes 103 = .ok (.iload_n 2, 1) := dk_28 (dk_at dksX3_likes_4 12 rfl rfl)
theorem dX3_likes_104 : decode cX3_likes 104 = .ok (.iload 4, 2) := dk_21 4 (dk_at dksX3_likes_4 13 rfl rfl)
theorem dX3_likes_106 : decode cX3_likes 106 = .ok (.ifCond .eq 7, 3) := dk_153 0 7 (dk_at dksX3_likes_4 15 rfl rfl)
theorem dX3_likes_109 : decode cX3_likes 109 = .ok (.iconst 1, 1) := dk_4 (dk_at dksX3_likes_4 18 rfl rfl)
theorem dX3_likes_110 : decode cX3_likes 110 = .ok (.goto 4, 3) := dk_167 0 4 (dk_at dksX3_likes_4 19 rfl rfl)
theorem dX3_likes_113 : decode cX3_likes 113 = .ok (.iconst 0, 1) := dk_3 (dk_at dksX3_likes_4 22 rfl rfl)
theorem dX3_likes_114 : decode cX3_likes 114 = .ok (.iadd, 1) := dk_96 (dk_at dksX3_likes_4 23 rfl rfl)
theorem dX3_likes_115 : decode cX3_likes 115 = .ok (.istore_n 2, 1) := dk_61 (dk_at dksX3_likes_5 0 rfl rfl)
theorem dX3_likes_116 : decode cX3_likes 116 = .ok (.aload_n 0, 1) := dk_42 (dk_at dksX3_likes_5 1 rfl rfl)
theorem dX3_likes_117 : decode cX3_likes 117 = .ok (.aload_n 0, 1) := dk_42 (dk_at dksX3_likes_5 2 rfl rfl)
theorem dX3_likes_118 : decode cX3_likes 118 = .ok (.invokevirtual 222, 3) := dk_182 0 222 (dk_at dksX3_likes_5 3 rfl rfl)
theorem dX3_likes_121 : decode cX3_likes 121 = .ok (.invokevirtual 260, 3) := dk_182 1 4 (dk_at dksX3_likes_5 6 rfl rfl)
theorem dX3_likes_124 : decode cX3_likes 124 = .ok (.istore_n 3, 1) := dk_62 (dk_at dksX3_likes_5 9 rfl rfl)
theorem dX3_likes_125 : decode cX3_likes 125 = .ok (.goto (-81), 3) := dk_167 255 175 (dk_at dksX3_likes_5 10 rfl rfl)
theorem dX3_likes_128 : decode cX3_likes 128 = .ok (.iload_n 2, 1) := dk_28 (dk_at dksX3_likes_5 13 rfl rfl)
theorem dX3_likes_129 : decode cX3_likes 129 = .ok (.ireturn, 1) := dk_172 (dk_at dksX3_likes_5 14 rfl rfl)
abbrev cX3_onShelf : ByteArray := prog_15_method_74_code
def yX3_onShelf : MethodName := ⟨RX3, "onShelf", "(II)I"⟩
def dkwX3_onShelf_0 : List UInt8 := [42, 180, 0, 9, 27, 184, 1, 93, 4, 96, 28, 96, 46, 172]
abbrev dktX3_onShelf_0 : List UInt8 := dkwX3_onShelf_0 ++ []
theorem dksX3_onShelf_0 : cX3_onShelf.data.toList.drop 0 = dktX3_onShelf_0 := by decide +kernel
theorem dX3_onShelf_0 : decode cX3_onShelf 0 = .ok (.aload_n 0, 1) := dk_42 (dk_at dksX3_onShelf_0 0 rfl rfl)
theorem dX3_onShelf_1 : decode cX3_onShelf 1 = .ok (.getfield 9, 3) := dk_180 0 9 (dk_at dksX3_onShelf_0 1 rfl rfl)
theorem dX3_onShelf_4 : decode cX3_onShelf 4 = .ok (.iload_n 1, 1) := dk_27 (dk_at dksX3_onShelf_0 4 rfl rfl)
theorem dX3_onShelf_5 : decode cX3_onShelf 5 = .ok (.invokestatic 349, 3) := dk_184 1 93 (dk_at dksX3_onShelf_0 5 rfl rfl)
theorem dX3_onShelf_8 : decode cX3_onShelf 8 = .ok (.iconst 1, 1) := dk_4 (dk_at dksX3_onShelf_0 8 rfl rfl)
theorem dX3_onShelf_9 : decode cX3_onShelf 9 = .ok (.iadd, 1) := dk_96 (dk_at dksX3_onShelf_0 9 rfl rfl)
theorem dX3_onShelf_10 : decode cX3_onShelf 10 = .ok (.iload_n 2, 1) := dk_28 (dk_at dksX3_onShelf_0 10 rfl rfl)
theorem dX3_onShelf_11 : decode cX3_onShelf 11 = .ok (.iadd, 1) := dk_96 (dk_at dksX3_onShelf_0 11 rfl rfl)
theorem dX3_onShelf_12 : decode cX3_onShelf 12 = .ok (.iaload, 1) := dk_46 (dk_at dksX3_onShelf_0 12 rfl rfl)
theorem dX3_onShelf_13 : decode cX3_onShelf 13 = .ok (.ireturn, 1) := dk_172 (dk_at dksX3_onShelf_0 13 rfl rfl)
abbrev cX3_tellWays : ByteArray := prog_15_method_77_code
def yX3_tellWays : MethodName := ⟨RX3, "tellWays", "(III)V"⟩
def dkwX3_tellWays_4 : List UInt8 := [21, 4, 79, 42, 27, 28, 4, 96, 29, 4, 21, 4, 120, 128, 182, 1, 105, 132, 4, 1, 167, 255, 209, 177]
abbrev dktX3_tellWays_4 : List UInt8 := dkwX3_tellWays_4 ++ []
def dkwX3_tellWays_3 : List UInt8 := [182, 0, 222, 162, 0, 44, 29, 21, 4, 122, 4, 126, 4, 160, 0, 6, 167, 0, 25, 42, 180, 0, 26, 28]
abbrev dktX3_tellWays_3 : List UInt8 := dkwX3_tellWays_3 ++ dktX3_tellWays_4
def dkwX3_tellWays_2 : List UInt8 := [79, 132, 4, 1, 167, 255, 226, 42, 89, 180, 1, 102, 4, 96, 181, 1, 102, 177, 3, 54, 4, 21, 4, 42]
abbrev dktX3_tellWays_2 : List UInt8 := dkwX3_tellWays_2 ++ dktX3_tellWays_3
def dkwX3_tellWays_1 : List UInt8 := [28, 162, 0, 30, 42, 180, 1, 102, 154, 0, 23, 42, 180, 0, 47, 21, 4, 42, 180, 0, 26, 21, 4, 46]
abbrev dktX3_tellWays_1 : List UInt8 := dkwX3_tellWays_1 ++ dktX3_tellWays_2
def dkwX3_tellWays_0 : List UInt8 := [28, 42, 27, 3, 182, 1, 96, 160, 0, 59, 42, 27, 182, 1, 99, 154, 0, 4, 177, 3, 54, 4, 21, 4]
abbrev dktX3_tellWays_0 : List UInt8 := dkwX3_tellWays_0 ++ dktX3_tellWays_1
theorem dksX3_tellWays_0 : cX3_tellWays.data.toList.drop 0 = dktX3_tellWays_0 := by decide +kernel
theorem dksX3_tellWays_1 : cX3_tellWays.data.toList.drop 24 = dktX3_tellWays_1 := dk_seg dksX3_tellWays_0 24 rfl rfl
theorem dksX3_tellWays_2 : cX3_tellWays.data.toList.drop 48 = dktX3_tellWays_2 := dk_seg dksX3_tellWays_1 24 rfl rfl
theorem dksX3_tellWays_3 : cX3_tellWays.data.toList.drop 72 = dktX3_tellWays_3 := dk_seg dksX3_tellWays_2 24 rfl rfl
theorem dksX3_tellWays_4 : cX3_tellWays.data.toList.drop 96 = dktX3_tellWays_4 := dk_seg dksX3_tellWays_3 24 rfl rfl
theorem dX3_tellWays_0 : decode cX3_tellWays 0 = .ok (.iload_n 2, 1) := dk_28 (dk_at dksX3_tellWays_0 0 rfl rfl)
theorem dX3_tellWays_1 : decode cX3_tellWays 1 = .ok (.aload_n 0, 1) := dk_42 (dk_at dksX3_tellWays_0 1 rfl rfl)
theorem dX3_tellWays_2 : decode cX3_tellWays 2 = .ok (.iload_n 1, 1) := dk_27 (dk_at dksX3_tellWays_0 2 rfl rfl)
theorem dX3_tellWays_3 : decode cX3_tellWays 3 = .ok (.iconst 0, 1) := dk_3 (dk_at dksX3_tellWays_0 3 rfl rfl)
theorem dX3_tellWays_4 : decode cX3_tellWays 4 = .ok (.invokevirtual 352, 3) := dk_182 1 96 (dk_at dksX3_tellWays_0 4 rfl rfl)
theorem dX3_tellWays_7 : decode cX3_tellWays 7 = .ok (.if_icmp .ne 59, 3) := dk_160 0 59 (dk_at dksX3_tellWays_0 7 rfl rfl)
theorem dX3_tellWays_10 : decode cX3_tellWays 10 = .ok (.aload_n 0, 1) := dk_42 (dk_at dksX3_tellWays_0 10 rfl rfl)
theorem dX3_tellWays_11 : decode cX3_tellWays 11 = .ok (.iload_n 1, 1) := dk_27 (dk_at dksX3_tellWays_0 11 rfl rfl)
theorem dX3_tellWays_12 : decode cX3_tellWays 12 = .ok (.invokevirtual 355, 3) := dk_182 1 99 (dk_at dksX3_tellWays_0 12 rfl rfl)
theorem dX3_tellWays_15 : decode cX3_tellWays 15 = .ok (.ifCond .ne 4, 3) := dk_154 0 4 (dk_at dksX3_tellWays_0 15 rfl rfl)
theorem dX3_tellWays_18 : decode cX3_tellWays 18 = .ok (.return_, 1) := dk_177 (dk_at dksX3_tellWays_0 18 rfl rfl)
theorem dX3_tellWays_19 : decode cX3_tellWays 19 = .ok (.iconst 0, 1) := dk_3 (dk_at dksX3_tellWays_0 19 rfl rfl)
theorem dX3_tellWays_20 : decode cX3_tellWays 20 = .ok (.istore 4, 2) := dk_54 4 (dk_at dksX3_tellWays_0 20 rfl rfl)
theorem dX3_tellWays_22 : decode cX3_tellWays 22 = .ok (.iload 4, 2) := dk_21 4 (dk_at dksX3_tellWays_0 22 rfl rfl)
theorem dX3_tellWays_24 : decode cX3_tellWays 24 = .ok (.iload_n 2, 1) := dk_28 (dk_at dksX3_tellWays_1 0 rfl rfl)
theorem dX3_tellWays_25 : decode cX3_tellWays 25 = .ok (.if_icmp .ge 30, 3) := dk_162 0 30 (dk_at dksX3_tellWays_1 1 rfl rfl)
theorem dX3_tellWays_28 : decode cX3_tellWays 28 = .ok (.aload_n 0, 1) := dk_42 (dk_at dksX3_tellWays_1 4 rfl rfl)
theorem dX3_tellWays_29 : decode cX3_tellWays 29 = .ok (.getfield 358, 3) := dk_180 1 102 (dk_at dksX3_tellWays_1 5 rfl rfl)
theorem dX3_tellWays_32 : decode cX3_tellWays 32 = .ok (.ifCond .ne 23, 3) := dk_154 0 23 (dk_at dksX3_tellWays_1 8 rfl rfl)
theorem dX3_tellWays_35 : decode cX3_tellWays 35 = .ok (.aload_n 0, 1) := dk_42 (dk_at dksX3_tellWays_1 11 rfl rfl)
theorem dX3_tellWays_36 : decode cX3_tellWays 36 = .ok (.getfield 47, 3) := dk_180 0 47 (dk_at dksX3_tellWays_1 12 rfl rfl)
theorem dX3_tellWays_39 : decode cX3_tellWays 39 = .ok (.iload 4, 2) := dk_21 4 (dk_at dksX3_tellWays_1 15 rfl rfl)
theorem dX3_tellWays_41 : decode cX3_tellWays 41 = .ok (.aload_n 0, 1) := dk_42 (dk_at dksX3_tellWays_1 17 rfl rfl)
theorem dX3_tellWays_42 : decode cX3_tellWays 42 = .ok (.getfield 26, 3) := dk_180 0 26 (dk_at dksX3_tellWays_1 18 rfl rfl)
theorem dX3_tellWays_45 : decode cX3_tellWays 45 = .ok (.iload 4, 2) := dk_21 4 (dk_at dksX3_tellWays_1 21 rfl rfl)
theorem dX3_tellWays_47 : decode cX3_tellWays 47 = .ok (.iaload, 1) := dk_46 (dk_at dksX3_tellWays_1 23 rfl rfl)
theorem dX3_tellWays_48 : decode cX3_tellWays 48 = .ok (.iastore, 1) := dk_79 (dk_at dksX3_tellWays_2 0 rfl rfl)
theorem dX3_tellWays_49 : decode cX3_tellWays 49 = .ok (.iinc 4 1, 3) := dk_132 4 1 (dk_at dksX3_tellWays_2 1 rfl rfl)
theorem dX3_tellWays_52 : decode cX3_tellWays 52 = .ok (.goto (-30), 3) := dk_167 255 226 (dk_at dksX3_tellWays_2 4 rfl rfl)
theorem dX3_tellWays_55 : decode cX3_tellWays 55 = .ok (.aload_n 0, 1) := dk_42 (dk_at dksX3_tellWays_2 7 rfl rfl)
theorem dX3_tellWays_56 : decode cX3_tellWays 56 = .ok (.dup, 1) := dk_89 (dk_at dksX3_tellWays_2 8 rfl rfl)
theorem dX3_tellWays_57 : decode cX3_tellWays 57 = .ok (.getfield 358, 3) := dk_180 1 102 (dk_at dksX3_tellWays_2 9 rfl rfl)
theorem dX3_tellWays_60 : decode cX3_tellWays 60 = .ok (.iconst 1, 1) := dk_4 (dk_at dksX3_tellWays_2 12 rfl rfl)
theorem dX3_tellWays_61 : decode cX3_tellWays 61 = .ok (.iadd, 1) := dk_96 (dk_at dksX3_tellWays_2 13 rfl rfl)
theorem dX3_tellWays_62 : decode cX3_tellWays 62 = .ok (.putfield 358, 3) := dk_181 1 102 (dk_at dksX3_tellWays_2 14 rfl rfl)
theorem dX3_tellWays_65 : decode cX3_tellWays 65 = .ok (.return_, 1) := dk_177 (dk_at dksX3_tellWays_2 17 rfl rfl)
theorem dX3_tellWays_66 : decode cX3_tellWays 66 = .ok (.iconst 0, 1) := dk_3 (dk_at dksX3_tellWays_2 18 rfl rfl)
theorem dX3_tellWays_67 : decode cX3_tellWays 67 = .ok (.istore 4, 2) := dk_54 4 (dk_at dksX3_tellWays_2 19 rfl rfl)
theorem dX3_tellWays_69 : decode cX3_tellWays 69 = .ok (.iload 4, 2) := dk_21 4 (dk_at dksX3_tellWays_2 21 rfl rfl)
theorem dX3_tellWays_71 : decode cX3_tellWays 71 = .ok (.aload_n 0, 1) := dk_42 (dk_at dksX3_tellWays_2 23 rfl rfl)
theorem dX3_tellWays_72 : decode cX3_tellWays 72 = .ok (.invokevirtual 222, 3) := dk_182 0 222 (dk_at dksX3_tellWays_3 0 rfl rfl)
theorem dX3_tellWays_75 : decode cX3_tellWays 75 = .ok (.if_icmp .ge 44, 3) := dk_162 0 44 (dk_at dksX3_tellWays_3 3 rfl rfl)
theorem dX3_tellWays_78 : decode cX3_tellWays 78 = .ok (.iload_n 3, 1) := dk_29 (dk_at dksX3_tellWays_3 6 rfl rfl)
theorem dX3_tellWays_79 : decode cX3_tellWays 79 = .ok (.iload 4, 2) := dk_21 4 (dk_at dksX3_tellWays_3 7 rfl rfl)
theorem dX3_tellWays_81 : decode cX3_tellWays 81 = .ok (.ishr, 1) := dk_122 (dk_at dksX3_tellWays_3 9 rfl rfl)
theorem dX3_tellWays_82 : decode cX3_tellWays 82 = .ok (.iconst 1, 1) := dk_4 (dk_at dksX3_tellWays_3 10 rfl rfl)
theorem dX3_tellWays_83 : decode cX3_tellWays 83 = .ok (.iand, 1) := dk_126 (dk_at dksX3_tellWays_3 11 rfl rfl)
theorem dX3_tellWays_84 : decode cX3_tellWays 84 = .ok (.iconst 1, 1) := dk_4 (dk_at dksX3_tellWays_3 12 rfl rfl)
theorem dX3_tellWays_85 : decode cX3_tellWays 85 = .ok (.if_icmp .ne 6, 3) := dk_160 0 6 (dk_at dksX3_tellWays_3 13 rfl rfl)
theorem dX3_tellWays_88 : decode cX3_tellWays 88 = .ok (.goto 25, 3) := dk_167 0 25 (dk_at dksX3_tellWays_3 16 rfl rfl)
theorem dX3_tellWays_91 : decode cX3_tellWays 91 = .ok (.aload_n 0, 1) := dk_42 (dk_at dksX3_tellWays_3 19 rfl rfl)
theorem dX3_tellWays_92 : decode cX3_tellWays 92 = .ok (.getfield 26, 3) := dk_180 0 26 (dk_at dksX3_tellWays_3 20 rfl rfl)
theorem dX3_tellWays_95 : decode cX3_tellWays 95 = .ok (.iload_n 2, 1) := dk_28 (dk_at dksX3_tellWays_3 23 rfl rfl)
theorem dX3_tellWays_96 : decode cX3_tellWays 96 = .ok (.iload 4, 2) := dk_21 4 (dk_at dksX3_tellWays_4 0 rfl rfl)
theorem dX3_tellWays_98 : decode cX3_tellWays 98 = .ok (.iastore, 1) := dk_79 (dk_at dksX3_tellWays_4 2 rfl rfl)
theorem dX3_tellWays_99 : decode cX3_tellWays 99 = .ok (.aload_n 0, 1) := dk_42 (dk_at dksX3_tellWays_4 3 rfl rfl)
theorem dX3_tellWays_100 : decode cX3_tellWays 100 = .ok (.iload_n 1, 1) := dk_27 (dk_at dksX3_tellWays_4 4 rfl rfl)
theorem dX3_tellWays_101 : decode cX3_tellWays 101 = .ok (.iload_n 2, 1) := dk_28 (dk_at dksX3_tellWays_4 5 rfl rfl)
theorem dX3_tellWays_102 : decode cX3_tellWays 102 = .ok (.iconst 1, 1) := dk_4 (dk_at dksX3_tellWays_4 6 rfl rfl)
theorem dX3_tellWays_103 : decode cX3_tellWays 103 = .ok (.iadd, 1) := dk_96 (dk_at dksX3_tellWays_4 7 rfl rfl)
theorem dX3_tellWays_104 : decode cX3_tellWays 104 = .ok (.iload_n 3, 1) := dk_29 (dk_at dksX3_tellWays_4 8 rfl rfl)
theorem dX3_tellWays_105 : decode cX3_tellWays 105 = .ok (.iconst 1, 1) := dk_4 (dk_at dksX3_tellWays_4 9 rfl rfl)
theorem dX3_tellWays_106 : decode cX3_tellWays 106 = .ok (.iload 4, 2) := dk_21 4 (dk_at dksX3_tellWays_4 10 rfl rfl)
theorem dX3_tellWays_108 : decode cX3_tellWays 108 = .ok (.ishl, 1) := dk_120 (dk_at dksX3_tellWays_4 12 rfl rfl)
theorem dX3_tellWays_109 : decode cX3_tellWays 109 = .ok (.ior, 1) := dk_128 (dk_at dksX3_tellWays_4 13 rfl rfl)
theorem dX3_tellWays_110 : decode cX3_tellWays 110 = .ok (.invokevirtual 361, 3) := dk_182 1 105 (dk_at dksX3_tellWays_4 14 rfl rfl)
theorem dX3_tellWays_113 : decode cX3_tellWays 113 = .ok (.iinc 4 1, 3) := dk_132 4 1 (dk_at dksX3_tellWays_4 17 rfl rfl)
theorem dX3_tellWays_116 : decode cX3_tellWays 116 = .ok (.goto (-47), 3) := dk_167 255 209 (dk_at dksX3_tellWays_4 20 rfl rfl)
theorem dX3_tellWays_119 : decode cX3_tellWays 119 = .ok (.return_, 1) := dk_177 (dk_at dksX3_tellWays_4 23 rfl rfl)
abbrev cX3_lies : ByteArray := prog_15_method_76_code
def yX3_lies : MethodName := ⟨RX3, "lies", "(I)Z"⟩
def dkwX3_lies_2 : List UInt8 := [3, 172, 28, 4, 21, 4, 120, 128, 61, 132, 3, 1, 167, 255, 200, 4, 172]
abbrev dktX3_lies_2 : List UInt8 := dkwX3_lies_2 ++ []
def dkwX3_lies_1 : List UInt8 := [182, 0, 247, 182, 0, 219, 54, 4, 21, 4, 2, 159, 0, 13, 28, 21, 4, 122, 4, 126, 4, 160, 0, 5]
abbrev dktX3_lies_1 : List UInt8 := dkwX3_lies_1 ++ dktX3_lies_2
def dkwX3_lies_0 : List UInt8 := [3, 61, 3, 62, 29, 42, 27, 4, 182, 1, 96, 162, 0, 52, 42, 42, 42, 27, 5, 29, 96, 182, 1, 96]
abbrev dktX3_lies_0 : List UInt8 := dkwX3_lies_0 ++ dktX3_lies_1
theorem dksX3_lies_0 : cX3_lies.data.toList.drop 0 = dktX3_lies_0 := by decide +kernel
theorem dksX3_lies_1 : cX3_lies.data.toList.drop 24 = dktX3_lies_1 := dk_seg dksX3_lies_0 24 rfl rfl
theorem dksX3_lies_2 : cX3_lies.data.toList.drop 48 = dktX3_lies_2 := dk_seg dksX3_lies_1 24 rfl rfl
theorem dX3_lies_0 : decode cX3_lies 0 = .ok (.iconst 0, 1) := dk_3 (dk_at dksX3_lies_0 0 rfl rfl)
theorem dX3_lies_1 : decode cX3_lies 1 = .ok (.istore_n 2, 1) := dk_61 (dk_at dksX3_lies_0 1 rfl rfl)
theorem dX3_lies_2 : decode cX3_lies 2 = .ok (.iconst 0, 1) := dk_3 (dk_at dksX3_lies_0 2 rfl rfl)
theorem dX3_lies_3 : decode cX3_lies 3 = .ok (.istore_n 3, 1) := dk_62 (dk_at dksX3_lies_0 3 rfl rfl)
theorem dX3_lies_4 : decode cX3_lies 4 = .ok (.iload_n 3, 1) := dk_29 (dk_at dksX3_lies_0 4 rfl rfl)
theorem dX3_lies_5 : decode cX3_lies 5 = .ok (.aload_n 0, 1) := dk_42 (dk_at dksX3_lies_0 5 rfl rfl)
theorem dX3_lies_6 : decode cX3_lies 6 = .ok (.iload_n 1, 1) := dk_27 (dk_at dksX3_lies_0 6 rfl rfl)
theorem dX3_lies_7 : decode cX3_lies 7 = .ok (.iconst 1, 1) := dk_4 (dk_at dksX3_lies_0 7 rfl rfl)
theorem dX3_lies_8 : decode cX3_lies 8 = .ok (.invokevirtual 352, 3) := dk_182 1 96 (dk_at dksX3_lies_0 8 rfl rfl)
theorem dX3_lies_11 : decode cX3_lies 11 = .ok (.if_icmp .ge 52, 3) := dk_162 0 52 (dk_at dksX3_lies_0 11 rfl rfl)
theorem dX3_lies_14 : decode cX3_lies 14 = .ok (.aload_n 0, 1) := dk_42 (dk_at dksX3_lies_0 14 rfl rfl)
theorem dX3_lies_15 : decode cX3_lies 15 = .ok (.aload_n 0, 1) := dk_42 (dk_at dksX3_lies_0 15 rfl rfl)
theorem dX3_lies_16 : decode cX3_lies 16 = .ok (.aload_n 0, 1) := dk_42 (dk_at dksX3_lies_0 16 rfl rfl)
theorem dX3_lies_17 : decode cX3_lies 17 = .ok (.iload_n 1, 1) := dk_27 (dk_at dksX3_lies_0 17 rfl rfl)
theorem dX3_lies_18 : decode cX3_lies 18 = .ok (.iconst 2, 1) := dk_5 (dk_at dksX3_lies_0 18 rfl rfl)
theorem dX3_lies_19 : decode cX3_lies 19 = .ok (.iload_n 3, 1) := dk_29 (dk_at dksX3_lies_0 19 rfl rfl)
theorem dX3_lies_20 : decode cX3_lies 20 = .ok (.iadd, 1) := dk_96 (dk_at dksX3_lies_0 20 rfl rfl)
theorem dX3_lies_21 : decode cX3_lies 21 = .ok (.invokevirtual 352, 3) := dk_182 1 96 (dk_at dksX3_lies_0 21 rfl rfl)
theorem dX3_lies_24 : decode cX3_lies 24 = .ok (.invokevirtual 247, 3) := dk_182 0 247 (dk_at dksX3_lies_1 0 rfl rfl)
theorem dX3_lies_27 : decode cX3_lies 27 = .ok (.invokevirtual 219, 3) := dk_182 0 219 (dk_at dksX3_lies_1 3 rfl rfl)
theorem dX3_lies_30 : decode cX3_lies 30 = .ok (.istore 4, 2) := dk_54 4 (dk_at dksX3_lies_1 6 rfl rfl)
theorem dX3_lies_32 : decode cX3_lies 32 = .ok (.iload 4, 2) := dk_21 4 (dk_at dksX3_lies_1 8 rfl rfl)
theorem dX3_lies_34 : decode cX3_lies 34 = .ok (.iconst (-1), 1) := dk_2 (dk_at dksX3_lies_1 10 rfl rfl)
theorem dX3_lies_35 : decode cX3_lies 35 = .ok (.if_icmp .eq 13, 3) := dk_159 0 13 (dk_at dksX3_lies_1 11 rfl rfl)
theorem dX3_lies_38 : decode cX3_lies 38 = .ok (.iload_n 2, 1) := dk_28 (dk_at dksX3_lies_1 14 rfl rfl)
theorem dX3_lies_39 : decode cX3_lies 39 = .ok (.iload 4, 2) := dk_21 4 (dk_at dksX3_lies_1 15 rfl rfl)
theorem dX3_lies_41 : decode cX3_lies 41 = .ok (.ishr, 1) := dk_122 (dk_at dksX3_lies_1 17 rfl rfl)
theorem dX3_lies_42 : decode cX3_lies 42 = .ok (.iconst 1, 1) := dk_4 (dk_at dksX3_lies_1 18 rfl rfl)
theorem dX3_lies_43 : decode cX3_lies 43 = .ok (.iand, 1) := dk_126 (dk_at dksX3_lies_1 19 rfl rfl)
theorem dX3_lies_44 : decode cX3_lies 44 = .ok (.iconst 1, 1) := dk_4 (dk_at dksX3_lies_1 20 rfl rfl)
theorem dX3_lies_45 : decode cX3_lies 45 = .ok (.if_icmp .ne 5, 3) := dk_160 0 5 (dk_at dksX3_lies_1 21 rfl rfl)
theorem dX3_lies_48 : decode cX3_lies 48 = .ok (.iconst 0, 1) := dk_3 (dk_at dksX3_lies_2 0 rfl rfl)
theorem dX3_lies_49 : decode cX3_lies 49 = .ok (.ireturn, 1) := dk_172 (dk_at dksX3_lies_2 1 rfl rfl)
theorem dX3_lies_50 : decode cX3_lies 50 = .ok (.iload_n 2, 1) := dk_28 (dk_at dksX3_lies_2 2 rfl rfl)
theorem dX3_lies_51 : decode cX3_lies 51 = .ok (.iconst 1, 1) := dk_4 (dk_at dksX3_lies_2 3 rfl rfl)
theorem dX3_lies_52 : decode cX3_lies 52 = .ok (.iload 4, 2) := dk_21 4 (dk_at dksX3_lies_2 4 rfl rfl)
theorem dX3_lies_54 : decode cX3_lies 54 = .ok (.ishl, 1) := dk_120 (dk_at dksX3_lies_2 6 rfl rfl)
theorem dX3_lies_55 : decode cX3_lies 55 = .ok (.ior, 1) := dk_128 (dk_at dksX3_lies_2 7 rfl rfl)
theorem dX3_lies_56 : decode cX3_lies 56 = .ok (.istore_n 2, 1) := dk_61 (dk_at dksX3_lies_2 8 rfl rfl)
theorem dX3_lies_57 : decode cX3_lies 57 = .ok (.iinc 3 1, 3) := dk_132 3 1 (dk_at dksX3_lies_2 9 rfl rfl)
theorem dX3_lies_60 : decode cX3_lies 60 = .ok (.goto (-56), 3) := dk_167 255 200 (dk_at dksX3_lies_2 12 rfl rfl)
theorem dX3_lies_63 : decode cX3_lies 63 = .ok (.iconst 1, 1) := dk_4 (dk_at dksX3_lies_2 15 rfl rfl)
theorem dX3_lies_64 : decode cX3_lies 64 = .ok (.ireturn, 1) := dk_172 (dk_at dksX3_lies_2 16 rfl rfl)
abbrev cX3_way : ByteArray := prog_15_method_79_code
def yX3_way : MethodName := ⟨RX3, "way", "(II)I"⟩
def dkwX3_way_2 : List UInt8 := [42, 180, 1, 102, 154, 0, 7, 2, 167, 0, 9, 42, 180, 0, 47, 28, 46, 172]
abbrev dktX3_way_2 : List UInt8 := dkwX3_way_2 ++ []
def dkwX3_way_1 : List UInt8 := [184, 1, 71, 154, 0, 9, 42, 4, 182, 0, 192, 172, 42, 3, 181, 1, 102, 42, 27, 3, 3, 182, 1, 105]
abbrev dktX3_way_1 : List UInt8 := dkwX3_way_1 ++ dktX3_way_2
def dkwX3_way_0 : List UInt8 := [42, 3, 181, 0, 93, 42, 27, 182, 1, 109, 153, 0, 19, 28, 3, 42, 27, 3, 182, 1, 96, 4, 100]
abbrev dktX3_way_0 : List UInt8 := dkwX3_way_0 ++ dktX3_way_1
theorem dksX3_way_0 : cX3_way.data.toList.drop 0 = dktX3_way_0 := by decide +kernel
theorem dksX3_way_1 : cX3_way.data.toList.drop 23 = dktX3_way_1 := dk_seg dksX3_way_0 23 rfl rfl
theorem dksX3_way_2 : cX3_way.data.toList.drop 47 = dktX3_way_2 := dk_seg dksX3_way_1 24 rfl rfl
theorem dX3_way_0 : decode cX3_way 0 = .ok (.aload_n 0, 1) := dk_42 (dk_at dksX3_way_0 0 rfl rfl)
theorem dX3_way_1 : decode cX3_way 1 = .ok (.iconst 0, 1) := dk_3 (dk_at dksX3_way_0 1 rfl rfl)
theorem dX3_way_2 : decode cX3_way 2 = .ok (.putfield 93, 3) := dk_181 0 93 (dk_at dksX3_way_0 2 rfl rfl)
theorem dX3_way_5 : decode cX3_way 5 = .ok (.aload_n 0, 1) := dk_42 (dk_at dksX3_way_0 5 rfl rfl)
theorem dX3_way_6 : decode cX3_way 6 = .ok (.iload_n 1, 1) := dk_27 (dk_at dksX3_way_0 6 rfl rfl)
theorem dX3_way_7 : decode cX3_way 7 = .ok (.invokevirtual 365, 3) := dk_182 1 109 (dk_at dksX3_way_0 7 rfl rfl)
theorem dX3_way_10 : decode cX3_way 10 = .ok (.ifCond .eq 19, 3) := dk_153 0 19 (dk_at dksX3_way_0 10 rfl rfl)
theorem dX3_way_13 : decode cX3_way 13 = .ok (.iload_n 2, 1) := dk_28 (dk_at dksX3_way_0 13 rfl rfl)
theorem dX3_way_14 : decode cX3_way 14 = .ok (.iconst 0, 1) := dk_3 (dk_at dksX3_way_0 14 rfl rfl)
theorem dX3_way_15 : decode cX3_way 15 = .ok (.aload_n 0, 1) := dk_42 (dk_at dksX3_way_0 15 rfl rfl)
theorem dX3_way_16 : decode cX3_way 16 = .ok (.iload_n 1, 1) := dk_27 (dk_at dksX3_way_0 16 rfl rfl)
theorem dX3_way_17 : decode cX3_way 17 = .ok (.iconst 0, 1) := dk_3 (dk_at dksX3_way_0 17 rfl rfl)
theorem dX3_way_18 : decode cX3_way 18 = .ok (.invokevirtual 352, 3) := dk_182 1 96 (dk_at dksX3_way_0 18 rfl rfl)
theorem dX3_way_21 : decode cX3_way 21 = .ok (.iconst 1, 1) := dk_4 (dk_at dksX3_way_0 21 rfl rfl)
theorem dX3_way_22 : decode cX3_way 22 = .ok (.isub, 1) := dk_100 (dk_at dksX3_way_0 22 rfl rfl)
theorem dX3_way_23 : decode cX3_way 23 = .ok (.invokestatic 327, 3) := dk_184 1 71 (dk_at dksX3_way_1 0 rfl rfl)
theorem dX3_way_26 : decode cX3_way 26 = .ok (.ifCond .ne 9, 3) := dk_154 0 9 (dk_at dksX3_way_1 3 rfl rfl)
theorem dX3_way_29 : decode cX3_way 29 = .ok (.aload_n 0, 1) := dk_42 (dk_at dksX3_way_1 6 rfl rfl)
theorem dX3_way_30 : decode cX3_way 30 = .ok (.iconst 1, 1) := dk_4 (dk_at dksX3_way_1 7 rfl rfl)
theorem dX3_way_31 : decode cX3_way 31 = .ok (.invokevirtual 192, 3) := dk_182 0 192 (dk_at dksX3_way_1 8 rfl rfl)
theorem dX3_way_34 : decode cX3_way 34 = .ok (.ireturn, 1) := dk_172 (dk_at dksX3_way_1 11 rfl rfl)
theorem dX3_way_35 : decode cX3_way 35 = .ok (.aload_n 0, 1) := dk_42 (dk_at dksX3_way_1 12 rfl rfl)
theorem dX3_way_36 : decode cX3_way 36 = .ok (.iconst 0, 1) := dk_3 (dk_at dksX3_way_1 13 rfl rfl)
theorem dX3_way_37 : decode cX3_way 37 = .ok (.putfield 358, 3) := dk_181 1 102 (dk_at dksX3_way_1 14 rfl rfl)
theorem dX3_way_40 : decode cX3_way 40 = .ok (.aload_n 0, 1) := dk_42 (dk_at dksX3_way_1 17 rfl rfl)
theorem dX3_way_41 : decode cX3_way 41 = .ok (.iload_n 1, 1) := dk_27 (dk_at dksX3_way_1 18 rfl rfl)
theorem dX3_way_42 : decode cX3_way 42 = .ok (.iconst 0, 1) := dk_3 (dk_at dksX3_way_1 19 rfl rfl)
theorem dX3_way_43 : decode cX3_way 43 = .ok (.iconst 0, 1) := dk_3 (dk_at dksX3_way_1 20 rfl rfl)
theorem dX3_way_44 : decode cX3_way 44 = .ok (.invokevirtual 361, 3) := dk_182 1 105 (dk_at dksX3_way_1 21 rfl rfl)
theorem dX3_way_47 : decode cX3_way 47 = .ok (.aload_n 0, 1) := dk_42 (dk_at dksX3_way_2 0 rfl rfl)
theorem dX3_way_48 : decode cX3_way 48 = .ok (.getfield 358, 3) := dk_180 1 102 (dk_at dksX3_way_2 1 rfl rfl)
theorem dX3_way_51 : decode cX3_way 51 = .ok (.ifCond .ne 7, 3) := dk_154 0 7 (dk_at dksX3_way_2 4 rfl rfl)
theorem dX3_way_54 : decode cX3_way 54 = .ok (.iconst (-1), 1) := dk_2 (dk_at dksX3_way_2 7 rfl rfl)
theorem dX3_way_55 : decode cX3_way 55 = .ok (.goto 9, 3) := dk_167 0 9 (dk_at dksX3_way_2 8 rfl rfl)
theorem dX3_way_58 : decode cX3_way 58 = .ok (.aload_n 0, 1) := dk_42 (dk_at dksX3_way_2 11 rfl rfl)
theorem dX3_way_59 : decode cX3_way 59 = .ok (.getfield 47, 3) := dk_180 0 47 (dk_at dksX3_way_2 12 rfl rfl)
theorem dX3_way_62 : decode cX3_way 62 = .ok (.iload_n 2, 1) := dk_28 (dk_at dksX3_way_2 15 rfl rfl)
theorem dX3_way_63 : decode cX3_way 63 = .ok (.iaload, 1) := dk_46 (dk_at dksX3_way_2 16 rfl rfl)
theorem dX3_way_64 : decode cX3_way 64 = .ok (.ireturn, 1) := dk_172 (dk_at dksX3_way_2 17 rfl rfl)
abbrev cX3_add : ByteArray := prog_15_method_86_code
def yX3_add : MethodName := ⟨RX3, "add", "(I)I"⟩
def dkwX3_add_1 : List UInt8 := [182, 1, 124, 42, 182, 0, 213, 4, 100, 172]
abbrev dktX3_add_1 : List UInt8 := dkwX3_add_1 ++ []
def dkwX3_add_0 : List UInt8 := [42, 3, 181, 0, 93, 42, 27, 182, 1, 118, 154, 0, 8, 42, 182, 1, 115, 172, 42, 182, 1, 121, 42, 27]
abbrev dktX3_add_0 : List UInt8 := dkwX3_add_0 ++ dktX3_add_1
theorem dksX3_add_0 : cX3_add.data.toList.drop 0 = dktX3_add_0 := by decide +kernel
theorem dksX3_add_1 : cX3_add.data.toList.drop 24 = dktX3_add_1 := dk_seg dksX3_add_0 24 rfl rfl
theorem dX3_add_0 : decode cX3_add 0 = .ok (.aload_n 0, 1) := dk_42 (dk_at dksX3_add_0 0 rfl rfl)
theorem dX3_add_1 : decode cX3_add 1 = .ok (.iconst 0, 1) := dk_3 (dk_at dksX3_add_0 1 rfl rfl)
theorem dX3_add_2 : decode cX3_add 2 = .ok (.putfield 93, 3) := dk_181 0 93 (dk_at dksX3_add_0 2 rfl rfl)
theorem dX3_add_5 : decode cX3_add 5 = .ok (.aload_n 0, 1) := dk_42 (dk_at dksX3_add_0 5 rfl rfl)
theorem dX3_add_6 : decode cX3_add 6 = .ok (.iload_n 1, 1) := dk_27 (dk_at dksX3_add_0 6 rfl rfl)
theorem dX3_add_7 : decode cX3_add 7 = .ok (.invokevirtual 374, 3) := dk_182 1 118 (dk_at dksX3_add_0 7 rfl rfl)
theorem dX3_add_10 : decode cX3_add 10 = .ok (.ifCond .ne 8, 3) := dk_154 0 8 (dk_at dksX3_add_0 10 rfl rfl)
theorem dX3_add_13 : decode cX3_add 13 = .ok (.aload_n 0, 1) := dk_42 (dk_at dksX3_add_0 13 rfl rfl)
theorem dX3_add_14 : decode cX3_add 14 = .ok (.invokevirtual 371, 3) := dk_182 1 115 (dk_at dksX3_add_0 14 rfl rfl)
theorem dX3_add_17 : decode cX3_add 17 = .ok (.ireturn, 1) := dk_172 (dk_at dksX3_add_0 17 rfl rfl)
theorem dX3_add_18 : decode cX3_add 18 = .ok (.aload_n 0, 1) := dk_42 (dk_at dksX3_add_0 18 rfl rfl)
theorem dX3_add_19 : decode cX3_add 19 = .ok (.invokevirtual 377, 3) := dk_182 1 121 (dk_at dksX3_add_0 19 rfl rfl)
theorem dX3_add_22 : decode cX3_add 22 = .ok (.aload_n 0, 1) := dk_42 (dk_at dksX3_add_0 22 rfl rfl)
theorem dX3_add_23 : decode cX3_add 23 = .ok (.iload_n 1, 1) := dk_27 (dk_at dksX3_add_0 23 rfl rfl)
theorem dX3_add_24 : decode cX3_add 24 = .ok (.invokevirtual 380, 3) := dk_182 1 124 (dk_at dksX3_add_1 0 rfl rfl)
theorem dX3_add_27 : decode cX3_add 27 = .ok (.aload_n 0, 1) := dk_42 (dk_at dksX3_add_1 3 rfl rfl)
theorem dX3_add_28 : decode cX3_add 28 = .ok (.invokevirtual 213, 3) := dk_182 0 213 (dk_at dksX3_add_1 4 rfl rfl)
theorem dX3_add_31 : decode cX3_add 31 = .ok (.iconst 1, 1) := dk_4 (dk_at dksX3_add_1 7 rfl rfl)
theorem dX3_add_32 : decode cX3_add 32 = .ok (.isub, 1) := dk_100 (dk_at dksX3_add_1 8 rfl rfl)
theorem dX3_add_33 : decode cX3_add 33 = .ok (.ireturn, 1) := dk_172 (dk_at dksX3_add_1 9 rfl rfl)
abbrev cX3_canAdd : ByteArray := prog_15_method_84_code
def yX3_canAdd : MethodName := ⟨RX3, "canAdd", "(I)Z"⟩
def dkwX3_canAdd_2 : List UInt8 := [162, 0, 7, 4, 167, 0, 4, 3, 172]
abbrev dktX3_canAdd_2 : List UInt8 := dkwX3_canAdd_2 ++ []
def dkwX3_canAdd_1 : List UInt8 := [184, 1, 71, 153, 0, 27, 42, 180, 0, 9, 27, 184, 0, 170, 154, 0, 16, 42, 182, 0, 213, 16, 12]
abbrev dktX3_canAdd_1 : List UInt8 := dkwX3_canAdd_1 ++ dktX3_canAdd_2
def dkwX3_canAdd_0 : List UInt8 := [27, 3, 4, 42, 182, 0, 222, 120, 4, 100, 184, 1, 71, 153, 0, 39, 27, 184, 0, 210, 5, 7]
abbrev dktX3_canAdd_0 : List UInt8 := dkwX3_canAdd_0 ++ dktX3_canAdd_1
theorem dksX3_canAdd_0 : cX3_canAdd.data.toList.drop 0 = dktX3_canAdd_0 := by decide +kernel
theorem dksX3_canAdd_1 : cX3_canAdd.data.toList.drop 22 = dktX3_canAdd_1 := dk_seg dksX3_canAdd_0 22 rfl rfl
theorem dksX3_canAdd_2 : cX3_canAdd.data.toList.drop 45 = dktX3_canAdd_2 := dk_seg dksX3_canAdd_1 23 rfl rfl
theorem dX3_canAdd_0 : decode cX3_canAdd 0 = .ok (.iload_n 1, 1) := dk_27 (dk_at dksX3_canAdd_0 0 rfl rfl)
theorem dX3_canAdd_1 : decode cX3_canAdd 1 = .ok (.iconst 0, 1) := dk_3 (dk_at dksX3_canAdd_0 1 rfl rfl)
theorem dX3_canAdd_2 : decode cX3_canAdd 2 = .ok (.iconst 1, 1) := dk_4 (dk_at dksX3_canAdd_0 2 rfl rfl)
theorem dX3_canAdd_3 : decode cX3_canAdd 3 = .ok (.aload_n 0, 1) := dk_42 (dk_at dksX3_canAdd_0 3 rfl rfl)
theorem dX3_canAdd_4 : decode cX3_canAdd 4 = .ok (.invokevirtual 222, 3) := dk_182 0 222 (dk_at dksX3_canAdd_0 4 rfl rfl)
theorem dX3_canAdd_7 : decode cX3_canAdd 7 = .ok (.ishl, 1) := dk_120 (dk_at dksX3_canAdd_0 7 rfl rfl)
theorem dX3_canAdd_8 : decode cX3_canAdd 8 = .ok (.iconst 1, 1) := dk_4 (dk_at dksX3_canAdd_0 8 rfl rfl)
theorem dX3_canAdd_9 : decode cX3_canAdd 9 = .ok (.isub, 1) := dk_100 (dk_at dksX3_canAdd_0 9 rfl rfl)
theorem dX3_canAdd_10 : decode cX3_canAdd 10 = .ok (.invokestatic 327, 3) := dk_184 1 71 (dk_at dksX3_canAdd_0 10 rfl rfl)
theorem dX3_canAdd_13 : decode cX3_canAdd 13 = .ok (.ifCond .eq 39, 3) := dk_153 0 39 (dk_at dksX3_canAdd_0 13 rfl rfl)
theorem dX3_canAdd_16 : decode cX3_canAdd 16 = .ok (.iload_n 1, 1) := dk_27 (dk_at dksX3_canAdd_0 16 rfl rfl)
theorem dX3_canAdd_17 : decode cX3_canAdd 17 = .ok (.invokestatic 210, 3) := dk_184 0 210 (dk_at dksX3_canAdd_0 17 rfl rfl)
theorem dX3_canAdd_20 : decode cX3_canAdd 20 = .ok (.iconst 2, 1) := dk_5 (dk_at dksX3_canAdd_0 20 rfl rfl)
theorem dX3_canAdd_21 : decode cX3_canAdd 21 = .ok (.iconst 4, 1) := dk_7 (dk_at dksX3_canAdd_0 21 rfl rfl)
theorem dX3_canAdd_22 : decode cX3_canAdd 22 = .ok (.invokestatic 327, 3) := dk_184 1 71 (dk_at dksX3_canAdd_1 0 rfl rfl)
theorem dX3_canAdd_25 : decode cX3_canAdd 25 = .ok (.ifCond .eq 27, 3) := dk_153 0 27 (dk_at dksX3_canAdd_1 3 rfl rfl)
theorem dX3_canAdd_28 : decode cX3_canAdd 28 = .ok (.aload_n 0, 1) := dk_42 (dk_at dksX3_canAdd_1 6 rfl rfl)
theorem dX3_canAdd_29 : decode cX3_canAdd 29 = .ok (.getfield 9, 3) := dk_180 0 9 (dk_at dksX3_canAdd_1 7 rfl rfl)
theorem dX3_canAdd_32 : decode cX3_canAdd 32 = .ok (.iload_n 1, 1) := dk_27 (dk_at dksX3_canAdd_1 10 rfl rfl)
theorem dX3_canAdd_33 : decode cX3_canAdd 33 = .ok (.invokestatic 170, 3) := dk_184 0 170 (dk_at dksX3_canAdd_1 11 rfl rfl)
theorem dX3_canAdd_36 : decode cX3_canAdd 36 = .ok (.ifCond .ne 16, 3) := dk_154 0 16 (dk_at dksX3_canAdd_1 14 rfl rfl)
theorem dX3_canAdd_39 : decode cX3_canAdd 39 = .ok (.aload_n 0, 1) := dk_42 (dk_at dksX3_canAdd_1 17 rfl rfl)
theorem dX3_canAdd_40 : decode cX3_canAdd 40 = .ok (.invokevirtual 213, 3) := dk_182 0 213 (dk_at dksX3_canAdd_1 18 rfl rfl)
theorem dX3_canAdd_43 : decode cX3_canAdd 43 = .ok (.bipush 12, 2) := dk_16 12 (dk_at dksX3_canAdd_1 21 rfl rfl)
theorem dX3_canAdd_45 : decode cX3_canAdd 45 = .ok (.if_icmp .ge 7, 3) := dk_162 0 7 (dk_at dksX3_canAdd_2 0 rfl rfl)
theorem dX3_canAdd_48 : decode cX3_canAdd 48 = .ok (.iconst 1, 1) := dk_4 (dk_at dksX3_canAdd_2 3 rfl rfl)
theorem dX3_canAdd_49 : decode cX3_canAdd 49 = .ok (.goto 4, 3) := dk_167 0 4 (dk_at dksX3_canAdd_2 4 rfl rfl)
theorem dX3_canAdd_52 : decode cX3_canAdd 52 = .ok (.iconst 0, 1) := dk_3 (dk_at dksX3_canAdd_2 7 rfl rfl)
theorem dX3_canAdd_53 : decode cX3_canAdd 53 = .ok (.ireturn, 1) := dk_172 (dk_at dksX3_canAdd_2 8 rfl rfl)
abbrev cX3_refuse : ByteArray := prog_15_method_80_code
def yX3_refuse : MethodName := ⟨RX3, "refuse", "()I"⟩
def dkwX3_refuse_0 : List UInt8 := [42, 180, 0, 16, 4, 92, 46, 4, 96, 79, 2, 172]
abbrev dktX3_refuse_0 : List UInt8 := dkwX3_refuse_0 ++ []
theorem dksX3_refuse_0 : cX3_refuse.data.toList.drop 0 = dktX3_refuse_0 := by decide +kernel
theorem dX3_refuse_0 : decode cX3_refuse 0 = .ok (.aload_n 0, 1) := dk_42 (dk_at dksX3_refuse_0 0 rfl rfl)
theorem dX3_refuse_1 : decode cX3_refuse 1 = .ok (.getfield 16, 3) := dk_180 0 16 (dk_at dksX3_refuse_0 1 rfl rfl)
theorem dX3_refuse_4 : decode cX3_refuse 4 = .ok (.iconst 1, 1) := dk_4 (dk_at dksX3_refuse_0 4 rfl rfl)
theorem dX3_refuse_5 : decode cX3_refuse 5 = .ok (.dup2, 1) := dk_92 (dk_at dksX3_refuse_0 5 rfl rfl)
theorem dX3_refuse_6 : decode cX3_refuse 6 = .ok (.iaload, 1) := dk_46 (dk_at dksX3_refuse_0 6 rfl rfl)
theorem dX3_refuse_7 : decode cX3_refuse 7 = .ok (.iconst 1, 1) := dk_4 (dk_at dksX3_refuse_0 7 rfl rfl)
theorem dX3_refuse_8 : decode cX3_refuse 8 = .ok (.iadd, 1) := dk_96 (dk_at dksX3_refuse_0 8 rfl rfl)
theorem dX3_refuse_9 : decode cX3_refuse 9 = .ok (.iastore, 1) := dk_79 (dk_at dksX3_refuse_0 9 rfl rfl)
theorem dX3_refuse_10 : decode cX3_refuse 10 = .ok (.iconst (-1), 1) := dk_2 (dk_at dksX3_refuse_0 10 rfl rfl)
theorem dX3_refuse_11 : decode cX3_refuse 11 = .ok (.ireturn, 1) := dk_172 (dk_at dksX3_refuse_0 11 rfl rfl)
abbrev cX3_keep : ByteArray := prog_15_method_83_code
def yX3_keep : MethodName := ⟨RX3, "keep", "()V"⟩
def dkwX3_keep_4 : List UInt8 := [180, 0, 198, 4, 96, 181, 0, 198, 177]
abbrev dktX3_keep_4 : List UInt8 := dkwX3_keep_4 ++ []
def dkwX3_keep_3 : List UInt8 := [42, 180, 0, 198, 104, 27, 96, 42, 180, 0, 9, 27, 46, 79, 132, 1, 1, 167, 255, 225, 42, 89]
abbrev dktX3_keep_3 : List UInt8 := dkwX3_keep_3 ++ dktX3_keep_4
def dkwX3_keep_2 : List UInt8 := [180, 0, 198, 4, 100, 181, 0, 198, 3, 60, 27, 17, 0, 154, 162, 0, 30, 42, 180, 0, 50, 17, 0, 154]
abbrev dktX3_keep_2 : List UInt8 := dkwX3_keep_2 ++ dktX3_keep_3
def dkwX3_keep_1 : List UInt8 := [180, 0, 50, 27, 17, 0, 154, 100, 42, 180, 0, 50, 27, 46, 79, 132, 1, 1, 167, 255, 228, 42, 89]
abbrev dktX3_keep_1 : List UInt8 := dkwX3_keep_1 ++ dktX3_keep_2
def dkwX3_keep_0 : List UInt8 := [42, 180, 0, 198, 16, 40, 160, 0, 48, 17, 0, 154, 60, 27, 42, 180, 0, 50, 190, 162, 0, 25, 42]
abbrev dktX3_keep_0 : List UInt8 := dkwX3_keep_0 ++ dktX3_keep_1
theorem dksX3_keep_0 : cX3_keep.data.toList.drop 0 = dktX3_keep_0 := by decide +kernel
theorem dksX3_keep_1 : cX3_keep.data.toList.drop 23 = dktX3_keep_1 := dk_seg dksX3_keep_0 23 rfl rfl
theorem dksX3_keep_2 : cX3_keep.data.toList.drop 46 = dktX3_keep_2 := dk_seg dksX3_keep_1 23 rfl rfl
theorem dksX3_keep_3 : cX3_keep.data.toList.drop 70 = dktX3_keep_3 := dk_seg dksX3_keep_2 24 rfl rfl
theorem dksX3_keep_4 : cX3_keep.data.toList.drop 92 = dktX3_keep_4 := dk_seg dksX3_keep_3 22 rfl rfl
theorem dX3_keep_0 : decode cX3_keep 0 = .ok (.aload_n 0, 1) := dk_42 (dk_at dksX3_keep_0 0 rfl rfl)
theorem dX3_keep_1 : decode cX3_keep 1 = .ok (.getfield 198, 3) := dk_180 0 198 (dk_at dksX3_keep_0 1 rfl rfl)
theorem dX3_keep_4 : decode cX3_keep 4 = .ok (.bipush 40, 2) := dk_16 40 (dk_at dksX3_keep_0 4 rfl rfl)
theorem dX3_keep_6 : decode cX3_keep 6 = .ok (.if_icmp .ne 48, 3) := dk_160 0 48 (dk_at dksX3_keep_0 6 rfl rfl)
theorem dX3_keep_9 : decode cX3_keep 9 = .ok (.sipush 154, 3) := dk_17 0 154 (dk_at dksX3_keep_0 9 rfl rfl)
theorem dX3_keep_12 : decode cX3_keep 12 = .ok (.istore_n 1, 1) := dk_60 (dk_at dksX3_keep_0 12 rfl rfl)
theorem dX3_keep_13 : decode cX3_keep 13 = .ok (.iload_n 1, 1) := dk_27 (dk_at dksX3_keep_0 13 rfl rfl)
theorem dX3_keep_14 : decode cX3_keep 14 = .ok (.aload_n 0, 1) := dk_42 (dk_at dksX3_keep_0 14 rfl rfl)
theorem dX3_keep_15 : decode cX3_keep 15 = .ok (.getfield 50, 3) := dk_180 0 50 (dk_at dksX3_keep_0 15 rfl rfl)
theorem dX3_keep_18 : decode cX3_keep 18 = .ok (.arraylength, 1) := dk_190 (dk_at dksX3_keep_0 18 rfl rfl)
theorem dX3_keep_19 : decode cX3_keep 19 = .ok (.if_icmp .ge 25, 3) := dk_162 0 25 (dk_at dksX3_keep_0 19 rfl rfl)
theorem dX3_keep_22 : decode cX3_keep 22 = .ok (.aload_n 0, 1) := dk_42 (dk_at dksX3_keep_0 22 rfl rfl)
theorem dX3_keep_23 : decode cX3_keep 23 = .ok (.getfield 50, 3) := dk_180 0 50 (dk_at dksX3_keep_1 0 rfl rfl)
theorem dX3_keep_26 : decode cX3_keep 26 = .ok (.iload_n 1, 1) := dk_27 (dk_at dksX3_keep_1 3 rfl rfl)
theorem dX3_keep_27 : decode cX3_keep 27 = .ok (.sipush 154, 3) := dk_17 0 154 (dk_at dksX3_keep_1 4 rfl rfl)
theorem dX3_keep_30 : decode cX3_keep 30 = .ok (.isub, 1) := dk_100 (dk_at dksX3_keep_1 7 rfl rfl)
theorem dX3_keep_31 : decode cX3_keep 31 = .ok (.aload_n 0, 1) := dk_42 (dk_at dksX3_keep_1 8 rfl rfl)
theorem dX3_keep_32 : decode cX3_keep 32 = .ok (.getfield 50, 3) := dk_180 0 50 (dk_at dksX3_keep_1 9 rfl rfl)
theorem dX3_keep_35 : decode cX3_keep 35 = .ok (.iload_n 1, 1) := dk_27 (dk_at dksX3_keep_1 12 rfl rfl)
theorem dX3_keep_36 : decode cX3_keep 36 = .ok (.iaload, 1) := dk_46 (dk_at dksX3_keep_1 13 rfl rfl)
theorem dX3_keep_37 : decode cX3_keep 37 = .ok (.iastore, 1) := dk_79 (dk_at dksX3_keep_1 14 rfl rfl)
theorem dX3_keep_38 : decode cX3_keep 38 = .ok (.iinc 1 1, 3) := dk_132 1 1 (dk_at dksX3_keep_1 15 rfl rfl)
theorem dX3_keep_41 : decode cX3_keep 41 = .ok (.goto (-28), 3) := dk_167 255 228 (dk_at dksX3_keep_1 18 rfl rfl)
theorem dX3_keep_44 : decode cX3_keep 44 = .ok (.aload_n 0, 1) := dk_42 (dk_at dksX3_keep_1 21 rfl rfl)
theorem dX3_keep_45 : decode cX3_keep 45 = .ok (.dup, 1) := dk_89 (dk_at dksX3_keep_1 22 rfl rfl)
theorem dX3_keep_46 : decode cX3_keep 46 = .ok (.getfield 198, 3) := dk_180 0 198 (dk_at dksX3_keep_2 0 rfl rfl)
theorem dX3_keep_49 : decode cX3_keep 49 = .ok (.iconst 1, 1) := dk_4 (dk_at dksX3_keep_2 3 rfl rfl)
theorem dX3_keep_50 : decode cX3_keep 50 = .ok (.isub, 1) := dk_100 (dk_at dksX3_keep_2 4 rfl rfl)
theorem dX3_keep_51 : decode cX3_keep 51 = .ok (.putfield 198, 3) := dk_181 0 198 (dk_at dksX3_keep_2 5 rfl rfl)
theorem dX3_keep_54 : decode cX3_keep 54 = .ok (.iconst 0, 1) := dk_3 (dk_at dksX3_keep_2 8 rfl rfl)
theorem dX3_keep_55 : decode cX3_keep 55 = .ok (.istore_n 1, 1) := dk_60 (dk_at dksX3_keep_2 9 rfl rfl)
theorem dX3_keep_56 : decode cX3_keep 56 = .ok (.iload_n 1, 1) := dk_27 (dk_at dksX3_keep_2 10 rfl rfl)
theorem dX3_keep_57 : decode cX3_keep 57 = .ok (.sipush 154, 3) := dk_17 0 154 (dk_at dksX3_keep_2 11 rfl rfl)
theorem dX3_keep_60 : decode cX3_keep 60 = .ok (.if_icmp .ge 30, 3) := dk_162 0 30 (dk_at dksX3_keep_2 14 rfl rfl)
theorem dX3_keep_63 : decode cX3_keep 63 = .ok (.aload_n 0, 1) := dk_42 (dk_at dksX3_keep_2 17 rfl rfl)
theorem dX3_keep_64 : decode cX3_keep 64 = .ok (.getfield 50, 3) := dk_180 0 50 (dk_at dksX3_keep_2 18 rfl rfl)
theorem dX3_keep_67 : decode cX3_keep 67 = .ok (.sipush 154, 3) := dk_17 0 154 (dk_at dksX3_keep_2 21 rfl rfl)
theorem dX3_keep_70 : decode cX3_keep 70 = .ok (.aload_n 0, 1) := dk_42 (dk_at dksX3_keep_3 0 rfl rfl)
theorem dX3_keep_71 : decode cX3_keep 71 = .ok (.getfield 198, 3) := dk_180 0 198 (dk_at dksX3_keep_3 1 rfl rfl)
theorem dX3_keep_74 : decode cX3_keep 74 = .ok (.imul, 1) := dk_104 (dk_at dksX3_keep_3 4 rfl rfl)
theorem dX3_keep_75 : decode cX3_keep 75 = .ok (.iload_n 1, 1) := dk_27 (dk_at dksX3_keep_3 5 rfl rfl)
theorem dX3_keep_76 : decode cX3_keep 76 = .ok (.iadd, 1) := dk_96 (dk_at dksX3_keep_3 6 rfl rfl)
theorem dX3_keep_77 : decode cX3_keep 77 = .ok (.aload_n 0, 1) := dk_42 (dk_at dksX3_keep_3 7 rfl rfl)
theorem dX3_keep_78 : decode cX3_keep 78 = .ok (.getfield 9, 3) := dk_180 0 9 (dk_at dksX3_keep_3 8 rfl rfl)
theorem dX3_keep_81 : decode cX3_keep 81 = .ok (.iload_n 1, 1) := dk_27 (dk_at dksX3_keep_3 11 rfl rfl)
theorem dX3_keep_82 : decode cX3_keep 82 = .ok (.iaload, 1) := dk_46 (dk_at dksX3_keep_3 12 rfl rfl)
theorem dX3_keep_83 : decode cX3_keep 83 = .ok (.iastore, 1) := dk_79 (dk_at dksX3_keep_3 13 rfl rfl)
theorem dX3_keep_84 : decode cX3_keep 84 = .ok (.iinc 1 1, 3) := dk_132 1 1 (dk_at dksX3_keep_3 14 rfl rfl)
theorem dX3_keep_87 : decode cX3_keep 87 = .ok (.goto (-31), 3) := dk_167 255 225 (dk_at dksX3_keep_3 17 rfl rfl)
theorem dX3_keep_90 : decode cX3_keep 90 = .ok (.aload_n 0, 1) := dk_42 (dk_at dksX3_keep_3 20 rfl rfl)
theorem dX3_keep_91 : decode cX3_keep 91 = .ok (.dup, 1) := dk_89 (dk_at dksX3_keep_3 21 rfl rfl)
theorem dX3_keep_92 : decode cX3_keep 92 = .ok (.getfield 198, 3) := dk_180 0 198 (dk_at dksX3_keep_4 0 rfl rfl)
theorem dX3_keep_95 : decode cX3_keep 95 = .ok (.iconst 1, 1) := dk_4 (dk_at dksX3_keep_4 3 rfl rfl)
theorem dX3_keep_96 : decode cX3_keep 96 = .ok (.iadd, 1) := dk_96 (dk_at dksX3_keep_4 4 rfl rfl)
theorem dX3_keep_97 : decode cX3_keep 97 = .ok (.putfield 198, 3) := dk_181 0 198 (dk_at dksX3_keep_4 5 rfl rfl)
theorem dX3_keep_100 : decode cX3_keep 100 = .ok (.return_, 1) := dk_177 (dk_at dksX3_keep_4 8 rfl rfl)
abbrev cX3_addNow : ByteArray := prog_15_method_85_code
def yX3_addNow : MethodName := ⟨RX3, "addNow", "(I)V"⟩
def dkwX3_addNow_1 : List UInt8 := [177]
abbrev dktX3_addNow_1 : List UInt8 := dkwX3_addNow_1 ++ []
def dkwX3_addNow_0 : List UInt8 := [42, 180, 0, 9, 5, 42, 180, 0, 9, 4, 46, 96, 27, 79, 42, 180, 0, 9, 4, 92, 46, 4, 96, 79]
abbrev dktX3_addNow_0 : List UInt8 := dkwX3_addNow_0 ++ dktX3_addNow_1
theorem dksX3_addNow_0 : cX3_addNow.data.toList.drop 0 = dktX3_addNow_0 := by decide +kernel
theorem dksX3_addNow_1 : cX3_addNow.data.toList.drop 24 = dktX3_addNow_1 := dk_seg dksX3_addNow_0 24 rfl rfl
theorem dX3_addNow_0 : decode cX3_addNow 0 = .ok (.aload_n 0, 1) := dk_42 (dk_at dksX3_addNow_0 0 rfl rfl)
theorem dX3_addNow_1 : decode cX3_addNow 1 = .ok (.getfield 9, 3) := dk_180 0 9 (dk_at dksX3_addNow_0 1 rfl rfl)
theorem dX3_addNow_4 : decode cX3_addNow 4 = .ok (.iconst 2, 1) := dk_5 (dk_at dksX3_addNow_0 4 rfl rfl)
theorem dX3_addNow_5 : decode cX3_addNow 5 = .ok (.aload_n 0, 1) := dk_42 (dk_at dksX3_addNow_0 5 rfl rfl)
theorem dX3_addNow_6 : decode cX3_addNow 6 = .ok (.getfield 9, 3) := dk_180 0 9 (dk_at dksX3_addNow_0 6 rfl rfl)
theorem dX3_addNow_9 : decode cX3_addNow 9 = .ok (.iconst 1, 1) := dk_4 (dk_at dksX3_addNow_0 9 rfl rfl)
theorem dX3_addNow_10 : decode cX3_addNow 10 = .ok (.iaload, 1) := dk_46 (dk_at dksX3_addNow_0 10 rfl rfl)
theorem dX3_addNow_11 : decode cX3_addNow 11 = .ok (.iadd, 1) := dk_96 (dk_at dksX3_addNow_0 11 rfl rfl)
theorem dX3_addNow_12 : decode cX3_addNow 12 = .ok (.iload_n 1, 1) := dk_27 (dk_at dksX3_addNow_0 12 rfl rfl)
theorem dX3_addNow_13 : decode cX3_addNow 13 = .ok (.iastore, 1) := dk_79 (dk_at dksX3_addNow_0 13 rfl rfl)
theorem dX3_addNow_14 : decode cX3_addNow 14 = .ok (.aload_n 0, 1) := dk_42 (dk_at dksX3_addNow_0 14 rfl rfl)
theorem dX3_addNow_15 : decode cX3_addNow 15 = .ok (.getfield 9, 3) := dk_180 0 9 (dk_at dksX3_addNow_0 15 rfl rfl)
theorem dX3_addNow_18 : decode cX3_addNow 18 = .ok (.iconst 1, 1) := dk_4 (dk_at dksX3_addNow_0 18 rfl rfl)
theorem dX3_addNow_19 : decode cX3_addNow 19 = .ok (.dup2, 1) := dk_92 (dk_at dksX3_addNow_0 19 rfl rfl)
theorem dX3_addNow_20 : decode cX3_addNow 20 = .ok (.iaload, 1) := dk_46 (dk_at dksX3_addNow_0 20 rfl rfl)
theorem dX3_addNow_21 : decode cX3_addNow 21 = .ok (.iconst 1, 1) := dk_4 (dk_at dksX3_addNow_0 21 rfl rfl)
theorem dX3_addNow_22 : decode cX3_addNow 22 = .ok (.iadd, 1) := dk_96 (dk_at dksX3_addNow_0 22 rfl rfl)
theorem dX3_addNow_23 : decode cX3_addNow 23 = .ok (.iastore, 1) := dk_79 (dk_at dksX3_addNow_0 23 rfl rfl)
theorem dX3_addNow_24 : decode cX3_addNow 24 = .ok (.return_, 1) := dk_177 (dk_at dksX3_addNow_1 0 rfl rfl)
abbrev cX3_drop : ByteArray := prog_15_method_88_code
def yX3_drop : MethodName := ⟨RX3, "drop", "(I)I"⟩
def dkwX3_drop_1 : List UInt8 := [182, 1, 127, 172]
abbrev dktX3_drop_1 : List UInt8 := dkwX3_drop_1 ++ []
def dkwX3_drop_0 : List UInt8 := [42, 3, 181, 0, 93, 42, 27, 182, 1, 74, 154, 0, 8, 42, 182, 1, 115, 172, 42, 182, 1, 121, 42, 27]
abbrev dktX3_drop_0 : List UInt8 := dkwX3_drop_0 ++ dktX3_drop_1
theorem dksX3_drop_0 : cX3_drop.data.toList.drop 0 = dktX3_drop_0 := by decide +kernel
theorem dksX3_drop_1 : cX3_drop.data.toList.drop 24 = dktX3_drop_1 := dk_seg dksX3_drop_0 24 rfl rfl
theorem dX3_drop_0 : decode cX3_drop 0 = .ok (.aload_n 0, 1) := dk_42 (dk_at dksX3_drop_0 0 rfl rfl)
theorem dX3_drop_1 : decode cX3_drop 1 = .ok (.iconst 0, 1) := dk_3 (dk_at dksX3_drop_0 1 rfl rfl)
theorem dX3_drop_2 : decode cX3_drop 2 = .ok (.putfield 93, 3) := dk_181 0 93 (dk_at dksX3_drop_0 2 rfl rfl)
theorem dX3_drop_5 : decode cX3_drop 5 = .ok (.aload_n 0, 1) := dk_42 (dk_at dksX3_drop_0 5 rfl rfl)
theorem dX3_drop_6 : decode cX3_drop 6 = .ok (.iload_n 1, 1) := dk_27 (dk_at dksX3_drop_0 6 rfl rfl)
theorem dX3_drop_7 : decode cX3_drop 7 = .ok (.invokevirtual 330, 3) := dk_182 1 74 (dk_at dksX3_drop_0 7 rfl rfl)
theorem dX3_drop_10 : decode cX3_drop 10 = .ok (.ifCond .ne 8, 3) := dk_154 0 8 (dk_at dksX3_drop_0 10 rfl rfl)
theorem dX3_drop_13 : decode cX3_drop 13 = .ok (.aload_n 0, 1) := dk_42 (dk_at dksX3_drop_0 13 rfl rfl)
theorem dX3_drop_14 : decode cX3_drop 14 = .ok (.invokevirtual 371, 3) := dk_182 1 115 (dk_at dksX3_drop_0 14 rfl rfl)
theorem dX3_drop_17 : decode cX3_drop 17 = .ok (.ireturn, 1) := dk_172 (dk_at dksX3_drop_0 17 rfl rfl)
theorem dX3_drop_18 : decode cX3_drop 18 = .ok (.aload_n 0, 1) := dk_42 (dk_at dksX3_drop_0 18 rfl rfl)
theorem dX3_drop_19 : decode cX3_drop 19 = .ok (.invokevirtual 377, 3) := dk_182 1 121 (dk_at dksX3_drop_0 19 rfl rfl)
theorem dX3_drop_22 : decode cX3_drop 22 = .ok (.aload_n 0, 1) := dk_42 (dk_at dksX3_drop_0 22 rfl rfl)
theorem dX3_drop_23 : decode cX3_drop 23 = .ok (.iload_n 1, 1) := dk_27 (dk_at dksX3_drop_0 23 rfl rfl)
theorem dX3_drop_24 : decode cX3_drop 24 = .ok (.invokevirtual 383, 3) := dk_182 1 127 (dk_at dksX3_drop_1 0 rfl rfl)
theorem dX3_drop_27 : decode cX3_drop 27 = .ok (.ireturn, 1) := dk_172 (dk_at dksX3_drop_1 3 rfl rfl)
abbrev cX3_dropNow : ByteArray := prog_15_method_87_code
def yX3_dropNow : MethodName := ⟨RX3, "dropNow", "(I)I"⟩
def dkwX3_dropNow_2 : List UInt8 := [46, 4, 100, 79, 42, 180, 0, 9, 5, 42, 180, 0, 9, 4, 46, 96, 3, 79, 28, 172]
abbrev dktX3_dropNow_2 : List UInt8 := dkwX3_dropNow_2 ++ []
def dkwX3_dropNow_1 : List UInt8 := [96, 4, 100, 42, 180, 0, 9, 5, 29, 96, 46, 79, 132, 3, 1, 167, 255, 227, 42, 180, 0, 9, 4, 92]
abbrev dktX3_dropNow_1 : List UInt8 := dkwX3_dropNow_1 ++ dktX3_dropNow_2
def dkwX3_dropNow_0 : List UInt8 := [42, 27, 182, 0, 216, 61, 27, 4, 96, 62, 29, 42, 182, 0, 213, 162, 0, 27, 42, 180, 0, 9, 5, 29]
abbrev dktX3_dropNow_0 : List UInt8 := dkwX3_dropNow_0 ++ dktX3_dropNow_1
theorem dksX3_dropNow_0 : cX3_dropNow.data.toList.drop 0 = dktX3_dropNow_0 := by decide +kernel
theorem dksX3_dropNow_1 : cX3_dropNow.data.toList.drop 24 = dktX3_dropNow_1 := dk_seg dksX3_dropNow_0 24 rfl rfl
theorem dksX3_dropNow_2 : cX3_dropNow.data.toList.drop 48 = dktX3_dropNow_2 := dk_seg dksX3_dropNow_1 24 rfl rfl
theorem dX3_dropNow_0 : decode cX3_dropNow 0 = .ok (.aload_n 0, 1) := dk_42 (dk_at dksX3_dropNow_0 0 rfl rfl)
theorem dX3_dropNow_1 : decode cX3_dropNow 1 = .ok (.iload_n 1, 1) := dk_27 (dk_at dksX3_dropNow_0 1 rfl rfl)
theorem dX3_dropNow_2 : decode cX3_dropNow 2 = .ok (.invokevirtual 216, 3) := dk_182 0 216 (dk_at dksX3_dropNow_0 2 rfl rfl)
theorem dX3_dropNow_5 : decode cX3_dropNow 5 = .ok (.istore_n 2, 1) := dk_61 (dk_at dksX3_dropNow_0 5 rfl rfl)
theorem dX3_dropNow_6 : decode cX3_dropNow 6 = .ok (.iload_n 1, 1) := dk_27 (dk_at dksX3_dropNow_0 6 rfl rfl)
theorem dX3_dropNow_7 : decode cX3_dropNow 7 = .ok (.iconst 1, 1) := dk_4 (dk_at dksX3_dropNow_0 7 rfl rfl)
theorem dX3_dropNow_8 : decode cX3_dropNow 8 = .ok (.iadd, 1) := dk_96 (dk_at dksX3_dropNow_0 8 rfl rfl)
theorem dX3_dropNow_9 : decode cX3_dropNow 9 = .ok (.istore_n 3, 1) := dk_62 (dk_at dksX3_dropNow_0 9 rfl rfl)
theorem dX3_dropNow_10 : decode cX3_dropNow 10 = .ok (.iload_n 3, 1) := dk_29 (dk_at dksX3_dropNow_0 10 rfl rfl)
theorem dX3_dropNow_11 : decode cX3_dropNow 11 = .ok (.aload_n 0, 1) := dk_42 (dk_at dksX3_dropNow_0 11 rfl rfl)
theorem dX3_dropNow_12 : decode cX3_dropNow 12 = .ok (.invokevirtual 213, 3) := dk_182 0 213 (dk_at dksX3_dropNow_0 12 rfl rfl)
theorem dX3_dropNow_15 : decode cX3_dropNow 15 = .ok (.if_icmp .ge 27, 3) := dk_162 0 27 (dk_at dksX3_dropNow_0 15 rfl rfl)
theorem dX3_dropNow_18 : decode cX3_dropNow 18 = .ok (.aload_n 0, 1) := dk_42 (dk_at dksX3_dropNow_0 18 rfl rfl)
theorem dX3_dropNow_19 : decode cX3_dropNow 19 = .ok (.getfield 9, 3) := dk_180 0 9 (dk_at dksX3_dropNow_0 19 rfl rfl)
theorem dX3_dropNow_22 : decode cX3_dropNow 22 = .ok (.iconst 2, 1) := dk_5 (dk_at dksX3_dropNow_0 22 rfl rfl)
theorem dX3_dropNow_23 : decode cX3_dropNow 23 = .ok (.iload_n 3, 1) := dk_29 (dk_at dksX3_dropNow_0 23 rfl rfl)
theorem dX3_dropNow_24 : decode cX3_dropNow 24 = .ok (.iadd, 1) := dk_96 (dk_at dksX3_dropNow_1 0 rfl rfl)
theorem dX3_dropNow_25 : decode cX3_dropNow 25 = .ok (.iconst 1, 1) := dk_4 (dk_at dksX3_dropNow_1 1 rfl rfl)
theorem dX3_dropNow_26 : decode cX3_dropNow 26 = .ok (.isub, 1) := dk_100 (dk_at dksX3_dropNow_1 2 rfl rfl)
theorem dX3_dropNow_27 : decode cX3_dropNow 27 = .ok (.aload_n 0, 1) := dk_42 (dk_at dksX3_dropNow_1 3 rfl rfl)
theorem dX3_dropNow_28 : decode cX3_dropNow 28 = .ok (.getfield 9, 3) := dk_180 0 9 (dk_at dksX3_dropNow_1 4 rfl rfl)
theorem dX3_dropNow_31 : decode cX3_dropNow 31 = .ok (.iconst 2, 1) := dk_5 (dk_at dksX3_dropNow_1 7 rfl rfl)
theorem dX3_dropNow_32 : decode cX3_dropNow 32 = .ok (.iload_n 3, 1) := dk_29 (dk_at dksX3_dropNow_1 8 rfl rfl)
theorem dX3_dropNow_33 : decode cX3_dropNow 33 = .ok (.iadd, 1) := dk_96 (dk_at dksX3_dropNow_1 9 rfl rfl)
theorem dX3_dropNow_34 : decode cX3_dropNow 34 = .ok (.iaload, 1) := dk_46 (dk_at dksX3_dropNow_1 10 rfl rfl)
theorem dX3_dropNow_35 : decode cX3_dropNow 35 = .ok (.iastore, 1) := dk_79 (dk_at dksX3_dropNow_1 11 rfl rfl)
theorem dX3_dropNow_36 : decode cX3_dropNow 36 = .ok (.iinc 3 1, 3) := dk_132 3 1 (dk_at dksX3_dropNow_1 12 rfl rfl)
theorem dX3_dropNow_39 : decode cX3_dropNow 39 = .ok (.goto (-29), 3) := dk_167 255 227 (dk_at dksX3_dropNow_1 15 rfl rfl)
theorem dX3_dropNow_42 : decode cX3_dropNow 42 = .ok (.aload_n 0, 1) := dk_42 (dk_at dksX3_dropNow_1 18 rfl rfl)
theorem dX3_dropNow_43 : decode cX3_dropNow 43 = .ok (.getfield 9, 3) := dk_180 0 9 (dk_at dksX3_dropNow_1 19 rfl rfl)
theorem dX3_dropNow_46 : decode cX3_dropNow 46 = .ok (.iconst 1, 1) := dk_4 (dk_at dksX3_dropNow_1 22 rfl rfl)
theorem dX3_dropNow_47 : decode cX3_dropNow 47 = .ok (.dup2, 1) := dk_92 (dk_at dksX3_dropNow_1 23 rfl rfl)
theorem dX3_dropNow_48 : decode cX3_dropNow 48 = .ok (.iaload, 1) := dk_46 (dk_at dksX3_dropNow_2 0 rfl rfl)
theorem dX3_dropNow_49 : decode cX3_dropNow 49 = .ok (.iconst 1, 1) := dk_4 (dk_at dksX3_dropNow_2 1 rfl rfl)
theorem dX3_dropNow_50 : decode cX3_dropNow 50 = .ok (.isub, 1) := dk_100 (dk_at dksX3_dropNow_2 2 rfl rfl)
theorem dX3_dropNow_51 : decode cX3_dropNow 51 = .ok (.iastore, 1) := dk_79 (dk_at dksX3_dropNow_2 3 rfl rfl)
theorem dX3_dropNow_52 : decode cX3_dropNow 52 = .ok (.aload_n 0, 1) := dk_42 (dk_at dksX3_dropNow_2 4 rfl rfl)
theorem dX3_dropNow_53 : decode cX3_dropNow 53 = .ok (.getfield 9, 3) := dk_180 0 9 (dk_at dksX3_dropNow_2 5 rfl rfl)
theorem dX3_dropNow_56 : decode cX3_dropNow 56 = .ok (.iconst 2, 1) := dk_5 (dk_at dksX3_dropNow_2 8 rfl rfl)
theorem dX3_dropNow_57 : decode cX3_dropNow 57 = .ok (.aload_n 0, 1) := dk_42 (dk_at dksX3_dropNow_2 9 rfl rfl)
theorem dX3_dropNow_58 : decode cX3_dropNow 58 = .ok (.getfield 9, 3) := dk_180 0 9 (dk_at dksX3_dropNow_2 10 rfl rfl)
theorem dX3_dropNow_61 : decode cX3_dropNow 61 = .ok (.iconst 1, 1) := dk_4 (dk_at dksX3_dropNow_2 13 rfl rfl)
theorem dX3_dropNow_62 : decode cX3_dropNow 62 = .ok (.iaload, 1) := dk_46 (dk_at dksX3_dropNow_2 14 rfl rfl)
theorem dX3_dropNow_63 : decode cX3_dropNow 63 = .ok (.iadd, 1) := dk_96 (dk_at dksX3_dropNow_2 15 rfl rfl)
theorem dX3_dropNow_64 : decode cX3_dropNow 64 = .ok (.iconst 0, 1) := dk_3 (dk_at dksX3_dropNow_2 16 rfl rfl)
theorem dX3_dropNow_65 : decode cX3_dropNow 65 = .ok (.iastore, 1) := dk_79 (dk_at dksX3_dropNow_2 17 rfl rfl)
theorem dX3_dropNow_66 : decode cX3_dropNow 66 = .ok (.iload_n 2, 1) := dk_28 (dk_at dksX3_dropNow_2 18 rfl rfl)
theorem dX3_dropNow_67 : decode cX3_dropNow 67 = .ok (.ireturn, 1) := dk_172 (dk_at dksX3_dropNow_2 19 rfl rfl)
abbrev cX3_swap : ByteArray := prog_15_method_90_code
def yX3_swap : MethodName := ⟨RX3, "swap", "(II)Z"⟩
def dkwX3_swap_4 : List UInt8 := [182, 1, 133, 42, 16, 22, 27, 96, 16, 22, 28, 96, 182, 1, 133, 4, 172]
abbrev dktX3_swap_4 : List UInt8 := dkwX3_swap_4 ++ []
def dkwX3_swap_3 : List UInt8 := [182, 0, 216, 182, 0, 247, 79, 132, 3, 1, 167, 255, 228, 42, 16, 14, 27, 96, 16, 14, 28, 96]
abbrev dktX3_swap_3 : List UInt8 := dkwX3_swap_3 ++ dktX3_swap_4
def dkwX3_swap_2 : List UInt8 := [182, 0, 243, 3, 62, 29, 42, 182, 0, 213, 162, 0, 26, 42, 180, 0, 9, 5, 29, 96, 42, 42, 29]
abbrev dktX3_swap_2 : List UInt8 := dkwX3_swap_2 ++ dktX3_swap_3
def dkwX3_swap_1 : List UInt8 := [160, 0, 8, 42, 182, 1, 130, 172, 42, 182, 1, 121, 42, 42, 182, 0, 222, 182, 0, 253, 42, 27, 28]
abbrev dktX3_swap_1 : List UInt8 := dkwX3_swap_1 ++ dktX3_swap_2
def dkwX3_swap_0 : List UInt8 := [42, 3, 181, 0, 93, 42, 27, 182, 1, 77, 153, 0, 16, 42, 28, 182, 1, 77, 153, 0, 8, 27, 28]
abbrev dktX3_swap_0 : List UInt8 := dkwX3_swap_0 ++ dktX3_swap_1
theorem dksX3_swap_0 : cX3_swap.data.toList.drop 0 = dktX3_swap_0 := by decide +kernel
theorem dksX3_swap_1 : cX3_swap.data.toList.drop 23 = dktX3_swap_1 := dk_seg dksX3_swap_0 23 rfl rfl
theorem dksX3_swap_2 : cX3_swap.data.toList.drop 46 = dktX3_swap_2 := dk_seg dksX3_swap_1 23 rfl rfl
theorem dksX3_swap_3 : cX3_swap.data.toList.drop 69 = dktX3_swap_3 := dk_seg dksX3_swap_2 23 rfl rfl
theorem dksX3_swap_4 : cX3_swap.data.toList.drop 91 = dktX3_swap_4 := dk_seg dksX3_swap_3 22 rfl rfl
theorem dX3_swap_0 : decode cX3_swap 0 = .ok (.aload_n 0, 1) := dk_42 (dk_at dksX3_swap_0 0 rfl rfl)
theorem dX3_swap_1 : decode cX3_swap 1 = .ok (.iconst 0, 1) := dk_3 (dk_at dksX3_swap_0 1 rfl rfl)
theorem dX3_swap_2 : decode cX3_swap 2 = .ok (.putfield 93, 3) := dk_181 0 93 (dk_at dksX3_swap_0 2 rfl rfl)
theorem dX3_swap_5 : decode cX3_swap 5 = .ok (.aload_n 0, 1) := dk_42 (dk_at dksX3_swap_0 5 rfl rfl)
theorem dX3_swap_6 : decode cX3_swap 6 = .ok (.iload_n 1, 1) := dk_27 (dk_at dksX3_swap_0 6 rfl rfl)
theorem dX3_swap_7 : decode cX3_swap 7 = .ok (.invokevirtual 333, 3) := dk_182 1 77 (dk_at dksX3_swap_0 7 rfl rfl)
theorem dX3_swap_10 : decode cX3_swap 10 = .ok (.ifCond .eq 16, 3) := dk_153 0 16 (dk_at dksX3_swap_0 10 rfl rfl)
theorem dX3_swap_13 : decode cX3_swap 13 = .ok (.aload_n 0, 1) := dk_42 (dk_at dksX3_swap_0 13 rfl rfl)
theorem dX3_swap_14 : decode cX3_swap 14 = .ok (.iload_n 2, 1) := dk_28 (dk_at dksX3_swap_0 14 rfl rfl)
theorem dX3_swap_15 : decode cX3_swap 15 = .ok (.invokevirtual 333, 3) := dk_182 1 77 (dk_at dksX3_swap_0 15 rfl rfl)
theorem dX3_swap_18 : decode cX3_swap 18 = .ok (.ifCond .eq 8, 3) := dk_153 0 8 (dk_at dksX3_swap_0 18 rfl rfl)
theorem dX3_swap_21 : decode cX3_swap 21 = .ok (.iload_n 1, 1) := dk_27 (dk_at dksX3_swap_0 21 rfl rfl)
theorem dX3_swap_22 : decode cX3_swap 22 = .ok (.iload_n 2, 1) := dk_28 (dk_at dksX3_swap_0 22 rfl rfl)
theorem dX3_swap_23 : decode cX3_swap 23 = .ok (.if_icmp .ne 8, 3) := dk_160 0 8 (dk_at dksX3_swap_1 0 rfl rfl)
theorem dX3_swap_26 : decode cX3_swap 26 = .ok (.aload_n 0, 1) := dk_42 (dk_at dksX3_swap_1 3 rfl rfl)
theorem dX3_swap_27 : decode cX3_swap 27 = .ok (.invokevirtual 386, 3) := dk_182 1 130 (dk_at dksX3_swap_1 4 rfl rfl)
theorem dX3_swap_30 : decode cX3_swap 30 = .ok (.ireturn, 1) := dk_172 (dk_at dksX3_swap_1 7 rfl rfl)
theorem dX3_swap_31 : decode cX3_swap 31 = .ok (.aload_n 0, 1) := dk_42 (dk_at dksX3_swap_1 8 rfl rfl)
theorem dX3_swap_32 : decode cX3_swap 32 = .ok (.invokevirtual 377, 3) := dk_182 1 121 (dk_at dksX3_swap_1 9 rfl rfl)
theorem dX3_swap_35 : decode cX3_swap 35 = .ok (.aload_n 0, 1) := dk_42 (dk_at dksX3_swap_1 12 rfl rfl)
theorem dX3_swap_36 : decode cX3_swap 36 = .ok (.aload_n 0, 1) := dk_42 (dk_at dksX3_swap_1 13 rfl rfl)
theorem dX3_swap_37 : decode cX3_swap 37 = .ok (.invokevirtual 222, 3) := dk_182 0 222 (dk_at dksX3_swap_1 14 rfl rfl)
theorem dX3_swap_40 : decode cX3_swap 40 = .ok (.invokevirtual 253, 3) := dk_182 0 253 (dk_at dksX3_swap_1 17 rfl rfl)
theorem dX3_swap_43 : decode cX3_swap 43 = .ok (.aload_n 0, 1) := dk_42 (dk_at dksX3_swap_1 20 rfl rfl)
theorem dX3_swap_44 : decode cX3_swap 44 = .ok (.iload_n 1, 1) := dk_27 (dk_at dksX3_swap_1 21 rfl rfl)
theorem dX3_swap_45 : decode cX3_swap 45 = .ok (.iload_n 2, 1) := dk_28 (dk_at dksX3_swap_1 22 rfl rfl)
theorem dX3_swap_46 : decode cX3_swap 46 = .ok (.invokevirtual 243, 3) := dk_182 0 243 (dk_at dksX3_swap_2 0 rfl rfl)
theorem dX3_swap_49 : decode cX3_swap 49 = .ok (.iconst 0, 1) := dk_3 (dk_at dksX3_swap_2 3 rfl rfl)
theorem dX3_swap_50 : decode cX3_swap 50 = .ok (.istore_n 3, 1) := dk_62 (dk_at dksX3_swap_2 4 rfl rfl)
theorem dX3_swap_51 : decode cX3_swap 51 = .ok (.iload_n 3, 1) := dk_29 (dk_at dksX3_swap_2 5 rfl rfl)
theorem dX3_swap_52 : decode cX3_swap 52 = .ok (.aload_n 0, 1) := dk_42 (dk_at dksX3_swap_2 6 rfl rfl)
theorem dX3_swap_53 : decode cX3_swap 53 = .ok (.invokevirtual 213, 3) := dk_182 0 213 (dk_at dksX3_swap_2 7 rfl rfl)
theorem dX3_swap_56 : decode cX3_swap 56 = .ok (.if_icmp .ge 26, 3) := dk_162 0 26 (dk_at dksX3_swap_2 10 rfl rfl)
theorem dX3_swap_59 : decode cX3_swap 59 = .ok (.aload_n 0, 1) := dk_42 (dk_at dksX3_swap_2 13 rfl rfl)
theorem dX3_swap_60 : decode cX3_swap 60 = .ok (.getfield 9, 3) := dk_180 0 9 (dk_at dksX3_swap_2 14 rfl rfl)
theorem dX3_swap_63 : decode cX3_swap 63 = .ok (.iconst 2, 1) := dk_5 (dk_at dksX3_swap_2 17 rfl rfl)
theorem dX3_swap_64 : decode cX3_swap 64 = .ok (.iload_n 3, 1) := dk_29 (dk_at dksX3_swap_2 18 rfl rfl)
theorem dX3_swap_65 : decode cX3_swap 65 = .ok (.iadd, 1) := dk_96 (dk_at dksX3_swap_2 19 rfl rfl)
theorem dX3_swap_66 : decode cX3_swap 66 = .ok (.aload_n 0, 1) := dk_42 (dk_at dksX3_swap_2 20 rfl rfl)
theorem dX3_swap_67 : decode cX3_swap 67 = .ok (.aload_n 0, 1) := dk_42 (dk_at dksX3_swap_2 21 rfl rfl)
theorem dX3_swap_68 : decode cX3_swap 68 = .ok (.iload_n 3, 1) := dk_29 (dk_at dksX3_swap_2 22 rfl rfl)
theorem dX3_swap_69 : decode cX3_swap 69 = .ok (.invokevirtual 216, 3) := dk_182 0 216 (dk_at dksX3_swap_3 0 rfl rfl)
theorem dX3_swap_72 : decode cX3_swap 72 = .ok (.invokevirtual 247, 3) := dk_182 0 247 (dk_at dksX3_swap_3 3 rfl rfl)
theorem dX3_swap_75 : decode cX3_swap 75 = .ok (.iastore, 1) := dk_79 (dk_at dksX3_swap_3 6 rfl rfl)
theorem dX3_swap_76 : decode cX3_swap 76 = .ok (.iinc 3 1, 3) := dk_132 3 1 (dk_at dksX3_swap_3 7 rfl rfl)
theorem dX3_swap_79 : decode cX3_swap 79 = .ok (.goto (-28), 3) := dk_167 255 228 (dk_at dksX3_swap_3 10 rfl rfl)
theorem dX3_swap_82 : decode cX3_swap 82 = .ok (.aload_n 0, 1) := dk_42 (dk_at dksX3_swap_3 13 rfl rfl)
theorem dX3_swap_83 : decode cX3_swap 83 = .ok (.bipush 14, 2) := dk_16 14 (dk_at dksX3_swap_3 14 rfl rfl)
theorem dX3_swap_85 : decode cX3_swap 85 = .ok (.iload_n 1, 1) := dk_27 (dk_at dksX3_swap_3 16 rfl rfl)
theorem dX3_swap_86 : decode cX3_swap 86 = .ok (.iadd, 1) := dk_96 (dk_at dksX3_swap_3 17 rfl rfl)
theorem dX3_swap_87 : decode cX3_swap 87 = .ok (.bipush 14, 2) := dk_16 14 (dk_at dksX3_swap_3 18 rfl rfl)
theorem dX3_swap_89 : decode cX3_swap 89 = .ok (.iload_n 2, 1) := dk_28 (dk_at dksX3_swap_3 20 rfl rfl)
theorem dX3_swap_90 : decode cX3_swap 90 = .ok (.iadd, 1) := dk_96 (dk_at dksX3_swap_3 21 rfl rfl)
theorem dX3_swap_91 : decode cX3_swap 91 = .ok (.invokevirtual 389, 3) := dk_182 1 133 (dk_at dksX3_swap_4 0 rfl rfl)
theorem dX3_swap_94 : decode cX3_swap 94 = .ok (.aload_n 0, 1) := dk_42 (dk_at dksX3_swap_4 3 rfl rfl)
theorem dX3_swap_95 : decode cX3_swap 95 = .ok (.bipush 22, 2) := dk_16 22 (dk_at dksX3_swap_4 4 rfl rfl)
theorem dX3_swap_97 : decode cX3_swap 97 = .ok (.iload_n 1, 1) := dk_27 (dk_at dksX3_swap_4 6 rfl rfl)
theorem dX3_swap_98 : decode cX3_swap 98 = .ok (.iadd, 1) := dk_96 (dk_at dksX3_swap_4 7 rfl rfl)
theorem dX3_swap_99 : decode cX3_swap 99 = .ok (.bipush 22, 2) := dk_16 22 (dk_at dksX3_swap_4 8 rfl rfl)
theorem dX3_swap_101 : decode cX3_swap 101 = .ok (.iload_n 2, 1) := dk_28 (dk_at dksX3_swap_4 10 rfl rfl)
theorem dX3_swap_102 : decode cX3_swap 102 = .ok (.iadd, 1) := dk_96 (dk_at dksX3_swap_4 11 rfl rfl)
theorem dX3_swap_103 : decode cX3_swap 103 = .ok (.invokevirtual 389, 3) := dk_182 1 133 (dk_at dksX3_swap_4 12 rfl rfl)
theorem dX3_swap_106 : decode cX3_swap 106 = .ok (.iconst 1, 1) := dk_4 (dk_at dksX3_swap_4 15 rfl rfl)
theorem dX3_swap_107 : decode cX3_swap 107 = .ok (.ireturn, 1) := dk_172 (dk_at dksX3_swap_4 16 rfl rfl)
abbrev cX3_refused : ByteArray := prog_15_method_81_code
def yX3_refused : MethodName := ⟨RX3, "refused", "()Z"⟩
def dkwX3_refused_0 : List UInt8 := [42, 182, 1, 115, 155, 0, 7, 4, 167, 0, 4, 3, 172]
abbrev dktX3_refused_0 : List UInt8 := dkwX3_refused_0 ++ []
theorem dksX3_refused_0 : cX3_refused.data.toList.drop 0 = dktX3_refused_0 := by decide +kernel
theorem dX3_refused_0 : decode cX3_refused 0 = .ok (.aload_n 0, 1) := dk_42 (dk_at dksX3_refused_0 0 rfl rfl)
theorem dX3_refused_1 : decode cX3_refused 1 = .ok (.invokevirtual 371, 3) := dk_182 1 115 (dk_at dksX3_refused_0 1 rfl rfl)
theorem dX3_refused_4 : decode cX3_refused 4 = .ok (.ifCond .lt 7, 3) := dk_155 0 7 (dk_at dksX3_refused_0 4 rfl rfl)
theorem dX3_refused_7 : decode cX3_refused 7 = .ok (.iconst 1, 1) := dk_4 (dk_at dksX3_refused_0 7 rfl rfl)
theorem dX3_refused_8 : decode cX3_refused 8 = .ok (.goto 4, 3) := dk_167 0 4 (dk_at dksX3_refused_0 8 rfl rfl)
theorem dX3_refused_11 : decode cX3_refused 11 = .ok (.iconst 0, 1) := dk_3 (dk_at dksX3_refused_0 11 rfl rfl)
theorem dX3_refused_12 : decode cX3_refused 12 = .ok (.ireturn, 1) := dk_172 (dk_at dksX3_refused_0 12 rfl rfl)
abbrev cX3_swapAt : ByteArray := prog_15_method_89_code
def yX3_swapAt : MethodName := ⟨RX3, "swapAt", "(II)V"⟩
def dkwX3_swapAt_1 : List UInt8 := [29, 79, 177]
abbrev dktX3_swapAt_1 : List UInt8 := dkwX3_swapAt_1 ++ []
def dkwX3_swapAt_0 : List UInt8 := [42, 180, 0, 9, 27, 46, 62, 42, 180, 0, 9, 27, 42, 180, 0, 9, 28, 46, 79, 42, 180, 0, 9, 28]
abbrev dktX3_swapAt_0 : List UInt8 := dkwX3_swapAt_0 ++ dktX3_swapAt_1
theorem dksX3_swapAt_0 : cX3_swapAt.data.toList.drop 0 = dktX3_swapAt_0 := by decide +kernel
theorem dksX3_swapAt_1 : cX3_swapAt.data.toList.drop 24 = dktX3_swapAt_1 := dk_seg dksX3_swapAt_0 24 rfl rfl
theorem dX3_swapAt_0 : decode cX3_swapAt 0 = .ok (.aload_n 0, 1) := dk_42 (dk_at dksX3_swapAt_0 0 rfl rfl)
theorem dX3_swapAt_1 : decode cX3_swapAt 1 = .ok (.getfield 9, 3) := dk_180 0 9 (dk_at dksX3_swapAt_0 1 rfl rfl)
theorem dX3_swapAt_4 : decode cX3_swapAt 4 = .ok (.iload_n 1, 1) := dk_27 (dk_at dksX3_swapAt_0 4 rfl rfl)
theorem dX3_swapAt_5 : decode cX3_swapAt 5 = .ok (.iaload, 1) := dk_46 (dk_at dksX3_swapAt_0 5 rfl rfl)
theorem dX3_swapAt_6 : decode cX3_swapAt 6 = .ok (.istore_n 3, 1) := dk_62 (dk_at dksX3_swapAt_0 6 rfl rfl)
theorem dX3_swapAt_7 : decode cX3_swapAt 7 = .ok (.aload_n 0, 1) := dk_42 (dk_at dksX3_swapAt_0 7 rfl rfl)
theorem dX3_swapAt_8 : decode cX3_swapAt 8 = .ok (.getfield 9, 3) := dk_180 0 9 (dk_at dksX3_swapAt_0 8 rfl rfl)
theorem dX3_swapAt_11 : decode cX3_swapAt 11 = .ok (.iload_n 1, 1) := dk_27 (dk_at dksX3_swapAt_0 11 rfl rfl)
theorem dX3_swapAt_12 : decode cX3_swapAt 12 = .ok (.aload_n 0, 1) := dk_42 (dk_at dksX3_swapAt_0 12 rfl rfl)
theorem dX3_swapAt_13 : decode cX3_swapAt 13 = .ok (.getfield 9, 3) := dk_180 0 9 (dk_at dksX3_swapAt_0 13 rfl rfl)
theorem dX3_swapAt_16 : decode cX3_swapAt 16 = .ok (.iload_n 2, 1) := dk_28 (dk_at dksX3_swapAt_0 16 rfl rfl)
theorem dX3_swapAt_17 : decode cX3_swapAt 17 = .ok (.iaload, 1) := dk_46 (dk_at dksX3_swapAt_0 17 rfl rfl)
theorem dX3_swapAt_18 : decode cX3_swapAt 18 = .ok (.iastore, 1) := dk_79 (dk_at dksX3_swapAt_0 18 rfl rfl)
theorem dX3_swapAt_19 : decode cX3_swapAt 19 = .ok (.aload_n 0, 1) := dk_42 (dk_at dksX3_swapAt_0 19 rfl rfl)
theorem dX3_swapAt_20 : decode cX3_swapAt 20 = .ok (.getfield 9, 3) := dk_180 0 9 (dk_at dksX3_swapAt_0 20 rfl rfl)
theorem dX3_swapAt_23 : decode cX3_swapAt 23 = .ok (.iload_n 2, 1) := dk_28 (dk_at dksX3_swapAt_0 23 rfl rfl)
theorem dX3_swapAt_24 : decode cX3_swapAt 24 = .ok (.iload_n 3, 1) := dk_29 (dk_at dksX3_swapAt_1 0 rfl rfl)
theorem dX3_swapAt_25 : decode cX3_swapAt 25 = .ok (.iastore, 1) := dk_79 (dk_at dksX3_swapAt_1 1 rfl rfl)
theorem dX3_swapAt_26 : decode cX3_swapAt 26 = .ok (.return_, 1) := dk_177 (dk_at dksX3_swapAt_1 2 rfl rfl)
abbrev cX3_turn : ByteArray := prog_15_method_91_code
def yX3_turn : MethodName := ⟨RX3, "turn", "()I"⟩
def dkwX3_turn_3 : List UInt8 := [182, 1, 124, 132, 3, 1, 167, 255, 238, 27, 172]
abbrev dktX3_turn_3 : List UInt8 := dkwX3_turn_3 ++ []
def dkwX3_turn_2 : List UInt8 := [167, 255, 240, 42, 180, 0, 9, 3, 28, 79, 3, 62, 29, 27, 162, 0, 19, 42, 42, 180, 0, 35, 29, 46]
abbrev dktX3_turn_2 : List UInt8 := dkwX3_turn_2 ++ dktX3_turn_3
def dkwX3_turn_1 : List UInt8 := [42, 182, 0, 213, 61, 3, 62, 29, 16, 30, 162, 0, 16, 42, 180, 0, 9, 29, 3, 79, 132, 3, 1]
abbrev dktX3_turn_1 : List UInt8 := dkwX3_turn_1 ++ dktX3_turn_2
def dkwX3_turn_0 : List UInt8 := [42, 3, 181, 0, 93, 42, 182, 1, 90, 60, 27, 2, 160, 0, 8, 42, 182, 1, 115, 172, 42, 182, 1, 121]
abbrev dktX3_turn_0 : List UInt8 := dkwX3_turn_0 ++ dktX3_turn_1
theorem dksX3_turn_0 : cX3_turn.data.toList.drop 0 = dktX3_turn_0 := by decide +kernel
theorem dksX3_turn_1 : cX3_turn.data.toList.drop 24 = dktX3_turn_1 := dk_seg dksX3_turn_0 24 rfl rfl
theorem dksX3_turn_2 : cX3_turn.data.toList.drop 47 = dktX3_turn_2 := dk_seg dksX3_turn_1 23 rfl rfl
theorem dksX3_turn_3 : cX3_turn.data.toList.drop 71 = dktX3_turn_3 := dk_seg dksX3_turn_2 24 rfl rfl
theorem dX3_turn_0 : decode cX3_turn 0 = .ok (.aload_n 0, 1) := dk_42 (dk_at dksX3_turn_0 0 rfl rfl)
theorem dX3_turn_1 : decode cX3_turn 1 = .ok (.iconst 0, 1) := dk_3 (dk_at dksX3_turn_0 1 rfl rfl)
theorem dX3_turn_2 : decode cX3_turn 2 = .ok (.putfield 93, 3) := dk_181 0 93 (dk_at dksX3_turn_0 2 rfl rfl)
theorem dX3_turn_5 : decode cX3_turn 5 = .ok (.aload_n 0, 1) := dk_42 (dk_at dksX3_turn_0 5 rfl rfl)
theorem dX3_turn_6 : decode cX3_turn 6 = .ok (.invokevirtual 346, 3) := dk_182 1 90 (dk_at dksX3_turn_0 6 rfl rfl)
theorem dX3_turn_9 : decode cX3_turn 9 = .ok (.istore_n 1, 1) := dk_60 (dk_at dksX3_turn_0 9 rfl rfl)
theorem dX3_turn_10 : decode cX3_turn 10 = .ok (.iload_n 1, 1) := dk_27 (dk_at dksX3_turn_0 10 rfl rfl)
theorem dX3_turn_11 : decode cX3_turn 11 = .ok (.iconst (-1), 1) := dk_2 (dk_at dksX3_turn_0 11 rfl rfl)
theorem dX3_turn_12 : decode cX3_turn 12 = .ok (.if_icmp .ne 8, 3) := dk_160 0 8 (dk_at dksX3_turn_0 12 rfl rfl)
theorem dX3_turn_15 : decode cX3_turn 15 = .ok (.aload_n 0, 1) := dk_42 (dk_at dksX3_turn_0 15 rfl rfl)
theorem dX3_turn_16 : decode cX3_turn 16 = .ok (.invokevirtual 371, 3) := dk_182 1 115 (dk_at dksX3_turn_0 16 rfl rfl)
theorem dX3_turn_19 : decode cX3_turn 19 = .ok (.ireturn, 1) := dk_172 (dk_at dksX3_turn_0 19 rfl rfl)
theorem dX3_turn_20 : decode cX3_turn 20 = .ok (.aload_n 0, 1) := dk_42 (dk_at dksX3_turn_0 20 rfl rfl)
theorem dX3_turn_21 : decode cX3_turn 21 = .ok (.invokevirtual 377, 3) := dk_182 1 121 (dk_at dksX3_turn_0 21 rfl rfl)
theorem dX3_turn_24 : decode cX3_turn 24 = .ok (.aload_n 0, 1) := dk_42 (dk_at dksX3_turn_1 0 rfl rfl)
theorem dX3_turn_25 : decode cX3_turn 25 = .ok (.invokevirtual 213, 3) := dk_182 0 213 (dk_at dksX3_turn_1 1 rfl rfl)
theorem dX3_turn_28 : decode cX3_turn 28 = .ok (.istore_n 2, 1) := dk_61 (dk_at dksX3_turn_1 4 rfl rfl)
theorem dX3_turn_29 : decode cX3_turn 29 = .ok (.iconst 0, 1) := dk_3 (dk_at dksX3_turn_1 5 rfl rfl)
theorem dX3_turn_30 : decode cX3_turn 30 = .ok (.istore_n 3, 1) := dk_62 (dk_at dksX3_turn_1 6 rfl rfl)
theorem dX3_turn_31 : decode cX3_turn 31 = .ok (.iload_n 3, 1) := dk_29 (dk_at dksX3_turn_1 7 rfl rfl)
theorem dX3_turn_32 : decode cX3_turn 32 = .ok (.bipush 30, 2) := dk_16 30 (dk_at dksX3_turn_1 8 rfl rfl)
theorem dX3_turn_34 : decode cX3_turn 34 = .ok (.if_icmp .ge 16, 3) := dk_162 0 16 (dk_at dksX3_turn_1 10 rfl rfl)
theorem dX3_turn_37 : decode cX3_turn 37 = .ok (.aload_n 0, 1) := dk_42 (dk_at dksX3_turn_1 13 rfl rfl)
theorem dX3_turn_38 : decode cX3_turn 38 = .ok (.getfield 9, 3) := dk_180 0 9 (dk_at dksX3_turn_1 14 rfl rfl)
theorem dX3_turn_41 : decode cX3_turn 41 = .ok (.iload_n 3, 1) := dk_29 (dk_at dksX3_turn_1 17 rfl rfl)
theorem dX3_turn_42 : decode cX3_turn 42 = .ok (.iconst 0, 1) := dk_3 (dk_at dksX3_turn_1 18 rfl rfl)
theorem dX3_turn_43 : decode cX3_turn 43 = .ok (.iastore, 1) := dk_79 (dk_at dksX3_turn_1 19 rfl rfl)
theorem dX3_turn_44 : decode cX3_turn 44 = .ok (.iinc 3 1, 3) := dk_132 3 1 (dk_at dksX3_turn_1 20 rfl rfl)
theorem dX3_turn_47 : decode cX3_turn 47 = .ok (.goto (-16), 3) := dk_167 255 240 (dk_at dksX3_turn_2 0 rfl rfl)
theorem dX3_turn_50 : decode cX3_turn 50 = .ok (.aload_n 0, 1) := dk_42 (dk_at dksX3_turn_2 3 rfl rfl)
theorem dX3_turn_51 : decode cX3_turn 51 = .ok (.getfield 9, 3) := dk_180 0 9 (dk_at dksX3_turn_2 4 rfl rfl)
theorem dX3_turn_54 : decode cX3_turn 54 = .ok (.iconst 0, 1) := dk_3 (dk_at dksX3_turn_2 7 rfl rfl)
theorem dX3_turn_55 : decode cX3_turn 55 = .ok (.iload_n 2, 1) := dk_28 (dk_at dksX3_turn_2 8 rfl rfl)
theorem dX3_turn_56 : decode cX3_turn 56 = .ok (.iastore, 1) := dk_79 (dk_at dksX3_turn_2 9 rfl rfl)
theorem dX3_turn_57 : decode cX3_turn 57 = .ok (.iconst 0, 1) := dk_3 (dk_at dksX3_turn_2 10 rfl rfl)
theorem dX3_turn_58 : decode cX3_turn 58 = .ok (.istore_n 3, 1) := dk_62 (dk_at dksX3_turn_2 11 rfl rfl)
theorem dX3_turn_59 : decode cX3_turn 59 = .ok (.iload_n 3, 1) := dk_29 (dk_at dksX3_turn_2 12 rfl rfl)
theorem dX3_turn_60 : decode cX3_turn 60 = .ok (.iload_n 1, 1) := dk_27 (dk_at dksX3_turn_2 13 rfl rfl)
theorem dX3_turn_61 : decode cX3_turn 61 = .ok (.if_icmp .ge 19, 3) := dk_162 0 19 (dk_at dksX3_turn_2 14 rfl rfl)
theorem dX3_turn_64 : decode cX3_turn 64 = .ok (.aload_n 0, 1) := dk_42 (dk_at dksX3_turn_2 17 rfl rfl)
theorem dX3_turn_65 : decode cX3_turn 65 = .ok (.aload_n 0, 1) := dk_42 (dk_at dksX3_turn_2 18 rfl rfl)
theorem dX3_turn_66 : decode cX3_turn 66 = .ok (.getfield 35, 3) := dk_180 0 35 (dk_at dksX3_turn_2 19 rfl rfl)
theorem dX3_turn_69 : decode cX3_turn 69 = .ok (.iload_n 3, 1) := dk_29 (dk_at dksX3_turn_2 22 rfl rfl)
theorem dX3_turn_70 : decode cX3_turn 70 = .ok (.iaload, 1) := dk_46 (dk_at dksX3_turn_2 23 rfl rfl)
theorem dX3_turn_71 : decode cX3_turn 71 = .ok (.invokevirtual 380, 3) := dk_182 1 124 (dk_at dksX3_turn_3 0 rfl rfl)
theorem dX3_turn_74 : decode cX3_turn 74 = .ok (.iinc 3 1, 3) := dk_132 3 1 (dk_at dksX3_turn_3 3 rfl rfl)
theorem dX3_turn_77 : decode cX3_turn 77 = .ok (.goto (-18), 3) := dk_167 255 238 (dk_at dksX3_turn_3 6 rfl rfl)
theorem dX3_turn_80 : decode cX3_turn 80 = .ok (.iload_n 1, 1) := dk_27 (dk_at dksX3_turn_3 9 rfl rfl)
theorem dX3_turn_81 : decode cX3_turn 81 = .ok (.ireturn, 1) := dk_172 (dk_at dksX3_turn_3 10 rfl rfl)
abbrev cX3_grow : ByteArray := prog_15_method_92_code
def yX3_grow : MethodName := ⟨RX3, "grow", "(Z)I"⟩
def dkwX3_grow_5 : List UInt8 := [167, 0, 4, 2, 96, 79, 42, 182, 0, 222, 172]
abbrev dktX3_grow_5 : List UInt8 := dkwX3_grow_5 ++ []
def dkwX3_grow_4 : List UInt8 := [79, 42, 180, 0, 9, 16, 22, 28, 96, 3, 79, 42, 180, 0, 9, 3, 92, 46, 27, 153, 0, 7, 4]
abbrev dktX3_grow_4 : List UInt8 := dkwX3_grow_4 ++ dktX3_grow_5
def dkwX3_grow_3 : List UInt8 := [160, 0, 9, 42, 29, 182, 1, 127, 87, 132, 3, 255, 167, 255, 230, 42, 180, 0, 9, 16, 14, 28, 96, 3]
abbrev dktX3_grow_3 : List UInt8 := dkwX3_grow_3 ++ dktX3_grow_4
def dkwX3_grow_2 : List UInt8 := [100, 61, 42, 182, 0, 213, 4, 100, 62, 29, 155, 0, 28, 42, 29, 182, 0, 216, 28, 122, 4, 126, 4]
abbrev dktX3_grow_2 : List UInt8 := dkwX3_grow_2 ++ dktX3_grow_3
def dkwX3_grow_1 : List UInt8 := [182, 1, 115, 172, 42, 182, 1, 121, 27, 153, 0, 10, 42, 182, 0, 222, 167, 0, 9, 42, 182, 0, 222, 4]
abbrev dktX3_grow_1 : List UInt8 := dkwX3_grow_1 ++ dktX3_grow_2
def dkwX3_grow_0 : List UInt8 := [42, 3, 181, 0, 93, 42, 182, 0, 222, 27, 153, 0, 8, 16, 8, 167, 0, 4, 4, 160, 0, 8, 42]
abbrev dktX3_grow_0 : List UInt8 := dkwX3_grow_0 ++ dktX3_grow_1
theorem dksX3_grow_0 : cX3_grow.data.toList.drop 0 = dktX3_grow_0 := by decide +kernel
theorem dksX3_grow_1 : cX3_grow.data.toList.drop 23 = dktX3_grow_1 := dk_seg dksX3_grow_0 23 rfl rfl
theorem dksX3_grow_2 : cX3_grow.data.toList.drop 47 = dktX3_grow_2 := dk_seg dksX3_grow_1 24 rfl rfl
theorem dksX3_grow_3 : cX3_grow.data.toList.drop 70 = dktX3_grow_3 := dk_seg dksX3_grow_2 23 rfl rfl
theorem dksX3_grow_4 : cX3_grow.data.toList.drop 94 = dktX3_grow_4 := dk_seg dksX3_grow_3 24 rfl rfl
theorem dksX3_grow_5 : cX3_grow.data.toList.drop 117 = dktX3_grow_5 := dk_seg dksX3_grow_4 23 rfl rfl
theorem dX3_grow_0 : decode cX3_grow 0 = .ok (.aload_n 0, 1) := dk_42 (dk_at dksX3_grow_0 0 rfl rfl)
theorem dX3_grow_1 : decode cX3_grow 1 = .ok (.iconst 0, 1) := dk_3 (dk_at dksX3_grow_0 1 rfl rfl)
theorem dX3_grow_2 : decode cX3_grow 2 = .ok (.putfield 93, 3) := dk_181 0 93 (dk_at dksX3_grow_0 2 rfl rfl)
theorem dX3_grow_5 : decode cX3_grow 5 = .ok (.aload_n 0, 1) := dk_42 (dk_at dksX3_grow_0 5 rfl rfl)
theorem dX3_grow_6 : decode cX3_grow 6 = .ok (.invokevirtual 222, 3) := dk_182 0 222 (dk_at dksX3_grow_0 6 rfl rfl)
theorem dX3_grow_9 : decode cX3_grow 9 = .ok (.iload_n 1, 1) := dk_27 (dk_at dksX3_grow_0 9 rfl rfl)
theorem dX3_grow_10 : decode cX3_grow 10 = .ok (.ifCond .eq 8, 3) := dk_153 0 8 (dk_at dksX3_grow_0 10 rfl rfl)
theorem dX3_grow_13 : decode cX3_grow 13 = .ok (.bipush 8, 2) := dk_16 8 (dk_at dksX3_grow_0 13 rfl rfl)
theorem dX3_grow_15 : decode cX3_grow 15 = .ok (.goto 4, 3) := dk_167 0 4 (dk_at dksX3_grow_0 15 rfl rfl)
theorem dX3_grow_18 : decode cX3_grow 18 = .ok (.iconst 1, 1) := dk_4 (dk_at dksX3_grow_0 18 rfl rfl)
theorem dX3_grow_19 : decode cX3_grow 19 = .ok (.if_icmp .ne 8, 3) := dk_160 0 8 (dk_at dksX3_grow_0 19 rfl rfl)
theorem dX3_grow_22 : decode cX3_grow 22 = .ok (.aload_n 0, 1) := dk_42 (dk_at dksX3_grow_0 22 rfl rfl)
theorem dX3_grow_23 : decode cX3_grow 23 = .ok (.invokevirtual 371, 3) := dk_182 1 115 (dk_at dksX3_grow_1 0 rfl rfl)
theorem dX3_grow_26 : decode cX3_grow 26 = .ok (.ireturn, 1) := dk_172 (dk_at dksX3_grow_1 3 rfl rfl)
theorem dX3_grow_27 : decode cX3_grow 27 = .ok (.aload_n 0, 1) := dk_42 (dk_at dksX3_grow_1 4 rfl rfl)
theorem dX3_grow_28 : decode cX3_grow 28 = .ok (.invokevirtual 377, 3) := dk_182 1 121 (dk_at dksX3_grow_1 5 rfl rfl)
theorem dX3_grow_31 : decode cX3_grow 31 = .ok (.iload_n 1, 1) := dk_27 (dk_at dksX3_grow_1 8 rfl rfl)
theorem dX3_grow_32 : decode cX3_grow 32 = .ok (.ifCond .eq 10, 3) := dk_153 0 10 (dk_at dksX3_grow_1 9 rfl rfl)
theorem dX3_grow_35 : decode cX3_grow 35 = .ok (.aload_n 0, 1) := dk_42 (dk_at dksX3_grow_1 12 rfl rfl)
theorem dX3_grow_36 : decode cX3_grow 36 = .ok (.invokevirtual 222, 3) := dk_182 0 222 (dk_at dksX3_grow_1 13 rfl rfl)
theorem dX3_grow_39 : decode cX3_grow 39 = .ok (.goto 9, 3) := dk_167 0 9 (dk_at dksX3_grow_1 16 rfl rfl)
theorem dX3_grow_42 : decode cX3_grow 42 = .ok (.aload_n 0, 1) := dk_42 (dk_at dksX3_grow_1 19 rfl rfl)
theorem dX3_grow_43 : decode cX3_grow 43 = .ok (.invokevirtual 222, 3) := dk_182 0 222 (dk_at dksX3_grow_1 20 rfl rfl)
theorem dX3_grow_46 : decode cX3_grow 46 = .ok (.iconst 1, 1) := dk_4 (dk_at dksX3_grow_1 23 rfl rfl)
theorem dX3_grow_47 : decode cX3_grow 47 = .ok (.isub, 1) := dk_100 (dk_at dksX3_grow_2 0 rfl rfl)
theorem dX3_grow_48 : decode cX3_grow 48 = .ok (.istore_n 2, 1) := dk_61 (dk_at dksX3_grow_2 1 rfl rfl)
theorem dX3_grow_49 : decode cX3_grow 49 = .ok (.aload_n 0, 1) := dk_42 (dk_at dksX3_grow_2 2 rfl rfl)
theorem dX3_grow_50 : decode cX3_grow 50 = .ok (.invokevirtual 213, 3) := dk_182 0 213 (dk_at dksX3_grow_2 3 rfl rfl)
theorem dX3_grow_53 : decode cX3_grow 53 = .ok (.iconst 1, 1) := dk_4 (dk_at dksX3_grow_2 6 rfl rfl)
theorem dX3_grow_54 : decode cX3_grow 54 = .ok (.isub, 1) := dk_100 (dk_at dksX3_grow_2 7 rfl rfl)
theorem dX3_grow_55 : decode cX3_grow 55 = .ok (.istore_n 3, 1) := dk_62 (dk_at dksX3_grow_2 8 rfl rfl)
theorem dX3_grow_56 : decode cX3_grow 56 = .ok (.iload_n 3, 1) := dk_29 (dk_at dksX3_grow_2 9 rfl rfl)
theorem dX3_grow_57 : decode cX3_grow 57 = .ok (.ifCond .lt 28, 3) := dk_155 0 28 (dk_at dksX3_grow_2 10 rfl rfl)
theorem dX3_grow_60 : decode cX3_grow 60 = .ok (.aload_n 0, 1) := dk_42 (dk_at dksX3_grow_2 13 rfl rfl)
theorem dX3_grow_61 : decode cX3_grow 61 = .ok (.iload_n 3, 1) := dk_29 (dk_at dksX3_grow_2 14 rfl rfl)
theorem dX3_grow_62 : decode cX3_grow 62 = .ok (.invokevirtual 216, 3) := dk_182 0 216 (dk_at dksX3_grow_2 15 rfl rfl)
theorem dX3_grow_65 : decode cX3_grow 65 = .ok (.iload_n 2, 1) := dk_28 (dk_at dksX3_grow_2 18 rfl rfl)
theorem dX3_grow_66 : decode cX3_grow 66 = .ok (.ishr, 1) := dk_122 (dk_at dksX3_grow_2 19 rfl rfl)
theorem dX3_grow_67 : decode cX3_grow 67 = .ok (.iconst 1, 1) := dk_4 (dk_at dksX3_grow_2 20 rfl rfl)
theorem dX3_grow_68 : decode cX3_grow 68 = .ok (.iand, 1) := dk_126 (dk_at dksX3_grow_2 21 rfl rfl)
theorem dX3_grow_69 : decode cX3_grow 69 = .ok (.iconst 1, 1) := dk_4 (dk_at dksX3_grow_2 22 rfl rfl)
theorem dX3_grow_70 : decode cX3_grow 70 = .ok (.if_icmp .ne 9, 3) := dk_160 0 9 (dk_at dksX3_grow_3 0 rfl rfl)
theorem dX3_grow_73 : decode cX3_grow 73 = .ok (.aload_n 0, 1) := dk_42 (dk_at dksX3_grow_3 3 rfl rfl)
theorem dX3_grow_74 : decode cX3_grow 74 = .ok (.iload_n 3, 1) := dk_29 (dk_at dksX3_grow_3 4 rfl rfl)
theorem dX3_grow_75 : decode cX3_grow 75 = .ok (.invokevirtual 383, 3) := dk_182 1 127 (dk_at dksX3_grow_3 5 rfl rfl)
theorem dX3_grow_78 : decode cX3_grow 78 = .ok (.pop, 1) := dk_87 (dk_at dksX3_grow_3 8 rfl rfl)
theorem dX3_grow_79 : decode cX3_grow 79 = .ok (.iinc 3 (-1), 3) := dk_132 3 255 (dk_at dksX3_grow_3 9 rfl rfl)
theorem dX3_grow_82 : decode cX3_grow 82 = .ok (.goto (-26), 3) := dk_167 255 230 (dk_at dksX3_grow_3 12 rfl rfl)
theorem dX3_grow_85 : decode cX3_grow 85 = .ok (.aload_n 0, 1) := dk_42 (dk_at dksX3_grow_3 15 rfl rfl)
theorem dX3_grow_86 : decode cX3_grow 86 = .ok (.getfield 9, 3) := dk_180 0 9 (dk_at dksX3_grow_3 16 rfl rfl)
theorem dX3_grow_89 : decode cX3_grow 89 = .ok (.bipush 14, 2) := dk_16 14 (dk_at dksX3_grow_3 19 rfl rfl)
theorem dX3_grow_91 : decode cX3_grow 91 = .ok (.iload_n 2, 1) := dk_28 (dk_at dksX3_grow_3 21 rfl rfl)
theorem dX3_grow_92 : decode cX3_grow 92 = .ok (.iadd, 1) := dk_96 (dk_at dksX3_grow_3 22 rfl rfl)
theorem dX3_grow_93 : decode cX3_grow 93 = .ok (.iconst 0, 1) := dk_3 (dk_at dksX3_grow_3 23 rfl rfl)
theorem dX3_grow_94 : decode cX3_grow 94 = .ok (.iastore, 1) := dk_79 (dk_at dksX3_grow_4 0 rfl rfl)
theorem dX3_grow_95 : decode cX3_grow 95 = .ok (.aload_n 0, 1) := dk_42 (dk_at dksX3_grow_4 1 rfl rfl)
theorem dX3_grow_96 : decode cX3_grow 96 = .ok (.getfield 9, 3) := dk_180 0 9 (dk_at dksX3_grow_4 2 rfl rfl)
theorem dX3_grow_99 : decode cX3_grow 99 = .ok (.bipush 22, 2) := dk_16 22 (dk_at dksX3_grow_4 5 rfl rfl)
theorem dX3_grow_101 : decode cX3_grow 101 = .ok (.iload_n 2, 1) := dk_28 (dk_at dksX3_grow_4 7 rfl rfl)
theorem dX3_grow_102 : decode cX3_grow 102 = .ok (.iadd, 1) := dk_96 (dk_at dksX3_grow_4 8 rfl rfl)
theorem dX3_grow_103 : decode cX3_grow 103 = .ok (.iconst 0, 1) := dk_3 (dk_at dksX3_grow_4 9 rfl rfl)
theorem dX3_grow_104 : decode cX3_grow 104 = .ok (.iastore, 1) := dk_79 (dk_at dksX3_grow_4 10 rfl rfl)
theorem dX3_grow_105 : decode cX3_grow 105 = .ok (.aload_n 0, 1) := dk_42 (dk_at dksX3_grow_4 11 rfl rfl)
theorem dX3_grow_106 : decode cX3_grow 106 = .ok (.getfield 9, 3) := dk_180 0 9 (dk_at dksX3_grow_4 12 rfl rfl)
theorem dX3_grow_109 : decode cX3_grow 109 = .ok (.iconst 0, 1) := dk_3 (dk_at dksX3_grow_4 15 rfl rfl)
theorem dX3_grow_110 : decode cX3_grow 110 = .ok (.dup2, 1) := dk_92 (dk_at dksX3_grow_4 16 rfl rfl)
theorem dX3_grow_111 : decode cX3_grow 111 = .ok (.iaload, 1) := dk_46 (dk_at dksX3_grow_4 17 rfl rfl)
theorem dX3_grow_112 : decode cX3_grow 112 = .ok (.iload_n 1, 1) := dk_27 (dk_at dksX3_grow_4 18 rfl rfl)
theorem dX3_grow_113 : decode cX3_grow 113 = .ok (.ifCond .eq 7, 3) := dk_153 0 7 (dk_at dksX3_grow_4 19 rfl rfl)
theorem dX3_grow_116 : decode cX3_grow 116 = .ok (.iconst 1, 1) := dk_4 (dk_at dksX3_grow_4 22 rfl rfl)
theorem dX3_grow_117 : decode cX3_grow 117 = .ok (.goto 4, 3) := dk_167 0 4 (dk_at dksX3_grow_5 0 rfl rfl)
theorem dX3_grow_120 : decode cX3_grow 120 = .ok (.iconst (-1), 1) := dk_2 (dk_at dksX3_grow_5 3 rfl rfl)
theorem dX3_grow_121 : decode cX3_grow 121 = .ok (.iadd, 1) := dk_96 (dk_at dksX3_grow_5 4 rfl rfl)
theorem dX3_grow_122 : decode cX3_grow 122 = .ok (.iastore, 1) := dk_79 (dk_at dksX3_grow_5 5 rfl rfl)
theorem dX3_grow_123 : decode cX3_grow 123 = .ok (.aload_n 0, 1) := dk_42 (dk_at dksX3_grow_5 6 rfl rfl)
theorem dX3_grow_124 : decode cX3_grow 124 = .ok (.invokevirtual 222, 3) := dk_182 0 222 (dk_at dksX3_grow_5 7 rfl rfl)
theorem dX3_grow_127 : decode cX3_grow 127 = .ok (.ireturn, 1) := dk_172 (dk_at dksX3_grow_5 10 rfl rfl)
abbrev cX3_place : ByteArray := prog_15_method_93_code
def yX3_place : MethodName := ⟨RX3, "place", "(III)Z"⟩
def dkwX3_place_2 : List UInt8 := [16, 14, 27, 96, 28, 79, 42, 180, 0, 9, 16, 22, 27, 96, 29, 79, 4, 172]
abbrev dktX3_place_2 : List UInt8 := dkwX3_place_2 ++ []
def dkwX3_place_1 : List UInt8 := [29, 16, 247, 16, 9, 184, 1, 71, 154, 0, 8, 42, 182, 1, 130, 172, 42, 182, 1, 121, 42, 180, 0, 9]
abbrev dktX3_place_1 : List UInt8 := dkwX3_place_1 ++ dktX3_place_2
def dkwX3_place_0 : List UInt8 := [42, 3, 181, 0, 93, 42, 27, 182, 1, 77, 153, 0, 25, 28, 16, 247, 16, 9, 184, 1, 71, 153, 0, 14]
abbrev dktX3_place_0 : List UInt8 := dkwX3_place_0 ++ dktX3_place_1
theorem dksX3_place_0 : cX3_place.data.toList.drop 0 = dktX3_place_0 := by decide +kernel
theorem dksX3_place_1 : cX3_place.data.toList.drop 24 = dktX3_place_1 := dk_seg dksX3_place_0 24 rfl rfl
theorem dksX3_place_2 : cX3_place.data.toList.drop 48 = dktX3_place_2 := dk_seg dksX3_place_1 24 rfl rfl
theorem dX3_place_0 : decode cX3_place 0 = .ok (.aload_n 0, 1) := dk_42 (dk_at dksX3_place_0 0 rfl rfl)
theorem dX3_place_1 : decode cX3_place 1 = .ok (.iconst 0, 1) := dk_3 (dk_at dksX3_place_0 1 rfl rfl)
theorem dX3_place_2 : decode cX3_place 2 = .ok (.putfield 93, 3) := dk_181 0 93 (dk_at dksX3_place_0 2 rfl rfl)
theorem dX3_place_5 : decode cX3_place 5 = .ok (.aload_n 0, 1) := dk_42 (dk_at dksX3_place_0 5 rfl rfl)
theorem dX3_place_6 : decode cX3_place 6 = .ok (.iload_n 1, 1) := dk_27 (dk_at dksX3_place_0 6 rfl rfl)
theorem dX3_place_7 : decode cX3_place 7 = .ok (.invokevirtual 333, 3) := dk_182 1 77 (dk_at dksX3_place_0 7 rfl rfl)
theorem dX3_place_10 : decode cX3_place 10 = .ok (.ifCond .eq 25, 3) := dk_153 0 25 (dk_at dksX3_place_0 10 rfl rfl)
theorem dX3_place_13 : decode cX3_place 13 = .ok (.iload_n 2, 1) := dk_28 (dk_at dksX3_place_0 13 rfl rfl)
theorem dX3_place_14 : decode cX3_place 14 = .ok (.bipush (-9), 2) := dk_16 247 (dk_at dksX3_place_0 14 rfl rfl)
theorem dX3_place_16 : decode cX3_place 16 = .ok (.bipush 9, 2) := dk_16 9 (dk_at dksX3_place_0 16 rfl rfl)
theorem dX3_place_18 : decode cX3_place 18 = .ok (.invokestatic 327, 3) := dk_184 1 71 (dk_at dksX3_place_0 18 rfl rfl)
theorem dX3_place_21 : decode cX3_place 21 = .ok (.ifCond .eq 14, 3) := dk_153 0 14 (dk_at dksX3_place_0 21 rfl rfl)
theorem dX3_place_24 : decode cX3_place 24 = .ok (.iload_n 3, 1) := dk_29 (dk_at dksX3_place_1 0 rfl rfl)
theorem dX3_place_25 : decode cX3_place 25 = .ok (.bipush (-9), 2) := dk_16 247 (dk_at dksX3_place_1 1 rfl rfl)
theorem dX3_place_27 : decode cX3_place 27 = .ok (.bipush 9, 2) := dk_16 9 (dk_at dksX3_place_1 3 rfl rfl)
theorem dX3_place_29 : decode cX3_place 29 = .ok (.invokestatic 327, 3) := dk_184 1 71 (dk_at dksX3_place_1 5 rfl rfl)
theorem dX3_place_32 : decode cX3_place 32 = .ok (.ifCond .ne 8, 3) := dk_154 0 8 (dk_at dksX3_place_1 8 rfl rfl)
theorem dX3_place_35 : decode cX3_place 35 = .ok (.aload_n 0, 1) := dk_42 (dk_at dksX3_place_1 11 rfl rfl)
theorem dX3_place_36 : decode cX3_place 36 = .ok (.invokevirtual 386, 3) := dk_182 1 130 (dk_at dksX3_place_1 12 rfl rfl)
theorem dX3_place_39 : decode cX3_place 39 = .ok (.ireturn, 1) := dk_172 (dk_at dksX3_place_1 15 rfl rfl)
theorem dX3_place_40 : decode cX3_place 40 = .ok (.aload_n 0, 1) := dk_42 (dk_at dksX3_place_1 16 rfl rfl)
theorem dX3_place_41 : decode cX3_place 41 = .ok (.invokevirtual 377, 3) := dk_182 1 121 (dk_at dksX3_place_1 17 rfl rfl)
theorem dX3_place_44 : decode cX3_place 44 = .ok (.aload_n 0, 1) := dk_42 (dk_at dksX3_place_1 20 rfl rfl)
theorem dX3_place_45 : decode cX3_place 45 = .ok (.getfield 9, 3) := dk_180 0 9 (dk_at dksX3_place_1 21 rfl rfl)
theorem dX3_place_48 : decode cX3_place 48 = .ok (.bipush 14, 2) := dk_16 14 (dk_at dksX3_place_2 0 rfl rfl)
theorem dX3_place_50 : decode cX3_place 50 = .ok (.iload_n 1, 1) := dk_27 (dk_at dksX3_place_2 2 rfl rfl)
theorem dX3_place_51 : decode cX3_place 51 = .ok (.iadd, 1) := dk_96 (dk_at dksX3_place_2 3 rfl rfl)
theorem dX3_place_52 : decode cX3_place 52 = .ok (.iload_n 2, 1) := dk_28 (dk_at dksX3_place_2 4 rfl rfl)
theorem dX3_place_53 : decode cX3_place 53 = .ok (.iastore, 1) := dk_79 (dk_at dksX3_place_2 5 rfl rfl)
theorem dX3_place_54 : decode cX3_place 54 = .ok (.aload_n 0, 1) := dk_42 (dk_at dksX3_place_2 6 rfl rfl)
theorem dX3_place_55 : decode cX3_place 55 = .ok (.getfield 9, 3) := dk_180 0 9 (dk_at dksX3_place_2 7 rfl rfl)
theorem dX3_place_58 : decode cX3_place 58 = .ok (.bipush 22, 2) := dk_16 22 (dk_at dksX3_place_2 10 rfl rfl)
theorem dX3_place_60 : decode cX3_place 60 = .ok (.iload_n 1, 1) := dk_27 (dk_at dksX3_place_2 12 rfl rfl)
theorem dX3_place_61 : decode cX3_place 61 = .ok (.iadd, 1) := dk_96 (dk_at dksX3_place_2 13 rfl rfl)
theorem dX3_place_62 : decode cX3_place 62 = .ok (.iload_n 3, 1) := dk_29 (dk_at dksX3_place_2 14 rfl rfl)
theorem dX3_place_63 : decode cX3_place 63 = .ok (.iastore, 1) := dk_79 (dk_at dksX3_place_2 15 rfl rfl)
theorem dX3_place_64 : decode cX3_place 64 = .ok (.iconst 1, 1) := dk_4 (dk_at dksX3_place_2 16 rfl rfl)
theorem dX3_place_65 : decode cX3_place 65 = .ok (.ireturn, 1) := dk_172 (dk_at dksX3_place_2 17 rfl rfl)
abbrev cX3_put : ByteArray := prog_15_method_94_code
def yX3_put : MethodName := ⟨RX3, "put", "(I)I"⟩
def dkwX3_put_3 : List UInt8 := [132, 3, 1, 167, 255, 228, 28, 172]
abbrev dktX3_put_3 : List UInt8 := dkwX3_put_3 ++ []
def dkwX3_put_2 : List UInt8 := [162, 0, 28, 42, 180, 0, 9, 27, 184, 1, 93, 4, 96, 29, 96, 42, 180, 0, 9, 29, 46, 79]
abbrev dktX3_put_2 : List UInt8 := dkwX3_put_2 ++ dktX3_put_3
def dkwX3_put_1 : List UInt8 := [180, 0, 9, 27, 184, 1, 93, 46, 61, 42, 180, 0, 9, 27, 184, 1, 93, 4, 79, 3, 62, 29, 16, 30]
abbrev dktX3_put_1 : List UInt8 := dkwX3_put_1 ++ dktX3_put_2
def dkwX3_put_0 : List UInt8 := [42, 3, 181, 0, 93, 27, 3, 6, 184, 1, 71, 154, 0, 8, 42, 182, 1, 115, 172, 42, 182, 1, 121, 42]
abbrev dktX3_put_0 : List UInt8 := dkwX3_put_0 ++ dktX3_put_1
theorem dksX3_put_0 : cX3_put.data.toList.drop 0 = dktX3_put_0 := by decide +kernel
theorem dksX3_put_1 : cX3_put.data.toList.drop 24 = dktX3_put_1 := dk_seg dksX3_put_0 24 rfl rfl
theorem dksX3_put_2 : cX3_put.data.toList.drop 48 = dktX3_put_2 := dk_seg dksX3_put_1 24 rfl rfl
theorem dksX3_put_3 : cX3_put.data.toList.drop 70 = dktX3_put_3 := dk_seg dksX3_put_2 22 rfl rfl
theorem dX3_put_0 : decode cX3_put 0 = .ok (.aload_n 0, 1) := dk_42 (dk_at dksX3_put_0 0 rfl rfl)
theorem dX3_put_1 : decode cX3_put 1 = .ok (.iconst 0, 1) := dk_3 (dk_at dksX3_put_0 1 rfl rfl)
theorem dX3_put_2 : decode cX3_put 2 = .ok (.putfield 93, 3) := dk_181 0 93 (dk_at dksX3_put_0 2 rfl rfl)
theorem dX3_put_5 : decode cX3_put 5 = .ok (.iload_n 1, 1) := dk_27 (dk_at dksX3_put_0 5 rfl rfl)
theorem dX3_put_6 : decode cX3_put 6 = .ok (.iconst 0, 1) := dk_3 (dk_at dksX3_put_0 6 rfl rfl)
theorem dX3_put_7 : decode cX3_put 7 = .ok (.iconst 3, 1) := dk_6 (dk_at dksX3_put_0 7 rfl rfl)
theorem dX3_put_8 : decode cX3_put 8 = .ok (.invokestatic 327, 3) := dk_184 1 71 (dk_at dksX3_put_0 8 rfl rfl)
theorem dX3_put_11 : decode cX3_put 11 = .ok (.ifCond .ne 8, 3) := dk_154 0 8 (dk_at dksX3_put_0 11 rfl rfl)
theorem dX3_put_14 : decode cX3_put 14 = .ok (.aload_n 0, 1) := dk_42 (dk_at dksX3_put_0 14 rfl rfl)
theorem dX3_put_15 : decode cX3_put 15 = .ok (.invokevirtual 371, 3) := dk_182 1 115 (dk_at dksX3_put_0 15 rfl rfl)
theorem dX3_put_18 : decode cX3_put 18 = .ok (.ireturn, 1) := dk_172 (dk_at dksX3_put_0 18 rfl rfl)
theorem dX3_put_19 : decode cX3_put 19 = .ok (.aload_n 0, 1) := dk_42 (dk_at dksX3_put_0 19 rfl rfl)
theorem dX3_put_20 : decode cX3_put 20 = .ok (.invokevirtual 377, 3) := dk_182 1 121 (dk_at dksX3_put_0 20 rfl rfl)
theorem dX3_put_23 : decode cX3_put 23 = .ok (.aload_n 0, 1) := dk_42 (dk_at dksX3_put_0 23 rfl rfl)
theorem dX3_put_24 : decode cX3_put 24 = .ok (.getfield 9, 3) := dk_180 0 9 (dk_at dksX3_put_1 0 rfl rfl)
theorem dX3_put_27 : decode cX3_put 27 = .ok (.iload_n 1, 1) := dk_27 (dk_at dksX3_put_1 3 rfl rfl)
theorem dX3_put_28 : decode cX3_put 28 = .ok (.invokestatic 349, 3) := dk_184 1 93 (dk_at dksX3_put_1 4 rfl rfl)
theorem dX3_put_31 : decode cX3_put 31 = .ok (.iaload, 1) := dk_46 (dk_at dksX3_put_1 7 rfl rfl)
theorem dX3_put_32 : decode cX3_put 32 = .ok (.istore_n 2, 1) := dk_61 (dk_at dksX3_put_1 8 rfl rfl)
theorem dX3_put_33 : decode cX3_put 33 = .ok (.aload_n 0, 1) := dk_42 (dk_at dksX3_put_1 9 rfl rfl)
theorem dX3_put_34 : decode cX3_put 34 = .ok (.getfield 9, 3) := dk_180 0 9 (dk_at dksX3_put_1 10 rfl rfl)
theorem dX3_put_37 : decode cX3_put 37 = .ok (.iload_n 1, 1) := dk_27 (dk_at dksX3_put_1 13 rfl rfl)
theorem dX3_put_38 : decode cX3_put 38 = .ok (.invokestatic 349, 3) := dk_184 1 93 (dk_at dksX3_put_1 14 rfl rfl)
theorem dX3_put_41 : decode cX3_put 41 = .ok (.iconst 1, 1) := dk_4 (dk_at dksX3_put_1 17 rfl rfl)
theorem dX3_put_42 : decode cX3_put 42 = .ok (.iastore, 1) := dk_79 (dk_at dksX3_put_1 18 rfl rfl)
theorem dX3_put_43 : decode cX3_put 43 = .ok (.iconst 0, 1) := dk_3 (dk_at dksX3_put_1 19 rfl rfl)
theorem dX3_put_44 : decode cX3_put 44 = .ok (.istore_n 3, 1) := dk_62 (dk_at dksX3_put_1 20 rfl rfl)
theorem dX3_put_45 : decode cX3_put 45 = .ok (.iload_n 3, 1) := dk_29 (dk_at dksX3_put_1 21 rfl rfl)
theorem dX3_put_46 : decode cX3_put 46 = .ok (.bipush 30, 2) := dk_16 30 (dk_at dksX3_put_1 22 rfl rfl)
theorem dX3_put_48 : decode cX3_put 48 = .ok (.if_icmp .ge 28, 3) := dk_162 0 28 (dk_at dksX3_put_2 0 rfl rfl)
theorem dX3_put_51 : decode cX3_put 51 = .ok (.aload_n 0, 1) := dk_42 (dk_at dksX3_put_2 3 rfl rfl)
theorem dX3_put_52 : decode cX3_put 52 = .ok (.getfield 9, 3) := dk_180 0 9 (dk_at dksX3_put_2 4 rfl rfl)
theorem dX3_put_55 : decode cX3_put 55 = .ok (.iload_n 1, 1) := dk_27 (dk_at dksX3_put_2 7 rfl rfl)
theorem dX3_put_56 : decode cX3_put 56 = .ok (.invokestatic 349, 3) := dk_184 1 93 (dk_at dksX3_put_2 8 rfl rfl)
theorem dX3_put_59 : decode cX3_put 59 = .ok (.iconst 1, 1) := dk_4 (dk_at dksX3_put_2 11 rfl rfl)
theorem dX3_put_60 : decode cX3_put 60 = .ok (.iadd, 1) := dk_96 (dk_at dksX3_put_2 12 rfl rfl)
theorem dX3_put_61 : decode cX3_put 61 = .ok (.iload_n 3, 1) := dk_29 (dk_at dksX3_put_2 13 rfl rfl)
theorem dX3_put_62 : decode cX3_put 62 = .ok (.iadd, 1) := dk_96 (dk_at dksX3_put_2 14 rfl rfl)
theorem dX3_put_63 : decode cX3_put 63 = .ok (.aload_n 0, 1) := dk_42 (dk_at dksX3_put_2 15 rfl rfl)
theorem dX3_put_64 : decode cX3_put 64 = .ok (.getfield 9, 3) := dk_180 0 9 (dk_at dksX3_put_2 16 rfl rfl)
theorem dX3_put_67 : decode cX3_put 67 = .ok (.iload_n 3, 1) := dk_29 (dk_at dksX3_put_2 19 rfl rfl)
theorem dX3_put_68 : decode cX3_put 68 = .ok (.iaload, 1) := dk_46 (dk_at dksX3_put_2 20 rfl rfl)
theorem dX3_put_69 : decode cX3_put 69 = .ok (.iastore, 1) := dk_79 (dk_at dksX3_put_2 21 rfl rfl)
theorem dX3_put_70 : decode cX3_put 70 = .ok (.iinc 3 1, 3) := dk_132 3 1 (dk_at dksX3_put_3 0 rfl rfl)
theorem dX3_put_73 : decode cX3_put 73 = .ok (.goto (-28), 3) := dk_167 255 228 (dk_at dksX3_put_3 3 rfl rfl)
theorem dX3_put_76 : decode cX3_put 76 = .ok (.iload_n 2, 1) := dk_28 (dk_at dksX3_put_3 6 rfl rfl)
theorem dX3_put_77 : decode cX3_put 77 = .ok (.ireturn, 1) := dk_172 (dk_at dksX3_put_3 7 rfl rfl)
abbrev cX3_take : ByteArray := prog_15_method_95_code
def yX3_take : MethodName := ⟨RX3, "take", "(I)I"⟩
def dkwX3_take_2 : List UInt8 := [42, 182, 0, 222, 172]
abbrev dktX3_take_2 : List UInt8 := dkwX3_take_2 ++ []
def dkwX3_take_1 : List UInt8 := [28, 16, 30, 162, 0, 21, 42, 180, 0, 9, 28, 42, 27, 28, 182, 1, 96, 79, 132, 2, 1, 167, 255, 235]
abbrev dktX3_take_1 : List UInt8 := dkwX3_take_1 ++ dktX3_take_2
def dkwX3_take_0 : List UInt8 := [42, 3, 181, 0, 93, 42, 27, 182, 1, 109, 154, 0, 8, 42, 182, 1, 115, 172, 42, 182, 1, 121, 3, 61]
abbrev dktX3_take_0 : List UInt8 := dkwX3_take_0 ++ dktX3_take_1
theorem dksX3_take_0 : cX3_take.data.toList.drop 0 = dktX3_take_0 := by decide +kernel
theorem dksX3_take_1 : cX3_take.data.toList.drop 24 = dktX3_take_1 := dk_seg dksX3_take_0 24 rfl rfl
theorem dksX3_take_2 : cX3_take.data.toList.drop 48 = dktX3_take_2 := dk_seg dksX3_take_1 24 rfl rfl
theorem dX3_take_0 : decode cX3_take 0 = .ok (.aload_n 0, 1) := dk_42 (dk_at dksX3_take_0 0 rfl rfl)
theorem dX3_take_1 : decode cX3_take 1 = .ok (.iconst 0, 1) := dk_3 (dk_at dksX3_take_0 1 rfl rfl)
theorem dX3_take_2 : decode cX3_take 2 = .ok (.putfield 93, 3) := dk_181 0 93 (dk_at dksX3_take_0 2 rfl rfl)
theorem dX3_take_5 : decode cX3_take 5 = .ok (.aload_n 0, 1) := dk_42 (dk_at dksX3_take_0 5 rfl rfl)
theorem dX3_take_6 : decode cX3_take 6 = .ok (.iload_n 1, 1) := dk_27 (dk_at dksX3_take_0 6 rfl rfl)
theorem dX3_take_7 : decode cX3_take 7 = .ok (.invokevirtual 365, 3) := dk_182 1 109 (dk_at dksX3_take_0 7 rfl rfl)
theorem dX3_take_10 : decode cX3_take 10 = .ok (.ifCond .ne 8, 3) := dk_154 0 8 (dk_at dksX3_take_0 10 rfl rfl)
theorem dX3_take_13 : decode cX3_take 13 = .ok (.aload_n 0, 1) := dk_42 (dk_at dksX3_take_0 13 rfl rfl)
theorem dX3_take_14 : decode cX3_take 14 = .ok (.invokevirtual 371, 3) := dk_182 1 115 (dk_at dksX3_take_0 14 rfl rfl)
theorem dX3_take_17 : decode cX3_take 17 = .ok (.ireturn, 1) := dk_172 (dk_at dksX3_take_0 17 rfl rfl)
theorem dX3_take_18 : decode cX3_take 18 = .ok (.aload_n 0, 1) := dk_42 (dk_at dksX3_take_0 18 rfl rfl)
theorem dX3_take_19 : decode cX3_take 19 = .ok (.invokevirtual 377, 3) := dk_182 1 121 (dk_at dksX3_take_0 19 rfl rfl)
theorem dX3_take_22 : decode cX3_take 22 = .ok (.iconst 0, 1) := dk_3 (dk_at dksX3_take_0 22 rfl rfl)
theorem dX3_take_23 : decode cX3_take 23 = .ok (.istore_n 2, 1) := dk_61 (dk_at dksX3_take_0 23 rfl rfl)
theorem dX3_take_24 : decode cX3_take 24 = .ok (.iload_n 2, 1) := dk_28 (dk_at dksX3_take_1 0 rfl rfl)
theorem dX3_take_25 : decode cX3_take 25 = .ok (.bipush 30, 2) := dk_16 30 (dk_at dksX3_take_1 1 rfl rfl)
theorem dX3_take_27 : decode cX3_take 27 = .ok (.if_icmp .ge 21, 3) := dk_162 0 21 (dk_at dksX3_take_1 3 rfl rfl)
theorem dX3_take_30 : decode cX3_take 30 = .ok (.aload_n 0, 1) := dk_42 (dk_at dksX3_take_1 6 rfl rfl)
theorem dX3_take_31 : decode cX3_take 31 = .ok (.getfield 9, 3) := dk_180 0 9 (dk_at dksX3_take_1 7 rfl rfl)
theorem dX3_take_34 : decode cX3_take 34 = .ok (.iload_n 2, 1) := dk_28 (dk_at dksX3_take_1 10 rfl rfl)
theorem dX3_take_35 : decode cX3_take 35 = .ok (.aload_n 0, 1) := dk_42 (dk_at dksX3_take_1 11 rfl rfl)
theorem dX3_take_36 : decode cX3_take 36 = .ok (.iload_n 1, 1) := dk_27 (dk_at dksX3_take_1 12 rfl rfl)
theorem dX3_take_37 : decode cX3_take 37 = .ok (.iload_n 2, 1) := dk_28 (dk_at dksX3_take_1 13 rfl rfl)
theorem dX3_take_38 : decode cX3_take 38 = .ok (.invokevirtual 352, 3) := dk_182 1 96 (dk_at dksX3_take_1 14 rfl rfl)
theorem dX3_take_41 : decode cX3_take 41 = .ok (.iastore, 1) := dk_79 (dk_at dksX3_take_1 17 rfl rfl)
theorem dX3_take_42 : decode cX3_take 42 = .ok (.iinc 2 1, 3) := dk_132 2 1 (dk_at dksX3_take_1 18 rfl rfl)
theorem dX3_take_45 : decode cX3_take 45 = .ok (.goto (-21), 3) := dk_167 255 235 (dk_at dksX3_take_1 21 rfl rfl)
theorem dX3_take_48 : decode cX3_take 48 = .ok (.aload_n 0, 1) := dk_42 (dk_at dksX3_take_2 0 rfl rfl)
theorem dX3_take_49 : decode cX3_take 49 = .ok (.invokevirtual 222, 3) := dk_182 0 222 (dk_at dksX3_take_2 1 rfl rfl)
theorem dX3_take_52 : decode cX3_take 52 = .ok (.ireturn, 1) := dk_172 (dk_at dksX3_take_2 4 rfl rfl)
abbrev cX3_undo : ByteArray := prog_15_method_96_code
def yX3_undo : MethodName := ⟨RX3, "undo", "()I"⟩
def dkwX3_undo_2 : List UInt8 := [180, 0, 198, 104, 27, 96, 46, 79, 132, 1, 1, 167, 255, 225, 42, 180, 0, 198, 172]
abbrev dktX3_undo_2 : List UInt8 := dkwX3_undo_2 ++ []
def dkwX3_undo_1 : List UInt8 := [3, 60, 27, 17, 0, 154, 162, 0, 30, 42, 180, 0, 9, 27, 42, 180, 0, 50, 17, 0, 154, 42]
abbrev dktX3_undo_1 : List UInt8 := dkwX3_undo_1 ++ dktX3_undo_2
def dkwX3_undo_0 : List UInt8 := [42, 3, 181, 0, 93, 42, 180, 0, 198, 154, 0, 5, 2, 172, 42, 89, 180, 0, 198, 4, 100, 181, 0, 198]
abbrev dktX3_undo_0 : List UInt8 := dkwX3_undo_0 ++ dktX3_undo_1
theorem dksX3_undo_0 : cX3_undo.data.toList.drop 0 = dktX3_undo_0 := by decide +kernel
theorem dksX3_undo_1 : cX3_undo.data.toList.drop 24 = dktX3_undo_1 := dk_seg dksX3_undo_0 24 rfl rfl
theorem dksX3_undo_2 : cX3_undo.data.toList.drop 46 = dktX3_undo_2 := dk_seg dksX3_undo_1 22 rfl rfl
theorem dX3_undo_0 : decode cX3_undo 0 = .ok (.aload_n 0, 1) := dk_42 (dk_at dksX3_undo_0 0 rfl rfl)
theorem dX3_undo_1 : decode cX3_undo 1 = .ok (.iconst 0, 1) := dk_3 (dk_at dksX3_undo_0 1 rfl rfl)
theorem dX3_undo_2 : decode cX3_undo 2 = .ok (.putfield 93, 3) := dk_181 0 93 (dk_at dksX3_undo_0 2 rfl rfl)
theorem dX3_undo_5 : decode cX3_undo 5 = .ok (.aload_n 0, 1) := dk_42 (dk_at dksX3_undo_0 5 rfl rfl)
theorem dX3_undo_6 : decode cX3_undo 6 = .ok (.getfield 198, 3) := dk_180 0 198 (dk_at dksX3_undo_0 6 rfl rfl)
theorem dX3_undo_9 : decode cX3_undo 9 = .ok (.ifCond .ne 5, 3) := dk_154 0 5 (dk_at dksX3_undo_0 9 rfl rfl)
theorem dX3_undo_12 : decode cX3_undo 12 = .ok (.iconst (-1), 1) := dk_2 (dk_at dksX3_undo_0 12 rfl rfl)
theorem dX3_undo_13 : decode cX3_undo 13 = .ok (.ireturn, 1) := dk_172 (dk_at dksX3_undo_0 13 rfl rfl)
theorem dX3_undo_14 : decode cX3_undo 14 = .ok (.aload_n 0, 1) := dk_42 (dk_at dksX3_undo_0 14 rfl rfl)
theorem dX3_undo_15 : decode cX3_undo 15 = .ok (.dup, 1) := dk_89 (dk_at dksX3_undo_0 15 rfl rfl)
theorem dX3_undo_16 : decode cX3_undo 16 = .ok (.getfield 198, 3) := dk_180 0 198 (dk_at dksX3_undo_0 16 rfl rfl)
theorem dX3_undo_19 : decode cX3_undo 19 = .ok (.iconst 1, 1) := dk_4 (dk_at dksX3_undo_0 19 rfl rfl)
theorem dX3_undo_20 : decode cX3_undo 20 = .ok (.isub, 1) := dk_100 (dk_at dksX3_undo_0 20 rfl rfl)
theorem dX3_undo_21 : decode cX3_undo 21 = .ok (.putfield 198, 3) := dk_181 0 198 (dk_at dksX3_undo_0 21 rfl rfl)
theorem dX3_undo_24 : decode cX3_undo 24 = .ok (.iconst 0, 1) := dk_3 (dk_at dksX3_undo_1 0 rfl rfl)
theorem dX3_undo_25 : decode cX3_undo 25 = .ok (.istore_n 1, 1) := dk_60 (dk_at dksX3_undo_1 1 rfl rfl)
theorem dX3_undo_26 : decode cX3_undo 26 = .ok (.iload_n 1, 1) := dk_27 (dk_at dksX3_undo_1 2 rfl rfl)
theorem dX3_undo_27 : decode cX3_undo 27 = .ok (.sipush 154, 3) := dk_17 0 154 (dk_at dksX3_undo_1 3 rfl rfl)
theorem dX3_undo_30 : decode cX3_undo 30 = .ok (.if_icmp .ge 30, 3) := dk_162 0 30 (dk_at dksX3_undo_1 6 rfl rfl)
theorem dX3_undo_33 : decode cX3_undo 33 = .ok (.aload_n 0, 1) := dk_42 (dk_at dksX3_undo_1 9 rfl rfl)
theorem dX3_undo_34 : decode cX3_undo 34 = .ok (.getfield 9, 3) := dk_180 0 9 (dk_at dksX3_undo_1 10 rfl rfl)
theorem dX3_undo_37 : decode cX3_undo 37 = .ok (.iload_n 1, 1) := dk_27 (dk_at dksX3_undo_1 13 rfl rfl)
theorem dX3_undo_38 : decode cX3_undo 38 = .ok (.aload_n 0, 1) := dk_42 (dk_at dksX3_undo_1 14 rfl rfl)
theorem dX3_undo_39 : decode cX3_undo 39 = .ok (.getfield 50, 3) := dk_180 0 50 (dk_at dksX3_undo_1 15 rfl rfl)
theorem dX3_undo_42 : decode cX3_undo 42 = .ok (.sipush 154, 3) := dk_17 0 154 (dk_at dksX3_undo_1 18 rfl rfl)
theorem dX3_undo_45 : decode cX3_undo 45 = .ok (.aload_n 0, 1) := dk_42 (dk_at dksX3_undo_1 21 rfl rfl)
theorem dX3_undo_46 : decode cX3_undo 46 = .ok (.getfield 198, 3) := dk_180 0 198 (dk_at dksX3_undo_2 0 rfl rfl)
theorem dX3_undo_49 : decode cX3_undo 49 = .ok (.imul, 1) := dk_104 (dk_at dksX3_undo_2 3 rfl rfl)
theorem dX3_undo_50 : decode cX3_undo 50 = .ok (.iload_n 1, 1) := dk_27 (dk_at dksX3_undo_2 4 rfl rfl)
theorem dX3_undo_51 : decode cX3_undo 51 = .ok (.iadd, 1) := dk_96 (dk_at dksX3_undo_2 5 rfl rfl)
theorem dX3_undo_52 : decode cX3_undo 52 = .ok (.iaload, 1) := dk_46 (dk_at dksX3_undo_2 6 rfl rfl)
theorem dX3_undo_53 : decode cX3_undo 53 = .ok (.iastore, 1) := dk_79 (dk_at dksX3_undo_2 7 rfl rfl)
theorem dX3_undo_54 : decode cX3_undo 54 = .ok (.iinc 1 1, 3) := dk_132 1 1 (dk_at dksX3_undo_2 8 rfl rfl)
theorem dX3_undo_57 : decode cX3_undo 57 = .ok (.goto (-31), 3) := dk_167 255 225 (dk_at dksX3_undo_2 11 rfl rfl)
theorem dX3_undo_60 : decode cX3_undo 60 = .ok (.aload_n 0, 1) := dk_42 (dk_at dksX3_undo_2 14 rfl rfl)
theorem dX3_undo_61 : decode cX3_undo 61 = .ok (.getfield 198, 3) := dk_180 0 198 (dk_at dksX3_undo_2 15 rfl rfl)
theorem dX3_undo_64 : decode cX3_undo 64 = .ok (.ireturn, 1) := dk_172 (dk_at dksX3_undo_2 18 rfl rfl)
abbrev cX3_list : ByteArray := prog_15_method_99_code
def yX3_list : MethodName := ⟨RX3, "list", "(IIII)I"⟩
def dkwX3_list_5 : List UInt8 := [167, 0, 8, 42, 5, 182, 0, 192, 172]
abbrev dktX3_list_5 : List UInt8 := dkwX3_list_5 ++ []
def dkwX3_list_4 : List UInt8 := [21, 4, 3, 28, 4, 100, 184, 1, 71, 153, 0, 18, 42, 180, 0, 56, 16, 7, 29, 104, 21, 4, 96, 46]
abbrev dktX3_list_4 : List UInt8 := dkwX3_list_4 ++ dktX3_list_5
def dkwX3_list_3 : List UInt8 := [2, 160, 0, 8, 42, 180, 1, 139, 172, 29, 3, 42, 180, 1, 139, 4, 100, 184, 1, 71, 153, 0, 30]
abbrev dktX3_list_3 : List UInt8 := dkwX3_list_3 ++ dktX3_list_4
def dkwX3_list_2 : List UInt8 := [159, 0, 23, 42, 27, 181, 1, 136, 42, 28, 181, 0, 53, 42, 3, 181, 1, 139, 42, 3, 182, 1, 145, 29]
abbrev dktX3_list_2 : List UInt8 := dkwX3_list_2 ++ dktX3_list_3
def dkwX3_list_1 : List UInt8 := [154, 0, 9, 42, 4, 182, 0, 192, 172, 27, 42, 180, 1, 136, 160, 0, 11, 28, 42, 180, 0, 53]
abbrev dktX3_list_1 : List UInt8 := dkwX3_list_1 ++ dktX3_list_2
def dkwX3_list_0 : List UInt8 := [42, 3, 181, 0, 93, 27, 6, 16, 7, 184, 1, 71, 153, 0, 13, 28, 3, 16, 7, 184, 1, 71]
abbrev dktX3_list_0 : List UInt8 := dkwX3_list_0 ++ dktX3_list_1
theorem dksX3_list_0 : cX3_list.data.toList.drop 0 = dktX3_list_0 := by decide +kernel
theorem dksX3_list_1 : cX3_list.data.toList.drop 22 = dktX3_list_1 := dk_seg dksX3_list_0 22 rfl rfl
theorem dksX3_list_2 : cX3_list.data.toList.drop 44 = dktX3_list_2 := dk_seg dksX3_list_1 22 rfl rfl
theorem dksX3_list_3 : cX3_list.data.toList.drop 68 = dktX3_list_3 := dk_seg dksX3_list_2 24 rfl rfl
theorem dksX3_list_4 : cX3_list.data.toList.drop 91 = dktX3_list_4 := dk_seg dksX3_list_3 23 rfl rfl
theorem dksX3_list_5 : cX3_list.data.toList.drop 115 = dktX3_list_5 := dk_seg dksX3_list_4 24 rfl rfl
theorem dX3_list_0 : decode cX3_list 0 = .ok (.aload_n 0, 1) := dk_42 (dk_at dksX3_list_0 0 rfl rfl)
theorem dX3_list_1 : decode cX3_list 1 = .ok (.iconst 0, 1) := dk_3 (dk_at dksX3_list_0 1 rfl rfl)
theorem dX3_list_2 : decode cX3_list 2 = .ok (.putfield 93, 3) := dk_181 0 93 (dk_at dksX3_list_0 2 rfl rfl)
theorem dX3_list_5 : decode cX3_list 5 = .ok (.iload_n 1, 1) := dk_27 (dk_at dksX3_list_0 5 rfl rfl)
theorem dX3_list_6 : decode cX3_list 6 = .ok (.iconst 3, 1) := dk_6 (dk_at dksX3_list_0 6 rfl rfl)
theorem dX3_list_7 : decode cX3_list 7 = .ok (.bipush 7, 2) := dk_16 7 (dk_at dksX3_list_0 7 rfl rfl)
theorem dX3_list_9 : decode cX3_list 9 = .ok (.invokestatic 327, 3) := dk_184 1 71 (dk_at dksX3_list_0 9 rfl rfl)
theorem dX3_list_12 : decode cX3_list 12 = .ok (.ifCond .eq 13, 3) := dk_153 0 13 (dk_at dksX3_list_0 12 rfl rfl)
theorem dX3_list_15 : decode cX3_list 15 = .ok (.iload_n 2, 1) := dk_28 (dk_at dksX3_list_0 15 rfl rfl)
theorem dX3_list_16 : decode cX3_list 16 = .ok (.iconst 0, 1) := dk_3 (dk_at dksX3_list_0 16 rfl rfl)
theorem dX3_list_17 : decode cX3_list 17 = .ok (.bipush 7, 2) := dk_16 7 (dk_at dksX3_list_0 17 rfl rfl)
theorem dX3_list_19 : decode cX3_list 19 = .ok (.invokestatic 327, 3) := dk_184 1 71 (dk_at dksX3_list_0 19 rfl rfl)
theorem dX3_list_22 : decode cX3_list 22 = .ok (.ifCond .ne 9, 3) := dk_154 0 9 (dk_at dksX3_list_1 0 rfl rfl)
theorem dX3_list_25 : decode cX3_list 25 = .ok (.aload_n 0, 1) := dk_42 (dk_at dksX3_list_1 3 rfl rfl)
theorem dX3_list_26 : decode cX3_list 26 = .ok (.iconst 1, 1) := dk_4 (dk_at dksX3_list_1 4 rfl rfl)
theorem dX3_list_27 : decode cX3_list 27 = .ok (.invokevirtual 192, 3) := dk_182 0 192 (dk_at dksX3_list_1 5 rfl rfl)
theorem dX3_list_30 : decode cX3_list 30 = .ok (.ireturn, 1) := dk_172 (dk_at dksX3_list_1 8 rfl rfl)
theorem dX3_list_31 : decode cX3_list 31 = .ok (.iload_n 1, 1) := dk_27 (dk_at dksX3_list_1 9 rfl rfl)
theorem dX3_list_32 : decode cX3_list 32 = .ok (.aload_n 0, 1) := dk_42 (dk_at dksX3_list_1 10 rfl rfl)
theorem dX3_list_33 : decode cX3_list 33 = .ok (.getfield 392, 3) := dk_180 1 136 (dk_at dksX3_list_1 11 rfl rfl)
theorem dX3_list_36 : decode cX3_list 36 = .ok (.if_icmp .ne 11, 3) := dk_160 0 11 (dk_at dksX3_list_1 14 rfl rfl)
theorem dX3_list_39 : decode cX3_list 39 = .ok (.iload_n 2, 1) := dk_28 (dk_at dksX3_list_1 17 rfl rfl)
theorem dX3_list_40 : decode cX3_list 40 = .ok (.aload_n 0, 1) := dk_42 (dk_at dksX3_list_1 18 rfl rfl)
theorem dX3_list_41 : decode cX3_list 41 = .ok (.getfield 53, 3) := dk_180 0 53 (dk_at dksX3_list_1 19 rfl rfl)
theorem dX3_list_44 : decode cX3_list 44 = .ok (.if_icmp .eq 23, 3) := dk_159 0 23 (dk_at dksX3_list_2 0 rfl rfl)
theorem dX3_list_47 : decode cX3_list 47 = .ok (.aload_n 0, 1) := dk_42 (dk_at dksX3_list_2 3 rfl rfl)
theorem dX3_list_48 : decode cX3_list 48 = .ok (.iload_n 1, 1) := dk_27 (dk_at dksX3_list_2 4 rfl rfl)
theorem dX3_list_49 : decode cX3_list 49 = .ok (.putfield 392, 3) := dk_181 1 136 (dk_at dksX3_list_2 5 rfl rfl)
theorem dX3_list_52 : decode cX3_list 52 = .ok (.aload_n 0, 1) := dk_42 (dk_at dksX3_list_2 8 rfl rfl)
theorem dX3_list_53 : decode cX3_list 53 = .ok (.iload_n 2, 1) := dk_28 (dk_at dksX3_list_2 9 rfl rfl)
theorem dX3_list_54 : decode cX3_list 54 = .ok (.putfield 53, 3) := dk_181 0 53 (dk_at dksX3_list_2 10 rfl rfl)
theorem dX3_list_57 : decode cX3_list 57 = .ok (.aload_n 0, 1) := dk_42 (dk_at dksX3_list_2 13 rfl rfl)
theorem dX3_list_58 : decode cX3_list 58 = .ok (.iconst 0, 1) := dk_3 (dk_at dksX3_list_2 14 rfl rfl)
theorem dX3_list_59 : decode cX3_list 59 = .ok (.putfield 395, 3) := dk_181 1 139 (dk_at dksX3_list_2 15 rfl rfl)
theorem dX3_list_62 : decode cX3_list 62 = .ok (.aload_n 0, 1) := dk_42 (dk_at dksX3_list_2 18 rfl rfl)
theorem dX3_list_63 : decode cX3_list 63 = .ok (.iconst 0, 1) := dk_3 (dk_at dksX3_list_2 19 rfl rfl)
theorem dX3_list_64 : decode cX3_list 64 = .ok (.invokevirtual 401, 3) := dk_182 1 145 (dk_at dksX3_list_2 20 rfl rfl)
theorem dX3_list_67 : decode cX3_list 67 = .ok (.iload_n 3, 1) := dk_29 (dk_at dksX3_list_2 23 rfl rfl)
theorem dX3_list_68 : decode cX3_list 68 = .ok (.iconst (-1), 1) := dk_2 (dk_at dksX3_list_3 0 rfl rfl)
theorem dX3_list_69 : decode cX3_list 69 = .ok (.if_icmp .ne 8, 3) := dk_160 0 8 (dk_at dksX3_list_3 1 rfl rfl)
theorem dX3_list_72 : decode cX3_list 72 = .ok (.aload_n 0, 1) := dk_42 (dk_at dksX3_list_3 4 rfl rfl)
theorem dX3_list_73 : decode cX3_list 73 = .ok (.getfield 395, 3) := dk_180 1 139 (dk_at dksX3_list_3 5 rfl rfl)
theorem dX3_list_76 : decode cX3_list 76 = .ok (.ireturn, 1) := dk_172 (dk_at dksX3_list_3 8 rfl rfl)
theorem dX3_list_77 : decode cX3_list 77 = .ok (.iload_n 3, 1) := dk_29 (dk_at dksX3_list_3 9 rfl rfl)
theorem dX3_list_78 : decode cX3_list 78 = .ok (.iconst 0, 1) := dk_3 (dk_at dksX3_list_3 10 rfl rfl)
theorem dX3_list_79 : decode cX3_list 79 = .ok (.aload_n 0, 1) := dk_42 (dk_at dksX3_list_3 11 rfl rfl)
theorem dX3_list_80 : decode cX3_list 80 = .ok (.getfield 395, 3) := dk_180 1 139 (dk_at dksX3_list_3 12 rfl rfl)
theorem dX3_list_83 : decode cX3_list 83 = .ok (.iconst 1, 1) := dk_4 (dk_at dksX3_list_3 15 rfl rfl)
theorem dX3_list_84 : decode cX3_list 84 = .ok (.isub, 1) := dk_100 (dk_at dksX3_list_3 16 rfl rfl)
theorem dX3_list_85 : decode cX3_list 85 = .ok (.invokestatic 327, 3) := dk_184 1 71 (dk_at dksX3_list_3 17 rfl rfl)
theorem dX3_list_88 : decode cX3_list 88 = .ok (.ifCond .eq 30, 3) := dk_153 0 30 (dk_at dksX3_list_3 20 rfl rfl)
theorem dX3_list_91 : decode cX3_list 91 = .ok (.iload 4, 2) := dk_21 4 (dk_at dksX3_list_4 0 rfl rfl)
theorem dX3_list_93 : decode cX3_list 93 = .ok (.iconst 0, 1) := dk_3 (dk_at dksX3_list_4 2 rfl rfl)
theorem dX3_list_94 : decode cX3_list 94 = .ok (.iload_n 2, 1) := dk_28 (dk_at dksX3_list_4 3 rfl rfl)
theorem dX3_list_95 : decode cX3_list 95 = .ok (.iconst 1, 1) := dk_4 (dk_at dksX3_list_4 4 rfl rfl)
theorem dX3_list_96 : decode cX3_list 96 = .ok (.isub, 1) := dk_100 (dk_at dksX3_list_4 5 rfl rfl)
theorem dX3_list_97 : decode cX3_list 97 = .ok (.invokestatic 327, 3) := dk_184 1 71 (dk_at dksX3_list_4 6 rfl rfl)
theorem dX3_list_100 : decode cX3_list 100 = .ok (.ifCond .eq 18, 3) := dk_153 0 18 (dk_at dksX3_list_4 9 rfl rfl)
theorem dX3_list_103 : decode cX3_list 103 = .ok (.aload_n 0, 1) := dk_42 (dk_at dksX3_list_4 12 rfl rfl)
theorem dX3_list_104 : decode cX3_list 104 = .ok (.getfield 56, 3) := dk_180 0 56 (dk_at dksX3_list_4 13 rfl rfl)
theorem dX3_list_107 : decode cX3_list 107 = .ok (.bipush 7, 2) := dk_16 7 (dk_at dksX3_list_4 16 rfl rfl)
theorem dX3_list_109 : decode cX3_list 109 = .ok (.iload_n 3, 1) := dk_29 (dk_at dksX3_list_4 18 rfl rfl)
theorem dX3_list_110 : decode cX3_list 110 = .ok (.imul, 1) := dk_104 (dk_at dksX3_list_4 19 rfl rfl)
theorem dX3_list_111 : decode cX3_list 111 = .ok (.iload 4, 2) := dk_21 4 (dk_at dksX3_list_4 20 rfl rfl)
theorem dX3_list_113 : decode cX3_list 113 = .ok (.iadd, 1) := dk_96 (dk_at dksX3_list_4 22 rfl rfl)
theorem dX3_list_114 : decode cX3_list 114 = .ok (.iaload, 1) := dk_46 (dk_at dksX3_list_4 23 rfl rfl)
theorem dX3_list_115 : decode cX3_list 115 = .ok (.goto 8, 3) := dk_167 0 8 (dk_at dksX3_list_5 0 rfl rfl)
theorem dX3_list_118 : decode cX3_list 118 = .ok (.aload_n 0, 1) := dk_42 (dk_at dksX3_list_5 3 rfl rfl)
theorem dX3_list_119 : decode cX3_list 119 = .ok (.iconst 2, 1) := dk_5 (dk_at dksX3_list_5 4 rfl rfl)
theorem dX3_list_120 : decode cX3_list 120 = .ok (.invokevirtual 192, 3) := dk_182 0 192 (dk_at dksX3_list_5 5 rfl rfl)
theorem dX3_list_123 : decode cX3_list 123 = .ok (.ireturn, 1) := dk_172 (dk_at dksX3_list_5 8 rfl rfl)
abbrev cX3_listFrom : ByteArray := prog_15_method_98_code
def yX3_listFrom : MethodName := ⟨RX3, "listFrom", "(I)V"⟩
def dkwX3_listFrom_7 : List UInt8 := [182, 1, 145, 132, 2, 1, 167, 255, 157, 177]
abbrev dktX3_listFrom_7 : List UInt8 := dkwX3_listFrom_7 ++ []
def dkwX3_listFrom_6 : List UInt8 := [167, 0, 27, 42, 180, 0, 59, 27, 28, 79, 42, 27, 4, 96, 182, 1, 142, 153, 0, 10, 42, 27, 4, 96]
abbrev dktX3_listFrom_6 : List UInt8 := dkwX3_listFrom_6 ++ dktX3_listFrom_7
def dkwX3_listFrom_5 : List UInt8 := [184, 0, 210, 5, 162, 0, 7, 4, 167, 0, 4, 3, 62, 132, 4, 1, 167, 255, 221, 29, 154, 0, 6]
abbrev dktX3_listFrom_5 : List UInt8 := dkwX3_listFrom_5 ++ dktX3_listFrom_6
def dkwX3_listFrom_4 : List UInt8 := [3, 62, 3, 54, 4, 21, 4, 27, 162, 0, 35, 29, 153, 0, 31, 42, 180, 0, 59, 21, 4, 46, 28, 126]
abbrev dktX3_listFrom_4 : List UInt8 := dkwX3_listFrom_4 ++ dktX3_listFrom_5
def dkwX3_listFrom_3 : List UInt8 := [96, 61, 28, 4, 42, 180, 1, 136, 120, 162, 0, 95, 28, 184, 0, 210, 6, 160, 0, 7, 4, 167, 0, 4]
abbrev dktX3_listFrom_3 : List UInt8 := dkwX3_listFrom_3 ++ dktX3_listFrom_4
def dkwX3_listFrom_2 : List UInt8 := [4, 96, 181, 1, 139, 177, 27, 154, 0, 8, 16, 7, 167, 0, 13, 42, 180, 0, 59, 27, 4, 100, 46, 4]
abbrev dktX3_listFrom_2 : List UInt8 := dkwX3_listFrom_2 ++ dktX3_listFrom_3
def dkwX3_listFrom_1 : List UInt8 := [180, 1, 139, 104, 28, 96, 42, 180, 0, 59, 28, 46, 79, 132, 2, 1, 167, 255, 228, 42, 89, 180, 1, 139]
abbrev dktX3_listFrom_1 : List UInt8 := dkwX3_listFrom_1 ++ dktX3_listFrom_2
def dkwX3_listFrom_0 : List UInt8 := [27, 42, 180, 0, 53, 160, 0, 47, 3, 61, 28, 27, 162, 0, 29, 42, 180, 0, 56, 16, 7, 42]
abbrev dktX3_listFrom_0 : List UInt8 := dkwX3_listFrom_0 ++ dktX3_listFrom_1
theorem dksX3_listFrom_0 : cX3_listFrom.data.toList.drop 0 = dktX3_listFrom_0 := by decide +kernel
theorem dksX3_listFrom_1 : cX3_listFrom.data.toList.drop 22 = dktX3_listFrom_1 := dk_seg dksX3_listFrom_0 22 rfl rfl
theorem dksX3_listFrom_2 : cX3_listFrom.data.toList.drop 46 = dktX3_listFrom_2 := dk_seg dksX3_listFrom_1 24 rfl rfl
theorem dksX3_listFrom_3 : cX3_listFrom.data.toList.drop 70 = dktX3_listFrom_3 := dk_seg dksX3_listFrom_2 24 rfl rfl
theorem dksX3_listFrom_4 : cX3_listFrom.data.toList.drop 94 = dktX3_listFrom_4 := dk_seg dksX3_listFrom_3 24 rfl rfl
theorem dksX3_listFrom_5 : cX3_listFrom.data.toList.drop 118 = dktX3_listFrom_5 := dk_seg dksX3_listFrom_4 24 rfl rfl
theorem dksX3_listFrom_6 : cX3_listFrom.data.toList.drop 141 = dktX3_listFrom_6 := dk_seg dksX3_listFrom_5 23 rfl rfl
theorem dksX3_listFrom_7 : cX3_listFrom.data.toList.drop 165 = dktX3_listFrom_7 := dk_seg dksX3_listFrom_6 24 rfl rfl
theorem dX3_listFrom_0 : decode cX3_listFrom 0 = .ok (.iload_n 1, 1) := dk_27 (dk_at dksX3_listFrom_0 0 rfl rfl)
theorem dX3_listFrom_1 : decode cX3_listFrom 1 = .ok (.aload_n 0, 1) := dk_42 (dk_at dksX3_listFrom_0 1 rfl rfl)
theorem dX3_listFrom_2 : decode cX3_listFrom 2 = .ok (.getfield 53, 3) := dk_180 0 53 (dk_at dksX3_listFrom_0 2 rfl rfl)
theorem dX3_listFrom_5 : decode cX3_listFrom 5 = .ok (.if_icmp .ne 47, 3) := dk_160 0 47 (dk_at dksX3_listFrom_0 5 rfl rfl)
theorem dX3_listFrom_8 : decode cX3_listFrom 8 = .ok (.iconst 0, 1) := dk_3 (dk_at dksX3_listFrom_0 8 rfl rfl)
theorem dX3_listFrom_9 : decode cX3_listFrom 9 = .ok (.istore_n 2, 1) := dk_61 (dk_at dksX3_listFrom_0 9 rfl rfl)
theorem dX3_listFrom_10 : decode cX3_listFrom 10 = .ok (.iload_n 2, 1) := dk_28 (dk_at dksX3_listFrom_0 10 rfl rfl)
theorem dX3_listFrom_11 : decode cX3_listFrom 11 = .ok (.iload_n 1, 1) := dk_27 (dk_at dksX3_listFrom_0 11 rfl rfl)
theorem dX3_listFrom_12 : decode cX3_listFrom 12 = .ok (.if_icmp .ge 29, 3) := dk_162 0 29 (dk_at dksX3_listFrom_0 12 rfl rfl)
theorem dX3_listFrom_15 : decode cX3_listFrom 15 = .ok (.aload_n 0, 1) := dk_42 (dk_at dksX3_listFrom_0 15 rfl rfl)
theorem dX3_listFrom_16 : decode cX3_listFrom 16 = .ok (.getfield 56, 3) := dk_180 0 56 (dk_at dksX3_listFrom_0 16 rfl rfl)
theorem dX3_listFrom_19 : decode cX3_listFrom 19 = .ok (.bipush 7, 2) := dk_16 7 (dk_at dksX3_listFrom_0 19 rfl rfl)
theorem dX3_listFrom_21 : decode cX3_listFrom 21 = .ok (.aload_n 0, 1) := dk_42 (dk_at dksX3_listFrom_0 21 rfl rfl)
theorem dX3_listFrom_22 : decode cX3_listFrom 22 = .ok (.getfield 395, 3) := dk_180 1 139 (dk_at dksX3_listFrom_1 0 rfl rfl)
theorem dX3_listFrom_25 : decode cX3_listFrom 25 = .ok (.imul, 1) := dk_104 (dk_at dksX3_listFrom_1 3 rfl rfl)
theorem dX3_listFrom_26 : decode cX3_listFrom 26 = .ok (.iload_n 2, 1) := dk_28 (dk_at dksX3_listFrom_1 4 rfl rfl)
theorem dX3_listFrom_27 : decode cX3_listFrom 27 = .ok (.iadd, 1) := dk_96 (dk_at dksX3_listFrom_1 5 rfl rfl)
theorem dX3_listFrom_28 : decode cX3_listFrom 28 = .ok (.aload_n 0, 1) := dk_42 (dk_at dksX3_listFrom_1 6 rfl rfl)
theorem dX3_listFrom_29 : decode cX3_listFrom 29 = .ok (.getfield 59, 3) := dk_180 0 59 (dk_at dksX3_listFrom_1 7 rfl rfl)
theorem dX3_listFrom_32 : decode cX3_listFrom 32 = .ok (.iload_n 2, 1) := dk_28 (dk_at dksX3_listFrom_1 10 rfl rfl)
theorem dX3_listFrom_33 : decode cX3_listFrom 33 = .ok (.iaload, 1) := dk_46 (dk_at dksX3_listFrom_1 11 rfl rfl)
theorem dX3_listFrom_34 : decode cX3_listFrom 34 = .ok (.iastore, 1) := dk_79 (dk_at dksX3_listFrom_1 12 rfl rfl)
theorem dX3_listFrom_35 : decode cX3_listFrom 35 = .ok (.iinc 2 1, 3) := dk_132 2 1 (dk_at dksX3_listFrom_1 13 rfl rfl)
theorem dX3_listFrom_38 : decode cX3_listFrom 38 = .ok (.goto (-28), 3) := dk_167 255 228 (dk_at dksX3_listFrom_1 16 rfl rfl)
theorem dX3_listFrom_41 : decode cX3_listFrom 41 = .ok (.aload_n 0, 1) := dk_42 (dk_at dksX3_listFrom_1 19 rfl rfl)
theorem dX3_listFrom_42 : decode cX3_listFrom 42 = .ok (.dup, 1) := dk_89 (dk_at dksX3_listFrom_1 20 rfl rfl)
theorem dX3_listFrom_43 : decode cX3_listFrom 43 = .ok (.getfield 395, 3) := dk_180 1 139 (dk_at dksX3_listFrom_1 21 rfl rfl)
theorem dX3_listFrom_46 : decode cX3_listFrom 46 = .ok (.iconst 1, 1) := dk_4 (dk_at dksX3_listFrom_2 0 rfl rfl)
theorem dX3_listFrom_47 : decode cX3_listFrom 47 = .ok (.iadd, 1) := dk_96 (dk_at dksX3_listFrom_2 1 rfl rfl)
theorem dX3_listFrom_48 : decode cX3_listFrom 48 = .ok (.putfield 395, 3) := dk_181 1 139 (dk_at dksX3_listFrom_2 2 rfl rfl)
theorem dX3_listFrom_51 : decode cX3_listFrom 51 = .ok (.return_, 1) := dk_177 (dk_at dksX3_listFrom_2 5 rfl rfl)
theorem dX3_listFrom_52 : decode cX3_listFrom 52 = .ok (.iload_n 1, 1) := dk_27 (dk_at dksX3_listFrom_2 6 rfl rfl)
theorem dX3_listFrom_53 : decode cX3_listFrom 53 = .ok (.ifCond .ne 8, 3) := dk_154 0 8 (dk_at dksX3_listFrom_2 7 rfl rfl)
theorem dX3_listFrom_56 : decode cX3_listFrom 56 = .ok (.bipush 7, 2) := dk_16 7 (dk_at dksX3_listFrom_2 10 rfl rfl)
theorem dX3_listFrom_58 : decode cX3_listFrom 58 = .ok (.goto 13, 3) := dk_167 0 13 (dk_at dksX3_listFrom_2 12 rfl rfl)
theorem dX3_listFrom_61 : decode cX3_listFrom 61 = .ok (.aload_n 0, 1) := dk_42 (dk_at dksX3_listFrom_2 15 rfl rfl)
theorem dX3_listFrom_62 : decode cX3_listFrom 62 = .ok (.getfield 59, 3) := dk_180 0 59 (dk_at dksX3_listFrom_2 16 rfl rfl)
theorem dX3_listFrom_65 : decode cX3_listFrom 65 = .ok (.iload_n 1, 1) := dk_27 (dk_at dksX3_listFrom_2 19 rfl rfl)
theorem dX3_listFrom_66 : decode cX3_listFrom 66 = .ok (.iconst 1, 1) := dk_4 (dk_at dksX3_listFrom_2 20 rfl rfl)
theorem dX3_listFrom_67 : decode cX3_listFrom 67 = .ok (.isub, 1) := dk_100 (dk_at dksX3_listFrom_2 21 rfl rfl)
theorem dX3_listFrom_68 : decode cX3_listFrom 68 = .ok (.iaload, 1) := dk_46 (dk_at dksX3_listFrom_2 22 rfl rfl)
theorem dX3_listFrom_69 : decode cX3_listFrom 69 = .ok (.iconst 1, 1) := dk_4 (dk_at dksX3_listFrom_2 23 rfl rfl)
theorem dX3_listFrom_70 : decode cX3_listFrom 70 = .ok (.iadd, 1) := dk_96 (dk_at dksX3_listFrom_3 0 rfl rfl)
theorem dX3_listFrom_71 : decode cX3_listFrom 71 = .ok (.istore_n 2, 1) := dk_61 (dk_at dksX3_listFrom_3 1 rfl rfl)
theorem dX3_listFrom_72 : decode cX3_listFrom 72 = .ok (.iload_n 2, 1) := dk_28 (dk_at dksX3_listFrom_3 2 rfl rfl)
theorem dX3_listFrom_73 : decode cX3_listFrom 73 = .ok (.iconst 1, 1) := dk_4 (dk_at dksX3_listFrom_3 3 rfl rfl)
theorem dX3_listFrom_74 : decode cX3_listFrom 74 = .ok (.aload_n 0, 1) := dk_42 (dk_at dksX3_listFrom_3 4 rfl rfl)
theorem dX3_listFrom_75 : decode cX3_listFrom 75 = .ok (.getfield 392, 3) := dk_180 1 136 (dk_at dksX3_listFrom_3 5 rfl rfl)
theorem dX3_listFrom_78 : decode cX3_listFrom 78 = .ok (.ishl, 1) := dk_120 (dk_at dksX3_listFrom_3 8 rfl rfl)
theorem dX3_listFrom_79 : decode cX3_listFrom 79 = .ok (.if_icmp .ge 95, 3) := dk_162 0 95 (dk_at dksX3_listFrom_3 9 rfl rfl)
theorem dX3_listFrom_82 : decode cX3_listFrom 82 = .ok (.iload_n 2, 1) := dk_28 (dk_at dksX3_listFrom_3 12 rfl rfl)
theorem dX3_listFrom_83 : decode cX3_listFrom 83 = .ok (.invokestatic 210, 3) := dk_184 0 210 (dk_at dksX3_listFrom_3 13 rfl rfl)
theorem dX3_listFrom_86 : decode cX3_listFrom 86 = .ok (.iconst 3, 1) := dk_6 (dk_at dksX3_listFrom_3 16 rfl rfl)
theorem dX3_listFrom_87 : decode cX3_listFrom 87 = .ok (.if_icmp .ne 7, 3) := dk_160 0 7 (dk_at dksX3_listFrom_3 17 rfl rfl)
theorem dX3_listFrom_90 : decode cX3_listFrom 90 = .ok (.iconst 1, 1) := dk_4 (dk_at dksX3_listFrom_3 20 rfl rfl)
theorem dX3_listFrom_91 : decode cX3_listFrom 91 = .ok (.goto 4, 3) := dk_167 0 4 (dk_at dksX3_listFrom_3 21 rfl rfl)
theorem dX3_listFrom_94 : decode cX3_listFrom 94 = .ok (.iconst 0, 1) := dk_3 (dk_at dksX3_listFrom_4 0 rfl rfl)
theorem dX3_listFrom_95 : decode cX3_listFrom 95 = .ok (.istore_n 3, 1) := dk_62 (dk_at dksX3_listFrom_4 1 rfl rfl)
theorem dX3_listFrom_96 : decode cX3_listFrom 96 = .ok (.iconst 0, 1) := dk_3 (dk_at dksX3_listFrom_4 2 rfl rfl)
theorem dX3_listFrom_97 : decode cX3_listFrom 97 = .ok (.istore 4, 2) := dk_54 4 (dk_at dksX3_listFrom_4 3 rfl rfl)
theorem dX3_listFrom_99 : decode cX3_listFrom 99 = .ok (.iload 4, 2) := dk_21 4 (dk_at dksX3_listFrom_4 5 rfl rfl)
theorem dX3_listFrom_101 : decode cX3_listFrom 101 = .ok (.iload_n 1, 1) := dk_27 (dk_at dksX3_listFrom_4 7 rfl rfl)
theorem dX3_listFrom_102 : decode cX3_listFrom 102 = .ok (.if_icmp .ge 35, 3) := dk_162 0 35 (dk_at dksX3_listFrom_4 8 rfl rfl)
theorem dX3_listFrom_105 : decode cX3_listFrom 105 = .ok (.iload_n 3, 1) := dk_29 (dk_at dksX3_listFrom_4 11 rfl rfl)
theorem dX3_listFrom_106 : decode cX3_listFrom 106 = .ok (.ifCond .eq 31, 3) := dk_153 0 31 (dk_at dksX3_listFrom_4 12 rfl rfl)
theorem dX3_listFrom_109 : decode cX3_listFrom 109 = .ok (.aload_n 0, 1) := dk_42 (dk_at dksX3_listFrom_4 15 rfl rfl)
theorem dX3_listFrom_110 : decode cX3_listFrom 110 = .ok (.getfield 59, 3) := dk_180 0 59 (dk_at dksX3_listFrom_4 16 rfl rfl)
theorem dX3_listFrom_113 : decode cX3_listFrom 113 = .ok (.iload 4, 2) := dk_21 4 (dk_at dksX3_listFrom_4 19 rfl rfl)
theorem dX3_listFrom_115 : decode cX3_listFrom 115 = .ok (.iaload, 1) := dk_46 (dk_at dksX3_listFrom_4 21 rfl rfl)
theorem dX3_listFrom_116 : decode cX3_listFrom 116 = .ok (.iload_n 2, 1) := dk_28 (dk_at dksX3_listFrom_4 22 rfl rfl)
theorem dX3_listFrom_117 : decode cX3_listFrom 117 = .ok (.iand, 1) := dk_126 (dk_at dksX3_listFrom_4 23 rfl rfl)
theorem dX3_listFrom_118 : decode cX3_listFrom 118 = .ok (.invokestatic 210, 3) := dk_184 0 210 (dk_at dksX3_listFrom_5 0 rfl rfl)
theorem dX3_listFrom_121 : decode cX3_listFrom 121 = .ok (.iconst 2, 1) := dk_5 (dk_at dksX3_listFrom_5 3 rfl rfl)
theorem dX3_listFrom_122 : decode cX3_listFrom 122 = .ok (.if_icmp .ge 7, 3) := dk_162 0 7 (dk_at dksX3_listFrom_5 4 rfl rfl)
theorem dX3_listFrom_125 : decode cX3_listFrom 125 = .ok (.iconst 1, 1) := dk_4 (dk_at dksX3_listFrom_5 7 rfl rfl)
theorem dX3_listFrom_126 : decode cX3_listFrom 126 = .ok (.goto 4, 3) := dk_167 0 4 (dk_at dksX3_listFrom_5 8 rfl rfl)
theorem dX3_listFrom_129 : decode cX3_listFrom 129 = .ok (.iconst 0, 1) := dk_3 (dk_at dksX3_listFrom_5 11 rfl rfl)
theorem dX3_listFrom_130 : decode cX3_listFrom 130 = .ok (.istore_n 3, 1) := dk_62 (dk_at dksX3_listFrom_5 12 rfl rfl)
theorem dX3_listFrom_131 : decode cX3_listFrom 131 = .ok (.iinc 4 1, 3) := dk_132 4 1 (dk_at dksX3_listFrom_5 13 rfl rfl)
theorem dX3_listFrom_134 : decode cX3_listFrom 134 = .ok (.goto (-35), 3) := dk_167 255 221 (dk_at dksX3_listFrom_5 16 rfl rfl)
theorem dX3_listFrom_137 : decode cX3_listFrom 137 = .ok (.iload_n 3, 1) := dk_29 (dk_at dksX3_listFrom_5 19 rfl rfl)
theorem dX3_listFrom_138 : decode cX3_listFrom 138 = .ok (.ifCond .ne 6, 3) := dk_154 0 6 (dk_at dksX3_listFrom_5 20 rfl rfl)
theorem dX3_listFrom_141 : decode cX3_listFrom 141 = .ok (.goto 27, 3) := dk_167 0 27 (dk_at dksX3_listFrom_6 0 rfl rfl)
theorem dX3_listFrom_144 : decode cX3_listFrom 144 = .ok (.aload_n 0, 1) := dk_42 (dk_at dksX3_listFrom_6 3 rfl rfl)
theorem dX3_listFrom_145 : decode cX3_listFrom 145 = .ok (.getfield 59, 3) := dk_180 0 59 (dk_at dksX3_listFrom_6 4 rfl rfl)
theorem dX3_listFrom_148 : decode cX3_listFrom 148 = .ok (.iload_n 1, 1) := dk_27 (dk_at dksX3_listFrom_6 7 rfl rfl)
theorem dX3_listFrom_149 : decode cX3_listFrom 149 = .ok (.iload_n 2, 1) := dk_28 (dk_at dksX3_listFrom_6 8 rfl rfl)
theorem dX3_listFrom_150 : decode cX3_listFrom 150 = .ok (.iastore, 1) := dk_79 (dk_at dksX3_listFrom_6 9 rfl rfl)
theorem dX3_listFrom_151 : decode cX3_listFrom 151 = .ok (.aload_n 0, 1) := dk_42 (dk_at dksX3_listFrom_6 10 rfl rfl)
theorem dX3_listFrom_152 : decode cX3_listFrom 152 = .ok (.iload_n 1, 1) := dk_27 (dk_at dksX3_listFrom_6 11 rfl rfl)
theorem dX3_listFrom_153 : decode cX3_listFrom 153 = .ok (.iconst 1, 1) := dk_4 (dk_at dksX3_listFrom_6 12 rfl rfl)
theorem dX3_listFrom_154 : decode cX3_listFrom 154 = .ok (.iadd, 1) := dk_96 (dk_at dksX3_listFrom_6 13 rfl rfl)
theorem dX3_listFrom_155 : decode cX3_listFrom 155 = .ok (.invokevirtual 398, 3) := dk_182 1 142 (dk_at dksX3_listFrom_6 14 rfl rfl)
theorem dX3_listFrom_158 : decode cX3_listFrom 158 = .ok (.ifCond .eq 10, 3) := dk_153 0 10 (dk_at dksX3_listFrom_6 17 rfl rfl)
theorem dX3_listFrom_161 : decode cX3_listFrom 161 = .ok (.aload_n 0, 1) := dk_42 (dk_at dksX3_listFrom_6 20 rfl rfl)
theorem dX3_listFrom_162 : decode cX3_listFrom 162 = .ok (.iload_n 1, 1) := dk_27 (dk_at dksX3_listFrom_6 21 rfl rfl)
theorem dX3_listFrom_163 : decode cX3_listFrom 163 = .ok (.iconst 1, 1) := dk_4 (dk_at dksX3_listFrom_6 22 rfl rfl)
theorem dX3_listFrom_164 : decode cX3_listFrom 164 = .ok (.iadd, 1) := dk_96 (dk_at dksX3_listFrom_6 23 rfl rfl)
theorem dX3_listFrom_165 : decode cX3_listFrom 165 = .ok (.invokevirtual 401, 3) := dk_182 1 145 (dk_at dksX3_listFrom_7 0 rfl rfl)
theorem dX3_listFrom_168 : decode cX3_listFrom 168 = .ok (.iinc 2 1, 3) := dk_132 2 1 (dk_at dksX3_listFrom_7 3 rfl rfl)
theorem dX3_listFrom_171 : decode cX3_listFrom 171 = .ok (.goto (-99), 3) := dk_167 255 157 (dk_at dksX3_listFrom_7 6 rfl rfl)
theorem dX3_listFrom_174 : decode cX3_listFrom 174 = .ok (.return_, 1) := dk_177 (dk_at dksX3_listFrom_7 9 rfl rfl)
abbrev cX3_isLeast : ByteArray := prog_15_method_97_code
def yX3_isLeast : MethodName := ⟨RX3, "isLeast", "(I)Z"⟩
def dkwX3_isLeast_3 : List UInt8 := [4, 172]
abbrev dktX3_isLeast_3 : List UInt8 := dkwX3_isLeast_3 ++ []
def dkwX3_isLeast_2 : List UInt8 := [180, 0, 59, 27, 184, 1, 83, 156, 0, 5, 3, 172, 42, 42, 180, 1, 136, 182, 1, 4, 61, 167, 255, 198]
abbrev dktX3_isLeast_2 : List UInt8 := dkwX3_isLeast_2 ++ dktX3_isLeast_3
def dkwX3_isLeast_1 : List UInt8 := [42, 180, 0, 59, 29, 46, 182, 0, 247, 182, 1, 80, 132, 3, 1, 167, 255, 233, 42, 180, 0, 41, 42]
abbrev dktX3_isLeast_1 : List UInt8 := dkwX3_isLeast_1 ++ dktX3_isLeast_2
def dkwX3_isLeast_0 : List UInt8 := [4, 61, 42, 42, 180, 1, 136, 182, 0, 253, 28, 153, 0, 60, 3, 62, 29, 27, 162, 0, 24, 42, 29, 42]
abbrev dktX3_isLeast_0 : List UInt8 := dkwX3_isLeast_0 ++ dktX3_isLeast_1
theorem dksX3_isLeast_0 : cX3_isLeast.data.toList.drop 0 = dktX3_isLeast_0 := by decide +kernel
theorem dksX3_isLeast_1 : cX3_isLeast.data.toList.drop 24 = dktX3_isLeast_1 := dk_seg dksX3_isLeast_0 24 rfl rfl
theorem dksX3_isLeast_2 : cX3_isLeast.data.toList.drop 47 = dktX3_isLeast_2 := dk_seg dksX3_isLeast_1 23 rfl rfl
theorem dksX3_isLeast_3 : cX3_isLeast.data.toList.drop 71 = dktX3_isLeast_3 := dk_seg dksX3_isLeast_2 24 rfl rfl
theorem dX3_isLeast_0 : decode cX3_isLeast 0 = .ok (.iconst 1, 1) := dk_4 (dk_at dksX3_isLeast_0 0 rfl rfl)
theorem dX3_isLeast_1 : decode cX3_isLeast 1 = .ok (.istore_n 2, 1) := dk_61 (dk_at dksX3_isLeast_0 1 rfl rfl)
theorem dX3_isLeast_2 : decode cX3_isLeast 2 = .ok (.aload_n 0, 1) := dk_42 (dk_at dksX3_isLeast_0 2 rfl rfl)
theorem dX3_isLeast_3 : decode cX3_isLeast 3 = .ok (.aload_n 0, 1) := dk_42 (dk_at dksX3_isLeast_0 3 rfl rfl)
theorem dX3_isLeast_4 : decode cX3_isLeast 4 = .ok (.getfield 392, 3) := dk_180 1 136 (dk_at dksX3_isLeast_0 4 rfl rfl)
theorem dX3_isLeast_7 : decode cX3_isLeast 7 = .ok (.invokevirtual 253, 3) := dk_182 0 253 (dk_at dksX3_isLeast_0 7 rfl rfl)
theorem dX3_isLeast_10 : decode cX3_isLeast 10 = .ok (.iload_n 2, 1) := dk_28 (dk_at dksX3_isLeast_0 10 rfl rfl)
theorem dX3_isLeast_11 : decode cX3_isLeast 11 = .ok (.ifCond .eq 60, 3) := dk_153 0 60 (dk_at dksX3_isLeast_0 11 rfl rfl)
theorem dX3_isLeast_14 : decode cX3_isLeast 14 = .ok (.iconst 0, 1) := dk_3 (dk_at dksX3_isLeast_0 14 rfl rfl)
theorem dX3_isLeast_15 : decode cX3_isLeast 15 = .ok (.istore_n 3, 1) := dk_62 (dk_at dksX3_isLeast_0 15 rfl rfl)
theorem dX3_isLeast_16 : decode cX3_isLeast 16 = .ok (.iload_n 3, 1) := dk_29 (dk_at dksX3_isLeast_0 16 rfl rfl)
theorem dX3_isLeast_17 : decode cX3_isLeast 17 = .ok (.iload_n 1, 1) := dk_27 (dk_at dksX3_isLeast_0 17 rfl rfl)
theorem dX3_isLeast_18 : decode cX3_isLeast 18 = .ok (.if_icmp .ge 24, 3) := dk_162 0 24 (dk_at dksX3_isLeast_0 18 rfl rfl)
theorem dX3_isLeast_21 : decode cX3_isLeast 21 = .ok (.aload_n 0, 1) := dk_42 (dk_at dksX3_isLeast_0 21 rfl rfl)
theorem dX3_isLeast_22 : decode cX3_isLeast 22 = .ok (.iload_n 3, 1) := dk_29 (dk_at dksX3_isLeast_0 22 rfl rfl)
theorem dX3_isLeast_23 : decode cX3_isLeast 23 = .ok (.aload_n 0, 1) := dk_42 (dk_at dksX3_isLeast_0 23 rfl rfl)
theorem dX3_isLeast_24 : decode cX3_isLeast 24 = .ok (.aload_n 0, 1) := dk_42 (dk_at dksX3_isLeast_1 0 rfl rfl)
theorem dX3_isLeast_25 : decode cX3_isLeast 25 = .ok (.getfield 59, 3) := dk_180 0 59 (dk_at dksX3_isLeast_1 1 rfl rfl)
theorem dX3_isLeast_28 : decode cX3_isLeast 28 = .ok (.iload_n 3, 1) := dk_29 (dk_at dksX3_isLeast_1 4 rfl rfl)
theorem dX3_isLeast_29 : decode cX3_isLeast 29 = .ok (.iaload, 1) := dk_46 (dk_at dksX3_isLeast_1 5 rfl rfl)
theorem dX3_isLeast_30 : decode cX3_isLeast 30 = .ok (.invokevirtual 247, 3) := dk_182 0 247 (dk_at dksX3_isLeast_1 6 rfl rfl)
theorem dX3_isLeast_33 : decode cX3_isLeast 33 = .ok (.invokevirtual 336, 3) := dk_182 1 80 (dk_at dksX3_isLeast_1 9 rfl rfl)
theorem dX3_isLeast_36 : decode cX3_isLeast 36 = .ok (.iinc 3 1, 3) := dk_132 3 1 (dk_at dksX3_isLeast_1 12 rfl rfl)
theorem dX3_isLeast_39 : decode cX3_isLeast 39 = .ok (.goto (-23), 3) := dk_167 255 233 (dk_at dksX3_isLeast_1 15 rfl rfl)
theorem dX3_isLeast_42 : decode cX3_isLeast 42 = .ok (.aload_n 0, 1) := dk_42 (dk_at dksX3_isLeast_1 18 rfl rfl)
theorem dX3_isLeast_43 : decode cX3_isLeast 43 = .ok (.getfield 41, 3) := dk_180 0 41 (dk_at dksX3_isLeast_1 19 rfl rfl)
theorem dX3_isLeast_46 : decode cX3_isLeast 46 = .ok (.aload_n 0, 1) := dk_42 (dk_at dksX3_isLeast_1 22 rfl rfl)
theorem dX3_isLeast_47 : decode cX3_isLeast 47 = .ok (.getfield 59, 3) := dk_180 0 59 (dk_at dksX3_isLeast_2 0 rfl rfl)
theorem dX3_isLeast_50 : decode cX3_isLeast 50 = .ok (.iload_n 1, 1) := dk_27 (dk_at dksX3_isLeast_2 3 rfl rfl)
theorem dX3_isLeast_51 : decode cX3_isLeast 51 = .ok (.invokestatic 339, 3) := dk_184 1 83 (dk_at dksX3_isLeast_2 4 rfl rfl)
theorem dX3_isLeast_54 : decode cX3_isLeast 54 = .ok (.ifCond .ge 5, 3) := dk_156 0 5 (dk_at dksX3_isLeast_2 7 rfl rfl)
theorem dX3_isLeast_57 : decode cX3_isLeast 57 = .ok (.iconst 0, 1) := dk_3 (dk_at dksX3_isLeast_2 10 rfl rfl)
theorem dX3_isLeast_58 : decode cX3_isLeast 58 = .ok (.ireturn, 1) := dk_172 (dk_at dksX3_isLeast_2 11 rfl rfl)
theorem dX3_isLeast_59 : decode cX3_isLeast 59 = .ok (.aload_n 0, 1) := dk_42 (dk_at dksX3_isLeast_2 12 rfl rfl)
theorem dX3_isLeast_60 : decode cX3_isLeast 60 = .ok (.aload_n 0, 1) := dk_42 (dk_at dksX3_isLeast_2 13 rfl rfl)
theorem dX3_isLeast_61 : decode cX3_isLeast 61 = .ok (.getfield 392, 3) := dk_180 1 136 (dk_at dksX3_isLeast_2 14 rfl rfl)
theorem dX3_isLeast_64 : decode cX3_isLeast 64 = .ok (.invokevirtual 260, 3) := dk_182 1 4 (dk_at dksX3_isLeast_2 17 rfl rfl)
theorem dX3_isLeast_67 : decode cX3_isLeast 67 = .ok (.istore_n 2, 1) := dk_61 (dk_at dksX3_isLeast_2 20 rfl rfl)
theorem dX3_isLeast_68 : decode cX3_isLeast 68 = .ok (.goto (-58), 3) := dk_167 255 198 (dk_at dksX3_isLeast_2 21 rfl rfl)
theorem dX3_isLeast_71 : decode cX3_isLeast 71 = .ok (.iconst 1, 1) := dk_4 (dk_at dksX3_isLeast_3 0 rfl rfl)
theorem dX3_isLeast_72 : decode cX3_isLeast 72 = .ok (.ireturn, 1) := dk_172 (dk_at dksX3_isLeast_3 1 rfl rfl)
abbrev cX3_square : ByteArray := prog_15_method_104_code
def yX3_square : MethodName := ⟨RX3, "square", "(II)I"⟩
def dkwX3_square_4 : List UInt8 := [180, 1, 154, 154, 0, 7, 2, 167, 0, 9, 42, 180, 0, 65, 28, 46, 172]
abbrev dktX3_square_4 : List UInt8 := dkwX3_square_4 ++ []
def dkwX3_square_3 : List UInt8 := [132, 4, 1, 167, 255, 239, 132, 3, 1, 167, 255, 225, 42, 3, 181, 1, 154, 42, 3, 4, 182, 1, 163, 42]
abbrev dktX3_square_3 : List UInt8 := dkwX3_square_3 ++ dktX3_square_4
def dkwX3_square_2 : List UInt8 := [29, 27, 162, 0, 32, 3, 54, 4, 21, 4, 27, 162, 0, 17, 42, 21, 4, 29, 3, 182, 1, 167]
abbrev dktX3_square_2 : List UInt8 := dkwX3_square_2 ++ dktX3_square_3
def dkwX3_square_1 : List UInt8 := [184, 1, 71, 154, 0, 9, 42, 5, 182, 0, 192, 172, 42, 3, 181, 1, 157, 42, 3, 181, 1, 148, 3, 62]
abbrev dktX3_square_1 : List UInt8 := dkwX3_square_1 ++ dktX3_square_2
def dkwX3_square_0 : List UInt8 := [42, 3, 181, 0, 93, 42, 28, 182, 1, 77, 154, 0, 9, 42, 4, 182, 0, 192, 172, 27, 5, 7]
abbrev dktX3_square_0 : List UInt8 := dkwX3_square_0 ++ dktX3_square_1
theorem dksX3_square_0 : cX3_square.data.toList.drop 0 = dktX3_square_0 := by decide +kernel
theorem dksX3_square_1 : cX3_square.data.toList.drop 22 = dktX3_square_1 := dk_seg dksX3_square_0 22 rfl rfl
theorem dksX3_square_2 : cX3_square.data.toList.drop 46 = dktX3_square_2 := dk_seg dksX3_square_1 24 rfl rfl
theorem dksX3_square_3 : cX3_square.data.toList.drop 68 = dktX3_square_3 := dk_seg dksX3_square_2 22 rfl rfl
theorem dksX3_square_4 : cX3_square.data.toList.drop 92 = dktX3_square_4 := dk_seg dksX3_square_3 24 rfl rfl
theorem dX3_square_0 : decode cX3_square 0 = .ok (.aload_n 0, 1) := dk_42 (dk_at dksX3_square_0 0 rfl rfl)
theorem dX3_square_1 : decode cX3_square 1 = .ok (.iconst 0, 1) := dk_3 (dk_at dksX3_square_0 1 rfl rfl)
theorem dX3_square_2 : decode cX3_square 2 = .ok (.putfield 93, 3) := dk_181 0 93 (dk_at dksX3_square_0 2 rfl rfl)
theorem dX3_square_5 : decode cX3_square 5 = .ok (.aload_n 0, 1) := dk_42 (dk_at dksX3_square_0 5 rfl rfl)
theorem dX3_square_6 : decode cX3_square 6 = .ok (.iload_n 2, 1) := dk_28 (dk_at dksX3_square_0 6 rfl rfl)
theorem dX3_square_7 : decode cX3_square 7 = .ok (.invokevirtual 333, 3) := dk_182 1 77 (dk_at dksX3_square_0 7 rfl rfl)
theorem dX3_square_10 : decode cX3_square 10 = .ok (.ifCond .ne 9, 3) := dk_154 0 9 (dk_at dksX3_square_0 10 rfl rfl)
theorem dX3_square_13 : decode cX3_square 13 = .ok (.aload_n 0, 1) := dk_42 (dk_at dksX3_square_0 13 rfl rfl)
theorem dX3_square_14 : decode cX3_square 14 = .ok (.iconst 1, 1) := dk_4 (dk_at dksX3_square_0 14 rfl rfl)
theorem dX3_square_15 : decode cX3_square 15 = .ok (.invokevirtual 192, 3) := dk_182 0 192 (dk_at dksX3_square_0 15 rfl rfl)
theorem dX3_square_18 : decode cX3_square 18 = .ok (.ireturn, 1) := dk_172 (dk_at dksX3_square_0 18 rfl rfl)
theorem dX3_square_19 : decode cX3_square 19 = .ok (.iload_n 1, 1) := dk_27 (dk_at dksX3_square_0 19 rfl rfl)
theorem dX3_square_20 : decode cX3_square 20 = .ok (.iconst 2, 1) := dk_5 (dk_at dksX3_square_0 20 rfl rfl)
theorem dX3_square_21 : decode cX3_square 21 = .ok (.iconst 4, 1) := dk_7 (dk_at dksX3_square_0 21 rfl rfl)
theorem dX3_square_22 : decode cX3_square 22 = .ok (.invokestatic 327, 3) := dk_184 1 71 (dk_at dksX3_square_1 0 rfl rfl)
theorem dX3_square_25 : decode cX3_square 25 = .ok (.ifCond .ne 9, 3) := dk_154 0 9 (dk_at dksX3_square_1 3 rfl rfl)
theorem dX3_square_28 : decode cX3_square 28 = .ok (.aload_n 0, 1) := dk_42 (dk_at dksX3_square_1 6 rfl rfl)
theorem dX3_square_29 : decode cX3_square 29 = .ok (.iconst 2, 1) := dk_5 (dk_at dksX3_square_1 7 rfl rfl)
theorem dX3_square_30 : decode cX3_square 30 = .ok (.invokevirtual 192, 3) := dk_182 0 192 (dk_at dksX3_square_1 8 rfl rfl)
theorem dX3_square_33 : decode cX3_square 33 = .ok (.ireturn, 1) := dk_172 (dk_at dksX3_square_1 11 rfl rfl)
theorem dX3_square_34 : decode cX3_square 34 = .ok (.aload_n 0, 1) := dk_42 (dk_at dksX3_square_1 12 rfl rfl)
theorem dX3_square_35 : decode cX3_square 35 = .ok (.iconst 0, 1) := dk_3 (dk_at dksX3_square_1 13 rfl rfl)
theorem dX3_square_36 : decode cX3_square 36 = .ok (.putfield 413, 3) := dk_181 1 157 (dk_at dksX3_square_1 14 rfl rfl)
theorem dX3_square_39 : decode cX3_square 39 = .ok (.aload_n 0, 1) := dk_42 (dk_at dksX3_square_1 17 rfl rfl)
theorem dX3_square_40 : decode cX3_square 40 = .ok (.iconst 0, 1) := dk_3 (dk_at dksX3_square_1 18 rfl rfl)
theorem dX3_square_41 : decode cX3_square 41 = .ok (.putfield 404, 3) := dk_181 1 148 (dk_at dksX3_square_1 19 rfl rfl)
theorem dX3_square_44 : decode cX3_square 44 = .ok (.iconst 0, 1) := dk_3 (dk_at dksX3_square_1 22 rfl rfl)
theorem dX3_square_45 : decode cX3_square 45 = .ok (.istore_n 3, 1) := dk_62 (dk_at dksX3_square_1 23 rfl rfl)
theorem dX3_square_46 : decode cX3_square 46 = .ok (.iload_n 3, 1) := dk_29 (dk_at dksX3_square_2 0 rfl rfl)
theorem dX3_square_47 : decode cX3_square 47 = .ok (.iload_n 1, 1) := dk_27 (dk_at dksX3_square_2 1 rfl rfl)
theorem dX3_square_48 : decode cX3_square 48 = .ok (.if_icmp .ge 32, 3) := dk_162 0 32 (dk_at dksX3_square_2 2 rfl rfl)
theorem dX3_square_51 : decode cX3_square 51 = .ok (.iconst 0, 1) := dk_3 (dk_at dksX3_square_2 5 rfl rfl)
theorem dX3_square_52 : decode cX3_square 52 = .ok (.istore 4, 2) := dk_54 4 (dk_at dksX3_square_2 6 rfl rfl)
theorem dX3_square_54 : decode cX3_square 54 = .ok (.iload 4, 2) := dk_21 4 (dk_at dksX3_square_2 8 rfl rfl)
theorem dX3_square_56 : decode cX3_square 56 = .ok (.iload_n 1, 1) := dk_27 (dk_at dksX3_square_2 10 rfl rfl)
theorem dX3_square_57 : decode cX3_square 57 = .ok (.if_icmp .ge 17, 3) := dk_162 0 17 (dk_at dksX3_square_2 11 rfl rfl)
theorem dX3_square_60 : decode cX3_square 60 = .ok (.aload_n 0, 1) := dk_42 (dk_at dksX3_square_2 14 rfl rfl)
theorem dX3_square_61 : decode cX3_square 61 = .ok (.iload 4, 2) := dk_21 4 (dk_at dksX3_square_2 15 rfl rfl)
theorem dX3_square_63 : decode cX3_square 63 = .ok (.iload_n 3, 1) := dk_29 (dk_at dksX3_square_2 17 rfl rfl)
theorem dX3_square_64 : decode cX3_square 64 = .ok (.iconst 0, 1) := dk_3 (dk_at dksX3_square_2 18 rfl rfl)
theorem dX3_square_65 : decode cX3_square 65 = .ok (.invokevirtual 423, 3) := dk_182 1 167 (dk_at dksX3_square_2 19 rfl rfl)
theorem dX3_square_68 : decode cX3_square 68 = .ok (.iinc 4 1, 3) := dk_132 4 1 (dk_at dksX3_square_3 0 rfl rfl)
theorem dX3_square_71 : decode cX3_square 71 = .ok (.goto (-17), 3) := dk_167 255 239 (dk_at dksX3_square_3 3 rfl rfl)
theorem dX3_square_74 : decode cX3_square 74 = .ok (.iinc 3 1, 3) := dk_132 3 1 (dk_at dksX3_square_3 6 rfl rfl)
theorem dX3_square_77 : decode cX3_square 77 = .ok (.goto (-31), 3) := dk_167 255 225 (dk_at dksX3_square_3 9 rfl rfl)
theorem dX3_square_80 : decode cX3_square 80 = .ok (.aload_n 0, 1) := dk_42 (dk_at dksX3_square_3 12 rfl rfl)
theorem dX3_square_81 : decode cX3_square 81 = .ok (.iconst 0, 1) := dk_3 (dk_at dksX3_square_3 13 rfl rfl)
theorem dX3_square_82 : decode cX3_square 82 = .ok (.putfield 410, 3) := dk_181 1 154 (dk_at dksX3_square_3 14 rfl rfl)
theorem dX3_square_85 : decode cX3_square 85 = .ok (.aload_n 0, 1) := dk_42 (dk_at dksX3_square_3 17 rfl rfl)
theorem dX3_square_86 : decode cX3_square 86 = .ok (.iconst 0, 1) := dk_3 (dk_at dksX3_square_3 18 rfl rfl)
theorem dX3_square_87 : decode cX3_square 87 = .ok (.iconst 1, 1) := dk_4 (dk_at dksX3_square_3 19 rfl rfl)
theorem dX3_square_88 : decode cX3_square 88 = .ok (.invokevirtual 419, 3) := dk_182 1 163 (dk_at dksX3_square_3 20 rfl rfl)
theorem dX3_square_91 : decode cX3_square 91 = .ok (.aload_n 0, 1) := dk_42 (dk_at dksX3_square_3 23 rfl rfl)
theorem dX3_square_92 : decode cX3_square 92 = .ok (.getfield 410, 3) := dk_180 1 154 (dk_at dksX3_square_4 0 rfl rfl)
theorem dX3_square_95 : decode cX3_square 95 = .ok (.ifCond .ne 7, 3) := dk_154 0 7 (dk_at dksX3_square_4 3 rfl rfl)
theorem dX3_square_98 : decode cX3_square 98 = .ok (.iconst (-1), 1) := dk_2 (dk_at dksX3_square_4 6 rfl rfl)
theorem dX3_square_99 : decode cX3_square 99 = .ok (.goto 9, 3) := dk_167 0 9 (dk_at dksX3_square_4 7 rfl rfl)
theorem dX3_square_102 : decode cX3_square 102 = .ok (.aload_n 0, 1) := dk_42 (dk_at dksX3_square_4 10 rfl rfl)
theorem dX3_square_103 : decode cX3_square 103 = .ok (.getfield 65, 3) := dk_180 0 65 (dk_at dksX3_square_4 11 rfl rfl)
theorem dX3_square_106 : decode cX3_square 106 = .ok (.iload_n 2, 1) := dk_28 (dk_at dksX3_square_4 14 rfl rfl)
theorem dX3_square_107 : decode cX3_square 107 = .ok (.iaload, 1) := dk_46 (dk_at dksX3_square_4 15 rfl rfl)
theorem dX3_square_108 : decode cX3_square 108 = .ok (.ireturn, 1) := dk_172 (dk_at dksX3_square_4 16 rfl rfl)
abbrev cX3_layPlace : ByteArray := prog_15_method_103_code
def yX3_layPlace : MethodName := ⟨RX3, "layPlace", "(III)V"⟩
def dkwX3_layPlace_1 : List UInt8 := [42, 180, 1, 157, 29, 79, 42, 89, 180, 1, 157, 4, 96, 181, 1, 157, 177]
abbrev dktX3_layPlace_1 : List UInt8 := dkwX3_layPlace_1 ++ []
def dkwX3_layPlace_0 : List UInt8 := [42, 180, 0, 68, 42, 180, 1, 157, 27, 79, 42, 180, 0, 71, 42, 180, 1, 157, 28, 79, 42, 180, 0, 74]
abbrev dktX3_layPlace_0 : List UInt8 := dkwX3_layPlace_0 ++ dktX3_layPlace_1
theorem dksX3_layPlace_0 : cX3_layPlace.data.toList.drop 0 = dktX3_layPlace_0 := by decide +kernel
theorem dksX3_layPlace_1 : cX3_layPlace.data.toList.drop 24 = dktX3_layPlace_1 := dk_seg dksX3_layPlace_0 24 rfl rfl
theorem dX3_layPlace_0 : decode cX3_layPlace 0 = .ok (.aload_n 0, 1) := dk_42 (dk_at dksX3_layPlace_0 0 rfl rfl)
theorem dX3_layPlace_1 : decode cX3_layPlace 1 = .ok (.getfield 68, 3) := dk_180 0 68 (dk_at dksX3_layPlace_0 1 rfl rfl)
theorem dX3_layPlace_4 : decode cX3_layPlace 4 = .ok (.aload_n 0, 1) := dk_42 (dk_at dksX3_layPlace_0 4 rfl rfl)
theorem dX3_layPlace_5 : decode cX3_layPlace 5 = .ok (.getfield 413, 3) := dk_180 1 157 (dk_at dksX3_layPlace_0 5 rfl rfl)
theorem dX3_layPlace_8 : decode cX3_layPlace 8 = .ok (.iload_n 1, 1) := dk_27 (dk_at dksX3_layPlace_0 8 rfl rfl)
theorem dX3_layPlace_9 : decode cX3_layPlace 9 = .ok (.iastore, 1) := dk_79 (dk_at dksX3_layPlace_0 9 rfl rfl)
theorem dX3_layPlace_10 : decode cX3_layPlace 10 = .ok (.aload_n 0, 1) := dk_42 (dk_at dksX3_layPlace_0 10 rfl rfl)
theorem dX3_layPlace_11 : decode cX3_layPlace 11 = .ok (.getfield 71, 3) := dk_180 0 71 (dk_at dksX3_layPlace_0 11 rfl rfl)
theorem dX3_layPlace_14 : decode cX3_layPlace 14 = .ok (.aload_n 0, 1) := dk_42 (dk_at dksX3_layPlace_0 14 rfl rfl)
theorem dX3_layPlace_15 : decode cX3_layPlace 15 = .ok (.getfield 413, 3) := dk_180 1 157 (dk_at dksX3_layPlace_0 15 rfl rfl)
theorem dX3_layPlace_18 : decode cX3_layPlace 18 = .ok (.iload_n 2, 1) := dk_28 (dk_at dksX3_layPlace_0 18 rfl rfl)
theorem dX3_layPlace_19 : decode cX3_layPlace 19 = .ok (.iastore, 1) := dk_79 (dk_at dksX3_layPlace_0 19 rfl rfl)
theorem dX3_layPlace_20 : decode cX3_layPlace 20 = .ok (.aload_n 0, 1) := dk_42 (dk_at dksX3_layPlace_0 20 rfl rfl)
theorem dX3_layPlace_21 : decode cX3_layPlace 21 = .ok (.getfield 74, 3) := dk_180 0 74 (dk_at dksX3_layPlace_0 21 rfl rfl)
theorem dX3_layPlace_24 : decode cX3_layPlace 24 = .ok (.aload_n 0, 1) := dk_42 (dk_at dksX3_layPlace_1 0 rfl rfl)
theorem dX3_layPlace_25 : decode cX3_layPlace 25 = .ok (.getfield 413, 3) := dk_180 1 157 (dk_at dksX3_layPlace_1 1 rfl rfl)
theorem dX3_layPlace_28 : decode cX3_layPlace 28 = .ok (.iload_n 3, 1) := dk_29 (dk_at dksX3_layPlace_1 4 rfl rfl)
theorem dX3_layPlace_29 : decode cX3_layPlace 29 = .ok (.iastore, 1) := dk_79 (dk_at dksX3_layPlace_1 5 rfl rfl)
theorem dX3_layPlace_30 : decode cX3_layPlace 30 = .ok (.aload_n 0, 1) := dk_42 (dk_at dksX3_layPlace_1 6 rfl rfl)
theorem dX3_layPlace_31 : decode cX3_layPlace 31 = .ok (.dup, 1) := dk_89 (dk_at dksX3_layPlace_1 7 rfl rfl)
theorem dX3_layPlace_32 : decode cX3_layPlace 32 = .ok (.getfield 413, 3) := dk_180 1 157 (dk_at dksX3_layPlace_1 8 rfl rfl)
theorem dX3_layPlace_35 : decode cX3_layPlace 35 = .ok (.iconst 1, 1) := dk_4 (dk_at dksX3_layPlace_1 11 rfl rfl)
theorem dX3_layPlace_36 : decode cX3_layPlace 36 = .ok (.iadd, 1) := dk_96 (dk_at dksX3_layPlace_1 12 rfl rfl)
theorem dX3_layPlace_37 : decode cX3_layPlace 37 = .ok (.putfield 413, 3) := dk_181 1 157 (dk_at dksX3_layPlace_1 13 rfl rfl)
theorem dX3_layPlace_40 : decode cX3_layPlace 40 = .ok (.return_, 1) := dk_177 (dk_at dksX3_layPlace_1 16 rfl rfl)
abbrev cX3_draws : ByteArray := prog_15_method_102_code
def yX3_draws : MethodName := ⟨RX3, "draws", "(IZ)V"⟩
def dkwX3_draws_4 : List UInt8 := [182, 1, 163, 132, 3, 1, 167, 255, 211, 177]
abbrev dktX3_draws_4 : List UInt8 := dkwX3_draws_4 ++ []
def dkwX3_draws_3 : List UInt8 := [157, 0, 32, 42, 180, 0, 62, 27, 29, 79, 42, 27, 182, 1, 160, 153, 0, 11, 42, 27, 4, 96, 28]
abbrev dktX3_draws_3 : List UInt8 := dkwX3_draws_3 ++ dktX3_draws_4
def dkwX3_draws_2 : List UInt8 := [181, 1, 154, 177, 3, 62, 29, 42, 180, 1, 157, 162, 0, 43, 28, 153, 0, 10, 42, 180, 1, 154]
abbrev dktX3_draws_2 : List UInt8 := dkwX3_draws_2 ++ dktX3_draws_3
def dkwX3_draws_1 : List UInt8 := [180, 0, 65, 29, 42, 180, 0, 62, 29, 46, 79, 132, 3, 1, 167, 255, 229, 42, 89, 180, 1, 154, 4, 96]
abbrev dktX3_draws_1 : List UInt8 := dkwX3_draws_1 ++ dktX3_draws_2
def dkwX3_draws_0 : List UInt8 := [27, 42, 182, 0, 222, 160, 0, 46, 3, 62, 29, 27, 162, 0, 28, 42, 180, 1, 154, 154, 0, 21, 42]
abbrev dktX3_draws_0 : List UInt8 := dkwX3_draws_0 ++ dktX3_draws_1
theorem dksX3_draws_0 : cX3_draws.data.toList.drop 0 = dktX3_draws_0 := by decide +kernel
theorem dksX3_draws_1 : cX3_draws.data.toList.drop 23 = dktX3_draws_1 := dk_seg dksX3_draws_0 23 rfl rfl
theorem dksX3_draws_2 : cX3_draws.data.toList.drop 47 = dktX3_draws_2 := dk_seg dksX3_draws_1 24 rfl rfl
theorem dksX3_draws_3 : cX3_draws.data.toList.drop 69 = dktX3_draws_3 := dk_seg dksX3_draws_2 22 rfl rfl
theorem dksX3_draws_4 : cX3_draws.data.toList.drop 92 = dktX3_draws_4 := dk_seg dksX3_draws_3 23 rfl rfl
theorem dX3_draws_0 : decode cX3_draws 0 = .ok (.iload_n 1, 1) := dk_27 (dk_at dksX3_draws_0 0 rfl rfl)
theorem dX3_draws_1 : decode cX3_draws 1 = .ok (.aload_n 0, 1) := dk_42 (dk_at dksX3_draws_0 1 rfl rfl)
theorem dX3_draws_2 : decode cX3_draws 2 = .ok (.invokevirtual 222, 3) := dk_182 0 222 (dk_at dksX3_draws_0 2 rfl rfl)
theorem dX3_draws_5 : decode cX3_draws 5 = .ok (.if_icmp .ne 46, 3) := dk_160 0 46 (dk_at dksX3_draws_0 5 rfl rfl)
theorem dX3_draws_8 : decode cX3_draws 8 = .ok (.iconst 0, 1) := dk_3 (dk_at dksX3_draws_0 8 rfl rfl)
theorem dX3_draws_9 : decode cX3_draws 9 = .ok (.istore_n 3, 1) := dk_62 (dk_at dksX3_draws_0 9 rfl rfl)
theorem dX3_draws_10 : decode cX3_draws 10 = .ok (.iload_n 3, 1) := dk_29 (dk_at dksX3_draws_0 10 rfl rfl)
theorem dX3_draws_11 : decode cX3_draws 11 = .ok (.iload_n 1, 1) := dk_27 (dk_at dksX3_draws_0 11 rfl rfl)
theorem dX3_draws_12 : decode cX3_draws 12 = .ok (.if_icmp .ge 28, 3) := dk_162 0 28 (dk_at dksX3_draws_0 12 rfl rfl)
theorem dX3_draws_15 : decode cX3_draws 15 = .ok (.aload_n 0, 1) := dk_42 (dk_at dksX3_draws_0 15 rfl rfl)
theorem dX3_draws_16 : decode cX3_draws 16 = .ok (.getfield 410, 3) := dk_180 1 154 (dk_at dksX3_draws_0 16 rfl rfl)
theorem dX3_draws_19 : decode cX3_draws 19 = .ok (.ifCond .ne 21, 3) := dk_154 0 21 (dk_at dksX3_draws_0 19 rfl rfl)
theorem dX3_draws_22 : decode cX3_draws 22 = .ok (.aload_n 0, 1) := dk_42 (dk_at dksX3_draws_0 22 rfl rfl)
theorem dX3_draws_23 : decode cX3_draws 23 = .ok (.getfield 65, 3) := dk_180 0 65 (dk_at dksX3_draws_1 0 rfl rfl)
theorem dX3_draws_26 : decode cX3_draws 26 = .ok (.iload_n 3, 1) := dk_29 (dk_at dksX3_draws_1 3 rfl rfl)
theorem dX3_draws_27 : decode cX3_draws 27 = .ok (.aload_n 0, 1) := dk_42 (dk_at dksX3_draws_1 4 rfl rfl)
theorem dX3_draws_28 : decode cX3_draws 28 = .ok (.getfield 62, 3) := dk_180 0 62 (dk_at dksX3_draws_1 5 rfl rfl)
theorem dX3_draws_31 : decode cX3_draws 31 = .ok (.iload_n 3, 1) := dk_29 (dk_at dksX3_draws_1 8 rfl rfl)
theorem dX3_draws_32 : decode cX3_draws 32 = .ok (.iaload, 1) := dk_46 (dk_at dksX3_draws_1 9 rfl rfl)
theorem dX3_draws_33 : decode cX3_draws 33 = .ok (.iastore, 1) := dk_79 (dk_at dksX3_draws_1 10 rfl rfl)
theorem dX3_draws_34 : decode cX3_draws 34 = .ok (.iinc 3 1, 3) := dk_132 3 1 (dk_at dksX3_draws_1 11 rfl rfl)
theorem dX3_draws_37 : decode cX3_draws 37 = .ok (.goto (-27), 3) := dk_167 255 229 (dk_at dksX3_draws_1 14 rfl rfl)
theorem dX3_draws_40 : decode cX3_draws 40 = .ok (.aload_n 0, 1) := dk_42 (dk_at dksX3_draws_1 17 rfl rfl)
theorem dX3_draws_41 : decode cX3_draws 41 = .ok (.dup, 1) := dk_89 (dk_at dksX3_draws_1 18 rfl rfl)
theorem dX3_draws_42 : decode cX3_draws 42 = .ok (.getfield 410, 3) := dk_180 1 154 (dk_at dksX3_draws_1 19 rfl rfl)
theorem dX3_draws_45 : decode cX3_draws 45 = .ok (.iconst 1, 1) := dk_4 (dk_at dksX3_draws_1 22 rfl rfl)
theorem dX3_draws_46 : decode cX3_draws 46 = .ok (.iadd, 1) := dk_96 (dk_at dksX3_draws_1 23 rfl rfl)
theorem dX3_draws_47 : decode cX3_draws 47 = .ok (.putfield 410, 3) := dk_181 1 154 (dk_at dksX3_draws_2 0 rfl rfl)
theorem dX3_draws_50 : decode cX3_draws 50 = .ok (.return_, 1) := dk_177 (dk_at dksX3_draws_2 3 rfl rfl)
theorem dX3_draws_51 : decode cX3_draws 51 = .ok (.iconst 0, 1) := dk_3 (dk_at dksX3_draws_2 4 rfl rfl)
theorem dX3_draws_52 : decode cX3_draws 52 = .ok (.istore_n 3, 1) := dk_62 (dk_at dksX3_draws_2 5 rfl rfl)
theorem dX3_draws_53 : decode cX3_draws 53 = .ok (.iload_n 3, 1) := dk_29 (dk_at dksX3_draws_2 6 rfl rfl)
theorem dX3_draws_54 : decode cX3_draws 54 = .ok (.aload_n 0, 1) := dk_42 (dk_at dksX3_draws_2 7 rfl rfl)
theorem dX3_draws_55 : decode cX3_draws 55 = .ok (.getfield 413, 3) := dk_180 1 157 (dk_at dksX3_draws_2 8 rfl rfl)
theorem dX3_draws_58 : decode cX3_draws 58 = .ok (.if_icmp .ge 43, 3) := dk_162 0 43 (dk_at dksX3_draws_2 11 rfl rfl)
theorem dX3_draws_61 : decode cX3_draws 61 = .ok (.iload_n 2, 1) := dk_28 (dk_at dksX3_draws_2 14 rfl rfl)
theorem dX3_draws_62 : decode cX3_draws 62 = .ok (.ifCond .eq 10, 3) := dk_153 0 10 (dk_at dksX3_draws_2 15 rfl rfl)
theorem dX3_draws_65 : decode cX3_draws 65 = .ok (.aload_n 0, 1) := dk_42 (dk_at dksX3_draws_2 18 rfl rfl)
theorem dX3_draws_66 : decode cX3_draws 66 = .ok (.getfield 410, 3) := dk_180 1 154 (dk_at dksX3_draws_2 19 rfl rfl)
theorem dX3_draws_69 : decode cX3_draws 69 = .ok (.ifCond .gt 32, 3) := dk_157 0 32 (dk_at dksX3_draws_3 0 rfl rfl)
theorem dX3_draws_72 : decode cX3_draws 72 = .ok (.aload_n 0, 1) := dk_42 (dk_at dksX3_draws_3 3 rfl rfl)
theorem dX3_draws_73 : decode cX3_draws 73 = .ok (.getfield 62, 3) := dk_180 0 62 (dk_at dksX3_draws_3 4 rfl rfl)
theorem dX3_draws_76 : decode cX3_draws 76 = .ok (.iload_n 1, 1) := dk_27 (dk_at dksX3_draws_3 7 rfl rfl)
theorem dX3_draws_77 : decode cX3_draws 77 = .ok (.iload_n 3, 1) := dk_29 (dk_at dksX3_draws_3 8 rfl rfl)
theorem dX3_draws_78 : decode cX3_draws 78 = .ok (.iastore, 1) := dk_79 (dk_at dksX3_draws_3 9 rfl rfl)
theorem dX3_draws_79 : decode cX3_draws 79 = .ok (.aload_n 0, 1) := dk_42 (dk_at dksX3_draws_3 10 rfl rfl)
theorem dX3_draws_80 : decode cX3_draws 80 = .ok (.iload_n 1, 1) := dk_27 (dk_at dksX3_draws_3 11 rfl rfl)
theorem dX3_draws_81 : decode cX3_draws 81 = .ok (.invokevirtual 416, 3) := dk_182 1 160 (dk_at dksX3_draws_3 12 rfl rfl)
theorem dX3_draws_84 : decode cX3_draws 84 = .ok (.ifCond .eq 11, 3) := dk_153 0 11 (dk_at dksX3_draws_3 15 rfl rfl)
theorem dX3_draws_87 : decode cX3_draws 87 = .ok (.aload_n 0, 1) := dk_42 (dk_at dksX3_draws_3 18 rfl rfl)
theorem dX3_draws_88 : decode cX3_draws 88 = .ok (.iload_n 1, 1) := dk_27 (dk_at dksX3_draws_3 19 rfl rfl)
theorem dX3_draws_89 : decode cX3_draws 89 = .ok (.iconst 1, 1) := dk_4 (dk_at dksX3_draws_3 20 rfl rfl)
theorem dX3_draws_90 : decode cX3_draws 90 = .ok (.iadd, 1) := dk_96 (dk_at dksX3_draws_3 21 rfl rfl)
theorem dX3_draws_91 : decode cX3_draws 91 = .ok (.iload_n 2, 1) := dk_28 (dk_at dksX3_draws_3 22 rfl rfl)
theorem dX3_draws_92 : decode cX3_draws 92 = .ok (.invokevirtual 419, 3) := dk_182 1 163 (dk_at dksX3_draws_4 0 rfl rfl)
theorem dX3_draws_95 : decode cX3_draws 95 = .ok (.iinc 3 1, 3) := dk_132 3 1 (dk_at dksX3_draws_4 3 rfl rfl)
theorem dX3_draws_98 : decode cX3_draws 98 = .ok (.goto (-45), 3) := dk_167 255 211 (dk_at dksX3_draws_4 6 rfl rfl)
theorem dX3_draws_101 : decode cX3_draws 101 = .ok (.return_, 1) := dk_177 (dk_at dksX3_draws_4 9 rfl rfl)
abbrev cX3_fitsWith : ByteArray := prog_15_method_101_code
def yX3_fitsWith : MethodName := ⟨RX3, "fitsWith", "(I)Z"⟩
def dkwX3_fitsWith_3 : List UInt8 := [4, 167, 0, 4, 3, 159, 0, 5, 3, 172, 132, 3, 1, 167, 255, 197, 132, 2, 1, 167, 255, 167, 4, 172]
abbrev dktX3_fitsWith_3 : List UInt8 := dkwX3_fitsWith_3 ++ []
def dkwX3_fitsWith_2 : List UInt8 := [27, 46, 182, 1, 151, 42, 4, 28, 120, 4, 29, 120, 128, 4, 27, 120, 128, 182, 0, 219, 2, 159, 0, 7]
abbrev dktX3_fitsWith_2 : List UInt8 := dkwX3_fitsWith_2 ++ dktX3_fitsWith_3
def dkwX3_fitsWith_1 : List UInt8 := [3, 62, 29, 28, 162, 0, 60, 42, 42, 180, 0, 62, 28, 46, 42, 180, 0, 62, 29, 46, 42, 180, 0, 62]
abbrev dktX3_fitsWith_1 : List UInt8 := dkwX3_fitsWith_1 ++ dktX3_fitsWith_2
def dkwX3_fitsWith_0 : List UInt8 := [3, 61, 28, 27, 162, 0, 90, 42, 180, 0, 62, 28, 46, 42, 180, 0, 62, 27, 46, 160, 0, 5, 3, 172]
abbrev dktX3_fitsWith_0 : List UInt8 := dkwX3_fitsWith_0 ++ dktX3_fitsWith_1
theorem dksX3_fitsWith_0 : cX3_fitsWith.data.toList.drop 0 = dktX3_fitsWith_0 := by decide +kernel
theorem dksX3_fitsWith_1 : cX3_fitsWith.data.toList.drop 24 = dktX3_fitsWith_1 := dk_seg dksX3_fitsWith_0 24 rfl rfl
theorem dksX3_fitsWith_2 : cX3_fitsWith.data.toList.drop 48 = dktX3_fitsWith_2 := dk_seg dksX3_fitsWith_1 24 rfl rfl
theorem dksX3_fitsWith_3 : cX3_fitsWith.data.toList.drop 72 = dktX3_fitsWith_3 := dk_seg dksX3_fitsWith_2 24 rfl rfl
theorem dX3_fitsWith_0 : decode cX3_fitsWith 0 = .ok (.iconst 0, 1) := dk_3 (dk_at dksX3_fitsWith_0 0 rfl rfl)
theorem dX3_fitsWith_1 : decode cX3_fitsWith 1 = .ok (.istore_n 2, 1) := dk_61 (dk_at dksX3_fitsWith_0 1 rfl rfl)
theorem dX3_fitsWith_2 : decode cX3_fitsWith 2 = .ok (.iload_n 2, 1) := dk_28 (dk_at dksX3_fitsWith_0 2 rfl rfl)
theorem dX3_fitsWith_3 : decode cX3_fitsWith 3 = .ok (.iload_n 1, 1) := dk_27 (dk_at dksX3_fitsWith_0 3 rfl rfl)
theorem dX3_fitsWith_4 : decode cX3_fitsWith 4 = .ok (.if_icmp .ge 90, 3) := dk_162 0 90 (dk_at dksX3_fitsWith_0 4 rfl rfl)
theorem dX3_fitsWith_7 : decode cX3_fitsWith 7 = .ok (.aload_n 0, 1) := dk_42 (dk_at dksX3_fitsWith_0 7 rfl rfl)
theorem dX3_fitsWith_8 : decode cX3_fitsWith 8 = .ok (.getfield 62, 3) := dk_180 0 62 (dk_at dksX3_fitsWith_0 8 rfl rfl)
theorem dX3_fitsWith_11 : decode cX3_fitsWith 11 = .ok (.iload_n 2, 1) := dk_28 (dk_at dksX3_fitsWith_0 11 rfl rfl)
theorem dX3_fitsWith_12 : decode cX3_fitsWith 12 = .ok (.iaload, 1) := dk_46 (dk_at dksX3_fitsWith_0 12 rfl rfl)
theorem dX3_fitsWith_13 : decode cX3_fitsWith 13 = .ok (.aload_n 0, 1) := dk_42 (dk_at dksX3_fitsWith_0 13 rfl rfl)
theorem dX3_fitsWith_14 : decode cX3_fitsWith 14 = .ok (.getfield 62, 3) := dk_180 0 62 (dk_at dksX3_fitsWith_0 14 rfl rfl)
theorem dX3_fitsWith_17 : decode cX3_fitsWith 17 = .ok (.iload_n 1, 1) := dk_27 (dk_at dksX3_fitsWith_0 17 rfl rfl)
theorem dX3_fitsWith_18 : decode cX3_fitsWith 18 = .ok (.iaload, 1) := dk_46 (dk_at dksX3_fitsWith_0 18 rfl rfl)
theorem dX3_fitsWith_19 : decode cX3_fitsWith 19 = .ok (.if_icmp .ne 5, 3) := dk_160 0 5 (dk_at dksX3_fitsWith_0 19 rfl rfl)
theorem dX3_fitsWith_22 : decode cX3_fitsWith 22 = .ok (.iconst 0, 1) := dk_3 (dk_at dksX3_fitsWith_0 22 rfl rfl)
theorem dX3_fitsWith_23 : decode cX3_fitsWith 23 = .ok (.ireturn, 1) := dk_172 (dk_at dksX3_fitsWith_0 23 rfl rfl)
theorem dX3_fitsWith_24 : decode cX3_fitsWith 24 = .ok (.iconst 0, 1) := dk_3 (dk_at dksX3_fitsWith_1 0 rfl rfl)
theorem dX3_fitsWith_25 : decode cX3_fitsWith 25 = .ok (.istore_n 3, 1) := dk_62 (dk_at dksX3_fitsWith_1 1 rfl rfl)
theorem dX3_fitsWith_26 : decode cX3_fitsWith 26 = .ok (.iload_n 3, 1) := dk_29 (dk_at dksX3_fitsWith_1 2 rfl rfl)
theorem dX3_fitsWith_27 : decode cX3_fitsWith 27 = .ok (.iload_n 2, 1) := dk_28 (dk_at dksX3_fitsWith_1 3 rfl rfl)
theorem dX3_fitsWith_28 : decode cX3_fitsWith 28 = .ok (.if_icmp .ge 60, 3) := dk_162 0 60 (dk_at dksX3_fitsWith_1 4 rfl rfl)
theorem dX3_fitsWith_31 : decode cX3_fitsWith 31 = .ok (.aload_n 0, 1) := dk_42 (dk_at dksX3_fitsWith_1 7 rfl rfl)
theorem dX3_fitsWith_32 : decode cX3_fitsWith 32 = .ok (.aload_n 0, 1) := dk_42 (dk_at dksX3_fitsWith_1 8 rfl rfl)
theorem dX3_fitsWith_33 : decode cX3_fitsWith 33 = .ok (.getfield 62, 3) := dk_180 0 62 (dk_at dksX3_fitsWith_1 9 rfl rfl)
theorem dX3_fitsWith_36 : decode cX3_fitsWith 36 = .ok (.iload_n 2, 1) := dk_28 (dk_at dksX3_fitsWith_1 12 rfl rfl)
theorem dX3_fitsWith_37 : decode cX3_fitsWith 37 = .ok (.iaload, 1) := dk_46 (dk_at dksX3_fitsWith_1 13 rfl rfl)
theorem dX3_fitsWith_38 : decode cX3_fitsWith 38 = .ok (.aload_n 0, 1) := dk_42 (dk_at dksX3_fitsWith_1 14 rfl rfl)
theorem dX3_fitsWith_39 : decode cX3_fitsWith 39 = .ok (.getfield 62, 3) := dk_180 0 62 (dk_at dksX3_fitsWith_1 15 rfl rfl)
theorem dX3_fitsWith_42 : decode cX3_fitsWith 42 = .ok (.iload_n 3, 1) := dk_29 (dk_at dksX3_fitsWith_1 18 rfl rfl)
theorem dX3_fitsWith_43 : decode cX3_fitsWith 43 = .ok (.iaload, 1) := dk_46 (dk_at dksX3_fitsWith_1 19 rfl rfl)
theorem dX3_fitsWith_44 : decode cX3_fitsWith 44 = .ok (.aload_n 0, 1) := dk_42 (dk_at dksX3_fitsWith_1 20 rfl rfl)
theorem dX3_fitsWith_45 : decode cX3_fitsWith 45 = .ok (.getfield 62, 3) := dk_180 0 62 (dk_at dksX3_fitsWith_1 21 rfl rfl)
theorem dX3_fitsWith_48 : decode cX3_fitsWith 48 = .ok (.iload_n 1, 1) := dk_27 (dk_at dksX3_fitsWith_2 0 rfl rfl)
theorem dX3_fitsWith_49 : decode cX3_fitsWith 49 = .ok (.iaload, 1) := dk_46 (dk_at dksX3_fitsWith_2 1 rfl rfl)
theorem dX3_fitsWith_50 : decode cX3_fitsWith 50 = .ok (.invokevirtual 407, 3) := dk_182 1 151 (dk_at dksX3_fitsWith_2 2 rfl rfl)
theorem dX3_fitsWith_53 : decode cX3_fitsWith 53 = .ok (.aload_n 0, 1) := dk_42 (dk_at dksX3_fitsWith_2 5 rfl rfl)
theorem dX3_fitsWith_54 : decode cX3_fitsWith 54 = .ok (.iconst 1, 1) := dk_4 (dk_at dksX3_fitsWith_2 6 rfl rfl)
theorem dX3_fitsWith_55 : decode cX3_fitsWith 55 = .ok (.iload_n 2, 1) := dk_28 (dk_at dksX3_fitsWith_2 7 rfl rfl)
theorem dX3_fitsWith_56 : decode cX3_fitsWith 56 = .ok (.ishl, 1) := dk_120 (dk_at dksX3_fitsWith_2 8 rfl rfl)
theorem dX3_fitsWith_57 : decode cX3_fitsWith 57 = .ok (.iconst 1, 1) := dk_4 (dk_at dksX3_fitsWith_2 9 rfl rfl)
theorem dX3_fitsWith_58 : decode cX3_fitsWith 58 = .ok (.iload_n 3, 1) := dk_29 (dk_at dksX3_fitsWith_2 10 rfl rfl)
theorem dX3_fitsWith_59 : decode cX3_fitsWith 59 = .ok (.ishl, 1) := dk_120 (dk_at dksX3_fitsWith_2 11 rfl rfl)
theorem dX3_fitsWith_60 : decode cX3_fitsWith 60 = .ok (.ior, 1) := dk_128 (dk_at dksX3_fitsWith_2 12 rfl rfl)
theorem dX3_fitsWith_61 : decode cX3_fitsWith 61 = .ok (.iconst 1, 1) := dk_4 (dk_at dksX3_fitsWith_2 13 rfl rfl)
theorem dX3_fitsWith_62 : decode cX3_fitsWith 62 = .ok (.iload_n 1, 1) := dk_27 (dk_at dksX3_fitsWith_2 14 rfl rfl)
theorem dX3_fitsWith_63 : decode cX3_fitsWith 63 = .ok (.ishl, 1) := dk_120 (dk_at dksX3_fitsWith_2 15 rfl rfl)
theorem dX3_fitsWith_64 : decode cX3_fitsWith 64 = .ok (.ior, 1) := dk_128 (dk_at dksX3_fitsWith_2 16 rfl rfl)
theorem dX3_fitsWith_65 : decode cX3_fitsWith 65 = .ok (.invokevirtual 219, 3) := dk_182 0 219 (dk_at dksX3_fitsWith_2 17 rfl rfl)
theorem dX3_fitsWith_68 : decode cX3_fitsWith 68 = .ok (.iconst (-1), 1) := dk_2 (dk_at dksX3_fitsWith_2 20 rfl rfl)
theorem dX3_fitsWith_69 : decode cX3_fitsWith 69 = .ok (.if_icmp .eq 7, 3) := dk_159 0 7 (dk_at dksX3_fitsWith_2 21 rfl rfl)
theorem dX3_fitsWith_72 : decode cX3_fitsWith 72 = .ok (.iconst 1, 1) := dk_4 (dk_at dksX3_fitsWith_3 0 rfl rfl)
theorem dX3_fitsWith_73 : decode cX3_fitsWith 73 = .ok (.goto 4, 3) := dk_167 0 4 (dk_at dksX3_fitsWith_3 1 rfl rfl)
theorem dX3_fitsWith_76 : decode cX3_fitsWith 76 = .ok (.iconst 0, 1) := dk_3 (dk_at dksX3_fitsWith_3 4 rfl rfl)
theorem dX3_fitsWith_77 : decode cX3_fitsWith 77 = .ok (.if_icmp .eq 5, 3) := dk_159 0 5 (dk_at dksX3_fitsWith_3 5 rfl rfl)
theorem dX3_fitsWith_80 : decode cX3_fitsWith 80 = .ok (.iconst 0, 1) := dk_3 (dk_at dksX3_fitsWith_3 8 rfl rfl)
theorem dX3_fitsWith_81 : decode cX3_fitsWith 81 = .ok (.ireturn, 1) := dk_172 (dk_at dksX3_fitsWith_3 9 rfl rfl)
theorem dX3_fitsWith_82 : decode cX3_fitsWith 82 = .ok (.iinc 3 1, 3) := dk_132 3 1 (dk_at dksX3_fitsWith_3 10 rfl rfl)
theorem dX3_fitsWith_85 : decode cX3_fitsWith 85 = .ok (.goto (-59), 3) := dk_167 255 197 (dk_at dksX3_fitsWith_3 13 rfl rfl)
theorem dX3_fitsWith_88 : decode cX3_fitsWith 88 = .ok (.iinc 2 1, 3) := dk_132 2 1 (dk_at dksX3_fitsWith_3 16 rfl rfl)
theorem dX3_fitsWith_91 : decode cX3_fitsWith 91 = .ok (.goto (-89), 3) := dk_167 255 167 (dk_at dksX3_fitsWith_3 19 rfl rfl)
theorem dX3_fitsWith_94 : decode cX3_fitsWith 94 = .ok (.iconst 1, 1) := dk_4 (dk_at dksX3_fitsWith_3 22 rfl rfl)
theorem dX3_fitsWith_95 : decode cX3_fitsWith 95 = .ok (.ireturn, 1) := dk_172 (dk_at dksX3_fitsWith_3 23 rfl rfl)
abbrev cX3_areInLineOn : ByteArray := prog_15_method_100_code
def yX3_areInLineOn : MethodName := ⟨RX3, "areInLineOn", "(III)Z"⟩
def dkwX3_areInLineOn_7 : List UInt8 := [167, 0, 4, 3, 172]
abbrev dktX3_areInLineOn_7 : List UInt8 := dkwX3_areInLineOn_7 ++ []
def dkwX3_areInLineOn_6 : List UInt8 := [42, 180, 0, 71, 28, 46, 104, 100, 104, 96, 54, 4, 21, 4, 42, 180, 1, 148, 112, 154, 0, 7, 4]
abbrev dktX3_areInLineOn_6 : List UInt8 := dkwX3_areInLineOn_6 ++ dktX3_areInLineOn_7
def dkwX3_areInLineOn_5 : List UInt8 := [180, 0, 74, 27, 46, 42, 180, 0, 68, 28, 46, 42, 180, 0, 71, 29, 46, 104, 42, 180, 0, 68, 29, 46]
abbrev dktX3_areInLineOn_5 : List UInt8 := dkwX3_areInLineOn_5 ++ dktX3_areInLineOn_6
def dkwX3_areInLineOn_4 : List UInt8 := [180, 0, 74, 29, 46, 104, 42, 180, 0, 68, 29, 46, 42, 180, 0, 74, 28, 46, 104, 100, 104, 100, 42]
abbrev dktX3_areInLineOn_4 : List UInt8 := dkwX3_areInLineOn_4 ++ dktX3_areInLineOn_5
def dkwX3_areInLineOn_3 : List UInt8 := [42, 180, 0, 74, 28, 46, 104, 100, 104, 42, 180, 0, 71, 27, 46, 42, 180, 0, 68, 28, 46, 42]
abbrev dktX3_areInLineOn_3 : List UInt8 := dkwX3_areInLineOn_3 ++ dktX3_areInLineOn_4
def dkwX3_areInLineOn_2 : List UInt8 := [180, 0, 68, 27, 46, 42, 180, 0, 71, 28, 46, 42, 180, 0, 74, 29, 46, 104, 42, 180, 0, 71, 29, 46]
abbrev dktX3_areInLineOn_2 : List UInt8 := dkwX3_areInLineOn_2 ++ dktX3_areInLineOn_3
def dkwX3_areInLineOn_1 : List UInt8 := [46, 42, 180, 0, 71, 28, 46, 42, 180, 0, 68, 29, 46, 42, 180, 0, 71, 29, 46, 184, 1, 16, 172, 42]
abbrev dktX3_areInLineOn_1 : List UInt8 := dkwX3_areInLineOn_1 ++ dktX3_areInLineOn_2
def dkwX3_areInLineOn_0 : List UInt8 := [42, 180, 1, 148, 154, 0, 43, 42, 180, 0, 68, 27, 46, 42, 180, 0, 71, 27, 46, 42, 180, 0, 68, 28]
abbrev dktX3_areInLineOn_0 : List UInt8 := dkwX3_areInLineOn_0 ++ dktX3_areInLineOn_1
theorem dksX3_areInLineOn_0 : cX3_areInLineOn.data.toList.drop 0 = dktX3_areInLineOn_0 := by decide +kernel
theorem dksX3_areInLineOn_1 : cX3_areInLineOn.data.toList.drop 24 = dktX3_areInLineOn_1 := dk_seg dksX3_areInLineOn_0 24 rfl rfl
theorem dksX3_areInLineOn_2 : cX3_areInLineOn.data.toList.drop 48 = dktX3_areInLineOn_2 := dk_seg dksX3_areInLineOn_1 24 rfl rfl
theorem dksX3_areInLineOn_3 : cX3_areInLineOn.data.toList.drop 72 = dktX3_areInLineOn_3 := dk_seg dksX3_areInLineOn_2 24 rfl rfl
theorem dksX3_areInLineOn_4 : cX3_areInLineOn.data.toList.drop 94 = dktX3_areInLineOn_4 := dk_seg dksX3_areInLineOn_3 22 rfl rfl
theorem dksX3_areInLineOn_5 : cX3_areInLineOn.data.toList.drop 117 = dktX3_areInLineOn_5 := dk_seg dksX3_areInLineOn_4 23 rfl rfl
theorem dksX3_areInLineOn_6 : cX3_areInLineOn.data.toList.drop 141 = dktX3_areInLineOn_6 := dk_seg dksX3_areInLineOn_5 24 rfl rfl
theorem dksX3_areInLineOn_7 : cX3_areInLineOn.data.toList.drop 164 = dktX3_areInLineOn_7 := dk_seg dksX3_areInLineOn_6 23 rfl rfl
theorem dX3_areInLineOn_0 : decode cX3_areInLineOn 0 = .ok (.aload_n 0, 1) := dk_42 (dk_at dksX3_areInLineOn_0 0 rfl rfl)
theorem dX3_areInLineOn_1 : decode cX3_areInLineOn 1 = .ok (.getfield 404, 3) := dk_180 1 148 (dk_at dksX3_areInLineOn_0 1 rfl rfl)
theorem dX3_areInLineOn_4 : decode cX3_areInLineOn 4 = .ok (.ifCond .ne 43, 3) := dk_154 0 43 (dk_at dksX3_areInLineOn_0 4 rfl rfl)
theorem dX3_areInLineOn_7 : decode cX3_areInLineOn 7 = .ok (.aload_n 0, 1) := dk_42 (dk_at dksX3_areInLineOn_0 7 rfl rfl)
theorem dX3_areInLineOn_8 : decode cX3_areInLineOn 8 = .ok (.getfield 68, 3) := dk_180 0 68 (dk_at dksX3_areInLineOn_0 8 rfl rfl)
theorem dX3_areInLineOn_11 : decode cX3_areInLineOn 11 = .ok (.iload_n 1, 1) := dk_27 (dk_at dksX3_areInLineOn_0 11 rfl rfl)
theorem dX3_areInLineOn_12 : decode cX3_areInLineOn 12 = .ok (.iaload, 1) := dk_46 (dk_at dksX3_areInLineOn_0 12 rfl rfl)
theorem dX3_areInLineOn_13 : decode cX3_areInLineOn 13 = .ok (.aload_n 0, 1) := dk_42 (dk_at dksX3_areInLineOn_0 13 rfl rfl)
theorem dX3_areInLineOn_14 : decode cX3_areInLineOn 14 = .ok (.getfield 71, 3) := dk_180 0 71 (dk_at dksX3_areInLineOn_0 14 rfl rfl)
theorem dX3_areInLineOn_17 : decode cX3_areInLineOn 17 = .ok (.iload_n 1, 1) := dk_27 (dk_at dksX3_areInLineOn_0 17 rfl rfl)
theorem dX3_areInLineOn_18 : decode cX3_areInLineOn 18 = .ok (.iaload, 1) := dk_46 (dk_at dksX3_areInLineOn_0 18 rfl rfl)
theorem dX3_areInLineOn_19 : decode cX3_areInLineOn 19 = .ok (.aload_n 0, 1) := dk_42 (dk_at dksX3_areInLineOn_0 19 rfl rfl)
theorem dX3_areInLineOn_20 : decode cX3_areInLineOn 20 = .ok (.getfield 68, 3) := dk_180 0 68 (dk_at dksX3_areInLineOn_0 20 rfl rfl)
theorem dX3_areInLineOn_23 : decode cX3_areInLineOn 23 = .ok (.iload_n 2, 1) := dk_28 (dk_at dksX3_areInLineOn_0 23 rfl rfl)
theorem dX3_areInLineOn_24 : decode cX3_areInLineOn 24 = .ok (.iaload, 1) := dk_46 (dk_at dksX3_areInLineOn_1 0 rfl rfl)
theorem dX3_areInLineOn_25 : decode cX3_areInLineOn 25 = .ok (.aload_n 0, 1) := dk_42 (dk_at dksX3_areInLineOn_1 1 rfl rfl)
theorem dX3_areInLineOn_26 : decode cX3_areInLineOn 26 = .ok (.getfield 71, 3) := dk_180 0 71 (dk_at dksX3_areInLineOn_1 2 rfl rfl)
theorem dX3_areInLineOn_29 : decode cX3_areInLineOn 29 = .ok (.iload_n 2, 1) := dk_28 (dk_at dksX3_areInLineOn_1 5 rfl rfl)
theorem dX3_areInLineOn_30 : decode cX3_areInLineOn 30 = .ok (.iaload, 1) := dk_46 (dk_at dksX3_areInLineOn_1 6 rfl rfl)
theorem dX3_areInLineOn_31 : decode cX3_areInLineOn 31 = .ok (.aload_n 0, 1) := dk_42 (dk_at dksX3_areInLineOn_1 7 rfl rfl)
theorem dX3_areInLineOn_32 : decode cX3_areInLineOn 32 = .ok (.getfield 68, 3) := dk_180 0 68 (dk_at dksX3_areInLineOn_1 8 rfl rfl)
theorem dX3_areInLineOn_35 : decode cX3_areInLineOn 35 = .ok (.iload_n 3, 1) := dk_29 (dk_at dksX3_areInLineOn_1 11 rfl rfl)
theorem dX3_areInLineOn_36 : decode cX3_areInLineOn 36 = .ok (.iaload, 1) := dk_46 (dk_at dksX3_areInLineOn_1 12 rfl rfl)
theorem dX3_areInLineOn_37 : decode cX3_areInLineOn 37 = .ok (.aload_n 0, 1) := dk_42 (dk_at dksX3_areInLineOn_1 13 rfl rfl)
theorem dX3_areInLineOn_38 : decode cX3_areInLineOn 38 = .ok (.getfield 71, 3) := dk_180 0 71 (dk_at dksX3_areInLineOn_1 14 rfl rfl)
theorem dX3_areInLineOn_41 : decode cX3_areInLineOn 41 = .ok (.iload_n 3, 1) := dk_29 (dk_at dksX3_areInLineOn_1 17 rfl rfl)
theorem dX3_areInLineOn_42 : decode cX3_areInLineOn 42 = .ok (.iaload, 1) := dk_46 (dk_at dksX3_areInLineOn_1 18 rfl rfl)
theorem dX3_areInLineOn_43 : decode cX3_areInLineOn 43 = .ok (.invokestatic 272, 3) := dk_184 1 16 (dk_at dksX3_areInLineOn_1 19 rfl rfl)
theorem dX3_areInLineOn_46 : decode cX3_areInLineOn 46 = .ok (.ireturn, 1) := dk_172 (dk_at dksX3_areInLineOn_1 22 rfl rfl)
theorem dX3_areInLineOn_47 : decode cX3_areInLineOn 47 = .ok (.aload_n 0, 1) := dk_42 (dk_at dksX3_areInLineOn_1 23 rfl rfl)
theorem dX3_areInLineOn_48 : decode cX3_areInLineOn 48 = .ok (.getfield 68, 3) := dk_180 0 68 (dk_at dksX3_areInLineOn_2 0 rfl rfl)
theorem dX3_areInLineOn_51 : decode cX3_areInLineOn 51 = .ok (.iload_n 1, 1) := dk_27 (dk_at dksX3_areInLineOn_2 3 rfl rfl)
theorem dX3_areInLineOn_52 : decode cX3_areInLineOn 52 = .ok (.iaload, 1) := dk_46 (dk_at dksX3_areInLineOn_2 4 rfl rfl)
theorem dX3_areInLineOn_53 : decode cX3_areInLineOn 53 = .ok (.aload_n 0, 1) := dk_42 (dk_at dksX3_areInLineOn_2 5 rfl rfl)
theorem dX3_areInLineOn_54 : decode cX3_areInLineOn 54 = .ok (.getfield 71, 3) := dk_180 0 71 (dk_at dksX3_areInLineOn_2 6 rfl rfl)
theorem dX3_areInLineOn_57 : decode cX3_areInLineOn 57 = .ok (.iload_n 2, 1) := dk_28 (dk_at dksX3_areInLineOn_2 9 rfl rfl)
theorem dX3_areInLineOn_58 : decode cX3_areInLineOn 58 = .ok (.iaload, 1) := dk_46 (dk_at dksX3_areInLineOn_2 10 rfl rfl)
theorem dX3_areInLineOn_59 : decode cX3_areInLineOn 59 = .ok (.aload_n 0, 1) := dk_42 (dk_at dksX3_areInLineOn_2 11 rfl rfl)
theorem dX3_areInLineOn_60 : decode cX3_areInLineOn 60 = .ok (.getfield 74, 3) := dk_180 0 74 (dk_at dksX3_areInLineOn_2 12 rfl rfl)
theorem dX3_areInLineOn_63 : decode cX3_areInLineOn 63 = .ok (.iload_n 3, 1) := dk_29 (dk_at dksX3_areInLineOn_2 15 rfl rfl)
theorem dX3_areInLineOn_64 : decode cX3_areInLineOn 64 = .ok (.iaload, 1) := dk_46 (dk_at dksX3_areInLineOn_2 16 rfl rfl)
theorem dX3_areInLineOn_65 : decode cX3_areInLineOn 65 = .ok (.imul, 1) := dk_104 (dk_at dksX3_areInLineOn_2 17 rfl rfl)
theorem dX3_areInLineOn_66 : decode cX3_areInLineOn 66 = .ok (.aload_n 0, 1) := dk_42 (dk_at dksX3_areInLineOn_2 18 rfl rfl)
theorem dX3_areInLineOn_67 : decode cX3_areInLineOn 67 = .ok (.getfield 71, 3) := dk_180 0 71 (dk_at dksX3_areInLineOn_2 19 rfl rfl)
theorem dX3_areInLineOn_70 : decode cX3_areInLineOn 70 = .ok (.iload_n 3, 1) := dk_29 (dk_at dksX3_areInLineOn_2 22 rfl rfl)
theorem dX3_areInLineOn_71 : decode cX3_areInLineOn 71 = .ok (.iaload, 1) := dk_46 (dk_at dksX3_areInLineOn_2 23 rfl rfl)
theorem dX3_areInLineOn_72 : decode cX3_areInLineOn 72 = .ok (.aload_n 0, 1) := dk_42 (dk_at dksX3_areInLineOn_3 0 rfl rfl)
theorem dX3_areInLineOn_73 : decode cX3_areInLineOn 73 = .ok (.getfield 74, 3) := dk_180 0 74 (dk_at dksX3_areInLineOn_3 1 rfl rfl)
theorem dX3_areInLineOn_76 : decode cX3_areInLineOn 76 = .ok (.iload_n 2, 1) := dk_28 (dk_at dksX3_areInLineOn_3 4 rfl rfl)
theorem dX3_areInLineOn_77 : decode cX3_areInLineOn 77 = .ok (.iaload, 1) := dk_46 (dk_at dksX3_areInLineOn_3 5 rfl rfl)
theorem dX3_areInLineOn_78 : decode cX3_areInLineOn 78 = .ok (.imul, 1) := dk_104 (dk_at dksX3_areInLineOn_3 6 rfl rfl)
theorem dX3_areInLineOn_79 : decode cX3_areInLineOn 79 = .ok (.isub, 1) := dk_100 (dk_at dksX3_areInLineOn_3 7 rfl rfl)
theorem dX3_areInLineOn_80 : decode cX3_areInLineOn 80 = .ok (.imul, 1) := dk_104 (dk_at dksX3_areInLineOn_3 8 rfl rfl)
theorem dX3_areInLineOn_81 : decode cX3_areInLineOn 81 = .ok (.aload_n 0, 1) := dk_42 (dk_at dksX3_areInLineOn_3 9 rfl rfl)
theorem dX3_areInLineOn_82 : decode cX3_areInLineOn 82 = .ok (.getfield 71, 3) := dk_180 0 71 (dk_at dksX3_areInLineOn_3 10 rfl rfl)
theorem dX3_areInLineOn_85 : decode cX3_areInLineOn 85 = .ok (.iload_n 1, 1) := dk_27 (dk_at dksX3_areInLineOn_3 13 rfl rfl)
theorem dX3_areInLineOn_86 : decode cX3_areInLineOn 86 = .ok (.iaload, 1) := dk_46 (dk_at dksX3_areInLineOn_3 14 rfl rfl)
theorem dX3_areInLineOn_87 : decode cX3_areInLineOn 87 = .ok (.aload_n 0, 1) := dk_42 (dk_at dksX3_areInLineOn_3 15 rfl rfl)
theorem dX3_areInLineOn_88 : decode cX3_areInLineOn 88 = .ok (.getfield 68, 3) := dk_180 0 68 (dk_at dksX3_areInLineOn_3 16 rfl rfl)
theorem dX3_areInLineOn_91 : decode cX3_areInLineOn 91 = .ok (.iload_n 2, 1) := dk_28 (dk_at dksX3_areInLineOn_3 19 rfl rfl)
theorem dX3_areInLineOn_92 : decode cX3_areInLineOn 92 = .ok (.iaload, 1) := dk_46 (dk_at dksX3_areInLineOn_3 20 rfl rfl)
theorem dX3_areInLineOn_93 : decode cX3_areInLineOn 93 = .ok (.aload_n 0, 1) := dk_42 (dk_at dksX3_areInLineOn_3 21 rfl rfl)
theorem dX3_areInLineOn_94 : decode cX3_areInLineOn 94 = .ok (.getfield 74, 3) := dk_180 0 74 (dk_at dksX3_areInLineOn_4 0 rfl rfl)
theorem dX3_areInLineOn_97 : decode cX3_areInLineOn 97 = .ok (.iload_n 3, 1) := dk_29 (dk_at dksX3_areInLineOn_4 3 rfl rfl)
theorem dX3_areInLineOn_98 : decode cX3_areInLineOn 98 = .ok (.iaload, 1) := dk_46 (dk_at dksX3_areInLineOn_4 4 rfl rfl)
theorem dX3_areInLineOn_99 : decode cX3_areInLineOn 99 = .ok (.imul, 1) := dk_104 (dk_at dksX3_areInLineOn_4 5 rfl rfl)
theorem dX3_areInLineOn_100 : decode cX3_areInLineOn 100 = .ok (.aload_n 0, 1) := dk_42 (dk_at dksX3_areInLineOn_4 6 rfl rfl)
theorem dX3_areInLineOn_101 : decode cX3_areInLineOn 101 = .ok (.getfield 68, 3) := dk_180 0 68 (dk_at dksX3_areInLineOn_4 7 rfl rfl)
theorem dX3_areInLineOn_104 : decode cX3_areInLineOn 104 = .ok (.iload_n 3, 1) := dk_29 (dk_at dksX3_areInLineOn_4 10 rfl rfl)
theorem dX3_areInLineOn_105 : decode cX3_areInLineOn 105 = .ok (.iaload, 1) := dk_46 (dk_at dksX3_areInLineOn_4 11 rfl rfl)
theorem dX3_areInLineOn_106 : decode cX3_areInLineOn 106 = .ok (.aload_n 0, 1) := dk_42 (dk_at dksX3_areInLineOn_4 12 rfl rfl)
theorem dX3_areInLineOn_107 : decode cX3_areInLineOn 107 = .ok (.getfield 74, 3) := dk_180 0 74 (dk_at dksX3_areInLineOn_4 13 rfl rfl)
theorem dX3_areInLineOn_110 : decode cX3_areInLineOn 110 = .ok (.iload_n 2, 1) := dk_28 (dk_at dksX3_areInLineOn_4 16 rfl rfl)
theorem dX3_areInLineOn_111 : decode cX3_areInLineOn 111 = .ok (.iaload, 1) := dk_46 (dk_at dksX3_areInLineOn_4 17 rfl rfl)
theorem dX3_areInLineOn_112 : decode cX3_areInLineOn 112 = .ok (.imul, 1) := dk_104 (dk_at dksX3_areInLineOn_4 18 rfl rfl)
theorem dX3_areInLineOn_113 : decode cX3_areInLineOn 113 = .ok (.isub, 1) := dk_100 (dk_at dksX3_areInLineOn_4 19 rfl rfl)
theorem dX3_areInLineOn_114 : decode cX3_areInLineOn 114 = .ok (.imul, 1) := dk_104 (dk_at dksX3_areInLineOn_4 20 rfl rfl)
theorem dX3_areInLineOn_115 : decode cX3_areInLineOn 115 = .ok (.isub, 1) := dk_100 (dk_at dksX3_areInLineOn_4 21 rfl rfl)
theorem dX3_areInLineOn_116 : decode cX3_areInLineOn 116 = .ok (.aload_n 0, 1) := dk_42 (dk_at dksX3_areInLineOn_4 22 rfl rfl)
theorem dX3_areInLineOn_117 : decode cX3_areInLineOn 117 = .ok (.getfield 74, 3) := dk_180 0 74 (dk_at dksX3_areInLineOn_5 0 rfl rfl)
theorem dX3_areInLineOn_120 : decode cX3_areInLineOn 120 = .ok (.iload_n 1, 1) := dk_27 (dk_at dksX3_areInLineOn_5 3 rfl rfl)
theorem dX3_areInLineOn_121 : decode cX3_areInLineOn 121 = .ok (.iaload, 1) := dk_46 (dk_at dksX3_areInLineOn_5 4 rfl rfl)
theorem dX3_areInLineOn_122 : decode cX3_areInLineOn 122 = .ok (.aload_n 0, 1) := dk_42 (dk_at dksX3_areInLineOn_5 5 rfl rfl)
theorem dX3_areInLineOn_123 : decode cX3_areInLineOn 123 = .ok (.getfield 68, 3) := dk_180 0 68 (dk_at dksX3_areInLineOn_5 6 rfl rfl)
theorem dX3_areInLineOn_126 : decode cX3_areInLineOn 126 = .ok (.iload_n 2, 1) := dk_28 (dk_at dksX3_areInLineOn_5 9 rfl rfl)
theorem dX3_areInLineOn_127 : decode cX3_areInLineOn 127 = .ok (.iaload, 1) := dk_46 (dk_at dksX3_areInLineOn_5 10 rfl rfl)
theorem dX3_areInLineOn_128 : decode cX3_areInLineOn 128 = .ok (.aload_n 0, 1) := dk_42 (dk_at dksX3_areInLineOn_5 11 rfl rfl)
theorem dX3_areInLineOn_129 : decode cX3_areInLineOn 129 = .ok (.getfield 71, 3) := dk_180 0 71 (dk_at dksX3_areInLineOn_5 12 rfl rfl)
theorem dX3_areInLineOn_132 : decode cX3_areInLineOn 132 = .ok (.iload_n 3, 1) := dk_29 (dk_at dksX3_areInLineOn_5 15 rfl rfl)
theorem dX3_areInLineOn_133 : decode cX3_areInLineOn 133 = .ok (.iaload, 1) := dk_46 (dk_at dksX3_areInLineOn_5 16 rfl rfl)
theorem dX3_areInLineOn_134 : decode cX3_areInLineOn 134 = .ok (.imul, 1) := dk_104 (dk_at dksX3_areInLineOn_5 17 rfl rfl)
theorem dX3_areInLineOn_135 : decode cX3_areInLineOn 135 = .ok (.aload_n 0, 1) := dk_42 (dk_at dksX3_areInLineOn_5 18 rfl rfl)
theorem dX3_areInLineOn_136 : decode cX3_areInLineOn 136 = .ok (.getfield 68, 3) := dk_180 0 68 (dk_at dksX3_areInLineOn_5 19 rfl rfl)
theorem dX3_areInLineOn_139 : decode cX3_areInLineOn 139 = .ok (.iload_n 3, 1) := dk_29 (dk_at dksX3_areInLineOn_5 22 rfl rfl)
theorem dX3_areInLineOn_140 : decode cX3_areInLineOn 140 = .ok (.iaload, 1) := dk_46 (dk_at dksX3_areInLineOn_5 23 rfl rfl)
theorem dX3_areInLineOn_141 : decode cX3_areInLineOn 141 = .ok (.aload_n 0, 1) := dk_42 (dk_at dksX3_areInLineOn_6 0 rfl rfl)
theorem dX3_areInLineOn_142 : decode cX3_areInLineOn 142 = .ok (.getfield 71, 3) := dk_180 0 71 (dk_at dksX3_areInLineOn_6 1 rfl rfl)
theorem dX3_areInLineOn_145 : decode cX3_areInLineOn 145 = .ok (.iload_n 2, 1) := dk_28 (dk_at dksX3_areInLineOn_6 4 rfl rfl)
theorem dX3_areInLineOn_146 : decode cX3_areInLineOn 146 = .ok (.iaload, 1) := dk_46 (dk_at dksX3_areInLineOn_6 5 rfl rfl)
theorem dX3_areInLineOn_147 : decode cX3_areInLineOn 147 = .ok (.imul, 1) := dk_104 (dk_at dksX3_areInLineOn_6 6 rfl rfl)
theorem dX3_areInLineOn_148 : decode cX3_areInLineOn 148 = .ok (.isub, 1) := dk_100 (dk_at dksX3_areInLineOn_6 7 rfl rfl)
theorem dX3_areInLineOn_149 : decode cX3_areInLineOn 149 = .ok (.imul, 1) := dk_104 (dk_at dksX3_areInLineOn_6 8 rfl rfl)
theorem dX3_areInLineOn_150 : decode cX3_areInLineOn 150 = .ok (.iadd, 1) := dk_96 (dk_at dksX3_areInLineOn_6 9 rfl rfl)
theorem dX3_areInLineOn_151 : decode cX3_areInLineOn 151 = .ok (.istore 4, 2) := dk_54 4 (dk_at dksX3_areInLineOn_6 10 rfl rfl)
theorem dX3_areInLineOn_153 : decode cX3_areInLineOn 153 = .ok (.iload 4, 2) := dk_21 4 (dk_at dksX3_areInLineOn_6 12 rfl rfl)
theorem dX3_areInLineOn_155 : decode cX3_areInLineOn 155 = .ok (.aload_n 0, 1) := dk_42 (dk_at dksX3_areInLineOn_6 14 rfl rfl)
theorem dX3_areInLineOn_156 : decode cX3_areInLineOn 156 = .ok (.getfield 404, 3) := dk_180 1 148 (dk_at dksX3_areInLineOn_6 15 rfl rfl)
theorem dX3_areInLineOn_159 : decode cX3_areInLineOn 159 = .ok (.irem, 1) := dk_112 (dk_at dksX3_areInLineOn_6 18 rfl rfl)
theorem dX3_areInLineOn_160 : decode cX3_areInLineOn 160 = .ok (.ifCond .ne 7, 3) := dk_154 0 7 (dk_at dksX3_areInLineOn_6 19 rfl rfl)
theorem dX3_areInLineOn_163 : decode cX3_areInLineOn 163 = .ok (.iconst 1, 1) := dk_4 (dk_at dksX3_areInLineOn_6 22 rfl rfl)
theorem dX3_areInLineOn_164 : decode cX3_areInLineOn 164 = .ok (.goto 4, 3) := dk_167 0 4 (dk_at dksX3_areInLineOn_7 0 rfl rfl)
theorem dX3_areInLineOn_167 : decode cX3_areInLineOn 167 = .ok (.iconst 0, 1) := dk_3 (dk_at dksX3_areInLineOn_7 3 rfl rfl)
theorem dX3_areInLineOn_168 : decode cX3_areInLineOn 168 = .ok (.ireturn, 1) := dk_172 (dk_at dksX3_areInLineOn_7 4 rfl rfl)
abbrev cX3_plane : ByteArray := prog_15_method_105_code
def yX3_plane : MethodName := ⟨RX3, "plane", "(II)I"⟩
def dkwX3_plane_7 : List UInt8 := [180, 0, 65, 28, 46, 172]
abbrev dktX3_plane_7 : List UInt8 := dkwX3_plane_7 ++ []
def dkwX3_plane_6 : List UInt8 := [2, 160, 0, 10, 42, 180, 1, 154, 167, 0, 20, 42, 180, 1, 154, 154, 0, 7, 2, 167, 0, 9, 42]
abbrev dktX3_plane_6 : List UInt8 := dkwX3_plane_6 ++ dktX3_plane_7
def dkwX3_plane_5 : List UInt8 := [167, 255, 189, 42, 3, 181, 1, 154, 42, 3, 28, 2, 159, 0, 7, 4, 167, 0, 4, 3, 182, 1, 163, 28]
abbrev dktX3_plane_5 : List UInt8 := dkwX3_plane_5 ++ dktX3_plane_6
def dkwX3_plane_4 : List UInt8 := [21, 5, 167, 0, 5, 21, 6, 4, 160, 0, 13, 42, 21, 4, 21, 5, 21, 6, 182, 1, 167, 132, 3, 1]
abbrev dktX3_plane_4 : List UInt8 := dkwX3_plane_4 ++ dktX3_plane_5
def dkwX3_plane_3 : List UInt8 := [27, 112, 54, 5, 29, 27, 112, 54, 6, 21, 4, 153, 0, 8, 21, 4, 167, 0, 15, 21, 5, 153, 0, 8]
abbrev dktX3_plane_3 : List UInt8 := dkwX3_plane_3 ++ dktX3_plane_4
def dkwX3_plane_2 : List UInt8 := [181, 1, 148, 4, 62, 29, 27, 27, 104, 27, 104, 162, 0, 64, 29, 27, 27, 104, 108, 54, 4, 29, 27, 108]
abbrev dktX3_plane_2 : List UInt8 := dkwX3_plane_2 ++ dktX3_plane_3
def dkwX3_plane_1 : List UInt8 := [27, 5, 6, 184, 1, 71, 154, 0, 9, 42, 5, 182, 0, 192, 172, 42, 3, 181, 1, 157, 42, 27]
abbrev dktX3_plane_1 : List UInt8 := dkwX3_plane_1 ++ dktX3_plane_2
def dkwX3_plane_0 : List UInt8 := [42, 3, 181, 0, 93, 28, 2, 159, 0, 17, 42, 28, 182, 1, 77, 154, 0, 9, 42, 4, 182, 0, 192, 172]
abbrev dktX3_plane_0 : List UInt8 := dkwX3_plane_0 ++ dktX3_plane_1
theorem dksX3_plane_0 : cX3_plane.data.toList.drop 0 = dktX3_plane_0 := by decide +kernel
theorem dksX3_plane_1 : cX3_plane.data.toList.drop 24 = dktX3_plane_1 := dk_seg dksX3_plane_0 24 rfl rfl
theorem dksX3_plane_2 : cX3_plane.data.toList.drop 46 = dktX3_plane_2 := dk_seg dksX3_plane_1 22 rfl rfl
theorem dksX3_plane_3 : cX3_plane.data.toList.drop 70 = dktX3_plane_3 := dk_seg dksX3_plane_2 24 rfl rfl
theorem dksX3_plane_4 : cX3_plane.data.toList.drop 94 = dktX3_plane_4 := dk_seg dksX3_plane_3 24 rfl rfl
theorem dksX3_plane_5 : cX3_plane.data.toList.drop 118 = dktX3_plane_5 := dk_seg dksX3_plane_4 24 rfl rfl
theorem dksX3_plane_6 : cX3_plane.data.toList.drop 142 = dktX3_plane_6 := dk_seg dksX3_plane_5 24 rfl rfl
theorem dksX3_plane_7 : cX3_plane.data.toList.drop 165 = dktX3_plane_7 := dk_seg dksX3_plane_6 23 rfl rfl
theorem dX3_plane_0 : decode cX3_plane 0 = .ok (.aload_n 0, 1) := dk_42 (dk_at dksX3_plane_0 0 rfl rfl)
theorem dX3_plane_1 : decode cX3_plane 1 = .ok (.iconst 0, 1) := dk_3 (dk_at dksX3_plane_0 1 rfl rfl)
theorem dX3_plane_2 : decode cX3_plane 2 = .ok (.putfield 93, 3) := dk_181 0 93 (dk_at dksX3_plane_0 2 rfl rfl)
theorem dX3_plane_5 : decode cX3_plane 5 = .ok (.iload_n 2, 1) := dk_28 (dk_at dksX3_plane_0 5 rfl rfl)
theorem dX3_plane_6 : decode cX3_plane 6 = .ok (.iconst (-1), 1) := dk_2 (dk_at dksX3_plane_0 6 rfl rfl)
theorem dX3_plane_7 : decode cX3_plane 7 = .ok (.if_icmp .eq 17, 3) := dk_159 0 17 (dk_at dksX3_plane_0 7 rfl rfl)
theorem dX3_plane_10 : decode cX3_plane 10 = .ok (.aload_n 0, 1) := dk_42 (dk_at dksX3_plane_0 10 rfl rfl)
theorem dX3_plane_11 : decode cX3_plane 11 = .ok (.iload_n 2, 1) := dk_28 (dk_at dksX3_plane_0 11 rfl rfl)
theorem dX3_plane_12 : decode cX3_plane 12 = .ok (.invokevirtual 333, 3) := dk_182 1 77 (dk_at dksX3_plane_0 12 rfl rfl)
theorem dX3_plane_15 : decode cX3_plane 15 = .ok (.ifCond .ne 9, 3) := dk_154 0 9 (dk_at dksX3_plane_0 15 rfl rfl)
theorem dX3_plane_18 : decode cX3_plane 18 = .ok (.aload_n 0, 1) := dk_42 (dk_at dksX3_plane_0 18 rfl rfl)
theorem dX3_plane_19 : decode cX3_plane 19 = .ok (.iconst 1, 1) := dk_4 (dk_at dksX3_plane_0 19 rfl rfl)
theorem dX3_plane_20 : decode cX3_plane 20 = .ok (.invokevirtual 192, 3) := dk_182 0 192 (dk_at dksX3_plane_0 20 rfl rfl)
theorem dX3_plane_23 : decode cX3_plane 23 = .ok (.ireturn, 1) := dk_172 (dk_at dksX3_plane_0 23 rfl rfl)
theorem dX3_plane_24 : decode cX3_plane 24 = .ok (.iload_n 1, 1) := dk_27 (dk_at dksX3_plane_1 0 rfl rfl)
theorem dX3_plane_25 : decode cX3_plane 25 = .ok (.iconst 2, 1) := dk_5 (dk_at dksX3_plane_1 1 rfl rfl)
theorem dX3_plane_26 : decode cX3_plane 26 = .ok (.iconst 3, 1) := dk_6 (dk_at dksX3_plane_1 2 rfl rfl)
theorem dX3_plane_27 : decode cX3_plane 27 = .ok (.invokestatic 327, 3) := dk_184 1 71 (dk_at dksX3_plane_1 3 rfl rfl)
theorem dX3_plane_30 : decode cX3_plane 30 = .ok (.ifCond .ne 9, 3) := dk_154 0 9 (dk_at dksX3_plane_1 6 rfl rfl)
theorem dX3_plane_33 : decode cX3_plane 33 = .ok (.aload_n 0, 1) := dk_42 (dk_at dksX3_plane_1 9 rfl rfl)
theorem dX3_plane_34 : decode cX3_plane 34 = .ok (.iconst 2, 1) := dk_5 (dk_at dksX3_plane_1 10 rfl rfl)
theorem dX3_plane_35 : decode cX3_plane 35 = .ok (.invokevirtual 192, 3) := dk_182 0 192 (dk_at dksX3_plane_1 11 rfl rfl)
theorem dX3_plane_38 : decode cX3_plane 38 = .ok (.ireturn, 1) := dk_172 (dk_at dksX3_plane_1 14 rfl rfl)
theorem dX3_plane_39 : decode cX3_plane 39 = .ok (.aload_n 0, 1) := dk_42 (dk_at dksX3_plane_1 15 rfl rfl)
theorem dX3_plane_40 : decode cX3_plane 40 = .ok (.iconst 0, 1) := dk_3 (dk_at dksX3_plane_1 16 rfl rfl)
theorem dX3_plane_41 : decode cX3_plane 41 = .ok (.putfield 413, 3) := dk_181 1 157 (dk_at dksX3_plane_1 17 rfl rfl)
theorem dX3_plane_44 : decode cX3_plane 44 = .ok (.aload_n 0, 1) := dk_42 (dk_at dksX3_plane_1 20 rfl rfl)
theorem dX3_plane_45 : decode cX3_plane 45 = .ok (.iload_n 1, 1) := dk_27 (dk_at dksX3_plane_1 21 rfl rfl)
theorem dX3_plane_46 : decode cX3_plane 46 = .ok (.putfield 404, 3) := dk_181 1 148 (dk_at dksX3_plane_2 0 rfl rfl)
theorem dX3_plane_49 : decode cX3_plane 49 = .ok (.iconst 1, 1) := dk_4 (dk_at dksX3_plane_2 3 rfl rfl)
theorem dX3_plane_50 : decode cX3_plane 50 = .ok (.istore_n 3, 1) := dk_62 (dk_at dksX3_plane_2 4 rfl rfl)
theorem dX3_plane_51 : decode cX3_plane 51 = .ok (.iload_n 3, 1) := dk_29 (dk_at dksX3_plane_2 5 rfl rfl)
theorem dX3_plane_52 : decode cX3_plane 52 = .ok (.iload_n 1, 1) := dk_27 (dk_at dksX3_plane_2 6 rfl rfl)
theorem dX3_plane_53 : decode cX3_plane 53 = .ok (.iload_n 1, 1) := dk_27 (dk_at dksX3_plane_2 7 rfl rfl)
theorem dX3_plane_54 : decode cX3_plane 54 = .ok (.imul, 1) := dk_104 (dk_at dksX3_plane_2 8 rfl rfl)
theorem dX3_plane_55 : decode cX3_plane 55 = .ok (.iload_n 1, 1) := dk_27 (dk_at dksX3_plane_2 9 rfl rfl)
theorem dX3_plane_56 : decode cX3_plane 56 = .ok (.imul, 1) := dk_104 (dk_at dksX3_plane_2 10 rfl rfl)
theorem dX3_plane_57 : decode cX3_plane 57 = .ok (.if_icmp .ge 64, 3) := dk_162 0 64 (dk_at dksX3_plane_2 11 rfl rfl)
theorem dX3_plane_60 : decode cX3_plane 60 = .ok (.iload_n 3, 1) := dk_29 (dk_at dksX3_plane_2 14 rfl rfl)
theorem dX3_plane_61 : decode cX3_plane 61 = .ok (.iload_n 1, 1) := dk_27 (dk_at dksX3_plane_2 15 rfl rfl)
theorem dX3_plane_62 : decode cX3_plane 62 = .ok (.iload_n 1, 1) := dk_27 (dk_at dksX3_plane_2 16 rfl rfl)
theorem dX3_plane_63 : decode cX3_plane 63 = .ok (.imul, 1) := dk_104 (dk_at dksX3_plane_2 17 rfl rfl)
theorem dX3_plane_64 : decode cX3_plane 64 = .ok (.idiv, 1) := dk_108 (dk_at dksX3_plane_2 18 rfl rfl)
theorem dX3_plane_65 : decode cX3_plane 65 = .ok (.istore 4, 2) := dk_54 4 (dk_at dksX3_plane_2 19 rfl rfl)
theorem dX3_plane_67 : decode cX3_plane 67 = .ok (.iload_n 3, 1) := dk_29 (dk_at dksX3_plane_2 21 rfl rfl)
theorem dX3_plane_68 : decode cX3_plane 68 = .ok (.iload_n 1, 1) := dk_27 (dk_at dksX3_plane_2 22 rfl rfl)
theorem dX3_plane_69 : decode cX3_plane 69 = .ok (.idiv, 1) := dk_108 (dk_at dksX3_plane_2 23 rfl rfl)
theorem dX3_plane_70 : decode cX3_plane 70 = .ok (.iload_n 1, 1) := dk_27 (dk_at dksX3_plane_3 0 rfl rfl)
theorem dX3_plane_71 : decode cX3_plane 71 = .ok (.irem, 1) := dk_112 (dk_at dksX3_plane_3 1 rfl rfl)
theorem dX3_plane_72 : decode cX3_plane 72 = .ok (.istore 5, 2) := dk_54 5 (dk_at dksX3_plane_3 2 rfl rfl)
theorem dX3_plane_74 : decode cX3_plane 74 = .ok (.iload_n 3, 1) := dk_29 (dk_at dksX3_plane_3 4 rfl rfl)
theorem dX3_plane_75 : decode cX3_plane 75 = .ok (.iload_n 1, 1) := dk_27 (dk_at dksX3_plane_3 5 rfl rfl)
theorem dX3_plane_76 : decode cX3_plane 76 = .ok (.irem, 1) := dk_112 (dk_at dksX3_plane_3 6 rfl rfl)
theorem dX3_plane_77 : decode cX3_plane 77 = .ok (.istore 6, 2) := dk_54 6 (dk_at dksX3_plane_3 7 rfl rfl)
theorem dX3_plane_79 : decode cX3_plane 79 = .ok (.iload 4, 2) := dk_21 4 (dk_at dksX3_plane_3 9 rfl rfl)
theorem dX3_plane_81 : decode cX3_plane 81 = .ok (.ifCond .eq 8, 3) := dk_153 0 8 (dk_at dksX3_plane_3 11 rfl rfl)
theorem dX3_plane_84 : decode cX3_plane 84 = .ok (.iload 4, 2) := dk_21 4 (dk_at dksX3_plane_3 14 rfl rfl)
theorem dX3_plane_86 : decode cX3_plane 86 = .ok (.goto 15, 3) := dk_167 0 15 (dk_at dksX3_plane_3 16 rfl rfl)
theorem dX3_plane_89 : decode cX3_plane 89 = .ok (.iload 5, 2) := dk_21 5 (dk_at dksX3_plane_3 19 rfl rfl)
theorem dX3_plane_91 : decode cX3_plane 91 = .ok (.ifCond .eq 8, 3) := dk_153 0 8 (dk_at dksX3_plane_3 21 rfl rfl)
theorem dX3_plane_94 : decode cX3_plane 94 = .ok (.iload 5, 2) := dk_21 5 (dk_at dksX3_plane_4 0 rfl rfl)
theorem dX3_plane_96 : decode cX3_plane 96 = .ok (.goto 5, 3) := dk_167 0 5 (dk_at dksX3_plane_4 2 rfl rfl)
theorem dX3_plane_99 : decode cX3_plane 99 = .ok (.iload 6, 2) := dk_21 6 (dk_at dksX3_plane_4 5 rfl rfl)
theorem dX3_plane_101 : decode cX3_plane 101 = .ok (.iconst 1, 1) := dk_4 (dk_at dksX3_plane_4 7 rfl rfl)
theorem dX3_plane_102 : decode cX3_plane 102 = .ok (.if_icmp .ne 13, 3) := dk_160 0 13 (dk_at dksX3_plane_4 8 rfl rfl)
theorem dX3_plane_105 : decode cX3_plane 105 = .ok (.aload_n 0, 1) := dk_42 (dk_at dksX3_plane_4 11 rfl rfl)
theorem dX3_plane_106 : decode cX3_plane 106 = .ok (.iload 4, 2) := dk_21 4 (dk_at dksX3_plane_4 12 rfl rfl)
theorem dX3_plane_108 : decode cX3_plane 108 = .ok (.iload 5, 2) := dk_21 5 (dk_at dksX3_plane_4 14 rfl rfl)
theorem dX3_plane_110 : decode cX3_plane 110 = .ok (.iload 6, 2) := dk_21 6 (dk_at dksX3_plane_4 16 rfl rfl)
theorem dX3_plane_112 : decode cX3_plane 112 = .ok (.invokevirtual 423, 3) := dk_182 1 167 (dk_at dksX3_plane_4 18 rfl rfl)
theorem dX3_plane_115 : decode cX3_plane 115 = .ok (.iinc 3 1, 3) := dk_132 3 1 (dk_at dksX3_plane_4 21 rfl rfl)
theorem dX3_plane_118 : decode cX3_plane 118 = .ok (.goto (-67), 3) := dk_167 255 189 (dk_at dksX3_plane_5 0 rfl rfl)
theorem dX3_plane_121 : decode cX3_plane 121 = .ok (.aload_n 0, 1) := dk_42 (dk_at dksX3_plane_5 3 rfl rfl)
theorem dX3_plane_122 : decode cX3_plane 122 = .ok (.iconst 0, 1) := dk_3 (dk_at dksX3_plane_5 4 rfl rfl)
theorem dX3_plane_123 : decode cX3_plane 123 = .ok (.putfield 410, 3) := dk_181 1 154 (dk_at dksX3_plane_5 5 rfl rfl)
theorem dX3_plane_126 : decode cX3_plane 126 = .ok (.aload_n 0, 1) := dk_42 (dk_at dksX3_plane_5 8 rfl rfl)
theorem dX3_plane_127 : decode cX3_plane 127 = .ok (.iconst 0, 1) := dk_3 (dk_at dksX3_plane_5 9 rfl rfl)
theorem dX3_plane_128 : decode cX3_plane 128 = .ok (.iload_n 2, 1) := dk_28 (dk_at dksX3_plane_5 10 rfl rfl)
theorem dX3_plane_129 : decode cX3_plane 129 = .ok (.iconst (-1), 1) := dk_2 (dk_at dksX3_plane_5 11 rfl rfl)
theorem dX3_plane_130 : decode cX3_plane 130 = .ok (.if_icmp .eq 7, 3) := dk_159 0 7 (dk_at dksX3_plane_5 12 rfl rfl)
theorem dX3_plane_133 : decode cX3_plane 133 = .ok (.iconst 1, 1) := dk_4 (dk_at dksX3_plane_5 15 rfl rfl)
theorem dX3_plane_134 : decode cX3_plane 134 = .ok (.goto 4, 3) := dk_167 0 4 (dk_at dksX3_plane_5 16 rfl rfl)
theorem dX3_plane_137 : decode cX3_plane 137 = .ok (.iconst 0, 1) := dk_3 (dk_at dksX3_plane_5 19 rfl rfl)
theorem dX3_plane_138 : decode cX3_plane 138 = .ok (.invokevirtual 419, 3) := dk_182 1 163 (dk_at dksX3_plane_5 20 rfl rfl)
theorem dX3_plane_141 : decode cX3_plane 141 = .ok (.iload_n 2, 1) := dk_28 (dk_at dksX3_plane_5 23 rfl rfl)
theorem dX3_plane_142 : decode cX3_plane 142 = .ok (.iconst (-1), 1) := dk_2 (dk_at dksX3_plane_6 0 rfl rfl)
theorem dX3_plane_143 : decode cX3_plane 143 = .ok (.if_icmp .ne 10, 3) := dk_160 0 10 (dk_at dksX3_plane_6 1 rfl rfl)
theorem dX3_plane_146 : decode cX3_plane 146 = .ok (.aload_n 0, 1) := dk_42 (dk_at dksX3_plane_6 4 rfl rfl)
theorem dX3_plane_147 : decode cX3_plane 147 = .ok (.getfield 410, 3) := dk_180 1 154 (dk_at dksX3_plane_6 5 rfl rfl)
theorem dX3_plane_150 : decode cX3_plane 150 = .ok (.goto 20, 3) := dk_167 0 20 (dk_at dksX3_plane_6 8 rfl rfl)
theorem dX3_plane_153 : decode cX3_plane 153 = .ok (.aload_n 0, 1) := dk_42 (dk_at dksX3_plane_6 11 rfl rfl)
theorem dX3_plane_154 : decode cX3_plane 154 = .ok (.getfield 410, 3) := dk_180 1 154 (dk_at dksX3_plane_6 12 rfl rfl)
theorem dX3_plane_157 : decode cX3_plane 157 = .ok (.ifCond .ne 7, 3) := dk_154 0 7 (dk_at dksX3_plane_6 15 rfl rfl)
theorem dX3_plane_160 : decode cX3_plane 160 = .ok (.iconst (-1), 1) := dk_2 (dk_at dksX3_plane_6 18 rfl rfl)
theorem dX3_plane_161 : decode cX3_plane 161 = .ok (.goto 9, 3) := dk_167 0 9 (dk_at dksX3_plane_6 19 rfl rfl)
theorem dX3_plane_164 : decode cX3_plane 164 = .ok (.aload_n 0, 1) := dk_42 (dk_at dksX3_plane_6 22 rfl rfl)
theorem dX3_plane_165 : decode cX3_plane 165 = .ok (.getfield 65, 3) := dk_180 0 65 (dk_at dksX3_plane_7 0 rfl rfl)
theorem dX3_plane_168 : decode cX3_plane 168 = .ok (.iload_n 2, 1) := dk_28 (dk_at dksX3_plane_7 3 rfl rfl)
theorem dX3_plane_169 : decode cX3_plane 169 = .ok (.iaload, 1) := dk_46 (dk_at dksX3_plane_7 4 rfl rfl)
theorem dX3_plane_170 : decode cX3_plane 170 = .ok (.ireturn, 1) := dk_172 (dk_at dksX3_plane_7 5 rfl rfl)
abbrev cX3_set : ByteArray := prog_15_method_112_code
def yX3_set : MethodName := ⟨RX3, "set", "(I)I"⟩
def dkwX3_set_4 : List UInt8 := [42, 180, 1, 185, 172, 42, 4, 182, 0, 192, 172]
abbrev dktX3_set_4 : List UInt8 := dkwX3_set_4 ++ []
def dkwX3_set_3 : List UInt8 := [167, 0, 7, 42, 180, 1, 179, 172, 42, 182, 1, 197, 27, 7, 160, 0, 10, 42, 180, 1, 182, 167, 0, 7]
abbrev dktX3_set_3 : List UInt8 := dkwX3_set_3 ++ dktX3_set_4
def dkwX3_set_2 : List UInt8 := [42, 182, 1, 188, 172, 42, 182, 1, 191, 172, 42, 182, 1, 194, 27, 5, 160, 0, 10, 42, 180, 1, 176]
abbrev dktX3_set_2 : List UInt8 := dkwX3_set_2 ++ dktX3_set_3
def dkwX3_set_1 : List UInt8 := [170, 0, 0, 0, 0, 90, 0, 0, 0, 0, 0, 0, 0, 5, 0, 0, 0, 38, 0, 0, 0, 43, 0, 0, 0, 48, 0, 0, 0, 48, 0, 0, 0, 69, 0, 0, 0, 69]
abbrev dktX3_set_1 : List UInt8 := dkwX3_set_1 ++ dktX3_set_2
def dkwX3_set_0 : List UInt8 := [42, 3, 181, 0, 93, 27]
abbrev dktX3_set_0 : List UInt8 := dkwX3_set_0 ++ dktX3_set_1
theorem dksX3_set_0 : cX3_set.data.toList.drop 0 = dktX3_set_0 := by decide +kernel
theorem dksX3_set_1 : cX3_set.data.toList.drop 6 = dktX3_set_1 := dk_seg dksX3_set_0 6 rfl rfl
theorem dksX3_set_2 : cX3_set.data.toList.drop 44 = dktX3_set_2 := dk_seg dksX3_set_1 38 rfl rfl
theorem dksX3_set_3 : cX3_set.data.toList.drop 67 = dktX3_set_3 := dk_seg dksX3_set_2 23 rfl rfl
theorem dksX3_set_4 : cX3_set.data.toList.drop 91 = dktX3_set_4 := dk_seg dksX3_set_3 24 rfl rfl
theorem dX3_set_0 : decode cX3_set 0 = .ok (.aload_n 0, 1) := dk_42 (dk_at dksX3_set_0 0 rfl rfl)
theorem dX3_set_1 : decode cX3_set 1 = .ok (.iconst 0, 1) := dk_3 (dk_at dksX3_set_0 1 rfl rfl)
theorem dX3_set_2 : decode cX3_set 2 = .ok (.putfield 93, 3) := dk_181 0 93 (dk_at dksX3_set_0 2 rfl rfl)
theorem dX3_set_5 : decode cX3_set 5 = .ok (.iload_n 1, 1) := dk_27 (dk_at dksX3_set_0 5 rfl rfl)
theorem dX3_set_6 : decode cX3_set 6 = .ok (.tableswitch 90 0 5 #[38, 43, 48, 48, 69, 69], 38) := by decide +kernel
theorem dX3_set_44 : decode cX3_set 44 = .ok (.aload_n 0, 1) := dk_42 (dk_at dksX3_set_2 0 rfl rfl)
theorem dX3_set_45 : decode cX3_set 45 = .ok (.invokevirtual 444, 3) := dk_182 1 188 (dk_at dksX3_set_2 1 rfl rfl)
theorem dX3_set_48 : decode cX3_set 48 = .ok (.ireturn, 1) := dk_172 (dk_at dksX3_set_2 4 rfl rfl)
theorem dX3_set_49 : decode cX3_set 49 = .ok (.aload_n 0, 1) := dk_42 (dk_at dksX3_set_2 5 rfl rfl)
theorem dX3_set_50 : decode cX3_set 50 = .ok (.invokevirtual 447, 3) := dk_182 1 191 (dk_at dksX3_set_2 6 rfl rfl)
theorem dX3_set_53 : decode cX3_set 53 = .ok (.ireturn, 1) := dk_172 (dk_at dksX3_set_2 9 rfl rfl)
theorem dX3_set_54 : decode cX3_set 54 = .ok (.aload_n 0, 1) := dk_42 (dk_at dksX3_set_2 10 rfl rfl)
theorem dX3_set_55 : decode cX3_set 55 = .ok (.invokevirtual 450, 3) := dk_182 1 194 (dk_at dksX3_set_2 11 rfl rfl)
theorem dX3_set_58 : decode cX3_set 58 = .ok (.iload_n 1, 1) := dk_27 (dk_at dksX3_set_2 14 rfl rfl)
theorem dX3_set_59 : decode cX3_set 59 = .ok (.iconst 2, 1) := dk_5 (dk_at dksX3_set_2 15 rfl rfl)
theorem dX3_set_60 : decode cX3_set 60 = .ok (.if_icmp .ne 10, 3) := dk_160 0 10 (dk_at dksX3_set_2 16 rfl rfl)
theorem dX3_set_63 : decode cX3_set 63 = .ok (.aload_n 0, 1) := dk_42 (dk_at dksX3_set_2 19 rfl rfl)
theorem dX3_set_64 : decode cX3_set 64 = .ok (.getfield 432, 3) := dk_180 1 176 (dk_at dksX3_set_2 20 rfl rfl)
theorem dX3_set_67 : decode cX3_set 67 = .ok (.goto 7, 3) := dk_167 0 7 (dk_at dksX3_set_3 0 rfl rfl)
theorem dX3_set_70 : decode cX3_set 70 = .ok (.aload_n 0, 1) := dk_42 (dk_at dksX3_set_3 3 rfl rfl)
theorem dX3_set_71 : decode cX3_set 71 = .ok (.getfield 435, 3) := dk_180 1 179 (dk_at dksX3_set_3 4 rfl rfl)
theorem dX3_set_74 : decode cX3_set 74 = .ok (.ireturn, 1) := dk_172 (dk_at dksX3_set_3 7 rfl rfl)
theorem dX3_set_75 : decode cX3_set 75 = .ok (.aload_n 0, 1) := dk_42 (dk_at dksX3_set_3 8 rfl rfl)
theorem dX3_set_76 : decode cX3_set 76 = .ok (.invokevirtual 453, 3) := dk_182 1 197 (dk_at dksX3_set_3 9 rfl rfl)
theorem dX3_set_79 : decode cX3_set 79 = .ok (.iload_n 1, 1) := dk_27 (dk_at dksX3_set_3 12 rfl rfl)
theorem dX3_set_80 : decode cX3_set 80 = .ok (.iconst 4, 1) := dk_7 (dk_at dksX3_set_3 13 rfl rfl)
theorem dX3_set_81 : decode cX3_set 81 = .ok (.if_icmp .ne 10, 3) := dk_160 0 10 (dk_at dksX3_set_3 14 rfl rfl)
theorem dX3_set_84 : decode cX3_set 84 = .ok (.aload_n 0, 1) := dk_42 (dk_at dksX3_set_3 17 rfl rfl)
theorem dX3_set_85 : decode cX3_set 85 = .ok (.getfield 438, 3) := dk_180 1 182 (dk_at dksX3_set_3 18 rfl rfl)
theorem dX3_set_88 : decode cX3_set 88 = .ok (.goto 7, 3) := dk_167 0 7 (dk_at dksX3_set_3 21 rfl rfl)
theorem dX3_set_91 : decode cX3_set 91 = .ok (.aload_n 0, 1) := dk_42 (dk_at dksX3_set_4 0 rfl rfl)
theorem dX3_set_92 : decode cX3_set 92 = .ok (.getfield 441, 3) := dk_180 1 185 (dk_at dksX3_set_4 1 rfl rfl)
theorem dX3_set_95 : decode cX3_set 95 = .ok (.ireturn, 1) := dk_172 (dk_at dksX3_set_4 4 rfl rfl)
theorem dX3_set_96 : decode cX3_set 96 = .ok (.aload_n 0, 1) := dk_42 (dk_at dksX3_set_4 5 rfl rfl)
theorem dX3_set_97 : decode cX3_set 97 = .ok (.iconst 1, 1) := dk_4 (dk_at dksX3_set_4 6 rfl rfl)
theorem dX3_set_98 : decode cX3_set 98 = .ok (.invokevirtual 192, 3) := dk_182 0 192 (dk_at dksX3_set_4 7 rfl rfl)
theorem dX3_set_101 : decode cX3_set 101 = .ok (.ireturn, 1) := dk_172 (dk_at dksX3_set_4 10 rfl rfl)
abbrev cX3_cover : ByteArray := prog_15_method_108_code
def yX3_cover : MethodName := ⟨RX3, "cover", "()I"⟩
def dkwX3_cover_2 : List UInt8 := [167, 255, 217, 27, 172]
abbrev dktX3_cover_2 : List UInt8 := dkwX3_cover_2 ++ []
def dkwX3_cover_1 : List UInt8 := [162, 0, 20, 42, 42, 182, 1, 170, 28, 2, 130, 126, 182, 1, 173, 154, 0, 5, 28, 60, 132, 2, 1]
abbrev dktX3_cover_1 : List UInt8 := dkwX3_cover_1 ++ dktX3_cover_2
def dkwX3_cover_0 : List UInt8 := [42, 182, 1, 170, 60, 3, 61, 28, 42, 182, 1, 170, 163, 0, 37, 28, 184, 0, 210, 27, 184, 0, 210]
abbrev dktX3_cover_0 : List UInt8 := dkwX3_cover_0 ++ dktX3_cover_1
theorem dksX3_cover_0 : cX3_cover.data.toList.drop 0 = dktX3_cover_0 := by decide +kernel
theorem dksX3_cover_1 : cX3_cover.data.toList.drop 23 = dktX3_cover_1 := dk_seg dksX3_cover_0 23 rfl rfl
theorem dksX3_cover_2 : cX3_cover.data.toList.drop 46 = dktX3_cover_2 := dk_seg dksX3_cover_1 23 rfl rfl
theorem dX3_cover_0 : decode cX3_cover 0 = .ok (.aload_n 0, 1) := dk_42 (dk_at dksX3_cover_0 0 rfl rfl)
theorem dX3_cover_1 : decode cX3_cover 1 = .ok (.invokevirtual 426, 3) := dk_182 1 170 (dk_at dksX3_cover_0 1 rfl rfl)
theorem dX3_cover_4 : decode cX3_cover 4 = .ok (.istore_n 1, 1) := dk_60 (dk_at dksX3_cover_0 4 rfl rfl)
theorem dX3_cover_5 : decode cX3_cover 5 = .ok (.iconst 0, 1) := dk_3 (dk_at dksX3_cover_0 5 rfl rfl)
theorem dX3_cover_6 : decode cX3_cover 6 = .ok (.istore_n 2, 1) := dk_61 (dk_at dksX3_cover_0 6 rfl rfl)
theorem dX3_cover_7 : decode cX3_cover 7 = .ok (.iload_n 2, 1) := dk_28 (dk_at dksX3_cover_0 7 rfl rfl)
theorem dX3_cover_8 : decode cX3_cover 8 = .ok (.aload_n 0, 1) := dk_42 (dk_at dksX3_cover_0 8 rfl rfl)
theorem dX3_cover_9 : decode cX3_cover 9 = .ok (.invokevirtual 426, 3) := dk_182 1 170 (dk_at dksX3_cover_0 9 rfl rfl)
theorem dX3_cover_12 : decode cX3_cover 12 = .ok (.if_icmp .gt 37, 3) := dk_163 0 37 (dk_at dksX3_cover_0 12 rfl rfl)
theorem dX3_cover_15 : decode cX3_cover 15 = .ok (.iload_n 2, 1) := dk_28 (dk_at dksX3_cover_0 15 rfl rfl)
theorem dX3_cover_16 : decode cX3_cover 16 = .ok (.invokestatic 210, 3) := dk_184 0 210 (dk_at dksX3_cover_0 16 rfl rfl)
theorem dX3_cover_19 : decode cX3_cover 19 = .ok (.iload_n 1, 1) := dk_27 (dk_at dksX3_cover_0 19 rfl rfl)
theorem dX3_cover_20 : decode cX3_cover 20 = .ok (.invokestatic 210, 3) := dk_184 0 210 (dk_at dksX3_cover_0 20 rfl rfl)
theorem dX3_cover_23 : decode cX3_cover 23 = .ok (.if_icmp .ge 20, 3) := dk_162 0 20 (dk_at dksX3_cover_1 0 rfl rfl)
theorem dX3_cover_26 : decode cX3_cover 26 = .ok (.aload_n 0, 1) := dk_42 (dk_at dksX3_cover_1 3 rfl rfl)
theorem dX3_cover_27 : decode cX3_cover 27 = .ok (.aload_n 0, 1) := dk_42 (dk_at dksX3_cover_1 4 rfl rfl)
theorem dX3_cover_28 : decode cX3_cover 28 = .ok (.invokevirtual 426, 3) := dk_182 1 170 (dk_at dksX3_cover_1 5 rfl rfl)
theorem dX3_cover_31 : decode cX3_cover 31 = .ok (.iload_n 2, 1) := dk_28 (dk_at dksX3_cover_1 8 rfl rfl)
theorem dX3_cover_32 : decode cX3_cover 32 = .ok (.iconst (-1), 1) := dk_2 (dk_at dksX3_cover_1 9 rfl rfl)
theorem dX3_cover_33 : decode cX3_cover 33 = .ok (.ixor, 1) := dk_130 (dk_at dksX3_cover_1 10 rfl rfl)
theorem dX3_cover_34 : decode cX3_cover 34 = .ok (.iand, 1) := dk_126 (dk_at dksX3_cover_1 11 rfl rfl)
theorem dX3_cover_35 : decode cX3_cover 35 = .ok (.invokevirtual 429, 3) := dk_182 1 173 (dk_at dksX3_cover_1 12 rfl rfl)
theorem dX3_cover_38 : decode cX3_cover 38 = .ok (.ifCond .ne 5, 3) := dk_154 0 5 (dk_at dksX3_cover_1 15 rfl rfl)
theorem dX3_cover_41 : decode cX3_cover 41 = .ok (.iload_n 2, 1) := dk_28 (dk_at dksX3_cover_1 18 rfl rfl)
theorem dX3_cover_42 : decode cX3_cover 42 = .ok (.istore_n 1, 1) := dk_60 (dk_at dksX3_cover_1 19 rfl rfl)
theorem dX3_cover_43 : decode cX3_cover 43 = .ok (.iinc 2 1, 3) := dk_132 2 1 (dk_at dksX3_cover_1 20 rfl rfl)
theorem dX3_cover_46 : decode cX3_cover 46 = .ok (.goto (-39), 3) := dk_167 255 217 (dk_at dksX3_cover_2 0 rfl rfl)
theorem dX3_cover_49 : decode cX3_cover 49 = .ok (.iload_n 1, 1) := dk_27 (dk_at dksX3_cover_2 3 rfl rfl)
theorem dX3_cover_50 : decode cX3_cover 50 = .ok (.ireturn, 1) := dk_172 (dk_at dksX3_cover_2 4 rfl rfl)
abbrev cX3_all : ByteArray := prog_15_method_107_code
def yX3_all : MethodName := ⟨RX3, "all", "()I"⟩
def dkwX3_all_0 : List UInt8 := [4, 42, 182, 0, 222, 120, 4, 100, 172]
abbrev dktX3_all_0 : List UInt8 := dkwX3_all_0 ++ []
theorem dksX3_all_0 : cX3_all.data.toList.drop 0 = dktX3_all_0 := by decide +kernel
theorem dX3_all_0 : decode cX3_all 0 = .ok (.iconst 1, 1) := dk_4 (dk_at dksX3_all_0 0 rfl rfl)
theorem dX3_all_1 : decode cX3_all 1 = .ok (.aload_n 0, 1) := dk_42 (dk_at dksX3_all_0 1 rfl rfl)
theorem dX3_all_2 : decode cX3_all 2 = .ok (.invokevirtual 222, 3) := dk_182 0 222 (dk_at dksX3_all_0 2 rfl rfl)
theorem dX3_all_5 : decode cX3_all 5 = .ok (.ishl, 1) := dk_120 (dk_at dksX3_all_0 5 rfl rfl)
theorem dX3_all_6 : decode cX3_all 6 = .ok (.iconst 1, 1) := dk_4 (dk_at dksX3_all_0 6 rfl rfl)
theorem dX3_all_7 : decode cX3_all 7 = .ok (.isub, 1) := dk_100 (dk_at dksX3_all_0 7 rfl rfl)
theorem dX3_all_8 : decode cX3_all 8 = .ok (.ireturn, 1) := dk_172 (dk_at dksX3_all_0 8 rfl rfl)
abbrev cX3_hasLine : ByteArray := prog_15_method_106_code
def yX3_hasLine : MethodName := ⟨RX3, "hasLine", "(I)Z"⟩
def dkwX3_hasLine_1 : List UInt8 := [126, 154, 0, 7, 4, 167, 0, 4, 3, 61, 132, 3, 1, 167, 255, 223, 28, 172]
abbrev dktX3_hasLine_1 : List UInt8 := dkwX3_hasLine_1 ++ []
def dkwX3_hasLine_0 : List UInt8 := [3, 61, 3, 62, 29, 42, 182, 0, 213, 162, 0, 31, 28, 154, 0, 15, 42, 29, 182, 0, 216, 27, 2, 130]
abbrev dktX3_hasLine_0 : List UInt8 := dkwX3_hasLine_0 ++ dktX3_hasLine_1
theorem dksX3_hasLine_0 : cX3_hasLine.data.toList.drop 0 = dktX3_hasLine_0 := by decide +kernel
theorem dksX3_hasLine_1 : cX3_hasLine.data.toList.drop 24 = dktX3_hasLine_1 := dk_seg dksX3_hasLine_0 24 rfl rfl
theorem dX3_hasLine_0 : decode cX3_hasLine 0 = .ok (.iconst 0, 1) := dk_3 (dk_at dksX3_hasLine_0 0 rfl rfl)
theorem dX3_hasLine_1 : decode cX3_hasLine 1 = .ok (.istore_n 2, 1) := dk_61 (dk_at dksX3_hasLine_0 1 rfl rfl)
theorem dX3_hasLine_2 : decode cX3_hasLine 2 = .ok (.iconst 0, 1) := dk_3 (dk_at dksX3_hasLine_0 2 rfl rfl)
theorem dX3_hasLine_3 : decode cX3_hasLine 3 = .ok (.istore_n 3, 1) := dk_62 (dk_at dksX3_hasLine_0 3 rfl rfl)
theorem dX3_hasLine_4 : decode cX3_hasLine 4 = .ok (.iload_n 3, 1) := dk_29 (dk_at dksX3_hasLine_0 4 rfl rfl)
theorem dX3_hasLine_5 : decode cX3_hasLine 5 = .ok (.aload_n 0, 1) := dk_42 (dk_at dksX3_hasLine_0 5 rfl rfl)
theorem dX3_hasLine_6 : decode cX3_hasLine 6 = .ok (.invokevirtual 213, 3) := dk_182 0 213 (dk_at dksX3_hasLine_0 6 rfl rfl)
theorem dX3_hasLine_9 : decode cX3_hasLine 9 = .ok (.if_icmp .ge 31, 3) := dk_162 0 31 (dk_at dksX3_hasLine_0 9 rfl rfl)
theorem dX3_hasLine_12 : decode cX3_hasLine 12 = .ok (.iload_n 2, 1) := dk_28 (dk_at dksX3_hasLine_0 12 rfl rfl)
theorem dX3_hasLine_13 : decode cX3_hasLine 13 = .ok (.ifCond .ne 15, 3) := dk_154 0 15 (dk_at dksX3_hasLine_0 13 rfl rfl)
theorem dX3_hasLine_16 : decode cX3_hasLine 16 = .ok (.aload_n 0, 1) := dk_42 (dk_at dksX3_hasLine_0 16 rfl rfl)
theorem dX3_hasLine_17 : decode cX3_hasLine 17 = .ok (.iload_n 3, 1) := dk_29 (dk_at dksX3_hasLine_0 17 rfl rfl)
theorem dX3_hasLine_18 : decode cX3_hasLine 18 = .ok (.invokevirtual 216, 3) := dk_182 0 216 (dk_at dksX3_hasLine_0 18 rfl rfl)
theorem dX3_hasLine_21 : decode cX3_hasLine 21 = .ok (.iload_n 1, 1) := dk_27 (dk_at dksX3_hasLine_0 21 rfl rfl)
theorem dX3_hasLine_22 : decode cX3_hasLine 22 = .ok (.iconst (-1), 1) := dk_2 (dk_at dksX3_hasLine_0 22 rfl rfl)
theorem dX3_hasLine_23 : decode cX3_hasLine 23 = .ok (.ixor, 1) := dk_130 (dk_at dksX3_hasLine_0 23 rfl rfl)
theorem dX3_hasLine_24 : decode cX3_hasLine 24 = .ok (.iand, 1) := dk_126 (dk_at dksX3_hasLine_1 0 rfl rfl)
theorem dX3_hasLine_25 : decode cX3_hasLine 25 = .ok (.ifCond .ne 7, 3) := dk_154 0 7 (dk_at dksX3_hasLine_1 1 rfl rfl)
theorem dX3_hasLine_28 : decode cX3_hasLine 28 = .ok (.iconst 1, 1) := dk_4 (dk_at dksX3_hasLine_1 4 rfl rfl)
theorem dX3_hasLine_29 : decode cX3_hasLine 29 = .ok (.goto 4, 3) := dk_167 0 4 (dk_at dksX3_hasLine_1 5 rfl rfl)
theorem dX3_hasLine_32 : decode cX3_hasLine 32 = .ok (.iconst 0, 1) := dk_3 (dk_at dksX3_hasLine_1 8 rfl rfl)
theorem dX3_hasLine_33 : decode cX3_hasLine 33 = .ok (.istore_n 2, 1) := dk_61 (dk_at dksX3_hasLine_1 9 rfl rfl)
theorem dX3_hasLine_34 : decode cX3_hasLine 34 = .ok (.iinc 3 1, 3) := dk_132 3 1 (dk_at dksX3_hasLine_1 10 rfl rfl)
theorem dX3_hasLine_37 : decode cX3_hasLine 37 = .ok (.goto (-33), 3) := dk_167 255 223 (dk_at dksX3_hasLine_1 13 rfl rfl)
theorem dX3_hasLine_40 : decode cX3_hasLine 40 = .ok (.iload_n 2, 1) := dk_28 (dk_at dksX3_hasLine_1 16 rfl rfl)
theorem dX3_hasLine_41 : decode cX3_hasLine 41 = .ok (.ireturn, 1) := dk_172 (dk_at dksX3_hasLine_1 17 rfl rfl)
abbrev cX3_cap : ByteArray := prog_15_method_109_code
def yX3_cap : MethodName := ⟨RX3, "cap", "()I"⟩
def dkwX3_cap_1 : List UInt8 := [28, 182, 1, 173, 154, 0, 5, 28, 60, 132, 2, 1, 167, 255, 224, 27, 172]
abbrev dktX3_cap_1 : List UInt8 := dkwX3_cap_1 ++ []
def dkwX3_cap_0 : List UInt8 := [3, 60, 4, 61, 28, 42, 182, 1, 170, 163, 0, 30, 28, 184, 0, 210, 27, 184, 0, 210, 164, 0, 13, 42]
abbrev dktX3_cap_0 : List UInt8 := dkwX3_cap_0 ++ dktX3_cap_1
theorem dksX3_cap_0 : cX3_cap.data.toList.drop 0 = dktX3_cap_0 := by decide +kernel
theorem dksX3_cap_1 : cX3_cap.data.toList.drop 24 = dktX3_cap_1 := dk_seg dksX3_cap_0 24 rfl rfl
theorem dX3_cap_0 : decode cX3_cap 0 = .ok (.iconst 0, 1) := dk_3 (dk_at dksX3_cap_0 0 rfl rfl)
theorem dX3_cap_1 : decode cX3_cap 1 = .ok (.istore_n 1, 1) := dk_60 (dk_at dksX3_cap_0 1 rfl rfl)
theorem dX3_cap_2 : decode cX3_cap 2 = .ok (.iconst 1, 1) := dk_4 (dk_at dksX3_cap_0 2 rfl rfl)
theorem dX3_cap_3 : decode cX3_cap 3 = .ok (.istore_n 2, 1) := dk_61 (dk_at dksX3_cap_0 3 rfl rfl)
theorem dX3_cap_4 : decode cX3_cap 4 = .ok (.iload_n 2, 1) := dk_28 (dk_at dksX3_cap_0 4 rfl rfl)
theorem dX3_cap_5 : decode cX3_cap 5 = .ok (.aload_n 0, 1) := dk_42 (dk_at dksX3_cap_0 5 rfl rfl)
theorem dX3_cap_6 : decode cX3_cap 6 = .ok (.invokevirtual 426, 3) := dk_182 1 170 (dk_at dksX3_cap_0 6 rfl rfl)
theorem dX3_cap_9 : decode cX3_cap 9 = .ok (.if_icmp .gt 30, 3) := dk_163 0 30 (dk_at dksX3_cap_0 9 rfl rfl)
theorem dX3_cap_12 : decode cX3_cap 12 = .ok (.iload_n 2, 1) := dk_28 (dk_at dksX3_cap_0 12 rfl rfl)
theorem dX3_cap_13 : decode cX3_cap 13 = .ok (.invokestatic 210, 3) := dk_184 0 210 (dk_at dksX3_cap_0 13 rfl rfl)
theorem dX3_cap_16 : decode cX3_cap 16 = .ok (.iload_n 1, 1) := dk_27 (dk_at dksX3_cap_0 16 rfl rfl)
theorem dX3_cap_17 : decode cX3_cap 17 = .ok (.invokestatic 210, 3) := dk_184 0 210 (dk_at dksX3_cap_0 17 rfl rfl)
theorem dX3_cap_20 : decode cX3_cap 20 = .ok (.if_icmp .le 13, 3) := dk_164 0 13 (dk_at dksX3_cap_0 20 rfl rfl)
theorem dX3_cap_23 : decode cX3_cap 23 = .ok (.aload_n 0, 1) := dk_42 (dk_at dksX3_cap_0 23 rfl rfl)
theorem dX3_cap_24 : decode cX3_cap 24 = .ok (.iload_n 2, 1) := dk_28 (dk_at dksX3_cap_1 0 rfl rfl)
theorem dX3_cap_25 : decode cX3_cap 25 = .ok (.invokevirtual 429, 3) := dk_182 1 173 (dk_at dksX3_cap_1 1 rfl rfl)
theorem dX3_cap_28 : decode cX3_cap 28 = .ok (.ifCond .ne 5, 3) := dk_154 0 5 (dk_at dksX3_cap_1 4 rfl rfl)
theorem dX3_cap_31 : decode cX3_cap 31 = .ok (.iload_n 2, 1) := dk_28 (dk_at dksX3_cap_1 7 rfl rfl)
theorem dX3_cap_32 : decode cX3_cap 32 = .ok (.istore_n 1, 1) := dk_60 (dk_at dksX3_cap_1 8 rfl rfl)
theorem dX3_cap_33 : decode cX3_cap 33 = .ok (.iinc 2 1, 3) := dk_132 2 1 (dk_at dksX3_cap_1 9 rfl rfl)
theorem dX3_cap_36 : decode cX3_cap 36 = .ok (.goto (-32), 3) := dk_167 255 224 (dk_at dksX3_cap_1 12 rfl rfl)
theorem dX3_cap_39 : decode cX3_cap 39 = .ok (.iload_n 1, 1) := dk_27 (dk_at dksX3_cap_1 15 rfl rfl)
theorem dX3_cap_40 : decode cX3_cap 40 = .ok (.ireturn, 1) := dk_172 (dk_at dksX3_cap_1 16 rfl rfl)
abbrev cX3_tellHalves : ByteArray := prog_15_method_110_code
def yX3_tellHalves : MethodName := ⟨RX3, "tellHalves", "()V"⟩
def dkwX3_tellHalves_3 : List UInt8 := [180, 1, 179, 181, 1, 179, 132, 1, 2, 167, 255, 189, 177]
abbrev dktX3_tellHalves_3 : List UInt8 := dkwX3_tellHalves_3 ++ []
def dkwX3_tellHalves_2 : List UInt8 := [42, 89, 180, 1, 176, 4, 96, 181, 1, 176, 42, 42, 180, 1, 179, 2, 160, 0, 7, 27, 167, 0, 7, 42]
abbrev dktX3_tellHalves_2 : List UInt8 := dkwX3_tellHalves_2 ++ dktX3_tellHalves_3
def dkwX3_tellHalves_1 : List UInt8 := [182, 1, 173, 154, 0, 51, 42, 42, 182, 1, 170, 27, 2, 130, 126, 182, 1, 173, 153, 0, 6, 167, 0, 33]
abbrev dktX3_tellHalves_1 : List UInt8 := dkwX3_tellHalves_1 ++ dktX3_tellHalves_2
def dkwX3_tellHalves_0 : List UInt8 := [42, 3, 181, 1, 176, 42, 2, 181, 1, 179, 4, 60, 27, 42, 182, 1, 170, 163, 0, 65, 42, 27]
abbrev dktX3_tellHalves_0 : List UInt8 := dkwX3_tellHalves_0 ++ dktX3_tellHalves_1
theorem dksX3_tellHalves_0 : cX3_tellHalves.data.toList.drop 0 = dktX3_tellHalves_0 := by decide +kernel
theorem dksX3_tellHalves_1 : cX3_tellHalves.data.toList.drop 22 = dktX3_tellHalves_1 := dk_seg dksX3_tellHalves_0 22 rfl rfl
theorem dksX3_tellHalves_2 : cX3_tellHalves.data.toList.drop 46 = dktX3_tellHalves_2 := dk_seg dksX3_tellHalves_1 24 rfl rfl
theorem dksX3_tellHalves_3 : cX3_tellHalves.data.toList.drop 70 = dktX3_tellHalves_3 := dk_seg dksX3_tellHalves_2 24 rfl rfl
theorem dX3_tellHalves_0 : decode cX3_tellHalves 0 = .ok (.aload_n 0, 1) := dk_42 (dk_at dksX3_tellHalves_0 0 rfl rfl)
theorem dX3_tellHalves_1 : decode cX3_tellHalves 1 = .ok (.iconst 0, 1) := dk_3 (dk_at dksX3_tellHalves_0 1 rfl rfl)
theorem dX3_tellHalves_2 : decode cX3_tellHalves 2 = .ok (.putfield 432, 3) := dk_181 1 176 (dk_at dksX3_tellHalves_0 2 rfl rfl)
theorem dX3_tellHalves_5 : decode cX3_tellHalves 5 = .ok (.aload_n 0, 1) := dk_42 (dk_at dksX3_tellHalves_0 5 rfl rfl)
theorem dX3_tellHalves_6 : decode cX3_tellHalves 6 = .ok (.iconst (-1), 1) := dk_2 (dk_at dksX3_tellHalves_0 6 rfl rfl)
theorem dX3_tellHalves_7 : decode cX3_tellHalves 7 = .ok (.putfield 435, 3) := dk_181 1 179 (dk_at dksX3_tellHalves_0 7 rfl rfl)
theorem dX3_tellHalves_10 : decode cX3_tellHalves 10 = .ok (.iconst 1, 1) := dk_4 (dk_at dksX3_tellHalves_0 10 rfl rfl)
theorem dX3_tellHalves_11 : decode cX3_tellHalves 11 = .ok (.istore_n 1, 1) := dk_60 (dk_at dksX3_tellHalves_0 11 rfl rfl)
theorem dX3_tellHalves_12 : decode cX3_tellHalves 12 = .ok (.iload_n 1, 1) := dk_27 (dk_at dksX3_tellHalves_0 12 rfl rfl)
theorem dX3_tellHalves_13 : decode cX3_tellHalves 13 = .ok (.aload_n 0, 1) := dk_42 (dk_at dksX3_tellHalves_0 13 rfl rfl)
theorem dX3_tellHalves_14 : decode cX3_tellHalves 14 = .ok (.invokevirtual 426, 3) := dk_182 1 170 (dk_at dksX3_tellHalves_0 14 rfl rfl)
theorem dX3_tellHalves_17 : decode cX3_tellHalves 17 = .ok (.if_icmp .gt 65, 3) := dk_163 0 65 (dk_at dksX3_tellHalves_0 17 rfl rfl)
theorem dX3_tellHalves_20 : decode cX3_tellHalves 20 = .ok (.aload_n 0, 1) := dk_42 (dk_at dksX3_tellHalves_0 20 rfl rfl)
theorem dX3_tellHalves_21 : decode cX3_tellHalves 21 = .ok (.iload_n 1, 1) := dk_27 (dk_at dksX3_tellHalves_0 21 rfl rfl)
theorem dX3_tellHalves_22 : decode cX3_tellHalves 22 = .ok (.invokevirtual 429, 3) := dk_182 1 173 (dk_at dksX3_tellHalves_1 0 rfl rfl)
theorem dX3_tellHalves_25 : decode cX3_tellHalves 25 = .ok (.ifCond .ne 51, 3) := dk_154 0 51 (dk_at dksX3_tellHalves_1 3 rfl rfl)
theorem dX3_tellHalves_28 : decode cX3_tellHalves 28 = .ok (.aload_n 0, 1) := dk_42 (dk_at dksX3_tellHalves_1 6 rfl rfl)
theorem dX3_tellHalves_29 : decode cX3_tellHalves 29 = .ok (.aload_n 0, 1) := dk_42 (dk_at dksX3_tellHalves_1 7 rfl rfl)
theorem dX3_tellHalves_30 : decode cX3_tellHalves 30 = .ok (.invokevirtual 426, 3) := dk_182 1 170 (dk_at dksX3_tellHalves_1 8 rfl rfl)
theorem dX3_tellHalves_33 : decode cX3_tellHalves 33 = .ok (.iload_n 1, 1) := dk_27 (dk_at dksX3_tellHalves_1 11 rfl rfl)
theorem dX3_tellHalves_34 : decode cX3_tellHalves 34 = .ok (.iconst (-1), 1) := dk_2 (dk_at dksX3_tellHalves_1 12 rfl rfl)
theorem dX3_tellHalves_35 : decode cX3_tellHalves 35 = .ok (.ixor, 1) := dk_130 (dk_at dksX3_tellHalves_1 13 rfl rfl)
theorem dX3_tellHalves_36 : decode cX3_tellHalves 36 = .ok (.iand, 1) := dk_126 (dk_at dksX3_tellHalves_1 14 rfl rfl)
theorem dX3_tellHalves_37 : decode cX3_tellHalves 37 = .ok (.invokevirtual 429, 3) := dk_182 1 173 (dk_at dksX3_tellHalves_1 15 rfl rfl)
theorem dX3_tellHalves_40 : decode cX3_tellHalves 40 = .ok (.ifCond .eq 6, 3) := dk_153 0 6 (dk_at dksX3_tellHalves_1 18 rfl rfl)
theorem dX3_tellHalves_43 : decode cX3_tellHalves 43 = .ok (.goto 33, 3) := dk_167 0 33 (dk_at dksX3_tellHalves_1 21 rfl rfl)
theorem dX3_tellHalves_46 : decode cX3_tellHalves 46 = .ok (.aload_n 0, 1) := dk_42 (dk_at dksX3_tellHalves_2 0 rfl rfl)
theorem dX3_tellHalves_47 : decode cX3_tellHalves 47 = .ok (.dup, 1) := dk_89 (dk_at dksX3_tellHalves_2 1 rfl rfl)
theorem dX3_tellHalves_48 : decode cX3_tellHalves 48 = .ok (.getfield 432, 3) := dk_180 1 176 (dk_at dksX3_tellHalves_2 2 rfl rfl)
theorem dX3_tellHalves_51 : decode cX3_tellHalves 51 = .ok (.iconst 1, 1) := dk_4 (dk_at dksX3_tellHalves_2 5 rfl rfl)
theorem dX3_tellHalves_52 : decode cX3_tellHalves 52 = .ok (.iadd, 1) := dk_96 (dk_at dksX3_tellHalves_2 6 rfl rfl)
theorem dX3_tellHalves_53 : decode cX3_tellHalves 53 = .ok (.putfield 432, 3) := dk_181 1 176 (dk_at dksX3_tellHalves_2 7 rfl rfl)
theorem dX3_tellHalves_56 : decode cX3_tellHalves 56 = .ok (.aload_n 0, 1) := dk_42 (dk_at dksX3_tellHalves_2 10 rfl rfl)
theorem dX3_tellHalves_57 : decode cX3_tellHalves 57 = .ok (.aload_n 0, 1) := dk_42 (dk_at dksX3_tellHalves_2 11 rfl rfl)
theorem dX3_tellHalves_58 : decode cX3_tellHalves 58 = .ok (.getfield 435, 3) := dk_180 1 179 (dk_at dksX3_tellHalves_2 12 rfl rfl)
theorem dX3_tellHalves_61 : decode cX3_tellHalves 61 = .ok (.iconst (-1), 1) := dk_2 (dk_at dksX3_tellHalves_2 15 rfl rfl)
theorem dX3_tellHalves_62 : decode cX3_tellHalves 62 = .ok (.if_icmp .ne 7, 3) := dk_160 0 7 (dk_at dksX3_tellHalves_2 16 rfl rfl)
theorem dX3_tellHalves_65 : decode cX3_tellHalves 65 = .ok (.iload_n 1, 1) := dk_27 (dk_at dksX3_tellHalves_2 19 rfl rfl)
theorem dX3_tellHalves_66 : decode cX3_tellHalves 66 = .ok (.goto 7, 3) := dk_167 0 7 (dk_at dksX3_tellHalves_2 20 rfl rfl)
theorem dX3_tellHalves_69 : decode cX3_tellHalves 69 = .ok (.aload_n 0, 1) := dk_42 (dk_at dksX3_tellHalves_2 23 rfl rfl)
theorem dX3_tellHalves_70 : decode cX3_tellHalves 70 = .ok (.getfield 435, 3) := dk_180 1 179 (dk_at dksX3_tellHalves_3 0 rfl rfl)
theorem dX3_tellHalves_73 : decode cX3_tellHalves 73 = .ok (.putfield 435, 3) := dk_181 1 179 (dk_at dksX3_tellHalves_3 3 rfl rfl)
theorem dX3_tellHalves_76 : decode cX3_tellHalves 76 = .ok (.iinc 1 2, 3) := dk_132 1 2 (dk_at dksX3_tellHalves_3 6 rfl rfl)
theorem dX3_tellHalves_79 : decode cX3_tellHalves 79 = .ok (.goto (-67), 3) := dk_167 255 189 (dk_at dksX3_tellHalves_3 9 rfl rfl)
theorem dX3_tellHalves_82 : decode cX3_tellHalves 82 = .ok (.return_, 1) := dk_177 (dk_at dksX3_tellHalves_3 12 rfl rfl)
abbrev cX3_tellSpreads : ByteArray := prog_15_method_111_code
def yX3_tellSpreads : MethodName := ⟨RX3, "tellSpreads", "()V"⟩
def dkwX3_tellSpreads_5 : List UInt8 := [167, 0, 7, 42, 180, 1, 185, 181, 1, 185, 132, 1, 1, 167, 255, 139, 177]
abbrev dktX3_tellSpreads_5 : List UInt8 := dkwX3_tellSpreads_5 ++ []
def dkwX3_tellSpreads_4 : List UInt8 := [167, 0, 33, 42, 89, 180, 1, 182, 4, 96, 181, 1, 182, 42, 42, 180, 1, 185, 2, 160, 0, 7, 27]
abbrev dktX3_tellSpreads_4 : List UInt8 := dkwX3_tellSpreads_4 ++ dktX3_tellSpreads_5
def dkwX3_tellSpreads_3 : List UInt8 := [132, 4, 1, 167, 255, 211, 28, 42, 182, 1, 170, 160, 0, 44, 29, 42, 182, 0, 222, 159, 0, 6]
abbrev dktX3_tellSpreads_3 : List UInt8 := dkwX3_tellSpreads_3 ++ dktX3_tellSpreads_4
def dkwX3_tellSpreads_2 : List UInt8 := [167, 0, 24, 28, 42, 21, 4, 182, 0, 216, 128, 61, 29, 42, 21, 4, 182, 0, 216, 184, 0, 210, 96, 62]
abbrev dktX3_tellSpreads_2 : List UInt8 := dkwX3_tellSpreads_2 ++ dktX3_tellSpreads_3
def dkwX3_tellSpreads_1 : List UInt8 := [3, 62, 3, 54, 4, 21, 4, 42, 182, 0, 213, 162, 0, 42, 27, 21, 4, 122, 4, 126, 154, 0, 6]
abbrev dktX3_tellSpreads_1 : List UInt8 := dkwX3_tellSpreads_1 ++ dktX3_tellSpreads_2
def dkwX3_tellSpreads_0 : List UInt8 := [42, 3, 181, 1, 182, 42, 2, 181, 1, 185, 3, 60, 27, 4, 42, 182, 0, 213, 120, 162, 0, 113, 3, 61]
abbrev dktX3_tellSpreads_0 : List UInt8 := dkwX3_tellSpreads_0 ++ dktX3_tellSpreads_1
theorem dksX3_tellSpreads_0 : cX3_tellSpreads.data.toList.drop 0 = dktX3_tellSpreads_0 := by decide +kernel
theorem dksX3_tellSpreads_1 : cX3_tellSpreads.data.toList.drop 24 = dktX3_tellSpreads_1 := dk_seg dksX3_tellSpreads_0 24 rfl rfl
theorem dksX3_tellSpreads_2 : cX3_tellSpreads.data.toList.drop 47 = dktX3_tellSpreads_2 := dk_seg dksX3_tellSpreads_1 23 rfl rfl
theorem dksX3_tellSpreads_3 : cX3_tellSpreads.data.toList.drop 71 = dktX3_tellSpreads_3 := dk_seg dksX3_tellSpreads_2 24 rfl rfl
theorem dksX3_tellSpreads_4 : cX3_tellSpreads.data.toList.drop 93 = dktX3_tellSpreads_4 := dk_seg dksX3_tellSpreads_3 22 rfl rfl
theorem dksX3_tellSpreads_5 : cX3_tellSpreads.data.toList.drop 116 = dktX3_tellSpreads_5 := dk_seg dksX3_tellSpreads_4 23 rfl rfl
theorem dX3_tellSpreads_0 : decode cX3_tellSpreads 0 = .ok (.aload_n 0, 1) := dk_42 (dk_at dksX3_tellSpreads_0 0 rfl rfl)
theorem dX3_tellSpreads_1 : decode cX3_tellSpreads 1 = .ok (.iconst 0, 1) := dk_3 (dk_at dksX3_tellSpreads_0 1 rfl rfl)
theorem dX3_tellSpreads_2 : decode cX3_tellSpreads 2 = .ok (.putfield 438, 3) := dk_181 1 182 (dk_at dksX3_tellSpreads_0 2 rfl rfl)
theorem dX3_tellSpreads_5 : decode cX3_tellSpreads 5 = .ok (.aload_n 0, 1) := dk_42 (dk_at dksX3_tellSpreads_0 5 rfl rfl)
theorem dX3_tellSpreads_6 : decode cX3_tellSpreads 6 = .ok (.iconst (-1), 1) := dk_2 (dk_at dksX3_tellSpreads_0 6 rfl rfl)
theorem dX3_tellSpreads_7 : decode cX3_tellSpreads 7 = .ok (.putfield 441, 3) := dk_181 1 185 (dk_at dksX3_tellSpreads_0 7 rfl rfl)
theorem dX3_tellSpreads_10 : decode cX3_tellSpreads 10 = .ok (.iconst 0, 1) := dk_3 (dk_at dksX3_tellSpreads_0 10 rfl rfl)
theorem dX3_tellSpreads_11 : decode cX3_tellSpreads 11 = .ok (.istore_n 1, 1) := dk_60 (dk_at dksX3_tellSpreads_0 11 rfl rfl)
theorem dX3_tellSpreads_12 : decode cX3_tellSpreads 12 = .ok (.iload_n 1, 1) := dk_27 (dk_at dksX3_tellSpreads_0 12 rfl rfl)
theorem dX3_tellSpreads_13 : decode cX3_tellSpreads 13 = .ok (.iconst 1, 1) := dk_4 (dk_at dksX3_tellSpreads_0 13 rfl rfl)
theorem dX3_tellSpreads_14 : decode cX3_tellSpreads 14 = .ok (.aload_n 0, 1) := dk_42 (dk_at dksX3_tellSpreads_0 14 rfl rfl)
theorem dX3_tellSpreads_15 : decode cX3_tellSpreads 15 = .ok (.invokevirtual 213, 3) := dk_182 0 213 (dk_at dksX3_tellSpreads_0 15 rfl rfl)
theorem dX3_tellSpreads_18 : decode cX3_tellSpreads 18 = .ok (.ishl, 1) := dk_120 (dk_at dksX3_tellSpreads_0 18 rfl rfl)
theorem dX3_tellSpreads_19 : decode cX3_tellSpreads 19 = .ok (.if_icmp .ge 113, 3) := dk_162 0 113 (dk_at dksX3_tellSpreads_0 19 rfl rfl)
theorem dX3_tellSpreads_22 : decode cX3_tellSpreads 22 = .ok (.iconst 0, 1) := dk_3 (dk_at dksX3_tellSpreads_0 22 rfl rfl)
theorem dX3_tellSpreads_23 : decode cX3_tellSpreads 23 = .ok (.istore_n 2, 1) := dk_61 (dk_at dksX3_tellSpreads_0 23 rfl rfl)
theorem dX3_tellSpreads_24 : decode cX3_tellSpreads 24 = .ok (.iconst 0, 1) := dk_3 (dk_at dksX3_tellSpreads_1 0 rfl rfl)
theorem dX3_tellSpreads_25 : decode cX3_tellSpreads 25 = .ok (.istore_n 3, 1) := dk_62 (dk_at dksX3_tellSpreads_1 1 rfl rfl)
theorem dX3_tellSpreads_26 : decode cX3_tellSpreads 26 = .ok (.iconst 0, 1) := dk_3 (dk_at dksX3_tellSpreads_1 2 rfl rfl)
theorem dX3_tellSpreads_27 : decode cX3_tellSpreads 27 = .ok (.istore 4, 2) := dk_54 4 (dk_at dksX3_tellSpreads_1 3 rfl rfl)
theorem dX3_tellSpreads_29 : decode cX3_tellSpreads 29 = .ok (.iload 4, 2) := dk_21 4 (dk_at dksX3_tellSpreads_1 5 rfl rfl)
theorem dX3_tellSpreads_31 : decode cX3_tellSpreads 31 = .ok (.aload_n 0, 1) := dk_42 (dk_at dksX3_tellSpreads_1 7 rfl rfl)
theorem dX3_tellSpreads_32 : decode cX3_tellSpreads 32 = .ok (.invokevirtual 213, 3) := dk_182 0 213 (dk_at dksX3_tellSpreads_1 8 rfl rfl)
theorem dX3_tellSpreads_35 : decode cX3_tellSpreads 35 = .ok (.if_icmp .ge 42, 3) := dk_162 0 42 (dk_at dksX3_tellSpreads_1 11 rfl rfl)
theorem dX3_tellSpreads_38 : decode cX3_tellSpreads 38 = .ok (.iload_n 1, 1) := dk_27 (dk_at dksX3_tellSpreads_1 14 rfl rfl)
theorem dX3_tellSpreads_39 : decode cX3_tellSpreads 39 = .ok (.iload 4, 2) := dk_21 4 (dk_at dksX3_tellSpreads_1 15 rfl rfl)
theorem dX3_tellSpreads_41 : decode cX3_tellSpreads 41 = .ok (.ishr, 1) := dk_122 (dk_at dksX3_tellSpreads_1 17 rfl rfl)
theorem dX3_tellSpreads_42 : decode cX3_tellSpreads 42 = .ok (.iconst 1, 1) := dk_4 (dk_at dksX3_tellSpreads_1 18 rfl rfl)
theorem dX3_tellSpreads_43 : decode cX3_tellSpreads 43 = .ok (.iand, 1) := dk_126 (dk_at dksX3_tellSpreads_1 19 rfl rfl)
theorem dX3_tellSpreads_44 : decode cX3_tellSpreads 44 = .ok (.ifCond .ne 6, 3) := dk_154 0 6 (dk_at dksX3_tellSpreads_1 20 rfl rfl)
theorem dX3_tellSpreads_47 : decode cX3_tellSpreads 47 = .ok (.goto 24, 3) := dk_167 0 24 (dk_at dksX3_tellSpreads_2 0 rfl rfl)
theorem dX3_tellSpreads_50 : decode cX3_tellSpreads 50 = .ok (.iload_n 2, 1) := dk_28 (dk_at dksX3_tellSpreads_2 3 rfl rfl)
theorem dX3_tellSpreads_51 : decode cX3_tellSpreads 51 = .ok (.aload_n 0, 1) := dk_42 (dk_at dksX3_tellSpreads_2 4 rfl rfl)
theorem dX3_tellSpreads_52 : decode cX3_tellSpreads 52 = .ok (.iload 4, 2) := dk_21 4 (dk_at dksX3_tellSpreads_2 5 rfl rfl)
theorem dX3_tellSpreads_54 : decode cX3_tellSpreads 54 = .ok (.invokevirtual 216, 3) := dk_182 0 216 (dk_at dksX3_tellSpreads_2 7 rfl rfl)
theorem dX3_tellSpreads_57 : decode cX3_tellSpreads 57 = .ok (.ior, 1) := dk_128 (dk_at dksX3_tellSpreads_2 10 rfl rfl)
theorem dX3_tellSpreads_58 : decode cX3_tellSpreads 58 = .ok (.istore_n 2, 1) := dk_61 (dk_at dksX3_tellSpreads_2 11 rfl rfl)
theorem dX3_tellSpreads_59 : decode cX3_tellSpreads 59 = .ok (.iload_n 3, 1) := dk_29 (dk_at dksX3_tellSpreads_2 12 rfl rfl)
theorem dX3_tellSpreads_60 : decode cX3_tellSpreads 60 = .ok (.aload_n 0, 1) := dk_42 (dk_at dksX3_tellSpreads_2 13 rfl rfl)
theorem dX3_tellSpreads_61 : decode cX3_tellSpreads 61 = .ok (.iload 4, 2) := dk_21 4 (dk_at dksX3_tellSpreads_2 14 rfl rfl)
theorem dX3_tellSpreads_63 : decode cX3_tellSpreads 63 = .ok (.invokevirtual 216, 3) := dk_182 0 216 (dk_at dksX3_tellSpreads_2 16 rfl rfl)
theorem dX3_tellSpreads_66 : decode cX3_tellSpreads 66 = .ok (.invokestatic 210, 3) := dk_184 0 210 (dk_at dksX3_tellSpreads_2 19 rfl rfl)
theorem dX3_tellSpreads_69 : decode cX3_tellSpreads 69 = .ok (.iadd, 1) := dk_96 (dk_at dksX3_tellSpreads_2 22 rfl rfl)
theorem dX3_tellSpreads_70 : decode cX3_tellSpreads 70 = .ok (.istore_n 3, 1) := dk_62 (dk_at dksX3_tellSpreads_2 23 rfl rfl)
theorem dX3_tellSpreads_71 : decode cX3_tellSpreads 71 = .ok (.iinc 4 1, 3) := dk_132 4 1 (dk_at dksX3_tellSpreads_3 0 rfl rfl)
theorem dX3_tellSpreads_74 : decode cX3_tellSpreads 74 = .ok (.goto (-45), 3) := dk_167 255 211 (dk_at dksX3_tellSpreads_3 3 rfl rfl)
theorem dX3_tellSpreads_77 : decode cX3_tellSpreads 77 = .ok (.iload_n 2, 1) := dk_28 (dk_at dksX3_tellSpreads_3 6 rfl rfl)
theorem dX3_tellSpreads_78 : decode cX3_tellSpreads 78 = .ok (.aload_n 0, 1) := dk_42 (dk_at dksX3_tellSpreads_3 7 rfl rfl)
theorem dX3_tellSpreads_79 : decode cX3_tellSpreads 79 = .ok (.invokevirtual 426, 3) := dk_182 1 170 (dk_at dksX3_tellSpreads_3 8 rfl rfl)
theorem dX3_tellSpreads_82 : decode cX3_tellSpreads 82 = .ok (.if_icmp .ne 44, 3) := dk_160 0 44 (dk_at dksX3_tellSpreads_3 11 rfl rfl)
theorem dX3_tellSpreads_85 : decode cX3_tellSpreads 85 = .ok (.iload_n 3, 1) := dk_29 (dk_at dksX3_tellSpreads_3 14 rfl rfl)
theorem dX3_tellSpreads_86 : decode cX3_tellSpreads 86 = .ok (.aload_n 0, 1) := dk_42 (dk_at dksX3_tellSpreads_3 15 rfl rfl)
theorem dX3_tellSpreads_87 : decode cX3_tellSpreads 87 = .ok (.invokevirtual 222, 3) := dk_182 0 222 (dk_at dksX3_tellSpreads_3 16 rfl rfl)
theorem dX3_tellSpreads_90 : decode cX3_tellSpreads 90 = .ok (.if_icmp .eq 6, 3) := dk_159 0 6 (dk_at dksX3_tellSpreads_3 19 rfl rfl)
theorem dX3_tellSpreads_93 : decode cX3_tellSpreads 93 = .ok (.goto 33, 3) := dk_167 0 33 (dk_at dksX3_tellSpreads_4 0 rfl rfl)
theorem dX3_tellSpreads_96 : decode cX3_tellSpreads 96 = .ok (.aload_n 0, 1) := dk_42 (dk_at dksX3_tellSpreads_4 3 rfl rfl)
theorem dX3_tellSpreads_97 : decode cX3_tellSpreads 97 = .ok (.dup, 1) := dk_89 (dk_at dksX3_tellSpreads_4 4 rfl rfl)
theorem dX3_tellSpreads_98 : decode cX3_tellSpreads 98 = .ok (.getfield 438, 3) := dk_180 1 182 (dk_at dksX3_tellSpreads_4 5 rfl rfl)
theorem dX3_tellSpreads_101 : decode cX3_tellSpreads 101 = .ok (.iconst 1, 1) := dk_4 (dk_at dksX3_tellSpreads_4 8 rfl rfl)
theorem dX3_tellSpreads_102 : decode cX3_tellSpreads 102 = .ok (.iadd, 1) := dk_96 (dk_at dksX3_tellSpreads_4 9 rfl rfl)
theorem dX3_tellSpreads_103 : decode cX3_tellSpreads 103 = .ok (.putfield 438, 3) := dk_181 1 182 (dk_at dksX3_tellSpreads_4 10 rfl rfl)
theorem dX3_tellSpreads_106 : decode cX3_tellSpreads 106 = .ok (.aload_n 0, 1) := dk_42 (dk_at dksX3_tellSpreads_4 13 rfl rfl)
theorem dX3_tellSpreads_107 : decode cX3_tellSpreads 107 = .ok (.aload_n 0, 1) := dk_42 (dk_at dksX3_tellSpreads_4 14 rfl rfl)
theorem dX3_tellSpreads_108 : decode cX3_tellSpreads 108 = .ok (.getfield 441, 3) := dk_180 1 185 (dk_at dksX3_tellSpreads_4 15 rfl rfl)
theorem dX3_tellSpreads_111 : decode cX3_tellSpreads 111 = .ok (.iconst (-1), 1) := dk_2 (dk_at dksX3_tellSpreads_4 18 rfl rfl)
theorem dX3_tellSpreads_112 : decode cX3_tellSpreads 112 = .ok (.if_icmp .ne 7, 3) := dk_160 0 7 (dk_at dksX3_tellSpreads_4 19 rfl rfl)
theorem dX3_tellSpreads_115 : decode cX3_tellSpreads 115 = .ok (.iload_n 1, 1) := dk_27 (dk_at dksX3_tellSpreads_4 22 rfl rfl)
theorem dX3_tellSpreads_116 : decode cX3_tellSpreads 116 = .ok (.goto 7, 3) := dk_167 0 7 (dk_at dksX3_tellSpreads_5 0 rfl rfl)
theorem dX3_tellSpreads_119 : decode cX3_tellSpreads 119 = .ok (.aload_n 0, 1) := dk_42 (dk_at dksX3_tellSpreads_5 3 rfl rfl)
theorem dX3_tellSpreads_120 : decode cX3_tellSpreads 120 = .ok (.getfield 441, 3) := dk_180 1 185 (dk_at dksX3_tellSpreads_5 4 rfl rfl)
theorem dX3_tellSpreads_123 : decode cX3_tellSpreads 123 = .ok (.putfield 441, 3) := dk_181 1 185 (dk_at dksX3_tellSpreads_5 7 rfl rfl)
theorem dX3_tellSpreads_126 : decode cX3_tellSpreads 126 = .ok (.iinc 1 1, 3) := dk_132 1 1 (dk_at dksX3_tellSpreads_5 10 rfl rfl)
theorem dX3_tellSpreads_129 : decode cX3_tellSpreads 129 = .ok (.goto (-117), 3) := dk_167 255 139 (dk_at dksX3_tellSpreads_5 13 rfl rfl)
theorem dX3_tellSpreads_132 : decode cX3_tellSpreads 132 = .ok (.return_, 1) := dk_177 (dk_at dksX3_tellSpreads_5 16 rfl rfl)
abbrev cX3_far : ByteArray := prog_15_method_113_code
def yX3_far : MethodName := ⟨RX3, "far", "(II)I"⟩
def dkwX3_far_4 : List UInt8 := [167, 255, 222, 21, 5, 62, 132, 4, 1, 167, 255, 186, 2, 172]
abbrev dktX3_far_4 : List UInt8 := dkwX3_far_4 ++ []
def dkwX3_far_3 : List UInt8 := [21, 6, 182, 0, 216, 29, 126, 153, 0, 14, 21, 5, 42, 21, 6, 182, 0, 216, 128, 54, 5, 132, 6, 1]
abbrev dktX3_far_3 : List UInt8 := dkwX3_far_3 ++ dktX3_far_4
def dkwX3_far_2 : List UInt8 := [126, 4, 160, 0, 6, 21, 4, 172, 29, 54, 5, 3, 54, 6, 21, 6, 42, 182, 0, 213, 162, 0, 31, 42]
abbrev dktX3_far_2 : List UInt8 := dkwX3_far_2 ++ dktX3_far_3
def dkwX3_far_1 : List UInt8 := [182, 0, 192, 172, 4, 27, 120, 62, 3, 54, 4, 21, 4, 42, 182, 0, 222, 163, 0, 67, 29, 28, 122, 4]
abbrev dktX3_far_1 : List UInt8 := dkwX3_far_1 ++ dktX3_far_2
def dkwX3_far_0 : List UInt8 := [42, 3, 181, 0, 93, 42, 27, 182, 1, 77, 153, 0, 11, 42, 28, 182, 1, 77, 154, 0, 9, 42, 4]
abbrev dktX3_far_0 : List UInt8 := dkwX3_far_0 ++ dktX3_far_1
theorem dksX3_far_0 : cX3_far.data.toList.drop 0 = dktX3_far_0 := by decide +kernel
theorem dksX3_far_1 : cX3_far.data.toList.drop 23 = dktX3_far_1 := dk_seg dksX3_far_0 23 rfl rfl
theorem dksX3_far_2 : cX3_far.data.toList.drop 47 = dktX3_far_2 := dk_seg dksX3_far_1 24 rfl rfl
theorem dksX3_far_3 : cX3_far.data.toList.drop 71 = dktX3_far_3 := dk_seg dksX3_far_2 24 rfl rfl
theorem dksX3_far_4 : cX3_far.data.toList.drop 95 = dktX3_far_4 := dk_seg dksX3_far_3 24 rfl rfl
theorem dX3_far_0 : decode cX3_far 0 = .ok (.aload_n 0, 1) := dk_42 (dk_at dksX3_far_0 0 rfl rfl)
theorem dX3_far_1 : decode cX3_far 1 = .ok (.iconst 0, 1) := dk_3 (dk_at dksX3_far_0 1 rfl rfl)
theorem dX3_far_2 : decode cX3_far 2 = .ok (.putfield 93, 3) := dk_181 0 93 (dk_at dksX3_far_0 2 rfl rfl)
theorem dX3_far_5 : decode cX3_far 5 = .ok (.aload_n 0, 1) := dk_42 (dk_at dksX3_far_0 5 rfl rfl)
theorem dX3_far_6 : decode cX3_far 6 = .ok (.iload_n 1, 1) := dk_27 (dk_at dksX3_far_0 6 rfl rfl)
theorem dX3_far_7 : decode cX3_far 7 = .ok (.invokevirtual 333, 3) := dk_182 1 77 (dk_at dksX3_far_0 7 rfl rfl)
theorem dX3_far_10 : decode cX3_far 10 = .ok (.ifCond .eq 11, 3) := dk_153 0 11 (dk_at dksX3_far_0 10 rfl rfl)
theorem dX3_far_13 : decode cX3_far 13 = .ok (.aload_n 0, 1) := dk_42 (dk_at dksX3_far_0 13 rfl rfl)
theorem dX3_far_14 : decode cX3_far 14 = .ok (.iload_n 2, 1) := dk_28 (dk_at dksX3_far_0 14 rfl rfl)
theorem dX3_far_15 : decode cX3_far 15 = .ok (.invokevirtual 333, 3) := dk_182 1 77 (dk_at dksX3_far_0 15 rfl rfl)
theorem dX3_far_18 : decode cX3_far 18 = .ok (.ifCond .ne 9, 3) := dk_154 0 9 (dk_at dksX3_far_0 18 rfl rfl)
theorem dX3_far_21 : decode cX3_far 21 = .ok (.aload_n 0, 1) := dk_42 (dk_at dksX3_far_0 21 rfl rfl)
theorem dX3_far_22 : decode cX3_far 22 = .ok (.iconst 1, 1) := dk_4 (dk_at dksX3_far_0 22 rfl rfl)
theorem dX3_far_23 : decode cX3_far 23 = .ok (.invokevirtual 192, 3) := dk_182 0 192 (dk_at dksX3_far_1 0 rfl rfl)
theorem dX3_far_26 : decode cX3_far 26 = .ok (.ireturn, 1) := dk_172 (dk_at dksX3_far_1 3 rfl rfl)
theorem dX3_far_27 : decode cX3_far 27 = .ok (.iconst 1, 1) := dk_4 (dk_at dksX3_far_1 4 rfl rfl)
theorem dX3_far_28 : decode cX3_far 28 = .ok (.iload_n 1, 1) := dk_27 (dk_at dksX3_far_1 5 rfl rfl)
theorem dX3_far_29 : decode cX3_far 29 = .ok (.ishl, 1) := dk_120 (dk_at dksX3_far_1 6 rfl rfl)
theorem dX3_far_30 : decode cX3_far 30 = .ok (.istore_n 3, 1) := dk_62 (dk_at dksX3_far_1 7 rfl rfl)
theorem dX3_far_31 : decode cX3_far 31 = .ok (.iconst 0, 1) := dk_3 (dk_at dksX3_far_1 8 rfl rfl)
theorem dX3_far_32 : decode cX3_far 32 = .ok (.istore 4, 2) := dk_54 4 (dk_at dksX3_far_1 9 rfl rfl)
theorem dX3_far_34 : decode cX3_far 34 = .ok (.iload 4, 2) := dk_21 4 (dk_at dksX3_far_1 11 rfl rfl)
theorem dX3_far_36 : decode cX3_far 36 = .ok (.aload_n 0, 1) := dk_42 (dk_at dksX3_far_1 13 rfl rfl)
theorem dX3_far_37 : decode cX3_far 37 = .ok (.invokevirtual 222, 3) := dk_182 0 222 (dk_at dksX3_far_1 14 rfl rfl)
theorem dX3_far_40 : decode cX3_far 40 = .ok (.if_icmp .gt 67, 3) := dk_163 0 67 (dk_at dksX3_far_1 17 rfl rfl)
theorem dX3_far_43 : decode cX3_far 43 = .ok (.iload_n 3, 1) := dk_29 (dk_at dksX3_far_1 20 rfl rfl)
theorem dX3_far_44 : decode cX3_far 44 = .ok (.iload_n 2, 1) := dk_28 (dk_at dksX3_far_1 21 rfl rfl)
theorem dX3_far_45 : decode cX3_far 45 = .ok (.ishr, 1) := dk_122 (dk_at dksX3_far_1 22 rfl rfl)
theorem dX3_far_46 : decode cX3_far 46 = .ok (.iconst 1, 1) := dk_4 (dk_at dksX3_far_1 23 rfl rfl)
theorem dX3_far_47 : decode cX3_far 47 = .ok (.iand, 1) := dk_126 (dk_at dksX3_far_2 0 rfl rfl)
theorem dX3_far_48 : decode cX3_far 48 = .ok (.iconst 1, 1) := dk_4 (dk_at dksX3_far_2 1 rfl rfl)
theorem dX3_far_49 : decode cX3_far 49 = .ok (.if_icmp .ne 6, 3) := dk_160 0 6 (dk_at dksX3_far_2 2 rfl rfl)
theorem dX3_far_52 : decode cX3_far 52 = .ok (.iload 4, 2) := dk_21 4 (dk_at dksX3_far_2 5 rfl rfl)
theorem dX3_far_54 : decode cX3_far 54 = .ok (.ireturn, 1) := dk_172 (dk_at dksX3_far_2 7 rfl rfl)
theorem dX3_far_55 : decode cX3_far 55 = .ok (.iload_n 3, 1) := dk_29 (dk_at dksX3_far_2 8 rfl rfl)
theorem dX3_far_56 : decode cX3_far 56 = .ok (.istore 5, 2) := dk_54 5 (dk_at dksX3_far_2 9 rfl rfl)
theorem dX3_far_58 : decode cX3_far 58 = .ok (.iconst 0, 1) := dk_3 (dk_at dksX3_far_2 11 rfl rfl)
theorem dX3_far_59 : decode cX3_far 59 = .ok (.istore 6, 2) := dk_54 6 (dk_at dksX3_far_2 12 rfl rfl)
theorem dX3_far_61 : decode cX3_far 61 = .ok (.iload 6, 2) := dk_21 6 (dk_at dksX3_far_2 14 rfl rfl)
theorem dX3_far_63 : decode cX3_far 63 = .ok (.aload_n 0, 1) := dk_42 (dk_at dksX3_far_2 16 rfl rfl)
theorem dX3_far_64 : decode cX3_far 64 = .ok (.invokevirtual 213, 3) := dk_182 0 213 (dk_at dksX3_far_2 17 rfl rfl)
theorem dX3_far_67 : decode cX3_far 67 = .ok (.if_icmp .ge 31, 3) := dk_162 0 31 (dk_at dksX3_far_2 20 rfl rfl)
theorem dX3_far_70 : decode cX3_far 70 = .ok (.aload_n 0, 1) := dk_42 (dk_at dksX3_far_2 23 rfl rfl)
theorem dX3_far_71 : decode cX3_far 71 = .ok (.iload 6, 2) := dk_21 6 (dk_at dksX3_far_3 0 rfl rfl)
theorem dX3_far_73 : decode cX3_far 73 = .ok (.invokevirtual 216, 3) := dk_182 0 216 (dk_at dksX3_far_3 2 rfl rfl)
theorem dX3_far_76 : decode cX3_far 76 = .ok (.iload_n 3, 1) := dk_29 (dk_at dksX3_far_3 5 rfl rfl)
theorem dX3_far_77 : decode cX3_far 77 = .ok (.iand, 1) := dk_126 (dk_at dksX3_far_3 6 rfl rfl)
theorem dX3_far_78 : decode cX3_far 78 = .ok (.ifCond .eq 14, 3) := dk_153 0 14 (dk_at dksX3_far_3 7 rfl rfl)
theorem dX3_far_81 : decode cX3_far 81 = .ok (.iload 5, 2) := dk_21 5 (dk_at dksX3_far_3 10 rfl rfl)
theorem dX3_far_83 : decode cX3_far 83 = .ok (.aload_n 0, 1) := dk_42 (dk_at dksX3_far_3 12 rfl rfl)
theorem dX3_far_84 : decode cX3_far 84 = .ok (.iload 6, 2) := dk_21 6 (dk_at dksX3_far_3 13 rfl rfl)
theorem dX3_far_86 : decode cX3_far 86 = .ok (.invokevirtual 216, 3) := dk_182 0 216 (dk_at dksX3_far_3 15 rfl rfl)
theorem dX3_far_89 : decode cX3_far 89 = .ok (.ior, 1) := dk_128 (dk_at dksX3_far_3 18 rfl rfl)
theorem dX3_far_90 : decode cX3_far 90 = .ok (.istore 5, 2) := dk_54 5 (dk_at dksX3_far_3 19 rfl rfl)
theorem dX3_far_92 : decode cX3_far 92 = .ok (.iinc 6 1, 3) := dk_132 6 1 (dk_at dksX3_far_3 21 rfl rfl)
theorem dX3_far_95 : decode cX3_far 95 = .ok (.goto (-34), 3) := dk_167 255 222 (dk_at dksX3_far_4 0 rfl rfl)
theorem dX3_far_98 : decode cX3_far 98 = .ok (.iload 5, 2) := dk_21 5 (dk_at dksX3_far_4 3 rfl rfl)
theorem dX3_far_100 : decode cX3_far 100 = .ok (.istore_n 3, 1) := dk_62 (dk_at dksX3_far_4 5 rfl rfl)
theorem dX3_far_101 : decode cX3_far 101 = .ok (.iinc 4 1, 3) := dk_132 4 1 (dk_at dksX3_far_4 6 rfl rfl)
theorem dX3_far_104 : decode cX3_far 104 = .ok (.goto (-70), 3) := dk_167 255 186 (dk_at dksX3_far_4 9 rfl rfl)
theorem dX3_far_107 : decode cX3_far 107 = .ok (.iconst (-1), 1) := dk_2 (dk_at dksX3_far_4 12 rfl rfl)
theorem dX3_far_108 : decode cX3_far 108 = .ok (.ireturn, 1) := dk_172 (dk_at dksX3_far_4 13 rfl rfl)
abbrev cX3_game : ByteArray := prog_15_method_117_code
def yX3_game : MethodName := ⟨RX3, "game", "(I)I"⟩
def dkwX3_game_2 : List UInt8 := [159, 0, 9, 132, 3, 1, 167, 255, 237, 27, 154, 0, 7, 28, 167, 0, 4, 29, 172]
abbrev dktX3_game_2 : List UInt8 := dkwX3_game_2 ++ []
def dkwX3_game_1 : List UInt8 := [42, 180, 0, 78, 3, 46, 61, 3, 62, 27, 4, 160, 0, 20, 42, 3, 3, 29, 182, 1, 200, 28]
abbrev dktX3_game_1 : List UInt8 := dkwX3_game_1 ++ dktX3_game_2
def dkwX3_game_0 : List UInt8 := [42, 3, 181, 0, 93, 27, 3, 4, 184, 1, 71, 154, 0, 9, 42, 4, 182, 0, 192, 172, 42, 182, 1, 210]
abbrev dktX3_game_0 : List UInt8 := dkwX3_game_0 ++ dktX3_game_1
theorem dksX3_game_0 : cX3_game.data.toList.drop 0 = dktX3_game_0 := by decide +kernel
theorem dksX3_game_1 : cX3_game.data.toList.drop 24 = dktX3_game_1 := dk_seg dksX3_game_0 24 rfl rfl
theorem dksX3_game_2 : cX3_game.data.toList.drop 46 = dktX3_game_2 := dk_seg dksX3_game_1 22 rfl rfl
theorem dX3_game_0 : decode cX3_game 0 = .ok (.aload_n 0, 1) := dk_42 (dk_at dksX3_game_0 0 rfl rfl)
theorem dX3_game_1 : decode cX3_game 1 = .ok (.iconst 0, 1) := dk_3 (dk_at dksX3_game_0 1 rfl rfl)
theorem dX3_game_2 : decode cX3_game 2 = .ok (.putfield 93, 3) := dk_181 0 93 (dk_at dksX3_game_0 2 rfl rfl)
theorem dX3_game_5 : decode cX3_game 5 = .ok (.iload_n 1, 1) := dk_27 (dk_at dksX3_game_0 5 rfl rfl)
theorem dX3_game_6 : decode cX3_game 6 = .ok (.iconst 0, 1) := dk_3 (dk_at dksX3_game_0 6 rfl rfl)
theorem dX3_game_7 : decode cX3_game 7 = .ok (.iconst 1, 1) := dk_4 (dk_at dksX3_game_0 7 rfl rfl)
theorem dX3_game_8 : decode cX3_game 8 = .ok (.invokestatic 327, 3) := dk_184 1 71 (dk_at dksX3_game_0 8 rfl rfl)
theorem dX3_game_11 : decode cX3_game 11 = .ok (.ifCond .ne 9, 3) := dk_154 0 9 (dk_at dksX3_game_0 11 rfl rfl)
theorem dX3_game_14 : decode cX3_game 14 = .ok (.aload_n 0, 1) := dk_42 (dk_at dksX3_game_0 14 rfl rfl)
theorem dX3_game_15 : decode cX3_game 15 = .ok (.iconst 1, 1) := dk_4 (dk_at dksX3_game_0 15 rfl rfl)
theorem dX3_game_16 : decode cX3_game 16 = .ok (.invokevirtual 192, 3) := dk_182 0 192 (dk_at dksX3_game_0 16 rfl rfl)
theorem dX3_game_19 : decode cX3_game 19 = .ok (.ireturn, 1) := dk_172 (dk_at dksX3_game_0 19 rfl rfl)
theorem dX3_game_20 : decode cX3_game 20 = .ok (.aload_n 0, 1) := dk_42 (dk_at dksX3_game_0 20 rfl rfl)
theorem dX3_game_21 : decode cX3_game 21 = .ok (.invokevirtual 466, 3) := dk_182 1 210 (dk_at dksX3_game_0 21 rfl rfl)
theorem dX3_game_24 : decode cX3_game 24 = .ok (.aload_n 0, 1) := dk_42 (dk_at dksX3_game_1 0 rfl rfl)
theorem dX3_game_25 : decode cX3_game 25 = .ok (.getfield 78, 3) := dk_180 0 78 (dk_at dksX3_game_1 1 rfl rfl)
theorem dX3_game_28 : decode cX3_game 28 = .ok (.iconst 0, 1) := dk_3 (dk_at dksX3_game_1 4 rfl rfl)
theorem dX3_game_29 : decode cX3_game 29 = .ok (.iaload, 1) := dk_46 (dk_at dksX3_game_1 5 rfl rfl)
theorem dX3_game_30 : decode cX3_game 30 = .ok (.istore_n 2, 1) := dk_61 (dk_at dksX3_game_1 6 rfl rfl)
theorem dX3_game_31 : decode cX3_game 31 = .ok (.iconst 0, 1) := dk_3 (dk_at dksX3_game_1 7 rfl rfl)
theorem dX3_game_32 : decode cX3_game 32 = .ok (.istore_n 3, 1) := dk_62 (dk_at dksX3_game_1 8 rfl rfl)
theorem dX3_game_33 : decode cX3_game 33 = .ok (.iload_n 1, 1) := dk_27 (dk_at dksX3_game_1 9 rfl rfl)
theorem dX3_game_34 : decode cX3_game 34 = .ok (.iconst 1, 1) := dk_4 (dk_at dksX3_game_1 10 rfl rfl)
theorem dX3_game_35 : decode cX3_game 35 = .ok (.if_icmp .ne 20, 3) := dk_160 0 20 (dk_at dksX3_game_1 11 rfl rfl)
theorem dX3_game_38 : decode cX3_game 38 = .ok (.aload_n 0, 1) := dk_42 (dk_at dksX3_game_1 14 rfl rfl)
theorem dX3_game_39 : decode cX3_game 39 = .ok (.iconst 0, 1) := dk_3 (dk_at dksX3_game_1 15 rfl rfl)
theorem dX3_game_40 : decode cX3_game 40 = .ok (.iconst 0, 1) := dk_3 (dk_at dksX3_game_1 16 rfl rfl)
theorem dX3_game_41 : decode cX3_game 41 = .ok (.iload_n 3, 1) := dk_29 (dk_at dksX3_game_1 17 rfl rfl)
theorem dX3_game_42 : decode cX3_game 42 = .ok (.invokevirtual 456, 3) := dk_182 1 200 (dk_at dksX3_game_1 18 rfl rfl)
theorem dX3_game_45 : decode cX3_game 45 = .ok (.iload_n 2, 1) := dk_28 (dk_at dksX3_game_1 21 rfl rfl)
theorem dX3_game_46 : decode cX3_game 46 = .ok (.if_icmp .eq 9, 3) := dk_159 0 9 (dk_at dksX3_game_2 0 rfl rfl)
theorem dX3_game_49 : decode cX3_game 49 = .ok (.iinc 3 1, 3) := dk_132 3 1 (dk_at dksX3_game_2 3 rfl rfl)
theorem dX3_game_52 : decode cX3_game 52 = .ok (.goto (-19), 3) := dk_167 255 237 (dk_at dksX3_game_2 6 rfl rfl)
theorem dX3_game_55 : decode cX3_game 55 = .ok (.iload_n 1, 1) := dk_27 (dk_at dksX3_game_2 9 rfl rfl)
theorem dX3_game_56 : decode cX3_game 56 = .ok (.ifCond .ne 7, 3) := dk_154 0 7 (dk_at dksX3_game_2 10 rfl rfl)
theorem dX3_game_59 : decode cX3_game 59 = .ok (.iload_n 2, 1) := dk_28 (dk_at dksX3_game_2 13 rfl rfl)
theorem dX3_game_60 : decode cX3_game 60 = .ok (.goto 4, 3) := dk_167 0 4 (dk_at dksX3_game_2 14 rfl rfl)
theorem dX3_game_63 : decode cX3_game 63 = .ok (.iload_n 3, 1) := dk_29 (dk_at dksX3_game_2 17 rfl rfl)
theorem dX3_game_64 : decode cX3_game 64 = .ok (.ireturn, 1) := dk_172 (dk_at dksX3_game_2 18 rfl rfl)
abbrev cX3_tellGame : ByteArray := prog_15_method_116_code
def yX3_tellGame : MethodName := ⟨RX3, "tellGame", "()V"⟩
def dkwX3_tellGame_2 : List UInt8 := [167, 0, 8, 28, 4, 100, 27, 126, 61, 167, 255, 212, 132, 1, 255, 167, 255, 200, 177]
abbrev dktX3_tellGame_2 : List UInt8 := dkwX3_tellGame_2 ++ []
def dkwX3_tellGame_1 : List UInt8 := [27, 28, 2, 130, 126, 96, 42, 28, 27, 28, 2, 130, 126, 182, 1, 207, 79, 28, 154, 0, 7, 2]
abbrev dktX3_tellGame_1 : List UInt8 := dkwX3_tellGame_1 ++ dktX3_tellGame_2
def dkwX3_tellGame_0 : List UInt8 := [42, 182, 1, 170, 60, 27, 155, 0, 58, 27, 61, 28, 155, 0, 46, 42, 180, 0, 78, 17, 1, 0, 28, 104]
abbrev dktX3_tellGame_0 : List UInt8 := dkwX3_tellGame_0 ++ dktX3_tellGame_1
theorem dksX3_tellGame_0 : cX3_tellGame.data.toList.drop 0 = dktX3_tellGame_0 := by decide +kernel
theorem dksX3_tellGame_1 : cX3_tellGame.data.toList.drop 24 = dktX3_tellGame_1 := dk_seg dksX3_tellGame_0 24 rfl rfl
theorem dksX3_tellGame_2 : cX3_tellGame.data.toList.drop 46 = dktX3_tellGame_2 := dk_seg dksX3_tellGame_1 22 rfl rfl
theorem dX3_tellGame_0 : decode cX3_tellGame 0 = .ok (.aload_n 0, 1) := dk_42 (dk_at dksX3_tellGame_0 0 rfl rfl)
theorem dX3_tellGame_1 : decode cX3_tellGame 1 = .ok (.invokevirtual 426, 3) := dk_182 1 170 (dk_at dksX3_tellGame_0 1 rfl rfl)
theorem dX3_tellGame_4 : decode cX3_tellGame 4 = .ok (.istore_n 1, 1) := dk_60 (dk_at dksX3_tellGame_0 4 rfl rfl)
theorem dX3_tellGame_5 : decode cX3_tellGame 5 = .ok (.iload_n 1, 1) := dk_27 (dk_at dksX3_tellGame_0 5 rfl rfl)
theorem dX3_tellGame_6 : decode cX3_tellGame 6 = .ok (.ifCond .lt 58, 3) := dk_155 0 58 (dk_at dksX3_tellGame_0 6 rfl rfl)
theorem dX3_tellGame_9 : decode cX3_tellGame 9 = .ok (.iload_n 1, 1) := dk_27 (dk_at dksX3_tellGame_0 9 rfl rfl)
theorem dX3_tellGame_10 : decode cX3_tellGame 10 = .ok (.istore_n 2, 1) := dk_61 (dk_at dksX3_tellGame_0 10 rfl rfl)
theorem dX3_tellGame_11 : decode cX3_tellGame 11 = .ok (.iload_n 2, 1) := dk_28 (dk_at dksX3_tellGame_0 11 rfl rfl)
theorem dX3_tellGame_12 : decode cX3_tellGame 12 = .ok (.ifCond .lt 46, 3) := dk_155 0 46 (dk_at dksX3_tellGame_0 12 rfl rfl)
theorem dX3_tellGame_15 : decode cX3_tellGame 15 = .ok (.aload_n 0, 1) := dk_42 (dk_at dksX3_tellGame_0 15 rfl rfl)
theorem dX3_tellGame_16 : decode cX3_tellGame 16 = .ok (.getfield 78, 3) := dk_180 0 78 (dk_at dksX3_tellGame_0 16 rfl rfl)
theorem dX3_tellGame_19 : decode cX3_tellGame 19 = .ok (.sipush 256, 3) := dk_17 1 0 (dk_at dksX3_tellGame_0 19 rfl rfl)
theorem dX3_tellGame_22 : decode cX3_tellGame 22 = .ok (.iload_n 2, 1) := dk_28 (dk_at dksX3_tellGame_0 22 rfl rfl)
theorem dX3_tellGame_23 : decode cX3_tellGame 23 = .ok (.imul, 1) := dk_104 (dk_at dksX3_tellGame_0 23 rfl rfl)
theorem dX3_tellGame_24 : decode cX3_tellGame 24 = .ok (.iload_n 1, 1) := dk_27 (dk_at dksX3_tellGame_1 0 rfl rfl)
theorem dX3_tellGame_25 : decode cX3_tellGame 25 = .ok (.iload_n 2, 1) := dk_28 (dk_at dksX3_tellGame_1 1 rfl rfl)
theorem dX3_tellGame_26 : decode cX3_tellGame 26 = .ok (.iconst (-1), 1) := dk_2 (dk_at dksX3_tellGame_1 2 rfl rfl)
theorem dX3_tellGame_27 : decode cX3_tellGame 27 = .ok (.ixor, 1) := dk_130 (dk_at dksX3_tellGame_1 3 rfl rfl)
theorem dX3_tellGame_28 : decode cX3_tellGame 28 = .ok (.iand, 1) := dk_126 (dk_at dksX3_tellGame_1 4 rfl rfl)
theorem dX3_tellGame_29 : decode cX3_tellGame 29 = .ok (.iadd, 1) := dk_96 (dk_at dksX3_tellGame_1 5 rfl rfl)
theorem dX3_tellGame_30 : decode cX3_tellGame 30 = .ok (.aload_n 0, 1) := dk_42 (dk_at dksX3_tellGame_1 6 rfl rfl)
theorem dX3_tellGame_31 : decode cX3_tellGame 31 = .ok (.iload_n 2, 1) := dk_28 (dk_at dksX3_tellGame_1 7 rfl rfl)
theorem dX3_tellGame_32 : decode cX3_tellGame 32 = .ok (.iload_n 1, 1) := dk_27 (dk_at dksX3_tellGame_1 8 rfl rfl)
theorem dX3_tellGame_33 : decode cX3_tellGame 33 = .ok (.iload_n 2, 1) := dk_28 (dk_at dksX3_tellGame_1 9 rfl rfl)
theorem dX3_tellGame_34 : decode cX3_tellGame 34 = .ok (.iconst (-1), 1) := dk_2 (dk_at dksX3_tellGame_1 10 rfl rfl)
theorem dX3_tellGame_35 : decode cX3_tellGame 35 = .ok (.ixor, 1) := dk_130 (dk_at dksX3_tellGame_1 11 rfl rfl)
theorem dX3_tellGame_36 : decode cX3_tellGame 36 = .ok (.iand, 1) := dk_126 (dk_at dksX3_tellGame_1 12 rfl rfl)
theorem dX3_tellGame_37 : decode cX3_tellGame 37 = .ok (.invokevirtual 463, 3) := dk_182 1 207 (dk_at dksX3_tellGame_1 13 rfl rfl)
theorem dX3_tellGame_40 : decode cX3_tellGame 40 = .ok (.iastore, 1) := dk_79 (dk_at dksX3_tellGame_1 16 rfl rfl)
theorem dX3_tellGame_41 : decode cX3_tellGame 41 = .ok (.iload_n 2, 1) := dk_28 (dk_at dksX3_tellGame_1 17 rfl rfl)
theorem dX3_tellGame_42 : decode cX3_tellGame 42 = .ok (.ifCond .ne 7, 3) := dk_154 0 7 (dk_at dksX3_tellGame_1 18 rfl rfl)
theorem dX3_tellGame_45 : decode cX3_tellGame 45 = .ok (.iconst (-1), 1) := dk_2 (dk_at dksX3_tellGame_1 21 rfl rfl)
theorem dX3_tellGame_46 : decode cX3_tellGame 46 = .ok (.goto 8, 3) := dk_167 0 8 (dk_at dksX3_tellGame_2 0 rfl rfl)
theorem dX3_tellGame_49 : decode cX3_tellGame 49 = .ok (.iload_n 2, 1) := dk_28 (dk_at dksX3_tellGame_2 3 rfl rfl)
theorem dX3_tellGame_50 : decode cX3_tellGame 50 = .ok (.iconst 1, 1) := dk_4 (dk_at dksX3_tellGame_2 4 rfl rfl)
theorem dX3_tellGame_51 : decode cX3_tellGame 51 = .ok (.isub, 1) := dk_100 (dk_at dksX3_tellGame_2 5 rfl rfl)
theorem dX3_tellGame_52 : decode cX3_tellGame 52 = .ok (.iload_n 1, 1) := dk_27 (dk_at dksX3_tellGame_2 6 rfl rfl)
theorem dX3_tellGame_53 : decode cX3_tellGame 53 = .ok (.iand, 1) := dk_126 (dk_at dksX3_tellGame_2 7 rfl rfl)
theorem dX3_tellGame_54 : decode cX3_tellGame 54 = .ok (.istore_n 2, 1) := dk_61 (dk_at dksX3_tellGame_2 8 rfl rfl)
theorem dX3_tellGame_55 : decode cX3_tellGame 55 = .ok (.goto (-44), 3) := dk_167 255 212 (dk_at dksX3_tellGame_2 9 rfl rfl)
theorem dX3_tellGame_58 : decode cX3_tellGame 58 = .ok (.iinc 1 (-1), 3) := dk_132 1 255 (dk_at dksX3_tellGame_2 12 rfl rfl)
theorem dX3_tellGame_61 : decode cX3_tellGame 61 = .ok (.goto (-56), 3) := dk_167 255 200 (dk_at dksX3_tellGame_2 15 rfl rfl)
theorem dX3_tellGame_64 : decode cX3_tellGame 64 = .ok (.return_, 1) := dk_177 (dk_at dksX3_tellGame_2 18 rfl rfl)
abbrev cX3_bestOf : ByteArray := prog_15_method_115_code
def yX3_bestOf : MethodName := ⟨RX3, "bestOf", "(II)I"⟩
def dkwX3_bestOf_2 : List UInt8 := [16, 254, 160, 0, 7, 3, 167, 0, 4, 29, 172]
abbrev dktX3_bestOf_2 : List UInt8 := dkwX3_bestOf_2 ++ []
def dkwX3_bestOf_1 : List UInt8 := [154, 0, 16, 29, 42, 27, 28, 21, 4, 182, 1, 200, 184, 1, 204, 62, 132, 4, 1, 167, 255, 220, 29]
abbrev dktX3_bestOf_1 : List UInt8 := dkwX3_bestOf_1 ++ dktX3_bestOf_2
def dkwX3_bestOf_0 : List UInt8 := [16, 254, 62, 3, 54, 4, 21, 4, 42, 182, 0, 222, 162, 0, 33, 27, 28, 128, 21, 4, 122, 4, 126]
abbrev dktX3_bestOf_0 : List UInt8 := dkwX3_bestOf_0 ++ dktX3_bestOf_1
theorem dksX3_bestOf_0 : cX3_bestOf.data.toList.drop 0 = dktX3_bestOf_0 := by decide +kernel
theorem dksX3_bestOf_1 : cX3_bestOf.data.toList.drop 23 = dktX3_bestOf_1 := dk_seg dksX3_bestOf_0 23 rfl rfl
theorem dksX3_bestOf_2 : cX3_bestOf.data.toList.drop 46 = dktX3_bestOf_2 := dk_seg dksX3_bestOf_1 23 rfl rfl
theorem dX3_bestOf_0 : decode cX3_bestOf 0 = .ok (.bipush (-2), 2) := dk_16 254 (dk_at dksX3_bestOf_0 0 rfl rfl)
theorem dX3_bestOf_2 : decode cX3_bestOf 2 = .ok (.istore_n 3, 1) := dk_62 (dk_at dksX3_bestOf_0 2 rfl rfl)
theorem dX3_bestOf_3 : decode cX3_bestOf 3 = .ok (.iconst 0, 1) := dk_3 (dk_at dksX3_bestOf_0 3 rfl rfl)
theorem dX3_bestOf_4 : decode cX3_bestOf 4 = .ok (.istore 4, 2) := dk_54 4 (dk_at dksX3_bestOf_0 4 rfl rfl)
theorem dX3_bestOf_6 : decode cX3_bestOf 6 = .ok (.iload 4, 2) := dk_21 4 (dk_at dksX3_bestOf_0 6 rfl rfl)
theorem dX3_bestOf_8 : decode cX3_bestOf 8 = .ok (.aload_n 0, 1) := dk_42 (dk_at dksX3_bestOf_0 8 rfl rfl)
theorem dX3_bestOf_9 : decode cX3_bestOf 9 = .ok (.invokevirtual 222, 3) := dk_182 0 222 (dk_at dksX3_bestOf_0 9 rfl rfl)
theorem dX3_bestOf_12 : decode cX3_bestOf 12 = .ok (.if_icmp .ge 33, 3) := dk_162 0 33 (dk_at dksX3_bestOf_0 12 rfl rfl)
theorem dX3_bestOf_15 : decode cX3_bestOf 15 = .ok (.iload_n 1, 1) := dk_27 (dk_at dksX3_bestOf_0 15 rfl rfl)
theorem dX3_bestOf_16 : decode cX3_bestOf 16 = .ok (.iload_n 2, 1) := dk_28 (dk_at dksX3_bestOf_0 16 rfl rfl)
theorem dX3_bestOf_17 : decode cX3_bestOf 17 = .ok (.ior, 1) := dk_128 (dk_at dksX3_bestOf_0 17 rfl rfl)
theorem dX3_bestOf_18 : decode cX3_bestOf 18 = .ok (.iload 4, 2) := dk_21 4 (dk_at dksX3_bestOf_0 18 rfl rfl)
theorem dX3_bestOf_20 : decode cX3_bestOf 20 = .ok (.ishr, 1) := dk_122 (dk_at dksX3_bestOf_0 20 rfl rfl)
theorem dX3_bestOf_21 : decode cX3_bestOf 21 = .ok (.iconst 1, 1) := dk_4 (dk_at dksX3_bestOf_0 21 rfl rfl)
theorem dX3_bestOf_22 : decode cX3_bestOf 22 = .ok (.iand, 1) := dk_126 (dk_at dksX3_bestOf_0 22 rfl rfl)
theorem dX3_bestOf_23 : decode cX3_bestOf 23 = .ok (.ifCond .ne 16, 3) := dk_154 0 16 (dk_at dksX3_bestOf_1 0 rfl rfl)
theorem dX3_bestOf_26 : decode cX3_bestOf 26 = .ok (.iload_n 3, 1) := dk_29 (dk_at dksX3_bestOf_1 3 rfl rfl)
theorem dX3_bestOf_27 : decode cX3_bestOf 27 = .ok (.aload_n 0, 1) := dk_42 (dk_at dksX3_bestOf_1 4 rfl rfl)
theorem dX3_bestOf_28 : decode cX3_bestOf 28 = .ok (.iload_n 1, 1) := dk_27 (dk_at dksX3_bestOf_1 5 rfl rfl)
theorem dX3_bestOf_29 : decode cX3_bestOf 29 = .ok (.iload_n 2, 1) := dk_28 (dk_at dksX3_bestOf_1 6 rfl rfl)
theorem dX3_bestOf_30 : decode cX3_bestOf 30 = .ok (.iload 4, 2) := dk_21 4 (dk_at dksX3_bestOf_1 7 rfl rfl)
theorem dX3_bestOf_32 : decode cX3_bestOf 32 = .ok (.invokevirtual 456, 3) := dk_182 1 200 (dk_at dksX3_bestOf_1 9 rfl rfl)
theorem dX3_bestOf_35 : decode cX3_bestOf 35 = .ok (.invokestatic 460, 3) := dk_184 1 204 (dk_at dksX3_bestOf_1 12 rfl rfl)
theorem dX3_bestOf_38 : decode cX3_bestOf 38 = .ok (.istore_n 3, 1) := dk_62 (dk_at dksX3_bestOf_1 15 rfl rfl)
theorem dX3_bestOf_39 : decode cX3_bestOf 39 = .ok (.iinc 4 1, 3) := dk_132 4 1 (dk_at dksX3_bestOf_1 16 rfl rfl)
theorem dX3_bestOf_42 : decode cX3_bestOf 42 = .ok (.goto (-36), 3) := dk_167 255 220 (dk_at dksX3_bestOf_1 19 rfl rfl)
theorem dX3_bestOf_45 : decode cX3_bestOf 45 = .ok (.iload_n 3, 1) := dk_29 (dk_at dksX3_bestOf_1 22 rfl rfl)
theorem dX3_bestOf_46 : decode cX3_bestOf 46 = .ok (.bipush (-2), 2) := dk_16 254 (dk_at dksX3_bestOf_2 0 rfl rfl)
theorem dX3_bestOf_48 : decode cX3_bestOf 48 = .ok (.if_icmp .ne 7, 3) := dk_160 0 7 (dk_at dksX3_bestOf_2 2 rfl rfl)
theorem dX3_bestOf_51 : decode cX3_bestOf 51 = .ok (.iconst 0, 1) := dk_3 (dk_at dksX3_bestOf_2 5 rfl rfl)
theorem dX3_bestOf_52 : decode cX3_bestOf 52 = .ok (.goto 4, 3) := dk_167 0 4 (dk_at dksX3_bestOf_2 6 rfl rfl)
theorem dX3_bestOf_55 : decode cX3_bestOf 55 = .ok (.iload_n 3, 1) := dk_29 (dk_at dksX3_bestOf_2 9 rfl rfl)
theorem dX3_bestOf_56 : decode cX3_bestOf 56 = .ok (.ireturn, 1) := dk_172 (dk_at dksX3_bestOf_2 10 rfl rfl)
abbrev cX3_movesTo : ByteArray := prog_15_method_114_code
def yX3_movesTo : MethodName := ⟨RX3, "movesTo", "(III)I"⟩
def dkwX3_movesTo_1 : List UInt8 := [4, 167, 0, 17, 42, 180, 0, 78, 17, 1, 0, 28, 104, 21, 4, 96, 46, 116, 172]
abbrev dktX3_movesTo_1 : List UInt8 := dkwX3_movesTo_1 ++ []
def dkwX3_movesTo_0 : List UInt8 := [27, 4, 29, 120, 128, 54, 4, 42, 21, 4, 182, 1, 173, 153, 0, 15, 42, 27, 182, 1, 173, 154, 0, 7]
abbrev dktX3_movesTo_0 : List UInt8 := dkwX3_movesTo_0 ++ dktX3_movesTo_1
theorem dksX3_movesTo_0 : cX3_movesTo.data.toList.drop 0 = dktX3_movesTo_0 := by decide +kernel
theorem dksX3_movesTo_1 : cX3_movesTo.data.toList.drop 24 = dktX3_movesTo_1 := dk_seg dksX3_movesTo_0 24 rfl rfl
theorem dX3_movesTo_0 : decode cX3_movesTo 0 = .ok (.iload_n 1, 1) := dk_27 (dk_at dksX3_movesTo_0 0 rfl rfl)
theorem dX3_movesTo_1 : decode cX3_movesTo 1 = .ok (.iconst 1, 1) := dk_4 (dk_at dksX3_movesTo_0 1 rfl rfl)
theorem dX3_movesTo_2 : decode cX3_movesTo 2 = .ok (.iload_n 3, 1) := dk_29 (dk_at dksX3_movesTo_0 2 rfl rfl)
theorem dX3_movesTo_3 : decode cX3_movesTo 3 = .ok (.ishl, 1) := dk_120 (dk_at dksX3_movesTo_0 3 rfl rfl)
theorem dX3_movesTo_4 : decode cX3_movesTo 4 = .ok (.ior, 1) := dk_128 (dk_at dksX3_movesTo_0 4 rfl rfl)
theorem dX3_movesTo_5 : decode cX3_movesTo 5 = .ok (.istore 4, 2) := dk_54 4 (dk_at dksX3_movesTo_0 5 rfl rfl)
theorem dX3_movesTo_7 : decode cX3_movesTo 7 = .ok (.aload_n 0, 1) := dk_42 (dk_at dksX3_movesTo_0 7 rfl rfl)
theorem dX3_movesTo_8 : decode cX3_movesTo 8 = .ok (.iload 4, 2) := dk_21 4 (dk_at dksX3_movesTo_0 8 rfl rfl)
theorem dX3_movesTo_10 : decode cX3_movesTo 10 = .ok (.invokevirtual 429, 3) := dk_182 1 173 (dk_at dksX3_movesTo_0 10 rfl rfl)
theorem dX3_movesTo_13 : decode cX3_movesTo 13 = .ok (.ifCond .eq 15, 3) := dk_153 0 15 (dk_at dksX3_movesTo_0 13 rfl rfl)
theorem dX3_movesTo_16 : decode cX3_movesTo 16 = .ok (.aload_n 0, 1) := dk_42 (dk_at dksX3_movesTo_0 16 rfl rfl)
theorem dX3_movesTo_17 : decode cX3_movesTo 17 = .ok (.iload_n 1, 1) := dk_27 (dk_at dksX3_movesTo_0 17 rfl rfl)
theorem dX3_movesTo_18 : decode cX3_movesTo 18 = .ok (.invokevirtual 429, 3) := dk_182 1 173 (dk_at dksX3_movesTo_0 18 rfl rfl)
theorem dX3_movesTo_21 : decode cX3_movesTo 21 = .ok (.ifCond .ne 7, 3) := dk_154 0 7 (dk_at dksX3_movesTo_0 21 rfl rfl)
theorem dX3_movesTo_24 : decode cX3_movesTo 24 = .ok (.iconst 1, 1) := dk_4 (dk_at dksX3_movesTo_1 0 rfl rfl)
theorem dX3_movesTo_25 : decode cX3_movesTo 25 = .ok (.goto 17, 3) := dk_167 0 17 (dk_at dksX3_movesTo_1 1 rfl rfl)
theorem dX3_movesTo_28 : decode cX3_movesTo 28 = .ok (.aload_n 0, 1) := dk_42 (dk_at dksX3_movesTo_1 4 rfl rfl)
theorem dX3_movesTo_29 : decode cX3_movesTo 29 = .ok (.getfield 78, 3) := dk_180 0 78 (dk_at dksX3_movesTo_1 5 rfl rfl)
theorem dX3_movesTo_32 : decode cX3_movesTo 32 = .ok (.sipush 256, 3) := dk_17 1 0 (dk_at dksX3_movesTo_1 8 rfl rfl)
theorem dX3_movesTo_35 : decode cX3_movesTo 35 = .ok (.iload_n 2, 1) := dk_28 (dk_at dksX3_movesTo_1 11 rfl rfl)
theorem dX3_movesTo_36 : decode cX3_movesTo 36 = .ok (.imul, 1) := dk_104 (dk_at dksX3_movesTo_1 12 rfl rfl)
theorem dX3_movesTo_37 : decode cX3_movesTo 37 = .ok (.iload 4, 2) := dk_21 4 (dk_at dksX3_movesTo_1 13 rfl rfl)
theorem dX3_movesTo_39 : decode cX3_movesTo 39 = .ok (.iadd, 1) := dk_96 (dk_at dksX3_movesTo_1 15 rfl rfl)
theorem dX3_movesTo_40 : decode cX3_movesTo 40 = .ok (.iaload, 1) := dk_46 (dk_at dksX3_movesTo_1 16 rfl rfl)
theorem dX3_movesTo_41 : decode cX3_movesTo 41 = .ok (.ineg, 1) := dk_116 (dk_at dksX3_movesTo_1 17 rfl rfl)
theorem dX3_movesTo_42 : decode cX3_movesTo 42 = .ok (.ireturn, 1) := dk_172 (dk_at dksX3_movesTo_1 18 rfl rfl)
abbrev cX3_years : ByteArray := prog_15_method_119_code
def yX3_years : MethodName := ⟨RX3, "years", "(III)I"⟩
def dkwX3_years_9 : List UInt8 := [180, 0, 81, 184, 1, 217, 21, 5, 172]
abbrev dktX3_years_9 : List UInt8 := dkwX3_years_9 ++ []
def dkwX3_years_8 : List UInt8 := [167, 0, 17, 29, 4, 160, 0, 10, 42, 182, 1, 43, 167, 0, 5, 21, 4, 54, 5, 42, 180, 0, 9, 42]
abbrev dktX3_years_8 : List UInt8 := dkwX3_years_8 ++ dktX3_years_9
def dkwX3_years_7 : List UInt8 := [182, 1, 221, 182, 1, 127, 54, 6, 132, 5, 1, 167, 255, 138, 29, 154, 0, 10, 42, 182, 0, 213]
abbrev dktX3_years_7 : List UInt8 := dkwX3_years_7 ++ dktX3_years_8
def dkwX3_years_6 : List UInt8 := [21, 9, 182, 1, 124, 132, 4, 1, 167, 0, 24, 42, 182, 0, 213, 158, 0, 17, 42, 42, 42, 182, 0, 213]
abbrev dktX3_years_6 : List UInt8 := dkwX3_years_6 ++ dktX3_years_7
def dkwX3_years_5 : List UInt8 := [54, 9, 21, 9, 184, 0, 210, 6, 161, 0, 48, 42, 21, 9, 182, 1, 118, 154, 0, 6, 167, 0, 36, 42]
abbrev dktX3_years_5 : List UInt8 := dkwX3_years_5 ++ dktX3_years_6
def dkwX3_years_4 : List UInt8 := [42, 182, 0, 222, 182, 1, 221, 54, 8, 4, 21, 6, 120, 4, 21, 7, 120, 128, 4, 21, 8, 120, 128]
abbrev dktX3_years_4 : List UInt8 := dkwX3_years_4 ++ dktX3_years_5
def dkwX3_years_3 : List UInt8 := [162, 0, 82, 42, 42, 182, 0, 222, 182, 1, 221, 54, 6, 42, 42, 182, 0, 222, 182, 1, 221, 54, 7, 42]
abbrev dktX3_years_3 : List UInt8 := dkwX3_years_3 ++ dktX3_years_4
def dkwX3_years_2 : List UInt8 := [27, 181, 1, 213, 3, 54, 4, 3, 54, 5, 21, 5, 28, 162, 0, 118, 42, 6, 182, 1, 221, 5]
abbrev dktX3_years_2 : List UInt8 := dkwX3_years_2 ++ dktX3_years_3
def dkwX3_years_1 : List UInt8 := [184, 1, 71, 154, 0, 9, 42, 5, 182, 0, 192, 172, 42, 180, 0, 81, 42, 180, 0, 9, 184, 1, 217, 42]
abbrev dktX3_years_1 : List UInt8 := dkwX3_years_1 ++ dktX3_years_2
def dkwX3_years_0 : List UInt8 := [42, 3, 181, 0, 93, 29, 3, 5, 184, 1, 71, 154, 0, 9, 42, 4, 182, 0, 192, 172, 28, 3, 16, 60]
abbrev dktX3_years_0 : List UInt8 := dkwX3_years_0 ++ dktX3_years_1
theorem dksX3_years_0 : cX3_years.data.toList.drop 0 = dktX3_years_0 := by decide +kernel
theorem dksX3_years_1 : cX3_years.data.toList.drop 24 = dktX3_years_1 := dk_seg dksX3_years_0 24 rfl rfl
theorem dksX3_years_2 : cX3_years.data.toList.drop 48 = dktX3_years_2 := dk_seg dksX3_years_1 24 rfl rfl
theorem dksX3_years_3 : cX3_years.data.toList.drop 70 = dktX3_years_3 := dk_seg dksX3_years_2 22 rfl rfl
theorem dksX3_years_4 : cX3_years.data.toList.drop 94 = dktX3_years_4 := dk_seg dksX3_years_3 24 rfl rfl
theorem dksX3_years_5 : cX3_years.data.toList.drop 117 = dktX3_years_5 := dk_seg dksX3_years_4 23 rfl rfl
theorem dksX3_years_6 : cX3_years.data.toList.drop 141 = dktX3_years_6 := dk_seg dksX3_years_5 24 rfl rfl
theorem dksX3_years_7 : cX3_years.data.toList.drop 165 = dktX3_years_7 := dk_seg dksX3_years_6 24 rfl rfl
theorem dksX3_years_8 : cX3_years.data.toList.drop 187 = dktX3_years_8 := dk_seg dksX3_years_7 22 rfl rfl
theorem dksX3_years_9 : cX3_years.data.toList.drop 211 = dktX3_years_9 := dk_seg dksX3_years_8 24 rfl rfl
theorem dX3_years_0 : decode cX3_years 0 = .ok (.aload_n 0, 1) := dk_42 (dk_at dksX3_years_0 0 rfl rfl)
theorem dX3_years_1 : decode cX3_years 1 = .ok (.iconst 0, 1) := dk_3 (dk_at dksX3_years_0 1 rfl rfl)
theorem dX3_years_2 : decode cX3_years 2 = .ok (.putfield 93, 3) := dk_181 0 93 (dk_at dksX3_years_0 2 rfl rfl)
theorem dX3_years_5 : decode cX3_years 5 = .ok (.iload_n 3, 1) := dk_29 (dk_at dksX3_years_0 5 rfl rfl)
theorem dX3_years_6 : decode cX3_years 6 = .ok (.iconst 0, 1) := dk_3 (dk_at dksX3_years_0 6 rfl rfl)
theorem dX3_years_7 : decode cX3_years 7 = .ok (.iconst 2, 1) := dk_5 (dk_at dksX3_years_0 7 rfl rfl)
theorem dX3_years_8 : decode cX3_years 8 = .ok (.invokestatic 327, 3) := dk_184 1 71 (dk_at dksX3_years_0 8 rfl rfl)
theorem dX3_years_11 : decode cX3_years 11 = .ok (.ifCond .ne 9, 3) := dk_154 0 9 (dk_at dksX3_years_0 11 rfl rfl)
theorem dX3_years_14 : decode cX3_years 14 = .ok (.aload_n 0, 1) := dk_42 (dk_at dksX3_years_0 14 rfl rfl)
theorem dX3_years_15 : decode cX3_years 15 = .ok (.iconst 1, 1) := dk_4 (dk_at dksX3_years_0 15 rfl rfl)
theorem dX3_years_16 : decode cX3_years 16 = .ok (.invokevirtual 192, 3) := dk_182 0 192 (dk_at dksX3_years_0 16 rfl rfl)
theorem dX3_years_19 : decode cX3_years 19 = .ok (.ireturn, 1) := dk_172 (dk_at dksX3_years_0 19 rfl rfl)
theorem dX3_years_20 : decode cX3_years 20 = .ok (.iload_n 2, 1) := dk_28 (dk_at dksX3_years_0 20 rfl rfl)
theorem dX3_years_21 : decode cX3_years 21 = .ok (.iconst 0, 1) := dk_3 (dk_at dksX3_years_0 21 rfl rfl)
theorem dX3_years_22 : decode cX3_years 22 = .ok (.bipush 60, 2) := dk_16 60 (dk_at dksX3_years_0 22 rfl rfl)
theorem dX3_years_24 : decode cX3_years 24 = .ok (.invokestatic 327, 3) := dk_184 1 71 (dk_at dksX3_years_1 0 rfl rfl)
theorem dX3_years_27 : decode cX3_years 27 = .ok (.ifCond .ne 9, 3) := dk_154 0 9 (dk_at dksX3_years_1 3 rfl rfl)
theorem dX3_years_30 : decode cX3_years 30 = .ok (.aload_n 0, 1) := dk_42 (dk_at dksX3_years_1 6 rfl rfl)
theorem dX3_years_31 : decode cX3_years 31 = .ok (.iconst 2, 1) := dk_5 (dk_at dksX3_years_1 7 rfl rfl)
theorem dX3_years_32 : decode cX3_years 32 = .ok (.invokevirtual 192, 3) := dk_182 0 192 (dk_at dksX3_years_1 8 rfl rfl)
theorem dX3_years_35 : decode cX3_years 35 = .ok (.ireturn, 1) := dk_172 (dk_at dksX3_years_1 11 rfl rfl)
theorem dX3_years_36 : decode cX3_years 36 = .ok (.aload_n 0, 1) := dk_42 (dk_at dksX3_years_1 12 rfl rfl)
theorem dX3_years_37 : decode cX3_years 37 = .ok (.getfield 81, 3) := dk_180 0 81 (dk_at dksX3_years_1 13 rfl rfl)
theorem dX3_years_40 : decode cX3_years 40 = .ok (.aload_n 0, 1) := dk_42 (dk_at dksX3_years_1 16 rfl rfl)
theorem dX3_years_41 : decode cX3_years 41 = .ok (.getfield 9, 3) := dk_180 0 9 (dk_at dksX3_years_1 17 rfl rfl)
theorem dX3_years_44 : decode cX3_years 44 = .ok (.invokestatic 473, 3) := dk_184 1 217 (dk_at dksX3_years_1 20 rfl rfl)
theorem dX3_years_47 : decode cX3_years 47 = .ok (.aload_n 0, 1) := dk_42 (dk_at dksX3_years_1 23 rfl rfl)
theorem dX3_years_48 : decode cX3_years 48 = .ok (.iload_n 1, 1) := dk_27 (dk_at dksX3_years_2 0 rfl rfl)
theorem dX3_years_49 : decode cX3_years 49 = .ok (.putfield 469, 3) := dk_181 1 213 (dk_at dksX3_years_2 1 rfl rfl)
theorem dX3_years_52 : decode cX3_years 52 = .ok (.iconst 0, 1) := dk_3 (dk_at dksX3_years_2 4 rfl rfl)
theorem dX3_years_53 : decode cX3_years 53 = .ok (.istore 4, 2) := dk_54 4 (dk_at dksX3_years_2 5 rfl rfl)
theorem dX3_years_55 : decode cX3_years 55 = .ok (.iconst 0, 1) := dk_3 (dk_at dksX3_years_2 7 rfl rfl)
theorem dX3_years_56 : decode cX3_years 56 = .ok (.istore 5, 2) := dk_54 5 (dk_at dksX3_years_2 8 rfl rfl)
theorem dX3_years_58 : decode cX3_years 58 = .ok (.iload 5, 2) := dk_21 5 (dk_at dksX3_years_2 10 rfl rfl)
theorem dX3_years_60 : decode cX3_years 60 = .ok (.iload_n 2, 1) := dk_28 (dk_at dksX3_years_2 12 rfl rfl)
theorem dX3_years_61 : decode cX3_years 61 = .ok (.if_icmp .ge 118, 3) := dk_162 0 118 (dk_at dksX3_years_2 13 rfl rfl)
theorem dX3_years_64 : decode cX3_years 64 = .ok (.aload_n 0, 1) := dk_42 (dk_at dksX3_years_2 16 rfl rfl)
theorem dX3_years_65 : decode cX3_years 65 = .ok (.iconst 3, 1) := dk_6 (dk_at dksX3_years_2 17 rfl rfl)
theorem dX3_years_66 : decode cX3_years 66 = .ok (.invokevirtual 477, 3) := dk_182 1 221 (dk_at dksX3_years_2 18 rfl rfl)
theorem dX3_years_69 : decode cX3_years 69 = .ok (.iconst 2, 1) := dk_5 (dk_at dksX3_years_2 21 rfl rfl)
theorem dX3_years_70 : decode cX3_years 70 = .ok (.if_icmp .ge 82, 3) := dk_162 0 82 (dk_at dksX3_years_3 0 rfl rfl)
theorem dX3_years_73 : decode cX3_years 73 = .ok (.aload_n 0, 1) := dk_42 (dk_at dksX3_years_3 3 rfl rfl)
theorem dX3_years_74 : decode cX3_years 74 = .ok (.aload_n 0, 1) := dk_42 (dk_at dksX3_years_3 4 rfl rfl)
theorem dX3_years_75 : decode cX3_years 75 = .ok (.invokevirtual 222, 3) := dk_182 0 222 (dk_at dksX3_years_3 5 rfl rfl)
theorem dX3_years_78 : decode cX3_years 78 = .ok (.invokevirtual 477, 3) := dk_182 1 221 (dk_at dksX3_years_3 8 rfl rfl)
theorem dX3_years_81 : decode cX3_years 81 = .ok (.istore 6, 2) := dk_54 6 (dk_at dksX3_years_3 11 rfl rfl)
theorem dX3_years_83 : decode cX3_years 83 = .ok (.aload_n 0, 1) := dk_42 (dk_at dksX3_years_3 13 rfl rfl)
theorem dX3_years_84 : decode cX3_years 84 = .ok (.aload_n 0, 1) := dk_42 (dk_at dksX3_years_3 14 rfl rfl)
theorem dX3_years_85 : decode cX3_years 85 = .ok (.invokevirtual 222, 3) := dk_182 0 222 (dk_at dksX3_years_3 15 rfl rfl)
theorem dX3_years_88 : decode cX3_years 88 = .ok (.invokevirtual 477, 3) := dk_182 1 221 (dk_at dksX3_years_3 18 rfl rfl)
theorem dX3_years_91 : decode cX3_years 91 = .ok (.istore 7, 2) := dk_54 7 (dk_at dksX3_years_3 21 rfl rfl)
theorem dX3_years_93 : decode cX3_years 93 = .ok (.aload_n 0, 1) := dk_42 (dk_at dksX3_years_3 23 rfl rfl)
theorem dX3_years_94 : decode cX3_years 94 = .ok (.aload_n 0, 1) := dk_42 (dk_at dksX3_years_4 0 rfl rfl)
theorem dX3_years_95 : decode cX3_years 95 = .ok (.invokevirtual 222, 3) := dk_182 0 222 (dk_at dksX3_years_4 1 rfl rfl)
theorem dX3_years_98 : decode cX3_years 98 = .ok (.invokevirtual 477, 3) := dk_182 1 221 (dk_at dksX3_years_4 4 rfl rfl)
theorem dX3_years_101 : decode cX3_years 101 = .ok (.istore 8, 2) := dk_54 8 (dk_at dksX3_years_4 7 rfl rfl)
theorem dX3_years_103 : decode cX3_years 103 = .ok (.iconst 1, 1) := dk_4 (dk_at dksX3_years_4 9 rfl rfl)
theorem dX3_years_104 : decode cX3_years 104 = .ok (.iload 6, 2) := dk_21 6 (dk_at dksX3_years_4 10 rfl rfl)
theorem dX3_years_106 : decode cX3_years 106 = .ok (.ishl, 1) := dk_120 (dk_at dksX3_years_4 12 rfl rfl)
theorem dX3_years_107 : decode cX3_years 107 = .ok (.iconst 1, 1) := dk_4 (dk_at dksX3_years_4 13 rfl rfl)
theorem dX3_years_108 : decode cX3_years 108 = .ok (.iload 7, 2) := dk_21 7 (dk_at dksX3_years_4 14 rfl rfl)
theorem dX3_years_110 : decode cX3_years 110 = .ok (.ishl, 1) := dk_120 (dk_at dksX3_years_4 16 rfl rfl)
theorem dX3_years_111 : decode cX3_years 111 = .ok (.ior, 1) := dk_128 (dk_at dksX3_years_4 17 rfl rfl)
theorem dX3_years_112 : decode cX3_years 112 = .ok (.iconst 1, 1) := dk_4 (dk_at dksX3_years_4 18 rfl rfl)
theorem dX3_years_113 : decode cX3_years 113 = .ok (.iload 8, 2) := dk_21 8 (dk_at dksX3_years_4 19 rfl rfl)
theorem dX3_years_115 : decode cX3_years 115 = .ok (.ishl, 1) := dk_120 (dk_at dksX3_years_4 21 rfl rfl)
theorem dX3_years_116 : decode cX3_years 116 = .ok (.ior, 1) := dk_128 (dk_at dksX3_years_4 22 rfl rfl)
theorem dX3_years_117 : decode cX3_years 117 = .ok (.istore 9, 2) := dk_54 9 (dk_at dksX3_years_5 0 rfl rfl)
theorem dX3_years_119 : decode cX3_years 119 = .ok (.iload 9, 2) := dk_21 9 (dk_at dksX3_years_5 2 rfl rfl)
theorem dX3_years_121 : decode cX3_years 121 = .ok (.invokestatic 210, 3) := dk_184 0 210 (dk_at dksX3_years_5 4 rfl rfl)
theorem dX3_years_124 : decode cX3_years 124 = .ok (.iconst 3, 1) := dk_6 (dk_at dksX3_years_5 7 rfl rfl)
theorem dX3_years_125 : decode cX3_years 125 = .ok (.if_icmp .lt 48, 3) := dk_161 0 48 (dk_at dksX3_years_5 8 rfl rfl)
theorem dX3_years_128 : decode cX3_years 128 = .ok (.aload_n 0, 1) := dk_42 (dk_at dksX3_years_5 11 rfl rfl)
theorem dX3_years_129 : decode cX3_years 129 = .ok (.iload 9, 2) := dk_21 9 (dk_at dksX3_years_5 12 rfl rfl)
theorem dX3_years_131 : decode cX3_years 131 = .ok (.invokevirtual 374, 3) := dk_182 1 118 (dk_at dksX3_years_5 14 rfl rfl)
theorem dX3_years_134 : decode cX3_years 134 = .ok (.ifCond .ne 6, 3) := dk_154 0 6 (dk_at dksX3_years_5 17 rfl rfl)
theorem dX3_years_137 : decode cX3_years 137 = .ok (.goto 36, 3) := dk_167 0 36 (dk_at dksX3_years_5 20 rfl rfl)
theorem dX3_years_140 : decode cX3_years 140 = .ok (.aload_n 0, 1) := dk_42 (dk_at dksX3_years_5 23 rfl rfl)
theorem dX3_years_141 : decode cX3_years 141 = .ok (.iload 9, 2) := dk_21 9 (dk_at dksX3_years_6 0 rfl rfl)
theorem dX3_years_143 : decode cX3_years 143 = .ok (.invokevirtual 380, 3) := dk_182 1 124 (dk_at dksX3_years_6 2 rfl rfl)
theorem dX3_years_146 : decode cX3_years 146 = .ok (.iinc 4 1, 3) := dk_132 4 1 (dk_at dksX3_years_6 5 rfl rfl)
theorem dX3_years_149 : decode cX3_years 149 = .ok (.goto 24, 3) := dk_167 0 24 (dk_at dksX3_years_6 8 rfl rfl)
theorem dX3_years_152 : decode cX3_years 152 = .ok (.aload_n 0, 1) := dk_42 (dk_at dksX3_years_6 11 rfl rfl)
theorem dX3_years_153 : decode cX3_years 153 = .ok (.invokevirtual 213, 3) := dk_182 0 213 (dk_at dksX3_years_6 12 rfl rfl)
theorem dX3_years_156 : decode cX3_years 156 = .ok (.ifCond .le 17, 3) := dk_158 0 17 (dk_at dksX3_years_6 15 rfl rfl)
theorem dX3_years_159 : decode cX3_years 159 = .ok (.aload_n 0, 1) := dk_42 (dk_at dksX3_years_6 18 rfl rfl)
theorem dX3_years_160 : decode cX3_years 160 = .ok (.aload_n 0, 1) := dk_42 (dk_at dksX3_years_6 19 rfl rfl)
theorem dX3_years_161 : decode cX3_years 161 = .ok (.aload_n 0, 1) := dk_42 (dk_at dksX3_years_6 20 rfl rfl)
theorem dX3_years_162 : decode cX3_years 162 = .ok (.invokevirtual 213, 3) := dk_182 0 213 (dk_at dksX3_years_6 21 rfl rfl)
theorem dX3_years_165 : decode cX3_years 165 = .ok (.invokevirtual 477, 3) := dk_182 1 221 (dk_at dksX3_years_7 0 rfl rfl)
theorem dX3_years_168 : decode cX3_years 168 = .ok (.invokevirtual 383, 3) := dk_182 1 127 (dk_at dksX3_years_7 3 rfl rfl)
theorem dX3_years_171 : decode cX3_years 171 = .ok (.istore 6, 2) := dk_54 6 (dk_at dksX3_years_7 6 rfl rfl)
theorem dX3_years_173 : decode cX3_years 173 = .ok (.iinc 5 1, 3) := dk_132 5 1 (dk_at dksX3_years_7 8 rfl rfl)
theorem dX3_years_176 : decode cX3_years 176 = .ok (.goto (-118), 3) := dk_167 255 138 (dk_at dksX3_years_7 11 rfl rfl)
theorem dX3_years_179 : decode cX3_years 179 = .ok (.iload_n 3, 1) := dk_29 (dk_at dksX3_years_7 14 rfl rfl)
theorem dX3_years_180 : decode cX3_years 180 = .ok (.ifCond .ne 10, 3) := dk_154 0 10 (dk_at dksX3_years_7 15 rfl rfl)
theorem dX3_years_183 : decode cX3_years 183 = .ok (.aload_n 0, 1) := dk_42 (dk_at dksX3_years_7 18 rfl rfl)
theorem dX3_years_184 : decode cX3_years 184 = .ok (.invokevirtual 213, 3) := dk_182 0 213 (dk_at dksX3_years_7 19 rfl rfl)
theorem dX3_years_187 : decode cX3_years 187 = .ok (.goto 17, 3) := dk_167 0 17 (dk_at dksX3_years_8 0 rfl rfl)
theorem dX3_years_190 : decode cX3_years 190 = .ok (.iload_n 3, 1) := dk_29 (dk_at dksX3_years_8 3 rfl rfl)
theorem dX3_years_191 : decode cX3_years 191 = .ok (.iconst 1, 1) := dk_4 (dk_at dksX3_years_8 4 rfl rfl)
theorem dX3_years_192 : decode cX3_years 192 = .ok (.if_icmp .ne 10, 3) := dk_160 0 10 (dk_at dksX3_years_8 5 rfl rfl)
theorem dX3_years_195 : decode cX3_years 195 = .ok (.aload_n 0, 1) := dk_42 (dk_at dksX3_years_8 8 rfl rfl)
theorem dX3_years_196 : decode cX3_years 196 = .ok (.invokevirtual 299, 3) := dk_182 1 43 (dk_at dksX3_years_8 9 rfl rfl)
theorem dX3_years_199 : decode cX3_years 199 = .ok (.goto 5, 3) := dk_167 0 5 (dk_at dksX3_years_8 12 rfl rfl)
theorem dX3_years_202 : decode cX3_years 202 = .ok (.iload 4, 2) := dk_21 4 (dk_at dksX3_years_8 15 rfl rfl)
theorem dX3_years_204 : decode cX3_years 204 = .ok (.istore 5, 2) := dk_54 5 (dk_at dksX3_years_8 17 rfl rfl)
theorem dX3_years_206 : decode cX3_years 206 = .ok (.aload_n 0, 1) := dk_42 (dk_at dksX3_years_8 19 rfl rfl)
theorem dX3_years_207 : decode cX3_years 207 = .ok (.getfield 9, 3) := dk_180 0 9 (dk_at dksX3_years_8 20 rfl rfl)
theorem dX3_years_210 : decode cX3_years 210 = .ok (.aload_n 0, 1) := dk_42 (dk_at dksX3_years_8 23 rfl rfl)
theorem dX3_years_211 : decode cX3_years 211 = .ok (.getfield 81, 3) := dk_180 0 81 (dk_at dksX3_years_9 0 rfl rfl)
theorem dX3_years_214 : decode cX3_years 214 = .ok (.invokestatic 473, 3) := dk_184 1 217 (dk_at dksX3_years_9 3 rfl rfl)
theorem dX3_years_217 : decode cX3_years 217 = .ok (.iload 5, 2) := dk_21 5 (dk_at dksX3_years_9 6 rfl rfl)
theorem dX3_years_219 : decode cX3_years 219 = .ok (.ireturn, 1) := dk_172 (dk_at dksX3_years_9 8 rfl rfl)
abbrev cX3_copyTo : ByteArray := prog_15_method_82_code
def yX3_copyTo : MethodName := ⟨RX3, "copyTo", "([I[I)V"⟩
def dkwX3_copyTo_0 : List UInt8 := [3, 61, 28, 42, 190, 162, 0, 15, 42, 28, 43, 28, 46, 79, 132, 2, 1, 167, 255, 241, 177]
abbrev dktX3_copyTo_0 : List UInt8 := dkwX3_copyTo_0 ++ []
theorem dksX3_copyTo_0 : cX3_copyTo.data.toList.drop 0 = dktX3_copyTo_0 := by decide +kernel
theorem dX3_copyTo_0 : decode cX3_copyTo 0 = .ok (.iconst 0, 1) := dk_3 (dk_at dksX3_copyTo_0 0 rfl rfl)
theorem dX3_copyTo_1 : decode cX3_copyTo 1 = .ok (.istore_n 2, 1) := dk_61 (dk_at dksX3_copyTo_0 1 rfl rfl)
theorem dX3_copyTo_2 : decode cX3_copyTo 2 = .ok (.iload_n 2, 1) := dk_28 (dk_at dksX3_copyTo_0 2 rfl rfl)
theorem dX3_copyTo_3 : decode cX3_copyTo 3 = .ok (.aload_n 0, 1) := dk_42 (dk_at dksX3_copyTo_0 3 rfl rfl)
theorem dX3_copyTo_4 : decode cX3_copyTo 4 = .ok (.arraylength, 1) := dk_190 (dk_at dksX3_copyTo_0 4 rfl rfl)
theorem dX3_copyTo_5 : decode cX3_copyTo 5 = .ok (.if_icmp .ge 15, 3) := dk_162 0 15 (dk_at dksX3_copyTo_0 5 rfl rfl)
theorem dX3_copyTo_8 : decode cX3_copyTo 8 = .ok (.aload_n 0, 1) := dk_42 (dk_at dksX3_copyTo_0 8 rfl rfl)
theorem dX3_copyTo_9 : decode cX3_copyTo 9 = .ok (.iload_n 2, 1) := dk_28 (dk_at dksX3_copyTo_0 9 rfl rfl)
theorem dX3_copyTo_10 : decode cX3_copyTo 10 = .ok (.aload_n 1, 1) := dk_43 (dk_at dksX3_copyTo_0 10 rfl rfl)
theorem dX3_copyTo_11 : decode cX3_copyTo 11 = .ok (.iload_n 2, 1) := dk_28 (dk_at dksX3_copyTo_0 11 rfl rfl)
theorem dX3_copyTo_12 : decode cX3_copyTo 12 = .ok (.iaload, 1) := dk_46 (dk_at dksX3_copyTo_0 12 rfl rfl)
theorem dX3_copyTo_13 : decode cX3_copyTo 13 = .ok (.iastore, 1) := dk_79 (dk_at dksX3_copyTo_0 13 rfl rfl)
theorem dX3_copyTo_14 : decode cX3_copyTo 14 = .ok (.iinc 2 1, 3) := dk_132 2 1 (dk_at dksX3_copyTo_0 14 rfl rfl)
theorem dX3_copyTo_17 : decode cX3_copyTo 17 = .ok (.goto (-15), 3) := dk_167 255 241 (dk_at dksX3_copyTo_0 17 rfl rfl)
theorem dX3_copyTo_20 : decode cX3_copyTo 20 = .ok (.return_, 1) := dk_177 (dk_at dksX3_copyTo_0 20 rfl rfl)
abbrev cX3_draw : ByteArray := prog_15_method_118_code
def yX3_draw : MethodName := ⟨RX3, "draw", "(I)I"⟩
def dkwX3_draw_1 : List UInt8 := [17, 127, 255, 126, 27, 112, 172]
abbrev dktX3_draw_1 : List UInt8 := dkwX3_draw_1 ++ []
def dkwX3_draw_0 : List UInt8 := [42, 42, 180, 1, 213, 19, 1, 216, 104, 17, 48, 57, 96, 181, 1, 213, 42, 180, 1, 213, 16, 16, 122]
abbrev dktX3_draw_0 : List UInt8 := dkwX3_draw_0 ++ dktX3_draw_1
theorem dksX3_draw_0 : cX3_draw.data.toList.drop 0 = dktX3_draw_0 := by decide +kernel
theorem dksX3_draw_1 : cX3_draw.data.toList.drop 23 = dktX3_draw_1 := dk_seg dksX3_draw_0 23 rfl rfl
theorem dX3_draw_0 : decode cX3_draw 0 = .ok (.aload_n 0, 1) := dk_42 (dk_at dksX3_draw_0 0 rfl rfl)
theorem dX3_draw_1 : decode cX3_draw 1 = .ok (.aload_n 0, 1) := dk_42 (dk_at dksX3_draw_0 1 rfl rfl)
theorem dX3_draw_2 : decode cX3_draw 2 = .ok (.getfield 469, 3) := dk_180 1 213 (dk_at dksX3_draw_0 2 rfl rfl)
theorem dX3_draw_5 : decode cX3_draw 5 = .ok (.ldc_w 472, 3) := dk_19 1 216 (dk_at dksX3_draw_0 5 rfl rfl)
theorem dX3_draw_8 : decode cX3_draw 8 = .ok (.imul, 1) := dk_104 (dk_at dksX3_draw_0 8 rfl rfl)
theorem dX3_draw_9 : decode cX3_draw 9 = .ok (.sipush 12345, 3) := dk_17 48 57 (dk_at dksX3_draw_0 9 rfl rfl)
theorem dX3_draw_12 : decode cX3_draw 12 = .ok (.iadd, 1) := dk_96 (dk_at dksX3_draw_0 12 rfl rfl)
theorem dX3_draw_13 : decode cX3_draw 13 = .ok (.putfield 469, 3) := dk_181 1 213 (dk_at dksX3_draw_0 13 rfl rfl)
theorem dX3_draw_16 : decode cX3_draw 16 = .ok (.aload_n 0, 1) := dk_42 (dk_at dksX3_draw_0 16 rfl rfl)
theorem dX3_draw_17 : decode cX3_draw 17 = .ok (.getfield 469, 3) := dk_180 1 213 (dk_at dksX3_draw_0 17 rfl rfl)
theorem dX3_draw_20 : decode cX3_draw 20 = .ok (.bipush 16, 2) := dk_16 16 (dk_at dksX3_draw_0 20 rfl rfl)
theorem dX3_draw_22 : decode cX3_draw 22 = .ok (.ishr, 1) := dk_122 (dk_at dksX3_draw_0 22 rfl rfl)
theorem dX3_draw_23 : decode cX3_draw 23 = .ok (.sipush 32767, 3) := dk_17 127 255 (dk_at dksX3_draw_1 0 rfl rfl)
theorem dX3_draw_26 : decode cX3_draw 26 = .ok (.iand, 1) := dk_126 (dk_at dksX3_draw_1 3 rfl rfl)
theorem dX3_draw_27 : decode cX3_draw 27 = .ok (.iload_n 1, 1) := dk_27 (dk_at dksX3_draw_1 4 rfl rfl)
theorem dX3_draw_28 : decode cX3_draw 28 = .ok (.irem, 1) := dk_112 (dk_at dksX3_draw_1 5 rfl rfl)
theorem dX3_draw_29 : decode cX3_draw 29 = .ok (.ireturn, 1) := dk_172 (dk_at dksX3_draw_1 6 rfl rfl)
abbrev cX3_image : ByteArray := prog_15_method_120_code
def yX3_image : MethodName := ⟨RX3, "image", "()V"⟩
def dkwX3_image_2 : List UInt8 := [180, 0, 16, 184, 1, 217, 177]
abbrev dktX3_image_2 : List UInt8 := dkwX3_image_2 ++ []
def dkwX3_image_1 : List UInt8 := [180, 0, 9, 184, 1, 217, 42, 180, 0, 87, 42, 180, 0, 50, 184, 1, 217, 42, 180, 0, 90, 42]
abbrev dktX3_image_1 : List UInt8 := dkwX3_image_1 ++ dktX3_image_2
def dkwX3_image_0 : List UInt8 := [42, 3, 181, 0, 93, 42, 4, 181, 0, 201, 42, 42, 180, 0, 198, 181, 1, 224, 42, 180, 0, 84, 42]
abbrev dktX3_image_0 : List UInt8 := dkwX3_image_0 ++ dktX3_image_1
theorem dksX3_image_0 : cX3_image.data.toList.drop 0 = dktX3_image_0 := by decide +kernel
theorem dksX3_image_1 : cX3_image.data.toList.drop 23 = dktX3_image_1 := dk_seg dksX3_image_0 23 rfl rfl
theorem dksX3_image_2 : cX3_image.data.toList.drop 45 = dktX3_image_2 := dk_seg dksX3_image_1 22 rfl rfl
theorem dX3_image_0 : decode cX3_image 0 = .ok (.aload_n 0, 1) := dk_42 (dk_at dksX3_image_0 0 rfl rfl)
theorem dX3_image_1 : decode cX3_image 1 = .ok (.iconst 0, 1) := dk_3 (dk_at dksX3_image_0 1 rfl rfl)
theorem dX3_image_2 : decode cX3_image 2 = .ok (.putfield 93, 3) := dk_181 0 93 (dk_at dksX3_image_0 2 rfl rfl)
theorem dX3_image_5 : decode cX3_image 5 = .ok (.aload_n 0, 1) := dk_42 (dk_at dksX3_image_0 5 rfl rfl)
theorem dX3_image_6 : decode cX3_image 6 = .ok (.iconst 1, 1) := dk_4 (dk_at dksX3_image_0 6 rfl rfl)
theorem dX3_image_7 : decode cX3_image 7 = .ok (.putfield 201, 3) := dk_181 0 201 (dk_at dksX3_image_0 7 rfl rfl)
theorem dX3_image_10 : decode cX3_image 10 = .ok (.aload_n 0, 1) := dk_42 (dk_at dksX3_image_0 10 rfl rfl)
theorem dX3_image_11 : decode cX3_image 11 = .ok (.aload_n 0, 1) := dk_42 (dk_at dksX3_image_0 11 rfl rfl)
theorem dX3_image_12 : decode cX3_image 12 = .ok (.getfield 198, 3) := dk_180 0 198 (dk_at dksX3_image_0 12 rfl rfl)
theorem dX3_image_15 : decode cX3_image 15 = .ok (.putfield 480, 3) := dk_181 1 224 (dk_at dksX3_image_0 15 rfl rfl)
theorem dX3_image_18 : decode cX3_image 18 = .ok (.aload_n 0, 1) := dk_42 (dk_at dksX3_image_0 18 rfl rfl)
theorem dX3_image_19 : decode cX3_image 19 = .ok (.getfield 84, 3) := dk_180 0 84 (dk_at dksX3_image_0 19 rfl rfl)
theorem dX3_image_22 : decode cX3_image 22 = .ok (.aload_n 0, 1) := dk_42 (dk_at dksX3_image_0 22 rfl rfl)
theorem dX3_image_23 : decode cX3_image 23 = .ok (.getfield 9, 3) := dk_180 0 9 (dk_at dksX3_image_1 0 rfl rfl)
theorem dX3_image_26 : decode cX3_image 26 = .ok (.invokestatic 473, 3) := dk_184 1 217 (dk_at dksX3_image_1 3 rfl rfl)
theorem dX3_image_29 : decode cX3_image 29 = .ok (.aload_n 0, 1) := dk_42 (dk_at dksX3_image_1 6 rfl rfl)
theorem dX3_image_30 : decode cX3_image 30 = .ok (.getfield 87, 3) := dk_180 0 87 (dk_at dksX3_image_1 7 rfl rfl)
theorem dX3_image_33 : decode cX3_image 33 = .ok (.aload_n 0, 1) := dk_42 (dk_at dksX3_image_1 10 rfl rfl)
theorem dX3_image_34 : decode cX3_image 34 = .ok (.getfield 50, 3) := dk_180 0 50 (dk_at dksX3_image_1 11 rfl rfl)
theorem dX3_image_37 : decode cX3_image 37 = .ok (.invokestatic 473, 3) := dk_184 1 217 (dk_at dksX3_image_1 14 rfl rfl)
theorem dX3_image_40 : decode cX3_image 40 = .ok (.aload_n 0, 1) := dk_42 (dk_at dksX3_image_1 17 rfl rfl)
theorem dX3_image_41 : decode cX3_image 41 = .ok (.getfield 90, 3) := dk_180 0 90 (dk_at dksX3_image_1 18 rfl rfl)
theorem dX3_image_44 : decode cX3_image 44 = .ok (.aload_n 0, 1) := dk_42 (dk_at dksX3_image_1 21 rfl rfl)
theorem dX3_image_45 : decode cX3_image 45 = .ok (.getfield 16, 3) := dk_180 0 16 (dk_at dksX3_image_2 0 rfl rfl)
theorem dX3_image_48 : decode cX3_image 48 = .ok (.invokestatic 473, 3) := dk_184 1 217 (dk_at dksX3_image_2 3 rfl rfl)
theorem dX3_image_51 : decode cX3_image 51 = .ok (.return_, 1) := dk_177 (dk_at dksX3_image_2 6 rfl rfl)
abbrev cX3_restore : ByteArray := prog_15_method_121_code
def yX3_restore : MethodName := ⟨RX3, "restore", "()Z"⟩
def dkwX3_restore_2 : List UInt8 := [180, 0, 16, 42, 180, 0, 90, 184, 1, 217, 4, 172]
abbrev dktX3_restore_2 : List UInt8 := dkwX3_restore_2 ++ []
def dkwX3_restore_1 : List UInt8 := [180, 0, 9, 42, 180, 0, 84, 184, 1, 217, 42, 180, 0, 50, 42, 180, 0, 87, 184, 1, 217, 42]
abbrev dktX3_restore_1 : List UInt8 := dkwX3_restore_1 ++ dktX3_restore_2
def dkwX3_restore_0 : List UInt8 := [42, 3, 181, 0, 93, 42, 180, 0, 201, 154, 0, 5, 3, 172, 42, 42, 180, 1, 224, 181, 0, 198, 42]
abbrev dktX3_restore_0 : List UInt8 := dkwX3_restore_0 ++ dktX3_restore_1
theorem dksX3_restore_0 : cX3_restore.data.toList.drop 0 = dktX3_restore_0 := by decide +kernel
theorem dksX3_restore_1 : cX3_restore.data.toList.drop 23 = dktX3_restore_1 := dk_seg dksX3_restore_0 23 rfl rfl
theorem dksX3_restore_2 : cX3_restore.data.toList.drop 45 = dktX3_restore_2 := dk_seg dksX3_restore_1 22 rfl rfl
theorem dX3_restore_0 : decode cX3_restore 0 = .ok (.aload_n 0, 1) := dk_42 (dk_at dksX3_restore_0 0 rfl rfl)
theorem dX3_restore_1 : decode cX3_restore 1 = .ok (.iconst 0, 1) := dk_3 (dk_at dksX3_restore_0 1 rfl rfl)
theorem dX3_restore_2 : decode cX3_restore 2 = .ok (.putfield 93, 3) := dk_181 0 93 (dk_at dksX3_restore_0 2 rfl rfl)
theorem dX3_restore_5 : decode cX3_restore 5 = .ok (.aload_n 0, 1) := dk_42 (dk_at dksX3_restore_0 5 rfl rfl)
theorem dX3_restore_6 : decode cX3_restore 6 = .ok (.getfield 201, 3) := dk_180 0 201 (dk_at dksX3_restore_0 6 rfl rfl)
theorem dX3_restore_9 : decode cX3_restore 9 = .ok (.ifCond .ne 5, 3) := dk_154 0 5 (dk_at dksX3_restore_0 9 rfl rfl)
theorem dX3_restore_12 : decode cX3_restore 12 = .ok (.iconst 0, 1) := dk_3 (dk_at dksX3_restore_0 12 rfl rfl)
theorem dX3_restore_13 : decode cX3_restore 13 = .ok (.ireturn, 1) := dk_172 (dk_at dksX3_restore_0 13 rfl rfl)
theorem dX3_restore_14 : decode cX3_restore 14 = .ok (.aload_n 0, 1) := dk_42 (dk_at dksX3_restore_0 14 rfl rfl)
theorem dX3_restore_15 : decode cX3_restore 15 = .ok (.aload_n 0, 1) := dk_42 (dk_at dksX3_restore_0 15 rfl rfl)
theorem dX3_restore_16 : decode cX3_restore 16 = .ok (.getfield 480, 3) := dk_180 1 224 (dk_at dksX3_restore_0 16 rfl rfl)
theorem dX3_restore_19 : decode cX3_restore 19 = .ok (.putfield 198, 3) := dk_181 0 198 (dk_at dksX3_restore_0 19 rfl rfl)
theorem dX3_restore_22 : decode cX3_restore 22 = .ok (.aload_n 0, 1) := dk_42 (dk_at dksX3_restore_0 22 rfl rfl)
theorem dX3_restore_23 : decode cX3_restore 23 = .ok (.getfield 9, 3) := dk_180 0 9 (dk_at dksX3_restore_1 0 rfl rfl)
theorem dX3_restore_26 : decode cX3_restore 26 = .ok (.aload_n 0, 1) := dk_42 (dk_at dksX3_restore_1 3 rfl rfl)
theorem dX3_restore_27 : decode cX3_restore 27 = .ok (.getfield 84, 3) := dk_180 0 84 (dk_at dksX3_restore_1 4 rfl rfl)
theorem dX3_restore_30 : decode cX3_restore 30 = .ok (.invokestatic 473, 3) := dk_184 1 217 (dk_at dksX3_restore_1 7 rfl rfl)
theorem dX3_restore_33 : decode cX3_restore 33 = .ok (.aload_n 0, 1) := dk_42 (dk_at dksX3_restore_1 10 rfl rfl)
theorem dX3_restore_34 : decode cX3_restore 34 = .ok (.getfield 50, 3) := dk_180 0 50 (dk_at dksX3_restore_1 11 rfl rfl)
theorem dX3_restore_37 : decode cX3_restore 37 = .ok (.aload_n 0, 1) := dk_42 (dk_at dksX3_restore_1 14 rfl rfl)
theorem dX3_restore_38 : decode cX3_restore 38 = .ok (.getfield 87, 3) := dk_180 0 87 (dk_at dksX3_restore_1 15 rfl rfl)
theorem dX3_restore_41 : decode cX3_restore 41 = .ok (.invokestatic 473, 3) := dk_184 1 217 (dk_at dksX3_restore_1 18 rfl rfl)
theorem dX3_restore_44 : decode cX3_restore 44 = .ok (.aload_n 0, 1) := dk_42 (dk_at dksX3_restore_1 21 rfl rfl)
theorem dX3_restore_45 : decode cX3_restore 45 = .ok (.getfield 16, 3) := dk_180 0 16 (dk_at dksX3_restore_2 0 rfl rfl)
theorem dX3_restore_48 : decode cX3_restore 48 = .ok (.aload_n 0, 1) := dk_42 (dk_at dksX3_restore_2 3 rfl rfl)
theorem dX3_restore_49 : decode cX3_restore 49 = .ok (.getfield 90, 3) := dk_180 0 90 (dk_at dksX3_restore_2 4 rfl rfl)
theorem dX3_restore_52 : decode cX3_restore 52 = .ok (.invokestatic 473, 3) := dk_184 1 217 (dk_at dksX3_restore_2 7 rfl rfl)
theorem dX3_restore_55 : decode cX3_restore 55 = .ok (.iconst 1, 1) := dk_4 (dk_at dksX3_restore_2 10 rfl rfl)
theorem dX3_restore_56 : decode cX3_restore 56 = .ok (.ireturn, 1) := dk_172 (dk_at dksX3_restore_2 11 rfl rfl)
theorem q172 : (Jvm.Cond.initialized "SchemeListerModel") ∈ lw_all := lw_g (lw_at lw_m1 22 rfl) rfl
theorem q782 : (Jvm.Cond.selects "SchemeListerModel" ({ cls := "java/lang/Object", name := "getClass", desc := "()Ljava/lang/Class;" } : Jvm.MethodName) ({ cls := "java/lang/Object", name := "getClass", desc := "()Ljava/lang/Class;" } : Jvm.MethodName)) ∈ lw_all := lw_g (lw_at lw_m3 152 rfl) rfl
theorem q1652 : (Jvm.Cond.instantiable "SchemeListerModel" (52 : Nat)) ∈ lw_all := lw_g (lw_at lw_m7 62 rfl) rfl
theorem q1654 : (Jvm.Cond.instanceMethod ({ cls := "SchemeListerModel", name := "<init>", desc := "()V" } : Jvm.MethodName)) ∈ lw_all := lw_g (lw_at lw_m7 64 rfl) rfl
theorem q1655 : (Jvm.Cond.code ({ cls := "SchemeListerModel", name := "<init>", desc := "()V" } : Jvm.MethodName) prog_15_method_1_code (1 : Nat) (Option.none : Option Jvm.ClassFile.FieldType)) ∈ lw_all := lw_g (lw_at lw_m7 65 rfl) rfl
theorem q1656 : (Jvm.Cond.methodLink "SchemeListerModel" (1 : Nat) ({ cls := "java/lang/Object", name := "<init>", desc := "()V" } : Jvm.MethodName)) ∈ lw_all := lw_g (lw_at lw_m7 66 rfl) rfl
theorem q1657 : (Jvm.Cond.constant "SchemeListerModel" (77 : Nat) (65536 : Int32)) ∈ lw_all := lw_g (lw_at lw_m7 67 rfl) rfl
theorem q1658 : (Jvm.Cond.fieldLink "SchemeListerModel" (93 : Nat) "SchemeListerModel" "code" "I") ∈ lw_all := lw_g (lw_at lw_m7 68 rfl) rfl
theorem q1659 : (Jvm.Cond.fieldLink "SchemeListerModel" (9 : Nat) "SchemeListerModel" "now" "[I") ∈ lw_all := lw_g (lw_at lw_m7 69 rfl) rfl
theorem q1660 : (Jvm.Cond.fieldLink "SchemeListerModel" (13 : Nat) "SchemeListerModel" "read" "[I") ∈ lw_all := lw_g (lw_at lw_m7 70 rfl) rfl
theorem q1661 : (Jvm.Cond.fieldLink "SchemeListerModel" (16 : Nat) "SchemeListerModel" "status" "[I") ∈ lw_all := lw_g (lw_at lw_m7 71 rfl) rfl
theorem q1662 : (Jvm.Cond.fieldLink "SchemeListerModel" (19 : Nat) "SchemeListerModel" "tape" "[I") ∈ lw_all := lw_g (lw_at lw_m7 72 rfl) rfl
theorem q1663 : (Jvm.Cond.fieldLink "SchemeListerModel" (96 : Nat) "SchemeListerModel" "taped" "I") ∈ lw_all := lw_g (lw_at lw_m7 73 rfl) rfl
theorem q1664 : (Jvm.Cond.fieldLink "SchemeListerModel" (102 : Nat) "SchemeListerModel" "at" "I") ∈ lw_all := lw_g (lw_at lw_m7 74 rfl) rfl
theorem q1665 : (Jvm.Cond.fieldLink "SchemeListerModel" (99 : Nat) "SchemeListerModel" "textSize" "I") ∈ lw_all := lw_g (lw_at lw_m7 75 rfl) rfl
theorem q1666 : (Jvm.Cond.fieldLink "SchemeListerModel" (112 : Nat) "SchemeListerModel" "token" "I") ∈ lw_all := lw_g (lw_at lw_m7 76 rfl) rfl
theorem q1667 : (Jvm.Cond.fieldLink "SchemeListerModel" (122 : Nat) "SchemeListerModel" "number" "I") ∈ lw_all := lw_g (lw_at lw_m7 77 rfl) rfl
theorem q1668 : (Jvm.Cond.fieldLink "SchemeListerModel" (109 : Nat) "SchemeListerModel" "begins" "I") ∈ lw_all := lw_g (lw_at lw_m7 78 rfl) rfl
theorem q1669 : (Jvm.Cond.fieldLink "SchemeListerModel" (132 : Nat) "SchemeListerModel" "stops" "I") ∈ lw_all := lw_g (lw_at lw_m7 79 rfl) rfl
theorem q1670 : (Jvm.Cond.fieldLink "SchemeListerModel" (135 : Nat) "SchemeListerModel" "bad" "I") ∈ lw_all := lw_g (lw_at lw_m7 80 rfl) rfl
theorem q1671 : (Jvm.Cond.fieldLink "SchemeListerModel" (138 : Nat) "SchemeListerModel" "badPlace" "I") ∈ lw_all := lw_g (lw_at lw_m7 81 rfl) rfl
theorem q1672 : (Jvm.Cond.fieldLink "SchemeListerModel" (22 : Nat) "SchemeListerModel" "faultPlace" "I") ∈ lw_all := lw_g (lw_at lw_m7 82 rfl) rfl
theorem q1673 : (Jvm.Cond.fieldLink "SchemeListerModel" (180 : Nat) "SchemeListerModel" "clauses" "I") ∈ lw_all := lw_g (lw_at lw_m7 83 rfl) rfl
theorem q1674 : (Jvm.Cond.fieldLink "SchemeListerModel" (26 : Nat) "SchemeListerModel" "naming" "[I") ∈ lw_all := lw_g (lw_at lw_m7 84 rfl) rfl
theorem q1675 : (Jvm.Cond.fieldLink "SchemeListerModel" (29 : Nat) "SchemeListerModel" "lineBy" "[I") ∈ lw_all := lw_g (lw_at lw_m7 85 rfl) rfl
theorem q1676 : (Jvm.Cond.fieldLink "SchemeListerModel" (32 : Nat) "SchemeListerModel" "becomes" "[I") ∈ lw_all := lw_g (lw_at lw_m7 86 rfl) rfl
theorem q1677 : (Jvm.Cond.fieldLink "SchemeListerModel" (35 : Nat) "SchemeListerModel" "dualLines" "[I") ∈ lw_all := lw_g (lw_at lw_m7 87 rfl) rfl
theorem q1678 : (Jvm.Cond.fieldLink "SchemeListerModel" (38 : Nat) "SchemeListerModel" "on" "[I") ∈ lw_all := lw_g (lw_at lw_m7 88 rfl) rfl
theorem q1679 : (Jvm.Cond.fieldLink "SchemeListerModel" (41 : Nat) "SchemeListerModel" "rowNow" "[I") ∈ lw_all := lw_g (lw_at lw_m7 89 rfl) rfl
theorem q1680 : (Jvm.Cond.fieldLink "SchemeListerModel" (44 : Nat) "SchemeListerModel" "least" "[I") ∈ lw_all := lw_g (lw_at lw_m7 90 rfl) rfl
theorem q1681 : (Jvm.Cond.fieldLink "SchemeListerModel" (47 : Nat) "SchemeListerModel" "wayFirst" "[I") ∈ lw_all := lw_g (lw_at lw_m7 91 rfl) rfl
theorem q1682 : (Jvm.Cond.fieldLink "SchemeListerModel" (358 : Nat) "SchemeListerModel" "ways" "I") ∈ lw_all := lw_g (lw_at lw_m7 92 rfl) rfl
theorem q1683 : (Jvm.Cond.fieldLink "SchemeListerModel" (198 : Nat) "SchemeListerModel" "acts" "I") ∈ lw_all := lw_g (lw_at lw_m7 93 rfl) rfl
theorem q1684 : (Jvm.Cond.fieldLink "SchemeListerModel" (50 : Nat) "SchemeListerModel" "past" "[I") ∈ lw_all := lw_g (lw_at lw_m7 94 rfl) rfl
theorem q1685 : (Jvm.Cond.fieldLink "SchemeListerModel" (392 : Nat) "SchemeListerModel" "listPoints" "I") ∈ lw_all := lw_g (lw_at lw_m7 95 rfl) rfl
theorem q1686 : (Jvm.Cond.fieldLink "SchemeListerModel" (53 : Nat) "SchemeListerModel" "listLines" "I") ∈ lw_all := lw_g (lw_at lw_m7 96 rfl) rfl
theorem q1687 : (Jvm.Cond.fieldLink "SchemeListerModel" (395 : Nat) "SchemeListerModel" "listed" "I") ∈ lw_all := lw_g (lw_at lw_m7 97 rfl) rfl
theorem q1688 : (Jvm.Cond.fieldLink "SchemeListerModel" (56 : Nat) "SchemeListerModel" "list" "[I") ∈ lw_all := lw_g (lw_at lw_m7 98 rfl) rfl
theorem q1689 : (Jvm.Cond.fieldLink "SchemeListerModel" (59 : Nat) "SchemeListerModel" "path" "[I") ∈ lw_all := lw_g (lw_at lw_m7 99 rfl) rfl
theorem q1690 : (Jvm.Cond.fieldLink "SchemeListerModel" (62 : Nat) "SchemeListerModel" "places" "[I") ∈ lw_all := lw_g (lw_at lw_m7 100 rfl) rfl
theorem q1691 : (Jvm.Cond.fieldLink "SchemeListerModel" (65 : Nat) "SchemeListerModel" "firstPlaces" "[I") ∈ lw_all := lw_g (lw_at lw_m7 101 rfl) rfl
theorem q1692 : (Jvm.Cond.fieldLink "SchemeListerModel" (68 : Nat) "SchemeListerModel" "px" "[I") ∈ lw_all := lw_g (lw_at lw_m7 102 rfl) rfl
theorem q1693 : (Jvm.Cond.fieldLink "SchemeListerModel" (71 : Nat) "SchemeListerModel" "py" "[I") ∈ lw_all := lw_g (lw_at lw_m7 103 rfl) rfl
theorem q1694 : (Jvm.Cond.fieldLink "SchemeListerModel" (74 : Nat) "SchemeListerModel" "pz" "[I") ∈ lw_all := lw_g (lw_at lw_m7 104 rfl) rfl
theorem q1695 : (Jvm.Cond.fieldLink "SchemeListerModel" (413 : Nat) "SchemeListerModel" "placeMany" "I") ∈ lw_all := lw_g (lw_at lw_m7 105 rfl) rfl
theorem q1696 : (Jvm.Cond.fieldLink "SchemeListerModel" (404 : Nat) "SchemeListerModel" "modulus" "I") ∈ lw_all := lw_g (lw_at lw_m7 106 rfl) rfl
theorem q1697 : (Jvm.Cond.fieldLink "SchemeListerModel" (410 : Nat) "SchemeListerModel" "drawn" "I") ∈ lw_all := lw_g (lw_at lw_m7 107 rfl) rfl
theorem q1698 : (Jvm.Cond.fieldLink "SchemeListerModel" (432 : Nat) "SchemeListerModel" "halvesMany" "I") ∈ lw_all := lw_g (lw_at lw_m7 108 rfl) rfl
theorem q1699 : (Jvm.Cond.fieldLink "SchemeListerModel" (435 : Nat) "SchemeListerModel" "halvesFirst" "I") ∈ lw_all := lw_g (lw_at lw_m7 109 rfl) rfl
theorem q1700 : (Jvm.Cond.fieldLink "SchemeListerModel" (438 : Nat) "SchemeListerModel" "spreadsMany" "I") ∈ lw_all := lw_g (lw_at lw_m7 110 rfl) rfl
theorem q1701 : (Jvm.Cond.fieldLink "SchemeListerModel" (441 : Nat) "SchemeListerModel" "spreadsFirst" "I") ∈ lw_all := lw_g (lw_at lw_m7 111 rfl) rfl
theorem q1702 : (Jvm.Cond.fieldLink "SchemeListerModel" (78 : Nat) "SchemeListerModel" "comesTo" "[I") ∈ lw_all := lw_g (lw_at lw_m7 112 rfl) rfl
theorem q1703 : (Jvm.Cond.fieldLink "SchemeListerModel" (469 : Nat) "SchemeListerModel" "seedNow" "I") ∈ lw_all := lw_g (lw_at lw_m7 113 rfl) rfl
theorem q1704 : (Jvm.Cond.fieldLink "SchemeListerModel" (81 : Nat) "SchemeListerModel" "rowThen" "[I") ∈ lw_all := lw_g (lw_at lw_m7 114 rfl) rfl
theorem q1705 : (Jvm.Cond.fieldLink "SchemeListerModel" (201 : Nat) "SchemeListerModel" "hasImage" "Z") ∈ lw_all := lw_g (lw_at lw_m7 115 rfl) rfl
theorem q1706 : (Jvm.Cond.fieldLink "SchemeListerModel" (480 : Nat) "SchemeListerModel" "actsThen" "I") ∈ lw_all := lw_g (lw_at lw_m7 116 rfl) rfl
theorem q1707 : (Jvm.Cond.fieldLink "SchemeListerModel" (84 : Nat) "SchemeListerModel" "imageRow" "[I") ∈ lw_all := lw_g (lw_at lw_m7 117 rfl) rfl
theorem q1708 : (Jvm.Cond.fieldLink "SchemeListerModel" (87 : Nat) "SchemeListerModel" "pastThen" "[I") ∈ lw_all := lw_g (lw_at lw_m7 118 rfl) rfl
theorem q1709 : (Jvm.Cond.fieldLink "SchemeListerModel" (90 : Nat) "SchemeListerModel" "statusThen" "[I") ∈ lw_all := lw_g (lw_at lw_m7 119 rfl) rfl
theorem q1710 : (Jvm.Cond.lays "SchemeListerModel" "SchemeListerModel" "code" "I") ∈ lw_all := lw_g (lw_at lw_m7 120 rfl) rfl
theorem q1711 : (Jvm.Cond.soleField "SchemeListerModel" "code") ∈ lw_all := lw_g (lw_at lw_m7 121 rfl) rfl
theorem q1712 : (Jvm.Cond.laysFinal "SchemeListerModel" "SchemeListerModel" "now" "[I") ∈ lw_all := lw_g (lw_at lw_m7 122 rfl) rfl
theorem q1713 : (Jvm.Cond.soleField "SchemeListerModel" "now") ∈ lw_all := lw_g (lw_at lw_m7 123 rfl) rfl
theorem q1714 : (Jvm.Cond.laysFinal "SchemeListerModel" "SchemeListerModel" "read" "[I") ∈ lw_all := lw_g (lw_at lw_m7 124 rfl) rfl
theorem q1715 : (Jvm.Cond.soleField "SchemeListerModel" "read") ∈ lw_all := lw_g (lw_at lw_m7 125 rfl) rfl
theorem q1716 : (Jvm.Cond.laysFinal "SchemeListerModel" "SchemeListerModel" "status" "[I") ∈ lw_all := lw_g (lw_at lw_m7 126 rfl) rfl
theorem q1717 : (Jvm.Cond.soleField "SchemeListerModel" "status") ∈ lw_all := lw_g (lw_at lw_m7 127 rfl) rfl
theorem q1718 : (Jvm.Cond.laysFinal "SchemeListerModel" "SchemeListerModel" "tape" "[I") ∈ lw_all := lw_g (lw_at lw_m7 128 rfl) rfl
theorem q1719 : (Jvm.Cond.soleField "SchemeListerModel" "tape") ∈ lw_all := lw_g (lw_at lw_m7 129 rfl) rfl
theorem q1720 : (Jvm.Cond.lays "SchemeListerModel" "SchemeListerModel" "taped" "I") ∈ lw_all := lw_g (lw_at lw_m7 130 rfl) rfl
theorem q1721 : (Jvm.Cond.soleField "SchemeListerModel" "taped") ∈ lw_all := lw_g (lw_at lw_m7 131 rfl) rfl
theorem q1722 : (Jvm.Cond.lays "SchemeListerModel" "SchemeListerModel" "at" "I") ∈ lw_all := lw_g (lw_at lw_m7 132 rfl) rfl
theorem q1723 : (Jvm.Cond.soleField "SchemeListerModel" "at") ∈ lw_all := lw_g (lw_at lw_m7 133 rfl) rfl
theorem q1724 : (Jvm.Cond.lays "SchemeListerModel" "SchemeListerModel" "textSize" "I") ∈ lw_all := lw_g (lw_at lw_m7 134 rfl) rfl
theorem q1725 : (Jvm.Cond.soleField "SchemeListerModel" "textSize") ∈ lw_all := lw_g (lw_at lw_m7 135 rfl) rfl
theorem q1726 : (Jvm.Cond.lays "SchemeListerModel" "SchemeListerModel" "token" "I") ∈ lw_all := lw_g (lw_at lw_m7 136 rfl) rfl
theorem q1727 : (Jvm.Cond.soleField "SchemeListerModel" "token") ∈ lw_all := lw_g (lw_at lw_m7 137 rfl) rfl
theorem q1728 : (Jvm.Cond.lays "SchemeListerModel" "SchemeListerModel" "number" "I") ∈ lw_all := lw_g (lw_at lw_m7 138 rfl) rfl
theorem q1729 : (Jvm.Cond.soleField "SchemeListerModel" "number") ∈ lw_all := lw_g (lw_at lw_m7 139 rfl) rfl
theorem q1730 : (Jvm.Cond.lays "SchemeListerModel" "SchemeListerModel" "begins" "I") ∈ lw_all := lw_g (lw_at lw_m7 140 rfl) rfl
theorem q1731 : (Jvm.Cond.soleField "SchemeListerModel" "begins") ∈ lw_all := lw_g (lw_at lw_m7 141 rfl) rfl
theorem q1732 : (Jvm.Cond.lays "SchemeListerModel" "SchemeListerModel" "stops" "I") ∈ lw_all := lw_g (lw_at lw_m7 142 rfl) rfl
theorem q1733 : (Jvm.Cond.soleField "SchemeListerModel" "stops") ∈ lw_all := lw_g (lw_at lw_m7 143 rfl) rfl
theorem q1734 : (Jvm.Cond.lays "SchemeListerModel" "SchemeListerModel" "bad" "I") ∈ lw_all := lw_g (lw_at lw_m7 144 rfl) rfl
theorem q1735 : (Jvm.Cond.soleField "SchemeListerModel" "bad") ∈ lw_all := lw_g (lw_at lw_m7 145 rfl) rfl
theorem q1736 : (Jvm.Cond.lays "SchemeListerModel" "SchemeListerModel" "badPlace" "I") ∈ lw_all := lw_g (lw_at lw_m7 146 rfl) rfl
theorem q1737 : (Jvm.Cond.soleField "SchemeListerModel" "badPlace") ∈ lw_all := lw_g (lw_at lw_m7 147 rfl) rfl
theorem q1738 : (Jvm.Cond.lays "SchemeListerModel" "SchemeListerModel" "faultPlace" "I") ∈ lw_all := lw_g (lw_at lw_m7 148 rfl) rfl
theorem q1739 : (Jvm.Cond.soleField "SchemeListerModel" "faultPlace") ∈ lw_all := lw_g (lw_at lw_m7 149 rfl) rfl
theorem q1740 : (Jvm.Cond.lays "SchemeListerModel" "SchemeListerModel" "clauses" "I") ∈ lw_all := lw_g (lw_at lw_m7 150 rfl) rfl
theorem q1741 : (Jvm.Cond.soleField "SchemeListerModel" "clauses") ∈ lw_all := lw_g (lw_at lw_m7 151 rfl) rfl
theorem q1742 : (Jvm.Cond.laysFinal "SchemeListerModel" "SchemeListerModel" "naming" "[I") ∈ lw_all := lw_g (lw_at lw_m7 152 rfl) rfl
theorem q1743 : (Jvm.Cond.soleField "SchemeListerModel" "naming") ∈ lw_all := lw_g (lw_at lw_m7 153 rfl) rfl
theorem q1744 : (Jvm.Cond.laysFinal "SchemeListerModel" "SchemeListerModel" "lineBy" "[I") ∈ lw_all := lw_g (lw_at lw_m7 154 rfl) rfl
theorem q1745 : (Jvm.Cond.soleField "SchemeListerModel" "lineBy") ∈ lw_all := lw_g (lw_at lw_m7 155 rfl) rfl
theorem q1746 : (Jvm.Cond.laysFinal "SchemeListerModel" "SchemeListerModel" "becomes" "[I") ∈ lw_all := lw_g (lw_at lw_m7 156 rfl) rfl
theorem q1747 : (Jvm.Cond.soleField "SchemeListerModel" "becomes") ∈ lw_all := lw_g (lw_at lw_m7 157 rfl) rfl
theorem q1748 : (Jvm.Cond.laysFinal "SchemeListerModel" "SchemeListerModel" "dualLines" "[I") ∈ lw_all := lw_g (lw_at lw_m7 158 rfl) rfl
theorem q1749 : (Jvm.Cond.soleField "SchemeListerModel" "dualLines") ∈ lw_all := lw_g (lw_at lw_m7 159 rfl) rfl
theorem q1750 : (Jvm.Cond.laysFinal "SchemeListerModel" "SchemeListerModel" "on" "[I") ∈ lw_all := lw_g (lw_at lw_m7 160 rfl) rfl
theorem q1751 : (Jvm.Cond.soleField "SchemeListerModel" "on") ∈ lw_all := lw_g (lw_at lw_m7 161 rfl) rfl
theorem q1752 : (Jvm.Cond.laysFinal "SchemeListerModel" "SchemeListerModel" "rowNow" "[I") ∈ lw_all := lw_g (lw_at lw_m7 162 rfl) rfl
theorem q1753 : (Jvm.Cond.soleField "SchemeListerModel" "rowNow") ∈ lw_all := lw_g (lw_at lw_m7 163 rfl) rfl
theorem q1754 : (Jvm.Cond.laysFinal "SchemeListerModel" "SchemeListerModel" "least" "[I") ∈ lw_all := lw_g (lw_at lw_m7 164 rfl) rfl
theorem q1755 : (Jvm.Cond.soleField "SchemeListerModel" "least") ∈ lw_all := lw_g (lw_at lw_m7 165 rfl) rfl
theorem q1756 : (Jvm.Cond.laysFinal "SchemeListerModel" "SchemeListerModel" "wayFirst" "[I") ∈ lw_all := lw_g (lw_at lw_m7 166 rfl) rfl
theorem q1757 : (Jvm.Cond.soleField "SchemeListerModel" "wayFirst") ∈ lw_all := lw_g (lw_at lw_m7 167 rfl) rfl
theorem q1758 : (Jvm.Cond.lays "SchemeListerModel" "SchemeListerModel" "ways" "I") ∈ lw_all := lw_g (lw_at lw_m7 168 rfl) rfl
theorem q1759 : (Jvm.Cond.soleField "SchemeListerModel" "ways") ∈ lw_all := lw_g (lw_at lw_m7 169 rfl) rfl
theorem q1760 : (Jvm.Cond.lays "SchemeListerModel" "SchemeListerModel" "acts" "I") ∈ lw_all := lw_g (lw_at lw_m7 170 rfl) rfl
theorem q1761 : (Jvm.Cond.soleField "SchemeListerModel" "acts") ∈ lw_all := lw_g (lw_at lw_m7 171 rfl) rfl
theorem q1762 : (Jvm.Cond.laysFinal "SchemeListerModel" "SchemeListerModel" "past" "[I") ∈ lw_all := lw_g (lw_at lw_m7 172 rfl) rfl
theorem q1763 : (Jvm.Cond.soleField "SchemeListerModel" "past") ∈ lw_all := lw_g (lw_at lw_m7 173 rfl) rfl
theorem q1764 : (Jvm.Cond.lays "SchemeListerModel" "SchemeListerModel" "listPoints" "I") ∈ lw_all := lw_g (lw_at lw_m7 174 rfl) rfl
theorem q1765 : (Jvm.Cond.soleField "SchemeListerModel" "listPoints") ∈ lw_all := lw_g (lw_at lw_m7 175 rfl) rfl
theorem q1766 : (Jvm.Cond.lays "SchemeListerModel" "SchemeListerModel" "listLines" "I") ∈ lw_all := lw_g (lw_at lw_m7 176 rfl) rfl
theorem q1767 : (Jvm.Cond.soleField "SchemeListerModel" "listLines") ∈ lw_all := lw_g (lw_at lw_m7 177 rfl) rfl
theorem q1768 : (Jvm.Cond.lays "SchemeListerModel" "SchemeListerModel" "listed" "I") ∈ lw_all := lw_g (lw_at lw_m7 178 rfl) rfl
theorem q1769 : (Jvm.Cond.soleField "SchemeListerModel" "listed") ∈ lw_all := lw_g (lw_at lw_m7 179 rfl) rfl
theorem q1770 : (Jvm.Cond.laysFinal "SchemeListerModel" "SchemeListerModel" "list" "[I") ∈ lw_all := lw_g (lw_at lw_m7 180 rfl) rfl
theorem q1771 : (Jvm.Cond.soleField "SchemeListerModel" "list") ∈ lw_all := lw_g (lw_at lw_m7 181 rfl) rfl
theorem q1772 : (Jvm.Cond.laysFinal "SchemeListerModel" "SchemeListerModel" "path" "[I") ∈ lw_all := lw_g (lw_at lw_m7 182 rfl) rfl
theorem q1773 : (Jvm.Cond.soleField "SchemeListerModel" "path") ∈ lw_all := lw_g (lw_at lw_m7 183 rfl) rfl
theorem q1774 : (Jvm.Cond.laysFinal "SchemeListerModel" "SchemeListerModel" "places" "[I") ∈ lw_all := lw_g (lw_at lw_m7 184 rfl) rfl
theorem q1775 : (Jvm.Cond.soleField "SchemeListerModel" "places") ∈ lw_all := lw_g (lw_at lw_m7 185 rfl) rfl
theorem q1776 : (Jvm.Cond.laysFinal "SchemeListerModel" "SchemeListerModel" "firstPlaces" "[I") ∈ lw_all := lw_g (lw_at lw_m7 186 rfl) rfl
theorem q1777 : (Jvm.Cond.soleField "SchemeListerModel" "firstPlaces") ∈ lw_all := lw_g (lw_at lw_m7 187 rfl) rfl
theorem q1778 : (Jvm.Cond.laysFinal "SchemeListerModel" "SchemeListerModel" "px" "[I") ∈ lw_all := lw_g (lw_at lw_m7 188 rfl) rfl
theorem q1779 : (Jvm.Cond.soleField "SchemeListerModel" "px") ∈ lw_all := lw_g (lw_at lw_m7 189 rfl) rfl
theorem q1780 : (Jvm.Cond.laysFinal "SchemeListerModel" "SchemeListerModel" "py" "[I") ∈ lw_all := lw_g (lw_at lw_m7 190 rfl) rfl
theorem q1781 : (Jvm.Cond.soleField "SchemeListerModel" "py") ∈ lw_all := lw_g (lw_at lw_m7 191 rfl) rfl
theorem q1782 : (Jvm.Cond.laysFinal "SchemeListerModel" "SchemeListerModel" "pz" "[I") ∈ lw_all := lw_g (lw_at lw_m7 192 rfl) rfl
theorem q1783 : (Jvm.Cond.soleField "SchemeListerModel" "pz") ∈ lw_all := lw_g (lw_at lw_m7 193 rfl) rfl
theorem q1784 : (Jvm.Cond.lays "SchemeListerModel" "SchemeListerModel" "placeMany" "I") ∈ lw_all := lw_g (lw_at lw_m7 194 rfl) rfl
theorem q1785 : (Jvm.Cond.soleField "SchemeListerModel" "placeMany") ∈ lw_all := lw_g (lw_at lw_m7 195 rfl) rfl
theorem q1786 : (Jvm.Cond.lays "SchemeListerModel" "SchemeListerModel" "modulus" "I") ∈ lw_all := lw_g (lw_at lw_m7 196 rfl) rfl
theorem q1787 : (Jvm.Cond.soleField "SchemeListerModel" "modulus") ∈ lw_all := lw_g (lw_at lw_m7 197 rfl) rfl
theorem q1788 : (Jvm.Cond.lays "SchemeListerModel" "SchemeListerModel" "drawn" "I") ∈ lw_all := lw_g (lw_at lw_m7 198 rfl) rfl
theorem q1789 : (Jvm.Cond.soleField "SchemeListerModel" "drawn") ∈ lw_all := lw_g (lw_at lw_m7 199 rfl) rfl
theorem q1790 : (Jvm.Cond.lays "SchemeListerModel" "SchemeListerModel" "halvesMany" "I") ∈ lw_all := lw_g (lw_at lw_m7 200 rfl) rfl
theorem q1791 : (Jvm.Cond.soleField "SchemeListerModel" "halvesMany") ∈ lw_all := lw_g (lw_at lw_m7 201 rfl) rfl
theorem q1792 : (Jvm.Cond.lays "SchemeListerModel" "SchemeListerModel" "halvesFirst" "I") ∈ lw_all := lw_g (lw_at lw_m7 202 rfl) rfl
theorem q1793 : (Jvm.Cond.soleField "SchemeListerModel" "halvesFirst") ∈ lw_all := lw_g (lw_at lw_m7 203 rfl) rfl
theorem q1794 : (Jvm.Cond.lays "SchemeListerModel" "SchemeListerModel" "spreadsMany" "I") ∈ lw_all := lw_g (lw_at lw_m7 204 rfl) rfl
theorem q1795 : (Jvm.Cond.soleField "SchemeListerModel" "spreadsMany") ∈ lw_all := lw_g (lw_at lw_m7 205 rfl) rfl
theorem q1796 : (Jvm.Cond.lays "SchemeListerModel" "SchemeListerModel" "spreadsFirst" "I") ∈ lw_all := lw_g (lw_at lw_m7 206 rfl) rfl
theorem q1797 : (Jvm.Cond.soleField "SchemeListerModel" "spreadsFirst") ∈ lw_all := lw_g (lw_at lw_m7 207 rfl) rfl
theorem q1798 : (Jvm.Cond.laysFinal "SchemeListerModel" "SchemeListerModel" "comesTo" "[I") ∈ lw_all := lw_g (lw_at lw_m7 208 rfl) rfl
theorem q1799 : (Jvm.Cond.soleField "SchemeListerModel" "comesTo") ∈ lw_all := lw_g (lw_at lw_m7 209 rfl) rfl
theorem q1800 : (Jvm.Cond.lays "SchemeListerModel" "SchemeListerModel" "seedNow" "I") ∈ lw_all := lw_g (lw_at lw_m7 210 rfl) rfl
theorem q1801 : (Jvm.Cond.soleField "SchemeListerModel" "seedNow") ∈ lw_all := lw_g (lw_at lw_m7 211 rfl) rfl
theorem q1802 : (Jvm.Cond.laysFinal "SchemeListerModel" "SchemeListerModel" "rowThen" "[I") ∈ lw_all := lw_g (lw_at lw_m7 212 rfl) rfl
theorem q1803 : (Jvm.Cond.soleField "SchemeListerModel" "rowThen") ∈ lw_all := lw_g (lw_at lw_m7 213 rfl) rfl
theorem q1804 : (Jvm.Cond.lays "SchemeListerModel" "SchemeListerModel" "hasImage" "Z") ∈ lw_all := lw_g (lw_at lw_m7 214 rfl) rfl
theorem q1805 : (Jvm.Cond.soleField "SchemeListerModel" "hasImage") ∈ lw_all := lw_g (lw_at lw_m7 215 rfl) rfl
theorem q1806 : (Jvm.Cond.lays "SchemeListerModel" "SchemeListerModel" "actsThen" "I") ∈ lw_all := lw_g (lw_at lw_m7 216 rfl) rfl
theorem q1807 : (Jvm.Cond.soleField "SchemeListerModel" "actsThen") ∈ lw_all := lw_g (lw_at lw_m7 217 rfl) rfl
theorem q1808 : (Jvm.Cond.laysFinal "SchemeListerModel" "SchemeListerModel" "imageRow" "[I") ∈ lw_all := lw_g (lw_at lw_m7 218 rfl) rfl
theorem q1809 : (Jvm.Cond.soleField "SchemeListerModel" "imageRow") ∈ lw_all := lw_g (lw_at lw_m7 219 rfl) rfl
theorem q1810 : (Jvm.Cond.laysFinal "SchemeListerModel" "SchemeListerModel" "pastThen" "[I") ∈ lw_all := lw_g (lw_at lw_m7 220 rfl) rfl
theorem q1811 : (Jvm.Cond.soleField "SchemeListerModel" "pastThen") ∈ lw_all := lw_g (lw_at lw_m7 221 rfl) rfl
theorem q1812 : (Jvm.Cond.laysFinal "SchemeListerModel" "SchemeListerModel" "statusThen" "[I") ∈ lw_all := lw_g (lw_at lw_m7 222 rfl) rfl
theorem q1813 : (Jvm.Cond.soleField "SchemeListerModel" "statusThen") ∈ lw_all := lw_g (lw_at lw_m7 223 rfl) rfl
theorem q1814 : (Jvm.Cond.superclass "SchemeListerModel" "java/lang/Object") ∈ lw_all := lw_g (lw_at lw_m7 224 rfl) rfl
theorem q1816 : (Jvm.Cond.instanceMethod ({ cls := "SchemeListerModel", name := "thrown", desc := "()I" } : Jvm.MethodName)) ∈ lw_all := lw_g (lw_at lw_m7 226 rfl) rfl
theorem q1817 : (Jvm.Cond.selects "SchemeListerModel" ({ cls := "SchemeListerModel", name := "thrown", desc := "()I" } : Jvm.MethodName) ({ cls := "SchemeListerModel", name := "thrown", desc := "()I" } : Jvm.MethodName)) ∈ lw_all := lw_g (lw_at lw_m7 227 rfl) rfl
theorem q1818 : (Jvm.Cond.code ({ cls := "SchemeListerModel", name := "thrown", desc := "()I" } : Jvm.MethodName) prog_15_method_2_code (1 : Nat) (Option.some Jvm.ClassFile.FieldType.int)) ∈ lw_all := lw_g (lw_at lw_m7 228 rfl) rfl
theorem q1820 : (Jvm.Cond.instanceMethod ({ cls := "SchemeListerModel", name := "feed", desc := "(IIIII)I" } : Jvm.MethodName)) ∈ lw_all := lw_g (lw_at lw_m7 230 rfl) rfl
theorem q1821 : (Jvm.Cond.selects "SchemeListerModel" ({ cls := "SchemeListerModel", name := "feed", desc := "(IIIII)I" } : Jvm.MethodName) ({ cls := "SchemeListerModel", name := "feed", desc := "(IIIII)I" } : Jvm.MethodName)) ∈ lw_all := lw_g (lw_at lw_m7 231 rfl) rfl
theorem q1822 : (Jvm.Cond.code ({ cls := "SchemeListerModel", name := "feed", desc := "(IIIII)I" } : Jvm.MethodName) prog_15_method_5_code (8 : Nat) (Option.some Jvm.ClassFile.FieldType.int)) ∈ lw_all := lw_g (lw_at lw_m7 232 rfl) rfl
theorem q1824 : (Jvm.Cond.instanceMethod ({ cls := "SchemeListerModel", name := "scheme", desc := "(I)I" } : Jvm.MethodName)) ∈ lw_all := lw_g (lw_at lw_m7 234 rfl) rfl
theorem q1825 : (Jvm.Cond.selects "SchemeListerModel" ({ cls := "SchemeListerModel", name := "scheme", desc := "(I)I" } : Jvm.MethodName) ({ cls := "SchemeListerModel", name := "scheme", desc := "(I)I" } : Jvm.MethodName)) ∈ lw_all := lw_g (lw_at lw_m7 235 rfl) rfl
theorem q1826 : (Jvm.Cond.code ({ cls := "SchemeListerModel", name := "scheme", desc := "(I)I" } : Jvm.MethodName) prog_15_method_19_code (3 : Nat) (Option.some Jvm.ClassFile.FieldType.int)) ∈ lw_all := lw_g (lw_at lw_m7 236 rfl) rfl
theorem q1827 : (Jvm.Cond.methodLink "SchemeListerModel" (192 : Nat) ({ cls := "SchemeListerModel", name := "fail", desc := "(I)I" } : Jvm.MethodName)) ∈ lw_all := lw_g (lw_at lw_m7 237 rfl) rfl
theorem q1828 : (Jvm.Cond.privateMethod ({ cls := "SchemeListerModel", name := "fail", desc := "(I)I" } : Jvm.MethodName)) ∈ lw_tbl := lw_at lw_m7 238 rfl
theorem q1829 : (Jvm.Cond.instanceMethod ({ cls := "SchemeListerModel", name := "fail", desc := "(I)I" } : Jvm.MethodName)) ∈ lw_all := lw_g (lw_at lw_m7 239 rfl) rfl
theorem q1830 : (Jvm.Cond.code ({ cls := "SchemeListerModel", name := "fail", desc := "(I)I" } : Jvm.MethodName) prog_15_method_3_code (2 : Nat) (Option.some Jvm.ClassFile.FieldType.int)) ∈ lw_all := lw_g (lw_at lw_m8 0 rfl) rfl
theorem q1831 : (Jvm.Cond.methodLink "SchemeListerModel" (158 : Nat) ({ cls := "SchemeListerModel", name := "stepOn", desc := "()V" } : Jvm.MethodName)) ∈ lw_all := lw_g (lw_at lw_m8 1 rfl) rfl
theorem q1832 : (Jvm.Cond.privateMethod ({ cls := "SchemeListerModel", name := "stepOn", desc := "()V" } : Jvm.MethodName)) ∈ lw_tbl := lw_at lw_m8 2 rfl
theorem q1833 : (Jvm.Cond.instanceMethod ({ cls := "SchemeListerModel", name := "stepOn", desc := "()V" } : Jvm.MethodName)) ∈ lw_all := lw_g (lw_at lw_m8 3 rfl) rfl
theorem q1834 : (Jvm.Cond.code ({ cls := "SchemeListerModel", name := "stepOn", desc := "()V" } : Jvm.MethodName) prog_15_method_9_code (2 : Nat) (Option.none : Option Jvm.ClassFile.FieldType)) ∈ lw_all := lw_g (lw_at lw_m8 4 rfl) rfl
theorem q1835 : (Jvm.Cond.methodLink "SchemeListerModel" (105 : Nat) ({ cls := "SchemeListerModel", name := "byteAt", desc := "(I)I" } : Jvm.MethodName)) ∈ lw_all := lw_g (lw_at lw_m8 5 rfl) rfl
theorem q1836 : (Jvm.Cond.privateMethod ({ cls := "SchemeListerModel", name := "byteAt", desc := "(I)I" } : Jvm.MethodName)) ∈ lw_tbl := lw_at lw_m8 6 rfl
theorem q1837 : (Jvm.Cond.instanceMethod ({ cls := "SchemeListerModel", name := "byteAt", desc := "(I)I" } : Jvm.MethodName)) ∈ lw_all := lw_g (lw_at lw_m8 7 rfl) rfl
theorem q1838 : (Jvm.Cond.code ({ cls := "SchemeListerModel", name := "byteAt", desc := "(I)I" } : Jvm.MethodName) prog_15_method_6_code (2 : Nat) (Option.some Jvm.ClassFile.FieldType.int)) ∈ lw_all := lw_g (lw_at lw_m8 8 rfl) rfl
theorem q1839 : (Jvm.Cond.methodLink "SchemeListerModel" (115 : Nat) ({ cls := "SchemeListerModel", name := "isLetter", desc := "(I)Z" } : Jvm.MethodName)) ∈ lw_all := lw_g (lw_at lw_m8 9 rfl) rfl
theorem q1840 : (Jvm.Cond.static ({ cls := "SchemeListerModel", name := "isLetter", desc := "(I)Z" } : Jvm.MethodName)) ∈ lw_all := lw_g (lw_at lw_m8 10 rfl) rfl
theorem q1841 : (Jvm.Cond.code ({ cls := "SchemeListerModel", name := "isLetter", desc := "(I)Z" } : Jvm.MethodName) prog_15_method_7_code (1 : Nat) (Option.some Jvm.ClassFile.FieldType.boolean)) ∈ lw_all := lw_g (lw_at lw_m8 11 rfl) rfl
theorem q1842 : (Jvm.Cond.methodLink "SchemeListerModel" (119 : Nat) ({ cls := "SchemeListerModel", name := "isDigit", desc := "(I)Z" } : Jvm.MethodName)) ∈ lw_all := lw_g (lw_at lw_m8 12 rfl) rfl
theorem q1843 : (Jvm.Cond.static ({ cls := "SchemeListerModel", name := "isDigit", desc := "(I)Z" } : Jvm.MethodName)) ∈ lw_all := lw_g (lw_at lw_m8 13 rfl) rfl
theorem q1844 : (Jvm.Cond.code ({ cls := "SchemeListerModel", name := "isDigit", desc := "(I)Z" } : Jvm.MethodName) prog_15_method_8_code (1 : Nat) (Option.some Jvm.ClassFile.FieldType.boolean)) ∈ lw_all := lw_g (lw_at lw_m8 14 rfl) rfl
theorem q1845 : (Jvm.Cond.constant "SchemeListerModel" (125 : Nat) (100000 : Int32)) ∈ lw_all := lw_g (lw_at lw_m8 15 rfl) rfl
theorem q1846 : (Jvm.Cond.methodLink "SchemeListerModel" (126 : Nat) ({ cls := "java/lang/Math", name := "min", desc := "(II)I" } : Jvm.MethodName)) ∈ lw_all := lw_g (lw_at lw_m8 16 rfl) rfl
theorem q1847 : (Jvm.Cond.methodLink "SchemeListerModel" (195 : Nat) ({ cls := "SchemeListerModel", name := "readClause", desc := "()V" } : Jvm.MethodName)) ∈ lw_all := lw_g (lw_at lw_m8 17 rfl) rfl
theorem q1848 : (Jvm.Cond.privateMethod ({ cls := "SchemeListerModel", name := "readClause", desc := "()V" } : Jvm.MethodName)) ∈ lw_tbl := lw_at lw_m8 18 rfl
theorem q1849 : (Jvm.Cond.instanceMethod ({ cls := "SchemeListerModel", name := "readClause", desc := "()V" } : Jvm.MethodName)) ∈ lw_all := lw_g (lw_at lw_m8 19 rfl) rfl
theorem q1850 : (Jvm.Cond.code ({ cls := "SchemeListerModel", name := "readClause", desc := "()V" } : Jvm.MethodName) prog_15_method_18_code (4 : Nat) (Option.none : Option Jvm.ClassFile.FieldType)) ∈ lw_all := lw_g (lw_at lw_m8 20 rfl) rfl
theorem q1851 : (Jvm.Cond.stringRef "SchemeListerModel" (174 : Nat) "points") ∈ lw_tbl := lw_at lw_m8 21 rfl
theorem q1852 : (Jvm.Cond.methodLink "SchemeListerModel" (176 : Nat) ({ cls := "SchemeListerModel", name := "is", desc := "(Ljava/lang/String;)Z" } : Jvm.MethodName)) ∈ lw_all := lw_g (lw_at lw_m8 22 rfl) rfl
theorem q1853 : (Jvm.Cond.privateMethod ({ cls := "SchemeListerModel", name := "is", desc := "(Ljava/lang/String;)Z" } : Jvm.MethodName)) ∈ lw_tbl := lw_at lw_m8 23 rfl
theorem q1854 : (Jvm.Cond.instanceMethod ({ cls := "SchemeListerModel", name := "is", desc := "(Ljava/lang/String;)Z" } : Jvm.MethodName)) ∈ lw_all := lw_g (lw_at lw_m8 24 rfl) rfl
theorem q1855 : (Jvm.Cond.code ({ cls := "SchemeListerModel", name := "is", desc := "(Ljava/lang/String;)Z" } : Jvm.MethodName) prog_15_method_11_code (4 : Nat) (Option.some Jvm.ClassFile.FieldType.boolean)) ∈ lw_all := lw_g (lw_at lw_m8 25 rfl) rfl
theorem q1856 : (Jvm.Cond.methodLink "SchemeListerModel" (141 : Nat) ({ cls := "java/lang/String", name := "length", desc := "()I" } : Jvm.MethodName)) ∈ lw_all := lw_g (lw_at lw_m8 26 rfl) rfl
theorem q1857 : (Jvm.Cond.methodLink "SchemeListerModel" (147 : Nat) ({ cls := "java/lang/String", name := "charAt", desc := "(I)C" } : Jvm.MethodName)) ∈ lw_all := lw_g (lw_at lw_m8 27 rfl) rfl
theorem q1868 : (Jvm.Cond.methodLink "SchemeListerModel" (151 : Nat) ({ cls := "SchemeListerModel", name := "wrong", desc := "(I)V" } : Jvm.MethodName)) ∈ lw_all := lw_g (lw_at lw_m8 38 rfl) rfl
theorem q1869 : (Jvm.Cond.privateMethod ({ cls := "SchemeListerModel", name := "wrong", desc := "(I)V" } : Jvm.MethodName)) ∈ lw_tbl := lw_at lw_m8 39 rfl
theorem q1870 : (Jvm.Cond.instanceMethod ({ cls := "SchemeListerModel", name := "wrong", desc := "(I)V" } : Jvm.MethodName)) ∈ lw_all := lw_g (lw_at lw_m8 40 rfl) rfl
theorem q1871 : (Jvm.Cond.code ({ cls := "SchemeListerModel", name := "wrong", desc := "(I)V" } : Jvm.MethodName) prog_15_method_10_code (2 : Nat) (Option.none : Option Jvm.ClassFile.FieldType)) ∈ lw_all := lw_g (lw_at lw_m8 41 rfl) rfl
theorem q1872 : (Jvm.Cond.methodLink "SchemeListerModel" (164 : Nat) ({ cls := "SchemeListerModel", name := "readNumber", desc := "(II)I" } : Jvm.MethodName)) ∈ lw_all := lw_g (lw_at lw_m8 42 rfl) rfl
theorem q1873 : (Jvm.Cond.privateMethod ({ cls := "SchemeListerModel", name := "readNumber", desc := "(II)I" } : Jvm.MethodName)) ∈ lw_tbl := lw_at lw_m8 43 rfl
theorem q1874 : (Jvm.Cond.instanceMethod ({ cls := "SchemeListerModel", name := "readNumber", desc := "(II)I" } : Jvm.MethodName)) ∈ lw_all := lw_g (lw_at lw_m8 44 rfl) rfl
theorem q1875 : (Jvm.Cond.code ({ cls := "SchemeListerModel", name := "readNumber", desc := "(II)I" } : Jvm.MethodName) prog_15_method_14_code (4 : Nat) (Option.some Jvm.ClassFile.FieldType.int)) ∈ lw_all := lw_g (lw_at lw_m8 45 rfl) rfl
theorem q1876 : (Jvm.Cond.methodLink "SchemeListerModel" (155 : Nat) ({ cls := "SchemeListerModel", name := "numberNow", desc := "(II)I" } : Jvm.MethodName)) ∈ lw_all := lw_g (lw_at lw_m8 46 rfl) rfl
theorem q1877 : (Jvm.Cond.privateMethod ({ cls := "SchemeListerModel", name := "numberNow", desc := "(II)I" } : Jvm.MethodName)) ∈ lw_tbl := lw_at lw_m8 47 rfl
theorem q1878 : (Jvm.Cond.instanceMethod ({ cls := "SchemeListerModel", name := "numberNow", desc := "(II)I" } : Jvm.MethodName)) ∈ lw_all := lw_g (lw_at lw_m8 48 rfl) rfl
theorem q1879 : (Jvm.Cond.code ({ cls := "SchemeListerModel", name := "numberNow", desc := "(II)I" } : Jvm.MethodName) prog_15_method_13_code (3 : Nat) (Option.some Jvm.ClassFile.FieldType.int)) ∈ lw_all := lw_g (lw_at lw_m8 49 rfl) rfl
theorem q1880 : (Jvm.Cond.stringRef "SchemeListerModel" (183 : Nat) "line") ∈ lw_tbl := lw_at lw_m8 50 rfl
theorem q1881 : (Jvm.Cond.methodLink "SchemeListerModel" (185 : Nat) ({ cls := "SchemeListerModel", name := "readLine", desc := "()V" } : Jvm.MethodName)) ∈ lw_all := lw_g (lw_at lw_m8 51 rfl) rfl
theorem q1882 : (Jvm.Cond.privateMethod ({ cls := "SchemeListerModel", name := "readLine", desc := "()V" } : Jvm.MethodName)) ∈ lw_tbl := lw_at lw_m8 52 rfl
theorem q1883 : (Jvm.Cond.instanceMethod ({ cls := "SchemeListerModel", name := "readLine", desc := "()V" } : Jvm.MethodName)) ∈ lw_all := lw_g (lw_at lw_m8 53 rfl) rfl
theorem q1884 : (Jvm.Cond.code ({ cls := "SchemeListerModel", name := "readLine", desc := "()V" } : Jvm.MethodName) prog_15_method_17_code (4 : Nat) (Option.none : Option Jvm.ClassFile.FieldType)) ∈ lw_all := lw_g (lw_at lw_m8 54 rfl) rfl
theorem q1885 : (Jvm.Cond.methodLink "SchemeListerModel" (167 : Nat) ({ cls := "SchemeListerModel", name := "pointNow", desc := "()I" } : Jvm.MethodName)) ∈ lw_all := lw_g (lw_at lw_m8 55 rfl) rfl
theorem q1886 : (Jvm.Cond.privateMethod ({ cls := "SchemeListerModel", name := "pointNow", desc := "()I" } : Jvm.MethodName)) ∈ lw_tbl := lw_at lw_m8 56 rfl
theorem q1887 : (Jvm.Cond.instanceMethod ({ cls := "SchemeListerModel", name := "pointNow", desc := "()I" } : Jvm.MethodName)) ∈ lw_all := lw_g (lw_at lw_m8 57 rfl) rfl
theorem q1888 : (Jvm.Cond.code ({ cls := "SchemeListerModel", name := "pointNow", desc := "()I" } : Jvm.MethodName) prog_15_method_16_code (2 : Nat) (Option.some Jvm.ClassFile.FieldType.int)) ∈ lw_all := lw_g (lw_at lw_m8 58 rfl) rfl
theorem q1889 : (Jvm.Cond.methodLink "SchemeListerModel" (161 : Nat) ({ cls := "SchemeListerModel", name := "isMarked", desc := "(I)Z" } : Jvm.MethodName)) ∈ lw_all := lw_g (lw_at lw_m8 59 rfl) rfl
theorem q1890 : (Jvm.Cond.privateMethod ({ cls := "SchemeListerModel", name := "isMarked", desc := "(I)Z" } : Jvm.MethodName)) ∈ lw_tbl := lw_at lw_m8 60 rfl
theorem q1891 : (Jvm.Cond.instanceMethod ({ cls := "SchemeListerModel", name := "isMarked", desc := "(I)Z" } : Jvm.MethodName)) ∈ lw_all := lw_g (lw_at lw_m8 61 rfl) rfl
theorem q1892 : (Jvm.Cond.code ({ cls := "SchemeListerModel", name := "isMarked", desc := "(I)Z" } : Jvm.MethodName) prog_15_method_12_code (2 : Nat) (Option.some Jvm.ClassFile.FieldType.boolean)) ∈ lw_all := lw_g (lw_at lw_m8 62 rfl) rfl
theorem q1893 : (Jvm.Cond.methodLink "SchemeListerModel" (170 : Nat) ({ cls := "SchemeListerModel", name := "sharesTwo", desc := "([II)Z" } : Jvm.MethodName)) ∈ lw_all := lw_g (lw_at lw_m8 63 rfl) rfl
theorem q1894 : (Jvm.Cond.static ({ cls := "SchemeListerModel", name := "sharesTwo", desc := "([II)Z" } : Jvm.MethodName)) ∈ lw_all := lw_g (lw_at lw_m8 64 rfl) rfl
theorem q1895 : (Jvm.Cond.code ({ cls := "SchemeListerModel", name := "sharesTwo", desc := "([II)Z" } : Jvm.MethodName) prog_15_method_22_code (4 : Nat) (Option.some Jvm.ClassFile.FieldType.boolean)) ∈ lw_all := lw_g (lw_at lw_m8 65 rfl) rfl
theorem q1896 : (Jvm.Cond.methodLink "SchemeListerModel" (210 : Nat) ({ cls := "SchemeListerModel", name := "bits", desc := "(I)I" } : Jvm.MethodName)) ∈ lw_all := lw_g (lw_at lw_m8 66 rfl) rfl
theorem q1897 : (Jvm.Cond.static ({ cls := "SchemeListerModel", name := "bits", desc := "(I)I" } : Jvm.MethodName)) ∈ lw_all := lw_g (lw_at lw_m8 67 rfl) rfl
theorem q1898 : (Jvm.Cond.code ({ cls := "SchemeListerModel", name := "bits", desc := "(I)I" } : Jvm.MethodName) prog_15_method_21_code (1 : Nat) (Option.some Jvm.ClassFile.FieldType.int)) ∈ lw_all := lw_g (lw_at lw_m8 68 rfl) rfl
theorem q1899 : (Jvm.Cond.methodLink "SchemeListerModel" (205 : Nat) ({ cls := "java/lang/Integer", name := "bitCount", desc := "(I)I" } : Jvm.MethodName)) ∈ lw_all := lw_g (lw_at lw_m8 69 rfl) rfl
theorem q1900 : (Jvm.Cond.stringRef "SchemeListerModel" (188 : Nat) "at") ∈ lw_tbl := lw_at lw_m8 70 rfl
theorem q1901 : (Jvm.Cond.methodLink "SchemeListerModel" (189 : Nat) ({ cls := "SchemeListerModel", name := "readSigned", desc := "()I" } : Jvm.MethodName)) ∈ lw_all := lw_g (lw_at lw_m8 71 rfl) rfl
theorem q1902 : (Jvm.Cond.privateMethod ({ cls := "SchemeListerModel", name := "readSigned", desc := "()I" } : Jvm.MethodName)) ∈ lw_tbl := lw_at lw_m8 72 rfl
theorem q1903 : (Jvm.Cond.instanceMethod ({ cls := "SchemeListerModel", name := "readSigned", desc := "()I" } : Jvm.MethodName)) ∈ lw_all := lw_g (lw_at lw_m8 73 rfl) rfl
theorem q1904 : (Jvm.Cond.code ({ cls := "SchemeListerModel", name := "readSigned", desc := "()I" } : Jvm.MethodName) prog_15_method_15_code (3 : Nat) (Option.some Jvm.ClassFile.FieldType.int)) ∈ lw_all := lw_g (lw_at lw_m8 74 rfl) rfl
theorem q1906 : (Jvm.Cond.instanceMethod ({ cls := "SchemeListerModel", name := "fault", desc := "()I" } : Jvm.MethodName)) ∈ lw_all := lw_g (lw_at lw_m8 76 rfl) rfl
theorem q1907 : (Jvm.Cond.selects "SchemeListerModel" ({ cls := "SchemeListerModel", name := "fault", desc := "()I" } : Jvm.MethodName) ({ cls := "SchemeListerModel", name := "fault", desc := "()I" } : Jvm.MethodName)) ∈ lw_all := lw_g (lw_at lw_m8 77 rfl) rfl
theorem q1908 : (Jvm.Cond.code ({ cls := "SchemeListerModel", name := "fault", desc := "()I" } : Jvm.MethodName) prog_15_method_20_code (1 : Nat) (Option.some Jvm.ClassFile.FieldType.int)) ∈ lw_all := lw_g (lw_at lw_m8 78 rfl) rfl
theorem q1910 : (Jvm.Cond.instanceMethod ({ cls := "SchemeListerModel", name := "count", desc := "(I)I" } : Jvm.MethodName)) ∈ lw_all := lw_g (lw_at lw_m8 80 rfl) rfl
theorem q1911 : (Jvm.Cond.selects "SchemeListerModel" ({ cls := "SchemeListerModel", name := "count", desc := "(I)I" } : Jvm.MethodName) ({ cls := "SchemeListerModel", name := "count", desc := "(I)I" } : Jvm.MethodName)) ∈ lw_all := lw_g (lw_at lw_m8 81 rfl) rfl
theorem q1912 : (Jvm.Cond.code ({ cls := "SchemeListerModel", name := "count", desc := "(I)I" } : Jvm.MethodName) prog_15_method_59_code (2 : Nat) (Option.some Jvm.ClassFile.FieldType.int)) ∈ lw_all := lw_g (lw_at lw_m8 82 rfl) rfl
theorem q1913 : (Jvm.Cond.methodLink "SchemeListerModel" (222 : Nat) ({ cls := "SchemeListerModel", name := "points", desc := "()I" } : Jvm.MethodName)) ∈ lw_all := lw_g (lw_at lw_m8 83 rfl) rfl
theorem q1914 : (Jvm.Cond.privateMethod ({ cls := "SchemeListerModel", name := "points", desc := "()I" } : Jvm.MethodName)) ∈ lw_tbl := lw_at lw_m8 84 rfl
theorem q1915 : (Jvm.Cond.instanceMethod ({ cls := "SchemeListerModel", name := "points", desc := "()I" } : Jvm.MethodName)) ∈ lw_all := lw_g (lw_at lw_m8 85 rfl) rfl
theorem q1916 : (Jvm.Cond.code ({ cls := "SchemeListerModel", name := "points", desc := "()I" } : Jvm.MethodName) prog_15_method_23_code (1 : Nat) (Option.some Jvm.ClassFile.FieldType.int)) ∈ lw_all := lw_g (lw_at lw_m8 86 rfl) rfl
theorem q1917 : (Jvm.Cond.methodLink "SchemeListerModel" (213 : Nat) ({ cls := "SchemeListerModel", name := "lines", desc := "()I" } : Jvm.MethodName)) ∈ lw_all := lw_g (lw_at lw_m8 87 rfl) rfl
theorem q1918 : (Jvm.Cond.privateMethod ({ cls := "SchemeListerModel", name := "lines", desc := "()I" } : Jvm.MethodName)) ∈ lw_tbl := lw_at lw_m8 88 rfl
theorem q1919 : (Jvm.Cond.instanceMethod ({ cls := "SchemeListerModel", name := "lines", desc := "()I" } : Jvm.MethodName)) ∈ lw_all := lw_g (lw_at lw_m8 89 rfl) rfl
theorem q1920 : (Jvm.Cond.code ({ cls := "SchemeListerModel", name := "lines", desc := "()I" } : Jvm.MethodName) prog_15_method_24_code (1 : Nat) (Option.some Jvm.ClassFile.FieldType.int)) ∈ lw_all := lw_g (lw_at lw_m8 90 rfl) rfl
theorem q1921 : (Jvm.Cond.methodLink "SchemeListerModel" (290 : Nat) ({ cls := "SchemeListerModel", name := "flags", desc := "()I" } : Jvm.MethodName)) ∈ lw_all := lw_g (lw_at lw_m8 91 rfl) rfl
theorem q1922 : (Jvm.Cond.privateMethod ({ cls := "SchemeListerModel", name := "flags", desc := "()I" } : Jvm.MethodName)) ∈ lw_tbl := lw_at lw_m8 92 rfl
theorem q1923 : (Jvm.Cond.instanceMethod ({ cls := "SchemeListerModel", name := "flags", desc := "()I" } : Jvm.MethodName)) ∈ lw_all := lw_g (lw_at lw_m8 93 rfl) rfl
theorem q1924 : (Jvm.Cond.code ({ cls := "SchemeListerModel", name := "flags", desc := "()I" } : Jvm.MethodName) prog_15_method_29_code (3 : Nat) (Option.some Jvm.ClassFile.FieldType.int)) ∈ lw_all := lw_g (lw_at lw_m8 94 rfl) rfl
theorem q1925 : (Jvm.Cond.methodLink "SchemeListerModel" (216 : Nat) ({ cls := "SchemeListerModel", name := "lineAt", desc := "(I)I" } : Jvm.MethodName)) ∈ lw_all := lw_g (lw_at lw_m8 95 rfl) rfl
theorem q1926 : (Jvm.Cond.privateMethod ({ cls := "SchemeListerModel", name := "lineAt", desc := "(I)I" } : Jvm.MethodName)) ∈ lw_tbl := lw_at lw_m8 96 rfl
theorem q1927 : (Jvm.Cond.instanceMethod ({ cls := "SchemeListerModel", name := "lineAt", desc := "(I)I" } : Jvm.MethodName)) ∈ lw_all := lw_g (lw_at lw_m8 97 rfl) rfl
theorem q1928 : (Jvm.Cond.code ({ cls := "SchemeListerModel", name := "lineAt", desc := "(I)I" } : Jvm.MethodName) prog_15_method_25_code (2 : Nat) (Option.some Jvm.ClassFile.FieldType.int)) ∈ lw_all := lw_g (lw_at lw_m8 98 rfl) rfl
theorem q1929 : (Jvm.Cond.methodLink "SchemeListerModel" (293 : Nat) ({ cls := "SchemeListerModel", name := "isRegular", desc := "()Z" } : Jvm.MethodName)) ∈ lw_all := lw_g (lw_at lw_m8 99 rfl) rfl
theorem q1930 : (Jvm.Cond.privateMethod ({ cls := "SchemeListerModel", name := "isRegular", desc := "()Z" } : Jvm.MethodName)) ∈ lw_tbl := lw_at lw_m8 100 rfl
theorem q1931 : (Jvm.Cond.instanceMethod ({ cls := "SchemeListerModel", name := "isRegular", desc := "()Z" } : Jvm.MethodName)) ∈ lw_all := lw_g (lw_at lw_m8 101 rfl) rfl
theorem q1932 : (Jvm.Cond.code ({ cls := "SchemeListerModel", name := "isRegular", desc := "()Z" } : Jvm.MethodName) prog_15_method_33_code (1 : Nat) (Option.some Jvm.ClassFile.FieldType.boolean)) ∈ lw_all := lw_g (lw_at lw_m8 102 rfl) rfl
theorem q1933 : (Jvm.Cond.methodLink "SchemeListerModel" (231 : Nat) ({ cls := "SchemeListerModel", name := "regularR", desc := "()I" } : Jvm.MethodName)) ∈ lw_all := lw_g (lw_at lw_m8 103 rfl) rfl
theorem q1934 : (Jvm.Cond.privateMethod ({ cls := "SchemeListerModel", name := "regularR", desc := "()I" } : Jvm.MethodName)) ∈ lw_tbl := lw_at lw_m8 104 rfl
theorem q1935 : (Jvm.Cond.instanceMethod ({ cls := "SchemeListerModel", name := "regularR", desc := "()I" } : Jvm.MethodName)) ∈ lw_all := lw_g (lw_at lw_m8 105 rfl) rfl
theorem q1936 : (Jvm.Cond.code ({ cls := "SchemeListerModel", name := "regularR", desc := "()I" } : Jvm.MethodName) prog_15_method_31_code (3 : Nat) (Option.some Jvm.ClassFile.FieldType.int)) ∈ lw_all := lw_g (lw_at lw_m8 106 rfl) rfl
theorem q1937 : (Jvm.Cond.methodLink "SchemeListerModel" (228 : Nat) ({ cls := "SchemeListerModel", name := "linesOn", desc := "(I)I" } : Jvm.MethodName)) ∈ lw_all := lw_g (lw_at lw_m8 107 rfl) rfl
theorem q1938 : (Jvm.Cond.privateMethod ({ cls := "SchemeListerModel", name := "linesOn", desc := "(I)I" } : Jvm.MethodName)) ∈ lw_tbl := lw_at lw_m8 108 rfl
theorem q1939 : (Jvm.Cond.instanceMethod ({ cls := "SchemeListerModel", name := "linesOn", desc := "(I)I" } : Jvm.MethodName)) ∈ lw_all := lw_g (lw_at lw_m8 109 rfl) rfl
theorem q1940 : (Jvm.Cond.code ({ cls := "SchemeListerModel", name := "linesOn", desc := "(I)I" } : Jvm.MethodName) prog_15_method_26_code (4 : Nat) (Option.some Jvm.ClassFile.FieldType.int)) ∈ lw_all := lw_g (lw_at lw_m8 110 rfl) rfl
theorem q1941 : (Jvm.Cond.methodLink "SchemeListerModel" (234 : Nat) ({ cls := "SchemeListerModel", name := "regularK", desc := "()I" } : Jvm.MethodName)) ∈ lw_all := lw_g (lw_at lw_m8 111 rfl) rfl
theorem q1942 : (Jvm.Cond.privateMethod ({ cls := "SchemeListerModel", name := "regularK", desc := "()I" } : Jvm.MethodName)) ∈ lw_tbl := lw_at lw_m8 112 rfl
theorem q1943 : (Jvm.Cond.instanceMethod ({ cls := "SchemeListerModel", name := "regularK", desc := "()I" } : Jvm.MethodName)) ∈ lw_all := lw_g (lw_at lw_m8 113 rfl) rfl
theorem q1944 : (Jvm.Cond.code ({ cls := "SchemeListerModel", name := "regularK", desc := "()I" } : Jvm.MethodName) prog_15_method_32_code (3 : Nat) (Option.some Jvm.ClassFile.FieldType.int)) ∈ lw_all := lw_g (lw_at lw_m8 114 rfl) rfl
theorem q1945 : (Jvm.Cond.methodLink "SchemeListerModel" (296 : Nat) ({ cls := "SchemeListerModel", name := "pairs", desc := "()I" } : Jvm.MethodName)) ∈ lw_all := lw_g (lw_at lw_m8 115 rfl) rfl
theorem q1946 : (Jvm.Cond.privateMethod ({ cls := "SchemeListerModel", name := "pairs", desc := "()I" } : Jvm.MethodName)) ∈ lw_tbl := lw_at lw_m8 116 rfl
theorem q1947 : (Jvm.Cond.instanceMethod ({ cls := "SchemeListerModel", name := "pairs", desc := "()I" } : Jvm.MethodName)) ∈ lw_all := lw_g (lw_at lw_m8 117 rfl) rfl
theorem q1948 : (Jvm.Cond.code ({ cls := "SchemeListerModel", name := "pairs", desc := "()I" } : Jvm.MethodName) prog_15_method_30_code (4 : Nat) (Option.some Jvm.ClassFile.FieldType.int)) ∈ lw_all := lw_g (lw_at lw_m8 118 rfl) rfl
theorem q1949 : (Jvm.Cond.methodLink "SchemeListerModel" (224 : Nat) ({ cls := "SchemeListerModel", name := "areJoined", desc := "(II)Z" } : Jvm.MethodName)) ∈ lw_all := lw_g (lw_at lw_m8 119 rfl) rfl
theorem q1950 : (Jvm.Cond.privateMethod ({ cls := "SchemeListerModel", name := "areJoined", desc := "(II)Z" } : Jvm.MethodName)) ∈ lw_tbl := lw_at lw_m8 120 rfl
theorem q1951 : (Jvm.Cond.instanceMethod ({ cls := "SchemeListerModel", name := "areJoined", desc := "(II)Z" } : Jvm.MethodName)) ∈ lw_all := lw_g (lw_at lw_m8 121 rfl) rfl
theorem q1952 : (Jvm.Cond.code ({ cls := "SchemeListerModel", name := "areJoined", desc := "(II)Z" } : Jvm.MethodName) prog_15_method_28_code (3 : Nat) (Option.some Jvm.ClassFile.FieldType.boolean)) ∈ lw_all := lw_g (lw_at lw_m8 122 rfl) rfl
theorem q1953 : (Jvm.Cond.methodLink "SchemeListerModel" (219 : Nat) ({ cls := "SchemeListerModel", name := "lineOf", desc := "(I)I" } : Jvm.MethodName)) ∈ lw_all := lw_g (lw_at lw_m8 123 rfl) rfl
theorem q1954 : (Jvm.Cond.privateMethod ({ cls := "SchemeListerModel", name := "lineOf", desc := "(I)I" } : Jvm.MethodName)) ∈ lw_tbl := lw_at lw_m8 124 rfl
theorem q1955 : (Jvm.Cond.instanceMethod ({ cls := "SchemeListerModel", name := "lineOf", desc := "(I)I" } : Jvm.MethodName)) ∈ lw_all := lw_g (lw_at lw_m8 125 rfl) rfl
theorem q1956 : (Jvm.Cond.code ({ cls := "SchemeListerModel", name := "lineOf", desc := "(I)I" } : Jvm.MethodName) prog_15_method_27_code (3 : Nat) (Option.some Jvm.ClassFile.FieldType.int)) ∈ lw_all := lw_g (lw_at lw_m8 126 rfl) rfl
theorem q1957 : (Jvm.Cond.methodLink "SchemeListerModel" (299 : Nat) ({ cls := "SchemeListerModel", name := "triangles", desc := "()I" } : Jvm.MethodName)) ∈ lw_all := lw_g (lw_at lw_m8 127 rfl) rfl
theorem q1958 : (Jvm.Cond.privateMethod ({ cls := "SchemeListerModel", name := "triangles", desc := "()I" } : Jvm.MethodName)) ∈ lw_tbl := lw_at lw_m8 128 rfl
theorem q1959 : (Jvm.Cond.instanceMethod ({ cls := "SchemeListerModel", name := "triangles", desc := "()I" } : Jvm.MethodName)) ∈ lw_all := lw_g (lw_at lw_m8 129 rfl) rfl
theorem q1960 : (Jvm.Cond.code ({ cls := "SchemeListerModel", name := "triangles", desc := "()I" } : Jvm.MethodName) prog_15_method_34_code (8 : Nat) (Option.some Jvm.ClassFile.FieldType.int)) ∈ lw_all := lw_g (lw_at lw_m8 130 rfl) rfl
theorem q1961 : (Jvm.Cond.methodLink "SchemeListerModel" (302 : Nat) ({ cls := "SchemeListerModel", name := "pieces", desc := "()I" } : Jvm.MethodName)) ∈ lw_all := lw_g (lw_at lw_m8 131 rfl) rfl
theorem q1962 : (Jvm.Cond.privateMethod ({ cls := "SchemeListerModel", name := "pieces", desc := "()I" } : Jvm.MethodName)) ∈ lw_tbl := lw_at lw_m8 132 rfl
theorem q1963 : (Jvm.Cond.instanceMethod ({ cls := "SchemeListerModel", name := "pieces", desc := "()I" } : Jvm.MethodName)) ∈ lw_all := lw_g (lw_at lw_m8 133 rfl) rfl
theorem q1964 : (Jvm.Cond.code ({ cls := "SchemeListerModel", name := "pieces", desc := "()I" } : Jvm.MethodName) prog_15_method_38_code (3 : Nat) (Option.some Jvm.ClassFile.FieldType.int)) ∈ lw_all := lw_g (lw_at lw_m8 134 rfl) rfl
theorem q1965 : (Jvm.Cond.methodLink "SchemeListerModel" (237 : Nat) ({ cls := "SchemeListerModel", name := "pieceOf", desc := "(I)I" } : Jvm.MethodName)) ∈ lw_all := lw_g (lw_at lw_m8 135 rfl) rfl
theorem q1966 : (Jvm.Cond.privateMethod ({ cls := "SchemeListerModel", name := "pieceOf", desc := "(I)I" } : Jvm.MethodName)) ∈ lw_tbl := lw_at lw_m8 136 rfl
theorem q1967 : (Jvm.Cond.instanceMethod ({ cls := "SchemeListerModel", name := "pieceOf", desc := "(I)I" } : Jvm.MethodName)) ∈ lw_all := lw_g (lw_at lw_m8 137 rfl) rfl
theorem q1968 : (Jvm.Cond.code ({ cls := "SchemeListerModel", name := "pieceOf", desc := "(I)I" } : Jvm.MethodName) prog_15_method_37_code (5 : Nat) (Option.some Jvm.ClassFile.FieldType.int)) ∈ lw_all := lw_g (lw_at lw_m8 138 rfl) rfl
theorem q1969 : (Jvm.Cond.methodLink "SchemeListerModel" (240 : Nat) ({ cls := "java/lang/Integer", name := "numberOfTrailingZeros", desc := "(I)I" } : Jvm.MethodName)) ∈ lw_all := lw_g (lw_at lw_m8 139 rfl) rfl
theorem q1970 : (Jvm.Cond.methodLink "SchemeListerModel" (263 : Nat) ({ cls := "SchemeListerModel", name := "symmetries", desc := "()I" } : Jvm.MethodName)) ∈ lw_all := lw_g (lw_at lw_m8 140 rfl) rfl
theorem q1971 : (Jvm.Cond.privateMethod ({ cls := "SchemeListerModel", name := "symmetries", desc := "()I" } : Jvm.MethodName)) ∈ lw_tbl := lw_at lw_m8 141 rfl
theorem q1972 : (Jvm.Cond.instanceMethod ({ cls := "SchemeListerModel", name := "symmetries", desc := "()I" } : Jvm.MethodName)) ∈ lw_all := lw_g (lw_at lw_m8 142 rfl) rfl
theorem q1973 : (Jvm.Cond.code ({ cls := "SchemeListerModel", name := "symmetries", desc := "()I" } : Jvm.MethodName) prog_15_method_45_code (4 : Nat) (Option.some Jvm.ClassFile.FieldType.int)) ∈ lw_all := lw_g (lw_at lw_m8 143 rfl) rfl
theorem q1974 : (Jvm.Cond.methodLink "SchemeListerModel" (250 : Nat) ({ cls := "SchemeListerModel", name := "tellLines", desc := "()V" } : Jvm.MethodName)) ∈ lw_all := lw_g (lw_at lw_m8 144 rfl) rfl
theorem q1975 : (Jvm.Cond.privateMethod ({ cls := "SchemeListerModel", name := "tellLines", desc := "()V" } : Jvm.MethodName)) ∈ lw_tbl := lw_at lw_m8 145 rfl
theorem q1976 : (Jvm.Cond.instanceMethod ({ cls := "SchemeListerModel", name := "tellLines", desc := "()V" } : Jvm.MethodName)) ∈ lw_all := lw_g (lw_at lw_m8 146 rfl) rfl
theorem q1977 : (Jvm.Cond.code ({ cls := "SchemeListerModel", name := "tellLines", desc := "()V" } : Jvm.MethodName) prog_15_method_43_code (2 : Nat) (Option.none : Option Jvm.ClassFile.FieldType)) ∈ lw_all := lw_g (lw_at lw_m8 147 rfl) rfl
theorem q1978 : (Jvm.Cond.methodLink "SchemeListerModel" (253 : Nat) ({ cls := "SchemeListerModel", name := "beginNaming", desc := "(I)V" } : Jvm.MethodName)) ∈ lw_all := lw_g (lw_at lw_m8 148 rfl) rfl
theorem q1979 : (Jvm.Cond.privateMethod ({ cls := "SchemeListerModel", name := "beginNaming", desc := "(I)V" } : Jvm.MethodName)) ∈ lw_tbl := lw_at lw_m8 149 rfl
theorem q1980 : (Jvm.Cond.instanceMethod ({ cls := "SchemeListerModel", name := "beginNaming", desc := "(I)V" } : Jvm.MethodName)) ∈ lw_all := lw_g (lw_at lw_m8 150 rfl) rfl
theorem q1981 : (Jvm.Cond.code ({ cls := "SchemeListerModel", name := "beginNaming", desc := "(I)V" } : Jvm.MethodName) prog_15_method_39_code (3 : Nat) (Option.none : Option Jvm.ClassFile.FieldType)) ∈ lw_all := lw_g (lw_at lw_m8 151 rfl) rfl
theorem q1982 : (Jvm.Cond.methodLink "SchemeListerModel" (256 : Nat) ({ cls := "SchemeListerModel", name := "isSymmetry", desc := "()Z" } : Jvm.MethodName)) ∈ lw_all := lw_g (lw_at lw_m8 152 rfl) rfl
theorem q1983 : (Jvm.Cond.privateMethod ({ cls := "SchemeListerModel", name := "isSymmetry", desc := "()Z" } : Jvm.MethodName)) ∈ lw_tbl := lw_at lw_m8 153 rfl
theorem q1984 : (Jvm.Cond.instanceMethod ({ cls := "SchemeListerModel", name := "isSymmetry", desc := "()Z" } : Jvm.MethodName)) ∈ lw_all := lw_g (lw_at lw_m8 154 rfl) rfl
theorem q1985 : (Jvm.Cond.code ({ cls := "SchemeListerModel", name := "isSymmetry", desc := "()Z" } : Jvm.MethodName) prog_15_method_44_code (2 : Nat) (Option.some Jvm.ClassFile.FieldType.boolean)) ∈ lw_all := lw_g (lw_at lw_m8 155 rfl) rfl
theorem q1986 : (Jvm.Cond.methodLink "SchemeListerModel" (247 : Nat) ({ cls := "SchemeListerModel", name := "named", desc := "(I)I" } : Jvm.MethodName)) ∈ lw_all := lw_g (lw_at lw_m8 156 rfl) rfl
theorem q1987 : (Jvm.Cond.privateMethod ({ cls := "SchemeListerModel", name := "named", desc := "(I)I" } : Jvm.MethodName)) ∈ lw_tbl := lw_at lw_m8 157 rfl
theorem q1988 : (Jvm.Cond.instanceMethod ({ cls := "SchemeListerModel", name := "named", desc := "(I)I" } : Jvm.MethodName)) ∈ lw_all := lw_g (lw_at lw_m8 158 rfl) rfl
theorem q1989 : (Jvm.Cond.code ({ cls := "SchemeListerModel", name := "named", desc := "(I)I" } : Jvm.MethodName) prog_15_method_42_code (4 : Nat) (Option.some Jvm.ClassFile.FieldType.int)) ∈ lw_all := lw_g (lw_at lw_m8 159 rfl) rfl
theorem q1990 : (Jvm.Cond.methodLink "SchemeListerModel" (260 : Nat) ({ cls := "SchemeListerModel", name := "nextNaming", desc := "(I)Z" } : Jvm.MethodName)) ∈ lw_all := lw_g (lw_at lw_m8 160 rfl) rfl
theorem q1991 : (Jvm.Cond.privateMethod ({ cls := "SchemeListerModel", name := "nextNaming", desc := "(I)Z" } : Jvm.MethodName)) ∈ lw_tbl := lw_at lw_m8 161 rfl
theorem q1992 : (Jvm.Cond.instanceMethod ({ cls := "SchemeListerModel", name := "nextNaming", desc := "(I)Z" } : Jvm.MethodName)) ∈ lw_all := lw_g (lw_at lw_m8 162 rfl) rfl
theorem q1993 : (Jvm.Cond.code ({ cls := "SchemeListerModel", name := "nextNaming", desc := "(I)Z" } : Jvm.MethodName) prog_15_method_40_code (6 : Nat) (Option.some Jvm.ClassFile.FieldType.boolean)) ∈ lw_all := lw_g (lw_at lw_m8 163 rfl) rfl
theorem q1994 : (Jvm.Cond.methodLink "SchemeListerModel" (243 : Nat) ({ cls := "SchemeListerModel", name := "exchange", desc := "(II)V" } : Jvm.MethodName)) ∈ lw_all := lw_g (lw_at lw_m8 164 rfl) rfl
theorem q1995 : (Jvm.Cond.privateMethod ({ cls := "SchemeListerModel", name := "exchange", desc := "(II)V" } : Jvm.MethodName)) ∈ lw_tbl := lw_at lw_m8 165 rfl
theorem q1996 : (Jvm.Cond.instanceMethod ({ cls := "SchemeListerModel", name := "exchange", desc := "(II)V" } : Jvm.MethodName)) ∈ lw_all := lw_g (lw_at lw_m8 166 rfl) rfl
theorem q1997 : (Jvm.Cond.code ({ cls := "SchemeListerModel", name := "exchange", desc := "(II)V" } : Jvm.MethodName) prog_15_method_41_code (4 : Nat) (Option.none : Option Jvm.ClassFile.FieldType)) ∈ lw_all := lw_g (lw_at lw_m8 167 rfl) rfl
theorem q1998 : (Jvm.Cond.methodLink "SchemeListerModel" (305 : Nat) ({ cls := "SchemeListerModel", name := "orbits", desc := "()I" } : Jvm.MethodName)) ∈ lw_all := lw_g (lw_at lw_m8 168 rfl) rfl
theorem q1999 : (Jvm.Cond.privateMethod ({ cls := "SchemeListerModel", name := "orbits", desc := "()I" } : Jvm.MethodName)) ∈ lw_tbl := lw_at lw_m8 169 rfl
theorem q2000 : (Jvm.Cond.instanceMethod ({ cls := "SchemeListerModel", name := "orbits", desc := "()I" } : Jvm.MethodName)) ∈ lw_all := lw_g (lw_at lw_m8 170 rfl) rfl
theorem q2001 : (Jvm.Cond.code ({ cls := "SchemeListerModel", name := "orbits", desc := "()I" } : Jvm.MethodName) prog_15_method_46_code (3 : Nat) (Option.some Jvm.ClassFile.FieldType.int)) ∈ lw_all := lw_g (lw_at lw_m8 171 rfl) rfl
theorem q2002 : (Jvm.Cond.methodLink "SchemeListerModel" (308 : Nat) ({ cls := "SchemeListerModel", name := "dualities", desc := "(Z)I" } : Jvm.MethodName)) ∈ lw_all := lw_g (lw_at lw_m8 172 rfl) rfl
theorem q2003 : (Jvm.Cond.privateMethod ({ cls := "SchemeListerModel", name := "dualities", desc := "(Z)I" } : Jvm.MethodName)) ∈ lw_tbl := lw_at lw_m8 173 rfl
theorem q2004 : (Jvm.Cond.instanceMethod ({ cls := "SchemeListerModel", name := "dualities", desc := "(Z)I" } : Jvm.MethodName)) ∈ lw_all := lw_g (lw_at lw_m8 174 rfl) rfl
theorem q2005 : (Jvm.Cond.code ({ cls := "SchemeListerModel", name := "dualities", desc := "(Z)I" } : Jvm.MethodName) prog_15_method_50_code (4 : Nat) (Option.some Jvm.ClassFile.FieldType.int)) ∈ lw_all := lw_g (lw_at lw_m8 175 rfl) rfl
theorem q2006 : (Jvm.Cond.methodLink "SchemeListerModel" (266 : Nat) ({ cls := "SchemeListerModel", name := "isDuality", desc := "()Z" } : Jvm.MethodName)) ∈ lw_all := lw_g (lw_at lw_m8 176 rfl) rfl
theorem q2007 : (Jvm.Cond.privateMethod ({ cls := "SchemeListerModel", name := "isDuality", desc := "()Z" } : Jvm.MethodName)) ∈ lw_tbl := lw_at lw_m8 177 rfl
theorem q2008 : (Jvm.Cond.instanceMethod ({ cls := "SchemeListerModel", name := "isDuality", desc := "()Z" } : Jvm.MethodName)) ∈ lw_all := lw_g (lw_at lw_m8 178 rfl) rfl
theorem q2009 : (Jvm.Cond.code ({ cls := "SchemeListerModel", name := "isDuality", desc := "()Z" } : Jvm.MethodName) prog_15_method_48_code (6 : Nat) (Option.some Jvm.ClassFile.FieldType.boolean)) ∈ lw_all := lw_g (lw_at lw_m8 179 rfl) rfl
theorem q2010 : (Jvm.Cond.methodLink "SchemeListerModel" (269 : Nat) ({ cls := "SchemeListerModel", name := "isPolarity", desc := "()Z" } : Jvm.MethodName)) ∈ lw_all := lw_g (lw_at lw_m8 180 rfl) rfl
theorem q2011 : (Jvm.Cond.privateMethod ({ cls := "SchemeListerModel", name := "isPolarity", desc := "()Z" } : Jvm.MethodName)) ∈ lw_tbl := lw_at lw_m8 181 rfl
theorem q2012 : (Jvm.Cond.instanceMethod ({ cls := "SchemeListerModel", name := "isPolarity", desc := "()Z" } : Jvm.MethodName)) ∈ lw_all := lw_g (lw_at lw_m8 182 rfl) rfl
theorem q2013 : (Jvm.Cond.code ({ cls := "SchemeListerModel", name := "isPolarity", desc := "()Z" } : Jvm.MethodName) prog_15_method_49_code (3 : Nat) (Option.some Jvm.ClassFile.FieldType.boolean)) ∈ lw_all := lw_g (lw_at lw_m8 183 rfl) rfl
theorem q2014 : (Jvm.Cond.methodLink "SchemeListerModel" (312 : Nat) ({ cls := "SchemeListerModel", name := "slips", desc := "()I" } : Jvm.MethodName)) ∈ lw_all := lw_g (lw_at lw_m8 184 rfl) rfl
theorem q2015 : (Jvm.Cond.privateMethod ({ cls := "SchemeListerModel", name := "slips", desc := "()I" } : Jvm.MethodName)) ∈ lw_tbl := lw_at lw_m8 185 rfl
theorem q2016 : (Jvm.Cond.instanceMethod ({ cls := "SchemeListerModel", name := "slips", desc := "()I" } : Jvm.MethodName)) ∈ lw_all := lw_g (lw_at lw_m8 186 rfl) rfl
theorem q2017 : (Jvm.Cond.code ({ cls := "SchemeListerModel", name := "slips", desc := "()I" } : Jvm.MethodName) prog_15_method_55_code (3 : Nat) (Option.some Jvm.ClassFile.FieldType.int)) ∈ lw_all := lw_g (lw_at lw_m8 187 rfl) rfl
theorem q2018 : (Jvm.Cond.methodLink "SchemeListerModel" (283 : Nat) ({ cls := "SchemeListerModel", name := "doesSlip", desc := "(I)Z" } : Jvm.MethodName)) ∈ lw_all := lw_g (lw_at lw_m8 188 rfl) rfl
theorem q2019 : (Jvm.Cond.privateMethod ({ cls := "SchemeListerModel", name := "doesSlip", desc := "(I)Z" } : Jvm.MethodName)) ∈ lw_tbl := lw_at lw_m8 189 rfl
theorem q2020 : (Jvm.Cond.instanceMethod ({ cls := "SchemeListerModel", name := "doesSlip", desc := "(I)Z" } : Jvm.MethodName)) ∈ lw_all := lw_g (lw_at lw_m8 190 rfl) rfl
theorem q2021 : (Jvm.Cond.code ({ cls := "SchemeListerModel", name := "doesSlip", desc := "(I)Z" } : Jvm.MethodName) prog_15_method_54_code (6 : Nat) (Option.some Jvm.ClassFile.FieldType.boolean)) ∈ lw_all := lw_g (lw_at lw_m8 191 rfl) rfl
theorem q2022 : (Jvm.Cond.methodLink "SchemeListerModel" (276 : Nat) ({ cls := "SchemeListerModel", name := "areAtOne", desc := "(II)Z" } : Jvm.MethodName)) ∈ lw_all := lw_g (lw_at lw_m8 192 rfl) rfl
theorem q2023 : (Jvm.Cond.privateMethod ({ cls := "SchemeListerModel", name := "areAtOne", desc := "(II)Z" } : Jvm.MethodName)) ∈ lw_tbl := lw_at lw_m8 193 rfl
theorem q2024 : (Jvm.Cond.instanceMethod ({ cls := "SchemeListerModel", name := "areAtOne", desc := "(II)Z" } : Jvm.MethodName)) ∈ lw_all := lw_g (lw_at lw_m8 194 rfl) rfl
theorem q2025 : (Jvm.Cond.code ({ cls := "SchemeListerModel", name := "areAtOne", desc := "(II)Z" } : Jvm.MethodName) prog_15_method_53_code (3 : Nat) (Option.some Jvm.ClassFile.FieldType.boolean)) ∈ lw_all := lw_g (lw_at lw_m8 195 rfl) rfl
theorem q2026 : (Jvm.Cond.methodLink "SchemeListerModel" (279 : Nat) ({ cls := "SchemeListerModel", name := "areInLineAt", desc := "(III)Z" } : Jvm.MethodName)) ∈ lw_all := lw_g (lw_at lw_m8 196 rfl) rfl
theorem q2027 : (Jvm.Cond.privateMethod ({ cls := "SchemeListerModel", name := "areInLineAt", desc := "(III)Z" } : Jvm.MethodName)) ∈ lw_tbl := lw_at lw_m8 197 rfl
theorem q2028 : (Jvm.Cond.instanceMethod ({ cls := "SchemeListerModel", name := "areInLineAt", desc := "(III)Z" } : Jvm.MethodName)) ∈ lw_all := lw_g (lw_at lw_m8 198 rfl) rfl
theorem q2029 : (Jvm.Cond.code ({ cls := "SchemeListerModel", name := "areInLineAt", desc := "(III)Z" } : Jvm.MethodName) prog_15_method_52_code (4 : Nat) (Option.some Jvm.ClassFile.FieldType.boolean)) ∈ lw_all := lw_g (lw_at lw_m8 199 rfl) rfl
theorem q2030 : (Jvm.Cond.methodLink "SchemeListerModel" (272 : Nat) ({ cls := "SchemeListerModel", name := "areInLine", desc := "(IIIIII)Z" } : Jvm.MethodName)) ∈ lw_all := lw_g (lw_at lw_m8 200 rfl) rfl
theorem q2031 : (Jvm.Cond.static ({ cls := "SchemeListerModel", name := "areInLine", desc := "(IIIIII)Z" } : Jvm.MethodName)) ∈ lw_all := lw_g (lw_at lw_m8 201 rfl) rfl
theorem q2032 : (Jvm.Cond.code ({ cls := "SchemeListerModel", name := "areInLine", desc := "(IIIIII)Z" } : Jvm.MethodName) prog_15_method_51_code (6 : Nat) (Option.some Jvm.ClassFile.FieldType.boolean)) ∈ lw_all := lw_g (lw_at lw_m8 202 rfl) rfl
theorem q2033 : (Jvm.Cond.methodLink "SchemeListerModel" (315 : Nat) ({ cls := "SchemeListerModel", name := "strays", desc := "()I" } : Jvm.MethodName)) ∈ lw_all := lw_g (lw_at lw_m8 203 rfl) rfl
theorem q2034 : (Jvm.Cond.privateMethod ({ cls := "SchemeListerModel", name := "strays", desc := "()I" } : Jvm.MethodName)) ∈ lw_tbl := lw_at lw_m8 204 rfl
theorem q2035 : (Jvm.Cond.instanceMethod ({ cls := "SchemeListerModel", name := "strays", desc := "()I" } : Jvm.MethodName)) ∈ lw_all := lw_g (lw_at lw_m8 205 rfl) rfl
theorem q2036 : (Jvm.Cond.code ({ cls := "SchemeListerModel", name := "strays", desc := "()I" } : Jvm.MethodName) prog_15_method_56_code (5 : Nat) (Option.some Jvm.ClassFile.FieldType.int)) ∈ lw_all := lw_g (lw_at lw_m8 206 rfl) rfl
theorem q2037 : (Jvm.Cond.methodLink "SchemeListerModel" (318 : Nat) ({ cls := "SchemeListerModel", name := "girth", desc := "()I" } : Jvm.MethodName)) ∈ lw_all := lw_g (lw_at lw_m8 207 rfl) rfl
theorem q2038 : (Jvm.Cond.privateMethod ({ cls := "SchemeListerModel", name := "girth", desc := "()I" } : Jvm.MethodName)) ∈ lw_tbl := lw_at lw_m8 208 rfl
theorem q2039 : (Jvm.Cond.instanceMethod ({ cls := "SchemeListerModel", name := "girth", desc := "()I" } : Jvm.MethodName)) ∈ lw_all := lw_g (lw_at lw_m8 209 rfl) rfl
theorem q2040 : (Jvm.Cond.code ({ cls := "SchemeListerModel", name := "girth", desc := "()I" } : Jvm.MethodName) prog_15_method_58_code (3 : Nat) (Option.some Jvm.ClassFile.FieldType.int)) ∈ lw_all := lw_g (lw_at lw_m8 210 rfl) rfl
theorem q2041 : (Jvm.Cond.methodLink "SchemeListerModel" (286 : Nat) ({ cls := "SchemeListerModel", name := "goesRound", desc := "(IIIII)Z" } : Jvm.MethodName)) ∈ lw_all := lw_g (lw_at lw_m8 211 rfl) rfl
theorem q2042 : (Jvm.Cond.privateMethod ({ cls := "SchemeListerModel", name := "goesRound", desc := "(IIIII)Z" } : Jvm.MethodName)) ∈ lw_tbl := lw_at lw_m8 212 rfl
theorem q2043 : (Jvm.Cond.instanceMethod ({ cls := "SchemeListerModel", name := "goesRound", desc := "(IIIII)Z" } : Jvm.MethodName)) ∈ lw_all := lw_g (lw_at lw_m8 213 rfl) rfl
theorem q2044 : (Jvm.Cond.code ({ cls := "SchemeListerModel", name := "goesRound", desc := "(IIIII)Z" } : Jvm.MethodName) prog_15_method_57_code (9 : Nat) (Option.some Jvm.ClassFile.FieldType.boolean)) ∈ lw_all := lw_g (lw_at lw_m8 214 rfl) rfl
theorem q2045 : (Jvm.Cond.methodLink "SchemeListerModel" (321 : Nat) ({ cls := "SchemeListerModel", name := "fours", desc := "()I" } : Jvm.MethodName)) ∈ lw_all := lw_g (lw_at lw_m8 215 rfl) rfl
theorem q2046 : (Jvm.Cond.privateMethod ({ cls := "SchemeListerModel", name := "fours", desc := "()I" } : Jvm.MethodName)) ∈ lw_tbl := lw_at lw_m8 216 rfl
theorem q2047 : (Jvm.Cond.instanceMethod ({ cls := "SchemeListerModel", name := "fours", desc := "()I" } : Jvm.MethodName)) ∈ lw_all := lw_g (lw_at lw_m8 217 rfl) rfl
theorem q2048 : (Jvm.Cond.code ({ cls := "SchemeListerModel", name := "fours", desc := "()I" } : Jvm.MethodName) prog_15_method_35_code (6 : Nat) (Option.some Jvm.ClassFile.FieldType.int)) ∈ lw_all := lw_g (lw_at lw_m8 218 rfl) rfl
theorem q2049 : (Jvm.Cond.methodLink "SchemeListerModel" (324 : Nat) ({ cls := "SchemeListerModel", name := "apart", desc := "()I" } : Jvm.MethodName)) ∈ lw_all := lw_g (lw_at lw_m8 219 rfl) rfl
theorem q2050 : (Jvm.Cond.privateMethod ({ cls := "SchemeListerModel", name := "apart", desc := "()I" } : Jvm.MethodName)) ∈ lw_tbl := lw_at lw_m8 220 rfl
theorem q2051 : (Jvm.Cond.instanceMethod ({ cls := "SchemeListerModel", name := "apart", desc := "()I" } : Jvm.MethodName)) ∈ lw_all := lw_g (lw_at lw_m8 221 rfl) rfl
theorem q2052 : (Jvm.Cond.code ({ cls := "SchemeListerModel", name := "apart", desc := "()I" } : Jvm.MethodName) prog_15_method_36_code (4 : Nat) (Option.some Jvm.ClassFile.FieldType.int)) ∈ lw_all := lw_g (lw_at lw_m8 222 rfl) rfl
theorem q2054 : (Jvm.Cond.instanceMethod ({ cls := "SchemeListerModel", name := "line", desc := "(I)I" } : Jvm.MethodName)) ∈ lw_all := lw_g (lw_at lw_m8 224 rfl) rfl
theorem q2055 : (Jvm.Cond.selects "SchemeListerModel" ({ cls := "SchemeListerModel", name := "line", desc := "(I)I" } : Jvm.MethodName) ({ cls := "SchemeListerModel", name := "line", desc := "(I)I" } : Jvm.MethodName)) ∈ lw_all := lw_g (lw_at lw_m8 225 rfl) rfl
theorem q2056 : (Jvm.Cond.code ({ cls := "SchemeListerModel", name := "line", desc := "(I)I" } : Jvm.MethodName) prog_15_method_62_code (2 : Nat) (Option.some Jvm.ClassFile.FieldType.int)) ∈ lw_all := lw_g (lw_at lw_m8 226 rfl) rfl
theorem q2057 : (Jvm.Cond.methodLink "SchemeListerModel" (330 : Nat) ({ cls := "SchemeListerModel", name := "isLine", desc := "(I)Z" } : Jvm.MethodName)) ∈ lw_all := lw_g (lw_at lw_m8 227 rfl) rfl
theorem q2058 : (Jvm.Cond.privateMethod ({ cls := "SchemeListerModel", name := "isLine", desc := "(I)Z" } : Jvm.MethodName)) ∈ lw_tbl := lw_at lw_m8 228 rfl
theorem q2059 : (Jvm.Cond.instanceMethod ({ cls := "SchemeListerModel", name := "isLine", desc := "(I)Z" } : Jvm.MethodName)) ∈ lw_all := lw_g (lw_at lw_m8 229 rfl) rfl
theorem q2060 : (Jvm.Cond.code ({ cls := "SchemeListerModel", name := "isLine", desc := "(I)Z" } : Jvm.MethodName) prog_15_method_61_code (2 : Nat) (Option.some Jvm.ClassFile.FieldType.boolean)) ∈ lw_all := lw_g (lw_at lw_m8 230 rfl) rfl
theorem q2061 : (Jvm.Cond.methodLink "SchemeListerModel" (327 : Nat) ({ cls := "SchemeListerModel", name := "isIn", desc := "(III)Z" } : Jvm.MethodName)) ∈ lw_all := lw_g (lw_at lw_m8 231 rfl) rfl
theorem q2062 : (Jvm.Cond.static ({ cls := "SchemeListerModel", name := "isIn", desc := "(III)Z" } : Jvm.MethodName)) ∈ lw_all := lw_g (lw_at lw_m8 232 rfl) rfl
theorem q2063 : (Jvm.Cond.code ({ cls := "SchemeListerModel", name := "isIn", desc := "(III)Z" } : Jvm.MethodName) prog_15_method_4_code (3 : Nat) (Option.some Jvm.ClassFile.FieldType.boolean)) ∈ lw_all := lw_g (lw_at lw_m8 233 rfl) rfl
theorem q2065 : (Jvm.Cond.instanceMethod ({ cls := "SchemeListerModel", name := "point", desc := "(II)I" } : Jvm.MethodName)) ∈ lw_all := lw_g (lw_at lw_m8 235 rfl) rfl
theorem q2066 : (Jvm.Cond.selects "SchemeListerModel" ({ cls := "SchemeListerModel", name := "point", desc := "(II)I" } : Jvm.MethodName) ({ cls := "SchemeListerModel", name := "point", desc := "(II)I" } : Jvm.MethodName)) ∈ lw_all := lw_g (lw_at lw_m8 236 rfl) rfl
theorem q2067 : (Jvm.Cond.code ({ cls := "SchemeListerModel", name := "point", desc := "(II)I" } : Jvm.MethodName) prog_15_method_63_code (3 : Nat) (Option.some Jvm.ClassFile.FieldType.int)) ∈ lw_all := lw_g (lw_at lw_m8 237 rfl) rfl
theorem q2068 : (Jvm.Cond.methodLink "SchemeListerModel" (333 : Nat) ({ cls := "SchemeListerModel", name := "isPoint", desc := "(I)Z" } : Jvm.MethodName)) ∈ lw_all := lw_g (lw_at lw_m8 238 rfl) rfl
theorem q2069 : (Jvm.Cond.privateMethod ({ cls := "SchemeListerModel", name := "isPoint", desc := "(I)Z" } : Jvm.MethodName)) ∈ lw_tbl := lw_at lw_m8 239 rfl
theorem q2070 : (Jvm.Cond.instanceMethod ({ cls := "SchemeListerModel", name := "isPoint", desc := "(I)Z" } : Jvm.MethodName)) ∈ lw_all := lw_g (lw_at lw_m9 0 rfl) rfl
theorem q2071 : (Jvm.Cond.code ({ cls := "SchemeListerModel", name := "isPoint", desc := "(I)Z" } : Jvm.MethodName) prog_15_method_60_code (2 : Nat) (Option.some Jvm.ClassFile.FieldType.boolean)) ∈ lw_all := lw_g (lw_at lw_m9 1 rfl) rfl
theorem q2073 : (Jvm.Cond.instanceMethod ({ cls := "SchemeListerModel", name := "joined", desc := "(II)I" } : Jvm.MethodName)) ∈ lw_all := lw_g (lw_at lw_m9 3 rfl) rfl
theorem q2074 : (Jvm.Cond.selects "SchemeListerModel" ({ cls := "SchemeListerModel", name := "joined", desc := "(II)I" } : Jvm.MethodName) ({ cls := "SchemeListerModel", name := "joined", desc := "(II)I" } : Jvm.MethodName)) ∈ lw_all := lw_g (lw_at lw_m9 4 rfl) rfl
theorem q2075 : (Jvm.Cond.code ({ cls := "SchemeListerModel", name := "joined", desc := "(II)I" } : Jvm.MethodName) prog_15_method_64_code (3 : Nat) (Option.some Jvm.ClassFile.FieldType.int)) ∈ lw_all := lw_g (lw_at lw_m9 5 rfl) rfl
theorem q2077 : (Jvm.Cond.instanceMethod ({ cls := "SchemeListerModel", name := "meet", desc := "(II)I" } : Jvm.MethodName)) ∈ lw_all := lw_g (lw_at lw_m9 7 rfl) rfl
theorem q2078 : (Jvm.Cond.selects "SchemeListerModel" ({ cls := "SchemeListerModel", name := "meet", desc := "(II)I" } : Jvm.MethodName) ({ cls := "SchemeListerModel", name := "meet", desc := "(II)I" } : Jvm.MethodName)) ∈ lw_all := lw_g (lw_at lw_m9 8 rfl) rfl
theorem q2079 : (Jvm.Cond.code ({ cls := "SchemeListerModel", name := "meet", desc := "(II)I" } : Jvm.MethodName) prog_15_method_65_code (4 : Nat) (Option.some Jvm.ClassFile.FieldType.int)) ∈ lw_all := lw_g (lw_at lw_m9 9 rfl) rfl
theorem q2081 : (Jvm.Cond.instanceMethod ({ cls := "SchemeListerModel", name := "symmetry", desc := "(II)I" } : Jvm.MethodName)) ∈ lw_all := lw_g (lw_at lw_m9 11 rfl) rfl
theorem q2082 : (Jvm.Cond.selects "SchemeListerModel" ({ cls := "SchemeListerModel", name := "symmetry", desc := "(II)I" } : Jvm.MethodName) ({ cls := "SchemeListerModel", name := "symmetry", desc := "(II)I" } : Jvm.MethodName)) ∈ lw_all := lw_g (lw_at lw_m9 12 rfl) rfl
theorem q2083 : (Jvm.Cond.code ({ cls := "SchemeListerModel", name := "symmetry", desc := "(II)I" } : Jvm.MethodName) prog_15_method_66_code (5 : Nat) (Option.some Jvm.ClassFile.FieldType.int)) ∈ lw_all := lw_g (lw_at lw_m9 13 rfl) rfl
theorem q2085 : (Jvm.Cond.instanceMethod ({ cls := "SchemeListerModel", name := "normal", desc := "(I)I" } : Jvm.MethodName)) ∈ lw_all := lw_g (lw_at lw_m9 15 rfl) rfl
theorem q2086 : (Jvm.Cond.selects "SchemeListerModel" ({ cls := "SchemeListerModel", name := "normal", desc := "(I)I" } : Jvm.MethodName) ({ cls := "SchemeListerModel", name := "normal", desc := "(I)I" } : Jvm.MethodName)) ∈ lw_all := lw_g (lw_at lw_m9 16 rfl) rfl
theorem q2087 : (Jvm.Cond.code ({ cls := "SchemeListerModel", name := "normal", desc := "(I)I" } : Jvm.MethodName) prog_15_method_70_code (2 : Nat) (Option.some Jvm.ClassFile.FieldType.int)) ∈ lw_all := lw_g (lw_at lw_m9 17 rfl) rfl
theorem q2088 : (Jvm.Cond.methodLink "SchemeListerModel" (343 : Nat) ({ cls := "SchemeListerModel", name := "tellLeast", desc := "()V" } : Jvm.MethodName)) ∈ lw_all := lw_g (lw_at lw_m9 18 rfl) rfl
theorem q2089 : (Jvm.Cond.privateMethod ({ cls := "SchemeListerModel", name := "tellLeast", desc := "()V" } : Jvm.MethodName)) ∈ lw_tbl := lw_at lw_m9 19 rfl
theorem q2090 : (Jvm.Cond.instanceMethod ({ cls := "SchemeListerModel", name := "tellLeast", desc := "()V" } : Jvm.MethodName)) ∈ lw_all := lw_g (lw_at lw_m9 20 rfl) rfl
theorem q2091 : (Jvm.Cond.code ({ cls := "SchemeListerModel", name := "tellLeast", desc := "()V" } : Jvm.MethodName) prog_15_method_69_code (6 : Nat) (Option.none : Option Jvm.ClassFile.FieldType)) ∈ lw_all := lw_g (lw_at lw_m9 21 rfl) rfl
theorem q2092 : (Jvm.Cond.methodLink "SchemeListerModel" (336 : Nat) ({ cls := "SchemeListerModel", name := "putSorted", desc := "(II)V" } : Jvm.MethodName)) ∈ lw_all := lw_g (lw_at lw_m9 22 rfl) rfl
theorem q2093 : (Jvm.Cond.privateMethod ({ cls := "SchemeListerModel", name := "putSorted", desc := "(II)V" } : Jvm.MethodName)) ∈ lw_tbl := lw_at lw_m9 23 rfl
theorem q2094 : (Jvm.Cond.instanceMethod ({ cls := "SchemeListerModel", name := "putSorted", desc := "(II)V" } : Jvm.MethodName)) ∈ lw_all := lw_g (lw_at lw_m9 24 rfl) rfl
theorem q2095 : (Jvm.Cond.code ({ cls := "SchemeListerModel", name := "putSorted", desc := "(II)V" } : Jvm.MethodName) prog_15_method_67_code (4 : Nat) (Option.none : Option Jvm.ClassFile.FieldType)) ∈ lw_all := lw_g (lw_at lw_m9 25 rfl) rfl
theorem q2096 : (Jvm.Cond.methodLink "SchemeListerModel" (339 : Nat) ({ cls := "SchemeListerModel", name := "compare", desc := "([I[II)I" } : Jvm.MethodName)) ∈ lw_all := lw_g (lw_at lw_m9 26 rfl) rfl
theorem q2097 : (Jvm.Cond.static ({ cls := "SchemeListerModel", name := "compare", desc := "([I[II)I" } : Jvm.MethodName)) ∈ lw_all := lw_g (lw_at lw_m9 27 rfl) rfl
theorem q2098 : (Jvm.Cond.code ({ cls := "SchemeListerModel", name := "compare", desc := "([I[II)I" } : Jvm.MethodName) prog_15_method_68_code (4 : Nat) (Option.some Jvm.ClassFile.FieldType.int)) ∈ lw_all := lw_g (lw_at lw_m9 28 rfl) rfl
theorem q2100 : (Jvm.Cond.instanceMethod ({ cls := "SchemeListerModel", name := "dual", desc := "(I)I" } : Jvm.MethodName)) ∈ lw_all := lw_g (lw_at lw_m9 30 rfl) rfl
theorem q2101 : (Jvm.Cond.selects "SchemeListerModel" ({ cls := "SchemeListerModel", name := "dual", desc := "(I)I" } : Jvm.MethodName) ({ cls := "SchemeListerModel", name := "dual", desc := "(I)I" } : Jvm.MethodName)) ∈ lw_all := lw_g (lw_at lw_m9 31 rfl) rfl
theorem q2102 : (Jvm.Cond.code ({ cls := "SchemeListerModel", name := "dual", desc := "(I)I" } : Jvm.MethodName) prog_15_method_71_code (3 : Nat) (Option.some Jvm.ClassFile.FieldType.int)) ∈ lw_all := lw_g (lw_at lw_m9 32 rfl) rfl
theorem q2103 : (Jvm.Cond.methodLink "SchemeListerModel" (346 : Nat) ({ cls := "SchemeListerModel", name := "tellDual", desc := "()I" } : Jvm.MethodName)) ∈ lw_all := lw_g (lw_at lw_m9 33 rfl) rfl
theorem q2104 : (Jvm.Cond.privateMethod ({ cls := "SchemeListerModel", name := "tellDual", desc := "()I" } : Jvm.MethodName)) ∈ lw_tbl := lw_at lw_m9 34 rfl
theorem q2105 : (Jvm.Cond.instanceMethod ({ cls := "SchemeListerModel", name := "tellDual", desc := "()I" } : Jvm.MethodName)) ∈ lw_all := lw_g (lw_at lw_m9 35 rfl) rfl
theorem q2106 : (Jvm.Cond.code ({ cls := "SchemeListerModel", name := "tellDual", desc := "()I" } : Jvm.MethodName) prog_15_method_47_code (4 : Nat) (Option.some Jvm.ClassFile.FieldType.int)) ∈ lw_all := lw_g (lw_at lw_m9 36 rfl) rfl
theorem q2108 : (Jvm.Cond.instanceMethod ({ cls := "SchemeListerModel", name := "shelf", desc := "(II)I" } : Jvm.MethodName)) ∈ lw_all := lw_g (lw_at lw_m9 38 rfl) rfl
theorem q2109 : (Jvm.Cond.selects "SchemeListerModel" ({ cls := "SchemeListerModel", name := "shelf", desc := "(II)I" } : Jvm.MethodName) ({ cls := "SchemeListerModel", name := "shelf", desc := "(II)I" } : Jvm.MethodName)) ∈ lw_all := lw_g (lw_at lw_m9 39 rfl) rfl
theorem q2110 : (Jvm.Cond.code ({ cls := "SchemeListerModel", name := "shelf", desc := "(II)I" } : Jvm.MethodName) prog_15_method_78_code (3 : Nat) (Option.some Jvm.ClassFile.FieldType.int)) ∈ lw_all := lw_g (lw_at lw_m9 40 rfl) rfl
theorem q2111 : (Jvm.Cond.methodLink "SchemeListerModel" (365 : Nat) ({ cls := "SchemeListerModel", name := "hasShelf", desc := "(I)Z" } : Jvm.MethodName)) ∈ lw_all := lw_g (lw_at lw_m9 41 rfl) rfl
theorem q2112 : (Jvm.Cond.privateMethod ({ cls := "SchemeListerModel", name := "hasShelf", desc := "(I)Z" } : Jvm.MethodName)) ∈ lw_tbl := lw_at lw_m9 42 rfl
theorem q2113 : (Jvm.Cond.instanceMethod ({ cls := "SchemeListerModel", name := "hasShelf", desc := "(I)Z" } : Jvm.MethodName)) ∈ lw_all := lw_g (lw_at lw_m9 43 rfl) rfl
theorem q2114 : (Jvm.Cond.code ({ cls := "SchemeListerModel", name := "hasShelf", desc := "(I)Z" } : Jvm.MethodName) prog_15_method_73_code (2 : Nat) (Option.some Jvm.ClassFile.FieldType.boolean)) ∈ lw_all := lw_g (lw_at lw_m9 44 rfl) rfl
theorem q2115 : (Jvm.Cond.methodLink "SchemeListerModel" (349 : Nat) ({ cls := "SchemeListerModel", name := "shelfAt", desc := "(I)I" } : Jvm.MethodName)) ∈ lw_all := lw_g (lw_at lw_m9 45 rfl) rfl
theorem q2116 : (Jvm.Cond.static ({ cls := "SchemeListerModel", name := "shelfAt", desc := "(I)I" } : Jvm.MethodName)) ∈ lw_all := lw_g (lw_at lw_m9 46 rfl) rfl
theorem q2117 : (Jvm.Cond.code ({ cls := "SchemeListerModel", name := "shelfAt", desc := "(I)I" } : Jvm.MethodName) prog_15_method_72_code (1 : Nat) (Option.some Jvm.ClassFile.FieldType.int)) ∈ lw_all := lw_g (lw_at lw_m9 47 rfl) rfl
theorem q2118 : (Jvm.Cond.methodLink "SchemeListerModel" (368 : Nat) ({ cls := "SchemeListerModel", name := "likes", desc := "(I)I" } : Jvm.MethodName)) ∈ lw_all := lw_g (lw_at lw_m9 48 rfl) rfl
theorem q2119 : (Jvm.Cond.privateMethod ({ cls := "SchemeListerModel", name := "likes", desc := "(I)I" } : Jvm.MethodName)) ∈ lw_tbl := lw_at lw_m9 49 rfl
theorem q2120 : (Jvm.Cond.instanceMethod ({ cls := "SchemeListerModel", name := "likes", desc := "(I)I" } : Jvm.MethodName)) ∈ lw_all := lw_g (lw_at lw_m9 50 rfl) rfl
theorem q2121 : (Jvm.Cond.code ({ cls := "SchemeListerModel", name := "likes", desc := "(I)I" } : Jvm.MethodName) prog_15_method_75_code (6 : Nat) (Option.some Jvm.ClassFile.FieldType.int)) ∈ lw_all := lw_g (lw_at lw_m9 51 rfl) rfl
theorem q2122 : (Jvm.Cond.methodLink "SchemeListerModel" (352 : Nat) ({ cls := "SchemeListerModel", name := "onShelf", desc := "(II)I" } : Jvm.MethodName)) ∈ lw_all := lw_g (lw_at lw_m9 52 rfl) rfl
theorem q2123 : (Jvm.Cond.privateMethod ({ cls := "SchemeListerModel", name := "onShelf", desc := "(II)I" } : Jvm.MethodName)) ∈ lw_tbl := lw_at lw_m9 53 rfl
theorem q2124 : (Jvm.Cond.instanceMethod ({ cls := "SchemeListerModel", name := "onShelf", desc := "(II)I" } : Jvm.MethodName)) ∈ lw_all := lw_g (lw_at lw_m9 54 rfl) rfl
theorem q2125 : (Jvm.Cond.code ({ cls := "SchemeListerModel", name := "onShelf", desc := "(II)I" } : Jvm.MethodName) prog_15_method_74_code (3 : Nat) (Option.some Jvm.ClassFile.FieldType.int)) ∈ lw_all := lw_g (lw_at lw_m9 55 rfl) rfl
theorem q2126 : (Jvm.Cond.methodLink "SchemeListerModel" (361 : Nat) ({ cls := "SchemeListerModel", name := "tellWays", desc := "(III)V" } : Jvm.MethodName)) ∈ lw_all := lw_g (lw_at lw_m9 56 rfl) rfl
theorem q2127 : (Jvm.Cond.privateMethod ({ cls := "SchemeListerModel", name := "tellWays", desc := "(III)V" } : Jvm.MethodName)) ∈ lw_tbl := lw_at lw_m9 57 rfl
theorem q2128 : (Jvm.Cond.instanceMethod ({ cls := "SchemeListerModel", name := "tellWays", desc := "(III)V" } : Jvm.MethodName)) ∈ lw_all := lw_g (lw_at lw_m9 58 rfl) rfl
theorem q2129 : (Jvm.Cond.code ({ cls := "SchemeListerModel", name := "tellWays", desc := "(III)V" } : Jvm.MethodName) prog_15_method_77_code (5 : Nat) (Option.none : Option Jvm.ClassFile.FieldType)) ∈ lw_all := lw_g (lw_at lw_m9 59 rfl) rfl
theorem q2130 : (Jvm.Cond.methodLink "SchemeListerModel" (355 : Nat) ({ cls := "SchemeListerModel", name := "lies", desc := "(I)Z" } : Jvm.MethodName)) ∈ lw_all := lw_g (lw_at lw_m9 60 rfl) rfl
theorem q2131 : (Jvm.Cond.privateMethod ({ cls := "SchemeListerModel", name := "lies", desc := "(I)Z" } : Jvm.MethodName)) ∈ lw_tbl := lw_at lw_m9 61 rfl
theorem q2132 : (Jvm.Cond.instanceMethod ({ cls := "SchemeListerModel", name := "lies", desc := "(I)Z" } : Jvm.MethodName)) ∈ lw_all := lw_g (lw_at lw_m9 62 rfl) rfl
theorem q2133 : (Jvm.Cond.code ({ cls := "SchemeListerModel", name := "lies", desc := "(I)Z" } : Jvm.MethodName) prog_15_method_76_code (5 : Nat) (Option.some Jvm.ClassFile.FieldType.boolean)) ∈ lw_all := lw_g (lw_at lw_m9 63 rfl) rfl
theorem q2135 : (Jvm.Cond.instanceMethod ({ cls := "SchemeListerModel", name := "way", desc := "(II)I" } : Jvm.MethodName)) ∈ lw_all := lw_g (lw_at lw_m9 65 rfl) rfl
theorem q2136 : (Jvm.Cond.selects "SchemeListerModel" ({ cls := "SchemeListerModel", name := "way", desc := "(II)I" } : Jvm.MethodName) ({ cls := "SchemeListerModel", name := "way", desc := "(II)I" } : Jvm.MethodName)) ∈ lw_all := lw_g (lw_at lw_m9 66 rfl) rfl
theorem q2137 : (Jvm.Cond.code ({ cls := "SchemeListerModel", name := "way", desc := "(II)I" } : Jvm.MethodName) prog_15_method_79_code (3 : Nat) (Option.some Jvm.ClassFile.FieldType.int)) ∈ lw_all := lw_g (lw_at lw_m9 67 rfl) rfl
theorem q2139 : (Jvm.Cond.instanceMethod ({ cls := "SchemeListerModel", name := "add", desc := "(I)I" } : Jvm.MethodName)) ∈ lw_all := lw_g (lw_at lw_m9 69 rfl) rfl
theorem q2140 : (Jvm.Cond.selects "SchemeListerModel" ({ cls := "SchemeListerModel", name := "add", desc := "(I)I" } : Jvm.MethodName) ({ cls := "SchemeListerModel", name := "add", desc := "(I)I" } : Jvm.MethodName)) ∈ lw_all := lw_g (lw_at lw_m9 70 rfl) rfl
theorem q2141 : (Jvm.Cond.code ({ cls := "SchemeListerModel", name := "add", desc := "(I)I" } : Jvm.MethodName) prog_15_method_86_code (2 : Nat) (Option.some Jvm.ClassFile.FieldType.int)) ∈ lw_all := lw_g (lw_at lw_m9 71 rfl) rfl
theorem q2142 : (Jvm.Cond.methodLink "SchemeListerModel" (374 : Nat) ({ cls := "SchemeListerModel", name := "canAdd", desc := "(I)Z" } : Jvm.MethodName)) ∈ lw_all := lw_g (lw_at lw_m9 72 rfl) rfl
theorem q2143 : (Jvm.Cond.privateMethod ({ cls := "SchemeListerModel", name := "canAdd", desc := "(I)Z" } : Jvm.MethodName)) ∈ lw_tbl := lw_at lw_m9 73 rfl
theorem q2144 : (Jvm.Cond.instanceMethod ({ cls := "SchemeListerModel", name := "canAdd", desc := "(I)Z" } : Jvm.MethodName)) ∈ lw_all := lw_g (lw_at lw_m9 74 rfl) rfl
theorem q2145 : (Jvm.Cond.code ({ cls := "SchemeListerModel", name := "canAdd", desc := "(I)Z" } : Jvm.MethodName) prog_15_method_84_code (2 : Nat) (Option.some Jvm.ClassFile.FieldType.boolean)) ∈ lw_all := lw_g (lw_at lw_m9 75 rfl) rfl
theorem q2146 : (Jvm.Cond.methodLink "SchemeListerModel" (371 : Nat) ({ cls := "SchemeListerModel", name := "refuse", desc := "()I" } : Jvm.MethodName)) ∈ lw_all := lw_g (lw_at lw_m9 76 rfl) rfl
theorem q2147 : (Jvm.Cond.privateMethod ({ cls := "SchemeListerModel", name := "refuse", desc := "()I" } : Jvm.MethodName)) ∈ lw_tbl := lw_at lw_m9 77 rfl
theorem q2148 : (Jvm.Cond.instanceMethod ({ cls := "SchemeListerModel", name := "refuse", desc := "()I" } : Jvm.MethodName)) ∈ lw_all := lw_g (lw_at lw_m9 78 rfl) rfl
theorem q2149 : (Jvm.Cond.code ({ cls := "SchemeListerModel", name := "refuse", desc := "()I" } : Jvm.MethodName) prog_15_method_80_code (1 : Nat) (Option.some Jvm.ClassFile.FieldType.int)) ∈ lw_all := lw_g (lw_at lw_m9 79 rfl) rfl
theorem q2150 : (Jvm.Cond.methodLink "SchemeListerModel" (377 : Nat) ({ cls := "SchemeListerModel", name := "keep", desc := "()V" } : Jvm.MethodName)) ∈ lw_all := lw_g (lw_at lw_m9 80 rfl) rfl
theorem q2151 : (Jvm.Cond.privateMethod ({ cls := "SchemeListerModel", name := "keep", desc := "()V" } : Jvm.MethodName)) ∈ lw_tbl := lw_at lw_m9 81 rfl
theorem q2152 : (Jvm.Cond.instanceMethod ({ cls := "SchemeListerModel", name := "keep", desc := "()V" } : Jvm.MethodName)) ∈ lw_all := lw_g (lw_at lw_m9 82 rfl) rfl
theorem q2153 : (Jvm.Cond.code ({ cls := "SchemeListerModel", name := "keep", desc := "()V" } : Jvm.MethodName) prog_15_method_83_code (2 : Nat) (Option.none : Option Jvm.ClassFile.FieldType)) ∈ lw_all := lw_g (lw_at lw_m9 83 rfl) rfl
theorem q2154 : (Jvm.Cond.methodLink "SchemeListerModel" (380 : Nat) ({ cls := "SchemeListerModel", name := "addNow", desc := "(I)V" } : Jvm.MethodName)) ∈ lw_all := lw_g (lw_at lw_m9 84 rfl) rfl
theorem q2155 : (Jvm.Cond.privateMethod ({ cls := "SchemeListerModel", name := "addNow", desc := "(I)V" } : Jvm.MethodName)) ∈ lw_tbl := lw_at lw_m9 85 rfl
theorem q2156 : (Jvm.Cond.instanceMethod ({ cls := "SchemeListerModel", name := "addNow", desc := "(I)V" } : Jvm.MethodName)) ∈ lw_all := lw_g (lw_at lw_m9 86 rfl) rfl
theorem q2157 : (Jvm.Cond.code ({ cls := "SchemeListerModel", name := "addNow", desc := "(I)V" } : Jvm.MethodName) prog_15_method_85_code (2 : Nat) (Option.none : Option Jvm.ClassFile.FieldType)) ∈ lw_all := lw_g (lw_at lw_m9 87 rfl) rfl
theorem q2159 : (Jvm.Cond.instanceMethod ({ cls := "SchemeListerModel", name := "drop", desc := "(I)I" } : Jvm.MethodName)) ∈ lw_all := lw_g (lw_at lw_m9 89 rfl) rfl
theorem q2160 : (Jvm.Cond.selects "SchemeListerModel" ({ cls := "SchemeListerModel", name := "drop", desc := "(I)I" } : Jvm.MethodName) ({ cls := "SchemeListerModel", name := "drop", desc := "(I)I" } : Jvm.MethodName)) ∈ lw_all := lw_g (lw_at lw_m9 90 rfl) rfl
theorem q2161 : (Jvm.Cond.code ({ cls := "SchemeListerModel", name := "drop", desc := "(I)I" } : Jvm.MethodName) prog_15_method_88_code (2 : Nat) (Option.some Jvm.ClassFile.FieldType.int)) ∈ lw_all := lw_g (lw_at lw_m9 91 rfl) rfl
theorem q2162 : (Jvm.Cond.methodLink "SchemeListerModel" (383 : Nat) ({ cls := "SchemeListerModel", name := "dropNow", desc := "(I)I" } : Jvm.MethodName)) ∈ lw_all := lw_g (lw_at lw_m9 92 rfl) rfl
theorem q2163 : (Jvm.Cond.privateMethod ({ cls := "SchemeListerModel", name := "dropNow", desc := "(I)I" } : Jvm.MethodName)) ∈ lw_tbl := lw_at lw_m9 93 rfl
theorem q2164 : (Jvm.Cond.instanceMethod ({ cls := "SchemeListerModel", name := "dropNow", desc := "(I)I" } : Jvm.MethodName)) ∈ lw_all := lw_g (lw_at lw_m9 94 rfl) rfl
theorem q2165 : (Jvm.Cond.code ({ cls := "SchemeListerModel", name := "dropNow", desc := "(I)I" } : Jvm.MethodName) prog_15_method_87_code (4 : Nat) (Option.some Jvm.ClassFile.FieldType.int)) ∈ lw_all := lw_g (lw_at lw_m9 95 rfl) rfl
theorem q2167 : (Jvm.Cond.instanceMethod ({ cls := "SchemeListerModel", name := "swap", desc := "(II)Z" } : Jvm.MethodName)) ∈ lw_all := lw_g (lw_at lw_m9 97 rfl) rfl
theorem q2168 : (Jvm.Cond.selects "SchemeListerModel" ({ cls := "SchemeListerModel", name := "swap", desc := "(II)Z" } : Jvm.MethodName) ({ cls := "SchemeListerModel", name := "swap", desc := "(II)Z" } : Jvm.MethodName)) ∈ lw_all := lw_g (lw_at lw_m9 98 rfl) rfl
theorem q2169 : (Jvm.Cond.code ({ cls := "SchemeListerModel", name := "swap", desc := "(II)Z" } : Jvm.MethodName) prog_15_method_90_code (4 : Nat) (Option.some Jvm.ClassFile.FieldType.boolean)) ∈ lw_all := lw_g (lw_at lw_m9 99 rfl) rfl
theorem q2170 : (Jvm.Cond.methodLink "SchemeListerModel" (386 : Nat) ({ cls := "SchemeListerModel", name := "refused", desc := "()Z" } : Jvm.MethodName)) ∈ lw_all := lw_g (lw_at lw_m9 100 rfl) rfl
theorem q2171 : (Jvm.Cond.privateMethod ({ cls := "SchemeListerModel", name := "refused", desc := "()Z" } : Jvm.MethodName)) ∈ lw_tbl := lw_at lw_m9 101 rfl
theorem q2172 : (Jvm.Cond.instanceMethod ({ cls := "SchemeListerModel", name := "refused", desc := "()Z" } : Jvm.MethodName)) ∈ lw_all := lw_g (lw_at lw_m9 102 rfl) rfl
theorem q2173 : (Jvm.Cond.code ({ cls := "SchemeListerModel", name := "refused", desc := "()Z" } : Jvm.MethodName) prog_15_method_81_code (1 : Nat) (Option.some Jvm.ClassFile.FieldType.boolean)) ∈ lw_all := lw_g (lw_at lw_m9 103 rfl) rfl
theorem q2174 : (Jvm.Cond.methodLink "SchemeListerModel" (389 : Nat) ({ cls := "SchemeListerModel", name := "swapAt", desc := "(II)V" } : Jvm.MethodName)) ∈ lw_all := lw_g (lw_at lw_m9 104 rfl) rfl
theorem q2175 : (Jvm.Cond.privateMethod ({ cls := "SchemeListerModel", name := "swapAt", desc := "(II)V" } : Jvm.MethodName)) ∈ lw_tbl := lw_at lw_m9 105 rfl
theorem q2176 : (Jvm.Cond.instanceMethod ({ cls := "SchemeListerModel", name := "swapAt", desc := "(II)V" } : Jvm.MethodName)) ∈ lw_all := lw_g (lw_at lw_m9 106 rfl) rfl
theorem q2177 : (Jvm.Cond.code ({ cls := "SchemeListerModel", name := "swapAt", desc := "(II)V" } : Jvm.MethodName) prog_15_method_89_code (4 : Nat) (Option.none : Option Jvm.ClassFile.FieldType)) ∈ lw_all := lw_g (lw_at lw_m9 107 rfl) rfl
theorem q2179 : (Jvm.Cond.instanceMethod ({ cls := "SchemeListerModel", name := "turn", desc := "()I" } : Jvm.MethodName)) ∈ lw_all := lw_g (lw_at lw_m9 109 rfl) rfl
theorem q2180 : (Jvm.Cond.selects "SchemeListerModel" ({ cls := "SchemeListerModel", name := "turn", desc := "()I" } : Jvm.MethodName) ({ cls := "SchemeListerModel", name := "turn", desc := "()I" } : Jvm.MethodName)) ∈ lw_all := lw_g (lw_at lw_m9 110 rfl) rfl
theorem q2181 : (Jvm.Cond.code ({ cls := "SchemeListerModel", name := "turn", desc := "()I" } : Jvm.MethodName) prog_15_method_91_code (4 : Nat) (Option.some Jvm.ClassFile.FieldType.int)) ∈ lw_all := lw_g (lw_at lw_m9 111 rfl) rfl
theorem q2183 : (Jvm.Cond.instanceMethod ({ cls := "SchemeListerModel", name := "grow", desc := "(Z)I" } : Jvm.MethodName)) ∈ lw_all := lw_g (lw_at lw_m9 113 rfl) rfl
theorem q2184 : (Jvm.Cond.selects "SchemeListerModel" ({ cls := "SchemeListerModel", name := "grow", desc := "(Z)I" } : Jvm.MethodName) ({ cls := "SchemeListerModel", name := "grow", desc := "(Z)I" } : Jvm.MethodName)) ∈ lw_all := lw_g (lw_at lw_m9 114 rfl) rfl
theorem q2185 : (Jvm.Cond.code ({ cls := "SchemeListerModel", name := "grow", desc := "(Z)I" } : Jvm.MethodName) prog_15_method_92_code (4 : Nat) (Option.some Jvm.ClassFile.FieldType.int)) ∈ lw_all := lw_g (lw_at lw_m9 115 rfl) rfl
theorem q2187 : (Jvm.Cond.instanceMethod ({ cls := "SchemeListerModel", name := "place", desc := "(III)Z" } : Jvm.MethodName)) ∈ lw_all := lw_g (lw_at lw_m9 117 rfl) rfl
theorem q2188 : (Jvm.Cond.selects "SchemeListerModel" ({ cls := "SchemeListerModel", name := "place", desc := "(III)Z" } : Jvm.MethodName) ({ cls := "SchemeListerModel", name := "place", desc := "(III)Z" } : Jvm.MethodName)) ∈ lw_all := lw_g (lw_at lw_m9 118 rfl) rfl
theorem q2189 : (Jvm.Cond.code ({ cls := "SchemeListerModel", name := "place", desc := "(III)Z" } : Jvm.MethodName) prog_15_method_93_code (4 : Nat) (Option.some Jvm.ClassFile.FieldType.boolean)) ∈ lw_all := lw_g (lw_at lw_m9 119 rfl) rfl
theorem q2191 : (Jvm.Cond.instanceMethod ({ cls := "SchemeListerModel", name := "put", desc := "(I)I" } : Jvm.MethodName)) ∈ lw_all := lw_g (lw_at lw_m9 121 rfl) rfl
theorem q2192 : (Jvm.Cond.selects "SchemeListerModel" ({ cls := "SchemeListerModel", name := "put", desc := "(I)I" } : Jvm.MethodName) ({ cls := "SchemeListerModel", name := "put", desc := "(I)I" } : Jvm.MethodName)) ∈ lw_all := lw_g (lw_at lw_m9 122 rfl) rfl
theorem q2193 : (Jvm.Cond.code ({ cls := "SchemeListerModel", name := "put", desc := "(I)I" } : Jvm.MethodName) prog_15_method_94_code (4 : Nat) (Option.some Jvm.ClassFile.FieldType.int)) ∈ lw_all := lw_g (lw_at lw_m9 123 rfl) rfl
theorem q2195 : (Jvm.Cond.instanceMethod ({ cls := "SchemeListerModel", name := "take", desc := "(I)I" } : Jvm.MethodName)) ∈ lw_all := lw_g (lw_at lw_m9 125 rfl) rfl
theorem q2196 : (Jvm.Cond.selects "SchemeListerModel" ({ cls := "SchemeListerModel", name := "take", desc := "(I)I" } : Jvm.MethodName) ({ cls := "SchemeListerModel", name := "take", desc := "(I)I" } : Jvm.MethodName)) ∈ lw_all := lw_g (lw_at lw_m9 126 rfl) rfl
theorem q2197 : (Jvm.Cond.code ({ cls := "SchemeListerModel", name := "take", desc := "(I)I" } : Jvm.MethodName) prog_15_method_95_code (3 : Nat) (Option.some Jvm.ClassFile.FieldType.int)) ∈ lw_all := lw_g (lw_at lw_m9 127 rfl) rfl
theorem q2199 : (Jvm.Cond.instanceMethod ({ cls := "SchemeListerModel", name := "undo", desc := "()I" } : Jvm.MethodName)) ∈ lw_all := lw_g (lw_at lw_m9 129 rfl) rfl
theorem q2200 : (Jvm.Cond.selects "SchemeListerModel" ({ cls := "SchemeListerModel", name := "undo", desc := "()I" } : Jvm.MethodName) ({ cls := "SchemeListerModel", name := "undo", desc := "()I" } : Jvm.MethodName)) ∈ lw_all := lw_g (lw_at lw_m9 130 rfl) rfl
theorem q2201 : (Jvm.Cond.code ({ cls := "SchemeListerModel", name := "undo", desc := "()I" } : Jvm.MethodName) prog_15_method_96_code (2 : Nat) (Option.some Jvm.ClassFile.FieldType.int)) ∈ lw_all := lw_g (lw_at lw_m9 131 rfl) rfl
theorem q2203 : (Jvm.Cond.instanceMethod ({ cls := "SchemeListerModel", name := "list", desc := "(IIII)I" } : Jvm.MethodName)) ∈ lw_all := lw_g (lw_at lw_m9 133 rfl) rfl
theorem q2204 : (Jvm.Cond.selects "SchemeListerModel" ({ cls := "SchemeListerModel", name := "list", desc := "(IIII)I" } : Jvm.MethodName) ({ cls := "SchemeListerModel", name := "list", desc := "(IIII)I" } : Jvm.MethodName)) ∈ lw_all := lw_g (lw_at lw_m9 134 rfl) rfl
theorem q2205 : (Jvm.Cond.code ({ cls := "SchemeListerModel", name := "list", desc := "(IIII)I" } : Jvm.MethodName) prog_15_method_99_code (5 : Nat) (Option.some Jvm.ClassFile.FieldType.int)) ∈ lw_all := lw_g (lw_at lw_m9 135 rfl) rfl
theorem q2206 : (Jvm.Cond.methodLink "SchemeListerModel" (401 : Nat) ({ cls := "SchemeListerModel", name := "listFrom", desc := "(I)V" } : Jvm.MethodName)) ∈ lw_all := lw_g (lw_at lw_m9 136 rfl) rfl
theorem q2207 : (Jvm.Cond.privateMethod ({ cls := "SchemeListerModel", name := "listFrom", desc := "(I)V" } : Jvm.MethodName)) ∈ lw_tbl := lw_at lw_m9 137 rfl
theorem q2208 : (Jvm.Cond.instanceMethod ({ cls := "SchemeListerModel", name := "listFrom", desc := "(I)V" } : Jvm.MethodName)) ∈ lw_all := lw_g (lw_at lw_m9 138 rfl) rfl
theorem q2209 : (Jvm.Cond.code ({ cls := "SchemeListerModel", name := "listFrom", desc := "(I)V" } : Jvm.MethodName) prog_15_method_98_code (5 : Nat) (Option.none : Option Jvm.ClassFile.FieldType)) ∈ lw_all := lw_g (lw_at lw_m9 139 rfl) rfl
theorem q2210 : (Jvm.Cond.methodLink "SchemeListerModel" (398 : Nat) ({ cls := "SchemeListerModel", name := "isLeast", desc := "(I)Z" } : Jvm.MethodName)) ∈ lw_all := lw_g (lw_at lw_m9 140 rfl) rfl
theorem q2211 : (Jvm.Cond.privateMethod ({ cls := "SchemeListerModel", name := "isLeast", desc := "(I)Z" } : Jvm.MethodName)) ∈ lw_tbl := lw_at lw_m9 141 rfl
theorem q2212 : (Jvm.Cond.instanceMethod ({ cls := "SchemeListerModel", name := "isLeast", desc := "(I)Z" } : Jvm.MethodName)) ∈ lw_all := lw_g (lw_at lw_m9 142 rfl) rfl
theorem q2213 : (Jvm.Cond.code ({ cls := "SchemeListerModel", name := "isLeast", desc := "(I)Z" } : Jvm.MethodName) prog_15_method_97_code (4 : Nat) (Option.some Jvm.ClassFile.FieldType.boolean)) ∈ lw_all := lw_g (lw_at lw_m9 143 rfl) rfl
theorem q2215 : (Jvm.Cond.instanceMethod ({ cls := "SchemeListerModel", name := "square", desc := "(II)I" } : Jvm.MethodName)) ∈ lw_all := lw_g (lw_at lw_m9 145 rfl) rfl
theorem q2216 : (Jvm.Cond.selects "SchemeListerModel" ({ cls := "SchemeListerModel", name := "square", desc := "(II)I" } : Jvm.MethodName) ({ cls := "SchemeListerModel", name := "square", desc := "(II)I" } : Jvm.MethodName)) ∈ lw_all := lw_g (lw_at lw_m9 146 rfl) rfl
theorem q2217 : (Jvm.Cond.code ({ cls := "SchemeListerModel", name := "square", desc := "(II)I" } : Jvm.MethodName) prog_15_method_104_code (5 : Nat) (Option.some Jvm.ClassFile.FieldType.int)) ∈ lw_all := lw_g (lw_at lw_m9 147 rfl) rfl
theorem q2218 : (Jvm.Cond.methodLink "SchemeListerModel" (423 : Nat) ({ cls := "SchemeListerModel", name := "layPlace", desc := "(III)V" } : Jvm.MethodName)) ∈ lw_all := lw_g (lw_at lw_m9 148 rfl) rfl
theorem q2219 : (Jvm.Cond.privateMethod ({ cls := "SchemeListerModel", name := "layPlace", desc := "(III)V" } : Jvm.MethodName)) ∈ lw_tbl := lw_at lw_m9 149 rfl
theorem q2220 : (Jvm.Cond.instanceMethod ({ cls := "SchemeListerModel", name := "layPlace", desc := "(III)V" } : Jvm.MethodName)) ∈ lw_all := lw_g (lw_at lw_m9 150 rfl) rfl
theorem q2221 : (Jvm.Cond.code ({ cls := "SchemeListerModel", name := "layPlace", desc := "(III)V" } : Jvm.MethodName) prog_15_method_103_code (4 : Nat) (Option.none : Option Jvm.ClassFile.FieldType)) ∈ lw_all := lw_g (lw_at lw_m9 151 rfl) rfl
theorem q2222 : (Jvm.Cond.methodLink "SchemeListerModel" (419 : Nat) ({ cls := "SchemeListerModel", name := "draws", desc := "(IZ)V" } : Jvm.MethodName)) ∈ lw_all := lw_g (lw_at lw_m9 152 rfl) rfl
theorem q2223 : (Jvm.Cond.privateMethod ({ cls := "SchemeListerModel", name := "draws", desc := "(IZ)V" } : Jvm.MethodName)) ∈ lw_tbl := lw_at lw_m9 153 rfl
theorem q2224 : (Jvm.Cond.instanceMethod ({ cls := "SchemeListerModel", name := "draws", desc := "(IZ)V" } : Jvm.MethodName)) ∈ lw_all := lw_g (lw_at lw_m9 154 rfl) rfl
theorem q2225 : (Jvm.Cond.code ({ cls := "SchemeListerModel", name := "draws", desc := "(IZ)V" } : Jvm.MethodName) prog_15_method_102_code (4 : Nat) (Option.none : Option Jvm.ClassFile.FieldType)) ∈ lw_all := lw_g (lw_at lw_m9 155 rfl) rfl
theorem q2226 : (Jvm.Cond.methodLink "SchemeListerModel" (416 : Nat) ({ cls := "SchemeListerModel", name := "fitsWith", desc := "(I)Z" } : Jvm.MethodName)) ∈ lw_all := lw_g (lw_at lw_m9 156 rfl) rfl
theorem q2227 : (Jvm.Cond.privateMethod ({ cls := "SchemeListerModel", name := "fitsWith", desc := "(I)Z" } : Jvm.MethodName)) ∈ lw_tbl := lw_at lw_m9 157 rfl
theorem q2228 : (Jvm.Cond.instanceMethod ({ cls := "SchemeListerModel", name := "fitsWith", desc := "(I)Z" } : Jvm.MethodName)) ∈ lw_all := lw_g (lw_at lw_m9 158 rfl) rfl
theorem q2229 : (Jvm.Cond.code ({ cls := "SchemeListerModel", name := "fitsWith", desc := "(I)Z" } : Jvm.MethodName) prog_15_method_101_code (4 : Nat) (Option.some Jvm.ClassFile.FieldType.boolean)) ∈ lw_all := lw_g (lw_at lw_m9 159 rfl) rfl
theorem q2230 : (Jvm.Cond.methodLink "SchemeListerModel" (407 : Nat) ({ cls := "SchemeListerModel", name := "areInLineOn", desc := "(III)Z" } : Jvm.MethodName)) ∈ lw_all := lw_g (lw_at lw_m9 160 rfl) rfl
theorem q2231 : (Jvm.Cond.privateMethod ({ cls := "SchemeListerModel", name := "areInLineOn", desc := "(III)Z" } : Jvm.MethodName)) ∈ lw_tbl := lw_at lw_m9 161 rfl
theorem q2232 : (Jvm.Cond.instanceMethod ({ cls := "SchemeListerModel", name := "areInLineOn", desc := "(III)Z" } : Jvm.MethodName)) ∈ lw_all := lw_g (lw_at lw_m9 162 rfl) rfl
theorem q2233 : (Jvm.Cond.code ({ cls := "SchemeListerModel", name := "areInLineOn", desc := "(III)Z" } : Jvm.MethodName) prog_15_method_100_code (5 : Nat) (Option.some Jvm.ClassFile.FieldType.boolean)) ∈ lw_all := lw_g (lw_at lw_m9 163 rfl) rfl
theorem q2235 : (Jvm.Cond.instanceMethod ({ cls := "SchemeListerModel", name := "plane", desc := "(II)I" } : Jvm.MethodName)) ∈ lw_all := lw_g (lw_at lw_m9 165 rfl) rfl
theorem q2236 : (Jvm.Cond.selects "SchemeListerModel" ({ cls := "SchemeListerModel", name := "plane", desc := "(II)I" } : Jvm.MethodName) ({ cls := "SchemeListerModel", name := "plane", desc := "(II)I" } : Jvm.MethodName)) ∈ lw_all := lw_g (lw_at lw_m9 166 rfl) rfl
theorem q2237 : (Jvm.Cond.code ({ cls := "SchemeListerModel", name := "plane", desc := "(II)I" } : Jvm.MethodName) prog_15_method_105_code (7 : Nat) (Option.some Jvm.ClassFile.FieldType.int)) ∈ lw_all := lw_g (lw_at lw_m9 167 rfl) rfl
theorem q2239 : (Jvm.Cond.instanceMethod ({ cls := "SchemeListerModel", name := "set", desc := "(I)I" } : Jvm.MethodName)) ∈ lw_all := lw_g (lw_at lw_m9 169 rfl) rfl
theorem q2240 : (Jvm.Cond.selects "SchemeListerModel" ({ cls := "SchemeListerModel", name := "set", desc := "(I)I" } : Jvm.MethodName) ({ cls := "SchemeListerModel", name := "set", desc := "(I)I" } : Jvm.MethodName)) ∈ lw_all := lw_g (lw_at lw_m9 170 rfl) rfl
theorem q2241 : (Jvm.Cond.code ({ cls := "SchemeListerModel", name := "set", desc := "(I)I" } : Jvm.MethodName) prog_15_method_112_code (2 : Nat) (Option.some Jvm.ClassFile.FieldType.int)) ∈ lw_all := lw_g (lw_at lw_m9 171 rfl) rfl
theorem q2242 : (Jvm.Cond.methodLink "SchemeListerModel" (444 : Nat) ({ cls := "SchemeListerModel", name := "cover", desc := "()I" } : Jvm.MethodName)) ∈ lw_all := lw_g (lw_at lw_m9 172 rfl) rfl
theorem q2243 : (Jvm.Cond.privateMethod ({ cls := "SchemeListerModel", name := "cover", desc := "()I" } : Jvm.MethodName)) ∈ lw_tbl := lw_at lw_m9 173 rfl
theorem q2244 : (Jvm.Cond.instanceMethod ({ cls := "SchemeListerModel", name := "cover", desc := "()I" } : Jvm.MethodName)) ∈ lw_all := lw_g (lw_at lw_m9 174 rfl) rfl
theorem q2245 : (Jvm.Cond.code ({ cls := "SchemeListerModel", name := "cover", desc := "()I" } : Jvm.MethodName) prog_15_method_108_code (3 : Nat) (Option.some Jvm.ClassFile.FieldType.int)) ∈ lw_all := lw_g (lw_at lw_m9 175 rfl) rfl
theorem q2246 : (Jvm.Cond.methodLink "SchemeListerModel" (426 : Nat) ({ cls := "SchemeListerModel", name := "all", desc := "()I" } : Jvm.MethodName)) ∈ lw_all := lw_g (lw_at lw_m9 176 rfl) rfl
theorem q2247 : (Jvm.Cond.privateMethod ({ cls := "SchemeListerModel", name := "all", desc := "()I" } : Jvm.MethodName)) ∈ lw_tbl := lw_at lw_m9 177 rfl
theorem q2248 : (Jvm.Cond.instanceMethod ({ cls := "SchemeListerModel", name := "all", desc := "()I" } : Jvm.MethodName)) ∈ lw_all := lw_g (lw_at lw_m9 178 rfl) rfl
theorem q2249 : (Jvm.Cond.code ({ cls := "SchemeListerModel", name := "all", desc := "()I" } : Jvm.MethodName) prog_15_method_107_code (1 : Nat) (Option.some Jvm.ClassFile.FieldType.int)) ∈ lw_all := lw_g (lw_at lw_m9 179 rfl) rfl
theorem q2250 : (Jvm.Cond.methodLink "SchemeListerModel" (429 : Nat) ({ cls := "SchemeListerModel", name := "hasLine", desc := "(I)Z" } : Jvm.MethodName)) ∈ lw_all := lw_g (lw_at lw_m9 180 rfl) rfl
theorem q2251 : (Jvm.Cond.privateMethod ({ cls := "SchemeListerModel", name := "hasLine", desc := "(I)Z" } : Jvm.MethodName)) ∈ lw_tbl := lw_at lw_m9 181 rfl
theorem q2252 : (Jvm.Cond.instanceMethod ({ cls := "SchemeListerModel", name := "hasLine", desc := "(I)Z" } : Jvm.MethodName)) ∈ lw_all := lw_g (lw_at lw_m9 182 rfl) rfl
theorem q2253 : (Jvm.Cond.code ({ cls := "SchemeListerModel", name := "hasLine", desc := "(I)Z" } : Jvm.MethodName) prog_15_method_106_code (4 : Nat) (Option.some Jvm.ClassFile.FieldType.boolean)) ∈ lw_all := lw_g (lw_at lw_m9 183 rfl) rfl
theorem q2254 : (Jvm.Cond.methodLink "SchemeListerModel" (447 : Nat) ({ cls := "SchemeListerModel", name := "cap", desc := "()I" } : Jvm.MethodName)) ∈ lw_all := lw_g (lw_at lw_m9 184 rfl) rfl
theorem q2255 : (Jvm.Cond.privateMethod ({ cls := "SchemeListerModel", name := "cap", desc := "()I" } : Jvm.MethodName)) ∈ lw_tbl := lw_at lw_m9 185 rfl
theorem q2256 : (Jvm.Cond.instanceMethod ({ cls := "SchemeListerModel", name := "cap", desc := "()I" } : Jvm.MethodName)) ∈ lw_all := lw_g (lw_at lw_m9 186 rfl) rfl
theorem q2257 : (Jvm.Cond.code ({ cls := "SchemeListerModel", name := "cap", desc := "()I" } : Jvm.MethodName) prog_15_method_109_code (3 : Nat) (Option.some Jvm.ClassFile.FieldType.int)) ∈ lw_all := lw_g (lw_at lw_m9 187 rfl) rfl
theorem q2258 : (Jvm.Cond.methodLink "SchemeListerModel" (450 : Nat) ({ cls := "SchemeListerModel", name := "tellHalves", desc := "()V" } : Jvm.MethodName)) ∈ lw_all := lw_g (lw_at lw_m9 188 rfl) rfl
theorem q2259 : (Jvm.Cond.privateMethod ({ cls := "SchemeListerModel", name := "tellHalves", desc := "()V" } : Jvm.MethodName)) ∈ lw_tbl := lw_at lw_m9 189 rfl
theorem q2260 : (Jvm.Cond.instanceMethod ({ cls := "SchemeListerModel", name := "tellHalves", desc := "()V" } : Jvm.MethodName)) ∈ lw_all := lw_g (lw_at lw_m9 190 rfl) rfl
theorem q2261 : (Jvm.Cond.code ({ cls := "SchemeListerModel", name := "tellHalves", desc := "()V" } : Jvm.MethodName) prog_15_method_110_code (2 : Nat) (Option.none : Option Jvm.ClassFile.FieldType)) ∈ lw_all := lw_g (lw_at lw_m9 191 rfl) rfl
theorem q2262 : (Jvm.Cond.methodLink "SchemeListerModel" (453 : Nat) ({ cls := "SchemeListerModel", name := "tellSpreads", desc := "()V" } : Jvm.MethodName)) ∈ lw_all := lw_g (lw_at lw_m9 192 rfl) rfl
theorem q2263 : (Jvm.Cond.privateMethod ({ cls := "SchemeListerModel", name := "tellSpreads", desc := "()V" } : Jvm.MethodName)) ∈ lw_tbl := lw_at lw_m9 193 rfl
theorem q2264 : (Jvm.Cond.instanceMethod ({ cls := "SchemeListerModel", name := "tellSpreads", desc := "()V" } : Jvm.MethodName)) ∈ lw_all := lw_g (lw_at lw_m9 194 rfl) rfl
theorem q2265 : (Jvm.Cond.code ({ cls := "SchemeListerModel", name := "tellSpreads", desc := "()V" } : Jvm.MethodName) prog_15_method_111_code (5 : Nat) (Option.none : Option Jvm.ClassFile.FieldType)) ∈ lw_all := lw_g (lw_at lw_m9 195 rfl) rfl
theorem q2267 : (Jvm.Cond.instanceMethod ({ cls := "SchemeListerModel", name := "far", desc := "(II)I" } : Jvm.MethodName)) ∈ lw_all := lw_g (lw_at lw_m9 197 rfl) rfl
theorem q2268 : (Jvm.Cond.selects "SchemeListerModel" ({ cls := "SchemeListerModel", name := "far", desc := "(II)I" } : Jvm.MethodName) ({ cls := "SchemeListerModel", name := "far", desc := "(II)I" } : Jvm.MethodName)) ∈ lw_all := lw_g (lw_at lw_m9 198 rfl) rfl
theorem q2269 : (Jvm.Cond.code ({ cls := "SchemeListerModel", name := "far", desc := "(II)I" } : Jvm.MethodName) prog_15_method_113_code (7 : Nat) (Option.some Jvm.ClassFile.FieldType.int)) ∈ lw_all := lw_g (lw_at lw_m9 199 rfl) rfl
theorem q2271 : (Jvm.Cond.instanceMethod ({ cls := "SchemeListerModel", name := "game", desc := "(I)I" } : Jvm.MethodName)) ∈ lw_all := lw_g (lw_at lw_m9 201 rfl) rfl
theorem q2272 : (Jvm.Cond.selects "SchemeListerModel" ({ cls := "SchemeListerModel", name := "game", desc := "(I)I" } : Jvm.MethodName) ({ cls := "SchemeListerModel", name := "game", desc := "(I)I" } : Jvm.MethodName)) ∈ lw_all := lw_g (lw_at lw_m9 202 rfl) rfl
theorem q2273 : (Jvm.Cond.code ({ cls := "SchemeListerModel", name := "game", desc := "(I)I" } : Jvm.MethodName) prog_15_method_117_code (4 : Nat) (Option.some Jvm.ClassFile.FieldType.int)) ∈ lw_all := lw_g (lw_at lw_m9 203 rfl) rfl
theorem q2274 : (Jvm.Cond.methodLink "SchemeListerModel" (466 : Nat) ({ cls := "SchemeListerModel", name := "tellGame", desc := "()V" } : Jvm.MethodName)) ∈ lw_all := lw_g (lw_at lw_m9 204 rfl) rfl
theorem q2275 : (Jvm.Cond.privateMethod ({ cls := "SchemeListerModel", name := "tellGame", desc := "()V" } : Jvm.MethodName)) ∈ lw_tbl := lw_at lw_m9 205 rfl
theorem q2276 : (Jvm.Cond.instanceMethod ({ cls := "SchemeListerModel", name := "tellGame", desc := "()V" } : Jvm.MethodName)) ∈ lw_all := lw_g (lw_at lw_m9 206 rfl) rfl
theorem q2277 : (Jvm.Cond.code ({ cls := "SchemeListerModel", name := "tellGame", desc := "()V" } : Jvm.MethodName) prog_15_method_116_code (3 : Nat) (Option.none : Option Jvm.ClassFile.FieldType)) ∈ lw_all := lw_g (lw_at lw_m9 207 rfl) rfl
theorem q2278 : (Jvm.Cond.methodLink "SchemeListerModel" (463 : Nat) ({ cls := "SchemeListerModel", name := "bestOf", desc := "(II)I" } : Jvm.MethodName)) ∈ lw_all := lw_g (lw_at lw_m9 208 rfl) rfl
theorem q2279 : (Jvm.Cond.privateMethod ({ cls := "SchemeListerModel", name := "bestOf", desc := "(II)I" } : Jvm.MethodName)) ∈ lw_tbl := lw_at lw_m9 209 rfl
theorem q2280 : (Jvm.Cond.instanceMethod ({ cls := "SchemeListerModel", name := "bestOf", desc := "(II)I" } : Jvm.MethodName)) ∈ lw_all := lw_g (lw_at lw_m9 210 rfl) rfl
theorem q2281 : (Jvm.Cond.code ({ cls := "SchemeListerModel", name := "bestOf", desc := "(II)I" } : Jvm.MethodName) prog_15_method_115_code (5 : Nat) (Option.some Jvm.ClassFile.FieldType.int)) ∈ lw_all := lw_g (lw_at lw_m9 211 rfl) rfl
theorem q2282 : (Jvm.Cond.methodLink "SchemeListerModel" (456 : Nat) ({ cls := "SchemeListerModel", name := "movesTo", desc := "(III)I" } : Jvm.MethodName)) ∈ lw_all := lw_g (lw_at lw_m9 212 rfl) rfl
theorem q2283 : (Jvm.Cond.privateMethod ({ cls := "SchemeListerModel", name := "movesTo", desc := "(III)I" } : Jvm.MethodName)) ∈ lw_tbl := lw_at lw_m9 213 rfl
theorem q2284 : (Jvm.Cond.instanceMethod ({ cls := "SchemeListerModel", name := "movesTo", desc := "(III)I" } : Jvm.MethodName)) ∈ lw_all := lw_g (lw_at lw_m9 214 rfl) rfl
theorem q2285 : (Jvm.Cond.code ({ cls := "SchemeListerModel", name := "movesTo", desc := "(III)I" } : Jvm.MethodName) prog_15_method_114_code (5 : Nat) (Option.some Jvm.ClassFile.FieldType.int)) ∈ lw_all := lw_g (lw_at lw_m9 215 rfl) rfl
theorem q2286 : (Jvm.Cond.methodLink "SchemeListerModel" (460 : Nat) ({ cls := "java/lang/Math", name := "max", desc := "(II)I" } : Jvm.MethodName)) ∈ lw_all := lw_g (lw_at lw_m9 216 rfl) rfl
theorem q2288 : (Jvm.Cond.instanceMethod ({ cls := "SchemeListerModel", name := "years", desc := "(III)I" } : Jvm.MethodName)) ∈ lw_all := lw_g (lw_at lw_m9 218 rfl) rfl
theorem q2289 : (Jvm.Cond.selects "SchemeListerModel" ({ cls := "SchemeListerModel", name := "years", desc := "(III)I" } : Jvm.MethodName) ({ cls := "SchemeListerModel", name := "years", desc := "(III)I" } : Jvm.MethodName)) ∈ lw_all := lw_g (lw_at lw_m9 219 rfl) rfl
theorem q2290 : (Jvm.Cond.code ({ cls := "SchemeListerModel", name := "years", desc := "(III)I" } : Jvm.MethodName) prog_15_method_119_code (10 : Nat) (Option.some Jvm.ClassFile.FieldType.int)) ∈ lw_all := lw_g (lw_at lw_m9 220 rfl) rfl
theorem q2291 : (Jvm.Cond.methodLink "SchemeListerModel" (473 : Nat) ({ cls := "SchemeListerModel", name := "copyTo", desc := "([I[I)V" } : Jvm.MethodName)) ∈ lw_all := lw_g (lw_at lw_m9 221 rfl) rfl
theorem q2292 : (Jvm.Cond.static ({ cls := "SchemeListerModel", name := "copyTo", desc := "([I[I)V" } : Jvm.MethodName)) ∈ lw_all := lw_g (lw_at lw_m9 222 rfl) rfl
theorem q2293 : (Jvm.Cond.code ({ cls := "SchemeListerModel", name := "copyTo", desc := "([I[I)V" } : Jvm.MethodName) prog_15_method_82_code (3 : Nat) (Option.none : Option Jvm.ClassFile.FieldType)) ∈ lw_all := lw_g (lw_at lw_m9 223 rfl) rfl
theorem q2294 : (Jvm.Cond.methodLink "SchemeListerModel" (477 : Nat) ({ cls := "SchemeListerModel", name := "draw", desc := "(I)I" } : Jvm.MethodName)) ∈ lw_all := lw_g (lw_at lw_m9 224 rfl) rfl
theorem q2295 : (Jvm.Cond.privateMethod ({ cls := "SchemeListerModel", name := "draw", desc := "(I)I" } : Jvm.MethodName)) ∈ lw_tbl := lw_at lw_m9 225 rfl
theorem q2296 : (Jvm.Cond.instanceMethod ({ cls := "SchemeListerModel", name := "draw", desc := "(I)I" } : Jvm.MethodName)) ∈ lw_all := lw_g (lw_at lw_m9 226 rfl) rfl
theorem q2297 : (Jvm.Cond.code ({ cls := "SchemeListerModel", name := "draw", desc := "(I)I" } : Jvm.MethodName) prog_15_method_118_code (2 : Nat) (Option.some Jvm.ClassFile.FieldType.int)) ∈ lw_all := lw_g (lw_at lw_m9 227 rfl) rfl
theorem q2298 : (Jvm.Cond.constant "SchemeListerModel" (472 : Nat) (1103515245 : Int32)) ∈ lw_all := lw_g (lw_at lw_m9 228 rfl) rfl
theorem q2300 : (Jvm.Cond.instanceMethod ({ cls := "SchemeListerModel", name := "image", desc := "()V" } : Jvm.MethodName)) ∈ lw_all := lw_g (lw_at lw_m9 230 rfl) rfl
theorem q2301 : (Jvm.Cond.selects "SchemeListerModel" ({ cls := "SchemeListerModel", name := "image", desc := "()V" } : Jvm.MethodName) ({ cls := "SchemeListerModel", name := "image", desc := "()V" } : Jvm.MethodName)) ∈ lw_all := lw_g (lw_at lw_m9 231 rfl) rfl
theorem q2302 : (Jvm.Cond.code ({ cls := "SchemeListerModel", name := "image", desc := "()V" } : Jvm.MethodName) prog_15_method_120_code (1 : Nat) (Option.none : Option Jvm.ClassFile.FieldType)) ∈ lw_all := lw_g (lw_at lw_m9 232 rfl) rfl
theorem q2304 : (Jvm.Cond.instanceMethod ({ cls := "SchemeListerModel", name := "restore", desc := "()Z" } : Jvm.MethodName)) ∈ lw_all := lw_g (lw_at lw_m9 234 rfl) rfl
theorem q2305 : (Jvm.Cond.selects "SchemeListerModel" ({ cls := "SchemeListerModel", name := "restore", desc := "()Z" } : Jvm.MethodName) ({ cls := "SchemeListerModel", name := "restore", desc := "()Z" } : Jvm.MethodName)) ∈ lw_all := lw_g (lw_at lw_m9 235 rfl) rfl
theorem q2306 : (Jvm.Cond.code ({ cls := "SchemeListerModel", name := "restore", desc := "()Z" } : Jvm.MethodName) prog_15_method_121_code (1 : Nat) (Option.some Jvm.ClassFile.FieldType.boolean)) ∈ lw_all := lw_g (lw_at lw_m9 236 rfl) rfl
theorem q2325 : (Jvm.Cond.castable "SchemeListerModel" "java/lang/Object") ∈ lw_tbl := lw_at lw_m10 15 rfl
theorem in_X3 : ∀ w ∈ wsX30, w ∈ lw_all := lw_in wsX30 [1710, 1712, 1714, 1716, 1718, 1720, 1722, 1724, 1726, 1728, 1730, 1732, 1734, 1736, 1738, 1740, 1742, 1744, 1746, 1748, 1750, 1752, 1754, 1756, 1758, 1760, 1762, 1764, 1766, 1768, 1770, 1772, 1774, 1776, 1778, 1780, 1782, 1784, 1786, 1788, 1790, 1792, 1794, 1796, 1798, 1800, 1802, 1804, 1806, 1808, 1810, 1812] (by decide +kernel) (by decide +kernel)
