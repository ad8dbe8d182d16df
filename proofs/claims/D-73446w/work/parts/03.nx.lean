/-! SchemeListerLaw -/
set_option maxRecDepth 100000
def RX0 : String := "SchemeListerLaw"
abbrev cX0_scheme : ByteArray := method_3_code
def yX0_scheme : MethodName := ⟨RX0, "scheme", "(LSchemeLister;I[J)I"⟩
def dkwX0_scheme_0 : List UInt8 := [44, 3, 42, 27, 182, 0, 7, 133, 80, 167, 0, 6, 78, 4, 172, 3, 172]
abbrev dktX0_scheme_0 : List UInt8 := dkwX0_scheme_0 ++ []
theorem dksX0_scheme_0 : cX0_scheme.data.toList.drop 0 = dktX0_scheme_0 := by decide +kernel
theorem dX0_scheme_0 : decode cX0_scheme 0 = .ok (.aload_n 2, 1) := dk_44 (dk_at dksX0_scheme_0 0 rfl rfl)
theorem dX0_scheme_1 : decode cX0_scheme 1 = .ok (.iconst 0, 1) := dk_3 (dk_at dksX0_scheme_0 1 rfl rfl)
theorem dX0_scheme_2 : decode cX0_scheme 2 = .ok (.aload_n 0, 1) := dk_42 (dk_at dksX0_scheme_0 2 rfl rfl)
theorem dX0_scheme_3 : decode cX0_scheme 3 = .ok (.iload_n 1, 1) := dk_27 (dk_at dksX0_scheme_0 3 rfl rfl)
theorem dX0_scheme_4 : decode cX0_scheme 4 = .ok (.invokevirtual 7, 3) := dk_182 0 7 (dk_at dksX0_scheme_0 4 rfl rfl)
theorem dX0_scheme_7 : decode cX0_scheme 7 = .ok (.i2l, 1) := dk_133 (dk_at dksX0_scheme_0 7 rfl rfl)
theorem dX0_scheme_8 : decode cX0_scheme 8 = .ok (.lastore, 1) := dk_80 (dk_at dksX0_scheme_0 8 rfl rfl)
theorem dX0_scheme_9 : decode cX0_scheme 9 = .ok (.goto 6, 3) := dk_167 0 6 (dk_at dksX0_scheme_0 9 rfl rfl)
theorem dX0_scheme_12 : decode cX0_scheme 12 = .ok (.astore_n 3, 1) := dk_78 (dk_at dksX0_scheme_0 12 rfl rfl)
theorem dX0_scheme_13 : decode cX0_scheme 13 = .ok (.iconst 1, 1) := dk_4 (dk_at dksX0_scheme_0 13 rfl rfl)
theorem dX0_scheme_14 : decode cX0_scheme 14 = .ok (.ireturn, 1) := dk_172 (dk_at dksX0_scheme_0 14 rfl rfl)
theorem dX0_scheme_15 : decode cX0_scheme 15 = .ok (.iconst 0, 1) := dk_3 (dk_at dksX0_scheme_0 15 rfl rfl)
theorem dX0_scheme_16 : decode cX0_scheme 16 = .ok (.ireturn, 1) := dk_172 (dk_at dksX0_scheme_0 16 rfl rfl)
abbrev cX0_count : ByteArray := method_4_code
def yX0_count : MethodName := ⟨RX0, "count", "(LSchemeLister;I[J)I"⟩
def dkwX0_count_0 : List UInt8 := [44, 3, 42, 27, 182, 0, 15, 133, 80, 167, 0, 6, 78, 4, 172, 3, 172]
abbrev dktX0_count_0 : List UInt8 := dkwX0_count_0 ++ []
theorem dksX0_count_0 : cX0_count.data.toList.drop 0 = dktX0_count_0 := by decide +kernel
theorem dX0_count_0 : decode cX0_count 0 = .ok (.aload_n 2, 1) := dk_44 (dk_at dksX0_count_0 0 rfl rfl)
theorem dX0_count_1 : decode cX0_count 1 = .ok (.iconst 0, 1) := dk_3 (dk_at dksX0_count_0 1 rfl rfl)
theorem dX0_count_2 : decode cX0_count 2 = .ok (.aload_n 0, 1) := dk_42 (dk_at dksX0_count_0 2 rfl rfl)
theorem dX0_count_3 : decode cX0_count 3 = .ok (.iload_n 1, 1) := dk_27 (dk_at dksX0_count_0 3 rfl rfl)
theorem dX0_count_4 : decode cX0_count 4 = .ok (.invokevirtual 15, 3) := dk_182 0 15 (dk_at dksX0_count_0 4 rfl rfl)
theorem dX0_count_7 : decode cX0_count 7 = .ok (.i2l, 1) := dk_133 (dk_at dksX0_count_0 7 rfl rfl)
theorem dX0_count_8 : decode cX0_count 8 = .ok (.lastore, 1) := dk_80 (dk_at dksX0_count_0 8 rfl rfl)
theorem dX0_count_9 : decode cX0_count 9 = .ok (.goto 6, 3) := dk_167 0 6 (dk_at dksX0_count_0 9 rfl rfl)
theorem dX0_count_12 : decode cX0_count 12 = .ok (.astore_n 3, 1) := dk_78 (dk_at dksX0_count_0 12 rfl rfl)
theorem dX0_count_13 : decode cX0_count 13 = .ok (.iconst 1, 1) := dk_4 (dk_at dksX0_count_0 13 rfl rfl)
theorem dX0_count_14 : decode cX0_count 14 = .ok (.ireturn, 1) := dk_172 (dk_at dksX0_count_0 14 rfl rfl)
theorem dX0_count_15 : decode cX0_count 15 = .ok (.iconst 0, 1) := dk_3 (dk_at dksX0_count_0 15 rfl rfl)
theorem dX0_count_16 : decode cX0_count 16 = .ok (.ireturn, 1) := dk_172 (dk_at dksX0_count_0 16 rfl rfl)
abbrev cX0_line : ByteArray := method_5_code
def yX0_line : MethodName := ⟨RX0, "line", "(LSchemeLister;I[J)I"⟩
def dkwX0_line_0 : List UInt8 := [44, 3, 42, 27, 182, 0, 20, 133, 80, 167, 0, 6, 78, 4, 172, 3, 172]
abbrev dktX0_line_0 : List UInt8 := dkwX0_line_0 ++ []
theorem dksX0_line_0 : cX0_line.data.toList.drop 0 = dktX0_line_0 := by decide +kernel
theorem dX0_line_0 : decode cX0_line 0 = .ok (.aload_n 2, 1) := dk_44 (dk_at dksX0_line_0 0 rfl rfl)
theorem dX0_line_1 : decode cX0_line 1 = .ok (.iconst 0, 1) := dk_3 (dk_at dksX0_line_0 1 rfl rfl)
theorem dX0_line_2 : decode cX0_line 2 = .ok (.aload_n 0, 1) := dk_42 (dk_at dksX0_line_0 2 rfl rfl)
theorem dX0_line_3 : decode cX0_line 3 = .ok (.iload_n 1, 1) := dk_27 (dk_at dksX0_line_0 3 rfl rfl)
theorem dX0_line_4 : decode cX0_line 4 = .ok (.invokevirtual 20, 3) := dk_182 0 20 (dk_at dksX0_line_0 4 rfl rfl)
theorem dX0_line_7 : decode cX0_line 7 = .ok (.i2l, 1) := dk_133 (dk_at dksX0_line_0 7 rfl rfl)
theorem dX0_line_8 : decode cX0_line 8 = .ok (.lastore, 1) := dk_80 (dk_at dksX0_line_0 8 rfl rfl)
theorem dX0_line_9 : decode cX0_line 9 = .ok (.goto 6, 3) := dk_167 0 6 (dk_at dksX0_line_0 9 rfl rfl)
theorem dX0_line_12 : decode cX0_line 12 = .ok (.astore_n 3, 1) := dk_78 (dk_at dksX0_line_0 12 rfl rfl)
theorem dX0_line_13 : decode cX0_line 13 = .ok (.iconst 1, 1) := dk_4 (dk_at dksX0_line_0 13 rfl rfl)
theorem dX0_line_14 : decode cX0_line 14 = .ok (.ireturn, 1) := dk_172 (dk_at dksX0_line_0 14 rfl rfl)
theorem dX0_line_15 : decode cX0_line 15 = .ok (.iconst 0, 1) := dk_3 (dk_at dksX0_line_0 15 rfl rfl)
theorem dX0_line_16 : decode cX0_line 16 = .ok (.ireturn, 1) := dk_172 (dk_at dksX0_line_0 16 rfl rfl)
abbrev cX0_point : ByteArray := method_6_code
def yX0_point : MethodName := ⟨RX0, "point", "(LSchemeLister;II[J)I"⟩
def dkwX0_point_0 : List UInt8 := [45, 3, 42, 27, 28, 182, 0, 23, 133, 80, 167, 0, 7, 58, 4, 4, 172, 3, 172]
abbrev dktX0_point_0 : List UInt8 := dkwX0_point_0 ++ []
theorem dksX0_point_0 : cX0_point.data.toList.drop 0 = dktX0_point_0 := by decide +kernel
theorem dX0_point_0 : decode cX0_point 0 = .ok (.aload_n 3, 1) := dk_45 (dk_at dksX0_point_0 0 rfl rfl)
theorem dX0_point_1 : decode cX0_point 1 = .ok (.iconst 0, 1) := dk_3 (dk_at dksX0_point_0 1 rfl rfl)
theorem dX0_point_2 : decode cX0_point 2 = .ok (.aload_n 0, 1) := dk_42 (dk_at dksX0_point_0 2 rfl rfl)
theorem dX0_point_3 : decode cX0_point 3 = .ok (.iload_n 1, 1) := dk_27 (dk_at dksX0_point_0 3 rfl rfl)
theorem dX0_point_4 : decode cX0_point 4 = .ok (.iload_n 2, 1) := dk_28 (dk_at dksX0_point_0 4 rfl rfl)
theorem dX0_point_5 : decode cX0_point 5 = .ok (.invokevirtual 23, 3) := dk_182 0 23 (dk_at dksX0_point_0 5 rfl rfl)
theorem dX0_point_8 : decode cX0_point 8 = .ok (.i2l, 1) := dk_133 (dk_at dksX0_point_0 8 rfl rfl)
theorem dX0_point_9 : decode cX0_point 9 = .ok (.lastore, 1) := dk_80 (dk_at dksX0_point_0 9 rfl rfl)
theorem dX0_point_10 : decode cX0_point 10 = .ok (.goto 7, 3) := dk_167 0 7 (dk_at dksX0_point_0 10 rfl rfl)
theorem dX0_point_13 : decode cX0_point 13 = .ok (.astore 4, 2) := dk_58 4 (dk_at dksX0_point_0 13 rfl rfl)
theorem dX0_point_15 : decode cX0_point 15 = .ok (.iconst 1, 1) := dk_4 (dk_at dksX0_point_0 15 rfl rfl)
theorem dX0_point_16 : decode cX0_point 16 = .ok (.ireturn, 1) := dk_172 (dk_at dksX0_point_0 16 rfl rfl)
theorem dX0_point_17 : decode cX0_point 17 = .ok (.iconst 0, 1) := dk_3 (dk_at dksX0_point_0 17 rfl rfl)
theorem dX0_point_18 : decode cX0_point 18 = .ok (.ireturn, 1) := dk_172 (dk_at dksX0_point_0 18 rfl rfl)
abbrev cX0_joined : ByteArray := method_7_code
def yX0_joined : MethodName := ⟨RX0, "joined", "(LSchemeLister;II[J)I"⟩
def dkwX0_joined_0 : List UInt8 := [45, 3, 42, 27, 28, 182, 0, 27, 133, 80, 167, 0, 11, 58, 4, 4, 172, 58, 4, 5, 172, 3, 172]
abbrev dktX0_joined_0 : List UInt8 := dkwX0_joined_0 ++ []
theorem dksX0_joined_0 : cX0_joined.data.toList.drop 0 = dktX0_joined_0 := by decide +kernel
theorem dX0_joined_0 : decode cX0_joined 0 = .ok (.aload_n 3, 1) := dk_45 (dk_at dksX0_joined_0 0 rfl rfl)
theorem dX0_joined_1 : decode cX0_joined 1 = .ok (.iconst 0, 1) := dk_3 (dk_at dksX0_joined_0 1 rfl rfl)
theorem dX0_joined_2 : decode cX0_joined 2 = .ok (.aload_n 0, 1) := dk_42 (dk_at dksX0_joined_0 2 rfl rfl)
theorem dX0_joined_3 : decode cX0_joined 3 = .ok (.iload_n 1, 1) := dk_27 (dk_at dksX0_joined_0 3 rfl rfl)
theorem dX0_joined_4 : decode cX0_joined 4 = .ok (.iload_n 2, 1) := dk_28 (dk_at dksX0_joined_0 4 rfl rfl)
theorem dX0_joined_5 : decode cX0_joined 5 = .ok (.invokevirtual 27, 3) := dk_182 0 27 (dk_at dksX0_joined_0 5 rfl rfl)
theorem dX0_joined_8 : decode cX0_joined 8 = .ok (.i2l, 1) := dk_133 (dk_at dksX0_joined_0 8 rfl rfl)
theorem dX0_joined_9 : decode cX0_joined 9 = .ok (.lastore, 1) := dk_80 (dk_at dksX0_joined_0 9 rfl rfl)
theorem dX0_joined_10 : decode cX0_joined 10 = .ok (.goto 11, 3) := dk_167 0 11 (dk_at dksX0_joined_0 10 rfl rfl)
theorem dX0_joined_13 : decode cX0_joined 13 = .ok (.astore 4, 2) := dk_58 4 (dk_at dksX0_joined_0 13 rfl rfl)
theorem dX0_joined_15 : decode cX0_joined 15 = .ok (.iconst 1, 1) := dk_4 (dk_at dksX0_joined_0 15 rfl rfl)
theorem dX0_joined_16 : decode cX0_joined 16 = .ok (.ireturn, 1) := dk_172 (dk_at dksX0_joined_0 16 rfl rfl)
theorem dX0_joined_17 : decode cX0_joined 17 = .ok (.astore 4, 2) := dk_58 4 (dk_at dksX0_joined_0 17 rfl rfl)
theorem dX0_joined_19 : decode cX0_joined 19 = .ok (.iconst 2, 1) := dk_5 (dk_at dksX0_joined_0 19 rfl rfl)
theorem dX0_joined_20 : decode cX0_joined 20 = .ok (.ireturn, 1) := dk_172 (dk_at dksX0_joined_0 20 rfl rfl)
theorem dX0_joined_21 : decode cX0_joined 21 = .ok (.iconst 0, 1) := dk_3 (dk_at dksX0_joined_0 21 rfl rfl)
theorem dX0_joined_22 : decode cX0_joined 22 = .ok (.ireturn, 1) := dk_172 (dk_at dksX0_joined_0 22 rfl rfl)
abbrev cX0_meet : ByteArray := method_8_code
def yX0_meet : MethodName := ⟨RX0, "meet", "(LSchemeLister;II[J)I"⟩
def dkwX0_meet_0 : List UInt8 := [45, 3, 42, 27, 28, 182, 0, 30, 133, 80, 167, 0, 11, 58, 4, 4, 172, 58, 4, 5, 172, 3, 172]
abbrev dktX0_meet_0 : List UInt8 := dkwX0_meet_0 ++ []
theorem dksX0_meet_0 : cX0_meet.data.toList.drop 0 = dktX0_meet_0 := by decide +kernel
theorem dX0_meet_0 : decode cX0_meet 0 = .ok (.aload_n 3, 1) := dk_45 (dk_at dksX0_meet_0 0 rfl rfl)
theorem dX0_meet_1 : decode cX0_meet 1 = .ok (.iconst 0, 1) := dk_3 (dk_at dksX0_meet_0 1 rfl rfl)
theorem dX0_meet_2 : decode cX0_meet 2 = .ok (.aload_n 0, 1) := dk_42 (dk_at dksX0_meet_0 2 rfl rfl)
theorem dX0_meet_3 : decode cX0_meet 3 = .ok (.iload_n 1, 1) := dk_27 (dk_at dksX0_meet_0 3 rfl rfl)
theorem dX0_meet_4 : decode cX0_meet 4 = .ok (.iload_n 2, 1) := dk_28 (dk_at dksX0_meet_0 4 rfl rfl)
theorem dX0_meet_5 : decode cX0_meet 5 = .ok (.invokevirtual 30, 3) := dk_182 0 30 (dk_at dksX0_meet_0 5 rfl rfl)
theorem dX0_meet_8 : decode cX0_meet 8 = .ok (.i2l, 1) := dk_133 (dk_at dksX0_meet_0 8 rfl rfl)
theorem dX0_meet_9 : decode cX0_meet 9 = .ok (.lastore, 1) := dk_80 (dk_at dksX0_meet_0 9 rfl rfl)
theorem dX0_meet_10 : decode cX0_meet 10 = .ok (.goto 11, 3) := dk_167 0 11 (dk_at dksX0_meet_0 10 rfl rfl)
theorem dX0_meet_13 : decode cX0_meet 13 = .ok (.astore 4, 2) := dk_58 4 (dk_at dksX0_meet_0 13 rfl rfl)
theorem dX0_meet_15 : decode cX0_meet 15 = .ok (.iconst 1, 1) := dk_4 (dk_at dksX0_meet_0 15 rfl rfl)
theorem dX0_meet_16 : decode cX0_meet 16 = .ok (.ireturn, 1) := dk_172 (dk_at dksX0_meet_0 16 rfl rfl)
theorem dX0_meet_17 : decode cX0_meet 17 = .ok (.astore 4, 2) := dk_58 4 (dk_at dksX0_meet_0 17 rfl rfl)
theorem dX0_meet_19 : decode cX0_meet 19 = .ok (.iconst 2, 1) := dk_5 (dk_at dksX0_meet_0 19 rfl rfl)
theorem dX0_meet_20 : decode cX0_meet 20 = .ok (.ireturn, 1) := dk_172 (dk_at dksX0_meet_0 20 rfl rfl)
theorem dX0_meet_21 : decode cX0_meet 21 = .ok (.iconst 0, 1) := dk_3 (dk_at dksX0_meet_0 21 rfl rfl)
theorem dX0_meet_22 : decode cX0_meet 22 = .ok (.ireturn, 1) := dk_172 (dk_at dksX0_meet_0 22 rfl rfl)
abbrev cX0_symmetry : ByteArray := method_9_code
def yX0_symmetry : MethodName := ⟨RX0, "symmetry", "(LSchemeLister;II[J)I"⟩
def dkwX0_symmetry_0 : List UInt8 := [45, 3, 42, 27, 28, 182, 0, 33, 133, 80, 167, 0, 7, 58, 4, 4, 172, 3, 172]
abbrev dktX0_symmetry_0 : List UInt8 := dkwX0_symmetry_0 ++ []
theorem dksX0_symmetry_0 : cX0_symmetry.data.toList.drop 0 = dktX0_symmetry_0 := by decide +kernel
theorem dX0_symmetry_0 : decode cX0_symmetry 0 = .ok (.aload_n 3, 1) := dk_45 (dk_at dksX0_symmetry_0 0 rfl rfl)
theorem dX0_symmetry_1 : decode cX0_symmetry 1 = .ok (.iconst 0, 1) := dk_3 (dk_at dksX0_symmetry_0 1 rfl rfl)
theorem dX0_symmetry_2 : decode cX0_symmetry 2 = .ok (.aload_n 0, 1) := dk_42 (dk_at dksX0_symmetry_0 2 rfl rfl)
theorem dX0_symmetry_3 : decode cX0_symmetry 3 = .ok (.iload_n 1, 1) := dk_27 (dk_at dksX0_symmetry_0 3 rfl rfl)
theorem dX0_symmetry_4 : decode cX0_symmetry 4 = .ok (.iload_n 2, 1) := dk_28 (dk_at dksX0_symmetry_0 4 rfl rfl)
theorem dX0_symmetry_5 : decode cX0_symmetry 5 = .ok (.invokevirtual 33, 3) := dk_182 0 33 (dk_at dksX0_symmetry_0 5 rfl rfl)
theorem dX0_symmetry_8 : decode cX0_symmetry 8 = .ok (.i2l, 1) := dk_133 (dk_at dksX0_symmetry_0 8 rfl rfl)
theorem dX0_symmetry_9 : decode cX0_symmetry 9 = .ok (.lastore, 1) := dk_80 (dk_at dksX0_symmetry_0 9 rfl rfl)
theorem dX0_symmetry_10 : decode cX0_symmetry 10 = .ok (.goto 7, 3) := dk_167 0 7 (dk_at dksX0_symmetry_0 10 rfl rfl)
theorem dX0_symmetry_13 : decode cX0_symmetry 13 = .ok (.astore 4, 2) := dk_58 4 (dk_at dksX0_symmetry_0 13 rfl rfl)
theorem dX0_symmetry_15 : decode cX0_symmetry 15 = .ok (.iconst 1, 1) := dk_4 (dk_at dksX0_symmetry_0 15 rfl rfl)
theorem dX0_symmetry_16 : decode cX0_symmetry 16 = .ok (.ireturn, 1) := dk_172 (dk_at dksX0_symmetry_0 16 rfl rfl)
theorem dX0_symmetry_17 : decode cX0_symmetry 17 = .ok (.iconst 0, 1) := dk_3 (dk_at dksX0_symmetry_0 17 rfl rfl)
theorem dX0_symmetry_18 : decode cX0_symmetry 18 = .ok (.ireturn, 1) := dk_172 (dk_at dksX0_symmetry_0 18 rfl rfl)
abbrev cX0_normal : ByteArray := method_10_code
def yX0_normal : MethodName := ⟨RX0, "normal", "(LSchemeLister;I[J)I"⟩
def dkwX0_normal_0 : List UInt8 := [44, 3, 42, 27, 182, 0, 36, 133, 80, 167, 0, 6, 78, 4, 172, 3, 172]
abbrev dktX0_normal_0 : List UInt8 := dkwX0_normal_0 ++ []
theorem dksX0_normal_0 : cX0_normal.data.toList.drop 0 = dktX0_normal_0 := by decide +kernel
theorem dX0_normal_0 : decode cX0_normal 0 = .ok (.aload_n 2, 1) := dk_44 (dk_at dksX0_normal_0 0 rfl rfl)
theorem dX0_normal_1 : decode cX0_normal 1 = .ok (.iconst 0, 1) := dk_3 (dk_at dksX0_normal_0 1 rfl rfl)
theorem dX0_normal_2 : decode cX0_normal 2 = .ok (.aload_n 0, 1) := dk_42 (dk_at dksX0_normal_0 2 rfl rfl)
theorem dX0_normal_3 : decode cX0_normal 3 = .ok (.iload_n 1, 1) := dk_27 (dk_at dksX0_normal_0 3 rfl rfl)
theorem dX0_normal_4 : decode cX0_normal 4 = .ok (.invokevirtual 36, 3) := dk_182 0 36 (dk_at dksX0_normal_0 4 rfl rfl)
theorem dX0_normal_7 : decode cX0_normal 7 = .ok (.i2l, 1) := dk_133 (dk_at dksX0_normal_0 7 rfl rfl)
theorem dX0_normal_8 : decode cX0_normal 8 = .ok (.lastore, 1) := dk_80 (dk_at dksX0_normal_0 8 rfl rfl)
theorem dX0_normal_9 : decode cX0_normal 9 = .ok (.goto 6, 3) := dk_167 0 6 (dk_at dksX0_normal_0 9 rfl rfl)
theorem dX0_normal_12 : decode cX0_normal 12 = .ok (.astore_n 3, 1) := dk_78 (dk_at dksX0_normal_0 12 rfl rfl)
theorem dX0_normal_13 : decode cX0_normal 13 = .ok (.iconst 1, 1) := dk_4 (dk_at dksX0_normal_0 13 rfl rfl)
theorem dX0_normal_14 : decode cX0_normal 14 = .ok (.ireturn, 1) := dk_172 (dk_at dksX0_normal_0 14 rfl rfl)
theorem dX0_normal_15 : decode cX0_normal 15 = .ok (.iconst 0, 1) := dk_3 (dk_at dksX0_normal_0 15 rfl rfl)
theorem dX0_normal_16 : decode cX0_normal 16 = .ok (.ireturn, 1) := dk_172 (dk_at dksX0_normal_0 16 rfl rfl)
abbrev cX0_dual : ByteArray := method_11_code
def yX0_dual : MethodName := ⟨RX0, "dual", "(LSchemeLister;I[J)I"⟩
def dkwX0_dual_0 : List UInt8 := [44, 3, 42, 27, 182, 0, 39, 133, 80, 167, 0, 6, 78, 4, 172, 3, 172]
abbrev dktX0_dual_0 : List UInt8 := dkwX0_dual_0 ++ []
theorem dksX0_dual_0 : cX0_dual.data.toList.drop 0 = dktX0_dual_0 := by decide +kernel
theorem dX0_dual_0 : decode cX0_dual 0 = .ok (.aload_n 2, 1) := dk_44 (dk_at dksX0_dual_0 0 rfl rfl)
theorem dX0_dual_1 : decode cX0_dual 1 = .ok (.iconst 0, 1) := dk_3 (dk_at dksX0_dual_0 1 rfl rfl)
theorem dX0_dual_2 : decode cX0_dual 2 = .ok (.aload_n 0, 1) := dk_42 (dk_at dksX0_dual_0 2 rfl rfl)
theorem dX0_dual_3 : decode cX0_dual 3 = .ok (.iload_n 1, 1) := dk_27 (dk_at dksX0_dual_0 3 rfl rfl)
theorem dX0_dual_4 : decode cX0_dual 4 = .ok (.invokevirtual 39, 3) := dk_182 0 39 (dk_at dksX0_dual_0 4 rfl rfl)
theorem dX0_dual_7 : decode cX0_dual 7 = .ok (.i2l, 1) := dk_133 (dk_at dksX0_dual_0 7 rfl rfl)
theorem dX0_dual_8 : decode cX0_dual 8 = .ok (.lastore, 1) := dk_80 (dk_at dksX0_dual_0 8 rfl rfl)
theorem dX0_dual_9 : decode cX0_dual 9 = .ok (.goto 6, 3) := dk_167 0 6 (dk_at dksX0_dual_0 9 rfl rfl)
theorem dX0_dual_12 : decode cX0_dual 12 = .ok (.astore_n 3, 1) := dk_78 (dk_at dksX0_dual_0 12 rfl rfl)
theorem dX0_dual_13 : decode cX0_dual 13 = .ok (.iconst 1, 1) := dk_4 (dk_at dksX0_dual_0 13 rfl rfl)
theorem dX0_dual_14 : decode cX0_dual 14 = .ok (.ireturn, 1) := dk_172 (dk_at dksX0_dual_0 14 rfl rfl)
theorem dX0_dual_15 : decode cX0_dual 15 = .ok (.iconst 0, 1) := dk_3 (dk_at dksX0_dual_0 15 rfl rfl)
theorem dX0_dual_16 : decode cX0_dual 16 = .ok (.ireturn, 1) := dk_172 (dk_at dksX0_dual_0 16 rfl rfl)
abbrev cX0_shelf : ByteArray := method_12_code
def yX0_shelf : MethodName := ⟨RX0, "shelf", "(LSchemeLister;II[J)I"⟩
def dkwX0_shelf_0 : List UInt8 := [45, 3, 42, 27, 28, 182, 0, 42, 133, 80, 167, 0, 7, 58, 4, 4, 172, 3, 172]
abbrev dktX0_shelf_0 : List UInt8 := dkwX0_shelf_0 ++ []
theorem dksX0_shelf_0 : cX0_shelf.data.toList.drop 0 = dktX0_shelf_0 := by decide +kernel
theorem dX0_shelf_0 : decode cX0_shelf 0 = .ok (.aload_n 3, 1) := dk_45 (dk_at dksX0_shelf_0 0 rfl rfl)
theorem dX0_shelf_1 : decode cX0_shelf 1 = .ok (.iconst 0, 1) := dk_3 (dk_at dksX0_shelf_0 1 rfl rfl)
theorem dX0_shelf_2 : decode cX0_shelf 2 = .ok (.aload_n 0, 1) := dk_42 (dk_at dksX0_shelf_0 2 rfl rfl)
theorem dX0_shelf_3 : decode cX0_shelf 3 = .ok (.iload_n 1, 1) := dk_27 (dk_at dksX0_shelf_0 3 rfl rfl)
theorem dX0_shelf_4 : decode cX0_shelf 4 = .ok (.iload_n 2, 1) := dk_28 (dk_at dksX0_shelf_0 4 rfl rfl)
theorem dX0_shelf_5 : decode cX0_shelf 5 = .ok (.invokevirtual 42, 3) := dk_182 0 42 (dk_at dksX0_shelf_0 5 rfl rfl)
theorem dX0_shelf_8 : decode cX0_shelf 8 = .ok (.i2l, 1) := dk_133 (dk_at dksX0_shelf_0 8 rfl rfl)
theorem dX0_shelf_9 : decode cX0_shelf 9 = .ok (.lastore, 1) := dk_80 (dk_at dksX0_shelf_0 9 rfl rfl)
theorem dX0_shelf_10 : decode cX0_shelf 10 = .ok (.goto 7, 3) := dk_167 0 7 (dk_at dksX0_shelf_0 10 rfl rfl)
theorem dX0_shelf_13 : decode cX0_shelf 13 = .ok (.astore 4, 2) := dk_58 4 (dk_at dksX0_shelf_0 13 rfl rfl)
theorem dX0_shelf_15 : decode cX0_shelf 15 = .ok (.iconst 1, 1) := dk_4 (dk_at dksX0_shelf_0 15 rfl rfl)
theorem dX0_shelf_16 : decode cX0_shelf 16 = .ok (.ireturn, 1) := dk_172 (dk_at dksX0_shelf_0 16 rfl rfl)
theorem dX0_shelf_17 : decode cX0_shelf 17 = .ok (.iconst 0, 1) := dk_3 (dk_at dksX0_shelf_0 17 rfl rfl)
theorem dX0_shelf_18 : decode cX0_shelf 18 = .ok (.ireturn, 1) := dk_172 (dk_at dksX0_shelf_0 18 rfl rfl)
abbrev cX0_way : ByteArray := method_13_code
def yX0_way : MethodName := ⟨RX0, "way", "(LSchemeLister;II[J)I"⟩
def dkwX0_way_0 : List UInt8 := [45, 3, 42, 27, 28, 182, 0, 45, 133, 80, 167, 0, 7, 58, 4, 4, 172, 3, 172]
abbrev dktX0_way_0 : List UInt8 := dkwX0_way_0 ++ []
theorem dksX0_way_0 : cX0_way.data.toList.drop 0 = dktX0_way_0 := by decide +kernel
theorem dX0_way_0 : decode cX0_way 0 = .ok (.aload_n 3, 1) := dk_45 (dk_at dksX0_way_0 0 rfl rfl)
theorem dX0_way_1 : decode cX0_way 1 = .ok (.iconst 0, 1) := dk_3 (dk_at dksX0_way_0 1 rfl rfl)
theorem dX0_way_2 : decode cX0_way 2 = .ok (.aload_n 0, 1) := dk_42 (dk_at dksX0_way_0 2 rfl rfl)
theorem dX0_way_3 : decode cX0_way 3 = .ok (.iload_n 1, 1) := dk_27 (dk_at dksX0_way_0 3 rfl rfl)
theorem dX0_way_4 : decode cX0_way 4 = .ok (.iload_n 2, 1) := dk_28 (dk_at dksX0_way_0 4 rfl rfl)
theorem dX0_way_5 : decode cX0_way 5 = .ok (.invokevirtual 45, 3) := dk_182 0 45 (dk_at dksX0_way_0 5 rfl rfl)
theorem dX0_way_8 : decode cX0_way 8 = .ok (.i2l, 1) := dk_133 (dk_at dksX0_way_0 8 rfl rfl)
theorem dX0_way_9 : decode cX0_way 9 = .ok (.lastore, 1) := dk_80 (dk_at dksX0_way_0 9 rfl rfl)
theorem dX0_way_10 : decode cX0_way 10 = .ok (.goto 7, 3) := dk_167 0 7 (dk_at dksX0_way_0 10 rfl rfl)
theorem dX0_way_13 : decode cX0_way 13 = .ok (.astore 4, 2) := dk_58 4 (dk_at dksX0_way_0 13 rfl rfl)
theorem dX0_way_15 : decode cX0_way 15 = .ok (.iconst 1, 1) := dk_4 (dk_at dksX0_way_0 15 rfl rfl)
theorem dX0_way_16 : decode cX0_way 16 = .ok (.ireturn, 1) := dk_172 (dk_at dksX0_way_0 16 rfl rfl)
theorem dX0_way_17 : decode cX0_way 17 = .ok (.iconst 0, 1) := dk_3 (dk_at dksX0_way_0 17 rfl rfl)
theorem dX0_way_18 : decode cX0_way 18 = .ok (.ireturn, 1) := dk_172 (dk_at dksX0_way_0 18 rfl rfl)
abbrev cX0_list : ByteArray := method_14_code
def yX0_list : MethodName := ⟨RX0, "list", "(LSchemeLister;IIII[J)I"⟩
def dkwX0_list_1 : List UInt8 := [172, 3, 172]
abbrev dktX0_list_1 : List UInt8 := dkwX0_list_1 ++ []
def dkwX0_list_0 : List UInt8 := [25, 5, 3, 42, 27, 28, 29, 21, 4, 182, 0, 48, 133, 80, 167, 0, 11, 58, 6, 4, 172, 58, 6, 5]
abbrev dktX0_list_0 : List UInt8 := dkwX0_list_0 ++ dktX0_list_1
theorem dksX0_list_0 : cX0_list.data.toList.drop 0 = dktX0_list_0 := by decide +kernel
theorem dksX0_list_1 : cX0_list.data.toList.drop 24 = dktX0_list_1 := dk_seg dksX0_list_0 24 rfl rfl
theorem dX0_list_0 : decode cX0_list 0 = .ok (.aload 5, 2) := dk_25 5 (dk_at dksX0_list_0 0 rfl rfl)
theorem dX0_list_2 : decode cX0_list 2 = .ok (.iconst 0, 1) := dk_3 (dk_at dksX0_list_0 2 rfl rfl)
theorem dX0_list_3 : decode cX0_list 3 = .ok (.aload_n 0, 1) := dk_42 (dk_at dksX0_list_0 3 rfl rfl)
theorem dX0_list_4 : decode cX0_list 4 = .ok (.iload_n 1, 1) := dk_27 (dk_at dksX0_list_0 4 rfl rfl)
theorem dX0_list_5 : decode cX0_list 5 = .ok (.iload_n 2, 1) := dk_28 (dk_at dksX0_list_0 5 rfl rfl)
theorem dX0_list_6 : decode cX0_list 6 = .ok (.iload_n 3, 1) := dk_29 (dk_at dksX0_list_0 6 rfl rfl)
theorem dX0_list_7 : decode cX0_list 7 = .ok (.iload 4, 2) := dk_21 4 (dk_at dksX0_list_0 7 rfl rfl)
theorem dX0_list_9 : decode cX0_list 9 = .ok (.invokevirtual 48, 3) := dk_182 0 48 (dk_at dksX0_list_0 9 rfl rfl)
theorem dX0_list_12 : decode cX0_list 12 = .ok (.i2l, 1) := dk_133 (dk_at dksX0_list_0 12 rfl rfl)
theorem dX0_list_13 : decode cX0_list 13 = .ok (.lastore, 1) := dk_80 (dk_at dksX0_list_0 13 rfl rfl)
theorem dX0_list_14 : decode cX0_list 14 = .ok (.goto 11, 3) := dk_167 0 11 (dk_at dksX0_list_0 14 rfl rfl)
theorem dX0_list_17 : decode cX0_list 17 = .ok (.astore 6, 2) := dk_58 6 (dk_at dksX0_list_0 17 rfl rfl)
theorem dX0_list_19 : decode cX0_list 19 = .ok (.iconst 1, 1) := dk_4 (dk_at dksX0_list_0 19 rfl rfl)
theorem dX0_list_20 : decode cX0_list 20 = .ok (.ireturn, 1) := dk_172 (dk_at dksX0_list_0 20 rfl rfl)
theorem dX0_list_21 : decode cX0_list 21 = .ok (.astore 6, 2) := dk_58 6 (dk_at dksX0_list_0 21 rfl rfl)
theorem dX0_list_23 : decode cX0_list 23 = .ok (.iconst 2, 1) := dk_5 (dk_at dksX0_list_0 23 rfl rfl)
theorem dX0_list_24 : decode cX0_list 24 = .ok (.ireturn, 1) := dk_172 (dk_at dksX0_list_1 0 rfl rfl)
theorem dX0_list_25 : decode cX0_list 25 = .ok (.iconst 0, 1) := dk_3 (dk_at dksX0_list_1 1 rfl rfl)
theorem dX0_list_26 : decode cX0_list 26 = .ok (.ireturn, 1) := dk_172 (dk_at dksX0_list_1 2 rfl rfl)
abbrev cX0_square : ByteArray := method_15_code
def yX0_square : MethodName := ⟨RX0, "square", "(LSchemeLister;II[J)I"⟩
def dkwX0_square_0 : List UInt8 := [45, 3, 42, 27, 28, 182, 0, 52, 133, 80, 167, 0, 11, 58, 4, 4, 172, 58, 4, 5, 172, 3, 172]
abbrev dktX0_square_0 : List UInt8 := dkwX0_square_0 ++ []
theorem dksX0_square_0 : cX0_square.data.toList.drop 0 = dktX0_square_0 := by decide +kernel
theorem dX0_square_0 : decode cX0_square 0 = .ok (.aload_n 3, 1) := dk_45 (dk_at dksX0_square_0 0 rfl rfl)
theorem dX0_square_1 : decode cX0_square 1 = .ok (.iconst 0, 1) := dk_3 (dk_at dksX0_square_0 1 rfl rfl)
theorem dX0_square_2 : decode cX0_square 2 = .ok (.aload_n 0, 1) := dk_42 (dk_at dksX0_square_0 2 rfl rfl)
theorem dX0_square_3 : decode cX0_square 3 = .ok (.iload_n 1, 1) := dk_27 (dk_at dksX0_square_0 3 rfl rfl)
theorem dX0_square_4 : decode cX0_square 4 = .ok (.iload_n 2, 1) := dk_28 (dk_at dksX0_square_0 4 rfl rfl)
theorem dX0_square_5 : decode cX0_square 5 = .ok (.invokevirtual 52, 3) := dk_182 0 52 (dk_at dksX0_square_0 5 rfl rfl)
theorem dX0_square_8 : decode cX0_square 8 = .ok (.i2l, 1) := dk_133 (dk_at dksX0_square_0 8 rfl rfl)
theorem dX0_square_9 : decode cX0_square 9 = .ok (.lastore, 1) := dk_80 (dk_at dksX0_square_0 9 rfl rfl)
theorem dX0_square_10 : decode cX0_square 10 = .ok (.goto 11, 3) := dk_167 0 11 (dk_at dksX0_square_0 10 rfl rfl)
theorem dX0_square_13 : decode cX0_square 13 = .ok (.astore 4, 2) := dk_58 4 (dk_at dksX0_square_0 13 rfl rfl)
theorem dX0_square_15 : decode cX0_square 15 = .ok (.iconst 1, 1) := dk_4 (dk_at dksX0_square_0 15 rfl rfl)
theorem dX0_square_16 : decode cX0_square 16 = .ok (.ireturn, 1) := dk_172 (dk_at dksX0_square_0 16 rfl rfl)
theorem dX0_square_17 : decode cX0_square 17 = .ok (.astore 4, 2) := dk_58 4 (dk_at dksX0_square_0 17 rfl rfl)
theorem dX0_square_19 : decode cX0_square 19 = .ok (.iconst 2, 1) := dk_5 (dk_at dksX0_square_0 19 rfl rfl)
theorem dX0_square_20 : decode cX0_square 20 = .ok (.ireturn, 1) := dk_172 (dk_at dksX0_square_0 20 rfl rfl)
theorem dX0_square_21 : decode cX0_square 21 = .ok (.iconst 0, 1) := dk_3 (dk_at dksX0_square_0 21 rfl rfl)
theorem dX0_square_22 : decode cX0_square 22 = .ok (.ireturn, 1) := dk_172 (dk_at dksX0_square_0 22 rfl rfl)
abbrev cX0_plane : ByteArray := method_16_code
def yX0_plane : MethodName := ⟨RX0, "plane", "(LSchemeLister;II[J)I"⟩
def dkwX0_plane_0 : List UInt8 := [45, 3, 42, 27, 28, 182, 0, 55, 133, 80, 167, 0, 11, 58, 4, 4, 172, 58, 4, 5, 172, 3, 172]
abbrev dktX0_plane_0 : List UInt8 := dkwX0_plane_0 ++ []
theorem dksX0_plane_0 : cX0_plane.data.toList.drop 0 = dktX0_plane_0 := by decide +kernel
theorem dX0_plane_0 : decode cX0_plane 0 = .ok (.aload_n 3, 1) := dk_45 (dk_at dksX0_plane_0 0 rfl rfl)
theorem dX0_plane_1 : decode cX0_plane 1 = .ok (.iconst 0, 1) := dk_3 (dk_at dksX0_plane_0 1 rfl rfl)
theorem dX0_plane_2 : decode cX0_plane 2 = .ok (.aload_n 0, 1) := dk_42 (dk_at dksX0_plane_0 2 rfl rfl)
theorem dX0_plane_3 : decode cX0_plane 3 = .ok (.iload_n 1, 1) := dk_27 (dk_at dksX0_plane_0 3 rfl rfl)
theorem dX0_plane_4 : decode cX0_plane 4 = .ok (.iload_n 2, 1) := dk_28 (dk_at dksX0_plane_0 4 rfl rfl)
theorem dX0_plane_5 : decode cX0_plane 5 = .ok (.invokevirtual 55, 3) := dk_182 0 55 (dk_at dksX0_plane_0 5 rfl rfl)
theorem dX0_plane_8 : decode cX0_plane 8 = .ok (.i2l, 1) := dk_133 (dk_at dksX0_plane_0 8 rfl rfl)
theorem dX0_plane_9 : decode cX0_plane 9 = .ok (.lastore, 1) := dk_80 (dk_at dksX0_plane_0 9 rfl rfl)
theorem dX0_plane_10 : decode cX0_plane 10 = .ok (.goto 11, 3) := dk_167 0 11 (dk_at dksX0_plane_0 10 rfl rfl)
theorem dX0_plane_13 : decode cX0_plane 13 = .ok (.astore 4, 2) := dk_58 4 (dk_at dksX0_plane_0 13 rfl rfl)
theorem dX0_plane_15 : decode cX0_plane 15 = .ok (.iconst 1, 1) := dk_4 (dk_at dksX0_plane_0 15 rfl rfl)
theorem dX0_plane_16 : decode cX0_plane 16 = .ok (.ireturn, 1) := dk_172 (dk_at dksX0_plane_0 16 rfl rfl)
theorem dX0_plane_17 : decode cX0_plane 17 = .ok (.astore 4, 2) := dk_58 4 (dk_at dksX0_plane_0 17 rfl rfl)
theorem dX0_plane_19 : decode cX0_plane 19 = .ok (.iconst 2, 1) := dk_5 (dk_at dksX0_plane_0 19 rfl rfl)
theorem dX0_plane_20 : decode cX0_plane 20 = .ok (.ireturn, 1) := dk_172 (dk_at dksX0_plane_0 20 rfl rfl)
theorem dX0_plane_21 : decode cX0_plane 21 = .ok (.iconst 0, 1) := dk_3 (dk_at dksX0_plane_0 21 rfl rfl)
theorem dX0_plane_22 : decode cX0_plane 22 = .ok (.ireturn, 1) := dk_172 (dk_at dksX0_plane_0 22 rfl rfl)
abbrev cX0_set : ByteArray := method_17_code
def yX0_set : MethodName := ⟨RX0, "set", "(LSchemeLister;I[J)I"⟩
def dkwX0_set_0 : List UInt8 := [44, 3, 42, 27, 182, 0, 58, 133, 80, 167, 0, 6, 78, 4, 172, 3, 172]
abbrev dktX0_set_0 : List UInt8 := dkwX0_set_0 ++ []
theorem dksX0_set_0 : cX0_set.data.toList.drop 0 = dktX0_set_0 := by decide +kernel
theorem dX0_set_0 : decode cX0_set 0 = .ok (.aload_n 2, 1) := dk_44 (dk_at dksX0_set_0 0 rfl rfl)
theorem dX0_set_1 : decode cX0_set 1 = .ok (.iconst 0, 1) := dk_3 (dk_at dksX0_set_0 1 rfl rfl)
theorem dX0_set_2 : decode cX0_set 2 = .ok (.aload_n 0, 1) := dk_42 (dk_at dksX0_set_0 2 rfl rfl)
theorem dX0_set_3 : decode cX0_set 3 = .ok (.iload_n 1, 1) := dk_27 (dk_at dksX0_set_0 3 rfl rfl)
theorem dX0_set_4 : decode cX0_set 4 = .ok (.invokevirtual 58, 3) := dk_182 0 58 (dk_at dksX0_set_0 4 rfl rfl)
theorem dX0_set_7 : decode cX0_set 7 = .ok (.i2l, 1) := dk_133 (dk_at dksX0_set_0 7 rfl rfl)
theorem dX0_set_8 : decode cX0_set 8 = .ok (.lastore, 1) := dk_80 (dk_at dksX0_set_0 8 rfl rfl)
theorem dX0_set_9 : decode cX0_set 9 = .ok (.goto 6, 3) := dk_167 0 6 (dk_at dksX0_set_0 9 rfl rfl)
theorem dX0_set_12 : decode cX0_set 12 = .ok (.astore_n 3, 1) := dk_78 (dk_at dksX0_set_0 12 rfl rfl)
theorem dX0_set_13 : decode cX0_set 13 = .ok (.iconst 1, 1) := dk_4 (dk_at dksX0_set_0 13 rfl rfl)
theorem dX0_set_14 : decode cX0_set 14 = .ok (.ireturn, 1) := dk_172 (dk_at dksX0_set_0 14 rfl rfl)
theorem dX0_set_15 : decode cX0_set 15 = .ok (.iconst 0, 1) := dk_3 (dk_at dksX0_set_0 15 rfl rfl)
theorem dX0_set_16 : decode cX0_set 16 = .ok (.ireturn, 1) := dk_172 (dk_at dksX0_set_0 16 rfl rfl)
abbrev cX0_far : ByteArray := method_18_code
def yX0_far : MethodName := ⟨RX0, "far", "(LSchemeLister;II[J)I"⟩
def dkwX0_far_0 : List UInt8 := [45, 3, 42, 27, 28, 182, 0, 61, 133, 80, 167, 0, 7, 58, 4, 4, 172, 3, 172]
abbrev dktX0_far_0 : List UInt8 := dkwX0_far_0 ++ []
theorem dksX0_far_0 : cX0_far.data.toList.drop 0 = dktX0_far_0 := by decide +kernel
theorem dX0_far_0 : decode cX0_far 0 = .ok (.aload_n 3, 1) := dk_45 (dk_at dksX0_far_0 0 rfl rfl)
theorem dX0_far_1 : decode cX0_far 1 = .ok (.iconst 0, 1) := dk_3 (dk_at dksX0_far_0 1 rfl rfl)
theorem dX0_far_2 : decode cX0_far 2 = .ok (.aload_n 0, 1) := dk_42 (dk_at dksX0_far_0 2 rfl rfl)
theorem dX0_far_3 : decode cX0_far 3 = .ok (.iload_n 1, 1) := dk_27 (dk_at dksX0_far_0 3 rfl rfl)
theorem dX0_far_4 : decode cX0_far 4 = .ok (.iload_n 2, 1) := dk_28 (dk_at dksX0_far_0 4 rfl rfl)
theorem dX0_far_5 : decode cX0_far 5 = .ok (.invokevirtual 61, 3) := dk_182 0 61 (dk_at dksX0_far_0 5 rfl rfl)
theorem dX0_far_8 : decode cX0_far 8 = .ok (.i2l, 1) := dk_133 (dk_at dksX0_far_0 8 rfl rfl)
theorem dX0_far_9 : decode cX0_far 9 = .ok (.lastore, 1) := dk_80 (dk_at dksX0_far_0 9 rfl rfl)
theorem dX0_far_10 : decode cX0_far 10 = .ok (.goto 7, 3) := dk_167 0 7 (dk_at dksX0_far_0 10 rfl rfl)
theorem dX0_far_13 : decode cX0_far 13 = .ok (.astore 4, 2) := dk_58 4 (dk_at dksX0_far_0 13 rfl rfl)
theorem dX0_far_15 : decode cX0_far 15 = .ok (.iconst 1, 1) := dk_4 (dk_at dksX0_far_0 15 rfl rfl)
theorem dX0_far_16 : decode cX0_far 16 = .ok (.ireturn, 1) := dk_172 (dk_at dksX0_far_0 16 rfl rfl)
theorem dX0_far_17 : decode cX0_far 17 = .ok (.iconst 0, 1) := dk_3 (dk_at dksX0_far_0 17 rfl rfl)
theorem dX0_far_18 : decode cX0_far 18 = .ok (.ireturn, 1) := dk_172 (dk_at dksX0_far_0 18 rfl rfl)
abbrev cX0_game : ByteArray := method_19_code
def yX0_game : MethodName := ⟨RX0, "game", "(LSchemeLister;I[J)I"⟩
def dkwX0_game_0 : List UInt8 := [44, 3, 42, 27, 182, 0, 64, 133, 80, 167, 0, 6, 78, 4, 172, 3, 172]
abbrev dktX0_game_0 : List UInt8 := dkwX0_game_0 ++ []
theorem dksX0_game_0 : cX0_game.data.toList.drop 0 = dktX0_game_0 := by decide +kernel
theorem dX0_game_0 : decode cX0_game 0 = .ok (.aload_n 2, 1) := dk_44 (dk_at dksX0_game_0 0 rfl rfl)
theorem dX0_game_1 : decode cX0_game 1 = .ok (.iconst 0, 1) := dk_3 (dk_at dksX0_game_0 1 rfl rfl)
theorem dX0_game_2 : decode cX0_game 2 = .ok (.aload_n 0, 1) := dk_42 (dk_at dksX0_game_0 2 rfl rfl)
theorem dX0_game_3 : decode cX0_game 3 = .ok (.iload_n 1, 1) := dk_27 (dk_at dksX0_game_0 3 rfl rfl)
theorem dX0_game_4 : decode cX0_game 4 = .ok (.invokevirtual 64, 3) := dk_182 0 64 (dk_at dksX0_game_0 4 rfl rfl)
theorem dX0_game_7 : decode cX0_game 7 = .ok (.i2l, 1) := dk_133 (dk_at dksX0_game_0 7 rfl rfl)
theorem dX0_game_8 : decode cX0_game 8 = .ok (.lastore, 1) := dk_80 (dk_at dksX0_game_0 8 rfl rfl)
theorem dX0_game_9 : decode cX0_game 9 = .ok (.goto 6, 3) := dk_167 0 6 (dk_at dksX0_game_0 9 rfl rfl)
theorem dX0_game_12 : decode cX0_game 12 = .ok (.astore_n 3, 1) := dk_78 (dk_at dksX0_game_0 12 rfl rfl)
theorem dX0_game_13 : decode cX0_game 13 = .ok (.iconst 1, 1) := dk_4 (dk_at dksX0_game_0 13 rfl rfl)
theorem dX0_game_14 : decode cX0_game 14 = .ok (.ireturn, 1) := dk_172 (dk_at dksX0_game_0 14 rfl rfl)
theorem dX0_game_15 : decode cX0_game 15 = .ok (.iconst 0, 1) := dk_3 (dk_at dksX0_game_0 15 rfl rfl)
theorem dX0_game_16 : decode cX0_game 16 = .ok (.ireturn, 1) := dk_172 (dk_at dksX0_game_0 16 rfl rfl)
abbrev cX0_years : ByteArray := method_20_code
def yX0_years : MethodName := ⟨RX0, "years", "(LSchemeLister;III[J)I"⟩
def dkwX0_years_1 : List UInt8 := [172]
abbrev dktX0_years_1 : List UInt8 := dkwX0_years_1 ++ []
def dkwX0_years_0 : List UInt8 := [25, 4, 3, 42, 27, 28, 29, 182, 0, 67, 133, 80, 167, 0, 11, 58, 5, 4, 172, 58, 5, 5, 172, 3]
abbrev dktX0_years_0 : List UInt8 := dkwX0_years_0 ++ dktX0_years_1
theorem dksX0_years_0 : cX0_years.data.toList.drop 0 = dktX0_years_0 := by decide +kernel
theorem dksX0_years_1 : cX0_years.data.toList.drop 24 = dktX0_years_1 := dk_seg dksX0_years_0 24 rfl rfl
theorem dX0_years_0 : decode cX0_years 0 = .ok (.aload 4, 2) := dk_25 4 (dk_at dksX0_years_0 0 rfl rfl)
theorem dX0_years_2 : decode cX0_years 2 = .ok (.iconst 0, 1) := dk_3 (dk_at dksX0_years_0 2 rfl rfl)
theorem dX0_years_3 : decode cX0_years 3 = .ok (.aload_n 0, 1) := dk_42 (dk_at dksX0_years_0 3 rfl rfl)
theorem dX0_years_4 : decode cX0_years 4 = .ok (.iload_n 1, 1) := dk_27 (dk_at dksX0_years_0 4 rfl rfl)
theorem dX0_years_5 : decode cX0_years 5 = .ok (.iload_n 2, 1) := dk_28 (dk_at dksX0_years_0 5 rfl rfl)
theorem dX0_years_6 : decode cX0_years 6 = .ok (.iload_n 3, 1) := dk_29 (dk_at dksX0_years_0 6 rfl rfl)
theorem dX0_years_7 : decode cX0_years 7 = .ok (.invokevirtual 67, 3) := dk_182 0 67 (dk_at dksX0_years_0 7 rfl rfl)
theorem dX0_years_10 : decode cX0_years 10 = .ok (.i2l, 1) := dk_133 (dk_at dksX0_years_0 10 rfl rfl)
theorem dX0_years_11 : decode cX0_years 11 = .ok (.lastore, 1) := dk_80 (dk_at dksX0_years_0 11 rfl rfl)
theorem dX0_years_12 : decode cX0_years 12 = .ok (.goto 11, 3) := dk_167 0 11 (dk_at dksX0_years_0 12 rfl rfl)
theorem dX0_years_15 : decode cX0_years 15 = .ok (.astore 5, 2) := dk_58 5 (dk_at dksX0_years_0 15 rfl rfl)
theorem dX0_years_17 : decode cX0_years 17 = .ok (.iconst 1, 1) := dk_4 (dk_at dksX0_years_0 17 rfl rfl)
theorem dX0_years_18 : decode cX0_years 18 = .ok (.ireturn, 1) := dk_172 (dk_at dksX0_years_0 18 rfl rfl)
theorem dX0_years_19 : decode cX0_years 19 = .ok (.astore 5, 2) := dk_58 5 (dk_at dksX0_years_0 19 rfl rfl)
theorem dX0_years_21 : decode cX0_years 21 = .ok (.iconst 2, 1) := dk_5 (dk_at dksX0_years_0 21 rfl rfl)
theorem dX0_years_22 : decode cX0_years 22 = .ok (.ireturn, 1) := dk_172 (dk_at dksX0_years_0 22 rfl rfl)
theorem dX0_years_23 : decode cX0_years 23 = .ok (.iconst 0, 1) := dk_3 (dk_at dksX0_years_0 23 rfl rfl)
theorem dX0_years_24 : decode cX0_years 24 = .ok (.ireturn, 1) := dk_172 (dk_at dksX0_years_1 0 rfl rfl)
theorem q150 : (Jvm.Cond.initialized "SchemeListerLaw") ∈ lw_all := lw_g (lw_at lw_m1 0 rfl) rfl
theorem q184 : (Jvm.Cond.classLink "SchemeListerLaw" (8 : Nat) "SchemeLister") ∈ lw_all := lw_g (lw_at lw_m1 34 rfl) rfl
theorem q186 : (Jvm.Cond.methodLink "SchemeListerLaw" (71 : Nat) ({ cls := "SchemeLister", name := "<init>", desc := "()V" } : Jvm.MethodName)) ∈ lw_all := lw_g (lw_at lw_m1 36 rfl) rfl
theorem q662 : (Jvm.Cond.methodLink "SchemeListerLaw" (75 : Nat) ({ cls := "SchemeLister", name := "feed", desc := "(IIIII)I" } : Jvm.MethodName)) ∈ lw_all := lw_g (lw_at lw_m3 32 rfl) rfl
theorem q670 : (Jvm.Cond.methodLink "SchemeListerLaw" (90 : Nat) ({ cls := "SchemeLister", name := "fault", desc := "()I" } : Jvm.MethodName)) ∈ lw_all := lw_g (lw_at lw_m3 40 rfl) rfl
theorem q674 : (Jvm.Cond.methodLink "SchemeListerLaw" (125 : Nat) ({ cls := "SchemeLister", name := "add", desc := "(I)I" } : Jvm.MethodName)) ∈ lw_all := lw_g (lw_at lw_m3 44 rfl) rfl
theorem q800 : (Jvm.Cond.methodLink "SchemeListerLaw" (129 : Nat) ({ cls := "SchemeLister", name := "drop", desc := "(I)I" } : Jvm.MethodName)) ∈ lw_all := lw_g (lw_at lw_m3 170 rfl) rfl
theorem q808 : (Jvm.Cond.methodLink "SchemeListerLaw" (133 : Nat) ({ cls := "SchemeLister", name := "swap", desc := "(II)Z" } : Jvm.MethodName)) ∈ lw_all := lw_g (lw_at lw_m3 178 rfl) rfl
theorem q826 : (Jvm.Cond.methodLink "SchemeListerLaw" (138 : Nat) ({ cls := "SchemeLister", name := "turn", desc := "()I" } : Jvm.MethodName)) ∈ lw_all := lw_g (lw_at lw_m3 196 rfl) rfl
theorem q861 : (Jvm.Cond.methodLink "SchemeListerLaw" (142 : Nat) ({ cls := "SchemeLister", name := "grow", desc := "(Z)I" } : Jvm.MethodName)) ∈ lw_all := lw_g (lw_at lw_m3 231 rfl) rfl
theorem q874 : (Jvm.Cond.methodLink "SchemeListerLaw" (147 : Nat) ({ cls := "SchemeLister", name := "place", desc := "(III)Z" } : Jvm.MethodName)) ∈ lw_all := lw_g (lw_at lw_m4 4 rfl) rfl
theorem q888 : (Jvm.Cond.methodLink "SchemeListerLaw" (152 : Nat) ({ cls := "SchemeLister", name := "put", desc := "(I)I" } : Jvm.MethodName)) ∈ lw_all := lw_g (lw_at lw_m4 18 rfl) rfl
theorem q899 : (Jvm.Cond.methodLink "SchemeListerLaw" (156 : Nat) ({ cls := "SchemeLister", name := "take", desc := "(I)I" } : Jvm.MethodName)) ∈ lw_all := lw_g (lw_at lw_m4 29 rfl) rfl
theorem q903 : (Jvm.Cond.methodLink "SchemeListerLaw" (160 : Nat) ({ cls := "SchemeLister", name := "undo", desc := "()I" } : Jvm.MethodName)) ∈ lw_all := lw_g (lw_at lw_m4 33 rfl) rfl
theorem q915 : (Jvm.Cond.methodLink "SchemeListerLaw" (187 : Nat) ({ cls := "SchemeLister", name := "image", desc := "()V" } : Jvm.MethodName)) ∈ lw_all := lw_g (lw_at lw_m4 45 rfl) rfl
theorem q935 : (Jvm.Cond.methodLink "SchemeListerLaw" (191 : Nat) ({ cls := "SchemeLister", name := "restore", desc := "()Z" } : Jvm.MethodName)) ∈ lw_all := lw_g (lw_at lw_m4 65 rfl) rfl
theorem q939 : (Jvm.Cond.methodLink "SchemeListerLaw" (80 : Nat) ({ cls := "SchemeListerLaw", name := "scheme", desc := "(LSchemeLister;I[J)I" } : Jvm.MethodName)) ∈ lw_all := lw_g (lw_at lw_m4 69 rfl) rfl
theorem q940 : (Jvm.Cond.static ({ cls := "SchemeListerLaw", name := "scheme", desc := "(LSchemeLister;I[J)I" } : Jvm.MethodName)) ∈ lw_all := lw_g (lw_at lw_m4 70 rfl) rfl
theorem q941 : (Jvm.Cond.codeWith ({ cls := "SchemeListerLaw", name := "scheme", desc := "(LSchemeLister;I[J)I" } : Jvm.MethodName) method_3_code (4 : Nat) (Option.some Jvm.ClassFile.FieldType.int) [((0 : Nat), (9 : Nat), (12 : Nat), (13 : Nat))]) ∈ lw_all := lw_g (lw_at lw_m4 71 rfl) rfl
theorem q942 : (Jvm.Cond.classLink "SchemeListerLaw" (13 : Nat) "java/lang/IllegalArgumentException") ∈ lw_all := lw_g (lw_at lw_m4 72 rfl) rfl
theorem q943 : (Jvm.Cond.methodLink "SchemeListerLaw" (7 : Nat) ({ cls := "SchemeLister", name := "scheme", desc := "(I)I" } : Jvm.MethodName)) ∈ lw_all := lw_g (lw_at lw_m4 73 rfl) rfl
theorem q1174 : (Jvm.Cond.methodLink "SchemeListerLaw" (94 : Nat) ({ cls := "SchemeListerLaw", name := "count", desc := "(LSchemeLister;I[J)I" } : Jvm.MethodName)) ∈ lw_all := lw_g (lw_at lw_m5 64 rfl) rfl
theorem q1175 : (Jvm.Cond.static ({ cls := "SchemeListerLaw", name := "count", desc := "(LSchemeLister;I[J)I" } : Jvm.MethodName)) ∈ lw_all := lw_g (lw_at lw_m5 65 rfl) rfl
theorem q1176 : (Jvm.Cond.codeWith ({ cls := "SchemeListerLaw", name := "count", desc := "(LSchemeLister;I[J)I" } : Jvm.MethodName) method_4_code (4 : Nat) (Option.some Jvm.ClassFile.FieldType.int) [((0 : Nat), (9 : Nat), (12 : Nat), (18 : Nat))]) ∈ lw_all := lw_g (lw_at lw_m5 66 rfl) rfl
theorem q1177 : (Jvm.Cond.classLink "SchemeListerLaw" (18 : Nat) "java/util/NoSuchElementException") ∈ lw_all := lw_g (lw_at lw_m5 67 rfl) rfl
theorem q1178 : (Jvm.Cond.methodLink "SchemeListerLaw" (15 : Nat) ({ cls := "SchemeLister", name := "count", desc := "(I)I" } : Jvm.MethodName)) ∈ lw_all := lw_g (lw_at lw_m5 68 rfl) rfl
theorem q1398 : (Jvm.Cond.methodLink "SchemeListerLaw" (97 : Nat) ({ cls := "SchemeListerLaw", name := "line", desc := "(LSchemeLister;I[J)I" } : Jvm.MethodName)) ∈ lw_all := lw_g (lw_at lw_m6 48 rfl) rfl
theorem q1399 : (Jvm.Cond.static ({ cls := "SchemeListerLaw", name := "line", desc := "(LSchemeLister;I[J)I" } : Jvm.MethodName)) ∈ lw_all := lw_g (lw_at lw_m6 49 rfl) rfl
theorem q1400 : (Jvm.Cond.codeWith ({ cls := "SchemeListerLaw", name := "line", desc := "(LSchemeLister;I[J)I" } : Jvm.MethodName) method_5_code (4 : Nat) (Option.some Jvm.ClassFile.FieldType.int) [((0 : Nat), (9 : Nat), (12 : Nat), (18 : Nat))]) ∈ lw_all := lw_g (lw_at lw_m6 50 rfl) rfl
theorem q1401 : (Jvm.Cond.methodLink "SchemeListerLaw" (20 : Nat) ({ cls := "SchemeLister", name := "line", desc := "(I)I" } : Jvm.MethodName)) ∈ lw_all := lw_g (lw_at lw_m6 51 rfl) rfl
theorem q1405 : (Jvm.Cond.methodLink "SchemeListerLaw" (100 : Nat) ({ cls := "SchemeListerLaw", name := "point", desc := "(LSchemeLister;II[J)I" } : Jvm.MethodName)) ∈ lw_all := lw_g (lw_at lw_m6 55 rfl) rfl
theorem q1406 : (Jvm.Cond.static ({ cls := "SchemeListerLaw", name := "point", desc := "(LSchemeLister;II[J)I" } : Jvm.MethodName)) ∈ lw_all := lw_g (lw_at lw_m6 56 rfl) rfl
theorem q1407 : (Jvm.Cond.codeWith ({ cls := "SchemeListerLaw", name := "point", desc := "(LSchemeLister;II[J)I" } : Jvm.MethodName) method_6_code (5 : Nat) (Option.some Jvm.ClassFile.FieldType.int) [((0 : Nat), (10 : Nat), (13 : Nat), (18 : Nat))]) ∈ lw_all := lw_g (lw_at lw_m6 57 rfl) rfl
theorem q1408 : (Jvm.Cond.methodLink "SchemeListerLaw" (23 : Nat) ({ cls := "SchemeLister", name := "point", desc := "(II)I" } : Jvm.MethodName)) ∈ lw_all := lw_g (lw_at lw_m6 58 rfl) rfl
theorem q1412 : (Jvm.Cond.methodLink "SchemeListerLaw" (104 : Nat) ({ cls := "SchemeListerLaw", name := "joined", desc := "(LSchemeLister;II[J)I" } : Jvm.MethodName)) ∈ lw_all := lw_g (lw_at lw_m6 62 rfl) rfl
theorem q1413 : (Jvm.Cond.static ({ cls := "SchemeListerLaw", name := "joined", desc := "(LSchemeLister;II[J)I" } : Jvm.MethodName)) ∈ lw_all := lw_g (lw_at lw_m6 63 rfl) rfl
theorem q1414 : (Jvm.Cond.codeWith ({ cls := "SchemeListerLaw", name := "joined", desc := "(LSchemeLister;II[J)I" } : Jvm.MethodName) method_7_code (5 : Nat) (Option.some Jvm.ClassFile.FieldType.int) [((0 : Nat), (10 : Nat), (13 : Nat), (18 : Nat)), ((0 : Nat), (10 : Nat), (17 : Nat), (13 : Nat))]) ∈ lw_all := lw_g (lw_at lw_m6 64 rfl) rfl
theorem q1415 : (Jvm.Cond.methodLink "SchemeListerLaw" (27 : Nat) ({ cls := "SchemeLister", name := "joined", desc := "(II)I" } : Jvm.MethodName)) ∈ lw_all := lw_g (lw_at lw_m6 65 rfl) rfl
theorem q1419 : (Jvm.Cond.methodLink "SchemeListerLaw" (107 : Nat) ({ cls := "SchemeListerLaw", name := "meet", desc := "(LSchemeLister;II[J)I" } : Jvm.MethodName)) ∈ lw_all := lw_g (lw_at lw_m6 69 rfl) rfl
theorem q1420 : (Jvm.Cond.static ({ cls := "SchemeListerLaw", name := "meet", desc := "(LSchemeLister;II[J)I" } : Jvm.MethodName)) ∈ lw_all := lw_g (lw_at lw_m6 70 rfl) rfl
theorem q1421 : (Jvm.Cond.codeWith ({ cls := "SchemeListerLaw", name := "meet", desc := "(LSchemeLister;II[J)I" } : Jvm.MethodName) method_8_code (5 : Nat) (Option.some Jvm.ClassFile.FieldType.int) [((0 : Nat), (10 : Nat), (13 : Nat), (18 : Nat)), ((0 : Nat), (10 : Nat), (17 : Nat), (13 : Nat))]) ∈ lw_all := lw_g (lw_at lw_m6 71 rfl) rfl
theorem q1422 : (Jvm.Cond.methodLink "SchemeListerLaw" (30 : Nat) ({ cls := "SchemeLister", name := "meet", desc := "(II)I" } : Jvm.MethodName)) ∈ lw_all := lw_g (lw_at lw_m6 72 rfl) rfl
theorem q1426 : (Jvm.Cond.methodLink "SchemeListerLaw" (110 : Nat) ({ cls := "SchemeListerLaw", name := "symmetry", desc := "(LSchemeLister;II[J)I" } : Jvm.MethodName)) ∈ lw_all := lw_g (lw_at lw_m6 76 rfl) rfl
theorem q1427 : (Jvm.Cond.static ({ cls := "SchemeListerLaw", name := "symmetry", desc := "(LSchemeLister;II[J)I" } : Jvm.MethodName)) ∈ lw_all := lw_g (lw_at lw_m6 77 rfl) rfl
theorem q1428 : (Jvm.Cond.codeWith ({ cls := "SchemeListerLaw", name := "symmetry", desc := "(LSchemeLister;II[J)I" } : Jvm.MethodName) method_9_code (5 : Nat) (Option.some Jvm.ClassFile.FieldType.int) [((0 : Nat), (10 : Nat), (13 : Nat), (18 : Nat))]) ∈ lw_all := lw_g (lw_at lw_m6 78 rfl) rfl
theorem q1429 : (Jvm.Cond.methodLink "SchemeListerLaw" (33 : Nat) ({ cls := "SchemeLister", name := "symmetry", desc := "(II)I" } : Jvm.MethodName)) ∈ lw_all := lw_g (lw_at lw_m6 79 rfl) rfl
theorem q1433 : (Jvm.Cond.methodLink "SchemeListerLaw" (113 : Nat) ({ cls := "SchemeListerLaw", name := "normal", desc := "(LSchemeLister;I[J)I" } : Jvm.MethodName)) ∈ lw_all := lw_g (lw_at lw_m6 83 rfl) rfl
theorem q1434 : (Jvm.Cond.static ({ cls := "SchemeListerLaw", name := "normal", desc := "(LSchemeLister;I[J)I" } : Jvm.MethodName)) ∈ lw_all := lw_g (lw_at lw_m6 84 rfl) rfl
theorem q1435 : (Jvm.Cond.codeWith ({ cls := "SchemeListerLaw", name := "normal", desc := "(LSchemeLister;I[J)I" } : Jvm.MethodName) method_10_code (4 : Nat) (Option.some Jvm.ClassFile.FieldType.int) [((0 : Nat), (9 : Nat), (12 : Nat), (18 : Nat))]) ∈ lw_all := lw_g (lw_at lw_m6 85 rfl) rfl
theorem q1436 : (Jvm.Cond.methodLink "SchemeListerLaw" (36 : Nat) ({ cls := "SchemeLister", name := "normal", desc := "(I)I" } : Jvm.MethodName)) ∈ lw_all := lw_g (lw_at lw_m6 86 rfl) rfl
theorem q1487 : (Jvm.Cond.methodLink "SchemeListerLaw" (116 : Nat) ({ cls := "SchemeListerLaw", name := "dual", desc := "(LSchemeLister;I[J)I" } : Jvm.MethodName)) ∈ lw_all := lw_g (lw_at lw_m6 137 rfl) rfl
theorem q1488 : (Jvm.Cond.static ({ cls := "SchemeListerLaw", name := "dual", desc := "(LSchemeLister;I[J)I" } : Jvm.MethodName)) ∈ lw_all := lw_g (lw_at lw_m6 138 rfl) rfl
theorem q1489 : (Jvm.Cond.codeWith ({ cls := "SchemeListerLaw", name := "dual", desc := "(LSchemeLister;I[J)I" } : Jvm.MethodName) method_11_code (4 : Nat) (Option.some Jvm.ClassFile.FieldType.int) [((0 : Nat), (9 : Nat), (12 : Nat), (18 : Nat))]) ∈ lw_all := lw_g (lw_at lw_m6 139 rfl) rfl
theorem q1490 : (Jvm.Cond.methodLink "SchemeListerLaw" (39 : Nat) ({ cls := "SchemeLister", name := "dual", desc := "(I)I" } : Jvm.MethodName)) ∈ lw_all := lw_g (lw_at lw_m6 140 rfl) rfl
theorem q1494 : (Jvm.Cond.methodLink "SchemeListerLaw" (119 : Nat) ({ cls := "SchemeListerLaw", name := "shelf", desc := "(LSchemeLister;II[J)I" } : Jvm.MethodName)) ∈ lw_all := lw_g (lw_at lw_m6 144 rfl) rfl
theorem q1495 : (Jvm.Cond.static ({ cls := "SchemeListerLaw", name := "shelf", desc := "(LSchemeLister;II[J)I" } : Jvm.MethodName)) ∈ lw_all := lw_g (lw_at lw_m6 145 rfl) rfl
theorem q1496 : (Jvm.Cond.codeWith ({ cls := "SchemeListerLaw", name := "shelf", desc := "(LSchemeLister;II[J)I" } : Jvm.MethodName) method_12_code (5 : Nat) (Option.some Jvm.ClassFile.FieldType.int) [((0 : Nat), (10 : Nat), (13 : Nat), (18 : Nat))]) ∈ lw_all := lw_g (lw_at lw_m6 146 rfl) rfl
theorem q1497 : (Jvm.Cond.methodLink "SchemeListerLaw" (42 : Nat) ({ cls := "SchemeLister", name := "shelf", desc := "(II)I" } : Jvm.MethodName)) ∈ lw_all := lw_g (lw_at lw_m6 147 rfl) rfl
theorem q1510 : (Jvm.Cond.methodLink "SchemeListerLaw" (122 : Nat) ({ cls := "SchemeListerLaw", name := "way", desc := "(LSchemeLister;II[J)I" } : Jvm.MethodName)) ∈ lw_all := lw_g (lw_at lw_m6 160 rfl) rfl
theorem q1511 : (Jvm.Cond.static ({ cls := "SchemeListerLaw", name := "way", desc := "(LSchemeLister;II[J)I" } : Jvm.MethodName)) ∈ lw_all := lw_g (lw_at lw_m6 161 rfl) rfl
theorem q1512 : (Jvm.Cond.codeWith ({ cls := "SchemeListerLaw", name := "way", desc := "(LSchemeLister;II[J)I" } : Jvm.MethodName) method_13_code (5 : Nat) (Option.some Jvm.ClassFile.FieldType.int) [((0 : Nat), (10 : Nat), (13 : Nat), (18 : Nat))]) ∈ lw_all := lw_g (lw_at lw_m6 162 rfl) rfl
theorem q1513 : (Jvm.Cond.methodLink "SchemeListerLaw" (45 : Nat) ({ cls := "SchemeLister", name := "way", desc := "(II)I" } : Jvm.MethodName)) ∈ lw_all := lw_g (lw_at lw_m6 163 rfl) rfl
theorem q1517 : (Jvm.Cond.methodLink "SchemeListerLaw" (164 : Nat) ({ cls := "SchemeListerLaw", name := "list", desc := "(LSchemeLister;IIII[J)I" } : Jvm.MethodName)) ∈ lw_all := lw_g (lw_at lw_m6 167 rfl) rfl
theorem q1518 : (Jvm.Cond.static ({ cls := "SchemeListerLaw", name := "list", desc := "(LSchemeLister;IIII[J)I" } : Jvm.MethodName)) ∈ lw_all := lw_g (lw_at lw_m6 168 rfl) rfl
theorem q1519 : (Jvm.Cond.codeWith ({ cls := "SchemeListerLaw", name := "list", desc := "(LSchemeLister;IIII[J)I" } : Jvm.MethodName) method_14_code (7 : Nat) (Option.some Jvm.ClassFile.FieldType.int) [((0 : Nat), (14 : Nat), (17 : Nat), (13 : Nat)), ((0 : Nat), (14 : Nat), (21 : Nat), (18 : Nat))]) ∈ lw_all := lw_g (lw_at lw_m6 169 rfl) rfl
theorem q1520 : (Jvm.Cond.methodLink "SchemeListerLaw" (48 : Nat) ({ cls := "SchemeLister", name := "list", desc := "(IIII)I" } : Jvm.MethodName)) ∈ lw_all := lw_g (lw_at lw_m6 170 rfl) rfl
theorem q1535 : (Jvm.Cond.methodLink "SchemeListerLaw" (168 : Nat) ({ cls := "SchemeListerLaw", name := "square", desc := "(LSchemeLister;II[J)I" } : Jvm.MethodName)) ∈ lw_all := lw_g (lw_at lw_m6 185 rfl) rfl
theorem q1536 : (Jvm.Cond.static ({ cls := "SchemeListerLaw", name := "square", desc := "(LSchemeLister;II[J)I" } : Jvm.MethodName)) ∈ lw_all := lw_g (lw_at lw_m6 186 rfl) rfl
theorem q1537 : (Jvm.Cond.codeWith ({ cls := "SchemeListerLaw", name := "square", desc := "(LSchemeLister;II[J)I" } : Jvm.MethodName) method_15_code (5 : Nat) (Option.some Jvm.ClassFile.FieldType.int) [((0 : Nat), (10 : Nat), (13 : Nat), (18 : Nat)), ((0 : Nat), (10 : Nat), (17 : Nat), (13 : Nat))]) ∈ lw_all := lw_g (lw_at lw_m6 187 rfl) rfl
theorem q1538 : (Jvm.Cond.methodLink "SchemeListerLaw" (52 : Nat) ({ cls := "SchemeLister", name := "square", desc := "(II)I" } : Jvm.MethodName)) ∈ lw_all := lw_g (lw_at lw_m6 188 rfl) rfl
theorem q1559 : (Jvm.Cond.methodLink "SchemeListerLaw" (171 : Nat) ({ cls := "SchemeListerLaw", name := "plane", desc := "(LSchemeLister;II[J)I" } : Jvm.MethodName)) ∈ lw_all := lw_g (lw_at lw_m6 209 rfl) rfl
theorem q1560 : (Jvm.Cond.static ({ cls := "SchemeListerLaw", name := "plane", desc := "(LSchemeLister;II[J)I" } : Jvm.MethodName)) ∈ lw_all := lw_g (lw_at lw_m6 210 rfl) rfl
theorem q1561 : (Jvm.Cond.codeWith ({ cls := "SchemeListerLaw", name := "plane", desc := "(LSchemeLister;II[J)I" } : Jvm.MethodName) method_16_code (5 : Nat) (Option.some Jvm.ClassFile.FieldType.int) [((0 : Nat), (10 : Nat), (13 : Nat), (18 : Nat)), ((0 : Nat), (10 : Nat), (17 : Nat), (13 : Nat))]) ∈ lw_all := lw_g (lw_at lw_m6 211 rfl) rfl
theorem q1562 : (Jvm.Cond.methodLink "SchemeListerLaw" (55 : Nat) ({ cls := "SchemeLister", name := "plane", desc := "(II)I" } : Jvm.MethodName)) ∈ lw_all := lw_g (lw_at lw_m6 212 rfl) rfl
theorem q1577 : (Jvm.Cond.methodLink "SchemeListerLaw" (174 : Nat) ({ cls := "SchemeListerLaw", name := "set", desc := "(LSchemeLister;I[J)I" } : Jvm.MethodName)) ∈ lw_all := lw_g (lw_at lw_m6 227 rfl) rfl
theorem q1578 : (Jvm.Cond.static ({ cls := "SchemeListerLaw", name := "set", desc := "(LSchemeLister;I[J)I" } : Jvm.MethodName)) ∈ lw_all := lw_g (lw_at lw_m6 228 rfl) rfl
theorem q1579 : (Jvm.Cond.codeWith ({ cls := "SchemeListerLaw", name := "set", desc := "(LSchemeLister;I[J)I" } : Jvm.MethodName) method_17_code (4 : Nat) (Option.some Jvm.ClassFile.FieldType.int) [((0 : Nat), (9 : Nat), (12 : Nat), (18 : Nat))]) ∈ lw_all := lw_g (lw_at lw_m6 229 rfl) rfl
theorem q1580 : (Jvm.Cond.methodLink "SchemeListerLaw" (58 : Nat) ({ cls := "SchemeLister", name := "set", desc := "(I)I" } : Jvm.MethodName)) ∈ lw_all := lw_g (lw_at lw_m6 230 rfl) rfl
theorem q1612 : (Jvm.Cond.methodLink "SchemeListerLaw" (177 : Nat) ({ cls := "SchemeListerLaw", name := "far", desc := "(LSchemeLister;II[J)I" } : Jvm.MethodName)) ∈ lw_all := lw_g (lw_at lw_m7 22 rfl) rfl
theorem q1613 : (Jvm.Cond.static ({ cls := "SchemeListerLaw", name := "far", desc := "(LSchemeLister;II[J)I" } : Jvm.MethodName)) ∈ lw_all := lw_g (lw_at lw_m7 23 rfl) rfl
theorem q1614 : (Jvm.Cond.codeWith ({ cls := "SchemeListerLaw", name := "far", desc := "(LSchemeLister;II[J)I" } : Jvm.MethodName) method_18_code (5 : Nat) (Option.some Jvm.ClassFile.FieldType.int) [((0 : Nat), (10 : Nat), (13 : Nat), (18 : Nat))]) ∈ lw_all := lw_g (lw_at lw_m7 24 rfl) rfl
theorem q1615 : (Jvm.Cond.methodLink "SchemeListerLaw" (61 : Nat) ({ cls := "SchemeLister", name := "far", desc := "(II)I" } : Jvm.MethodName)) ∈ lw_all := lw_g (lw_at lw_m7 25 rfl) rfl
theorem q1619 : (Jvm.Cond.methodLink "SchemeListerLaw" (180 : Nat) ({ cls := "SchemeListerLaw", name := "game", desc := "(LSchemeLister;I[J)I" } : Jvm.MethodName)) ∈ lw_all := lw_g (lw_at lw_m7 29 rfl) rfl
theorem q1620 : (Jvm.Cond.static ({ cls := "SchemeListerLaw", name := "game", desc := "(LSchemeLister;I[J)I" } : Jvm.MethodName)) ∈ lw_all := lw_g (lw_at lw_m7 30 rfl) rfl
theorem q1621 : (Jvm.Cond.codeWith ({ cls := "SchemeListerLaw", name := "game", desc := "(LSchemeLister;I[J)I" } : Jvm.MethodName) method_19_code (4 : Nat) (Option.some Jvm.ClassFile.FieldType.int) [((0 : Nat), (9 : Nat), (12 : Nat), (18 : Nat))]) ∈ lw_all := lw_g (lw_at lw_m7 31 rfl) rfl
theorem q1622 : (Jvm.Cond.methodLink "SchemeListerLaw" (64 : Nat) ({ cls := "SchemeLister", name := "game", desc := "(I)I" } : Jvm.MethodName)) ∈ lw_all := lw_g (lw_at lw_m7 32 rfl) rfl
theorem q1635 : (Jvm.Cond.methodLink "SchemeListerLaw" (183 : Nat) ({ cls := "SchemeListerLaw", name := "years", desc := "(LSchemeLister;III[J)I" } : Jvm.MethodName)) ∈ lw_all := lw_g (lw_at lw_m7 45 rfl) rfl
theorem q1636 : (Jvm.Cond.static ({ cls := "SchemeListerLaw", name := "years", desc := "(LSchemeLister;III[J)I" } : Jvm.MethodName)) ∈ lw_all := lw_g (lw_at lw_m7 46 rfl) rfl
theorem q1637 : (Jvm.Cond.codeWith ({ cls := "SchemeListerLaw", name := "years", desc := "(LSchemeLister;III[J)I" } : Jvm.MethodName) method_20_code (6 : Nat) (Option.some Jvm.ClassFile.FieldType.int) [((0 : Nat), (12 : Nat), (15 : Nat), (18 : Nat)), ((0 : Nat), (12 : Nat), (19 : Nat), (13 : Nat))]) ∈ lw_all := lw_g (lw_at lw_m7 47 rfl) rfl
theorem q1638 : (Jvm.Cond.methodLink "SchemeListerLaw" (67 : Nat) ({ cls := "SchemeLister", name := "years", desc := "(III)I" } : Jvm.MethodName)) ∈ lw_all := lw_g (lw_at lw_m7 48 rfl) rfl
theorem q1651 : (Jvm.Cond.classLink "SchemeListerLaw" (72 : Nat) "SchemeListerModel") ∈ lw_all := lw_g (lw_at lw_m7 61 rfl) rfl
theorem q1653 : (Jvm.Cond.methodLink "SchemeListerLaw" (74 : Nat) ({ cls := "SchemeListerModel", name := "<init>", desc := "()V" } : Jvm.MethodName)) ∈ lw_all := lw_g (lw_at lw_m7 63 rfl) rfl
theorem q1815 : (Jvm.Cond.methodLink "SchemeListerLaw" (86 : Nat) ({ cls := "SchemeListerModel", name := "thrown", desc := "()I" } : Jvm.MethodName)) ∈ lw_all := lw_g (lw_at lw_m7 225 rfl) rfl
theorem q1819 : (Jvm.Cond.methodLink "SchemeListerLaw" (79 : Nat) ({ cls := "SchemeListerModel", name := "feed", desc := "(IIIII)I" } : Jvm.MethodName)) ∈ lw_all := lw_g (lw_at lw_m7 229 rfl) rfl
theorem q1823 : (Jvm.Cond.methodLink "SchemeListerLaw" (85 : Nat) ({ cls := "SchemeListerModel", name := "scheme", desc := "(I)I" } : Jvm.MethodName)) ∈ lw_all := lw_g (lw_at lw_m7 233 rfl) rfl
theorem q1905 : (Jvm.Cond.methodLink "SchemeListerLaw" (93 : Nat) ({ cls := "SchemeListerModel", name := "fault", desc := "()I" } : Jvm.MethodName)) ∈ lw_all := lw_g (lw_at lw_m8 75 rfl) rfl
theorem q1909 : (Jvm.Cond.methodLink "SchemeListerLaw" (96 : Nat) ({ cls := "SchemeListerModel", name := "count", desc := "(I)I" } : Jvm.MethodName)) ∈ lw_all := lw_g (lw_at lw_m8 79 rfl) rfl
theorem q2053 : (Jvm.Cond.methodLink "SchemeListerLaw" (99 : Nat) ({ cls := "SchemeListerModel", name := "line", desc := "(I)I" } : Jvm.MethodName)) ∈ lw_all := lw_g (lw_at lw_m8 223 rfl) rfl
theorem q2064 : (Jvm.Cond.methodLink "SchemeListerLaw" (103 : Nat) ({ cls := "SchemeListerModel", name := "point", desc := "(II)I" } : Jvm.MethodName)) ∈ lw_all := lw_g (lw_at lw_m8 234 rfl) rfl
theorem q2072 : (Jvm.Cond.methodLink "SchemeListerLaw" (106 : Nat) ({ cls := "SchemeListerModel", name := "joined", desc := "(II)I" } : Jvm.MethodName)) ∈ lw_all := lw_g (lw_at lw_m9 2 rfl) rfl
theorem q2076 : (Jvm.Cond.methodLink "SchemeListerLaw" (109 : Nat) ({ cls := "SchemeListerModel", name := "meet", desc := "(II)I" } : Jvm.MethodName)) ∈ lw_all := lw_g (lw_at lw_m9 6 rfl) rfl
theorem q2080 : (Jvm.Cond.methodLink "SchemeListerLaw" (112 : Nat) ({ cls := "SchemeListerModel", name := "symmetry", desc := "(II)I" } : Jvm.MethodName)) ∈ lw_all := lw_g (lw_at lw_m9 10 rfl) rfl
theorem q2084 : (Jvm.Cond.methodLink "SchemeListerLaw" (115 : Nat) ({ cls := "SchemeListerModel", name := "normal", desc := "(I)I" } : Jvm.MethodName)) ∈ lw_all := lw_g (lw_at lw_m9 14 rfl) rfl
theorem q2099 : (Jvm.Cond.methodLink "SchemeListerLaw" (118 : Nat) ({ cls := "SchemeListerModel", name := "dual", desc := "(I)I" } : Jvm.MethodName)) ∈ lw_all := lw_g (lw_at lw_m9 29 rfl) rfl
theorem q2107 : (Jvm.Cond.methodLink "SchemeListerLaw" (121 : Nat) ({ cls := "SchemeListerModel", name := "shelf", desc := "(II)I" } : Jvm.MethodName)) ∈ lw_all := lw_g (lw_at lw_m9 37 rfl) rfl
theorem q2134 : (Jvm.Cond.methodLink "SchemeListerLaw" (124 : Nat) ({ cls := "SchemeListerModel", name := "way", desc := "(II)I" } : Jvm.MethodName)) ∈ lw_all := lw_g (lw_at lw_m9 64 rfl) rfl
theorem q2138 : (Jvm.Cond.methodLink "SchemeListerLaw" (128 : Nat) ({ cls := "SchemeListerModel", name := "add", desc := "(I)I" } : Jvm.MethodName)) ∈ lw_all := lw_g (lw_at lw_m9 68 rfl) rfl
theorem q2158 : (Jvm.Cond.methodLink "SchemeListerLaw" (132 : Nat) ({ cls := "SchemeListerModel", name := "drop", desc := "(I)I" } : Jvm.MethodName)) ∈ lw_all := lw_g (lw_at lw_m9 88 rfl) rfl
theorem q2166 : (Jvm.Cond.methodLink "SchemeListerLaw" (137 : Nat) ({ cls := "SchemeListerModel", name := "swap", desc := "(II)Z" } : Jvm.MethodName)) ∈ lw_all := lw_g (lw_at lw_m9 96 rfl) rfl
theorem q2178 : (Jvm.Cond.methodLink "SchemeListerLaw" (141 : Nat) ({ cls := "SchemeListerModel", name := "turn", desc := "()I" } : Jvm.MethodName)) ∈ lw_all := lw_g (lw_at lw_m9 108 rfl) rfl
theorem q2182 : (Jvm.Cond.methodLink "SchemeListerLaw" (146 : Nat) ({ cls := "SchemeListerModel", name := "grow", desc := "(Z)I" } : Jvm.MethodName)) ∈ lw_all := lw_g (lw_at lw_m9 112 rfl) rfl
theorem q2186 : (Jvm.Cond.methodLink "SchemeListerLaw" (151 : Nat) ({ cls := "SchemeListerModel", name := "place", desc := "(III)Z" } : Jvm.MethodName)) ∈ lw_all := lw_g (lw_at lw_m9 116 rfl) rfl
theorem q2190 : (Jvm.Cond.methodLink "SchemeListerLaw" (155 : Nat) ({ cls := "SchemeListerModel", name := "put", desc := "(I)I" } : Jvm.MethodName)) ∈ lw_all := lw_g (lw_at lw_m9 120 rfl) rfl
theorem q2194 : (Jvm.Cond.methodLink "SchemeListerLaw" (159 : Nat) ({ cls := "SchemeListerModel", name := "take", desc := "(I)I" } : Jvm.MethodName)) ∈ lw_all := lw_g (lw_at lw_m9 124 rfl) rfl
theorem q2198 : (Jvm.Cond.methodLink "SchemeListerLaw" (163 : Nat) ({ cls := "SchemeListerModel", name := "undo", desc := "()I" } : Jvm.MethodName)) ∈ lw_all := lw_g (lw_at lw_m9 128 rfl) rfl
theorem q2202 : (Jvm.Cond.methodLink "SchemeListerLaw" (167 : Nat) ({ cls := "SchemeListerModel", name := "list", desc := "(IIII)I" } : Jvm.MethodName)) ∈ lw_all := lw_g (lw_at lw_m9 132 rfl) rfl
theorem q2214 : (Jvm.Cond.methodLink "SchemeListerLaw" (170 : Nat) ({ cls := "SchemeListerModel", name := "square", desc := "(II)I" } : Jvm.MethodName)) ∈ lw_all := lw_g (lw_at lw_m9 144 rfl) rfl
theorem q2234 : (Jvm.Cond.methodLink "SchemeListerLaw" (173 : Nat) ({ cls := "SchemeListerModel", name := "plane", desc := "(II)I" } : Jvm.MethodName)) ∈ lw_all := lw_g (lw_at lw_m9 164 rfl) rfl
theorem q2238 : (Jvm.Cond.methodLink "SchemeListerLaw" (176 : Nat) ({ cls := "SchemeListerModel", name := "set", desc := "(I)I" } : Jvm.MethodName)) ∈ lw_all := lw_g (lw_at lw_m9 168 rfl) rfl
theorem q2266 : (Jvm.Cond.methodLink "SchemeListerLaw" (179 : Nat) ({ cls := "SchemeListerModel", name := "far", desc := "(II)I" } : Jvm.MethodName)) ∈ lw_all := lw_g (lw_at lw_m9 196 rfl) rfl
theorem q2270 : (Jvm.Cond.methodLink "SchemeListerLaw" (182 : Nat) ({ cls := "SchemeListerModel", name := "game", desc := "(I)I" } : Jvm.MethodName)) ∈ lw_all := lw_g (lw_at lw_m9 200 rfl) rfl
theorem q2287 : (Jvm.Cond.methodLink "SchemeListerLaw" (186 : Nat) ({ cls := "SchemeListerModel", name := "years", desc := "(III)I" } : Jvm.MethodName)) ∈ lw_all := lw_g (lw_at lw_m9 217 rfl) rfl
theorem q2299 : (Jvm.Cond.methodLink "SchemeListerLaw" (190 : Nat) ({ cls := "SchemeListerModel", name := "image", desc := "()V" } : Jvm.MethodName)) ∈ lw_all := lw_g (lw_at lw_m9 229 rfl) rfl
theorem q2303 : (Jvm.Cond.methodLink "SchemeListerLaw" (195 : Nat) ({ cls := "SchemeListerModel", name := "restore", desc := "()Z" } : Jvm.MethodName)) ∈ lw_all := lw_g (lw_at lw_m9 233 rfl) rfl

/-! SchemeLister$Scheme -/
set_option maxRecDepth 100000
def RX2 : String := "SchemeLister$Scheme"
def TX2 : u_T := fun k => match k with
  | 0 => ("SchemeLister$Scheme", "points", "I", false)
  | 1 => ("SchemeLister$Scheme", "lines", "I", false)
  | 2 => ("SchemeLister$Scheme", "line", "[I", true)
  | 3 => ("SchemeLister$Scheme", "x", "[I", true)
  | _ => ("SchemeLister$Scheme", "y", "[I", true)
def tyX2 : Nat → FieldType := fun k => match k with
  | 0 => .int
  | 1 => .int
  | 2 => .array .int
  | 3 => .array .int
  | _ => .array .int
abbrev wsX20 : List Cond := u_ws RX2 TX2 5
theorem nmX2 : ∀ a, a < 5 → ∀ b, b < 5 → a ≠ b → (TX2 a).2.1 ≠ (TX2 b).2.1 := by decide +kernel
theorem tyX2_ok : ∀ k, k < 5 → parseFieldDescriptor (TX2 k).2.2.1 = some (tyX2 k) := by decide +kernel
abbrev cX2_init : ByteArray := prog_9_method_1_code
def yX2_init : MethodName := ⟨RX2, "<init>", "()V"⟩
def dkwX2_init_1 : List UInt8 := [181, 0, 19, 42, 16, 8, 188, 10, 181, 0, 22, 177]
abbrev dktX2_init_1 : List UInt8 := dkwX2_init_1 ++ []
def dkwX2_init_0 : List UInt8 := [42, 183, 0, 3, 42, 16, 7, 181, 0, 9, 42, 16, 12, 188, 10, 181, 0, 15, 42, 16, 8, 188, 10]
abbrev dktX2_init_0 : List UInt8 := dkwX2_init_0 ++ dktX2_init_1
theorem dksX2_init_0 : cX2_init.data.toList.drop 0 = dktX2_init_0 := by decide +kernel
theorem dksX2_init_1 : cX2_init.data.toList.drop 23 = dktX2_init_1 := dk_seg dksX2_init_0 23 rfl rfl
theorem dX2_init_0 : decode cX2_init 0 = .ok (.aload_n 0, 1) := dk_42 (dk_at dksX2_init_0 0 rfl rfl)
theorem dX2_init_1 : decode cX2_init 1 = .ok (.invokespecial 3, 3) := dk_183 0 3 (dk_at dksX2_init_0 1 rfl rfl)
theorem dX2_init_4 : decode cX2_init 4 = .ok (.aload_n 0, 1) := dk_42 (dk_at dksX2_init_0 4 rfl rfl)
theorem dX2_init_5 : decode cX2_init 5 = .ok (.bipush 7, 2) := dk_16 7 (dk_at dksX2_init_0 5 rfl rfl)
theorem dX2_init_7 : decode cX2_init 7 = .ok (.putfield 9, 3) := dk_181 0 9 (dk_at dksX2_init_0 7 rfl rfl)
theorem dX2_init_10 : decode cX2_init 10 = .ok (.aload_n 0, 1) := dk_42 (dk_at dksX2_init_0 10 rfl rfl)
theorem dX2_init_11 : decode cX2_init 11 = .ok (.bipush 12, 2) := dk_16 12 (dk_at dksX2_init_0 11 rfl rfl)
theorem dX2_init_13 : decode cX2_init 13 = .ok (.newarray .int, 2) := dk_188_10 (dk_at dksX2_init_0 13 rfl rfl)
theorem dX2_init_15 : decode cX2_init 15 = .ok (.putfield 15, 3) := dk_181 0 15 (dk_at dksX2_init_0 15 rfl rfl)
theorem dX2_init_18 : decode cX2_init 18 = .ok (.aload_n 0, 1) := dk_42 (dk_at dksX2_init_0 18 rfl rfl)
theorem dX2_init_19 : decode cX2_init 19 = .ok (.bipush 8, 2) := dk_16 8 (dk_at dksX2_init_0 19 rfl rfl)
theorem dX2_init_21 : decode cX2_init 21 = .ok (.newarray .int, 2) := dk_188_10 (dk_at dksX2_init_0 21 rfl rfl)
theorem dX2_init_23 : decode cX2_init 23 = .ok (.putfield 19, 3) := dk_181 0 19 (dk_at dksX2_init_1 0 rfl rfl)
theorem dX2_init_26 : decode cX2_init 26 = .ok (.aload_n 0, 1) := dk_42 (dk_at dksX2_init_1 3 rfl rfl)
theorem dX2_init_27 : decode cX2_init 27 = .ok (.bipush 8, 2) := dk_16 8 (dk_at dksX2_init_1 4 rfl rfl)
theorem dX2_init_29 : decode cX2_init 29 = .ok (.newarray .int, 2) := dk_188_10 (dk_at dksX2_init_1 6 rfl rfl)
theorem dX2_init_31 : decode cX2_init 31 = .ok (.putfield 22, 3) := dk_181 0 22 (dk_at dksX2_init_1 8 rfl rfl)
theorem dX2_init_34 : decode cX2_init 34 = .ok (.return_, 1) := dk_177 (dk_at dksX2_init_1 11 rfl rfl)
abbrev cX2_canAdd : ByteArray := prog_9_method_9_code
def yX2_canAdd : MethodName := ⟨RX2, "canAdd", "(I)Z"⟩
def dkwX2_canAdd_2 : List UInt8 := [4, 167, 0, 4, 3, 172]
abbrev dktX2_canAdd_2 : List UInt8 := dkwX2_canAdd_2 ++ []
def dkwX2_canAdd_1 : List UInt8 := [184, 0, 43, 7, 163, 0, 24, 42, 180, 0, 25, 16, 12, 162, 0, 15, 42, 27, 182, 0, 49, 153, 0, 7]
abbrev dktX2_canAdd_1 : List UInt8 := dkwX2_canAdd_1 ++ dktX2_canAdd_2
def dkwX2_canAdd_0 : List UInt8 := [27, 155, 0, 50, 27, 4, 42, 180, 0, 9, 120, 162, 0, 40, 27, 184, 0, 43, 5, 161, 0, 32, 27]
abbrev dktX2_canAdd_0 : List UInt8 := dkwX2_canAdd_0 ++ dktX2_canAdd_1
theorem dksX2_canAdd_0 : cX2_canAdd.data.toList.drop 0 = dktX2_canAdd_0 := by decide +kernel
theorem dksX2_canAdd_1 : cX2_canAdd.data.toList.drop 23 = dktX2_canAdd_1 := dk_seg dksX2_canAdd_0 23 rfl rfl
theorem dksX2_canAdd_2 : cX2_canAdd.data.toList.drop 47 = dktX2_canAdd_2 := dk_seg dksX2_canAdd_1 24 rfl rfl
theorem dX2_canAdd_0 : decode cX2_canAdd 0 = .ok (.iload_n 1, 1) := dk_27 (dk_at dksX2_canAdd_0 0 rfl rfl)
theorem dX2_canAdd_1 : decode cX2_canAdd 1 = .ok (.ifCond .lt 50, 3) := dk_155 0 50 (dk_at dksX2_canAdd_0 1 rfl rfl)
theorem dX2_canAdd_4 : decode cX2_canAdd 4 = .ok (.iload_n 1, 1) := dk_27 (dk_at dksX2_canAdd_0 4 rfl rfl)
theorem dX2_canAdd_5 : decode cX2_canAdd 5 = .ok (.iconst 1, 1) := dk_4 (dk_at dksX2_canAdd_0 5 rfl rfl)
theorem dX2_canAdd_6 : decode cX2_canAdd 6 = .ok (.aload_n 0, 1) := dk_42 (dk_at dksX2_canAdd_0 6 rfl rfl)
theorem dX2_canAdd_7 : decode cX2_canAdd 7 = .ok (.getfield 9, 3) := dk_180 0 9 (dk_at dksX2_canAdd_0 7 rfl rfl)
theorem dX2_canAdd_10 : decode cX2_canAdd 10 = .ok (.ishl, 1) := dk_120 (dk_at dksX2_canAdd_0 10 rfl rfl)
theorem dX2_canAdd_11 : decode cX2_canAdd 11 = .ok (.if_icmp .ge 40, 3) := dk_162 0 40 (dk_at dksX2_canAdd_0 11 rfl rfl)
theorem dX2_canAdd_14 : decode cX2_canAdd 14 = .ok (.iload_n 1, 1) := dk_27 (dk_at dksX2_canAdd_0 14 rfl rfl)
theorem dX2_canAdd_15 : decode cX2_canAdd 15 = .ok (.invokestatic 43, 3) := dk_184 0 43 (dk_at dksX2_canAdd_0 15 rfl rfl)
theorem dX2_canAdd_18 : decode cX2_canAdd 18 = .ok (.iconst 2, 1) := dk_5 (dk_at dksX2_canAdd_0 18 rfl rfl)
theorem dX2_canAdd_19 : decode cX2_canAdd 19 = .ok (.if_icmp .lt 32, 3) := dk_161 0 32 (dk_at dksX2_canAdd_0 19 rfl rfl)
theorem dX2_canAdd_22 : decode cX2_canAdd 22 = .ok (.iload_n 1, 1) := dk_27 (dk_at dksX2_canAdd_0 22 rfl rfl)
theorem dX2_canAdd_23 : decode cX2_canAdd 23 = .ok (.invokestatic 43, 3) := dk_184 0 43 (dk_at dksX2_canAdd_1 0 rfl rfl)
theorem dX2_canAdd_26 : decode cX2_canAdd 26 = .ok (.iconst 4, 1) := dk_7 (dk_at dksX2_canAdd_1 3 rfl rfl)
theorem dX2_canAdd_27 : decode cX2_canAdd 27 = .ok (.if_icmp .gt 24, 3) := dk_163 0 24 (dk_at dksX2_canAdd_1 4 rfl rfl)
theorem dX2_canAdd_30 : decode cX2_canAdd 30 = .ok (.aload_n 0, 1) := dk_42 (dk_at dksX2_canAdd_1 7 rfl rfl)
theorem dX2_canAdd_31 : decode cX2_canAdd 31 = .ok (.getfield 25, 3) := dk_180 0 25 (dk_at dksX2_canAdd_1 8 rfl rfl)
theorem dX2_canAdd_34 : decode cX2_canAdd 34 = .ok (.bipush 12, 2) := dk_16 12 (dk_at dksX2_canAdd_1 11 rfl rfl)
theorem dX2_canAdd_36 : decode cX2_canAdd 36 = .ok (.if_icmp .ge 15, 3) := dk_162 0 15 (dk_at dksX2_canAdd_1 13 rfl rfl)
theorem dX2_canAdd_39 : decode cX2_canAdd 39 = .ok (.aload_n 0, 1) := dk_42 (dk_at dksX2_canAdd_1 16 rfl rfl)
theorem dX2_canAdd_40 : decode cX2_canAdd 40 = .ok (.iload_n 1, 1) := dk_27 (dk_at dksX2_canAdd_1 17 rfl rfl)
theorem dX2_canAdd_41 : decode cX2_canAdd 41 = .ok (.invokevirtual 49, 3) := dk_182 0 49 (dk_at dksX2_canAdd_1 18 rfl rfl)
theorem dX2_canAdd_44 : decode cX2_canAdd 44 = .ok (.ifCond .eq 7, 3) := dk_153 0 7 (dk_at dksX2_canAdd_1 21 rfl rfl)
theorem dX2_canAdd_47 : decode cX2_canAdd 47 = .ok (.iconst 1, 1) := dk_4 (dk_at dksX2_canAdd_2 0 rfl rfl)
theorem dX2_canAdd_48 : decode cX2_canAdd 48 = .ok (.goto 4, 3) := dk_167 0 4 (dk_at dksX2_canAdd_2 1 rfl rfl)
theorem dX2_canAdd_51 : decode cX2_canAdd 51 = .ok (.iconst 0, 1) := dk_3 (dk_at dksX2_canAdd_2 4 rfl rfl)
theorem dX2_canAdd_52 : decode cX2_canAdd 52 = .ok (.ireturn, 1) := dk_172 (dk_at dksX2_canAdd_2 5 rfl rfl)
abbrev cX2_isFree : ByteArray := prog_9_method_8_code
def yX2_isFree : MethodName := ⟨RX2, "isFree", "(I)Z"⟩
def dkwX2_isFree_1 : List UInt8 := [164, 0, 5, 3, 172, 132, 2, 1, 167, 255, 228, 4, 172]
abbrev dktX2_isFree_1 : List UInt8 := dkwX2_isFree_1 ++ []
def dkwX2_isFree_0 : List UInt8 := [3, 61, 28, 42, 180, 0, 25, 162, 0, 26, 42, 180, 0, 15, 28, 46, 27, 126, 184, 0, 43, 4]
abbrev dktX2_isFree_0 : List UInt8 := dkwX2_isFree_0 ++ dktX2_isFree_1
theorem dksX2_isFree_0 : cX2_isFree.data.toList.drop 0 = dktX2_isFree_0 := by decide +kernel
theorem dksX2_isFree_1 : cX2_isFree.data.toList.drop 22 = dktX2_isFree_1 := dk_seg dksX2_isFree_0 22 rfl rfl
theorem dX2_isFree_0 : decode cX2_isFree 0 = .ok (.iconst 0, 1) := dk_3 (dk_at dksX2_isFree_0 0 rfl rfl)
theorem dX2_isFree_1 : decode cX2_isFree 1 = .ok (.istore_n 2, 1) := dk_61 (dk_at dksX2_isFree_0 1 rfl rfl)
theorem dX2_isFree_2 : decode cX2_isFree 2 = .ok (.iload_n 2, 1) := dk_28 (dk_at dksX2_isFree_0 2 rfl rfl)
theorem dX2_isFree_3 : decode cX2_isFree 3 = .ok (.aload_n 0, 1) := dk_42 (dk_at dksX2_isFree_0 3 rfl rfl)
theorem dX2_isFree_4 : decode cX2_isFree 4 = .ok (.getfield 25, 3) := dk_180 0 25 (dk_at dksX2_isFree_0 4 rfl rfl)
theorem dX2_isFree_7 : decode cX2_isFree 7 = .ok (.if_icmp .ge 26, 3) := dk_162 0 26 (dk_at dksX2_isFree_0 7 rfl rfl)
theorem dX2_isFree_10 : decode cX2_isFree 10 = .ok (.aload_n 0, 1) := dk_42 (dk_at dksX2_isFree_0 10 rfl rfl)
theorem dX2_isFree_11 : decode cX2_isFree 11 = .ok (.getfield 15, 3) := dk_180 0 15 (dk_at dksX2_isFree_0 11 rfl rfl)
theorem dX2_isFree_14 : decode cX2_isFree 14 = .ok (.iload_n 2, 1) := dk_28 (dk_at dksX2_isFree_0 14 rfl rfl)
theorem dX2_isFree_15 : decode cX2_isFree 15 = .ok (.iaload, 1) := dk_46 (dk_at dksX2_isFree_0 15 rfl rfl)
theorem dX2_isFree_16 : decode cX2_isFree 16 = .ok (.iload_n 1, 1) := dk_27 (dk_at dksX2_isFree_0 16 rfl rfl)
theorem dX2_isFree_17 : decode cX2_isFree 17 = .ok (.iand, 1) := dk_126 (dk_at dksX2_isFree_0 17 rfl rfl)
theorem dX2_isFree_18 : decode cX2_isFree 18 = .ok (.invokestatic 43, 3) := dk_184 0 43 (dk_at dksX2_isFree_0 18 rfl rfl)
theorem dX2_isFree_21 : decode cX2_isFree 21 = .ok (.iconst 1, 1) := dk_4 (dk_at dksX2_isFree_0 21 rfl rfl)
theorem dX2_isFree_22 : decode cX2_isFree 22 = .ok (.if_icmp .le 5, 3) := dk_164 0 5 (dk_at dksX2_isFree_1 0 rfl rfl)
theorem dX2_isFree_25 : decode cX2_isFree 25 = .ok (.iconst 0, 1) := dk_3 (dk_at dksX2_isFree_1 3 rfl rfl)
theorem dX2_isFree_26 : decode cX2_isFree 26 = .ok (.ireturn, 1) := dk_172 (dk_at dksX2_isFree_1 4 rfl rfl)
theorem dX2_isFree_27 : decode cX2_isFree 27 = .ok (.iinc 2 1, 3) := dk_132 2 1 (dk_at dksX2_isFree_1 5 rfl rfl)
theorem dX2_isFree_30 : decode cX2_isFree 30 = .ok (.goto (-28), 3) := dk_167 255 228 (dk_at dksX2_isFree_1 8 rfl rfl)
theorem dX2_isFree_33 : decode cX2_isFree 33 = .ok (.iconst 1, 1) := dk_4 (dk_at dksX2_isFree_1 11 rfl rfl)
theorem dX2_isFree_34 : decode cX2_isFree 34 = .ok (.ireturn, 1) := dk_172 (dk_at dksX2_isFree_1 12 rfl rfl)
abbrev cX2_copy : ByteArray := prog_9_method_3_code
def yX2_copy : MethodName := ⟨RX2, "copy", "()LSchemeLister$Scheme;"⟩
def dkwX2_copy_0 : List UInt8 := [187, 0, 10, 89, 183, 0, 34, 76, 43, 42, 182, 0, 35, 43, 176]
abbrev dktX2_copy_0 : List UInt8 := dkwX2_copy_0 ++ []
theorem dksX2_copy_0 : cX2_copy.data.toList.drop 0 = dktX2_copy_0 := by decide +kernel
theorem dX2_copy_0 : decode cX2_copy 0 = .ok (.new 10, 3) := dk_187 0 10 (dk_at dksX2_copy_0 0 rfl rfl)
theorem dX2_copy_3 : decode cX2_copy 3 = .ok (.dup, 1) := dk_89 (dk_at dksX2_copy_0 3 rfl rfl)
theorem dX2_copy_4 : decode cX2_copy 4 = .ok (.invokespecial 34, 3) := dk_183 0 34 (dk_at dksX2_copy_0 4 rfl rfl)
theorem dX2_copy_7 : decode cX2_copy 7 = .ok (.astore_n 1, 1) := dk_76 (dk_at dksX2_copy_0 7 rfl rfl)
theorem dX2_copy_8 : decode cX2_copy 8 = .ok (.aload_n 1, 1) := dk_43 (dk_at dksX2_copy_0 8 rfl rfl)
theorem dX2_copy_9 : decode cX2_copy 9 = .ok (.aload_n 0, 1) := dk_42 (dk_at dksX2_copy_0 9 rfl rfl)
theorem dX2_copy_10 : decode cX2_copy 10 = .ok (.invokevirtual 35, 3) := dk_182 0 35 (dk_at dksX2_copy_0 10 rfl rfl)
theorem dX2_copy_13 : decode cX2_copy 13 = .ok (.aload_n 1, 1) := dk_43 (dk_at dksX2_copy_0 13 rfl rfl)
theorem dX2_copy_14 : decode cX2_copy 14 = .ok (.areturn, 1) := dk_176 (dk_at dksX2_copy_0 14 rfl rfl)
abbrev cX2_like : ByteArray := prog_9_method_2_code
def yX2_like : MethodName := ⟨RX2, "like", "(LSchemeLister$Scheme;)V"⟩
def dkwX2_like_2 : List UInt8 := [43, 180, 0, 22, 3, 42, 180, 0, 22, 3, 16, 8, 184, 0, 28, 177]
abbrev dktX2_like_2 : List UInt8 := dkwX2_like_2 ++ []
def dkwX2_like_1 : List UInt8 := [180, 0, 15, 3, 16, 12, 184, 0, 28, 43, 180, 0, 19, 3, 42, 180, 0, 19, 3, 16, 8, 184, 0, 28]
abbrev dktX2_like_1 : List UInt8 := dkwX2_like_1 ++ dktX2_like_2
def dkwX2_like_0 : List UInt8 := [42, 43, 180, 0, 9, 181, 0, 9, 42, 43, 180, 0, 25, 181, 0, 25, 43, 180, 0, 15, 3, 42]
abbrev dktX2_like_0 : List UInt8 := dkwX2_like_0 ++ dktX2_like_1
theorem dksX2_like_0 : cX2_like.data.toList.drop 0 = dktX2_like_0 := by decide +kernel
theorem dksX2_like_1 : cX2_like.data.toList.drop 22 = dktX2_like_1 := dk_seg dksX2_like_0 22 rfl rfl
theorem dksX2_like_2 : cX2_like.data.toList.drop 46 = dktX2_like_2 := dk_seg dksX2_like_1 24 rfl rfl
theorem dX2_like_0 : decode cX2_like 0 = .ok (.aload_n 0, 1) := dk_42 (dk_at dksX2_like_0 0 rfl rfl)
theorem dX2_like_1 : decode cX2_like 1 = .ok (.aload_n 1, 1) := dk_43 (dk_at dksX2_like_0 1 rfl rfl)
theorem dX2_like_2 : decode cX2_like 2 = .ok (.getfield 9, 3) := dk_180 0 9 (dk_at dksX2_like_0 2 rfl rfl)
theorem dX2_like_5 : decode cX2_like 5 = .ok (.putfield 9, 3) := dk_181 0 9 (dk_at dksX2_like_0 5 rfl rfl)
theorem dX2_like_8 : decode cX2_like 8 = .ok (.aload_n 0, 1) := dk_42 (dk_at dksX2_like_0 8 rfl rfl)
theorem dX2_like_9 : decode cX2_like 9 = .ok (.aload_n 1, 1) := dk_43 (dk_at dksX2_like_0 9 rfl rfl)
theorem dX2_like_10 : decode cX2_like 10 = .ok (.getfield 25, 3) := dk_180 0 25 (dk_at dksX2_like_0 10 rfl rfl)
theorem dX2_like_13 : decode cX2_like 13 = .ok (.putfield 25, 3) := dk_181 0 25 (dk_at dksX2_like_0 13 rfl rfl)
theorem dX2_like_16 : decode cX2_like 16 = .ok (.aload_n 1, 1) := dk_43 (dk_at dksX2_like_0 16 rfl rfl)
theorem dX2_like_17 : decode cX2_like 17 = .ok (.getfield 15, 3) := dk_180 0 15 (dk_at dksX2_like_0 17 rfl rfl)
theorem dX2_like_20 : decode cX2_like 20 = .ok (.iconst 0, 1) := dk_3 (dk_at dksX2_like_0 20 rfl rfl)
theorem dX2_like_21 : decode cX2_like 21 = .ok (.aload_n 0, 1) := dk_42 (dk_at dksX2_like_0 21 rfl rfl)
theorem dX2_like_22 : decode cX2_like 22 = .ok (.getfield 15, 3) := dk_180 0 15 (dk_at dksX2_like_1 0 rfl rfl)
theorem dX2_like_25 : decode cX2_like 25 = .ok (.iconst 0, 1) := dk_3 (dk_at dksX2_like_1 3 rfl rfl)
theorem dX2_like_26 : decode cX2_like 26 = .ok (.bipush 12, 2) := dk_16 12 (dk_at dksX2_like_1 4 rfl rfl)
theorem dX2_like_28 : decode cX2_like 28 = .ok (.invokestatic 28, 3) := dk_184 0 28 (dk_at dksX2_like_1 6 rfl rfl)
theorem dX2_like_31 : decode cX2_like 31 = .ok (.aload_n 1, 1) := dk_43 (dk_at dksX2_like_1 9 rfl rfl)
theorem dX2_like_32 : decode cX2_like 32 = .ok (.getfield 19, 3) := dk_180 0 19 (dk_at dksX2_like_1 10 rfl rfl)
theorem dX2_like_35 : decode cX2_like 35 = .ok (.iconst 0, 1) := dk_3 (dk_at dksX2_like_1 13 rfl rfl)
theorem dX2_like_36 : decode cX2_like 36 = .ok (.aload_n 0, 1) := dk_42 (dk_at dksX2_like_1 14 rfl rfl)
theorem dX2_like_37 : decode cX2_like 37 = .ok (.getfield 19, 3) := dk_180 0 19 (dk_at dksX2_like_1 15 rfl rfl)
theorem dX2_like_40 : decode cX2_like 40 = .ok (.iconst 0, 1) := dk_3 (dk_at dksX2_like_1 18 rfl rfl)
theorem dX2_like_41 : decode cX2_like 41 = .ok (.bipush 8, 2) := dk_16 8 (dk_at dksX2_like_1 19 rfl rfl)
theorem dX2_like_43 : decode cX2_like 43 = .ok (.invokestatic 28, 3) := dk_184 0 28 (dk_at dksX2_like_1 21 rfl rfl)
theorem dX2_like_46 : decode cX2_like 46 = .ok (.aload_n 1, 1) := dk_43 (dk_at dksX2_like_2 0 rfl rfl)
theorem dX2_like_47 : decode cX2_like 47 = .ok (.getfield 22, 3) := dk_180 0 22 (dk_at dksX2_like_2 1 rfl rfl)
theorem dX2_like_50 : decode cX2_like 50 = .ok (.iconst 0, 1) := dk_3 (dk_at dksX2_like_2 4 rfl rfl)
theorem dX2_like_51 : decode cX2_like 51 = .ok (.aload_n 0, 1) := dk_42 (dk_at dksX2_like_2 5 rfl rfl)
theorem dX2_like_52 : decode cX2_like 52 = .ok (.getfield 22, 3) := dk_180 0 22 (dk_at dksX2_like_2 6 rfl rfl)
theorem dX2_like_55 : decode cX2_like 55 = .ok (.iconst 0, 1) := dk_3 (dk_at dksX2_like_2 9 rfl rfl)
theorem dX2_like_56 : decode cX2_like 56 = .ok (.bipush 8, 2) := dk_16 8 (dk_at dksX2_like_2 10 rfl rfl)
theorem dX2_like_58 : decode cX2_like 58 = .ok (.invokestatic 28, 3) := dk_184 0 28 (dk_at dksX2_like_2 12 rfl rfl)
theorem dX2_like_61 : decode cX2_like 61 = .ok (.return_, 1) := dk_177 (dk_at dksX2_like_2 15 rfl rfl)
abbrev cX2_adds : ByteArray := prog_9_method_10_code
def yX2_adds : MethodName := ⟨RX2, "adds", "(I)V"⟩
def dkwX2_adds_0 : List UInt8 := [42, 180, 0, 15, 42, 180, 0, 25, 27, 79, 42, 89, 180, 0, 25, 4, 96, 181, 0, 25, 177]
abbrev dktX2_adds_0 : List UInt8 := dkwX2_adds_0 ++ []
theorem dksX2_adds_0 : cX2_adds.data.toList.drop 0 = dktX2_adds_0 := by decide +kernel
theorem dX2_adds_0 : decode cX2_adds 0 = .ok (.aload_n 0, 1) := dk_42 (dk_at dksX2_adds_0 0 rfl rfl)
theorem dX2_adds_1 : decode cX2_adds 1 = .ok (.getfield 15, 3) := dk_180 0 15 (dk_at dksX2_adds_0 1 rfl rfl)
theorem dX2_adds_4 : decode cX2_adds 4 = .ok (.aload_n 0, 1) := dk_42 (dk_at dksX2_adds_0 4 rfl rfl)
theorem dX2_adds_5 : decode cX2_adds 5 = .ok (.getfield 25, 3) := dk_180 0 25 (dk_at dksX2_adds_0 5 rfl rfl)
theorem dX2_adds_8 : decode cX2_adds 8 = .ok (.iload_n 1, 1) := dk_27 (dk_at dksX2_adds_0 8 rfl rfl)
theorem dX2_adds_9 : decode cX2_adds 9 = .ok (.iastore, 1) := dk_79 (dk_at dksX2_adds_0 9 rfl rfl)
theorem dX2_adds_10 : decode cX2_adds 10 = .ok (.aload_n 0, 1) := dk_42 (dk_at dksX2_adds_0 10 rfl rfl)
theorem dX2_adds_11 : decode cX2_adds 11 = .ok (.dup, 1) := dk_89 (dk_at dksX2_adds_0 11 rfl rfl)
theorem dX2_adds_12 : decode cX2_adds 12 = .ok (.getfield 25, 3) := dk_180 0 25 (dk_at dksX2_adds_0 12 rfl rfl)
theorem dX2_adds_15 : decode cX2_adds 15 = .ok (.iconst 1, 1) := dk_4 (dk_at dksX2_adds_0 15 rfl rfl)
theorem dX2_adds_16 : decode cX2_adds 16 = .ok (.iadd, 1) := dk_96 (dk_at dksX2_adds_0 16 rfl rfl)
theorem dX2_adds_17 : decode cX2_adds 17 = .ok (.putfield 25, 3) := dk_181 0 25 (dk_at dksX2_adds_0 17 rfl rfl)
theorem dX2_adds_20 : decode cX2_adds 20 = .ok (.return_, 1) := dk_177 (dk_at dksX2_adds_0 20 rfl rfl)
abbrev cX2_drops : ByteArray := prog_9_method_11_code
def yX2_drops : MethodName := ⟨RX2, "drops", "(I)V"⟩
def dkwX2_drops_1 : List UInt8 := [28, 42, 180, 0, 15, 28, 4, 96, 46, 79, 132, 2, 1, 167, 255, 231, 177]
abbrev dktX2_drops_1 : List UInt8 := dkwX2_drops_1 ++ []
def dkwX2_drops_0 : List UInt8 := [42, 89, 180, 0, 25, 4, 100, 181, 0, 25, 27, 61, 28, 42, 180, 0, 25, 162, 0, 23, 42, 180, 0, 15]
abbrev dktX2_drops_0 : List UInt8 := dkwX2_drops_0 ++ dktX2_drops_1
theorem dksX2_drops_0 : cX2_drops.data.toList.drop 0 = dktX2_drops_0 := by decide +kernel
theorem dksX2_drops_1 : cX2_drops.data.toList.drop 24 = dktX2_drops_1 := dk_seg dksX2_drops_0 24 rfl rfl
theorem dX2_drops_0 : decode cX2_drops 0 = .ok (.aload_n 0, 1) := dk_42 (dk_at dksX2_drops_0 0 rfl rfl)
theorem dX2_drops_1 : decode cX2_drops 1 = .ok (.dup, 1) := dk_89 (dk_at dksX2_drops_0 1 rfl rfl)
theorem dX2_drops_2 : decode cX2_drops 2 = .ok (.getfield 25, 3) := dk_180 0 25 (dk_at dksX2_drops_0 2 rfl rfl)
theorem dX2_drops_5 : decode cX2_drops 5 = .ok (.iconst 1, 1) := dk_4 (dk_at dksX2_drops_0 5 rfl rfl)
theorem dX2_drops_6 : decode cX2_drops 6 = .ok (.isub, 1) := dk_100 (dk_at dksX2_drops_0 6 rfl rfl)
theorem dX2_drops_7 : decode cX2_drops 7 = .ok (.putfield 25, 3) := dk_181 0 25 (dk_at dksX2_drops_0 7 rfl rfl)
theorem dX2_drops_10 : decode cX2_drops 10 = .ok (.iload_n 1, 1) := dk_27 (dk_at dksX2_drops_0 10 rfl rfl)
theorem dX2_drops_11 : decode cX2_drops 11 = .ok (.istore_n 2, 1) := dk_61 (dk_at dksX2_drops_0 11 rfl rfl)
theorem dX2_drops_12 : decode cX2_drops 12 = .ok (.iload_n 2, 1) := dk_28 (dk_at dksX2_drops_0 12 rfl rfl)
theorem dX2_drops_13 : decode cX2_drops 13 = .ok (.aload_n 0, 1) := dk_42 (dk_at dksX2_drops_0 13 rfl rfl)
theorem dX2_drops_14 : decode cX2_drops 14 = .ok (.getfield 25, 3) := dk_180 0 25 (dk_at dksX2_drops_0 14 rfl rfl)
theorem dX2_drops_17 : decode cX2_drops 17 = .ok (.if_icmp .ge 23, 3) := dk_162 0 23 (dk_at dksX2_drops_0 17 rfl rfl)
theorem dX2_drops_20 : decode cX2_drops 20 = .ok (.aload_n 0, 1) := dk_42 (dk_at dksX2_drops_0 20 rfl rfl)
theorem dX2_drops_21 : decode cX2_drops 21 = .ok (.getfield 15, 3) := dk_180 0 15 (dk_at dksX2_drops_0 21 rfl rfl)
theorem dX2_drops_24 : decode cX2_drops 24 = .ok (.iload_n 2, 1) := dk_28 (dk_at dksX2_drops_1 0 rfl rfl)
theorem dX2_drops_25 : decode cX2_drops 25 = .ok (.aload_n 0, 1) := dk_42 (dk_at dksX2_drops_1 1 rfl rfl)
theorem dX2_drops_26 : decode cX2_drops 26 = .ok (.getfield 15, 3) := dk_180 0 15 (dk_at dksX2_drops_1 2 rfl rfl)
theorem dX2_drops_29 : decode cX2_drops 29 = .ok (.iload_n 2, 1) := dk_28 (dk_at dksX2_drops_1 5 rfl rfl)
theorem dX2_drops_30 : decode cX2_drops 30 = .ok (.iconst 1, 1) := dk_4 (dk_at dksX2_drops_1 6 rfl rfl)
theorem dX2_drops_31 : decode cX2_drops 31 = .ok (.iadd, 1) := dk_96 (dk_at dksX2_drops_1 7 rfl rfl)
theorem dX2_drops_32 : decode cX2_drops 32 = .ok (.iaload, 1) := dk_46 (dk_at dksX2_drops_1 8 rfl rfl)
theorem dX2_drops_33 : decode cX2_drops 33 = .ok (.iastore, 1) := dk_79 (dk_at dksX2_drops_1 9 rfl rfl)
theorem dX2_drops_34 : decode cX2_drops 34 = .ok (.iinc 2 1, 3) := dk_132 2 1 (dk_at dksX2_drops_1 10 rfl rfl)
theorem dX2_drops_37 : decode cX2_drops 37 = .ok (.goto (-25), 3) := dk_167 255 231 (dk_at dksX2_drops_1 13 rfl rfl)
theorem dX2_drops_40 : decode cX2_drops 40 = .ok (.return_, 1) := dk_177 (dk_at dksX2_drops_1 16 rfl rfl)
abbrev cX2_isPoint : ByteArray := prog_9_method_4_code
def yX2_isPoint : MethodName := ⟨RX2, "isPoint", "(I)Z"⟩
def dkwX2_isPoint_0 : List UInt8 := [27, 155, 0, 15, 27, 42, 180, 0, 9, 162, 0, 7, 4, 167, 0, 4, 3, 172]
abbrev dktX2_isPoint_0 : List UInt8 := dkwX2_isPoint_0 ++ []
theorem dksX2_isPoint_0 : cX2_isPoint.data.toList.drop 0 = dktX2_isPoint_0 := by decide +kernel
theorem dX2_isPoint_0 : decode cX2_isPoint 0 = .ok (.iload_n 1, 1) := dk_27 (dk_at dksX2_isPoint_0 0 rfl rfl)
theorem dX2_isPoint_1 : decode cX2_isPoint 1 = .ok (.ifCond .lt 15, 3) := dk_155 0 15 (dk_at dksX2_isPoint_0 1 rfl rfl)
theorem dX2_isPoint_4 : decode cX2_isPoint 4 = .ok (.iload_n 1, 1) := dk_27 (dk_at dksX2_isPoint_0 4 rfl rfl)
theorem dX2_isPoint_5 : decode cX2_isPoint 5 = .ok (.aload_n 0, 1) := dk_42 (dk_at dksX2_isPoint_0 5 rfl rfl)
theorem dX2_isPoint_6 : decode cX2_isPoint 6 = .ok (.getfield 9, 3) := dk_180 0 9 (dk_at dksX2_isPoint_0 6 rfl rfl)
theorem dX2_isPoint_9 : decode cX2_isPoint 9 = .ok (.if_icmp .ge 7, 3) := dk_162 0 7 (dk_at dksX2_isPoint_0 9 rfl rfl)
theorem dX2_isPoint_12 : decode cX2_isPoint 12 = .ok (.iconst 1, 1) := dk_4 (dk_at dksX2_isPoint_0 12 rfl rfl)
theorem dX2_isPoint_13 : decode cX2_isPoint 13 = .ok (.goto 4, 3) := dk_167 0 4 (dk_at dksX2_isPoint_0 13 rfl rfl)
theorem dX2_isPoint_16 : decode cX2_isPoint 16 = .ok (.iconst 0, 1) := dk_3 (dk_at dksX2_isPoint_0 16 rfl rfl)
theorem dX2_isPoint_17 : decode cX2_isPoint 17 = .ok (.ireturn, 1) := dk_172 (dk_at dksX2_isPoint_0 17 rfl rfl)
abbrev cX2_swaps : ByteArray := prog_9_method_13_code
def yX2_swaps : MethodName := ⟨RX2, "swaps", "(II)V"⟩
def dkwX2_swaps_3 : List UInt8 := [46, 79, 42, 180, 0, 19, 28, 29, 79, 42, 180, 0, 22, 28, 21, 4, 79, 177]
abbrev dktX2_swaps_3 : List UInt8 := dkwX2_swaps_3 ++ []
def dkwX2_swaps_2 : List UInt8 := [54, 4, 42, 180, 0, 19, 27, 42, 180, 0, 19, 28, 46, 79, 42, 180, 0, 22, 27, 42, 180, 0, 22, 28]
abbrev dktX2_swaps_2 : List UInt8 := dkwX2_swaps_2 ++ dktX2_swaps_3
def dkwX2_swaps_1 : List UInt8 := [184, 0, 53, 79, 132, 3, 1, 167, 255, 228, 42, 180, 0, 19, 27, 46, 62, 42, 180, 0, 22, 27, 46]
abbrev dktX2_swaps_1 : List UInt8 := dkwX2_swaps_1 ++ dktX2_swaps_2
def dkwX2_swaps_0 : List UInt8 := [3, 62, 29, 42, 180, 0, 25, 162, 0, 26, 42, 180, 0, 15, 29, 42, 180, 0, 15, 29, 46, 27, 28]
abbrev dktX2_swaps_0 : List UInt8 := dkwX2_swaps_0 ++ dktX2_swaps_1
theorem dksX2_swaps_0 : cX2_swaps.data.toList.drop 0 = dktX2_swaps_0 := by decide +kernel
theorem dksX2_swaps_1 : cX2_swaps.data.toList.drop 23 = dktX2_swaps_1 := dk_seg dksX2_swaps_0 23 rfl rfl
theorem dksX2_swaps_2 : cX2_swaps.data.toList.drop 46 = dktX2_swaps_2 := dk_seg dksX2_swaps_1 23 rfl rfl
theorem dksX2_swaps_3 : cX2_swaps.data.toList.drop 70 = dktX2_swaps_3 := dk_seg dksX2_swaps_2 24 rfl rfl
theorem dX2_swaps_0 : decode cX2_swaps 0 = .ok (.iconst 0, 1) := dk_3 (dk_at dksX2_swaps_0 0 rfl rfl)
theorem dX2_swaps_1 : decode cX2_swaps 1 = .ok (.istore_n 3, 1) := dk_62 (dk_at dksX2_swaps_0 1 rfl rfl)
theorem dX2_swaps_2 : decode cX2_swaps 2 = .ok (.iload_n 3, 1) := dk_29 (dk_at dksX2_swaps_0 2 rfl rfl)
theorem dX2_swaps_3 : decode cX2_swaps 3 = .ok (.aload_n 0, 1) := dk_42 (dk_at dksX2_swaps_0 3 rfl rfl)
theorem dX2_swaps_4 : decode cX2_swaps 4 = .ok (.getfield 25, 3) := dk_180 0 25 (dk_at dksX2_swaps_0 4 rfl rfl)
theorem dX2_swaps_7 : decode cX2_swaps 7 = .ok (.if_icmp .ge 26, 3) := dk_162 0 26 (dk_at dksX2_swaps_0 7 rfl rfl)
theorem dX2_swaps_10 : decode cX2_swaps 10 = .ok (.aload_n 0, 1) := dk_42 (dk_at dksX2_swaps_0 10 rfl rfl)
theorem dX2_swaps_11 : decode cX2_swaps 11 = .ok (.getfield 15, 3) := dk_180 0 15 (dk_at dksX2_swaps_0 11 rfl rfl)
theorem dX2_swaps_14 : decode cX2_swaps 14 = .ok (.iload_n 3, 1) := dk_29 (dk_at dksX2_swaps_0 14 rfl rfl)
theorem dX2_swaps_15 : decode cX2_swaps 15 = .ok (.aload_n 0, 1) := dk_42 (dk_at dksX2_swaps_0 15 rfl rfl)
theorem dX2_swaps_16 : decode cX2_swaps 16 = .ok (.getfield 15, 3) := dk_180 0 15 (dk_at dksX2_swaps_0 16 rfl rfl)
theorem dX2_swaps_19 : decode cX2_swaps 19 = .ok (.iload_n 3, 1) := dk_29 (dk_at dksX2_swaps_0 19 rfl rfl)
theorem dX2_swaps_20 : decode cX2_swaps 20 = .ok (.iaload, 1) := dk_46 (dk_at dksX2_swaps_0 20 rfl rfl)
theorem dX2_swaps_21 : decode cX2_swaps 21 = .ok (.iload_n 1, 1) := dk_27 (dk_at dksX2_swaps_0 21 rfl rfl)
theorem dX2_swaps_22 : decode cX2_swaps 22 = .ok (.iload_n 2, 1) := dk_28 (dk_at dksX2_swaps_0 22 rfl rfl)
theorem dX2_swaps_23 : decode cX2_swaps 23 = .ok (.invokestatic 53, 3) := dk_184 0 53 (dk_at dksX2_swaps_1 0 rfl rfl)
theorem dX2_swaps_26 : decode cX2_swaps 26 = .ok (.iastore, 1) := dk_79 (dk_at dksX2_swaps_1 3 rfl rfl)
theorem dX2_swaps_27 : decode cX2_swaps 27 = .ok (.iinc 3 1, 3) := dk_132 3 1 (dk_at dksX2_swaps_1 4 rfl rfl)
theorem dX2_swaps_30 : decode cX2_swaps 30 = .ok (.goto (-28), 3) := dk_167 255 228 (dk_at dksX2_swaps_1 7 rfl rfl)
theorem dX2_swaps_33 : decode cX2_swaps 33 = .ok (.aload_n 0, 1) := dk_42 (dk_at dksX2_swaps_1 10 rfl rfl)
theorem dX2_swaps_34 : decode cX2_swaps 34 = .ok (.getfield 19, 3) := dk_180 0 19 (dk_at dksX2_swaps_1 11 rfl rfl)
theorem dX2_swaps_37 : decode cX2_swaps 37 = .ok (.iload_n 1, 1) := dk_27 (dk_at dksX2_swaps_1 14 rfl rfl)
theorem dX2_swaps_38 : decode cX2_swaps 38 = .ok (.iaload, 1) := dk_46 (dk_at dksX2_swaps_1 15 rfl rfl)
theorem dX2_swaps_39 : decode cX2_swaps 39 = .ok (.istore_n 3, 1) := dk_62 (dk_at dksX2_swaps_1 16 rfl rfl)
theorem dX2_swaps_40 : decode cX2_swaps 40 = .ok (.aload_n 0, 1) := dk_42 (dk_at dksX2_swaps_1 17 rfl rfl)
theorem dX2_swaps_41 : decode cX2_swaps 41 = .ok (.getfield 22, 3) := dk_180 0 22 (dk_at dksX2_swaps_1 18 rfl rfl)
theorem dX2_swaps_44 : decode cX2_swaps 44 = .ok (.iload_n 1, 1) := dk_27 (dk_at dksX2_swaps_1 21 rfl rfl)
theorem dX2_swaps_45 : decode cX2_swaps 45 = .ok (.iaload, 1) := dk_46 (dk_at dksX2_swaps_1 22 rfl rfl)
theorem dX2_swaps_46 : decode cX2_swaps 46 = .ok (.istore 4, 2) := dk_54 4 (dk_at dksX2_swaps_2 0 rfl rfl)
theorem dX2_swaps_48 : decode cX2_swaps 48 = .ok (.aload_n 0, 1) := dk_42 (dk_at dksX2_swaps_2 2 rfl rfl)
theorem dX2_swaps_49 : decode cX2_swaps 49 = .ok (.getfield 19, 3) := dk_180 0 19 (dk_at dksX2_swaps_2 3 rfl rfl)
theorem dX2_swaps_52 : decode cX2_swaps 52 = .ok (.iload_n 1, 1) := dk_27 (dk_at dksX2_swaps_2 6 rfl rfl)
theorem dX2_swaps_53 : decode cX2_swaps 53 = .ok (.aload_n 0, 1) := dk_42 (dk_at dksX2_swaps_2 7 rfl rfl)
theorem dX2_swaps_54 : decode cX2_swaps 54 = .ok (.getfield 19, 3) := dk_180 0 19 (dk_at dksX2_swaps_2 8 rfl rfl)
theorem dX2_swaps_57 : decode cX2_swaps 57 = .ok (.iload_n 2, 1) := dk_28 (dk_at dksX2_swaps_2 11 rfl rfl)
theorem dX2_swaps_58 : decode cX2_swaps 58 = .ok (.iaload, 1) := dk_46 (dk_at dksX2_swaps_2 12 rfl rfl)
theorem dX2_swaps_59 : decode cX2_swaps 59 = .ok (.iastore, 1) := dk_79 (dk_at dksX2_swaps_2 13 rfl rfl)
theorem dX2_swaps_60 : decode cX2_swaps 60 = .ok (.aload_n 0, 1) := dk_42 (dk_at dksX2_swaps_2 14 rfl rfl)
theorem dX2_swaps_61 : decode cX2_swaps 61 = .ok (.getfield 22, 3) := dk_180 0 22 (dk_at dksX2_swaps_2 15 rfl rfl)
theorem dX2_swaps_64 : decode cX2_swaps 64 = .ok (.iload_n 1, 1) := dk_27 (dk_at dksX2_swaps_2 18 rfl rfl)
theorem dX2_swaps_65 : decode cX2_swaps 65 = .ok (.aload_n 0, 1) := dk_42 (dk_at dksX2_swaps_2 19 rfl rfl)
theorem dX2_swaps_66 : decode cX2_swaps 66 = .ok (.getfield 22, 3) := dk_180 0 22 (dk_at dksX2_swaps_2 20 rfl rfl)
theorem dX2_swaps_69 : decode cX2_swaps 69 = .ok (.iload_n 2, 1) := dk_28 (dk_at dksX2_swaps_2 23 rfl rfl)
theorem dX2_swaps_70 : decode cX2_swaps 70 = .ok (.iaload, 1) := dk_46 (dk_at dksX2_swaps_3 0 rfl rfl)
theorem dX2_swaps_71 : decode cX2_swaps 71 = .ok (.iastore, 1) := dk_79 (dk_at dksX2_swaps_3 1 rfl rfl)
theorem dX2_swaps_72 : decode cX2_swaps 72 = .ok (.aload_n 0, 1) := dk_42 (dk_at dksX2_swaps_3 2 rfl rfl)
theorem dX2_swaps_73 : decode cX2_swaps 73 = .ok (.getfield 19, 3) := dk_180 0 19 (dk_at dksX2_swaps_3 3 rfl rfl)
theorem dX2_swaps_76 : decode cX2_swaps 76 = .ok (.iload_n 2, 1) := dk_28 (dk_at dksX2_swaps_3 6 rfl rfl)
theorem dX2_swaps_77 : decode cX2_swaps 77 = .ok (.iload_n 3, 1) := dk_29 (dk_at dksX2_swaps_3 7 rfl rfl)
theorem dX2_swaps_78 : decode cX2_swaps 78 = .ok (.iastore, 1) := dk_79 (dk_at dksX2_swaps_3 8 rfl rfl)
theorem dX2_swaps_79 : decode cX2_swaps 79 = .ok (.aload_n 0, 1) := dk_42 (dk_at dksX2_swaps_3 9 rfl rfl)
theorem dX2_swaps_80 : decode cX2_swaps 80 = .ok (.getfield 22, 3) := dk_180 0 22 (dk_at dksX2_swaps_3 10 rfl rfl)
theorem dX2_swaps_83 : decode cX2_swaps 83 = .ok (.iload_n 2, 1) := dk_28 (dk_at dksX2_swaps_3 13 rfl rfl)
theorem dX2_swaps_84 : decode cX2_swaps 84 = .ok (.iload 4, 2) := dk_21 4 (dk_at dksX2_swaps_3 14 rfl rfl)
theorem dX2_swaps_86 : decode cX2_swaps 86 = .ok (.iastore, 1) := dk_79 (dk_at dksX2_swaps_3 16 rfl rfl)
theorem dX2_swaps_87 : decode cX2_swaps 87 = .ok (.return_, 1) := dk_177 (dk_at dksX2_swaps_3 17 rfl rfl)
abbrev cX2_swapped : ByteArray := prog_9_method_12_code
def yX2_swapped : MethodName := ⟨RX2, "swapped", "(III)I"⟩
def dkwX2_swapped_1 : List UInt8 := [4, 126, 27, 120, 128, 172]
abbrev dktX2_swapped_1 : List UInt8 := dkwX2_swapped_1 ++ []
def dkwX2_swapped_0 : List UInt8 := [26, 4, 27, 120, 4, 28, 120, 128, 2, 130, 126, 62, 29, 26, 27, 122, 4, 126, 28, 120, 128, 26, 28, 122]
abbrev dktX2_swapped_0 : List UInt8 := dkwX2_swapped_0 ++ dktX2_swapped_1
theorem dksX2_swapped_0 : cX2_swapped.data.toList.drop 0 = dktX2_swapped_0 := by decide +kernel
theorem dksX2_swapped_1 : cX2_swapped.data.toList.drop 24 = dktX2_swapped_1 := dk_seg dksX2_swapped_0 24 rfl rfl
theorem dX2_swapped_0 : decode cX2_swapped 0 = .ok (.iload_n 0, 1) := dk_26 (dk_at dksX2_swapped_0 0 rfl rfl)
theorem dX2_swapped_1 : decode cX2_swapped 1 = .ok (.iconst 1, 1) := dk_4 (dk_at dksX2_swapped_0 1 rfl rfl)
theorem dX2_swapped_2 : decode cX2_swapped 2 = .ok (.iload_n 1, 1) := dk_27 (dk_at dksX2_swapped_0 2 rfl rfl)
theorem dX2_swapped_3 : decode cX2_swapped 3 = .ok (.ishl, 1) := dk_120 (dk_at dksX2_swapped_0 3 rfl rfl)
theorem dX2_swapped_4 : decode cX2_swapped 4 = .ok (.iconst 1, 1) := dk_4 (dk_at dksX2_swapped_0 4 rfl rfl)
theorem dX2_swapped_5 : decode cX2_swapped 5 = .ok (.iload_n 2, 1) := dk_28 (dk_at dksX2_swapped_0 5 rfl rfl)
theorem dX2_swapped_6 : decode cX2_swapped 6 = .ok (.ishl, 1) := dk_120 (dk_at dksX2_swapped_0 6 rfl rfl)
theorem dX2_swapped_7 : decode cX2_swapped 7 = .ok (.ior, 1) := dk_128 (dk_at dksX2_swapped_0 7 rfl rfl)
theorem dX2_swapped_8 : decode cX2_swapped 8 = .ok (.iconst (-1), 1) := dk_2 (dk_at dksX2_swapped_0 8 rfl rfl)
theorem dX2_swapped_9 : decode cX2_swapped 9 = .ok (.ixor, 1) := dk_130 (dk_at dksX2_swapped_0 9 rfl rfl)
theorem dX2_swapped_10 : decode cX2_swapped 10 = .ok (.iand, 1) := dk_126 (dk_at dksX2_swapped_0 10 rfl rfl)
theorem dX2_swapped_11 : decode cX2_swapped 11 = .ok (.istore_n 3, 1) := dk_62 (dk_at dksX2_swapped_0 11 rfl rfl)
theorem dX2_swapped_12 : decode cX2_swapped 12 = .ok (.iload_n 3, 1) := dk_29 (dk_at dksX2_swapped_0 12 rfl rfl)
theorem dX2_swapped_13 : decode cX2_swapped 13 = .ok (.iload_n 0, 1) := dk_26 (dk_at dksX2_swapped_0 13 rfl rfl)
theorem dX2_swapped_14 : decode cX2_swapped 14 = .ok (.iload_n 1, 1) := dk_27 (dk_at dksX2_swapped_0 14 rfl rfl)
theorem dX2_swapped_15 : decode cX2_swapped 15 = .ok (.ishr, 1) := dk_122 (dk_at dksX2_swapped_0 15 rfl rfl)
theorem dX2_swapped_16 : decode cX2_swapped 16 = .ok (.iconst 1, 1) := dk_4 (dk_at dksX2_swapped_0 16 rfl rfl)
theorem dX2_swapped_17 : decode cX2_swapped 17 = .ok (.iand, 1) := dk_126 (dk_at dksX2_swapped_0 17 rfl rfl)
theorem dX2_swapped_18 : decode cX2_swapped 18 = .ok (.iload_n 2, 1) := dk_28 (dk_at dksX2_swapped_0 18 rfl rfl)
theorem dX2_swapped_19 : decode cX2_swapped 19 = .ok (.ishl, 1) := dk_120 (dk_at dksX2_swapped_0 19 rfl rfl)
theorem dX2_swapped_20 : decode cX2_swapped 20 = .ok (.ior, 1) := dk_128 (dk_at dksX2_swapped_0 20 rfl rfl)
theorem dX2_swapped_21 : decode cX2_swapped 21 = .ok (.iload_n 0, 1) := dk_26 (dk_at dksX2_swapped_0 21 rfl rfl)
theorem dX2_swapped_22 : decode cX2_swapped 22 = .ok (.iload_n 2, 1) := dk_28 (dk_at dksX2_swapped_0 22 rfl rfl)
theorem dX2_swapped_23 : decode cX2_swapped 23 = .ok (.ishr, 1) := dk_122 (dk_at dksX2_swapped_0 23 rfl rfl)
theorem dX2_swapped_24 : decode cX2_swapped 24 = .ok (.iconst 1, 1) := dk_4 (dk_at dksX2_swapped_1 0 rfl rfl)
theorem dX2_swapped_25 : decode cX2_swapped 25 = .ok (.iand, 1) := dk_126 (dk_at dksX2_swapped_1 1 rfl rfl)
theorem dX2_swapped_26 : decode cX2_swapped 26 = .ok (.iload_n 1, 1) := dk_27 (dk_at dksX2_swapped_1 2 rfl rfl)
theorem dX2_swapped_27 : decode cX2_swapped 27 = .ok (.ishl, 1) := dk_120 (dk_at dksX2_swapped_1 3 rfl rfl)
theorem dX2_swapped_28 : decode cX2_swapped 28 = .ok (.ior, 1) := dk_128 (dk_at dksX2_swapped_1 4 rfl rfl)
theorem dX2_swapped_29 : decode cX2_swapped 29 = .ok (.ireturn, 1) := dk_172 (dk_at dksX2_swapped_1 5 rfl rfl)
abbrev cX2_dual : ByteArray := prog_9_method_14_code
def yX2_dual : MethodName := ⟨RX2, "dual", "()LSchemeLister$Scheme;"⟩
def dkwX2_dual_4 : List UInt8 := [167, 255, 208, 43, 176]
abbrev dktX2_dual_4 : List UInt8 := dkwX2_dual_4 ++ []
def dkwX2_dual_3 : List UInt8 := [18, 66, 183, 0, 60, 191, 29, 184, 0, 43, 4, 164, 0, 8, 43, 29, 182, 0, 68, 132, 2, 1]
abbrev dktX2_dual_3 : List UInt8 := dkwX2_dual_3 ++ dktX2_dual_4
def dkwX2_dual_2 : List UInt8 := [180, 0, 9, 162, 0, 46, 42, 28, 182, 0, 63, 62, 29, 184, 0, 43, 7, 164, 0, 13, 187, 0, 57, 89]
abbrev dktX2_dual_2 : List UInt8 := dkwX2_dual_2 ++ dktX2_dual_3
def dkwX2_dual_1 : List UInt8 := [183, 0, 60, 191, 187, 0, 10, 89, 183, 0, 34, 76, 43, 42, 180, 0, 25, 181, 0, 9, 3, 61, 28, 42]
abbrev dktX2_dual_1 : List UInt8 := dkwX2_dual_1 ++ dktX2_dual_2
def dkwX2_dual_0 : List UInt8 := [42, 180, 0, 25, 153, 0, 12, 42, 180, 0, 25, 16, 8, 164, 0, 13, 187, 0, 57, 89, 18, 59]
abbrev dktX2_dual_0 : List UInt8 := dkwX2_dual_0 ++ dktX2_dual_1
theorem dksX2_dual_0 : cX2_dual.data.toList.drop 0 = dktX2_dual_0 := by decide +kernel
theorem dksX2_dual_1 : cX2_dual.data.toList.drop 22 = dktX2_dual_1 := dk_seg dksX2_dual_0 22 rfl rfl
theorem dksX2_dual_2 : cX2_dual.data.toList.drop 46 = dktX2_dual_2 := dk_seg dksX2_dual_1 24 rfl rfl
theorem dksX2_dual_3 : cX2_dual.data.toList.drop 70 = dktX2_dual_3 := dk_seg dksX2_dual_2 24 rfl rfl
theorem dksX2_dual_4 : cX2_dual.data.toList.drop 92 = dktX2_dual_4 := dk_seg dksX2_dual_3 22 rfl rfl
theorem dX2_dual_0 : decode cX2_dual 0 = .ok (.aload_n 0, 1) := dk_42 (dk_at dksX2_dual_0 0 rfl rfl)
theorem dX2_dual_1 : decode cX2_dual 1 = .ok (.getfield 25, 3) := dk_180 0 25 (dk_at dksX2_dual_0 1 rfl rfl)
theorem dX2_dual_4 : decode cX2_dual 4 = .ok (.ifCond .eq 12, 3) := dk_153 0 12 (dk_at dksX2_dual_0 4 rfl rfl)
theorem dX2_dual_7 : decode cX2_dual 7 = .ok (.aload_n 0, 1) := dk_42 (dk_at dksX2_dual_0 7 rfl rfl)
theorem dX2_dual_8 : decode cX2_dual 8 = .ok (.getfield 25, 3) := dk_180 0 25 (dk_at dksX2_dual_0 8 rfl rfl)
theorem dX2_dual_11 : decode cX2_dual 11 = .ok (.bipush 8, 2) := dk_16 8 (dk_at dksX2_dual_0 11 rfl rfl)
theorem dX2_dual_13 : decode cX2_dual 13 = .ok (.if_icmp .le 13, 3) := dk_164 0 13 (dk_at dksX2_dual_0 13 rfl rfl)
theorem dX2_dual_16 : decode cX2_dual 16 = .ok (.new 57, 3) := dk_187 0 57 (dk_at dksX2_dual_0 16 rfl rfl)
theorem dX2_dual_19 : decode cX2_dual 19 = .ok (.dup, 1) := dk_89 (dk_at dksX2_dual_0 19 rfl rfl)
theorem dX2_dual_20 : decode cX2_dual 20 = .ok (.ldc 59, 2) := dk_18 59 (dk_at dksX2_dual_0 20 rfl rfl)
theorem dX2_dual_22 : decode cX2_dual 22 = .ok (.invokespecial 60, 3) := dk_183 0 60 (dk_at dksX2_dual_1 0 rfl rfl)
theorem dX2_dual_25 : decode cX2_dual 25 = .ok (.athrow, 1) := dk_191 (dk_at dksX2_dual_1 3 rfl rfl)
theorem dX2_dual_26 : decode cX2_dual 26 = .ok (.new 10, 3) := dk_187 0 10 (dk_at dksX2_dual_1 4 rfl rfl)
theorem dX2_dual_29 : decode cX2_dual 29 = .ok (.dup, 1) := dk_89 (dk_at dksX2_dual_1 7 rfl rfl)
theorem dX2_dual_30 : decode cX2_dual 30 = .ok (.invokespecial 34, 3) := dk_183 0 34 (dk_at dksX2_dual_1 8 rfl rfl)
theorem dX2_dual_33 : decode cX2_dual 33 = .ok (.astore_n 1, 1) := dk_76 (dk_at dksX2_dual_1 11 rfl rfl)
theorem dX2_dual_34 : decode cX2_dual 34 = .ok (.aload_n 1, 1) := dk_43 (dk_at dksX2_dual_1 12 rfl rfl)
theorem dX2_dual_35 : decode cX2_dual 35 = .ok (.aload_n 0, 1) := dk_42 (dk_at dksX2_dual_1 13 rfl rfl)
theorem dX2_dual_36 : decode cX2_dual 36 = .ok (.getfield 25, 3) := dk_180 0 25 (dk_at dksX2_dual_1 14 rfl rfl)
theorem dX2_dual_39 : decode cX2_dual 39 = .ok (.putfield 9, 3) := dk_181 0 9 (dk_at dksX2_dual_1 17 rfl rfl)
theorem dX2_dual_42 : decode cX2_dual 42 = .ok (.iconst 0, 1) := dk_3 (dk_at dksX2_dual_1 20 rfl rfl)
theorem dX2_dual_43 : decode cX2_dual 43 = .ok (.istore_n 2, 1) := dk_61 (dk_at dksX2_dual_1 21 rfl rfl)
theorem dX2_dual_44 : decode cX2_dual 44 = .ok (.iload_n 2, 1) := dk_28 (dk_at dksX2_dual_1 22 rfl rfl)
theorem dX2_dual_45 : decode cX2_dual 45 = .ok (.aload_n 0, 1) := dk_42 (dk_at dksX2_dual_1 23 rfl rfl)
theorem dX2_dual_46 : decode cX2_dual 46 = .ok (.getfield 9, 3) := dk_180 0 9 (dk_at dksX2_dual_2 0 rfl rfl)
theorem dX2_dual_49 : decode cX2_dual 49 = .ok (.if_icmp .ge 46, 3) := dk_162 0 46 (dk_at dksX2_dual_2 3 rfl rfl)
theorem dX2_dual_52 : decode cX2_dual 52 = .ok (.aload_n 0, 1) := dk_42 (dk_at dksX2_dual_2 6 rfl rfl)
theorem dX2_dual_53 : decode cX2_dual 53 = .ok (.iload_n 2, 1) := dk_28 (dk_at dksX2_dual_2 7 rfl rfl)
theorem dX2_dual_54 : decode cX2_dual 54 = .ok (.invokevirtual 63, 3) := dk_182 0 63 (dk_at dksX2_dual_2 8 rfl rfl)
theorem dX2_dual_57 : decode cX2_dual 57 = .ok (.istore_n 3, 1) := dk_62 (dk_at dksX2_dual_2 11 rfl rfl)
theorem dX2_dual_58 : decode cX2_dual 58 = .ok (.iload_n 3, 1) := dk_29 (dk_at dksX2_dual_2 12 rfl rfl)
theorem dX2_dual_59 : decode cX2_dual 59 = .ok (.invokestatic 43, 3) := dk_184 0 43 (dk_at dksX2_dual_2 13 rfl rfl)
theorem dX2_dual_62 : decode cX2_dual 62 = .ok (.iconst 4, 1) := dk_7 (dk_at dksX2_dual_2 16 rfl rfl)
theorem dX2_dual_63 : decode cX2_dual 63 = .ok (.if_icmp .le 13, 3) := dk_164 0 13 (dk_at dksX2_dual_2 17 rfl rfl)
theorem dX2_dual_66 : decode cX2_dual 66 = .ok (.new 57, 3) := dk_187 0 57 (dk_at dksX2_dual_2 20 rfl rfl)
theorem dX2_dual_69 : decode cX2_dual 69 = .ok (.dup, 1) := dk_89 (dk_at dksX2_dual_2 23 rfl rfl)
theorem dX2_dual_70 : decode cX2_dual 70 = .ok (.ldc 66, 2) := dk_18 66 (dk_at dksX2_dual_3 0 rfl rfl)
theorem dX2_dual_72 : decode cX2_dual 72 = .ok (.invokespecial 60, 3) := dk_183 0 60 (dk_at dksX2_dual_3 2 rfl rfl)
theorem dX2_dual_75 : decode cX2_dual 75 = .ok (.athrow, 1) := dk_191 (dk_at dksX2_dual_3 5 rfl rfl)
theorem dX2_dual_76 : decode cX2_dual 76 = .ok (.iload_n 3, 1) := dk_29 (dk_at dksX2_dual_3 6 rfl rfl)
theorem dX2_dual_77 : decode cX2_dual 77 = .ok (.invokestatic 43, 3) := dk_184 0 43 (dk_at dksX2_dual_3 7 rfl rfl)
theorem dX2_dual_80 : decode cX2_dual 80 = .ok (.iconst 1, 1) := dk_4 (dk_at dksX2_dual_3 10 rfl rfl)
theorem dX2_dual_81 : decode cX2_dual 81 = .ok (.if_icmp .le 8, 3) := dk_164 0 8 (dk_at dksX2_dual_3 11 rfl rfl)
theorem dX2_dual_84 : decode cX2_dual 84 = .ok (.aload_n 1, 1) := dk_43 (dk_at dksX2_dual_3 14 rfl rfl)
theorem dX2_dual_85 : decode cX2_dual 85 = .ok (.iload_n 3, 1) := dk_29 (dk_at dksX2_dual_3 15 rfl rfl)
theorem dX2_dual_86 : decode cX2_dual 86 = .ok (.invokevirtual 68, 3) := dk_182 0 68 (dk_at dksX2_dual_3 16 rfl rfl)
theorem dX2_dual_89 : decode cX2_dual 89 = .ok (.iinc 2 1, 3) := dk_132 2 1 (dk_at dksX2_dual_3 19 rfl rfl)
theorem dX2_dual_92 : decode cX2_dual 92 = .ok (.goto (-48), 3) := dk_167 255 208 (dk_at dksX2_dual_4 0 rfl rfl)
theorem dX2_dual_95 : decode cX2_dual 95 = .ok (.aload_n 1, 1) := dk_43 (dk_at dksX2_dual_4 3 rfl rfl)
theorem dX2_dual_96 : decode cX2_dual 96 = .ok (.areturn, 1) := dk_176 (dk_at dksX2_dual_4 4 rfl rfl)
abbrev cX2_through : ByteArray := prog_9_method_6_code
def yX2_through : MethodName := ⟨RX2, "through", "(I)I"⟩
def dkwX2_through_1 : List UInt8 := [120, 128, 61, 132, 3, 1, 167, 255, 230, 28, 172]
abbrev dktX2_through_1 : List UInt8 := dkwX2_through_1 ++ []
def dkwX2_through_0 : List UInt8 := [3, 61, 3, 62, 29, 42, 180, 0, 25, 162, 0, 24, 42, 27, 29, 182, 0, 39, 153, 0, 9, 28, 4, 29]
abbrev dktX2_through_0 : List UInt8 := dkwX2_through_0 ++ dktX2_through_1
theorem dksX2_through_0 : cX2_through.data.toList.drop 0 = dktX2_through_0 := by decide +kernel
theorem dksX2_through_1 : cX2_through.data.toList.drop 24 = dktX2_through_1 := dk_seg dksX2_through_0 24 rfl rfl
theorem dX2_through_0 : decode cX2_through 0 = .ok (.iconst 0, 1) := dk_3 (dk_at dksX2_through_0 0 rfl rfl)
theorem dX2_through_1 : decode cX2_through 1 = .ok (.istore_n 2, 1) := dk_61 (dk_at dksX2_through_0 1 rfl rfl)
theorem dX2_through_2 : decode cX2_through 2 = .ok (.iconst 0, 1) := dk_3 (dk_at dksX2_through_0 2 rfl rfl)
theorem dX2_through_3 : decode cX2_through 3 = .ok (.istore_n 3, 1) := dk_62 (dk_at dksX2_through_0 3 rfl rfl)
theorem dX2_through_4 : decode cX2_through 4 = .ok (.iload_n 3, 1) := dk_29 (dk_at dksX2_through_0 4 rfl rfl)
theorem dX2_through_5 : decode cX2_through 5 = .ok (.aload_n 0, 1) := dk_42 (dk_at dksX2_through_0 5 rfl rfl)
theorem dX2_through_6 : decode cX2_through 6 = .ok (.getfield 25, 3) := dk_180 0 25 (dk_at dksX2_through_0 6 rfl rfl)
theorem dX2_through_9 : decode cX2_through 9 = .ok (.if_icmp .ge 24, 3) := dk_162 0 24 (dk_at dksX2_through_0 9 rfl rfl)
theorem dX2_through_12 : decode cX2_through 12 = .ok (.aload_n 0, 1) := dk_42 (dk_at dksX2_through_0 12 rfl rfl)
theorem dX2_through_13 : decode cX2_through 13 = .ok (.iload_n 1, 1) := dk_27 (dk_at dksX2_through_0 13 rfl rfl)
theorem dX2_through_14 : decode cX2_through 14 = .ok (.iload_n 3, 1) := dk_29 (dk_at dksX2_through_0 14 rfl rfl)
theorem dX2_through_15 : decode cX2_through 15 = .ok (.invokevirtual 39, 3) := dk_182 0 39 (dk_at dksX2_through_0 15 rfl rfl)
theorem dX2_through_18 : decode cX2_through 18 = .ok (.ifCond .eq 9, 3) := dk_153 0 9 (dk_at dksX2_through_0 18 rfl rfl)
theorem dX2_through_21 : decode cX2_through 21 = .ok (.iload_n 2, 1) := dk_28 (dk_at dksX2_through_0 21 rfl rfl)
theorem dX2_through_22 : decode cX2_through 22 = .ok (.iconst 1, 1) := dk_4 (dk_at dksX2_through_0 22 rfl rfl)
theorem dX2_through_23 : decode cX2_through 23 = .ok (.iload_n 3, 1) := dk_29 (dk_at dksX2_through_0 23 rfl rfl)
theorem dX2_through_24 : decode cX2_through 24 = .ok (.ishl, 1) := dk_120 (dk_at dksX2_through_1 0 rfl rfl)
theorem dX2_through_25 : decode cX2_through 25 = .ok (.ior, 1) := dk_128 (dk_at dksX2_through_1 1 rfl rfl)
theorem dX2_through_26 : decode cX2_through 26 = .ok (.istore_n 2, 1) := dk_61 (dk_at dksX2_through_1 2 rfl rfl)
theorem dX2_through_27 : decode cX2_through 27 = .ok (.iinc 3 1, 3) := dk_132 3 1 (dk_at dksX2_through_1 3 rfl rfl)
theorem dX2_through_30 : decode cX2_through 30 = .ok (.goto (-26), 3) := dk_167 255 230 (dk_at dksX2_through_1 6 rfl rfl)
theorem dX2_through_33 : decode cX2_through 33 = .ok (.iload_n 2, 1) := dk_28 (dk_at dksX2_through_1 9 rfl rfl)
theorem dX2_through_34 : decode cX2_through 34 = .ok (.ireturn, 1) := dk_172 (dk_at dksX2_through_1 10 rfl rfl)
abbrev cX2_isOn : ByteArray := prog_9_method_5_code
def yX2_isOn : MethodName := ⟨RX2, "isOn", "(II)Z"⟩
def dkwX2_isOn_0 : List UInt8 := [42, 180, 0, 15, 28, 46, 27, 122, 4, 126, 4, 160, 0, 7, 4, 167, 0, 4, 3, 172]
abbrev dktX2_isOn_0 : List UInt8 := dkwX2_isOn_0 ++ []
theorem dksX2_isOn_0 : cX2_isOn.data.toList.drop 0 = dktX2_isOn_0 := by decide +kernel
theorem dX2_isOn_0 : decode cX2_isOn 0 = .ok (.aload_n 0, 1) := dk_42 (dk_at dksX2_isOn_0 0 rfl rfl)
theorem dX2_isOn_1 : decode cX2_isOn 1 = .ok (.getfield 15, 3) := dk_180 0 15 (dk_at dksX2_isOn_0 1 rfl rfl)
theorem dX2_isOn_4 : decode cX2_isOn 4 = .ok (.iload_n 2, 1) := dk_28 (dk_at dksX2_isOn_0 4 rfl rfl)
theorem dX2_isOn_5 : decode cX2_isOn 5 = .ok (.iaload, 1) := dk_46 (dk_at dksX2_isOn_0 5 rfl rfl)
theorem dX2_isOn_6 : decode cX2_isOn 6 = .ok (.iload_n 1, 1) := dk_27 (dk_at dksX2_isOn_0 6 rfl rfl)
theorem dX2_isOn_7 : decode cX2_isOn 7 = .ok (.ishr, 1) := dk_122 (dk_at dksX2_isOn_0 7 rfl rfl)
theorem dX2_isOn_8 : decode cX2_isOn 8 = .ok (.iconst 1, 1) := dk_4 (dk_at dksX2_isOn_0 8 rfl rfl)
theorem dX2_isOn_9 : decode cX2_isOn 9 = .ok (.iand, 1) := dk_126 (dk_at dksX2_isOn_0 9 rfl rfl)
theorem dX2_isOn_10 : decode cX2_isOn 10 = .ok (.iconst 1, 1) := dk_4 (dk_at dksX2_isOn_0 10 rfl rfl)
theorem dX2_isOn_11 : decode cX2_isOn 11 = .ok (.if_icmp .ne 7, 3) := dk_160 0 7 (dk_at dksX2_isOn_0 11 rfl rfl)
theorem dX2_isOn_14 : decode cX2_isOn 14 = .ok (.iconst 1, 1) := dk_4 (dk_at dksX2_isOn_0 14 rfl rfl)
theorem dX2_isOn_15 : decode cX2_isOn 15 = .ok (.goto 4, 3) := dk_167 0 4 (dk_at dksX2_isOn_0 15 rfl rfl)
theorem dX2_isOn_18 : decode cX2_isOn 18 = .ok (.iconst 0, 1) := dk_3 (dk_at dksX2_isOn_0 18 rfl rfl)
theorem dX2_isOn_19 : decode cX2_isOn 19 = .ok (.ireturn, 1) := dk_172 (dk_at dksX2_isOn_0 19 rfl rfl)
abbrev cX2_grows : ByteArray := prog_9_method_15_code
def yX2_grows : MethodName := ⟨RX2, "grows", "()V"⟩
def dkwX2_grows_1 : List UInt8 := [180, 0, 9, 4, 96, 181, 0, 9, 177]
abbrev dktX2_grows_1 : List UInt8 := dkwX2_grows_1 ++ []
def dkwX2_grows_0 : List UInt8 := [42, 180, 0, 19, 42, 180, 0, 9, 3, 79, 42, 180, 0, 22, 42, 180, 0, 9, 3, 79, 42, 89]
abbrev dktX2_grows_0 : List UInt8 := dkwX2_grows_0 ++ dktX2_grows_1
theorem dksX2_grows_0 : cX2_grows.data.toList.drop 0 = dktX2_grows_0 := by decide +kernel
theorem dksX2_grows_1 : cX2_grows.data.toList.drop 22 = dktX2_grows_1 := dk_seg dksX2_grows_0 22 rfl rfl
theorem dX2_grows_0 : decode cX2_grows 0 = .ok (.aload_n 0, 1) := dk_42 (dk_at dksX2_grows_0 0 rfl rfl)
theorem dX2_grows_1 : decode cX2_grows 1 = .ok (.getfield 19, 3) := dk_180 0 19 (dk_at dksX2_grows_0 1 rfl rfl)
theorem dX2_grows_4 : decode cX2_grows 4 = .ok (.aload_n 0, 1) := dk_42 (dk_at dksX2_grows_0 4 rfl rfl)
theorem dX2_grows_5 : decode cX2_grows 5 = .ok (.getfield 9, 3) := dk_180 0 9 (dk_at dksX2_grows_0 5 rfl rfl)
theorem dX2_grows_8 : decode cX2_grows 8 = .ok (.iconst 0, 1) := dk_3 (dk_at dksX2_grows_0 8 rfl rfl)
theorem dX2_grows_9 : decode cX2_grows 9 = .ok (.iastore, 1) := dk_79 (dk_at dksX2_grows_0 9 rfl rfl)
theorem dX2_grows_10 : decode cX2_grows 10 = .ok (.aload_n 0, 1) := dk_42 (dk_at dksX2_grows_0 10 rfl rfl)
theorem dX2_grows_11 : decode cX2_grows 11 = .ok (.getfield 22, 3) := dk_180 0 22 (dk_at dksX2_grows_0 11 rfl rfl)
theorem dX2_grows_14 : decode cX2_grows 14 = .ok (.aload_n 0, 1) := dk_42 (dk_at dksX2_grows_0 14 rfl rfl)
theorem dX2_grows_15 : decode cX2_grows 15 = .ok (.getfield 9, 3) := dk_180 0 9 (dk_at dksX2_grows_0 15 rfl rfl)
theorem dX2_grows_18 : decode cX2_grows 18 = .ok (.iconst 0, 1) := dk_3 (dk_at dksX2_grows_0 18 rfl rfl)
theorem dX2_grows_19 : decode cX2_grows 19 = .ok (.iastore, 1) := dk_79 (dk_at dksX2_grows_0 19 rfl rfl)
theorem dX2_grows_20 : decode cX2_grows 20 = .ok (.aload_n 0, 1) := dk_42 (dk_at dksX2_grows_0 20 rfl rfl)
theorem dX2_grows_21 : decode cX2_grows 21 = .ok (.dup, 1) := dk_89 (dk_at dksX2_grows_0 21 rfl rfl)
theorem dX2_grows_22 : decode cX2_grows 22 = .ok (.getfield 9, 3) := dk_180 0 9 (dk_at dksX2_grows_1 0 rfl rfl)
theorem dX2_grows_25 : decode cX2_grows 25 = .ok (.iconst 1, 1) := dk_4 (dk_at dksX2_grows_1 3 rfl rfl)
theorem dX2_grows_26 : decode cX2_grows 26 = .ok (.iadd, 1) := dk_96 (dk_at dksX2_grows_1 4 rfl rfl)
theorem dX2_grows_27 : decode cX2_grows 27 = .ok (.putfield 9, 3) := dk_181 0 9 (dk_at dksX2_grows_1 5 rfl rfl)
theorem dX2_grows_30 : decode cX2_grows 30 = .ok (.return_, 1) := dk_177 (dk_at dksX2_grows_1 8 rfl rfl)
abbrev cX2_shrinks : ByteArray := prog_9_method_16_code
def yX2_shrinks : MethodName := ⟨RX2, "shrinks", "()V"⟩
def dkwX2_shrinks_1 : List UInt8 := [180, 0, 9, 27, 182, 0, 39, 153, 0, 8, 42, 27, 182, 0, 72, 132, 1, 255, 167, 255, 232, 177]
abbrev dktX2_shrinks_1 : List UInt8 := dkwX2_shrinks_1 ++ []
def dkwX2_shrinks_0 : List UInt8 := [42, 89, 180, 0, 9, 4, 100, 181, 0, 9, 42, 180, 0, 25, 4, 100, 60, 27, 155, 0, 26, 42, 42]
abbrev dktX2_shrinks_0 : List UInt8 := dkwX2_shrinks_0 ++ dktX2_shrinks_1
theorem dksX2_shrinks_0 : cX2_shrinks.data.toList.drop 0 = dktX2_shrinks_0 := by decide +kernel
theorem dksX2_shrinks_1 : cX2_shrinks.data.toList.drop 23 = dktX2_shrinks_1 := dk_seg dksX2_shrinks_0 23 rfl rfl
theorem dX2_shrinks_0 : decode cX2_shrinks 0 = .ok (.aload_n 0, 1) := dk_42 (dk_at dksX2_shrinks_0 0 rfl rfl)
theorem dX2_shrinks_1 : decode cX2_shrinks 1 = .ok (.dup, 1) := dk_89 (dk_at dksX2_shrinks_0 1 rfl rfl)
theorem dX2_shrinks_2 : decode cX2_shrinks 2 = .ok (.getfield 9, 3) := dk_180 0 9 (dk_at dksX2_shrinks_0 2 rfl rfl)
theorem dX2_shrinks_5 : decode cX2_shrinks 5 = .ok (.iconst 1, 1) := dk_4 (dk_at dksX2_shrinks_0 5 rfl rfl)
theorem dX2_shrinks_6 : decode cX2_shrinks 6 = .ok (.isub, 1) := dk_100 (dk_at dksX2_shrinks_0 6 rfl rfl)
theorem dX2_shrinks_7 : decode cX2_shrinks 7 = .ok (.putfield 9, 3) := dk_181 0 9 (dk_at dksX2_shrinks_0 7 rfl rfl)
theorem dX2_shrinks_10 : decode cX2_shrinks 10 = .ok (.aload_n 0, 1) := dk_42 (dk_at dksX2_shrinks_0 10 rfl rfl)
theorem dX2_shrinks_11 : decode cX2_shrinks 11 = .ok (.getfield 25, 3) := dk_180 0 25 (dk_at dksX2_shrinks_0 11 rfl rfl)
theorem dX2_shrinks_14 : decode cX2_shrinks 14 = .ok (.iconst 1, 1) := dk_4 (dk_at dksX2_shrinks_0 14 rfl rfl)
theorem dX2_shrinks_15 : decode cX2_shrinks 15 = .ok (.isub, 1) := dk_100 (dk_at dksX2_shrinks_0 15 rfl rfl)
theorem dX2_shrinks_16 : decode cX2_shrinks 16 = .ok (.istore_n 1, 1) := dk_60 (dk_at dksX2_shrinks_0 16 rfl rfl)
theorem dX2_shrinks_17 : decode cX2_shrinks 17 = .ok (.iload_n 1, 1) := dk_27 (dk_at dksX2_shrinks_0 17 rfl rfl)
theorem dX2_shrinks_18 : decode cX2_shrinks 18 = .ok (.ifCond .lt 26, 3) := dk_155 0 26 (dk_at dksX2_shrinks_0 18 rfl rfl)
theorem dX2_shrinks_21 : decode cX2_shrinks 21 = .ok (.aload_n 0, 1) := dk_42 (dk_at dksX2_shrinks_0 21 rfl rfl)
theorem dX2_shrinks_22 : decode cX2_shrinks 22 = .ok (.aload_n 0, 1) := dk_42 (dk_at dksX2_shrinks_0 22 rfl rfl)
theorem dX2_shrinks_23 : decode cX2_shrinks 23 = .ok (.getfield 9, 3) := dk_180 0 9 (dk_at dksX2_shrinks_1 0 rfl rfl)
theorem dX2_shrinks_26 : decode cX2_shrinks 26 = .ok (.iload_n 1, 1) := dk_27 (dk_at dksX2_shrinks_1 3 rfl rfl)
theorem dX2_shrinks_27 : decode cX2_shrinks 27 = .ok (.invokevirtual 39, 3) := dk_182 0 39 (dk_at dksX2_shrinks_1 4 rfl rfl)
theorem dX2_shrinks_30 : decode cX2_shrinks 30 = .ok (.ifCond .eq 8, 3) := dk_153 0 8 (dk_at dksX2_shrinks_1 7 rfl rfl)
theorem dX2_shrinks_33 : decode cX2_shrinks 33 = .ok (.aload_n 0, 1) := dk_42 (dk_at dksX2_shrinks_1 10 rfl rfl)
theorem dX2_shrinks_34 : decode cX2_shrinks 34 = .ok (.iload_n 1, 1) := dk_27 (dk_at dksX2_shrinks_1 11 rfl rfl)
theorem dX2_shrinks_35 : decode cX2_shrinks 35 = .ok (.invokevirtual 72, 3) := dk_182 0 72 (dk_at dksX2_shrinks_1 12 rfl rfl)
theorem dX2_shrinks_38 : decode cX2_shrinks 38 = .ok (.iinc 1 (-1), 3) := dk_132 1 255 (dk_at dksX2_shrinks_1 15 rfl rfl)
theorem dX2_shrinks_41 : decode cX2_shrinks 41 = .ok (.goto (-24), 3) := dk_167 255 232 (dk_at dksX2_shrinks_1 18 rfl rfl)
theorem dX2_shrinks_44 : decode cX2_shrinks 44 = .ok (.return_, 1) := dk_177 (dk_at dksX2_shrinks_1 21 rfl rfl)
abbrev cX2_lineOf : ByteArray := prog_9_method_7_code
def yX2_lineOf : MethodName := ⟨RX2, "lineOf", "(I)I"⟩
def dkwX2_lineOf_1 : List UInt8 := [132, 2, 1, 167, 255, 231, 2, 172]
abbrev dktX2_lineOf_1 : List UInt8 := dkwX2_lineOf_1 ++ []
def dkwX2_lineOf_0 : List UInt8 := [3, 61, 28, 42, 180, 0, 25, 162, 0, 23, 42, 180, 0, 15, 28, 46, 27, 126, 27, 160, 0, 5, 28, 172]
abbrev dktX2_lineOf_0 : List UInt8 := dkwX2_lineOf_0 ++ dktX2_lineOf_1
theorem dksX2_lineOf_0 : cX2_lineOf.data.toList.drop 0 = dktX2_lineOf_0 := by decide +kernel
theorem dksX2_lineOf_1 : cX2_lineOf.data.toList.drop 24 = dktX2_lineOf_1 := dk_seg dksX2_lineOf_0 24 rfl rfl
theorem dX2_lineOf_0 : decode cX2_lineOf 0 = .ok (.iconst 0, 1) := dk_3 (dk_at dksX2_lineOf_0 0 rfl rfl)
theorem dX2_lineOf_1 : decode cX2_lineOf 1 = .ok (.istore_n 2, 1) := dk_61 (dk_at dksX2_lineOf_0 1 rfl rfl)
theorem dX2_lineOf_2 : decode cX2_lineOf 2 = .ok (.iload_n 2, 1) := dk_28 (dk_at dksX2_lineOf_0 2 rfl rfl)
theorem dX2_lineOf_3 : decode cX2_lineOf 3 = .ok (.aload_n 0, 1) := dk_42 (dk_at dksX2_lineOf_0 3 rfl rfl)
theorem dX2_lineOf_4 : decode cX2_lineOf 4 = .ok (.getfield 25, 3) := dk_180 0 25 (dk_at dksX2_lineOf_0 4 rfl rfl)
theorem dX2_lineOf_7 : decode cX2_lineOf 7 = .ok (.if_icmp .ge 23, 3) := dk_162 0 23 (dk_at dksX2_lineOf_0 7 rfl rfl)
theorem dX2_lineOf_10 : decode cX2_lineOf 10 = .ok (.aload_n 0, 1) := dk_42 (dk_at dksX2_lineOf_0 10 rfl rfl)
theorem dX2_lineOf_11 : decode cX2_lineOf 11 = .ok (.getfield 15, 3) := dk_180 0 15 (dk_at dksX2_lineOf_0 11 rfl rfl)
theorem dX2_lineOf_14 : decode cX2_lineOf 14 = .ok (.iload_n 2, 1) := dk_28 (dk_at dksX2_lineOf_0 14 rfl rfl)
theorem dX2_lineOf_15 : decode cX2_lineOf 15 = .ok (.iaload, 1) := dk_46 (dk_at dksX2_lineOf_0 15 rfl rfl)
theorem dX2_lineOf_16 : decode cX2_lineOf 16 = .ok (.iload_n 1, 1) := dk_27 (dk_at dksX2_lineOf_0 16 rfl rfl)
theorem dX2_lineOf_17 : decode cX2_lineOf 17 = .ok (.iand, 1) := dk_126 (dk_at dksX2_lineOf_0 17 rfl rfl)
theorem dX2_lineOf_18 : decode cX2_lineOf 18 = .ok (.iload_n 1, 1) := dk_27 (dk_at dksX2_lineOf_0 18 rfl rfl)
theorem dX2_lineOf_19 : decode cX2_lineOf 19 = .ok (.if_icmp .ne 5, 3) := dk_160 0 5 (dk_at dksX2_lineOf_0 19 rfl rfl)
theorem dX2_lineOf_22 : decode cX2_lineOf 22 = .ok (.iload_n 2, 1) := dk_28 (dk_at dksX2_lineOf_0 22 rfl rfl)
theorem dX2_lineOf_23 : decode cX2_lineOf 23 = .ok (.ireturn, 1) := dk_172 (dk_at dksX2_lineOf_0 23 rfl rfl)
theorem dX2_lineOf_24 : decode cX2_lineOf 24 = .ok (.iinc 2 1, 3) := dk_132 2 1 (dk_at dksX2_lineOf_1 0 rfl rfl)
theorem dX2_lineOf_27 : decode cX2_lineOf 27 = .ok (.goto (-25), 3) := dk_167 255 231 (dk_at dksX2_lineOf_1 3 rfl rfl)
theorem dX2_lineOf_30 : decode cX2_lineOf 30 = .ok (.iconst (-1), 1) := dk_2 (dk_at dksX2_lineOf_1 6 rfl rfl)
theorem dX2_lineOf_31 : decode cX2_lineOf 31 = .ok (.ireturn, 1) := dk_172 (dk_at dksX2_lineOf_1 7 rfl rfl)
theorem q155 : (Jvm.Cond.initialized "SchemeLister$Scheme") ∈ lw_all := lw_g (lw_at lw_m1 5 rfl) rfl
theorem q219 : (Jvm.Cond.instantiable "SchemeLister$Scheme" (5 : Nat)) ∈ lw_all := lw_g (lw_at lw_m1 69 rfl) rfl
theorem q221 : (Jvm.Cond.instanceMethod ({ cls := "SchemeLister$Scheme", name := "<init>", desc := "()V" } : Jvm.MethodName)) ∈ lw_all := lw_g (lw_at lw_m1 71 rfl) rfl
theorem q222 : (Jvm.Cond.code ({ cls := "SchemeLister$Scheme", name := "<init>", desc := "()V" } : Jvm.MethodName) prog_9_method_1_code (1 : Nat) (Option.none : Option Jvm.ClassFile.FieldType)) ∈ lw_all := lw_g (lw_at lw_m1 72 rfl) rfl
theorem q223 : (Jvm.Cond.methodLink "SchemeLister$Scheme" (3 : Nat) ({ cls := "java/lang/Object", name := "<init>", desc := "()V" } : Jvm.MethodName)) ∈ lw_all := lw_g (lw_at lw_m1 73 rfl) rfl
theorem q225 : (Jvm.Cond.fieldLink "SchemeLister$Scheme" (9 : Nat) "SchemeLister$Scheme" "points" "I") ∈ lw_all := lw_g (lw_at lw_m1 75 rfl) rfl
theorem q229 : (Jvm.Cond.fieldLink "SchemeLister$Scheme" (25 : Nat) "SchemeLister$Scheme" "lines" "I") ∈ lw_all := lw_g (lw_at lw_m1 79 rfl) rfl
theorem q232 : (Jvm.Cond.fieldLink "SchemeLister$Scheme" (15 : Nat) "SchemeLister$Scheme" "line" "[I") ∈ lw_all := lw_g (lw_at lw_m1 82 rfl) rfl
theorem q235 : (Jvm.Cond.fieldLink "SchemeLister$Scheme" (19 : Nat) "SchemeLister$Scheme" "x" "[I") ∈ lw_all := lw_g (lw_at lw_m1 85 rfl) rfl
theorem q238 : (Jvm.Cond.fieldLink "SchemeLister$Scheme" (22 : Nat) "SchemeLister$Scheme" "y" "[I") ∈ lw_all := lw_g (lw_at lw_m1 88 rfl) rfl
theorem q241 : (Jvm.Cond.lays "SchemeLister$Scheme" "SchemeLister$Scheme" "points" "I") ∈ lw_all := lw_g (lw_at lw_m1 91 rfl) rfl
theorem q242 : (Jvm.Cond.soleField "SchemeLister$Scheme" "points") ∈ lw_all := lw_g (lw_at lw_m1 92 rfl) rfl
theorem q243 : (Jvm.Cond.lays "SchemeLister$Scheme" "SchemeLister$Scheme" "lines" "I") ∈ lw_all := lw_g (lw_at lw_m1 93 rfl) rfl
theorem q244 : (Jvm.Cond.soleField "SchemeLister$Scheme" "lines") ∈ lw_all := lw_g (lw_at lw_m1 94 rfl) rfl
theorem q245 : (Jvm.Cond.laysFinal "SchemeLister$Scheme" "SchemeLister$Scheme" "line" "[I") ∈ lw_all := lw_g (lw_at lw_m1 95 rfl) rfl
theorem q246 : (Jvm.Cond.soleField "SchemeLister$Scheme" "line") ∈ lw_all := lw_g (lw_at lw_m1 96 rfl) rfl
theorem q247 : (Jvm.Cond.laysFinal "SchemeLister$Scheme" "SchemeLister$Scheme" "x" "[I") ∈ lw_all := lw_g (lw_at lw_m1 97 rfl) rfl
theorem q248 : (Jvm.Cond.soleField "SchemeLister$Scheme" "x") ∈ lw_all := lw_g (lw_at lw_m1 98 rfl) rfl
theorem q249 : (Jvm.Cond.laysFinal "SchemeLister$Scheme" "SchemeLister$Scheme" "y" "[I") ∈ lw_all := lw_g (lw_at lw_m1 99 rfl) rfl
theorem q250 : (Jvm.Cond.soleField "SchemeLister$Scheme" "y") ∈ lw_all := lw_g (lw_at lw_m1 100 rfl) rfl
theorem q251 : (Jvm.Cond.superclass "SchemeLister$Scheme" "java/lang/Object") ∈ lw_all := lw_g (lw_at lw_m1 101 rfl) rfl
theorem q679 : (Jvm.Cond.instanceMethod ({ cls := "SchemeLister$Scheme", name := "canAdd", desc := "(I)Z" } : Jvm.MethodName)) ∈ lw_all := lw_g (lw_at lw_m3 49 rfl) rfl
theorem q680 : (Jvm.Cond.selects "SchemeLister$Scheme" ({ cls := "SchemeLister$Scheme", name := "canAdd", desc := "(I)Z" } : Jvm.MethodName) ({ cls := "SchemeLister$Scheme", name := "canAdd", desc := "(I)Z" } : Jvm.MethodName)) ∈ lw_all := lw_g (lw_at lw_m3 50 rfl) rfl
theorem q681 : (Jvm.Cond.code ({ cls := "SchemeLister$Scheme", name := "canAdd", desc := "(I)Z" } : Jvm.MethodName) prog_9_method_9_code (2 : Nat) (Option.some Jvm.ClassFile.FieldType.boolean)) ∈ lw_all := lw_g (lw_at lw_m3 51 rfl) rfl
theorem q682 : (Jvm.Cond.methodLink "SchemeLister$Scheme" (43 : Nat) ({ cls := "java/lang/Integer", name := "bitCount", desc := "(I)I" } : Jvm.MethodName)) ∈ lw_all := lw_g (lw_at lw_m3 52 rfl) rfl
theorem q688 : (Jvm.Cond.methodLink "SchemeLister$Scheme" (49 : Nat) ({ cls := "SchemeLister$Scheme", name := "isFree", desc := "(I)Z" } : Jvm.MethodName)) ∈ lw_all := lw_g (lw_at lw_m3 58 rfl) rfl
theorem q689 : (Jvm.Cond.instanceMethod ({ cls := "SchemeLister$Scheme", name := "isFree", desc := "(I)Z" } : Jvm.MethodName)) ∈ lw_all := lw_g (lw_at lw_m3 59 rfl) rfl
theorem q690 : (Jvm.Cond.selects "SchemeLister$Scheme" ({ cls := "SchemeLister$Scheme", name := "isFree", desc := "(I)Z" } : Jvm.MethodName) ({ cls := "SchemeLister$Scheme", name := "isFree", desc := "(I)Z" } : Jvm.MethodName)) ∈ lw_all := lw_g (lw_at lw_m3 60 rfl) rfl
theorem q691 : (Jvm.Cond.code ({ cls := "SchemeLister$Scheme", name := "isFree", desc := "(I)Z" } : Jvm.MethodName) prog_9_method_8_code (3 : Nat) (Option.some Jvm.ClassFile.FieldType.boolean)) ∈ lw_all := lw_g (lw_at lw_m3 61 rfl) rfl
theorem q701 : (Jvm.Cond.instanceMethod ({ cls := "SchemeLister$Scheme", name := "copy", desc := "()LSchemeLister$Scheme;" } : Jvm.MethodName)) ∈ lw_all := lw_g (lw_at lw_m3 71 rfl) rfl
theorem q702 : (Jvm.Cond.selects "SchemeLister$Scheme" ({ cls := "SchemeLister$Scheme", name := "copy", desc := "()LSchemeLister$Scheme;" } : Jvm.MethodName) ({ cls := "SchemeLister$Scheme", name := "copy", desc := "()LSchemeLister$Scheme;" } : Jvm.MethodName)) ∈ lw_all := lw_g (lw_at lw_m3 72 rfl) rfl
theorem q703 : (Jvm.Cond.code ({ cls := "SchemeLister$Scheme", name := "copy", desc := "()LSchemeLister$Scheme;" } : Jvm.MethodName) prog_9_method_3_code (2 : Nat) (Option.some (Jvm.ClassFile.FieldType.object "SchemeLister$Scheme"))) ∈ lw_all := lw_g (lw_at lw_m3 73 rfl) rfl
theorem q704 : (Jvm.Cond.classLink "SchemeLister$Scheme" (10 : Nat) "SchemeLister$Scheme") ∈ lw_all := lw_g (lw_at lw_m3 74 rfl) rfl
theorem q705 : (Jvm.Cond.methodLink "SchemeLister$Scheme" (34 : Nat) ({ cls := "SchemeLister$Scheme", name := "<init>", desc := "()V" } : Jvm.MethodName)) ∈ lw_all := lw_g (lw_at lw_m3 75 rfl) rfl
theorem q706 : (Jvm.Cond.methodLink "SchemeLister$Scheme" (35 : Nat) ({ cls := "SchemeLister$Scheme", name := "like", desc := "(LSchemeLister$Scheme;)V" } : Jvm.MethodName)) ∈ lw_all := lw_g (lw_at lw_m3 76 rfl) rfl
theorem q707 : (Jvm.Cond.instanceMethod ({ cls := "SchemeLister$Scheme", name := "like", desc := "(LSchemeLister$Scheme;)V" } : Jvm.MethodName)) ∈ lw_all := lw_g (lw_at lw_m3 77 rfl) rfl
theorem q708 : (Jvm.Cond.selects "SchemeLister$Scheme" ({ cls := "SchemeLister$Scheme", name := "like", desc := "(LSchemeLister$Scheme;)V" } : Jvm.MethodName) ({ cls := "SchemeLister$Scheme", name := "like", desc := "(LSchemeLister$Scheme;)V" } : Jvm.MethodName)) ∈ lw_all := lw_g (lw_at lw_m3 78 rfl) rfl
theorem q709 : (Jvm.Cond.code ({ cls := "SchemeLister$Scheme", name := "like", desc := "(LSchemeLister$Scheme;)V" } : Jvm.MethodName) prog_9_method_2_code (2 : Nat) (Option.none : Option Jvm.ClassFile.FieldType)) ∈ lw_all := lw_g (lw_at lw_m3 79 rfl) rfl
theorem q710 : (Jvm.Cond.methodLink "SchemeLister$Scheme" (28 : Nat) ({ cls := "java/lang/System", name := "arraycopy", desc := "(Ljava/lang/Object;ILjava/lang/Object;II)V" } : Jvm.MethodName)) ∈ lw_all := lw_g (lw_at lw_m3 80 rfl) rfl
theorem q778 : (Jvm.Cond.selects "SchemeLister$Scheme" ({ cls := "java/lang/Object", name := "getClass", desc := "()Ljava/lang/Class;" } : Jvm.MethodName) ({ cls := "java/lang/Object", name := "getClass", desc := "()Ljava/lang/Class;" } : Jvm.MethodName)) ∈ lw_all := lw_g (lw_at lw_m3 148 rfl) rfl
theorem q797 : (Jvm.Cond.instanceMethod ({ cls := "SchemeLister$Scheme", name := "adds", desc := "(I)V" } : Jvm.MethodName)) ∈ lw_all := lw_g (lw_at lw_m3 167 rfl) rfl
theorem q798 : (Jvm.Cond.selects "SchemeLister$Scheme" ({ cls := "SchemeLister$Scheme", name := "adds", desc := "(I)V" } : Jvm.MethodName) ({ cls := "SchemeLister$Scheme", name := "adds", desc := "(I)V" } : Jvm.MethodName)) ∈ lw_all := lw_g (lw_at lw_m3 168 rfl) rfl
theorem q799 : (Jvm.Cond.code ({ cls := "SchemeLister$Scheme", name := "adds", desc := "(I)V" } : Jvm.MethodName) prog_9_method_10_code (2 : Nat) (Option.none : Option Jvm.ClassFile.FieldType)) ∈ lw_all := lw_g (lw_at lw_m3 169 rfl) rfl
theorem q805 : (Jvm.Cond.instanceMethod ({ cls := "SchemeLister$Scheme", name := "drops", desc := "(I)V" } : Jvm.MethodName)) ∈ lw_all := lw_g (lw_at lw_m3 175 rfl) rfl
theorem q806 : (Jvm.Cond.selects "SchemeLister$Scheme" ({ cls := "SchemeLister$Scheme", name := "drops", desc := "(I)V" } : Jvm.MethodName) ({ cls := "SchemeLister$Scheme", name := "drops", desc := "(I)V" } : Jvm.MethodName)) ∈ lw_all := lw_g (lw_at lw_m3 176 rfl) rfl
theorem q807 : (Jvm.Cond.code ({ cls := "SchemeLister$Scheme", name := "drops", desc := "(I)V" } : Jvm.MethodName) prog_9_method_11_code (3 : Nat) (Option.none : Option Jvm.ClassFile.FieldType)) ∈ lw_all := lw_g (lw_at lw_m3 177 rfl) rfl
theorem q813 : (Jvm.Cond.instanceMethod ({ cls := "SchemeLister$Scheme", name := "isPoint", desc := "(I)Z" } : Jvm.MethodName)) ∈ lw_all := lw_g (lw_at lw_m3 183 rfl) rfl
theorem q814 : (Jvm.Cond.selects "SchemeLister$Scheme" ({ cls := "SchemeLister$Scheme", name := "isPoint", desc := "(I)Z" } : Jvm.MethodName) ({ cls := "SchemeLister$Scheme", name := "isPoint", desc := "(I)Z" } : Jvm.MethodName)) ∈ lw_all := lw_g (lw_at lw_m3 184 rfl) rfl
theorem q815 : (Jvm.Cond.code ({ cls := "SchemeLister$Scheme", name := "isPoint", desc := "(I)Z" } : Jvm.MethodName) prog_9_method_4_code (2 : Nat) (Option.some Jvm.ClassFile.FieldType.boolean)) ∈ lw_all := lw_g (lw_at lw_m3 185 rfl) rfl
theorem q820 : (Jvm.Cond.instanceMethod ({ cls := "SchemeLister$Scheme", name := "swaps", desc := "(II)V" } : Jvm.MethodName)) ∈ lw_all := lw_g (lw_at lw_m3 190 rfl) rfl
theorem q821 : (Jvm.Cond.selects "SchemeLister$Scheme" ({ cls := "SchemeLister$Scheme", name := "swaps", desc := "(II)V" } : Jvm.MethodName) ({ cls := "SchemeLister$Scheme", name := "swaps", desc := "(II)V" } : Jvm.MethodName)) ∈ lw_all := lw_g (lw_at lw_m3 191 rfl) rfl
theorem q822 : (Jvm.Cond.code ({ cls := "SchemeLister$Scheme", name := "swaps", desc := "(II)V" } : Jvm.MethodName) prog_9_method_13_code (5 : Nat) (Option.none : Option Jvm.ClassFile.FieldType)) ∈ lw_all := lw_g (lw_at lw_m3 192 rfl) rfl
theorem q823 : (Jvm.Cond.methodLink "SchemeLister$Scheme" (53 : Nat) ({ cls := "SchemeLister$Scheme", name := "swapped", desc := "(III)I" } : Jvm.MethodName)) ∈ lw_all := lw_g (lw_at lw_m3 193 rfl) rfl
theorem q824 : (Jvm.Cond.static ({ cls := "SchemeLister$Scheme", name := "swapped", desc := "(III)I" } : Jvm.MethodName)) ∈ lw_all := lw_g (lw_at lw_m3 194 rfl) rfl
theorem q825 : (Jvm.Cond.code ({ cls := "SchemeLister$Scheme", name := "swapped", desc := "(III)I" } : Jvm.MethodName) prog_9_method_12_code (4 : Nat) (Option.some Jvm.ClassFile.FieldType.int)) ∈ lw_all := lw_g (lw_at lw_m3 195 rfl) rfl
theorem q832 : (Jvm.Cond.instanceMethod ({ cls := "SchemeLister$Scheme", name := "dual", desc := "()LSchemeLister$Scheme;" } : Jvm.MethodName)) ∈ lw_all := lw_g (lw_at lw_m3 202 rfl) rfl
theorem q833 : (Jvm.Cond.selects "SchemeLister$Scheme" ({ cls := "SchemeLister$Scheme", name := "dual", desc := "()LSchemeLister$Scheme;" } : Jvm.MethodName) ({ cls := "SchemeLister$Scheme", name := "dual", desc := "()LSchemeLister$Scheme;" } : Jvm.MethodName)) ∈ lw_all := lw_g (lw_at lw_m3 203 rfl) rfl
theorem q834 : (Jvm.Cond.code ({ cls := "SchemeLister$Scheme", name := "dual", desc := "()LSchemeLister$Scheme;" } : Jvm.MethodName) prog_9_method_14_code (4 : Nat) (Option.some (Jvm.ClassFile.FieldType.object "SchemeLister$Scheme"))) ∈ lw_all := lw_g (lw_at lw_m3 204 rfl) rfl
theorem q835 : (Jvm.Cond.classLink "SchemeLister$Scheme" (57 : Nat) "SchemeLister$NoDual") ∈ lw_all := lw_g (lw_at lw_m3 205 rfl) rfl
theorem q844 : (Jvm.Cond.stringRef "SchemeLister$Scheme" (59 : Nat) "lines") ∈ lw_tbl := lw_at lw_m3 214 rfl
theorem q845 : (Jvm.Cond.methodLink "SchemeLister$Scheme" (60 : Nat) ({ cls := "SchemeLister$NoDual", name := "<init>", desc := "(Ljava/lang/String;)V" } : Jvm.MethodName)) ∈ lw_all := lw_g (lw_at lw_m3 215 rfl) rfl
theorem q851 : (Jvm.Cond.methodLink "SchemeLister$Scheme" (63 : Nat) ({ cls := "SchemeLister$Scheme", name := "through", desc := "(I)I" } : Jvm.MethodName)) ∈ lw_all := lw_g (lw_at lw_m3 221 rfl) rfl
theorem q852 : (Jvm.Cond.instanceMethod ({ cls := "SchemeLister$Scheme", name := "through", desc := "(I)I" } : Jvm.MethodName)) ∈ lw_all := lw_g (lw_at lw_m3 222 rfl) rfl
theorem q853 : (Jvm.Cond.selects "SchemeLister$Scheme" ({ cls := "SchemeLister$Scheme", name := "through", desc := "(I)I" } : Jvm.MethodName) ({ cls := "SchemeLister$Scheme", name := "through", desc := "(I)I" } : Jvm.MethodName)) ∈ lw_all := lw_g (lw_at lw_m3 223 rfl) rfl
theorem q854 : (Jvm.Cond.code ({ cls := "SchemeLister$Scheme", name := "through", desc := "(I)I" } : Jvm.MethodName) prog_9_method_6_code (4 : Nat) (Option.some Jvm.ClassFile.FieldType.int)) ∈ lw_all := lw_g (lw_at lw_m3 224 rfl) rfl
theorem q855 : (Jvm.Cond.methodLink "SchemeLister$Scheme" (39 : Nat) ({ cls := "SchemeLister$Scheme", name := "isOn", desc := "(II)Z" } : Jvm.MethodName)) ∈ lw_all := lw_g (lw_at lw_m3 225 rfl) rfl
theorem q856 : (Jvm.Cond.instanceMethod ({ cls := "SchemeLister$Scheme", name := "isOn", desc := "(II)Z" } : Jvm.MethodName)) ∈ lw_all := lw_g (lw_at lw_m3 226 rfl) rfl
theorem q857 : (Jvm.Cond.selects "SchemeLister$Scheme" ({ cls := "SchemeLister$Scheme", name := "isOn", desc := "(II)Z" } : Jvm.MethodName) ({ cls := "SchemeLister$Scheme", name := "isOn", desc := "(II)Z" } : Jvm.MethodName)) ∈ lw_all := lw_g (lw_at lw_m3 227 rfl) rfl
theorem q858 : (Jvm.Cond.code ({ cls := "SchemeLister$Scheme", name := "isOn", desc := "(II)Z" } : Jvm.MethodName) prog_9_method_5_code (3 : Nat) (Option.some Jvm.ClassFile.FieldType.boolean)) ∈ lw_all := lw_g (lw_at lw_m3 228 rfl) rfl
theorem q859 : (Jvm.Cond.stringRef "SchemeLister$Scheme" (66 : Nat) "a point on too many") ∈ lw_tbl := lw_at lw_m3 229 rfl
theorem q860 : (Jvm.Cond.methodLink "SchemeLister$Scheme" (68 : Nat) ({ cls := "SchemeLister$Scheme", name := "adds", desc := "(I)V" } : Jvm.MethodName)) ∈ lw_all := lw_g (lw_at lw_m3 230 rfl) rfl
theorem q866 : (Jvm.Cond.instanceMethod ({ cls := "SchemeLister$Scheme", name := "grows", desc := "()V" } : Jvm.MethodName)) ∈ lw_all := lw_g (lw_at lw_m3 236 rfl) rfl
theorem q867 : (Jvm.Cond.selects "SchemeLister$Scheme" ({ cls := "SchemeLister$Scheme", name := "grows", desc := "()V" } : Jvm.MethodName) ({ cls := "SchemeLister$Scheme", name := "grows", desc := "()V" } : Jvm.MethodName)) ∈ lw_all := lw_g (lw_at lw_m3 237 rfl) rfl
theorem q868 : (Jvm.Cond.code ({ cls := "SchemeLister$Scheme", name := "grows", desc := "()V" } : Jvm.MethodName) prog_9_method_15_code (1 : Nat) (Option.none : Option Jvm.ClassFile.FieldType)) ∈ lw_all := lw_g (lw_at lw_m3 238 rfl) rfl
theorem q870 : (Jvm.Cond.instanceMethod ({ cls := "SchemeLister$Scheme", name := "shrinks", desc := "()V" } : Jvm.MethodName)) ∈ lw_all := lw_g (lw_at lw_m4 0 rfl) rfl
theorem q871 : (Jvm.Cond.selects "SchemeLister$Scheme" ({ cls := "SchemeLister$Scheme", name := "shrinks", desc := "()V" } : Jvm.MethodName) ({ cls := "SchemeLister$Scheme", name := "shrinks", desc := "()V" } : Jvm.MethodName)) ∈ lw_all := lw_g (lw_at lw_m4 1 rfl) rfl
theorem q872 : (Jvm.Cond.code ({ cls := "SchemeLister$Scheme", name := "shrinks", desc := "()V" } : Jvm.MethodName) prog_9_method_16_code (2 : Nat) (Option.none : Option Jvm.ClassFile.FieldType)) ∈ lw_all := lw_g (lw_at lw_m4 2 rfl) rfl
theorem q873 : (Jvm.Cond.methodLink "SchemeLister$Scheme" (72 : Nat) ({ cls := "SchemeLister$Scheme", name := "drops", desc := "(I)V" } : Jvm.MethodName)) ∈ lw_all := lw_g (lw_at lw_m4 3 rfl) rfl
theorem q1219 : (Jvm.Cond.instanceMethod ({ cls := "SchemeLister$Scheme", name := "lineOf", desc := "(I)I" } : Jvm.MethodName)) ∈ lw_all := lw_g (lw_at lw_m5 109 rfl) rfl
theorem q1220 : (Jvm.Cond.selects "SchemeLister$Scheme" ({ cls := "SchemeLister$Scheme", name := "lineOf", desc := "(I)I" } : Jvm.MethodName) ({ cls := "SchemeLister$Scheme", name := "lineOf", desc := "(I)I" } : Jvm.MethodName)) ∈ lw_all := lw_g (lw_at lw_m5 110 rfl) rfl
theorem q1221 : (Jvm.Cond.code ({ cls := "SchemeLister$Scheme", name := "lineOf", desc := "(I)I" } : Jvm.MethodName) prog_9_method_7_code (3 : Nat) (Option.some Jvm.ClassFile.FieldType.int)) ∈ lw_all := lw_g (lw_at lw_m5 111 rfl) rfl
theorem q2319 : (Jvm.Cond.castable "SchemeLister$Scheme" "java/lang/Object") ∈ lw_tbl := lw_at lw_m10 9 rfl
theorem in_X2 : ∀ w ∈ wsX20, w ∈ lw_all := lw_in wsX20 [241, 243, 245, 247, 249] (by decide +kernel) (by decide +kernel)

/-! SchemeLister$Reader -/
set_option maxRecDepth 100000
def RX4 : String := "SchemeLister$Reader"
def TX4 : u_T := fun k => match k with
  | 0 => ("SchemeLister$Reader", "text", "[B", true)
  | 1 => ("SchemeLister$Reader", "size", "I", true)
  | 2 => ("SchemeLister$Reader", "next", "I", false)
  | 3 => ("SchemeLister$Reader", "place", "I", false)
  | 4 => ("SchemeLister$Reader", "value", "I", false)
  | 5 => ("SchemeLister$Reader", "clauses", "I", false)
  | 6 => ("SchemeLister$Reader", "sort", "LSchemeLister$Sort;", false)
  | 7 => ("SchemeLister$Reader", "word", "Ljava/lang/String;", false)
  | _ => ("SchemeLister$Reader", "made", "LSchemeLister$Scheme;", true)
def tyX4 : Nat → FieldType := fun k => match k with
  | 0 => .array .byte
  | 1 => .int
  | 2 => .int
  | 3 => .int
  | 4 => .int
  | 5 => .int
  | 6 => .object "SchemeLister$Sort"
  | 7 => .object "java/lang/String"
  | _ => .object "SchemeLister$Scheme"
abbrev wsX40 : List Cond := u_ws RX4 TX4 9
theorem nmX4 : ∀ a, a < 9 → ∀ b, b < 9 → a ≠ b → (TX4 a).2.1 ≠ (TX4 b).2.1 := by decide +kernel
theorem tyX4_ok : ∀ k, k < 9 → parseFieldDescriptor (TX4 k).2.2.1 = some (tyX4 k) := by decide +kernel
abbrev cX4_init : ByteArray := prog_7_method_1_code
def yX4_init : MethodName := ⟨RX4, "<init>", "([BI)V"⟩
def dkwX4_init_1 : List UInt8 := [181, 0, 24, 42, 28, 181, 0, 28, 42, 182, 0, 32, 177]
abbrev dktX4_init_1 : List UInt8 := dkwX4_init_1 ++ []
def dkwX4_init_0 : List UInt8 := [42, 183, 0, 3, 42, 18, 9, 181, 0, 11, 42, 187, 0, 17, 89, 183, 0, 19, 181, 0, 20, 42, 43]
abbrev dktX4_init_0 : List UInt8 := dkwX4_init_0 ++ dktX4_init_1
theorem dksX4_init_0 : cX4_init.data.toList.drop 0 = dktX4_init_0 := by decide +kernel
theorem dksX4_init_1 : cX4_init.data.toList.drop 23 = dktX4_init_1 := dk_seg dksX4_init_0 23 rfl rfl
theorem dX4_init_0 : decode cX4_init 0 = .ok (.aload_n 0, 1) := dk_42 (dk_at dksX4_init_0 0 rfl rfl)
theorem dX4_init_1 : decode cX4_init 1 = .ok (.invokespecial 3, 3) := dk_183 0 3 (dk_at dksX4_init_0 1 rfl rfl)
theorem dX4_init_4 : decode cX4_init 4 = .ok (.aload_n 0, 1) := dk_42 (dk_at dksX4_init_0 4 rfl rfl)
theorem dX4_init_5 : decode cX4_init 5 = .ok (.ldc 9, 2) := dk_18 9 (dk_at dksX4_init_0 5 rfl rfl)
theorem dX4_init_7 : decode cX4_init 7 = .ok (.putfield 11, 3) := dk_181 0 11 (dk_at dksX4_init_0 7 rfl rfl)
theorem dX4_init_10 : decode cX4_init 10 = .ok (.aload_n 0, 1) := dk_42 (dk_at dksX4_init_0 10 rfl rfl)
theorem dX4_init_11 : decode cX4_init 11 = .ok (.new 17, 3) := dk_187 0 17 (dk_at dksX4_init_0 11 rfl rfl)
theorem dX4_init_14 : decode cX4_init 14 = .ok (.dup, 1) := dk_89 (dk_at dksX4_init_0 14 rfl rfl)
theorem dX4_init_15 : decode cX4_init 15 = .ok (.invokespecial 19, 3) := dk_183 0 19 (dk_at dksX4_init_0 15 rfl rfl)
theorem dX4_init_18 : decode cX4_init 18 = .ok (.putfield 20, 3) := dk_181 0 20 (dk_at dksX4_init_0 18 rfl rfl)
theorem dX4_init_21 : decode cX4_init 21 = .ok (.aload_n 0, 1) := dk_42 (dk_at dksX4_init_0 21 rfl rfl)
theorem dX4_init_22 : decode cX4_init 22 = .ok (.aload_n 1, 1) := dk_43 (dk_at dksX4_init_0 22 rfl rfl)
theorem dX4_init_23 : decode cX4_init 23 = .ok (.putfield 24, 3) := dk_181 0 24 (dk_at dksX4_init_1 0 rfl rfl)
theorem dX4_init_26 : decode cX4_init 26 = .ok (.aload_n 0, 1) := dk_42 (dk_at dksX4_init_1 3 rfl rfl)
theorem dX4_init_27 : decode cX4_init 27 = .ok (.iload_n 2, 1) := dk_28 (dk_at dksX4_init_1 4 rfl rfl)
theorem dX4_init_28 : decode cX4_init 28 = .ok (.putfield 28, 3) := dk_181 0 28 (dk_at dksX4_init_1 5 rfl rfl)
theorem dX4_init_31 : decode cX4_init 31 = .ok (.aload_n 0, 1) := dk_42 (dk_at dksX4_init_1 8 rfl rfl)
theorem dX4_init_32 : decode cX4_init 32 = .ok (.invokevirtual 32, 3) := dk_182 0 32 (dk_at dksX4_init_1 9 rfl rfl)
theorem dX4_init_35 : decode cX4_init 35 = .ok (.return_, 1) := dk_177 (dk_at dksX4_init_1 12 rfl rfl)
abbrev cX4_go : ByteArray := prog_7_method_5_code
def yX4_go : MethodName := ⟨RX4, "go", "()V"⟩
def dkwX4_go_12 : List UInt8 := [27, 181, 0, 81, 42, 89, 180, 0, 35, 4, 96, 181, 0, 35, 177]
abbrev dktX4_go_12 : List UInt8 := dkwX4_go_12 ++ []
def dkwX4_go_11 : List UInt8 := [16, 59, 159, 0, 9, 27, 16, 45, 160, 0, 9, 178, 0, 87, 167, 0, 6, 178, 0, 90, 181, 0, 51, 42]
abbrev dktX4_go_11 : List UInt8 := dkwX4_go_11 ++ dktX4_go_12
def dkwX4_go_10 : List UInt8 := [180, 0, 35, 4, 96, 181, 0, 35, 167, 255, 214, 42, 178, 0, 84, 181, 0, 51, 167, 0, 43, 42, 27]
abbrev dktX4_go_10 : List UInt8 := dkwX4_go_10 ++ dktX4_go_11
def dkwX4_go_9 : List UInt8 := [153, 0, 34, 42, 180, 0, 35, 42, 180, 0, 42, 164, 0, 10, 42, 17, 3, 231, 181, 0, 81, 42, 89]
abbrev dktX4_go_9 : List UInt8 := dkwX4_go_9 ++ dktX4_go_10
def dkwX4_go_8 : List UInt8 := [153, 0, 66, 42, 27, 16, 48, 100, 181, 0, 81, 42, 42, 180, 0, 35, 182, 0, 38, 184, 0, 78]
abbrev dktX4_go_8 : List UInt8 := dkwX4_go_8 ++ dktX4_go_9
def dkwX4_go_7 : List UInt8 := [42, 44, 182, 0, 71, 181, 0, 11, 42, 178, 0, 75, 181, 0, 51, 167, 0, 113, 27, 184, 0, 78]
abbrev dktX4_go_7 : List UInt8 := dkwX4_go_7 ++ dktX4_go_8
def dkwX4_go_6 : List UInt8 := [180, 0, 35, 182, 0, 38, 146, 182, 0, 67, 87, 42, 89, 180, 0, 35, 4, 96, 181, 0, 35, 167, 255, 209]
abbrev dktX4_go_6 : List UInt8 := dkwX4_go_6 ++ dktX4_go_7
def dkwX4_go_5 : List UInt8 := [180, 0, 35, 182, 0, 38, 184, 0, 54, 153, 0, 39, 44, 182, 0, 63, 16, 7, 162, 0, 17, 44, 42, 42]
abbrev dktX4_go_5 : List UInt8 := dkwX4_go_5 ++ dktX4_go_6
def dkwX4_go_4 : List UInt8 := [167, 0, 198, 27, 184, 0, 54, 153, 0, 81, 187, 0, 58, 89, 16, 7, 183, 0, 60, 77, 42, 42]
abbrev dktX4_go_4 : List UInt8 := dkwX4_go_4 ++ dktX4_go_5
def dkwX4_go_3 : List UInt8 := [182, 0, 38, 60, 42, 180, 0, 35, 42, 180, 0, 28, 161, 0, 13, 42, 178, 0, 45, 181, 0, 51]
abbrev dktX4_go_3 : List UInt8 := dkwX4_go_3 ++ dktX4_go_4
def dkwX4_go_2 : List UInt8 := [167, 255, 209, 42, 42, 180, 0, 35, 181, 0, 42, 42, 18, 9, 181, 0, 11, 42, 42, 180, 0, 35]
abbrev dktX4_go_2 : List UInt8 := dkwX4_go_2 ++ dktX4_go_3
def dkwX4_go_1 : List UInt8 := [42, 42, 180, 0, 35, 182, 0, 38, 16, 10, 160, 0, 16, 42, 89, 180, 0, 35, 4, 96, 181, 0, 35]
abbrev dktX4_go_1 : List UInt8 := dkwX4_go_1 ++ dktX4_go_2
def dkwX4_go_0 : List UInt8 := [42, 180, 0, 35, 42, 180, 0, 28, 162, 0, 42, 42, 42, 180, 0, 35, 182, 0, 38, 16, 32, 159, 0, 16]
abbrev dktX4_go_0 : List UInt8 := dkwX4_go_0 ++ dktX4_go_1
theorem dksX4_go_0 : cX4_go.data.toList.drop 0 = dktX4_go_0 := by decide +kernel
theorem dksX4_go_1 : cX4_go.data.toList.drop 24 = dktX4_go_1 := dk_seg dksX4_go_0 24 rfl rfl
theorem dksX4_go_2 : cX4_go.data.toList.drop 47 = dktX4_go_2 := dk_seg dksX4_go_1 23 rfl rfl
theorem dksX4_go_3 : cX4_go.data.toList.drop 69 = dktX4_go_3 := dk_seg dksX4_go_2 22 rfl rfl
theorem dksX4_go_4 : cX4_go.data.toList.drop 91 = dktX4_go_4 := dk_seg dksX4_go_3 22 rfl rfl
theorem dksX4_go_5 : cX4_go.data.toList.drop 113 = dktX4_go_5 := dk_seg dksX4_go_4 22 rfl rfl
theorem dksX4_go_6 : cX4_go.data.toList.drop 137 = dktX4_go_6 := dk_seg dksX4_go_5 24 rfl rfl
theorem dksX4_go_7 : cX4_go.data.toList.drop 161 = dktX4_go_7 := dk_seg dksX4_go_6 24 rfl rfl
theorem dksX4_go_8 : cX4_go.data.toList.drop 183 = dktX4_go_8 := dk_seg dksX4_go_7 22 rfl rfl
theorem dksX4_go_9 : cX4_go.data.toList.drop 205 = dktX4_go_9 := dk_seg dksX4_go_8 22 rfl rfl
theorem dksX4_go_10 : cX4_go.data.toList.drop 228 = dktX4_go_10 := dk_seg dksX4_go_9 23 rfl rfl
theorem dksX4_go_11 : cX4_go.data.toList.drop 251 = dktX4_go_11 := dk_seg dksX4_go_10 23 rfl rfl
theorem dksX4_go_12 : cX4_go.data.toList.drop 275 = dktX4_go_12 := dk_seg dksX4_go_11 24 rfl rfl
theorem dX4_go_0 : decode cX4_go 0 = .ok (.aload_n 0, 1) := dk_42 (dk_at dksX4_go_0 0 rfl rfl)
theorem dX4_go_1 : decode cX4_go 1 = .ok (.getfield 35, 3) := dk_180 0 35 (dk_at dksX4_go_0 1 rfl rfl)
theorem dX4_go_4 : decode cX4_go 4 = .ok (.aload_n 0, 1) := dk_42 (dk_at dksX4_go_0 4 rfl rfl)
theorem dX4_go_5 : decode cX4_go 5 = .ok (.getfield 28, 3) := dk_180 0 28 (dk_at dksX4_go_0 5 rfl rfl)
theorem dX4_go_8 : decode cX4_go 8 = .ok (.if_icmp .ge 42, 3) := dk_162 0 42 (dk_at dksX4_go_0 8 rfl rfl)
theorem dX4_go_11 : decode cX4_go 11 = .ok (.aload_n 0, 1) := dk_42 (dk_at dksX4_go_0 11 rfl rfl)
theorem dX4_go_12 : decode cX4_go 12 = .ok (.aload_n 0, 1) := dk_42 (dk_at dksX4_go_0 12 rfl rfl)
theorem dX4_go_13 : decode cX4_go 13 = .ok (.getfield 35, 3) := dk_180 0 35 (dk_at dksX4_go_0 13 rfl rfl)
theorem dX4_go_16 : decode cX4_go 16 = .ok (.invokevirtual 38, 3) := dk_182 0 38 (dk_at dksX4_go_0 16 rfl rfl)
theorem dX4_go_19 : decode cX4_go 19 = .ok (.bipush 32, 2) := dk_16 32 (dk_at dksX4_go_0 19 rfl rfl)
theorem dX4_go_21 : decode cX4_go 21 = .ok (.if_icmp .eq 16, 3) := dk_159 0 16 (dk_at dksX4_go_0 21 rfl rfl)
theorem dX4_go_24 : decode cX4_go 24 = .ok (.aload_n 0, 1) := dk_42 (dk_at dksX4_go_1 0 rfl rfl)
theorem dX4_go_25 : decode cX4_go 25 = .ok (.aload_n 0, 1) := dk_42 (dk_at dksX4_go_1 1 rfl rfl)
theorem dX4_go_26 : decode cX4_go 26 = .ok (.getfield 35, 3) := dk_180 0 35 (dk_at dksX4_go_1 2 rfl rfl)
theorem dX4_go_29 : decode cX4_go 29 = .ok (.invokevirtual 38, 3) := dk_182 0 38 (dk_at dksX4_go_1 5 rfl rfl)
theorem dX4_go_32 : decode cX4_go 32 = .ok (.bipush 10, 2) := dk_16 10 (dk_at dksX4_go_1 8 rfl rfl)
theorem dX4_go_34 : decode cX4_go 34 = .ok (.if_icmp .ne 16, 3) := dk_160 0 16 (dk_at dksX4_go_1 10 rfl rfl)
theorem dX4_go_37 : decode cX4_go 37 = .ok (.aload_n 0, 1) := dk_42 (dk_at dksX4_go_1 13 rfl rfl)
theorem dX4_go_38 : decode cX4_go 38 = .ok (.dup, 1) := dk_89 (dk_at dksX4_go_1 14 rfl rfl)
theorem dX4_go_39 : decode cX4_go 39 = .ok (.getfield 35, 3) := dk_180 0 35 (dk_at dksX4_go_1 15 rfl rfl)
theorem dX4_go_42 : decode cX4_go 42 = .ok (.iconst 1, 1) := dk_4 (dk_at dksX4_go_1 18 rfl rfl)
theorem dX4_go_43 : decode cX4_go 43 = .ok (.iadd, 1) := dk_96 (dk_at dksX4_go_1 19 rfl rfl)
theorem dX4_go_44 : decode cX4_go 44 = .ok (.putfield 35, 3) := dk_181 0 35 (dk_at dksX4_go_1 20 rfl rfl)
theorem dX4_go_47 : decode cX4_go 47 = .ok (.goto (-47), 3) := dk_167 255 209 (dk_at dksX4_go_2 0 rfl rfl)
theorem dX4_go_50 : decode cX4_go 50 = .ok (.aload_n 0, 1) := dk_42 (dk_at dksX4_go_2 3 rfl rfl)
theorem dX4_go_51 : decode cX4_go 51 = .ok (.aload_n 0, 1) := dk_42 (dk_at dksX4_go_2 4 rfl rfl)
theorem dX4_go_52 : decode cX4_go 52 = .ok (.getfield 35, 3) := dk_180 0 35 (dk_at dksX4_go_2 5 rfl rfl)
theorem dX4_go_55 : decode cX4_go 55 = .ok (.putfield 42, 3) := dk_181 0 42 (dk_at dksX4_go_2 8 rfl rfl)
theorem dX4_go_58 : decode cX4_go 58 = .ok (.aload_n 0, 1) := dk_42 (dk_at dksX4_go_2 11 rfl rfl)
theorem dX4_go_59 : decode cX4_go 59 = .ok (.ldc 9, 2) := dk_18 9 (dk_at dksX4_go_2 12 rfl rfl)
theorem dX4_go_61 : decode cX4_go 61 = .ok (.putfield 11, 3) := dk_181 0 11 (dk_at dksX4_go_2 14 rfl rfl)
theorem dX4_go_64 : decode cX4_go 64 = .ok (.aload_n 0, 1) := dk_42 (dk_at dksX4_go_2 17 rfl rfl)
theorem dX4_go_65 : decode cX4_go 65 = .ok (.aload_n 0, 1) := dk_42 (dk_at dksX4_go_2 18 rfl rfl)
theorem dX4_go_66 : decode cX4_go 66 = .ok (.getfield 35, 3) := dk_180 0 35 (dk_at dksX4_go_2 19 rfl rfl)
theorem dX4_go_69 : decode cX4_go 69 = .ok (.invokevirtual 38, 3) := dk_182 0 38 (dk_at dksX4_go_3 0 rfl rfl)
theorem dX4_go_72 : decode cX4_go 72 = .ok (.istore_n 1, 1) := dk_60 (dk_at dksX4_go_3 3 rfl rfl)
theorem dX4_go_73 : decode cX4_go 73 = .ok (.aload_n 0, 1) := dk_42 (dk_at dksX4_go_3 4 rfl rfl)
theorem dX4_go_74 : decode cX4_go 74 = .ok (.getfield 35, 3) := dk_180 0 35 (dk_at dksX4_go_3 5 rfl rfl)
theorem dX4_go_77 : decode cX4_go 77 = .ok (.aload_n 0, 1) := dk_42 (dk_at dksX4_go_3 8 rfl rfl)
theorem dX4_go_78 : decode cX4_go 78 = .ok (.getfield 28, 3) := dk_180 0 28 (dk_at dksX4_go_3 9 rfl rfl)
theorem dX4_go_81 : decode cX4_go 81 = .ok (.if_icmp .lt 13, 3) := dk_161 0 13 (dk_at dksX4_go_3 12 rfl rfl)
theorem dX4_go_84 : decode cX4_go 84 = .ok (.aload_n 0, 1) := dk_42 (dk_at dksX4_go_3 15 rfl rfl)
theorem dX4_go_85 : decode cX4_go 85 = .ok (.getstatic 45, 3) := dk_178 0 45 (dk_at dksX4_go_3 16 rfl rfl)
theorem dX4_go_88 : decode cX4_go 88 = .ok (.putfield 51, 3) := dk_181 0 51 (dk_at dksX4_go_3 19 rfl rfl)
theorem dX4_go_91 : decode cX4_go 91 = .ok (.goto 198, 3) := dk_167 0 198 (dk_at dksX4_go_4 0 rfl rfl)
theorem dX4_go_94 : decode cX4_go 94 = .ok (.iload_n 1, 1) := dk_27 (dk_at dksX4_go_4 3 rfl rfl)
theorem dX4_go_95 : decode cX4_go 95 = .ok (.invokestatic 54, 3) := dk_184 0 54 (dk_at dksX4_go_4 4 rfl rfl)
theorem dX4_go_98 : decode cX4_go 98 = .ok (.ifCond .eq 81, 3) := dk_153 0 81 (dk_at dksX4_go_4 7 rfl rfl)
theorem dX4_go_101 : decode cX4_go 101 = .ok (.new 58, 3) := dk_187 0 58 (dk_at dksX4_go_4 10 rfl rfl)
theorem dX4_go_104 : decode cX4_go 104 = .ok (.dup, 1) := dk_89 (dk_at dksX4_go_4 13 rfl rfl)
theorem dX4_go_105 : decode cX4_go 105 = .ok (.bipush 7, 2) := dk_16 7 (dk_at dksX4_go_4 14 rfl rfl)
theorem dX4_go_107 : decode cX4_go 107 = .ok (.invokespecial 60, 3) := dk_183 0 60 (dk_at dksX4_go_4 16 rfl rfl)
theorem dX4_go_110 : decode cX4_go 110 = .ok (.astore_n 2, 1) := dk_77 (dk_at dksX4_go_4 19 rfl rfl)
theorem dX4_go_111 : decode cX4_go 111 = .ok (.aload_n 0, 1) := dk_42 (dk_at dksX4_go_4 20 rfl rfl)
theorem dX4_go_112 : decode cX4_go 112 = .ok (.aload_n 0, 1) := dk_42 (dk_at dksX4_go_4 21 rfl rfl)
theorem dX4_go_113 : decode cX4_go 113 = .ok (.getfield 35, 3) := dk_180 0 35 (dk_at dksX4_go_5 0 rfl rfl)
theorem dX4_go_116 : decode cX4_go 116 = .ok (.invokevirtual 38, 3) := dk_182 0 38 (dk_at dksX4_go_5 3 rfl rfl)
theorem dX4_go_119 : decode cX4_go 119 = .ok (.invokestatic 54, 3) := dk_184 0 54 (dk_at dksX4_go_5 6 rfl rfl)
theorem dX4_go_122 : decode cX4_go 122 = .ok (.ifCond .eq 39, 3) := dk_153 0 39 (dk_at dksX4_go_5 9 rfl rfl)
theorem dX4_go_125 : decode cX4_go 125 = .ok (.aload_n 2, 1) := dk_44 (dk_at dksX4_go_5 12 rfl rfl)
theorem dX4_go_126 : decode cX4_go 126 = .ok (.invokevirtual 63, 3) := dk_182 0 63 (dk_at dksX4_go_5 13 rfl rfl)
theorem dX4_go_129 : decode cX4_go 129 = .ok (.bipush 7, 2) := dk_16 7 (dk_at dksX4_go_5 16 rfl rfl)
theorem dX4_go_131 : decode cX4_go 131 = .ok (.if_icmp .ge 17, 3) := dk_162 0 17 (dk_at dksX4_go_5 18 rfl rfl)
theorem dX4_go_134 : decode cX4_go 134 = .ok (.aload_n 2, 1) := dk_44 (dk_at dksX4_go_5 21 rfl rfl)
theorem dX4_go_135 : decode cX4_go 135 = .ok (.aload_n 0, 1) := dk_42 (dk_at dksX4_go_5 22 rfl rfl)
theorem dX4_go_136 : decode cX4_go 136 = .ok (.aload_n 0, 1) := dk_42 (dk_at dksX4_go_5 23 rfl rfl)
theorem dX4_go_137 : decode cX4_go 137 = .ok (.getfield 35, 3) := dk_180 0 35 (dk_at dksX4_go_6 0 rfl rfl)
theorem dX4_go_140 : decode cX4_go 140 = .ok (.invokevirtual 38, 3) := dk_182 0 38 (dk_at dksX4_go_6 3 rfl rfl)
theorem dX4_go_143 : decode cX4_go 143 = .ok (.i2c, 1) := dk_146 (dk_at dksX4_go_6 6 rfl rfl)
theorem dX4_go_144 : decode cX4_go 144 = .ok (.invokevirtual 67, 3) := dk_182 0 67 (dk_at dksX4_go_6 7 rfl rfl)
theorem dX4_go_147 : decode cX4_go 147 = .ok (.pop, 1) := dk_87 (dk_at dksX4_go_6 10 rfl rfl)
theorem dX4_go_148 : decode cX4_go 148 = .ok (.aload_n 0, 1) := dk_42 (dk_at dksX4_go_6 11 rfl rfl)
theorem dX4_go_149 : decode cX4_go 149 = .ok (.dup, 1) := dk_89 (dk_at dksX4_go_6 12 rfl rfl)
theorem dX4_go_150 : decode cX4_go 150 = .ok (.getfield 35, 3) := dk_180 0 35 (dk_at dksX4_go_6 13 rfl rfl)
theorem dX4_go_153 : decode cX4_go 153 = .ok (.iconst 1, 1) := dk_4 (dk_at dksX4_go_6 16 rfl rfl)
theorem dX4_go_154 : decode cX4_go 154 = .ok (.iadd, 1) := dk_96 (dk_at dksX4_go_6 17 rfl rfl)
theorem dX4_go_155 : decode cX4_go 155 = .ok (.putfield 35, 3) := dk_181 0 35 (dk_at dksX4_go_6 18 rfl rfl)
theorem dX4_go_158 : decode cX4_go 158 = .ok (.goto (-47), 3) := dk_167 255 209 (dk_at dksX4_go_6 21 rfl rfl)
theorem dX4_go_161 : decode cX4_go 161 = .ok (.aload_n 0, 1) := dk_42 (dk_at dksX4_go_7 0 rfl rfl)
theorem dX4_go_162 : decode cX4_go 162 = .ok (.aload_n 2, 1) := dk_44 (dk_at dksX4_go_7 1 rfl rfl)
theorem dX4_go_163 : decode cX4_go 163 = .ok (.invokevirtual 71, 3) := dk_182 0 71 (dk_at dksX4_go_7 2 rfl rfl)
theorem dX4_go_166 : decode cX4_go 166 = .ok (.putfield 11, 3) := dk_181 0 11 (dk_at dksX4_go_7 5 rfl rfl)
theorem dX4_go_169 : decode cX4_go 169 = .ok (.aload_n 0, 1) := dk_42 (dk_at dksX4_go_7 8 rfl rfl)
theorem dX4_go_170 : decode cX4_go 170 = .ok (.getstatic 75, 3) := dk_178 0 75 (dk_at dksX4_go_7 9 rfl rfl)
theorem dX4_go_173 : decode cX4_go 173 = .ok (.putfield 51, 3) := dk_181 0 51 (dk_at dksX4_go_7 12 rfl rfl)
theorem dX4_go_176 : decode cX4_go 176 = .ok (.goto 113, 3) := dk_167 0 113 (dk_at dksX4_go_7 15 rfl rfl)
theorem dX4_go_179 : decode cX4_go 179 = .ok (.iload_n 1, 1) := dk_27 (dk_at dksX4_go_7 18 rfl rfl)
theorem dX4_go_180 : decode cX4_go 180 = .ok (.invokestatic 78, 3) := dk_184 0 78 (dk_at dksX4_go_7 19 rfl rfl)
theorem dX4_go_183 : decode cX4_go 183 = .ok (.ifCond .eq 66, 3) := dk_153 0 66 (dk_at dksX4_go_8 0 rfl rfl)
theorem dX4_go_186 : decode cX4_go 186 = .ok (.aload_n 0, 1) := dk_42 (dk_at dksX4_go_8 3 rfl rfl)
theorem dX4_go_187 : decode cX4_go 187 = .ok (.iload_n 1, 1) := dk_27 (dk_at dksX4_go_8 4 rfl rfl)
theorem dX4_go_188 : decode cX4_go 188 = .ok (.bipush 48, 2) := dk_16 48 (dk_at dksX4_go_8 5 rfl rfl)
theorem dX4_go_190 : decode cX4_go 190 = .ok (.isub, 1) := dk_100 (dk_at dksX4_go_8 7 rfl rfl)
theorem dX4_go_191 : decode cX4_go 191 = .ok (.putfield 81, 3) := dk_181 0 81 (dk_at dksX4_go_8 8 rfl rfl)
theorem dX4_go_194 : decode cX4_go 194 = .ok (.aload_n 0, 1) := dk_42 (dk_at dksX4_go_8 11 rfl rfl)
theorem dX4_go_195 : decode cX4_go 195 = .ok (.aload_n 0, 1) := dk_42 (dk_at dksX4_go_8 12 rfl rfl)
theorem dX4_go_196 : decode cX4_go 196 = .ok (.getfield 35, 3) := dk_180 0 35 (dk_at dksX4_go_8 13 rfl rfl)
theorem dX4_go_199 : decode cX4_go 199 = .ok (.invokevirtual 38, 3) := dk_182 0 38 (dk_at dksX4_go_8 16 rfl rfl)
theorem dX4_go_202 : decode cX4_go 202 = .ok (.invokestatic 78, 3) := dk_184 0 78 (dk_at dksX4_go_8 19 rfl rfl)
theorem dX4_go_205 : decode cX4_go 205 = .ok (.ifCond .eq 34, 3) := dk_153 0 34 (dk_at dksX4_go_9 0 rfl rfl)
theorem dX4_go_208 : decode cX4_go 208 = .ok (.aload_n 0, 1) := dk_42 (dk_at dksX4_go_9 3 rfl rfl)
theorem dX4_go_209 : decode cX4_go 209 = .ok (.getfield 35, 3) := dk_180 0 35 (dk_at dksX4_go_9 4 rfl rfl)
theorem dX4_go_212 : decode cX4_go 212 = .ok (.aload_n 0, 1) := dk_42 (dk_at dksX4_go_9 7 rfl rfl)
theorem dX4_go_213 : decode cX4_go 213 = .ok (.getfield 42, 3) := dk_180 0 42 (dk_at dksX4_go_9 8 rfl rfl)
theorem dX4_go_216 : decode cX4_go 216 = .ok (.if_icmp .le 10, 3) := dk_164 0 10 (dk_at dksX4_go_9 11 rfl rfl)
theorem dX4_go_219 : decode cX4_go 219 = .ok (.aload_n 0, 1) := dk_42 (dk_at dksX4_go_9 14 rfl rfl)
theorem dX4_go_220 : decode cX4_go 220 = .ok (.sipush 999, 3) := dk_17 3 231 (dk_at dksX4_go_9 15 rfl rfl)
theorem dX4_go_223 : decode cX4_go 223 = .ok (.putfield 81, 3) := dk_181 0 81 (dk_at dksX4_go_9 18 rfl rfl)
theorem dX4_go_226 : decode cX4_go 226 = .ok (.aload_n 0, 1) := dk_42 (dk_at dksX4_go_9 21 rfl rfl)
theorem dX4_go_227 : decode cX4_go 227 = .ok (.dup, 1) := dk_89 (dk_at dksX4_go_9 22 rfl rfl)
theorem dX4_go_228 : decode cX4_go 228 = .ok (.getfield 35, 3) := dk_180 0 35 (dk_at dksX4_go_10 0 rfl rfl)
theorem dX4_go_231 : decode cX4_go 231 = .ok (.iconst 1, 1) := dk_4 (dk_at dksX4_go_10 3 rfl rfl)
theorem dX4_go_232 : decode cX4_go 232 = .ok (.iadd, 1) := dk_96 (dk_at dksX4_go_10 4 rfl rfl)
theorem dX4_go_233 : decode cX4_go 233 = .ok (.putfield 35, 3) := dk_181 0 35 (dk_at dksX4_go_10 5 rfl rfl)
theorem dX4_go_236 : decode cX4_go 236 = .ok (.goto (-42), 3) := dk_167 255 214 (dk_at dksX4_go_10 8 rfl rfl)
theorem dX4_go_239 : decode cX4_go 239 = .ok (.aload_n 0, 1) := dk_42 (dk_at dksX4_go_10 11 rfl rfl)
theorem dX4_go_240 : decode cX4_go 240 = .ok (.getstatic 84, 3) := dk_178 0 84 (dk_at dksX4_go_10 12 rfl rfl)
theorem dX4_go_243 : decode cX4_go 243 = .ok (.putfield 51, 3) := dk_181 0 51 (dk_at dksX4_go_10 15 rfl rfl)
theorem dX4_go_246 : decode cX4_go 246 = .ok (.goto 43, 3) := dk_167 0 43 (dk_at dksX4_go_10 18 rfl rfl)
theorem dX4_go_249 : decode cX4_go 249 = .ok (.aload_n 0, 1) := dk_42 (dk_at dksX4_go_10 21 rfl rfl)
theorem dX4_go_250 : decode cX4_go 250 = .ok (.iload_n 1, 1) := dk_27 (dk_at dksX4_go_10 22 rfl rfl)
theorem dX4_go_251 : decode cX4_go 251 = .ok (.bipush 59, 2) := dk_16 59 (dk_at dksX4_go_11 0 rfl rfl)
theorem dX4_go_253 : decode cX4_go 253 = .ok (.if_icmp .eq 9, 3) := dk_159 0 9 (dk_at dksX4_go_11 2 rfl rfl)
theorem dX4_go_256 : decode cX4_go 256 = .ok (.iload_n 1, 1) := dk_27 (dk_at dksX4_go_11 5 rfl rfl)
theorem dX4_go_257 : decode cX4_go 257 = .ok (.bipush 45, 2) := dk_16 45 (dk_at dksX4_go_11 6 rfl rfl)
theorem dX4_go_259 : decode cX4_go 259 = .ok (.if_icmp .ne 9, 3) := dk_160 0 9 (dk_at dksX4_go_11 8 rfl rfl)
theorem dX4_go_262 : decode cX4_go 262 = .ok (.getstatic 87, 3) := dk_178 0 87 (dk_at dksX4_go_11 11 rfl rfl)
theorem dX4_go_265 : decode cX4_go 265 = .ok (.goto 6, 3) := dk_167 0 6 (dk_at dksX4_go_11 14 rfl rfl)
theorem dX4_go_268 : decode cX4_go 268 = .ok (.getstatic 90, 3) := dk_178 0 90 (dk_at dksX4_go_11 17 rfl rfl)
theorem dX4_go_271 : decode cX4_go 271 = .ok (.putfield 51, 3) := dk_181 0 51 (dk_at dksX4_go_11 20 rfl rfl)
theorem dX4_go_274 : decode cX4_go 274 = .ok (.aload_n 0, 1) := dk_42 (dk_at dksX4_go_11 23 rfl rfl)
theorem dX4_go_275 : decode cX4_go 275 = .ok (.iload_n 1, 1) := dk_27 (dk_at dksX4_go_12 0 rfl rfl)
theorem dX4_go_276 : decode cX4_go 276 = .ok (.putfield 81, 3) := dk_181 0 81 (dk_at dksX4_go_12 1 rfl rfl)
theorem dX4_go_279 : decode cX4_go 279 = .ok (.aload_n 0, 1) := dk_42 (dk_at dksX4_go_12 4 rfl rfl)
theorem dX4_go_280 : decode cX4_go 280 = .ok (.dup, 1) := dk_89 (dk_at dksX4_go_12 5 rfl rfl)
theorem dX4_go_281 : decode cX4_go 281 = .ok (.getfield 35, 3) := dk_180 0 35 (dk_at dksX4_go_12 6 rfl rfl)
theorem dX4_go_284 : decode cX4_go 284 = .ok (.iconst 1, 1) := dk_4 (dk_at dksX4_go_12 9 rfl rfl)
theorem dX4_go_285 : decode cX4_go 285 = .ok (.iadd, 1) := dk_96 (dk_at dksX4_go_12 10 rfl rfl)
theorem dX4_go_286 : decode cX4_go 286 = .ok (.putfield 35, 3) := dk_181 0 35 (dk_at dksX4_go_12 11 rfl rfl)
theorem dX4_go_289 : decode cX4_go 289 = .ok (.return_, 1) := dk_177 (dk_at dksX4_go_12 14 rfl rfl)
abbrev cX4_byteAt : ByteArray := prog_7_method_2_code
def yX4_byteAt : MethodName := ⟨RX4, "byteAt", "(I)I"⟩
def dkwX4_byteAt_0 : List UInt8 := [27, 42, 180, 0, 28, 162, 0, 16, 42, 180, 0, 24, 27, 51, 17, 0, 255, 126, 167, 0, 4, 3, 172]
abbrev dktX4_byteAt_0 : List UInt8 := dkwX4_byteAt_0 ++ []
theorem dksX4_byteAt_0 : cX4_byteAt.data.toList.drop 0 = dktX4_byteAt_0 := by decide +kernel
theorem dX4_byteAt_0 : decode cX4_byteAt 0 = .ok (.iload_n 1, 1) := dk_27 (dk_at dksX4_byteAt_0 0 rfl rfl)
theorem dX4_byteAt_1 : decode cX4_byteAt 1 = .ok (.aload_n 0, 1) := dk_42 (dk_at dksX4_byteAt_0 1 rfl rfl)
theorem dX4_byteAt_2 : decode cX4_byteAt 2 = .ok (.getfield 28, 3) := dk_180 0 28 (dk_at dksX4_byteAt_0 2 rfl rfl)
theorem dX4_byteAt_5 : decode cX4_byteAt 5 = .ok (.if_icmp .ge 16, 3) := dk_162 0 16 (dk_at dksX4_byteAt_0 5 rfl rfl)
theorem dX4_byteAt_8 : decode cX4_byteAt 8 = .ok (.aload_n 0, 1) := dk_42 (dk_at dksX4_byteAt_0 8 rfl rfl)
theorem dX4_byteAt_9 : decode cX4_byteAt 9 = .ok (.getfield 24, 3) := dk_180 0 24 (dk_at dksX4_byteAt_0 9 rfl rfl)
theorem dX4_byteAt_12 : decode cX4_byteAt 12 = .ok (.iload_n 1, 1) := dk_27 (dk_at dksX4_byteAt_0 12 rfl rfl)
theorem dX4_byteAt_13 : decode cX4_byteAt 13 = .ok (.baload, 1) := dk_51 (dk_at dksX4_byteAt_0 13 rfl rfl)
theorem dX4_byteAt_14 : decode cX4_byteAt 14 = .ok (.sipush 255, 3) := dk_17 0 255 (dk_at dksX4_byteAt_0 14 rfl rfl)
theorem dX4_byteAt_17 : decode cX4_byteAt 17 = .ok (.iand, 1) := dk_126 (dk_at dksX4_byteAt_0 17 rfl rfl)
theorem dX4_byteAt_18 : decode cX4_byteAt 18 = .ok (.goto 4, 3) := dk_167 0 4 (dk_at dksX4_byteAt_0 18 rfl rfl)
theorem dX4_byteAt_21 : decode cX4_byteAt 21 = .ok (.iconst 0, 1) := dk_3 (dk_at dksX4_byteAt_0 21 rfl rfl)
theorem dX4_byteAt_22 : decode cX4_byteAt 22 = .ok (.ireturn, 1) := dk_172 (dk_at dksX4_byteAt_0 22 rfl rfl)
abbrev cX4_isLetter : ByteArray := prog_7_method_3_code
def yX4_isLetter : MethodName := ⟨RX4, "isLetter", "(I)Z"⟩
def dkwX4_isLetter_0 : List UInt8 := [26, 16, 97, 161, 0, 13, 26, 16, 122, 163, 0, 7, 4, 167, 0, 4, 3, 172]
abbrev dktX4_isLetter_0 : List UInt8 := dkwX4_isLetter_0 ++ []
theorem dksX4_isLetter_0 : cX4_isLetter.data.toList.drop 0 = dktX4_isLetter_0 := by decide +kernel
theorem dX4_isLetter_0 : decode cX4_isLetter 0 = .ok (.iload_n 0, 1) := dk_26 (dk_at dksX4_isLetter_0 0 rfl rfl)
theorem dX4_isLetter_1 : decode cX4_isLetter 1 = .ok (.bipush 97, 2) := dk_16 97 (dk_at dksX4_isLetter_0 1 rfl rfl)
theorem dX4_isLetter_3 : decode cX4_isLetter 3 = .ok (.if_icmp .lt 13, 3) := dk_161 0 13 (dk_at dksX4_isLetter_0 3 rfl rfl)
theorem dX4_isLetter_6 : decode cX4_isLetter 6 = .ok (.iload_n 0, 1) := dk_26 (dk_at dksX4_isLetter_0 6 rfl rfl)
theorem dX4_isLetter_7 : decode cX4_isLetter 7 = .ok (.bipush 122, 2) := dk_16 122 (dk_at dksX4_isLetter_0 7 rfl rfl)
theorem dX4_isLetter_9 : decode cX4_isLetter 9 = .ok (.if_icmp .gt 7, 3) := dk_163 0 7 (dk_at dksX4_isLetter_0 9 rfl rfl)
theorem dX4_isLetter_12 : decode cX4_isLetter 12 = .ok (.iconst 1, 1) := dk_4 (dk_at dksX4_isLetter_0 12 rfl rfl)
theorem dX4_isLetter_13 : decode cX4_isLetter 13 = .ok (.goto 4, 3) := dk_167 0 4 (dk_at dksX4_isLetter_0 13 rfl rfl)
theorem dX4_isLetter_16 : decode cX4_isLetter 16 = .ok (.iconst 0, 1) := dk_3 (dk_at dksX4_isLetter_0 16 rfl rfl)
theorem dX4_isLetter_17 : decode cX4_isLetter 17 = .ok (.ireturn, 1) := dk_172 (dk_at dksX4_isLetter_0 17 rfl rfl)
abbrev cX4_isDigit : ByteArray := prog_7_method_4_code
def yX4_isDigit : MethodName := ⟨RX4, "isDigit", "(I)Z"⟩
def dkwX4_isDigit_0 : List UInt8 := [26, 16, 48, 161, 0, 13, 26, 16, 57, 163, 0, 7, 4, 167, 0, 4, 3, 172]
abbrev dktX4_isDigit_0 : List UInt8 := dkwX4_isDigit_0 ++ []
theorem dksX4_isDigit_0 : cX4_isDigit.data.toList.drop 0 = dktX4_isDigit_0 := by decide +kernel
theorem dX4_isDigit_0 : decode cX4_isDigit 0 = .ok (.iload_n 0, 1) := dk_26 (dk_at dksX4_isDigit_0 0 rfl rfl)
theorem dX4_isDigit_1 : decode cX4_isDigit 1 = .ok (.bipush 48, 2) := dk_16 48 (dk_at dksX4_isDigit_0 1 rfl rfl)
theorem dX4_isDigit_3 : decode cX4_isDigit 3 = .ok (.if_icmp .lt 13, 3) := dk_161 0 13 (dk_at dksX4_isDigit_0 3 rfl rfl)
theorem dX4_isDigit_6 : decode cX4_isDigit 6 = .ok (.iload_n 0, 1) := dk_26 (dk_at dksX4_isDigit_0 6 rfl rfl)
theorem dX4_isDigit_7 : decode cX4_isDigit 7 = .ok (.bipush 57, 2) := dk_16 57 (dk_at dksX4_isDigit_0 7 rfl rfl)
theorem dX4_isDigit_9 : decode cX4_isDigit 9 = .ok (.if_icmp .gt 7, 3) := dk_163 0 7 (dk_at dksX4_isDigit_0 9 rfl rfl)
theorem dX4_isDigit_12 : decode cX4_isDigit 12 = .ok (.iconst 1, 1) := dk_4 (dk_at dksX4_isDigit_0 12 rfl rfl)
theorem dX4_isDigit_13 : decode cX4_isDigit 13 = .ok (.goto 4, 3) := dk_167 0 4 (dk_at dksX4_isDigit_0 13 rfl rfl)
theorem dX4_isDigit_16 : decode cX4_isDigit 16 = .ok (.iconst 0, 1) := dk_3 (dk_at dksX4_isDigit_0 16 rfl rfl)
theorem dX4_isDigit_17 : decode cX4_isDigit 17 = .ok (.ireturn, 1) := dk_172 (dk_at dksX4_isDigit_0 17 rfl rfl)
abbrev cX4_whole : ByteArray := prog_7_method_8_code
def yX4_whole : MethodName := ⟨RX4, "whole", "()LSchemeLister$Scheme;"⟩
def dkwX4_whole_2 : List UInt8 := [89, 180, 0, 108, 4, 96, 181, 0, 108, 42, 182, 0, 32, 167, 255, 197, 42, 180, 0, 20, 176]
abbrev dktX4_whole_2 : List UInt8 := dkwX4_whole_2 ++ []
def dkwX4_whole_1 : List UInt8 := [167, 0, 4, 3, 4, 182, 0, 98, 42, 182, 0, 102, 42, 42, 16, 59, 182, 0, 105, 4, 182, 0, 98, 42]
abbrev dktX4_whole_1 : List UInt8 := dkwX4_whole_1 ++ dktX4_whole_2
def dkwX4_whole_0 : List UInt8 := [42, 180, 0, 51, 178, 0, 45, 165, 0, 55, 42, 42, 180, 0, 51, 178, 0, 75, 166, 0, 7, 4]
abbrev dktX4_whole_0 : List UInt8 := dkwX4_whole_0 ++ dktX4_whole_1
theorem dksX4_whole_0 : cX4_whole.data.toList.drop 0 = dktX4_whole_0 := by decide +kernel
theorem dksX4_whole_1 : cX4_whole.data.toList.drop 22 = dktX4_whole_1 := dk_seg dksX4_whole_0 22 rfl rfl
theorem dksX4_whole_2 : cX4_whole.data.toList.drop 46 = dktX4_whole_2 := dk_seg dksX4_whole_1 24 rfl rfl
theorem dX4_whole_0 : decode cX4_whole 0 = .ok (.aload_n 0, 1) := dk_42 (dk_at dksX4_whole_0 0 rfl rfl)
theorem dX4_whole_1 : decode cX4_whole 1 = .ok (.getfield 51, 3) := dk_180 0 51 (dk_at dksX4_whole_0 1 rfl rfl)
theorem dX4_whole_4 : decode cX4_whole 4 = .ok (.getstatic 45, 3) := dk_178 0 45 (dk_at dksX4_whole_0 4 rfl rfl)
theorem dX4_whole_7 : decode cX4_whole 7 = .ok (.if_acmp .eq 55, 3) := dk_165 0 55 (dk_at dksX4_whole_0 7 rfl rfl)
theorem dX4_whole_10 : decode cX4_whole 10 = .ok (.aload_n 0, 1) := dk_42 (dk_at dksX4_whole_0 10 rfl rfl)
theorem dX4_whole_11 : decode cX4_whole 11 = .ok (.aload_n 0, 1) := dk_42 (dk_at dksX4_whole_0 11 rfl rfl)
theorem dX4_whole_12 : decode cX4_whole 12 = .ok (.getfield 51, 3) := dk_180 0 51 (dk_at dksX4_whole_0 12 rfl rfl)
theorem dX4_whole_15 : decode cX4_whole 15 = .ok (.getstatic 75, 3) := dk_178 0 75 (dk_at dksX4_whole_0 15 rfl rfl)
theorem dX4_whole_18 : decode cX4_whole 18 = .ok (.if_acmp .ne 7, 3) := dk_166 0 7 (dk_at dksX4_whole_0 18 rfl rfl)
theorem dX4_whole_21 : decode cX4_whole 21 = .ok (.iconst 1, 1) := dk_4 (dk_at dksX4_whole_0 21 rfl rfl)
theorem dX4_whole_22 : decode cX4_whole 22 = .ok (.goto 4, 3) := dk_167 0 4 (dk_at dksX4_whole_1 0 rfl rfl)
theorem dX4_whole_25 : decode cX4_whole 25 = .ok (.iconst 0, 1) := dk_3 (dk_at dksX4_whole_1 3 rfl rfl)
theorem dX4_whole_26 : decode cX4_whole 26 = .ok (.iconst 1, 1) := dk_4 (dk_at dksX4_whole_1 4 rfl rfl)
theorem dX4_whole_27 : decode cX4_whole 27 = .ok (.invokevirtual 98, 3) := dk_182 0 98 (dk_at dksX4_whole_1 5 rfl rfl)
theorem dX4_whole_30 : decode cX4_whole 30 = .ok (.aload_n 0, 1) := dk_42 (dk_at dksX4_whole_1 8 rfl rfl)
theorem dX4_whole_31 : decode cX4_whole 31 = .ok (.invokevirtual 102, 3) := dk_182 0 102 (dk_at dksX4_whole_1 9 rfl rfl)
theorem dX4_whole_34 : decode cX4_whole 34 = .ok (.aload_n 0, 1) := dk_42 (dk_at dksX4_whole_1 12 rfl rfl)
theorem dX4_whole_35 : decode cX4_whole 35 = .ok (.aload_n 0, 1) := dk_42 (dk_at dksX4_whole_1 13 rfl rfl)
theorem dX4_whole_36 : decode cX4_whole 36 = .ok (.bipush 59, 2) := dk_16 59 (dk_at dksX4_whole_1 14 rfl rfl)
theorem dX4_whole_38 : decode cX4_whole 38 = .ok (.invokevirtual 105, 3) := dk_182 0 105 (dk_at dksX4_whole_1 16 rfl rfl)
theorem dX4_whole_41 : decode cX4_whole 41 = .ok (.iconst 1, 1) := dk_4 (dk_at dksX4_whole_1 19 rfl rfl)
theorem dX4_whole_42 : decode cX4_whole 42 = .ok (.invokevirtual 98, 3) := dk_182 0 98 (dk_at dksX4_whole_1 20 rfl rfl)
theorem dX4_whole_45 : decode cX4_whole 45 = .ok (.aload_n 0, 1) := dk_42 (dk_at dksX4_whole_1 23 rfl rfl)
theorem dX4_whole_46 : decode cX4_whole 46 = .ok (.dup, 1) := dk_89 (dk_at dksX4_whole_2 0 rfl rfl)
theorem dX4_whole_47 : decode cX4_whole 47 = .ok (.getfield 108, 3) := dk_180 0 108 (dk_at dksX4_whole_2 1 rfl rfl)
theorem dX4_whole_50 : decode cX4_whole 50 = .ok (.iconst 1, 1) := dk_4 (dk_at dksX4_whole_2 4 rfl rfl)
theorem dX4_whole_51 : decode cX4_whole 51 = .ok (.iadd, 1) := dk_96 (dk_at dksX4_whole_2 5 rfl rfl)
theorem dX4_whole_52 : decode cX4_whole 52 = .ok (.putfield 108, 3) := dk_181 0 108 (dk_at dksX4_whole_2 6 rfl rfl)
theorem dX4_whole_55 : decode cX4_whole 55 = .ok (.aload_n 0, 1) := dk_42 (dk_at dksX4_whole_2 9 rfl rfl)
theorem dX4_whole_56 : decode cX4_whole 56 = .ok (.invokevirtual 32, 3) := dk_182 0 32 (dk_at dksX4_whole_2 10 rfl rfl)
theorem dX4_whole_59 : decode cX4_whole 59 = .ok (.goto (-59), 3) := dk_167 255 197 (dk_at dksX4_whole_2 13 rfl rfl)
theorem dX4_whole_62 : decode cX4_whole 62 = .ok (.aload_n 0, 1) := dk_42 (dk_at dksX4_whole_2 16 rfl rfl)
theorem dX4_whole_63 : decode cX4_whole 63 = .ok (.getfield 20, 3) := dk_180 0 20 (dk_at dksX4_whole_2 17 rfl rfl)
theorem dX4_whole_66 : decode cX4_whole 66 = .ok (.areturn, 1) := dk_176 (dk_at dksX4_whole_2 20 rfl rfl)
abbrev cX4_check : ByteArray := prog_7_method_6_code
def yX4_check : MethodName := ⟨RX4, "check", "(ZI)V"⟩
def dkwX4_check_0 : List UInt8 := [27, 154, 0, 16, 187, 0, 93, 89, 28, 42, 180, 0, 42, 183, 0, 95, 191, 177]
abbrev dktX4_check_0 : List UInt8 := dkwX4_check_0 ++ []
theorem dksX4_check_0 : cX4_check.data.toList.drop 0 = dktX4_check_0 := by decide +kernel
theorem dX4_check_0 : decode cX4_check 0 = .ok (.iload_n 1, 1) := dk_27 (dk_at dksX4_check_0 0 rfl rfl)
theorem dX4_check_1 : decode cX4_check 1 = .ok (.ifCond .ne 16, 3) := dk_154 0 16 (dk_at dksX4_check_0 1 rfl rfl)
theorem dX4_check_4 : decode cX4_check 4 = .ok (.new 93, 3) := dk_187 0 93 (dk_at dksX4_check_0 4 rfl rfl)
theorem dX4_check_7 : decode cX4_check 7 = .ok (.dup, 1) := dk_89 (dk_at dksX4_check_0 7 rfl rfl)
theorem dX4_check_8 : decode cX4_check 8 = .ok (.iload_n 2, 1) := dk_28 (dk_at dksX4_check_0 8 rfl rfl)
theorem dX4_check_9 : decode cX4_check 9 = .ok (.aload_n 0, 1) := dk_42 (dk_at dksX4_check_0 9 rfl rfl)
theorem dX4_check_10 : decode cX4_check 10 = .ok (.getfield 42, 3) := dk_180 0 42 (dk_at dksX4_check_0 10 rfl rfl)
theorem dX4_check_13 : decode cX4_check 13 = .ok (.invokespecial 95, 3) := dk_183 0 95 (dk_at dksX4_check_0 13 rfl rfl)
theorem dX4_check_16 : decode cX4_check 16 = .ok (.athrow, 1) := dk_191 (dk_at dksX4_check_0 16 rfl rfl)
theorem dX4_check_17 : decode cX4_check 17 = .ok (.return_, 1) := dk_177 (dk_at dksX4_check_0 17 rfl rfl)
abbrev cX4_clause : ByteArray := prog_7_method_9_code
def yX4_clause : MethodName := ⟨RX4, "clause", "()V"⟩
def dkwX4_clause_12 : List UInt8 := [182, 0, 98, 177]
abbrev dktX4_clause_12 : List UInt8 := dkwX4_clause_12 ++ []
def dkwX4_clause_11 : List UInt8 := [42, 182, 0, 140, 79, 42, 180, 0, 20, 180, 0, 143, 29, 42, 182, 0, 140, 79, 167, 0, 9, 42, 3, 4]
abbrev dktX4_clause_11 : List UInt8 := dkwX4_clause_11 ++ dktX4_clause_12
def dkwX4_clause_10 : List UInt8 := [182, 0, 131, 167, 0, 48, 42, 182, 0, 32, 42, 3, 182, 0, 133, 62, 42, 180, 0, 20, 180, 0, 136, 29]
abbrev dktX4_clause_10 : List UInt8 := dkwX4_clause_10 ++ dktX4_clause_11
def dkwX4_clause_9 : List UInt8 := [180, 0, 128, 16, 12, 162, 0, 7, 4, 167, 0, 4, 3, 5, 182, 0, 98, 42, 182, 0, 32, 42]
abbrev dktX4_clause_9 : List UInt8 := dkwX4_clause_9 ++ dktX4_clause_10
def dkwX4_clause_8 : List UInt8 := [180, 0, 20, 42, 180, 0, 81, 181, 0, 126, 42, 182, 0, 32, 167, 0, 81, 42, 42, 180, 0, 20]
abbrev dktX4_clause_8 : List UInt8 := dkwX4_clause_8 ++ dktX4_clause_9
def dkwX4_clause_7 : List UInt8 := [161, 0, 16, 42, 180, 0, 81, 16, 8, 163, 0, 7, 4, 167, 0, 4, 3, 5, 182, 0, 98, 42]
abbrev dktX4_clause_7 : List UInt8 := dkwX4_clause_7 ++ dktX4_clause_8
def dkwX4_clause_6 : List UInt8 := [180, 0, 51, 178, 0, 84, 166, 0, 7, 4, 167, 0, 4, 3, 4, 182, 0, 98, 42, 42, 180, 0, 81, 4]
abbrev dktX4_clause_6 : List UInt8 := dkwX4_clause_6 ++ dktX4_clause_7
def dkwX4_clause_5 : List UInt8 := [42, 42, 180, 0, 108, 154, 0, 7, 4, 167, 0, 4, 3, 7, 182, 0, 98, 42, 182, 0, 32, 42, 42]
abbrev dktX4_clause_5 : List UInt8 := dkwX4_clause_5 ++ dktX4_clause_6
def dkwX4_clause_4 : List UInt8 := [170, 0, 0, 0, 0, 0, 0, 186, 0, 0, 0, 0, 0, 0, 0, 2, 0, 0, 0, 28, 0, 0, 0, 114, 0, 0, 0, 147]
abbrev dktX4_clause_4 : List UInt8 := dkwX4_clause_4 ++ dktX4_clause_5
def dkwX4_clause_3 : List UInt8 := [61, 167, 0, 14, 43, 18, 124, 182, 0, 118, 153, 0, 5, 5, 61, 28]
abbrev dktX4_clause_3 : List UInt8 := dkwX4_clause_3 ++ dktX4_clause_4
def dkwX4_clause_2 : List UInt8 := [43, 18, 116, 182, 0, 118, 153, 0, 33, 3, 61, 167, 0, 28, 43, 18, 122, 182, 0, 118, 153, 0, 19, 4]
abbrev dktX4_clause_2 : List UInt8 := dkwX4_clause_2 ++ dktX4_clause_3
def dkwX4_clause_1 : List UInt8 := [171, 0, 0, 0, 72, 0, 0, 0, 3, 197, 108, 92, 227, 0, 0, 0, 33, 0, 0, 12, 51, 0, 0, 0, 61, 0, 50, 175, 244, 0, 0, 0, 47]
abbrev dktX4_clause_1 : List UInt8 := dkwX4_clause_1 ++ dktX4_clause_2
def dkwX4_clause_0 : List UInt8 := [42, 180, 0, 11, 76, 2, 61, 43, 182, 0, 111]
abbrev dktX4_clause_0 : List UInt8 := dkwX4_clause_0 ++ dktX4_clause_1
theorem dksX4_clause_0 : cX4_clause.data.toList.drop 0 = dktX4_clause_0 := by decide +kernel
theorem dksX4_clause_1 : cX4_clause.data.toList.drop 11 = dktX4_clause_1 := dk_seg dksX4_clause_0 11 rfl rfl
theorem dksX4_clause_2 : cX4_clause.data.toList.drop 44 = dktX4_clause_2 := dk_seg dksX4_clause_1 33 rfl rfl
theorem dksX4_clause_3 : cX4_clause.data.toList.drop 68 = dktX4_clause_3 := dk_seg dksX4_clause_2 24 rfl rfl
theorem dksX4_clause_4 : cX4_clause.data.toList.drop 84 = dktX4_clause_4 := dk_seg dksX4_clause_3 16 rfl rfl
theorem dksX4_clause_5 : cX4_clause.data.toList.drop 112 = dktX4_clause_5 := dk_seg dksX4_clause_4 28 rfl rfl
theorem dksX4_clause_6 : cX4_clause.data.toList.drop 135 = dktX4_clause_6 := dk_seg dksX4_clause_5 23 rfl rfl
theorem dksX4_clause_7 : cX4_clause.data.toList.drop 159 = dktX4_clause_7 := dk_seg dksX4_clause_6 24 rfl rfl
theorem dksX4_clause_8 : cX4_clause.data.toList.drop 181 = dktX4_clause_8 := dk_seg dksX4_clause_7 22 rfl rfl
theorem dksX4_clause_9 : cX4_clause.data.toList.drop 203 = dktX4_clause_9 := dk_seg dksX4_clause_8 22 rfl rfl
theorem dksX4_clause_10 : cX4_clause.data.toList.drop 225 = dktX4_clause_10 := dk_seg dksX4_clause_9 22 rfl rfl
theorem dksX4_clause_11 : cX4_clause.data.toList.drop 249 = dktX4_clause_11 := dk_seg dksX4_clause_10 24 rfl rfl
theorem dksX4_clause_12 : cX4_clause.data.toList.drop 273 = dktX4_clause_12 := dk_seg dksX4_clause_11 24 rfl rfl
theorem dX4_clause_0 : decode cX4_clause 0 = .ok (.aload_n 0, 1) := dk_42 (dk_at dksX4_clause_0 0 rfl rfl)
theorem dX4_clause_1 : decode cX4_clause 1 = .ok (.getfield 11, 3) := dk_180 0 11 (dk_at dksX4_clause_0 1 rfl rfl)
theorem dX4_clause_4 : decode cX4_clause 4 = .ok (.astore_n 1, 1) := dk_76 (dk_at dksX4_clause_0 4 rfl rfl)
theorem dX4_clause_5 : decode cX4_clause 5 = .ok (.iconst (-1), 1) := dk_2 (dk_at dksX4_clause_0 5 rfl rfl)
theorem dX4_clause_6 : decode cX4_clause 6 = .ok (.istore_n 2, 1) := dk_61 (dk_at dksX4_clause_0 6 rfl rfl)
theorem dX4_clause_7 : decode cX4_clause 7 = .ok (.aload_n 1, 1) := dk_43 (dk_at dksX4_clause_0 7 rfl rfl)
theorem dX4_clause_8 : decode cX4_clause 8 = .ok (.invokevirtual 111, 3) := dk_182 0 111 (dk_at dksX4_clause_0 8 rfl rfl)
theorem dX4_clause_11 : decode cX4_clause 11 = .ok (.lookupswitch 72 #[(-982754077, 33), (3123, 61), (3321844, 47)], 33) := by decide +kernel
theorem dX4_clause_44 : decode cX4_clause 44 = .ok (.aload_n 1, 1) := dk_43 (dk_at dksX4_clause_2 0 rfl rfl)
theorem dX4_clause_45 : decode cX4_clause 45 = .ok (.ldc 116, 2) := dk_18 116 (dk_at dksX4_clause_2 1 rfl rfl)
theorem dX4_clause_47 : decode cX4_clause 47 = .ok (.invokevirtual 118, 3) := dk_182 0 118 (dk_at dksX4_clause_2 3 rfl rfl)
theorem dX4_clause_50 : decode cX4_clause 50 = .ok (.ifCond .eq 33, 3) := dk_153 0 33 (dk_at dksX4_clause_2 6 rfl rfl)
theorem dX4_clause_53 : decode cX4_clause 53 = .ok (.iconst 0, 1) := dk_3 (dk_at dksX4_clause_2 9 rfl rfl)
theorem dX4_clause_54 : decode cX4_clause 54 = .ok (.istore_n 2, 1) := dk_61 (dk_at dksX4_clause_2 10 rfl rfl)
theorem dX4_clause_55 : decode cX4_clause 55 = .ok (.goto 28, 3) := dk_167 0 28 (dk_at dksX4_clause_2 11 rfl rfl)
theorem dX4_clause_58 : decode cX4_clause 58 = .ok (.aload_n 1, 1) := dk_43 (dk_at dksX4_clause_2 14 rfl rfl)
theorem dX4_clause_59 : decode cX4_clause 59 = .ok (.ldc 122, 2) := dk_18 122 (dk_at dksX4_clause_2 15 rfl rfl)
theorem dX4_clause_61 : decode cX4_clause 61 = .ok (.invokevirtual 118, 3) := dk_182 0 118 (dk_at dksX4_clause_2 17 rfl rfl)
theorem dX4_clause_64 : decode cX4_clause 64 = .ok (.ifCond .eq 19, 3) := dk_153 0 19 (dk_at dksX4_clause_2 20 rfl rfl)
theorem dX4_clause_67 : decode cX4_clause 67 = .ok (.iconst 1, 1) := dk_4 (dk_at dksX4_clause_2 23 rfl rfl)
theorem dX4_clause_68 : decode cX4_clause 68 = .ok (.istore_n 2, 1) := dk_61 (dk_at dksX4_clause_3 0 rfl rfl)
theorem dX4_clause_69 : decode cX4_clause 69 = .ok (.goto 14, 3) := dk_167 0 14 (dk_at dksX4_clause_3 1 rfl rfl)
theorem dX4_clause_72 : decode cX4_clause 72 = .ok (.aload_n 1, 1) := dk_43 (dk_at dksX4_clause_3 4 rfl rfl)
theorem dX4_clause_73 : decode cX4_clause 73 = .ok (.ldc 124, 2) := dk_18 124 (dk_at dksX4_clause_3 5 rfl rfl)
theorem dX4_clause_75 : decode cX4_clause 75 = .ok (.invokevirtual 118, 3) := dk_182 0 118 (dk_at dksX4_clause_3 7 rfl rfl)
theorem dX4_clause_78 : decode cX4_clause 78 = .ok (.ifCond .eq 5, 3) := dk_153 0 5 (dk_at dksX4_clause_3 10 rfl rfl)
theorem dX4_clause_81 : decode cX4_clause 81 = .ok (.iconst 2, 1) := dk_5 (dk_at dksX4_clause_3 13 rfl rfl)
theorem dX4_clause_82 : decode cX4_clause 82 = .ok (.istore_n 2, 1) := dk_61 (dk_at dksX4_clause_3 14 rfl rfl)
theorem dX4_clause_83 : decode cX4_clause 83 = .ok (.iload_n 2, 1) := dk_28 (dk_at dksX4_clause_3 15 rfl rfl)
theorem dX4_clause_84 : decode cX4_clause 84 = .ok (.tableswitch 186 0 2 #[28, 114, 147], 28) := by decide +kernel
theorem dX4_clause_112 : decode cX4_clause 112 = .ok (.aload_n 0, 1) := dk_42 (dk_at dksX4_clause_5 0 rfl rfl)
theorem dX4_clause_113 : decode cX4_clause 113 = .ok (.aload_n 0, 1) := dk_42 (dk_at dksX4_clause_5 1 rfl rfl)
theorem dX4_clause_114 : decode cX4_clause 114 = .ok (.getfield 108, 3) := dk_180 0 108 (dk_at dksX4_clause_5 2 rfl rfl)
theorem dX4_clause_117 : decode cX4_clause 117 = .ok (.ifCond .ne 7, 3) := dk_154 0 7 (dk_at dksX4_clause_5 5 rfl rfl)
theorem dX4_clause_120 : decode cX4_clause 120 = .ok (.iconst 1, 1) := dk_4 (dk_at dksX4_clause_5 8 rfl rfl)
theorem dX4_clause_121 : decode cX4_clause 121 = .ok (.goto 4, 3) := dk_167 0 4 (dk_at dksX4_clause_5 9 rfl rfl)
theorem dX4_clause_124 : decode cX4_clause 124 = .ok (.iconst 0, 1) := dk_3 (dk_at dksX4_clause_5 12 rfl rfl)
theorem dX4_clause_125 : decode cX4_clause 125 = .ok (.iconst 4, 1) := dk_7 (dk_at dksX4_clause_5 13 rfl rfl)
theorem dX4_clause_126 : decode cX4_clause 126 = .ok (.invokevirtual 98, 3) := dk_182 0 98 (dk_at dksX4_clause_5 14 rfl rfl)
theorem dX4_clause_129 : decode cX4_clause 129 = .ok (.aload_n 0, 1) := dk_42 (dk_at dksX4_clause_5 17 rfl rfl)
theorem dX4_clause_130 : decode cX4_clause 130 = .ok (.invokevirtual 32, 3) := dk_182 0 32 (dk_at dksX4_clause_5 18 rfl rfl)
theorem dX4_clause_133 : decode cX4_clause 133 = .ok (.aload_n 0, 1) := dk_42 (dk_at dksX4_clause_5 21 rfl rfl)
theorem dX4_clause_134 : decode cX4_clause 134 = .ok (.aload_n 0, 1) := dk_42 (dk_at dksX4_clause_5 22 rfl rfl)
theorem dX4_clause_135 : decode cX4_clause 135 = .ok (.getfield 51, 3) := dk_180 0 51 (dk_at dksX4_clause_6 0 rfl rfl)
theorem dX4_clause_138 : decode cX4_clause 138 = .ok (.getstatic 84, 3) := dk_178 0 84 (dk_at dksX4_clause_6 3 rfl rfl)
theorem dX4_clause_141 : decode cX4_clause 141 = .ok (.if_acmp .ne 7, 3) := dk_166 0 7 (dk_at dksX4_clause_6 6 rfl rfl)
theorem dX4_clause_144 : decode cX4_clause 144 = .ok (.iconst 1, 1) := dk_4 (dk_at dksX4_clause_6 9 rfl rfl)
theorem dX4_clause_145 : decode cX4_clause 145 = .ok (.goto 4, 3) := dk_167 0 4 (dk_at dksX4_clause_6 10 rfl rfl)
theorem dX4_clause_148 : decode cX4_clause 148 = .ok (.iconst 0, 1) := dk_3 (dk_at dksX4_clause_6 13 rfl rfl)
theorem dX4_clause_149 : decode cX4_clause 149 = .ok (.iconst 1, 1) := dk_4 (dk_at dksX4_clause_6 14 rfl rfl)
theorem dX4_clause_150 : decode cX4_clause 150 = .ok (.invokevirtual 98, 3) := dk_182 0 98 (dk_at dksX4_clause_6 15 rfl rfl)
theorem dX4_clause_153 : decode cX4_clause 153 = .ok (.aload_n 0, 1) := dk_42 (dk_at dksX4_clause_6 18 rfl rfl)
theorem dX4_clause_154 : decode cX4_clause 154 = .ok (.aload_n 0, 1) := dk_42 (dk_at dksX4_clause_6 19 rfl rfl)
theorem dX4_clause_155 : decode cX4_clause 155 = .ok (.getfield 81, 3) := dk_180 0 81 (dk_at dksX4_clause_6 20 rfl rfl)
theorem dX4_clause_158 : decode cX4_clause 158 = .ok (.iconst 1, 1) := dk_4 (dk_at dksX4_clause_6 23 rfl rfl)
theorem dX4_clause_159 : decode cX4_clause 159 = .ok (.if_icmp .lt 16, 3) := dk_161 0 16 (dk_at dksX4_clause_7 0 rfl rfl)
theorem dX4_clause_162 : decode cX4_clause 162 = .ok (.aload_n 0, 1) := dk_42 (dk_at dksX4_clause_7 3 rfl rfl)
theorem dX4_clause_163 : decode cX4_clause 163 = .ok (.getfield 81, 3) := dk_180 0 81 (dk_at dksX4_clause_7 4 rfl rfl)
theorem dX4_clause_166 : decode cX4_clause 166 = .ok (.bipush 8, 2) := dk_16 8 (dk_at dksX4_clause_7 7 rfl rfl)
theorem dX4_clause_168 : decode cX4_clause 168 = .ok (.if_icmp .gt 7, 3) := dk_163 0 7 (dk_at dksX4_clause_7 9 rfl rfl)
theorem dX4_clause_171 : decode cX4_clause 171 = .ok (.iconst 1, 1) := dk_4 (dk_at dksX4_clause_7 12 rfl rfl)
theorem dX4_clause_172 : decode cX4_clause 172 = .ok (.goto 4, 3) := dk_167 0 4 (dk_at dksX4_clause_7 13 rfl rfl)
theorem dX4_clause_175 : decode cX4_clause 175 = .ok (.iconst 0, 1) := dk_3 (dk_at dksX4_clause_7 16 rfl rfl)
theorem dX4_clause_176 : decode cX4_clause 176 = .ok (.iconst 2, 1) := dk_5 (dk_at dksX4_clause_7 17 rfl rfl)
theorem dX4_clause_177 : decode cX4_clause 177 = .ok (.invokevirtual 98, 3) := dk_182 0 98 (dk_at dksX4_clause_7 18 rfl rfl)
theorem dX4_clause_180 : decode cX4_clause 180 = .ok (.aload_n 0, 1) := dk_42 (dk_at dksX4_clause_7 21 rfl rfl)
theorem dX4_clause_181 : decode cX4_clause 181 = .ok (.getfield 20, 3) := dk_180 0 20 (dk_at dksX4_clause_8 0 rfl rfl)
theorem dX4_clause_184 : decode cX4_clause 184 = .ok (.aload_n 0, 1) := dk_42 (dk_at dksX4_clause_8 3 rfl rfl)
theorem dX4_clause_185 : decode cX4_clause 185 = .ok (.getfield 81, 3) := dk_180 0 81 (dk_at dksX4_clause_8 4 rfl rfl)
theorem dX4_clause_188 : decode cX4_clause 188 = .ok (.putfield 126, 3) := dk_181 0 126 (dk_at dksX4_clause_8 7 rfl rfl)
theorem dX4_clause_191 : decode cX4_clause 191 = .ok (.aload_n 0, 1) := dk_42 (dk_at dksX4_clause_8 10 rfl rfl)
theorem dX4_clause_192 : decode cX4_clause 192 = .ok (.invokevirtual 32, 3) := dk_182 0 32 (dk_at dksX4_clause_8 11 rfl rfl)
theorem dX4_clause_195 : decode cX4_clause 195 = .ok (.goto 81, 3) := dk_167 0 81 (dk_at dksX4_clause_8 14 rfl rfl)
theorem dX4_clause_198 : decode cX4_clause 198 = .ok (.aload_n 0, 1) := dk_42 (dk_at dksX4_clause_8 17 rfl rfl)
theorem dX4_clause_199 : decode cX4_clause 199 = .ok (.aload_n 0, 1) := dk_42 (dk_at dksX4_clause_8 18 rfl rfl)
theorem dX4_clause_200 : decode cX4_clause 200 = .ok (.getfield 20, 3) := dk_180 0 20 (dk_at dksX4_clause_8 19 rfl rfl)
theorem dX4_clause_203 : decode cX4_clause 203 = .ok (.getfield 128, 3) := dk_180 0 128 (dk_at dksX4_clause_9 0 rfl rfl)
theorem dX4_clause_206 : decode cX4_clause 206 = .ok (.bipush 12, 2) := dk_16 12 (dk_at dksX4_clause_9 3 rfl rfl)
theorem dX4_clause_208 : decode cX4_clause 208 = .ok (.if_icmp .ge 7, 3) := dk_162 0 7 (dk_at dksX4_clause_9 5 rfl rfl)
theorem dX4_clause_211 : decode cX4_clause 211 = .ok (.iconst 1, 1) := dk_4 (dk_at dksX4_clause_9 8 rfl rfl)
theorem dX4_clause_212 : decode cX4_clause 212 = .ok (.goto 4, 3) := dk_167 0 4 (dk_at dksX4_clause_9 9 rfl rfl)
theorem dX4_clause_215 : decode cX4_clause 215 = .ok (.iconst 0, 1) := dk_3 (dk_at dksX4_clause_9 12 rfl rfl)
theorem dX4_clause_216 : decode cX4_clause 216 = .ok (.iconst 2, 1) := dk_5 (dk_at dksX4_clause_9 13 rfl rfl)
theorem dX4_clause_217 : decode cX4_clause 217 = .ok (.invokevirtual 98, 3) := dk_182 0 98 (dk_at dksX4_clause_9 14 rfl rfl)
theorem dX4_clause_220 : decode cX4_clause 220 = .ok (.aload_n 0, 1) := dk_42 (dk_at dksX4_clause_9 17 rfl rfl)
theorem dX4_clause_221 : decode cX4_clause 221 = .ok (.invokevirtual 32, 3) := dk_182 0 32 (dk_at dksX4_clause_9 18 rfl rfl)
theorem dX4_clause_224 : decode cX4_clause 224 = .ok (.aload_n 0, 1) := dk_42 (dk_at dksX4_clause_9 21 rfl rfl)
theorem dX4_clause_225 : decode cX4_clause 225 = .ok (.invokevirtual 131, 3) := dk_182 0 131 (dk_at dksX4_clause_10 0 rfl rfl)
theorem dX4_clause_228 : decode cX4_clause 228 = .ok (.goto 48, 3) := dk_167 0 48 (dk_at dksX4_clause_10 3 rfl rfl)
theorem dX4_clause_231 : decode cX4_clause 231 = .ok (.aload_n 0, 1) := dk_42 (dk_at dksX4_clause_10 6 rfl rfl)
theorem dX4_clause_232 : decode cX4_clause 232 = .ok (.invokevirtual 32, 3) := dk_182 0 32 (dk_at dksX4_clause_10 7 rfl rfl)
theorem dX4_clause_235 : decode cX4_clause 235 = .ok (.aload_n 0, 1) := dk_42 (dk_at dksX4_clause_10 10 rfl rfl)
theorem dX4_clause_236 : decode cX4_clause 236 = .ok (.iconst 0, 1) := dk_3 (dk_at dksX4_clause_10 11 rfl rfl)
theorem dX4_clause_237 : decode cX4_clause 237 = .ok (.invokevirtual 133, 3) := dk_182 0 133 (dk_at dksX4_clause_10 12 rfl rfl)
theorem dX4_clause_240 : decode cX4_clause 240 = .ok (.istore_n 3, 1) := dk_62 (dk_at dksX4_clause_10 15 rfl rfl)
theorem dX4_clause_241 : decode cX4_clause 241 = .ok (.aload_n 0, 1) := dk_42 (dk_at dksX4_clause_10 16 rfl rfl)
theorem dX4_clause_242 : decode cX4_clause 242 = .ok (.getfield 20, 3) := dk_180 0 20 (dk_at dksX4_clause_10 17 rfl rfl)
theorem dX4_clause_245 : decode cX4_clause 245 = .ok (.getfield 136, 3) := dk_180 0 136 (dk_at dksX4_clause_10 20 rfl rfl)
theorem dX4_clause_248 : decode cX4_clause 248 = .ok (.iload_n 3, 1) := dk_29 (dk_at dksX4_clause_10 23 rfl rfl)
theorem dX4_clause_249 : decode cX4_clause 249 = .ok (.aload_n 0, 1) := dk_42 (dk_at dksX4_clause_11 0 rfl rfl)
theorem dX4_clause_250 : decode cX4_clause 250 = .ok (.invokevirtual 140, 3) := dk_182 0 140 (dk_at dksX4_clause_11 1 rfl rfl)
theorem dX4_clause_253 : decode cX4_clause 253 = .ok (.iastore, 1) := dk_79 (dk_at dksX4_clause_11 4 rfl rfl)
theorem dX4_clause_254 : decode cX4_clause 254 = .ok (.aload_n 0, 1) := dk_42 (dk_at dksX4_clause_11 5 rfl rfl)
theorem dX4_clause_255 : decode cX4_clause 255 = .ok (.getfield 20, 3) := dk_180 0 20 (dk_at dksX4_clause_11 6 rfl rfl)
theorem dX4_clause_258 : decode cX4_clause 258 = .ok (.getfield 143, 3) := dk_180 0 143 (dk_at dksX4_clause_11 9 rfl rfl)
theorem dX4_clause_261 : decode cX4_clause 261 = .ok (.iload_n 3, 1) := dk_29 (dk_at dksX4_clause_11 12 rfl rfl)
theorem dX4_clause_262 : decode cX4_clause 262 = .ok (.aload_n 0, 1) := dk_42 (dk_at dksX4_clause_11 13 rfl rfl)
theorem dX4_clause_263 : decode cX4_clause 263 = .ok (.invokevirtual 140, 3) := dk_182 0 140 (dk_at dksX4_clause_11 14 rfl rfl)
theorem dX4_clause_266 : decode cX4_clause 266 = .ok (.iastore, 1) := dk_79 (dk_at dksX4_clause_11 17 rfl rfl)
theorem dX4_clause_267 : decode cX4_clause 267 = .ok (.goto 9, 3) := dk_167 0 9 (dk_at dksX4_clause_11 18 rfl rfl)
theorem dX4_clause_270 : decode cX4_clause 270 = .ok (.aload_n 0, 1) := dk_42 (dk_at dksX4_clause_11 21 rfl rfl)
theorem dX4_clause_271 : decode cX4_clause 271 = .ok (.iconst 0, 1) := dk_3 (dk_at dksX4_clause_11 22 rfl rfl)
theorem dX4_clause_272 : decode cX4_clause 272 = .ok (.iconst 1, 1) := dk_4 (dk_at dksX4_clause_11 23 rfl rfl)
theorem dX4_clause_273 : decode cX4_clause 273 = .ok (.invokevirtual 98, 3) := dk_182 0 98 (dk_at dksX4_clause_12 0 rfl rfl)
theorem dX4_clause_276 : decode cX4_clause 276 = .ok (.return_, 1) := dk_177 (dk_at dksX4_clause_12 3 rfl rfl)
abbrev cX4_line : ByteArray := prog_7_method_11_code
def yX4_line : MethodName := ⟨RX4, "line", "()V"⟩
def dkwX4_line_3 : List UInt8 := [180, 0, 20, 27, 182, 0, 149, 177]
abbrev dktX4_line_3 : List UInt8 := dkwX4_line_3 ++ []
def dkwX4_line_2 : List UInt8 := [153, 0, 14, 42, 180, 0, 20, 27, 182, 0, 146, 153, 0, 7, 4, 167, 0, 4, 3, 8, 182, 0, 98, 42]
abbrev dktX4_line_2 : List UInt8 := dkwX4_line_2 ++ dktX4_line_3
def dkwX4_line_1 : List UInt8 := [27, 4, 42, 27, 182, 0, 133, 120, 128, 60, 132, 2, 1, 167, 255, 223, 42, 42, 16, 59, 182, 0, 105]
abbrev dktX4_line_1 : List UInt8 := dkwX4_line_1 ++ dktX4_line_2
def dkwX4_line_0 : List UInt8 := [3, 60, 3, 61, 28, 7, 162, 0, 34, 28, 5, 161, 0, 13, 42, 180, 0, 51, 178, 0, 84, 166, 0, 19]
abbrev dktX4_line_0 : List UInt8 := dkwX4_line_0 ++ dktX4_line_1
theorem dksX4_line_0 : cX4_line.data.toList.drop 0 = dktX4_line_0 := by decide +kernel
theorem dksX4_line_1 : cX4_line.data.toList.drop 24 = dktX4_line_1 := dk_seg dksX4_line_0 24 rfl rfl
theorem dksX4_line_2 : cX4_line.data.toList.drop 47 = dktX4_line_2 := dk_seg dksX4_line_1 23 rfl rfl
theorem dksX4_line_3 : cX4_line.data.toList.drop 71 = dktX4_line_3 := dk_seg dksX4_line_2 24 rfl rfl
theorem dX4_line_0 : decode cX4_line 0 = .ok (.iconst 0, 1) := dk_3 (dk_at dksX4_line_0 0 rfl rfl)
theorem dX4_line_1 : decode cX4_line 1 = .ok (.istore_n 1, 1) := dk_60 (dk_at dksX4_line_0 1 rfl rfl)
theorem dX4_line_2 : decode cX4_line 2 = .ok (.iconst 0, 1) := dk_3 (dk_at dksX4_line_0 2 rfl rfl)
theorem dX4_line_3 : decode cX4_line 3 = .ok (.istore_n 2, 1) := dk_61 (dk_at dksX4_line_0 3 rfl rfl)
theorem dX4_line_4 : decode cX4_line 4 = .ok (.iload_n 2, 1) := dk_28 (dk_at dksX4_line_0 4 rfl rfl)
theorem dX4_line_5 : decode cX4_line 5 = .ok (.iconst 4, 1) := dk_7 (dk_at dksX4_line_0 5 rfl rfl)
theorem dX4_line_6 : decode cX4_line 6 = .ok (.if_icmp .ge 34, 3) := dk_162 0 34 (dk_at dksX4_line_0 6 rfl rfl)
theorem dX4_line_9 : decode cX4_line 9 = .ok (.iload_n 2, 1) := dk_28 (dk_at dksX4_line_0 9 rfl rfl)
theorem dX4_line_10 : decode cX4_line 10 = .ok (.iconst 2, 1) := dk_5 (dk_at dksX4_line_0 10 rfl rfl)
theorem dX4_line_11 : decode cX4_line 11 = .ok (.if_icmp .lt 13, 3) := dk_161 0 13 (dk_at dksX4_line_0 11 rfl rfl)
theorem dX4_line_14 : decode cX4_line 14 = .ok (.aload_n 0, 1) := dk_42 (dk_at dksX4_line_0 14 rfl rfl)
theorem dX4_line_15 : decode cX4_line 15 = .ok (.getfield 51, 3) := dk_180 0 51 (dk_at dksX4_line_0 15 rfl rfl)
theorem dX4_line_18 : decode cX4_line 18 = .ok (.getstatic 84, 3) := dk_178 0 84 (dk_at dksX4_line_0 18 rfl rfl)
theorem dX4_line_21 : decode cX4_line 21 = .ok (.if_acmp .ne 19, 3) := dk_166 0 19 (dk_at dksX4_line_0 21 rfl rfl)
theorem dX4_line_24 : decode cX4_line 24 = .ok (.iload_n 1, 1) := dk_27 (dk_at dksX4_line_1 0 rfl rfl)
theorem dX4_line_25 : decode cX4_line 25 = .ok (.iconst 1, 1) := dk_4 (dk_at dksX4_line_1 1 rfl rfl)
theorem dX4_line_26 : decode cX4_line 26 = .ok (.aload_n 0, 1) := dk_42 (dk_at dksX4_line_1 2 rfl rfl)
theorem dX4_line_27 : decode cX4_line 27 = .ok (.iload_n 1, 1) := dk_27 (dk_at dksX4_line_1 3 rfl rfl)
theorem dX4_line_28 : decode cX4_line 28 = .ok (.invokevirtual 133, 3) := dk_182 0 133 (dk_at dksX4_line_1 4 rfl rfl)
theorem dX4_line_31 : decode cX4_line 31 = .ok (.ishl, 1) := dk_120 (dk_at dksX4_line_1 7 rfl rfl)
theorem dX4_line_32 : decode cX4_line 32 = .ok (.ior, 1) := dk_128 (dk_at dksX4_line_1 8 rfl rfl)
theorem dX4_line_33 : decode cX4_line 33 = .ok (.istore_n 1, 1) := dk_60 (dk_at dksX4_line_1 9 rfl rfl)
theorem dX4_line_34 : decode cX4_line 34 = .ok (.iinc 2 1, 3) := dk_132 2 1 (dk_at dksX4_line_1 10 rfl rfl)
theorem dX4_line_37 : decode cX4_line 37 = .ok (.goto (-33), 3) := dk_167 255 223 (dk_at dksX4_line_1 13 rfl rfl)
theorem dX4_line_40 : decode cX4_line 40 = .ok (.aload_n 0, 1) := dk_42 (dk_at dksX4_line_1 16 rfl rfl)
theorem dX4_line_41 : decode cX4_line 41 = .ok (.aload_n 0, 1) := dk_42 (dk_at dksX4_line_1 17 rfl rfl)
theorem dX4_line_42 : decode cX4_line 42 = .ok (.bipush 59, 2) := dk_16 59 (dk_at dksX4_line_1 18 rfl rfl)
theorem dX4_line_44 : decode cX4_line 44 = .ok (.invokevirtual 105, 3) := dk_182 0 105 (dk_at dksX4_line_1 20 rfl rfl)
theorem dX4_line_47 : decode cX4_line 47 = .ok (.ifCond .eq 14, 3) := dk_153 0 14 (dk_at dksX4_line_2 0 rfl rfl)
theorem dX4_line_50 : decode cX4_line 50 = .ok (.aload_n 0, 1) := dk_42 (dk_at dksX4_line_2 3 rfl rfl)
theorem dX4_line_51 : decode cX4_line 51 = .ok (.getfield 20, 3) := dk_180 0 20 (dk_at dksX4_line_2 4 rfl rfl)
theorem dX4_line_54 : decode cX4_line 54 = .ok (.iload_n 1, 1) := dk_27 (dk_at dksX4_line_2 7 rfl rfl)
theorem dX4_line_55 : decode cX4_line 55 = .ok (.invokevirtual 146, 3) := dk_182 0 146 (dk_at dksX4_line_2 8 rfl rfl)
theorem dX4_line_58 : decode cX4_line 58 = .ok (.ifCond .eq 7, 3) := dk_153 0 7 (dk_at dksX4_line_2 11 rfl rfl)
theorem dX4_line_61 : decode cX4_line 61 = .ok (.iconst 1, 1) := dk_4 (dk_at dksX4_line_2 14 rfl rfl)
theorem dX4_line_62 : decode cX4_line 62 = .ok (.goto 4, 3) := dk_167 0 4 (dk_at dksX4_line_2 15 rfl rfl)
theorem dX4_line_65 : decode cX4_line 65 = .ok (.iconst 0, 1) := dk_3 (dk_at dksX4_line_2 18 rfl rfl)
theorem dX4_line_66 : decode cX4_line 66 = .ok (.iconst 5, 1) := dk_8 (dk_at dksX4_line_2 19 rfl rfl)
theorem dX4_line_67 : decode cX4_line 67 = .ok (.invokevirtual 98, 3) := dk_182 0 98 (dk_at dksX4_line_2 20 rfl rfl)
theorem dX4_line_70 : decode cX4_line 70 = .ok (.aload_n 0, 1) := dk_42 (dk_at dksX4_line_2 23 rfl rfl)
theorem dX4_line_71 : decode cX4_line 71 = .ok (.getfield 20, 3) := dk_180 0 20 (dk_at dksX4_line_3 0 rfl rfl)
theorem dX4_line_74 : decode cX4_line 74 = .ok (.iload_n 1, 1) := dk_27 (dk_at dksX4_line_3 3 rfl rfl)
theorem dX4_line_75 : decode cX4_line 75 = .ok (.invokevirtual 149, 3) := dk_182 0 149 (dk_at dksX4_line_3 4 rfl rfl)
theorem dX4_line_78 : decode cX4_line 78 = .ok (.return_, 1) := dk_177 (dk_at dksX4_line_3 7 rfl rfl)
abbrev cX4_point : ByteArray := prog_7_method_10_code
def yX4_point : MethodName := ⟨RX4, "point", "(I)I"⟩
def dkwX4_point_4 : List UInt8 := [28, 172]
abbrev dktX4_point_4 : List UInt8 := dkwX4_point_4 ++ []
def dkwX4_point_3 : List UInt8 := [122, 4, 126, 154, 0, 7, 4, 167, 0, 4, 3, 8, 182, 0, 98, 42, 180, 0, 81, 61, 42, 182, 0, 32]
abbrev dktX4_point_3 : List UInt8 := dkwX4_point_3 ++ dktX4_point_4
def dkwX4_point_2 : List UInt8 := [180, 0, 20, 180, 0, 126, 162, 0, 7, 4, 167, 0, 4, 3, 6, 182, 0, 98, 42, 27, 42, 180, 0, 81]
abbrev dktX4_point_2 : List UInt8 := dkwX4_point_2 ++ dktX4_point_3
def dkwX4_point_1 : List UInt8 := [180, 0, 81, 16, 9, 163, 0, 7, 4, 167, 0, 4, 3, 5, 182, 0, 98, 42, 42, 180, 0, 81, 42]
abbrev dktX4_point_1 : List UInt8 := dkwX4_point_1 ++ dktX4_point_2
def dkwX4_point_0 : List UInt8 := [42, 42, 180, 0, 51, 178, 0, 84, 166, 0, 7, 4, 167, 0, 4, 3, 4, 182, 0, 98, 42, 42]
abbrev dktX4_point_0 : List UInt8 := dkwX4_point_0 ++ dktX4_point_1
theorem dksX4_point_0 : cX4_point.data.toList.drop 0 = dktX4_point_0 := by decide +kernel
theorem dksX4_point_1 : cX4_point.data.toList.drop 22 = dktX4_point_1 := dk_seg dksX4_point_0 22 rfl rfl
theorem dksX4_point_2 : cX4_point.data.toList.drop 45 = dktX4_point_2 := dk_seg dksX4_point_1 23 rfl rfl
theorem dksX4_point_3 : cX4_point.data.toList.drop 69 = dktX4_point_3 := dk_seg dksX4_point_2 24 rfl rfl
theorem dksX4_point_4 : cX4_point.data.toList.drop 93 = dktX4_point_4 := dk_seg dksX4_point_3 24 rfl rfl
theorem dX4_point_0 : decode cX4_point 0 = .ok (.aload_n 0, 1) := dk_42 (dk_at dksX4_point_0 0 rfl rfl)
theorem dX4_point_1 : decode cX4_point 1 = .ok (.aload_n 0, 1) := dk_42 (dk_at dksX4_point_0 1 rfl rfl)
theorem dX4_point_2 : decode cX4_point 2 = .ok (.getfield 51, 3) := dk_180 0 51 (dk_at dksX4_point_0 2 rfl rfl)
theorem dX4_point_5 : decode cX4_point 5 = .ok (.getstatic 84, 3) := dk_178 0 84 (dk_at dksX4_point_0 5 rfl rfl)
theorem dX4_point_8 : decode cX4_point 8 = .ok (.if_acmp .ne 7, 3) := dk_166 0 7 (dk_at dksX4_point_0 8 rfl rfl)
theorem dX4_point_11 : decode cX4_point 11 = .ok (.iconst 1, 1) := dk_4 (dk_at dksX4_point_0 11 rfl rfl)
theorem dX4_point_12 : decode cX4_point 12 = .ok (.goto 4, 3) := dk_167 0 4 (dk_at dksX4_point_0 12 rfl rfl)
theorem dX4_point_15 : decode cX4_point 15 = .ok (.iconst 0, 1) := dk_3 (dk_at dksX4_point_0 15 rfl rfl)
theorem dX4_point_16 : decode cX4_point 16 = .ok (.iconst 1, 1) := dk_4 (dk_at dksX4_point_0 16 rfl rfl)
theorem dX4_point_17 : decode cX4_point 17 = .ok (.invokevirtual 98, 3) := dk_182 0 98 (dk_at dksX4_point_0 17 rfl rfl)
theorem dX4_point_20 : decode cX4_point 20 = .ok (.aload_n 0, 1) := dk_42 (dk_at dksX4_point_0 20 rfl rfl)
theorem dX4_point_21 : decode cX4_point 21 = .ok (.aload_n 0, 1) := dk_42 (dk_at dksX4_point_0 21 rfl rfl)
theorem dX4_point_22 : decode cX4_point 22 = .ok (.getfield 81, 3) := dk_180 0 81 (dk_at dksX4_point_1 0 rfl rfl)
theorem dX4_point_25 : decode cX4_point 25 = .ok (.bipush 9, 2) := dk_16 9 (dk_at dksX4_point_1 3 rfl rfl)
theorem dX4_point_27 : decode cX4_point 27 = .ok (.if_icmp .gt 7, 3) := dk_163 0 7 (dk_at dksX4_point_1 5 rfl rfl)
theorem dX4_point_30 : decode cX4_point 30 = .ok (.iconst 1, 1) := dk_4 (dk_at dksX4_point_1 8 rfl rfl)
theorem dX4_point_31 : decode cX4_point 31 = .ok (.goto 4, 3) := dk_167 0 4 (dk_at dksX4_point_1 9 rfl rfl)
theorem dX4_point_34 : decode cX4_point 34 = .ok (.iconst 0, 1) := dk_3 (dk_at dksX4_point_1 12 rfl rfl)
theorem dX4_point_35 : decode cX4_point 35 = .ok (.iconst 2, 1) := dk_5 (dk_at dksX4_point_1 13 rfl rfl)
theorem dX4_point_36 : decode cX4_point 36 = .ok (.invokevirtual 98, 3) := dk_182 0 98 (dk_at dksX4_point_1 14 rfl rfl)
theorem dX4_point_39 : decode cX4_point 39 = .ok (.aload_n 0, 1) := dk_42 (dk_at dksX4_point_1 17 rfl rfl)
theorem dX4_point_40 : decode cX4_point 40 = .ok (.aload_n 0, 1) := dk_42 (dk_at dksX4_point_1 18 rfl rfl)
theorem dX4_point_41 : decode cX4_point 41 = .ok (.getfield 81, 3) := dk_180 0 81 (dk_at dksX4_point_1 19 rfl rfl)
theorem dX4_point_44 : decode cX4_point 44 = .ok (.aload_n 0, 1) := dk_42 (dk_at dksX4_point_1 22 rfl rfl)
theorem dX4_point_45 : decode cX4_point 45 = .ok (.getfield 20, 3) := dk_180 0 20 (dk_at dksX4_point_2 0 rfl rfl)
theorem dX4_point_48 : decode cX4_point 48 = .ok (.getfield 126, 3) := dk_180 0 126 (dk_at dksX4_point_2 3 rfl rfl)
theorem dX4_point_51 : decode cX4_point 51 = .ok (.if_icmp .ge 7, 3) := dk_162 0 7 (dk_at dksX4_point_2 6 rfl rfl)
theorem dX4_point_54 : decode cX4_point 54 = .ok (.iconst 1, 1) := dk_4 (dk_at dksX4_point_2 9 rfl rfl)
theorem dX4_point_55 : decode cX4_point 55 = .ok (.goto 4, 3) := dk_167 0 4 (dk_at dksX4_point_2 10 rfl rfl)
theorem dX4_point_58 : decode cX4_point 58 = .ok (.iconst 0, 1) := dk_3 (dk_at dksX4_point_2 13 rfl rfl)
theorem dX4_point_59 : decode cX4_point 59 = .ok (.iconst 3, 1) := dk_6 (dk_at dksX4_point_2 14 rfl rfl)
theorem dX4_point_60 : decode cX4_point 60 = .ok (.invokevirtual 98, 3) := dk_182 0 98 (dk_at dksX4_point_2 15 rfl rfl)
theorem dX4_point_63 : decode cX4_point 63 = .ok (.aload_n 0, 1) := dk_42 (dk_at dksX4_point_2 18 rfl rfl)
theorem dX4_point_64 : decode cX4_point 64 = .ok (.iload_n 1, 1) := dk_27 (dk_at dksX4_point_2 19 rfl rfl)
theorem dX4_point_65 : decode cX4_point 65 = .ok (.aload_n 0, 1) := dk_42 (dk_at dksX4_point_2 20 rfl rfl)
theorem dX4_point_66 : decode cX4_point 66 = .ok (.getfield 81, 3) := dk_180 0 81 (dk_at dksX4_point_2 21 rfl rfl)
theorem dX4_point_69 : decode cX4_point 69 = .ok (.ishr, 1) := dk_122 (dk_at dksX4_point_3 0 rfl rfl)
theorem dX4_point_70 : decode cX4_point 70 = .ok (.iconst 1, 1) := dk_4 (dk_at dksX4_point_3 1 rfl rfl)
theorem dX4_point_71 : decode cX4_point 71 = .ok (.iand, 1) := dk_126 (dk_at dksX4_point_3 2 rfl rfl)
theorem dX4_point_72 : decode cX4_point 72 = .ok (.ifCond .ne 7, 3) := dk_154 0 7 (dk_at dksX4_point_3 3 rfl rfl)
theorem dX4_point_75 : decode cX4_point 75 = .ok (.iconst 1, 1) := dk_4 (dk_at dksX4_point_3 6 rfl rfl)
theorem dX4_point_76 : decode cX4_point 76 = .ok (.goto 4, 3) := dk_167 0 4 (dk_at dksX4_point_3 7 rfl rfl)
theorem dX4_point_79 : decode cX4_point 79 = .ok (.iconst 0, 1) := dk_3 (dk_at dksX4_point_3 10 rfl rfl)
theorem dX4_point_80 : decode cX4_point 80 = .ok (.iconst 5, 1) := dk_8 (dk_at dksX4_point_3 11 rfl rfl)
theorem dX4_point_81 : decode cX4_point 81 = .ok (.invokevirtual 98, 3) := dk_182 0 98 (dk_at dksX4_point_3 12 rfl rfl)
theorem dX4_point_84 : decode cX4_point 84 = .ok (.aload_n 0, 1) := dk_42 (dk_at dksX4_point_3 15 rfl rfl)
theorem dX4_point_85 : decode cX4_point 85 = .ok (.getfield 81, 3) := dk_180 0 81 (dk_at dksX4_point_3 16 rfl rfl)
theorem dX4_point_88 : decode cX4_point 88 = .ok (.istore_n 2, 1) := dk_61 (dk_at dksX4_point_3 19 rfl rfl)
theorem dX4_point_89 : decode cX4_point 89 = .ok (.aload_n 0, 1) := dk_42 (dk_at dksX4_point_3 20 rfl rfl)
theorem dX4_point_90 : decode cX4_point 90 = .ok (.invokevirtual 32, 3) := dk_182 0 32 (dk_at dksX4_point_3 21 rfl rfl)
theorem dX4_point_93 : decode cX4_point 93 = .ok (.iload_n 2, 1) := dk_28 (dk_at dksX4_point_4 0 rfl rfl)
theorem dX4_point_94 : decode cX4_point 94 = .ok (.ireturn, 1) := dk_172 (dk_at dksX4_point_4 1 rfl rfl)
abbrev cX4_isSign : ByteArray := prog_7_method_7_code
def yX4_isSign : MethodName := ⟨RX4, "isSign", "(I)Z"⟩
def dkwX4_isSign_0 : List UInt8 := [42, 180, 0, 51, 178, 0, 87, 166, 0, 15, 42, 180, 0, 81, 27, 160, 0, 7, 4, 167, 0, 4, 3, 172]
abbrev dktX4_isSign_0 : List UInt8 := dkwX4_isSign_0 ++ []
theorem dksX4_isSign_0 : cX4_isSign.data.toList.drop 0 = dktX4_isSign_0 := by decide +kernel
theorem dX4_isSign_0 : decode cX4_isSign 0 = .ok (.aload_n 0, 1) := dk_42 (dk_at dksX4_isSign_0 0 rfl rfl)
theorem dX4_isSign_1 : decode cX4_isSign 1 = .ok (.getfield 51, 3) := dk_180 0 51 (dk_at dksX4_isSign_0 1 rfl rfl)
theorem dX4_isSign_4 : decode cX4_isSign 4 = .ok (.getstatic 87, 3) := dk_178 0 87 (dk_at dksX4_isSign_0 4 rfl rfl)
theorem dX4_isSign_7 : decode cX4_isSign 7 = .ok (.if_acmp .ne 15, 3) := dk_166 0 15 (dk_at dksX4_isSign_0 7 rfl rfl)
theorem dX4_isSign_10 : decode cX4_isSign 10 = .ok (.aload_n 0, 1) := dk_42 (dk_at dksX4_isSign_0 10 rfl rfl)
theorem dX4_isSign_11 : decode cX4_isSign 11 = .ok (.getfield 81, 3) := dk_180 0 81 (dk_at dksX4_isSign_0 11 rfl rfl)
theorem dX4_isSign_14 : decode cX4_isSign 14 = .ok (.iload_n 1, 1) := dk_27 (dk_at dksX4_isSign_0 14 rfl rfl)
theorem dX4_isSign_15 : decode cX4_isSign 15 = .ok (.if_icmp .ne 7, 3) := dk_160 0 7 (dk_at dksX4_isSign_0 15 rfl rfl)
theorem dX4_isSign_18 : decode cX4_isSign 18 = .ok (.iconst 1, 1) := dk_4 (dk_at dksX4_isSign_0 18 rfl rfl)
theorem dX4_isSign_19 : decode cX4_isSign 19 = .ok (.goto 4, 3) := dk_167 0 4 (dk_at dksX4_isSign_0 19 rfl rfl)
theorem dX4_isSign_22 : decode cX4_isSign 22 = .ok (.iconst 0, 1) := dk_3 (dk_at dksX4_isSign_0 22 rfl rfl)
theorem dX4_isSign_23 : decode cX4_isSign 23 = .ok (.ireturn, 1) := dk_172 (dk_at dksX4_isSign_0 23 rfl rfl)
abbrev cX4_signed : ByteArray := prog_7_method_12_code
def yX4_signed : MethodName := ⟨RX4, "signed", "()I"⟩
def dkwX4_signed_3 : List UInt8 := [61, 42, 182, 0, 32, 28, 172]
abbrev dktX4_signed_3 : List UInt8 := dkwX4_signed_3 ++ []
def dkwX4_signed_2 : List UInt8 := [167, 0, 4, 3, 5, 182, 0, 98, 27, 153, 0, 11, 42, 180, 0, 81, 116, 167, 0, 7, 42, 180, 0, 81]
abbrev dktX4_signed_2 : List UInt8 := dkwX4_signed_2 ++ dktX4_signed_3
def dkwX4_signed_1 : List UInt8 := [166, 0, 7, 4, 167, 0, 4, 3, 4, 182, 0, 98, 42, 42, 180, 0, 81, 16, 9, 163, 0, 7, 4]
abbrev dktX4_signed_1 : List UInt8 := dkwX4_signed_1 ++ dktX4_signed_2
def dkwX4_signed_0 : List UInt8 := [42, 16, 45, 182, 0, 105, 60, 27, 153, 0, 7, 42, 182, 0, 32, 42, 42, 180, 0, 51, 178, 0, 84]
abbrev dktX4_signed_0 : List UInt8 := dkwX4_signed_0 ++ dktX4_signed_1
theorem dksX4_signed_0 : cX4_signed.data.toList.drop 0 = dktX4_signed_0 := by decide +kernel
theorem dksX4_signed_1 : cX4_signed.data.toList.drop 23 = dktX4_signed_1 := dk_seg dksX4_signed_0 23 rfl rfl
theorem dksX4_signed_2 : cX4_signed.data.toList.drop 46 = dktX4_signed_2 := dk_seg dksX4_signed_1 23 rfl rfl
theorem dksX4_signed_3 : cX4_signed.data.toList.drop 70 = dktX4_signed_3 := dk_seg dksX4_signed_2 24 rfl rfl
theorem dX4_signed_0 : decode cX4_signed 0 = .ok (.aload_n 0, 1) := dk_42 (dk_at dksX4_signed_0 0 rfl rfl)
theorem dX4_signed_1 : decode cX4_signed 1 = .ok (.bipush 45, 2) := dk_16 45 (dk_at dksX4_signed_0 1 rfl rfl)
theorem dX4_signed_3 : decode cX4_signed 3 = .ok (.invokevirtual 105, 3) := dk_182 0 105 (dk_at dksX4_signed_0 3 rfl rfl)
theorem dX4_signed_6 : decode cX4_signed 6 = .ok (.istore_n 1, 1) := dk_60 (dk_at dksX4_signed_0 6 rfl rfl)
theorem dX4_signed_7 : decode cX4_signed 7 = .ok (.iload_n 1, 1) := dk_27 (dk_at dksX4_signed_0 7 rfl rfl)
theorem dX4_signed_8 : decode cX4_signed 8 = .ok (.ifCond .eq 7, 3) := dk_153 0 7 (dk_at dksX4_signed_0 8 rfl rfl)
theorem dX4_signed_11 : decode cX4_signed 11 = .ok (.aload_n 0, 1) := dk_42 (dk_at dksX4_signed_0 11 rfl rfl)
theorem dX4_signed_12 : decode cX4_signed 12 = .ok (.invokevirtual 32, 3) := dk_182 0 32 (dk_at dksX4_signed_0 12 rfl rfl)
theorem dX4_signed_15 : decode cX4_signed 15 = .ok (.aload_n 0, 1) := dk_42 (dk_at dksX4_signed_0 15 rfl rfl)
theorem dX4_signed_16 : decode cX4_signed 16 = .ok (.aload_n 0, 1) := dk_42 (dk_at dksX4_signed_0 16 rfl rfl)
theorem dX4_signed_17 : decode cX4_signed 17 = .ok (.getfield 51, 3) := dk_180 0 51 (dk_at dksX4_signed_0 17 rfl rfl)
theorem dX4_signed_20 : decode cX4_signed 20 = .ok (.getstatic 84, 3) := dk_178 0 84 (dk_at dksX4_signed_0 20 rfl rfl)
theorem dX4_signed_23 : decode cX4_signed 23 = .ok (.if_acmp .ne 7, 3) := dk_166 0 7 (dk_at dksX4_signed_1 0 rfl rfl)
theorem dX4_signed_26 : decode cX4_signed 26 = .ok (.iconst 1, 1) := dk_4 (dk_at dksX4_signed_1 3 rfl rfl)
theorem dX4_signed_27 : decode cX4_signed 27 = .ok (.goto 4, 3) := dk_167 0 4 (dk_at dksX4_signed_1 4 rfl rfl)
theorem dX4_signed_30 : decode cX4_signed 30 = .ok (.iconst 0, 1) := dk_3 (dk_at dksX4_signed_1 7 rfl rfl)
theorem dX4_signed_31 : decode cX4_signed 31 = .ok (.iconst 1, 1) := dk_4 (dk_at dksX4_signed_1 8 rfl rfl)
theorem dX4_signed_32 : decode cX4_signed 32 = .ok (.invokevirtual 98, 3) := dk_182 0 98 (dk_at dksX4_signed_1 9 rfl rfl)
theorem dX4_signed_35 : decode cX4_signed 35 = .ok (.aload_n 0, 1) := dk_42 (dk_at dksX4_signed_1 12 rfl rfl)
theorem dX4_signed_36 : decode cX4_signed 36 = .ok (.aload_n 0, 1) := dk_42 (dk_at dksX4_signed_1 13 rfl rfl)
theorem dX4_signed_37 : decode cX4_signed 37 = .ok (.getfield 81, 3) := dk_180 0 81 (dk_at dksX4_signed_1 14 rfl rfl)
theorem dX4_signed_40 : decode cX4_signed 40 = .ok (.bipush 9, 2) := dk_16 9 (dk_at dksX4_signed_1 17 rfl rfl)
theorem dX4_signed_42 : decode cX4_signed 42 = .ok (.if_icmp .gt 7, 3) := dk_163 0 7 (dk_at dksX4_signed_1 19 rfl rfl)
theorem dX4_signed_45 : decode cX4_signed 45 = .ok (.iconst 1, 1) := dk_4 (dk_at dksX4_signed_1 22 rfl rfl)
theorem dX4_signed_46 : decode cX4_signed 46 = .ok (.goto 4, 3) := dk_167 0 4 (dk_at dksX4_signed_2 0 rfl rfl)
theorem dX4_signed_49 : decode cX4_signed 49 = .ok (.iconst 0, 1) := dk_3 (dk_at dksX4_signed_2 3 rfl rfl)
theorem dX4_signed_50 : decode cX4_signed 50 = .ok (.iconst 2, 1) := dk_5 (dk_at dksX4_signed_2 4 rfl rfl)
theorem dX4_signed_51 : decode cX4_signed 51 = .ok (.invokevirtual 98, 3) := dk_182 0 98 (dk_at dksX4_signed_2 5 rfl rfl)
theorem dX4_signed_54 : decode cX4_signed 54 = .ok (.iload_n 1, 1) := dk_27 (dk_at dksX4_signed_2 8 rfl rfl)
theorem dX4_signed_55 : decode cX4_signed 55 = .ok (.ifCond .eq 11, 3) := dk_153 0 11 (dk_at dksX4_signed_2 9 rfl rfl)
theorem dX4_signed_58 : decode cX4_signed 58 = .ok (.aload_n 0, 1) := dk_42 (dk_at dksX4_signed_2 12 rfl rfl)
theorem dX4_signed_59 : decode cX4_signed 59 = .ok (.getfield 81, 3) := dk_180 0 81 (dk_at dksX4_signed_2 13 rfl rfl)
theorem dX4_signed_62 : decode cX4_signed 62 = .ok (.ineg, 1) := dk_116 (dk_at dksX4_signed_2 16 rfl rfl)
theorem dX4_signed_63 : decode cX4_signed 63 = .ok (.goto 7, 3) := dk_167 0 7 (dk_at dksX4_signed_2 17 rfl rfl)
theorem dX4_signed_66 : decode cX4_signed 66 = .ok (.aload_n 0, 1) := dk_42 (dk_at dksX4_signed_2 20 rfl rfl)
theorem dX4_signed_67 : decode cX4_signed 67 = .ok (.getfield 81, 3) := dk_180 0 81 (dk_at dksX4_signed_2 21 rfl rfl)
theorem dX4_signed_70 : decode cX4_signed 70 = .ok (.istore_n 2, 1) := dk_61 (dk_at dksX4_signed_3 0 rfl rfl)
theorem dX4_signed_71 : decode cX4_signed 71 = .ok (.aload_n 0, 1) := dk_42 (dk_at dksX4_signed_3 1 rfl rfl)
theorem dX4_signed_72 : decode cX4_signed 72 = .ok (.invokevirtual 32, 3) := dk_182 0 32 (dk_at dksX4_signed_3 2 rfl rfl)
theorem dX4_signed_75 : decode cX4_signed 75 = .ok (.iload_n 2, 1) := dk_28 (dk_at dksX4_signed_3 5 rfl rfl)
theorem dX4_signed_76 : decode cX4_signed 76 = .ok (.ireturn, 1) := dk_172 (dk_at dksX4_signed_3 6 rfl rfl)
theorem q173 : (Jvm.Cond.initialized "SchemeLister$Reader") ∈ lw_all := lw_g (lw_at lw_m1 23 rfl) rfl
theorem q227 : (Jvm.Cond.fieldLinkNest "SchemeLister$Reader" (126 : Nat) "SchemeLister$Scheme" "points" "I" "SchemeLister") ∈ lw_tbl := lw_at lw_m1 77 rfl
theorem q231 : (Jvm.Cond.fieldLinkNest "SchemeLister$Reader" (128 : Nat) "SchemeLister$Scheme" "lines" "I" "SchemeLister") ∈ lw_tbl := lw_at lw_m1 81 rfl
theorem q236 : (Jvm.Cond.fieldLinkNest "SchemeLister$Reader" (136 : Nat) "SchemeLister$Scheme" "x" "[I" "SchemeLister") ∈ lw_tbl := lw_at lw_m1 86 rfl
theorem q239 : (Jvm.Cond.fieldLinkNest "SchemeLister$Reader" (143 : Nat) "SchemeLister$Scheme" "y" "[I" "SchemeLister") ∈ lw_tbl := lw_at lw_m1 89 rfl
theorem q776 : (Jvm.Cond.selects "SchemeLister$Reader" ({ cls := "java/lang/Object", name := "getClass", desc := "()Ljava/lang/Class;" } : Jvm.MethodName) ({ cls := "java/lang/Object", name := "getClass", desc := "()Ljava/lang/Class;" } : Jvm.MethodName)) ∈ lw_all := lw_g (lw_at lw_m3 146 rfl) rfl
theorem q963 : (Jvm.Cond.instantiable "SchemeLister$Reader" (9 : Nat)) ∈ lw_all := lw_g (lw_at lw_m4 93 rfl) rfl
theorem q965 : (Jvm.Cond.instanceMethod ({ cls := "SchemeLister$Reader", name := "<init>", desc := "([BI)V" } : Jvm.MethodName)) ∈ lw_all := lw_g (lw_at lw_m4 95 rfl) rfl
theorem q966 : (Jvm.Cond.code ({ cls := "SchemeLister$Reader", name := "<init>", desc := "([BI)V" } : Jvm.MethodName) prog_7_method_1_code (3 : Nat) (Option.none : Option Jvm.ClassFile.FieldType)) ∈ lw_all := lw_g (lw_at lw_m4 96 rfl) rfl
theorem q967 : (Jvm.Cond.methodLink "SchemeLister$Reader" (3 : Nat) ({ cls := "java/lang/Object", name := "<init>", desc := "()V" } : Jvm.MethodName)) ∈ lw_all := lw_g (lw_at lw_m4 97 rfl) rfl
theorem q968 : (Jvm.Cond.stringRef "SchemeLister$Reader" (9 : Nat) "") ∈ lw_tbl := lw_at lw_m4 98 rfl
theorem q969 : (Jvm.Cond.classLink "SchemeLister$Reader" (17 : Nat) "SchemeLister$Scheme") ∈ lw_all := lw_g (lw_at lw_m4 99 rfl) rfl
theorem q970 : (Jvm.Cond.methodLinkNest "SchemeLister$Reader" (19 : Nat) ({ cls := "SchemeLister$Scheme", name := "<init>", desc := "()V" } : Jvm.MethodName) "SchemeLister") ∈ lw_tbl := lw_at lw_m4 100 rfl
theorem q971 : (Jvm.Cond.methodLink "SchemeLister$Reader" (32 : Nat) ({ cls := "SchemeLister$Reader", name := "go", desc := "()V" } : Jvm.MethodName)) ∈ lw_all := lw_g (lw_at lw_m4 101 rfl) rfl
theorem q972 : (Jvm.Cond.privateMethod ({ cls := "SchemeLister$Reader", name := "go", desc := "()V" } : Jvm.MethodName)) ∈ lw_tbl := lw_at lw_m4 102 rfl
theorem q973 : (Jvm.Cond.instanceMethod ({ cls := "SchemeLister$Reader", name := "go", desc := "()V" } : Jvm.MethodName)) ∈ lw_all := lw_g (lw_at lw_m4 103 rfl) rfl
theorem q974 : (Jvm.Cond.code ({ cls := "SchemeLister$Reader", name := "go", desc := "()V" } : Jvm.MethodName) prog_7_method_5_code (3 : Nat) (Option.none : Option Jvm.ClassFile.FieldType)) ∈ lw_all := lw_g (lw_at lw_m4 104 rfl) rfl
theorem q975 : (Jvm.Cond.methodLink "SchemeLister$Reader" (38 : Nat) ({ cls := "SchemeLister$Reader", name := "byteAt", desc := "(I)I" } : Jvm.MethodName)) ∈ lw_all := lw_g (lw_at lw_m4 105 rfl) rfl
theorem q976 : (Jvm.Cond.privateMethod ({ cls := "SchemeLister$Reader", name := "byteAt", desc := "(I)I" } : Jvm.MethodName)) ∈ lw_tbl := lw_at lw_m4 106 rfl
theorem q977 : (Jvm.Cond.instanceMethod ({ cls := "SchemeLister$Reader", name := "byteAt", desc := "(I)I" } : Jvm.MethodName)) ∈ lw_all := lw_g (lw_at lw_m4 107 rfl) rfl
theorem q978 : (Jvm.Cond.code ({ cls := "SchemeLister$Reader", name := "byteAt", desc := "(I)I" } : Jvm.MethodName) prog_7_method_2_code (2 : Nat) (Option.some Jvm.ClassFile.FieldType.int)) ∈ lw_all := lw_g (lw_at lw_m4 108 rfl) rfl
theorem q979 : (Jvm.Cond.fieldLink "SchemeLister$Reader" (45 : Nat) "SchemeLister$Sort" "END" "LSchemeLister$Sort;") ∈ lw_all := lw_g (lw_at lw_m4 109 rfl) rfl
theorem q981 : (Jvm.Cond.methodLink "SchemeLister$Reader" (54 : Nat) ({ cls := "SchemeLister$Reader", name := "isLetter", desc := "(I)Z" } : Jvm.MethodName)) ∈ lw_all := lw_g (lw_at lw_m4 111 rfl) rfl
theorem q982 : (Jvm.Cond.static ({ cls := "SchemeLister$Reader", name := "isLetter", desc := "(I)Z" } : Jvm.MethodName)) ∈ lw_all := lw_g (lw_at lw_m4 112 rfl) rfl
theorem q983 : (Jvm.Cond.code ({ cls := "SchemeLister$Reader", name := "isLetter", desc := "(I)Z" } : Jvm.MethodName) prog_7_method_3_code (1 : Nat) (Option.some Jvm.ClassFile.FieldType.boolean)) ∈ lw_all := lw_g (lw_at lw_m4 113 rfl) rfl
theorem q984 : (Jvm.Cond.classLink "SchemeLister$Reader" (58 : Nat) "java/lang/StringBuilder") ∈ lw_all := lw_g (lw_at lw_m4 114 rfl) rfl
theorem q985 : (Jvm.Cond.methodLink "SchemeLister$Reader" (60 : Nat) ({ cls := "java/lang/StringBuilder", name := "<init>", desc := "(I)V" } : Jvm.MethodName)) ∈ lw_all := lw_g (lw_at lw_m4 115 rfl) rfl
theorem q988 : (Jvm.Cond.methodLink "SchemeLister$Reader" (63 : Nat) ({ cls := "java/lang/StringBuilder", name := "length", desc := "()I" } : Jvm.MethodName)) ∈ lw_all := lw_g (lw_at lw_m4 118 rfl) rfl
theorem q989 : (Jvm.Cond.methodLink "SchemeLister$Reader" (67 : Nat) ({ cls := "java/lang/StringBuilder", name := "append", desc := "(C)Ljava/lang/StringBuilder;" } : Jvm.MethodName)) ∈ lw_all := lw_g (lw_at lw_m4 119 rfl) rfl
theorem q1009 : (Jvm.Cond.methodLink "SchemeLister$Reader" (71 : Nat) ({ cls := "java/lang/StringBuilder", name := "toString", desc := "()Ljava/lang/String;" } : Jvm.MethodName)) ∈ lw_all := lw_g (lw_at lw_m4 139 rfl) rfl
theorem q1010 : (Jvm.Cond.fieldLink "SchemeLister$Reader" (75 : Nat) "SchemeLister$Sort" "WORD" "LSchemeLister$Sort;") ∈ lw_all := lw_g (lw_at lw_m4 140 rfl) rfl
theorem q1012 : (Jvm.Cond.methodLink "SchemeLister$Reader" (78 : Nat) ({ cls := "SchemeLister$Reader", name := "isDigit", desc := "(I)Z" } : Jvm.MethodName)) ∈ lw_all := lw_g (lw_at lw_m4 142 rfl) rfl
theorem q1013 : (Jvm.Cond.static ({ cls := "SchemeLister$Reader", name := "isDigit", desc := "(I)Z" } : Jvm.MethodName)) ∈ lw_all := lw_g (lw_at lw_m4 143 rfl) rfl
theorem q1014 : (Jvm.Cond.code ({ cls := "SchemeLister$Reader", name := "isDigit", desc := "(I)Z" } : Jvm.MethodName) prog_7_method_4_code (1 : Nat) (Option.some Jvm.ClassFile.FieldType.boolean)) ∈ lw_all := lw_g (lw_at lw_m4 144 rfl) rfl
theorem q1015 : (Jvm.Cond.fieldLink "SchemeLister$Reader" (84 : Nat) "SchemeLister$Sort" "NUMBER" "LSchemeLister$Sort;") ∈ lw_all := lw_g (lw_at lw_m4 145 rfl) rfl
theorem q1017 : (Jvm.Cond.fieldLink "SchemeLister$Reader" (87 : Nat) "SchemeLister$Sort" "SIGN" "LSchemeLister$Sort;") ∈ lw_all := lw_g (lw_at lw_m4 147 rfl) rfl
theorem q1019 : (Jvm.Cond.fieldLink "SchemeLister$Reader" (90 : Nat) "SchemeLister$Sort" "BAD" "LSchemeLister$Sort;") ∈ lw_all := lw_g (lw_at lw_m4 149 rfl) rfl
theorem q1021 : (Jvm.Cond.fieldLink "SchemeLister$Reader" (24 : Nat) "SchemeLister$Reader" "text" "[B") ∈ lw_all := lw_g (lw_at lw_m4 151 rfl) rfl
theorem q1022 : (Jvm.Cond.fieldLink "SchemeLister$Reader" (28 : Nat) "SchemeLister$Reader" "size" "I") ∈ lw_all := lw_g (lw_at lw_m4 152 rfl) rfl
theorem q1023 : (Jvm.Cond.fieldLink "SchemeLister$Reader" (35 : Nat) "SchemeLister$Reader" "next" "I") ∈ lw_all := lw_g (lw_at lw_m4 153 rfl) rfl
theorem q1024 : (Jvm.Cond.fieldLink "SchemeLister$Reader" (42 : Nat) "SchemeLister$Reader" "place" "I") ∈ lw_all := lw_g (lw_at lw_m4 154 rfl) rfl
theorem q1025 : (Jvm.Cond.fieldLink "SchemeLister$Reader" (81 : Nat) "SchemeLister$Reader" "value" "I") ∈ lw_all := lw_g (lw_at lw_m4 155 rfl) rfl
theorem q1026 : (Jvm.Cond.fieldLink "SchemeLister$Reader" (108 : Nat) "SchemeLister$Reader" "clauses" "I") ∈ lw_all := lw_g (lw_at lw_m4 156 rfl) rfl
theorem q1027 : (Jvm.Cond.fieldLink "SchemeLister$Reader" (51 : Nat) "SchemeLister$Reader" "sort" "LSchemeLister$Sort;") ∈ lw_all := lw_g (lw_at lw_m4 157 rfl) rfl
theorem q1028 : (Jvm.Cond.fieldLink "SchemeLister$Reader" (11 : Nat) "SchemeLister$Reader" "word" "Ljava/lang/String;") ∈ lw_all := lw_g (lw_at lw_m4 158 rfl) rfl
theorem q1029 : (Jvm.Cond.fieldLink "SchemeLister$Reader" (20 : Nat) "SchemeLister$Reader" "made" "LSchemeLister$Scheme;") ∈ lw_all := lw_g (lw_at lw_m4 159 rfl) rfl
theorem q1030 : (Jvm.Cond.laysFinal "SchemeLister$Reader" "SchemeLister$Reader" "text" "[B") ∈ lw_all := lw_g (lw_at lw_m4 160 rfl) rfl
theorem q1031 : (Jvm.Cond.soleField "SchemeLister$Reader" "text") ∈ lw_all := lw_g (lw_at lw_m4 161 rfl) rfl
theorem q1032 : (Jvm.Cond.laysFinal "SchemeLister$Reader" "SchemeLister$Reader" "size" "I") ∈ lw_all := lw_g (lw_at lw_m4 162 rfl) rfl
theorem q1033 : (Jvm.Cond.soleField "SchemeLister$Reader" "size") ∈ lw_all := lw_g (lw_at lw_m4 163 rfl) rfl
theorem q1034 : (Jvm.Cond.lays "SchemeLister$Reader" "SchemeLister$Reader" "next" "I") ∈ lw_all := lw_g (lw_at lw_m4 164 rfl) rfl
theorem q1035 : (Jvm.Cond.soleField "SchemeLister$Reader" "next") ∈ lw_all := lw_g (lw_at lw_m4 165 rfl) rfl
theorem q1036 : (Jvm.Cond.lays "SchemeLister$Reader" "SchemeLister$Reader" "place" "I") ∈ lw_all := lw_g (lw_at lw_m4 166 rfl) rfl
theorem q1037 : (Jvm.Cond.soleField "SchemeLister$Reader" "place") ∈ lw_all := lw_g (lw_at lw_m4 167 rfl) rfl
theorem q1038 : (Jvm.Cond.lays "SchemeLister$Reader" "SchemeLister$Reader" "value" "I") ∈ lw_all := lw_g (lw_at lw_m4 168 rfl) rfl
theorem q1039 : (Jvm.Cond.soleField "SchemeLister$Reader" "value") ∈ lw_all := lw_g (lw_at lw_m4 169 rfl) rfl
theorem q1040 : (Jvm.Cond.lays "SchemeLister$Reader" "SchemeLister$Reader" "clauses" "I") ∈ lw_all := lw_g (lw_at lw_m4 170 rfl) rfl
theorem q1041 : (Jvm.Cond.soleField "SchemeLister$Reader" "clauses") ∈ lw_all := lw_g (lw_at lw_m4 171 rfl) rfl
theorem q1042 : (Jvm.Cond.lays "SchemeLister$Reader" "SchemeLister$Reader" "sort" "LSchemeLister$Sort;") ∈ lw_all := lw_g (lw_at lw_m4 172 rfl) rfl
theorem q1043 : (Jvm.Cond.soleField "SchemeLister$Reader" "sort") ∈ lw_all := lw_g (lw_at lw_m4 173 rfl) rfl
theorem q1044 : (Jvm.Cond.lays "SchemeLister$Reader" "SchemeLister$Reader" "word" "Ljava/lang/String;") ∈ lw_all := lw_g (lw_at lw_m4 174 rfl) rfl
theorem q1045 : (Jvm.Cond.soleField "SchemeLister$Reader" "word") ∈ lw_all := lw_g (lw_at lw_m4 175 rfl) rfl
theorem q1046 : (Jvm.Cond.laysFinal "SchemeLister$Reader" "SchemeLister$Reader" "made" "LSchemeLister$Scheme;") ∈ lw_all := lw_g (lw_at lw_m4 176 rfl) rfl
theorem q1047 : (Jvm.Cond.soleField "SchemeLister$Reader" "made") ∈ lw_all := lw_g (lw_at lw_m4 177 rfl) rfl
theorem q1048 : (Jvm.Cond.superclass "SchemeLister$Reader" "java/lang/Object") ∈ lw_all := lw_g (lw_at lw_m4 178 rfl) rfl
theorem q1050 : (Jvm.Cond.instanceMethod ({ cls := "SchemeLister$Reader", name := "whole", desc := "()LSchemeLister$Scheme;" } : Jvm.MethodName)) ∈ lw_all := lw_g (lw_at lw_m4 180 rfl) rfl
theorem q1051 : (Jvm.Cond.selects "SchemeLister$Reader" ({ cls := "SchemeLister$Reader", name := "whole", desc := "()LSchemeLister$Scheme;" } : Jvm.MethodName) ({ cls := "SchemeLister$Reader", name := "whole", desc := "()LSchemeLister$Scheme;" } : Jvm.MethodName)) ∈ lw_all := lw_g (lw_at lw_m4 181 rfl) rfl
theorem q1052 : (Jvm.Cond.code ({ cls := "SchemeLister$Reader", name := "whole", desc := "()LSchemeLister$Scheme;" } : Jvm.MethodName) prog_7_method_8_code (1 : Nat) (Option.some (Jvm.ClassFile.FieldType.object "SchemeLister$Scheme"))) ∈ lw_all := lw_g (lw_at lw_m4 182 rfl) rfl
theorem q1053 : (Jvm.Cond.methodLink "SchemeLister$Reader" (98 : Nat) ({ cls := "SchemeLister$Reader", name := "check", desc := "(ZI)V" } : Jvm.MethodName)) ∈ lw_all := lw_g (lw_at lw_m4 183 rfl) rfl
theorem q1054 : (Jvm.Cond.privateMethod ({ cls := "SchemeLister$Reader", name := "check", desc := "(ZI)V" } : Jvm.MethodName)) ∈ lw_tbl := lw_at lw_m4 184 rfl
theorem q1055 : (Jvm.Cond.instanceMethod ({ cls := "SchemeLister$Reader", name := "check", desc := "(ZI)V" } : Jvm.MethodName)) ∈ lw_all := lw_g (lw_at lw_m4 185 rfl) rfl
theorem q1056 : (Jvm.Cond.code ({ cls := "SchemeLister$Reader", name := "check", desc := "(ZI)V" } : Jvm.MethodName) prog_7_method_6_code (3 : Nat) (Option.none : Option Jvm.ClassFile.FieldType)) ∈ lw_all := lw_g (lw_at lw_m4 186 rfl) rfl
theorem q1057 : (Jvm.Cond.classLink "SchemeLister$Reader" (93 : Nat) "SchemeLister$Fault") ∈ lw_all := lw_g (lw_at lw_m4 187 rfl) rfl
theorem q1066 : (Jvm.Cond.methodLink "SchemeLister$Reader" (95 : Nat) ({ cls := "SchemeLister$Fault", name := "<init>", desc := "(II)V" } : Jvm.MethodName)) ∈ lw_all := lw_g (lw_at lw_m4 196 rfl) rfl
theorem q1080 : (Jvm.Cond.methodLink "SchemeLister$Reader" (102 : Nat) ({ cls := "SchemeLister$Reader", name := "clause", desc := "()V" } : Jvm.MethodName)) ∈ lw_all := lw_g (lw_at lw_m4 210 rfl) rfl
theorem q1081 : (Jvm.Cond.privateMethod ({ cls := "SchemeLister$Reader", name := "clause", desc := "()V" } : Jvm.MethodName)) ∈ lw_tbl := lw_at lw_m4 211 rfl
theorem q1082 : (Jvm.Cond.instanceMethod ({ cls := "SchemeLister$Reader", name := "clause", desc := "()V" } : Jvm.MethodName)) ∈ lw_all := lw_g (lw_at lw_m4 212 rfl) rfl
theorem q1083 : (Jvm.Cond.code ({ cls := "SchemeLister$Reader", name := "clause", desc := "()V" } : Jvm.MethodName) prog_7_method_9_code (4 : Nat) (Option.none : Option Jvm.ClassFile.FieldType)) ∈ lw_all := lw_g (lw_at lw_m4 213 rfl) rfl
theorem q1084 : (Jvm.Cond.methodLink "SchemeLister$Reader" (111 : Nat) ({ cls := "java/lang/String", name := "hashCode", desc := "()I" } : Jvm.MethodName)) ∈ lw_all := lw_g (lw_at lw_m4 214 rfl) rfl
theorem q1145 : (Jvm.Cond.stringRef "SchemeLister$Reader" (116 : Nat) "points") ∈ lw_tbl := lw_at lw_m5 35 rfl
theorem q1146 : (Jvm.Cond.methodLink "SchemeLister$Reader" (118 : Nat) ({ cls := "java/lang/String", name := "equals", desc := "(Ljava/lang/Object;)Z" } : Jvm.MethodName)) ∈ lw_all := lw_g (lw_at lw_m5 36 rfl) rfl
theorem q1154 : (Jvm.Cond.stringRef "SchemeLister$Reader" (122 : Nat) "line") ∈ lw_tbl := lw_at lw_m5 44 rfl
theorem q1155 : (Jvm.Cond.stringRef "SchemeLister$Reader" (124 : Nat) "at") ∈ lw_tbl := lw_at lw_m5 45 rfl
theorem q1156 : (Jvm.Cond.methodLink "SchemeLister$Reader" (131 : Nat) ({ cls := "SchemeLister$Reader", name := "line", desc := "()V" } : Jvm.MethodName)) ∈ lw_all := lw_g (lw_at lw_m5 46 rfl) rfl
theorem q1157 : (Jvm.Cond.privateMethod ({ cls := "SchemeLister$Reader", name := "line", desc := "()V" } : Jvm.MethodName)) ∈ lw_tbl := lw_at lw_m5 47 rfl
theorem q1158 : (Jvm.Cond.instanceMethod ({ cls := "SchemeLister$Reader", name := "line", desc := "()V" } : Jvm.MethodName)) ∈ lw_all := lw_g (lw_at lw_m5 48 rfl) rfl
theorem q1159 : (Jvm.Cond.code ({ cls := "SchemeLister$Reader", name := "line", desc := "()V" } : Jvm.MethodName) prog_7_method_11_code (3 : Nat) (Option.none : Option Jvm.ClassFile.FieldType)) ∈ lw_all := lw_g (lw_at lw_m5 49 rfl) rfl
theorem q1160 : (Jvm.Cond.methodLink "SchemeLister$Reader" (133 : Nat) ({ cls := "SchemeLister$Reader", name := "point", desc := "(I)I" } : Jvm.MethodName)) ∈ lw_all := lw_g (lw_at lw_m5 50 rfl) rfl
theorem q1161 : (Jvm.Cond.privateMethod ({ cls := "SchemeLister$Reader", name := "point", desc := "(I)I" } : Jvm.MethodName)) ∈ lw_tbl := lw_at lw_m5 51 rfl
theorem q1162 : (Jvm.Cond.instanceMethod ({ cls := "SchemeLister$Reader", name := "point", desc := "(I)I" } : Jvm.MethodName)) ∈ lw_all := lw_g (lw_at lw_m5 52 rfl) rfl
theorem q1163 : (Jvm.Cond.code ({ cls := "SchemeLister$Reader", name := "point", desc := "(I)I" } : Jvm.MethodName) prog_7_method_10_code (3 : Nat) (Option.some Jvm.ClassFile.FieldType.int)) ∈ lw_all := lw_g (lw_at lw_m5 53 rfl) rfl
theorem q1164 : (Jvm.Cond.methodLink "SchemeLister$Reader" (105 : Nat) ({ cls := "SchemeLister$Reader", name := "isSign", desc := "(I)Z" } : Jvm.MethodName)) ∈ lw_all := lw_g (lw_at lw_m5 54 rfl) rfl
theorem q1165 : (Jvm.Cond.privateMethod ({ cls := "SchemeLister$Reader", name := "isSign", desc := "(I)Z" } : Jvm.MethodName)) ∈ lw_tbl := lw_at lw_m5 55 rfl
theorem q1166 : (Jvm.Cond.instanceMethod ({ cls := "SchemeLister$Reader", name := "isSign", desc := "(I)Z" } : Jvm.MethodName)) ∈ lw_all := lw_g (lw_at lw_m5 56 rfl) rfl
theorem q1167 : (Jvm.Cond.code ({ cls := "SchemeLister$Reader", name := "isSign", desc := "(I)Z" } : Jvm.MethodName) prog_7_method_7_code (2 : Nat) (Option.some Jvm.ClassFile.FieldType.boolean)) ∈ lw_all := lw_g (lw_at lw_m5 57 rfl) rfl
theorem q1168 : (Jvm.Cond.methodLink "SchemeLister$Reader" (146 : Nat) ({ cls := "SchemeLister$Scheme", name := "isFree", desc := "(I)Z" } : Jvm.MethodName)) ∈ lw_all := lw_g (lw_at lw_m5 58 rfl) rfl
theorem q1169 : (Jvm.Cond.methodLink "SchemeLister$Reader" (149 : Nat) ({ cls := "SchemeLister$Scheme", name := "adds", desc := "(I)V" } : Jvm.MethodName)) ∈ lw_all := lw_g (lw_at lw_m5 59 rfl) rfl
theorem q1170 : (Jvm.Cond.methodLink "SchemeLister$Reader" (140 : Nat) ({ cls := "SchemeLister$Reader", name := "signed", desc := "()I" } : Jvm.MethodName)) ∈ lw_all := lw_g (lw_at lw_m5 60 rfl) rfl
theorem q1171 : (Jvm.Cond.privateMethod ({ cls := "SchemeLister$Reader", name := "signed", desc := "()I" } : Jvm.MethodName)) ∈ lw_tbl := lw_at lw_m5 61 rfl
theorem q1172 : (Jvm.Cond.instanceMethod ({ cls := "SchemeLister$Reader", name := "signed", desc := "()I" } : Jvm.MethodName)) ∈ lw_all := lw_g (lw_at lw_m5 62 rfl) rfl
theorem q1173 : (Jvm.Cond.code ({ cls := "SchemeLister$Reader", name := "signed", desc := "()I" } : Jvm.MethodName) prog_7_method_12_code (3 : Nat) (Option.some Jvm.ClassFile.FieldType.int)) ∈ lw_all := lw_g (lw_at lw_m5 63 rfl) rfl
theorem q2326 : (Jvm.Cond.castable "SchemeLister$Reader" "java/lang/Object") ∈ lw_tbl := lw_at lw_m10 16 rfl
theorem in_X4 : ∀ w ∈ wsX40, w ∈ lw_all := lw_in wsX40 [1030, 1032, 1034, 1036, 1038, 1040, 1042, 1044, 1046] (by decide +kernel) (by decide +kernel)

/-! SchemeLister$Fault -/
set_option maxRecDepth 100000
def RX5 : String := "SchemeLister$Fault"
def TX5 : u_T := fun k => match k with
  | 0 => ("java/lang/Throwable", "cause", "Ljava/lang/Throwable;", false)
  | 1 => ("java/lang/Throwable", "stackTrace", "[Ljava/lang/StackTraceElement;", false)
  | 2 => ("java/lang/Throwable", "suppressedExceptions", "Ljava/util/List;", false)
  | 3 => ("java/lang/Throwable", "detailMessage", "Ljava/lang/String;", false)
  | 4 => ("java/lang/Throwable", "backtrace", "Ljava/lang/Object;", false)
  | 5 => ("java/lang/Throwable", "depth", "I", false)
  | 6 => ("SchemeLister$Fault", "kind", "I", true)
  | _ => ("SchemeLister$Fault", "place", "I", true)
def tyX5 : Nat → FieldType := fun k => match k with
  | 0 => .object "java/lang/Throwable"
  | 1 => .array (.object "java/lang/StackTraceElement")
  | 2 => .object "java/util/List"
  | 3 => .object "java/lang/String"
  | 4 => .object "java/lang/Object"
  | 5 => .int
  | 6 => .int
  | _ => .int
abbrev wsX50 : List Cond := u_ws RX5 TX5 8
theorem nmX5 : ∀ a, a < 8 → ∀ b, b < 8 → a ≠ b → (TX5 a).2.1 ≠ (TX5 b).2.1 := by decide +kernel
theorem tyX5_ok : ∀ k, k < 8 → parseFieldDescriptor (TX5 k).2.2.1 = some (tyX5 k) := by decide +kernel
abbrev cX5_init : ByteArray := prog_4_method_1_code
def yX5_init : MethodName := ⟨RX5, "<init>", "(II)V"⟩
def dkwX5_init_0 : List UInt8 := [42, 183, 0, 1, 42, 27, 181, 0, 7, 42, 28, 181, 0, 13, 177]
abbrev dktX5_init_0 : List UInt8 := dkwX5_init_0 ++ []
theorem dksX5_init_0 : cX5_init.data.toList.drop 0 = dktX5_init_0 := by decide +kernel
theorem dX5_init_0 : decode cX5_init 0 = .ok (.aload_n 0, 1) := dk_42 (dk_at dksX5_init_0 0 rfl rfl)
theorem dX5_init_1 : decode cX5_init 1 = .ok (.invokespecial 1, 3) := dk_183 0 1 (dk_at dksX5_init_0 1 rfl rfl)
theorem dX5_init_4 : decode cX5_init 4 = .ok (.aload_n 0, 1) := dk_42 (dk_at dksX5_init_0 4 rfl rfl)
theorem dX5_init_5 : decode cX5_init 5 = .ok (.iload_n 1, 1) := dk_27 (dk_at dksX5_init_0 5 rfl rfl)
theorem dX5_init_6 : decode cX5_init 6 = .ok (.putfield 7, 3) := dk_181 0 7 (dk_at dksX5_init_0 6 rfl rfl)
theorem dX5_init_9 : decode cX5_init 9 = .ok (.aload_n 0, 1) := dk_42 (dk_at dksX5_init_0 9 rfl rfl)
theorem dX5_init_10 : decode cX5_init 10 = .ok (.iload_n 2, 1) := dk_28 (dk_at dksX5_init_0 10 rfl rfl)
theorem dX5_init_11 : decode cX5_init 11 = .ok (.putfield 13, 3) := dk_181 0 13 (dk_at dksX5_init_0 11 rfl rfl)
theorem dX5_init_14 : decode cX5_init 14 = .ok (.return_, 1) := dk_177 (dk_at dksX5_init_0 14 rfl rfl)
theorem q176 : (Jvm.Cond.initialized "SchemeLister$Fault") ∈ lw_all := lw_g (lw_at lw_m1 26 rfl) rfl
theorem q294 : (Jvm.Cond.selects "SchemeLister$Fault" ({ cls := "java/lang/Throwable", name := "fillInStackTrace", desc := "()Ljava/lang/Throwable;" } : Jvm.MethodName) ({ cls := "java/lang/Throwable", name := "fillInStackTrace", desc := "()Ljava/lang/Throwable;" } : Jvm.MethodName)) ∈ lw_all := lw_g (lw_at lw_m1 144 rfl) rfl
theorem q774 : (Jvm.Cond.selects "SchemeLister$Fault" ({ cls := "java/lang/Object", name := "getClass", desc := "()Ljava/lang/Class;" } : Jvm.MethodName) ({ cls := "java/lang/Object", name := "getClass", desc := "()Ljava/lang/Class;" } : Jvm.MethodName)) ∈ lw_all := lw_g (lw_at lw_m3 144 rfl) rfl
theorem q1058 : (Jvm.Cond.instantiable "SchemeLister$Fault" (8 : Nat)) ∈ lw_all := lw_g (lw_at lw_m4 188 rfl) rfl
theorem q1059 : (Jvm.Cond.castable "SchemeLister$Fault" "SchemeLister$Fault") ∈ lw_tbl := lw_at lw_m4 189 rfl
theorem q1060 : (Jvm.Cond.selects "SchemeLister$Fault" ({ cls := "java/lang/Throwable", name := "fillInStackTrace", desc := "(I)Ljava/lang/Throwable;" } : Jvm.MethodName) ({ cls := "java/lang/Throwable", name := "fillInStackTrace", desc := "(I)Ljava/lang/Throwable;" } : Jvm.MethodName)) ∈ lw_all := lw_g (lw_at lw_m4 190 rfl) rfl
theorem q1061 : (Jvm.Cond.lays "SchemeLister$Fault" "java/lang/Throwable" "cause" "Ljava/lang/Throwable;") ∈ lw_all := lw_g (lw_at lw_m4 191 rfl) rfl
theorem q1062 : (Jvm.Cond.lays "SchemeLister$Fault" "java/lang/Throwable" "stackTrace" "[Ljava/lang/StackTraceElement;") ∈ lw_all := lw_g (lw_at lw_m4 192 rfl) rfl
theorem q1063 : (Jvm.Cond.lays "SchemeLister$Fault" "java/lang/Throwable" "suppressedExceptions" "Ljava/util/List;") ∈ lw_all := lw_g (lw_at lw_m4 193 rfl) rfl
theorem q1064 : (Jvm.Cond.lays "SchemeLister$Fault" "java/lang/Throwable" "detailMessage" "Ljava/lang/String;") ∈ lw_all := lw_g (lw_at lw_m4 194 rfl) rfl
theorem q1065 : (Jvm.Cond.lays "SchemeLister$Fault" "java/lang/Throwable" "backtrace" "Ljava/lang/Object;") ∈ lw_all := lw_g (lw_at lw_m4 195 rfl) rfl
theorem q1067 : (Jvm.Cond.instanceMethod ({ cls := "SchemeLister$Fault", name := "<init>", desc := "(II)V" } : Jvm.MethodName)) ∈ lw_all := lw_g (lw_at lw_m4 197 rfl) rfl
theorem q1068 : (Jvm.Cond.code ({ cls := "SchemeLister$Fault", name := "<init>", desc := "(II)V" } : Jvm.MethodName) prog_4_method_1_code (3 : Nat) (Option.none : Option Jvm.ClassFile.FieldType)) ∈ lw_all := lw_g (lw_at lw_m4 198 rfl) rfl
theorem q1069 : (Jvm.Cond.methodLink "SchemeLister$Fault" (1 : Nat) ({ cls := "java/lang/Exception", name := "<init>", desc := "()V" } : Jvm.MethodName)) ∈ lw_all := lw_g (lw_at lw_m4 199 rfl) rfl
theorem q1070 : (Jvm.Cond.fieldLink "SchemeLister$Fault" (7 : Nat) "SchemeLister$Fault" "kind" "I") ∈ lw_all := lw_g (lw_at lw_m4 200 rfl) rfl
theorem q1072 : (Jvm.Cond.fieldLink "SchemeLister$Fault" (13 : Nat) "SchemeLister$Fault" "place" "I") ∈ lw_all := lw_g (lw_at lw_m4 202 rfl) rfl
theorem q1074 : (Jvm.Cond.laysFinal "SchemeLister$Fault" "SchemeLister$Fault" "kind" "I") ∈ lw_all := lw_g (lw_at lw_m4 204 rfl) rfl
theorem q1075 : (Jvm.Cond.soleField "SchemeLister$Fault" "kind") ∈ lw_all := lw_g (lw_at lw_m4 205 rfl) rfl
theorem q1076 : (Jvm.Cond.laysFinal "SchemeLister$Fault" "SchemeLister$Fault" "place" "I") ∈ lw_all := lw_g (lw_at lw_m4 206 rfl) rfl
theorem q1077 : (Jvm.Cond.soleField "SchemeLister$Fault" "place") ∈ lw_all := lw_g (lw_at lw_m4 207 rfl) rfl
theorem q1078 : (Jvm.Cond.lays "SchemeLister$Fault" "java/lang/Throwable" "depth" "I") ∈ lw_all := lw_g (lw_at lw_m4 208 rfl) rfl
theorem q1079 : (Jvm.Cond.superclass "SchemeLister$Fault" "java/lang/Exception") ∈ lw_all := lw_g (lw_at lw_m4 209 rfl) rfl
theorem q2328 : (Jvm.Cond.castable "SchemeLister$Fault" "java/lang/Object") ∈ lw_tbl := lw_at lw_m10 18 rfl
theorem in_X5 : ∀ w ∈ wsX50, w ∈ lw_all := lw_in wsX50 [1061, 1062, 1063, 1064, 1065, 1078, 1074, 1076] (by decide +kernel) (by decide +kernel)

/-! SchemeLister$Tally -/
set_option maxRecDepth 100000
def RX6 : String := "SchemeLister$Tally"
def TX6 : u_T := fun k => match k with
  | 0 => ("SchemeLister$Tally", "many", "I", false)
  | 1 => ("SchemeLister$Tally", "wanted", "I", true)
  | _ => ("SchemeLister$Tally", "kept", "[I", true)
def tyX6 : Nat → FieldType := fun k => match k with
  | 0 => .int
  | 1 => .int
  | _ => .array .int
abbrev wsX60 : List Cond := u_ws RX6 TX6 3
theorem nmX6 : ∀ a, a < 3 → ∀ b, b < 3 → a ≠ b → (TX6 a).2.1 ≠ (TX6 b).2.1 := by decide +kernel
theorem tyX6_ok : ∀ k, k < 3 → parseFieldDescriptor (TX6 k).2.2.1 = some (tyX6 k) := by decide +kernel
abbrev cX6_init : ByteArray := prog_12_method_1_code
def yX6_init : MethodName := ⟨RX6, "<init>", "(I)V"⟩
def dkwX6_init_0 : List UInt8 := [42, 183, 0, 3, 42, 16, 8, 188, 10, 181, 0, 9, 42, 27, 181, 0, 15, 177]
abbrev dktX6_init_0 : List UInt8 := dkwX6_init_0 ++ []
theorem dksX6_init_0 : cX6_init.data.toList.drop 0 = dktX6_init_0 := by decide +kernel
theorem dX6_init_0 : decode cX6_init 0 = .ok (.aload_n 0, 1) := dk_42 (dk_at dksX6_init_0 0 rfl rfl)
theorem dX6_init_1 : decode cX6_init 1 = .ok (.invokespecial 3, 3) := dk_183 0 3 (dk_at dksX6_init_0 1 rfl rfl)
theorem dX6_init_4 : decode cX6_init 4 = .ok (.aload_n 0, 1) := dk_42 (dk_at dksX6_init_0 4 rfl rfl)
theorem dX6_init_5 : decode cX6_init 5 = .ok (.bipush 8, 2) := dk_16 8 (dk_at dksX6_init_0 5 rfl rfl)
theorem dX6_init_7 : decode cX6_init 7 = .ok (.newarray .int, 2) := dk_188_10 (dk_at dksX6_init_0 7 rfl rfl)
theorem dX6_init_9 : decode cX6_init 9 = .ok (.putfield 9, 3) := dk_181 0 9 (dk_at dksX6_init_0 9 rfl rfl)
theorem dX6_init_12 : decode cX6_init 12 = .ok (.aload_n 0, 1) := dk_42 (dk_at dksX6_init_0 12 rfl rfl)
theorem dX6_init_13 : decode cX6_init 13 = .ok (.iload_n 1, 1) := dk_27 (dk_at dksX6_init_0 13 rfl rfl)
theorem dX6_init_14 : decode cX6_init 14 = .ok (.putfield 15, 3) := dk_181 0 15 (dk_at dksX6_init_0 14 rfl rfl)
theorem dX6_init_17 : decode cX6_init 17 = .ok (.return_, 1) := dk_177 (dk_at dksX6_init_0 17 rfl rfl)
abbrev cX6_takes : ByteArray := prog_12_method_2_code
def yX6_takes : MethodName := ⟨RX6, "takes", "([I)Z"⟩
def dkwX6_takes_2 : List UInt8 := [163, 0, 7, 4, 167, 0, 4, 3, 172]
abbrev dktX6_takes_2 : List UInt8 := dkwX6_takes_2 ++ []
def dkwX6_takes_1 : List UInt8 := [89, 180, 0, 19, 4, 96, 181, 0, 19, 42, 180, 0, 15, 155, 0, 14, 42, 180, 0, 19, 42, 180, 0, 15]
abbrev dktX6_takes_1 : List UInt8 := dkwX6_takes_1 ++ dktX6_takes_2
def dkwX6_takes_0 : List UInt8 := [42, 180, 0, 19, 42, 180, 0, 15, 160, 0, 15, 43, 3, 42, 180, 0, 9, 3, 16, 8, 184, 0, 22, 42]
abbrev dktX6_takes_0 : List UInt8 := dkwX6_takes_0 ++ dktX6_takes_1
theorem dksX6_takes_0 : cX6_takes.data.toList.drop 0 = dktX6_takes_0 := by decide +kernel
theorem dksX6_takes_1 : cX6_takes.data.toList.drop 24 = dktX6_takes_1 := dk_seg dksX6_takes_0 24 rfl rfl
theorem dksX6_takes_2 : cX6_takes.data.toList.drop 48 = dktX6_takes_2 := dk_seg dksX6_takes_1 24 rfl rfl
theorem dX6_takes_0 : decode cX6_takes 0 = .ok (.aload_n 0, 1) := dk_42 (dk_at dksX6_takes_0 0 rfl rfl)
theorem dX6_takes_1 : decode cX6_takes 1 = .ok (.getfield 19, 3) := dk_180 0 19 (dk_at dksX6_takes_0 1 rfl rfl)
theorem dX6_takes_4 : decode cX6_takes 4 = .ok (.aload_n 0, 1) := dk_42 (dk_at dksX6_takes_0 4 rfl rfl)
theorem dX6_takes_5 : decode cX6_takes 5 = .ok (.getfield 15, 3) := dk_180 0 15 (dk_at dksX6_takes_0 5 rfl rfl)
theorem dX6_takes_8 : decode cX6_takes 8 = .ok (.if_icmp .ne 15, 3) := dk_160 0 15 (dk_at dksX6_takes_0 8 rfl rfl)
theorem dX6_takes_11 : decode cX6_takes 11 = .ok (.aload_n 1, 1) := dk_43 (dk_at dksX6_takes_0 11 rfl rfl)
theorem dX6_takes_12 : decode cX6_takes 12 = .ok (.iconst 0, 1) := dk_3 (dk_at dksX6_takes_0 12 rfl rfl)
theorem dX6_takes_13 : decode cX6_takes 13 = .ok (.aload_n 0, 1) := dk_42 (dk_at dksX6_takes_0 13 rfl rfl)
theorem dX6_takes_14 : decode cX6_takes 14 = .ok (.getfield 9, 3) := dk_180 0 9 (dk_at dksX6_takes_0 14 rfl rfl)
theorem dX6_takes_17 : decode cX6_takes 17 = .ok (.iconst 0, 1) := dk_3 (dk_at dksX6_takes_0 17 rfl rfl)
theorem dX6_takes_18 : decode cX6_takes 18 = .ok (.bipush 8, 2) := dk_16 8 (dk_at dksX6_takes_0 18 rfl rfl)
theorem dX6_takes_20 : decode cX6_takes 20 = .ok (.invokestatic 22, 3) := dk_184 0 22 (dk_at dksX6_takes_0 20 rfl rfl)
theorem dX6_takes_23 : decode cX6_takes 23 = .ok (.aload_n 0, 1) := dk_42 (dk_at dksX6_takes_0 23 rfl rfl)
theorem dX6_takes_24 : decode cX6_takes 24 = .ok (.dup, 1) := dk_89 (dk_at dksX6_takes_1 0 rfl rfl)
theorem dX6_takes_25 : decode cX6_takes 25 = .ok (.getfield 19, 3) := dk_180 0 19 (dk_at dksX6_takes_1 1 rfl rfl)
theorem dX6_takes_28 : decode cX6_takes 28 = .ok (.iconst 1, 1) := dk_4 (dk_at dksX6_takes_1 4 rfl rfl)
theorem dX6_takes_29 : decode cX6_takes 29 = .ok (.iadd, 1) := dk_96 (dk_at dksX6_takes_1 5 rfl rfl)
theorem dX6_takes_30 : decode cX6_takes 30 = .ok (.putfield 19, 3) := dk_181 0 19 (dk_at dksX6_takes_1 6 rfl rfl)
theorem dX6_takes_33 : decode cX6_takes 33 = .ok (.aload_n 0, 1) := dk_42 (dk_at dksX6_takes_1 9 rfl rfl)
theorem dX6_takes_34 : decode cX6_takes 34 = .ok (.getfield 15, 3) := dk_180 0 15 (dk_at dksX6_takes_1 10 rfl rfl)
theorem dX6_takes_37 : decode cX6_takes 37 = .ok (.ifCond .lt 14, 3) := dk_155 0 14 (dk_at dksX6_takes_1 13 rfl rfl)
theorem dX6_takes_40 : decode cX6_takes 40 = .ok (.aload_n 0, 1) := dk_42 (dk_at dksX6_takes_1 16 rfl rfl)
theorem dX6_takes_41 : decode cX6_takes 41 = .ok (.getfield 19, 3) := dk_180 0 19 (dk_at dksX6_takes_1 17 rfl rfl)
theorem dX6_takes_44 : decode cX6_takes 44 = .ok (.aload_n 0, 1) := dk_42 (dk_at dksX6_takes_1 20 rfl rfl)
theorem dX6_takes_45 : decode cX6_takes 45 = .ok (.getfield 15, 3) := dk_180 0 15 (dk_at dksX6_takes_1 21 rfl rfl)
theorem dX6_takes_48 : decode cX6_takes 48 = .ok (.if_icmp .gt 7, 3) := dk_163 0 7 (dk_at dksX6_takes_2 0 rfl rfl)
theorem dX6_takes_51 : decode cX6_takes 51 = .ok (.iconst 1, 1) := dk_4 (dk_at dksX6_takes_2 3 rfl rfl)
theorem dX6_takes_52 : decode cX6_takes 52 = .ok (.goto 4, 3) := dk_167 0 4 (dk_at dksX6_takes_2 4 rfl rfl)
theorem dX6_takes_55 : decode cX6_takes 55 = .ok (.iconst 0, 1) := dk_3 (dk_at dksX6_takes_2 7 rfl rfl)
theorem dX6_takes_56 : decode cX6_takes 56 = .ok (.ireturn, 1) := dk_172 (dk_at dksX6_takes_2 8 rfl rfl)
theorem q178 : (Jvm.Cond.initialized "SchemeLister$Tally") ∈ lw_all := lw_g (lw_at lw_m1 28 rfl) rfl
theorem q781 : (Jvm.Cond.selects "SchemeLister$Tally" ({ cls := "java/lang/Object", name := "getClass", desc := "()Ljava/lang/Class;" } : Jvm.MethodName) ({ cls := "java/lang/Object", name := "getClass", desc := "()Ljava/lang/Class;" } : Jvm.MethodName)) ∈ lw_all := lw_g (lw_at lw_m3 151 rfl) rfl
theorem q1244 : (Jvm.Cond.instantiable "SchemeLister$Tally" (3 : Nat)) ∈ lw_all := lw_g (lw_at lw_m5 134 rfl) rfl
theorem q1246 : (Jvm.Cond.instanceMethod ({ cls := "SchemeLister$Tally", name := "<init>", desc := "(I)V" } : Jvm.MethodName)) ∈ lw_all := lw_g (lw_at lw_m5 136 rfl) rfl
theorem q1247 : (Jvm.Cond.code ({ cls := "SchemeLister$Tally", name := "<init>", desc := "(I)V" } : Jvm.MethodName) prog_12_method_1_code (2 : Nat) (Option.none : Option Jvm.ClassFile.FieldType)) ∈ lw_all := lw_g (lw_at lw_m5 137 rfl) rfl
theorem q1248 : (Jvm.Cond.methodLink "SchemeLister$Tally" (3 : Nat) ({ cls := "java/lang/Object", name := "<init>", desc := "()V" } : Jvm.MethodName)) ∈ lw_all := lw_g (lw_at lw_m5 138 rfl) rfl
theorem q1249 : (Jvm.Cond.fieldLink "SchemeLister$Tally" (19 : Nat) "SchemeLister$Tally" "many" "I") ∈ lw_all := lw_g (lw_at lw_m5 139 rfl) rfl
theorem q1251 : (Jvm.Cond.fieldLink "SchemeLister$Tally" (15 : Nat) "SchemeLister$Tally" "wanted" "I") ∈ lw_all := lw_g (lw_at lw_m5 141 rfl) rfl
theorem q1252 : (Jvm.Cond.fieldLink "SchemeLister$Tally" (9 : Nat) "SchemeLister$Tally" "kept" "[I") ∈ lw_all := lw_g (lw_at lw_m5 142 rfl) rfl
theorem q1254 : (Jvm.Cond.lays "SchemeLister$Tally" "SchemeLister$Tally" "many" "I") ∈ lw_all := lw_g (lw_at lw_m5 144 rfl) rfl
theorem q1255 : (Jvm.Cond.soleField "SchemeLister$Tally" "many") ∈ lw_all := lw_g (lw_at lw_m5 145 rfl) rfl
theorem q1256 : (Jvm.Cond.laysFinal "SchemeLister$Tally" "SchemeLister$Tally" "wanted" "I") ∈ lw_all := lw_g (lw_at lw_m5 146 rfl) rfl
theorem q1257 : (Jvm.Cond.soleField "SchemeLister$Tally" "wanted") ∈ lw_all := lw_g (lw_at lw_m5 147 rfl) rfl
theorem q1258 : (Jvm.Cond.laysFinal "SchemeLister$Tally" "SchemeLister$Tally" "kept" "[I") ∈ lw_all := lw_g (lw_at lw_m5 148 rfl) rfl
theorem q1259 : (Jvm.Cond.soleField "SchemeLister$Tally" "kept") ∈ lw_all := lw_g (lw_at lw_m5 149 rfl) rfl
theorem q1260 : (Jvm.Cond.superclass "SchemeLister$Tally" "java/lang/Object") ∈ lw_all := lw_g (lw_at lw_m5 150 rfl) rfl
theorem q1292 : (Jvm.Cond.instanceMethod ({ cls := "SchemeLister$Tally", name := "takes", desc := "([I)Z" } : Jvm.MethodName)) ∈ lw_all := lw_g (lw_at lw_m5 182 rfl) rfl
theorem q1293 : (Jvm.Cond.selects "SchemeLister$Tally" ({ cls := "SchemeLister$Tally", name := "takes", desc := "([I)Z" } : Jvm.MethodName) ({ cls := "SchemeLister$Tally", name := "takes", desc := "([I)Z" } : Jvm.MethodName)) ∈ lw_all := lw_g (lw_at lw_m5 183 rfl) rfl
theorem q1294 : (Jvm.Cond.code ({ cls := "SchemeLister$Tally", name := "takes", desc := "([I)Z" } : Jvm.MethodName) prog_12_method_2_code (2 : Nat) (Option.some Jvm.ClassFile.FieldType.boolean)) ∈ lw_all := lw_g (lw_at lw_m5 184 rfl) rfl
theorem q1295 : (Jvm.Cond.methodLink "SchemeLister$Tally" (22 : Nat) ({ cls := "java/lang/System", name := "arraycopy", desc := "(Ljava/lang/Object;ILjava/lang/Object;II)V" } : Jvm.MethodName)) ∈ lw_all := lw_g (lw_at lw_m5 185 rfl) rfl
theorem q2331 : (Jvm.Cond.castable "SchemeLister$Tally" "java/lang/Object") ∈ lw_tbl := lw_at lw_m10 21 rfl
theorem in_X6 : ∀ w ∈ wsX60, w ∈ lw_all := lw_in wsX60 [1254, 1256, 1258] (by decide +kernel) (by decide +kernel)

/-! SchemeLister$Search -/
set_option maxRecDepth 100000
def RX7 : String := "SchemeLister$Search"
def TX7 : u_T := fun k => match k with
  | 0 => ("SchemeLister$Search", "from", "LSchemeLister$Scheme;", true)
  | 1 => ("SchemeLister$Search", "into", "LSchemeLister$Scheme;", true)
  | 2 => ("SchemeLister$Search", "isWhole", "Z", true)
  | 3 => ("SchemeLister$Search", "to", "[I", true)
  | 4 => ("SchemeLister$Search", "host", "[I", true)
  | _ => ("SchemeLister$Search", "used", "I", false)
def tyX7 : Nat → FieldType := fun k => match k with
  | 0 => .object "SchemeLister$Scheme"
  | 1 => .object "SchemeLister$Scheme"
  | 2 => .boolean
  | 3 => .array .int
  | 4 => .array .int
  | _ => .int
abbrev wsX70 : List Cond := u_ws RX7 TX7 6
theorem nmX7 : ∀ a, a < 6 → ∀ b, b < 6 → a ≠ b → (TX7 a).2.1 ≠ (TX7 b).2.1 := by decide +kernel
theorem tyX7_ok : ∀ k, k < 6 → parseFieldDescriptor (TX7 k).2.2.1 = some (tyX7 k) := by decide +kernel
abbrev cX7_init : ByteArray := prog_10_method_1_code
def yX7_init : MethodName := ⟨RX7, "<init>", "(LSchemeLister$Scheme;LSchemeLister$Scheme;Z)V"⟩
def dkwX7_init_1 : List UInt8 := [181, 0, 18, 42, 44, 181, 0, 22, 42, 29, 181, 0, 25, 177]
abbrev dktX7_init_1 : List UInt8 := dkwX7_init_1 ++ []
def dkwX7_init_0 : List UInt8 := [42, 183, 0, 3, 42, 16, 8, 188, 10, 181, 0, 9, 42, 16, 12, 188, 10, 181, 0, 15, 42, 43]
abbrev dktX7_init_0 : List UInt8 := dkwX7_init_0 ++ dktX7_init_1
theorem dksX7_init_0 : cX7_init.data.toList.drop 0 = dktX7_init_0 := by decide +kernel
theorem dksX7_init_1 : cX7_init.data.toList.drop 22 = dktX7_init_1 := dk_seg dksX7_init_0 22 rfl rfl
theorem dX7_init_0 : decode cX7_init 0 = .ok (.aload_n 0, 1) := dk_42 (dk_at dksX7_init_0 0 rfl rfl)
theorem dX7_init_1 : decode cX7_init 1 = .ok (.invokespecial 3, 3) := dk_183 0 3 (dk_at dksX7_init_0 1 rfl rfl)
theorem dX7_init_4 : decode cX7_init 4 = .ok (.aload_n 0, 1) := dk_42 (dk_at dksX7_init_0 4 rfl rfl)
theorem dX7_init_5 : decode cX7_init 5 = .ok (.bipush 8, 2) := dk_16 8 (dk_at dksX7_init_0 5 rfl rfl)
theorem dX7_init_7 : decode cX7_init 7 = .ok (.newarray .int, 2) := dk_188_10 (dk_at dksX7_init_0 7 rfl rfl)
theorem dX7_init_9 : decode cX7_init 9 = .ok (.putfield 9, 3) := dk_181 0 9 (dk_at dksX7_init_0 9 rfl rfl)
theorem dX7_init_12 : decode cX7_init 12 = .ok (.aload_n 0, 1) := dk_42 (dk_at dksX7_init_0 12 rfl rfl)
theorem dX7_init_13 : decode cX7_init 13 = .ok (.bipush 12, 2) := dk_16 12 (dk_at dksX7_init_0 13 rfl rfl)
theorem dX7_init_15 : decode cX7_init 15 = .ok (.newarray .int, 2) := dk_188_10 (dk_at dksX7_init_0 15 rfl rfl)
theorem dX7_init_17 : decode cX7_init 17 = .ok (.putfield 15, 3) := dk_181 0 15 (dk_at dksX7_init_0 17 rfl rfl)
theorem dX7_init_20 : decode cX7_init 20 = .ok (.aload_n 0, 1) := dk_42 (dk_at dksX7_init_0 20 rfl rfl)
theorem dX7_init_21 : decode cX7_init 21 = .ok (.aload_n 1, 1) := dk_43 (dk_at dksX7_init_0 21 rfl rfl)
theorem dX7_init_22 : decode cX7_init 22 = .ok (.putfield 18, 3) := dk_181 0 18 (dk_at dksX7_init_1 0 rfl rfl)
theorem dX7_init_25 : decode cX7_init 25 = .ok (.aload_n 0, 1) := dk_42 (dk_at dksX7_init_1 3 rfl rfl)
theorem dX7_init_26 : decode cX7_init 26 = .ok (.aload_n 2, 1) := dk_44 (dk_at dksX7_init_1 4 rfl rfl)
theorem dX7_init_27 : decode cX7_init 27 = .ok (.putfield 22, 3) := dk_181 0 22 (dk_at dksX7_init_1 5 rfl rfl)
theorem dX7_init_30 : decode cX7_init 30 = .ok (.aload_n 0, 1) := dk_42 (dk_at dksX7_init_1 8 rfl rfl)
theorem dX7_init_31 : decode cX7_init 31 = .ok (.iload_n 3, 1) := dk_29 (dk_at dksX7_init_1 9 rfl rfl)
theorem dX7_init_32 : decode cX7_init 32 = .ok (.putfield 25, 3) := dk_181 0 25 (dk_at dksX7_init_1 10 rfl rfl)
theorem dX7_init_35 : decode cX7_init 35 = .ok (.return_, 1) := dk_177 (dk_at dksX7_init_1 13 rfl rfl)
abbrev cX7_goes : ByteArray := prog_10_method_5_code
def yX7_goes : MethodName := ⟨RX7, "goes", "(ILSchemeLister$Way;)Z"⟩
def dkwX7_goes_5 : List UInt8 := [21, 4, 154, 0, 5, 3, 172, 132, 3, 1, 167, 255, 166, 4, 172]
abbrev dktX7_goes_5 : List UInt8 := dkwX7_goes_5 ++ []
def dkwX7_goes_4 : List UInt8 := [42, 27, 4, 96, 44, 182, 0, 65, 54, 4, 42, 89, 180, 0, 58, 4, 29, 120, 2, 130, 126, 181, 0, 58]
abbrev dktX7_goes_4 : List UInt8 := dkwX7_goes_4 ++ dktX7_goes_5
def dkwX7_goes_3 : List UInt8 := [79, 42, 27, 182, 0, 61, 154, 0, 6, 167, 0, 46, 42, 89, 180, 0, 58, 4, 29, 120, 128, 181, 0, 58]
abbrev dktX7_goes_3 : List UInt8 := dkwX7_goes_3 ++ dktX7_goes_4
def dkwX7_goes_2 : List UInt8 := [162, 0, 85, 42, 180, 0, 58, 29, 122, 4, 126, 4, 160, 0, 6, 167, 0, 64, 42, 180, 0, 9, 27, 29]
abbrev dktX7_goes_2 : List UInt8 := dkwX7_goes_2 ++ dktX7_goes_3
def dkwX7_goes_1 : List UInt8 := [185, 0, 52, 2, 0, 153, 0, 7, 4, 167, 0, 4, 3, 172, 3, 62, 29, 42, 180, 0, 22, 180, 0, 29]
abbrev dktX7_goes_1 : List UInt8 := dkwX7_goes_1 ++ dktX7_goes_2
def dkwX7_goes_0 : List UInt8 := [27, 42, 180, 0, 18, 180, 0, 29, 160, 0, 29, 42, 182, 0, 48, 153, 0, 16, 44, 42, 180, 0, 9]
abbrev dktX7_goes_0 : List UInt8 := dkwX7_goes_0 ++ dktX7_goes_1
theorem dksX7_goes_0 : cX7_goes.data.toList.drop 0 = dktX7_goes_0 := by decide +kernel
theorem dksX7_goes_1 : cX7_goes.data.toList.drop 23 = dktX7_goes_1 := dk_seg dksX7_goes_0 23 rfl rfl
theorem dksX7_goes_2 : cX7_goes.data.toList.drop 47 = dktX7_goes_2 := dk_seg dksX7_goes_1 24 rfl rfl
theorem dksX7_goes_3 : cX7_goes.data.toList.drop 71 = dktX7_goes_3 := dk_seg dksX7_goes_2 24 rfl rfl
theorem dksX7_goes_4 : cX7_goes.data.toList.drop 95 = dktX7_goes_4 := dk_seg dksX7_goes_3 24 rfl rfl
theorem dksX7_goes_5 : cX7_goes.data.toList.drop 119 = dktX7_goes_5 := dk_seg dksX7_goes_4 24 rfl rfl
theorem dX7_goes_0 : decode cX7_goes 0 = .ok (.iload_n 1, 1) := dk_27 (dk_at dksX7_goes_0 0 rfl rfl)
theorem dX7_goes_1 : decode cX7_goes 1 = .ok (.aload_n 0, 1) := dk_42 (dk_at dksX7_goes_0 1 rfl rfl)
theorem dX7_goes_2 : decode cX7_goes 2 = .ok (.getfield 18, 3) := dk_180 0 18 (dk_at dksX7_goes_0 2 rfl rfl)
theorem dX7_goes_5 : decode cX7_goes 5 = .ok (.getfield 29, 3) := dk_180 0 29 (dk_at dksX7_goes_0 5 rfl rfl)
theorem dX7_goes_8 : decode cX7_goes 8 = .ok (.if_icmp .ne 29, 3) := dk_160 0 29 (dk_at dksX7_goes_0 8 rfl rfl)
theorem dX7_goes_11 : decode cX7_goes 11 = .ok (.aload_n 0, 1) := dk_42 (dk_at dksX7_goes_0 11 rfl rfl)
theorem dX7_goes_12 : decode cX7_goes 12 = .ok (.invokevirtual 48, 3) := dk_182 0 48 (dk_at dksX7_goes_0 12 rfl rfl)
theorem dX7_goes_15 : decode cX7_goes 15 = .ok (.ifCond .eq 16, 3) := dk_153 0 16 (dk_at dksX7_goes_0 15 rfl rfl)
theorem dX7_goes_18 : decode cX7_goes 18 = .ok (.aload_n 2, 1) := dk_44 (dk_at dksX7_goes_0 18 rfl rfl)
theorem dX7_goes_19 : decode cX7_goes 19 = .ok (.aload_n 0, 1) := dk_42 (dk_at dksX7_goes_0 19 rfl rfl)
theorem dX7_goes_20 : decode cX7_goes 20 = .ok (.getfield 9, 3) := dk_180 0 9 (dk_at dksX7_goes_0 20 rfl rfl)
theorem dX7_goes_23 : decode cX7_goes 23 = .ok (.invokeinterface 52 2, 5) := by decide +kernel
theorem dX7_goes_28 : decode cX7_goes 28 = .ok (.ifCond .eq 7, 3) := dk_153 0 7 (dk_at dksX7_goes_1 5 rfl rfl)
theorem dX7_goes_31 : decode cX7_goes 31 = .ok (.iconst 1, 1) := dk_4 (dk_at dksX7_goes_1 8 rfl rfl)
theorem dX7_goes_32 : decode cX7_goes 32 = .ok (.goto 4, 3) := dk_167 0 4 (dk_at dksX7_goes_1 9 rfl rfl)
theorem dX7_goes_35 : decode cX7_goes 35 = .ok (.iconst 0, 1) := dk_3 (dk_at dksX7_goes_1 12 rfl rfl)
theorem dX7_goes_36 : decode cX7_goes 36 = .ok (.ireturn, 1) := dk_172 (dk_at dksX7_goes_1 13 rfl rfl)
theorem dX7_goes_37 : decode cX7_goes 37 = .ok (.iconst 0, 1) := dk_3 (dk_at dksX7_goes_1 14 rfl rfl)
theorem dX7_goes_38 : decode cX7_goes 38 = .ok (.istore_n 3, 1) := dk_62 (dk_at dksX7_goes_1 15 rfl rfl)
theorem dX7_goes_39 : decode cX7_goes 39 = .ok (.iload_n 3, 1) := dk_29 (dk_at dksX7_goes_1 16 rfl rfl)
theorem dX7_goes_40 : decode cX7_goes 40 = .ok (.aload_n 0, 1) := dk_42 (dk_at dksX7_goes_1 17 rfl rfl)
theorem dX7_goes_41 : decode cX7_goes 41 = .ok (.getfield 22, 3) := dk_180 0 22 (dk_at dksX7_goes_1 18 rfl rfl)
theorem dX7_goes_44 : decode cX7_goes 44 = .ok (.getfield 29, 3) := dk_180 0 29 (dk_at dksX7_goes_1 21 rfl rfl)
theorem dX7_goes_47 : decode cX7_goes 47 = .ok (.if_icmp .ge 85, 3) := dk_162 0 85 (dk_at dksX7_goes_2 0 rfl rfl)
theorem dX7_goes_50 : decode cX7_goes 50 = .ok (.aload_n 0, 1) := dk_42 (dk_at dksX7_goes_2 3 rfl rfl)
theorem dX7_goes_51 : decode cX7_goes 51 = .ok (.getfield 58, 3) := dk_180 0 58 (dk_at dksX7_goes_2 4 rfl rfl)
theorem dX7_goes_54 : decode cX7_goes 54 = .ok (.iload_n 3, 1) := dk_29 (dk_at dksX7_goes_2 7 rfl rfl)
theorem dX7_goes_55 : decode cX7_goes 55 = .ok (.ishr, 1) := dk_122 (dk_at dksX7_goes_2 8 rfl rfl)
theorem dX7_goes_56 : decode cX7_goes 56 = .ok (.iconst 1, 1) := dk_4 (dk_at dksX7_goes_2 9 rfl rfl)
theorem dX7_goes_57 : decode cX7_goes 57 = .ok (.iand, 1) := dk_126 (dk_at dksX7_goes_2 10 rfl rfl)
theorem dX7_goes_58 : decode cX7_goes 58 = .ok (.iconst 1, 1) := dk_4 (dk_at dksX7_goes_2 11 rfl rfl)
theorem dX7_goes_59 : decode cX7_goes 59 = .ok (.if_icmp .ne 6, 3) := dk_160 0 6 (dk_at dksX7_goes_2 12 rfl rfl)
theorem dX7_goes_62 : decode cX7_goes 62 = .ok (.goto 64, 3) := dk_167 0 64 (dk_at dksX7_goes_2 15 rfl rfl)
theorem dX7_goes_65 : decode cX7_goes 65 = .ok (.aload_n 0, 1) := dk_42 (dk_at dksX7_goes_2 18 rfl rfl)
theorem dX7_goes_66 : decode cX7_goes 66 = .ok (.getfield 9, 3) := dk_180 0 9 (dk_at dksX7_goes_2 19 rfl rfl)
theorem dX7_goes_69 : decode cX7_goes 69 = .ok (.iload_n 1, 1) := dk_27 (dk_at dksX7_goes_2 22 rfl rfl)
theorem dX7_goes_70 : decode cX7_goes 70 = .ok (.iload_n 3, 1) := dk_29 (dk_at dksX7_goes_2 23 rfl rfl)
theorem dX7_goes_71 : decode cX7_goes 71 = .ok (.iastore, 1) := dk_79 (dk_at dksX7_goes_3 0 rfl rfl)
theorem dX7_goes_72 : decode cX7_goes 72 = .ok (.aload_n 0, 1) := dk_42 (dk_at dksX7_goes_3 1 rfl rfl)
theorem dX7_goes_73 : decode cX7_goes 73 = .ok (.iload_n 1, 1) := dk_27 (dk_at dksX7_goes_3 2 rfl rfl)
theorem dX7_goes_74 : decode cX7_goes 74 = .ok (.invokevirtual 61, 3) := dk_182 0 61 (dk_at dksX7_goes_3 3 rfl rfl)
theorem dX7_goes_77 : decode cX7_goes 77 = .ok (.ifCond .ne 6, 3) := dk_154 0 6 (dk_at dksX7_goes_3 6 rfl rfl)
theorem dX7_goes_80 : decode cX7_goes 80 = .ok (.goto 46, 3) := dk_167 0 46 (dk_at dksX7_goes_3 9 rfl rfl)
theorem dX7_goes_83 : decode cX7_goes 83 = .ok (.aload_n 0, 1) := dk_42 (dk_at dksX7_goes_3 12 rfl rfl)
theorem dX7_goes_84 : decode cX7_goes 84 = .ok (.dup, 1) := dk_89 (dk_at dksX7_goes_3 13 rfl rfl)
theorem dX7_goes_85 : decode cX7_goes 85 = .ok (.getfield 58, 3) := dk_180 0 58 (dk_at dksX7_goes_3 14 rfl rfl)
theorem dX7_goes_88 : decode cX7_goes 88 = .ok (.iconst 1, 1) := dk_4 (dk_at dksX7_goes_3 17 rfl rfl)
theorem dX7_goes_89 : decode cX7_goes 89 = .ok (.iload_n 3, 1) := dk_29 (dk_at dksX7_goes_3 18 rfl rfl)
theorem dX7_goes_90 : decode cX7_goes 90 = .ok (.ishl, 1) := dk_120 (dk_at dksX7_goes_3 19 rfl rfl)
theorem dX7_goes_91 : decode cX7_goes 91 = .ok (.ior, 1) := dk_128 (dk_at dksX7_goes_3 20 rfl rfl)
theorem dX7_goes_92 : decode cX7_goes 92 = .ok (.putfield 58, 3) := dk_181 0 58 (dk_at dksX7_goes_3 21 rfl rfl)
theorem dX7_goes_95 : decode cX7_goes 95 = .ok (.aload_n 0, 1) := dk_42 (dk_at dksX7_goes_4 0 rfl rfl)
theorem dX7_goes_96 : decode cX7_goes 96 = .ok (.iload_n 1, 1) := dk_27 (dk_at dksX7_goes_4 1 rfl rfl)
theorem dX7_goes_97 : decode cX7_goes 97 = .ok (.iconst 1, 1) := dk_4 (dk_at dksX7_goes_4 2 rfl rfl)
theorem dX7_goes_98 : decode cX7_goes 98 = .ok (.iadd, 1) := dk_96 (dk_at dksX7_goes_4 3 rfl rfl)
theorem dX7_goes_99 : decode cX7_goes 99 = .ok (.aload_n 2, 1) := dk_44 (dk_at dksX7_goes_4 4 rfl rfl)
theorem dX7_goes_100 : decode cX7_goes 100 = .ok (.invokevirtual 65, 3) := dk_182 0 65 (dk_at dksX7_goes_4 5 rfl rfl)
theorem dX7_goes_103 : decode cX7_goes 103 = .ok (.istore 4, 2) := dk_54 4 (dk_at dksX7_goes_4 8 rfl rfl)
theorem dX7_goes_105 : decode cX7_goes 105 = .ok (.aload_n 0, 1) := dk_42 (dk_at dksX7_goes_4 10 rfl rfl)
theorem dX7_goes_106 : decode cX7_goes 106 = .ok (.dup, 1) := dk_89 (dk_at dksX7_goes_4 11 rfl rfl)
theorem dX7_goes_107 : decode cX7_goes 107 = .ok (.getfield 58, 3) := dk_180 0 58 (dk_at dksX7_goes_4 12 rfl rfl)
theorem dX7_goes_110 : decode cX7_goes 110 = .ok (.iconst 1, 1) := dk_4 (dk_at dksX7_goes_4 15 rfl rfl)
theorem dX7_goes_111 : decode cX7_goes 111 = .ok (.iload_n 3, 1) := dk_29 (dk_at dksX7_goes_4 16 rfl rfl)
theorem dX7_goes_112 : decode cX7_goes 112 = .ok (.ishl, 1) := dk_120 (dk_at dksX7_goes_4 17 rfl rfl)
theorem dX7_goes_113 : decode cX7_goes 113 = .ok (.iconst (-1), 1) := dk_2 (dk_at dksX7_goes_4 18 rfl rfl)
theorem dX7_goes_114 : decode cX7_goes 114 = .ok (.ixor, 1) := dk_130 (dk_at dksX7_goes_4 19 rfl rfl)
theorem dX7_goes_115 : decode cX7_goes 115 = .ok (.iand, 1) := dk_126 (dk_at dksX7_goes_4 20 rfl rfl)
theorem dX7_goes_116 : decode cX7_goes 116 = .ok (.putfield 58, 3) := dk_181 0 58 (dk_at dksX7_goes_4 21 rfl rfl)
theorem dX7_goes_119 : decode cX7_goes 119 = .ok (.iload 4, 2) := dk_21 4 (dk_at dksX7_goes_5 0 rfl rfl)
theorem dX7_goes_121 : decode cX7_goes 121 = .ok (.ifCond .ne 5, 3) := dk_154 0 5 (dk_at dksX7_goes_5 2 rfl rfl)
theorem dX7_goes_124 : decode cX7_goes 124 = .ok (.iconst 0, 1) := dk_3 (dk_at dksX7_goes_5 5 rfl rfl)
theorem dX7_goes_125 : decode cX7_goes 125 = .ok (.ireturn, 1) := dk_172 (dk_at dksX7_goes_5 6 rfl rfl)
theorem dX7_goes_126 : decode cX7_goes 126 = .ok (.iinc 3 1, 3) := dk_132 3 1 (dk_at dksX7_goes_5 7 rfl rfl)
theorem dX7_goes_129 : decode cX7_goes 129 = .ok (.goto (-90), 3) := dk_167 255 166 (dk_at dksX7_goes_5 10 rfl rfl)
theorem dX7_goes_132 : decode cX7_goes 132 = .ok (.iconst 1, 1) := dk_4 (dk_at dksX7_goes_5 13 rfl rfl)
theorem dX7_goes_133 : decode cX7_goes 133 = .ok (.ireturn, 1) := dk_172 (dk_at dksX7_goes_5 14 rfl rfl)
abbrev cX7_areUnlike : ByteArray := prog_10_method_4_code
def yX7_areUnlike : MethodName := ⟨RX7, "areUnlike", "()Z"⟩
def dkwX7_areUnlike_2 : List UInt8 := [4, 172]
abbrev dktX7_areUnlike_2 : List UInt8 := dkwX7_areUnlike_2 ++ []
def dkwX7_areUnlike_1 : List UInt8 := [126, 4, 160, 0, 5, 3, 172, 27, 4, 42, 180, 0, 15, 28, 46, 120, 128, 60, 132, 2, 1, 167, 255, 215]
abbrev dktX7_areUnlike_1 : List UInt8 := dkwX7_areUnlike_1 ++ dktX7_areUnlike_2
def dkwX7_areUnlike_0 : List UInt8 := [3, 60, 3, 61, 28, 42, 180, 0, 18, 180, 0, 35, 162, 0, 36, 27, 42, 180, 0, 15, 28, 46, 122, 4]
abbrev dktX7_areUnlike_0 : List UInt8 := dkwX7_areUnlike_0 ++ dktX7_areUnlike_1
theorem dksX7_areUnlike_0 : cX7_areUnlike.data.toList.drop 0 = dktX7_areUnlike_0 := by decide +kernel
theorem dksX7_areUnlike_1 : cX7_areUnlike.data.toList.drop 24 = dktX7_areUnlike_1 := dk_seg dksX7_areUnlike_0 24 rfl rfl
theorem dksX7_areUnlike_2 : cX7_areUnlike.data.toList.drop 48 = dktX7_areUnlike_2 := dk_seg dksX7_areUnlike_1 24 rfl rfl
theorem dX7_areUnlike_0 : decode cX7_areUnlike 0 = .ok (.iconst 0, 1) := dk_3 (dk_at dksX7_areUnlike_0 0 rfl rfl)
theorem dX7_areUnlike_1 : decode cX7_areUnlike 1 = .ok (.istore_n 1, 1) := dk_60 (dk_at dksX7_areUnlike_0 1 rfl rfl)
theorem dX7_areUnlike_2 : decode cX7_areUnlike 2 = .ok (.iconst 0, 1) := dk_3 (dk_at dksX7_areUnlike_0 2 rfl rfl)
theorem dX7_areUnlike_3 : decode cX7_areUnlike 3 = .ok (.istore_n 2, 1) := dk_61 (dk_at dksX7_areUnlike_0 3 rfl rfl)
theorem dX7_areUnlike_4 : decode cX7_areUnlike 4 = .ok (.iload_n 2, 1) := dk_28 (dk_at dksX7_areUnlike_0 4 rfl rfl)
theorem dX7_areUnlike_5 : decode cX7_areUnlike 5 = .ok (.aload_n 0, 1) := dk_42 (dk_at dksX7_areUnlike_0 5 rfl rfl)
theorem dX7_areUnlike_6 : decode cX7_areUnlike 6 = .ok (.getfield 18, 3) := dk_180 0 18 (dk_at dksX7_areUnlike_0 6 rfl rfl)
theorem dX7_areUnlike_9 : decode cX7_areUnlike 9 = .ok (.getfield 35, 3) := dk_180 0 35 (dk_at dksX7_areUnlike_0 9 rfl rfl)
theorem dX7_areUnlike_12 : decode cX7_areUnlike 12 = .ok (.if_icmp .ge 36, 3) := dk_162 0 36 (dk_at dksX7_areUnlike_0 12 rfl rfl)
theorem dX7_areUnlike_15 : decode cX7_areUnlike 15 = .ok (.iload_n 1, 1) := dk_27 (dk_at dksX7_areUnlike_0 15 rfl rfl)
theorem dX7_areUnlike_16 : decode cX7_areUnlike 16 = .ok (.aload_n 0, 1) := dk_42 (dk_at dksX7_areUnlike_0 16 rfl rfl)
theorem dX7_areUnlike_17 : decode cX7_areUnlike 17 = .ok (.getfield 15, 3) := dk_180 0 15 (dk_at dksX7_areUnlike_0 17 rfl rfl)
theorem dX7_areUnlike_20 : decode cX7_areUnlike 20 = .ok (.iload_n 2, 1) := dk_28 (dk_at dksX7_areUnlike_0 20 rfl rfl)
theorem dX7_areUnlike_21 : decode cX7_areUnlike 21 = .ok (.iaload, 1) := dk_46 (dk_at dksX7_areUnlike_0 21 rfl rfl)
theorem dX7_areUnlike_22 : decode cX7_areUnlike 22 = .ok (.ishr, 1) := dk_122 (dk_at dksX7_areUnlike_0 22 rfl rfl)
theorem dX7_areUnlike_23 : decode cX7_areUnlike 23 = .ok (.iconst 1, 1) := dk_4 (dk_at dksX7_areUnlike_0 23 rfl rfl)
theorem dX7_areUnlike_24 : decode cX7_areUnlike 24 = .ok (.iand, 1) := dk_126 (dk_at dksX7_areUnlike_1 0 rfl rfl)
theorem dX7_areUnlike_25 : decode cX7_areUnlike 25 = .ok (.iconst 1, 1) := dk_4 (dk_at dksX7_areUnlike_1 1 rfl rfl)
theorem dX7_areUnlike_26 : decode cX7_areUnlike 26 = .ok (.if_icmp .ne 5, 3) := dk_160 0 5 (dk_at dksX7_areUnlike_1 2 rfl rfl)
theorem dX7_areUnlike_29 : decode cX7_areUnlike 29 = .ok (.iconst 0, 1) := dk_3 (dk_at dksX7_areUnlike_1 5 rfl rfl)
theorem dX7_areUnlike_30 : decode cX7_areUnlike 30 = .ok (.ireturn, 1) := dk_172 (dk_at dksX7_areUnlike_1 6 rfl rfl)
theorem dX7_areUnlike_31 : decode cX7_areUnlike 31 = .ok (.iload_n 1, 1) := dk_27 (dk_at dksX7_areUnlike_1 7 rfl rfl)
theorem dX7_areUnlike_32 : decode cX7_areUnlike 32 = .ok (.iconst 1, 1) := dk_4 (dk_at dksX7_areUnlike_1 8 rfl rfl)
theorem dX7_areUnlike_33 : decode cX7_areUnlike 33 = .ok (.aload_n 0, 1) := dk_42 (dk_at dksX7_areUnlike_1 9 rfl rfl)
theorem dX7_areUnlike_34 : decode cX7_areUnlike 34 = .ok (.getfield 15, 3) := dk_180 0 15 (dk_at dksX7_areUnlike_1 10 rfl rfl)
theorem dX7_areUnlike_37 : decode cX7_areUnlike 37 = .ok (.iload_n 2, 1) := dk_28 (dk_at dksX7_areUnlike_1 13 rfl rfl)
theorem dX7_areUnlike_38 : decode cX7_areUnlike 38 = .ok (.iaload, 1) := dk_46 (dk_at dksX7_areUnlike_1 14 rfl rfl)
theorem dX7_areUnlike_39 : decode cX7_areUnlike 39 = .ok (.ishl, 1) := dk_120 (dk_at dksX7_areUnlike_1 15 rfl rfl)
theorem dX7_areUnlike_40 : decode cX7_areUnlike 40 = .ok (.ior, 1) := dk_128 (dk_at dksX7_areUnlike_1 16 rfl rfl)
theorem dX7_areUnlike_41 : decode cX7_areUnlike 41 = .ok (.istore_n 1, 1) := dk_60 (dk_at dksX7_areUnlike_1 17 rfl rfl)
theorem dX7_areUnlike_42 : decode cX7_areUnlike 42 = .ok (.iinc 2 1, 3) := dk_132 2 1 (dk_at dksX7_areUnlike_1 18 rfl rfl)
theorem dX7_areUnlike_45 : decode cX7_areUnlike 45 = .ok (.goto (-41), 3) := dk_167 255 215 (dk_at dksX7_areUnlike_1 21 rfl rfl)
theorem dX7_areUnlike_48 : decode cX7_areUnlike 48 = .ok (.iconst 1, 1) := dk_4 (dk_at dksX7_areUnlike_2 0 rfl rfl)
theorem dX7_areUnlike_49 : decode cX7_areUnlike 49 = .ok (.ireturn, 1) := dk_172 (dk_at dksX7_areUnlike_2 1 rfl rfl)
abbrev cX7_isWell : ByteArray := prog_10_method_3_code
def yX7_isWell : MethodName := ⟨RX7, "isWell", "(I)Z"⟩
def dkwX7_isWell_4 : List UInt8 := [132, 2, 1, 167, 255, 163, 4, 172]
abbrev dktX7_isWell_4 : List UInt8 := dkwX7_isWell_4 ++ []
def dkwX7_isWell_3 : List UInt8 := [180, 0, 22, 180, 0, 38, 21, 4, 46, 29, 159, 0, 5, 3, 172, 42, 180, 0, 15, 28, 21, 4, 79]
abbrev dktX7_isWell_3 : List UInt8 := dkwX7_isWell_3 ++ dktX7_isWell_4
def dkwX7_isWell_2 : List UInt8 := [180, 0, 22, 29, 182, 0, 45, 54, 4, 21, 4, 2, 159, 0, 24, 42, 180, 0, 25, 153, 0, 19, 42]
abbrev dktX7_isWell_2 : List UInt8 := dkwX7_isWell_2 ++ dktX7_isWell_3
def dkwX7_isWell_1 : List UInt8 := [4, 159, 0, 6, 167, 0, 64, 42, 42, 180, 0, 18, 180, 0, 38, 28, 46, 182, 0, 41, 62, 42]
abbrev dktX7_isWell_1 : List UInt8 := dkwX7_isWell_1 ++ dktX7_isWell_2
def dkwX7_isWell_0 : List UInt8 := [3, 61, 28, 42, 180, 0, 18, 180, 0, 35, 162, 0, 88, 42, 180, 0, 18, 180, 0, 38, 28, 46, 27, 122]
abbrev dktX7_isWell_0 : List UInt8 := dkwX7_isWell_0 ++ dktX7_isWell_1
theorem dksX7_isWell_0 : cX7_isWell.data.toList.drop 0 = dktX7_isWell_0 := by decide +kernel
theorem dksX7_isWell_1 : cX7_isWell.data.toList.drop 24 = dktX7_isWell_1 := dk_seg dksX7_isWell_0 24 rfl rfl
theorem dksX7_isWell_2 : cX7_isWell.data.toList.drop 46 = dktX7_isWell_2 := dk_seg dksX7_isWell_1 22 rfl rfl
theorem dksX7_isWell_3 : cX7_isWell.data.toList.drop 69 = dktX7_isWell_3 := dk_seg dksX7_isWell_2 23 rfl rfl
theorem dksX7_isWell_4 : cX7_isWell.data.toList.drop 92 = dktX7_isWell_4 := dk_seg dksX7_isWell_3 23 rfl rfl
theorem dX7_isWell_0 : decode cX7_isWell 0 = .ok (.iconst 0, 1) := dk_3 (dk_at dksX7_isWell_0 0 rfl rfl)
theorem dX7_isWell_1 : decode cX7_isWell 1 = .ok (.istore_n 2, 1) := dk_61 (dk_at dksX7_isWell_0 1 rfl rfl)
theorem dX7_isWell_2 : decode cX7_isWell 2 = .ok (.iload_n 2, 1) := dk_28 (dk_at dksX7_isWell_0 2 rfl rfl)
theorem dX7_isWell_3 : decode cX7_isWell 3 = .ok (.aload_n 0, 1) := dk_42 (dk_at dksX7_isWell_0 3 rfl rfl)
theorem dX7_isWell_4 : decode cX7_isWell 4 = .ok (.getfield 18, 3) := dk_180 0 18 (dk_at dksX7_isWell_0 4 rfl rfl)
theorem dX7_isWell_7 : decode cX7_isWell 7 = .ok (.getfield 35, 3) := dk_180 0 35 (dk_at dksX7_isWell_0 7 rfl rfl)
theorem dX7_isWell_10 : decode cX7_isWell 10 = .ok (.if_icmp .ge 88, 3) := dk_162 0 88 (dk_at dksX7_isWell_0 10 rfl rfl)
theorem dX7_isWell_13 : decode cX7_isWell 13 = .ok (.aload_n 0, 1) := dk_42 (dk_at dksX7_isWell_0 13 rfl rfl)
theorem dX7_isWell_14 : decode cX7_isWell 14 = .ok (.getfield 18, 3) := dk_180 0 18 (dk_at dksX7_isWell_0 14 rfl rfl)
theorem dX7_isWell_17 : decode cX7_isWell 17 = .ok (.getfield 38, 3) := dk_180 0 38 (dk_at dksX7_isWell_0 17 rfl rfl)
theorem dX7_isWell_20 : decode cX7_isWell 20 = .ok (.iload_n 2, 1) := dk_28 (dk_at dksX7_isWell_0 20 rfl rfl)
theorem dX7_isWell_21 : decode cX7_isWell 21 = .ok (.iaload, 1) := dk_46 (dk_at dksX7_isWell_0 21 rfl rfl)
theorem dX7_isWell_22 : decode cX7_isWell 22 = .ok (.iload_n 1, 1) := dk_27 (dk_at dksX7_isWell_0 22 rfl rfl)
theorem dX7_isWell_23 : decode cX7_isWell 23 = .ok (.ishr, 1) := dk_122 (dk_at dksX7_isWell_0 23 rfl rfl)
theorem dX7_isWell_24 : decode cX7_isWell 24 = .ok (.iconst 1, 1) := dk_4 (dk_at dksX7_isWell_1 0 rfl rfl)
theorem dX7_isWell_25 : decode cX7_isWell 25 = .ok (.if_icmp .eq 6, 3) := dk_159 0 6 (dk_at dksX7_isWell_1 1 rfl rfl)
theorem dX7_isWell_28 : decode cX7_isWell 28 = .ok (.goto 64, 3) := dk_167 0 64 (dk_at dksX7_isWell_1 4 rfl rfl)
theorem dX7_isWell_31 : decode cX7_isWell 31 = .ok (.aload_n 0, 1) := dk_42 (dk_at dksX7_isWell_1 7 rfl rfl)
theorem dX7_isWell_32 : decode cX7_isWell 32 = .ok (.aload_n 0, 1) := dk_42 (dk_at dksX7_isWell_1 8 rfl rfl)
theorem dX7_isWell_33 : decode cX7_isWell 33 = .ok (.getfield 18, 3) := dk_180 0 18 (dk_at dksX7_isWell_1 9 rfl rfl)
theorem dX7_isWell_36 : decode cX7_isWell 36 = .ok (.getfield 38, 3) := dk_180 0 38 (dk_at dksX7_isWell_1 12 rfl rfl)
theorem dX7_isWell_39 : decode cX7_isWell 39 = .ok (.iload_n 2, 1) := dk_28 (dk_at dksX7_isWell_1 15 rfl rfl)
theorem dX7_isWell_40 : decode cX7_isWell 40 = .ok (.iaload, 1) := dk_46 (dk_at dksX7_isWell_1 16 rfl rfl)
theorem dX7_isWell_41 : decode cX7_isWell 41 = .ok (.invokevirtual 41, 3) := dk_182 0 41 (dk_at dksX7_isWell_1 17 rfl rfl)
theorem dX7_isWell_44 : decode cX7_isWell 44 = .ok (.istore_n 3, 1) := dk_62 (dk_at dksX7_isWell_1 20 rfl rfl)
theorem dX7_isWell_45 : decode cX7_isWell 45 = .ok (.aload_n 0, 1) := dk_42 (dk_at dksX7_isWell_1 21 rfl rfl)
theorem dX7_isWell_46 : decode cX7_isWell 46 = .ok (.getfield 22, 3) := dk_180 0 22 (dk_at dksX7_isWell_2 0 rfl rfl)
theorem dX7_isWell_49 : decode cX7_isWell 49 = .ok (.iload_n 3, 1) := dk_29 (dk_at dksX7_isWell_2 3 rfl rfl)
theorem dX7_isWell_50 : decode cX7_isWell 50 = .ok (.invokevirtual 45, 3) := dk_182 0 45 (dk_at dksX7_isWell_2 4 rfl rfl)
theorem dX7_isWell_53 : decode cX7_isWell 53 = .ok (.istore 4, 2) := dk_54 4 (dk_at dksX7_isWell_2 7 rfl rfl)
theorem dX7_isWell_55 : decode cX7_isWell 55 = .ok (.iload 4, 2) := dk_21 4 (dk_at dksX7_isWell_2 9 rfl rfl)
theorem dX7_isWell_57 : decode cX7_isWell 57 = .ok (.iconst (-1), 1) := dk_2 (dk_at dksX7_isWell_2 11 rfl rfl)
theorem dX7_isWell_58 : decode cX7_isWell 58 = .ok (.if_icmp .eq 24, 3) := dk_159 0 24 (dk_at dksX7_isWell_2 12 rfl rfl)
theorem dX7_isWell_61 : decode cX7_isWell 61 = .ok (.aload_n 0, 1) := dk_42 (dk_at dksX7_isWell_2 15 rfl rfl)
theorem dX7_isWell_62 : decode cX7_isWell 62 = .ok (.getfield 25, 3) := dk_180 0 25 (dk_at dksX7_isWell_2 16 rfl rfl)
theorem dX7_isWell_65 : decode cX7_isWell 65 = .ok (.ifCond .eq 19, 3) := dk_153 0 19 (dk_at dksX7_isWell_2 19 rfl rfl)
theorem dX7_isWell_68 : decode cX7_isWell 68 = .ok (.aload_n 0, 1) := dk_42 (dk_at dksX7_isWell_2 22 rfl rfl)
theorem dX7_isWell_69 : decode cX7_isWell 69 = .ok (.getfield 22, 3) := dk_180 0 22 (dk_at dksX7_isWell_3 0 rfl rfl)
theorem dX7_isWell_72 : decode cX7_isWell 72 = .ok (.getfield 38, 3) := dk_180 0 38 (dk_at dksX7_isWell_3 3 rfl rfl)
theorem dX7_isWell_75 : decode cX7_isWell 75 = .ok (.iload 4, 2) := dk_21 4 (dk_at dksX7_isWell_3 6 rfl rfl)
theorem dX7_isWell_77 : decode cX7_isWell 77 = .ok (.iaload, 1) := dk_46 (dk_at dksX7_isWell_3 8 rfl rfl)
theorem dX7_isWell_78 : decode cX7_isWell 78 = .ok (.iload_n 3, 1) := dk_29 (dk_at dksX7_isWell_3 9 rfl rfl)
theorem dX7_isWell_79 : decode cX7_isWell 79 = .ok (.if_icmp .eq 5, 3) := dk_159 0 5 (dk_at dksX7_isWell_3 10 rfl rfl)
theorem dX7_isWell_82 : decode cX7_isWell 82 = .ok (.iconst 0, 1) := dk_3 (dk_at dksX7_isWell_3 13 rfl rfl)
theorem dX7_isWell_83 : decode cX7_isWell 83 = .ok (.ireturn, 1) := dk_172 (dk_at dksX7_isWell_3 14 rfl rfl)
theorem dX7_isWell_84 : decode cX7_isWell 84 = .ok (.aload_n 0, 1) := dk_42 (dk_at dksX7_isWell_3 15 rfl rfl)
theorem dX7_isWell_85 : decode cX7_isWell 85 = .ok (.getfield 15, 3) := dk_180 0 15 (dk_at dksX7_isWell_3 16 rfl rfl)
theorem dX7_isWell_88 : decode cX7_isWell 88 = .ok (.iload_n 2, 1) := dk_28 (dk_at dksX7_isWell_3 19 rfl rfl)
theorem dX7_isWell_89 : decode cX7_isWell 89 = .ok (.iload 4, 2) := dk_21 4 (dk_at dksX7_isWell_3 20 rfl rfl)
theorem dX7_isWell_91 : decode cX7_isWell 91 = .ok (.iastore, 1) := dk_79 (dk_at dksX7_isWell_3 22 rfl rfl)
theorem dX7_isWell_92 : decode cX7_isWell 92 = .ok (.iinc 2 1, 3) := dk_132 2 1 (dk_at dksX7_isWell_4 0 rfl rfl)
theorem dX7_isWell_95 : decode cX7_isWell 95 = .ok (.goto (-93), 3) := dk_167 255 163 (dk_at dksX7_isWell_4 3 rfl rfl)
theorem dX7_isWell_98 : decode cX7_isWell 98 = .ok (.iconst 1, 1) := dk_4 (dk_at dksX7_isWell_4 6 rfl rfl)
theorem dX7_isWell_99 : decode cX7_isWell 99 = .ok (.ireturn, 1) := dk_172 (dk_at dksX7_isWell_4 7 rfl rfl)
abbrev cX7_image : ByteArray := prog_10_method_2_code
def yX7_image : MethodName := ⟨RX7, "image", "(I)I"⟩
def dkwX7_image_1 : List UInt8 := [28, 4, 42, 180, 0, 9, 29, 46, 120, 128, 61, 132, 3, 1, 167, 255, 222, 28, 172]
abbrev dktX7_image_1 : List UInt8 := dkwX7_image_1 ++ []
def dkwX7_image_0 : List UInt8 := [3, 61, 3, 62, 29, 42, 180, 0, 18, 180, 0, 29, 162, 0, 29, 27, 29, 122, 4, 126, 4, 160, 0, 14]
abbrev dktX7_image_0 : List UInt8 := dkwX7_image_0 ++ dktX7_image_1
theorem dksX7_image_0 : cX7_image.data.toList.drop 0 = dktX7_image_0 := by decide +kernel
theorem dksX7_image_1 : cX7_image.data.toList.drop 24 = dktX7_image_1 := dk_seg dksX7_image_0 24 rfl rfl
theorem dX7_image_0 : decode cX7_image 0 = .ok (.iconst 0, 1) := dk_3 (dk_at dksX7_image_0 0 rfl rfl)
theorem dX7_image_1 : decode cX7_image 1 = .ok (.istore_n 2, 1) := dk_61 (dk_at dksX7_image_0 1 rfl rfl)
theorem dX7_image_2 : decode cX7_image 2 = .ok (.iconst 0, 1) := dk_3 (dk_at dksX7_image_0 2 rfl rfl)
theorem dX7_image_3 : decode cX7_image 3 = .ok (.istore_n 3, 1) := dk_62 (dk_at dksX7_image_0 3 rfl rfl)
theorem dX7_image_4 : decode cX7_image 4 = .ok (.iload_n 3, 1) := dk_29 (dk_at dksX7_image_0 4 rfl rfl)
theorem dX7_image_5 : decode cX7_image 5 = .ok (.aload_n 0, 1) := dk_42 (dk_at dksX7_image_0 5 rfl rfl)
theorem dX7_image_6 : decode cX7_image 6 = .ok (.getfield 18, 3) := dk_180 0 18 (dk_at dksX7_image_0 6 rfl rfl)
theorem dX7_image_9 : decode cX7_image 9 = .ok (.getfield 29, 3) := dk_180 0 29 (dk_at dksX7_image_0 9 rfl rfl)
theorem dX7_image_12 : decode cX7_image 12 = .ok (.if_icmp .ge 29, 3) := dk_162 0 29 (dk_at dksX7_image_0 12 rfl rfl)
theorem dX7_image_15 : decode cX7_image 15 = .ok (.iload_n 1, 1) := dk_27 (dk_at dksX7_image_0 15 rfl rfl)
theorem dX7_image_16 : decode cX7_image 16 = .ok (.iload_n 3, 1) := dk_29 (dk_at dksX7_image_0 16 rfl rfl)
theorem dX7_image_17 : decode cX7_image 17 = .ok (.ishr, 1) := dk_122 (dk_at dksX7_image_0 17 rfl rfl)
theorem dX7_image_18 : decode cX7_image 18 = .ok (.iconst 1, 1) := dk_4 (dk_at dksX7_image_0 18 rfl rfl)
theorem dX7_image_19 : decode cX7_image 19 = .ok (.iand, 1) := dk_126 (dk_at dksX7_image_0 19 rfl rfl)
theorem dX7_image_20 : decode cX7_image 20 = .ok (.iconst 1, 1) := dk_4 (dk_at dksX7_image_0 20 rfl rfl)
theorem dX7_image_21 : decode cX7_image 21 = .ok (.if_icmp .ne 14, 3) := dk_160 0 14 (dk_at dksX7_image_0 21 rfl rfl)
theorem dX7_image_24 : decode cX7_image 24 = .ok (.iload_n 2, 1) := dk_28 (dk_at dksX7_image_1 0 rfl rfl)
theorem dX7_image_25 : decode cX7_image 25 = .ok (.iconst 1, 1) := dk_4 (dk_at dksX7_image_1 1 rfl rfl)
theorem dX7_image_26 : decode cX7_image 26 = .ok (.aload_n 0, 1) := dk_42 (dk_at dksX7_image_1 2 rfl rfl)
theorem dX7_image_27 : decode cX7_image 27 = .ok (.getfield 9, 3) := dk_180 0 9 (dk_at dksX7_image_1 3 rfl rfl)
theorem dX7_image_30 : decode cX7_image 30 = .ok (.iload_n 3, 1) := dk_29 (dk_at dksX7_image_1 6 rfl rfl)
theorem dX7_image_31 : decode cX7_image 31 = .ok (.iaload, 1) := dk_46 (dk_at dksX7_image_1 7 rfl rfl)
theorem dX7_image_32 : decode cX7_image 32 = .ok (.ishl, 1) := dk_120 (dk_at dksX7_image_1 8 rfl rfl)
theorem dX7_image_33 : decode cX7_image 33 = .ok (.ior, 1) := dk_128 (dk_at dksX7_image_1 9 rfl rfl)
theorem dX7_image_34 : decode cX7_image 34 = .ok (.istore_n 2, 1) := dk_61 (dk_at dksX7_image_1 10 rfl rfl)
theorem dX7_image_35 : decode cX7_image 35 = .ok (.iinc 3 1, 3) := dk_132 3 1 (dk_at dksX7_image_1 11 rfl rfl)
theorem dX7_image_38 : decode cX7_image 38 = .ok (.goto (-34), 3) := dk_167 255 222 (dk_at dksX7_image_1 14 rfl rfl)
theorem dX7_image_41 : decode cX7_image 41 = .ok (.iload_n 2, 1) := dk_28 (dk_at dksX7_image_1 17 rfl rfl)
theorem dX7_image_42 : decode cX7_image 42 = .ok (.ireturn, 1) := dk_172 (dk_at dksX7_image_1 18 rfl rfl)
theorem q179 : (Jvm.Cond.initialized "SchemeLister$Search") ∈ lw_all := lw_g (lw_at lw_m1 29 rfl) rfl
theorem q226 : (Jvm.Cond.fieldLinkNest "SchemeLister$Search" (29 : Nat) "SchemeLister$Scheme" "points" "I" "SchemeLister") ∈ lw_tbl := lw_at lw_m1 76 rfl
theorem q230 : (Jvm.Cond.fieldLinkNest "SchemeLister$Search" (35 : Nat) "SchemeLister$Scheme" "lines" "I" "SchemeLister") ∈ lw_tbl := lw_at lw_m1 80 rfl
theorem q233 : (Jvm.Cond.fieldLinkNest "SchemeLister$Search" (38 : Nat) "SchemeLister$Scheme" "line" "[I" "SchemeLister") ∈ lw_tbl := lw_at lw_m1 83 rfl
theorem q779 : (Jvm.Cond.selects "SchemeLister$Search" ({ cls := "java/lang/Object", name := "getClass", desc := "()Ljava/lang/Class;" } : Jvm.MethodName) ({ cls := "java/lang/Object", name := "getClass", desc := "()Ljava/lang/Class;" } : Jvm.MethodName)) ∈ lw_all := lw_g (lw_at lw_m3 149 rfl) rfl
theorem q1265 : (Jvm.Cond.instantiable "SchemeLister$Search" (6 : Nat)) ∈ lw_all := lw_g (lw_at lw_m5 155 rfl) rfl
theorem q1267 : (Jvm.Cond.instanceMethod ({ cls := "SchemeLister$Search", name := "<init>", desc := "(LSchemeLister$Scheme;LSchemeLister$Scheme;Z)V" } : Jvm.MethodName)) ∈ lw_all := lw_g (lw_at lw_m5 157 rfl) rfl
theorem q1268 : (Jvm.Cond.code ({ cls := "SchemeLister$Search", name := "<init>", desc := "(LSchemeLister$Scheme;LSchemeLister$Scheme;Z)V" } : Jvm.MethodName) prog_10_method_1_code (4 : Nat) (Option.none : Option Jvm.ClassFile.FieldType)) ∈ lw_all := lw_g (lw_at lw_m5 158 rfl) rfl
theorem q1269 : (Jvm.Cond.methodLink "SchemeLister$Search" (3 : Nat) ({ cls := "java/lang/Object", name := "<init>", desc := "()V" } : Jvm.MethodName)) ∈ lw_all := lw_g (lw_at lw_m5 159 rfl) rfl
theorem q1270 : (Jvm.Cond.fieldLink "SchemeLister$Search" (18 : Nat) "SchemeLister$Search" "from" "LSchemeLister$Scheme;") ∈ lw_all := lw_g (lw_at lw_m5 160 rfl) rfl
theorem q1271 : (Jvm.Cond.fieldLink "SchemeLister$Search" (22 : Nat) "SchemeLister$Search" "into" "LSchemeLister$Scheme;") ∈ lw_all := lw_g (lw_at lw_m5 161 rfl) rfl
theorem q1272 : (Jvm.Cond.fieldLink "SchemeLister$Search" (25 : Nat) "SchemeLister$Search" "isWhole" "Z") ∈ lw_all := lw_g (lw_at lw_m5 162 rfl) rfl
theorem q1273 : (Jvm.Cond.fieldLink "SchemeLister$Search" (9 : Nat) "SchemeLister$Search" "to" "[I") ∈ lw_all := lw_g (lw_at lw_m5 163 rfl) rfl
theorem q1274 : (Jvm.Cond.fieldLink "SchemeLister$Search" (15 : Nat) "SchemeLister$Search" "host" "[I") ∈ lw_all := lw_g (lw_at lw_m5 164 rfl) rfl
theorem q1275 : (Jvm.Cond.fieldLink "SchemeLister$Search" (58 : Nat) "SchemeLister$Search" "used" "I") ∈ lw_all := lw_g (lw_at lw_m5 165 rfl) rfl
theorem q1276 : (Jvm.Cond.laysFinal "SchemeLister$Search" "SchemeLister$Search" "from" "LSchemeLister$Scheme;") ∈ lw_all := lw_g (lw_at lw_m5 166 rfl) rfl
theorem q1277 : (Jvm.Cond.soleField "SchemeLister$Search" "from") ∈ lw_all := lw_g (lw_at lw_m5 167 rfl) rfl
theorem q1278 : (Jvm.Cond.laysFinal "SchemeLister$Search" "SchemeLister$Search" "into" "LSchemeLister$Scheme;") ∈ lw_all := lw_g (lw_at lw_m5 168 rfl) rfl
theorem q1279 : (Jvm.Cond.soleField "SchemeLister$Search" "into") ∈ lw_all := lw_g (lw_at lw_m5 169 rfl) rfl
theorem q1280 : (Jvm.Cond.laysFinal "SchemeLister$Search" "SchemeLister$Search" "isWhole" "Z") ∈ lw_all := lw_g (lw_at lw_m5 170 rfl) rfl
theorem q1281 : (Jvm.Cond.soleField "SchemeLister$Search" "isWhole") ∈ lw_all := lw_g (lw_at lw_m5 171 rfl) rfl
theorem q1282 : (Jvm.Cond.laysFinal "SchemeLister$Search" "SchemeLister$Search" "to" "[I") ∈ lw_all := lw_g (lw_at lw_m5 172 rfl) rfl
theorem q1283 : (Jvm.Cond.soleField "SchemeLister$Search" "to") ∈ lw_all := lw_g (lw_at lw_m5 173 rfl) rfl
theorem q1284 : (Jvm.Cond.laysFinal "SchemeLister$Search" "SchemeLister$Search" "host" "[I") ∈ lw_all := lw_g (lw_at lw_m5 174 rfl) rfl
theorem q1285 : (Jvm.Cond.soleField "SchemeLister$Search" "host") ∈ lw_all := lw_g (lw_at lw_m5 175 rfl) rfl
theorem q1286 : (Jvm.Cond.lays "SchemeLister$Search" "SchemeLister$Search" "used" "I") ∈ lw_all := lw_g (lw_at lw_m5 176 rfl) rfl
theorem q1287 : (Jvm.Cond.soleField "SchemeLister$Search" "used") ∈ lw_all := lw_g (lw_at lw_m5 177 rfl) rfl
theorem q1288 : (Jvm.Cond.superclass "SchemeLister$Search" "java/lang/Object") ∈ lw_all := lw_g (lw_at lw_m5 178 rfl) rfl
theorem q1297 : (Jvm.Cond.instanceMethod ({ cls := "SchemeLister$Search", name := "goes", desc := "(ILSchemeLister$Way;)Z" } : Jvm.MethodName)) ∈ lw_all := lw_g (lw_at lw_m5 187 rfl) rfl
theorem q1298 : (Jvm.Cond.selects "SchemeLister$Search" ({ cls := "SchemeLister$Search", name := "goes", desc := "(ILSchemeLister$Way;)Z" } : Jvm.MethodName) ({ cls := "SchemeLister$Search", name := "goes", desc := "(ILSchemeLister$Way;)Z" } : Jvm.MethodName)) ∈ lw_all := lw_g (lw_at lw_m5 188 rfl) rfl
theorem q1299 : (Jvm.Cond.code ({ cls := "SchemeLister$Search", name := "goes", desc := "(ILSchemeLister$Way;)Z" } : Jvm.MethodName) prog_10_method_5_code (5 : Nat) (Option.some Jvm.ClassFile.FieldType.boolean)) ∈ lw_all := lw_g (lw_at lw_m5 189 rfl) rfl
theorem q1300 : (Jvm.Cond.methodLink "SchemeLister$Search" (48 : Nat) ({ cls := "SchemeLister$Search", name := "areUnlike", desc := "()Z" } : Jvm.MethodName)) ∈ lw_all := lw_g (lw_at lw_m5 190 rfl) rfl
theorem q1301 : (Jvm.Cond.privateMethod ({ cls := "SchemeLister$Search", name := "areUnlike", desc := "()Z" } : Jvm.MethodName)) ∈ lw_tbl := lw_at lw_m5 191 rfl
theorem q1302 : (Jvm.Cond.instanceMethod ({ cls := "SchemeLister$Search", name := "areUnlike", desc := "()Z" } : Jvm.MethodName)) ∈ lw_all := lw_g (lw_at lw_m5 192 rfl) rfl
theorem q1303 : (Jvm.Cond.code ({ cls := "SchemeLister$Search", name := "areUnlike", desc := "()Z" } : Jvm.MethodName) prog_10_method_4_code (3 : Nat) (Option.some Jvm.ClassFile.FieldType.boolean)) ∈ lw_all := lw_g (lw_at lw_m5 193 rfl) rfl
theorem q1304 : (Jvm.Cond.interfaceEntry "SchemeLister$Search" (52 : Nat)) ∈ lw_tbl := lw_at lw_m5 194 rfl
theorem q1305 : (Jvm.Cond.methodLink "SchemeLister$Search" (52 : Nat) ({ cls := "SchemeLister$Way", name := "goes", desc := "([I)Z" } : Jvm.MethodName)) ∈ lw_all := lw_g (lw_at lw_m5 195 rfl) rfl
theorem q1308 : (Jvm.Cond.methodLink "SchemeLister$Search" (61 : Nat) ({ cls := "SchemeLister$Search", name := "isWell", desc := "(I)Z" } : Jvm.MethodName)) ∈ lw_all := lw_g (lw_at lw_m5 198 rfl) rfl
theorem q1309 : (Jvm.Cond.privateMethod ({ cls := "SchemeLister$Search", name := "isWell", desc := "(I)Z" } : Jvm.MethodName)) ∈ lw_tbl := lw_at lw_m5 199 rfl
theorem q1310 : (Jvm.Cond.instanceMethod ({ cls := "SchemeLister$Search", name := "isWell", desc := "(I)Z" } : Jvm.MethodName)) ∈ lw_all := lw_g (lw_at lw_m5 200 rfl) rfl
theorem q1311 : (Jvm.Cond.code ({ cls := "SchemeLister$Search", name := "isWell", desc := "(I)Z" } : Jvm.MethodName) prog_10_method_3_code (5 : Nat) (Option.some Jvm.ClassFile.FieldType.boolean)) ∈ lw_all := lw_g (lw_at lw_m5 201 rfl) rfl
theorem q1312 : (Jvm.Cond.methodLink "SchemeLister$Search" (41 : Nat) ({ cls := "SchemeLister$Search", name := "image", desc := "(I)I" } : Jvm.MethodName)) ∈ lw_all := lw_g (lw_at lw_m5 202 rfl) rfl
theorem q1313 : (Jvm.Cond.privateMethod ({ cls := "SchemeLister$Search", name := "image", desc := "(I)I" } : Jvm.MethodName)) ∈ lw_tbl := lw_at lw_m5 203 rfl
theorem q1314 : (Jvm.Cond.instanceMethod ({ cls := "SchemeLister$Search", name := "image", desc := "(I)I" } : Jvm.MethodName)) ∈ lw_all := lw_g (lw_at lw_m5 204 rfl) rfl
theorem q1315 : (Jvm.Cond.code ({ cls := "SchemeLister$Search", name := "image", desc := "(I)I" } : Jvm.MethodName) prog_10_method_2_code (4 : Nat) (Option.some Jvm.ClassFile.FieldType.int)) ∈ lw_all := lw_g (lw_at lw_m5 205 rfl) rfl
theorem q1316 : (Jvm.Cond.methodLink "SchemeLister$Search" (45 : Nat) ({ cls := "SchemeLister$Scheme", name := "lineOf", desc := "(I)I" } : Jvm.MethodName)) ∈ lw_all := lw_g (lw_at lw_m5 206 rfl) rfl
theorem q1317 : (Jvm.Cond.methodLink "SchemeLister$Search" (65 : Nat) ({ cls := "SchemeLister$Search", name := "goes", desc := "(ILSchemeLister$Way;)Z" } : Jvm.MethodName)) ∈ lw_all := lw_g (lw_at lw_m5 207 rfl) rfl
theorem q2332 : (Jvm.Cond.castable "SchemeLister$Search" "java/lang/Object") ∈ lw_tbl := lw_at lw_m10 22 rfl
theorem in_X7 : ∀ w ∈ wsX70, w ∈ lw_all := lw_in wsX70 [1276, 1278, 1280, 1282, 1284, 1286] (by decide +kernel) (by decide +kernel)

/-! SchemeLister$Rows -/
set_option maxRecDepth 100000
def RX8 : String := "SchemeLister$Rows"
def TX8 : u_T := fun k => match k with
  | 0 => ("SchemeLister$Rows", "points", "I", true)
  | 1 => ("SchemeLister$Rows", "lines", "I", true)
  | 2 => ("SchemeLister$Rows", "line", "[I", true)
  | 3 => ("SchemeLister$Rows", "to", "[I", true)
  | 4 => ("SchemeLister$Rows", "row", "[I", true)
  | 5 => ("SchemeLister$Rows", "least", "[I", true)
  | _ => ("SchemeLister$Rows", "isLess", "Z", false)
def tyX8 : Nat → FieldType := fun k => match k with
  | 0 => .int
  | 1 => .int
  | 2 => .array .int
  | 3 => .array .int
  | 4 => .array .int
  | 5 => .array .int
  | _ => .boolean
abbrev wsX80 : List Cond := u_ws RX8 TX8 7
theorem nmX8 : ∀ a, a < 7 → ∀ b, b < 7 → a ≠ b → (TX8 a).2.1 ≠ (TX8 b).2.1 := by decide +kernel
theorem tyX8_ok : ∀ k, k < 7 → parseFieldDescriptor (TX8 k).2.2.1 = some (tyX8 k) := by decide +kernel
abbrev cX8_init : ByteArray := prog_8_method_1_code
def yX8_init : MethodName := ⟨RX8, "<init>", "(I[II)V"⟩
def dkwX8_init_2 : List UInt8 := [180, 0, 18, 3, 29, 184, 0, 31, 42, 42, 180, 0, 18, 182, 0, 37, 177]
abbrev dktX8_init_2 : List UInt8 := dkwX8_init_2 ++ []
def dkwX8_init_1 : List UInt8 := [188, 10, 181, 0, 18, 42, 27, 181, 0, 21, 42, 29, 181, 0, 25, 42, 44, 181, 0, 28, 44, 3, 42]
abbrev dktX8_init_1 : List UInt8 := dkwX8_init_1 ++ dktX8_init_2
def dkwX8_init_0 : List UInt8 := [42, 183, 0, 3, 42, 16, 8, 188, 10, 181, 0, 9, 42, 16, 12, 188, 10, 181, 0, 15, 42, 16, 12]
abbrev dktX8_init_0 : List UInt8 := dkwX8_init_0 ++ dktX8_init_1
theorem dksX8_init_0 : cX8_init.data.toList.drop 0 = dktX8_init_0 := by decide +kernel
theorem dksX8_init_1 : cX8_init.data.toList.drop 23 = dktX8_init_1 := dk_seg dksX8_init_0 23 rfl rfl
theorem dksX8_init_2 : cX8_init.data.toList.drop 46 = dktX8_init_2 := dk_seg dksX8_init_1 23 rfl rfl
theorem dX8_init_0 : decode cX8_init 0 = .ok (.aload_n 0, 1) := dk_42 (dk_at dksX8_init_0 0 rfl rfl)
theorem dX8_init_1 : decode cX8_init 1 = .ok (.invokespecial 3, 3) := dk_183 0 3 (dk_at dksX8_init_0 1 rfl rfl)
theorem dX8_init_4 : decode cX8_init 4 = .ok (.aload_n 0, 1) := dk_42 (dk_at dksX8_init_0 4 rfl rfl)
theorem dX8_init_5 : decode cX8_init 5 = .ok (.bipush 8, 2) := dk_16 8 (dk_at dksX8_init_0 5 rfl rfl)
theorem dX8_init_7 : decode cX8_init 7 = .ok (.newarray .int, 2) := dk_188_10 (dk_at dksX8_init_0 7 rfl rfl)
theorem dX8_init_9 : decode cX8_init 9 = .ok (.putfield 9, 3) := dk_181 0 9 (dk_at dksX8_init_0 9 rfl rfl)
theorem dX8_init_12 : decode cX8_init 12 = .ok (.aload_n 0, 1) := dk_42 (dk_at dksX8_init_0 12 rfl rfl)
theorem dX8_init_13 : decode cX8_init 13 = .ok (.bipush 12, 2) := dk_16 12 (dk_at dksX8_init_0 13 rfl rfl)
theorem dX8_init_15 : decode cX8_init 15 = .ok (.newarray .int, 2) := dk_188_10 (dk_at dksX8_init_0 15 rfl rfl)
theorem dX8_init_17 : decode cX8_init 17 = .ok (.putfield 15, 3) := dk_181 0 15 (dk_at dksX8_init_0 17 rfl rfl)
theorem dX8_init_20 : decode cX8_init 20 = .ok (.aload_n 0, 1) := dk_42 (dk_at dksX8_init_0 20 rfl rfl)
theorem dX8_init_21 : decode cX8_init 21 = .ok (.bipush 12, 2) := dk_16 12 (dk_at dksX8_init_0 21 rfl rfl)
theorem dX8_init_23 : decode cX8_init 23 = .ok (.newarray .int, 2) := dk_188_10 (dk_at dksX8_init_1 0 rfl rfl)
theorem dX8_init_25 : decode cX8_init 25 = .ok (.putfield 18, 3) := dk_181 0 18 (dk_at dksX8_init_1 2 rfl rfl)
theorem dX8_init_28 : decode cX8_init 28 = .ok (.aload_n 0, 1) := dk_42 (dk_at dksX8_init_1 5 rfl rfl)
theorem dX8_init_29 : decode cX8_init 29 = .ok (.iload_n 1, 1) := dk_27 (dk_at dksX8_init_1 6 rfl rfl)
theorem dX8_init_30 : decode cX8_init 30 = .ok (.putfield 21, 3) := dk_181 0 21 (dk_at dksX8_init_1 7 rfl rfl)
theorem dX8_init_33 : decode cX8_init 33 = .ok (.aload_n 0, 1) := dk_42 (dk_at dksX8_init_1 10 rfl rfl)
theorem dX8_init_34 : decode cX8_init 34 = .ok (.iload_n 3, 1) := dk_29 (dk_at dksX8_init_1 11 rfl rfl)
theorem dX8_init_35 : decode cX8_init 35 = .ok (.putfield 25, 3) := dk_181 0 25 (dk_at dksX8_init_1 12 rfl rfl)
theorem dX8_init_38 : decode cX8_init 38 = .ok (.aload_n 0, 1) := dk_42 (dk_at dksX8_init_1 15 rfl rfl)
theorem dX8_init_39 : decode cX8_init 39 = .ok (.aload_n 2, 1) := dk_44 (dk_at dksX8_init_1 16 rfl rfl)
theorem dX8_init_40 : decode cX8_init 40 = .ok (.putfield 28, 3) := dk_181 0 28 (dk_at dksX8_init_1 17 rfl rfl)
theorem dX8_init_43 : decode cX8_init 43 = .ok (.aload_n 2, 1) := dk_44 (dk_at dksX8_init_1 20 rfl rfl)
theorem dX8_init_44 : decode cX8_init 44 = .ok (.iconst 0, 1) := dk_3 (dk_at dksX8_init_1 21 rfl rfl)
theorem dX8_init_45 : decode cX8_init 45 = .ok (.aload_n 0, 1) := dk_42 (dk_at dksX8_init_1 22 rfl rfl)
theorem dX8_init_46 : decode cX8_init 46 = .ok (.getfield 18, 3) := dk_180 0 18 (dk_at dksX8_init_2 0 rfl rfl)
theorem dX8_init_49 : decode cX8_init 49 = .ok (.iconst 0, 1) := dk_3 (dk_at dksX8_init_2 3 rfl rfl)
theorem dX8_init_50 : decode cX8_init 50 = .ok (.iload_n 3, 1) := dk_29 (dk_at dksX8_init_2 4 rfl rfl)
theorem dX8_init_51 : decode cX8_init 51 = .ok (.invokestatic 31, 3) := dk_184 0 31 (dk_at dksX8_init_2 5 rfl rfl)
theorem dX8_init_54 : decode cX8_init 54 = .ok (.aload_n 0, 1) := dk_42 (dk_at dksX8_init_2 8 rfl rfl)
theorem dX8_init_55 : decode cX8_init 55 = .ok (.aload_n 0, 1) := dk_42 (dk_at dksX8_init_2 9 rfl rfl)
theorem dX8_init_56 : decode cX8_init 56 = .ok (.getfield 18, 3) := dk_180 0 18 (dk_at dksX8_init_2 10 rfl rfl)
theorem dX8_init_59 : decode cX8_init 59 = .ok (.invokevirtual 37, 3) := dk_182 0 37 (dk_at dksX8_init_2 13 rfl rfl)
theorem dX8_init_62 : decode cX8_init 62 = .ok (.return_, 1) := dk_177 (dk_at dksX8_init_2 16 rfl rfl)
abbrev cX8_sorts : ByteArray := prog_8_method_2_code
def yX8_sorts : MethodName := ⟨RX8, "sorts", "([I)V"⟩
def dkwX8_sorts_2 : List UInt8 := [167, 255, 228, 43, 21, 4, 29, 79, 132, 2, 1, 167, 255, 202, 177]
abbrev dktX8_sorts_2 : List UInt8 := dkwX8_sorts_2 ++ []
def dkwX8_sorts_1 : List UInt8 := [21, 4, 4, 100, 46, 29, 164, 0, 19, 43, 21, 4, 43, 21, 4, 4, 100, 46, 79, 132, 4, 255]
abbrev dktX8_sorts_1 : List UInt8 := dkwX8_sorts_1 ++ dktX8_sorts_2
def dkwX8_sorts_0 : List UInt8 := [4, 61, 28, 42, 180, 0, 25, 162, 0, 52, 43, 28, 46, 62, 28, 54, 4, 21, 4, 158, 0, 29, 43]
abbrev dktX8_sorts_0 : List UInt8 := dkwX8_sorts_0 ++ dktX8_sorts_1
theorem dksX8_sorts_0 : cX8_sorts.data.toList.drop 0 = dktX8_sorts_0 := by decide +kernel
theorem dksX8_sorts_1 : cX8_sorts.data.toList.drop 23 = dktX8_sorts_1 := dk_seg dksX8_sorts_0 23 rfl rfl
theorem dksX8_sorts_2 : cX8_sorts.data.toList.drop 45 = dktX8_sorts_2 := dk_seg dksX8_sorts_1 22 rfl rfl
theorem dX8_sorts_0 : decode cX8_sorts 0 = .ok (.iconst 1, 1) := dk_4 (dk_at dksX8_sorts_0 0 rfl rfl)
theorem dX8_sorts_1 : decode cX8_sorts 1 = .ok (.istore_n 2, 1) := dk_61 (dk_at dksX8_sorts_0 1 rfl rfl)
theorem dX8_sorts_2 : decode cX8_sorts 2 = .ok (.iload_n 2, 1) := dk_28 (dk_at dksX8_sorts_0 2 rfl rfl)
theorem dX8_sorts_3 : decode cX8_sorts 3 = .ok (.aload_n 0, 1) := dk_42 (dk_at dksX8_sorts_0 3 rfl rfl)
theorem dX8_sorts_4 : decode cX8_sorts 4 = .ok (.getfield 25, 3) := dk_180 0 25 (dk_at dksX8_sorts_0 4 rfl rfl)
theorem dX8_sorts_7 : decode cX8_sorts 7 = .ok (.if_icmp .ge 52, 3) := dk_162 0 52 (dk_at dksX8_sorts_0 7 rfl rfl)
theorem dX8_sorts_10 : decode cX8_sorts 10 = .ok (.aload_n 1, 1) := dk_43 (dk_at dksX8_sorts_0 10 rfl rfl)
theorem dX8_sorts_11 : decode cX8_sorts 11 = .ok (.iload_n 2, 1) := dk_28 (dk_at dksX8_sorts_0 11 rfl rfl)
theorem dX8_sorts_12 : decode cX8_sorts 12 = .ok (.iaload, 1) := dk_46 (dk_at dksX8_sorts_0 12 rfl rfl)
theorem dX8_sorts_13 : decode cX8_sorts 13 = .ok (.istore_n 3, 1) := dk_62 (dk_at dksX8_sorts_0 13 rfl rfl)
theorem dX8_sorts_14 : decode cX8_sorts 14 = .ok (.iload_n 2, 1) := dk_28 (dk_at dksX8_sorts_0 14 rfl rfl)
theorem dX8_sorts_15 : decode cX8_sorts 15 = .ok (.istore 4, 2) := dk_54 4 (dk_at dksX8_sorts_0 15 rfl rfl)
theorem dX8_sorts_17 : decode cX8_sorts 17 = .ok (.iload 4, 2) := dk_21 4 (dk_at dksX8_sorts_0 17 rfl rfl)
theorem dX8_sorts_19 : decode cX8_sorts 19 = .ok (.ifCond .le 29, 3) := dk_158 0 29 (dk_at dksX8_sorts_0 19 rfl rfl)
theorem dX8_sorts_22 : decode cX8_sorts 22 = .ok (.aload_n 1, 1) := dk_43 (dk_at dksX8_sorts_0 22 rfl rfl)
theorem dX8_sorts_23 : decode cX8_sorts 23 = .ok (.iload 4, 2) := dk_21 4 (dk_at dksX8_sorts_1 0 rfl rfl)
theorem dX8_sorts_25 : decode cX8_sorts 25 = .ok (.iconst 1, 1) := dk_4 (dk_at dksX8_sorts_1 2 rfl rfl)
theorem dX8_sorts_26 : decode cX8_sorts 26 = .ok (.isub, 1) := dk_100 (dk_at dksX8_sorts_1 3 rfl rfl)
theorem dX8_sorts_27 : decode cX8_sorts 27 = .ok (.iaload, 1) := dk_46 (dk_at dksX8_sorts_1 4 rfl rfl)
theorem dX8_sorts_28 : decode cX8_sorts 28 = .ok (.iload_n 3, 1) := dk_29 (dk_at dksX8_sorts_1 5 rfl rfl)
theorem dX8_sorts_29 : decode cX8_sorts 29 = .ok (.if_icmp .le 19, 3) := dk_164 0 19 (dk_at dksX8_sorts_1 6 rfl rfl)
theorem dX8_sorts_32 : decode cX8_sorts 32 = .ok (.aload_n 1, 1) := dk_43 (dk_at dksX8_sorts_1 9 rfl rfl)
theorem dX8_sorts_33 : decode cX8_sorts 33 = .ok (.iload 4, 2) := dk_21 4 (dk_at dksX8_sorts_1 10 rfl rfl)
theorem dX8_sorts_35 : decode cX8_sorts 35 = .ok (.aload_n 1, 1) := dk_43 (dk_at dksX8_sorts_1 12 rfl rfl)
theorem dX8_sorts_36 : decode cX8_sorts 36 = .ok (.iload 4, 2) := dk_21 4 (dk_at dksX8_sorts_1 13 rfl rfl)
theorem dX8_sorts_38 : decode cX8_sorts 38 = .ok (.iconst 1, 1) := dk_4 (dk_at dksX8_sorts_1 15 rfl rfl)
theorem dX8_sorts_39 : decode cX8_sorts 39 = .ok (.isub, 1) := dk_100 (dk_at dksX8_sorts_1 16 rfl rfl)
theorem dX8_sorts_40 : decode cX8_sorts 40 = .ok (.iaload, 1) := dk_46 (dk_at dksX8_sorts_1 17 rfl rfl)
theorem dX8_sorts_41 : decode cX8_sorts 41 = .ok (.iastore, 1) := dk_79 (dk_at dksX8_sorts_1 18 rfl rfl)
theorem dX8_sorts_42 : decode cX8_sorts 42 = .ok (.iinc 4 (-1), 3) := dk_132 4 255 (dk_at dksX8_sorts_1 19 rfl rfl)
theorem dX8_sorts_45 : decode cX8_sorts 45 = .ok (.goto (-28), 3) := dk_167 255 228 (dk_at dksX8_sorts_2 0 rfl rfl)
theorem dX8_sorts_48 : decode cX8_sorts 48 = .ok (.aload_n 1, 1) := dk_43 (dk_at dksX8_sorts_2 3 rfl rfl)
theorem dX8_sorts_49 : decode cX8_sorts 49 = .ok (.iload 4, 2) := dk_21 4 (dk_at dksX8_sorts_2 4 rfl rfl)
theorem dX8_sorts_51 : decode cX8_sorts 51 = .ok (.iload_n 3, 1) := dk_29 (dk_at dksX8_sorts_2 6 rfl rfl)
theorem dX8_sorts_52 : decode cX8_sorts 52 = .ok (.iastore, 1) := dk_79 (dk_at dksX8_sorts_2 7 rfl rfl)
theorem dX8_sorts_53 : decode cX8_sorts 53 = .ok (.iinc 2 1, 3) := dk_132 2 1 (dk_at dksX8_sorts_2 8 rfl rfl)
theorem dX8_sorts_56 : decode cX8_sorts 56 = .ok (.goto (-54), 3) := dk_167 255 202 (dk_at dksX8_sorts_2 11 rfl rfl)
theorem dX8_sorts_59 : decode cX8_sorts 59 = .ok (.return_, 1) := dk_177 (dk_at dksX8_sorts_2 14 rfl rfl)
abbrev cX8_goes : ByteArray := prog_8_method_4_code
def yX8_goes : MethodName := ⟨RX8, "goes", "(IIZ)V"⟩
def dkwX8_goes_3 : List UInt8 := [182, 0, 48, 132, 4, 1, 167, 255, 198, 177]
abbrev dktX8_goes_3 : List UInt8 := dkwX8_goes_3 ++ []
def dkwX8_goes_2 : List UInt8 := [167, 0, 25, 42, 180, 0, 9, 27, 21, 4, 79, 42, 27, 4, 96, 28, 4, 21, 4, 120, 128, 29]
abbrev dktX8_goes_2 : List UInt8 := dkwX8_goes_2 ++ dktX8_goes_3
def dkwX8_goes_1 : List UInt8 := [162, 0, 55, 29, 154, 0, 10, 42, 180, 0, 41, 154, 0, 44, 28, 21, 4, 122, 4, 126, 4, 160, 0, 6]
abbrev dktX8_goes_1 : List UInt8 := dkwX8_goes_1 ++ dktX8_goes_2
def dkwX8_goes_0 : List UInt8 := [27, 42, 180, 0, 21, 160, 0, 8, 42, 182, 0, 45, 177, 3, 54, 4, 21, 4, 42, 180, 0, 21]
abbrev dktX8_goes_0 : List UInt8 := dkwX8_goes_0 ++ dktX8_goes_1
theorem dksX8_goes_0 : cX8_goes.data.toList.drop 0 = dktX8_goes_0 := by decide +kernel
theorem dksX8_goes_1 : cX8_goes.data.toList.drop 22 = dktX8_goes_1 := dk_seg dksX8_goes_0 22 rfl rfl
theorem dksX8_goes_2 : cX8_goes.data.toList.drop 46 = dktX8_goes_2 := dk_seg dksX8_goes_1 24 rfl rfl
theorem dksX8_goes_3 : cX8_goes.data.toList.drop 68 = dktX8_goes_3 := dk_seg dksX8_goes_2 22 rfl rfl
theorem dX8_goes_0 : decode cX8_goes 0 = .ok (.iload_n 1, 1) := dk_27 (dk_at dksX8_goes_0 0 rfl rfl)
theorem dX8_goes_1 : decode cX8_goes 1 = .ok (.aload_n 0, 1) := dk_42 (dk_at dksX8_goes_0 1 rfl rfl)
theorem dX8_goes_2 : decode cX8_goes 2 = .ok (.getfield 21, 3) := dk_180 0 21 (dk_at dksX8_goes_0 2 rfl rfl)
theorem dX8_goes_5 : decode cX8_goes 5 = .ok (.if_icmp .ne 8, 3) := dk_160 0 8 (dk_at dksX8_goes_0 5 rfl rfl)
theorem dX8_goes_8 : decode cX8_goes 8 = .ok (.aload_n 0, 1) := dk_42 (dk_at dksX8_goes_0 8 rfl rfl)
theorem dX8_goes_9 : decode cX8_goes 9 = .ok (.invokevirtual 45, 3) := dk_182 0 45 (dk_at dksX8_goes_0 9 rfl rfl)
theorem dX8_goes_12 : decode cX8_goes 12 = .ok (.return_, 1) := dk_177 (dk_at dksX8_goes_0 12 rfl rfl)
theorem dX8_goes_13 : decode cX8_goes 13 = .ok (.iconst 0, 1) := dk_3 (dk_at dksX8_goes_0 13 rfl rfl)
theorem dX8_goes_14 : decode cX8_goes 14 = .ok (.istore 4, 2) := dk_54 4 (dk_at dksX8_goes_0 14 rfl rfl)
theorem dX8_goes_16 : decode cX8_goes 16 = .ok (.iload 4, 2) := dk_21 4 (dk_at dksX8_goes_0 16 rfl rfl)
theorem dX8_goes_18 : decode cX8_goes 18 = .ok (.aload_n 0, 1) := dk_42 (dk_at dksX8_goes_0 18 rfl rfl)
theorem dX8_goes_19 : decode cX8_goes 19 = .ok (.getfield 21, 3) := dk_180 0 21 (dk_at dksX8_goes_0 19 rfl rfl)
theorem dX8_goes_22 : decode cX8_goes 22 = .ok (.if_icmp .ge 55, 3) := dk_162 0 55 (dk_at dksX8_goes_1 0 rfl rfl)
theorem dX8_goes_25 : decode cX8_goes 25 = .ok (.iload_n 3, 1) := dk_29 (dk_at dksX8_goes_1 3 rfl rfl)
theorem dX8_goes_26 : decode cX8_goes 26 = .ok (.ifCond .ne 10, 3) := dk_154 0 10 (dk_at dksX8_goes_1 4 rfl rfl)
theorem dX8_goes_29 : decode cX8_goes 29 = .ok (.aload_n 0, 1) := dk_42 (dk_at dksX8_goes_1 7 rfl rfl)
theorem dX8_goes_30 : decode cX8_goes 30 = .ok (.getfield 41, 3) := dk_180 0 41 (dk_at dksX8_goes_1 8 rfl rfl)
theorem dX8_goes_33 : decode cX8_goes 33 = .ok (.ifCond .ne 44, 3) := dk_154 0 44 (dk_at dksX8_goes_1 11 rfl rfl)
theorem dX8_goes_36 : decode cX8_goes 36 = .ok (.iload_n 2, 1) := dk_28 (dk_at dksX8_goes_1 14 rfl rfl)
theorem dX8_goes_37 : decode cX8_goes 37 = .ok (.iload 4, 2) := dk_21 4 (dk_at dksX8_goes_1 15 rfl rfl)
theorem dX8_goes_39 : decode cX8_goes 39 = .ok (.ishr, 1) := dk_122 (dk_at dksX8_goes_1 17 rfl rfl)
theorem dX8_goes_40 : decode cX8_goes 40 = .ok (.iconst 1, 1) := dk_4 (dk_at dksX8_goes_1 18 rfl rfl)
theorem dX8_goes_41 : decode cX8_goes 41 = .ok (.iand, 1) := dk_126 (dk_at dksX8_goes_1 19 rfl rfl)
theorem dX8_goes_42 : decode cX8_goes 42 = .ok (.iconst 1, 1) := dk_4 (dk_at dksX8_goes_1 20 rfl rfl)
theorem dX8_goes_43 : decode cX8_goes 43 = .ok (.if_icmp .ne 6, 3) := dk_160 0 6 (dk_at dksX8_goes_1 21 rfl rfl)
theorem dX8_goes_46 : decode cX8_goes 46 = .ok (.goto 25, 3) := dk_167 0 25 (dk_at dksX8_goes_2 0 rfl rfl)
theorem dX8_goes_49 : decode cX8_goes 49 = .ok (.aload_n 0, 1) := dk_42 (dk_at dksX8_goes_2 3 rfl rfl)
theorem dX8_goes_50 : decode cX8_goes 50 = .ok (.getfield 9, 3) := dk_180 0 9 (dk_at dksX8_goes_2 4 rfl rfl)
theorem dX8_goes_53 : decode cX8_goes 53 = .ok (.iload_n 1, 1) := dk_27 (dk_at dksX8_goes_2 7 rfl rfl)
theorem dX8_goes_54 : decode cX8_goes 54 = .ok (.iload 4, 2) := dk_21 4 (dk_at dksX8_goes_2 8 rfl rfl)
theorem dX8_goes_56 : decode cX8_goes 56 = .ok (.iastore, 1) := dk_79 (dk_at dksX8_goes_2 10 rfl rfl)
theorem dX8_goes_57 : decode cX8_goes 57 = .ok (.aload_n 0, 1) := dk_42 (dk_at dksX8_goes_2 11 rfl rfl)
theorem dX8_goes_58 : decode cX8_goes 58 = .ok (.iload_n 1, 1) := dk_27 (dk_at dksX8_goes_2 12 rfl rfl)
theorem dX8_goes_59 : decode cX8_goes 59 = .ok (.iconst 1, 1) := dk_4 (dk_at dksX8_goes_2 13 rfl rfl)
theorem dX8_goes_60 : decode cX8_goes 60 = .ok (.iadd, 1) := dk_96 (dk_at dksX8_goes_2 14 rfl rfl)
theorem dX8_goes_61 : decode cX8_goes 61 = .ok (.iload_n 2, 1) := dk_28 (dk_at dksX8_goes_2 15 rfl rfl)
theorem dX8_goes_62 : decode cX8_goes 62 = .ok (.iconst 1, 1) := dk_4 (dk_at dksX8_goes_2 16 rfl rfl)
theorem dX8_goes_63 : decode cX8_goes 63 = .ok (.iload 4, 2) := dk_21 4 (dk_at dksX8_goes_2 17 rfl rfl)
theorem dX8_goes_65 : decode cX8_goes 65 = .ok (.ishl, 1) := dk_120 (dk_at dksX8_goes_2 19 rfl rfl)
theorem dX8_goes_66 : decode cX8_goes 66 = .ok (.ior, 1) := dk_128 (dk_at dksX8_goes_2 20 rfl rfl)
theorem dX8_goes_67 : decode cX8_goes 67 = .ok (.iload_n 3, 1) := dk_29 (dk_at dksX8_goes_2 21 rfl rfl)
theorem dX8_goes_68 : decode cX8_goes 68 = .ok (.invokevirtual 48, 3) := dk_182 0 48 (dk_at dksX8_goes_3 0 rfl rfl)
theorem dX8_goes_71 : decode cX8_goes 71 = .ok (.iinc 4 1, 3) := dk_132 4 1 (dk_at dksX8_goes_3 3 rfl rfl)
theorem dX8_goes_74 : decode cX8_goes 74 = .ok (.goto (-58), 3) := dk_167 255 198 (dk_at dksX8_goes_3 6 rfl rfl)
theorem dX8_goes_77 : decode cX8_goes 77 = .ok (.return_, 1) := dk_177 (dk_at dksX8_goes_3 9 rfl rfl)
abbrev cX8_names : ByteArray := prog_8_method_3_code
def yX8_names : MethodName := ⟨RX8, "names", "()V"⟩
def dkwX8_names_6 : List UInt8 := [167, 255, 189, 177]
abbrev dktX8_names_6 : List UInt8 := dkwX8_names_6 ++ []
def dkwX8_names_5 : List UInt8 := [181, 0, 41, 42, 180, 0, 15, 3, 42, 180, 0, 18, 3, 42, 180, 0, 25, 184, 0, 31, 177, 132, 1, 1]
abbrev dktX8_names_5 : List UInt8 := dkwX8_names_5 ++ dktX8_names_6
def dkwX8_names_4 : List UInt8 := [46, 160, 0, 6, 167, 0, 41, 42, 180, 0, 15, 27, 46, 42, 180, 0, 18, 27, 46, 162, 0, 25, 42, 4]
abbrev dktX8_names_4 : List UInt8 := dkwX8_names_4 ++ dktX8_names_5
def dkwX8_names_3 : List UInt8 := [182, 0, 37, 3, 60, 27, 42, 180, 0, 25, 162, 0, 65, 42, 180, 0, 15, 27, 46, 42, 180, 0, 18, 27]
abbrev dktX8_names_3 : List UInt8 := dkwX8_names_3 ++ dktX8_names_4
def dkwX8_names_2 : List UInt8 := [132, 3, 1, 167, 255, 220, 42, 180, 0, 15, 27, 28, 79, 132, 1, 1, 167, 255, 195, 42, 42, 180, 0, 15]
abbrev dktX8_names_2 : List UInt8 := dkwX8_names_2 ++ dktX8_names_3
def dkwX8_names_1 : List UInt8 := [180, 0, 28, 27, 46, 29, 122, 4, 126, 4, 160, 0, 14, 28, 4, 42, 180, 0, 9, 29, 46, 120, 128, 61]
abbrev dktX8_names_1 : List UInt8 := dkwX8_names_1 ++ dktX8_names_2
def dkwX8_names_0 : List UInt8 := [3, 60, 27, 42, 180, 0, 25, 162, 0, 59, 3, 61, 3, 62, 29, 42, 180, 0, 21, 162, 0, 34, 42]
abbrev dktX8_names_0 : List UInt8 := dkwX8_names_0 ++ dktX8_names_1
theorem dksX8_names_0 : cX8_names.data.toList.drop 0 = dktX8_names_0 := by decide +kernel
theorem dksX8_names_1 : cX8_names.data.toList.drop 23 = dktX8_names_1 := dk_seg dksX8_names_0 23 rfl rfl
theorem dksX8_names_2 : cX8_names.data.toList.drop 47 = dktX8_names_2 := dk_seg dksX8_names_1 24 rfl rfl
theorem dksX8_names_3 : cX8_names.data.toList.drop 71 = dktX8_names_3 := dk_seg dksX8_names_2 24 rfl rfl
theorem dksX8_names_4 : cX8_names.data.toList.drop 95 = dktX8_names_4 := dk_seg dksX8_names_3 24 rfl rfl
theorem dksX8_names_5 : cX8_names.data.toList.drop 119 = dktX8_names_5 := dk_seg dksX8_names_4 24 rfl rfl
theorem dksX8_names_6 : cX8_names.data.toList.drop 143 = dktX8_names_6 := dk_seg dksX8_names_5 24 rfl rfl
theorem dX8_names_0 : decode cX8_names 0 = .ok (.iconst 0, 1) := dk_3 (dk_at dksX8_names_0 0 rfl rfl)
theorem dX8_names_1 : decode cX8_names 1 = .ok (.istore_n 1, 1) := dk_60 (dk_at dksX8_names_0 1 rfl rfl)
theorem dX8_names_2 : decode cX8_names 2 = .ok (.iload_n 1, 1) := dk_27 (dk_at dksX8_names_0 2 rfl rfl)
theorem dX8_names_3 : decode cX8_names 3 = .ok (.aload_n 0, 1) := dk_42 (dk_at dksX8_names_0 3 rfl rfl)
theorem dX8_names_4 : decode cX8_names 4 = .ok (.getfield 25, 3) := dk_180 0 25 (dk_at dksX8_names_0 4 rfl rfl)
theorem dX8_names_7 : decode cX8_names 7 = .ok (.if_icmp .ge 59, 3) := dk_162 0 59 (dk_at dksX8_names_0 7 rfl rfl)
theorem dX8_names_10 : decode cX8_names 10 = .ok (.iconst 0, 1) := dk_3 (dk_at dksX8_names_0 10 rfl rfl)
theorem dX8_names_11 : decode cX8_names 11 = .ok (.istore_n 2, 1) := dk_61 (dk_at dksX8_names_0 11 rfl rfl)
theorem dX8_names_12 : decode cX8_names 12 = .ok (.iconst 0, 1) := dk_3 (dk_at dksX8_names_0 12 rfl rfl)
theorem dX8_names_13 : decode cX8_names 13 = .ok (.istore_n 3, 1) := dk_62 (dk_at dksX8_names_0 13 rfl rfl)
theorem dX8_names_14 : decode cX8_names 14 = .ok (.iload_n 3, 1) := dk_29 (dk_at dksX8_names_0 14 rfl rfl)
theorem dX8_names_15 : decode cX8_names 15 = .ok (.aload_n 0, 1) := dk_42 (dk_at dksX8_names_0 15 rfl rfl)
theorem dX8_names_16 : decode cX8_names 16 = .ok (.getfield 21, 3) := dk_180 0 21 (dk_at dksX8_names_0 16 rfl rfl)
theorem dX8_names_19 : decode cX8_names 19 = .ok (.if_icmp .ge 34, 3) := dk_162 0 34 (dk_at dksX8_names_0 19 rfl rfl)
theorem dX8_names_22 : decode cX8_names 22 = .ok (.aload_n 0, 1) := dk_42 (dk_at dksX8_names_0 22 rfl rfl)
theorem dX8_names_23 : decode cX8_names 23 = .ok (.getfield 28, 3) := dk_180 0 28 (dk_at dksX8_names_1 0 rfl rfl)
theorem dX8_names_26 : decode cX8_names 26 = .ok (.iload_n 1, 1) := dk_27 (dk_at dksX8_names_1 3 rfl rfl)
theorem dX8_names_27 : decode cX8_names 27 = .ok (.iaload, 1) := dk_46 (dk_at dksX8_names_1 4 rfl rfl)
theorem dX8_names_28 : decode cX8_names 28 = .ok (.iload_n 3, 1) := dk_29 (dk_at dksX8_names_1 5 rfl rfl)
theorem dX8_names_29 : decode cX8_names 29 = .ok (.ishr, 1) := dk_122 (dk_at dksX8_names_1 6 rfl rfl)
theorem dX8_names_30 : decode cX8_names 30 = .ok (.iconst 1, 1) := dk_4 (dk_at dksX8_names_1 7 rfl rfl)
theorem dX8_names_31 : decode cX8_names 31 = .ok (.iand, 1) := dk_126 (dk_at dksX8_names_1 8 rfl rfl)
theorem dX8_names_32 : decode cX8_names 32 = .ok (.iconst 1, 1) := dk_4 (dk_at dksX8_names_1 9 rfl rfl)
theorem dX8_names_33 : decode cX8_names 33 = .ok (.if_icmp .ne 14, 3) := dk_160 0 14 (dk_at dksX8_names_1 10 rfl rfl)
theorem dX8_names_36 : decode cX8_names 36 = .ok (.iload_n 2, 1) := dk_28 (dk_at dksX8_names_1 13 rfl rfl)
theorem dX8_names_37 : decode cX8_names 37 = .ok (.iconst 1, 1) := dk_4 (dk_at dksX8_names_1 14 rfl rfl)
theorem dX8_names_38 : decode cX8_names 38 = .ok (.aload_n 0, 1) := dk_42 (dk_at dksX8_names_1 15 rfl rfl)
theorem dX8_names_39 : decode cX8_names 39 = .ok (.getfield 9, 3) := dk_180 0 9 (dk_at dksX8_names_1 16 rfl rfl)
theorem dX8_names_42 : decode cX8_names 42 = .ok (.iload_n 3, 1) := dk_29 (dk_at dksX8_names_1 19 rfl rfl)
theorem dX8_names_43 : decode cX8_names 43 = .ok (.iaload, 1) := dk_46 (dk_at dksX8_names_1 20 rfl rfl)
theorem dX8_names_44 : decode cX8_names 44 = .ok (.ishl, 1) := dk_120 (dk_at dksX8_names_1 21 rfl rfl)
theorem dX8_names_45 : decode cX8_names 45 = .ok (.ior, 1) := dk_128 (dk_at dksX8_names_1 22 rfl rfl)
theorem dX8_names_46 : decode cX8_names 46 = .ok (.istore_n 2, 1) := dk_61 (dk_at dksX8_names_1 23 rfl rfl)
theorem dX8_names_47 : decode cX8_names 47 = .ok (.iinc 3 1, 3) := dk_132 3 1 (dk_at dksX8_names_2 0 rfl rfl)
theorem dX8_names_50 : decode cX8_names 50 = .ok (.goto (-36), 3) := dk_167 255 220 (dk_at dksX8_names_2 3 rfl rfl)
theorem dX8_names_53 : decode cX8_names 53 = .ok (.aload_n 0, 1) := dk_42 (dk_at dksX8_names_2 6 rfl rfl)
theorem dX8_names_54 : decode cX8_names 54 = .ok (.getfield 15, 3) := dk_180 0 15 (dk_at dksX8_names_2 7 rfl rfl)
theorem dX8_names_57 : decode cX8_names 57 = .ok (.iload_n 1, 1) := dk_27 (dk_at dksX8_names_2 10 rfl rfl)
theorem dX8_names_58 : decode cX8_names 58 = .ok (.iload_n 2, 1) := dk_28 (dk_at dksX8_names_2 11 rfl rfl)
theorem dX8_names_59 : decode cX8_names 59 = .ok (.iastore, 1) := dk_79 (dk_at dksX8_names_2 12 rfl rfl)
theorem dX8_names_60 : decode cX8_names 60 = .ok (.iinc 1 1, 3) := dk_132 1 1 (dk_at dksX8_names_2 13 rfl rfl)
theorem dX8_names_63 : decode cX8_names 63 = .ok (.goto (-61), 3) := dk_167 255 195 (dk_at dksX8_names_2 16 rfl rfl)
theorem dX8_names_66 : decode cX8_names 66 = .ok (.aload_n 0, 1) := dk_42 (dk_at dksX8_names_2 19 rfl rfl)
theorem dX8_names_67 : decode cX8_names 67 = .ok (.aload_n 0, 1) := dk_42 (dk_at dksX8_names_2 20 rfl rfl)
theorem dX8_names_68 : decode cX8_names 68 = .ok (.getfield 15, 3) := dk_180 0 15 (dk_at dksX8_names_2 21 rfl rfl)
theorem dX8_names_71 : decode cX8_names 71 = .ok (.invokevirtual 37, 3) := dk_182 0 37 (dk_at dksX8_names_3 0 rfl rfl)
theorem dX8_names_74 : decode cX8_names 74 = .ok (.iconst 0, 1) := dk_3 (dk_at dksX8_names_3 3 rfl rfl)
theorem dX8_names_75 : decode cX8_names 75 = .ok (.istore_n 1, 1) := dk_60 (dk_at dksX8_names_3 4 rfl rfl)
theorem dX8_names_76 : decode cX8_names 76 = .ok (.iload_n 1, 1) := dk_27 (dk_at dksX8_names_3 5 rfl rfl)
theorem dX8_names_77 : decode cX8_names 77 = .ok (.aload_n 0, 1) := dk_42 (dk_at dksX8_names_3 6 rfl rfl)
theorem dX8_names_78 : decode cX8_names 78 = .ok (.getfield 25, 3) := dk_180 0 25 (dk_at dksX8_names_3 7 rfl rfl)
theorem dX8_names_81 : decode cX8_names 81 = .ok (.if_icmp .ge 65, 3) := dk_162 0 65 (dk_at dksX8_names_3 10 rfl rfl)
theorem dX8_names_84 : decode cX8_names 84 = .ok (.aload_n 0, 1) := dk_42 (dk_at dksX8_names_3 13 rfl rfl)
theorem dX8_names_85 : decode cX8_names 85 = .ok (.getfield 15, 3) := dk_180 0 15 (dk_at dksX8_names_3 14 rfl rfl)
theorem dX8_names_88 : decode cX8_names 88 = .ok (.iload_n 1, 1) := dk_27 (dk_at dksX8_names_3 17 rfl rfl)
theorem dX8_names_89 : decode cX8_names 89 = .ok (.iaload, 1) := dk_46 (dk_at dksX8_names_3 18 rfl rfl)
theorem dX8_names_90 : decode cX8_names 90 = .ok (.aload_n 0, 1) := dk_42 (dk_at dksX8_names_3 19 rfl rfl)
theorem dX8_names_91 : decode cX8_names 91 = .ok (.getfield 18, 3) := dk_180 0 18 (dk_at dksX8_names_3 20 rfl rfl)
theorem dX8_names_94 : decode cX8_names 94 = .ok (.iload_n 1, 1) := dk_27 (dk_at dksX8_names_3 23 rfl rfl)
theorem dX8_names_95 : decode cX8_names 95 = .ok (.iaload, 1) := dk_46 (dk_at dksX8_names_4 0 rfl rfl)
theorem dX8_names_96 : decode cX8_names 96 = .ok (.if_icmp .ne 6, 3) := dk_160 0 6 (dk_at dksX8_names_4 1 rfl rfl)
theorem dX8_names_99 : decode cX8_names 99 = .ok (.goto 41, 3) := dk_167 0 41 (dk_at dksX8_names_4 4 rfl rfl)
theorem dX8_names_102 : decode cX8_names 102 = .ok (.aload_n 0, 1) := dk_42 (dk_at dksX8_names_4 7 rfl rfl)
theorem dX8_names_103 : decode cX8_names 103 = .ok (.getfield 15, 3) := dk_180 0 15 (dk_at dksX8_names_4 8 rfl rfl)
theorem dX8_names_106 : decode cX8_names 106 = .ok (.iload_n 1, 1) := dk_27 (dk_at dksX8_names_4 11 rfl rfl)
theorem dX8_names_107 : decode cX8_names 107 = .ok (.iaload, 1) := dk_46 (dk_at dksX8_names_4 12 rfl rfl)
theorem dX8_names_108 : decode cX8_names 108 = .ok (.aload_n 0, 1) := dk_42 (dk_at dksX8_names_4 13 rfl rfl)
theorem dX8_names_109 : decode cX8_names 109 = .ok (.getfield 18, 3) := dk_180 0 18 (dk_at dksX8_names_4 14 rfl rfl)
theorem dX8_names_112 : decode cX8_names 112 = .ok (.iload_n 1, 1) := dk_27 (dk_at dksX8_names_4 17 rfl rfl)
theorem dX8_names_113 : decode cX8_names 113 = .ok (.iaload, 1) := dk_46 (dk_at dksX8_names_4 18 rfl rfl)
theorem dX8_names_114 : decode cX8_names 114 = .ok (.if_icmp .ge 25, 3) := dk_162 0 25 (dk_at dksX8_names_4 19 rfl rfl)
theorem dX8_names_117 : decode cX8_names 117 = .ok (.aload_n 0, 1) := dk_42 (dk_at dksX8_names_4 22 rfl rfl)
theorem dX8_names_118 : decode cX8_names 118 = .ok (.iconst 1, 1) := dk_4 (dk_at dksX8_names_4 23 rfl rfl)
theorem dX8_names_119 : decode cX8_names 119 = .ok (.putfield 41, 3) := dk_181 0 41 (dk_at dksX8_names_5 0 rfl rfl)
theorem dX8_names_122 : decode cX8_names 122 = .ok (.aload_n 0, 1) := dk_42 (dk_at dksX8_names_5 3 rfl rfl)
theorem dX8_names_123 : decode cX8_names 123 = .ok (.getfield 15, 3) := dk_180 0 15 (dk_at dksX8_names_5 4 rfl rfl)
theorem dX8_names_126 : decode cX8_names 126 = .ok (.iconst 0, 1) := dk_3 (dk_at dksX8_names_5 7 rfl rfl)
theorem dX8_names_127 : decode cX8_names 127 = .ok (.aload_n 0, 1) := dk_42 (dk_at dksX8_names_5 8 rfl rfl)
theorem dX8_names_128 : decode cX8_names 128 = .ok (.getfield 18, 3) := dk_180 0 18 (dk_at dksX8_names_5 9 rfl rfl)
theorem dX8_names_131 : decode cX8_names 131 = .ok (.iconst 0, 1) := dk_3 (dk_at dksX8_names_5 12 rfl rfl)
theorem dX8_names_132 : decode cX8_names 132 = .ok (.aload_n 0, 1) := dk_42 (dk_at dksX8_names_5 13 rfl rfl)
theorem dX8_names_133 : decode cX8_names 133 = .ok (.getfield 25, 3) := dk_180 0 25 (dk_at dksX8_names_5 14 rfl rfl)
theorem dX8_names_136 : decode cX8_names 136 = .ok (.invokestatic 31, 3) := dk_184 0 31 (dk_at dksX8_names_5 17 rfl rfl)
theorem dX8_names_139 : decode cX8_names 139 = .ok (.return_, 1) := dk_177 (dk_at dksX8_names_5 20 rfl rfl)
theorem dX8_names_140 : decode cX8_names 140 = .ok (.iinc 1 1, 3) := dk_132 1 1 (dk_at dksX8_names_5 21 rfl rfl)
theorem dX8_names_143 : decode cX8_names 143 = .ok (.goto (-67), 3) := dk_167 255 189 (dk_at dksX8_names_6 0 rfl rfl)
theorem dX8_names_146 : decode cX8_names 146 = .ok (.return_, 1) := dk_177 (dk_at dksX8_names_6 3 rfl rfl)
theorem q180 : (Jvm.Cond.initialized "SchemeLister$Rows") ∈ lw_all := lw_g (lw_at lw_m1 30 rfl) rfl
theorem q777 : (Jvm.Cond.selects "SchemeLister$Rows" ({ cls := "java/lang/Object", name := "getClass", desc := "()Ljava/lang/Class;" } : Jvm.MethodName) ({ cls := "java/lang/Object", name := "getClass", desc := "()Ljava/lang/Class;" } : Jvm.MethodName)) ∈ lw_all := lw_g (lw_at lw_m3 147 rfl) rfl
theorem q1444 : (Jvm.Cond.instantiable "SchemeLister$Rows" (7 : Nat)) ∈ lw_all := lw_g (lw_at lw_m6 94 rfl) rfl
theorem q1446 : (Jvm.Cond.instanceMethod ({ cls := "SchemeLister$Rows", name := "<init>", desc := "(I[II)V" } : Jvm.MethodName)) ∈ lw_all := lw_g (lw_at lw_m6 96 rfl) rfl
theorem q1447 : (Jvm.Cond.code ({ cls := "SchemeLister$Rows", name := "<init>", desc := "(I[II)V" } : Jvm.MethodName) prog_8_method_1_code (4 : Nat) (Option.none : Option Jvm.ClassFile.FieldType)) ∈ lw_all := lw_g (lw_at lw_m6 97 rfl) rfl
theorem q1448 : (Jvm.Cond.methodLink "SchemeLister$Rows" (3 : Nat) ({ cls := "java/lang/Object", name := "<init>", desc := "()V" } : Jvm.MethodName)) ∈ lw_all := lw_g (lw_at lw_m6 98 rfl) rfl
theorem q1449 : (Jvm.Cond.methodLink "SchemeLister$Rows" (31 : Nat) ({ cls := "java/lang/System", name := "arraycopy", desc := "(Ljava/lang/Object;ILjava/lang/Object;II)V" } : Jvm.MethodName)) ∈ lw_all := lw_g (lw_at lw_m6 99 rfl) rfl
theorem q1450 : (Jvm.Cond.methodLink "SchemeLister$Rows" (37 : Nat) ({ cls := "SchemeLister$Rows", name := "sorts", desc := "([I)V" } : Jvm.MethodName)) ∈ lw_all := lw_g (lw_at lw_m6 100 rfl) rfl
theorem q1451 : (Jvm.Cond.privateMethod ({ cls := "SchemeLister$Rows", name := "sorts", desc := "([I)V" } : Jvm.MethodName)) ∈ lw_tbl := lw_at lw_m6 101 rfl
theorem q1452 : (Jvm.Cond.instanceMethod ({ cls := "SchemeLister$Rows", name := "sorts", desc := "([I)V" } : Jvm.MethodName)) ∈ lw_all := lw_g (lw_at lw_m6 102 rfl) rfl
theorem q1453 : (Jvm.Cond.code ({ cls := "SchemeLister$Rows", name := "sorts", desc := "([I)V" } : Jvm.MethodName) prog_8_method_2_code (5 : Nat) (Option.none : Option Jvm.ClassFile.FieldType)) ∈ lw_all := lw_g (lw_at lw_m6 103 rfl) rfl
theorem q1454 : (Jvm.Cond.fieldLink "SchemeLister$Rows" (21 : Nat) "SchemeLister$Rows" "points" "I") ∈ lw_all := lw_g (lw_at lw_m6 104 rfl) rfl
theorem q1455 : (Jvm.Cond.fieldLink "SchemeLister$Rows" (25 : Nat) "SchemeLister$Rows" "lines" "I") ∈ lw_all := lw_g (lw_at lw_m6 105 rfl) rfl
theorem q1456 : (Jvm.Cond.fieldLink "SchemeLister$Rows" (28 : Nat) "SchemeLister$Rows" "line" "[I") ∈ lw_all := lw_g (lw_at lw_m6 106 rfl) rfl
theorem q1457 : (Jvm.Cond.fieldLink "SchemeLister$Rows" (9 : Nat) "SchemeLister$Rows" "to" "[I") ∈ lw_all := lw_g (lw_at lw_m6 107 rfl) rfl
theorem q1458 : (Jvm.Cond.fieldLink "SchemeLister$Rows" (15 : Nat) "SchemeLister$Rows" "row" "[I") ∈ lw_all := lw_g (lw_at lw_m6 108 rfl) rfl
theorem q1459 : (Jvm.Cond.fieldLink "SchemeLister$Rows" (18 : Nat) "SchemeLister$Rows" "least" "[I") ∈ lw_all := lw_g (lw_at lw_m6 109 rfl) rfl
theorem q1461 : (Jvm.Cond.fieldLink "SchemeLister$Rows" (41 : Nat) "SchemeLister$Rows" "isLess" "Z") ∈ lw_all := lw_g (lw_at lw_m6 111 rfl) rfl
theorem q1463 : (Jvm.Cond.laysFinal "SchemeLister$Rows" "SchemeLister$Rows" "points" "I") ∈ lw_all := lw_g (lw_at lw_m6 113 rfl) rfl
theorem q1464 : (Jvm.Cond.soleField "SchemeLister$Rows" "points") ∈ lw_all := lw_g (lw_at lw_m6 114 rfl) rfl
theorem q1465 : (Jvm.Cond.laysFinal "SchemeLister$Rows" "SchemeLister$Rows" "lines" "I") ∈ lw_all := lw_g (lw_at lw_m6 115 rfl) rfl
theorem q1466 : (Jvm.Cond.soleField "SchemeLister$Rows" "lines") ∈ lw_all := lw_g (lw_at lw_m6 116 rfl) rfl
theorem q1467 : (Jvm.Cond.laysFinal "SchemeLister$Rows" "SchemeLister$Rows" "line" "[I") ∈ lw_all := lw_g (lw_at lw_m6 117 rfl) rfl
theorem q1468 : (Jvm.Cond.soleField "SchemeLister$Rows" "line") ∈ lw_all := lw_g (lw_at lw_m6 118 rfl) rfl
theorem q1469 : (Jvm.Cond.laysFinal "SchemeLister$Rows" "SchemeLister$Rows" "to" "[I") ∈ lw_all := lw_g (lw_at lw_m6 119 rfl) rfl
theorem q1470 : (Jvm.Cond.soleField "SchemeLister$Rows" "to") ∈ lw_all := lw_g (lw_at lw_m6 120 rfl) rfl
theorem q1471 : (Jvm.Cond.laysFinal "SchemeLister$Rows" "SchemeLister$Rows" "row" "[I") ∈ lw_all := lw_g (lw_at lw_m6 121 rfl) rfl
theorem q1472 : (Jvm.Cond.soleField "SchemeLister$Rows" "row") ∈ lw_all := lw_g (lw_at lw_m6 122 rfl) rfl
theorem q1473 : (Jvm.Cond.laysFinal "SchemeLister$Rows" "SchemeLister$Rows" "least" "[I") ∈ lw_all := lw_g (lw_at lw_m6 123 rfl) rfl
theorem q1474 : (Jvm.Cond.soleField "SchemeLister$Rows" "least") ∈ lw_all := lw_g (lw_at lw_m6 124 rfl) rfl
theorem q1475 : (Jvm.Cond.lays "SchemeLister$Rows" "SchemeLister$Rows" "isLess" "Z") ∈ lw_all := lw_g (lw_at lw_m6 125 rfl) rfl
theorem q1476 : (Jvm.Cond.soleField "SchemeLister$Rows" "isLess") ∈ lw_all := lw_g (lw_at lw_m6 126 rfl) rfl
theorem q1477 : (Jvm.Cond.superclass "SchemeLister$Rows" "java/lang/Object") ∈ lw_all := lw_g (lw_at lw_m6 127 rfl) rfl
theorem q1479 : (Jvm.Cond.instanceMethod ({ cls := "SchemeLister$Rows", name := "goes", desc := "(IIZ)V" } : Jvm.MethodName)) ∈ lw_all := lw_g (lw_at lw_m6 129 rfl) rfl
theorem q1480 : (Jvm.Cond.selects "SchemeLister$Rows" ({ cls := "SchemeLister$Rows", name := "goes", desc := "(IIZ)V" } : Jvm.MethodName) ({ cls := "SchemeLister$Rows", name := "goes", desc := "(IIZ)V" } : Jvm.MethodName)) ∈ lw_all := lw_g (lw_at lw_m6 130 rfl) rfl
theorem q1481 : (Jvm.Cond.code ({ cls := "SchemeLister$Rows", name := "goes", desc := "(IIZ)V" } : Jvm.MethodName) prog_8_method_4_code (5 : Nat) (Option.none : Option Jvm.ClassFile.FieldType)) ∈ lw_all := lw_g (lw_at lw_m6 131 rfl) rfl
theorem q1482 : (Jvm.Cond.methodLink "SchemeLister$Rows" (45 : Nat) ({ cls := "SchemeLister$Rows", name := "names", desc := "()V" } : Jvm.MethodName)) ∈ lw_all := lw_g (lw_at lw_m6 132 rfl) rfl
theorem q1483 : (Jvm.Cond.privateMethod ({ cls := "SchemeLister$Rows", name := "names", desc := "()V" } : Jvm.MethodName)) ∈ lw_tbl := lw_at lw_m6 133 rfl
theorem q1484 : (Jvm.Cond.instanceMethod ({ cls := "SchemeLister$Rows", name := "names", desc := "()V" } : Jvm.MethodName)) ∈ lw_all := lw_g (lw_at lw_m6 134 rfl) rfl
theorem q1485 : (Jvm.Cond.code ({ cls := "SchemeLister$Rows", name := "names", desc := "()V" } : Jvm.MethodName) prog_8_method_3_code (4 : Nat) (Option.none : Option Jvm.ClassFile.FieldType)) ∈ lw_all := lw_g (lw_at lw_m6 135 rfl) rfl
theorem q1486 : (Jvm.Cond.methodLink "SchemeLister$Rows" (48 : Nat) ({ cls := "SchemeLister$Rows", name := "goes", desc := "(IIZ)V" } : Jvm.MethodName)) ∈ lw_all := lw_g (lw_at lw_m6 136 rfl) rfl
theorem q2333 : (Jvm.Cond.castable "SchemeLister$Rows" "java/lang/Object") ∈ lw_tbl := lw_at lw_m10 23 rfl
theorem in_X8 : ∀ w ∈ wsX80, w ∈ lw_all := lw_in wsX80 [1463, 1465, 1467, 1469, 1471, 1473, 1475] (by decide +kernel) (by decide +kernel)

/-! SchemeLister$NoDual -/
set_option maxRecDepth 100000
def RX9 : String := "SchemeLister$NoDual"
def TX9 : u_T := fun k => match k with
  | 0 => ("java/lang/Throwable", "cause", "Ljava/lang/Throwable;", false)
  | 1 => ("java/lang/Throwable", "stackTrace", "[Ljava/lang/StackTraceElement;", false)
  | 2 => ("java/lang/Throwable", "suppressedExceptions", "Ljava/util/List;", false)
  | 3 => ("java/lang/Throwable", "detailMessage", "Ljava/lang/String;", false)
  | 4 => ("java/lang/Throwable", "backtrace", "Ljava/lang/Object;", false)
  | _ => ("java/lang/Throwable", "depth", "I", false)
def tyX9 : Nat → FieldType := fun k => match k with
  | 0 => .object "java/lang/Throwable"
  | 1 => .array (.object "java/lang/StackTraceElement")
  | 2 => .object "java/util/List"
  | 3 => .object "java/lang/String"
  | 4 => .object "java/lang/Object"
  | _ => .int
abbrev wsX90 : List Cond := u_ws RX9 TX9 6
theorem nmX9 : ∀ a, a < 6 → ∀ b, b < 6 → a ≠ b → (TX9 a).2.1 ≠ (TX9 b).2.1 := by decide +kernel
theorem tyX9_ok : ∀ k, k < 6 → parseFieldDescriptor (TX9 k).2.2.1 = some (tyX9 k) := by decide +kernel
abbrev cX9_init : ByteArray := prog_6_method_1_code
def yX9_init : MethodName := ⟨RX9, "<init>", "(Ljava/lang/String;)V"⟩
def dkwX9_init_0 : List UInt8 := [42, 43, 183, 0, 1, 177]
abbrev dktX9_init_0 : List UInt8 := dkwX9_init_0 ++ []
theorem dksX9_init_0 : cX9_init.data.toList.drop 0 = dktX9_init_0 := by decide +kernel
theorem dX9_init_0 : decode cX9_init 0 = .ok (.aload_n 0, 1) := dk_42 (dk_at dksX9_init_0 0 rfl rfl)
theorem dX9_init_1 : decode cX9_init 1 = .ok (.aload_n 1, 1) := dk_43 (dk_at dksX9_init_0 1 rfl rfl)
theorem dX9_init_2 : decode cX9_init 2 = .ok (.invokespecial 1, 3) := dk_183 0 1 (dk_at dksX9_init_0 2 rfl rfl)
theorem dX9_init_5 : decode cX9_init 5 = .ok (.return_, 1) := dk_177 (dk_at dksX9_init_0 5 rfl rfl)
theorem q181 : (Jvm.Cond.initialized "SchemeLister$NoDual") ∈ lw_all := lw_g (lw_at lw_m1 31 rfl) rfl
theorem q295 : (Jvm.Cond.selects "SchemeLister$NoDual" ({ cls := "java/lang/Throwable", name := "fillInStackTrace", desc := "()Ljava/lang/Throwable;" } : Jvm.MethodName) ({ cls := "java/lang/Throwable", name := "fillInStackTrace", desc := "()Ljava/lang/Throwable;" } : Jvm.MethodName)) ∈ lw_all := lw_g (lw_at lw_m1 145 rfl) rfl
theorem q775 : (Jvm.Cond.selects "SchemeLister$NoDual" ({ cls := "java/lang/Object", name := "getClass", desc := "()Ljava/lang/Class;" } : Jvm.MethodName) ({ cls := "java/lang/Object", name := "getClass", desc := "()Ljava/lang/Class;" } : Jvm.MethodName)) ∈ lw_all := lw_g (lw_at lw_m3 145 rfl) rfl
theorem q836 : (Jvm.Cond.instantiable "SchemeLister$NoDual" (6 : Nat)) ∈ lw_all := lw_g (lw_at lw_m3 206 rfl) rfl
theorem q837 : (Jvm.Cond.castable "SchemeLister$NoDual" "SchemeLister$NoDual") ∈ lw_tbl := lw_at lw_m3 207 rfl
theorem q838 : (Jvm.Cond.selects "SchemeLister$NoDual" ({ cls := "java/lang/Throwable", name := "fillInStackTrace", desc := "(I)Ljava/lang/Throwable;" } : Jvm.MethodName) ({ cls := "java/lang/Throwable", name := "fillInStackTrace", desc := "(I)Ljava/lang/Throwable;" } : Jvm.MethodName)) ∈ lw_all := lw_g (lw_at lw_m3 208 rfl) rfl
theorem q839 : (Jvm.Cond.lays "SchemeLister$NoDual" "java/lang/Throwable" "cause" "Ljava/lang/Throwable;") ∈ lw_all := lw_g (lw_at lw_m3 209 rfl) rfl
theorem q840 : (Jvm.Cond.lays "SchemeLister$NoDual" "java/lang/Throwable" "stackTrace" "[Ljava/lang/StackTraceElement;") ∈ lw_all := lw_g (lw_at lw_m3 210 rfl) rfl
theorem q841 : (Jvm.Cond.lays "SchemeLister$NoDual" "java/lang/Throwable" "suppressedExceptions" "Ljava/util/List;") ∈ lw_all := lw_g (lw_at lw_m3 211 rfl) rfl
theorem q842 : (Jvm.Cond.lays "SchemeLister$NoDual" "java/lang/Throwable" "detailMessage" "Ljava/lang/String;") ∈ lw_all := lw_g (lw_at lw_m3 212 rfl) rfl
theorem q843 : (Jvm.Cond.lays "SchemeLister$NoDual" "java/lang/Throwable" "backtrace" "Ljava/lang/Object;") ∈ lw_all := lw_g (lw_at lw_m3 213 rfl) rfl
theorem q846 : (Jvm.Cond.instanceMethod ({ cls := "SchemeLister$NoDual", name := "<init>", desc := "(Ljava/lang/String;)V" } : Jvm.MethodName)) ∈ lw_all := lw_g (lw_at lw_m3 216 rfl) rfl
theorem q847 : (Jvm.Cond.code ({ cls := "SchemeLister$NoDual", name := "<init>", desc := "(Ljava/lang/String;)V" } : Jvm.MethodName) prog_6_method_1_code (2 : Nat) (Option.none : Option Jvm.ClassFile.FieldType)) ∈ lw_all := lw_g (lw_at lw_m3 217 rfl) rfl
theorem q848 : (Jvm.Cond.methodLink "SchemeLister$NoDual" (1 : Nat) ({ cls := "java/lang/Exception", name := "<init>", desc := "(Ljava/lang/String;)V" } : Jvm.MethodName)) ∈ lw_all := lw_g (lw_at lw_m3 218 rfl) rfl
theorem q849 : (Jvm.Cond.lays "SchemeLister$NoDual" "java/lang/Throwable" "depth" "I") ∈ lw_all := lw_g (lw_at lw_m3 219 rfl) rfl
theorem q850 : (Jvm.Cond.superclass "SchemeLister$NoDual" "java/lang/Exception") ∈ lw_all := lw_g (lw_at lw_m3 220 rfl) rfl
theorem q2334 : (Jvm.Cond.castable "SchemeLister$NoDual" "java/lang/Object") ∈ lw_tbl := lw_at lw_m10 24 rfl
theorem in_X9 : ∀ w ∈ wsX90, w ∈ lw_all := lw_in wsX90 [839, 840, 841, 842, 843, 849] (by decide +kernel) (by decide +kernel)

/-! SchemeLister$Done -/
set_option maxRecDepth 100000
def RX10 : String := "SchemeLister$Done"
def TX10 : u_T := fun k => match k with
  | _ => ("SchemeLister$Done", "back", "LSchemeLister$Back;", true)
def tyX10 : Nat → FieldType := fun k => match k with
  | _ => .object "SchemeLister$Back"
abbrev wsX100 : List Cond := u_ws RX10 TX10 1
theorem nmX10 : ∀ a, a < 1 → ∀ b, b < 1 → a ≠ b → (TX10 a).2.1 ≠ (TX10 b).2.1 := by decide +kernel
theorem tyX10_ok : ∀ k, k < 1 → parseFieldDescriptor (TX10 k).2.2.1 = some (tyX10 k) := by decide +kernel
abbrev cX10_init : ByteArray := prog_3_method_1_code
def yX10_init : MethodName := ⟨RX10, "<init>", "(LSchemeLister$Back;)V"⟩
def dkwX10_init_0 : List UInt8 := [42, 183, 0, 1, 42, 43, 181, 0, 7, 177]
abbrev dktX10_init_0 : List UInt8 := dkwX10_init_0 ++ []
theorem dksX10_init_0 : cX10_init.data.toList.drop 0 = dktX10_init_0 := by decide +kernel
theorem dX10_init_0 : decode cX10_init 0 = .ok (.aload_n 0, 1) := dk_42 (dk_at dksX10_init_0 0 rfl rfl)
theorem dX10_init_1 : decode cX10_init 1 = .ok (.invokespecial 1, 3) := dk_183 0 1 (dk_at dksX10_init_0 1 rfl rfl)
theorem dX10_init_4 : decode cX10_init 4 = .ok (.aload_n 0, 1) := dk_42 (dk_at dksX10_init_0 4 rfl rfl)
theorem dX10_init_5 : decode cX10_init 5 = .ok (.aload_n 1, 1) := dk_43 (dk_at dksX10_init_0 5 rfl rfl)
theorem dX10_init_6 : decode cX10_init 6 = .ok (.putfield 7, 3) := dk_181 0 7 (dk_at dksX10_init_0 6 rfl rfl)
theorem dX10_init_9 : decode cX10_init 9 = .ok (.return_, 1) := dk_177 (dk_at dksX10_init_0 9 rfl rfl)
theorem q183 : (Jvm.Cond.initialized "SchemeLister$Done") ∈ lw_all := lw_g (lw_at lw_m1 33 rfl) rfl
theorem q739 : (Jvm.Cond.instantiable "SchemeLister$Done" (1 : Nat)) ∈ lw_all := lw_g (lw_at lw_m3 109 rfl) rfl
theorem q741 : (Jvm.Cond.instanceMethod ({ cls := "SchemeLister$Done", name := "<init>", desc := "(LSchemeLister$Back;)V" } : Jvm.MethodName)) ∈ lw_all := lw_g (lw_at lw_m3 111 rfl) rfl
theorem q742 : (Jvm.Cond.code ({ cls := "SchemeLister$Done", name := "<init>", desc := "(LSchemeLister$Back;)V" } : Jvm.MethodName) prog_3_method_1_code (2 : Nat) (Option.none : Option Jvm.ClassFile.FieldType)) ∈ lw_all := lw_g (lw_at lw_m3 112 rfl) rfl
theorem q743 : (Jvm.Cond.methodLink "SchemeLister$Done" (1 : Nat) ({ cls := "java/lang/Object", name := "<init>", desc := "()V" } : Jvm.MethodName)) ∈ lw_all := lw_g (lw_at lw_m3 113 rfl) rfl
theorem q744 : (Jvm.Cond.fieldLink "SchemeLister$Done" (7 : Nat) "SchemeLister$Done" "back" "LSchemeLister$Back;") ∈ lw_all := lw_g (lw_at lw_m3 114 rfl) rfl
theorem q746 : (Jvm.Cond.laysFinal "SchemeLister$Done" "SchemeLister$Done" "back" "LSchemeLister$Back;") ∈ lw_all := lw_g (lw_at lw_m3 116 rfl) rfl
theorem q747 : (Jvm.Cond.soleField "SchemeLister$Done" "back") ∈ lw_all := lw_g (lw_at lw_m3 117 rfl) rfl
theorem q748 : (Jvm.Cond.superclass "SchemeLister$Done" "java/lang/Object") ∈ lw_all := lw_g (lw_at lw_m3 118 rfl) rfl
theorem q773 : (Jvm.Cond.selects "SchemeLister$Done" ({ cls := "java/lang/Object", name := "getClass", desc := "()Ljava/lang/Class;" } : Jvm.MethodName) ({ cls := "java/lang/Object", name := "getClass", desc := "()Ljava/lang/Class;" } : Jvm.MethodName)) ∈ lw_all := lw_g (lw_at lw_m3 143 rfl) rfl
theorem q2335 : (Jvm.Cond.castable "SchemeLister$Done" "java/lang/Object") ∈ lw_tbl := lw_at lw_m10 25 rfl
theorem in_X10 : ∀ w ∈ wsX100, w ∈ lw_all := lw_in wsX100 [746] (by decide +kernel) (by decide +kernel)

theorem q913 : (Jvm.Cond.interfaceMethod "SchemeLister$Back" "SchemeLister$Back" "goes" "()V") ∈ lw_tbl := lw_at lw_m4 43 rfl
set_option maxRecDepth 100000
theorem q914 : (Jvm.Cond.declares ({ cls := "SchemeLister$Back", name := "goes", desc := "()V" } : Jvm.MethodName)) ∈ lw_tbl := lw_at lw_m4 44 rfl

theorem q1557 : (Jvm.Cond.interfaceMethod "SchemeLister$Line" "SchemeLister$Line" "is" "(III)Z") ∈ lw_tbl := lw_at lw_m6 207 rfl
set_option maxRecDepth 100000
theorem q1558 : (Jvm.Cond.declares ({ cls := "SchemeLister$Line", name := "is", desc := "(III)Z" } : Jvm.MethodName)) ∈ lw_tbl := lw_at lw_m6 208 rfl

theorem q175 : (Jvm.Cond.initialized "SchemeLister$Sort") ∈ lw_all := lw_g (lw_at lw_m1 25 rfl) rfl
set_option maxRecDepth 100000
theorem q780 : (Jvm.Cond.selects "SchemeLister$Sort" ({ cls := "java/lang/Object", name := "getClass", desc := "()Ljava/lang/Class;" } : Jvm.MethodName) ({ cls := "java/lang/Object", name := "getClass", desc := "()Ljava/lang/Class;" } : Jvm.MethodName)) ∈ lw_all := lw_g (lw_at lw_m3 150 rfl) rfl
theorem q980 : (Jvm.Cond.laysStatic "SchemeLister$Sort" "END" "LSchemeLister$Sort;") ∈ lw_tbl := lw_at lw_m4 110 rfl
theorem q1011 : (Jvm.Cond.laysStatic "SchemeLister$Sort" "WORD" "LSchemeLister$Sort;") ∈ lw_tbl := lw_at lw_m4 141 rfl
theorem q1016 : (Jvm.Cond.laysStatic "SchemeLister$Sort" "NUMBER" "LSchemeLister$Sort;") ∈ lw_tbl := lw_at lw_m4 146 rfl
theorem q1018 : (Jvm.Cond.laysStatic "SchemeLister$Sort" "SIGN" "LSchemeLister$Sort;") ∈ lw_tbl := lw_at lw_m4 148 rfl
theorem q1020 : (Jvm.Cond.laysStatic "SchemeLister$Sort" "BAD" "LSchemeLister$Sort;") ∈ lw_tbl := lw_at lw_m4 150 rfl
theorem q2327 : (Jvm.Cond.castable "SchemeLister$Sort" "java/lang/Object") ∈ lw_tbl := lw_at lw_m10 17 rfl

theorem q1306 : (Jvm.Cond.interfaceMethod "SchemeLister$Way" "SchemeLister$Way" "goes" "([I)Z") ∈ lw_tbl := lw_at lw_m5 196 rfl
set_option maxRecDepth 100000
theorem q1307 : (Jvm.Cond.declares ({ cls := "SchemeLister$Way", name := "goes", desc := "([I)Z" } : Jvm.MethodName)) ∈ lw_tbl := lw_at lw_m5 197 rfl

theorem q370 : (Jvm.Cond.sameMethod "[B" "java/lang/Object" "clone" "()Ljava/lang/Object;") ∈ lw_all := lw_g (lw_at lw_m1 220 rfl) rfl
set_option maxRecDepth 100000
theorem q373 : (Jvm.Cond.selects "[B" ({ cls := "[B", name := "clone", desc := "()Ljava/lang/Object;" } : Jvm.MethodName) ({ cls := "java/lang/Object", name := "clone", desc := "()Ljava/lang/Object;" } : Jvm.MethodName)) ∈ lw_all := lw_g (lw_at lw_m1 223 rfl) rfl
theorem q374 : (Jvm.Cond.castable "[B" "java/lang/Cloneable") ∈ lw_tbl := lw_at lw_m1 224 rfl
theorem q2343 : (Jvm.Cond.castable "[B" "java/lang/Object") ∈ lw_tbl := lw_at lw_m10 33 rfl

theorem q2340 : (Jvm.Cond.castable "[I" "java/lang/Object") ∈ lw_tbl := lw_at lw_m10 30 rfl
set_option maxRecDepth 100000

theorem q2344 : (Jvm.Cond.castable "[J" "java/lang/Object") ∈ lw_tbl := lw_at lw_m10 34 rfl
set_option maxRecDepth 100000

theorem q2341 : (Jvm.Cond.castable "[LSchemeLister$Scheme;" "java/lang/Object") ∈ lw_tbl := lw_at lw_m10 31 rfl
set_option maxRecDepth 100000

theorem q2337 : (Jvm.Cond.sameMethod "[Ljava/lang/Object;" "java/lang/Object" "getClass" "()Ljava/lang/Class;") ∈ lw_all := lw_g (lw_at lw_m10 27 rfl) rfl
set_option maxRecDepth 100000
theorem q2338 : (Jvm.Cond.selects "[Ljava/lang/Object;" ({ cls := "java/lang/Object", name := "getClass", desc := "()Ljava/lang/Class;" } : Jvm.MethodName) ({ cls := "java/lang/Object", name := "getClass", desc := "()Ljava/lang/Class;" } : Jvm.MethodName)) ∈ lw_all := lw_g (lw_at lw_m10 28 rfl) rfl
theorem q2342 : (Jvm.Cond.castable "[Ljava/lang/Object;" "java/lang/Object") ∈ lw_tbl := lw_at lw_m10 32 rfl

theorem q174 : (Jvm.Cond.initialized "java/lang/Enum") ∈ lw_all := lw_g (lw_at lw_m1 24 rfl) rfl
set_option maxRecDepth 100000

theorem q170 : (Jvm.Cond.initialized "java/lang/Number") ∈ lw_all := lw_g (lw_at lw_m1 20 rfl) rfl
set_option maxRecDepth 100000

theorem q167 : (Jvm.Cond.initialized "java/lang/System") ∈ lw_all := lw_g (lw_at lw_m1 17 rfl) rfl
set_option maxRecDepth 100000
theorem q380 : (Jvm.Cond.static ({ cls := "java/lang/System", name := "arraycopy", desc := "(Ljava/lang/Object;ILjava/lang/Object;II)V" } : Jvm.MethodName)) ∈ lw_all := lw_g (lw_at lw_m1 230 rfl) rfl
theorem q381 : (Jvm.Cond.native ({ cls := "java/lang/System", name := "arraycopy", desc := "(Ljava/lang/Object;ILjava/lang/Object;II)V" } : Jvm.MethodName)) ∈ lw_all := lw_g (lw_at lw_m1 231 rfl) rfl

theorem q1109 : (Jvm.Cond.interfaceMethod "jdk/internal/access/JavaLangAccess" "jdk/internal/access/JavaLangAccess" "getUTF16Char" "([BI)C") ∈ lw_tbl := lw_at lw_m4 239 rfl
set_option maxRecDepth 100000
theorem q1110 : (Jvm.Cond.declares ({ cls := "jdk/internal/access/JavaLangAccess", name := "getUTF16Char", desc := "([BI)C" } : Jvm.MethodName)) ∈ lw_tbl := lw_at lw_m5 0 rfl

theorem q252 : (Jvm.Cond.arrayClass Jvm.ClassFile.FieldType.int) ∈ lw_all := lw_g (lw_at lw_m1 102 rfl) rfl
set_option maxRecDepth 100000
theorem q253 : (Jvm.Cond.arrayOver (Jvm.ClassFile.FieldType.object "SchemeLister$Scheme")) ∈ lw_tbl := lw_at lw_m1 103 rfl
theorem q258 : (Jvm.Cond.arrayOver (Jvm.ClassFile.FieldType.object "java/lang/Object")) ∈ lw_tbl := lw_at lw_m1 108 rfl
theorem q334 : (Jvm.Cond.arrayClass Jvm.ClassFile.FieldType.byte) ∈ lw_all := lw_g (lw_at lw_m1 184 rfl) rfl
theorem q2307 : (Jvm.Cond.arrayClass Jvm.ClassFile.FieldType.long) ∈ lw_all := lw_g (lw_at lw_m9 237 rfl) rfl
theorem q2345 : (Jvm.Cond.arrayClass Jvm.ClassFile.FieldType.char) ∈ lw_all := lw_g (lw_at lw_m10 35 rfl) rfl
theorem q2346 : (Jvm.Cond.arrayClass Jvm.ClassFile.FieldType.short) ∈ lw_all := lw_g (lw_at lw_m10 36 rfl) rfl
