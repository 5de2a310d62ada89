/-! decode rows of the reachable methods, as the claim's names print them -/
set_option maxRecDepth 100000
abbrev cX0_about : ByteArray := prog_1_method_69_code
def dkwX0_about_6 : List UInt8 := [42, 180, 1, 137, 172, 2, 172]
abbrev dktX0_about_6 : List UInt8 := dkwX0_about_6 ++ []
def dkwX0_about_5 : List UInt8 := [182, 0, 181, 172, 42, 180, 0, 151, 172, 42, 180, 1, 102, 172, 42, 180, 1, 6, 172, 42, 180, 0, 125, 172]
abbrev dktX0_about_5 : List UInt8 := dkwX0_about_5 ++ dktX0_about_6
def dkwX0_about_4 : List UInt8 := [180, 0, 52, 180, 1, 42, 182, 0, 181, 172, 42, 180, 0, 52, 180, 1, 169, 172, 42, 180, 0, 67]
abbrev dktX0_about_4 : List UInt8 := dkwX0_about_4 ++ dktX0_about_5
def dkwX0_about_3 : List UInt8 := [42, 180, 0, 52, 180, 0, 178, 182, 0, 181, 172, 42, 180, 0, 52, 180, 0, 201, 182, 0, 181, 172, 42]
abbrev dktX0_about_3 : List UInt8 := dkwX0_about_3 ++ dktX0_about_4
def dkwX0_about_2 : List UInt8 := [170, 0, 0, 0, 0, 128, 0, 0, 0, 0, 0, 0, 0, 9, 0, 0, 0, 54, 0, 0, 0, 65, 0, 0, 0, 76, 0, 0, 0, 87, 0, 0, 0, 95, 0, 0, 0, 103, 0, 0, 0, 108, 0, 0, 0, 113, 0, 0, 0, 118, 0, 0, 0, 123]
abbrev dktX0_about_2 : List UInt8 := dkwX0_about_2 ++ dktX0_about_3
def dkwX0_about_1 : List UInt8 := [172, 27]
abbrev dktX0_about_1 : List UInt8 := dkwX0_about_1 ++ dktX0_about_2
def dkwX0_about_0 : List UInt8 := [27, 16, 10, 161, 0, 22, 27, 16, 13, 162, 0, 16, 42, 180, 0, 58, 27, 16, 10, 100, 50, 180, 0, 175]
abbrev dktX0_about_0 : List UInt8 := dkwX0_about_0 ++ dktX0_about_1
theorem dksX0_about_0 : cX0_about.data.toList.drop 0 = dktX0_about_0 := by decide +kernel
theorem dksX0_about_1 : cX0_about.data.toList.drop 24 = dktX0_about_1 := dk_seg dksX0_about_0 24 rfl rfl
theorem dksX0_about_2 : cX0_about.data.toList.drop 26 = dktX0_about_2 := dk_seg dksX0_about_1 2 rfl rfl
theorem dksX0_about_3 : cX0_about.data.toList.drop 80 = dktX0_about_3 := dk_seg dksX0_about_2 54 rfl rfl
theorem dksX0_about_4 : cX0_about.data.toList.drop 103 = dktX0_about_4 := dk_seg dksX0_about_3 23 rfl rfl
theorem dksX0_about_5 : cX0_about.data.toList.drop 125 = dktX0_about_5 := dk_seg dksX0_about_4 22 rfl rfl
theorem dksX0_about_6 : cX0_about.data.toList.drop 149 = dktX0_about_6 := dk_seg dksX0_about_5 24 rfl rfl
theorem dX0_about_0 : decode cX0_about 0 = .ok (.iload_n 1, 1) := dk_27 (dk_at dksX0_about_0 0 rfl rfl)
theorem dX0_about_1 : decode cX0_about 1 = .ok (.bipush 10, 2) := dk_16 10 (dk_at dksX0_about_0 1 rfl rfl)
theorem dX0_about_3 : decode cX0_about 3 = .ok (.if_icmp .lt 22, 3) := dk_161 0 22 (dk_at dksX0_about_0 3 rfl rfl)
theorem dX0_about_6 : decode cX0_about 6 = .ok (.iload_n 1, 1) := dk_27 (dk_at dksX0_about_0 6 rfl rfl)
theorem dX0_about_7 : decode cX0_about 7 = .ok (.bipush 13, 2) := dk_16 13 (dk_at dksX0_about_0 7 rfl rfl)
theorem dX0_about_9 : decode cX0_about 9 = .ok (.if_icmp .ge 16, 3) := dk_162 0 16 (dk_at dksX0_about_0 9 rfl rfl)
theorem dX0_about_12 : decode cX0_about 12 = .ok (.aload_n 0, 1) := dk_42 (dk_at dksX0_about_0 12 rfl rfl)
theorem dX0_about_13 : decode cX0_about 13 = .ok (.getfield 58, 3) := dk_180 0 58 (dk_at dksX0_about_0 13 rfl rfl)
theorem dX0_about_16 : decode cX0_about 16 = .ok (.iload_n 1, 1) := dk_27 (dk_at dksX0_about_0 16 rfl rfl)
theorem dX0_about_17 : decode cX0_about 17 = .ok (.bipush 10, 2) := dk_16 10 (dk_at dksX0_about_0 17 rfl rfl)
theorem dX0_about_19 : decode cX0_about 19 = .ok (.isub, 1) := dk_100 (dk_at dksX0_about_0 19 rfl rfl)
theorem dX0_about_20 : decode cX0_about 20 = .ok (.aaload, 1) := dk_50 (dk_at dksX0_about_0 20 rfl rfl)
theorem dX0_about_21 : decode cX0_about 21 = .ok (.getfield 175, 3) := dk_180 0 175 (dk_at dksX0_about_0 21 rfl rfl)
theorem dX0_about_24 : decode cX0_about 24 = .ok (.ireturn, 1) := dk_172 (dk_at dksX0_about_1 0 rfl rfl)
theorem dX0_about_25 : decode cX0_about 25 = .ok (.iload_n 1, 1) := dk_27 (dk_at dksX0_about_1 1 rfl rfl)
theorem dX0_about_26 : decode cX0_about 26 = .ok (.tableswitch 128 0 9 #[54, 65, 76, 87, 95, 103, 108, 113, 118, 123], 54) := by decide +kernel
theorem dX0_about_80 : decode cX0_about 80 = .ok (.aload_n 0, 1) := dk_42 (dk_at dksX0_about_3 0 rfl rfl)
theorem dX0_about_81 : decode cX0_about 81 = .ok (.getfield 52, 3) := dk_180 0 52 (dk_at dksX0_about_3 1 rfl rfl)
theorem dX0_about_84 : decode cX0_about 84 = .ok (.getfield 178, 3) := dk_180 0 178 (dk_at dksX0_about_3 4 rfl rfl)
theorem dX0_about_87 : decode cX0_about 87 = .ok (.invokevirtual 181, 3) := dk_182 0 181 (dk_at dksX0_about_3 7 rfl rfl)
theorem dX0_about_90 : decode cX0_about 90 = .ok (.ireturn, 1) := dk_172 (dk_at dksX0_about_3 10 rfl rfl)
theorem dX0_about_91 : decode cX0_about 91 = .ok (.aload_n 0, 1) := dk_42 (dk_at dksX0_about_3 11 rfl rfl)
theorem dX0_about_92 : decode cX0_about 92 = .ok (.getfield 52, 3) := dk_180 0 52 (dk_at dksX0_about_3 12 rfl rfl)
theorem dX0_about_95 : decode cX0_about 95 = .ok (.getfield 201, 3) := dk_180 0 201 (dk_at dksX0_about_3 15 rfl rfl)
theorem dX0_about_98 : decode cX0_about 98 = .ok (.invokevirtual 181, 3) := dk_182 0 181 (dk_at dksX0_about_3 18 rfl rfl)
theorem dX0_about_101 : decode cX0_about 101 = .ok (.ireturn, 1) := dk_172 (dk_at dksX0_about_3 21 rfl rfl)
theorem dX0_about_102 : decode cX0_about 102 = .ok (.aload_n 0, 1) := dk_42 (dk_at dksX0_about_3 22 rfl rfl)
theorem dX0_about_103 : decode cX0_about 103 = .ok (.getfield 52, 3) := dk_180 0 52 (dk_at dksX0_about_4 0 rfl rfl)
theorem dX0_about_106 : decode cX0_about 106 = .ok (.getfield 298, 3) := dk_180 1 42 (dk_at dksX0_about_4 3 rfl rfl)
theorem dX0_about_109 : decode cX0_about 109 = .ok (.invokevirtual 181, 3) := dk_182 0 181 (dk_at dksX0_about_4 6 rfl rfl)
theorem dX0_about_112 : decode cX0_about 112 = .ok (.ireturn, 1) := dk_172 (dk_at dksX0_about_4 9 rfl rfl)
theorem dX0_about_113 : decode cX0_about 113 = .ok (.aload_n 0, 1) := dk_42 (dk_at dksX0_about_4 10 rfl rfl)
theorem dX0_about_114 : decode cX0_about 114 = .ok (.getfield 52, 3) := dk_180 0 52 (dk_at dksX0_about_4 11 rfl rfl)
theorem dX0_about_117 : decode cX0_about 117 = .ok (.getfield 425, 3) := dk_180 1 169 (dk_at dksX0_about_4 14 rfl rfl)
theorem dX0_about_120 : decode cX0_about 120 = .ok (.ireturn, 1) := dk_172 (dk_at dksX0_about_4 17 rfl rfl)
theorem dX0_about_121 : decode cX0_about 121 = .ok (.aload_n 0, 1) := dk_42 (dk_at dksX0_about_4 18 rfl rfl)
theorem dX0_about_122 : decode cX0_about 122 = .ok (.getfield 67, 3) := dk_180 0 67 (dk_at dksX0_about_4 19 rfl rfl)
theorem dX0_about_125 : decode cX0_about 125 = .ok (.invokevirtual 181, 3) := dk_182 0 181 (dk_at dksX0_about_5 0 rfl rfl)
theorem dX0_about_128 : decode cX0_about 128 = .ok (.ireturn, 1) := dk_172 (dk_at dksX0_about_5 3 rfl rfl)
theorem dX0_about_129 : decode cX0_about 129 = .ok (.aload_n 0, 1) := dk_42 (dk_at dksX0_about_5 4 rfl rfl)
theorem dX0_about_130 : decode cX0_about 130 = .ok (.getfield 151, 3) := dk_180 0 151 (dk_at dksX0_about_5 5 rfl rfl)
theorem dX0_about_133 : decode cX0_about 133 = .ok (.ireturn, 1) := dk_172 (dk_at dksX0_about_5 8 rfl rfl)
theorem dX0_about_134 : decode cX0_about 134 = .ok (.aload_n 0, 1) := dk_42 (dk_at dksX0_about_5 9 rfl rfl)
theorem dX0_about_135 : decode cX0_about 135 = .ok (.getfield 358, 3) := dk_180 1 102 (dk_at dksX0_about_5 10 rfl rfl)
theorem dX0_about_138 : decode cX0_about 138 = .ok (.ireturn, 1) := dk_172 (dk_at dksX0_about_5 13 rfl rfl)
theorem dX0_about_139 : decode cX0_about 139 = .ok (.aload_n 0, 1) := dk_42 (dk_at dksX0_about_5 14 rfl rfl)
theorem dX0_about_140 : decode cX0_about 140 = .ok (.getfield 262, 3) := dk_180 1 6 (dk_at dksX0_about_5 15 rfl rfl)
theorem dX0_about_143 : decode cX0_about 143 = .ok (.ireturn, 1) := dk_172 (dk_at dksX0_about_5 18 rfl rfl)
theorem dX0_about_144 : decode cX0_about 144 = .ok (.aload_n 0, 1) := dk_42 (dk_at dksX0_about_5 19 rfl rfl)
theorem dX0_about_145 : decode cX0_about 145 = .ok (.getfield 125, 3) := dk_180 0 125 (dk_at dksX0_about_5 20 rfl rfl)
theorem dX0_about_148 : decode cX0_about 148 = .ok (.ireturn, 1) := dk_172 (dk_at dksX0_about_5 23 rfl rfl)
theorem dX0_about_149 : decode cX0_about 149 = .ok (.aload_n 0, 1) := dk_42 (dk_at dksX0_about_6 0 rfl rfl)
theorem dX0_about_150 : decode cX0_about 150 = .ok (.getfield 393, 3) := dk_180 1 137 (dk_at dksX0_about_6 1 rfl rfl)
theorem dX0_about_153 : decode cX0_about 153 = .ok (.ireturn, 1) := dk_172 (dk_at dksX0_about_6 4 rfl rfl)
theorem dX0_about_154 : decode cX0_about 154 = .ok (.iconst (-1), 1) := dk_2 (dk_at dksX0_about_6 5 rfl rfl)
theorem dX0_about_155 : decode cX0_about 155 = .ok (.ireturn, 1) := dk_172 (dk_at dksX0_about_6 6 rfl rfl)
abbrev cX0_airline : ByteArray := prog_1_method_51_code
def dkwX0_airline_2 : List UInt8 := [79, 42, 89, 180, 1, 102, 4, 96, 181, 1, 102, 42, 180, 1, 102, 4, 100, 172]
abbrev dktX0_airline_2 : List UInt8 := dkwX0_airline_2 ++ []
def dkwX0_airline_1 : List UInt8 := [160, 0, 5, 2, 172, 42, 180, 0, 98, 42, 180, 1, 102, 27, 79, 42, 180, 0, 101, 42, 180, 1, 102, 28]
abbrev dktX0_airline_1 : List UInt8 := dkwX0_airline_1 ++ dktX0_airline_2
def dkwX0_airline_0 : List UInt8 := [27, 3, 17, 3, 231, 184, 0, 161, 153, 0, 19, 28, 184, 1, 1, 153, 0, 12, 42, 180, 1, 102, 16, 10]
abbrev dktX0_airline_0 : List UInt8 := dkwX0_airline_0 ++ dktX0_airline_1
theorem dksX0_airline_0 : cX0_airline.data.toList.drop 0 = dktX0_airline_0 := by decide +kernel
theorem dksX0_airline_1 : cX0_airline.data.toList.drop 24 = dktX0_airline_1 := dk_seg dksX0_airline_0 24 rfl rfl
theorem dksX0_airline_2 : cX0_airline.data.toList.drop 48 = dktX0_airline_2 := dk_seg dksX0_airline_1 24 rfl rfl
theorem dX0_airline_0 : decode cX0_airline 0 = .ok (.iload_n 1, 1) := dk_27 (dk_at dksX0_airline_0 0 rfl rfl)
theorem dX0_airline_1 : decode cX0_airline 1 = .ok (.iconst 0, 1) := dk_3 (dk_at dksX0_airline_0 1 rfl rfl)
theorem dX0_airline_2 : decode cX0_airline 2 = .ok (.sipush 999, 3) := dk_17 3 231 (dk_at dksX0_airline_0 2 rfl rfl)
theorem dX0_airline_5 : decode cX0_airline 5 = .ok (.invokestatic 161, 3) := dk_184 0 161 (dk_at dksX0_airline_0 5 rfl rfl)
theorem dX0_airline_8 : decode cX0_airline 8 = .ok (.ifCond .eq 19, 3) := dk_153 0 19 (dk_at dksX0_airline_0 8 rfl rfl)
theorem dX0_airline_11 : decode cX0_airline 11 = .ok (.iload_n 2, 1) := dk_28 (dk_at dksX0_airline_0 11 rfl rfl)
theorem dX0_airline_12 : decode cX0_airline 12 = .ok (.invokestatic 257, 3) := dk_184 1 1 (dk_at dksX0_airline_0 12 rfl rfl)
theorem dX0_airline_15 : decode cX0_airline 15 = .ok (.ifCond .eq 12, 3) := dk_153 0 12 (dk_at dksX0_airline_0 15 rfl rfl)
theorem dX0_airline_18 : decode cX0_airline 18 = .ok (.aload_n 0, 1) := dk_42 (dk_at dksX0_airline_0 18 rfl rfl)
theorem dX0_airline_19 : decode cX0_airline 19 = .ok (.getfield 358, 3) := dk_180 1 102 (dk_at dksX0_airline_0 19 rfl rfl)
theorem dX0_airline_22 : decode cX0_airline 22 = .ok (.bipush 10, 2) := dk_16 10 (dk_at dksX0_airline_0 22 rfl rfl)
theorem dX0_airline_24 : decode cX0_airline 24 = .ok (.if_icmp .ne 5, 3) := dk_160 0 5 (dk_at dksX0_airline_1 0 rfl rfl)
theorem dX0_airline_27 : decode cX0_airline 27 = .ok (.iconst (-1), 1) := dk_2 (dk_at dksX0_airline_1 3 rfl rfl)
theorem dX0_airline_28 : decode cX0_airline 28 = .ok (.ireturn, 1) := dk_172 (dk_at dksX0_airline_1 4 rfl rfl)
theorem dX0_airline_29 : decode cX0_airline 29 = .ok (.aload_n 0, 1) := dk_42 (dk_at dksX0_airline_1 5 rfl rfl)
theorem dX0_airline_30 : decode cX0_airline 30 = .ok (.getfield 98, 3) := dk_180 0 98 (dk_at dksX0_airline_1 6 rfl rfl)
theorem dX0_airline_33 : decode cX0_airline 33 = .ok (.aload_n 0, 1) := dk_42 (dk_at dksX0_airline_1 9 rfl rfl)
theorem dX0_airline_34 : decode cX0_airline 34 = .ok (.getfield 358, 3) := dk_180 1 102 (dk_at dksX0_airline_1 10 rfl rfl)
theorem dX0_airline_37 : decode cX0_airline 37 = .ok (.iload_n 1, 1) := dk_27 (dk_at dksX0_airline_1 13 rfl rfl)
theorem dX0_airline_38 : decode cX0_airline 38 = .ok (.iastore, 1) := dk_79 (dk_at dksX0_airline_1 14 rfl rfl)
theorem dX0_airline_39 : decode cX0_airline 39 = .ok (.aload_n 0, 1) := dk_42 (dk_at dksX0_airline_1 15 rfl rfl)
theorem dX0_airline_40 : decode cX0_airline 40 = .ok (.getfield 101, 3) := dk_180 0 101 (dk_at dksX0_airline_1 16 rfl rfl)
theorem dX0_airline_43 : decode cX0_airline 43 = .ok (.aload_n 0, 1) := dk_42 (dk_at dksX0_airline_1 19 rfl rfl)
theorem dX0_airline_44 : decode cX0_airline 44 = .ok (.getfield 358, 3) := dk_180 1 102 (dk_at dksX0_airline_1 20 rfl rfl)
theorem dX0_airline_47 : decode cX0_airline 47 = .ok (.iload_n 2, 1) := dk_28 (dk_at dksX0_airline_1 23 rfl rfl)
theorem dX0_airline_48 : decode cX0_airline 48 = .ok (.iastore, 1) := dk_79 (dk_at dksX0_airline_2 0 rfl rfl)
theorem dX0_airline_49 : decode cX0_airline 49 = .ok (.aload_n 0, 1) := dk_42 (dk_at dksX0_airline_2 1 rfl rfl)
theorem dX0_airline_50 : decode cX0_airline 50 = .ok (.dup, 1) := dk_89 (dk_at dksX0_airline_2 2 rfl rfl)
theorem dX0_airline_51 : decode cX0_airline 51 = .ok (.getfield 358, 3) := dk_180 1 102 (dk_at dksX0_airline_2 3 rfl rfl)
theorem dX0_airline_54 : decode cX0_airline 54 = .ok (.iconst 1, 1) := dk_4 (dk_at dksX0_airline_2 6 rfl rfl)
theorem dX0_airline_55 : decode cX0_airline 55 = .ok (.iadd, 1) := dk_96 (dk_at dksX0_airline_2 7 rfl rfl)
theorem dX0_airline_56 : decode cX0_airline 56 = .ok (.putfield 358, 3) := dk_181 1 102 (dk_at dksX0_airline_2 8 rfl rfl)
theorem dX0_airline_59 : decode cX0_airline 59 = .ok (.aload_n 0, 1) := dk_42 (dk_at dksX0_airline_2 11 rfl rfl)
theorem dX0_airline_60 : decode cX0_airline 60 = .ok (.getfield 358, 3) := dk_180 1 102 (dk_at dksX0_airline_2 12 rfl rfl)
theorem dX0_airline_63 : decode cX0_airline 63 = .ok (.iconst 1, 1) := dk_4 (dk_at dksX0_airline_2 15 rfl rfl)
theorem dX0_airline_64 : decode cX0_airline 64 = .ok (.isub, 1) := dk_100 (dk_at dksX0_airline_2 16 rfl rfl)
theorem dX0_airline_65 : decode cX0_airline 65 = .ok (.ireturn, 1) := dk_172 (dk_at dksX0_airline_2 17 rfl rfl)
abbrev cX0_areMoney : ByteArray := prog_1_method_65_code
def dkwX0_areMoney_1 : List UInt8 := [3, 172]
abbrev dktX0_areMoney_1 : List UInt8 := dkwX0_areMoney_1 ++ []
def dkwX0_areMoney_0 : List UInt8 := [26, 3, 16, 30, 184, 0, 161, 153, 0, 17, 27, 3, 16, 30, 184, 0, 161, 153, 0, 7, 4, 167, 0, 4]
abbrev dktX0_areMoney_0 : List UInt8 := dkwX0_areMoney_0 ++ dktX0_areMoney_1
theorem dksX0_areMoney_0 : cX0_areMoney.data.toList.drop 0 = dktX0_areMoney_0 := by decide +kernel
theorem dksX0_areMoney_1 : cX0_areMoney.data.toList.drop 24 = dktX0_areMoney_1 := dk_seg dksX0_areMoney_0 24 rfl rfl
theorem dX0_areMoney_0 : decode cX0_areMoney 0 = .ok (.iload_n 0, 1) := dk_26 (dk_at dksX0_areMoney_0 0 rfl rfl)
theorem dX0_areMoney_1 : decode cX0_areMoney 1 = .ok (.iconst 0, 1) := dk_3 (dk_at dksX0_areMoney_0 1 rfl rfl)
theorem dX0_areMoney_2 : decode cX0_areMoney 2 = .ok (.bipush 30, 2) := dk_16 30 (dk_at dksX0_areMoney_0 2 rfl rfl)
theorem dX0_areMoney_4 : decode cX0_areMoney 4 = .ok (.invokestatic 161, 3) := dk_184 0 161 (dk_at dksX0_areMoney_0 4 rfl rfl)
theorem dX0_areMoney_7 : decode cX0_areMoney 7 = .ok (.ifCond .eq 17, 3) := dk_153 0 17 (dk_at dksX0_areMoney_0 7 rfl rfl)
theorem dX0_areMoney_10 : decode cX0_areMoney 10 = .ok (.iload_n 1, 1) := dk_27 (dk_at dksX0_areMoney_0 10 rfl rfl)
theorem dX0_areMoney_11 : decode cX0_areMoney 11 = .ok (.iconst 0, 1) := dk_3 (dk_at dksX0_areMoney_0 11 rfl rfl)
theorem dX0_areMoney_12 : decode cX0_areMoney 12 = .ok (.bipush 30, 2) := dk_16 30 (dk_at dksX0_areMoney_0 12 rfl rfl)
theorem dX0_areMoney_14 : decode cX0_areMoney 14 = .ok (.invokestatic 161, 3) := dk_184 0 161 (dk_at dksX0_areMoney_0 14 rfl rfl)
theorem dX0_areMoney_17 : decode cX0_areMoney 17 = .ok (.ifCond .eq 7, 3) := dk_153 0 7 (dk_at dksX0_areMoney_0 17 rfl rfl)
theorem dX0_areMoney_20 : decode cX0_areMoney 20 = .ok (.iconst 1, 1) := dk_4 (dk_at dksX0_areMoney_0 20 rfl rfl)
theorem dX0_areMoney_21 : decode cX0_areMoney 21 = .ok (.goto 4, 3) := dk_167 0 4 (dk_at dksX0_areMoney_0 21 rfl rfl)
theorem dX0_areMoney_24 : decode cX0_areMoney 24 = .ok (.iconst 0, 1) := dk_3 (dk_at dksX0_areMoney_1 0 rfl rfl)
theorem dX0_areMoney_25 : decode cX0_areMoney 25 = .ok (.ireturn, 1) := dk_172 (dk_at dksX0_areMoney_1 1 rfl rfl)
abbrev cX0_bears : ByteArray := prog_1_method_67_code
def dkwX0_bears_2 : List UInt8 := [132, 3, 1, 167, 255, 223, 29, 172]
abbrev dktX0_bears_2 : List UInt8 := dkwX0_bears_2 ++ []
def dkwX0_bears_1 : List UInt8 := [180, 0, 121, 3, 50, 42, 180, 1, 143, 50, 29, 4, 96, 50, 27, 28, 184, 1, 146, 51, 153, 0, 9]
abbrev dktX0_bears_1 : List UInt8 := dkwX0_bears_1 ++ dktX0_bears_2
def dkwX0_bears_0 : List UInt8 := [27, 28, 184, 1, 159, 154, 0, 5, 2, 172, 42, 182, 1, 163, 2, 62, 29, 16, 6, 162, 0, 33, 42]
abbrev dktX0_bears_0 : List UInt8 := dkwX0_bears_0 ++ dktX0_bears_1
theorem dksX0_bears_0 : cX0_bears.data.toList.drop 0 = dktX0_bears_0 := by decide +kernel
theorem dksX0_bears_1 : cX0_bears.data.toList.drop 23 = dktX0_bears_1 := dk_seg dksX0_bears_0 23 rfl rfl
theorem dksX0_bears_2 : cX0_bears.data.toList.drop 46 = dktX0_bears_2 := dk_seg dksX0_bears_1 23 rfl rfl
theorem dX0_bears_0 : decode cX0_bears 0 = .ok (.iload_n 1, 1) := dk_27 (dk_at dksX0_bears_0 0 rfl rfl)
theorem dX0_bears_1 : decode cX0_bears 1 = .ok (.iload_n 2, 1) := dk_28 (dk_at dksX0_bears_0 1 rfl rfl)
theorem dX0_bears_2 : decode cX0_bears 2 = .ok (.invokestatic 415, 3) := dk_184 1 159 (dk_at dksX0_bears_0 2 rfl rfl)
theorem dX0_bears_5 : decode cX0_bears 5 = .ok (.ifCond .ne 5, 3) := dk_154 0 5 (dk_at dksX0_bears_0 5 rfl rfl)
theorem dX0_bears_8 : decode cX0_bears 8 = .ok (.iconst (-1), 1) := dk_2 (dk_at dksX0_bears_0 8 rfl rfl)
theorem dX0_bears_9 : decode cX0_bears 9 = .ok (.ireturn, 1) := dk_172 (dk_at dksX0_bears_0 9 rfl rfl)
theorem dX0_bears_10 : decode cX0_bears 10 = .ok (.aload_n 0, 1) := dk_42 (dk_at dksX0_bears_0 10 rfl rfl)
theorem dX0_bears_11 : decode cX0_bears 11 = .ok (.invokevirtual 419, 3) := dk_182 1 163 (dk_at dksX0_bears_0 11 rfl rfl)
theorem dX0_bears_14 : decode cX0_bears 14 = .ok (.iconst (-1), 1) := dk_2 (dk_at dksX0_bears_0 14 rfl rfl)
theorem dX0_bears_15 : decode cX0_bears 15 = .ok (.istore_n 3, 1) := dk_62 (dk_at dksX0_bears_0 15 rfl rfl)
theorem dX0_bears_16 : decode cX0_bears 16 = .ok (.iload_n 3, 1) := dk_29 (dk_at dksX0_bears_0 16 rfl rfl)
theorem dX0_bears_17 : decode cX0_bears 17 = .ok (.bipush 6, 2) := dk_16 6 (dk_at dksX0_bears_0 17 rfl rfl)
theorem dX0_bears_19 : decode cX0_bears 19 = .ok (.if_icmp .ge 33, 3) := dk_162 0 33 (dk_at dksX0_bears_0 19 rfl rfl)
theorem dX0_bears_22 : decode cX0_bears 22 = .ok (.aload_n 0, 1) := dk_42 (dk_at dksX0_bears_0 22 rfl rfl)
theorem dX0_bears_23 : decode cX0_bears 23 = .ok (.getfield 121, 3) := dk_180 0 121 (dk_at dksX0_bears_1 0 rfl rfl)
theorem dX0_bears_26 : decode cX0_bears 26 = .ok (.iconst 0, 1) := dk_3 (dk_at dksX0_bears_1 3 rfl rfl)
theorem dX0_bears_27 : decode cX0_bears 27 = .ok (.aaload, 1) := dk_50 (dk_at dksX0_bears_1 4 rfl rfl)
theorem dX0_bears_28 : decode cX0_bears 28 = .ok (.aload_n 0, 1) := dk_42 (dk_at dksX0_bears_1 5 rfl rfl)
theorem dX0_bears_29 : decode cX0_bears 29 = .ok (.getfield 399, 3) := dk_180 1 143 (dk_at dksX0_bears_1 6 rfl rfl)
theorem dX0_bears_32 : decode cX0_bears 32 = .ok (.aaload, 1) := dk_50 (dk_at dksX0_bears_1 9 rfl rfl)
theorem dX0_bears_33 : decode cX0_bears 33 = .ok (.iload_n 3, 1) := dk_29 (dk_at dksX0_bears_1 10 rfl rfl)
theorem dX0_bears_34 : decode cX0_bears 34 = .ok (.iconst 1, 1) := dk_4 (dk_at dksX0_bears_1 11 rfl rfl)
theorem dX0_bears_35 : decode cX0_bears 35 = .ok (.iadd, 1) := dk_96 (dk_at dksX0_bears_1 12 rfl rfl)
theorem dX0_bears_36 : decode cX0_bears 36 = .ok (.aaload, 1) := dk_50 (dk_at dksX0_bears_1 13 rfl rfl)
theorem dX0_bears_37 : decode cX0_bears 37 = .ok (.iload_n 1, 1) := dk_27 (dk_at dksX0_bears_1 14 rfl rfl)
theorem dX0_bears_38 : decode cX0_bears 38 = .ok (.iload_n 2, 1) := dk_28 (dk_at dksX0_bears_1 15 rfl rfl)
theorem dX0_bears_39 : decode cX0_bears 39 = .ok (.invokestatic 402, 3) := dk_184 1 146 (dk_at dksX0_bears_1 16 rfl rfl)
theorem dX0_bears_42 : decode cX0_bears 42 = .ok (.baload, 1) := dk_51 (dk_at dksX0_bears_1 19 rfl rfl)
theorem dX0_bears_43 : decode cX0_bears 43 = .ok (.ifCond .eq 9, 3) := dk_153 0 9 (dk_at dksX0_bears_1 20 rfl rfl)
theorem dX0_bears_46 : decode cX0_bears 46 = .ok (.iinc 3 1, 3) := dk_132 3 1 (dk_at dksX0_bears_2 0 rfl rfl)
theorem dX0_bears_49 : decode cX0_bears 49 = .ok (.goto (-33), 3) := dk_167 255 223 (dk_at dksX0_bears_2 3 rfl rfl)
theorem dX0_bears_52 : decode cX0_bears 52 = .ok (.iload_n 3, 1) := dk_29 (dk_at dksX0_bears_2 6 rfl rfl)
theorem dX0_bears_53 : decode cX0_bears 53 = .ok (.ireturn, 1) := dk_172 (dk_at dksX0_bears_2 7 rfl rfl)
abbrev cX0_bounds : ByteArray := prog_1_method_38_code
def dkwX0_bounds_2 : List UInt8 := [180, 0, 151, 28, 79, 42, 89, 180, 0, 151, 4, 96, 181, 0, 151, 42, 180, 0, 151, 172]
abbrev dktX0_bounds_2 : List UInt8 := dkwX0_bounds_2 ++ []
def dkwX0_bounds_1 : List UInt8 := [16, 12, 160, 0, 5, 2, 172, 42, 180, 0, 78, 42, 180, 0, 151, 27, 79, 42, 180, 0, 81, 42]
abbrev dktX0_bounds_1 : List UInt8 := dkwX0_bounds_1 ++ dktX0_bounds_2
def dkwX0_bounds_0 : List UInt8 := [27, 3, 16, 99, 184, 0, 161, 153, 0, 22, 28, 27, 16, 99, 184, 0, 161, 153, 0, 12, 42, 180, 0, 151]
abbrev dktX0_bounds_0 : List UInt8 := dkwX0_bounds_0 ++ dktX0_bounds_1
theorem dksX0_bounds_0 : cX0_bounds.data.toList.drop 0 = dktX0_bounds_0 := by decide +kernel
theorem dksX0_bounds_1 : cX0_bounds.data.toList.drop 24 = dktX0_bounds_1 := dk_seg dksX0_bounds_0 24 rfl rfl
theorem dksX0_bounds_2 : cX0_bounds.data.toList.drop 46 = dktX0_bounds_2 := dk_seg dksX0_bounds_1 22 rfl rfl
theorem dX0_bounds_0 : decode cX0_bounds 0 = .ok (.iload_n 1, 1) := dk_27 (dk_at dksX0_bounds_0 0 rfl rfl)
theorem dX0_bounds_1 : decode cX0_bounds 1 = .ok (.iconst 0, 1) := dk_3 (dk_at dksX0_bounds_0 1 rfl rfl)
theorem dX0_bounds_2 : decode cX0_bounds 2 = .ok (.bipush 99, 2) := dk_16 99 (dk_at dksX0_bounds_0 2 rfl rfl)
theorem dX0_bounds_4 : decode cX0_bounds 4 = .ok (.invokestatic 161, 3) := dk_184 0 161 (dk_at dksX0_bounds_0 4 rfl rfl)
theorem dX0_bounds_7 : decode cX0_bounds 7 = .ok (.ifCond .eq 22, 3) := dk_153 0 22 (dk_at dksX0_bounds_0 7 rfl rfl)
theorem dX0_bounds_10 : decode cX0_bounds 10 = .ok (.iload_n 2, 1) := dk_28 (dk_at dksX0_bounds_0 10 rfl rfl)
theorem dX0_bounds_11 : decode cX0_bounds 11 = .ok (.iload_n 1, 1) := dk_27 (dk_at dksX0_bounds_0 11 rfl rfl)
theorem dX0_bounds_12 : decode cX0_bounds 12 = .ok (.bipush 99, 2) := dk_16 99 (dk_at dksX0_bounds_0 12 rfl rfl)
theorem dX0_bounds_14 : decode cX0_bounds 14 = .ok (.invokestatic 161, 3) := dk_184 0 161 (dk_at dksX0_bounds_0 14 rfl rfl)
theorem dX0_bounds_17 : decode cX0_bounds 17 = .ok (.ifCond .eq 12, 3) := dk_153 0 12 (dk_at dksX0_bounds_0 17 rfl rfl)
theorem dX0_bounds_20 : decode cX0_bounds 20 = .ok (.aload_n 0, 1) := dk_42 (dk_at dksX0_bounds_0 20 rfl rfl)
theorem dX0_bounds_21 : decode cX0_bounds 21 = .ok (.getfield 151, 3) := dk_180 0 151 (dk_at dksX0_bounds_0 21 rfl rfl)
theorem dX0_bounds_24 : decode cX0_bounds 24 = .ok (.bipush 12, 2) := dk_16 12 (dk_at dksX0_bounds_1 0 rfl rfl)
theorem dX0_bounds_26 : decode cX0_bounds 26 = .ok (.if_icmp .ne 5, 3) := dk_160 0 5 (dk_at dksX0_bounds_1 2 rfl rfl)
theorem dX0_bounds_29 : decode cX0_bounds 29 = .ok (.iconst (-1), 1) := dk_2 (dk_at dksX0_bounds_1 5 rfl rfl)
theorem dX0_bounds_30 : decode cX0_bounds 30 = .ok (.ireturn, 1) := dk_172 (dk_at dksX0_bounds_1 6 rfl rfl)
theorem dX0_bounds_31 : decode cX0_bounds 31 = .ok (.aload_n 0, 1) := dk_42 (dk_at dksX0_bounds_1 7 rfl rfl)
theorem dX0_bounds_32 : decode cX0_bounds 32 = .ok (.getfield 78, 3) := dk_180 0 78 (dk_at dksX0_bounds_1 8 rfl rfl)
theorem dX0_bounds_35 : decode cX0_bounds 35 = .ok (.aload_n 0, 1) := dk_42 (dk_at dksX0_bounds_1 11 rfl rfl)
theorem dX0_bounds_36 : decode cX0_bounds 36 = .ok (.getfield 151, 3) := dk_180 0 151 (dk_at dksX0_bounds_1 12 rfl rfl)
theorem dX0_bounds_39 : decode cX0_bounds 39 = .ok (.iload_n 1, 1) := dk_27 (dk_at dksX0_bounds_1 15 rfl rfl)
theorem dX0_bounds_40 : decode cX0_bounds 40 = .ok (.iastore, 1) := dk_79 (dk_at dksX0_bounds_1 16 rfl rfl)
theorem dX0_bounds_41 : decode cX0_bounds 41 = .ok (.aload_n 0, 1) := dk_42 (dk_at dksX0_bounds_1 17 rfl rfl)
theorem dX0_bounds_42 : decode cX0_bounds 42 = .ok (.getfield 81, 3) := dk_180 0 81 (dk_at dksX0_bounds_1 18 rfl rfl)
theorem dX0_bounds_45 : decode cX0_bounds 45 = .ok (.aload_n 0, 1) := dk_42 (dk_at dksX0_bounds_1 21 rfl rfl)
theorem dX0_bounds_46 : decode cX0_bounds 46 = .ok (.getfield 151, 3) := dk_180 0 151 (dk_at dksX0_bounds_2 0 rfl rfl)
theorem dX0_bounds_49 : decode cX0_bounds 49 = .ok (.iload_n 2, 1) := dk_28 (dk_at dksX0_bounds_2 3 rfl rfl)
theorem dX0_bounds_50 : decode cX0_bounds 50 = .ok (.iastore, 1) := dk_79 (dk_at dksX0_bounds_2 4 rfl rfl)
theorem dX0_bounds_51 : decode cX0_bounds 51 = .ok (.aload_n 0, 1) := dk_42 (dk_at dksX0_bounds_2 5 rfl rfl)
theorem dX0_bounds_52 : decode cX0_bounds 52 = .ok (.dup, 1) := dk_89 (dk_at dksX0_bounds_2 6 rfl rfl)
theorem dX0_bounds_53 : decode cX0_bounds 53 = .ok (.getfield 151, 3) := dk_180 0 151 (dk_at dksX0_bounds_2 7 rfl rfl)
theorem dX0_bounds_56 : decode cX0_bounds 56 = .ok (.iconst 1, 1) := dk_4 (dk_at dksX0_bounds_2 10 rfl rfl)
theorem dX0_bounds_57 : decode cX0_bounds 57 = .ok (.iadd, 1) := dk_96 (dk_at dksX0_bounds_2 11 rfl rfl)
theorem dX0_bounds_58 : decode cX0_bounds 58 = .ok (.putfield 151, 3) := dk_181 0 151 (dk_at dksX0_bounds_2 12 rfl rfl)
theorem dX0_bounds_61 : decode cX0_bounds 61 = .ok (.aload_n 0, 1) := dk_42 (dk_at dksX0_bounds_2 15 rfl rfl)
theorem dX0_bounds_62 : decode cX0_bounds 62 = .ok (.getfield 151, 3) := dk_180 0 151 (dk_at dksX0_bounds_2 16 rfl rfl)
theorem dX0_bounds_65 : decode cX0_bounds 65 = .ok (.ireturn, 1) := dk_172 (dk_at dksX0_bounds_2 19 rfl rfl)
abbrev cX0_breaks : ByteArray := prog_1_method_16_code
def dkwX0_breaks_2 : List UInt8 := [153, 0, 9, 132, 2, 1, 167, 255, 226, 28, 16, 30, 164, 0, 7, 2, 167, 0, 4, 28, 172]
abbrev dktX0_breaks_2 : List UInt8 := dkwX0_breaks_2 ++ []
def dkwX0_breaks_1 : List UInt8 := [16, 30, 163, 0, 30, 42, 180, 0, 52, 180, 0, 201, 27, 182, 0, 184, 192, 0, 204, 28, 182, 0, 206]
abbrev dktX0_breaks_1 : List UInt8 := dkwX0_breaks_1 ++ dktX0_breaks_2
def dkwX0_breaks_0 : List UInt8 := [27, 155, 0, 17, 27, 42, 180, 0, 52, 180, 0, 201, 182, 0, 181, 161, 0, 5, 2, 172, 3, 61, 28]
abbrev dktX0_breaks_0 : List UInt8 := dkwX0_breaks_0 ++ dktX0_breaks_1
theorem dksX0_breaks_0 : cX0_breaks.data.toList.drop 0 = dktX0_breaks_0 := by decide +kernel
theorem dksX0_breaks_1 : cX0_breaks.data.toList.drop 23 = dktX0_breaks_1 := dk_seg dksX0_breaks_0 23 rfl rfl
theorem dksX0_breaks_2 : cX0_breaks.data.toList.drop 46 = dktX0_breaks_2 := dk_seg dksX0_breaks_1 23 rfl rfl
theorem dX0_breaks_0 : decode cX0_breaks 0 = .ok (.iload_n 1, 1) := dk_27 (dk_at dksX0_breaks_0 0 rfl rfl)
theorem dX0_breaks_1 : decode cX0_breaks 1 = .ok (.ifCond .lt 17, 3) := dk_155 0 17 (dk_at dksX0_breaks_0 1 rfl rfl)
theorem dX0_breaks_4 : decode cX0_breaks 4 = .ok (.iload_n 1, 1) := dk_27 (dk_at dksX0_breaks_0 4 rfl rfl)
theorem dX0_breaks_5 : decode cX0_breaks 5 = .ok (.aload_n 0, 1) := dk_42 (dk_at dksX0_breaks_0 5 rfl rfl)
theorem dX0_breaks_6 : decode cX0_breaks 6 = .ok (.getfield 52, 3) := dk_180 0 52 (dk_at dksX0_breaks_0 6 rfl rfl)
theorem dX0_breaks_9 : decode cX0_breaks 9 = .ok (.getfield 201, 3) := dk_180 0 201 (dk_at dksX0_breaks_0 9 rfl rfl)
theorem dX0_breaks_12 : decode cX0_breaks 12 = .ok (.invokevirtual 181, 3) := dk_182 0 181 (dk_at dksX0_breaks_0 12 rfl rfl)
theorem dX0_breaks_15 : decode cX0_breaks 15 = .ok (.if_icmp .lt 5, 3) := dk_161 0 5 (dk_at dksX0_breaks_0 15 rfl rfl)
theorem dX0_breaks_18 : decode cX0_breaks 18 = .ok (.iconst (-1), 1) := dk_2 (dk_at dksX0_breaks_0 18 rfl rfl)
theorem dX0_breaks_19 : decode cX0_breaks 19 = .ok (.ireturn, 1) := dk_172 (dk_at dksX0_breaks_0 19 rfl rfl)
theorem dX0_breaks_20 : decode cX0_breaks 20 = .ok (.iconst 0, 1) := dk_3 (dk_at dksX0_breaks_0 20 rfl rfl)
theorem dX0_breaks_21 : decode cX0_breaks 21 = .ok (.istore_n 2, 1) := dk_61 (dk_at dksX0_breaks_0 21 rfl rfl)
theorem dX0_breaks_22 : decode cX0_breaks 22 = .ok (.iload_n 2, 1) := dk_28 (dk_at dksX0_breaks_0 22 rfl rfl)
theorem dX0_breaks_23 : decode cX0_breaks 23 = .ok (.bipush 30, 2) := dk_16 30 (dk_at dksX0_breaks_1 0 rfl rfl)
theorem dX0_breaks_25 : decode cX0_breaks 25 = .ok (.if_icmp .gt 30, 3) := dk_163 0 30 (dk_at dksX0_breaks_1 2 rfl rfl)
theorem dX0_breaks_28 : decode cX0_breaks 28 = .ok (.aload_n 0, 1) := dk_42 (dk_at dksX0_breaks_1 5 rfl rfl)
theorem dX0_breaks_29 : decode cX0_breaks 29 = .ok (.getfield 52, 3) := dk_180 0 52 (dk_at dksX0_breaks_1 6 rfl rfl)
theorem dX0_breaks_32 : decode cX0_breaks 32 = .ok (.getfield 201, 3) := dk_180 0 201 (dk_at dksX0_breaks_1 9 rfl rfl)
theorem dX0_breaks_35 : decode cX0_breaks 35 = .ok (.iload_n 1, 1) := dk_27 (dk_at dksX0_breaks_1 12 rfl rfl)
theorem dX0_breaks_36 : decode cX0_breaks 36 = .ok (.invokevirtual 184, 3) := dk_182 0 184 (dk_at dksX0_breaks_1 13 rfl rfl)
theorem dX0_breaks_39 : decode cX0_breaks 39 = .ok (.checkcast 204, 3) := dk_192 0 204 (dk_at dksX0_breaks_1 16 rfl rfl)
theorem dX0_breaks_42 : decode cX0_breaks 42 = .ok (.iload_n 2, 1) := dk_28 (dk_at dksX0_breaks_1 19 rfl rfl)
theorem dX0_breaks_43 : decode cX0_breaks 43 = .ok (.invokevirtual 206, 3) := dk_182 0 206 (dk_at dksX0_breaks_1 20 rfl rfl)
theorem dX0_breaks_46 : decode cX0_breaks 46 = .ok (.ifCond .eq 9, 3) := dk_153 0 9 (dk_at dksX0_breaks_2 0 rfl rfl)
theorem dX0_breaks_49 : decode cX0_breaks 49 = .ok (.iinc 2 1, 3) := dk_132 2 1 (dk_at dksX0_breaks_2 3 rfl rfl)
theorem dX0_breaks_52 : decode cX0_breaks 52 = .ok (.goto (-30), 3) := dk_167 255 226 (dk_at dksX0_breaks_2 6 rfl rfl)
theorem dX0_breaks_55 : decode cX0_breaks 55 = .ok (.iload_n 2, 1) := dk_28 (dk_at dksX0_breaks_2 9 rfl rfl)
theorem dX0_breaks_56 : decode cX0_breaks 56 = .ok (.bipush 30, 2) := dk_16 30 (dk_at dksX0_breaks_2 10 rfl rfl)
theorem dX0_breaks_58 : decode cX0_breaks 58 = .ok (.if_icmp .le 7, 3) := dk_164 0 7 (dk_at dksX0_breaks_2 12 rfl rfl)
theorem dX0_breaks_61 : decode cX0_breaks 61 = .ok (.iconst (-1), 1) := dk_2 (dk_at dksX0_breaks_2 15 rfl rfl)
theorem dX0_breaks_62 : decode cX0_breaks 62 = .ok (.goto 4, 3) := dk_167 0 4 (dk_at dksX0_breaks_2 16 rfl rfl)
theorem dX0_breaks_65 : decode cX0_breaks 65 = .ok (.iload_n 2, 1) := dk_28 (dk_at dksX0_breaks_2 19 rfl rfl)
theorem dX0_breaks_66 : decode cX0_breaks 66 = .ok (.ireturn, 1) := dk_172 (dk_at dksX0_breaks_2 20 rfl rfl)
abbrev cX0_by : ByteArray := prog_1_method_42_code
def dkwX0_by_12 : List UInt8 := [46, 184, 1, 74, 172]
abbrev dktX0_by_12 : List UInt8 := dkwX0_by_12 ++ []
def dkwX0_by_11 : List UInt8 := [164, 0, 7, 2, 167, 0, 24, 42, 180, 0, 92, 3, 46, 42, 180, 0, 92, 4, 46, 42, 180, 0, 92, 5]
abbrev dktX0_by_11 : List UInt8 := dkwX0_by_11 ++ dktX0_by_12
def dkwX0_by_10 : List UInt8 := [180, 0, 78, 27, 46, 21, 9, 104, 161, 0, 17, 21, 10, 42, 180, 0, 81, 27, 46, 21, 9, 104]
abbrev dktX0_by_10 : List UInt8 := dkwX0_by_10 ++ dktX0_by_11
def dkwX0_by_9 : List UInt8 := [46, 42, 180, 0, 52, 180, 1, 72, 21, 11, 46, 104, 96, 54, 10, 132, 11, 1, 167, 255, 212, 21, 10, 42]
abbrev dktX0_by_9 : List UInt8 := dkwX0_by_9 ++ dktX0_by_10
def dkwX0_by_8 : List UInt8 := [6, 162, 0, 44, 21, 9, 42, 180, 0, 92, 21, 11, 46, 96, 54, 9, 21, 10, 42, 180, 0, 92, 21, 11]
abbrev dktX0_by_8 : List UInt8 := dkwX0_by_8 ++ dktX0_by_9
def dkwX0_by_7 : List UInt8 := [2, 172, 42, 180, 0, 92, 21, 4, 92, 46, 4, 100, 79, 3, 54, 9, 3, 54, 10, 3, 54, 11, 21, 11]
abbrev dktX0_by_7 : List UInt8 := dkwX0_by_7 ++ dktX0_by_8
def dkwX0_by_6 : List UInt8 := [100, 79, 42, 180, 0, 92, 21, 8, 92, 46, 21, 6, 96, 79, 42, 180, 0, 92, 21, 4, 46, 154, 0, 5]
abbrev dktX0_by_6 : List UInt8 := dkwX0_by_6 ++ dktX0_by_7
def dkwX0_by_5 : List UInt8 := [180, 0, 52, 180, 1, 70, 21, 8, 46, 164, 0, 5, 2, 172, 42, 180, 0, 92, 21, 7, 92, 46, 21, 6]
abbrev dktX0_by_5 : List UInt8 := dkwX0_by_5 ++ dktX0_by_6
def dkwX0_by_4 : List UInt8 := [42, 180, 0, 92, 21, 7, 46, 21, 6, 161, 0, 26, 42, 180, 0, 92, 21, 8, 46, 21, 6, 96, 42]
abbrev dktX0_by_4 : List UInt8 := dkwX0_by_4 ++ dktX0_by_5
def dkwX0_by_3 : List UInt8 := [157, 0, 59, 21, 6, 42, 180, 0, 71, 163, 0, 50, 21, 6, 158, 0, 47, 21, 7, 21, 8, 159, 0, 38]
abbrev dktX0_by_3 : List UInt8 := dkwX0_by_3 ++ dktX0_by_4
def dkwX0_by_2 : List UInt8 := [28, 7, 122, 16, 15, 126, 79, 42, 180, 0, 92, 5, 28, 16, 15, 126, 79, 21, 6, 154, 0, 8, 21, 5]
abbrev dktX0_by_2 : List UInt8 := dkwX0_by_2 ++ dktX0_by_3
def dkwX0_by_1 : List UInt8 := [112, 54, 7, 21, 5, 6, 112, 54, 8, 42, 180, 0, 92, 3, 28, 16, 8, 122, 79, 42, 180, 0, 92, 4]
abbrev dktX0_by_1 : List UInt8 := dkwX0_by_1 ++ dktX0_by_2
def dkwX0_by_0 : List UInt8 := [29, 16, 100, 108, 54, 4, 29, 16, 100, 112, 54, 5, 21, 5, 16, 9, 108, 54, 6, 21, 5, 6, 108, 6]
abbrev dktX0_by_0 : List UInt8 := dkwX0_by_0 ++ dktX0_by_1
theorem dksX0_by_0 : cX0_by.data.toList.drop 0 = dktX0_by_0 := by decide +kernel
theorem dksX0_by_1 : cX0_by.data.toList.drop 24 = dktX0_by_1 := dk_seg dksX0_by_0 24 rfl rfl
theorem dksX0_by_2 : cX0_by.data.toList.drop 48 = dktX0_by_2 := dk_seg dksX0_by_1 24 rfl rfl
theorem dksX0_by_3 : cX0_by.data.toList.drop 72 = dktX0_by_3 := dk_seg dksX0_by_2 24 rfl rfl
theorem dksX0_by_4 : cX0_by.data.toList.drop 96 = dktX0_by_4 := dk_seg dksX0_by_3 24 rfl rfl
theorem dksX0_by_5 : cX0_by.data.toList.drop 119 = dktX0_by_5 := dk_seg dksX0_by_4 23 rfl rfl
theorem dksX0_by_6 : cX0_by.data.toList.drop 143 = dktX0_by_6 := dk_seg dksX0_by_5 24 rfl rfl
theorem dksX0_by_7 : cX0_by.data.toList.drop 167 = dktX0_by_7 := dk_seg dksX0_by_6 24 rfl rfl
theorem dksX0_by_8 : cX0_by.data.toList.drop 191 = dktX0_by_8 := dk_seg dksX0_by_7 24 rfl rfl
theorem dksX0_by_9 : cX0_by.data.toList.drop 215 = dktX0_by_9 := dk_seg dksX0_by_8 24 rfl rfl
theorem dksX0_by_10 : cX0_by.data.toList.drop 239 = dktX0_by_10 := dk_seg dksX0_by_9 24 rfl rfl
theorem dksX0_by_11 : cX0_by.data.toList.drop 261 = dktX0_by_11 := dk_seg dksX0_by_10 22 rfl rfl
theorem dksX0_by_12 : cX0_by.data.toList.drop 285 = dktX0_by_12 := dk_seg dksX0_by_11 24 rfl rfl
theorem dX0_by_0 : decode cX0_by 0 = .ok (.iload_n 3, 1) := dk_29 (dk_at dksX0_by_0 0 rfl rfl)
theorem dX0_by_1 : decode cX0_by 1 = .ok (.bipush 100, 2) := dk_16 100 (dk_at dksX0_by_0 1 rfl rfl)
theorem dX0_by_3 : decode cX0_by 3 = .ok (.idiv, 1) := dk_108 (dk_at dksX0_by_0 3 rfl rfl)
theorem dX0_by_4 : decode cX0_by 4 = .ok (.istore 4, 2) := dk_54 4 (dk_at dksX0_by_0 4 rfl rfl)
theorem dX0_by_6 : decode cX0_by 6 = .ok (.iload_n 3, 1) := dk_29 (dk_at dksX0_by_0 6 rfl rfl)
theorem dX0_by_7 : decode cX0_by 7 = .ok (.bipush 100, 2) := dk_16 100 (dk_at dksX0_by_0 7 rfl rfl)
theorem dX0_by_9 : decode cX0_by 9 = .ok (.irem, 1) := dk_112 (dk_at dksX0_by_0 9 rfl rfl)
theorem dX0_by_10 : decode cX0_by 10 = .ok (.istore 5, 2) := dk_54 5 (dk_at dksX0_by_0 10 rfl rfl)
theorem dX0_by_12 : decode cX0_by 12 = .ok (.iload 5, 2) := dk_21 5 (dk_at dksX0_by_0 12 rfl rfl)
theorem dX0_by_14 : decode cX0_by 14 = .ok (.bipush 9, 2) := dk_16 9 (dk_at dksX0_by_0 14 rfl rfl)
theorem dX0_by_16 : decode cX0_by 16 = .ok (.idiv, 1) := dk_108 (dk_at dksX0_by_0 16 rfl rfl)
theorem dX0_by_17 : decode cX0_by 17 = .ok (.istore 6, 2) := dk_54 6 (dk_at dksX0_by_0 17 rfl rfl)
theorem dX0_by_19 : decode cX0_by 19 = .ok (.iload 5, 2) := dk_21 5 (dk_at dksX0_by_0 19 rfl rfl)
theorem dX0_by_21 : decode cX0_by 21 = .ok (.iconst 3, 1) := dk_6 (dk_at dksX0_by_0 21 rfl rfl)
theorem dX0_by_22 : decode cX0_by 22 = .ok (.idiv, 1) := dk_108 (dk_at dksX0_by_0 22 rfl rfl)
theorem dX0_by_23 : decode cX0_by 23 = .ok (.iconst 3, 1) := dk_6 (dk_at dksX0_by_0 23 rfl rfl)
theorem dX0_by_24 : decode cX0_by 24 = .ok (.irem, 1) := dk_112 (dk_at dksX0_by_1 0 rfl rfl)
theorem dX0_by_25 : decode cX0_by 25 = .ok (.istore 7, 2) := dk_54 7 (dk_at dksX0_by_1 1 rfl rfl)
theorem dX0_by_27 : decode cX0_by 27 = .ok (.iload 5, 2) := dk_21 5 (dk_at dksX0_by_1 3 rfl rfl)
theorem dX0_by_29 : decode cX0_by 29 = .ok (.iconst 3, 1) := dk_6 (dk_at dksX0_by_1 5 rfl rfl)
theorem dX0_by_30 : decode cX0_by 30 = .ok (.irem, 1) := dk_112 (dk_at dksX0_by_1 6 rfl rfl)
theorem dX0_by_31 : decode cX0_by 31 = .ok (.istore 8, 2) := dk_54 8 (dk_at dksX0_by_1 7 rfl rfl)
theorem dX0_by_33 : decode cX0_by 33 = .ok (.aload_n 0, 1) := dk_42 (dk_at dksX0_by_1 9 rfl rfl)
theorem dX0_by_34 : decode cX0_by 34 = .ok (.getfield 92, 3) := dk_180 0 92 (dk_at dksX0_by_1 10 rfl rfl)
theorem dX0_by_37 : decode cX0_by 37 = .ok (.iconst 0, 1) := dk_3 (dk_at dksX0_by_1 13 rfl rfl)
theorem dX0_by_38 : decode cX0_by 38 = .ok (.iload_n 2, 1) := dk_28 (dk_at dksX0_by_1 14 rfl rfl)
theorem dX0_by_39 : decode cX0_by 39 = .ok (.bipush 8, 2) := dk_16 8 (dk_at dksX0_by_1 15 rfl rfl)
theorem dX0_by_41 : decode cX0_by 41 = .ok (.ishr, 1) := dk_122 (dk_at dksX0_by_1 17 rfl rfl)
theorem dX0_by_42 : decode cX0_by 42 = .ok (.iastore, 1) := dk_79 (dk_at dksX0_by_1 18 rfl rfl)
theorem dX0_by_43 : decode cX0_by 43 = .ok (.aload_n 0, 1) := dk_42 (dk_at dksX0_by_1 19 rfl rfl)
theorem dX0_by_44 : decode cX0_by 44 = .ok (.getfield 92, 3) := dk_180 0 92 (dk_at dksX0_by_1 20 rfl rfl)
theorem dX0_by_47 : decode cX0_by 47 = .ok (.iconst 1, 1) := dk_4 (dk_at dksX0_by_1 23 rfl rfl)
theorem dX0_by_48 : decode cX0_by 48 = .ok (.iload_n 2, 1) := dk_28 (dk_at dksX0_by_2 0 rfl rfl)
theorem dX0_by_49 : decode cX0_by 49 = .ok (.iconst 4, 1) := dk_7 (dk_at dksX0_by_2 1 rfl rfl)
theorem dX0_by_50 : decode cX0_by 50 = .ok (.ishr, 1) := dk_122 (dk_at dksX0_by_2 2 rfl rfl)
theorem dX0_by_51 : decode cX0_by 51 = .ok (.bipush 15, 2) := dk_16 15 (dk_at dksX0_by_2 3 rfl rfl)
theorem dX0_by_53 : decode cX0_by 53 = .ok (.iand, 1) := dk_126 (dk_at dksX0_by_2 5 rfl rfl)
theorem dX0_by_54 : decode cX0_by 54 = .ok (.iastore, 1) := dk_79 (dk_at dksX0_by_2 6 rfl rfl)
theorem dX0_by_55 : decode cX0_by 55 = .ok (.aload_n 0, 1) := dk_42 (dk_at dksX0_by_2 7 rfl rfl)
theorem dX0_by_56 : decode cX0_by 56 = .ok (.getfield 92, 3) := dk_180 0 92 (dk_at dksX0_by_2 8 rfl rfl)
theorem dX0_by_59 : decode cX0_by 59 = .ok (.iconst 2, 1) := dk_5 (dk_at dksX0_by_2 11 rfl rfl)
theorem dX0_by_60 : decode cX0_by 60 = .ok (.iload_n 2, 1) := dk_28 (dk_at dksX0_by_2 12 rfl rfl)
theorem dX0_by_61 : decode cX0_by 61 = .ok (.bipush 15, 2) := dk_16 15 (dk_at dksX0_by_2 13 rfl rfl)
theorem dX0_by_63 : decode cX0_by 63 = .ok (.iand, 1) := dk_126 (dk_at dksX0_by_2 15 rfl rfl)
theorem dX0_by_64 : decode cX0_by 64 = .ok (.iastore, 1) := dk_79 (dk_at dksX0_by_2 16 rfl rfl)
theorem dX0_by_65 : decode cX0_by 65 = .ok (.iload 6, 2) := dk_21 6 (dk_at dksX0_by_2 17 rfl rfl)
theorem dX0_by_67 : decode cX0_by 67 = .ok (.ifCond .ne 8, 3) := dk_154 0 8 (dk_at dksX0_by_2 19 rfl rfl)
theorem dX0_by_70 : decode cX0_by 70 = .ok (.iload 5, 2) := dk_21 5 (dk_at dksX0_by_2 22 rfl rfl)
theorem dX0_by_72 : decode cX0_by 72 = .ok (.ifCond .gt 59, 3) := dk_157 0 59 (dk_at dksX0_by_3 0 rfl rfl)
theorem dX0_by_75 : decode cX0_by 75 = .ok (.iload 6, 2) := dk_21 6 (dk_at dksX0_by_3 3 rfl rfl)
theorem dX0_by_77 : decode cX0_by 77 = .ok (.aload_n 0, 1) := dk_42 (dk_at dksX0_by_3 5 rfl rfl)
theorem dX0_by_78 : decode cX0_by 78 = .ok (.getfield 71, 3) := dk_180 0 71 (dk_at dksX0_by_3 6 rfl rfl)
theorem dX0_by_81 : decode cX0_by 81 = .ok (.if_icmp .gt 50, 3) := dk_163 0 50 (dk_at dksX0_by_3 9 rfl rfl)
theorem dX0_by_84 : decode cX0_by 84 = .ok (.iload 6, 2) := dk_21 6 (dk_at dksX0_by_3 12 rfl rfl)
theorem dX0_by_86 : decode cX0_by 86 = .ok (.ifCond .le 47, 3) := dk_158 0 47 (dk_at dksX0_by_3 14 rfl rfl)
theorem dX0_by_89 : decode cX0_by 89 = .ok (.iload 7, 2) := dk_21 7 (dk_at dksX0_by_3 17 rfl rfl)
theorem dX0_by_91 : decode cX0_by 91 = .ok (.iload 8, 2) := dk_21 8 (dk_at dksX0_by_3 19 rfl rfl)
theorem dX0_by_93 : decode cX0_by 93 = .ok (.if_icmp .eq 38, 3) := dk_159 0 38 (dk_at dksX0_by_3 21 rfl rfl)
theorem dX0_by_96 : decode cX0_by 96 = .ok (.aload_n 0, 1) := dk_42 (dk_at dksX0_by_4 0 rfl rfl)
theorem dX0_by_97 : decode cX0_by 97 = .ok (.getfield 92, 3) := dk_180 0 92 (dk_at dksX0_by_4 1 rfl rfl)
theorem dX0_by_100 : decode cX0_by 100 = .ok (.iload 7, 2) := dk_21 7 (dk_at dksX0_by_4 4 rfl rfl)
theorem dX0_by_102 : decode cX0_by 102 = .ok (.iaload, 1) := dk_46 (dk_at dksX0_by_4 6 rfl rfl)
theorem dX0_by_103 : decode cX0_by 103 = .ok (.iload 6, 2) := dk_21 6 (dk_at dksX0_by_4 7 rfl rfl)
theorem dX0_by_105 : decode cX0_by 105 = .ok (.if_icmp .lt 26, 3) := dk_161 0 26 (dk_at dksX0_by_4 9 rfl rfl)
theorem dX0_by_108 : decode cX0_by 108 = .ok (.aload_n 0, 1) := dk_42 (dk_at dksX0_by_4 12 rfl rfl)
theorem dX0_by_109 : decode cX0_by 109 = .ok (.getfield 92, 3) := dk_180 0 92 (dk_at dksX0_by_4 13 rfl rfl)
theorem dX0_by_112 : decode cX0_by 112 = .ok (.iload 8, 2) := dk_21 8 (dk_at dksX0_by_4 16 rfl rfl)
theorem dX0_by_114 : decode cX0_by 114 = .ok (.iaload, 1) := dk_46 (dk_at dksX0_by_4 18 rfl rfl)
theorem dX0_by_115 : decode cX0_by 115 = .ok (.iload 6, 2) := dk_21 6 (dk_at dksX0_by_4 19 rfl rfl)
theorem dX0_by_117 : decode cX0_by 117 = .ok (.iadd, 1) := dk_96 (dk_at dksX0_by_4 21 rfl rfl)
theorem dX0_by_118 : decode cX0_by 118 = .ok (.aload_n 0, 1) := dk_42 (dk_at dksX0_by_4 22 rfl rfl)
theorem dX0_by_119 : decode cX0_by 119 = .ok (.getfield 52, 3) := dk_180 0 52 (dk_at dksX0_by_5 0 rfl rfl)
theorem dX0_by_122 : decode cX0_by 122 = .ok (.getfield 326, 3) := dk_180 1 70 (dk_at dksX0_by_5 3 rfl rfl)
theorem dX0_by_125 : decode cX0_by 125 = .ok (.iload 8, 2) := dk_21 8 (dk_at dksX0_by_5 6 rfl rfl)
theorem dX0_by_127 : decode cX0_by 127 = .ok (.iaload, 1) := dk_46 (dk_at dksX0_by_5 8 rfl rfl)
theorem dX0_by_128 : decode cX0_by 128 = .ok (.if_icmp .le 5, 3) := dk_164 0 5 (dk_at dksX0_by_5 9 rfl rfl)
theorem dX0_by_131 : decode cX0_by 131 = .ok (.iconst (-1), 1) := dk_2 (dk_at dksX0_by_5 12 rfl rfl)
theorem dX0_by_132 : decode cX0_by 132 = .ok (.ireturn, 1) := dk_172 (dk_at dksX0_by_5 13 rfl rfl)
theorem dX0_by_133 : decode cX0_by 133 = .ok (.aload_n 0, 1) := dk_42 (dk_at dksX0_by_5 14 rfl rfl)
theorem dX0_by_134 : decode cX0_by 134 = .ok (.getfield 92, 3) := dk_180 0 92 (dk_at dksX0_by_5 15 rfl rfl)
theorem dX0_by_137 : decode cX0_by 137 = .ok (.iload 7, 2) := dk_21 7 (dk_at dksX0_by_5 18 rfl rfl)
theorem dX0_by_139 : decode cX0_by 139 = .ok (.dup2, 1) := dk_92 (dk_at dksX0_by_5 20 rfl rfl)
theorem dX0_by_140 : decode cX0_by 140 = .ok (.iaload, 1) := dk_46 (dk_at dksX0_by_5 21 rfl rfl)
theorem dX0_by_141 : decode cX0_by 141 = .ok (.iload 6, 2) := dk_21 6 (dk_at dksX0_by_5 22 rfl rfl)
theorem dX0_by_143 : decode cX0_by 143 = .ok (.isub, 1) := dk_100 (dk_at dksX0_by_6 0 rfl rfl)
theorem dX0_by_144 : decode cX0_by 144 = .ok (.iastore, 1) := dk_79 (dk_at dksX0_by_6 1 rfl rfl)
theorem dX0_by_145 : decode cX0_by 145 = .ok (.aload_n 0, 1) := dk_42 (dk_at dksX0_by_6 2 rfl rfl)
theorem dX0_by_146 : decode cX0_by 146 = .ok (.getfield 92, 3) := dk_180 0 92 (dk_at dksX0_by_6 3 rfl rfl)
theorem dX0_by_149 : decode cX0_by 149 = .ok (.iload 8, 2) := dk_21 8 (dk_at dksX0_by_6 6 rfl rfl)
theorem dX0_by_151 : decode cX0_by 151 = .ok (.dup2, 1) := dk_92 (dk_at dksX0_by_6 8 rfl rfl)
theorem dX0_by_152 : decode cX0_by 152 = .ok (.iaload, 1) := dk_46 (dk_at dksX0_by_6 9 rfl rfl)
theorem dX0_by_153 : decode cX0_by 153 = .ok (.iload 6, 2) := dk_21 6 (dk_at dksX0_by_6 10 rfl rfl)
theorem dX0_by_155 : decode cX0_by 155 = .ok (.iadd, 1) := dk_96 (dk_at dksX0_by_6 12 rfl rfl)
theorem dX0_by_156 : decode cX0_by 156 = .ok (.iastore, 1) := dk_79 (dk_at dksX0_by_6 13 rfl rfl)
theorem dX0_by_157 : decode cX0_by 157 = .ok (.aload_n 0, 1) := dk_42 (dk_at dksX0_by_6 14 rfl rfl)
theorem dX0_by_158 : decode cX0_by 158 = .ok (.getfield 92, 3) := dk_180 0 92 (dk_at dksX0_by_6 15 rfl rfl)
theorem dX0_by_161 : decode cX0_by 161 = .ok (.iload 4, 2) := dk_21 4 (dk_at dksX0_by_6 18 rfl rfl)
theorem dX0_by_163 : decode cX0_by 163 = .ok (.iaload, 1) := dk_46 (dk_at dksX0_by_6 20 rfl rfl)
theorem dX0_by_164 : decode cX0_by 164 = .ok (.ifCond .ne 5, 3) := dk_154 0 5 (dk_at dksX0_by_6 21 rfl rfl)
theorem dX0_by_167 : decode cX0_by 167 = .ok (.iconst (-1), 1) := dk_2 (dk_at dksX0_by_7 0 rfl rfl)
theorem dX0_by_168 : decode cX0_by 168 = .ok (.ireturn, 1) := dk_172 (dk_at dksX0_by_7 1 rfl rfl)
theorem dX0_by_169 : decode cX0_by 169 = .ok (.aload_n 0, 1) := dk_42 (dk_at dksX0_by_7 2 rfl rfl)
theorem dX0_by_170 : decode cX0_by 170 = .ok (.getfield 92, 3) := dk_180 0 92 (dk_at dksX0_by_7 3 rfl rfl)
theorem dX0_by_173 : decode cX0_by 173 = .ok (.iload 4, 2) := dk_21 4 (dk_at dksX0_by_7 6 rfl rfl)
theorem dX0_by_175 : decode cX0_by 175 = .ok (.dup2, 1) := dk_92 (dk_at dksX0_by_7 8 rfl rfl)
theorem dX0_by_176 : decode cX0_by 176 = .ok (.iaload, 1) := dk_46 (dk_at dksX0_by_7 9 rfl rfl)
theorem dX0_by_177 : decode cX0_by 177 = .ok (.iconst 1, 1) := dk_4 (dk_at dksX0_by_7 10 rfl rfl)
theorem dX0_by_178 : decode cX0_by 178 = .ok (.isub, 1) := dk_100 (dk_at dksX0_by_7 11 rfl rfl)
theorem dX0_by_179 : decode cX0_by 179 = .ok (.iastore, 1) := dk_79 (dk_at dksX0_by_7 12 rfl rfl)
theorem dX0_by_180 : decode cX0_by 180 = .ok (.iconst 0, 1) := dk_3 (dk_at dksX0_by_7 13 rfl rfl)
theorem dX0_by_181 : decode cX0_by 181 = .ok (.istore 9, 2) := dk_54 9 (dk_at dksX0_by_7 14 rfl rfl)
theorem dX0_by_183 : decode cX0_by 183 = .ok (.iconst 0, 1) := dk_3 (dk_at dksX0_by_7 16 rfl rfl)
theorem dX0_by_184 : decode cX0_by 184 = .ok (.istore 10, 2) := dk_54 10 (dk_at dksX0_by_7 17 rfl rfl)
theorem dX0_by_186 : decode cX0_by 186 = .ok (.iconst 0, 1) := dk_3 (dk_at dksX0_by_7 19 rfl rfl)
theorem dX0_by_187 : decode cX0_by 187 = .ok (.istore 11, 2) := dk_54 11 (dk_at dksX0_by_7 20 rfl rfl)
theorem dX0_by_189 : decode cX0_by 189 = .ok (.iload 11, 2) := dk_21 11 (dk_at dksX0_by_7 22 rfl rfl)
theorem dX0_by_191 : decode cX0_by 191 = .ok (.iconst 3, 1) := dk_6 (dk_at dksX0_by_8 0 rfl rfl)
theorem dX0_by_192 : decode cX0_by 192 = .ok (.if_icmp .ge 44, 3) := dk_162 0 44 (dk_at dksX0_by_8 1 rfl rfl)
theorem dX0_by_195 : decode cX0_by 195 = .ok (.iload 9, 2) := dk_21 9 (dk_at dksX0_by_8 4 rfl rfl)
theorem dX0_by_197 : decode cX0_by 197 = .ok (.aload_n 0, 1) := dk_42 (dk_at dksX0_by_8 6 rfl rfl)
theorem dX0_by_198 : decode cX0_by 198 = .ok (.getfield 92, 3) := dk_180 0 92 (dk_at dksX0_by_8 7 rfl rfl)
theorem dX0_by_201 : decode cX0_by 201 = .ok (.iload 11, 2) := dk_21 11 (dk_at dksX0_by_8 10 rfl rfl)
theorem dX0_by_203 : decode cX0_by 203 = .ok (.iaload, 1) := dk_46 (dk_at dksX0_by_8 12 rfl rfl)
theorem dX0_by_204 : decode cX0_by 204 = .ok (.iadd, 1) := dk_96 (dk_at dksX0_by_8 13 rfl rfl)
theorem dX0_by_205 : decode cX0_by 205 = .ok (.istore 9, 2) := dk_54 9 (dk_at dksX0_by_8 14 rfl rfl)
theorem dX0_by_207 : decode cX0_by 207 = .ok (.iload 10, 2) := dk_21 10 (dk_at dksX0_by_8 16 rfl rfl)
theorem dX0_by_209 : decode cX0_by 209 = .ok (.aload_n 0, 1) := dk_42 (dk_at dksX0_by_8 18 rfl rfl)
theorem dX0_by_210 : decode cX0_by 210 = .ok (.getfield 92, 3) := dk_180 0 92 (dk_at dksX0_by_8 19 rfl rfl)
theorem dX0_by_213 : decode cX0_by 213 = .ok (.iload 11, 2) := dk_21 11 (dk_at dksX0_by_8 22 rfl rfl)
theorem dX0_by_215 : decode cX0_by 215 = .ok (.iaload, 1) := dk_46 (dk_at dksX0_by_9 0 rfl rfl)
theorem dX0_by_216 : decode cX0_by 216 = .ok (.aload_n 0, 1) := dk_42 (dk_at dksX0_by_9 1 rfl rfl)
theorem dX0_by_217 : decode cX0_by 217 = .ok (.getfield 52, 3) := dk_180 0 52 (dk_at dksX0_by_9 2 rfl rfl)
theorem dX0_by_220 : decode cX0_by 220 = .ok (.getfield 328, 3) := dk_180 1 72 (dk_at dksX0_by_9 5 rfl rfl)
theorem dX0_by_223 : decode cX0_by 223 = .ok (.iload 11, 2) := dk_21 11 (dk_at dksX0_by_9 8 rfl rfl)
theorem dX0_by_225 : decode cX0_by 225 = .ok (.iaload, 1) := dk_46 (dk_at dksX0_by_9 10 rfl rfl)
theorem dX0_by_226 : decode cX0_by 226 = .ok (.imul, 1) := dk_104 (dk_at dksX0_by_9 11 rfl rfl)
theorem dX0_by_227 : decode cX0_by 227 = .ok (.iadd, 1) := dk_96 (dk_at dksX0_by_9 12 rfl rfl)
theorem dX0_by_228 : decode cX0_by 228 = .ok (.istore 10, 2) := dk_54 10 (dk_at dksX0_by_9 13 rfl rfl)
theorem dX0_by_230 : decode cX0_by 230 = .ok (.iinc 11 1, 3) := dk_132 11 1 (dk_at dksX0_by_9 15 rfl rfl)
theorem dX0_by_233 : decode cX0_by 233 = .ok (.goto (-44), 3) := dk_167 255 212 (dk_at dksX0_by_9 18 rfl rfl)
theorem dX0_by_236 : decode cX0_by 236 = .ok (.iload 10, 2) := dk_21 10 (dk_at dksX0_by_9 21 rfl rfl)
theorem dX0_by_238 : decode cX0_by 238 = .ok (.aload_n 0, 1) := dk_42 (dk_at dksX0_by_9 23 rfl rfl)
theorem dX0_by_239 : decode cX0_by 239 = .ok (.getfield 78, 3) := dk_180 0 78 (dk_at dksX0_by_10 0 rfl rfl)
theorem dX0_by_242 : decode cX0_by 242 = .ok (.iload_n 1, 1) := dk_27 (dk_at dksX0_by_10 3 rfl rfl)
theorem dX0_by_243 : decode cX0_by 243 = .ok (.iaload, 1) := dk_46 (dk_at dksX0_by_10 4 rfl rfl)
theorem dX0_by_244 : decode cX0_by 244 = .ok (.iload 9, 2) := dk_21 9 (dk_at dksX0_by_10 5 rfl rfl)
theorem dX0_by_246 : decode cX0_by 246 = .ok (.imul, 1) := dk_104 (dk_at dksX0_by_10 7 rfl rfl)
theorem dX0_by_247 : decode cX0_by 247 = .ok (.if_icmp .lt 17, 3) := dk_161 0 17 (dk_at dksX0_by_10 8 rfl rfl)
theorem dX0_by_250 : decode cX0_by 250 = .ok (.iload 10, 2) := dk_21 10 (dk_at dksX0_by_10 11 rfl rfl)
theorem dX0_by_252 : decode cX0_by 252 = .ok (.aload_n 0, 1) := dk_42 (dk_at dksX0_by_10 13 rfl rfl)
theorem dX0_by_253 : decode cX0_by 253 = .ok (.getfield 81, 3) := dk_180 0 81 (dk_at dksX0_by_10 14 rfl rfl)
theorem dX0_by_256 : decode cX0_by 256 = .ok (.iload_n 1, 1) := dk_27 (dk_at dksX0_by_10 17 rfl rfl)
theorem dX0_by_257 : decode cX0_by 257 = .ok (.iaload, 1) := dk_46 (dk_at dksX0_by_10 18 rfl rfl)
theorem dX0_by_258 : decode cX0_by 258 = .ok (.iload 9, 2) := dk_21 9 (dk_at dksX0_by_10 19 rfl rfl)
theorem dX0_by_260 : decode cX0_by 260 = .ok (.imul, 1) := dk_104 (dk_at dksX0_by_10 21 rfl rfl)
theorem dX0_by_261 : decode cX0_by 261 = .ok (.if_icmp .le 7, 3) := dk_164 0 7 (dk_at dksX0_by_11 0 rfl rfl)
theorem dX0_by_264 : decode cX0_by 264 = .ok (.iconst (-1), 1) := dk_2 (dk_at dksX0_by_11 3 rfl rfl)
theorem dX0_by_265 : decode cX0_by 265 = .ok (.goto 24, 3) := dk_167 0 24 (dk_at dksX0_by_11 4 rfl rfl)
theorem dX0_by_268 : decode cX0_by 268 = .ok (.aload_n 0, 1) := dk_42 (dk_at dksX0_by_11 7 rfl rfl)
theorem dX0_by_269 : decode cX0_by 269 = .ok (.getfield 92, 3) := dk_180 0 92 (dk_at dksX0_by_11 8 rfl rfl)
theorem dX0_by_272 : decode cX0_by 272 = .ok (.iconst 0, 1) := dk_3 (dk_at dksX0_by_11 11 rfl rfl)
theorem dX0_by_273 : decode cX0_by 273 = .ok (.iaload, 1) := dk_46 (dk_at dksX0_by_11 12 rfl rfl)
theorem dX0_by_274 : decode cX0_by 274 = .ok (.aload_n 0, 1) := dk_42 (dk_at dksX0_by_11 13 rfl rfl)
theorem dX0_by_275 : decode cX0_by 275 = .ok (.getfield 92, 3) := dk_180 0 92 (dk_at dksX0_by_11 14 rfl rfl)
theorem dX0_by_278 : decode cX0_by 278 = .ok (.iconst 1, 1) := dk_4 (dk_at dksX0_by_11 17 rfl rfl)
theorem dX0_by_279 : decode cX0_by 279 = .ok (.iaload, 1) := dk_46 (dk_at dksX0_by_11 18 rfl rfl)
theorem dX0_by_280 : decode cX0_by 280 = .ok (.aload_n 0, 1) := dk_42 (dk_at dksX0_by_11 19 rfl rfl)
theorem dX0_by_281 : decode cX0_by 281 = .ok (.getfield 92, 3) := dk_180 0 92 (dk_at dksX0_by_11 20 rfl rfl)
theorem dX0_by_284 : decode cX0_by 284 = .ok (.iconst 2, 1) := dk_5 (dk_at dksX0_by_11 23 rfl rfl)
theorem dX0_by_285 : decode cX0_by 285 = .ok (.iaload, 1) := dk_46 (dk_at dksX0_by_12 0 rfl rfl)
theorem dX0_by_286 : decode cX0_by 286 = .ok (.invokestatic 330, 3) := dk_184 1 74 (dk_at dksX0_by_12 1 rfl rfl)
theorem dX0_by_289 : decode cX0_by 289 = .ok (.ireturn, 1) := dk_172 (dk_at dksX0_by_12 4 rfl rfl)
abbrev cX0_canGoOn : ByteArray := prog_1_method_62_code
def dkwX0_canGoOn_4 : List UInt8 := [153, 0, 7, 4, 167, 0, 4, 3, 172]
abbrev dktX0_canGoOn_4 : List UInt8 := dkwX0_canGoOn_4 ++ []
def dkwX0_canGoOn_3 : List UInt8 := [182, 1, 149, 153, 0, 28, 42, 27, 4, 96, 28, 29, 4, 100, 21, 4, 21, 6, 100, 21, 5, 182, 1, 149]
abbrev dktX0_canGoOn_3 : List UInt8 := dkwX0_canGoOn_3 ++ dktX0_canGoOn_4
def dkwX0_canGoOn_2 : List UInt8 := [153, 0, 53, 29, 153, 0, 45, 42, 27, 4, 96, 28, 29, 4, 100, 21, 4, 21, 5, 21, 6, 100]
abbrev dktX0_canGoOn_2 : List UInt8 := dkwX0_canGoOn_2 ++ dktX0_canGoOn_3
def dkwX0_canGoOn_1 : List UInt8 := [4, 96, 28, 29, 21, 4, 21, 7, 100, 21, 5, 21, 6, 100, 21, 7, 96, 182, 1, 149, 54, 8, 21, 8]
abbrev dktX0_canGoOn_1 : List UInt8 := dkwX0_canGoOn_1 ++ dktX0_canGoOn_2
def dkwX0_canGoOn_0 : List UInt8 := [42, 180, 0, 113, 27, 46, 54, 6, 21, 6, 42, 180, 0, 116, 27, 46, 104, 16, 10, 108, 54, 7, 42, 27]
abbrev dktX0_canGoOn_0 : List UInt8 := dkwX0_canGoOn_0 ++ dktX0_canGoOn_1
theorem dksX0_canGoOn_0 : cX0_canGoOn.data.toList.drop 0 = dktX0_canGoOn_0 := by decide +kernel
theorem dksX0_canGoOn_1 : cX0_canGoOn.data.toList.drop 24 = dktX0_canGoOn_1 := dk_seg dksX0_canGoOn_0 24 rfl rfl
theorem dksX0_canGoOn_2 : cX0_canGoOn.data.toList.drop 48 = dktX0_canGoOn_2 := dk_seg dksX0_canGoOn_1 24 rfl rfl
theorem dksX0_canGoOn_3 : cX0_canGoOn.data.toList.drop 70 = dktX0_canGoOn_3 := dk_seg dksX0_canGoOn_2 22 rfl rfl
theorem dksX0_canGoOn_4 : cX0_canGoOn.data.toList.drop 94 = dktX0_canGoOn_4 := dk_seg dksX0_canGoOn_3 24 rfl rfl
theorem dX0_canGoOn_0 : decode cX0_canGoOn 0 = .ok (.aload_n 0, 1) := dk_42 (dk_at dksX0_canGoOn_0 0 rfl rfl)
theorem dX0_canGoOn_1 : decode cX0_canGoOn 1 = .ok (.getfield 113, 3) := dk_180 0 113 (dk_at dksX0_canGoOn_0 1 rfl rfl)
theorem dX0_canGoOn_4 : decode cX0_canGoOn 4 = .ok (.iload_n 1, 1) := dk_27 (dk_at dksX0_canGoOn_0 4 rfl rfl)
theorem dX0_canGoOn_5 : decode cX0_canGoOn 5 = .ok (.iaload, 1) := dk_46 (dk_at dksX0_canGoOn_0 5 rfl rfl)
theorem dX0_canGoOn_6 : decode cX0_canGoOn 6 = .ok (.istore 6, 2) := dk_54 6 (dk_at dksX0_canGoOn_0 6 rfl rfl)
theorem dX0_canGoOn_8 : decode cX0_canGoOn 8 = .ok (.iload 6, 2) := dk_21 6 (dk_at dksX0_canGoOn_0 8 rfl rfl)
theorem dX0_canGoOn_10 : decode cX0_canGoOn 10 = .ok (.aload_n 0, 1) := dk_42 (dk_at dksX0_canGoOn_0 10 rfl rfl)
theorem dX0_canGoOn_11 : decode cX0_canGoOn 11 = .ok (.getfield 116, 3) := dk_180 0 116 (dk_at dksX0_canGoOn_0 11 rfl rfl)
theorem dX0_canGoOn_14 : decode cX0_canGoOn 14 = .ok (.iload_n 1, 1) := dk_27 (dk_at dksX0_canGoOn_0 14 rfl rfl)
theorem dX0_canGoOn_15 : decode cX0_canGoOn 15 = .ok (.iaload, 1) := dk_46 (dk_at dksX0_canGoOn_0 15 rfl rfl)
theorem dX0_canGoOn_16 : decode cX0_canGoOn 16 = .ok (.imul, 1) := dk_104 (dk_at dksX0_canGoOn_0 16 rfl rfl)
theorem dX0_canGoOn_17 : decode cX0_canGoOn 17 = .ok (.bipush 10, 2) := dk_16 10 (dk_at dksX0_canGoOn_0 17 rfl rfl)
theorem dX0_canGoOn_19 : decode cX0_canGoOn 19 = .ok (.idiv, 1) := dk_108 (dk_at dksX0_canGoOn_0 19 rfl rfl)
theorem dX0_canGoOn_20 : decode cX0_canGoOn 20 = .ok (.istore 7, 2) := dk_54 7 (dk_at dksX0_canGoOn_0 20 rfl rfl)
theorem dX0_canGoOn_22 : decode cX0_canGoOn 22 = .ok (.aload_n 0, 1) := dk_42 (dk_at dksX0_canGoOn_0 22 rfl rfl)
theorem dX0_canGoOn_23 : decode cX0_canGoOn 23 = .ok (.iload_n 1, 1) := dk_27 (dk_at dksX0_canGoOn_0 23 rfl rfl)
theorem dX0_canGoOn_24 : decode cX0_canGoOn 24 = .ok (.iconst 1, 1) := dk_4 (dk_at dksX0_canGoOn_1 0 rfl rfl)
theorem dX0_canGoOn_25 : decode cX0_canGoOn 25 = .ok (.iadd, 1) := dk_96 (dk_at dksX0_canGoOn_1 1 rfl rfl)
theorem dX0_canGoOn_26 : decode cX0_canGoOn 26 = .ok (.iload_n 2, 1) := dk_28 (dk_at dksX0_canGoOn_1 2 rfl rfl)
theorem dX0_canGoOn_27 : decode cX0_canGoOn 27 = .ok (.iload_n 3, 1) := dk_29 (dk_at dksX0_canGoOn_1 3 rfl rfl)
theorem dX0_canGoOn_28 : decode cX0_canGoOn 28 = .ok (.iload 4, 2) := dk_21 4 (dk_at dksX0_canGoOn_1 4 rfl rfl)
theorem dX0_canGoOn_30 : decode cX0_canGoOn 30 = .ok (.iload 7, 2) := dk_21 7 (dk_at dksX0_canGoOn_1 6 rfl rfl)
theorem dX0_canGoOn_32 : decode cX0_canGoOn 32 = .ok (.isub, 1) := dk_100 (dk_at dksX0_canGoOn_1 8 rfl rfl)
theorem dX0_canGoOn_33 : decode cX0_canGoOn 33 = .ok (.iload 5, 2) := dk_21 5 (dk_at dksX0_canGoOn_1 9 rfl rfl)
theorem dX0_canGoOn_35 : decode cX0_canGoOn 35 = .ok (.iload 6, 2) := dk_21 6 (dk_at dksX0_canGoOn_1 11 rfl rfl)
theorem dX0_canGoOn_37 : decode cX0_canGoOn 37 = .ok (.isub, 1) := dk_100 (dk_at dksX0_canGoOn_1 13 rfl rfl)
theorem dX0_canGoOn_38 : decode cX0_canGoOn 38 = .ok (.iload 7, 2) := dk_21 7 (dk_at dksX0_canGoOn_1 14 rfl rfl)
theorem dX0_canGoOn_40 : decode cX0_canGoOn 40 = .ok (.iadd, 1) := dk_96 (dk_at dksX0_canGoOn_1 16 rfl rfl)
theorem dX0_canGoOn_41 : decode cX0_canGoOn 41 = .ok (.invokevirtual 405, 3) := dk_182 1 149 (dk_at dksX0_canGoOn_1 17 rfl rfl)
theorem dX0_canGoOn_44 : decode cX0_canGoOn 44 = .ok (.istore 8, 2) := dk_54 8 (dk_at dksX0_canGoOn_1 20 rfl rfl)
theorem dX0_canGoOn_46 : decode cX0_canGoOn 46 = .ok (.iload 8, 2) := dk_21 8 (dk_at dksX0_canGoOn_1 22 rfl rfl)
theorem dX0_canGoOn_48 : decode cX0_canGoOn 48 = .ok (.ifCond .eq 53, 3) := dk_153 0 53 (dk_at dksX0_canGoOn_2 0 rfl rfl)
theorem dX0_canGoOn_51 : decode cX0_canGoOn 51 = .ok (.iload_n 3, 1) := dk_29 (dk_at dksX0_canGoOn_2 3 rfl rfl)
theorem dX0_canGoOn_52 : decode cX0_canGoOn 52 = .ok (.ifCond .eq 45, 3) := dk_153 0 45 (dk_at dksX0_canGoOn_2 4 rfl rfl)
theorem dX0_canGoOn_55 : decode cX0_canGoOn 55 = .ok (.aload_n 0, 1) := dk_42 (dk_at dksX0_canGoOn_2 7 rfl rfl)
theorem dX0_canGoOn_56 : decode cX0_canGoOn 56 = .ok (.iload_n 1, 1) := dk_27 (dk_at dksX0_canGoOn_2 8 rfl rfl)
theorem dX0_canGoOn_57 : decode cX0_canGoOn 57 = .ok (.iconst 1, 1) := dk_4 (dk_at dksX0_canGoOn_2 9 rfl rfl)
theorem dX0_canGoOn_58 : decode cX0_canGoOn 58 = .ok (.iadd, 1) := dk_96 (dk_at dksX0_canGoOn_2 10 rfl rfl)
theorem dX0_canGoOn_59 : decode cX0_canGoOn 59 = .ok (.iload_n 2, 1) := dk_28 (dk_at dksX0_canGoOn_2 11 rfl rfl)
theorem dX0_canGoOn_60 : decode cX0_canGoOn 60 = .ok (.iload_n 3, 1) := dk_29 (dk_at dksX0_canGoOn_2 12 rfl rfl)
theorem dX0_canGoOn_61 : decode cX0_canGoOn 61 = .ok (.iconst 1, 1) := dk_4 (dk_at dksX0_canGoOn_2 13 rfl rfl)
theorem dX0_canGoOn_62 : decode cX0_canGoOn 62 = .ok (.isub, 1) := dk_100 (dk_at dksX0_canGoOn_2 14 rfl rfl)
theorem dX0_canGoOn_63 : decode cX0_canGoOn 63 = .ok (.iload 4, 2) := dk_21 4 (dk_at dksX0_canGoOn_2 15 rfl rfl)
theorem dX0_canGoOn_65 : decode cX0_canGoOn 65 = .ok (.iload 5, 2) := dk_21 5 (dk_at dksX0_canGoOn_2 17 rfl rfl)
theorem dX0_canGoOn_67 : decode cX0_canGoOn 67 = .ok (.iload 6, 2) := dk_21 6 (dk_at dksX0_canGoOn_2 19 rfl rfl)
theorem dX0_canGoOn_69 : decode cX0_canGoOn 69 = .ok (.isub, 1) := dk_100 (dk_at dksX0_canGoOn_2 21 rfl rfl)
theorem dX0_canGoOn_70 : decode cX0_canGoOn 70 = .ok (.invokevirtual 405, 3) := dk_182 1 149 (dk_at dksX0_canGoOn_3 0 rfl rfl)
theorem dX0_canGoOn_73 : decode cX0_canGoOn 73 = .ok (.ifCond .eq 28, 3) := dk_153 0 28 (dk_at dksX0_canGoOn_3 3 rfl rfl)
theorem dX0_canGoOn_76 : decode cX0_canGoOn 76 = .ok (.aload_n 0, 1) := dk_42 (dk_at dksX0_canGoOn_3 6 rfl rfl)
theorem dX0_canGoOn_77 : decode cX0_canGoOn 77 = .ok (.iload_n 1, 1) := dk_27 (dk_at dksX0_canGoOn_3 7 rfl rfl)
theorem dX0_canGoOn_78 : decode cX0_canGoOn 78 = .ok (.iconst 1, 1) := dk_4 (dk_at dksX0_canGoOn_3 8 rfl rfl)
theorem dX0_canGoOn_79 : decode cX0_canGoOn 79 = .ok (.iadd, 1) := dk_96 (dk_at dksX0_canGoOn_3 9 rfl rfl)
theorem dX0_canGoOn_80 : decode cX0_canGoOn 80 = .ok (.iload_n 2, 1) := dk_28 (dk_at dksX0_canGoOn_3 10 rfl rfl)
theorem dX0_canGoOn_81 : decode cX0_canGoOn 81 = .ok (.iload_n 3, 1) := dk_29 (dk_at dksX0_canGoOn_3 11 rfl rfl)
theorem dX0_canGoOn_82 : decode cX0_canGoOn 82 = .ok (.iconst 1, 1) := dk_4 (dk_at dksX0_canGoOn_3 12 rfl rfl)
theorem dX0_canGoOn_83 : decode cX0_canGoOn 83 = .ok (.isub, 1) := dk_100 (dk_at dksX0_canGoOn_3 13 rfl rfl)
theorem dX0_canGoOn_84 : decode cX0_canGoOn 84 = .ok (.iload 4, 2) := dk_21 4 (dk_at dksX0_canGoOn_3 14 rfl rfl)
theorem dX0_canGoOn_86 : decode cX0_canGoOn 86 = .ok (.iload 6, 2) := dk_21 6 (dk_at dksX0_canGoOn_3 16 rfl rfl)
theorem dX0_canGoOn_88 : decode cX0_canGoOn 88 = .ok (.isub, 1) := dk_100 (dk_at dksX0_canGoOn_3 18 rfl rfl)
theorem dX0_canGoOn_89 : decode cX0_canGoOn 89 = .ok (.iload 5, 2) := dk_21 5 (dk_at dksX0_canGoOn_3 19 rfl rfl)
theorem dX0_canGoOn_91 : decode cX0_canGoOn 91 = .ok (.invokevirtual 405, 3) := dk_182 1 149 (dk_at dksX0_canGoOn_3 21 rfl rfl)
theorem dX0_canGoOn_94 : decode cX0_canGoOn 94 = .ok (.ifCond .eq 7, 3) := dk_153 0 7 (dk_at dksX0_canGoOn_4 0 rfl rfl)
theorem dX0_canGoOn_97 : decode cX0_canGoOn 97 = .ok (.iconst 1, 1) := dk_4 (dk_at dksX0_canGoOn_4 3 rfl rfl)
theorem dX0_canGoOn_98 : decode cX0_canGoOn 98 = .ok (.goto 4, 3) := dk_167 0 4 (dk_at dksX0_canGoOn_4 4 rfl rfl)
theorem dX0_canGoOn_101 : decode cX0_canGoOn 101 = .ok (.iconst 0, 1) := dk_3 (dk_at dksX0_canGoOn_4 7 rfl rfl)
theorem dX0_canGoOn_102 : decode cX0_canGoOn 102 = .ok (.ireturn, 1) := dk_172 (dk_at dksX0_canGoOn_4 8 rfl rfl)
abbrev cX0_canPlan : ByteArray := prog_1_method_45_code
def dkwX0_canPlan_2 : List UInt8 := [180, 1, 70, 5, 46, 184, 0, 161, 153, 0, 7, 4, 167, 0, 4, 3, 172]
abbrev dktX0_canPlan_2 : List UInt8 := dkwX0_canPlan_2 ++ []
def dkwX0_canPlan_1 : List UInt8 := [28, 3, 42, 180, 0, 52, 180, 1, 70, 4, 46, 184, 0, 161, 153, 0, 24, 29, 3, 42, 180, 0, 52]
abbrev dktX0_canPlan_1 : List UInt8 := dkwX0_canPlan_1 ++ dktX0_canPlan_2
def dkwX0_canPlan_0 : List UInt8 := [42, 180, 0, 151, 158, 0, 58, 27, 3, 42, 180, 0, 52, 180, 1, 70, 3, 46, 184, 0, 161, 153, 0, 41]
abbrev dktX0_canPlan_0 : List UInt8 := dkwX0_canPlan_0 ++ dktX0_canPlan_1
theorem dksX0_canPlan_0 : cX0_canPlan.data.toList.drop 0 = dktX0_canPlan_0 := by decide +kernel
theorem dksX0_canPlan_1 : cX0_canPlan.data.toList.drop 24 = dktX0_canPlan_1 := dk_seg dksX0_canPlan_0 24 rfl rfl
theorem dksX0_canPlan_2 : cX0_canPlan.data.toList.drop 47 = dktX0_canPlan_2 := dk_seg dksX0_canPlan_1 23 rfl rfl
theorem dX0_canPlan_0 : decode cX0_canPlan 0 = .ok (.aload_n 0, 1) := dk_42 (dk_at dksX0_canPlan_0 0 rfl rfl)
theorem dX0_canPlan_1 : decode cX0_canPlan 1 = .ok (.getfield 151, 3) := dk_180 0 151 (dk_at dksX0_canPlan_0 1 rfl rfl)
theorem dX0_canPlan_4 : decode cX0_canPlan 4 = .ok (.ifCond .le 58, 3) := dk_158 0 58 (dk_at dksX0_canPlan_0 4 rfl rfl)
theorem dX0_canPlan_7 : decode cX0_canPlan 7 = .ok (.iload_n 1, 1) := dk_27 (dk_at dksX0_canPlan_0 7 rfl rfl)
theorem dX0_canPlan_8 : decode cX0_canPlan 8 = .ok (.iconst 0, 1) := dk_3 (dk_at dksX0_canPlan_0 8 rfl rfl)
theorem dX0_canPlan_9 : decode cX0_canPlan 9 = .ok (.aload_n 0, 1) := dk_42 (dk_at dksX0_canPlan_0 9 rfl rfl)
theorem dX0_canPlan_10 : decode cX0_canPlan 10 = .ok (.getfield 52, 3) := dk_180 0 52 (dk_at dksX0_canPlan_0 10 rfl rfl)
theorem dX0_canPlan_13 : decode cX0_canPlan 13 = .ok (.getfield 326, 3) := dk_180 1 70 (dk_at dksX0_canPlan_0 13 rfl rfl)
theorem dX0_canPlan_16 : decode cX0_canPlan 16 = .ok (.iconst 0, 1) := dk_3 (dk_at dksX0_canPlan_0 16 rfl rfl)
theorem dX0_canPlan_17 : decode cX0_canPlan 17 = .ok (.iaload, 1) := dk_46 (dk_at dksX0_canPlan_0 17 rfl rfl)
theorem dX0_canPlan_18 : decode cX0_canPlan 18 = .ok (.invokestatic 161, 3) := dk_184 0 161 (dk_at dksX0_canPlan_0 18 rfl rfl)
theorem dX0_canPlan_21 : decode cX0_canPlan 21 = .ok (.ifCond .eq 41, 3) := dk_153 0 41 (dk_at dksX0_canPlan_0 21 rfl rfl)
theorem dX0_canPlan_24 : decode cX0_canPlan 24 = .ok (.iload_n 2, 1) := dk_28 (dk_at dksX0_canPlan_1 0 rfl rfl)
theorem dX0_canPlan_25 : decode cX0_canPlan 25 = .ok (.iconst 0, 1) := dk_3 (dk_at dksX0_canPlan_1 1 rfl rfl)
theorem dX0_canPlan_26 : decode cX0_canPlan 26 = .ok (.aload_n 0, 1) := dk_42 (dk_at dksX0_canPlan_1 2 rfl rfl)
theorem dX0_canPlan_27 : decode cX0_canPlan 27 = .ok (.getfield 52, 3) := dk_180 0 52 (dk_at dksX0_canPlan_1 3 rfl rfl)
theorem dX0_canPlan_30 : decode cX0_canPlan 30 = .ok (.getfield 326, 3) := dk_180 1 70 (dk_at dksX0_canPlan_1 6 rfl rfl)
theorem dX0_canPlan_33 : decode cX0_canPlan 33 = .ok (.iconst 1, 1) := dk_4 (dk_at dksX0_canPlan_1 9 rfl rfl)
theorem dX0_canPlan_34 : decode cX0_canPlan 34 = .ok (.iaload, 1) := dk_46 (dk_at dksX0_canPlan_1 10 rfl rfl)
theorem dX0_canPlan_35 : decode cX0_canPlan 35 = .ok (.invokestatic 161, 3) := dk_184 0 161 (dk_at dksX0_canPlan_1 11 rfl rfl)
theorem dX0_canPlan_38 : decode cX0_canPlan 38 = .ok (.ifCond .eq 24, 3) := dk_153 0 24 (dk_at dksX0_canPlan_1 14 rfl rfl)
theorem dX0_canPlan_41 : decode cX0_canPlan 41 = .ok (.iload_n 3, 1) := dk_29 (dk_at dksX0_canPlan_1 17 rfl rfl)
theorem dX0_canPlan_42 : decode cX0_canPlan 42 = .ok (.iconst 0, 1) := dk_3 (dk_at dksX0_canPlan_1 18 rfl rfl)
theorem dX0_canPlan_43 : decode cX0_canPlan 43 = .ok (.aload_n 0, 1) := dk_42 (dk_at dksX0_canPlan_1 19 rfl rfl)
theorem dX0_canPlan_44 : decode cX0_canPlan 44 = .ok (.getfield 52, 3) := dk_180 0 52 (dk_at dksX0_canPlan_1 20 rfl rfl)
theorem dX0_canPlan_47 : decode cX0_canPlan 47 = .ok (.getfield 326, 3) := dk_180 1 70 (dk_at dksX0_canPlan_2 0 rfl rfl)
theorem dX0_canPlan_50 : decode cX0_canPlan 50 = .ok (.iconst 2, 1) := dk_5 (dk_at dksX0_canPlan_2 3 rfl rfl)
theorem dX0_canPlan_51 : decode cX0_canPlan 51 = .ok (.iaload, 1) := dk_46 (dk_at dksX0_canPlan_2 4 rfl rfl)
theorem dX0_canPlan_52 : decode cX0_canPlan 52 = .ok (.invokestatic 161, 3) := dk_184 0 161 (dk_at dksX0_canPlan_2 5 rfl rfl)
theorem dX0_canPlan_55 : decode cX0_canPlan 55 = .ok (.ifCond .eq 7, 3) := dk_153 0 7 (dk_at dksX0_canPlan_2 8 rfl rfl)
theorem dX0_canPlan_58 : decode cX0_canPlan 58 = .ok (.iconst 1, 1) := dk_4 (dk_at dksX0_canPlan_2 11 rfl rfl)
theorem dX0_canPlan_59 : decode cX0_canPlan 59 = .ok (.goto 4, 3) := dk_167 0 4 (dk_at dksX0_canPlan_2 12 rfl rfl)
theorem dX0_canPlan_62 : decode cX0_canPlan 62 = .ok (.iconst 0, 1) := dk_3 (dk_at dksX0_canPlan_2 15 rfl rfl)
theorem dX0_canPlan_63 : decode cX0_canPlan 63 = .ok (.ireturn, 1) := dk_172 (dk_at dksX0_canPlan_2 16 rfl rfl)
abbrev cX0_canWait : ByteArray := prog_1_method_63_code
def dkwX0_canWait_2 : List UInt8 := [167, 0, 4, 3, 172]
abbrev dktX0_canWait_2 : List UInt8 := dkwX0_canWait_2 ++ []
def dkwX0_canWait_1 : List UInt8 := [96, 184, 1, 38, 16, 30, 21, 5, 42, 180, 1, 140, 96, 184, 1, 38, 184, 1, 146, 51, 153, 0, 7, 4]
abbrev dktX0_canWait_1 : List UInt8 := dkwX0_canWait_1 ++ dktX0_canWait_2
def dkwX0_canWait_0 : List UInt8 := [28, 158, 0, 50, 42, 180, 0, 121, 27, 50, 28, 4, 100, 50, 29, 50, 16, 30, 21, 4, 42, 180, 1, 140]
abbrev dktX0_canWait_0 : List UInt8 := dkwX0_canWait_0 ++ dktX0_canWait_1
theorem dksX0_canWait_0 : cX0_canWait.data.toList.drop 0 = dktX0_canWait_0 := by decide +kernel
theorem dksX0_canWait_1 : cX0_canWait.data.toList.drop 24 = dktX0_canWait_1 := dk_seg dksX0_canWait_0 24 rfl rfl
theorem dksX0_canWait_2 : cX0_canWait.data.toList.drop 48 = dktX0_canWait_2 := dk_seg dksX0_canWait_1 24 rfl rfl
theorem dX0_canWait_0 : decode cX0_canWait 0 = .ok (.iload_n 2, 1) := dk_28 (dk_at dksX0_canWait_0 0 rfl rfl)
theorem dX0_canWait_1 : decode cX0_canWait 1 = .ok (.ifCond .le 50, 3) := dk_158 0 50 (dk_at dksX0_canWait_0 1 rfl rfl)
theorem dX0_canWait_4 : decode cX0_canWait 4 = .ok (.aload_n 0, 1) := dk_42 (dk_at dksX0_canWait_0 4 rfl rfl)
theorem dX0_canWait_5 : decode cX0_canWait 5 = .ok (.getfield 121, 3) := dk_180 0 121 (dk_at dksX0_canWait_0 5 rfl rfl)
theorem dX0_canWait_8 : decode cX0_canWait 8 = .ok (.iload_n 1, 1) := dk_27 (dk_at dksX0_canWait_0 8 rfl rfl)
theorem dX0_canWait_9 : decode cX0_canWait 9 = .ok (.aaload, 1) := dk_50 (dk_at dksX0_canWait_0 9 rfl rfl)
theorem dX0_canWait_10 : decode cX0_canWait 10 = .ok (.iload_n 2, 1) := dk_28 (dk_at dksX0_canWait_0 10 rfl rfl)
theorem dX0_canWait_11 : decode cX0_canWait 11 = .ok (.iconst 1, 1) := dk_4 (dk_at dksX0_canWait_0 11 rfl rfl)
theorem dX0_canWait_12 : decode cX0_canWait 12 = .ok (.isub, 1) := dk_100 (dk_at dksX0_canWait_0 12 rfl rfl)
theorem dX0_canWait_13 : decode cX0_canWait 13 = .ok (.aaload, 1) := dk_50 (dk_at dksX0_canWait_0 13 rfl rfl)
theorem dX0_canWait_14 : decode cX0_canWait 14 = .ok (.iload_n 3, 1) := dk_29 (dk_at dksX0_canWait_0 14 rfl rfl)
theorem dX0_canWait_15 : decode cX0_canWait 15 = .ok (.aaload, 1) := dk_50 (dk_at dksX0_canWait_0 15 rfl rfl)
theorem dX0_canWait_16 : decode cX0_canWait 16 = .ok (.bipush 30, 2) := dk_16 30 (dk_at dksX0_canWait_0 16 rfl rfl)
theorem dX0_canWait_18 : decode cX0_canWait 18 = .ok (.iload 4, 2) := dk_21 4 (dk_at dksX0_canWait_0 18 rfl rfl)
theorem dX0_canWait_20 : decode cX0_canWait 20 = .ok (.aload_n 0, 1) := dk_42 (dk_at dksX0_canWait_0 20 rfl rfl)
theorem dX0_canWait_21 : decode cX0_canWait 21 = .ok (.getfield 396, 3) := dk_180 1 140 (dk_at dksX0_canWait_0 21 rfl rfl)
theorem dX0_canWait_24 : decode cX0_canWait 24 = .ok (.iadd, 1) := dk_96 (dk_at dksX0_canWait_1 0 rfl rfl)
theorem dX0_canWait_25 : decode cX0_canWait 25 = .ok (.invokestatic 294, 3) := dk_184 1 38 (dk_at dksX0_canWait_1 1 rfl rfl)
theorem dX0_canWait_28 : decode cX0_canWait 28 = .ok (.bipush 30, 2) := dk_16 30 (dk_at dksX0_canWait_1 4 rfl rfl)
theorem dX0_canWait_30 : decode cX0_canWait 30 = .ok (.iload 5, 2) := dk_21 5 (dk_at dksX0_canWait_1 6 rfl rfl)
theorem dX0_canWait_32 : decode cX0_canWait 32 = .ok (.aload_n 0, 1) := dk_42 (dk_at dksX0_canWait_1 8 rfl rfl)
theorem dX0_canWait_33 : decode cX0_canWait 33 = .ok (.getfield 396, 3) := dk_180 1 140 (dk_at dksX0_canWait_1 9 rfl rfl)
theorem dX0_canWait_36 : decode cX0_canWait 36 = .ok (.iadd, 1) := dk_96 (dk_at dksX0_canWait_1 12 rfl rfl)
theorem dX0_canWait_37 : decode cX0_canWait 37 = .ok (.invokestatic 294, 3) := dk_184 1 38 (dk_at dksX0_canWait_1 13 rfl rfl)
theorem dX0_canWait_40 : decode cX0_canWait 40 = .ok (.invokestatic 402, 3) := dk_184 1 146 (dk_at dksX0_canWait_1 16 rfl rfl)
theorem dX0_canWait_43 : decode cX0_canWait 43 = .ok (.baload, 1) := dk_51 (dk_at dksX0_canWait_1 19 rfl rfl)
theorem dX0_canWait_44 : decode cX0_canWait 44 = .ok (.ifCond .eq 7, 3) := dk_153 0 7 (dk_at dksX0_canWait_1 20 rfl rfl)
theorem dX0_canWait_47 : decode cX0_canWait 47 = .ok (.iconst 1, 1) := dk_4 (dk_at dksX0_canWait_1 23 rfl rfl)
theorem dX0_canWait_48 : decode cX0_canWait 48 = .ok (.goto 4, 3) := dk_167 0 4 (dk_at dksX0_canWait_2 0 rfl rfl)
theorem dX0_canWait_51 : decode cX0_canWait 51 = .ok (.iconst 0, 1) := dk_3 (dk_at dksX0_canWait_2 3 rfl rfl)
theorem dX0_canWait_52 : decode cX0_canWait 52 = .ok (.ireturn, 1) := dk_172 (dk_at dksX0_canWait_2 4 rfl rfl)
abbrev cX0_change : ByteArray := prog_1_method_25_code
def dkwX0_change_1 : List UInt8 := [89, 27, 28, 42, 180, 1, 6, 183, 1, 9, 182, 1, 12, 172]
abbrev dktX0_change_1 : List UInt8 := dkwX0_change_1 ++ []
def dkwX0_change_0 : List UInt8 := [42, 42, 27, 182, 0, 190, 198, 0, 14, 28, 184, 1, 1, 153, 0, 7, 4, 167, 0, 4, 3, 187, 1, 4]
abbrev dktX0_change_0 : List UInt8 := dkwX0_change_0 ++ dktX0_change_1
theorem dksX0_change_0 : cX0_change.data.toList.drop 0 = dktX0_change_0 := by decide +kernel
theorem dksX0_change_1 : cX0_change.data.toList.drop 24 = dktX0_change_1 := dk_seg dksX0_change_0 24 rfl rfl
theorem dX0_change_0 : decode cX0_change 0 = .ok (.aload_n 0, 1) := dk_42 (dk_at dksX0_change_0 0 rfl rfl)
theorem dX0_change_1 : decode cX0_change 1 = .ok (.aload_n 0, 1) := dk_42 (dk_at dksX0_change_0 1 rfl rfl)
theorem dX0_change_2 : decode cX0_change 2 = .ok (.iload_n 1, 1) := dk_27 (dk_at dksX0_change_0 2 rfl rfl)
theorem dX0_change_3 : decode cX0_change 3 = .ok (.invokevirtual 190, 3) := dk_182 0 190 (dk_at dksX0_change_0 3 rfl rfl)
theorem dX0_change_6 : decode cX0_change 6 = .ok (.ifnull 14, 3) := dk_198 0 14 (dk_at dksX0_change_0 6 rfl rfl)
theorem dX0_change_9 : decode cX0_change 9 = .ok (.iload_n 2, 1) := dk_28 (dk_at dksX0_change_0 9 rfl rfl)
theorem dX0_change_10 : decode cX0_change 10 = .ok (.invokestatic 257, 3) := dk_184 1 1 (dk_at dksX0_change_0 10 rfl rfl)
theorem dX0_change_13 : decode cX0_change 13 = .ok (.ifCond .eq 7, 3) := dk_153 0 7 (dk_at dksX0_change_0 13 rfl rfl)
theorem dX0_change_16 : decode cX0_change 16 = .ok (.iconst 1, 1) := dk_4 (dk_at dksX0_change_0 16 rfl rfl)
theorem dX0_change_17 : decode cX0_change 17 = .ok (.goto 4, 3) := dk_167 0 4 (dk_at dksX0_change_0 17 rfl rfl)
theorem dX0_change_20 : decode cX0_change 20 = .ok (.iconst 0, 1) := dk_3 (dk_at dksX0_change_0 20 rfl rfl)
theorem dX0_change_21 : decode cX0_change 21 = .ok (.new 260, 3) := dk_187 1 4 (dk_at dksX0_change_0 21 rfl rfl)
theorem dX0_change_24 : decode cX0_change 24 = .ok (.dup, 1) := dk_89 (dk_at dksX0_change_1 0 rfl rfl)
theorem dX0_change_25 : decode cX0_change 25 = .ok (.iload_n 1, 1) := dk_27 (dk_at dksX0_change_1 1 rfl rfl)
theorem dX0_change_26 : decode cX0_change 26 = .ok (.iload_n 2, 1) := dk_28 (dk_at dksX0_change_1 2 rfl rfl)
theorem dX0_change_27 : decode cX0_change 27 = .ok (.aload_n 0, 1) := dk_42 (dk_at dksX0_change_1 3 rfl rfl)
theorem dX0_change_28 : decode cX0_change 28 = .ok (.getfield 262, 3) := dk_180 1 6 (dk_at dksX0_change_1 4 rfl rfl)
theorem dX0_change_31 : decode cX0_change 31 = .ok (.invokespecial 265, 3) := dk_183 1 9 (dk_at dksX0_change_1 7 rfl rfl)
theorem dX0_change_34 : decode cX0_change 34 = .ok (.invokevirtual 268, 3) := dk_182 1 12 (dk_at dksX0_change_1 10 rfl rfl)
theorem dX0_change_37 : decode cX0_change 37 = .ok (.ireturn, 1) := dk_172 (dk_at dksX0_change_1 13 rfl rfl)
abbrev cX0_clash : ByteArray := prog_1_method_15_code
def dkwX0_clash_2 : List UInt8 := [153, 0, 7, 3, 167, 0, 6, 4, 29, 120, 128, 61, 132, 3, 1, 167, 255, 208, 28, 172]
abbrev dktX0_clash_2 : List UInt8 := dkwX0_clash_2 ++ []
def dkwX0_clash_1 : List UInt8 := [162, 0, 40, 28, 42, 180, 0, 52, 180, 0, 201, 29, 182, 0, 184, 192, 0, 204, 27, 182, 0, 206]
abbrev dktX0_clash_1 : List UInt8 := dkwX0_clash_1 ++ dktX0_clash_2
def dkwX0_clash_0 : List UInt8 := [27, 184, 0, 194, 154, 0, 5, 2, 172, 3, 61, 3, 62, 29, 42, 180, 0, 52, 180, 0, 201, 182, 0, 181]
abbrev dktX0_clash_0 : List UInt8 := dkwX0_clash_0 ++ dktX0_clash_1
theorem dksX0_clash_0 : cX0_clash.data.toList.drop 0 = dktX0_clash_0 := by decide +kernel
theorem dksX0_clash_1 : cX0_clash.data.toList.drop 24 = dktX0_clash_1 := dk_seg dksX0_clash_0 24 rfl rfl
theorem dksX0_clash_2 : cX0_clash.data.toList.drop 46 = dktX0_clash_2 := dk_seg dksX0_clash_1 22 rfl rfl
theorem dX0_clash_0 : decode cX0_clash 0 = .ok (.iload_n 1, 1) := dk_27 (dk_at dksX0_clash_0 0 rfl rfl)
theorem dX0_clash_1 : decode cX0_clash 1 = .ok (.invokestatic 194, 3) := dk_184 0 194 (dk_at dksX0_clash_0 1 rfl rfl)
theorem dX0_clash_4 : decode cX0_clash 4 = .ok (.ifCond .ne 5, 3) := dk_154 0 5 (dk_at dksX0_clash_0 4 rfl rfl)
theorem dX0_clash_7 : decode cX0_clash 7 = .ok (.iconst (-1), 1) := dk_2 (dk_at dksX0_clash_0 7 rfl rfl)
theorem dX0_clash_8 : decode cX0_clash 8 = .ok (.ireturn, 1) := dk_172 (dk_at dksX0_clash_0 8 rfl rfl)
theorem dX0_clash_9 : decode cX0_clash 9 = .ok (.iconst 0, 1) := dk_3 (dk_at dksX0_clash_0 9 rfl rfl)
theorem dX0_clash_10 : decode cX0_clash 10 = .ok (.istore_n 2, 1) := dk_61 (dk_at dksX0_clash_0 10 rfl rfl)
theorem dX0_clash_11 : decode cX0_clash 11 = .ok (.iconst 0, 1) := dk_3 (dk_at dksX0_clash_0 11 rfl rfl)
theorem dX0_clash_12 : decode cX0_clash 12 = .ok (.istore_n 3, 1) := dk_62 (dk_at dksX0_clash_0 12 rfl rfl)
theorem dX0_clash_13 : decode cX0_clash 13 = .ok (.iload_n 3, 1) := dk_29 (dk_at dksX0_clash_0 13 rfl rfl)
theorem dX0_clash_14 : decode cX0_clash 14 = .ok (.aload_n 0, 1) := dk_42 (dk_at dksX0_clash_0 14 rfl rfl)
theorem dX0_clash_15 : decode cX0_clash 15 = .ok (.getfield 52, 3) := dk_180 0 52 (dk_at dksX0_clash_0 15 rfl rfl)
theorem dX0_clash_18 : decode cX0_clash 18 = .ok (.getfield 201, 3) := dk_180 0 201 (dk_at dksX0_clash_0 18 rfl rfl)
theorem dX0_clash_21 : decode cX0_clash 21 = .ok (.invokevirtual 181, 3) := dk_182 0 181 (dk_at dksX0_clash_0 21 rfl rfl)
theorem dX0_clash_24 : decode cX0_clash 24 = .ok (.if_icmp .ge 40, 3) := dk_162 0 40 (dk_at dksX0_clash_1 0 rfl rfl)
theorem dX0_clash_27 : decode cX0_clash 27 = .ok (.iload_n 2, 1) := dk_28 (dk_at dksX0_clash_1 3 rfl rfl)
theorem dX0_clash_28 : decode cX0_clash 28 = .ok (.aload_n 0, 1) := dk_42 (dk_at dksX0_clash_1 4 rfl rfl)
theorem dX0_clash_29 : decode cX0_clash 29 = .ok (.getfield 52, 3) := dk_180 0 52 (dk_at dksX0_clash_1 5 rfl rfl)
theorem dX0_clash_32 : decode cX0_clash 32 = .ok (.getfield 201, 3) := dk_180 0 201 (dk_at dksX0_clash_1 8 rfl rfl)
theorem dX0_clash_35 : decode cX0_clash 35 = .ok (.iload_n 3, 1) := dk_29 (dk_at dksX0_clash_1 11 rfl rfl)
theorem dX0_clash_36 : decode cX0_clash 36 = .ok (.invokevirtual 184, 3) := dk_182 0 184 (dk_at dksX0_clash_1 12 rfl rfl)
theorem dX0_clash_39 : decode cX0_clash 39 = .ok (.checkcast 204, 3) := dk_192 0 204 (dk_at dksX0_clash_1 15 rfl rfl)
theorem dX0_clash_42 : decode cX0_clash 42 = .ok (.iload_n 1, 1) := dk_27 (dk_at dksX0_clash_1 18 rfl rfl)
theorem dX0_clash_43 : decode cX0_clash 43 = .ok (.invokevirtual 206, 3) := dk_182 0 206 (dk_at dksX0_clash_1 19 rfl rfl)
theorem dX0_clash_46 : decode cX0_clash 46 = .ok (.ifCond .eq 7, 3) := dk_153 0 7 (dk_at dksX0_clash_2 0 rfl rfl)
theorem dX0_clash_49 : decode cX0_clash 49 = .ok (.iconst 0, 1) := dk_3 (dk_at dksX0_clash_2 3 rfl rfl)
theorem dX0_clash_50 : decode cX0_clash 50 = .ok (.goto 6, 3) := dk_167 0 6 (dk_at dksX0_clash_2 4 rfl rfl)
theorem dX0_clash_53 : decode cX0_clash 53 = .ok (.iconst 1, 1) := dk_4 (dk_at dksX0_clash_2 7 rfl rfl)
theorem dX0_clash_54 : decode cX0_clash 54 = .ok (.iload_n 3, 1) := dk_29 (dk_at dksX0_clash_2 8 rfl rfl)
theorem dX0_clash_55 : decode cX0_clash 55 = .ok (.ishl, 1) := dk_120 (dk_at dksX0_clash_2 9 rfl rfl)
theorem dX0_clash_56 : decode cX0_clash 56 = .ok (.ior, 1) := dk_128 (dk_at dksX0_clash_2 10 rfl rfl)
theorem dX0_clash_57 : decode cX0_clash 57 = .ok (.istore_n 2, 1) := dk_61 (dk_at dksX0_clash_2 11 rfl rfl)
theorem dX0_clash_58 : decode cX0_clash 58 = .ok (.iinc 3 1, 3) := dk_132 3 1 (dk_at dksX0_clash_2 12 rfl rfl)
theorem dX0_clash_61 : decode cX0_clash 61 = .ok (.goto (-48), 3) := dk_167 255 208 (dk_at dksX0_clash_2 15 rfl rfl)
theorem dX0_clash_64 : decode cX0_clash 64 = .ok (.iload_n 2, 1) := dk_28 (dk_at dksX0_clash_2 18 rfl rfl)
theorem dX0_clash_65 : decode cX0_clash 65 = .ok (.ireturn, 1) := dk_172 (dk_at dksX0_clash_2 19 rfl rfl)
abbrev cX0_cost : ByteArray := prog_1_method_33_code
def dkwX0_cost_1 : List UInt8 := [172]
abbrev dktX0_cost_1 : List UInt8 := dkwX0_cost_1 ++ []
def dkwX0_cost_0 : List UInt8 := [27, 3, 17, 3, 231, 184, 0, 161, 154, 0, 5, 2, 172, 42, 28, 182, 1, 48, 42, 27, 27, 182, 1, 54]
abbrev dktX0_cost_0 : List UInt8 := dkwX0_cost_0 ++ dktX0_cost_1
theorem dksX0_cost_0 : cX0_cost.data.toList.drop 0 = dktX0_cost_0 := by decide +kernel
theorem dksX0_cost_1 : cX0_cost.data.toList.drop 24 = dktX0_cost_1 := dk_seg dksX0_cost_0 24 rfl rfl
theorem dX0_cost_0 : decode cX0_cost 0 = .ok (.iload_n 1, 1) := dk_27 (dk_at dksX0_cost_0 0 rfl rfl)
theorem dX0_cost_1 : decode cX0_cost 1 = .ok (.iconst 0, 1) := dk_3 (dk_at dksX0_cost_0 1 rfl rfl)
theorem dX0_cost_2 : decode cX0_cost 2 = .ok (.sipush 999, 3) := dk_17 3 231 (dk_at dksX0_cost_0 2 rfl rfl)
theorem dX0_cost_5 : decode cX0_cost 5 = .ok (.invokestatic 161, 3) := dk_184 0 161 (dk_at dksX0_cost_0 5 rfl rfl)
theorem dX0_cost_8 : decode cX0_cost 8 = .ok (.ifCond .ne 5, 3) := dk_154 0 5 (dk_at dksX0_cost_0 8 rfl rfl)
theorem dX0_cost_11 : decode cX0_cost 11 = .ok (.iconst (-1), 1) := dk_2 (dk_at dksX0_cost_0 11 rfl rfl)
theorem dX0_cost_12 : decode cX0_cost 12 = .ok (.ireturn, 1) := dk_172 (dk_at dksX0_cost_0 12 rfl rfl)
theorem dX0_cost_13 : decode cX0_cost 13 = .ok (.aload_n 0, 1) := dk_42 (dk_at dksX0_cost_0 13 rfl rfl)
theorem dX0_cost_14 : decode cX0_cost 14 = .ok (.iload_n 2, 1) := dk_28 (dk_at dksX0_cost_0 14 rfl rfl)
theorem dX0_cost_15 : decode cX0_cost 15 = .ok (.invokevirtual 304, 3) := dk_182 1 48 (dk_at dksX0_cost_0 15 rfl rfl)
theorem dX0_cost_18 : decode cX0_cost 18 = .ok (.aload_n 0, 1) := dk_42 (dk_at dksX0_cost_0 18 rfl rfl)
theorem dX0_cost_19 : decode cX0_cost 19 = .ok (.iload_n 1, 1) := dk_27 (dk_at dksX0_cost_0 19 rfl rfl)
theorem dX0_cost_20 : decode cX0_cost 20 = .ok (.iload_n 1, 1) := dk_27 (dk_at dksX0_cost_0 20 rfl rfl)
theorem dX0_cost_21 : decode cX0_cost 21 = .ok (.invokevirtual 310, 3) := dk_182 1 54 (dk_at dksX0_cost_0 21 rfl rfl)
theorem dX0_cost_24 : decode cX0_cost 24 = .ok (.ireturn, 1) := dk_172 (dk_at dksX0_cost_1 0 rfl rfl)
abbrev cX0_costs : ByteArray := prog_1_method_32_code
def dkwX0_costs_2 : List UInt8 := [182, 0, 184, 192, 0, 188, 180, 1, 51, 167, 0, 4, 3, 96, 62, 132, 4, 1, 167, 255, 198, 29, 172]
abbrev dktX0_costs_2 : List UInt8 := dkwX0_costs_2 ++ []
def dkwX0_costs_1 : List UInt8 := [180, 0, 84, 21, 4, 46, 27, 28, 184, 0, 161, 153, 0, 24, 42, 180, 0, 52, 180, 0, 178, 21, 4]
abbrev dktX0_costs_1 : List UInt8 := dkwX0_costs_1 ++ dktX0_costs_2
def dkwX0_costs_0 : List UInt8 := [3, 62, 3, 54, 4, 21, 4, 42, 180, 0, 52, 180, 0, 178, 182, 0, 181, 162, 0, 49, 29, 42]
abbrev dktX0_costs_0 : List UInt8 := dkwX0_costs_0 ++ dktX0_costs_1
theorem dksX0_costs_0 : cX0_costs.data.toList.drop 0 = dktX0_costs_0 := by decide +kernel
theorem dksX0_costs_1 : cX0_costs.data.toList.drop 22 = dktX0_costs_1 := dk_seg dksX0_costs_0 22 rfl rfl
theorem dksX0_costs_2 : cX0_costs.data.toList.drop 45 = dktX0_costs_2 := dk_seg dksX0_costs_1 23 rfl rfl
theorem dX0_costs_0 : decode cX0_costs 0 = .ok (.iconst 0, 1) := dk_3 (dk_at dksX0_costs_0 0 rfl rfl)
theorem dX0_costs_1 : decode cX0_costs 1 = .ok (.istore_n 3, 1) := dk_62 (dk_at dksX0_costs_0 1 rfl rfl)
theorem dX0_costs_2 : decode cX0_costs 2 = .ok (.iconst 0, 1) := dk_3 (dk_at dksX0_costs_0 2 rfl rfl)
theorem dX0_costs_3 : decode cX0_costs 3 = .ok (.istore 4, 2) := dk_54 4 (dk_at dksX0_costs_0 3 rfl rfl)
theorem dX0_costs_5 : decode cX0_costs 5 = .ok (.iload 4, 2) := dk_21 4 (dk_at dksX0_costs_0 5 rfl rfl)
theorem dX0_costs_7 : decode cX0_costs 7 = .ok (.aload_n 0, 1) := dk_42 (dk_at dksX0_costs_0 7 rfl rfl)
theorem dX0_costs_8 : decode cX0_costs 8 = .ok (.getfield 52, 3) := dk_180 0 52 (dk_at dksX0_costs_0 8 rfl rfl)
theorem dX0_costs_11 : decode cX0_costs 11 = .ok (.getfield 178, 3) := dk_180 0 178 (dk_at dksX0_costs_0 11 rfl rfl)
theorem dX0_costs_14 : decode cX0_costs 14 = .ok (.invokevirtual 181, 3) := dk_182 0 181 (dk_at dksX0_costs_0 14 rfl rfl)
theorem dX0_costs_17 : decode cX0_costs 17 = .ok (.if_icmp .ge 49, 3) := dk_162 0 49 (dk_at dksX0_costs_0 17 rfl rfl)
theorem dX0_costs_20 : decode cX0_costs 20 = .ok (.iload_n 3, 1) := dk_29 (dk_at dksX0_costs_0 20 rfl rfl)
theorem dX0_costs_21 : decode cX0_costs 21 = .ok (.aload_n 0, 1) := dk_42 (dk_at dksX0_costs_0 21 rfl rfl)
theorem dX0_costs_22 : decode cX0_costs 22 = .ok (.getfield 84, 3) := dk_180 0 84 (dk_at dksX0_costs_1 0 rfl rfl)
theorem dX0_costs_25 : decode cX0_costs 25 = .ok (.iload 4, 2) := dk_21 4 (dk_at dksX0_costs_1 3 rfl rfl)
theorem dX0_costs_27 : decode cX0_costs 27 = .ok (.iaload, 1) := dk_46 (dk_at dksX0_costs_1 5 rfl rfl)
theorem dX0_costs_28 : decode cX0_costs 28 = .ok (.iload_n 1, 1) := dk_27 (dk_at dksX0_costs_1 6 rfl rfl)
theorem dX0_costs_29 : decode cX0_costs 29 = .ok (.iload_n 2, 1) := dk_28 (dk_at dksX0_costs_1 7 rfl rfl)
theorem dX0_costs_30 : decode cX0_costs 30 = .ok (.invokestatic 161, 3) := dk_184 0 161 (dk_at dksX0_costs_1 8 rfl rfl)
theorem dX0_costs_33 : decode cX0_costs 33 = .ok (.ifCond .eq 24, 3) := dk_153 0 24 (dk_at dksX0_costs_1 11 rfl rfl)
theorem dX0_costs_36 : decode cX0_costs 36 = .ok (.aload_n 0, 1) := dk_42 (dk_at dksX0_costs_1 14 rfl rfl)
theorem dX0_costs_37 : decode cX0_costs 37 = .ok (.getfield 52, 3) := dk_180 0 52 (dk_at dksX0_costs_1 15 rfl rfl)
theorem dX0_costs_40 : decode cX0_costs 40 = .ok (.getfield 178, 3) := dk_180 0 178 (dk_at dksX0_costs_1 18 rfl rfl)
theorem dX0_costs_43 : decode cX0_costs 43 = .ok (.iload 4, 2) := dk_21 4 (dk_at dksX0_costs_1 21 rfl rfl)
theorem dX0_costs_45 : decode cX0_costs 45 = .ok (.invokevirtual 184, 3) := dk_182 0 184 (dk_at dksX0_costs_2 0 rfl rfl)
theorem dX0_costs_48 : decode cX0_costs 48 = .ok (.checkcast 188, 3) := dk_192 0 188 (dk_at dksX0_costs_2 3 rfl rfl)
theorem dX0_costs_51 : decode cX0_costs 51 = .ok (.getfield 307, 3) := dk_180 1 51 (dk_at dksX0_costs_2 6 rfl rfl)
theorem dX0_costs_54 : decode cX0_costs 54 = .ok (.goto 4, 3) := dk_167 0 4 (dk_at dksX0_costs_2 9 rfl rfl)
theorem dX0_costs_57 : decode cX0_costs 57 = .ok (.iconst 0, 1) := dk_3 (dk_at dksX0_costs_2 12 rfl rfl)
theorem dX0_costs_58 : decode cX0_costs 58 = .ok (.iadd, 1) := dk_96 (dk_at dksX0_costs_2 13 rfl rfl)
theorem dX0_costs_59 : decode cX0_costs 59 = .ok (.istore_n 3, 1) := dk_62 (dk_at dksX0_costs_2 14 rfl rfl)
theorem dX0_costs_60 : decode cX0_costs 60 = .ok (.iinc 4 1, 3) := dk_132 4 1 (dk_at dksX0_costs_2 15 rfl rfl)
theorem dX0_costs_63 : decode cX0_costs 63 = .ok (.goto (-58), 3) := dk_167 255 198 (dk_at dksX0_costs_2 18 rfl rfl)
theorem dX0_costs_66 : decode cX0_costs 66 = .ok (.iload_n 3, 1) := dk_29 (dk_at dksX0_costs_2 21 rfl rfl)
theorem dX0_costs_67 : decode cX0_costs 67 = .ok (.ireturn, 1) := dk_172 (dk_at dksX0_costs_2 22 rfl rfl)
abbrev cX0_end : ByteArray := prog_1_method_5_code
def dkwX0_end_0 : List UInt8 := [27, 155, 0, 11, 27, 42, 180, 0, 125, 164, 0, 5, 2, 172, 42, 27, 181, 0, 125, 27, 172]
abbrev dktX0_end_0 : List UInt8 := dkwX0_end_0 ++ []
theorem dksX0_end_0 : cX0_end.data.toList.drop 0 = dktX0_end_0 := by decide +kernel
theorem dX0_end_0 : decode cX0_end 0 = .ok (.iload_n 1, 1) := dk_27 (dk_at dksX0_end_0 0 rfl rfl)
theorem dX0_end_1 : decode cX0_end 1 = .ok (.ifCond .lt 11, 3) := dk_155 0 11 (dk_at dksX0_end_0 1 rfl rfl)
theorem dX0_end_4 : decode cX0_end 4 = .ok (.iload_n 1, 1) := dk_27 (dk_at dksX0_end_0 4 rfl rfl)
theorem dX0_end_5 : decode cX0_end 5 = .ok (.aload_n 0, 1) := dk_42 (dk_at dksX0_end_0 5 rfl rfl)
theorem dX0_end_6 : decode cX0_end 6 = .ok (.getfield 125, 3) := dk_180 0 125 (dk_at dksX0_end_0 6 rfl rfl)
theorem dX0_end_9 : decode cX0_end 9 = .ok (.if_icmp .le 5, 3) := dk_164 0 5 (dk_at dksX0_end_0 9 rfl rfl)
theorem dX0_end_12 : decode cX0_end 12 = .ok (.iconst (-1), 1) := dk_2 (dk_at dksX0_end_0 12 rfl rfl)
theorem dX0_end_13 : decode cX0_end 13 = .ok (.ireturn, 1) := dk_172 (dk_at dksX0_end_0 13 rfl rfl)
theorem dX0_end_14 : decode cX0_end 14 = .ok (.aload_n 0, 1) := dk_42 (dk_at dksX0_end_0 14 rfl rfl)
theorem dX0_end_15 : decode cX0_end 15 = .ok (.iload_n 1, 1) := dk_27 (dk_at dksX0_end_0 15 rfl rfl)
theorem dX0_end_16 : decode cX0_end 16 = .ok (.putfield 125, 3) := dk_181 0 125 (dk_at dksX0_end_0 16 rfl rfl)
theorem dX0_end_19 : decode cX0_end 19 = .ok (.iload_n 1, 1) := dk_27 (dk_at dksX0_end_0 19 rfl rfl)
theorem dX0_end_20 : decode cX0_end 20 = .ok (.ireturn, 1) := dk_172 (dk_at dksX0_end_0 20 rfl rfl)
abbrev cX0_enter : ByteArray := prog_1_method_49_code
def dkwX0_enter_1 : List UInt8 := [184, 1, 38, 79, 177]
abbrev dktX0_enter_1 : List UInt8 := dkwX0_enter_1 ++ []
def dkwX0_enter_0 : List UInt8 := [27, 21, 4, 163, 0, 23, 42, 180, 0, 95, 27, 50, 28, 42, 180, 0, 95, 27, 50, 28, 46, 29]
abbrev dktX0_enter_0 : List UInt8 := dkwX0_enter_0 ++ dktX0_enter_1
theorem dksX0_enter_0 : cX0_enter.data.toList.drop 0 = dktX0_enter_0 := by decide +kernel
theorem dksX0_enter_1 : cX0_enter.data.toList.drop 22 = dktX0_enter_1 := dk_seg dksX0_enter_0 22 rfl rfl
theorem dX0_enter_0 : decode cX0_enter 0 = .ok (.iload_n 1, 1) := dk_27 (dk_at dksX0_enter_0 0 rfl rfl)
theorem dX0_enter_1 : decode cX0_enter 1 = .ok (.iload 4, 2) := dk_21 4 (dk_at dksX0_enter_0 1 rfl rfl)
theorem dX0_enter_3 : decode cX0_enter 3 = .ok (.if_icmp .gt 23, 3) := dk_163 0 23 (dk_at dksX0_enter_0 3 rfl rfl)
theorem dX0_enter_6 : decode cX0_enter 6 = .ok (.aload_n 0, 1) := dk_42 (dk_at dksX0_enter_0 6 rfl rfl)
theorem dX0_enter_7 : decode cX0_enter 7 = .ok (.getfield 95, 3) := dk_180 0 95 (dk_at dksX0_enter_0 7 rfl rfl)
theorem dX0_enter_10 : decode cX0_enter 10 = .ok (.iload_n 1, 1) := dk_27 (dk_at dksX0_enter_0 10 rfl rfl)
theorem dX0_enter_11 : decode cX0_enter 11 = .ok (.aaload, 1) := dk_50 (dk_at dksX0_enter_0 11 rfl rfl)
theorem dX0_enter_12 : decode cX0_enter 12 = .ok (.iload_n 2, 1) := dk_28 (dk_at dksX0_enter_0 12 rfl rfl)
theorem dX0_enter_13 : decode cX0_enter 13 = .ok (.aload_n 0, 1) := dk_42 (dk_at dksX0_enter_0 13 rfl rfl)
theorem dX0_enter_14 : decode cX0_enter 14 = .ok (.getfield 95, 3) := dk_180 0 95 (dk_at dksX0_enter_0 14 rfl rfl)
theorem dX0_enter_17 : decode cX0_enter 17 = .ok (.iload_n 1, 1) := dk_27 (dk_at dksX0_enter_0 17 rfl rfl)
theorem dX0_enter_18 : decode cX0_enter 18 = .ok (.aaload, 1) := dk_50 (dk_at dksX0_enter_0 18 rfl rfl)
theorem dX0_enter_19 : decode cX0_enter 19 = .ok (.iload_n 2, 1) := dk_28 (dk_at dksX0_enter_0 19 rfl rfl)
theorem dX0_enter_20 : decode cX0_enter 20 = .ok (.iaload, 1) := dk_46 (dk_at dksX0_enter_0 20 rfl rfl)
theorem dX0_enter_21 : decode cX0_enter 21 = .ok (.iload_n 3, 1) := dk_29 (dk_at dksX0_enter_0 21 rfl rfl)
theorem dX0_enter_22 : decode cX0_enter 22 = .ok (.invokestatic 294, 3) := dk_184 1 38 (dk_at dksX0_enter_1 0 rfl rfl)
theorem dX0_enter_25 : decode cX0_enter 25 = .ok (.iastore, 1) := dk_79 (dk_at dksX0_enter_1 3 rfl rfl)
theorem dX0_enter_26 : decode cX0_enter 26 = .ok (.return_, 1) := dk_177 (dk_at dksX0_enter_1 4 rfl rfl)
abbrev cX0_estimate : ByteArray := prog_1_method_26_code
def dkwX0_estimate_1 : List UInt8 := [187, 1, 17, 89, 27, 28, 42, 180, 1, 6, 183, 1, 19, 182, 1, 12, 172]
abbrev dktX0_estimate_1 : List UInt8 := dkwX0_estimate_1 ++ []
def dkwX0_estimate_0 : List UInt8 := [42, 27, 184, 1, 1, 153, 0, 18, 28, 3, 19, 1, 16, 184, 0, 161, 153, 0, 7, 4, 167, 0, 4, 3]
abbrev dktX0_estimate_0 : List UInt8 := dkwX0_estimate_0 ++ dktX0_estimate_1
theorem dksX0_estimate_0 : cX0_estimate.data.toList.drop 0 = dktX0_estimate_0 := by decide +kernel
theorem dksX0_estimate_1 : cX0_estimate.data.toList.drop 24 = dktX0_estimate_1 := dk_seg dksX0_estimate_0 24 rfl rfl
theorem dX0_estimate_0 : decode cX0_estimate 0 = .ok (.aload_n 0, 1) := dk_42 (dk_at dksX0_estimate_0 0 rfl rfl)
theorem dX0_estimate_1 : decode cX0_estimate 1 = .ok (.iload_n 1, 1) := dk_27 (dk_at dksX0_estimate_0 1 rfl rfl)
theorem dX0_estimate_2 : decode cX0_estimate 2 = .ok (.invokestatic 257, 3) := dk_184 1 1 (dk_at dksX0_estimate_0 2 rfl rfl)
theorem dX0_estimate_5 : decode cX0_estimate 5 = .ok (.ifCond .eq 18, 3) := dk_153 0 18 (dk_at dksX0_estimate_0 5 rfl rfl)
theorem dX0_estimate_8 : decode cX0_estimate 8 = .ok (.iload_n 2, 1) := dk_28 (dk_at dksX0_estimate_0 8 rfl rfl)
theorem dX0_estimate_9 : decode cX0_estimate 9 = .ok (.iconst 0, 1) := dk_3 (dk_at dksX0_estimate_0 9 rfl rfl)
theorem dX0_estimate_10 : decode cX0_estimate 10 = .ok (.ldc_w 272, 3) := dk_19 1 16 (dk_at dksX0_estimate_0 10 rfl rfl)
theorem dX0_estimate_13 : decode cX0_estimate 13 = .ok (.invokestatic 161, 3) := dk_184 0 161 (dk_at dksX0_estimate_0 13 rfl rfl)
theorem dX0_estimate_16 : decode cX0_estimate 16 = .ok (.ifCond .eq 7, 3) := dk_153 0 7 (dk_at dksX0_estimate_0 16 rfl rfl)
theorem dX0_estimate_19 : decode cX0_estimate 19 = .ok (.iconst 1, 1) := dk_4 (dk_at dksX0_estimate_0 19 rfl rfl)
theorem dX0_estimate_20 : decode cX0_estimate 20 = .ok (.goto 4, 3) := dk_167 0 4 (dk_at dksX0_estimate_0 20 rfl rfl)
theorem dX0_estimate_23 : decode cX0_estimate 23 = .ok (.iconst 0, 1) := dk_3 (dk_at dksX0_estimate_0 23 rfl rfl)
theorem dX0_estimate_24 : decode cX0_estimate 24 = .ok (.new 273, 3) := dk_187 1 17 (dk_at dksX0_estimate_1 0 rfl rfl)
theorem dX0_estimate_27 : decode cX0_estimate 27 = .ok (.dup, 1) := dk_89 (dk_at dksX0_estimate_1 3 rfl rfl)
theorem dX0_estimate_28 : decode cX0_estimate 28 = .ok (.iload_n 1, 1) := dk_27 (dk_at dksX0_estimate_1 4 rfl rfl)
theorem dX0_estimate_29 : decode cX0_estimate 29 = .ok (.iload_n 2, 1) := dk_28 (dk_at dksX0_estimate_1 5 rfl rfl)
theorem dX0_estimate_30 : decode cX0_estimate 30 = .ok (.aload_n 0, 1) := dk_42 (dk_at dksX0_estimate_1 6 rfl rfl)
theorem dX0_estimate_31 : decode cX0_estimate 31 = .ok (.getfield 262, 3) := dk_180 1 6 (dk_at dksX0_estimate_1 7 rfl rfl)
theorem dX0_estimate_34 : decode cX0_estimate 34 = .ok (.invokespecial 275, 3) := dk_183 1 19 (dk_at dksX0_estimate_1 10 rfl rfl)
theorem dX0_estimate_37 : decode cX0_estimate 37 = .ok (.invokevirtual 268, 3) := dk_182 1 12 (dk_at dksX0_estimate_1 13 rfl rfl)
theorem dX0_estimate_40 : decode cX0_estimate 40 = .ok (.ireturn, 1) := dk_172 (dk_at dksX0_estimate_1 16 rfl rfl)
abbrev cX0_fault : ByteArray := prog_1_method_11_code
def dkwX0_fault_1 : List UInt8 := [172]
abbrev dktX0_fault_1 : List UInt8 := dkwX0_fault_1 ++ []
def dkwX0_fault_0 : List UInt8 := [27, 154, 0, 10, 42, 180, 0, 133, 167, 0, 16, 27, 4, 160, 0, 10, 42, 180, 0, 45, 167, 0, 4, 2]
abbrev dktX0_fault_0 : List UInt8 := dkwX0_fault_0 ++ dktX0_fault_1
theorem dksX0_fault_0 : cX0_fault.data.toList.drop 0 = dktX0_fault_0 := by decide +kernel
theorem dksX0_fault_1 : cX0_fault.data.toList.drop 24 = dktX0_fault_1 := dk_seg dksX0_fault_0 24 rfl rfl
theorem dX0_fault_0 : decode cX0_fault 0 = .ok (.iload_n 1, 1) := dk_27 (dk_at dksX0_fault_0 0 rfl rfl)
theorem dX0_fault_1 : decode cX0_fault 1 = .ok (.ifCond .ne 10, 3) := dk_154 0 10 (dk_at dksX0_fault_0 1 rfl rfl)
theorem dX0_fault_4 : decode cX0_fault 4 = .ok (.aload_n 0, 1) := dk_42 (dk_at dksX0_fault_0 4 rfl rfl)
theorem dX0_fault_5 : decode cX0_fault 5 = .ok (.getfield 133, 3) := dk_180 0 133 (dk_at dksX0_fault_0 5 rfl rfl)
theorem dX0_fault_8 : decode cX0_fault 8 = .ok (.goto 16, 3) := dk_167 0 16 (dk_at dksX0_fault_0 8 rfl rfl)
theorem dX0_fault_11 : decode cX0_fault 11 = .ok (.iload_n 1, 1) := dk_27 (dk_at dksX0_fault_0 11 rfl rfl)
theorem dX0_fault_12 : decode cX0_fault 12 = .ok (.iconst 1, 1) := dk_4 (dk_at dksX0_fault_0 12 rfl rfl)
theorem dX0_fault_13 : decode cX0_fault 13 = .ok (.if_icmp .ne 10, 3) := dk_160 0 10 (dk_at dksX0_fault_0 13 rfl rfl)
theorem dX0_fault_16 : decode cX0_fault 16 = .ok (.aload_n 0, 1) := dk_42 (dk_at dksX0_fault_0 16 rfl rfl)
theorem dX0_fault_17 : decode cX0_fault 17 = .ok (.getfield 45, 3) := dk_180 0 45 (dk_at dksX0_fault_0 17 rfl rfl)
theorem dX0_fault_20 : decode cX0_fault 20 = .ok (.goto 4, 3) := dk_167 0 4 (dk_at dksX0_fault_0 20 rfl rfl)
theorem dX0_fault_23 : decode cX0_fault 23 = .ok (.iconst (-1), 1) := dk_2 (dk_at dksX0_fault_0 23 rfl rfl)
theorem dX0_fault_24 : decode cX0_fault 24 = .ok (.ireturn, 1) := dk_172 (dk_at dksX0_fault_1 0 rfl rfl)
abbrev cX0_feed : ByteArray := prog_1_method_4_code
def dkwX0_feed_5 : List UInt8 := [172]
abbrev dktX0_feed_5 : List UInt8 := dkwX0_feed_5 ++ []
def dkwX0_feed_4 : List UInt8 := [180, 0, 125, 4, 96, 181, 0, 125, 132, 11, 248, 167, 255, 223, 132, 9, 1, 167, 255, 199, 42, 180, 0, 125]
abbrev dktX0_feed_4 : List UInt8 := dkwX0_feed_4 ++ dktX0_feed_5
def dkwX0_feed_3 : List UInt8 := [21, 11, 155, 0, 34, 42, 180, 0, 41, 42, 180, 0, 125, 21, 10, 21, 11, 122, 145, 84, 42, 89]
abbrev dktX0_feed_3 : List UInt8 := dkwX0_feed_3 ++ dktX0_feed_4
def dkwX0_feed_2 : List UInt8 := [190, 54, 8, 3, 54, 9, 21, 9, 21, 8, 162, 0, 56, 25, 7, 21, 9, 46, 54, 10, 16, 24, 54, 11]
abbrev dktX0_feed_2 : List UInt8 := dkwX0_feed_2 ++ dktX0_feed_3
def dkwX0_feed_1 : List UInt8 := [28, 79, 89, 5, 29, 79, 89, 6, 21, 4, 79, 89, 7, 21, 5, 79, 58, 6, 25, 6, 58, 7, 25, 7]
abbrev dktX0_feed_1 : List UInt8 := dkwX0_feed_1 ++ dktX0_feed_2
def dkwX0_feed_0 : List UInt8 := [42, 180, 0, 125, 16, 20, 96, 17, 5, 20, 164, 0, 5, 2, 172, 8, 188, 10, 89, 3, 27, 79, 89, 4]
abbrev dktX0_feed_0 : List UInt8 := dkwX0_feed_0 ++ dktX0_feed_1
theorem dksX0_feed_0 : cX0_feed.data.toList.drop 0 = dktX0_feed_0 := by decide +kernel
theorem dksX0_feed_1 : cX0_feed.data.toList.drop 24 = dktX0_feed_1 := dk_seg dksX0_feed_0 24 rfl rfl
theorem dksX0_feed_2 : cX0_feed.data.toList.drop 48 = dktX0_feed_2 := dk_seg dksX0_feed_1 24 rfl rfl
theorem dksX0_feed_3 : cX0_feed.data.toList.drop 72 = dktX0_feed_3 := dk_seg dksX0_feed_2 24 rfl rfl
theorem dksX0_feed_4 : cX0_feed.data.toList.drop 94 = dktX0_feed_4 := dk_seg dksX0_feed_3 22 rfl rfl
theorem dksX0_feed_5 : cX0_feed.data.toList.drop 118 = dktX0_feed_5 := dk_seg dksX0_feed_4 24 rfl rfl
theorem dX0_feed_0 : decode cX0_feed 0 = .ok (.aload_n 0, 1) := dk_42 (dk_at dksX0_feed_0 0 rfl rfl)
theorem dX0_feed_1 : decode cX0_feed 1 = .ok (.getfield 125, 3) := dk_180 0 125 (dk_at dksX0_feed_0 1 rfl rfl)
theorem dX0_feed_4 : decode cX0_feed 4 = .ok (.bipush 20, 2) := dk_16 20 (dk_at dksX0_feed_0 4 rfl rfl)
theorem dX0_feed_6 : decode cX0_feed 6 = .ok (.iadd, 1) := dk_96 (dk_at dksX0_feed_0 6 rfl rfl)
theorem dX0_feed_7 : decode cX0_feed 7 = .ok (.sipush 1300, 3) := dk_17 5 20 (dk_at dksX0_feed_0 7 rfl rfl)
theorem dX0_feed_10 : decode cX0_feed 10 = .ok (.if_icmp .le 5, 3) := dk_164 0 5 (dk_at dksX0_feed_0 10 rfl rfl)
theorem dX0_feed_13 : decode cX0_feed 13 = .ok (.iconst (-1), 1) := dk_2 (dk_at dksX0_feed_0 13 rfl rfl)
theorem dX0_feed_14 : decode cX0_feed 14 = .ok (.ireturn, 1) := dk_172 (dk_at dksX0_feed_0 14 rfl rfl)
theorem dX0_feed_15 : decode cX0_feed 15 = .ok (.iconst 5, 1) := dk_8 (dk_at dksX0_feed_0 15 rfl rfl)
theorem dX0_feed_16 : decode cX0_feed 16 = .ok (.newarray .int, 2) := dk_188_10 (dk_at dksX0_feed_0 16 rfl rfl)
theorem dX0_feed_18 : decode cX0_feed 18 = .ok (.dup, 1) := dk_89 (dk_at dksX0_feed_0 18 rfl rfl)
theorem dX0_feed_19 : decode cX0_feed 19 = .ok (.iconst 0, 1) := dk_3 (dk_at dksX0_feed_0 19 rfl rfl)
theorem dX0_feed_20 : decode cX0_feed 20 = .ok (.iload_n 1, 1) := dk_27 (dk_at dksX0_feed_0 20 rfl rfl)
theorem dX0_feed_21 : decode cX0_feed 21 = .ok (.iastore, 1) := dk_79 (dk_at dksX0_feed_0 21 rfl rfl)
theorem dX0_feed_22 : decode cX0_feed 22 = .ok (.dup, 1) := dk_89 (dk_at dksX0_feed_0 22 rfl rfl)
theorem dX0_feed_23 : decode cX0_feed 23 = .ok (.iconst 1, 1) := dk_4 (dk_at dksX0_feed_0 23 rfl rfl)
theorem dX0_feed_24 : decode cX0_feed 24 = .ok (.iload_n 2, 1) := dk_28 (dk_at dksX0_feed_1 0 rfl rfl)
theorem dX0_feed_25 : decode cX0_feed 25 = .ok (.iastore, 1) := dk_79 (dk_at dksX0_feed_1 1 rfl rfl)
theorem dX0_feed_26 : decode cX0_feed 26 = .ok (.dup, 1) := dk_89 (dk_at dksX0_feed_1 2 rfl rfl)
theorem dX0_feed_27 : decode cX0_feed 27 = .ok (.iconst 2, 1) := dk_5 (dk_at dksX0_feed_1 3 rfl rfl)
theorem dX0_feed_28 : decode cX0_feed 28 = .ok (.iload_n 3, 1) := dk_29 (dk_at dksX0_feed_1 4 rfl rfl)
theorem dX0_feed_29 : decode cX0_feed 29 = .ok (.iastore, 1) := dk_79 (dk_at dksX0_feed_1 5 rfl rfl)
theorem dX0_feed_30 : decode cX0_feed 30 = .ok (.dup, 1) := dk_89 (dk_at dksX0_feed_1 6 rfl rfl)
theorem dX0_feed_31 : decode cX0_feed 31 = .ok (.iconst 3, 1) := dk_6 (dk_at dksX0_feed_1 7 rfl rfl)
theorem dX0_feed_32 : decode cX0_feed 32 = .ok (.iload 4, 2) := dk_21 4 (dk_at dksX0_feed_1 8 rfl rfl)
theorem dX0_feed_34 : decode cX0_feed 34 = .ok (.iastore, 1) := dk_79 (dk_at dksX0_feed_1 10 rfl rfl)
theorem dX0_feed_35 : decode cX0_feed 35 = .ok (.dup, 1) := dk_89 (dk_at dksX0_feed_1 11 rfl rfl)
theorem dX0_feed_36 : decode cX0_feed 36 = .ok (.iconst 4, 1) := dk_7 (dk_at dksX0_feed_1 12 rfl rfl)
theorem dX0_feed_37 : decode cX0_feed 37 = .ok (.iload 5, 2) := dk_21 5 (dk_at dksX0_feed_1 13 rfl rfl)
theorem dX0_feed_39 : decode cX0_feed 39 = .ok (.iastore, 1) := dk_79 (dk_at dksX0_feed_1 15 rfl rfl)
theorem dX0_feed_40 : decode cX0_feed 40 = .ok (.astore 6, 2) := dk_58 6 (dk_at dksX0_feed_1 16 rfl rfl)
theorem dX0_feed_42 : decode cX0_feed 42 = .ok (.aload 6, 2) := dk_25 6 (dk_at dksX0_feed_1 18 rfl rfl)
theorem dX0_feed_44 : decode cX0_feed 44 = .ok (.astore 7, 2) := dk_58 7 (dk_at dksX0_feed_1 20 rfl rfl)
theorem dX0_feed_46 : decode cX0_feed 46 = .ok (.aload 7, 2) := dk_25 7 (dk_at dksX0_feed_1 22 rfl rfl)
theorem dX0_feed_48 : decode cX0_feed 48 = .ok (.arraylength, 1) := dk_190 (dk_at dksX0_feed_2 0 rfl rfl)
theorem dX0_feed_49 : decode cX0_feed 49 = .ok (.istore 8, 2) := dk_54 8 (dk_at dksX0_feed_2 1 rfl rfl)
theorem dX0_feed_51 : decode cX0_feed 51 = .ok (.iconst 0, 1) := dk_3 (dk_at dksX0_feed_2 3 rfl rfl)
theorem dX0_feed_52 : decode cX0_feed 52 = .ok (.istore 9, 2) := dk_54 9 (dk_at dksX0_feed_2 4 rfl rfl)
theorem dX0_feed_54 : decode cX0_feed 54 = .ok (.iload 9, 2) := dk_21 9 (dk_at dksX0_feed_2 6 rfl rfl)
theorem dX0_feed_56 : decode cX0_feed 56 = .ok (.iload 8, 2) := dk_21 8 (dk_at dksX0_feed_2 8 rfl rfl)
theorem dX0_feed_58 : decode cX0_feed 58 = .ok (.if_icmp .ge 56, 3) := dk_162 0 56 (dk_at dksX0_feed_2 10 rfl rfl)
theorem dX0_feed_61 : decode cX0_feed 61 = .ok (.aload 7, 2) := dk_25 7 (dk_at dksX0_feed_2 13 rfl rfl)
theorem dX0_feed_63 : decode cX0_feed 63 = .ok (.iload 9, 2) := dk_21 9 (dk_at dksX0_feed_2 15 rfl rfl)
theorem dX0_feed_65 : decode cX0_feed 65 = .ok (.iaload, 1) := dk_46 (dk_at dksX0_feed_2 17 rfl rfl)
theorem dX0_feed_66 : decode cX0_feed 66 = .ok (.istore 10, 2) := dk_54 10 (dk_at dksX0_feed_2 18 rfl rfl)
theorem dX0_feed_68 : decode cX0_feed 68 = .ok (.bipush 24, 2) := dk_16 24 (dk_at dksX0_feed_2 20 rfl rfl)
theorem dX0_feed_70 : decode cX0_feed 70 = .ok (.istore 11, 2) := dk_54 11 (dk_at dksX0_feed_2 22 rfl rfl)
theorem dX0_feed_72 : decode cX0_feed 72 = .ok (.iload 11, 2) := dk_21 11 (dk_at dksX0_feed_3 0 rfl rfl)
theorem dX0_feed_74 : decode cX0_feed 74 = .ok (.ifCond .lt 34, 3) := dk_155 0 34 (dk_at dksX0_feed_3 2 rfl rfl)
theorem dX0_feed_77 : decode cX0_feed 77 = .ok (.aload_n 0, 1) := dk_42 (dk_at dksX0_feed_3 5 rfl rfl)
theorem dX0_feed_78 : decode cX0_feed 78 = .ok (.getfield 41, 3) := dk_180 0 41 (dk_at dksX0_feed_3 6 rfl rfl)
theorem dX0_feed_81 : decode cX0_feed 81 = .ok (.aload_n 0, 1) := dk_42 (dk_at dksX0_feed_3 9 rfl rfl)
theorem dX0_feed_82 : decode cX0_feed 82 = .ok (.getfield 125, 3) := dk_180 0 125 (dk_at dksX0_feed_3 10 rfl rfl)
theorem dX0_feed_85 : decode cX0_feed 85 = .ok (.iload 10, 2) := dk_21 10 (dk_at dksX0_feed_3 13 rfl rfl)
theorem dX0_feed_87 : decode cX0_feed 87 = .ok (.iload 11, 2) := dk_21 11 (dk_at dksX0_feed_3 15 rfl rfl)
theorem dX0_feed_89 : decode cX0_feed 89 = .ok (.ishr, 1) := dk_122 (dk_at dksX0_feed_3 17 rfl rfl)
theorem dX0_feed_90 : decode cX0_feed 90 = .ok (.i2b, 1) := dk_145 (dk_at dksX0_feed_3 18 rfl rfl)
theorem dX0_feed_91 : decode cX0_feed 91 = .ok (.bastore, 1) := dk_84 (dk_at dksX0_feed_3 19 rfl rfl)
theorem dX0_feed_92 : decode cX0_feed 92 = .ok (.aload_n 0, 1) := dk_42 (dk_at dksX0_feed_3 20 rfl rfl)
theorem dX0_feed_93 : decode cX0_feed 93 = .ok (.dup, 1) := dk_89 (dk_at dksX0_feed_3 21 rfl rfl)
theorem dX0_feed_94 : decode cX0_feed 94 = .ok (.getfield 125, 3) := dk_180 0 125 (dk_at dksX0_feed_4 0 rfl rfl)
theorem dX0_feed_97 : decode cX0_feed 97 = .ok (.iconst 1, 1) := dk_4 (dk_at dksX0_feed_4 3 rfl rfl)
theorem dX0_feed_98 : decode cX0_feed 98 = .ok (.iadd, 1) := dk_96 (dk_at dksX0_feed_4 4 rfl rfl)
theorem dX0_feed_99 : decode cX0_feed 99 = .ok (.putfield 125, 3) := dk_181 0 125 (dk_at dksX0_feed_4 5 rfl rfl)
theorem dX0_feed_102 : decode cX0_feed 102 = .ok (.iinc 11 (-8), 3) := dk_132 11 248 (dk_at dksX0_feed_4 8 rfl rfl)
theorem dX0_feed_105 : decode cX0_feed 105 = .ok (.goto (-33), 3) := dk_167 255 223 (dk_at dksX0_feed_4 11 rfl rfl)
theorem dX0_feed_108 : decode cX0_feed 108 = .ok (.iinc 9 1, 3) := dk_132 9 1 (dk_at dksX0_feed_4 14 rfl rfl)
theorem dX0_feed_111 : decode cX0_feed 111 = .ok (.goto (-57), 3) := dk_167 255 199 (dk_at dksX0_feed_4 17 rfl rfl)
theorem dX0_feed_114 : decode cX0_feed 114 = .ok (.aload_n 0, 1) := dk_42 (dk_at dksX0_feed_4 20 rfl rfl)
theorem dX0_feed_115 : decode cX0_feed 115 = .ok (.getfield 125, 3) := dk_180 0 125 (dk_at dksX0_feed_4 21 rfl rfl)
theorem dX0_feed_118 : decode cX0_feed 118 = .ok (.ireturn, 1) := dk_172 (dk_at dksX0_feed_5 0 rfl rfl)
abbrev cX0_fill : ByteArray := prog_1_method_44_code
def dkwX0_fill_9 : List UInt8 := [46, 172]
abbrev dktX0_fill_9 : List UInt8 := dkwX0_fill_9 ++ []
def dkwX0_fill_8 : List UInt8 := [132, 5, 1, 167, 255, 109, 132, 4, 255, 167, 255, 95, 42, 180, 0, 89, 3, 50, 27, 28, 29, 184, 1, 74]
abbrev dktX0_fill_8 : List UInt8 := dkwX0_fill_8 ++ dktX0_fill_9
def dkwX0_fill_7 : List UInt8 := [132, 9, 1, 167, 255, 223, 132, 8, 1, 167, 255, 203, 42, 180, 0, 89, 21, 4, 50, 21, 5, 21, 6, 79]
abbrev dktX0_fill_7 : List UInt8 := dkwX0_fill_7 ++ dktX0_fill_8
def dkwX0_fill_6 : List UInt8 := [21, 6, 42, 21, 4, 21, 5, 16, 100, 21, 8, 104, 21, 9, 96, 182, 1, 80, 184, 1, 38, 54, 6]
abbrev dktX0_fill_6 : List UInt8 := dkwX0_fill_6 ++ dktX0_fill_7
def dkwX0_fill_5 : List UInt8 := [3, 54, 8, 21, 8, 6, 162, 0, 53, 21, 7, 153, 0, 48, 3, 54, 9, 21, 9, 16, 36, 162, 0, 32]
abbrev dktX0_fill_5 : List UInt8 := dkwX0_fill_5 ++ dktX0_fill_6
def dkwX0_fill_4 : List UInt8 := [21, 5, 16, 15, 126, 42, 180, 0, 52, 180, 1, 70, 5, 46, 163, 0, 7, 4, 167, 0, 4, 3, 54, 7]
abbrev dktX0_fill_4 : List UInt8 := dkwX0_fill_4 ++ dktX0_fill_5
def dkwX0_fill_3 : List UInt8 := [46, 163, 0, 43, 21, 5, 7, 122, 16, 15, 126, 42, 180, 0, 52, 180, 1, 70, 4, 46, 163, 0, 24]
abbrev dktX0_fill_3 : List UInt8 := dkwX0_fill_3 ++ dktX0_fill_4
def dkwX0_fill_2 : List UInt8 := [17, 16, 0, 162, 0, 145, 19, 1, 29, 54, 6, 21, 5, 16, 8, 122, 42, 180, 0, 52, 180, 1, 70, 3]
abbrev dktX0_fill_2 : List UInt8 := dkwX0_fill_2 ++ dktX0_fill_3
def dkwX0_fill_1 : List UInt8 := [132, 4, 1, 167, 255, 232, 42, 180, 0, 151, 4, 100, 54, 4, 21, 4, 155, 0, 162, 3, 54, 5, 21, 5]
abbrev dktX0_fill_1 : List UInt8 := dkwX0_fill_1 ++ dktX0_fill_2
def dkwX0_fill_0 : List UInt8 := [3, 54, 4, 21, 4, 17, 16, 0, 162, 0, 22, 42, 180, 0, 89, 42, 180, 0, 151, 50, 21, 4, 3, 79]
abbrev dktX0_fill_0 : List UInt8 := dkwX0_fill_0 ++ dktX0_fill_1
theorem dksX0_fill_0 : cX0_fill.data.toList.drop 0 = dktX0_fill_0 := by decide +kernel
theorem dksX0_fill_1 : cX0_fill.data.toList.drop 24 = dktX0_fill_1 := dk_seg dksX0_fill_0 24 rfl rfl
theorem dksX0_fill_2 : cX0_fill.data.toList.drop 48 = dktX0_fill_2 := dk_seg dksX0_fill_1 24 rfl rfl
theorem dksX0_fill_3 : cX0_fill.data.toList.drop 72 = dktX0_fill_3 := dk_seg dksX0_fill_2 24 rfl rfl
theorem dksX0_fill_4 : cX0_fill.data.toList.drop 95 = dktX0_fill_4 := dk_seg dksX0_fill_3 23 rfl rfl
theorem dksX0_fill_5 : cX0_fill.data.toList.drop 119 = dktX0_fill_5 := dk_seg dksX0_fill_4 24 rfl rfl
theorem dksX0_fill_6 : cX0_fill.data.toList.drop 143 = dktX0_fill_6 := dk_seg dksX0_fill_5 24 rfl rfl
theorem dksX0_fill_7 : cX0_fill.data.toList.drop 166 = dktX0_fill_7 := dk_seg dksX0_fill_6 23 rfl rfl
theorem dksX0_fill_8 : cX0_fill.data.toList.drop 190 = dktX0_fill_8 := dk_seg dksX0_fill_7 24 rfl rfl
theorem dksX0_fill_9 : cX0_fill.data.toList.drop 214 = dktX0_fill_9 := dk_seg dksX0_fill_8 24 rfl rfl
theorem dX0_fill_0 : decode cX0_fill 0 = .ok (.iconst 0, 1) := dk_3 (dk_at dksX0_fill_0 0 rfl rfl)
theorem dX0_fill_1 : decode cX0_fill 1 = .ok (.istore 4, 2) := dk_54 4 (dk_at dksX0_fill_0 1 rfl rfl)
theorem dX0_fill_3 : decode cX0_fill 3 = .ok (.iload 4, 2) := dk_21 4 (dk_at dksX0_fill_0 3 rfl rfl)
theorem dX0_fill_5 : decode cX0_fill 5 = .ok (.sipush 4096, 3) := dk_17 16 0 (dk_at dksX0_fill_0 5 rfl rfl)
theorem dX0_fill_8 : decode cX0_fill 8 = .ok (.if_icmp .ge 22, 3) := dk_162 0 22 (dk_at dksX0_fill_0 8 rfl rfl)
theorem dX0_fill_11 : decode cX0_fill 11 = .ok (.aload_n 0, 1) := dk_42 (dk_at dksX0_fill_0 11 rfl rfl)
theorem dX0_fill_12 : decode cX0_fill 12 = .ok (.getfield 89, 3) := dk_180 0 89 (dk_at dksX0_fill_0 12 rfl rfl)
theorem dX0_fill_15 : decode cX0_fill 15 = .ok (.aload_n 0, 1) := dk_42 (dk_at dksX0_fill_0 15 rfl rfl)
theorem dX0_fill_16 : decode cX0_fill 16 = .ok (.getfield 151, 3) := dk_180 0 151 (dk_at dksX0_fill_0 16 rfl rfl)
theorem dX0_fill_19 : decode cX0_fill 19 = .ok (.aaload, 1) := dk_50 (dk_at dksX0_fill_0 19 rfl rfl)
theorem dX0_fill_20 : decode cX0_fill 20 = .ok (.iload 4, 2) := dk_21 4 (dk_at dksX0_fill_0 20 rfl rfl)
theorem dX0_fill_22 : decode cX0_fill 22 = .ok (.iconst 0, 1) := dk_3 (dk_at dksX0_fill_0 22 rfl rfl)
theorem dX0_fill_23 : decode cX0_fill 23 = .ok (.iastore, 1) := dk_79 (dk_at dksX0_fill_0 23 rfl rfl)
theorem dX0_fill_24 : decode cX0_fill 24 = .ok (.iinc 4 1, 3) := dk_132 4 1 (dk_at dksX0_fill_1 0 rfl rfl)
theorem dX0_fill_27 : decode cX0_fill 27 = .ok (.goto (-24), 3) := dk_167 255 232 (dk_at dksX0_fill_1 3 rfl rfl)
theorem dX0_fill_30 : decode cX0_fill 30 = .ok (.aload_n 0, 1) := dk_42 (dk_at dksX0_fill_1 6 rfl rfl)
theorem dX0_fill_31 : decode cX0_fill 31 = .ok (.getfield 151, 3) := dk_180 0 151 (dk_at dksX0_fill_1 7 rfl rfl)
theorem dX0_fill_34 : decode cX0_fill 34 = .ok (.iconst 1, 1) := dk_4 (dk_at dksX0_fill_1 10 rfl rfl)
theorem dX0_fill_35 : decode cX0_fill 35 = .ok (.isub, 1) := dk_100 (dk_at dksX0_fill_1 11 rfl rfl)
theorem dX0_fill_36 : decode cX0_fill 36 = .ok (.istore 4, 2) := dk_54 4 (dk_at dksX0_fill_1 12 rfl rfl)
theorem dX0_fill_38 : decode cX0_fill 38 = .ok (.iload 4, 2) := dk_21 4 (dk_at dksX0_fill_1 14 rfl rfl)
theorem dX0_fill_40 : decode cX0_fill 40 = .ok (.ifCond .lt 162, 3) := dk_155 0 162 (dk_at dksX0_fill_1 16 rfl rfl)
theorem dX0_fill_43 : decode cX0_fill 43 = .ok (.iconst 0, 1) := dk_3 (dk_at dksX0_fill_1 19 rfl rfl)
theorem dX0_fill_44 : decode cX0_fill 44 = .ok (.istore 5, 2) := dk_54 5 (dk_at dksX0_fill_1 20 rfl rfl)
theorem dX0_fill_46 : decode cX0_fill 46 = .ok (.iload 5, 2) := dk_21 5 (dk_at dksX0_fill_1 22 rfl rfl)
theorem dX0_fill_48 : decode cX0_fill 48 = .ok (.sipush 4096, 3) := dk_17 16 0 (dk_at dksX0_fill_2 0 rfl rfl)
theorem dX0_fill_51 : decode cX0_fill 51 = .ok (.if_icmp .ge 145, 3) := dk_162 0 145 (dk_at dksX0_fill_2 3 rfl rfl)
theorem dX0_fill_54 : decode cX0_fill 54 = .ok (.ldc_w 285, 3) := dk_19 1 29 (dk_at dksX0_fill_2 6 rfl rfl)
theorem dX0_fill_57 : decode cX0_fill 57 = .ok (.istore 6, 2) := dk_54 6 (dk_at dksX0_fill_2 9 rfl rfl)
theorem dX0_fill_59 : decode cX0_fill 59 = .ok (.iload 5, 2) := dk_21 5 (dk_at dksX0_fill_2 11 rfl rfl)
theorem dX0_fill_61 : decode cX0_fill 61 = .ok (.bipush 8, 2) := dk_16 8 (dk_at dksX0_fill_2 13 rfl rfl)
theorem dX0_fill_63 : decode cX0_fill 63 = .ok (.ishr, 1) := dk_122 (dk_at dksX0_fill_2 15 rfl rfl)
theorem dX0_fill_64 : decode cX0_fill 64 = .ok (.aload_n 0, 1) := dk_42 (dk_at dksX0_fill_2 16 rfl rfl)
theorem dX0_fill_65 : decode cX0_fill 65 = .ok (.getfield 52, 3) := dk_180 0 52 (dk_at dksX0_fill_2 17 rfl rfl)
theorem dX0_fill_68 : decode cX0_fill 68 = .ok (.getfield 326, 3) := dk_180 1 70 (dk_at dksX0_fill_2 20 rfl rfl)
theorem dX0_fill_71 : decode cX0_fill 71 = .ok (.iconst 0, 1) := dk_3 (dk_at dksX0_fill_2 23 rfl rfl)
theorem dX0_fill_72 : decode cX0_fill 72 = .ok (.iaload, 1) := dk_46 (dk_at dksX0_fill_3 0 rfl rfl)
theorem dX0_fill_73 : decode cX0_fill 73 = .ok (.if_icmp .gt 43, 3) := dk_163 0 43 (dk_at dksX0_fill_3 1 rfl rfl)
theorem dX0_fill_76 : decode cX0_fill 76 = .ok (.iload 5, 2) := dk_21 5 (dk_at dksX0_fill_3 4 rfl rfl)
theorem dX0_fill_78 : decode cX0_fill 78 = .ok (.iconst 4, 1) := dk_7 (dk_at dksX0_fill_3 6 rfl rfl)
theorem dX0_fill_79 : decode cX0_fill 79 = .ok (.ishr, 1) := dk_122 (dk_at dksX0_fill_3 7 rfl rfl)
theorem dX0_fill_80 : decode cX0_fill 80 = .ok (.bipush 15, 2) := dk_16 15 (dk_at dksX0_fill_3 8 rfl rfl)
theorem dX0_fill_82 : decode cX0_fill 82 = .ok (.iand, 1) := dk_126 (dk_at dksX0_fill_3 10 rfl rfl)
theorem dX0_fill_83 : decode cX0_fill 83 = .ok (.aload_n 0, 1) := dk_42 (dk_at dksX0_fill_3 11 rfl rfl)
theorem dX0_fill_84 : decode cX0_fill 84 = .ok (.getfield 52, 3) := dk_180 0 52 (dk_at dksX0_fill_3 12 rfl rfl)
theorem dX0_fill_87 : decode cX0_fill 87 = .ok (.getfield 326, 3) := dk_180 1 70 (dk_at dksX0_fill_3 15 rfl rfl)
theorem dX0_fill_90 : decode cX0_fill 90 = .ok (.iconst 1, 1) := dk_4 (dk_at dksX0_fill_3 18 rfl rfl)
theorem dX0_fill_91 : decode cX0_fill 91 = .ok (.iaload, 1) := dk_46 (dk_at dksX0_fill_3 19 rfl rfl)
theorem dX0_fill_92 : decode cX0_fill 92 = .ok (.if_icmp .gt 24, 3) := dk_163 0 24 (dk_at dksX0_fill_3 20 rfl rfl)
theorem dX0_fill_95 : decode cX0_fill 95 = .ok (.iload 5, 2) := dk_21 5 (dk_at dksX0_fill_4 0 rfl rfl)
theorem dX0_fill_97 : decode cX0_fill 97 = .ok (.bipush 15, 2) := dk_16 15 (dk_at dksX0_fill_4 2 rfl rfl)
theorem dX0_fill_99 : decode cX0_fill 99 = .ok (.iand, 1) := dk_126 (dk_at dksX0_fill_4 4 rfl rfl)
theorem dX0_fill_100 : decode cX0_fill 100 = .ok (.aload_n 0, 1) := dk_42 (dk_at dksX0_fill_4 5 rfl rfl)
theorem dX0_fill_101 : decode cX0_fill 101 = .ok (.getfield 52, 3) := dk_180 0 52 (dk_at dksX0_fill_4 6 rfl rfl)
theorem dX0_fill_104 : decode cX0_fill 104 = .ok (.getfield 326, 3) := dk_180 1 70 (dk_at dksX0_fill_4 9 rfl rfl)
theorem dX0_fill_107 : decode cX0_fill 107 = .ok (.iconst 2, 1) := dk_5 (dk_at dksX0_fill_4 12 rfl rfl)
theorem dX0_fill_108 : decode cX0_fill 108 = .ok (.iaload, 1) := dk_46 (dk_at dksX0_fill_4 13 rfl rfl)
theorem dX0_fill_109 : decode cX0_fill 109 = .ok (.if_icmp .gt 7, 3) := dk_163 0 7 (dk_at dksX0_fill_4 14 rfl rfl)
theorem dX0_fill_112 : decode cX0_fill 112 = .ok (.iconst 1, 1) := dk_4 (dk_at dksX0_fill_4 17 rfl rfl)
theorem dX0_fill_113 : decode cX0_fill 113 = .ok (.goto 4, 3) := dk_167 0 4 (dk_at dksX0_fill_4 18 rfl rfl)
theorem dX0_fill_116 : decode cX0_fill 116 = .ok (.iconst 0, 1) := dk_3 (dk_at dksX0_fill_4 21 rfl rfl)
theorem dX0_fill_117 : decode cX0_fill 117 = .ok (.istore 7, 2) := dk_54 7 (dk_at dksX0_fill_4 22 rfl rfl)
theorem dX0_fill_119 : decode cX0_fill 119 = .ok (.iconst 0, 1) := dk_3 (dk_at dksX0_fill_5 0 rfl rfl)
theorem dX0_fill_120 : decode cX0_fill 120 = .ok (.istore 8, 2) := dk_54 8 (dk_at dksX0_fill_5 1 rfl rfl)
theorem dX0_fill_122 : decode cX0_fill 122 = .ok (.iload 8, 2) := dk_21 8 (dk_at dksX0_fill_5 3 rfl rfl)
theorem dX0_fill_124 : decode cX0_fill 124 = .ok (.iconst 3, 1) := dk_6 (dk_at dksX0_fill_5 5 rfl rfl)
theorem dX0_fill_125 : decode cX0_fill 125 = .ok (.if_icmp .ge 53, 3) := dk_162 0 53 (dk_at dksX0_fill_5 6 rfl rfl)
theorem dX0_fill_128 : decode cX0_fill 128 = .ok (.iload 7, 2) := dk_21 7 (dk_at dksX0_fill_5 9 rfl rfl)
theorem dX0_fill_130 : decode cX0_fill 130 = .ok (.ifCond .eq 48, 3) := dk_153 0 48 (dk_at dksX0_fill_5 11 rfl rfl)
theorem dX0_fill_133 : decode cX0_fill 133 = .ok (.iconst 0, 1) := dk_3 (dk_at dksX0_fill_5 14 rfl rfl)
theorem dX0_fill_134 : decode cX0_fill 134 = .ok (.istore 9, 2) := dk_54 9 (dk_at dksX0_fill_5 15 rfl rfl)
theorem dX0_fill_136 : decode cX0_fill 136 = .ok (.iload 9, 2) := dk_21 9 (dk_at dksX0_fill_5 17 rfl rfl)
theorem dX0_fill_138 : decode cX0_fill 138 = .ok (.bipush 36, 2) := dk_16 36 (dk_at dksX0_fill_5 19 rfl rfl)
theorem dX0_fill_140 : decode cX0_fill 140 = .ok (.if_icmp .ge 32, 3) := dk_162 0 32 (dk_at dksX0_fill_5 21 rfl rfl)
theorem dX0_fill_143 : decode cX0_fill 143 = .ok (.iload 6, 2) := dk_21 6 (dk_at dksX0_fill_6 0 rfl rfl)
theorem dX0_fill_145 : decode cX0_fill 145 = .ok (.aload_n 0, 1) := dk_42 (dk_at dksX0_fill_6 2 rfl rfl)
theorem dX0_fill_146 : decode cX0_fill 146 = .ok (.iload 4, 2) := dk_21 4 (dk_at dksX0_fill_6 3 rfl rfl)
theorem dX0_fill_148 : decode cX0_fill 148 = .ok (.iload 5, 2) := dk_21 5 (dk_at dksX0_fill_6 5 rfl rfl)
theorem dX0_fill_150 : decode cX0_fill 150 = .ok (.bipush 100, 2) := dk_16 100 (dk_at dksX0_fill_6 7 rfl rfl)
theorem dX0_fill_152 : decode cX0_fill 152 = .ok (.iload 8, 2) := dk_21 8 (dk_at dksX0_fill_6 9 rfl rfl)
theorem dX0_fill_154 : decode cX0_fill 154 = .ok (.imul, 1) := dk_104 (dk_at dksX0_fill_6 11 rfl rfl)
theorem dX0_fill_155 : decode cX0_fill 155 = .ok (.iload 9, 2) := dk_21 9 (dk_at dksX0_fill_6 12 rfl rfl)
theorem dX0_fill_157 : decode cX0_fill 157 = .ok (.iadd, 1) := dk_96 (dk_at dksX0_fill_6 14 rfl rfl)
theorem dX0_fill_158 : decode cX0_fill 158 = .ok (.invokevirtual 336, 3) := dk_182 1 80 (dk_at dksX0_fill_6 15 rfl rfl)
theorem dX0_fill_161 : decode cX0_fill 161 = .ok (.invokestatic 294, 3) := dk_184 1 38 (dk_at dksX0_fill_6 18 rfl rfl)
theorem dX0_fill_164 : decode cX0_fill 164 = .ok (.istore 6, 2) := dk_54 6 (dk_at dksX0_fill_6 21 rfl rfl)
theorem dX0_fill_166 : decode cX0_fill 166 = .ok (.iinc 9 1, 3) := dk_132 9 1 (dk_at dksX0_fill_7 0 rfl rfl)
theorem dX0_fill_169 : decode cX0_fill 169 = .ok (.goto (-33), 3) := dk_167 255 223 (dk_at dksX0_fill_7 3 rfl rfl)
theorem dX0_fill_172 : decode cX0_fill 172 = .ok (.iinc 8 1, 3) := dk_132 8 1 (dk_at dksX0_fill_7 6 rfl rfl)
theorem dX0_fill_175 : decode cX0_fill 175 = .ok (.goto (-53), 3) := dk_167 255 203 (dk_at dksX0_fill_7 9 rfl rfl)
theorem dX0_fill_178 : decode cX0_fill 178 = .ok (.aload_n 0, 1) := dk_42 (dk_at dksX0_fill_7 12 rfl rfl)
theorem dX0_fill_179 : decode cX0_fill 179 = .ok (.getfield 89, 3) := dk_180 0 89 (dk_at dksX0_fill_7 13 rfl rfl)
theorem dX0_fill_182 : decode cX0_fill 182 = .ok (.iload 4, 2) := dk_21 4 (dk_at dksX0_fill_7 16 rfl rfl)
theorem dX0_fill_184 : decode cX0_fill 184 = .ok (.aaload, 1) := dk_50 (dk_at dksX0_fill_7 18 rfl rfl)
theorem dX0_fill_185 : decode cX0_fill 185 = .ok (.iload 5, 2) := dk_21 5 (dk_at dksX0_fill_7 19 rfl rfl)
theorem dX0_fill_187 : decode cX0_fill 187 = .ok (.iload 6, 2) := dk_21 6 (dk_at dksX0_fill_7 21 rfl rfl)
theorem dX0_fill_189 : decode cX0_fill 189 = .ok (.iastore, 1) := dk_79 (dk_at dksX0_fill_7 23 rfl rfl)
theorem dX0_fill_190 : decode cX0_fill 190 = .ok (.iinc 5 1, 3) := dk_132 5 1 (dk_at dksX0_fill_8 0 rfl rfl)
theorem dX0_fill_193 : decode cX0_fill 193 = .ok (.goto (-147), 3) := dk_167 255 109 (dk_at dksX0_fill_8 3 rfl rfl)
theorem dX0_fill_196 : decode cX0_fill 196 = .ok (.iinc 4 (-1), 3) := dk_132 4 255 (dk_at dksX0_fill_8 6 rfl rfl)
theorem dX0_fill_199 : decode cX0_fill 199 = .ok (.goto (-161), 3) := dk_167 255 95 (dk_at dksX0_fill_8 9 rfl rfl)
theorem dX0_fill_202 : decode cX0_fill 202 = .ok (.aload_n 0, 1) := dk_42 (dk_at dksX0_fill_8 12 rfl rfl)
theorem dX0_fill_203 : decode cX0_fill 203 = .ok (.getfield 89, 3) := dk_180 0 89 (dk_at dksX0_fill_8 13 rfl rfl)
theorem dX0_fill_206 : decode cX0_fill 206 = .ok (.iconst 0, 1) := dk_3 (dk_at dksX0_fill_8 16 rfl rfl)
theorem dX0_fill_207 : decode cX0_fill 207 = .ok (.aaload, 1) := dk_50 (dk_at dksX0_fill_8 17 rfl rfl)
theorem dX0_fill_208 : decode cX0_fill 208 = .ok (.iload_n 1, 1) := dk_27 (dk_at dksX0_fill_8 18 rfl rfl)
theorem dX0_fill_209 : decode cX0_fill 209 = .ok (.iload_n 2, 1) := dk_28 (dk_at dksX0_fill_8 19 rfl rfl)
theorem dX0_fill_210 : decode cX0_fill 210 = .ok (.iload_n 3, 1) := dk_29 (dk_at dksX0_fill_8 20 rfl rfl)
theorem dX0_fill_211 : decode cX0_fill 211 = .ok (.invokestatic 330, 3) := dk_184 1 74 (dk_at dksX0_fill_8 21 rfl rfl)
theorem dX0_fill_214 : decode cX0_fill 214 = .ok (.iaload, 1) := dk_46 (dk_at dksX0_fill_9 0 rfl rfl)
theorem dX0_fill_215 : decode cX0_fill 215 = .ok (.ireturn, 1) := dk_172 (dk_at dksX0_fill_9 1 rfl rfl)
abbrev cX0_fitting : ByteArray := prog_1_method_17_code
def dkwX0_fitting_4 : List UInt8 := [180, 0, 224, 163, 0, 7, 4, 167, 0, 4, 3, 96, 62, 132, 4, 1, 167, 255, 151, 29, 172]
abbrev dktX0_fitting_4 : List UInt8 := dkwX0_fitting_4 ++ []
def dkwX0_fitting_3 : List UInt8 := [167, 0, 11, 25, 5, 180, 0, 216, 182, 0, 213, 54, 7, 29, 21, 6, 21, 7, 100, 184, 0, 219, 25, 5]
abbrev dktX0_fitting_3 : List UInt8 := dkwX0_fitting_3 ++ dktX0_fitting_4
def dkwX0_fitting_2 : List UInt8 := [167, 0, 11, 25, 5, 180, 0, 209, 182, 0, 213, 54, 6, 25, 5, 180, 0, 216, 43, 166, 0, 7, 28]
abbrev dktX0_fitting_2 : List UInt8 := dkwX0_fitting_2 ++ dktX0_fitting_3
def dkwX0_fitting_1 : List UInt8 := [180, 0, 201, 21, 4, 182, 0, 184, 192, 0, 204, 58, 5, 25, 5, 180, 0, 209, 43, 166, 0, 7, 28]
abbrev dktX0_fitting_1 : List UInt8 := dkwX0_fitting_1 ++ dktX0_fitting_2
def dkwX0_fitting_0 : List UInt8 := [3, 62, 3, 54, 4, 21, 4, 42, 180, 0, 52, 180, 0, 201, 182, 0, 181, 162, 0, 96, 42, 180, 0, 52]
abbrev dktX0_fitting_0 : List UInt8 := dkwX0_fitting_0 ++ dktX0_fitting_1
theorem dksX0_fitting_0 : cX0_fitting.data.toList.drop 0 = dktX0_fitting_0 := by decide +kernel
theorem dksX0_fitting_1 : cX0_fitting.data.toList.drop 24 = dktX0_fitting_1 := dk_seg dksX0_fitting_0 24 rfl rfl
theorem dksX0_fitting_2 : cX0_fitting.data.toList.drop 47 = dktX0_fitting_2 := dk_seg dksX0_fitting_1 23 rfl rfl
theorem dksX0_fitting_3 : cX0_fitting.data.toList.drop 70 = dktX0_fitting_3 := dk_seg dksX0_fitting_2 23 rfl rfl
theorem dksX0_fitting_4 : cX0_fitting.data.toList.drop 94 = dktX0_fitting_4 := dk_seg dksX0_fitting_3 24 rfl rfl
theorem dX0_fitting_0 : decode cX0_fitting 0 = .ok (.iconst 0, 1) := dk_3 (dk_at dksX0_fitting_0 0 rfl rfl)
theorem dX0_fitting_1 : decode cX0_fitting 1 = .ok (.istore_n 3, 1) := dk_62 (dk_at dksX0_fitting_0 1 rfl rfl)
theorem dX0_fitting_2 : decode cX0_fitting 2 = .ok (.iconst 0, 1) := dk_3 (dk_at dksX0_fitting_0 2 rfl rfl)
theorem dX0_fitting_3 : decode cX0_fitting 3 = .ok (.istore 4, 2) := dk_54 4 (dk_at dksX0_fitting_0 3 rfl rfl)
theorem dX0_fitting_5 : decode cX0_fitting 5 = .ok (.iload 4, 2) := dk_21 4 (dk_at dksX0_fitting_0 5 rfl rfl)
theorem dX0_fitting_7 : decode cX0_fitting 7 = .ok (.aload_n 0, 1) := dk_42 (dk_at dksX0_fitting_0 7 rfl rfl)
theorem dX0_fitting_8 : decode cX0_fitting 8 = .ok (.getfield 52, 3) := dk_180 0 52 (dk_at dksX0_fitting_0 8 rfl rfl)
theorem dX0_fitting_11 : decode cX0_fitting 11 = .ok (.getfield 201, 3) := dk_180 0 201 (dk_at dksX0_fitting_0 11 rfl rfl)
theorem dX0_fitting_14 : decode cX0_fitting 14 = .ok (.invokevirtual 181, 3) := dk_182 0 181 (dk_at dksX0_fitting_0 14 rfl rfl)
theorem dX0_fitting_17 : decode cX0_fitting 17 = .ok (.if_icmp .ge 96, 3) := dk_162 0 96 (dk_at dksX0_fitting_0 17 rfl rfl)
theorem dX0_fitting_20 : decode cX0_fitting 20 = .ok (.aload_n 0, 1) := dk_42 (dk_at dksX0_fitting_0 20 rfl rfl)
theorem dX0_fitting_21 : decode cX0_fitting 21 = .ok (.getfield 52, 3) := dk_180 0 52 (dk_at dksX0_fitting_0 21 rfl rfl)
theorem dX0_fitting_24 : decode cX0_fitting 24 = .ok (.getfield 201, 3) := dk_180 0 201 (dk_at dksX0_fitting_1 0 rfl rfl)
theorem dX0_fitting_27 : decode cX0_fitting 27 = .ok (.iload 4, 2) := dk_21 4 (dk_at dksX0_fitting_1 3 rfl rfl)
theorem dX0_fitting_29 : decode cX0_fitting 29 = .ok (.invokevirtual 184, 3) := dk_182 0 184 (dk_at dksX0_fitting_1 5 rfl rfl)
theorem dX0_fitting_32 : decode cX0_fitting 32 = .ok (.checkcast 204, 3) := dk_192 0 204 (dk_at dksX0_fitting_1 8 rfl rfl)
theorem dX0_fitting_35 : decode cX0_fitting 35 = .ok (.astore 5, 2) := dk_58 5 (dk_at dksX0_fitting_1 11 rfl rfl)
theorem dX0_fitting_37 : decode cX0_fitting 37 = .ok (.aload 5, 2) := dk_25 5 (dk_at dksX0_fitting_1 13 rfl rfl)
theorem dX0_fitting_39 : decode cX0_fitting 39 = .ok (.getfield 209, 3) := dk_180 0 209 (dk_at dksX0_fitting_1 15 rfl rfl)
theorem dX0_fitting_42 : decode cX0_fitting 42 = .ok (.aload_n 1, 1) := dk_43 (dk_at dksX0_fitting_1 18 rfl rfl)
theorem dX0_fitting_43 : decode cX0_fitting 43 = .ok (.if_acmp .ne 7, 3) := dk_166 0 7 (dk_at dksX0_fitting_1 19 rfl rfl)
theorem dX0_fitting_46 : decode cX0_fitting 46 = .ok (.iload_n 2, 1) := dk_28 (dk_at dksX0_fitting_1 22 rfl rfl)
theorem dX0_fitting_47 : decode cX0_fitting 47 = .ok (.goto 11, 3) := dk_167 0 11 (dk_at dksX0_fitting_2 0 rfl rfl)
theorem dX0_fitting_50 : decode cX0_fitting 50 = .ok (.aload 5, 2) := dk_25 5 (dk_at dksX0_fitting_2 3 rfl rfl)
theorem dX0_fitting_52 : decode cX0_fitting 52 = .ok (.getfield 209, 3) := dk_180 0 209 (dk_at dksX0_fitting_2 5 rfl rfl)
theorem dX0_fitting_55 : decode cX0_fitting 55 = .ok (.invokevirtual 213, 3) := dk_182 0 213 (dk_at dksX0_fitting_2 8 rfl rfl)
theorem dX0_fitting_58 : decode cX0_fitting 58 = .ok (.istore 6, 2) := dk_54 6 (dk_at dksX0_fitting_2 11 rfl rfl)
theorem dX0_fitting_60 : decode cX0_fitting 60 = .ok (.aload 5, 2) := dk_25 5 (dk_at dksX0_fitting_2 13 rfl rfl)
theorem dX0_fitting_62 : decode cX0_fitting 62 = .ok (.getfield 216, 3) := dk_180 0 216 (dk_at dksX0_fitting_2 15 rfl rfl)
theorem dX0_fitting_65 : decode cX0_fitting 65 = .ok (.aload_n 1, 1) := dk_43 (dk_at dksX0_fitting_2 18 rfl rfl)
theorem dX0_fitting_66 : decode cX0_fitting 66 = .ok (.if_acmp .ne 7, 3) := dk_166 0 7 (dk_at dksX0_fitting_2 19 rfl rfl)
theorem dX0_fitting_69 : decode cX0_fitting 69 = .ok (.iload_n 2, 1) := dk_28 (dk_at dksX0_fitting_2 22 rfl rfl)
theorem dX0_fitting_70 : decode cX0_fitting 70 = .ok (.goto 11, 3) := dk_167 0 11 (dk_at dksX0_fitting_3 0 rfl rfl)
theorem dX0_fitting_73 : decode cX0_fitting 73 = .ok (.aload 5, 2) := dk_25 5 (dk_at dksX0_fitting_3 3 rfl rfl)
theorem dX0_fitting_75 : decode cX0_fitting 75 = .ok (.getfield 216, 3) := dk_180 0 216 (dk_at dksX0_fitting_3 5 rfl rfl)
theorem dX0_fitting_78 : decode cX0_fitting 78 = .ok (.invokevirtual 213, 3) := dk_182 0 213 (dk_at dksX0_fitting_3 8 rfl rfl)
theorem dX0_fitting_81 : decode cX0_fitting 81 = .ok (.istore 7, 2) := dk_54 7 (dk_at dksX0_fitting_3 11 rfl rfl)
theorem dX0_fitting_83 : decode cX0_fitting 83 = .ok (.iload_n 3, 1) := dk_29 (dk_at dksX0_fitting_3 13 rfl rfl)
theorem dX0_fitting_84 : decode cX0_fitting 84 = .ok (.iload 6, 2) := dk_21 6 (dk_at dksX0_fitting_3 14 rfl rfl)
theorem dX0_fitting_86 : decode cX0_fitting 86 = .ok (.iload 7, 2) := dk_21 7 (dk_at dksX0_fitting_3 16 rfl rfl)
theorem dX0_fitting_88 : decode cX0_fitting 88 = .ok (.isub, 1) := dk_100 (dk_at dksX0_fitting_3 18 rfl rfl)
theorem dX0_fitting_89 : decode cX0_fitting 89 = .ok (.invokestatic 219, 3) := dk_184 0 219 (dk_at dksX0_fitting_3 19 rfl rfl)
theorem dX0_fitting_92 : decode cX0_fitting 92 = .ok (.aload 5, 2) := dk_25 5 (dk_at dksX0_fitting_3 22 rfl rfl)
theorem dX0_fitting_94 : decode cX0_fitting 94 = .ok (.getfield 224, 3) := dk_180 0 224 (dk_at dksX0_fitting_4 0 rfl rfl)
theorem dX0_fitting_97 : decode cX0_fitting 97 = .ok (.if_icmp .gt 7, 3) := dk_163 0 7 (dk_at dksX0_fitting_4 3 rfl rfl)
theorem dX0_fitting_100 : decode cX0_fitting 100 = .ok (.iconst 1, 1) := dk_4 (dk_at dksX0_fitting_4 6 rfl rfl)
theorem dX0_fitting_101 : decode cX0_fitting 101 = .ok (.goto 4, 3) := dk_167 0 4 (dk_at dksX0_fitting_4 7 rfl rfl)
theorem dX0_fitting_104 : decode cX0_fitting 104 = .ok (.iconst 0, 1) := dk_3 (dk_at dksX0_fitting_4 10 rfl rfl)
theorem dX0_fitting_105 : decode cX0_fitting 105 = .ok (.iadd, 1) := dk_96 (dk_at dksX0_fitting_4 11 rfl rfl)
theorem dX0_fitting_106 : decode cX0_fitting 106 = .ok (.istore_n 3, 1) := dk_62 (dk_at dksX0_fitting_4 12 rfl rfl)
theorem dX0_fitting_107 : decode cX0_fitting 107 = .ok (.iinc 4 1, 3) := dk_132 4 1 (dk_at dksX0_fitting_4 13 rfl rfl)
theorem dX0_fitting_110 : decode cX0_fitting 110 = .ok (.goto (-105), 3) := dk_167 255 151 (dk_at dksX0_fitting_4 16 rfl rfl)
theorem dX0_fitting_113 : decode cX0_fitting 113 = .ok (.iload_n 3, 1) := dk_29 (dk_at dksX0_fitting_4 19 rfl rfl)
theorem dX0_fitting_114 : decode cX0_fitting 114 = .ok (.ireturn, 1) := dk_172 (dk_at dksX0_fitting_4 20 rfl rfl)
abbrev cX0_grant : ByteArray := prog_1_method_59_code
def dkwX0_grant_1 : List UInt8 := [181, 1, 140, 42, 28, 181, 1, 143, 4, 172]
abbrev dktX0_grant_1 : List UInt8 := dkwX0_grant_1 ++ []
def dkwX0_grant_0 : List UInt8 := [27, 3, 16, 9, 184, 0, 161, 153, 0, 12, 28, 3, 7, 184, 0, 161, 154, 0, 5, 3, 172, 42, 27]
abbrev dktX0_grant_0 : List UInt8 := dkwX0_grant_0 ++ dktX0_grant_1
theorem dksX0_grant_0 : cX0_grant.data.toList.drop 0 = dktX0_grant_0 := by decide +kernel
theorem dksX0_grant_1 : cX0_grant.data.toList.drop 23 = dktX0_grant_1 := dk_seg dksX0_grant_0 23 rfl rfl
theorem dX0_grant_0 : decode cX0_grant 0 = .ok (.iload_n 1, 1) := dk_27 (dk_at dksX0_grant_0 0 rfl rfl)
theorem dX0_grant_1 : decode cX0_grant 1 = .ok (.iconst 0, 1) := dk_3 (dk_at dksX0_grant_0 1 rfl rfl)
theorem dX0_grant_2 : decode cX0_grant 2 = .ok (.bipush 9, 2) := dk_16 9 (dk_at dksX0_grant_0 2 rfl rfl)
theorem dX0_grant_4 : decode cX0_grant 4 = .ok (.invokestatic 161, 3) := dk_184 0 161 (dk_at dksX0_grant_0 4 rfl rfl)
theorem dX0_grant_7 : decode cX0_grant 7 = .ok (.ifCond .eq 12, 3) := dk_153 0 12 (dk_at dksX0_grant_0 7 rfl rfl)
theorem dX0_grant_10 : decode cX0_grant 10 = .ok (.iload_n 2, 1) := dk_28 (dk_at dksX0_grant_0 10 rfl rfl)
theorem dX0_grant_11 : decode cX0_grant 11 = .ok (.iconst 0, 1) := dk_3 (dk_at dksX0_grant_0 11 rfl rfl)
theorem dX0_grant_12 : decode cX0_grant 12 = .ok (.iconst 4, 1) := dk_7 (dk_at dksX0_grant_0 12 rfl rfl)
theorem dX0_grant_13 : decode cX0_grant 13 = .ok (.invokestatic 161, 3) := dk_184 0 161 (dk_at dksX0_grant_0 13 rfl rfl)
theorem dX0_grant_16 : decode cX0_grant 16 = .ok (.ifCond .ne 5, 3) := dk_154 0 5 (dk_at dksX0_grant_0 16 rfl rfl)
theorem dX0_grant_19 : decode cX0_grant 19 = .ok (.iconst 0, 1) := dk_3 (dk_at dksX0_grant_0 19 rfl rfl)
theorem dX0_grant_20 : decode cX0_grant 20 = .ok (.ireturn, 1) := dk_172 (dk_at dksX0_grant_0 20 rfl rfl)
theorem dX0_grant_21 : decode cX0_grant 21 = .ok (.aload_n 0, 1) := dk_42 (dk_at dksX0_grant_0 21 rfl rfl)
theorem dX0_grant_22 : decode cX0_grant 22 = .ok (.iload_n 1, 1) := dk_27 (dk_at dksX0_grant_0 22 rfl rfl)
theorem dX0_grant_23 : decode cX0_grant 23 = .ok (.putfield 396, 3) := dk_181 1 140 (dk_at dksX0_grant_1 0 rfl rfl)
theorem dX0_grant_26 : decode cX0_grant 26 = .ok (.aload_n 0, 1) := dk_42 (dk_at dksX0_grant_1 3 rfl rfl)
theorem dX0_grant_27 : decode cX0_grant 27 = .ok (.iload_n 2, 1) := dk_28 (dk_at dksX0_grant_1 4 rfl rfl)
theorem dX0_grant_28 : decode cX0_grant 28 = .ok (.putfield 399, 3) := dk_181 1 143 (dk_at dksX0_grant_1 5 rfl rfl)
theorem dX0_grant_31 : decode cX0_grant 31 = .ok (.iconst 1, 1) := dk_4 (dk_at dksX0_grant_1 8 rfl rfl)
theorem dX0_grant_32 : decode cX0_grant 32 = .ok (.ireturn, 1) := dk_172 (dk_at dksX0_grant_1 9 rfl rfl)
abbrev cX0_hold : ByteArray := prog_1_method_53_code
def dkwX0_hold_1 : List UInt8 := [2, 172]
abbrev dktX0_hold_1 : List UInt8 := dkwX0_hold_1 ++ []
def dkwX0_hold_0 : List UInt8 := [27, 184, 1, 1, 153, 0, 20, 28, 184, 0, 165, 153, 0, 13, 42, 27, 28, 29, 182, 1, 115, 167, 0, 4]
abbrev dktX0_hold_0 : List UInt8 := dkwX0_hold_0 ++ dktX0_hold_1
theorem dksX0_hold_0 : cX0_hold.data.toList.drop 0 = dktX0_hold_0 := by decide +kernel
theorem dksX0_hold_1 : cX0_hold.data.toList.drop 24 = dktX0_hold_1 := dk_seg dksX0_hold_0 24 rfl rfl
theorem dX0_hold_0 : decode cX0_hold 0 = .ok (.iload_n 1, 1) := dk_27 (dk_at dksX0_hold_0 0 rfl rfl)
theorem dX0_hold_1 : decode cX0_hold 1 = .ok (.invokestatic 257, 3) := dk_184 1 1 (dk_at dksX0_hold_0 1 rfl rfl)
theorem dX0_hold_4 : decode cX0_hold 4 = .ok (.ifCond .eq 20, 3) := dk_153 0 20 (dk_at dksX0_hold_0 4 rfl rfl)
theorem dX0_hold_7 : decode cX0_hold 7 = .ok (.iload_n 2, 1) := dk_28 (dk_at dksX0_hold_0 7 rfl rfl)
theorem dX0_hold_8 : decode cX0_hold 8 = .ok (.invokestatic 165, 3) := dk_184 0 165 (dk_at dksX0_hold_0 8 rfl rfl)
theorem dX0_hold_11 : decode cX0_hold 11 = .ok (.ifCond .eq 13, 3) := dk_153 0 13 (dk_at dksX0_hold_0 11 rfl rfl)
theorem dX0_hold_14 : decode cX0_hold 14 = .ok (.aload_n 0, 1) := dk_42 (dk_at dksX0_hold_0 14 rfl rfl)
theorem dX0_hold_15 : decode cX0_hold 15 = .ok (.iload_n 1, 1) := dk_27 (dk_at dksX0_hold_0 15 rfl rfl)
theorem dX0_hold_16 : decode cX0_hold 16 = .ok (.iload_n 2, 1) := dk_28 (dk_at dksX0_hold_0 16 rfl rfl)
theorem dX0_hold_17 : decode cX0_hold 17 = .ok (.iload_n 3, 1) := dk_29 (dk_at dksX0_hold_0 17 rfl rfl)
theorem dX0_hold_18 : decode cX0_hold 18 = .ok (.invokevirtual 371, 3) := dk_182 1 115 (dk_at dksX0_hold_0 18 rfl rfl)
theorem dX0_hold_21 : decode cX0_hold 21 = .ok (.goto 4, 3) := dk_167 0 4 (dk_at dksX0_hold_0 21 rfl rfl)
theorem dX0_hold_24 : decode cX0_hold 24 = .ok (.iconst (-1), 1) := dk_2 (dk_at dksX0_hold_1 0 rfl rfl)
theorem dX0_hold_25 : decode cX0_hold 25 = .ok (.ireturn, 1) := dk_172 (dk_at dksX0_hold_1 1 rfl rfl)
abbrev cX0_init : ByteArray := prog_1_method_3_code
def dkwX0_init_9 : List UInt8 := [132, 1, 1, 167, 255, 235, 177]
abbrev dktX0_init_9 : List UInt8 := dkwX0_init_9 ++ []
def dkwX0_init_8 : List UInt8 := [181, 0, 121, 3, 60, 27, 6, 162, 0, 22, 42, 180, 0, 58, 27, 187, 0, 56, 89, 183, 0, 124, 83]
abbrev dktX0_init_8 : List UInt8 := dkwX0_init_8 ++ dktX0_init_9
def dkwX0_init_7 : List UInt8 := [181, 0, 113, 42, 16, 8, 188, 10, 181, 0, 116, 42, 16, 9, 8, 16, 7, 17, 3, 193, 197, 0, 119, 4]
abbrev dktX0_init_7 : List UInt8 := dkwX0_init_7 ++ dktX0_init_8
def dkwX0_init_6 : List UInt8 := [181, 0, 104, 42, 16, 12, 188, 10, 181, 0, 107, 42, 16, 12, 188, 10, 181, 0, 110, 42, 16, 8, 188, 10]
abbrev dktX0_init_6 : List UInt8 := dkwX0_init_6 ++ dktX0_init_7
def dkwX0_init_5 : List UInt8 := [181, 0, 95, 42, 16, 10, 188, 10, 181, 0, 98, 42, 16, 10, 188, 10, 181, 0, 101, 42, 16, 10, 188, 10]
abbrev dktX0_init_5 : List UInt8 := dkwX0_init_5 ++ dktX0_init_6
def dkwX0_init_4 : List UInt8 := [197, 0, 87, 2, 181, 0, 89, 42, 6, 188, 10, 181, 0, 92, 42, 16, 100, 16, 64, 197, 0, 87, 2]
abbrev dktX0_init_4 : List UInt8 := dkwX0_init_4 ++ dktX0_init_5
def dkwX0_init_3 : List UInt8 := [42, 16, 12, 188, 10, 181, 0, 81, 42, 16, 12, 188, 10, 181, 0, 84, 42, 16, 13, 17, 16, 0]
abbrev dktX0_init_3 : List UInt8 := dkwX0_init_3 ++ dktX0_init_4
def dkwX0_init_2 : List UInt8 := [181, 0, 67, 42, 5, 181, 0, 71, 42, 16, 11, 188, 10, 181, 0, 74, 42, 16, 12, 188, 10, 181, 0, 78]
abbrev dktX0_init_2 : List UInt8 := dkwX0_init_2 ++ dktX0_init_3
def dkwX0_init_1 : List UInt8 := [183, 0, 51, 181, 0, 52, 42, 6, 189, 0, 56, 181, 0, 58, 42, 187, 0, 62, 89, 7, 183, 0, 64]
abbrev dktX0_init_1 : List UInt8 := dkwX0_init_1 ++ dktX0_init_2
def dkwX0_init_0 : List UInt8 := [42, 183, 0, 35, 42, 17, 5, 20, 188, 8, 181, 0, 41, 42, 2, 181, 0, 45, 42, 187, 0, 49, 89]
abbrev dktX0_init_0 : List UInt8 := dkwX0_init_0 ++ dktX0_init_1
theorem dksX0_init_0 : cX0_init.data.toList.drop 0 = dktX0_init_0 := by decide +kernel
theorem dksX0_init_1 : cX0_init.data.toList.drop 23 = dktX0_init_1 := dk_seg dksX0_init_0 23 rfl rfl
theorem dksX0_init_2 : cX0_init.data.toList.drop 46 = dktX0_init_2 := dk_seg dksX0_init_1 23 rfl rfl
theorem dksX0_init_3 : cX0_init.data.toList.drop 70 = dktX0_init_3 := dk_seg dksX0_init_2 24 rfl rfl
theorem dksX0_init_4 : cX0_init.data.toList.drop 92 = dktX0_init_4 := dk_seg dksX0_init_3 22 rfl rfl
theorem dksX0_init_5 : cX0_init.data.toList.drop 115 = dktX0_init_5 := dk_seg dksX0_init_4 23 rfl rfl
theorem dksX0_init_6 : cX0_init.data.toList.drop 139 = dktX0_init_6 := dk_seg dksX0_init_5 24 rfl rfl
theorem dksX0_init_7 : cX0_init.data.toList.drop 163 = dktX0_init_7 := dk_seg dksX0_init_6 24 rfl rfl
theorem dksX0_init_8 : cX0_init.data.toList.drop 187 = dktX0_init_8 := dk_seg dksX0_init_7 24 rfl rfl
theorem dksX0_init_9 : cX0_init.data.toList.drop 210 = dktX0_init_9 := dk_seg dksX0_init_8 23 rfl rfl
theorem dX0_init_0 : decode cX0_init 0 = .ok (.aload_n 0, 1) := dk_42 (dk_at dksX0_init_0 0 rfl rfl)
theorem dX0_init_1 : decode cX0_init 1 = .ok (.invokespecial 35, 3) := dk_183 0 35 (dk_at dksX0_init_0 1 rfl rfl)
theorem dX0_init_4 : decode cX0_init 4 = .ok (.aload_n 0, 1) := dk_42 (dk_at dksX0_init_0 4 rfl rfl)
theorem dX0_init_5 : decode cX0_init 5 = .ok (.sipush 1300, 3) := dk_17 5 20 (dk_at dksX0_init_0 5 rfl rfl)
theorem dX0_init_8 : decode cX0_init 8 = .ok (.newarray .byte, 2) := dk_188_8 (dk_at dksX0_init_0 8 rfl rfl)
theorem dX0_init_10 : decode cX0_init 10 = .ok (.putfield 41, 3) := dk_181 0 41 (dk_at dksX0_init_0 10 rfl rfl)
theorem dX0_init_13 : decode cX0_init 13 = .ok (.aload_n 0, 1) := dk_42 (dk_at dksX0_init_0 13 rfl rfl)
theorem dX0_init_14 : decode cX0_init 14 = .ok (.iconst (-1), 1) := dk_2 (dk_at dksX0_init_0 14 rfl rfl)
theorem dX0_init_15 : decode cX0_init 15 = .ok (.putfield 45, 3) := dk_181 0 45 (dk_at dksX0_init_0 15 rfl rfl)
theorem dX0_init_18 : decode cX0_init 18 = .ok (.aload_n 0, 1) := dk_42 (dk_at dksX0_init_0 18 rfl rfl)
theorem dX0_init_19 : decode cX0_init 19 = .ok (.new 49, 3) := dk_187 0 49 (dk_at dksX0_init_0 19 rfl rfl)
theorem dX0_init_22 : decode cX0_init 22 = .ok (.dup, 1) := dk_89 (dk_at dksX0_init_0 22 rfl rfl)
theorem dX0_init_23 : decode cX0_init 23 = .ok (.invokespecial 51, 3) := dk_183 0 51 (dk_at dksX0_init_1 0 rfl rfl)
theorem dX0_init_26 : decode cX0_init 26 = .ok (.putfield 52, 3) := dk_181 0 52 (dk_at dksX0_init_1 3 rfl rfl)
theorem dX0_init_29 : decode cX0_init 29 = .ok (.aload_n 0, 1) := dk_42 (dk_at dksX0_init_1 6 rfl rfl)
theorem dX0_init_30 : decode cX0_init 30 = .ok (.iconst 3, 1) := dk_6 (dk_at dksX0_init_1 7 rfl rfl)
theorem dX0_init_31 : decode cX0_init 31 = .ok (.anewarray 56, 3) := dk_189 0 56 (dk_at dksX0_init_1 8 rfl rfl)
theorem dX0_init_34 : decode cX0_init 34 = .ok (.putfield 58, 3) := dk_181 0 58 (dk_at dksX0_init_1 11 rfl rfl)
theorem dX0_init_37 : decode cX0_init 37 = .ok (.aload_n 0, 1) := dk_42 (dk_at dksX0_init_1 14 rfl rfl)
theorem dX0_init_38 : decode cX0_init 38 = .ok (.new 62, 3) := dk_187 0 62 (dk_at dksX0_init_1 15 rfl rfl)
theorem dX0_init_41 : decode cX0_init 41 = .ok (.dup, 1) := dk_89 (dk_at dksX0_init_1 18 rfl rfl)
theorem dX0_init_42 : decode cX0_init 42 = .ok (.iconst 4, 1) := dk_7 (dk_at dksX0_init_1 19 rfl rfl)
theorem dX0_init_43 : decode cX0_init 43 = .ok (.invokespecial 64, 3) := dk_183 0 64 (dk_at dksX0_init_1 20 rfl rfl)
theorem dX0_init_46 : decode cX0_init 46 = .ok (.putfield 67, 3) := dk_181 0 67 (dk_at dksX0_init_2 0 rfl rfl)
theorem dX0_init_49 : decode cX0_init 49 = .ok (.aload_n 0, 1) := dk_42 (dk_at dksX0_init_2 3 rfl rfl)
theorem dX0_init_50 : decode cX0_init 50 = .ok (.iconst 2, 1) := dk_5 (dk_at dksX0_init_2 4 rfl rfl)
theorem dX0_init_51 : decode cX0_init 51 = .ok (.putfield 71, 3) := dk_181 0 71 (dk_at dksX0_init_2 5 rfl rfl)
theorem dX0_init_54 : decode cX0_init 54 = .ok (.aload_n 0, 1) := dk_42 (dk_at dksX0_init_2 8 rfl rfl)
theorem dX0_init_55 : decode cX0_init 55 = .ok (.bipush 11, 2) := dk_16 11 (dk_at dksX0_init_2 9 rfl rfl)
theorem dX0_init_57 : decode cX0_init 57 = .ok (.newarray .int, 2) := dk_188_10 (dk_at dksX0_init_2 11 rfl rfl)
theorem dX0_init_59 : decode cX0_init 59 = .ok (.putfield 74, 3) := dk_181 0 74 (dk_at dksX0_init_2 13 rfl rfl)
theorem dX0_init_62 : decode cX0_init 62 = .ok (.aload_n 0, 1) := dk_42 (dk_at dksX0_init_2 16 rfl rfl)
theorem dX0_init_63 : decode cX0_init 63 = .ok (.bipush 12, 2) := dk_16 12 (dk_at dksX0_init_2 17 rfl rfl)
theorem dX0_init_65 : decode cX0_init 65 = .ok (.newarray .int, 2) := dk_188_10 (dk_at dksX0_init_2 19 rfl rfl)
theorem dX0_init_67 : decode cX0_init 67 = .ok (.putfield 78, 3) := dk_181 0 78 (dk_at dksX0_init_2 21 rfl rfl)
theorem dX0_init_70 : decode cX0_init 70 = .ok (.aload_n 0, 1) := dk_42 (dk_at dksX0_init_3 0 rfl rfl)
theorem dX0_init_71 : decode cX0_init 71 = .ok (.bipush 12, 2) := dk_16 12 (dk_at dksX0_init_3 1 rfl rfl)
theorem dX0_init_73 : decode cX0_init 73 = .ok (.newarray .int, 2) := dk_188_10 (dk_at dksX0_init_3 3 rfl rfl)
theorem dX0_init_75 : decode cX0_init 75 = .ok (.putfield 81, 3) := dk_181 0 81 (dk_at dksX0_init_3 5 rfl rfl)
theorem dX0_init_78 : decode cX0_init 78 = .ok (.aload_n 0, 1) := dk_42 (dk_at dksX0_init_3 8 rfl rfl)
theorem dX0_init_79 : decode cX0_init 79 = .ok (.bipush 12, 2) := dk_16 12 (dk_at dksX0_init_3 9 rfl rfl)
theorem dX0_init_81 : decode cX0_init 81 = .ok (.newarray .int, 2) := dk_188_10 (dk_at dksX0_init_3 11 rfl rfl)
theorem dX0_init_83 : decode cX0_init 83 = .ok (.putfield 84, 3) := dk_181 0 84 (dk_at dksX0_init_3 13 rfl rfl)
theorem dX0_init_86 : decode cX0_init 86 = .ok (.aload_n 0, 1) := dk_42 (dk_at dksX0_init_3 16 rfl rfl)
theorem dX0_init_87 : decode cX0_init 87 = .ok (.bipush 13, 2) := dk_16 13 (dk_at dksX0_init_3 17 rfl rfl)
theorem dX0_init_89 : decode cX0_init 89 = .ok (.sipush 4096, 3) := dk_17 16 0 (dk_at dksX0_init_3 19 rfl rfl)
theorem dX0_init_92 : decode cX0_init 92 = .ok (.multianewarray 87 2, 4) := by decide +kernel
theorem dX0_init_96 : decode cX0_init 96 = .ok (.putfield 89, 3) := dk_181 0 89 (dk_at dksX0_init_4 4 rfl rfl)
theorem dX0_init_99 : decode cX0_init 99 = .ok (.aload_n 0, 1) := dk_42 (dk_at dksX0_init_4 7 rfl rfl)
theorem dX0_init_100 : decode cX0_init 100 = .ok (.iconst 3, 1) := dk_6 (dk_at dksX0_init_4 8 rfl rfl)
theorem dX0_init_101 : decode cX0_init 101 = .ok (.newarray .int, 2) := dk_188_10 (dk_at dksX0_init_4 9 rfl rfl)
theorem dX0_init_103 : decode cX0_init 103 = .ok (.putfield 92, 3) := dk_181 0 92 (dk_at dksX0_init_4 11 rfl rfl)
theorem dX0_init_106 : decode cX0_init 106 = .ok (.aload_n 0, 1) := dk_42 (dk_at dksX0_init_4 14 rfl rfl)
theorem dX0_init_107 : decode cX0_init 107 = .ok (.bipush 100, 2) := dk_16 100 (dk_at dksX0_init_4 15 rfl rfl)
theorem dX0_init_109 : decode cX0_init 109 = .ok (.bipush 64, 2) := dk_16 64 (dk_at dksX0_init_4 17 rfl rfl)
theorem dX0_init_111 : decode cX0_init 111 = .ok (.multianewarray 87 2, 4) := by decide +kernel
theorem dX0_init_115 : decode cX0_init 115 = .ok (.putfield 95, 3) := dk_181 0 95 (dk_at dksX0_init_5 0 rfl rfl)
theorem dX0_init_118 : decode cX0_init 118 = .ok (.aload_n 0, 1) := dk_42 (dk_at dksX0_init_5 3 rfl rfl)
theorem dX0_init_119 : decode cX0_init 119 = .ok (.bipush 10, 2) := dk_16 10 (dk_at dksX0_init_5 4 rfl rfl)
theorem dX0_init_121 : decode cX0_init 121 = .ok (.newarray .int, 2) := dk_188_10 (dk_at dksX0_init_5 6 rfl rfl)
theorem dX0_init_123 : decode cX0_init 123 = .ok (.putfield 98, 3) := dk_181 0 98 (dk_at dksX0_init_5 8 rfl rfl)
theorem dX0_init_126 : decode cX0_init 126 = .ok (.aload_n 0, 1) := dk_42 (dk_at dksX0_init_5 11 rfl rfl)
theorem dX0_init_127 : decode cX0_init 127 = .ok (.bipush 10, 2) := dk_16 10 (dk_at dksX0_init_5 12 rfl rfl)
theorem dX0_init_129 : decode cX0_init 129 = .ok (.newarray .int, 2) := dk_188_10 (dk_at dksX0_init_5 14 rfl rfl)
theorem dX0_init_131 : decode cX0_init 131 = .ok (.putfield 101, 3) := dk_181 0 101 (dk_at dksX0_init_5 16 rfl rfl)
theorem dX0_init_134 : decode cX0_init 134 = .ok (.aload_n 0, 1) := dk_42 (dk_at dksX0_init_5 19 rfl rfl)
theorem dX0_init_135 : decode cX0_init 135 = .ok (.bipush 10, 2) := dk_16 10 (dk_at dksX0_init_5 20 rfl rfl)
theorem dX0_init_137 : decode cX0_init 137 = .ok (.newarray .int, 2) := dk_188_10 (dk_at dksX0_init_5 22 rfl rfl)
theorem dX0_init_139 : decode cX0_init 139 = .ok (.putfield 104, 3) := dk_181 0 104 (dk_at dksX0_init_6 0 rfl rfl)
theorem dX0_init_142 : decode cX0_init 142 = .ok (.aload_n 0, 1) := dk_42 (dk_at dksX0_init_6 3 rfl rfl)
theorem dX0_init_143 : decode cX0_init 143 = .ok (.bipush 12, 2) := dk_16 12 (dk_at dksX0_init_6 4 rfl rfl)
theorem dX0_init_145 : decode cX0_init 145 = .ok (.newarray .int, 2) := dk_188_10 (dk_at dksX0_init_6 6 rfl rfl)
theorem dX0_init_147 : decode cX0_init 147 = .ok (.putfield 107, 3) := dk_181 0 107 (dk_at dksX0_init_6 8 rfl rfl)
theorem dX0_init_150 : decode cX0_init 150 = .ok (.aload_n 0, 1) := dk_42 (dk_at dksX0_init_6 11 rfl rfl)
theorem dX0_init_151 : decode cX0_init 151 = .ok (.bipush 12, 2) := dk_16 12 (dk_at dksX0_init_6 12 rfl rfl)
theorem dX0_init_153 : decode cX0_init 153 = .ok (.newarray .int, 2) := dk_188_10 (dk_at dksX0_init_6 14 rfl rfl)
theorem dX0_init_155 : decode cX0_init 155 = .ok (.putfield 110, 3) := dk_181 0 110 (dk_at dksX0_init_6 16 rfl rfl)
theorem dX0_init_158 : decode cX0_init 158 = .ok (.aload_n 0, 1) := dk_42 (dk_at dksX0_init_6 19 rfl rfl)
theorem dX0_init_159 : decode cX0_init 159 = .ok (.bipush 8, 2) := dk_16 8 (dk_at dksX0_init_6 20 rfl rfl)
theorem dX0_init_161 : decode cX0_init 161 = .ok (.newarray .int, 2) := dk_188_10 (dk_at dksX0_init_6 22 rfl rfl)
theorem dX0_init_163 : decode cX0_init 163 = .ok (.putfield 113, 3) := dk_181 0 113 (dk_at dksX0_init_7 0 rfl rfl)
theorem dX0_init_166 : decode cX0_init 166 = .ok (.aload_n 0, 1) := dk_42 (dk_at dksX0_init_7 3 rfl rfl)
theorem dX0_init_167 : decode cX0_init 167 = .ok (.bipush 8, 2) := dk_16 8 (dk_at dksX0_init_7 4 rfl rfl)
theorem dX0_init_169 : decode cX0_init 169 = .ok (.newarray .int, 2) := dk_188_10 (dk_at dksX0_init_7 6 rfl rfl)
theorem dX0_init_171 : decode cX0_init 171 = .ok (.putfield 116, 3) := dk_181 0 116 (dk_at dksX0_init_7 8 rfl rfl)
theorem dX0_init_174 : decode cX0_init 174 = .ok (.aload_n 0, 1) := dk_42 (dk_at dksX0_init_7 11 rfl rfl)
theorem dX0_init_175 : decode cX0_init 175 = .ok (.bipush 9, 2) := dk_16 9 (dk_at dksX0_init_7 12 rfl rfl)
theorem dX0_init_177 : decode cX0_init 177 = .ok (.iconst 5, 1) := dk_8 (dk_at dksX0_init_7 14 rfl rfl)
theorem dX0_init_178 : decode cX0_init 178 = .ok (.bipush 7, 2) := dk_16 7 (dk_at dksX0_init_7 15 rfl rfl)
theorem dX0_init_180 : decode cX0_init 180 = .ok (.sipush 961, 3) := dk_17 3 193 (dk_at dksX0_init_7 17 rfl rfl)
theorem dX0_init_183 : decode cX0_init 183 = .ok (.multianewarray 119 4, 4) := by decide +kernel
theorem dX0_init_187 : decode cX0_init 187 = .ok (.putfield 121, 3) := dk_181 0 121 (dk_at dksX0_init_8 0 rfl rfl)
theorem dX0_init_190 : decode cX0_init 190 = .ok (.iconst 0, 1) := dk_3 (dk_at dksX0_init_8 3 rfl rfl)
theorem dX0_init_191 : decode cX0_init 191 = .ok (.istore_n 1, 1) := dk_60 (dk_at dksX0_init_8 4 rfl rfl)
theorem dX0_init_192 : decode cX0_init 192 = .ok (.iload_n 1, 1) := dk_27 (dk_at dksX0_init_8 5 rfl rfl)
theorem dX0_init_193 : decode cX0_init 193 = .ok (.iconst 3, 1) := dk_6 (dk_at dksX0_init_8 6 rfl rfl)
theorem dX0_init_194 : decode cX0_init 194 = .ok (.if_icmp .ge 22, 3) := dk_162 0 22 (dk_at dksX0_init_8 7 rfl rfl)
theorem dX0_init_197 : decode cX0_init 197 = .ok (.aload_n 0, 1) := dk_42 (dk_at dksX0_init_8 10 rfl rfl)
theorem dX0_init_198 : decode cX0_init 198 = .ok (.getfield 58, 3) := dk_180 0 58 (dk_at dksX0_init_8 11 rfl rfl)
theorem dX0_init_201 : decode cX0_init 201 = .ok (.iload_n 1, 1) := dk_27 (dk_at dksX0_init_8 14 rfl rfl)
theorem dX0_init_202 : decode cX0_init 202 = .ok (.new 56, 3) := dk_187 0 56 (dk_at dksX0_init_8 15 rfl rfl)
theorem dX0_init_205 : decode cX0_init 205 = .ok (.dup, 1) := dk_89 (dk_at dksX0_init_8 18 rfl rfl)
theorem dX0_init_206 : decode cX0_init 206 = .ok (.invokespecial 124, 3) := dk_183 0 124 (dk_at dksX0_init_8 19 rfl rfl)
theorem dX0_init_209 : decode cX0_init 209 = .ok (.aastore, 1) := dk_83 (dk_at dksX0_init_8 22 rfl rfl)
theorem dX0_init_210 : decode cX0_init 210 = .ok (.iinc 1 1, 3) := dk_132 1 1 (dk_at dksX0_init_9 0 rfl rfl)
theorem dX0_init_213 : decode cX0_init 213 = .ok (.goto (-21), 3) := dk_167 255 235 (dk_at dksX0_init_9 3 rfl rfl)
theorem dX0_init_216 : decode cX0_init 216 = .ok (.return_, 1) := dk_177 (dk_at dksX0_init_9 6 rfl rfl)
abbrev cX0_isCell : ByteArray := prog_1_method_48_code
def dkwX0_isCell_0 : List UInt8 := [26, 3, 16, 63, 184, 0, 161, 172]
abbrev dktX0_isCell_0 : List UInt8 := dkwX0_isCell_0 ++ []
theorem dksX0_isCell_0 : cX0_isCell.data.toList.drop 0 = dktX0_isCell_0 := by decide +kernel
theorem dX0_isCell_0 : decode cX0_isCell 0 = .ok (.iload_n 0, 1) := dk_26 (dk_at dksX0_isCell_0 0 rfl rfl)
theorem dX0_isCell_1 : decode cX0_isCell 1 = .ok (.iconst 0, 1) := dk_3 (dk_at dksX0_isCell_0 1 rfl rfl)
theorem dX0_isCell_2 : decode cX0_isCell 2 = .ok (.bipush 63, 2) := dk_16 63 (dk_at dksX0_isCell_0 2 rfl rfl)
theorem dX0_isCell_4 : decode cX0_isCell 4 = .ok (.invokestatic 161, 3) := dk_184 0 161 (dk_at dksX0_isCell_0 4 rfl rfl)
theorem dX0_isCell_7 : decode cX0_isCell 7 = .ok (.ireturn, 1) := dk_172 (dk_at dksX0_isCell_0 7 rfl rfl)
abbrev cX0_isIn : ByteArray := prog_1_method_8_code
def dkwX0_isIn_0 : List UInt8 := [26, 27, 161, 0, 12, 26, 28, 163, 0, 7, 4, 167, 0, 4, 3, 172]
abbrev dktX0_isIn_0 : List UInt8 := dkwX0_isIn_0 ++ []
theorem dksX0_isIn_0 : cX0_isIn.data.toList.drop 0 = dktX0_isIn_0 := by decide +kernel
theorem dX0_isIn_0 : decode cX0_isIn 0 = .ok (.iload_n 0, 1) := dk_26 (dk_at dksX0_isIn_0 0 rfl rfl)
theorem dX0_isIn_1 : decode cX0_isIn 1 = .ok (.iload_n 1, 1) := dk_27 (dk_at dksX0_isIn_0 1 rfl rfl)
theorem dX0_isIn_2 : decode cX0_isIn 2 = .ok (.if_icmp .lt 12, 3) := dk_161 0 12 (dk_at dksX0_isIn_0 2 rfl rfl)
theorem dX0_isIn_5 : decode cX0_isIn 5 = .ok (.iload_n 0, 1) := dk_26 (dk_at dksX0_isIn_0 5 rfl rfl)
theorem dX0_isIn_6 : decode cX0_isIn 6 = .ok (.iload_n 2, 1) := dk_28 (dk_at dksX0_isIn_0 6 rfl rfl)
theorem dX0_isIn_7 : decode cX0_isIn 7 = .ok (.if_icmp .gt 7, 3) := dk_163 0 7 (dk_at dksX0_isIn_0 7 rfl rfl)
theorem dX0_isIn_10 : decode cX0_isIn 10 = .ok (.iconst 1, 1) := dk_4 (dk_at dksX0_isIn_0 10 rfl rfl)
theorem dX0_isIn_11 : decode cX0_isIn 11 = .ok (.goto 4, 3) := dk_167 0 4 (dk_at dksX0_isIn_0 11 rfl rfl)
theorem dX0_isIn_14 : decode cX0_isIn 14 = .ok (.iconst 0, 1) := dk_3 (dk_at dksX0_isIn_0 14 rfl rfl)
theorem dX0_isIn_15 : decode cX0_isIn 15 = .ok (.ireturn, 1) := dk_172 (dk_at dksX0_isIn_0 15 rfl rfl)
abbrev cX0_isMonth : ByteArray := prog_1_method_23_code
def dkwX0_isMonth_0 : List UInt8 := [26, 3, 17, 0, 199, 184, 0, 161, 172]
abbrev dktX0_isMonth_0 : List UInt8 := dkwX0_isMonth_0 ++ []
theorem dksX0_isMonth_0 : cX0_isMonth.data.toList.drop 0 = dktX0_isMonth_0 := by decide +kernel
theorem dX0_isMonth_0 : decode cX0_isMonth 0 = .ok (.iload_n 0, 1) := dk_26 (dk_at dksX0_isMonth_0 0 rfl rfl)
theorem dX0_isMonth_1 : decode cX0_isMonth 1 = .ok (.iconst 0, 1) := dk_3 (dk_at dksX0_isMonth_0 1 rfl rfl)
theorem dX0_isMonth_2 : decode cX0_isMonth 2 = .ok (.sipush 199, 3) := dk_17 0 199 (dk_at dksX0_isMonth_0 2 rfl rfl)
theorem dX0_isMonth_5 : decode cX0_isMonth 5 = .ok (.invokestatic 161, 3) := dk_184 0 161 (dk_at dksX0_isMonth_0 5 rfl rfl)
theorem dX0_isMonth_8 : decode cX0_isMonth 8 = .ok (.ireturn, 1) := dk_172 (dk_at dksX0_isMonth_0 8 rfl rfl)
abbrev cX0_isSafe : ByteArray := prog_1_method_61_code
def dkwX0_isSafe_1 : List UInt8 := [184, 1, 146, 51, 153, 0, 7, 4, 167, 0, 4, 3, 172]
abbrev dktX0_isSafe_1 : List UInt8 := dkwX0_isSafe_1 ++ []
def dkwX0_isSafe_0 : List UInt8 := [21, 4, 155, 0, 33, 21, 5, 155, 0, 28, 42, 180, 0, 121, 27, 50, 28, 50, 29, 50, 21, 4, 21, 5]
abbrev dktX0_isSafe_0 : List UInt8 := dkwX0_isSafe_0 ++ dktX0_isSafe_1
theorem dksX0_isSafe_0 : cX0_isSafe.data.toList.drop 0 = dktX0_isSafe_0 := by decide +kernel
theorem dksX0_isSafe_1 : cX0_isSafe.data.toList.drop 24 = dktX0_isSafe_1 := dk_seg dksX0_isSafe_0 24 rfl rfl
theorem dX0_isSafe_0 : decode cX0_isSafe 0 = .ok (.iload 4, 2) := dk_21 4 (dk_at dksX0_isSafe_0 0 rfl rfl)
theorem dX0_isSafe_2 : decode cX0_isSafe 2 = .ok (.ifCond .lt 33, 3) := dk_155 0 33 (dk_at dksX0_isSafe_0 2 rfl rfl)
theorem dX0_isSafe_5 : decode cX0_isSafe 5 = .ok (.iload 5, 2) := dk_21 5 (dk_at dksX0_isSafe_0 5 rfl rfl)
theorem dX0_isSafe_7 : decode cX0_isSafe 7 = .ok (.ifCond .lt 28, 3) := dk_155 0 28 (dk_at dksX0_isSafe_0 7 rfl rfl)
theorem dX0_isSafe_10 : decode cX0_isSafe 10 = .ok (.aload_n 0, 1) := dk_42 (dk_at dksX0_isSafe_0 10 rfl rfl)
theorem dX0_isSafe_11 : decode cX0_isSafe 11 = .ok (.getfield 121, 3) := dk_180 0 121 (dk_at dksX0_isSafe_0 11 rfl rfl)
theorem dX0_isSafe_14 : decode cX0_isSafe 14 = .ok (.iload_n 1, 1) := dk_27 (dk_at dksX0_isSafe_0 14 rfl rfl)
theorem dX0_isSafe_15 : decode cX0_isSafe 15 = .ok (.aaload, 1) := dk_50 (dk_at dksX0_isSafe_0 15 rfl rfl)
theorem dX0_isSafe_16 : decode cX0_isSafe 16 = .ok (.iload_n 2, 1) := dk_28 (dk_at dksX0_isSafe_0 16 rfl rfl)
theorem dX0_isSafe_17 : decode cX0_isSafe 17 = .ok (.aaload, 1) := dk_50 (dk_at dksX0_isSafe_0 17 rfl rfl)
theorem dX0_isSafe_18 : decode cX0_isSafe 18 = .ok (.iload_n 3, 1) := dk_29 (dk_at dksX0_isSafe_0 18 rfl rfl)
theorem dX0_isSafe_19 : decode cX0_isSafe 19 = .ok (.aaload, 1) := dk_50 (dk_at dksX0_isSafe_0 19 rfl rfl)
theorem dX0_isSafe_20 : decode cX0_isSafe 20 = .ok (.iload 4, 2) := dk_21 4 (dk_at dksX0_isSafe_0 20 rfl rfl)
theorem dX0_isSafe_22 : decode cX0_isSafe 22 = .ok (.iload 5, 2) := dk_21 5 (dk_at dksX0_isSafe_0 22 rfl rfl)
theorem dX0_isSafe_24 : decode cX0_isSafe 24 = .ok (.invokestatic 402, 3) := dk_184 1 146 (dk_at dksX0_isSafe_1 0 rfl rfl)
theorem dX0_isSafe_27 : decode cX0_isSafe 27 = .ok (.baload, 1) := dk_51 (dk_at dksX0_isSafe_1 3 rfl rfl)
theorem dX0_isSafe_28 : decode cX0_isSafe 28 = .ok (.ifCond .eq 7, 3) := dk_153 0 7 (dk_at dksX0_isSafe_1 4 rfl rfl)
theorem dX0_isSafe_31 : decode cX0_isSafe 31 = .ok (.iconst 1, 1) := dk_4 (dk_at dksX0_isSafe_1 7 rfl rfl)
theorem dX0_isSafe_32 : decode cX0_isSafe 32 = .ok (.goto 4, 3) := dk_167 0 4 (dk_at dksX0_isSafe_1 8 rfl rfl)
theorem dX0_isSafe_35 : decode cX0_isSafe 35 = .ok (.iconst 0, 1) := dk_3 (dk_at dksX0_isSafe_1 11 rfl rfl)
theorem dX0_isSafe_36 : decode cX0_isSafe 36 = .ok (.ireturn, 1) := dk_172 (dk_at dksX0_isSafe_1 12 rfl rfl)
abbrev cX0_isSpeed : ByteArray := prog_1_method_13_code
def dkwX0_isSpeed_0 : List UInt8 := [26, 3, 16, 30, 184, 0, 161, 172]
abbrev dktX0_isSpeed_0 : List UInt8 := dkwX0_isSpeed_0 ++ []
theorem dksX0_isSpeed_0 : cX0_isSpeed.data.toList.drop 0 = dktX0_isSpeed_0 := by decide +kernel
theorem dX0_isSpeed_0 : decode cX0_isSpeed 0 = .ok (.iload_n 0, 1) := dk_26 (dk_at dksX0_isSpeed_0 0 rfl rfl)
theorem dX0_isSpeed_1 : decode cX0_isSpeed 1 = .ok (.iconst 0, 1) := dk_3 (dk_at dksX0_isSpeed_0 1 rfl rfl)
theorem dX0_isSpeed_2 : decode cX0_isSpeed 2 = .ok (.bipush 30, 2) := dk_16 30 (dk_at dksX0_isSpeed_0 2 rfl rfl)
theorem dX0_isSpeed_4 : decode cX0_isSpeed 4 = .ok (.invokestatic 161, 3) := dk_184 0 161 (dk_at dksX0_isSpeed_0 4 rfl rfl)
theorem dX0_isSpeed_7 : decode cX0_isSpeed 7 = .ok (.ireturn, 1) := dk_172 (dk_at dksX0_isSpeed_0 7 rfl rfl)
abbrev cX0_isTongue : ByteArray := prog_1_method_9_code
def dkwX0_isTongue_0 : List UInt8 := [26, 3, 5, 184, 0, 161, 172]
abbrev dktX0_isTongue_0 : List UInt8 := dkwX0_isTongue_0 ++ []
theorem dksX0_isTongue_0 : cX0_isTongue.data.toList.drop 0 = dktX0_isTongue_0 := by decide +kernel
theorem dX0_isTongue_0 : decode cX0_isTongue 0 = .ok (.iload_n 0, 1) := dk_26 (dk_at dksX0_isTongue_0 0 rfl rfl)
theorem dX0_isTongue_1 : decode cX0_isTongue 1 = .ok (.iconst 0, 1) := dk_3 (dk_at dksX0_isTongue_0 1 rfl rfl)
theorem dX0_isTongue_2 : decode cX0_isTongue 2 = .ok (.iconst 2, 1) := dk_5 (dk_at dksX0_isTongue_0 2 rfl rfl)
theorem dX0_isTongue_3 : decode cX0_isTongue 3 = .ok (.invokestatic 161, 3) := dk_184 0 161 (dk_at dksX0_isTongue_0 3 rfl rfl)
theorem dX0_isTongue_6 : decode cX0_isTongue 6 = .ok (.ireturn, 1) := dk_172 (dk_at dksX0_isTongue_0 6 rfl rfl)
abbrev cX0_know : ByteArray := prog_1_method_30_code
def dkwX0_know_10 : List UInt8 := [96, 79, 4, 61, 132, 3, 1, 167, 255, 132, 167, 255, 121, 177]
abbrev dktX0_know_10 : List UInt8 := dkwX0_know_10 ++ []
def dkwX0_know_9 : List UInt8 := [180, 0, 216, 180, 1, 45, 42, 180, 0, 84, 25, 4, 180, 0, 209, 180, 1, 45, 46, 25, 4, 180, 0, 224]
abbrev dktX0_know_9 : List UInt8 := dkwX0_know_9 ++ dktX0_know_10
def dkwX0_know_8 : List UInt8 := [180, 0, 84, 25, 4, 180, 0, 216, 180, 1, 45, 46, 161, 0, 6, 167, 0, 37, 42, 180, 0, 84, 25, 4]
abbrev dktX0_know_8 : List UInt8 := dkwX0_know_8 ++ dktX0_know_9
def dkwX0_know_7 : List UInt8 := [159, 0, 75, 42, 180, 0, 84, 25, 4, 180, 0, 209, 180, 1, 45, 46, 25, 4, 180, 0, 224, 96, 42]
abbrev dktX0_know_7 : List UInt8 := dkwX0_know_7 ++ dktX0_know_8
def dkwX0_know_6 : List UInt8 := [182, 0, 184, 192, 0, 204, 58, 4, 42, 180, 0, 84, 25, 4, 180, 0, 209, 180, 1, 45, 46, 19, 1, 29]
abbrev dktX0_know_6 : List UInt8 := dkwX0_know_6 ++ dktX0_know_7
def dkwX0_know_5 : List UInt8 := [29, 42, 180, 0, 52, 180, 1, 42, 182, 0, 181, 162, 0, 116, 42, 180, 0, 52, 180, 1, 42, 29]
abbrev dktX0_know_5 : List UInt8 := dkwX0_know_5 ++ dktX0_know_6
def dkwX0_know_4 : List UInt8 := [45, 180, 1, 36, 184, 1, 38, 79, 132, 2, 1, 167, 255, 175, 4, 61, 28, 153, 0, 137, 3, 61, 3, 62]
abbrev dktX0_know_4 : List UInt8 := dkwX0_know_4 ++ dktX0_know_5
def dkwX0_know_3 : List UInt8 := [27, 182, 1, 30, 153, 0, 28, 42, 180, 0, 84, 45, 180, 1, 33, 42, 180, 0, 84, 45, 180, 1, 33, 46]
abbrev dktX0_know_3 : List UInt8 := dkwX0_know_3 ++ dktX0_know_4
def dkwX0_know_2 : List UInt8 := [153, 0, 17, 42, 180, 0, 67, 28, 182, 0, 184, 192, 1, 4, 167, 0, 4, 1, 78, 45, 198, 0, 36, 45]
abbrev dktX0_know_2 : List UInt8 := dkwX0_know_2 ++ dktX0_know_3
def dkwX0_know_1 : List UInt8 := [61, 28, 42, 180, 0, 67, 182, 0, 181, 162, 0, 76, 42, 180, 0, 67, 28, 182, 0, 184, 193, 1, 4]
abbrev dktX0_know_1 : List UInt8 := dkwX0_know_1 ++ dktX0_know_2
def dkwX0_know_0 : List UInt8 := [3, 61, 28, 16, 12, 162, 0, 18, 42, 180, 0, 84, 28, 19, 1, 29, 79, 132, 2, 1, 167, 255, 238, 3]
abbrev dktX0_know_0 : List UInt8 := dkwX0_know_0 ++ dktX0_know_1
theorem dksX0_know_0 : cX0_know.data.toList.drop 0 = dktX0_know_0 := by decide +kernel
theorem dksX0_know_1 : cX0_know.data.toList.drop 24 = dktX0_know_1 := dk_seg dksX0_know_0 24 rfl rfl
theorem dksX0_know_2 : cX0_know.data.toList.drop 47 = dktX0_know_2 := dk_seg dksX0_know_1 23 rfl rfl
theorem dksX0_know_3 : cX0_know.data.toList.drop 71 = dktX0_know_3 := dk_seg dksX0_know_2 24 rfl rfl
theorem dksX0_know_4 : cX0_know.data.toList.drop 95 = dktX0_know_4 := dk_seg dksX0_know_3 24 rfl rfl
theorem dksX0_know_5 : cX0_know.data.toList.drop 119 = dktX0_know_5 := dk_seg dksX0_know_4 24 rfl rfl
theorem dksX0_know_6 : cX0_know.data.toList.drop 141 = dktX0_know_6 := dk_seg dksX0_know_5 22 rfl rfl
theorem dksX0_know_7 : cX0_know.data.toList.drop 165 = dktX0_know_7 := dk_seg dksX0_know_6 24 rfl rfl
theorem dksX0_know_8 : cX0_know.data.toList.drop 188 = dktX0_know_8 := dk_seg dksX0_know_7 23 rfl rfl
theorem dksX0_know_9 : cX0_know.data.toList.drop 212 = dktX0_know_9 := dk_seg dksX0_know_8 24 rfl rfl
theorem dksX0_know_10 : cX0_know.data.toList.drop 236 = dktX0_know_10 := dk_seg dksX0_know_9 24 rfl rfl
theorem dX0_know_0 : decode cX0_know 0 = .ok (.iconst 0, 1) := dk_3 (dk_at dksX0_know_0 0 rfl rfl)
theorem dX0_know_1 : decode cX0_know 1 = .ok (.istore_n 2, 1) := dk_61 (dk_at dksX0_know_0 1 rfl rfl)
theorem dX0_know_2 : decode cX0_know 2 = .ok (.iload_n 2, 1) := dk_28 (dk_at dksX0_know_0 2 rfl rfl)
theorem dX0_know_3 : decode cX0_know 3 = .ok (.bipush 12, 2) := dk_16 12 (dk_at dksX0_know_0 3 rfl rfl)
theorem dX0_know_5 : decode cX0_know 5 = .ok (.if_icmp .ge 18, 3) := dk_162 0 18 (dk_at dksX0_know_0 5 rfl rfl)
theorem dX0_know_8 : decode cX0_know 8 = .ok (.aload_n 0, 1) := dk_42 (dk_at dksX0_know_0 8 rfl rfl)
theorem dX0_know_9 : decode cX0_know 9 = .ok (.getfield 84, 3) := dk_180 0 84 (dk_at dksX0_know_0 9 rfl rfl)
theorem dX0_know_12 : decode cX0_know 12 = .ok (.iload_n 2, 1) := dk_28 (dk_at dksX0_know_0 12 rfl rfl)
theorem dX0_know_13 : decode cX0_know 13 = .ok (.ldc_w 285, 3) := dk_19 1 29 (dk_at dksX0_know_0 13 rfl rfl)
theorem dX0_know_16 : decode cX0_know 16 = .ok (.iastore, 1) := dk_79 (dk_at dksX0_know_0 16 rfl rfl)
theorem dX0_know_17 : decode cX0_know 17 = .ok (.iinc 2 1, 3) := dk_132 2 1 (dk_at dksX0_know_0 17 rfl rfl)
theorem dX0_know_20 : decode cX0_know 20 = .ok (.goto (-18), 3) := dk_167 255 238 (dk_at dksX0_know_0 20 rfl rfl)
theorem dX0_know_23 : decode cX0_know 23 = .ok (.iconst 0, 1) := dk_3 (dk_at dksX0_know_0 23 rfl rfl)
theorem dX0_know_24 : decode cX0_know 24 = .ok (.istore_n 2, 1) := dk_61 (dk_at dksX0_know_1 0 rfl rfl)
theorem dX0_know_25 : decode cX0_know 25 = .ok (.iload_n 2, 1) := dk_28 (dk_at dksX0_know_1 1 rfl rfl)
theorem dX0_know_26 : decode cX0_know 26 = .ok (.aload_n 0, 1) := dk_42 (dk_at dksX0_know_1 2 rfl rfl)
theorem dX0_know_27 : decode cX0_know 27 = .ok (.getfield 67, 3) := dk_180 0 67 (dk_at dksX0_know_1 3 rfl rfl)
theorem dX0_know_30 : decode cX0_know 30 = .ok (.invokevirtual 181, 3) := dk_182 0 181 (dk_at dksX0_know_1 6 rfl rfl)
theorem dX0_know_33 : decode cX0_know 33 = .ok (.if_icmp .ge 76, 3) := dk_162 0 76 (dk_at dksX0_know_1 9 rfl rfl)
theorem dX0_know_36 : decode cX0_know 36 = .ok (.aload_n 0, 1) := dk_42 (dk_at dksX0_know_1 12 rfl rfl)
theorem dX0_know_37 : decode cX0_know 37 = .ok (.getfield 67, 3) := dk_180 0 67 (dk_at dksX0_know_1 13 rfl rfl)
theorem dX0_know_40 : decode cX0_know 40 = .ok (.iload_n 2, 1) := dk_28 (dk_at dksX0_know_1 16 rfl rfl)
theorem dX0_know_41 : decode cX0_know 41 = .ok (.invokevirtual 184, 3) := dk_182 0 184 (dk_at dksX0_know_1 17 rfl rfl)
theorem dX0_know_44 : decode cX0_know 44 = .ok (.instanceof 260, 3) := dk_193 1 4 (dk_at dksX0_know_1 20 rfl rfl)
theorem dX0_know_47 : decode cX0_know 47 = .ok (.ifCond .eq 17, 3) := dk_153 0 17 (dk_at dksX0_know_2 0 rfl rfl)
theorem dX0_know_50 : decode cX0_know 50 = .ok (.aload_n 0, 1) := dk_42 (dk_at dksX0_know_2 3 rfl rfl)
theorem dX0_know_51 : decode cX0_know 51 = .ok (.getfield 67, 3) := dk_180 0 67 (dk_at dksX0_know_2 4 rfl rfl)
theorem dX0_know_54 : decode cX0_know 54 = .ok (.iload_n 2, 1) := dk_28 (dk_at dksX0_know_2 7 rfl rfl)
theorem dX0_know_55 : decode cX0_know 55 = .ok (.invokevirtual 184, 3) := dk_182 0 184 (dk_at dksX0_know_2 8 rfl rfl)
theorem dX0_know_58 : decode cX0_know 58 = .ok (.checkcast 260, 3) := dk_192 1 4 (dk_at dksX0_know_2 11 rfl rfl)
theorem dX0_know_61 : decode cX0_know 61 = .ok (.goto 4, 3) := dk_167 0 4 (dk_at dksX0_know_2 14 rfl rfl)
theorem dX0_know_64 : decode cX0_know 64 = .ok (.aconst_null, 1) := dk_1 (dk_at dksX0_know_2 17 rfl rfl)
theorem dX0_know_65 : decode cX0_know 65 = .ok (.astore_n 3, 1) := dk_78 (dk_at dksX0_know_2 18 rfl rfl)
theorem dX0_know_66 : decode cX0_know 66 = .ok (.aload_n 3, 1) := dk_45 (dk_at dksX0_know_2 19 rfl rfl)
theorem dX0_know_67 : decode cX0_know 67 = .ok (.ifnull 36, 3) := dk_198 0 36 (dk_at dksX0_know_2 20 rfl rfl)
theorem dX0_know_70 : decode cX0_know 70 = .ok (.aload_n 3, 1) := dk_45 (dk_at dksX0_know_2 23 rfl rfl)
theorem dX0_know_71 : decode cX0_know 71 = .ok (.iload_n 1, 1) := dk_27 (dk_at dksX0_know_3 0 rfl rfl)
theorem dX0_know_72 : decode cX0_know 72 = .ok (.invokevirtual 286, 3) := dk_182 1 30 (dk_at dksX0_know_3 1 rfl rfl)
theorem dX0_know_75 : decode cX0_know 75 = .ok (.ifCond .eq 28, 3) := dk_153 0 28 (dk_at dksX0_know_3 4 rfl rfl)
theorem dX0_know_78 : decode cX0_know 78 = .ok (.aload_n 0, 1) := dk_42 (dk_at dksX0_know_3 7 rfl rfl)
theorem dX0_know_79 : decode cX0_know 79 = .ok (.getfield 84, 3) := dk_180 0 84 (dk_at dksX0_know_3 8 rfl rfl)
theorem dX0_know_82 : decode cX0_know 82 = .ok (.aload_n 3, 1) := dk_45 (dk_at dksX0_know_3 11 rfl rfl)
theorem dX0_know_83 : decode cX0_know 83 = .ok (.getfield 289, 3) := dk_180 1 33 (dk_at dksX0_know_3 12 rfl rfl)
theorem dX0_know_86 : decode cX0_know 86 = .ok (.aload_n 0, 1) := dk_42 (dk_at dksX0_know_3 15 rfl rfl)
theorem dX0_know_87 : decode cX0_know 87 = .ok (.getfield 84, 3) := dk_180 0 84 (dk_at dksX0_know_3 16 rfl rfl)
theorem dX0_know_90 : decode cX0_know 90 = .ok (.aload_n 3, 1) := dk_45 (dk_at dksX0_know_3 19 rfl rfl)
theorem dX0_know_91 : decode cX0_know 91 = .ok (.getfield 289, 3) := dk_180 1 33 (dk_at dksX0_know_3 20 rfl rfl)
theorem dX0_know_94 : decode cX0_know 94 = .ok (.iaload, 1) := dk_46 (dk_at dksX0_know_3 23 rfl rfl)
theorem dX0_know_95 : decode cX0_know 95 = .ok (.aload_n 3, 1) := dk_45 (dk_at dksX0_know_4 0 rfl rfl)
theorem dX0_know_96 : decode cX0_know 96 = .ok (.getfield 292, 3) := dk_180 1 36 (dk_at dksX0_know_4 1 rfl rfl)
theorem dX0_know_99 : decode cX0_know 99 = .ok (.invokestatic 294, 3) := dk_184 1 38 (dk_at dksX0_know_4 4 rfl rfl)
theorem dX0_know_102 : decode cX0_know 102 = .ok (.iastore, 1) := dk_79 (dk_at dksX0_know_4 7 rfl rfl)
theorem dX0_know_103 : decode cX0_know 103 = .ok (.iinc 2 1, 3) := dk_132 2 1 (dk_at dksX0_know_4 8 rfl rfl)
theorem dX0_know_106 : decode cX0_know 106 = .ok (.goto (-81), 3) := dk_167 255 175 (dk_at dksX0_know_4 11 rfl rfl)
theorem dX0_know_109 : decode cX0_know 109 = .ok (.iconst 1, 1) := dk_4 (dk_at dksX0_know_4 14 rfl rfl)
theorem dX0_know_110 : decode cX0_know 110 = .ok (.istore_n 2, 1) := dk_61 (dk_at dksX0_know_4 15 rfl rfl)
theorem dX0_know_111 : decode cX0_know 111 = .ok (.iload_n 2, 1) := dk_28 (dk_at dksX0_know_4 16 rfl rfl)
theorem dX0_know_112 : decode cX0_know 112 = .ok (.ifCond .eq 137, 3) := dk_153 0 137 (dk_at dksX0_know_4 17 rfl rfl)
theorem dX0_know_115 : decode cX0_know 115 = .ok (.iconst 0, 1) := dk_3 (dk_at dksX0_know_4 20 rfl rfl)
theorem dX0_know_116 : decode cX0_know 116 = .ok (.istore_n 2, 1) := dk_61 (dk_at dksX0_know_4 21 rfl rfl)
theorem dX0_know_117 : decode cX0_know 117 = .ok (.iconst 0, 1) := dk_3 (dk_at dksX0_know_4 22 rfl rfl)
theorem dX0_know_118 : decode cX0_know 118 = .ok (.istore_n 3, 1) := dk_62 (dk_at dksX0_know_4 23 rfl rfl)
theorem dX0_know_119 : decode cX0_know 119 = .ok (.iload_n 3, 1) := dk_29 (dk_at dksX0_know_5 0 rfl rfl)
theorem dX0_know_120 : decode cX0_know 120 = .ok (.aload_n 0, 1) := dk_42 (dk_at dksX0_know_5 1 rfl rfl)
theorem dX0_know_121 : decode cX0_know 121 = .ok (.getfield 52, 3) := dk_180 0 52 (dk_at dksX0_know_5 2 rfl rfl)
theorem dX0_know_124 : decode cX0_know 124 = .ok (.getfield 298, 3) := dk_180 1 42 (dk_at dksX0_know_5 5 rfl rfl)
theorem dX0_know_127 : decode cX0_know 127 = .ok (.invokevirtual 181, 3) := dk_182 0 181 (dk_at dksX0_know_5 8 rfl rfl)
theorem dX0_know_130 : decode cX0_know 130 = .ok (.if_icmp .ge 116, 3) := dk_162 0 116 (dk_at dksX0_know_5 11 rfl rfl)
theorem dX0_know_133 : decode cX0_know 133 = .ok (.aload_n 0, 1) := dk_42 (dk_at dksX0_know_5 14 rfl rfl)
theorem dX0_know_134 : decode cX0_know 134 = .ok (.getfield 52, 3) := dk_180 0 52 (dk_at dksX0_know_5 15 rfl rfl)
theorem dX0_know_137 : decode cX0_know 137 = .ok (.getfield 298, 3) := dk_180 1 42 (dk_at dksX0_know_5 18 rfl rfl)
theorem dX0_know_140 : decode cX0_know 140 = .ok (.iload_n 3, 1) := dk_29 (dk_at dksX0_know_5 21 rfl rfl)
theorem dX0_know_141 : decode cX0_know 141 = .ok (.invokevirtual 184, 3) := dk_182 0 184 (dk_at dksX0_know_6 0 rfl rfl)
theorem dX0_know_144 : decode cX0_know 144 = .ok (.checkcast 204, 3) := dk_192 0 204 (dk_at dksX0_know_6 3 rfl rfl)
theorem dX0_know_147 : decode cX0_know 147 = .ok (.astore 4, 2) := dk_58 4 (dk_at dksX0_know_6 6 rfl rfl)
theorem dX0_know_149 : decode cX0_know 149 = .ok (.aload_n 0, 1) := dk_42 (dk_at dksX0_know_6 8 rfl rfl)
theorem dX0_know_150 : decode cX0_know 150 = .ok (.getfield 84, 3) := dk_180 0 84 (dk_at dksX0_know_6 9 rfl rfl)
theorem dX0_know_153 : decode cX0_know 153 = .ok (.aload 4, 2) := dk_25 4 (dk_at dksX0_know_6 12 rfl rfl)
theorem dX0_know_155 : decode cX0_know 155 = .ok (.getfield 209, 3) := dk_180 0 209 (dk_at dksX0_know_6 14 rfl rfl)
theorem dX0_know_158 : decode cX0_know 158 = .ok (.getfield 301, 3) := dk_180 1 45 (dk_at dksX0_know_6 17 rfl rfl)
theorem dX0_know_161 : decode cX0_know 161 = .ok (.iaload, 1) := dk_46 (dk_at dksX0_know_6 20 rfl rfl)
theorem dX0_know_162 : decode cX0_know 162 = .ok (.ldc_w 285, 3) := dk_19 1 29 (dk_at dksX0_know_6 21 rfl rfl)
theorem dX0_know_165 : decode cX0_know 165 = .ok (.if_icmp .eq 75, 3) := dk_159 0 75 (dk_at dksX0_know_7 0 rfl rfl)
theorem dX0_know_168 : decode cX0_know 168 = .ok (.aload_n 0, 1) := dk_42 (dk_at dksX0_know_7 3 rfl rfl)
theorem dX0_know_169 : decode cX0_know 169 = .ok (.getfield 84, 3) := dk_180 0 84 (dk_at dksX0_know_7 4 rfl rfl)
theorem dX0_know_172 : decode cX0_know 172 = .ok (.aload 4, 2) := dk_25 4 (dk_at dksX0_know_7 7 rfl rfl)
theorem dX0_know_174 : decode cX0_know 174 = .ok (.getfield 209, 3) := dk_180 0 209 (dk_at dksX0_know_7 9 rfl rfl)
theorem dX0_know_177 : decode cX0_know 177 = .ok (.getfield 301, 3) := dk_180 1 45 (dk_at dksX0_know_7 12 rfl rfl)
theorem dX0_know_180 : decode cX0_know 180 = .ok (.iaload, 1) := dk_46 (dk_at dksX0_know_7 15 rfl rfl)
theorem dX0_know_181 : decode cX0_know 181 = .ok (.aload 4, 2) := dk_25 4 (dk_at dksX0_know_7 16 rfl rfl)
theorem dX0_know_183 : decode cX0_know 183 = .ok (.getfield 224, 3) := dk_180 0 224 (dk_at dksX0_know_7 18 rfl rfl)
theorem dX0_know_186 : decode cX0_know 186 = .ok (.iadd, 1) := dk_96 (dk_at dksX0_know_7 21 rfl rfl)
theorem dX0_know_187 : decode cX0_know 187 = .ok (.aload_n 0, 1) := dk_42 (dk_at dksX0_know_7 22 rfl rfl)
theorem dX0_know_188 : decode cX0_know 188 = .ok (.getfield 84, 3) := dk_180 0 84 (dk_at dksX0_know_8 0 rfl rfl)
theorem dX0_know_191 : decode cX0_know 191 = .ok (.aload 4, 2) := dk_25 4 (dk_at dksX0_know_8 3 rfl rfl)
theorem dX0_know_193 : decode cX0_know 193 = .ok (.getfield 216, 3) := dk_180 0 216 (dk_at dksX0_know_8 5 rfl rfl)
theorem dX0_know_196 : decode cX0_know 196 = .ok (.getfield 301, 3) := dk_180 1 45 (dk_at dksX0_know_8 8 rfl rfl)
theorem dX0_know_199 : decode cX0_know 199 = .ok (.iaload, 1) := dk_46 (dk_at dksX0_know_8 11 rfl rfl)
theorem dX0_know_200 : decode cX0_know 200 = .ok (.if_icmp .lt 6, 3) := dk_161 0 6 (dk_at dksX0_know_8 12 rfl rfl)
theorem dX0_know_203 : decode cX0_know 203 = .ok (.goto 37, 3) := dk_167 0 37 (dk_at dksX0_know_8 15 rfl rfl)
theorem dX0_know_206 : decode cX0_know 206 = .ok (.aload_n 0, 1) := dk_42 (dk_at dksX0_know_8 18 rfl rfl)
theorem dX0_know_207 : decode cX0_know 207 = .ok (.getfield 84, 3) := dk_180 0 84 (dk_at dksX0_know_8 19 rfl rfl)
theorem dX0_know_210 : decode cX0_know 210 = .ok (.aload 4, 2) := dk_25 4 (dk_at dksX0_know_8 22 rfl rfl)
theorem dX0_know_212 : decode cX0_know 212 = .ok (.getfield 216, 3) := dk_180 0 216 (dk_at dksX0_know_9 0 rfl rfl)
theorem dX0_know_215 : decode cX0_know 215 = .ok (.getfield 301, 3) := dk_180 1 45 (dk_at dksX0_know_9 3 rfl rfl)
theorem dX0_know_218 : decode cX0_know 218 = .ok (.aload_n 0, 1) := dk_42 (dk_at dksX0_know_9 6 rfl rfl)
theorem dX0_know_219 : decode cX0_know 219 = .ok (.getfield 84, 3) := dk_180 0 84 (dk_at dksX0_know_9 7 rfl rfl)
theorem dX0_know_222 : decode cX0_know 222 = .ok (.aload 4, 2) := dk_25 4 (dk_at dksX0_know_9 10 rfl rfl)
theorem dX0_know_224 : decode cX0_know 224 = .ok (.getfield 209, 3) := dk_180 0 209 (dk_at dksX0_know_9 12 rfl rfl)
theorem dX0_know_227 : decode cX0_know 227 = .ok (.getfield 301, 3) := dk_180 1 45 (dk_at dksX0_know_9 15 rfl rfl)
theorem dX0_know_230 : decode cX0_know 230 = .ok (.iaload, 1) := dk_46 (dk_at dksX0_know_9 18 rfl rfl)
theorem dX0_know_231 : decode cX0_know 231 = .ok (.aload 4, 2) := dk_25 4 (dk_at dksX0_know_9 19 rfl rfl)
theorem dX0_know_233 : decode cX0_know 233 = .ok (.getfield 224, 3) := dk_180 0 224 (dk_at dksX0_know_9 21 rfl rfl)
theorem dX0_know_236 : decode cX0_know 236 = .ok (.iadd, 1) := dk_96 (dk_at dksX0_know_10 0 rfl rfl)
theorem dX0_know_237 : decode cX0_know 237 = .ok (.iastore, 1) := dk_79 (dk_at dksX0_know_10 1 rfl rfl)
theorem dX0_know_238 : decode cX0_know 238 = .ok (.iconst 1, 1) := dk_4 (dk_at dksX0_know_10 2 rfl rfl)
theorem dX0_know_239 : decode cX0_know 239 = .ok (.istore_n 2, 1) := dk_61 (dk_at dksX0_know_10 3 rfl rfl)
theorem dX0_know_240 : decode cX0_know 240 = .ok (.iinc 3 1, 3) := dk_132 3 1 (dk_at dksX0_know_10 4 rfl rfl)
theorem dX0_know_243 : decode cX0_know 243 = .ok (.goto (-124), 3) := dk_167 255 132 (dk_at dksX0_know_10 7 rfl rfl)
theorem dX0_know_246 : decode cX0_know 246 = .ok (.goto (-135), 3) := dk_167 255 121 (dk_at dksX0_know_10 10 rfl rfl)
theorem dX0_know_249 : decode cX0_know 249 = .ok (.return_, 1) := dk_177 (dk_at dksX0_know_10 13 rfl rfl)
abbrev cX0_known : ByteArray := prog_1_method_1_code
def dkwX0_known_11 : List UInt8 := [16, 10, 172, 2, 172]
abbrev dktX0_known_11 : List UInt8 := dkwX0_known_11 ++ []
def dkwX0_known_10 : List UInt8 := [3, 172, 4, 172, 5, 172, 6, 172, 7, 172, 8, 172, 16, 6, 172, 16, 7, 172, 16, 8, 172, 16, 9, 172]
abbrev dktX0_known_10 : List UInt8 := dkwX0_known_10 ++ dktX0_known_11
def dkwX0_known_9 : List UInt8 := [170, 0, 0, 0, 0, 0, 86, 0, 0, 0, 0, 0, 0, 0, 10, 0, 0, 0, 59, 0, 0, 0, 61, 0, 0, 0, 63, 0, 0, 0, 65, 0, 0, 0, 67, 0, 0, 0, 69, 0, 0, 0, 71, 0, 0, 0, 74, 0, 0, 0, 77, 0, 0, 0, 80, 0, 0, 0, 83]
abbrev dktX0_known_9 : List UInt8 := dkwX0_known_9 ++ dktX0_known_10
def dkwX0_known_8 : List UInt8 := [167, 0, 15, 43, 18, 31, 182, 0, 9, 153, 0, 6, 16, 10, 61, 28]
abbrev dktX0_known_8 : List UInt8 := dkwX0_known_8 ++ dktX0_known_9
def dkwX0_known_7 : List UInt8 := [182, 0, 9, 153, 0, 36, 16, 8, 61, 167, 0, 30, 43, 18, 29, 182, 0, 9, 153, 0, 21, 16, 9, 61]
abbrev dktX0_known_7 : List UInt8 := dkwX0_known_7 ++ dktX0_known_8
def dkwX0_known_6 : List UInt8 := [61, 167, 0, 60, 43, 18, 25, 182, 0, 9, 153, 0, 51, 16, 7, 61, 167, 0, 45, 43, 18, 27]
abbrev dktX0_known_6 : List UInt8 := dkwX0_known_6 ++ dktX0_known_7
def dkwX0_known_5 : List UInt8 := [18, 21, 182, 0, 9, 153, 0, 80, 8, 61, 167, 0, 75, 43, 18, 23, 182, 0, 9, 153, 0, 66, 16, 6]
abbrev dktX0_known_5 : List UInt8 := dkwX0_known_5 ++ dktX0_known_6
def dkwX0_known_4 : List UInt8 := [153, 0, 108, 6, 61, 167, 0, 103, 43, 18, 19, 182, 0, 9, 153, 0, 94, 7, 61, 167, 0, 89, 43]
abbrev dktX0_known_4 : List UInt8 := dkwX0_known_4 ++ dktX0_known_5
def dkwX0_known_3 : List UInt8 := [61, 167, 0, 131, 43, 18, 15, 182, 0, 9, 153, 0, 122, 5, 61, 167, 0, 117, 43, 18, 17, 182, 0, 9]
abbrev dktX0_known_3 : List UInt8 := dkwX0_known_3 ++ dktX0_known_4
def dkwX0_known_2 : List UInt8 := [43, 18, 7, 182, 0, 9, 153, 0, 150, 3, 61, 167, 0, 145, 43, 18, 13, 182, 0, 9, 153, 0, 136, 4]
abbrev dktX0_known_2 : List UInt8 := dkwX0_known_2 ++ dktX0_known_3
def dkwX0_known_1 : List UInt8 := [171, 0, 0, 0, 0, 0, 1, 0, 0, 0, 0, 11, 182, 61, 217, 135, 0, 0, 0, 156, 195, 253, 99, 99, 0, 0, 0, 229, 196, 226, 116, 62, 0, 0, 0, 199, 0, 46, 175, 205, 0, 0, 0, 114, 0, 48, 245, 228, 0, 0, 0, 170, 0, 50, 145, 235, 0, 0, 0, 100, 0, 52, 60, 212, 0, 0, 0, 142, 6, 52, 34, 128, 0, 0, 0, 128, 6, 95, 177, 73, 0, 0, 0, 244, 6, 133, 133, 17, 0, 0, 0, 214, 6, 137, 0, 71, 0, 0, 0, 184]
abbrev dktX0_known_1 : List UInt8 := dkwX0_known_1 ++ dktX0_known_2
def dkwX0_known_0 : List UInt8 := [42, 76, 2, 61, 43, 182, 0, 1]
abbrev dktX0_known_0 : List UInt8 := dkwX0_known_0 ++ dktX0_known_1
theorem dksX0_known_0 : cX0_known.data.toList.drop 0 = dktX0_known_0 := by decide +kernel
theorem dksX0_known_1 : cX0_known.data.toList.drop 8 = dktX0_known_1 := dk_seg dksX0_known_0 8 rfl rfl
theorem dksX0_known_2 : cX0_known.data.toList.drop 108 = dktX0_known_2 := dk_seg dksX0_known_1 100 rfl rfl
theorem dksX0_known_3 : cX0_known.data.toList.drop 132 = dktX0_known_3 := dk_seg dksX0_known_2 24 rfl rfl
theorem dksX0_known_4 : cX0_known.data.toList.drop 156 = dktX0_known_4 := dk_seg dksX0_known_3 24 rfl rfl
theorem dksX0_known_5 : cX0_known.data.toList.drop 179 = dktX0_known_5 := dk_seg dksX0_known_4 23 rfl rfl
theorem dksX0_known_6 : cX0_known.data.toList.drop 203 = dktX0_known_6 := dk_seg dksX0_known_5 24 rfl rfl
theorem dksX0_known_7 : cX0_known.data.toList.drop 225 = dktX0_known_7 := dk_seg dksX0_known_6 22 rfl rfl
theorem dksX0_known_8 : cX0_known.data.toList.drop 249 = dktX0_known_8 := dk_seg dksX0_known_7 24 rfl rfl
theorem dksX0_known_9 : cX0_known.data.toList.drop 265 = dktX0_known_9 := dk_seg dksX0_known_8 16 rfl rfl
theorem dksX0_known_10 : cX0_known.data.toList.drop 324 = dktX0_known_10 := dk_seg dksX0_known_9 59 rfl rfl
theorem dksX0_known_11 : cX0_known.data.toList.drop 348 = dktX0_known_11 := dk_seg dksX0_known_10 24 rfl rfl
theorem dX0_known_0 : decode cX0_known 0 = .ok (.aload_n 0, 1) := dk_42 (dk_at dksX0_known_0 0 rfl rfl)
theorem dX0_known_1 : decode cX0_known 1 = .ok (.astore_n 1, 1) := dk_76 (dk_at dksX0_known_0 1 rfl rfl)
theorem dX0_known_2 : decode cX0_known 2 = .ok (.iconst (-1), 1) := dk_2 (dk_at dksX0_known_0 2 rfl rfl)
theorem dX0_known_3 : decode cX0_known 3 = .ok (.istore_n 2, 1) := dk_61 (dk_at dksX0_known_0 3 rfl rfl)
theorem dX0_known_4 : decode cX0_known 4 = .ok (.aload_n 1, 1) := dk_43 (dk_at dksX0_known_0 4 rfl rfl)
theorem dX0_known_5 : decode cX0_known 5 = .ok (.invokevirtual 1, 3) := dk_182 0 1 (dk_at dksX0_known_0 5 rfl rfl)
theorem dX0_known_8 : decode cX0_known 8 = .ok (.lookupswitch 256 #[(-1237460601, 156), (-1006804125, 229), (-991792066, 199), (3059661, 114), (3208676, 170), (3314155, 100), (3423444, 142), (104080000, 128), (106934601, 244), (109413649, 214), (109641799, 184)], 100) := by decide +kernel
theorem dX0_known_108 : decode cX0_known 108 = .ok (.aload_n 1, 1) := dk_43 (dk_at dksX0_known_2 0 rfl rfl)
theorem dX0_known_109 : decode cX0_known 109 = .ok (.ldc 7, 2) := dk_18 7 (dk_at dksX0_known_2 1 rfl rfl)
theorem dX0_known_111 : decode cX0_known 111 = .ok (.invokevirtual 9, 3) := dk_182 0 9 (dk_at dksX0_known_2 3 rfl rfl)
theorem dX0_known_114 : decode cX0_known 114 = .ok (.ifCond .eq 150, 3) := dk_153 0 150 (dk_at dksX0_known_2 6 rfl rfl)
theorem dX0_known_117 : decode cX0_known 117 = .ok (.iconst 0, 1) := dk_3 (dk_at dksX0_known_2 9 rfl rfl)
theorem dX0_known_118 : decode cX0_known 118 = .ok (.istore_n 2, 1) := dk_61 (dk_at dksX0_known_2 10 rfl rfl)
theorem dX0_known_119 : decode cX0_known 119 = .ok (.goto 145, 3) := dk_167 0 145 (dk_at dksX0_known_2 11 rfl rfl)
theorem dX0_known_122 : decode cX0_known 122 = .ok (.aload_n 1, 1) := dk_43 (dk_at dksX0_known_2 14 rfl rfl)
theorem dX0_known_123 : decode cX0_known 123 = .ok (.ldc 13, 2) := dk_18 13 (dk_at dksX0_known_2 15 rfl rfl)
theorem dX0_known_125 : decode cX0_known 125 = .ok (.invokevirtual 9, 3) := dk_182 0 9 (dk_at dksX0_known_2 17 rfl rfl)
theorem dX0_known_128 : decode cX0_known 128 = .ok (.ifCond .eq 136, 3) := dk_153 0 136 (dk_at dksX0_known_2 20 rfl rfl)
theorem dX0_known_131 : decode cX0_known 131 = .ok (.iconst 1, 1) := dk_4 (dk_at dksX0_known_2 23 rfl rfl)
theorem dX0_known_132 : decode cX0_known 132 = .ok (.istore_n 2, 1) := dk_61 (dk_at dksX0_known_3 0 rfl rfl)
theorem dX0_known_133 : decode cX0_known 133 = .ok (.goto 131, 3) := dk_167 0 131 (dk_at dksX0_known_3 1 rfl rfl)
theorem dX0_known_136 : decode cX0_known 136 = .ok (.aload_n 1, 1) := dk_43 (dk_at dksX0_known_3 4 rfl rfl)
theorem dX0_known_137 : decode cX0_known 137 = .ok (.ldc 15, 2) := dk_18 15 (dk_at dksX0_known_3 5 rfl rfl)
theorem dX0_known_139 : decode cX0_known 139 = .ok (.invokevirtual 9, 3) := dk_182 0 9 (dk_at dksX0_known_3 7 rfl rfl)
theorem dX0_known_142 : decode cX0_known 142 = .ok (.ifCond .eq 122, 3) := dk_153 0 122 (dk_at dksX0_known_3 10 rfl rfl)
theorem dX0_known_145 : decode cX0_known 145 = .ok (.iconst 2, 1) := dk_5 (dk_at dksX0_known_3 13 rfl rfl)
theorem dX0_known_146 : decode cX0_known 146 = .ok (.istore_n 2, 1) := dk_61 (dk_at dksX0_known_3 14 rfl rfl)
theorem dX0_known_147 : decode cX0_known 147 = .ok (.goto 117, 3) := dk_167 0 117 (dk_at dksX0_known_3 15 rfl rfl)
theorem dX0_known_150 : decode cX0_known 150 = .ok (.aload_n 1, 1) := dk_43 (dk_at dksX0_known_3 18 rfl rfl)
theorem dX0_known_151 : decode cX0_known 151 = .ok (.ldc 17, 2) := dk_18 17 (dk_at dksX0_known_3 19 rfl rfl)
theorem dX0_known_153 : decode cX0_known 153 = .ok (.invokevirtual 9, 3) := dk_182 0 9 (dk_at dksX0_known_3 21 rfl rfl)
theorem dX0_known_156 : decode cX0_known 156 = .ok (.ifCond .eq 108, 3) := dk_153 0 108 (dk_at dksX0_known_4 0 rfl rfl)
theorem dX0_known_159 : decode cX0_known 159 = .ok (.iconst 3, 1) := dk_6 (dk_at dksX0_known_4 3 rfl rfl)
theorem dX0_known_160 : decode cX0_known 160 = .ok (.istore_n 2, 1) := dk_61 (dk_at dksX0_known_4 4 rfl rfl)
theorem dX0_known_161 : decode cX0_known 161 = .ok (.goto 103, 3) := dk_167 0 103 (dk_at dksX0_known_4 5 rfl rfl)
theorem dX0_known_164 : decode cX0_known 164 = .ok (.aload_n 1, 1) := dk_43 (dk_at dksX0_known_4 8 rfl rfl)
theorem dX0_known_165 : decode cX0_known 165 = .ok (.ldc 19, 2) := dk_18 19 (dk_at dksX0_known_4 9 rfl rfl)
theorem dX0_known_167 : decode cX0_known 167 = .ok (.invokevirtual 9, 3) := dk_182 0 9 (dk_at dksX0_known_4 11 rfl rfl)
theorem dX0_known_170 : decode cX0_known 170 = .ok (.ifCond .eq 94, 3) := dk_153 0 94 (dk_at dksX0_known_4 14 rfl rfl)
theorem dX0_known_173 : decode cX0_known 173 = .ok (.iconst 4, 1) := dk_7 (dk_at dksX0_known_4 17 rfl rfl)
theorem dX0_known_174 : decode cX0_known 174 = .ok (.istore_n 2, 1) := dk_61 (dk_at dksX0_known_4 18 rfl rfl)
theorem dX0_known_175 : decode cX0_known 175 = .ok (.goto 89, 3) := dk_167 0 89 (dk_at dksX0_known_4 19 rfl rfl)
theorem dX0_known_178 : decode cX0_known 178 = .ok (.aload_n 1, 1) := dk_43 (dk_at dksX0_known_4 22 rfl rfl)
theorem dX0_known_179 : decode cX0_known 179 = .ok (.ldc 21, 2) := dk_18 21 (dk_at dksX0_known_5 0 rfl rfl)
theorem dX0_known_181 : decode cX0_known 181 = .ok (.invokevirtual 9, 3) := dk_182 0 9 (dk_at dksX0_known_5 2 rfl rfl)
theorem dX0_known_184 : decode cX0_known 184 = .ok (.ifCond .eq 80, 3) := dk_153 0 80 (dk_at dksX0_known_5 5 rfl rfl)
theorem dX0_known_187 : decode cX0_known 187 = .ok (.iconst 5, 1) := dk_8 (dk_at dksX0_known_5 8 rfl rfl)
theorem dX0_known_188 : decode cX0_known 188 = .ok (.istore_n 2, 1) := dk_61 (dk_at dksX0_known_5 9 rfl rfl)
theorem dX0_known_189 : decode cX0_known 189 = .ok (.goto 75, 3) := dk_167 0 75 (dk_at dksX0_known_5 10 rfl rfl)
theorem dX0_known_192 : decode cX0_known 192 = .ok (.aload_n 1, 1) := dk_43 (dk_at dksX0_known_5 13 rfl rfl)
theorem dX0_known_193 : decode cX0_known 193 = .ok (.ldc 23, 2) := dk_18 23 (dk_at dksX0_known_5 14 rfl rfl)
theorem dX0_known_195 : decode cX0_known 195 = .ok (.invokevirtual 9, 3) := dk_182 0 9 (dk_at dksX0_known_5 16 rfl rfl)
theorem dX0_known_198 : decode cX0_known 198 = .ok (.ifCond .eq 66, 3) := dk_153 0 66 (dk_at dksX0_known_5 19 rfl rfl)
theorem dX0_known_201 : decode cX0_known 201 = .ok (.bipush 6, 2) := dk_16 6 (dk_at dksX0_known_5 22 rfl rfl)
theorem dX0_known_203 : decode cX0_known 203 = .ok (.istore_n 2, 1) := dk_61 (dk_at dksX0_known_6 0 rfl rfl)
theorem dX0_known_204 : decode cX0_known 204 = .ok (.goto 60, 3) := dk_167 0 60 (dk_at dksX0_known_6 1 rfl rfl)
theorem dX0_known_207 : decode cX0_known 207 = .ok (.aload_n 1, 1) := dk_43 (dk_at dksX0_known_6 4 rfl rfl)
theorem dX0_known_208 : decode cX0_known 208 = .ok (.ldc 25, 2) := dk_18 25 (dk_at dksX0_known_6 5 rfl rfl)
theorem dX0_known_210 : decode cX0_known 210 = .ok (.invokevirtual 9, 3) := dk_182 0 9 (dk_at dksX0_known_6 7 rfl rfl)
theorem dX0_known_213 : decode cX0_known 213 = .ok (.ifCond .eq 51, 3) := dk_153 0 51 (dk_at dksX0_known_6 10 rfl rfl)
theorem dX0_known_216 : decode cX0_known 216 = .ok (.bipush 7, 2) := dk_16 7 (dk_at dksX0_known_6 13 rfl rfl)
theorem dX0_known_218 : decode cX0_known 218 = .ok (.istore_n 2, 1) := dk_61 (dk_at dksX0_known_6 15 rfl rfl)
theorem dX0_known_219 : decode cX0_known 219 = .ok (.goto 45, 3) := dk_167 0 45 (dk_at dksX0_known_6 16 rfl rfl)
theorem dX0_known_222 : decode cX0_known 222 = .ok (.aload_n 1, 1) := dk_43 (dk_at dksX0_known_6 19 rfl rfl)
theorem dX0_known_223 : decode cX0_known 223 = .ok (.ldc 27, 2) := dk_18 27 (dk_at dksX0_known_6 20 rfl rfl)
theorem dX0_known_225 : decode cX0_known 225 = .ok (.invokevirtual 9, 3) := dk_182 0 9 (dk_at dksX0_known_7 0 rfl rfl)
theorem dX0_known_228 : decode cX0_known 228 = .ok (.ifCond .eq 36, 3) := dk_153 0 36 (dk_at dksX0_known_7 3 rfl rfl)
theorem dX0_known_231 : decode cX0_known 231 = .ok (.bipush 8, 2) := dk_16 8 (dk_at dksX0_known_7 6 rfl rfl)
theorem dX0_known_233 : decode cX0_known 233 = .ok (.istore_n 2, 1) := dk_61 (dk_at dksX0_known_7 8 rfl rfl)
theorem dX0_known_234 : decode cX0_known 234 = .ok (.goto 30, 3) := dk_167 0 30 (dk_at dksX0_known_7 9 rfl rfl)
theorem dX0_known_237 : decode cX0_known 237 = .ok (.aload_n 1, 1) := dk_43 (dk_at dksX0_known_7 12 rfl rfl)
theorem dX0_known_238 : decode cX0_known 238 = .ok (.ldc 29, 2) := dk_18 29 (dk_at dksX0_known_7 13 rfl rfl)
theorem dX0_known_240 : decode cX0_known 240 = .ok (.invokevirtual 9, 3) := dk_182 0 9 (dk_at dksX0_known_7 15 rfl rfl)
theorem dX0_known_243 : decode cX0_known 243 = .ok (.ifCond .eq 21, 3) := dk_153 0 21 (dk_at dksX0_known_7 18 rfl rfl)
theorem dX0_known_246 : decode cX0_known 246 = .ok (.bipush 9, 2) := dk_16 9 (dk_at dksX0_known_7 21 rfl rfl)
theorem dX0_known_248 : decode cX0_known 248 = .ok (.istore_n 2, 1) := dk_61 (dk_at dksX0_known_7 23 rfl rfl)
theorem dX0_known_249 : decode cX0_known 249 = .ok (.goto 15, 3) := dk_167 0 15 (dk_at dksX0_known_8 0 rfl rfl)
theorem dX0_known_252 : decode cX0_known 252 = .ok (.aload_n 1, 1) := dk_43 (dk_at dksX0_known_8 3 rfl rfl)
theorem dX0_known_253 : decode cX0_known 253 = .ok (.ldc 31, 2) := dk_18 31 (dk_at dksX0_known_8 4 rfl rfl)
theorem dX0_known_255 : decode cX0_known 255 = .ok (.invokevirtual 9, 3) := dk_182 0 9 (dk_at dksX0_known_8 6 rfl rfl)
theorem dX0_known_258 : decode cX0_known 258 = .ok (.ifCond .eq 6, 3) := dk_153 0 6 (dk_at dksX0_known_8 9 rfl rfl)
theorem dX0_known_261 : decode cX0_known 261 = .ok (.bipush 10, 2) := dk_16 10 (dk_at dksX0_known_8 12 rfl rfl)
theorem dX0_known_263 : decode cX0_known 263 = .ok (.istore_n 2, 1) := dk_61 (dk_at dksX0_known_8 14 rfl rfl)
theorem dX0_known_264 : decode cX0_known 264 = .ok (.iload_n 2, 1) := dk_28 (dk_at dksX0_known_8 15 rfl rfl)
theorem dX0_known_265 : decode cX0_known 265 = .ok (.tableswitch 86 0 10 #[59, 61, 63, 65, 67, 69, 71, 74, 77, 80, 83], 59) := by decide +kernel
theorem dX0_known_324 : decode cX0_known 324 = .ok (.iconst 0, 1) := dk_3 (dk_at dksX0_known_10 0 rfl rfl)
theorem dX0_known_325 : decode cX0_known 325 = .ok (.ireturn, 1) := dk_172 (dk_at dksX0_known_10 1 rfl rfl)
theorem dX0_known_326 : decode cX0_known 326 = .ok (.iconst 1, 1) := dk_4 (dk_at dksX0_known_10 2 rfl rfl)
theorem dX0_known_327 : decode cX0_known 327 = .ok (.ireturn, 1) := dk_172 (dk_at dksX0_known_10 3 rfl rfl)
theorem dX0_known_328 : decode cX0_known 328 = .ok (.iconst 2, 1) := dk_5 (dk_at dksX0_known_10 4 rfl rfl)
theorem dX0_known_329 : decode cX0_known 329 = .ok (.ireturn, 1) := dk_172 (dk_at dksX0_known_10 5 rfl rfl)
theorem dX0_known_330 : decode cX0_known 330 = .ok (.iconst 3, 1) := dk_6 (dk_at dksX0_known_10 6 rfl rfl)
theorem dX0_known_331 : decode cX0_known 331 = .ok (.ireturn, 1) := dk_172 (dk_at dksX0_known_10 7 rfl rfl)
theorem dX0_known_332 : decode cX0_known 332 = .ok (.iconst 4, 1) := dk_7 (dk_at dksX0_known_10 8 rfl rfl)
theorem dX0_known_333 : decode cX0_known 333 = .ok (.ireturn, 1) := dk_172 (dk_at dksX0_known_10 9 rfl rfl)
theorem dX0_known_334 : decode cX0_known 334 = .ok (.iconst 5, 1) := dk_8 (dk_at dksX0_known_10 10 rfl rfl)
theorem dX0_known_335 : decode cX0_known 335 = .ok (.ireturn, 1) := dk_172 (dk_at dksX0_known_10 11 rfl rfl)
theorem dX0_known_336 : decode cX0_known 336 = .ok (.bipush 6, 2) := dk_16 6 (dk_at dksX0_known_10 12 rfl rfl)
theorem dX0_known_338 : decode cX0_known 338 = .ok (.ireturn, 1) := dk_172 (dk_at dksX0_known_10 14 rfl rfl)
theorem dX0_known_339 : decode cX0_known 339 = .ok (.bipush 7, 2) := dk_16 7 (dk_at dksX0_known_10 15 rfl rfl)
theorem dX0_known_341 : decode cX0_known 341 = .ok (.ireturn, 1) := dk_172 (dk_at dksX0_known_10 17 rfl rfl)
theorem dX0_known_342 : decode cX0_known 342 = .ok (.bipush 8, 2) := dk_16 8 (dk_at dksX0_known_10 18 rfl rfl)
theorem dX0_known_344 : decode cX0_known 344 = .ok (.ireturn, 1) := dk_172 (dk_at dksX0_known_10 20 rfl rfl)
theorem dX0_known_345 : decode cX0_known 345 = .ok (.bipush 9, 2) := dk_16 9 (dk_at dksX0_known_10 21 rfl rfl)
theorem dX0_known_347 : decode cX0_known 347 = .ok (.ireturn, 1) := dk_172 (dk_at dksX0_known_10 23 rfl rfl)
theorem dX0_known_348 : decode cX0_known 348 = .ok (.bipush 10, 2) := dk_16 10 (dk_at dksX0_known_11 0 rfl rfl)
theorem dX0_known_350 : decode cX0_known 350 = .ok (.ireturn, 1) := dk_172 (dk_at dksX0_known_11 2 rfl rfl)
theorem dX0_known_351 : decode cX0_known 351 = .ok (.iconst (-1), 1) := dk_2 (dk_at dksX0_known_11 3 rfl rfl)
theorem dX0_known_352 : decode cX0_known 352 = .ok (.ireturn, 1) := dk_172 (dk_at dksX0_known_11 4 rfl rfl)
abbrev cX0_land : ByteArray := prog_1_method_39_code
def dkwX0_land_0 : List UInt8 := [42, 180, 0, 151, 60, 42, 3, 181, 0, 151, 27, 172]
abbrev dktX0_land_0 : List UInt8 := dkwX0_land_0 ++ []
theorem dksX0_land_0 : cX0_land.data.toList.drop 0 = dktX0_land_0 := by decide +kernel
theorem dX0_land_0 : decode cX0_land 0 = .ok (.aload_n 0, 1) := dk_42 (dk_at dksX0_land_0 0 rfl rfl)
theorem dX0_land_1 : decode cX0_land 1 = .ok (.getfield 151, 3) := dk_180 0 151 (dk_at dksX0_land_0 1 rfl rfl)
theorem dX0_land_4 : decode cX0_land 4 = .ok (.istore_n 1, 1) := dk_60 (dk_at dksX0_land_0 4 rfl rfl)
theorem dX0_land_5 : decode cX0_land 5 = .ok (.aload_n 0, 1) := dk_42 (dk_at dksX0_land_0 5 rfl rfl)
theorem dX0_land_6 : decode cX0_land 6 = .ok (.iconst 0, 1) := dk_3 (dk_at dksX0_land_0 6 rfl rfl)
theorem dX0_land_7 : decode cX0_land 7 = .ok (.putfield 151, 3) := dk_181 0 151 (dk_at dksX0_land_0 7 rfl rfl)
theorem dX0_land_10 : decode cX0_land 10 = .ok (.iload_n 1, 1) := dk_27 (dk_at dksX0_land_0 10 rfl rfl)
theorem dX0_land_11 : decode cX0_land 11 = .ok (.ireturn, 1) := dk_172 (dk_at dksX0_land_0 11 rfl rfl)
abbrev cX0_lapse : ByteArray := prog_1_method_54_code
def dkwX0_lapse_1 : List UInt8 := [154, 0, 5, 2, 172, 42, 28, 29, 21, 4, 182, 1, 115, 87, 42, 180, 0, 104, 27, 46, 172]
abbrev dktX0_lapse_1 : List UInt8 := dkwX0_lapse_1 ++ []
def dkwX0_lapse_0 : List UInt8 := [27, 155, 0, 25, 27, 42, 180, 1, 102, 162, 0, 17, 28, 184, 1, 1, 153, 0, 10, 29, 184, 0, 165]
abbrev dktX0_lapse_0 : List UInt8 := dkwX0_lapse_0 ++ dktX0_lapse_1
theorem dksX0_lapse_0 : cX0_lapse.data.toList.drop 0 = dktX0_lapse_0 := by decide +kernel
theorem dksX0_lapse_1 : cX0_lapse.data.toList.drop 23 = dktX0_lapse_1 := dk_seg dksX0_lapse_0 23 rfl rfl
theorem dX0_lapse_0 : decode cX0_lapse 0 = .ok (.iload_n 1, 1) := dk_27 (dk_at dksX0_lapse_0 0 rfl rfl)
theorem dX0_lapse_1 : decode cX0_lapse 1 = .ok (.ifCond .lt 25, 3) := dk_155 0 25 (dk_at dksX0_lapse_0 1 rfl rfl)
theorem dX0_lapse_4 : decode cX0_lapse 4 = .ok (.iload_n 1, 1) := dk_27 (dk_at dksX0_lapse_0 4 rfl rfl)
theorem dX0_lapse_5 : decode cX0_lapse 5 = .ok (.aload_n 0, 1) := dk_42 (dk_at dksX0_lapse_0 5 rfl rfl)
theorem dX0_lapse_6 : decode cX0_lapse 6 = .ok (.getfield 358, 3) := dk_180 1 102 (dk_at dksX0_lapse_0 6 rfl rfl)
theorem dX0_lapse_9 : decode cX0_lapse 9 = .ok (.if_icmp .ge 17, 3) := dk_162 0 17 (dk_at dksX0_lapse_0 9 rfl rfl)
theorem dX0_lapse_12 : decode cX0_lapse 12 = .ok (.iload_n 2, 1) := dk_28 (dk_at dksX0_lapse_0 12 rfl rfl)
theorem dX0_lapse_13 : decode cX0_lapse 13 = .ok (.invokestatic 257, 3) := dk_184 1 1 (dk_at dksX0_lapse_0 13 rfl rfl)
theorem dX0_lapse_16 : decode cX0_lapse 16 = .ok (.ifCond .eq 10, 3) := dk_153 0 10 (dk_at dksX0_lapse_0 16 rfl rfl)
theorem dX0_lapse_19 : decode cX0_lapse 19 = .ok (.iload_n 3, 1) := dk_29 (dk_at dksX0_lapse_0 19 rfl rfl)
theorem dX0_lapse_20 : decode cX0_lapse 20 = .ok (.invokestatic 165, 3) := dk_184 0 165 (dk_at dksX0_lapse_0 20 rfl rfl)
theorem dX0_lapse_23 : decode cX0_lapse 23 = .ok (.ifCond .ne 5, 3) := dk_154 0 5 (dk_at dksX0_lapse_1 0 rfl rfl)
theorem dX0_lapse_26 : decode cX0_lapse 26 = .ok (.iconst (-1), 1) := dk_2 (dk_at dksX0_lapse_1 3 rfl rfl)
theorem dX0_lapse_27 : decode cX0_lapse 27 = .ok (.ireturn, 1) := dk_172 (dk_at dksX0_lapse_1 4 rfl rfl)
theorem dX0_lapse_28 : decode cX0_lapse 28 = .ok (.aload_n 0, 1) := dk_42 (dk_at dksX0_lapse_1 5 rfl rfl)
theorem dX0_lapse_29 : decode cX0_lapse 29 = .ok (.iload_n 2, 1) := dk_28 (dk_at dksX0_lapse_1 6 rfl rfl)
theorem dX0_lapse_30 : decode cX0_lapse 30 = .ok (.iload_n 3, 1) := dk_29 (dk_at dksX0_lapse_1 7 rfl rfl)
theorem dX0_lapse_31 : decode cX0_lapse 31 = .ok (.iload 4, 2) := dk_21 4 (dk_at dksX0_lapse_1 8 rfl rfl)
theorem dX0_lapse_33 : decode cX0_lapse 33 = .ok (.invokevirtual 371, 3) := dk_182 1 115 (dk_at dksX0_lapse_1 10 rfl rfl)
theorem dX0_lapse_36 : decode cX0_lapse 36 = .ok (.pop, 1) := dk_87 (dk_at dksX0_lapse_1 13 rfl rfl)
theorem dX0_lapse_37 : decode cX0_lapse 37 = .ok (.aload_n 0, 1) := dk_42 (dk_at dksX0_lapse_1 14 rfl rfl)
theorem dX0_lapse_38 : decode cX0_lapse 38 = .ok (.getfield 104, 3) := dk_180 0 104 (dk_at dksX0_lapse_1 15 rfl rfl)
theorem dX0_lapse_41 : decode cX0_lapse 41 = .ok (.iload_n 1, 1) := dk_27 (dk_at dksX0_lapse_1 18 rfl rfl)
theorem dX0_lapse_42 : decode cX0_lapse 42 = .ok (.iaload, 1) := dk_46 (dk_at dksX0_lapse_1 19 rfl rfl)
theorem dX0_lapse_43 : decode cX0_lapse 43 = .ok (.ireturn, 1) := dk_172 (dk_at dksX0_lapse_1 20 rfl rfl)
abbrev cX0_lapsing : ByteArray := prog_1_method_52_code
def dkwX0_lapsing_13 : List UInt8 := [21, 5, 21, 6, 2, 130, 126, 54, 5, 132, 7, 1, 167, 255, 113, 21, 5, 172]
abbrev dktX0_lapsing_13 : List UInt8 := dkwX0_lapsing_13 ++ []
def dkwX0_lapsing_12 : List UInt8 := [21, 6, 4, 21, 8, 120, 128, 54, 6, 42, 180, 0, 104, 21, 8, 21, 7, 79, 132, 8, 1, 167, 255, 139]
abbrev dktX0_lapsing_12 : List UInt8 := dkwX0_lapsing_12 ++ dktX0_lapsing_13
def dkwX0_lapsing_11 : List UInt8 := [5, 27, 79, 42, 180, 0, 58, 28, 50, 6, 4, 42, 180, 0, 74, 182, 0, 243, 153, 0, 6, 167, 0, 21]
abbrev dktX0_lapsing_11 : List UInt8 := dkwX0_lapsing_11 ++ dktX0_lapsing_12
def dkwX0_lapsing_10 : List UInt8 := [184, 1, 110, 4, 100, 79, 42, 180, 0, 74, 16, 10, 42, 180, 0, 98, 21, 8, 46, 79, 42, 180, 0, 74]
abbrev dktX0_lapsing_10 : List UInt8 := dkwX0_lapsing_10 ++ dktX0_lapsing_11
def dkwX0_lapsing_9 : List UInt8 := [16, 7, 21, 8, 79, 42, 180, 0, 74, 16, 8, 21, 4, 79, 42, 180, 0, 74, 16, 9, 21, 5]
abbrev dktX0_lapsing_9 : List UInt8 := dkwX0_lapsing_9 ++ dktX0_lapsing_10
def dkwX0_lapsing_8 : List UInt8 := [180, 1, 102, 162, 0, 114, 21, 5, 21, 8, 122, 4, 126, 154, 0, 6, 167, 0, 95, 42, 180, 0, 74]
abbrev dktX0_lapsing_8 : List UInt8 := dkwX0_lapsing_8 ++ dktX0_lapsing_9
def dkwX0_lapsing_7 : List UInt8 := [167, 255, 201, 4, 54, 6, 4, 54, 7, 21, 6, 153, 0, 144, 3, 54, 6, 3, 54, 8, 21, 8, 42]
abbrev dktX0_lapsing_7 : List UInt8 := dkwX0_lapsing_7 ++ dktX0_lapsing_8
def dkwX0_lapsing_6 : List UInt8 := [180, 0, 101, 21, 6, 46, 27, 164, 0, 12, 21, 5, 4, 21, 6, 120, 128, 54, 5, 132, 6, 1]
abbrev dktX0_lapsing_6 : List UInt8 := dkwX0_lapsing_6 ++ dktX0_lapsing_7
def dkwX0_lapsing_5 : List UInt8 := [180, 0, 104, 21, 6, 42, 180, 0, 101, 21, 6, 46, 27, 164, 0, 7, 3, 167, 0, 4, 2, 79, 42]
abbrev dktX0_lapsing_5 : List UInt8 := dkwX0_lapsing_5 ++ dktX0_lapsing_6
def dkwX0_lapsing_4 : List UInt8 := [128, 54, 4, 132, 6, 1, 167, 255, 168, 3, 54, 6, 21, 6, 42, 180, 1, 102, 162, 0, 52, 42]
abbrev dktX0_lapsing_4 : List UInt8 := dkwX0_lapsing_4 ++ dktX0_lapsing_5
def dkwX0_lapsing_3 : List UInt8 := [180, 1, 106, 27, 163, 0, 23, 21, 4, 42, 180, 0, 67, 21, 6, 182, 0, 184, 192, 1, 20, 180, 1, 107]
abbrev dktX0_lapsing_3 : List UInt8 := dkwX0_lapsing_3 ++ dktX0_lapsing_4
def dkwX0_lapsing_2 : List UInt8 := [192, 1, 23, 29, 182, 1, 105, 153, 0, 42, 42, 180, 0, 67, 21, 6, 182, 0, 184, 192, 1, 23]
abbrev dktX0_lapsing_2 : List UInt8 := dkwX0_lapsing_2 ++ dktX0_lapsing_3
def dkwX0_lapsing_1 : List UInt8 := [180, 0, 67, 21, 6, 182, 0, 184, 193, 1, 20, 153, 0, 61, 42, 180, 0, 67, 21, 6, 182, 0, 184]
abbrev dktX0_lapsing_1 : List UInt8 := dkwX0_lapsing_1 ++ dktX0_lapsing_2
def dkwX0_lapsing_0 : List UInt8 := [3, 54, 4, 3, 54, 5, 3, 54, 6, 21, 6, 42, 180, 0, 67, 182, 0, 181, 162, 0, 82, 42]
abbrev dktX0_lapsing_0 : List UInt8 := dkwX0_lapsing_0 ++ dktX0_lapsing_1
theorem dksX0_lapsing_0 : cX0_lapsing.data.toList.drop 0 = dktX0_lapsing_0 := by decide +kernel
theorem dksX0_lapsing_1 : cX0_lapsing.data.toList.drop 22 = dktX0_lapsing_1 := dk_seg dksX0_lapsing_0 22 rfl rfl
theorem dksX0_lapsing_2 : cX0_lapsing.data.toList.drop 45 = dktX0_lapsing_2 := dk_seg dksX0_lapsing_1 23 rfl rfl
theorem dksX0_lapsing_3 : cX0_lapsing.data.toList.drop 67 = dktX0_lapsing_3 := dk_seg dksX0_lapsing_2 22 rfl rfl
theorem dksX0_lapsing_4 : cX0_lapsing.data.toList.drop 91 = dktX0_lapsing_4 := dk_seg dksX0_lapsing_3 24 rfl rfl
theorem dksX0_lapsing_5 : cX0_lapsing.data.toList.drop 113 = dktX0_lapsing_5 := dk_seg dksX0_lapsing_4 22 rfl rfl
theorem dksX0_lapsing_6 : cX0_lapsing.data.toList.drop 136 = dktX0_lapsing_6 := dk_seg dksX0_lapsing_5 23 rfl rfl
theorem dksX0_lapsing_7 : cX0_lapsing.data.toList.drop 158 = dktX0_lapsing_7 := dk_seg dksX0_lapsing_6 22 rfl rfl
theorem dksX0_lapsing_8 : cX0_lapsing.data.toList.drop 181 = dktX0_lapsing_8 := dk_seg dksX0_lapsing_7 23 rfl rfl
theorem dksX0_lapsing_9 : cX0_lapsing.data.toList.drop 204 = dktX0_lapsing_9 := dk_seg dksX0_lapsing_8 23 rfl rfl
theorem dksX0_lapsing_10 : cX0_lapsing.data.toList.drop 226 = dktX0_lapsing_10 := dk_seg dksX0_lapsing_9 22 rfl rfl
theorem dksX0_lapsing_11 : cX0_lapsing.data.toList.drop 250 = dktX0_lapsing_11 := dk_seg dksX0_lapsing_10 24 rfl rfl
theorem dksX0_lapsing_12 : cX0_lapsing.data.toList.drop 274 = dktX0_lapsing_12 := dk_seg dksX0_lapsing_11 24 rfl rfl
theorem dksX0_lapsing_13 : cX0_lapsing.data.toList.drop 298 = dktX0_lapsing_13 := dk_seg dksX0_lapsing_12 24 rfl rfl
theorem dX0_lapsing_0 : decode cX0_lapsing 0 = .ok (.iconst 0, 1) := dk_3 (dk_at dksX0_lapsing_0 0 rfl rfl)
theorem dX0_lapsing_1 : decode cX0_lapsing 1 = .ok (.istore 4, 2) := dk_54 4 (dk_at dksX0_lapsing_0 1 rfl rfl)
theorem dX0_lapsing_3 : decode cX0_lapsing 3 = .ok (.iconst 0, 1) := dk_3 (dk_at dksX0_lapsing_0 3 rfl rfl)
theorem dX0_lapsing_4 : decode cX0_lapsing 4 = .ok (.istore 5, 2) := dk_54 5 (dk_at dksX0_lapsing_0 4 rfl rfl)
theorem dX0_lapsing_6 : decode cX0_lapsing 6 = .ok (.iconst 0, 1) := dk_3 (dk_at dksX0_lapsing_0 6 rfl rfl)
theorem dX0_lapsing_7 : decode cX0_lapsing 7 = .ok (.istore 6, 2) := dk_54 6 (dk_at dksX0_lapsing_0 7 rfl rfl)
theorem dX0_lapsing_9 : decode cX0_lapsing 9 = .ok (.iload 6, 2) := dk_21 6 (dk_at dksX0_lapsing_0 9 rfl rfl)
theorem dX0_lapsing_11 : decode cX0_lapsing 11 = .ok (.aload_n 0, 1) := dk_42 (dk_at dksX0_lapsing_0 11 rfl rfl)
theorem dX0_lapsing_12 : decode cX0_lapsing 12 = .ok (.getfield 67, 3) := dk_180 0 67 (dk_at dksX0_lapsing_0 12 rfl rfl)
theorem dX0_lapsing_15 : decode cX0_lapsing 15 = .ok (.invokevirtual 181, 3) := dk_182 0 181 (dk_at dksX0_lapsing_0 15 rfl rfl)
theorem dX0_lapsing_18 : decode cX0_lapsing 18 = .ok (.if_icmp .ge 82, 3) := dk_162 0 82 (dk_at dksX0_lapsing_0 18 rfl rfl)
theorem dX0_lapsing_21 : decode cX0_lapsing 21 = .ok (.aload_n 0, 1) := dk_42 (dk_at dksX0_lapsing_0 21 rfl rfl)
theorem dX0_lapsing_22 : decode cX0_lapsing 22 = .ok (.getfield 67, 3) := dk_180 0 67 (dk_at dksX0_lapsing_1 0 rfl rfl)
theorem dX0_lapsing_25 : decode cX0_lapsing 25 = .ok (.iload 6, 2) := dk_21 6 (dk_at dksX0_lapsing_1 3 rfl rfl)
theorem dX0_lapsing_27 : decode cX0_lapsing 27 = .ok (.invokevirtual 184, 3) := dk_182 0 184 (dk_at dksX0_lapsing_1 5 rfl rfl)
theorem dX0_lapsing_30 : decode cX0_lapsing 30 = .ok (.instanceof 276, 3) := dk_193 1 20 (dk_at dksX0_lapsing_1 8 rfl rfl)
theorem dX0_lapsing_33 : decode cX0_lapsing 33 = .ok (.ifCond .eq 61, 3) := dk_153 0 61 (dk_at dksX0_lapsing_1 11 rfl rfl)
theorem dX0_lapsing_36 : decode cX0_lapsing 36 = .ok (.aload_n 0, 1) := dk_42 (dk_at dksX0_lapsing_1 14 rfl rfl)
theorem dX0_lapsing_37 : decode cX0_lapsing 37 = .ok (.getfield 67, 3) := dk_180 0 67 (dk_at dksX0_lapsing_1 15 rfl rfl)
theorem dX0_lapsing_40 : decode cX0_lapsing 40 = .ok (.iload 6, 2) := dk_21 6 (dk_at dksX0_lapsing_1 18 rfl rfl)
theorem dX0_lapsing_42 : decode cX0_lapsing 42 = .ok (.invokevirtual 184, 3) := dk_182 0 184 (dk_at dksX0_lapsing_1 20 rfl rfl)
theorem dX0_lapsing_45 : decode cX0_lapsing 45 = .ok (.checkcast 279, 3) := dk_192 1 23 (dk_at dksX0_lapsing_2 0 rfl rfl)
theorem dX0_lapsing_48 : decode cX0_lapsing 48 = .ok (.iload_n 3, 1) := dk_29 (dk_at dksX0_lapsing_2 3 rfl rfl)
theorem dX0_lapsing_49 : decode cX0_lapsing 49 = .ok (.invokevirtual 361, 3) := dk_182 1 105 (dk_at dksX0_lapsing_2 4 rfl rfl)
theorem dX0_lapsing_52 : decode cX0_lapsing 52 = .ok (.ifCond .eq 42, 3) := dk_153 0 42 (dk_at dksX0_lapsing_2 7 rfl rfl)
theorem dX0_lapsing_55 : decode cX0_lapsing 55 = .ok (.aload_n 0, 1) := dk_42 (dk_at dksX0_lapsing_2 10 rfl rfl)
theorem dX0_lapsing_56 : decode cX0_lapsing 56 = .ok (.getfield 67, 3) := dk_180 0 67 (dk_at dksX0_lapsing_2 11 rfl rfl)
theorem dX0_lapsing_59 : decode cX0_lapsing 59 = .ok (.iload 6, 2) := dk_21 6 (dk_at dksX0_lapsing_2 14 rfl rfl)
theorem dX0_lapsing_61 : decode cX0_lapsing 61 = .ok (.invokevirtual 184, 3) := dk_182 0 184 (dk_at dksX0_lapsing_2 16 rfl rfl)
theorem dX0_lapsing_64 : decode cX0_lapsing 64 = .ok (.checkcast 279, 3) := dk_192 1 23 (dk_at dksX0_lapsing_2 19 rfl rfl)
theorem dX0_lapsing_67 : decode cX0_lapsing 67 = .ok (.getfield 362, 3) := dk_180 1 106 (dk_at dksX0_lapsing_3 0 rfl rfl)
theorem dX0_lapsing_70 : decode cX0_lapsing 70 = .ok (.iload_n 1, 1) := dk_27 (dk_at dksX0_lapsing_3 3 rfl rfl)
theorem dX0_lapsing_71 : decode cX0_lapsing 71 = .ok (.if_icmp .gt 23, 3) := dk_163 0 23 (dk_at dksX0_lapsing_3 4 rfl rfl)
theorem dX0_lapsing_74 : decode cX0_lapsing 74 = .ok (.iload 4, 2) := dk_21 4 (dk_at dksX0_lapsing_3 7 rfl rfl)
theorem dX0_lapsing_76 : decode cX0_lapsing 76 = .ok (.aload_n 0, 1) := dk_42 (dk_at dksX0_lapsing_3 9 rfl rfl)
theorem dX0_lapsing_77 : decode cX0_lapsing 77 = .ok (.getfield 67, 3) := dk_180 0 67 (dk_at dksX0_lapsing_3 10 rfl rfl)
theorem dX0_lapsing_80 : decode cX0_lapsing 80 = .ok (.iload 6, 2) := dk_21 6 (dk_at dksX0_lapsing_3 13 rfl rfl)
theorem dX0_lapsing_82 : decode cX0_lapsing 82 = .ok (.invokevirtual 184, 3) := dk_182 0 184 (dk_at dksX0_lapsing_3 15 rfl rfl)
theorem dX0_lapsing_85 : decode cX0_lapsing 85 = .ok (.checkcast 276, 3) := dk_192 1 20 (dk_at dksX0_lapsing_3 18 rfl rfl)
theorem dX0_lapsing_88 : decode cX0_lapsing 88 = .ok (.getfield 363, 3) := dk_180 1 107 (dk_at dksX0_lapsing_3 21 rfl rfl)
theorem dX0_lapsing_91 : decode cX0_lapsing 91 = .ok (.ior, 1) := dk_128 (dk_at dksX0_lapsing_4 0 rfl rfl)
theorem dX0_lapsing_92 : decode cX0_lapsing 92 = .ok (.istore 4, 2) := dk_54 4 (dk_at dksX0_lapsing_4 1 rfl rfl)
theorem dX0_lapsing_94 : decode cX0_lapsing 94 = .ok (.iinc 6 1, 3) := dk_132 6 1 (dk_at dksX0_lapsing_4 3 rfl rfl)
theorem dX0_lapsing_97 : decode cX0_lapsing 97 = .ok (.goto (-88), 3) := dk_167 255 168 (dk_at dksX0_lapsing_4 6 rfl rfl)
theorem dX0_lapsing_100 : decode cX0_lapsing 100 = .ok (.iconst 0, 1) := dk_3 (dk_at dksX0_lapsing_4 9 rfl rfl)
theorem dX0_lapsing_101 : decode cX0_lapsing 101 = .ok (.istore 6, 2) := dk_54 6 (dk_at dksX0_lapsing_4 10 rfl rfl)
theorem dX0_lapsing_103 : decode cX0_lapsing 103 = .ok (.iload 6, 2) := dk_21 6 (dk_at dksX0_lapsing_4 12 rfl rfl)
theorem dX0_lapsing_105 : decode cX0_lapsing 105 = .ok (.aload_n 0, 1) := dk_42 (dk_at dksX0_lapsing_4 14 rfl rfl)
theorem dX0_lapsing_106 : decode cX0_lapsing 106 = .ok (.getfield 358, 3) := dk_180 1 102 (dk_at dksX0_lapsing_4 15 rfl rfl)
theorem dX0_lapsing_109 : decode cX0_lapsing 109 = .ok (.if_icmp .ge 52, 3) := dk_162 0 52 (dk_at dksX0_lapsing_4 18 rfl rfl)
theorem dX0_lapsing_112 : decode cX0_lapsing 112 = .ok (.aload_n 0, 1) := dk_42 (dk_at dksX0_lapsing_4 21 rfl rfl)
theorem dX0_lapsing_113 : decode cX0_lapsing 113 = .ok (.getfield 104, 3) := dk_180 0 104 (dk_at dksX0_lapsing_5 0 rfl rfl)
theorem dX0_lapsing_116 : decode cX0_lapsing 116 = .ok (.iload 6, 2) := dk_21 6 (dk_at dksX0_lapsing_5 3 rfl rfl)
theorem dX0_lapsing_118 : decode cX0_lapsing 118 = .ok (.aload_n 0, 1) := dk_42 (dk_at dksX0_lapsing_5 5 rfl rfl)
theorem dX0_lapsing_119 : decode cX0_lapsing 119 = .ok (.getfield 101, 3) := dk_180 0 101 (dk_at dksX0_lapsing_5 6 rfl rfl)
theorem dX0_lapsing_122 : decode cX0_lapsing 122 = .ok (.iload 6, 2) := dk_21 6 (dk_at dksX0_lapsing_5 9 rfl rfl)
theorem dX0_lapsing_124 : decode cX0_lapsing 124 = .ok (.iaload, 1) := dk_46 (dk_at dksX0_lapsing_5 11 rfl rfl)
theorem dX0_lapsing_125 : decode cX0_lapsing 125 = .ok (.iload_n 1, 1) := dk_27 (dk_at dksX0_lapsing_5 12 rfl rfl)
theorem dX0_lapsing_126 : decode cX0_lapsing 126 = .ok (.if_icmp .le 7, 3) := dk_164 0 7 (dk_at dksX0_lapsing_5 13 rfl rfl)
theorem dX0_lapsing_129 : decode cX0_lapsing 129 = .ok (.iconst 0, 1) := dk_3 (dk_at dksX0_lapsing_5 16 rfl rfl)
theorem dX0_lapsing_130 : decode cX0_lapsing 130 = .ok (.goto 4, 3) := dk_167 0 4 (dk_at dksX0_lapsing_5 17 rfl rfl)
theorem dX0_lapsing_133 : decode cX0_lapsing 133 = .ok (.iconst (-1), 1) := dk_2 (dk_at dksX0_lapsing_5 20 rfl rfl)
theorem dX0_lapsing_134 : decode cX0_lapsing 134 = .ok (.iastore, 1) := dk_79 (dk_at dksX0_lapsing_5 21 rfl rfl)
theorem dX0_lapsing_135 : decode cX0_lapsing 135 = .ok (.aload_n 0, 1) := dk_42 (dk_at dksX0_lapsing_5 22 rfl rfl)
theorem dX0_lapsing_136 : decode cX0_lapsing 136 = .ok (.getfield 101, 3) := dk_180 0 101 (dk_at dksX0_lapsing_6 0 rfl rfl)
theorem dX0_lapsing_139 : decode cX0_lapsing 139 = .ok (.iload 6, 2) := dk_21 6 (dk_at dksX0_lapsing_6 3 rfl rfl)
theorem dX0_lapsing_141 : decode cX0_lapsing 141 = .ok (.iaload, 1) := dk_46 (dk_at dksX0_lapsing_6 5 rfl rfl)
theorem dX0_lapsing_142 : decode cX0_lapsing 142 = .ok (.iload_n 1, 1) := dk_27 (dk_at dksX0_lapsing_6 6 rfl rfl)
theorem dX0_lapsing_143 : decode cX0_lapsing 143 = .ok (.if_icmp .le 12, 3) := dk_164 0 12 (dk_at dksX0_lapsing_6 7 rfl rfl)
theorem dX0_lapsing_146 : decode cX0_lapsing 146 = .ok (.iload 5, 2) := dk_21 5 (dk_at dksX0_lapsing_6 10 rfl rfl)
theorem dX0_lapsing_148 : decode cX0_lapsing 148 = .ok (.iconst 1, 1) := dk_4 (dk_at dksX0_lapsing_6 12 rfl rfl)
theorem dX0_lapsing_149 : decode cX0_lapsing 149 = .ok (.iload 6, 2) := dk_21 6 (dk_at dksX0_lapsing_6 13 rfl rfl)
theorem dX0_lapsing_151 : decode cX0_lapsing 151 = .ok (.ishl, 1) := dk_120 (dk_at dksX0_lapsing_6 15 rfl rfl)
theorem dX0_lapsing_152 : decode cX0_lapsing 152 = .ok (.ior, 1) := dk_128 (dk_at dksX0_lapsing_6 16 rfl rfl)
theorem dX0_lapsing_153 : decode cX0_lapsing 153 = .ok (.istore 5, 2) := dk_54 5 (dk_at dksX0_lapsing_6 17 rfl rfl)
theorem dX0_lapsing_155 : decode cX0_lapsing 155 = .ok (.iinc 6 1, 3) := dk_132 6 1 (dk_at dksX0_lapsing_6 19 rfl rfl)
theorem dX0_lapsing_158 : decode cX0_lapsing 158 = .ok (.goto (-55), 3) := dk_167 255 201 (dk_at dksX0_lapsing_7 0 rfl rfl)
theorem dX0_lapsing_161 : decode cX0_lapsing 161 = .ok (.iconst 1, 1) := dk_4 (dk_at dksX0_lapsing_7 3 rfl rfl)
theorem dX0_lapsing_162 : decode cX0_lapsing 162 = .ok (.istore 6, 2) := dk_54 6 (dk_at dksX0_lapsing_7 4 rfl rfl)
theorem dX0_lapsing_164 : decode cX0_lapsing 164 = .ok (.iconst 1, 1) := dk_4 (dk_at dksX0_lapsing_7 6 rfl rfl)
theorem dX0_lapsing_165 : decode cX0_lapsing 165 = .ok (.istore 7, 2) := dk_54 7 (dk_at dksX0_lapsing_7 7 rfl rfl)
theorem dX0_lapsing_167 : decode cX0_lapsing 167 = .ok (.iload 6, 2) := dk_21 6 (dk_at dksX0_lapsing_7 9 rfl rfl)
theorem dX0_lapsing_169 : decode cX0_lapsing 169 = .ok (.ifCond .eq 144, 3) := dk_153 0 144 (dk_at dksX0_lapsing_7 11 rfl rfl)
theorem dX0_lapsing_172 : decode cX0_lapsing 172 = .ok (.iconst 0, 1) := dk_3 (dk_at dksX0_lapsing_7 14 rfl rfl)
theorem dX0_lapsing_173 : decode cX0_lapsing 173 = .ok (.istore 6, 2) := dk_54 6 (dk_at dksX0_lapsing_7 15 rfl rfl)
theorem dX0_lapsing_175 : decode cX0_lapsing 175 = .ok (.iconst 0, 1) := dk_3 (dk_at dksX0_lapsing_7 17 rfl rfl)
theorem dX0_lapsing_176 : decode cX0_lapsing 176 = .ok (.istore 8, 2) := dk_54 8 (dk_at dksX0_lapsing_7 18 rfl rfl)
theorem dX0_lapsing_178 : decode cX0_lapsing 178 = .ok (.iload 8, 2) := dk_21 8 (dk_at dksX0_lapsing_7 20 rfl rfl)
theorem dX0_lapsing_180 : decode cX0_lapsing 180 = .ok (.aload_n 0, 1) := dk_42 (dk_at dksX0_lapsing_7 22 rfl rfl)
theorem dX0_lapsing_181 : decode cX0_lapsing 181 = .ok (.getfield 358, 3) := dk_180 1 102 (dk_at dksX0_lapsing_8 0 rfl rfl)
theorem dX0_lapsing_184 : decode cX0_lapsing 184 = .ok (.if_icmp .ge 114, 3) := dk_162 0 114 (dk_at dksX0_lapsing_8 3 rfl rfl)
theorem dX0_lapsing_187 : decode cX0_lapsing 187 = .ok (.iload 5, 2) := dk_21 5 (dk_at dksX0_lapsing_8 6 rfl rfl)
theorem dX0_lapsing_189 : decode cX0_lapsing 189 = .ok (.iload 8, 2) := dk_21 8 (dk_at dksX0_lapsing_8 8 rfl rfl)
theorem dX0_lapsing_191 : decode cX0_lapsing 191 = .ok (.ishr, 1) := dk_122 (dk_at dksX0_lapsing_8 10 rfl rfl)
theorem dX0_lapsing_192 : decode cX0_lapsing 192 = .ok (.iconst 1, 1) := dk_4 (dk_at dksX0_lapsing_8 11 rfl rfl)
theorem dX0_lapsing_193 : decode cX0_lapsing 193 = .ok (.iand, 1) := dk_126 (dk_at dksX0_lapsing_8 12 rfl rfl)
theorem dX0_lapsing_194 : decode cX0_lapsing 194 = .ok (.ifCond .ne 6, 3) := dk_154 0 6 (dk_at dksX0_lapsing_8 13 rfl rfl)
theorem dX0_lapsing_197 : decode cX0_lapsing 197 = .ok (.goto 95, 3) := dk_167 0 95 (dk_at dksX0_lapsing_8 16 rfl rfl)
theorem dX0_lapsing_200 : decode cX0_lapsing 200 = .ok (.aload_n 0, 1) := dk_42 (dk_at dksX0_lapsing_8 19 rfl rfl)
theorem dX0_lapsing_201 : decode cX0_lapsing 201 = .ok (.getfield 74, 3) := dk_180 0 74 (dk_at dksX0_lapsing_8 20 rfl rfl)
theorem dX0_lapsing_204 : decode cX0_lapsing 204 = .ok (.bipush 7, 2) := dk_16 7 (dk_at dksX0_lapsing_9 0 rfl rfl)
theorem dX0_lapsing_206 : decode cX0_lapsing 206 = .ok (.iload 8, 2) := dk_21 8 (dk_at dksX0_lapsing_9 2 rfl rfl)
theorem dX0_lapsing_208 : decode cX0_lapsing 208 = .ok (.iastore, 1) := dk_79 (dk_at dksX0_lapsing_9 4 rfl rfl)
theorem dX0_lapsing_209 : decode cX0_lapsing 209 = .ok (.aload_n 0, 1) := dk_42 (dk_at dksX0_lapsing_9 5 rfl rfl)
theorem dX0_lapsing_210 : decode cX0_lapsing 210 = .ok (.getfield 74, 3) := dk_180 0 74 (dk_at dksX0_lapsing_9 6 rfl rfl)
theorem dX0_lapsing_213 : decode cX0_lapsing 213 = .ok (.bipush 8, 2) := dk_16 8 (dk_at dksX0_lapsing_9 9 rfl rfl)
theorem dX0_lapsing_215 : decode cX0_lapsing 215 = .ok (.iload 4, 2) := dk_21 4 (dk_at dksX0_lapsing_9 11 rfl rfl)
theorem dX0_lapsing_217 : decode cX0_lapsing 217 = .ok (.iastore, 1) := dk_79 (dk_at dksX0_lapsing_9 13 rfl rfl)
theorem dX0_lapsing_218 : decode cX0_lapsing 218 = .ok (.aload_n 0, 1) := dk_42 (dk_at dksX0_lapsing_9 14 rfl rfl)
theorem dX0_lapsing_219 : decode cX0_lapsing 219 = .ok (.getfield 74, 3) := dk_180 0 74 (dk_at dksX0_lapsing_9 15 rfl rfl)
theorem dX0_lapsing_222 : decode cX0_lapsing 222 = .ok (.bipush 9, 2) := dk_16 9 (dk_at dksX0_lapsing_9 18 rfl rfl)
theorem dX0_lapsing_224 : decode cX0_lapsing 224 = .ok (.iload 5, 2) := dk_21 5 (dk_at dksX0_lapsing_9 20 rfl rfl)
theorem dX0_lapsing_226 : decode cX0_lapsing 226 = .ok (.invokestatic 366, 3) := dk_184 1 110 (dk_at dksX0_lapsing_10 0 rfl rfl)
theorem dX0_lapsing_229 : decode cX0_lapsing 229 = .ok (.iconst 1, 1) := dk_4 (dk_at dksX0_lapsing_10 3 rfl rfl)
theorem dX0_lapsing_230 : decode cX0_lapsing 230 = .ok (.isub, 1) := dk_100 (dk_at dksX0_lapsing_10 4 rfl rfl)
theorem dX0_lapsing_231 : decode cX0_lapsing 231 = .ok (.iastore, 1) := dk_79 (dk_at dksX0_lapsing_10 5 rfl rfl)
theorem dX0_lapsing_232 : decode cX0_lapsing 232 = .ok (.aload_n 0, 1) := dk_42 (dk_at dksX0_lapsing_10 6 rfl rfl)
theorem dX0_lapsing_233 : decode cX0_lapsing 233 = .ok (.getfield 74, 3) := dk_180 0 74 (dk_at dksX0_lapsing_10 7 rfl rfl)
theorem dX0_lapsing_236 : decode cX0_lapsing 236 = .ok (.bipush 10, 2) := dk_16 10 (dk_at dksX0_lapsing_10 10 rfl rfl)
theorem dX0_lapsing_238 : decode cX0_lapsing 238 = .ok (.aload_n 0, 1) := dk_42 (dk_at dksX0_lapsing_10 12 rfl rfl)
theorem dX0_lapsing_239 : decode cX0_lapsing 239 = .ok (.getfield 98, 3) := dk_180 0 98 (dk_at dksX0_lapsing_10 13 rfl rfl)
theorem dX0_lapsing_242 : decode cX0_lapsing 242 = .ok (.iload 8, 2) := dk_21 8 (dk_at dksX0_lapsing_10 16 rfl rfl)
theorem dX0_lapsing_244 : decode cX0_lapsing 244 = .ok (.iaload, 1) := dk_46 (dk_at dksX0_lapsing_10 18 rfl rfl)
theorem dX0_lapsing_245 : decode cX0_lapsing 245 = .ok (.iastore, 1) := dk_79 (dk_at dksX0_lapsing_10 19 rfl rfl)
theorem dX0_lapsing_246 : decode cX0_lapsing 246 = .ok (.aload_n 0, 1) := dk_42 (dk_at dksX0_lapsing_10 20 rfl rfl)
theorem dX0_lapsing_247 : decode cX0_lapsing 247 = .ok (.getfield 74, 3) := dk_180 0 74 (dk_at dksX0_lapsing_10 21 rfl rfl)
theorem dX0_lapsing_250 : decode cX0_lapsing 250 = .ok (.iconst 2, 1) := dk_5 (dk_at dksX0_lapsing_11 0 rfl rfl)
theorem dX0_lapsing_251 : decode cX0_lapsing 251 = .ok (.iload_n 1, 1) := dk_27 (dk_at dksX0_lapsing_11 1 rfl rfl)
theorem dX0_lapsing_252 : decode cX0_lapsing 252 = .ok (.iastore, 1) := dk_79 (dk_at dksX0_lapsing_11 2 rfl rfl)
theorem dX0_lapsing_253 : decode cX0_lapsing 253 = .ok (.aload_n 0, 1) := dk_42 (dk_at dksX0_lapsing_11 3 rfl rfl)
theorem dX0_lapsing_254 : decode cX0_lapsing 254 = .ok (.getfield 58, 3) := dk_180 0 58 (dk_at dksX0_lapsing_11 4 rfl rfl)
theorem dX0_lapsing_257 : decode cX0_lapsing 257 = .ok (.iload_n 2, 1) := dk_28 (dk_at dksX0_lapsing_11 7 rfl rfl)
theorem dX0_lapsing_258 : decode cX0_lapsing 258 = .ok (.aaload, 1) := dk_50 (dk_at dksX0_lapsing_11 8 rfl rfl)
theorem dX0_lapsing_259 : decode cX0_lapsing 259 = .ok (.iconst 3, 1) := dk_6 (dk_at dksX0_lapsing_11 9 rfl rfl)
theorem dX0_lapsing_260 : decode cX0_lapsing 260 = .ok (.iconst 1, 1) := dk_4 (dk_at dksX0_lapsing_11 10 rfl rfl)
theorem dX0_lapsing_261 : decode cX0_lapsing 261 = .ok (.aload_n 0, 1) := dk_42 (dk_at dksX0_lapsing_11 11 rfl rfl)
theorem dX0_lapsing_262 : decode cX0_lapsing 262 = .ok (.getfield 74, 3) := dk_180 0 74 (dk_at dksX0_lapsing_11 12 rfl rfl)
theorem dX0_lapsing_265 : decode cX0_lapsing 265 = .ok (.invokevirtual 243, 3) := dk_182 0 243 (dk_at dksX0_lapsing_11 15 rfl rfl)
theorem dX0_lapsing_268 : decode cX0_lapsing 268 = .ok (.ifCond .eq 6, 3) := dk_153 0 6 (dk_at dksX0_lapsing_11 18 rfl rfl)
theorem dX0_lapsing_271 : decode cX0_lapsing 271 = .ok (.goto 21, 3) := dk_167 0 21 (dk_at dksX0_lapsing_11 21 rfl rfl)
theorem dX0_lapsing_274 : decode cX0_lapsing 274 = .ok (.iload 6, 2) := dk_21 6 (dk_at dksX0_lapsing_12 0 rfl rfl)
theorem dX0_lapsing_276 : decode cX0_lapsing 276 = .ok (.iconst 1, 1) := dk_4 (dk_at dksX0_lapsing_12 2 rfl rfl)
theorem dX0_lapsing_277 : decode cX0_lapsing 277 = .ok (.iload 8, 2) := dk_21 8 (dk_at dksX0_lapsing_12 3 rfl rfl)
theorem dX0_lapsing_279 : decode cX0_lapsing 279 = .ok (.ishl, 1) := dk_120 (dk_at dksX0_lapsing_12 5 rfl rfl)
theorem dX0_lapsing_280 : decode cX0_lapsing 280 = .ok (.ior, 1) := dk_128 (dk_at dksX0_lapsing_12 6 rfl rfl)
theorem dX0_lapsing_281 : decode cX0_lapsing 281 = .ok (.istore 6, 2) := dk_54 6 (dk_at dksX0_lapsing_12 7 rfl rfl)
theorem dX0_lapsing_283 : decode cX0_lapsing 283 = .ok (.aload_n 0, 1) := dk_42 (dk_at dksX0_lapsing_12 9 rfl rfl)
theorem dX0_lapsing_284 : decode cX0_lapsing 284 = .ok (.getfield 104, 3) := dk_180 0 104 (dk_at dksX0_lapsing_12 10 rfl rfl)
theorem dX0_lapsing_287 : decode cX0_lapsing 287 = .ok (.iload 8, 2) := dk_21 8 (dk_at dksX0_lapsing_12 13 rfl rfl)
theorem dX0_lapsing_289 : decode cX0_lapsing 289 = .ok (.iload 7, 2) := dk_21 7 (dk_at dksX0_lapsing_12 15 rfl rfl)
theorem dX0_lapsing_291 : decode cX0_lapsing 291 = .ok (.iastore, 1) := dk_79 (dk_at dksX0_lapsing_12 17 rfl rfl)
theorem dX0_lapsing_292 : decode cX0_lapsing 292 = .ok (.iinc 8 1, 3) := dk_132 8 1 (dk_at dksX0_lapsing_12 18 rfl rfl)
theorem dX0_lapsing_295 : decode cX0_lapsing 295 = .ok (.goto (-117), 3) := dk_167 255 139 (dk_at dksX0_lapsing_12 21 rfl rfl)
theorem dX0_lapsing_298 : decode cX0_lapsing 298 = .ok (.iload 5, 2) := dk_21 5 (dk_at dksX0_lapsing_13 0 rfl rfl)
theorem dX0_lapsing_300 : decode cX0_lapsing 300 = .ok (.iload 6, 2) := dk_21 6 (dk_at dksX0_lapsing_13 2 rfl rfl)
theorem dX0_lapsing_302 : decode cX0_lapsing 302 = .ok (.iconst (-1), 1) := dk_2 (dk_at dksX0_lapsing_13 4 rfl rfl)
theorem dX0_lapsing_303 : decode cX0_lapsing 303 = .ok (.ixor, 1) := dk_130 (dk_at dksX0_lapsing_13 5 rfl rfl)
theorem dX0_lapsing_304 : decode cX0_lapsing 304 = .ok (.iand, 1) := dk_126 (dk_at dksX0_lapsing_13 6 rfl rfl)
theorem dX0_lapsing_305 : decode cX0_lapsing 305 = .ok (.istore 5, 2) := dk_54 5 (dk_at dksX0_lapsing_13 7 rfl rfl)
theorem dX0_lapsing_307 : decode cX0_lapsing 307 = .ok (.iinc 7 1, 3) := dk_132 7 1 (dk_at dksX0_lapsing_13 9 rfl rfl)
theorem dX0_lapsing_310 : decode cX0_lapsing 310 = .ok (.goto (-143), 3) := dk_167 255 113 (dk_at dksX0_lapsing_13 12 rfl rfl)
theorem dX0_lapsing_313 : decode cX0_lapsing 313 = .ok (.iload 5, 2) := dk_21 5 (dk_at dksX0_lapsing_13 15 rfl rfl)
theorem dX0_lapsing_315 : decode cX0_lapsing 315 = .ok (.ireturn, 1) := dk_172 (dk_at dksX0_lapsing_13 17 rfl rfl)
abbrev cX0_later : ByteArray := prog_1_method_29_code
def dkwX0_later_1 : List UInt8 := [172, 42, 89, 180, 1, 6, 27, 96, 181, 1, 6, 42, 180, 1, 6, 172]
abbrev dktX0_later_1 : List UInt8 := dkwX0_later_1 ++ []
def dkwX0_later_0 : List UInt8 := [27, 155, 0, 22, 27, 17, 3, 232, 163, 0, 15, 42, 180, 1, 6, 27, 96, 19, 1, 28, 164, 0, 5, 2]
abbrev dktX0_later_0 : List UInt8 := dkwX0_later_0 ++ dktX0_later_1
theorem dksX0_later_0 : cX0_later.data.toList.drop 0 = dktX0_later_0 := by decide +kernel
theorem dksX0_later_1 : cX0_later.data.toList.drop 24 = dktX0_later_1 := dk_seg dksX0_later_0 24 rfl rfl
theorem dX0_later_0 : decode cX0_later 0 = .ok (.iload_n 1, 1) := dk_27 (dk_at dksX0_later_0 0 rfl rfl)
theorem dX0_later_1 : decode cX0_later 1 = .ok (.ifCond .lt 22, 3) := dk_155 0 22 (dk_at dksX0_later_0 1 rfl rfl)
theorem dX0_later_4 : decode cX0_later 4 = .ok (.iload_n 1, 1) := dk_27 (dk_at dksX0_later_0 4 rfl rfl)
theorem dX0_later_5 : decode cX0_later 5 = .ok (.sipush 1000, 3) := dk_17 3 232 (dk_at dksX0_later_0 5 rfl rfl)
theorem dX0_later_8 : decode cX0_later 8 = .ok (.if_icmp .gt 15, 3) := dk_163 0 15 (dk_at dksX0_later_0 8 rfl rfl)
theorem dX0_later_11 : decode cX0_later 11 = .ok (.aload_n 0, 1) := dk_42 (dk_at dksX0_later_0 11 rfl rfl)
theorem dX0_later_12 : decode cX0_later 12 = .ok (.getfield 262, 3) := dk_180 1 6 (dk_at dksX0_later_0 12 rfl rfl)
theorem dX0_later_15 : decode cX0_later 15 = .ok (.iload_n 1, 1) := dk_27 (dk_at dksX0_later_0 15 rfl rfl)
theorem dX0_later_16 : decode cX0_later 16 = .ok (.iadd, 1) := dk_96 (dk_at dksX0_later_0 16 rfl rfl)
theorem dX0_later_17 : decode cX0_later 17 = .ok (.ldc_w 284, 3) := dk_19 1 28 (dk_at dksX0_later_0 17 rfl rfl)
theorem dX0_later_20 : decode cX0_later 20 = .ok (.if_icmp .le 5, 3) := dk_164 0 5 (dk_at dksX0_later_0 20 rfl rfl)
theorem dX0_later_23 : decode cX0_later 23 = .ok (.iconst (-1), 1) := dk_2 (dk_at dksX0_later_0 23 rfl rfl)
theorem dX0_later_24 : decode cX0_later 24 = .ok (.ireturn, 1) := dk_172 (dk_at dksX0_later_1 0 rfl rfl)
theorem dX0_later_25 : decode cX0_later 25 = .ok (.aload_n 0, 1) := dk_42 (dk_at dksX0_later_1 1 rfl rfl)
theorem dX0_later_26 : decode cX0_later 26 = .ok (.dup, 1) := dk_89 (dk_at dksX0_later_1 2 rfl rfl)
theorem dX0_later_27 : decode cX0_later 27 = .ok (.getfield 262, 3) := dk_180 1 6 (dk_at dksX0_later_1 3 rfl rfl)
theorem dX0_later_30 : decode cX0_later 30 = .ok (.iload_n 1, 1) := dk_27 (dk_at dksX0_later_1 6 rfl rfl)
theorem dX0_later_31 : decode cX0_later 31 = .ok (.iadd, 1) := dk_96 (dk_at dksX0_later_1 7 rfl rfl)
theorem dX0_later_32 : decode cX0_later 32 = .ok (.putfield 262, 3) := dk_181 1 6 (dk_at dksX0_later_1 8 rfl rfl)
theorem dX0_later_35 : decode cX0_later 35 = .ok (.aload_n 0, 1) := dk_42 (dk_at dksX0_later_1 11 rfl rfl)
theorem dX0_later_36 : decode cX0_later 36 = .ok (.getfield 262, 3) := dk_180 1 6 (dk_at dksX0_later_1 12 rfl rfl)
theorem dX0_later_39 : decode cX0_later 39 = .ok (.ireturn, 1) := dk_172 (dk_at dksX0_later_1 15 rfl rfl)
abbrev cX0_lay : ByteArray := prog_1_method_55_code
def dkwX0_lay_7 : List UInt8 := [167, 0, 4, 3, 96, 21, 5, 182, 1, 130, 132, 7, 1, 167, 255, 188, 177]
abbrev dktX0_lay_7 : List UInt8 := dkwX0_lay_7 ++ []
def dkwX0_lay_6 : List UInt8 := [21, 7, 153, 0, 8, 21, 6, 167, 0, 4, 3, 96, 21, 4, 21, 7, 5, 160, 0, 8, 21, 6]
abbrev dktX0_lay_6 : List UInt8 := dkwX0_lay_6 ++ dktX0_lay_7
def dkwX0_lay_5 : List UInt8 := [27, 21, 7, 79, 42, 27, 4, 96, 28, 21, 7, 4, 159, 0, 8, 21, 6, 167, 0, 4, 3, 96, 29]
abbrev dktX0_lay_5 : List UInt8 := dkwX0_lay_5 ++ dktX0_lay_6
def dkwX0_lay_4 : List UInt8 := [182, 0, 184, 192, 0, 188, 180, 1, 51, 54, 6, 3, 54, 7, 21, 7, 6, 162, 0, 68, 42, 180, 0, 107]
abbrev dktX0_lay_4 : List UInt8 := dkwX0_lay_4 ++ dktX0_lay_5
def dkwX0_lay_3 : List UInt8 := [180, 0, 107, 3, 42, 180, 0, 110, 3, 27, 184, 1, 124, 177, 42, 180, 0, 52, 180, 0, 178, 27]
abbrev dktX0_lay_3 : List UInt8 := dkwX0_lay_3 ++ dktX0_lay_4
def dkwX0_lay_2 : List UInt8 := [16, 100, 29, 104, 21, 5, 42, 180, 1, 121, 104, 162, 0, 4, 177, 42, 21, 4, 181, 1, 118, 42]
abbrev dktX0_lay_2 : List UInt8 := dkwX0_lay_2 ++ dktX0_lay_3
def dkwX0_lay_1 : List UInt8 := [180, 0, 178, 182, 0, 181, 160, 0, 53, 16, 100, 28, 104, 21, 5, 42, 180, 1, 121, 104, 161, 0, 17]
abbrev dktX0_lay_1 : List UInt8 := dkwX0_lay_1 ++ dktX0_lay_2
def dkwX0_lay_0 : List UInt8 := [42, 180, 1, 118, 155, 0, 13, 21, 4, 42, 180, 1, 118, 161, 0, 4, 177, 27, 42, 180, 0, 52]
abbrev dktX0_lay_0 : List UInt8 := dkwX0_lay_0 ++ dktX0_lay_1
theorem dksX0_lay_0 : cX0_lay.data.toList.drop 0 = dktX0_lay_0 := by decide +kernel
theorem dksX0_lay_1 : cX0_lay.data.toList.drop 22 = dktX0_lay_1 := dk_seg dksX0_lay_0 22 rfl rfl
theorem dksX0_lay_2 : cX0_lay.data.toList.drop 45 = dktX0_lay_2 := dk_seg dksX0_lay_1 23 rfl rfl
theorem dksX0_lay_3 : cX0_lay.data.toList.drop 67 = dktX0_lay_3 := dk_seg dksX0_lay_2 22 rfl rfl
theorem dksX0_lay_4 : cX0_lay.data.toList.drop 89 = dktX0_lay_4 := dk_seg dksX0_lay_3 22 rfl rfl
theorem dksX0_lay_5 : cX0_lay.data.toList.drop 113 = dktX0_lay_5 := dk_seg dksX0_lay_4 24 rfl rfl
theorem dksX0_lay_6 : cX0_lay.data.toList.drop 136 = dktX0_lay_6 := dk_seg dksX0_lay_5 23 rfl rfl
theorem dksX0_lay_7 : cX0_lay.data.toList.drop 158 = dktX0_lay_7 := dk_seg dksX0_lay_6 22 rfl rfl
theorem dX0_lay_0 : decode cX0_lay 0 = .ok (.aload_n 0, 1) := dk_42 (dk_at dksX0_lay_0 0 rfl rfl)
theorem dX0_lay_1 : decode cX0_lay 1 = .ok (.getfield 374, 3) := dk_180 1 118 (dk_at dksX0_lay_0 1 rfl rfl)
theorem dX0_lay_4 : decode cX0_lay 4 = .ok (.ifCond .lt 13, 3) := dk_155 0 13 (dk_at dksX0_lay_0 4 rfl rfl)
theorem dX0_lay_7 : decode cX0_lay 7 = .ok (.iload 4, 2) := dk_21 4 (dk_at dksX0_lay_0 7 rfl rfl)
theorem dX0_lay_9 : decode cX0_lay 9 = .ok (.aload_n 0, 1) := dk_42 (dk_at dksX0_lay_0 9 rfl rfl)
theorem dX0_lay_10 : decode cX0_lay 10 = .ok (.getfield 374, 3) := dk_180 1 118 (dk_at dksX0_lay_0 10 rfl rfl)
theorem dX0_lay_13 : decode cX0_lay 13 = .ok (.if_icmp .lt 4, 3) := dk_161 0 4 (dk_at dksX0_lay_0 13 rfl rfl)
theorem dX0_lay_16 : decode cX0_lay 16 = .ok (.return_, 1) := dk_177 (dk_at dksX0_lay_0 16 rfl rfl)
theorem dX0_lay_17 : decode cX0_lay 17 = .ok (.iload_n 1, 1) := dk_27 (dk_at dksX0_lay_0 17 rfl rfl)
theorem dX0_lay_18 : decode cX0_lay 18 = .ok (.aload_n 0, 1) := dk_42 (dk_at dksX0_lay_0 18 rfl rfl)
theorem dX0_lay_19 : decode cX0_lay 19 = .ok (.getfield 52, 3) := dk_180 0 52 (dk_at dksX0_lay_0 19 rfl rfl)
theorem dX0_lay_22 : decode cX0_lay 22 = .ok (.getfield 178, 3) := dk_180 0 178 (dk_at dksX0_lay_1 0 rfl rfl)
theorem dX0_lay_25 : decode cX0_lay 25 = .ok (.invokevirtual 181, 3) := dk_182 0 181 (dk_at dksX0_lay_1 3 rfl rfl)
theorem dX0_lay_28 : decode cX0_lay 28 = .ok (.if_icmp .ne 53, 3) := dk_160 0 53 (dk_at dksX0_lay_1 6 rfl rfl)
theorem dX0_lay_31 : decode cX0_lay 31 = .ok (.bipush 100, 2) := dk_16 100 (dk_at dksX0_lay_1 9 rfl rfl)
theorem dX0_lay_33 : decode cX0_lay 33 = .ok (.iload_n 2, 1) := dk_28 (dk_at dksX0_lay_1 11 rfl rfl)
theorem dX0_lay_34 : decode cX0_lay 34 = .ok (.imul, 1) := dk_104 (dk_at dksX0_lay_1 12 rfl rfl)
theorem dX0_lay_35 : decode cX0_lay 35 = .ok (.iload 5, 2) := dk_21 5 (dk_at dksX0_lay_1 13 rfl rfl)
theorem dX0_lay_37 : decode cX0_lay 37 = .ok (.aload_n 0, 1) := dk_42 (dk_at dksX0_lay_1 15 rfl rfl)
theorem dX0_lay_38 : decode cX0_lay 38 = .ok (.getfield 377, 3) := dk_180 1 121 (dk_at dksX0_lay_1 16 rfl rfl)
theorem dX0_lay_41 : decode cX0_lay 41 = .ok (.imul, 1) := dk_104 (dk_at dksX0_lay_1 19 rfl rfl)
theorem dX0_lay_42 : decode cX0_lay 42 = .ok (.if_icmp .lt 17, 3) := dk_161 0 17 (dk_at dksX0_lay_1 20 rfl rfl)
theorem dX0_lay_45 : decode cX0_lay 45 = .ok (.bipush 100, 2) := dk_16 100 (dk_at dksX0_lay_2 0 rfl rfl)
theorem dX0_lay_47 : decode cX0_lay 47 = .ok (.iload_n 3, 1) := dk_29 (dk_at dksX0_lay_2 2 rfl rfl)
theorem dX0_lay_48 : decode cX0_lay 48 = .ok (.imul, 1) := dk_104 (dk_at dksX0_lay_2 3 rfl rfl)
theorem dX0_lay_49 : decode cX0_lay 49 = .ok (.iload 5, 2) := dk_21 5 (dk_at dksX0_lay_2 4 rfl rfl)
theorem dX0_lay_51 : decode cX0_lay 51 = .ok (.aload_n 0, 1) := dk_42 (dk_at dksX0_lay_2 6 rfl rfl)
theorem dX0_lay_52 : decode cX0_lay 52 = .ok (.getfield 377, 3) := dk_180 1 121 (dk_at dksX0_lay_2 7 rfl rfl)
theorem dX0_lay_55 : decode cX0_lay 55 = .ok (.imul, 1) := dk_104 (dk_at dksX0_lay_2 10 rfl rfl)
theorem dX0_lay_56 : decode cX0_lay 56 = .ok (.if_icmp .ge 4, 3) := dk_162 0 4 (dk_at dksX0_lay_2 11 rfl rfl)
theorem dX0_lay_59 : decode cX0_lay 59 = .ok (.return_, 1) := dk_177 (dk_at dksX0_lay_2 14 rfl rfl)
theorem dX0_lay_60 : decode cX0_lay 60 = .ok (.aload_n 0, 1) := dk_42 (dk_at dksX0_lay_2 15 rfl rfl)
theorem dX0_lay_61 : decode cX0_lay 61 = .ok (.iload 4, 2) := dk_21 4 (dk_at dksX0_lay_2 16 rfl rfl)
theorem dX0_lay_63 : decode cX0_lay 63 = .ok (.putfield 374, 3) := dk_181 1 118 (dk_at dksX0_lay_2 18 rfl rfl)
theorem dX0_lay_66 : decode cX0_lay 66 = .ok (.aload_n 0, 1) := dk_42 (dk_at dksX0_lay_2 21 rfl rfl)
theorem dX0_lay_67 : decode cX0_lay 67 = .ok (.getfield 107, 3) := dk_180 0 107 (dk_at dksX0_lay_3 0 rfl rfl)
theorem dX0_lay_70 : decode cX0_lay 70 = .ok (.iconst 0, 1) := dk_3 (dk_at dksX0_lay_3 3 rfl rfl)
theorem dX0_lay_71 : decode cX0_lay 71 = .ok (.aload_n 0, 1) := dk_42 (dk_at dksX0_lay_3 4 rfl rfl)
theorem dX0_lay_72 : decode cX0_lay 72 = .ok (.getfield 110, 3) := dk_180 0 110 (dk_at dksX0_lay_3 5 rfl rfl)
theorem dX0_lay_75 : decode cX0_lay 75 = .ok (.iconst 0, 1) := dk_3 (dk_at dksX0_lay_3 8 rfl rfl)
theorem dX0_lay_76 : decode cX0_lay 76 = .ok (.iload_n 1, 1) := dk_27 (dk_at dksX0_lay_3 9 rfl rfl)
theorem dX0_lay_77 : decode cX0_lay 77 = .ok (.invokestatic 380, 3) := dk_184 1 124 (dk_at dksX0_lay_3 10 rfl rfl)
theorem dX0_lay_80 : decode cX0_lay 80 = .ok (.return_, 1) := dk_177 (dk_at dksX0_lay_3 13 rfl rfl)
theorem dX0_lay_81 : decode cX0_lay 81 = .ok (.aload_n 0, 1) := dk_42 (dk_at dksX0_lay_3 14 rfl rfl)
theorem dX0_lay_82 : decode cX0_lay 82 = .ok (.getfield 52, 3) := dk_180 0 52 (dk_at dksX0_lay_3 15 rfl rfl)
theorem dX0_lay_85 : decode cX0_lay 85 = .ok (.getfield 178, 3) := dk_180 0 178 (dk_at dksX0_lay_3 18 rfl rfl)
theorem dX0_lay_88 : decode cX0_lay 88 = .ok (.iload_n 1, 1) := dk_27 (dk_at dksX0_lay_3 21 rfl rfl)
theorem dX0_lay_89 : decode cX0_lay 89 = .ok (.invokevirtual 184, 3) := dk_182 0 184 (dk_at dksX0_lay_4 0 rfl rfl)
theorem dX0_lay_92 : decode cX0_lay 92 = .ok (.checkcast 188, 3) := dk_192 0 188 (dk_at dksX0_lay_4 3 rfl rfl)
theorem dX0_lay_95 : decode cX0_lay 95 = .ok (.getfield 307, 3) := dk_180 1 51 (dk_at dksX0_lay_4 6 rfl rfl)
theorem dX0_lay_98 : decode cX0_lay 98 = .ok (.istore 6, 2) := dk_54 6 (dk_at dksX0_lay_4 9 rfl rfl)
theorem dX0_lay_100 : decode cX0_lay 100 = .ok (.iconst 0, 1) := dk_3 (dk_at dksX0_lay_4 11 rfl rfl)
theorem dX0_lay_101 : decode cX0_lay 101 = .ok (.istore 7, 2) := dk_54 7 (dk_at dksX0_lay_4 12 rfl rfl)
theorem dX0_lay_103 : decode cX0_lay 103 = .ok (.iload 7, 2) := dk_21 7 (dk_at dksX0_lay_4 14 rfl rfl)
theorem dX0_lay_105 : decode cX0_lay 105 = .ok (.iconst 3, 1) := dk_6 (dk_at dksX0_lay_4 16 rfl rfl)
theorem dX0_lay_106 : decode cX0_lay 106 = .ok (.if_icmp .ge 68, 3) := dk_162 0 68 (dk_at dksX0_lay_4 17 rfl rfl)
theorem dX0_lay_109 : decode cX0_lay 109 = .ok (.aload_n 0, 1) := dk_42 (dk_at dksX0_lay_4 20 rfl rfl)
theorem dX0_lay_110 : decode cX0_lay 110 = .ok (.getfield 107, 3) := dk_180 0 107 (dk_at dksX0_lay_4 21 rfl rfl)
theorem dX0_lay_113 : decode cX0_lay 113 = .ok (.iload_n 1, 1) := dk_27 (dk_at dksX0_lay_5 0 rfl rfl)
theorem dX0_lay_114 : decode cX0_lay 114 = .ok (.iload 7, 2) := dk_21 7 (dk_at dksX0_lay_5 1 rfl rfl)
theorem dX0_lay_116 : decode cX0_lay 116 = .ok (.iastore, 1) := dk_79 (dk_at dksX0_lay_5 3 rfl rfl)
theorem dX0_lay_117 : decode cX0_lay 117 = .ok (.aload_n 0, 1) := dk_42 (dk_at dksX0_lay_5 4 rfl rfl)
theorem dX0_lay_118 : decode cX0_lay 118 = .ok (.iload_n 1, 1) := dk_27 (dk_at dksX0_lay_5 5 rfl rfl)
theorem dX0_lay_119 : decode cX0_lay 119 = .ok (.iconst 1, 1) := dk_4 (dk_at dksX0_lay_5 6 rfl rfl)
theorem dX0_lay_120 : decode cX0_lay 120 = .ok (.iadd, 1) := dk_96 (dk_at dksX0_lay_5 7 rfl rfl)
theorem dX0_lay_121 : decode cX0_lay 121 = .ok (.iload_n 2, 1) := dk_28 (dk_at dksX0_lay_5 8 rfl rfl)
theorem dX0_lay_122 : decode cX0_lay 122 = .ok (.iload 7, 2) := dk_21 7 (dk_at dksX0_lay_5 9 rfl rfl)
theorem dX0_lay_124 : decode cX0_lay 124 = .ok (.iconst 1, 1) := dk_4 (dk_at dksX0_lay_5 11 rfl rfl)
theorem dX0_lay_125 : decode cX0_lay 125 = .ok (.if_icmp .eq 8, 3) := dk_159 0 8 (dk_at dksX0_lay_5 12 rfl rfl)
theorem dX0_lay_128 : decode cX0_lay 128 = .ok (.iload 6, 2) := dk_21 6 (dk_at dksX0_lay_5 15 rfl rfl)
theorem dX0_lay_130 : decode cX0_lay 130 = .ok (.goto 4, 3) := dk_167 0 4 (dk_at dksX0_lay_5 17 rfl rfl)
theorem dX0_lay_133 : decode cX0_lay 133 = .ok (.iconst 0, 1) := dk_3 (dk_at dksX0_lay_5 20 rfl rfl)
theorem dX0_lay_134 : decode cX0_lay 134 = .ok (.iadd, 1) := dk_96 (dk_at dksX0_lay_5 21 rfl rfl)
theorem dX0_lay_135 : decode cX0_lay 135 = .ok (.iload_n 3, 1) := dk_29 (dk_at dksX0_lay_5 22 rfl rfl)
theorem dX0_lay_136 : decode cX0_lay 136 = .ok (.iload 7, 2) := dk_21 7 (dk_at dksX0_lay_6 0 rfl rfl)
theorem dX0_lay_138 : decode cX0_lay 138 = .ok (.ifCond .eq 8, 3) := dk_153 0 8 (dk_at dksX0_lay_6 2 rfl rfl)
theorem dX0_lay_141 : decode cX0_lay 141 = .ok (.iload 6, 2) := dk_21 6 (dk_at dksX0_lay_6 5 rfl rfl)
theorem dX0_lay_143 : decode cX0_lay 143 = .ok (.goto 4, 3) := dk_167 0 4 (dk_at dksX0_lay_6 7 rfl rfl)
theorem dX0_lay_146 : decode cX0_lay 146 = .ok (.iconst 0, 1) := dk_3 (dk_at dksX0_lay_6 10 rfl rfl)
theorem dX0_lay_147 : decode cX0_lay 147 = .ok (.iadd, 1) := dk_96 (dk_at dksX0_lay_6 11 rfl rfl)
theorem dX0_lay_148 : decode cX0_lay 148 = .ok (.iload 4, 2) := dk_21 4 (dk_at dksX0_lay_6 12 rfl rfl)
theorem dX0_lay_150 : decode cX0_lay 150 = .ok (.iload 7, 2) := dk_21 7 (dk_at dksX0_lay_6 14 rfl rfl)
theorem dX0_lay_152 : decode cX0_lay 152 = .ok (.iconst 2, 1) := dk_5 (dk_at dksX0_lay_6 16 rfl rfl)
theorem dX0_lay_153 : decode cX0_lay 153 = .ok (.if_icmp .ne 8, 3) := dk_160 0 8 (dk_at dksX0_lay_6 17 rfl rfl)
theorem dX0_lay_156 : decode cX0_lay 156 = .ok (.iload 6, 2) := dk_21 6 (dk_at dksX0_lay_6 20 rfl rfl)
theorem dX0_lay_158 : decode cX0_lay 158 = .ok (.goto 4, 3) := dk_167 0 4 (dk_at dksX0_lay_7 0 rfl rfl)
theorem dX0_lay_161 : decode cX0_lay 161 = .ok (.iconst 0, 1) := dk_3 (dk_at dksX0_lay_7 3 rfl rfl)
theorem dX0_lay_162 : decode cX0_lay 162 = .ok (.iadd, 1) := dk_96 (dk_at dksX0_lay_7 4 rfl rfl)
theorem dX0_lay_163 : decode cX0_lay 163 = .ok (.iload 5, 2) := dk_21 5 (dk_at dksX0_lay_7 5 rfl rfl)
theorem dX0_lay_165 : decode cX0_lay 165 = .ok (.invokevirtual 386, 3) := dk_182 1 130 (dk_at dksX0_lay_7 7 rfl rfl)
theorem dX0_lay_168 : decode cX0_lay 168 = .ok (.iinc 7 1, 3) := dk_132 7 1 (dk_at dksX0_lay_7 10 rfl rfl)
theorem dX0_lay_171 : decode cX0_lay 171 = .ok (.goto (-68), 3) := dk_167 255 188 (dk_at dksX0_lay_7 13 rfl rfl)
theorem dX0_lay_174 : decode cX0_lay 174 = .ok (.return_, 1) := dk_177 (dk_at dksX0_lay_7 16 rfl rfl)
abbrev cX0_leave : ByteArray := prog_1_method_37_code
def dkwX0_leave_1 : List UInt8 := [182, 1, 67, 182, 0, 247, 153, 0, 7, 4, 167, 0, 4, 3, 172]
abbrev dktX0_leave_1 : List UInt8 := dkwX0_leave_1 ++ []
def dkwX0_leave_0 : List UInt8 := [27, 184, 1, 1, 153, 0, 10, 28, 184, 0, 165, 154, 0, 7, 2, 167, 0, 23, 42, 28, 27, 42, 27, 29]
abbrev dktX0_leave_0 : List UInt8 := dkwX0_leave_0 ++ dktX0_leave_1
theorem dksX0_leave_0 : cX0_leave.data.toList.drop 0 = dktX0_leave_0 := by decide +kernel
theorem dksX0_leave_1 : cX0_leave.data.toList.drop 24 = dktX0_leave_1 := dk_seg dksX0_leave_0 24 rfl rfl
theorem dX0_leave_0 : decode cX0_leave 0 = .ok (.iload_n 1, 1) := dk_27 (dk_at dksX0_leave_0 0 rfl rfl)
theorem dX0_leave_1 : decode cX0_leave 1 = .ok (.invokestatic 257, 3) := dk_184 1 1 (dk_at dksX0_leave_0 1 rfl rfl)
theorem dX0_leave_4 : decode cX0_leave 4 = .ok (.ifCond .eq 10, 3) := dk_153 0 10 (dk_at dksX0_leave_0 4 rfl rfl)
theorem dX0_leave_7 : decode cX0_leave 7 = .ok (.iload_n 2, 1) := dk_28 (dk_at dksX0_leave_0 7 rfl rfl)
theorem dX0_leave_8 : decode cX0_leave 8 = .ok (.invokestatic 165, 3) := dk_184 0 165 (dk_at dksX0_leave_0 8 rfl rfl)
theorem dX0_leave_11 : decode cX0_leave 11 = .ok (.ifCond .ne 7, 3) := dk_154 0 7 (dk_at dksX0_leave_0 11 rfl rfl)
theorem dX0_leave_14 : decode cX0_leave 14 = .ok (.iconst (-1), 1) := dk_2 (dk_at dksX0_leave_0 14 rfl rfl)
theorem dX0_leave_15 : decode cX0_leave 15 = .ok (.goto 23, 3) := dk_167 0 23 (dk_at dksX0_leave_0 15 rfl rfl)
theorem dX0_leave_18 : decode cX0_leave 18 = .ok (.aload_n 0, 1) := dk_42 (dk_at dksX0_leave_0 18 rfl rfl)
theorem dX0_leave_19 : decode cX0_leave 19 = .ok (.iload_n 2, 1) := dk_28 (dk_at dksX0_leave_0 19 rfl rfl)
theorem dX0_leave_20 : decode cX0_leave 20 = .ok (.iload_n 1, 1) := dk_27 (dk_at dksX0_leave_0 20 rfl rfl)
theorem dX0_leave_21 : decode cX0_leave 21 = .ok (.aload_n 0, 1) := dk_42 (dk_at dksX0_leave_0 21 rfl rfl)
theorem dX0_leave_22 : decode cX0_leave 22 = .ok (.iload_n 1, 1) := dk_27 (dk_at dksX0_leave_0 22 rfl rfl)
theorem dX0_leave_23 : decode cX0_leave 23 = .ok (.iload_n 3, 1) := dk_29 (dk_at dksX0_leave_0 23 rfl rfl)
theorem dX0_leave_24 : decode cX0_leave 24 = .ok (.invokevirtual 323, 3) := dk_182 1 67 (dk_at dksX0_leave_1 0 rfl rfl)
theorem dX0_leave_27 : decode cX0_leave 27 = .ok (.invokevirtual 247, 3) := dk_182 0 247 (dk_at dksX0_leave_1 3 rfl rfl)
theorem dX0_leave_30 : decode cX0_leave 30 = .ok (.ifCond .eq 7, 3) := dk_153 0 7 (dk_at dksX0_leave_1 6 rfl rfl)
theorem dX0_leave_33 : decode cX0_leave 33 = .ok (.iconst 1, 1) := dk_4 (dk_at dksX0_leave_1 9 rfl rfl)
theorem dX0_leave_34 : decode cX0_leave 34 = .ok (.goto 4, 3) := dk_167 0 4 (dk_at dksX0_leave_1 10 rfl rfl)
theorem dX0_leave_37 : decode cX0_leave 37 = .ok (.iconst 0, 1) := dk_3 (dk_at dksX0_leave_1 13 rfl rfl)
theorem dX0_leave_38 : decode cX0_leave 38 = .ok (.ireturn, 1) := dk_172 (dk_at dksX0_leave_1 14 rfl rfl)
abbrev cX0_machine : ByteArray := prog_1_method_7_code
def dkwX0_machine_1 : List UInt8 := [181, 0, 151, 42, 1, 182, 0, 154, 42, 180, 0, 52, 180, 0, 158, 172, 76, 42, 43, 182, 0, 154, 2, 172]
abbrev dktX0_machine_1 : List UInt8 := dkwX0_machine_1 ++ []
def dkwX0_machine_0 : List UInt8 := [42, 187, 0, 139, 89, 42, 183, 0, 141, 182, 0, 144, 181, 0, 52, 42, 180, 0, 67, 182, 0, 148, 42, 3]
abbrev dktX0_machine_0 : List UInt8 := dkwX0_machine_0 ++ dktX0_machine_1
theorem dksX0_machine_0 : cX0_machine.data.toList.drop 0 = dktX0_machine_0 := by decide +kernel
theorem dksX0_machine_1 : cX0_machine.data.toList.drop 24 = dktX0_machine_1 := dk_seg dksX0_machine_0 24 rfl rfl
theorem dX0_machine_0 : decode cX0_machine 0 = .ok (.aload_n 0, 1) := dk_42 (dk_at dksX0_machine_0 0 rfl rfl)
theorem dX0_machine_1 : decode cX0_machine 1 = .ok (.new 139, 3) := dk_187 0 139 (dk_at dksX0_machine_0 1 rfl rfl)
theorem dX0_machine_4 : decode cX0_machine 4 = .ok (.dup, 1) := dk_89 (dk_at dksX0_machine_0 4 rfl rfl)
theorem dX0_machine_5 : decode cX0_machine 5 = .ok (.aload_n 0, 1) := dk_42 (dk_at dksX0_machine_0 5 rfl rfl)
theorem dX0_machine_6 : decode cX0_machine 6 = .ok (.invokespecial 141, 3) := dk_183 0 141 (dk_at dksX0_machine_0 6 rfl rfl)
theorem dX0_machine_9 : decode cX0_machine 9 = .ok (.invokevirtual 144, 3) := dk_182 0 144 (dk_at dksX0_machine_0 9 rfl rfl)
theorem dX0_machine_12 : decode cX0_machine 12 = .ok (.putfield 52, 3) := dk_181 0 52 (dk_at dksX0_machine_0 12 rfl rfl)
theorem dX0_machine_15 : decode cX0_machine 15 = .ok (.aload_n 0, 1) := dk_42 (dk_at dksX0_machine_0 15 rfl rfl)
theorem dX0_machine_16 : decode cX0_machine 16 = .ok (.getfield 67, 3) := dk_180 0 67 (dk_at dksX0_machine_0 16 rfl rfl)
theorem dX0_machine_19 : decode cX0_machine 19 = .ok (.invokevirtual 148, 3) := dk_182 0 148 (dk_at dksX0_machine_0 19 rfl rfl)
theorem dX0_machine_22 : decode cX0_machine 22 = .ok (.aload_n 0, 1) := dk_42 (dk_at dksX0_machine_0 22 rfl rfl)
theorem dX0_machine_23 : decode cX0_machine 23 = .ok (.iconst 0, 1) := dk_3 (dk_at dksX0_machine_0 23 rfl rfl)
theorem dX0_machine_24 : decode cX0_machine 24 = .ok (.putfield 151, 3) := dk_181 0 151 (dk_at dksX0_machine_1 0 rfl rfl)
theorem dX0_machine_27 : decode cX0_machine 27 = .ok (.aload_n 0, 1) := dk_42 (dk_at dksX0_machine_1 3 rfl rfl)
theorem dX0_machine_28 : decode cX0_machine 28 = .ok (.aconst_null, 1) := dk_1 (dk_at dksX0_machine_1 4 rfl rfl)
theorem dX0_machine_29 : decode cX0_machine 29 = .ok (.invokevirtual 154, 3) := dk_182 0 154 (dk_at dksX0_machine_1 5 rfl rfl)
theorem dX0_machine_32 : decode cX0_machine 32 = .ok (.aload_n 0, 1) := dk_42 (dk_at dksX0_machine_1 8 rfl rfl)
theorem dX0_machine_33 : decode cX0_machine 33 = .ok (.getfield 52, 3) := dk_180 0 52 (dk_at dksX0_machine_1 9 rfl rfl)
theorem dX0_machine_36 : decode cX0_machine 36 = .ok (.getfield 158, 3) := dk_180 0 158 (dk_at dksX0_machine_1 12 rfl rfl)
theorem dX0_machine_39 : decode cX0_machine 39 = .ok (.ireturn, 1) := dk_172 (dk_at dksX0_machine_1 15 rfl rfl)
theorem dX0_machine_40 : decode cX0_machine 40 = .ok (.astore_n 1, 1) := dk_76 (dk_at dksX0_machine_1 16 rfl rfl)
theorem dX0_machine_41 : decode cX0_machine 41 = .ok (.aload_n 0, 1) := dk_42 (dk_at dksX0_machine_1 17 rfl rfl)
theorem dX0_machine_42 : decode cX0_machine 42 = .ok (.aload_n 1, 1) := dk_43 (dk_at dksX0_machine_1 18 rfl rfl)
theorem dX0_machine_43 : decode cX0_machine 43 = .ok (.invokevirtual 154, 3) := dk_182 0 154 (dk_at dksX0_machine_1 19 rfl rfl)
theorem dX0_machine_46 : decode cX0_machine 46 = .ok (.iconst (-1), 1) := dk_2 (dk_at dksX0_machine_1 22 rfl rfl)
theorem dX0_machine_47 : decode cX0_machine 47 = .ok (.ireturn, 1) := dk_172 (dk_at dksX0_machine_1 23 rfl rfl)
abbrev cX0_maker : ByteArray := prog_1_method_57_code
def dkwX0_maker_1 : List UInt8 := [27, 46, 172]
abbrev dktX0_maker_1 : List UInt8 := dkwX0_maker_1 ++ []
def dkwX0_maker_0 : List UInt8 := [42, 27, 182, 0, 190, 198, 0, 11, 42, 28, 182, 1, 134, 156, 0, 7, 2, 167, 0, 9, 42, 180, 0, 110]
abbrev dktX0_maker_0 : List UInt8 := dkwX0_maker_0 ++ dktX0_maker_1
theorem dksX0_maker_0 : cX0_maker.data.toList.drop 0 = dktX0_maker_0 := by decide +kernel
theorem dksX0_maker_1 : cX0_maker.data.toList.drop 24 = dktX0_maker_1 := dk_seg dksX0_maker_0 24 rfl rfl
theorem dX0_maker_0 : decode cX0_maker 0 = .ok (.aload_n 0, 1) := dk_42 (dk_at dksX0_maker_0 0 rfl rfl)
theorem dX0_maker_1 : decode cX0_maker 1 = .ok (.iload_n 1, 1) := dk_27 (dk_at dksX0_maker_0 1 rfl rfl)
theorem dX0_maker_2 : decode cX0_maker 2 = .ok (.invokevirtual 190, 3) := dk_182 0 190 (dk_at dksX0_maker_0 2 rfl rfl)
theorem dX0_maker_5 : decode cX0_maker 5 = .ok (.ifnull 11, 3) := dk_198 0 11 (dk_at dksX0_maker_0 5 rfl rfl)
theorem dX0_maker_8 : decode cX0_maker 8 = .ok (.aload_n 0, 1) := dk_42 (dk_at dksX0_maker_0 8 rfl rfl)
theorem dX0_maker_9 : decode cX0_maker 9 = .ok (.iload_n 2, 1) := dk_28 (dk_at dksX0_maker_0 9 rfl rfl)
theorem dX0_maker_10 : decode cX0_maker 10 = .ok (.invokevirtual 390, 3) := dk_182 1 134 (dk_at dksX0_maker_0 10 rfl rfl)
theorem dX0_maker_13 : decode cX0_maker 13 = .ok (.ifCond .ge 7, 3) := dk_156 0 7 (dk_at dksX0_maker_0 13 rfl rfl)
theorem dX0_maker_16 : decode cX0_maker 16 = .ok (.iconst (-1), 1) := dk_2 (dk_at dksX0_maker_0 16 rfl rfl)
theorem dX0_maker_17 : decode cX0_maker 17 = .ok (.goto 9, 3) := dk_167 0 9 (dk_at dksX0_maker_0 17 rfl rfl)
theorem dX0_maker_20 : decode cX0_maker 20 = .ok (.aload_n 0, 1) := dk_42 (dk_at dksX0_maker_0 20 rfl rfl)
theorem dX0_maker_21 : decode cX0_maker 21 = .ok (.getfield 110, 3) := dk_180 0 110 (dk_at dksX0_maker_0 21 rfl rfl)
theorem dX0_maker_24 : decode cX0_maker 24 = .ok (.iload_n 1, 1) := dk_27 (dk_at dksX0_maker_1 0 rfl rfl)
theorem dX0_maker_25 : decode cX0_maker 25 = .ok (.iaload, 1) := dk_46 (dk_at dksX0_maker_1 1 rfl rfl)
theorem dX0_maker_26 : decode cX0_maker 26 = .ok (.ireturn, 1) := dk_172 (dk_at dksX0_maker_1 2 rfl rfl)
abbrev cX0_mayFly : ByteArray := prog_1_method_21_code
def dkwX0_mayFly_1 : List UInt8 := [180, 0, 58, 27, 50, 5, 4, 42, 180, 0, 74, 182, 0, 243, 172]
abbrev dktX0_mayFly_1 : List UInt8 := dkwX0_mayFly_1 ++ []
def dkwX0_mayFly_0 : List UInt8 := [42, 180, 0, 74, 7, 28, 79, 42, 180, 0, 74, 8, 29, 79, 42, 180, 0, 74, 16, 6, 21, 4, 79, 42]
abbrev dktX0_mayFly_0 : List UInt8 := dkwX0_mayFly_0 ++ dktX0_mayFly_1
theorem dksX0_mayFly_0 : cX0_mayFly.data.toList.drop 0 = dktX0_mayFly_0 := by decide +kernel
theorem dksX0_mayFly_1 : cX0_mayFly.data.toList.drop 24 = dktX0_mayFly_1 := dk_seg dksX0_mayFly_0 24 rfl rfl
theorem dX0_mayFly_0 : decode cX0_mayFly 0 = .ok (.aload_n 0, 1) := dk_42 (dk_at dksX0_mayFly_0 0 rfl rfl)
theorem dX0_mayFly_1 : decode cX0_mayFly 1 = .ok (.getfield 74, 3) := dk_180 0 74 (dk_at dksX0_mayFly_0 1 rfl rfl)
theorem dX0_mayFly_4 : decode cX0_mayFly 4 = .ok (.iconst 4, 1) := dk_7 (dk_at dksX0_mayFly_0 4 rfl rfl)
theorem dX0_mayFly_5 : decode cX0_mayFly 5 = .ok (.iload_n 2, 1) := dk_28 (dk_at dksX0_mayFly_0 5 rfl rfl)
theorem dX0_mayFly_6 : decode cX0_mayFly 6 = .ok (.iastore, 1) := dk_79 (dk_at dksX0_mayFly_0 6 rfl rfl)
theorem dX0_mayFly_7 : decode cX0_mayFly 7 = .ok (.aload_n 0, 1) := dk_42 (dk_at dksX0_mayFly_0 7 rfl rfl)
theorem dX0_mayFly_8 : decode cX0_mayFly 8 = .ok (.getfield 74, 3) := dk_180 0 74 (dk_at dksX0_mayFly_0 8 rfl rfl)
theorem dX0_mayFly_11 : decode cX0_mayFly 11 = .ok (.iconst 5, 1) := dk_8 (dk_at dksX0_mayFly_0 11 rfl rfl)
theorem dX0_mayFly_12 : decode cX0_mayFly 12 = .ok (.iload_n 3, 1) := dk_29 (dk_at dksX0_mayFly_0 12 rfl rfl)
theorem dX0_mayFly_13 : decode cX0_mayFly 13 = .ok (.iastore, 1) := dk_79 (dk_at dksX0_mayFly_0 13 rfl rfl)
theorem dX0_mayFly_14 : decode cX0_mayFly 14 = .ok (.aload_n 0, 1) := dk_42 (dk_at dksX0_mayFly_0 14 rfl rfl)
theorem dX0_mayFly_15 : decode cX0_mayFly 15 = .ok (.getfield 74, 3) := dk_180 0 74 (dk_at dksX0_mayFly_0 15 rfl rfl)
theorem dX0_mayFly_18 : decode cX0_mayFly 18 = .ok (.bipush 6, 2) := dk_16 6 (dk_at dksX0_mayFly_0 18 rfl rfl)
theorem dX0_mayFly_20 : decode cX0_mayFly 20 = .ok (.iload 4, 2) := dk_21 4 (dk_at dksX0_mayFly_0 20 rfl rfl)
theorem dX0_mayFly_22 : decode cX0_mayFly 22 = .ok (.iastore, 1) := dk_79 (dk_at dksX0_mayFly_0 22 rfl rfl)
theorem dX0_mayFly_23 : decode cX0_mayFly 23 = .ok (.aload_n 0, 1) := dk_42 (dk_at dksX0_mayFly_0 23 rfl rfl)
theorem dX0_mayFly_24 : decode cX0_mayFly 24 = .ok (.getfield 58, 3) := dk_180 0 58 (dk_at dksX0_mayFly_1 0 rfl rfl)
theorem dX0_mayFly_27 : decode cX0_mayFly 27 = .ok (.iload_n 1, 1) := dk_27 (dk_at dksX0_mayFly_1 3 rfl rfl)
theorem dX0_mayFly_28 : decode cX0_mayFly 28 = .ok (.aaload, 1) := dk_50 (dk_at dksX0_mayFly_1 4 rfl rfl)
theorem dX0_mayFly_29 : decode cX0_mayFly 29 = .ok (.iconst 2, 1) := dk_5 (dk_at dksX0_mayFly_1 5 rfl rfl)
theorem dX0_mayFly_30 : decode cX0_mayFly 30 = .ok (.iconst 1, 1) := dk_4 (dk_at dksX0_mayFly_1 6 rfl rfl)
theorem dX0_mayFly_31 : decode cX0_mayFly 31 = .ok (.aload_n 0, 1) := dk_42 (dk_at dksX0_mayFly_1 7 rfl rfl)
theorem dX0_mayFly_32 : decode cX0_mayFly 32 = .ok (.getfield 74, 3) := dk_180 0 74 (dk_at dksX0_mayFly_1 8 rfl rfl)
theorem dX0_mayFly_35 : decode cX0_mayFly 35 = .ok (.invokevirtual 243, 3) := dk_182 0 243 (dk_at dksX0_mayFly_1 11 rfl rfl)
theorem dX0_mayFly_38 : decode cX0_mayFly 38 = .ok (.ireturn, 1) := dk_172 (dk_at dksX0_mayFly_1 14 rfl rfl)
abbrev cX0_mayLeave : ByteArray := prog_1_method_20_code
def dkwX0_mayLeave_1 : List UInt8 := [180, 0, 74, 182, 0, 243, 172]
abbrev dktX0_mayLeave_1 : List UInt8 := dkwX0_mayLeave_1 ++ []
def dkwX0_mayLeave_0 : List UInt8 := [42, 180, 0, 74, 5, 28, 79, 42, 180, 0, 74, 6, 29, 79, 42, 180, 0, 58, 27, 50, 4, 3, 42]
abbrev dktX0_mayLeave_0 : List UInt8 := dkwX0_mayLeave_0 ++ dktX0_mayLeave_1
theorem dksX0_mayLeave_0 : cX0_mayLeave.data.toList.drop 0 = dktX0_mayLeave_0 := by decide +kernel
theorem dksX0_mayLeave_1 : cX0_mayLeave.data.toList.drop 23 = dktX0_mayLeave_1 := dk_seg dksX0_mayLeave_0 23 rfl rfl
theorem dX0_mayLeave_0 : decode cX0_mayLeave 0 = .ok (.aload_n 0, 1) := dk_42 (dk_at dksX0_mayLeave_0 0 rfl rfl)
theorem dX0_mayLeave_1 : decode cX0_mayLeave 1 = .ok (.getfield 74, 3) := dk_180 0 74 (dk_at dksX0_mayLeave_0 1 rfl rfl)
theorem dX0_mayLeave_4 : decode cX0_mayLeave 4 = .ok (.iconst 2, 1) := dk_5 (dk_at dksX0_mayLeave_0 4 rfl rfl)
theorem dX0_mayLeave_5 : decode cX0_mayLeave 5 = .ok (.iload_n 2, 1) := dk_28 (dk_at dksX0_mayLeave_0 5 rfl rfl)
theorem dX0_mayLeave_6 : decode cX0_mayLeave 6 = .ok (.iastore, 1) := dk_79 (dk_at dksX0_mayLeave_0 6 rfl rfl)
theorem dX0_mayLeave_7 : decode cX0_mayLeave 7 = .ok (.aload_n 0, 1) := dk_42 (dk_at dksX0_mayLeave_0 7 rfl rfl)
theorem dX0_mayLeave_8 : decode cX0_mayLeave 8 = .ok (.getfield 74, 3) := dk_180 0 74 (dk_at dksX0_mayLeave_0 8 rfl rfl)
theorem dX0_mayLeave_11 : decode cX0_mayLeave 11 = .ok (.iconst 3, 1) := dk_6 (dk_at dksX0_mayLeave_0 11 rfl rfl)
theorem dX0_mayLeave_12 : decode cX0_mayLeave 12 = .ok (.iload_n 3, 1) := dk_29 (dk_at dksX0_mayLeave_0 12 rfl rfl)
theorem dX0_mayLeave_13 : decode cX0_mayLeave 13 = .ok (.iastore, 1) := dk_79 (dk_at dksX0_mayLeave_0 13 rfl rfl)
theorem dX0_mayLeave_14 : decode cX0_mayLeave 14 = .ok (.aload_n 0, 1) := dk_42 (dk_at dksX0_mayLeave_0 14 rfl rfl)
theorem dX0_mayLeave_15 : decode cX0_mayLeave 15 = .ok (.getfield 58, 3) := dk_180 0 58 (dk_at dksX0_mayLeave_0 15 rfl rfl)
theorem dX0_mayLeave_18 : decode cX0_mayLeave 18 = .ok (.iload_n 1, 1) := dk_27 (dk_at dksX0_mayLeave_0 18 rfl rfl)
theorem dX0_mayLeave_19 : decode cX0_mayLeave 19 = .ok (.aaload, 1) := dk_50 (dk_at dksX0_mayLeave_0 19 rfl rfl)
theorem dX0_mayLeave_20 : decode cX0_mayLeave 20 = .ok (.iconst 1, 1) := dk_4 (dk_at dksX0_mayLeave_0 20 rfl rfl)
theorem dX0_mayLeave_21 : decode cX0_mayLeave 21 = .ok (.iconst 0, 1) := dk_3 (dk_at dksX0_mayLeave_0 21 rfl rfl)
theorem dX0_mayLeave_22 : decode cX0_mayLeave 22 = .ok (.aload_n 0, 1) := dk_42 (dk_at dksX0_mayLeave_0 22 rfl rfl)
theorem dX0_mayLeave_23 : decode cX0_mayLeave 23 = .ok (.getfield 74, 3) := dk_180 0 74 (dk_at dksX0_mayLeave_1 0 rfl rfl)
theorem dX0_mayLeave_26 : decode cX0_mayLeave 26 = .ok (.invokevirtual 243, 3) := dk_182 0 243 (dk_at dksX0_mayLeave_1 3 rfl rfl)
theorem dX0_mayLeave_29 : decode cX0_mayLeave 29 = .ok (.ireturn, 1) := dk_172 (dk_at dksX0_mayLeave_1 6 rfl rfl)
abbrev cX0_may : ByteArray := prog_1_method_2_code
def dkwX0_may_2 : List UInt8 := [16, 7, 172, 16, 12, 172, 16, 112, 172, 17, 7, 132, 172]
abbrev dktX0_may_2 : List UInt8 := dkwX0_may_2 ++ []
def dkwX0_may_1 : List UInt8 := [170, 0, 0, 0, 0, 0, 36, 0, 0, 0, 0, 0, 0, 0, 2, 0, 0, 0, 27, 0, 0, 0, 30, 0, 0, 0, 33]
abbrev dktX0_may_1 : List UInt8 := dkwX0_may_1 ++ dktX0_may_2
def dkwX0_may_0 : List UInt8 := [26]
abbrev dktX0_may_0 : List UInt8 := dkwX0_may_0 ++ dktX0_may_1
theorem dksX0_may_0 : cX0_may.data.toList.drop 0 = dktX0_may_0 := by decide +kernel
theorem dksX0_may_1 : cX0_may.data.toList.drop 1 = dktX0_may_1 := dk_seg dksX0_may_0 1 rfl rfl
theorem dksX0_may_2 : cX0_may.data.toList.drop 28 = dktX0_may_2 := dk_seg dksX0_may_1 27 rfl rfl
theorem dX0_may_0 : decode cX0_may 0 = .ok (.iload_n 0, 1) := dk_26 (dk_at dksX0_may_0 0 rfl rfl)
theorem dX0_may_1 : decode cX0_may 1 = .ok (.tableswitch 36 0 2 #[27, 30, 33], 27) := by decide +kernel
theorem dX0_may_28 : decode cX0_may 28 = .ok (.bipush 7, 2) := dk_16 7 (dk_at dksX0_may_2 0 rfl rfl)
theorem dX0_may_30 : decode cX0_may 30 = .ok (.ireturn, 1) := dk_172 (dk_at dksX0_may_2 2 rfl rfl)
theorem dX0_may_31 : decode cX0_may 31 = .ok (.bipush 12, 2) := dk_16 12 (dk_at dksX0_may_2 3 rfl rfl)
theorem dX0_may_33 : decode cX0_may 33 = .ok (.ireturn, 1) := dk_172 (dk_at dksX0_may_2 5 rfl rfl)
theorem dX0_may_34 : decode cX0_may 34 = .ok (.bipush 112, 2) := dk_16 112 (dk_at dksX0_may_2 6 rfl rfl)
theorem dX0_may_36 : decode cX0_may 36 = .ok (.ireturn, 1) := dk_172 (dk_at dksX0_may_2 8 rfl rfl)
theorem dX0_may_37 : decode cX0_may 37 = .ok (.sipush 1924, 3) := dk_17 7 132 (dk_at dksX0_may_2 9 rfl rfl)
theorem dX0_may_40 : decode cX0_may 40 = .ok (.ireturn, 1) := dk_172 (dk_at dksX0_may_2 12 rfl rfl)
abbrev cX0_mend : ByteArray := prog_1_method_19_code
def dkwX0_mend_2 : List UInt8 := [167, 0, 4, 2, 172]
abbrev dktX0_mend_2 : List UInt8 := dkwX0_mend_2 ++ []
def dkwX0_mend_1 : List UInt8 := [167, 0, 28, 27, 4, 160, 0, 10, 42, 180, 0, 237, 167, 0, 16, 27, 5, 160, 0, 10, 42, 180, 0, 234]
abbrev dktX0_mend_1 : List UInt8 := dkwX0_mend_1 ++ dktX0_mend_2
def dkwX0_mend_0 : List UInt8 := [42, 182, 0, 240, 42, 180, 0, 227, 156, 0, 7, 2, 167, 0, 39, 27, 154, 0, 10, 42, 180, 0, 227]
abbrev dktX0_mend_0 : List UInt8 := dkwX0_mend_0 ++ dktX0_mend_1
theorem dksX0_mend_0 : cX0_mend.data.toList.drop 0 = dktX0_mend_0 := by decide +kernel
theorem dksX0_mend_1 : cX0_mend.data.toList.drop 23 = dktX0_mend_1 := dk_seg dksX0_mend_0 23 rfl rfl
theorem dksX0_mend_2 : cX0_mend.data.toList.drop 47 = dktX0_mend_2 := dk_seg dksX0_mend_1 24 rfl rfl
theorem dX0_mend_0 : decode cX0_mend 0 = .ok (.aload_n 0, 1) := dk_42 (dk_at dksX0_mend_0 0 rfl rfl)
theorem dX0_mend_1 : decode cX0_mend 1 = .ok (.invokevirtual 240, 3) := dk_182 0 240 (dk_at dksX0_mend_0 1 rfl rfl)
theorem dX0_mend_4 : decode cX0_mend 4 = .ok (.aload_n 0, 1) := dk_42 (dk_at dksX0_mend_0 4 rfl rfl)
theorem dX0_mend_5 : decode cX0_mend 5 = .ok (.getfield 227, 3) := dk_180 0 227 (dk_at dksX0_mend_0 5 rfl rfl)
theorem dX0_mend_8 : decode cX0_mend 8 = .ok (.ifCond .ge 7, 3) := dk_156 0 7 (dk_at dksX0_mend_0 8 rfl rfl)
theorem dX0_mend_11 : decode cX0_mend 11 = .ok (.iconst (-1), 1) := dk_2 (dk_at dksX0_mend_0 11 rfl rfl)
theorem dX0_mend_12 : decode cX0_mend 12 = .ok (.goto 39, 3) := dk_167 0 39 (dk_at dksX0_mend_0 12 rfl rfl)
theorem dX0_mend_15 : decode cX0_mend 15 = .ok (.iload_n 1, 1) := dk_27 (dk_at dksX0_mend_0 15 rfl rfl)
theorem dX0_mend_16 : decode cX0_mend 16 = .ok (.ifCond .ne 10, 3) := dk_154 0 10 (dk_at dksX0_mend_0 16 rfl rfl)
theorem dX0_mend_19 : decode cX0_mend 19 = .ok (.aload_n 0, 1) := dk_42 (dk_at dksX0_mend_0 19 rfl rfl)
theorem dX0_mend_20 : decode cX0_mend 20 = .ok (.getfield 227, 3) := dk_180 0 227 (dk_at dksX0_mend_0 20 rfl rfl)
theorem dX0_mend_23 : decode cX0_mend 23 = .ok (.goto 28, 3) := dk_167 0 28 (dk_at dksX0_mend_1 0 rfl rfl)
theorem dX0_mend_26 : decode cX0_mend 26 = .ok (.iload_n 1, 1) := dk_27 (dk_at dksX0_mend_1 3 rfl rfl)
theorem dX0_mend_27 : decode cX0_mend 27 = .ok (.iconst 1, 1) := dk_4 (dk_at dksX0_mend_1 4 rfl rfl)
theorem dX0_mend_28 : decode cX0_mend 28 = .ok (.if_icmp .ne 10, 3) := dk_160 0 10 (dk_at dksX0_mend_1 5 rfl rfl)
theorem dX0_mend_31 : decode cX0_mend 31 = .ok (.aload_n 0, 1) := dk_42 (dk_at dksX0_mend_1 8 rfl rfl)
theorem dX0_mend_32 : decode cX0_mend 32 = .ok (.getfield 237, 3) := dk_180 0 237 (dk_at dksX0_mend_1 9 rfl rfl)
theorem dX0_mend_35 : decode cX0_mend 35 = .ok (.goto 16, 3) := dk_167 0 16 (dk_at dksX0_mend_1 12 rfl rfl)
theorem dX0_mend_38 : decode cX0_mend 38 = .ok (.iload_n 1, 1) := dk_27 (dk_at dksX0_mend_1 15 rfl rfl)
theorem dX0_mend_39 : decode cX0_mend 39 = .ok (.iconst 2, 1) := dk_5 (dk_at dksX0_mend_1 16 rfl rfl)
theorem dX0_mend_40 : decode cX0_mend 40 = .ok (.if_icmp .ne 10, 3) := dk_160 0 10 (dk_at dksX0_mend_1 17 rfl rfl)
theorem dX0_mend_43 : decode cX0_mend 43 = .ok (.aload_n 0, 1) := dk_42 (dk_at dksX0_mend_1 20 rfl rfl)
theorem dX0_mend_44 : decode cX0_mend 44 = .ok (.getfield 234, 3) := dk_180 0 234 (dk_at dksX0_mend_1 21 rfl rfl)
theorem dX0_mend_47 : decode cX0_mend 47 = .ok (.goto 4, 3) := dk_167 0 4 (dk_at dksX0_mend_2 0 rfl rfl)
theorem dX0_mend_50 : decode cX0_mend 50 = .ok (.iconst (-1), 1) := dk_2 (dk_at dksX0_mend_2 3 rfl rfl)
theorem dX0_mend_51 : decode cX0_mend 51 = .ok (.ireturn, 1) := dk_172 (dk_at dksX0_mend_2 4 rfl rfl)
abbrev cX0_mm : ByteArray := prog_1_method_14_code
def dkwX0_mm_1 : List UInt8 := [28, 182, 0, 197, 172]
abbrev dktX0_mm_1 : List UInt8 := dkwX0_mm_1 ++ []
def dkwX0_mm_0 : List UInt8 := [42, 27, 182, 0, 190, 198, 0, 10, 28, 184, 0, 194, 154, 0, 7, 2, 167, 0, 12, 42, 27, 182, 0, 190]
abbrev dktX0_mm_0 : List UInt8 := dkwX0_mm_0 ++ dktX0_mm_1
theorem dksX0_mm_0 : cX0_mm.data.toList.drop 0 = dktX0_mm_0 := by decide +kernel
theorem dksX0_mm_1 : cX0_mm.data.toList.drop 24 = dktX0_mm_1 := dk_seg dksX0_mm_0 24 rfl rfl
theorem dX0_mm_0 : decode cX0_mm 0 = .ok (.aload_n 0, 1) := dk_42 (dk_at dksX0_mm_0 0 rfl rfl)
theorem dX0_mm_1 : decode cX0_mm 1 = .ok (.iload_n 1, 1) := dk_27 (dk_at dksX0_mm_0 1 rfl rfl)
theorem dX0_mm_2 : decode cX0_mm 2 = .ok (.invokevirtual 190, 3) := dk_182 0 190 (dk_at dksX0_mm_0 2 rfl rfl)
theorem dX0_mm_5 : decode cX0_mm 5 = .ok (.ifnull 10, 3) := dk_198 0 10 (dk_at dksX0_mm_0 5 rfl rfl)
theorem dX0_mm_8 : decode cX0_mm 8 = .ok (.iload_n 2, 1) := dk_28 (dk_at dksX0_mm_0 8 rfl rfl)
theorem dX0_mm_9 : decode cX0_mm 9 = .ok (.invokestatic 194, 3) := dk_184 0 194 (dk_at dksX0_mm_0 9 rfl rfl)
theorem dX0_mm_12 : decode cX0_mm 12 = .ok (.ifCond .ne 7, 3) := dk_154 0 7 (dk_at dksX0_mm_0 12 rfl rfl)
theorem dX0_mm_15 : decode cX0_mm 15 = .ok (.iconst (-1), 1) := dk_2 (dk_at dksX0_mm_0 15 rfl rfl)
theorem dX0_mm_16 : decode cX0_mm 16 = .ok (.goto 12, 3) := dk_167 0 12 (dk_at dksX0_mm_0 16 rfl rfl)
theorem dX0_mm_19 : decode cX0_mm 19 = .ok (.aload_n 0, 1) := dk_42 (dk_at dksX0_mm_0 19 rfl rfl)
theorem dX0_mm_20 : decode cX0_mm 20 = .ok (.iload_n 1, 1) := dk_27 (dk_at dksX0_mm_0 20 rfl rfl)
theorem dX0_mm_21 : decode cX0_mm 21 = .ok (.invokevirtual 190, 3) := dk_182 0 190 (dk_at dksX0_mm_0 21 rfl rfl)
theorem dX0_mm_24 : decode cX0_mm 24 = .ok (.iload_n 2, 1) := dk_28 (dk_at dksX0_mm_1 0 rfl rfl)
theorem dX0_mm_25 : decode cX0_mm 25 = .ok (.invokevirtual 197, 3) := dk_182 0 197 (dk_at dksX0_mm_1 1 rfl rfl)
theorem dX0_mm_28 : decode cX0_mm 28 = .ok (.ireturn, 1) := dk_172 (dk_at dksX0_mm_1 4 rfl rfl)
abbrev cX0_move : ByteArray := prog_1_method_47_code
def dkwX0_move_4 : List UInt8 := [21, 7, 172, 42, 21, 6, 21, 5, 21, 7, 182, 1, 78, 54, 5, 132, 6, 1, 167, 255, 181]
abbrev dktX0_move_4 : List UInt8 := dkwX0_move_4 ++ []
def dkwX0_move_3 : List UInt8 := [16, 35, 160, 0, 8, 16, 65, 167, 0, 4, 4, 96, 54, 7, 167, 255, 212, 21, 6, 21, 4, 160, 0, 6]
abbrev dktX0_move_3 : List UInt8 := dkwX0_move_3 ++ dktX0_move_4
def dkwX0_move_2 : List UInt8 := [182, 1, 80, 42, 180, 0, 89, 21, 6, 50, 21, 5, 46, 159, 0, 27, 21, 7, 21, 7, 16, 100, 112]
abbrev dktX0_move_2 : List UInt8 := dkwX0_move_2 ++ dktX0_move_3
def dkwX0_move_1 : List UInt8 := [2, 172, 27, 28, 29, 184, 1, 74, 54, 5, 3, 54, 6, 3, 54, 7, 42, 21, 6, 21, 5, 21, 7]
abbrev dktX0_move_1 : List UInt8 := dkwX0_move_1 ++ dktX0_move_2
def dkwX0_move_0 : List UInt8 := [42, 27, 28, 29, 182, 1, 89, 155, 0, 17, 21, 4, 155, 0, 12, 21, 4, 42, 180, 0, 151, 161, 0, 5]
abbrev dktX0_move_0 : List UInt8 := dkwX0_move_0 ++ dktX0_move_1
theorem dksX0_move_0 : cX0_move.data.toList.drop 0 = dktX0_move_0 := by decide +kernel
theorem dksX0_move_1 : cX0_move.data.toList.drop 24 = dktX0_move_1 := dk_seg dksX0_move_0 24 rfl rfl
theorem dksX0_move_2 : cX0_move.data.toList.drop 47 = dktX0_move_2 := dk_seg dksX0_move_1 23 rfl rfl
theorem dksX0_move_3 : cX0_move.data.toList.drop 70 = dktX0_move_3 := dk_seg dksX0_move_2 23 rfl rfl
theorem dksX0_move_4 : cX0_move.data.toList.drop 94 = dktX0_move_4 := dk_seg dksX0_move_3 24 rfl rfl
theorem dX0_move_0 : decode cX0_move 0 = .ok (.aload_n 0, 1) := dk_42 (dk_at dksX0_move_0 0 rfl rfl)
theorem dX0_move_1 : decode cX0_move 1 = .ok (.iload_n 1, 1) := dk_27 (dk_at dksX0_move_0 1 rfl rfl)
theorem dX0_move_2 : decode cX0_move 2 = .ok (.iload_n 2, 1) := dk_28 (dk_at dksX0_move_0 2 rfl rfl)
theorem dX0_move_3 : decode cX0_move 3 = .ok (.iload_n 3, 1) := dk_29 (dk_at dksX0_move_0 3 rfl rfl)
theorem dX0_move_4 : decode cX0_move 4 = .ok (.invokevirtual 345, 3) := dk_182 1 89 (dk_at dksX0_move_0 4 rfl rfl)
theorem dX0_move_7 : decode cX0_move 7 = .ok (.ifCond .lt 17, 3) := dk_155 0 17 (dk_at dksX0_move_0 7 rfl rfl)
theorem dX0_move_10 : decode cX0_move 10 = .ok (.iload 4, 2) := dk_21 4 (dk_at dksX0_move_0 10 rfl rfl)
theorem dX0_move_12 : decode cX0_move 12 = .ok (.ifCond .lt 12, 3) := dk_155 0 12 (dk_at dksX0_move_0 12 rfl rfl)
theorem dX0_move_15 : decode cX0_move 15 = .ok (.iload 4, 2) := dk_21 4 (dk_at dksX0_move_0 15 rfl rfl)
theorem dX0_move_17 : decode cX0_move 17 = .ok (.aload_n 0, 1) := dk_42 (dk_at dksX0_move_0 17 rfl rfl)
theorem dX0_move_18 : decode cX0_move 18 = .ok (.getfield 151, 3) := dk_180 0 151 (dk_at dksX0_move_0 18 rfl rfl)
theorem dX0_move_21 : decode cX0_move 21 = .ok (.if_icmp .lt 5, 3) := dk_161 0 5 (dk_at dksX0_move_0 21 rfl rfl)
theorem dX0_move_24 : decode cX0_move 24 = .ok (.iconst (-1), 1) := dk_2 (dk_at dksX0_move_1 0 rfl rfl)
theorem dX0_move_25 : decode cX0_move 25 = .ok (.ireturn, 1) := dk_172 (dk_at dksX0_move_1 1 rfl rfl)
theorem dX0_move_26 : decode cX0_move 26 = .ok (.iload_n 1, 1) := dk_27 (dk_at dksX0_move_1 2 rfl rfl)
theorem dX0_move_27 : decode cX0_move 27 = .ok (.iload_n 2, 1) := dk_28 (dk_at dksX0_move_1 3 rfl rfl)
theorem dX0_move_28 : decode cX0_move 28 = .ok (.iload_n 3, 1) := dk_29 (dk_at dksX0_move_1 4 rfl rfl)
theorem dX0_move_29 : decode cX0_move 29 = .ok (.invokestatic 330, 3) := dk_184 1 74 (dk_at dksX0_move_1 5 rfl rfl)
theorem dX0_move_32 : decode cX0_move 32 = .ok (.istore 5, 2) := dk_54 5 (dk_at dksX0_move_1 8 rfl rfl)
theorem dX0_move_34 : decode cX0_move 34 = .ok (.iconst 0, 1) := dk_3 (dk_at dksX0_move_1 10 rfl rfl)
theorem dX0_move_35 : decode cX0_move 35 = .ok (.istore 6, 2) := dk_54 6 (dk_at dksX0_move_1 11 rfl rfl)
theorem dX0_move_37 : decode cX0_move 37 = .ok (.iconst 0, 1) := dk_3 (dk_at dksX0_move_1 13 rfl rfl)
theorem dX0_move_38 : decode cX0_move 38 = .ok (.istore 7, 2) := dk_54 7 (dk_at dksX0_move_1 14 rfl rfl)
theorem dX0_move_40 : decode cX0_move 40 = .ok (.aload_n 0, 1) := dk_42 (dk_at dksX0_move_1 16 rfl rfl)
theorem dX0_move_41 : decode cX0_move 41 = .ok (.iload 6, 2) := dk_21 6 (dk_at dksX0_move_1 17 rfl rfl)
theorem dX0_move_43 : decode cX0_move 43 = .ok (.iload 5, 2) := dk_21 5 (dk_at dksX0_move_1 19 rfl rfl)
theorem dX0_move_45 : decode cX0_move 45 = .ok (.iload 7, 2) := dk_21 7 (dk_at dksX0_move_1 21 rfl rfl)
theorem dX0_move_47 : decode cX0_move 47 = .ok (.invokevirtual 336, 3) := dk_182 1 80 (dk_at dksX0_move_2 0 rfl rfl)
theorem dX0_move_50 : decode cX0_move 50 = .ok (.aload_n 0, 1) := dk_42 (dk_at dksX0_move_2 3 rfl rfl)
theorem dX0_move_51 : decode cX0_move 51 = .ok (.getfield 89, 3) := dk_180 0 89 (dk_at dksX0_move_2 4 rfl rfl)
theorem dX0_move_54 : decode cX0_move 54 = .ok (.iload 6, 2) := dk_21 6 (dk_at dksX0_move_2 7 rfl rfl)
theorem dX0_move_56 : decode cX0_move 56 = .ok (.aaload, 1) := dk_50 (dk_at dksX0_move_2 9 rfl rfl)
theorem dX0_move_57 : decode cX0_move 57 = .ok (.iload 5, 2) := dk_21 5 (dk_at dksX0_move_2 10 rfl rfl)
theorem dX0_move_59 : decode cX0_move 59 = .ok (.iaload, 1) := dk_46 (dk_at dksX0_move_2 12 rfl rfl)
theorem dX0_move_60 : decode cX0_move 60 = .ok (.if_icmp .eq 27, 3) := dk_159 0 27 (dk_at dksX0_move_2 13 rfl rfl)
theorem dX0_move_63 : decode cX0_move 63 = .ok (.iload 7, 2) := dk_21 7 (dk_at dksX0_move_2 16 rfl rfl)
theorem dX0_move_65 : decode cX0_move 65 = .ok (.iload 7, 2) := dk_21 7 (dk_at dksX0_move_2 18 rfl rfl)
theorem dX0_move_67 : decode cX0_move 67 = .ok (.bipush 100, 2) := dk_16 100 (dk_at dksX0_move_2 20 rfl rfl)
theorem dX0_move_69 : decode cX0_move 69 = .ok (.irem, 1) := dk_112 (dk_at dksX0_move_2 22 rfl rfl)
theorem dX0_move_70 : decode cX0_move 70 = .ok (.bipush 35, 2) := dk_16 35 (dk_at dksX0_move_3 0 rfl rfl)
theorem dX0_move_72 : decode cX0_move 72 = .ok (.if_icmp .ne 8, 3) := dk_160 0 8 (dk_at dksX0_move_3 2 rfl rfl)
theorem dX0_move_75 : decode cX0_move 75 = .ok (.bipush 65, 2) := dk_16 65 (dk_at dksX0_move_3 5 rfl rfl)
theorem dX0_move_77 : decode cX0_move 77 = .ok (.goto 4, 3) := dk_167 0 4 (dk_at dksX0_move_3 7 rfl rfl)
theorem dX0_move_80 : decode cX0_move 80 = .ok (.iconst 1, 1) := dk_4 (dk_at dksX0_move_3 10 rfl rfl)
theorem dX0_move_81 : decode cX0_move 81 = .ok (.iadd, 1) := dk_96 (dk_at dksX0_move_3 11 rfl rfl)
theorem dX0_move_82 : decode cX0_move 82 = .ok (.istore 7, 2) := dk_54 7 (dk_at dksX0_move_3 12 rfl rfl)
theorem dX0_move_84 : decode cX0_move 84 = .ok (.goto (-44), 3) := dk_167 255 212 (dk_at dksX0_move_3 14 rfl rfl)
theorem dX0_move_87 : decode cX0_move 87 = .ok (.iload 6, 2) := dk_21 6 (dk_at dksX0_move_3 17 rfl rfl)
theorem dX0_move_89 : decode cX0_move 89 = .ok (.iload 4, 2) := dk_21 4 (dk_at dksX0_move_3 19 rfl rfl)
theorem dX0_move_91 : decode cX0_move 91 = .ok (.if_icmp .ne 6, 3) := dk_160 0 6 (dk_at dksX0_move_3 21 rfl rfl)
theorem dX0_move_94 : decode cX0_move 94 = .ok (.iload 7, 2) := dk_21 7 (dk_at dksX0_move_4 0 rfl rfl)
theorem dX0_move_96 : decode cX0_move 96 = .ok (.ireturn, 1) := dk_172 (dk_at dksX0_move_4 2 rfl rfl)
theorem dX0_move_97 : decode cX0_move 97 = .ok (.aload_n 0, 1) := dk_42 (dk_at dksX0_move_4 3 rfl rfl)
theorem dX0_move_98 : decode cX0_move 98 = .ok (.iload 6, 2) := dk_21 6 (dk_at dksX0_move_4 4 rfl rfl)
theorem dX0_move_100 : decode cX0_move 100 = .ok (.iload 5, 2) := dk_21 5 (dk_at dksX0_move_4 6 rfl rfl)
theorem dX0_move_102 : decode cX0_move 102 = .ok (.iload 7, 2) := dk_21 7 (dk_at dksX0_move_4 8 rfl rfl)
theorem dX0_move_104 : decode cX0_move 104 = .ok (.invokevirtual 334, 3) := dk_182 1 78 (dk_at dksX0_move_4 10 rfl rfl)
theorem dX0_move_107 : decode cX0_move 107 = .ok (.istore 5, 2) := dk_54 5 (dk_at dksX0_move_4 13 rfl rfl)
theorem dX0_move_109 : decode cX0_move 109 = .ok (.iinc 6 1, 3) := dk_132 6 1 (dk_at dksX0_move_4 15 rfl rfl)
theorem dX0_move_112 : decode cX0_move 112 = .ok (.goto (-75), 3) := dk_167 255 181 (dk_at dksX0_move_4 18 rfl rfl)
abbrev cX0_moves : ByteArray := prog_1_method_31_code
def dkwX0_moves_1 : List UInt8 := [160, 0, 7, 2, 167, 0, 9, 42, 180, 0, 84, 27, 46, 172]
abbrev dktX0_moves_1 : List UInt8 := dkwX0_moves_1 ++ []
def dkwX0_moves_0 : List UInt8 := [42, 27, 182, 0, 190, 199, 0, 5, 2, 172, 42, 28, 182, 1, 48, 42, 180, 0, 84, 27, 46, 19, 1, 29]
abbrev dktX0_moves_0 : List UInt8 := dkwX0_moves_0 ++ dktX0_moves_1
theorem dksX0_moves_0 : cX0_moves.data.toList.drop 0 = dktX0_moves_0 := by decide +kernel
theorem dksX0_moves_1 : cX0_moves.data.toList.drop 24 = dktX0_moves_1 := dk_seg dksX0_moves_0 24 rfl rfl
theorem dX0_moves_0 : decode cX0_moves 0 = .ok (.aload_n 0, 1) := dk_42 (dk_at dksX0_moves_0 0 rfl rfl)
theorem dX0_moves_1 : decode cX0_moves 1 = .ok (.iload_n 1, 1) := dk_27 (dk_at dksX0_moves_0 1 rfl rfl)
theorem dX0_moves_2 : decode cX0_moves 2 = .ok (.invokevirtual 190, 3) := dk_182 0 190 (dk_at dksX0_moves_0 2 rfl rfl)
theorem dX0_moves_5 : decode cX0_moves 5 = .ok (.ifnonnull 5, 3) := dk_199 0 5 (dk_at dksX0_moves_0 5 rfl rfl)
theorem dX0_moves_8 : decode cX0_moves 8 = .ok (.iconst (-1), 1) := dk_2 (dk_at dksX0_moves_0 8 rfl rfl)
theorem dX0_moves_9 : decode cX0_moves 9 = .ok (.ireturn, 1) := dk_172 (dk_at dksX0_moves_0 9 rfl rfl)
theorem dX0_moves_10 : decode cX0_moves 10 = .ok (.aload_n 0, 1) := dk_42 (dk_at dksX0_moves_0 10 rfl rfl)
theorem dX0_moves_11 : decode cX0_moves 11 = .ok (.iload_n 2, 1) := dk_28 (dk_at dksX0_moves_0 11 rfl rfl)
theorem dX0_moves_12 : decode cX0_moves 12 = .ok (.invokevirtual 304, 3) := dk_182 1 48 (dk_at dksX0_moves_0 12 rfl rfl)
theorem dX0_moves_15 : decode cX0_moves 15 = .ok (.aload_n 0, 1) := dk_42 (dk_at dksX0_moves_0 15 rfl rfl)
theorem dX0_moves_16 : decode cX0_moves 16 = .ok (.getfield 84, 3) := dk_180 0 84 (dk_at dksX0_moves_0 16 rfl rfl)
theorem dX0_moves_19 : decode cX0_moves 19 = .ok (.iload_n 1, 1) := dk_27 (dk_at dksX0_moves_0 19 rfl rfl)
theorem dX0_moves_20 : decode cX0_moves 20 = .ok (.iaload, 1) := dk_46 (dk_at dksX0_moves_0 20 rfl rfl)
theorem dX0_moves_21 : decode cX0_moves 21 = .ok (.ldc_w 285, 3) := dk_19 1 29 (dk_at dksX0_moves_0 21 rfl rfl)
theorem dX0_moves_24 : decode cX0_moves 24 = .ok (.if_icmp .ne 7, 3) := dk_160 0 7 (dk_at dksX0_moves_1 0 rfl rfl)
theorem dX0_moves_27 : decode cX0_moves 27 = .ok (.iconst (-1), 1) := dk_2 (dk_at dksX0_moves_1 3 rfl rfl)
theorem dX0_moves_28 : decode cX0_moves 28 = .ok (.goto 9, 3) := dk_167 0 9 (dk_at dksX0_moves_1 4 rfl rfl)
theorem dX0_moves_31 : decode cX0_moves 31 = .ok (.aload_n 0, 1) := dk_42 (dk_at dksX0_moves_1 7 rfl rfl)
theorem dX0_moves_32 : decode cX0_moves 32 = .ok (.getfield 84, 3) := dk_180 0 84 (dk_at dksX0_moves_1 8 rfl rfl)
theorem dX0_moves_35 : decode cX0_moves 35 = .ok (.iload_n 1, 1) := dk_27 (dk_at dksX0_moves_1 11 rfl rfl)
theorem dX0_moves_36 : decode cX0_moves 36 = .ok (.iaload, 1) := dk_46 (dk_at dksX0_moves_1 12 rfl rfl)
theorem dX0_moves_37 : decode cX0_moves 37 = .ok (.ireturn, 1) := dk_172 (dk_at dksX0_moves_1 13 rfl rfl)
abbrev cX0_overOf : ByteArray := prog_1_method_35_code
def dkwX0_overOf_6 : List UInt8 := [172]
abbrev dktX0_overOf_6 : List UInt8 := dkwX0_overOf_6 ++ []
def dkwX0_overOf_5 : List UInt8 := [16, 99, 167, 0, 22, 16, 99, 42, 3, 27, 182, 1, 54, 16, 10, 104, 45, 180, 1, 65, 108, 184, 1, 38]
abbrev dktX0_overOf_5 : List UInt8 := dkwX0_overOf_5 ++ dktX0_overOf_6
def dkwX0_overOf_4 : List UInt8 := [161, 0, 6, 25, 5, 78, 132, 4, 1, 167, 255, 166, 45, 198, 0, 10, 45, 180, 1, 65, 154, 0, 8]
abbrev dktX0_overOf_4 : List UInt8 := dkwX0_overOf_4 ++ dktX0_overOf_5
def dkwX0_overOf_3 : List UInt8 := [25, 5, 180, 1, 64, 27, 163, 0, 22, 45, 198, 0, 15, 25, 5, 180, 1, 64, 45, 180, 1, 64]
abbrev dktX0_overOf_3 : List UInt8 := dkwX0_overOf_3 ++ dktX0_overOf_4
def dkwX0_overOf_2 : List UInt8 := [192, 1, 17, 167, 0, 4, 1, 58, 5, 25, 5, 198, 0, 40, 25, 5, 28, 182, 1, 63, 153, 0, 31]
abbrev dktX0_overOf_2 : List UInt8 := dkwX0_overOf_2 ++ dktX0_overOf_3
def dkwX0_overOf_1 : List UInt8 := [180, 0, 67, 21, 4, 182, 0, 184, 193, 1, 17, 153, 0, 18, 42, 180, 0, 67, 21, 4, 182, 0, 184]
abbrev dktX0_overOf_1 : List UInt8 := dkwX0_overOf_1 ++ dktX0_overOf_2
def dkwX0_overOf_0 : List UInt8 := [42, 28, 182, 1, 48, 1, 78, 3, 54, 4, 21, 4, 42, 180, 0, 67, 182, 0, 181, 162, 0, 84, 42]
abbrev dktX0_overOf_0 : List UInt8 := dkwX0_overOf_0 ++ dktX0_overOf_1
theorem dksX0_overOf_0 : cX0_overOf.data.toList.drop 0 = dktX0_overOf_0 := by decide +kernel
theorem dksX0_overOf_1 : cX0_overOf.data.toList.drop 23 = dktX0_overOf_1 := dk_seg dksX0_overOf_0 23 rfl rfl
theorem dksX0_overOf_2 : cX0_overOf.data.toList.drop 46 = dktX0_overOf_2 := dk_seg dksX0_overOf_1 23 rfl rfl
theorem dksX0_overOf_3 : cX0_overOf.data.toList.drop 69 = dktX0_overOf_3 := dk_seg dksX0_overOf_2 23 rfl rfl
theorem dksX0_overOf_4 : cX0_overOf.data.toList.drop 91 = dktX0_overOf_4 := dk_seg dksX0_overOf_3 22 rfl rfl
theorem dksX0_overOf_5 : cX0_overOf.data.toList.drop 114 = dktX0_overOf_5 := dk_seg dksX0_overOf_4 23 rfl rfl
theorem dksX0_overOf_6 : cX0_overOf.data.toList.drop 138 = dktX0_overOf_6 := dk_seg dksX0_overOf_5 24 rfl rfl
theorem dX0_overOf_0 : decode cX0_overOf 0 = .ok (.aload_n 0, 1) := dk_42 (dk_at dksX0_overOf_0 0 rfl rfl)
theorem dX0_overOf_1 : decode cX0_overOf 1 = .ok (.iload_n 2, 1) := dk_28 (dk_at dksX0_overOf_0 1 rfl rfl)
theorem dX0_overOf_2 : decode cX0_overOf 2 = .ok (.invokevirtual 304, 3) := dk_182 1 48 (dk_at dksX0_overOf_0 2 rfl rfl)
theorem dX0_overOf_5 : decode cX0_overOf 5 = .ok (.aconst_null, 1) := dk_1 (dk_at dksX0_overOf_0 5 rfl rfl)
theorem dX0_overOf_6 : decode cX0_overOf 6 = .ok (.astore_n 3, 1) := dk_78 (dk_at dksX0_overOf_0 6 rfl rfl)
theorem dX0_overOf_7 : decode cX0_overOf 7 = .ok (.iconst 0, 1) := dk_3 (dk_at dksX0_overOf_0 7 rfl rfl)
theorem dX0_overOf_8 : decode cX0_overOf 8 = .ok (.istore 4, 2) := dk_54 4 (dk_at dksX0_overOf_0 8 rfl rfl)
theorem dX0_overOf_10 : decode cX0_overOf 10 = .ok (.iload 4, 2) := dk_21 4 (dk_at dksX0_overOf_0 10 rfl rfl)
theorem dX0_overOf_12 : decode cX0_overOf 12 = .ok (.aload_n 0, 1) := dk_42 (dk_at dksX0_overOf_0 12 rfl rfl)
theorem dX0_overOf_13 : decode cX0_overOf 13 = .ok (.getfield 67, 3) := dk_180 0 67 (dk_at dksX0_overOf_0 13 rfl rfl)
theorem dX0_overOf_16 : decode cX0_overOf 16 = .ok (.invokevirtual 181, 3) := dk_182 0 181 (dk_at dksX0_overOf_0 16 rfl rfl)
theorem dX0_overOf_19 : decode cX0_overOf 19 = .ok (.if_icmp .ge 84, 3) := dk_162 0 84 (dk_at dksX0_overOf_0 19 rfl rfl)
theorem dX0_overOf_22 : decode cX0_overOf 22 = .ok (.aload_n 0, 1) := dk_42 (dk_at dksX0_overOf_0 22 rfl rfl)
theorem dX0_overOf_23 : decode cX0_overOf 23 = .ok (.getfield 67, 3) := dk_180 0 67 (dk_at dksX0_overOf_1 0 rfl rfl)
theorem dX0_overOf_26 : decode cX0_overOf 26 = .ok (.iload 4, 2) := dk_21 4 (dk_at dksX0_overOf_1 3 rfl rfl)
theorem dX0_overOf_28 : decode cX0_overOf 28 = .ok (.invokevirtual 184, 3) := dk_182 0 184 (dk_at dksX0_overOf_1 5 rfl rfl)
theorem dX0_overOf_31 : decode cX0_overOf 31 = .ok (.instanceof 273, 3) := dk_193 1 17 (dk_at dksX0_overOf_1 8 rfl rfl)
theorem dX0_overOf_34 : decode cX0_overOf 34 = .ok (.ifCond .eq 18, 3) := dk_153 0 18 (dk_at dksX0_overOf_1 11 rfl rfl)
theorem dX0_overOf_37 : decode cX0_overOf 37 = .ok (.aload_n 0, 1) := dk_42 (dk_at dksX0_overOf_1 14 rfl rfl)
theorem dX0_overOf_38 : decode cX0_overOf 38 = .ok (.getfield 67, 3) := dk_180 0 67 (dk_at dksX0_overOf_1 15 rfl rfl)
theorem dX0_overOf_41 : decode cX0_overOf 41 = .ok (.iload 4, 2) := dk_21 4 (dk_at dksX0_overOf_1 18 rfl rfl)
theorem dX0_overOf_43 : decode cX0_overOf 43 = .ok (.invokevirtual 184, 3) := dk_182 0 184 (dk_at dksX0_overOf_1 20 rfl rfl)
theorem dX0_overOf_46 : decode cX0_overOf 46 = .ok (.checkcast 273, 3) := dk_192 1 17 (dk_at dksX0_overOf_2 0 rfl rfl)
theorem dX0_overOf_49 : decode cX0_overOf 49 = .ok (.goto 4, 3) := dk_167 0 4 (dk_at dksX0_overOf_2 3 rfl rfl)
theorem dX0_overOf_52 : decode cX0_overOf 52 = .ok (.aconst_null, 1) := dk_1 (dk_at dksX0_overOf_2 6 rfl rfl)
theorem dX0_overOf_53 : decode cX0_overOf 53 = .ok (.astore 5, 2) := dk_58 5 (dk_at dksX0_overOf_2 7 rfl rfl)
theorem dX0_overOf_55 : decode cX0_overOf 55 = .ok (.aload 5, 2) := dk_25 5 (dk_at dksX0_overOf_2 9 rfl rfl)
theorem dX0_overOf_57 : decode cX0_overOf 57 = .ok (.ifnull 40, 3) := dk_198 0 40 (dk_at dksX0_overOf_2 11 rfl rfl)
theorem dX0_overOf_60 : decode cX0_overOf 60 = .ok (.aload 5, 2) := dk_25 5 (dk_at dksX0_overOf_2 14 rfl rfl)
theorem dX0_overOf_62 : decode cX0_overOf 62 = .ok (.iload_n 2, 1) := dk_28 (dk_at dksX0_overOf_2 16 rfl rfl)
theorem dX0_overOf_63 : decode cX0_overOf 63 = .ok (.invokevirtual 319, 3) := dk_182 1 63 (dk_at dksX0_overOf_2 17 rfl rfl)
theorem dX0_overOf_66 : decode cX0_overOf 66 = .ok (.ifCond .eq 31, 3) := dk_153 0 31 (dk_at dksX0_overOf_2 20 rfl rfl)
theorem dX0_overOf_69 : decode cX0_overOf 69 = .ok (.aload 5, 2) := dk_25 5 (dk_at dksX0_overOf_3 0 rfl rfl)
theorem dX0_overOf_71 : decode cX0_overOf 71 = .ok (.getfield 320, 3) := dk_180 1 64 (dk_at dksX0_overOf_3 2 rfl rfl)
theorem dX0_overOf_74 : decode cX0_overOf 74 = .ok (.iload_n 1, 1) := dk_27 (dk_at dksX0_overOf_3 5 rfl rfl)
theorem dX0_overOf_75 : decode cX0_overOf 75 = .ok (.if_icmp .gt 22, 3) := dk_163 0 22 (dk_at dksX0_overOf_3 6 rfl rfl)
theorem dX0_overOf_78 : decode cX0_overOf 78 = .ok (.aload_n 3, 1) := dk_45 (dk_at dksX0_overOf_3 9 rfl rfl)
theorem dX0_overOf_79 : decode cX0_overOf 79 = .ok (.ifnull 15, 3) := dk_198 0 15 (dk_at dksX0_overOf_3 10 rfl rfl)
theorem dX0_overOf_82 : decode cX0_overOf 82 = .ok (.aload 5, 2) := dk_25 5 (dk_at dksX0_overOf_3 13 rfl rfl)
theorem dX0_overOf_84 : decode cX0_overOf 84 = .ok (.getfield 320, 3) := dk_180 1 64 (dk_at dksX0_overOf_3 15 rfl rfl)
theorem dX0_overOf_87 : decode cX0_overOf 87 = .ok (.aload_n 3, 1) := dk_45 (dk_at dksX0_overOf_3 18 rfl rfl)
theorem dX0_overOf_88 : decode cX0_overOf 88 = .ok (.getfield 320, 3) := dk_180 1 64 (dk_at dksX0_overOf_3 19 rfl rfl)
theorem dX0_overOf_91 : decode cX0_overOf 91 = .ok (.if_icmp .lt 6, 3) := dk_161 0 6 (dk_at dksX0_overOf_4 0 rfl rfl)
theorem dX0_overOf_94 : decode cX0_overOf 94 = .ok (.aload 5, 2) := dk_25 5 (dk_at dksX0_overOf_4 3 rfl rfl)
theorem dX0_overOf_96 : decode cX0_overOf 96 = .ok (.astore_n 3, 1) := dk_78 (dk_at dksX0_overOf_4 5 rfl rfl)
theorem dX0_overOf_97 : decode cX0_overOf 97 = .ok (.iinc 4 1, 3) := dk_132 4 1 (dk_at dksX0_overOf_4 6 rfl rfl)
theorem dX0_overOf_100 : decode cX0_overOf 100 = .ok (.goto (-90), 3) := dk_167 255 166 (dk_at dksX0_overOf_4 9 rfl rfl)
theorem dX0_overOf_103 : decode cX0_overOf 103 = .ok (.aload_n 3, 1) := dk_45 (dk_at dksX0_overOf_4 12 rfl rfl)
theorem dX0_overOf_104 : decode cX0_overOf 104 = .ok (.ifnull 10, 3) := dk_198 0 10 (dk_at dksX0_overOf_4 13 rfl rfl)
theorem dX0_overOf_107 : decode cX0_overOf 107 = .ok (.aload_n 3, 1) := dk_45 (dk_at dksX0_overOf_4 16 rfl rfl)
theorem dX0_overOf_108 : decode cX0_overOf 108 = .ok (.getfield 321, 3) := dk_180 1 65 (dk_at dksX0_overOf_4 17 rfl rfl)
theorem dX0_overOf_111 : decode cX0_overOf 111 = .ok (.ifCond .ne 8, 3) := dk_154 0 8 (dk_at dksX0_overOf_4 20 rfl rfl)
theorem dX0_overOf_114 : decode cX0_overOf 114 = .ok (.bipush 99, 2) := dk_16 99 (dk_at dksX0_overOf_5 0 rfl rfl)
theorem dX0_overOf_116 : decode cX0_overOf 116 = .ok (.goto 22, 3) := dk_167 0 22 (dk_at dksX0_overOf_5 2 rfl rfl)
theorem dX0_overOf_119 : decode cX0_overOf 119 = .ok (.bipush 99, 2) := dk_16 99 (dk_at dksX0_overOf_5 5 rfl rfl)
theorem dX0_overOf_121 : decode cX0_overOf 121 = .ok (.aload_n 0, 1) := dk_42 (dk_at dksX0_overOf_5 7 rfl rfl)
theorem dX0_overOf_122 : decode cX0_overOf 122 = .ok (.iconst 0, 1) := dk_3 (dk_at dksX0_overOf_5 8 rfl rfl)
theorem dX0_overOf_123 : decode cX0_overOf 123 = .ok (.iload_n 1, 1) := dk_27 (dk_at dksX0_overOf_5 9 rfl rfl)
theorem dX0_overOf_124 : decode cX0_overOf 124 = .ok (.invokevirtual 310, 3) := dk_182 1 54 (dk_at dksX0_overOf_5 10 rfl rfl)
theorem dX0_overOf_127 : decode cX0_overOf 127 = .ok (.bipush 10, 2) := dk_16 10 (dk_at dksX0_overOf_5 13 rfl rfl)
theorem dX0_overOf_129 : decode cX0_overOf 129 = .ok (.imul, 1) := dk_104 (dk_at dksX0_overOf_5 15 rfl rfl)
theorem dX0_overOf_130 : decode cX0_overOf 130 = .ok (.aload_n 3, 1) := dk_45 (dk_at dksX0_overOf_5 16 rfl rfl)
theorem dX0_overOf_131 : decode cX0_overOf 131 = .ok (.getfield 321, 3) := dk_180 1 65 (dk_at dksX0_overOf_5 17 rfl rfl)
theorem dX0_overOf_134 : decode cX0_overOf 134 = .ok (.idiv, 1) := dk_108 (dk_at dksX0_overOf_5 20 rfl rfl)
theorem dX0_overOf_135 : decode cX0_overOf 135 = .ok (.invokestatic 294, 3) := dk_184 1 38 (dk_at dksX0_overOf_5 21 rfl rfl)
theorem dX0_overOf_138 : decode cX0_overOf 138 = .ok (.ireturn, 1) := dk_172 (dk_at dksX0_overOf_6 0 rfl rfl)
abbrev cX0_over : ByteArray := prog_1_method_36_code
def dkwX0_over_0 : List UInt8 := [27, 184, 1, 1, 153, 0, 12, 42, 27, 28, 182, 1, 67, 167, 0, 4, 2, 172]
abbrev dktX0_over_0 : List UInt8 := dkwX0_over_0 ++ []
theorem dksX0_over_0 : cX0_over.data.toList.drop 0 = dktX0_over_0 := by decide +kernel
theorem dX0_over_0 : decode cX0_over 0 = .ok (.iload_n 1, 1) := dk_27 (dk_at dksX0_over_0 0 rfl rfl)
theorem dX0_over_1 : decode cX0_over 1 = .ok (.invokestatic 257, 3) := dk_184 1 1 (dk_at dksX0_over_0 1 rfl rfl)
theorem dX0_over_4 : decode cX0_over 4 = .ok (.ifCond .eq 12, 3) := dk_153 0 12 (dk_at dksX0_over_0 4 rfl rfl)
theorem dX0_over_7 : decode cX0_over 7 = .ok (.aload_n 0, 1) := dk_42 (dk_at dksX0_over_0 7 rfl rfl)
theorem dX0_over_8 : decode cX0_over 8 = .ok (.iload_n 1, 1) := dk_27 (dk_at dksX0_over_0 8 rfl rfl)
theorem dX0_over_9 : decode cX0_over 9 = .ok (.iload_n 2, 1) := dk_28 (dk_at dksX0_over_0 9 rfl rfl)
theorem dX0_over_10 : decode cX0_over 10 = .ok (.invokevirtual 323, 3) := dk_182 1 67 (dk_at dksX0_over_0 10 rfl rfl)
theorem dX0_over_13 : decode cX0_over 13 = .ok (.goto 4, 3) := dk_167 0 4 (dk_at dksX0_over_0 13 rfl rfl)
theorem dX0_over_16 : decode cX0_over 16 = .ok (.iconst (-1), 1) := dk_2 (dk_at dksX0_over_0 16 rfl rfl)
theorem dX0_over_17 : decode cX0_over 17 = .ok (.ireturn, 1) := dk_172 (dk_at dksX0_over_0 17 rfl rfl)
abbrev cX0_partAt : ByteArray := prog_1_method_12_code
def dkwX0_partAt_1 : List UInt8 := [180, 0, 178, 27, 182, 0, 184, 192, 0, 188, 167, 0, 4, 1, 176]
abbrev dktX0_partAt_1 : List UInt8 := dkwX0_partAt_1 ++ []
def dkwX0_partAt_0 : List UInt8 := [27, 155, 0, 34, 27, 42, 180, 0, 52, 180, 0, 178, 182, 0, 181, 162, 0, 20, 42, 180, 0, 52]
abbrev dktX0_partAt_0 : List UInt8 := dkwX0_partAt_0 ++ dktX0_partAt_1
theorem dksX0_partAt_0 : cX0_partAt.data.toList.drop 0 = dktX0_partAt_0 := by decide +kernel
theorem dksX0_partAt_1 : cX0_partAt.data.toList.drop 22 = dktX0_partAt_1 := dk_seg dksX0_partAt_0 22 rfl rfl
theorem dX0_partAt_0 : decode cX0_partAt 0 = .ok (.iload_n 1, 1) := dk_27 (dk_at dksX0_partAt_0 0 rfl rfl)
theorem dX0_partAt_1 : decode cX0_partAt 1 = .ok (.ifCond .lt 34, 3) := dk_155 0 34 (dk_at dksX0_partAt_0 1 rfl rfl)
theorem dX0_partAt_4 : decode cX0_partAt 4 = .ok (.iload_n 1, 1) := dk_27 (dk_at dksX0_partAt_0 4 rfl rfl)
theorem dX0_partAt_5 : decode cX0_partAt 5 = .ok (.aload_n 0, 1) := dk_42 (dk_at dksX0_partAt_0 5 rfl rfl)
theorem dX0_partAt_6 : decode cX0_partAt 6 = .ok (.getfield 52, 3) := dk_180 0 52 (dk_at dksX0_partAt_0 6 rfl rfl)
theorem dX0_partAt_9 : decode cX0_partAt 9 = .ok (.getfield 178, 3) := dk_180 0 178 (dk_at dksX0_partAt_0 9 rfl rfl)
theorem dX0_partAt_12 : decode cX0_partAt 12 = .ok (.invokevirtual 181, 3) := dk_182 0 181 (dk_at dksX0_partAt_0 12 rfl rfl)
theorem dX0_partAt_15 : decode cX0_partAt 15 = .ok (.if_icmp .ge 20, 3) := dk_162 0 20 (dk_at dksX0_partAt_0 15 rfl rfl)
theorem dX0_partAt_18 : decode cX0_partAt 18 = .ok (.aload_n 0, 1) := dk_42 (dk_at dksX0_partAt_0 18 rfl rfl)
theorem dX0_partAt_19 : decode cX0_partAt 19 = .ok (.getfield 52, 3) := dk_180 0 52 (dk_at dksX0_partAt_0 19 rfl rfl)
theorem dX0_partAt_22 : decode cX0_partAt 22 = .ok (.getfield 178, 3) := dk_180 0 178 (dk_at dksX0_partAt_1 0 rfl rfl)
theorem dX0_partAt_25 : decode cX0_partAt 25 = .ok (.iload_n 1, 1) := dk_27 (dk_at dksX0_partAt_1 3 rfl rfl)
theorem dX0_partAt_26 : decode cX0_partAt 26 = .ok (.invokevirtual 184, 3) := dk_182 0 184 (dk_at dksX0_partAt_1 4 rfl rfl)
theorem dX0_partAt_29 : decode cX0_partAt 29 = .ok (.checkcast 188, 3) := dk_192 0 188 (dk_at dksX0_partAt_1 7 rfl rfl)
theorem dX0_partAt_32 : decode cX0_partAt 32 = .ok (.goto 4, 3) := dk_167 0 4 (dk_at dksX0_partAt_1 10 rfl rfl)
theorem dX0_partAt_35 : decode cX0_partAt 35 = .ok (.aconst_null, 1) := dk_1 (dk_at dksX0_partAt_1 13 rfl rfl)
theorem dX0_partAt_36 : decode cX0_partAt 36 = .ok (.areturn, 1) := dk_176 (dk_at dksX0_partAt_1 14 rfl rfl)
abbrev cX0_pays : ByteArray := prog_1_method_34_code
def dkwX0_pays_7 : List UInt8 := [172]
abbrev dktX0_pays_7 : List UInt8 := dkwX0_pays_7 ++ []
def dkwX0_pays_6 : List UInt8 := [21, 7, 167, 0, 11, 25, 6, 180, 1, 51, 21, 7, 100, 96, 54, 4, 132, 5, 1, 167, 255, 124, 21, 4]
abbrev dktX0_pays_6 : List UInt8 := dkwX0_pays_6 ++ dktX0_pays_7
def dkwX0_pays_5 : List UInt8 := [180, 0, 58, 28, 50, 42, 180, 0, 74, 182, 1, 59, 104, 16, 100, 108, 54, 7, 21, 4, 27, 154, 0, 8]
abbrev dktX0_pays_5 : List UInt8 := dkwX0_pays_5 ++ dktX0_pays_6
def dkwX0_pays_4 : List UInt8 := [180, 1, 51, 79, 42, 180, 0, 74, 5, 42, 180, 0, 84, 21, 5, 46, 79, 25, 6, 180, 1, 51, 42]
abbrev dktX0_pays_4 : List UInt8 := dkwX0_pays_4 ++ dktX0_pays_5
def dkwX0_pays_3 : List UInt8 := [160, 0, 6, 167, 0, 84, 42, 180, 0, 74, 3, 25, 6, 180, 1, 56, 79, 42, 180, 0, 74, 4, 25, 6]
abbrev dktX0_pays_3 : List UInt8 := dkwX0_pays_3 ++ dktX0_pays_4
def dkwX0_pays_2 : List UInt8 := [180, 0, 178, 21, 5, 182, 0, 184, 192, 0, 188, 58, 6, 42, 180, 0, 84, 21, 5, 46, 19, 1, 29]
abbrev dktX0_pays_2 : List UInt8 := dkwX0_pays_2 ++ dktX0_pays_3
def dkwX0_pays_1 : List UInt8 := [54, 4, 3, 54, 5, 21, 5, 42, 180, 0, 52, 180, 0, 178, 182, 0, 181, 162, 0, 123, 42, 180, 0, 52]
abbrev dktX0_pays_1 : List UInt8 := dkwX0_pays_1 ++ dktX0_pays_2
def dkwX0_pays_0 : List UInt8 := [27, 3, 4, 184, 0, 161, 153, 0, 10, 28, 184, 0, 165, 154, 0, 5, 2, 172, 42, 29, 182, 1, 48, 3]
abbrev dktX0_pays_0 : List UInt8 := dkwX0_pays_0 ++ dktX0_pays_1
theorem dksX0_pays_0 : cX0_pays.data.toList.drop 0 = dktX0_pays_0 := by decide +kernel
theorem dksX0_pays_1 : cX0_pays.data.toList.drop 24 = dktX0_pays_1 := dk_seg dksX0_pays_0 24 rfl rfl
theorem dksX0_pays_2 : cX0_pays.data.toList.drop 48 = dktX0_pays_2 := dk_seg dksX0_pays_1 24 rfl rfl
theorem dksX0_pays_3 : cX0_pays.data.toList.drop 71 = dktX0_pays_3 := dk_seg dksX0_pays_2 23 rfl rfl
theorem dksX0_pays_4 : cX0_pays.data.toList.drop 95 = dktX0_pays_4 := dk_seg dksX0_pays_3 24 rfl rfl
theorem dksX0_pays_5 : cX0_pays.data.toList.drop 118 = dktX0_pays_5 := dk_seg dksX0_pays_4 23 rfl rfl
theorem dksX0_pays_6 : cX0_pays.data.toList.drop 142 = dktX0_pays_6 := dk_seg dksX0_pays_5 24 rfl rfl
theorem dksX0_pays_7 : cX0_pays.data.toList.drop 166 = dktX0_pays_7 := dk_seg dksX0_pays_6 24 rfl rfl
theorem dX0_pays_0 : decode cX0_pays 0 = .ok (.iload_n 1, 1) := dk_27 (dk_at dksX0_pays_0 0 rfl rfl)
theorem dX0_pays_1 : decode cX0_pays 1 = .ok (.iconst 0, 1) := dk_3 (dk_at dksX0_pays_0 1 rfl rfl)
theorem dX0_pays_2 : decode cX0_pays 2 = .ok (.iconst 1, 1) := dk_4 (dk_at dksX0_pays_0 2 rfl rfl)
theorem dX0_pays_3 : decode cX0_pays 3 = .ok (.invokestatic 161, 3) := dk_184 0 161 (dk_at dksX0_pays_0 3 rfl rfl)
theorem dX0_pays_6 : decode cX0_pays 6 = .ok (.ifCond .eq 10, 3) := dk_153 0 10 (dk_at dksX0_pays_0 6 rfl rfl)
theorem dX0_pays_9 : decode cX0_pays 9 = .ok (.iload_n 2, 1) := dk_28 (dk_at dksX0_pays_0 9 rfl rfl)
theorem dX0_pays_10 : decode cX0_pays 10 = .ok (.invokestatic 165, 3) := dk_184 0 165 (dk_at dksX0_pays_0 10 rfl rfl)
theorem dX0_pays_13 : decode cX0_pays 13 = .ok (.ifCond .ne 5, 3) := dk_154 0 5 (dk_at dksX0_pays_0 13 rfl rfl)
theorem dX0_pays_16 : decode cX0_pays 16 = .ok (.iconst (-1), 1) := dk_2 (dk_at dksX0_pays_0 16 rfl rfl)
theorem dX0_pays_17 : decode cX0_pays 17 = .ok (.ireturn, 1) := dk_172 (dk_at dksX0_pays_0 17 rfl rfl)
theorem dX0_pays_18 : decode cX0_pays 18 = .ok (.aload_n 0, 1) := dk_42 (dk_at dksX0_pays_0 18 rfl rfl)
theorem dX0_pays_19 : decode cX0_pays 19 = .ok (.iload_n 3, 1) := dk_29 (dk_at dksX0_pays_0 19 rfl rfl)
theorem dX0_pays_20 : decode cX0_pays 20 = .ok (.invokevirtual 304, 3) := dk_182 1 48 (dk_at dksX0_pays_0 20 rfl rfl)
theorem dX0_pays_23 : decode cX0_pays 23 = .ok (.iconst 0, 1) := dk_3 (dk_at dksX0_pays_0 23 rfl rfl)
theorem dX0_pays_24 : decode cX0_pays 24 = .ok (.istore 4, 2) := dk_54 4 (dk_at dksX0_pays_1 0 rfl rfl)
theorem dX0_pays_26 : decode cX0_pays 26 = .ok (.iconst 0, 1) := dk_3 (dk_at dksX0_pays_1 2 rfl rfl)
theorem dX0_pays_27 : decode cX0_pays 27 = .ok (.istore 5, 2) := dk_54 5 (dk_at dksX0_pays_1 3 rfl rfl)
theorem dX0_pays_29 : decode cX0_pays 29 = .ok (.iload 5, 2) := dk_21 5 (dk_at dksX0_pays_1 5 rfl rfl)
theorem dX0_pays_31 : decode cX0_pays 31 = .ok (.aload_n 0, 1) := dk_42 (dk_at dksX0_pays_1 7 rfl rfl)
theorem dX0_pays_32 : decode cX0_pays 32 = .ok (.getfield 52, 3) := dk_180 0 52 (dk_at dksX0_pays_1 8 rfl rfl)
theorem dX0_pays_35 : decode cX0_pays 35 = .ok (.getfield 178, 3) := dk_180 0 178 (dk_at dksX0_pays_1 11 rfl rfl)
theorem dX0_pays_38 : decode cX0_pays 38 = .ok (.invokevirtual 181, 3) := dk_182 0 181 (dk_at dksX0_pays_1 14 rfl rfl)
theorem dX0_pays_41 : decode cX0_pays 41 = .ok (.if_icmp .ge 123, 3) := dk_162 0 123 (dk_at dksX0_pays_1 17 rfl rfl)
theorem dX0_pays_44 : decode cX0_pays 44 = .ok (.aload_n 0, 1) := dk_42 (dk_at dksX0_pays_1 20 rfl rfl)
theorem dX0_pays_45 : decode cX0_pays 45 = .ok (.getfield 52, 3) := dk_180 0 52 (dk_at dksX0_pays_1 21 rfl rfl)
theorem dX0_pays_48 : decode cX0_pays 48 = .ok (.getfield 178, 3) := dk_180 0 178 (dk_at dksX0_pays_2 0 rfl rfl)
theorem dX0_pays_51 : decode cX0_pays 51 = .ok (.iload 5, 2) := dk_21 5 (dk_at dksX0_pays_2 3 rfl rfl)
theorem dX0_pays_53 : decode cX0_pays 53 = .ok (.invokevirtual 184, 3) := dk_182 0 184 (dk_at dksX0_pays_2 5 rfl rfl)
theorem dX0_pays_56 : decode cX0_pays 56 = .ok (.checkcast 188, 3) := dk_192 0 188 (dk_at dksX0_pays_2 8 rfl rfl)
theorem dX0_pays_59 : decode cX0_pays 59 = .ok (.astore 6, 2) := dk_58 6 (dk_at dksX0_pays_2 11 rfl rfl)
theorem dX0_pays_61 : decode cX0_pays 61 = .ok (.aload_n 0, 1) := dk_42 (dk_at dksX0_pays_2 13 rfl rfl)
theorem dX0_pays_62 : decode cX0_pays 62 = .ok (.getfield 84, 3) := dk_180 0 84 (dk_at dksX0_pays_2 14 rfl rfl)
theorem dX0_pays_65 : decode cX0_pays 65 = .ok (.iload 5, 2) := dk_21 5 (dk_at dksX0_pays_2 17 rfl rfl)
theorem dX0_pays_67 : decode cX0_pays 67 = .ok (.iaload, 1) := dk_46 (dk_at dksX0_pays_2 19 rfl rfl)
theorem dX0_pays_68 : decode cX0_pays 68 = .ok (.ldc_w 285, 3) := dk_19 1 29 (dk_at dksX0_pays_2 20 rfl rfl)
theorem dX0_pays_71 : decode cX0_pays 71 = .ok (.if_icmp .ne 6, 3) := dk_160 0 6 (dk_at dksX0_pays_3 0 rfl rfl)
theorem dX0_pays_74 : decode cX0_pays 74 = .ok (.goto 84, 3) := dk_167 0 84 (dk_at dksX0_pays_3 3 rfl rfl)
theorem dX0_pays_77 : decode cX0_pays 77 = .ok (.aload_n 0, 1) := dk_42 (dk_at dksX0_pays_3 6 rfl rfl)
theorem dX0_pays_78 : decode cX0_pays 78 = .ok (.getfield 74, 3) := dk_180 0 74 (dk_at dksX0_pays_3 7 rfl rfl)
theorem dX0_pays_81 : decode cX0_pays 81 = .ok (.iconst 0, 1) := dk_3 (dk_at dksX0_pays_3 10 rfl rfl)
theorem dX0_pays_82 : decode cX0_pays 82 = .ok (.aload 6, 2) := dk_25 6 (dk_at dksX0_pays_3 11 rfl rfl)
theorem dX0_pays_84 : decode cX0_pays 84 = .ok (.getfield 312, 3) := dk_180 1 56 (dk_at dksX0_pays_3 13 rfl rfl)
theorem dX0_pays_87 : decode cX0_pays 87 = .ok (.iastore, 1) := dk_79 (dk_at dksX0_pays_3 16 rfl rfl)
theorem dX0_pays_88 : decode cX0_pays 88 = .ok (.aload_n 0, 1) := dk_42 (dk_at dksX0_pays_3 17 rfl rfl)
theorem dX0_pays_89 : decode cX0_pays 89 = .ok (.getfield 74, 3) := dk_180 0 74 (dk_at dksX0_pays_3 18 rfl rfl)
theorem dX0_pays_92 : decode cX0_pays 92 = .ok (.iconst 1, 1) := dk_4 (dk_at dksX0_pays_3 21 rfl rfl)
theorem dX0_pays_93 : decode cX0_pays 93 = .ok (.aload 6, 2) := dk_25 6 (dk_at dksX0_pays_3 22 rfl rfl)
theorem dX0_pays_95 : decode cX0_pays 95 = .ok (.getfield 307, 3) := dk_180 1 51 (dk_at dksX0_pays_4 0 rfl rfl)
theorem dX0_pays_98 : decode cX0_pays 98 = .ok (.iastore, 1) := dk_79 (dk_at dksX0_pays_4 3 rfl rfl)
theorem dX0_pays_99 : decode cX0_pays 99 = .ok (.aload_n 0, 1) := dk_42 (dk_at dksX0_pays_4 4 rfl rfl)
theorem dX0_pays_100 : decode cX0_pays 100 = .ok (.getfield 74, 3) := dk_180 0 74 (dk_at dksX0_pays_4 5 rfl rfl)
theorem dX0_pays_103 : decode cX0_pays 103 = .ok (.iconst 2, 1) := dk_5 (dk_at dksX0_pays_4 8 rfl rfl)
theorem dX0_pays_104 : decode cX0_pays 104 = .ok (.aload_n 0, 1) := dk_42 (dk_at dksX0_pays_4 9 rfl rfl)
theorem dX0_pays_105 : decode cX0_pays 105 = .ok (.getfield 84, 3) := dk_180 0 84 (dk_at dksX0_pays_4 10 rfl rfl)
theorem dX0_pays_108 : decode cX0_pays 108 = .ok (.iload 5, 2) := dk_21 5 (dk_at dksX0_pays_4 13 rfl rfl)
theorem dX0_pays_110 : decode cX0_pays 110 = .ok (.iaload, 1) := dk_46 (dk_at dksX0_pays_4 15 rfl rfl)
theorem dX0_pays_111 : decode cX0_pays 111 = .ok (.iastore, 1) := dk_79 (dk_at dksX0_pays_4 16 rfl rfl)
theorem dX0_pays_112 : decode cX0_pays 112 = .ok (.aload 6, 2) := dk_25 6 (dk_at dksX0_pays_4 17 rfl rfl)
theorem dX0_pays_114 : decode cX0_pays 114 = .ok (.getfield 307, 3) := dk_180 1 51 (dk_at dksX0_pays_4 19 rfl rfl)
theorem dX0_pays_117 : decode cX0_pays 117 = .ok (.aload_n 0, 1) := dk_42 (dk_at dksX0_pays_4 22 rfl rfl)
theorem dX0_pays_118 : decode cX0_pays 118 = .ok (.getfield 58, 3) := dk_180 0 58 (dk_at dksX0_pays_5 0 rfl rfl)
theorem dX0_pays_121 : decode cX0_pays 121 = .ok (.iload_n 2, 1) := dk_28 (dk_at dksX0_pays_5 3 rfl rfl)
theorem dX0_pays_122 : decode cX0_pays 122 = .ok (.aaload, 1) := dk_50 (dk_at dksX0_pays_5 4 rfl rfl)
theorem dX0_pays_123 : decode cX0_pays 123 = .ok (.aload_n 0, 1) := dk_42 (dk_at dksX0_pays_5 5 rfl rfl)
theorem dX0_pays_124 : decode cX0_pays 124 = .ok (.getfield 74, 3) := dk_180 0 74 (dk_at dksX0_pays_5 6 rfl rfl)
theorem dX0_pays_127 : decode cX0_pays 127 = .ok (.invokevirtual 315, 3) := dk_182 1 59 (dk_at dksX0_pays_5 9 rfl rfl)
theorem dX0_pays_130 : decode cX0_pays 130 = .ok (.imul, 1) := dk_104 (dk_at dksX0_pays_5 12 rfl rfl)
theorem dX0_pays_131 : decode cX0_pays 131 = .ok (.bipush 100, 2) := dk_16 100 (dk_at dksX0_pays_5 13 rfl rfl)
theorem dX0_pays_133 : decode cX0_pays 133 = .ok (.idiv, 1) := dk_108 (dk_at dksX0_pays_5 15 rfl rfl)
theorem dX0_pays_134 : decode cX0_pays 134 = .ok (.istore 7, 2) := dk_54 7 (dk_at dksX0_pays_5 16 rfl rfl)
theorem dX0_pays_136 : decode cX0_pays 136 = .ok (.iload 4, 2) := dk_21 4 (dk_at dksX0_pays_5 18 rfl rfl)
theorem dX0_pays_138 : decode cX0_pays 138 = .ok (.iload_n 1, 1) := dk_27 (dk_at dksX0_pays_5 20 rfl rfl)
theorem dX0_pays_139 : decode cX0_pays 139 = .ok (.ifCond .ne 8, 3) := dk_154 0 8 (dk_at dksX0_pays_5 21 rfl rfl)
theorem dX0_pays_142 : decode cX0_pays 142 = .ok (.iload 7, 2) := dk_21 7 (dk_at dksX0_pays_6 0 rfl rfl)
theorem dX0_pays_144 : decode cX0_pays 144 = .ok (.goto 11, 3) := dk_167 0 11 (dk_at dksX0_pays_6 2 rfl rfl)
theorem dX0_pays_147 : decode cX0_pays 147 = .ok (.aload 6, 2) := dk_25 6 (dk_at dksX0_pays_6 5 rfl rfl)
theorem dX0_pays_149 : decode cX0_pays 149 = .ok (.getfield 307, 3) := dk_180 1 51 (dk_at dksX0_pays_6 7 rfl rfl)
theorem dX0_pays_152 : decode cX0_pays 152 = .ok (.iload 7, 2) := dk_21 7 (dk_at dksX0_pays_6 10 rfl rfl)
theorem dX0_pays_154 : decode cX0_pays 154 = .ok (.isub, 1) := dk_100 (dk_at dksX0_pays_6 12 rfl rfl)
theorem dX0_pays_155 : decode cX0_pays 155 = .ok (.iadd, 1) := dk_96 (dk_at dksX0_pays_6 13 rfl rfl)
theorem dX0_pays_156 : decode cX0_pays 156 = .ok (.istore 4, 2) := dk_54 4 (dk_at dksX0_pays_6 14 rfl rfl)
theorem dX0_pays_158 : decode cX0_pays 158 = .ok (.iinc 5 1, 3) := dk_132 5 1 (dk_at dksX0_pays_6 16 rfl rfl)
theorem dX0_pays_161 : decode cX0_pays 161 = .ok (.goto (-132), 3) := dk_167 255 124 (dk_at dksX0_pays_6 19 rfl rfl)
theorem dX0_pays_164 : decode cX0_pays 164 = .ok (.iload 4, 2) := dk_21 4 (dk_at dksX0_pays_6 22 rfl rfl)
theorem dX0_pays_166 : decode cX0_pays 166 = .ok (.ireturn, 1) := dk_172 (dk_at dksX0_pays_7 0 rfl rfl)
abbrev cX0_plan : ByteArray := prog_1_method_46_code
def dkwX0_plan_1 : List UInt8 := [54, 4, 21, 4, 19, 1, 29, 160, 0, 7, 2, 167, 0, 5, 21, 4, 172]
abbrev dktX0_plan_1 : List UInt8 := dkwX0_plan_1 ++ []
def dkwX0_plan_0 : List UInt8 := [42, 27, 28, 29, 182, 1, 83, 153, 0, 13, 42, 27, 28, 29, 182, 1, 86, 167, 0, 6, 19, 1, 29]
abbrev dktX0_plan_0 : List UInt8 := dkwX0_plan_0 ++ dktX0_plan_1
theorem dksX0_plan_0 : cX0_plan.data.toList.drop 0 = dktX0_plan_0 := by decide +kernel
theorem dksX0_plan_1 : cX0_plan.data.toList.drop 23 = dktX0_plan_1 := dk_seg dksX0_plan_0 23 rfl rfl
theorem dX0_plan_0 : decode cX0_plan 0 = .ok (.aload_n 0, 1) := dk_42 (dk_at dksX0_plan_0 0 rfl rfl)
theorem dX0_plan_1 : decode cX0_plan 1 = .ok (.iload_n 1, 1) := dk_27 (dk_at dksX0_plan_0 1 rfl rfl)
theorem dX0_plan_2 : decode cX0_plan 2 = .ok (.iload_n 2, 1) := dk_28 (dk_at dksX0_plan_0 2 rfl rfl)
theorem dX0_plan_3 : decode cX0_plan 3 = .ok (.iload_n 3, 1) := dk_29 (dk_at dksX0_plan_0 3 rfl rfl)
theorem dX0_plan_4 : decode cX0_plan 4 = .ok (.invokevirtual 339, 3) := dk_182 1 83 (dk_at dksX0_plan_0 4 rfl rfl)
theorem dX0_plan_7 : decode cX0_plan 7 = .ok (.ifCond .eq 13, 3) := dk_153 0 13 (dk_at dksX0_plan_0 7 rfl rfl)
theorem dX0_plan_10 : decode cX0_plan 10 = .ok (.aload_n 0, 1) := dk_42 (dk_at dksX0_plan_0 10 rfl rfl)
theorem dX0_plan_11 : decode cX0_plan 11 = .ok (.iload_n 1, 1) := dk_27 (dk_at dksX0_plan_0 11 rfl rfl)
theorem dX0_plan_12 : decode cX0_plan 12 = .ok (.iload_n 2, 1) := dk_28 (dk_at dksX0_plan_0 12 rfl rfl)
theorem dX0_plan_13 : decode cX0_plan 13 = .ok (.iload_n 3, 1) := dk_29 (dk_at dksX0_plan_0 13 rfl rfl)
theorem dX0_plan_14 : decode cX0_plan 14 = .ok (.invokevirtual 342, 3) := dk_182 1 86 (dk_at dksX0_plan_0 14 rfl rfl)
theorem dX0_plan_17 : decode cX0_plan 17 = .ok (.goto 6, 3) := dk_167 0 6 (dk_at dksX0_plan_0 17 rfl rfl)
theorem dX0_plan_20 : decode cX0_plan 20 = .ok (.ldc_w 285, 3) := dk_19 1 29 (dk_at dksX0_plan_0 20 rfl rfl)
theorem dX0_plan_23 : decode cX0_plan 23 = .ok (.istore 4, 2) := dk_54 4 (dk_at dksX0_plan_1 0 rfl rfl)
theorem dX0_plan_25 : decode cX0_plan 25 = .ok (.iload 4, 2) := dk_21 4 (dk_at dksX0_plan_1 2 rfl rfl)
theorem dX0_plan_27 : decode cX0_plan 27 = .ok (.ldc_w 285, 3) := dk_19 1 29 (dk_at dksX0_plan_1 4 rfl rfl)
theorem dX0_plan_30 : decode cX0_plan 30 = .ok (.if_icmp .ne 7, 3) := dk_160 0 7 (dk_at dksX0_plan_1 7 rfl rfl)
theorem dX0_plan_33 : decode cX0_plan 33 = .ok (.iconst (-1), 1) := dk_2 (dk_at dksX0_plan_1 10 rfl rfl)
theorem dX0_plan_34 : decode cX0_plan 34 = .ok (.goto 5, 3) := dk_167 0 5 (dk_at dksX0_plan_1 11 rfl rfl)
theorem dX0_plan_37 : decode cX0_plan 37 = .ok (.iload 4, 2) := dk_21 4 (dk_at dksX0_plan_1 14 rfl rfl)
theorem dX0_plan_39 : decode cX0_plan 39 = .ok (.ireturn, 1) := dk_172 (dk_at dksX0_plan_1 16 rfl rfl)
abbrev cX0_pump : ByteArray := prog_1_method_40_code
def dkwX0_pump_0 : List UInt8 := [27, 3, 6, 184, 0, 161, 154, 0, 5, 3, 172, 42, 27, 181, 0, 71, 4, 172]
abbrev dktX0_pump_0 : List UInt8 := dkwX0_pump_0 ++ []
theorem dksX0_pump_0 : cX0_pump.data.toList.drop 0 = dktX0_pump_0 := by decide +kernel
theorem dX0_pump_0 : decode cX0_pump 0 = .ok (.iload_n 1, 1) := dk_27 (dk_at dksX0_pump_0 0 rfl rfl)
theorem dX0_pump_1 : decode cX0_pump 1 = .ok (.iconst 0, 1) := dk_3 (dk_at dksX0_pump_0 1 rfl rfl)
theorem dX0_pump_2 : decode cX0_pump 2 = .ok (.iconst 3, 1) := dk_6 (dk_at dksX0_pump_0 2 rfl rfl)
theorem dX0_pump_3 : decode cX0_pump 3 = .ok (.invokestatic 161, 3) := dk_184 0 161 (dk_at dksX0_pump_0 3 rfl rfl)
theorem dX0_pump_6 : decode cX0_pump 6 = .ok (.ifCond .ne 5, 3) := dk_154 0 5 (dk_at dksX0_pump_0 6 rfl rfl)
theorem dX0_pump_9 : decode cX0_pump 9 = .ok (.iconst 0, 1) := dk_3 (dk_at dksX0_pump_0 9 rfl rfl)
theorem dX0_pump_10 : decode cX0_pump 10 = .ok (.ireturn, 1) := dk_172 (dk_at dksX0_pump_0 10 rfl rfl)
theorem dX0_pump_11 : decode cX0_pump 11 = .ok (.aload_n 0, 1) := dk_42 (dk_at dksX0_pump_0 11 rfl rfl)
theorem dX0_pump_12 : decode cX0_pump 12 = .ok (.iload_n 1, 1) := dk_27 (dk_at dksX0_pump_0 12 rfl rfl)
theorem dX0_pump_13 : decode cX0_pump 13 = .ok (.putfield 71, 3) := dk_181 0 71 (dk_at dksX0_pump_0 13 rfl rfl)
theorem dX0_pump_16 : decode cX0_pump 16 = .ok (.iconst 1, 1) := dk_4 (dk_at dksX0_pump_0 16 rfl rfl)
theorem dX0_pump_17 : decode cX0_pump 17 = .ok (.ireturn, 1) := dk_172 (dk_at dksX0_pump_0 17 rfl rfl)
abbrev cX0_purse : ByteArray := prog_1_method_60_code
def dkwX0_purse_0 : List UInt8 := [16, 31, 26, 104, 27, 96, 172]
abbrev dktX0_purse_0 : List UInt8 := dkwX0_purse_0 ++ []
theorem dksX0_purse_0 : cX0_purse.data.toList.drop 0 = dktX0_purse_0 := by decide +kernel
theorem dX0_purse_0 : decode cX0_purse 0 = .ok (.bipush 31, 2) := dk_16 31 (dk_at dksX0_purse_0 0 rfl rfl)
theorem dX0_purse_2 : decode cX0_purse 2 = .ok (.iload_n 0, 1) := dk_26 (dk_at dksX0_purse_0 2 rfl rfl)
theorem dX0_purse_3 : decode cX0_purse 3 = .ok (.imul, 1) := dk_104 (dk_at dksX0_purse_0 3 rfl rfl)
theorem dX0_purse_4 : decode cX0_purse 4 = .ok (.iload_n 1, 1) := dk_27 (dk_at dksX0_purse_0 4 rfl rfl)
theorem dX0_purse_5 : decode cX0_purse 5 = .ok (.iadd, 1) := dk_96 (dk_at dksX0_purse_0 5 rfl rfl)
theorem dX0_purse_6 : decode cX0_purse 6 = .ok (.ireturn, 1) := dk_172 (dk_at dksX0_purse_0 6 rfl rfl)
abbrev cX0_read : ByteArray := prog_1_method_6_code
def dkwX0_read_1 : List UInt8 := [167, 0, 7, 43, 180, 0, 136, 181, 0, 45, 42, 3, 181, 0, 125, 177]
abbrev dktX0_read_1 : List UInt8 := dkwX0_read_1 ++ []
def dkwX0_read_0 : List UInt8 := [42, 43, 199, 0, 7, 3, 167, 0, 7, 43, 180, 0, 128, 181, 0, 133, 42, 43, 199, 0, 7, 2]
abbrev dktX0_read_0 : List UInt8 := dkwX0_read_0 ++ dktX0_read_1
theorem dksX0_read_0 : cX0_read.data.toList.drop 0 = dktX0_read_0 := by decide +kernel
theorem dksX0_read_1 : cX0_read.data.toList.drop 22 = dktX0_read_1 := dk_seg dksX0_read_0 22 rfl rfl
theorem dX0_read_0 : decode cX0_read 0 = .ok (.aload_n 0, 1) := dk_42 (dk_at dksX0_read_0 0 rfl rfl)
theorem dX0_read_1 : decode cX0_read 1 = .ok (.aload_n 1, 1) := dk_43 (dk_at dksX0_read_0 1 rfl rfl)
theorem dX0_read_2 : decode cX0_read 2 = .ok (.ifnonnull 7, 3) := dk_199 0 7 (dk_at dksX0_read_0 2 rfl rfl)
theorem dX0_read_5 : decode cX0_read 5 = .ok (.iconst 0, 1) := dk_3 (dk_at dksX0_read_0 5 rfl rfl)
theorem dX0_read_6 : decode cX0_read 6 = .ok (.goto 7, 3) := dk_167 0 7 (dk_at dksX0_read_0 6 rfl rfl)
theorem dX0_read_9 : decode cX0_read 9 = .ok (.aload_n 1, 1) := dk_43 (dk_at dksX0_read_0 9 rfl rfl)
theorem dX0_read_10 : decode cX0_read 10 = .ok (.getfield 128, 3) := dk_180 0 128 (dk_at dksX0_read_0 10 rfl rfl)
theorem dX0_read_13 : decode cX0_read 13 = .ok (.putfield 133, 3) := dk_181 0 133 (dk_at dksX0_read_0 13 rfl rfl)
theorem dX0_read_16 : decode cX0_read 16 = .ok (.aload_n 0, 1) := dk_42 (dk_at dksX0_read_0 16 rfl rfl)
theorem dX0_read_17 : decode cX0_read 17 = .ok (.aload_n 1, 1) := dk_43 (dk_at dksX0_read_0 17 rfl rfl)
theorem dX0_read_18 : decode cX0_read 18 = .ok (.ifnonnull 7, 3) := dk_199 0 7 (dk_at dksX0_read_0 18 rfl rfl)
theorem dX0_read_21 : decode cX0_read 21 = .ok (.iconst (-1), 1) := dk_2 (dk_at dksX0_read_0 21 rfl rfl)
theorem dX0_read_22 : decode cX0_read 22 = .ok (.goto 7, 3) := dk_167 0 7 (dk_at dksX0_read_1 0 rfl rfl)
theorem dX0_read_25 : decode cX0_read 25 = .ok (.aload_n 1, 1) := dk_43 (dk_at dksX0_read_1 3 rfl rfl)
theorem dX0_read_26 : decode cX0_read 26 = .ok (.getfield 136, 3) := dk_180 0 136 (dk_at dksX0_read_1 4 rfl rfl)
theorem dX0_read_29 : decode cX0_read 29 = .ok (.putfield 45, 3) := dk_181 0 45 (dk_at dksX0_read_1 7 rfl rfl)
theorem dX0_read_32 : decode cX0_read 32 = .ok (.aload_n 0, 1) := dk_42 (dk_at dksX0_read_1 10 rfl rfl)
theorem dX0_read_33 : decode cX0_read 33 = .ok (.iconst 0, 1) := dk_3 (dk_at dksX0_read_1 11 rfl rfl)
theorem dX0_read_34 : decode cX0_read 34 = .ok (.putfield 125, 3) := dk_181 0 125 (dk_at dksX0_read_1 12 rfl rfl)
theorem dX0_read_37 : decode cX0_read 37 = .ok (.return_, 1) := dk_177 (dk_at dksX0_read_1 15 rfl rfl)
abbrev cX0_safe : ByteArray := prog_1_method_66_code
def dkwX0_safe_2 : List UInt8 := [167, 0, 4, 3, 172]
abbrev dktX0_safe_2 : List UInt8 := dkwX0_safe_2 ++ []
def dkwX0_safe_1 : List UInt8 := [42, 180, 0, 121, 3, 50, 42, 180, 1, 143, 50, 29, 50, 27, 28, 184, 1, 146, 51, 153, 0, 7, 4]
abbrev dktX0_safe_1 : List UInt8 := dkwX0_safe_1 ++ dktX0_safe_2
def dkwX0_safe_0 : List UInt8 := [27, 28, 184, 1, 159, 153, 0, 13, 29, 3, 16, 6, 184, 0, 161, 154, 0, 5, 2, 172, 42, 182, 1, 163]
abbrev dktX0_safe_0 : List UInt8 := dkwX0_safe_0 ++ dktX0_safe_1
theorem dksX0_safe_0 : cX0_safe.data.toList.drop 0 = dktX0_safe_0 := by decide +kernel
theorem dksX0_safe_1 : cX0_safe.data.toList.drop 24 = dktX0_safe_1 := dk_seg dksX0_safe_0 24 rfl rfl
theorem dksX0_safe_2 : cX0_safe.data.toList.drop 47 = dktX0_safe_2 := dk_seg dksX0_safe_1 23 rfl rfl
theorem dX0_safe_0 : decode cX0_safe 0 = .ok (.iload_n 1, 1) := dk_27 (dk_at dksX0_safe_0 0 rfl rfl)
theorem dX0_safe_1 : decode cX0_safe 1 = .ok (.iload_n 2, 1) := dk_28 (dk_at dksX0_safe_0 1 rfl rfl)
theorem dX0_safe_2 : decode cX0_safe 2 = .ok (.invokestatic 415, 3) := dk_184 1 159 (dk_at dksX0_safe_0 2 rfl rfl)
theorem dX0_safe_5 : decode cX0_safe 5 = .ok (.ifCond .eq 13, 3) := dk_153 0 13 (dk_at dksX0_safe_0 5 rfl rfl)
theorem dX0_safe_8 : decode cX0_safe 8 = .ok (.iload_n 3, 1) := dk_29 (dk_at dksX0_safe_0 8 rfl rfl)
theorem dX0_safe_9 : decode cX0_safe 9 = .ok (.iconst 0, 1) := dk_3 (dk_at dksX0_safe_0 9 rfl rfl)
theorem dX0_safe_10 : decode cX0_safe 10 = .ok (.bipush 6, 2) := dk_16 6 (dk_at dksX0_safe_0 10 rfl rfl)
theorem dX0_safe_12 : decode cX0_safe 12 = .ok (.invokestatic 161, 3) := dk_184 0 161 (dk_at dksX0_safe_0 12 rfl rfl)
theorem dX0_safe_15 : decode cX0_safe 15 = .ok (.ifCond .ne 5, 3) := dk_154 0 5 (dk_at dksX0_safe_0 15 rfl rfl)
theorem dX0_safe_18 : decode cX0_safe 18 = .ok (.iconst (-1), 1) := dk_2 (dk_at dksX0_safe_0 18 rfl rfl)
theorem dX0_safe_19 : decode cX0_safe 19 = .ok (.ireturn, 1) := dk_172 (dk_at dksX0_safe_0 19 rfl rfl)
theorem dX0_safe_20 : decode cX0_safe 20 = .ok (.aload_n 0, 1) := dk_42 (dk_at dksX0_safe_0 20 rfl rfl)
theorem dX0_safe_21 : decode cX0_safe 21 = .ok (.invokevirtual 419, 3) := dk_182 1 163 (dk_at dksX0_safe_0 21 rfl rfl)
theorem dX0_safe_24 : decode cX0_safe 24 = .ok (.aload_n 0, 1) := dk_42 (dk_at dksX0_safe_1 0 rfl rfl)
theorem dX0_safe_25 : decode cX0_safe 25 = .ok (.getfield 121, 3) := dk_180 0 121 (dk_at dksX0_safe_1 1 rfl rfl)
theorem dX0_safe_28 : decode cX0_safe 28 = .ok (.iconst 0, 1) := dk_3 (dk_at dksX0_safe_1 4 rfl rfl)
theorem dX0_safe_29 : decode cX0_safe 29 = .ok (.aaload, 1) := dk_50 (dk_at dksX0_safe_1 5 rfl rfl)
theorem dX0_safe_30 : decode cX0_safe 30 = .ok (.aload_n 0, 1) := dk_42 (dk_at dksX0_safe_1 6 rfl rfl)
theorem dX0_safe_31 : decode cX0_safe 31 = .ok (.getfield 399, 3) := dk_180 1 143 (dk_at dksX0_safe_1 7 rfl rfl)
theorem dX0_safe_34 : decode cX0_safe 34 = .ok (.aaload, 1) := dk_50 (dk_at dksX0_safe_1 10 rfl rfl)
theorem dX0_safe_35 : decode cX0_safe 35 = .ok (.iload_n 3, 1) := dk_29 (dk_at dksX0_safe_1 11 rfl rfl)
theorem dX0_safe_36 : decode cX0_safe 36 = .ok (.aaload, 1) := dk_50 (dk_at dksX0_safe_1 12 rfl rfl)
theorem dX0_safe_37 : decode cX0_safe 37 = .ok (.iload_n 1, 1) := dk_27 (dk_at dksX0_safe_1 13 rfl rfl)
theorem dX0_safe_38 : decode cX0_safe 38 = .ok (.iload_n 2, 1) := dk_28 (dk_at dksX0_safe_1 14 rfl rfl)
theorem dX0_safe_39 : decode cX0_safe 39 = .ok (.invokestatic 402, 3) := dk_184 1 146 (dk_at dksX0_safe_1 15 rfl rfl)
theorem dX0_safe_42 : decode cX0_safe 42 = .ok (.baload, 1) := dk_51 (dk_at dksX0_safe_1 18 rfl rfl)
theorem dX0_safe_43 : decode cX0_safe 43 = .ok (.ifCond .eq 7, 3) := dk_153 0 7 (dk_at dksX0_safe_1 19 rfl rfl)
theorem dX0_safe_46 : decode cX0_safe 46 = .ok (.iconst 1, 1) := dk_4 (dk_at dksX0_safe_1 22 rfl rfl)
theorem dX0_safe_47 : decode cX0_safe 47 = .ok (.goto 4, 3) := dk_167 0 4 (dk_at dksX0_safe_2 0 rfl rfl)
theorem dX0_safe_50 : decode cX0_safe 50 = .ok (.iconst 0, 1) := dk_3 (dk_at dksX0_safe_2 3 rfl rfl)
theorem dX0_safe_51 : decode cX0_safe 51 = .ok (.ireturn, 1) := dk_172 (dk_at dksX0_safe_2 4 rfl rfl)
abbrev cX0_secure : ByteArray := prog_1_method_64_code
def dkwX0_secure_5 : List UInt8 := [132, 3, 1, 167, 255, 156, 132, 2, 1, 167, 255, 140, 132, 1, 255, 167, 255, 128, 177]
abbrev dktX0_secure_5 : List UInt8 := dkwX0_secure_5 ++ []
def dkwX0_secure_4 : List UInt8 := [182, 1, 156, 153, 0, 7, 4, 167, 0, 4, 3, 84, 132, 5, 1, 167, 255, 187, 132, 4, 1, 167, 255, 171]
abbrev dktX0_secure_4 : List UInt8 := dkwX0_secure_4 ++ dktX0_secure_5
def dkwX0_secure_3 : List UInt8 := [42, 27, 28, 29, 21, 4, 21, 5, 182, 1, 153, 154, 0, 17, 42, 27, 28, 29, 21, 4, 21, 5]
abbrev dktX0_secure_3 : List UInt8 := dkwX0_secure_3 ++ dktX0_secure_4
def dkwX0_secure_2 : List UInt8 := [180, 0, 121, 27, 50, 28, 50, 29, 50, 21, 4, 21, 5, 184, 1, 146, 27, 42, 180, 1, 137, 159, 0, 31]
abbrev dktX0_secure_2 : List UInt8 := dkwX0_secure_2 ++ dktX0_secure_3
def dkwX0_secure_1 : List UInt8 := [163, 0, 100, 3, 54, 4, 21, 4, 16, 30, 163, 0, 84, 3, 54, 5, 21, 5, 16, 30, 163, 0, 68, 42]
abbrev dktX0_secure_1 : List UInt8 := dkwX0_secure_1 ++ dktX0_secure_2
def dkwX0_secure_0 : List UInt8 := [42, 180, 1, 137, 60, 27, 155, 0, 130, 3, 61, 28, 42, 180, 1, 143, 163, 0, 114, 3, 62, 29, 16, 6]
abbrev dktX0_secure_0 : List UInt8 := dkwX0_secure_0 ++ dktX0_secure_1
theorem dksX0_secure_0 : cX0_secure.data.toList.drop 0 = dktX0_secure_0 := by decide +kernel
theorem dksX0_secure_1 : cX0_secure.data.toList.drop 24 = dktX0_secure_1 := dk_seg dksX0_secure_0 24 rfl rfl
theorem dksX0_secure_2 : cX0_secure.data.toList.drop 48 = dktX0_secure_2 := dk_seg dksX0_secure_1 24 rfl rfl
theorem dksX0_secure_3 : cX0_secure.data.toList.drop 72 = dktX0_secure_3 := dk_seg dksX0_secure_2 24 rfl rfl
theorem dksX0_secure_4 : cX0_secure.data.toList.drop 94 = dktX0_secure_4 := dk_seg dksX0_secure_3 22 rfl rfl
theorem dksX0_secure_5 : cX0_secure.data.toList.drop 118 = dktX0_secure_5 := dk_seg dksX0_secure_4 24 rfl rfl
theorem dX0_secure_0 : decode cX0_secure 0 = .ok (.aload_n 0, 1) := dk_42 (dk_at dksX0_secure_0 0 rfl rfl)
theorem dX0_secure_1 : decode cX0_secure 1 = .ok (.getfield 393, 3) := dk_180 1 137 (dk_at dksX0_secure_0 1 rfl rfl)
theorem dX0_secure_4 : decode cX0_secure 4 = .ok (.istore_n 1, 1) := dk_60 (dk_at dksX0_secure_0 4 rfl rfl)
theorem dX0_secure_5 : decode cX0_secure 5 = .ok (.iload_n 1, 1) := dk_27 (dk_at dksX0_secure_0 5 rfl rfl)
theorem dX0_secure_6 : decode cX0_secure 6 = .ok (.ifCond .lt 130, 3) := dk_155 0 130 (dk_at dksX0_secure_0 6 rfl rfl)
theorem dX0_secure_9 : decode cX0_secure 9 = .ok (.iconst 0, 1) := dk_3 (dk_at dksX0_secure_0 9 rfl rfl)
theorem dX0_secure_10 : decode cX0_secure 10 = .ok (.istore_n 2, 1) := dk_61 (dk_at dksX0_secure_0 10 rfl rfl)
theorem dX0_secure_11 : decode cX0_secure 11 = .ok (.iload_n 2, 1) := dk_28 (dk_at dksX0_secure_0 11 rfl rfl)
theorem dX0_secure_12 : decode cX0_secure 12 = .ok (.aload_n 0, 1) := dk_42 (dk_at dksX0_secure_0 12 rfl rfl)
theorem dX0_secure_13 : decode cX0_secure 13 = .ok (.getfield 399, 3) := dk_180 1 143 (dk_at dksX0_secure_0 13 rfl rfl)
theorem dX0_secure_16 : decode cX0_secure 16 = .ok (.if_icmp .gt 114, 3) := dk_163 0 114 (dk_at dksX0_secure_0 16 rfl rfl)
theorem dX0_secure_19 : decode cX0_secure 19 = .ok (.iconst 0, 1) := dk_3 (dk_at dksX0_secure_0 19 rfl rfl)
theorem dX0_secure_20 : decode cX0_secure 20 = .ok (.istore_n 3, 1) := dk_62 (dk_at dksX0_secure_0 20 rfl rfl)
theorem dX0_secure_21 : decode cX0_secure 21 = .ok (.iload_n 3, 1) := dk_29 (dk_at dksX0_secure_0 21 rfl rfl)
theorem dX0_secure_22 : decode cX0_secure 22 = .ok (.bipush 6, 2) := dk_16 6 (dk_at dksX0_secure_0 22 rfl rfl)
theorem dX0_secure_24 : decode cX0_secure 24 = .ok (.if_icmp .gt 100, 3) := dk_163 0 100 (dk_at dksX0_secure_1 0 rfl rfl)
theorem dX0_secure_27 : decode cX0_secure 27 = .ok (.iconst 0, 1) := dk_3 (dk_at dksX0_secure_1 3 rfl rfl)
theorem dX0_secure_28 : decode cX0_secure 28 = .ok (.istore 4, 2) := dk_54 4 (dk_at dksX0_secure_1 4 rfl rfl)
theorem dX0_secure_30 : decode cX0_secure 30 = .ok (.iload 4, 2) := dk_21 4 (dk_at dksX0_secure_1 6 rfl rfl)
theorem dX0_secure_32 : decode cX0_secure 32 = .ok (.bipush 30, 2) := dk_16 30 (dk_at dksX0_secure_1 8 rfl rfl)
theorem dX0_secure_34 : decode cX0_secure 34 = .ok (.if_icmp .gt 84, 3) := dk_163 0 84 (dk_at dksX0_secure_1 10 rfl rfl)
theorem dX0_secure_37 : decode cX0_secure 37 = .ok (.iconst 0, 1) := dk_3 (dk_at dksX0_secure_1 13 rfl rfl)
theorem dX0_secure_38 : decode cX0_secure 38 = .ok (.istore 5, 2) := dk_54 5 (dk_at dksX0_secure_1 14 rfl rfl)
theorem dX0_secure_40 : decode cX0_secure 40 = .ok (.iload 5, 2) := dk_21 5 (dk_at dksX0_secure_1 16 rfl rfl)
theorem dX0_secure_42 : decode cX0_secure 42 = .ok (.bipush 30, 2) := dk_16 30 (dk_at dksX0_secure_1 18 rfl rfl)
theorem dX0_secure_44 : decode cX0_secure 44 = .ok (.if_icmp .gt 68, 3) := dk_163 0 68 (dk_at dksX0_secure_1 20 rfl rfl)
theorem dX0_secure_47 : decode cX0_secure 47 = .ok (.aload_n 0, 1) := dk_42 (dk_at dksX0_secure_1 23 rfl rfl)
theorem dX0_secure_48 : decode cX0_secure 48 = .ok (.getfield 121, 3) := dk_180 0 121 (dk_at dksX0_secure_2 0 rfl rfl)
theorem dX0_secure_51 : decode cX0_secure 51 = .ok (.iload_n 1, 1) := dk_27 (dk_at dksX0_secure_2 3 rfl rfl)
theorem dX0_secure_52 : decode cX0_secure 52 = .ok (.aaload, 1) := dk_50 (dk_at dksX0_secure_2 4 rfl rfl)
theorem dX0_secure_53 : decode cX0_secure 53 = .ok (.iload_n 2, 1) := dk_28 (dk_at dksX0_secure_2 5 rfl rfl)
theorem dX0_secure_54 : decode cX0_secure 54 = .ok (.aaload, 1) := dk_50 (dk_at dksX0_secure_2 6 rfl rfl)
theorem dX0_secure_55 : decode cX0_secure 55 = .ok (.iload_n 3, 1) := dk_29 (dk_at dksX0_secure_2 7 rfl rfl)
theorem dX0_secure_56 : decode cX0_secure 56 = .ok (.aaload, 1) := dk_50 (dk_at dksX0_secure_2 8 rfl rfl)
theorem dX0_secure_57 : decode cX0_secure 57 = .ok (.iload 4, 2) := dk_21 4 (dk_at dksX0_secure_2 9 rfl rfl)
theorem dX0_secure_59 : decode cX0_secure 59 = .ok (.iload 5, 2) := dk_21 5 (dk_at dksX0_secure_2 11 rfl rfl)
theorem dX0_secure_61 : decode cX0_secure 61 = .ok (.invokestatic 402, 3) := dk_184 1 146 (dk_at dksX0_secure_2 13 rfl rfl)
theorem dX0_secure_64 : decode cX0_secure 64 = .ok (.iload_n 1, 1) := dk_27 (dk_at dksX0_secure_2 16 rfl rfl)
theorem dX0_secure_65 : decode cX0_secure 65 = .ok (.aload_n 0, 1) := dk_42 (dk_at dksX0_secure_2 17 rfl rfl)
theorem dX0_secure_66 : decode cX0_secure 66 = .ok (.getfield 393, 3) := dk_180 1 137 (dk_at dksX0_secure_2 18 rfl rfl)
theorem dX0_secure_69 : decode cX0_secure 69 = .ok (.if_icmp .eq 31, 3) := dk_159 0 31 (dk_at dksX0_secure_2 21 rfl rfl)
theorem dX0_secure_72 : decode cX0_secure 72 = .ok (.aload_n 0, 1) := dk_42 (dk_at dksX0_secure_3 0 rfl rfl)
theorem dX0_secure_73 : decode cX0_secure 73 = .ok (.iload_n 1, 1) := dk_27 (dk_at dksX0_secure_3 1 rfl rfl)
theorem dX0_secure_74 : decode cX0_secure 74 = .ok (.iload_n 2, 1) := dk_28 (dk_at dksX0_secure_3 2 rfl rfl)
theorem dX0_secure_75 : decode cX0_secure 75 = .ok (.iload_n 3, 1) := dk_29 (dk_at dksX0_secure_3 3 rfl rfl)
theorem dX0_secure_76 : decode cX0_secure 76 = .ok (.iload 4, 2) := dk_21 4 (dk_at dksX0_secure_3 4 rfl rfl)
theorem dX0_secure_78 : decode cX0_secure 78 = .ok (.iload 5, 2) := dk_21 5 (dk_at dksX0_secure_3 6 rfl rfl)
theorem dX0_secure_80 : decode cX0_secure 80 = .ok (.invokevirtual 409, 3) := dk_182 1 153 (dk_at dksX0_secure_3 8 rfl rfl)
theorem dX0_secure_83 : decode cX0_secure 83 = .ok (.ifCond .ne 17, 3) := dk_154 0 17 (dk_at dksX0_secure_3 11 rfl rfl)
theorem dX0_secure_86 : decode cX0_secure 86 = .ok (.aload_n 0, 1) := dk_42 (dk_at dksX0_secure_3 14 rfl rfl)
theorem dX0_secure_87 : decode cX0_secure 87 = .ok (.iload_n 1, 1) := dk_27 (dk_at dksX0_secure_3 15 rfl rfl)
theorem dX0_secure_88 : decode cX0_secure 88 = .ok (.iload_n 2, 1) := dk_28 (dk_at dksX0_secure_3 16 rfl rfl)
theorem dX0_secure_89 : decode cX0_secure 89 = .ok (.iload_n 3, 1) := dk_29 (dk_at dksX0_secure_3 17 rfl rfl)
theorem dX0_secure_90 : decode cX0_secure 90 = .ok (.iload 4, 2) := dk_21 4 (dk_at dksX0_secure_3 18 rfl rfl)
theorem dX0_secure_92 : decode cX0_secure 92 = .ok (.iload 5, 2) := dk_21 5 (dk_at dksX0_secure_3 20 rfl rfl)
theorem dX0_secure_94 : decode cX0_secure 94 = .ok (.invokevirtual 412, 3) := dk_182 1 156 (dk_at dksX0_secure_4 0 rfl rfl)
theorem dX0_secure_97 : decode cX0_secure 97 = .ok (.ifCond .eq 7, 3) := dk_153 0 7 (dk_at dksX0_secure_4 3 rfl rfl)
theorem dX0_secure_100 : decode cX0_secure 100 = .ok (.iconst 1, 1) := dk_4 (dk_at dksX0_secure_4 6 rfl rfl)
theorem dX0_secure_101 : decode cX0_secure 101 = .ok (.goto 4, 3) := dk_167 0 4 (dk_at dksX0_secure_4 7 rfl rfl)
theorem dX0_secure_104 : decode cX0_secure 104 = .ok (.iconst 0, 1) := dk_3 (dk_at dksX0_secure_4 10 rfl rfl)
theorem dX0_secure_105 : decode cX0_secure 105 = .ok (.bastore, 1) := dk_84 (dk_at dksX0_secure_4 11 rfl rfl)
theorem dX0_secure_106 : decode cX0_secure 106 = .ok (.iinc 5 1, 3) := dk_132 5 1 (dk_at dksX0_secure_4 12 rfl rfl)
theorem dX0_secure_109 : decode cX0_secure 109 = .ok (.goto (-69), 3) := dk_167 255 187 (dk_at dksX0_secure_4 15 rfl rfl)
theorem dX0_secure_112 : decode cX0_secure 112 = .ok (.iinc 4 1, 3) := dk_132 4 1 (dk_at dksX0_secure_4 18 rfl rfl)
theorem dX0_secure_115 : decode cX0_secure 115 = .ok (.goto (-85), 3) := dk_167 255 171 (dk_at dksX0_secure_4 21 rfl rfl)
theorem dX0_secure_118 : decode cX0_secure 118 = .ok (.iinc 3 1, 3) := dk_132 3 1 (dk_at dksX0_secure_5 0 rfl rfl)
theorem dX0_secure_121 : decode cX0_secure 121 = .ok (.goto (-100), 3) := dk_167 255 156 (dk_at dksX0_secure_5 3 rfl rfl)
theorem dX0_secure_124 : decode cX0_secure 124 = .ok (.iinc 2 1, 3) := dk_132 2 1 (dk_at dksX0_secure_5 6 rfl rfl)
theorem dX0_secure_127 : decode cX0_secure 127 = .ok (.goto (-116), 3) := dk_167 255 140 (dk_at dksX0_secure_5 9 rfl rfl)
theorem dX0_secure_130 : decode cX0_secure 130 = .ok (.iinc 1 (-1), 3) := dk_132 1 255 (dk_at dksX0_secure_5 12 rfl rfl)
theorem dX0_secure_133 : decode cX0_secure 133 = .ok (.goto (-128), 3) := dk_167 255 128 (dk_at dksX0_secure_5 15 rfl rfl)
theorem dX0_secure_136 : decode cX0_secure 136 = .ok (.return_, 1) := dk_177 (dk_at dksX0_secure_5 18 rfl rfl)
abbrev cX0_seekMend : ByteArray := prog_1_method_18_code
def dkwX0_seekMend_6 : List UInt8 := [167, 255, 132, 177]
abbrev dktX0_seekMend_6 : List UInt8 := dkwX0_seekMend_6 ++ []
def dkwX0_seekMend_5 : List UInt8 := [42, 21, 4, 181, 0, 237, 42, 21, 5, 181, 0, 234, 21, 6, 60, 132, 4, 1, 167, 255, 170, 132, 2, 1]
abbrev dktX0_seekMend_5 : List UInt8 := dkwX0_seekMend_5 ++ dktX0_seekMend_6
def dkwX0_seekMend_4 : List UInt8 := [160, 0, 19, 42, 180, 0, 227, 155, 0, 32, 21, 6, 27, 161, 0, 6, 167, 0, 23, 42, 28, 181, 0, 227]
abbrev dktX0_seekMend_4 : List UInt8 := dkwX0_seekMend_4 ++ dktX0_seekMend_5
def dkwX0_seekMend_3 : List UInt8 := [182, 0, 213, 100, 184, 0, 219, 54, 6, 21, 5, 42, 180, 0, 234, 161, 0, 48, 21, 5, 42, 180, 0, 234]
abbrev dktX0_seekMend_3 : List UInt8 := dkwX0_seekMend_3 ++ dktX0_seekMend_4
def dkwX0_seekMend_2 : List UInt8 := [4, 54, 4, 21, 4, 17, 117, 48, 163, 0, 84, 42, 45, 21, 4, 182, 0, 230, 54, 5, 21, 4, 45]
abbrev dktX0_seekMend_2 : List UInt8 := dkwX0_seekMend_2 ++ dktX0_seekMend_3
def dkwX0_seekMend_1 : List UInt8 := [180, 0, 178, 182, 0, 181, 162, 0, 116, 42, 180, 0, 52, 180, 0, 178, 28, 182, 0, 184, 192, 0, 188, 78]
abbrev dktX0_seekMend_1 : List UInt8 := dkwX0_seekMend_1 ++ dktX0_seekMend_2
def dkwX0_seekMend_0 : List UInt8 := [42, 2, 181, 0, 227, 42, 42, 1, 3, 182, 0, 230, 181, 0, 234, 3, 60, 3, 61, 28, 42, 180, 0, 52]
abbrev dktX0_seekMend_0 : List UInt8 := dkwX0_seekMend_0 ++ dktX0_seekMend_1
theorem dksX0_seekMend_0 : cX0_seekMend.data.toList.drop 0 = dktX0_seekMend_0 := by decide +kernel
theorem dksX0_seekMend_1 : cX0_seekMend.data.toList.drop 24 = dktX0_seekMend_1 := dk_seg dksX0_seekMend_0 24 rfl rfl
theorem dksX0_seekMend_2 : cX0_seekMend.data.toList.drop 48 = dktX0_seekMend_2 := dk_seg dksX0_seekMend_1 24 rfl rfl
theorem dksX0_seekMend_3 : cX0_seekMend.data.toList.drop 71 = dktX0_seekMend_3 := dk_seg dksX0_seekMend_2 23 rfl rfl
theorem dksX0_seekMend_4 : cX0_seekMend.data.toList.drop 95 = dktX0_seekMend_4 := dk_seg dksX0_seekMend_3 24 rfl rfl
theorem dksX0_seekMend_5 : cX0_seekMend.data.toList.drop 119 = dktX0_seekMend_5 := dk_seg dksX0_seekMend_4 24 rfl rfl
theorem dksX0_seekMend_6 : cX0_seekMend.data.toList.drop 143 = dktX0_seekMend_6 := dk_seg dksX0_seekMend_5 24 rfl rfl
theorem dX0_seekMend_0 : decode cX0_seekMend 0 = .ok (.aload_n 0, 1) := dk_42 (dk_at dksX0_seekMend_0 0 rfl rfl)
theorem dX0_seekMend_1 : decode cX0_seekMend 1 = .ok (.iconst (-1), 1) := dk_2 (dk_at dksX0_seekMend_0 1 rfl rfl)
theorem dX0_seekMend_2 : decode cX0_seekMend 2 = .ok (.putfield 227, 3) := dk_181 0 227 (dk_at dksX0_seekMend_0 2 rfl rfl)
theorem dX0_seekMend_5 : decode cX0_seekMend 5 = .ok (.aload_n 0, 1) := dk_42 (dk_at dksX0_seekMend_0 5 rfl rfl)
theorem dX0_seekMend_6 : decode cX0_seekMend 6 = .ok (.aload_n 0, 1) := dk_42 (dk_at dksX0_seekMend_0 6 rfl rfl)
theorem dX0_seekMend_7 : decode cX0_seekMend 7 = .ok (.aconst_null, 1) := dk_1 (dk_at dksX0_seekMend_0 7 rfl rfl)
theorem dX0_seekMend_8 : decode cX0_seekMend 8 = .ok (.iconst 0, 1) := dk_3 (dk_at dksX0_seekMend_0 8 rfl rfl)
theorem dX0_seekMend_9 : decode cX0_seekMend 9 = .ok (.invokevirtual 230, 3) := dk_182 0 230 (dk_at dksX0_seekMend_0 9 rfl rfl)
theorem dX0_seekMend_12 : decode cX0_seekMend 12 = .ok (.putfield 234, 3) := dk_181 0 234 (dk_at dksX0_seekMend_0 12 rfl rfl)
theorem dX0_seekMend_15 : decode cX0_seekMend 15 = .ok (.iconst 0, 1) := dk_3 (dk_at dksX0_seekMend_0 15 rfl rfl)
theorem dX0_seekMend_16 : decode cX0_seekMend 16 = .ok (.istore_n 1, 1) := dk_60 (dk_at dksX0_seekMend_0 16 rfl rfl)
theorem dX0_seekMend_17 : decode cX0_seekMend 17 = .ok (.iconst 0, 1) := dk_3 (dk_at dksX0_seekMend_0 17 rfl rfl)
theorem dX0_seekMend_18 : decode cX0_seekMend 18 = .ok (.istore_n 2, 1) := dk_61 (dk_at dksX0_seekMend_0 18 rfl rfl)
theorem dX0_seekMend_19 : decode cX0_seekMend 19 = .ok (.iload_n 2, 1) := dk_28 (dk_at dksX0_seekMend_0 19 rfl rfl)
theorem dX0_seekMend_20 : decode cX0_seekMend 20 = .ok (.aload_n 0, 1) := dk_42 (dk_at dksX0_seekMend_0 20 rfl rfl)
theorem dX0_seekMend_21 : decode cX0_seekMend 21 = .ok (.getfield 52, 3) := dk_180 0 52 (dk_at dksX0_seekMend_0 21 rfl rfl)
theorem dX0_seekMend_24 : decode cX0_seekMend 24 = .ok (.getfield 178, 3) := dk_180 0 178 (dk_at dksX0_seekMend_1 0 rfl rfl)
theorem dX0_seekMend_27 : decode cX0_seekMend 27 = .ok (.invokevirtual 181, 3) := dk_182 0 181 (dk_at dksX0_seekMend_1 3 rfl rfl)
theorem dX0_seekMend_30 : decode cX0_seekMend 30 = .ok (.if_icmp .ge 116, 3) := dk_162 0 116 (dk_at dksX0_seekMend_1 6 rfl rfl)
theorem dX0_seekMend_33 : decode cX0_seekMend 33 = .ok (.aload_n 0, 1) := dk_42 (dk_at dksX0_seekMend_1 9 rfl rfl)
theorem dX0_seekMend_34 : decode cX0_seekMend 34 = .ok (.getfield 52, 3) := dk_180 0 52 (dk_at dksX0_seekMend_1 10 rfl rfl)
theorem dX0_seekMend_37 : decode cX0_seekMend 37 = .ok (.getfield 178, 3) := dk_180 0 178 (dk_at dksX0_seekMend_1 13 rfl rfl)
theorem dX0_seekMend_40 : decode cX0_seekMend 40 = .ok (.iload_n 2, 1) := dk_28 (dk_at dksX0_seekMend_1 16 rfl rfl)
theorem dX0_seekMend_41 : decode cX0_seekMend 41 = .ok (.invokevirtual 184, 3) := dk_182 0 184 (dk_at dksX0_seekMend_1 17 rfl rfl)
theorem dX0_seekMend_44 : decode cX0_seekMend 44 = .ok (.checkcast 188, 3) := dk_192 0 188 (dk_at dksX0_seekMend_1 20 rfl rfl)
theorem dX0_seekMend_47 : decode cX0_seekMend 47 = .ok (.astore_n 3, 1) := dk_78 (dk_at dksX0_seekMend_1 23 rfl rfl)
theorem dX0_seekMend_48 : decode cX0_seekMend 48 = .ok (.iconst 1, 1) := dk_4 (dk_at dksX0_seekMend_2 0 rfl rfl)
theorem dX0_seekMend_49 : decode cX0_seekMend 49 = .ok (.istore 4, 2) := dk_54 4 (dk_at dksX0_seekMend_2 1 rfl rfl)
theorem dX0_seekMend_51 : decode cX0_seekMend 51 = .ok (.iload 4, 2) := dk_21 4 (dk_at dksX0_seekMend_2 3 rfl rfl)
theorem dX0_seekMend_53 : decode cX0_seekMend 53 = .ok (.sipush 30000, 3) := dk_17 117 48 (dk_at dksX0_seekMend_2 5 rfl rfl)
theorem dX0_seekMend_56 : decode cX0_seekMend 56 = .ok (.if_icmp .gt 84, 3) := dk_163 0 84 (dk_at dksX0_seekMend_2 8 rfl rfl)
theorem dX0_seekMend_59 : decode cX0_seekMend 59 = .ok (.aload_n 0, 1) := dk_42 (dk_at dksX0_seekMend_2 11 rfl rfl)
theorem dX0_seekMend_60 : decode cX0_seekMend 60 = .ok (.aload_n 3, 1) := dk_45 (dk_at dksX0_seekMend_2 12 rfl rfl)
theorem dX0_seekMend_61 : decode cX0_seekMend 61 = .ok (.iload 4, 2) := dk_21 4 (dk_at dksX0_seekMend_2 13 rfl rfl)
theorem dX0_seekMend_63 : decode cX0_seekMend 63 = .ok (.invokevirtual 230, 3) := dk_182 0 230 (dk_at dksX0_seekMend_2 15 rfl rfl)
theorem dX0_seekMend_66 : decode cX0_seekMend 66 = .ok (.istore 5, 2) := dk_54 5 (dk_at dksX0_seekMend_2 18 rfl rfl)
theorem dX0_seekMend_68 : decode cX0_seekMend 68 = .ok (.iload 4, 2) := dk_21 4 (dk_at dksX0_seekMend_2 20 rfl rfl)
theorem dX0_seekMend_70 : decode cX0_seekMend 70 = .ok (.aload_n 3, 1) := dk_45 (dk_at dksX0_seekMend_2 22 rfl rfl)
theorem dX0_seekMend_71 : decode cX0_seekMend 71 = .ok (.invokevirtual 213, 3) := dk_182 0 213 (dk_at dksX0_seekMend_3 0 rfl rfl)
theorem dX0_seekMend_74 : decode cX0_seekMend 74 = .ok (.isub, 1) := dk_100 (dk_at dksX0_seekMend_3 3 rfl rfl)
theorem dX0_seekMend_75 : decode cX0_seekMend 75 = .ok (.invokestatic 219, 3) := dk_184 0 219 (dk_at dksX0_seekMend_3 4 rfl rfl)
theorem dX0_seekMend_78 : decode cX0_seekMend 78 = .ok (.istore 6, 2) := dk_54 6 (dk_at dksX0_seekMend_3 7 rfl rfl)
theorem dX0_seekMend_80 : decode cX0_seekMend 80 = .ok (.iload 5, 2) := dk_21 5 (dk_at dksX0_seekMend_3 9 rfl rfl)
theorem dX0_seekMend_82 : decode cX0_seekMend 82 = .ok (.aload_n 0, 1) := dk_42 (dk_at dksX0_seekMend_3 11 rfl rfl)
theorem dX0_seekMend_83 : decode cX0_seekMend 83 = .ok (.getfield 234, 3) := dk_180 0 234 (dk_at dksX0_seekMend_3 12 rfl rfl)
theorem dX0_seekMend_86 : decode cX0_seekMend 86 = .ok (.if_icmp .lt 48, 3) := dk_161 0 48 (dk_at dksX0_seekMend_3 15 rfl rfl)
theorem dX0_seekMend_89 : decode cX0_seekMend 89 = .ok (.iload 5, 2) := dk_21 5 (dk_at dksX0_seekMend_3 18 rfl rfl)
theorem dX0_seekMend_91 : decode cX0_seekMend 91 = .ok (.aload_n 0, 1) := dk_42 (dk_at dksX0_seekMend_3 20 rfl rfl)
theorem dX0_seekMend_92 : decode cX0_seekMend 92 = .ok (.getfield 234, 3) := dk_180 0 234 (dk_at dksX0_seekMend_3 21 rfl rfl)
theorem dX0_seekMend_95 : decode cX0_seekMend 95 = .ok (.if_icmp .ne 19, 3) := dk_160 0 19 (dk_at dksX0_seekMend_4 0 rfl rfl)
theorem dX0_seekMend_98 : decode cX0_seekMend 98 = .ok (.aload_n 0, 1) := dk_42 (dk_at dksX0_seekMend_4 3 rfl rfl)
theorem dX0_seekMend_99 : decode cX0_seekMend 99 = .ok (.getfield 227, 3) := dk_180 0 227 (dk_at dksX0_seekMend_4 4 rfl rfl)
theorem dX0_seekMend_102 : decode cX0_seekMend 102 = .ok (.ifCond .lt 32, 3) := dk_155 0 32 (dk_at dksX0_seekMend_4 7 rfl rfl)
theorem dX0_seekMend_105 : decode cX0_seekMend 105 = .ok (.iload 6, 2) := dk_21 6 (dk_at dksX0_seekMend_4 10 rfl rfl)
theorem dX0_seekMend_107 : decode cX0_seekMend 107 = .ok (.iload_n 1, 1) := dk_27 (dk_at dksX0_seekMend_4 12 rfl rfl)
theorem dX0_seekMend_108 : decode cX0_seekMend 108 = .ok (.if_icmp .lt 6, 3) := dk_161 0 6 (dk_at dksX0_seekMend_4 13 rfl rfl)
theorem dX0_seekMend_111 : decode cX0_seekMend 111 = .ok (.goto 23, 3) := dk_167 0 23 (dk_at dksX0_seekMend_4 16 rfl rfl)
theorem dX0_seekMend_114 : decode cX0_seekMend 114 = .ok (.aload_n 0, 1) := dk_42 (dk_at dksX0_seekMend_4 19 rfl rfl)
theorem dX0_seekMend_115 : decode cX0_seekMend 115 = .ok (.iload_n 2, 1) := dk_28 (dk_at dksX0_seekMend_4 20 rfl rfl)
theorem dX0_seekMend_116 : decode cX0_seekMend 116 = .ok (.putfield 227, 3) := dk_181 0 227 (dk_at dksX0_seekMend_4 21 rfl rfl)
theorem dX0_seekMend_119 : decode cX0_seekMend 119 = .ok (.aload_n 0, 1) := dk_42 (dk_at dksX0_seekMend_5 0 rfl rfl)
theorem dX0_seekMend_120 : decode cX0_seekMend 120 = .ok (.iload 4, 2) := dk_21 4 (dk_at dksX0_seekMend_5 1 rfl rfl)
theorem dX0_seekMend_122 : decode cX0_seekMend 122 = .ok (.putfield 237, 3) := dk_181 0 237 (dk_at dksX0_seekMend_5 3 rfl rfl)
theorem dX0_seekMend_125 : decode cX0_seekMend 125 = .ok (.aload_n 0, 1) := dk_42 (dk_at dksX0_seekMend_5 6 rfl rfl)
theorem dX0_seekMend_126 : decode cX0_seekMend 126 = .ok (.iload 5, 2) := dk_21 5 (dk_at dksX0_seekMend_5 7 rfl rfl)
theorem dX0_seekMend_128 : decode cX0_seekMend 128 = .ok (.putfield 234, 3) := dk_181 0 234 (dk_at dksX0_seekMend_5 9 rfl rfl)
theorem dX0_seekMend_131 : decode cX0_seekMend 131 = .ok (.iload 6, 2) := dk_21 6 (dk_at dksX0_seekMend_5 12 rfl rfl)
theorem dX0_seekMend_133 : decode cX0_seekMend 133 = .ok (.istore_n 1, 1) := dk_60 (dk_at dksX0_seekMend_5 14 rfl rfl)
theorem dX0_seekMend_134 : decode cX0_seekMend 134 = .ok (.iinc 4 1, 3) := dk_132 4 1 (dk_at dksX0_seekMend_5 15 rfl rfl)
theorem dX0_seekMend_137 : decode cX0_seekMend 137 = .ok (.goto (-86), 3) := dk_167 255 170 (dk_at dksX0_seekMend_5 18 rfl rfl)
theorem dX0_seekMend_140 : decode cX0_seekMend 140 = .ok (.iinc 2 1, 3) := dk_132 2 1 (dk_at dksX0_seekMend_5 21 rfl rfl)
theorem dX0_seekMend_143 : decode cX0_seekMend 143 = .ok (.goto (-124), 3) := dk_167 255 132 (dk_at dksX0_seekMend_6 0 rfl rfl)
theorem dX0_seekMend_146 : decode cX0_seekMend 146 = .ok (.return_, 1) := dk_177 (dk_at dksX0_seekMend_6 3 rfl rfl)
abbrev cX0_shared : ByteArray := prog_1_method_56_code
def dkwX0_shared_3 : List UInt8 := [42, 3, 3, 3, 3, 27, 182, 1, 130, 42, 180, 1, 118, 172]
abbrev dktX0_shared_3 : List UInt8 := dkwX0_shared_3 ++ []
def dkwX0_shared_2 : List UInt8 := [182, 0, 184, 192, 0, 188, 180, 1, 51, 96, 181, 1, 121, 132, 2, 1, 167, 255, 213, 42, 2, 181, 1, 118]
abbrev dktX0_shared_2 : List UInt8 := dkwX0_shared_2 ++ dktX0_shared_3
def dkwX0_shared_1 : List UInt8 := [180, 0, 178, 182, 0, 181, 162, 0, 35, 42, 89, 180, 1, 121, 42, 180, 0, 52, 180, 0, 178, 28]
abbrev dktX0_shared_1 : List UInt8 := dkwX0_shared_1 ++ dktX0_shared_2
def dkwX0_shared_0 : List UInt8 := [27, 3, 16, 100, 184, 0, 161, 154, 0, 5, 2, 172, 42, 3, 181, 1, 121, 3, 61, 28, 42, 180, 0, 52]
abbrev dktX0_shared_0 : List UInt8 := dkwX0_shared_0 ++ dktX0_shared_1
theorem dksX0_shared_0 : cX0_shared.data.toList.drop 0 = dktX0_shared_0 := by decide +kernel
theorem dksX0_shared_1 : cX0_shared.data.toList.drop 24 = dktX0_shared_1 := dk_seg dksX0_shared_0 24 rfl rfl
theorem dksX0_shared_2 : cX0_shared.data.toList.drop 46 = dktX0_shared_2 := dk_seg dksX0_shared_1 22 rfl rfl
theorem dksX0_shared_3 : cX0_shared.data.toList.drop 70 = dktX0_shared_3 := dk_seg dksX0_shared_2 24 rfl rfl
theorem dX0_shared_0 : decode cX0_shared 0 = .ok (.iload_n 1, 1) := dk_27 (dk_at dksX0_shared_0 0 rfl rfl)
theorem dX0_shared_1 : decode cX0_shared 1 = .ok (.iconst 0, 1) := dk_3 (dk_at dksX0_shared_0 1 rfl rfl)
theorem dX0_shared_2 : decode cX0_shared 2 = .ok (.bipush 100, 2) := dk_16 100 (dk_at dksX0_shared_0 2 rfl rfl)
theorem dX0_shared_4 : decode cX0_shared 4 = .ok (.invokestatic 161, 3) := dk_184 0 161 (dk_at dksX0_shared_0 4 rfl rfl)
theorem dX0_shared_7 : decode cX0_shared 7 = .ok (.ifCond .ne 5, 3) := dk_154 0 5 (dk_at dksX0_shared_0 7 rfl rfl)
theorem dX0_shared_10 : decode cX0_shared 10 = .ok (.iconst (-1), 1) := dk_2 (dk_at dksX0_shared_0 10 rfl rfl)
theorem dX0_shared_11 : decode cX0_shared 11 = .ok (.ireturn, 1) := dk_172 (dk_at dksX0_shared_0 11 rfl rfl)
theorem dX0_shared_12 : decode cX0_shared 12 = .ok (.aload_n 0, 1) := dk_42 (dk_at dksX0_shared_0 12 rfl rfl)
theorem dX0_shared_13 : decode cX0_shared 13 = .ok (.iconst 0, 1) := dk_3 (dk_at dksX0_shared_0 13 rfl rfl)
theorem dX0_shared_14 : decode cX0_shared 14 = .ok (.putfield 377, 3) := dk_181 1 121 (dk_at dksX0_shared_0 14 rfl rfl)
theorem dX0_shared_17 : decode cX0_shared 17 = .ok (.iconst 0, 1) := dk_3 (dk_at dksX0_shared_0 17 rfl rfl)
theorem dX0_shared_18 : decode cX0_shared 18 = .ok (.istore_n 2, 1) := dk_61 (dk_at dksX0_shared_0 18 rfl rfl)
theorem dX0_shared_19 : decode cX0_shared 19 = .ok (.iload_n 2, 1) := dk_28 (dk_at dksX0_shared_0 19 rfl rfl)
theorem dX0_shared_20 : decode cX0_shared 20 = .ok (.aload_n 0, 1) := dk_42 (dk_at dksX0_shared_0 20 rfl rfl)
theorem dX0_shared_21 : decode cX0_shared 21 = .ok (.getfield 52, 3) := dk_180 0 52 (dk_at dksX0_shared_0 21 rfl rfl)
theorem dX0_shared_24 : decode cX0_shared 24 = .ok (.getfield 178, 3) := dk_180 0 178 (dk_at dksX0_shared_1 0 rfl rfl)
theorem dX0_shared_27 : decode cX0_shared 27 = .ok (.invokevirtual 181, 3) := dk_182 0 181 (dk_at dksX0_shared_1 3 rfl rfl)
theorem dX0_shared_30 : decode cX0_shared 30 = .ok (.if_icmp .ge 35, 3) := dk_162 0 35 (dk_at dksX0_shared_1 6 rfl rfl)
theorem dX0_shared_33 : decode cX0_shared 33 = .ok (.aload_n 0, 1) := dk_42 (dk_at dksX0_shared_1 9 rfl rfl)
theorem dX0_shared_34 : decode cX0_shared 34 = .ok (.dup, 1) := dk_89 (dk_at dksX0_shared_1 10 rfl rfl)
theorem dX0_shared_35 : decode cX0_shared 35 = .ok (.getfield 377, 3) := dk_180 1 121 (dk_at dksX0_shared_1 11 rfl rfl)
theorem dX0_shared_38 : decode cX0_shared 38 = .ok (.aload_n 0, 1) := dk_42 (dk_at dksX0_shared_1 14 rfl rfl)
theorem dX0_shared_39 : decode cX0_shared 39 = .ok (.getfield 52, 3) := dk_180 0 52 (dk_at dksX0_shared_1 15 rfl rfl)
theorem dX0_shared_42 : decode cX0_shared 42 = .ok (.getfield 178, 3) := dk_180 0 178 (dk_at dksX0_shared_1 18 rfl rfl)
theorem dX0_shared_45 : decode cX0_shared 45 = .ok (.iload_n 2, 1) := dk_28 (dk_at dksX0_shared_1 21 rfl rfl)
theorem dX0_shared_46 : decode cX0_shared 46 = .ok (.invokevirtual 184, 3) := dk_182 0 184 (dk_at dksX0_shared_2 0 rfl rfl)
theorem dX0_shared_49 : decode cX0_shared 49 = .ok (.checkcast 188, 3) := dk_192 0 188 (dk_at dksX0_shared_2 3 rfl rfl)
theorem dX0_shared_52 : decode cX0_shared 52 = .ok (.getfield 307, 3) := dk_180 1 51 (dk_at dksX0_shared_2 6 rfl rfl)
theorem dX0_shared_55 : decode cX0_shared 55 = .ok (.iadd, 1) := dk_96 (dk_at dksX0_shared_2 9 rfl rfl)
theorem dX0_shared_56 : decode cX0_shared 56 = .ok (.putfield 377, 3) := dk_181 1 121 (dk_at dksX0_shared_2 10 rfl rfl)
theorem dX0_shared_59 : decode cX0_shared 59 = .ok (.iinc 2 1, 3) := dk_132 2 1 (dk_at dksX0_shared_2 13 rfl rfl)
theorem dX0_shared_62 : decode cX0_shared 62 = .ok (.goto (-43), 3) := dk_167 255 213 (dk_at dksX0_shared_2 16 rfl rfl)
theorem dX0_shared_65 : decode cX0_shared 65 = .ok (.aload_n 0, 1) := dk_42 (dk_at dksX0_shared_2 19 rfl rfl)
theorem dX0_shared_66 : decode cX0_shared 66 = .ok (.iconst (-1), 1) := dk_2 (dk_at dksX0_shared_2 20 rfl rfl)
theorem dX0_shared_67 : decode cX0_shared 67 = .ok (.putfield 374, 3) := dk_181 1 118 (dk_at dksX0_shared_2 21 rfl rfl)
theorem dX0_shared_70 : decode cX0_shared 70 = .ok (.aload_n 0, 1) := dk_42 (dk_at dksX0_shared_3 0 rfl rfl)
theorem dX0_shared_71 : decode cX0_shared 71 = .ok (.iconst 0, 1) := dk_3 (dk_at dksX0_shared_3 1 rfl rfl)
theorem dX0_shared_72 : decode cX0_shared 72 = .ok (.iconst 0, 1) := dk_3 (dk_at dksX0_shared_3 2 rfl rfl)
theorem dX0_shared_73 : decode cX0_shared 73 = .ok (.iconst 0, 1) := dk_3 (dk_at dksX0_shared_3 3 rfl rfl)
theorem dX0_shared_74 : decode cX0_shared 74 = .ok (.iconst 0, 1) := dk_3 (dk_at dksX0_shared_3 4 rfl rfl)
theorem dX0_shared_75 : decode cX0_shared 75 = .ok (.iload_n 1, 1) := dk_27 (dk_at dksX0_shared_3 5 rfl rfl)
theorem dX0_shared_76 : decode cX0_shared 76 = .ok (.invokevirtual 386, 3) := dk_182 1 130 (dk_at dksX0_shared_3 6 rfl rfl)
theorem dX0_shared_79 : decode cX0_shared 79 = .ok (.aload_n 0, 1) := dk_42 (dk_at dksX0_shared_3 9 rfl rfl)
theorem dX0_shared_80 : decode cX0_shared 80 = .ok (.getfield 374, 3) := dk_180 1 118 (dk_at dksX0_shared_3 10 rfl rfl)
theorem dX0_shared_83 : decode cX0_shared 83 = .ok (.ireturn, 1) := dk_172 (dk_at dksX0_shared_3 13 rfl rfl)
abbrev cX0_should : ByteArray := prog_1_method_68_code
def dkwX0_should_1 : List UInt8 := [180, 1, 143, 29, 27, 28, 182, 1, 153, 153, 0, 7, 4, 167, 0, 4, 3, 172]
abbrev dktX0_should_1 : List UInt8 := dkwX0_should_1 ++ []
def dkwX0_should_0 : List UInt8 := [42, 27, 28, 29, 182, 1, 166, 4, 160, 0, 10, 42, 180, 1, 137, 154, 0, 5, 2, 172, 42, 3, 42]
abbrev dktX0_should_0 : List UInt8 := dkwX0_should_0 ++ dktX0_should_1
theorem dksX0_should_0 : cX0_should.data.toList.drop 0 = dktX0_should_0 := by decide +kernel
theorem dksX0_should_1 : cX0_should.data.toList.drop 23 = dktX0_should_1 := dk_seg dksX0_should_0 23 rfl rfl
theorem dX0_should_0 : decode cX0_should 0 = .ok (.aload_n 0, 1) := dk_42 (dk_at dksX0_should_0 0 rfl rfl)
theorem dX0_should_1 : decode cX0_should 1 = .ok (.iload_n 1, 1) := dk_27 (dk_at dksX0_should_0 1 rfl rfl)
theorem dX0_should_2 : decode cX0_should 2 = .ok (.iload_n 2, 1) := dk_28 (dk_at dksX0_should_0 2 rfl rfl)
theorem dX0_should_3 : decode cX0_should 3 = .ok (.iload_n 3, 1) := dk_29 (dk_at dksX0_should_0 3 rfl rfl)
theorem dX0_should_4 : decode cX0_should 4 = .ok (.invokevirtual 422, 3) := dk_182 1 166 (dk_at dksX0_should_0 4 rfl rfl)
theorem dX0_should_7 : decode cX0_should 7 = .ok (.iconst 1, 1) := dk_4 (dk_at dksX0_should_0 7 rfl rfl)
theorem dX0_should_8 : decode cX0_should 8 = .ok (.if_icmp .ne 10, 3) := dk_160 0 10 (dk_at dksX0_should_0 8 rfl rfl)
theorem dX0_should_11 : decode cX0_should 11 = .ok (.aload_n 0, 1) := dk_42 (dk_at dksX0_should_0 11 rfl rfl)
theorem dX0_should_12 : decode cX0_should 12 = .ok (.getfield 393, 3) := dk_180 1 137 (dk_at dksX0_should_0 12 rfl rfl)
theorem dX0_should_15 : decode cX0_should 15 = .ok (.ifCond .ne 5, 3) := dk_154 0 5 (dk_at dksX0_should_0 15 rfl rfl)
theorem dX0_should_18 : decode cX0_should 18 = .ok (.iconst (-1), 1) := dk_2 (dk_at dksX0_should_0 18 rfl rfl)
theorem dX0_should_19 : decode cX0_should 19 = .ok (.ireturn, 1) := dk_172 (dk_at dksX0_should_0 19 rfl rfl)
theorem dX0_should_20 : decode cX0_should 20 = .ok (.aload_n 0, 1) := dk_42 (dk_at dksX0_should_0 20 rfl rfl)
theorem dX0_should_21 : decode cX0_should 21 = .ok (.iconst 0, 1) := dk_3 (dk_at dksX0_should_0 21 rfl rfl)
theorem dX0_should_22 : decode cX0_should 22 = .ok (.aload_n 0, 1) := dk_42 (dk_at dksX0_should_0 22 rfl rfl)
theorem dX0_should_23 : decode cX0_should 23 = .ok (.getfield 399, 3) := dk_180 1 143 (dk_at dksX0_should_1 0 rfl rfl)
theorem dX0_should_26 : decode cX0_should 26 = .ok (.iload_n 3, 1) := dk_29 (dk_at dksX0_should_1 3 rfl rfl)
theorem dX0_should_27 : decode cX0_should 27 = .ok (.iload_n 1, 1) := dk_27 (dk_at dksX0_should_1 4 rfl rfl)
theorem dX0_should_28 : decode cX0_should 28 = .ok (.iload_n 2, 1) := dk_28 (dk_at dksX0_should_1 5 rfl rfl)
theorem dX0_should_29 : decode cX0_should 29 = .ok (.invokevirtual 409, 3) := dk_182 1 153 (dk_at dksX0_should_1 6 rfl rfl)
theorem dX0_should_32 : decode cX0_should 32 = .ok (.ifCond .eq 7, 3) := dk_153 0 7 (dk_at dksX0_should_1 9 rfl rfl)
theorem dX0_should_35 : decode cX0_should 35 = .ok (.iconst 1, 1) := dk_4 (dk_at dksX0_should_1 12 rfl rfl)
theorem dX0_should_36 : decode cX0_should 36 = .ok (.goto 4, 3) := dk_167 0 4 (dk_at dksX0_should_1 13 rfl rfl)
theorem dX0_should_39 : decode cX0_should 39 = .ok (.iconst 0, 1) := dk_3 (dk_at dksX0_should_1 16 rfl rfl)
theorem dX0_should_40 : decode cX0_should 40 = .ok (.ireturn, 1) := dk_172 (dk_at dksX0_should_1 17 rfl rfl)
abbrev cX0_show : ByteArray := prog_1_method_27_code
def dkwX0_show_1 : List UInt8 := [187, 1, 20, 89, 27, 28, 42, 180, 1, 6, 183, 1, 22, 182, 1, 12, 172]
abbrev dktX0_show_1 : List UInt8 := dkwX0_show_1 ++ []
def dkwX0_show_0 : List UInt8 := [42, 27, 184, 1, 1, 153, 0, 18, 28, 4, 17, 0, 255, 184, 0, 161, 153, 0, 7, 4, 167, 0, 4, 3]
abbrev dktX0_show_0 : List UInt8 := dkwX0_show_0 ++ dktX0_show_1
theorem dksX0_show_0 : cX0_show.data.toList.drop 0 = dktX0_show_0 := by decide +kernel
theorem dksX0_show_1 : cX0_show.data.toList.drop 24 = dktX0_show_1 := dk_seg dksX0_show_0 24 rfl rfl
theorem dX0_show_0 : decode cX0_show 0 = .ok (.aload_n 0, 1) := dk_42 (dk_at dksX0_show_0 0 rfl rfl)
theorem dX0_show_1 : decode cX0_show 1 = .ok (.iload_n 1, 1) := dk_27 (dk_at dksX0_show_0 1 rfl rfl)
theorem dX0_show_2 : decode cX0_show 2 = .ok (.invokestatic 257, 3) := dk_184 1 1 (dk_at dksX0_show_0 2 rfl rfl)
theorem dX0_show_5 : decode cX0_show 5 = .ok (.ifCond .eq 18, 3) := dk_153 0 18 (dk_at dksX0_show_0 5 rfl rfl)
theorem dX0_show_8 : decode cX0_show 8 = .ok (.iload_n 2, 1) := dk_28 (dk_at dksX0_show_0 8 rfl rfl)
theorem dX0_show_9 : decode cX0_show 9 = .ok (.iconst 1, 1) := dk_4 (dk_at dksX0_show_0 9 rfl rfl)
theorem dX0_show_10 : decode cX0_show 10 = .ok (.sipush 255, 3) := dk_17 0 255 (dk_at dksX0_show_0 10 rfl rfl)
theorem dX0_show_13 : decode cX0_show 13 = .ok (.invokestatic 161, 3) := dk_184 0 161 (dk_at dksX0_show_0 13 rfl rfl)
theorem dX0_show_16 : decode cX0_show 16 = .ok (.ifCond .eq 7, 3) := dk_153 0 7 (dk_at dksX0_show_0 16 rfl rfl)
theorem dX0_show_19 : decode cX0_show 19 = .ok (.iconst 1, 1) := dk_4 (dk_at dksX0_show_0 19 rfl rfl)
theorem dX0_show_20 : decode cX0_show 20 = .ok (.goto 4, 3) := dk_167 0 4 (dk_at dksX0_show_0 20 rfl rfl)
theorem dX0_show_23 : decode cX0_show 23 = .ok (.iconst 0, 1) := dk_3 (dk_at dksX0_show_0 23 rfl rfl)
theorem dX0_show_24 : decode cX0_show 24 = .ok (.new 276, 3) := dk_187 1 20 (dk_at dksX0_show_1 0 rfl rfl)
theorem dX0_show_27 : decode cX0_show 27 = .ok (.dup, 1) := dk_89 (dk_at dksX0_show_1 3 rfl rfl)
theorem dX0_show_28 : decode cX0_show 28 = .ok (.iload_n 1, 1) := dk_27 (dk_at dksX0_show_1 4 rfl rfl)
theorem dX0_show_29 : decode cX0_show 29 = .ok (.iload_n 2, 1) := dk_28 (dk_at dksX0_show_1 5 rfl rfl)
theorem dX0_show_30 : decode cX0_show 30 = .ok (.aload_n 0, 1) := dk_42 (dk_at dksX0_show_1 6 rfl rfl)
theorem dX0_show_31 : decode cX0_show 31 = .ok (.getfield 262, 3) := dk_180 1 6 (dk_at dksX0_show_1 7 rfl rfl)
theorem dX0_show_34 : decode cX0_show 34 = .ok (.invokespecial 278, 3) := dk_183 1 22 (dk_at dksX0_show_1 10 rfl rfl)
theorem dX0_show_37 : decode cX0_show 37 = .ok (.invokevirtual 268, 3) := dk_182 1 12 (dk_at dksX0_show_1 13 rfl rfl)
theorem dX0_show_40 : decode cX0_show 40 = .ok (.ireturn, 1) := dk_172 (dk_at dksX0_show_1 16 rfl rfl)
abbrev cX0_soonest : ByteArray := prog_1_method_50_code
def dkwX0_soonest_20 : List UInt8 := [28, 46, 104, 21, 7, 96, 172]
abbrev dktX0_soonest_20 : List UInt8 := dkwX0_soonest_20 ++ []
def dkwX0_soonest_19 : List UInt8 := [132, 8, 1, 167, 255, 201, 21, 7, 156, 0, 7, 2, 167, 0, 18, 16, 100, 42, 180, 0, 95, 21, 7, 50]
abbrev dktX0_soonest_19 : List UInt8 := dkwX0_soonest_19 ++ dktX0_soonest_20
def dkwX0_soonest_18 : List UInt8 := [180, 0, 95, 21, 8, 50, 28, 46, 42, 180, 0, 95, 21, 7, 50, 28, 46, 162, 0, 7, 21, 8, 54, 7]
abbrev dktX0_soonest_18 : List UInt8 := dkwX0_soonest_18 ++ dktX0_soonest_19
def dkwX0_soonest_17 : List UInt8 := [163, 0, 54, 42, 180, 0, 95, 21, 8, 50, 28, 46, 19, 1, 29, 162, 0, 33, 21, 7, 155, 0, 24, 42]
abbrev dktX0_soonest_17 : List UInt8 := dkwX0_soonest_17 ++ dktX0_soonest_18
def dkwX0_soonest_16 : List UInt8 := [132, 8, 1, 167, 255, 5, 132, 7, 1, 167, 254, 245, 2, 54, 7, 3, 54, 8, 21, 8, 21, 6]
abbrev dktX0_soonest_16 : List UInt8 := dkwX0_soonest_16 ++ dktX0_soonest_17
def dkwX0_soonest_15 : List UInt8 := [180, 0, 95, 21, 7, 50, 21, 8, 46, 6, 96, 21, 6, 182, 1, 98, 132, 9, 1, 167, 255, 40]
abbrev dktX0_soonest_15 : List UInt8 := dkwX0_soonest_15 ++ dktX0_soonest_16
def dkwX0_soonest_14 : List UInt8 := [21, 4, 16, 9, 182, 0, 250, 153, 0, 33, 42, 21, 7, 5, 96, 16, 8, 21, 11, 104, 21, 10, 96, 42]
abbrev dktX0_soonest_14 : List UInt8 := dkwX0_soonest_14 ++ dktX0_soonest_15
def dkwX0_soonest_13 : List UInt8 := [21, 10, 96, 42, 180, 0, 95, 21, 7, 50, 21, 8, 46, 4, 96, 21, 6, 182, 1, 98, 42, 29, 21, 12]
abbrev dktX0_soonest_13 : List UInt8 := dkwX0_soonest_13 ++ dktX0_soonest_14
def dkwX0_soonest_12 : List UInt8 := [42, 29, 21, 12, 21, 4, 16, 20, 182, 0, 250, 153, 0, 33, 42, 21, 7, 6, 96, 16, 8, 21, 11, 104]
abbrev dktX0_soonest_12 : List UInt8 := dkwX0_soonest_12 ++ dktX0_soonest_13
def dkwX0_soonest_11 : List UInt8 := [167, 0, 4, 2, 54, 12, 21, 12, 156, 0, 6, 167, 0, 101, 21, 5, 21, 12, 122, 4, 126, 154, 0, 47]
abbrev dktX0_soonest_11 : List UInt8 := dkwX0_soonest_11 ++ dktX0_soonest_12
def dkwX0_soonest_10 : List UInt8 := [184, 0, 161, 153, 0, 22, 42, 180, 0, 52, 180, 1, 95, 16, 8, 21, 11, 104, 21, 10, 96, 46]
abbrev dktX0_soonest_10 : List UInt8 := dkwX0_soonest_10 ++ dktX0_soonest_11
def dkwX0_soonest_9 : List UInt8 := [167, 0, 4, 3, 96, 54, 11, 21, 10, 3, 16, 7, 184, 0, 161, 153, 0, 33, 21, 11, 3, 16, 7]
abbrev dktX0_soonest_9 : List UInt8 := dkwX0_soonest_9 ++ dktX0_soonest_10
def dkwX0_soonest_8 : List UInt8 := [21, 8, 16, 8, 108, 21, 9, 5, 160, 0, 7, 4, 167, 0, 14, 21, 9, 6, 160, 0, 7, 2]
abbrev dktX0_soonest_8 : List UInt8 := dkwX0_soonest_8 ++ dktX0_soonest_9
def dkwX0_soonest_7 : List UInt8 := [21, 9, 154, 0, 7, 4, 167, 0, 14, 21, 9, 4, 160, 0, 7, 2, 167, 0, 4, 3, 96, 54, 10]
abbrev dktX0_soonest_7 : List UInt8 := dkwX0_soonest_7 ++ dktX0_soonest_8
def dkwX0_soonest_6 : List UInt8 := [46, 19, 1, 29, 160, 0, 6, 167, 0, 225, 3, 54, 9, 21, 9, 7, 162, 0, 216, 21, 8, 16, 8, 112]
abbrev dktX0_soonest_6 : List UInt8 := dkwX0_soonest_6 ++ dktX0_soonest_7
def dkwX0_soonest_5 : List UInt8 := [21, 6, 163, 1, 10, 3, 54, 8, 21, 8, 16, 64, 162, 0, 250, 42, 180, 0, 95, 21, 7, 50, 21, 8]
abbrev dktX0_soonest_5 : List UInt8 := dkwX0_soonest_5 ++ dktX0_soonest_6
def dkwX0_soonest_4 : List UInt8 := [167, 255, 233, 132, 7, 1, 167, 255, 217, 42, 180, 0, 95, 3, 50, 27, 3, 79, 3, 54, 7, 21, 7]
abbrev dktX0_soonest_4 : List UInt8 := dkwX0_soonest_4 ++ dktX0_soonest_5
def dkwX0_soonest_3 : List UInt8 := [21, 8, 16, 64, 162, 0, 22, 42, 180, 0, 95, 21, 7, 50, 21, 8, 19, 1, 29, 79, 132, 8, 1]
abbrev dktX0_soonest_3 : List UInt8 := dkwX0_soonest_3 ++ dktX0_soonest_4
def dkwX0_soonest_2 : List UInt8 := [16, 99, 184, 0, 161, 154, 0, 5, 2, 172, 3, 54, 7, 21, 7, 21, 6, 163, 0, 38, 3, 54, 8]
abbrev dktX0_soonest_2 : List UInt8 := dkwX0_soonest_2 ++ dktX0_soonest_3
def dkwX0_soonest_1 : List UInt8 := [16, 23, 184, 0, 161, 153, 0, 26, 21, 5, 3, 17, 0, 255, 184, 0, 161, 153, 0, 14, 21, 6, 3]
abbrev dktX0_soonest_1 : List UInt8 := dkwX0_soonest_1 ++ dktX0_soonest_2
def dkwX0_soonest_0 : List UInt8 := [27, 184, 1, 92, 153, 0, 51, 28, 184, 1, 92, 153, 0, 44, 29, 184, 0, 165, 153, 0, 37, 21, 4, 3]
abbrev dktX0_soonest_0 : List UInt8 := dkwX0_soonest_0 ++ dktX0_soonest_1
theorem dksX0_soonest_0 : cX0_soonest.data.toList.drop 0 = dktX0_soonest_0 := by decide +kernel
theorem dksX0_soonest_1 : cX0_soonest.data.toList.drop 24 = dktX0_soonest_1 := dk_seg dksX0_soonest_0 24 rfl rfl
theorem dksX0_soonest_2 : cX0_soonest.data.toList.drop 47 = dktX0_soonest_2 := dk_seg dksX0_soonest_1 23 rfl rfl
theorem dksX0_soonest_3 : cX0_soonest.data.toList.drop 70 = dktX0_soonest_3 := dk_seg dksX0_soonest_2 23 rfl rfl
theorem dksX0_soonest_4 : cX0_soonest.data.toList.drop 93 = dktX0_soonest_4 := dk_seg dksX0_soonest_3 23 rfl rfl
theorem dksX0_soonest_5 : cX0_soonest.data.toList.drop 116 = dktX0_soonest_5 := dk_seg dksX0_soonest_4 23 rfl rfl
theorem dksX0_soonest_6 : cX0_soonest.data.toList.drop 140 = dktX0_soonest_6 := dk_seg dksX0_soonest_5 24 rfl rfl
theorem dksX0_soonest_7 : cX0_soonest.data.toList.drop 164 = dktX0_soonest_7 := dk_seg dksX0_soonest_6 24 rfl rfl
theorem dksX0_soonest_8 : cX0_soonest.data.toList.drop 187 = dktX0_soonest_8 := dk_seg dksX0_soonest_7 23 rfl rfl
theorem dksX0_soonest_9 : cX0_soonest.data.toList.drop 209 = dktX0_soonest_9 := dk_seg dksX0_soonest_8 22 rfl rfl
theorem dksX0_soonest_10 : cX0_soonest.data.toList.drop 232 = dktX0_soonest_10 := dk_seg dksX0_soonest_9 23 rfl rfl
theorem dksX0_soonest_11 : cX0_soonest.data.toList.drop 254 = dktX0_soonest_11 := dk_seg dksX0_soonest_10 22 rfl rfl
theorem dksX0_soonest_12 : cX0_soonest.data.toList.drop 278 = dktX0_soonest_12 := dk_seg dksX0_soonest_11 24 rfl rfl
theorem dksX0_soonest_13 : cX0_soonest.data.toList.drop 302 = dktX0_soonest_13 := dk_seg dksX0_soonest_12 24 rfl rfl
theorem dksX0_soonest_14 : cX0_soonest.data.toList.drop 326 = dktX0_soonest_14 := dk_seg dksX0_soonest_13 24 rfl rfl
theorem dksX0_soonest_15 : cX0_soonest.data.toList.drop 350 = dktX0_soonest_15 := dk_seg dksX0_soonest_14 24 rfl rfl
theorem dksX0_soonest_16 : cX0_soonest.data.toList.drop 372 = dktX0_soonest_16 := dk_seg dksX0_soonest_15 22 rfl rfl
theorem dksX0_soonest_17 : cX0_soonest.data.toList.drop 394 = dktX0_soonest_17 := dk_seg dksX0_soonest_16 22 rfl rfl
theorem dksX0_soonest_18 : cX0_soonest.data.toList.drop 418 = dktX0_soonest_18 := dk_seg dksX0_soonest_17 24 rfl rfl
theorem dksX0_soonest_19 : cX0_soonest.data.toList.drop 442 = dktX0_soonest_19 := dk_seg dksX0_soonest_18 24 rfl rfl
theorem dksX0_soonest_20 : cX0_soonest.data.toList.drop 466 = dktX0_soonest_20 := dk_seg dksX0_soonest_19 24 rfl rfl
theorem dX0_soonest_0 : decode cX0_soonest 0 = .ok (.iload_n 1, 1) := dk_27 (dk_at dksX0_soonest_0 0 rfl rfl)
theorem dX0_soonest_1 : decode cX0_soonest 1 = .ok (.invokestatic 348, 3) := dk_184 1 92 (dk_at dksX0_soonest_0 1 rfl rfl)
theorem dX0_soonest_4 : decode cX0_soonest 4 = .ok (.ifCond .eq 51, 3) := dk_153 0 51 (dk_at dksX0_soonest_0 4 rfl rfl)
theorem dX0_soonest_7 : decode cX0_soonest 7 = .ok (.iload_n 2, 1) := dk_28 (dk_at dksX0_soonest_0 7 rfl rfl)
theorem dX0_soonest_8 : decode cX0_soonest 8 = .ok (.invokestatic 348, 3) := dk_184 1 92 (dk_at dksX0_soonest_0 8 rfl rfl)
theorem dX0_soonest_11 : decode cX0_soonest 11 = .ok (.ifCond .eq 44, 3) := dk_153 0 44 (dk_at dksX0_soonest_0 11 rfl rfl)
theorem dX0_soonest_14 : decode cX0_soonest 14 = .ok (.iload_n 3, 1) := dk_29 (dk_at dksX0_soonest_0 14 rfl rfl)
theorem dX0_soonest_15 : decode cX0_soonest 15 = .ok (.invokestatic 165, 3) := dk_184 0 165 (dk_at dksX0_soonest_0 15 rfl rfl)
theorem dX0_soonest_18 : decode cX0_soonest 18 = .ok (.ifCond .eq 37, 3) := dk_153 0 37 (dk_at dksX0_soonest_0 18 rfl rfl)
theorem dX0_soonest_21 : decode cX0_soonest 21 = .ok (.iload 4, 2) := dk_21 4 (dk_at dksX0_soonest_0 21 rfl rfl)
theorem dX0_soonest_23 : decode cX0_soonest 23 = .ok (.iconst 0, 1) := dk_3 (dk_at dksX0_soonest_0 23 rfl rfl)
theorem dX0_soonest_24 : decode cX0_soonest 24 = .ok (.bipush 23, 2) := dk_16 23 (dk_at dksX0_soonest_1 0 rfl rfl)
theorem dX0_soonest_26 : decode cX0_soonest 26 = .ok (.invokestatic 161, 3) := dk_184 0 161 (dk_at dksX0_soonest_1 2 rfl rfl)
theorem dX0_soonest_29 : decode cX0_soonest 29 = .ok (.ifCond .eq 26, 3) := dk_153 0 26 (dk_at dksX0_soonest_1 5 rfl rfl)
theorem dX0_soonest_32 : decode cX0_soonest 32 = .ok (.iload 5, 2) := dk_21 5 (dk_at dksX0_soonest_1 8 rfl rfl)
theorem dX0_soonest_34 : decode cX0_soonest 34 = .ok (.iconst 0, 1) := dk_3 (dk_at dksX0_soonest_1 10 rfl rfl)
theorem dX0_soonest_35 : decode cX0_soonest 35 = .ok (.sipush 255, 3) := dk_17 0 255 (dk_at dksX0_soonest_1 11 rfl rfl)
theorem dX0_soonest_38 : decode cX0_soonest 38 = .ok (.invokestatic 161, 3) := dk_184 0 161 (dk_at dksX0_soonest_1 14 rfl rfl)
theorem dX0_soonest_41 : decode cX0_soonest 41 = .ok (.ifCond .eq 14, 3) := dk_153 0 14 (dk_at dksX0_soonest_1 17 rfl rfl)
theorem dX0_soonest_44 : decode cX0_soonest 44 = .ok (.iload 6, 2) := dk_21 6 (dk_at dksX0_soonest_1 20 rfl rfl)
theorem dX0_soonest_46 : decode cX0_soonest 46 = .ok (.iconst 0, 1) := dk_3 (dk_at dksX0_soonest_1 22 rfl rfl)
theorem dX0_soonest_47 : decode cX0_soonest 47 = .ok (.bipush 99, 2) := dk_16 99 (dk_at dksX0_soonest_2 0 rfl rfl)
theorem dX0_soonest_49 : decode cX0_soonest 49 = .ok (.invokestatic 161, 3) := dk_184 0 161 (dk_at dksX0_soonest_2 2 rfl rfl)
theorem dX0_soonest_52 : decode cX0_soonest 52 = .ok (.ifCond .ne 5, 3) := dk_154 0 5 (dk_at dksX0_soonest_2 5 rfl rfl)
theorem dX0_soonest_55 : decode cX0_soonest 55 = .ok (.iconst (-1), 1) := dk_2 (dk_at dksX0_soonest_2 8 rfl rfl)
theorem dX0_soonest_56 : decode cX0_soonest 56 = .ok (.ireturn, 1) := dk_172 (dk_at dksX0_soonest_2 9 rfl rfl)
theorem dX0_soonest_57 : decode cX0_soonest 57 = .ok (.iconst 0, 1) := dk_3 (dk_at dksX0_soonest_2 10 rfl rfl)
theorem dX0_soonest_58 : decode cX0_soonest 58 = .ok (.istore 7, 2) := dk_54 7 (dk_at dksX0_soonest_2 11 rfl rfl)
theorem dX0_soonest_60 : decode cX0_soonest 60 = .ok (.iload 7, 2) := dk_21 7 (dk_at dksX0_soonest_2 13 rfl rfl)
theorem dX0_soonest_62 : decode cX0_soonest 62 = .ok (.iload 6, 2) := dk_21 6 (dk_at dksX0_soonest_2 15 rfl rfl)
theorem dX0_soonest_64 : decode cX0_soonest 64 = .ok (.if_icmp .gt 38, 3) := dk_163 0 38 (dk_at dksX0_soonest_2 17 rfl rfl)
theorem dX0_soonest_67 : decode cX0_soonest 67 = .ok (.iconst 0, 1) := dk_3 (dk_at dksX0_soonest_2 20 rfl rfl)
theorem dX0_soonest_68 : decode cX0_soonest 68 = .ok (.istore 8, 2) := dk_54 8 (dk_at dksX0_soonest_2 21 rfl rfl)
theorem dX0_soonest_70 : decode cX0_soonest 70 = .ok (.iload 8, 2) := dk_21 8 (dk_at dksX0_soonest_3 0 rfl rfl)
theorem dX0_soonest_72 : decode cX0_soonest 72 = .ok (.bipush 64, 2) := dk_16 64 (dk_at dksX0_soonest_3 2 rfl rfl)
theorem dX0_soonest_74 : decode cX0_soonest 74 = .ok (.if_icmp .ge 22, 3) := dk_162 0 22 (dk_at dksX0_soonest_3 4 rfl rfl)
theorem dX0_soonest_77 : decode cX0_soonest 77 = .ok (.aload_n 0, 1) := dk_42 (dk_at dksX0_soonest_3 7 rfl rfl)
theorem dX0_soonest_78 : decode cX0_soonest 78 = .ok (.getfield 95, 3) := dk_180 0 95 (dk_at dksX0_soonest_3 8 rfl rfl)
theorem dX0_soonest_81 : decode cX0_soonest 81 = .ok (.iload 7, 2) := dk_21 7 (dk_at dksX0_soonest_3 11 rfl rfl)
theorem dX0_soonest_83 : decode cX0_soonest 83 = .ok (.aaload, 1) := dk_50 (dk_at dksX0_soonest_3 13 rfl rfl)
theorem dX0_soonest_84 : decode cX0_soonest 84 = .ok (.iload 8, 2) := dk_21 8 (dk_at dksX0_soonest_3 14 rfl rfl)
theorem dX0_soonest_86 : decode cX0_soonest 86 = .ok (.ldc_w 285, 3) := dk_19 1 29 (dk_at dksX0_soonest_3 16 rfl rfl)
theorem dX0_soonest_89 : decode cX0_soonest 89 = .ok (.iastore, 1) := dk_79 (dk_at dksX0_soonest_3 19 rfl rfl)
theorem dX0_soonest_90 : decode cX0_soonest 90 = .ok (.iinc 8 1, 3) := dk_132 8 1 (dk_at dksX0_soonest_3 20 rfl rfl)
theorem dX0_soonest_93 : decode cX0_soonest 93 = .ok (.goto (-23), 3) := dk_167 255 233 (dk_at dksX0_soonest_4 0 rfl rfl)
theorem dX0_soonest_96 : decode cX0_soonest 96 = .ok (.iinc 7 1, 3) := dk_132 7 1 (dk_at dksX0_soonest_4 3 rfl rfl)
theorem dX0_soonest_99 : decode cX0_soonest 99 = .ok (.goto (-39), 3) := dk_167 255 217 (dk_at dksX0_soonest_4 6 rfl rfl)
theorem dX0_soonest_102 : decode cX0_soonest 102 = .ok (.aload_n 0, 1) := dk_42 (dk_at dksX0_soonest_4 9 rfl rfl)
theorem dX0_soonest_103 : decode cX0_soonest 103 = .ok (.getfield 95, 3) := dk_180 0 95 (dk_at dksX0_soonest_4 10 rfl rfl)
theorem dX0_soonest_106 : decode cX0_soonest 106 = .ok (.iconst 0, 1) := dk_3 (dk_at dksX0_soonest_4 13 rfl rfl)
theorem dX0_soonest_107 : decode cX0_soonest 107 = .ok (.aaload, 1) := dk_50 (dk_at dksX0_soonest_4 14 rfl rfl)
theorem dX0_soonest_108 : decode cX0_soonest 108 = .ok (.iload_n 1, 1) := dk_27 (dk_at dksX0_soonest_4 15 rfl rfl)
theorem dX0_soonest_109 : decode cX0_soonest 109 = .ok (.iconst 0, 1) := dk_3 (dk_at dksX0_soonest_4 16 rfl rfl)
theorem dX0_soonest_110 : decode cX0_soonest 110 = .ok (.iastore, 1) := dk_79 (dk_at dksX0_soonest_4 17 rfl rfl)
theorem dX0_soonest_111 : decode cX0_soonest 111 = .ok (.iconst 0, 1) := dk_3 (dk_at dksX0_soonest_4 18 rfl rfl)
theorem dX0_soonest_112 : decode cX0_soonest 112 = .ok (.istore 7, 2) := dk_54 7 (dk_at dksX0_soonest_4 19 rfl rfl)
theorem dX0_soonest_114 : decode cX0_soonest 114 = .ok (.iload 7, 2) := dk_21 7 (dk_at dksX0_soonest_4 21 rfl rfl)
theorem dX0_soonest_116 : decode cX0_soonest 116 = .ok (.iload 6, 2) := dk_21 6 (dk_at dksX0_soonest_5 0 rfl rfl)
theorem dX0_soonest_118 : decode cX0_soonest 118 = .ok (.if_icmp .gt 266, 3) := dk_163 1 10 (dk_at dksX0_soonest_5 2 rfl rfl)
theorem dX0_soonest_121 : decode cX0_soonest 121 = .ok (.iconst 0, 1) := dk_3 (dk_at dksX0_soonest_5 5 rfl rfl)
theorem dX0_soonest_122 : decode cX0_soonest 122 = .ok (.istore 8, 2) := dk_54 8 (dk_at dksX0_soonest_5 6 rfl rfl)
theorem dX0_soonest_124 : decode cX0_soonest 124 = .ok (.iload 8, 2) := dk_21 8 (dk_at dksX0_soonest_5 8 rfl rfl)
theorem dX0_soonest_126 : decode cX0_soonest 126 = .ok (.bipush 64, 2) := dk_16 64 (dk_at dksX0_soonest_5 10 rfl rfl)
theorem dX0_soonest_128 : decode cX0_soonest 128 = .ok (.if_icmp .ge 250, 3) := dk_162 0 250 (dk_at dksX0_soonest_5 12 rfl rfl)
theorem dX0_soonest_131 : decode cX0_soonest 131 = .ok (.aload_n 0, 1) := dk_42 (dk_at dksX0_soonest_5 15 rfl rfl)
theorem dX0_soonest_132 : decode cX0_soonest 132 = .ok (.getfield 95, 3) := dk_180 0 95 (dk_at dksX0_soonest_5 16 rfl rfl)
theorem dX0_soonest_135 : decode cX0_soonest 135 = .ok (.iload 7, 2) := dk_21 7 (dk_at dksX0_soonest_5 19 rfl rfl)
theorem dX0_soonest_137 : decode cX0_soonest 137 = .ok (.aaload, 1) := dk_50 (dk_at dksX0_soonest_5 21 rfl rfl)
theorem dX0_soonest_138 : decode cX0_soonest 138 = .ok (.iload 8, 2) := dk_21 8 (dk_at dksX0_soonest_5 22 rfl rfl)
theorem dX0_soonest_140 : decode cX0_soonest 140 = .ok (.iaload, 1) := dk_46 (dk_at dksX0_soonest_6 0 rfl rfl)
theorem dX0_soonest_141 : decode cX0_soonest 141 = .ok (.ldc_w 285, 3) := dk_19 1 29 (dk_at dksX0_soonest_6 1 rfl rfl)
theorem dX0_soonest_144 : decode cX0_soonest 144 = .ok (.if_icmp .ne 6, 3) := dk_160 0 6 (dk_at dksX0_soonest_6 4 rfl rfl)
theorem dX0_soonest_147 : decode cX0_soonest 147 = .ok (.goto 225, 3) := dk_167 0 225 (dk_at dksX0_soonest_6 7 rfl rfl)
theorem dX0_soonest_150 : decode cX0_soonest 150 = .ok (.iconst 0, 1) := dk_3 (dk_at dksX0_soonest_6 10 rfl rfl)
theorem dX0_soonest_151 : decode cX0_soonest 151 = .ok (.istore 9, 2) := dk_54 9 (dk_at dksX0_soonest_6 11 rfl rfl)
theorem dX0_soonest_153 : decode cX0_soonest 153 = .ok (.iload 9, 2) := dk_21 9 (dk_at dksX0_soonest_6 13 rfl rfl)
theorem dX0_soonest_155 : decode cX0_soonest 155 = .ok (.iconst 4, 1) := dk_7 (dk_at dksX0_soonest_6 15 rfl rfl)
theorem dX0_soonest_156 : decode cX0_soonest 156 = .ok (.if_icmp .ge 216, 3) := dk_162 0 216 (dk_at dksX0_soonest_6 16 rfl rfl)
theorem dX0_soonest_159 : decode cX0_soonest 159 = .ok (.iload 8, 2) := dk_21 8 (dk_at dksX0_soonest_6 19 rfl rfl)
theorem dX0_soonest_161 : decode cX0_soonest 161 = .ok (.bipush 8, 2) := dk_16 8 (dk_at dksX0_soonest_6 21 rfl rfl)
theorem dX0_soonest_163 : decode cX0_soonest 163 = .ok (.irem, 1) := dk_112 (dk_at dksX0_soonest_6 23 rfl rfl)
theorem dX0_soonest_164 : decode cX0_soonest 164 = .ok (.iload 9, 2) := dk_21 9 (dk_at dksX0_soonest_7 0 rfl rfl)
theorem dX0_soonest_166 : decode cX0_soonest 166 = .ok (.ifCond .ne 7, 3) := dk_154 0 7 (dk_at dksX0_soonest_7 2 rfl rfl)
theorem dX0_soonest_169 : decode cX0_soonest 169 = .ok (.iconst 1, 1) := dk_4 (dk_at dksX0_soonest_7 5 rfl rfl)
theorem dX0_soonest_170 : decode cX0_soonest 170 = .ok (.goto 14, 3) := dk_167 0 14 (dk_at dksX0_soonest_7 6 rfl rfl)
theorem dX0_soonest_173 : decode cX0_soonest 173 = .ok (.iload 9, 2) := dk_21 9 (dk_at dksX0_soonest_7 9 rfl rfl)
theorem dX0_soonest_175 : decode cX0_soonest 175 = .ok (.iconst 1, 1) := dk_4 (dk_at dksX0_soonest_7 11 rfl rfl)
theorem dX0_soonest_176 : decode cX0_soonest 176 = .ok (.if_icmp .ne 7, 3) := dk_160 0 7 (dk_at dksX0_soonest_7 12 rfl rfl)
theorem dX0_soonest_179 : decode cX0_soonest 179 = .ok (.iconst (-1), 1) := dk_2 (dk_at dksX0_soonest_7 15 rfl rfl)
theorem dX0_soonest_180 : decode cX0_soonest 180 = .ok (.goto 4, 3) := dk_167 0 4 (dk_at dksX0_soonest_7 16 rfl rfl)
theorem dX0_soonest_183 : decode cX0_soonest 183 = .ok (.iconst 0, 1) := dk_3 (dk_at dksX0_soonest_7 19 rfl rfl)
theorem dX0_soonest_184 : decode cX0_soonest 184 = .ok (.iadd, 1) := dk_96 (dk_at dksX0_soonest_7 20 rfl rfl)
theorem dX0_soonest_185 : decode cX0_soonest 185 = .ok (.istore 10, 2) := dk_54 10 (dk_at dksX0_soonest_7 21 rfl rfl)
theorem dX0_soonest_187 : decode cX0_soonest 187 = .ok (.iload 8, 2) := dk_21 8 (dk_at dksX0_soonest_8 0 rfl rfl)
theorem dX0_soonest_189 : decode cX0_soonest 189 = .ok (.bipush 8, 2) := dk_16 8 (dk_at dksX0_soonest_8 2 rfl rfl)
theorem dX0_soonest_191 : decode cX0_soonest 191 = .ok (.idiv, 1) := dk_108 (dk_at dksX0_soonest_8 4 rfl rfl)
theorem dX0_soonest_192 : decode cX0_soonest 192 = .ok (.iload 9, 2) := dk_21 9 (dk_at dksX0_soonest_8 5 rfl rfl)
theorem dX0_soonest_194 : decode cX0_soonest 194 = .ok (.iconst 2, 1) := dk_5 (dk_at dksX0_soonest_8 7 rfl rfl)
theorem dX0_soonest_195 : decode cX0_soonest 195 = .ok (.if_icmp .ne 7, 3) := dk_160 0 7 (dk_at dksX0_soonest_8 8 rfl rfl)
theorem dX0_soonest_198 : decode cX0_soonest 198 = .ok (.iconst 1, 1) := dk_4 (dk_at dksX0_soonest_8 11 rfl rfl)
theorem dX0_soonest_199 : decode cX0_soonest 199 = .ok (.goto 14, 3) := dk_167 0 14 (dk_at dksX0_soonest_8 12 rfl rfl)
theorem dX0_soonest_202 : decode cX0_soonest 202 = .ok (.iload 9, 2) := dk_21 9 (dk_at dksX0_soonest_8 15 rfl rfl)
theorem dX0_soonest_204 : decode cX0_soonest 204 = .ok (.iconst 3, 1) := dk_6 (dk_at dksX0_soonest_8 17 rfl rfl)
theorem dX0_soonest_205 : decode cX0_soonest 205 = .ok (.if_icmp .ne 7, 3) := dk_160 0 7 (dk_at dksX0_soonest_8 18 rfl rfl)
theorem dX0_soonest_208 : decode cX0_soonest 208 = .ok (.iconst (-1), 1) := dk_2 (dk_at dksX0_soonest_8 21 rfl rfl)
theorem dX0_soonest_209 : decode cX0_soonest 209 = .ok (.goto 4, 3) := dk_167 0 4 (dk_at dksX0_soonest_9 0 rfl rfl)
theorem dX0_soonest_212 : decode cX0_soonest 212 = .ok (.iconst 0, 1) := dk_3 (dk_at dksX0_soonest_9 3 rfl rfl)
theorem dX0_soonest_213 : decode cX0_soonest 213 = .ok (.iadd, 1) := dk_96 (dk_at dksX0_soonest_9 4 rfl rfl)
theorem dX0_soonest_214 : decode cX0_soonest 214 = .ok (.istore 11, 2) := dk_54 11 (dk_at dksX0_soonest_9 5 rfl rfl)
theorem dX0_soonest_216 : decode cX0_soonest 216 = .ok (.iload 10, 2) := dk_21 10 (dk_at dksX0_soonest_9 7 rfl rfl)
theorem dX0_soonest_218 : decode cX0_soonest 218 = .ok (.iconst 0, 1) := dk_3 (dk_at dksX0_soonest_9 9 rfl rfl)
theorem dX0_soonest_219 : decode cX0_soonest 219 = .ok (.bipush 7, 2) := dk_16 7 (dk_at dksX0_soonest_9 10 rfl rfl)
theorem dX0_soonest_221 : decode cX0_soonest 221 = .ok (.invokestatic 161, 3) := dk_184 0 161 (dk_at dksX0_soonest_9 12 rfl rfl)
theorem dX0_soonest_224 : decode cX0_soonest 224 = .ok (.ifCond .eq 33, 3) := dk_153 0 33 (dk_at dksX0_soonest_9 15 rfl rfl)
theorem dX0_soonest_227 : decode cX0_soonest 227 = .ok (.iload 11, 2) := dk_21 11 (dk_at dksX0_soonest_9 18 rfl rfl)
theorem dX0_soonest_229 : decode cX0_soonest 229 = .ok (.iconst 0, 1) := dk_3 (dk_at dksX0_soonest_9 20 rfl rfl)
theorem dX0_soonest_230 : decode cX0_soonest 230 = .ok (.bipush 7, 2) := dk_16 7 (dk_at dksX0_soonest_9 21 rfl rfl)
theorem dX0_soonest_232 : decode cX0_soonest 232 = .ok (.invokestatic 161, 3) := dk_184 0 161 (dk_at dksX0_soonest_10 0 rfl rfl)
theorem dX0_soonest_235 : decode cX0_soonest 235 = .ok (.ifCond .eq 22, 3) := dk_153 0 22 (dk_at dksX0_soonest_10 3 rfl rfl)
theorem dX0_soonest_238 : decode cX0_soonest 238 = .ok (.aload_n 0, 1) := dk_42 (dk_at dksX0_soonest_10 6 rfl rfl)
theorem dX0_soonest_239 : decode cX0_soonest 239 = .ok (.getfield 52, 3) := dk_180 0 52 (dk_at dksX0_soonest_10 7 rfl rfl)
theorem dX0_soonest_242 : decode cX0_soonest 242 = .ok (.getfield 351, 3) := dk_180 1 95 (dk_at dksX0_soonest_10 10 rfl rfl)
theorem dX0_soonest_245 : decode cX0_soonest 245 = .ok (.bipush 8, 2) := dk_16 8 (dk_at dksX0_soonest_10 13 rfl rfl)
theorem dX0_soonest_247 : decode cX0_soonest 247 = .ok (.iload 11, 2) := dk_21 11 (dk_at dksX0_soonest_10 15 rfl rfl)
theorem dX0_soonest_249 : decode cX0_soonest 249 = .ok (.imul, 1) := dk_104 (dk_at dksX0_soonest_10 17 rfl rfl)
theorem dX0_soonest_250 : decode cX0_soonest 250 = .ok (.iload 10, 2) := dk_21 10 (dk_at dksX0_soonest_10 18 rfl rfl)
theorem dX0_soonest_252 : decode cX0_soonest 252 = .ok (.iadd, 1) := dk_96 (dk_at dksX0_soonest_10 20 rfl rfl)
theorem dX0_soonest_253 : decode cX0_soonest 253 = .ok (.iaload, 1) := dk_46 (dk_at dksX0_soonest_10 21 rfl rfl)
theorem dX0_soonest_254 : decode cX0_soonest 254 = .ok (.goto 4, 3) := dk_167 0 4 (dk_at dksX0_soonest_11 0 rfl rfl)
theorem dX0_soonest_257 : decode cX0_soonest 257 = .ok (.iconst (-1), 1) := dk_2 (dk_at dksX0_soonest_11 3 rfl rfl)
theorem dX0_soonest_258 : decode cX0_soonest 258 = .ok (.istore 12, 2) := dk_54 12 (dk_at dksX0_soonest_11 4 rfl rfl)
theorem dX0_soonest_260 : decode cX0_soonest 260 = .ok (.iload 12, 2) := dk_21 12 (dk_at dksX0_soonest_11 6 rfl rfl)
theorem dX0_soonest_262 : decode cX0_soonest 262 = .ok (.ifCond .ge 6, 3) := dk_156 0 6 (dk_at dksX0_soonest_11 8 rfl rfl)
theorem dX0_soonest_265 : decode cX0_soonest 265 = .ok (.goto 101, 3) := dk_167 0 101 (dk_at dksX0_soonest_11 11 rfl rfl)
theorem dX0_soonest_268 : decode cX0_soonest 268 = .ok (.iload 5, 2) := dk_21 5 (dk_at dksX0_soonest_11 14 rfl rfl)
theorem dX0_soonest_270 : decode cX0_soonest 270 = .ok (.iload 12, 2) := dk_21 12 (dk_at dksX0_soonest_11 16 rfl rfl)
theorem dX0_soonest_272 : decode cX0_soonest 272 = .ok (.ishr, 1) := dk_122 (dk_at dksX0_soonest_11 18 rfl rfl)
theorem dX0_soonest_273 : decode cX0_soonest 273 = .ok (.iconst 1, 1) := dk_4 (dk_at dksX0_soonest_11 19 rfl rfl)
theorem dX0_soonest_274 : decode cX0_soonest 274 = .ok (.iand, 1) := dk_126 (dk_at dksX0_soonest_11 20 rfl rfl)
theorem dX0_soonest_275 : decode cX0_soonest 275 = .ok (.ifCond .ne 47, 3) := dk_154 0 47 (dk_at dksX0_soonest_11 21 rfl rfl)
theorem dX0_soonest_278 : decode cX0_soonest 278 = .ok (.aload_n 0, 1) := dk_42 (dk_at dksX0_soonest_12 0 rfl rfl)
theorem dX0_soonest_279 : decode cX0_soonest 279 = .ok (.iload_n 3, 1) := dk_29 (dk_at dksX0_soonest_12 1 rfl rfl)
theorem dX0_soonest_280 : decode cX0_soonest 280 = .ok (.iload 12, 2) := dk_21 12 (dk_at dksX0_soonest_12 2 rfl rfl)
theorem dX0_soonest_282 : decode cX0_soonest 282 = .ok (.iload 4, 2) := dk_21 4 (dk_at dksX0_soonest_12 4 rfl rfl)
theorem dX0_soonest_284 : decode cX0_soonest 284 = .ok (.bipush 20, 2) := dk_16 20 (dk_at dksX0_soonest_12 6 rfl rfl)
theorem dX0_soonest_286 : decode cX0_soonest 286 = .ok (.invokevirtual 250, 3) := dk_182 0 250 (dk_at dksX0_soonest_12 8 rfl rfl)
theorem dX0_soonest_289 : decode cX0_soonest 289 = .ok (.ifCond .eq 33, 3) := dk_153 0 33 (dk_at dksX0_soonest_12 11 rfl rfl)
theorem dX0_soonest_292 : decode cX0_soonest 292 = .ok (.aload_n 0, 1) := dk_42 (dk_at dksX0_soonest_12 14 rfl rfl)
theorem dX0_soonest_293 : decode cX0_soonest 293 = .ok (.iload 7, 2) := dk_21 7 (dk_at dksX0_soonest_12 15 rfl rfl)
theorem dX0_soonest_295 : decode cX0_soonest 295 = .ok (.iconst 3, 1) := dk_6 (dk_at dksX0_soonest_12 17 rfl rfl)
theorem dX0_soonest_296 : decode cX0_soonest 296 = .ok (.iadd, 1) := dk_96 (dk_at dksX0_soonest_12 18 rfl rfl)
theorem dX0_soonest_297 : decode cX0_soonest 297 = .ok (.bipush 8, 2) := dk_16 8 (dk_at dksX0_soonest_12 19 rfl rfl)
theorem dX0_soonest_299 : decode cX0_soonest 299 = .ok (.iload 11, 2) := dk_21 11 (dk_at dksX0_soonest_12 21 rfl rfl)
theorem dX0_soonest_301 : decode cX0_soonest 301 = .ok (.imul, 1) := dk_104 (dk_at dksX0_soonest_12 23 rfl rfl)
theorem dX0_soonest_302 : decode cX0_soonest 302 = .ok (.iload 10, 2) := dk_21 10 (dk_at dksX0_soonest_13 0 rfl rfl)
theorem dX0_soonest_304 : decode cX0_soonest 304 = .ok (.iadd, 1) := dk_96 (dk_at dksX0_soonest_13 2 rfl rfl)
theorem dX0_soonest_305 : decode cX0_soonest 305 = .ok (.aload_n 0, 1) := dk_42 (dk_at dksX0_soonest_13 3 rfl rfl)
theorem dX0_soonest_306 : decode cX0_soonest 306 = .ok (.getfield 95, 3) := dk_180 0 95 (dk_at dksX0_soonest_13 4 rfl rfl)
theorem dX0_soonest_309 : decode cX0_soonest 309 = .ok (.iload 7, 2) := dk_21 7 (dk_at dksX0_soonest_13 7 rfl rfl)
theorem dX0_soonest_311 : decode cX0_soonest 311 = .ok (.aaload, 1) := dk_50 (dk_at dksX0_soonest_13 9 rfl rfl)
theorem dX0_soonest_312 : decode cX0_soonest 312 = .ok (.iload 8, 2) := dk_21 8 (dk_at dksX0_soonest_13 10 rfl rfl)
theorem dX0_soonest_314 : decode cX0_soonest 314 = .ok (.iaload, 1) := dk_46 (dk_at dksX0_soonest_13 12 rfl rfl)
theorem dX0_soonest_315 : decode cX0_soonest 315 = .ok (.iconst 1, 1) := dk_4 (dk_at dksX0_soonest_13 13 rfl rfl)
theorem dX0_soonest_316 : decode cX0_soonest 316 = .ok (.iadd, 1) := dk_96 (dk_at dksX0_soonest_13 14 rfl rfl)
theorem dX0_soonest_317 : decode cX0_soonest 317 = .ok (.iload 6, 2) := dk_21 6 (dk_at dksX0_soonest_13 15 rfl rfl)
theorem dX0_soonest_319 : decode cX0_soonest 319 = .ok (.invokevirtual 354, 3) := dk_182 1 98 (dk_at dksX0_soonest_13 17 rfl rfl)
theorem dX0_soonest_322 : decode cX0_soonest 322 = .ok (.aload_n 0, 1) := dk_42 (dk_at dksX0_soonest_13 20 rfl rfl)
theorem dX0_soonest_323 : decode cX0_soonest 323 = .ok (.iload_n 3, 1) := dk_29 (dk_at dksX0_soonest_13 21 rfl rfl)
theorem dX0_soonest_324 : decode cX0_soonest 324 = .ok (.iload 12, 2) := dk_21 12 (dk_at dksX0_soonest_13 22 rfl rfl)
theorem dX0_soonest_326 : decode cX0_soonest 326 = .ok (.iload 4, 2) := dk_21 4 (dk_at dksX0_soonest_14 0 rfl rfl)
theorem dX0_soonest_328 : decode cX0_soonest 328 = .ok (.bipush 9, 2) := dk_16 9 (dk_at dksX0_soonest_14 2 rfl rfl)
theorem dX0_soonest_330 : decode cX0_soonest 330 = .ok (.invokevirtual 250, 3) := dk_182 0 250 (dk_at dksX0_soonest_14 4 rfl rfl)
theorem dX0_soonest_333 : decode cX0_soonest 333 = .ok (.ifCond .eq 33, 3) := dk_153 0 33 (dk_at dksX0_soonest_14 7 rfl rfl)
theorem dX0_soonest_336 : decode cX0_soonest 336 = .ok (.aload_n 0, 1) := dk_42 (dk_at dksX0_soonest_14 10 rfl rfl)
theorem dX0_soonest_337 : decode cX0_soonest 337 = .ok (.iload 7, 2) := dk_21 7 (dk_at dksX0_soonest_14 11 rfl rfl)
theorem dX0_soonest_339 : decode cX0_soonest 339 = .ok (.iconst 2, 1) := dk_5 (dk_at dksX0_soonest_14 13 rfl rfl)
theorem dX0_soonest_340 : decode cX0_soonest 340 = .ok (.iadd, 1) := dk_96 (dk_at dksX0_soonest_14 14 rfl rfl)
theorem dX0_soonest_341 : decode cX0_soonest 341 = .ok (.bipush 8, 2) := dk_16 8 (dk_at dksX0_soonest_14 15 rfl rfl)
theorem dX0_soonest_343 : decode cX0_soonest 343 = .ok (.iload 11, 2) := dk_21 11 (dk_at dksX0_soonest_14 17 rfl rfl)
theorem dX0_soonest_345 : decode cX0_soonest 345 = .ok (.imul, 1) := dk_104 (dk_at dksX0_soonest_14 19 rfl rfl)
theorem dX0_soonest_346 : decode cX0_soonest 346 = .ok (.iload 10, 2) := dk_21 10 (dk_at dksX0_soonest_14 20 rfl rfl)
theorem dX0_soonest_348 : decode cX0_soonest 348 = .ok (.iadd, 1) := dk_96 (dk_at dksX0_soonest_14 22 rfl rfl)
theorem dX0_soonest_349 : decode cX0_soonest 349 = .ok (.aload_n 0, 1) := dk_42 (dk_at dksX0_soonest_14 23 rfl rfl)
theorem dX0_soonest_350 : decode cX0_soonest 350 = .ok (.getfield 95, 3) := dk_180 0 95 (dk_at dksX0_soonest_15 0 rfl rfl)
theorem dX0_soonest_353 : decode cX0_soonest 353 = .ok (.iload 7, 2) := dk_21 7 (dk_at dksX0_soonest_15 3 rfl rfl)
theorem dX0_soonest_355 : decode cX0_soonest 355 = .ok (.aaload, 1) := dk_50 (dk_at dksX0_soonest_15 5 rfl rfl)
theorem dX0_soonest_356 : decode cX0_soonest 356 = .ok (.iload 8, 2) := dk_21 8 (dk_at dksX0_soonest_15 6 rfl rfl)
theorem dX0_soonest_358 : decode cX0_soonest 358 = .ok (.iaload, 1) := dk_46 (dk_at dksX0_soonest_15 8 rfl rfl)
theorem dX0_soonest_359 : decode cX0_soonest 359 = .ok (.iconst 3, 1) := dk_6 (dk_at dksX0_soonest_15 9 rfl rfl)
theorem dX0_soonest_360 : decode cX0_soonest 360 = .ok (.iadd, 1) := dk_96 (dk_at dksX0_soonest_15 10 rfl rfl)
theorem dX0_soonest_361 : decode cX0_soonest 361 = .ok (.iload 6, 2) := dk_21 6 (dk_at dksX0_soonest_15 11 rfl rfl)
theorem dX0_soonest_363 : decode cX0_soonest 363 = .ok (.invokevirtual 354, 3) := dk_182 1 98 (dk_at dksX0_soonest_15 13 rfl rfl)
theorem dX0_soonest_366 : decode cX0_soonest 366 = .ok (.iinc 9 1, 3) := dk_132 9 1 (dk_at dksX0_soonest_15 16 rfl rfl)
theorem dX0_soonest_369 : decode cX0_soonest 369 = .ok (.goto (-216), 3) := dk_167 255 40 (dk_at dksX0_soonest_15 19 rfl rfl)
theorem dX0_soonest_372 : decode cX0_soonest 372 = .ok (.iinc 8 1, 3) := dk_132 8 1 (dk_at dksX0_soonest_16 0 rfl rfl)
theorem dX0_soonest_375 : decode cX0_soonest 375 = .ok (.goto (-251), 3) := dk_167 255 5 (dk_at dksX0_soonest_16 3 rfl rfl)
theorem dX0_soonest_378 : decode cX0_soonest 378 = .ok (.iinc 7 1, 3) := dk_132 7 1 (dk_at dksX0_soonest_16 6 rfl rfl)
theorem dX0_soonest_381 : decode cX0_soonest 381 = .ok (.goto (-267), 3) := dk_167 254 245 (dk_at dksX0_soonest_16 9 rfl rfl)
theorem dX0_soonest_384 : decode cX0_soonest 384 = .ok (.iconst (-1), 1) := dk_2 (dk_at dksX0_soonest_16 12 rfl rfl)
theorem dX0_soonest_385 : decode cX0_soonest 385 = .ok (.istore 7, 2) := dk_54 7 (dk_at dksX0_soonest_16 13 rfl rfl)
theorem dX0_soonest_387 : decode cX0_soonest 387 = .ok (.iconst 0, 1) := dk_3 (dk_at dksX0_soonest_16 15 rfl rfl)
theorem dX0_soonest_388 : decode cX0_soonest 388 = .ok (.istore 8, 2) := dk_54 8 (dk_at dksX0_soonest_16 16 rfl rfl)
theorem dX0_soonest_390 : decode cX0_soonest 390 = .ok (.iload 8, 2) := dk_21 8 (dk_at dksX0_soonest_16 18 rfl rfl)
theorem dX0_soonest_392 : decode cX0_soonest 392 = .ok (.iload 6, 2) := dk_21 6 (dk_at dksX0_soonest_16 20 rfl rfl)
theorem dX0_soonest_394 : decode cX0_soonest 394 = .ok (.if_icmp .gt 54, 3) := dk_163 0 54 (dk_at dksX0_soonest_17 0 rfl rfl)
theorem dX0_soonest_397 : decode cX0_soonest 397 = .ok (.aload_n 0, 1) := dk_42 (dk_at dksX0_soonest_17 3 rfl rfl)
theorem dX0_soonest_398 : decode cX0_soonest 398 = .ok (.getfield 95, 3) := dk_180 0 95 (dk_at dksX0_soonest_17 4 rfl rfl)
theorem dX0_soonest_401 : decode cX0_soonest 401 = .ok (.iload 8, 2) := dk_21 8 (dk_at dksX0_soonest_17 7 rfl rfl)
theorem dX0_soonest_403 : decode cX0_soonest 403 = .ok (.aaload, 1) := dk_50 (dk_at dksX0_soonest_17 9 rfl rfl)
theorem dX0_soonest_404 : decode cX0_soonest 404 = .ok (.iload_n 2, 1) := dk_28 (dk_at dksX0_soonest_17 10 rfl rfl)
theorem dX0_soonest_405 : decode cX0_soonest 405 = .ok (.iaload, 1) := dk_46 (dk_at dksX0_soonest_17 11 rfl rfl)
theorem dX0_soonest_406 : decode cX0_soonest 406 = .ok (.ldc_w 285, 3) := dk_19 1 29 (dk_at dksX0_soonest_17 12 rfl rfl)
theorem dX0_soonest_409 : decode cX0_soonest 409 = .ok (.if_icmp .ge 33, 3) := dk_162 0 33 (dk_at dksX0_soonest_17 15 rfl rfl)
theorem dX0_soonest_412 : decode cX0_soonest 412 = .ok (.iload 7, 2) := dk_21 7 (dk_at dksX0_soonest_17 18 rfl rfl)
theorem dX0_soonest_414 : decode cX0_soonest 414 = .ok (.ifCond .lt 24, 3) := dk_155 0 24 (dk_at dksX0_soonest_17 20 rfl rfl)
theorem dX0_soonest_417 : decode cX0_soonest 417 = .ok (.aload_n 0, 1) := dk_42 (dk_at dksX0_soonest_17 23 rfl rfl)
theorem dX0_soonest_418 : decode cX0_soonest 418 = .ok (.getfield 95, 3) := dk_180 0 95 (dk_at dksX0_soonest_18 0 rfl rfl)
theorem dX0_soonest_421 : decode cX0_soonest 421 = .ok (.iload 8, 2) := dk_21 8 (dk_at dksX0_soonest_18 3 rfl rfl)
theorem dX0_soonest_423 : decode cX0_soonest 423 = .ok (.aaload, 1) := dk_50 (dk_at dksX0_soonest_18 5 rfl rfl)
theorem dX0_soonest_424 : decode cX0_soonest 424 = .ok (.iload_n 2, 1) := dk_28 (dk_at dksX0_soonest_18 6 rfl rfl)
theorem dX0_soonest_425 : decode cX0_soonest 425 = .ok (.iaload, 1) := dk_46 (dk_at dksX0_soonest_18 7 rfl rfl)
theorem dX0_soonest_426 : decode cX0_soonest 426 = .ok (.aload_n 0, 1) := dk_42 (dk_at dksX0_soonest_18 8 rfl rfl)
theorem dX0_soonest_427 : decode cX0_soonest 427 = .ok (.getfield 95, 3) := dk_180 0 95 (dk_at dksX0_soonest_18 9 rfl rfl)
theorem dX0_soonest_430 : decode cX0_soonest 430 = .ok (.iload 7, 2) := dk_21 7 (dk_at dksX0_soonest_18 12 rfl rfl)
theorem dX0_soonest_432 : decode cX0_soonest 432 = .ok (.aaload, 1) := dk_50 (dk_at dksX0_soonest_18 14 rfl rfl)
theorem dX0_soonest_433 : decode cX0_soonest 433 = .ok (.iload_n 2, 1) := dk_28 (dk_at dksX0_soonest_18 15 rfl rfl)
theorem dX0_soonest_434 : decode cX0_soonest 434 = .ok (.iaload, 1) := dk_46 (dk_at dksX0_soonest_18 16 rfl rfl)
theorem dX0_soonest_435 : decode cX0_soonest 435 = .ok (.if_icmp .ge 7, 3) := dk_162 0 7 (dk_at dksX0_soonest_18 17 rfl rfl)
theorem dX0_soonest_438 : decode cX0_soonest 438 = .ok (.iload 8, 2) := dk_21 8 (dk_at dksX0_soonest_18 20 rfl rfl)
theorem dX0_soonest_440 : decode cX0_soonest 440 = .ok (.istore 7, 2) := dk_54 7 (dk_at dksX0_soonest_18 22 rfl rfl)
theorem dX0_soonest_442 : decode cX0_soonest 442 = .ok (.iinc 8 1, 3) := dk_132 8 1 (dk_at dksX0_soonest_19 0 rfl rfl)
theorem dX0_soonest_445 : decode cX0_soonest 445 = .ok (.goto (-55), 3) := dk_167 255 201 (dk_at dksX0_soonest_19 3 rfl rfl)
theorem dX0_soonest_448 : decode cX0_soonest 448 = .ok (.iload 7, 2) := dk_21 7 (dk_at dksX0_soonest_19 6 rfl rfl)
theorem dX0_soonest_450 : decode cX0_soonest 450 = .ok (.ifCond .ge 7, 3) := dk_156 0 7 (dk_at dksX0_soonest_19 8 rfl rfl)
theorem dX0_soonest_453 : decode cX0_soonest 453 = .ok (.iconst (-1), 1) := dk_2 (dk_at dksX0_soonest_19 11 rfl rfl)
theorem dX0_soonest_454 : decode cX0_soonest 454 = .ok (.goto 18, 3) := dk_167 0 18 (dk_at dksX0_soonest_19 12 rfl rfl)
theorem dX0_soonest_457 : decode cX0_soonest 457 = .ok (.bipush 100, 2) := dk_16 100 (dk_at dksX0_soonest_19 15 rfl rfl)
theorem dX0_soonest_459 : decode cX0_soonest 459 = .ok (.aload_n 0, 1) := dk_42 (dk_at dksX0_soonest_19 17 rfl rfl)
theorem dX0_soonest_460 : decode cX0_soonest 460 = .ok (.getfield 95, 3) := dk_180 0 95 (dk_at dksX0_soonest_19 18 rfl rfl)
theorem dX0_soonest_463 : decode cX0_soonest 463 = .ok (.iload 7, 2) := dk_21 7 (dk_at dksX0_soonest_19 21 rfl rfl)
theorem dX0_soonest_465 : decode cX0_soonest 465 = .ok (.aaload, 1) := dk_50 (dk_at dksX0_soonest_19 23 rfl rfl)
theorem dX0_soonest_466 : decode cX0_soonest 466 = .ok (.iload_n 2, 1) := dk_28 (dk_at dksX0_soonest_20 0 rfl rfl)
theorem dX0_soonest_467 : decode cX0_soonest 467 = .ok (.iaload, 1) := dk_46 (dk_at dksX0_soonest_20 1 rfl rfl)
theorem dX0_soonest_468 : decode cX0_soonest 468 = .ok (.imul, 1) := dk_104 (dk_at dksX0_soonest_20 2 rfl rfl)
theorem dX0_soonest_469 : decode cX0_soonest 469 = .ok (.iload 7, 2) := dk_21 7 (dk_at dksX0_soonest_20 3 rfl rfl)
theorem dX0_soonest_471 : decode cX0_soonest 471 = .ok (.iadd, 1) := dk_96 (dk_at dksX0_soonest_20 5 rfl rfl)
theorem dX0_soonest_472 : decode cX0_soonest 472 = .ok (.ireturn, 1) := dk_172 (dk_at dksX0_soonest_20 6 rfl rfl)
abbrev cX0_stage : ByteArray := prog_1_method_58_code
def dkwX0_stage_2 : List UInt8 := [180, 1, 137, 28, 79, 42, 89, 180, 1, 137, 4, 96, 181, 1, 137, 42, 180, 1, 137, 4, 100, 172]
abbrev dktX0_stage_2 : List UInt8 := dkwX0_stage_2 ++ []
def dkwX0_stage_1 : List UInt8 := [16, 8, 160, 0, 5, 2, 172, 42, 180, 0, 113, 42, 180, 1, 137, 27, 79, 42, 180, 0, 116, 42]
abbrev dktX0_stage_1 : List UInt8 := dkwX0_stage_1 ++ dktX0_stage_2
def dkwX0_stage_0 : List UInt8 := [27, 3, 16, 30, 184, 0, 161, 153, 0, 22, 28, 3, 16, 10, 184, 0, 161, 153, 0, 12, 42, 180, 1, 137]
abbrev dktX0_stage_0 : List UInt8 := dkwX0_stage_0 ++ dktX0_stage_1
theorem dksX0_stage_0 : cX0_stage.data.toList.drop 0 = dktX0_stage_0 := by decide +kernel
theorem dksX0_stage_1 : cX0_stage.data.toList.drop 24 = dktX0_stage_1 := dk_seg dksX0_stage_0 24 rfl rfl
theorem dksX0_stage_2 : cX0_stage.data.toList.drop 46 = dktX0_stage_2 := dk_seg dksX0_stage_1 22 rfl rfl
theorem dX0_stage_0 : decode cX0_stage 0 = .ok (.iload_n 1, 1) := dk_27 (dk_at dksX0_stage_0 0 rfl rfl)
theorem dX0_stage_1 : decode cX0_stage 1 = .ok (.iconst 0, 1) := dk_3 (dk_at dksX0_stage_0 1 rfl rfl)
theorem dX0_stage_2 : decode cX0_stage 2 = .ok (.bipush 30, 2) := dk_16 30 (dk_at dksX0_stage_0 2 rfl rfl)
theorem dX0_stage_4 : decode cX0_stage 4 = .ok (.invokestatic 161, 3) := dk_184 0 161 (dk_at dksX0_stage_0 4 rfl rfl)
theorem dX0_stage_7 : decode cX0_stage 7 = .ok (.ifCond .eq 22, 3) := dk_153 0 22 (dk_at dksX0_stage_0 7 rfl rfl)
theorem dX0_stage_10 : decode cX0_stage 10 = .ok (.iload_n 2, 1) := dk_28 (dk_at dksX0_stage_0 10 rfl rfl)
theorem dX0_stage_11 : decode cX0_stage 11 = .ok (.iconst 0, 1) := dk_3 (dk_at dksX0_stage_0 11 rfl rfl)
theorem dX0_stage_12 : decode cX0_stage 12 = .ok (.bipush 10, 2) := dk_16 10 (dk_at dksX0_stage_0 12 rfl rfl)
theorem dX0_stage_14 : decode cX0_stage 14 = .ok (.invokestatic 161, 3) := dk_184 0 161 (dk_at dksX0_stage_0 14 rfl rfl)
theorem dX0_stage_17 : decode cX0_stage 17 = .ok (.ifCond .eq 12, 3) := dk_153 0 12 (dk_at dksX0_stage_0 17 rfl rfl)
theorem dX0_stage_20 : decode cX0_stage 20 = .ok (.aload_n 0, 1) := dk_42 (dk_at dksX0_stage_0 20 rfl rfl)
theorem dX0_stage_21 : decode cX0_stage 21 = .ok (.getfield 393, 3) := dk_180 1 137 (dk_at dksX0_stage_0 21 rfl rfl)
theorem dX0_stage_24 : decode cX0_stage 24 = .ok (.bipush 8, 2) := dk_16 8 (dk_at dksX0_stage_1 0 rfl rfl)
theorem dX0_stage_26 : decode cX0_stage 26 = .ok (.if_icmp .ne 5, 3) := dk_160 0 5 (dk_at dksX0_stage_1 2 rfl rfl)
theorem dX0_stage_29 : decode cX0_stage 29 = .ok (.iconst (-1), 1) := dk_2 (dk_at dksX0_stage_1 5 rfl rfl)
theorem dX0_stage_30 : decode cX0_stage 30 = .ok (.ireturn, 1) := dk_172 (dk_at dksX0_stage_1 6 rfl rfl)
theorem dX0_stage_31 : decode cX0_stage 31 = .ok (.aload_n 0, 1) := dk_42 (dk_at dksX0_stage_1 7 rfl rfl)
theorem dX0_stage_32 : decode cX0_stage 32 = .ok (.getfield 113, 3) := dk_180 0 113 (dk_at dksX0_stage_1 8 rfl rfl)
theorem dX0_stage_35 : decode cX0_stage 35 = .ok (.aload_n 0, 1) := dk_42 (dk_at dksX0_stage_1 11 rfl rfl)
theorem dX0_stage_36 : decode cX0_stage 36 = .ok (.getfield 393, 3) := dk_180 1 137 (dk_at dksX0_stage_1 12 rfl rfl)
theorem dX0_stage_39 : decode cX0_stage 39 = .ok (.iload_n 1, 1) := dk_27 (dk_at dksX0_stage_1 15 rfl rfl)
theorem dX0_stage_40 : decode cX0_stage 40 = .ok (.iastore, 1) := dk_79 (dk_at dksX0_stage_1 16 rfl rfl)
theorem dX0_stage_41 : decode cX0_stage 41 = .ok (.aload_n 0, 1) := dk_42 (dk_at dksX0_stage_1 17 rfl rfl)
theorem dX0_stage_42 : decode cX0_stage 42 = .ok (.getfield 116, 3) := dk_180 0 116 (dk_at dksX0_stage_1 18 rfl rfl)
theorem dX0_stage_45 : decode cX0_stage 45 = .ok (.aload_n 0, 1) := dk_42 (dk_at dksX0_stage_1 21 rfl rfl)
theorem dX0_stage_46 : decode cX0_stage 46 = .ok (.getfield 393, 3) := dk_180 1 137 (dk_at dksX0_stage_2 0 rfl rfl)
theorem dX0_stage_49 : decode cX0_stage 49 = .ok (.iload_n 2, 1) := dk_28 (dk_at dksX0_stage_2 3 rfl rfl)
theorem dX0_stage_50 : decode cX0_stage 50 = .ok (.iastore, 1) := dk_79 (dk_at dksX0_stage_2 4 rfl rfl)
theorem dX0_stage_51 : decode cX0_stage 51 = .ok (.aload_n 0, 1) := dk_42 (dk_at dksX0_stage_2 5 rfl rfl)
theorem dX0_stage_52 : decode cX0_stage 52 = .ok (.dup, 1) := dk_89 (dk_at dksX0_stage_2 6 rfl rfl)
theorem dX0_stage_53 : decode cX0_stage 53 = .ok (.getfield 393, 3) := dk_180 1 137 (dk_at dksX0_stage_2 7 rfl rfl)
theorem dX0_stage_56 : decode cX0_stage 56 = .ok (.iconst 1, 1) := dk_4 (dk_at dksX0_stage_2 10 rfl rfl)
theorem dX0_stage_57 : decode cX0_stage 57 = .ok (.iadd, 1) := dk_96 (dk_at dksX0_stage_2 11 rfl rfl)
theorem dX0_stage_58 : decode cX0_stage 58 = .ok (.putfield 393, 3) := dk_181 1 137 (dk_at dksX0_stage_2 12 rfl rfl)
theorem dX0_stage_61 : decode cX0_stage 61 = .ok (.aload_n 0, 1) := dk_42 (dk_at dksX0_stage_2 15 rfl rfl)
theorem dX0_stage_62 : decode cX0_stage 62 = .ok (.getfield 393, 3) := dk_180 1 137 (dk_at dksX0_stage_2 16 rfl rfl)
theorem dX0_stage_65 : decode cX0_stage 65 = .ok (.iconst 1, 1) := dk_4 (dk_at dksX0_stage_2 19 rfl rfl)
theorem dX0_stage_66 : decode cX0_stage 66 = .ok (.isub, 1) := dk_100 (dk_at dksX0_stage_2 20 rfl rfl)
theorem dX0_stage_67 : decode cX0_stage 67 = .ok (.ireturn, 1) := dk_172 (dk_at dksX0_stage_2 21 rfl rfl)
abbrev cX0_state : ByteArray := prog_1_method_41_code
def dkwX0_state_0 : List UInt8 := [26, 16, 8, 120, 27, 7, 120, 128, 28, 128, 172]
abbrev dktX0_state_0 : List UInt8 := dkwX0_state_0 ++ []
theorem dksX0_state_0 : cX0_state.data.toList.drop 0 = dktX0_state_0 := by decide +kernel
theorem dX0_state_0 : decode cX0_state 0 = .ok (.iload_n 0, 1) := dk_26 (dk_at dksX0_state_0 0 rfl rfl)
theorem dX0_state_1 : decode cX0_state 1 = .ok (.bipush 8, 2) := dk_16 8 (dk_at dksX0_state_0 1 rfl rfl)
theorem dX0_state_3 : decode cX0_state 3 = .ok (.ishl, 1) := dk_120 (dk_at dksX0_state_0 3 rfl rfl)
theorem dX0_state_4 : decode cX0_state 4 = .ok (.iload_n 1, 1) := dk_27 (dk_at dksX0_state_0 4 rfl rfl)
theorem dX0_state_5 : decode cX0_state 5 = .ok (.iconst 4, 1) := dk_7 (dk_at dksX0_state_0 5 rfl rfl)
theorem dX0_state_6 : decode cX0_state 6 = .ok (.ishl, 1) := dk_120 (dk_at dksX0_state_0 6 rfl rfl)
theorem dX0_state_7 : decode cX0_state 7 = .ok (.ior, 1) := dk_128 (dk_at dksX0_state_0 7 rfl rfl)
theorem dX0_state_8 : decode cX0_state 8 = .ok (.iload_n 2, 1) := dk_28 (dk_at dksX0_state_0 8 rfl rfl)
theorem dX0_state_9 : decode cX0_state 9 = .ok (.ior, 1) := dk_128 (dk_at dksX0_state_0 9 rfl rfl)
theorem dX0_state_10 : decode cX0_state 10 = .ok (.ireturn, 1) := dk_172 (dk_at dksX0_state_0 10 rfl rfl)
abbrev cX0_tell : ByteArray := prog_1_method_24_code
def dkwX0_tell_1 : List UInt8 := [182, 0, 254, 87, 42, 180, 0, 67, 182, 0, 181, 4, 100, 172]
abbrev dktX0_tell_1 : List UInt8 := dkwX0_tell_1 ++ []
def dkwX0_tell_0 : List UInt8 := [27, 153, 0, 16, 42, 180, 0, 67, 182, 0, 181, 17, 0, 200, 160, 0, 5, 2, 172, 42, 180, 0, 67, 44]
abbrev dktX0_tell_0 : List UInt8 := dkwX0_tell_0 ++ dktX0_tell_1
theorem dksX0_tell_0 : cX0_tell.data.toList.drop 0 = dktX0_tell_0 := by decide +kernel
theorem dksX0_tell_1 : cX0_tell.data.toList.drop 24 = dktX0_tell_1 := dk_seg dksX0_tell_0 24 rfl rfl
theorem dX0_tell_0 : decode cX0_tell 0 = .ok (.iload_n 1, 1) := dk_27 (dk_at dksX0_tell_0 0 rfl rfl)
theorem dX0_tell_1 : decode cX0_tell 1 = .ok (.ifCond .eq 16, 3) := dk_153 0 16 (dk_at dksX0_tell_0 1 rfl rfl)
theorem dX0_tell_4 : decode cX0_tell 4 = .ok (.aload_n 0, 1) := dk_42 (dk_at dksX0_tell_0 4 rfl rfl)
theorem dX0_tell_5 : decode cX0_tell 5 = .ok (.getfield 67, 3) := dk_180 0 67 (dk_at dksX0_tell_0 5 rfl rfl)
theorem dX0_tell_8 : decode cX0_tell 8 = .ok (.invokevirtual 181, 3) := dk_182 0 181 (dk_at dksX0_tell_0 8 rfl rfl)
theorem dX0_tell_11 : decode cX0_tell 11 = .ok (.sipush 200, 3) := dk_17 0 200 (dk_at dksX0_tell_0 11 rfl rfl)
theorem dX0_tell_14 : decode cX0_tell 14 = .ok (.if_icmp .ne 5, 3) := dk_160 0 5 (dk_at dksX0_tell_0 14 rfl rfl)
theorem dX0_tell_17 : decode cX0_tell 17 = .ok (.iconst (-1), 1) := dk_2 (dk_at dksX0_tell_0 17 rfl rfl)
theorem dX0_tell_18 : decode cX0_tell 18 = .ok (.ireturn, 1) := dk_172 (dk_at dksX0_tell_0 18 rfl rfl)
theorem dX0_tell_19 : decode cX0_tell 19 = .ok (.aload_n 0, 1) := dk_42 (dk_at dksX0_tell_0 19 rfl rfl)
theorem dX0_tell_20 : decode cX0_tell 20 = .ok (.getfield 67, 3) := dk_180 0 67 (dk_at dksX0_tell_0 20 rfl rfl)
theorem dX0_tell_23 : decode cX0_tell 23 = .ok (.aload_n 2, 1) := dk_44 (dk_at dksX0_tell_0 23 rfl rfl)
theorem dX0_tell_24 : decode cX0_tell 24 = .ok (.invokevirtual 254, 3) := dk_182 0 254 (dk_at dksX0_tell_1 0 rfl rfl)
theorem dX0_tell_27 : decode cX0_tell 27 = .ok (.pop, 1) := dk_87 (dk_at dksX0_tell_1 3 rfl rfl)
theorem dX0_tell_28 : decode cX0_tell 28 = .ok (.aload_n 0, 1) := dk_42 (dk_at dksX0_tell_1 4 rfl rfl)
theorem dX0_tell_29 : decode cX0_tell 29 = .ok (.getfield 67, 3) := dk_180 0 67 (dk_at dksX0_tell_1 5 rfl rfl)
theorem dX0_tell_32 : decode cX0_tell 32 = .ok (.invokevirtual 181, 3) := dk_182 0 181 (dk_at dksX0_tell_1 8 rfl rfl)
theorem dX0_tell_35 : decode cX0_tell 35 = .ok (.iconst 1, 1) := dk_4 (dk_at dksX0_tell_1 11 rfl rfl)
theorem dX0_tell_36 : decode cX0_tell 36 = .ok (.isub, 1) := dk_100 (dk_at dksX0_tell_1 12 rfl rfl)
theorem dX0_tell_37 : decode cX0_tell 37 = .ok (.ireturn, 1) := dk_172 (dk_at dksX0_tell_1 13 rfl rfl)
abbrev cX0_treaty : ByteArray := prog_1_method_10_code
def dkwX0_treaty_2 : List UInt8 := [180, 0, 175, 172, 77, 42, 44, 182, 0, 154, 2, 172]
abbrev dktX0_treaty_2 : List UInt8 := dkwX0_treaty_2 ++ []
def dkwX0_treaty_1 : List UInt8 := [27, 187, 0, 169, 89, 42, 183, 0, 171, 182, 0, 172, 83, 42, 1, 182, 0, 154, 42, 180, 0, 58, 27, 50]
abbrev dktX0_treaty_1 : List UInt8 := dkwX0_treaty_1 ++ dktX0_treaty_2
def dkwX0_treaty_0 : List UInt8 := [42, 180, 0, 125, 17, 2, 188, 163, 0, 10, 27, 184, 0, 165, 154, 0, 6, 16, 254, 172, 42, 180, 0, 58]
abbrev dktX0_treaty_0 : List UInt8 := dkwX0_treaty_0 ++ dktX0_treaty_1
theorem dksX0_treaty_0 : cX0_treaty.data.toList.drop 0 = dktX0_treaty_0 := by decide +kernel
theorem dksX0_treaty_1 : cX0_treaty.data.toList.drop 24 = dktX0_treaty_1 := dk_seg dksX0_treaty_0 24 rfl rfl
theorem dksX0_treaty_2 : cX0_treaty.data.toList.drop 48 = dktX0_treaty_2 := dk_seg dksX0_treaty_1 24 rfl rfl
theorem dX0_treaty_0 : decode cX0_treaty 0 = .ok (.aload_n 0, 1) := dk_42 (dk_at dksX0_treaty_0 0 rfl rfl)
theorem dX0_treaty_1 : decode cX0_treaty 1 = .ok (.getfield 125, 3) := dk_180 0 125 (dk_at dksX0_treaty_0 1 rfl rfl)
theorem dX0_treaty_4 : decode cX0_treaty 4 = .ok (.sipush 700, 3) := dk_17 2 188 (dk_at dksX0_treaty_0 4 rfl rfl)
theorem dX0_treaty_7 : decode cX0_treaty 7 = .ok (.if_icmp .gt 10, 3) := dk_163 0 10 (dk_at dksX0_treaty_0 7 rfl rfl)
theorem dX0_treaty_10 : decode cX0_treaty 10 = .ok (.iload_n 1, 1) := dk_27 (dk_at dksX0_treaty_0 10 rfl rfl)
theorem dX0_treaty_11 : decode cX0_treaty 11 = .ok (.invokestatic 165, 3) := dk_184 0 165 (dk_at dksX0_treaty_0 11 rfl rfl)
theorem dX0_treaty_14 : decode cX0_treaty 14 = .ok (.ifCond .ne 6, 3) := dk_154 0 6 (dk_at dksX0_treaty_0 14 rfl rfl)
theorem dX0_treaty_17 : decode cX0_treaty 17 = .ok (.bipush (-2), 2) := dk_16 254 (dk_at dksX0_treaty_0 17 rfl rfl)
theorem dX0_treaty_19 : decode cX0_treaty 19 = .ok (.ireturn, 1) := dk_172 (dk_at dksX0_treaty_0 19 rfl rfl)
theorem dX0_treaty_20 : decode cX0_treaty 20 = .ok (.aload_n 0, 1) := dk_42 (dk_at dksX0_treaty_0 20 rfl rfl)
theorem dX0_treaty_21 : decode cX0_treaty 21 = .ok (.getfield 58, 3) := dk_180 0 58 (dk_at dksX0_treaty_0 21 rfl rfl)
theorem dX0_treaty_24 : decode cX0_treaty 24 = .ok (.iload_n 1, 1) := dk_27 (dk_at dksX0_treaty_1 0 rfl rfl)
theorem dX0_treaty_25 : decode cX0_treaty 25 = .ok (.new 169, 3) := dk_187 0 169 (dk_at dksX0_treaty_1 1 rfl rfl)
theorem dX0_treaty_28 : decode cX0_treaty 28 = .ok (.dup, 1) := dk_89 (dk_at dksX0_treaty_1 4 rfl rfl)
theorem dX0_treaty_29 : decode cX0_treaty 29 = .ok (.aload_n 0, 1) := dk_42 (dk_at dksX0_treaty_1 5 rfl rfl)
theorem dX0_treaty_30 : decode cX0_treaty 30 = .ok (.invokespecial 171, 3) := dk_183 0 171 (dk_at dksX0_treaty_1 6 rfl rfl)
theorem dX0_treaty_33 : decode cX0_treaty 33 = .ok (.invokevirtual 172, 3) := dk_182 0 172 (dk_at dksX0_treaty_1 9 rfl rfl)
theorem dX0_treaty_36 : decode cX0_treaty 36 = .ok (.aastore, 1) := dk_83 (dk_at dksX0_treaty_1 12 rfl rfl)
theorem dX0_treaty_37 : decode cX0_treaty 37 = .ok (.aload_n 0, 1) := dk_42 (dk_at dksX0_treaty_1 13 rfl rfl)
theorem dX0_treaty_38 : decode cX0_treaty 38 = .ok (.aconst_null, 1) := dk_1 (dk_at dksX0_treaty_1 14 rfl rfl)
theorem dX0_treaty_39 : decode cX0_treaty 39 = .ok (.invokevirtual 154, 3) := dk_182 0 154 (dk_at dksX0_treaty_1 15 rfl rfl)
theorem dX0_treaty_42 : decode cX0_treaty 42 = .ok (.aload_n 0, 1) := dk_42 (dk_at dksX0_treaty_1 18 rfl rfl)
theorem dX0_treaty_43 : decode cX0_treaty 43 = .ok (.getfield 58, 3) := dk_180 0 58 (dk_at dksX0_treaty_1 19 rfl rfl)
theorem dX0_treaty_46 : decode cX0_treaty 46 = .ok (.iload_n 1, 1) := dk_27 (dk_at dksX0_treaty_1 22 rfl rfl)
theorem dX0_treaty_47 : decode cX0_treaty 47 = .ok (.aaload, 1) := dk_50 (dk_at dksX0_treaty_1 23 rfl rfl)
theorem dX0_treaty_48 : decode cX0_treaty 48 = .ok (.getfield 175, 3) := dk_180 0 175 (dk_at dksX0_treaty_2 0 rfl rfl)
theorem dX0_treaty_51 : decode cX0_treaty 51 = .ok (.ireturn, 1) := dk_172 (dk_at dksX0_treaty_2 3 rfl rfl)
theorem dX0_treaty_52 : decode cX0_treaty 52 = .ok (.astore_n 2, 1) := dk_77 (dk_at dksX0_treaty_2 4 rfl rfl)
theorem dX0_treaty_53 : decode cX0_treaty 53 = .ok (.aload_n 0, 1) := dk_42 (dk_at dksX0_treaty_2 5 rfl rfl)
theorem dX0_treaty_54 : decode cX0_treaty 54 = .ok (.aload_n 2, 1) := dk_44 (dk_at dksX0_treaty_2 6 rfl rfl)
theorem dX0_treaty_55 : decode cX0_treaty 55 = .ok (.invokevirtual 154, 3) := dk_182 0 154 (dk_at dksX0_treaty_2 7 rfl rfl)
theorem dX0_treaty_58 : decode cX0_treaty 58 = .ok (.iconst (-1), 1) := dk_2 (dk_at dksX0_treaty_2 10 rfl rfl)
theorem dX0_treaty_59 : decode cX0_treaty 59 = .ok (.ireturn, 1) := dk_172 (dk_at dksX0_treaty_2 11 rfl rfl)
abbrev cX0_unlike : ByteArray := prog_1_method_22_code
def dkwX0_unlike_7 : List UInt8 := [132, 5, 1, 167, 255, 189, 132, 4, 1, 167, 255, 169, 2, 172]
abbrev dktX0_unlike_7 : List UInt8 := dkwX0_unlike_7 ++ []
def dkwX0_unlike_6 : List UInt8 := [17, 39, 16, 21, 4, 104, 16, 100, 21, 5, 104, 96, 21, 6, 96, 172, 132, 6, 1, 167, 255, 205]
abbrev dktX0_unlike_6 : List UInt8 := dkwX0_unlike_6 ++ dktX0_unlike_7
def dkwX0_unlike_5 : List UInt8 := [27, 21, 4, 21, 5, 21, 6, 182, 0, 250, 42, 28, 21, 4, 21, 5, 21, 6, 182, 0, 250, 159, 0, 19]
abbrev dktX0_unlike_5 : List UInt8 := dkwX0_unlike_5 ++ dktX0_unlike_6
def dkwX0_unlike_4 : List UInt8 := [153, 0, 82, 3, 54, 5, 21, 5, 16, 24, 162, 0, 66, 3, 54, 6, 21, 6, 16, 30, 163, 0, 50, 42]
abbrev dktX0_unlike_4 : List UInt8 := dkwX0_unlike_4 ++ dktX0_unlike_5
def dkwX0_unlike_3 : List UInt8 := [132, 5, 1, 167, 255, 216, 132, 4, 1, 167, 255, 195, 3, 54, 4, 21, 4, 16, 8, 162, 0, 86, 29]
abbrev dktX0_unlike_3 : List UInt8 := dkwX0_unlike_3 ++ dktX0_unlike_4
def dkwX0_unlike_2 : List UInt8 := [182, 0, 247, 42, 28, 21, 4, 21, 5, 182, 0, 247, 159, 0, 12, 16, 100, 21, 4, 104, 21, 5, 96, 172]
abbrev dktX0_unlike_2 : List UInt8 := dkwX0_unlike_2 ++ dktX0_unlike_3
def dkwX0_unlike_1 : List UInt8 := [162, 0, 59, 29, 154, 0, 55, 3, 54, 5, 21, 5, 16, 99, 163, 0, 39, 42, 27, 21, 4, 21, 5]
abbrev dktX0_unlike_1 : List UInt8 := dkwX0_unlike_1 ++ dktX0_unlike_2
def dkwX0_unlike_0 : List UInt8 := [27, 184, 0, 165, 153, 0, 10, 28, 184, 0, 165, 154, 0, 5, 2, 172, 3, 54, 4, 21, 4, 17, 0, 200]
abbrev dktX0_unlike_0 : List UInt8 := dkwX0_unlike_0 ++ dktX0_unlike_1
theorem dksX0_unlike_0 : cX0_unlike.data.toList.drop 0 = dktX0_unlike_0 := by decide +kernel
theorem dksX0_unlike_1 : cX0_unlike.data.toList.drop 24 = dktX0_unlike_1 := dk_seg dksX0_unlike_0 24 rfl rfl
theorem dksX0_unlike_2 : cX0_unlike.data.toList.drop 47 = dktX0_unlike_2 := dk_seg dksX0_unlike_1 23 rfl rfl
theorem dksX0_unlike_3 : cX0_unlike.data.toList.drop 71 = dktX0_unlike_3 := dk_seg dksX0_unlike_2 24 rfl rfl
theorem dksX0_unlike_4 : cX0_unlike.data.toList.drop 94 = dktX0_unlike_4 := dk_seg dksX0_unlike_3 23 rfl rfl
theorem dksX0_unlike_5 : cX0_unlike.data.toList.drop 118 = dktX0_unlike_5 := dk_seg dksX0_unlike_4 24 rfl rfl
theorem dksX0_unlike_6 : cX0_unlike.data.toList.drop 142 = dktX0_unlike_6 := dk_seg dksX0_unlike_5 24 rfl rfl
theorem dksX0_unlike_7 : cX0_unlike.data.toList.drop 164 = dktX0_unlike_7 := dk_seg dksX0_unlike_6 22 rfl rfl
theorem dX0_unlike_0 : decode cX0_unlike 0 = .ok (.iload_n 1, 1) := dk_27 (dk_at dksX0_unlike_0 0 rfl rfl)
theorem dX0_unlike_1 : decode cX0_unlike 1 = .ok (.invokestatic 165, 3) := dk_184 0 165 (dk_at dksX0_unlike_0 1 rfl rfl)
theorem dX0_unlike_4 : decode cX0_unlike 4 = .ok (.ifCond .eq 10, 3) := dk_153 0 10 (dk_at dksX0_unlike_0 4 rfl rfl)
theorem dX0_unlike_7 : decode cX0_unlike 7 = .ok (.iload_n 2, 1) := dk_28 (dk_at dksX0_unlike_0 7 rfl rfl)
theorem dX0_unlike_8 : decode cX0_unlike 8 = .ok (.invokestatic 165, 3) := dk_184 0 165 (dk_at dksX0_unlike_0 8 rfl rfl)
theorem dX0_unlike_11 : decode cX0_unlike 11 = .ok (.ifCond .ne 5, 3) := dk_154 0 5 (dk_at dksX0_unlike_0 11 rfl rfl)
theorem dX0_unlike_14 : decode cX0_unlike 14 = .ok (.iconst (-1), 1) := dk_2 (dk_at dksX0_unlike_0 14 rfl rfl)
theorem dX0_unlike_15 : decode cX0_unlike 15 = .ok (.ireturn, 1) := dk_172 (dk_at dksX0_unlike_0 15 rfl rfl)
theorem dX0_unlike_16 : decode cX0_unlike 16 = .ok (.iconst 0, 1) := dk_3 (dk_at dksX0_unlike_0 16 rfl rfl)
theorem dX0_unlike_17 : decode cX0_unlike 17 = .ok (.istore 4, 2) := dk_54 4 (dk_at dksX0_unlike_0 17 rfl rfl)
theorem dX0_unlike_19 : decode cX0_unlike 19 = .ok (.iload 4, 2) := dk_21 4 (dk_at dksX0_unlike_0 19 rfl rfl)
theorem dX0_unlike_21 : decode cX0_unlike 21 = .ok (.sipush 200, 3) := dk_17 0 200 (dk_at dksX0_unlike_0 21 rfl rfl)
theorem dX0_unlike_24 : decode cX0_unlike 24 = .ok (.if_icmp .ge 59, 3) := dk_162 0 59 (dk_at dksX0_unlike_1 0 rfl rfl)
theorem dX0_unlike_27 : decode cX0_unlike 27 = .ok (.iload_n 3, 1) := dk_29 (dk_at dksX0_unlike_1 3 rfl rfl)
theorem dX0_unlike_28 : decode cX0_unlike 28 = .ok (.ifCond .ne 55, 3) := dk_154 0 55 (dk_at dksX0_unlike_1 4 rfl rfl)
theorem dX0_unlike_31 : decode cX0_unlike 31 = .ok (.iconst 0, 1) := dk_3 (dk_at dksX0_unlike_1 7 rfl rfl)
theorem dX0_unlike_32 : decode cX0_unlike 32 = .ok (.istore 5, 2) := dk_54 5 (dk_at dksX0_unlike_1 8 rfl rfl)
theorem dX0_unlike_34 : decode cX0_unlike 34 = .ok (.iload 5, 2) := dk_21 5 (dk_at dksX0_unlike_1 10 rfl rfl)
theorem dX0_unlike_36 : decode cX0_unlike 36 = .ok (.bipush 99, 2) := dk_16 99 (dk_at dksX0_unlike_1 12 rfl rfl)
theorem dX0_unlike_38 : decode cX0_unlike 38 = .ok (.if_icmp .gt 39, 3) := dk_163 0 39 (dk_at dksX0_unlike_1 14 rfl rfl)
theorem dX0_unlike_41 : decode cX0_unlike 41 = .ok (.aload_n 0, 1) := dk_42 (dk_at dksX0_unlike_1 17 rfl rfl)
theorem dX0_unlike_42 : decode cX0_unlike 42 = .ok (.iload_n 1, 1) := dk_27 (dk_at dksX0_unlike_1 18 rfl rfl)
theorem dX0_unlike_43 : decode cX0_unlike 43 = .ok (.iload 4, 2) := dk_21 4 (dk_at dksX0_unlike_1 19 rfl rfl)
theorem dX0_unlike_45 : decode cX0_unlike 45 = .ok (.iload 5, 2) := dk_21 5 (dk_at dksX0_unlike_1 21 rfl rfl)
theorem dX0_unlike_47 : decode cX0_unlike 47 = .ok (.invokevirtual 247, 3) := dk_182 0 247 (dk_at dksX0_unlike_2 0 rfl rfl)
theorem dX0_unlike_50 : decode cX0_unlike 50 = .ok (.aload_n 0, 1) := dk_42 (dk_at dksX0_unlike_2 3 rfl rfl)
theorem dX0_unlike_51 : decode cX0_unlike 51 = .ok (.iload_n 2, 1) := dk_28 (dk_at dksX0_unlike_2 4 rfl rfl)
theorem dX0_unlike_52 : decode cX0_unlike 52 = .ok (.iload 4, 2) := dk_21 4 (dk_at dksX0_unlike_2 5 rfl rfl)
theorem dX0_unlike_54 : decode cX0_unlike 54 = .ok (.iload 5, 2) := dk_21 5 (dk_at dksX0_unlike_2 7 rfl rfl)
theorem dX0_unlike_56 : decode cX0_unlike 56 = .ok (.invokevirtual 247, 3) := dk_182 0 247 (dk_at dksX0_unlike_2 9 rfl rfl)
theorem dX0_unlike_59 : decode cX0_unlike 59 = .ok (.if_icmp .eq 12, 3) := dk_159 0 12 (dk_at dksX0_unlike_2 12 rfl rfl)
theorem dX0_unlike_62 : decode cX0_unlike 62 = .ok (.bipush 100, 2) := dk_16 100 (dk_at dksX0_unlike_2 15 rfl rfl)
theorem dX0_unlike_64 : decode cX0_unlike 64 = .ok (.iload 4, 2) := dk_21 4 (dk_at dksX0_unlike_2 17 rfl rfl)
theorem dX0_unlike_66 : decode cX0_unlike 66 = .ok (.imul, 1) := dk_104 (dk_at dksX0_unlike_2 19 rfl rfl)
theorem dX0_unlike_67 : decode cX0_unlike 67 = .ok (.iload 5, 2) := dk_21 5 (dk_at dksX0_unlike_2 20 rfl rfl)
theorem dX0_unlike_69 : decode cX0_unlike 69 = .ok (.iadd, 1) := dk_96 (dk_at dksX0_unlike_2 22 rfl rfl)
theorem dX0_unlike_70 : decode cX0_unlike 70 = .ok (.ireturn, 1) := dk_172 (dk_at dksX0_unlike_2 23 rfl rfl)
theorem dX0_unlike_71 : decode cX0_unlike 71 = .ok (.iinc 5 1, 3) := dk_132 5 1 (dk_at dksX0_unlike_3 0 rfl rfl)
theorem dX0_unlike_74 : decode cX0_unlike 74 = .ok (.goto (-40), 3) := dk_167 255 216 (dk_at dksX0_unlike_3 3 rfl rfl)
theorem dX0_unlike_77 : decode cX0_unlike 77 = .ok (.iinc 4 1, 3) := dk_132 4 1 (dk_at dksX0_unlike_3 6 rfl rfl)
theorem dX0_unlike_80 : decode cX0_unlike 80 = .ok (.goto (-61), 3) := dk_167 255 195 (dk_at dksX0_unlike_3 9 rfl rfl)
theorem dX0_unlike_83 : decode cX0_unlike 83 = .ok (.iconst 0, 1) := dk_3 (dk_at dksX0_unlike_3 12 rfl rfl)
theorem dX0_unlike_84 : decode cX0_unlike 84 = .ok (.istore 4, 2) := dk_54 4 (dk_at dksX0_unlike_3 13 rfl rfl)
theorem dX0_unlike_86 : decode cX0_unlike 86 = .ok (.iload 4, 2) := dk_21 4 (dk_at dksX0_unlike_3 15 rfl rfl)
theorem dX0_unlike_88 : decode cX0_unlike 88 = .ok (.bipush 8, 2) := dk_16 8 (dk_at dksX0_unlike_3 17 rfl rfl)
theorem dX0_unlike_90 : decode cX0_unlike 90 = .ok (.if_icmp .ge 86, 3) := dk_162 0 86 (dk_at dksX0_unlike_3 19 rfl rfl)
theorem dX0_unlike_93 : decode cX0_unlike 93 = .ok (.iload_n 3, 1) := dk_29 (dk_at dksX0_unlike_3 22 rfl rfl)
theorem dX0_unlike_94 : decode cX0_unlike 94 = .ok (.ifCond .eq 82, 3) := dk_153 0 82 (dk_at dksX0_unlike_4 0 rfl rfl)
theorem dX0_unlike_97 : decode cX0_unlike 97 = .ok (.iconst 0, 1) := dk_3 (dk_at dksX0_unlike_4 3 rfl rfl)
theorem dX0_unlike_98 : decode cX0_unlike 98 = .ok (.istore 5, 2) := dk_54 5 (dk_at dksX0_unlike_4 4 rfl rfl)
theorem dX0_unlike_100 : decode cX0_unlike 100 = .ok (.iload 5, 2) := dk_21 5 (dk_at dksX0_unlike_4 6 rfl rfl)
theorem dX0_unlike_102 : decode cX0_unlike 102 = .ok (.bipush 24, 2) := dk_16 24 (dk_at dksX0_unlike_4 8 rfl rfl)
theorem dX0_unlike_104 : decode cX0_unlike 104 = .ok (.if_icmp .ge 66, 3) := dk_162 0 66 (dk_at dksX0_unlike_4 10 rfl rfl)
theorem dX0_unlike_107 : decode cX0_unlike 107 = .ok (.iconst 0, 1) := dk_3 (dk_at dksX0_unlike_4 13 rfl rfl)
theorem dX0_unlike_108 : decode cX0_unlike 108 = .ok (.istore 6, 2) := dk_54 6 (dk_at dksX0_unlike_4 14 rfl rfl)
theorem dX0_unlike_110 : decode cX0_unlike 110 = .ok (.iload 6, 2) := dk_21 6 (dk_at dksX0_unlike_4 16 rfl rfl)
theorem dX0_unlike_112 : decode cX0_unlike 112 = .ok (.bipush 30, 2) := dk_16 30 (dk_at dksX0_unlike_4 18 rfl rfl)
theorem dX0_unlike_114 : decode cX0_unlike 114 = .ok (.if_icmp .gt 50, 3) := dk_163 0 50 (dk_at dksX0_unlike_4 20 rfl rfl)
theorem dX0_unlike_117 : decode cX0_unlike 117 = .ok (.aload_n 0, 1) := dk_42 (dk_at dksX0_unlike_4 23 rfl rfl)
theorem dX0_unlike_118 : decode cX0_unlike 118 = .ok (.iload_n 1, 1) := dk_27 (dk_at dksX0_unlike_5 0 rfl rfl)
theorem dX0_unlike_119 : decode cX0_unlike 119 = .ok (.iload 4, 2) := dk_21 4 (dk_at dksX0_unlike_5 1 rfl rfl)
theorem dX0_unlike_121 : decode cX0_unlike 121 = .ok (.iload 5, 2) := dk_21 5 (dk_at dksX0_unlike_5 3 rfl rfl)
theorem dX0_unlike_123 : decode cX0_unlike 123 = .ok (.iload 6, 2) := dk_21 6 (dk_at dksX0_unlike_5 5 rfl rfl)
theorem dX0_unlike_125 : decode cX0_unlike 125 = .ok (.invokevirtual 250, 3) := dk_182 0 250 (dk_at dksX0_unlike_5 7 rfl rfl)
theorem dX0_unlike_128 : decode cX0_unlike 128 = .ok (.aload_n 0, 1) := dk_42 (dk_at dksX0_unlike_5 10 rfl rfl)
theorem dX0_unlike_129 : decode cX0_unlike 129 = .ok (.iload_n 2, 1) := dk_28 (dk_at dksX0_unlike_5 11 rfl rfl)
theorem dX0_unlike_130 : decode cX0_unlike 130 = .ok (.iload 4, 2) := dk_21 4 (dk_at dksX0_unlike_5 12 rfl rfl)
theorem dX0_unlike_132 : decode cX0_unlike 132 = .ok (.iload 5, 2) := dk_21 5 (dk_at dksX0_unlike_5 14 rfl rfl)
theorem dX0_unlike_134 : decode cX0_unlike 134 = .ok (.iload 6, 2) := dk_21 6 (dk_at dksX0_unlike_5 16 rfl rfl)
theorem dX0_unlike_136 : decode cX0_unlike 136 = .ok (.invokevirtual 250, 3) := dk_182 0 250 (dk_at dksX0_unlike_5 18 rfl rfl)
theorem dX0_unlike_139 : decode cX0_unlike 139 = .ok (.if_icmp .eq 19, 3) := dk_159 0 19 (dk_at dksX0_unlike_5 21 rfl rfl)
theorem dX0_unlike_142 : decode cX0_unlike 142 = .ok (.sipush 10000, 3) := dk_17 39 16 (dk_at dksX0_unlike_6 0 rfl rfl)
theorem dX0_unlike_145 : decode cX0_unlike 145 = .ok (.iload 4, 2) := dk_21 4 (dk_at dksX0_unlike_6 3 rfl rfl)
theorem dX0_unlike_147 : decode cX0_unlike 147 = .ok (.imul, 1) := dk_104 (dk_at dksX0_unlike_6 5 rfl rfl)
theorem dX0_unlike_148 : decode cX0_unlike 148 = .ok (.bipush 100, 2) := dk_16 100 (dk_at dksX0_unlike_6 6 rfl rfl)
theorem dX0_unlike_150 : decode cX0_unlike 150 = .ok (.iload 5, 2) := dk_21 5 (dk_at dksX0_unlike_6 8 rfl rfl)
theorem dX0_unlike_152 : decode cX0_unlike 152 = .ok (.imul, 1) := dk_104 (dk_at dksX0_unlike_6 10 rfl rfl)
theorem dX0_unlike_153 : decode cX0_unlike 153 = .ok (.iadd, 1) := dk_96 (dk_at dksX0_unlike_6 11 rfl rfl)
theorem dX0_unlike_154 : decode cX0_unlike 154 = .ok (.iload 6, 2) := dk_21 6 (dk_at dksX0_unlike_6 12 rfl rfl)
theorem dX0_unlike_156 : decode cX0_unlike 156 = .ok (.iadd, 1) := dk_96 (dk_at dksX0_unlike_6 14 rfl rfl)
theorem dX0_unlike_157 : decode cX0_unlike 157 = .ok (.ireturn, 1) := dk_172 (dk_at dksX0_unlike_6 15 rfl rfl)
theorem dX0_unlike_158 : decode cX0_unlike 158 = .ok (.iinc 6 1, 3) := dk_132 6 1 (dk_at dksX0_unlike_6 16 rfl rfl)
theorem dX0_unlike_161 : decode cX0_unlike 161 = .ok (.goto (-51), 3) := dk_167 255 205 (dk_at dksX0_unlike_6 19 rfl rfl)
theorem dX0_unlike_164 : decode cX0_unlike 164 = .ok (.iinc 5 1, 3) := dk_132 5 1 (dk_at dksX0_unlike_7 0 rfl rfl)
theorem dX0_unlike_167 : decode cX0_unlike 167 = .ok (.goto (-67), 3) := dk_167 255 189 (dk_at dksX0_unlike_7 3 rfl rfl)
theorem dX0_unlike_170 : decode cX0_unlike 170 = .ok (.iinc 4 1, 3) := dk_132 4 1 (dk_at dksX0_unlike_7 6 rfl rfl)
theorem dX0_unlike_173 : decode cX0_unlike 173 = .ok (.goto (-87), 3) := dk_167 255 169 (dk_at dksX0_unlike_7 9 rfl rfl)
theorem dX0_unlike_176 : decode cX0_unlike 176 = .ok (.iconst (-1), 1) := dk_2 (dk_at dksX0_unlike_7 12 rfl rfl)
theorem dX0_unlike_177 : decode cX0_unlike 177 = .ok (.ireturn, 1) := dk_172 (dk_at dksX0_unlike_7 13 rfl rfl)
abbrev cX0_untell : ByteArray := prog_1_method_28_code
def dkwX0_untell_1 : List UInt8 := [192, 1, 23, 42, 180, 1, 6, 182, 1, 25, 153, 0, 7, 4, 167, 0, 4, 3, 172]
abbrev dktX0_untell_1 : List UInt8 := dkwX0_untell_1 ++ []
def dkwX0_untell_0 : List UInt8 := [27, 155, 0, 39, 27, 42, 180, 0, 67, 182, 0, 181, 162, 0, 28, 42, 180, 0, 67, 27, 182, 0, 184]
abbrev dktX0_untell_0 : List UInt8 := dkwX0_untell_0 ++ dktX0_untell_1
theorem dksX0_untell_0 : cX0_untell.data.toList.drop 0 = dktX0_untell_0 := by decide +kernel
theorem dksX0_untell_1 : cX0_untell.data.toList.drop 23 = dktX0_untell_1 := dk_seg dksX0_untell_0 23 rfl rfl
theorem dX0_untell_0 : decode cX0_untell 0 = .ok (.iload_n 1, 1) := dk_27 (dk_at dksX0_untell_0 0 rfl rfl)
theorem dX0_untell_1 : decode cX0_untell 1 = .ok (.ifCond .lt 39, 3) := dk_155 0 39 (dk_at dksX0_untell_0 1 rfl rfl)
theorem dX0_untell_4 : decode cX0_untell 4 = .ok (.iload_n 1, 1) := dk_27 (dk_at dksX0_untell_0 4 rfl rfl)
theorem dX0_untell_5 : decode cX0_untell 5 = .ok (.aload_n 0, 1) := dk_42 (dk_at dksX0_untell_0 5 rfl rfl)
theorem dX0_untell_6 : decode cX0_untell 6 = .ok (.getfield 67, 3) := dk_180 0 67 (dk_at dksX0_untell_0 6 rfl rfl)
theorem dX0_untell_9 : decode cX0_untell 9 = .ok (.invokevirtual 181, 3) := dk_182 0 181 (dk_at dksX0_untell_0 9 rfl rfl)
theorem dX0_untell_12 : decode cX0_untell 12 = .ok (.if_icmp .ge 28, 3) := dk_162 0 28 (dk_at dksX0_untell_0 12 rfl rfl)
theorem dX0_untell_15 : decode cX0_untell 15 = .ok (.aload_n 0, 1) := dk_42 (dk_at dksX0_untell_0 15 rfl rfl)
theorem dX0_untell_16 : decode cX0_untell 16 = .ok (.getfield 67, 3) := dk_180 0 67 (dk_at dksX0_untell_0 16 rfl rfl)
theorem dX0_untell_19 : decode cX0_untell 19 = .ok (.iload_n 1, 1) := dk_27 (dk_at dksX0_untell_0 19 rfl rfl)
theorem dX0_untell_20 : decode cX0_untell 20 = .ok (.invokevirtual 184, 3) := dk_182 0 184 (dk_at dksX0_untell_0 20 rfl rfl)
theorem dX0_untell_23 : decode cX0_untell 23 = .ok (.checkcast 279, 3) := dk_192 1 23 (dk_at dksX0_untell_1 0 rfl rfl)
theorem dX0_untell_26 : decode cX0_untell 26 = .ok (.aload_n 0, 1) := dk_42 (dk_at dksX0_untell_1 3 rfl rfl)
theorem dX0_untell_27 : decode cX0_untell 27 = .ok (.getfield 262, 3) := dk_180 1 6 (dk_at dksX0_untell_1 4 rfl rfl)
theorem dX0_untell_30 : decode cX0_untell 30 = .ok (.invokevirtual 281, 3) := dk_182 1 25 (dk_at dksX0_untell_1 7 rfl rfl)
theorem dX0_untell_33 : decode cX0_untell 33 = .ok (.ifCond .eq 7, 3) := dk_153 0 7 (dk_at dksX0_untell_1 10 rfl rfl)
theorem dX0_untell_36 : decode cX0_untell 36 = .ok (.iconst 1, 1) := dk_4 (dk_at dksX0_untell_1 13 rfl rfl)
theorem dX0_untell_37 : decode cX0_untell 37 = .ok (.goto 4, 3) := dk_167 0 4 (dk_at dksX0_untell_1 14 rfl rfl)
theorem dX0_untell_40 : decode cX0_untell 40 = .ok (.iconst 0, 1) := dk_3 (dk_at dksX0_untell_1 17 rfl rfl)
theorem dX0_untell_41 : decode cX0_untell 41 = .ok (.ireturn, 1) := dk_172 (dk_at dksX0_untell_1 18 rfl rfl)
abbrev cX0_worth : ByteArray := prog_1_method_43_code
def dkwX0_worth_2 : List UInt8 := [27, 4, 96, 50, 21, 4, 46, 96, 172]
abbrev dktX0_worth_2 : List UInt8 := dkwX0_worth_2 ++ []
def dkwX0_worth_1 : List UInt8 := [46, 19, 1, 29, 160, 0, 9, 19, 1, 29, 167, 0, 22, 29, 16, 100, 112, 16, 9, 108, 42, 180, 0, 89]
abbrev dktX0_worth_1 : List UInt8 := dkwX0_worth_1 ++ dktX0_worth_2
def dkwX0_worth_0 : List UInt8 := [42, 27, 28, 29, 182, 1, 78, 54, 4, 21, 4, 155, 0, 20, 42, 180, 0, 89, 27, 4, 96, 50, 21, 4]
abbrev dktX0_worth_0 : List UInt8 := dkwX0_worth_0 ++ dktX0_worth_1
theorem dksX0_worth_0 : cX0_worth.data.toList.drop 0 = dktX0_worth_0 := by decide +kernel
theorem dksX0_worth_1 : cX0_worth.data.toList.drop 24 = dktX0_worth_1 := dk_seg dksX0_worth_0 24 rfl rfl
theorem dksX0_worth_2 : cX0_worth.data.toList.drop 48 = dktX0_worth_2 := dk_seg dksX0_worth_1 24 rfl rfl
theorem dX0_worth_0 : decode cX0_worth 0 = .ok (.aload_n 0, 1) := dk_42 (dk_at dksX0_worth_0 0 rfl rfl)
theorem dX0_worth_1 : decode cX0_worth 1 = .ok (.iload_n 1, 1) := dk_27 (dk_at dksX0_worth_0 1 rfl rfl)
theorem dX0_worth_2 : decode cX0_worth 2 = .ok (.iload_n 2, 1) := dk_28 (dk_at dksX0_worth_0 2 rfl rfl)
theorem dX0_worth_3 : decode cX0_worth 3 = .ok (.iload_n 3, 1) := dk_29 (dk_at dksX0_worth_0 3 rfl rfl)
theorem dX0_worth_4 : decode cX0_worth 4 = .ok (.invokevirtual 334, 3) := dk_182 1 78 (dk_at dksX0_worth_0 4 rfl rfl)
theorem dX0_worth_7 : decode cX0_worth 7 = .ok (.istore 4, 2) := dk_54 4 (dk_at dksX0_worth_0 7 rfl rfl)
theorem dX0_worth_9 : decode cX0_worth 9 = .ok (.iload 4, 2) := dk_21 4 (dk_at dksX0_worth_0 9 rfl rfl)
theorem dX0_worth_11 : decode cX0_worth 11 = .ok (.ifCond .lt 20, 3) := dk_155 0 20 (dk_at dksX0_worth_0 11 rfl rfl)
theorem dX0_worth_14 : decode cX0_worth 14 = .ok (.aload_n 0, 1) := dk_42 (dk_at dksX0_worth_0 14 rfl rfl)
theorem dX0_worth_15 : decode cX0_worth 15 = .ok (.getfield 89, 3) := dk_180 0 89 (dk_at dksX0_worth_0 15 rfl rfl)
theorem dX0_worth_18 : decode cX0_worth 18 = .ok (.iload_n 1, 1) := dk_27 (dk_at dksX0_worth_0 18 rfl rfl)
theorem dX0_worth_19 : decode cX0_worth 19 = .ok (.iconst 1, 1) := dk_4 (dk_at dksX0_worth_0 19 rfl rfl)
theorem dX0_worth_20 : decode cX0_worth 20 = .ok (.iadd, 1) := dk_96 (dk_at dksX0_worth_0 20 rfl rfl)
theorem dX0_worth_21 : decode cX0_worth 21 = .ok (.aaload, 1) := dk_50 (dk_at dksX0_worth_0 21 rfl rfl)
theorem dX0_worth_22 : decode cX0_worth 22 = .ok (.iload 4, 2) := dk_21 4 (dk_at dksX0_worth_0 22 rfl rfl)
theorem dX0_worth_24 : decode cX0_worth 24 = .ok (.iaload, 1) := dk_46 (dk_at dksX0_worth_1 0 rfl rfl)
theorem dX0_worth_25 : decode cX0_worth 25 = .ok (.ldc_w 285, 3) := dk_19 1 29 (dk_at dksX0_worth_1 1 rfl rfl)
theorem dX0_worth_28 : decode cX0_worth 28 = .ok (.if_icmp .ne 9, 3) := dk_160 0 9 (dk_at dksX0_worth_1 4 rfl rfl)
theorem dX0_worth_31 : decode cX0_worth 31 = .ok (.ldc_w 285, 3) := dk_19 1 29 (dk_at dksX0_worth_1 7 rfl rfl)
theorem dX0_worth_34 : decode cX0_worth 34 = .ok (.goto 22, 3) := dk_167 0 22 (dk_at dksX0_worth_1 10 rfl rfl)
theorem dX0_worth_37 : decode cX0_worth 37 = .ok (.iload_n 3, 1) := dk_29 (dk_at dksX0_worth_1 13 rfl rfl)
theorem dX0_worth_38 : decode cX0_worth 38 = .ok (.bipush 100, 2) := dk_16 100 (dk_at dksX0_worth_1 14 rfl rfl)
theorem dX0_worth_40 : decode cX0_worth 40 = .ok (.irem, 1) := dk_112 (dk_at dksX0_worth_1 16 rfl rfl)
theorem dX0_worth_41 : decode cX0_worth 41 = .ok (.bipush 9, 2) := dk_16 9 (dk_at dksX0_worth_1 17 rfl rfl)
theorem dX0_worth_43 : decode cX0_worth 43 = .ok (.idiv, 1) := dk_108 (dk_at dksX0_worth_1 19 rfl rfl)
theorem dX0_worth_44 : decode cX0_worth 44 = .ok (.aload_n 0, 1) := dk_42 (dk_at dksX0_worth_1 20 rfl rfl)
theorem dX0_worth_45 : decode cX0_worth 45 = .ok (.getfield 89, 3) := dk_180 0 89 (dk_at dksX0_worth_1 21 rfl rfl)
theorem dX0_worth_48 : decode cX0_worth 48 = .ok (.iload_n 1, 1) := dk_27 (dk_at dksX0_worth_2 0 rfl rfl)
theorem dX0_worth_49 : decode cX0_worth 49 = .ok (.iconst 1, 1) := dk_4 (dk_at dksX0_worth_2 1 rfl rfl)
theorem dX0_worth_50 : decode cX0_worth 50 = .ok (.iadd, 1) := dk_96 (dk_at dksX0_worth_2 2 rfl rfl)
theorem dX0_worth_51 : decode cX0_worth 51 = .ok (.aaload, 1) := dk_50 (dk_at dksX0_worth_2 3 rfl rfl)
theorem dX0_worth_52 : decode cX0_worth 52 = .ok (.iload 4, 2) := dk_21 4 (dk_at dksX0_worth_2 4 rfl rfl)
theorem dX0_worth_54 : decode cX0_worth 54 = .ok (.iaload, 1) := dk_46 (dk_at dksX0_worth_2 6 rfl rfl)
theorem dX0_worth_55 : decode cX0_worth 55 = .ok (.iadd, 1) := dk_96 (dk_at dksX0_worth_2 7 rfl rfl)
theorem dX0_worth_56 : decode cX0_worth 56 = .ok (.ireturn, 1) := dk_172 (dk_at dksX0_worth_2 8 rfl rfl)
