/-! decode rows of the reachable methods, as the claim's names print them -/
set_option maxRecDepth 100000
abbrev cX3_about : ByteArray := prog_24_method_109_code
def dkwX3_about_5 : List UInt8 := [180, 0, 83, 27, 16, 10, 100, 46, 167, 0, 4, 2, 172]
abbrev dktX3_about_5 : List UInt8 := dkwX3_about_5 ++ []
def dkwX3_about_4 : List UInt8 := [180, 1, 38, 172, 42, 180, 2, 70, 172, 27, 16, 10, 161, 0, 21, 27, 16, 13, 162, 0, 15, 42]
abbrev dktX3_about_4 : List UInt8 := dkwX3_about_4 ++ dktX3_about_5
def dkwX3_about_3 : List UInt8 := [172, 42, 180, 1, 53, 172, 42, 180, 1, 56, 172, 42, 180, 2, 40, 172, 42, 180, 1, 236, 172, 42]
abbrev dktX3_about_3 : List UInt8 := dkwX3_about_3 ++ dktX3_about_4
def dkwX3_about_2 : List UInt8 := [42, 182, 1, 94, 172, 42, 182, 1, 113, 172, 42, 180, 0, 30, 42, 180, 1, 44, 46, 172, 42, 182, 2, 8]
abbrev dktX3_about_2 : List UInt8 := dkwX3_about_2 ++ dktX3_about_3
def dkwX3_about_1 : List UInt8 := [170, 0, 0, 0, 0, 0, 110, 0, 0, 0, 0, 0, 0, 0, 9, 0, 0, 0, 55, 0, 0, 0, 60, 0, 0, 0, 65, 0, 0, 0, 75, 0, 0, 0, 80, 0, 0, 0, 85, 0, 0, 0, 90, 0, 0, 0, 95, 0, 0, 0, 100, 0, 0, 0, 105]
abbrev dktX3_about_1 : List UInt8 := dkwX3_about_1 ++ dktX3_about_2
def dkwX3_about_0 : List UInt8 := [27]
abbrev dktX3_about_0 : List UInt8 := dkwX3_about_0 ++ dktX3_about_1
theorem dksX3_about_0 : cX3_about.data.toList.drop 0 = dktX3_about_0 := by decide +kernel
theorem dksX3_about_1 : cX3_about.data.toList.drop 1 = dktX3_about_1 := dk_seg dksX3_about_0 1 rfl rfl
theorem dksX3_about_2 : cX3_about.data.toList.drop 56 = dktX3_about_2 := dk_seg dksX3_about_1 55 rfl rfl
theorem dksX3_about_3 : cX3_about.data.toList.drop 80 = dktX3_about_3 := dk_seg dksX3_about_2 24 rfl rfl
theorem dksX3_about_4 : cX3_about.data.toList.drop 102 = dktX3_about_4 := dk_seg dksX3_about_3 22 rfl rfl
theorem dksX3_about_5 : cX3_about.data.toList.drop 124 = dktX3_about_5 := dk_seg dksX3_about_4 22 rfl rfl
theorem dX3_about_0 : decode cX3_about 0 = .ok (.iload_n 1, 1) := dk_27 (dk_at dksX3_about_0 0 rfl rfl)
theorem dX3_about_1 : decode cX3_about 1 = .ok (.tableswitch 110 0 9 #[55, 60, 65, 75, 80, 85, 90, 95, 100, 105], 55) := by decide +kernel
theorem dX3_about_56 : decode cX3_about 56 = .ok (.aload_n 0, 1) := dk_42 (dk_at dksX3_about_2 0 rfl rfl)
theorem dX3_about_57 : decode cX3_about 57 = .ok (.invokevirtual 350, 3) := dk_182 1 94 (dk_at dksX3_about_2 1 rfl rfl)
theorem dX3_about_60 : decode cX3_about 60 = .ok (.ireturn, 1) := dk_172 (dk_at dksX3_about_2 4 rfl rfl)
theorem dX3_about_61 : decode cX3_about 61 = .ok (.aload_n 0, 1) := dk_42 (dk_at dksX3_about_2 5 rfl rfl)
theorem dX3_about_62 : decode cX3_about 62 = .ok (.invokevirtual 369, 3) := dk_182 1 113 (dk_at dksX3_about_2 6 rfl rfl)
theorem dX3_about_65 : decode cX3_about 65 = .ok (.ireturn, 1) := dk_172 (dk_at dksX3_about_2 9 rfl rfl)
theorem dX3_about_66 : decode cX3_about 66 = .ok (.aload_n 0, 1) := dk_42 (dk_at dksX3_about_2 10 rfl rfl)
theorem dX3_about_67 : decode cX3_about 67 = .ok (.getfield 30, 3) := dk_180 0 30 (dk_at dksX3_about_2 11 rfl rfl)
theorem dX3_about_70 : decode cX3_about 70 = .ok (.aload_n 0, 1) := dk_42 (dk_at dksX3_about_2 14 rfl rfl)
theorem dX3_about_71 : decode cX3_about 71 = .ok (.getfield 300, 3) := dk_180 1 44 (dk_at dksX3_about_2 15 rfl rfl)
theorem dX3_about_74 : decode cX3_about 74 = .ok (.iaload, 1) := dk_46 (dk_at dksX3_about_2 18 rfl rfl)
theorem dX3_about_75 : decode cX3_about 75 = .ok (.ireturn, 1) := dk_172 (dk_at dksX3_about_2 19 rfl rfl)
theorem dX3_about_76 : decode cX3_about 76 = .ok (.aload_n 0, 1) := dk_42 (dk_at dksX3_about_2 20 rfl rfl)
theorem dX3_about_77 : decode cX3_about 77 = .ok (.invokevirtual 520, 3) := dk_182 2 8 (dk_at dksX3_about_2 21 rfl rfl)
theorem dX3_about_80 : decode cX3_about 80 = .ok (.ireturn, 1) := dk_172 (dk_at dksX3_about_3 0 rfl rfl)
theorem dX3_about_81 : decode cX3_about 81 = .ok (.aload_n 0, 1) := dk_42 (dk_at dksX3_about_3 1 rfl rfl)
theorem dX3_about_82 : decode cX3_about 82 = .ok (.getfield 309, 3) := dk_180 1 53 (dk_at dksX3_about_3 2 rfl rfl)
theorem dX3_about_85 : decode cX3_about 85 = .ok (.ireturn, 1) := dk_172 (dk_at dksX3_about_3 5 rfl rfl)
theorem dX3_about_86 : decode cX3_about 86 = .ok (.aload_n 0, 1) := dk_42 (dk_at dksX3_about_3 6 rfl rfl)
theorem dX3_about_87 : decode cX3_about 87 = .ok (.getfield 312, 3) := dk_180 1 56 (dk_at dksX3_about_3 7 rfl rfl)
theorem dX3_about_90 : decode cX3_about 90 = .ok (.ireturn, 1) := dk_172 (dk_at dksX3_about_3 10 rfl rfl)
theorem dX3_about_91 : decode cX3_about 91 = .ok (.aload_n 0, 1) := dk_42 (dk_at dksX3_about_3 11 rfl rfl)
theorem dX3_about_92 : decode cX3_about 92 = .ok (.getfield 552, 3) := dk_180 2 40 (dk_at dksX3_about_3 12 rfl rfl)
theorem dX3_about_95 : decode cX3_about 95 = .ok (.ireturn, 1) := dk_172 (dk_at dksX3_about_3 15 rfl rfl)
theorem dX3_about_96 : decode cX3_about 96 = .ok (.aload_n 0, 1) := dk_42 (dk_at dksX3_about_3 16 rfl rfl)
theorem dX3_about_97 : decode cX3_about 97 = .ok (.getfield 492, 3) := dk_180 1 236 (dk_at dksX3_about_3 17 rfl rfl)
theorem dX3_about_100 : decode cX3_about 100 = .ok (.ireturn, 1) := dk_172 (dk_at dksX3_about_3 20 rfl rfl)
theorem dX3_about_101 : decode cX3_about 101 = .ok (.aload_n 0, 1) := dk_42 (dk_at dksX3_about_3 21 rfl rfl)
theorem dX3_about_102 : decode cX3_about 102 = .ok (.getfield 294, 3) := dk_180 1 38 (dk_at dksX3_about_4 0 rfl rfl)
theorem dX3_about_105 : decode cX3_about 105 = .ok (.ireturn, 1) := dk_172 (dk_at dksX3_about_4 3 rfl rfl)
theorem dX3_about_106 : decode cX3_about 106 = .ok (.aload_n 0, 1) := dk_42 (dk_at dksX3_about_4 4 rfl rfl)
theorem dX3_about_107 : decode cX3_about 107 = .ok (.getfield 582, 3) := dk_180 2 70 (dk_at dksX3_about_4 5 rfl rfl)
theorem dX3_about_110 : decode cX3_about 110 = .ok (.ireturn, 1) := dk_172 (dk_at dksX3_about_4 8 rfl rfl)
theorem dX3_about_111 : decode cX3_about 111 = .ok (.iload_n 1, 1) := dk_27 (dk_at dksX3_about_4 9 rfl rfl)
theorem dX3_about_112 : decode cX3_about 112 = .ok (.bipush 10, 2) := dk_16 10 (dk_at dksX3_about_4 10 rfl rfl)
theorem dX3_about_114 : decode cX3_about 114 = .ok (.if_icmp .lt 21, 3) := dk_161 0 21 (dk_at dksX3_about_4 12 rfl rfl)
theorem dX3_about_117 : decode cX3_about 117 = .ok (.iload_n 1, 1) := dk_27 (dk_at dksX3_about_4 15 rfl rfl)
theorem dX3_about_118 : decode cX3_about 118 = .ok (.bipush 13, 2) := dk_16 13 (dk_at dksX3_about_4 16 rfl rfl)
theorem dX3_about_120 : decode cX3_about 120 = .ok (.if_icmp .ge 15, 3) := dk_162 0 15 (dk_at dksX3_about_4 18 rfl rfl)
theorem dX3_about_123 : decode cX3_about 123 = .ok (.aload_n 0, 1) := dk_42 (dk_at dksX3_about_4 21 rfl rfl)
theorem dX3_about_124 : decode cX3_about 124 = .ok (.getfield 83, 3) := dk_180 0 83 (dk_at dksX3_about_5 0 rfl rfl)
theorem dX3_about_127 : decode cX3_about 127 = .ok (.iload_n 1, 1) := dk_27 (dk_at dksX3_about_5 3 rfl rfl)
theorem dX3_about_128 : decode cX3_about 128 = .ok (.bipush 10, 2) := dk_16 10 (dk_at dksX3_about_5 4 rfl rfl)
theorem dX3_about_130 : decode cX3_about 130 = .ok (.isub, 1) := dk_100 (dk_at dksX3_about_5 6 rfl rfl)
theorem dX3_about_131 : decode cX3_about 131 = .ok (.iaload, 1) := dk_46 (dk_at dksX3_about_5 7 rfl rfl)
theorem dX3_about_132 : decode cX3_about 132 = .ok (.goto 4, 3) := dk_167 0 4 (dk_at dksX3_about_5 8 rfl rfl)
theorem dX3_about_135 : decode cX3_about 135 = .ok (.iconst (-1), 1) := dk_2 (dk_at dksX3_about_5 11 rfl rfl)
theorem dX3_about_136 : decode cX3_about 136 = .ok (.ireturn, 1) := dk_172 (dk_at dksX3_about_5 12 rfl rfl)
abbrev cX3_airline : ByteArray := prog_24_method_89_code
def dkwX3_airline_2 : List UInt8 := [79, 42, 89, 180, 2, 40, 4, 96, 181, 2, 40, 42, 180, 2, 40, 4, 100, 172]
abbrev dktX3_airline_2 : List UInt8 := dkwX3_airline_2 ++ []
def dkwX3_airline_1 : List UInt8 := [160, 0, 5, 2, 172, 42, 180, 0, 147, 42, 180, 2, 40, 27, 79, 42, 180, 0, 150, 42, 180, 2, 40, 28]
abbrev dktX3_airline_1 : List UInt8 := dkwX3_airline_1 ++ dktX3_airline_2
def dkwX3_airline_0 : List UInt8 := [27, 3, 17, 3, 231, 184, 1, 98, 153, 0, 19, 28, 184, 1, 239, 153, 0, 12, 42, 180, 2, 40, 16, 10]
abbrev dktX3_airline_0 : List UInt8 := dkwX3_airline_0 ++ dktX3_airline_1
theorem dksX3_airline_0 : cX3_airline.data.toList.drop 0 = dktX3_airline_0 := by decide +kernel
theorem dksX3_airline_1 : cX3_airline.data.toList.drop 24 = dktX3_airline_1 := dk_seg dksX3_airline_0 24 rfl rfl
theorem dksX3_airline_2 : cX3_airline.data.toList.drop 48 = dktX3_airline_2 := dk_seg dksX3_airline_1 24 rfl rfl
theorem dX3_airline_0 : decode cX3_airline 0 = .ok (.iload_n 1, 1) := dk_27 (dk_at dksX3_airline_0 0 rfl rfl)
theorem dX3_airline_1 : decode cX3_airline 1 = .ok (.iconst 0, 1) := dk_3 (dk_at dksX3_airline_0 1 rfl rfl)
theorem dX3_airline_2 : decode cX3_airline 2 = .ok (.sipush 999, 3) := dk_17 3 231 (dk_at dksX3_airline_0 2 rfl rfl)
theorem dX3_airline_5 : decode cX3_airline 5 = .ok (.invokestatic 354, 3) := dk_184 1 98 (dk_at dksX3_airline_0 5 rfl rfl)
theorem dX3_airline_8 : decode cX3_airline 8 = .ok (.ifCond .eq 19, 3) := dk_153 0 19 (dk_at dksX3_airline_0 8 rfl rfl)
theorem dX3_airline_11 : decode cX3_airline 11 = .ok (.iload_n 2, 1) := dk_28 (dk_at dksX3_airline_0 11 rfl rfl)
theorem dX3_airline_12 : decode cX3_airline 12 = .ok (.invokestatic 495, 3) := dk_184 1 239 (dk_at dksX3_airline_0 12 rfl rfl)
theorem dX3_airline_15 : decode cX3_airline 15 = .ok (.ifCond .eq 12, 3) := dk_153 0 12 (dk_at dksX3_airline_0 15 rfl rfl)
theorem dX3_airline_18 : decode cX3_airline 18 = .ok (.aload_n 0, 1) := dk_42 (dk_at dksX3_airline_0 18 rfl rfl)
theorem dX3_airline_19 : decode cX3_airline 19 = .ok (.getfield 552, 3) := dk_180 2 40 (dk_at dksX3_airline_0 19 rfl rfl)
theorem dX3_airline_22 : decode cX3_airline 22 = .ok (.bipush 10, 2) := dk_16 10 (dk_at dksX3_airline_0 22 rfl rfl)
theorem dX3_airline_24 : decode cX3_airline 24 = .ok (.if_icmp .ne 5, 3) := dk_160 0 5 (dk_at dksX3_airline_1 0 rfl rfl)
theorem dX3_airline_27 : decode cX3_airline 27 = .ok (.iconst (-1), 1) := dk_2 (dk_at dksX3_airline_1 3 rfl rfl)
theorem dX3_airline_28 : decode cX3_airline 28 = .ok (.ireturn, 1) := dk_172 (dk_at dksX3_airline_1 4 rfl rfl)
theorem dX3_airline_29 : decode cX3_airline 29 = .ok (.aload_n 0, 1) := dk_42 (dk_at dksX3_airline_1 5 rfl rfl)
theorem dX3_airline_30 : decode cX3_airline 30 = .ok (.getfield 147, 3) := dk_180 0 147 (dk_at dksX3_airline_1 6 rfl rfl)
theorem dX3_airline_33 : decode cX3_airline 33 = .ok (.aload_n 0, 1) := dk_42 (dk_at dksX3_airline_1 9 rfl rfl)
theorem dX3_airline_34 : decode cX3_airline 34 = .ok (.getfield 552, 3) := dk_180 2 40 (dk_at dksX3_airline_1 10 rfl rfl)
theorem dX3_airline_37 : decode cX3_airline 37 = .ok (.iload_n 1, 1) := dk_27 (dk_at dksX3_airline_1 13 rfl rfl)
theorem dX3_airline_38 : decode cX3_airline 38 = .ok (.iastore, 1) := dk_79 (dk_at dksX3_airline_1 14 rfl rfl)
theorem dX3_airline_39 : decode cX3_airline 39 = .ok (.aload_n 0, 1) := dk_42 (dk_at dksX3_airline_1 15 rfl rfl)
theorem dX3_airline_40 : decode cX3_airline 40 = .ok (.getfield 150, 3) := dk_180 0 150 (dk_at dksX3_airline_1 16 rfl rfl)
theorem dX3_airline_43 : decode cX3_airline 43 = .ok (.aload_n 0, 1) := dk_42 (dk_at dksX3_airline_1 19 rfl rfl)
theorem dX3_airline_44 : decode cX3_airline 44 = .ok (.getfield 552, 3) := dk_180 2 40 (dk_at dksX3_airline_1 20 rfl rfl)
theorem dX3_airline_47 : decode cX3_airline 47 = .ok (.iload_n 2, 1) := dk_28 (dk_at dksX3_airline_1 23 rfl rfl)
theorem dX3_airline_48 : decode cX3_airline 48 = .ok (.iastore, 1) := dk_79 (dk_at dksX3_airline_2 0 rfl rfl)
theorem dX3_airline_49 : decode cX3_airline 49 = .ok (.aload_n 0, 1) := dk_42 (dk_at dksX3_airline_2 1 rfl rfl)
theorem dX3_airline_50 : decode cX3_airline 50 = .ok (.dup, 1) := dk_89 (dk_at dksX3_airline_2 2 rfl rfl)
theorem dX3_airline_51 : decode cX3_airline 51 = .ok (.getfield 552, 3) := dk_180 2 40 (dk_at dksX3_airline_2 3 rfl rfl)
theorem dX3_airline_54 : decode cX3_airline 54 = .ok (.iconst 1, 1) := dk_4 (dk_at dksX3_airline_2 6 rfl rfl)
theorem dX3_airline_55 : decode cX3_airline 55 = .ok (.iadd, 1) := dk_96 (dk_at dksX3_airline_2 7 rfl rfl)
theorem dX3_airline_56 : decode cX3_airline 56 = .ok (.putfield 552, 3) := dk_181 2 40 (dk_at dksX3_airline_2 8 rfl rfl)
theorem dX3_airline_59 : decode cX3_airline 59 = .ok (.aload_n 0, 1) := dk_42 (dk_at dksX3_airline_2 11 rfl rfl)
theorem dX3_airline_60 : decode cX3_airline 60 = .ok (.getfield 552, 3) := dk_180 2 40 (dk_at dksX3_airline_2 12 rfl rfl)
theorem dX3_airline_63 : decode cX3_airline 63 = .ok (.iconst 1, 1) := dk_4 (dk_at dksX3_airline_2 15 rfl rfl)
theorem dX3_airline_64 : decode cX3_airline 64 = .ok (.isub, 1) := dk_100 (dk_at dksX3_airline_2 16 rfl rfl)
theorem dX3_airline_65 : decode cX3_airline 65 = .ok (.ireturn, 1) := dk_172 (dk_at dksX3_airline_2 17 rfl rfl)
abbrev cX3_bears : ByteArray := prog_24_method_107_code
def dkwX3_bears_2 : List UInt8 := [154, 0, 9, 132, 3, 255, 167, 255, 222, 29, 172]
abbrev dktX3_bears_2 : List UInt8 := dkwX3_bears_2 ++ []
def dkwX3_bears_1 : List UInt8 := [180, 0, 169, 3, 42, 180, 2, 76, 29, 156, 0, 7, 3, 167, 0, 4, 29, 27, 28, 184, 2, 82, 51]
abbrev dktX3_bears_1 : List UInt8 := dkwX3_bears_1 ++ dktX3_bears_2
def dkwX3_bears_0 : List UInt8 := [27, 28, 184, 2, 96, 154, 0, 5, 2, 172, 42, 182, 2, 99, 16, 6, 62, 29, 155, 0, 36, 42]
abbrev dktX3_bears_0 : List UInt8 := dkwX3_bears_0 ++ dktX3_bears_1
theorem dksX3_bears_0 : cX3_bears.data.toList.drop 0 = dktX3_bears_0 := by decide +kernel
theorem dksX3_bears_1 : cX3_bears.data.toList.drop 22 = dktX3_bears_1 := dk_seg dksX3_bears_0 22 rfl rfl
theorem dksX3_bears_2 : cX3_bears.data.toList.drop 45 = dktX3_bears_2 := dk_seg dksX3_bears_1 23 rfl rfl
theorem dX3_bears_0 : decode cX3_bears 0 = .ok (.iload_n 1, 1) := dk_27 (dk_at dksX3_bears_0 0 rfl rfl)
theorem dX3_bears_1 : decode cX3_bears 1 = .ok (.iload_n 2, 1) := dk_28 (dk_at dksX3_bears_0 1 rfl rfl)
theorem dX3_bears_2 : decode cX3_bears 2 = .ok (.invokestatic 608, 3) := dk_184 2 96 (dk_at dksX3_bears_0 2 rfl rfl)
theorem dX3_bears_5 : decode cX3_bears 5 = .ok (.ifCond .ne 5, 3) := dk_154 0 5 (dk_at dksX3_bears_0 5 rfl rfl)
theorem dX3_bears_8 : decode cX3_bears 8 = .ok (.iconst (-1), 1) := dk_2 (dk_at dksX3_bears_0 8 rfl rfl)
theorem dX3_bears_9 : decode cX3_bears 9 = .ok (.ireturn, 1) := dk_172 (dk_at dksX3_bears_0 9 rfl rfl)
theorem dX3_bears_10 : decode cX3_bears 10 = .ok (.aload_n 0, 1) := dk_42 (dk_at dksX3_bears_0 10 rfl rfl)
theorem dX3_bears_11 : decode cX3_bears 11 = .ok (.invokevirtual 611, 3) := dk_182 2 99 (dk_at dksX3_bears_0 11 rfl rfl)
theorem dX3_bears_14 : decode cX3_bears 14 = .ok (.bipush 6, 2) := dk_16 6 (dk_at dksX3_bears_0 14 rfl rfl)
theorem dX3_bears_16 : decode cX3_bears 16 = .ok (.istore_n 3, 1) := dk_62 (dk_at dksX3_bears_0 16 rfl rfl)
theorem dX3_bears_17 : decode cX3_bears 17 = .ok (.iload_n 3, 1) := dk_29 (dk_at dksX3_bears_0 17 rfl rfl)
theorem dX3_bears_18 : decode cX3_bears 18 = .ok (.ifCond .lt 36, 3) := dk_155 0 36 (dk_at dksX3_bears_0 18 rfl rfl)
theorem dX3_bears_21 : decode cX3_bears 21 = .ok (.aload_n 0, 1) := dk_42 (dk_at dksX3_bears_0 21 rfl rfl)
theorem dX3_bears_22 : decode cX3_bears 22 = .ok (.getfield 169, 3) := dk_180 0 169 (dk_at dksX3_bears_1 0 rfl rfl)
theorem dX3_bears_25 : decode cX3_bears 25 = .ok (.iconst 0, 1) := dk_3 (dk_at dksX3_bears_1 3 rfl rfl)
theorem dX3_bears_26 : decode cX3_bears 26 = .ok (.aload_n 0, 1) := dk_42 (dk_at dksX3_bears_1 4 rfl rfl)
theorem dX3_bears_27 : decode cX3_bears 27 = .ok (.getfield 588, 3) := dk_180 2 76 (dk_at dksX3_bears_1 5 rfl rfl)
theorem dX3_bears_30 : decode cX3_bears 30 = .ok (.iload_n 3, 1) := dk_29 (dk_at dksX3_bears_1 8 rfl rfl)
theorem dX3_bears_31 : decode cX3_bears 31 = .ok (.ifCond .ge 7, 3) := dk_156 0 7 (dk_at dksX3_bears_1 9 rfl rfl)
theorem dX3_bears_34 : decode cX3_bears 34 = .ok (.iconst 0, 1) := dk_3 (dk_at dksX3_bears_1 12 rfl rfl)
theorem dX3_bears_35 : decode cX3_bears 35 = .ok (.goto 4, 3) := dk_167 0 4 (dk_at dksX3_bears_1 13 rfl rfl)
theorem dX3_bears_38 : decode cX3_bears 38 = .ok (.iload_n 3, 1) := dk_29 (dk_at dksX3_bears_1 16 rfl rfl)
theorem dX3_bears_39 : decode cX3_bears 39 = .ok (.iload_n 1, 1) := dk_27 (dk_at dksX3_bears_1 17 rfl rfl)
theorem dX3_bears_40 : decode cX3_bears 40 = .ok (.iload_n 2, 1) := dk_28 (dk_at dksX3_bears_1 18 rfl rfl)
theorem dX3_bears_41 : decode cX3_bears 41 = .ok (.invokestatic 594, 3) := dk_184 2 82 (dk_at dksX3_bears_1 19 rfl rfl)
theorem dX3_bears_44 : decode cX3_bears 44 = .ok (.baload, 1) := dk_51 (dk_at dksX3_bears_1 22 rfl rfl)
theorem dX3_bears_45 : decode cX3_bears 45 = .ok (.ifCond .ne 9, 3) := dk_154 0 9 (dk_at dksX3_bears_2 0 rfl rfl)
theorem dX3_bears_48 : decode cX3_bears 48 = .ok (.iinc 3 (-1), 3) := dk_132 3 255 (dk_at dksX3_bears_2 3 rfl rfl)
theorem dX3_bears_51 : decode cX3_bears 51 = .ok (.goto (-34), 3) := dk_167 255 222 (dk_at dksX3_bears_2 6 rfl rfl)
theorem dX3_bears_54 : decode cX3_bears 54 = .ok (.iload_n 3, 1) := dk_29 (dk_at dksX3_bears_2 9 rfl rfl)
theorem dX3_bears_55 : decode cX3_bears 55 = .ok (.ireturn, 1) := dk_172 (dk_at dksX3_bears_2 10 rfl rfl)
abbrev cX3_behind : ByteArray := prog_24_method_50_code
def dkwX3_behind_8 : List UInt8 := [182, 1, 83, 3, 172]
abbrev dktX3_behind_8 : List UInt8 := dkwX3_behind_8 ++ []
def dkwX3_behind_7 : List UInt8 := [16, 7, 160, 0, 23, 42, 89, 180, 1, 156, 4, 100, 181, 1, 156, 42, 42, 16, 41, 182, 1, 80]
abbrev dktX3_behind_7 : List UInt8 := dkwX3_behind_7 ++ dktX3_behind_8
def dkwX3_behind_6 : List UInt8 := [182, 1, 32, 4, 172, 42, 89, 180, 1, 153, 4, 100, 181, 1, 153, 42, 180, 0, 98, 42, 180, 1, 153, 46]
abbrev dktX3_behind_6 : List UInt8 := dkwX3_behind_6 ++ dktX3_behind_7
def dkwX3_behind_5 : List UInt8 := [27, 4, 160, 0, 8, 16, 124, 167, 0, 11, 42, 42, 180, 0, 249, 182, 0, 252, 182, 1, 159, 42]
abbrev dktX3_behind_5 : List UInt8 := dkwX3_behind_5 ++ dktX3_behind_6
def dkwX3_behind_4 : List UInt8 := [46, 3, 182, 1, 174, 167, 255, 178, 27, 158, 0, 42, 42, 27, 27, 5, 160, 0, 8, 16, 38, 167, 0, 21]
abbrev dktX3_behind_4 : List UInt8 := dkwX3_behind_4 ++ dktX3_behind_5
def dkwX3_behind_3 : List UInt8 := [46, 6, 160, 0, 13, 42, 89, 180, 1, 156, 4, 100, 181, 1, 156, 42, 42, 180, 0, 101, 42, 180, 1, 153]
abbrev dktX3_behind_3 : List UInt8 := dkwX3_behind_3 ++ dktX3_behind_4
def dkwX3_behind_2 : List UInt8 := [100, 46, 27, 161, 0, 53, 42, 89, 180, 1, 153, 4, 100, 181, 1, 153, 42, 180, 0, 98, 42, 180, 1, 153]
abbrev dktX3_behind_2 : List UInt8 := dkwX3_behind_2 ++ dktX3_behind_3
def dkwX3_behind_1 : List UInt8 := [180, 0, 98, 42, 180, 1, 153, 4, 100, 46, 16, 6, 163, 0, 68, 42, 180, 0, 98, 42, 180, 1, 153, 4]
abbrev dktX3_behind_1 : List UInt8 := dkwX3_behind_1 ++ dktX3_behind_2
def dkwX3_behind_0 : List UInt8 := [42, 182, 1, 177, 60, 27, 7, 160, 0, 16, 42, 182, 1, 180, 153, 0, 9, 42, 182, 1, 35, 4, 172, 42]
abbrev dktX3_behind_0 : List UInt8 := dkwX3_behind_0 ++ dktX3_behind_1
theorem dksX3_behind_0 : cX3_behind.data.toList.drop 0 = dktX3_behind_0 := by decide +kernel
theorem dksX3_behind_1 : cX3_behind.data.toList.drop 24 = dktX3_behind_1 := dk_seg dksX3_behind_0 24 rfl rfl
theorem dksX3_behind_2 : cX3_behind.data.toList.drop 48 = dktX3_behind_2 := dk_seg dksX3_behind_1 24 rfl rfl
theorem dksX3_behind_3 : cX3_behind.data.toList.drop 72 = dktX3_behind_3 := dk_seg dksX3_behind_2 24 rfl rfl
theorem dksX3_behind_4 : cX3_behind.data.toList.drop 96 = dktX3_behind_4 := dk_seg dksX3_behind_3 24 rfl rfl
theorem dksX3_behind_5 : cX3_behind.data.toList.drop 120 = dktX3_behind_5 := dk_seg dksX3_behind_4 24 rfl rfl
theorem dksX3_behind_6 : cX3_behind.data.toList.drop 142 = dktX3_behind_6 := dk_seg dksX3_behind_5 22 rfl rfl
theorem dksX3_behind_7 : cX3_behind.data.toList.drop 166 = dktX3_behind_7 := dk_seg dksX3_behind_6 24 rfl rfl
theorem dksX3_behind_8 : cX3_behind.data.toList.drop 188 = dktX3_behind_8 := dk_seg dksX3_behind_7 22 rfl rfl
theorem dX3_behind_0 : decode cX3_behind 0 = .ok (.aload_n 0, 1) := dk_42 (dk_at dksX3_behind_0 0 rfl rfl)
theorem dX3_behind_1 : decode cX3_behind 1 = .ok (.invokevirtual 433, 3) := dk_182 1 177 (dk_at dksX3_behind_0 1 rfl rfl)
theorem dX3_behind_4 : decode cX3_behind 4 = .ok (.istore_n 1, 1) := dk_60 (dk_at dksX3_behind_0 4 rfl rfl)
theorem dX3_behind_5 : decode cX3_behind 5 = .ok (.iload_n 1, 1) := dk_27 (dk_at dksX3_behind_0 5 rfl rfl)
theorem dX3_behind_6 : decode cX3_behind 6 = .ok (.iconst 4, 1) := dk_7 (dk_at dksX3_behind_0 6 rfl rfl)
theorem dX3_behind_7 : decode cX3_behind 7 = .ok (.if_icmp .ne 16, 3) := dk_160 0 16 (dk_at dksX3_behind_0 7 rfl rfl)
theorem dX3_behind_10 : decode cX3_behind 10 = .ok (.aload_n 0, 1) := dk_42 (dk_at dksX3_behind_0 10 rfl rfl)
theorem dX3_behind_11 : decode cX3_behind 11 = .ok (.invokevirtual 436, 3) := dk_182 1 180 (dk_at dksX3_behind_0 11 rfl rfl)
theorem dX3_behind_14 : decode cX3_behind 14 = .ok (.ifCond .eq 9, 3) := dk_153 0 9 (dk_at dksX3_behind_0 14 rfl rfl)
theorem dX3_behind_17 : decode cX3_behind 17 = .ok (.aload_n 0, 1) := dk_42 (dk_at dksX3_behind_0 17 rfl rfl)
theorem dX3_behind_18 : decode cX3_behind 18 = .ok (.invokevirtual 291, 3) := dk_182 1 35 (dk_at dksX3_behind_0 18 rfl rfl)
theorem dX3_behind_21 : decode cX3_behind 21 = .ok (.iconst 1, 1) := dk_4 (dk_at dksX3_behind_0 21 rfl rfl)
theorem dX3_behind_22 : decode cX3_behind 22 = .ok (.ireturn, 1) := dk_172 (dk_at dksX3_behind_0 22 rfl rfl)
theorem dX3_behind_23 : decode cX3_behind 23 = .ok (.aload_n 0, 1) := dk_42 (dk_at dksX3_behind_0 23 rfl rfl)
theorem dX3_behind_24 : decode cX3_behind 24 = .ok (.getfield 98, 3) := dk_180 0 98 (dk_at dksX3_behind_1 0 rfl rfl)
theorem dX3_behind_27 : decode cX3_behind 27 = .ok (.aload_n 0, 1) := dk_42 (dk_at dksX3_behind_1 3 rfl rfl)
theorem dX3_behind_28 : decode cX3_behind 28 = .ok (.getfield 409, 3) := dk_180 1 153 (dk_at dksX3_behind_1 4 rfl rfl)
theorem dX3_behind_31 : decode cX3_behind 31 = .ok (.iconst 1, 1) := dk_4 (dk_at dksX3_behind_1 7 rfl rfl)
theorem dX3_behind_32 : decode cX3_behind 32 = .ok (.isub, 1) := dk_100 (dk_at dksX3_behind_1 8 rfl rfl)
theorem dX3_behind_33 : decode cX3_behind 33 = .ok (.iaload, 1) := dk_46 (dk_at dksX3_behind_1 9 rfl rfl)
theorem dX3_behind_34 : decode cX3_behind 34 = .ok (.bipush 6, 2) := dk_16 6 (dk_at dksX3_behind_1 10 rfl rfl)
theorem dX3_behind_36 : decode cX3_behind 36 = .ok (.if_icmp .gt 68, 3) := dk_163 0 68 (dk_at dksX3_behind_1 12 rfl rfl)
theorem dX3_behind_39 : decode cX3_behind 39 = .ok (.aload_n 0, 1) := dk_42 (dk_at dksX3_behind_1 15 rfl rfl)
theorem dX3_behind_40 : decode cX3_behind 40 = .ok (.getfield 98, 3) := dk_180 0 98 (dk_at dksX3_behind_1 16 rfl rfl)
theorem dX3_behind_43 : decode cX3_behind 43 = .ok (.aload_n 0, 1) := dk_42 (dk_at dksX3_behind_1 19 rfl rfl)
theorem dX3_behind_44 : decode cX3_behind 44 = .ok (.getfield 409, 3) := dk_180 1 153 (dk_at dksX3_behind_1 20 rfl rfl)
theorem dX3_behind_47 : decode cX3_behind 47 = .ok (.iconst 1, 1) := dk_4 (dk_at dksX3_behind_1 23 rfl rfl)
theorem dX3_behind_48 : decode cX3_behind 48 = .ok (.isub, 1) := dk_100 (dk_at dksX3_behind_2 0 rfl rfl)
theorem dX3_behind_49 : decode cX3_behind 49 = .ok (.iaload, 1) := dk_46 (dk_at dksX3_behind_2 1 rfl rfl)
theorem dX3_behind_50 : decode cX3_behind 50 = .ok (.iload_n 1, 1) := dk_27 (dk_at dksX3_behind_2 2 rfl rfl)
theorem dX3_behind_51 : decode cX3_behind 51 = .ok (.if_icmp .lt 53, 3) := dk_161 0 53 (dk_at dksX3_behind_2 3 rfl rfl)
theorem dX3_behind_54 : decode cX3_behind 54 = .ok (.aload_n 0, 1) := dk_42 (dk_at dksX3_behind_2 6 rfl rfl)
theorem dX3_behind_55 : decode cX3_behind 55 = .ok (.dup, 1) := dk_89 (dk_at dksX3_behind_2 7 rfl rfl)
theorem dX3_behind_56 : decode cX3_behind 56 = .ok (.getfield 409, 3) := dk_180 1 153 (dk_at dksX3_behind_2 8 rfl rfl)
theorem dX3_behind_59 : decode cX3_behind 59 = .ok (.iconst 1, 1) := dk_4 (dk_at dksX3_behind_2 11 rfl rfl)
theorem dX3_behind_60 : decode cX3_behind 60 = .ok (.isub, 1) := dk_100 (dk_at dksX3_behind_2 12 rfl rfl)
theorem dX3_behind_61 : decode cX3_behind 61 = .ok (.putfield 409, 3) := dk_181 1 153 (dk_at dksX3_behind_2 13 rfl rfl)
theorem dX3_behind_64 : decode cX3_behind 64 = .ok (.aload_n 0, 1) := dk_42 (dk_at dksX3_behind_2 16 rfl rfl)
theorem dX3_behind_65 : decode cX3_behind 65 = .ok (.getfield 98, 3) := dk_180 0 98 (dk_at dksX3_behind_2 17 rfl rfl)
theorem dX3_behind_68 : decode cX3_behind 68 = .ok (.aload_n 0, 1) := dk_42 (dk_at dksX3_behind_2 20 rfl rfl)
theorem dX3_behind_69 : decode cX3_behind 69 = .ok (.getfield 409, 3) := dk_180 1 153 (dk_at dksX3_behind_2 21 rfl rfl)
theorem dX3_behind_72 : decode cX3_behind 72 = .ok (.iaload, 1) := dk_46 (dk_at dksX3_behind_3 0 rfl rfl)
theorem dX3_behind_73 : decode cX3_behind 73 = .ok (.iconst 3, 1) := dk_6 (dk_at dksX3_behind_3 1 rfl rfl)
theorem dX3_behind_74 : decode cX3_behind 74 = .ok (.if_icmp .ne 13, 3) := dk_160 0 13 (dk_at dksX3_behind_3 2 rfl rfl)
theorem dX3_behind_77 : decode cX3_behind 77 = .ok (.aload_n 0, 1) := dk_42 (dk_at dksX3_behind_3 5 rfl rfl)
theorem dX3_behind_78 : decode cX3_behind 78 = .ok (.dup, 1) := dk_89 (dk_at dksX3_behind_3 6 rfl rfl)
theorem dX3_behind_79 : decode cX3_behind 79 = .ok (.getfield 412, 3) := dk_180 1 156 (dk_at dksX3_behind_3 7 rfl rfl)
theorem dX3_behind_82 : decode cX3_behind 82 = .ok (.iconst 1, 1) := dk_4 (dk_at dksX3_behind_3 10 rfl rfl)
theorem dX3_behind_83 : decode cX3_behind 83 = .ok (.isub, 1) := dk_100 (dk_at dksX3_behind_3 11 rfl rfl)
theorem dX3_behind_84 : decode cX3_behind 84 = .ok (.putfield 412, 3) := dk_181 1 156 (dk_at dksX3_behind_3 12 rfl rfl)
theorem dX3_behind_87 : decode cX3_behind 87 = .ok (.aload_n 0, 1) := dk_42 (dk_at dksX3_behind_3 15 rfl rfl)
theorem dX3_behind_88 : decode cX3_behind 88 = .ok (.aload_n 0, 1) := dk_42 (dk_at dksX3_behind_3 16 rfl rfl)
theorem dX3_behind_89 : decode cX3_behind 89 = .ok (.getfield 101, 3) := dk_180 0 101 (dk_at dksX3_behind_3 17 rfl rfl)
theorem dX3_behind_92 : decode cX3_behind 92 = .ok (.aload_n 0, 1) := dk_42 (dk_at dksX3_behind_3 20 rfl rfl)
theorem dX3_behind_93 : decode cX3_behind 93 = .ok (.getfield 409, 3) := dk_180 1 153 (dk_at dksX3_behind_3 21 rfl rfl)
theorem dX3_behind_96 : decode cX3_behind 96 = .ok (.iaload, 1) := dk_46 (dk_at dksX3_behind_4 0 rfl rfl)
theorem dX3_behind_97 : decode cX3_behind 97 = .ok (.iconst 0, 1) := dk_3 (dk_at dksX3_behind_4 1 rfl rfl)
theorem dX3_behind_98 : decode cX3_behind 98 = .ok (.invokevirtual 430, 3) := dk_182 1 174 (dk_at dksX3_behind_4 2 rfl rfl)
theorem dX3_behind_101 : decode cX3_behind 101 = .ok (.goto (-78), 3) := dk_167 255 178 (dk_at dksX3_behind_4 5 rfl rfl)
theorem dX3_behind_104 : decode cX3_behind 104 = .ok (.iload_n 1, 1) := dk_27 (dk_at dksX3_behind_4 8 rfl rfl)
theorem dX3_behind_105 : decode cX3_behind 105 = .ok (.ifCond .le 42, 3) := dk_158 0 42 (dk_at dksX3_behind_4 9 rfl rfl)
theorem dX3_behind_108 : decode cX3_behind 108 = .ok (.aload_n 0, 1) := dk_42 (dk_at dksX3_behind_4 12 rfl rfl)
theorem dX3_behind_109 : decode cX3_behind 109 = .ok (.iload_n 1, 1) := dk_27 (dk_at dksX3_behind_4 13 rfl rfl)
theorem dX3_behind_110 : decode cX3_behind 110 = .ok (.iload_n 1, 1) := dk_27 (dk_at dksX3_behind_4 14 rfl rfl)
theorem dX3_behind_111 : decode cX3_behind 111 = .ok (.iconst 2, 1) := dk_5 (dk_at dksX3_behind_4 15 rfl rfl)
theorem dX3_behind_112 : decode cX3_behind 112 = .ok (.if_icmp .ne 8, 3) := dk_160 0 8 (dk_at dksX3_behind_4 16 rfl rfl)
theorem dX3_behind_115 : decode cX3_behind 115 = .ok (.bipush 38, 2) := dk_16 38 (dk_at dksX3_behind_4 19 rfl rfl)
theorem dX3_behind_117 : decode cX3_behind 117 = .ok (.goto 21, 3) := dk_167 0 21 (dk_at dksX3_behind_4 21 rfl rfl)
theorem dX3_behind_120 : decode cX3_behind 120 = .ok (.iload_n 1, 1) := dk_27 (dk_at dksX3_behind_5 0 rfl rfl)
theorem dX3_behind_121 : decode cX3_behind 121 = .ok (.iconst 1, 1) := dk_4 (dk_at dksX3_behind_5 1 rfl rfl)
theorem dX3_behind_122 : decode cX3_behind 122 = .ok (.if_icmp .ne 8, 3) := dk_160 0 8 (dk_at dksX3_behind_5 2 rfl rfl)
theorem dX3_behind_125 : decode cX3_behind 125 = .ok (.bipush 124, 2) := dk_16 124 (dk_at dksX3_behind_5 5 rfl rfl)
theorem dX3_behind_127 : decode cX3_behind 127 = .ok (.goto 11, 3) := dk_167 0 11 (dk_at dksX3_behind_5 7 rfl rfl)
theorem dX3_behind_130 : decode cX3_behind 130 = .ok (.aload_n 0, 1) := dk_42 (dk_at dksX3_behind_5 10 rfl rfl)
theorem dX3_behind_131 : decode cX3_behind 131 = .ok (.aload_n 0, 1) := dk_42 (dk_at dksX3_behind_5 11 rfl rfl)
theorem dX3_behind_132 : decode cX3_behind 132 = .ok (.getfield 249, 3) := dk_180 0 249 (dk_at dksX3_behind_5 12 rfl rfl)
theorem dX3_behind_135 : decode cX3_behind 135 = .ok (.invokevirtual 252, 3) := dk_182 0 252 (dk_at dksX3_behind_5 15 rfl rfl)
theorem dX3_behind_138 : decode cX3_behind 138 = .ok (.invokevirtual 415, 3) := dk_182 1 159 (dk_at dksX3_behind_5 18 rfl rfl)
theorem dX3_behind_141 : decode cX3_behind 141 = .ok (.aload_n 0, 1) := dk_42 (dk_at dksX3_behind_5 21 rfl rfl)
theorem dX3_behind_142 : decode cX3_behind 142 = .ok (.invokevirtual 288, 3) := dk_182 1 32 (dk_at dksX3_behind_6 0 rfl rfl)
theorem dX3_behind_145 : decode cX3_behind 145 = .ok (.iconst 1, 1) := dk_4 (dk_at dksX3_behind_6 3 rfl rfl)
theorem dX3_behind_146 : decode cX3_behind 146 = .ok (.ireturn, 1) := dk_172 (dk_at dksX3_behind_6 4 rfl rfl)
theorem dX3_behind_147 : decode cX3_behind 147 = .ok (.aload_n 0, 1) := dk_42 (dk_at dksX3_behind_6 5 rfl rfl)
theorem dX3_behind_148 : decode cX3_behind 148 = .ok (.dup, 1) := dk_89 (dk_at dksX3_behind_6 6 rfl rfl)
theorem dX3_behind_149 : decode cX3_behind 149 = .ok (.getfield 409, 3) := dk_180 1 153 (dk_at dksX3_behind_6 7 rfl rfl)
theorem dX3_behind_152 : decode cX3_behind 152 = .ok (.iconst 1, 1) := dk_4 (dk_at dksX3_behind_6 10 rfl rfl)
theorem dX3_behind_153 : decode cX3_behind 153 = .ok (.isub, 1) := dk_100 (dk_at dksX3_behind_6 11 rfl rfl)
theorem dX3_behind_154 : decode cX3_behind 154 = .ok (.putfield 409, 3) := dk_181 1 153 (dk_at dksX3_behind_6 12 rfl rfl)
theorem dX3_behind_157 : decode cX3_behind 157 = .ok (.aload_n 0, 1) := dk_42 (dk_at dksX3_behind_6 15 rfl rfl)
theorem dX3_behind_158 : decode cX3_behind 158 = .ok (.getfield 98, 3) := dk_180 0 98 (dk_at dksX3_behind_6 16 rfl rfl)
theorem dX3_behind_161 : decode cX3_behind 161 = .ok (.aload_n 0, 1) := dk_42 (dk_at dksX3_behind_6 19 rfl rfl)
theorem dX3_behind_162 : decode cX3_behind 162 = .ok (.getfield 409, 3) := dk_180 1 153 (dk_at dksX3_behind_6 20 rfl rfl)
theorem dX3_behind_165 : decode cX3_behind 165 = .ok (.iaload, 1) := dk_46 (dk_at dksX3_behind_6 23 rfl rfl)
theorem dX3_behind_166 : decode cX3_behind 166 = .ok (.bipush 7, 2) := dk_16 7 (dk_at dksX3_behind_7 0 rfl rfl)
theorem dX3_behind_168 : decode cX3_behind 168 = .ok (.if_icmp .ne 23, 3) := dk_160 0 23 (dk_at dksX3_behind_7 2 rfl rfl)
theorem dX3_behind_171 : decode cX3_behind 171 = .ok (.aload_n 0, 1) := dk_42 (dk_at dksX3_behind_7 5 rfl rfl)
theorem dX3_behind_172 : decode cX3_behind 172 = .ok (.dup, 1) := dk_89 (dk_at dksX3_behind_7 6 rfl rfl)
theorem dX3_behind_173 : decode cX3_behind 173 = .ok (.getfield 412, 3) := dk_180 1 156 (dk_at dksX3_behind_7 7 rfl rfl)
theorem dX3_behind_176 : decode cX3_behind 176 = .ok (.iconst 1, 1) := dk_4 (dk_at dksX3_behind_7 10 rfl rfl)
theorem dX3_behind_177 : decode cX3_behind 177 = .ok (.isub, 1) := dk_100 (dk_at dksX3_behind_7 11 rfl rfl)
theorem dX3_behind_178 : decode cX3_behind 178 = .ok (.putfield 412, 3) := dk_181 1 156 (dk_at dksX3_behind_7 12 rfl rfl)
theorem dX3_behind_181 : decode cX3_behind 181 = .ok (.aload_n 0, 1) := dk_42 (dk_at dksX3_behind_7 15 rfl rfl)
theorem dX3_behind_182 : decode cX3_behind 182 = .ok (.aload_n 0, 1) := dk_42 (dk_at dksX3_behind_7 16 rfl rfl)
theorem dX3_behind_183 : decode cX3_behind 183 = .ok (.bipush 41, 2) := dk_16 41 (dk_at dksX3_behind_7 17 rfl rfl)
theorem dX3_behind_185 : decode cX3_behind 185 = .ok (.invokevirtual 336, 3) := dk_182 1 80 (dk_at dksX3_behind_7 19 rfl rfl)
theorem dX3_behind_188 : decode cX3_behind 188 = .ok (.invokevirtual 339, 3) := dk_182 1 83 (dk_at dksX3_behind_8 0 rfl rfl)
theorem dX3_behind_191 : decode cX3_behind 191 = .ok (.iconst 0, 1) := dk_3 (dk_at dksX3_behind_8 3 rfl rfl)
theorem dX3_behind_192 : decode cX3_behind 192 = .ok (.ireturn, 1) := dk_172 (dk_at dksX3_behind_8 4 rfl rfl)
abbrev cX3_bestMove : ByteArray := prog_24_method_81_code
def dkwX3_bestMove_7 : List UInt8 := [132, 4, 1, 167, 255, 102, 29, 172]
abbrev dktX3_bestMove_7 : List UInt8 := dkwX3_bestMove_7 ++ []
def dkwX3_bestMove_6 : List UInt8 := [182, 2, 11, 181, 2, 21, 132, 7, 1, 167, 255, 166, 132, 6, 1, 167, 255, 138, 132, 5, 1, 167, 255, 120]
abbrev dktX3_bestMove_6 : List UInt8 := dkwX3_bestMove_6 ++ dktX3_bestMove_7
def dkwX3_bestMove_5 : List UInt8 := [167, 0, 16, 16, 9, 21, 5, 104, 6, 21, 6, 104, 96, 21, 7, 96, 96, 181, 2, 14, 42, 42]
abbrev dktX3_bestMove_5 : List UInt8 := dkwX3_bestMove_5 ++ dktX3_bestMove_6
def dkwX3_bestMove_4 : List UInt8 := [21, 8, 29, 161, 0, 6, 167, 0, 46, 21, 8, 62, 42, 16, 100, 21, 4, 104, 21, 5, 154, 0, 7, 3]
abbrev dktX3_bestMove_4 : List UInt8 := dkwX3_bestMove_4 ++ dktX3_bestMove_5
def dkwX3_bestMove_3 : List UInt8 := [153, 0, 8, 21, 5, 158, 0, 77, 42, 27, 28, 21, 5, 21, 6, 21, 7, 21, 4, 182, 2, 17, 54, 8]
abbrev dktX3_bestMove_3 : List UInt8 := dkwX3_bestMove_3 ++ dktX3_bestMove_4
def dkwX3_bestMove_2 : List UInt8 := [153, 0, 8, 21, 5, 158, 0, 105, 3, 54, 7, 21, 7, 42, 182, 2, 8, 162, 0, 87, 21, 7]
abbrev dktX3_bestMove_2 : List UInt8 := dkwX3_bestMove_2 ++ dktX3_bestMove_3
def dkwX3_bestMove_1 : List UInt8 := [21, 5, 42, 180, 0, 141, 163, 0, 133, 3, 54, 6, 21, 6, 42, 182, 2, 8, 162, 0, 115, 21, 6]
abbrev dktX3_bestMove_1 : List UInt8 := dkwX3_bestMove_1 ++ dktX3_bestMove_2
def dkwX3_bestMove_0 : List UInt8 := [19, 1, 247, 62, 42, 2, 181, 2, 14, 3, 54, 4, 21, 4, 42, 182, 2, 8, 162, 0, 151, 3, 54, 5]
abbrev dktX3_bestMove_0 : List UInt8 := dkwX3_bestMove_0 ++ dktX3_bestMove_1
theorem dksX3_bestMove_0 : cX3_bestMove.data.toList.drop 0 = dktX3_bestMove_0 := by decide +kernel
theorem dksX3_bestMove_1 : cX3_bestMove.data.toList.drop 24 = dktX3_bestMove_1 := dk_seg dksX3_bestMove_0 24 rfl rfl
theorem dksX3_bestMove_2 : cX3_bestMove.data.toList.drop 47 = dktX3_bestMove_2 := dk_seg dksX3_bestMove_1 23 rfl rfl
theorem dksX3_bestMove_3 : cX3_bestMove.data.toList.drop 69 = dktX3_bestMove_3 := dk_seg dksX3_bestMove_2 22 rfl rfl
theorem dksX3_bestMove_4 : cX3_bestMove.data.toList.drop 93 = dktX3_bestMove_4 := dk_seg dksX3_bestMove_3 24 rfl rfl
theorem dksX3_bestMove_5 : cX3_bestMove.data.toList.drop 117 = dktX3_bestMove_5 := dk_seg dksX3_bestMove_4 24 rfl rfl
theorem dksX3_bestMove_6 : cX3_bestMove.data.toList.drop 139 = dktX3_bestMove_6 := dk_seg dksX3_bestMove_5 22 rfl rfl
theorem dksX3_bestMove_7 : cX3_bestMove.data.toList.drop 163 = dktX3_bestMove_7 := dk_seg dksX3_bestMove_6 24 rfl rfl
theorem dX3_bestMove_0 : decode cX3_bestMove 0 = .ok (.ldc_w 503, 3) := dk_19 1 247 (dk_at dksX3_bestMove_0 0 rfl rfl)
theorem dX3_bestMove_3 : decode cX3_bestMove 3 = .ok (.istore_n 3, 1) := dk_62 (dk_at dksX3_bestMove_0 3 rfl rfl)
theorem dX3_bestMove_4 : decode cX3_bestMove 4 = .ok (.aload_n 0, 1) := dk_42 (dk_at dksX3_bestMove_0 4 rfl rfl)
theorem dX3_bestMove_5 : decode cX3_bestMove 5 = .ok (.iconst (-1), 1) := dk_2 (dk_at dksX3_bestMove_0 5 rfl rfl)
theorem dX3_bestMove_6 : decode cX3_bestMove 6 = .ok (.putfield 526, 3) := dk_181 2 14 (dk_at dksX3_bestMove_0 6 rfl rfl)
theorem dX3_bestMove_9 : decode cX3_bestMove 9 = .ok (.iconst 0, 1) := dk_3 (dk_at dksX3_bestMove_0 9 rfl rfl)
theorem dX3_bestMove_10 : decode cX3_bestMove 10 = .ok (.istore 4, 2) := dk_54 4 (dk_at dksX3_bestMove_0 10 rfl rfl)
theorem dX3_bestMove_12 : decode cX3_bestMove 12 = .ok (.iload 4, 2) := dk_21 4 (dk_at dksX3_bestMove_0 12 rfl rfl)
theorem dX3_bestMove_14 : decode cX3_bestMove 14 = .ok (.aload_n 0, 1) := dk_42 (dk_at dksX3_bestMove_0 14 rfl rfl)
theorem dX3_bestMove_15 : decode cX3_bestMove 15 = .ok (.invokevirtual 520, 3) := dk_182 2 8 (dk_at dksX3_bestMove_0 15 rfl rfl)
theorem dX3_bestMove_18 : decode cX3_bestMove 18 = .ok (.if_icmp .ge 151, 3) := dk_162 0 151 (dk_at dksX3_bestMove_0 18 rfl rfl)
theorem dX3_bestMove_21 : decode cX3_bestMove 21 = .ok (.iconst 0, 1) := dk_3 (dk_at dksX3_bestMove_0 21 rfl rfl)
theorem dX3_bestMove_22 : decode cX3_bestMove 22 = .ok (.istore 5, 2) := dk_54 5 (dk_at dksX3_bestMove_0 22 rfl rfl)
theorem dX3_bestMove_24 : decode cX3_bestMove 24 = .ok (.iload 5, 2) := dk_21 5 (dk_at dksX3_bestMove_1 0 rfl rfl)
theorem dX3_bestMove_26 : decode cX3_bestMove 26 = .ok (.aload_n 0, 1) := dk_42 (dk_at dksX3_bestMove_1 2 rfl rfl)
theorem dX3_bestMove_27 : decode cX3_bestMove 27 = .ok (.getfield 141, 3) := dk_180 0 141 (dk_at dksX3_bestMove_1 3 rfl rfl)
theorem dX3_bestMove_30 : decode cX3_bestMove 30 = .ok (.if_icmp .gt 133, 3) := dk_163 0 133 (dk_at dksX3_bestMove_1 6 rfl rfl)
theorem dX3_bestMove_33 : decode cX3_bestMove 33 = .ok (.iconst 0, 1) := dk_3 (dk_at dksX3_bestMove_1 9 rfl rfl)
theorem dX3_bestMove_34 : decode cX3_bestMove 34 = .ok (.istore 6, 2) := dk_54 6 (dk_at dksX3_bestMove_1 10 rfl rfl)
theorem dX3_bestMove_36 : decode cX3_bestMove 36 = .ok (.iload 6, 2) := dk_21 6 (dk_at dksX3_bestMove_1 12 rfl rfl)
theorem dX3_bestMove_38 : decode cX3_bestMove 38 = .ok (.aload_n 0, 1) := dk_42 (dk_at dksX3_bestMove_1 14 rfl rfl)
theorem dX3_bestMove_39 : decode cX3_bestMove 39 = .ok (.invokevirtual 520, 3) := dk_182 2 8 (dk_at dksX3_bestMove_1 15 rfl rfl)
theorem dX3_bestMove_42 : decode cX3_bestMove 42 = .ok (.if_icmp .ge 115, 3) := dk_162 0 115 (dk_at dksX3_bestMove_1 18 rfl rfl)
theorem dX3_bestMove_45 : decode cX3_bestMove 45 = .ok (.iload 6, 2) := dk_21 6 (dk_at dksX3_bestMove_1 21 rfl rfl)
theorem dX3_bestMove_47 : decode cX3_bestMove 47 = .ok (.ifCond .eq 8, 3) := dk_153 0 8 (dk_at dksX3_bestMove_2 0 rfl rfl)
theorem dX3_bestMove_50 : decode cX3_bestMove 50 = .ok (.iload 5, 2) := dk_21 5 (dk_at dksX3_bestMove_2 3 rfl rfl)
theorem dX3_bestMove_52 : decode cX3_bestMove 52 = .ok (.ifCond .le 105, 3) := dk_158 0 105 (dk_at dksX3_bestMove_2 5 rfl rfl)
theorem dX3_bestMove_55 : decode cX3_bestMove 55 = .ok (.iconst 0, 1) := dk_3 (dk_at dksX3_bestMove_2 8 rfl rfl)
theorem dX3_bestMove_56 : decode cX3_bestMove 56 = .ok (.istore 7, 2) := dk_54 7 (dk_at dksX3_bestMove_2 9 rfl rfl)
theorem dX3_bestMove_58 : decode cX3_bestMove 58 = .ok (.iload 7, 2) := dk_21 7 (dk_at dksX3_bestMove_2 11 rfl rfl)
theorem dX3_bestMove_60 : decode cX3_bestMove 60 = .ok (.aload_n 0, 1) := dk_42 (dk_at dksX3_bestMove_2 13 rfl rfl)
theorem dX3_bestMove_61 : decode cX3_bestMove 61 = .ok (.invokevirtual 520, 3) := dk_182 2 8 (dk_at dksX3_bestMove_2 14 rfl rfl)
theorem dX3_bestMove_64 : decode cX3_bestMove 64 = .ok (.if_icmp .ge 87, 3) := dk_162 0 87 (dk_at dksX3_bestMove_2 17 rfl rfl)
theorem dX3_bestMove_67 : decode cX3_bestMove 67 = .ok (.iload 7, 2) := dk_21 7 (dk_at dksX3_bestMove_2 20 rfl rfl)
theorem dX3_bestMove_69 : decode cX3_bestMove 69 = .ok (.ifCond .eq 8, 3) := dk_153 0 8 (dk_at dksX3_bestMove_3 0 rfl rfl)
theorem dX3_bestMove_72 : decode cX3_bestMove 72 = .ok (.iload 5, 2) := dk_21 5 (dk_at dksX3_bestMove_3 3 rfl rfl)
theorem dX3_bestMove_74 : decode cX3_bestMove 74 = .ok (.ifCond .le 77, 3) := dk_158 0 77 (dk_at dksX3_bestMove_3 5 rfl rfl)
theorem dX3_bestMove_77 : decode cX3_bestMove 77 = .ok (.aload_n 0, 1) := dk_42 (dk_at dksX3_bestMove_3 8 rfl rfl)
theorem dX3_bestMove_78 : decode cX3_bestMove 78 = .ok (.iload_n 1, 1) := dk_27 (dk_at dksX3_bestMove_3 9 rfl rfl)
theorem dX3_bestMove_79 : decode cX3_bestMove 79 = .ok (.iload_n 2, 1) := dk_28 (dk_at dksX3_bestMove_3 10 rfl rfl)
theorem dX3_bestMove_80 : decode cX3_bestMove 80 = .ok (.iload 5, 2) := dk_21 5 (dk_at dksX3_bestMove_3 11 rfl rfl)
theorem dX3_bestMove_82 : decode cX3_bestMove 82 = .ok (.iload 6, 2) := dk_21 6 (dk_at dksX3_bestMove_3 13 rfl rfl)
theorem dX3_bestMove_84 : decode cX3_bestMove 84 = .ok (.iload 7, 2) := dk_21 7 (dk_at dksX3_bestMove_3 15 rfl rfl)
theorem dX3_bestMove_86 : decode cX3_bestMove 86 = .ok (.iload 4, 2) := dk_21 4 (dk_at dksX3_bestMove_3 17 rfl rfl)
theorem dX3_bestMove_88 : decode cX3_bestMove 88 = .ok (.invokevirtual 529, 3) := dk_182 2 17 (dk_at dksX3_bestMove_3 19 rfl rfl)
theorem dX3_bestMove_91 : decode cX3_bestMove 91 = .ok (.istore 8, 2) := dk_54 8 (dk_at dksX3_bestMove_3 22 rfl rfl)
theorem dX3_bestMove_93 : decode cX3_bestMove 93 = .ok (.iload 8, 2) := dk_21 8 (dk_at dksX3_bestMove_4 0 rfl rfl)
theorem dX3_bestMove_95 : decode cX3_bestMove 95 = .ok (.iload_n 3, 1) := dk_29 (dk_at dksX3_bestMove_4 2 rfl rfl)
theorem dX3_bestMove_96 : decode cX3_bestMove 96 = .ok (.if_icmp .lt 6, 3) := dk_161 0 6 (dk_at dksX3_bestMove_4 3 rfl rfl)
theorem dX3_bestMove_99 : decode cX3_bestMove 99 = .ok (.goto 46, 3) := dk_167 0 46 (dk_at dksX3_bestMove_4 6 rfl rfl)
theorem dX3_bestMove_102 : decode cX3_bestMove 102 = .ok (.iload 8, 2) := dk_21 8 (dk_at dksX3_bestMove_4 9 rfl rfl)
theorem dX3_bestMove_104 : decode cX3_bestMove 104 = .ok (.istore_n 3, 1) := dk_62 (dk_at dksX3_bestMove_4 11 rfl rfl)
theorem dX3_bestMove_105 : decode cX3_bestMove 105 = .ok (.aload_n 0, 1) := dk_42 (dk_at dksX3_bestMove_4 12 rfl rfl)
theorem dX3_bestMove_106 : decode cX3_bestMove 106 = .ok (.bipush 100, 2) := dk_16 100 (dk_at dksX3_bestMove_4 13 rfl rfl)
theorem dX3_bestMove_108 : decode cX3_bestMove 108 = .ok (.iload 4, 2) := dk_21 4 (dk_at dksX3_bestMove_4 15 rfl rfl)
theorem dX3_bestMove_110 : decode cX3_bestMove 110 = .ok (.imul, 1) := dk_104 (dk_at dksX3_bestMove_4 17 rfl rfl)
theorem dX3_bestMove_111 : decode cX3_bestMove 111 = .ok (.iload 5, 2) := dk_21 5 (dk_at dksX3_bestMove_4 18 rfl rfl)
theorem dX3_bestMove_113 : decode cX3_bestMove 113 = .ok (.ifCond .ne 7, 3) := dk_154 0 7 (dk_at dksX3_bestMove_4 20 rfl rfl)
theorem dX3_bestMove_116 : decode cX3_bestMove 116 = .ok (.iconst 0, 1) := dk_3 (dk_at dksX3_bestMove_4 23 rfl rfl)
theorem dX3_bestMove_117 : decode cX3_bestMove 117 = .ok (.goto 16, 3) := dk_167 0 16 (dk_at dksX3_bestMove_5 0 rfl rfl)
theorem dX3_bestMove_120 : decode cX3_bestMove 120 = .ok (.bipush 9, 2) := dk_16 9 (dk_at dksX3_bestMove_5 3 rfl rfl)
theorem dX3_bestMove_122 : decode cX3_bestMove 122 = .ok (.iload 5, 2) := dk_21 5 (dk_at dksX3_bestMove_5 5 rfl rfl)
theorem dX3_bestMove_124 : decode cX3_bestMove 124 = .ok (.imul, 1) := dk_104 (dk_at dksX3_bestMove_5 7 rfl rfl)
theorem dX3_bestMove_125 : decode cX3_bestMove 125 = .ok (.iconst 3, 1) := dk_6 (dk_at dksX3_bestMove_5 8 rfl rfl)
theorem dX3_bestMove_126 : decode cX3_bestMove 126 = .ok (.iload 6, 2) := dk_21 6 (dk_at dksX3_bestMove_5 9 rfl rfl)
theorem dX3_bestMove_128 : decode cX3_bestMove 128 = .ok (.imul, 1) := dk_104 (dk_at dksX3_bestMove_5 11 rfl rfl)
theorem dX3_bestMove_129 : decode cX3_bestMove 129 = .ok (.iadd, 1) := dk_96 (dk_at dksX3_bestMove_5 12 rfl rfl)
theorem dX3_bestMove_130 : decode cX3_bestMove 130 = .ok (.iload 7, 2) := dk_21 7 (dk_at dksX3_bestMove_5 13 rfl rfl)
theorem dX3_bestMove_132 : decode cX3_bestMove 132 = .ok (.iadd, 1) := dk_96 (dk_at dksX3_bestMove_5 15 rfl rfl)
theorem dX3_bestMove_133 : decode cX3_bestMove 133 = .ok (.iadd, 1) := dk_96 (dk_at dksX3_bestMove_5 16 rfl rfl)
theorem dX3_bestMove_134 : decode cX3_bestMove 134 = .ok (.putfield 526, 3) := dk_181 2 14 (dk_at dksX3_bestMove_5 17 rfl rfl)
theorem dX3_bestMove_137 : decode cX3_bestMove 137 = .ok (.aload_n 0, 1) := dk_42 (dk_at dksX3_bestMove_5 20 rfl rfl)
theorem dX3_bestMove_138 : decode cX3_bestMove 138 = .ok (.aload_n 0, 1) := dk_42 (dk_at dksX3_bestMove_5 21 rfl rfl)
theorem dX3_bestMove_139 : decode cX3_bestMove 139 = .ok (.invokevirtual 523, 3) := dk_182 2 11 (dk_at dksX3_bestMove_6 0 rfl rfl)
theorem dX3_bestMove_142 : decode cX3_bestMove 142 = .ok (.putfield 533, 3) := dk_181 2 21 (dk_at dksX3_bestMove_6 3 rfl rfl)
theorem dX3_bestMove_145 : decode cX3_bestMove 145 = .ok (.iinc 7 1, 3) := dk_132 7 1 (dk_at dksX3_bestMove_6 6 rfl rfl)
theorem dX3_bestMove_148 : decode cX3_bestMove 148 = .ok (.goto (-90), 3) := dk_167 255 166 (dk_at dksX3_bestMove_6 9 rfl rfl)
theorem dX3_bestMove_151 : decode cX3_bestMove 151 = .ok (.iinc 6 1, 3) := dk_132 6 1 (dk_at dksX3_bestMove_6 12 rfl rfl)
theorem dX3_bestMove_154 : decode cX3_bestMove 154 = .ok (.goto (-118), 3) := dk_167 255 138 (dk_at dksX3_bestMove_6 15 rfl rfl)
theorem dX3_bestMove_157 : decode cX3_bestMove 157 = .ok (.iinc 5 1, 3) := dk_132 5 1 (dk_at dksX3_bestMove_6 18 rfl rfl)
theorem dX3_bestMove_160 : decode cX3_bestMove 160 = .ok (.goto (-136), 3) := dk_167 255 120 (dk_at dksX3_bestMove_6 21 rfl rfl)
theorem dX3_bestMove_163 : decode cX3_bestMove 163 = .ok (.iinc 4 1, 3) := dk_132 4 1 (dk_at dksX3_bestMove_7 0 rfl rfl)
theorem dX3_bestMove_166 : decode cX3_bestMove 166 = .ok (.goto (-154), 3) := dk_167 255 102 (dk_at dksX3_bestMove_7 3 rfl rfl)
theorem dX3_bestMove_169 : decode cX3_bestMove 169 = .ok (.iload_n 3, 1) := dk_29 (dk_at dksX3_bestMove_7 6 rfl rfl)
theorem dX3_bestMove_170 : decode cX3_bestMove 170 = .ok (.ireturn, 1) := dk_172 (dk_at dksX3_bestMove_7 7 rfl rfl)
abbrev cX3_bounds : ByteArray := prog_24_method_74_code
def dkwX3_bounds_2 : List UInt8 := [180, 1, 56, 28, 79, 42, 89, 180, 1, 56, 4, 96, 181, 1, 56, 42, 180, 1, 56, 172]
abbrev dktX3_bounds_2 : List UInt8 := dkwX3_bounds_2 ++ []
def dkwX3_bounds_1 : List UInt8 := [16, 12, 160, 0, 5, 2, 172, 42, 180, 0, 128, 42, 180, 1, 56, 27, 79, 42, 180, 0, 131, 42]
abbrev dktX3_bounds_1 : List UInt8 := dkwX3_bounds_1 ++ dktX3_bounds_2
def dkwX3_bounds_0 : List UInt8 := [27, 3, 16, 99, 184, 1, 98, 153, 0, 22, 28, 27, 16, 99, 184, 1, 98, 153, 0, 12, 42, 180, 1, 56]
abbrev dktX3_bounds_0 : List UInt8 := dkwX3_bounds_0 ++ dktX3_bounds_1
theorem dksX3_bounds_0 : cX3_bounds.data.toList.drop 0 = dktX3_bounds_0 := by decide +kernel
theorem dksX3_bounds_1 : cX3_bounds.data.toList.drop 24 = dktX3_bounds_1 := dk_seg dksX3_bounds_0 24 rfl rfl
theorem dksX3_bounds_2 : cX3_bounds.data.toList.drop 46 = dktX3_bounds_2 := dk_seg dksX3_bounds_1 22 rfl rfl
theorem dX3_bounds_0 : decode cX3_bounds 0 = .ok (.iload_n 1, 1) := dk_27 (dk_at dksX3_bounds_0 0 rfl rfl)
theorem dX3_bounds_1 : decode cX3_bounds 1 = .ok (.iconst 0, 1) := dk_3 (dk_at dksX3_bounds_0 1 rfl rfl)
theorem dX3_bounds_2 : decode cX3_bounds 2 = .ok (.bipush 99, 2) := dk_16 99 (dk_at dksX3_bounds_0 2 rfl rfl)
theorem dX3_bounds_4 : decode cX3_bounds 4 = .ok (.invokestatic 354, 3) := dk_184 1 98 (dk_at dksX3_bounds_0 4 rfl rfl)
theorem dX3_bounds_7 : decode cX3_bounds 7 = .ok (.ifCond .eq 22, 3) := dk_153 0 22 (dk_at dksX3_bounds_0 7 rfl rfl)
theorem dX3_bounds_10 : decode cX3_bounds 10 = .ok (.iload_n 2, 1) := dk_28 (dk_at dksX3_bounds_0 10 rfl rfl)
theorem dX3_bounds_11 : decode cX3_bounds 11 = .ok (.iload_n 1, 1) := dk_27 (dk_at dksX3_bounds_0 11 rfl rfl)
theorem dX3_bounds_12 : decode cX3_bounds 12 = .ok (.bipush 99, 2) := dk_16 99 (dk_at dksX3_bounds_0 12 rfl rfl)
theorem dX3_bounds_14 : decode cX3_bounds 14 = .ok (.invokestatic 354, 3) := dk_184 1 98 (dk_at dksX3_bounds_0 14 rfl rfl)
theorem dX3_bounds_17 : decode cX3_bounds 17 = .ok (.ifCond .eq 12, 3) := dk_153 0 12 (dk_at dksX3_bounds_0 17 rfl rfl)
theorem dX3_bounds_20 : decode cX3_bounds 20 = .ok (.aload_n 0, 1) := dk_42 (dk_at dksX3_bounds_0 20 rfl rfl)
theorem dX3_bounds_21 : decode cX3_bounds 21 = .ok (.getfield 312, 3) := dk_180 1 56 (dk_at dksX3_bounds_0 21 rfl rfl)
theorem dX3_bounds_24 : decode cX3_bounds 24 = .ok (.bipush 12, 2) := dk_16 12 (dk_at dksX3_bounds_1 0 rfl rfl)
theorem dX3_bounds_26 : decode cX3_bounds 26 = .ok (.if_icmp .ne 5, 3) := dk_160 0 5 (dk_at dksX3_bounds_1 2 rfl rfl)
theorem dX3_bounds_29 : decode cX3_bounds 29 = .ok (.iconst (-1), 1) := dk_2 (dk_at dksX3_bounds_1 5 rfl rfl)
theorem dX3_bounds_30 : decode cX3_bounds 30 = .ok (.ireturn, 1) := dk_172 (dk_at dksX3_bounds_1 6 rfl rfl)
theorem dX3_bounds_31 : decode cX3_bounds 31 = .ok (.aload_n 0, 1) := dk_42 (dk_at dksX3_bounds_1 7 rfl rfl)
theorem dX3_bounds_32 : decode cX3_bounds 32 = .ok (.getfield 128, 3) := dk_180 0 128 (dk_at dksX3_bounds_1 8 rfl rfl)
theorem dX3_bounds_35 : decode cX3_bounds 35 = .ok (.aload_n 0, 1) := dk_42 (dk_at dksX3_bounds_1 11 rfl rfl)
theorem dX3_bounds_36 : decode cX3_bounds 36 = .ok (.getfield 312, 3) := dk_180 1 56 (dk_at dksX3_bounds_1 12 rfl rfl)
theorem dX3_bounds_39 : decode cX3_bounds 39 = .ok (.iload_n 1, 1) := dk_27 (dk_at dksX3_bounds_1 15 rfl rfl)
theorem dX3_bounds_40 : decode cX3_bounds 40 = .ok (.iastore, 1) := dk_79 (dk_at dksX3_bounds_1 16 rfl rfl)
theorem dX3_bounds_41 : decode cX3_bounds 41 = .ok (.aload_n 0, 1) := dk_42 (dk_at dksX3_bounds_1 17 rfl rfl)
theorem dX3_bounds_42 : decode cX3_bounds 42 = .ok (.getfield 131, 3) := dk_180 0 131 (dk_at dksX3_bounds_1 18 rfl rfl)
theorem dX3_bounds_45 : decode cX3_bounds 45 = .ok (.aload_n 0, 1) := dk_42 (dk_at dksX3_bounds_1 21 rfl rfl)
theorem dX3_bounds_46 : decode cX3_bounds 46 = .ok (.getfield 312, 3) := dk_180 1 56 (dk_at dksX3_bounds_2 0 rfl rfl)
theorem dX3_bounds_49 : decode cX3_bounds 49 = .ok (.iload_n 2, 1) := dk_28 (dk_at dksX3_bounds_2 3 rfl rfl)
theorem dX3_bounds_50 : decode cX3_bounds 50 = .ok (.iastore, 1) := dk_79 (dk_at dksX3_bounds_2 4 rfl rfl)
theorem dX3_bounds_51 : decode cX3_bounds 51 = .ok (.aload_n 0, 1) := dk_42 (dk_at dksX3_bounds_2 5 rfl rfl)
theorem dX3_bounds_52 : decode cX3_bounds 52 = .ok (.dup, 1) := dk_89 (dk_at dksX3_bounds_2 6 rfl rfl)
theorem dX3_bounds_53 : decode cX3_bounds 53 = .ok (.getfield 312, 3) := dk_180 1 56 (dk_at dksX3_bounds_2 7 rfl rfl)
theorem dX3_bounds_56 : decode cX3_bounds 56 = .ok (.iconst 1, 1) := dk_4 (dk_at dksX3_bounds_2 10 rfl rfl)
theorem dX3_bounds_57 : decode cX3_bounds 57 = .ok (.iadd, 1) := dk_96 (dk_at dksX3_bounds_2 11 rfl rfl)
theorem dX3_bounds_58 : decode cX3_bounds 58 = .ok (.putfield 312, 3) := dk_181 1 56 (dk_at dksX3_bounds_2 12 rfl rfl)
theorem dX3_bounds_61 : decode cX3_bounds 61 = .ok (.aload_n 0, 1) := dk_42 (dk_at dksX3_bounds_2 15 rfl rfl)
theorem dX3_bounds_62 : decode cX3_bounds 62 = .ok (.getfield 312, 3) := dk_180 1 56 (dk_at dksX3_bounds_2 16 rfl rfl)
theorem dX3_bounds_65 : decode cX3_bounds 65 = .ok (.ireturn, 1) := dk_172 (dk_at dksX3_bounds_2 19 rfl rfl)
abbrev cX3_breaks : ByteArray := prog_24_method_35_code
def dkwX3_breaks_1 : List UInt8 := [42, 27, 28, 182, 1, 116, 154, 0, 5, 28, 172, 132, 2, 1, 167, 255, 236, 2, 172]
abbrev dktX3_breaks_1 : List UInt8 := dkwX3_breaks_1 ++ []
def dkwX3_breaks_0 : List UInt8 := [27, 3, 42, 182, 1, 113, 4, 100, 184, 1, 98, 154, 0, 5, 2, 172, 3, 61, 28, 16, 31, 162, 0, 20]
abbrev dktX3_breaks_0 : List UInt8 := dkwX3_breaks_0 ++ dktX3_breaks_1
theorem dksX3_breaks_0 : cX3_breaks.data.toList.drop 0 = dktX3_breaks_0 := by decide +kernel
theorem dksX3_breaks_1 : cX3_breaks.data.toList.drop 24 = dktX3_breaks_1 := dk_seg dksX3_breaks_0 24 rfl rfl
theorem dX3_breaks_0 : decode cX3_breaks 0 = .ok (.iload_n 1, 1) := dk_27 (dk_at dksX3_breaks_0 0 rfl rfl)
theorem dX3_breaks_1 : decode cX3_breaks 1 = .ok (.iconst 0, 1) := dk_3 (dk_at dksX3_breaks_0 1 rfl rfl)
theorem dX3_breaks_2 : decode cX3_breaks 2 = .ok (.aload_n 0, 1) := dk_42 (dk_at dksX3_breaks_0 2 rfl rfl)
theorem dX3_breaks_3 : decode cX3_breaks 3 = .ok (.invokevirtual 369, 3) := dk_182 1 113 (dk_at dksX3_breaks_0 3 rfl rfl)
theorem dX3_breaks_6 : decode cX3_breaks 6 = .ok (.iconst 1, 1) := dk_4 (dk_at dksX3_breaks_0 6 rfl rfl)
theorem dX3_breaks_7 : decode cX3_breaks 7 = .ok (.isub, 1) := dk_100 (dk_at dksX3_breaks_0 7 rfl rfl)
theorem dX3_breaks_8 : decode cX3_breaks 8 = .ok (.invokestatic 354, 3) := dk_184 1 98 (dk_at dksX3_breaks_0 8 rfl rfl)
theorem dX3_breaks_11 : decode cX3_breaks 11 = .ok (.ifCond .ne 5, 3) := dk_154 0 5 (dk_at dksX3_breaks_0 11 rfl rfl)
theorem dX3_breaks_14 : decode cX3_breaks 14 = .ok (.iconst (-1), 1) := dk_2 (dk_at dksX3_breaks_0 14 rfl rfl)
theorem dX3_breaks_15 : decode cX3_breaks 15 = .ok (.ireturn, 1) := dk_172 (dk_at dksX3_breaks_0 15 rfl rfl)
theorem dX3_breaks_16 : decode cX3_breaks 16 = .ok (.iconst 0, 1) := dk_3 (dk_at dksX3_breaks_0 16 rfl rfl)
theorem dX3_breaks_17 : decode cX3_breaks 17 = .ok (.istore_n 2, 1) := dk_61 (dk_at dksX3_breaks_0 17 rfl rfl)
theorem dX3_breaks_18 : decode cX3_breaks 18 = .ok (.iload_n 2, 1) := dk_28 (dk_at dksX3_breaks_0 18 rfl rfl)
theorem dX3_breaks_19 : decode cX3_breaks 19 = .ok (.bipush 31, 2) := dk_16 31 (dk_at dksX3_breaks_0 19 rfl rfl)
theorem dX3_breaks_21 : decode cX3_breaks 21 = .ok (.if_icmp .ge 20, 3) := dk_162 0 20 (dk_at dksX3_breaks_0 21 rfl rfl)
theorem dX3_breaks_24 : decode cX3_breaks 24 = .ok (.aload_n 0, 1) := dk_42 (dk_at dksX3_breaks_1 0 rfl rfl)
theorem dX3_breaks_25 : decode cX3_breaks 25 = .ok (.iload_n 1, 1) := dk_27 (dk_at dksX3_breaks_1 1 rfl rfl)
theorem dX3_breaks_26 : decode cX3_breaks 26 = .ok (.iload_n 2, 1) := dk_28 (dk_at dksX3_breaks_1 2 rfl rfl)
theorem dX3_breaks_27 : decode cX3_breaks 27 = .ok (.invokevirtual 372, 3) := dk_182 1 116 (dk_at dksX3_breaks_1 3 rfl rfl)
theorem dX3_breaks_30 : decode cX3_breaks 30 = .ok (.ifCond .ne 5, 3) := dk_154 0 5 (dk_at dksX3_breaks_1 6 rfl rfl)
theorem dX3_breaks_33 : decode cX3_breaks 33 = .ok (.iload_n 2, 1) := dk_28 (dk_at dksX3_breaks_1 9 rfl rfl)
theorem dX3_breaks_34 : decode cX3_breaks 34 = .ok (.ireturn, 1) := dk_172 (dk_at dksX3_breaks_1 10 rfl rfl)
theorem dX3_breaks_35 : decode cX3_breaks 35 = .ok (.iinc 2 1, 3) := dk_132 2 1 (dk_at dksX3_breaks_1 11 rfl rfl)
theorem dX3_breaks_38 : decode cX3_breaks 38 = .ok (.goto (-20), 3) := dk_167 255 236 (dk_at dksX3_breaks_1 14 rfl rfl)
theorem dX3_breaks_41 : decode cX3_breaks 41 = .ok (.iconst (-1), 1) := dk_2 (dk_at dksX3_breaks_1 17 rfl rfl)
theorem dX3_breaks_42 : decode cX3_breaks 42 = .ok (.ireturn, 1) := dk_172 (dk_at dksX3_breaks_1 18 rfl rfl)
abbrev cX3_capped : ByteArray := prog_24_method_100_code
def dkwX3_capped_0 : List UInt8 := [26, 16, 30, 164, 0, 8, 16, 30, 167, 0, 4, 26, 172]
abbrev dktX3_capped_0 : List UInt8 := dkwX3_capped_0 ++ []
theorem dksX3_capped_0 : cX3_capped.data.toList.drop 0 = dktX3_capped_0 := by decide +kernel
theorem dX3_capped_0 : decode cX3_capped 0 = .ok (.iload_n 0, 1) := dk_26 (dk_at dksX3_capped_0 0 rfl rfl)
theorem dX3_capped_1 : decode cX3_capped 1 = .ok (.bipush 30, 2) := dk_16 30 (dk_at dksX3_capped_0 1 rfl rfl)
theorem dX3_capped_3 : decode cX3_capped 3 = .ok (.if_icmp .le 8, 3) := dk_164 0 8 (dk_at dksX3_capped_0 3 rfl rfl)
theorem dX3_capped_6 : decode cX3_capped 6 = .ok (.bipush 30, 2) := dk_16 30 (dk_at dksX3_capped_0 6 rfl rfl)
theorem dX3_capped_8 : decode cX3_capped 8 = .ok (.goto 4, 3) := dk_167 0 4 (dk_at dksX3_capped_0 8 rfl rfl)
theorem dX3_capped_11 : decode cX3_capped 11 = .ok (.iload_n 0, 1) := dk_26 (dk_at dksX3_capped_0 11 rfl rfl)
theorem dX3_capped_12 : decode cX3_capped 12 = .ok (.ireturn, 1) := dk_172 (dk_at dksX3_capped_0 12 rfl rfl)
abbrev cX3_change : ByteArray := prog_24_method_60_code
def dkwX3_change_1 : List UInt8 := [167, 0, 4, 2, 172]
abbrev dktX3_change_1 : List UInt8 := dkwX3_change_1 ++ []
def dkwX3_change_0 : List UInt8 := [42, 27, 182, 1, 104, 153, 0, 20, 28, 184, 1, 239, 153, 0, 13, 42, 3, 27, 28, 182, 1, 242]
abbrev dktX3_change_0 : List UInt8 := dkwX3_change_0 ++ dktX3_change_1
theorem dksX3_change_0 : cX3_change.data.toList.drop 0 = dktX3_change_0 := by decide +kernel
theorem dksX3_change_1 : cX3_change.data.toList.drop 22 = dktX3_change_1 := dk_seg dksX3_change_0 22 rfl rfl
theorem dX3_change_0 : decode cX3_change 0 = .ok (.aload_n 0, 1) := dk_42 (dk_at dksX3_change_0 0 rfl rfl)
theorem dX3_change_1 : decode cX3_change 1 = .ok (.iload_n 1, 1) := dk_27 (dk_at dksX3_change_0 1 rfl rfl)
theorem dX3_change_2 : decode cX3_change 2 = .ok (.invokevirtual 360, 3) := dk_182 1 104 (dk_at dksX3_change_0 2 rfl rfl)
theorem dX3_change_5 : decode cX3_change 5 = .ok (.ifCond .eq 20, 3) := dk_153 0 20 (dk_at dksX3_change_0 5 rfl rfl)
theorem dX3_change_8 : decode cX3_change 8 = .ok (.iload_n 2, 1) := dk_28 (dk_at dksX3_change_0 8 rfl rfl)
theorem dX3_change_9 : decode cX3_change 9 = .ok (.invokestatic 495, 3) := dk_184 1 239 (dk_at dksX3_change_0 9 rfl rfl)
theorem dX3_change_12 : decode cX3_change 12 = .ok (.ifCond .eq 13, 3) := dk_153 0 13 (dk_at dksX3_change_0 12 rfl rfl)
theorem dX3_change_15 : decode cX3_change 15 = .ok (.aload_n 0, 1) := dk_42 (dk_at dksX3_change_0 15 rfl rfl)
theorem dX3_change_16 : decode cX3_change 16 = .ok (.iconst 0, 1) := dk_3 (dk_at dksX3_change_0 16 rfl rfl)
theorem dX3_change_17 : decode cX3_change 17 = .ok (.iload_n 1, 1) := dk_27 (dk_at dksX3_change_0 17 rfl rfl)
theorem dX3_change_18 : decode cX3_change 18 = .ok (.iload_n 2, 1) := dk_28 (dk_at dksX3_change_0 18 rfl rfl)
theorem dX3_change_19 : decode cX3_change 19 = .ok (.invokevirtual 498, 3) := dk_182 1 242 (dk_at dksX3_change_0 19 rfl rfl)
theorem dX3_change_22 : decode cX3_change 22 = .ok (.goto 4, 3) := dk_167 0 4 (dk_at dksX3_change_1 0 rfl rfl)
theorem dX3_change_25 : decode cX3_change 25 = .ok (.iconst (-1), 1) := dk_2 (dk_at dksX3_change_1 3 rfl rfl)
theorem dX3_change_26 : decode cX3_change 26 = .ok (.ireturn, 1) := dk_172 (dk_at dksX3_change_1 4 rfl rfl)
abbrev cX3_clash : ByteArray := prog_24_method_34_code
def dkwX3_clash_2 : List UInt8 := [167, 255, 226, 28, 172]
abbrev dktX3_clash_2 : List UInt8 := dkwX3_clash_2 ++ []
def dkwX3_clash_1 : List UInt8 := [28, 42, 29, 27, 182, 1, 116, 153, 0, 7, 3, 167, 0, 6, 4, 29, 120, 128, 61, 132, 3, 1]
abbrev dktX3_clash_1 : List UInt8 := dkwX3_clash_1 ++ dktX3_clash_2
def dkwX3_clash_0 : List UInt8 := [27, 3, 16, 30, 184, 1, 98, 154, 0, 5, 2, 172, 3, 61, 3, 62, 29, 42, 182, 1, 113, 162, 0, 28]
abbrev dktX3_clash_0 : List UInt8 := dkwX3_clash_0 ++ dktX3_clash_1
theorem dksX3_clash_0 : cX3_clash.data.toList.drop 0 = dktX3_clash_0 := by decide +kernel
theorem dksX3_clash_1 : cX3_clash.data.toList.drop 24 = dktX3_clash_1 := dk_seg dksX3_clash_0 24 rfl rfl
theorem dksX3_clash_2 : cX3_clash.data.toList.drop 46 = dktX3_clash_2 := dk_seg dksX3_clash_1 22 rfl rfl
theorem dX3_clash_0 : decode cX3_clash 0 = .ok (.iload_n 1, 1) := dk_27 (dk_at dksX3_clash_0 0 rfl rfl)
theorem dX3_clash_1 : decode cX3_clash 1 = .ok (.iconst 0, 1) := dk_3 (dk_at dksX3_clash_0 1 rfl rfl)
theorem dX3_clash_2 : decode cX3_clash 2 = .ok (.bipush 30, 2) := dk_16 30 (dk_at dksX3_clash_0 2 rfl rfl)
theorem dX3_clash_4 : decode cX3_clash 4 = .ok (.invokestatic 354, 3) := dk_184 1 98 (dk_at dksX3_clash_0 4 rfl rfl)
theorem dX3_clash_7 : decode cX3_clash 7 = .ok (.ifCond .ne 5, 3) := dk_154 0 5 (dk_at dksX3_clash_0 7 rfl rfl)
theorem dX3_clash_10 : decode cX3_clash 10 = .ok (.iconst (-1), 1) := dk_2 (dk_at dksX3_clash_0 10 rfl rfl)
theorem dX3_clash_11 : decode cX3_clash 11 = .ok (.ireturn, 1) := dk_172 (dk_at dksX3_clash_0 11 rfl rfl)
theorem dX3_clash_12 : decode cX3_clash 12 = .ok (.iconst 0, 1) := dk_3 (dk_at dksX3_clash_0 12 rfl rfl)
theorem dX3_clash_13 : decode cX3_clash 13 = .ok (.istore_n 2, 1) := dk_61 (dk_at dksX3_clash_0 13 rfl rfl)
theorem dX3_clash_14 : decode cX3_clash 14 = .ok (.iconst 0, 1) := dk_3 (dk_at dksX3_clash_0 14 rfl rfl)
theorem dX3_clash_15 : decode cX3_clash 15 = .ok (.istore_n 3, 1) := dk_62 (dk_at dksX3_clash_0 15 rfl rfl)
theorem dX3_clash_16 : decode cX3_clash 16 = .ok (.iload_n 3, 1) := dk_29 (dk_at dksX3_clash_0 16 rfl rfl)
theorem dX3_clash_17 : decode cX3_clash 17 = .ok (.aload_n 0, 1) := dk_42 (dk_at dksX3_clash_0 17 rfl rfl)
theorem dX3_clash_18 : decode cX3_clash 18 = .ok (.invokevirtual 369, 3) := dk_182 1 113 (dk_at dksX3_clash_0 18 rfl rfl)
theorem dX3_clash_21 : decode cX3_clash 21 = .ok (.if_icmp .ge 28, 3) := dk_162 0 28 (dk_at dksX3_clash_0 21 rfl rfl)
theorem dX3_clash_24 : decode cX3_clash 24 = .ok (.iload_n 2, 1) := dk_28 (dk_at dksX3_clash_1 0 rfl rfl)
theorem dX3_clash_25 : decode cX3_clash 25 = .ok (.aload_n 0, 1) := dk_42 (dk_at dksX3_clash_1 1 rfl rfl)
theorem dX3_clash_26 : decode cX3_clash 26 = .ok (.iload_n 3, 1) := dk_29 (dk_at dksX3_clash_1 2 rfl rfl)
theorem dX3_clash_27 : decode cX3_clash 27 = .ok (.iload_n 1, 1) := dk_27 (dk_at dksX3_clash_1 3 rfl rfl)
theorem dX3_clash_28 : decode cX3_clash 28 = .ok (.invokevirtual 372, 3) := dk_182 1 116 (dk_at dksX3_clash_1 4 rfl rfl)
theorem dX3_clash_31 : decode cX3_clash 31 = .ok (.ifCond .eq 7, 3) := dk_153 0 7 (dk_at dksX3_clash_1 7 rfl rfl)
theorem dX3_clash_34 : decode cX3_clash 34 = .ok (.iconst 0, 1) := dk_3 (dk_at dksX3_clash_1 10 rfl rfl)
theorem dX3_clash_35 : decode cX3_clash 35 = .ok (.goto 6, 3) := dk_167 0 6 (dk_at dksX3_clash_1 11 rfl rfl)
theorem dX3_clash_38 : decode cX3_clash 38 = .ok (.iconst 1, 1) := dk_4 (dk_at dksX3_clash_1 14 rfl rfl)
theorem dX3_clash_39 : decode cX3_clash 39 = .ok (.iload_n 3, 1) := dk_29 (dk_at dksX3_clash_1 15 rfl rfl)
theorem dX3_clash_40 : decode cX3_clash 40 = .ok (.ishl, 1) := dk_120 (dk_at dksX3_clash_1 16 rfl rfl)
theorem dX3_clash_41 : decode cX3_clash 41 = .ok (.ior, 1) := dk_128 (dk_at dksX3_clash_1 17 rfl rfl)
theorem dX3_clash_42 : decode cX3_clash 42 = .ok (.istore_n 2, 1) := dk_61 (dk_at dksX3_clash_1 18 rfl rfl)
theorem dX3_clash_43 : decode cX3_clash 43 = .ok (.iinc 3 1, 3) := dk_132 3 1 (dk_at dksX3_clash_1 19 rfl rfl)
theorem dX3_clash_46 : decode cX3_clash 46 = .ok (.goto (-30), 3) := dk_167 255 226 (dk_at dksX3_clash_2 0 rfl rfl)
theorem dX3_clash_49 : decode cX3_clash 49 = .ok (.iload_n 2, 1) := dk_28 (dk_at dksX3_clash_2 3 rfl rfl)
theorem dX3_clash_50 : decode cX3_clash 50 = .ok (.ireturn, 1) := dk_172 (dk_at dksX3_clash_2 4 rfl rfl)
abbrev cX3_cost : ByteArray := prog_24_method_69_code
def dkwX3_cost_1 : List UInt8 := [172]
abbrev dktX3_cost_1 : List UInt8 := dkwX3_cost_1 ++ []
def dkwX3_cost_0 : List UInt8 := [27, 3, 17, 3, 231, 184, 1, 98, 154, 0, 5, 2, 172, 42, 28, 182, 1, 251, 42, 27, 27, 182, 1, 255]
abbrev dktX3_cost_0 : List UInt8 := dkwX3_cost_0 ++ dktX3_cost_1
theorem dksX3_cost_0 : cX3_cost.data.toList.drop 0 = dktX3_cost_0 := by decide +kernel
theorem dksX3_cost_1 : cX3_cost.data.toList.drop 24 = dktX3_cost_1 := dk_seg dksX3_cost_0 24 rfl rfl
theorem dX3_cost_0 : decode cX3_cost 0 = .ok (.iload_n 1, 1) := dk_27 (dk_at dksX3_cost_0 0 rfl rfl)
theorem dX3_cost_1 : decode cX3_cost 1 = .ok (.iconst 0, 1) := dk_3 (dk_at dksX3_cost_0 1 rfl rfl)
theorem dX3_cost_2 : decode cX3_cost 2 = .ok (.sipush 999, 3) := dk_17 3 231 (dk_at dksX3_cost_0 2 rfl rfl)
theorem dX3_cost_5 : decode cX3_cost 5 = .ok (.invokestatic 354, 3) := dk_184 1 98 (dk_at dksX3_cost_0 5 rfl rfl)
theorem dX3_cost_8 : decode cX3_cost 8 = .ok (.ifCond .ne 5, 3) := dk_154 0 5 (dk_at dksX3_cost_0 8 rfl rfl)
theorem dX3_cost_11 : decode cX3_cost 11 = .ok (.iconst (-1), 1) := dk_2 (dk_at dksX3_cost_0 11 rfl rfl)
theorem dX3_cost_12 : decode cX3_cost 12 = .ok (.ireturn, 1) := dk_172 (dk_at dksX3_cost_0 12 rfl rfl)
theorem dX3_cost_13 : decode cX3_cost 13 = .ok (.aload_n 0, 1) := dk_42 (dk_at dksX3_cost_0 13 rfl rfl)
theorem dX3_cost_14 : decode cX3_cost 14 = .ok (.iload_n 2, 1) := dk_28 (dk_at dksX3_cost_0 14 rfl rfl)
theorem dX3_cost_15 : decode cX3_cost 15 = .ok (.invokevirtual 507, 3) := dk_182 1 251 (dk_at dksX3_cost_0 15 rfl rfl)
theorem dX3_cost_18 : decode cX3_cost 18 = .ok (.aload_n 0, 1) := dk_42 (dk_at dksX3_cost_0 18 rfl rfl)
theorem dX3_cost_19 : decode cX3_cost 19 = .ok (.iload_n 1, 1) := dk_27 (dk_at dksX3_cost_0 19 rfl rfl)
theorem dX3_cost_20 : decode cX3_cost 20 = .ok (.iload_n 1, 1) := dk_27 (dk_at dksX3_cost_0 20 rfl rfl)
theorem dX3_cost_21 : decode cX3_cost 21 = .ok (.invokevirtual 511, 3) := dk_182 1 255 (dk_at dksX3_cost_0 21 rfl rfl)
theorem dX3_cost_24 : decode cX3_cost 24 = .ok (.ireturn, 1) := dk_172 (dk_at dksX3_cost_1 0 rfl rfl)
abbrev cX3_costsOf : ByteArray := prog_24_method_68_code
def dkwX3_costsOf_2 : List UInt8 := [3, 96, 62, 132, 4, 1, 167, 255, 207, 29, 172]
abbrev dktX3_costsOf_2 : List UInt8 := dkwX3_costsOf_2 ++ []
def dkwX3_costsOf_1 : List UInt8 := [184, 1, 98, 153, 0, 21, 42, 180, 0, 45, 16, 12, 42, 180, 1, 44, 104, 21, 4, 96, 46, 167, 0, 4]
abbrev dktX3_costsOf_1 : List UInt8 := dkwX3_costsOf_1 ++ dktX3_costsOf_2
def dkwX3_costsOf_0 : List UInt8 := [3, 62, 3, 54, 4, 21, 4, 42, 182, 1, 94, 162, 0, 46, 29, 42, 180, 0, 125, 21, 4, 46, 27, 28]
abbrev dktX3_costsOf_0 : List UInt8 := dkwX3_costsOf_0 ++ dktX3_costsOf_1
theorem dksX3_costsOf_0 : cX3_costsOf.data.toList.drop 0 = dktX3_costsOf_0 := by decide +kernel
theorem dksX3_costsOf_1 : cX3_costsOf.data.toList.drop 24 = dktX3_costsOf_1 := dk_seg dksX3_costsOf_0 24 rfl rfl
theorem dksX3_costsOf_2 : cX3_costsOf.data.toList.drop 48 = dktX3_costsOf_2 := dk_seg dksX3_costsOf_1 24 rfl rfl
theorem dX3_costsOf_0 : decode cX3_costsOf 0 = .ok (.iconst 0, 1) := dk_3 (dk_at dksX3_costsOf_0 0 rfl rfl)
theorem dX3_costsOf_1 : decode cX3_costsOf 1 = .ok (.istore_n 3, 1) := dk_62 (dk_at dksX3_costsOf_0 1 rfl rfl)
theorem dX3_costsOf_2 : decode cX3_costsOf 2 = .ok (.iconst 0, 1) := dk_3 (dk_at dksX3_costsOf_0 2 rfl rfl)
theorem dX3_costsOf_3 : decode cX3_costsOf 3 = .ok (.istore 4, 2) := dk_54 4 (dk_at dksX3_costsOf_0 3 rfl rfl)
theorem dX3_costsOf_5 : decode cX3_costsOf 5 = .ok (.iload 4, 2) := dk_21 4 (dk_at dksX3_costsOf_0 5 rfl rfl)
theorem dX3_costsOf_7 : decode cX3_costsOf 7 = .ok (.aload_n 0, 1) := dk_42 (dk_at dksX3_costsOf_0 7 rfl rfl)
theorem dX3_costsOf_8 : decode cX3_costsOf 8 = .ok (.invokevirtual 350, 3) := dk_182 1 94 (dk_at dksX3_costsOf_0 8 rfl rfl)
theorem dX3_costsOf_11 : decode cX3_costsOf 11 = .ok (.if_icmp .ge 46, 3) := dk_162 0 46 (dk_at dksX3_costsOf_0 11 rfl rfl)
theorem dX3_costsOf_14 : decode cX3_costsOf 14 = .ok (.iload_n 3, 1) := dk_29 (dk_at dksX3_costsOf_0 14 rfl rfl)
theorem dX3_costsOf_15 : decode cX3_costsOf 15 = .ok (.aload_n 0, 1) := dk_42 (dk_at dksX3_costsOf_0 15 rfl rfl)
theorem dX3_costsOf_16 : decode cX3_costsOf 16 = .ok (.getfield 125, 3) := dk_180 0 125 (dk_at dksX3_costsOf_0 16 rfl rfl)
theorem dX3_costsOf_19 : decode cX3_costsOf 19 = .ok (.iload 4, 2) := dk_21 4 (dk_at dksX3_costsOf_0 19 rfl rfl)
theorem dX3_costsOf_21 : decode cX3_costsOf 21 = .ok (.iaload, 1) := dk_46 (dk_at dksX3_costsOf_0 21 rfl rfl)
theorem dX3_costsOf_22 : decode cX3_costsOf 22 = .ok (.iload_n 1, 1) := dk_27 (dk_at dksX3_costsOf_0 22 rfl rfl)
theorem dX3_costsOf_23 : decode cX3_costsOf 23 = .ok (.iload_n 2, 1) := dk_28 (dk_at dksX3_costsOf_0 23 rfl rfl)
theorem dX3_costsOf_24 : decode cX3_costsOf 24 = .ok (.invokestatic 354, 3) := dk_184 1 98 (dk_at dksX3_costsOf_1 0 rfl rfl)
theorem dX3_costsOf_27 : decode cX3_costsOf 27 = .ok (.ifCond .eq 21, 3) := dk_153 0 21 (dk_at dksX3_costsOf_1 3 rfl rfl)
theorem dX3_costsOf_30 : decode cX3_costsOf 30 = .ok (.aload_n 0, 1) := dk_42 (dk_at dksX3_costsOf_1 6 rfl rfl)
theorem dX3_costsOf_31 : decode cX3_costsOf 31 = .ok (.getfield 45, 3) := dk_180 0 45 (dk_at dksX3_costsOf_1 7 rfl rfl)
theorem dX3_costsOf_34 : decode cX3_costsOf 34 = .ok (.bipush 12, 2) := dk_16 12 (dk_at dksX3_costsOf_1 10 rfl rfl)
theorem dX3_costsOf_36 : decode cX3_costsOf 36 = .ok (.aload_n 0, 1) := dk_42 (dk_at dksX3_costsOf_1 12 rfl rfl)
theorem dX3_costsOf_37 : decode cX3_costsOf 37 = .ok (.getfield 300, 3) := dk_180 1 44 (dk_at dksX3_costsOf_1 13 rfl rfl)
theorem dX3_costsOf_40 : decode cX3_costsOf 40 = .ok (.imul, 1) := dk_104 (dk_at dksX3_costsOf_1 16 rfl rfl)
theorem dX3_costsOf_41 : decode cX3_costsOf 41 = .ok (.iload 4, 2) := dk_21 4 (dk_at dksX3_costsOf_1 17 rfl rfl)
theorem dX3_costsOf_43 : decode cX3_costsOf 43 = .ok (.iadd, 1) := dk_96 (dk_at dksX3_costsOf_1 19 rfl rfl)
theorem dX3_costsOf_44 : decode cX3_costsOf 44 = .ok (.iaload, 1) := dk_46 (dk_at dksX3_costsOf_1 20 rfl rfl)
theorem dX3_costsOf_45 : decode cX3_costsOf 45 = .ok (.goto 4, 3) := dk_167 0 4 (dk_at dksX3_costsOf_1 21 rfl rfl)
theorem dX3_costsOf_48 : decode cX3_costsOf 48 = .ok (.iconst 0, 1) := dk_3 (dk_at dksX3_costsOf_2 0 rfl rfl)
theorem dX3_costsOf_49 : decode cX3_costsOf 49 = .ok (.iadd, 1) := dk_96 (dk_at dksX3_costsOf_2 1 rfl rfl)
theorem dX3_costsOf_50 : decode cX3_costsOf 50 = .ok (.istore_n 3, 1) := dk_62 (dk_at dksX3_costsOf_2 2 rfl rfl)
theorem dX3_costsOf_51 : decode cX3_costsOf 51 = .ok (.iinc 4 1, 3) := dk_132 4 1 (dk_at dksX3_costsOf_2 3 rfl rfl)
theorem dX3_costsOf_54 : decode cX3_costsOf 54 = .ok (.goto (-49), 3) := dk_167 255 207 (dk_at dksX3_costsOf_2 6 rfl rfl)
theorem dX3_costsOf_57 : decode cX3_costsOf 57 = .ok (.iload_n 3, 1) := dk_29 (dk_at dksX3_costsOf_2 9 rfl rfl)
theorem dX3_costsOf_58 : decode cX3_costsOf 58 = .ok (.ireturn, 1) := dk_172 (dk_at dksX3_costsOf_2 10 rfl rfl)
abbrev cX3_counts : ByteArray := prog_24_method_65_code
def dkwX3_counts_1 : List UInt8 := [27, 46, 155, 0, 13, 42, 180, 0, 122, 27, 46, 29, 164, 0, 7, 4, 167, 0, 4, 3, 172]
abbrev dktX3_counts_1 : List UInt8 := dkwX3_counts_1 ++ []
def dkwX3_counts_0 : List UInt8 := [42, 180, 0, 110, 27, 46, 28, 160, 0, 36, 42, 180, 0, 119, 27, 46, 29, 163, 0, 26, 42, 180, 0, 122]
abbrev dktX3_counts_0 : List UInt8 := dkwX3_counts_0 ++ dktX3_counts_1
theorem dksX3_counts_0 : cX3_counts.data.toList.drop 0 = dktX3_counts_0 := by decide +kernel
theorem dksX3_counts_1 : cX3_counts.data.toList.drop 24 = dktX3_counts_1 := dk_seg dksX3_counts_0 24 rfl rfl
theorem dX3_counts_0 : decode cX3_counts 0 = .ok (.aload_n 0, 1) := dk_42 (dk_at dksX3_counts_0 0 rfl rfl)
theorem dX3_counts_1 : decode cX3_counts 1 = .ok (.getfield 110, 3) := dk_180 0 110 (dk_at dksX3_counts_0 1 rfl rfl)
theorem dX3_counts_4 : decode cX3_counts 4 = .ok (.iload_n 1, 1) := dk_27 (dk_at dksX3_counts_0 4 rfl rfl)
theorem dX3_counts_5 : decode cX3_counts 5 = .ok (.iaload, 1) := dk_46 (dk_at dksX3_counts_0 5 rfl rfl)
theorem dX3_counts_6 : decode cX3_counts 6 = .ok (.iload_n 2, 1) := dk_28 (dk_at dksX3_counts_0 6 rfl rfl)
theorem dX3_counts_7 : decode cX3_counts 7 = .ok (.if_icmp .ne 36, 3) := dk_160 0 36 (dk_at dksX3_counts_0 7 rfl rfl)
theorem dX3_counts_10 : decode cX3_counts 10 = .ok (.aload_n 0, 1) := dk_42 (dk_at dksX3_counts_0 10 rfl rfl)
theorem dX3_counts_11 : decode cX3_counts 11 = .ok (.getfield 119, 3) := dk_180 0 119 (dk_at dksX3_counts_0 11 rfl rfl)
theorem dX3_counts_14 : decode cX3_counts 14 = .ok (.iload_n 1, 1) := dk_27 (dk_at dksX3_counts_0 14 rfl rfl)
theorem dX3_counts_15 : decode cX3_counts 15 = .ok (.iaload, 1) := dk_46 (dk_at dksX3_counts_0 15 rfl rfl)
theorem dX3_counts_16 : decode cX3_counts 16 = .ok (.iload_n 3, 1) := dk_29 (dk_at dksX3_counts_0 16 rfl rfl)
theorem dX3_counts_17 : decode cX3_counts 17 = .ok (.if_icmp .gt 26, 3) := dk_163 0 26 (dk_at dksX3_counts_0 17 rfl rfl)
theorem dX3_counts_20 : decode cX3_counts 20 = .ok (.aload_n 0, 1) := dk_42 (dk_at dksX3_counts_0 20 rfl rfl)
theorem dX3_counts_21 : decode cX3_counts 21 = .ok (.getfield 122, 3) := dk_180 0 122 (dk_at dksX3_counts_0 21 rfl rfl)
theorem dX3_counts_24 : decode cX3_counts 24 = .ok (.iload_n 1, 1) := dk_27 (dk_at dksX3_counts_1 0 rfl rfl)
theorem dX3_counts_25 : decode cX3_counts 25 = .ok (.iaload, 1) := dk_46 (dk_at dksX3_counts_1 1 rfl rfl)
theorem dX3_counts_26 : decode cX3_counts 26 = .ok (.ifCond .lt 13, 3) := dk_155 0 13 (dk_at dksX3_counts_1 2 rfl rfl)
theorem dX3_counts_29 : decode cX3_counts 29 = .ok (.aload_n 0, 1) := dk_42 (dk_at dksX3_counts_1 5 rfl rfl)
theorem dX3_counts_30 : decode cX3_counts 30 = .ok (.getfield 122, 3) := dk_180 0 122 (dk_at dksX3_counts_1 6 rfl rfl)
theorem dX3_counts_33 : decode cX3_counts 33 = .ok (.iload_n 1, 1) := dk_27 (dk_at dksX3_counts_1 9 rfl rfl)
theorem dX3_counts_34 : decode cX3_counts 34 = .ok (.iaload, 1) := dk_46 (dk_at dksX3_counts_1 10 rfl rfl)
theorem dX3_counts_35 : decode cX3_counts 35 = .ok (.iload_n 3, 1) := dk_29 (dk_at dksX3_counts_1 11 rfl rfl)
theorem dX3_counts_36 : decode cX3_counts 36 = .ok (.if_icmp .le 7, 3) := dk_164 0 7 (dk_at dksX3_counts_1 12 rfl rfl)
theorem dX3_counts_39 : decode cX3_counts 39 = .ok (.iconst 1, 1) := dk_4 (dk_at dksX3_counts_1 15 rfl rfl)
theorem dX3_counts_40 : decode cX3_counts 40 = .ok (.goto 4, 3) := dk_167 0 4 (dk_at dksX3_counts_1 16 rfl rfl)
theorem dX3_counts_43 : decode cX3_counts 43 = .ok (.iconst 0, 1) := dk_3 (dk_at dksX3_counts_1 19 rfl rfl)
theorem dX3_counts_44 : decode cX3_counts 44 = .ok (.ireturn, 1) := dk_172 (dk_at dksX3_counts_1 20 rfl rfl)
abbrev cX3_e : ByteArray := prog_24_method_44_code
def dkwX3_e_2 : List UInt8 := [182, 1, 165, 60, 167, 255, 226, 177]
abbrev dktX3_e_2 : List UInt8 := dkwX3_e_2 ++ []
def dkwX3_e_1 : List UInt8 := [153, 0, 29, 42, 180, 1, 153, 158, 0, 22, 27, 153, 0, 10, 42, 182, 1, 162, 167, 0, 7, 42]
abbrev dktX3_e_1 : List UInt8 := dkwX3_e_1 ++ dktX3_e_2
def dkwX3_e_0 : List UInt8 := [42, 3, 181, 1, 153, 42, 3, 181, 1, 156, 42, 16, 8, 3, 182, 1, 159, 4, 60, 42, 182, 1, 28]
abbrev dktX3_e_0 : List UInt8 := dkwX3_e_0 ++ dktX3_e_1
theorem dksX3_e_0 : cX3_e.data.toList.drop 0 = dktX3_e_0 := by decide +kernel
theorem dksX3_e_1 : cX3_e.data.toList.drop 23 = dktX3_e_1 := dk_seg dksX3_e_0 23 rfl rfl
theorem dksX3_e_2 : cX3_e.data.toList.drop 45 = dktX3_e_2 := dk_seg dksX3_e_1 22 rfl rfl
theorem dX3_e_0 : decode cX3_e 0 = .ok (.aload_n 0, 1) := dk_42 (dk_at dksX3_e_0 0 rfl rfl)
theorem dX3_e_1 : decode cX3_e 1 = .ok (.iconst 0, 1) := dk_3 (dk_at dksX3_e_0 1 rfl rfl)
theorem dX3_e_2 : decode cX3_e 2 = .ok (.putfield 409, 3) := dk_181 1 153 (dk_at dksX3_e_0 2 rfl rfl)
theorem dX3_e_5 : decode cX3_e 5 = .ok (.aload_n 0, 1) := dk_42 (dk_at dksX3_e_0 5 rfl rfl)
theorem dX3_e_6 : decode cX3_e 6 = .ok (.iconst 0, 1) := dk_3 (dk_at dksX3_e_0 6 rfl rfl)
theorem dX3_e_7 : decode cX3_e 7 = .ok (.putfield 412, 3) := dk_181 1 156 (dk_at dksX3_e_0 7 rfl rfl)
theorem dX3_e_10 : decode cX3_e 10 = .ok (.aload_n 0, 1) := dk_42 (dk_at dksX3_e_0 10 rfl rfl)
theorem dX3_e_11 : decode cX3_e 11 = .ok (.bipush 8, 2) := dk_16 8 (dk_at dksX3_e_0 11 rfl rfl)
theorem dX3_e_13 : decode cX3_e 13 = .ok (.iconst 0, 1) := dk_3 (dk_at dksX3_e_0 13 rfl rfl)
theorem dX3_e_14 : decode cX3_e 14 = .ok (.invokevirtual 415, 3) := dk_182 1 159 (dk_at dksX3_e_0 14 rfl rfl)
theorem dX3_e_17 : decode cX3_e 17 = .ok (.iconst 1, 1) := dk_4 (dk_at dksX3_e_0 17 rfl rfl)
theorem dX3_e_18 : decode cX3_e 18 = .ok (.istore_n 1, 1) := dk_60 (dk_at dksX3_e_0 18 rfl rfl)
theorem dX3_e_19 : decode cX3_e 19 = .ok (.aload_n 0, 1) := dk_42 (dk_at dksX3_e_0 19 rfl rfl)
theorem dX3_e_20 : decode cX3_e 20 = .ok (.invokevirtual 284, 3) := dk_182 1 28 (dk_at dksX3_e_0 20 rfl rfl)
theorem dX3_e_23 : decode cX3_e 23 = .ok (.ifCond .eq 29, 3) := dk_153 0 29 (dk_at dksX3_e_1 0 rfl rfl)
theorem dX3_e_26 : decode cX3_e 26 = .ok (.aload_n 0, 1) := dk_42 (dk_at dksX3_e_1 3 rfl rfl)
theorem dX3_e_27 : decode cX3_e 27 = .ok (.getfield 409, 3) := dk_180 1 153 (dk_at dksX3_e_1 4 rfl rfl)
theorem dX3_e_30 : decode cX3_e 30 = .ok (.ifCond .le 22, 3) := dk_158 0 22 (dk_at dksX3_e_1 7 rfl rfl)
theorem dX3_e_33 : decode cX3_e 33 = .ok (.iload_n 1, 1) := dk_27 (dk_at dksX3_e_1 10 rfl rfl)
theorem dX3_e_34 : decode cX3_e 34 = .ok (.ifCond .eq 10, 3) := dk_153 0 10 (dk_at dksX3_e_1 11 rfl rfl)
theorem dX3_e_37 : decode cX3_e 37 = .ok (.aload_n 0, 1) := dk_42 (dk_at dksX3_e_1 14 rfl rfl)
theorem dX3_e_38 : decode cX3_e 38 = .ok (.invokevirtual 418, 3) := dk_182 1 162 (dk_at dksX3_e_1 15 rfl rfl)
theorem dX3_e_41 : decode cX3_e 41 = .ok (.goto 7, 3) := dk_167 0 7 (dk_at dksX3_e_1 18 rfl rfl)
theorem dX3_e_44 : decode cX3_e 44 = .ok (.aload_n 0, 1) := dk_42 (dk_at dksX3_e_1 21 rfl rfl)
theorem dX3_e_45 : decode cX3_e 45 = .ok (.invokevirtual 421, 3) := dk_182 1 165 (dk_at dksX3_e_2 0 rfl rfl)
theorem dX3_e_48 : decode cX3_e 48 = .ok (.istore_n 1, 1) := dk_60 (dk_at dksX3_e_2 3 rfl rfl)
theorem dX3_e_49 : decode cX3_e 49 = .ok (.goto (-30), 3) := dk_167 255 226 (dk_at dksX3_e_2 4 rfl rfl)
theorem dX3_e_52 : decode cX3_e 52 = .ok (.return_, 1) := dk_177 (dk_at dksX3_e_2 7 rfl rfl)
abbrev cX3_end : ByteArray := prog_24_method_111_code
def dkwX3_end_0 : List UInt8 := [27, 155, 0, 11, 27, 42, 180, 1, 38, 164, 0, 5, 2, 172, 42, 27, 181, 1, 38, 27, 172]
abbrev dktX3_end_0 : List UInt8 := dkwX3_end_0 ++ []
theorem dksX3_end_0 : cX3_end.data.toList.drop 0 = dktX3_end_0 := by decide +kernel
theorem dX3_end_0 : decode cX3_end 0 = .ok (.iload_n 1, 1) := dk_27 (dk_at dksX3_end_0 0 rfl rfl)
theorem dX3_end_1 : decode cX3_end 1 = .ok (.ifCond .lt 11, 3) := dk_155 0 11 (dk_at dksX3_end_0 1 rfl rfl)
theorem dX3_end_4 : decode cX3_end 4 = .ok (.iload_n 1, 1) := dk_27 (dk_at dksX3_end_0 4 rfl rfl)
theorem dX3_end_5 : decode cX3_end 5 = .ok (.aload_n 0, 1) := dk_42 (dk_at dksX3_end_0 5 rfl rfl)
theorem dX3_end_6 : decode cX3_end 6 = .ok (.getfield 294, 3) := dk_180 1 38 (dk_at dksX3_end_0 6 rfl rfl)
theorem dX3_end_9 : decode cX3_end 9 = .ok (.if_icmp .le 5, 3) := dk_164 0 5 (dk_at dksX3_end_0 9 rfl rfl)
theorem dX3_end_12 : decode cX3_end 12 = .ok (.iconst (-1), 1) := dk_2 (dk_at dksX3_end_0 12 rfl rfl)
theorem dX3_end_13 : decode cX3_end 13 = .ok (.ireturn, 1) := dk_172 (dk_at dksX3_end_0 13 rfl rfl)
theorem dX3_end_14 : decode cX3_end 14 = .ok (.aload_n 0, 1) := dk_42 (dk_at dksX3_end_0 14 rfl rfl)
theorem dX3_end_15 : decode cX3_end 15 = .ok (.iload_n 1, 1) := dk_27 (dk_at dksX3_end_0 15 rfl rfl)
theorem dX3_end_16 : decode cX3_end 16 = .ok (.putfield 294, 3) := dk_181 1 38 (dk_at dksX3_end_0 16 rfl rfl)
theorem dX3_end_19 : decode cX3_end 19 = .ok (.iload_n 1, 1) := dk_27 (dk_at dksX3_end_0 19 rfl rfl)
theorem dX3_end_20 : decode cX3_end 20 = .ok (.ireturn, 1) := dk_172 (dk_at dksX3_end_0 20 rfl rfl)
abbrev cX3_enter : ByteArray := prog_24_method_87_code
def dkwX3_enter_6 : List UInt8 := [42, 180, 0, 144, 16, 100, 27, 104, 28, 96, 5, 96, 29, 6, 96, 79, 177]
abbrev dktX3_enter_6 : List UInt8 := dkwX3_enter_6 ++ []
def dkwX3_enter_5 : List UInt8 := [21, 7, 163, 0, 38, 29, 6, 96, 42, 180, 0, 144, 16, 100, 27, 104, 28, 96, 5, 96, 46, 162, 0, 19]
abbrev dktX3_enter_5 : List UInt8 := dkwX3_enter_5 ++ dktX3_enter_6
def dkwX3_enter_4 : List UInt8 := [42, 180, 0, 144, 16, 100, 27, 104, 28, 96, 6, 96, 29, 4, 96, 79, 21, 10, 153, 0, 46, 28, 5, 96]
abbrev dktX3_enter_4 : List UInt8 := dkwX3_enter_4 ++ dktX3_enter_5
def dkwX3_enter_3 : List UInt8 := [21, 7, 163, 0, 38, 29, 4, 96, 42, 180, 0, 144, 16, 100, 27, 104, 28, 96, 6, 96, 46, 162, 0, 19]
abbrev dktX3_enter_3 : List UInt8 := dkwX3_enter_3 ++ dktX3_enter_4
def dkwX3_enter_2 : List UInt8 := [54, 9, 42, 21, 4, 21, 8, 21, 5, 16, 9, 182, 1, 226, 54, 10, 21, 9, 153, 0, 46, 28, 6, 96]
abbrev dktX3_enter_2 : List UInt8 := dkwX3_enter_2 ++ dktX3_enter_3
def dkwX3_enter_1 : List UInt8 := [154, 0, 22, 42, 21, 4, 21, 8, 21, 5, 16, 20, 182, 1, 226, 153, 0, 7, 4, 167, 0, 4, 3]
abbrev dktX3_enter_1 : List UInt8 := dkwX3_enter_1 ++ dktX3_enter_2
def dkwX3_enter_0 : List UInt8 := [42, 180, 0, 72, 16, 64, 42, 180, 1, 44, 104, 27, 96, 46, 54, 8, 21, 6, 21, 8, 122, 4, 126]
abbrev dktX3_enter_0 : List UInt8 := dkwX3_enter_0 ++ dktX3_enter_1
theorem dksX3_enter_0 : cX3_enter.data.toList.drop 0 = dktX3_enter_0 := by decide +kernel
theorem dksX3_enter_1 : cX3_enter.data.toList.drop 23 = dktX3_enter_1 := dk_seg dksX3_enter_0 23 rfl rfl
theorem dksX3_enter_2 : cX3_enter.data.toList.drop 46 = dktX3_enter_2 := dk_seg dksX3_enter_1 23 rfl rfl
theorem dksX3_enter_3 : cX3_enter.data.toList.drop 70 = dktX3_enter_3 := dk_seg dksX3_enter_2 24 rfl rfl
theorem dksX3_enter_4 : cX3_enter.data.toList.drop 94 = dktX3_enter_4 := dk_seg dksX3_enter_3 24 rfl rfl
theorem dksX3_enter_5 : cX3_enter.data.toList.drop 118 = dktX3_enter_5 := dk_seg dksX3_enter_4 24 rfl rfl
theorem dksX3_enter_6 : cX3_enter.data.toList.drop 142 = dktX3_enter_6 := dk_seg dksX3_enter_5 24 rfl rfl
theorem dX3_enter_0 : decode cX3_enter 0 = .ok (.aload_n 0, 1) := dk_42 (dk_at dksX3_enter_0 0 rfl rfl)
theorem dX3_enter_1 : decode cX3_enter 1 = .ok (.getfield 72, 3) := dk_180 0 72 (dk_at dksX3_enter_0 1 rfl rfl)
theorem dX3_enter_4 : decode cX3_enter 4 = .ok (.bipush 64, 2) := dk_16 64 (dk_at dksX3_enter_0 4 rfl rfl)
theorem dX3_enter_6 : decode cX3_enter 6 = .ok (.aload_n 0, 1) := dk_42 (dk_at dksX3_enter_0 6 rfl rfl)
theorem dX3_enter_7 : decode cX3_enter 7 = .ok (.getfield 300, 3) := dk_180 1 44 (dk_at dksX3_enter_0 7 rfl rfl)
theorem dX3_enter_10 : decode cX3_enter 10 = .ok (.imul, 1) := dk_104 (dk_at dksX3_enter_0 10 rfl rfl)
theorem dX3_enter_11 : decode cX3_enter 11 = .ok (.iload_n 1, 1) := dk_27 (dk_at dksX3_enter_0 11 rfl rfl)
theorem dX3_enter_12 : decode cX3_enter 12 = .ok (.iadd, 1) := dk_96 (dk_at dksX3_enter_0 12 rfl rfl)
theorem dX3_enter_13 : decode cX3_enter 13 = .ok (.iaload, 1) := dk_46 (dk_at dksX3_enter_0 13 rfl rfl)
theorem dX3_enter_14 : decode cX3_enter 14 = .ok (.istore 8, 2) := dk_54 8 (dk_at dksX3_enter_0 14 rfl rfl)
theorem dX3_enter_16 : decode cX3_enter 16 = .ok (.iload 6, 2) := dk_21 6 (dk_at dksX3_enter_0 16 rfl rfl)
theorem dX3_enter_18 : decode cX3_enter 18 = .ok (.iload 8, 2) := dk_21 8 (dk_at dksX3_enter_0 18 rfl rfl)
theorem dX3_enter_20 : decode cX3_enter 20 = .ok (.ishr, 1) := dk_122 (dk_at dksX3_enter_0 20 rfl rfl)
theorem dX3_enter_21 : decode cX3_enter 21 = .ok (.iconst 1, 1) := dk_4 (dk_at dksX3_enter_0 21 rfl rfl)
theorem dX3_enter_22 : decode cX3_enter 22 = .ok (.iand, 1) := dk_126 (dk_at dksX3_enter_0 22 rfl rfl)
theorem dX3_enter_23 : decode cX3_enter 23 = .ok (.ifCond .ne 22, 3) := dk_154 0 22 (dk_at dksX3_enter_1 0 rfl rfl)
theorem dX3_enter_26 : decode cX3_enter 26 = .ok (.aload_n 0, 1) := dk_42 (dk_at dksX3_enter_1 3 rfl rfl)
theorem dX3_enter_27 : decode cX3_enter 27 = .ok (.iload 4, 2) := dk_21 4 (dk_at dksX3_enter_1 4 rfl rfl)
theorem dX3_enter_29 : decode cX3_enter 29 = .ok (.iload 8, 2) := dk_21 8 (dk_at dksX3_enter_1 6 rfl rfl)
theorem dX3_enter_31 : decode cX3_enter 31 = .ok (.iload 5, 2) := dk_21 5 (dk_at dksX3_enter_1 8 rfl rfl)
theorem dX3_enter_33 : decode cX3_enter 33 = .ok (.bipush 20, 2) := dk_16 20 (dk_at dksX3_enter_1 10 rfl rfl)
theorem dX3_enter_35 : decode cX3_enter 35 = .ok (.invokevirtual 482, 3) := dk_182 1 226 (dk_at dksX3_enter_1 12 rfl rfl)
theorem dX3_enter_38 : decode cX3_enter 38 = .ok (.ifCond .eq 7, 3) := dk_153 0 7 (dk_at dksX3_enter_1 15 rfl rfl)
theorem dX3_enter_41 : decode cX3_enter 41 = .ok (.iconst 1, 1) := dk_4 (dk_at dksX3_enter_1 18 rfl rfl)
theorem dX3_enter_42 : decode cX3_enter 42 = .ok (.goto 4, 3) := dk_167 0 4 (dk_at dksX3_enter_1 19 rfl rfl)
theorem dX3_enter_45 : decode cX3_enter 45 = .ok (.iconst 0, 1) := dk_3 (dk_at dksX3_enter_1 22 rfl rfl)
theorem dX3_enter_46 : decode cX3_enter 46 = .ok (.istore 9, 2) := dk_54 9 (dk_at dksX3_enter_2 0 rfl rfl)
theorem dX3_enter_48 : decode cX3_enter 48 = .ok (.aload_n 0, 1) := dk_42 (dk_at dksX3_enter_2 2 rfl rfl)
theorem dX3_enter_49 : decode cX3_enter 49 = .ok (.iload 4, 2) := dk_21 4 (dk_at dksX3_enter_2 3 rfl rfl)
theorem dX3_enter_51 : decode cX3_enter 51 = .ok (.iload 8, 2) := dk_21 8 (dk_at dksX3_enter_2 5 rfl rfl)
theorem dX3_enter_53 : decode cX3_enter 53 = .ok (.iload 5, 2) := dk_21 5 (dk_at dksX3_enter_2 7 rfl rfl)
theorem dX3_enter_55 : decode cX3_enter 55 = .ok (.bipush 9, 2) := dk_16 9 (dk_at dksX3_enter_2 9 rfl rfl)
theorem dX3_enter_57 : decode cX3_enter 57 = .ok (.invokevirtual 482, 3) := dk_182 1 226 (dk_at dksX3_enter_2 11 rfl rfl)
theorem dX3_enter_60 : decode cX3_enter 60 = .ok (.istore 10, 2) := dk_54 10 (dk_at dksX3_enter_2 14 rfl rfl)
theorem dX3_enter_62 : decode cX3_enter 62 = .ok (.iload 9, 2) := dk_21 9 (dk_at dksX3_enter_2 16 rfl rfl)
theorem dX3_enter_64 : decode cX3_enter 64 = .ok (.ifCond .eq 46, 3) := dk_153 0 46 (dk_at dksX3_enter_2 18 rfl rfl)
theorem dX3_enter_67 : decode cX3_enter 67 = .ok (.iload_n 2, 1) := dk_28 (dk_at dksX3_enter_2 21 rfl rfl)
theorem dX3_enter_68 : decode cX3_enter 68 = .ok (.iconst 3, 1) := dk_6 (dk_at dksX3_enter_2 22 rfl rfl)
theorem dX3_enter_69 : decode cX3_enter 69 = .ok (.iadd, 1) := dk_96 (dk_at dksX3_enter_2 23 rfl rfl)
theorem dX3_enter_70 : decode cX3_enter 70 = .ok (.iload 7, 2) := dk_21 7 (dk_at dksX3_enter_3 0 rfl rfl)
theorem dX3_enter_72 : decode cX3_enter 72 = .ok (.if_icmp .gt 38, 3) := dk_163 0 38 (dk_at dksX3_enter_3 2 rfl rfl)
theorem dX3_enter_75 : decode cX3_enter 75 = .ok (.iload_n 3, 1) := dk_29 (dk_at dksX3_enter_3 5 rfl rfl)
theorem dX3_enter_76 : decode cX3_enter 76 = .ok (.iconst 1, 1) := dk_4 (dk_at dksX3_enter_3 6 rfl rfl)
theorem dX3_enter_77 : decode cX3_enter 77 = .ok (.iadd, 1) := dk_96 (dk_at dksX3_enter_3 7 rfl rfl)
theorem dX3_enter_78 : decode cX3_enter 78 = .ok (.aload_n 0, 1) := dk_42 (dk_at dksX3_enter_3 8 rfl rfl)
theorem dX3_enter_79 : decode cX3_enter 79 = .ok (.getfield 144, 3) := dk_180 0 144 (dk_at dksX3_enter_3 9 rfl rfl)
theorem dX3_enter_82 : decode cX3_enter 82 = .ok (.bipush 100, 2) := dk_16 100 (dk_at dksX3_enter_3 12 rfl rfl)
theorem dX3_enter_84 : decode cX3_enter 84 = .ok (.iload_n 1, 1) := dk_27 (dk_at dksX3_enter_3 14 rfl rfl)
theorem dX3_enter_85 : decode cX3_enter 85 = .ok (.imul, 1) := dk_104 (dk_at dksX3_enter_3 15 rfl rfl)
theorem dX3_enter_86 : decode cX3_enter 86 = .ok (.iload_n 2, 1) := dk_28 (dk_at dksX3_enter_3 16 rfl rfl)
theorem dX3_enter_87 : decode cX3_enter 87 = .ok (.iadd, 1) := dk_96 (dk_at dksX3_enter_3 17 rfl rfl)
theorem dX3_enter_88 : decode cX3_enter 88 = .ok (.iconst 3, 1) := dk_6 (dk_at dksX3_enter_3 18 rfl rfl)
theorem dX3_enter_89 : decode cX3_enter 89 = .ok (.iadd, 1) := dk_96 (dk_at dksX3_enter_3 19 rfl rfl)
theorem dX3_enter_90 : decode cX3_enter 90 = .ok (.iaload, 1) := dk_46 (dk_at dksX3_enter_3 20 rfl rfl)
theorem dX3_enter_91 : decode cX3_enter 91 = .ok (.if_icmp .ge 19, 3) := dk_162 0 19 (dk_at dksX3_enter_3 21 rfl rfl)
theorem dX3_enter_94 : decode cX3_enter 94 = .ok (.aload_n 0, 1) := dk_42 (dk_at dksX3_enter_4 0 rfl rfl)
theorem dX3_enter_95 : decode cX3_enter 95 = .ok (.getfield 144, 3) := dk_180 0 144 (dk_at dksX3_enter_4 1 rfl rfl)
theorem dX3_enter_98 : decode cX3_enter 98 = .ok (.bipush 100, 2) := dk_16 100 (dk_at dksX3_enter_4 4 rfl rfl)
theorem dX3_enter_100 : decode cX3_enter 100 = .ok (.iload_n 1, 1) := dk_27 (dk_at dksX3_enter_4 6 rfl rfl)
theorem dX3_enter_101 : decode cX3_enter 101 = .ok (.imul, 1) := dk_104 (dk_at dksX3_enter_4 7 rfl rfl)
theorem dX3_enter_102 : decode cX3_enter 102 = .ok (.iload_n 2, 1) := dk_28 (dk_at dksX3_enter_4 8 rfl rfl)
theorem dX3_enter_103 : decode cX3_enter 103 = .ok (.iadd, 1) := dk_96 (dk_at dksX3_enter_4 9 rfl rfl)
theorem dX3_enter_104 : decode cX3_enter 104 = .ok (.iconst 3, 1) := dk_6 (dk_at dksX3_enter_4 10 rfl rfl)
theorem dX3_enter_105 : decode cX3_enter 105 = .ok (.iadd, 1) := dk_96 (dk_at dksX3_enter_4 11 rfl rfl)
theorem dX3_enter_106 : decode cX3_enter 106 = .ok (.iload_n 3, 1) := dk_29 (dk_at dksX3_enter_4 12 rfl rfl)
theorem dX3_enter_107 : decode cX3_enter 107 = .ok (.iconst 1, 1) := dk_4 (dk_at dksX3_enter_4 13 rfl rfl)
theorem dX3_enter_108 : decode cX3_enter 108 = .ok (.iadd, 1) := dk_96 (dk_at dksX3_enter_4 14 rfl rfl)
theorem dX3_enter_109 : decode cX3_enter 109 = .ok (.iastore, 1) := dk_79 (dk_at dksX3_enter_4 15 rfl rfl)
theorem dX3_enter_110 : decode cX3_enter 110 = .ok (.iload 10, 2) := dk_21 10 (dk_at dksX3_enter_4 16 rfl rfl)
theorem dX3_enter_112 : decode cX3_enter 112 = .ok (.ifCond .eq 46, 3) := dk_153 0 46 (dk_at dksX3_enter_4 18 rfl rfl)
theorem dX3_enter_115 : decode cX3_enter 115 = .ok (.iload_n 2, 1) := dk_28 (dk_at dksX3_enter_4 21 rfl rfl)
theorem dX3_enter_116 : decode cX3_enter 116 = .ok (.iconst 2, 1) := dk_5 (dk_at dksX3_enter_4 22 rfl rfl)
theorem dX3_enter_117 : decode cX3_enter 117 = .ok (.iadd, 1) := dk_96 (dk_at dksX3_enter_4 23 rfl rfl)
theorem dX3_enter_118 : decode cX3_enter 118 = .ok (.iload 7, 2) := dk_21 7 (dk_at dksX3_enter_5 0 rfl rfl)
theorem dX3_enter_120 : decode cX3_enter 120 = .ok (.if_icmp .gt 38, 3) := dk_163 0 38 (dk_at dksX3_enter_5 2 rfl rfl)
theorem dX3_enter_123 : decode cX3_enter 123 = .ok (.iload_n 3, 1) := dk_29 (dk_at dksX3_enter_5 5 rfl rfl)
theorem dX3_enter_124 : decode cX3_enter 124 = .ok (.iconst 3, 1) := dk_6 (dk_at dksX3_enter_5 6 rfl rfl)
theorem dX3_enter_125 : decode cX3_enter 125 = .ok (.iadd, 1) := dk_96 (dk_at dksX3_enter_5 7 rfl rfl)
theorem dX3_enter_126 : decode cX3_enter 126 = .ok (.aload_n 0, 1) := dk_42 (dk_at dksX3_enter_5 8 rfl rfl)
theorem dX3_enter_127 : decode cX3_enter 127 = .ok (.getfield 144, 3) := dk_180 0 144 (dk_at dksX3_enter_5 9 rfl rfl)
theorem dX3_enter_130 : decode cX3_enter 130 = .ok (.bipush 100, 2) := dk_16 100 (dk_at dksX3_enter_5 12 rfl rfl)
theorem dX3_enter_132 : decode cX3_enter 132 = .ok (.iload_n 1, 1) := dk_27 (dk_at dksX3_enter_5 14 rfl rfl)
theorem dX3_enter_133 : decode cX3_enter 133 = .ok (.imul, 1) := dk_104 (dk_at dksX3_enter_5 15 rfl rfl)
theorem dX3_enter_134 : decode cX3_enter 134 = .ok (.iload_n 2, 1) := dk_28 (dk_at dksX3_enter_5 16 rfl rfl)
theorem dX3_enter_135 : decode cX3_enter 135 = .ok (.iadd, 1) := dk_96 (dk_at dksX3_enter_5 17 rfl rfl)
theorem dX3_enter_136 : decode cX3_enter 136 = .ok (.iconst 2, 1) := dk_5 (dk_at dksX3_enter_5 18 rfl rfl)
theorem dX3_enter_137 : decode cX3_enter 137 = .ok (.iadd, 1) := dk_96 (dk_at dksX3_enter_5 19 rfl rfl)
theorem dX3_enter_138 : decode cX3_enter 138 = .ok (.iaload, 1) := dk_46 (dk_at dksX3_enter_5 20 rfl rfl)
theorem dX3_enter_139 : decode cX3_enter 139 = .ok (.if_icmp .ge 19, 3) := dk_162 0 19 (dk_at dksX3_enter_5 21 rfl rfl)
theorem dX3_enter_142 : decode cX3_enter 142 = .ok (.aload_n 0, 1) := dk_42 (dk_at dksX3_enter_6 0 rfl rfl)
theorem dX3_enter_143 : decode cX3_enter 143 = .ok (.getfield 144, 3) := dk_180 0 144 (dk_at dksX3_enter_6 1 rfl rfl)
theorem dX3_enter_146 : decode cX3_enter 146 = .ok (.bipush 100, 2) := dk_16 100 (dk_at dksX3_enter_6 4 rfl rfl)
theorem dX3_enter_148 : decode cX3_enter 148 = .ok (.iload_n 1, 1) := dk_27 (dk_at dksX3_enter_6 6 rfl rfl)
theorem dX3_enter_149 : decode cX3_enter 149 = .ok (.imul, 1) := dk_104 (dk_at dksX3_enter_6 7 rfl rfl)
theorem dX3_enter_150 : decode cX3_enter 150 = .ok (.iload_n 2, 1) := dk_28 (dk_at dksX3_enter_6 8 rfl rfl)
theorem dX3_enter_151 : decode cX3_enter 151 = .ok (.iadd, 1) := dk_96 (dk_at dksX3_enter_6 9 rfl rfl)
theorem dX3_enter_152 : decode cX3_enter 152 = .ok (.iconst 2, 1) := dk_5 (dk_at dksX3_enter_6 10 rfl rfl)
theorem dX3_enter_153 : decode cX3_enter 153 = .ok (.iadd, 1) := dk_96 (dk_at dksX3_enter_6 11 rfl rfl)
theorem dX3_enter_154 : decode cX3_enter 154 = .ok (.iload_n 3, 1) := dk_29 (dk_at dksX3_enter_6 12 rfl rfl)
theorem dX3_enter_155 : decode cX3_enter 155 = .ok (.iconst 3, 1) := dk_6 (dk_at dksX3_enter_6 13 rfl rfl)
theorem dX3_enter_156 : decode cX3_enter 156 = .ok (.iadd, 1) := dk_96 (dk_at dksX3_enter_6 14 rfl rfl)
theorem dX3_enter_157 : decode cX3_enter 157 = .ok (.iastore, 1) := dk_79 (dk_at dksX3_enter_6 15 rfl rfl)
theorem dX3_enter_158 : decode cX3_enter 158 = .ok (.return_, 1) := dk_177 (dk_at dksX3_enter_6 16 rfl rfl)
abbrev cX3_estimate : ByteArray := prog_24_method_61_code
def dkwX3_estimate_1 : List UInt8 := [182, 1, 242, 167, 0, 4, 2, 172]
abbrev dktX3_estimate_1 : List UInt8 := dkwX3_estimate_1 ++ []
def dkwX3_estimate_0 : List UInt8 := [27, 184, 1, 239, 153, 0, 24, 28, 3, 19, 1, 245, 184, 1, 98, 153, 0, 13, 42, 4, 27, 28]
abbrev dktX3_estimate_0 : List UInt8 := dkwX3_estimate_0 ++ dktX3_estimate_1
theorem dksX3_estimate_0 : cX3_estimate.data.toList.drop 0 = dktX3_estimate_0 := by decide +kernel
theorem dksX3_estimate_1 : cX3_estimate.data.toList.drop 22 = dktX3_estimate_1 := dk_seg dksX3_estimate_0 22 rfl rfl
theorem dX3_estimate_0 : decode cX3_estimate 0 = .ok (.iload_n 1, 1) := dk_27 (dk_at dksX3_estimate_0 0 rfl rfl)
theorem dX3_estimate_1 : decode cX3_estimate 1 = .ok (.invokestatic 495, 3) := dk_184 1 239 (dk_at dksX3_estimate_0 1 rfl rfl)
theorem dX3_estimate_4 : decode cX3_estimate 4 = .ok (.ifCond .eq 24, 3) := dk_153 0 24 (dk_at dksX3_estimate_0 4 rfl rfl)
theorem dX3_estimate_7 : decode cX3_estimate 7 = .ok (.iload_n 2, 1) := dk_28 (dk_at dksX3_estimate_0 7 rfl rfl)
theorem dX3_estimate_8 : decode cX3_estimate 8 = .ok (.iconst 0, 1) := dk_3 (dk_at dksX3_estimate_0 8 rfl rfl)
theorem dX3_estimate_9 : decode cX3_estimate 9 = .ok (.ldc_w 501, 3) := dk_19 1 245 (dk_at dksX3_estimate_0 9 rfl rfl)
theorem dX3_estimate_12 : decode cX3_estimate 12 = .ok (.invokestatic 354, 3) := dk_184 1 98 (dk_at dksX3_estimate_0 12 rfl rfl)
theorem dX3_estimate_15 : decode cX3_estimate 15 = .ok (.ifCond .eq 13, 3) := dk_153 0 13 (dk_at dksX3_estimate_0 15 rfl rfl)
theorem dX3_estimate_18 : decode cX3_estimate 18 = .ok (.aload_n 0, 1) := dk_42 (dk_at dksX3_estimate_0 18 rfl rfl)
theorem dX3_estimate_19 : decode cX3_estimate 19 = .ok (.iconst 1, 1) := dk_4 (dk_at dksX3_estimate_0 19 rfl rfl)
theorem dX3_estimate_20 : decode cX3_estimate 20 = .ok (.iload_n 1, 1) := dk_27 (dk_at dksX3_estimate_0 20 rfl rfl)
theorem dX3_estimate_21 : decode cX3_estimate 21 = .ok (.iload_n 2, 1) := dk_28 (dk_at dksX3_estimate_0 21 rfl rfl)
theorem dX3_estimate_22 : decode cX3_estimate 22 = .ok (.invokevirtual 498, 3) := dk_182 1 242 (dk_at dksX3_estimate_1 0 rfl rfl)
theorem dX3_estimate_25 : decode cX3_estimate 25 = .ok (.goto 4, 3) := dk_167 0 4 (dk_at dksX3_estimate_1 3 rfl rfl)
theorem dX3_estimate_28 : decode cX3_estimate 28 = .ok (.iconst (-1), 1) := dk_2 (dk_at dksX3_estimate_1 6 rfl rfl)
theorem dX3_estimate_29 : decode cX3_estimate 29 = .ok (.ireturn, 1) := dk_172 (dk_at dksX3_estimate_1 7 rfl rfl)
abbrev cX3_fails : ByteArray := prog_24_method_5_code
def dkwX3_fails_0 : List UInt8 := [42, 180, 0, 175, 158, 0, 4, 177, 42, 27, 181, 0, 175, 42, 28, 181, 0, 16, 177]
abbrev dktX3_fails_0 : List UInt8 := dkwX3_fails_0 ++ []
theorem dksX3_fails_0 : cX3_fails.data.toList.drop 0 = dktX3_fails_0 := by decide +kernel
theorem dX3_fails_0 : decode cX3_fails 0 = .ok (.aload_n 0, 1) := dk_42 (dk_at dksX3_fails_0 0 rfl rfl)
theorem dX3_fails_1 : decode cX3_fails 1 = .ok (.getfield 175, 3) := dk_180 0 175 (dk_at dksX3_fails_0 1 rfl rfl)
theorem dX3_fails_4 : decode cX3_fails 4 = .ok (.ifCond .le 4, 3) := dk_158 0 4 (dk_at dksX3_fails_0 4 rfl rfl)
theorem dX3_fails_7 : decode cX3_fails 7 = .ok (.return_, 1) := dk_177 (dk_at dksX3_fails_0 7 rfl rfl)
theorem dX3_fails_8 : decode cX3_fails 8 = .ok (.aload_n 0, 1) := dk_42 (dk_at dksX3_fails_0 8 rfl rfl)
theorem dX3_fails_9 : decode cX3_fails 9 = .ok (.iload_n 1, 1) := dk_27 (dk_at dksX3_fails_0 9 rfl rfl)
theorem dX3_fails_10 : decode cX3_fails 10 = .ok (.putfield 175, 3) := dk_181 0 175 (dk_at dksX3_fails_0 10 rfl rfl)
theorem dX3_fails_13 : decode cX3_fails 13 = .ok (.aload_n 0, 1) := dk_42 (dk_at dksX3_fails_0 13 rfl rfl)
theorem dX3_fails_14 : decode cX3_fails 14 = .ok (.iload_n 2, 1) := dk_28 (dk_at dksX3_fails_0 14 rfl rfl)
theorem dX3_fails_15 : decode cX3_fails 15 = .ok (.putfield 16, 3) := dk_181 0 16 (dk_at dksX3_fails_0 15 rfl rfl)
theorem dX3_fails_18 : decode cX3_fails 18 = .ok (.return_, 1) := dk_177 (dk_at dksX3_fails_0 18 rfl rfl)
abbrev cX3_fault : ByteArray := prog_24_method_25_code
def dkwX3_fault_1 : List UInt8 := [172]
abbrev dktX3_fault_1 : List UInt8 := dkwX3_fault_1 ++ []
def dkwX3_fault_0 : List UInt8 := [27, 154, 0, 10, 42, 180, 0, 175, 167, 0, 16, 27, 4, 160, 0, 10, 42, 180, 0, 16, 167, 0, 4, 2]
abbrev dktX3_fault_0 : List UInt8 := dkwX3_fault_0 ++ dktX3_fault_1
theorem dksX3_fault_0 : cX3_fault.data.toList.drop 0 = dktX3_fault_0 := by decide +kernel
theorem dksX3_fault_1 : cX3_fault.data.toList.drop 24 = dktX3_fault_1 := dk_seg dksX3_fault_0 24 rfl rfl
theorem dX3_fault_0 : decode cX3_fault 0 = .ok (.iload_n 1, 1) := dk_27 (dk_at dksX3_fault_0 0 rfl rfl)
theorem dX3_fault_1 : decode cX3_fault 1 = .ok (.ifCond .ne 10, 3) := dk_154 0 10 (dk_at dksX3_fault_0 1 rfl rfl)
theorem dX3_fault_4 : decode cX3_fault 4 = .ok (.aload_n 0, 1) := dk_42 (dk_at dksX3_fault_0 4 rfl rfl)
theorem dX3_fault_5 : decode cX3_fault 5 = .ok (.getfield 175, 3) := dk_180 0 175 (dk_at dksX3_fault_0 5 rfl rfl)
theorem dX3_fault_8 : decode cX3_fault 8 = .ok (.goto 16, 3) := dk_167 0 16 (dk_at dksX3_fault_0 8 rfl rfl)
theorem dX3_fault_11 : decode cX3_fault 11 = .ok (.iload_n 1, 1) := dk_27 (dk_at dksX3_fault_0 11 rfl rfl)
theorem dX3_fault_12 : decode cX3_fault 12 = .ok (.iconst 1, 1) := dk_4 (dk_at dksX3_fault_0 12 rfl rfl)
theorem dX3_fault_13 : decode cX3_fault 13 = .ok (.if_icmp .ne 10, 3) := dk_160 0 10 (dk_at dksX3_fault_0 13 rfl rfl)
theorem dX3_fault_16 : decode cX3_fault 16 = .ok (.aload_n 0, 1) := dk_42 (dk_at dksX3_fault_0 16 rfl rfl)
theorem dX3_fault_17 : decode cX3_fault 17 = .ok (.getfield 16, 3) := dk_180 0 16 (dk_at dksX3_fault_0 17 rfl rfl)
theorem dX3_fault_20 : decode cX3_fault 20 = .ok (.goto 4, 3) := dk_167 0 4 (dk_at dksX3_fault_0 20 rfl rfl)
theorem dX3_fault_23 : decode cX3_fault 23 = .ok (.iconst (-1), 1) := dk_2 (dk_at dksX3_fault_0 23 rfl rfl)
theorem dX3_fault_24 : decode cX3_fault 24 = .ok (.ireturn, 1) := dk_172 (dk_at dksX3_fault_1 0 rfl rfl)
abbrev cX3_feed : ByteArray := prog_24_method_110_code
def dkwX3_feed_5 : List UInt8 := [180, 1, 38, 172]
abbrev dktX3_feed_5 : List UInt8 := dkwX3_feed_5 ++ []
def dkwX3_feed_4 : List UInt8 := [126, 104, 100, 122, 145, 84, 132, 6, 1, 167, 255, 172, 42, 89, 180, 1, 38, 16, 20, 96, 181, 1, 38, 42]
abbrev dktX3_feed_4 : List UInt8 := dkwX3_feed_4 ++ dktX3_feed_5
def dkwX3_feed_3 : List UInt8 := [21, 5, 54, 7, 42, 180, 0, 7, 42, 180, 1, 38, 21, 6, 96, 21, 7, 16, 24, 16, 8, 21, 6, 6]
abbrev dktX3_feed_3 : List UInt8 := dkwX3_feed_3 ++ dktX3_feed_4
def dkwX3_feed_2 : List UInt8 := [21, 6, 16, 12, 162, 0, 7, 29, 167, 0, 17, 21, 6, 16, 16, 162, 0, 8, 21, 4, 167, 0, 5]
abbrev dktX3_feed_2 : List UInt8 := dkwX3_feed_2 ++ dktX3_feed_3
def dkwX3_feed_1 : List UInt8 := [162, 0, 83, 21, 6, 7, 162, 0, 7, 27, 167, 0, 39, 21, 6, 16, 8, 162, 0, 7, 28, 167, 0, 28]
abbrev dktX3_feed_1 : List UInt8 := dkwX3_feed_1 ++ dktX3_feed_2
def dkwX3_feed_0 : List UInt8 := [42, 180, 1, 38, 16, 20, 96, 17, 5, 20, 164, 0, 5, 2, 172, 3, 54, 6, 21, 6, 16, 20]
abbrev dktX3_feed_0 : List UInt8 := dkwX3_feed_0 ++ dktX3_feed_1
theorem dksX3_feed_0 : cX3_feed.data.toList.drop 0 = dktX3_feed_0 := by decide +kernel
theorem dksX3_feed_1 : cX3_feed.data.toList.drop 22 = dktX3_feed_1 := dk_seg dksX3_feed_0 22 rfl rfl
theorem dksX3_feed_2 : cX3_feed.data.toList.drop 46 = dktX3_feed_2 := dk_seg dksX3_feed_1 24 rfl rfl
theorem dksX3_feed_3 : cX3_feed.data.toList.drop 69 = dktX3_feed_3 := dk_seg dksX3_feed_2 23 rfl rfl
theorem dksX3_feed_4 : cX3_feed.data.toList.drop 93 = dktX3_feed_4 := dk_seg dksX3_feed_3 24 rfl rfl
theorem dksX3_feed_5 : cX3_feed.data.toList.drop 117 = dktX3_feed_5 := dk_seg dksX3_feed_4 24 rfl rfl
theorem dX3_feed_0 : decode cX3_feed 0 = .ok (.aload_n 0, 1) := dk_42 (dk_at dksX3_feed_0 0 rfl rfl)
theorem dX3_feed_1 : decode cX3_feed 1 = .ok (.getfield 294, 3) := dk_180 1 38 (dk_at dksX3_feed_0 1 rfl rfl)
theorem dX3_feed_4 : decode cX3_feed 4 = .ok (.bipush 20, 2) := dk_16 20 (dk_at dksX3_feed_0 4 rfl rfl)
theorem dX3_feed_6 : decode cX3_feed 6 = .ok (.iadd, 1) := dk_96 (dk_at dksX3_feed_0 6 rfl rfl)
theorem dX3_feed_7 : decode cX3_feed 7 = .ok (.sipush 1300, 3) := dk_17 5 20 (dk_at dksX3_feed_0 7 rfl rfl)
theorem dX3_feed_10 : decode cX3_feed 10 = .ok (.if_icmp .le 5, 3) := dk_164 0 5 (dk_at dksX3_feed_0 10 rfl rfl)
theorem dX3_feed_13 : decode cX3_feed 13 = .ok (.iconst (-1), 1) := dk_2 (dk_at dksX3_feed_0 13 rfl rfl)
theorem dX3_feed_14 : decode cX3_feed 14 = .ok (.ireturn, 1) := dk_172 (dk_at dksX3_feed_0 14 rfl rfl)
theorem dX3_feed_15 : decode cX3_feed 15 = .ok (.iconst 0, 1) := dk_3 (dk_at dksX3_feed_0 15 rfl rfl)
theorem dX3_feed_16 : decode cX3_feed 16 = .ok (.istore 6, 2) := dk_54 6 (dk_at dksX3_feed_0 16 rfl rfl)
theorem dX3_feed_18 : decode cX3_feed 18 = .ok (.iload 6, 2) := dk_21 6 (dk_at dksX3_feed_0 18 rfl rfl)
theorem dX3_feed_20 : decode cX3_feed 20 = .ok (.bipush 20, 2) := dk_16 20 (dk_at dksX3_feed_0 20 rfl rfl)
theorem dX3_feed_22 : decode cX3_feed 22 = .ok (.if_icmp .ge 83, 3) := dk_162 0 83 (dk_at dksX3_feed_1 0 rfl rfl)
theorem dX3_feed_25 : decode cX3_feed 25 = .ok (.iload 6, 2) := dk_21 6 (dk_at dksX3_feed_1 3 rfl rfl)
theorem dX3_feed_27 : decode cX3_feed 27 = .ok (.iconst 4, 1) := dk_7 (dk_at dksX3_feed_1 5 rfl rfl)
theorem dX3_feed_28 : decode cX3_feed 28 = .ok (.if_icmp .ge 7, 3) := dk_162 0 7 (dk_at dksX3_feed_1 6 rfl rfl)
theorem dX3_feed_31 : decode cX3_feed 31 = .ok (.iload_n 1, 1) := dk_27 (dk_at dksX3_feed_1 9 rfl rfl)
theorem dX3_feed_32 : decode cX3_feed 32 = .ok (.goto 39, 3) := dk_167 0 39 (dk_at dksX3_feed_1 10 rfl rfl)
theorem dX3_feed_35 : decode cX3_feed 35 = .ok (.iload 6, 2) := dk_21 6 (dk_at dksX3_feed_1 13 rfl rfl)
theorem dX3_feed_37 : decode cX3_feed 37 = .ok (.bipush 8, 2) := dk_16 8 (dk_at dksX3_feed_1 15 rfl rfl)
theorem dX3_feed_39 : decode cX3_feed 39 = .ok (.if_icmp .ge 7, 3) := dk_162 0 7 (dk_at dksX3_feed_1 17 rfl rfl)
theorem dX3_feed_42 : decode cX3_feed 42 = .ok (.iload_n 2, 1) := dk_28 (dk_at dksX3_feed_1 20 rfl rfl)
theorem dX3_feed_43 : decode cX3_feed 43 = .ok (.goto 28, 3) := dk_167 0 28 (dk_at dksX3_feed_1 21 rfl rfl)
theorem dX3_feed_46 : decode cX3_feed 46 = .ok (.iload 6, 2) := dk_21 6 (dk_at dksX3_feed_2 0 rfl rfl)
theorem dX3_feed_48 : decode cX3_feed 48 = .ok (.bipush 12, 2) := dk_16 12 (dk_at dksX3_feed_2 2 rfl rfl)
theorem dX3_feed_50 : decode cX3_feed 50 = .ok (.if_icmp .ge 7, 3) := dk_162 0 7 (dk_at dksX3_feed_2 4 rfl rfl)
theorem dX3_feed_53 : decode cX3_feed 53 = .ok (.iload_n 3, 1) := dk_29 (dk_at dksX3_feed_2 7 rfl rfl)
theorem dX3_feed_54 : decode cX3_feed 54 = .ok (.goto 17, 3) := dk_167 0 17 (dk_at dksX3_feed_2 8 rfl rfl)
theorem dX3_feed_57 : decode cX3_feed 57 = .ok (.iload 6, 2) := dk_21 6 (dk_at dksX3_feed_2 11 rfl rfl)
theorem dX3_feed_59 : decode cX3_feed 59 = .ok (.bipush 16, 2) := dk_16 16 (dk_at dksX3_feed_2 13 rfl rfl)
theorem dX3_feed_61 : decode cX3_feed 61 = .ok (.if_icmp .ge 8, 3) := dk_162 0 8 (dk_at dksX3_feed_2 15 rfl rfl)
theorem dX3_feed_64 : decode cX3_feed 64 = .ok (.iload 4, 2) := dk_21 4 (dk_at dksX3_feed_2 18 rfl rfl)
theorem dX3_feed_66 : decode cX3_feed 66 = .ok (.goto 5, 3) := dk_167 0 5 (dk_at dksX3_feed_2 20 rfl rfl)
theorem dX3_feed_69 : decode cX3_feed 69 = .ok (.iload 5, 2) := dk_21 5 (dk_at dksX3_feed_3 0 rfl rfl)
theorem dX3_feed_71 : decode cX3_feed 71 = .ok (.istore 7, 2) := dk_54 7 (dk_at dksX3_feed_3 2 rfl rfl)
theorem dX3_feed_73 : decode cX3_feed 73 = .ok (.aload_n 0, 1) := dk_42 (dk_at dksX3_feed_3 4 rfl rfl)
theorem dX3_feed_74 : decode cX3_feed 74 = .ok (.getfield 7, 3) := dk_180 0 7 (dk_at dksX3_feed_3 5 rfl rfl)
theorem dX3_feed_77 : decode cX3_feed 77 = .ok (.aload_n 0, 1) := dk_42 (dk_at dksX3_feed_3 8 rfl rfl)
theorem dX3_feed_78 : decode cX3_feed 78 = .ok (.getfield 294, 3) := dk_180 1 38 (dk_at dksX3_feed_3 9 rfl rfl)
theorem dX3_feed_81 : decode cX3_feed 81 = .ok (.iload 6, 2) := dk_21 6 (dk_at dksX3_feed_3 12 rfl rfl)
theorem dX3_feed_83 : decode cX3_feed 83 = .ok (.iadd, 1) := dk_96 (dk_at dksX3_feed_3 14 rfl rfl)
theorem dX3_feed_84 : decode cX3_feed 84 = .ok (.iload 7, 2) := dk_21 7 (dk_at dksX3_feed_3 15 rfl rfl)
theorem dX3_feed_86 : decode cX3_feed 86 = .ok (.bipush 24, 2) := dk_16 24 (dk_at dksX3_feed_3 17 rfl rfl)
theorem dX3_feed_88 : decode cX3_feed 88 = .ok (.bipush 8, 2) := dk_16 8 (dk_at dksX3_feed_3 19 rfl rfl)
theorem dX3_feed_90 : decode cX3_feed 90 = .ok (.iload 6, 2) := dk_21 6 (dk_at dksX3_feed_3 21 rfl rfl)
theorem dX3_feed_92 : decode cX3_feed 92 = .ok (.iconst 3, 1) := dk_6 (dk_at dksX3_feed_3 23 rfl rfl)
theorem dX3_feed_93 : decode cX3_feed 93 = .ok (.iand, 1) := dk_126 (dk_at dksX3_feed_4 0 rfl rfl)
theorem dX3_feed_94 : decode cX3_feed 94 = .ok (.imul, 1) := dk_104 (dk_at dksX3_feed_4 1 rfl rfl)
theorem dX3_feed_95 : decode cX3_feed 95 = .ok (.isub, 1) := dk_100 (dk_at dksX3_feed_4 2 rfl rfl)
theorem dX3_feed_96 : decode cX3_feed 96 = .ok (.ishr, 1) := dk_122 (dk_at dksX3_feed_4 3 rfl rfl)
theorem dX3_feed_97 : decode cX3_feed 97 = .ok (.i2b, 1) := dk_145 (dk_at dksX3_feed_4 4 rfl rfl)
theorem dX3_feed_98 : decode cX3_feed 98 = .ok (.bastore, 1) := dk_84 (dk_at dksX3_feed_4 5 rfl rfl)
theorem dX3_feed_99 : decode cX3_feed 99 = .ok (.iinc 6 1, 3) := dk_132 6 1 (dk_at dksX3_feed_4 6 rfl rfl)
theorem dX3_feed_102 : decode cX3_feed 102 = .ok (.goto (-84), 3) := dk_167 255 172 (dk_at dksX3_feed_4 9 rfl rfl)
theorem dX3_feed_105 : decode cX3_feed 105 = .ok (.aload_n 0, 1) := dk_42 (dk_at dksX3_feed_4 12 rfl rfl)
theorem dX3_feed_106 : decode cX3_feed 106 = .ok (.dup, 1) := dk_89 (dk_at dksX3_feed_4 13 rfl rfl)
theorem dX3_feed_107 : decode cX3_feed 107 = .ok (.getfield 294, 3) := dk_180 1 38 (dk_at dksX3_feed_4 14 rfl rfl)
theorem dX3_feed_110 : decode cX3_feed 110 = .ok (.bipush 20, 2) := dk_16 20 (dk_at dksX3_feed_4 17 rfl rfl)
theorem dX3_feed_112 : decode cX3_feed 112 = .ok (.iadd, 1) := dk_96 (dk_at dksX3_feed_4 19 rfl rfl)
theorem dX3_feed_113 : decode cX3_feed 113 = .ok (.putfield 294, 3) := dk_181 1 38 (dk_at dksX3_feed_4 20 rfl rfl)
theorem dX3_feed_116 : decode cX3_feed 116 = .ok (.aload_n 0, 1) := dk_42 (dk_at dksX3_feed_4 23 rfl rfl)
theorem dX3_feed_117 : decode cX3_feed 117 = .ok (.getfield 294, 3) := dk_180 1 38 (dk_at dksX3_feed_5 0 rfl rfl)
theorem dX3_feed_120 : decode cX3_feed 120 = .ok (.ireturn, 1) := dk_172 (dk_at dksX3_feed_5 3 rfl rfl)
abbrev cX3_fillPlan : ByteArray := prog_24_method_82_code
def dkwX3_fillPlan_7 : List UInt8 := [132, 1, 255, 167, 255, 128, 177]
abbrev dktX3_fillPlan_7 : List UInt8 := dkwX3_fillPlan_7 ++ []
def dkwX3_fillPlan_6 : List UInt8 := [153, 0, 12, 42, 27, 28, 182, 2, 24, 167, 0, 6, 19, 1, 247, 79, 132, 2, 1, 167, 255, 140]
abbrev dktX3_fillPlan_6 : List UInt8 := dkwX3_fillPlan_6 ++ dktX3_fillPlan_7
def dkwX3_fillPlan_5 : List UInt8 := [4, 167, 0, 4, 3, 62, 132, 4, 1, 167, 255, 191, 42, 180, 0, 135, 17, 16, 0, 27, 104, 28, 96, 29]
abbrev dktX3_fillPlan_5 : List UInt8 := dkwX3_fillPlan_5 ++ dktX3_fillPlan_6
def dkwX3_fillPlan_4 : List UInt8 := [180, 1, 44, 104, 21, 4, 96, 46, 163, 0, 20, 167, 0, 13, 42, 180, 0, 138, 21, 4, 46, 154, 0, 7]
abbrev dktX3_fillPlan_4 : List UInt8 := dkwX3_fillPlan_4 ++ dktX3_fillPlan_5
def dkwX3_fillPlan_3 : List UInt8 := [21, 4, 42, 182, 2, 8, 162, 0, 30, 42, 180, 0, 138, 21, 4, 46, 42, 180, 0, 69, 6, 42]
abbrev dktX3_fillPlan_3 : List UInt8 := dkwX3_fillPlan_3 ++ dktX3_fillPlan_4
def dkwX3_fillPlan_2 : List UInt8 := [162, 0, 115, 42, 28, 182, 2, 5, 4, 62, 3, 54, 4, 21, 4, 6, 162, 0, 65, 29, 153, 0, 53]
abbrev dktX3_fillPlan_2 : List UInt8 := dkwX3_fillPlan_2 ++ dktX3_fillPlan_3
def dkwX3_fillPlan_1 : List UInt8 := [79, 132, 1, 1, 167, 255, 230, 42, 180, 1, 56, 4, 100, 60, 27, 155, 0, 130, 3, 61, 28, 17, 16, 0]
abbrev dktX3_fillPlan_1 : List UInt8 := dkwX3_fillPlan_1 ++ dktX3_fillPlan_2
def dkwX3_fillPlan_0 : List UInt8 := [3, 60, 27, 17, 16, 0, 162, 0, 25, 42, 180, 0, 135, 17, 16, 0, 42, 180, 1, 56, 104, 27, 96, 3]
abbrev dktX3_fillPlan_0 : List UInt8 := dkwX3_fillPlan_0 ++ dktX3_fillPlan_1
theorem dksX3_fillPlan_0 : cX3_fillPlan.data.toList.drop 0 = dktX3_fillPlan_0 := by decide +kernel
theorem dksX3_fillPlan_1 : cX3_fillPlan.data.toList.drop 24 = dktX3_fillPlan_1 := dk_seg dksX3_fillPlan_0 24 rfl rfl
theorem dksX3_fillPlan_2 : cX3_fillPlan.data.toList.drop 48 = dktX3_fillPlan_2 := dk_seg dksX3_fillPlan_1 24 rfl rfl
theorem dksX3_fillPlan_3 : cX3_fillPlan.data.toList.drop 71 = dktX3_fillPlan_3 := dk_seg dksX3_fillPlan_2 23 rfl rfl
theorem dksX3_fillPlan_4 : cX3_fillPlan.data.toList.drop 93 = dktX3_fillPlan_4 := dk_seg dksX3_fillPlan_3 22 rfl rfl
theorem dksX3_fillPlan_5 : cX3_fillPlan.data.toList.drop 117 = dktX3_fillPlan_5 := dk_seg dksX3_fillPlan_4 24 rfl rfl
theorem dksX3_fillPlan_6 : cX3_fillPlan.data.toList.drop 141 = dktX3_fillPlan_6 := dk_seg dksX3_fillPlan_5 24 rfl rfl
theorem dksX3_fillPlan_7 : cX3_fillPlan.data.toList.drop 163 = dktX3_fillPlan_7 := dk_seg dksX3_fillPlan_6 22 rfl rfl
theorem dX3_fillPlan_0 : decode cX3_fillPlan 0 = .ok (.iconst 0, 1) := dk_3 (dk_at dksX3_fillPlan_0 0 rfl rfl)
theorem dX3_fillPlan_1 : decode cX3_fillPlan 1 = .ok (.istore_n 1, 1) := dk_60 (dk_at dksX3_fillPlan_0 1 rfl rfl)
theorem dX3_fillPlan_2 : decode cX3_fillPlan 2 = .ok (.iload_n 1, 1) := dk_27 (dk_at dksX3_fillPlan_0 2 rfl rfl)
theorem dX3_fillPlan_3 : decode cX3_fillPlan 3 = .ok (.sipush 4096, 3) := dk_17 16 0 (dk_at dksX3_fillPlan_0 3 rfl rfl)
theorem dX3_fillPlan_6 : decode cX3_fillPlan 6 = .ok (.if_icmp .ge 25, 3) := dk_162 0 25 (dk_at dksX3_fillPlan_0 6 rfl rfl)
theorem dX3_fillPlan_9 : decode cX3_fillPlan 9 = .ok (.aload_n 0, 1) := dk_42 (dk_at dksX3_fillPlan_0 9 rfl rfl)
theorem dX3_fillPlan_10 : decode cX3_fillPlan 10 = .ok (.getfield 135, 3) := dk_180 0 135 (dk_at dksX3_fillPlan_0 10 rfl rfl)
theorem dX3_fillPlan_13 : decode cX3_fillPlan 13 = .ok (.sipush 4096, 3) := dk_17 16 0 (dk_at dksX3_fillPlan_0 13 rfl rfl)
theorem dX3_fillPlan_16 : decode cX3_fillPlan 16 = .ok (.aload_n 0, 1) := dk_42 (dk_at dksX3_fillPlan_0 16 rfl rfl)
theorem dX3_fillPlan_17 : decode cX3_fillPlan 17 = .ok (.getfield 312, 3) := dk_180 1 56 (dk_at dksX3_fillPlan_0 17 rfl rfl)
theorem dX3_fillPlan_20 : decode cX3_fillPlan 20 = .ok (.imul, 1) := dk_104 (dk_at dksX3_fillPlan_0 20 rfl rfl)
theorem dX3_fillPlan_21 : decode cX3_fillPlan 21 = .ok (.iload_n 1, 1) := dk_27 (dk_at dksX3_fillPlan_0 21 rfl rfl)
theorem dX3_fillPlan_22 : decode cX3_fillPlan 22 = .ok (.iadd, 1) := dk_96 (dk_at dksX3_fillPlan_0 22 rfl rfl)
theorem dX3_fillPlan_23 : decode cX3_fillPlan 23 = .ok (.iconst 0, 1) := dk_3 (dk_at dksX3_fillPlan_0 23 rfl rfl)
theorem dX3_fillPlan_24 : decode cX3_fillPlan 24 = .ok (.iastore, 1) := dk_79 (dk_at dksX3_fillPlan_1 0 rfl rfl)
theorem dX3_fillPlan_25 : decode cX3_fillPlan 25 = .ok (.iinc 1 1, 3) := dk_132 1 1 (dk_at dksX3_fillPlan_1 1 rfl rfl)
theorem dX3_fillPlan_28 : decode cX3_fillPlan 28 = .ok (.goto (-26), 3) := dk_167 255 230 (dk_at dksX3_fillPlan_1 4 rfl rfl)
theorem dX3_fillPlan_31 : decode cX3_fillPlan 31 = .ok (.aload_n 0, 1) := dk_42 (dk_at dksX3_fillPlan_1 7 rfl rfl)
theorem dX3_fillPlan_32 : decode cX3_fillPlan 32 = .ok (.getfield 312, 3) := dk_180 1 56 (dk_at dksX3_fillPlan_1 8 rfl rfl)
theorem dX3_fillPlan_35 : decode cX3_fillPlan 35 = .ok (.iconst 1, 1) := dk_4 (dk_at dksX3_fillPlan_1 11 rfl rfl)
theorem dX3_fillPlan_36 : decode cX3_fillPlan 36 = .ok (.isub, 1) := dk_100 (dk_at dksX3_fillPlan_1 12 rfl rfl)
theorem dX3_fillPlan_37 : decode cX3_fillPlan 37 = .ok (.istore_n 1, 1) := dk_60 (dk_at dksX3_fillPlan_1 13 rfl rfl)
theorem dX3_fillPlan_38 : decode cX3_fillPlan 38 = .ok (.iload_n 1, 1) := dk_27 (dk_at dksX3_fillPlan_1 14 rfl rfl)
theorem dX3_fillPlan_39 : decode cX3_fillPlan 39 = .ok (.ifCond .lt 130, 3) := dk_155 0 130 (dk_at dksX3_fillPlan_1 15 rfl rfl)
theorem dX3_fillPlan_42 : decode cX3_fillPlan 42 = .ok (.iconst 0, 1) := dk_3 (dk_at dksX3_fillPlan_1 18 rfl rfl)
theorem dX3_fillPlan_43 : decode cX3_fillPlan 43 = .ok (.istore_n 2, 1) := dk_61 (dk_at dksX3_fillPlan_1 19 rfl rfl)
theorem dX3_fillPlan_44 : decode cX3_fillPlan 44 = .ok (.iload_n 2, 1) := dk_28 (dk_at dksX3_fillPlan_1 20 rfl rfl)
theorem dX3_fillPlan_45 : decode cX3_fillPlan 45 = .ok (.sipush 4096, 3) := dk_17 16 0 (dk_at dksX3_fillPlan_1 21 rfl rfl)
theorem dX3_fillPlan_48 : decode cX3_fillPlan 48 = .ok (.if_icmp .ge 115, 3) := dk_162 0 115 (dk_at dksX3_fillPlan_2 0 rfl rfl)
theorem dX3_fillPlan_51 : decode cX3_fillPlan 51 = .ok (.aload_n 0, 1) := dk_42 (dk_at dksX3_fillPlan_2 3 rfl rfl)
theorem dX3_fillPlan_52 : decode cX3_fillPlan 52 = .ok (.iload_n 2, 1) := dk_28 (dk_at dksX3_fillPlan_2 4 rfl rfl)
theorem dX3_fillPlan_53 : decode cX3_fillPlan 53 = .ok (.invokevirtual 517, 3) := dk_182 2 5 (dk_at dksX3_fillPlan_2 5 rfl rfl)
theorem dX3_fillPlan_56 : decode cX3_fillPlan 56 = .ok (.iconst 1, 1) := dk_4 (dk_at dksX3_fillPlan_2 8 rfl rfl)
theorem dX3_fillPlan_57 : decode cX3_fillPlan 57 = .ok (.istore_n 3, 1) := dk_62 (dk_at dksX3_fillPlan_2 9 rfl rfl)
theorem dX3_fillPlan_58 : decode cX3_fillPlan 58 = .ok (.iconst 0, 1) := dk_3 (dk_at dksX3_fillPlan_2 10 rfl rfl)
theorem dX3_fillPlan_59 : decode cX3_fillPlan 59 = .ok (.istore 4, 2) := dk_54 4 (dk_at dksX3_fillPlan_2 11 rfl rfl)
theorem dX3_fillPlan_61 : decode cX3_fillPlan 61 = .ok (.iload 4, 2) := dk_21 4 (dk_at dksX3_fillPlan_2 13 rfl rfl)
theorem dX3_fillPlan_63 : decode cX3_fillPlan 63 = .ok (.iconst 3, 1) := dk_6 (dk_at dksX3_fillPlan_2 15 rfl rfl)
theorem dX3_fillPlan_64 : decode cX3_fillPlan 64 = .ok (.if_icmp .ge 65, 3) := dk_162 0 65 (dk_at dksX3_fillPlan_2 16 rfl rfl)
theorem dX3_fillPlan_67 : decode cX3_fillPlan 67 = .ok (.iload_n 3, 1) := dk_29 (dk_at dksX3_fillPlan_2 19 rfl rfl)
theorem dX3_fillPlan_68 : decode cX3_fillPlan 68 = .ok (.ifCond .eq 53, 3) := dk_153 0 53 (dk_at dksX3_fillPlan_2 20 rfl rfl)
theorem dX3_fillPlan_71 : decode cX3_fillPlan 71 = .ok (.iload 4, 2) := dk_21 4 (dk_at dksX3_fillPlan_3 0 rfl rfl)
theorem dX3_fillPlan_73 : decode cX3_fillPlan 73 = .ok (.aload_n 0, 1) := dk_42 (dk_at dksX3_fillPlan_3 2 rfl rfl)
theorem dX3_fillPlan_74 : decode cX3_fillPlan 74 = .ok (.invokevirtual 520, 3) := dk_182 2 8 (dk_at dksX3_fillPlan_3 3 rfl rfl)
theorem dX3_fillPlan_77 : decode cX3_fillPlan 77 = .ok (.if_icmp .ge 30, 3) := dk_162 0 30 (dk_at dksX3_fillPlan_3 6 rfl rfl)
theorem dX3_fillPlan_80 : decode cX3_fillPlan 80 = .ok (.aload_n 0, 1) := dk_42 (dk_at dksX3_fillPlan_3 9 rfl rfl)
theorem dX3_fillPlan_81 : decode cX3_fillPlan 81 = .ok (.getfield 138, 3) := dk_180 0 138 (dk_at dksX3_fillPlan_3 10 rfl rfl)
theorem dX3_fillPlan_84 : decode cX3_fillPlan 84 = .ok (.iload 4, 2) := dk_21 4 (dk_at dksX3_fillPlan_3 13 rfl rfl)
theorem dX3_fillPlan_86 : decode cX3_fillPlan 86 = .ok (.iaload, 1) := dk_46 (dk_at dksX3_fillPlan_3 15 rfl rfl)
theorem dX3_fillPlan_87 : decode cX3_fillPlan 87 = .ok (.aload_n 0, 1) := dk_42 (dk_at dksX3_fillPlan_3 16 rfl rfl)
theorem dX3_fillPlan_88 : decode cX3_fillPlan 88 = .ok (.getfield 69, 3) := dk_180 0 69 (dk_at dksX3_fillPlan_3 17 rfl rfl)
theorem dX3_fillPlan_91 : decode cX3_fillPlan 91 = .ok (.iconst 3, 1) := dk_6 (dk_at dksX3_fillPlan_3 20 rfl rfl)
theorem dX3_fillPlan_92 : decode cX3_fillPlan 92 = .ok (.aload_n 0, 1) := dk_42 (dk_at dksX3_fillPlan_3 21 rfl rfl)
theorem dX3_fillPlan_93 : decode cX3_fillPlan 93 = .ok (.getfield 300, 3) := dk_180 1 44 (dk_at dksX3_fillPlan_4 0 rfl rfl)
theorem dX3_fillPlan_96 : decode cX3_fillPlan 96 = .ok (.imul, 1) := dk_104 (dk_at dksX3_fillPlan_4 3 rfl rfl)
theorem dX3_fillPlan_97 : decode cX3_fillPlan 97 = .ok (.iload 4, 2) := dk_21 4 (dk_at dksX3_fillPlan_4 4 rfl rfl)
theorem dX3_fillPlan_99 : decode cX3_fillPlan 99 = .ok (.iadd, 1) := dk_96 (dk_at dksX3_fillPlan_4 6 rfl rfl)
theorem dX3_fillPlan_100 : decode cX3_fillPlan 100 = .ok (.iaload, 1) := dk_46 (dk_at dksX3_fillPlan_4 7 rfl rfl)
theorem dX3_fillPlan_101 : decode cX3_fillPlan 101 = .ok (.if_icmp .gt 20, 3) := dk_163 0 20 (dk_at dksX3_fillPlan_4 8 rfl rfl)
theorem dX3_fillPlan_104 : decode cX3_fillPlan 104 = .ok (.goto 13, 3) := dk_167 0 13 (dk_at dksX3_fillPlan_4 11 rfl rfl)
theorem dX3_fillPlan_107 : decode cX3_fillPlan 107 = .ok (.aload_n 0, 1) := dk_42 (dk_at dksX3_fillPlan_4 14 rfl rfl)
theorem dX3_fillPlan_108 : decode cX3_fillPlan 108 = .ok (.getfield 138, 3) := dk_180 0 138 (dk_at dksX3_fillPlan_4 15 rfl rfl)
theorem dX3_fillPlan_111 : decode cX3_fillPlan 111 = .ok (.iload 4, 2) := dk_21 4 (dk_at dksX3_fillPlan_4 18 rfl rfl)
theorem dX3_fillPlan_113 : decode cX3_fillPlan 113 = .ok (.iaload, 1) := dk_46 (dk_at dksX3_fillPlan_4 20 rfl rfl)
theorem dX3_fillPlan_114 : decode cX3_fillPlan 114 = .ok (.ifCond .ne 7, 3) := dk_154 0 7 (dk_at dksX3_fillPlan_4 21 rfl rfl)
theorem dX3_fillPlan_117 : decode cX3_fillPlan 117 = .ok (.iconst 1, 1) := dk_4 (dk_at dksX3_fillPlan_5 0 rfl rfl)
theorem dX3_fillPlan_118 : decode cX3_fillPlan 118 = .ok (.goto 4, 3) := dk_167 0 4 (dk_at dksX3_fillPlan_5 1 rfl rfl)
theorem dX3_fillPlan_121 : decode cX3_fillPlan 121 = .ok (.iconst 0, 1) := dk_3 (dk_at dksX3_fillPlan_5 4 rfl rfl)
theorem dX3_fillPlan_122 : decode cX3_fillPlan 122 = .ok (.istore_n 3, 1) := dk_62 (dk_at dksX3_fillPlan_5 5 rfl rfl)
theorem dX3_fillPlan_123 : decode cX3_fillPlan 123 = .ok (.iinc 4 1, 3) := dk_132 4 1 (dk_at dksX3_fillPlan_5 6 rfl rfl)
theorem dX3_fillPlan_126 : decode cX3_fillPlan 126 = .ok (.goto (-65), 3) := dk_167 255 191 (dk_at dksX3_fillPlan_5 9 rfl rfl)
theorem dX3_fillPlan_129 : decode cX3_fillPlan 129 = .ok (.aload_n 0, 1) := dk_42 (dk_at dksX3_fillPlan_5 12 rfl rfl)
theorem dX3_fillPlan_130 : decode cX3_fillPlan 130 = .ok (.getfield 135, 3) := dk_180 0 135 (dk_at dksX3_fillPlan_5 13 rfl rfl)
theorem dX3_fillPlan_133 : decode cX3_fillPlan 133 = .ok (.sipush 4096, 3) := dk_17 16 0 (dk_at dksX3_fillPlan_5 16 rfl rfl)
theorem dX3_fillPlan_136 : decode cX3_fillPlan 136 = .ok (.iload_n 1, 1) := dk_27 (dk_at dksX3_fillPlan_5 19 rfl rfl)
theorem dX3_fillPlan_137 : decode cX3_fillPlan 137 = .ok (.imul, 1) := dk_104 (dk_at dksX3_fillPlan_5 20 rfl rfl)
theorem dX3_fillPlan_138 : decode cX3_fillPlan 138 = .ok (.iload_n 2, 1) := dk_28 (dk_at dksX3_fillPlan_5 21 rfl rfl)
theorem dX3_fillPlan_139 : decode cX3_fillPlan 139 = .ok (.iadd, 1) := dk_96 (dk_at dksX3_fillPlan_5 22 rfl rfl)
theorem dX3_fillPlan_140 : decode cX3_fillPlan 140 = .ok (.iload_n 3, 1) := dk_29 (dk_at dksX3_fillPlan_5 23 rfl rfl)
theorem dX3_fillPlan_141 : decode cX3_fillPlan 141 = .ok (.ifCond .eq 12, 3) := dk_153 0 12 (dk_at dksX3_fillPlan_6 0 rfl rfl)
theorem dX3_fillPlan_144 : decode cX3_fillPlan 144 = .ok (.aload_n 0, 1) := dk_42 (dk_at dksX3_fillPlan_6 3 rfl rfl)
theorem dX3_fillPlan_145 : decode cX3_fillPlan 145 = .ok (.iload_n 1, 1) := dk_27 (dk_at dksX3_fillPlan_6 4 rfl rfl)
theorem dX3_fillPlan_146 : decode cX3_fillPlan 146 = .ok (.iload_n 2, 1) := dk_28 (dk_at dksX3_fillPlan_6 5 rfl rfl)
theorem dX3_fillPlan_147 : decode cX3_fillPlan 147 = .ok (.invokevirtual 536, 3) := dk_182 2 24 (dk_at dksX3_fillPlan_6 6 rfl rfl)
theorem dX3_fillPlan_150 : decode cX3_fillPlan 150 = .ok (.goto 6, 3) := dk_167 0 6 (dk_at dksX3_fillPlan_6 9 rfl rfl)
theorem dX3_fillPlan_153 : decode cX3_fillPlan 153 = .ok (.ldc_w 503, 3) := dk_19 1 247 (dk_at dksX3_fillPlan_6 12 rfl rfl)
theorem dX3_fillPlan_156 : decode cX3_fillPlan 156 = .ok (.iastore, 1) := dk_79 (dk_at dksX3_fillPlan_6 15 rfl rfl)
theorem dX3_fillPlan_157 : decode cX3_fillPlan 157 = .ok (.iinc 2 1, 3) := dk_132 2 1 (dk_at dksX3_fillPlan_6 16 rfl rfl)
theorem dX3_fillPlan_160 : decode cX3_fillPlan 160 = .ok (.goto (-116), 3) := dk_167 255 140 (dk_at dksX3_fillPlan_6 19 rfl rfl)
theorem dX3_fillPlan_163 : decode cX3_fillPlan 163 = .ok (.iinc 1 (-1), 3) := dk_132 1 255 (dk_at dksX3_fillPlan_7 0 rfl rfl)
theorem dX3_fillPlan_166 : decode cX3_fillPlan 166 = .ok (.goto (-128), 3) := dk_167 255 128 (dk_at dksX3_fillPlan_7 3 rfl rfl)
theorem dX3_fillPlan_169 : decode cX3_fillPlan 169 = .ok (.return_, 1) := dk_177 (dk_at dksX3_fillPlan_7 6 rfl rfl)
abbrev cX3_fillUp : ByteArray := prog_24_method_78_code
def dkwX3_fillUp_1 : List UInt8 := [180, 0, 138, 5, 27, 16, 8, 122, 16, 15, 126, 79, 177]
abbrev dktX3_fillUp_1 : List UInt8 := dkwX3_fillUp_1 ++ []
def dkwX3_fillUp_0 : List UInt8 := [42, 180, 0, 138, 3, 27, 16, 15, 126, 79, 42, 180, 0, 138, 4, 27, 7, 122, 16, 15, 126, 79, 42]
abbrev dktX3_fillUp_0 : List UInt8 := dkwX3_fillUp_0 ++ dktX3_fillUp_1
theorem dksX3_fillUp_0 : cX3_fillUp.data.toList.drop 0 = dktX3_fillUp_0 := by decide +kernel
theorem dksX3_fillUp_1 : cX3_fillUp.data.toList.drop 23 = dktX3_fillUp_1 := dk_seg dksX3_fillUp_0 23 rfl rfl
theorem dX3_fillUp_0 : decode cX3_fillUp 0 = .ok (.aload_n 0, 1) := dk_42 (dk_at dksX3_fillUp_0 0 rfl rfl)
theorem dX3_fillUp_1 : decode cX3_fillUp 1 = .ok (.getfield 138, 3) := dk_180 0 138 (dk_at dksX3_fillUp_0 1 rfl rfl)
theorem dX3_fillUp_4 : decode cX3_fillUp 4 = .ok (.iconst 0, 1) := dk_3 (dk_at dksX3_fillUp_0 4 rfl rfl)
theorem dX3_fillUp_5 : decode cX3_fillUp 5 = .ok (.iload_n 1, 1) := dk_27 (dk_at dksX3_fillUp_0 5 rfl rfl)
theorem dX3_fillUp_6 : decode cX3_fillUp 6 = .ok (.bipush 15, 2) := dk_16 15 (dk_at dksX3_fillUp_0 6 rfl rfl)
theorem dX3_fillUp_8 : decode cX3_fillUp 8 = .ok (.iand, 1) := dk_126 (dk_at dksX3_fillUp_0 8 rfl rfl)
theorem dX3_fillUp_9 : decode cX3_fillUp 9 = .ok (.iastore, 1) := dk_79 (dk_at dksX3_fillUp_0 9 rfl rfl)
theorem dX3_fillUp_10 : decode cX3_fillUp 10 = .ok (.aload_n 0, 1) := dk_42 (dk_at dksX3_fillUp_0 10 rfl rfl)
theorem dX3_fillUp_11 : decode cX3_fillUp 11 = .ok (.getfield 138, 3) := dk_180 0 138 (dk_at dksX3_fillUp_0 11 rfl rfl)
theorem dX3_fillUp_14 : decode cX3_fillUp 14 = .ok (.iconst 1, 1) := dk_4 (dk_at dksX3_fillUp_0 14 rfl rfl)
theorem dX3_fillUp_15 : decode cX3_fillUp 15 = .ok (.iload_n 1, 1) := dk_27 (dk_at dksX3_fillUp_0 15 rfl rfl)
theorem dX3_fillUp_16 : decode cX3_fillUp 16 = .ok (.iconst 4, 1) := dk_7 (dk_at dksX3_fillUp_0 16 rfl rfl)
theorem dX3_fillUp_17 : decode cX3_fillUp 17 = .ok (.ishr, 1) := dk_122 (dk_at dksX3_fillUp_0 17 rfl rfl)
theorem dX3_fillUp_18 : decode cX3_fillUp 18 = .ok (.bipush 15, 2) := dk_16 15 (dk_at dksX3_fillUp_0 18 rfl rfl)
theorem dX3_fillUp_20 : decode cX3_fillUp 20 = .ok (.iand, 1) := dk_126 (dk_at dksX3_fillUp_0 20 rfl rfl)
theorem dX3_fillUp_21 : decode cX3_fillUp 21 = .ok (.iastore, 1) := dk_79 (dk_at dksX3_fillUp_0 21 rfl rfl)
theorem dX3_fillUp_22 : decode cX3_fillUp 22 = .ok (.aload_n 0, 1) := dk_42 (dk_at dksX3_fillUp_0 22 rfl rfl)
theorem dX3_fillUp_23 : decode cX3_fillUp 23 = .ok (.getfield 138, 3) := dk_180 0 138 (dk_at dksX3_fillUp_1 0 rfl rfl)
theorem dX3_fillUp_26 : decode cX3_fillUp 26 = .ok (.iconst 2, 1) := dk_5 (dk_at dksX3_fillUp_1 3 rfl rfl)
theorem dX3_fillUp_27 : decode cX3_fillUp 27 = .ok (.iload_n 1, 1) := dk_27 (dk_at dksX3_fillUp_1 4 rfl rfl)
theorem dX3_fillUp_28 : decode cX3_fillUp 28 = .ok (.bipush 8, 2) := dk_16 8 (dk_at dksX3_fillUp_1 5 rfl rfl)
theorem dX3_fillUp_30 : decode cX3_fillUp 30 = .ok (.ishr, 1) := dk_122 (dk_at dksX3_fillUp_1 7 rfl rfl)
theorem dX3_fillUp_31 : decode cX3_fillUp 31 = .ok (.bipush 15, 2) := dk_16 15 (dk_at dksX3_fillUp_1 8 rfl rfl)
theorem dX3_fillUp_33 : decode cX3_fillUp 33 = .ok (.iand, 1) := dk_126 (dk_at dksX3_fillUp_1 10 rfl rfl)
theorem dX3_fillUp_34 : decode cX3_fillUp 34 = .ok (.iastore, 1) := dk_79 (dk_at dksX3_fillUp_1 11 rfl rfl)
theorem dX3_fillUp_35 : decode cX3_fillUp 35 = .ok (.return_, 1) := dk_177 (dk_at dksX3_fillUp_1 12 rfl rfl)
abbrev cX3_findMoves : ByteArray := prog_24_method_66_code
def dkwX3_findMoves_9 : List UInt8 := [167, 255, 129, 177]
abbrev dktX3_findMoves_9 : List UInt8 := dkwX3_findMoves_9 ++ []
def dkwX3_findMoves_8 : List UInt8 := [167, 0, 14, 42, 180, 0, 125, 42, 180, 0, 60, 29, 46, 46, 79, 132, 3, 1, 167, 255, 149, 132, 2, 1]
abbrev dktX3_findMoves_8 : List UInt8 := dkwX3_findMoves_8 ++ dktX3_findMoves_9
def dkwX3_findMoves_7 : List UInt8 := [180, 0, 60, 29, 46, 21, 4, 42, 180, 0, 125, 42, 180, 0, 60, 29, 46, 46, 162, 0, 8, 21, 4]
abbrev dktX3_findMoves_7 : List UInt8 := dkwX3_findMoves_7 ++ dktX3_findMoves_8
def dkwX3_findMoves_6 : List UInt8 := [180, 0, 125, 42, 180, 0, 57, 29, 46, 46, 42, 180, 0, 63, 29, 46, 96, 54, 4, 42, 180, 0, 125, 42]
abbrev dktX3_findMoves_6 : List UInt8 := dkwX3_findMoves_6 ++ dktX3_findMoves_7
def dkwX3_findMoves_5 : List UInt8 := [162, 0, 92, 42, 180, 0, 125, 42, 180, 0, 57, 29, 46, 46, 19, 1, 247, 161, 0, 6, 167, 0, 66, 42]
abbrev dktX3_findMoves_5 : List UInt8 := dkwX3_findMoves_5 ++ dktX3_findMoves_6
def dkwX3_findMoves_4 : List UInt8 := [42, 180, 1, 44, 104, 62, 29, 16, 16, 42, 180, 1, 44, 104, 42, 180, 0, 30, 42, 180, 1, 44, 46, 96]
abbrev dktX3_findMoves_4 : List UInt8 := dkwX3_findMoves_4 ++ dktX3_findMoves_5
def dkwX3_findMoves_3 : List UInt8 := [46, 42, 180, 0, 116, 28, 46, 79, 132, 2, 1, 167, 255, 198, 3, 61, 28, 16, 12, 162, 0, 127, 16, 16]
abbrev dktX3_findMoves_3 : List UInt8 := dkwX3_findMoves_3 ++ dktX3_findMoves_4
def dkwX3_findMoves_2 : List UInt8 := [46, 42, 180, 0, 125, 42, 180, 0, 113, 28, 46, 46, 162, 0, 20, 42, 180, 0, 125, 42, 180, 0, 113, 28]
abbrev dktX3_findMoves_2 : List UInt8 := dkwX3_findMoves_2 ++ dktX3_findMoves_3
def dkwX3_findMoves_1 : List UInt8 := [61, 28, 42, 180, 1, 53, 162, 0, 56, 42, 28, 3, 27, 182, 1, 248, 153, 0, 40, 42, 180, 0, 116, 28]
abbrev dktX3_findMoves_1 : List UInt8 := dkwX3_findMoves_1 ++ dktX3_findMoves_2
def dkwX3_findMoves_0 : List UInt8 := [3, 61, 28, 16, 12, 162, 0, 18, 42, 180, 0, 125, 28, 19, 1, 247, 79, 132, 2, 1, 167, 255, 238, 3]
abbrev dktX3_findMoves_0 : List UInt8 := dkwX3_findMoves_0 ++ dktX3_findMoves_1
theorem dksX3_findMoves_0 : cX3_findMoves.data.toList.drop 0 = dktX3_findMoves_0 := by decide +kernel
theorem dksX3_findMoves_1 : cX3_findMoves.data.toList.drop 24 = dktX3_findMoves_1 := dk_seg dksX3_findMoves_0 24 rfl rfl
theorem dksX3_findMoves_2 : cX3_findMoves.data.toList.drop 48 = dktX3_findMoves_2 := dk_seg dksX3_findMoves_1 24 rfl rfl
theorem dksX3_findMoves_3 : cX3_findMoves.data.toList.drop 72 = dktX3_findMoves_3 := dk_seg dksX3_findMoves_2 24 rfl rfl
theorem dksX3_findMoves_4 : cX3_findMoves.data.toList.drop 96 = dktX3_findMoves_4 := dk_seg dksX3_findMoves_3 24 rfl rfl
theorem dksX3_findMoves_5 : cX3_findMoves.data.toList.drop 120 = dktX3_findMoves_5 := dk_seg dksX3_findMoves_4 24 rfl rfl
theorem dksX3_findMoves_6 : cX3_findMoves.data.toList.drop 144 = dktX3_findMoves_6 := dk_seg dksX3_findMoves_5 24 rfl rfl
theorem dksX3_findMoves_7 : cX3_findMoves.data.toList.drop 168 = dktX3_findMoves_7 := dk_seg dksX3_findMoves_6 24 rfl rfl
theorem dksX3_findMoves_8 : cX3_findMoves.data.toList.drop 191 = dktX3_findMoves_8 := dk_seg dksX3_findMoves_7 23 rfl rfl
theorem dksX3_findMoves_9 : cX3_findMoves.data.toList.drop 215 = dktX3_findMoves_9 := dk_seg dksX3_findMoves_8 24 rfl rfl
theorem dX3_findMoves_0 : decode cX3_findMoves 0 = .ok (.iconst 0, 1) := dk_3 (dk_at dksX3_findMoves_0 0 rfl rfl)
theorem dX3_findMoves_1 : decode cX3_findMoves 1 = .ok (.istore_n 2, 1) := dk_61 (dk_at dksX3_findMoves_0 1 rfl rfl)
theorem dX3_findMoves_2 : decode cX3_findMoves 2 = .ok (.iload_n 2, 1) := dk_28 (dk_at dksX3_findMoves_0 2 rfl rfl)
theorem dX3_findMoves_3 : decode cX3_findMoves 3 = .ok (.bipush 12, 2) := dk_16 12 (dk_at dksX3_findMoves_0 3 rfl rfl)
theorem dX3_findMoves_5 : decode cX3_findMoves 5 = .ok (.if_icmp .ge 18, 3) := dk_162 0 18 (dk_at dksX3_findMoves_0 5 rfl rfl)
theorem dX3_findMoves_8 : decode cX3_findMoves 8 = .ok (.aload_n 0, 1) := dk_42 (dk_at dksX3_findMoves_0 8 rfl rfl)
theorem dX3_findMoves_9 : decode cX3_findMoves 9 = .ok (.getfield 125, 3) := dk_180 0 125 (dk_at dksX3_findMoves_0 9 rfl rfl)
theorem dX3_findMoves_12 : decode cX3_findMoves 12 = .ok (.iload_n 2, 1) := dk_28 (dk_at dksX3_findMoves_0 12 rfl rfl)
theorem dX3_findMoves_13 : decode cX3_findMoves 13 = .ok (.ldc_w 503, 3) := dk_19 1 247 (dk_at dksX3_findMoves_0 13 rfl rfl)
theorem dX3_findMoves_16 : decode cX3_findMoves 16 = .ok (.iastore, 1) := dk_79 (dk_at dksX3_findMoves_0 16 rfl rfl)
theorem dX3_findMoves_17 : decode cX3_findMoves 17 = .ok (.iinc 2 1, 3) := dk_132 2 1 (dk_at dksX3_findMoves_0 17 rfl rfl)
theorem dX3_findMoves_20 : decode cX3_findMoves 20 = .ok (.goto (-18), 3) := dk_167 255 238 (dk_at dksX3_findMoves_0 20 rfl rfl)
theorem dX3_findMoves_23 : decode cX3_findMoves 23 = .ok (.iconst 0, 1) := dk_3 (dk_at dksX3_findMoves_0 23 rfl rfl)
theorem dX3_findMoves_24 : decode cX3_findMoves 24 = .ok (.istore_n 2, 1) := dk_61 (dk_at dksX3_findMoves_1 0 rfl rfl)
theorem dX3_findMoves_25 : decode cX3_findMoves 25 = .ok (.iload_n 2, 1) := dk_28 (dk_at dksX3_findMoves_1 1 rfl rfl)
theorem dX3_findMoves_26 : decode cX3_findMoves 26 = .ok (.aload_n 0, 1) := dk_42 (dk_at dksX3_findMoves_1 2 rfl rfl)
theorem dX3_findMoves_27 : decode cX3_findMoves 27 = .ok (.getfield 309, 3) := dk_180 1 53 (dk_at dksX3_findMoves_1 3 rfl rfl)
theorem dX3_findMoves_30 : decode cX3_findMoves 30 = .ok (.if_icmp .ge 56, 3) := dk_162 0 56 (dk_at dksX3_findMoves_1 6 rfl rfl)
theorem dX3_findMoves_33 : decode cX3_findMoves 33 = .ok (.aload_n 0, 1) := dk_42 (dk_at dksX3_findMoves_1 9 rfl rfl)
theorem dX3_findMoves_34 : decode cX3_findMoves 34 = .ok (.iload_n 2, 1) := dk_28 (dk_at dksX3_findMoves_1 10 rfl rfl)
theorem dX3_findMoves_35 : decode cX3_findMoves 35 = .ok (.iconst 0, 1) := dk_3 (dk_at dksX3_findMoves_1 11 rfl rfl)
theorem dX3_findMoves_36 : decode cX3_findMoves 36 = .ok (.iload_n 1, 1) := dk_27 (dk_at dksX3_findMoves_1 12 rfl rfl)
theorem dX3_findMoves_37 : decode cX3_findMoves 37 = .ok (.invokevirtual 504, 3) := dk_182 1 248 (dk_at dksX3_findMoves_1 13 rfl rfl)
theorem dX3_findMoves_40 : decode cX3_findMoves 40 = .ok (.ifCond .eq 40, 3) := dk_153 0 40 (dk_at dksX3_findMoves_1 16 rfl rfl)
theorem dX3_findMoves_43 : decode cX3_findMoves 43 = .ok (.aload_n 0, 1) := dk_42 (dk_at dksX3_findMoves_1 19 rfl rfl)
theorem dX3_findMoves_44 : decode cX3_findMoves 44 = .ok (.getfield 116, 3) := dk_180 0 116 (dk_at dksX3_findMoves_1 20 rfl rfl)
theorem dX3_findMoves_47 : decode cX3_findMoves 47 = .ok (.iload_n 2, 1) := dk_28 (dk_at dksX3_findMoves_1 23 rfl rfl)
theorem dX3_findMoves_48 : decode cX3_findMoves 48 = .ok (.iaload, 1) := dk_46 (dk_at dksX3_findMoves_2 0 rfl rfl)
theorem dX3_findMoves_49 : decode cX3_findMoves 49 = .ok (.aload_n 0, 1) := dk_42 (dk_at dksX3_findMoves_2 1 rfl rfl)
theorem dX3_findMoves_50 : decode cX3_findMoves 50 = .ok (.getfield 125, 3) := dk_180 0 125 (dk_at dksX3_findMoves_2 2 rfl rfl)
theorem dX3_findMoves_53 : decode cX3_findMoves 53 = .ok (.aload_n 0, 1) := dk_42 (dk_at dksX3_findMoves_2 5 rfl rfl)
theorem dX3_findMoves_54 : decode cX3_findMoves 54 = .ok (.getfield 113, 3) := dk_180 0 113 (dk_at dksX3_findMoves_2 6 rfl rfl)
theorem dX3_findMoves_57 : decode cX3_findMoves 57 = .ok (.iload_n 2, 1) := dk_28 (dk_at dksX3_findMoves_2 9 rfl rfl)
theorem dX3_findMoves_58 : decode cX3_findMoves 58 = .ok (.iaload, 1) := dk_46 (dk_at dksX3_findMoves_2 10 rfl rfl)
theorem dX3_findMoves_59 : decode cX3_findMoves 59 = .ok (.iaload, 1) := dk_46 (dk_at dksX3_findMoves_2 11 rfl rfl)
theorem dX3_findMoves_60 : decode cX3_findMoves 60 = .ok (.if_icmp .ge 20, 3) := dk_162 0 20 (dk_at dksX3_findMoves_2 12 rfl rfl)
theorem dX3_findMoves_63 : decode cX3_findMoves 63 = .ok (.aload_n 0, 1) := dk_42 (dk_at dksX3_findMoves_2 15 rfl rfl)
theorem dX3_findMoves_64 : decode cX3_findMoves 64 = .ok (.getfield 125, 3) := dk_180 0 125 (dk_at dksX3_findMoves_2 16 rfl rfl)
theorem dX3_findMoves_67 : decode cX3_findMoves 67 = .ok (.aload_n 0, 1) := dk_42 (dk_at dksX3_findMoves_2 19 rfl rfl)
theorem dX3_findMoves_68 : decode cX3_findMoves 68 = .ok (.getfield 113, 3) := dk_180 0 113 (dk_at dksX3_findMoves_2 20 rfl rfl)
theorem dX3_findMoves_71 : decode cX3_findMoves 71 = .ok (.iload_n 2, 1) := dk_28 (dk_at dksX3_findMoves_2 23 rfl rfl)
theorem dX3_findMoves_72 : decode cX3_findMoves 72 = .ok (.iaload, 1) := dk_46 (dk_at dksX3_findMoves_3 0 rfl rfl)
theorem dX3_findMoves_73 : decode cX3_findMoves 73 = .ok (.aload_n 0, 1) := dk_42 (dk_at dksX3_findMoves_3 1 rfl rfl)
theorem dX3_findMoves_74 : decode cX3_findMoves 74 = .ok (.getfield 116, 3) := dk_180 0 116 (dk_at dksX3_findMoves_3 2 rfl rfl)
theorem dX3_findMoves_77 : decode cX3_findMoves 77 = .ok (.iload_n 2, 1) := dk_28 (dk_at dksX3_findMoves_3 5 rfl rfl)
theorem dX3_findMoves_78 : decode cX3_findMoves 78 = .ok (.iaload, 1) := dk_46 (dk_at dksX3_findMoves_3 6 rfl rfl)
theorem dX3_findMoves_79 : decode cX3_findMoves 79 = .ok (.iastore, 1) := dk_79 (dk_at dksX3_findMoves_3 7 rfl rfl)
theorem dX3_findMoves_80 : decode cX3_findMoves 80 = .ok (.iinc 2 1, 3) := dk_132 2 1 (dk_at dksX3_findMoves_3 8 rfl rfl)
theorem dX3_findMoves_83 : decode cX3_findMoves 83 = .ok (.goto (-58), 3) := dk_167 255 198 (dk_at dksX3_findMoves_3 11 rfl rfl)
theorem dX3_findMoves_86 : decode cX3_findMoves 86 = .ok (.iconst 0, 1) := dk_3 (dk_at dksX3_findMoves_3 14 rfl rfl)
theorem dX3_findMoves_87 : decode cX3_findMoves 87 = .ok (.istore_n 2, 1) := dk_61 (dk_at dksX3_findMoves_3 15 rfl rfl)
theorem dX3_findMoves_88 : decode cX3_findMoves 88 = .ok (.iload_n 2, 1) := dk_28 (dk_at dksX3_findMoves_3 16 rfl rfl)
theorem dX3_findMoves_89 : decode cX3_findMoves 89 = .ok (.bipush 12, 2) := dk_16 12 (dk_at dksX3_findMoves_3 17 rfl rfl)
theorem dX3_findMoves_91 : decode cX3_findMoves 91 = .ok (.if_icmp .ge 127, 3) := dk_162 0 127 (dk_at dksX3_findMoves_3 19 rfl rfl)
theorem dX3_findMoves_94 : decode cX3_findMoves 94 = .ok (.bipush 16, 2) := dk_16 16 (dk_at dksX3_findMoves_3 22 rfl rfl)
theorem dX3_findMoves_96 : decode cX3_findMoves 96 = .ok (.aload_n 0, 1) := dk_42 (dk_at dksX3_findMoves_4 0 rfl rfl)
theorem dX3_findMoves_97 : decode cX3_findMoves 97 = .ok (.getfield 300, 3) := dk_180 1 44 (dk_at dksX3_findMoves_4 1 rfl rfl)
theorem dX3_findMoves_100 : decode cX3_findMoves 100 = .ok (.imul, 1) := dk_104 (dk_at dksX3_findMoves_4 4 rfl rfl)
theorem dX3_findMoves_101 : decode cX3_findMoves 101 = .ok (.istore_n 3, 1) := dk_62 (dk_at dksX3_findMoves_4 5 rfl rfl)
theorem dX3_findMoves_102 : decode cX3_findMoves 102 = .ok (.iload_n 3, 1) := dk_29 (dk_at dksX3_findMoves_4 6 rfl rfl)
theorem dX3_findMoves_103 : decode cX3_findMoves 103 = .ok (.bipush 16, 2) := dk_16 16 (dk_at dksX3_findMoves_4 7 rfl rfl)
theorem dX3_findMoves_105 : decode cX3_findMoves 105 = .ok (.aload_n 0, 1) := dk_42 (dk_at dksX3_findMoves_4 9 rfl rfl)
theorem dX3_findMoves_106 : decode cX3_findMoves 106 = .ok (.getfield 300, 3) := dk_180 1 44 (dk_at dksX3_findMoves_4 10 rfl rfl)
theorem dX3_findMoves_109 : decode cX3_findMoves 109 = .ok (.imul, 1) := dk_104 (dk_at dksX3_findMoves_4 13 rfl rfl)
theorem dX3_findMoves_110 : decode cX3_findMoves 110 = .ok (.aload_n 0, 1) := dk_42 (dk_at dksX3_findMoves_4 14 rfl rfl)
theorem dX3_findMoves_111 : decode cX3_findMoves 111 = .ok (.getfield 30, 3) := dk_180 0 30 (dk_at dksX3_findMoves_4 15 rfl rfl)
theorem dX3_findMoves_114 : decode cX3_findMoves 114 = .ok (.aload_n 0, 1) := dk_42 (dk_at dksX3_findMoves_4 18 rfl rfl)
theorem dX3_findMoves_115 : decode cX3_findMoves 115 = .ok (.getfield 300, 3) := dk_180 1 44 (dk_at dksX3_findMoves_4 19 rfl rfl)
theorem dX3_findMoves_118 : decode cX3_findMoves 118 = .ok (.iaload, 1) := dk_46 (dk_at dksX3_findMoves_4 22 rfl rfl)
theorem dX3_findMoves_119 : decode cX3_findMoves 119 = .ok (.iadd, 1) := dk_96 (dk_at dksX3_findMoves_4 23 rfl rfl)
theorem dX3_findMoves_120 : decode cX3_findMoves 120 = .ok (.if_icmp .ge 92, 3) := dk_162 0 92 (dk_at dksX3_findMoves_5 0 rfl rfl)
theorem dX3_findMoves_123 : decode cX3_findMoves 123 = .ok (.aload_n 0, 1) := dk_42 (dk_at dksX3_findMoves_5 3 rfl rfl)
theorem dX3_findMoves_124 : decode cX3_findMoves 124 = .ok (.getfield 125, 3) := dk_180 0 125 (dk_at dksX3_findMoves_5 4 rfl rfl)
theorem dX3_findMoves_127 : decode cX3_findMoves 127 = .ok (.aload_n 0, 1) := dk_42 (dk_at dksX3_findMoves_5 7 rfl rfl)
theorem dX3_findMoves_128 : decode cX3_findMoves 128 = .ok (.getfield 57, 3) := dk_180 0 57 (dk_at dksX3_findMoves_5 8 rfl rfl)
theorem dX3_findMoves_131 : decode cX3_findMoves 131 = .ok (.iload_n 3, 1) := dk_29 (dk_at dksX3_findMoves_5 11 rfl rfl)
theorem dX3_findMoves_132 : decode cX3_findMoves 132 = .ok (.iaload, 1) := dk_46 (dk_at dksX3_findMoves_5 12 rfl rfl)
theorem dX3_findMoves_133 : decode cX3_findMoves 133 = .ok (.iaload, 1) := dk_46 (dk_at dksX3_findMoves_5 13 rfl rfl)
theorem dX3_findMoves_134 : decode cX3_findMoves 134 = .ok (.ldc_w 503, 3) := dk_19 1 247 (dk_at dksX3_findMoves_5 14 rfl rfl)
theorem dX3_findMoves_137 : decode cX3_findMoves 137 = .ok (.if_icmp .lt 6, 3) := dk_161 0 6 (dk_at dksX3_findMoves_5 17 rfl rfl)
theorem dX3_findMoves_140 : decode cX3_findMoves 140 = .ok (.goto 66, 3) := dk_167 0 66 (dk_at dksX3_findMoves_5 20 rfl rfl)
theorem dX3_findMoves_143 : decode cX3_findMoves 143 = .ok (.aload_n 0, 1) := dk_42 (dk_at dksX3_findMoves_5 23 rfl rfl)
theorem dX3_findMoves_144 : decode cX3_findMoves 144 = .ok (.getfield 125, 3) := dk_180 0 125 (dk_at dksX3_findMoves_6 0 rfl rfl)
theorem dX3_findMoves_147 : decode cX3_findMoves 147 = .ok (.aload_n 0, 1) := dk_42 (dk_at dksX3_findMoves_6 3 rfl rfl)
theorem dX3_findMoves_148 : decode cX3_findMoves 148 = .ok (.getfield 57, 3) := dk_180 0 57 (dk_at dksX3_findMoves_6 4 rfl rfl)
theorem dX3_findMoves_151 : decode cX3_findMoves 151 = .ok (.iload_n 3, 1) := dk_29 (dk_at dksX3_findMoves_6 7 rfl rfl)
theorem dX3_findMoves_152 : decode cX3_findMoves 152 = .ok (.iaload, 1) := dk_46 (dk_at dksX3_findMoves_6 8 rfl rfl)
theorem dX3_findMoves_153 : decode cX3_findMoves 153 = .ok (.iaload, 1) := dk_46 (dk_at dksX3_findMoves_6 9 rfl rfl)
theorem dX3_findMoves_154 : decode cX3_findMoves 154 = .ok (.aload_n 0, 1) := dk_42 (dk_at dksX3_findMoves_6 10 rfl rfl)
theorem dX3_findMoves_155 : decode cX3_findMoves 155 = .ok (.getfield 63, 3) := dk_180 0 63 (dk_at dksX3_findMoves_6 11 rfl rfl)
theorem dX3_findMoves_158 : decode cX3_findMoves 158 = .ok (.iload_n 3, 1) := dk_29 (dk_at dksX3_findMoves_6 14 rfl rfl)
theorem dX3_findMoves_159 : decode cX3_findMoves 159 = .ok (.iaload, 1) := dk_46 (dk_at dksX3_findMoves_6 15 rfl rfl)
theorem dX3_findMoves_160 : decode cX3_findMoves 160 = .ok (.iadd, 1) := dk_96 (dk_at dksX3_findMoves_6 16 rfl rfl)
theorem dX3_findMoves_161 : decode cX3_findMoves 161 = .ok (.istore 4, 2) := dk_54 4 (dk_at dksX3_findMoves_6 17 rfl rfl)
theorem dX3_findMoves_163 : decode cX3_findMoves 163 = .ok (.aload_n 0, 1) := dk_42 (dk_at dksX3_findMoves_6 19 rfl rfl)
theorem dX3_findMoves_164 : decode cX3_findMoves 164 = .ok (.getfield 125, 3) := dk_180 0 125 (dk_at dksX3_findMoves_6 20 rfl rfl)
theorem dX3_findMoves_167 : decode cX3_findMoves 167 = .ok (.aload_n 0, 1) := dk_42 (dk_at dksX3_findMoves_6 23 rfl rfl)
theorem dX3_findMoves_168 : decode cX3_findMoves 168 = .ok (.getfield 60, 3) := dk_180 0 60 (dk_at dksX3_findMoves_7 0 rfl rfl)
theorem dX3_findMoves_171 : decode cX3_findMoves 171 = .ok (.iload_n 3, 1) := dk_29 (dk_at dksX3_findMoves_7 3 rfl rfl)
theorem dX3_findMoves_172 : decode cX3_findMoves 172 = .ok (.iaload, 1) := dk_46 (dk_at dksX3_findMoves_7 4 rfl rfl)
theorem dX3_findMoves_173 : decode cX3_findMoves 173 = .ok (.iload 4, 2) := dk_21 4 (dk_at dksX3_findMoves_7 5 rfl rfl)
theorem dX3_findMoves_175 : decode cX3_findMoves 175 = .ok (.aload_n 0, 1) := dk_42 (dk_at dksX3_findMoves_7 7 rfl rfl)
theorem dX3_findMoves_176 : decode cX3_findMoves 176 = .ok (.getfield 125, 3) := dk_180 0 125 (dk_at dksX3_findMoves_7 8 rfl rfl)
theorem dX3_findMoves_179 : decode cX3_findMoves 179 = .ok (.aload_n 0, 1) := dk_42 (dk_at dksX3_findMoves_7 11 rfl rfl)
theorem dX3_findMoves_180 : decode cX3_findMoves 180 = .ok (.getfield 60, 3) := dk_180 0 60 (dk_at dksX3_findMoves_7 12 rfl rfl)
theorem dX3_findMoves_183 : decode cX3_findMoves 183 = .ok (.iload_n 3, 1) := dk_29 (dk_at dksX3_findMoves_7 15 rfl rfl)
theorem dX3_findMoves_184 : decode cX3_findMoves 184 = .ok (.iaload, 1) := dk_46 (dk_at dksX3_findMoves_7 16 rfl rfl)
theorem dX3_findMoves_185 : decode cX3_findMoves 185 = .ok (.iaload, 1) := dk_46 (dk_at dksX3_findMoves_7 17 rfl rfl)
theorem dX3_findMoves_186 : decode cX3_findMoves 186 = .ok (.if_icmp .ge 8, 3) := dk_162 0 8 (dk_at dksX3_findMoves_7 18 rfl rfl)
theorem dX3_findMoves_189 : decode cX3_findMoves 189 = .ok (.iload 4, 2) := dk_21 4 (dk_at dksX3_findMoves_7 21 rfl rfl)
theorem dX3_findMoves_191 : decode cX3_findMoves 191 = .ok (.goto 14, 3) := dk_167 0 14 (dk_at dksX3_findMoves_8 0 rfl rfl)
theorem dX3_findMoves_194 : decode cX3_findMoves 194 = .ok (.aload_n 0, 1) := dk_42 (dk_at dksX3_findMoves_8 3 rfl rfl)
theorem dX3_findMoves_195 : decode cX3_findMoves 195 = .ok (.getfield 125, 3) := dk_180 0 125 (dk_at dksX3_findMoves_8 4 rfl rfl)
theorem dX3_findMoves_198 : decode cX3_findMoves 198 = .ok (.aload_n 0, 1) := dk_42 (dk_at dksX3_findMoves_8 7 rfl rfl)
theorem dX3_findMoves_199 : decode cX3_findMoves 199 = .ok (.getfield 60, 3) := dk_180 0 60 (dk_at dksX3_findMoves_8 8 rfl rfl)
theorem dX3_findMoves_202 : decode cX3_findMoves 202 = .ok (.iload_n 3, 1) := dk_29 (dk_at dksX3_findMoves_8 11 rfl rfl)
theorem dX3_findMoves_203 : decode cX3_findMoves 203 = .ok (.iaload, 1) := dk_46 (dk_at dksX3_findMoves_8 12 rfl rfl)
theorem dX3_findMoves_204 : decode cX3_findMoves 204 = .ok (.iaload, 1) := dk_46 (dk_at dksX3_findMoves_8 13 rfl rfl)
theorem dX3_findMoves_205 : decode cX3_findMoves 205 = .ok (.iastore, 1) := dk_79 (dk_at dksX3_findMoves_8 14 rfl rfl)
theorem dX3_findMoves_206 : decode cX3_findMoves 206 = .ok (.iinc 3 1, 3) := dk_132 3 1 (dk_at dksX3_findMoves_8 15 rfl rfl)
theorem dX3_findMoves_209 : decode cX3_findMoves 209 = .ok (.goto (-107), 3) := dk_167 255 149 (dk_at dksX3_findMoves_8 18 rfl rfl)
theorem dX3_findMoves_212 : decode cX3_findMoves 212 = .ok (.iinc 2 1, 3) := dk_132 2 1 (dk_at dksX3_findMoves_8 21 rfl rfl)
theorem dX3_findMoves_215 : decode cX3_findMoves 215 = .ok (.goto (-127), 3) := dk_167 255 129 (dk_at dksX3_findMoves_9 0 rfl rfl)
theorem dX3_findMoves_218 : decode cX3_findMoves 218 = .ok (.return_, 1) := dk_177 (dk_at dksX3_findMoves_9 3 rfl rfl)
abbrev cX3_fitsBy : ByteArray := prog_24_method_32_code
def dkwX3_fitsBy_1 : List UInt8 := [180, 0, 54, 16, 16, 42, 180, 1, 44, 104, 27, 96, 46, 163, 0, 7, 4, 167, 0, 4, 3, 172]
abbrev dktX3_fitsBy_1 : List UInt8 := dkwX3_fitsBy_1 ++ []
def dkwX3_fitsBy_0 : List UInt8 := [28, 29, 100, 42, 180, 0, 54, 16, 16, 42, 180, 1, 44, 104, 27, 96, 46, 163, 0, 27, 29, 28, 100, 42]
abbrev dktX3_fitsBy_0 : List UInt8 := dkwX3_fitsBy_0 ++ dktX3_fitsBy_1
theorem dksX3_fitsBy_0 : cX3_fitsBy.data.toList.drop 0 = dktX3_fitsBy_0 := by decide +kernel
theorem dksX3_fitsBy_1 : cX3_fitsBy.data.toList.drop 24 = dktX3_fitsBy_1 := dk_seg dksX3_fitsBy_0 24 rfl rfl
theorem dX3_fitsBy_0 : decode cX3_fitsBy 0 = .ok (.iload_n 2, 1) := dk_28 (dk_at dksX3_fitsBy_0 0 rfl rfl)
theorem dX3_fitsBy_1 : decode cX3_fitsBy 1 = .ok (.iload_n 3, 1) := dk_29 (dk_at dksX3_fitsBy_0 1 rfl rfl)
theorem dX3_fitsBy_2 : decode cX3_fitsBy 2 = .ok (.isub, 1) := dk_100 (dk_at dksX3_fitsBy_0 2 rfl rfl)
theorem dX3_fitsBy_3 : decode cX3_fitsBy 3 = .ok (.aload_n 0, 1) := dk_42 (dk_at dksX3_fitsBy_0 3 rfl rfl)
theorem dX3_fitsBy_4 : decode cX3_fitsBy 4 = .ok (.getfield 54, 3) := dk_180 0 54 (dk_at dksX3_fitsBy_0 4 rfl rfl)
theorem dX3_fitsBy_7 : decode cX3_fitsBy 7 = .ok (.bipush 16, 2) := dk_16 16 (dk_at dksX3_fitsBy_0 7 rfl rfl)
theorem dX3_fitsBy_9 : decode cX3_fitsBy 9 = .ok (.aload_n 0, 1) := dk_42 (dk_at dksX3_fitsBy_0 9 rfl rfl)
theorem dX3_fitsBy_10 : decode cX3_fitsBy 10 = .ok (.getfield 300, 3) := dk_180 1 44 (dk_at dksX3_fitsBy_0 10 rfl rfl)
theorem dX3_fitsBy_13 : decode cX3_fitsBy 13 = .ok (.imul, 1) := dk_104 (dk_at dksX3_fitsBy_0 13 rfl rfl)
theorem dX3_fitsBy_14 : decode cX3_fitsBy 14 = .ok (.iload_n 1, 1) := dk_27 (dk_at dksX3_fitsBy_0 14 rfl rfl)
theorem dX3_fitsBy_15 : decode cX3_fitsBy 15 = .ok (.iadd, 1) := dk_96 (dk_at dksX3_fitsBy_0 15 rfl rfl)
theorem dX3_fitsBy_16 : decode cX3_fitsBy 16 = .ok (.iaload, 1) := dk_46 (dk_at dksX3_fitsBy_0 16 rfl rfl)
theorem dX3_fitsBy_17 : decode cX3_fitsBy 17 = .ok (.if_icmp .gt 27, 3) := dk_163 0 27 (dk_at dksX3_fitsBy_0 17 rfl rfl)
theorem dX3_fitsBy_20 : decode cX3_fitsBy 20 = .ok (.iload_n 3, 1) := dk_29 (dk_at dksX3_fitsBy_0 20 rfl rfl)
theorem dX3_fitsBy_21 : decode cX3_fitsBy 21 = .ok (.iload_n 2, 1) := dk_28 (dk_at dksX3_fitsBy_0 21 rfl rfl)
theorem dX3_fitsBy_22 : decode cX3_fitsBy 22 = .ok (.isub, 1) := dk_100 (dk_at dksX3_fitsBy_0 22 rfl rfl)
theorem dX3_fitsBy_23 : decode cX3_fitsBy 23 = .ok (.aload_n 0, 1) := dk_42 (dk_at dksX3_fitsBy_0 23 rfl rfl)
theorem dX3_fitsBy_24 : decode cX3_fitsBy 24 = .ok (.getfield 54, 3) := dk_180 0 54 (dk_at dksX3_fitsBy_1 0 rfl rfl)
theorem dX3_fitsBy_27 : decode cX3_fitsBy 27 = .ok (.bipush 16, 2) := dk_16 16 (dk_at dksX3_fitsBy_1 3 rfl rfl)
theorem dX3_fitsBy_29 : decode cX3_fitsBy 29 = .ok (.aload_n 0, 1) := dk_42 (dk_at dksX3_fitsBy_1 5 rfl rfl)
theorem dX3_fitsBy_30 : decode cX3_fitsBy 30 = .ok (.getfield 300, 3) := dk_180 1 44 (dk_at dksX3_fitsBy_1 6 rfl rfl)
theorem dX3_fitsBy_33 : decode cX3_fitsBy 33 = .ok (.imul, 1) := dk_104 (dk_at dksX3_fitsBy_1 9 rfl rfl)
theorem dX3_fitsBy_34 : decode cX3_fitsBy 34 = .ok (.iload_n 1, 1) := dk_27 (dk_at dksX3_fitsBy_1 10 rfl rfl)
theorem dX3_fitsBy_35 : decode cX3_fitsBy 35 = .ok (.iadd, 1) := dk_96 (dk_at dksX3_fitsBy_1 11 rfl rfl)
theorem dX3_fitsBy_36 : decode cX3_fitsBy 36 = .ok (.iaload, 1) := dk_46 (dk_at dksX3_fitsBy_1 12 rfl rfl)
theorem dX3_fitsBy_37 : decode cX3_fitsBy 37 = .ok (.if_icmp .gt 7, 3) := dk_163 0 7 (dk_at dksX3_fitsBy_1 13 rfl rfl)
theorem dX3_fitsBy_40 : decode cX3_fitsBy 40 = .ok (.iconst 1, 1) := dk_4 (dk_at dksX3_fitsBy_1 16 rfl rfl)
theorem dX3_fitsBy_41 : decode cX3_fitsBy 41 = .ok (.goto 4, 3) := dk_167 0 4 (dk_at dksX3_fitsBy_1 17 rfl rfl)
theorem dX3_fitsBy_44 : decode cX3_fitsBy 44 = .ok (.iconst 0, 1) := dk_3 (dk_at dksX3_fitsBy_1 20 rfl rfl)
theorem dX3_fitsBy_45 : decode cX3_fitsBy 45 = .ok (.ireturn, 1) := dk_172 (dk_at dksX3_fitsBy_1 21 rfl rfl)
abbrev cX3_fitsWith : ByteArray := prog_24_method_36_code
def dkwX3_fitsWith_4 : List UInt8 := [3, 96, 62, 132, 4, 1, 167, 255, 159, 29, 172]
abbrev dktX3_fitsWith_4 : List UInt8 := dkwX3_fitsWith_4 ++ []
def dkwX3_fitsWith_3 : List UInt8 := [160, 0, 7, 28, 167, 0, 10, 42, 21, 6, 3, 182, 1, 107, 182, 1, 110, 153, 0, 7, 4, 167, 0, 4]
abbrev dktX3_fitsWith_3 : List UInt8 := dkwX3_fitsWith_3 ++ dktX3_fitsWith_4
def dkwX3_fitsWith_2 : List UInt8 := [29, 42, 21, 4, 21, 5, 27, 160, 0, 7, 28, 167, 0, 10, 42, 21, 5, 3, 182, 1, 107, 21, 6, 27]
abbrev dktX3_fitsWith_2 : List UInt8 := dkwX3_fitsWith_2 ++ dktX3_fitsWith_3
def dkwX3_fitsWith_1 : List UInt8 := [104, 21, 4, 96, 46, 54, 5, 42, 180, 0, 51, 16, 16, 42, 180, 1, 44, 104, 21, 4, 96, 46, 54, 6]
abbrev dktX3_fitsWith_1 : List UInt8 := dkwX3_fitsWith_1 ++ dktX3_fitsWith_2
def dkwX3_fitsWith_0 : List UInt8 := [3, 62, 3, 54, 4, 21, 4, 42, 182, 1, 113, 162, 0, 94, 42, 180, 0, 48, 16, 16, 42, 180, 1, 44]
abbrev dktX3_fitsWith_0 : List UInt8 := dkwX3_fitsWith_0 ++ dktX3_fitsWith_1
theorem dksX3_fitsWith_0 : cX3_fitsWith.data.toList.drop 0 = dktX3_fitsWith_0 := by decide +kernel
theorem dksX3_fitsWith_1 : cX3_fitsWith.data.toList.drop 24 = dktX3_fitsWith_1 := dk_seg dksX3_fitsWith_0 24 rfl rfl
theorem dksX3_fitsWith_2 : cX3_fitsWith.data.toList.drop 48 = dktX3_fitsWith_2 := dk_seg dksX3_fitsWith_1 24 rfl rfl
theorem dksX3_fitsWith_3 : cX3_fitsWith.data.toList.drop 72 = dktX3_fitsWith_3 := dk_seg dksX3_fitsWith_2 24 rfl rfl
theorem dksX3_fitsWith_4 : cX3_fitsWith.data.toList.drop 96 = dktX3_fitsWith_4 := dk_seg dksX3_fitsWith_3 24 rfl rfl
theorem dX3_fitsWith_0 : decode cX3_fitsWith 0 = .ok (.iconst 0, 1) := dk_3 (dk_at dksX3_fitsWith_0 0 rfl rfl)
theorem dX3_fitsWith_1 : decode cX3_fitsWith 1 = .ok (.istore_n 3, 1) := dk_62 (dk_at dksX3_fitsWith_0 1 rfl rfl)
theorem dX3_fitsWith_2 : decode cX3_fitsWith 2 = .ok (.iconst 0, 1) := dk_3 (dk_at dksX3_fitsWith_0 2 rfl rfl)
theorem dX3_fitsWith_3 : decode cX3_fitsWith 3 = .ok (.istore 4, 2) := dk_54 4 (dk_at dksX3_fitsWith_0 3 rfl rfl)
theorem dX3_fitsWith_5 : decode cX3_fitsWith 5 = .ok (.iload 4, 2) := dk_21 4 (dk_at dksX3_fitsWith_0 5 rfl rfl)
theorem dX3_fitsWith_7 : decode cX3_fitsWith 7 = .ok (.aload_n 0, 1) := dk_42 (dk_at dksX3_fitsWith_0 7 rfl rfl)
theorem dX3_fitsWith_8 : decode cX3_fitsWith 8 = .ok (.invokevirtual 369, 3) := dk_182 1 113 (dk_at dksX3_fitsWith_0 8 rfl rfl)
theorem dX3_fitsWith_11 : decode cX3_fitsWith 11 = .ok (.if_icmp .ge 94, 3) := dk_162 0 94 (dk_at dksX3_fitsWith_0 11 rfl rfl)
theorem dX3_fitsWith_14 : decode cX3_fitsWith 14 = .ok (.aload_n 0, 1) := dk_42 (dk_at dksX3_fitsWith_0 14 rfl rfl)
theorem dX3_fitsWith_15 : decode cX3_fitsWith 15 = .ok (.getfield 48, 3) := dk_180 0 48 (dk_at dksX3_fitsWith_0 15 rfl rfl)
theorem dX3_fitsWith_18 : decode cX3_fitsWith 18 = .ok (.bipush 16, 2) := dk_16 16 (dk_at dksX3_fitsWith_0 18 rfl rfl)
theorem dX3_fitsWith_20 : decode cX3_fitsWith 20 = .ok (.aload_n 0, 1) := dk_42 (dk_at dksX3_fitsWith_0 20 rfl rfl)
theorem dX3_fitsWith_21 : decode cX3_fitsWith 21 = .ok (.getfield 300, 3) := dk_180 1 44 (dk_at dksX3_fitsWith_0 21 rfl rfl)
theorem dX3_fitsWith_24 : decode cX3_fitsWith 24 = .ok (.imul, 1) := dk_104 (dk_at dksX3_fitsWith_1 0 rfl rfl)
theorem dX3_fitsWith_25 : decode cX3_fitsWith 25 = .ok (.iload 4, 2) := dk_21 4 (dk_at dksX3_fitsWith_1 1 rfl rfl)
theorem dX3_fitsWith_27 : decode cX3_fitsWith 27 = .ok (.iadd, 1) := dk_96 (dk_at dksX3_fitsWith_1 3 rfl rfl)
theorem dX3_fitsWith_28 : decode cX3_fitsWith 28 = .ok (.iaload, 1) := dk_46 (dk_at dksX3_fitsWith_1 4 rfl rfl)
theorem dX3_fitsWith_29 : decode cX3_fitsWith 29 = .ok (.istore 5, 2) := dk_54 5 (dk_at dksX3_fitsWith_1 5 rfl rfl)
theorem dX3_fitsWith_31 : decode cX3_fitsWith 31 = .ok (.aload_n 0, 1) := dk_42 (dk_at dksX3_fitsWith_1 7 rfl rfl)
theorem dX3_fitsWith_32 : decode cX3_fitsWith 32 = .ok (.getfield 51, 3) := dk_180 0 51 (dk_at dksX3_fitsWith_1 8 rfl rfl)
theorem dX3_fitsWith_35 : decode cX3_fitsWith 35 = .ok (.bipush 16, 2) := dk_16 16 (dk_at dksX3_fitsWith_1 11 rfl rfl)
theorem dX3_fitsWith_37 : decode cX3_fitsWith 37 = .ok (.aload_n 0, 1) := dk_42 (dk_at dksX3_fitsWith_1 13 rfl rfl)
theorem dX3_fitsWith_38 : decode cX3_fitsWith 38 = .ok (.getfield 300, 3) := dk_180 1 44 (dk_at dksX3_fitsWith_1 14 rfl rfl)
theorem dX3_fitsWith_41 : decode cX3_fitsWith 41 = .ok (.imul, 1) := dk_104 (dk_at dksX3_fitsWith_1 17 rfl rfl)
theorem dX3_fitsWith_42 : decode cX3_fitsWith 42 = .ok (.iload 4, 2) := dk_21 4 (dk_at dksX3_fitsWith_1 18 rfl rfl)
theorem dX3_fitsWith_44 : decode cX3_fitsWith 44 = .ok (.iadd, 1) := dk_96 (dk_at dksX3_fitsWith_1 20 rfl rfl)
theorem dX3_fitsWith_45 : decode cX3_fitsWith 45 = .ok (.iaload, 1) := dk_46 (dk_at dksX3_fitsWith_1 21 rfl rfl)
theorem dX3_fitsWith_46 : decode cX3_fitsWith 46 = .ok (.istore 6, 2) := dk_54 6 (dk_at dksX3_fitsWith_1 22 rfl rfl)
theorem dX3_fitsWith_48 : decode cX3_fitsWith 48 = .ok (.iload_n 3, 1) := dk_29 (dk_at dksX3_fitsWith_2 0 rfl rfl)
theorem dX3_fitsWith_49 : decode cX3_fitsWith 49 = .ok (.aload_n 0, 1) := dk_42 (dk_at dksX3_fitsWith_2 1 rfl rfl)
theorem dX3_fitsWith_50 : decode cX3_fitsWith 50 = .ok (.iload 4, 2) := dk_21 4 (dk_at dksX3_fitsWith_2 2 rfl rfl)
theorem dX3_fitsWith_52 : decode cX3_fitsWith 52 = .ok (.iload 5, 2) := dk_21 5 (dk_at dksX3_fitsWith_2 4 rfl rfl)
theorem dX3_fitsWith_54 : decode cX3_fitsWith 54 = .ok (.iload_n 1, 1) := dk_27 (dk_at dksX3_fitsWith_2 6 rfl rfl)
theorem dX3_fitsWith_55 : decode cX3_fitsWith 55 = .ok (.if_icmp .ne 7, 3) := dk_160 0 7 (dk_at dksX3_fitsWith_2 7 rfl rfl)
theorem dX3_fitsWith_58 : decode cX3_fitsWith 58 = .ok (.iload_n 2, 1) := dk_28 (dk_at dksX3_fitsWith_2 10 rfl rfl)
theorem dX3_fitsWith_59 : decode cX3_fitsWith 59 = .ok (.goto 10, 3) := dk_167 0 10 (dk_at dksX3_fitsWith_2 11 rfl rfl)
theorem dX3_fitsWith_62 : decode cX3_fitsWith 62 = .ok (.aload_n 0, 1) := dk_42 (dk_at dksX3_fitsWith_2 14 rfl rfl)
theorem dX3_fitsWith_63 : decode cX3_fitsWith 63 = .ok (.iload 5, 2) := dk_21 5 (dk_at dksX3_fitsWith_2 15 rfl rfl)
theorem dX3_fitsWith_65 : decode cX3_fitsWith 65 = .ok (.iconst 0, 1) := dk_3 (dk_at dksX3_fitsWith_2 17 rfl rfl)
theorem dX3_fitsWith_66 : decode cX3_fitsWith 66 = .ok (.invokevirtual 363, 3) := dk_182 1 107 (dk_at dksX3_fitsWith_2 18 rfl rfl)
theorem dX3_fitsWith_69 : decode cX3_fitsWith 69 = .ok (.iload 6, 2) := dk_21 6 (dk_at dksX3_fitsWith_2 21 rfl rfl)
theorem dX3_fitsWith_71 : decode cX3_fitsWith 71 = .ok (.iload_n 1, 1) := dk_27 (dk_at dksX3_fitsWith_2 23 rfl rfl)
theorem dX3_fitsWith_72 : decode cX3_fitsWith 72 = .ok (.if_icmp .ne 7, 3) := dk_160 0 7 (dk_at dksX3_fitsWith_3 0 rfl rfl)
theorem dX3_fitsWith_75 : decode cX3_fitsWith 75 = .ok (.iload_n 2, 1) := dk_28 (dk_at dksX3_fitsWith_3 3 rfl rfl)
theorem dX3_fitsWith_76 : decode cX3_fitsWith 76 = .ok (.goto 10, 3) := dk_167 0 10 (dk_at dksX3_fitsWith_3 4 rfl rfl)
theorem dX3_fitsWith_79 : decode cX3_fitsWith 79 = .ok (.aload_n 0, 1) := dk_42 (dk_at dksX3_fitsWith_3 7 rfl rfl)
theorem dX3_fitsWith_80 : decode cX3_fitsWith 80 = .ok (.iload 6, 2) := dk_21 6 (dk_at dksX3_fitsWith_3 8 rfl rfl)
theorem dX3_fitsWith_82 : decode cX3_fitsWith 82 = .ok (.iconst 0, 1) := dk_3 (dk_at dksX3_fitsWith_3 10 rfl rfl)
theorem dX3_fitsWith_83 : decode cX3_fitsWith 83 = .ok (.invokevirtual 363, 3) := dk_182 1 107 (dk_at dksX3_fitsWith_3 11 rfl rfl)
theorem dX3_fitsWith_86 : decode cX3_fitsWith 86 = .ok (.invokevirtual 366, 3) := dk_182 1 110 (dk_at dksX3_fitsWith_3 14 rfl rfl)
theorem dX3_fitsWith_89 : decode cX3_fitsWith 89 = .ok (.ifCond .eq 7, 3) := dk_153 0 7 (dk_at dksX3_fitsWith_3 17 rfl rfl)
theorem dX3_fitsWith_92 : decode cX3_fitsWith 92 = .ok (.iconst 1, 1) := dk_4 (dk_at dksX3_fitsWith_3 20 rfl rfl)
theorem dX3_fitsWith_93 : decode cX3_fitsWith 93 = .ok (.goto 4, 3) := dk_167 0 4 (dk_at dksX3_fitsWith_3 21 rfl rfl)
theorem dX3_fitsWith_96 : decode cX3_fitsWith 96 = .ok (.iconst 0, 1) := dk_3 (dk_at dksX3_fitsWith_4 0 rfl rfl)
theorem dX3_fitsWith_97 : decode cX3_fitsWith 97 = .ok (.iadd, 1) := dk_96 (dk_at dksX3_fitsWith_4 1 rfl rfl)
theorem dX3_fitsWith_98 : decode cX3_fitsWith 98 = .ok (.istore_n 3, 1) := dk_62 (dk_at dksX3_fitsWith_4 2 rfl rfl)
theorem dX3_fitsWith_99 : decode cX3_fitsWith 99 = .ok (.iinc 4 1, 3) := dk_132 4 1 (dk_at dksX3_fitsWith_4 3 rfl rfl)
theorem dX3_fitsWith_102 : decode cX3_fitsWith 102 = .ok (.goto (-97), 3) := dk_167 255 159 (dk_at dksX3_fitsWith_4 6 rfl rfl)
theorem dX3_fitsWith_105 : decode cX3_fitsWith 105 = .ok (.iload_n 3, 1) := dk_29 (dk_at dksX3_fitsWith_4 9 rfl rfl)
theorem dX3_fitsWith_106 : decode cX3_fitsWith 106 = .ok (.ireturn, 1) := dk_172 (dk_at dksX3_fitsWith_4 10 rfl rfl)
abbrev cX3_fits : ByteArray := prog_24_method_33_code
def dkwX3_fits_1 : List UInt8 := [180, 0, 51, 16, 16, 42, 180, 1, 44, 104, 27, 96, 46, 28, 182, 1, 107, 182, 1, 110, 172]
abbrev dktX3_fits_1 : List UInt8 := dkwX3_fits_1 ++ []
def dkwX3_fits_0 : List UInt8 := [42, 27, 42, 42, 180, 0, 48, 16, 16, 42, 180, 1, 44, 104, 27, 96, 46, 28, 182, 1, 107, 42, 42]
abbrev dktX3_fits_0 : List UInt8 := dkwX3_fits_0 ++ dktX3_fits_1
theorem dksX3_fits_0 : cX3_fits.data.toList.drop 0 = dktX3_fits_0 := by decide +kernel
theorem dksX3_fits_1 : cX3_fits.data.toList.drop 23 = dktX3_fits_1 := dk_seg dksX3_fits_0 23 rfl rfl
theorem dX3_fits_0 : decode cX3_fits 0 = .ok (.aload_n 0, 1) := dk_42 (dk_at dksX3_fits_0 0 rfl rfl)
theorem dX3_fits_1 : decode cX3_fits 1 = .ok (.iload_n 1, 1) := dk_27 (dk_at dksX3_fits_0 1 rfl rfl)
theorem dX3_fits_2 : decode cX3_fits 2 = .ok (.aload_n 0, 1) := dk_42 (dk_at dksX3_fits_0 2 rfl rfl)
theorem dX3_fits_3 : decode cX3_fits 3 = .ok (.aload_n 0, 1) := dk_42 (dk_at dksX3_fits_0 3 rfl rfl)
theorem dX3_fits_4 : decode cX3_fits 4 = .ok (.getfield 48, 3) := dk_180 0 48 (dk_at dksX3_fits_0 4 rfl rfl)
theorem dX3_fits_7 : decode cX3_fits 7 = .ok (.bipush 16, 2) := dk_16 16 (dk_at dksX3_fits_0 7 rfl rfl)
theorem dX3_fits_9 : decode cX3_fits 9 = .ok (.aload_n 0, 1) := dk_42 (dk_at dksX3_fits_0 9 rfl rfl)
theorem dX3_fits_10 : decode cX3_fits 10 = .ok (.getfield 300, 3) := dk_180 1 44 (dk_at dksX3_fits_0 10 rfl rfl)
theorem dX3_fits_13 : decode cX3_fits 13 = .ok (.imul, 1) := dk_104 (dk_at dksX3_fits_0 13 rfl rfl)
theorem dX3_fits_14 : decode cX3_fits 14 = .ok (.iload_n 1, 1) := dk_27 (dk_at dksX3_fits_0 14 rfl rfl)
theorem dX3_fits_15 : decode cX3_fits 15 = .ok (.iadd, 1) := dk_96 (dk_at dksX3_fits_0 15 rfl rfl)
theorem dX3_fits_16 : decode cX3_fits 16 = .ok (.iaload, 1) := dk_46 (dk_at dksX3_fits_0 16 rfl rfl)
theorem dX3_fits_17 : decode cX3_fits 17 = .ok (.iload_n 2, 1) := dk_28 (dk_at dksX3_fits_0 17 rfl rfl)
theorem dX3_fits_18 : decode cX3_fits 18 = .ok (.invokevirtual 363, 3) := dk_182 1 107 (dk_at dksX3_fits_0 18 rfl rfl)
theorem dX3_fits_21 : decode cX3_fits 21 = .ok (.aload_n 0, 1) := dk_42 (dk_at dksX3_fits_0 21 rfl rfl)
theorem dX3_fits_22 : decode cX3_fits 22 = .ok (.aload_n 0, 1) := dk_42 (dk_at dksX3_fits_0 22 rfl rfl)
theorem dX3_fits_23 : decode cX3_fits 23 = .ok (.getfield 51, 3) := dk_180 0 51 (dk_at dksX3_fits_1 0 rfl rfl)
theorem dX3_fits_26 : decode cX3_fits 26 = .ok (.bipush 16, 2) := dk_16 16 (dk_at dksX3_fits_1 3 rfl rfl)
theorem dX3_fits_28 : decode cX3_fits 28 = .ok (.aload_n 0, 1) := dk_42 (dk_at dksX3_fits_1 5 rfl rfl)
theorem dX3_fits_29 : decode cX3_fits 29 = .ok (.getfield 300, 3) := dk_180 1 44 (dk_at dksX3_fits_1 6 rfl rfl)
theorem dX3_fits_32 : decode cX3_fits 32 = .ok (.imul, 1) := dk_104 (dk_at dksX3_fits_1 9 rfl rfl)
theorem dX3_fits_33 : decode cX3_fits 33 = .ok (.iload_n 1, 1) := dk_27 (dk_at dksX3_fits_1 10 rfl rfl)
theorem dX3_fits_34 : decode cX3_fits 34 = .ok (.iadd, 1) := dk_96 (dk_at dksX3_fits_1 11 rfl rfl)
theorem dX3_fits_35 : decode cX3_fits 35 = .ok (.iaload, 1) := dk_46 (dk_at dksX3_fits_1 12 rfl rfl)
theorem dX3_fits_36 : decode cX3_fits 36 = .ok (.iload_n 2, 1) := dk_28 (dk_at dksX3_fits_1 13 rfl rfl)
theorem dX3_fits_37 : decode cX3_fits 37 = .ok (.invokevirtual 363, 3) := dk_182 1 107 (dk_at dksX3_fits_1 14 rfl rfl)
theorem dX3_fits_40 : decode cX3_fits 40 = .ok (.invokevirtual 366, 3) := dk_182 1 110 (dk_at dksX3_fits_1 17 rfl rfl)
theorem dX3_fits_43 : decode cX3_fits 43 = .ok (.ireturn, 1) := dk_172 (dk_at dksX3_fits_1 20 rfl rfl)
abbrev cX3_flies : ByteArray := prog_24_method_55_code
def dkwX3_flies_1 : List UInt8 := [153, 0, 7, 4, 167, 0, 4, 3, 172]
abbrev dktX3_flies_1 : List UInt8 := dkwX3_flies_1 ++ []
def dkwX3_flies_0 : List UInt8 := [42, 28, 181, 1, 195, 42, 29, 181, 1, 198, 42, 21, 4, 181, 1, 201, 42, 27, 5, 4, 182, 1, 223]
abbrev dktX3_flies_0 : List UInt8 := dkwX3_flies_0 ++ dktX3_flies_1
theorem dksX3_flies_0 : cX3_flies.data.toList.drop 0 = dktX3_flies_0 := by decide +kernel
theorem dksX3_flies_1 : cX3_flies.data.toList.drop 23 = dktX3_flies_1 := dk_seg dksX3_flies_0 23 rfl rfl
theorem dX3_flies_0 : decode cX3_flies 0 = .ok (.aload_n 0, 1) := dk_42 (dk_at dksX3_flies_0 0 rfl rfl)
theorem dX3_flies_1 : decode cX3_flies 1 = .ok (.iload_n 2, 1) := dk_28 (dk_at dksX3_flies_0 1 rfl rfl)
theorem dX3_flies_2 : decode cX3_flies 2 = .ok (.putfield 451, 3) := dk_181 1 195 (dk_at dksX3_flies_0 2 rfl rfl)
theorem dX3_flies_5 : decode cX3_flies 5 = .ok (.aload_n 0, 1) := dk_42 (dk_at dksX3_flies_0 5 rfl rfl)
theorem dX3_flies_6 : decode cX3_flies 6 = .ok (.iload_n 3, 1) := dk_29 (dk_at dksX3_flies_0 6 rfl rfl)
theorem dX3_flies_7 : decode cX3_flies 7 = .ok (.putfield 454, 3) := dk_181 1 198 (dk_at dksX3_flies_0 7 rfl rfl)
theorem dX3_flies_10 : decode cX3_flies 10 = .ok (.aload_n 0, 1) := dk_42 (dk_at dksX3_flies_0 10 rfl rfl)
theorem dX3_flies_11 : decode cX3_flies 11 = .ok (.iload 4, 2) := dk_21 4 (dk_at dksX3_flies_0 11 rfl rfl)
theorem dX3_flies_13 : decode cX3_flies 13 = .ok (.putfield 457, 3) := dk_181 1 201 (dk_at dksX3_flies_0 13 rfl rfl)
theorem dX3_flies_16 : decode cX3_flies 16 = .ok (.aload_n 0, 1) := dk_42 (dk_at dksX3_flies_0 16 rfl rfl)
theorem dX3_flies_17 : decode cX3_flies 17 = .ok (.iload_n 1, 1) := dk_27 (dk_at dksX3_flies_0 17 rfl rfl)
theorem dX3_flies_18 : decode cX3_flies 18 = .ok (.iconst 2, 1) := dk_5 (dk_at dksX3_flies_0 18 rfl rfl)
theorem dX3_flies_19 : decode cX3_flies 19 = .ok (.iconst 1, 1) := dk_4 (dk_at dksX3_flies_0 19 rfl rfl)
theorem dX3_flies_20 : decode cX3_flies 20 = .ok (.invokevirtual 479, 3) := dk_182 1 223 (dk_at dksX3_flies_0 20 rfl rfl)
theorem dX3_flies_23 : decode cX3_flies 23 = .ok (.ifCond .eq 7, 3) := dk_153 0 7 (dk_at dksX3_flies_1 0 rfl rfl)
theorem dX3_flies_26 : decode cX3_flies 26 = .ok (.iconst 1, 1) := dk_4 (dk_at dksX3_flies_1 3 rfl rfl)
theorem dX3_flies_27 : decode cX3_flies 27 = .ok (.goto 4, 3) := dk_167 0 4 (dk_at dksX3_flies_1 4 rfl rfl)
theorem dX3_flies_30 : decode cX3_flies 30 = .ok (.iconst 0, 1) := dk_3 (dk_at dksX3_flies_1 7 rfl rfl)
theorem dX3_flies_31 : decode cX3_flies 31 = .ok (.ireturn, 1) := dk_172 (dk_at dksX3_flies_1 8 rfl rfl)
abbrev cX3_give : ByteArray := prog_24_method_93_code
def dkwX3_give_3 : List UInt8 := [180, 0, 156, 27, 46, 5, 160, 0, 7, 29, 167, 0, 4, 3, 96, 181, 2, 55, 177]
abbrev dktX3_give_3 : List UInt8 := dkwX3_give_3 ++ []
def dkwX3_give_2 : List UInt8 := [180, 0, 156, 27, 46, 153, 0, 7, 29, 167, 0, 4, 3, 96, 181, 2, 52, 42, 89, 180, 2, 55, 42]
abbrev dktX3_give_2 : List UInt8 := dkwX3_give_2 ++ dktX3_give_3
def dkwX3_give_1 : List UInt8 := [180, 0, 156, 27, 46, 4, 159, 0, 7, 29, 167, 0, 4, 3, 96, 181, 2, 49, 42, 89, 180, 2, 52, 42]
abbrev dktX3_give_1 : List UInt8 := dkwX3_give_1 ++ dktX3_give_2
def dkwX3_give_0 : List UInt8 := [28, 42, 180, 0, 45, 16, 12, 42, 180, 1, 44, 104, 27, 96, 46, 104, 62, 42, 89, 180, 2, 49, 42]
abbrev dktX3_give_0 : List UInt8 := dkwX3_give_0 ++ dktX3_give_1
theorem dksX3_give_0 : cX3_give.data.toList.drop 0 = dktX3_give_0 := by decide +kernel
theorem dksX3_give_1 : cX3_give.data.toList.drop 23 = dktX3_give_1 := dk_seg dksX3_give_0 23 rfl rfl
theorem dksX3_give_2 : cX3_give.data.toList.drop 47 = dktX3_give_2 := dk_seg dksX3_give_1 24 rfl rfl
theorem dksX3_give_3 : cX3_give.data.toList.drop 70 = dktX3_give_3 := dk_seg dksX3_give_2 23 rfl rfl
theorem dX3_give_0 : decode cX3_give 0 = .ok (.iload_n 2, 1) := dk_28 (dk_at dksX3_give_0 0 rfl rfl)
theorem dX3_give_1 : decode cX3_give 1 = .ok (.aload_n 0, 1) := dk_42 (dk_at dksX3_give_0 1 rfl rfl)
theorem dX3_give_2 : decode cX3_give 2 = .ok (.getfield 45, 3) := dk_180 0 45 (dk_at dksX3_give_0 2 rfl rfl)
theorem dX3_give_5 : decode cX3_give 5 = .ok (.bipush 12, 2) := dk_16 12 (dk_at dksX3_give_0 5 rfl rfl)
theorem dX3_give_7 : decode cX3_give 7 = .ok (.aload_n 0, 1) := dk_42 (dk_at dksX3_give_0 7 rfl rfl)
theorem dX3_give_8 : decode cX3_give 8 = .ok (.getfield 300, 3) := dk_180 1 44 (dk_at dksX3_give_0 8 rfl rfl)
theorem dX3_give_11 : decode cX3_give 11 = .ok (.imul, 1) := dk_104 (dk_at dksX3_give_0 11 rfl rfl)
theorem dX3_give_12 : decode cX3_give 12 = .ok (.iload_n 1, 1) := dk_27 (dk_at dksX3_give_0 12 rfl rfl)
theorem dX3_give_13 : decode cX3_give 13 = .ok (.iadd, 1) := dk_96 (dk_at dksX3_give_0 13 rfl rfl)
theorem dX3_give_14 : decode cX3_give 14 = .ok (.iaload, 1) := dk_46 (dk_at dksX3_give_0 14 rfl rfl)
theorem dX3_give_15 : decode cX3_give 15 = .ok (.imul, 1) := dk_104 (dk_at dksX3_give_0 15 rfl rfl)
theorem dX3_give_16 : decode cX3_give 16 = .ok (.istore_n 3, 1) := dk_62 (dk_at dksX3_give_0 16 rfl rfl)
theorem dX3_give_17 : decode cX3_give 17 = .ok (.aload_n 0, 1) := dk_42 (dk_at dksX3_give_0 17 rfl rfl)
theorem dX3_give_18 : decode cX3_give 18 = .ok (.dup, 1) := dk_89 (dk_at dksX3_give_0 18 rfl rfl)
theorem dX3_give_19 : decode cX3_give 19 = .ok (.getfield 561, 3) := dk_180 2 49 (dk_at dksX3_give_0 19 rfl rfl)
theorem dX3_give_22 : decode cX3_give 22 = .ok (.aload_n 0, 1) := dk_42 (dk_at dksX3_give_0 22 rfl rfl)
theorem dX3_give_23 : decode cX3_give 23 = .ok (.getfield 156, 3) := dk_180 0 156 (dk_at dksX3_give_1 0 rfl rfl)
theorem dX3_give_26 : decode cX3_give 26 = .ok (.iload_n 1, 1) := dk_27 (dk_at dksX3_give_1 3 rfl rfl)
theorem dX3_give_27 : decode cX3_give 27 = .ok (.iaload, 1) := dk_46 (dk_at dksX3_give_1 4 rfl rfl)
theorem dX3_give_28 : decode cX3_give 28 = .ok (.iconst 1, 1) := dk_4 (dk_at dksX3_give_1 5 rfl rfl)
theorem dX3_give_29 : decode cX3_give 29 = .ok (.if_icmp .eq 7, 3) := dk_159 0 7 (dk_at dksX3_give_1 6 rfl rfl)
theorem dX3_give_32 : decode cX3_give 32 = .ok (.iload_n 3, 1) := dk_29 (dk_at dksX3_give_1 9 rfl rfl)
theorem dX3_give_33 : decode cX3_give 33 = .ok (.goto 4, 3) := dk_167 0 4 (dk_at dksX3_give_1 10 rfl rfl)
theorem dX3_give_36 : decode cX3_give 36 = .ok (.iconst 0, 1) := dk_3 (dk_at dksX3_give_1 13 rfl rfl)
theorem dX3_give_37 : decode cX3_give 37 = .ok (.iadd, 1) := dk_96 (dk_at dksX3_give_1 14 rfl rfl)
theorem dX3_give_38 : decode cX3_give 38 = .ok (.putfield 561, 3) := dk_181 2 49 (dk_at dksX3_give_1 15 rfl rfl)
theorem dX3_give_41 : decode cX3_give 41 = .ok (.aload_n 0, 1) := dk_42 (dk_at dksX3_give_1 18 rfl rfl)
theorem dX3_give_42 : decode cX3_give 42 = .ok (.dup, 1) := dk_89 (dk_at dksX3_give_1 19 rfl rfl)
theorem dX3_give_43 : decode cX3_give 43 = .ok (.getfield 564, 3) := dk_180 2 52 (dk_at dksX3_give_1 20 rfl rfl)
theorem dX3_give_46 : decode cX3_give 46 = .ok (.aload_n 0, 1) := dk_42 (dk_at dksX3_give_1 23 rfl rfl)
theorem dX3_give_47 : decode cX3_give 47 = .ok (.getfield 156, 3) := dk_180 0 156 (dk_at dksX3_give_2 0 rfl rfl)
theorem dX3_give_50 : decode cX3_give 50 = .ok (.iload_n 1, 1) := dk_27 (dk_at dksX3_give_2 3 rfl rfl)
theorem dX3_give_51 : decode cX3_give 51 = .ok (.iaload, 1) := dk_46 (dk_at dksX3_give_2 4 rfl rfl)
theorem dX3_give_52 : decode cX3_give 52 = .ok (.ifCond .eq 7, 3) := dk_153 0 7 (dk_at dksX3_give_2 5 rfl rfl)
theorem dX3_give_55 : decode cX3_give 55 = .ok (.iload_n 3, 1) := dk_29 (dk_at dksX3_give_2 8 rfl rfl)
theorem dX3_give_56 : decode cX3_give 56 = .ok (.goto 4, 3) := dk_167 0 4 (dk_at dksX3_give_2 9 rfl rfl)
theorem dX3_give_59 : decode cX3_give 59 = .ok (.iconst 0, 1) := dk_3 (dk_at dksX3_give_2 12 rfl rfl)
theorem dX3_give_60 : decode cX3_give 60 = .ok (.iadd, 1) := dk_96 (dk_at dksX3_give_2 13 rfl rfl)
theorem dX3_give_61 : decode cX3_give 61 = .ok (.putfield 564, 3) := dk_181 2 52 (dk_at dksX3_give_2 14 rfl rfl)
theorem dX3_give_64 : decode cX3_give 64 = .ok (.aload_n 0, 1) := dk_42 (dk_at dksX3_give_2 17 rfl rfl)
theorem dX3_give_65 : decode cX3_give 65 = .ok (.dup, 1) := dk_89 (dk_at dksX3_give_2 18 rfl rfl)
theorem dX3_give_66 : decode cX3_give 66 = .ok (.getfield 567, 3) := dk_180 2 55 (dk_at dksX3_give_2 19 rfl rfl)
theorem dX3_give_69 : decode cX3_give 69 = .ok (.aload_n 0, 1) := dk_42 (dk_at dksX3_give_2 22 rfl rfl)
theorem dX3_give_70 : decode cX3_give 70 = .ok (.getfield 156, 3) := dk_180 0 156 (dk_at dksX3_give_3 0 rfl rfl)
theorem dX3_give_73 : decode cX3_give 73 = .ok (.iload_n 1, 1) := dk_27 (dk_at dksX3_give_3 3 rfl rfl)
theorem dX3_give_74 : decode cX3_give 74 = .ok (.iaload, 1) := dk_46 (dk_at dksX3_give_3 4 rfl rfl)
theorem dX3_give_75 : decode cX3_give 75 = .ok (.iconst 2, 1) := dk_5 (dk_at dksX3_give_3 5 rfl rfl)
theorem dX3_give_76 : decode cX3_give 76 = .ok (.if_icmp .ne 7, 3) := dk_160 0 7 (dk_at dksX3_give_3 6 rfl rfl)
theorem dX3_give_79 : decode cX3_give 79 = .ok (.iload_n 3, 1) := dk_29 (dk_at dksX3_give_3 9 rfl rfl)
theorem dX3_give_80 : decode cX3_give 80 = .ok (.goto 4, 3) := dk_167 0 4 (dk_at dksX3_give_3 10 rfl rfl)
theorem dX3_give_83 : decode cX3_give 83 = .ok (.iconst 0, 1) := dk_3 (dk_at dksX3_give_3 13 rfl rfl)
theorem dX3_give_84 : decode cX3_give 84 = .ok (.iadd, 1) := dk_96 (dk_at dksX3_give_3 14 rfl rfl)
theorem dX3_give_85 : decode cX3_give 85 = .ok (.putfield 567, 3) := dk_181 2 55 (dk_at dksX3_give_3 15 rfl rfl)
theorem dX3_give_88 : decode cX3_give 88 = .ok (.return_, 1) := dk_177 (dk_at dksX3_give_3 18 rfl rfl)
abbrev cX3_goesOn : ByteArray := prog_24_method_103_code
def dkwX3_goesOn_4 : List UInt8 := [4, 167, 0, 4, 3, 172]
abbrev dktX3_goesOn_4 : List UInt8 := dkwX3_goesOn_4 ++ []
def dkwX3_goesOn_3 : List UInt8 := [153, 0, 28, 42, 27, 4, 96, 28, 29, 4, 100, 21, 4, 21, 6, 100, 21, 5, 182, 2, 86, 153, 0, 7]
abbrev dktX3_goesOn_3 : List UInt8 := dkwX3_goesOn_3 ++ dktX3_goesOn_4
def dkwX3_goesOn_2 : List UInt8 := [172, 29, 153, 0, 45, 42, 27, 4, 96, 28, 29, 4, 100, 21, 4, 21, 5, 21, 6, 100, 182, 2, 86]
abbrev dktX3_goesOn_2 : List UInt8 := dkwX3_goesOn_2 ++ dktX3_goesOn_3
def dkwX3_goesOn_1 : List UInt8 := [4, 96, 28, 29, 21, 4, 21, 7, 100, 21, 5, 21, 6, 100, 21, 7, 96, 182, 2, 86, 154, 0, 5, 3]
abbrev dktX3_goesOn_1 : List UInt8 := dkwX3_goesOn_1 ++ dktX3_goesOn_2
def dkwX3_goesOn_0 : List UInt8 := [42, 180, 0, 162, 27, 46, 54, 6, 21, 6, 42, 180, 0, 165, 27, 46, 104, 16, 10, 108, 54, 7, 42, 27]
abbrev dktX3_goesOn_0 : List UInt8 := dkwX3_goesOn_0 ++ dktX3_goesOn_1
theorem dksX3_goesOn_0 : cX3_goesOn.data.toList.drop 0 = dktX3_goesOn_0 := by decide +kernel
theorem dksX3_goesOn_1 : cX3_goesOn.data.toList.drop 24 = dktX3_goesOn_1 := dk_seg dksX3_goesOn_0 24 rfl rfl
theorem dksX3_goesOn_2 : cX3_goesOn.data.toList.drop 48 = dktX3_goesOn_2 := dk_seg dksX3_goesOn_1 24 rfl rfl
theorem dksX3_goesOn_3 : cX3_goesOn.data.toList.drop 71 = dktX3_goesOn_3 := dk_seg dksX3_goesOn_2 23 rfl rfl
theorem dksX3_goesOn_4 : cX3_goesOn.data.toList.drop 95 = dktX3_goesOn_4 := dk_seg dksX3_goesOn_3 24 rfl rfl
theorem dX3_goesOn_0 : decode cX3_goesOn 0 = .ok (.aload_n 0, 1) := dk_42 (dk_at dksX3_goesOn_0 0 rfl rfl)
theorem dX3_goesOn_1 : decode cX3_goesOn 1 = .ok (.getfield 162, 3) := dk_180 0 162 (dk_at dksX3_goesOn_0 1 rfl rfl)
theorem dX3_goesOn_4 : decode cX3_goesOn 4 = .ok (.iload_n 1, 1) := dk_27 (dk_at dksX3_goesOn_0 4 rfl rfl)
theorem dX3_goesOn_5 : decode cX3_goesOn 5 = .ok (.iaload, 1) := dk_46 (dk_at dksX3_goesOn_0 5 rfl rfl)
theorem dX3_goesOn_6 : decode cX3_goesOn 6 = .ok (.istore 6, 2) := dk_54 6 (dk_at dksX3_goesOn_0 6 rfl rfl)
theorem dX3_goesOn_8 : decode cX3_goesOn 8 = .ok (.iload 6, 2) := dk_21 6 (dk_at dksX3_goesOn_0 8 rfl rfl)
theorem dX3_goesOn_10 : decode cX3_goesOn 10 = .ok (.aload_n 0, 1) := dk_42 (dk_at dksX3_goesOn_0 10 rfl rfl)
theorem dX3_goesOn_11 : decode cX3_goesOn 11 = .ok (.getfield 165, 3) := dk_180 0 165 (dk_at dksX3_goesOn_0 11 rfl rfl)
theorem dX3_goesOn_14 : decode cX3_goesOn 14 = .ok (.iload_n 1, 1) := dk_27 (dk_at dksX3_goesOn_0 14 rfl rfl)
theorem dX3_goesOn_15 : decode cX3_goesOn 15 = .ok (.iaload, 1) := dk_46 (dk_at dksX3_goesOn_0 15 rfl rfl)
theorem dX3_goesOn_16 : decode cX3_goesOn 16 = .ok (.imul, 1) := dk_104 (dk_at dksX3_goesOn_0 16 rfl rfl)
theorem dX3_goesOn_17 : decode cX3_goesOn 17 = .ok (.bipush 10, 2) := dk_16 10 (dk_at dksX3_goesOn_0 17 rfl rfl)
theorem dX3_goesOn_19 : decode cX3_goesOn 19 = .ok (.idiv, 1) := dk_108 (dk_at dksX3_goesOn_0 19 rfl rfl)
theorem dX3_goesOn_20 : decode cX3_goesOn 20 = .ok (.istore 7, 2) := dk_54 7 (dk_at dksX3_goesOn_0 20 rfl rfl)
theorem dX3_goesOn_22 : decode cX3_goesOn 22 = .ok (.aload_n 0, 1) := dk_42 (dk_at dksX3_goesOn_0 22 rfl rfl)
theorem dX3_goesOn_23 : decode cX3_goesOn 23 = .ok (.iload_n 1, 1) := dk_27 (dk_at dksX3_goesOn_0 23 rfl rfl)
theorem dX3_goesOn_24 : decode cX3_goesOn 24 = .ok (.iconst 1, 1) := dk_4 (dk_at dksX3_goesOn_1 0 rfl rfl)
theorem dX3_goesOn_25 : decode cX3_goesOn 25 = .ok (.iadd, 1) := dk_96 (dk_at dksX3_goesOn_1 1 rfl rfl)
theorem dX3_goesOn_26 : decode cX3_goesOn 26 = .ok (.iload_n 2, 1) := dk_28 (dk_at dksX3_goesOn_1 2 rfl rfl)
theorem dX3_goesOn_27 : decode cX3_goesOn 27 = .ok (.iload_n 3, 1) := dk_29 (dk_at dksX3_goesOn_1 3 rfl rfl)
theorem dX3_goesOn_28 : decode cX3_goesOn 28 = .ok (.iload 4, 2) := dk_21 4 (dk_at dksX3_goesOn_1 4 rfl rfl)
theorem dX3_goesOn_30 : decode cX3_goesOn 30 = .ok (.iload 7, 2) := dk_21 7 (dk_at dksX3_goesOn_1 6 rfl rfl)
theorem dX3_goesOn_32 : decode cX3_goesOn 32 = .ok (.isub, 1) := dk_100 (dk_at dksX3_goesOn_1 8 rfl rfl)
theorem dX3_goesOn_33 : decode cX3_goesOn 33 = .ok (.iload 5, 2) := dk_21 5 (dk_at dksX3_goesOn_1 9 rfl rfl)
theorem dX3_goesOn_35 : decode cX3_goesOn 35 = .ok (.iload 6, 2) := dk_21 6 (dk_at dksX3_goesOn_1 11 rfl rfl)
theorem dX3_goesOn_37 : decode cX3_goesOn 37 = .ok (.isub, 1) := dk_100 (dk_at dksX3_goesOn_1 13 rfl rfl)
theorem dX3_goesOn_38 : decode cX3_goesOn 38 = .ok (.iload 7, 2) := dk_21 7 (dk_at dksX3_goesOn_1 14 rfl rfl)
theorem dX3_goesOn_40 : decode cX3_goesOn 40 = .ok (.iadd, 1) := dk_96 (dk_at dksX3_goesOn_1 16 rfl rfl)
theorem dX3_goesOn_41 : decode cX3_goesOn 41 = .ok (.invokevirtual 598, 3) := dk_182 2 86 (dk_at dksX3_goesOn_1 17 rfl rfl)
theorem dX3_goesOn_44 : decode cX3_goesOn 44 = .ok (.ifCond .ne 5, 3) := dk_154 0 5 (dk_at dksX3_goesOn_1 20 rfl rfl)
theorem dX3_goesOn_47 : decode cX3_goesOn 47 = .ok (.iconst 0, 1) := dk_3 (dk_at dksX3_goesOn_1 23 rfl rfl)
theorem dX3_goesOn_48 : decode cX3_goesOn 48 = .ok (.ireturn, 1) := dk_172 (dk_at dksX3_goesOn_2 0 rfl rfl)
theorem dX3_goesOn_49 : decode cX3_goesOn 49 = .ok (.iload_n 3, 1) := dk_29 (dk_at dksX3_goesOn_2 1 rfl rfl)
theorem dX3_goesOn_50 : decode cX3_goesOn 50 = .ok (.ifCond .eq 45, 3) := dk_153 0 45 (dk_at dksX3_goesOn_2 2 rfl rfl)
theorem dX3_goesOn_53 : decode cX3_goesOn 53 = .ok (.aload_n 0, 1) := dk_42 (dk_at dksX3_goesOn_2 5 rfl rfl)
theorem dX3_goesOn_54 : decode cX3_goesOn 54 = .ok (.iload_n 1, 1) := dk_27 (dk_at dksX3_goesOn_2 6 rfl rfl)
theorem dX3_goesOn_55 : decode cX3_goesOn 55 = .ok (.iconst 1, 1) := dk_4 (dk_at dksX3_goesOn_2 7 rfl rfl)
theorem dX3_goesOn_56 : decode cX3_goesOn 56 = .ok (.iadd, 1) := dk_96 (dk_at dksX3_goesOn_2 8 rfl rfl)
theorem dX3_goesOn_57 : decode cX3_goesOn 57 = .ok (.iload_n 2, 1) := dk_28 (dk_at dksX3_goesOn_2 9 rfl rfl)
theorem dX3_goesOn_58 : decode cX3_goesOn 58 = .ok (.iload_n 3, 1) := dk_29 (dk_at dksX3_goesOn_2 10 rfl rfl)
theorem dX3_goesOn_59 : decode cX3_goesOn 59 = .ok (.iconst 1, 1) := dk_4 (dk_at dksX3_goesOn_2 11 rfl rfl)
theorem dX3_goesOn_60 : decode cX3_goesOn 60 = .ok (.isub, 1) := dk_100 (dk_at dksX3_goesOn_2 12 rfl rfl)
theorem dX3_goesOn_61 : decode cX3_goesOn 61 = .ok (.iload 4, 2) := dk_21 4 (dk_at dksX3_goesOn_2 13 rfl rfl)
theorem dX3_goesOn_63 : decode cX3_goesOn 63 = .ok (.iload 5, 2) := dk_21 5 (dk_at dksX3_goesOn_2 15 rfl rfl)
theorem dX3_goesOn_65 : decode cX3_goesOn 65 = .ok (.iload 6, 2) := dk_21 6 (dk_at dksX3_goesOn_2 17 rfl rfl)
theorem dX3_goesOn_67 : decode cX3_goesOn 67 = .ok (.isub, 1) := dk_100 (dk_at dksX3_goesOn_2 19 rfl rfl)
theorem dX3_goesOn_68 : decode cX3_goesOn 68 = .ok (.invokevirtual 598, 3) := dk_182 2 86 (dk_at dksX3_goesOn_2 20 rfl rfl)
theorem dX3_goesOn_71 : decode cX3_goesOn 71 = .ok (.ifCond .eq 28, 3) := dk_153 0 28 (dk_at dksX3_goesOn_3 0 rfl rfl)
theorem dX3_goesOn_74 : decode cX3_goesOn 74 = .ok (.aload_n 0, 1) := dk_42 (dk_at dksX3_goesOn_3 3 rfl rfl)
theorem dX3_goesOn_75 : decode cX3_goesOn 75 = .ok (.iload_n 1, 1) := dk_27 (dk_at dksX3_goesOn_3 4 rfl rfl)
theorem dX3_goesOn_76 : decode cX3_goesOn 76 = .ok (.iconst 1, 1) := dk_4 (dk_at dksX3_goesOn_3 5 rfl rfl)
theorem dX3_goesOn_77 : decode cX3_goesOn 77 = .ok (.iadd, 1) := dk_96 (dk_at dksX3_goesOn_3 6 rfl rfl)
theorem dX3_goesOn_78 : decode cX3_goesOn 78 = .ok (.iload_n 2, 1) := dk_28 (dk_at dksX3_goesOn_3 7 rfl rfl)
theorem dX3_goesOn_79 : decode cX3_goesOn 79 = .ok (.iload_n 3, 1) := dk_29 (dk_at dksX3_goesOn_3 8 rfl rfl)
theorem dX3_goesOn_80 : decode cX3_goesOn 80 = .ok (.iconst 1, 1) := dk_4 (dk_at dksX3_goesOn_3 9 rfl rfl)
theorem dX3_goesOn_81 : decode cX3_goesOn 81 = .ok (.isub, 1) := dk_100 (dk_at dksX3_goesOn_3 10 rfl rfl)
theorem dX3_goesOn_82 : decode cX3_goesOn 82 = .ok (.iload 4, 2) := dk_21 4 (dk_at dksX3_goesOn_3 11 rfl rfl)
theorem dX3_goesOn_84 : decode cX3_goesOn 84 = .ok (.iload 6, 2) := dk_21 6 (dk_at dksX3_goesOn_3 13 rfl rfl)
theorem dX3_goesOn_86 : decode cX3_goesOn 86 = .ok (.isub, 1) := dk_100 (dk_at dksX3_goesOn_3 15 rfl rfl)
theorem dX3_goesOn_87 : decode cX3_goesOn 87 = .ok (.iload 5, 2) := dk_21 5 (dk_at dksX3_goesOn_3 16 rfl rfl)
theorem dX3_goesOn_89 : decode cX3_goesOn 89 = .ok (.invokevirtual 598, 3) := dk_182 2 86 (dk_at dksX3_goesOn_3 18 rfl rfl)
theorem dX3_goesOn_92 : decode cX3_goesOn 92 = .ok (.ifCond .eq 7, 3) := dk_153 0 7 (dk_at dksX3_goesOn_3 21 rfl rfl)
theorem dX3_goesOn_95 : decode cX3_goesOn 95 = .ok (.iconst 1, 1) := dk_4 (dk_at dksX3_goesOn_4 0 rfl rfl)
theorem dX3_goesOn_96 : decode cX3_goesOn 96 = .ok (.goto 4, 3) := dk_167 0 4 (dk_at dksX3_goesOn_4 1 rfl rfl)
theorem dX3_goesOn_99 : decode cX3_goesOn 99 = .ok (.iconst 0, 1) := dk_3 (dk_at dksX3_goesOn_4 4 rfl rfl)
theorem dX3_goesOn_100 : decode cX3_goesOn 100 = .ok (.ireturn, 1) := dk_172 (dk_at dksX3_goesOn_4 5 rfl rfl)
abbrev cX3_grant : ByteArray := prog_24_method_98_code
def dkwX3_grant_1 : List UInt8 := [181, 2, 73, 42, 28, 181, 2, 76, 4, 172]
abbrev dktX3_grant_1 : List UInt8 := dkwX3_grant_1 ++ []
def dkwX3_grant_0 : List UInt8 := [27, 3, 16, 9, 184, 1, 98, 153, 0, 12, 28, 3, 7, 184, 1, 98, 154, 0, 5, 3, 172, 42, 27]
abbrev dktX3_grant_0 : List UInt8 := dkwX3_grant_0 ++ dktX3_grant_1
theorem dksX3_grant_0 : cX3_grant.data.toList.drop 0 = dktX3_grant_0 := by decide +kernel
theorem dksX3_grant_1 : cX3_grant.data.toList.drop 23 = dktX3_grant_1 := dk_seg dksX3_grant_0 23 rfl rfl
theorem dX3_grant_0 : decode cX3_grant 0 = .ok (.iload_n 1, 1) := dk_27 (dk_at dksX3_grant_0 0 rfl rfl)
theorem dX3_grant_1 : decode cX3_grant 1 = .ok (.iconst 0, 1) := dk_3 (dk_at dksX3_grant_0 1 rfl rfl)
theorem dX3_grant_2 : decode cX3_grant 2 = .ok (.bipush 9, 2) := dk_16 9 (dk_at dksX3_grant_0 2 rfl rfl)
theorem dX3_grant_4 : decode cX3_grant 4 = .ok (.invokestatic 354, 3) := dk_184 1 98 (dk_at dksX3_grant_0 4 rfl rfl)
theorem dX3_grant_7 : decode cX3_grant 7 = .ok (.ifCond .eq 12, 3) := dk_153 0 12 (dk_at dksX3_grant_0 7 rfl rfl)
theorem dX3_grant_10 : decode cX3_grant 10 = .ok (.iload_n 2, 1) := dk_28 (dk_at dksX3_grant_0 10 rfl rfl)
theorem dX3_grant_11 : decode cX3_grant 11 = .ok (.iconst 0, 1) := dk_3 (dk_at dksX3_grant_0 11 rfl rfl)
theorem dX3_grant_12 : decode cX3_grant 12 = .ok (.iconst 4, 1) := dk_7 (dk_at dksX3_grant_0 12 rfl rfl)
theorem dX3_grant_13 : decode cX3_grant 13 = .ok (.invokestatic 354, 3) := dk_184 1 98 (dk_at dksX3_grant_0 13 rfl rfl)
theorem dX3_grant_16 : decode cX3_grant 16 = .ok (.ifCond .ne 5, 3) := dk_154 0 5 (dk_at dksX3_grant_0 16 rfl rfl)
theorem dX3_grant_19 : decode cX3_grant 19 = .ok (.iconst 0, 1) := dk_3 (dk_at dksX3_grant_0 19 rfl rfl)
theorem dX3_grant_20 : decode cX3_grant 20 = .ok (.ireturn, 1) := dk_172 (dk_at dksX3_grant_0 20 rfl rfl)
theorem dX3_grant_21 : decode cX3_grant 21 = .ok (.aload_n 0, 1) := dk_42 (dk_at dksX3_grant_0 21 rfl rfl)
theorem dX3_grant_22 : decode cX3_grant 22 = .ok (.iload_n 1, 1) := dk_27 (dk_at dksX3_grant_0 22 rfl rfl)
theorem dX3_grant_23 : decode cX3_grant 23 = .ok (.putfield 585, 3) := dk_181 2 73 (dk_at dksX3_grant_1 0 rfl rfl)
theorem dX3_grant_26 : decode cX3_grant 26 = .ok (.aload_n 0, 1) := dk_42 (dk_at dksX3_grant_1 3 rfl rfl)
theorem dX3_grant_27 : decode cX3_grant 27 = .ok (.iload_n 2, 1) := dk_28 (dk_at dksX3_grant_1 4 rfl rfl)
theorem dX3_grant_28 : decode cX3_grant 28 = .ok (.putfield 588, 3) := dk_181 2 76 (dk_at dksX3_grant_1 5 rfl rfl)
theorem dX3_grant_31 : decode cX3_grant 31 = .ok (.iconst 1, 1) := dk_4 (dk_at dksX3_grant_1 8 rfl rfl)
theorem dX3_grant_32 : decode cX3_grant 32 = .ok (.ireturn, 1) := dk_172 (dk_at dksX3_grant_1 9 rfl rfl)
abbrev cX3_hold : ByteArray := prog_24_method_91_code
def dkwX3_hold_1 : List UInt8 := [2, 172]
abbrev dktX3_hold_1 : List UInt8 := dkwX3_hold_1 ++ []
def dkwX3_hold_0 : List UInt8 := [27, 184, 1, 239, 153, 0, 20, 28, 184, 1, 135, 153, 0, 13, 42, 27, 28, 29, 182, 2, 43, 167, 0, 4]
abbrev dktX3_hold_0 : List UInt8 := dkwX3_hold_0 ++ dktX3_hold_1
theorem dksX3_hold_0 : cX3_hold.data.toList.drop 0 = dktX3_hold_0 := by decide +kernel
theorem dksX3_hold_1 : cX3_hold.data.toList.drop 24 = dktX3_hold_1 := dk_seg dksX3_hold_0 24 rfl rfl
theorem dX3_hold_0 : decode cX3_hold 0 = .ok (.iload_n 1, 1) := dk_27 (dk_at dksX3_hold_0 0 rfl rfl)
theorem dX3_hold_1 : decode cX3_hold 1 = .ok (.invokestatic 495, 3) := dk_184 1 239 (dk_at dksX3_hold_0 1 rfl rfl)
theorem dX3_hold_4 : decode cX3_hold 4 = .ok (.ifCond .eq 20, 3) := dk_153 0 20 (dk_at dksX3_hold_0 4 rfl rfl)
theorem dX3_hold_7 : decode cX3_hold 7 = .ok (.iload_n 2, 1) := dk_28 (dk_at dksX3_hold_0 7 rfl rfl)
theorem dX3_hold_8 : decode cX3_hold 8 = .ok (.invokestatic 391, 3) := dk_184 1 135 (dk_at dksX3_hold_0 8 rfl rfl)
theorem dX3_hold_11 : decode cX3_hold 11 = .ok (.ifCond .eq 13, 3) := dk_153 0 13 (dk_at dksX3_hold_0 11 rfl rfl)
theorem dX3_hold_14 : decode cX3_hold 14 = .ok (.aload_n 0, 1) := dk_42 (dk_at dksX3_hold_0 14 rfl rfl)
theorem dX3_hold_15 : decode cX3_hold 15 = .ok (.iload_n 1, 1) := dk_27 (dk_at dksX3_hold_0 15 rfl rfl)
theorem dX3_hold_16 : decode cX3_hold 16 = .ok (.iload_n 2, 1) := dk_28 (dk_at dksX3_hold_0 16 rfl rfl)
theorem dX3_hold_17 : decode cX3_hold 17 = .ok (.iload_n 3, 1) := dk_29 (dk_at dksX3_hold_0 17 rfl rfl)
theorem dX3_hold_18 : decode cX3_hold 18 = .ok (.invokevirtual 555, 3) := dk_182 2 43 (dk_at dksX3_hold_0 18 rfl rfl)
theorem dX3_hold_21 : decode cX3_hold 21 = .ok (.goto 4, 3) := dk_167 0 4 (dk_at dksX3_hold_0 21 rfl rfl)
theorem dX3_hold_24 : decode cX3_hold 24 = .ok (.iconst (-1), 1) := dk_2 (dk_at dksX3_hold_1 0 rfl rfl)
theorem dX3_hold_25 : decode cX3_hold 25 = .ok (.ireturn, 1) := dk_172 (dk_at dksX3_hold_1 1 rfl rfl)
abbrev cX3_init : ByteArray := prog_24_method_1_code
def dkwX3_init_17 : List UInt8 := [42, 16, 8, 188, 10, 181, 0, 165, 42, 18, 168, 188, 4, 181, 0, 169, 177]
abbrev dktX3_init_17 : List UInt8 := dkwX3_init_17 ++ []
def dkwX3_init_16 : List UInt8 := [42, 16, 12, 188, 10, 181, 0, 156, 42, 16, 12, 188, 10, 181, 0, 159, 42, 16, 8, 188, 10, 181, 0, 162]
abbrev dktX3_init_16 : List UInt8 := dkwX3_init_16 ++ dktX3_init_17
def dkwX3_init_15 : List UInt8 := [42, 16, 10, 188, 10, 181, 0, 147, 42, 16, 10, 188, 10, 181, 0, 150, 42, 16, 10, 188, 10, 181, 0, 153]
abbrev dktX3_init_15 : List UInt8 := dkwX3_init_15 ++ dktX3_init_16
def dkwX3_init_14 : List UInt8 := [181, 0, 135, 42, 6, 188, 10, 181, 0, 138, 42, 5, 181, 0, 141, 42, 17, 25, 0, 188, 10, 181, 0, 144]
abbrev dktX3_init_14 : List UInt8 := dkwX3_init_14 ++ dktX3_init_15
def dkwX3_init_13 : List UInt8 := [181, 0, 125, 42, 16, 12, 188, 10, 181, 0, 128, 42, 16, 12, 188, 10, 181, 0, 131, 42, 18, 134, 188, 10]
abbrev dktX3_init_13 : List UInt8 := dkwX3_init_13 ++ dktX3_init_14
def dkwX3_init_12 : List UInt8 := [17, 0, 200, 188, 10, 181, 0, 119, 42, 17, 0, 200, 188, 10, 181, 0, 122, 42, 16, 12, 188, 10]
abbrev dktX3_init_12 : List UInt8 := dkwX3_init_12 ++ dktX3_init_13
def dkwX3_init_11 : List UInt8 := [188, 10, 181, 0, 110, 42, 17, 0, 200, 188, 10, 181, 0, 113, 42, 17, 0, 200, 188, 10, 181, 0, 116, 42]
abbrev dktX3_init_11 : List UInt8 := dkwX3_init_11 ++ dktX3_init_12
def dkwX3_init_10 : List UInt8 := [181, 0, 101, 42, 16, 90, 188, 10, 181, 0, 104, 42, 16, 16, 188, 4, 181, 0, 107, 42, 17, 0, 200]
abbrev dktX3_init_10 : List UInt8 := dkwX3_init_10 ++ dktX3_init_11
def dkwX3_init_9 : List UInt8 := [42, 17, 10, 240, 188, 10, 181, 0, 95, 42, 16, 80, 188, 10, 181, 0, 98, 42, 16, 80, 188, 10]
abbrev dktX3_init_9 : List UInt8 := dkwX3_init_9 ++ dktX3_init_10
def dkwX3_init_8 : List UInt8 := [16, 16, 188, 10, 181, 0, 86, 42, 16, 16, 188, 10, 181, 0, 89, 42, 17, 10, 240, 188, 10, 181, 0, 92]
abbrev dktX3_init_8 : List UInt8 := dkwX3_init_8 ++ dktX3_init_9
def dkwX3_init_7 : List UInt8 := [42, 16, 16, 188, 4, 181, 0, 75, 42, 16, 24, 188, 11, 181, 0, 79, 42, 7, 188, 10, 181, 0, 83, 42]
abbrev dktX3_init_7 : List UInt8 := dkwX3_init_7 ++ dktX3_init_8
def dkwX3_init_6 : List UInt8 := [16, 6, 188, 10, 181, 0, 66, 42, 16, 6, 188, 10, 181, 0, 69, 42, 17, 0, 128, 188, 10, 181, 0, 72]
abbrev dktX3_init_6 : List UInt8 := dkwX3_init_6 ++ dktX3_init_7
def dkwX3_init_5 : List UInt8 := [16, 32, 188, 10, 181, 0, 57, 42, 16, 32, 188, 10, 181, 0, 60, 42, 16, 32, 188, 10, 181, 0, 63, 42]
abbrev dktX3_init_5 : List UInt8 := dkwX3_init_5 ++ dktX3_init_6
def dkwX3_init_4 : List UInt8 := [16, 32, 188, 10, 181, 0, 48, 42, 16, 32, 188, 10, 181, 0, 51, 42, 16, 32, 188, 10, 181, 0, 54, 42]
abbrev dktX3_init_4 : List UInt8 := dkwX3_init_4 ++ dktX3_init_5
def dkwX3_init_3 : List UInt8 := [16, 24, 188, 10, 181, 0, 39, 42, 16, 24, 188, 10, 181, 0, 42, 42, 16, 24, 188, 10, 181, 0, 45, 42]
abbrev dktX3_init_3 : List UInt8 := dkwX3_init_3 ++ dktX3_init_4
def dkwX3_init_2 : List UInt8 := [42, 5, 188, 10, 181, 0, 30, 42, 5, 188, 10, 181, 0, 33, 42, 16, 24, 188, 10, 181, 0, 36, 42]
abbrev dktX3_init_2 : List UInt8 := dkwX3_init_2 ++ dktX3_init_3
def dkwX3_init_1 : List UInt8 := [181, 0, 16, 42, 5, 188, 10, 181, 0, 20, 42, 5, 188, 10, 181, 0, 24, 42, 5, 188, 10, 181, 0, 27]
abbrev dktX3_init_1 : List UInt8 := dkwX3_init_1 ++ dktX3_init_2
def dkwX3_init_0 : List UInt8 := [42, 183, 0, 1, 42, 17, 5, 40, 188, 8, 181, 0, 7, 42, 17, 5, 20, 188, 8, 181, 0, 13, 42, 2]
abbrev dktX3_init_0 : List UInt8 := dkwX3_init_0 ++ dktX3_init_1
theorem dksX3_init_0 : cX3_init.data.toList.drop 0 = dktX3_init_0 := by decide +kernel
theorem dksX3_init_1 : cX3_init.data.toList.drop 24 = dktX3_init_1 := dk_seg dksX3_init_0 24 rfl rfl
theorem dksX3_init_2 : cX3_init.data.toList.drop 48 = dktX3_init_2 := dk_seg dksX3_init_1 24 rfl rfl
theorem dksX3_init_3 : cX3_init.data.toList.drop 71 = dktX3_init_3 := dk_seg dksX3_init_2 23 rfl rfl
theorem dksX3_init_4 : cX3_init.data.toList.drop 95 = dktX3_init_4 := dk_seg dksX3_init_3 24 rfl rfl
theorem dksX3_init_5 : cX3_init.data.toList.drop 119 = dktX3_init_5 := dk_seg dksX3_init_4 24 rfl rfl
theorem dksX3_init_6 : cX3_init.data.toList.drop 143 = dktX3_init_6 := dk_seg dksX3_init_5 24 rfl rfl
theorem dksX3_init_7 : cX3_init.data.toList.drop 167 = dktX3_init_7 := dk_seg dksX3_init_6 24 rfl rfl
theorem dksX3_init_8 : cX3_init.data.toList.drop 191 = dktX3_init_8 := dk_seg dksX3_init_7 24 rfl rfl
theorem dksX3_init_9 : cX3_init.data.toList.drop 215 = dktX3_init_9 := dk_seg dksX3_init_8 24 rfl rfl
theorem dksX3_init_10 : cX3_init.data.toList.drop 237 = dktX3_init_10 := dk_seg dksX3_init_9 22 rfl rfl
theorem dksX3_init_11 : cX3_init.data.toList.drop 260 = dktX3_init_11 := dk_seg dksX3_init_10 23 rfl rfl
theorem dksX3_init_12 : cX3_init.data.toList.drop 284 = dktX3_init_12 := dk_seg dksX3_init_11 24 rfl rfl
theorem dksX3_init_13 : cX3_init.data.toList.drop 306 = dktX3_init_13 := dk_seg dksX3_init_12 22 rfl rfl
theorem dksX3_init_14 : cX3_init.data.toList.drop 330 = dktX3_init_14 := dk_seg dksX3_init_13 24 rfl rfl
theorem dksX3_init_15 : cX3_init.data.toList.drop 354 = dktX3_init_15 := dk_seg dksX3_init_14 24 rfl rfl
theorem dksX3_init_16 : cX3_init.data.toList.drop 378 = dktX3_init_16 := dk_seg dksX3_init_15 24 rfl rfl
theorem dksX3_init_17 : cX3_init.data.toList.drop 402 = dktX3_init_17 := dk_seg dksX3_init_16 24 rfl rfl
theorem dX3_init_0 : decode cX3_init 0 = .ok (.aload_n 0, 1) := dk_42 (dk_at dksX3_init_0 0 rfl rfl)
theorem dX3_init_1 : decode cX3_init 1 = .ok (.invokespecial 1, 3) := dk_183 0 1 (dk_at dksX3_init_0 1 rfl rfl)
theorem dX3_init_4 : decode cX3_init 4 = .ok (.aload_n 0, 1) := dk_42 (dk_at dksX3_init_0 4 rfl rfl)
theorem dX3_init_5 : decode cX3_init 5 = .ok (.sipush 1320, 3) := dk_17 5 40 (dk_at dksX3_init_0 5 rfl rfl)
theorem dX3_init_8 : decode cX3_init 8 = .ok (.newarray .byte, 2) := dk_188_8 (dk_at dksX3_init_0 8 rfl rfl)
theorem dX3_init_10 : decode cX3_init 10 = .ok (.putfield 7, 3) := dk_181 0 7 (dk_at dksX3_init_0 10 rfl rfl)
theorem dX3_init_13 : decode cX3_init 13 = .ok (.aload_n 0, 1) := dk_42 (dk_at dksX3_init_0 13 rfl rfl)
theorem dX3_init_14 : decode cX3_init 14 = .ok (.sipush 1300, 3) := dk_17 5 20 (dk_at dksX3_init_0 14 rfl rfl)
theorem dX3_init_17 : decode cX3_init 17 = .ok (.newarray .byte, 2) := dk_188_8 (dk_at dksX3_init_0 17 rfl rfl)
theorem dX3_init_19 : decode cX3_init 19 = .ok (.putfield 13, 3) := dk_181 0 13 (dk_at dksX3_init_0 19 rfl rfl)
theorem dX3_init_22 : decode cX3_init 22 = .ok (.aload_n 0, 1) := dk_42 (dk_at dksX3_init_0 22 rfl rfl)
theorem dX3_init_23 : decode cX3_init 23 = .ok (.iconst (-1), 1) := dk_2 (dk_at dksX3_init_0 23 rfl rfl)
theorem dX3_init_24 : decode cX3_init 24 = .ok (.putfield 16, 3) := dk_181 0 16 (dk_at dksX3_init_1 0 rfl rfl)
theorem dX3_init_27 : decode cX3_init 27 = .ok (.aload_n 0, 1) := dk_42 (dk_at dksX3_init_1 3 rfl rfl)
theorem dX3_init_28 : decode cX3_init 28 = .ok (.iconst 2, 1) := dk_5 (dk_at dksX3_init_1 4 rfl rfl)
theorem dX3_init_29 : decode cX3_init 29 = .ok (.newarray .int, 2) := dk_188_10 (dk_at dksX3_init_1 5 rfl rfl)
theorem dX3_init_31 : decode cX3_init 31 = .ok (.putfield 20, 3) := dk_181 0 20 (dk_at dksX3_init_1 7 rfl rfl)
theorem dX3_init_34 : decode cX3_init 34 = .ok (.aload_n 0, 1) := dk_42 (dk_at dksX3_init_1 10 rfl rfl)
theorem dX3_init_35 : decode cX3_init 35 = .ok (.iconst 2, 1) := dk_5 (dk_at dksX3_init_1 11 rfl rfl)
theorem dX3_init_36 : decode cX3_init 36 = .ok (.newarray .int, 2) := dk_188_10 (dk_at dksX3_init_1 12 rfl rfl)
theorem dX3_init_38 : decode cX3_init 38 = .ok (.putfield 24, 3) := dk_181 0 24 (dk_at dksX3_init_1 14 rfl rfl)
theorem dX3_init_41 : decode cX3_init 41 = .ok (.aload_n 0, 1) := dk_42 (dk_at dksX3_init_1 17 rfl rfl)
theorem dX3_init_42 : decode cX3_init 42 = .ok (.iconst 2, 1) := dk_5 (dk_at dksX3_init_1 18 rfl rfl)
theorem dX3_init_43 : decode cX3_init 43 = .ok (.newarray .int, 2) := dk_188_10 (dk_at dksX3_init_1 19 rfl rfl)
theorem dX3_init_45 : decode cX3_init 45 = .ok (.putfield 27, 3) := dk_181 0 27 (dk_at dksX3_init_1 21 rfl rfl)
theorem dX3_init_48 : decode cX3_init 48 = .ok (.aload_n 0, 1) := dk_42 (dk_at dksX3_init_2 0 rfl rfl)
theorem dX3_init_49 : decode cX3_init 49 = .ok (.iconst 2, 1) := dk_5 (dk_at dksX3_init_2 1 rfl rfl)
theorem dX3_init_50 : decode cX3_init 50 = .ok (.newarray .int, 2) := dk_188_10 (dk_at dksX3_init_2 2 rfl rfl)
theorem dX3_init_52 : decode cX3_init 52 = .ok (.putfield 30, 3) := dk_181 0 30 (dk_at dksX3_init_2 4 rfl rfl)
theorem dX3_init_55 : decode cX3_init 55 = .ok (.aload_n 0, 1) := dk_42 (dk_at dksX3_init_2 7 rfl rfl)
theorem dX3_init_56 : decode cX3_init 56 = .ok (.iconst 2, 1) := dk_5 (dk_at dksX3_init_2 8 rfl rfl)
theorem dX3_init_57 : decode cX3_init 57 = .ok (.newarray .int, 2) := dk_188_10 (dk_at dksX3_init_2 9 rfl rfl)
theorem dX3_init_59 : decode cX3_init 59 = .ok (.putfield 33, 3) := dk_181 0 33 (dk_at dksX3_init_2 11 rfl rfl)
theorem dX3_init_62 : decode cX3_init 62 = .ok (.aload_n 0, 1) := dk_42 (dk_at dksX3_init_2 14 rfl rfl)
theorem dX3_init_63 : decode cX3_init 63 = .ok (.bipush 24, 2) := dk_16 24 (dk_at dksX3_init_2 15 rfl rfl)
theorem dX3_init_65 : decode cX3_init 65 = .ok (.newarray .int, 2) := dk_188_10 (dk_at dksX3_init_2 17 rfl rfl)
theorem dX3_init_67 : decode cX3_init 67 = .ok (.putfield 36, 3) := dk_181 0 36 (dk_at dksX3_init_2 19 rfl rfl)
theorem dX3_init_70 : decode cX3_init 70 = .ok (.aload_n 0, 1) := dk_42 (dk_at dksX3_init_2 22 rfl rfl)
theorem dX3_init_71 : decode cX3_init 71 = .ok (.bipush 24, 2) := dk_16 24 (dk_at dksX3_init_3 0 rfl rfl)
theorem dX3_init_73 : decode cX3_init 73 = .ok (.newarray .int, 2) := dk_188_10 (dk_at dksX3_init_3 2 rfl rfl)
theorem dX3_init_75 : decode cX3_init 75 = .ok (.putfield 39, 3) := dk_181 0 39 (dk_at dksX3_init_3 4 rfl rfl)
theorem dX3_init_78 : decode cX3_init 78 = .ok (.aload_n 0, 1) := dk_42 (dk_at dksX3_init_3 7 rfl rfl)
theorem dX3_init_79 : decode cX3_init 79 = .ok (.bipush 24, 2) := dk_16 24 (dk_at dksX3_init_3 8 rfl rfl)
theorem dX3_init_81 : decode cX3_init 81 = .ok (.newarray .int, 2) := dk_188_10 (dk_at dksX3_init_3 10 rfl rfl)
theorem dX3_init_83 : decode cX3_init 83 = .ok (.putfield 42, 3) := dk_181 0 42 (dk_at dksX3_init_3 12 rfl rfl)
theorem dX3_init_86 : decode cX3_init 86 = .ok (.aload_n 0, 1) := dk_42 (dk_at dksX3_init_3 15 rfl rfl)
theorem dX3_init_87 : decode cX3_init 87 = .ok (.bipush 24, 2) := dk_16 24 (dk_at dksX3_init_3 16 rfl rfl)
theorem dX3_init_89 : decode cX3_init 89 = .ok (.newarray .int, 2) := dk_188_10 (dk_at dksX3_init_3 18 rfl rfl)
theorem dX3_init_91 : decode cX3_init 91 = .ok (.putfield 45, 3) := dk_181 0 45 (dk_at dksX3_init_3 20 rfl rfl)
theorem dX3_init_94 : decode cX3_init 94 = .ok (.aload_n 0, 1) := dk_42 (dk_at dksX3_init_3 23 rfl rfl)
theorem dX3_init_95 : decode cX3_init 95 = .ok (.bipush 32, 2) := dk_16 32 (dk_at dksX3_init_4 0 rfl rfl)
theorem dX3_init_97 : decode cX3_init 97 = .ok (.newarray .int, 2) := dk_188_10 (dk_at dksX3_init_4 2 rfl rfl)
theorem dX3_init_99 : decode cX3_init 99 = .ok (.putfield 48, 3) := dk_181 0 48 (dk_at dksX3_init_4 4 rfl rfl)
theorem dX3_init_102 : decode cX3_init 102 = .ok (.aload_n 0, 1) := dk_42 (dk_at dksX3_init_4 7 rfl rfl)
theorem dX3_init_103 : decode cX3_init 103 = .ok (.bipush 32, 2) := dk_16 32 (dk_at dksX3_init_4 8 rfl rfl)
theorem dX3_init_105 : decode cX3_init 105 = .ok (.newarray .int, 2) := dk_188_10 (dk_at dksX3_init_4 10 rfl rfl)
theorem dX3_init_107 : decode cX3_init 107 = .ok (.putfield 51, 3) := dk_181 0 51 (dk_at dksX3_init_4 12 rfl rfl)
theorem dX3_init_110 : decode cX3_init 110 = .ok (.aload_n 0, 1) := dk_42 (dk_at dksX3_init_4 15 rfl rfl)
theorem dX3_init_111 : decode cX3_init 111 = .ok (.bipush 32, 2) := dk_16 32 (dk_at dksX3_init_4 16 rfl rfl)
theorem dX3_init_113 : decode cX3_init 113 = .ok (.newarray .int, 2) := dk_188_10 (dk_at dksX3_init_4 18 rfl rfl)
theorem dX3_init_115 : decode cX3_init 115 = .ok (.putfield 54, 3) := dk_181 0 54 (dk_at dksX3_init_4 20 rfl rfl)
theorem dX3_init_118 : decode cX3_init 118 = .ok (.aload_n 0, 1) := dk_42 (dk_at dksX3_init_4 23 rfl rfl)
theorem dX3_init_119 : decode cX3_init 119 = .ok (.bipush 32, 2) := dk_16 32 (dk_at dksX3_init_5 0 rfl rfl)
theorem dX3_init_121 : decode cX3_init 121 = .ok (.newarray .int, 2) := dk_188_10 (dk_at dksX3_init_5 2 rfl rfl)
theorem dX3_init_123 : decode cX3_init 123 = .ok (.putfield 57, 3) := dk_181 0 57 (dk_at dksX3_init_5 4 rfl rfl)
theorem dX3_init_126 : decode cX3_init 126 = .ok (.aload_n 0, 1) := dk_42 (dk_at dksX3_init_5 7 rfl rfl)
theorem dX3_init_127 : decode cX3_init 127 = .ok (.bipush 32, 2) := dk_16 32 (dk_at dksX3_init_5 8 rfl rfl)
theorem dX3_init_129 : decode cX3_init 129 = .ok (.newarray .int, 2) := dk_188_10 (dk_at dksX3_init_5 10 rfl rfl)
theorem dX3_init_131 : decode cX3_init 131 = .ok (.putfield 60, 3) := dk_181 0 60 (dk_at dksX3_init_5 12 rfl rfl)
theorem dX3_init_134 : decode cX3_init 134 = .ok (.aload_n 0, 1) := dk_42 (dk_at dksX3_init_5 15 rfl rfl)
theorem dX3_init_135 : decode cX3_init 135 = .ok (.bipush 32, 2) := dk_16 32 (dk_at dksX3_init_5 16 rfl rfl)
theorem dX3_init_137 : decode cX3_init 137 = .ok (.newarray .int, 2) := dk_188_10 (dk_at dksX3_init_5 18 rfl rfl)
theorem dX3_init_139 : decode cX3_init 139 = .ok (.putfield 63, 3) := dk_181 0 63 (dk_at dksX3_init_5 20 rfl rfl)
theorem dX3_init_142 : decode cX3_init 142 = .ok (.aload_n 0, 1) := dk_42 (dk_at dksX3_init_5 23 rfl rfl)
theorem dX3_init_143 : decode cX3_init 143 = .ok (.bipush 6, 2) := dk_16 6 (dk_at dksX3_init_6 0 rfl rfl)
theorem dX3_init_145 : decode cX3_init 145 = .ok (.newarray .int, 2) := dk_188_10 (dk_at dksX3_init_6 2 rfl rfl)
theorem dX3_init_147 : decode cX3_init 147 = .ok (.putfield 66, 3) := dk_181 0 66 (dk_at dksX3_init_6 4 rfl rfl)
theorem dX3_init_150 : decode cX3_init 150 = .ok (.aload_n 0, 1) := dk_42 (dk_at dksX3_init_6 7 rfl rfl)
theorem dX3_init_151 : decode cX3_init 151 = .ok (.bipush 6, 2) := dk_16 6 (dk_at dksX3_init_6 8 rfl rfl)
theorem dX3_init_153 : decode cX3_init 153 = .ok (.newarray .int, 2) := dk_188_10 (dk_at dksX3_init_6 10 rfl rfl)
theorem dX3_init_155 : decode cX3_init 155 = .ok (.putfield 69, 3) := dk_181 0 69 (dk_at dksX3_init_6 12 rfl rfl)
theorem dX3_init_158 : decode cX3_init 158 = .ok (.aload_n 0, 1) := dk_42 (dk_at dksX3_init_6 15 rfl rfl)
theorem dX3_init_159 : decode cX3_init 159 = .ok (.sipush 128, 3) := dk_17 0 128 (dk_at dksX3_init_6 16 rfl rfl)
theorem dX3_init_162 : decode cX3_init 162 = .ok (.newarray .int, 2) := dk_188_10 (dk_at dksX3_init_6 19 rfl rfl)
theorem dX3_init_164 : decode cX3_init 164 = .ok (.putfield 72, 3) := dk_181 0 72 (dk_at dksX3_init_6 21 rfl rfl)
theorem dX3_init_167 : decode cX3_init 167 = .ok (.aload_n 0, 1) := dk_42 (dk_at dksX3_init_7 0 rfl rfl)
theorem dX3_init_168 : decode cX3_init 168 = .ok (.bipush 16, 2) := dk_16 16 (dk_at dksX3_init_7 1 rfl rfl)
theorem dX3_init_170 : decode cX3_init 170 = .ok (.newarray .boolean, 2) := dk_188_4 (dk_at dksX3_init_7 3 rfl rfl)
theorem dX3_init_172 : decode cX3_init 172 = .ok (.putfield 75, 3) := dk_181 0 75 (dk_at dksX3_init_7 5 rfl rfl)
theorem dX3_init_175 : decode cX3_init 175 = .ok (.aload_n 0, 1) := dk_42 (dk_at dksX3_init_7 8 rfl rfl)
theorem dX3_init_176 : decode cX3_init 176 = .ok (.bipush 24, 2) := dk_16 24 (dk_at dksX3_init_7 9 rfl rfl)
theorem dX3_init_178 : decode cX3_init 178 = .ok (.newarray .long, 2) := dk_188_11 (dk_at dksX3_init_7 11 rfl rfl)
theorem dX3_init_180 : decode cX3_init 180 = .ok (.putfield 79, 3) := dk_181 0 79 (dk_at dksX3_init_7 13 rfl rfl)
theorem dX3_init_183 : decode cX3_init 183 = .ok (.aload_n 0, 1) := dk_42 (dk_at dksX3_init_7 16 rfl rfl)
theorem dX3_init_184 : decode cX3_init 184 = .ok (.iconst 4, 1) := dk_7 (dk_at dksX3_init_7 17 rfl rfl)
theorem dX3_init_185 : decode cX3_init 185 = .ok (.newarray .int, 2) := dk_188_10 (dk_at dksX3_init_7 18 rfl rfl)
theorem dX3_init_187 : decode cX3_init 187 = .ok (.putfield 83, 3) := dk_181 0 83 (dk_at dksX3_init_7 20 rfl rfl)
theorem dX3_init_190 : decode cX3_init 190 = .ok (.aload_n 0, 1) := dk_42 (dk_at dksX3_init_7 23 rfl rfl)
theorem dX3_init_191 : decode cX3_init 191 = .ok (.bipush 16, 2) := dk_16 16 (dk_at dksX3_init_8 0 rfl rfl)
theorem dX3_init_193 : decode cX3_init 193 = .ok (.newarray .int, 2) := dk_188_10 (dk_at dksX3_init_8 2 rfl rfl)
theorem dX3_init_195 : decode cX3_init 195 = .ok (.putfield 86, 3) := dk_181 0 86 (dk_at dksX3_init_8 4 rfl rfl)
theorem dX3_init_198 : decode cX3_init 198 = .ok (.aload_n 0, 1) := dk_42 (dk_at dksX3_init_8 7 rfl rfl)
theorem dX3_init_199 : decode cX3_init 199 = .ok (.bipush 16, 2) := dk_16 16 (dk_at dksX3_init_8 8 rfl rfl)
theorem dX3_init_201 : decode cX3_init 201 = .ok (.newarray .int, 2) := dk_188_10 (dk_at dksX3_init_8 10 rfl rfl)
theorem dX3_init_203 : decode cX3_init 203 = .ok (.putfield 89, 3) := dk_181 0 89 (dk_at dksX3_init_8 12 rfl rfl)
theorem dX3_init_206 : decode cX3_init 206 = .ok (.aload_n 0, 1) := dk_42 (dk_at dksX3_init_8 15 rfl rfl)
theorem dX3_init_207 : decode cX3_init 207 = .ok (.sipush 2800, 3) := dk_17 10 240 (dk_at dksX3_init_8 16 rfl rfl)
theorem dX3_init_210 : decode cX3_init 210 = .ok (.newarray .int, 2) := dk_188_10 (dk_at dksX3_init_8 19 rfl rfl)
theorem dX3_init_212 : decode cX3_init 212 = .ok (.putfield 92, 3) := dk_181 0 92 (dk_at dksX3_init_8 21 rfl rfl)
theorem dX3_init_215 : decode cX3_init 215 = .ok (.aload_n 0, 1) := dk_42 (dk_at dksX3_init_9 0 rfl rfl)
theorem dX3_init_216 : decode cX3_init 216 = .ok (.sipush 2800, 3) := dk_17 10 240 (dk_at dksX3_init_9 1 rfl rfl)
theorem dX3_init_219 : decode cX3_init 219 = .ok (.newarray .int, 2) := dk_188_10 (dk_at dksX3_init_9 4 rfl rfl)
theorem dX3_init_221 : decode cX3_init 221 = .ok (.putfield 95, 3) := dk_181 0 95 (dk_at dksX3_init_9 6 rfl rfl)
theorem dX3_init_224 : decode cX3_init 224 = .ok (.aload_n 0, 1) := dk_42 (dk_at dksX3_init_9 9 rfl rfl)
theorem dX3_init_225 : decode cX3_init 225 = .ok (.bipush 80, 2) := dk_16 80 (dk_at dksX3_init_9 10 rfl rfl)
theorem dX3_init_227 : decode cX3_init 227 = .ok (.newarray .int, 2) := dk_188_10 (dk_at dksX3_init_9 12 rfl rfl)
theorem dX3_init_229 : decode cX3_init 229 = .ok (.putfield 98, 3) := dk_181 0 98 (dk_at dksX3_init_9 14 rfl rfl)
theorem dX3_init_232 : decode cX3_init 232 = .ok (.aload_n 0, 1) := dk_42 (dk_at dksX3_init_9 17 rfl rfl)
theorem dX3_init_233 : decode cX3_init 233 = .ok (.bipush 80, 2) := dk_16 80 (dk_at dksX3_init_9 18 rfl rfl)
theorem dX3_init_235 : decode cX3_init 235 = .ok (.newarray .int, 2) := dk_188_10 (dk_at dksX3_init_9 20 rfl rfl)
theorem dX3_init_237 : decode cX3_init 237 = .ok (.putfield 101, 3) := dk_181 0 101 (dk_at dksX3_init_10 0 rfl rfl)
theorem dX3_init_240 : decode cX3_init 240 = .ok (.aload_n 0, 1) := dk_42 (dk_at dksX3_init_10 3 rfl rfl)
theorem dX3_init_241 : decode cX3_init 241 = .ok (.bipush 90, 2) := dk_16 90 (dk_at dksX3_init_10 4 rfl rfl)
theorem dX3_init_243 : decode cX3_init 243 = .ok (.newarray .int, 2) := dk_188_10 (dk_at dksX3_init_10 6 rfl rfl)
theorem dX3_init_245 : decode cX3_init 245 = .ok (.putfield 104, 3) := dk_181 0 104 (dk_at dksX3_init_10 8 rfl rfl)
theorem dX3_init_248 : decode cX3_init 248 = .ok (.aload_n 0, 1) := dk_42 (dk_at dksX3_init_10 11 rfl rfl)
theorem dX3_init_249 : decode cX3_init 249 = .ok (.bipush 16, 2) := dk_16 16 (dk_at dksX3_init_10 12 rfl rfl)
theorem dX3_init_251 : decode cX3_init 251 = .ok (.newarray .boolean, 2) := dk_188_4 (dk_at dksX3_init_10 14 rfl rfl)
theorem dX3_init_253 : decode cX3_init 253 = .ok (.putfield 107, 3) := dk_181 0 107 (dk_at dksX3_init_10 16 rfl rfl)
theorem dX3_init_256 : decode cX3_init 256 = .ok (.aload_n 0, 1) := dk_42 (dk_at dksX3_init_10 19 rfl rfl)
theorem dX3_init_257 : decode cX3_init 257 = .ok (.sipush 200, 3) := dk_17 0 200 (dk_at dksX3_init_10 20 rfl rfl)
theorem dX3_init_260 : decode cX3_init 260 = .ok (.newarray .int, 2) := dk_188_10 (dk_at dksX3_init_11 0 rfl rfl)
theorem dX3_init_262 : decode cX3_init 262 = .ok (.putfield 110, 3) := dk_181 0 110 (dk_at dksX3_init_11 2 rfl rfl)
theorem dX3_init_265 : decode cX3_init 265 = .ok (.aload_n 0, 1) := dk_42 (dk_at dksX3_init_11 5 rfl rfl)
theorem dX3_init_266 : decode cX3_init 266 = .ok (.sipush 200, 3) := dk_17 0 200 (dk_at dksX3_init_11 6 rfl rfl)
theorem dX3_init_269 : decode cX3_init 269 = .ok (.newarray .int, 2) := dk_188_10 (dk_at dksX3_init_11 9 rfl rfl)
theorem dX3_init_271 : decode cX3_init 271 = .ok (.putfield 113, 3) := dk_181 0 113 (dk_at dksX3_init_11 11 rfl rfl)
theorem dX3_init_274 : decode cX3_init 274 = .ok (.aload_n 0, 1) := dk_42 (dk_at dksX3_init_11 14 rfl rfl)
theorem dX3_init_275 : decode cX3_init 275 = .ok (.sipush 200, 3) := dk_17 0 200 (dk_at dksX3_init_11 15 rfl rfl)
theorem dX3_init_278 : decode cX3_init 278 = .ok (.newarray .int, 2) := dk_188_10 (dk_at dksX3_init_11 18 rfl rfl)
theorem dX3_init_280 : decode cX3_init 280 = .ok (.putfield 116, 3) := dk_181 0 116 (dk_at dksX3_init_11 20 rfl rfl)
theorem dX3_init_283 : decode cX3_init 283 = .ok (.aload_n 0, 1) := dk_42 (dk_at dksX3_init_11 23 rfl rfl)
theorem dX3_init_284 : decode cX3_init 284 = .ok (.sipush 200, 3) := dk_17 0 200 (dk_at dksX3_init_12 0 rfl rfl)
theorem dX3_init_287 : decode cX3_init 287 = .ok (.newarray .int, 2) := dk_188_10 (dk_at dksX3_init_12 3 rfl rfl)
theorem dX3_init_289 : decode cX3_init 289 = .ok (.putfield 119, 3) := dk_181 0 119 (dk_at dksX3_init_12 5 rfl rfl)
theorem dX3_init_292 : decode cX3_init 292 = .ok (.aload_n 0, 1) := dk_42 (dk_at dksX3_init_12 8 rfl rfl)
theorem dX3_init_293 : decode cX3_init 293 = .ok (.sipush 200, 3) := dk_17 0 200 (dk_at dksX3_init_12 9 rfl rfl)
theorem dX3_init_296 : decode cX3_init 296 = .ok (.newarray .int, 2) := dk_188_10 (dk_at dksX3_init_12 12 rfl rfl)
theorem dX3_init_298 : decode cX3_init 298 = .ok (.putfield 122, 3) := dk_181 0 122 (dk_at dksX3_init_12 14 rfl rfl)
theorem dX3_init_301 : decode cX3_init 301 = .ok (.aload_n 0, 1) := dk_42 (dk_at dksX3_init_12 17 rfl rfl)
theorem dX3_init_302 : decode cX3_init 302 = .ok (.bipush 12, 2) := dk_16 12 (dk_at dksX3_init_12 18 rfl rfl)
theorem dX3_init_304 : decode cX3_init 304 = .ok (.newarray .int, 2) := dk_188_10 (dk_at dksX3_init_12 20 rfl rfl)
theorem dX3_init_306 : decode cX3_init 306 = .ok (.putfield 125, 3) := dk_181 0 125 (dk_at dksX3_init_13 0 rfl rfl)
theorem dX3_init_309 : decode cX3_init 309 = .ok (.aload_n 0, 1) := dk_42 (dk_at dksX3_init_13 3 rfl rfl)
theorem dX3_init_310 : decode cX3_init 310 = .ok (.bipush 12, 2) := dk_16 12 (dk_at dksX3_init_13 4 rfl rfl)
theorem dX3_init_312 : decode cX3_init 312 = .ok (.newarray .int, 2) := dk_188_10 (dk_at dksX3_init_13 6 rfl rfl)
theorem dX3_init_314 : decode cX3_init 314 = .ok (.putfield 128, 3) := dk_181 0 128 (dk_at dksX3_init_13 8 rfl rfl)
theorem dX3_init_317 : decode cX3_init 317 = .ok (.aload_n 0, 1) := dk_42 (dk_at dksX3_init_13 11 rfl rfl)
theorem dX3_init_318 : decode cX3_init 318 = .ok (.bipush 12, 2) := dk_16 12 (dk_at dksX3_init_13 12 rfl rfl)
theorem dX3_init_320 : decode cX3_init 320 = .ok (.newarray .int, 2) := dk_188_10 (dk_at dksX3_init_13 14 rfl rfl)
theorem dX3_init_322 : decode cX3_init 322 = .ok (.putfield 131, 3) := dk_181 0 131 (dk_at dksX3_init_13 16 rfl rfl)
theorem dX3_init_325 : decode cX3_init 325 = .ok (.aload_n 0, 1) := dk_42 (dk_at dksX3_init_13 19 rfl rfl)
theorem dX3_init_326 : decode cX3_init 326 = .ok (.ldc 134, 2) := dk_18 134 (dk_at dksX3_init_13 20 rfl rfl)
theorem dX3_init_328 : decode cX3_init 328 = .ok (.newarray .int, 2) := dk_188_10 (dk_at dksX3_init_13 22 rfl rfl)
theorem dX3_init_330 : decode cX3_init 330 = .ok (.putfield 135, 3) := dk_181 0 135 (dk_at dksX3_init_14 0 rfl rfl)
theorem dX3_init_333 : decode cX3_init 333 = .ok (.aload_n 0, 1) := dk_42 (dk_at dksX3_init_14 3 rfl rfl)
theorem dX3_init_334 : decode cX3_init 334 = .ok (.iconst 3, 1) := dk_6 (dk_at dksX3_init_14 4 rfl rfl)
theorem dX3_init_335 : decode cX3_init 335 = .ok (.newarray .int, 2) := dk_188_10 (dk_at dksX3_init_14 5 rfl rfl)
theorem dX3_init_337 : decode cX3_init 337 = .ok (.putfield 138, 3) := dk_181 0 138 (dk_at dksX3_init_14 7 rfl rfl)
theorem dX3_init_340 : decode cX3_init 340 = .ok (.aload_n 0, 1) := dk_42 (dk_at dksX3_init_14 10 rfl rfl)
theorem dX3_init_341 : decode cX3_init 341 = .ok (.iconst 2, 1) := dk_5 (dk_at dksX3_init_14 11 rfl rfl)
theorem dX3_init_342 : decode cX3_init 342 = .ok (.putfield 141, 3) := dk_181 0 141 (dk_at dksX3_init_14 12 rfl rfl)
theorem dX3_init_345 : decode cX3_init 345 = .ok (.aload_n 0, 1) := dk_42 (dk_at dksX3_init_14 15 rfl rfl)
theorem dX3_init_346 : decode cX3_init 346 = .ok (.sipush 6400, 3) := dk_17 25 0 (dk_at dksX3_init_14 16 rfl rfl)
theorem dX3_init_349 : decode cX3_init 349 = .ok (.newarray .int, 2) := dk_188_10 (dk_at dksX3_init_14 19 rfl rfl)
theorem dX3_init_351 : decode cX3_init 351 = .ok (.putfield 144, 3) := dk_181 0 144 (dk_at dksX3_init_14 21 rfl rfl)
theorem dX3_init_354 : decode cX3_init 354 = .ok (.aload_n 0, 1) := dk_42 (dk_at dksX3_init_15 0 rfl rfl)
theorem dX3_init_355 : decode cX3_init 355 = .ok (.bipush 10, 2) := dk_16 10 (dk_at dksX3_init_15 1 rfl rfl)
theorem dX3_init_357 : decode cX3_init 357 = .ok (.newarray .int, 2) := dk_188_10 (dk_at dksX3_init_15 3 rfl rfl)
theorem dX3_init_359 : decode cX3_init 359 = .ok (.putfield 147, 3) := dk_181 0 147 (dk_at dksX3_init_15 5 rfl rfl)
theorem dX3_init_362 : decode cX3_init 362 = .ok (.aload_n 0, 1) := dk_42 (dk_at dksX3_init_15 8 rfl rfl)
theorem dX3_init_363 : decode cX3_init 363 = .ok (.bipush 10, 2) := dk_16 10 (dk_at dksX3_init_15 9 rfl rfl)
theorem dX3_init_365 : decode cX3_init 365 = .ok (.newarray .int, 2) := dk_188_10 (dk_at dksX3_init_15 11 rfl rfl)
theorem dX3_init_367 : decode cX3_init 367 = .ok (.putfield 150, 3) := dk_181 0 150 (dk_at dksX3_init_15 13 rfl rfl)
theorem dX3_init_370 : decode cX3_init 370 = .ok (.aload_n 0, 1) := dk_42 (dk_at dksX3_init_15 16 rfl rfl)
theorem dX3_init_371 : decode cX3_init 371 = .ok (.bipush 10, 2) := dk_16 10 (dk_at dksX3_init_15 17 rfl rfl)
theorem dX3_init_373 : decode cX3_init 373 = .ok (.newarray .int, 2) := dk_188_10 (dk_at dksX3_init_15 19 rfl rfl)
theorem dX3_init_375 : decode cX3_init 375 = .ok (.putfield 153, 3) := dk_181 0 153 (dk_at dksX3_init_15 21 rfl rfl)
theorem dX3_init_378 : decode cX3_init 378 = .ok (.aload_n 0, 1) := dk_42 (dk_at dksX3_init_16 0 rfl rfl)
theorem dX3_init_379 : decode cX3_init 379 = .ok (.bipush 12, 2) := dk_16 12 (dk_at dksX3_init_16 1 rfl rfl)
theorem dX3_init_381 : decode cX3_init 381 = .ok (.newarray .int, 2) := dk_188_10 (dk_at dksX3_init_16 3 rfl rfl)
theorem dX3_init_383 : decode cX3_init 383 = .ok (.putfield 156, 3) := dk_181 0 156 (dk_at dksX3_init_16 5 rfl rfl)
theorem dX3_init_386 : decode cX3_init 386 = .ok (.aload_n 0, 1) := dk_42 (dk_at dksX3_init_16 8 rfl rfl)
theorem dX3_init_387 : decode cX3_init 387 = .ok (.bipush 12, 2) := dk_16 12 (dk_at dksX3_init_16 9 rfl rfl)
theorem dX3_init_389 : decode cX3_init 389 = .ok (.newarray .int, 2) := dk_188_10 (dk_at dksX3_init_16 11 rfl rfl)
theorem dX3_init_391 : decode cX3_init 391 = .ok (.putfield 159, 3) := dk_181 0 159 (dk_at dksX3_init_16 13 rfl rfl)
theorem dX3_init_394 : decode cX3_init 394 = .ok (.aload_n 0, 1) := dk_42 (dk_at dksX3_init_16 16 rfl rfl)
theorem dX3_init_395 : decode cX3_init 395 = .ok (.bipush 8, 2) := dk_16 8 (dk_at dksX3_init_16 17 rfl rfl)
theorem dX3_init_397 : decode cX3_init 397 = .ok (.newarray .int, 2) := dk_188_10 (dk_at dksX3_init_16 19 rfl rfl)
theorem dX3_init_399 : decode cX3_init 399 = .ok (.putfield 162, 3) := dk_181 0 162 (dk_at dksX3_init_16 21 rfl rfl)
theorem dX3_init_402 : decode cX3_init 402 = .ok (.aload_n 0, 1) := dk_42 (dk_at dksX3_init_17 0 rfl rfl)
theorem dX3_init_403 : decode cX3_init 403 = .ok (.bipush 8, 2) := dk_16 8 (dk_at dksX3_init_17 1 rfl rfl)
theorem dX3_init_405 : decode cX3_init 405 = .ok (.newarray .int, 2) := dk_188_10 (dk_at dksX3_init_17 3 rfl rfl)
theorem dX3_init_407 : decode cX3_init 407 = .ok (.putfield 165, 3) := dk_181 0 165 (dk_at dksX3_init_17 5 rfl rfl)
theorem dX3_init_410 : decode cX3_init 410 = .ok (.aload_n 0, 1) := dk_42 (dk_at dksX3_init_17 8 rfl rfl)
theorem dX3_init_411 : decode cX3_init 411 = .ok (.ldc 168, 2) := dk_18 168 (dk_at dksX3_init_17 9 rfl rfl)
theorem dX3_init_413 : decode cX3_init 413 = .ok (.newarray .boolean, 2) := dk_188_4 (dk_at dksX3_init_17 11 rfl rfl)
theorem dX3_init_415 : decode cX3_init 415 = .ok (.putfield 169, 3) := dk_181 0 169 (dk_at dksX3_init_17 13 rfl rfl)
theorem dX3_init_418 : decode cX3_init 418 = .ok (.return_, 1) := dk_177 (dk_at dksX3_init_17 16 rfl rfl)
abbrev cX3_isCompared : ByteArray := prog_24_method_49_code
def dkwX3_isCompared_2 : List UInt8 := [167, 0, 4, 3, 172]
abbrev dktX3_isCompared_2 : List UInt8 := dkwX3_isCompared_2 ++ []
def dkwX3_isCompared_1 : List UInt8 := [16, 6, 160, 0, 9, 132, 1, 255, 167, 255, 232, 42, 180, 0, 98, 27, 46, 7, 160, 0, 7, 4]
abbrev dktX3_isCompared_1 : List UInt8 := dkwX3_isCompared_1 ++ dktX3_isCompared_2
def dkwX3_isCompared_0 : List UInt8 := [42, 180, 1, 153, 4, 100, 60, 42, 180, 0, 98, 27, 46, 8, 159, 0, 14, 42, 180, 0, 98, 27, 46]
abbrev dktX3_isCompared_0 : List UInt8 := dkwX3_isCompared_0 ++ dktX3_isCompared_1
theorem dksX3_isCompared_0 : cX3_isCompared.data.toList.drop 0 = dktX3_isCompared_0 := by decide +kernel
theorem dksX3_isCompared_1 : cX3_isCompared.data.toList.drop 23 = dktX3_isCompared_1 := dk_seg dksX3_isCompared_0 23 rfl rfl
theorem dksX3_isCompared_2 : cX3_isCompared.data.toList.drop 45 = dktX3_isCompared_2 := dk_seg dksX3_isCompared_1 22 rfl rfl
theorem dX3_isCompared_0 : decode cX3_isCompared 0 = .ok (.aload_n 0, 1) := dk_42 (dk_at dksX3_isCompared_0 0 rfl rfl)
theorem dX3_isCompared_1 : decode cX3_isCompared 1 = .ok (.getfield 409, 3) := dk_180 1 153 (dk_at dksX3_isCompared_0 1 rfl rfl)
theorem dX3_isCompared_4 : decode cX3_isCompared 4 = .ok (.iconst 1, 1) := dk_4 (dk_at dksX3_isCompared_0 4 rfl rfl)
theorem dX3_isCompared_5 : decode cX3_isCompared 5 = .ok (.isub, 1) := dk_100 (dk_at dksX3_isCompared_0 5 rfl rfl)
theorem dX3_isCompared_6 : decode cX3_isCompared 6 = .ok (.istore_n 1, 1) := dk_60 (dk_at dksX3_isCompared_0 6 rfl rfl)
theorem dX3_isCompared_7 : decode cX3_isCompared 7 = .ok (.aload_n 0, 1) := dk_42 (dk_at dksX3_isCompared_0 7 rfl rfl)
theorem dX3_isCompared_8 : decode cX3_isCompared 8 = .ok (.getfield 98, 3) := dk_180 0 98 (dk_at dksX3_isCompared_0 8 rfl rfl)
theorem dX3_isCompared_11 : decode cX3_isCompared 11 = .ok (.iload_n 1, 1) := dk_27 (dk_at dksX3_isCompared_0 11 rfl rfl)
theorem dX3_isCompared_12 : decode cX3_isCompared 12 = .ok (.iaload, 1) := dk_46 (dk_at dksX3_isCompared_0 12 rfl rfl)
theorem dX3_isCompared_13 : decode cX3_isCompared 13 = .ok (.iconst 5, 1) := dk_8 (dk_at dksX3_isCompared_0 13 rfl rfl)
theorem dX3_isCompared_14 : decode cX3_isCompared 14 = .ok (.if_icmp .eq 14, 3) := dk_159 0 14 (dk_at dksX3_isCompared_0 14 rfl rfl)
theorem dX3_isCompared_17 : decode cX3_isCompared 17 = .ok (.aload_n 0, 1) := dk_42 (dk_at dksX3_isCompared_0 17 rfl rfl)
theorem dX3_isCompared_18 : decode cX3_isCompared 18 = .ok (.getfield 98, 3) := dk_180 0 98 (dk_at dksX3_isCompared_0 18 rfl rfl)
theorem dX3_isCompared_21 : decode cX3_isCompared 21 = .ok (.iload_n 1, 1) := dk_27 (dk_at dksX3_isCompared_0 21 rfl rfl)
theorem dX3_isCompared_22 : decode cX3_isCompared 22 = .ok (.iaload, 1) := dk_46 (dk_at dksX3_isCompared_0 22 rfl rfl)
theorem dX3_isCompared_23 : decode cX3_isCompared 23 = .ok (.bipush 6, 2) := dk_16 6 (dk_at dksX3_isCompared_1 0 rfl rfl)
theorem dX3_isCompared_25 : decode cX3_isCompared 25 = .ok (.if_icmp .ne 9, 3) := dk_160 0 9 (dk_at dksX3_isCompared_1 2 rfl rfl)
theorem dX3_isCompared_28 : decode cX3_isCompared 28 = .ok (.iinc 1 (-1), 3) := dk_132 1 255 (dk_at dksX3_isCompared_1 5 rfl rfl)
theorem dX3_isCompared_31 : decode cX3_isCompared 31 = .ok (.goto (-24), 3) := dk_167 255 232 (dk_at dksX3_isCompared_1 8 rfl rfl)
theorem dX3_isCompared_34 : decode cX3_isCompared 34 = .ok (.aload_n 0, 1) := dk_42 (dk_at dksX3_isCompared_1 11 rfl rfl)
theorem dX3_isCompared_35 : decode cX3_isCompared 35 = .ok (.getfield 98, 3) := dk_180 0 98 (dk_at dksX3_isCompared_1 12 rfl rfl)
theorem dX3_isCompared_38 : decode cX3_isCompared 38 = .ok (.iload_n 1, 1) := dk_27 (dk_at dksX3_isCompared_1 15 rfl rfl)
theorem dX3_isCompared_39 : decode cX3_isCompared 39 = .ok (.iaload, 1) := dk_46 (dk_at dksX3_isCompared_1 16 rfl rfl)
theorem dX3_isCompared_40 : decode cX3_isCompared 40 = .ok (.iconst 4, 1) := dk_7 (dk_at dksX3_isCompared_1 17 rfl rfl)
theorem dX3_isCompared_41 : decode cX3_isCompared 41 = .ok (.if_icmp .ne 7, 3) := dk_160 0 7 (dk_at dksX3_isCompared_1 18 rfl rfl)
theorem dX3_isCompared_44 : decode cX3_isCompared 44 = .ok (.iconst 1, 1) := dk_4 (dk_at dksX3_isCompared_1 21 rfl rfl)
theorem dX3_isCompared_45 : decode cX3_isCompared 45 = .ok (.goto 4, 3) := dk_167 0 4 (dk_at dksX3_isCompared_2 0 rfl rfl)
theorem dX3_isCompared_48 : decode cX3_isCompared 48 = .ok (.iconst 0, 1) := dk_3 (dk_at dksX3_isCompared_2 3 rfl rfl)
theorem dX3_isCompared_49 : decode cX3_isCompared 49 = .ok (.ireturn, 1) := dk_172 (dk_at dksX3_isCompared_2 4 rfl rfl)
abbrev cX3_isDigit : ByteArray := prog_24_method_4_code
def dkwX3_isDigit_0 : List UInt8 := [26, 16, 48, 161, 0, 13, 26, 16, 57, 163, 0, 7, 4, 167, 0, 4, 3, 172]
abbrev dktX3_isDigit_0 : List UInt8 := dkwX3_isDigit_0 ++ []
theorem dksX3_isDigit_0 : cX3_isDigit.data.toList.drop 0 = dktX3_isDigit_0 := by decide +kernel
theorem dX3_isDigit_0 : decode cX3_isDigit 0 = .ok (.iload_n 0, 1) := dk_26 (dk_at dksX3_isDigit_0 0 rfl rfl)
theorem dX3_isDigit_1 : decode cX3_isDigit 1 = .ok (.bipush 48, 2) := dk_16 48 (dk_at dksX3_isDigit_0 1 rfl rfl)
theorem dX3_isDigit_3 : decode cX3_isDigit 3 = .ok (.if_icmp .lt 13, 3) := dk_161 0 13 (dk_at dksX3_isDigit_0 3 rfl rfl)
theorem dX3_isDigit_6 : decode cX3_isDigit 6 = .ok (.iload_n 0, 1) := dk_26 (dk_at dksX3_isDigit_0 6 rfl rfl)
theorem dX3_isDigit_7 : decode cX3_isDigit 7 = .ok (.bipush 57, 2) := dk_16 57 (dk_at dksX3_isDigit_0 7 rfl rfl)
theorem dX3_isDigit_9 : decode cX3_isDigit 9 = .ok (.if_icmp .gt 7, 3) := dk_163 0 7 (dk_at dksX3_isDigit_0 9 rfl rfl)
theorem dX3_isDigit_12 : decode cX3_isDigit 12 = .ok (.iconst 1, 1) := dk_4 (dk_at dksX3_isDigit_0 12 rfl rfl)
theorem dX3_isDigit_13 : decode cX3_isDigit 13 = .ok (.goto 4, 3) := dk_167 0 4 (dk_at dksX3_isDigit_0 13 rfl rfl)
theorem dX3_isDigit_16 : decode cX3_isDigit 16 = .ok (.iconst 0, 1) := dk_3 (dk_at dksX3_isDigit_0 16 rfl rfl)
theorem dX3_isDigit_17 : decode cX3_isDigit 17 = .ok (.ireturn, 1) := dk_172 (dk_at dksX3_isDigit_0 17 rfl rfl)
abbrev cX3_isFuel : ByteArray := prog_24_method_83_code
def dkwX3_isFuel_1 : List UInt8 := [184, 1, 98, 167, 0, 12, 28, 154, 0, 7, 4, 167, 0, 4, 3, 172]
abbrev dktX3_isFuel_1 : List UInt8 := dkwX3_isFuel_1 ++ []
def dkwX3_isFuel_0 : List UInt8 := [27, 42, 182, 2, 8, 162, 0, 24, 28, 3, 42, 180, 0, 69, 6, 42, 180, 1, 44, 104, 27, 96, 46]
abbrev dktX3_isFuel_0 : List UInt8 := dkwX3_isFuel_0 ++ dktX3_isFuel_1
theorem dksX3_isFuel_0 : cX3_isFuel.data.toList.drop 0 = dktX3_isFuel_0 := by decide +kernel
theorem dksX3_isFuel_1 : cX3_isFuel.data.toList.drop 23 = dktX3_isFuel_1 := dk_seg dksX3_isFuel_0 23 rfl rfl
theorem dX3_isFuel_0 : decode cX3_isFuel 0 = .ok (.iload_n 1, 1) := dk_27 (dk_at dksX3_isFuel_0 0 rfl rfl)
theorem dX3_isFuel_1 : decode cX3_isFuel 1 = .ok (.aload_n 0, 1) := dk_42 (dk_at dksX3_isFuel_0 1 rfl rfl)
theorem dX3_isFuel_2 : decode cX3_isFuel 2 = .ok (.invokevirtual 520, 3) := dk_182 2 8 (dk_at dksX3_isFuel_0 2 rfl rfl)
theorem dX3_isFuel_5 : decode cX3_isFuel 5 = .ok (.if_icmp .ge 24, 3) := dk_162 0 24 (dk_at dksX3_isFuel_0 5 rfl rfl)
theorem dX3_isFuel_8 : decode cX3_isFuel 8 = .ok (.iload_n 2, 1) := dk_28 (dk_at dksX3_isFuel_0 8 rfl rfl)
theorem dX3_isFuel_9 : decode cX3_isFuel 9 = .ok (.iconst 0, 1) := dk_3 (dk_at dksX3_isFuel_0 9 rfl rfl)
theorem dX3_isFuel_10 : decode cX3_isFuel 10 = .ok (.aload_n 0, 1) := dk_42 (dk_at dksX3_isFuel_0 10 rfl rfl)
theorem dX3_isFuel_11 : decode cX3_isFuel 11 = .ok (.getfield 69, 3) := dk_180 0 69 (dk_at dksX3_isFuel_0 11 rfl rfl)
theorem dX3_isFuel_14 : decode cX3_isFuel 14 = .ok (.iconst 3, 1) := dk_6 (dk_at dksX3_isFuel_0 14 rfl rfl)
theorem dX3_isFuel_15 : decode cX3_isFuel 15 = .ok (.aload_n 0, 1) := dk_42 (dk_at dksX3_isFuel_0 15 rfl rfl)
theorem dX3_isFuel_16 : decode cX3_isFuel 16 = .ok (.getfield 300, 3) := dk_180 1 44 (dk_at dksX3_isFuel_0 16 rfl rfl)
theorem dX3_isFuel_19 : decode cX3_isFuel 19 = .ok (.imul, 1) := dk_104 (dk_at dksX3_isFuel_0 19 rfl rfl)
theorem dX3_isFuel_20 : decode cX3_isFuel 20 = .ok (.iload_n 1, 1) := dk_27 (dk_at dksX3_isFuel_0 20 rfl rfl)
theorem dX3_isFuel_21 : decode cX3_isFuel 21 = .ok (.iadd, 1) := dk_96 (dk_at dksX3_isFuel_0 21 rfl rfl)
theorem dX3_isFuel_22 : decode cX3_isFuel 22 = .ok (.iaload, 1) := dk_46 (dk_at dksX3_isFuel_0 22 rfl rfl)
theorem dX3_isFuel_23 : decode cX3_isFuel 23 = .ok (.invokestatic 354, 3) := dk_184 1 98 (dk_at dksX3_isFuel_1 0 rfl rfl)
theorem dX3_isFuel_26 : decode cX3_isFuel 26 = .ok (.goto 12, 3) := dk_167 0 12 (dk_at dksX3_isFuel_1 3 rfl rfl)
theorem dX3_isFuel_29 : decode cX3_isFuel 29 = .ok (.iload_n 2, 1) := dk_28 (dk_at dksX3_isFuel_1 6 rfl rfl)
theorem dX3_isFuel_30 : decode cX3_isFuel 30 = .ok (.ifCond .ne 7, 3) := dk_154 0 7 (dk_at dksX3_isFuel_1 7 rfl rfl)
theorem dX3_isFuel_33 : decode cX3_isFuel 33 = .ok (.iconst 1, 1) := dk_4 (dk_at dksX3_isFuel_1 10 rfl rfl)
theorem dX3_isFuel_34 : decode cX3_isFuel 34 = .ok (.goto 4, 3) := dk_167 0 4 (dk_at dksX3_isFuel_1 11 rfl rfl)
theorem dX3_isFuel_37 : decode cX3_isFuel 37 = .ok (.iconst 0, 1) := dk_3 (dk_at dksX3_isFuel_1 14 rfl rfl)
theorem dX3_isFuel_38 : decode cX3_isFuel 38 = .ok (.ireturn, 1) := dk_172 (dk_at dksX3_isFuel_1 15 rfl rfl)
abbrev cX3_isFull : ByteArray := prog_24_method_17_code
def dkwX3_isFull_5 : List UInt8 := [172, 42, 20, 0, 206, 182, 1, 59, 154, 0, 7, 4, 167, 0, 4, 3, 172]
abbrev dktX3_isFull_5 : List UInt8 := dkwX3_isFull_5 ++ []
def dkwX3_isFull_4 : List UInt8 := [182, 1, 59, 153, 0, 22, 42, 180, 0, 33, 42, 180, 1, 47, 46, 6, 160, 0, 7, 4, 167, 0, 4, 3]
abbrev dktX3_isFull_4 : List UInt8 := dkwX3_isFull_4 ++ dktX3_isFull_5
def dkwX3_isFull_3 : List UInt8 := [180, 0, 30, 42, 180, 1, 47, 46, 16, 16, 160, 0, 7, 4, 167, 0, 4, 3, 172, 42, 20, 0, 200]
abbrev dktX3_isFull_3 : List UInt8 := dkwX3_isFull_3 ++ dktX3_isFull_4
def dkwX3_isFull_2 : List UInt8 := [46, 16, 16, 160, 0, 7, 4, 167, 0, 4, 3, 172, 42, 20, 0, 196, 182, 1, 59, 153, 0, 23, 42]
abbrev dktX3_isFull_2 : List UInt8 := dkwX3_isFull_2 ++ dktX3_isFull_3
def dkwX3_isFull_1 : List UInt8 := [4, 167, 0, 4, 3, 172, 42, 20, 0, 192, 182, 1, 59, 153, 0, 23, 42, 180, 0, 27, 42, 180, 1, 47]
abbrev dktX3_isFull_1 : List UInt8 := dkwX3_isFull_1 ++ dktX3_isFull_2
def dkwX3_isFull_0 : List UInt8 := [42, 20, 0, 178, 182, 1, 59, 153, 0, 23, 42, 180, 0, 24, 42, 180, 1, 47, 46, 16, 12, 160, 0, 7]
abbrev dktX3_isFull_0 : List UInt8 := dkwX3_isFull_0 ++ dktX3_isFull_1
theorem dksX3_isFull_0 : cX3_isFull.data.toList.drop 0 = dktX3_isFull_0 := by decide +kernel
theorem dksX3_isFull_1 : cX3_isFull.data.toList.drop 24 = dktX3_isFull_1 := dk_seg dksX3_isFull_0 24 rfl rfl
theorem dksX3_isFull_2 : cX3_isFull.data.toList.drop 48 = dktX3_isFull_2 := dk_seg dksX3_isFull_1 24 rfl rfl
theorem dksX3_isFull_3 : cX3_isFull.data.toList.drop 71 = dktX3_isFull_3 := dk_seg dksX3_isFull_2 23 rfl rfl
theorem dksX3_isFull_4 : cX3_isFull.data.toList.drop 94 = dktX3_isFull_4 := dk_seg dksX3_isFull_3 23 rfl rfl
theorem dksX3_isFull_5 : cX3_isFull.data.toList.drop 118 = dktX3_isFull_5 := dk_seg dksX3_isFull_4 24 rfl rfl
theorem dX3_isFull_0 : decode cX3_isFull 0 = .ok (.aload_n 0, 1) := dk_42 (dk_at dksX3_isFull_0 0 rfl rfl)
theorem dX3_isFull_1 : decode cX3_isFull 1 = .ok (.ldc2_w 178, 3) := dk_20 0 178 (dk_at dksX3_isFull_0 1 rfl rfl)
theorem dX3_isFull_4 : decode cX3_isFull 4 = .ok (.invokevirtual 315, 3) := dk_182 1 59 (dk_at dksX3_isFull_0 4 rfl rfl)
theorem dX3_isFull_7 : decode cX3_isFull 7 = .ok (.ifCond .eq 23, 3) := dk_153 0 23 (dk_at dksX3_isFull_0 7 rfl rfl)
theorem dX3_isFull_10 : decode cX3_isFull 10 = .ok (.aload_n 0, 1) := dk_42 (dk_at dksX3_isFull_0 10 rfl rfl)
theorem dX3_isFull_11 : decode cX3_isFull 11 = .ok (.getfield 24, 3) := dk_180 0 24 (dk_at dksX3_isFull_0 11 rfl rfl)
theorem dX3_isFull_14 : decode cX3_isFull 14 = .ok (.aload_n 0, 1) := dk_42 (dk_at dksX3_isFull_0 14 rfl rfl)
theorem dX3_isFull_15 : decode cX3_isFull 15 = .ok (.getfield 303, 3) := dk_180 1 47 (dk_at dksX3_isFull_0 15 rfl rfl)
theorem dX3_isFull_18 : decode cX3_isFull 18 = .ok (.iaload, 1) := dk_46 (dk_at dksX3_isFull_0 18 rfl rfl)
theorem dX3_isFull_19 : decode cX3_isFull 19 = .ok (.bipush 12, 2) := dk_16 12 (dk_at dksX3_isFull_0 19 rfl rfl)
theorem dX3_isFull_21 : decode cX3_isFull 21 = .ok (.if_icmp .ne 7, 3) := dk_160 0 7 (dk_at dksX3_isFull_0 21 rfl rfl)
theorem dX3_isFull_24 : decode cX3_isFull 24 = .ok (.iconst 1, 1) := dk_4 (dk_at dksX3_isFull_1 0 rfl rfl)
theorem dX3_isFull_25 : decode cX3_isFull 25 = .ok (.goto 4, 3) := dk_167 0 4 (dk_at dksX3_isFull_1 1 rfl rfl)
theorem dX3_isFull_28 : decode cX3_isFull 28 = .ok (.iconst 0, 1) := dk_3 (dk_at dksX3_isFull_1 4 rfl rfl)
theorem dX3_isFull_29 : decode cX3_isFull 29 = .ok (.ireturn, 1) := dk_172 (dk_at dksX3_isFull_1 5 rfl rfl)
theorem dX3_isFull_30 : decode cX3_isFull 30 = .ok (.aload_n 0, 1) := dk_42 (dk_at dksX3_isFull_1 6 rfl rfl)
theorem dX3_isFull_31 : decode cX3_isFull 31 = .ok (.ldc2_w 192, 3) := dk_20 0 192 (dk_at dksX3_isFull_1 7 rfl rfl)
theorem dX3_isFull_34 : decode cX3_isFull 34 = .ok (.invokevirtual 315, 3) := dk_182 1 59 (dk_at dksX3_isFull_1 10 rfl rfl)
theorem dX3_isFull_37 : decode cX3_isFull 37 = .ok (.ifCond .eq 23, 3) := dk_153 0 23 (dk_at dksX3_isFull_1 13 rfl rfl)
theorem dX3_isFull_40 : decode cX3_isFull 40 = .ok (.aload_n 0, 1) := dk_42 (dk_at dksX3_isFull_1 16 rfl rfl)
theorem dX3_isFull_41 : decode cX3_isFull 41 = .ok (.getfield 27, 3) := dk_180 0 27 (dk_at dksX3_isFull_1 17 rfl rfl)
theorem dX3_isFull_44 : decode cX3_isFull 44 = .ok (.aload_n 0, 1) := dk_42 (dk_at dksX3_isFull_1 20 rfl rfl)
theorem dX3_isFull_45 : decode cX3_isFull 45 = .ok (.getfield 303, 3) := dk_180 1 47 (dk_at dksX3_isFull_1 21 rfl rfl)
theorem dX3_isFull_48 : decode cX3_isFull 48 = .ok (.iaload, 1) := dk_46 (dk_at dksX3_isFull_2 0 rfl rfl)
theorem dX3_isFull_49 : decode cX3_isFull 49 = .ok (.bipush 16, 2) := dk_16 16 (dk_at dksX3_isFull_2 1 rfl rfl)
theorem dX3_isFull_51 : decode cX3_isFull 51 = .ok (.if_icmp .ne 7, 3) := dk_160 0 7 (dk_at dksX3_isFull_2 3 rfl rfl)
theorem dX3_isFull_54 : decode cX3_isFull 54 = .ok (.iconst 1, 1) := dk_4 (dk_at dksX3_isFull_2 6 rfl rfl)
theorem dX3_isFull_55 : decode cX3_isFull 55 = .ok (.goto 4, 3) := dk_167 0 4 (dk_at dksX3_isFull_2 7 rfl rfl)
theorem dX3_isFull_58 : decode cX3_isFull 58 = .ok (.iconst 0, 1) := dk_3 (dk_at dksX3_isFull_2 10 rfl rfl)
theorem dX3_isFull_59 : decode cX3_isFull 59 = .ok (.ireturn, 1) := dk_172 (dk_at dksX3_isFull_2 11 rfl rfl)
theorem dX3_isFull_60 : decode cX3_isFull 60 = .ok (.aload_n 0, 1) := dk_42 (dk_at dksX3_isFull_2 12 rfl rfl)
theorem dX3_isFull_61 : decode cX3_isFull 61 = .ok (.ldc2_w 196, 3) := dk_20 0 196 (dk_at dksX3_isFull_2 13 rfl rfl)
theorem dX3_isFull_64 : decode cX3_isFull 64 = .ok (.invokevirtual 315, 3) := dk_182 1 59 (dk_at dksX3_isFull_2 16 rfl rfl)
theorem dX3_isFull_67 : decode cX3_isFull 67 = .ok (.ifCond .eq 23, 3) := dk_153 0 23 (dk_at dksX3_isFull_2 19 rfl rfl)
theorem dX3_isFull_70 : decode cX3_isFull 70 = .ok (.aload_n 0, 1) := dk_42 (dk_at dksX3_isFull_2 22 rfl rfl)
theorem dX3_isFull_71 : decode cX3_isFull 71 = .ok (.getfield 30, 3) := dk_180 0 30 (dk_at dksX3_isFull_3 0 rfl rfl)
theorem dX3_isFull_74 : decode cX3_isFull 74 = .ok (.aload_n 0, 1) := dk_42 (dk_at dksX3_isFull_3 3 rfl rfl)
theorem dX3_isFull_75 : decode cX3_isFull 75 = .ok (.getfield 303, 3) := dk_180 1 47 (dk_at dksX3_isFull_3 4 rfl rfl)
theorem dX3_isFull_78 : decode cX3_isFull 78 = .ok (.iaload, 1) := dk_46 (dk_at dksX3_isFull_3 7 rfl rfl)
theorem dX3_isFull_79 : decode cX3_isFull 79 = .ok (.bipush 16, 2) := dk_16 16 (dk_at dksX3_isFull_3 8 rfl rfl)
theorem dX3_isFull_81 : decode cX3_isFull 81 = .ok (.if_icmp .ne 7, 3) := dk_160 0 7 (dk_at dksX3_isFull_3 10 rfl rfl)
theorem dX3_isFull_84 : decode cX3_isFull 84 = .ok (.iconst 1, 1) := dk_4 (dk_at dksX3_isFull_3 13 rfl rfl)
theorem dX3_isFull_85 : decode cX3_isFull 85 = .ok (.goto 4, 3) := dk_167 0 4 (dk_at dksX3_isFull_3 14 rfl rfl)
theorem dX3_isFull_88 : decode cX3_isFull 88 = .ok (.iconst 0, 1) := dk_3 (dk_at dksX3_isFull_3 17 rfl rfl)
theorem dX3_isFull_89 : decode cX3_isFull 89 = .ok (.ireturn, 1) := dk_172 (dk_at dksX3_isFull_3 18 rfl rfl)
theorem dX3_isFull_90 : decode cX3_isFull 90 = .ok (.aload_n 0, 1) := dk_42 (dk_at dksX3_isFull_3 19 rfl rfl)
theorem dX3_isFull_91 : decode cX3_isFull 91 = .ok (.ldc2_w 200, 3) := dk_20 0 200 (dk_at dksX3_isFull_3 20 rfl rfl)
theorem dX3_isFull_94 : decode cX3_isFull 94 = .ok (.invokevirtual 315, 3) := dk_182 1 59 (dk_at dksX3_isFull_4 0 rfl rfl)
theorem dX3_isFull_97 : decode cX3_isFull 97 = .ok (.ifCond .eq 22, 3) := dk_153 0 22 (dk_at dksX3_isFull_4 3 rfl rfl)
theorem dX3_isFull_100 : decode cX3_isFull 100 = .ok (.aload_n 0, 1) := dk_42 (dk_at dksX3_isFull_4 6 rfl rfl)
theorem dX3_isFull_101 : decode cX3_isFull 101 = .ok (.getfield 33, 3) := dk_180 0 33 (dk_at dksX3_isFull_4 7 rfl rfl)
theorem dX3_isFull_104 : decode cX3_isFull 104 = .ok (.aload_n 0, 1) := dk_42 (dk_at dksX3_isFull_4 10 rfl rfl)
theorem dX3_isFull_105 : decode cX3_isFull 105 = .ok (.getfield 303, 3) := dk_180 1 47 (dk_at dksX3_isFull_4 11 rfl rfl)
theorem dX3_isFull_108 : decode cX3_isFull 108 = .ok (.iaload, 1) := dk_46 (dk_at dksX3_isFull_4 14 rfl rfl)
theorem dX3_isFull_109 : decode cX3_isFull 109 = .ok (.iconst 3, 1) := dk_6 (dk_at dksX3_isFull_4 15 rfl rfl)
theorem dX3_isFull_110 : decode cX3_isFull 110 = .ok (.if_icmp .ne 7, 3) := dk_160 0 7 (dk_at dksX3_isFull_4 16 rfl rfl)
theorem dX3_isFull_113 : decode cX3_isFull 113 = .ok (.iconst 1, 1) := dk_4 (dk_at dksX3_isFull_4 19 rfl rfl)
theorem dX3_isFull_114 : decode cX3_isFull 114 = .ok (.goto 4, 3) := dk_167 0 4 (dk_at dksX3_isFull_4 20 rfl rfl)
theorem dX3_isFull_117 : decode cX3_isFull 117 = .ok (.iconst 0, 1) := dk_3 (dk_at dksX3_isFull_4 23 rfl rfl)
theorem dX3_isFull_118 : decode cX3_isFull 118 = .ok (.ireturn, 1) := dk_172 (dk_at dksX3_isFull_5 0 rfl rfl)
theorem dX3_isFull_119 : decode cX3_isFull 119 = .ok (.aload_n 0, 1) := dk_42 (dk_at dksX3_isFull_5 1 rfl rfl)
theorem dX3_isFull_120 : decode cX3_isFull 120 = .ok (.ldc2_w 206, 3) := dk_20 0 206 (dk_at dksX3_isFull_5 2 rfl rfl)
theorem dX3_isFull_123 : decode cX3_isFull 123 = .ok (.invokevirtual 315, 3) := dk_182 1 59 (dk_at dksX3_isFull_5 5 rfl rfl)
theorem dX3_isFull_126 : decode cX3_isFull 126 = .ok (.ifCond .ne 7, 3) := dk_154 0 7 (dk_at dksX3_isFull_5 8 rfl rfl)
theorem dX3_isFull_129 : decode cX3_isFull 129 = .ok (.iconst 1, 1) := dk_4 (dk_at dksX3_isFull_5 11 rfl rfl)
theorem dX3_isFull_130 : decode cX3_isFull 130 = .ok (.goto 4, 3) := dk_167 0 4 (dk_at dksX3_isFull_5 12 rfl rfl)
theorem dX3_isFull_133 : decode cX3_isFull 133 = .ok (.iconst 0, 1) := dk_3 (dk_at dksX3_isFull_5 15 rfl rfl)
theorem dX3_isFull_134 : decode cX3_isFull 134 = .ok (.ireturn, 1) := dk_172 (dk_at dksX3_isFull_5 16 rfl rfl)
abbrev cX3_isGood : ByteArray := prog_24_method_6_code
def dkwX3_isGood_0 : List UInt8 := [42, 180, 0, 175, 154, 0, 7, 4, 167, 0, 4, 3, 172]
abbrev dktX3_isGood_0 : List UInt8 := dkwX3_isGood_0 ++ []
theorem dksX3_isGood_0 : cX3_isGood.data.toList.drop 0 = dktX3_isGood_0 := by decide +kernel
theorem dX3_isGood_0 : decode cX3_isGood 0 = .ok (.aload_n 0, 1) := dk_42 (dk_at dksX3_isGood_0 0 rfl rfl)
theorem dX3_isGood_1 : decode cX3_isGood 1 = .ok (.getfield 175, 3) := dk_180 0 175 (dk_at dksX3_isGood_0 1 rfl rfl)
theorem dX3_isGood_4 : decode cX3_isGood 4 = .ok (.ifCond .ne 7, 3) := dk_154 0 7 (dk_at dksX3_isGood_0 4 rfl rfl)
theorem dX3_isGood_7 : decode cX3_isGood 7 = .ok (.iconst 1, 1) := dk_4 (dk_at dksX3_isGood_0 7 rfl rfl)
theorem dX3_isGood_8 : decode cX3_isGood 8 = .ok (.goto 4, 3) := dk_167 0 4 (dk_at dksX3_isGood_0 8 rfl rfl)
theorem dX3_isGood_11 : decode cX3_isGood 11 = .ok (.iconst 0, 1) := dk_3 (dk_at dksX3_isGood_0 11 rfl rfl)
theorem dX3_isGood_12 : decode cX3_isGood 12 = .ok (.ireturn, 1) := dk_172 (dk_at dksX3_isGood_0 12 rfl rfl)
abbrev cX3_isIn : ByteArray := prog_24_method_28_code
def dkwX3_isIn_0 : List UInt8 := [26, 27, 161, 0, 12, 26, 28, 163, 0, 7, 4, 167, 0, 4, 3, 172]
abbrev dktX3_isIn_0 : List UInt8 := dkwX3_isIn_0 ++ []
theorem dksX3_isIn_0 : cX3_isIn.data.toList.drop 0 = dktX3_isIn_0 := by decide +kernel
theorem dX3_isIn_0 : decode cX3_isIn 0 = .ok (.iload_n 0, 1) := dk_26 (dk_at dksX3_isIn_0 0 rfl rfl)
theorem dX3_isIn_1 : decode cX3_isIn 1 = .ok (.iload_n 1, 1) := dk_27 (dk_at dksX3_isIn_0 1 rfl rfl)
theorem dX3_isIn_2 : decode cX3_isIn 2 = .ok (.if_icmp .lt 12, 3) := dk_161 0 12 (dk_at dksX3_isIn_0 2 rfl rfl)
theorem dX3_isIn_5 : decode cX3_isIn 5 = .ok (.iload_n 0, 1) := dk_26 (dk_at dksX3_isIn_0 5 rfl rfl)
theorem dX3_isIn_6 : decode cX3_isIn 6 = .ok (.iload_n 2, 1) := dk_28 (dk_at dksX3_isIn_0 6 rfl rfl)
theorem dX3_isIn_7 : decode cX3_isIn 7 = .ok (.if_icmp .gt 7, 3) := dk_163 0 7 (dk_at dksX3_isIn_0 7 rfl rfl)
theorem dX3_isIn_10 : decode cX3_isIn 10 = .ok (.iconst 1, 1) := dk_4 (dk_at dksX3_isIn_0 10 rfl rfl)
theorem dX3_isIn_11 : decode cX3_isIn 11 = .ok (.goto 4, 3) := dk_167 0 4 (dk_at dksX3_isIn_0 11 rfl rfl)
theorem dX3_isIn_14 : decode cX3_isIn 14 = .ok (.iconst 0, 1) := dk_3 (dk_at dksX3_isIn_0 14 rfl rfl)
theorem dX3_isIn_15 : decode cX3_isIn 15 = .ok (.ireturn, 1) := dk_172 (dk_at dksX3_isIn_0 15 rfl rfl)
abbrev cX3_isKept : ByteArray := prog_24_method_7_code
def dkwX3_isKept_12 : List UInt8 := [20, 0, 244, 148, 154, 0, 7, 4, 167, 0, 4, 3, 172]
abbrev dktX3_isKept_12 : List UInt8 := dkwX3_isKept_12 ++ []
def dkwX3_isKept_11 : List UInt8 := [20, 0, 238, 148, 153, 0, 27, 30, 20, 0, 240, 148, 153, 0, 19, 30, 20, 0, 242, 148, 153, 0, 11, 30]
abbrev dktX3_isKept_11 : List UInt8 := dkwX3_isKept_11 ++ dktX3_isKept_12
def dkwX3_isKept_10 : List UInt8 := [20, 0, 232, 148, 153, 0, 51, 30, 20, 0, 234, 148, 153, 0, 43, 30, 20, 0, 236, 148, 153, 0, 35, 30]
abbrev dktX3_isKept_10 : List UInt8 := dkwX3_isKept_10 ++ dktX3_isKept_11
def dkwX3_isKept_9 : List UInt8 := [20, 0, 226, 148, 153, 0, 75, 30, 20, 0, 228, 148, 153, 0, 67, 30, 20, 0, 230, 148, 153, 0, 59, 30]
abbrev dktX3_isKept_9 : List UInt8 := dkwX3_isKept_9 ++ dktX3_isKept_10
def dkwX3_isKept_8 : List UInt8 := [167, 0, 4, 3, 62, 28, 154, 0, 95, 29, 154, 0, 91, 30, 20, 0, 224, 148, 153, 0, 83, 30]
abbrev dktX3_isKept_8 : List UInt8 := dkwX3_isKept_8 ++ dktX3_isKept_9
def dkwX3_isKept_7 : List UInt8 := [20, 0, 218, 148, 153, 0, 19, 30, 20, 0, 220, 148, 153, 0, 11, 30, 20, 0, 222, 148, 154, 0, 7, 4]
abbrev dktX3_isKept_7 : List UInt8 := dkwX3_isKept_7 ++ dktX3_isKept_8
def dkwX3_isKept_6 : List UInt8 := [20, 0, 212, 148, 153, 0, 43, 30, 20, 0, 214, 148, 153, 0, 35, 30, 20, 0, 216, 148, 153, 0, 27, 30]
abbrev dktX3_isKept_6 : List UInt8 := dkwX3_isKept_6 ++ dktX3_isKept_7
def dkwX3_isKept_5 : List UInt8 := [20, 0, 206, 148, 153, 0, 67, 30, 20, 0, 208, 148, 153, 0, 59, 30, 20, 0, 210, 148, 153, 0, 51, 30]
abbrev dktX3_isKept_5 : List UInt8 := dkwX3_isKept_5 ++ dktX3_isKept_6
def dkwX3_isKept_4 : List UInt8 := [4, 167, 0, 4, 3, 61, 30, 20, 0, 202, 148, 153, 0, 83, 30, 20, 0, 204, 148, 153, 0, 75, 30]
abbrev dktX3_isKept_4 : List UInt8 := dkwX3_isKept_4 ++ dktX3_isKept_5
def dkwX3_isKept_3 : List UInt8 := [30, 20, 0, 196, 148, 153, 0, 19, 30, 20, 0, 198, 148, 153, 0, 11, 30, 20, 0, 200, 148, 154, 0, 7]
abbrev dktX3_isKept_3 : List UInt8 := dkwX3_isKept_3 ++ dktX3_isKept_4
def dkwX3_isKept_2 : List UInt8 := [30, 20, 0, 190, 148, 153, 0, 43, 30, 20, 0, 192, 148, 153, 0, 35, 30, 20, 0, 194, 148, 153, 0, 27]
abbrev dktX3_isKept_2 : List UInt8 := dkwX3_isKept_2 ++ dktX3_isKept_3
def dkwX3_isKept_1 : List UInt8 := [30, 20, 0, 184, 148, 153, 0, 67, 30, 20, 0, 186, 148, 153, 0, 59, 30, 20, 0, 188, 148, 153, 0, 51]
abbrev dktX3_isKept_1 : List UInt8 := dkwX3_isKept_1 ++ dktX3_isKept_2
def dkwX3_isKept_0 : List UInt8 := [30, 20, 0, 178, 148, 153, 0, 91, 30, 20, 0, 180, 148, 153, 0, 83, 30, 20, 0, 182, 148, 153, 0, 75]
abbrev dktX3_isKept_0 : List UInt8 := dkwX3_isKept_0 ++ dktX3_isKept_1
theorem dksX3_isKept_0 : cX3_isKept.data.toList.drop 0 = dktX3_isKept_0 := by decide +kernel
theorem dksX3_isKept_1 : cX3_isKept.data.toList.drop 24 = dktX3_isKept_1 := dk_seg dksX3_isKept_0 24 rfl rfl
theorem dksX3_isKept_2 : cX3_isKept.data.toList.drop 48 = dktX3_isKept_2 := dk_seg dksX3_isKept_1 24 rfl rfl
theorem dksX3_isKept_3 : cX3_isKept.data.toList.drop 72 = dktX3_isKept_3 := dk_seg dksX3_isKept_2 24 rfl rfl
theorem dksX3_isKept_4 : cX3_isKept.data.toList.drop 96 = dktX3_isKept_4 := dk_seg dksX3_isKept_3 24 rfl rfl
theorem dksX3_isKept_5 : cX3_isKept.data.toList.drop 119 = dktX3_isKept_5 := dk_seg dksX3_isKept_4 23 rfl rfl
theorem dksX3_isKept_6 : cX3_isKept.data.toList.drop 143 = dktX3_isKept_6 := dk_seg dksX3_isKept_5 24 rfl rfl
theorem dksX3_isKept_7 : cX3_isKept.data.toList.drop 167 = dktX3_isKept_7 := dk_seg dksX3_isKept_6 24 rfl rfl
theorem dksX3_isKept_8 : cX3_isKept.data.toList.drop 191 = dktX3_isKept_8 := dk_seg dksX3_isKept_7 24 rfl rfl
theorem dksX3_isKept_9 : cX3_isKept.data.toList.drop 213 = dktX3_isKept_9 := dk_seg dksX3_isKept_8 22 rfl rfl
theorem dksX3_isKept_10 : cX3_isKept.data.toList.drop 237 = dktX3_isKept_10 := dk_seg dksX3_isKept_9 24 rfl rfl
theorem dksX3_isKept_11 : cX3_isKept.data.toList.drop 261 = dktX3_isKept_11 := dk_seg dksX3_isKept_10 24 rfl rfl
theorem dksX3_isKept_12 : cX3_isKept.data.toList.drop 285 = dktX3_isKept_12 := dk_seg dksX3_isKept_11 24 rfl rfl
theorem dX3_isKept_0 : decode cX3_isKept 0 = .ok (.lload_n 0, 1) := dk_30 (dk_at dksX3_isKept_0 0 rfl rfl)
theorem dX3_isKept_1 : decode cX3_isKept 1 = .ok (.ldc2_w 178, 3) := dk_20 0 178 (dk_at dksX3_isKept_0 1 rfl rfl)
theorem dX3_isKept_4 : decode cX3_isKept 4 = .ok (.lcmp, 1) := dk_148 (dk_at dksX3_isKept_0 4 rfl rfl)
theorem dX3_isKept_5 : decode cX3_isKept 5 = .ok (.ifCond .eq 91, 3) := dk_153 0 91 (dk_at dksX3_isKept_0 5 rfl rfl)
theorem dX3_isKept_8 : decode cX3_isKept 8 = .ok (.lload_n 0, 1) := dk_30 (dk_at dksX3_isKept_0 8 rfl rfl)
theorem dX3_isKept_9 : decode cX3_isKept 9 = .ok (.ldc2_w 180, 3) := dk_20 0 180 (dk_at dksX3_isKept_0 9 rfl rfl)
theorem dX3_isKept_12 : decode cX3_isKept 12 = .ok (.lcmp, 1) := dk_148 (dk_at dksX3_isKept_0 12 rfl rfl)
theorem dX3_isKept_13 : decode cX3_isKept 13 = .ok (.ifCond .eq 83, 3) := dk_153 0 83 (dk_at dksX3_isKept_0 13 rfl rfl)
theorem dX3_isKept_16 : decode cX3_isKept 16 = .ok (.lload_n 0, 1) := dk_30 (dk_at dksX3_isKept_0 16 rfl rfl)
theorem dX3_isKept_17 : decode cX3_isKept 17 = .ok (.ldc2_w 182, 3) := dk_20 0 182 (dk_at dksX3_isKept_0 17 rfl rfl)
theorem dX3_isKept_20 : decode cX3_isKept 20 = .ok (.lcmp, 1) := dk_148 (dk_at dksX3_isKept_0 20 rfl rfl)
theorem dX3_isKept_21 : decode cX3_isKept 21 = .ok (.ifCond .eq 75, 3) := dk_153 0 75 (dk_at dksX3_isKept_0 21 rfl rfl)
theorem dX3_isKept_24 : decode cX3_isKept 24 = .ok (.lload_n 0, 1) := dk_30 (dk_at dksX3_isKept_1 0 rfl rfl)
theorem dX3_isKept_25 : decode cX3_isKept 25 = .ok (.ldc2_w 184, 3) := dk_20 0 184 (dk_at dksX3_isKept_1 1 rfl rfl)
theorem dX3_isKept_28 : decode cX3_isKept 28 = .ok (.lcmp, 1) := dk_148 (dk_at dksX3_isKept_1 4 rfl rfl)
theorem dX3_isKept_29 : decode cX3_isKept 29 = .ok (.ifCond .eq 67, 3) := dk_153 0 67 (dk_at dksX3_isKept_1 5 rfl rfl)
theorem dX3_isKept_32 : decode cX3_isKept 32 = .ok (.lload_n 0, 1) := dk_30 (dk_at dksX3_isKept_1 8 rfl rfl)
theorem dX3_isKept_33 : decode cX3_isKept 33 = .ok (.ldc2_w 186, 3) := dk_20 0 186 (dk_at dksX3_isKept_1 9 rfl rfl)
theorem dX3_isKept_36 : decode cX3_isKept 36 = .ok (.lcmp, 1) := dk_148 (dk_at dksX3_isKept_1 12 rfl rfl)
theorem dX3_isKept_37 : decode cX3_isKept 37 = .ok (.ifCond .eq 59, 3) := dk_153 0 59 (dk_at dksX3_isKept_1 13 rfl rfl)
theorem dX3_isKept_40 : decode cX3_isKept 40 = .ok (.lload_n 0, 1) := dk_30 (dk_at dksX3_isKept_1 16 rfl rfl)
theorem dX3_isKept_41 : decode cX3_isKept 41 = .ok (.ldc2_w 188, 3) := dk_20 0 188 (dk_at dksX3_isKept_1 17 rfl rfl)
theorem dX3_isKept_44 : decode cX3_isKept 44 = .ok (.lcmp, 1) := dk_148 (dk_at dksX3_isKept_1 20 rfl rfl)
theorem dX3_isKept_45 : decode cX3_isKept 45 = .ok (.ifCond .eq 51, 3) := dk_153 0 51 (dk_at dksX3_isKept_1 21 rfl rfl)
theorem dX3_isKept_48 : decode cX3_isKept 48 = .ok (.lload_n 0, 1) := dk_30 (dk_at dksX3_isKept_2 0 rfl rfl)
theorem dX3_isKept_49 : decode cX3_isKept 49 = .ok (.ldc2_w 190, 3) := dk_20 0 190 (dk_at dksX3_isKept_2 1 rfl rfl)
theorem dX3_isKept_52 : decode cX3_isKept 52 = .ok (.lcmp, 1) := dk_148 (dk_at dksX3_isKept_2 4 rfl rfl)
theorem dX3_isKept_53 : decode cX3_isKept 53 = .ok (.ifCond .eq 43, 3) := dk_153 0 43 (dk_at dksX3_isKept_2 5 rfl rfl)
theorem dX3_isKept_56 : decode cX3_isKept 56 = .ok (.lload_n 0, 1) := dk_30 (dk_at dksX3_isKept_2 8 rfl rfl)
theorem dX3_isKept_57 : decode cX3_isKept 57 = .ok (.ldc2_w 192, 3) := dk_20 0 192 (dk_at dksX3_isKept_2 9 rfl rfl)
theorem dX3_isKept_60 : decode cX3_isKept 60 = .ok (.lcmp, 1) := dk_148 (dk_at dksX3_isKept_2 12 rfl rfl)
theorem dX3_isKept_61 : decode cX3_isKept 61 = .ok (.ifCond .eq 35, 3) := dk_153 0 35 (dk_at dksX3_isKept_2 13 rfl rfl)
theorem dX3_isKept_64 : decode cX3_isKept 64 = .ok (.lload_n 0, 1) := dk_30 (dk_at dksX3_isKept_2 16 rfl rfl)
theorem dX3_isKept_65 : decode cX3_isKept 65 = .ok (.ldc2_w 194, 3) := dk_20 0 194 (dk_at dksX3_isKept_2 17 rfl rfl)
theorem dX3_isKept_68 : decode cX3_isKept 68 = .ok (.lcmp, 1) := dk_148 (dk_at dksX3_isKept_2 20 rfl rfl)
theorem dX3_isKept_69 : decode cX3_isKept 69 = .ok (.ifCond .eq 27, 3) := dk_153 0 27 (dk_at dksX3_isKept_2 21 rfl rfl)
theorem dX3_isKept_72 : decode cX3_isKept 72 = .ok (.lload_n 0, 1) := dk_30 (dk_at dksX3_isKept_3 0 rfl rfl)
theorem dX3_isKept_73 : decode cX3_isKept 73 = .ok (.ldc2_w 196, 3) := dk_20 0 196 (dk_at dksX3_isKept_3 1 rfl rfl)
theorem dX3_isKept_76 : decode cX3_isKept 76 = .ok (.lcmp, 1) := dk_148 (dk_at dksX3_isKept_3 4 rfl rfl)
theorem dX3_isKept_77 : decode cX3_isKept 77 = .ok (.ifCond .eq 19, 3) := dk_153 0 19 (dk_at dksX3_isKept_3 5 rfl rfl)
theorem dX3_isKept_80 : decode cX3_isKept 80 = .ok (.lload_n 0, 1) := dk_30 (dk_at dksX3_isKept_3 8 rfl rfl)
theorem dX3_isKept_81 : decode cX3_isKept 81 = .ok (.ldc2_w 198, 3) := dk_20 0 198 (dk_at dksX3_isKept_3 9 rfl rfl)
theorem dX3_isKept_84 : decode cX3_isKept 84 = .ok (.lcmp, 1) := dk_148 (dk_at dksX3_isKept_3 12 rfl rfl)
theorem dX3_isKept_85 : decode cX3_isKept 85 = .ok (.ifCond .eq 11, 3) := dk_153 0 11 (dk_at dksX3_isKept_3 13 rfl rfl)
theorem dX3_isKept_88 : decode cX3_isKept 88 = .ok (.lload_n 0, 1) := dk_30 (dk_at dksX3_isKept_3 16 rfl rfl)
theorem dX3_isKept_89 : decode cX3_isKept 89 = .ok (.ldc2_w 200, 3) := dk_20 0 200 (dk_at dksX3_isKept_3 17 rfl rfl)
theorem dX3_isKept_92 : decode cX3_isKept 92 = .ok (.lcmp, 1) := dk_148 (dk_at dksX3_isKept_3 20 rfl rfl)
theorem dX3_isKept_93 : decode cX3_isKept 93 = .ok (.ifCond .ne 7, 3) := dk_154 0 7 (dk_at dksX3_isKept_3 21 rfl rfl)
theorem dX3_isKept_96 : decode cX3_isKept 96 = .ok (.iconst 1, 1) := dk_4 (dk_at dksX3_isKept_4 0 rfl rfl)
theorem dX3_isKept_97 : decode cX3_isKept 97 = .ok (.goto 4, 3) := dk_167 0 4 (dk_at dksX3_isKept_4 1 rfl rfl)
theorem dX3_isKept_100 : decode cX3_isKept 100 = .ok (.iconst 0, 1) := dk_3 (dk_at dksX3_isKept_4 4 rfl rfl)
theorem dX3_isKept_101 : decode cX3_isKept 101 = .ok (.istore_n 2, 1) := dk_61 (dk_at dksX3_isKept_4 5 rfl rfl)
theorem dX3_isKept_102 : decode cX3_isKept 102 = .ok (.lload_n 0, 1) := dk_30 (dk_at dksX3_isKept_4 6 rfl rfl)
theorem dX3_isKept_103 : decode cX3_isKept 103 = .ok (.ldc2_w 202, 3) := dk_20 0 202 (dk_at dksX3_isKept_4 7 rfl rfl)
theorem dX3_isKept_106 : decode cX3_isKept 106 = .ok (.lcmp, 1) := dk_148 (dk_at dksX3_isKept_4 10 rfl rfl)
theorem dX3_isKept_107 : decode cX3_isKept 107 = .ok (.ifCond .eq 83, 3) := dk_153 0 83 (dk_at dksX3_isKept_4 11 rfl rfl)
theorem dX3_isKept_110 : decode cX3_isKept 110 = .ok (.lload_n 0, 1) := dk_30 (dk_at dksX3_isKept_4 14 rfl rfl)
theorem dX3_isKept_111 : decode cX3_isKept 111 = .ok (.ldc2_w 204, 3) := dk_20 0 204 (dk_at dksX3_isKept_4 15 rfl rfl)
theorem dX3_isKept_114 : decode cX3_isKept 114 = .ok (.lcmp, 1) := dk_148 (dk_at dksX3_isKept_4 18 rfl rfl)
theorem dX3_isKept_115 : decode cX3_isKept 115 = .ok (.ifCond .eq 75, 3) := dk_153 0 75 (dk_at dksX3_isKept_4 19 rfl rfl)
theorem dX3_isKept_118 : decode cX3_isKept 118 = .ok (.lload_n 0, 1) := dk_30 (dk_at dksX3_isKept_4 22 rfl rfl)
theorem dX3_isKept_119 : decode cX3_isKept 119 = .ok (.ldc2_w 206, 3) := dk_20 0 206 (dk_at dksX3_isKept_5 0 rfl rfl)
theorem dX3_isKept_122 : decode cX3_isKept 122 = .ok (.lcmp, 1) := dk_148 (dk_at dksX3_isKept_5 3 rfl rfl)
theorem dX3_isKept_123 : decode cX3_isKept 123 = .ok (.ifCond .eq 67, 3) := dk_153 0 67 (dk_at dksX3_isKept_5 4 rfl rfl)
theorem dX3_isKept_126 : decode cX3_isKept 126 = .ok (.lload_n 0, 1) := dk_30 (dk_at dksX3_isKept_5 7 rfl rfl)
theorem dX3_isKept_127 : decode cX3_isKept 127 = .ok (.ldc2_w 208, 3) := dk_20 0 208 (dk_at dksX3_isKept_5 8 rfl rfl)
theorem dX3_isKept_130 : decode cX3_isKept 130 = .ok (.lcmp, 1) := dk_148 (dk_at dksX3_isKept_5 11 rfl rfl)
theorem dX3_isKept_131 : decode cX3_isKept 131 = .ok (.ifCond .eq 59, 3) := dk_153 0 59 (dk_at dksX3_isKept_5 12 rfl rfl)
theorem dX3_isKept_134 : decode cX3_isKept 134 = .ok (.lload_n 0, 1) := dk_30 (dk_at dksX3_isKept_5 15 rfl rfl)
theorem dX3_isKept_135 : decode cX3_isKept 135 = .ok (.ldc2_w 210, 3) := dk_20 0 210 (dk_at dksX3_isKept_5 16 rfl rfl)
theorem dX3_isKept_138 : decode cX3_isKept 138 = .ok (.lcmp, 1) := dk_148 (dk_at dksX3_isKept_5 19 rfl rfl)
theorem dX3_isKept_139 : decode cX3_isKept 139 = .ok (.ifCond .eq 51, 3) := dk_153 0 51 (dk_at dksX3_isKept_5 20 rfl rfl)
theorem dX3_isKept_142 : decode cX3_isKept 142 = .ok (.lload_n 0, 1) := dk_30 (dk_at dksX3_isKept_5 23 rfl rfl)
theorem dX3_isKept_143 : decode cX3_isKept 143 = .ok (.ldc2_w 212, 3) := dk_20 0 212 (dk_at dksX3_isKept_6 0 rfl rfl)
theorem dX3_isKept_146 : decode cX3_isKept 146 = .ok (.lcmp, 1) := dk_148 (dk_at dksX3_isKept_6 3 rfl rfl)
theorem dX3_isKept_147 : decode cX3_isKept 147 = .ok (.ifCond .eq 43, 3) := dk_153 0 43 (dk_at dksX3_isKept_6 4 rfl rfl)
theorem dX3_isKept_150 : decode cX3_isKept 150 = .ok (.lload_n 0, 1) := dk_30 (dk_at dksX3_isKept_6 7 rfl rfl)
theorem dX3_isKept_151 : decode cX3_isKept 151 = .ok (.ldc2_w 214, 3) := dk_20 0 214 (dk_at dksX3_isKept_6 8 rfl rfl)
theorem dX3_isKept_154 : decode cX3_isKept 154 = .ok (.lcmp, 1) := dk_148 (dk_at dksX3_isKept_6 11 rfl rfl)
theorem dX3_isKept_155 : decode cX3_isKept 155 = .ok (.ifCond .eq 35, 3) := dk_153 0 35 (dk_at dksX3_isKept_6 12 rfl rfl)
theorem dX3_isKept_158 : decode cX3_isKept 158 = .ok (.lload_n 0, 1) := dk_30 (dk_at dksX3_isKept_6 15 rfl rfl)
theorem dX3_isKept_159 : decode cX3_isKept 159 = .ok (.ldc2_w 216, 3) := dk_20 0 216 (dk_at dksX3_isKept_6 16 rfl rfl)
theorem dX3_isKept_162 : decode cX3_isKept 162 = .ok (.lcmp, 1) := dk_148 (dk_at dksX3_isKept_6 19 rfl rfl)
theorem dX3_isKept_163 : decode cX3_isKept 163 = .ok (.ifCond .eq 27, 3) := dk_153 0 27 (dk_at dksX3_isKept_6 20 rfl rfl)
theorem dX3_isKept_166 : decode cX3_isKept 166 = .ok (.lload_n 0, 1) := dk_30 (dk_at dksX3_isKept_6 23 rfl rfl)
theorem dX3_isKept_167 : decode cX3_isKept 167 = .ok (.ldc2_w 218, 3) := dk_20 0 218 (dk_at dksX3_isKept_7 0 rfl rfl)
theorem dX3_isKept_170 : decode cX3_isKept 170 = .ok (.lcmp, 1) := dk_148 (dk_at dksX3_isKept_7 3 rfl rfl)
theorem dX3_isKept_171 : decode cX3_isKept 171 = .ok (.ifCond .eq 19, 3) := dk_153 0 19 (dk_at dksX3_isKept_7 4 rfl rfl)
theorem dX3_isKept_174 : decode cX3_isKept 174 = .ok (.lload_n 0, 1) := dk_30 (dk_at dksX3_isKept_7 7 rfl rfl)
theorem dX3_isKept_175 : decode cX3_isKept 175 = .ok (.ldc2_w 220, 3) := dk_20 0 220 (dk_at dksX3_isKept_7 8 rfl rfl)
theorem dX3_isKept_178 : decode cX3_isKept 178 = .ok (.lcmp, 1) := dk_148 (dk_at dksX3_isKept_7 11 rfl rfl)
theorem dX3_isKept_179 : decode cX3_isKept 179 = .ok (.ifCond .eq 11, 3) := dk_153 0 11 (dk_at dksX3_isKept_7 12 rfl rfl)
theorem dX3_isKept_182 : decode cX3_isKept 182 = .ok (.lload_n 0, 1) := dk_30 (dk_at dksX3_isKept_7 15 rfl rfl)
theorem dX3_isKept_183 : decode cX3_isKept 183 = .ok (.ldc2_w 222, 3) := dk_20 0 222 (dk_at dksX3_isKept_7 16 rfl rfl)
theorem dX3_isKept_186 : decode cX3_isKept 186 = .ok (.lcmp, 1) := dk_148 (dk_at dksX3_isKept_7 19 rfl rfl)
theorem dX3_isKept_187 : decode cX3_isKept 187 = .ok (.ifCond .ne 7, 3) := dk_154 0 7 (dk_at dksX3_isKept_7 20 rfl rfl)
theorem dX3_isKept_190 : decode cX3_isKept 190 = .ok (.iconst 1, 1) := dk_4 (dk_at dksX3_isKept_7 23 rfl rfl)
theorem dX3_isKept_191 : decode cX3_isKept 191 = .ok (.goto 4, 3) := dk_167 0 4 (dk_at dksX3_isKept_8 0 rfl rfl)
theorem dX3_isKept_194 : decode cX3_isKept 194 = .ok (.iconst 0, 1) := dk_3 (dk_at dksX3_isKept_8 3 rfl rfl)
theorem dX3_isKept_195 : decode cX3_isKept 195 = .ok (.istore_n 3, 1) := dk_62 (dk_at dksX3_isKept_8 4 rfl rfl)
theorem dX3_isKept_196 : decode cX3_isKept 196 = .ok (.iload_n 2, 1) := dk_28 (dk_at dksX3_isKept_8 5 rfl rfl)
theorem dX3_isKept_197 : decode cX3_isKept 197 = .ok (.ifCond .ne 95, 3) := dk_154 0 95 (dk_at dksX3_isKept_8 6 rfl rfl)
theorem dX3_isKept_200 : decode cX3_isKept 200 = .ok (.iload_n 3, 1) := dk_29 (dk_at dksX3_isKept_8 9 rfl rfl)
theorem dX3_isKept_201 : decode cX3_isKept 201 = .ok (.ifCond .ne 91, 3) := dk_154 0 91 (dk_at dksX3_isKept_8 10 rfl rfl)
theorem dX3_isKept_204 : decode cX3_isKept 204 = .ok (.lload_n 0, 1) := dk_30 (dk_at dksX3_isKept_8 13 rfl rfl)
theorem dX3_isKept_205 : decode cX3_isKept 205 = .ok (.ldc2_w 224, 3) := dk_20 0 224 (dk_at dksX3_isKept_8 14 rfl rfl)
theorem dX3_isKept_208 : decode cX3_isKept 208 = .ok (.lcmp, 1) := dk_148 (dk_at dksX3_isKept_8 17 rfl rfl)
theorem dX3_isKept_209 : decode cX3_isKept 209 = .ok (.ifCond .eq 83, 3) := dk_153 0 83 (dk_at dksX3_isKept_8 18 rfl rfl)
theorem dX3_isKept_212 : decode cX3_isKept 212 = .ok (.lload_n 0, 1) := dk_30 (dk_at dksX3_isKept_8 21 rfl rfl)
theorem dX3_isKept_213 : decode cX3_isKept 213 = .ok (.ldc2_w 226, 3) := dk_20 0 226 (dk_at dksX3_isKept_9 0 rfl rfl)
theorem dX3_isKept_216 : decode cX3_isKept 216 = .ok (.lcmp, 1) := dk_148 (dk_at dksX3_isKept_9 3 rfl rfl)
theorem dX3_isKept_217 : decode cX3_isKept 217 = .ok (.ifCond .eq 75, 3) := dk_153 0 75 (dk_at dksX3_isKept_9 4 rfl rfl)
theorem dX3_isKept_220 : decode cX3_isKept 220 = .ok (.lload_n 0, 1) := dk_30 (dk_at dksX3_isKept_9 7 rfl rfl)
theorem dX3_isKept_221 : decode cX3_isKept 221 = .ok (.ldc2_w 228, 3) := dk_20 0 228 (dk_at dksX3_isKept_9 8 rfl rfl)
theorem dX3_isKept_224 : decode cX3_isKept 224 = .ok (.lcmp, 1) := dk_148 (dk_at dksX3_isKept_9 11 rfl rfl)
theorem dX3_isKept_225 : decode cX3_isKept 225 = .ok (.ifCond .eq 67, 3) := dk_153 0 67 (dk_at dksX3_isKept_9 12 rfl rfl)
theorem dX3_isKept_228 : decode cX3_isKept 228 = .ok (.lload_n 0, 1) := dk_30 (dk_at dksX3_isKept_9 15 rfl rfl)
theorem dX3_isKept_229 : decode cX3_isKept 229 = .ok (.ldc2_w 230, 3) := dk_20 0 230 (dk_at dksX3_isKept_9 16 rfl rfl)
theorem dX3_isKept_232 : decode cX3_isKept 232 = .ok (.lcmp, 1) := dk_148 (dk_at dksX3_isKept_9 19 rfl rfl)
theorem dX3_isKept_233 : decode cX3_isKept 233 = .ok (.ifCond .eq 59, 3) := dk_153 0 59 (dk_at dksX3_isKept_9 20 rfl rfl)
theorem dX3_isKept_236 : decode cX3_isKept 236 = .ok (.lload_n 0, 1) := dk_30 (dk_at dksX3_isKept_9 23 rfl rfl)
theorem dX3_isKept_237 : decode cX3_isKept 237 = .ok (.ldc2_w 232, 3) := dk_20 0 232 (dk_at dksX3_isKept_10 0 rfl rfl)
theorem dX3_isKept_240 : decode cX3_isKept 240 = .ok (.lcmp, 1) := dk_148 (dk_at dksX3_isKept_10 3 rfl rfl)
theorem dX3_isKept_241 : decode cX3_isKept 241 = .ok (.ifCond .eq 51, 3) := dk_153 0 51 (dk_at dksX3_isKept_10 4 rfl rfl)
theorem dX3_isKept_244 : decode cX3_isKept 244 = .ok (.lload_n 0, 1) := dk_30 (dk_at dksX3_isKept_10 7 rfl rfl)
theorem dX3_isKept_245 : decode cX3_isKept 245 = .ok (.ldc2_w 234, 3) := dk_20 0 234 (dk_at dksX3_isKept_10 8 rfl rfl)
theorem dX3_isKept_248 : decode cX3_isKept 248 = .ok (.lcmp, 1) := dk_148 (dk_at dksX3_isKept_10 11 rfl rfl)
theorem dX3_isKept_249 : decode cX3_isKept 249 = .ok (.ifCond .eq 43, 3) := dk_153 0 43 (dk_at dksX3_isKept_10 12 rfl rfl)
theorem dX3_isKept_252 : decode cX3_isKept 252 = .ok (.lload_n 0, 1) := dk_30 (dk_at dksX3_isKept_10 15 rfl rfl)
theorem dX3_isKept_253 : decode cX3_isKept 253 = .ok (.ldc2_w 236, 3) := dk_20 0 236 (dk_at dksX3_isKept_10 16 rfl rfl)
theorem dX3_isKept_256 : decode cX3_isKept 256 = .ok (.lcmp, 1) := dk_148 (dk_at dksX3_isKept_10 19 rfl rfl)
theorem dX3_isKept_257 : decode cX3_isKept 257 = .ok (.ifCond .eq 35, 3) := dk_153 0 35 (dk_at dksX3_isKept_10 20 rfl rfl)
theorem dX3_isKept_260 : decode cX3_isKept 260 = .ok (.lload_n 0, 1) := dk_30 (dk_at dksX3_isKept_10 23 rfl rfl)
theorem dX3_isKept_261 : decode cX3_isKept 261 = .ok (.ldc2_w 238, 3) := dk_20 0 238 (dk_at dksX3_isKept_11 0 rfl rfl)
theorem dX3_isKept_264 : decode cX3_isKept 264 = .ok (.lcmp, 1) := dk_148 (dk_at dksX3_isKept_11 3 rfl rfl)
theorem dX3_isKept_265 : decode cX3_isKept 265 = .ok (.ifCond .eq 27, 3) := dk_153 0 27 (dk_at dksX3_isKept_11 4 rfl rfl)
theorem dX3_isKept_268 : decode cX3_isKept 268 = .ok (.lload_n 0, 1) := dk_30 (dk_at dksX3_isKept_11 7 rfl rfl)
theorem dX3_isKept_269 : decode cX3_isKept 269 = .ok (.ldc2_w 240, 3) := dk_20 0 240 (dk_at dksX3_isKept_11 8 rfl rfl)
theorem dX3_isKept_272 : decode cX3_isKept 272 = .ok (.lcmp, 1) := dk_148 (dk_at dksX3_isKept_11 11 rfl rfl)
theorem dX3_isKept_273 : decode cX3_isKept 273 = .ok (.ifCond .eq 19, 3) := dk_153 0 19 (dk_at dksX3_isKept_11 12 rfl rfl)
theorem dX3_isKept_276 : decode cX3_isKept 276 = .ok (.lload_n 0, 1) := dk_30 (dk_at dksX3_isKept_11 15 rfl rfl)
theorem dX3_isKept_277 : decode cX3_isKept 277 = .ok (.ldc2_w 242, 3) := dk_20 0 242 (dk_at dksX3_isKept_11 16 rfl rfl)
theorem dX3_isKept_280 : decode cX3_isKept 280 = .ok (.lcmp, 1) := dk_148 (dk_at dksX3_isKept_11 19 rfl rfl)
theorem dX3_isKept_281 : decode cX3_isKept 281 = .ok (.ifCond .eq 11, 3) := dk_153 0 11 (dk_at dksX3_isKept_11 20 rfl rfl)
theorem dX3_isKept_284 : decode cX3_isKept 284 = .ok (.lload_n 0, 1) := dk_30 (dk_at dksX3_isKept_11 23 rfl rfl)
theorem dX3_isKept_285 : decode cX3_isKept 285 = .ok (.ldc2_w 244, 3) := dk_20 0 244 (dk_at dksX3_isKept_12 0 rfl rfl)
theorem dX3_isKept_288 : decode cX3_isKept 288 = .ok (.lcmp, 1) := dk_148 (dk_at dksX3_isKept_12 3 rfl rfl)
theorem dX3_isKept_289 : decode cX3_isKept 289 = .ok (.ifCond .ne 7, 3) := dk_154 0 7 (dk_at dksX3_isKept_12 4 rfl rfl)
theorem dX3_isKept_292 : decode cX3_isKept 292 = .ok (.iconst 1, 1) := dk_4 (dk_at dksX3_isKept_12 7 rfl rfl)
theorem dX3_isKept_293 : decode cX3_isKept 293 = .ok (.goto 4, 3) := dk_167 0 4 (dk_at dksX3_isKept_12 8 rfl rfl)
theorem dX3_isKept_296 : decode cX3_isKept 296 = .ok (.iconst 0, 1) := dk_3 (dk_at dksX3_isKept_12 11 rfl rfl)
theorem dX3_isKept_297 : decode cX3_isKept 297 = .ok (.ireturn, 1) := dk_172 (dk_at dksX3_isKept_12 12 rfl rfl)
abbrev cX3_isLetter : ByteArray := prog_24_method_3_code
def dkwX3_isLetter_0 : List UInt8 := [26, 16, 97, 161, 0, 13, 26, 16, 122, 163, 0, 7, 4, 167, 0, 4, 3, 172]
abbrev dktX3_isLetter_0 : List UInt8 := dkwX3_isLetter_0 ++ []
theorem dksX3_isLetter_0 : cX3_isLetter.data.toList.drop 0 = dktX3_isLetter_0 := by decide +kernel
theorem dX3_isLetter_0 : decode cX3_isLetter 0 = .ok (.iload_n 0, 1) := dk_26 (dk_at dksX3_isLetter_0 0 rfl rfl)
theorem dX3_isLetter_1 : decode cX3_isLetter 1 = .ok (.bipush 97, 2) := dk_16 97 (dk_at dksX3_isLetter_0 1 rfl rfl)
theorem dX3_isLetter_3 : decode cX3_isLetter 3 = .ok (.if_icmp .lt 13, 3) := dk_161 0 13 (dk_at dksX3_isLetter_0 3 rfl rfl)
theorem dX3_isLetter_6 : decode cX3_isLetter 6 = .ok (.iload_n 0, 1) := dk_26 (dk_at dksX3_isLetter_0 6 rfl rfl)
theorem dX3_isLetter_7 : decode cX3_isLetter 7 = .ok (.bipush 122, 2) := dk_16 122 (dk_at dksX3_isLetter_0 7 rfl rfl)
theorem dX3_isLetter_9 : decode cX3_isLetter 9 = .ok (.if_icmp .gt 7, 3) := dk_163 0 7 (dk_at dksX3_isLetter_0 9 rfl rfl)
theorem dX3_isLetter_12 : decode cX3_isLetter 12 = .ok (.iconst 1, 1) := dk_4 (dk_at dksX3_isLetter_0 12 rfl rfl)
theorem dX3_isLetter_13 : decode cX3_isLetter 13 = .ok (.goto 4, 3) := dk_167 0 4 (dk_at dksX3_isLetter_0 13 rfl rfl)
theorem dX3_isLetter_16 : decode cX3_isLetter 16 = .ok (.iconst 0, 1) := dk_3 (dk_at dksX3_isLetter_0 16 rfl rfl)
theorem dX3_isLetter_17 : decode cX3_isLetter 17 = .ok (.ireturn, 1) := dk_172 (dk_at dksX3_isLetter_0 17 rfl rfl)
abbrev cX3_isMoney : ByteArray := prog_24_method_105_code
def dkwX3_isMoney_1 : List UInt8 := [3, 172]
abbrev dktX3_isMoney_1 : List UInt8 := dkwX3_isMoney_1 ++ []
def dkwX3_isMoney_0 : List UInt8 := [26, 3, 16, 30, 184, 1, 98, 153, 0, 17, 27, 3, 16, 30, 184, 1, 98, 153, 0, 7, 4, 167, 0, 4]
abbrev dktX3_isMoney_0 : List UInt8 := dkwX3_isMoney_0 ++ dktX3_isMoney_1
theorem dksX3_isMoney_0 : cX3_isMoney.data.toList.drop 0 = dktX3_isMoney_0 := by decide +kernel
theorem dksX3_isMoney_1 : cX3_isMoney.data.toList.drop 24 = dktX3_isMoney_1 := dk_seg dksX3_isMoney_0 24 rfl rfl
theorem dX3_isMoney_0 : decode cX3_isMoney 0 = .ok (.iload_n 0, 1) := dk_26 (dk_at dksX3_isMoney_0 0 rfl rfl)
theorem dX3_isMoney_1 : decode cX3_isMoney 1 = .ok (.iconst 0, 1) := dk_3 (dk_at dksX3_isMoney_0 1 rfl rfl)
theorem dX3_isMoney_2 : decode cX3_isMoney 2 = .ok (.bipush 30, 2) := dk_16 30 (dk_at dksX3_isMoney_0 2 rfl rfl)
theorem dX3_isMoney_4 : decode cX3_isMoney 4 = .ok (.invokestatic 354, 3) := dk_184 1 98 (dk_at dksX3_isMoney_0 4 rfl rfl)
theorem dX3_isMoney_7 : decode cX3_isMoney 7 = .ok (.ifCond .eq 17, 3) := dk_153 0 17 (dk_at dksX3_isMoney_0 7 rfl rfl)
theorem dX3_isMoney_10 : decode cX3_isMoney 10 = .ok (.iload_n 1, 1) := dk_27 (dk_at dksX3_isMoney_0 10 rfl rfl)
theorem dX3_isMoney_11 : decode cX3_isMoney 11 = .ok (.iconst 0, 1) := dk_3 (dk_at dksX3_isMoney_0 11 rfl rfl)
theorem dX3_isMoney_12 : decode cX3_isMoney 12 = .ok (.bipush 30, 2) := dk_16 30 (dk_at dksX3_isMoney_0 12 rfl rfl)
theorem dX3_isMoney_14 : decode cX3_isMoney 14 = .ok (.invokestatic 354, 3) := dk_184 1 98 (dk_at dksX3_isMoney_0 14 rfl rfl)
theorem dX3_isMoney_17 : decode cX3_isMoney 17 = .ok (.ifCond .eq 7, 3) := dk_153 0 7 (dk_at dksX3_isMoney_0 17 rfl rfl)
theorem dX3_isMoney_20 : decode cX3_isMoney 20 = .ok (.iconst 1, 1) := dk_4 (dk_at dksX3_isMoney_0 20 rfl rfl)
theorem dX3_isMoney_21 : decode cX3_isMoney 21 = .ok (.goto 4, 3) := dk_167 0 4 (dk_at dksX3_isMoney_0 21 rfl rfl)
theorem dX3_isMoney_24 : decode cX3_isMoney 24 = .ok (.iconst 0, 1) := dk_3 (dk_at dksX3_isMoney_1 0 rfl rfl)
theorem dX3_isMoney_25 : decode cX3_isMoney 25 = .ok (.ireturn, 1) := dk_172 (dk_at dksX3_isMoney_1 1 rfl rfl)
abbrev cX3_isMonth : ByteArray := prog_24_method_58_code
def dkwX3_isMonth_0 : List UInt8 := [26, 3, 17, 0, 199, 184, 1, 98, 172]
abbrev dktX3_isMonth_0 : List UInt8 := dkwX3_isMonth_0 ++ []
theorem dksX3_isMonth_0 : cX3_isMonth.data.toList.drop 0 = dktX3_isMonth_0 := by decide +kernel
theorem dX3_isMonth_0 : decode cX3_isMonth 0 = .ok (.iload_n 0, 1) := dk_26 (dk_at dksX3_isMonth_0 0 rfl rfl)
theorem dX3_isMonth_1 : decode cX3_isMonth 1 = .ok (.iconst 0, 1) := dk_3 (dk_at dksX3_isMonth_0 1 rfl rfl)
theorem dX3_isMonth_2 : decode cX3_isMonth 2 = .ok (.sipush 199, 3) := dk_17 0 199 (dk_at dksX3_isMonth_0 2 rfl rfl)
theorem dX3_isMonth_5 : decode cX3_isMonth 5 = .ok (.invokestatic 354, 3) := dk_184 1 98 (dk_at dksX3_isMonth_0 5 rfl rfl)
theorem dX3_isMonth_8 : decode cX3_isMonth 8 = .ok (.ireturn, 1) := dk_172 (dk_at dksX3_isMonth_0 8 rfl rfl)
abbrev cX3_isPart : ByteArray := prog_24_method_29_code
def dkwX3_isPart_0 : List UInt8 := [27, 3, 42, 182, 1, 94, 4, 100, 184, 1, 98, 172]
abbrev dktX3_isPart_0 : List UInt8 := dkwX3_isPart_0 ++ []
theorem dksX3_isPart_0 : cX3_isPart.data.toList.drop 0 = dktX3_isPart_0 := by decide +kernel
theorem dX3_isPart_0 : decode cX3_isPart 0 = .ok (.iload_n 1, 1) := dk_27 (dk_at dksX3_isPart_0 0 rfl rfl)
theorem dX3_isPart_1 : decode cX3_isPart 1 = .ok (.iconst 0, 1) := dk_3 (dk_at dksX3_isPart_0 1 rfl rfl)
theorem dX3_isPart_2 : decode cX3_isPart 2 = .ok (.aload_n 0, 1) := dk_42 (dk_at dksX3_isPart_0 2 rfl rfl)
theorem dX3_isPart_3 : decode cX3_isPart 3 = .ok (.invokevirtual 350, 3) := dk_182 1 94 (dk_at dksX3_isPart_0 3 rfl rfl)
theorem dX3_isPart_6 : decode cX3_isPart 6 = .ok (.iconst 1, 1) := dk_4 (dk_at dksX3_isPart_0 6 rfl rfl)
theorem dX3_isPart_7 : decode cX3_isPart 7 = .ok (.isub, 1) := dk_100 (dk_at dksX3_isPart_0 7 rfl rfl)
theorem dX3_isPart_8 : decode cX3_isPart 8 = .ok (.invokestatic 354, 3) := dk_184 1 98 (dk_at dksX3_isPart_0 8 rfl rfl)
theorem dX3_isPart_11 : decode cX3_isPart 11 = .ok (.ireturn, 1) := dk_172 (dk_at dksX3_isPart_0 11 rfl rfl)
abbrev cX3_isSign : ByteArray := prog_24_method_8_code
def dkwX3_isSign_2 : List UInt8 := [26, 16, 42, 160, 0, 7, 4, 167, 0, 4, 3, 172]
abbrev dktX3_isSign_2 : List UInt8 := dkwX3_isSign_2 ++ []
def dkwX3_isSign_1 : List UInt8 := [26, 16, 62, 159, 0, 27, 26, 16, 61, 159, 0, 21, 26, 16, 43, 159, 0, 15, 26, 16, 45, 159, 0, 9]
abbrev dktX3_isSign_1 : List UInt8 := dkwX3_isSign_1 ++ dktX3_isSign_2
def dkwX3_isSign_0 : List UInt8 := [26, 16, 59, 159, 0, 51, 26, 16, 40, 159, 0, 45, 26, 16, 41, 159, 0, 39, 26, 16, 60, 159, 0, 33]
abbrev dktX3_isSign_0 : List UInt8 := dkwX3_isSign_0 ++ dktX3_isSign_1
theorem dksX3_isSign_0 : cX3_isSign.data.toList.drop 0 = dktX3_isSign_0 := by decide +kernel
theorem dksX3_isSign_1 : cX3_isSign.data.toList.drop 24 = dktX3_isSign_1 := dk_seg dksX3_isSign_0 24 rfl rfl
theorem dksX3_isSign_2 : cX3_isSign.data.toList.drop 48 = dktX3_isSign_2 := dk_seg dksX3_isSign_1 24 rfl rfl
theorem dX3_isSign_0 : decode cX3_isSign 0 = .ok (.iload_n 0, 1) := dk_26 (dk_at dksX3_isSign_0 0 rfl rfl)
theorem dX3_isSign_1 : decode cX3_isSign 1 = .ok (.bipush 59, 2) := dk_16 59 (dk_at dksX3_isSign_0 1 rfl rfl)
theorem dX3_isSign_3 : decode cX3_isSign 3 = .ok (.if_icmp .eq 51, 3) := dk_159 0 51 (dk_at dksX3_isSign_0 3 rfl rfl)
theorem dX3_isSign_6 : decode cX3_isSign 6 = .ok (.iload_n 0, 1) := dk_26 (dk_at dksX3_isSign_0 6 rfl rfl)
theorem dX3_isSign_7 : decode cX3_isSign 7 = .ok (.bipush 40, 2) := dk_16 40 (dk_at dksX3_isSign_0 7 rfl rfl)
theorem dX3_isSign_9 : decode cX3_isSign 9 = .ok (.if_icmp .eq 45, 3) := dk_159 0 45 (dk_at dksX3_isSign_0 9 rfl rfl)
theorem dX3_isSign_12 : decode cX3_isSign 12 = .ok (.iload_n 0, 1) := dk_26 (dk_at dksX3_isSign_0 12 rfl rfl)
theorem dX3_isSign_13 : decode cX3_isSign 13 = .ok (.bipush 41, 2) := dk_16 41 (dk_at dksX3_isSign_0 13 rfl rfl)
theorem dX3_isSign_15 : decode cX3_isSign 15 = .ok (.if_icmp .eq 39, 3) := dk_159 0 39 (dk_at dksX3_isSign_0 15 rfl rfl)
theorem dX3_isSign_18 : decode cX3_isSign 18 = .ok (.iload_n 0, 1) := dk_26 (dk_at dksX3_isSign_0 18 rfl rfl)
theorem dX3_isSign_19 : decode cX3_isSign 19 = .ok (.bipush 60, 2) := dk_16 60 (dk_at dksX3_isSign_0 19 rfl rfl)
theorem dX3_isSign_21 : decode cX3_isSign 21 = .ok (.if_icmp .eq 33, 3) := dk_159 0 33 (dk_at dksX3_isSign_0 21 rfl rfl)
theorem dX3_isSign_24 : decode cX3_isSign 24 = .ok (.iload_n 0, 1) := dk_26 (dk_at dksX3_isSign_1 0 rfl rfl)
theorem dX3_isSign_25 : decode cX3_isSign 25 = .ok (.bipush 62, 2) := dk_16 62 (dk_at dksX3_isSign_1 1 rfl rfl)
theorem dX3_isSign_27 : decode cX3_isSign 27 = .ok (.if_icmp .eq 27, 3) := dk_159 0 27 (dk_at dksX3_isSign_1 3 rfl rfl)
theorem dX3_isSign_30 : decode cX3_isSign 30 = .ok (.iload_n 0, 1) := dk_26 (dk_at dksX3_isSign_1 6 rfl rfl)
theorem dX3_isSign_31 : decode cX3_isSign 31 = .ok (.bipush 61, 2) := dk_16 61 (dk_at dksX3_isSign_1 7 rfl rfl)
theorem dX3_isSign_33 : decode cX3_isSign 33 = .ok (.if_icmp .eq 21, 3) := dk_159 0 21 (dk_at dksX3_isSign_1 9 rfl rfl)
theorem dX3_isSign_36 : decode cX3_isSign 36 = .ok (.iload_n 0, 1) := dk_26 (dk_at dksX3_isSign_1 12 rfl rfl)
theorem dX3_isSign_37 : decode cX3_isSign 37 = .ok (.bipush 43, 2) := dk_16 43 (dk_at dksX3_isSign_1 13 rfl rfl)
theorem dX3_isSign_39 : decode cX3_isSign 39 = .ok (.if_icmp .eq 15, 3) := dk_159 0 15 (dk_at dksX3_isSign_1 15 rfl rfl)
theorem dX3_isSign_42 : decode cX3_isSign 42 = .ok (.iload_n 0, 1) := dk_26 (dk_at dksX3_isSign_1 18 rfl rfl)
theorem dX3_isSign_43 : decode cX3_isSign 43 = .ok (.bipush 45, 2) := dk_16 45 (dk_at dksX3_isSign_1 19 rfl rfl)
theorem dX3_isSign_45 : decode cX3_isSign 45 = .ok (.if_icmp .eq 9, 3) := dk_159 0 9 (dk_at dksX3_isSign_1 21 rfl rfl)
theorem dX3_isSign_48 : decode cX3_isSign 48 = .ok (.iload_n 0, 1) := dk_26 (dk_at dksX3_isSign_2 0 rfl rfl)
theorem dX3_isSign_49 : decode cX3_isSign 49 = .ok (.bipush 42, 2) := dk_16 42 (dk_at dksX3_isSign_2 1 rfl rfl)
theorem dX3_isSign_51 : decode cX3_isSign 51 = .ok (.if_icmp .ne 7, 3) := dk_160 0 7 (dk_at dksX3_isSign_2 3 rfl rfl)
theorem dX3_isSign_54 : decode cX3_isSign 54 = .ok (.iconst 1, 1) := dk_4 (dk_at dksX3_isSign_2 6 rfl rfl)
theorem dX3_isSign_55 : decode cX3_isSign 55 = .ok (.goto 4, 3) := dk_167 0 4 (dk_at dksX3_isSign_2 7 rfl rfl)
theorem dX3_isSign_58 : decode cX3_isSign 58 = .ok (.iconst 0, 1) := dk_3 (dk_at dksX3_isSign_2 10 rfl rfl)
theorem dX3_isSign_59 : decode cX3_isSign 59 = .ok (.ireturn, 1) := dk_172 (dk_at dksX3_isSign_2 11 rfl rfl)
abbrev cX3_isTongue : ByteArray := prog_24_method_39_code
def dkwX3_isTongue_0 : List UInt8 := [26, 3, 5, 184, 1, 98, 172]
abbrev dktX3_isTongue_0 : List UInt8 := dkwX3_isTongue_0 ++ []
theorem dksX3_isTongue_0 : cX3_isTongue.data.toList.drop 0 = dktX3_isTongue_0 := by decide +kernel
theorem dX3_isTongue_0 : decode cX3_isTongue 0 = .ok (.iload_n 0, 1) := dk_26 (dk_at dksX3_isTongue_0 0 rfl rfl)
theorem dX3_isTongue_1 : decode cX3_isTongue 1 = .ok (.iconst 0, 1) := dk_3 (dk_at dksX3_isTongue_0 1 rfl rfl)
theorem dX3_isTongue_2 : decode cX3_isTongue 2 = .ok (.iconst 2, 1) := dk_5 (dk_at dksX3_isTongue_0 2 rfl rfl)
theorem dX3_isTongue_3 : decode cX3_isTongue 3 = .ok (.invokestatic 354, 3) := dk_184 1 98 (dk_at dksX3_isTongue_0 3 rfl rfl)
theorem dX3_isTongue_6 : decode cX3_isTongue 6 = .ok (.ireturn, 1) := dk_172 (dk_at dksX3_isTongue_0 6 rfl rfl)
abbrev cX3_isWord : ByteArray := prog_24_method_11_code
def dkwX3_isWord_0 : List UInt8 := [42, 180, 1, 0, 6, 160, 0, 16, 42, 180, 1, 7, 31, 148, 154, 0, 7, 4, 167, 0, 4, 3, 172]
abbrev dktX3_isWord_0 : List UInt8 := dkwX3_isWord_0 ++ []
theorem dksX3_isWord_0 : cX3_isWord.data.toList.drop 0 = dktX3_isWord_0 := by decide +kernel
theorem dX3_isWord_0 : decode cX3_isWord 0 = .ok (.aload_n 0, 1) := dk_42 (dk_at dksX3_isWord_0 0 rfl rfl)
theorem dX3_isWord_1 : decode cX3_isWord 1 = .ok (.getfield 256, 3) := dk_180 1 0 (dk_at dksX3_isWord_0 1 rfl rfl)
theorem dX3_isWord_4 : decode cX3_isWord 4 = .ok (.iconst 3, 1) := dk_6 (dk_at dksX3_isWord_0 4 rfl rfl)
theorem dX3_isWord_5 : decode cX3_isWord 5 = .ok (.if_icmp .ne 16, 3) := dk_160 0 16 (dk_at dksX3_isWord_0 5 rfl rfl)
theorem dX3_isWord_8 : decode cX3_isWord 8 = .ok (.aload_n 0, 1) := dk_42 (dk_at dksX3_isWord_0 8 rfl rfl)
theorem dX3_isWord_9 : decode cX3_isWord 9 = .ok (.getfield 263, 3) := dk_180 1 7 (dk_at dksX3_isWord_0 9 rfl rfl)
theorem dX3_isWord_12 : decode cX3_isWord 12 = .ok (.lload_n 1, 1) := dk_31 (dk_at dksX3_isWord_0 12 rfl rfl)
theorem dX3_isWord_13 : decode cX3_isWord 13 = .ok (.lcmp, 1) := dk_148 (dk_at dksX3_isWord_0 13 rfl rfl)
theorem dX3_isWord_14 : decode cX3_isWord 14 = .ok (.ifCond .ne 7, 3) := dk_154 0 7 (dk_at dksX3_isWord_0 14 rfl rfl)
theorem dX3_isWord_17 : decode cX3_isWord 17 = .ok (.iconst 1, 1) := dk_4 (dk_at dksX3_isWord_0 17 rfl rfl)
theorem dX3_isWord_18 : decode cX3_isWord 18 = .ok (.goto 4, 3) := dk_167 0 4 (dk_at dksX3_isWord_0 18 rfl rfl)
theorem dX3_isWord_21 : decode cX3_isWord 21 = .ok (.iconst 0, 1) := dk_3 (dk_at dksX3_isWord_0 21 rfl rfl)
theorem dX3_isWord_22 : decode cX3_isWord 22 = .ok (.ireturn, 1) := dk_172 (dk_at dksX3_isWord_0 22 rfl rfl)
abbrev cX3_is : ByteArray := prog_24_method_10_code
def dkwX3_is_1 : List UInt8 := [3, 172]
abbrev dktX3_is_1 : List UInt8 := dkwX3_is_1 ++ []
def dkwX3_is_0 : List UInt8 := [42, 180, 1, 0, 8, 160, 0, 19, 42, 42, 180, 0, 249, 182, 0, 252, 27, 160, 0, 7, 4, 167, 0, 4]
abbrev dktX3_is_0 : List UInt8 := dkwX3_is_0 ++ dktX3_is_1
theorem dksX3_is_0 : cX3_is.data.toList.drop 0 = dktX3_is_0 := by decide +kernel
theorem dksX3_is_1 : cX3_is.data.toList.drop 24 = dktX3_is_1 := dk_seg dksX3_is_0 24 rfl rfl
theorem dX3_is_0 : decode cX3_is 0 = .ok (.aload_n 0, 1) := dk_42 (dk_at dksX3_is_0 0 rfl rfl)
theorem dX3_is_1 : decode cX3_is 1 = .ok (.getfield 256, 3) := dk_180 1 0 (dk_at dksX3_is_0 1 rfl rfl)
theorem dX3_is_4 : decode cX3_is 4 = .ok (.iconst 5, 1) := dk_8 (dk_at dksX3_is_0 4 rfl rfl)
theorem dX3_is_5 : decode cX3_is 5 = .ok (.if_icmp .ne 19, 3) := dk_160 0 19 (dk_at dksX3_is_0 5 rfl rfl)
theorem dX3_is_8 : decode cX3_is 8 = .ok (.aload_n 0, 1) := dk_42 (dk_at dksX3_is_0 8 rfl rfl)
theorem dX3_is_9 : decode cX3_is 9 = .ok (.aload_n 0, 1) := dk_42 (dk_at dksX3_is_0 9 rfl rfl)
theorem dX3_is_10 : decode cX3_is 10 = .ok (.getfield 249, 3) := dk_180 0 249 (dk_at dksX3_is_0 10 rfl rfl)
theorem dX3_is_13 : decode cX3_is 13 = .ok (.invokevirtual 252, 3) := dk_182 0 252 (dk_at dksX3_is_0 13 rfl rfl)
theorem dX3_is_16 : decode cX3_is 16 = .ok (.iload_n 1, 1) := dk_27 (dk_at dksX3_is_0 16 rfl rfl)
theorem dX3_is_17 : decode cX3_is 17 = .ok (.if_icmp .ne 7, 3) := dk_160 0 7 (dk_at dksX3_is_0 17 rfl rfl)
theorem dX3_is_20 : decode cX3_is 20 = .ok (.iconst 1, 1) := dk_4 (dk_at dksX3_is_0 20 rfl rfl)
theorem dX3_is_21 : decode cX3_is 21 = .ok (.goto 4, 3) := dk_167 0 4 (dk_at dksX3_is_0 21 rfl rfl)
theorem dX3_is_24 : decode cX3_is 24 = .ok (.iconst 0, 1) := dk_3 (dk_at dksX3_is_1 0 rfl rfl)
theorem dX3_is_25 : decode cX3_is 25 = .ok (.ireturn, 1) := dk_172 (dk_at dksX3_is_1 1 rfl rfl)
abbrev cX3_joins : ByteArray := prog_24_method_27_code
def dkwX3_joins_0 : List UInt8 := [42, 180, 0, 27, 42, 180, 1, 44, 46, 172]
abbrev dktX3_joins_0 : List UInt8 := dkwX3_joins_0 ++ []
theorem dksX3_joins_0 : cX3_joins.data.toList.drop 0 = dktX3_joins_0 := by decide +kernel
theorem dX3_joins_0 : decode cX3_joins 0 = .ok (.aload_n 0, 1) := dk_42 (dk_at dksX3_joins_0 0 rfl rfl)
theorem dX3_joins_1 : decode cX3_joins 1 = .ok (.getfield 27, 3) := dk_180 0 27 (dk_at dksX3_joins_0 1 rfl rfl)
theorem dX3_joins_4 : decode cX3_joins 4 = .ok (.aload_n 0, 1) := dk_42 (dk_at dksX3_joins_0 4 rfl rfl)
theorem dX3_joins_5 : decode cX3_joins 5 = .ok (.getfield 300, 3) := dk_180 1 44 (dk_at dksX3_joins_0 5 rfl rfl)
theorem dX3_joins_8 : decode cX3_joins 8 = .ok (.iaload, 1) := dk_46 (dk_at dksX3_joins_0 8 rfl rfl)
theorem dX3_joins_9 : decode cX3_joins 9 = .ok (.ireturn, 1) := dk_172 (dk_at dksX3_joins_0 9 rfl rfl)
abbrev cX3_land : ByteArray := prog_24_method_75_code
def dkwX3_land_0 : List UInt8 := [42, 180, 1, 56, 60, 42, 3, 181, 1, 56, 27, 172]
abbrev dktX3_land_0 : List UInt8 := dkwX3_land_0 ++ []
theorem dksX3_land_0 : cX3_land.data.toList.drop 0 = dktX3_land_0 := by decide +kernel
theorem dX3_land_0 : decode cX3_land 0 = .ok (.aload_n 0, 1) := dk_42 (dk_at dksX3_land_0 0 rfl rfl)
theorem dX3_land_1 : decode cX3_land 1 = .ok (.getfield 312, 3) := dk_180 1 56 (dk_at dksX3_land_0 1 rfl rfl)
theorem dX3_land_4 : decode cX3_land 4 = .ok (.istore_n 1, 1) := dk_60 (dk_at dksX3_land_0 4 rfl rfl)
theorem dX3_land_5 : decode cX3_land 5 = .ok (.aload_n 0, 1) := dk_42 (dk_at dksX3_land_0 5 rfl rfl)
theorem dX3_land_6 : decode cX3_land 6 = .ok (.iconst 0, 1) := dk_3 (dk_at dksX3_land_0 6 rfl rfl)
theorem dX3_land_7 : decode cX3_land 7 = .ok (.putfield 312, 3) := dk_181 1 56 (dk_at dksX3_land_0 7 rfl rfl)
theorem dX3_land_10 : decode cX3_land 10 = .ok (.iload_n 1, 1) := dk_27 (dk_at dksX3_land_0 10 rfl rfl)
theorem dX3_land_11 : decode cX3_land 11 = .ok (.ireturn, 1) := dk_172 (dk_at dksX3_land_0 11 rfl rfl)
abbrev cX3_lapse : ByteArray := prog_24_method_92_code
def dkwX3_lapse_1 : List UInt8 := [156, 0, 5, 2, 172, 42, 180, 0, 153, 27, 46, 172]
abbrev dktX3_lapse_1 : List UInt8 := dkwX3_lapse_1 ++ []
def dkwX3_lapse_0 : List UInt8 := [27, 3, 42, 180, 2, 40, 4, 100, 184, 1, 98, 153, 0, 14, 42, 28, 29, 21, 4, 182, 2, 46]
abbrev dktX3_lapse_0 : List UInt8 := dkwX3_lapse_0 ++ dktX3_lapse_1
theorem dksX3_lapse_0 : cX3_lapse.data.toList.drop 0 = dktX3_lapse_0 := by decide +kernel
theorem dksX3_lapse_1 : cX3_lapse.data.toList.drop 22 = dktX3_lapse_1 := dk_seg dksX3_lapse_0 22 rfl rfl
theorem dX3_lapse_0 : decode cX3_lapse 0 = .ok (.iload_n 1, 1) := dk_27 (dk_at dksX3_lapse_0 0 rfl rfl)
theorem dX3_lapse_1 : decode cX3_lapse 1 = .ok (.iconst 0, 1) := dk_3 (dk_at dksX3_lapse_0 1 rfl rfl)
theorem dX3_lapse_2 : decode cX3_lapse 2 = .ok (.aload_n 0, 1) := dk_42 (dk_at dksX3_lapse_0 2 rfl rfl)
theorem dX3_lapse_3 : decode cX3_lapse 3 = .ok (.getfield 552, 3) := dk_180 2 40 (dk_at dksX3_lapse_0 3 rfl rfl)
theorem dX3_lapse_6 : decode cX3_lapse 6 = .ok (.iconst 1, 1) := dk_4 (dk_at dksX3_lapse_0 6 rfl rfl)
theorem dX3_lapse_7 : decode cX3_lapse 7 = .ok (.isub, 1) := dk_100 (dk_at dksX3_lapse_0 7 rfl rfl)
theorem dX3_lapse_8 : decode cX3_lapse 8 = .ok (.invokestatic 354, 3) := dk_184 1 98 (dk_at dksX3_lapse_0 8 rfl rfl)
theorem dX3_lapse_11 : decode cX3_lapse 11 = .ok (.ifCond .eq 14, 3) := dk_153 0 14 (dk_at dksX3_lapse_0 11 rfl rfl)
theorem dX3_lapse_14 : decode cX3_lapse 14 = .ok (.aload_n 0, 1) := dk_42 (dk_at dksX3_lapse_0 14 rfl rfl)
theorem dX3_lapse_15 : decode cX3_lapse 15 = .ok (.iload_n 2, 1) := dk_28 (dk_at dksX3_lapse_0 15 rfl rfl)
theorem dX3_lapse_16 : decode cX3_lapse 16 = .ok (.iload_n 3, 1) := dk_29 (dk_at dksX3_lapse_0 16 rfl rfl)
theorem dX3_lapse_17 : decode cX3_lapse 17 = .ok (.iload 4, 2) := dk_21 4 (dk_at dksX3_lapse_0 17 rfl rfl)
theorem dX3_lapse_19 : decode cX3_lapse 19 = .ok (.invokevirtual 558, 3) := dk_182 2 46 (dk_at dksX3_lapse_0 19 rfl rfl)
theorem dX3_lapse_22 : decode cX3_lapse 22 = .ok (.ifCond .ge 5, 3) := dk_156 0 5 (dk_at dksX3_lapse_1 0 rfl rfl)
theorem dX3_lapse_25 : decode cX3_lapse 25 = .ok (.iconst (-1), 1) := dk_2 (dk_at dksX3_lapse_1 3 rfl rfl)
theorem dX3_lapse_26 : decode cX3_lapse 26 = .ok (.ireturn, 1) := dk_172 (dk_at dksX3_lapse_1 4 rfl rfl)
theorem dX3_lapse_27 : decode cX3_lapse 27 = .ok (.aload_n 0, 1) := dk_42 (dk_at dksX3_lapse_1 5 rfl rfl)
theorem dX3_lapse_28 : decode cX3_lapse 28 = .ok (.getfield 153, 3) := dk_180 0 153 (dk_at dksX3_lapse_1 6 rfl rfl)
theorem dX3_lapse_31 : decode cX3_lapse 31 = .ok (.iload_n 1, 1) := dk_27 (dk_at dksX3_lapse_1 9 rfl rfl)
theorem dX3_lapse_32 : decode cX3_lapse 32 = .ok (.iaload, 1) := dk_46 (dk_at dksX3_lapse_1 10 rfl rfl)
theorem dX3_lapse_33 : decode cX3_lapse 33 = .ok (.ireturn, 1) := dk_172 (dk_at dksX3_lapse_1 11 rfl rfl)
abbrev cX3_later : ByteArray := prog_24_method_64_code
def dkwX3_later_1 : List UInt8 := [172, 42, 89, 180, 1, 236, 27, 96, 181, 1, 236, 42, 180, 1, 236, 172]
abbrev dktX3_later_1 : List UInt8 := dkwX3_later_1 ++ []
def dkwX3_later_0 : List UInt8 := [27, 155, 0, 22, 27, 17, 3, 232, 163, 0, 15, 42, 180, 1, 236, 27, 96, 19, 1, 246, 164, 0, 5, 2]
abbrev dktX3_later_0 : List UInt8 := dkwX3_later_0 ++ dktX3_later_1
theorem dksX3_later_0 : cX3_later.data.toList.drop 0 = dktX3_later_0 := by decide +kernel
theorem dksX3_later_1 : cX3_later.data.toList.drop 24 = dktX3_later_1 := dk_seg dksX3_later_0 24 rfl rfl
theorem dX3_later_0 : decode cX3_later 0 = .ok (.iload_n 1, 1) := dk_27 (dk_at dksX3_later_0 0 rfl rfl)
theorem dX3_later_1 : decode cX3_later 1 = .ok (.ifCond .lt 22, 3) := dk_155 0 22 (dk_at dksX3_later_0 1 rfl rfl)
theorem dX3_later_4 : decode cX3_later 4 = .ok (.iload_n 1, 1) := dk_27 (dk_at dksX3_later_0 4 rfl rfl)
theorem dX3_later_5 : decode cX3_later 5 = .ok (.sipush 1000, 3) := dk_17 3 232 (dk_at dksX3_later_0 5 rfl rfl)
theorem dX3_later_8 : decode cX3_later 8 = .ok (.if_icmp .gt 15, 3) := dk_163 0 15 (dk_at dksX3_later_0 8 rfl rfl)
theorem dX3_later_11 : decode cX3_later 11 = .ok (.aload_n 0, 1) := dk_42 (dk_at dksX3_later_0 11 rfl rfl)
theorem dX3_later_12 : decode cX3_later 12 = .ok (.getfield 492, 3) := dk_180 1 236 (dk_at dksX3_later_0 12 rfl rfl)
theorem dX3_later_15 : decode cX3_later 15 = .ok (.iload_n 1, 1) := dk_27 (dk_at dksX3_later_0 15 rfl rfl)
theorem dX3_later_16 : decode cX3_later 16 = .ok (.iadd, 1) := dk_96 (dk_at dksX3_later_0 16 rfl rfl)
theorem dX3_later_17 : decode cX3_later 17 = .ok (.ldc_w 502, 3) := dk_19 1 246 (dk_at dksX3_later_0 17 rfl rfl)
theorem dX3_later_20 : decode cX3_later 20 = .ok (.if_icmp .le 5, 3) := dk_164 0 5 (dk_at dksX3_later_0 20 rfl rfl)
theorem dX3_later_23 : decode cX3_later 23 = .ok (.iconst (-1), 1) := dk_2 (dk_at dksX3_later_0 23 rfl rfl)
theorem dX3_later_24 : decode cX3_later 24 = .ok (.ireturn, 1) := dk_172 (dk_at dksX3_later_1 0 rfl rfl)
theorem dX3_later_25 : decode cX3_later 25 = .ok (.aload_n 0, 1) := dk_42 (dk_at dksX3_later_1 1 rfl rfl)
theorem dX3_later_26 : decode cX3_later 26 = .ok (.dup, 1) := dk_89 (dk_at dksX3_later_1 2 rfl rfl)
theorem dX3_later_27 : decode cX3_later 27 = .ok (.getfield 492, 3) := dk_180 1 236 (dk_at dksX3_later_1 3 rfl rfl)
theorem dX3_later_30 : decode cX3_later 30 = .ok (.iload_n 1, 1) := dk_27 (dk_at dksX3_later_1 6 rfl rfl)
theorem dX3_later_31 : decode cX3_later 31 = .ok (.iadd, 1) := dk_96 (dk_at dksX3_later_1 7 rfl rfl)
theorem dX3_later_32 : decode cX3_later 32 = .ok (.putfield 492, 3) := dk_181 1 236 (dk_at dksX3_later_1 8 rfl rfl)
theorem dX3_later_35 : decode cX3_later 35 = .ok (.aload_n 0, 1) := dk_42 (dk_at dksX3_later_1 11 rfl rfl)
theorem dX3_later_36 : decode cX3_later 36 = .ok (.getfield 492, 3) := dk_180 1 236 (dk_at dksX3_later_1 12 rfl rfl)
theorem dX3_later_39 : decode cX3_later 39 = .ok (.ireturn, 1) := dk_172 (dk_at dksX3_later_1 15 rfl rfl)
abbrev cX3_layStages : ByteArray := prog_24_method_104_code
def dkwX3_layStages_5 : List UInt8 := [167, 255, 159, 132, 2, 1, 167, 255, 143, 132, 1, 255, 167, 255, 131, 177]
abbrev dktX3_layStages_5 : List UInt8 := dkwX3_layStages_5 ++ []
def dkwX3_layStages_4 : List UInt8 := [153, 0, 7, 4, 167, 0, 4, 3, 84, 132, 5, 1, 167, 255, 190, 132, 4, 1, 167, 255, 174, 132, 3, 1]
abbrev dktX3_layStages_4 : List UInt8 := dkwX3_layStages_4 ++ dktX3_layStages_5
def dkwX3_layStages_3 : List UInt8 := [29, 21, 4, 21, 5, 182, 2, 90, 154, 0, 17, 42, 27, 28, 29, 21, 4, 21, 5, 182, 2, 93]
abbrev dktX3_layStages_3 : List UInt8 := dkwX3_layStages_3 ++ dktX3_layStages_4
def dkwX3_layStages_2 : List UInt8 := [180, 0, 169, 27, 28, 29, 21, 4, 21, 5, 184, 2, 82, 27, 42, 180, 2, 70, 159, 0, 31, 42, 27, 28]
abbrev dktX3_layStages_2 : List UInt8 := dkwX3_layStages_2 ++ dktX3_layStages_3
def dkwX3_layStages_1 : List UInt8 := [163, 0, 97, 3, 54, 4, 21, 4, 16, 30, 163, 0, 81, 3, 54, 5, 21, 5, 16, 30, 163, 0, 65, 42]
abbrev dktX3_layStages_1 : List UInt8 := dkwX3_layStages_1 ++ dktX3_layStages_2
def dkwX3_layStages_0 : List UInt8 := [42, 180, 2, 70, 60, 27, 155, 0, 127, 3, 61, 28, 42, 180, 2, 76, 163, 0, 111, 3, 62, 29, 16, 6]
abbrev dktX3_layStages_0 : List UInt8 := dkwX3_layStages_0 ++ dktX3_layStages_1
theorem dksX3_layStages_0 : cX3_layStages.data.toList.drop 0 = dktX3_layStages_0 := by decide +kernel
theorem dksX3_layStages_1 : cX3_layStages.data.toList.drop 24 = dktX3_layStages_1 := dk_seg dksX3_layStages_0 24 rfl rfl
theorem dksX3_layStages_2 : cX3_layStages.data.toList.drop 48 = dktX3_layStages_2 := dk_seg dksX3_layStages_1 24 rfl rfl
theorem dksX3_layStages_3 : cX3_layStages.data.toList.drop 72 = dktX3_layStages_3 := dk_seg dksX3_layStages_2 24 rfl rfl
theorem dksX3_layStages_4 : cX3_layStages.data.toList.drop 94 = dktX3_layStages_4 := dk_seg dksX3_layStages_3 22 rfl rfl
theorem dksX3_layStages_5 : cX3_layStages.data.toList.drop 118 = dktX3_layStages_5 := dk_seg dksX3_layStages_4 24 rfl rfl
theorem dX3_layStages_0 : decode cX3_layStages 0 = .ok (.aload_n 0, 1) := dk_42 (dk_at dksX3_layStages_0 0 rfl rfl)
theorem dX3_layStages_1 : decode cX3_layStages 1 = .ok (.getfield 582, 3) := dk_180 2 70 (dk_at dksX3_layStages_0 1 rfl rfl)
theorem dX3_layStages_4 : decode cX3_layStages 4 = .ok (.istore_n 1, 1) := dk_60 (dk_at dksX3_layStages_0 4 rfl rfl)
theorem dX3_layStages_5 : decode cX3_layStages 5 = .ok (.iload_n 1, 1) := dk_27 (dk_at dksX3_layStages_0 5 rfl rfl)
theorem dX3_layStages_6 : decode cX3_layStages 6 = .ok (.ifCond .lt 127, 3) := dk_155 0 127 (dk_at dksX3_layStages_0 6 rfl rfl)
theorem dX3_layStages_9 : decode cX3_layStages 9 = .ok (.iconst 0, 1) := dk_3 (dk_at dksX3_layStages_0 9 rfl rfl)
theorem dX3_layStages_10 : decode cX3_layStages 10 = .ok (.istore_n 2, 1) := dk_61 (dk_at dksX3_layStages_0 10 rfl rfl)
theorem dX3_layStages_11 : decode cX3_layStages 11 = .ok (.iload_n 2, 1) := dk_28 (dk_at dksX3_layStages_0 11 rfl rfl)
theorem dX3_layStages_12 : decode cX3_layStages 12 = .ok (.aload_n 0, 1) := dk_42 (dk_at dksX3_layStages_0 12 rfl rfl)
theorem dX3_layStages_13 : decode cX3_layStages 13 = .ok (.getfield 588, 3) := dk_180 2 76 (dk_at dksX3_layStages_0 13 rfl rfl)
theorem dX3_layStages_16 : decode cX3_layStages 16 = .ok (.if_icmp .gt 111, 3) := dk_163 0 111 (dk_at dksX3_layStages_0 16 rfl rfl)
theorem dX3_layStages_19 : decode cX3_layStages 19 = .ok (.iconst 0, 1) := dk_3 (dk_at dksX3_layStages_0 19 rfl rfl)
theorem dX3_layStages_20 : decode cX3_layStages 20 = .ok (.istore_n 3, 1) := dk_62 (dk_at dksX3_layStages_0 20 rfl rfl)
theorem dX3_layStages_21 : decode cX3_layStages 21 = .ok (.iload_n 3, 1) := dk_29 (dk_at dksX3_layStages_0 21 rfl rfl)
theorem dX3_layStages_22 : decode cX3_layStages 22 = .ok (.bipush 6, 2) := dk_16 6 (dk_at dksX3_layStages_0 22 rfl rfl)
theorem dX3_layStages_24 : decode cX3_layStages 24 = .ok (.if_icmp .gt 97, 3) := dk_163 0 97 (dk_at dksX3_layStages_1 0 rfl rfl)
theorem dX3_layStages_27 : decode cX3_layStages 27 = .ok (.iconst 0, 1) := dk_3 (dk_at dksX3_layStages_1 3 rfl rfl)
theorem dX3_layStages_28 : decode cX3_layStages 28 = .ok (.istore 4, 2) := dk_54 4 (dk_at dksX3_layStages_1 4 rfl rfl)
theorem dX3_layStages_30 : decode cX3_layStages 30 = .ok (.iload 4, 2) := dk_21 4 (dk_at dksX3_layStages_1 6 rfl rfl)
theorem dX3_layStages_32 : decode cX3_layStages 32 = .ok (.bipush 30, 2) := dk_16 30 (dk_at dksX3_layStages_1 8 rfl rfl)
theorem dX3_layStages_34 : decode cX3_layStages 34 = .ok (.if_icmp .gt 81, 3) := dk_163 0 81 (dk_at dksX3_layStages_1 10 rfl rfl)
theorem dX3_layStages_37 : decode cX3_layStages 37 = .ok (.iconst 0, 1) := dk_3 (dk_at dksX3_layStages_1 13 rfl rfl)
theorem dX3_layStages_38 : decode cX3_layStages 38 = .ok (.istore 5, 2) := dk_54 5 (dk_at dksX3_layStages_1 14 rfl rfl)
theorem dX3_layStages_40 : decode cX3_layStages 40 = .ok (.iload 5, 2) := dk_21 5 (dk_at dksX3_layStages_1 16 rfl rfl)
theorem dX3_layStages_42 : decode cX3_layStages 42 = .ok (.bipush 30, 2) := dk_16 30 (dk_at dksX3_layStages_1 18 rfl rfl)
theorem dX3_layStages_44 : decode cX3_layStages 44 = .ok (.if_icmp .gt 65, 3) := dk_163 0 65 (dk_at dksX3_layStages_1 20 rfl rfl)
theorem dX3_layStages_47 : decode cX3_layStages 47 = .ok (.aload_n 0, 1) := dk_42 (dk_at dksX3_layStages_1 23 rfl rfl)
theorem dX3_layStages_48 : decode cX3_layStages 48 = .ok (.getfield 169, 3) := dk_180 0 169 (dk_at dksX3_layStages_2 0 rfl rfl)
theorem dX3_layStages_51 : decode cX3_layStages 51 = .ok (.iload_n 1, 1) := dk_27 (dk_at dksX3_layStages_2 3 rfl rfl)
theorem dX3_layStages_52 : decode cX3_layStages 52 = .ok (.iload_n 2, 1) := dk_28 (dk_at dksX3_layStages_2 4 rfl rfl)
theorem dX3_layStages_53 : decode cX3_layStages 53 = .ok (.iload_n 3, 1) := dk_29 (dk_at dksX3_layStages_2 5 rfl rfl)
theorem dX3_layStages_54 : decode cX3_layStages 54 = .ok (.iload 4, 2) := dk_21 4 (dk_at dksX3_layStages_2 6 rfl rfl)
theorem dX3_layStages_56 : decode cX3_layStages 56 = .ok (.iload 5, 2) := dk_21 5 (dk_at dksX3_layStages_2 8 rfl rfl)
theorem dX3_layStages_58 : decode cX3_layStages 58 = .ok (.invokestatic 594, 3) := dk_184 2 82 (dk_at dksX3_layStages_2 10 rfl rfl)
theorem dX3_layStages_61 : decode cX3_layStages 61 = .ok (.iload_n 1, 1) := dk_27 (dk_at dksX3_layStages_2 13 rfl rfl)
theorem dX3_layStages_62 : decode cX3_layStages 62 = .ok (.aload_n 0, 1) := dk_42 (dk_at dksX3_layStages_2 14 rfl rfl)
theorem dX3_layStages_63 : decode cX3_layStages 63 = .ok (.getfield 582, 3) := dk_180 2 70 (dk_at dksX3_layStages_2 15 rfl rfl)
theorem dX3_layStages_66 : decode cX3_layStages 66 = .ok (.if_icmp .eq 31, 3) := dk_159 0 31 (dk_at dksX3_layStages_2 18 rfl rfl)
theorem dX3_layStages_69 : decode cX3_layStages 69 = .ok (.aload_n 0, 1) := dk_42 (dk_at dksX3_layStages_2 21 rfl rfl)
theorem dX3_layStages_70 : decode cX3_layStages 70 = .ok (.iload_n 1, 1) := dk_27 (dk_at dksX3_layStages_2 22 rfl rfl)
theorem dX3_layStages_71 : decode cX3_layStages 71 = .ok (.iload_n 2, 1) := dk_28 (dk_at dksX3_layStages_2 23 rfl rfl)
theorem dX3_layStages_72 : decode cX3_layStages 72 = .ok (.iload_n 3, 1) := dk_29 (dk_at dksX3_layStages_3 0 rfl rfl)
theorem dX3_layStages_73 : decode cX3_layStages 73 = .ok (.iload 4, 2) := dk_21 4 (dk_at dksX3_layStages_3 1 rfl rfl)
theorem dX3_layStages_75 : decode cX3_layStages 75 = .ok (.iload 5, 2) := dk_21 5 (dk_at dksX3_layStages_3 3 rfl rfl)
theorem dX3_layStages_77 : decode cX3_layStages 77 = .ok (.invokevirtual 602, 3) := dk_182 2 90 (dk_at dksX3_layStages_3 5 rfl rfl)
theorem dX3_layStages_80 : decode cX3_layStages 80 = .ok (.ifCond .ne 17, 3) := dk_154 0 17 (dk_at dksX3_layStages_3 8 rfl rfl)
theorem dX3_layStages_83 : decode cX3_layStages 83 = .ok (.aload_n 0, 1) := dk_42 (dk_at dksX3_layStages_3 11 rfl rfl)
theorem dX3_layStages_84 : decode cX3_layStages 84 = .ok (.iload_n 1, 1) := dk_27 (dk_at dksX3_layStages_3 12 rfl rfl)
theorem dX3_layStages_85 : decode cX3_layStages 85 = .ok (.iload_n 2, 1) := dk_28 (dk_at dksX3_layStages_3 13 rfl rfl)
theorem dX3_layStages_86 : decode cX3_layStages 86 = .ok (.iload_n 3, 1) := dk_29 (dk_at dksX3_layStages_3 14 rfl rfl)
theorem dX3_layStages_87 : decode cX3_layStages 87 = .ok (.iload 4, 2) := dk_21 4 (dk_at dksX3_layStages_3 15 rfl rfl)
theorem dX3_layStages_89 : decode cX3_layStages 89 = .ok (.iload 5, 2) := dk_21 5 (dk_at dksX3_layStages_3 17 rfl rfl)
theorem dX3_layStages_91 : decode cX3_layStages 91 = .ok (.invokevirtual 605, 3) := dk_182 2 93 (dk_at dksX3_layStages_3 19 rfl rfl)
theorem dX3_layStages_94 : decode cX3_layStages 94 = .ok (.ifCond .eq 7, 3) := dk_153 0 7 (dk_at dksX3_layStages_4 0 rfl rfl)
theorem dX3_layStages_97 : decode cX3_layStages 97 = .ok (.iconst 1, 1) := dk_4 (dk_at dksX3_layStages_4 3 rfl rfl)
theorem dX3_layStages_98 : decode cX3_layStages 98 = .ok (.goto 4, 3) := dk_167 0 4 (dk_at dksX3_layStages_4 4 rfl rfl)
theorem dX3_layStages_101 : decode cX3_layStages 101 = .ok (.iconst 0, 1) := dk_3 (dk_at dksX3_layStages_4 7 rfl rfl)
theorem dX3_layStages_102 : decode cX3_layStages 102 = .ok (.bastore, 1) := dk_84 (dk_at dksX3_layStages_4 8 rfl rfl)
theorem dX3_layStages_103 : decode cX3_layStages 103 = .ok (.iinc 5 1, 3) := dk_132 5 1 (dk_at dksX3_layStages_4 9 rfl rfl)
theorem dX3_layStages_106 : decode cX3_layStages 106 = .ok (.goto (-66), 3) := dk_167 255 190 (dk_at dksX3_layStages_4 12 rfl rfl)
theorem dX3_layStages_109 : decode cX3_layStages 109 = .ok (.iinc 4 1, 3) := dk_132 4 1 (dk_at dksX3_layStages_4 15 rfl rfl)
theorem dX3_layStages_112 : decode cX3_layStages 112 = .ok (.goto (-82), 3) := dk_167 255 174 (dk_at dksX3_layStages_4 18 rfl rfl)
theorem dX3_layStages_115 : decode cX3_layStages 115 = .ok (.iinc 3 1, 3) := dk_132 3 1 (dk_at dksX3_layStages_4 21 rfl rfl)
theorem dX3_layStages_118 : decode cX3_layStages 118 = .ok (.goto (-97), 3) := dk_167 255 159 (dk_at dksX3_layStages_5 0 rfl rfl)
theorem dX3_layStages_121 : decode cX3_layStages 121 = .ok (.iinc 2 1, 3) := dk_132 2 1 (dk_at dksX3_layStages_5 3 rfl rfl)
theorem dX3_layStages_124 : decode cX3_layStages 124 = .ok (.goto (-113), 3) := dk_167 255 143 (dk_at dksX3_layStages_5 6 rfl rfl)
theorem dX3_layStages_127 : decode cX3_layStages 127 = .ok (.iinc 1 (-1), 3) := dk_132 1 255 (dk_at dksX3_layStages_5 9 rfl rfl)
theorem dX3_layStages_130 : decode cX3_layStages 130 = .ok (.goto (-125), 3) := dk_167 255 131 (dk_at dksX3_layStages_5 12 rfl rfl)
theorem dX3_layStages_133 : decode cX3_layStages 133 = .ok (.return_, 1) := dk_177 (dk_at dksX3_layStages_5 15 rfl rfl)
abbrev cX3_leave : ByteArray := prog_24_method_73_code
def dkwX3_leave_1 : List UInt8 := [182, 1, 233, 153, 0, 7, 4, 167, 0, 8, 3, 167, 0, 4, 2, 172]
abbrev dktX3_leave_1 : List UInt8 := dkwX3_leave_1 ++ []
def dkwX3_leave_0 : List UInt8 := [27, 184, 1, 239, 153, 0, 33, 28, 184, 1, 135, 153, 0, 26, 42, 28, 27, 42, 27, 29, 182, 2, 2]
abbrev dktX3_leave_0 : List UInt8 := dkwX3_leave_0 ++ dktX3_leave_1
theorem dksX3_leave_0 : cX3_leave.data.toList.drop 0 = dktX3_leave_0 := by decide +kernel
theorem dksX3_leave_1 : cX3_leave.data.toList.drop 23 = dktX3_leave_1 := dk_seg dksX3_leave_0 23 rfl rfl
theorem dX3_leave_0 : decode cX3_leave 0 = .ok (.iload_n 1, 1) := dk_27 (dk_at dksX3_leave_0 0 rfl rfl)
theorem dX3_leave_1 : decode cX3_leave 1 = .ok (.invokestatic 495, 3) := dk_184 1 239 (dk_at dksX3_leave_0 1 rfl rfl)
theorem dX3_leave_4 : decode cX3_leave 4 = .ok (.ifCond .eq 33, 3) := dk_153 0 33 (dk_at dksX3_leave_0 4 rfl rfl)
theorem dX3_leave_7 : decode cX3_leave 7 = .ok (.iload_n 2, 1) := dk_28 (dk_at dksX3_leave_0 7 rfl rfl)
theorem dX3_leave_8 : decode cX3_leave 8 = .ok (.invokestatic 391, 3) := dk_184 1 135 (dk_at dksX3_leave_0 8 rfl rfl)
theorem dX3_leave_11 : decode cX3_leave 11 = .ok (.ifCond .eq 26, 3) := dk_153 0 26 (dk_at dksX3_leave_0 11 rfl rfl)
theorem dX3_leave_14 : decode cX3_leave 14 = .ok (.aload_n 0, 1) := dk_42 (dk_at dksX3_leave_0 14 rfl rfl)
theorem dX3_leave_15 : decode cX3_leave 15 = .ok (.iload_n 2, 1) := dk_28 (dk_at dksX3_leave_0 15 rfl rfl)
theorem dX3_leave_16 : decode cX3_leave 16 = .ok (.iload_n 1, 1) := dk_27 (dk_at dksX3_leave_0 16 rfl rfl)
theorem dX3_leave_17 : decode cX3_leave 17 = .ok (.aload_n 0, 1) := dk_42 (dk_at dksX3_leave_0 17 rfl rfl)
theorem dX3_leave_18 : decode cX3_leave 18 = .ok (.iload_n 1, 1) := dk_27 (dk_at dksX3_leave_0 18 rfl rfl)
theorem dX3_leave_19 : decode cX3_leave 19 = .ok (.iload_n 3, 1) := dk_29 (dk_at dksX3_leave_0 19 rfl rfl)
theorem dX3_leave_20 : decode cX3_leave 20 = .ok (.invokevirtual 514, 3) := dk_182 2 2 (dk_at dksX3_leave_0 20 rfl rfl)
theorem dX3_leave_23 : decode cX3_leave 23 = .ok (.invokevirtual 489, 3) := dk_182 1 233 (dk_at dksX3_leave_1 0 rfl rfl)
theorem dX3_leave_26 : decode cX3_leave 26 = .ok (.ifCond .eq 7, 3) := dk_153 0 7 (dk_at dksX3_leave_1 3 rfl rfl)
theorem dX3_leave_29 : decode cX3_leave 29 = .ok (.iconst 1, 1) := dk_4 (dk_at dksX3_leave_1 6 rfl rfl)
theorem dX3_leave_30 : decode cX3_leave 30 = .ok (.goto 8, 3) := dk_167 0 8 (dk_at dksX3_leave_1 7 rfl rfl)
theorem dX3_leave_33 : decode cX3_leave 33 = .ok (.iconst 0, 1) := dk_3 (dk_at dksX3_leave_1 10 rfl rfl)
theorem dX3_leave_34 : decode cX3_leave 34 = .ok (.goto 4, 3) := dk_167 0 4 (dk_at dksX3_leave_1 11 rfl rfl)
theorem dX3_leave_37 : decode cX3_leave 37 = .ok (.iconst (-1), 1) := dk_2 (dk_at dksX3_leave_1 14 rfl rfl)
theorem dX3_leave_38 : decode cX3_leave 38 = .ok (.ireturn, 1) := dk_172 (dk_at dksX3_leave_1 15 rfl rfl)
abbrev cX3_leavesBy : ByteArray := prog_24_method_54_code
def dkwX3_leavesBy_1 : List UInt8 := [3, 172]
abbrev dktX3_leavesBy_1 : List UInt8 := dkwX3_leavesBy_1 ++ []
def dkwX3_leavesBy_0 : List UInt8 := [42, 28, 181, 1, 189, 42, 29, 181, 1, 192, 42, 27, 4, 3, 182, 1, 223, 153, 0, 7, 4, 167, 0, 4]
abbrev dktX3_leavesBy_0 : List UInt8 := dkwX3_leavesBy_0 ++ dktX3_leavesBy_1
theorem dksX3_leavesBy_0 : cX3_leavesBy.data.toList.drop 0 = dktX3_leavesBy_0 := by decide +kernel
theorem dksX3_leavesBy_1 : cX3_leavesBy.data.toList.drop 24 = dktX3_leavesBy_1 := dk_seg dksX3_leavesBy_0 24 rfl rfl
theorem dX3_leavesBy_0 : decode cX3_leavesBy 0 = .ok (.aload_n 0, 1) := dk_42 (dk_at dksX3_leavesBy_0 0 rfl rfl)
theorem dX3_leavesBy_1 : decode cX3_leavesBy 1 = .ok (.iload_n 2, 1) := dk_28 (dk_at dksX3_leavesBy_0 1 rfl rfl)
theorem dX3_leavesBy_2 : decode cX3_leavesBy 2 = .ok (.putfield 445, 3) := dk_181 1 189 (dk_at dksX3_leavesBy_0 2 rfl rfl)
theorem dX3_leavesBy_5 : decode cX3_leavesBy 5 = .ok (.aload_n 0, 1) := dk_42 (dk_at dksX3_leavesBy_0 5 rfl rfl)
theorem dX3_leavesBy_6 : decode cX3_leavesBy 6 = .ok (.iload_n 3, 1) := dk_29 (dk_at dksX3_leavesBy_0 6 rfl rfl)
theorem dX3_leavesBy_7 : decode cX3_leavesBy 7 = .ok (.putfield 448, 3) := dk_181 1 192 (dk_at dksX3_leavesBy_0 7 rfl rfl)
theorem dX3_leavesBy_10 : decode cX3_leavesBy 10 = .ok (.aload_n 0, 1) := dk_42 (dk_at dksX3_leavesBy_0 10 rfl rfl)
theorem dX3_leavesBy_11 : decode cX3_leavesBy 11 = .ok (.iload_n 1, 1) := dk_27 (dk_at dksX3_leavesBy_0 11 rfl rfl)
theorem dX3_leavesBy_12 : decode cX3_leavesBy 12 = .ok (.iconst 1, 1) := dk_4 (dk_at dksX3_leavesBy_0 12 rfl rfl)
theorem dX3_leavesBy_13 : decode cX3_leavesBy 13 = .ok (.iconst 0, 1) := dk_3 (dk_at dksX3_leavesBy_0 13 rfl rfl)
theorem dX3_leavesBy_14 : decode cX3_leavesBy 14 = .ok (.invokevirtual 479, 3) := dk_182 1 223 (dk_at dksX3_leavesBy_0 14 rfl rfl)
theorem dX3_leavesBy_17 : decode cX3_leavesBy 17 = .ok (.ifCond .eq 7, 3) := dk_153 0 7 (dk_at dksX3_leavesBy_0 17 rfl rfl)
theorem dX3_leavesBy_20 : decode cX3_leavesBy 20 = .ok (.iconst 1, 1) := dk_4 (dk_at dksX3_leavesBy_0 20 rfl rfl)
theorem dX3_leavesBy_21 : decode cX3_leavesBy 21 = .ok (.goto 4, 3) := dk_167 0 4 (dk_at dksX3_leavesBy_0 21 rfl rfl)
theorem dX3_leavesBy_24 : decode cX3_leavesBy 24 = .ok (.iconst 0, 1) := dk_3 (dk_at dksX3_leavesBy_1 0 rfl rfl)
theorem dX3_leavesBy_25 : decode cX3_leavesBy 25 = .ok (.ireturn, 1) := dk_172 (dk_at dksX3_leavesBy_1 1 rfl rfl)
abbrev cX3_machine : ByteArray := prog_24_method_16_code
def dkwX3_machine_7 : List UInt8 := [3, 181, 1, 53, 42, 3, 181, 1, 56, 42, 180, 0, 20, 42, 180, 1, 44, 46, 172]
abbrev dktX3_machine_7 : List UInt8 := dkwX3_machine_7 ++ []
def dkwX3_machine_6 : List UInt8 := [182, 1, 50, 167, 255, 238, 42, 182, 1, 28, 154, 0, 5, 2, 172, 42, 42, 180, 1, 47, 181, 1, 44, 42]
abbrev dktX3_machine_6 : List UInt8 := dkwX3_machine_6 ++ dktX3_machine_7
def dkwX3_machine_5 : List UInt8 := [167, 255, 232, 42, 182, 1, 32, 42, 182, 1, 28, 153, 0, 17, 42, 180, 1, 0, 153, 0, 10, 42]
abbrev dktX3_machine_5 : List UInt8 := dkwX3_machine_5 ++ dktX3_machine_6
def dkwX3_machine_4 : List UInt8 := [16, 8, 162, 0, 24, 42, 180, 0, 75, 16, 8, 42, 180, 1, 47, 104, 27, 96, 3, 84, 132, 1, 1]
abbrev dktX3_machine_4 : List UInt8 := dkwX3_machine_4 ++ dktX3_machine_5
def dkwX3_machine_3 : List UInt8 := [42, 180, 0, 72, 16, 64, 42, 180, 1, 47, 104, 27, 96, 3, 79, 132, 1, 1, 167, 255, 232, 3, 60, 27]
abbrev dktX3_machine_3 : List UInt8 := dkwX3_machine_3 ++ dktX3_machine_4
def dkwX3_machine_2 : List UInt8 := [42, 180, 1, 47, 3, 79, 42, 180, 0, 33, 42, 180, 1, 47, 3, 79, 3, 60, 27, 16, 64, 162, 0, 24]
abbrev dktX3_machine_2 : List UInt8 := dkwX3_machine_2 ++ dktX3_machine_3
def dkwX3_machine_1 : List UInt8 := [42, 180, 0, 24, 42, 180, 1, 47, 3, 79, 42, 180, 0, 27, 42, 180, 1, 47, 3, 79, 42, 180, 0, 30]
abbrev dktX3_machine_1 : List UInt8 := dkwX3_machine_1 ++ dktX3_machine_2
def dkwX3_machine_0 : List UInt8 := [42, 182, 1, 41, 42, 4, 42, 180, 1, 44, 100, 181, 1, 47, 42, 180, 0, 20, 42, 180, 1, 47, 3, 79]
abbrev dktX3_machine_0 : List UInt8 := dkwX3_machine_0 ++ dktX3_machine_1
theorem dksX3_machine_0 : cX3_machine.data.toList.drop 0 = dktX3_machine_0 := by decide +kernel
theorem dksX3_machine_1 : cX3_machine.data.toList.drop 24 = dktX3_machine_1 := dk_seg dksX3_machine_0 24 rfl rfl
theorem dksX3_machine_2 : cX3_machine.data.toList.drop 48 = dktX3_machine_2 := dk_seg dksX3_machine_1 24 rfl rfl
theorem dksX3_machine_3 : cX3_machine.data.toList.drop 72 = dktX3_machine_3 := dk_seg dksX3_machine_2 24 rfl rfl
theorem dksX3_machine_4 : cX3_machine.data.toList.drop 96 = dktX3_machine_4 := dk_seg dksX3_machine_3 24 rfl rfl
theorem dksX3_machine_5 : cX3_machine.data.toList.drop 119 = dktX3_machine_5 := dk_seg dksX3_machine_4 23 rfl rfl
theorem dksX3_machine_6 : cX3_machine.data.toList.drop 141 = dktX3_machine_6 := dk_seg dksX3_machine_5 22 rfl rfl
theorem dksX3_machine_7 : cX3_machine.data.toList.drop 165 = dktX3_machine_7 := dk_seg dksX3_machine_6 24 rfl rfl
theorem dX3_machine_0 : decode cX3_machine 0 = .ok (.aload_n 0, 1) := dk_42 (dk_at dksX3_machine_0 0 rfl rfl)
theorem dX3_machine_1 : decode cX3_machine 1 = .ok (.invokevirtual 297, 3) := dk_182 1 41 (dk_at dksX3_machine_0 1 rfl rfl)
theorem dX3_machine_4 : decode cX3_machine 4 = .ok (.aload_n 0, 1) := dk_42 (dk_at dksX3_machine_0 4 rfl rfl)
theorem dX3_machine_5 : decode cX3_machine 5 = .ok (.iconst 1, 1) := dk_4 (dk_at dksX3_machine_0 5 rfl rfl)
theorem dX3_machine_6 : decode cX3_machine 6 = .ok (.aload_n 0, 1) := dk_42 (dk_at dksX3_machine_0 6 rfl rfl)
theorem dX3_machine_7 : decode cX3_machine 7 = .ok (.getfield 300, 3) := dk_180 1 44 (dk_at dksX3_machine_0 7 rfl rfl)
theorem dX3_machine_10 : decode cX3_machine 10 = .ok (.isub, 1) := dk_100 (dk_at dksX3_machine_0 10 rfl rfl)
theorem dX3_machine_11 : decode cX3_machine 11 = .ok (.putfield 303, 3) := dk_181 1 47 (dk_at dksX3_machine_0 11 rfl rfl)
theorem dX3_machine_14 : decode cX3_machine 14 = .ok (.aload_n 0, 1) := dk_42 (dk_at dksX3_machine_0 14 rfl rfl)
theorem dX3_machine_15 : decode cX3_machine 15 = .ok (.getfield 20, 3) := dk_180 0 20 (dk_at dksX3_machine_0 15 rfl rfl)
theorem dX3_machine_18 : decode cX3_machine 18 = .ok (.aload_n 0, 1) := dk_42 (dk_at dksX3_machine_0 18 rfl rfl)
theorem dX3_machine_19 : decode cX3_machine 19 = .ok (.getfield 303, 3) := dk_180 1 47 (dk_at dksX3_machine_0 19 rfl rfl)
theorem dX3_machine_22 : decode cX3_machine 22 = .ok (.iconst 0, 1) := dk_3 (dk_at dksX3_machine_0 22 rfl rfl)
theorem dX3_machine_23 : decode cX3_machine 23 = .ok (.iastore, 1) := dk_79 (dk_at dksX3_machine_0 23 rfl rfl)
theorem dX3_machine_24 : decode cX3_machine 24 = .ok (.aload_n 0, 1) := dk_42 (dk_at dksX3_machine_1 0 rfl rfl)
theorem dX3_machine_25 : decode cX3_machine 25 = .ok (.getfield 24, 3) := dk_180 0 24 (dk_at dksX3_machine_1 1 rfl rfl)
theorem dX3_machine_28 : decode cX3_machine 28 = .ok (.aload_n 0, 1) := dk_42 (dk_at dksX3_machine_1 4 rfl rfl)
theorem dX3_machine_29 : decode cX3_machine 29 = .ok (.getfield 303, 3) := dk_180 1 47 (dk_at dksX3_machine_1 5 rfl rfl)
theorem dX3_machine_32 : decode cX3_machine 32 = .ok (.iconst 0, 1) := dk_3 (dk_at dksX3_machine_1 8 rfl rfl)
theorem dX3_machine_33 : decode cX3_machine 33 = .ok (.iastore, 1) := dk_79 (dk_at dksX3_machine_1 9 rfl rfl)
theorem dX3_machine_34 : decode cX3_machine 34 = .ok (.aload_n 0, 1) := dk_42 (dk_at dksX3_machine_1 10 rfl rfl)
theorem dX3_machine_35 : decode cX3_machine 35 = .ok (.getfield 27, 3) := dk_180 0 27 (dk_at dksX3_machine_1 11 rfl rfl)
theorem dX3_machine_38 : decode cX3_machine 38 = .ok (.aload_n 0, 1) := dk_42 (dk_at dksX3_machine_1 14 rfl rfl)
theorem dX3_machine_39 : decode cX3_machine 39 = .ok (.getfield 303, 3) := dk_180 1 47 (dk_at dksX3_machine_1 15 rfl rfl)
theorem dX3_machine_42 : decode cX3_machine 42 = .ok (.iconst 0, 1) := dk_3 (dk_at dksX3_machine_1 18 rfl rfl)
theorem dX3_machine_43 : decode cX3_machine 43 = .ok (.iastore, 1) := dk_79 (dk_at dksX3_machine_1 19 rfl rfl)
theorem dX3_machine_44 : decode cX3_machine 44 = .ok (.aload_n 0, 1) := dk_42 (dk_at dksX3_machine_1 20 rfl rfl)
theorem dX3_machine_45 : decode cX3_machine 45 = .ok (.getfield 30, 3) := dk_180 0 30 (dk_at dksX3_machine_1 21 rfl rfl)
theorem dX3_machine_48 : decode cX3_machine 48 = .ok (.aload_n 0, 1) := dk_42 (dk_at dksX3_machine_2 0 rfl rfl)
theorem dX3_machine_49 : decode cX3_machine 49 = .ok (.getfield 303, 3) := dk_180 1 47 (dk_at dksX3_machine_2 1 rfl rfl)
theorem dX3_machine_52 : decode cX3_machine 52 = .ok (.iconst 0, 1) := dk_3 (dk_at dksX3_machine_2 4 rfl rfl)
theorem dX3_machine_53 : decode cX3_machine 53 = .ok (.iastore, 1) := dk_79 (dk_at dksX3_machine_2 5 rfl rfl)
theorem dX3_machine_54 : decode cX3_machine 54 = .ok (.aload_n 0, 1) := dk_42 (dk_at dksX3_machine_2 6 rfl rfl)
theorem dX3_machine_55 : decode cX3_machine 55 = .ok (.getfield 33, 3) := dk_180 0 33 (dk_at dksX3_machine_2 7 rfl rfl)
theorem dX3_machine_58 : decode cX3_machine 58 = .ok (.aload_n 0, 1) := dk_42 (dk_at dksX3_machine_2 10 rfl rfl)
theorem dX3_machine_59 : decode cX3_machine 59 = .ok (.getfield 303, 3) := dk_180 1 47 (dk_at dksX3_machine_2 11 rfl rfl)
theorem dX3_machine_62 : decode cX3_machine 62 = .ok (.iconst 0, 1) := dk_3 (dk_at dksX3_machine_2 14 rfl rfl)
theorem dX3_machine_63 : decode cX3_machine 63 = .ok (.iastore, 1) := dk_79 (dk_at dksX3_machine_2 15 rfl rfl)
theorem dX3_machine_64 : decode cX3_machine 64 = .ok (.iconst 0, 1) := dk_3 (dk_at dksX3_machine_2 16 rfl rfl)
theorem dX3_machine_65 : decode cX3_machine 65 = .ok (.istore_n 1, 1) := dk_60 (dk_at dksX3_machine_2 17 rfl rfl)
theorem dX3_machine_66 : decode cX3_machine 66 = .ok (.iload_n 1, 1) := dk_27 (dk_at dksX3_machine_2 18 rfl rfl)
theorem dX3_machine_67 : decode cX3_machine 67 = .ok (.bipush 64, 2) := dk_16 64 (dk_at dksX3_machine_2 19 rfl rfl)
theorem dX3_machine_69 : decode cX3_machine 69 = .ok (.if_icmp .ge 24, 3) := dk_162 0 24 (dk_at dksX3_machine_2 21 rfl rfl)
theorem dX3_machine_72 : decode cX3_machine 72 = .ok (.aload_n 0, 1) := dk_42 (dk_at dksX3_machine_3 0 rfl rfl)
theorem dX3_machine_73 : decode cX3_machine 73 = .ok (.getfield 72, 3) := dk_180 0 72 (dk_at dksX3_machine_3 1 rfl rfl)
theorem dX3_machine_76 : decode cX3_machine 76 = .ok (.bipush 64, 2) := dk_16 64 (dk_at dksX3_machine_3 4 rfl rfl)
theorem dX3_machine_78 : decode cX3_machine 78 = .ok (.aload_n 0, 1) := dk_42 (dk_at dksX3_machine_3 6 rfl rfl)
theorem dX3_machine_79 : decode cX3_machine 79 = .ok (.getfield 303, 3) := dk_180 1 47 (dk_at dksX3_machine_3 7 rfl rfl)
theorem dX3_machine_82 : decode cX3_machine 82 = .ok (.imul, 1) := dk_104 (dk_at dksX3_machine_3 10 rfl rfl)
theorem dX3_machine_83 : decode cX3_machine 83 = .ok (.iload_n 1, 1) := dk_27 (dk_at dksX3_machine_3 11 rfl rfl)
theorem dX3_machine_84 : decode cX3_machine 84 = .ok (.iadd, 1) := dk_96 (dk_at dksX3_machine_3 12 rfl rfl)
theorem dX3_machine_85 : decode cX3_machine 85 = .ok (.iconst 0, 1) := dk_3 (dk_at dksX3_machine_3 13 rfl rfl)
theorem dX3_machine_86 : decode cX3_machine 86 = .ok (.iastore, 1) := dk_79 (dk_at dksX3_machine_3 14 rfl rfl)
theorem dX3_machine_87 : decode cX3_machine 87 = .ok (.iinc 1 1, 3) := dk_132 1 1 (dk_at dksX3_machine_3 15 rfl rfl)
theorem dX3_machine_90 : decode cX3_machine 90 = .ok (.goto (-24), 3) := dk_167 255 232 (dk_at dksX3_machine_3 18 rfl rfl)
theorem dX3_machine_93 : decode cX3_machine 93 = .ok (.iconst 0, 1) := dk_3 (dk_at dksX3_machine_3 21 rfl rfl)
theorem dX3_machine_94 : decode cX3_machine 94 = .ok (.istore_n 1, 1) := dk_60 (dk_at dksX3_machine_3 22 rfl rfl)
theorem dX3_machine_95 : decode cX3_machine 95 = .ok (.iload_n 1, 1) := dk_27 (dk_at dksX3_machine_3 23 rfl rfl)
theorem dX3_machine_96 : decode cX3_machine 96 = .ok (.bipush 8, 2) := dk_16 8 (dk_at dksX3_machine_4 0 rfl rfl)
theorem dX3_machine_98 : decode cX3_machine 98 = .ok (.if_icmp .ge 24, 3) := dk_162 0 24 (dk_at dksX3_machine_4 2 rfl rfl)
theorem dX3_machine_101 : decode cX3_machine 101 = .ok (.aload_n 0, 1) := dk_42 (dk_at dksX3_machine_4 5 rfl rfl)
theorem dX3_machine_102 : decode cX3_machine 102 = .ok (.getfield 75, 3) := dk_180 0 75 (dk_at dksX3_machine_4 6 rfl rfl)
theorem dX3_machine_105 : decode cX3_machine 105 = .ok (.bipush 8, 2) := dk_16 8 (dk_at dksX3_machine_4 9 rfl rfl)
theorem dX3_machine_107 : decode cX3_machine 107 = .ok (.aload_n 0, 1) := dk_42 (dk_at dksX3_machine_4 11 rfl rfl)
theorem dX3_machine_108 : decode cX3_machine 108 = .ok (.getfield 303, 3) := dk_180 1 47 (dk_at dksX3_machine_4 12 rfl rfl)
theorem dX3_machine_111 : decode cX3_machine 111 = .ok (.imul, 1) := dk_104 (dk_at dksX3_machine_4 15 rfl rfl)
theorem dX3_machine_112 : decode cX3_machine 112 = .ok (.iload_n 1, 1) := dk_27 (dk_at dksX3_machine_4 16 rfl rfl)
theorem dX3_machine_113 : decode cX3_machine 113 = .ok (.iadd, 1) := dk_96 (dk_at dksX3_machine_4 17 rfl rfl)
theorem dX3_machine_114 : decode cX3_machine 114 = .ok (.iconst 0, 1) := dk_3 (dk_at dksX3_machine_4 18 rfl rfl)
theorem dX3_machine_115 : decode cX3_machine 115 = .ok (.bastore, 1) := dk_84 (dk_at dksX3_machine_4 19 rfl rfl)
theorem dX3_machine_116 : decode cX3_machine 116 = .ok (.iinc 1 1, 3) := dk_132 1 1 (dk_at dksX3_machine_4 20 rfl rfl)
theorem dX3_machine_119 : decode cX3_machine 119 = .ok (.goto (-24), 3) := dk_167 255 232 (dk_at dksX3_machine_5 0 rfl rfl)
theorem dX3_machine_122 : decode cX3_machine 122 = .ok (.aload_n 0, 1) := dk_42 (dk_at dksX3_machine_5 3 rfl rfl)
theorem dX3_machine_123 : decode cX3_machine 123 = .ok (.invokevirtual 288, 3) := dk_182 1 32 (dk_at dksX3_machine_5 4 rfl rfl)
theorem dX3_machine_126 : decode cX3_machine 126 = .ok (.aload_n 0, 1) := dk_42 (dk_at dksX3_machine_5 7 rfl rfl)
theorem dX3_machine_127 : decode cX3_machine 127 = .ok (.invokevirtual 284, 3) := dk_182 1 28 (dk_at dksX3_machine_5 8 rfl rfl)
theorem dX3_machine_130 : decode cX3_machine 130 = .ok (.ifCond .eq 17, 3) := dk_153 0 17 (dk_at dksX3_machine_5 11 rfl rfl)
theorem dX3_machine_133 : decode cX3_machine 133 = .ok (.aload_n 0, 1) := dk_42 (dk_at dksX3_machine_5 14 rfl rfl)
theorem dX3_machine_134 : decode cX3_machine 134 = .ok (.getfield 256, 3) := dk_180 1 0 (dk_at dksX3_machine_5 15 rfl rfl)
theorem dX3_machine_137 : decode cX3_machine 137 = .ok (.ifCond .eq 10, 3) := dk_153 0 10 (dk_at dksX3_machine_5 18 rfl rfl)
theorem dX3_machine_140 : decode cX3_machine 140 = .ok (.aload_n 0, 1) := dk_42 (dk_at dksX3_machine_5 21 rfl rfl)
theorem dX3_machine_141 : decode cX3_machine 141 = .ok (.invokevirtual 306, 3) := dk_182 1 50 (dk_at dksX3_machine_6 0 rfl rfl)
theorem dX3_machine_144 : decode cX3_machine 144 = .ok (.goto (-18), 3) := dk_167 255 238 (dk_at dksX3_machine_6 3 rfl rfl)
theorem dX3_machine_147 : decode cX3_machine 147 = .ok (.aload_n 0, 1) := dk_42 (dk_at dksX3_machine_6 6 rfl rfl)
theorem dX3_machine_148 : decode cX3_machine 148 = .ok (.invokevirtual 284, 3) := dk_182 1 28 (dk_at dksX3_machine_6 7 rfl rfl)
theorem dX3_machine_151 : decode cX3_machine 151 = .ok (.ifCond .ne 5, 3) := dk_154 0 5 (dk_at dksX3_machine_6 10 rfl rfl)
theorem dX3_machine_154 : decode cX3_machine 154 = .ok (.iconst (-1), 1) := dk_2 (dk_at dksX3_machine_6 13 rfl rfl)
theorem dX3_machine_155 : decode cX3_machine 155 = .ok (.ireturn, 1) := dk_172 (dk_at dksX3_machine_6 14 rfl rfl)
theorem dX3_machine_156 : decode cX3_machine 156 = .ok (.aload_n 0, 1) := dk_42 (dk_at dksX3_machine_6 15 rfl rfl)
theorem dX3_machine_157 : decode cX3_machine 157 = .ok (.aload_n 0, 1) := dk_42 (dk_at dksX3_machine_6 16 rfl rfl)
theorem dX3_machine_158 : decode cX3_machine 158 = .ok (.getfield 303, 3) := dk_180 1 47 (dk_at dksX3_machine_6 17 rfl rfl)
theorem dX3_machine_161 : decode cX3_machine 161 = .ok (.putfield 300, 3) := dk_181 1 44 (dk_at dksX3_machine_6 20 rfl rfl)
theorem dX3_machine_164 : decode cX3_machine 164 = .ok (.aload_n 0, 1) := dk_42 (dk_at dksX3_machine_6 23 rfl rfl)
theorem dX3_machine_165 : decode cX3_machine 165 = .ok (.iconst 0, 1) := dk_3 (dk_at dksX3_machine_7 0 rfl rfl)
theorem dX3_machine_166 : decode cX3_machine 166 = .ok (.putfield 309, 3) := dk_181 1 53 (dk_at dksX3_machine_7 1 rfl rfl)
theorem dX3_machine_169 : decode cX3_machine 169 = .ok (.aload_n 0, 1) := dk_42 (dk_at dksX3_machine_7 4 rfl rfl)
theorem dX3_machine_170 : decode cX3_machine 170 = .ok (.iconst 0, 1) := dk_3 (dk_at dksX3_machine_7 5 rfl rfl)
theorem dX3_machine_171 : decode cX3_machine 171 = .ok (.putfield 312, 3) := dk_181 1 56 (dk_at dksX3_machine_7 6 rfl rfl)
theorem dX3_machine_174 : decode cX3_machine 174 = .ok (.aload_n 0, 1) := dk_42 (dk_at dksX3_machine_7 9 rfl rfl)
theorem dX3_machine_175 : decode cX3_machine 175 = .ok (.getfield 20, 3) := dk_180 0 20 (dk_at dksX3_machine_7 10 rfl rfl)
theorem dX3_machine_178 : decode cX3_machine 178 = .ok (.aload_n 0, 1) := dk_42 (dk_at dksX3_machine_7 13 rfl rfl)
theorem dX3_machine_179 : decode cX3_machine 179 = .ok (.getfield 300, 3) := dk_180 1 44 (dk_at dksX3_machine_7 14 rfl rfl)
theorem dX3_machine_182 : decode cX3_machine 182 = .ok (.iaload, 1) := dk_46 (dk_at dksX3_machine_7 17 rfl rfl)
theorem dX3_machine_183 : decode cX3_machine 183 = .ok (.ireturn, 1) := dk_172 (dk_at dksX3_machine_7 18 rfl rfl)
abbrev cX3_maker : ByteArray := prog_24_method_96_code
def dkwX3_maker_1 : List UInt8 := [167, 0, 4, 2, 172]
abbrev dktX3_maker_1 : List UInt8 := dkwX3_maker_1 ++ []
def dkwX3_maker_0 : List UInt8 := [42, 27, 182, 1, 104, 153, 0, 20, 42, 28, 182, 2, 67, 155, 0, 12, 42, 180, 0, 159, 27, 46]
abbrev dktX3_maker_0 : List UInt8 := dkwX3_maker_0 ++ dktX3_maker_1
theorem dksX3_maker_0 : cX3_maker.data.toList.drop 0 = dktX3_maker_0 := by decide +kernel
theorem dksX3_maker_1 : cX3_maker.data.toList.drop 22 = dktX3_maker_1 := dk_seg dksX3_maker_0 22 rfl rfl
theorem dX3_maker_0 : decode cX3_maker 0 = .ok (.aload_n 0, 1) := dk_42 (dk_at dksX3_maker_0 0 rfl rfl)
theorem dX3_maker_1 : decode cX3_maker 1 = .ok (.iload_n 1, 1) := dk_27 (dk_at dksX3_maker_0 1 rfl rfl)
theorem dX3_maker_2 : decode cX3_maker 2 = .ok (.invokevirtual 360, 3) := dk_182 1 104 (dk_at dksX3_maker_0 2 rfl rfl)
theorem dX3_maker_5 : decode cX3_maker 5 = .ok (.ifCond .eq 20, 3) := dk_153 0 20 (dk_at dksX3_maker_0 5 rfl rfl)
theorem dX3_maker_8 : decode cX3_maker 8 = .ok (.aload_n 0, 1) := dk_42 (dk_at dksX3_maker_0 8 rfl rfl)
theorem dX3_maker_9 : decode cX3_maker 9 = .ok (.iload_n 2, 1) := dk_28 (dk_at dksX3_maker_0 9 rfl rfl)
theorem dX3_maker_10 : decode cX3_maker 10 = .ok (.invokevirtual 579, 3) := dk_182 2 67 (dk_at dksX3_maker_0 10 rfl rfl)
theorem dX3_maker_13 : decode cX3_maker 13 = .ok (.ifCond .lt 12, 3) := dk_155 0 12 (dk_at dksX3_maker_0 13 rfl rfl)
theorem dX3_maker_16 : decode cX3_maker 16 = .ok (.aload_n 0, 1) := dk_42 (dk_at dksX3_maker_0 16 rfl rfl)
theorem dX3_maker_17 : decode cX3_maker 17 = .ok (.getfield 159, 3) := dk_180 0 159 (dk_at dksX3_maker_0 17 rfl rfl)
theorem dX3_maker_20 : decode cX3_maker 20 = .ok (.iload_n 1, 1) := dk_27 (dk_at dksX3_maker_0 20 rfl rfl)
theorem dX3_maker_21 : decode cX3_maker 21 = .ok (.iaload, 1) := dk_46 (dk_at dksX3_maker_0 21 rfl rfl)
theorem dX3_maker_22 : decode cX3_maker 22 = .ok (.goto 4, 3) := dk_167 0 4 (dk_at dksX3_maker_1 0 rfl rfl)
theorem dX3_maker_25 : decode cX3_maker 25 = .ok (.iconst (-1), 1) := dk_2 (dk_at dksX3_maker_1 3 rfl rfl)
theorem dX3_maker_26 : decode cX3_maker 26 = .ok (.ireturn, 1) := dk_172 (dk_at dksX3_maker_1 4 rfl rfl)
abbrev cX3_mayAsk : ByteArray := prog_24_method_46_code
def dkwX3_mayAsk_5 : List UInt8 := [16, 112, 159, 0, 9, 27, 16, 109, 160, 0, 7, 4, 167, 0, 4, 3, 172]
abbrev dktX3_mayAsk_5 : List UInt8 := dkwX3_mayAsk_5 ++ []
def dkwX3_mayAsk_4 : List UInt8 := [167, 0, 4, 3, 172, 27, 16, 97, 159, 0, 27, 27, 16, 119, 159, 0, 21, 27, 16, 116, 159, 0, 15, 27]
abbrev dktX3_mayAsk_4 : List UInt8 := dkwX3_mayAsk_4 ++ dktX3_mayAsk_5
def dkwX3_mayAsk_3 : List UInt8 := [160, 0, 27, 27, 16, 103, 159, 0, 15, 27, 16, 104, 159, 0, 9, 27, 16, 115, 160, 0, 7, 4]
abbrev dktX3_mayAsk_3 : List UInt8 := dkwX3_mayAsk_3 ++ dktX3_mayAsk_4
def dkwX3_mayAsk_2 : List UInt8 := [16, 109, 159, 0, 9, 27, 16, 111, 160, 0, 7, 4, 167, 0, 4, 3, 172, 42, 180, 1, 147, 5]
abbrev dktX3_mayAsk_2 : List UInt8 := dkwX3_mayAsk_2 ++ dktX3_mayAsk_3
def dkwX3_mayAsk_1 : List UInt8 := [159, 0, 9, 27, 16, 109, 160, 0, 7, 4, 167, 0, 4, 3, 172, 42, 180, 1, 147, 4, 160, 0, 21, 27]
abbrev dktX3_mayAsk_1 : List UInt8 := dkwX3_mayAsk_1 ++ dktX3_mayAsk_2
def dkwX3_mayAsk_0 : List UInt8 := [27, 154, 0, 5, 4, 172, 42, 180, 1, 147, 154, 0, 27, 27, 16, 108, 159, 0, 15, 27, 16, 99]
abbrev dktX3_mayAsk_0 : List UInt8 := dkwX3_mayAsk_0 ++ dktX3_mayAsk_1
theorem dksX3_mayAsk_0 : cX3_mayAsk.data.toList.drop 0 = dktX3_mayAsk_0 := by decide +kernel
theorem dksX3_mayAsk_1 : cX3_mayAsk.data.toList.drop 22 = dktX3_mayAsk_1 := dk_seg dksX3_mayAsk_0 22 rfl rfl
theorem dksX3_mayAsk_2 : cX3_mayAsk.data.toList.drop 46 = dktX3_mayAsk_2 := dk_seg dksX3_mayAsk_1 24 rfl rfl
theorem dksX3_mayAsk_3 : cX3_mayAsk.data.toList.drop 68 = dktX3_mayAsk_3 := dk_seg dksX3_mayAsk_2 22 rfl rfl
theorem dksX3_mayAsk_4 : cX3_mayAsk.data.toList.drop 90 = dktX3_mayAsk_4 := dk_seg dksX3_mayAsk_3 22 rfl rfl
theorem dksX3_mayAsk_5 : cX3_mayAsk.data.toList.drop 114 = dktX3_mayAsk_5 := dk_seg dksX3_mayAsk_4 24 rfl rfl
theorem dX3_mayAsk_0 : decode cX3_mayAsk 0 = .ok (.iload_n 1, 1) := dk_27 (dk_at dksX3_mayAsk_0 0 rfl rfl)
theorem dX3_mayAsk_1 : decode cX3_mayAsk 1 = .ok (.ifCond .ne 5, 3) := dk_154 0 5 (dk_at dksX3_mayAsk_0 1 rfl rfl)
theorem dX3_mayAsk_4 : decode cX3_mayAsk 4 = .ok (.iconst 1, 1) := dk_4 (dk_at dksX3_mayAsk_0 4 rfl rfl)
theorem dX3_mayAsk_5 : decode cX3_mayAsk 5 = .ok (.ireturn, 1) := dk_172 (dk_at dksX3_mayAsk_0 5 rfl rfl)
theorem dX3_mayAsk_6 : decode cX3_mayAsk 6 = .ok (.aload_n 0, 1) := dk_42 (dk_at dksX3_mayAsk_0 6 rfl rfl)
theorem dX3_mayAsk_7 : decode cX3_mayAsk 7 = .ok (.getfield 403, 3) := dk_180 1 147 (dk_at dksX3_mayAsk_0 7 rfl rfl)
theorem dX3_mayAsk_10 : decode cX3_mayAsk 10 = .ok (.ifCond .ne 27, 3) := dk_154 0 27 (dk_at dksX3_mayAsk_0 10 rfl rfl)
theorem dX3_mayAsk_13 : decode cX3_mayAsk 13 = .ok (.iload_n 1, 1) := dk_27 (dk_at dksX3_mayAsk_0 13 rfl rfl)
theorem dX3_mayAsk_14 : decode cX3_mayAsk 14 = .ok (.bipush 108, 2) := dk_16 108 (dk_at dksX3_mayAsk_0 14 rfl rfl)
theorem dX3_mayAsk_16 : decode cX3_mayAsk 16 = .ok (.if_icmp .eq 15, 3) := dk_159 0 15 (dk_at dksX3_mayAsk_0 16 rfl rfl)
theorem dX3_mayAsk_19 : decode cX3_mayAsk 19 = .ok (.iload_n 1, 1) := dk_27 (dk_at dksX3_mayAsk_0 19 rfl rfl)
theorem dX3_mayAsk_20 : decode cX3_mayAsk 20 = .ok (.bipush 99, 2) := dk_16 99 (dk_at dksX3_mayAsk_0 20 rfl rfl)
theorem dX3_mayAsk_22 : decode cX3_mayAsk 22 = .ok (.if_icmp .eq 9, 3) := dk_159 0 9 (dk_at dksX3_mayAsk_1 0 rfl rfl)
theorem dX3_mayAsk_25 : decode cX3_mayAsk 25 = .ok (.iload_n 1, 1) := dk_27 (dk_at dksX3_mayAsk_1 3 rfl rfl)
theorem dX3_mayAsk_26 : decode cX3_mayAsk 26 = .ok (.bipush 109, 2) := dk_16 109 (dk_at dksX3_mayAsk_1 4 rfl rfl)
theorem dX3_mayAsk_28 : decode cX3_mayAsk 28 = .ok (.if_icmp .ne 7, 3) := dk_160 0 7 (dk_at dksX3_mayAsk_1 6 rfl rfl)
theorem dX3_mayAsk_31 : decode cX3_mayAsk 31 = .ok (.iconst 1, 1) := dk_4 (dk_at dksX3_mayAsk_1 9 rfl rfl)
theorem dX3_mayAsk_32 : decode cX3_mayAsk 32 = .ok (.goto 4, 3) := dk_167 0 4 (dk_at dksX3_mayAsk_1 10 rfl rfl)
theorem dX3_mayAsk_35 : decode cX3_mayAsk 35 = .ok (.iconst 0, 1) := dk_3 (dk_at dksX3_mayAsk_1 13 rfl rfl)
theorem dX3_mayAsk_36 : decode cX3_mayAsk 36 = .ok (.ireturn, 1) := dk_172 (dk_at dksX3_mayAsk_1 14 rfl rfl)
theorem dX3_mayAsk_37 : decode cX3_mayAsk 37 = .ok (.aload_n 0, 1) := dk_42 (dk_at dksX3_mayAsk_1 15 rfl rfl)
theorem dX3_mayAsk_38 : decode cX3_mayAsk 38 = .ok (.getfield 403, 3) := dk_180 1 147 (dk_at dksX3_mayAsk_1 16 rfl rfl)
theorem dX3_mayAsk_41 : decode cX3_mayAsk 41 = .ok (.iconst 1, 1) := dk_4 (dk_at dksX3_mayAsk_1 19 rfl rfl)
theorem dX3_mayAsk_42 : decode cX3_mayAsk 42 = .ok (.if_icmp .ne 21, 3) := dk_160 0 21 (dk_at dksX3_mayAsk_1 20 rfl rfl)
theorem dX3_mayAsk_45 : decode cX3_mayAsk 45 = .ok (.iload_n 1, 1) := dk_27 (dk_at dksX3_mayAsk_1 23 rfl rfl)
theorem dX3_mayAsk_46 : decode cX3_mayAsk 46 = .ok (.bipush 109, 2) := dk_16 109 (dk_at dksX3_mayAsk_2 0 rfl rfl)
theorem dX3_mayAsk_48 : decode cX3_mayAsk 48 = .ok (.if_icmp .eq 9, 3) := dk_159 0 9 (dk_at dksX3_mayAsk_2 2 rfl rfl)
theorem dX3_mayAsk_51 : decode cX3_mayAsk 51 = .ok (.iload_n 1, 1) := dk_27 (dk_at dksX3_mayAsk_2 5 rfl rfl)
theorem dX3_mayAsk_52 : decode cX3_mayAsk 52 = .ok (.bipush 111, 2) := dk_16 111 (dk_at dksX3_mayAsk_2 6 rfl rfl)
theorem dX3_mayAsk_54 : decode cX3_mayAsk 54 = .ok (.if_icmp .ne 7, 3) := dk_160 0 7 (dk_at dksX3_mayAsk_2 8 rfl rfl)
theorem dX3_mayAsk_57 : decode cX3_mayAsk 57 = .ok (.iconst 1, 1) := dk_4 (dk_at dksX3_mayAsk_2 11 rfl rfl)
theorem dX3_mayAsk_58 : decode cX3_mayAsk 58 = .ok (.goto 4, 3) := dk_167 0 4 (dk_at dksX3_mayAsk_2 12 rfl rfl)
theorem dX3_mayAsk_61 : decode cX3_mayAsk 61 = .ok (.iconst 0, 1) := dk_3 (dk_at dksX3_mayAsk_2 15 rfl rfl)
theorem dX3_mayAsk_62 : decode cX3_mayAsk 62 = .ok (.ireturn, 1) := dk_172 (dk_at dksX3_mayAsk_2 16 rfl rfl)
theorem dX3_mayAsk_63 : decode cX3_mayAsk 63 = .ok (.aload_n 0, 1) := dk_42 (dk_at dksX3_mayAsk_2 17 rfl rfl)
theorem dX3_mayAsk_64 : decode cX3_mayAsk 64 = .ok (.getfield 403, 3) := dk_180 1 147 (dk_at dksX3_mayAsk_2 18 rfl rfl)
theorem dX3_mayAsk_67 : decode cX3_mayAsk 67 = .ok (.iconst 2, 1) := dk_5 (dk_at dksX3_mayAsk_2 21 rfl rfl)
theorem dX3_mayAsk_68 : decode cX3_mayAsk 68 = .ok (.if_icmp .ne 27, 3) := dk_160 0 27 (dk_at dksX3_mayAsk_3 0 rfl rfl)
theorem dX3_mayAsk_71 : decode cX3_mayAsk 71 = .ok (.iload_n 1, 1) := dk_27 (dk_at dksX3_mayAsk_3 3 rfl rfl)
theorem dX3_mayAsk_72 : decode cX3_mayAsk 72 = .ok (.bipush 103, 2) := dk_16 103 (dk_at dksX3_mayAsk_3 4 rfl rfl)
theorem dX3_mayAsk_74 : decode cX3_mayAsk 74 = .ok (.if_icmp .eq 15, 3) := dk_159 0 15 (dk_at dksX3_mayAsk_3 6 rfl rfl)
theorem dX3_mayAsk_77 : decode cX3_mayAsk 77 = .ok (.iload_n 1, 1) := dk_27 (dk_at dksX3_mayAsk_3 9 rfl rfl)
theorem dX3_mayAsk_78 : decode cX3_mayAsk 78 = .ok (.bipush 104, 2) := dk_16 104 (dk_at dksX3_mayAsk_3 10 rfl rfl)
theorem dX3_mayAsk_80 : decode cX3_mayAsk 80 = .ok (.if_icmp .eq 9, 3) := dk_159 0 9 (dk_at dksX3_mayAsk_3 12 rfl rfl)
theorem dX3_mayAsk_83 : decode cX3_mayAsk 83 = .ok (.iload_n 1, 1) := dk_27 (dk_at dksX3_mayAsk_3 15 rfl rfl)
theorem dX3_mayAsk_84 : decode cX3_mayAsk 84 = .ok (.bipush 115, 2) := dk_16 115 (dk_at dksX3_mayAsk_3 16 rfl rfl)
theorem dX3_mayAsk_86 : decode cX3_mayAsk 86 = .ok (.if_icmp .ne 7, 3) := dk_160 0 7 (dk_at dksX3_mayAsk_3 18 rfl rfl)
theorem dX3_mayAsk_89 : decode cX3_mayAsk 89 = .ok (.iconst 1, 1) := dk_4 (dk_at dksX3_mayAsk_3 21 rfl rfl)
theorem dX3_mayAsk_90 : decode cX3_mayAsk 90 = .ok (.goto 4, 3) := dk_167 0 4 (dk_at dksX3_mayAsk_4 0 rfl rfl)
theorem dX3_mayAsk_93 : decode cX3_mayAsk 93 = .ok (.iconst 0, 1) := dk_3 (dk_at dksX3_mayAsk_4 3 rfl rfl)
theorem dX3_mayAsk_94 : decode cX3_mayAsk 94 = .ok (.ireturn, 1) := dk_172 (dk_at dksX3_mayAsk_4 4 rfl rfl)
theorem dX3_mayAsk_95 : decode cX3_mayAsk 95 = .ok (.iload_n 1, 1) := dk_27 (dk_at dksX3_mayAsk_4 5 rfl rfl)
theorem dX3_mayAsk_96 : decode cX3_mayAsk 96 = .ok (.bipush 97, 2) := dk_16 97 (dk_at dksX3_mayAsk_4 6 rfl rfl)
theorem dX3_mayAsk_98 : decode cX3_mayAsk 98 = .ok (.if_icmp .eq 27, 3) := dk_159 0 27 (dk_at dksX3_mayAsk_4 8 rfl rfl)
theorem dX3_mayAsk_101 : decode cX3_mayAsk 101 = .ok (.iload_n 1, 1) := dk_27 (dk_at dksX3_mayAsk_4 11 rfl rfl)
theorem dX3_mayAsk_102 : decode cX3_mayAsk 102 = .ok (.bipush 119, 2) := dk_16 119 (dk_at dksX3_mayAsk_4 12 rfl rfl)
theorem dX3_mayAsk_104 : decode cX3_mayAsk 104 = .ok (.if_icmp .eq 21, 3) := dk_159 0 21 (dk_at dksX3_mayAsk_4 14 rfl rfl)
theorem dX3_mayAsk_107 : decode cX3_mayAsk 107 = .ok (.iload_n 1, 1) := dk_27 (dk_at dksX3_mayAsk_4 17 rfl rfl)
theorem dX3_mayAsk_108 : decode cX3_mayAsk 108 = .ok (.bipush 116, 2) := dk_16 116 (dk_at dksX3_mayAsk_4 18 rfl rfl)
theorem dX3_mayAsk_110 : decode cX3_mayAsk 110 = .ok (.if_icmp .eq 15, 3) := dk_159 0 15 (dk_at dksX3_mayAsk_4 20 rfl rfl)
theorem dX3_mayAsk_113 : decode cX3_mayAsk 113 = .ok (.iload_n 1, 1) := dk_27 (dk_at dksX3_mayAsk_4 23 rfl rfl)
theorem dX3_mayAsk_114 : decode cX3_mayAsk 114 = .ok (.bipush 112, 2) := dk_16 112 (dk_at dksX3_mayAsk_5 0 rfl rfl)
theorem dX3_mayAsk_116 : decode cX3_mayAsk 116 = .ok (.if_icmp .eq 9, 3) := dk_159 0 9 (dk_at dksX3_mayAsk_5 2 rfl rfl)
theorem dX3_mayAsk_119 : decode cX3_mayAsk 119 = .ok (.iload_n 1, 1) := dk_27 (dk_at dksX3_mayAsk_5 5 rfl rfl)
theorem dX3_mayAsk_120 : decode cX3_mayAsk 120 = .ok (.bipush 109, 2) := dk_16 109 (dk_at dksX3_mayAsk_5 6 rfl rfl)
theorem dX3_mayAsk_122 : decode cX3_mayAsk 122 = .ok (.if_icmp .ne 7, 3) := dk_160 0 7 (dk_at dksX3_mayAsk_5 8 rfl rfl)
theorem dX3_mayAsk_125 : decode cX3_mayAsk 125 = .ok (.iconst 1, 1) := dk_4 (dk_at dksX3_mayAsk_5 11 rfl rfl)
theorem dX3_mayAsk_126 : decode cX3_mayAsk 126 = .ok (.goto 4, 3) := dk_167 0 4 (dk_at dksX3_mayAsk_5 12 rfl rfl)
theorem dX3_mayAsk_129 : decode cX3_mayAsk 129 = .ok (.iconst 0, 1) := dk_3 (dk_at dksX3_mayAsk_5 15 rfl rfl)
theorem dX3_mayAsk_130 : decode cX3_mayAsk 130 = .ok (.ireturn, 1) := dk_172 (dk_at dksX3_mayAsk_5 16 rfl rfl)
abbrev cX3_mend : ByteArray := prog_24_method_38_code
def dkwX3_mend_2 : List UInt8 := [167, 0, 7, 42, 180, 1, 129, 172]
abbrev dktX3_mend_2 : List UInt8 := dkwX3_mend_2 ++ []
def dkwX3_mend_1 : List UInt8 := [167, 0, 30, 27, 154, 0, 10, 42, 180, 1, 120, 167, 0, 19, 27, 4, 160, 0, 10, 42, 180, 1, 123]
abbrev dktX3_mend_1 : List UInt8 := dkwX3_mend_1 ++ dktX3_mend_2
def dkwX3_mend_0 : List UInt8 := [27, 3, 5, 184, 1, 98, 154, 0, 5, 2, 172, 42, 182, 1, 132, 42, 180, 1, 120, 156, 0, 7, 2]
abbrev dktX3_mend_0 : List UInt8 := dkwX3_mend_0 ++ dktX3_mend_1
theorem dksX3_mend_0 : cX3_mend.data.toList.drop 0 = dktX3_mend_0 := by decide +kernel
theorem dksX3_mend_1 : cX3_mend.data.toList.drop 23 = dktX3_mend_1 := dk_seg dksX3_mend_0 23 rfl rfl
theorem dksX3_mend_2 : cX3_mend.data.toList.drop 46 = dktX3_mend_2 := dk_seg dksX3_mend_1 23 rfl rfl
theorem dX3_mend_0 : decode cX3_mend 0 = .ok (.iload_n 1, 1) := dk_27 (dk_at dksX3_mend_0 0 rfl rfl)
theorem dX3_mend_1 : decode cX3_mend 1 = .ok (.iconst 0, 1) := dk_3 (dk_at dksX3_mend_0 1 rfl rfl)
theorem dX3_mend_2 : decode cX3_mend 2 = .ok (.iconst 2, 1) := dk_5 (dk_at dksX3_mend_0 2 rfl rfl)
theorem dX3_mend_3 : decode cX3_mend 3 = .ok (.invokestatic 354, 3) := dk_184 1 98 (dk_at dksX3_mend_0 3 rfl rfl)
theorem dX3_mend_6 : decode cX3_mend 6 = .ok (.ifCond .ne 5, 3) := dk_154 0 5 (dk_at dksX3_mend_0 6 rfl rfl)
theorem dX3_mend_9 : decode cX3_mend 9 = .ok (.iconst (-1), 1) := dk_2 (dk_at dksX3_mend_0 9 rfl rfl)
theorem dX3_mend_10 : decode cX3_mend 10 = .ok (.ireturn, 1) := dk_172 (dk_at dksX3_mend_0 10 rfl rfl)
theorem dX3_mend_11 : decode cX3_mend 11 = .ok (.aload_n 0, 1) := dk_42 (dk_at dksX3_mend_0 11 rfl rfl)
theorem dX3_mend_12 : decode cX3_mend 12 = .ok (.invokevirtual 388, 3) := dk_182 1 132 (dk_at dksX3_mend_0 12 rfl rfl)
theorem dX3_mend_15 : decode cX3_mend 15 = .ok (.aload_n 0, 1) := dk_42 (dk_at dksX3_mend_0 15 rfl rfl)
theorem dX3_mend_16 : decode cX3_mend 16 = .ok (.getfield 376, 3) := dk_180 1 120 (dk_at dksX3_mend_0 16 rfl rfl)
theorem dX3_mend_19 : decode cX3_mend 19 = .ok (.ifCond .ge 7, 3) := dk_156 0 7 (dk_at dksX3_mend_0 19 rfl rfl)
theorem dX3_mend_22 : decode cX3_mend 22 = .ok (.iconst (-1), 1) := dk_2 (dk_at dksX3_mend_0 22 rfl rfl)
theorem dX3_mend_23 : decode cX3_mend 23 = .ok (.goto 30, 3) := dk_167 0 30 (dk_at dksX3_mend_1 0 rfl rfl)
theorem dX3_mend_26 : decode cX3_mend 26 = .ok (.iload_n 1, 1) := dk_27 (dk_at dksX3_mend_1 3 rfl rfl)
theorem dX3_mend_27 : decode cX3_mend 27 = .ok (.ifCond .ne 10, 3) := dk_154 0 10 (dk_at dksX3_mend_1 4 rfl rfl)
theorem dX3_mend_30 : decode cX3_mend 30 = .ok (.aload_n 0, 1) := dk_42 (dk_at dksX3_mend_1 7 rfl rfl)
theorem dX3_mend_31 : decode cX3_mend 31 = .ok (.getfield 376, 3) := dk_180 1 120 (dk_at dksX3_mend_1 8 rfl rfl)
theorem dX3_mend_34 : decode cX3_mend 34 = .ok (.goto 19, 3) := dk_167 0 19 (dk_at dksX3_mend_1 11 rfl rfl)
theorem dX3_mend_37 : decode cX3_mend 37 = .ok (.iload_n 1, 1) := dk_27 (dk_at dksX3_mend_1 14 rfl rfl)
theorem dX3_mend_38 : decode cX3_mend 38 = .ok (.iconst 1, 1) := dk_4 (dk_at dksX3_mend_1 15 rfl rfl)
theorem dX3_mend_39 : decode cX3_mend 39 = .ok (.if_icmp .ne 10, 3) := dk_160 0 10 (dk_at dksX3_mend_1 16 rfl rfl)
theorem dX3_mend_42 : decode cX3_mend 42 = .ok (.aload_n 0, 1) := dk_42 (dk_at dksX3_mend_1 19 rfl rfl)
theorem dX3_mend_43 : decode cX3_mend 43 = .ok (.getfield 379, 3) := dk_180 1 123 (dk_at dksX3_mend_1 20 rfl rfl)
theorem dX3_mend_46 : decode cX3_mend 46 = .ok (.goto 7, 3) := dk_167 0 7 (dk_at dksX3_mend_2 0 rfl rfl)
theorem dX3_mend_49 : decode cX3_mend 49 = .ok (.aload_n 0, 1) := dk_42 (dk_at dksX3_mend_2 3 rfl rfl)
theorem dX3_mend_50 : decode cX3_mend 50 = .ok (.getfield 385, 3) := dk_180 1 129 (dk_at dksX3_mend_2 4 rfl rfl)
theorem dX3_mend_53 : decode cX3_mend 53 = .ok (.ireturn, 1) := dk_172 (dk_at dksX3_mend_2 7 rfl rfl)
abbrev cX3_mmOf : ByteArray := prog_24_method_30_code
def dkwX3_mmOf_1 : List UInt8 := [42, 180, 1, 44, 104, 27, 96, 46, 133, 105, 28, 133, 105, 28, 133, 105, 20, 1, 102, 109, 97, 136, 172]
abbrev dktX3_mmOf_1 : List UInt8 := dkwX3_mmOf_1 ++ []
def dkwX3_mmOf_0 : List UInt8 := [42, 180, 0, 39, 16, 12, 42, 180, 1, 44, 104, 27, 96, 46, 133, 66, 33, 33, 42, 180, 0, 42, 16, 12]
abbrev dktX3_mmOf_0 : List UInt8 := dkwX3_mmOf_0 ++ dktX3_mmOf_1
theorem dksX3_mmOf_0 : cX3_mmOf.data.toList.drop 0 = dktX3_mmOf_0 := by decide +kernel
theorem dksX3_mmOf_1 : cX3_mmOf.data.toList.drop 24 = dktX3_mmOf_1 := dk_seg dksX3_mmOf_0 24 rfl rfl
theorem dX3_mmOf_0 : decode cX3_mmOf 0 = .ok (.aload_n 0, 1) := dk_42 (dk_at dksX3_mmOf_0 0 rfl rfl)
theorem dX3_mmOf_1 : decode cX3_mmOf 1 = .ok (.getfield 39, 3) := dk_180 0 39 (dk_at dksX3_mmOf_0 1 rfl rfl)
theorem dX3_mmOf_4 : decode cX3_mmOf 4 = .ok (.bipush 12, 2) := dk_16 12 (dk_at dksX3_mmOf_0 4 rfl rfl)
theorem dX3_mmOf_6 : decode cX3_mmOf 6 = .ok (.aload_n 0, 1) := dk_42 (dk_at dksX3_mmOf_0 6 rfl rfl)
theorem dX3_mmOf_7 : decode cX3_mmOf 7 = .ok (.getfield 300, 3) := dk_180 1 44 (dk_at dksX3_mmOf_0 7 rfl rfl)
theorem dX3_mmOf_10 : decode cX3_mmOf 10 = .ok (.imul, 1) := dk_104 (dk_at dksX3_mmOf_0 10 rfl rfl)
theorem dX3_mmOf_11 : decode cX3_mmOf 11 = .ok (.iload_n 1, 1) := dk_27 (dk_at dksX3_mmOf_0 11 rfl rfl)
theorem dX3_mmOf_12 : decode cX3_mmOf 12 = .ok (.iadd, 1) := dk_96 (dk_at dksX3_mmOf_0 12 rfl rfl)
theorem dX3_mmOf_13 : decode cX3_mmOf 13 = .ok (.iaload, 1) := dk_46 (dk_at dksX3_mmOf_0 13 rfl rfl)
theorem dX3_mmOf_14 : decode cX3_mmOf 14 = .ok (.i2l, 1) := dk_133 (dk_at dksX3_mmOf_0 14 rfl rfl)
theorem dX3_mmOf_15 : decode cX3_mmOf 15 = .ok (.lstore_n 3, 1) := dk_66 (dk_at dksX3_mmOf_0 15 rfl rfl)
theorem dX3_mmOf_16 : decode cX3_mmOf 16 = .ok (.lload_n 3, 1) := dk_33 (dk_at dksX3_mmOf_0 16 rfl rfl)
theorem dX3_mmOf_17 : decode cX3_mmOf 17 = .ok (.lload_n 3, 1) := dk_33 (dk_at dksX3_mmOf_0 17 rfl rfl)
theorem dX3_mmOf_18 : decode cX3_mmOf 18 = .ok (.aload_n 0, 1) := dk_42 (dk_at dksX3_mmOf_0 18 rfl rfl)
theorem dX3_mmOf_19 : decode cX3_mmOf 19 = .ok (.getfield 42, 3) := dk_180 0 42 (dk_at dksX3_mmOf_0 19 rfl rfl)
theorem dX3_mmOf_22 : decode cX3_mmOf 22 = .ok (.bipush 12, 2) := dk_16 12 (dk_at dksX3_mmOf_0 22 rfl rfl)
theorem dX3_mmOf_24 : decode cX3_mmOf 24 = .ok (.aload_n 0, 1) := dk_42 (dk_at dksX3_mmOf_1 0 rfl rfl)
theorem dX3_mmOf_25 : decode cX3_mmOf 25 = .ok (.getfield 300, 3) := dk_180 1 44 (dk_at dksX3_mmOf_1 1 rfl rfl)
theorem dX3_mmOf_28 : decode cX3_mmOf 28 = .ok (.imul, 1) := dk_104 (dk_at dksX3_mmOf_1 4 rfl rfl)
theorem dX3_mmOf_29 : decode cX3_mmOf 29 = .ok (.iload_n 1, 1) := dk_27 (dk_at dksX3_mmOf_1 5 rfl rfl)
theorem dX3_mmOf_30 : decode cX3_mmOf 30 = .ok (.iadd, 1) := dk_96 (dk_at dksX3_mmOf_1 6 rfl rfl)
theorem dX3_mmOf_31 : decode cX3_mmOf 31 = .ok (.iaload, 1) := dk_46 (dk_at dksX3_mmOf_1 7 rfl rfl)
theorem dX3_mmOf_32 : decode cX3_mmOf 32 = .ok (.i2l, 1) := dk_133 (dk_at dksX3_mmOf_1 8 rfl rfl)
theorem dX3_mmOf_33 : decode cX3_mmOf 33 = .ok (.lmul, 1) := dk_105 (dk_at dksX3_mmOf_1 9 rfl rfl)
theorem dX3_mmOf_34 : decode cX3_mmOf 34 = .ok (.iload_n 2, 1) := dk_28 (dk_at dksX3_mmOf_1 10 rfl rfl)
theorem dX3_mmOf_35 : decode cX3_mmOf 35 = .ok (.i2l, 1) := dk_133 (dk_at dksX3_mmOf_1 11 rfl rfl)
theorem dX3_mmOf_36 : decode cX3_mmOf 36 = .ok (.lmul, 1) := dk_105 (dk_at dksX3_mmOf_1 12 rfl rfl)
theorem dX3_mmOf_37 : decode cX3_mmOf 37 = .ok (.iload_n 2, 1) := dk_28 (dk_at dksX3_mmOf_1 13 rfl rfl)
theorem dX3_mmOf_38 : decode cX3_mmOf 38 = .ok (.i2l, 1) := dk_133 (dk_at dksX3_mmOf_1 14 rfl rfl)
theorem dX3_mmOf_39 : decode cX3_mmOf 39 = .ok (.lmul, 1) := dk_105 (dk_at dksX3_mmOf_1 15 rfl rfl)
theorem dX3_mmOf_40 : decode cX3_mmOf 40 = .ok (.ldc2_w 358, 3) := dk_20 1 102 (dk_at dksX3_mmOf_1 16 rfl rfl)
theorem dX3_mmOf_43 : decode cX3_mmOf 43 = .ok (.ldiv, 1) := dk_109 (dk_at dksX3_mmOf_1 19 rfl rfl)
theorem dX3_mmOf_44 : decode cX3_mmOf 44 = .ok (.ladd, 1) := dk_97 (dk_at dksX3_mmOf_1 20 rfl rfl)
theorem dX3_mmOf_45 : decode cX3_mmOf 45 = .ok (.l2i, 1) := dk_136 (dk_at dksX3_mmOf_1 21 rfl rfl)
theorem dX3_mmOf_46 : decode cX3_mmOf 46 = .ok (.ireturn, 1) := dk_172 (dk_at dksX3_mmOf_1 22 rfl rfl)
abbrev cX3_mm : ByteArray := prog_24_method_31_code
def dkwX3_mm_1 : List UInt8 := [167, 0, 4, 2, 172]
abbrev dktX3_mm_1 : List UInt8 := dkwX3_mm_1 ++ []
def dkwX3_mm_0 : List UInt8 := [42, 27, 182, 1, 104, 153, 0, 22, 28, 3, 16, 30, 184, 1, 98, 153, 0, 12, 42, 27, 28, 182, 1, 107]
abbrev dktX3_mm_0 : List UInt8 := dkwX3_mm_0 ++ dktX3_mm_1
theorem dksX3_mm_0 : cX3_mm.data.toList.drop 0 = dktX3_mm_0 := by decide +kernel
theorem dksX3_mm_1 : cX3_mm.data.toList.drop 24 = dktX3_mm_1 := dk_seg dksX3_mm_0 24 rfl rfl
theorem dX3_mm_0 : decode cX3_mm 0 = .ok (.aload_n 0, 1) := dk_42 (dk_at dksX3_mm_0 0 rfl rfl)
theorem dX3_mm_1 : decode cX3_mm 1 = .ok (.iload_n 1, 1) := dk_27 (dk_at dksX3_mm_0 1 rfl rfl)
theorem dX3_mm_2 : decode cX3_mm 2 = .ok (.invokevirtual 360, 3) := dk_182 1 104 (dk_at dksX3_mm_0 2 rfl rfl)
theorem dX3_mm_5 : decode cX3_mm 5 = .ok (.ifCond .eq 22, 3) := dk_153 0 22 (dk_at dksX3_mm_0 5 rfl rfl)
theorem dX3_mm_8 : decode cX3_mm 8 = .ok (.iload_n 2, 1) := dk_28 (dk_at dksX3_mm_0 8 rfl rfl)
theorem dX3_mm_9 : decode cX3_mm 9 = .ok (.iconst 0, 1) := dk_3 (dk_at dksX3_mm_0 9 rfl rfl)
theorem dX3_mm_10 : decode cX3_mm 10 = .ok (.bipush 30, 2) := dk_16 30 (dk_at dksX3_mm_0 10 rfl rfl)
theorem dX3_mm_12 : decode cX3_mm 12 = .ok (.invokestatic 354, 3) := dk_184 1 98 (dk_at dksX3_mm_0 12 rfl rfl)
theorem dX3_mm_15 : decode cX3_mm 15 = .ok (.ifCond .eq 12, 3) := dk_153 0 12 (dk_at dksX3_mm_0 15 rfl rfl)
theorem dX3_mm_18 : decode cX3_mm 18 = .ok (.aload_n 0, 1) := dk_42 (dk_at dksX3_mm_0 18 rfl rfl)
theorem dX3_mm_19 : decode cX3_mm 19 = .ok (.iload_n 1, 1) := dk_27 (dk_at dksX3_mm_0 19 rfl rfl)
theorem dX3_mm_20 : decode cX3_mm 20 = .ok (.iload_n 2, 1) := dk_28 (dk_at dksX3_mm_0 20 rfl rfl)
theorem dX3_mm_21 : decode cX3_mm 21 = .ok (.invokevirtual 363, 3) := dk_182 1 107 (dk_at dksX3_mm_0 21 rfl rfl)
theorem dX3_mm_24 : decode cX3_mm 24 = .ok (.goto 4, 3) := dk_167 0 4 (dk_at dksX3_mm_1 0 rfl rfl)
theorem dX3_mm_27 : decode cX3_mm 27 = .ok (.iconst (-1), 1) := dk_2 (dk_at dksX3_mm_1 3 rfl rfl)
theorem dX3_mm_28 : decode cX3_mm 28 = .ok (.ireturn, 1) := dk_172 (dk_at dksX3_mm_1 4 rfl rfl)
abbrev cX3_move : ByteArray := prog_24_method_86_code
def dkwX3_move_3 : List UInt8 := [180, 2, 21, 167, 0, 5, 21, 5, 54, 5, 132, 6, 1, 167, 255, 217, 42, 180, 2, 14, 172]
abbrev dktX3_move_3 : List UInt8 := dkwX3_move_3 ++ []
def dkwX3_move_2 : List UInt8 := [163, 0, 38, 42, 21, 6, 21, 5, 182, 2, 24, 54, 7, 21, 7, 19, 1, 247, 162, 0, 10, 42]
abbrev dktX3_move_2 : List UInt8 := dkwX3_move_2 ++ dktX3_move_3
def dkwX3_move_1 : List UInt8 := [154, 0, 5, 2, 172, 27, 28, 7, 120, 128, 29, 16, 8, 120, 128, 54, 5, 3, 54, 6, 21, 6, 21, 4]
abbrev dktX3_move_1 : List UInt8 := dkwX3_move_1 ++ dktX3_move_2
def dkwX3_move_0 : List UInt8 := [42, 27, 28, 29, 182, 2, 33, 155, 0, 18, 21, 4, 3, 42, 180, 1, 56, 4, 100, 184, 1, 98]
abbrev dktX3_move_0 : List UInt8 := dkwX3_move_0 ++ dktX3_move_1
theorem dksX3_move_0 : cX3_move.data.toList.drop 0 = dktX3_move_0 := by decide +kernel
theorem dksX3_move_1 : cX3_move.data.toList.drop 22 = dktX3_move_1 := dk_seg dksX3_move_0 22 rfl rfl
theorem dksX3_move_2 : cX3_move.data.toList.drop 46 = dktX3_move_2 := dk_seg dksX3_move_1 24 rfl rfl
theorem dksX3_move_3 : cX3_move.data.toList.drop 68 = dktX3_move_3 := dk_seg dksX3_move_2 22 rfl rfl
theorem dX3_move_0 : decode cX3_move 0 = .ok (.aload_n 0, 1) := dk_42 (dk_at dksX3_move_0 0 rfl rfl)
theorem dX3_move_1 : decode cX3_move 1 = .ok (.iload_n 1, 1) := dk_27 (dk_at dksX3_move_0 1 rfl rfl)
theorem dX3_move_2 : decode cX3_move 2 = .ok (.iload_n 2, 1) := dk_28 (dk_at dksX3_move_0 2 rfl rfl)
theorem dX3_move_3 : decode cX3_move 3 = .ok (.iload_n 3, 1) := dk_29 (dk_at dksX3_move_0 3 rfl rfl)
theorem dX3_move_4 : decode cX3_move 4 = .ok (.invokevirtual 545, 3) := dk_182 2 33 (dk_at dksX3_move_0 4 rfl rfl)
theorem dX3_move_7 : decode cX3_move 7 = .ok (.ifCond .lt 18, 3) := dk_155 0 18 (dk_at dksX3_move_0 7 rfl rfl)
theorem dX3_move_10 : decode cX3_move 10 = .ok (.iload 4, 2) := dk_21 4 (dk_at dksX3_move_0 10 rfl rfl)
theorem dX3_move_12 : decode cX3_move 12 = .ok (.iconst 0, 1) := dk_3 (dk_at dksX3_move_0 12 rfl rfl)
theorem dX3_move_13 : decode cX3_move 13 = .ok (.aload_n 0, 1) := dk_42 (dk_at dksX3_move_0 13 rfl rfl)
theorem dX3_move_14 : decode cX3_move 14 = .ok (.getfield 312, 3) := dk_180 1 56 (dk_at dksX3_move_0 14 rfl rfl)
theorem dX3_move_17 : decode cX3_move 17 = .ok (.iconst 1, 1) := dk_4 (dk_at dksX3_move_0 17 rfl rfl)
theorem dX3_move_18 : decode cX3_move 18 = .ok (.isub, 1) := dk_100 (dk_at dksX3_move_0 18 rfl rfl)
theorem dX3_move_19 : decode cX3_move 19 = .ok (.invokestatic 354, 3) := dk_184 1 98 (dk_at dksX3_move_0 19 rfl rfl)
theorem dX3_move_22 : decode cX3_move 22 = .ok (.ifCond .ne 5, 3) := dk_154 0 5 (dk_at dksX3_move_1 0 rfl rfl)
theorem dX3_move_25 : decode cX3_move 25 = .ok (.iconst (-1), 1) := dk_2 (dk_at dksX3_move_1 3 rfl rfl)
theorem dX3_move_26 : decode cX3_move 26 = .ok (.ireturn, 1) := dk_172 (dk_at dksX3_move_1 4 rfl rfl)
theorem dX3_move_27 : decode cX3_move 27 = .ok (.iload_n 1, 1) := dk_27 (dk_at dksX3_move_1 5 rfl rfl)
theorem dX3_move_28 : decode cX3_move 28 = .ok (.iload_n 2, 1) := dk_28 (dk_at dksX3_move_1 6 rfl rfl)
theorem dX3_move_29 : decode cX3_move 29 = .ok (.iconst 4, 1) := dk_7 (dk_at dksX3_move_1 7 rfl rfl)
theorem dX3_move_30 : decode cX3_move 30 = .ok (.ishl, 1) := dk_120 (dk_at dksX3_move_1 8 rfl rfl)
theorem dX3_move_31 : decode cX3_move 31 = .ok (.ior, 1) := dk_128 (dk_at dksX3_move_1 9 rfl rfl)
theorem dX3_move_32 : decode cX3_move 32 = .ok (.iload_n 3, 1) := dk_29 (dk_at dksX3_move_1 10 rfl rfl)
theorem dX3_move_33 : decode cX3_move 33 = .ok (.bipush 8, 2) := dk_16 8 (dk_at dksX3_move_1 11 rfl rfl)
theorem dX3_move_35 : decode cX3_move 35 = .ok (.ishl, 1) := dk_120 (dk_at dksX3_move_1 13 rfl rfl)
theorem dX3_move_36 : decode cX3_move 36 = .ok (.ior, 1) := dk_128 (dk_at dksX3_move_1 14 rfl rfl)
theorem dX3_move_37 : decode cX3_move 37 = .ok (.istore 5, 2) := dk_54 5 (dk_at dksX3_move_1 15 rfl rfl)
theorem dX3_move_39 : decode cX3_move 39 = .ok (.iconst 0, 1) := dk_3 (dk_at dksX3_move_1 17 rfl rfl)
theorem dX3_move_40 : decode cX3_move 40 = .ok (.istore 6, 2) := dk_54 6 (dk_at dksX3_move_1 18 rfl rfl)
theorem dX3_move_42 : decode cX3_move 42 = .ok (.iload 6, 2) := dk_21 6 (dk_at dksX3_move_1 20 rfl rfl)
theorem dX3_move_44 : decode cX3_move 44 = .ok (.iload 4, 2) := dk_21 4 (dk_at dksX3_move_1 22 rfl rfl)
theorem dX3_move_46 : decode cX3_move 46 = .ok (.if_icmp .gt 38, 3) := dk_163 0 38 (dk_at dksX3_move_2 0 rfl rfl)
theorem dX3_move_49 : decode cX3_move 49 = .ok (.aload_n 0, 1) := dk_42 (dk_at dksX3_move_2 3 rfl rfl)
theorem dX3_move_50 : decode cX3_move 50 = .ok (.iload 6, 2) := dk_21 6 (dk_at dksX3_move_2 4 rfl rfl)
theorem dX3_move_52 : decode cX3_move 52 = .ok (.iload 5, 2) := dk_21 5 (dk_at dksX3_move_2 6 rfl rfl)
theorem dX3_move_54 : decode cX3_move 54 = .ok (.invokevirtual 536, 3) := dk_182 2 24 (dk_at dksX3_move_2 8 rfl rfl)
theorem dX3_move_57 : decode cX3_move 57 = .ok (.istore 7, 2) := dk_54 7 (dk_at dksX3_move_2 11 rfl rfl)
theorem dX3_move_59 : decode cX3_move 59 = .ok (.iload 7, 2) := dk_21 7 (dk_at dksX3_move_2 13 rfl rfl)
theorem dX3_move_61 : decode cX3_move 61 = .ok (.ldc_w 503, 3) := dk_19 1 247 (dk_at dksX3_move_2 15 rfl rfl)
theorem dX3_move_64 : decode cX3_move 64 = .ok (.if_icmp .ge 10, 3) := dk_162 0 10 (dk_at dksX3_move_2 18 rfl rfl)
theorem dX3_move_67 : decode cX3_move 67 = .ok (.aload_n 0, 1) := dk_42 (dk_at dksX3_move_2 21 rfl rfl)
theorem dX3_move_68 : decode cX3_move 68 = .ok (.getfield 533, 3) := dk_180 2 21 (dk_at dksX3_move_3 0 rfl rfl)
theorem dX3_move_71 : decode cX3_move 71 = .ok (.goto 5, 3) := dk_167 0 5 (dk_at dksX3_move_3 3 rfl rfl)
theorem dX3_move_74 : decode cX3_move 74 = .ok (.iload 5, 2) := dk_21 5 (dk_at dksX3_move_3 6 rfl rfl)
theorem dX3_move_76 : decode cX3_move 76 = .ok (.istore 5, 2) := dk_54 5 (dk_at dksX3_move_3 8 rfl rfl)
theorem dX3_move_78 : decode cX3_move 78 = .ok (.iinc 6 1, 3) := dk_132 6 1 (dk_at dksX3_move_3 10 rfl rfl)
theorem dX3_move_81 : decode cX3_move 81 = .ok (.goto (-39), 3) := dk_167 255 217 (dk_at dksX3_move_3 13 rfl rfl)
theorem dX3_move_84 : decode cX3_move 84 = .ok (.aload_n 0, 1) := dk_42 (dk_at dksX3_move_3 16 rfl rfl)
theorem dX3_move_85 : decode cX3_move 85 = .ok (.getfield 526, 3) := dk_180 2 14 (dk_at dksX3_move_3 17 rfl rfl)
theorem dX3_move_88 : decode cX3_move 88 = .ok (.ireturn, 1) := dk_172 (dk_at dksX3_move_3 20 rfl rfl)
abbrev cX3_moves : ByteArray := prog_24_method_67_code
def dkwX3_moves_1 : List UInt8 := [161, 0, 7, 2, 167, 0, 9, 42, 180, 0, 125, 27, 46, 172]
abbrev dktX3_moves_1 : List UInt8 := dkwX3_moves_1 ++ []
def dkwX3_moves_0 : List UInt8 := [42, 27, 182, 1, 104, 154, 0, 5, 2, 172, 42, 28, 182, 1, 251, 42, 180, 0, 125, 27, 46, 19, 1, 247]
abbrev dktX3_moves_0 : List UInt8 := dkwX3_moves_0 ++ dktX3_moves_1
theorem dksX3_moves_0 : cX3_moves.data.toList.drop 0 = dktX3_moves_0 := by decide +kernel
theorem dksX3_moves_1 : cX3_moves.data.toList.drop 24 = dktX3_moves_1 := dk_seg dksX3_moves_0 24 rfl rfl
theorem dX3_moves_0 : decode cX3_moves 0 = .ok (.aload_n 0, 1) := dk_42 (dk_at dksX3_moves_0 0 rfl rfl)
theorem dX3_moves_1 : decode cX3_moves 1 = .ok (.iload_n 1, 1) := dk_27 (dk_at dksX3_moves_0 1 rfl rfl)
theorem dX3_moves_2 : decode cX3_moves 2 = .ok (.invokevirtual 360, 3) := dk_182 1 104 (dk_at dksX3_moves_0 2 rfl rfl)
theorem dX3_moves_5 : decode cX3_moves 5 = .ok (.ifCond .ne 5, 3) := dk_154 0 5 (dk_at dksX3_moves_0 5 rfl rfl)
theorem dX3_moves_8 : decode cX3_moves 8 = .ok (.iconst (-1), 1) := dk_2 (dk_at dksX3_moves_0 8 rfl rfl)
theorem dX3_moves_9 : decode cX3_moves 9 = .ok (.ireturn, 1) := dk_172 (dk_at dksX3_moves_0 9 rfl rfl)
theorem dX3_moves_10 : decode cX3_moves 10 = .ok (.aload_n 0, 1) := dk_42 (dk_at dksX3_moves_0 10 rfl rfl)
theorem dX3_moves_11 : decode cX3_moves 11 = .ok (.iload_n 2, 1) := dk_28 (dk_at dksX3_moves_0 11 rfl rfl)
theorem dX3_moves_12 : decode cX3_moves 12 = .ok (.invokevirtual 507, 3) := dk_182 1 251 (dk_at dksX3_moves_0 12 rfl rfl)
theorem dX3_moves_15 : decode cX3_moves 15 = .ok (.aload_n 0, 1) := dk_42 (dk_at dksX3_moves_0 15 rfl rfl)
theorem dX3_moves_16 : decode cX3_moves 16 = .ok (.getfield 125, 3) := dk_180 0 125 (dk_at dksX3_moves_0 16 rfl rfl)
theorem dX3_moves_19 : decode cX3_moves 19 = .ok (.iload_n 1, 1) := dk_27 (dk_at dksX3_moves_0 19 rfl rfl)
theorem dX3_moves_20 : decode cX3_moves 20 = .ok (.iaload, 1) := dk_46 (dk_at dksX3_moves_0 20 rfl rfl)
theorem dX3_moves_21 : decode cX3_moves 21 = .ok (.ldc_w 503, 3) := dk_19 1 247 (dk_at dksX3_moves_0 21 rfl rfl)
theorem dX3_moves_24 : decode cX3_moves 24 = .ok (.if_icmp .lt 7, 3) := dk_161 0 7 (dk_at dksX3_moves_1 0 rfl rfl)
theorem dX3_moves_27 : decode cX3_moves 27 = .ok (.iconst (-1), 1) := dk_2 (dk_at dksX3_moves_1 3 rfl rfl)
theorem dX3_moves_28 : decode cX3_moves 28 = .ok (.goto 9, 3) := dk_167 0 9 (dk_at dksX3_moves_1 4 rfl rfl)
theorem dX3_moves_31 : decode cX3_moves 31 = .ok (.aload_n 0, 1) := dk_42 (dk_at dksX3_moves_1 7 rfl rfl)
theorem dX3_moves_32 : decode cX3_moves 32 = .ok (.getfield 125, 3) := dk_180 0 125 (dk_at dksX3_moves_1 8 rfl rfl)
theorem dX3_moves_35 : decode cX3_moves 35 = .ok (.iload_n 1, 1) := dk_27 (dk_at dksX3_moves_1 11 rfl rfl)
theorem dX3_moves_36 : decode cX3_moves 36 = .ok (.iaload, 1) := dk_46 (dk_at dksX3_moves_1 12 rfl rfl)
theorem dX3_moves_37 : decode cX3_moves 37 = .ok (.ireturn, 1) := dk_172 (dk_at dksX3_moves_1 13 rfl rfl)
abbrev cX3_must : ByteArray := prog_24_method_13_code
def dkwX3_must_0 : List UInt8 := [42, 182, 1, 28, 154, 0, 4, 177, 27, 153, 0, 10, 42, 182, 1, 32, 167, 0, 7, 42, 182, 1, 35, 177]
abbrev dktX3_must_0 : List UInt8 := dkwX3_must_0 ++ []
theorem dksX3_must_0 : cX3_must.data.toList.drop 0 = dktX3_must_0 := by decide +kernel
theorem dX3_must_0 : decode cX3_must 0 = .ok (.aload_n 0, 1) := dk_42 (dk_at dksX3_must_0 0 rfl rfl)
theorem dX3_must_1 : decode cX3_must 1 = .ok (.invokevirtual 284, 3) := dk_182 1 28 (dk_at dksX3_must_0 1 rfl rfl)
theorem dX3_must_4 : decode cX3_must 4 = .ok (.ifCond .ne 4, 3) := dk_154 0 4 (dk_at dksX3_must_0 4 rfl rfl)
theorem dX3_must_7 : decode cX3_must 7 = .ok (.return_, 1) := dk_177 (dk_at dksX3_must_0 7 rfl rfl)
theorem dX3_must_8 : decode cX3_must 8 = .ok (.iload_n 1, 1) := dk_27 (dk_at dksX3_must_0 8 rfl rfl)
theorem dX3_must_9 : decode cX3_must 9 = .ok (.ifCond .eq 10, 3) := dk_153 0 10 (dk_at dksX3_must_0 9 rfl rfl)
theorem dX3_must_12 : decode cX3_must 12 = .ok (.aload_n 0, 1) := dk_42 (dk_at dksX3_must_0 12 rfl rfl)
theorem dX3_must_13 : decode cX3_must 13 = .ok (.invokevirtual 288, 3) := dk_182 1 32 (dk_at dksX3_must_0 13 rfl rfl)
theorem dX3_must_16 : decode cX3_must 16 = .ok (.goto 7, 3) := dk_167 0 7 (dk_at dksX3_must_0 16 rfl rfl)
theorem dX3_must_19 : decode cX3_must 19 = .ok (.aload_n 0, 1) := dk_42 (dk_at dksX3_must_0 19 rfl rfl)
theorem dX3_must_20 : decode cX3_must 20 = .ok (.invokevirtual 291, 3) := dk_182 1 35 (dk_at dksX3_must_0 20 rfl rfl)
theorem dX3_must_23 : decode cX3_must 23 = .ok (.return_, 1) := dk_177 (dk_at dksX3_must_0 23 rfl rfl)
abbrev cX3_next : ByteArray := prog_24_method_9_code
def dkwX3_next_16 : List UInt8 := [167, 0, 4, 4, 181, 1, 0, 177]
abbrev dktX3_next_16 : List UInt8 := dkwX3_next_16 ++ []
def dkwX3_next_15 : List UInt8 := [153, 0, 7, 4, 167, 0, 4, 7, 181, 1, 0, 167, 0, 19, 42, 27, 184, 1, 21, 153, 0, 7, 8]
abbrev dktX3_next_15 : List UInt8 := dkwX3_next_15 ++ dktX3_next_16
def dkwX3_next_14 : List UInt8 := [180, 0, 246, 42, 180, 0, 249, 100, 7, 163, 0, 17, 42, 42, 180, 0, 246, 182, 0, 252, 184, 1, 3]
abbrev dktX3_next_14 : List UInt8 := dkwX3_next_14 ++ dktX3_next_15
def dkwX3_next_13 : List UInt8 := [96, 16, 48, 100, 181, 1, 18, 42, 89, 180, 0, 246, 4, 96, 181, 0, 246, 167, 255, 196, 42, 42]
abbrev dktX3_next_13 : List UInt8 := dkwX3_next_13 ++ dktX3_next_14
def dkwX3_next_12 : List UInt8 := [180, 0, 249, 100, 7, 162, 0, 26, 42, 16, 10, 42, 180, 1, 18, 104, 42, 42, 180, 0, 246, 182, 0, 252]
abbrev dktX3_next_12 : List UInt8 := dkwX3_next_12 ++ dktX3_next_13
def dkwX3_next_11 : List UInt8 := [181, 0, 246, 42, 42, 180, 0, 246, 182, 0, 252, 184, 1, 15, 153, 0, 52, 42, 180, 0, 246, 42]
abbrev dktX3_next_11 : List UInt8 := dkwX3_next_11 ++ dktX3_next_12
def dkwX3_next_10 : List UInt8 := [181, 1, 0, 167, 0, 141, 27, 184, 1, 15, 153, 0, 118, 42, 3, 181, 1, 18, 42, 42, 180, 0, 249]
abbrev dktX3_next_10 : List UInt8 := dkwX3_next_10 ++ dktX3_next_11
def dkwX3_next_9 : List UInt8 := [164, 0, 7, 4, 167, 0, 18, 42, 180, 1, 7, 184, 1, 11, 153, 0, 7, 6, 167, 0, 4, 5]
abbrev dktX3_next_9 : List UInt8 := dkwX3_next_9 ++ dktX3_next_10
def dkwX3_next_8 : List UInt8 := [133, 129, 181, 1, 7, 132, 2, 1, 167, 255, 216, 42, 42, 180, 0, 246, 42, 180, 0, 249, 100, 16, 8]
abbrev dktX3_next_8 : List UInt8 := dkwX3_next_8 ++ dktX3_next_9
def dkwX3_next_7 : List UInt8 := [28, 42, 180, 0, 249, 16, 8, 96, 162, 0, 27, 42, 42, 180, 1, 7, 16, 8, 121, 42, 28, 182, 0, 252]
abbrev dktX3_next_7 : List UInt8 := dkwX3_next_7 ++ dktX3_next_8
def dkwX3_next_6 : List UInt8 := [181, 0, 246, 167, 255, 232, 42, 9, 181, 1, 7, 42, 180, 0, 249, 61, 28, 42, 180, 0, 246, 162, 0, 38]
abbrev dktX3_next_6 : List UInt8 := dkwX3_next_6 ++ dktX3_next_7
def dkwX3_next_5 : List UInt8 := [153, 0, 123, 42, 42, 180, 0, 246, 182, 0, 252, 184, 1, 3, 153, 0, 16, 42, 89, 180, 0, 246, 4, 96]
abbrev dktX3_next_5 : List UInt8 := dkwX3_next_5 ++ dktX3_next_6
def dkwX3_next_4 : List UInt8 := [42, 42, 180, 0, 172, 181, 0, 249, 42, 42, 180, 0, 172, 181, 0, 246, 167, 1, 12, 27, 184, 1, 3]
abbrev dktX3_next_4 : List UInt8 := dkwX3_next_4 ++ dktX3_next_5
def dkwX3_next_3 : List UInt8 := [180, 0, 249, 4, 96, 181, 0, 246, 42, 180, 0, 249, 42, 180, 0, 172, 161, 0, 27, 42, 3, 181, 1, 0]
abbrev dktX3_next_3 : List UInt8 := dkwX3_next_3 ++ dktX3_next_4
def dkwX3_next_2 : List UInt8 := [180, 0, 249, 4, 96, 181, 0, 249, 167, 255, 209, 42, 42, 180, 0, 249, 182, 0, 252, 60, 42, 42]
abbrev dktX3_next_2 : List UInt8 := dkwX3_next_2 ++ dktX3_next_3
def dkwX3_next_1 : List UInt8 := [182, 0, 252, 16, 32, 159, 0, 16, 42, 42, 180, 0, 249, 182, 0, 252, 16, 10, 160, 0, 16, 42, 89]
abbrev dktX3_next_1 : List UInt8 := dkwX3_next_1 ++ dktX3_next_2
def dkwX3_next_0 : List UInt8 := [42, 42, 180, 0, 246, 181, 0, 249, 42, 180, 0, 249, 42, 180, 0, 172, 162, 0, 42, 42, 42, 180, 0, 249]
abbrev dktX3_next_0 : List UInt8 := dkwX3_next_0 ++ dktX3_next_1
theorem dksX3_next_0 : cX3_next.data.toList.drop 0 = dktX3_next_0 := by decide +kernel
theorem dksX3_next_1 : cX3_next.data.toList.drop 24 = dktX3_next_1 := dk_seg dksX3_next_0 24 rfl rfl
theorem dksX3_next_2 : cX3_next.data.toList.drop 47 = dktX3_next_2 := dk_seg dksX3_next_1 23 rfl rfl
theorem dksX3_next_3 : cX3_next.data.toList.drop 69 = dktX3_next_3 := dk_seg dksX3_next_2 22 rfl rfl
theorem dksX3_next_4 : cX3_next.data.toList.drop 93 = dktX3_next_4 := dk_seg dksX3_next_3 24 rfl rfl
theorem dksX3_next_5 : cX3_next.data.toList.drop 116 = dktX3_next_5 := dk_seg dksX3_next_4 23 rfl rfl
theorem dksX3_next_6 : cX3_next.data.toList.drop 140 = dktX3_next_6 := dk_seg dksX3_next_5 24 rfl rfl
theorem dksX3_next_7 : cX3_next.data.toList.drop 164 = dktX3_next_7 := dk_seg dksX3_next_6 24 rfl rfl
theorem dksX3_next_8 : cX3_next.data.toList.drop 188 = dktX3_next_8 := dk_seg dksX3_next_7 24 rfl rfl
theorem dksX3_next_9 : cX3_next.data.toList.drop 211 = dktX3_next_9 := dk_seg dksX3_next_8 23 rfl rfl
theorem dksX3_next_10 : cX3_next.data.toList.drop 233 = dktX3_next_10 := dk_seg dksX3_next_9 22 rfl rfl
theorem dksX3_next_11 : cX3_next.data.toList.drop 256 = dktX3_next_11 := dk_seg dksX3_next_10 23 rfl rfl
theorem dksX3_next_12 : cX3_next.data.toList.drop 278 = dktX3_next_12 := dk_seg dksX3_next_11 22 rfl rfl
theorem dksX3_next_13 : cX3_next.data.toList.drop 302 = dktX3_next_13 := dk_seg dksX3_next_12 24 rfl rfl
theorem dksX3_next_14 : cX3_next.data.toList.drop 324 = dktX3_next_14 := dk_seg dksX3_next_13 22 rfl rfl
theorem dksX3_next_15 : cX3_next.data.toList.drop 347 = dktX3_next_15 := dk_seg dksX3_next_14 23 rfl rfl
theorem dksX3_next_16 : cX3_next.data.toList.drop 370 = dktX3_next_16 := dk_seg dksX3_next_15 23 rfl rfl
theorem dX3_next_0 : decode cX3_next 0 = .ok (.aload_n 0, 1) := dk_42 (dk_at dksX3_next_0 0 rfl rfl)
theorem dX3_next_1 : decode cX3_next 1 = .ok (.aload_n 0, 1) := dk_42 (dk_at dksX3_next_0 1 rfl rfl)
theorem dX3_next_2 : decode cX3_next 2 = .ok (.getfield 246, 3) := dk_180 0 246 (dk_at dksX3_next_0 2 rfl rfl)
theorem dX3_next_5 : decode cX3_next 5 = .ok (.putfield 249, 3) := dk_181 0 249 (dk_at dksX3_next_0 5 rfl rfl)
theorem dX3_next_8 : decode cX3_next 8 = .ok (.aload_n 0, 1) := dk_42 (dk_at dksX3_next_0 8 rfl rfl)
theorem dX3_next_9 : decode cX3_next 9 = .ok (.getfield 249, 3) := dk_180 0 249 (dk_at dksX3_next_0 9 rfl rfl)
theorem dX3_next_12 : decode cX3_next 12 = .ok (.aload_n 0, 1) := dk_42 (dk_at dksX3_next_0 12 rfl rfl)
theorem dX3_next_13 : decode cX3_next 13 = .ok (.getfield 172, 3) := dk_180 0 172 (dk_at dksX3_next_0 13 rfl rfl)
theorem dX3_next_16 : decode cX3_next 16 = .ok (.if_icmp .ge 42, 3) := dk_162 0 42 (dk_at dksX3_next_0 16 rfl rfl)
theorem dX3_next_19 : decode cX3_next 19 = .ok (.aload_n 0, 1) := dk_42 (dk_at dksX3_next_0 19 rfl rfl)
theorem dX3_next_20 : decode cX3_next 20 = .ok (.aload_n 0, 1) := dk_42 (dk_at dksX3_next_0 20 rfl rfl)
theorem dX3_next_21 : decode cX3_next 21 = .ok (.getfield 249, 3) := dk_180 0 249 (dk_at dksX3_next_0 21 rfl rfl)
theorem dX3_next_24 : decode cX3_next 24 = .ok (.invokevirtual 252, 3) := dk_182 0 252 (dk_at dksX3_next_1 0 rfl rfl)
theorem dX3_next_27 : decode cX3_next 27 = .ok (.bipush 32, 2) := dk_16 32 (dk_at dksX3_next_1 3 rfl rfl)
theorem dX3_next_29 : decode cX3_next 29 = .ok (.if_icmp .eq 16, 3) := dk_159 0 16 (dk_at dksX3_next_1 5 rfl rfl)
theorem dX3_next_32 : decode cX3_next 32 = .ok (.aload_n 0, 1) := dk_42 (dk_at dksX3_next_1 8 rfl rfl)
theorem dX3_next_33 : decode cX3_next 33 = .ok (.aload_n 0, 1) := dk_42 (dk_at dksX3_next_1 9 rfl rfl)
theorem dX3_next_34 : decode cX3_next 34 = .ok (.getfield 249, 3) := dk_180 0 249 (dk_at dksX3_next_1 10 rfl rfl)
theorem dX3_next_37 : decode cX3_next 37 = .ok (.invokevirtual 252, 3) := dk_182 0 252 (dk_at dksX3_next_1 13 rfl rfl)
theorem dX3_next_40 : decode cX3_next 40 = .ok (.bipush 10, 2) := dk_16 10 (dk_at dksX3_next_1 16 rfl rfl)
theorem dX3_next_42 : decode cX3_next 42 = .ok (.if_icmp .ne 16, 3) := dk_160 0 16 (dk_at dksX3_next_1 18 rfl rfl)
theorem dX3_next_45 : decode cX3_next 45 = .ok (.aload_n 0, 1) := dk_42 (dk_at dksX3_next_1 21 rfl rfl)
theorem dX3_next_46 : decode cX3_next 46 = .ok (.dup, 1) := dk_89 (dk_at dksX3_next_1 22 rfl rfl)
theorem dX3_next_47 : decode cX3_next 47 = .ok (.getfield 249, 3) := dk_180 0 249 (dk_at dksX3_next_2 0 rfl rfl)
theorem dX3_next_50 : decode cX3_next 50 = .ok (.iconst 1, 1) := dk_4 (dk_at dksX3_next_2 3 rfl rfl)
theorem dX3_next_51 : decode cX3_next 51 = .ok (.iadd, 1) := dk_96 (dk_at dksX3_next_2 4 rfl rfl)
theorem dX3_next_52 : decode cX3_next 52 = .ok (.putfield 249, 3) := dk_181 0 249 (dk_at dksX3_next_2 5 rfl rfl)
theorem dX3_next_55 : decode cX3_next 55 = .ok (.goto (-47), 3) := dk_167 255 209 (dk_at dksX3_next_2 8 rfl rfl)
theorem dX3_next_58 : decode cX3_next 58 = .ok (.aload_n 0, 1) := dk_42 (dk_at dksX3_next_2 11 rfl rfl)
theorem dX3_next_59 : decode cX3_next 59 = .ok (.aload_n 0, 1) := dk_42 (dk_at dksX3_next_2 12 rfl rfl)
theorem dX3_next_60 : decode cX3_next 60 = .ok (.getfield 249, 3) := dk_180 0 249 (dk_at dksX3_next_2 13 rfl rfl)
theorem dX3_next_63 : decode cX3_next 63 = .ok (.invokevirtual 252, 3) := dk_182 0 252 (dk_at dksX3_next_2 16 rfl rfl)
theorem dX3_next_66 : decode cX3_next 66 = .ok (.istore_n 1, 1) := dk_60 (dk_at dksX3_next_2 19 rfl rfl)
theorem dX3_next_67 : decode cX3_next 67 = .ok (.aload_n 0, 1) := dk_42 (dk_at dksX3_next_2 20 rfl rfl)
theorem dX3_next_68 : decode cX3_next 68 = .ok (.aload_n 0, 1) := dk_42 (dk_at dksX3_next_2 21 rfl rfl)
theorem dX3_next_69 : decode cX3_next 69 = .ok (.getfield 249, 3) := dk_180 0 249 (dk_at dksX3_next_3 0 rfl rfl)
theorem dX3_next_72 : decode cX3_next 72 = .ok (.iconst 1, 1) := dk_4 (dk_at dksX3_next_3 3 rfl rfl)
theorem dX3_next_73 : decode cX3_next 73 = .ok (.iadd, 1) := dk_96 (dk_at dksX3_next_3 4 rfl rfl)
theorem dX3_next_74 : decode cX3_next 74 = .ok (.putfield 246, 3) := dk_181 0 246 (dk_at dksX3_next_3 5 rfl rfl)
theorem dX3_next_77 : decode cX3_next 77 = .ok (.aload_n 0, 1) := dk_42 (dk_at dksX3_next_3 8 rfl rfl)
theorem dX3_next_78 : decode cX3_next 78 = .ok (.getfield 249, 3) := dk_180 0 249 (dk_at dksX3_next_3 9 rfl rfl)
theorem dX3_next_81 : decode cX3_next 81 = .ok (.aload_n 0, 1) := dk_42 (dk_at dksX3_next_3 12 rfl rfl)
theorem dX3_next_82 : decode cX3_next 82 = .ok (.getfield 172, 3) := dk_180 0 172 (dk_at dksX3_next_3 13 rfl rfl)
theorem dX3_next_85 : decode cX3_next 85 = .ok (.if_icmp .lt 27, 3) := dk_161 0 27 (dk_at dksX3_next_3 16 rfl rfl)
theorem dX3_next_88 : decode cX3_next 88 = .ok (.aload_n 0, 1) := dk_42 (dk_at dksX3_next_3 19 rfl rfl)
theorem dX3_next_89 : decode cX3_next 89 = .ok (.iconst 0, 1) := dk_3 (dk_at dksX3_next_3 20 rfl rfl)
theorem dX3_next_90 : decode cX3_next 90 = .ok (.putfield 256, 3) := dk_181 1 0 (dk_at dksX3_next_3 21 rfl rfl)
theorem dX3_next_93 : decode cX3_next 93 = .ok (.aload_n 0, 1) := dk_42 (dk_at dksX3_next_4 0 rfl rfl)
theorem dX3_next_94 : decode cX3_next 94 = .ok (.aload_n 0, 1) := dk_42 (dk_at dksX3_next_4 1 rfl rfl)
theorem dX3_next_95 : decode cX3_next 95 = .ok (.getfield 172, 3) := dk_180 0 172 (dk_at dksX3_next_4 2 rfl rfl)
theorem dX3_next_98 : decode cX3_next 98 = .ok (.putfield 249, 3) := dk_181 0 249 (dk_at dksX3_next_4 5 rfl rfl)
theorem dX3_next_101 : decode cX3_next 101 = .ok (.aload_n 0, 1) := dk_42 (dk_at dksX3_next_4 8 rfl rfl)
theorem dX3_next_102 : decode cX3_next 102 = .ok (.aload_n 0, 1) := dk_42 (dk_at dksX3_next_4 9 rfl rfl)
theorem dX3_next_103 : decode cX3_next 103 = .ok (.getfield 172, 3) := dk_180 0 172 (dk_at dksX3_next_4 10 rfl rfl)
theorem dX3_next_106 : decode cX3_next 106 = .ok (.putfield 246, 3) := dk_181 0 246 (dk_at dksX3_next_4 13 rfl rfl)
theorem dX3_next_109 : decode cX3_next 109 = .ok (.goto 268, 3) := dk_167 1 12 (dk_at dksX3_next_4 16 rfl rfl)
theorem dX3_next_112 : decode cX3_next 112 = .ok (.iload_n 1, 1) := dk_27 (dk_at dksX3_next_4 19 rfl rfl)
theorem dX3_next_113 : decode cX3_next 113 = .ok (.invokestatic 259, 3) := dk_184 1 3 (dk_at dksX3_next_4 20 rfl rfl)
theorem dX3_next_116 : decode cX3_next 116 = .ok (.ifCond .eq 123, 3) := dk_153 0 123 (dk_at dksX3_next_5 0 rfl rfl)
theorem dX3_next_119 : decode cX3_next 119 = .ok (.aload_n 0, 1) := dk_42 (dk_at dksX3_next_5 3 rfl rfl)
theorem dX3_next_120 : decode cX3_next 120 = .ok (.aload_n 0, 1) := dk_42 (dk_at dksX3_next_5 4 rfl rfl)
theorem dX3_next_121 : decode cX3_next 121 = .ok (.getfield 246, 3) := dk_180 0 246 (dk_at dksX3_next_5 5 rfl rfl)
theorem dX3_next_124 : decode cX3_next 124 = .ok (.invokevirtual 252, 3) := dk_182 0 252 (dk_at dksX3_next_5 8 rfl rfl)
theorem dX3_next_127 : decode cX3_next 127 = .ok (.invokestatic 259, 3) := dk_184 1 3 (dk_at dksX3_next_5 11 rfl rfl)
theorem dX3_next_130 : decode cX3_next 130 = .ok (.ifCond .eq 16, 3) := dk_153 0 16 (dk_at dksX3_next_5 14 rfl rfl)
theorem dX3_next_133 : decode cX3_next 133 = .ok (.aload_n 0, 1) := dk_42 (dk_at dksX3_next_5 17 rfl rfl)
theorem dX3_next_134 : decode cX3_next 134 = .ok (.dup, 1) := dk_89 (dk_at dksX3_next_5 18 rfl rfl)
theorem dX3_next_135 : decode cX3_next 135 = .ok (.getfield 246, 3) := dk_180 0 246 (dk_at dksX3_next_5 19 rfl rfl)
theorem dX3_next_138 : decode cX3_next 138 = .ok (.iconst 1, 1) := dk_4 (dk_at dksX3_next_5 22 rfl rfl)
theorem dX3_next_139 : decode cX3_next 139 = .ok (.iadd, 1) := dk_96 (dk_at dksX3_next_5 23 rfl rfl)
theorem dX3_next_140 : decode cX3_next 140 = .ok (.putfield 246, 3) := dk_181 0 246 (dk_at dksX3_next_6 0 rfl rfl)
theorem dX3_next_143 : decode cX3_next 143 = .ok (.goto (-24), 3) := dk_167 255 232 (dk_at dksX3_next_6 3 rfl rfl)
theorem dX3_next_146 : decode cX3_next 146 = .ok (.aload_n 0, 1) := dk_42 (dk_at dksX3_next_6 6 rfl rfl)
theorem dX3_next_147 : decode cX3_next 147 = .ok (.lconst 0, 1) := dk_9 (dk_at dksX3_next_6 7 rfl rfl)
theorem dX3_next_148 : decode cX3_next 148 = .ok (.putfield 263, 3) := dk_181 1 7 (dk_at dksX3_next_6 8 rfl rfl)
theorem dX3_next_151 : decode cX3_next 151 = .ok (.aload_n 0, 1) := dk_42 (dk_at dksX3_next_6 11 rfl rfl)
theorem dX3_next_152 : decode cX3_next 152 = .ok (.getfield 249, 3) := dk_180 0 249 (dk_at dksX3_next_6 12 rfl rfl)
theorem dX3_next_155 : decode cX3_next 155 = .ok (.istore_n 2, 1) := dk_61 (dk_at dksX3_next_6 15 rfl rfl)
theorem dX3_next_156 : decode cX3_next 156 = .ok (.iload_n 2, 1) := dk_28 (dk_at dksX3_next_6 16 rfl rfl)
theorem dX3_next_157 : decode cX3_next 157 = .ok (.aload_n 0, 1) := dk_42 (dk_at dksX3_next_6 17 rfl rfl)
theorem dX3_next_158 : decode cX3_next 158 = .ok (.getfield 246, 3) := dk_180 0 246 (dk_at dksX3_next_6 18 rfl rfl)
theorem dX3_next_161 : decode cX3_next 161 = .ok (.if_icmp .ge 38, 3) := dk_162 0 38 (dk_at dksX3_next_6 21 rfl rfl)
theorem dX3_next_164 : decode cX3_next 164 = .ok (.iload_n 2, 1) := dk_28 (dk_at dksX3_next_7 0 rfl rfl)
theorem dX3_next_165 : decode cX3_next 165 = .ok (.aload_n 0, 1) := dk_42 (dk_at dksX3_next_7 1 rfl rfl)
theorem dX3_next_166 : decode cX3_next 166 = .ok (.getfield 249, 3) := dk_180 0 249 (dk_at dksX3_next_7 2 rfl rfl)
theorem dX3_next_169 : decode cX3_next 169 = .ok (.bipush 8, 2) := dk_16 8 (dk_at dksX3_next_7 5 rfl rfl)
theorem dX3_next_171 : decode cX3_next 171 = .ok (.iadd, 1) := dk_96 (dk_at dksX3_next_7 7 rfl rfl)
theorem dX3_next_172 : decode cX3_next 172 = .ok (.if_icmp .ge 27, 3) := dk_162 0 27 (dk_at dksX3_next_7 8 rfl rfl)
theorem dX3_next_175 : decode cX3_next 175 = .ok (.aload_n 0, 1) := dk_42 (dk_at dksX3_next_7 11 rfl rfl)
theorem dX3_next_176 : decode cX3_next 176 = .ok (.aload_n 0, 1) := dk_42 (dk_at dksX3_next_7 12 rfl rfl)
theorem dX3_next_177 : decode cX3_next 177 = .ok (.getfield 263, 3) := dk_180 1 7 (dk_at dksX3_next_7 13 rfl rfl)
theorem dX3_next_180 : decode cX3_next 180 = .ok (.bipush 8, 2) := dk_16 8 (dk_at dksX3_next_7 16 rfl rfl)
theorem dX3_next_182 : decode cX3_next 182 = .ok (.lshl, 1) := dk_121 (dk_at dksX3_next_7 18 rfl rfl)
theorem dX3_next_183 : decode cX3_next 183 = .ok (.aload_n 0, 1) := dk_42 (dk_at dksX3_next_7 19 rfl rfl)
theorem dX3_next_184 : decode cX3_next 184 = .ok (.iload_n 2, 1) := dk_28 (dk_at dksX3_next_7 20 rfl rfl)
theorem dX3_next_185 : decode cX3_next 185 = .ok (.invokevirtual 252, 3) := dk_182 0 252 (dk_at dksX3_next_7 21 rfl rfl)
theorem dX3_next_188 : decode cX3_next 188 = .ok (.i2l, 1) := dk_133 (dk_at dksX3_next_8 0 rfl rfl)
theorem dX3_next_189 : decode cX3_next 189 = .ok (.lor, 1) := dk_129 (dk_at dksX3_next_8 1 rfl rfl)
theorem dX3_next_190 : decode cX3_next 190 = .ok (.putfield 263, 3) := dk_181 1 7 (dk_at dksX3_next_8 2 rfl rfl)
theorem dX3_next_193 : decode cX3_next 193 = .ok (.iinc 2 1, 3) := dk_132 2 1 (dk_at dksX3_next_8 5 rfl rfl)
theorem dX3_next_196 : decode cX3_next 196 = .ok (.goto (-40), 3) := dk_167 255 216 (dk_at dksX3_next_8 8 rfl rfl)
theorem dX3_next_199 : decode cX3_next 199 = .ok (.aload_n 0, 1) := dk_42 (dk_at dksX3_next_8 11 rfl rfl)
theorem dX3_next_200 : decode cX3_next 200 = .ok (.aload_n 0, 1) := dk_42 (dk_at dksX3_next_8 12 rfl rfl)
theorem dX3_next_201 : decode cX3_next 201 = .ok (.getfield 246, 3) := dk_180 0 246 (dk_at dksX3_next_8 13 rfl rfl)
theorem dX3_next_204 : decode cX3_next 204 = .ok (.aload_n 0, 1) := dk_42 (dk_at dksX3_next_8 16 rfl rfl)
theorem dX3_next_205 : decode cX3_next 205 = .ok (.getfield 249, 3) := dk_180 0 249 (dk_at dksX3_next_8 17 rfl rfl)
theorem dX3_next_208 : decode cX3_next 208 = .ok (.isub, 1) := dk_100 (dk_at dksX3_next_8 20 rfl rfl)
theorem dX3_next_209 : decode cX3_next 209 = .ok (.bipush 8, 2) := dk_16 8 (dk_at dksX3_next_8 21 rfl rfl)
theorem dX3_next_211 : decode cX3_next 211 = .ok (.if_icmp .le 7, 3) := dk_164 0 7 (dk_at dksX3_next_9 0 rfl rfl)
theorem dX3_next_214 : decode cX3_next 214 = .ok (.iconst 1, 1) := dk_4 (dk_at dksX3_next_9 3 rfl rfl)
theorem dX3_next_215 : decode cX3_next 215 = .ok (.goto 18, 3) := dk_167 0 18 (dk_at dksX3_next_9 4 rfl rfl)
theorem dX3_next_218 : decode cX3_next 218 = .ok (.aload_n 0, 1) := dk_42 (dk_at dksX3_next_9 7 rfl rfl)
theorem dX3_next_219 : decode cX3_next 219 = .ok (.getfield 263, 3) := dk_180 1 7 (dk_at dksX3_next_9 8 rfl rfl)
theorem dX3_next_222 : decode cX3_next 222 = .ok (.invokestatic 267, 3) := dk_184 1 11 (dk_at dksX3_next_9 11 rfl rfl)
theorem dX3_next_225 : decode cX3_next 225 = .ok (.ifCond .eq 7, 3) := dk_153 0 7 (dk_at dksX3_next_9 14 rfl rfl)
theorem dX3_next_228 : decode cX3_next 228 = .ok (.iconst 3, 1) := dk_6 (dk_at dksX3_next_9 17 rfl rfl)
theorem dX3_next_229 : decode cX3_next 229 = .ok (.goto 4, 3) := dk_167 0 4 (dk_at dksX3_next_9 18 rfl rfl)
theorem dX3_next_232 : decode cX3_next 232 = .ok (.iconst 2, 1) := dk_5 (dk_at dksX3_next_9 21 rfl rfl)
theorem dX3_next_233 : decode cX3_next 233 = .ok (.putfield 256, 3) := dk_181 1 0 (dk_at dksX3_next_10 0 rfl rfl)
theorem dX3_next_236 : decode cX3_next 236 = .ok (.goto 141, 3) := dk_167 0 141 (dk_at dksX3_next_10 3 rfl rfl)
theorem dX3_next_239 : decode cX3_next 239 = .ok (.iload_n 1, 1) := dk_27 (dk_at dksX3_next_10 6 rfl rfl)
theorem dX3_next_240 : decode cX3_next 240 = .ok (.invokestatic 271, 3) := dk_184 1 15 (dk_at dksX3_next_10 7 rfl rfl)
theorem dX3_next_243 : decode cX3_next 243 = .ok (.ifCond .eq 118, 3) := dk_153 0 118 (dk_at dksX3_next_10 10 rfl rfl)
theorem dX3_next_246 : decode cX3_next 246 = .ok (.aload_n 0, 1) := dk_42 (dk_at dksX3_next_10 13 rfl rfl)
theorem dX3_next_247 : decode cX3_next 247 = .ok (.iconst 0, 1) := dk_3 (dk_at dksX3_next_10 14 rfl rfl)
theorem dX3_next_248 : decode cX3_next 248 = .ok (.putfield 274, 3) := dk_181 1 18 (dk_at dksX3_next_10 15 rfl rfl)
theorem dX3_next_251 : decode cX3_next 251 = .ok (.aload_n 0, 1) := dk_42 (dk_at dksX3_next_10 18 rfl rfl)
theorem dX3_next_252 : decode cX3_next 252 = .ok (.aload_n 0, 1) := dk_42 (dk_at dksX3_next_10 19 rfl rfl)
theorem dX3_next_253 : decode cX3_next 253 = .ok (.getfield 249, 3) := dk_180 0 249 (dk_at dksX3_next_10 20 rfl rfl)
theorem dX3_next_256 : decode cX3_next 256 = .ok (.putfield 246, 3) := dk_181 0 246 (dk_at dksX3_next_11 0 rfl rfl)
theorem dX3_next_259 : decode cX3_next 259 = .ok (.aload_n 0, 1) := dk_42 (dk_at dksX3_next_11 3 rfl rfl)
theorem dX3_next_260 : decode cX3_next 260 = .ok (.aload_n 0, 1) := dk_42 (dk_at dksX3_next_11 4 rfl rfl)
theorem dX3_next_261 : decode cX3_next 261 = .ok (.getfield 246, 3) := dk_180 0 246 (dk_at dksX3_next_11 5 rfl rfl)
theorem dX3_next_264 : decode cX3_next 264 = .ok (.invokevirtual 252, 3) := dk_182 0 252 (dk_at dksX3_next_11 8 rfl rfl)
theorem dX3_next_267 : decode cX3_next 267 = .ok (.invokestatic 271, 3) := dk_184 1 15 (dk_at dksX3_next_11 11 rfl rfl)
theorem dX3_next_270 : decode cX3_next 270 = .ok (.ifCond .eq 52, 3) := dk_153 0 52 (dk_at dksX3_next_11 14 rfl rfl)
theorem dX3_next_273 : decode cX3_next 273 = .ok (.aload_n 0, 1) := dk_42 (dk_at dksX3_next_11 17 rfl rfl)
theorem dX3_next_274 : decode cX3_next 274 = .ok (.getfield 246, 3) := dk_180 0 246 (dk_at dksX3_next_11 18 rfl rfl)
theorem dX3_next_277 : decode cX3_next 277 = .ok (.aload_n 0, 1) := dk_42 (dk_at dksX3_next_11 21 rfl rfl)
theorem dX3_next_278 : decode cX3_next 278 = .ok (.getfield 249, 3) := dk_180 0 249 (dk_at dksX3_next_12 0 rfl rfl)
theorem dX3_next_281 : decode cX3_next 281 = .ok (.isub, 1) := dk_100 (dk_at dksX3_next_12 3 rfl rfl)
theorem dX3_next_282 : decode cX3_next 282 = .ok (.iconst 4, 1) := dk_7 (dk_at dksX3_next_12 4 rfl rfl)
theorem dX3_next_283 : decode cX3_next 283 = .ok (.if_icmp .ge 26, 3) := dk_162 0 26 (dk_at dksX3_next_12 5 rfl rfl)
theorem dX3_next_286 : decode cX3_next 286 = .ok (.aload_n 0, 1) := dk_42 (dk_at dksX3_next_12 8 rfl rfl)
theorem dX3_next_287 : decode cX3_next 287 = .ok (.bipush 10, 2) := dk_16 10 (dk_at dksX3_next_12 9 rfl rfl)
theorem dX3_next_289 : decode cX3_next 289 = .ok (.aload_n 0, 1) := dk_42 (dk_at dksX3_next_12 11 rfl rfl)
theorem dX3_next_290 : decode cX3_next 290 = .ok (.getfield 274, 3) := dk_180 1 18 (dk_at dksX3_next_12 12 rfl rfl)
theorem dX3_next_293 : decode cX3_next 293 = .ok (.imul, 1) := dk_104 (dk_at dksX3_next_12 15 rfl rfl)
theorem dX3_next_294 : decode cX3_next 294 = .ok (.aload_n 0, 1) := dk_42 (dk_at dksX3_next_12 16 rfl rfl)
theorem dX3_next_295 : decode cX3_next 295 = .ok (.aload_n 0, 1) := dk_42 (dk_at dksX3_next_12 17 rfl rfl)
theorem dX3_next_296 : decode cX3_next 296 = .ok (.getfield 246, 3) := dk_180 0 246 (dk_at dksX3_next_12 18 rfl rfl)
theorem dX3_next_299 : decode cX3_next 299 = .ok (.invokevirtual 252, 3) := dk_182 0 252 (dk_at dksX3_next_12 21 rfl rfl)
theorem dX3_next_302 : decode cX3_next 302 = .ok (.iadd, 1) := dk_96 (dk_at dksX3_next_13 0 rfl rfl)
theorem dX3_next_303 : decode cX3_next 303 = .ok (.bipush 48, 2) := dk_16 48 (dk_at dksX3_next_13 1 rfl rfl)
theorem dX3_next_305 : decode cX3_next 305 = .ok (.isub, 1) := dk_100 (dk_at dksX3_next_13 3 rfl rfl)
theorem dX3_next_306 : decode cX3_next 306 = .ok (.putfield 274, 3) := dk_181 1 18 (dk_at dksX3_next_13 4 rfl rfl)
theorem dX3_next_309 : decode cX3_next 309 = .ok (.aload_n 0, 1) := dk_42 (dk_at dksX3_next_13 7 rfl rfl)
theorem dX3_next_310 : decode cX3_next 310 = .ok (.dup, 1) := dk_89 (dk_at dksX3_next_13 8 rfl rfl)
theorem dX3_next_311 : decode cX3_next 311 = .ok (.getfield 246, 3) := dk_180 0 246 (dk_at dksX3_next_13 9 rfl rfl)
theorem dX3_next_314 : decode cX3_next 314 = .ok (.iconst 1, 1) := dk_4 (dk_at dksX3_next_13 12 rfl rfl)
theorem dX3_next_315 : decode cX3_next 315 = .ok (.iadd, 1) := dk_96 (dk_at dksX3_next_13 13 rfl rfl)
theorem dX3_next_316 : decode cX3_next 316 = .ok (.putfield 246, 3) := dk_181 0 246 (dk_at dksX3_next_13 14 rfl rfl)
theorem dX3_next_319 : decode cX3_next 319 = .ok (.goto (-60), 3) := dk_167 255 196 (dk_at dksX3_next_13 17 rfl rfl)
theorem dX3_next_322 : decode cX3_next 322 = .ok (.aload_n 0, 1) := dk_42 (dk_at dksX3_next_13 20 rfl rfl)
theorem dX3_next_323 : decode cX3_next 323 = .ok (.aload_n 0, 1) := dk_42 (dk_at dksX3_next_13 21 rfl rfl)
theorem dX3_next_324 : decode cX3_next 324 = .ok (.getfield 246, 3) := dk_180 0 246 (dk_at dksX3_next_14 0 rfl rfl)
theorem dX3_next_327 : decode cX3_next 327 = .ok (.aload_n 0, 1) := dk_42 (dk_at dksX3_next_14 3 rfl rfl)
theorem dX3_next_328 : decode cX3_next 328 = .ok (.getfield 249, 3) := dk_180 0 249 (dk_at dksX3_next_14 4 rfl rfl)
theorem dX3_next_331 : decode cX3_next 331 = .ok (.isub, 1) := dk_100 (dk_at dksX3_next_14 7 rfl rfl)
theorem dX3_next_332 : decode cX3_next 332 = .ok (.iconst 4, 1) := dk_7 (dk_at dksX3_next_14 8 rfl rfl)
theorem dX3_next_333 : decode cX3_next 333 = .ok (.if_icmp .gt 17, 3) := dk_163 0 17 (dk_at dksX3_next_14 9 rfl rfl)
theorem dX3_next_336 : decode cX3_next 336 = .ok (.aload_n 0, 1) := dk_42 (dk_at dksX3_next_14 12 rfl rfl)
theorem dX3_next_337 : decode cX3_next 337 = .ok (.aload_n 0, 1) := dk_42 (dk_at dksX3_next_14 13 rfl rfl)
theorem dX3_next_338 : decode cX3_next 338 = .ok (.getfield 246, 3) := dk_180 0 246 (dk_at dksX3_next_14 14 rfl rfl)
theorem dX3_next_341 : decode cX3_next 341 = .ok (.invokevirtual 252, 3) := dk_182 0 252 (dk_at dksX3_next_14 17 rfl rfl)
theorem dX3_next_344 : decode cX3_next 344 = .ok (.invokestatic 259, 3) := dk_184 1 3 (dk_at dksX3_next_14 20 rfl rfl)
theorem dX3_next_347 : decode cX3_next 347 = .ok (.ifCond .eq 7, 3) := dk_153 0 7 (dk_at dksX3_next_15 0 rfl rfl)
theorem dX3_next_350 : decode cX3_next 350 = .ok (.iconst 1, 1) := dk_4 (dk_at dksX3_next_15 3 rfl rfl)
theorem dX3_next_351 : decode cX3_next 351 = .ok (.goto 4, 3) := dk_167 0 4 (dk_at dksX3_next_15 4 rfl rfl)
theorem dX3_next_354 : decode cX3_next 354 = .ok (.iconst 4, 1) := dk_7 (dk_at dksX3_next_15 7 rfl rfl)
theorem dX3_next_355 : decode cX3_next 355 = .ok (.putfield 256, 3) := dk_181 1 0 (dk_at dksX3_next_15 8 rfl rfl)
theorem dX3_next_358 : decode cX3_next 358 = .ok (.goto 19, 3) := dk_167 0 19 (dk_at dksX3_next_15 11 rfl rfl)
theorem dX3_next_361 : decode cX3_next 361 = .ok (.aload_n 0, 1) := dk_42 (dk_at dksX3_next_15 14 rfl rfl)
theorem dX3_next_362 : decode cX3_next 362 = .ok (.iload_n 1, 1) := dk_27 (dk_at dksX3_next_15 15 rfl rfl)
theorem dX3_next_363 : decode cX3_next 363 = .ok (.invokestatic 277, 3) := dk_184 1 21 (dk_at dksX3_next_15 16 rfl rfl)
theorem dX3_next_366 : decode cX3_next 366 = .ok (.ifCond .eq 7, 3) := dk_153 0 7 (dk_at dksX3_next_15 19 rfl rfl)
theorem dX3_next_369 : decode cX3_next 369 = .ok (.iconst 5, 1) := dk_8 (dk_at dksX3_next_15 22 rfl rfl)
theorem dX3_next_370 : decode cX3_next 370 = .ok (.goto 4, 3) := dk_167 0 4 (dk_at dksX3_next_16 0 rfl rfl)
theorem dX3_next_373 : decode cX3_next 373 = .ok (.iconst 1, 1) := dk_4 (dk_at dksX3_next_16 3 rfl rfl)
theorem dX3_next_374 : decode cX3_next 374 = .ok (.putfield 256, 3) := dk_181 1 0 (dk_at dksX3_next_16 4 rfl rfl)
theorem dX3_next_377 : decode cX3_next 377 = .ok (.return_, 1) := dk_177 (dk_at dksX3_next_16 7 rfl rfl)
abbrev cX3_numeral : ByteArray := prog_24_method_14_code
def dkwX3_numeral_3 : List UInt8 := [182, 1, 28, 153, 0, 7, 29, 167, 0, 4, 27, 172]
abbrev dktX3_numeral_3 : List UInt8 := dkwX3_numeral_3 ++ []
def dkwX3_numeral_2 : List UInt8 := [42, 180, 0, 249, 182, 1, 24, 42, 180, 1, 18, 62, 42, 182, 1, 28, 153, 0, 7, 42, 182, 1, 32, 42]
abbrev dktX3_numeral_2 : List UInt8 := dkwX3_numeral_2 ++ dktX3_numeral_3
def dkwX3_numeral_1 : List UInt8 := [182, 1, 28, 153, 0, 28, 42, 180, 1, 18, 27, 161, 0, 11, 42, 180, 1, 18, 28, 164, 0, 12, 42, 7]
abbrev dktX3_numeral_1 : List UInt8 := dkwX3_numeral_1 ++ dktX3_numeral_2
def dkwX3_numeral_0 : List UInt8 := [42, 182, 1, 28, 154, 0, 5, 27, 172, 42, 180, 1, 0, 7, 159, 0, 7, 42, 182, 1, 35, 42]
abbrev dktX3_numeral_0 : List UInt8 := dkwX3_numeral_0 ++ dktX3_numeral_1
theorem dksX3_numeral_0 : cX3_numeral.data.toList.drop 0 = dktX3_numeral_0 := by decide +kernel
theorem dksX3_numeral_1 : cX3_numeral.data.toList.drop 22 = dktX3_numeral_1 := dk_seg dksX3_numeral_0 22 rfl rfl
theorem dksX3_numeral_2 : cX3_numeral.data.toList.drop 46 = dktX3_numeral_2 := dk_seg dksX3_numeral_1 24 rfl rfl
theorem dksX3_numeral_3 : cX3_numeral.data.toList.drop 70 = dktX3_numeral_3 := dk_seg dksX3_numeral_2 24 rfl rfl
theorem dX3_numeral_0 : decode cX3_numeral 0 = .ok (.aload_n 0, 1) := dk_42 (dk_at dksX3_numeral_0 0 rfl rfl)
theorem dX3_numeral_1 : decode cX3_numeral 1 = .ok (.invokevirtual 284, 3) := dk_182 1 28 (dk_at dksX3_numeral_0 1 rfl rfl)
theorem dX3_numeral_4 : decode cX3_numeral 4 = .ok (.ifCond .ne 5, 3) := dk_154 0 5 (dk_at dksX3_numeral_0 4 rfl rfl)
theorem dX3_numeral_7 : decode cX3_numeral 7 = .ok (.iload_n 1, 1) := dk_27 (dk_at dksX3_numeral_0 7 rfl rfl)
theorem dX3_numeral_8 : decode cX3_numeral 8 = .ok (.ireturn, 1) := dk_172 (dk_at dksX3_numeral_0 8 rfl rfl)
theorem dX3_numeral_9 : decode cX3_numeral 9 = .ok (.aload_n 0, 1) := dk_42 (dk_at dksX3_numeral_0 9 rfl rfl)
theorem dX3_numeral_10 : decode cX3_numeral 10 = .ok (.getfield 256, 3) := dk_180 1 0 (dk_at dksX3_numeral_0 10 rfl rfl)
theorem dX3_numeral_13 : decode cX3_numeral 13 = .ok (.iconst 4, 1) := dk_7 (dk_at dksX3_numeral_0 13 rfl rfl)
theorem dX3_numeral_14 : decode cX3_numeral 14 = .ok (.if_icmp .eq 7, 3) := dk_159 0 7 (dk_at dksX3_numeral_0 14 rfl rfl)
theorem dX3_numeral_17 : decode cX3_numeral 17 = .ok (.aload_n 0, 1) := dk_42 (dk_at dksX3_numeral_0 17 rfl rfl)
theorem dX3_numeral_18 : decode cX3_numeral 18 = .ok (.invokevirtual 291, 3) := dk_182 1 35 (dk_at dksX3_numeral_0 18 rfl rfl)
theorem dX3_numeral_21 : decode cX3_numeral 21 = .ok (.aload_n 0, 1) := dk_42 (dk_at dksX3_numeral_0 21 rfl rfl)
theorem dX3_numeral_22 : decode cX3_numeral 22 = .ok (.invokevirtual 284, 3) := dk_182 1 28 (dk_at dksX3_numeral_1 0 rfl rfl)
theorem dX3_numeral_25 : decode cX3_numeral 25 = .ok (.ifCond .eq 28, 3) := dk_153 0 28 (dk_at dksX3_numeral_1 3 rfl rfl)
theorem dX3_numeral_28 : decode cX3_numeral 28 = .ok (.aload_n 0, 1) := dk_42 (dk_at dksX3_numeral_1 6 rfl rfl)
theorem dX3_numeral_29 : decode cX3_numeral 29 = .ok (.getfield 274, 3) := dk_180 1 18 (dk_at dksX3_numeral_1 7 rfl rfl)
theorem dX3_numeral_32 : decode cX3_numeral 32 = .ok (.iload_n 1, 1) := dk_27 (dk_at dksX3_numeral_1 10 rfl rfl)
theorem dX3_numeral_33 : decode cX3_numeral 33 = .ok (.if_icmp .lt 11, 3) := dk_161 0 11 (dk_at dksX3_numeral_1 11 rfl rfl)
theorem dX3_numeral_36 : decode cX3_numeral 36 = .ok (.aload_n 0, 1) := dk_42 (dk_at dksX3_numeral_1 14 rfl rfl)
theorem dX3_numeral_37 : decode cX3_numeral 37 = .ok (.getfield 274, 3) := dk_180 1 18 (dk_at dksX3_numeral_1 15 rfl rfl)
theorem dX3_numeral_40 : decode cX3_numeral 40 = .ok (.iload_n 2, 1) := dk_28 (dk_at dksX3_numeral_1 18 rfl rfl)
theorem dX3_numeral_41 : decode cX3_numeral 41 = .ok (.if_icmp .le 12, 3) := dk_164 0 12 (dk_at dksX3_numeral_1 19 rfl rfl)
theorem dX3_numeral_44 : decode cX3_numeral 44 = .ok (.aload_n 0, 1) := dk_42 (dk_at dksX3_numeral_1 22 rfl rfl)
theorem dX3_numeral_45 : decode cX3_numeral 45 = .ok (.iconst 4, 1) := dk_7 (dk_at dksX3_numeral_1 23 rfl rfl)
theorem dX3_numeral_46 : decode cX3_numeral 46 = .ok (.aload_n 0, 1) := dk_42 (dk_at dksX3_numeral_2 0 rfl rfl)
theorem dX3_numeral_47 : decode cX3_numeral 47 = .ok (.getfield 249, 3) := dk_180 0 249 (dk_at dksX3_numeral_2 1 rfl rfl)
theorem dX3_numeral_50 : decode cX3_numeral 50 = .ok (.invokevirtual 280, 3) := dk_182 1 24 (dk_at dksX3_numeral_2 4 rfl rfl)
theorem dX3_numeral_53 : decode cX3_numeral 53 = .ok (.aload_n 0, 1) := dk_42 (dk_at dksX3_numeral_2 7 rfl rfl)
theorem dX3_numeral_54 : decode cX3_numeral 54 = .ok (.getfield 274, 3) := dk_180 1 18 (dk_at dksX3_numeral_2 8 rfl rfl)
theorem dX3_numeral_57 : decode cX3_numeral 57 = .ok (.istore_n 3, 1) := dk_62 (dk_at dksX3_numeral_2 11 rfl rfl)
theorem dX3_numeral_58 : decode cX3_numeral 58 = .ok (.aload_n 0, 1) := dk_42 (dk_at dksX3_numeral_2 12 rfl rfl)
theorem dX3_numeral_59 : decode cX3_numeral 59 = .ok (.invokevirtual 284, 3) := dk_182 1 28 (dk_at dksX3_numeral_2 13 rfl rfl)
theorem dX3_numeral_62 : decode cX3_numeral 62 = .ok (.ifCond .eq 7, 3) := dk_153 0 7 (dk_at dksX3_numeral_2 16 rfl rfl)
theorem dX3_numeral_65 : decode cX3_numeral 65 = .ok (.aload_n 0, 1) := dk_42 (dk_at dksX3_numeral_2 19 rfl rfl)
theorem dX3_numeral_66 : decode cX3_numeral 66 = .ok (.invokevirtual 288, 3) := dk_182 1 32 (dk_at dksX3_numeral_2 20 rfl rfl)
theorem dX3_numeral_69 : decode cX3_numeral 69 = .ok (.aload_n 0, 1) := dk_42 (dk_at dksX3_numeral_2 23 rfl rfl)
theorem dX3_numeral_70 : decode cX3_numeral 70 = .ok (.invokevirtual 284, 3) := dk_182 1 28 (dk_at dksX3_numeral_3 0 rfl rfl)
theorem dX3_numeral_73 : decode cX3_numeral 73 = .ok (.ifCond .eq 7, 3) := dk_153 0 7 (dk_at dksX3_numeral_3 3 rfl rfl)
theorem dX3_numeral_76 : decode cX3_numeral 76 = .ok (.iload_n 3, 1) := dk_29 (dk_at dksX3_numeral_3 6 rfl rfl)
theorem dX3_numeral_77 : decode cX3_numeral 77 = .ok (.goto 4, 3) := dk_167 0 4 (dk_at dksX3_numeral_3 7 rfl rfl)
theorem dX3_numeral_80 : decode cX3_numeral 80 = .ok (.iload_n 1, 1) := dk_27 (dk_at dksX3_numeral_3 10 rfl rfl)
theorem dX3_numeral_81 : decode cX3_numeral 81 = .ok (.ireturn, 1) := dk_172 (dk_at dksX3_numeral_3 11 rfl rfl)
abbrev cX3_overOf : ByteArray := prog_24_method_71_code
def dkwX3_overOf_5 : List UInt8 := [172]
abbrev dktX3_overOf_5 : List UInt8 := dkwX3_overOf_5 ++ []
def dkwX3_overOf_4 : List UInt8 := [104, 42, 180, 0, 116, 29, 46, 108, 54, 4, 21, 4, 16, 99, 164, 0, 8, 16, 99, 167, 0, 5, 21, 4]
abbrev dktX3_overOf_4 : List UInt8 := dkwX3_overOf_4 ++ dktX3_overOf_5
def dkwX3_overOf_3 : List UInt8 := [180, 0, 116, 29, 46, 154, 0, 6, 16, 99, 172, 42, 28, 182, 1, 251, 42, 3, 27, 182, 1, 255, 16, 10]
abbrev dktX3_overOf_3 : List UInt8 := dkwX3_overOf_3 ++ dktX3_overOf_4
def dkwX3_overOf_2 : List UInt8 := [46, 42, 180, 0, 113, 29, 46, 161, 0, 6, 21, 4, 62, 132, 4, 1, 167, 255, 199, 29, 155, 0, 12, 42]
abbrev dktX3_overOf_2 : List UInt8 := dkwX3_overOf_2 ++ dktX3_overOf_3
def dkwX3_overOf_1 : List UInt8 := [153, 0, 37, 42, 180, 0, 113, 21, 4, 46, 27, 163, 0, 26, 29, 155, 0, 19, 42, 180, 0, 113, 21, 4]
abbrev dktX3_overOf_1 : List UInt8 := dkwX3_overOf_1 ++ dktX3_overOf_2
def dkwX3_overOf_0 : List UInt8 := [2, 62, 3, 54, 4, 21, 4, 42, 180, 1, 53, 162, 0, 54, 42, 21, 4, 4, 28, 182, 1, 248]
abbrev dktX3_overOf_0 : List UInt8 := dkwX3_overOf_0 ++ dktX3_overOf_1
theorem dksX3_overOf_0 : cX3_overOf.data.toList.drop 0 = dktX3_overOf_0 := by decide +kernel
theorem dksX3_overOf_1 : cX3_overOf.data.toList.drop 22 = dktX3_overOf_1 := dk_seg dksX3_overOf_0 22 rfl rfl
theorem dksX3_overOf_2 : cX3_overOf.data.toList.drop 46 = dktX3_overOf_2 := dk_seg dksX3_overOf_1 24 rfl rfl
theorem dksX3_overOf_3 : cX3_overOf.data.toList.drop 70 = dktX3_overOf_3 := dk_seg dksX3_overOf_2 24 rfl rfl
theorem dksX3_overOf_4 : cX3_overOf.data.toList.drop 94 = dktX3_overOf_4 := dk_seg dksX3_overOf_3 24 rfl rfl
theorem dksX3_overOf_5 : cX3_overOf.data.toList.drop 118 = dktX3_overOf_5 := dk_seg dksX3_overOf_4 24 rfl rfl
theorem dX3_overOf_0 : decode cX3_overOf 0 = .ok (.iconst (-1), 1) := dk_2 (dk_at dksX3_overOf_0 0 rfl rfl)
theorem dX3_overOf_1 : decode cX3_overOf 1 = .ok (.istore_n 3, 1) := dk_62 (dk_at dksX3_overOf_0 1 rfl rfl)
theorem dX3_overOf_2 : decode cX3_overOf 2 = .ok (.iconst 0, 1) := dk_3 (dk_at dksX3_overOf_0 2 rfl rfl)
theorem dX3_overOf_3 : decode cX3_overOf 3 = .ok (.istore 4, 2) := dk_54 4 (dk_at dksX3_overOf_0 3 rfl rfl)
theorem dX3_overOf_5 : decode cX3_overOf 5 = .ok (.iload 4, 2) := dk_21 4 (dk_at dksX3_overOf_0 5 rfl rfl)
theorem dX3_overOf_7 : decode cX3_overOf 7 = .ok (.aload_n 0, 1) := dk_42 (dk_at dksX3_overOf_0 7 rfl rfl)
theorem dX3_overOf_8 : decode cX3_overOf 8 = .ok (.getfield 309, 3) := dk_180 1 53 (dk_at dksX3_overOf_0 8 rfl rfl)
theorem dX3_overOf_11 : decode cX3_overOf 11 = .ok (.if_icmp .ge 54, 3) := dk_162 0 54 (dk_at dksX3_overOf_0 11 rfl rfl)
theorem dX3_overOf_14 : decode cX3_overOf 14 = .ok (.aload_n 0, 1) := dk_42 (dk_at dksX3_overOf_0 14 rfl rfl)
theorem dX3_overOf_15 : decode cX3_overOf 15 = .ok (.iload 4, 2) := dk_21 4 (dk_at dksX3_overOf_0 15 rfl rfl)
theorem dX3_overOf_17 : decode cX3_overOf 17 = .ok (.iconst 1, 1) := dk_4 (dk_at dksX3_overOf_0 17 rfl rfl)
theorem dX3_overOf_18 : decode cX3_overOf 18 = .ok (.iload_n 2, 1) := dk_28 (dk_at dksX3_overOf_0 18 rfl rfl)
theorem dX3_overOf_19 : decode cX3_overOf 19 = .ok (.invokevirtual 504, 3) := dk_182 1 248 (dk_at dksX3_overOf_0 19 rfl rfl)
theorem dX3_overOf_22 : decode cX3_overOf 22 = .ok (.ifCond .eq 37, 3) := dk_153 0 37 (dk_at dksX3_overOf_1 0 rfl rfl)
theorem dX3_overOf_25 : decode cX3_overOf 25 = .ok (.aload_n 0, 1) := dk_42 (dk_at dksX3_overOf_1 3 rfl rfl)
theorem dX3_overOf_26 : decode cX3_overOf 26 = .ok (.getfield 113, 3) := dk_180 0 113 (dk_at dksX3_overOf_1 4 rfl rfl)
theorem dX3_overOf_29 : decode cX3_overOf 29 = .ok (.iload 4, 2) := dk_21 4 (dk_at dksX3_overOf_1 7 rfl rfl)
theorem dX3_overOf_31 : decode cX3_overOf 31 = .ok (.iaload, 1) := dk_46 (dk_at dksX3_overOf_1 9 rfl rfl)
theorem dX3_overOf_32 : decode cX3_overOf 32 = .ok (.iload_n 1, 1) := dk_27 (dk_at dksX3_overOf_1 10 rfl rfl)
theorem dX3_overOf_33 : decode cX3_overOf 33 = .ok (.if_icmp .gt 26, 3) := dk_163 0 26 (dk_at dksX3_overOf_1 11 rfl rfl)
theorem dX3_overOf_36 : decode cX3_overOf 36 = .ok (.iload_n 3, 1) := dk_29 (dk_at dksX3_overOf_1 14 rfl rfl)
theorem dX3_overOf_37 : decode cX3_overOf 37 = .ok (.ifCond .lt 19, 3) := dk_155 0 19 (dk_at dksX3_overOf_1 15 rfl rfl)
theorem dX3_overOf_40 : decode cX3_overOf 40 = .ok (.aload_n 0, 1) := dk_42 (dk_at dksX3_overOf_1 18 rfl rfl)
theorem dX3_overOf_41 : decode cX3_overOf 41 = .ok (.getfield 113, 3) := dk_180 0 113 (dk_at dksX3_overOf_1 19 rfl rfl)
theorem dX3_overOf_44 : decode cX3_overOf 44 = .ok (.iload 4, 2) := dk_21 4 (dk_at dksX3_overOf_1 22 rfl rfl)
theorem dX3_overOf_46 : decode cX3_overOf 46 = .ok (.iaload, 1) := dk_46 (dk_at dksX3_overOf_2 0 rfl rfl)
theorem dX3_overOf_47 : decode cX3_overOf 47 = .ok (.aload_n 0, 1) := dk_42 (dk_at dksX3_overOf_2 1 rfl rfl)
theorem dX3_overOf_48 : decode cX3_overOf 48 = .ok (.getfield 113, 3) := dk_180 0 113 (dk_at dksX3_overOf_2 2 rfl rfl)
theorem dX3_overOf_51 : decode cX3_overOf 51 = .ok (.iload_n 3, 1) := dk_29 (dk_at dksX3_overOf_2 5 rfl rfl)
theorem dX3_overOf_52 : decode cX3_overOf 52 = .ok (.iaload, 1) := dk_46 (dk_at dksX3_overOf_2 6 rfl rfl)
theorem dX3_overOf_53 : decode cX3_overOf 53 = .ok (.if_icmp .lt 6, 3) := dk_161 0 6 (dk_at dksX3_overOf_2 7 rfl rfl)
theorem dX3_overOf_56 : decode cX3_overOf 56 = .ok (.iload 4, 2) := dk_21 4 (dk_at dksX3_overOf_2 10 rfl rfl)
theorem dX3_overOf_58 : decode cX3_overOf 58 = .ok (.istore_n 3, 1) := dk_62 (dk_at dksX3_overOf_2 12 rfl rfl)
theorem dX3_overOf_59 : decode cX3_overOf 59 = .ok (.iinc 4 1, 3) := dk_132 4 1 (dk_at dksX3_overOf_2 13 rfl rfl)
theorem dX3_overOf_62 : decode cX3_overOf 62 = .ok (.goto (-57), 3) := dk_167 255 199 (dk_at dksX3_overOf_2 16 rfl rfl)
theorem dX3_overOf_65 : decode cX3_overOf 65 = .ok (.iload_n 3, 1) := dk_29 (dk_at dksX3_overOf_2 19 rfl rfl)
theorem dX3_overOf_66 : decode cX3_overOf 66 = .ok (.ifCond .lt 12, 3) := dk_155 0 12 (dk_at dksX3_overOf_2 20 rfl rfl)
theorem dX3_overOf_69 : decode cX3_overOf 69 = .ok (.aload_n 0, 1) := dk_42 (dk_at dksX3_overOf_2 23 rfl rfl)
theorem dX3_overOf_70 : decode cX3_overOf 70 = .ok (.getfield 116, 3) := dk_180 0 116 (dk_at dksX3_overOf_3 0 rfl rfl)
theorem dX3_overOf_73 : decode cX3_overOf 73 = .ok (.iload_n 3, 1) := dk_29 (dk_at dksX3_overOf_3 3 rfl rfl)
theorem dX3_overOf_74 : decode cX3_overOf 74 = .ok (.iaload, 1) := dk_46 (dk_at dksX3_overOf_3 4 rfl rfl)
theorem dX3_overOf_75 : decode cX3_overOf 75 = .ok (.ifCond .ne 6, 3) := dk_154 0 6 (dk_at dksX3_overOf_3 5 rfl rfl)
theorem dX3_overOf_78 : decode cX3_overOf 78 = .ok (.bipush 99, 2) := dk_16 99 (dk_at dksX3_overOf_3 8 rfl rfl)
theorem dX3_overOf_80 : decode cX3_overOf 80 = .ok (.ireturn, 1) := dk_172 (dk_at dksX3_overOf_3 10 rfl rfl)
theorem dX3_overOf_81 : decode cX3_overOf 81 = .ok (.aload_n 0, 1) := dk_42 (dk_at dksX3_overOf_3 11 rfl rfl)
theorem dX3_overOf_82 : decode cX3_overOf 82 = .ok (.iload_n 2, 1) := dk_28 (dk_at dksX3_overOf_3 12 rfl rfl)
theorem dX3_overOf_83 : decode cX3_overOf 83 = .ok (.invokevirtual 507, 3) := dk_182 1 251 (dk_at dksX3_overOf_3 13 rfl rfl)
theorem dX3_overOf_86 : decode cX3_overOf 86 = .ok (.aload_n 0, 1) := dk_42 (dk_at dksX3_overOf_3 16 rfl rfl)
theorem dX3_overOf_87 : decode cX3_overOf 87 = .ok (.iconst 0, 1) := dk_3 (dk_at dksX3_overOf_3 17 rfl rfl)
theorem dX3_overOf_88 : decode cX3_overOf 88 = .ok (.iload_n 1, 1) := dk_27 (dk_at dksX3_overOf_3 18 rfl rfl)
theorem dX3_overOf_89 : decode cX3_overOf 89 = .ok (.invokevirtual 511, 3) := dk_182 1 255 (dk_at dksX3_overOf_3 19 rfl rfl)
theorem dX3_overOf_92 : decode cX3_overOf 92 = .ok (.bipush 10, 2) := dk_16 10 (dk_at dksX3_overOf_3 22 rfl rfl)
theorem dX3_overOf_94 : decode cX3_overOf 94 = .ok (.imul, 1) := dk_104 (dk_at dksX3_overOf_4 0 rfl rfl)
theorem dX3_overOf_95 : decode cX3_overOf 95 = .ok (.aload_n 0, 1) := dk_42 (dk_at dksX3_overOf_4 1 rfl rfl)
theorem dX3_overOf_96 : decode cX3_overOf 96 = .ok (.getfield 116, 3) := dk_180 0 116 (dk_at dksX3_overOf_4 2 rfl rfl)
theorem dX3_overOf_99 : decode cX3_overOf 99 = .ok (.iload_n 3, 1) := dk_29 (dk_at dksX3_overOf_4 5 rfl rfl)
theorem dX3_overOf_100 : decode cX3_overOf 100 = .ok (.iaload, 1) := dk_46 (dk_at dksX3_overOf_4 6 rfl rfl)
theorem dX3_overOf_101 : decode cX3_overOf 101 = .ok (.idiv, 1) := dk_108 (dk_at dksX3_overOf_4 7 rfl rfl)
theorem dX3_overOf_102 : decode cX3_overOf 102 = .ok (.istore 4, 2) := dk_54 4 (dk_at dksX3_overOf_4 8 rfl rfl)
theorem dX3_overOf_104 : decode cX3_overOf 104 = .ok (.iload 4, 2) := dk_21 4 (dk_at dksX3_overOf_4 10 rfl rfl)
theorem dX3_overOf_106 : decode cX3_overOf 106 = .ok (.bipush 99, 2) := dk_16 99 (dk_at dksX3_overOf_4 12 rfl rfl)
theorem dX3_overOf_108 : decode cX3_overOf 108 = .ok (.if_icmp .le 8, 3) := dk_164 0 8 (dk_at dksX3_overOf_4 14 rfl rfl)
theorem dX3_overOf_111 : decode cX3_overOf 111 = .ok (.bipush 99, 2) := dk_16 99 (dk_at dksX3_overOf_4 17 rfl rfl)
theorem dX3_overOf_113 : decode cX3_overOf 113 = .ok (.goto 5, 3) := dk_167 0 5 (dk_at dksX3_overOf_4 19 rfl rfl)
theorem dX3_overOf_116 : decode cX3_overOf 116 = .ok (.iload 4, 2) := dk_21 4 (dk_at dksX3_overOf_4 22 rfl rfl)
theorem dX3_overOf_118 : decode cX3_overOf 118 = .ok (.ireturn, 1) := dk_172 (dk_at dksX3_overOf_5 0 rfl rfl)
abbrev cX3_over : ByteArray := prog_24_method_72_code
def dkwX3_over_0 : List UInt8 := [27, 184, 1, 239, 153, 0, 12, 42, 27, 28, 182, 2, 2, 167, 0, 4, 2, 172]
abbrev dktX3_over_0 : List UInt8 := dkwX3_over_0 ++ []
theorem dksX3_over_0 : cX3_over.data.toList.drop 0 = dktX3_over_0 := by decide +kernel
theorem dX3_over_0 : decode cX3_over 0 = .ok (.iload_n 1, 1) := dk_27 (dk_at dksX3_over_0 0 rfl rfl)
theorem dX3_over_1 : decode cX3_over 1 = .ok (.invokestatic 495, 3) := dk_184 1 239 (dk_at dksX3_over_0 1 rfl rfl)
theorem dX3_over_4 : decode cX3_over 4 = .ok (.ifCond .eq 12, 3) := dk_153 0 12 (dk_at dksX3_over_0 4 rfl rfl)
theorem dX3_over_7 : decode cX3_over 7 = .ok (.aload_n 0, 1) := dk_42 (dk_at dksX3_over_0 7 rfl rfl)
theorem dX3_over_8 : decode cX3_over 8 = .ok (.iload_n 1, 1) := dk_27 (dk_at dksX3_over_0 8 rfl rfl)
theorem dX3_over_9 : decode cX3_over 9 = .ok (.iload_n 2, 1) := dk_28 (dk_at dksX3_over_0 9 rfl rfl)
theorem dX3_over_10 : decode cX3_over 10 = .ok (.invokevirtual 514, 3) := dk_182 2 2 (dk_at dksX3_over_0 10 rfl rfl)
theorem dX3_over_13 : decode cX3_over 13 = .ok (.goto 4, 3) := dk_167 0 4 (dk_at dksX3_over_0 13 rfl rfl)
theorem dX3_over_16 : decode cX3_over 16 = .ok (.iconst (-1), 1) := dk_2 (dk_at dksX3_over_0 16 rfl rfl)
theorem dX3_over_17 : decode cX3_over 17 = .ok (.ireturn, 1) := dk_172 (dk_at dksX3_over_0 17 rfl rfl)
abbrev cX3_paid : ByteArray := prog_24_method_102_code
def dkwX3_paid_2 : List UInt8 := [167, 0, 4, 3, 172]
abbrev dktX3_paid_2 : List UInt8 := dkwX3_paid_2 ++ []
def dkwX3_paid_1 : List UInt8 := [167, 0, 5, 21, 4, 21, 5, 156, 0, 7, 3, 167, 0, 5, 21, 5, 184, 2, 82, 51, 153, 0, 7, 4]
abbrev dktX3_paid_1 : List UInt8 := dkwX3_paid_1 ++ dktX3_paid_2
def dkwX3_paid_0 : List UInt8 := [21, 4, 155, 0, 48, 21, 5, 155, 0, 43, 42, 180, 0, 169, 27, 28, 29, 21, 4, 156, 0, 7, 3]
abbrev dktX3_paid_0 : List UInt8 := dkwX3_paid_0 ++ dktX3_paid_1
theorem dksX3_paid_0 : cX3_paid.data.toList.drop 0 = dktX3_paid_0 := by decide +kernel
theorem dksX3_paid_1 : cX3_paid.data.toList.drop 23 = dktX3_paid_1 := dk_seg dksX3_paid_0 23 rfl rfl
theorem dksX3_paid_2 : cX3_paid.data.toList.drop 47 = dktX3_paid_2 := dk_seg dksX3_paid_1 24 rfl rfl
theorem dX3_paid_0 : decode cX3_paid 0 = .ok (.iload 4, 2) := dk_21 4 (dk_at dksX3_paid_0 0 rfl rfl)
theorem dX3_paid_2 : decode cX3_paid 2 = .ok (.ifCond .lt 48, 3) := dk_155 0 48 (dk_at dksX3_paid_0 2 rfl rfl)
theorem dX3_paid_5 : decode cX3_paid 5 = .ok (.iload 5, 2) := dk_21 5 (dk_at dksX3_paid_0 5 rfl rfl)
theorem dX3_paid_7 : decode cX3_paid 7 = .ok (.ifCond .lt 43, 3) := dk_155 0 43 (dk_at dksX3_paid_0 7 rfl rfl)
theorem dX3_paid_10 : decode cX3_paid 10 = .ok (.aload_n 0, 1) := dk_42 (dk_at dksX3_paid_0 10 rfl rfl)
theorem dX3_paid_11 : decode cX3_paid 11 = .ok (.getfield 169, 3) := dk_180 0 169 (dk_at dksX3_paid_0 11 rfl rfl)
theorem dX3_paid_14 : decode cX3_paid 14 = .ok (.iload_n 1, 1) := dk_27 (dk_at dksX3_paid_0 14 rfl rfl)
theorem dX3_paid_15 : decode cX3_paid 15 = .ok (.iload_n 2, 1) := dk_28 (dk_at dksX3_paid_0 15 rfl rfl)
theorem dX3_paid_16 : decode cX3_paid 16 = .ok (.iload_n 3, 1) := dk_29 (dk_at dksX3_paid_0 16 rfl rfl)
theorem dX3_paid_17 : decode cX3_paid 17 = .ok (.iload 4, 2) := dk_21 4 (dk_at dksX3_paid_0 17 rfl rfl)
theorem dX3_paid_19 : decode cX3_paid 19 = .ok (.ifCond .ge 7, 3) := dk_156 0 7 (dk_at dksX3_paid_0 19 rfl rfl)
theorem dX3_paid_22 : decode cX3_paid 22 = .ok (.iconst 0, 1) := dk_3 (dk_at dksX3_paid_0 22 rfl rfl)
theorem dX3_paid_23 : decode cX3_paid 23 = .ok (.goto 5, 3) := dk_167 0 5 (dk_at dksX3_paid_1 0 rfl rfl)
theorem dX3_paid_26 : decode cX3_paid 26 = .ok (.iload 4, 2) := dk_21 4 (dk_at dksX3_paid_1 3 rfl rfl)
theorem dX3_paid_28 : decode cX3_paid 28 = .ok (.iload 5, 2) := dk_21 5 (dk_at dksX3_paid_1 5 rfl rfl)
theorem dX3_paid_30 : decode cX3_paid 30 = .ok (.ifCond .ge 7, 3) := dk_156 0 7 (dk_at dksX3_paid_1 7 rfl rfl)
theorem dX3_paid_33 : decode cX3_paid 33 = .ok (.iconst 0, 1) := dk_3 (dk_at dksX3_paid_1 10 rfl rfl)
theorem dX3_paid_34 : decode cX3_paid 34 = .ok (.goto 5, 3) := dk_167 0 5 (dk_at dksX3_paid_1 11 rfl rfl)
theorem dX3_paid_37 : decode cX3_paid 37 = .ok (.iload 5, 2) := dk_21 5 (dk_at dksX3_paid_1 14 rfl rfl)
theorem dX3_paid_39 : decode cX3_paid 39 = .ok (.invokestatic 594, 3) := dk_184 2 82 (dk_at dksX3_paid_1 16 rfl rfl)
theorem dX3_paid_42 : decode cX3_paid 42 = .ok (.baload, 1) := dk_51 (dk_at dksX3_paid_1 19 rfl rfl)
theorem dX3_paid_43 : decode cX3_paid 43 = .ok (.ifCond .eq 7, 3) := dk_153 0 7 (dk_at dksX3_paid_1 20 rfl rfl)
theorem dX3_paid_46 : decode cX3_paid 46 = .ok (.iconst 1, 1) := dk_4 (dk_at dksX3_paid_1 23 rfl rfl)
theorem dX3_paid_47 : decode cX3_paid 47 = .ok (.goto 4, 3) := dk_167 0 4 (dk_at dksX3_paid_2 0 rfl rfl)
theorem dX3_paid_50 : decode cX3_paid 50 = .ok (.iconst 0, 1) := dk_3 (dk_at dksX3_paid_2 3 rfl rfl)
theorem dX3_paid_51 : decode cX3_paid 51 = .ok (.ireturn, 1) := dk_172 (dk_at dksX3_paid_2 4 rfl rfl)
abbrev cX3_partNamed : ByteArray := prog_24_method_20_code
def dkwX3_partNamed_4 : List UInt8 := [42, 16, 6, 42, 180, 0, 249, 182, 1, 24, 42, 182, 1, 28, 153, 0, 7, 42, 182, 1, 32, 28, 172]
abbrev dktX3_partNamed_4 : List UInt8 := dkwX3_partNamed_4 ++ []
def dkwX3_partNamed_3 : List UInt8 := [167, 0, 34, 28, 156, 0, 15, 42, 8, 42, 180, 0, 249, 182, 1, 24, 167, 0, 18, 28, 27, 160, 0, 13]
abbrev dktX3_partNamed_3 : List UInt8 := dkwX3_partNamed_3 ++ dktX3_partNamed_4
def dkwX3_partNamed_2 : List UInt8 := [154, 0, 5, 29, 61, 132, 3, 1, 167, 255, 216, 42, 180, 1, 0, 5, 159, 0, 10, 42, 182, 1, 35]
abbrev dktX3_partNamed_2 : List UInt8 := dkwX3_partNamed_2 ++ dktX3_partNamed_3
def dkwX3_partNamed_1 : List UInt8 := [162, 0, 33, 42, 180, 0, 79, 16, 12, 42, 180, 1, 47, 104, 29, 96, 47, 42, 180, 1, 7, 148]
abbrev dktX3_partNamed_1 : List UInt8 := dkwX3_partNamed_1 ++ dktX3_partNamed_2
def dkwX3_partNamed_0 : List UInt8 := [42, 182, 1, 28, 154, 0, 5, 3, 172, 2, 61, 3, 62, 29, 42, 180, 0, 24, 42, 180, 1, 47, 46]
abbrev dktX3_partNamed_0 : List UInt8 := dkwX3_partNamed_0 ++ dktX3_partNamed_1
theorem dksX3_partNamed_0 : cX3_partNamed.data.toList.drop 0 = dktX3_partNamed_0 := by decide +kernel
theorem dksX3_partNamed_1 : cX3_partNamed.data.toList.drop 23 = dktX3_partNamed_1 := dk_seg dksX3_partNamed_0 23 rfl rfl
theorem dksX3_partNamed_2 : cX3_partNamed.data.toList.drop 45 = dktX3_partNamed_2 := dk_seg dksX3_partNamed_1 22 rfl rfl
theorem dksX3_partNamed_3 : cX3_partNamed.data.toList.drop 68 = dktX3_partNamed_3 := dk_seg dksX3_partNamed_2 23 rfl rfl
theorem dksX3_partNamed_4 : cX3_partNamed.data.toList.drop 92 = dktX3_partNamed_4 := dk_seg dksX3_partNamed_3 24 rfl rfl
theorem dX3_partNamed_0 : decode cX3_partNamed 0 = .ok (.aload_n 0, 1) := dk_42 (dk_at dksX3_partNamed_0 0 rfl rfl)
theorem dX3_partNamed_1 : decode cX3_partNamed 1 = .ok (.invokevirtual 284, 3) := dk_182 1 28 (dk_at dksX3_partNamed_0 1 rfl rfl)
theorem dX3_partNamed_4 : decode cX3_partNamed 4 = .ok (.ifCond .ne 5, 3) := dk_154 0 5 (dk_at dksX3_partNamed_0 4 rfl rfl)
theorem dX3_partNamed_7 : decode cX3_partNamed 7 = .ok (.iconst 0, 1) := dk_3 (dk_at dksX3_partNamed_0 7 rfl rfl)
theorem dX3_partNamed_8 : decode cX3_partNamed 8 = .ok (.ireturn, 1) := dk_172 (dk_at dksX3_partNamed_0 8 rfl rfl)
theorem dX3_partNamed_9 : decode cX3_partNamed 9 = .ok (.iconst (-1), 1) := dk_2 (dk_at dksX3_partNamed_0 9 rfl rfl)
theorem dX3_partNamed_10 : decode cX3_partNamed 10 = .ok (.istore_n 2, 1) := dk_61 (dk_at dksX3_partNamed_0 10 rfl rfl)
theorem dX3_partNamed_11 : decode cX3_partNamed 11 = .ok (.iconst 0, 1) := dk_3 (dk_at dksX3_partNamed_0 11 rfl rfl)
theorem dX3_partNamed_12 : decode cX3_partNamed 12 = .ok (.istore_n 3, 1) := dk_62 (dk_at dksX3_partNamed_0 12 rfl rfl)
theorem dX3_partNamed_13 : decode cX3_partNamed 13 = .ok (.iload_n 3, 1) := dk_29 (dk_at dksX3_partNamed_0 13 rfl rfl)
theorem dX3_partNamed_14 : decode cX3_partNamed 14 = .ok (.aload_n 0, 1) := dk_42 (dk_at dksX3_partNamed_0 14 rfl rfl)
theorem dX3_partNamed_15 : decode cX3_partNamed 15 = .ok (.getfield 24, 3) := dk_180 0 24 (dk_at dksX3_partNamed_0 15 rfl rfl)
theorem dX3_partNamed_18 : decode cX3_partNamed 18 = .ok (.aload_n 0, 1) := dk_42 (dk_at dksX3_partNamed_0 18 rfl rfl)
theorem dX3_partNamed_19 : decode cX3_partNamed 19 = .ok (.getfield 303, 3) := dk_180 1 47 (dk_at dksX3_partNamed_0 19 rfl rfl)
theorem dX3_partNamed_22 : decode cX3_partNamed 22 = .ok (.iaload, 1) := dk_46 (dk_at dksX3_partNamed_0 22 rfl rfl)
theorem dX3_partNamed_23 : decode cX3_partNamed 23 = .ok (.if_icmp .ge 33, 3) := dk_162 0 33 (dk_at dksX3_partNamed_1 0 rfl rfl)
theorem dX3_partNamed_26 : decode cX3_partNamed 26 = .ok (.aload_n 0, 1) := dk_42 (dk_at dksX3_partNamed_1 3 rfl rfl)
theorem dX3_partNamed_27 : decode cX3_partNamed 27 = .ok (.getfield 79, 3) := dk_180 0 79 (dk_at dksX3_partNamed_1 4 rfl rfl)
theorem dX3_partNamed_30 : decode cX3_partNamed 30 = .ok (.bipush 12, 2) := dk_16 12 (dk_at dksX3_partNamed_1 7 rfl rfl)
theorem dX3_partNamed_32 : decode cX3_partNamed 32 = .ok (.aload_n 0, 1) := dk_42 (dk_at dksX3_partNamed_1 9 rfl rfl)
theorem dX3_partNamed_33 : decode cX3_partNamed 33 = .ok (.getfield 303, 3) := dk_180 1 47 (dk_at dksX3_partNamed_1 10 rfl rfl)
theorem dX3_partNamed_36 : decode cX3_partNamed 36 = .ok (.imul, 1) := dk_104 (dk_at dksX3_partNamed_1 13 rfl rfl)
theorem dX3_partNamed_37 : decode cX3_partNamed 37 = .ok (.iload_n 3, 1) := dk_29 (dk_at dksX3_partNamed_1 14 rfl rfl)
theorem dX3_partNamed_38 : decode cX3_partNamed 38 = .ok (.iadd, 1) := dk_96 (dk_at dksX3_partNamed_1 15 rfl rfl)
theorem dX3_partNamed_39 : decode cX3_partNamed 39 = .ok (.laload, 1) := dk_47 (dk_at dksX3_partNamed_1 16 rfl rfl)
theorem dX3_partNamed_40 : decode cX3_partNamed 40 = .ok (.aload_n 0, 1) := dk_42 (dk_at dksX3_partNamed_1 17 rfl rfl)
theorem dX3_partNamed_41 : decode cX3_partNamed 41 = .ok (.getfield 263, 3) := dk_180 1 7 (dk_at dksX3_partNamed_1 18 rfl rfl)
theorem dX3_partNamed_44 : decode cX3_partNamed 44 = .ok (.lcmp, 1) := dk_148 (dk_at dksX3_partNamed_1 21 rfl rfl)
theorem dX3_partNamed_45 : decode cX3_partNamed 45 = .ok (.ifCond .ne 5, 3) := dk_154 0 5 (dk_at dksX3_partNamed_2 0 rfl rfl)
theorem dX3_partNamed_48 : decode cX3_partNamed 48 = .ok (.iload_n 3, 1) := dk_29 (dk_at dksX3_partNamed_2 3 rfl rfl)
theorem dX3_partNamed_49 : decode cX3_partNamed 49 = .ok (.istore_n 2, 1) := dk_61 (dk_at dksX3_partNamed_2 4 rfl rfl)
theorem dX3_partNamed_50 : decode cX3_partNamed 50 = .ok (.iinc 3 1, 3) := dk_132 3 1 (dk_at dksX3_partNamed_2 5 rfl rfl)
theorem dX3_partNamed_53 : decode cX3_partNamed 53 = .ok (.goto (-40), 3) := dk_167 255 216 (dk_at dksX3_partNamed_2 8 rfl rfl)
theorem dX3_partNamed_56 : decode cX3_partNamed 56 = .ok (.aload_n 0, 1) := dk_42 (dk_at dksX3_partNamed_2 11 rfl rfl)
theorem dX3_partNamed_57 : decode cX3_partNamed 57 = .ok (.getfield 256, 3) := dk_180 1 0 (dk_at dksX3_partNamed_2 12 rfl rfl)
theorem dX3_partNamed_60 : decode cX3_partNamed 60 = .ok (.iconst 2, 1) := dk_5 (dk_at dksX3_partNamed_2 15 rfl rfl)
theorem dX3_partNamed_61 : decode cX3_partNamed 61 = .ok (.if_icmp .eq 10, 3) := dk_159 0 10 (dk_at dksX3_partNamed_2 16 rfl rfl)
theorem dX3_partNamed_64 : decode cX3_partNamed 64 = .ok (.aload_n 0, 1) := dk_42 (dk_at dksX3_partNamed_2 19 rfl rfl)
theorem dX3_partNamed_65 : decode cX3_partNamed 65 = .ok (.invokevirtual 291, 3) := dk_182 1 35 (dk_at dksX3_partNamed_2 20 rfl rfl)
theorem dX3_partNamed_68 : decode cX3_partNamed 68 = .ok (.goto 34, 3) := dk_167 0 34 (dk_at dksX3_partNamed_3 0 rfl rfl)
theorem dX3_partNamed_71 : decode cX3_partNamed 71 = .ok (.iload_n 2, 1) := dk_28 (dk_at dksX3_partNamed_3 3 rfl rfl)
theorem dX3_partNamed_72 : decode cX3_partNamed 72 = .ok (.ifCond .ge 15, 3) := dk_156 0 15 (dk_at dksX3_partNamed_3 4 rfl rfl)
theorem dX3_partNamed_75 : decode cX3_partNamed 75 = .ok (.aload_n 0, 1) := dk_42 (dk_at dksX3_partNamed_3 7 rfl rfl)
theorem dX3_partNamed_76 : decode cX3_partNamed 76 = .ok (.iconst 5, 1) := dk_8 (dk_at dksX3_partNamed_3 8 rfl rfl)
theorem dX3_partNamed_77 : decode cX3_partNamed 77 = .ok (.aload_n 0, 1) := dk_42 (dk_at dksX3_partNamed_3 9 rfl rfl)
theorem dX3_partNamed_78 : decode cX3_partNamed 78 = .ok (.getfield 249, 3) := dk_180 0 249 (dk_at dksX3_partNamed_3 10 rfl rfl)
theorem dX3_partNamed_81 : decode cX3_partNamed 81 = .ok (.invokevirtual 280, 3) := dk_182 1 24 (dk_at dksX3_partNamed_3 13 rfl rfl)
theorem dX3_partNamed_84 : decode cX3_partNamed 84 = .ok (.goto 18, 3) := dk_167 0 18 (dk_at dksX3_partNamed_3 16 rfl rfl)
theorem dX3_partNamed_87 : decode cX3_partNamed 87 = .ok (.iload_n 2, 1) := dk_28 (dk_at dksX3_partNamed_3 19 rfl rfl)
theorem dX3_partNamed_88 : decode cX3_partNamed 88 = .ok (.iload_n 1, 1) := dk_27 (dk_at dksX3_partNamed_3 20 rfl rfl)
theorem dX3_partNamed_89 : decode cX3_partNamed 89 = .ok (.if_icmp .ne 13, 3) := dk_160 0 13 (dk_at dksX3_partNamed_3 21 rfl rfl)
theorem dX3_partNamed_92 : decode cX3_partNamed 92 = .ok (.aload_n 0, 1) := dk_42 (dk_at dksX3_partNamed_4 0 rfl rfl)
theorem dX3_partNamed_93 : decode cX3_partNamed 93 = .ok (.bipush 6, 2) := dk_16 6 (dk_at dksX3_partNamed_4 1 rfl rfl)
theorem dX3_partNamed_95 : decode cX3_partNamed 95 = .ok (.aload_n 0, 1) := dk_42 (dk_at dksX3_partNamed_4 3 rfl rfl)
theorem dX3_partNamed_96 : decode cX3_partNamed 96 = .ok (.getfield 249, 3) := dk_180 0 249 (dk_at dksX3_partNamed_4 4 rfl rfl)
theorem dX3_partNamed_99 : decode cX3_partNamed 99 = .ok (.invokevirtual 280, 3) := dk_182 1 24 (dk_at dksX3_partNamed_4 7 rfl rfl)
theorem dX3_partNamed_102 : decode cX3_partNamed 102 = .ok (.aload_n 0, 1) := dk_42 (dk_at dksX3_partNamed_4 10 rfl rfl)
theorem dX3_partNamed_103 : decode cX3_partNamed 103 = .ok (.invokevirtual 284, 3) := dk_182 1 28 (dk_at dksX3_partNamed_4 11 rfl rfl)
theorem dX3_partNamed_106 : decode cX3_partNamed 106 = .ok (.ifCond .eq 7, 3) := dk_153 0 7 (dk_at dksX3_partNamed_4 14 rfl rfl)
theorem dX3_partNamed_109 : decode cX3_partNamed 109 = .ok (.aload_n 0, 1) := dk_42 (dk_at dksX3_partNamed_4 17 rfl rfl)
theorem dX3_partNamed_110 : decode cX3_partNamed 110 = .ok (.invokevirtual 288, 3) := dk_182 1 32 (dk_at dksX3_partNamed_4 18 rfl rfl)
theorem dX3_partNamed_113 : decode cX3_partNamed 113 = .ok (.iload_n 2, 1) := dk_28 (dk_at dksX3_partNamed_4 21 rfl rfl)
theorem dX3_partNamed_114 : decode cX3_partNamed 114 = .ok (.ireturn, 1) := dk_172 (dk_at dksX3_partNamed_4 22 rfl rfl)
abbrev cX3_parts : ByteArray := prog_24_method_26_code
def dkwX3_parts_0 : List UInt8 := [42, 180, 0, 24, 42, 180, 1, 44, 46, 172]
abbrev dktX3_parts_0 : List UInt8 := dkwX3_parts_0 ++ []
theorem dksX3_parts_0 : cX3_parts.data.toList.drop 0 = dktX3_parts_0 := by decide +kernel
theorem dX3_parts_0 : decode cX3_parts 0 = .ok (.aload_n 0, 1) := dk_42 (dk_at dksX3_parts_0 0 rfl rfl)
theorem dX3_parts_1 : decode cX3_parts 1 = .ok (.getfield 24, 3) := dk_180 0 24 (dk_at dksX3_parts_0 1 rfl rfl)
theorem dX3_parts_4 : decode cX3_parts 4 = .ok (.aload_n 0, 1) := dk_42 (dk_at dksX3_parts_0 4 rfl rfl)
theorem dX3_parts_5 : decode cX3_parts 5 = .ok (.getfield 300, 3) := dk_180 1 44 (dk_at dksX3_parts_0 5 rfl rfl)
theorem dX3_parts_8 : decode cX3_parts 8 = .ok (.iaload, 1) := dk_46 (dk_at dksX3_parts_0 8 rfl rfl)
theorem dX3_parts_9 : decode cX3_parts 9 = .ok (.ireturn, 1) := dk_172 (dk_at dksX3_parts_0 9 rfl rfl)
abbrev cX3_pays : ByteArray := prog_24_method_70_code
def dkwX3_pays_7 : List UInt8 := [21, 7, 100, 96, 54, 4, 132, 5, 1, 167, 255, 111, 21, 4, 172]
abbrev dktX3_pays_7 : List UInt8 := dkwX3_pays_7 ++ []
def dkwX3_pays_6 : List UInt8 := [21, 6, 104, 16, 100, 108, 54, 7, 21, 4, 27, 154, 0, 8, 21, 7, 167, 0, 10, 42, 180, 1, 186]
abbrev dktX3_pays_6 : List UInt8 := dkwX3_pays_6 ++ dktX3_pays_7
def dkwX3_pays_5 : List UInt8 := [3, 167, 0, 17, 21, 6, 16, 100, 164, 0, 8, 16, 100, 167, 0, 5, 21, 6, 54, 6, 42, 180, 1, 186]
abbrev dktX3_pays_5 : List UInt8 := dkwX3_pays_5 ++ dktX3_pays_6
def dkwX3_pays_4 : List UInt8 := [180, 0, 125, 21, 5, 46, 181, 1, 189, 42, 28, 3, 16, 50, 182, 1, 223, 54, 6, 21, 6, 156, 0, 7]
abbrev dktX3_pays_4 : List UInt8 := dkwX3_pays_4 ++ dktX3_pays_5
def dkwX3_pays_3 : List UInt8 := [181, 1, 183, 42, 42, 180, 0, 45, 16, 12, 42, 180, 1, 44, 104, 21, 5, 96, 46, 181, 1, 186, 42, 42]
abbrev dktX3_pays_3 : List UInt8 := dkwX3_pays_3 ++ dktX3_pays_4
def dkwX3_pays_2 : List UInt8 := [161, 0, 6, 167, 0, 120, 42, 42, 180, 0, 36, 16, 12, 42, 180, 1, 44, 104, 21, 5, 96, 46]
abbrev dktX3_pays_2 : List UInt8 := dkwX3_pays_2 ++ dktX3_pays_3
def dkwX3_pays_1 : List UInt8 := [54, 4, 3, 54, 5, 21, 5, 42, 182, 1, 94, 162, 0, 142, 42, 180, 0, 125, 21, 5, 46, 19, 1, 247]
abbrev dktX3_pays_1 : List UInt8 := dkwX3_pays_1 ++ dktX3_pays_2
def dkwX3_pays_0 : List UInt8 := [27, 3, 4, 184, 1, 98, 153, 0, 10, 28, 184, 1, 135, 154, 0, 5, 2, 172, 42, 29, 182, 1, 251, 3]
abbrev dktX3_pays_0 : List UInt8 := dkwX3_pays_0 ++ dktX3_pays_1
theorem dksX3_pays_0 : cX3_pays.data.toList.drop 0 = dktX3_pays_0 := by decide +kernel
theorem dksX3_pays_1 : cX3_pays.data.toList.drop 24 = dktX3_pays_1 := dk_seg dksX3_pays_0 24 rfl rfl
theorem dksX3_pays_2 : cX3_pays.data.toList.drop 48 = dktX3_pays_2 := dk_seg dksX3_pays_1 24 rfl rfl
theorem dksX3_pays_3 : cX3_pays.data.toList.drop 70 = dktX3_pays_3 := dk_seg dksX3_pays_2 22 rfl rfl
theorem dksX3_pays_4 : cX3_pays.data.toList.drop 94 = dktX3_pays_4 := dk_seg dksX3_pays_3 24 rfl rfl
theorem dksX3_pays_5 : cX3_pays.data.toList.drop 118 = dktX3_pays_5 := dk_seg dksX3_pays_4 24 rfl rfl
theorem dksX3_pays_6 : cX3_pays.data.toList.drop 142 = dktX3_pays_6 := dk_seg dksX3_pays_5 24 rfl rfl
theorem dksX3_pays_7 : cX3_pays.data.toList.drop 165 = dktX3_pays_7 := dk_seg dksX3_pays_6 23 rfl rfl
theorem dX3_pays_0 : decode cX3_pays 0 = .ok (.iload_n 1, 1) := dk_27 (dk_at dksX3_pays_0 0 rfl rfl)
theorem dX3_pays_1 : decode cX3_pays 1 = .ok (.iconst 0, 1) := dk_3 (dk_at dksX3_pays_0 1 rfl rfl)
theorem dX3_pays_2 : decode cX3_pays 2 = .ok (.iconst 1, 1) := dk_4 (dk_at dksX3_pays_0 2 rfl rfl)
theorem dX3_pays_3 : decode cX3_pays 3 = .ok (.invokestatic 354, 3) := dk_184 1 98 (dk_at dksX3_pays_0 3 rfl rfl)
theorem dX3_pays_6 : decode cX3_pays 6 = .ok (.ifCond .eq 10, 3) := dk_153 0 10 (dk_at dksX3_pays_0 6 rfl rfl)
theorem dX3_pays_9 : decode cX3_pays 9 = .ok (.iload_n 2, 1) := dk_28 (dk_at dksX3_pays_0 9 rfl rfl)
theorem dX3_pays_10 : decode cX3_pays 10 = .ok (.invokestatic 391, 3) := dk_184 1 135 (dk_at dksX3_pays_0 10 rfl rfl)
theorem dX3_pays_13 : decode cX3_pays 13 = .ok (.ifCond .ne 5, 3) := dk_154 0 5 (dk_at dksX3_pays_0 13 rfl rfl)
theorem dX3_pays_16 : decode cX3_pays 16 = .ok (.iconst (-1), 1) := dk_2 (dk_at dksX3_pays_0 16 rfl rfl)
theorem dX3_pays_17 : decode cX3_pays 17 = .ok (.ireturn, 1) := dk_172 (dk_at dksX3_pays_0 17 rfl rfl)
theorem dX3_pays_18 : decode cX3_pays 18 = .ok (.aload_n 0, 1) := dk_42 (dk_at dksX3_pays_0 18 rfl rfl)
theorem dX3_pays_19 : decode cX3_pays 19 = .ok (.iload_n 3, 1) := dk_29 (dk_at dksX3_pays_0 19 rfl rfl)
theorem dX3_pays_20 : decode cX3_pays 20 = .ok (.invokevirtual 507, 3) := dk_182 1 251 (dk_at dksX3_pays_0 20 rfl rfl)
theorem dX3_pays_23 : decode cX3_pays 23 = .ok (.iconst 0, 1) := dk_3 (dk_at dksX3_pays_0 23 rfl rfl)
theorem dX3_pays_24 : decode cX3_pays 24 = .ok (.istore 4, 2) := dk_54 4 (dk_at dksX3_pays_1 0 rfl rfl)
theorem dX3_pays_26 : decode cX3_pays 26 = .ok (.iconst 0, 1) := dk_3 (dk_at dksX3_pays_1 2 rfl rfl)
theorem dX3_pays_27 : decode cX3_pays 27 = .ok (.istore 5, 2) := dk_54 5 (dk_at dksX3_pays_1 3 rfl rfl)
theorem dX3_pays_29 : decode cX3_pays 29 = .ok (.iload 5, 2) := dk_21 5 (dk_at dksX3_pays_1 5 rfl rfl)
theorem dX3_pays_31 : decode cX3_pays 31 = .ok (.aload_n 0, 1) := dk_42 (dk_at dksX3_pays_1 7 rfl rfl)
theorem dX3_pays_32 : decode cX3_pays 32 = .ok (.invokevirtual 350, 3) := dk_182 1 94 (dk_at dksX3_pays_1 8 rfl rfl)
theorem dX3_pays_35 : decode cX3_pays 35 = .ok (.if_icmp .ge 142, 3) := dk_162 0 142 (dk_at dksX3_pays_1 11 rfl rfl)
theorem dX3_pays_38 : decode cX3_pays 38 = .ok (.aload_n 0, 1) := dk_42 (dk_at dksX3_pays_1 14 rfl rfl)
theorem dX3_pays_39 : decode cX3_pays 39 = .ok (.getfield 125, 3) := dk_180 0 125 (dk_at dksX3_pays_1 15 rfl rfl)
theorem dX3_pays_42 : decode cX3_pays 42 = .ok (.iload 5, 2) := dk_21 5 (dk_at dksX3_pays_1 18 rfl rfl)
theorem dX3_pays_44 : decode cX3_pays 44 = .ok (.iaload, 1) := dk_46 (dk_at dksX3_pays_1 20 rfl rfl)
theorem dX3_pays_45 : decode cX3_pays 45 = .ok (.ldc_w 503, 3) := dk_19 1 247 (dk_at dksX3_pays_1 21 rfl rfl)
theorem dX3_pays_48 : decode cX3_pays 48 = .ok (.if_icmp .lt 6, 3) := dk_161 0 6 (dk_at dksX3_pays_2 0 rfl rfl)
theorem dX3_pays_51 : decode cX3_pays 51 = .ok (.goto 120, 3) := dk_167 0 120 (dk_at dksX3_pays_2 3 rfl rfl)
theorem dX3_pays_54 : decode cX3_pays 54 = .ok (.aload_n 0, 1) := dk_42 (dk_at dksX3_pays_2 6 rfl rfl)
theorem dX3_pays_55 : decode cX3_pays 55 = .ok (.aload_n 0, 1) := dk_42 (dk_at dksX3_pays_2 7 rfl rfl)
theorem dX3_pays_56 : decode cX3_pays 56 = .ok (.getfield 36, 3) := dk_180 0 36 (dk_at dksX3_pays_2 8 rfl rfl)
theorem dX3_pays_59 : decode cX3_pays 59 = .ok (.bipush 12, 2) := dk_16 12 (dk_at dksX3_pays_2 11 rfl rfl)
theorem dX3_pays_61 : decode cX3_pays 61 = .ok (.aload_n 0, 1) := dk_42 (dk_at dksX3_pays_2 13 rfl rfl)
theorem dX3_pays_62 : decode cX3_pays 62 = .ok (.getfield 300, 3) := dk_180 1 44 (dk_at dksX3_pays_2 14 rfl rfl)
theorem dX3_pays_65 : decode cX3_pays 65 = .ok (.imul, 1) := dk_104 (dk_at dksX3_pays_2 17 rfl rfl)
theorem dX3_pays_66 : decode cX3_pays 66 = .ok (.iload 5, 2) := dk_21 5 (dk_at dksX3_pays_2 18 rfl rfl)
theorem dX3_pays_68 : decode cX3_pays 68 = .ok (.iadd, 1) := dk_96 (dk_at dksX3_pays_2 20 rfl rfl)
theorem dX3_pays_69 : decode cX3_pays 69 = .ok (.iaload, 1) := dk_46 (dk_at dksX3_pays_2 21 rfl rfl)
theorem dX3_pays_70 : decode cX3_pays 70 = .ok (.putfield 439, 3) := dk_181 1 183 (dk_at dksX3_pays_3 0 rfl rfl)
theorem dX3_pays_73 : decode cX3_pays 73 = .ok (.aload_n 0, 1) := dk_42 (dk_at dksX3_pays_3 3 rfl rfl)
theorem dX3_pays_74 : decode cX3_pays 74 = .ok (.aload_n 0, 1) := dk_42 (dk_at dksX3_pays_3 4 rfl rfl)
theorem dX3_pays_75 : decode cX3_pays 75 = .ok (.getfield 45, 3) := dk_180 0 45 (dk_at dksX3_pays_3 5 rfl rfl)
theorem dX3_pays_78 : decode cX3_pays 78 = .ok (.bipush 12, 2) := dk_16 12 (dk_at dksX3_pays_3 8 rfl rfl)
theorem dX3_pays_80 : decode cX3_pays 80 = .ok (.aload_n 0, 1) := dk_42 (dk_at dksX3_pays_3 10 rfl rfl)
theorem dX3_pays_81 : decode cX3_pays 81 = .ok (.getfield 300, 3) := dk_180 1 44 (dk_at dksX3_pays_3 11 rfl rfl)
theorem dX3_pays_84 : decode cX3_pays 84 = .ok (.imul, 1) := dk_104 (dk_at dksX3_pays_3 14 rfl rfl)
theorem dX3_pays_85 : decode cX3_pays 85 = .ok (.iload 5, 2) := dk_21 5 (dk_at dksX3_pays_3 15 rfl rfl)
theorem dX3_pays_87 : decode cX3_pays 87 = .ok (.iadd, 1) := dk_96 (dk_at dksX3_pays_3 17 rfl rfl)
theorem dX3_pays_88 : decode cX3_pays 88 = .ok (.iaload, 1) := dk_46 (dk_at dksX3_pays_3 18 rfl rfl)
theorem dX3_pays_89 : decode cX3_pays 89 = .ok (.putfield 442, 3) := dk_181 1 186 (dk_at dksX3_pays_3 19 rfl rfl)
theorem dX3_pays_92 : decode cX3_pays 92 = .ok (.aload_n 0, 1) := dk_42 (dk_at dksX3_pays_3 22 rfl rfl)
theorem dX3_pays_93 : decode cX3_pays 93 = .ok (.aload_n 0, 1) := dk_42 (dk_at dksX3_pays_3 23 rfl rfl)
theorem dX3_pays_94 : decode cX3_pays 94 = .ok (.getfield 125, 3) := dk_180 0 125 (dk_at dksX3_pays_4 0 rfl rfl)
theorem dX3_pays_97 : decode cX3_pays 97 = .ok (.iload 5, 2) := dk_21 5 (dk_at dksX3_pays_4 3 rfl rfl)
theorem dX3_pays_99 : decode cX3_pays 99 = .ok (.iaload, 1) := dk_46 (dk_at dksX3_pays_4 5 rfl rfl)
theorem dX3_pays_100 : decode cX3_pays 100 = .ok (.putfield 445, 3) := dk_181 1 189 (dk_at dksX3_pays_4 6 rfl rfl)
theorem dX3_pays_103 : decode cX3_pays 103 = .ok (.aload_n 0, 1) := dk_42 (dk_at dksX3_pays_4 9 rfl rfl)
theorem dX3_pays_104 : decode cX3_pays 104 = .ok (.iload_n 2, 1) := dk_28 (dk_at dksX3_pays_4 10 rfl rfl)
theorem dX3_pays_105 : decode cX3_pays 105 = .ok (.iconst 0, 1) := dk_3 (dk_at dksX3_pays_4 11 rfl rfl)
theorem dX3_pays_106 : decode cX3_pays 106 = .ok (.bipush 50, 2) := dk_16 50 (dk_at dksX3_pays_4 12 rfl rfl)
theorem dX3_pays_108 : decode cX3_pays 108 = .ok (.invokevirtual 479, 3) := dk_182 1 223 (dk_at dksX3_pays_4 14 rfl rfl)
theorem dX3_pays_111 : decode cX3_pays 111 = .ok (.istore 6, 2) := dk_54 6 (dk_at dksX3_pays_4 17 rfl rfl)
theorem dX3_pays_113 : decode cX3_pays 113 = .ok (.iload 6, 2) := dk_21 6 (dk_at dksX3_pays_4 19 rfl rfl)
theorem dX3_pays_115 : decode cX3_pays 115 = .ok (.ifCond .ge 7, 3) := dk_156 0 7 (dk_at dksX3_pays_4 21 rfl rfl)
theorem dX3_pays_118 : decode cX3_pays 118 = .ok (.iconst 0, 1) := dk_3 (dk_at dksX3_pays_5 0 rfl rfl)
theorem dX3_pays_119 : decode cX3_pays 119 = .ok (.goto 17, 3) := dk_167 0 17 (dk_at dksX3_pays_5 1 rfl rfl)
theorem dX3_pays_122 : decode cX3_pays 122 = .ok (.iload 6, 2) := dk_21 6 (dk_at dksX3_pays_5 4 rfl rfl)
theorem dX3_pays_124 : decode cX3_pays 124 = .ok (.bipush 100, 2) := dk_16 100 (dk_at dksX3_pays_5 6 rfl rfl)
theorem dX3_pays_126 : decode cX3_pays 126 = .ok (.if_icmp .le 8, 3) := dk_164 0 8 (dk_at dksX3_pays_5 8 rfl rfl)
theorem dX3_pays_129 : decode cX3_pays 129 = .ok (.bipush 100, 2) := dk_16 100 (dk_at dksX3_pays_5 11 rfl rfl)
theorem dX3_pays_131 : decode cX3_pays 131 = .ok (.goto 5, 3) := dk_167 0 5 (dk_at dksX3_pays_5 13 rfl rfl)
theorem dX3_pays_134 : decode cX3_pays 134 = .ok (.iload 6, 2) := dk_21 6 (dk_at dksX3_pays_5 16 rfl rfl)
theorem dX3_pays_136 : decode cX3_pays 136 = .ok (.istore 6, 2) := dk_54 6 (dk_at dksX3_pays_5 18 rfl rfl)
theorem dX3_pays_138 : decode cX3_pays 138 = .ok (.aload_n 0, 1) := dk_42 (dk_at dksX3_pays_5 20 rfl rfl)
theorem dX3_pays_139 : decode cX3_pays 139 = .ok (.getfield 442, 3) := dk_180 1 186 (dk_at dksX3_pays_5 21 rfl rfl)
theorem dX3_pays_142 : decode cX3_pays 142 = .ok (.iload 6, 2) := dk_21 6 (dk_at dksX3_pays_6 0 rfl rfl)
theorem dX3_pays_144 : decode cX3_pays 144 = .ok (.imul, 1) := dk_104 (dk_at dksX3_pays_6 2 rfl rfl)
theorem dX3_pays_145 : decode cX3_pays 145 = .ok (.bipush 100, 2) := dk_16 100 (dk_at dksX3_pays_6 3 rfl rfl)
theorem dX3_pays_147 : decode cX3_pays 147 = .ok (.idiv, 1) := dk_108 (dk_at dksX3_pays_6 5 rfl rfl)
theorem dX3_pays_148 : decode cX3_pays 148 = .ok (.istore 7, 2) := dk_54 7 (dk_at dksX3_pays_6 6 rfl rfl)
theorem dX3_pays_150 : decode cX3_pays 150 = .ok (.iload 4, 2) := dk_21 4 (dk_at dksX3_pays_6 8 rfl rfl)
theorem dX3_pays_152 : decode cX3_pays 152 = .ok (.iload_n 1, 1) := dk_27 (dk_at dksX3_pays_6 10 rfl rfl)
theorem dX3_pays_153 : decode cX3_pays 153 = .ok (.ifCond .ne 8, 3) := dk_154 0 8 (dk_at dksX3_pays_6 11 rfl rfl)
theorem dX3_pays_156 : decode cX3_pays 156 = .ok (.iload 7, 2) := dk_21 7 (dk_at dksX3_pays_6 14 rfl rfl)
theorem dX3_pays_158 : decode cX3_pays 158 = .ok (.goto 10, 3) := dk_167 0 10 (dk_at dksX3_pays_6 16 rfl rfl)
theorem dX3_pays_161 : decode cX3_pays 161 = .ok (.aload_n 0, 1) := dk_42 (dk_at dksX3_pays_6 19 rfl rfl)
theorem dX3_pays_162 : decode cX3_pays 162 = .ok (.getfield 442, 3) := dk_180 1 186 (dk_at dksX3_pays_6 20 rfl rfl)
theorem dX3_pays_165 : decode cX3_pays 165 = .ok (.iload 7, 2) := dk_21 7 (dk_at dksX3_pays_7 0 rfl rfl)
theorem dX3_pays_167 : decode cX3_pays 167 = .ok (.isub, 1) := dk_100 (dk_at dksX3_pays_7 2 rfl rfl)
theorem dX3_pays_168 : decode cX3_pays 168 = .ok (.iadd, 1) := dk_96 (dk_at dksX3_pays_7 3 rfl rfl)
theorem dX3_pays_169 : decode cX3_pays 169 = .ok (.istore 4, 2) := dk_54 4 (dk_at dksX3_pays_7 4 rfl rfl)
theorem dX3_pays_171 : decode cX3_pays 171 = .ok (.iinc 5 1, 3) := dk_132 5 1 (dk_at dksX3_pays_7 6 rfl rfl)
theorem dX3_pays_174 : decode cX3_pays 174 = .ok (.goto (-145), 3) := dk_167 255 111 (dk_at dksX3_pays_7 9 rfl rfl)
theorem dX3_pays_177 : decode cX3_pays 177 = .ok (.iload 4, 2) := dk_21 4 (dk_at dksX3_pays_7 12 rfl rfl)
theorem dX3_pays_179 : decode cX3_pays 179 = .ok (.ireturn, 1) := dk_172 (dk_at dksX3_pays_7 14 rfl rfl)
abbrev cX3_planOf : ByteArray := prog_24_method_84_code
def dkwX3_planOf_2 : List UInt8 := [128, 29, 16, 8, 120, 128, 46, 54, 4, 21, 4, 19, 1, 247, 161, 0, 7, 2, 167, 0, 5, 21, 4, 172]
abbrev dktX3_planOf_2 : List UInt8 := dkwX3_planOf_2 ++ []
def dkwX3_planOf_1 : List UInt8 := [153, 0, 10, 42, 180, 1, 56, 154, 0, 5, 2, 172, 42, 182, 2, 30, 42, 180, 0, 135, 27, 28, 7, 120]
abbrev dktX3_planOf_1 : List UInt8 := dkwX3_planOf_1 ++ dktX3_planOf_2
def dkwX3_planOf_0 : List UInt8 := [42, 3, 27, 182, 2, 27, 153, 0, 28, 42, 4, 28, 182, 2, 27, 153, 0, 19, 42, 5, 29, 182, 2, 27]
abbrev dktX3_planOf_0 : List UInt8 := dkwX3_planOf_0 ++ dktX3_planOf_1
theorem dksX3_planOf_0 : cX3_planOf.data.toList.drop 0 = dktX3_planOf_0 := by decide +kernel
theorem dksX3_planOf_1 : cX3_planOf.data.toList.drop 24 = dktX3_planOf_1 := dk_seg dksX3_planOf_0 24 rfl rfl
theorem dksX3_planOf_2 : cX3_planOf.data.toList.drop 48 = dktX3_planOf_2 := dk_seg dksX3_planOf_1 24 rfl rfl
theorem dX3_planOf_0 : decode cX3_planOf 0 = .ok (.aload_n 0, 1) := dk_42 (dk_at dksX3_planOf_0 0 rfl rfl)
theorem dX3_planOf_1 : decode cX3_planOf 1 = .ok (.iconst 0, 1) := dk_3 (dk_at dksX3_planOf_0 1 rfl rfl)
theorem dX3_planOf_2 : decode cX3_planOf 2 = .ok (.iload_n 1, 1) := dk_27 (dk_at dksX3_planOf_0 2 rfl rfl)
theorem dX3_planOf_3 : decode cX3_planOf 3 = .ok (.invokevirtual 539, 3) := dk_182 2 27 (dk_at dksX3_planOf_0 3 rfl rfl)
theorem dX3_planOf_6 : decode cX3_planOf 6 = .ok (.ifCond .eq 28, 3) := dk_153 0 28 (dk_at dksX3_planOf_0 6 rfl rfl)
theorem dX3_planOf_9 : decode cX3_planOf 9 = .ok (.aload_n 0, 1) := dk_42 (dk_at dksX3_planOf_0 9 rfl rfl)
theorem dX3_planOf_10 : decode cX3_planOf 10 = .ok (.iconst 1, 1) := dk_4 (dk_at dksX3_planOf_0 10 rfl rfl)
theorem dX3_planOf_11 : decode cX3_planOf 11 = .ok (.iload_n 2, 1) := dk_28 (dk_at dksX3_planOf_0 11 rfl rfl)
theorem dX3_planOf_12 : decode cX3_planOf 12 = .ok (.invokevirtual 539, 3) := dk_182 2 27 (dk_at dksX3_planOf_0 12 rfl rfl)
theorem dX3_planOf_15 : decode cX3_planOf 15 = .ok (.ifCond .eq 19, 3) := dk_153 0 19 (dk_at dksX3_planOf_0 15 rfl rfl)
theorem dX3_planOf_18 : decode cX3_planOf 18 = .ok (.aload_n 0, 1) := dk_42 (dk_at dksX3_planOf_0 18 rfl rfl)
theorem dX3_planOf_19 : decode cX3_planOf 19 = .ok (.iconst 2, 1) := dk_5 (dk_at dksX3_planOf_0 19 rfl rfl)
theorem dX3_planOf_20 : decode cX3_planOf 20 = .ok (.iload_n 3, 1) := dk_29 (dk_at dksX3_planOf_0 20 rfl rfl)
theorem dX3_planOf_21 : decode cX3_planOf 21 = .ok (.invokevirtual 539, 3) := dk_182 2 27 (dk_at dksX3_planOf_0 21 rfl rfl)
theorem dX3_planOf_24 : decode cX3_planOf 24 = .ok (.ifCond .eq 10, 3) := dk_153 0 10 (dk_at dksX3_planOf_1 0 rfl rfl)
theorem dX3_planOf_27 : decode cX3_planOf 27 = .ok (.aload_n 0, 1) := dk_42 (dk_at dksX3_planOf_1 3 rfl rfl)
theorem dX3_planOf_28 : decode cX3_planOf 28 = .ok (.getfield 312, 3) := dk_180 1 56 (dk_at dksX3_planOf_1 4 rfl rfl)
theorem dX3_planOf_31 : decode cX3_planOf 31 = .ok (.ifCond .ne 5, 3) := dk_154 0 5 (dk_at dksX3_planOf_1 7 rfl rfl)
theorem dX3_planOf_34 : decode cX3_planOf 34 = .ok (.iconst (-1), 1) := dk_2 (dk_at dksX3_planOf_1 10 rfl rfl)
theorem dX3_planOf_35 : decode cX3_planOf 35 = .ok (.ireturn, 1) := dk_172 (dk_at dksX3_planOf_1 11 rfl rfl)
theorem dX3_planOf_36 : decode cX3_planOf 36 = .ok (.aload_n 0, 1) := dk_42 (dk_at dksX3_planOf_1 12 rfl rfl)
theorem dX3_planOf_37 : decode cX3_planOf 37 = .ok (.invokevirtual 542, 3) := dk_182 2 30 (dk_at dksX3_planOf_1 13 rfl rfl)
theorem dX3_planOf_40 : decode cX3_planOf 40 = .ok (.aload_n 0, 1) := dk_42 (dk_at dksX3_planOf_1 16 rfl rfl)
theorem dX3_planOf_41 : decode cX3_planOf 41 = .ok (.getfield 135, 3) := dk_180 0 135 (dk_at dksX3_planOf_1 17 rfl rfl)
theorem dX3_planOf_44 : decode cX3_planOf 44 = .ok (.iload_n 1, 1) := dk_27 (dk_at dksX3_planOf_1 20 rfl rfl)
theorem dX3_planOf_45 : decode cX3_planOf 45 = .ok (.iload_n 2, 1) := dk_28 (dk_at dksX3_planOf_1 21 rfl rfl)
theorem dX3_planOf_46 : decode cX3_planOf 46 = .ok (.iconst 4, 1) := dk_7 (dk_at dksX3_planOf_1 22 rfl rfl)
theorem dX3_planOf_47 : decode cX3_planOf 47 = .ok (.ishl, 1) := dk_120 (dk_at dksX3_planOf_1 23 rfl rfl)
theorem dX3_planOf_48 : decode cX3_planOf 48 = .ok (.ior, 1) := dk_128 (dk_at dksX3_planOf_2 0 rfl rfl)
theorem dX3_planOf_49 : decode cX3_planOf 49 = .ok (.iload_n 3, 1) := dk_29 (dk_at dksX3_planOf_2 1 rfl rfl)
theorem dX3_planOf_50 : decode cX3_planOf 50 = .ok (.bipush 8, 2) := dk_16 8 (dk_at dksX3_planOf_2 2 rfl rfl)
theorem dX3_planOf_52 : decode cX3_planOf 52 = .ok (.ishl, 1) := dk_120 (dk_at dksX3_planOf_2 4 rfl rfl)
theorem dX3_planOf_53 : decode cX3_planOf 53 = .ok (.ior, 1) := dk_128 (dk_at dksX3_planOf_2 5 rfl rfl)
theorem dX3_planOf_54 : decode cX3_planOf 54 = .ok (.iaload, 1) := dk_46 (dk_at dksX3_planOf_2 6 rfl rfl)
theorem dX3_planOf_55 : decode cX3_planOf 55 = .ok (.istore 4, 2) := dk_54 4 (dk_at dksX3_planOf_2 7 rfl rfl)
theorem dX3_planOf_57 : decode cX3_planOf 57 = .ok (.iload 4, 2) := dk_21 4 (dk_at dksX3_planOf_2 9 rfl rfl)
theorem dX3_planOf_59 : decode cX3_planOf 59 = .ok (.ldc_w 503, 3) := dk_19 1 247 (dk_at dksX3_planOf_2 11 rfl rfl)
theorem dX3_planOf_62 : decode cX3_planOf 62 = .ok (.if_icmp .lt 7, 3) := dk_161 0 7 (dk_at dksX3_planOf_2 14 rfl rfl)
theorem dX3_planOf_65 : decode cX3_planOf 65 = .ok (.iconst (-1), 1) := dk_2 (dk_at dksX3_planOf_2 17 rfl rfl)
theorem dX3_planOf_66 : decode cX3_planOf 66 = .ok (.goto 5, 3) := dk_167 0 5 (dk_at dksX3_planOf_2 18 rfl rfl)
theorem dX3_planOf_69 : decode cX3_planOf 69 = .ok (.iload 4, 2) := dk_21 4 (dk_at dksX3_planOf_2 21 rfl rfl)
theorem dX3_planOf_71 : decode cX3_planOf 71 = .ok (.ireturn, 1) := dk_172 (dk_at dksX3_planOf_2 23 rfl rfl)
abbrev cX3_plan : ByteArray := prog_24_method_85_code
def dkwX3_plan_0 : List UInt8 := [42, 27, 28, 29, 182, 2, 33, 172]
abbrev dktX3_plan_0 : List UInt8 := dkwX3_plan_0 ++ []
theorem dksX3_plan_0 : cX3_plan.data.toList.drop 0 = dktX3_plan_0 := by decide +kernel
theorem dX3_plan_0 : decode cX3_plan 0 = .ok (.aload_n 0, 1) := dk_42 (dk_at dksX3_plan_0 0 rfl rfl)
theorem dX3_plan_1 : decode cX3_plan 1 = .ok (.iload_n 1, 1) := dk_27 (dk_at dksX3_plan_0 1 rfl rfl)
theorem dX3_plan_2 : decode cX3_plan 2 = .ok (.iload_n 2, 1) := dk_28 (dk_at dksX3_plan_0 2 rfl rfl)
theorem dX3_plan_3 : decode cX3_plan 3 = .ok (.iload_n 3, 1) := dk_29 (dk_at dksX3_plan_0 3 rfl rfl)
theorem dX3_plan_4 : decode cX3_plan 4 = .ok (.invokevirtual 545, 3) := dk_182 2 33 (dk_at dksX3_plan_0 4 rfl rfl)
theorem dX3_plan_7 : decode cX3_plan 7 = .ok (.ireturn, 1) := dk_172 (dk_at dksX3_plan_0 7 rfl rfl)
abbrev cX3_pump : ByteArray := prog_24_method_76_code
def dkwX3_pump_0 : List UInt8 := [27, 3, 6, 184, 1, 98, 154, 0, 5, 3, 172, 42, 27, 181, 0, 141, 4, 172]
abbrev dktX3_pump_0 : List UInt8 := dkwX3_pump_0 ++ []
theorem dksX3_pump_0 : cX3_pump.data.toList.drop 0 = dktX3_pump_0 := by decide +kernel
theorem dX3_pump_0 : decode cX3_pump 0 = .ok (.iload_n 1, 1) := dk_27 (dk_at dksX3_pump_0 0 rfl rfl)
theorem dX3_pump_1 : decode cX3_pump 1 = .ok (.iconst 0, 1) := dk_3 (dk_at dksX3_pump_0 1 rfl rfl)
theorem dX3_pump_2 : decode cX3_pump 2 = .ok (.iconst 3, 1) := dk_6 (dk_at dksX3_pump_0 2 rfl rfl)
theorem dX3_pump_3 : decode cX3_pump 3 = .ok (.invokestatic 354, 3) := dk_184 1 98 (dk_at dksX3_pump_0 3 rfl rfl)
theorem dX3_pump_6 : decode cX3_pump 6 = .ok (.ifCond .ne 5, 3) := dk_154 0 5 (dk_at dksX3_pump_0 6 rfl rfl)
theorem dX3_pump_9 : decode cX3_pump 9 = .ok (.iconst 0, 1) := dk_3 (dk_at dksX3_pump_0 9 rfl rfl)
theorem dX3_pump_10 : decode cX3_pump 10 = .ok (.ireturn, 1) := dk_172 (dk_at dksX3_pump_0 10 rfl rfl)
theorem dX3_pump_11 : decode cX3_pump 11 = .ok (.aload_n 0, 1) := dk_42 (dk_at dksX3_pump_0 11 rfl rfl)
theorem dX3_pump_12 : decode cX3_pump 12 = .ok (.iload_n 1, 1) := dk_27 (dk_at dksX3_pump_0 12 rfl rfl)
theorem dX3_pump_13 : decode cX3_pump 13 = .ok (.putfield 141, 3) := dk_181 0 141 (dk_at dksX3_pump_0 13 rfl rfl)
theorem dX3_pump_16 : decode cX3_pump 16 = .ok (.iconst 1, 1) := dk_4 (dk_at dksX3_pump_0 16 rfl rfl)
theorem dX3_pump_17 : decode cX3_pump 17 = .ok (.ireturn, 1) := dk_172 (dk_at dksX3_pump_0 17 rfl rfl)
abbrev cX3_put : ByteArray := prog_24_method_43_code
def dkwX3_put_1 : List UInt8 := [180, 1, 153, 4, 96, 181, 1, 153, 177]
abbrev dktX3_put_1 : List UInt8 := dkwX3_put_1 ++ []
def dkwX3_put_0 : List UInt8 := [42, 180, 0, 98, 42, 180, 1, 153, 27, 79, 42, 180, 0, 101, 42, 180, 1, 153, 28, 79, 42, 89]
abbrev dktX3_put_0 : List UInt8 := dkwX3_put_0 ++ dktX3_put_1
theorem dksX3_put_0 : cX3_put.data.toList.drop 0 = dktX3_put_0 := by decide +kernel
theorem dksX3_put_1 : cX3_put.data.toList.drop 22 = dktX3_put_1 := dk_seg dksX3_put_0 22 rfl rfl
theorem dX3_put_0 : decode cX3_put 0 = .ok (.aload_n 0, 1) := dk_42 (dk_at dksX3_put_0 0 rfl rfl)
theorem dX3_put_1 : decode cX3_put 1 = .ok (.getfield 98, 3) := dk_180 0 98 (dk_at dksX3_put_0 1 rfl rfl)
theorem dX3_put_4 : decode cX3_put 4 = .ok (.aload_n 0, 1) := dk_42 (dk_at dksX3_put_0 4 rfl rfl)
theorem dX3_put_5 : decode cX3_put 5 = .ok (.getfield 409, 3) := dk_180 1 153 (dk_at dksX3_put_0 5 rfl rfl)
theorem dX3_put_8 : decode cX3_put 8 = .ok (.iload_n 1, 1) := dk_27 (dk_at dksX3_put_0 8 rfl rfl)
theorem dX3_put_9 : decode cX3_put 9 = .ok (.iastore, 1) := dk_79 (dk_at dksX3_put_0 9 rfl rfl)
theorem dX3_put_10 : decode cX3_put 10 = .ok (.aload_n 0, 1) := dk_42 (dk_at dksX3_put_0 10 rfl rfl)
theorem dX3_put_11 : decode cX3_put 11 = .ok (.getfield 101, 3) := dk_180 0 101 (dk_at dksX3_put_0 11 rfl rfl)
theorem dX3_put_14 : decode cX3_put 14 = .ok (.aload_n 0, 1) := dk_42 (dk_at dksX3_put_0 14 rfl rfl)
theorem dX3_put_15 : decode cX3_put 15 = .ok (.getfield 409, 3) := dk_180 1 153 (dk_at dksX3_put_0 15 rfl rfl)
theorem dX3_put_18 : decode cX3_put 18 = .ok (.iload_n 2, 1) := dk_28 (dk_at dksX3_put_0 18 rfl rfl)
theorem dX3_put_19 : decode cX3_put 19 = .ok (.iastore, 1) := dk_79 (dk_at dksX3_put_0 19 rfl rfl)
theorem dX3_put_20 : decode cX3_put 20 = .ok (.aload_n 0, 1) := dk_42 (dk_at dksX3_put_0 20 rfl rfl)
theorem dX3_put_21 : decode cX3_put 21 = .ok (.dup, 1) := dk_89 (dk_at dksX3_put_0 21 rfl rfl)
theorem dX3_put_22 : decode cX3_put 22 = .ok (.getfield 409, 3) := dk_180 1 153 (dk_at dksX3_put_1 0 rfl rfl)
theorem dX3_put_25 : decode cX3_put 25 = .ok (.iconst 1, 1) := dk_4 (dk_at dksX3_put_1 3 rfl rfl)
theorem dX3_put_26 : decode cX3_put 26 = .ok (.iadd, 1) := dk_96 (dk_at dksX3_put_1 4 rfl rfl)
theorem dX3_put_27 : decode cX3_put 27 = .ok (.putfield 409, 3) := dk_181 1 153 (dk_at dksX3_put_1 5 rfl rfl)
theorem dX3_put_30 : decode cX3_put 30 = .ok (.return_, 1) := dk_177 (dk_at dksX3_put_1 8 rfl rfl)
abbrev cX3_rankHere : ByteArray := prog_24_method_48_code
def dkwX3_rankHere_3 : List UInt8 := [172, 42, 16, 42, 182, 1, 80, 153, 0, 8, 16, 6, 167, 0, 4, 3, 172]
abbrev dktX3_rankHere_3 : List UInt8 := dkwX3_rankHere_3 ++ []
def dkwX3_rankHere_2 : List UInt8 := [153, 0, 5, 7, 172, 42, 16, 43, 182, 1, 80, 154, 0, 12, 42, 16, 45, 182, 1, 80, 153, 0, 5, 8]
abbrev dktX3_rankHere_2 : List UInt8 := dkwX3_rankHere_2 ++ dktX3_rankHere_3
def dkwX3_rankHere_1 : List UInt8 := [42, 16, 60, 182, 1, 80, 154, 0, 21, 42, 16, 62, 182, 1, 80, 154, 0, 12, 42, 16, 61, 182, 1, 80]
abbrev dktX3_rankHere_1 : List UInt8 := dkwX3_rankHere_1 ++ dktX3_rankHere_2
def dkwX3_rankHere_0 : List UInt8 := [42, 20, 0, 218, 182, 1, 59, 153, 0, 5, 5, 172, 42, 20, 0, 220, 182, 1, 59, 153, 0, 5, 4, 172]
abbrev dktX3_rankHere_0 : List UInt8 := dkwX3_rankHere_0 ++ dktX3_rankHere_1
theorem dksX3_rankHere_0 : cX3_rankHere.data.toList.drop 0 = dktX3_rankHere_0 := by decide +kernel
theorem dksX3_rankHere_1 : cX3_rankHere.data.toList.drop 24 = dktX3_rankHere_1 := dk_seg dksX3_rankHere_0 24 rfl rfl
theorem dksX3_rankHere_2 : cX3_rankHere.data.toList.drop 48 = dktX3_rankHere_2 := dk_seg dksX3_rankHere_1 24 rfl rfl
theorem dksX3_rankHere_3 : cX3_rankHere.data.toList.drop 72 = dktX3_rankHere_3 := dk_seg dksX3_rankHere_2 24 rfl rfl
theorem dX3_rankHere_0 : decode cX3_rankHere 0 = .ok (.aload_n 0, 1) := dk_42 (dk_at dksX3_rankHere_0 0 rfl rfl)
theorem dX3_rankHere_1 : decode cX3_rankHere 1 = .ok (.ldc2_w 218, 3) := dk_20 0 218 (dk_at dksX3_rankHere_0 1 rfl rfl)
theorem dX3_rankHere_4 : decode cX3_rankHere 4 = .ok (.invokevirtual 315, 3) := dk_182 1 59 (dk_at dksX3_rankHere_0 4 rfl rfl)
theorem dX3_rankHere_7 : decode cX3_rankHere 7 = .ok (.ifCond .eq 5, 3) := dk_153 0 5 (dk_at dksX3_rankHere_0 7 rfl rfl)
theorem dX3_rankHere_10 : decode cX3_rankHere 10 = .ok (.iconst 2, 1) := dk_5 (dk_at dksX3_rankHere_0 10 rfl rfl)
theorem dX3_rankHere_11 : decode cX3_rankHere 11 = .ok (.ireturn, 1) := dk_172 (dk_at dksX3_rankHere_0 11 rfl rfl)
theorem dX3_rankHere_12 : decode cX3_rankHere 12 = .ok (.aload_n 0, 1) := dk_42 (dk_at dksX3_rankHere_0 12 rfl rfl)
theorem dX3_rankHere_13 : decode cX3_rankHere 13 = .ok (.ldc2_w 220, 3) := dk_20 0 220 (dk_at dksX3_rankHere_0 13 rfl rfl)
theorem dX3_rankHere_16 : decode cX3_rankHere 16 = .ok (.invokevirtual 315, 3) := dk_182 1 59 (dk_at dksX3_rankHere_0 16 rfl rfl)
theorem dX3_rankHere_19 : decode cX3_rankHere 19 = .ok (.ifCond .eq 5, 3) := dk_153 0 5 (dk_at dksX3_rankHere_0 19 rfl rfl)
theorem dX3_rankHere_22 : decode cX3_rankHere 22 = .ok (.iconst 1, 1) := dk_4 (dk_at dksX3_rankHere_0 22 rfl rfl)
theorem dX3_rankHere_23 : decode cX3_rankHere 23 = .ok (.ireturn, 1) := dk_172 (dk_at dksX3_rankHere_0 23 rfl rfl)
theorem dX3_rankHere_24 : decode cX3_rankHere 24 = .ok (.aload_n 0, 1) := dk_42 (dk_at dksX3_rankHere_1 0 rfl rfl)
theorem dX3_rankHere_25 : decode cX3_rankHere 25 = .ok (.bipush 60, 2) := dk_16 60 (dk_at dksX3_rankHere_1 1 rfl rfl)
theorem dX3_rankHere_27 : decode cX3_rankHere 27 = .ok (.invokevirtual 336, 3) := dk_182 1 80 (dk_at dksX3_rankHere_1 3 rfl rfl)
theorem dX3_rankHere_30 : decode cX3_rankHere 30 = .ok (.ifCond .ne 21, 3) := dk_154 0 21 (dk_at dksX3_rankHere_1 6 rfl rfl)
theorem dX3_rankHere_33 : decode cX3_rankHere 33 = .ok (.aload_n 0, 1) := dk_42 (dk_at dksX3_rankHere_1 9 rfl rfl)
theorem dX3_rankHere_34 : decode cX3_rankHere 34 = .ok (.bipush 62, 2) := dk_16 62 (dk_at dksX3_rankHere_1 10 rfl rfl)
theorem dX3_rankHere_36 : decode cX3_rankHere 36 = .ok (.invokevirtual 336, 3) := dk_182 1 80 (dk_at dksX3_rankHere_1 12 rfl rfl)
theorem dX3_rankHere_39 : decode cX3_rankHere 39 = .ok (.ifCond .ne 12, 3) := dk_154 0 12 (dk_at dksX3_rankHere_1 15 rfl rfl)
theorem dX3_rankHere_42 : decode cX3_rankHere 42 = .ok (.aload_n 0, 1) := dk_42 (dk_at dksX3_rankHere_1 18 rfl rfl)
theorem dX3_rankHere_43 : decode cX3_rankHere 43 = .ok (.bipush 61, 2) := dk_16 61 (dk_at dksX3_rankHere_1 19 rfl rfl)
theorem dX3_rankHere_45 : decode cX3_rankHere 45 = .ok (.invokevirtual 336, 3) := dk_182 1 80 (dk_at dksX3_rankHere_1 21 rfl rfl)
theorem dX3_rankHere_48 : decode cX3_rankHere 48 = .ok (.ifCond .eq 5, 3) := dk_153 0 5 (dk_at dksX3_rankHere_2 0 rfl rfl)
theorem dX3_rankHere_51 : decode cX3_rankHere 51 = .ok (.iconst 4, 1) := dk_7 (dk_at dksX3_rankHere_2 3 rfl rfl)
theorem dX3_rankHere_52 : decode cX3_rankHere 52 = .ok (.ireturn, 1) := dk_172 (dk_at dksX3_rankHere_2 4 rfl rfl)
theorem dX3_rankHere_53 : decode cX3_rankHere 53 = .ok (.aload_n 0, 1) := dk_42 (dk_at dksX3_rankHere_2 5 rfl rfl)
theorem dX3_rankHere_54 : decode cX3_rankHere 54 = .ok (.bipush 43, 2) := dk_16 43 (dk_at dksX3_rankHere_2 6 rfl rfl)
theorem dX3_rankHere_56 : decode cX3_rankHere 56 = .ok (.invokevirtual 336, 3) := dk_182 1 80 (dk_at dksX3_rankHere_2 8 rfl rfl)
theorem dX3_rankHere_59 : decode cX3_rankHere 59 = .ok (.ifCond .ne 12, 3) := dk_154 0 12 (dk_at dksX3_rankHere_2 11 rfl rfl)
theorem dX3_rankHere_62 : decode cX3_rankHere 62 = .ok (.aload_n 0, 1) := dk_42 (dk_at dksX3_rankHere_2 14 rfl rfl)
theorem dX3_rankHere_63 : decode cX3_rankHere 63 = .ok (.bipush 45, 2) := dk_16 45 (dk_at dksX3_rankHere_2 15 rfl rfl)
theorem dX3_rankHere_65 : decode cX3_rankHere 65 = .ok (.invokevirtual 336, 3) := dk_182 1 80 (dk_at dksX3_rankHere_2 17 rfl rfl)
theorem dX3_rankHere_68 : decode cX3_rankHere 68 = .ok (.ifCond .eq 5, 3) := dk_153 0 5 (dk_at dksX3_rankHere_2 20 rfl rfl)
theorem dX3_rankHere_71 : decode cX3_rankHere 71 = .ok (.iconst 5, 1) := dk_8 (dk_at dksX3_rankHere_2 23 rfl rfl)
theorem dX3_rankHere_72 : decode cX3_rankHere 72 = .ok (.ireturn, 1) := dk_172 (dk_at dksX3_rankHere_3 0 rfl rfl)
theorem dX3_rankHere_73 : decode cX3_rankHere 73 = .ok (.aload_n 0, 1) := dk_42 (dk_at dksX3_rankHere_3 1 rfl rfl)
theorem dX3_rankHere_74 : decode cX3_rankHere 74 = .ok (.bipush 42, 2) := dk_16 42 (dk_at dksX3_rankHere_3 2 rfl rfl)
theorem dX3_rankHere_76 : decode cX3_rankHere 76 = .ok (.invokevirtual 336, 3) := dk_182 1 80 (dk_at dksX3_rankHere_3 4 rfl rfl)
theorem dX3_rankHere_79 : decode cX3_rankHere 79 = .ok (.ifCond .eq 8, 3) := dk_153 0 8 (dk_at dksX3_rankHere_3 7 rfl rfl)
theorem dX3_rankHere_82 : decode cX3_rankHere 82 = .ok (.bipush 6, 2) := dk_16 6 (dk_at dksX3_rankHere_3 10 rfl rfl)
theorem dX3_rankHere_84 : decode cX3_rankHere 84 = .ok (.goto 4, 3) := dk_167 0 4 (dk_at dksX3_rankHere_3 12 rfl rfl)
theorem dX3_rankHere_87 : decode cX3_rankHere 87 = .ok (.iconst 0, 1) := dk_3 (dk_at dksX3_rankHere_3 15 rfl rfl)
theorem dX3_rankHere_88 : decode cX3_rankHere 88 = .ok (.ireturn, 1) := dk_172 (dk_at dksX3_rankHere_3 16 rfl rfl)
abbrev cX3_readJoin : ByteArray := prog_24_method_21_code
def dkwX3_readJoin_3 : List UInt8 := [180, 0, 27, 42, 180, 1, 47, 92, 46, 4, 96, 79, 177]
abbrev dktX3_readJoin_3 : List UInt8 := dkwX3_readJoin_3 ++ []
def dkwX3_readJoin_2 : List UInt8 := [20, 0, 194, 182, 1, 59, 182, 1, 83, 42, 180, 0, 54, 27, 42, 3, 16, 99, 182, 1, 87, 79, 42]
abbrev dktX3_readJoin_2 : List UInt8 := dkwX3_readJoin_2 ++ dktX3_readJoin_3
def dkwX3_readJoin_1 : List UInt8 := [2, 182, 1, 91, 79, 42, 180, 0, 51, 27, 42, 42, 180, 0, 48, 27, 46, 182, 1, 91, 79, 42, 42]
abbrev dktX3_readJoin_1 : List UInt8 := dkwX3_readJoin_1 ++ dktX3_readJoin_2
def dkwX3_readJoin_0 : List UInt8 := [16, 16, 42, 180, 1, 47, 104, 42, 180, 0, 27, 42, 180, 1, 47, 46, 96, 60, 42, 180, 0, 48, 27, 42]
abbrev dktX3_readJoin_0 : List UInt8 := dkwX3_readJoin_0 ++ dktX3_readJoin_1
theorem dksX3_readJoin_0 : cX3_readJoin.data.toList.drop 0 = dktX3_readJoin_0 := by decide +kernel
theorem dksX3_readJoin_1 : cX3_readJoin.data.toList.drop 24 = dktX3_readJoin_1 := dk_seg dksX3_readJoin_0 24 rfl rfl
theorem dksX3_readJoin_2 : cX3_readJoin.data.toList.drop 47 = dktX3_readJoin_2 := dk_seg dksX3_readJoin_1 23 rfl rfl
theorem dksX3_readJoin_3 : cX3_readJoin.data.toList.drop 70 = dktX3_readJoin_3 := dk_seg dksX3_readJoin_2 23 rfl rfl
theorem dX3_readJoin_0 : decode cX3_readJoin 0 = .ok (.bipush 16, 2) := dk_16 16 (dk_at dksX3_readJoin_0 0 rfl rfl)
theorem dX3_readJoin_2 : decode cX3_readJoin 2 = .ok (.aload_n 0, 1) := dk_42 (dk_at dksX3_readJoin_0 2 rfl rfl)
theorem dX3_readJoin_3 : decode cX3_readJoin 3 = .ok (.getfield 303, 3) := dk_180 1 47 (dk_at dksX3_readJoin_0 3 rfl rfl)
theorem dX3_readJoin_6 : decode cX3_readJoin 6 = .ok (.imul, 1) := dk_104 (dk_at dksX3_readJoin_0 6 rfl rfl)
theorem dX3_readJoin_7 : decode cX3_readJoin 7 = .ok (.aload_n 0, 1) := dk_42 (dk_at dksX3_readJoin_0 7 rfl rfl)
theorem dX3_readJoin_8 : decode cX3_readJoin 8 = .ok (.getfield 27, 3) := dk_180 0 27 (dk_at dksX3_readJoin_0 8 rfl rfl)
theorem dX3_readJoin_11 : decode cX3_readJoin 11 = .ok (.aload_n 0, 1) := dk_42 (dk_at dksX3_readJoin_0 11 rfl rfl)
theorem dX3_readJoin_12 : decode cX3_readJoin 12 = .ok (.getfield 303, 3) := dk_180 1 47 (dk_at dksX3_readJoin_0 12 rfl rfl)
theorem dX3_readJoin_15 : decode cX3_readJoin 15 = .ok (.iaload, 1) := dk_46 (dk_at dksX3_readJoin_0 15 rfl rfl)
theorem dX3_readJoin_16 : decode cX3_readJoin 16 = .ok (.iadd, 1) := dk_96 (dk_at dksX3_readJoin_0 16 rfl rfl)
theorem dX3_readJoin_17 : decode cX3_readJoin 17 = .ok (.istore_n 1, 1) := dk_60 (dk_at dksX3_readJoin_0 17 rfl rfl)
theorem dX3_readJoin_18 : decode cX3_readJoin 18 = .ok (.aload_n 0, 1) := dk_42 (dk_at dksX3_readJoin_0 18 rfl rfl)
theorem dX3_readJoin_19 : decode cX3_readJoin 19 = .ok (.getfield 48, 3) := dk_180 0 48 (dk_at dksX3_readJoin_0 19 rfl rfl)
theorem dX3_readJoin_22 : decode cX3_readJoin 22 = .ok (.iload_n 1, 1) := dk_27 (dk_at dksX3_readJoin_0 22 rfl rfl)
theorem dX3_readJoin_23 : decode cX3_readJoin 23 = .ok (.aload_n 0, 1) := dk_42 (dk_at dksX3_readJoin_0 23 rfl rfl)
theorem dX3_readJoin_24 : decode cX3_readJoin 24 = .ok (.iconst (-1), 1) := dk_2 (dk_at dksX3_readJoin_1 0 rfl rfl)
theorem dX3_readJoin_25 : decode cX3_readJoin 25 = .ok (.invokevirtual 347, 3) := dk_182 1 91 (dk_at dksX3_readJoin_1 1 rfl rfl)
theorem dX3_readJoin_28 : decode cX3_readJoin 28 = .ok (.iastore, 1) := dk_79 (dk_at dksX3_readJoin_1 4 rfl rfl)
theorem dX3_readJoin_29 : decode cX3_readJoin 29 = .ok (.aload_n 0, 1) := dk_42 (dk_at dksX3_readJoin_1 5 rfl rfl)
theorem dX3_readJoin_30 : decode cX3_readJoin 30 = .ok (.getfield 51, 3) := dk_180 0 51 (dk_at dksX3_readJoin_1 6 rfl rfl)
theorem dX3_readJoin_33 : decode cX3_readJoin 33 = .ok (.iload_n 1, 1) := dk_27 (dk_at dksX3_readJoin_1 9 rfl rfl)
theorem dX3_readJoin_34 : decode cX3_readJoin 34 = .ok (.aload_n 0, 1) := dk_42 (dk_at dksX3_readJoin_1 10 rfl rfl)
theorem dX3_readJoin_35 : decode cX3_readJoin 35 = .ok (.aload_n 0, 1) := dk_42 (dk_at dksX3_readJoin_1 11 rfl rfl)
theorem dX3_readJoin_36 : decode cX3_readJoin 36 = .ok (.getfield 48, 3) := dk_180 0 48 (dk_at dksX3_readJoin_1 12 rfl rfl)
theorem dX3_readJoin_39 : decode cX3_readJoin 39 = .ok (.iload_n 1, 1) := dk_27 (dk_at dksX3_readJoin_1 15 rfl rfl)
theorem dX3_readJoin_40 : decode cX3_readJoin 40 = .ok (.iaload, 1) := dk_46 (dk_at dksX3_readJoin_1 16 rfl rfl)
theorem dX3_readJoin_41 : decode cX3_readJoin 41 = .ok (.invokevirtual 347, 3) := dk_182 1 91 (dk_at dksX3_readJoin_1 17 rfl rfl)
theorem dX3_readJoin_44 : decode cX3_readJoin 44 = .ok (.iastore, 1) := dk_79 (dk_at dksX3_readJoin_1 20 rfl rfl)
theorem dX3_readJoin_45 : decode cX3_readJoin 45 = .ok (.aload_n 0, 1) := dk_42 (dk_at dksX3_readJoin_1 21 rfl rfl)
theorem dX3_readJoin_46 : decode cX3_readJoin 46 = .ok (.aload_n 0, 1) := dk_42 (dk_at dksX3_readJoin_1 22 rfl rfl)
theorem dX3_readJoin_47 : decode cX3_readJoin 47 = .ok (.ldc2_w 194, 3) := dk_20 0 194 (dk_at dksX3_readJoin_2 0 rfl rfl)
theorem dX3_readJoin_50 : decode cX3_readJoin 50 = .ok (.invokevirtual 315, 3) := dk_182 1 59 (dk_at dksX3_readJoin_2 3 rfl rfl)
theorem dX3_readJoin_53 : decode cX3_readJoin 53 = .ok (.invokevirtual 339, 3) := dk_182 1 83 (dk_at dksX3_readJoin_2 6 rfl rfl)
theorem dX3_readJoin_56 : decode cX3_readJoin 56 = .ok (.aload_n 0, 1) := dk_42 (dk_at dksX3_readJoin_2 9 rfl rfl)
theorem dX3_readJoin_57 : decode cX3_readJoin 57 = .ok (.getfield 54, 3) := dk_180 0 54 (dk_at dksX3_readJoin_2 10 rfl rfl)
theorem dX3_readJoin_60 : decode cX3_readJoin 60 = .ok (.iload_n 1, 1) := dk_27 (dk_at dksX3_readJoin_2 13 rfl rfl)
theorem dX3_readJoin_61 : decode cX3_readJoin 61 = .ok (.aload_n 0, 1) := dk_42 (dk_at dksX3_readJoin_2 14 rfl rfl)
theorem dX3_readJoin_62 : decode cX3_readJoin 62 = .ok (.iconst 0, 1) := dk_3 (dk_at dksX3_readJoin_2 15 rfl rfl)
theorem dX3_readJoin_63 : decode cX3_readJoin 63 = .ok (.bipush 99, 2) := dk_16 99 (dk_at dksX3_readJoin_2 16 rfl rfl)
theorem dX3_readJoin_65 : decode cX3_readJoin 65 = .ok (.invokevirtual 343, 3) := dk_182 1 87 (dk_at dksX3_readJoin_2 18 rfl rfl)
theorem dX3_readJoin_68 : decode cX3_readJoin 68 = .ok (.iastore, 1) := dk_79 (dk_at dksX3_readJoin_2 21 rfl rfl)
theorem dX3_readJoin_69 : decode cX3_readJoin 69 = .ok (.aload_n 0, 1) := dk_42 (dk_at dksX3_readJoin_2 22 rfl rfl)
theorem dX3_readJoin_70 : decode cX3_readJoin 70 = .ok (.getfield 27, 3) := dk_180 0 27 (dk_at dksX3_readJoin_3 0 rfl rfl)
theorem dX3_readJoin_73 : decode cX3_readJoin 73 = .ok (.aload_n 0, 1) := dk_42 (dk_at dksX3_readJoin_3 3 rfl rfl)
theorem dX3_readJoin_74 : decode cX3_readJoin 74 = .ok (.getfield 303, 3) := dk_180 1 47 (dk_at dksX3_readJoin_3 4 rfl rfl)
theorem dX3_readJoin_77 : decode cX3_readJoin 77 = .ok (.dup2, 1) := dk_92 (dk_at dksX3_readJoin_3 7 rfl rfl)
theorem dX3_readJoin_78 : decode cX3_readJoin 78 = .ok (.iaload, 1) := dk_46 (dk_at dksX3_readJoin_3 8 rfl rfl)
theorem dX3_readJoin_79 : decode cX3_readJoin 79 = .ok (.iconst 1, 1) := dk_4 (dk_at dksX3_readJoin_3 9 rfl rfl)
theorem dX3_readJoin_80 : decode cX3_readJoin 80 = .ok (.iadd, 1) := dk_96 (dk_at dksX3_readJoin_3 10 rfl rfl)
theorem dX3_readJoin_81 : decode cX3_readJoin 81 = .ok (.iastore, 1) := dk_79 (dk_at dksX3_readJoin_3 11 rfl rfl)
theorem dX3_readJoin_82 : decode cX3_readJoin 82 = .ok (.return_, 1) := dk_177 (dk_at dksX3_readJoin_3 12 rfl rfl)
abbrev cX3_readMachine : ByteArray := prog_24_method_18_code
def dkwX3_readMachine_5 : List UInt8 := [42, 180, 1, 47, 92, 46, 4, 96, 79, 177]
abbrev dktX3_readMachine_5 : List UInt8 := dkwX3_readMachine_5 ++ []
def dkwX3_readMachine_4 : List UInt8 := [182, 1, 74, 167, 0, 7, 42, 182, 1, 77, 42, 42, 16, 59, 182, 1, 80, 182, 1, 83, 42, 180, 0, 20]
abbrev dktX3_readMachine_4 : List UInt8 := dkwX3_readMachine_4 ++ dktX3_readMachine_5
def dkwX3_readMachine_3 : List UInt8 := [182, 1, 68, 167, 0, 30, 29, 153, 0, 10, 42, 182, 1, 71, 167, 0, 19, 21, 4, 153, 0, 10, 42]
abbrev dktX3_readMachine_3 : List UInt8 := dkwX3_readMachine_3 ++ dktX3_readMachine_4
def dkwX3_readMachine_2 : List UInt8 := [154, 0, 4, 177, 42, 182, 1, 32, 27, 153, 0, 10, 42, 182, 1, 65, 167, 0, 41, 28, 153, 0, 10, 42]
abbrev dktX3_readMachine_2 : List UInt8 := dkwX3_readMachine_2 ++ dktX3_readMachine_3
def dkwX3_readMachine_1 : List UInt8 := [42, 20, 0, 200, 182, 1, 59, 54, 4, 42, 182, 1, 62, 153, 0, 7, 42, 182, 1, 35, 42, 182, 1, 28]
abbrev dktX3_readMachine_1 : List UInt8 := dkwX3_readMachine_1 ++ dktX3_readMachine_2
def dkwX3_readMachine_0 : List UInt8 := [42, 20, 0, 178, 182, 1, 59, 60, 42, 20, 0, 192, 182, 1, 59, 61, 42, 20, 0, 196, 182, 1, 59, 62]
abbrev dktX3_readMachine_0 : List UInt8 := dkwX3_readMachine_0 ++ dktX3_readMachine_1
theorem dksX3_readMachine_0 : cX3_readMachine.data.toList.drop 0 = dktX3_readMachine_0 := by decide +kernel
theorem dksX3_readMachine_1 : cX3_readMachine.data.toList.drop 24 = dktX3_readMachine_1 := dk_seg dksX3_readMachine_0 24 rfl rfl
theorem dksX3_readMachine_2 : cX3_readMachine.data.toList.drop 48 = dktX3_readMachine_2 := dk_seg dksX3_readMachine_1 24 rfl rfl
theorem dksX3_readMachine_3 : cX3_readMachine.data.toList.drop 72 = dktX3_readMachine_3 := dk_seg dksX3_readMachine_2 24 rfl rfl
theorem dksX3_readMachine_4 : cX3_readMachine.data.toList.drop 95 = dktX3_readMachine_4 := dk_seg dksX3_readMachine_3 23 rfl rfl
theorem dksX3_readMachine_5 : cX3_readMachine.data.toList.drop 119 = dktX3_readMachine_5 := dk_seg dksX3_readMachine_4 24 rfl rfl
theorem dX3_readMachine_0 : decode cX3_readMachine 0 = .ok (.aload_n 0, 1) := dk_42 (dk_at dksX3_readMachine_0 0 rfl rfl)
theorem dX3_readMachine_1 : decode cX3_readMachine 1 = .ok (.ldc2_w 178, 3) := dk_20 0 178 (dk_at dksX3_readMachine_0 1 rfl rfl)
theorem dX3_readMachine_4 : decode cX3_readMachine 4 = .ok (.invokevirtual 315, 3) := dk_182 1 59 (dk_at dksX3_readMachine_0 4 rfl rfl)
theorem dX3_readMachine_7 : decode cX3_readMachine 7 = .ok (.istore_n 1, 1) := dk_60 (dk_at dksX3_readMachine_0 7 rfl rfl)
theorem dX3_readMachine_8 : decode cX3_readMachine 8 = .ok (.aload_n 0, 1) := dk_42 (dk_at dksX3_readMachine_0 8 rfl rfl)
theorem dX3_readMachine_9 : decode cX3_readMachine 9 = .ok (.ldc2_w 192, 3) := dk_20 0 192 (dk_at dksX3_readMachine_0 9 rfl rfl)
theorem dX3_readMachine_12 : decode cX3_readMachine 12 = .ok (.invokevirtual 315, 3) := dk_182 1 59 (dk_at dksX3_readMachine_0 12 rfl rfl)
theorem dX3_readMachine_15 : decode cX3_readMachine 15 = .ok (.istore_n 2, 1) := dk_61 (dk_at dksX3_readMachine_0 15 rfl rfl)
theorem dX3_readMachine_16 : decode cX3_readMachine 16 = .ok (.aload_n 0, 1) := dk_42 (dk_at dksX3_readMachine_0 16 rfl rfl)
theorem dX3_readMachine_17 : decode cX3_readMachine 17 = .ok (.ldc2_w 196, 3) := dk_20 0 196 (dk_at dksX3_readMachine_0 17 rfl rfl)
theorem dX3_readMachine_20 : decode cX3_readMachine 20 = .ok (.invokevirtual 315, 3) := dk_182 1 59 (dk_at dksX3_readMachine_0 20 rfl rfl)
theorem dX3_readMachine_23 : decode cX3_readMachine 23 = .ok (.istore_n 3, 1) := dk_62 (dk_at dksX3_readMachine_0 23 rfl rfl)
theorem dX3_readMachine_24 : decode cX3_readMachine 24 = .ok (.aload_n 0, 1) := dk_42 (dk_at dksX3_readMachine_1 0 rfl rfl)
theorem dX3_readMachine_25 : decode cX3_readMachine 25 = .ok (.ldc2_w 200, 3) := dk_20 0 200 (dk_at dksX3_readMachine_1 1 rfl rfl)
theorem dX3_readMachine_28 : decode cX3_readMachine 28 = .ok (.invokevirtual 315, 3) := dk_182 1 59 (dk_at dksX3_readMachine_1 4 rfl rfl)
theorem dX3_readMachine_31 : decode cX3_readMachine 31 = .ok (.istore 4, 2) := dk_54 4 (dk_at dksX3_readMachine_1 7 rfl rfl)
theorem dX3_readMachine_33 : decode cX3_readMachine 33 = .ok (.aload_n 0, 1) := dk_42 (dk_at dksX3_readMachine_1 9 rfl rfl)
theorem dX3_readMachine_34 : decode cX3_readMachine 34 = .ok (.invokevirtual 318, 3) := dk_182 1 62 (dk_at dksX3_readMachine_1 10 rfl rfl)
theorem dX3_readMachine_37 : decode cX3_readMachine 37 = .ok (.ifCond .eq 7, 3) := dk_153 0 7 (dk_at dksX3_readMachine_1 13 rfl rfl)
theorem dX3_readMachine_40 : decode cX3_readMachine 40 = .ok (.aload_n 0, 1) := dk_42 (dk_at dksX3_readMachine_1 16 rfl rfl)
theorem dX3_readMachine_41 : decode cX3_readMachine 41 = .ok (.invokevirtual 291, 3) := dk_182 1 35 (dk_at dksX3_readMachine_1 17 rfl rfl)
theorem dX3_readMachine_44 : decode cX3_readMachine 44 = .ok (.aload_n 0, 1) := dk_42 (dk_at dksX3_readMachine_1 20 rfl rfl)
theorem dX3_readMachine_45 : decode cX3_readMachine 45 = .ok (.invokevirtual 284, 3) := dk_182 1 28 (dk_at dksX3_readMachine_1 21 rfl rfl)
theorem dX3_readMachine_48 : decode cX3_readMachine 48 = .ok (.ifCond .ne 4, 3) := dk_154 0 4 (dk_at dksX3_readMachine_2 0 rfl rfl)
theorem dX3_readMachine_51 : decode cX3_readMachine 51 = .ok (.return_, 1) := dk_177 (dk_at dksX3_readMachine_2 3 rfl rfl)
theorem dX3_readMachine_52 : decode cX3_readMachine 52 = .ok (.aload_n 0, 1) := dk_42 (dk_at dksX3_readMachine_2 4 rfl rfl)
theorem dX3_readMachine_53 : decode cX3_readMachine 53 = .ok (.invokevirtual 288, 3) := dk_182 1 32 (dk_at dksX3_readMachine_2 5 rfl rfl)
theorem dX3_readMachine_56 : decode cX3_readMachine 56 = .ok (.iload_n 1, 1) := dk_27 (dk_at dksX3_readMachine_2 8 rfl rfl)
theorem dX3_readMachine_57 : decode cX3_readMachine 57 = .ok (.ifCond .eq 10, 3) := dk_153 0 10 (dk_at dksX3_readMachine_2 9 rfl rfl)
theorem dX3_readMachine_60 : decode cX3_readMachine 60 = .ok (.aload_n 0, 1) := dk_42 (dk_at dksX3_readMachine_2 12 rfl rfl)
theorem dX3_readMachine_61 : decode cX3_readMachine 61 = .ok (.invokevirtual 321, 3) := dk_182 1 65 (dk_at dksX3_readMachine_2 13 rfl rfl)
theorem dX3_readMachine_64 : decode cX3_readMachine 64 = .ok (.goto 41, 3) := dk_167 0 41 (dk_at dksX3_readMachine_2 16 rfl rfl)
theorem dX3_readMachine_67 : decode cX3_readMachine 67 = .ok (.iload_n 2, 1) := dk_28 (dk_at dksX3_readMachine_2 19 rfl rfl)
theorem dX3_readMachine_68 : decode cX3_readMachine 68 = .ok (.ifCond .eq 10, 3) := dk_153 0 10 (dk_at dksX3_readMachine_2 20 rfl rfl)
theorem dX3_readMachine_71 : decode cX3_readMachine 71 = .ok (.aload_n 0, 1) := dk_42 (dk_at dksX3_readMachine_2 23 rfl rfl)
theorem dX3_readMachine_72 : decode cX3_readMachine 72 = .ok (.invokevirtual 324, 3) := dk_182 1 68 (dk_at dksX3_readMachine_3 0 rfl rfl)
theorem dX3_readMachine_75 : decode cX3_readMachine 75 = .ok (.goto 30, 3) := dk_167 0 30 (dk_at dksX3_readMachine_3 3 rfl rfl)
theorem dX3_readMachine_78 : decode cX3_readMachine 78 = .ok (.iload_n 3, 1) := dk_29 (dk_at dksX3_readMachine_3 6 rfl rfl)
theorem dX3_readMachine_79 : decode cX3_readMachine 79 = .ok (.ifCond .eq 10, 3) := dk_153 0 10 (dk_at dksX3_readMachine_3 7 rfl rfl)
theorem dX3_readMachine_82 : decode cX3_readMachine 82 = .ok (.aload_n 0, 1) := dk_42 (dk_at dksX3_readMachine_3 10 rfl rfl)
theorem dX3_readMachine_83 : decode cX3_readMachine 83 = .ok (.invokevirtual 327, 3) := dk_182 1 71 (dk_at dksX3_readMachine_3 11 rfl rfl)
theorem dX3_readMachine_86 : decode cX3_readMachine 86 = .ok (.goto 19, 3) := dk_167 0 19 (dk_at dksX3_readMachine_3 14 rfl rfl)
theorem dX3_readMachine_89 : decode cX3_readMachine 89 = .ok (.iload 4, 2) := dk_21 4 (dk_at dksX3_readMachine_3 17 rfl rfl)
theorem dX3_readMachine_91 : decode cX3_readMachine 91 = .ok (.ifCond .eq 10, 3) := dk_153 0 10 (dk_at dksX3_readMachine_3 19 rfl rfl)
theorem dX3_readMachine_94 : decode cX3_readMachine 94 = .ok (.aload_n 0, 1) := dk_42 (dk_at dksX3_readMachine_3 22 rfl rfl)
theorem dX3_readMachine_95 : decode cX3_readMachine 95 = .ok (.invokevirtual 330, 3) := dk_182 1 74 (dk_at dksX3_readMachine_4 0 rfl rfl)
theorem dX3_readMachine_98 : decode cX3_readMachine 98 = .ok (.goto 7, 3) := dk_167 0 7 (dk_at dksX3_readMachine_4 3 rfl rfl)
theorem dX3_readMachine_101 : decode cX3_readMachine 101 = .ok (.aload_n 0, 1) := dk_42 (dk_at dksX3_readMachine_4 6 rfl rfl)
theorem dX3_readMachine_102 : decode cX3_readMachine 102 = .ok (.invokevirtual 333, 3) := dk_182 1 77 (dk_at dksX3_readMachine_4 7 rfl rfl)
theorem dX3_readMachine_105 : decode cX3_readMachine 105 = .ok (.aload_n 0, 1) := dk_42 (dk_at dksX3_readMachine_4 10 rfl rfl)
theorem dX3_readMachine_106 : decode cX3_readMachine 106 = .ok (.aload_n 0, 1) := dk_42 (dk_at dksX3_readMachine_4 11 rfl rfl)
theorem dX3_readMachine_107 : decode cX3_readMachine 107 = .ok (.bipush 59, 2) := dk_16 59 (dk_at dksX3_readMachine_4 12 rfl rfl)
theorem dX3_readMachine_109 : decode cX3_readMachine 109 = .ok (.invokevirtual 336, 3) := dk_182 1 80 (dk_at dksX3_readMachine_4 14 rfl rfl)
theorem dX3_readMachine_112 : decode cX3_readMachine 112 = .ok (.invokevirtual 339, 3) := dk_182 1 83 (dk_at dksX3_readMachine_4 17 rfl rfl)
theorem dX3_readMachine_115 : decode cX3_readMachine 115 = .ok (.aload_n 0, 1) := dk_42 (dk_at dksX3_readMachine_4 20 rfl rfl)
theorem dX3_readMachine_116 : decode cX3_readMachine 116 = .ok (.getfield 20, 3) := dk_180 0 20 (dk_at dksX3_readMachine_4 21 rfl rfl)
theorem dX3_readMachine_119 : decode cX3_readMachine 119 = .ok (.aload_n 0, 1) := dk_42 (dk_at dksX3_readMachine_5 0 rfl rfl)
theorem dX3_readMachine_120 : decode cX3_readMachine 120 = .ok (.getfield 303, 3) := dk_180 1 47 (dk_at dksX3_readMachine_5 1 rfl rfl)
theorem dX3_readMachine_123 : decode cX3_readMachine 123 = .ok (.dup2, 1) := dk_92 (dk_at dksX3_readMachine_5 4 rfl rfl)
theorem dX3_readMachine_124 : decode cX3_readMachine 124 = .ok (.iaload, 1) := dk_46 (dk_at dksX3_readMachine_5 5 rfl rfl)
theorem dX3_readMachine_125 : decode cX3_readMachine 125 = .ok (.iconst 1, 1) := dk_4 (dk_at dksX3_readMachine_5 6 rfl rfl)
theorem dX3_readMachine_126 : decode cX3_readMachine 126 = .ok (.iadd, 1) := dk_96 (dk_at dksX3_readMachine_5 7 rfl rfl)
theorem dX3_readMachine_127 : decode cX3_readMachine 127 = .ok (.iastore, 1) := dk_79 (dk_at dksX3_readMachine_5 8 rfl rfl)
theorem dX3_readMachine_128 : decode cX3_readMachine 128 = .ok (.return_, 1) := dk_177 (dk_at dksX3_readMachine_5 9 rfl rfl)
abbrev cX3_readMoves : ByteArray := prog_24_method_22_code
def dkwX3_readMoves_3 : List UInt8 := [180, 0, 30, 42, 180, 1, 47, 92, 46, 4, 96, 79, 177]
abbrev dktX3_readMoves_3 : List UInt8 := dkwX3_readMoves_3 ++ []
def dkwX3_readMoves_2 : List UInt8 := [20, 0, 198, 182, 1, 59, 182, 1, 83, 42, 180, 0, 63, 27, 42, 3, 16, 24, 182, 1, 87, 79, 42]
abbrev dktX3_readMoves_2 : List UInt8 := dkwX3_readMoves_2 ++ dktX3_readMoves_3
def dkwX3_readMoves_1 : List UInt8 := [2, 182, 1, 91, 79, 42, 180, 0, 60, 27, 42, 42, 180, 0, 57, 27, 46, 182, 1, 91, 79, 42, 42]
abbrev dktX3_readMoves_1 : List UInt8 := dkwX3_readMoves_1 ++ dktX3_readMoves_2
def dkwX3_readMoves_0 : List UInt8 := [16, 16, 42, 180, 1, 47, 104, 42, 180, 0, 30, 42, 180, 1, 47, 46, 96, 60, 42, 180, 0, 57, 27, 42]
abbrev dktX3_readMoves_0 : List UInt8 := dkwX3_readMoves_0 ++ dktX3_readMoves_1
theorem dksX3_readMoves_0 : cX3_readMoves.data.toList.drop 0 = dktX3_readMoves_0 := by decide +kernel
theorem dksX3_readMoves_1 : cX3_readMoves.data.toList.drop 24 = dktX3_readMoves_1 := dk_seg dksX3_readMoves_0 24 rfl rfl
theorem dksX3_readMoves_2 : cX3_readMoves.data.toList.drop 47 = dktX3_readMoves_2 := dk_seg dksX3_readMoves_1 23 rfl rfl
theorem dksX3_readMoves_3 : cX3_readMoves.data.toList.drop 70 = dktX3_readMoves_3 := dk_seg dksX3_readMoves_2 23 rfl rfl
theorem dX3_readMoves_0 : decode cX3_readMoves 0 = .ok (.bipush 16, 2) := dk_16 16 (dk_at dksX3_readMoves_0 0 rfl rfl)
theorem dX3_readMoves_2 : decode cX3_readMoves 2 = .ok (.aload_n 0, 1) := dk_42 (dk_at dksX3_readMoves_0 2 rfl rfl)
theorem dX3_readMoves_3 : decode cX3_readMoves 3 = .ok (.getfield 303, 3) := dk_180 1 47 (dk_at dksX3_readMoves_0 3 rfl rfl)
theorem dX3_readMoves_6 : decode cX3_readMoves 6 = .ok (.imul, 1) := dk_104 (dk_at dksX3_readMoves_0 6 rfl rfl)
theorem dX3_readMoves_7 : decode cX3_readMoves 7 = .ok (.aload_n 0, 1) := dk_42 (dk_at dksX3_readMoves_0 7 rfl rfl)
theorem dX3_readMoves_8 : decode cX3_readMoves 8 = .ok (.getfield 30, 3) := dk_180 0 30 (dk_at dksX3_readMoves_0 8 rfl rfl)
theorem dX3_readMoves_11 : decode cX3_readMoves 11 = .ok (.aload_n 0, 1) := dk_42 (dk_at dksX3_readMoves_0 11 rfl rfl)
theorem dX3_readMoves_12 : decode cX3_readMoves 12 = .ok (.getfield 303, 3) := dk_180 1 47 (dk_at dksX3_readMoves_0 12 rfl rfl)
theorem dX3_readMoves_15 : decode cX3_readMoves 15 = .ok (.iaload, 1) := dk_46 (dk_at dksX3_readMoves_0 15 rfl rfl)
theorem dX3_readMoves_16 : decode cX3_readMoves 16 = .ok (.iadd, 1) := dk_96 (dk_at dksX3_readMoves_0 16 rfl rfl)
theorem dX3_readMoves_17 : decode cX3_readMoves 17 = .ok (.istore_n 1, 1) := dk_60 (dk_at dksX3_readMoves_0 17 rfl rfl)
theorem dX3_readMoves_18 : decode cX3_readMoves 18 = .ok (.aload_n 0, 1) := dk_42 (dk_at dksX3_readMoves_0 18 rfl rfl)
theorem dX3_readMoves_19 : decode cX3_readMoves 19 = .ok (.getfield 57, 3) := dk_180 0 57 (dk_at dksX3_readMoves_0 19 rfl rfl)
theorem dX3_readMoves_22 : decode cX3_readMoves 22 = .ok (.iload_n 1, 1) := dk_27 (dk_at dksX3_readMoves_0 22 rfl rfl)
theorem dX3_readMoves_23 : decode cX3_readMoves 23 = .ok (.aload_n 0, 1) := dk_42 (dk_at dksX3_readMoves_0 23 rfl rfl)
theorem dX3_readMoves_24 : decode cX3_readMoves 24 = .ok (.iconst (-1), 1) := dk_2 (dk_at dksX3_readMoves_1 0 rfl rfl)
theorem dX3_readMoves_25 : decode cX3_readMoves 25 = .ok (.invokevirtual 347, 3) := dk_182 1 91 (dk_at dksX3_readMoves_1 1 rfl rfl)
theorem dX3_readMoves_28 : decode cX3_readMoves 28 = .ok (.iastore, 1) := dk_79 (dk_at dksX3_readMoves_1 4 rfl rfl)
theorem dX3_readMoves_29 : decode cX3_readMoves 29 = .ok (.aload_n 0, 1) := dk_42 (dk_at dksX3_readMoves_1 5 rfl rfl)
theorem dX3_readMoves_30 : decode cX3_readMoves 30 = .ok (.getfield 60, 3) := dk_180 0 60 (dk_at dksX3_readMoves_1 6 rfl rfl)
theorem dX3_readMoves_33 : decode cX3_readMoves 33 = .ok (.iload_n 1, 1) := dk_27 (dk_at dksX3_readMoves_1 9 rfl rfl)
theorem dX3_readMoves_34 : decode cX3_readMoves 34 = .ok (.aload_n 0, 1) := dk_42 (dk_at dksX3_readMoves_1 10 rfl rfl)
theorem dX3_readMoves_35 : decode cX3_readMoves 35 = .ok (.aload_n 0, 1) := dk_42 (dk_at dksX3_readMoves_1 11 rfl rfl)
theorem dX3_readMoves_36 : decode cX3_readMoves 36 = .ok (.getfield 57, 3) := dk_180 0 57 (dk_at dksX3_readMoves_1 12 rfl rfl)
theorem dX3_readMoves_39 : decode cX3_readMoves 39 = .ok (.iload_n 1, 1) := dk_27 (dk_at dksX3_readMoves_1 15 rfl rfl)
theorem dX3_readMoves_40 : decode cX3_readMoves 40 = .ok (.iaload, 1) := dk_46 (dk_at dksX3_readMoves_1 16 rfl rfl)
theorem dX3_readMoves_41 : decode cX3_readMoves 41 = .ok (.invokevirtual 347, 3) := dk_182 1 91 (dk_at dksX3_readMoves_1 17 rfl rfl)
theorem dX3_readMoves_44 : decode cX3_readMoves 44 = .ok (.iastore, 1) := dk_79 (dk_at dksX3_readMoves_1 20 rfl rfl)
theorem dX3_readMoves_45 : decode cX3_readMoves 45 = .ok (.aload_n 0, 1) := dk_42 (dk_at dksX3_readMoves_1 21 rfl rfl)
theorem dX3_readMoves_46 : decode cX3_readMoves 46 = .ok (.aload_n 0, 1) := dk_42 (dk_at dksX3_readMoves_1 22 rfl rfl)
theorem dX3_readMoves_47 : decode cX3_readMoves 47 = .ok (.ldc2_w 198, 3) := dk_20 0 198 (dk_at dksX3_readMoves_2 0 rfl rfl)
theorem dX3_readMoves_50 : decode cX3_readMoves 50 = .ok (.invokevirtual 315, 3) := dk_182 1 59 (dk_at dksX3_readMoves_2 3 rfl rfl)
theorem dX3_readMoves_53 : decode cX3_readMoves 53 = .ok (.invokevirtual 339, 3) := dk_182 1 83 (dk_at dksX3_readMoves_2 6 rfl rfl)
theorem dX3_readMoves_56 : decode cX3_readMoves 56 = .ok (.aload_n 0, 1) := dk_42 (dk_at dksX3_readMoves_2 9 rfl rfl)
theorem dX3_readMoves_57 : decode cX3_readMoves 57 = .ok (.getfield 63, 3) := dk_180 0 63 (dk_at dksX3_readMoves_2 10 rfl rfl)
theorem dX3_readMoves_60 : decode cX3_readMoves 60 = .ok (.iload_n 1, 1) := dk_27 (dk_at dksX3_readMoves_2 13 rfl rfl)
theorem dX3_readMoves_61 : decode cX3_readMoves 61 = .ok (.aload_n 0, 1) := dk_42 (dk_at dksX3_readMoves_2 14 rfl rfl)
theorem dX3_readMoves_62 : decode cX3_readMoves 62 = .ok (.iconst 0, 1) := dk_3 (dk_at dksX3_readMoves_2 15 rfl rfl)
theorem dX3_readMoves_63 : decode cX3_readMoves 63 = .ok (.bipush 24, 2) := dk_16 24 (dk_at dksX3_readMoves_2 16 rfl rfl)
theorem dX3_readMoves_65 : decode cX3_readMoves 65 = .ok (.invokevirtual 343, 3) := dk_182 1 87 (dk_at dksX3_readMoves_2 18 rfl rfl)
theorem dX3_readMoves_68 : decode cX3_readMoves 68 = .ok (.iastore, 1) := dk_79 (dk_at dksX3_readMoves_2 21 rfl rfl)
theorem dX3_readMoves_69 : decode cX3_readMoves 69 = .ok (.aload_n 0, 1) := dk_42 (dk_at dksX3_readMoves_2 22 rfl rfl)
theorem dX3_readMoves_70 : decode cX3_readMoves 70 = .ok (.getfield 30, 3) := dk_180 0 30 (dk_at dksX3_readMoves_3 0 rfl rfl)
theorem dX3_readMoves_73 : decode cX3_readMoves 73 = .ok (.aload_n 0, 1) := dk_42 (dk_at dksX3_readMoves_3 3 rfl rfl)
theorem dX3_readMoves_74 : decode cX3_readMoves 74 = .ok (.getfield 303, 3) := dk_180 1 47 (dk_at dksX3_readMoves_3 4 rfl rfl)
theorem dX3_readMoves_77 : decode cX3_readMoves 77 = .ok (.dup2, 1) := dk_92 (dk_at dksX3_readMoves_3 7 rfl rfl)
theorem dX3_readMoves_78 : decode cX3_readMoves 78 = .ok (.iaload, 1) := dk_46 (dk_at dksX3_readMoves_3 8 rfl rfl)
theorem dX3_readMoves_79 : decode cX3_readMoves 79 = .ok (.iconst 1, 1) := dk_4 (dk_at dksX3_readMoves_3 9 rfl rfl)
theorem dX3_readMoves_80 : decode cX3_readMoves 80 = .ok (.iadd, 1) := dk_96 (dk_at dksX3_readMoves_3 10 rfl rfl)
theorem dX3_readMoves_81 : decode cX3_readMoves 81 = .ok (.iastore, 1) := dk_79 (dk_at dksX3_readMoves_3 11 rfl rfl)
theorem dX3_readMoves_82 : decode cX3_readMoves 82 = .ok (.return_, 1) := dk_177 (dk_at dksX3_readMoves_3 12 rfl rfl)
abbrev cX3_readPart : ByteArray := prog_24_method_19_code
def dkwX3_readPart_10 : List UInt8 := [42, 3, 17, 3, 231, 182, 1, 87, 79, 42, 180, 0, 24, 42, 180, 1, 47, 92, 46, 4, 96, 79, 177]
abbrev dktX3_readPart_10 : List UInt8 := dkwX3_readPart_10 ++ []
def dkwX3_readPart_9 : List UInt8 := [42, 3, 16, 99, 182, 1, 87, 79, 42, 42, 20, 0, 190, 182, 1, 59, 182, 1, 83, 42, 180, 0, 45, 27]
abbrev dktX3_readPart_9 : List UInt8 := dkwX3_readPart_9 ++ dktX3_readPart_10
def dkwX3_readPart_8 : List UInt8 := [167, 0, 7, 28, 16, 10, 104, 79, 42, 42, 20, 0, 188, 182, 1, 59, 182, 1, 83, 42, 180, 0, 42, 27]
abbrev dktX3_readPart_8 : List UInt8 := dkwX3_readPart_8 ++ dktX3_readPart_9
def dkwX3_readPart_7 : List UInt8 := [167, 0, 4, 3, 182, 1, 83, 42, 180, 0, 39, 27, 29, 153, 0, 14, 28, 17, 0, 254, 104, 16, 10, 108]
abbrev dktX3_readPart_7 : List UInt8 := dkwX3_readPart_7 ++ dktX3_readPart_8
def dkwX3_readPart_6 : List UInt8 := [42, 20, 0, 186, 182, 1, 59, 62, 42, 29, 154, 0, 13, 42, 20, 0, 184, 182, 1, 59, 153, 0, 7, 4]
abbrev dktX3_readPart_6 : List UInt8 := dkwX3_readPart_6 ++ dktX3_readPart_7
def dkwX3_readPart_5 : List UInt8 := [182, 1, 87, 79, 42, 42, 20, 0, 182, 182, 1, 59, 182, 1, 83, 42, 4, 17, 3, 231, 182, 1, 87, 61]
abbrev dktX3_readPart_5 : List UInt8 := dkwX3_readPart_5 ++ dktX3_readPart_6
def dkwX3_readPart_4 : List UInt8 := [182, 1, 83, 42, 42, 20, 0, 180, 182, 1, 59, 182, 1, 83, 42, 180, 0, 36, 27, 42, 3, 4]
abbrev dktX3_readPart_4 : List UInt8 := dkwX3_readPart_4 ++ dktX3_readPart_5
def dkwX3_readPart_3 : List UInt8 := [180, 0, 79, 27, 42, 180, 1, 7, 80, 42, 42, 180, 1, 0, 5, 160, 0, 7, 4, 167, 0, 4, 3]
abbrev dktX3_readPart_3 : List UInt8 := dkwX3_readPart_3 ++ dktX3_readPart_4
def dkwX3_readPart_2 : List UInt8 := [180, 1, 7, 148, 154, 0, 12, 42, 6, 42, 180, 0, 249, 182, 1, 24, 132, 2, 1, 167, 255, 217, 42]
abbrev dktX3_readPart_2 : List UInt8 := dkwX3_readPart_2 ++ dktX3_readPart_3
def dkwX3_readPart_1 : List UInt8 := [104, 61, 28, 27, 162, 0, 40, 42, 180, 1, 0, 5, 160, 0, 26, 42, 180, 0, 79, 28, 47, 42]
abbrev dktX3_readPart_1 : List UInt8 := dkwX3_readPart_1 ++ dktX3_readPart_2
def dkwX3_readPart_0 : List UInt8 := [16, 12, 42, 180, 1, 47, 104, 42, 180, 0, 24, 42, 180, 1, 47, 46, 96, 60, 16, 12, 42, 180, 1, 47]
abbrev dktX3_readPart_0 : List UInt8 := dkwX3_readPart_0 ++ dktX3_readPart_1
theorem dksX3_readPart_0 : cX3_readPart.data.toList.drop 0 = dktX3_readPart_0 := by decide +kernel
theorem dksX3_readPart_1 : cX3_readPart.data.toList.drop 24 = dktX3_readPart_1 := dk_seg dksX3_readPart_0 24 rfl rfl
theorem dksX3_readPart_2 : cX3_readPart.data.toList.drop 46 = dktX3_readPart_2 := dk_seg dksX3_readPart_1 22 rfl rfl
theorem dksX3_readPart_3 : cX3_readPart.data.toList.drop 69 = dktX3_readPart_3 := dk_seg dksX3_readPart_2 23 rfl rfl
theorem dksX3_readPart_4 : cX3_readPart.data.toList.drop 92 = dktX3_readPart_4 := dk_seg dksX3_readPart_3 23 rfl rfl
theorem dksX3_readPart_5 : cX3_readPart.data.toList.drop 114 = dktX3_readPart_5 := dk_seg dksX3_readPart_4 22 rfl rfl
theorem dksX3_readPart_6 : cX3_readPart.data.toList.drop 138 = dktX3_readPart_6 := dk_seg dksX3_readPart_5 24 rfl rfl
theorem dksX3_readPart_7 : cX3_readPart.data.toList.drop 162 = dktX3_readPart_7 := dk_seg dksX3_readPart_6 24 rfl rfl
theorem dksX3_readPart_8 : cX3_readPart.data.toList.drop 186 = dktX3_readPart_8 := dk_seg dksX3_readPart_7 24 rfl rfl
theorem dksX3_readPart_9 : cX3_readPart.data.toList.drop 210 = dktX3_readPart_9 := dk_seg dksX3_readPart_8 24 rfl rfl
theorem dksX3_readPart_10 : cX3_readPart.data.toList.drop 234 = dktX3_readPart_10 := dk_seg dksX3_readPart_9 24 rfl rfl
theorem dX3_readPart_0 : decode cX3_readPart 0 = .ok (.bipush 12, 2) := dk_16 12 (dk_at dksX3_readPart_0 0 rfl rfl)
theorem dX3_readPart_2 : decode cX3_readPart 2 = .ok (.aload_n 0, 1) := dk_42 (dk_at dksX3_readPart_0 2 rfl rfl)
theorem dX3_readPart_3 : decode cX3_readPart 3 = .ok (.getfield 303, 3) := dk_180 1 47 (dk_at dksX3_readPart_0 3 rfl rfl)
theorem dX3_readPart_6 : decode cX3_readPart 6 = .ok (.imul, 1) := dk_104 (dk_at dksX3_readPart_0 6 rfl rfl)
theorem dX3_readPart_7 : decode cX3_readPart 7 = .ok (.aload_n 0, 1) := dk_42 (dk_at dksX3_readPart_0 7 rfl rfl)
theorem dX3_readPart_8 : decode cX3_readPart 8 = .ok (.getfield 24, 3) := dk_180 0 24 (dk_at dksX3_readPart_0 8 rfl rfl)
theorem dX3_readPart_11 : decode cX3_readPart 11 = .ok (.aload_n 0, 1) := dk_42 (dk_at dksX3_readPart_0 11 rfl rfl)
theorem dX3_readPart_12 : decode cX3_readPart 12 = .ok (.getfield 303, 3) := dk_180 1 47 (dk_at dksX3_readPart_0 12 rfl rfl)
theorem dX3_readPart_15 : decode cX3_readPart 15 = .ok (.iaload, 1) := dk_46 (dk_at dksX3_readPart_0 15 rfl rfl)
theorem dX3_readPart_16 : decode cX3_readPart 16 = .ok (.iadd, 1) := dk_96 (dk_at dksX3_readPart_0 16 rfl rfl)
theorem dX3_readPart_17 : decode cX3_readPart 17 = .ok (.istore_n 1, 1) := dk_60 (dk_at dksX3_readPart_0 17 rfl rfl)
theorem dX3_readPart_18 : decode cX3_readPart 18 = .ok (.bipush 12, 2) := dk_16 12 (dk_at dksX3_readPart_0 18 rfl rfl)
theorem dX3_readPart_20 : decode cX3_readPart 20 = .ok (.aload_n 0, 1) := dk_42 (dk_at dksX3_readPart_0 20 rfl rfl)
theorem dX3_readPart_21 : decode cX3_readPart 21 = .ok (.getfield 303, 3) := dk_180 1 47 (dk_at dksX3_readPart_0 21 rfl rfl)
theorem dX3_readPart_24 : decode cX3_readPart 24 = .ok (.imul, 1) := dk_104 (dk_at dksX3_readPart_1 0 rfl rfl)
theorem dX3_readPart_25 : decode cX3_readPart 25 = .ok (.istore_n 2, 1) := dk_61 (dk_at dksX3_readPart_1 1 rfl rfl)
theorem dX3_readPart_26 : decode cX3_readPart 26 = .ok (.iload_n 2, 1) := dk_28 (dk_at dksX3_readPart_1 2 rfl rfl)
theorem dX3_readPart_27 : decode cX3_readPart 27 = .ok (.iload_n 1, 1) := dk_27 (dk_at dksX3_readPart_1 3 rfl rfl)
theorem dX3_readPart_28 : decode cX3_readPart 28 = .ok (.if_icmp .ge 40, 3) := dk_162 0 40 (dk_at dksX3_readPart_1 4 rfl rfl)
theorem dX3_readPart_31 : decode cX3_readPart 31 = .ok (.aload_n 0, 1) := dk_42 (dk_at dksX3_readPart_1 7 rfl rfl)
theorem dX3_readPart_32 : decode cX3_readPart 32 = .ok (.getfield 256, 3) := dk_180 1 0 (dk_at dksX3_readPart_1 8 rfl rfl)
theorem dX3_readPart_35 : decode cX3_readPart 35 = .ok (.iconst 2, 1) := dk_5 (dk_at dksX3_readPart_1 11 rfl rfl)
theorem dX3_readPart_36 : decode cX3_readPart 36 = .ok (.if_icmp .ne 26, 3) := dk_160 0 26 (dk_at dksX3_readPart_1 12 rfl rfl)
theorem dX3_readPart_39 : decode cX3_readPart 39 = .ok (.aload_n 0, 1) := dk_42 (dk_at dksX3_readPart_1 15 rfl rfl)
theorem dX3_readPart_40 : decode cX3_readPart 40 = .ok (.getfield 79, 3) := dk_180 0 79 (dk_at dksX3_readPart_1 16 rfl rfl)
theorem dX3_readPart_43 : decode cX3_readPart 43 = .ok (.iload_n 2, 1) := dk_28 (dk_at dksX3_readPart_1 19 rfl rfl)
theorem dX3_readPart_44 : decode cX3_readPart 44 = .ok (.laload, 1) := dk_47 (dk_at dksX3_readPart_1 20 rfl rfl)
theorem dX3_readPart_45 : decode cX3_readPart 45 = .ok (.aload_n 0, 1) := dk_42 (dk_at dksX3_readPart_1 21 rfl rfl)
theorem dX3_readPart_46 : decode cX3_readPart 46 = .ok (.getfield 263, 3) := dk_180 1 7 (dk_at dksX3_readPart_2 0 rfl rfl)
theorem dX3_readPart_49 : decode cX3_readPart 49 = .ok (.lcmp, 1) := dk_148 (dk_at dksX3_readPart_2 3 rfl rfl)
theorem dX3_readPart_50 : decode cX3_readPart 50 = .ok (.ifCond .ne 12, 3) := dk_154 0 12 (dk_at dksX3_readPart_2 4 rfl rfl)
theorem dX3_readPart_53 : decode cX3_readPart 53 = .ok (.aload_n 0, 1) := dk_42 (dk_at dksX3_readPart_2 7 rfl rfl)
theorem dX3_readPart_54 : decode cX3_readPart 54 = .ok (.iconst 3, 1) := dk_6 (dk_at dksX3_readPart_2 8 rfl rfl)
theorem dX3_readPart_55 : decode cX3_readPart 55 = .ok (.aload_n 0, 1) := dk_42 (dk_at dksX3_readPart_2 9 rfl rfl)
theorem dX3_readPart_56 : decode cX3_readPart 56 = .ok (.getfield 249, 3) := dk_180 0 249 (dk_at dksX3_readPart_2 10 rfl rfl)
theorem dX3_readPart_59 : decode cX3_readPart 59 = .ok (.invokevirtual 280, 3) := dk_182 1 24 (dk_at dksX3_readPart_2 13 rfl rfl)
theorem dX3_readPart_62 : decode cX3_readPart 62 = .ok (.iinc 2 1, 3) := dk_132 2 1 (dk_at dksX3_readPart_2 16 rfl rfl)
theorem dX3_readPart_65 : decode cX3_readPart 65 = .ok (.goto (-39), 3) := dk_167 255 217 (dk_at dksX3_readPart_2 19 rfl rfl)
theorem dX3_readPart_68 : decode cX3_readPart 68 = .ok (.aload_n 0, 1) := dk_42 (dk_at dksX3_readPart_2 22 rfl rfl)
theorem dX3_readPart_69 : decode cX3_readPart 69 = .ok (.getfield 79, 3) := dk_180 0 79 (dk_at dksX3_readPart_3 0 rfl rfl)
theorem dX3_readPart_72 : decode cX3_readPart 72 = .ok (.iload_n 1, 1) := dk_27 (dk_at dksX3_readPart_3 3 rfl rfl)
theorem dX3_readPart_73 : decode cX3_readPart 73 = .ok (.aload_n 0, 1) := dk_42 (dk_at dksX3_readPart_3 4 rfl rfl)
theorem dX3_readPart_74 : decode cX3_readPart 74 = .ok (.getfield 263, 3) := dk_180 1 7 (dk_at dksX3_readPart_3 5 rfl rfl)
theorem dX3_readPart_77 : decode cX3_readPart 77 = .ok (.lastore, 1) := dk_80 (dk_at dksX3_readPart_3 8 rfl rfl)
theorem dX3_readPart_78 : decode cX3_readPart 78 = .ok (.aload_n 0, 1) := dk_42 (dk_at dksX3_readPart_3 9 rfl rfl)
theorem dX3_readPart_79 : decode cX3_readPart 79 = .ok (.aload_n 0, 1) := dk_42 (dk_at dksX3_readPart_3 10 rfl rfl)
theorem dX3_readPart_80 : decode cX3_readPart 80 = .ok (.getfield 256, 3) := dk_180 1 0 (dk_at dksX3_readPart_3 11 rfl rfl)
theorem dX3_readPart_83 : decode cX3_readPart 83 = .ok (.iconst 2, 1) := dk_5 (dk_at dksX3_readPart_3 14 rfl rfl)
theorem dX3_readPart_84 : decode cX3_readPart 84 = .ok (.if_icmp .ne 7, 3) := dk_160 0 7 (dk_at dksX3_readPart_3 15 rfl rfl)
theorem dX3_readPart_87 : decode cX3_readPart 87 = .ok (.iconst 1, 1) := dk_4 (dk_at dksX3_readPart_3 18 rfl rfl)
theorem dX3_readPart_88 : decode cX3_readPart 88 = .ok (.goto 4, 3) := dk_167 0 4 (dk_at dksX3_readPart_3 19 rfl rfl)
theorem dX3_readPart_91 : decode cX3_readPart 91 = .ok (.iconst 0, 1) := dk_3 (dk_at dksX3_readPart_3 22 rfl rfl)
theorem dX3_readPart_92 : decode cX3_readPart 92 = .ok (.invokevirtual 339, 3) := dk_182 1 83 (dk_at dksX3_readPart_4 0 rfl rfl)
theorem dX3_readPart_95 : decode cX3_readPart 95 = .ok (.aload_n 0, 1) := dk_42 (dk_at dksX3_readPart_4 3 rfl rfl)
theorem dX3_readPart_96 : decode cX3_readPart 96 = .ok (.aload_n 0, 1) := dk_42 (dk_at dksX3_readPart_4 4 rfl rfl)
theorem dX3_readPart_97 : decode cX3_readPart 97 = .ok (.ldc2_w 180, 3) := dk_20 0 180 (dk_at dksX3_readPart_4 5 rfl rfl)
theorem dX3_readPart_100 : decode cX3_readPart 100 = .ok (.invokevirtual 315, 3) := dk_182 1 59 (dk_at dksX3_readPart_4 8 rfl rfl)
theorem dX3_readPart_103 : decode cX3_readPart 103 = .ok (.invokevirtual 339, 3) := dk_182 1 83 (dk_at dksX3_readPart_4 11 rfl rfl)
theorem dX3_readPart_106 : decode cX3_readPart 106 = .ok (.aload_n 0, 1) := dk_42 (dk_at dksX3_readPart_4 14 rfl rfl)
theorem dX3_readPart_107 : decode cX3_readPart 107 = .ok (.getfield 36, 3) := dk_180 0 36 (dk_at dksX3_readPart_4 15 rfl rfl)
theorem dX3_readPart_110 : decode cX3_readPart 110 = .ok (.iload_n 1, 1) := dk_27 (dk_at dksX3_readPart_4 18 rfl rfl)
theorem dX3_readPart_111 : decode cX3_readPart 111 = .ok (.aload_n 0, 1) := dk_42 (dk_at dksX3_readPart_4 19 rfl rfl)
theorem dX3_readPart_112 : decode cX3_readPart 112 = .ok (.iconst 0, 1) := dk_3 (dk_at dksX3_readPart_4 20 rfl rfl)
theorem dX3_readPart_113 : decode cX3_readPart 113 = .ok (.iconst 1, 1) := dk_4 (dk_at dksX3_readPart_4 21 rfl rfl)
theorem dX3_readPart_114 : decode cX3_readPart 114 = .ok (.invokevirtual 343, 3) := dk_182 1 87 (dk_at dksX3_readPart_5 0 rfl rfl)
theorem dX3_readPart_117 : decode cX3_readPart 117 = .ok (.iastore, 1) := dk_79 (dk_at dksX3_readPart_5 3 rfl rfl)
theorem dX3_readPart_118 : decode cX3_readPart 118 = .ok (.aload_n 0, 1) := dk_42 (dk_at dksX3_readPart_5 4 rfl rfl)
theorem dX3_readPart_119 : decode cX3_readPart 119 = .ok (.aload_n 0, 1) := dk_42 (dk_at dksX3_readPart_5 5 rfl rfl)
theorem dX3_readPart_120 : decode cX3_readPart 120 = .ok (.ldc2_w 182, 3) := dk_20 0 182 (dk_at dksX3_readPart_5 6 rfl rfl)
theorem dX3_readPart_123 : decode cX3_readPart 123 = .ok (.invokevirtual 315, 3) := dk_182 1 59 (dk_at dksX3_readPart_5 9 rfl rfl)
theorem dX3_readPart_126 : decode cX3_readPart 126 = .ok (.invokevirtual 339, 3) := dk_182 1 83 (dk_at dksX3_readPart_5 12 rfl rfl)
theorem dX3_readPart_129 : decode cX3_readPart 129 = .ok (.aload_n 0, 1) := dk_42 (dk_at dksX3_readPart_5 15 rfl rfl)
theorem dX3_readPart_130 : decode cX3_readPart 130 = .ok (.iconst 1, 1) := dk_4 (dk_at dksX3_readPart_5 16 rfl rfl)
theorem dX3_readPart_131 : decode cX3_readPart 131 = .ok (.sipush 999, 3) := dk_17 3 231 (dk_at dksX3_readPart_5 17 rfl rfl)
theorem dX3_readPart_134 : decode cX3_readPart 134 = .ok (.invokevirtual 343, 3) := dk_182 1 87 (dk_at dksX3_readPart_5 20 rfl rfl)
theorem dX3_readPart_137 : decode cX3_readPart 137 = .ok (.istore_n 2, 1) := dk_61 (dk_at dksX3_readPart_5 23 rfl rfl)
theorem dX3_readPart_138 : decode cX3_readPart 138 = .ok (.aload_n 0, 1) := dk_42 (dk_at dksX3_readPart_6 0 rfl rfl)
theorem dX3_readPart_139 : decode cX3_readPart 139 = .ok (.ldc2_w 186, 3) := dk_20 0 186 (dk_at dksX3_readPart_6 1 rfl rfl)
theorem dX3_readPart_142 : decode cX3_readPart 142 = .ok (.invokevirtual 315, 3) := dk_182 1 59 (dk_at dksX3_readPart_6 4 rfl rfl)
theorem dX3_readPart_145 : decode cX3_readPart 145 = .ok (.istore_n 3, 1) := dk_62 (dk_at dksX3_readPart_6 7 rfl rfl)
theorem dX3_readPart_146 : decode cX3_readPart 146 = .ok (.aload_n 0, 1) := dk_42 (dk_at dksX3_readPart_6 8 rfl rfl)
theorem dX3_readPart_147 : decode cX3_readPart 147 = .ok (.iload_n 3, 1) := dk_29 (dk_at dksX3_readPart_6 9 rfl rfl)
theorem dX3_readPart_148 : decode cX3_readPart 148 = .ok (.ifCond .ne 13, 3) := dk_154 0 13 (dk_at dksX3_readPart_6 10 rfl rfl)
theorem dX3_readPart_151 : decode cX3_readPart 151 = .ok (.aload_n 0, 1) := dk_42 (dk_at dksX3_readPart_6 13 rfl rfl)
theorem dX3_readPart_152 : decode cX3_readPart 152 = .ok (.ldc2_w 184, 3) := dk_20 0 184 (dk_at dksX3_readPart_6 14 rfl rfl)
theorem dX3_readPart_155 : decode cX3_readPart 155 = .ok (.invokevirtual 315, 3) := dk_182 1 59 (dk_at dksX3_readPart_6 17 rfl rfl)
theorem dX3_readPart_158 : decode cX3_readPart 158 = .ok (.ifCond .eq 7, 3) := dk_153 0 7 (dk_at dksX3_readPart_6 20 rfl rfl)
theorem dX3_readPart_161 : decode cX3_readPart 161 = .ok (.iconst 1, 1) := dk_4 (dk_at dksX3_readPart_6 23 rfl rfl)
theorem dX3_readPart_162 : decode cX3_readPart 162 = .ok (.goto 4, 3) := dk_167 0 4 (dk_at dksX3_readPart_7 0 rfl rfl)
theorem dX3_readPart_165 : decode cX3_readPart 165 = .ok (.iconst 0, 1) := dk_3 (dk_at dksX3_readPart_7 3 rfl rfl)
theorem dX3_readPart_166 : decode cX3_readPart 166 = .ok (.invokevirtual 339, 3) := dk_182 1 83 (dk_at dksX3_readPart_7 4 rfl rfl)
theorem dX3_readPart_169 : decode cX3_readPart 169 = .ok (.aload_n 0, 1) := dk_42 (dk_at dksX3_readPart_7 7 rfl rfl)
theorem dX3_readPart_170 : decode cX3_readPart 170 = .ok (.getfield 39, 3) := dk_180 0 39 (dk_at dksX3_readPart_7 8 rfl rfl)
theorem dX3_readPart_173 : decode cX3_readPart 173 = .ok (.iload_n 1, 1) := dk_27 (dk_at dksX3_readPart_7 11 rfl rfl)
theorem dX3_readPart_174 : decode cX3_readPart 174 = .ok (.iload_n 3, 1) := dk_29 (dk_at dksX3_readPart_7 12 rfl rfl)
theorem dX3_readPart_175 : decode cX3_readPart 175 = .ok (.ifCond .eq 14, 3) := dk_153 0 14 (dk_at dksX3_readPart_7 13 rfl rfl)
theorem dX3_readPart_178 : decode cX3_readPart 178 = .ok (.iload_n 2, 1) := dk_28 (dk_at dksX3_readPart_7 16 rfl rfl)
theorem dX3_readPart_179 : decode cX3_readPart 179 = .ok (.sipush 254, 3) := dk_17 0 254 (dk_at dksX3_readPart_7 17 rfl rfl)
theorem dX3_readPart_182 : decode cX3_readPart 182 = .ok (.imul, 1) := dk_104 (dk_at dksX3_readPart_7 20 rfl rfl)
theorem dX3_readPart_183 : decode cX3_readPart 183 = .ok (.bipush 10, 2) := dk_16 10 (dk_at dksX3_readPart_7 21 rfl rfl)
theorem dX3_readPart_185 : decode cX3_readPart 185 = .ok (.idiv, 1) := dk_108 (dk_at dksX3_readPart_7 23 rfl rfl)
theorem dX3_readPart_186 : decode cX3_readPart 186 = .ok (.goto 7, 3) := dk_167 0 7 (dk_at dksX3_readPart_8 0 rfl rfl)
theorem dX3_readPart_189 : decode cX3_readPart 189 = .ok (.iload_n 2, 1) := dk_28 (dk_at dksX3_readPart_8 3 rfl rfl)
theorem dX3_readPart_190 : decode cX3_readPart 190 = .ok (.bipush 10, 2) := dk_16 10 (dk_at dksX3_readPart_8 4 rfl rfl)
theorem dX3_readPart_192 : decode cX3_readPart 192 = .ok (.imul, 1) := dk_104 (dk_at dksX3_readPart_8 6 rfl rfl)
theorem dX3_readPart_193 : decode cX3_readPart 193 = .ok (.iastore, 1) := dk_79 (dk_at dksX3_readPart_8 7 rfl rfl)
theorem dX3_readPart_194 : decode cX3_readPart 194 = .ok (.aload_n 0, 1) := dk_42 (dk_at dksX3_readPart_8 8 rfl rfl)
theorem dX3_readPart_195 : decode cX3_readPart 195 = .ok (.aload_n 0, 1) := dk_42 (dk_at dksX3_readPart_8 9 rfl rfl)
theorem dX3_readPart_196 : decode cX3_readPart 196 = .ok (.ldc2_w 188, 3) := dk_20 0 188 (dk_at dksX3_readPart_8 10 rfl rfl)
theorem dX3_readPart_199 : decode cX3_readPart 199 = .ok (.invokevirtual 315, 3) := dk_182 1 59 (dk_at dksX3_readPart_8 13 rfl rfl)
theorem dX3_readPart_202 : decode cX3_readPart 202 = .ok (.invokevirtual 339, 3) := dk_182 1 83 (dk_at dksX3_readPart_8 16 rfl rfl)
theorem dX3_readPart_205 : decode cX3_readPart 205 = .ok (.aload_n 0, 1) := dk_42 (dk_at dksX3_readPart_8 19 rfl rfl)
theorem dX3_readPart_206 : decode cX3_readPart 206 = .ok (.getfield 42, 3) := dk_180 0 42 (dk_at dksX3_readPart_8 20 rfl rfl)
theorem dX3_readPart_209 : decode cX3_readPart 209 = .ok (.iload_n 1, 1) := dk_27 (dk_at dksX3_readPart_8 23 rfl rfl)
theorem dX3_readPart_210 : decode cX3_readPart 210 = .ok (.aload_n 0, 1) := dk_42 (dk_at dksX3_readPart_9 0 rfl rfl)
theorem dX3_readPart_211 : decode cX3_readPart 211 = .ok (.iconst 0, 1) := dk_3 (dk_at dksX3_readPart_9 1 rfl rfl)
theorem dX3_readPart_212 : decode cX3_readPart 212 = .ok (.bipush 99, 2) := dk_16 99 (dk_at dksX3_readPart_9 2 rfl rfl)
theorem dX3_readPart_214 : decode cX3_readPart 214 = .ok (.invokevirtual 343, 3) := dk_182 1 87 (dk_at dksX3_readPart_9 4 rfl rfl)
theorem dX3_readPart_217 : decode cX3_readPart 217 = .ok (.iastore, 1) := dk_79 (dk_at dksX3_readPart_9 7 rfl rfl)
theorem dX3_readPart_218 : decode cX3_readPart 218 = .ok (.aload_n 0, 1) := dk_42 (dk_at dksX3_readPart_9 8 rfl rfl)
theorem dX3_readPart_219 : decode cX3_readPart 219 = .ok (.aload_n 0, 1) := dk_42 (dk_at dksX3_readPart_9 9 rfl rfl)
theorem dX3_readPart_220 : decode cX3_readPart 220 = .ok (.ldc2_w 190, 3) := dk_20 0 190 (dk_at dksX3_readPart_9 10 rfl rfl)
theorem dX3_readPart_223 : decode cX3_readPart 223 = .ok (.invokevirtual 315, 3) := dk_182 1 59 (dk_at dksX3_readPart_9 13 rfl rfl)
theorem dX3_readPart_226 : decode cX3_readPart 226 = .ok (.invokevirtual 339, 3) := dk_182 1 83 (dk_at dksX3_readPart_9 16 rfl rfl)
theorem dX3_readPart_229 : decode cX3_readPart 229 = .ok (.aload_n 0, 1) := dk_42 (dk_at dksX3_readPart_9 19 rfl rfl)
theorem dX3_readPart_230 : decode cX3_readPart 230 = .ok (.getfield 45, 3) := dk_180 0 45 (dk_at dksX3_readPart_9 20 rfl rfl)
theorem dX3_readPart_233 : decode cX3_readPart 233 = .ok (.iload_n 1, 1) := dk_27 (dk_at dksX3_readPart_9 23 rfl rfl)
theorem dX3_readPart_234 : decode cX3_readPart 234 = .ok (.aload_n 0, 1) := dk_42 (dk_at dksX3_readPart_10 0 rfl rfl)
theorem dX3_readPart_235 : decode cX3_readPart 235 = .ok (.iconst 0, 1) := dk_3 (dk_at dksX3_readPart_10 1 rfl rfl)
theorem dX3_readPart_236 : decode cX3_readPart 236 = .ok (.sipush 999, 3) := dk_17 3 231 (dk_at dksX3_readPart_10 2 rfl rfl)
theorem dX3_readPart_239 : decode cX3_readPart 239 = .ok (.invokevirtual 343, 3) := dk_182 1 87 (dk_at dksX3_readPart_10 5 rfl rfl)
theorem dX3_readPart_242 : decode cX3_readPart 242 = .ok (.iastore, 1) := dk_79 (dk_at dksX3_readPart_10 8 rfl rfl)
theorem dX3_readPart_243 : decode cX3_readPart 243 = .ok (.aload_n 0, 1) := dk_42 (dk_at dksX3_readPart_10 9 rfl rfl)
theorem dX3_readPart_244 : decode cX3_readPart 244 = .ok (.getfield 24, 3) := dk_180 0 24 (dk_at dksX3_readPart_10 10 rfl rfl)
theorem dX3_readPart_247 : decode cX3_readPart 247 = .ok (.aload_n 0, 1) := dk_42 (dk_at dksX3_readPart_10 13 rfl rfl)
theorem dX3_readPart_248 : decode cX3_readPart 248 = .ok (.getfield 303, 3) := dk_180 1 47 (dk_at dksX3_readPart_10 14 rfl rfl)
theorem dX3_readPart_251 : decode cX3_readPart 251 = .ok (.dup2, 1) := dk_92 (dk_at dksX3_readPart_10 17 rfl rfl)
theorem dX3_readPart_252 : decode cX3_readPart 252 = .ok (.iaload, 1) := dk_46 (dk_at dksX3_readPart_10 18 rfl rfl)
theorem dX3_readPart_253 : decode cX3_readPart 253 = .ok (.iconst 1, 1) := dk_4 (dk_at dksX3_readPart_10 19 rfl rfl)
theorem dX3_readPart_254 : decode cX3_readPart 254 = .ok (.iadd, 1) := dk_96 (dk_at dksX3_readPart_10 20 rfl rfl)
theorem dX3_readPart_255 : decode cX3_readPart 255 = .ok (.iastore, 1) := dk_79 (dk_at dksX3_readPart_10 21 rfl rfl)
theorem dX3_readPart_256 : decode cX3_readPart 256 = .ok (.return_, 1) := dk_177 (dk_at dksX3_readPart_10 22 rfl rfl)
abbrev cX3_readRow : ByteArray := prog_24_method_24_code
def dkwX3_readRow_9 : List UInt8 := [42, 180, 0, 249, 29, 96, 182, 0, 252, 16, 97, 100, 79, 132, 3, 1, 167, 255, 215, 42, 182, 1, 32, 177]
abbrev dktX3_readRow_9 : List UInt8 := dkwX3_readRow_9 ++ []
def dkwX3_readRow_8 : List UInt8 := [16, 8, 162, 0, 41, 42, 180, 0, 72, 16, 64, 42, 180, 1, 47, 104, 16, 8, 27, 104, 96, 29, 96, 42]
abbrev dktX3_readRow_8 : List UInt8 := dkwX3_readRow_8 ++ dktX3_readRow_9
def dkwX3_readRow_7 : List UInt8 := [154, 0, 12, 42, 7, 42, 180, 0, 249, 182, 1, 24, 42, 182, 1, 28, 154, 0, 4, 177, 3, 62, 29]
abbrev dktX3_readRow_7 : List UInt8 := dkwX3_readRow_7 ++ dktX3_readRow_8
def dkwX3_readRow_6 : List UInt8 := [163, 0, 7, 4, 167, 0, 4, 3, 61, 132, 3, 1, 167, 255, 225, 42, 182, 1, 28, 153, 0, 16, 28]
abbrev dktX3_readRow_6 : List UInt8 := dkwX3_readRow_6 ++ dktX3_readRow_7
def dkwX3_readRow_5 : List UInt8 := [180, 0, 249, 62, 29, 42, 180, 0, 246, 162, 0, 29, 28, 153, 0, 17, 42, 29, 182, 0, 252, 16, 104]
abbrev dktX3_readRow_5 : List UInt8 := dkwX3_readRow_5 ++ dktX3_readRow_6
def dkwX3_readRow_4 : List UInt8 := [182, 1, 35, 42, 180, 0, 246, 42, 180, 0, 249, 100, 16, 8, 160, 0, 7, 4, 167, 0, 4, 3, 61, 42]
abbrev dktX3_readRow_4 : List UInt8 := dkwX3_readRow_4 ++ dktX3_readRow_5
def dkwX3_readRow_3 : List UInt8 := [104, 27, 96, 4, 84, 42, 180, 1, 0, 5, 159, 0, 15, 42, 180, 1, 0, 6, 159, 0, 7, 42]
abbrev dktX3_readRow_3 : List UInt8 := dkwX3_readRow_3 ++ dktX3_readRow_4
def dkwX3_readRow_2 : List UInt8 := [16, 7, 182, 1, 87, 60, 42, 182, 1, 28, 154, 0, 4, 177, 42, 180, 0, 75, 16, 8, 42, 180, 1, 47]
abbrev dktX3_readRow_2 : List UInt8 := dkwX3_readRow_2 ++ dktX3_readRow_3
def dkwX3_readRow_1 : List UInt8 := [180, 1, 47, 104, 42, 180, 1, 18, 96, 51, 153, 0, 12, 42, 6, 42, 180, 0, 249, 182, 1, 24, 42, 3]
abbrev dktX3_readRow_1 : List UInt8 := dkwX3_readRow_1 ++ dktX3_readRow_2
def dkwX3_readRow_0 : List UInt8 := [42, 180, 1, 0, 7, 160, 0, 41, 42, 180, 1, 18, 16, 8, 162, 0, 32, 42, 180, 0, 75, 16, 8, 42]
abbrev dktX3_readRow_0 : List UInt8 := dkwX3_readRow_0 ++ dktX3_readRow_1
theorem dksX3_readRow_0 : cX3_readRow.data.toList.drop 0 = dktX3_readRow_0 := by decide +kernel
theorem dksX3_readRow_1 : cX3_readRow.data.toList.drop 24 = dktX3_readRow_1 := dk_seg dksX3_readRow_0 24 rfl rfl
theorem dksX3_readRow_2 : cX3_readRow.data.toList.drop 48 = dktX3_readRow_2 := dk_seg dksX3_readRow_1 24 rfl rfl
theorem dksX3_readRow_3 : cX3_readRow.data.toList.drop 72 = dktX3_readRow_3 := dk_seg dksX3_readRow_2 24 rfl rfl
theorem dksX3_readRow_4 : cX3_readRow.data.toList.drop 94 = dktX3_readRow_4 := dk_seg dksX3_readRow_3 22 rfl rfl
theorem dksX3_readRow_5 : cX3_readRow.data.toList.drop 118 = dktX3_readRow_5 := dk_seg dksX3_readRow_4 24 rfl rfl
theorem dksX3_readRow_6 : cX3_readRow.data.toList.drop 141 = dktX3_readRow_6 := dk_seg dksX3_readRow_5 23 rfl rfl
theorem dksX3_readRow_7 : cX3_readRow.data.toList.drop 164 = dktX3_readRow_7 := dk_seg dksX3_readRow_6 23 rfl rfl
theorem dksX3_readRow_8 : cX3_readRow.data.toList.drop 187 = dktX3_readRow_8 := dk_seg dksX3_readRow_7 23 rfl rfl
theorem dksX3_readRow_9 : cX3_readRow.data.toList.drop 211 = dktX3_readRow_9 := dk_seg dksX3_readRow_8 24 rfl rfl
theorem dX3_readRow_0 : decode cX3_readRow 0 = .ok (.aload_n 0, 1) := dk_42 (dk_at dksX3_readRow_0 0 rfl rfl)
theorem dX3_readRow_1 : decode cX3_readRow 1 = .ok (.getfield 256, 3) := dk_180 1 0 (dk_at dksX3_readRow_0 1 rfl rfl)
theorem dX3_readRow_4 : decode cX3_readRow 4 = .ok (.iconst 4, 1) := dk_7 (dk_at dksX3_readRow_0 4 rfl rfl)
theorem dX3_readRow_5 : decode cX3_readRow 5 = .ok (.if_icmp .ne 41, 3) := dk_160 0 41 (dk_at dksX3_readRow_0 5 rfl rfl)
theorem dX3_readRow_8 : decode cX3_readRow 8 = .ok (.aload_n 0, 1) := dk_42 (dk_at dksX3_readRow_0 8 rfl rfl)
theorem dX3_readRow_9 : decode cX3_readRow 9 = .ok (.getfield 274, 3) := dk_180 1 18 (dk_at dksX3_readRow_0 9 rfl rfl)
theorem dX3_readRow_12 : decode cX3_readRow 12 = .ok (.bipush 8, 2) := dk_16 8 (dk_at dksX3_readRow_0 12 rfl rfl)
theorem dX3_readRow_14 : decode cX3_readRow 14 = .ok (.if_icmp .ge 32, 3) := dk_162 0 32 (dk_at dksX3_readRow_0 14 rfl rfl)
theorem dX3_readRow_17 : decode cX3_readRow 17 = .ok (.aload_n 0, 1) := dk_42 (dk_at dksX3_readRow_0 17 rfl rfl)
theorem dX3_readRow_18 : decode cX3_readRow 18 = .ok (.getfield 75, 3) := dk_180 0 75 (dk_at dksX3_readRow_0 18 rfl rfl)
theorem dX3_readRow_21 : decode cX3_readRow 21 = .ok (.bipush 8, 2) := dk_16 8 (dk_at dksX3_readRow_0 21 rfl rfl)
theorem dX3_readRow_23 : decode cX3_readRow 23 = .ok (.aload_n 0, 1) := dk_42 (dk_at dksX3_readRow_0 23 rfl rfl)
theorem dX3_readRow_24 : decode cX3_readRow 24 = .ok (.getfield 303, 3) := dk_180 1 47 (dk_at dksX3_readRow_1 0 rfl rfl)
theorem dX3_readRow_27 : decode cX3_readRow 27 = .ok (.imul, 1) := dk_104 (dk_at dksX3_readRow_1 3 rfl rfl)
theorem dX3_readRow_28 : decode cX3_readRow 28 = .ok (.aload_n 0, 1) := dk_42 (dk_at dksX3_readRow_1 4 rfl rfl)
theorem dX3_readRow_29 : decode cX3_readRow 29 = .ok (.getfield 274, 3) := dk_180 1 18 (dk_at dksX3_readRow_1 5 rfl rfl)
theorem dX3_readRow_32 : decode cX3_readRow 32 = .ok (.iadd, 1) := dk_96 (dk_at dksX3_readRow_1 8 rfl rfl)
theorem dX3_readRow_33 : decode cX3_readRow 33 = .ok (.baload, 1) := dk_51 (dk_at dksX3_readRow_1 9 rfl rfl)
theorem dX3_readRow_34 : decode cX3_readRow 34 = .ok (.ifCond .eq 12, 3) := dk_153 0 12 (dk_at dksX3_readRow_1 10 rfl rfl)
theorem dX3_readRow_37 : decode cX3_readRow 37 = .ok (.aload_n 0, 1) := dk_42 (dk_at dksX3_readRow_1 13 rfl rfl)
theorem dX3_readRow_38 : decode cX3_readRow 38 = .ok (.iconst 3, 1) := dk_6 (dk_at dksX3_readRow_1 14 rfl rfl)
theorem dX3_readRow_39 : decode cX3_readRow 39 = .ok (.aload_n 0, 1) := dk_42 (dk_at dksX3_readRow_1 15 rfl rfl)
theorem dX3_readRow_40 : decode cX3_readRow 40 = .ok (.getfield 249, 3) := dk_180 0 249 (dk_at dksX3_readRow_1 16 rfl rfl)
theorem dX3_readRow_43 : decode cX3_readRow 43 = .ok (.invokevirtual 280, 3) := dk_182 1 24 (dk_at dksX3_readRow_1 19 rfl rfl)
theorem dX3_readRow_46 : decode cX3_readRow 46 = .ok (.aload_n 0, 1) := dk_42 (dk_at dksX3_readRow_1 22 rfl rfl)
theorem dX3_readRow_47 : decode cX3_readRow 47 = .ok (.iconst 0, 1) := dk_3 (dk_at dksX3_readRow_1 23 rfl rfl)
theorem dX3_readRow_48 : decode cX3_readRow 48 = .ok (.bipush 7, 2) := dk_16 7 (dk_at dksX3_readRow_2 0 rfl rfl)
theorem dX3_readRow_50 : decode cX3_readRow 50 = .ok (.invokevirtual 343, 3) := dk_182 1 87 (dk_at dksX3_readRow_2 2 rfl rfl)
theorem dX3_readRow_53 : decode cX3_readRow 53 = .ok (.istore_n 1, 1) := dk_60 (dk_at dksX3_readRow_2 5 rfl rfl)
theorem dX3_readRow_54 : decode cX3_readRow 54 = .ok (.aload_n 0, 1) := dk_42 (dk_at dksX3_readRow_2 6 rfl rfl)
theorem dX3_readRow_55 : decode cX3_readRow 55 = .ok (.invokevirtual 284, 3) := dk_182 1 28 (dk_at dksX3_readRow_2 7 rfl rfl)
theorem dX3_readRow_58 : decode cX3_readRow 58 = .ok (.ifCond .ne 4, 3) := dk_154 0 4 (dk_at dksX3_readRow_2 10 rfl rfl)
theorem dX3_readRow_61 : decode cX3_readRow 61 = .ok (.return_, 1) := dk_177 (dk_at dksX3_readRow_2 13 rfl rfl)
theorem dX3_readRow_62 : decode cX3_readRow 62 = .ok (.aload_n 0, 1) := dk_42 (dk_at dksX3_readRow_2 14 rfl rfl)
theorem dX3_readRow_63 : decode cX3_readRow 63 = .ok (.getfield 75, 3) := dk_180 0 75 (dk_at dksX3_readRow_2 15 rfl rfl)
theorem dX3_readRow_66 : decode cX3_readRow 66 = .ok (.bipush 8, 2) := dk_16 8 (dk_at dksX3_readRow_2 18 rfl rfl)
theorem dX3_readRow_68 : decode cX3_readRow 68 = .ok (.aload_n 0, 1) := dk_42 (dk_at dksX3_readRow_2 20 rfl rfl)
theorem dX3_readRow_69 : decode cX3_readRow 69 = .ok (.getfield 303, 3) := dk_180 1 47 (dk_at dksX3_readRow_2 21 rfl rfl)
theorem dX3_readRow_72 : decode cX3_readRow 72 = .ok (.imul, 1) := dk_104 (dk_at dksX3_readRow_3 0 rfl rfl)
theorem dX3_readRow_73 : decode cX3_readRow 73 = .ok (.iload_n 1, 1) := dk_27 (dk_at dksX3_readRow_3 1 rfl rfl)
theorem dX3_readRow_74 : decode cX3_readRow 74 = .ok (.iadd, 1) := dk_96 (dk_at dksX3_readRow_3 2 rfl rfl)
theorem dX3_readRow_75 : decode cX3_readRow 75 = .ok (.iconst 1, 1) := dk_4 (dk_at dksX3_readRow_3 3 rfl rfl)
theorem dX3_readRow_76 : decode cX3_readRow 76 = .ok (.bastore, 1) := dk_84 (dk_at dksX3_readRow_3 4 rfl rfl)
theorem dX3_readRow_77 : decode cX3_readRow 77 = .ok (.aload_n 0, 1) := dk_42 (dk_at dksX3_readRow_3 5 rfl rfl)
theorem dX3_readRow_78 : decode cX3_readRow 78 = .ok (.getfield 256, 3) := dk_180 1 0 (dk_at dksX3_readRow_3 6 rfl rfl)
theorem dX3_readRow_81 : decode cX3_readRow 81 = .ok (.iconst 2, 1) := dk_5 (dk_at dksX3_readRow_3 9 rfl rfl)
theorem dX3_readRow_82 : decode cX3_readRow 82 = .ok (.if_icmp .eq 15, 3) := dk_159 0 15 (dk_at dksX3_readRow_3 10 rfl rfl)
theorem dX3_readRow_85 : decode cX3_readRow 85 = .ok (.aload_n 0, 1) := dk_42 (dk_at dksX3_readRow_3 13 rfl rfl)
theorem dX3_readRow_86 : decode cX3_readRow 86 = .ok (.getfield 256, 3) := dk_180 1 0 (dk_at dksX3_readRow_3 14 rfl rfl)
theorem dX3_readRow_89 : decode cX3_readRow 89 = .ok (.iconst 3, 1) := dk_6 (dk_at dksX3_readRow_3 17 rfl rfl)
theorem dX3_readRow_90 : decode cX3_readRow 90 = .ok (.if_icmp .eq 7, 3) := dk_159 0 7 (dk_at dksX3_readRow_3 18 rfl rfl)
theorem dX3_readRow_93 : decode cX3_readRow 93 = .ok (.aload_n 0, 1) := dk_42 (dk_at dksX3_readRow_3 21 rfl rfl)
theorem dX3_readRow_94 : decode cX3_readRow 94 = .ok (.invokevirtual 291, 3) := dk_182 1 35 (dk_at dksX3_readRow_4 0 rfl rfl)
theorem dX3_readRow_97 : decode cX3_readRow 97 = .ok (.aload_n 0, 1) := dk_42 (dk_at dksX3_readRow_4 3 rfl rfl)
theorem dX3_readRow_98 : decode cX3_readRow 98 = .ok (.getfield 246, 3) := dk_180 0 246 (dk_at dksX3_readRow_4 4 rfl rfl)
theorem dX3_readRow_101 : decode cX3_readRow 101 = .ok (.aload_n 0, 1) := dk_42 (dk_at dksX3_readRow_4 7 rfl rfl)
theorem dX3_readRow_102 : decode cX3_readRow 102 = .ok (.getfield 249, 3) := dk_180 0 249 (dk_at dksX3_readRow_4 8 rfl rfl)
theorem dX3_readRow_105 : decode cX3_readRow 105 = .ok (.isub, 1) := dk_100 (dk_at dksX3_readRow_4 11 rfl rfl)
theorem dX3_readRow_106 : decode cX3_readRow 106 = .ok (.bipush 8, 2) := dk_16 8 (dk_at dksX3_readRow_4 12 rfl rfl)
theorem dX3_readRow_108 : decode cX3_readRow 108 = .ok (.if_icmp .ne 7, 3) := dk_160 0 7 (dk_at dksX3_readRow_4 14 rfl rfl)
theorem dX3_readRow_111 : decode cX3_readRow 111 = .ok (.iconst 1, 1) := dk_4 (dk_at dksX3_readRow_4 17 rfl rfl)
theorem dX3_readRow_112 : decode cX3_readRow 112 = .ok (.goto 4, 3) := dk_167 0 4 (dk_at dksX3_readRow_4 18 rfl rfl)
theorem dX3_readRow_115 : decode cX3_readRow 115 = .ok (.iconst 0, 1) := dk_3 (dk_at dksX3_readRow_4 21 rfl rfl)
theorem dX3_readRow_116 : decode cX3_readRow 116 = .ok (.istore_n 2, 1) := dk_61 (dk_at dksX3_readRow_4 22 rfl rfl)
theorem dX3_readRow_117 : decode cX3_readRow 117 = .ok (.aload_n 0, 1) := dk_42 (dk_at dksX3_readRow_4 23 rfl rfl)
theorem dX3_readRow_118 : decode cX3_readRow 118 = .ok (.getfield 249, 3) := dk_180 0 249 (dk_at dksX3_readRow_5 0 rfl rfl)
theorem dX3_readRow_121 : decode cX3_readRow 121 = .ok (.istore_n 3, 1) := dk_62 (dk_at dksX3_readRow_5 3 rfl rfl)
theorem dX3_readRow_122 : decode cX3_readRow 122 = .ok (.iload_n 3, 1) := dk_29 (dk_at dksX3_readRow_5 4 rfl rfl)
theorem dX3_readRow_123 : decode cX3_readRow 123 = .ok (.aload_n 0, 1) := dk_42 (dk_at dksX3_readRow_5 5 rfl rfl)
theorem dX3_readRow_124 : decode cX3_readRow 124 = .ok (.getfield 246, 3) := dk_180 0 246 (dk_at dksX3_readRow_5 6 rfl rfl)
theorem dX3_readRow_127 : decode cX3_readRow 127 = .ok (.if_icmp .ge 29, 3) := dk_162 0 29 (dk_at dksX3_readRow_5 9 rfl rfl)
theorem dX3_readRow_130 : decode cX3_readRow 130 = .ok (.iload_n 2, 1) := dk_28 (dk_at dksX3_readRow_5 12 rfl rfl)
theorem dX3_readRow_131 : decode cX3_readRow 131 = .ok (.ifCond .eq 17, 3) := dk_153 0 17 (dk_at dksX3_readRow_5 13 rfl rfl)
theorem dX3_readRow_134 : decode cX3_readRow 134 = .ok (.aload_n 0, 1) := dk_42 (dk_at dksX3_readRow_5 16 rfl rfl)
theorem dX3_readRow_135 : decode cX3_readRow 135 = .ok (.iload_n 3, 1) := dk_29 (dk_at dksX3_readRow_5 17 rfl rfl)
theorem dX3_readRow_136 : decode cX3_readRow 136 = .ok (.invokevirtual 252, 3) := dk_182 0 252 (dk_at dksX3_readRow_5 18 rfl rfl)
theorem dX3_readRow_139 : decode cX3_readRow 139 = .ok (.bipush 104, 2) := dk_16 104 (dk_at dksX3_readRow_5 21 rfl rfl)
theorem dX3_readRow_141 : decode cX3_readRow 141 = .ok (.if_icmp .gt 7, 3) := dk_163 0 7 (dk_at dksX3_readRow_6 0 rfl rfl)
theorem dX3_readRow_144 : decode cX3_readRow 144 = .ok (.iconst 1, 1) := dk_4 (dk_at dksX3_readRow_6 3 rfl rfl)
theorem dX3_readRow_145 : decode cX3_readRow 145 = .ok (.goto 4, 3) := dk_167 0 4 (dk_at dksX3_readRow_6 4 rfl rfl)
theorem dX3_readRow_148 : decode cX3_readRow 148 = .ok (.iconst 0, 1) := dk_3 (dk_at dksX3_readRow_6 7 rfl rfl)
theorem dX3_readRow_149 : decode cX3_readRow 149 = .ok (.istore_n 2, 1) := dk_61 (dk_at dksX3_readRow_6 8 rfl rfl)
theorem dX3_readRow_150 : decode cX3_readRow 150 = .ok (.iinc 3 1, 3) := dk_132 3 1 (dk_at dksX3_readRow_6 9 rfl rfl)
theorem dX3_readRow_153 : decode cX3_readRow 153 = .ok (.goto (-31), 3) := dk_167 255 225 (dk_at dksX3_readRow_6 12 rfl rfl)
theorem dX3_readRow_156 : decode cX3_readRow 156 = .ok (.aload_n 0, 1) := dk_42 (dk_at dksX3_readRow_6 15 rfl rfl)
theorem dX3_readRow_157 : decode cX3_readRow 157 = .ok (.invokevirtual 284, 3) := dk_182 1 28 (dk_at dksX3_readRow_6 16 rfl rfl)
theorem dX3_readRow_160 : decode cX3_readRow 160 = .ok (.ifCond .eq 16, 3) := dk_153 0 16 (dk_at dksX3_readRow_6 19 rfl rfl)
theorem dX3_readRow_163 : decode cX3_readRow 163 = .ok (.iload_n 2, 1) := dk_28 (dk_at dksX3_readRow_6 22 rfl rfl)
theorem dX3_readRow_164 : decode cX3_readRow 164 = .ok (.ifCond .ne 12, 3) := dk_154 0 12 (dk_at dksX3_readRow_7 0 rfl rfl)
theorem dX3_readRow_167 : decode cX3_readRow 167 = .ok (.aload_n 0, 1) := dk_42 (dk_at dksX3_readRow_7 3 rfl rfl)
theorem dX3_readRow_168 : decode cX3_readRow 168 = .ok (.iconst 4, 1) := dk_7 (dk_at dksX3_readRow_7 4 rfl rfl)
theorem dX3_readRow_169 : decode cX3_readRow 169 = .ok (.aload_n 0, 1) := dk_42 (dk_at dksX3_readRow_7 5 rfl rfl)
theorem dX3_readRow_170 : decode cX3_readRow 170 = .ok (.getfield 249, 3) := dk_180 0 249 (dk_at dksX3_readRow_7 6 rfl rfl)
theorem dX3_readRow_173 : decode cX3_readRow 173 = .ok (.invokevirtual 280, 3) := dk_182 1 24 (dk_at dksX3_readRow_7 9 rfl rfl)
theorem dX3_readRow_176 : decode cX3_readRow 176 = .ok (.aload_n 0, 1) := dk_42 (dk_at dksX3_readRow_7 12 rfl rfl)
theorem dX3_readRow_177 : decode cX3_readRow 177 = .ok (.invokevirtual 284, 3) := dk_182 1 28 (dk_at dksX3_readRow_7 13 rfl rfl)
theorem dX3_readRow_180 : decode cX3_readRow 180 = .ok (.ifCond .ne 4, 3) := dk_154 0 4 (dk_at dksX3_readRow_7 16 rfl rfl)
theorem dX3_readRow_183 : decode cX3_readRow 183 = .ok (.return_, 1) := dk_177 (dk_at dksX3_readRow_7 19 rfl rfl)
theorem dX3_readRow_184 : decode cX3_readRow 184 = .ok (.iconst 0, 1) := dk_3 (dk_at dksX3_readRow_7 20 rfl rfl)
theorem dX3_readRow_185 : decode cX3_readRow 185 = .ok (.istore_n 3, 1) := dk_62 (dk_at dksX3_readRow_7 21 rfl rfl)
theorem dX3_readRow_186 : decode cX3_readRow 186 = .ok (.iload_n 3, 1) := dk_29 (dk_at dksX3_readRow_7 22 rfl rfl)
theorem dX3_readRow_187 : decode cX3_readRow 187 = .ok (.bipush 8, 2) := dk_16 8 (dk_at dksX3_readRow_8 0 rfl rfl)
theorem dX3_readRow_189 : decode cX3_readRow 189 = .ok (.if_icmp .ge 41, 3) := dk_162 0 41 (dk_at dksX3_readRow_8 2 rfl rfl)
theorem dX3_readRow_192 : decode cX3_readRow 192 = .ok (.aload_n 0, 1) := dk_42 (dk_at dksX3_readRow_8 5 rfl rfl)
theorem dX3_readRow_193 : decode cX3_readRow 193 = .ok (.getfield 72, 3) := dk_180 0 72 (dk_at dksX3_readRow_8 6 rfl rfl)
theorem dX3_readRow_196 : decode cX3_readRow 196 = .ok (.bipush 64, 2) := dk_16 64 (dk_at dksX3_readRow_8 9 rfl rfl)
theorem dX3_readRow_198 : decode cX3_readRow 198 = .ok (.aload_n 0, 1) := dk_42 (dk_at dksX3_readRow_8 11 rfl rfl)
theorem dX3_readRow_199 : decode cX3_readRow 199 = .ok (.getfield 303, 3) := dk_180 1 47 (dk_at dksX3_readRow_8 12 rfl rfl)
theorem dX3_readRow_202 : decode cX3_readRow 202 = .ok (.imul, 1) := dk_104 (dk_at dksX3_readRow_8 15 rfl rfl)
theorem dX3_readRow_203 : decode cX3_readRow 203 = .ok (.bipush 8, 2) := dk_16 8 (dk_at dksX3_readRow_8 16 rfl rfl)
theorem dX3_readRow_205 : decode cX3_readRow 205 = .ok (.iload_n 1, 1) := dk_27 (dk_at dksX3_readRow_8 18 rfl rfl)
theorem dX3_readRow_206 : decode cX3_readRow 206 = .ok (.imul, 1) := dk_104 (dk_at dksX3_readRow_8 19 rfl rfl)
theorem dX3_readRow_207 : decode cX3_readRow 207 = .ok (.iadd, 1) := dk_96 (dk_at dksX3_readRow_8 20 rfl rfl)
theorem dX3_readRow_208 : decode cX3_readRow 208 = .ok (.iload_n 3, 1) := dk_29 (dk_at dksX3_readRow_8 21 rfl rfl)
theorem dX3_readRow_209 : decode cX3_readRow 209 = .ok (.iadd, 1) := dk_96 (dk_at dksX3_readRow_8 22 rfl rfl)
theorem dX3_readRow_210 : decode cX3_readRow 210 = .ok (.aload_n 0, 1) := dk_42 (dk_at dksX3_readRow_8 23 rfl rfl)
theorem dX3_readRow_211 : decode cX3_readRow 211 = .ok (.aload_n 0, 1) := dk_42 (dk_at dksX3_readRow_9 0 rfl rfl)
theorem dX3_readRow_212 : decode cX3_readRow 212 = .ok (.getfield 249, 3) := dk_180 0 249 (dk_at dksX3_readRow_9 1 rfl rfl)
theorem dX3_readRow_215 : decode cX3_readRow 215 = .ok (.iload_n 3, 1) := dk_29 (dk_at dksX3_readRow_9 4 rfl rfl)
theorem dX3_readRow_216 : decode cX3_readRow 216 = .ok (.iadd, 1) := dk_96 (dk_at dksX3_readRow_9 5 rfl rfl)
theorem dX3_readRow_217 : decode cX3_readRow 217 = .ok (.invokevirtual 252, 3) := dk_182 0 252 (dk_at dksX3_readRow_9 6 rfl rfl)
theorem dX3_readRow_220 : decode cX3_readRow 220 = .ok (.bipush 97, 2) := dk_16 97 (dk_at dksX3_readRow_9 9 rfl rfl)
theorem dX3_readRow_222 : decode cX3_readRow 222 = .ok (.isub, 1) := dk_100 (dk_at dksX3_readRow_9 11 rfl rfl)
theorem dX3_readRow_223 : decode cX3_readRow 223 = .ok (.iastore, 1) := dk_79 (dk_at dksX3_readRow_9 12 rfl rfl)
theorem dX3_readRow_224 : decode cX3_readRow 224 = .ok (.iinc 3 1, 3) := dk_132 3 1 (dk_at dksX3_readRow_9 13 rfl rfl)
theorem dX3_readRow_227 : decode cX3_readRow 227 = .ok (.goto (-41), 3) := dk_167 255 215 (dk_at dksX3_readRow_9 16 rfl rfl)
theorem dX3_readRow_230 : decode cX3_readRow 230 = .ok (.aload_n 0, 1) := dk_42 (dk_at dksX3_readRow_9 19 rfl rfl)
theorem dX3_readRow_231 : decode cX3_readRow 231 = .ok (.invokevirtual 288, 3) := dk_182 1 32 (dk_at dksX3_readRow_9 20 rfl rfl)
theorem dX3_readRow_234 : decode cX3_readRow 234 = .ok (.return_, 1) := dk_177 (dk_at dksX3_readRow_9 23 rfl rfl)
abbrev cX3_readTank : ByteArray := prog_24_method_23_code
def dkwX3_readTank_3 : List UInt8 := [180, 1, 47, 92, 46, 4, 96, 79, 177]
abbrev dktX3_readTank_3 : List UInt8 := dkwX3_readTank_3 ++ []
def dkwX3_readTank_2 : List UInt8 := [182, 1, 59, 182, 1, 83, 42, 180, 0, 69, 27, 42, 4, 16, 15, 182, 1, 87, 79, 42, 180, 0, 33, 42]
abbrev dktX3_readTank_2 : List UInt8 := dkwX3_readTank_2 ++ dktX3_readTank_3
def dkwX3_readTank_1 : List UInt8 := [182, 1, 59, 182, 1, 83, 42, 180, 0, 66, 27, 42, 3, 16, 99, 182, 1, 87, 79, 42, 42, 20, 0, 204]
abbrev dktX3_readTank_1 : List UInt8 := dkwX3_readTank_1 ++ dktX3_readTank_2
def dkwX3_readTank_0 : List UInt8 := [6, 42, 180, 1, 47, 104, 42, 180, 0, 33, 42, 180, 1, 47, 46, 96, 60, 42, 42, 20, 0, 202]
abbrev dktX3_readTank_0 : List UInt8 := dkwX3_readTank_0 ++ dktX3_readTank_1
theorem dksX3_readTank_0 : cX3_readTank.data.toList.drop 0 = dktX3_readTank_0 := by decide +kernel
theorem dksX3_readTank_1 : cX3_readTank.data.toList.drop 22 = dktX3_readTank_1 := dk_seg dksX3_readTank_0 22 rfl rfl
theorem dksX3_readTank_2 : cX3_readTank.data.toList.drop 46 = dktX3_readTank_2 := dk_seg dksX3_readTank_1 24 rfl rfl
theorem dksX3_readTank_3 : cX3_readTank.data.toList.drop 70 = dktX3_readTank_3 := dk_seg dksX3_readTank_2 24 rfl rfl
theorem dX3_readTank_0 : decode cX3_readTank 0 = .ok (.iconst 3, 1) := dk_6 (dk_at dksX3_readTank_0 0 rfl rfl)
theorem dX3_readTank_1 : decode cX3_readTank 1 = .ok (.aload_n 0, 1) := dk_42 (dk_at dksX3_readTank_0 1 rfl rfl)
theorem dX3_readTank_2 : decode cX3_readTank 2 = .ok (.getfield 303, 3) := dk_180 1 47 (dk_at dksX3_readTank_0 2 rfl rfl)
theorem dX3_readTank_5 : decode cX3_readTank 5 = .ok (.imul, 1) := dk_104 (dk_at dksX3_readTank_0 5 rfl rfl)
theorem dX3_readTank_6 : decode cX3_readTank 6 = .ok (.aload_n 0, 1) := dk_42 (dk_at dksX3_readTank_0 6 rfl rfl)
theorem dX3_readTank_7 : decode cX3_readTank 7 = .ok (.getfield 33, 3) := dk_180 0 33 (dk_at dksX3_readTank_0 7 rfl rfl)
theorem dX3_readTank_10 : decode cX3_readTank 10 = .ok (.aload_n 0, 1) := dk_42 (dk_at dksX3_readTank_0 10 rfl rfl)
theorem dX3_readTank_11 : decode cX3_readTank 11 = .ok (.getfield 303, 3) := dk_180 1 47 (dk_at dksX3_readTank_0 11 rfl rfl)
theorem dX3_readTank_14 : decode cX3_readTank 14 = .ok (.iaload, 1) := dk_46 (dk_at dksX3_readTank_0 14 rfl rfl)
theorem dX3_readTank_15 : decode cX3_readTank 15 = .ok (.iadd, 1) := dk_96 (dk_at dksX3_readTank_0 15 rfl rfl)
theorem dX3_readTank_16 : decode cX3_readTank 16 = .ok (.istore_n 1, 1) := dk_60 (dk_at dksX3_readTank_0 16 rfl rfl)
theorem dX3_readTank_17 : decode cX3_readTank 17 = .ok (.aload_n 0, 1) := dk_42 (dk_at dksX3_readTank_0 17 rfl rfl)
theorem dX3_readTank_18 : decode cX3_readTank 18 = .ok (.aload_n 0, 1) := dk_42 (dk_at dksX3_readTank_0 18 rfl rfl)
theorem dX3_readTank_19 : decode cX3_readTank 19 = .ok (.ldc2_w 202, 3) := dk_20 0 202 (dk_at dksX3_readTank_0 19 rfl rfl)
theorem dX3_readTank_22 : decode cX3_readTank 22 = .ok (.invokevirtual 315, 3) := dk_182 1 59 (dk_at dksX3_readTank_1 0 rfl rfl)
theorem dX3_readTank_25 : decode cX3_readTank 25 = .ok (.invokevirtual 339, 3) := dk_182 1 83 (dk_at dksX3_readTank_1 3 rfl rfl)
theorem dX3_readTank_28 : decode cX3_readTank 28 = .ok (.aload_n 0, 1) := dk_42 (dk_at dksX3_readTank_1 6 rfl rfl)
theorem dX3_readTank_29 : decode cX3_readTank 29 = .ok (.getfield 66, 3) := dk_180 0 66 (dk_at dksX3_readTank_1 7 rfl rfl)
theorem dX3_readTank_32 : decode cX3_readTank 32 = .ok (.iload_n 1, 1) := dk_27 (dk_at dksX3_readTank_1 10 rfl rfl)
theorem dX3_readTank_33 : decode cX3_readTank 33 = .ok (.aload_n 0, 1) := dk_42 (dk_at dksX3_readTank_1 11 rfl rfl)
theorem dX3_readTank_34 : decode cX3_readTank 34 = .ok (.iconst 0, 1) := dk_3 (dk_at dksX3_readTank_1 12 rfl rfl)
theorem dX3_readTank_35 : decode cX3_readTank 35 = .ok (.bipush 99, 2) := dk_16 99 (dk_at dksX3_readTank_1 13 rfl rfl)
theorem dX3_readTank_37 : decode cX3_readTank 37 = .ok (.invokevirtual 343, 3) := dk_182 1 87 (dk_at dksX3_readTank_1 15 rfl rfl)
theorem dX3_readTank_40 : decode cX3_readTank 40 = .ok (.iastore, 1) := dk_79 (dk_at dksX3_readTank_1 18 rfl rfl)
theorem dX3_readTank_41 : decode cX3_readTank 41 = .ok (.aload_n 0, 1) := dk_42 (dk_at dksX3_readTank_1 19 rfl rfl)
theorem dX3_readTank_42 : decode cX3_readTank 42 = .ok (.aload_n 0, 1) := dk_42 (dk_at dksX3_readTank_1 20 rfl rfl)
theorem dX3_readTank_43 : decode cX3_readTank 43 = .ok (.ldc2_w 204, 3) := dk_20 0 204 (dk_at dksX3_readTank_1 21 rfl rfl)
theorem dX3_readTank_46 : decode cX3_readTank 46 = .ok (.invokevirtual 315, 3) := dk_182 1 59 (dk_at dksX3_readTank_2 0 rfl rfl)
theorem dX3_readTank_49 : decode cX3_readTank 49 = .ok (.invokevirtual 339, 3) := dk_182 1 83 (dk_at dksX3_readTank_2 3 rfl rfl)
theorem dX3_readTank_52 : decode cX3_readTank 52 = .ok (.aload_n 0, 1) := dk_42 (dk_at dksX3_readTank_2 6 rfl rfl)
theorem dX3_readTank_53 : decode cX3_readTank 53 = .ok (.getfield 69, 3) := dk_180 0 69 (dk_at dksX3_readTank_2 7 rfl rfl)
theorem dX3_readTank_56 : decode cX3_readTank 56 = .ok (.iload_n 1, 1) := dk_27 (dk_at dksX3_readTank_2 10 rfl rfl)
theorem dX3_readTank_57 : decode cX3_readTank 57 = .ok (.aload_n 0, 1) := dk_42 (dk_at dksX3_readTank_2 11 rfl rfl)
theorem dX3_readTank_58 : decode cX3_readTank 58 = .ok (.iconst 1, 1) := dk_4 (dk_at dksX3_readTank_2 12 rfl rfl)
theorem dX3_readTank_59 : decode cX3_readTank 59 = .ok (.bipush 15, 2) := dk_16 15 (dk_at dksX3_readTank_2 13 rfl rfl)
theorem dX3_readTank_61 : decode cX3_readTank 61 = .ok (.invokevirtual 343, 3) := dk_182 1 87 (dk_at dksX3_readTank_2 15 rfl rfl)
theorem dX3_readTank_64 : decode cX3_readTank 64 = .ok (.iastore, 1) := dk_79 (dk_at dksX3_readTank_2 18 rfl rfl)
theorem dX3_readTank_65 : decode cX3_readTank 65 = .ok (.aload_n 0, 1) := dk_42 (dk_at dksX3_readTank_2 19 rfl rfl)
theorem dX3_readTank_66 : decode cX3_readTank 66 = .ok (.getfield 33, 3) := dk_180 0 33 (dk_at dksX3_readTank_2 20 rfl rfl)
theorem dX3_readTank_69 : decode cX3_readTank 69 = .ok (.aload_n 0, 1) := dk_42 (dk_at dksX3_readTank_2 23 rfl rfl)
theorem dX3_readTank_70 : decode cX3_readTank 70 = .ok (.getfield 303, 3) := dk_180 1 47 (dk_at dksX3_readTank_3 0 rfl rfl)
theorem dX3_readTank_73 : decode cX3_readTank 73 = .ok (.dup2, 1) := dk_92 (dk_at dksX3_readTank_3 3 rfl rfl)
theorem dX3_readTank_74 : decode cX3_readTank 74 = .ok (.iaload, 1) := dk_46 (dk_at dksX3_readTank_3 4 rfl rfl)
theorem dX3_readTank_75 : decode cX3_readTank 75 = .ok (.iconst 1, 1) := dk_4 (dk_at dksX3_readTank_3 5 rfl rfl)
theorem dX3_readTank_76 : decode cX3_readTank 76 = .ok (.iadd, 1) := dk_96 (dk_at dksX3_readTank_3 6 rfl rfl)
theorem dX3_readTank_77 : decode cX3_readTank 77 = .ok (.iastore, 1) := dk_79 (dk_at dksX3_readTank_3 7 rfl rfl)
theorem dX3_readTank_78 : decode cX3_readTank 78 = .ok (.return_, 1) := dk_177 (dk_at dksX3_readTank_3 8 rfl rfl)
abbrev cX3_readTreaty : ByteArray := prog_24_method_41_code
def dkwX3_readTreaty_7 : List UInt8 := [4, 84, 42, 42, 16, 59, 182, 1, 80, 182, 1, 83, 42, 180, 0, 83, 6, 92, 46, 4, 96, 79, 177]
abbrev dktX3_readTreaty_7 : List UInt8 := dkwX3_readTreaty_7 ++ []
def dkwX3_readTreaty_6 : List UInt8 := [182, 1, 150, 42, 180, 0, 89, 16, 12, 27, 96, 42, 180, 1, 138, 79, 42, 180, 0, 107, 16, 12, 27, 96]
abbrev dktX3_readTreaty_6 : List UInt8 := dkwX3_readTreaty_6 ++ dktX3_readTreaty_7
def dkwX3_readTreaty_5 : List UInt8 := [181, 1, 147, 42, 180, 0, 86, 16, 12, 27, 96, 42, 180, 1, 138, 79, 42, 182, 1, 28, 153, 0, 7, 42]
abbrev dktX3_readTreaty_5 : List UInt8 := dkwX3_readTreaty_5 ++ dktX3_readTreaty_6
def dkwX3_readTreaty_4 : List UInt8 := [177, 42, 182, 1, 32, 27, 153, 0, 14, 42, 42, 20, 0, 216, 182, 1, 59, 182, 1, 83, 42, 27]
abbrev dktX3_readTreaty_4 : List UInt8 := dkwX3_readTreaty_4 ++ dktX3_readTreaty_5
def dkwX3_readTreaty_3 : List UInt8 := [156, 0, 7, 3, 167, 0, 4, 27, 96, 51, 153, 0, 7, 42, 182, 1, 35, 42, 182, 1, 28, 154, 0, 4]
abbrev dktX3_readTreaty_3 : List UInt8 := dkwX3_readTreaty_3 ++ dktX3_readTreaty_4
def dkwX3_readTreaty_2 : List UInt8 := [182, 1, 59, 153, 0, 7, 6, 167, 0, 4, 2, 60, 27, 155, 0, 23, 42, 180, 0, 107, 16, 12, 27]
abbrev dktX3_readTreaty_2 : List UInt8 := dkwX3_readTreaty_2 ++ dktX3_readTreaty_3
def dkwX3_readTreaty_1 : List UInt8 := [4, 167, 0, 32, 42, 20, 0, 212, 182, 1, 59, 153, 0, 7, 5, 167, 0, 18, 42, 20, 0, 214]
abbrev dktX3_readTreaty_1 : List UInt8 := dkwX3_readTreaty_1 ++ dktX3_readTreaty_2
def dkwX3_readTreaty_0 : List UInt8 := [42, 20, 0, 208, 182, 1, 59, 153, 0, 7, 3, 167, 0, 46, 42, 20, 0, 210, 182, 1, 59, 153, 0, 7]
abbrev dktX3_readTreaty_0 : List UInt8 := dkwX3_readTreaty_0 ++ dktX3_readTreaty_1
theorem dksX3_readTreaty_0 : cX3_readTreaty.data.toList.drop 0 = dktX3_readTreaty_0 := by decide +kernel
theorem dksX3_readTreaty_1 : cX3_readTreaty.data.toList.drop 24 = dktX3_readTreaty_1 := dk_seg dksX3_readTreaty_0 24 rfl rfl
theorem dksX3_readTreaty_2 : cX3_readTreaty.data.toList.drop 46 = dktX3_readTreaty_2 := dk_seg dksX3_readTreaty_1 22 rfl rfl
theorem dksX3_readTreaty_3 : cX3_readTreaty.data.toList.drop 69 = dktX3_readTreaty_3 := dk_seg dksX3_readTreaty_2 23 rfl rfl
theorem dksX3_readTreaty_4 : cX3_readTreaty.data.toList.drop 93 = dktX3_readTreaty_4 := dk_seg dksX3_readTreaty_3 24 rfl rfl
theorem dksX3_readTreaty_5 : cX3_readTreaty.data.toList.drop 115 = dktX3_readTreaty_5 := dk_seg dksX3_readTreaty_4 22 rfl rfl
theorem dksX3_readTreaty_6 : cX3_readTreaty.data.toList.drop 139 = dktX3_readTreaty_6 := dk_seg dksX3_readTreaty_5 24 rfl rfl
theorem dksX3_readTreaty_7 : cX3_readTreaty.data.toList.drop 163 = dktX3_readTreaty_7 := dk_seg dksX3_readTreaty_6 24 rfl rfl
theorem dX3_readTreaty_0 : decode cX3_readTreaty 0 = .ok (.aload_n 0, 1) := dk_42 (dk_at dksX3_readTreaty_0 0 rfl rfl)
theorem dX3_readTreaty_1 : decode cX3_readTreaty 1 = .ok (.ldc2_w 208, 3) := dk_20 0 208 (dk_at dksX3_readTreaty_0 1 rfl rfl)
theorem dX3_readTreaty_4 : decode cX3_readTreaty 4 = .ok (.invokevirtual 315, 3) := dk_182 1 59 (dk_at dksX3_readTreaty_0 4 rfl rfl)
theorem dX3_readTreaty_7 : decode cX3_readTreaty 7 = .ok (.ifCond .eq 7, 3) := dk_153 0 7 (dk_at dksX3_readTreaty_0 7 rfl rfl)
theorem dX3_readTreaty_10 : decode cX3_readTreaty 10 = .ok (.iconst 0, 1) := dk_3 (dk_at dksX3_readTreaty_0 10 rfl rfl)
theorem dX3_readTreaty_11 : decode cX3_readTreaty 11 = .ok (.goto 46, 3) := dk_167 0 46 (dk_at dksX3_readTreaty_0 11 rfl rfl)
theorem dX3_readTreaty_14 : decode cX3_readTreaty 14 = .ok (.aload_n 0, 1) := dk_42 (dk_at dksX3_readTreaty_0 14 rfl rfl)
theorem dX3_readTreaty_15 : decode cX3_readTreaty 15 = .ok (.ldc2_w 210, 3) := dk_20 0 210 (dk_at dksX3_readTreaty_0 15 rfl rfl)
theorem dX3_readTreaty_18 : decode cX3_readTreaty 18 = .ok (.invokevirtual 315, 3) := dk_182 1 59 (dk_at dksX3_readTreaty_0 18 rfl rfl)
theorem dX3_readTreaty_21 : decode cX3_readTreaty 21 = .ok (.ifCond .eq 7, 3) := dk_153 0 7 (dk_at dksX3_readTreaty_0 21 rfl rfl)
theorem dX3_readTreaty_24 : decode cX3_readTreaty 24 = .ok (.iconst 1, 1) := dk_4 (dk_at dksX3_readTreaty_1 0 rfl rfl)
theorem dX3_readTreaty_25 : decode cX3_readTreaty 25 = .ok (.goto 32, 3) := dk_167 0 32 (dk_at dksX3_readTreaty_1 1 rfl rfl)
theorem dX3_readTreaty_28 : decode cX3_readTreaty 28 = .ok (.aload_n 0, 1) := dk_42 (dk_at dksX3_readTreaty_1 4 rfl rfl)
theorem dX3_readTreaty_29 : decode cX3_readTreaty 29 = .ok (.ldc2_w 212, 3) := dk_20 0 212 (dk_at dksX3_readTreaty_1 5 rfl rfl)
theorem dX3_readTreaty_32 : decode cX3_readTreaty 32 = .ok (.invokevirtual 315, 3) := dk_182 1 59 (dk_at dksX3_readTreaty_1 8 rfl rfl)
theorem dX3_readTreaty_35 : decode cX3_readTreaty 35 = .ok (.ifCond .eq 7, 3) := dk_153 0 7 (dk_at dksX3_readTreaty_1 11 rfl rfl)
theorem dX3_readTreaty_38 : decode cX3_readTreaty 38 = .ok (.iconst 2, 1) := dk_5 (dk_at dksX3_readTreaty_1 14 rfl rfl)
theorem dX3_readTreaty_39 : decode cX3_readTreaty 39 = .ok (.goto 18, 3) := dk_167 0 18 (dk_at dksX3_readTreaty_1 15 rfl rfl)
theorem dX3_readTreaty_42 : decode cX3_readTreaty 42 = .ok (.aload_n 0, 1) := dk_42 (dk_at dksX3_readTreaty_1 18 rfl rfl)
theorem dX3_readTreaty_43 : decode cX3_readTreaty 43 = .ok (.ldc2_w 214, 3) := dk_20 0 214 (dk_at dksX3_readTreaty_1 19 rfl rfl)
theorem dX3_readTreaty_46 : decode cX3_readTreaty 46 = .ok (.invokevirtual 315, 3) := dk_182 1 59 (dk_at dksX3_readTreaty_2 0 rfl rfl)
theorem dX3_readTreaty_49 : decode cX3_readTreaty 49 = .ok (.ifCond .eq 7, 3) := dk_153 0 7 (dk_at dksX3_readTreaty_2 3 rfl rfl)
theorem dX3_readTreaty_52 : decode cX3_readTreaty 52 = .ok (.iconst 3, 1) := dk_6 (dk_at dksX3_readTreaty_2 6 rfl rfl)
theorem dX3_readTreaty_53 : decode cX3_readTreaty 53 = .ok (.goto 4, 3) := dk_167 0 4 (dk_at dksX3_readTreaty_2 7 rfl rfl)
theorem dX3_readTreaty_56 : decode cX3_readTreaty 56 = .ok (.iconst (-1), 1) := dk_2 (dk_at dksX3_readTreaty_2 10 rfl rfl)
theorem dX3_readTreaty_57 : decode cX3_readTreaty 57 = .ok (.istore_n 1, 1) := dk_60 (dk_at dksX3_readTreaty_2 11 rfl rfl)
theorem dX3_readTreaty_58 : decode cX3_readTreaty 58 = .ok (.iload_n 1, 1) := dk_27 (dk_at dksX3_readTreaty_2 12 rfl rfl)
theorem dX3_readTreaty_59 : decode cX3_readTreaty 59 = .ok (.ifCond .lt 23, 3) := dk_155 0 23 (dk_at dksX3_readTreaty_2 13 rfl rfl)
theorem dX3_readTreaty_62 : decode cX3_readTreaty 62 = .ok (.aload_n 0, 1) := dk_42 (dk_at dksX3_readTreaty_2 16 rfl rfl)
theorem dX3_readTreaty_63 : decode cX3_readTreaty 63 = .ok (.getfield 107, 3) := dk_180 0 107 (dk_at dksX3_readTreaty_2 17 rfl rfl)
theorem dX3_readTreaty_66 : decode cX3_readTreaty 66 = .ok (.bipush 12, 2) := dk_16 12 (dk_at dksX3_readTreaty_2 20 rfl rfl)
theorem dX3_readTreaty_68 : decode cX3_readTreaty 68 = .ok (.iload_n 1, 1) := dk_27 (dk_at dksX3_readTreaty_2 22 rfl rfl)
theorem dX3_readTreaty_69 : decode cX3_readTreaty 69 = .ok (.ifCond .ge 7, 3) := dk_156 0 7 (dk_at dksX3_readTreaty_3 0 rfl rfl)
theorem dX3_readTreaty_72 : decode cX3_readTreaty 72 = .ok (.iconst 0, 1) := dk_3 (dk_at dksX3_readTreaty_3 3 rfl rfl)
theorem dX3_readTreaty_73 : decode cX3_readTreaty 73 = .ok (.goto 4, 3) := dk_167 0 4 (dk_at dksX3_readTreaty_3 4 rfl rfl)
theorem dX3_readTreaty_76 : decode cX3_readTreaty 76 = .ok (.iload_n 1, 1) := dk_27 (dk_at dksX3_readTreaty_3 7 rfl rfl)
theorem dX3_readTreaty_77 : decode cX3_readTreaty 77 = .ok (.iadd, 1) := dk_96 (dk_at dksX3_readTreaty_3 8 rfl rfl)
theorem dX3_readTreaty_78 : decode cX3_readTreaty 78 = .ok (.baload, 1) := dk_51 (dk_at dksX3_readTreaty_3 9 rfl rfl)
theorem dX3_readTreaty_79 : decode cX3_readTreaty 79 = .ok (.ifCond .eq 7, 3) := dk_153 0 7 (dk_at dksX3_readTreaty_3 10 rfl rfl)
theorem dX3_readTreaty_82 : decode cX3_readTreaty 82 = .ok (.aload_n 0, 1) := dk_42 (dk_at dksX3_readTreaty_3 13 rfl rfl)
theorem dX3_readTreaty_83 : decode cX3_readTreaty 83 = .ok (.invokevirtual 291, 3) := dk_182 1 35 (dk_at dksX3_readTreaty_3 14 rfl rfl)
theorem dX3_readTreaty_86 : decode cX3_readTreaty 86 = .ok (.aload_n 0, 1) := dk_42 (dk_at dksX3_readTreaty_3 17 rfl rfl)
theorem dX3_readTreaty_87 : decode cX3_readTreaty 87 = .ok (.invokevirtual 284, 3) := dk_182 1 28 (dk_at dksX3_readTreaty_3 18 rfl rfl)
theorem dX3_readTreaty_90 : decode cX3_readTreaty 90 = .ok (.ifCond .ne 4, 3) := dk_154 0 4 (dk_at dksX3_readTreaty_3 21 rfl rfl)
theorem dX3_readTreaty_93 : decode cX3_readTreaty 93 = .ok (.return_, 1) := dk_177 (dk_at dksX3_readTreaty_4 0 rfl rfl)
theorem dX3_readTreaty_94 : decode cX3_readTreaty 94 = .ok (.aload_n 0, 1) := dk_42 (dk_at dksX3_readTreaty_4 1 rfl rfl)
theorem dX3_readTreaty_95 : decode cX3_readTreaty 95 = .ok (.invokevirtual 288, 3) := dk_182 1 32 (dk_at dksX3_readTreaty_4 2 rfl rfl)
theorem dX3_readTreaty_98 : decode cX3_readTreaty 98 = .ok (.iload_n 1, 1) := dk_27 (dk_at dksX3_readTreaty_4 5 rfl rfl)
theorem dX3_readTreaty_99 : decode cX3_readTreaty 99 = .ok (.ifCond .eq 14, 3) := dk_153 0 14 (dk_at dksX3_readTreaty_4 6 rfl rfl)
theorem dX3_readTreaty_102 : decode cX3_readTreaty 102 = .ok (.aload_n 0, 1) := dk_42 (dk_at dksX3_readTreaty_4 9 rfl rfl)
theorem dX3_readTreaty_103 : decode cX3_readTreaty 103 = .ok (.aload_n 0, 1) := dk_42 (dk_at dksX3_readTreaty_4 10 rfl rfl)
theorem dX3_readTreaty_104 : decode cX3_readTreaty 104 = .ok (.ldc2_w 216, 3) := dk_20 0 216 (dk_at dksX3_readTreaty_4 11 rfl rfl)
theorem dX3_readTreaty_107 : decode cX3_readTreaty 107 = .ok (.invokevirtual 315, 3) := dk_182 1 59 (dk_at dksX3_readTreaty_4 14 rfl rfl)
theorem dX3_readTreaty_110 : decode cX3_readTreaty 110 = .ok (.invokevirtual 339, 3) := dk_182 1 83 (dk_at dksX3_readTreaty_4 17 rfl rfl)
theorem dX3_readTreaty_113 : decode cX3_readTreaty 113 = .ok (.aload_n 0, 1) := dk_42 (dk_at dksX3_readTreaty_4 20 rfl rfl)
theorem dX3_readTreaty_114 : decode cX3_readTreaty 114 = .ok (.iload_n 1, 1) := dk_27 (dk_at dksX3_readTreaty_4 21 rfl rfl)
theorem dX3_readTreaty_115 : decode cX3_readTreaty 115 = .ok (.putfield 403, 3) := dk_181 1 147 (dk_at dksX3_readTreaty_5 0 rfl rfl)
theorem dX3_readTreaty_118 : decode cX3_readTreaty 118 = .ok (.aload_n 0, 1) := dk_42 (dk_at dksX3_readTreaty_5 3 rfl rfl)
theorem dX3_readTreaty_119 : decode cX3_readTreaty 119 = .ok (.getfield 86, 3) := dk_180 0 86 (dk_at dksX3_readTreaty_5 4 rfl rfl)
theorem dX3_readTreaty_122 : decode cX3_readTreaty 122 = .ok (.bipush 12, 2) := dk_16 12 (dk_at dksX3_readTreaty_5 7 rfl rfl)
theorem dX3_readTreaty_124 : decode cX3_readTreaty 124 = .ok (.iload_n 1, 1) := dk_27 (dk_at dksX3_readTreaty_5 9 rfl rfl)
theorem dX3_readTreaty_125 : decode cX3_readTreaty 125 = .ok (.iadd, 1) := dk_96 (dk_at dksX3_readTreaty_5 10 rfl rfl)
theorem dX3_readTreaty_126 : decode cX3_readTreaty 126 = .ok (.aload_n 0, 1) := dk_42 (dk_at dksX3_readTreaty_5 11 rfl rfl)
theorem dX3_readTreaty_127 : decode cX3_readTreaty 127 = .ok (.getfield 394, 3) := dk_180 1 138 (dk_at dksX3_readTreaty_5 12 rfl rfl)
theorem dX3_readTreaty_130 : decode cX3_readTreaty 130 = .ok (.iastore, 1) := dk_79 (dk_at dksX3_readTreaty_5 15 rfl rfl)
theorem dX3_readTreaty_131 : decode cX3_readTreaty 131 = .ok (.aload_n 0, 1) := dk_42 (dk_at dksX3_readTreaty_5 16 rfl rfl)
theorem dX3_readTreaty_132 : decode cX3_readTreaty 132 = .ok (.invokevirtual 284, 3) := dk_182 1 28 (dk_at dksX3_readTreaty_5 17 rfl rfl)
theorem dX3_readTreaty_135 : decode cX3_readTreaty 135 = .ok (.ifCond .eq 7, 3) := dk_153 0 7 (dk_at dksX3_readTreaty_5 20 rfl rfl)
theorem dX3_readTreaty_138 : decode cX3_readTreaty 138 = .ok (.aload_n 0, 1) := dk_42 (dk_at dksX3_readTreaty_5 23 rfl rfl)
theorem dX3_readTreaty_139 : decode cX3_readTreaty 139 = .ok (.invokevirtual 406, 3) := dk_182 1 150 (dk_at dksX3_readTreaty_6 0 rfl rfl)
theorem dX3_readTreaty_142 : decode cX3_readTreaty 142 = .ok (.aload_n 0, 1) := dk_42 (dk_at dksX3_readTreaty_6 3 rfl rfl)
theorem dX3_readTreaty_143 : decode cX3_readTreaty 143 = .ok (.getfield 89, 3) := dk_180 0 89 (dk_at dksX3_readTreaty_6 4 rfl rfl)
theorem dX3_readTreaty_146 : decode cX3_readTreaty 146 = .ok (.bipush 12, 2) := dk_16 12 (dk_at dksX3_readTreaty_6 7 rfl rfl)
theorem dX3_readTreaty_148 : decode cX3_readTreaty 148 = .ok (.iload_n 1, 1) := dk_27 (dk_at dksX3_readTreaty_6 9 rfl rfl)
theorem dX3_readTreaty_149 : decode cX3_readTreaty 149 = .ok (.iadd, 1) := dk_96 (dk_at dksX3_readTreaty_6 10 rfl rfl)
theorem dX3_readTreaty_150 : decode cX3_readTreaty 150 = .ok (.aload_n 0, 1) := dk_42 (dk_at dksX3_readTreaty_6 11 rfl rfl)
theorem dX3_readTreaty_151 : decode cX3_readTreaty 151 = .ok (.getfield 394, 3) := dk_180 1 138 (dk_at dksX3_readTreaty_6 12 rfl rfl)
theorem dX3_readTreaty_154 : decode cX3_readTreaty 154 = .ok (.iastore, 1) := dk_79 (dk_at dksX3_readTreaty_6 15 rfl rfl)
theorem dX3_readTreaty_155 : decode cX3_readTreaty 155 = .ok (.aload_n 0, 1) := dk_42 (dk_at dksX3_readTreaty_6 16 rfl rfl)
theorem dX3_readTreaty_156 : decode cX3_readTreaty 156 = .ok (.getfield 107, 3) := dk_180 0 107 (dk_at dksX3_readTreaty_6 17 rfl rfl)
theorem dX3_readTreaty_159 : decode cX3_readTreaty 159 = .ok (.bipush 12, 2) := dk_16 12 (dk_at dksX3_readTreaty_6 20 rfl rfl)
theorem dX3_readTreaty_161 : decode cX3_readTreaty 161 = .ok (.iload_n 1, 1) := dk_27 (dk_at dksX3_readTreaty_6 22 rfl rfl)
theorem dX3_readTreaty_162 : decode cX3_readTreaty 162 = .ok (.iadd, 1) := dk_96 (dk_at dksX3_readTreaty_6 23 rfl rfl)
theorem dX3_readTreaty_163 : decode cX3_readTreaty 163 = .ok (.iconst 1, 1) := dk_4 (dk_at dksX3_readTreaty_7 0 rfl rfl)
theorem dX3_readTreaty_164 : decode cX3_readTreaty 164 = .ok (.bastore, 1) := dk_84 (dk_at dksX3_readTreaty_7 1 rfl rfl)
theorem dX3_readTreaty_165 : decode cX3_readTreaty 165 = .ok (.aload_n 0, 1) := dk_42 (dk_at dksX3_readTreaty_7 2 rfl rfl)
theorem dX3_readTreaty_166 : decode cX3_readTreaty 166 = .ok (.aload_n 0, 1) := dk_42 (dk_at dksX3_readTreaty_7 3 rfl rfl)
theorem dX3_readTreaty_167 : decode cX3_readTreaty 167 = .ok (.bipush 59, 2) := dk_16 59 (dk_at dksX3_readTreaty_7 4 rfl rfl)
theorem dX3_readTreaty_169 : decode cX3_readTreaty 169 = .ok (.invokevirtual 336, 3) := dk_182 1 80 (dk_at dksX3_readTreaty_7 6 rfl rfl)
theorem dX3_readTreaty_172 : decode cX3_readTreaty 172 = .ok (.invokevirtual 339, 3) := dk_182 1 83 (dk_at dksX3_readTreaty_7 9 rfl rfl)
theorem dX3_readTreaty_175 : decode cX3_readTreaty 175 = .ok (.aload_n 0, 1) := dk_42 (dk_at dksX3_readTreaty_7 12 rfl rfl)
theorem dX3_readTreaty_176 : decode cX3_readTreaty 176 = .ok (.getfield 83, 3) := dk_180 0 83 (dk_at dksX3_readTreaty_7 13 rfl rfl)
theorem dX3_readTreaty_179 : decode cX3_readTreaty 179 = .ok (.iconst 3, 1) := dk_6 (dk_at dksX3_readTreaty_7 16 rfl rfl)
theorem dX3_readTreaty_180 : decode cX3_readTreaty 180 = .ok (.dup2, 1) := dk_92 (dk_at dksX3_readTreaty_7 17 rfl rfl)
theorem dX3_readTreaty_181 : decode cX3_readTreaty 181 = .ok (.iaload, 1) := dk_46 (dk_at dksX3_readTreaty_7 18 rfl rfl)
theorem dX3_readTreaty_182 : decode cX3_readTreaty 182 = .ok (.iconst 1, 1) := dk_4 (dk_at dksX3_readTreaty_7 19 rfl rfl)
theorem dX3_readTreaty_183 : decode cX3_readTreaty 183 = .ok (.iadd, 1) := dk_96 (dk_at dksX3_readTreaty_7 20 rfl rfl)
theorem dX3_readTreaty_184 : decode cX3_readTreaty 184 = .ok (.iastore, 1) := dk_79 (dk_at dksX3_readTreaty_7 21 rfl rfl)
theorem dX3_readTreaty_185 : decode cX3_readTreaty 185 = .ok (.return_, 1) := dk_177 (dk_at dksX3_readTreaty_7 22 rfl rfl)
abbrev cX3_rounds : ByteArray := prog_24_method_90_code
def dkwX3_rounds_13 : List UInt8 := [167, 0, 4, 3, 54, 6, 132, 7, 1, 167, 255, 109, 21, 4, 172]
abbrev dktX3_rounds_13 : List UInt8 := dkwX3_rounds_13 ++ []
def dkwX3_rounds_12 : List UInt8 := [100, 54, 5, 132, 9, 1, 167, 255, 232, 21, 4, 21, 8, 100, 54, 4, 21, 8, 153, 0, 7, 4]
abbrev dktX3_rounds_12 : List UInt8 := dkwX3_rounds_12 ++ dktX3_rounds_13
def dkwX3_rounds_11 : List UInt8 := [167, 255, 175, 3, 54, 9, 21, 9, 42, 180, 2, 40, 162, 0, 21, 21, 5, 21, 8, 21, 9, 122, 4, 126]
abbrev dktX3_rounds_11 : List UInt8 := dkwX3_rounds_11 ++ dktX3_rounds_12
def dkwX3_rounds_10 : List UInt8 := [167, 0, 21, 21, 8, 4, 21, 9, 120, 128, 54, 8, 42, 180, 0, 153, 21, 9, 21, 7, 79, 132, 9, 1]
abbrev dktX3_rounds_10 : List UInt8 := dkwX3_rounds_10 ++ dktX3_rounds_11
def dkwX3_rounds_9 : List UInt8 := [46, 181, 1, 213, 42, 21, 5, 4, 100, 181, 1, 210, 42, 28, 6, 4, 182, 1, 223, 153, 0, 6]
abbrev dktX3_rounds_9 : List UInt8 := dkwX3_rounds_9 ++ dktX3_rounds_10
def dkwX3_rounds_8 : List UInt8 := [21, 9, 122, 4, 126, 154, 0, 6, 167, 0, 59, 42, 21, 9, 181, 1, 204, 42, 42, 180, 0, 147, 21, 9]
abbrev dktX3_rounds_8 : List UInt8 := dkwX3_rounds_8 ++ dktX3_rounds_9
def dkwX3_rounds_7 : List UInt8 := [54, 7, 21, 6, 153, 0, 148, 3, 54, 8, 3, 54, 9, 21, 9, 42, 180, 2, 40, 162, 0, 78, 21, 4]
abbrev dktX3_rounds_7 : List UInt8 := dkwX3_rounds_7 ++ dktX3_rounds_8
def dkwX3_rounds_6 : List UInt8 := [21, 6, 21, 7, 153, 0, 7, 3, 167, 0, 4, 2, 79, 132, 6, 1, 167, 255, 176, 4, 54, 6, 4]
abbrev dktX3_rounds_6 : List UInt8 := dkwX3_rounds_6 ++ dktX3_rounds_7
def dkwX3_rounds_5 : List UInt8 := [3, 128, 54, 4, 21, 5, 21, 7, 153, 0, 7, 4, 167, 0, 4, 3, 96, 54, 5, 42, 180, 0, 153]
abbrev dktX3_rounds_5 : List UInt8 := dkwX3_rounds_5 ++ dktX3_rounds_6
def dkwX3_rounds_4 : List UInt8 := [162, 0, 7, 4, 167, 0, 4, 3, 54, 7, 21, 4, 21, 7, 153, 0, 10, 4, 21, 6, 120, 167, 0, 4]
abbrev dktX3_rounds_4 : List UInt8 := dkwX3_rounds_4 ++ dktX3_rounds_5
def dkwX3_rounds_3 : List UInt8 := [167, 255, 206, 3, 54, 6, 21, 6, 42, 180, 2, 40, 162, 0, 77, 27, 42, 180, 0, 150, 21, 6, 46]
abbrev dktX3_rounds_3 : List UInt8 := dkwX3_rounds_3 ++ dktX3_rounds_4
def dkwX3_rounds_2 : List UInt8 := [27, 163, 0, 19, 42, 89, 180, 1, 207, 42, 180, 0, 116, 21, 6, 46, 128, 181, 1, 207, 132, 6, 1]
abbrev dktX3_rounds_2 : List UInt8 := dkwX3_rounds_2 ++ dktX3_rounds_3
def dkwX3_rounds_1 : List UInt8 := [180, 1, 53, 162, 0, 47, 42, 21, 6, 5, 29, 182, 1, 248, 153, 0, 30, 42, 180, 0, 113, 21, 6, 46]
abbrev dktX3_rounds_1 : List UInt8 := dkwX3_rounds_1 ++ dktX3_rounds_2
def dkwX3_rounds_0 : List UInt8 := [3, 54, 4, 3, 54, 5, 42, 3, 181, 1, 207, 42, 27, 181, 1, 189, 3, 54, 6, 21, 6, 42]
abbrev dktX3_rounds_0 : List UInt8 := dkwX3_rounds_0 ++ dktX3_rounds_1
theorem dksX3_rounds_0 : cX3_rounds.data.toList.drop 0 = dktX3_rounds_0 := by decide +kernel
theorem dksX3_rounds_1 : cX3_rounds.data.toList.drop 22 = dktX3_rounds_1 := dk_seg dksX3_rounds_0 22 rfl rfl
theorem dksX3_rounds_2 : cX3_rounds.data.toList.drop 46 = dktX3_rounds_2 := dk_seg dksX3_rounds_1 24 rfl rfl
theorem dksX3_rounds_3 : cX3_rounds.data.toList.drop 69 = dktX3_rounds_3 := dk_seg dksX3_rounds_2 23 rfl rfl
theorem dksX3_rounds_4 : cX3_rounds.data.toList.drop 92 = dktX3_rounds_4 := dk_seg dksX3_rounds_3 23 rfl rfl
theorem dksX3_rounds_5 : cX3_rounds.data.toList.drop 116 = dktX3_rounds_5 := dk_seg dksX3_rounds_4 24 rfl rfl
theorem dksX3_rounds_6 : cX3_rounds.data.toList.drop 139 = dktX3_rounds_6 := dk_seg dksX3_rounds_5 23 rfl rfl
theorem dksX3_rounds_7 : cX3_rounds.data.toList.drop 162 = dktX3_rounds_7 := dk_seg dksX3_rounds_6 23 rfl rfl
theorem dksX3_rounds_8 : cX3_rounds.data.toList.drop 186 = dktX3_rounds_8 := dk_seg dksX3_rounds_7 24 rfl rfl
theorem dksX3_rounds_9 : cX3_rounds.data.toList.drop 210 = dktX3_rounds_9 := dk_seg dksX3_rounds_8 24 rfl rfl
theorem dksX3_rounds_10 : cX3_rounds.data.toList.drop 232 = dktX3_rounds_10 := dk_seg dksX3_rounds_9 22 rfl rfl
theorem dksX3_rounds_11 : cX3_rounds.data.toList.drop 256 = dktX3_rounds_11 := dk_seg dksX3_rounds_10 24 rfl rfl
theorem dksX3_rounds_12 : cX3_rounds.data.toList.drop 280 = dktX3_rounds_12 := dk_seg dksX3_rounds_11 24 rfl rfl
theorem dksX3_rounds_13 : cX3_rounds.data.toList.drop 302 = dktX3_rounds_13 := dk_seg dksX3_rounds_12 22 rfl rfl
theorem dX3_rounds_0 : decode cX3_rounds 0 = .ok (.iconst 0, 1) := dk_3 (dk_at dksX3_rounds_0 0 rfl rfl)
theorem dX3_rounds_1 : decode cX3_rounds 1 = .ok (.istore 4, 2) := dk_54 4 (dk_at dksX3_rounds_0 1 rfl rfl)
theorem dX3_rounds_3 : decode cX3_rounds 3 = .ok (.iconst 0, 1) := dk_3 (dk_at dksX3_rounds_0 3 rfl rfl)
theorem dX3_rounds_4 : decode cX3_rounds 4 = .ok (.istore 5, 2) := dk_54 5 (dk_at dksX3_rounds_0 4 rfl rfl)
theorem dX3_rounds_6 : decode cX3_rounds 6 = .ok (.aload_n 0, 1) := dk_42 (dk_at dksX3_rounds_0 6 rfl rfl)
theorem dX3_rounds_7 : decode cX3_rounds 7 = .ok (.iconst 0, 1) := dk_3 (dk_at dksX3_rounds_0 7 rfl rfl)
theorem dX3_rounds_8 : decode cX3_rounds 8 = .ok (.putfield 463, 3) := dk_181 1 207 (dk_at dksX3_rounds_0 8 rfl rfl)
theorem dX3_rounds_11 : decode cX3_rounds 11 = .ok (.aload_n 0, 1) := dk_42 (dk_at dksX3_rounds_0 11 rfl rfl)
theorem dX3_rounds_12 : decode cX3_rounds 12 = .ok (.iload_n 1, 1) := dk_27 (dk_at dksX3_rounds_0 12 rfl rfl)
theorem dX3_rounds_13 : decode cX3_rounds 13 = .ok (.putfield 445, 3) := dk_181 1 189 (dk_at dksX3_rounds_0 13 rfl rfl)
theorem dX3_rounds_16 : decode cX3_rounds 16 = .ok (.iconst 0, 1) := dk_3 (dk_at dksX3_rounds_0 16 rfl rfl)
theorem dX3_rounds_17 : decode cX3_rounds 17 = .ok (.istore 6, 2) := dk_54 6 (dk_at dksX3_rounds_0 17 rfl rfl)
theorem dX3_rounds_19 : decode cX3_rounds 19 = .ok (.iload 6, 2) := dk_21 6 (dk_at dksX3_rounds_0 19 rfl rfl)
theorem dX3_rounds_21 : decode cX3_rounds 21 = .ok (.aload_n 0, 1) := dk_42 (dk_at dksX3_rounds_0 21 rfl rfl)
theorem dX3_rounds_22 : decode cX3_rounds 22 = .ok (.getfield 309, 3) := dk_180 1 53 (dk_at dksX3_rounds_1 0 rfl rfl)
theorem dX3_rounds_25 : decode cX3_rounds 25 = .ok (.if_icmp .ge 47, 3) := dk_162 0 47 (dk_at dksX3_rounds_1 3 rfl rfl)
theorem dX3_rounds_28 : decode cX3_rounds 28 = .ok (.aload_n 0, 1) := dk_42 (dk_at dksX3_rounds_1 6 rfl rfl)
theorem dX3_rounds_29 : decode cX3_rounds 29 = .ok (.iload 6, 2) := dk_21 6 (dk_at dksX3_rounds_1 7 rfl rfl)
theorem dX3_rounds_31 : decode cX3_rounds 31 = .ok (.iconst 2, 1) := dk_5 (dk_at dksX3_rounds_1 9 rfl rfl)
theorem dX3_rounds_32 : decode cX3_rounds 32 = .ok (.iload_n 3, 1) := dk_29 (dk_at dksX3_rounds_1 10 rfl rfl)
theorem dX3_rounds_33 : decode cX3_rounds 33 = .ok (.invokevirtual 504, 3) := dk_182 1 248 (dk_at dksX3_rounds_1 11 rfl rfl)
theorem dX3_rounds_36 : decode cX3_rounds 36 = .ok (.ifCond .eq 30, 3) := dk_153 0 30 (dk_at dksX3_rounds_1 14 rfl rfl)
theorem dX3_rounds_39 : decode cX3_rounds 39 = .ok (.aload_n 0, 1) := dk_42 (dk_at dksX3_rounds_1 17 rfl rfl)
theorem dX3_rounds_40 : decode cX3_rounds 40 = .ok (.getfield 113, 3) := dk_180 0 113 (dk_at dksX3_rounds_1 18 rfl rfl)
theorem dX3_rounds_43 : decode cX3_rounds 43 = .ok (.iload 6, 2) := dk_21 6 (dk_at dksX3_rounds_1 21 rfl rfl)
theorem dX3_rounds_45 : decode cX3_rounds 45 = .ok (.iaload, 1) := dk_46 (dk_at dksX3_rounds_1 23 rfl rfl)
theorem dX3_rounds_46 : decode cX3_rounds 46 = .ok (.iload_n 1, 1) := dk_27 (dk_at dksX3_rounds_2 0 rfl rfl)
theorem dX3_rounds_47 : decode cX3_rounds 47 = .ok (.if_icmp .gt 19, 3) := dk_163 0 19 (dk_at dksX3_rounds_2 1 rfl rfl)
theorem dX3_rounds_50 : decode cX3_rounds 50 = .ok (.aload_n 0, 1) := dk_42 (dk_at dksX3_rounds_2 4 rfl rfl)
theorem dX3_rounds_51 : decode cX3_rounds 51 = .ok (.dup, 1) := dk_89 (dk_at dksX3_rounds_2 5 rfl rfl)
theorem dX3_rounds_52 : decode cX3_rounds 52 = .ok (.getfield 463, 3) := dk_180 1 207 (dk_at dksX3_rounds_2 6 rfl rfl)
theorem dX3_rounds_55 : decode cX3_rounds 55 = .ok (.aload_n 0, 1) := dk_42 (dk_at dksX3_rounds_2 9 rfl rfl)
theorem dX3_rounds_56 : decode cX3_rounds 56 = .ok (.getfield 116, 3) := dk_180 0 116 (dk_at dksX3_rounds_2 10 rfl rfl)
theorem dX3_rounds_59 : decode cX3_rounds 59 = .ok (.iload 6, 2) := dk_21 6 (dk_at dksX3_rounds_2 13 rfl rfl)
theorem dX3_rounds_61 : decode cX3_rounds 61 = .ok (.iaload, 1) := dk_46 (dk_at dksX3_rounds_2 15 rfl rfl)
theorem dX3_rounds_62 : decode cX3_rounds 62 = .ok (.ior, 1) := dk_128 (dk_at dksX3_rounds_2 16 rfl rfl)
theorem dX3_rounds_63 : decode cX3_rounds 63 = .ok (.putfield 463, 3) := dk_181 1 207 (dk_at dksX3_rounds_2 17 rfl rfl)
theorem dX3_rounds_66 : decode cX3_rounds 66 = .ok (.iinc 6 1, 3) := dk_132 6 1 (dk_at dksX3_rounds_2 20 rfl rfl)
theorem dX3_rounds_69 : decode cX3_rounds 69 = .ok (.goto (-50), 3) := dk_167 255 206 (dk_at dksX3_rounds_3 0 rfl rfl)
theorem dX3_rounds_72 : decode cX3_rounds 72 = .ok (.iconst 0, 1) := dk_3 (dk_at dksX3_rounds_3 3 rfl rfl)
theorem dX3_rounds_73 : decode cX3_rounds 73 = .ok (.istore 6, 2) := dk_54 6 (dk_at dksX3_rounds_3 4 rfl rfl)
theorem dX3_rounds_75 : decode cX3_rounds 75 = .ok (.iload 6, 2) := dk_21 6 (dk_at dksX3_rounds_3 6 rfl rfl)
theorem dX3_rounds_77 : decode cX3_rounds 77 = .ok (.aload_n 0, 1) := dk_42 (dk_at dksX3_rounds_3 8 rfl rfl)
theorem dX3_rounds_78 : decode cX3_rounds 78 = .ok (.getfield 552, 3) := dk_180 2 40 (dk_at dksX3_rounds_3 9 rfl rfl)
theorem dX3_rounds_81 : decode cX3_rounds 81 = .ok (.if_icmp .ge 77, 3) := dk_162 0 77 (dk_at dksX3_rounds_3 12 rfl rfl)
theorem dX3_rounds_84 : decode cX3_rounds 84 = .ok (.iload_n 1, 1) := dk_27 (dk_at dksX3_rounds_3 15 rfl rfl)
theorem dX3_rounds_85 : decode cX3_rounds 85 = .ok (.aload_n 0, 1) := dk_42 (dk_at dksX3_rounds_3 16 rfl rfl)
theorem dX3_rounds_86 : decode cX3_rounds 86 = .ok (.getfield 150, 3) := dk_180 0 150 (dk_at dksX3_rounds_3 17 rfl rfl)
theorem dX3_rounds_89 : decode cX3_rounds 89 = .ok (.iload 6, 2) := dk_21 6 (dk_at dksX3_rounds_3 20 rfl rfl)
theorem dX3_rounds_91 : decode cX3_rounds 91 = .ok (.iaload, 1) := dk_46 (dk_at dksX3_rounds_3 22 rfl rfl)
theorem dX3_rounds_92 : decode cX3_rounds 92 = .ok (.if_icmp .ge 7, 3) := dk_162 0 7 (dk_at dksX3_rounds_4 0 rfl rfl)
theorem dX3_rounds_95 : decode cX3_rounds 95 = .ok (.iconst 1, 1) := dk_4 (dk_at dksX3_rounds_4 3 rfl rfl)
theorem dX3_rounds_96 : decode cX3_rounds 96 = .ok (.goto 4, 3) := dk_167 0 4 (dk_at dksX3_rounds_4 4 rfl rfl)
theorem dX3_rounds_99 : decode cX3_rounds 99 = .ok (.iconst 0, 1) := dk_3 (dk_at dksX3_rounds_4 7 rfl rfl)
theorem dX3_rounds_100 : decode cX3_rounds 100 = .ok (.istore 7, 2) := dk_54 7 (dk_at dksX3_rounds_4 8 rfl rfl)
theorem dX3_rounds_102 : decode cX3_rounds 102 = .ok (.iload 4, 2) := dk_21 4 (dk_at dksX3_rounds_4 10 rfl rfl)
theorem dX3_rounds_104 : decode cX3_rounds 104 = .ok (.iload 7, 2) := dk_21 7 (dk_at dksX3_rounds_4 12 rfl rfl)
theorem dX3_rounds_106 : decode cX3_rounds 106 = .ok (.ifCond .eq 10, 3) := dk_153 0 10 (dk_at dksX3_rounds_4 14 rfl rfl)
theorem dX3_rounds_109 : decode cX3_rounds 109 = .ok (.iconst 1, 1) := dk_4 (dk_at dksX3_rounds_4 17 rfl rfl)
theorem dX3_rounds_110 : decode cX3_rounds 110 = .ok (.iload 6, 2) := dk_21 6 (dk_at dksX3_rounds_4 18 rfl rfl)
theorem dX3_rounds_112 : decode cX3_rounds 112 = .ok (.ishl, 1) := dk_120 (dk_at dksX3_rounds_4 20 rfl rfl)
theorem dX3_rounds_113 : decode cX3_rounds 113 = .ok (.goto 4, 3) := dk_167 0 4 (dk_at dksX3_rounds_4 21 rfl rfl)
theorem dX3_rounds_116 : decode cX3_rounds 116 = .ok (.iconst 0, 1) := dk_3 (dk_at dksX3_rounds_5 0 rfl rfl)
theorem dX3_rounds_117 : decode cX3_rounds 117 = .ok (.ior, 1) := dk_128 (dk_at dksX3_rounds_5 1 rfl rfl)
theorem dX3_rounds_118 : decode cX3_rounds 118 = .ok (.istore 4, 2) := dk_54 4 (dk_at dksX3_rounds_5 2 rfl rfl)
theorem dX3_rounds_120 : decode cX3_rounds 120 = .ok (.iload 5, 2) := dk_21 5 (dk_at dksX3_rounds_5 4 rfl rfl)
theorem dX3_rounds_122 : decode cX3_rounds 122 = .ok (.iload 7, 2) := dk_21 7 (dk_at dksX3_rounds_5 6 rfl rfl)
theorem dX3_rounds_124 : decode cX3_rounds 124 = .ok (.ifCond .eq 7, 3) := dk_153 0 7 (dk_at dksX3_rounds_5 8 rfl rfl)
theorem dX3_rounds_127 : decode cX3_rounds 127 = .ok (.iconst 1, 1) := dk_4 (dk_at dksX3_rounds_5 11 rfl rfl)
theorem dX3_rounds_128 : decode cX3_rounds 128 = .ok (.goto 4, 3) := dk_167 0 4 (dk_at dksX3_rounds_5 12 rfl rfl)
theorem dX3_rounds_131 : decode cX3_rounds 131 = .ok (.iconst 0, 1) := dk_3 (dk_at dksX3_rounds_5 15 rfl rfl)
theorem dX3_rounds_132 : decode cX3_rounds 132 = .ok (.iadd, 1) := dk_96 (dk_at dksX3_rounds_5 16 rfl rfl)
theorem dX3_rounds_133 : decode cX3_rounds 133 = .ok (.istore 5, 2) := dk_54 5 (dk_at dksX3_rounds_5 17 rfl rfl)
theorem dX3_rounds_135 : decode cX3_rounds 135 = .ok (.aload_n 0, 1) := dk_42 (dk_at dksX3_rounds_5 19 rfl rfl)
theorem dX3_rounds_136 : decode cX3_rounds 136 = .ok (.getfield 153, 3) := dk_180 0 153 (dk_at dksX3_rounds_5 20 rfl rfl)
theorem dX3_rounds_139 : decode cX3_rounds 139 = .ok (.iload 6, 2) := dk_21 6 (dk_at dksX3_rounds_6 0 rfl rfl)
theorem dX3_rounds_141 : decode cX3_rounds 141 = .ok (.iload 7, 2) := dk_21 7 (dk_at dksX3_rounds_6 2 rfl rfl)
theorem dX3_rounds_143 : decode cX3_rounds 143 = .ok (.ifCond .eq 7, 3) := dk_153 0 7 (dk_at dksX3_rounds_6 4 rfl rfl)
theorem dX3_rounds_146 : decode cX3_rounds 146 = .ok (.iconst 0, 1) := dk_3 (dk_at dksX3_rounds_6 7 rfl rfl)
theorem dX3_rounds_147 : decode cX3_rounds 147 = .ok (.goto 4, 3) := dk_167 0 4 (dk_at dksX3_rounds_6 8 rfl rfl)
theorem dX3_rounds_150 : decode cX3_rounds 150 = .ok (.iconst (-1), 1) := dk_2 (dk_at dksX3_rounds_6 11 rfl rfl)
theorem dX3_rounds_151 : decode cX3_rounds 151 = .ok (.iastore, 1) := dk_79 (dk_at dksX3_rounds_6 12 rfl rfl)
theorem dX3_rounds_152 : decode cX3_rounds 152 = .ok (.iinc 6 1, 3) := dk_132 6 1 (dk_at dksX3_rounds_6 13 rfl rfl)
theorem dX3_rounds_155 : decode cX3_rounds 155 = .ok (.goto (-80), 3) := dk_167 255 176 (dk_at dksX3_rounds_6 16 rfl rfl)
theorem dX3_rounds_158 : decode cX3_rounds 158 = .ok (.iconst 1, 1) := dk_4 (dk_at dksX3_rounds_6 19 rfl rfl)
theorem dX3_rounds_159 : decode cX3_rounds 159 = .ok (.istore 6, 2) := dk_54 6 (dk_at dksX3_rounds_6 20 rfl rfl)
theorem dX3_rounds_161 : decode cX3_rounds 161 = .ok (.iconst 1, 1) := dk_4 (dk_at dksX3_rounds_6 22 rfl rfl)
theorem dX3_rounds_162 : decode cX3_rounds 162 = .ok (.istore 7, 2) := dk_54 7 (dk_at dksX3_rounds_7 0 rfl rfl)
theorem dX3_rounds_164 : decode cX3_rounds 164 = .ok (.iload 6, 2) := dk_21 6 (dk_at dksX3_rounds_7 2 rfl rfl)
theorem dX3_rounds_166 : decode cX3_rounds 166 = .ok (.ifCond .eq 148, 3) := dk_153 0 148 (dk_at dksX3_rounds_7 4 rfl rfl)
theorem dX3_rounds_169 : decode cX3_rounds 169 = .ok (.iconst 0, 1) := dk_3 (dk_at dksX3_rounds_7 7 rfl rfl)
theorem dX3_rounds_170 : decode cX3_rounds 170 = .ok (.istore 8, 2) := dk_54 8 (dk_at dksX3_rounds_7 8 rfl rfl)
theorem dX3_rounds_172 : decode cX3_rounds 172 = .ok (.iconst 0, 1) := dk_3 (dk_at dksX3_rounds_7 10 rfl rfl)
theorem dX3_rounds_173 : decode cX3_rounds 173 = .ok (.istore 9, 2) := dk_54 9 (dk_at dksX3_rounds_7 11 rfl rfl)
theorem dX3_rounds_175 : decode cX3_rounds 175 = .ok (.iload 9, 2) := dk_21 9 (dk_at dksX3_rounds_7 13 rfl rfl)
theorem dX3_rounds_177 : decode cX3_rounds 177 = .ok (.aload_n 0, 1) := dk_42 (dk_at dksX3_rounds_7 15 rfl rfl)
theorem dX3_rounds_178 : decode cX3_rounds 178 = .ok (.getfield 552, 3) := dk_180 2 40 (dk_at dksX3_rounds_7 16 rfl rfl)
theorem dX3_rounds_181 : decode cX3_rounds 181 = .ok (.if_icmp .ge 78, 3) := dk_162 0 78 (dk_at dksX3_rounds_7 19 rfl rfl)
theorem dX3_rounds_184 : decode cX3_rounds 184 = .ok (.iload 4, 2) := dk_21 4 (dk_at dksX3_rounds_7 22 rfl rfl)
theorem dX3_rounds_186 : decode cX3_rounds 186 = .ok (.iload 9, 2) := dk_21 9 (dk_at dksX3_rounds_8 0 rfl rfl)
theorem dX3_rounds_188 : decode cX3_rounds 188 = .ok (.ishr, 1) := dk_122 (dk_at dksX3_rounds_8 2 rfl rfl)
theorem dX3_rounds_189 : decode cX3_rounds 189 = .ok (.iconst 1, 1) := dk_4 (dk_at dksX3_rounds_8 3 rfl rfl)
theorem dX3_rounds_190 : decode cX3_rounds 190 = .ok (.iand, 1) := dk_126 (dk_at dksX3_rounds_8 4 rfl rfl)
theorem dX3_rounds_191 : decode cX3_rounds 191 = .ok (.ifCond .ne 6, 3) := dk_154 0 6 (dk_at dksX3_rounds_8 5 rfl rfl)
theorem dX3_rounds_194 : decode cX3_rounds 194 = .ok (.goto 59, 3) := dk_167 0 59 (dk_at dksX3_rounds_8 8 rfl rfl)
theorem dX3_rounds_197 : decode cX3_rounds 197 = .ok (.aload_n 0, 1) := dk_42 (dk_at dksX3_rounds_8 11 rfl rfl)
theorem dX3_rounds_198 : decode cX3_rounds 198 = .ok (.iload 9, 2) := dk_21 9 (dk_at dksX3_rounds_8 12 rfl rfl)
theorem dX3_rounds_200 : decode cX3_rounds 200 = .ok (.putfield 460, 3) := dk_181 1 204 (dk_at dksX3_rounds_8 14 rfl rfl)
theorem dX3_rounds_203 : decode cX3_rounds 203 = .ok (.aload_n 0, 1) := dk_42 (dk_at dksX3_rounds_8 17 rfl rfl)
theorem dX3_rounds_204 : decode cX3_rounds 204 = .ok (.aload_n 0, 1) := dk_42 (dk_at dksX3_rounds_8 18 rfl rfl)
theorem dX3_rounds_205 : decode cX3_rounds 205 = .ok (.getfield 147, 3) := dk_180 0 147 (dk_at dksX3_rounds_8 19 rfl rfl)
theorem dX3_rounds_208 : decode cX3_rounds 208 = .ok (.iload 9, 2) := dk_21 9 (dk_at dksX3_rounds_8 22 rfl rfl)
theorem dX3_rounds_210 : decode cX3_rounds 210 = .ok (.iaload, 1) := dk_46 (dk_at dksX3_rounds_9 0 rfl rfl)
theorem dX3_rounds_211 : decode cX3_rounds 211 = .ok (.putfield 469, 3) := dk_181 1 213 (dk_at dksX3_rounds_9 1 rfl rfl)
theorem dX3_rounds_214 : decode cX3_rounds 214 = .ok (.aload_n 0, 1) := dk_42 (dk_at dksX3_rounds_9 4 rfl rfl)
theorem dX3_rounds_215 : decode cX3_rounds 215 = .ok (.iload 5, 2) := dk_21 5 (dk_at dksX3_rounds_9 5 rfl rfl)
theorem dX3_rounds_217 : decode cX3_rounds 217 = .ok (.iconst 1, 1) := dk_4 (dk_at dksX3_rounds_9 7 rfl rfl)
theorem dX3_rounds_218 : decode cX3_rounds 218 = .ok (.isub, 1) := dk_100 (dk_at dksX3_rounds_9 8 rfl rfl)
theorem dX3_rounds_219 : decode cX3_rounds 219 = .ok (.putfield 466, 3) := dk_181 1 210 (dk_at dksX3_rounds_9 9 rfl rfl)
theorem dX3_rounds_222 : decode cX3_rounds 222 = .ok (.aload_n 0, 1) := dk_42 (dk_at dksX3_rounds_9 12 rfl rfl)
theorem dX3_rounds_223 : decode cX3_rounds 223 = .ok (.iload_n 2, 1) := dk_28 (dk_at dksX3_rounds_9 13 rfl rfl)
theorem dX3_rounds_224 : decode cX3_rounds 224 = .ok (.iconst 3, 1) := dk_6 (dk_at dksX3_rounds_9 14 rfl rfl)
theorem dX3_rounds_225 : decode cX3_rounds 225 = .ok (.iconst 1, 1) := dk_4 (dk_at dksX3_rounds_9 15 rfl rfl)
theorem dX3_rounds_226 : decode cX3_rounds 226 = .ok (.invokevirtual 479, 3) := dk_182 1 223 (dk_at dksX3_rounds_9 16 rfl rfl)
theorem dX3_rounds_229 : decode cX3_rounds 229 = .ok (.ifCond .eq 6, 3) := dk_153 0 6 (dk_at dksX3_rounds_9 19 rfl rfl)
theorem dX3_rounds_232 : decode cX3_rounds 232 = .ok (.goto 21, 3) := dk_167 0 21 (dk_at dksX3_rounds_10 0 rfl rfl)
theorem dX3_rounds_235 : decode cX3_rounds 235 = .ok (.iload 8, 2) := dk_21 8 (dk_at dksX3_rounds_10 3 rfl rfl)
theorem dX3_rounds_237 : decode cX3_rounds 237 = .ok (.iconst 1, 1) := dk_4 (dk_at dksX3_rounds_10 5 rfl rfl)
theorem dX3_rounds_238 : decode cX3_rounds 238 = .ok (.iload 9, 2) := dk_21 9 (dk_at dksX3_rounds_10 6 rfl rfl)
theorem dX3_rounds_240 : decode cX3_rounds 240 = .ok (.ishl, 1) := dk_120 (dk_at dksX3_rounds_10 8 rfl rfl)
theorem dX3_rounds_241 : decode cX3_rounds 241 = .ok (.ior, 1) := dk_128 (dk_at dksX3_rounds_10 9 rfl rfl)
theorem dX3_rounds_242 : decode cX3_rounds 242 = .ok (.istore 8, 2) := dk_54 8 (dk_at dksX3_rounds_10 10 rfl rfl)
theorem dX3_rounds_244 : decode cX3_rounds 244 = .ok (.aload_n 0, 1) := dk_42 (dk_at dksX3_rounds_10 12 rfl rfl)
theorem dX3_rounds_245 : decode cX3_rounds 245 = .ok (.getfield 153, 3) := dk_180 0 153 (dk_at dksX3_rounds_10 13 rfl rfl)
theorem dX3_rounds_248 : decode cX3_rounds 248 = .ok (.iload 9, 2) := dk_21 9 (dk_at dksX3_rounds_10 16 rfl rfl)
theorem dX3_rounds_250 : decode cX3_rounds 250 = .ok (.iload 7, 2) := dk_21 7 (dk_at dksX3_rounds_10 18 rfl rfl)
theorem dX3_rounds_252 : decode cX3_rounds 252 = .ok (.iastore, 1) := dk_79 (dk_at dksX3_rounds_10 20 rfl rfl)
theorem dX3_rounds_253 : decode cX3_rounds 253 = .ok (.iinc 9 1, 3) := dk_132 9 1 (dk_at dksX3_rounds_10 21 rfl rfl)
theorem dX3_rounds_256 : decode cX3_rounds 256 = .ok (.goto (-81), 3) := dk_167 255 175 (dk_at dksX3_rounds_11 0 rfl rfl)
theorem dX3_rounds_259 : decode cX3_rounds 259 = .ok (.iconst 0, 1) := dk_3 (dk_at dksX3_rounds_11 3 rfl rfl)
theorem dX3_rounds_260 : decode cX3_rounds 260 = .ok (.istore 9, 2) := dk_54 9 (dk_at dksX3_rounds_11 4 rfl rfl)
theorem dX3_rounds_262 : decode cX3_rounds 262 = .ok (.iload 9, 2) := dk_21 9 (dk_at dksX3_rounds_11 6 rfl rfl)
theorem dX3_rounds_264 : decode cX3_rounds 264 = .ok (.aload_n 0, 1) := dk_42 (dk_at dksX3_rounds_11 8 rfl rfl)
theorem dX3_rounds_265 : decode cX3_rounds 265 = .ok (.getfield 552, 3) := dk_180 2 40 (dk_at dksX3_rounds_11 9 rfl rfl)
theorem dX3_rounds_268 : decode cX3_rounds 268 = .ok (.if_icmp .ge 21, 3) := dk_162 0 21 (dk_at dksX3_rounds_11 12 rfl rfl)
theorem dX3_rounds_271 : decode cX3_rounds 271 = .ok (.iload 5, 2) := dk_21 5 (dk_at dksX3_rounds_11 15 rfl rfl)
theorem dX3_rounds_273 : decode cX3_rounds 273 = .ok (.iload 8, 2) := dk_21 8 (dk_at dksX3_rounds_11 17 rfl rfl)
theorem dX3_rounds_275 : decode cX3_rounds 275 = .ok (.iload 9, 2) := dk_21 9 (dk_at dksX3_rounds_11 19 rfl rfl)
theorem dX3_rounds_277 : decode cX3_rounds 277 = .ok (.ishr, 1) := dk_122 (dk_at dksX3_rounds_11 21 rfl rfl)
theorem dX3_rounds_278 : decode cX3_rounds 278 = .ok (.iconst 1, 1) := dk_4 (dk_at dksX3_rounds_11 22 rfl rfl)
theorem dX3_rounds_279 : decode cX3_rounds 279 = .ok (.iand, 1) := dk_126 (dk_at dksX3_rounds_11 23 rfl rfl)
theorem dX3_rounds_280 : decode cX3_rounds 280 = .ok (.isub, 1) := dk_100 (dk_at dksX3_rounds_12 0 rfl rfl)
theorem dX3_rounds_281 : decode cX3_rounds 281 = .ok (.istore 5, 2) := dk_54 5 (dk_at dksX3_rounds_12 1 rfl rfl)
theorem dX3_rounds_283 : decode cX3_rounds 283 = .ok (.iinc 9 1, 3) := dk_132 9 1 (dk_at dksX3_rounds_12 3 rfl rfl)
theorem dX3_rounds_286 : decode cX3_rounds 286 = .ok (.goto (-24), 3) := dk_167 255 232 (dk_at dksX3_rounds_12 6 rfl rfl)
theorem dX3_rounds_289 : decode cX3_rounds 289 = .ok (.iload 4, 2) := dk_21 4 (dk_at dksX3_rounds_12 9 rfl rfl)
theorem dX3_rounds_291 : decode cX3_rounds 291 = .ok (.iload 8, 2) := dk_21 8 (dk_at dksX3_rounds_12 11 rfl rfl)
theorem dX3_rounds_293 : decode cX3_rounds 293 = .ok (.isub, 1) := dk_100 (dk_at dksX3_rounds_12 13 rfl rfl)
theorem dX3_rounds_294 : decode cX3_rounds 294 = .ok (.istore 4, 2) := dk_54 4 (dk_at dksX3_rounds_12 14 rfl rfl)
theorem dX3_rounds_296 : decode cX3_rounds 296 = .ok (.iload 8, 2) := dk_21 8 (dk_at dksX3_rounds_12 16 rfl rfl)
theorem dX3_rounds_298 : decode cX3_rounds 298 = .ok (.ifCond .eq 7, 3) := dk_153 0 7 (dk_at dksX3_rounds_12 18 rfl rfl)
theorem dX3_rounds_301 : decode cX3_rounds 301 = .ok (.iconst 1, 1) := dk_4 (dk_at dksX3_rounds_12 21 rfl rfl)
theorem dX3_rounds_302 : decode cX3_rounds 302 = .ok (.goto 4, 3) := dk_167 0 4 (dk_at dksX3_rounds_13 0 rfl rfl)
theorem dX3_rounds_305 : decode cX3_rounds 305 = .ok (.iconst 0, 1) := dk_3 (dk_at dksX3_rounds_13 3 rfl rfl)
theorem dX3_rounds_306 : decode cX3_rounds 306 = .ok (.istore 6, 2) := dk_54 6 (dk_at dksX3_rounds_13 4 rfl rfl)
theorem dX3_rounds_308 : decode cX3_rounds 308 = .ok (.iinc 7 1, 3) := dk_132 7 1 (dk_at dksX3_rounds_13 6 rfl rfl)
theorem dX3_rounds_311 : decode cX3_rounds 311 = .ok (.goto (-147), 3) := dk_167 255 109 (dk_at dksX3_rounds_13 9 rfl rfl)
theorem dX3_rounds_314 : decode cX3_rounds 314 = .ok (.iload 4, 2) := dk_21 4 (dk_at dksX3_rounds_13 12 rfl rfl)
theorem dX3_rounds_316 : decode cX3_rounds 316 = .ok (.ireturn, 1) := dk_172 (dk_at dksX3_rounds_13 14 rfl rfl)
abbrev cX3_safe : ByteArray := prog_24_method_106_code
def dkwX3_safe_2 : List UInt8 := [172]
abbrev dktX3_safe_2 : List UInt8 := dkwX3_safe_2 ++ []
def dkwX3_safe_1 : List UInt8 := [42, 180, 0, 169, 3, 42, 180, 2, 76, 29, 27, 28, 184, 2, 82, 51, 153, 0, 7, 4, 167, 0, 4, 3]
abbrev dktX3_safe_1 : List UInt8 := dkwX3_safe_1 ++ dktX3_safe_2
def dkwX3_safe_0 : List UInt8 := [27, 28, 184, 2, 96, 153, 0, 13, 29, 3, 16, 6, 184, 1, 98, 154, 0, 5, 2, 172, 42, 182, 2, 99]
abbrev dktX3_safe_0 : List UInt8 := dkwX3_safe_0 ++ dktX3_safe_1
theorem dksX3_safe_0 : cX3_safe.data.toList.drop 0 = dktX3_safe_0 := by decide +kernel
theorem dksX3_safe_1 : cX3_safe.data.toList.drop 24 = dktX3_safe_1 := dk_seg dksX3_safe_0 24 rfl rfl
theorem dksX3_safe_2 : cX3_safe.data.toList.drop 48 = dktX3_safe_2 := dk_seg dksX3_safe_1 24 rfl rfl
theorem dX3_safe_0 : decode cX3_safe 0 = .ok (.iload_n 1, 1) := dk_27 (dk_at dksX3_safe_0 0 rfl rfl)
theorem dX3_safe_1 : decode cX3_safe 1 = .ok (.iload_n 2, 1) := dk_28 (dk_at dksX3_safe_0 1 rfl rfl)
theorem dX3_safe_2 : decode cX3_safe 2 = .ok (.invokestatic 608, 3) := dk_184 2 96 (dk_at dksX3_safe_0 2 rfl rfl)
theorem dX3_safe_5 : decode cX3_safe 5 = .ok (.ifCond .eq 13, 3) := dk_153 0 13 (dk_at dksX3_safe_0 5 rfl rfl)
theorem dX3_safe_8 : decode cX3_safe 8 = .ok (.iload_n 3, 1) := dk_29 (dk_at dksX3_safe_0 8 rfl rfl)
theorem dX3_safe_9 : decode cX3_safe 9 = .ok (.iconst 0, 1) := dk_3 (dk_at dksX3_safe_0 9 rfl rfl)
theorem dX3_safe_10 : decode cX3_safe 10 = .ok (.bipush 6, 2) := dk_16 6 (dk_at dksX3_safe_0 10 rfl rfl)
theorem dX3_safe_12 : decode cX3_safe 12 = .ok (.invokestatic 354, 3) := dk_184 1 98 (dk_at dksX3_safe_0 12 rfl rfl)
theorem dX3_safe_15 : decode cX3_safe 15 = .ok (.ifCond .ne 5, 3) := dk_154 0 5 (dk_at dksX3_safe_0 15 rfl rfl)
theorem dX3_safe_18 : decode cX3_safe 18 = .ok (.iconst (-1), 1) := dk_2 (dk_at dksX3_safe_0 18 rfl rfl)
theorem dX3_safe_19 : decode cX3_safe 19 = .ok (.ireturn, 1) := dk_172 (dk_at dksX3_safe_0 19 rfl rfl)
theorem dX3_safe_20 : decode cX3_safe 20 = .ok (.aload_n 0, 1) := dk_42 (dk_at dksX3_safe_0 20 rfl rfl)
theorem dX3_safe_21 : decode cX3_safe 21 = .ok (.invokevirtual 611, 3) := dk_182 2 99 (dk_at dksX3_safe_0 21 rfl rfl)
theorem dX3_safe_24 : decode cX3_safe 24 = .ok (.aload_n 0, 1) := dk_42 (dk_at dksX3_safe_1 0 rfl rfl)
theorem dX3_safe_25 : decode cX3_safe 25 = .ok (.getfield 169, 3) := dk_180 0 169 (dk_at dksX3_safe_1 1 rfl rfl)
theorem dX3_safe_28 : decode cX3_safe 28 = .ok (.iconst 0, 1) := dk_3 (dk_at dksX3_safe_1 4 rfl rfl)
theorem dX3_safe_29 : decode cX3_safe 29 = .ok (.aload_n 0, 1) := dk_42 (dk_at dksX3_safe_1 5 rfl rfl)
theorem dX3_safe_30 : decode cX3_safe 30 = .ok (.getfield 588, 3) := dk_180 2 76 (dk_at dksX3_safe_1 6 rfl rfl)
theorem dX3_safe_33 : decode cX3_safe 33 = .ok (.iload_n 3, 1) := dk_29 (dk_at dksX3_safe_1 9 rfl rfl)
theorem dX3_safe_34 : decode cX3_safe 34 = .ok (.iload_n 1, 1) := dk_27 (dk_at dksX3_safe_1 10 rfl rfl)
theorem dX3_safe_35 : decode cX3_safe 35 = .ok (.iload_n 2, 1) := dk_28 (dk_at dksX3_safe_1 11 rfl rfl)
theorem dX3_safe_36 : decode cX3_safe 36 = .ok (.invokestatic 594, 3) := dk_184 2 82 (dk_at dksX3_safe_1 12 rfl rfl)
theorem dX3_safe_39 : decode cX3_safe 39 = .ok (.baload, 1) := dk_51 (dk_at dksX3_safe_1 15 rfl rfl)
theorem dX3_safe_40 : decode cX3_safe 40 = .ok (.ifCond .eq 7, 3) := dk_153 0 7 (dk_at dksX3_safe_1 16 rfl rfl)
theorem dX3_safe_43 : decode cX3_safe 43 = .ok (.iconst 1, 1) := dk_4 (dk_at dksX3_safe_1 19 rfl rfl)
theorem dX3_safe_44 : decode cX3_safe 44 = .ok (.goto 4, 3) := dk_167 0 4 (dk_at dksX3_safe_1 20 rfl rfl)
theorem dX3_safe_47 : decode cX3_safe 47 = .ok (.iconst 0, 1) := dk_3 (dk_at dksX3_safe_1 23 rfl rfl)
theorem dX3_safe_48 : decode cX3_safe 48 = .ok (.ireturn, 1) := dk_172 (dk_at dksX3_safe_2 0 rfl rfl)
abbrev cX3_seekMend : ByteArray := prog_24_method_37_code
def dkwX3_seekMend_6 : List UInt8 := [167, 255, 139, 177]
abbrev dktX3_seekMend_6 : List UInt8 := dkwX3_seekMend_6 ++ []
def dkwX3_seekMend_5 : List UInt8 := [42, 21, 4, 181, 1, 123, 42, 21, 5, 181, 1, 129, 21, 6, 60, 132, 4, 1, 167, 255, 163, 132, 2, 1]
abbrev dktX3_seekMend_5 : List UInt8 := dkwX3_seekMend_5 ++ dktX3_seekMend_6
def dkwX3_seekMend_4 : List UInt8 := [160, 0, 19, 42, 180, 1, 120, 155, 0, 32, 21, 6, 27, 161, 0, 6, 167, 0, 23, 42, 28, 181, 1, 120]
abbrev dktX3_seekMend_4 : List UInt8 := dkwX3_seekMend_4 ++ dktX3_seekMend_5
def dkwX3_seekMend_3 : List UInt8 := [167, 0, 7, 21, 4, 29, 100, 54, 6, 21, 5, 42, 180, 1, 129, 161, 0, 48, 21, 5, 42, 180, 1, 129]
abbrev dktX3_seekMend_3 : List UInt8 := dkwX3_seekMend_3 ++ dktX3_seekMend_4
def dkwX3_seekMend_2 : List UInt8 := [163, 0, 91, 42, 28, 21, 4, 182, 1, 126, 54, 5, 21, 4, 29, 162, 0, 10, 29, 21, 4, 100]
abbrev dktX3_seekMend_2 : List UInt8 := dkwX3_seekMend_2 ++ dktX3_seekMend_3
def dkwX3_seekMend_1 : List UInt8 := [28, 42, 182, 1, 94, 162, 0, 115, 42, 28, 3, 182, 1, 107, 62, 4, 54, 4, 21, 4, 17, 117, 48]
abbrev dktX3_seekMend_1 : List UInt8 := dkwX3_seekMend_1 ++ dktX3_seekMend_2
def dkwX3_seekMend_0 : List UInt8 := [42, 2, 181, 1, 120, 42, 2, 181, 1, 123, 42, 42, 2, 3, 182, 1, 126, 181, 1, 129, 3, 60, 3, 61]
abbrev dktX3_seekMend_0 : List UInt8 := dkwX3_seekMend_0 ++ dktX3_seekMend_1
theorem dksX3_seekMend_0 : cX3_seekMend.data.toList.drop 0 = dktX3_seekMend_0 := by decide +kernel
theorem dksX3_seekMend_1 : cX3_seekMend.data.toList.drop 24 = dktX3_seekMend_1 := dk_seg dksX3_seekMend_0 24 rfl rfl
theorem dksX3_seekMend_2 : cX3_seekMend.data.toList.drop 47 = dktX3_seekMend_2 := dk_seg dksX3_seekMend_1 23 rfl rfl
theorem dksX3_seekMend_3 : cX3_seekMend.data.toList.drop 69 = dktX3_seekMend_3 := dk_seg dksX3_seekMend_2 22 rfl rfl
theorem dksX3_seekMend_4 : cX3_seekMend.data.toList.drop 93 = dktX3_seekMend_4 := dk_seg dksX3_seekMend_3 24 rfl rfl
theorem dksX3_seekMend_5 : cX3_seekMend.data.toList.drop 117 = dktX3_seekMend_5 := dk_seg dksX3_seekMend_4 24 rfl rfl
theorem dksX3_seekMend_6 : cX3_seekMend.data.toList.drop 141 = dktX3_seekMend_6 := dk_seg dksX3_seekMend_5 24 rfl rfl
theorem dX3_seekMend_0 : decode cX3_seekMend 0 = .ok (.aload_n 0, 1) := dk_42 (dk_at dksX3_seekMend_0 0 rfl rfl)
theorem dX3_seekMend_1 : decode cX3_seekMend 1 = .ok (.iconst (-1), 1) := dk_2 (dk_at dksX3_seekMend_0 1 rfl rfl)
theorem dX3_seekMend_2 : decode cX3_seekMend 2 = .ok (.putfield 376, 3) := dk_181 1 120 (dk_at dksX3_seekMend_0 2 rfl rfl)
theorem dX3_seekMend_5 : decode cX3_seekMend 5 = .ok (.aload_n 0, 1) := dk_42 (dk_at dksX3_seekMend_0 5 rfl rfl)
theorem dX3_seekMend_6 : decode cX3_seekMend 6 = .ok (.iconst (-1), 1) := dk_2 (dk_at dksX3_seekMend_0 6 rfl rfl)
theorem dX3_seekMend_7 : decode cX3_seekMend 7 = .ok (.putfield 379, 3) := dk_181 1 123 (dk_at dksX3_seekMend_0 7 rfl rfl)
theorem dX3_seekMend_10 : decode cX3_seekMend 10 = .ok (.aload_n 0, 1) := dk_42 (dk_at dksX3_seekMend_0 10 rfl rfl)
theorem dX3_seekMend_11 : decode cX3_seekMend 11 = .ok (.aload_n 0, 1) := dk_42 (dk_at dksX3_seekMend_0 11 rfl rfl)
theorem dX3_seekMend_12 : decode cX3_seekMend 12 = .ok (.iconst (-1), 1) := dk_2 (dk_at dksX3_seekMend_0 12 rfl rfl)
theorem dX3_seekMend_13 : decode cX3_seekMend 13 = .ok (.iconst 0, 1) := dk_3 (dk_at dksX3_seekMend_0 13 rfl rfl)
theorem dX3_seekMend_14 : decode cX3_seekMend 14 = .ok (.invokevirtual 382, 3) := dk_182 1 126 (dk_at dksX3_seekMend_0 14 rfl rfl)
theorem dX3_seekMend_17 : decode cX3_seekMend 17 = .ok (.putfield 385, 3) := dk_181 1 129 (dk_at dksX3_seekMend_0 17 rfl rfl)
theorem dX3_seekMend_20 : decode cX3_seekMend 20 = .ok (.iconst 0, 1) := dk_3 (dk_at dksX3_seekMend_0 20 rfl rfl)
theorem dX3_seekMend_21 : decode cX3_seekMend 21 = .ok (.istore_n 1, 1) := dk_60 (dk_at dksX3_seekMend_0 21 rfl rfl)
theorem dX3_seekMend_22 : decode cX3_seekMend 22 = .ok (.iconst 0, 1) := dk_3 (dk_at dksX3_seekMend_0 22 rfl rfl)
theorem dX3_seekMend_23 : decode cX3_seekMend 23 = .ok (.istore_n 2, 1) := dk_61 (dk_at dksX3_seekMend_0 23 rfl rfl)
theorem dX3_seekMend_24 : decode cX3_seekMend 24 = .ok (.iload_n 2, 1) := dk_28 (dk_at dksX3_seekMend_1 0 rfl rfl)
theorem dX3_seekMend_25 : decode cX3_seekMend 25 = .ok (.aload_n 0, 1) := dk_42 (dk_at dksX3_seekMend_1 1 rfl rfl)
theorem dX3_seekMend_26 : decode cX3_seekMend 26 = .ok (.invokevirtual 350, 3) := dk_182 1 94 (dk_at dksX3_seekMend_1 2 rfl rfl)
theorem dX3_seekMend_29 : decode cX3_seekMend 29 = .ok (.if_icmp .ge 115, 3) := dk_162 0 115 (dk_at dksX3_seekMend_1 5 rfl rfl)
theorem dX3_seekMend_32 : decode cX3_seekMend 32 = .ok (.aload_n 0, 1) := dk_42 (dk_at dksX3_seekMend_1 8 rfl rfl)
theorem dX3_seekMend_33 : decode cX3_seekMend 33 = .ok (.iload_n 2, 1) := dk_28 (dk_at dksX3_seekMend_1 9 rfl rfl)
theorem dX3_seekMend_34 : decode cX3_seekMend 34 = .ok (.iconst 0, 1) := dk_3 (dk_at dksX3_seekMend_1 10 rfl rfl)
theorem dX3_seekMend_35 : decode cX3_seekMend 35 = .ok (.invokevirtual 363, 3) := dk_182 1 107 (dk_at dksX3_seekMend_1 11 rfl rfl)
theorem dX3_seekMend_38 : decode cX3_seekMend 38 = .ok (.istore_n 3, 1) := dk_62 (dk_at dksX3_seekMend_1 14 rfl rfl)
theorem dX3_seekMend_39 : decode cX3_seekMend 39 = .ok (.iconst 1, 1) := dk_4 (dk_at dksX3_seekMend_1 15 rfl rfl)
theorem dX3_seekMend_40 : decode cX3_seekMend 40 = .ok (.istore 4, 2) := dk_54 4 (dk_at dksX3_seekMend_1 16 rfl rfl)
theorem dX3_seekMend_42 : decode cX3_seekMend 42 = .ok (.iload 4, 2) := dk_21 4 (dk_at dksX3_seekMend_1 18 rfl rfl)
theorem dX3_seekMend_44 : decode cX3_seekMend 44 = .ok (.sipush 30000, 3) := dk_17 117 48 (dk_at dksX3_seekMend_1 20 rfl rfl)
theorem dX3_seekMend_47 : decode cX3_seekMend 47 = .ok (.if_icmp .gt 91, 3) := dk_163 0 91 (dk_at dksX3_seekMend_2 0 rfl rfl)
theorem dX3_seekMend_50 : decode cX3_seekMend 50 = .ok (.aload_n 0, 1) := dk_42 (dk_at dksX3_seekMend_2 3 rfl rfl)
theorem dX3_seekMend_51 : decode cX3_seekMend 51 = .ok (.iload_n 2, 1) := dk_28 (dk_at dksX3_seekMend_2 4 rfl rfl)
theorem dX3_seekMend_52 : decode cX3_seekMend 52 = .ok (.iload 4, 2) := dk_21 4 (dk_at dksX3_seekMend_2 5 rfl rfl)
theorem dX3_seekMend_54 : decode cX3_seekMend 54 = .ok (.invokevirtual 382, 3) := dk_182 1 126 (dk_at dksX3_seekMend_2 7 rfl rfl)
theorem dX3_seekMend_57 : decode cX3_seekMend 57 = .ok (.istore 5, 2) := dk_54 5 (dk_at dksX3_seekMend_2 10 rfl rfl)
theorem dX3_seekMend_59 : decode cX3_seekMend 59 = .ok (.iload 4, 2) := dk_21 4 (dk_at dksX3_seekMend_2 12 rfl rfl)
theorem dX3_seekMend_61 : decode cX3_seekMend 61 = .ok (.iload_n 3, 1) := dk_29 (dk_at dksX3_seekMend_2 14 rfl rfl)
theorem dX3_seekMend_62 : decode cX3_seekMend 62 = .ok (.if_icmp .ge 10, 3) := dk_162 0 10 (dk_at dksX3_seekMend_2 15 rfl rfl)
theorem dX3_seekMend_65 : decode cX3_seekMend 65 = .ok (.iload_n 3, 1) := dk_29 (dk_at dksX3_seekMend_2 18 rfl rfl)
theorem dX3_seekMend_66 : decode cX3_seekMend 66 = .ok (.iload 4, 2) := dk_21 4 (dk_at dksX3_seekMend_2 19 rfl rfl)
theorem dX3_seekMend_68 : decode cX3_seekMend 68 = .ok (.isub, 1) := dk_100 (dk_at dksX3_seekMend_2 21 rfl rfl)
theorem dX3_seekMend_69 : decode cX3_seekMend 69 = .ok (.goto 7, 3) := dk_167 0 7 (dk_at dksX3_seekMend_3 0 rfl rfl)
theorem dX3_seekMend_72 : decode cX3_seekMend 72 = .ok (.iload 4, 2) := dk_21 4 (dk_at dksX3_seekMend_3 3 rfl rfl)
theorem dX3_seekMend_74 : decode cX3_seekMend 74 = .ok (.iload_n 3, 1) := dk_29 (dk_at dksX3_seekMend_3 5 rfl rfl)
theorem dX3_seekMend_75 : decode cX3_seekMend 75 = .ok (.isub, 1) := dk_100 (dk_at dksX3_seekMend_3 6 rfl rfl)
theorem dX3_seekMend_76 : decode cX3_seekMend 76 = .ok (.istore 6, 2) := dk_54 6 (dk_at dksX3_seekMend_3 7 rfl rfl)
theorem dX3_seekMend_78 : decode cX3_seekMend 78 = .ok (.iload 5, 2) := dk_21 5 (dk_at dksX3_seekMend_3 9 rfl rfl)
theorem dX3_seekMend_80 : decode cX3_seekMend 80 = .ok (.aload_n 0, 1) := dk_42 (dk_at dksX3_seekMend_3 11 rfl rfl)
theorem dX3_seekMend_81 : decode cX3_seekMend 81 = .ok (.getfield 385, 3) := dk_180 1 129 (dk_at dksX3_seekMend_3 12 rfl rfl)
theorem dX3_seekMend_84 : decode cX3_seekMend 84 = .ok (.if_icmp .lt 48, 3) := dk_161 0 48 (dk_at dksX3_seekMend_3 15 rfl rfl)
theorem dX3_seekMend_87 : decode cX3_seekMend 87 = .ok (.iload 5, 2) := dk_21 5 (dk_at dksX3_seekMend_3 18 rfl rfl)
theorem dX3_seekMend_89 : decode cX3_seekMend 89 = .ok (.aload_n 0, 1) := dk_42 (dk_at dksX3_seekMend_3 20 rfl rfl)
theorem dX3_seekMend_90 : decode cX3_seekMend 90 = .ok (.getfield 385, 3) := dk_180 1 129 (dk_at dksX3_seekMend_3 21 rfl rfl)
theorem dX3_seekMend_93 : decode cX3_seekMend 93 = .ok (.if_icmp .ne 19, 3) := dk_160 0 19 (dk_at dksX3_seekMend_4 0 rfl rfl)
theorem dX3_seekMend_96 : decode cX3_seekMend 96 = .ok (.aload_n 0, 1) := dk_42 (dk_at dksX3_seekMend_4 3 rfl rfl)
theorem dX3_seekMend_97 : decode cX3_seekMend 97 = .ok (.getfield 376, 3) := dk_180 1 120 (dk_at dksX3_seekMend_4 4 rfl rfl)
theorem dX3_seekMend_100 : decode cX3_seekMend 100 = .ok (.ifCond .lt 32, 3) := dk_155 0 32 (dk_at dksX3_seekMend_4 7 rfl rfl)
theorem dX3_seekMend_103 : decode cX3_seekMend 103 = .ok (.iload 6, 2) := dk_21 6 (dk_at dksX3_seekMend_4 10 rfl rfl)
theorem dX3_seekMend_105 : decode cX3_seekMend 105 = .ok (.iload_n 1, 1) := dk_27 (dk_at dksX3_seekMend_4 12 rfl rfl)
theorem dX3_seekMend_106 : decode cX3_seekMend 106 = .ok (.if_icmp .lt 6, 3) := dk_161 0 6 (dk_at dksX3_seekMend_4 13 rfl rfl)
theorem dX3_seekMend_109 : decode cX3_seekMend 109 = .ok (.goto 23, 3) := dk_167 0 23 (dk_at dksX3_seekMend_4 16 rfl rfl)
theorem dX3_seekMend_112 : decode cX3_seekMend 112 = .ok (.aload_n 0, 1) := dk_42 (dk_at dksX3_seekMend_4 19 rfl rfl)
theorem dX3_seekMend_113 : decode cX3_seekMend 113 = .ok (.iload_n 2, 1) := dk_28 (dk_at dksX3_seekMend_4 20 rfl rfl)
theorem dX3_seekMend_114 : decode cX3_seekMend 114 = .ok (.putfield 376, 3) := dk_181 1 120 (dk_at dksX3_seekMend_4 21 rfl rfl)
theorem dX3_seekMend_117 : decode cX3_seekMend 117 = .ok (.aload_n 0, 1) := dk_42 (dk_at dksX3_seekMend_5 0 rfl rfl)
theorem dX3_seekMend_118 : decode cX3_seekMend 118 = .ok (.iload 4, 2) := dk_21 4 (dk_at dksX3_seekMend_5 1 rfl rfl)
theorem dX3_seekMend_120 : decode cX3_seekMend 120 = .ok (.putfield 379, 3) := dk_181 1 123 (dk_at dksX3_seekMend_5 3 rfl rfl)
theorem dX3_seekMend_123 : decode cX3_seekMend 123 = .ok (.aload_n 0, 1) := dk_42 (dk_at dksX3_seekMend_5 6 rfl rfl)
theorem dX3_seekMend_124 : decode cX3_seekMend 124 = .ok (.iload 5, 2) := dk_21 5 (dk_at dksX3_seekMend_5 7 rfl rfl)
theorem dX3_seekMend_126 : decode cX3_seekMend 126 = .ok (.putfield 385, 3) := dk_181 1 129 (dk_at dksX3_seekMend_5 9 rfl rfl)
theorem dX3_seekMend_129 : decode cX3_seekMend 129 = .ok (.iload 6, 2) := dk_21 6 (dk_at dksX3_seekMend_5 12 rfl rfl)
theorem dX3_seekMend_131 : decode cX3_seekMend 131 = .ok (.istore_n 1, 1) := dk_60 (dk_at dksX3_seekMend_5 14 rfl rfl)
theorem dX3_seekMend_132 : decode cX3_seekMend 132 = .ok (.iinc 4 1, 3) := dk_132 4 1 (dk_at dksX3_seekMend_5 15 rfl rfl)
theorem dX3_seekMend_135 : decode cX3_seekMend 135 = .ok (.goto (-93), 3) := dk_167 255 163 (dk_at dksX3_seekMend_5 18 rfl rfl)
theorem dX3_seekMend_138 : decode cX3_seekMend 138 = .ok (.iinc 2 1, 3) := dk_132 2 1 (dk_at dksX3_seekMend_5 21 rfl rfl)
theorem dX3_seekMend_141 : decode cX3_seekMend 141 = .ok (.goto (-117), 3) := dk_167 255 139 (dk_at dksX3_seekMend_6 0 rfl rfl)
theorem dX3_seekMend_144 : decode cX3_seekMend 144 = .ok (.return_, 1) := dk_177 (dk_at dksX3_seekMend_6 3 rfl rfl)
abbrev cX3_seekShared : ByteArray := prog_24_method_94_code
def dkwX3_seekShared_10 : List UInt8 := [180, 0, 159, 21, 4, 42, 180, 0, 156, 21, 4, 46, 79, 132, 4, 1, 167, 255, 230, 167, 255, 92, 177]
abbrev dktX3_seekShared_10 : List UInt8 := dkwX3_seekShared_10 ++ []
def dkwX3_seekShared_9 : List UInt8 := [167, 255, 135, 42, 42, 180, 2, 55, 181, 2, 58, 3, 54, 4, 21, 4, 42, 182, 1, 94, 162, 0, 23, 42]
abbrev dktX3_seekShared_9 : List UInt8 := dkwX3_seekShared_9 ++ dktX3_seekShared_10
def dkwX3_seekShared_8 : List UInt8 := [16, 100, 104, 27, 28, 104, 161, 255, 151, 42, 180, 2, 52, 16, 100, 104, 27, 28, 104, 162, 0, 6]
abbrev dktX3_seekShared_8 : List UInt8 := dkwX3_seekShared_8 ++ dktX3_seekShared_9
def dkwX3_seekShared_7 : List UInt8 := [182, 1, 94, 162, 0, 16, 132, 3, 1, 42, 180, 0, 156, 29, 2, 79, 167, 255, 164, 42, 180, 2, 49]
abbrev dktX3_seekShared_7 : List UInt8 := dkwX3_seekShared_7 ++ dktX3_seekShared_8
def dkwX3_seekShared_6 : List UInt8 := [180, 2, 58, 155, 0, 17, 42, 180, 2, 55, 42, 180, 2, 58, 161, 0, 6, 167, 255, 187, 29, 4, 96, 42]
abbrev dktX3_seekShared_6 : List UInt8 := dkwX3_seekShared_6 ++ dktX3_seekShared_7
def dkwX3_seekShared_5 : List UInt8 := [180, 0, 156, 29, 46, 6, 160, 0, 9, 132, 3, 255, 167, 255, 214, 42, 29, 4, 182, 2, 61, 42]
abbrev dktX3_seekShared_5 : List UInt8 := dkwX3_seekShared_5 ++ dktX3_seekShared_6
def dkwX3_seekShared_4 : List UInt8 := [29, 46, 155, 0, 9, 42, 29, 2, 182, 2, 61, 42, 180, 0, 156, 29, 92, 46, 4, 96, 79, 42]
abbrev dktX3_seekShared_4 : List UInt8 := dkwX3_seekShared_4 ++ dktX3_seekShared_5
def dkwX3_seekShared_3 : List UInt8 := [154, 0, 7, 2, 167, 0, 4, 3, 62, 42, 180, 0, 156, 3, 2, 79, 29, 155, 0, 166, 42, 180, 0, 156]
abbrev dktX3_seekShared_3 : List UInt8 := dkwX3_seekShared_3 ++ dktX3_seekShared_4
def dkwX3_seekShared_2 : List UInt8 := [181, 2, 58, 42, 3, 181, 2, 49, 42, 3, 181, 2, 52, 42, 3, 181, 2, 55, 42, 182, 1, 94]
abbrev dktX3_seekShared_2 : List UInt8 := dkwX3_seekShared_2 ++ dktX3_seekShared_3
def dkwX3_seekShared_1 : List UInt8 := [29, 96, 46, 96, 61, 132, 3, 1, 167, 255, 228, 42, 42, 182, 1, 94, 154, 0, 7, 3, 167, 0, 4, 2]
abbrev dktX3_seekShared_1 : List UInt8 := dkwX3_seekShared_1 ++ dktX3_seekShared_2
def dkwX3_seekShared_0 : List UInt8 := [3, 61, 3, 62, 29, 42, 182, 1, 94, 162, 0, 26, 28, 42, 180, 0, 45, 16, 12, 42, 180, 1, 44, 104]
abbrev dktX3_seekShared_0 : List UInt8 := dkwX3_seekShared_0 ++ dktX3_seekShared_1
theorem dksX3_seekShared_0 : cX3_seekShared.data.toList.drop 0 = dktX3_seekShared_0 := by decide +kernel
theorem dksX3_seekShared_1 : cX3_seekShared.data.toList.drop 24 = dktX3_seekShared_1 := dk_seg dksX3_seekShared_0 24 rfl rfl
theorem dksX3_seekShared_2 : cX3_seekShared.data.toList.drop 48 = dktX3_seekShared_2 := dk_seg dksX3_seekShared_1 24 rfl rfl
theorem dksX3_seekShared_3 : cX3_seekShared.data.toList.drop 70 = dktX3_seekShared_3 := dk_seg dksX3_seekShared_2 22 rfl rfl
theorem dksX3_seekShared_4 : cX3_seekShared.data.toList.drop 94 = dktX3_seekShared_4 := dk_seg dksX3_seekShared_3 24 rfl rfl
theorem dksX3_seekShared_5 : cX3_seekShared.data.toList.drop 116 = dktX3_seekShared_5 := dk_seg dksX3_seekShared_4 22 rfl rfl
theorem dksX3_seekShared_6 : cX3_seekShared.data.toList.drop 138 = dktX3_seekShared_6 := dk_seg dksX3_seekShared_5 22 rfl rfl
theorem dksX3_seekShared_7 : cX3_seekShared.data.toList.drop 162 = dktX3_seekShared_7 := dk_seg dksX3_seekShared_6 24 rfl rfl
theorem dksX3_seekShared_8 : cX3_seekShared.data.toList.drop 185 = dktX3_seekShared_8 := dk_seg dksX3_seekShared_7 23 rfl rfl
theorem dksX3_seekShared_9 : cX3_seekShared.data.toList.drop 207 = dktX3_seekShared_9 := dk_seg dksX3_seekShared_8 22 rfl rfl
theorem dksX3_seekShared_10 : cX3_seekShared.data.toList.drop 231 = dktX3_seekShared_10 := dk_seg dksX3_seekShared_9 24 rfl rfl
theorem dX3_seekShared_0 : decode cX3_seekShared 0 = .ok (.iconst 0, 1) := dk_3 (dk_at dksX3_seekShared_0 0 rfl rfl)
theorem dX3_seekShared_1 : decode cX3_seekShared 1 = .ok (.istore_n 2, 1) := dk_61 (dk_at dksX3_seekShared_0 1 rfl rfl)
theorem dX3_seekShared_2 : decode cX3_seekShared 2 = .ok (.iconst 0, 1) := dk_3 (dk_at dksX3_seekShared_0 2 rfl rfl)
theorem dX3_seekShared_3 : decode cX3_seekShared 3 = .ok (.istore_n 3, 1) := dk_62 (dk_at dksX3_seekShared_0 3 rfl rfl)
theorem dX3_seekShared_4 : decode cX3_seekShared 4 = .ok (.iload_n 3, 1) := dk_29 (dk_at dksX3_seekShared_0 4 rfl rfl)
theorem dX3_seekShared_5 : decode cX3_seekShared 5 = .ok (.aload_n 0, 1) := dk_42 (dk_at dksX3_seekShared_0 5 rfl rfl)
theorem dX3_seekShared_6 : decode cX3_seekShared 6 = .ok (.invokevirtual 350, 3) := dk_182 1 94 (dk_at dksX3_seekShared_0 6 rfl rfl)
theorem dX3_seekShared_9 : decode cX3_seekShared 9 = .ok (.if_icmp .ge 26, 3) := dk_162 0 26 (dk_at dksX3_seekShared_0 9 rfl rfl)
theorem dX3_seekShared_12 : decode cX3_seekShared 12 = .ok (.iload_n 2, 1) := dk_28 (dk_at dksX3_seekShared_0 12 rfl rfl)
theorem dX3_seekShared_13 : decode cX3_seekShared 13 = .ok (.aload_n 0, 1) := dk_42 (dk_at dksX3_seekShared_0 13 rfl rfl)
theorem dX3_seekShared_14 : decode cX3_seekShared 14 = .ok (.getfield 45, 3) := dk_180 0 45 (dk_at dksX3_seekShared_0 14 rfl rfl)
theorem dX3_seekShared_17 : decode cX3_seekShared 17 = .ok (.bipush 12, 2) := dk_16 12 (dk_at dksX3_seekShared_0 17 rfl rfl)
theorem dX3_seekShared_19 : decode cX3_seekShared 19 = .ok (.aload_n 0, 1) := dk_42 (dk_at dksX3_seekShared_0 19 rfl rfl)
theorem dX3_seekShared_20 : decode cX3_seekShared 20 = .ok (.getfield 300, 3) := dk_180 1 44 (dk_at dksX3_seekShared_0 20 rfl rfl)
theorem dX3_seekShared_23 : decode cX3_seekShared 23 = .ok (.imul, 1) := dk_104 (dk_at dksX3_seekShared_0 23 rfl rfl)
theorem dX3_seekShared_24 : decode cX3_seekShared 24 = .ok (.iload_n 3, 1) := dk_29 (dk_at dksX3_seekShared_1 0 rfl rfl)
theorem dX3_seekShared_25 : decode cX3_seekShared 25 = .ok (.iadd, 1) := dk_96 (dk_at dksX3_seekShared_1 1 rfl rfl)
theorem dX3_seekShared_26 : decode cX3_seekShared 26 = .ok (.iaload, 1) := dk_46 (dk_at dksX3_seekShared_1 2 rfl rfl)
theorem dX3_seekShared_27 : decode cX3_seekShared 27 = .ok (.iadd, 1) := dk_96 (dk_at dksX3_seekShared_1 3 rfl rfl)
theorem dX3_seekShared_28 : decode cX3_seekShared 28 = .ok (.istore_n 2, 1) := dk_61 (dk_at dksX3_seekShared_1 4 rfl rfl)
theorem dX3_seekShared_29 : decode cX3_seekShared 29 = .ok (.iinc 3 1, 3) := dk_132 3 1 (dk_at dksX3_seekShared_1 5 rfl rfl)
theorem dX3_seekShared_32 : decode cX3_seekShared 32 = .ok (.goto (-28), 3) := dk_167 255 228 (dk_at dksX3_seekShared_1 8 rfl rfl)
theorem dX3_seekShared_35 : decode cX3_seekShared 35 = .ok (.aload_n 0, 1) := dk_42 (dk_at dksX3_seekShared_1 11 rfl rfl)
theorem dX3_seekShared_36 : decode cX3_seekShared 36 = .ok (.aload_n 0, 1) := dk_42 (dk_at dksX3_seekShared_1 12 rfl rfl)
theorem dX3_seekShared_37 : decode cX3_seekShared 37 = .ok (.invokevirtual 350, 3) := dk_182 1 94 (dk_at dksX3_seekShared_1 13 rfl rfl)
theorem dX3_seekShared_40 : decode cX3_seekShared 40 = .ok (.ifCond .ne 7, 3) := dk_154 0 7 (dk_at dksX3_seekShared_1 16 rfl rfl)
theorem dX3_seekShared_43 : decode cX3_seekShared 43 = .ok (.iconst 0, 1) := dk_3 (dk_at dksX3_seekShared_1 19 rfl rfl)
theorem dX3_seekShared_44 : decode cX3_seekShared 44 = .ok (.goto 4, 3) := dk_167 0 4 (dk_at dksX3_seekShared_1 20 rfl rfl)
theorem dX3_seekShared_47 : decode cX3_seekShared 47 = .ok (.iconst (-1), 1) := dk_2 (dk_at dksX3_seekShared_1 23 rfl rfl)
theorem dX3_seekShared_48 : decode cX3_seekShared 48 = .ok (.putfield 570, 3) := dk_181 2 58 (dk_at dksX3_seekShared_2 0 rfl rfl)
theorem dX3_seekShared_51 : decode cX3_seekShared 51 = .ok (.aload_n 0, 1) := dk_42 (dk_at dksX3_seekShared_2 3 rfl rfl)
theorem dX3_seekShared_52 : decode cX3_seekShared 52 = .ok (.iconst 0, 1) := dk_3 (dk_at dksX3_seekShared_2 4 rfl rfl)
theorem dX3_seekShared_53 : decode cX3_seekShared 53 = .ok (.putfield 561, 3) := dk_181 2 49 (dk_at dksX3_seekShared_2 5 rfl rfl)
theorem dX3_seekShared_56 : decode cX3_seekShared 56 = .ok (.aload_n 0, 1) := dk_42 (dk_at dksX3_seekShared_2 8 rfl rfl)
theorem dX3_seekShared_57 : decode cX3_seekShared 57 = .ok (.iconst 0, 1) := dk_3 (dk_at dksX3_seekShared_2 9 rfl rfl)
theorem dX3_seekShared_58 : decode cX3_seekShared 58 = .ok (.putfield 564, 3) := dk_181 2 52 (dk_at dksX3_seekShared_2 10 rfl rfl)
theorem dX3_seekShared_61 : decode cX3_seekShared 61 = .ok (.aload_n 0, 1) := dk_42 (dk_at dksX3_seekShared_2 13 rfl rfl)
theorem dX3_seekShared_62 : decode cX3_seekShared 62 = .ok (.iconst 0, 1) := dk_3 (dk_at dksX3_seekShared_2 14 rfl rfl)
theorem dX3_seekShared_63 : decode cX3_seekShared 63 = .ok (.putfield 567, 3) := dk_181 2 55 (dk_at dksX3_seekShared_2 15 rfl rfl)
theorem dX3_seekShared_66 : decode cX3_seekShared 66 = .ok (.aload_n 0, 1) := dk_42 (dk_at dksX3_seekShared_2 18 rfl rfl)
theorem dX3_seekShared_67 : decode cX3_seekShared 67 = .ok (.invokevirtual 350, 3) := dk_182 1 94 (dk_at dksX3_seekShared_2 19 rfl rfl)
theorem dX3_seekShared_70 : decode cX3_seekShared 70 = .ok (.ifCond .ne 7, 3) := dk_154 0 7 (dk_at dksX3_seekShared_3 0 rfl rfl)
theorem dX3_seekShared_73 : decode cX3_seekShared 73 = .ok (.iconst (-1), 1) := dk_2 (dk_at dksX3_seekShared_3 3 rfl rfl)
theorem dX3_seekShared_74 : decode cX3_seekShared 74 = .ok (.goto 4, 3) := dk_167 0 4 (dk_at dksX3_seekShared_3 4 rfl rfl)
theorem dX3_seekShared_77 : decode cX3_seekShared 77 = .ok (.iconst 0, 1) := dk_3 (dk_at dksX3_seekShared_3 7 rfl rfl)
theorem dX3_seekShared_78 : decode cX3_seekShared 78 = .ok (.istore_n 3, 1) := dk_62 (dk_at dksX3_seekShared_3 8 rfl rfl)
theorem dX3_seekShared_79 : decode cX3_seekShared 79 = .ok (.aload_n 0, 1) := dk_42 (dk_at dksX3_seekShared_3 9 rfl rfl)
theorem dX3_seekShared_80 : decode cX3_seekShared 80 = .ok (.getfield 156, 3) := dk_180 0 156 (dk_at dksX3_seekShared_3 10 rfl rfl)
theorem dX3_seekShared_83 : decode cX3_seekShared 83 = .ok (.iconst 0, 1) := dk_3 (dk_at dksX3_seekShared_3 13 rfl rfl)
theorem dX3_seekShared_84 : decode cX3_seekShared 84 = .ok (.iconst (-1), 1) := dk_2 (dk_at dksX3_seekShared_3 14 rfl rfl)
theorem dX3_seekShared_85 : decode cX3_seekShared 85 = .ok (.iastore, 1) := dk_79 (dk_at dksX3_seekShared_3 15 rfl rfl)
theorem dX3_seekShared_86 : decode cX3_seekShared 86 = .ok (.iload_n 3, 1) := dk_29 (dk_at dksX3_seekShared_3 16 rfl rfl)
theorem dX3_seekShared_87 : decode cX3_seekShared 87 = .ok (.ifCond .lt 166, 3) := dk_155 0 166 (dk_at dksX3_seekShared_3 17 rfl rfl)
theorem dX3_seekShared_90 : decode cX3_seekShared 90 = .ok (.aload_n 0, 1) := dk_42 (dk_at dksX3_seekShared_3 20 rfl rfl)
theorem dX3_seekShared_91 : decode cX3_seekShared 91 = .ok (.getfield 156, 3) := dk_180 0 156 (dk_at dksX3_seekShared_3 21 rfl rfl)
theorem dX3_seekShared_94 : decode cX3_seekShared 94 = .ok (.iload_n 3, 1) := dk_29 (dk_at dksX3_seekShared_4 0 rfl rfl)
theorem dX3_seekShared_95 : decode cX3_seekShared 95 = .ok (.iaload, 1) := dk_46 (dk_at dksX3_seekShared_4 1 rfl rfl)
theorem dX3_seekShared_96 : decode cX3_seekShared 96 = .ok (.ifCond .lt 9, 3) := dk_155 0 9 (dk_at dksX3_seekShared_4 2 rfl rfl)
theorem dX3_seekShared_99 : decode cX3_seekShared 99 = .ok (.aload_n 0, 1) := dk_42 (dk_at dksX3_seekShared_4 5 rfl rfl)
theorem dX3_seekShared_100 : decode cX3_seekShared 100 = .ok (.iload_n 3, 1) := dk_29 (dk_at dksX3_seekShared_4 6 rfl rfl)
theorem dX3_seekShared_101 : decode cX3_seekShared 101 = .ok (.iconst (-1), 1) := dk_2 (dk_at dksX3_seekShared_4 7 rfl rfl)
theorem dX3_seekShared_102 : decode cX3_seekShared 102 = .ok (.invokevirtual 573, 3) := dk_182 2 61 (dk_at dksX3_seekShared_4 8 rfl rfl)
theorem dX3_seekShared_105 : decode cX3_seekShared 105 = .ok (.aload_n 0, 1) := dk_42 (dk_at dksX3_seekShared_4 11 rfl rfl)
theorem dX3_seekShared_106 : decode cX3_seekShared 106 = .ok (.getfield 156, 3) := dk_180 0 156 (dk_at dksX3_seekShared_4 12 rfl rfl)
theorem dX3_seekShared_109 : decode cX3_seekShared 109 = .ok (.iload_n 3, 1) := dk_29 (dk_at dksX3_seekShared_4 15 rfl rfl)
theorem dX3_seekShared_110 : decode cX3_seekShared 110 = .ok (.dup2, 1) := dk_92 (dk_at dksX3_seekShared_4 16 rfl rfl)
theorem dX3_seekShared_111 : decode cX3_seekShared 111 = .ok (.iaload, 1) := dk_46 (dk_at dksX3_seekShared_4 17 rfl rfl)
theorem dX3_seekShared_112 : decode cX3_seekShared 112 = .ok (.iconst 1, 1) := dk_4 (dk_at dksX3_seekShared_4 18 rfl rfl)
theorem dX3_seekShared_113 : decode cX3_seekShared 113 = .ok (.iadd, 1) := dk_96 (dk_at dksX3_seekShared_4 19 rfl rfl)
theorem dX3_seekShared_114 : decode cX3_seekShared 114 = .ok (.iastore, 1) := dk_79 (dk_at dksX3_seekShared_4 20 rfl rfl)
theorem dX3_seekShared_115 : decode cX3_seekShared 115 = .ok (.aload_n 0, 1) := dk_42 (dk_at dksX3_seekShared_4 21 rfl rfl)
theorem dX3_seekShared_116 : decode cX3_seekShared 116 = .ok (.getfield 156, 3) := dk_180 0 156 (dk_at dksX3_seekShared_5 0 rfl rfl)
theorem dX3_seekShared_119 : decode cX3_seekShared 119 = .ok (.iload_n 3, 1) := dk_29 (dk_at dksX3_seekShared_5 3 rfl rfl)
theorem dX3_seekShared_120 : decode cX3_seekShared 120 = .ok (.iaload, 1) := dk_46 (dk_at dksX3_seekShared_5 4 rfl rfl)
theorem dX3_seekShared_121 : decode cX3_seekShared 121 = .ok (.iconst 3, 1) := dk_6 (dk_at dksX3_seekShared_5 5 rfl rfl)
theorem dX3_seekShared_122 : decode cX3_seekShared 122 = .ok (.if_icmp .ne 9, 3) := dk_160 0 9 (dk_at dksX3_seekShared_5 6 rfl rfl)
theorem dX3_seekShared_125 : decode cX3_seekShared 125 = .ok (.iinc 3 (-1), 3) := dk_132 3 255 (dk_at dksX3_seekShared_5 9 rfl rfl)
theorem dX3_seekShared_128 : decode cX3_seekShared 128 = .ok (.goto (-42), 3) := dk_167 255 214 (dk_at dksX3_seekShared_5 12 rfl rfl)
theorem dX3_seekShared_131 : decode cX3_seekShared 131 = .ok (.aload_n 0, 1) := dk_42 (dk_at dksX3_seekShared_5 15 rfl rfl)
theorem dX3_seekShared_132 : decode cX3_seekShared 132 = .ok (.iload_n 3, 1) := dk_29 (dk_at dksX3_seekShared_5 16 rfl rfl)
theorem dX3_seekShared_133 : decode cX3_seekShared 133 = .ok (.iconst 1, 1) := dk_4 (dk_at dksX3_seekShared_5 17 rfl rfl)
theorem dX3_seekShared_134 : decode cX3_seekShared 134 = .ok (.invokevirtual 573, 3) := dk_182 2 61 (dk_at dksX3_seekShared_5 18 rfl rfl)
theorem dX3_seekShared_137 : decode cX3_seekShared 137 = .ok (.aload_n 0, 1) := dk_42 (dk_at dksX3_seekShared_5 21 rfl rfl)
theorem dX3_seekShared_138 : decode cX3_seekShared 138 = .ok (.getfield 570, 3) := dk_180 2 58 (dk_at dksX3_seekShared_6 0 rfl rfl)
theorem dX3_seekShared_141 : decode cX3_seekShared 141 = .ok (.ifCond .lt 17, 3) := dk_155 0 17 (dk_at dksX3_seekShared_6 3 rfl rfl)
theorem dX3_seekShared_144 : decode cX3_seekShared 144 = .ok (.aload_n 0, 1) := dk_42 (dk_at dksX3_seekShared_6 6 rfl rfl)
theorem dX3_seekShared_145 : decode cX3_seekShared 145 = .ok (.getfield 567, 3) := dk_180 2 55 (dk_at dksX3_seekShared_6 7 rfl rfl)
theorem dX3_seekShared_148 : decode cX3_seekShared 148 = .ok (.aload_n 0, 1) := dk_42 (dk_at dksX3_seekShared_6 10 rfl rfl)
theorem dX3_seekShared_149 : decode cX3_seekShared 149 = .ok (.getfield 570, 3) := dk_180 2 58 (dk_at dksX3_seekShared_6 11 rfl rfl)
theorem dX3_seekShared_152 : decode cX3_seekShared 152 = .ok (.if_icmp .lt 6, 3) := dk_161 0 6 (dk_at dksX3_seekShared_6 14 rfl rfl)
theorem dX3_seekShared_155 : decode cX3_seekShared 155 = .ok (.goto (-69), 3) := dk_167 255 187 (dk_at dksX3_seekShared_6 17 rfl rfl)
theorem dX3_seekShared_158 : decode cX3_seekShared 158 = .ok (.iload_n 3, 1) := dk_29 (dk_at dksX3_seekShared_6 20 rfl rfl)
theorem dX3_seekShared_159 : decode cX3_seekShared 159 = .ok (.iconst 1, 1) := dk_4 (dk_at dksX3_seekShared_6 21 rfl rfl)
theorem dX3_seekShared_160 : decode cX3_seekShared 160 = .ok (.iadd, 1) := dk_96 (dk_at dksX3_seekShared_6 22 rfl rfl)
theorem dX3_seekShared_161 : decode cX3_seekShared 161 = .ok (.aload_n 0, 1) := dk_42 (dk_at dksX3_seekShared_6 23 rfl rfl)
theorem dX3_seekShared_162 : decode cX3_seekShared 162 = .ok (.invokevirtual 350, 3) := dk_182 1 94 (dk_at dksX3_seekShared_7 0 rfl rfl)
theorem dX3_seekShared_165 : decode cX3_seekShared 165 = .ok (.if_icmp .ge 16, 3) := dk_162 0 16 (dk_at dksX3_seekShared_7 3 rfl rfl)
theorem dX3_seekShared_168 : decode cX3_seekShared 168 = .ok (.iinc 3 1, 3) := dk_132 3 1 (dk_at dksX3_seekShared_7 6 rfl rfl)
theorem dX3_seekShared_171 : decode cX3_seekShared 171 = .ok (.aload_n 0, 1) := dk_42 (dk_at dksX3_seekShared_7 9 rfl rfl)
theorem dX3_seekShared_172 : decode cX3_seekShared 172 = .ok (.getfield 156, 3) := dk_180 0 156 (dk_at dksX3_seekShared_7 10 rfl rfl)
theorem dX3_seekShared_175 : decode cX3_seekShared 175 = .ok (.iload_n 3, 1) := dk_29 (dk_at dksX3_seekShared_7 13 rfl rfl)
theorem dX3_seekShared_176 : decode cX3_seekShared 176 = .ok (.iconst (-1), 1) := dk_2 (dk_at dksX3_seekShared_7 14 rfl rfl)
theorem dX3_seekShared_177 : decode cX3_seekShared 177 = .ok (.iastore, 1) := dk_79 (dk_at dksX3_seekShared_7 15 rfl rfl)
theorem dX3_seekShared_178 : decode cX3_seekShared 178 = .ok (.goto (-92), 3) := dk_167 255 164 (dk_at dksX3_seekShared_7 16 rfl rfl)
theorem dX3_seekShared_181 : decode cX3_seekShared 181 = .ok (.aload_n 0, 1) := dk_42 (dk_at dksX3_seekShared_7 19 rfl rfl)
theorem dX3_seekShared_182 : decode cX3_seekShared 182 = .ok (.getfield 561, 3) := dk_180 2 49 (dk_at dksX3_seekShared_7 20 rfl rfl)
theorem dX3_seekShared_185 : decode cX3_seekShared 185 = .ok (.bipush 100, 2) := dk_16 100 (dk_at dksX3_seekShared_8 0 rfl rfl)
theorem dX3_seekShared_187 : decode cX3_seekShared 187 = .ok (.imul, 1) := dk_104 (dk_at dksX3_seekShared_8 2 rfl rfl)
theorem dX3_seekShared_188 : decode cX3_seekShared 188 = .ok (.iload_n 1, 1) := dk_27 (dk_at dksX3_seekShared_8 3 rfl rfl)
theorem dX3_seekShared_189 : decode cX3_seekShared 189 = .ok (.iload_n 2, 1) := dk_28 (dk_at dksX3_seekShared_8 4 rfl rfl)
theorem dX3_seekShared_190 : decode cX3_seekShared 190 = .ok (.imul, 1) := dk_104 (dk_at dksX3_seekShared_8 5 rfl rfl)
theorem dX3_seekShared_191 : decode cX3_seekShared 191 = .ok (.if_icmp .lt (-105), 3) := dk_161 255 151 (dk_at dksX3_seekShared_8 6 rfl rfl)
theorem dX3_seekShared_194 : decode cX3_seekShared 194 = .ok (.aload_n 0, 1) := dk_42 (dk_at dksX3_seekShared_8 9 rfl rfl)
theorem dX3_seekShared_195 : decode cX3_seekShared 195 = .ok (.getfield 564, 3) := dk_180 2 52 (dk_at dksX3_seekShared_8 10 rfl rfl)
theorem dX3_seekShared_198 : decode cX3_seekShared 198 = .ok (.bipush 100, 2) := dk_16 100 (dk_at dksX3_seekShared_8 13 rfl rfl)
theorem dX3_seekShared_200 : decode cX3_seekShared 200 = .ok (.imul, 1) := dk_104 (dk_at dksX3_seekShared_8 15 rfl rfl)
theorem dX3_seekShared_201 : decode cX3_seekShared 201 = .ok (.iload_n 1, 1) := dk_27 (dk_at dksX3_seekShared_8 16 rfl rfl)
theorem dX3_seekShared_202 : decode cX3_seekShared 202 = .ok (.iload_n 2, 1) := dk_28 (dk_at dksX3_seekShared_8 17 rfl rfl)
theorem dX3_seekShared_203 : decode cX3_seekShared 203 = .ok (.imul, 1) := dk_104 (dk_at dksX3_seekShared_8 18 rfl rfl)
theorem dX3_seekShared_204 : decode cX3_seekShared 204 = .ok (.if_icmp .ge 6, 3) := dk_162 0 6 (dk_at dksX3_seekShared_8 19 rfl rfl)
theorem dX3_seekShared_207 : decode cX3_seekShared 207 = .ok (.goto (-121), 3) := dk_167 255 135 (dk_at dksX3_seekShared_9 0 rfl rfl)
theorem dX3_seekShared_210 : decode cX3_seekShared 210 = .ok (.aload_n 0, 1) := dk_42 (dk_at dksX3_seekShared_9 3 rfl rfl)
theorem dX3_seekShared_211 : decode cX3_seekShared 211 = .ok (.aload_n 0, 1) := dk_42 (dk_at dksX3_seekShared_9 4 rfl rfl)
theorem dX3_seekShared_212 : decode cX3_seekShared 212 = .ok (.getfield 567, 3) := dk_180 2 55 (dk_at dksX3_seekShared_9 5 rfl rfl)
theorem dX3_seekShared_215 : decode cX3_seekShared 215 = .ok (.putfield 570, 3) := dk_181 2 58 (dk_at dksX3_seekShared_9 8 rfl rfl)
theorem dX3_seekShared_218 : decode cX3_seekShared 218 = .ok (.iconst 0, 1) := dk_3 (dk_at dksX3_seekShared_9 11 rfl rfl)
theorem dX3_seekShared_219 : decode cX3_seekShared 219 = .ok (.istore 4, 2) := dk_54 4 (dk_at dksX3_seekShared_9 12 rfl rfl)
theorem dX3_seekShared_221 : decode cX3_seekShared 221 = .ok (.iload 4, 2) := dk_21 4 (dk_at dksX3_seekShared_9 14 rfl rfl)
theorem dX3_seekShared_223 : decode cX3_seekShared 223 = .ok (.aload_n 0, 1) := dk_42 (dk_at dksX3_seekShared_9 16 rfl rfl)
theorem dX3_seekShared_224 : decode cX3_seekShared 224 = .ok (.invokevirtual 350, 3) := dk_182 1 94 (dk_at dksX3_seekShared_9 17 rfl rfl)
theorem dX3_seekShared_227 : decode cX3_seekShared 227 = .ok (.if_icmp .ge 23, 3) := dk_162 0 23 (dk_at dksX3_seekShared_9 20 rfl rfl)
theorem dX3_seekShared_230 : decode cX3_seekShared 230 = .ok (.aload_n 0, 1) := dk_42 (dk_at dksX3_seekShared_9 23 rfl rfl)
theorem dX3_seekShared_231 : decode cX3_seekShared 231 = .ok (.getfield 159, 3) := dk_180 0 159 (dk_at dksX3_seekShared_10 0 rfl rfl)
theorem dX3_seekShared_234 : decode cX3_seekShared 234 = .ok (.iload 4, 2) := dk_21 4 (dk_at dksX3_seekShared_10 3 rfl rfl)
theorem dX3_seekShared_236 : decode cX3_seekShared 236 = .ok (.aload_n 0, 1) := dk_42 (dk_at dksX3_seekShared_10 5 rfl rfl)
theorem dX3_seekShared_237 : decode cX3_seekShared 237 = .ok (.getfield 156, 3) := dk_180 0 156 (dk_at dksX3_seekShared_10 6 rfl rfl)
theorem dX3_seekShared_240 : decode cX3_seekShared 240 = .ok (.iload 4, 2) := dk_21 4 (dk_at dksX3_seekShared_10 9 rfl rfl)
theorem dX3_seekShared_242 : decode cX3_seekShared 242 = .ok (.iaload, 1) := dk_46 (dk_at dksX3_seekShared_10 11 rfl rfl)
theorem dX3_seekShared_243 : decode cX3_seekShared 243 = .ok (.iastore, 1) := dk_79 (dk_at dksX3_seekShared_10 12 rfl rfl)
theorem dX3_seekShared_244 : decode cX3_seekShared 244 = .ok (.iinc 4 1, 3) := dk_132 4 1 (dk_at dksX3_seekShared_10 13 rfl rfl)
theorem dX3_seekShared_247 : decode cX3_seekShared 247 = .ok (.goto (-26), 3) := dk_167 255 230 (dk_at dksX3_seekShared_10 16 rfl rfl)
theorem dX3_seekShared_250 : decode cX3_seekShared 250 = .ok (.goto (-164), 3) := dk_167 255 92 (dk_at dksX3_seekShared_10 19 rfl rfl)
theorem dX3_seekShared_253 : decode cX3_seekShared 253 = .ok (.return_, 1) := dk_177 (dk_at dksX3_seekShared_10 22 rfl rfl)
abbrev cX3_shared : ByteArray := prog_24_method_95_code
def dkwX3_shared_0 : List UInt8 := [27, 3, 16, 100, 184, 1, 98, 154, 0, 5, 2, 172, 42, 27, 182, 2, 64, 42, 180, 2, 58, 172]
abbrev dktX3_shared_0 : List UInt8 := dkwX3_shared_0 ++ []
theorem dksX3_shared_0 : cX3_shared.data.toList.drop 0 = dktX3_shared_0 := by decide +kernel
theorem dX3_shared_0 : decode cX3_shared 0 = .ok (.iload_n 1, 1) := dk_27 (dk_at dksX3_shared_0 0 rfl rfl)
theorem dX3_shared_1 : decode cX3_shared 1 = .ok (.iconst 0, 1) := dk_3 (dk_at dksX3_shared_0 1 rfl rfl)
theorem dX3_shared_2 : decode cX3_shared 2 = .ok (.bipush 100, 2) := dk_16 100 (dk_at dksX3_shared_0 2 rfl rfl)
theorem dX3_shared_4 : decode cX3_shared 4 = .ok (.invokestatic 354, 3) := dk_184 1 98 (dk_at dksX3_shared_0 4 rfl rfl)
theorem dX3_shared_7 : decode cX3_shared 7 = .ok (.ifCond .ne 5, 3) := dk_154 0 5 (dk_at dksX3_shared_0 7 rfl rfl)
theorem dX3_shared_10 : decode cX3_shared 10 = .ok (.iconst (-1), 1) := dk_2 (dk_at dksX3_shared_0 10 rfl rfl)
theorem dX3_shared_11 : decode cX3_shared 11 = .ok (.ireturn, 1) := dk_172 (dk_at dksX3_shared_0 11 rfl rfl)
theorem dX3_shared_12 : decode cX3_shared 12 = .ok (.aload_n 0, 1) := dk_42 (dk_at dksX3_shared_0 12 rfl rfl)
theorem dX3_shared_13 : decode cX3_shared 13 = .ok (.iload_n 1, 1) := dk_27 (dk_at dksX3_shared_0 13 rfl rfl)
theorem dX3_shared_14 : decode cX3_shared 14 = .ok (.invokevirtual 576, 3) := dk_182 2 64 (dk_at dksX3_shared_0 14 rfl rfl)
theorem dX3_shared_17 : decode cX3_shared 17 = .ok (.aload_n 0, 1) := dk_42 (dk_at dksX3_shared_0 17 rfl rfl)
theorem dX3_shared_18 : decode cX3_shared 18 = .ok (.getfield 570, 3) := dk_180 2 58 (dk_at dksX3_shared_0 18 rfl rfl)
theorem dX3_shared_21 : decode cX3_shared 21 = .ok (.ireturn, 1) := dk_172 (dk_at dksX3_shared_0 21 rfl rfl)
abbrev cX3_should : ByteArray := prog_24_method_108_code
def dkwX3_should_1 : List UInt8 := [180, 2, 76, 29, 27, 28, 182, 2, 93, 153, 0, 7, 4, 167, 0, 4, 3, 172]
abbrev dktX3_should_1 : List UInt8 := dkwX3_should_1 ++ []
def dkwX3_should_0 : List UInt8 := [42, 180, 2, 70, 153, 0, 14, 42, 27, 28, 29, 182, 2, 102, 4, 162, 0, 5, 2, 172, 42, 3, 42]
abbrev dktX3_should_0 : List UInt8 := dkwX3_should_0 ++ dktX3_should_1
theorem dksX3_should_0 : cX3_should.data.toList.drop 0 = dktX3_should_0 := by decide +kernel
theorem dksX3_should_1 : cX3_should.data.toList.drop 23 = dktX3_should_1 := dk_seg dksX3_should_0 23 rfl rfl
theorem dX3_should_0 : decode cX3_should 0 = .ok (.aload_n 0, 1) := dk_42 (dk_at dksX3_should_0 0 rfl rfl)
theorem dX3_should_1 : decode cX3_should 1 = .ok (.getfield 582, 3) := dk_180 2 70 (dk_at dksX3_should_0 1 rfl rfl)
theorem dX3_should_4 : decode cX3_should 4 = .ok (.ifCond .eq 14, 3) := dk_153 0 14 (dk_at dksX3_should_0 4 rfl rfl)
theorem dX3_should_7 : decode cX3_should 7 = .ok (.aload_n 0, 1) := dk_42 (dk_at dksX3_should_0 7 rfl rfl)
theorem dX3_should_8 : decode cX3_should 8 = .ok (.iload_n 1, 1) := dk_27 (dk_at dksX3_should_0 8 rfl rfl)
theorem dX3_should_9 : decode cX3_should 9 = .ok (.iload_n 2, 1) := dk_28 (dk_at dksX3_should_0 9 rfl rfl)
theorem dX3_should_10 : decode cX3_should 10 = .ok (.iload_n 3, 1) := dk_29 (dk_at dksX3_should_0 10 rfl rfl)
theorem dX3_should_11 : decode cX3_should 11 = .ok (.invokevirtual 614, 3) := dk_182 2 102 (dk_at dksX3_should_0 11 rfl rfl)
theorem dX3_should_14 : decode cX3_should 14 = .ok (.iconst 1, 1) := dk_4 (dk_at dksX3_should_0 14 rfl rfl)
theorem dX3_should_15 : decode cX3_should 15 = .ok (.if_icmp .ge 5, 3) := dk_162 0 5 (dk_at dksX3_should_0 15 rfl rfl)
theorem dX3_should_18 : decode cX3_should 18 = .ok (.iconst (-1), 1) := dk_2 (dk_at dksX3_should_0 18 rfl rfl)
theorem dX3_should_19 : decode cX3_should 19 = .ok (.ireturn, 1) := dk_172 (dk_at dksX3_should_0 19 rfl rfl)
theorem dX3_should_20 : decode cX3_should 20 = .ok (.aload_n 0, 1) := dk_42 (dk_at dksX3_should_0 20 rfl rfl)
theorem dX3_should_21 : decode cX3_should 21 = .ok (.iconst 0, 1) := dk_3 (dk_at dksX3_should_0 21 rfl rfl)
theorem dX3_should_22 : decode cX3_should 22 = .ok (.aload_n 0, 1) := dk_42 (dk_at dksX3_should_0 22 rfl rfl)
theorem dX3_should_23 : decode cX3_should 23 = .ok (.getfield 588, 3) := dk_180 2 76 (dk_at dksX3_should_1 0 rfl rfl)
theorem dX3_should_26 : decode cX3_should 26 = .ok (.iload_n 3, 1) := dk_29 (dk_at dksX3_should_1 3 rfl rfl)
theorem dX3_should_27 : decode cX3_should 27 = .ok (.iload_n 1, 1) := dk_27 (dk_at dksX3_should_1 4 rfl rfl)
theorem dX3_should_28 : decode cX3_should 28 = .ok (.iload_n 2, 1) := dk_28 (dk_at dksX3_should_1 5 rfl rfl)
theorem dX3_should_29 : decode cX3_should 29 = .ok (.invokevirtual 605, 3) := dk_182 2 93 (dk_at dksX3_should_1 6 rfl rfl)
theorem dX3_should_32 : decode cX3_should 32 = .ok (.ifCond .eq 7, 3) := dk_153 0 7 (dk_at dksX3_should_1 9 rfl rfl)
theorem dX3_should_35 : decode cX3_should 35 = .ok (.iconst 1, 1) := dk_4 (dk_at dksX3_should_1 12 rfl rfl)
theorem dX3_should_36 : decode cX3_should 36 = .ok (.goto 4, 3) := dk_167 0 4 (dk_at dksX3_should_1 13 rfl rfl)
theorem dX3_should_39 : decode cX3_should 39 = .ok (.iconst 0, 1) := dk_3 (dk_at dksX3_should_1 16 rfl rfl)
theorem dX3_should_40 : decode cX3_should 40 = .ok (.ireturn, 1) := dk_172 (dk_at dksX3_should_1 17 rfl rfl)
abbrev cX3_show : ByteArray := prog_24_method_62_code
def dkwX3_show_1 : List UInt8 := [182, 1, 242, 167, 0, 4, 2, 172]
abbrev dktX3_show_1 : List UInt8 := dkwX3_show_1 ++ []
def dkwX3_show_0 : List UInt8 := [27, 184, 1, 239, 153, 0, 24, 28, 4, 17, 0, 255, 184, 1, 98, 153, 0, 13, 42, 5, 27, 28]
abbrev dktX3_show_0 : List UInt8 := dkwX3_show_0 ++ dktX3_show_1
theorem dksX3_show_0 : cX3_show.data.toList.drop 0 = dktX3_show_0 := by decide +kernel
theorem dksX3_show_1 : cX3_show.data.toList.drop 22 = dktX3_show_1 := dk_seg dksX3_show_0 22 rfl rfl
theorem dX3_show_0 : decode cX3_show 0 = .ok (.iload_n 1, 1) := dk_27 (dk_at dksX3_show_0 0 rfl rfl)
theorem dX3_show_1 : decode cX3_show 1 = .ok (.invokestatic 495, 3) := dk_184 1 239 (dk_at dksX3_show_0 1 rfl rfl)
theorem dX3_show_4 : decode cX3_show 4 = .ok (.ifCond .eq 24, 3) := dk_153 0 24 (dk_at dksX3_show_0 4 rfl rfl)
theorem dX3_show_7 : decode cX3_show 7 = .ok (.iload_n 2, 1) := dk_28 (dk_at dksX3_show_0 7 rfl rfl)
theorem dX3_show_8 : decode cX3_show 8 = .ok (.iconst 1, 1) := dk_4 (dk_at dksX3_show_0 8 rfl rfl)
theorem dX3_show_9 : decode cX3_show 9 = .ok (.sipush 255, 3) := dk_17 0 255 (dk_at dksX3_show_0 9 rfl rfl)
theorem dX3_show_12 : decode cX3_show 12 = .ok (.invokestatic 354, 3) := dk_184 1 98 (dk_at dksX3_show_0 12 rfl rfl)
theorem dX3_show_15 : decode cX3_show 15 = .ok (.ifCond .eq 13, 3) := dk_153 0 13 (dk_at dksX3_show_0 15 rfl rfl)
theorem dX3_show_18 : decode cX3_show 18 = .ok (.aload_n 0, 1) := dk_42 (dk_at dksX3_show_0 18 rfl rfl)
theorem dX3_show_19 : decode cX3_show 19 = .ok (.iconst 2, 1) := dk_5 (dk_at dksX3_show_0 19 rfl rfl)
theorem dX3_show_20 : decode cX3_show 20 = .ok (.iload_n 1, 1) := dk_27 (dk_at dksX3_show_0 20 rfl rfl)
theorem dX3_show_21 : decode cX3_show 21 = .ok (.iload_n 2, 1) := dk_28 (dk_at dksX3_show_0 21 rfl rfl)
theorem dX3_show_22 : decode cX3_show 22 = .ok (.invokevirtual 498, 3) := dk_182 1 242 (dk_at dksX3_show_1 0 rfl rfl)
theorem dX3_show_25 : decode cX3_show 25 = .ok (.goto 4, 3) := dk_167 0 4 (dk_at dksX3_show_1 3 rfl rfl)
theorem dX3_show_28 : decode cX3_show 28 = .ok (.iconst (-1), 1) := dk_2 (dk_at dksX3_show_1 6 rfl rfl)
theorem dX3_show_29 : decode cX3_show 29 = .ok (.ireturn, 1) := dk_172 (dk_at dksX3_show_1 7 rfl rfl)
abbrev cX3_sign : ByteArray := prog_24_method_2_code
def dkwX3_sign_0 : List UInt8 := [27, 42, 180, 0, 172, 162, 0, 16, 42, 180, 0, 13, 27, 51, 17, 0, 255, 126, 167, 0, 4, 3, 172]
abbrev dktX3_sign_0 : List UInt8 := dkwX3_sign_0 ++ []
theorem dksX3_sign_0 : cX3_sign.data.toList.drop 0 = dktX3_sign_0 := by decide +kernel
theorem dX3_sign_0 : decode cX3_sign 0 = .ok (.iload_n 1, 1) := dk_27 (dk_at dksX3_sign_0 0 rfl rfl)
theorem dX3_sign_1 : decode cX3_sign 1 = .ok (.aload_n 0, 1) := dk_42 (dk_at dksX3_sign_0 1 rfl rfl)
theorem dX3_sign_2 : decode cX3_sign 2 = .ok (.getfield 172, 3) := dk_180 0 172 (dk_at dksX3_sign_0 2 rfl rfl)
theorem dX3_sign_5 : decode cX3_sign 5 = .ok (.if_icmp .ge 16, 3) := dk_162 0 16 (dk_at dksX3_sign_0 5 rfl rfl)
theorem dX3_sign_8 : decode cX3_sign 8 = .ok (.aload_n 0, 1) := dk_42 (dk_at dksX3_sign_0 8 rfl rfl)
theorem dX3_sign_9 : decode cX3_sign 9 = .ok (.getfield 13, 3) := dk_180 0 13 (dk_at dksX3_sign_0 9 rfl rfl)
theorem dX3_sign_12 : decode cX3_sign 12 = .ok (.iload_n 1, 1) := dk_27 (dk_at dksX3_sign_0 12 rfl rfl)
theorem dX3_sign_13 : decode cX3_sign 13 = .ok (.baload, 1) := dk_51 (dk_at dksX3_sign_0 13 rfl rfl)
theorem dX3_sign_14 : decode cX3_sign 14 = .ok (.sipush 255, 3) := dk_17 0 255 (dk_at dksX3_sign_0 14 rfl rfl)
theorem dX3_sign_17 : decode cX3_sign 17 = .ok (.iand, 1) := dk_126 (dk_at dksX3_sign_0 17 rfl rfl)
theorem dX3_sign_18 : decode cX3_sign 18 = .ok (.goto 4, 3) := dk_167 0 4 (dk_at dksX3_sign_0 18 rfl rfl)
theorem dX3_sign_21 : decode cX3_sign 21 = .ok (.iconst 0, 1) := dk_3 (dk_at dksX3_sign_0 21 rfl rfl)
theorem dX3_sign_22 : decode cX3_sign 22 = .ok (.ireturn, 1) := dk_172 (dk_at dksX3_sign_0 22 rfl rfl)
abbrev cX3_soonest : ByteArray := prog_24_method_88_code
def dkwX3_soonest_15 : List UInt8 := [42, 180, 0, 144, 16, 100, 28, 104, 21, 7, 96, 46, 104, 21, 7, 96, 172]
abbrev dktX3_soonest_15 : List UInt8 := dkwX3_soonest_15 ++ []
def dkwX3_soonest_14 : List UInt8 := [162, 0, 7, 21, 8, 54, 7, 132, 8, 1, 167, 255, 192, 21, 7, 156, 0, 7, 2, 167, 0, 21, 16, 100]
abbrev dktX3_soonest_14 : List UInt8 := dkwX3_soonest_14 ++ dktX3_soonest_15
def dkwX3_soonest_13 : List UInt8 := [180, 0, 144, 16, 100, 28, 104, 21, 8, 96, 46, 42, 180, 0, 144, 16, 100, 28, 104, 21, 7, 96, 46]
abbrev dktX3_soonest_13 : List UInt8 := dkwX3_soonest_13 ++ dktX3_soonest_14
def dkwX3_soonest_12 : List UInt8 := [180, 0, 144, 16, 100, 28, 104, 21, 8, 96, 46, 19, 1, 247, 162, 0, 39, 21, 7, 155, 0, 30, 42]
abbrev dktX3_soonest_12 : List UInt8 := dkwX3_soonest_12 ++ dktX3_soonest_13
def dkwX3_soonest_11 : List UInt8 := [167, 255, 110, 132, 7, 1, 167, 255, 94, 2, 54, 7, 3, 54, 8, 21, 8, 21, 6, 163, 0, 63, 42]
abbrev dktX3_soonest_11 : List UInt8 := dkwX3_soonest_11 ++ dktX3_soonest_12
def dkwX3_soonest_10 : List UInt8 := [42, 21, 8, 16, 8, 96, 21, 7, 21, 9, 29, 21, 4, 21, 5, 21, 6, 182, 2, 36, 132, 8, 1]
abbrev dktX3_soonest_10 : List UInt8 := dkwX3_soonest_10 ++ dktX3_soonest_11
def dkwX3_soonest_9 : List UInt8 := [16, 8, 100, 21, 7, 21, 9, 29, 21, 4, 21, 5, 21, 6, 182, 2, 36, 21, 8, 16, 56, 162, 0, 23]
abbrev dktX3_soonest_9 : List UInt8 := dkwX3_soonest_9 ++ dktX3_soonest_10
def dkwX3_soonest_8 : List UInt8 := [21, 7, 21, 9, 29, 21, 4, 21, 5, 21, 6, 182, 2, 36, 21, 8, 16, 7, 164, 0, 23, 42, 21, 8]
abbrev dktX3_soonest_8 : List UInt8 := dkwX3_soonest_8 ++ dktX3_soonest_9
def dkwX3_soonest_7 : List UInt8 := [21, 4, 21, 5, 21, 6, 182, 2, 36, 21, 8, 16, 8, 112, 16, 7, 162, 0, 22, 42, 21, 8, 4, 96]
abbrev dktX3_soonest_7 : List UInt8 := dkwX3_soonest_7 ++ dktX3_soonest_8
def dkwX3_soonest_6 : List UInt8 := [161, 0, 6, 167, 0, 113, 21, 8, 16, 8, 112, 158, 0, 22, 42, 21, 8, 4, 100, 21, 7, 21, 9, 29]
abbrev dktX3_soonest_6 : List UInt8 := dkwX3_soonest_6 ++ dktX3_soonest_7
def dkwX3_soonest_5 : List UInt8 := [162, 0, 145, 42, 180, 0, 144, 16, 100, 21, 8, 104, 21, 7, 96, 46, 54, 9, 21, 9, 19, 1, 247]
abbrev dktX3_soonest_5 : List UInt8 := dkwX3_soonest_5 ++ dktX3_soonest_6
def dkwX3_soonest_4 : List UInt8 := [16, 100, 27, 104, 3, 79, 3, 54, 7, 21, 7, 21, 6, 163, 0, 161, 3, 54, 8, 21, 8, 16, 64]
abbrev dktX3_soonest_4 : List UInt8 := dkwX3_soonest_4 ++ dktX3_soonest_5
def dkwX3_soonest_3 : List UInt8 := [162, 0, 19, 42, 180, 0, 144, 21, 7, 19, 1, 247, 79, 132, 7, 1, 167, 255, 235, 42, 180, 0, 144]
abbrev dktX3_soonest_3 : List UInt8 := dkwX3_soonest_3 ++ dktX3_soonest_4
def dkwX3_soonest_2 : List UInt8 := [153, 0, 14, 21, 6, 3, 16, 99, 184, 1, 98, 154, 0, 5, 2, 172, 3, 54, 7, 21, 7, 17, 25, 0]
abbrev dktX3_soonest_2 : List UInt8 := dkwX3_soonest_2 ++ dktX3_soonest_3
def dkwX3_soonest_1 : List UInt8 := [153, 0, 37, 21, 4, 3, 16, 23, 184, 1, 98, 153, 0, 26, 21, 5, 3, 17, 0, 255, 184, 1, 98]
abbrev dktX3_soonest_1 : List UInt8 := dkwX3_soonest_1 ++ dktX3_soonest_2
def dkwX3_soonest_0 : List UInt8 := [27, 3, 16, 63, 184, 1, 98, 153, 0, 54, 28, 3, 16, 63, 184, 1, 98, 153, 0, 44, 29, 184, 1, 135]
abbrev dktX3_soonest_0 : List UInt8 := dkwX3_soonest_0 ++ dktX3_soonest_1
theorem dksX3_soonest_0 : cX3_soonest.data.toList.drop 0 = dktX3_soonest_0 := by decide +kernel
theorem dksX3_soonest_1 : cX3_soonest.data.toList.drop 24 = dktX3_soonest_1 := dk_seg dksX3_soonest_0 24 rfl rfl
theorem dksX3_soonest_2 : cX3_soonest.data.toList.drop 47 = dktX3_soonest_2 := dk_seg dksX3_soonest_1 23 rfl rfl
theorem dksX3_soonest_3 : cX3_soonest.data.toList.drop 71 = dktX3_soonest_3 := dk_seg dksX3_soonest_2 24 rfl rfl
theorem dksX3_soonest_4 : cX3_soonest.data.toList.drop 94 = dktX3_soonest_4 := dk_seg dksX3_soonest_3 23 rfl rfl
theorem dksX3_soonest_5 : cX3_soonest.data.toList.drop 117 = dktX3_soonest_5 := dk_seg dksX3_soonest_4 23 rfl rfl
theorem dksX3_soonest_6 : cX3_soonest.data.toList.drop 140 = dktX3_soonest_6 := dk_seg dksX3_soonest_5 23 rfl rfl
theorem dksX3_soonest_7 : cX3_soonest.data.toList.drop 164 = dktX3_soonest_7 := dk_seg dksX3_soonest_6 24 rfl rfl
theorem dksX3_soonest_8 : cX3_soonest.data.toList.drop 188 = dktX3_soonest_8 := dk_seg dksX3_soonest_7 24 rfl rfl
theorem dksX3_soonest_9 : cX3_soonest.data.toList.drop 212 = dktX3_soonest_9 := dk_seg dksX3_soonest_8 24 rfl rfl
theorem dksX3_soonest_10 : cX3_soonest.data.toList.drop 236 = dktX3_soonest_10 := dk_seg dksX3_soonest_9 24 rfl rfl
theorem dksX3_soonest_11 : cX3_soonest.data.toList.drop 259 = dktX3_soonest_11 := dk_seg dksX3_soonest_10 23 rfl rfl
theorem dksX3_soonest_12 : cX3_soonest.data.toList.drop 282 = dktX3_soonest_12 := dk_seg dksX3_soonest_11 23 rfl rfl
theorem dksX3_soonest_13 : cX3_soonest.data.toList.drop 305 = dktX3_soonest_13 := dk_seg dksX3_soonest_12 23 rfl rfl
theorem dksX3_soonest_14 : cX3_soonest.data.toList.drop 328 = dktX3_soonest_14 := dk_seg dksX3_soonest_13 23 rfl rfl
theorem dksX3_soonest_15 : cX3_soonest.data.toList.drop 352 = dktX3_soonest_15 := dk_seg dksX3_soonest_14 24 rfl rfl
theorem dX3_soonest_0 : decode cX3_soonest 0 = .ok (.iload_n 1, 1) := dk_27 (dk_at dksX3_soonest_0 0 rfl rfl)
theorem dX3_soonest_1 : decode cX3_soonest 1 = .ok (.iconst 0, 1) := dk_3 (dk_at dksX3_soonest_0 1 rfl rfl)
theorem dX3_soonest_2 : decode cX3_soonest 2 = .ok (.bipush 63, 2) := dk_16 63 (dk_at dksX3_soonest_0 2 rfl rfl)
theorem dX3_soonest_4 : decode cX3_soonest 4 = .ok (.invokestatic 354, 3) := dk_184 1 98 (dk_at dksX3_soonest_0 4 rfl rfl)
theorem dX3_soonest_7 : decode cX3_soonest 7 = .ok (.ifCond .eq 54, 3) := dk_153 0 54 (dk_at dksX3_soonest_0 7 rfl rfl)
theorem dX3_soonest_10 : decode cX3_soonest 10 = .ok (.iload_n 2, 1) := dk_28 (dk_at dksX3_soonest_0 10 rfl rfl)
theorem dX3_soonest_11 : decode cX3_soonest 11 = .ok (.iconst 0, 1) := dk_3 (dk_at dksX3_soonest_0 11 rfl rfl)
theorem dX3_soonest_12 : decode cX3_soonest 12 = .ok (.bipush 63, 2) := dk_16 63 (dk_at dksX3_soonest_0 12 rfl rfl)
theorem dX3_soonest_14 : decode cX3_soonest 14 = .ok (.invokestatic 354, 3) := dk_184 1 98 (dk_at dksX3_soonest_0 14 rfl rfl)
theorem dX3_soonest_17 : decode cX3_soonest 17 = .ok (.ifCond .eq 44, 3) := dk_153 0 44 (dk_at dksX3_soonest_0 17 rfl rfl)
theorem dX3_soonest_20 : decode cX3_soonest 20 = .ok (.iload_n 3, 1) := dk_29 (dk_at dksX3_soonest_0 20 rfl rfl)
theorem dX3_soonest_21 : decode cX3_soonest 21 = .ok (.invokestatic 391, 3) := dk_184 1 135 (dk_at dksX3_soonest_0 21 rfl rfl)
theorem dX3_soonest_24 : decode cX3_soonest 24 = .ok (.ifCond .eq 37, 3) := dk_153 0 37 (dk_at dksX3_soonest_1 0 rfl rfl)
theorem dX3_soonest_27 : decode cX3_soonest 27 = .ok (.iload 4, 2) := dk_21 4 (dk_at dksX3_soonest_1 3 rfl rfl)
theorem dX3_soonest_29 : decode cX3_soonest 29 = .ok (.iconst 0, 1) := dk_3 (dk_at dksX3_soonest_1 5 rfl rfl)
theorem dX3_soonest_30 : decode cX3_soonest 30 = .ok (.bipush 23, 2) := dk_16 23 (dk_at dksX3_soonest_1 6 rfl rfl)
theorem dX3_soonest_32 : decode cX3_soonest 32 = .ok (.invokestatic 354, 3) := dk_184 1 98 (dk_at dksX3_soonest_1 8 rfl rfl)
theorem dX3_soonest_35 : decode cX3_soonest 35 = .ok (.ifCond .eq 26, 3) := dk_153 0 26 (dk_at dksX3_soonest_1 11 rfl rfl)
theorem dX3_soonest_38 : decode cX3_soonest 38 = .ok (.iload 5, 2) := dk_21 5 (dk_at dksX3_soonest_1 14 rfl rfl)
theorem dX3_soonest_40 : decode cX3_soonest 40 = .ok (.iconst 0, 1) := dk_3 (dk_at dksX3_soonest_1 16 rfl rfl)
theorem dX3_soonest_41 : decode cX3_soonest 41 = .ok (.sipush 255, 3) := dk_17 0 255 (dk_at dksX3_soonest_1 17 rfl rfl)
theorem dX3_soonest_44 : decode cX3_soonest 44 = .ok (.invokestatic 354, 3) := dk_184 1 98 (dk_at dksX3_soonest_1 20 rfl rfl)
theorem dX3_soonest_47 : decode cX3_soonest 47 = .ok (.ifCond .eq 14, 3) := dk_153 0 14 (dk_at dksX3_soonest_2 0 rfl rfl)
theorem dX3_soonest_50 : decode cX3_soonest 50 = .ok (.iload 6, 2) := dk_21 6 (dk_at dksX3_soonest_2 3 rfl rfl)
theorem dX3_soonest_52 : decode cX3_soonest 52 = .ok (.iconst 0, 1) := dk_3 (dk_at dksX3_soonest_2 5 rfl rfl)
theorem dX3_soonest_53 : decode cX3_soonest 53 = .ok (.bipush 99, 2) := dk_16 99 (dk_at dksX3_soonest_2 6 rfl rfl)
theorem dX3_soonest_55 : decode cX3_soonest 55 = .ok (.invokestatic 354, 3) := dk_184 1 98 (dk_at dksX3_soonest_2 8 rfl rfl)
theorem dX3_soonest_58 : decode cX3_soonest 58 = .ok (.ifCond .ne 5, 3) := dk_154 0 5 (dk_at dksX3_soonest_2 11 rfl rfl)
theorem dX3_soonest_61 : decode cX3_soonest 61 = .ok (.iconst (-1), 1) := dk_2 (dk_at dksX3_soonest_2 14 rfl rfl)
theorem dX3_soonest_62 : decode cX3_soonest 62 = .ok (.ireturn, 1) := dk_172 (dk_at dksX3_soonest_2 15 rfl rfl)
theorem dX3_soonest_63 : decode cX3_soonest 63 = .ok (.iconst 0, 1) := dk_3 (dk_at dksX3_soonest_2 16 rfl rfl)
theorem dX3_soonest_64 : decode cX3_soonest 64 = .ok (.istore 7, 2) := dk_54 7 (dk_at dksX3_soonest_2 17 rfl rfl)
theorem dX3_soonest_66 : decode cX3_soonest 66 = .ok (.iload 7, 2) := dk_21 7 (dk_at dksX3_soonest_2 19 rfl rfl)
theorem dX3_soonest_68 : decode cX3_soonest 68 = .ok (.sipush 6400, 3) := dk_17 25 0 (dk_at dksX3_soonest_2 21 rfl rfl)
theorem dX3_soonest_71 : decode cX3_soonest 71 = .ok (.if_icmp .ge 19, 3) := dk_162 0 19 (dk_at dksX3_soonest_3 0 rfl rfl)
theorem dX3_soonest_74 : decode cX3_soonest 74 = .ok (.aload_n 0, 1) := dk_42 (dk_at dksX3_soonest_3 3 rfl rfl)
theorem dX3_soonest_75 : decode cX3_soonest 75 = .ok (.getfield 144, 3) := dk_180 0 144 (dk_at dksX3_soonest_3 4 rfl rfl)
theorem dX3_soonest_78 : decode cX3_soonest 78 = .ok (.iload 7, 2) := dk_21 7 (dk_at dksX3_soonest_3 7 rfl rfl)
theorem dX3_soonest_80 : decode cX3_soonest 80 = .ok (.ldc_w 503, 3) := dk_19 1 247 (dk_at dksX3_soonest_3 9 rfl rfl)
theorem dX3_soonest_83 : decode cX3_soonest 83 = .ok (.iastore, 1) := dk_79 (dk_at dksX3_soonest_3 12 rfl rfl)
theorem dX3_soonest_84 : decode cX3_soonest 84 = .ok (.iinc 7 1, 3) := dk_132 7 1 (dk_at dksX3_soonest_3 13 rfl rfl)
theorem dX3_soonest_87 : decode cX3_soonest 87 = .ok (.goto (-21), 3) := dk_167 255 235 (dk_at dksX3_soonest_3 16 rfl rfl)
theorem dX3_soonest_90 : decode cX3_soonest 90 = .ok (.aload_n 0, 1) := dk_42 (dk_at dksX3_soonest_3 19 rfl rfl)
theorem dX3_soonest_91 : decode cX3_soonest 91 = .ok (.getfield 144, 3) := dk_180 0 144 (dk_at dksX3_soonest_3 20 rfl rfl)
theorem dX3_soonest_94 : decode cX3_soonest 94 = .ok (.bipush 100, 2) := dk_16 100 (dk_at dksX3_soonest_4 0 rfl rfl)
theorem dX3_soonest_96 : decode cX3_soonest 96 = .ok (.iload_n 1, 1) := dk_27 (dk_at dksX3_soonest_4 2 rfl rfl)
theorem dX3_soonest_97 : decode cX3_soonest 97 = .ok (.imul, 1) := dk_104 (dk_at dksX3_soonest_4 3 rfl rfl)
theorem dX3_soonest_98 : decode cX3_soonest 98 = .ok (.iconst 0, 1) := dk_3 (dk_at dksX3_soonest_4 4 rfl rfl)
theorem dX3_soonest_99 : decode cX3_soonest 99 = .ok (.iastore, 1) := dk_79 (dk_at dksX3_soonest_4 5 rfl rfl)
theorem dX3_soonest_100 : decode cX3_soonest 100 = .ok (.iconst 0, 1) := dk_3 (dk_at dksX3_soonest_4 6 rfl rfl)
theorem dX3_soonest_101 : decode cX3_soonest 101 = .ok (.istore 7, 2) := dk_54 7 (dk_at dksX3_soonest_4 7 rfl rfl)
theorem dX3_soonest_103 : decode cX3_soonest 103 = .ok (.iload 7, 2) := dk_21 7 (dk_at dksX3_soonest_4 9 rfl rfl)
theorem dX3_soonest_105 : decode cX3_soonest 105 = .ok (.iload 6, 2) := dk_21 6 (dk_at dksX3_soonest_4 11 rfl rfl)
theorem dX3_soonest_107 : decode cX3_soonest 107 = .ok (.if_icmp .gt 161, 3) := dk_163 0 161 (dk_at dksX3_soonest_4 13 rfl rfl)
theorem dX3_soonest_110 : decode cX3_soonest 110 = .ok (.iconst 0, 1) := dk_3 (dk_at dksX3_soonest_4 16 rfl rfl)
theorem dX3_soonest_111 : decode cX3_soonest 111 = .ok (.istore 8, 2) := dk_54 8 (dk_at dksX3_soonest_4 17 rfl rfl)
theorem dX3_soonest_113 : decode cX3_soonest 113 = .ok (.iload 8, 2) := dk_21 8 (dk_at dksX3_soonest_4 19 rfl rfl)
theorem dX3_soonest_115 : decode cX3_soonest 115 = .ok (.bipush 64, 2) := dk_16 64 (dk_at dksX3_soonest_4 21 rfl rfl)
theorem dX3_soonest_117 : decode cX3_soonest 117 = .ok (.if_icmp .ge 145, 3) := dk_162 0 145 (dk_at dksX3_soonest_5 0 rfl rfl)
theorem dX3_soonest_120 : decode cX3_soonest 120 = .ok (.aload_n 0, 1) := dk_42 (dk_at dksX3_soonest_5 3 rfl rfl)
theorem dX3_soonest_121 : decode cX3_soonest 121 = .ok (.getfield 144, 3) := dk_180 0 144 (dk_at dksX3_soonest_5 4 rfl rfl)
theorem dX3_soonest_124 : decode cX3_soonest 124 = .ok (.bipush 100, 2) := dk_16 100 (dk_at dksX3_soonest_5 7 rfl rfl)
theorem dX3_soonest_126 : decode cX3_soonest 126 = .ok (.iload 8, 2) := dk_21 8 (dk_at dksX3_soonest_5 9 rfl rfl)
theorem dX3_soonest_128 : decode cX3_soonest 128 = .ok (.imul, 1) := dk_104 (dk_at dksX3_soonest_5 11 rfl rfl)
theorem dX3_soonest_129 : decode cX3_soonest 129 = .ok (.iload 7, 2) := dk_21 7 (dk_at dksX3_soonest_5 12 rfl rfl)
theorem dX3_soonest_131 : decode cX3_soonest 131 = .ok (.iadd, 1) := dk_96 (dk_at dksX3_soonest_5 14 rfl rfl)
theorem dX3_soonest_132 : decode cX3_soonest 132 = .ok (.iaload, 1) := dk_46 (dk_at dksX3_soonest_5 15 rfl rfl)
theorem dX3_soonest_133 : decode cX3_soonest 133 = .ok (.istore 9, 2) := dk_54 9 (dk_at dksX3_soonest_5 16 rfl rfl)
theorem dX3_soonest_135 : decode cX3_soonest 135 = .ok (.iload 9, 2) := dk_21 9 (dk_at dksX3_soonest_5 18 rfl rfl)
theorem dX3_soonest_137 : decode cX3_soonest 137 = .ok (.ldc_w 503, 3) := dk_19 1 247 (dk_at dksX3_soonest_5 20 rfl rfl)
theorem dX3_soonest_140 : decode cX3_soonest 140 = .ok (.if_icmp .lt 6, 3) := dk_161 0 6 (dk_at dksX3_soonest_6 0 rfl rfl)
theorem dX3_soonest_143 : decode cX3_soonest 143 = .ok (.goto 113, 3) := dk_167 0 113 (dk_at dksX3_soonest_6 3 rfl rfl)
theorem dX3_soonest_146 : decode cX3_soonest 146 = .ok (.iload 8, 2) := dk_21 8 (dk_at dksX3_soonest_6 6 rfl rfl)
theorem dX3_soonest_148 : decode cX3_soonest 148 = .ok (.bipush 8, 2) := dk_16 8 (dk_at dksX3_soonest_6 8 rfl rfl)
theorem dX3_soonest_150 : decode cX3_soonest 150 = .ok (.irem, 1) := dk_112 (dk_at dksX3_soonest_6 10 rfl rfl)
theorem dX3_soonest_151 : decode cX3_soonest 151 = .ok (.ifCond .le 22, 3) := dk_158 0 22 (dk_at dksX3_soonest_6 11 rfl rfl)
theorem dX3_soonest_154 : decode cX3_soonest 154 = .ok (.aload_n 0, 1) := dk_42 (dk_at dksX3_soonest_6 14 rfl rfl)
theorem dX3_soonest_155 : decode cX3_soonest 155 = .ok (.iload 8, 2) := dk_21 8 (dk_at dksX3_soonest_6 15 rfl rfl)
theorem dX3_soonest_157 : decode cX3_soonest 157 = .ok (.iconst 1, 1) := dk_4 (dk_at dksX3_soonest_6 17 rfl rfl)
theorem dX3_soonest_158 : decode cX3_soonest 158 = .ok (.isub, 1) := dk_100 (dk_at dksX3_soonest_6 18 rfl rfl)
theorem dX3_soonest_159 : decode cX3_soonest 159 = .ok (.iload 7, 2) := dk_21 7 (dk_at dksX3_soonest_6 19 rfl rfl)
theorem dX3_soonest_161 : decode cX3_soonest 161 = .ok (.iload 9, 2) := dk_21 9 (dk_at dksX3_soonest_6 21 rfl rfl)
theorem dX3_soonest_163 : decode cX3_soonest 163 = .ok (.iload_n 3, 1) := dk_29 (dk_at dksX3_soonest_6 23 rfl rfl)
theorem dX3_soonest_164 : decode cX3_soonest 164 = .ok (.iload 4, 2) := dk_21 4 (dk_at dksX3_soonest_7 0 rfl rfl)
theorem dX3_soonest_166 : decode cX3_soonest 166 = .ok (.iload 5, 2) := dk_21 5 (dk_at dksX3_soonest_7 2 rfl rfl)
theorem dX3_soonest_168 : decode cX3_soonest 168 = .ok (.iload 6, 2) := dk_21 6 (dk_at dksX3_soonest_7 4 rfl rfl)
theorem dX3_soonest_170 : decode cX3_soonest 170 = .ok (.invokevirtual 548, 3) := dk_182 2 36 (dk_at dksX3_soonest_7 6 rfl rfl)
theorem dX3_soonest_173 : decode cX3_soonest 173 = .ok (.iload 8, 2) := dk_21 8 (dk_at dksX3_soonest_7 9 rfl rfl)
theorem dX3_soonest_175 : decode cX3_soonest 175 = .ok (.bipush 8, 2) := dk_16 8 (dk_at dksX3_soonest_7 11 rfl rfl)
theorem dX3_soonest_177 : decode cX3_soonest 177 = .ok (.irem, 1) := dk_112 (dk_at dksX3_soonest_7 13 rfl rfl)
theorem dX3_soonest_178 : decode cX3_soonest 178 = .ok (.bipush 7, 2) := dk_16 7 (dk_at dksX3_soonest_7 14 rfl rfl)
theorem dX3_soonest_180 : decode cX3_soonest 180 = .ok (.if_icmp .ge 22, 3) := dk_162 0 22 (dk_at dksX3_soonest_7 16 rfl rfl)
theorem dX3_soonest_183 : decode cX3_soonest 183 = .ok (.aload_n 0, 1) := dk_42 (dk_at dksX3_soonest_7 19 rfl rfl)
theorem dX3_soonest_184 : decode cX3_soonest 184 = .ok (.iload 8, 2) := dk_21 8 (dk_at dksX3_soonest_7 20 rfl rfl)
theorem dX3_soonest_186 : decode cX3_soonest 186 = .ok (.iconst 1, 1) := dk_4 (dk_at dksX3_soonest_7 22 rfl rfl)
theorem dX3_soonest_187 : decode cX3_soonest 187 = .ok (.iadd, 1) := dk_96 (dk_at dksX3_soonest_7 23 rfl rfl)
theorem dX3_soonest_188 : decode cX3_soonest 188 = .ok (.iload 7, 2) := dk_21 7 (dk_at dksX3_soonest_8 0 rfl rfl)
theorem dX3_soonest_190 : decode cX3_soonest 190 = .ok (.iload 9, 2) := dk_21 9 (dk_at dksX3_soonest_8 2 rfl rfl)
theorem dX3_soonest_192 : decode cX3_soonest 192 = .ok (.iload_n 3, 1) := dk_29 (dk_at dksX3_soonest_8 4 rfl rfl)
theorem dX3_soonest_193 : decode cX3_soonest 193 = .ok (.iload 4, 2) := dk_21 4 (dk_at dksX3_soonest_8 5 rfl rfl)
theorem dX3_soonest_195 : decode cX3_soonest 195 = .ok (.iload 5, 2) := dk_21 5 (dk_at dksX3_soonest_8 7 rfl rfl)
theorem dX3_soonest_197 : decode cX3_soonest 197 = .ok (.iload 6, 2) := dk_21 6 (dk_at dksX3_soonest_8 9 rfl rfl)
theorem dX3_soonest_199 : decode cX3_soonest 199 = .ok (.invokevirtual 548, 3) := dk_182 2 36 (dk_at dksX3_soonest_8 11 rfl rfl)
theorem dX3_soonest_202 : decode cX3_soonest 202 = .ok (.iload 8, 2) := dk_21 8 (dk_at dksX3_soonest_8 14 rfl rfl)
theorem dX3_soonest_204 : decode cX3_soonest 204 = .ok (.bipush 7, 2) := dk_16 7 (dk_at dksX3_soonest_8 16 rfl rfl)
theorem dX3_soonest_206 : decode cX3_soonest 206 = .ok (.if_icmp .le 23, 3) := dk_164 0 23 (dk_at dksX3_soonest_8 18 rfl rfl)
theorem dX3_soonest_209 : decode cX3_soonest 209 = .ok (.aload_n 0, 1) := dk_42 (dk_at dksX3_soonest_8 21 rfl rfl)
theorem dX3_soonest_210 : decode cX3_soonest 210 = .ok (.iload 8, 2) := dk_21 8 (dk_at dksX3_soonest_8 22 rfl rfl)
theorem dX3_soonest_212 : decode cX3_soonest 212 = .ok (.bipush 8, 2) := dk_16 8 (dk_at dksX3_soonest_9 0 rfl rfl)
theorem dX3_soonest_214 : decode cX3_soonest 214 = .ok (.isub, 1) := dk_100 (dk_at dksX3_soonest_9 2 rfl rfl)
theorem dX3_soonest_215 : decode cX3_soonest 215 = .ok (.iload 7, 2) := dk_21 7 (dk_at dksX3_soonest_9 3 rfl rfl)
theorem dX3_soonest_217 : decode cX3_soonest 217 = .ok (.iload 9, 2) := dk_21 9 (dk_at dksX3_soonest_9 5 rfl rfl)
theorem dX3_soonest_219 : decode cX3_soonest 219 = .ok (.iload_n 3, 1) := dk_29 (dk_at dksX3_soonest_9 7 rfl rfl)
theorem dX3_soonest_220 : decode cX3_soonest 220 = .ok (.iload 4, 2) := dk_21 4 (dk_at dksX3_soonest_9 8 rfl rfl)
theorem dX3_soonest_222 : decode cX3_soonest 222 = .ok (.iload 5, 2) := dk_21 5 (dk_at dksX3_soonest_9 10 rfl rfl)
theorem dX3_soonest_224 : decode cX3_soonest 224 = .ok (.iload 6, 2) := dk_21 6 (dk_at dksX3_soonest_9 12 rfl rfl)
theorem dX3_soonest_226 : decode cX3_soonest 226 = .ok (.invokevirtual 548, 3) := dk_182 2 36 (dk_at dksX3_soonest_9 14 rfl rfl)
theorem dX3_soonest_229 : decode cX3_soonest 229 = .ok (.iload 8, 2) := dk_21 8 (dk_at dksX3_soonest_9 17 rfl rfl)
theorem dX3_soonest_231 : decode cX3_soonest 231 = .ok (.bipush 56, 2) := dk_16 56 (dk_at dksX3_soonest_9 19 rfl rfl)
theorem dX3_soonest_233 : decode cX3_soonest 233 = .ok (.if_icmp .ge 23, 3) := dk_162 0 23 (dk_at dksX3_soonest_9 21 rfl rfl)
theorem dX3_soonest_236 : decode cX3_soonest 236 = .ok (.aload_n 0, 1) := dk_42 (dk_at dksX3_soonest_10 0 rfl rfl)
theorem dX3_soonest_237 : decode cX3_soonest 237 = .ok (.iload 8, 2) := dk_21 8 (dk_at dksX3_soonest_10 1 rfl rfl)
theorem dX3_soonest_239 : decode cX3_soonest 239 = .ok (.bipush 8, 2) := dk_16 8 (dk_at dksX3_soonest_10 3 rfl rfl)
theorem dX3_soonest_241 : decode cX3_soonest 241 = .ok (.iadd, 1) := dk_96 (dk_at dksX3_soonest_10 5 rfl rfl)
theorem dX3_soonest_242 : decode cX3_soonest 242 = .ok (.iload 7, 2) := dk_21 7 (dk_at dksX3_soonest_10 6 rfl rfl)
theorem dX3_soonest_244 : decode cX3_soonest 244 = .ok (.iload 9, 2) := dk_21 9 (dk_at dksX3_soonest_10 8 rfl rfl)
theorem dX3_soonest_246 : decode cX3_soonest 246 = .ok (.iload_n 3, 1) := dk_29 (dk_at dksX3_soonest_10 10 rfl rfl)
theorem dX3_soonest_247 : decode cX3_soonest 247 = .ok (.iload 4, 2) := dk_21 4 (dk_at dksX3_soonest_10 11 rfl rfl)
theorem dX3_soonest_249 : decode cX3_soonest 249 = .ok (.iload 5, 2) := dk_21 5 (dk_at dksX3_soonest_10 13 rfl rfl)
theorem dX3_soonest_251 : decode cX3_soonest 251 = .ok (.iload 6, 2) := dk_21 6 (dk_at dksX3_soonest_10 15 rfl rfl)
theorem dX3_soonest_253 : decode cX3_soonest 253 = .ok (.invokevirtual 548, 3) := dk_182 2 36 (dk_at dksX3_soonest_10 17 rfl rfl)
theorem dX3_soonest_256 : decode cX3_soonest 256 = .ok (.iinc 8 1, 3) := dk_132 8 1 (dk_at dksX3_soonest_10 20 rfl rfl)
theorem dX3_soonest_259 : decode cX3_soonest 259 = .ok (.goto (-146), 3) := dk_167 255 110 (dk_at dksX3_soonest_11 0 rfl rfl)
theorem dX3_soonest_262 : decode cX3_soonest 262 = .ok (.iinc 7 1, 3) := dk_132 7 1 (dk_at dksX3_soonest_11 3 rfl rfl)
theorem dX3_soonest_265 : decode cX3_soonest 265 = .ok (.goto (-162), 3) := dk_167 255 94 (dk_at dksX3_soonest_11 6 rfl rfl)
theorem dX3_soonest_268 : decode cX3_soonest 268 = .ok (.iconst (-1), 1) := dk_2 (dk_at dksX3_soonest_11 9 rfl rfl)
theorem dX3_soonest_269 : decode cX3_soonest 269 = .ok (.istore 7, 2) := dk_54 7 (dk_at dksX3_soonest_11 10 rfl rfl)
theorem dX3_soonest_271 : decode cX3_soonest 271 = .ok (.iconst 0, 1) := dk_3 (dk_at dksX3_soonest_11 12 rfl rfl)
theorem dX3_soonest_272 : decode cX3_soonest 272 = .ok (.istore 8, 2) := dk_54 8 (dk_at dksX3_soonest_11 13 rfl rfl)
theorem dX3_soonest_274 : decode cX3_soonest 274 = .ok (.iload 8, 2) := dk_21 8 (dk_at dksX3_soonest_11 15 rfl rfl)
theorem dX3_soonest_276 : decode cX3_soonest 276 = .ok (.iload 6, 2) := dk_21 6 (dk_at dksX3_soonest_11 17 rfl rfl)
theorem dX3_soonest_278 : decode cX3_soonest 278 = .ok (.if_icmp .gt 63, 3) := dk_163 0 63 (dk_at dksX3_soonest_11 19 rfl rfl)
theorem dX3_soonest_281 : decode cX3_soonest 281 = .ok (.aload_n 0, 1) := dk_42 (dk_at dksX3_soonest_11 22 rfl rfl)
theorem dX3_soonest_282 : decode cX3_soonest 282 = .ok (.getfield 144, 3) := dk_180 0 144 (dk_at dksX3_soonest_12 0 rfl rfl)
theorem dX3_soonest_285 : decode cX3_soonest 285 = .ok (.bipush 100, 2) := dk_16 100 (dk_at dksX3_soonest_12 3 rfl rfl)
theorem dX3_soonest_287 : decode cX3_soonest 287 = .ok (.iload_n 2, 1) := dk_28 (dk_at dksX3_soonest_12 5 rfl rfl)
theorem dX3_soonest_288 : decode cX3_soonest 288 = .ok (.imul, 1) := dk_104 (dk_at dksX3_soonest_12 6 rfl rfl)
theorem dX3_soonest_289 : decode cX3_soonest 289 = .ok (.iload 8, 2) := dk_21 8 (dk_at dksX3_soonest_12 7 rfl rfl)
theorem dX3_soonest_291 : decode cX3_soonest 291 = .ok (.iadd, 1) := dk_96 (dk_at dksX3_soonest_12 9 rfl rfl)
theorem dX3_soonest_292 : decode cX3_soonest 292 = .ok (.iaload, 1) := dk_46 (dk_at dksX3_soonest_12 10 rfl rfl)
theorem dX3_soonest_293 : decode cX3_soonest 293 = .ok (.ldc_w 503, 3) := dk_19 1 247 (dk_at dksX3_soonest_12 11 rfl rfl)
theorem dX3_soonest_296 : decode cX3_soonest 296 = .ok (.if_icmp .ge 39, 3) := dk_162 0 39 (dk_at dksX3_soonest_12 14 rfl rfl)
theorem dX3_soonest_299 : decode cX3_soonest 299 = .ok (.iload 7, 2) := dk_21 7 (dk_at dksX3_soonest_12 17 rfl rfl)
theorem dX3_soonest_301 : decode cX3_soonest 301 = .ok (.ifCond .lt 30, 3) := dk_155 0 30 (dk_at dksX3_soonest_12 19 rfl rfl)
theorem dX3_soonest_304 : decode cX3_soonest 304 = .ok (.aload_n 0, 1) := dk_42 (dk_at dksX3_soonest_12 22 rfl rfl)
theorem dX3_soonest_305 : decode cX3_soonest 305 = .ok (.getfield 144, 3) := dk_180 0 144 (dk_at dksX3_soonest_13 0 rfl rfl)
theorem dX3_soonest_308 : decode cX3_soonest 308 = .ok (.bipush 100, 2) := dk_16 100 (dk_at dksX3_soonest_13 3 rfl rfl)
theorem dX3_soonest_310 : decode cX3_soonest 310 = .ok (.iload_n 2, 1) := dk_28 (dk_at dksX3_soonest_13 5 rfl rfl)
theorem dX3_soonest_311 : decode cX3_soonest 311 = .ok (.imul, 1) := dk_104 (dk_at dksX3_soonest_13 6 rfl rfl)
theorem dX3_soonest_312 : decode cX3_soonest 312 = .ok (.iload 8, 2) := dk_21 8 (dk_at dksX3_soonest_13 7 rfl rfl)
theorem dX3_soonest_314 : decode cX3_soonest 314 = .ok (.iadd, 1) := dk_96 (dk_at dksX3_soonest_13 9 rfl rfl)
theorem dX3_soonest_315 : decode cX3_soonest 315 = .ok (.iaload, 1) := dk_46 (dk_at dksX3_soonest_13 10 rfl rfl)
theorem dX3_soonest_316 : decode cX3_soonest 316 = .ok (.aload_n 0, 1) := dk_42 (dk_at dksX3_soonest_13 11 rfl rfl)
theorem dX3_soonest_317 : decode cX3_soonest 317 = .ok (.getfield 144, 3) := dk_180 0 144 (dk_at dksX3_soonest_13 12 rfl rfl)
theorem dX3_soonest_320 : decode cX3_soonest 320 = .ok (.bipush 100, 2) := dk_16 100 (dk_at dksX3_soonest_13 15 rfl rfl)
theorem dX3_soonest_322 : decode cX3_soonest 322 = .ok (.iload_n 2, 1) := dk_28 (dk_at dksX3_soonest_13 17 rfl rfl)
theorem dX3_soonest_323 : decode cX3_soonest 323 = .ok (.imul, 1) := dk_104 (dk_at dksX3_soonest_13 18 rfl rfl)
theorem dX3_soonest_324 : decode cX3_soonest 324 = .ok (.iload 7, 2) := dk_21 7 (dk_at dksX3_soonest_13 19 rfl rfl)
theorem dX3_soonest_326 : decode cX3_soonest 326 = .ok (.iadd, 1) := dk_96 (dk_at dksX3_soonest_13 21 rfl rfl)
theorem dX3_soonest_327 : decode cX3_soonest 327 = .ok (.iaload, 1) := dk_46 (dk_at dksX3_soonest_13 22 rfl rfl)
theorem dX3_soonest_328 : decode cX3_soonest 328 = .ok (.if_icmp .ge 7, 3) := dk_162 0 7 (dk_at dksX3_soonest_14 0 rfl rfl)
theorem dX3_soonest_331 : decode cX3_soonest 331 = .ok (.iload 8, 2) := dk_21 8 (dk_at dksX3_soonest_14 3 rfl rfl)
theorem dX3_soonest_333 : decode cX3_soonest 333 = .ok (.istore 7, 2) := dk_54 7 (dk_at dksX3_soonest_14 5 rfl rfl)
theorem dX3_soonest_335 : decode cX3_soonest 335 = .ok (.iinc 8 1, 3) := dk_132 8 1 (dk_at dksX3_soonest_14 7 rfl rfl)
theorem dX3_soonest_338 : decode cX3_soonest 338 = .ok (.goto (-64), 3) := dk_167 255 192 (dk_at dksX3_soonest_14 10 rfl rfl)
theorem dX3_soonest_341 : decode cX3_soonest 341 = .ok (.iload 7, 2) := dk_21 7 (dk_at dksX3_soonest_14 13 rfl rfl)
theorem dX3_soonest_343 : decode cX3_soonest 343 = .ok (.ifCond .ge 7, 3) := dk_156 0 7 (dk_at dksX3_soonest_14 15 rfl rfl)
theorem dX3_soonest_346 : decode cX3_soonest 346 = .ok (.iconst (-1), 1) := dk_2 (dk_at dksX3_soonest_14 18 rfl rfl)
theorem dX3_soonest_347 : decode cX3_soonest 347 = .ok (.goto 21, 3) := dk_167 0 21 (dk_at dksX3_soonest_14 19 rfl rfl)
theorem dX3_soonest_350 : decode cX3_soonest 350 = .ok (.bipush 100, 2) := dk_16 100 (dk_at dksX3_soonest_14 22 rfl rfl)
theorem dX3_soonest_352 : decode cX3_soonest 352 = .ok (.aload_n 0, 1) := dk_42 (dk_at dksX3_soonest_15 0 rfl rfl)
theorem dX3_soonest_353 : decode cX3_soonest 353 = .ok (.getfield 144, 3) := dk_180 0 144 (dk_at dksX3_soonest_15 1 rfl rfl)
theorem dX3_soonest_356 : decode cX3_soonest 356 = .ok (.bipush 100, 2) := dk_16 100 (dk_at dksX3_soonest_15 4 rfl rfl)
theorem dX3_soonest_358 : decode cX3_soonest 358 = .ok (.iload_n 2, 1) := dk_28 (dk_at dksX3_soonest_15 6 rfl rfl)
theorem dX3_soonest_359 : decode cX3_soonest 359 = .ok (.imul, 1) := dk_104 (dk_at dksX3_soonest_15 7 rfl rfl)
theorem dX3_soonest_360 : decode cX3_soonest 360 = .ok (.iload 7, 2) := dk_21 7 (dk_at dksX3_soonest_15 8 rfl rfl)
theorem dX3_soonest_362 : decode cX3_soonest 362 = .ok (.iadd, 1) := dk_96 (dk_at dksX3_soonest_15 10 rfl rfl)
theorem dX3_soonest_363 : decode cX3_soonest 363 = .ok (.iaload, 1) := dk_46 (dk_at dksX3_soonest_15 11 rfl rfl)
theorem dX3_soonest_364 : decode cX3_soonest 364 = .ok (.imul, 1) := dk_104 (dk_at dksX3_soonest_15 12 rfl rfl)
theorem dX3_soonest_365 : decode cX3_soonest 365 = .ok (.iload 7, 2) := dk_21 7 (dk_at dksX3_soonest_15 13 rfl rfl)
theorem dX3_soonest_367 : decode cX3_soonest 367 = .ok (.iadd, 1) := dk_96 (dk_at dksX3_soonest_15 15 rfl rfl)
theorem dX3_soonest_368 : decode cX3_soonest 368 = .ok (.ireturn, 1) := dk_172 (dk_at dksX3_soonest_15 16 rfl rfl)
abbrev cX3_stage : ByteArray := prog_24_method_97_code
def dkwX3_stage_2 : List UInt8 := [180, 2, 70, 28, 79, 42, 89, 180, 2, 70, 4, 96, 181, 2, 70, 42, 180, 2, 70, 4, 100, 172]
abbrev dktX3_stage_2 : List UInt8 := dkwX3_stage_2 ++ []
def dkwX3_stage_1 : List UInt8 := [16, 8, 160, 0, 5, 2, 172, 42, 180, 0, 162, 42, 180, 2, 70, 27, 79, 42, 180, 0, 165, 42]
abbrev dktX3_stage_1 : List UInt8 := dkwX3_stage_1 ++ dktX3_stage_2
def dkwX3_stage_0 : List UInt8 := [27, 3, 16, 30, 184, 1, 98, 153, 0, 22, 28, 3, 16, 10, 184, 1, 98, 153, 0, 12, 42, 180, 2, 70]
abbrev dktX3_stage_0 : List UInt8 := dkwX3_stage_0 ++ dktX3_stage_1
theorem dksX3_stage_0 : cX3_stage.data.toList.drop 0 = dktX3_stage_0 := by decide +kernel
theorem dksX3_stage_1 : cX3_stage.data.toList.drop 24 = dktX3_stage_1 := dk_seg dksX3_stage_0 24 rfl rfl
theorem dksX3_stage_2 : cX3_stage.data.toList.drop 46 = dktX3_stage_2 := dk_seg dksX3_stage_1 22 rfl rfl
theorem dX3_stage_0 : decode cX3_stage 0 = .ok (.iload_n 1, 1) := dk_27 (dk_at dksX3_stage_0 0 rfl rfl)
theorem dX3_stage_1 : decode cX3_stage 1 = .ok (.iconst 0, 1) := dk_3 (dk_at dksX3_stage_0 1 rfl rfl)
theorem dX3_stage_2 : decode cX3_stage 2 = .ok (.bipush 30, 2) := dk_16 30 (dk_at dksX3_stage_0 2 rfl rfl)
theorem dX3_stage_4 : decode cX3_stage 4 = .ok (.invokestatic 354, 3) := dk_184 1 98 (dk_at dksX3_stage_0 4 rfl rfl)
theorem dX3_stage_7 : decode cX3_stage 7 = .ok (.ifCond .eq 22, 3) := dk_153 0 22 (dk_at dksX3_stage_0 7 rfl rfl)
theorem dX3_stage_10 : decode cX3_stage 10 = .ok (.iload_n 2, 1) := dk_28 (dk_at dksX3_stage_0 10 rfl rfl)
theorem dX3_stage_11 : decode cX3_stage 11 = .ok (.iconst 0, 1) := dk_3 (dk_at dksX3_stage_0 11 rfl rfl)
theorem dX3_stage_12 : decode cX3_stage 12 = .ok (.bipush 10, 2) := dk_16 10 (dk_at dksX3_stage_0 12 rfl rfl)
theorem dX3_stage_14 : decode cX3_stage 14 = .ok (.invokestatic 354, 3) := dk_184 1 98 (dk_at dksX3_stage_0 14 rfl rfl)
theorem dX3_stage_17 : decode cX3_stage 17 = .ok (.ifCond .eq 12, 3) := dk_153 0 12 (dk_at dksX3_stage_0 17 rfl rfl)
theorem dX3_stage_20 : decode cX3_stage 20 = .ok (.aload_n 0, 1) := dk_42 (dk_at dksX3_stage_0 20 rfl rfl)
theorem dX3_stage_21 : decode cX3_stage 21 = .ok (.getfield 582, 3) := dk_180 2 70 (dk_at dksX3_stage_0 21 rfl rfl)
theorem dX3_stage_24 : decode cX3_stage 24 = .ok (.bipush 8, 2) := dk_16 8 (dk_at dksX3_stage_1 0 rfl rfl)
theorem dX3_stage_26 : decode cX3_stage 26 = .ok (.if_icmp .ne 5, 3) := dk_160 0 5 (dk_at dksX3_stage_1 2 rfl rfl)
theorem dX3_stage_29 : decode cX3_stage 29 = .ok (.iconst (-1), 1) := dk_2 (dk_at dksX3_stage_1 5 rfl rfl)
theorem dX3_stage_30 : decode cX3_stage 30 = .ok (.ireturn, 1) := dk_172 (dk_at dksX3_stage_1 6 rfl rfl)
theorem dX3_stage_31 : decode cX3_stage 31 = .ok (.aload_n 0, 1) := dk_42 (dk_at dksX3_stage_1 7 rfl rfl)
theorem dX3_stage_32 : decode cX3_stage 32 = .ok (.getfield 162, 3) := dk_180 0 162 (dk_at dksX3_stage_1 8 rfl rfl)
theorem dX3_stage_35 : decode cX3_stage 35 = .ok (.aload_n 0, 1) := dk_42 (dk_at dksX3_stage_1 11 rfl rfl)
theorem dX3_stage_36 : decode cX3_stage 36 = .ok (.getfield 582, 3) := dk_180 2 70 (dk_at dksX3_stage_1 12 rfl rfl)
theorem dX3_stage_39 : decode cX3_stage 39 = .ok (.iload_n 1, 1) := dk_27 (dk_at dksX3_stage_1 15 rfl rfl)
theorem dX3_stage_40 : decode cX3_stage 40 = .ok (.iastore, 1) := dk_79 (dk_at dksX3_stage_1 16 rfl rfl)
theorem dX3_stage_41 : decode cX3_stage 41 = .ok (.aload_n 0, 1) := dk_42 (dk_at dksX3_stage_1 17 rfl rfl)
theorem dX3_stage_42 : decode cX3_stage 42 = .ok (.getfield 165, 3) := dk_180 0 165 (dk_at dksX3_stage_1 18 rfl rfl)
theorem dX3_stage_45 : decode cX3_stage 45 = .ok (.aload_n 0, 1) := dk_42 (dk_at dksX3_stage_1 21 rfl rfl)
theorem dX3_stage_46 : decode cX3_stage 46 = .ok (.getfield 582, 3) := dk_180 2 70 (dk_at dksX3_stage_2 0 rfl rfl)
theorem dX3_stage_49 : decode cX3_stage 49 = .ok (.iload_n 2, 1) := dk_28 (dk_at dksX3_stage_2 3 rfl rfl)
theorem dX3_stage_50 : decode cX3_stage 50 = .ok (.iastore, 1) := dk_79 (dk_at dksX3_stage_2 4 rfl rfl)
theorem dX3_stage_51 : decode cX3_stage 51 = .ok (.aload_n 0, 1) := dk_42 (dk_at dksX3_stage_2 5 rfl rfl)
theorem dX3_stage_52 : decode cX3_stage 52 = .ok (.dup, 1) := dk_89 (dk_at dksX3_stage_2 6 rfl rfl)
theorem dX3_stage_53 : decode cX3_stage 53 = .ok (.getfield 582, 3) := dk_180 2 70 (dk_at dksX3_stage_2 7 rfl rfl)
theorem dX3_stage_56 : decode cX3_stage 56 = .ok (.iconst 1, 1) := dk_4 (dk_at dksX3_stage_2 10 rfl rfl)
theorem dX3_stage_57 : decode cX3_stage 57 = .ok (.iadd, 1) := dk_96 (dk_at dksX3_stage_2 11 rfl rfl)
theorem dX3_stage_58 : decode cX3_stage 58 = .ok (.putfield 582, 3) := dk_181 2 70 (dk_at dksX3_stage_2 12 rfl rfl)
theorem dX3_stage_61 : decode cX3_stage 61 = .ok (.aload_n 0, 1) := dk_42 (dk_at dksX3_stage_2 15 rfl rfl)
theorem dX3_stage_62 : decode cX3_stage 62 = .ok (.getfield 582, 3) := dk_180 2 70 (dk_at dksX3_stage_2 16 rfl rfl)
theorem dX3_stage_65 : decode cX3_stage 65 = .ok (.iconst 1, 1) := dk_4 (dk_at dksX3_stage_2 19 rfl rfl)
theorem dX3_stage_66 : decode cX3_stage 66 = .ok (.isub, 1) := dk_100 (dk_at dksX3_stage_2 20 rfl rfl)
theorem dX3_stage_67 : decode cX3_stage 67 = .ok (.ireturn, 1) := dk_172 (dk_at dksX3_stage_2 21 rfl rfl)
abbrev cX3_stateNow : ByteArray := prog_24_method_79_code
def dkwX3_stateNow_1 : List UInt8 := [128, 172]
abbrev dktX3_stateNow_1 : List UInt8 := dkwX3_stateNow_1 ++ []
def dkwX3_stateNow_0 : List UInt8 := [42, 180, 0, 138, 3, 46, 42, 180, 0, 138, 4, 46, 7, 120, 128, 42, 180, 0, 138, 5, 46, 16, 8, 120]
abbrev dktX3_stateNow_0 : List UInt8 := dkwX3_stateNow_0 ++ dktX3_stateNow_1
theorem dksX3_stateNow_0 : cX3_stateNow.data.toList.drop 0 = dktX3_stateNow_0 := by decide +kernel
theorem dksX3_stateNow_1 : cX3_stateNow.data.toList.drop 24 = dktX3_stateNow_1 := dk_seg dksX3_stateNow_0 24 rfl rfl
theorem dX3_stateNow_0 : decode cX3_stateNow 0 = .ok (.aload_n 0, 1) := dk_42 (dk_at dksX3_stateNow_0 0 rfl rfl)
theorem dX3_stateNow_1 : decode cX3_stateNow 1 = .ok (.getfield 138, 3) := dk_180 0 138 (dk_at dksX3_stateNow_0 1 rfl rfl)
theorem dX3_stateNow_4 : decode cX3_stateNow 4 = .ok (.iconst 0, 1) := dk_3 (dk_at dksX3_stateNow_0 4 rfl rfl)
theorem dX3_stateNow_5 : decode cX3_stateNow 5 = .ok (.iaload, 1) := dk_46 (dk_at dksX3_stateNow_0 5 rfl rfl)
theorem dX3_stateNow_6 : decode cX3_stateNow 6 = .ok (.aload_n 0, 1) := dk_42 (dk_at dksX3_stateNow_0 6 rfl rfl)
theorem dX3_stateNow_7 : decode cX3_stateNow 7 = .ok (.getfield 138, 3) := dk_180 0 138 (dk_at dksX3_stateNow_0 7 rfl rfl)
theorem dX3_stateNow_10 : decode cX3_stateNow 10 = .ok (.iconst 1, 1) := dk_4 (dk_at dksX3_stateNow_0 10 rfl rfl)
theorem dX3_stateNow_11 : decode cX3_stateNow 11 = .ok (.iaload, 1) := dk_46 (dk_at dksX3_stateNow_0 11 rfl rfl)
theorem dX3_stateNow_12 : decode cX3_stateNow 12 = .ok (.iconst 4, 1) := dk_7 (dk_at dksX3_stateNow_0 12 rfl rfl)
theorem dX3_stateNow_13 : decode cX3_stateNow 13 = .ok (.ishl, 1) := dk_120 (dk_at dksX3_stateNow_0 13 rfl rfl)
theorem dX3_stateNow_14 : decode cX3_stateNow 14 = .ok (.ior, 1) := dk_128 (dk_at dksX3_stateNow_0 14 rfl rfl)
theorem dX3_stateNow_15 : decode cX3_stateNow 15 = .ok (.aload_n 0, 1) := dk_42 (dk_at dksX3_stateNow_0 15 rfl rfl)
theorem dX3_stateNow_16 : decode cX3_stateNow 16 = .ok (.getfield 138, 3) := dk_180 0 138 (dk_at dksX3_stateNow_0 16 rfl rfl)
theorem dX3_stateNow_19 : decode cX3_stateNow 19 = .ok (.iconst 2, 1) := dk_5 (dk_at dksX3_stateNow_0 19 rfl rfl)
theorem dX3_stateNow_20 : decode cX3_stateNow 20 = .ok (.iaload, 1) := dk_46 (dk_at dksX3_stateNow_0 20 rfl rfl)
theorem dX3_stateNow_21 : decode cX3_stateNow 21 = .ok (.bipush 8, 2) := dk_16 8 (dk_at dksX3_stateNow_0 21 rfl rfl)
theorem dX3_stateNow_23 : decode cX3_stateNow 23 = .ok (.ishl, 1) := dk_120 (dk_at dksX3_stateNow_0 23 rfl rfl)
theorem dX3_stateNow_24 : decode cX3_stateNow 24 = .ok (.ior, 1) := dk_128 (dk_at dksX3_stateNow_1 0 rfl rfl)
theorem dX3_stateNow_25 : decode cX3_stateNow 25 = .ok (.ireturn, 1) := dk_172 (dk_at dksX3_stateNow_1 1 rfl rfl)
abbrev cX3_stateOf : ByteArray := prog_24_method_99_code
def dkwX3_stateOf_0 : List UInt8 := [26, 8, 104, 27, 96, 16, 7, 104, 28, 96, 16, 31, 104, 29, 96, 16, 31, 104, 21, 4, 96, 172]
abbrev dktX3_stateOf_0 : List UInt8 := dkwX3_stateOf_0 ++ []
theorem dksX3_stateOf_0 : cX3_stateOf.data.toList.drop 0 = dktX3_stateOf_0 := by decide +kernel
theorem dX3_stateOf_0 : decode cX3_stateOf 0 = .ok (.iload_n 0, 1) := dk_26 (dk_at dksX3_stateOf_0 0 rfl rfl)
theorem dX3_stateOf_1 : decode cX3_stateOf 1 = .ok (.iconst 5, 1) := dk_8 (dk_at dksX3_stateOf_0 1 rfl rfl)
theorem dX3_stateOf_2 : decode cX3_stateOf 2 = .ok (.imul, 1) := dk_104 (dk_at dksX3_stateOf_0 2 rfl rfl)
theorem dX3_stateOf_3 : decode cX3_stateOf 3 = .ok (.iload_n 1, 1) := dk_27 (dk_at dksX3_stateOf_0 3 rfl rfl)
theorem dX3_stateOf_4 : decode cX3_stateOf 4 = .ok (.iadd, 1) := dk_96 (dk_at dksX3_stateOf_0 4 rfl rfl)
theorem dX3_stateOf_5 : decode cX3_stateOf 5 = .ok (.bipush 7, 2) := dk_16 7 (dk_at dksX3_stateOf_0 5 rfl rfl)
theorem dX3_stateOf_7 : decode cX3_stateOf 7 = .ok (.imul, 1) := dk_104 (dk_at dksX3_stateOf_0 7 rfl rfl)
theorem dX3_stateOf_8 : decode cX3_stateOf 8 = .ok (.iload_n 2, 1) := dk_28 (dk_at dksX3_stateOf_0 8 rfl rfl)
theorem dX3_stateOf_9 : decode cX3_stateOf 9 = .ok (.iadd, 1) := dk_96 (dk_at dksX3_stateOf_0 9 rfl rfl)
theorem dX3_stateOf_10 : decode cX3_stateOf 10 = .ok (.bipush 31, 2) := dk_16 31 (dk_at dksX3_stateOf_0 10 rfl rfl)
theorem dX3_stateOf_12 : decode cX3_stateOf 12 = .ok (.imul, 1) := dk_104 (dk_at dksX3_stateOf_0 12 rfl rfl)
theorem dX3_stateOf_13 : decode cX3_stateOf 13 = .ok (.iload_n 3, 1) := dk_29 (dk_at dksX3_stateOf_0 13 rfl rfl)
theorem dX3_stateOf_14 : decode cX3_stateOf 14 = .ok (.iadd, 1) := dk_96 (dk_at dksX3_stateOf_0 14 rfl rfl)
theorem dX3_stateOf_15 : decode cX3_stateOf 15 = .ok (.bipush 31, 2) := dk_16 31 (dk_at dksX3_stateOf_0 15 rfl rfl)
theorem dX3_stateOf_17 : decode cX3_stateOf 17 = .ok (.imul, 1) := dk_104 (dk_at dksX3_stateOf_0 17 rfl rfl)
theorem dX3_stateOf_18 : decode cX3_stateOf 18 = .ok (.iload 4, 2) := dk_21 4 (dk_at dksX3_stateOf_0 18 rfl rfl)
theorem dX3_stateOf_20 : decode cX3_stateOf 20 = .ok (.iadd, 1) := dk_96 (dk_at dksX3_stateOf_0 20 rfl rfl)
theorem dX3_stateOf_21 : decode cX3_stateOf 21 = .ok (.ireturn, 1) := dk_172 (dk_at dksX3_stateOf_0 21 rfl rfl)
abbrev cX3_step : ByteArray := prog_24_method_42_code
def dkwX3_step_1 : List UInt8 := [180, 1, 138, 96, 28, 79, 42, 89, 180, 1, 138, 4, 96, 181, 1, 138, 177]
abbrev dktX3_step_1 : List UInt8 := dkwX3_step_1 ++ []
def dkwX3_step_0 : List UInt8 := [42, 180, 0, 92, 17, 8, 52, 42, 180, 1, 138, 96, 27, 79, 42, 180, 0, 95, 17, 8, 52, 42]
abbrev dktX3_step_0 : List UInt8 := dkwX3_step_0 ++ dktX3_step_1
theorem dksX3_step_0 : cX3_step.data.toList.drop 0 = dktX3_step_0 := by decide +kernel
theorem dksX3_step_1 : cX3_step.data.toList.drop 22 = dktX3_step_1 := dk_seg dksX3_step_0 22 rfl rfl
theorem dX3_step_0 : decode cX3_step 0 = .ok (.aload_n 0, 1) := dk_42 (dk_at dksX3_step_0 0 rfl rfl)
theorem dX3_step_1 : decode cX3_step 1 = .ok (.getfield 92, 3) := dk_180 0 92 (dk_at dksX3_step_0 1 rfl rfl)
theorem dX3_step_4 : decode cX3_step 4 = .ok (.sipush 2100, 3) := dk_17 8 52 (dk_at dksX3_step_0 4 rfl rfl)
theorem dX3_step_7 : decode cX3_step 7 = .ok (.aload_n 0, 1) := dk_42 (dk_at dksX3_step_0 7 rfl rfl)
theorem dX3_step_8 : decode cX3_step 8 = .ok (.getfield 394, 3) := dk_180 1 138 (dk_at dksX3_step_0 8 rfl rfl)
theorem dX3_step_11 : decode cX3_step 11 = .ok (.iadd, 1) := dk_96 (dk_at dksX3_step_0 11 rfl rfl)
theorem dX3_step_12 : decode cX3_step 12 = .ok (.iload_n 1, 1) := dk_27 (dk_at dksX3_step_0 12 rfl rfl)
theorem dX3_step_13 : decode cX3_step 13 = .ok (.iastore, 1) := dk_79 (dk_at dksX3_step_0 13 rfl rfl)
theorem dX3_step_14 : decode cX3_step 14 = .ok (.aload_n 0, 1) := dk_42 (dk_at dksX3_step_0 14 rfl rfl)
theorem dX3_step_15 : decode cX3_step 15 = .ok (.getfield 95, 3) := dk_180 0 95 (dk_at dksX3_step_0 15 rfl rfl)
theorem dX3_step_18 : decode cX3_step 18 = .ok (.sipush 2100, 3) := dk_17 8 52 (dk_at dksX3_step_0 18 rfl rfl)
theorem dX3_step_21 : decode cX3_step 21 = .ok (.aload_n 0, 1) := dk_42 (dk_at dksX3_step_0 21 rfl rfl)
theorem dX3_step_22 : decode cX3_step 22 = .ok (.getfield 394, 3) := dk_180 1 138 (dk_at dksX3_step_1 0 rfl rfl)
theorem dX3_step_25 : decode cX3_step 25 = .ok (.iadd, 1) := dk_96 (dk_at dksX3_step_1 3 rfl rfl)
theorem dX3_step_26 : decode cX3_step 26 = .ok (.iload_n 2, 1) := dk_28 (dk_at dksX3_step_1 4 rfl rfl)
theorem dX3_step_27 : decode cX3_step 27 = .ok (.iastore, 1) := dk_79 (dk_at dksX3_step_1 5 rfl rfl)
theorem dX3_step_28 : decode cX3_step 28 = .ok (.aload_n 0, 1) := dk_42 (dk_at dksX3_step_1 6 rfl rfl)
theorem dX3_step_29 : decode cX3_step 29 = .ok (.dup, 1) := dk_89 (dk_at dksX3_step_1 7 rfl rfl)
theorem dX3_step_30 : decode cX3_step 30 = .ok (.getfield 394, 3) := dk_180 1 138 (dk_at dksX3_step_1 8 rfl rfl)
theorem dX3_step_33 : decode cX3_step 33 = .ok (.iconst 1, 1) := dk_4 (dk_at dksX3_step_1 11 rfl rfl)
theorem dX3_step_34 : decode cX3_step 34 = .ok (.iadd, 1) := dk_96 (dk_at dksX3_step_1 12 rfl rfl)
theorem dX3_step_35 : decode cX3_step 35 = .ok (.putfield 394, 3) := dk_181 1 138 (dk_at dksX3_step_1 13 rfl rfl)
theorem dX3_step_38 : decode cX3_step 38 = .ok (.return_, 1) := dk_177 (dk_at dksX3_step_1 16 rfl rfl)
abbrev cX3_takeTape : ByteArray := prog_24_method_15_code
def dkwX3_takeTape_2 : List UInt8 := [42, 3, 181, 1, 38, 42, 3, 181, 0, 246, 177]
abbrev dktX3_takeTape_2 : List UInt8 := dkwX3_takeTape_2 ++ []
def dkwX3_takeTape_1 : List UInt8 := [180, 0, 172, 162, 0, 21, 42, 180, 0, 13, 27, 42, 180, 0, 7, 27, 51, 84, 132, 1, 1, 167, 255, 233]
abbrev dktX3_takeTape_1 : List UInt8 := dkwX3_takeTape_1 ++ dktX3_takeTape_2
def dkwX3_takeTape_0 : List UInt8 := [42, 3, 181, 0, 175, 42, 2, 181, 0, 16, 42, 42, 180, 1, 38, 181, 0, 172, 3, 60, 27, 42]
abbrev dktX3_takeTape_0 : List UInt8 := dkwX3_takeTape_0 ++ dktX3_takeTape_1
theorem dksX3_takeTape_0 : cX3_takeTape.data.toList.drop 0 = dktX3_takeTape_0 := by decide +kernel
theorem dksX3_takeTape_1 : cX3_takeTape.data.toList.drop 22 = dktX3_takeTape_1 := dk_seg dksX3_takeTape_0 22 rfl rfl
theorem dksX3_takeTape_2 : cX3_takeTape.data.toList.drop 46 = dktX3_takeTape_2 := dk_seg dksX3_takeTape_1 24 rfl rfl
theorem dX3_takeTape_0 : decode cX3_takeTape 0 = .ok (.aload_n 0, 1) := dk_42 (dk_at dksX3_takeTape_0 0 rfl rfl)
theorem dX3_takeTape_1 : decode cX3_takeTape 1 = .ok (.iconst 0, 1) := dk_3 (dk_at dksX3_takeTape_0 1 rfl rfl)
theorem dX3_takeTape_2 : decode cX3_takeTape 2 = .ok (.putfield 175, 3) := dk_181 0 175 (dk_at dksX3_takeTape_0 2 rfl rfl)
theorem dX3_takeTape_5 : decode cX3_takeTape 5 = .ok (.aload_n 0, 1) := dk_42 (dk_at dksX3_takeTape_0 5 rfl rfl)
theorem dX3_takeTape_6 : decode cX3_takeTape 6 = .ok (.iconst (-1), 1) := dk_2 (dk_at dksX3_takeTape_0 6 rfl rfl)
theorem dX3_takeTape_7 : decode cX3_takeTape 7 = .ok (.putfield 16, 3) := dk_181 0 16 (dk_at dksX3_takeTape_0 7 rfl rfl)
theorem dX3_takeTape_10 : decode cX3_takeTape 10 = .ok (.aload_n 0, 1) := dk_42 (dk_at dksX3_takeTape_0 10 rfl rfl)
theorem dX3_takeTape_11 : decode cX3_takeTape 11 = .ok (.aload_n 0, 1) := dk_42 (dk_at dksX3_takeTape_0 11 rfl rfl)
theorem dX3_takeTape_12 : decode cX3_takeTape 12 = .ok (.getfield 294, 3) := dk_180 1 38 (dk_at dksX3_takeTape_0 12 rfl rfl)
theorem dX3_takeTape_15 : decode cX3_takeTape 15 = .ok (.putfield 172, 3) := dk_181 0 172 (dk_at dksX3_takeTape_0 15 rfl rfl)
theorem dX3_takeTape_18 : decode cX3_takeTape 18 = .ok (.iconst 0, 1) := dk_3 (dk_at dksX3_takeTape_0 18 rfl rfl)
theorem dX3_takeTape_19 : decode cX3_takeTape 19 = .ok (.istore_n 1, 1) := dk_60 (dk_at dksX3_takeTape_0 19 rfl rfl)
theorem dX3_takeTape_20 : decode cX3_takeTape 20 = .ok (.iload_n 1, 1) := dk_27 (dk_at dksX3_takeTape_0 20 rfl rfl)
theorem dX3_takeTape_21 : decode cX3_takeTape 21 = .ok (.aload_n 0, 1) := dk_42 (dk_at dksX3_takeTape_0 21 rfl rfl)
theorem dX3_takeTape_22 : decode cX3_takeTape 22 = .ok (.getfield 172, 3) := dk_180 0 172 (dk_at dksX3_takeTape_1 0 rfl rfl)
theorem dX3_takeTape_25 : decode cX3_takeTape 25 = .ok (.if_icmp .ge 21, 3) := dk_162 0 21 (dk_at dksX3_takeTape_1 3 rfl rfl)
theorem dX3_takeTape_28 : decode cX3_takeTape 28 = .ok (.aload_n 0, 1) := dk_42 (dk_at dksX3_takeTape_1 6 rfl rfl)
theorem dX3_takeTape_29 : decode cX3_takeTape 29 = .ok (.getfield 13, 3) := dk_180 0 13 (dk_at dksX3_takeTape_1 7 rfl rfl)
theorem dX3_takeTape_32 : decode cX3_takeTape 32 = .ok (.iload_n 1, 1) := dk_27 (dk_at dksX3_takeTape_1 10 rfl rfl)
theorem dX3_takeTape_33 : decode cX3_takeTape 33 = .ok (.aload_n 0, 1) := dk_42 (dk_at dksX3_takeTape_1 11 rfl rfl)
theorem dX3_takeTape_34 : decode cX3_takeTape 34 = .ok (.getfield 7, 3) := dk_180 0 7 (dk_at dksX3_takeTape_1 12 rfl rfl)
theorem dX3_takeTape_37 : decode cX3_takeTape 37 = .ok (.iload_n 1, 1) := dk_27 (dk_at dksX3_takeTape_1 15 rfl rfl)
theorem dX3_takeTape_38 : decode cX3_takeTape 38 = .ok (.baload, 1) := dk_51 (dk_at dksX3_takeTape_1 16 rfl rfl)
theorem dX3_takeTape_39 : decode cX3_takeTape 39 = .ok (.bastore, 1) := dk_84 (dk_at dksX3_takeTape_1 17 rfl rfl)
theorem dX3_takeTape_40 : decode cX3_takeTape 40 = .ok (.iinc 1 1, 3) := dk_132 1 1 (dk_at dksX3_takeTape_1 18 rfl rfl)
theorem dX3_takeTape_43 : decode cX3_takeTape 43 = .ok (.goto (-23), 3) := dk_167 255 233 (dk_at dksX3_takeTape_1 21 rfl rfl)
theorem dX3_takeTape_46 : decode cX3_takeTape 46 = .ok (.aload_n 0, 1) := dk_42 (dk_at dksX3_takeTape_2 0 rfl rfl)
theorem dX3_takeTape_47 : decode cX3_takeTape 47 = .ok (.iconst 0, 1) := dk_3 (dk_at dksX3_takeTape_2 1 rfl rfl)
theorem dX3_takeTape_48 : decode cX3_takeTape 48 = .ok (.putfield 294, 3) := dk_181 1 38 (dk_at dksX3_takeTape_2 2 rfl rfl)
theorem dX3_takeTape_51 : decode cX3_takeTape 51 = .ok (.aload_n 0, 1) := dk_42 (dk_at dksX3_takeTape_2 5 rfl rfl)
theorem dX3_takeTape_52 : decode cX3_takeTape 52 = .ok (.iconst 0, 1) := dk_3 (dk_at dksX3_takeTape_2 6 rfl rfl)
theorem dX3_takeTape_53 : decode cX3_takeTape 53 = .ok (.putfield 246, 3) := dk_181 0 246 (dk_at dksX3_takeTape_2 7 rfl rfl)
theorem dX3_takeTape_56 : decode cX3_takeTape 56 = .ok (.return_, 1) := dk_177 (dk_at dksX3_takeTape_2 10 rfl rfl)
abbrev cX3_tanks : ByteArray := prog_24_method_77_code
def dkwX3_tanks_0 : List UInt8 := [42, 180, 0, 33, 42, 180, 1, 44, 46, 172]
abbrev dktX3_tanks_0 : List UInt8 := dkwX3_tanks_0 ++ []
theorem dksX3_tanks_0 : cX3_tanks.data.toList.drop 0 = dktX3_tanks_0 := by decide +kernel
theorem dX3_tanks_0 : decode cX3_tanks 0 = .ok (.aload_n 0, 1) := dk_42 (dk_at dksX3_tanks_0 0 rfl rfl)
theorem dX3_tanks_1 : decode cX3_tanks 1 = .ok (.getfield 33, 3) := dk_180 0 33 (dk_at dksX3_tanks_0 1 rfl rfl)
theorem dX3_tanks_4 : decode cX3_tanks 4 = .ok (.aload_n 0, 1) := dk_42 (dk_at dksX3_tanks_0 4 rfl rfl)
theorem dX3_tanks_5 : decode cX3_tanks 5 = .ok (.getfield 300, 3) := dk_180 1 44 (dk_at dksX3_tanks_0 5 rfl rfl)
theorem dX3_tanks_8 : decode cX3_tanks 8 = .ok (.iaload, 1) := dk_46 (dk_at dksX3_tanks_0 8 rfl rfl)
theorem dX3_tanks_9 : decode cX3_tanks 9 = .ok (.ireturn, 1) := dk_172 (dk_at dksX3_tanks_0 9 rfl rfl)
abbrev cX3_tell : ByteArray := prog_24_method_59_code
def dkwX3_tell_3 : List UInt8 := [96, 181, 1, 53, 42, 180, 1, 53, 4, 100, 172]
abbrev dktX3_tell_3 : List UInt8 := dkwX3_tell_3 ++ []
def dkwX3_tell_2 : List UInt8 := [180, 1, 53, 42, 180, 1, 236, 79, 42, 180, 0, 122, 42, 180, 1, 53, 2, 79, 42, 89, 180, 1, 53, 4]
abbrev dktX3_tell_2 : List UInt8 := dkwX3_tell_2 ++ dktX3_tell_3
def dkwX3_tell_1 : List UInt8 := [180, 0, 113, 42, 180, 1, 53, 28, 79, 42, 180, 0, 116, 42, 180, 1, 53, 29, 79, 42, 180, 0, 119, 42]
abbrev dktX3_tell_1 : List UInt8 := dkwX3_tell_1 ++ dktX3_tell_2
def dkwX3_tell_0 : List UInt8 := [42, 180, 1, 53, 17, 0, 200, 160, 0, 5, 2, 172, 42, 180, 0, 110, 42, 180, 1, 53, 27, 79, 42]
abbrev dktX3_tell_0 : List UInt8 := dkwX3_tell_0 ++ dktX3_tell_1
theorem dksX3_tell_0 : cX3_tell.data.toList.drop 0 = dktX3_tell_0 := by decide +kernel
theorem dksX3_tell_1 : cX3_tell.data.toList.drop 23 = dktX3_tell_1 := dk_seg dksX3_tell_0 23 rfl rfl
theorem dksX3_tell_2 : cX3_tell.data.toList.drop 47 = dktX3_tell_2 := dk_seg dksX3_tell_1 24 rfl rfl
theorem dksX3_tell_3 : cX3_tell.data.toList.drop 71 = dktX3_tell_3 := dk_seg dksX3_tell_2 24 rfl rfl
theorem dX3_tell_0 : decode cX3_tell 0 = .ok (.aload_n 0, 1) := dk_42 (dk_at dksX3_tell_0 0 rfl rfl)
theorem dX3_tell_1 : decode cX3_tell 1 = .ok (.getfield 309, 3) := dk_180 1 53 (dk_at dksX3_tell_0 1 rfl rfl)
theorem dX3_tell_4 : decode cX3_tell 4 = .ok (.sipush 200, 3) := dk_17 0 200 (dk_at dksX3_tell_0 4 rfl rfl)
theorem dX3_tell_7 : decode cX3_tell 7 = .ok (.if_icmp .ne 5, 3) := dk_160 0 5 (dk_at dksX3_tell_0 7 rfl rfl)
theorem dX3_tell_10 : decode cX3_tell 10 = .ok (.iconst (-1), 1) := dk_2 (dk_at dksX3_tell_0 10 rfl rfl)
theorem dX3_tell_11 : decode cX3_tell 11 = .ok (.ireturn, 1) := dk_172 (dk_at dksX3_tell_0 11 rfl rfl)
theorem dX3_tell_12 : decode cX3_tell 12 = .ok (.aload_n 0, 1) := dk_42 (dk_at dksX3_tell_0 12 rfl rfl)
theorem dX3_tell_13 : decode cX3_tell 13 = .ok (.getfield 110, 3) := dk_180 0 110 (dk_at dksX3_tell_0 13 rfl rfl)
theorem dX3_tell_16 : decode cX3_tell 16 = .ok (.aload_n 0, 1) := dk_42 (dk_at dksX3_tell_0 16 rfl rfl)
theorem dX3_tell_17 : decode cX3_tell 17 = .ok (.getfield 309, 3) := dk_180 1 53 (dk_at dksX3_tell_0 17 rfl rfl)
theorem dX3_tell_20 : decode cX3_tell 20 = .ok (.iload_n 1, 1) := dk_27 (dk_at dksX3_tell_0 20 rfl rfl)
theorem dX3_tell_21 : decode cX3_tell 21 = .ok (.iastore, 1) := dk_79 (dk_at dksX3_tell_0 21 rfl rfl)
theorem dX3_tell_22 : decode cX3_tell 22 = .ok (.aload_n 0, 1) := dk_42 (dk_at dksX3_tell_0 22 rfl rfl)
theorem dX3_tell_23 : decode cX3_tell 23 = .ok (.getfield 113, 3) := dk_180 0 113 (dk_at dksX3_tell_1 0 rfl rfl)
theorem dX3_tell_26 : decode cX3_tell 26 = .ok (.aload_n 0, 1) := dk_42 (dk_at dksX3_tell_1 3 rfl rfl)
theorem dX3_tell_27 : decode cX3_tell 27 = .ok (.getfield 309, 3) := dk_180 1 53 (dk_at dksX3_tell_1 4 rfl rfl)
theorem dX3_tell_30 : decode cX3_tell 30 = .ok (.iload_n 2, 1) := dk_28 (dk_at dksX3_tell_1 7 rfl rfl)
theorem dX3_tell_31 : decode cX3_tell 31 = .ok (.iastore, 1) := dk_79 (dk_at dksX3_tell_1 8 rfl rfl)
theorem dX3_tell_32 : decode cX3_tell 32 = .ok (.aload_n 0, 1) := dk_42 (dk_at dksX3_tell_1 9 rfl rfl)
theorem dX3_tell_33 : decode cX3_tell 33 = .ok (.getfield 116, 3) := dk_180 0 116 (dk_at dksX3_tell_1 10 rfl rfl)
theorem dX3_tell_36 : decode cX3_tell 36 = .ok (.aload_n 0, 1) := dk_42 (dk_at dksX3_tell_1 13 rfl rfl)
theorem dX3_tell_37 : decode cX3_tell 37 = .ok (.getfield 309, 3) := dk_180 1 53 (dk_at dksX3_tell_1 14 rfl rfl)
theorem dX3_tell_40 : decode cX3_tell 40 = .ok (.iload_n 3, 1) := dk_29 (dk_at dksX3_tell_1 17 rfl rfl)
theorem dX3_tell_41 : decode cX3_tell 41 = .ok (.iastore, 1) := dk_79 (dk_at dksX3_tell_1 18 rfl rfl)
theorem dX3_tell_42 : decode cX3_tell 42 = .ok (.aload_n 0, 1) := dk_42 (dk_at dksX3_tell_1 19 rfl rfl)
theorem dX3_tell_43 : decode cX3_tell 43 = .ok (.getfield 119, 3) := dk_180 0 119 (dk_at dksX3_tell_1 20 rfl rfl)
theorem dX3_tell_46 : decode cX3_tell 46 = .ok (.aload_n 0, 1) := dk_42 (dk_at dksX3_tell_1 23 rfl rfl)
theorem dX3_tell_47 : decode cX3_tell 47 = .ok (.getfield 309, 3) := dk_180 1 53 (dk_at dksX3_tell_2 0 rfl rfl)
theorem dX3_tell_50 : decode cX3_tell 50 = .ok (.aload_n 0, 1) := dk_42 (dk_at dksX3_tell_2 3 rfl rfl)
theorem dX3_tell_51 : decode cX3_tell 51 = .ok (.getfield 492, 3) := dk_180 1 236 (dk_at dksX3_tell_2 4 rfl rfl)
theorem dX3_tell_54 : decode cX3_tell 54 = .ok (.iastore, 1) := dk_79 (dk_at dksX3_tell_2 7 rfl rfl)
theorem dX3_tell_55 : decode cX3_tell 55 = .ok (.aload_n 0, 1) := dk_42 (dk_at dksX3_tell_2 8 rfl rfl)
theorem dX3_tell_56 : decode cX3_tell 56 = .ok (.getfield 122, 3) := dk_180 0 122 (dk_at dksX3_tell_2 9 rfl rfl)
theorem dX3_tell_59 : decode cX3_tell 59 = .ok (.aload_n 0, 1) := dk_42 (dk_at dksX3_tell_2 12 rfl rfl)
theorem dX3_tell_60 : decode cX3_tell 60 = .ok (.getfield 309, 3) := dk_180 1 53 (dk_at dksX3_tell_2 13 rfl rfl)
theorem dX3_tell_63 : decode cX3_tell 63 = .ok (.iconst (-1), 1) := dk_2 (dk_at dksX3_tell_2 16 rfl rfl)
theorem dX3_tell_64 : decode cX3_tell 64 = .ok (.iastore, 1) := dk_79 (dk_at dksX3_tell_2 17 rfl rfl)
theorem dX3_tell_65 : decode cX3_tell 65 = .ok (.aload_n 0, 1) := dk_42 (dk_at dksX3_tell_2 18 rfl rfl)
theorem dX3_tell_66 : decode cX3_tell 66 = .ok (.dup, 1) := dk_89 (dk_at dksX3_tell_2 19 rfl rfl)
theorem dX3_tell_67 : decode cX3_tell 67 = .ok (.getfield 309, 3) := dk_180 1 53 (dk_at dksX3_tell_2 20 rfl rfl)
theorem dX3_tell_70 : decode cX3_tell 70 = .ok (.iconst 1, 1) := dk_4 (dk_at dksX3_tell_2 23 rfl rfl)
theorem dX3_tell_71 : decode cX3_tell 71 = .ok (.iadd, 1) := dk_96 (dk_at dksX3_tell_3 0 rfl rfl)
theorem dX3_tell_72 : decode cX3_tell 72 = .ok (.putfield 309, 3) := dk_181 1 53 (dk_at dksX3_tell_3 1 rfl rfl)
theorem dX3_tell_75 : decode cX3_tell 75 = .ok (.aload_n 0, 1) := dk_42 (dk_at dksX3_tell_3 4 rfl rfl)
theorem dX3_tell_76 : decode cX3_tell 76 = .ok (.getfield 309, 3) := dk_180 1 53 (dk_at dksX3_tell_3 5 rfl rfl)
theorem dX3_tell_79 : decode cX3_tell 79 = .ok (.iconst 1, 1) := dk_4 (dk_at dksX3_tell_3 8 rfl rfl)
theorem dX3_tell_80 : decode cX3_tell 80 = .ok (.isub, 1) := dk_100 (dk_at dksX3_tell_3 9 rfl rfl)
theorem dX3_tell_81 : decode cX3_tell 81 = .ok (.ireturn, 1) := dk_172 (dk_at dksX3_tell_3 10 rfl rfl)
abbrev cX3_term : ByteArray := prog_24_method_51_code
def dkwX3_term_4 : List UInt8 := [42, 180, 1, 210, 172, 42, 180, 1, 213, 172]
abbrev dktX3_term_4 : List UInt8 := dkwX3_term_4 ++ []
def dkwX3_term_3 : List UInt8 := [180, 1, 195, 172, 42, 180, 1, 198, 172, 42, 180, 1, 201, 172, 42, 180, 1, 204, 172, 42, 180, 1, 207, 172]
abbrev dktX3_term_3 : List UInt8 := dkwX3_term_3 ++ dktX3_term_4
def dkwX3_term_2 : List UInt8 := [28, 172, 42, 180, 1, 183, 172, 42, 180, 1, 186, 172, 42, 180, 1, 189, 172, 42, 180, 1, 192, 172, 42]
abbrev dktX3_term_2 : List UInt8 := dkwX3_term_2 ++ dktX3_term_3
def dkwX3_term_1 : List UInt8 := [170, 0, 0, 0, 0, 0, 159, 0, 0, 0, 97, 0, 0, 0, 119, 0, 0, 0, 144, 0, 0, 0, 159, 0, 0, 0, 114, 0, 0, 0, 159, 0, 0, 0, 159, 0, 0, 0, 159, 0, 0, 0, 129, 0, 0, 0, 134, 0, 0, 0, 159, 0, 0, 0, 159, 0, 0, 0, 159, 0, 0, 0, 109, 0, 0, 0, 119, 0, 0, 0, 107, 0, 0, 0, 124, 0, 0, 0, 159, 0, 0, 0, 159, 0, 0, 0, 159, 0, 0, 0, 139, 0, 0, 0, 154, 0, 0, 0, 159, 0, 0, 0, 159, 0, 0, 0, 149]
abbrev dktX3_term_1 : List UInt8 := dkwX3_term_1 ++ dktX3_term_2
def dkwX3_term_0 : List UInt8 := [27]
abbrev dktX3_term_0 : List UInt8 := dkwX3_term_0 ++ dktX3_term_1
theorem dksX3_term_0 : cX3_term.data.toList.drop 0 = dktX3_term_0 := by decide +kernel
theorem dksX3_term_1 : cX3_term.data.toList.drop 1 = dktX3_term_1 := dk_seg dksX3_term_0 1 rfl rfl
theorem dksX3_term_2 : cX3_term.data.toList.drop 108 = dktX3_term_2 := dk_seg dksX3_term_1 107 rfl rfl
theorem dksX3_term_3 : cX3_term.data.toList.drop 131 = dktX3_term_3 := dk_seg dksX3_term_2 23 rfl rfl
theorem dksX3_term_4 : cX3_term.data.toList.drop 155 = dktX3_term_4 := dk_seg dksX3_term_3 24 rfl rfl
theorem dX3_term_0 : decode cX3_term 0 = .ok (.iload_n 1, 1) := dk_27 (dk_at dksX3_term_0 0 rfl rfl)
theorem dX3_term_1 : decode cX3_term 1 = .ok (.tableswitch 159 97 119 #[144, 159, 114, 159, 159, 159, 129, 134, 159, 159, 159, 109, 119, 107, 124, 159, 159, 159, 139, 154, 159, 159, 149], 107) := by decide +kernel
theorem dX3_term_108 : decode cX3_term 108 = .ok (.iload_n 2, 1) := dk_28 (dk_at dksX3_term_2 0 rfl rfl)
theorem dX3_term_109 : decode cX3_term 109 = .ok (.ireturn, 1) := dk_172 (dk_at dksX3_term_2 1 rfl rfl)
theorem dX3_term_110 : decode cX3_term 110 = .ok (.aload_n 0, 1) := dk_42 (dk_at dksX3_term_2 2 rfl rfl)
theorem dX3_term_111 : decode cX3_term 111 = .ok (.getfield 439, 3) := dk_180 1 183 (dk_at dksX3_term_2 3 rfl rfl)
theorem dX3_term_114 : decode cX3_term 114 = .ok (.ireturn, 1) := dk_172 (dk_at dksX3_term_2 6 rfl rfl)
theorem dX3_term_115 : decode cX3_term 115 = .ok (.aload_n 0, 1) := dk_42 (dk_at dksX3_term_2 7 rfl rfl)
theorem dX3_term_116 : decode cX3_term 116 = .ok (.getfield 442, 3) := dk_180 1 186 (dk_at dksX3_term_2 8 rfl rfl)
theorem dX3_term_119 : decode cX3_term 119 = .ok (.ireturn, 1) := dk_172 (dk_at dksX3_term_2 11 rfl rfl)
theorem dX3_term_120 : decode cX3_term 120 = .ok (.aload_n 0, 1) := dk_42 (dk_at dksX3_term_2 12 rfl rfl)
theorem dX3_term_121 : decode cX3_term 121 = .ok (.getfield 445, 3) := dk_180 1 189 (dk_at dksX3_term_2 13 rfl rfl)
theorem dX3_term_124 : decode cX3_term 124 = .ok (.ireturn, 1) := dk_172 (dk_at dksX3_term_2 16 rfl rfl)
theorem dX3_term_125 : decode cX3_term 125 = .ok (.aload_n 0, 1) := dk_42 (dk_at dksX3_term_2 17 rfl rfl)
theorem dX3_term_126 : decode cX3_term 126 = .ok (.getfield 448, 3) := dk_180 1 192 (dk_at dksX3_term_2 18 rfl rfl)
theorem dX3_term_129 : decode cX3_term 129 = .ok (.ireturn, 1) := dk_172 (dk_at dksX3_term_2 21 rfl rfl)
theorem dX3_term_130 : decode cX3_term 130 = .ok (.aload_n 0, 1) := dk_42 (dk_at dksX3_term_2 22 rfl rfl)
theorem dX3_term_131 : decode cX3_term 131 = .ok (.getfield 451, 3) := dk_180 1 195 (dk_at dksX3_term_3 0 rfl rfl)
theorem dX3_term_134 : decode cX3_term 134 = .ok (.ireturn, 1) := dk_172 (dk_at dksX3_term_3 3 rfl rfl)
theorem dX3_term_135 : decode cX3_term 135 = .ok (.aload_n 0, 1) := dk_42 (dk_at dksX3_term_3 4 rfl rfl)
theorem dX3_term_136 : decode cX3_term 136 = .ok (.getfield 454, 3) := dk_180 1 198 (dk_at dksX3_term_3 5 rfl rfl)
theorem dX3_term_139 : decode cX3_term 139 = .ok (.ireturn, 1) := dk_172 (dk_at dksX3_term_3 8 rfl rfl)
theorem dX3_term_140 : decode cX3_term 140 = .ok (.aload_n 0, 1) := dk_42 (dk_at dksX3_term_3 9 rfl rfl)
theorem dX3_term_141 : decode cX3_term 141 = .ok (.getfield 457, 3) := dk_180 1 201 (dk_at dksX3_term_3 10 rfl rfl)
theorem dX3_term_144 : decode cX3_term 144 = .ok (.ireturn, 1) := dk_172 (dk_at dksX3_term_3 13 rfl rfl)
theorem dX3_term_145 : decode cX3_term 145 = .ok (.aload_n 0, 1) := dk_42 (dk_at dksX3_term_3 14 rfl rfl)
theorem dX3_term_146 : decode cX3_term 146 = .ok (.getfield 460, 3) := dk_180 1 204 (dk_at dksX3_term_3 15 rfl rfl)
theorem dX3_term_149 : decode cX3_term 149 = .ok (.ireturn, 1) := dk_172 (dk_at dksX3_term_3 18 rfl rfl)
theorem dX3_term_150 : decode cX3_term 150 = .ok (.aload_n 0, 1) := dk_42 (dk_at dksX3_term_3 19 rfl rfl)
theorem dX3_term_151 : decode cX3_term 151 = .ok (.getfield 463, 3) := dk_180 1 207 (dk_at dksX3_term_3 20 rfl rfl)
theorem dX3_term_154 : decode cX3_term 154 = .ok (.ireturn, 1) := dk_172 (dk_at dksX3_term_3 23 rfl rfl)
theorem dX3_term_155 : decode cX3_term 155 = .ok (.aload_n 0, 1) := dk_42 (dk_at dksX3_term_4 0 rfl rfl)
theorem dX3_term_156 : decode cX3_term 156 = .ok (.getfield 466, 3) := dk_180 1 210 (dk_at dksX3_term_4 1 rfl rfl)
theorem dX3_term_159 : decode cX3_term 159 = .ok (.ireturn, 1) := dk_172 (dk_at dksX3_term_4 4 rfl rfl)
theorem dX3_term_160 : decode cX3_term 160 = .ok (.aload_n 0, 1) := dk_42 (dk_at dksX3_term_4 5 rfl rfl)
theorem dX3_term_161 : decode cX3_term 161 = .ok (.getfield 469, 3) := dk_180 1 213 (dk_at dksX3_term_4 6 rfl rfl)
theorem dX3_term_164 : decode cX3_term 164 = .ok (.ireturn, 1) := dk_172 (dk_at dksX3_term_4 9 rfl rfl)
abbrev cX3_treaty : ByteArray := prog_24_method_40_code
def dkwX3_treaty_10 : List UInt8 := [132, 2, 1, 167, 255, 201, 42, 180, 0, 83, 27, 46, 172]
abbrev dktX3_treaty_10 : List UInt8 := dkwX3_treaty_10 ++ []
def dkwX3_treaty_9 : List UInt8 := [79, 42, 180, 0, 95, 17, 2, 188, 27, 104, 28, 96, 42, 180, 0, 95, 17, 8, 52, 28, 96, 46, 79]
abbrev dktX3_treaty_9 : List UInt8 := dkwX3_treaty_9 ++ dktX3_treaty_10
def dkwX3_treaty_8 : List UInt8 := [162, 0, 53, 42, 180, 0, 92, 17, 2, 188, 27, 104, 28, 96, 42, 180, 0, 92, 17, 8, 52, 28, 96, 46]
abbrev dktX3_treaty_8 : List UInt8 := dkwX3_treaty_8 ++ dktX3_treaty_9
def dkwX3_treaty_7 : List UInt8 := [180, 0, 89, 16, 12, 28, 96, 46, 79, 132, 2, 1, 167, 255, 191, 3, 61, 28, 42, 180, 1, 138]
abbrev dktX3_treaty_7 : List UInt8 := dkwX3_treaty_7 ++ dktX3_treaty_8
def dkwX3_treaty_6 : List UInt8 := [104, 28, 96, 42, 180, 0, 86, 16, 12, 28, 96, 46, 79, 42, 180, 0, 89, 7, 27, 104, 28, 96, 42]
abbrev dktX3_treaty_6 : List UInt8 := dkwX3_treaty_6 ++ dktX3_treaty_7
def dkwX3_treaty_5 : List UInt8 := [180, 0, 107, 7, 27, 104, 28, 96, 42, 180, 0, 107, 16, 12, 28, 96, 51, 84, 42, 180, 0, 86, 7, 27]
abbrev dktX3_treaty_5 : List UInt8 := dkwX3_treaty_5 ++ dktX3_treaty_6
def dkwX3_treaty_4 : List UInt8 := [2, 172, 42, 180, 0, 83, 27, 42, 180, 0, 83, 6, 46, 79, 3, 61, 28, 7, 162, 0, 66, 42]
abbrev dktX3_treaty_4 : List UInt8 := dkwX3_treaty_4 ++ dktX3_treaty_5
def dkwX3_treaty_3 : List UInt8 := [153, 0, 17, 42, 180, 1, 0, 153, 0, 10, 42, 182, 1, 144, 167, 255, 238, 42, 182, 1, 28, 154, 0, 5]
abbrev dktX3_treaty_3 : List UInt8 := dkwX3_treaty_3 ++ dktX3_treaty_4
def dkwX3_treaty_2 : List UInt8 := [180, 0, 83, 6, 3, 79, 42, 3, 181, 1, 138, 42, 3, 181, 1, 141, 42, 182, 1, 32, 42, 182, 1, 28]
abbrev dktX3_treaty_2 : List UInt8 := dkwX3_treaty_2 ++ dktX3_treaty_3
def dkwX3_treaty_1 : List UInt8 := [3, 61, 28, 7, 162, 0, 19, 42, 180, 0, 107, 16, 12, 28, 96, 3, 84, 132, 2, 1, 167, 255, 238, 42]
abbrev dktX3_treaty_1 : List UInt8 := dkwX3_treaty_1 ++ dktX3_treaty_2
def dkwX3_treaty_0 : List UInt8 := [42, 180, 1, 38, 17, 2, 188, 163, 0, 10, 27, 184, 1, 135, 154, 0, 6, 16, 254, 172, 42, 182, 1, 41]
abbrev dktX3_treaty_0 : List UInt8 := dkwX3_treaty_0 ++ dktX3_treaty_1
theorem dksX3_treaty_0 : cX3_treaty.data.toList.drop 0 = dktX3_treaty_0 := by decide +kernel
theorem dksX3_treaty_1 : cX3_treaty.data.toList.drop 24 = dktX3_treaty_1 := dk_seg dksX3_treaty_0 24 rfl rfl
theorem dksX3_treaty_2 : cX3_treaty.data.toList.drop 48 = dktX3_treaty_2 := dk_seg dksX3_treaty_1 24 rfl rfl
theorem dksX3_treaty_3 : cX3_treaty.data.toList.drop 72 = dktX3_treaty_3 := dk_seg dksX3_treaty_2 24 rfl rfl
theorem dksX3_treaty_4 : cX3_treaty.data.toList.drop 96 = dktX3_treaty_4 := dk_seg dksX3_treaty_3 24 rfl rfl
theorem dksX3_treaty_5 : cX3_treaty.data.toList.drop 118 = dktX3_treaty_5 := dk_seg dksX3_treaty_4 22 rfl rfl
theorem dksX3_treaty_6 : cX3_treaty.data.toList.drop 142 = dktX3_treaty_6 := dk_seg dksX3_treaty_5 24 rfl rfl
theorem dksX3_treaty_7 : cX3_treaty.data.toList.drop 165 = dktX3_treaty_7 := dk_seg dksX3_treaty_6 23 rfl rfl
theorem dksX3_treaty_8 : cX3_treaty.data.toList.drop 187 = dktX3_treaty_8 := dk_seg dksX3_treaty_7 22 rfl rfl
theorem dksX3_treaty_9 : cX3_treaty.data.toList.drop 211 = dktX3_treaty_9 := dk_seg dksX3_treaty_8 24 rfl rfl
theorem dksX3_treaty_10 : cX3_treaty.data.toList.drop 234 = dktX3_treaty_10 := dk_seg dksX3_treaty_9 23 rfl rfl
theorem dX3_treaty_0 : decode cX3_treaty 0 = .ok (.aload_n 0, 1) := dk_42 (dk_at dksX3_treaty_0 0 rfl rfl)
theorem dX3_treaty_1 : decode cX3_treaty 1 = .ok (.getfield 294, 3) := dk_180 1 38 (dk_at dksX3_treaty_0 1 rfl rfl)
theorem dX3_treaty_4 : decode cX3_treaty 4 = .ok (.sipush 700, 3) := dk_17 2 188 (dk_at dksX3_treaty_0 4 rfl rfl)
theorem dX3_treaty_7 : decode cX3_treaty 7 = .ok (.if_icmp .gt 10, 3) := dk_163 0 10 (dk_at dksX3_treaty_0 7 rfl rfl)
theorem dX3_treaty_10 : decode cX3_treaty 10 = .ok (.iload_n 1, 1) := dk_27 (dk_at dksX3_treaty_0 10 rfl rfl)
theorem dX3_treaty_11 : decode cX3_treaty 11 = .ok (.invokestatic 391, 3) := dk_184 1 135 (dk_at dksX3_treaty_0 11 rfl rfl)
theorem dX3_treaty_14 : decode cX3_treaty 14 = .ok (.ifCond .ne 6, 3) := dk_154 0 6 (dk_at dksX3_treaty_0 14 rfl rfl)
theorem dX3_treaty_17 : decode cX3_treaty 17 = .ok (.bipush (-2), 2) := dk_16 254 (dk_at dksX3_treaty_0 17 rfl rfl)
theorem dX3_treaty_19 : decode cX3_treaty 19 = .ok (.ireturn, 1) := dk_172 (dk_at dksX3_treaty_0 19 rfl rfl)
theorem dX3_treaty_20 : decode cX3_treaty 20 = .ok (.aload_n 0, 1) := dk_42 (dk_at dksX3_treaty_0 20 rfl rfl)
theorem dX3_treaty_21 : decode cX3_treaty 21 = .ok (.invokevirtual 297, 3) := dk_182 1 41 (dk_at dksX3_treaty_0 21 rfl rfl)
theorem dX3_treaty_24 : decode cX3_treaty 24 = .ok (.iconst 0, 1) := dk_3 (dk_at dksX3_treaty_1 0 rfl rfl)
theorem dX3_treaty_25 : decode cX3_treaty 25 = .ok (.istore_n 2, 1) := dk_61 (dk_at dksX3_treaty_1 1 rfl rfl)
theorem dX3_treaty_26 : decode cX3_treaty 26 = .ok (.iload_n 2, 1) := dk_28 (dk_at dksX3_treaty_1 2 rfl rfl)
theorem dX3_treaty_27 : decode cX3_treaty 27 = .ok (.iconst 4, 1) := dk_7 (dk_at dksX3_treaty_1 3 rfl rfl)
theorem dX3_treaty_28 : decode cX3_treaty 28 = .ok (.if_icmp .ge 19, 3) := dk_162 0 19 (dk_at dksX3_treaty_1 4 rfl rfl)
theorem dX3_treaty_31 : decode cX3_treaty 31 = .ok (.aload_n 0, 1) := dk_42 (dk_at dksX3_treaty_1 7 rfl rfl)
theorem dX3_treaty_32 : decode cX3_treaty 32 = .ok (.getfield 107, 3) := dk_180 0 107 (dk_at dksX3_treaty_1 8 rfl rfl)
theorem dX3_treaty_35 : decode cX3_treaty 35 = .ok (.bipush 12, 2) := dk_16 12 (dk_at dksX3_treaty_1 11 rfl rfl)
theorem dX3_treaty_37 : decode cX3_treaty 37 = .ok (.iload_n 2, 1) := dk_28 (dk_at dksX3_treaty_1 13 rfl rfl)
theorem dX3_treaty_38 : decode cX3_treaty 38 = .ok (.iadd, 1) := dk_96 (dk_at dksX3_treaty_1 14 rfl rfl)
theorem dX3_treaty_39 : decode cX3_treaty 39 = .ok (.iconst 0, 1) := dk_3 (dk_at dksX3_treaty_1 15 rfl rfl)
theorem dX3_treaty_40 : decode cX3_treaty 40 = .ok (.bastore, 1) := dk_84 (dk_at dksX3_treaty_1 16 rfl rfl)
theorem dX3_treaty_41 : decode cX3_treaty 41 = .ok (.iinc 2 1, 3) := dk_132 2 1 (dk_at dksX3_treaty_1 17 rfl rfl)
theorem dX3_treaty_44 : decode cX3_treaty 44 = .ok (.goto (-18), 3) := dk_167 255 238 (dk_at dksX3_treaty_1 20 rfl rfl)
theorem dX3_treaty_47 : decode cX3_treaty 47 = .ok (.aload_n 0, 1) := dk_42 (dk_at dksX3_treaty_1 23 rfl rfl)
theorem dX3_treaty_48 : decode cX3_treaty 48 = .ok (.getfield 83, 3) := dk_180 0 83 (dk_at dksX3_treaty_2 0 rfl rfl)
theorem dX3_treaty_51 : decode cX3_treaty 51 = .ok (.iconst 3, 1) := dk_6 (dk_at dksX3_treaty_2 3 rfl rfl)
theorem dX3_treaty_52 : decode cX3_treaty 52 = .ok (.iconst 0, 1) := dk_3 (dk_at dksX3_treaty_2 4 rfl rfl)
theorem dX3_treaty_53 : decode cX3_treaty 53 = .ok (.iastore, 1) := dk_79 (dk_at dksX3_treaty_2 5 rfl rfl)
theorem dX3_treaty_54 : decode cX3_treaty 54 = .ok (.aload_n 0, 1) := dk_42 (dk_at dksX3_treaty_2 6 rfl rfl)
theorem dX3_treaty_55 : decode cX3_treaty 55 = .ok (.iconst 0, 1) := dk_3 (dk_at dksX3_treaty_2 7 rfl rfl)
theorem dX3_treaty_56 : decode cX3_treaty 56 = .ok (.putfield 394, 3) := dk_181 1 138 (dk_at dksX3_treaty_2 8 rfl rfl)
theorem dX3_treaty_59 : decode cX3_treaty 59 = .ok (.aload_n 0, 1) := dk_42 (dk_at dksX3_treaty_2 11 rfl rfl)
theorem dX3_treaty_60 : decode cX3_treaty 60 = .ok (.iconst 0, 1) := dk_3 (dk_at dksX3_treaty_2 12 rfl rfl)
theorem dX3_treaty_61 : decode cX3_treaty 61 = .ok (.putfield 397, 3) := dk_181 1 141 (dk_at dksX3_treaty_2 13 rfl rfl)
theorem dX3_treaty_64 : decode cX3_treaty 64 = .ok (.aload_n 0, 1) := dk_42 (dk_at dksX3_treaty_2 16 rfl rfl)
theorem dX3_treaty_65 : decode cX3_treaty 65 = .ok (.invokevirtual 288, 3) := dk_182 1 32 (dk_at dksX3_treaty_2 17 rfl rfl)
theorem dX3_treaty_68 : decode cX3_treaty 68 = .ok (.aload_n 0, 1) := dk_42 (dk_at dksX3_treaty_2 20 rfl rfl)
theorem dX3_treaty_69 : decode cX3_treaty 69 = .ok (.invokevirtual 284, 3) := dk_182 1 28 (dk_at dksX3_treaty_2 21 rfl rfl)
theorem dX3_treaty_72 : decode cX3_treaty 72 = .ok (.ifCond .eq 17, 3) := dk_153 0 17 (dk_at dksX3_treaty_3 0 rfl rfl)
theorem dX3_treaty_75 : decode cX3_treaty 75 = .ok (.aload_n 0, 1) := dk_42 (dk_at dksX3_treaty_3 3 rfl rfl)
theorem dX3_treaty_76 : decode cX3_treaty 76 = .ok (.getfield 256, 3) := dk_180 1 0 (dk_at dksX3_treaty_3 4 rfl rfl)
theorem dX3_treaty_79 : decode cX3_treaty 79 = .ok (.ifCond .eq 10, 3) := dk_153 0 10 (dk_at dksX3_treaty_3 7 rfl rfl)
theorem dX3_treaty_82 : decode cX3_treaty 82 = .ok (.aload_n 0, 1) := dk_42 (dk_at dksX3_treaty_3 10 rfl rfl)
theorem dX3_treaty_83 : decode cX3_treaty 83 = .ok (.invokevirtual 400, 3) := dk_182 1 144 (dk_at dksX3_treaty_3 11 rfl rfl)
theorem dX3_treaty_86 : decode cX3_treaty 86 = .ok (.goto (-18), 3) := dk_167 255 238 (dk_at dksX3_treaty_3 14 rfl rfl)
theorem dX3_treaty_89 : decode cX3_treaty 89 = .ok (.aload_n 0, 1) := dk_42 (dk_at dksX3_treaty_3 17 rfl rfl)
theorem dX3_treaty_90 : decode cX3_treaty 90 = .ok (.invokevirtual 284, 3) := dk_182 1 28 (dk_at dksX3_treaty_3 18 rfl rfl)
theorem dX3_treaty_93 : decode cX3_treaty 93 = .ok (.ifCond .ne 5, 3) := dk_154 0 5 (dk_at dksX3_treaty_3 21 rfl rfl)
theorem dX3_treaty_96 : decode cX3_treaty 96 = .ok (.iconst (-1), 1) := dk_2 (dk_at dksX3_treaty_4 0 rfl rfl)
theorem dX3_treaty_97 : decode cX3_treaty 97 = .ok (.ireturn, 1) := dk_172 (dk_at dksX3_treaty_4 1 rfl rfl)
theorem dX3_treaty_98 : decode cX3_treaty 98 = .ok (.aload_n 0, 1) := dk_42 (dk_at dksX3_treaty_4 2 rfl rfl)
theorem dX3_treaty_99 : decode cX3_treaty 99 = .ok (.getfield 83, 3) := dk_180 0 83 (dk_at dksX3_treaty_4 3 rfl rfl)
theorem dX3_treaty_102 : decode cX3_treaty 102 = .ok (.iload_n 1, 1) := dk_27 (dk_at dksX3_treaty_4 6 rfl rfl)
theorem dX3_treaty_103 : decode cX3_treaty 103 = .ok (.aload_n 0, 1) := dk_42 (dk_at dksX3_treaty_4 7 rfl rfl)
theorem dX3_treaty_104 : decode cX3_treaty 104 = .ok (.getfield 83, 3) := dk_180 0 83 (dk_at dksX3_treaty_4 8 rfl rfl)
theorem dX3_treaty_107 : decode cX3_treaty 107 = .ok (.iconst 3, 1) := dk_6 (dk_at dksX3_treaty_4 11 rfl rfl)
theorem dX3_treaty_108 : decode cX3_treaty 108 = .ok (.iaload, 1) := dk_46 (dk_at dksX3_treaty_4 12 rfl rfl)
theorem dX3_treaty_109 : decode cX3_treaty 109 = .ok (.iastore, 1) := dk_79 (dk_at dksX3_treaty_4 13 rfl rfl)
theorem dX3_treaty_110 : decode cX3_treaty 110 = .ok (.iconst 0, 1) := dk_3 (dk_at dksX3_treaty_4 14 rfl rfl)
theorem dX3_treaty_111 : decode cX3_treaty 111 = .ok (.istore_n 2, 1) := dk_61 (dk_at dksX3_treaty_4 15 rfl rfl)
theorem dX3_treaty_112 : decode cX3_treaty 112 = .ok (.iload_n 2, 1) := dk_28 (dk_at dksX3_treaty_4 16 rfl rfl)
theorem dX3_treaty_113 : decode cX3_treaty 113 = .ok (.iconst 4, 1) := dk_7 (dk_at dksX3_treaty_4 17 rfl rfl)
theorem dX3_treaty_114 : decode cX3_treaty 114 = .ok (.if_icmp .ge 66, 3) := dk_162 0 66 (dk_at dksX3_treaty_4 18 rfl rfl)
theorem dX3_treaty_117 : decode cX3_treaty 117 = .ok (.aload_n 0, 1) := dk_42 (dk_at dksX3_treaty_4 21 rfl rfl)
theorem dX3_treaty_118 : decode cX3_treaty 118 = .ok (.getfield 107, 3) := dk_180 0 107 (dk_at dksX3_treaty_5 0 rfl rfl)
theorem dX3_treaty_121 : decode cX3_treaty 121 = .ok (.iconst 4, 1) := dk_7 (dk_at dksX3_treaty_5 3 rfl rfl)
theorem dX3_treaty_122 : decode cX3_treaty 122 = .ok (.iload_n 1, 1) := dk_27 (dk_at dksX3_treaty_5 4 rfl rfl)
theorem dX3_treaty_123 : decode cX3_treaty 123 = .ok (.imul, 1) := dk_104 (dk_at dksX3_treaty_5 5 rfl rfl)
theorem dX3_treaty_124 : decode cX3_treaty 124 = .ok (.iload_n 2, 1) := dk_28 (dk_at dksX3_treaty_5 6 rfl rfl)
theorem dX3_treaty_125 : decode cX3_treaty 125 = .ok (.iadd, 1) := dk_96 (dk_at dksX3_treaty_5 7 rfl rfl)
theorem dX3_treaty_126 : decode cX3_treaty 126 = .ok (.aload_n 0, 1) := dk_42 (dk_at dksX3_treaty_5 8 rfl rfl)
theorem dX3_treaty_127 : decode cX3_treaty 127 = .ok (.getfield 107, 3) := dk_180 0 107 (dk_at dksX3_treaty_5 9 rfl rfl)
theorem dX3_treaty_130 : decode cX3_treaty 130 = .ok (.bipush 12, 2) := dk_16 12 (dk_at dksX3_treaty_5 12 rfl rfl)
theorem dX3_treaty_132 : decode cX3_treaty 132 = .ok (.iload_n 2, 1) := dk_28 (dk_at dksX3_treaty_5 14 rfl rfl)
theorem dX3_treaty_133 : decode cX3_treaty 133 = .ok (.iadd, 1) := dk_96 (dk_at dksX3_treaty_5 15 rfl rfl)
theorem dX3_treaty_134 : decode cX3_treaty 134 = .ok (.baload, 1) := dk_51 (dk_at dksX3_treaty_5 16 rfl rfl)
theorem dX3_treaty_135 : decode cX3_treaty 135 = .ok (.bastore, 1) := dk_84 (dk_at dksX3_treaty_5 17 rfl rfl)
theorem dX3_treaty_136 : decode cX3_treaty 136 = .ok (.aload_n 0, 1) := dk_42 (dk_at dksX3_treaty_5 18 rfl rfl)
theorem dX3_treaty_137 : decode cX3_treaty 137 = .ok (.getfield 86, 3) := dk_180 0 86 (dk_at dksX3_treaty_5 19 rfl rfl)
theorem dX3_treaty_140 : decode cX3_treaty 140 = .ok (.iconst 4, 1) := dk_7 (dk_at dksX3_treaty_5 22 rfl rfl)
theorem dX3_treaty_141 : decode cX3_treaty 141 = .ok (.iload_n 1, 1) := dk_27 (dk_at dksX3_treaty_5 23 rfl rfl)
theorem dX3_treaty_142 : decode cX3_treaty 142 = .ok (.imul, 1) := dk_104 (dk_at dksX3_treaty_6 0 rfl rfl)
theorem dX3_treaty_143 : decode cX3_treaty 143 = .ok (.iload_n 2, 1) := dk_28 (dk_at dksX3_treaty_6 1 rfl rfl)
theorem dX3_treaty_144 : decode cX3_treaty 144 = .ok (.iadd, 1) := dk_96 (dk_at dksX3_treaty_6 2 rfl rfl)
theorem dX3_treaty_145 : decode cX3_treaty 145 = .ok (.aload_n 0, 1) := dk_42 (dk_at dksX3_treaty_6 3 rfl rfl)
theorem dX3_treaty_146 : decode cX3_treaty 146 = .ok (.getfield 86, 3) := dk_180 0 86 (dk_at dksX3_treaty_6 4 rfl rfl)
theorem dX3_treaty_149 : decode cX3_treaty 149 = .ok (.bipush 12, 2) := dk_16 12 (dk_at dksX3_treaty_6 7 rfl rfl)
theorem dX3_treaty_151 : decode cX3_treaty 151 = .ok (.iload_n 2, 1) := dk_28 (dk_at dksX3_treaty_6 9 rfl rfl)
theorem dX3_treaty_152 : decode cX3_treaty 152 = .ok (.iadd, 1) := dk_96 (dk_at dksX3_treaty_6 10 rfl rfl)
theorem dX3_treaty_153 : decode cX3_treaty 153 = .ok (.iaload, 1) := dk_46 (dk_at dksX3_treaty_6 11 rfl rfl)
theorem dX3_treaty_154 : decode cX3_treaty 154 = .ok (.iastore, 1) := dk_79 (dk_at dksX3_treaty_6 12 rfl rfl)
theorem dX3_treaty_155 : decode cX3_treaty 155 = .ok (.aload_n 0, 1) := dk_42 (dk_at dksX3_treaty_6 13 rfl rfl)
theorem dX3_treaty_156 : decode cX3_treaty 156 = .ok (.getfield 89, 3) := dk_180 0 89 (dk_at dksX3_treaty_6 14 rfl rfl)
theorem dX3_treaty_159 : decode cX3_treaty 159 = .ok (.iconst 4, 1) := dk_7 (dk_at dksX3_treaty_6 17 rfl rfl)
theorem dX3_treaty_160 : decode cX3_treaty 160 = .ok (.iload_n 1, 1) := dk_27 (dk_at dksX3_treaty_6 18 rfl rfl)
theorem dX3_treaty_161 : decode cX3_treaty 161 = .ok (.imul, 1) := dk_104 (dk_at dksX3_treaty_6 19 rfl rfl)
theorem dX3_treaty_162 : decode cX3_treaty 162 = .ok (.iload_n 2, 1) := dk_28 (dk_at dksX3_treaty_6 20 rfl rfl)
theorem dX3_treaty_163 : decode cX3_treaty 163 = .ok (.iadd, 1) := dk_96 (dk_at dksX3_treaty_6 21 rfl rfl)
theorem dX3_treaty_164 : decode cX3_treaty 164 = .ok (.aload_n 0, 1) := dk_42 (dk_at dksX3_treaty_6 22 rfl rfl)
theorem dX3_treaty_165 : decode cX3_treaty 165 = .ok (.getfield 89, 3) := dk_180 0 89 (dk_at dksX3_treaty_7 0 rfl rfl)
theorem dX3_treaty_168 : decode cX3_treaty 168 = .ok (.bipush 12, 2) := dk_16 12 (dk_at dksX3_treaty_7 3 rfl rfl)
theorem dX3_treaty_170 : decode cX3_treaty 170 = .ok (.iload_n 2, 1) := dk_28 (dk_at dksX3_treaty_7 5 rfl rfl)
theorem dX3_treaty_171 : decode cX3_treaty 171 = .ok (.iadd, 1) := dk_96 (dk_at dksX3_treaty_7 6 rfl rfl)
theorem dX3_treaty_172 : decode cX3_treaty 172 = .ok (.iaload, 1) := dk_46 (dk_at dksX3_treaty_7 7 rfl rfl)
theorem dX3_treaty_173 : decode cX3_treaty 173 = .ok (.iastore, 1) := dk_79 (dk_at dksX3_treaty_7 8 rfl rfl)
theorem dX3_treaty_174 : decode cX3_treaty 174 = .ok (.iinc 2 1, 3) := dk_132 2 1 (dk_at dksX3_treaty_7 9 rfl rfl)
theorem dX3_treaty_177 : decode cX3_treaty 177 = .ok (.goto (-65), 3) := dk_167 255 191 (dk_at dksX3_treaty_7 12 rfl rfl)
theorem dX3_treaty_180 : decode cX3_treaty 180 = .ok (.iconst 0, 1) := dk_3 (dk_at dksX3_treaty_7 15 rfl rfl)
theorem dX3_treaty_181 : decode cX3_treaty 181 = .ok (.istore_n 2, 1) := dk_61 (dk_at dksX3_treaty_7 16 rfl rfl)
theorem dX3_treaty_182 : decode cX3_treaty 182 = .ok (.iload_n 2, 1) := dk_28 (dk_at dksX3_treaty_7 17 rfl rfl)
theorem dX3_treaty_183 : decode cX3_treaty 183 = .ok (.aload_n 0, 1) := dk_42 (dk_at dksX3_treaty_7 18 rfl rfl)
theorem dX3_treaty_184 : decode cX3_treaty 184 = .ok (.getfield 394, 3) := dk_180 1 138 (dk_at dksX3_treaty_7 19 rfl rfl)
theorem dX3_treaty_187 : decode cX3_treaty 187 = .ok (.if_icmp .ge 53, 3) := dk_162 0 53 (dk_at dksX3_treaty_8 0 rfl rfl)
theorem dX3_treaty_190 : decode cX3_treaty 190 = .ok (.aload_n 0, 1) := dk_42 (dk_at dksX3_treaty_8 3 rfl rfl)
theorem dX3_treaty_191 : decode cX3_treaty 191 = .ok (.getfield 92, 3) := dk_180 0 92 (dk_at dksX3_treaty_8 4 rfl rfl)
theorem dX3_treaty_194 : decode cX3_treaty 194 = .ok (.sipush 700, 3) := dk_17 2 188 (dk_at dksX3_treaty_8 7 rfl rfl)
theorem dX3_treaty_197 : decode cX3_treaty 197 = .ok (.iload_n 1, 1) := dk_27 (dk_at dksX3_treaty_8 10 rfl rfl)
theorem dX3_treaty_198 : decode cX3_treaty 198 = .ok (.imul, 1) := dk_104 (dk_at dksX3_treaty_8 11 rfl rfl)
theorem dX3_treaty_199 : decode cX3_treaty 199 = .ok (.iload_n 2, 1) := dk_28 (dk_at dksX3_treaty_8 12 rfl rfl)
theorem dX3_treaty_200 : decode cX3_treaty 200 = .ok (.iadd, 1) := dk_96 (dk_at dksX3_treaty_8 13 rfl rfl)
theorem dX3_treaty_201 : decode cX3_treaty 201 = .ok (.aload_n 0, 1) := dk_42 (dk_at dksX3_treaty_8 14 rfl rfl)
theorem dX3_treaty_202 : decode cX3_treaty 202 = .ok (.getfield 92, 3) := dk_180 0 92 (dk_at dksX3_treaty_8 15 rfl rfl)
theorem dX3_treaty_205 : decode cX3_treaty 205 = .ok (.sipush 2100, 3) := dk_17 8 52 (dk_at dksX3_treaty_8 18 rfl rfl)
theorem dX3_treaty_208 : decode cX3_treaty 208 = .ok (.iload_n 2, 1) := dk_28 (dk_at dksX3_treaty_8 21 rfl rfl)
theorem dX3_treaty_209 : decode cX3_treaty 209 = .ok (.iadd, 1) := dk_96 (dk_at dksX3_treaty_8 22 rfl rfl)
theorem dX3_treaty_210 : decode cX3_treaty 210 = .ok (.iaload, 1) := dk_46 (dk_at dksX3_treaty_8 23 rfl rfl)
theorem dX3_treaty_211 : decode cX3_treaty 211 = .ok (.iastore, 1) := dk_79 (dk_at dksX3_treaty_9 0 rfl rfl)
theorem dX3_treaty_212 : decode cX3_treaty 212 = .ok (.aload_n 0, 1) := dk_42 (dk_at dksX3_treaty_9 1 rfl rfl)
theorem dX3_treaty_213 : decode cX3_treaty 213 = .ok (.getfield 95, 3) := dk_180 0 95 (dk_at dksX3_treaty_9 2 rfl rfl)
theorem dX3_treaty_216 : decode cX3_treaty 216 = .ok (.sipush 700, 3) := dk_17 2 188 (dk_at dksX3_treaty_9 5 rfl rfl)
theorem dX3_treaty_219 : decode cX3_treaty 219 = .ok (.iload_n 1, 1) := dk_27 (dk_at dksX3_treaty_9 8 rfl rfl)
theorem dX3_treaty_220 : decode cX3_treaty 220 = .ok (.imul, 1) := dk_104 (dk_at dksX3_treaty_9 9 rfl rfl)
theorem dX3_treaty_221 : decode cX3_treaty 221 = .ok (.iload_n 2, 1) := dk_28 (dk_at dksX3_treaty_9 10 rfl rfl)
theorem dX3_treaty_222 : decode cX3_treaty 222 = .ok (.iadd, 1) := dk_96 (dk_at dksX3_treaty_9 11 rfl rfl)
theorem dX3_treaty_223 : decode cX3_treaty 223 = .ok (.aload_n 0, 1) := dk_42 (dk_at dksX3_treaty_9 12 rfl rfl)
theorem dX3_treaty_224 : decode cX3_treaty 224 = .ok (.getfield 95, 3) := dk_180 0 95 (dk_at dksX3_treaty_9 13 rfl rfl)
theorem dX3_treaty_227 : decode cX3_treaty 227 = .ok (.sipush 2100, 3) := dk_17 8 52 (dk_at dksX3_treaty_9 16 rfl rfl)
theorem dX3_treaty_230 : decode cX3_treaty 230 = .ok (.iload_n 2, 1) := dk_28 (dk_at dksX3_treaty_9 19 rfl rfl)
theorem dX3_treaty_231 : decode cX3_treaty 231 = .ok (.iadd, 1) := dk_96 (dk_at dksX3_treaty_9 20 rfl rfl)
theorem dX3_treaty_232 : decode cX3_treaty 232 = .ok (.iaload, 1) := dk_46 (dk_at dksX3_treaty_9 21 rfl rfl)
theorem dX3_treaty_233 : decode cX3_treaty 233 = .ok (.iastore, 1) := dk_79 (dk_at dksX3_treaty_9 22 rfl rfl)
theorem dX3_treaty_234 : decode cX3_treaty 234 = .ok (.iinc 2 1, 3) := dk_132 2 1 (dk_at dksX3_treaty_10 0 rfl rfl)
theorem dX3_treaty_237 : decode cX3_treaty 237 = .ok (.goto (-55), 3) := dk_167 255 201 (dk_at dksX3_treaty_10 3 rfl rfl)
theorem dX3_treaty_240 : decode cX3_treaty 240 = .ok (.aload_n 0, 1) := dk_42 (dk_at dksX3_treaty_10 6 rfl rfl)
theorem dX3_treaty_241 : decode cX3_treaty 241 = .ok (.getfield 83, 3) := dk_180 0 83 (dk_at dksX3_treaty_10 7 rfl rfl)
theorem dX3_treaty_244 : decode cX3_treaty 244 = .ok (.iload_n 1, 1) := dk_27 (dk_at dksX3_treaty_10 10 rfl rfl)
theorem dX3_treaty_245 : decode cX3_treaty 245 = .ok (.iaload, 1) := dk_46 (dk_at dksX3_treaty_10 11 rfl rfl)
theorem dX3_treaty_246 : decode cX3_treaty 246 = .ok (.ireturn, 1) := dk_172 (dk_at dksX3_treaty_10 12 rfl rfl)
abbrev cX3_tryMove : ByteArray := prog_24_method_80_code
def dkwX3_tryMove_10 : List UInt8 := [96, 172]
abbrev dktX3_tryMove_10 : List UInt8 := dkwX3_tryMove_10 ++ []
def dkwX3_tryMove_9 : List UInt8 := [182, 2, 11, 96, 46, 54, 9, 21, 9, 19, 1, 247, 161, 0, 9, 19, 1, 247, 167, 0, 7, 21, 9, 29]
abbrev dktX3_tryMove_9 : List UInt8 := dkwX3_tryMove_9 ++ dktX3_tryMove_10
def dkwX3_tryMove_8 : List UInt8 := [46, 21, 7, 104, 164, 0, 7, 19, 1, 247, 172, 42, 180, 0, 135, 17, 16, 0, 27, 4, 96, 104, 42]
abbrev dktX3_tryMove_8 : List UInt8 := dkwX3_tryMove_8 ++ dktX3_tryMove_9
def dkwX3_tryMove_7 : List UInt8 := [167, 255, 205, 21, 8, 42, 180, 0, 128, 27, 46, 21, 7, 104, 161, 0, 17, 21, 8, 42, 180, 0, 131, 27]
abbrev dktX3_tryMove_7 : List UInt8 := dkwX3_tryMove_7 ++ dktX3_tryMove_8
def dkwX3_tryMove_6 : List UInt8 := [21, 9, 46, 42, 180, 0, 66, 6, 42, 180, 1, 44, 104, 21, 9, 96, 46, 104, 96, 54, 8, 132, 9, 1]
abbrev dktX3_tryMove_6 : List UInt8 := dkwX3_tryMove_6 ++ dktX3_tryMove_7
def dkwX3_tryMove_5 : List UInt8 := [182, 2, 8, 162, 0, 48, 21, 7, 42, 180, 0, 138, 21, 9, 46, 96, 54, 7, 21, 8, 42, 180, 0, 138]
abbrev dktX3_tryMove_5 : List UInt8 := dkwX3_tryMove_5 ++ dktX3_tryMove_6
def dkwX3_tryMove_4 : List UInt8 := [172, 42, 180, 0, 138, 21, 6, 92, 46, 4, 100, 79, 3, 54, 7, 3, 54, 8, 3, 54, 9, 21, 9, 42]
abbrev dktX3_tryMove_4 : List UInt8 := dkwX3_tryMove_4 ++ dktX3_tryMove_5
def dkwX3_tryMove_3 : List UInt8 := [42, 180, 0, 138, 21, 5, 92, 46, 29, 96, 79, 42, 180, 0, 138, 21, 6, 46, 154, 0, 7, 19, 1, 247]
abbrev dktX3_tryMove_3 : List UInt8 := dkwX3_tryMove_3 ++ dktX3_tryMove_4
def dkwX3_tryMove_2 : List UInt8 := [96, 46, 164, 0, 7, 19, 1, 247, 172, 29, 158, 0, 25, 42, 180, 0, 138, 21, 4, 92, 46, 29, 100, 79]
abbrev dktX3_tryMove_2 : List UInt8 := dkwX3_tryMove_2 ++ dktX3_tryMove_3
def dkwX3_tryMove_1 : List UInt8 := [161, 0, 29, 42, 180, 0, 138, 21, 5, 46, 29, 96, 42, 180, 0, 69, 6, 42, 180, 1, 44, 104, 21, 5]
abbrev dktX3_tryMove_1 : List UInt8 := dkwX3_tryMove_1 ++ dktX3_tryMove_2
def dkwX3_tryMove_0 : List UInt8 := [42, 28, 182, 2, 5, 29, 158, 0, 51, 21, 4, 21, 5, 159, 0, 40, 42, 180, 0, 138, 21, 4, 46, 29]
abbrev dktX3_tryMove_0 : List UInt8 := dkwX3_tryMove_0 ++ dktX3_tryMove_1
theorem dksX3_tryMove_0 : cX3_tryMove.data.toList.drop 0 = dktX3_tryMove_0 := by decide +kernel
theorem dksX3_tryMove_1 : cX3_tryMove.data.toList.drop 24 = dktX3_tryMove_1 := dk_seg dksX3_tryMove_0 24 rfl rfl
theorem dksX3_tryMove_2 : cX3_tryMove.data.toList.drop 48 = dktX3_tryMove_2 := dk_seg dksX3_tryMove_1 24 rfl rfl
theorem dksX3_tryMove_3 : cX3_tryMove.data.toList.drop 72 = dktX3_tryMove_3 := dk_seg dksX3_tryMove_2 24 rfl rfl
theorem dksX3_tryMove_4 : cX3_tryMove.data.toList.drop 96 = dktX3_tryMove_4 := dk_seg dksX3_tryMove_3 24 rfl rfl
theorem dksX3_tryMove_5 : cX3_tryMove.data.toList.drop 120 = dktX3_tryMove_5 := dk_seg dksX3_tryMove_4 24 rfl rfl
theorem dksX3_tryMove_6 : cX3_tryMove.data.toList.drop 144 = dktX3_tryMove_6 := dk_seg dksX3_tryMove_5 24 rfl rfl
theorem dksX3_tryMove_7 : cX3_tryMove.data.toList.drop 168 = dktX3_tryMove_7 := dk_seg dksX3_tryMove_6 24 rfl rfl
theorem dksX3_tryMove_8 : cX3_tryMove.data.toList.drop 192 = dktX3_tryMove_8 := dk_seg dksX3_tryMove_7 24 rfl rfl
theorem dksX3_tryMove_9 : cX3_tryMove.data.toList.drop 215 = dktX3_tryMove_9 := dk_seg dksX3_tryMove_8 23 rfl rfl
theorem dksX3_tryMove_10 : cX3_tryMove.data.toList.drop 239 = dktX3_tryMove_10 := dk_seg dksX3_tryMove_9 24 rfl rfl
theorem dX3_tryMove_0 : decode cX3_tryMove 0 = .ok (.aload_n 0, 1) := dk_42 (dk_at dksX3_tryMove_0 0 rfl rfl)
theorem dX3_tryMove_1 : decode cX3_tryMove 1 = .ok (.iload_n 2, 1) := dk_28 (dk_at dksX3_tryMove_0 1 rfl rfl)
theorem dX3_tryMove_2 : decode cX3_tryMove 2 = .ok (.invokevirtual 517, 3) := dk_182 2 5 (dk_at dksX3_tryMove_0 2 rfl rfl)
theorem dX3_tryMove_5 : decode cX3_tryMove 5 = .ok (.iload_n 3, 1) := dk_29 (dk_at dksX3_tryMove_0 5 rfl rfl)
theorem dX3_tryMove_6 : decode cX3_tryMove 6 = .ok (.ifCond .le 51, 3) := dk_158 0 51 (dk_at dksX3_tryMove_0 6 rfl rfl)
theorem dX3_tryMove_9 : decode cX3_tryMove 9 = .ok (.iload 4, 2) := dk_21 4 (dk_at dksX3_tryMove_0 9 rfl rfl)
theorem dX3_tryMove_11 : decode cX3_tryMove 11 = .ok (.iload 5, 2) := dk_21 5 (dk_at dksX3_tryMove_0 11 rfl rfl)
theorem dX3_tryMove_13 : decode cX3_tryMove 13 = .ok (.if_icmp .eq 40, 3) := dk_159 0 40 (dk_at dksX3_tryMove_0 13 rfl rfl)
theorem dX3_tryMove_16 : decode cX3_tryMove 16 = .ok (.aload_n 0, 1) := dk_42 (dk_at dksX3_tryMove_0 16 rfl rfl)
theorem dX3_tryMove_17 : decode cX3_tryMove 17 = .ok (.getfield 138, 3) := dk_180 0 138 (dk_at dksX3_tryMove_0 17 rfl rfl)
theorem dX3_tryMove_20 : decode cX3_tryMove 20 = .ok (.iload 4, 2) := dk_21 4 (dk_at dksX3_tryMove_0 20 rfl rfl)
theorem dX3_tryMove_22 : decode cX3_tryMove 22 = .ok (.iaload, 1) := dk_46 (dk_at dksX3_tryMove_0 22 rfl rfl)
theorem dX3_tryMove_23 : decode cX3_tryMove 23 = .ok (.iload_n 3, 1) := dk_29 (dk_at dksX3_tryMove_0 23 rfl rfl)
theorem dX3_tryMove_24 : decode cX3_tryMove 24 = .ok (.if_icmp .lt 29, 3) := dk_161 0 29 (dk_at dksX3_tryMove_1 0 rfl rfl)
theorem dX3_tryMove_27 : decode cX3_tryMove 27 = .ok (.aload_n 0, 1) := dk_42 (dk_at dksX3_tryMove_1 3 rfl rfl)
theorem dX3_tryMove_28 : decode cX3_tryMove 28 = .ok (.getfield 138, 3) := dk_180 0 138 (dk_at dksX3_tryMove_1 4 rfl rfl)
theorem dX3_tryMove_31 : decode cX3_tryMove 31 = .ok (.iload 5, 2) := dk_21 5 (dk_at dksX3_tryMove_1 7 rfl rfl)
theorem dX3_tryMove_33 : decode cX3_tryMove 33 = .ok (.iaload, 1) := dk_46 (dk_at dksX3_tryMove_1 9 rfl rfl)
theorem dX3_tryMove_34 : decode cX3_tryMove 34 = .ok (.iload_n 3, 1) := dk_29 (dk_at dksX3_tryMove_1 10 rfl rfl)
theorem dX3_tryMove_35 : decode cX3_tryMove 35 = .ok (.iadd, 1) := dk_96 (dk_at dksX3_tryMove_1 11 rfl rfl)
theorem dX3_tryMove_36 : decode cX3_tryMove 36 = .ok (.aload_n 0, 1) := dk_42 (dk_at dksX3_tryMove_1 12 rfl rfl)
theorem dX3_tryMove_37 : decode cX3_tryMove 37 = .ok (.getfield 69, 3) := dk_180 0 69 (dk_at dksX3_tryMove_1 13 rfl rfl)
theorem dX3_tryMove_40 : decode cX3_tryMove 40 = .ok (.iconst 3, 1) := dk_6 (dk_at dksX3_tryMove_1 16 rfl rfl)
theorem dX3_tryMove_41 : decode cX3_tryMove 41 = .ok (.aload_n 0, 1) := dk_42 (dk_at dksX3_tryMove_1 17 rfl rfl)
theorem dX3_tryMove_42 : decode cX3_tryMove 42 = .ok (.getfield 300, 3) := dk_180 1 44 (dk_at dksX3_tryMove_1 18 rfl rfl)
theorem dX3_tryMove_45 : decode cX3_tryMove 45 = .ok (.imul, 1) := dk_104 (dk_at dksX3_tryMove_1 21 rfl rfl)
theorem dX3_tryMove_46 : decode cX3_tryMove 46 = .ok (.iload 5, 2) := dk_21 5 (dk_at dksX3_tryMove_1 22 rfl rfl)
theorem dX3_tryMove_48 : decode cX3_tryMove 48 = .ok (.iadd, 1) := dk_96 (dk_at dksX3_tryMove_2 0 rfl rfl)
theorem dX3_tryMove_49 : decode cX3_tryMove 49 = .ok (.iaload, 1) := dk_46 (dk_at dksX3_tryMove_2 1 rfl rfl)
theorem dX3_tryMove_50 : decode cX3_tryMove 50 = .ok (.if_icmp .le 7, 3) := dk_164 0 7 (dk_at dksX3_tryMove_2 2 rfl rfl)
theorem dX3_tryMove_53 : decode cX3_tryMove 53 = .ok (.ldc_w 503, 3) := dk_19 1 247 (dk_at dksX3_tryMove_2 5 rfl rfl)
theorem dX3_tryMove_56 : decode cX3_tryMove 56 = .ok (.ireturn, 1) := dk_172 (dk_at dksX3_tryMove_2 8 rfl rfl)
theorem dX3_tryMove_57 : decode cX3_tryMove 57 = .ok (.iload_n 3, 1) := dk_29 (dk_at dksX3_tryMove_2 9 rfl rfl)
theorem dX3_tryMove_58 : decode cX3_tryMove 58 = .ok (.ifCond .le 25, 3) := dk_158 0 25 (dk_at dksX3_tryMove_2 10 rfl rfl)
theorem dX3_tryMove_61 : decode cX3_tryMove 61 = .ok (.aload_n 0, 1) := dk_42 (dk_at dksX3_tryMove_2 13 rfl rfl)
theorem dX3_tryMove_62 : decode cX3_tryMove 62 = .ok (.getfield 138, 3) := dk_180 0 138 (dk_at dksX3_tryMove_2 14 rfl rfl)
theorem dX3_tryMove_65 : decode cX3_tryMove 65 = .ok (.iload 4, 2) := dk_21 4 (dk_at dksX3_tryMove_2 17 rfl rfl)
theorem dX3_tryMove_67 : decode cX3_tryMove 67 = .ok (.dup2, 1) := dk_92 (dk_at dksX3_tryMove_2 19 rfl rfl)
theorem dX3_tryMove_68 : decode cX3_tryMove 68 = .ok (.iaload, 1) := dk_46 (dk_at dksX3_tryMove_2 20 rfl rfl)
theorem dX3_tryMove_69 : decode cX3_tryMove 69 = .ok (.iload_n 3, 1) := dk_29 (dk_at dksX3_tryMove_2 21 rfl rfl)
theorem dX3_tryMove_70 : decode cX3_tryMove 70 = .ok (.isub, 1) := dk_100 (dk_at dksX3_tryMove_2 22 rfl rfl)
theorem dX3_tryMove_71 : decode cX3_tryMove 71 = .ok (.iastore, 1) := dk_79 (dk_at dksX3_tryMove_2 23 rfl rfl)
theorem dX3_tryMove_72 : decode cX3_tryMove 72 = .ok (.aload_n 0, 1) := dk_42 (dk_at dksX3_tryMove_3 0 rfl rfl)
theorem dX3_tryMove_73 : decode cX3_tryMove 73 = .ok (.getfield 138, 3) := dk_180 0 138 (dk_at dksX3_tryMove_3 1 rfl rfl)
theorem dX3_tryMove_76 : decode cX3_tryMove 76 = .ok (.iload 5, 2) := dk_21 5 (dk_at dksX3_tryMove_3 4 rfl rfl)
theorem dX3_tryMove_78 : decode cX3_tryMove 78 = .ok (.dup2, 1) := dk_92 (dk_at dksX3_tryMove_3 6 rfl rfl)
theorem dX3_tryMove_79 : decode cX3_tryMove 79 = .ok (.iaload, 1) := dk_46 (dk_at dksX3_tryMove_3 7 rfl rfl)
theorem dX3_tryMove_80 : decode cX3_tryMove 80 = .ok (.iload_n 3, 1) := dk_29 (dk_at dksX3_tryMove_3 8 rfl rfl)
theorem dX3_tryMove_81 : decode cX3_tryMove 81 = .ok (.iadd, 1) := dk_96 (dk_at dksX3_tryMove_3 9 rfl rfl)
theorem dX3_tryMove_82 : decode cX3_tryMove 82 = .ok (.iastore, 1) := dk_79 (dk_at dksX3_tryMove_3 10 rfl rfl)
theorem dX3_tryMove_83 : decode cX3_tryMove 83 = .ok (.aload_n 0, 1) := dk_42 (dk_at dksX3_tryMove_3 11 rfl rfl)
theorem dX3_tryMove_84 : decode cX3_tryMove 84 = .ok (.getfield 138, 3) := dk_180 0 138 (dk_at dksX3_tryMove_3 12 rfl rfl)
theorem dX3_tryMove_87 : decode cX3_tryMove 87 = .ok (.iload 6, 2) := dk_21 6 (dk_at dksX3_tryMove_3 15 rfl rfl)
theorem dX3_tryMove_89 : decode cX3_tryMove 89 = .ok (.iaload, 1) := dk_46 (dk_at dksX3_tryMove_3 17 rfl rfl)
theorem dX3_tryMove_90 : decode cX3_tryMove 90 = .ok (.ifCond .ne 7, 3) := dk_154 0 7 (dk_at dksX3_tryMove_3 18 rfl rfl)
theorem dX3_tryMove_93 : decode cX3_tryMove 93 = .ok (.ldc_w 503, 3) := dk_19 1 247 (dk_at dksX3_tryMove_3 21 rfl rfl)
theorem dX3_tryMove_96 : decode cX3_tryMove 96 = .ok (.ireturn, 1) := dk_172 (dk_at dksX3_tryMove_4 0 rfl rfl)
theorem dX3_tryMove_97 : decode cX3_tryMove 97 = .ok (.aload_n 0, 1) := dk_42 (dk_at dksX3_tryMove_4 1 rfl rfl)
theorem dX3_tryMove_98 : decode cX3_tryMove 98 = .ok (.getfield 138, 3) := dk_180 0 138 (dk_at dksX3_tryMove_4 2 rfl rfl)
theorem dX3_tryMove_101 : decode cX3_tryMove 101 = .ok (.iload 6, 2) := dk_21 6 (dk_at dksX3_tryMove_4 5 rfl rfl)
theorem dX3_tryMove_103 : decode cX3_tryMove 103 = .ok (.dup2, 1) := dk_92 (dk_at dksX3_tryMove_4 7 rfl rfl)
theorem dX3_tryMove_104 : decode cX3_tryMove 104 = .ok (.iaload, 1) := dk_46 (dk_at dksX3_tryMove_4 8 rfl rfl)
theorem dX3_tryMove_105 : decode cX3_tryMove 105 = .ok (.iconst 1, 1) := dk_4 (dk_at dksX3_tryMove_4 9 rfl rfl)
theorem dX3_tryMove_106 : decode cX3_tryMove 106 = .ok (.isub, 1) := dk_100 (dk_at dksX3_tryMove_4 10 rfl rfl)
theorem dX3_tryMove_107 : decode cX3_tryMove 107 = .ok (.iastore, 1) := dk_79 (dk_at dksX3_tryMove_4 11 rfl rfl)
theorem dX3_tryMove_108 : decode cX3_tryMove 108 = .ok (.iconst 0, 1) := dk_3 (dk_at dksX3_tryMove_4 12 rfl rfl)
theorem dX3_tryMove_109 : decode cX3_tryMove 109 = .ok (.istore 7, 2) := dk_54 7 (dk_at dksX3_tryMove_4 13 rfl rfl)
theorem dX3_tryMove_111 : decode cX3_tryMove 111 = .ok (.iconst 0, 1) := dk_3 (dk_at dksX3_tryMove_4 15 rfl rfl)
theorem dX3_tryMove_112 : decode cX3_tryMove 112 = .ok (.istore 8, 2) := dk_54 8 (dk_at dksX3_tryMove_4 16 rfl rfl)
theorem dX3_tryMove_114 : decode cX3_tryMove 114 = .ok (.iconst 0, 1) := dk_3 (dk_at dksX3_tryMove_4 18 rfl rfl)
theorem dX3_tryMove_115 : decode cX3_tryMove 115 = .ok (.istore 9, 2) := dk_54 9 (dk_at dksX3_tryMove_4 19 rfl rfl)
theorem dX3_tryMove_117 : decode cX3_tryMove 117 = .ok (.iload 9, 2) := dk_21 9 (dk_at dksX3_tryMove_4 21 rfl rfl)
theorem dX3_tryMove_119 : decode cX3_tryMove 119 = .ok (.aload_n 0, 1) := dk_42 (dk_at dksX3_tryMove_4 23 rfl rfl)
theorem dX3_tryMove_120 : decode cX3_tryMove 120 = .ok (.invokevirtual 520, 3) := dk_182 2 8 (dk_at dksX3_tryMove_5 0 rfl rfl)
theorem dX3_tryMove_123 : decode cX3_tryMove 123 = .ok (.if_icmp .ge 48, 3) := dk_162 0 48 (dk_at dksX3_tryMove_5 3 rfl rfl)
theorem dX3_tryMove_126 : decode cX3_tryMove 126 = .ok (.iload 7, 2) := dk_21 7 (dk_at dksX3_tryMove_5 6 rfl rfl)
theorem dX3_tryMove_128 : decode cX3_tryMove 128 = .ok (.aload_n 0, 1) := dk_42 (dk_at dksX3_tryMove_5 8 rfl rfl)
theorem dX3_tryMove_129 : decode cX3_tryMove 129 = .ok (.getfield 138, 3) := dk_180 0 138 (dk_at dksX3_tryMove_5 9 rfl rfl)
theorem dX3_tryMove_132 : decode cX3_tryMove 132 = .ok (.iload 9, 2) := dk_21 9 (dk_at dksX3_tryMove_5 12 rfl rfl)
theorem dX3_tryMove_134 : decode cX3_tryMove 134 = .ok (.iaload, 1) := dk_46 (dk_at dksX3_tryMove_5 14 rfl rfl)
theorem dX3_tryMove_135 : decode cX3_tryMove 135 = .ok (.iadd, 1) := dk_96 (dk_at dksX3_tryMove_5 15 rfl rfl)
theorem dX3_tryMove_136 : decode cX3_tryMove 136 = .ok (.istore 7, 2) := dk_54 7 (dk_at dksX3_tryMove_5 16 rfl rfl)
theorem dX3_tryMove_138 : decode cX3_tryMove 138 = .ok (.iload 8, 2) := dk_21 8 (dk_at dksX3_tryMove_5 18 rfl rfl)
theorem dX3_tryMove_140 : decode cX3_tryMove 140 = .ok (.aload_n 0, 1) := dk_42 (dk_at dksX3_tryMove_5 20 rfl rfl)
theorem dX3_tryMove_141 : decode cX3_tryMove 141 = .ok (.getfield 138, 3) := dk_180 0 138 (dk_at dksX3_tryMove_5 21 rfl rfl)
theorem dX3_tryMove_144 : decode cX3_tryMove 144 = .ok (.iload 9, 2) := dk_21 9 (dk_at dksX3_tryMove_6 0 rfl rfl)
theorem dX3_tryMove_146 : decode cX3_tryMove 146 = .ok (.iaload, 1) := dk_46 (dk_at dksX3_tryMove_6 2 rfl rfl)
theorem dX3_tryMove_147 : decode cX3_tryMove 147 = .ok (.aload_n 0, 1) := dk_42 (dk_at dksX3_tryMove_6 3 rfl rfl)
theorem dX3_tryMove_148 : decode cX3_tryMove 148 = .ok (.getfield 66, 3) := dk_180 0 66 (dk_at dksX3_tryMove_6 4 rfl rfl)
theorem dX3_tryMove_151 : decode cX3_tryMove 151 = .ok (.iconst 3, 1) := dk_6 (dk_at dksX3_tryMove_6 7 rfl rfl)
theorem dX3_tryMove_152 : decode cX3_tryMove 152 = .ok (.aload_n 0, 1) := dk_42 (dk_at dksX3_tryMove_6 8 rfl rfl)
theorem dX3_tryMove_153 : decode cX3_tryMove 153 = .ok (.getfield 300, 3) := dk_180 1 44 (dk_at dksX3_tryMove_6 9 rfl rfl)
theorem dX3_tryMove_156 : decode cX3_tryMove 156 = .ok (.imul, 1) := dk_104 (dk_at dksX3_tryMove_6 12 rfl rfl)
theorem dX3_tryMove_157 : decode cX3_tryMove 157 = .ok (.iload 9, 2) := dk_21 9 (dk_at dksX3_tryMove_6 13 rfl rfl)
theorem dX3_tryMove_159 : decode cX3_tryMove 159 = .ok (.iadd, 1) := dk_96 (dk_at dksX3_tryMove_6 15 rfl rfl)
theorem dX3_tryMove_160 : decode cX3_tryMove 160 = .ok (.iaload, 1) := dk_46 (dk_at dksX3_tryMove_6 16 rfl rfl)
theorem dX3_tryMove_161 : decode cX3_tryMove 161 = .ok (.imul, 1) := dk_104 (dk_at dksX3_tryMove_6 17 rfl rfl)
theorem dX3_tryMove_162 : decode cX3_tryMove 162 = .ok (.iadd, 1) := dk_96 (dk_at dksX3_tryMove_6 18 rfl rfl)
theorem dX3_tryMove_163 : decode cX3_tryMove 163 = .ok (.istore 8, 2) := dk_54 8 (dk_at dksX3_tryMove_6 19 rfl rfl)
theorem dX3_tryMove_165 : decode cX3_tryMove 165 = .ok (.iinc 9 1, 3) := dk_132 9 1 (dk_at dksX3_tryMove_6 21 rfl rfl)
theorem dX3_tryMove_168 : decode cX3_tryMove 168 = .ok (.goto (-51), 3) := dk_167 255 205 (dk_at dksX3_tryMove_7 0 rfl rfl)
theorem dX3_tryMove_171 : decode cX3_tryMove 171 = .ok (.iload 8, 2) := dk_21 8 (dk_at dksX3_tryMove_7 3 rfl rfl)
theorem dX3_tryMove_173 : decode cX3_tryMove 173 = .ok (.aload_n 0, 1) := dk_42 (dk_at dksX3_tryMove_7 5 rfl rfl)
theorem dX3_tryMove_174 : decode cX3_tryMove 174 = .ok (.getfield 128, 3) := dk_180 0 128 (dk_at dksX3_tryMove_7 6 rfl rfl)
theorem dX3_tryMove_177 : decode cX3_tryMove 177 = .ok (.iload_n 1, 1) := dk_27 (dk_at dksX3_tryMove_7 9 rfl rfl)
theorem dX3_tryMove_178 : decode cX3_tryMove 178 = .ok (.iaload, 1) := dk_46 (dk_at dksX3_tryMove_7 10 rfl rfl)
theorem dX3_tryMove_179 : decode cX3_tryMove 179 = .ok (.iload 7, 2) := dk_21 7 (dk_at dksX3_tryMove_7 11 rfl rfl)
theorem dX3_tryMove_181 : decode cX3_tryMove 181 = .ok (.imul, 1) := dk_104 (dk_at dksX3_tryMove_7 13 rfl rfl)
theorem dX3_tryMove_182 : decode cX3_tryMove 182 = .ok (.if_icmp .lt 17, 3) := dk_161 0 17 (dk_at dksX3_tryMove_7 14 rfl rfl)
theorem dX3_tryMove_185 : decode cX3_tryMove 185 = .ok (.iload 8, 2) := dk_21 8 (dk_at dksX3_tryMove_7 17 rfl rfl)
theorem dX3_tryMove_187 : decode cX3_tryMove 187 = .ok (.aload_n 0, 1) := dk_42 (dk_at dksX3_tryMove_7 19 rfl rfl)
theorem dX3_tryMove_188 : decode cX3_tryMove 188 = .ok (.getfield 131, 3) := dk_180 0 131 (dk_at dksX3_tryMove_7 20 rfl rfl)
theorem dX3_tryMove_191 : decode cX3_tryMove 191 = .ok (.iload_n 1, 1) := dk_27 (dk_at dksX3_tryMove_7 23 rfl rfl)
theorem dX3_tryMove_192 : decode cX3_tryMove 192 = .ok (.iaload, 1) := dk_46 (dk_at dksX3_tryMove_8 0 rfl rfl)
theorem dX3_tryMove_193 : decode cX3_tryMove 193 = .ok (.iload 7, 2) := dk_21 7 (dk_at dksX3_tryMove_8 1 rfl rfl)
theorem dX3_tryMove_195 : decode cX3_tryMove 195 = .ok (.imul, 1) := dk_104 (dk_at dksX3_tryMove_8 3 rfl rfl)
theorem dX3_tryMove_196 : decode cX3_tryMove 196 = .ok (.if_icmp .le 7, 3) := dk_164 0 7 (dk_at dksX3_tryMove_8 4 rfl rfl)
theorem dX3_tryMove_199 : decode cX3_tryMove 199 = .ok (.ldc_w 503, 3) := dk_19 1 247 (dk_at dksX3_tryMove_8 7 rfl rfl)
theorem dX3_tryMove_202 : decode cX3_tryMove 202 = .ok (.ireturn, 1) := dk_172 (dk_at dksX3_tryMove_8 10 rfl rfl)
theorem dX3_tryMove_203 : decode cX3_tryMove 203 = .ok (.aload_n 0, 1) := dk_42 (dk_at dksX3_tryMove_8 11 rfl rfl)
theorem dX3_tryMove_204 : decode cX3_tryMove 204 = .ok (.getfield 135, 3) := dk_180 0 135 (dk_at dksX3_tryMove_8 12 rfl rfl)
theorem dX3_tryMove_207 : decode cX3_tryMove 207 = .ok (.sipush 4096, 3) := dk_17 16 0 (dk_at dksX3_tryMove_8 15 rfl rfl)
theorem dX3_tryMove_210 : decode cX3_tryMove 210 = .ok (.iload_n 1, 1) := dk_27 (dk_at dksX3_tryMove_8 18 rfl rfl)
theorem dX3_tryMove_211 : decode cX3_tryMove 211 = .ok (.iconst 1, 1) := dk_4 (dk_at dksX3_tryMove_8 19 rfl rfl)
theorem dX3_tryMove_212 : decode cX3_tryMove 212 = .ok (.iadd, 1) := dk_96 (dk_at dksX3_tryMove_8 20 rfl rfl)
theorem dX3_tryMove_213 : decode cX3_tryMove 213 = .ok (.imul, 1) := dk_104 (dk_at dksX3_tryMove_8 21 rfl rfl)
theorem dX3_tryMove_214 : decode cX3_tryMove 214 = .ok (.aload_n 0, 1) := dk_42 (dk_at dksX3_tryMove_8 22 rfl rfl)
theorem dX3_tryMove_215 : decode cX3_tryMove 215 = .ok (.invokevirtual 523, 3) := dk_182 2 11 (dk_at dksX3_tryMove_9 0 rfl rfl)
theorem dX3_tryMove_218 : decode cX3_tryMove 218 = .ok (.iadd, 1) := dk_96 (dk_at dksX3_tryMove_9 3 rfl rfl)
theorem dX3_tryMove_219 : decode cX3_tryMove 219 = .ok (.iaload, 1) := dk_46 (dk_at dksX3_tryMove_9 4 rfl rfl)
theorem dX3_tryMove_220 : decode cX3_tryMove 220 = .ok (.istore 9, 2) := dk_54 9 (dk_at dksX3_tryMove_9 5 rfl rfl)
theorem dX3_tryMove_222 : decode cX3_tryMove 222 = .ok (.iload 9, 2) := dk_21 9 (dk_at dksX3_tryMove_9 7 rfl rfl)
theorem dX3_tryMove_224 : decode cX3_tryMove 224 = .ok (.ldc_w 503, 3) := dk_19 1 247 (dk_at dksX3_tryMove_9 9 rfl rfl)
theorem dX3_tryMove_227 : decode cX3_tryMove 227 = .ok (.if_icmp .lt 9, 3) := dk_161 0 9 (dk_at dksX3_tryMove_9 12 rfl rfl)
theorem dX3_tryMove_230 : decode cX3_tryMove 230 = .ok (.ldc_w 503, 3) := dk_19 1 247 (dk_at dksX3_tryMove_9 15 rfl rfl)
theorem dX3_tryMove_233 : decode cX3_tryMove 233 = .ok (.goto 7, 3) := dk_167 0 7 (dk_at dksX3_tryMove_9 18 rfl rfl)
theorem dX3_tryMove_236 : decode cX3_tryMove 236 = .ok (.iload 9, 2) := dk_21 9 (dk_at dksX3_tryMove_9 21 rfl rfl)
theorem dX3_tryMove_238 : decode cX3_tryMove 238 = .ok (.iload_n 3, 1) := dk_29 (dk_at dksX3_tryMove_9 23 rfl rfl)
theorem dX3_tryMove_239 : decode cX3_tryMove 239 = .ok (.iadd, 1) := dk_96 (dk_at dksX3_tryMove_10 0 rfl rfl)
theorem dX3_tryMove_240 : decode cX3_tryMove 240 = .ok (.ireturn, 1) := dk_172 (dk_at dksX3_tryMove_10 1 rfl rfl)
abbrev cX3_two : ByteArray := prog_24_method_52_code
def dkwX3_two_5 : List UInt8 := [167, 0, 4, 3, 172]
abbrev dktX3_two_5 : List UInt8 := dkwX3_two_5 ++ []
def dkwX3_two_4 : List UInt8 := [153, 0, 11, 28, 153, 0, 7, 4, 167, 0, 4, 3, 172, 27, 154, 0, 7, 28, 153, 0, 7, 4]
abbrev dktX3_two_4 : List UInt8 := dkwX3_two_4 ++ dktX3_two_5
def dkwX3_two_3 : List UInt8 := [28, 164, 0, 7, 4, 167, 0, 4, 3, 172, 27, 28, 160, 0, 7, 4, 167, 0, 4, 3, 172, 27]
abbrev dktX3_two_3 : List UInt8 := dkwX3_two_3 ++ dktX3_two_4
def dkwX3_two_2 : List UInt8 := [27, 28, 96, 172, 27, 28, 100, 172, 27, 28, 104, 172, 27, 28, 162, 0, 7, 4, 167, 0, 4, 3, 172, 27]
abbrev dktX3_two_2 : List UInt8 := dkwX3_two_2 ++ dktX3_two_3
def dkwX3_two_1 : List UInt8 := [170, 0, 0, 0, 0, 0, 174, 0, 0, 0, 38, 0, 0, 0, 62, 0, 0, 0, 160, 0, 0, 0, 174, 0, 0, 0, 174, 0, 0, 0, 174, 0, 0, 0, 123, 0, 0, 0, 115, 0, 0, 0, 174, 0, 0, 0, 119, 0, 0, 0, 174, 0, 0, 0, 174, 0, 0, 0, 174, 0, 0, 0, 174, 0, 0, 0, 174, 0, 0, 0, 174, 0, 0, 0, 174, 0, 0, 0, 174, 0, 0, 0, 174, 0, 0, 0, 174, 0, 0, 0, 174, 0, 0, 0, 174, 0, 0, 0, 174, 0, 0, 0, 174, 0, 0, 0, 127, 0, 0, 0, 149, 0, 0, 0, 138]
abbrev dktX3_two_1 : List UInt8 := dkwX3_two_1 ++ dktX3_two_2
def dkwX3_two_0 : List UInt8 := [26]
abbrev dktX3_two_0 : List UInt8 := dkwX3_two_0 ++ dktX3_two_1
theorem dksX3_two_0 : cX3_two.data.toList.drop 0 = dktX3_two_0 := by decide +kernel
theorem dksX3_two_1 : cX3_two.data.toList.drop 1 = dktX3_two_1 := dk_seg dksX3_two_0 1 rfl rfl
theorem dksX3_two_2 : cX3_two.data.toList.drop 116 = dktX3_two_2 := dk_seg dksX3_two_1 115 rfl rfl
theorem dksX3_two_3 : cX3_two.data.toList.drop 140 = dktX3_two_3 := dk_seg dksX3_two_2 24 rfl rfl
theorem dksX3_two_4 : cX3_two.data.toList.drop 162 = dktX3_two_4 := dk_seg dksX3_two_3 22 rfl rfl
theorem dksX3_two_5 : cX3_two.data.toList.drop 184 = dktX3_two_5 := dk_seg dksX3_two_4 22 rfl rfl
theorem dX3_two_0 : decode cX3_two 0 = .ok (.iload_n 0, 1) := dk_26 (dk_at dksX3_two_0 0 rfl rfl)
theorem dX3_two_1 : decode cX3_two 1 = .ok (.tableswitch 174 38 62 #[160, 174, 174, 174, 123, 115, 174, 119, 174, 174, 174, 174, 174, 174, 174, 174, 174, 174, 174, 174, 174, 174, 127, 149, 138], 115) := by decide +kernel
theorem dX3_two_116 : decode cX3_two 116 = .ok (.iload_n 1, 1) := dk_27 (dk_at dksX3_two_2 0 rfl rfl)
theorem dX3_two_117 : decode cX3_two 117 = .ok (.iload_n 2, 1) := dk_28 (dk_at dksX3_two_2 1 rfl rfl)
theorem dX3_two_118 : decode cX3_two 118 = .ok (.iadd, 1) := dk_96 (dk_at dksX3_two_2 2 rfl rfl)
theorem dX3_two_119 : decode cX3_two 119 = .ok (.ireturn, 1) := dk_172 (dk_at dksX3_two_2 3 rfl rfl)
theorem dX3_two_120 : decode cX3_two 120 = .ok (.iload_n 1, 1) := dk_27 (dk_at dksX3_two_2 4 rfl rfl)
theorem dX3_two_121 : decode cX3_two 121 = .ok (.iload_n 2, 1) := dk_28 (dk_at dksX3_two_2 5 rfl rfl)
theorem dX3_two_122 : decode cX3_two 122 = .ok (.isub, 1) := dk_100 (dk_at dksX3_two_2 6 rfl rfl)
theorem dX3_two_123 : decode cX3_two 123 = .ok (.ireturn, 1) := dk_172 (dk_at dksX3_two_2 7 rfl rfl)
theorem dX3_two_124 : decode cX3_two 124 = .ok (.iload_n 1, 1) := dk_27 (dk_at dksX3_two_2 8 rfl rfl)
theorem dX3_two_125 : decode cX3_two 125 = .ok (.iload_n 2, 1) := dk_28 (dk_at dksX3_two_2 9 rfl rfl)
theorem dX3_two_126 : decode cX3_two 126 = .ok (.imul, 1) := dk_104 (dk_at dksX3_two_2 10 rfl rfl)
theorem dX3_two_127 : decode cX3_two 127 = .ok (.ireturn, 1) := dk_172 (dk_at dksX3_two_2 11 rfl rfl)
theorem dX3_two_128 : decode cX3_two 128 = .ok (.iload_n 1, 1) := dk_27 (dk_at dksX3_two_2 12 rfl rfl)
theorem dX3_two_129 : decode cX3_two 129 = .ok (.iload_n 2, 1) := dk_28 (dk_at dksX3_two_2 13 rfl rfl)
theorem dX3_two_130 : decode cX3_two 130 = .ok (.if_icmp .ge 7, 3) := dk_162 0 7 (dk_at dksX3_two_2 14 rfl rfl)
theorem dX3_two_133 : decode cX3_two 133 = .ok (.iconst 1, 1) := dk_4 (dk_at dksX3_two_2 17 rfl rfl)
theorem dX3_two_134 : decode cX3_two 134 = .ok (.goto 4, 3) := dk_167 0 4 (dk_at dksX3_two_2 18 rfl rfl)
theorem dX3_two_137 : decode cX3_two 137 = .ok (.iconst 0, 1) := dk_3 (dk_at dksX3_two_2 21 rfl rfl)
theorem dX3_two_138 : decode cX3_two 138 = .ok (.ireturn, 1) := dk_172 (dk_at dksX3_two_2 22 rfl rfl)
theorem dX3_two_139 : decode cX3_two 139 = .ok (.iload_n 1, 1) := dk_27 (dk_at dksX3_two_2 23 rfl rfl)
theorem dX3_two_140 : decode cX3_two 140 = .ok (.iload_n 2, 1) := dk_28 (dk_at dksX3_two_3 0 rfl rfl)
theorem dX3_two_141 : decode cX3_two 141 = .ok (.if_icmp .le 7, 3) := dk_164 0 7 (dk_at dksX3_two_3 1 rfl rfl)
theorem dX3_two_144 : decode cX3_two 144 = .ok (.iconst 1, 1) := dk_4 (dk_at dksX3_two_3 4 rfl rfl)
theorem dX3_two_145 : decode cX3_two 145 = .ok (.goto 4, 3) := dk_167 0 4 (dk_at dksX3_two_3 5 rfl rfl)
theorem dX3_two_148 : decode cX3_two 148 = .ok (.iconst 0, 1) := dk_3 (dk_at dksX3_two_3 8 rfl rfl)
theorem dX3_two_149 : decode cX3_two 149 = .ok (.ireturn, 1) := dk_172 (dk_at dksX3_two_3 9 rfl rfl)
theorem dX3_two_150 : decode cX3_two 150 = .ok (.iload_n 1, 1) := dk_27 (dk_at dksX3_two_3 10 rfl rfl)
theorem dX3_two_151 : decode cX3_two 151 = .ok (.iload_n 2, 1) := dk_28 (dk_at dksX3_two_3 11 rfl rfl)
theorem dX3_two_152 : decode cX3_two 152 = .ok (.if_icmp .ne 7, 3) := dk_160 0 7 (dk_at dksX3_two_3 12 rfl rfl)
theorem dX3_two_155 : decode cX3_two 155 = .ok (.iconst 1, 1) := dk_4 (dk_at dksX3_two_3 15 rfl rfl)
theorem dX3_two_156 : decode cX3_two 156 = .ok (.goto 4, 3) := dk_167 0 4 (dk_at dksX3_two_3 16 rfl rfl)
theorem dX3_two_159 : decode cX3_two 159 = .ok (.iconst 0, 1) := dk_3 (dk_at dksX3_two_3 19 rfl rfl)
theorem dX3_two_160 : decode cX3_two 160 = .ok (.ireturn, 1) := dk_172 (dk_at dksX3_two_3 20 rfl rfl)
theorem dX3_two_161 : decode cX3_two 161 = .ok (.iload_n 1, 1) := dk_27 (dk_at dksX3_two_3 21 rfl rfl)
theorem dX3_two_162 : decode cX3_two 162 = .ok (.ifCond .eq 11, 3) := dk_153 0 11 (dk_at dksX3_two_4 0 rfl rfl)
theorem dX3_two_165 : decode cX3_two 165 = .ok (.iload_n 2, 1) := dk_28 (dk_at dksX3_two_4 3 rfl rfl)
theorem dX3_two_166 : decode cX3_two 166 = .ok (.ifCond .eq 7, 3) := dk_153 0 7 (dk_at dksX3_two_4 4 rfl rfl)
theorem dX3_two_169 : decode cX3_two 169 = .ok (.iconst 1, 1) := dk_4 (dk_at dksX3_two_4 7 rfl rfl)
theorem dX3_two_170 : decode cX3_two 170 = .ok (.goto 4, 3) := dk_167 0 4 (dk_at dksX3_two_4 8 rfl rfl)
theorem dX3_two_173 : decode cX3_two 173 = .ok (.iconst 0, 1) := dk_3 (dk_at dksX3_two_4 11 rfl rfl)
theorem dX3_two_174 : decode cX3_two 174 = .ok (.ireturn, 1) := dk_172 (dk_at dksX3_two_4 12 rfl rfl)
theorem dX3_two_175 : decode cX3_two 175 = .ok (.iload_n 1, 1) := dk_27 (dk_at dksX3_two_4 13 rfl rfl)
theorem dX3_two_176 : decode cX3_two 176 = .ok (.ifCond .ne 7, 3) := dk_154 0 7 (dk_at dksX3_two_4 14 rfl rfl)
theorem dX3_two_179 : decode cX3_two 179 = .ok (.iload_n 2, 1) := dk_28 (dk_at dksX3_two_4 17 rfl rfl)
theorem dX3_two_180 : decode cX3_two 180 = .ok (.ifCond .eq 7, 3) := dk_153 0 7 (dk_at dksX3_two_4 18 rfl rfl)
theorem dX3_two_183 : decode cX3_two 183 = .ok (.iconst 1, 1) := dk_4 (dk_at dksX3_two_4 21 rfl rfl)
theorem dX3_two_184 : decode cX3_two 184 = .ok (.goto 4, 3) := dk_167 0 4 (dk_at dksX3_two_5 0 rfl rfl)
theorem dX3_two_187 : decode cX3_two 187 = .ok (.iconst 0, 1) := dk_3 (dk_at dksX3_two_5 3 rfl rfl)
theorem dX3_two_188 : decode cX3_two 188 = .ok (.ireturn, 1) := dk_172 (dk_at dksX3_two_5 4 rfl rfl)
abbrev cX3_unit : ByteArray := prog_24_method_47_code
def dkwX3_unit_10 : List UInt8 := [16, 110, 167, 0, 5, 21, 4, 21, 5, 182, 1, 174, 3, 172]
abbrev dktX3_unit_10 : List UInt8 := dkwX3_unit_10 ++ []
def dkwX3_unit_9 : List UInt8 := [16, 126, 182, 1, 159, 42, 89, 180, 1, 156, 4, 96, 181, 1, 156, 4, 172, 42, 21, 4, 154, 0, 8]
abbrev dktX3_unit_9 : List UInt8 := dkwX3_unit_9 ++ dktX3_unit_10
def dkwX3_unit_8 : List UInt8 := [42, 182, 1, 32, 28, 154, 0, 7, 29, 153, 0, 31, 42, 28, 153, 0, 7, 6, 167, 0, 5, 16, 7]
abbrev dktX3_unit_8 : List UInt8 := dkwX3_unit_8 ++ dktX3_unit_9
def dkwX3_unit_7 : List UInt8 := [3, 167, 0, 4, 4, 96, 181, 1, 141, 21, 4, 154, 0, 10, 42, 180, 1, 18, 167, 0, 4, 3, 54, 5]
abbrev dktX3_unit_7 : List UInt8 := dkwX3_unit_7 ++ dktX3_unit_8
def dkwX3_unit_6 : List UInt8 := [180, 0, 249, 182, 1, 24, 42, 182, 1, 28, 154, 0, 5, 4, 172, 42, 89, 180, 1, 141, 28, 153, 0, 7]
abbrev dktX3_unit_6 : List UInt8 := dkwX3_unit_6 ++ dktX3_unit_7
def dkwX3_unit_5 : List UInt8 := [182, 1, 35, 42, 182, 1, 28, 153, 0, 22, 42, 21, 4, 182, 1, 171, 154, 0, 13, 42, 16, 7, 42]
abbrev dktX3_unit_5 : List UInt8 := dkwX3_unit_5 ++ dktX3_unit_6
def dkwX3_unit_4 : List UInt8 := [16, 60, 159, 0, 20, 28, 154, 0, 7, 29, 153, 0, 16, 42, 180, 1, 156, 16, 7, 160, 0, 7, 42]
abbrev dktX3_unit_4 : List UInt8 := dkwX3_unit_4 ++ dktX3_unit_5
def dkwX3_unit_3 : List UInt8 := [154, 0, 29, 21, 4, 154, 0, 15, 42, 180, 1, 0, 7, 159, 0, 7, 29, 153, 0, 29, 42, 180, 1, 141]
abbrev dktX3_unit_3 : List UInt8 := dkwX3_unit_3 ++ dktX3_unit_4
def dkwX3_unit_2 : List UInt8 := [153, 0, 7, 4, 167, 0, 4, 3, 61, 42, 16, 40, 182, 1, 80, 62, 42, 182, 1, 168, 54, 4, 28]
abbrev dktX3_unit_2 : List UInt8 := dkwX3_unit_2 ++ dktX3_unit_3
def dkwX3_unit_1 : List UInt8 := [100, 46, 16, 7, 161, 0, 7, 4, 167, 0, 4, 3, 60, 27, 153, 0, 17, 42, 20, 0, 222, 182, 1, 59]
abbrev dktX3_unit_1 : List UInt8 := dkwX3_unit_1 ++ dktX3_unit_2
def dkwX3_unit_0 : List UInt8 := [42, 180, 0, 98, 42, 180, 1, 153, 4, 100, 46, 6, 164, 0, 19, 42, 180, 0, 98, 42, 180, 1, 153, 4]
abbrev dktX3_unit_0 : List UInt8 := dkwX3_unit_0 ++ dktX3_unit_1
theorem dksX3_unit_0 : cX3_unit.data.toList.drop 0 = dktX3_unit_0 := by decide +kernel
theorem dksX3_unit_1 : cX3_unit.data.toList.drop 24 = dktX3_unit_1 := dk_seg dksX3_unit_0 24 rfl rfl
theorem dksX3_unit_2 : cX3_unit.data.toList.drop 48 = dktX3_unit_2 := dk_seg dksX3_unit_1 24 rfl rfl
theorem dksX3_unit_3 : cX3_unit.data.toList.drop 71 = dktX3_unit_3 := dk_seg dksX3_unit_2 23 rfl rfl
theorem dksX3_unit_4 : cX3_unit.data.toList.drop 95 = dktX3_unit_4 := dk_seg dksX3_unit_3 24 rfl rfl
theorem dksX3_unit_5 : cX3_unit.data.toList.drop 118 = dktX3_unit_5 := dk_seg dksX3_unit_4 23 rfl rfl
theorem dksX3_unit_6 : cX3_unit.data.toList.drop 141 = dktX3_unit_6 := dk_seg dksX3_unit_5 23 rfl rfl
theorem dksX3_unit_7 : cX3_unit.data.toList.drop 165 = dktX3_unit_7 := dk_seg dksX3_unit_6 24 rfl rfl
theorem dksX3_unit_8 : cX3_unit.data.toList.drop 189 = dktX3_unit_8 := dk_seg dksX3_unit_7 24 rfl rfl
theorem dksX3_unit_9 : cX3_unit.data.toList.drop 212 = dktX3_unit_9 := dk_seg dksX3_unit_8 23 rfl rfl
theorem dksX3_unit_10 : cX3_unit.data.toList.drop 235 = dktX3_unit_10 := dk_seg dksX3_unit_9 23 rfl rfl
theorem dX3_unit_0 : decode cX3_unit 0 = .ok (.aload_n 0, 1) := dk_42 (dk_at dksX3_unit_0 0 rfl rfl)
theorem dX3_unit_1 : decode cX3_unit 1 = .ok (.getfield 98, 3) := dk_180 0 98 (dk_at dksX3_unit_0 1 rfl rfl)
theorem dX3_unit_4 : decode cX3_unit 4 = .ok (.aload_n 0, 1) := dk_42 (dk_at dksX3_unit_0 4 rfl rfl)
theorem dX3_unit_5 : decode cX3_unit 5 = .ok (.getfield 409, 3) := dk_180 1 153 (dk_at dksX3_unit_0 5 rfl rfl)
theorem dX3_unit_8 : decode cX3_unit 8 = .ok (.iconst 1, 1) := dk_4 (dk_at dksX3_unit_0 8 rfl rfl)
theorem dX3_unit_9 : decode cX3_unit 9 = .ok (.isub, 1) := dk_100 (dk_at dksX3_unit_0 9 rfl rfl)
theorem dX3_unit_10 : decode cX3_unit 10 = .ok (.iaload, 1) := dk_46 (dk_at dksX3_unit_0 10 rfl rfl)
theorem dX3_unit_11 : decode cX3_unit 11 = .ok (.iconst 3, 1) := dk_6 (dk_at dksX3_unit_0 11 rfl rfl)
theorem dX3_unit_12 : decode cX3_unit 12 = .ok (.if_icmp .le 19, 3) := dk_164 0 19 (dk_at dksX3_unit_0 12 rfl rfl)
theorem dX3_unit_15 : decode cX3_unit 15 = .ok (.aload_n 0, 1) := dk_42 (dk_at dksX3_unit_0 15 rfl rfl)
theorem dX3_unit_16 : decode cX3_unit 16 = .ok (.getfield 98, 3) := dk_180 0 98 (dk_at dksX3_unit_0 16 rfl rfl)
theorem dX3_unit_19 : decode cX3_unit 19 = .ok (.aload_n 0, 1) := dk_42 (dk_at dksX3_unit_0 19 rfl rfl)
theorem dX3_unit_20 : decode cX3_unit 20 = .ok (.getfield 409, 3) := dk_180 1 153 (dk_at dksX3_unit_0 20 rfl rfl)
theorem dX3_unit_23 : decode cX3_unit 23 = .ok (.iconst 1, 1) := dk_4 (dk_at dksX3_unit_0 23 rfl rfl)
theorem dX3_unit_24 : decode cX3_unit 24 = .ok (.isub, 1) := dk_100 (dk_at dksX3_unit_1 0 rfl rfl)
theorem dX3_unit_25 : decode cX3_unit 25 = .ok (.iaload, 1) := dk_46 (dk_at dksX3_unit_1 1 rfl rfl)
theorem dX3_unit_26 : decode cX3_unit 26 = .ok (.bipush 7, 2) := dk_16 7 (dk_at dksX3_unit_1 2 rfl rfl)
theorem dX3_unit_28 : decode cX3_unit 28 = .ok (.if_icmp .lt 7, 3) := dk_161 0 7 (dk_at dksX3_unit_1 4 rfl rfl)
theorem dX3_unit_31 : decode cX3_unit 31 = .ok (.iconst 1, 1) := dk_4 (dk_at dksX3_unit_1 7 rfl rfl)
theorem dX3_unit_32 : decode cX3_unit 32 = .ok (.goto 4, 3) := dk_167 0 4 (dk_at dksX3_unit_1 8 rfl rfl)
theorem dX3_unit_35 : decode cX3_unit 35 = .ok (.iconst 0, 1) := dk_3 (dk_at dksX3_unit_1 11 rfl rfl)
theorem dX3_unit_36 : decode cX3_unit 36 = .ok (.istore_n 1, 1) := dk_60 (dk_at dksX3_unit_1 12 rfl rfl)
theorem dX3_unit_37 : decode cX3_unit 37 = .ok (.iload_n 1, 1) := dk_27 (dk_at dksX3_unit_1 13 rfl rfl)
theorem dX3_unit_38 : decode cX3_unit 38 = .ok (.ifCond .eq 17, 3) := dk_153 0 17 (dk_at dksX3_unit_1 14 rfl rfl)
theorem dX3_unit_41 : decode cX3_unit 41 = .ok (.aload_n 0, 1) := dk_42 (dk_at dksX3_unit_1 17 rfl rfl)
theorem dX3_unit_42 : decode cX3_unit 42 = .ok (.ldc2_w 222, 3) := dk_20 0 222 (dk_at dksX3_unit_1 18 rfl rfl)
theorem dX3_unit_45 : decode cX3_unit 45 = .ok (.invokevirtual 315, 3) := dk_182 1 59 (dk_at dksX3_unit_1 21 rfl rfl)
theorem dX3_unit_48 : decode cX3_unit 48 = .ok (.ifCond .eq 7, 3) := dk_153 0 7 (dk_at dksX3_unit_2 0 rfl rfl)
theorem dX3_unit_51 : decode cX3_unit 51 = .ok (.iconst 1, 1) := dk_4 (dk_at dksX3_unit_2 3 rfl rfl)
theorem dX3_unit_52 : decode cX3_unit 52 = .ok (.goto 4, 3) := dk_167 0 4 (dk_at dksX3_unit_2 4 rfl rfl)
theorem dX3_unit_55 : decode cX3_unit 55 = .ok (.iconst 0, 1) := dk_3 (dk_at dksX3_unit_2 7 rfl rfl)
theorem dX3_unit_56 : decode cX3_unit 56 = .ok (.istore_n 2, 1) := dk_61 (dk_at dksX3_unit_2 8 rfl rfl)
theorem dX3_unit_57 : decode cX3_unit 57 = .ok (.aload_n 0, 1) := dk_42 (dk_at dksX3_unit_2 9 rfl rfl)
theorem dX3_unit_58 : decode cX3_unit 58 = .ok (.bipush 40, 2) := dk_16 40 (dk_at dksX3_unit_2 10 rfl rfl)
theorem dX3_unit_60 : decode cX3_unit 60 = .ok (.invokevirtual 336, 3) := dk_182 1 80 (dk_at dksX3_unit_2 12 rfl rfl)
theorem dX3_unit_63 : decode cX3_unit 63 = .ok (.istore_n 3, 1) := dk_62 (dk_at dksX3_unit_2 15 rfl rfl)
theorem dX3_unit_64 : decode cX3_unit 64 = .ok (.aload_n 0, 1) := dk_42 (dk_at dksX3_unit_2 16 rfl rfl)
theorem dX3_unit_65 : decode cX3_unit 65 = .ok (.invokevirtual 424, 3) := dk_182 1 168 (dk_at dksX3_unit_2 17 rfl rfl)
theorem dX3_unit_68 : decode cX3_unit 68 = .ok (.istore 4, 2) := dk_54 4 (dk_at dksX3_unit_2 20 rfl rfl)
theorem dX3_unit_70 : decode cX3_unit 70 = .ok (.iload_n 2, 1) := dk_28 (dk_at dksX3_unit_2 22 rfl rfl)
theorem dX3_unit_71 : decode cX3_unit 71 = .ok (.ifCond .ne 29, 3) := dk_154 0 29 (dk_at dksX3_unit_3 0 rfl rfl)
theorem dX3_unit_74 : decode cX3_unit 74 = .ok (.iload 4, 2) := dk_21 4 (dk_at dksX3_unit_3 3 rfl rfl)
theorem dX3_unit_76 : decode cX3_unit 76 = .ok (.ifCond .ne 15, 3) := dk_154 0 15 (dk_at dksX3_unit_3 5 rfl rfl)
theorem dX3_unit_79 : decode cX3_unit 79 = .ok (.aload_n 0, 1) := dk_42 (dk_at dksX3_unit_3 8 rfl rfl)
theorem dX3_unit_80 : decode cX3_unit 80 = .ok (.getfield 256, 3) := dk_180 1 0 (dk_at dksX3_unit_3 9 rfl rfl)
theorem dX3_unit_83 : decode cX3_unit 83 = .ok (.iconst 4, 1) := dk_7 (dk_at dksX3_unit_3 12 rfl rfl)
theorem dX3_unit_84 : decode cX3_unit 84 = .ok (.if_icmp .eq 7, 3) := dk_159 0 7 (dk_at dksX3_unit_3 13 rfl rfl)
theorem dX3_unit_87 : decode cX3_unit 87 = .ok (.iload_n 3, 1) := dk_29 (dk_at dksX3_unit_3 16 rfl rfl)
theorem dX3_unit_88 : decode cX3_unit 88 = .ok (.ifCond .eq 29, 3) := dk_153 0 29 (dk_at dksX3_unit_3 17 rfl rfl)
theorem dX3_unit_91 : decode cX3_unit 91 = .ok (.aload_n 0, 1) := dk_42 (dk_at dksX3_unit_3 20 rfl rfl)
theorem dX3_unit_92 : decode cX3_unit 92 = .ok (.getfield 397, 3) := dk_180 1 141 (dk_at dksX3_unit_3 21 rfl rfl)
theorem dX3_unit_95 : decode cX3_unit 95 = .ok (.bipush 60, 2) := dk_16 60 (dk_at dksX3_unit_4 0 rfl rfl)
theorem dX3_unit_97 : decode cX3_unit 97 = .ok (.if_icmp .eq 20, 3) := dk_159 0 20 (dk_at dksX3_unit_4 2 rfl rfl)
theorem dX3_unit_100 : decode cX3_unit 100 = .ok (.iload_n 2, 1) := dk_28 (dk_at dksX3_unit_4 5 rfl rfl)
theorem dX3_unit_101 : decode cX3_unit 101 = .ok (.ifCond .ne 7, 3) := dk_154 0 7 (dk_at dksX3_unit_4 6 rfl rfl)
theorem dX3_unit_104 : decode cX3_unit 104 = .ok (.iload_n 3, 1) := dk_29 (dk_at dksX3_unit_4 9 rfl rfl)
theorem dX3_unit_105 : decode cX3_unit 105 = .ok (.ifCond .eq 16, 3) := dk_153 0 16 (dk_at dksX3_unit_4 10 rfl rfl)
theorem dX3_unit_108 : decode cX3_unit 108 = .ok (.aload_n 0, 1) := dk_42 (dk_at dksX3_unit_4 13 rfl rfl)
theorem dX3_unit_109 : decode cX3_unit 109 = .ok (.getfield 412, 3) := dk_180 1 156 (dk_at dksX3_unit_4 14 rfl rfl)
theorem dX3_unit_112 : decode cX3_unit 112 = .ok (.bipush 7, 2) := dk_16 7 (dk_at dksX3_unit_4 17 rfl rfl)
theorem dX3_unit_114 : decode cX3_unit 114 = .ok (.if_icmp .ne 7, 3) := dk_160 0 7 (dk_at dksX3_unit_4 19 rfl rfl)
theorem dX3_unit_117 : decode cX3_unit 117 = .ok (.aload_n 0, 1) := dk_42 (dk_at dksX3_unit_4 22 rfl rfl)
theorem dX3_unit_118 : decode cX3_unit 118 = .ok (.invokevirtual 291, 3) := dk_182 1 35 (dk_at dksX3_unit_5 0 rfl rfl)
theorem dX3_unit_121 : decode cX3_unit 121 = .ok (.aload_n 0, 1) := dk_42 (dk_at dksX3_unit_5 3 rfl rfl)
theorem dX3_unit_122 : decode cX3_unit 122 = .ok (.invokevirtual 284, 3) := dk_182 1 28 (dk_at dksX3_unit_5 4 rfl rfl)
theorem dX3_unit_125 : decode cX3_unit 125 = .ok (.ifCond .eq 22, 3) := dk_153 0 22 (dk_at dksX3_unit_5 7 rfl rfl)
theorem dX3_unit_128 : decode cX3_unit 128 = .ok (.aload_n 0, 1) := dk_42 (dk_at dksX3_unit_5 10 rfl rfl)
theorem dX3_unit_129 : decode cX3_unit 129 = .ok (.iload 4, 2) := dk_21 4 (dk_at dksX3_unit_5 11 rfl rfl)
theorem dX3_unit_131 : decode cX3_unit 131 = .ok (.invokevirtual 427, 3) := dk_182 1 171 (dk_at dksX3_unit_5 13 rfl rfl)
theorem dX3_unit_134 : decode cX3_unit 134 = .ok (.ifCond .ne 13, 3) := dk_154 0 13 (dk_at dksX3_unit_5 16 rfl rfl)
theorem dX3_unit_137 : decode cX3_unit 137 = .ok (.aload_n 0, 1) := dk_42 (dk_at dksX3_unit_5 19 rfl rfl)
theorem dX3_unit_138 : decode cX3_unit 138 = .ok (.bipush 7, 2) := dk_16 7 (dk_at dksX3_unit_5 20 rfl rfl)
theorem dX3_unit_140 : decode cX3_unit 140 = .ok (.aload_n 0, 1) := dk_42 (dk_at dksX3_unit_5 22 rfl rfl)
theorem dX3_unit_141 : decode cX3_unit 141 = .ok (.getfield 249, 3) := dk_180 0 249 (dk_at dksX3_unit_6 0 rfl rfl)
theorem dX3_unit_144 : decode cX3_unit 144 = .ok (.invokevirtual 280, 3) := dk_182 1 24 (dk_at dksX3_unit_6 3 rfl rfl)
theorem dX3_unit_147 : decode cX3_unit 147 = .ok (.aload_n 0, 1) := dk_42 (dk_at dksX3_unit_6 6 rfl rfl)
theorem dX3_unit_148 : decode cX3_unit 148 = .ok (.invokevirtual 284, 3) := dk_182 1 28 (dk_at dksX3_unit_6 7 rfl rfl)
theorem dX3_unit_151 : decode cX3_unit 151 = .ok (.ifCond .ne 5, 3) := dk_154 0 5 (dk_at dksX3_unit_6 10 rfl rfl)
theorem dX3_unit_154 : decode cX3_unit 154 = .ok (.iconst 1, 1) := dk_4 (dk_at dksX3_unit_6 13 rfl rfl)
theorem dX3_unit_155 : decode cX3_unit 155 = .ok (.ireturn, 1) := dk_172 (dk_at dksX3_unit_6 14 rfl rfl)
theorem dX3_unit_156 : decode cX3_unit 156 = .ok (.aload_n 0, 1) := dk_42 (dk_at dksX3_unit_6 15 rfl rfl)
theorem dX3_unit_157 : decode cX3_unit 157 = .ok (.dup, 1) := dk_89 (dk_at dksX3_unit_6 16 rfl rfl)
theorem dX3_unit_158 : decode cX3_unit 158 = .ok (.getfield 397, 3) := dk_180 1 141 (dk_at dksX3_unit_6 17 rfl rfl)
theorem dX3_unit_161 : decode cX3_unit 161 = .ok (.iload_n 2, 1) := dk_28 (dk_at dksX3_unit_6 20 rfl rfl)
theorem dX3_unit_162 : decode cX3_unit 162 = .ok (.ifCond .eq 7, 3) := dk_153 0 7 (dk_at dksX3_unit_6 21 rfl rfl)
theorem dX3_unit_165 : decode cX3_unit 165 = .ok (.iconst 0, 1) := dk_3 (dk_at dksX3_unit_7 0 rfl rfl)
theorem dX3_unit_166 : decode cX3_unit 166 = .ok (.goto 4, 3) := dk_167 0 4 (dk_at dksX3_unit_7 1 rfl rfl)
theorem dX3_unit_169 : decode cX3_unit 169 = .ok (.iconst 1, 1) := dk_4 (dk_at dksX3_unit_7 4 rfl rfl)
theorem dX3_unit_170 : decode cX3_unit 170 = .ok (.iadd, 1) := dk_96 (dk_at dksX3_unit_7 5 rfl rfl)
theorem dX3_unit_171 : decode cX3_unit 171 = .ok (.putfield 397, 3) := dk_181 1 141 (dk_at dksX3_unit_7 6 rfl rfl)
theorem dX3_unit_174 : decode cX3_unit 174 = .ok (.iload 4, 2) := dk_21 4 (dk_at dksX3_unit_7 9 rfl rfl)
theorem dX3_unit_176 : decode cX3_unit 176 = .ok (.ifCond .ne 10, 3) := dk_154 0 10 (dk_at dksX3_unit_7 11 rfl rfl)
theorem dX3_unit_179 : decode cX3_unit 179 = .ok (.aload_n 0, 1) := dk_42 (dk_at dksX3_unit_7 14 rfl rfl)
theorem dX3_unit_180 : decode cX3_unit 180 = .ok (.getfield 274, 3) := dk_180 1 18 (dk_at dksX3_unit_7 15 rfl rfl)
theorem dX3_unit_183 : decode cX3_unit 183 = .ok (.goto 4, 3) := dk_167 0 4 (dk_at dksX3_unit_7 18 rfl rfl)
theorem dX3_unit_186 : decode cX3_unit 186 = .ok (.iconst 0, 1) := dk_3 (dk_at dksX3_unit_7 21 rfl rfl)
theorem dX3_unit_187 : decode cX3_unit 187 = .ok (.istore 5, 2) := dk_54 5 (dk_at dksX3_unit_7 22 rfl rfl)
theorem dX3_unit_189 : decode cX3_unit 189 = .ok (.aload_n 0, 1) := dk_42 (dk_at dksX3_unit_8 0 rfl rfl)
theorem dX3_unit_190 : decode cX3_unit 190 = .ok (.invokevirtual 288, 3) := dk_182 1 32 (dk_at dksX3_unit_8 1 rfl rfl)
theorem dX3_unit_193 : decode cX3_unit 193 = .ok (.iload_n 2, 1) := dk_28 (dk_at dksX3_unit_8 4 rfl rfl)
theorem dX3_unit_194 : decode cX3_unit 194 = .ok (.ifCond .ne 7, 3) := dk_154 0 7 (dk_at dksX3_unit_8 5 rfl rfl)
theorem dX3_unit_197 : decode cX3_unit 197 = .ok (.iload_n 3, 1) := dk_29 (dk_at dksX3_unit_8 8 rfl rfl)
theorem dX3_unit_198 : decode cX3_unit 198 = .ok (.ifCond .eq 31, 3) := dk_153 0 31 (dk_at dksX3_unit_8 9 rfl rfl)
theorem dX3_unit_201 : decode cX3_unit 201 = .ok (.aload_n 0, 1) := dk_42 (dk_at dksX3_unit_8 12 rfl rfl)
theorem dX3_unit_202 : decode cX3_unit 202 = .ok (.iload_n 2, 1) := dk_28 (dk_at dksX3_unit_8 13 rfl rfl)
theorem dX3_unit_203 : decode cX3_unit 203 = .ok (.ifCond .eq 7, 3) := dk_153 0 7 (dk_at dksX3_unit_8 14 rfl rfl)
theorem dX3_unit_206 : decode cX3_unit 206 = .ok (.iconst 3, 1) := dk_6 (dk_at dksX3_unit_8 17 rfl rfl)
theorem dX3_unit_207 : decode cX3_unit 207 = .ok (.goto 5, 3) := dk_167 0 5 (dk_at dksX3_unit_8 18 rfl rfl)
theorem dX3_unit_210 : decode cX3_unit 210 = .ok (.bipush 7, 2) := dk_16 7 (dk_at dksX3_unit_8 21 rfl rfl)
theorem dX3_unit_212 : decode cX3_unit 212 = .ok (.bipush 126, 2) := dk_16 126 (dk_at dksX3_unit_9 0 rfl rfl)
theorem dX3_unit_214 : decode cX3_unit 214 = .ok (.invokevirtual 415, 3) := dk_182 1 159 (dk_at dksX3_unit_9 2 rfl rfl)
theorem dX3_unit_217 : decode cX3_unit 217 = .ok (.aload_n 0, 1) := dk_42 (dk_at dksX3_unit_9 5 rfl rfl)
theorem dX3_unit_218 : decode cX3_unit 218 = .ok (.dup, 1) := dk_89 (dk_at dksX3_unit_9 6 rfl rfl)
theorem dX3_unit_219 : decode cX3_unit 219 = .ok (.getfield 412, 3) := dk_180 1 156 (dk_at dksX3_unit_9 7 rfl rfl)
theorem dX3_unit_222 : decode cX3_unit 222 = .ok (.iconst 1, 1) := dk_4 (dk_at dksX3_unit_9 10 rfl rfl)
theorem dX3_unit_223 : decode cX3_unit 223 = .ok (.iadd, 1) := dk_96 (dk_at dksX3_unit_9 11 rfl rfl)
theorem dX3_unit_224 : decode cX3_unit 224 = .ok (.putfield 412, 3) := dk_181 1 156 (dk_at dksX3_unit_9 12 rfl rfl)
theorem dX3_unit_227 : decode cX3_unit 227 = .ok (.iconst 1, 1) := dk_4 (dk_at dksX3_unit_9 15 rfl rfl)
theorem dX3_unit_228 : decode cX3_unit 228 = .ok (.ireturn, 1) := dk_172 (dk_at dksX3_unit_9 16 rfl rfl)
theorem dX3_unit_229 : decode cX3_unit 229 = .ok (.aload_n 0, 1) := dk_42 (dk_at dksX3_unit_9 17 rfl rfl)
theorem dX3_unit_230 : decode cX3_unit 230 = .ok (.iload 4, 2) := dk_21 4 (dk_at dksX3_unit_9 18 rfl rfl)
theorem dX3_unit_232 : decode cX3_unit 232 = .ok (.ifCond .ne 8, 3) := dk_154 0 8 (dk_at dksX3_unit_9 20 rfl rfl)
theorem dX3_unit_235 : decode cX3_unit 235 = .ok (.bipush 110, 2) := dk_16 110 (dk_at dksX3_unit_10 0 rfl rfl)
theorem dX3_unit_237 : decode cX3_unit 237 = .ok (.goto 5, 3) := dk_167 0 5 (dk_at dksX3_unit_10 2 rfl rfl)
theorem dX3_unit_240 : decode cX3_unit 240 = .ok (.iload 4, 2) := dk_21 4 (dk_at dksX3_unit_10 5 rfl rfl)
theorem dX3_unit_242 : decode cX3_unit 242 = .ok (.iload 5, 2) := dk_21 5 (dk_at dksX3_unit_10 7 rfl rfl)
theorem dX3_unit_244 : decode cX3_unit 244 = .ok (.invokevirtual 430, 3) := dk_182 1 174 (dk_at dksX3_unit_10 9 rfl rfl)
theorem dX3_unit_247 : decode cX3_unit 247 = .ok (.iconst 0, 1) := dk_3 (dk_at dksX3_unit_10 12 rfl rfl)
theorem dX3_unit_248 : decode cX3_unit 248 = .ok (.ireturn, 1) := dk_172 (dk_at dksX3_unit_10 13 rfl rfl)
abbrev cX3_unlikeToFly : ByteArray := prog_24_method_56_code
def dkwX3_unlikeToFly_3 : List UInt8 := [167, 255, 208, 132, 4, 1, 167, 255, 192, 132, 3, 1, 167, 255, 177, 2, 172]
abbrev dktX3_unlikeToFly_3 : List UInt8 := dkwX3_unlikeToFly_3 ++ []
def dkwX3_unlikeToFly_2 : List UInt8 := [182, 1, 226, 159, 0, 18, 17, 39, 16, 29, 104, 16, 100, 21, 4, 104, 96, 21, 5, 96, 172, 132, 5, 1]
abbrev dktX3_unlikeToFly_2 : List UInt8 := dkwX3_unlikeToFly_2 ++ dktX3_unlikeToFly_3
def dkwX3_unlikeToFly_1 : List UInt8 := [16, 31, 162, 0, 47, 42, 27, 29, 21, 4, 21, 5, 182, 1, 226, 42, 28, 29, 21, 4, 21, 5]
abbrev dktX3_unlikeToFly_1 : List UInt8 := dkwX3_unlikeToFly_1 ++ dktX3_unlikeToFly_2
def dkwX3_unlikeToFly_0 : List UInt8 := [3, 62, 29, 16, 8, 162, 0, 79, 3, 54, 4, 21, 4, 16, 24, 162, 0, 63, 3, 54, 5, 21, 5]
abbrev dktX3_unlikeToFly_0 : List UInt8 := dkwX3_unlikeToFly_0 ++ dktX3_unlikeToFly_1
theorem dksX3_unlikeToFly_0 : cX3_unlikeToFly.data.toList.drop 0 = dktX3_unlikeToFly_0 := by decide +kernel
theorem dksX3_unlikeToFly_1 : cX3_unlikeToFly.data.toList.drop 23 = dktX3_unlikeToFly_1 := dk_seg dksX3_unlikeToFly_0 23 rfl rfl
theorem dksX3_unlikeToFly_2 : cX3_unlikeToFly.data.toList.drop 45 = dktX3_unlikeToFly_2 := dk_seg dksX3_unlikeToFly_1 22 rfl rfl
theorem dksX3_unlikeToFly_3 : cX3_unlikeToFly.data.toList.drop 69 = dktX3_unlikeToFly_3 := dk_seg dksX3_unlikeToFly_2 24 rfl rfl
theorem dX3_unlikeToFly_0 : decode cX3_unlikeToFly 0 = .ok (.iconst 0, 1) := dk_3 (dk_at dksX3_unlikeToFly_0 0 rfl rfl)
theorem dX3_unlikeToFly_1 : decode cX3_unlikeToFly 1 = .ok (.istore_n 3, 1) := dk_62 (dk_at dksX3_unlikeToFly_0 1 rfl rfl)
theorem dX3_unlikeToFly_2 : decode cX3_unlikeToFly 2 = .ok (.iload_n 3, 1) := dk_29 (dk_at dksX3_unlikeToFly_0 2 rfl rfl)
theorem dX3_unlikeToFly_3 : decode cX3_unlikeToFly 3 = .ok (.bipush 8, 2) := dk_16 8 (dk_at dksX3_unlikeToFly_0 3 rfl rfl)
theorem dX3_unlikeToFly_5 : decode cX3_unlikeToFly 5 = .ok (.if_icmp .ge 79, 3) := dk_162 0 79 (dk_at dksX3_unlikeToFly_0 5 rfl rfl)
theorem dX3_unlikeToFly_8 : decode cX3_unlikeToFly 8 = .ok (.iconst 0, 1) := dk_3 (dk_at dksX3_unlikeToFly_0 8 rfl rfl)
theorem dX3_unlikeToFly_9 : decode cX3_unlikeToFly 9 = .ok (.istore 4, 2) := dk_54 4 (dk_at dksX3_unlikeToFly_0 9 rfl rfl)
theorem dX3_unlikeToFly_11 : decode cX3_unlikeToFly 11 = .ok (.iload 4, 2) := dk_21 4 (dk_at dksX3_unlikeToFly_0 11 rfl rfl)
theorem dX3_unlikeToFly_13 : decode cX3_unlikeToFly 13 = .ok (.bipush 24, 2) := dk_16 24 (dk_at dksX3_unlikeToFly_0 13 rfl rfl)
theorem dX3_unlikeToFly_15 : decode cX3_unlikeToFly 15 = .ok (.if_icmp .ge 63, 3) := dk_162 0 63 (dk_at dksX3_unlikeToFly_0 15 rfl rfl)
theorem dX3_unlikeToFly_18 : decode cX3_unlikeToFly 18 = .ok (.iconst 0, 1) := dk_3 (dk_at dksX3_unlikeToFly_0 18 rfl rfl)
theorem dX3_unlikeToFly_19 : decode cX3_unlikeToFly 19 = .ok (.istore 5, 2) := dk_54 5 (dk_at dksX3_unlikeToFly_0 19 rfl rfl)
theorem dX3_unlikeToFly_21 : decode cX3_unlikeToFly 21 = .ok (.iload 5, 2) := dk_21 5 (dk_at dksX3_unlikeToFly_0 21 rfl rfl)
theorem dX3_unlikeToFly_23 : decode cX3_unlikeToFly 23 = .ok (.bipush 31, 2) := dk_16 31 (dk_at dksX3_unlikeToFly_1 0 rfl rfl)
theorem dX3_unlikeToFly_25 : decode cX3_unlikeToFly 25 = .ok (.if_icmp .ge 47, 3) := dk_162 0 47 (dk_at dksX3_unlikeToFly_1 2 rfl rfl)
theorem dX3_unlikeToFly_28 : decode cX3_unlikeToFly 28 = .ok (.aload_n 0, 1) := dk_42 (dk_at dksX3_unlikeToFly_1 5 rfl rfl)
theorem dX3_unlikeToFly_29 : decode cX3_unlikeToFly 29 = .ok (.iload_n 1, 1) := dk_27 (dk_at dksX3_unlikeToFly_1 6 rfl rfl)
theorem dX3_unlikeToFly_30 : decode cX3_unlikeToFly 30 = .ok (.iload_n 3, 1) := dk_29 (dk_at dksX3_unlikeToFly_1 7 rfl rfl)
theorem dX3_unlikeToFly_31 : decode cX3_unlikeToFly 31 = .ok (.iload 4, 2) := dk_21 4 (dk_at dksX3_unlikeToFly_1 8 rfl rfl)
theorem dX3_unlikeToFly_33 : decode cX3_unlikeToFly 33 = .ok (.iload 5, 2) := dk_21 5 (dk_at dksX3_unlikeToFly_1 10 rfl rfl)
theorem dX3_unlikeToFly_35 : decode cX3_unlikeToFly 35 = .ok (.invokevirtual 482, 3) := dk_182 1 226 (dk_at dksX3_unlikeToFly_1 12 rfl rfl)
theorem dX3_unlikeToFly_38 : decode cX3_unlikeToFly 38 = .ok (.aload_n 0, 1) := dk_42 (dk_at dksX3_unlikeToFly_1 15 rfl rfl)
theorem dX3_unlikeToFly_39 : decode cX3_unlikeToFly 39 = .ok (.iload_n 2, 1) := dk_28 (dk_at dksX3_unlikeToFly_1 16 rfl rfl)
theorem dX3_unlikeToFly_40 : decode cX3_unlikeToFly 40 = .ok (.iload_n 3, 1) := dk_29 (dk_at dksX3_unlikeToFly_1 17 rfl rfl)
theorem dX3_unlikeToFly_41 : decode cX3_unlikeToFly 41 = .ok (.iload 4, 2) := dk_21 4 (dk_at dksX3_unlikeToFly_1 18 rfl rfl)
theorem dX3_unlikeToFly_43 : decode cX3_unlikeToFly 43 = .ok (.iload 5, 2) := dk_21 5 (dk_at dksX3_unlikeToFly_1 20 rfl rfl)
theorem dX3_unlikeToFly_45 : decode cX3_unlikeToFly 45 = .ok (.invokevirtual 482, 3) := dk_182 1 226 (dk_at dksX3_unlikeToFly_2 0 rfl rfl)
theorem dX3_unlikeToFly_48 : decode cX3_unlikeToFly 48 = .ok (.if_icmp .eq 18, 3) := dk_159 0 18 (dk_at dksX3_unlikeToFly_2 3 rfl rfl)
theorem dX3_unlikeToFly_51 : decode cX3_unlikeToFly 51 = .ok (.sipush 10000, 3) := dk_17 39 16 (dk_at dksX3_unlikeToFly_2 6 rfl rfl)
theorem dX3_unlikeToFly_54 : decode cX3_unlikeToFly 54 = .ok (.iload_n 3, 1) := dk_29 (dk_at dksX3_unlikeToFly_2 9 rfl rfl)
theorem dX3_unlikeToFly_55 : decode cX3_unlikeToFly 55 = .ok (.imul, 1) := dk_104 (dk_at dksX3_unlikeToFly_2 10 rfl rfl)
theorem dX3_unlikeToFly_56 : decode cX3_unlikeToFly 56 = .ok (.bipush 100, 2) := dk_16 100 (dk_at dksX3_unlikeToFly_2 11 rfl rfl)
theorem dX3_unlikeToFly_58 : decode cX3_unlikeToFly 58 = .ok (.iload 4, 2) := dk_21 4 (dk_at dksX3_unlikeToFly_2 13 rfl rfl)
theorem dX3_unlikeToFly_60 : decode cX3_unlikeToFly 60 = .ok (.imul, 1) := dk_104 (dk_at dksX3_unlikeToFly_2 15 rfl rfl)
theorem dX3_unlikeToFly_61 : decode cX3_unlikeToFly 61 = .ok (.iadd, 1) := dk_96 (dk_at dksX3_unlikeToFly_2 16 rfl rfl)
theorem dX3_unlikeToFly_62 : decode cX3_unlikeToFly 62 = .ok (.iload 5, 2) := dk_21 5 (dk_at dksX3_unlikeToFly_2 17 rfl rfl)
theorem dX3_unlikeToFly_64 : decode cX3_unlikeToFly 64 = .ok (.iadd, 1) := dk_96 (dk_at dksX3_unlikeToFly_2 19 rfl rfl)
theorem dX3_unlikeToFly_65 : decode cX3_unlikeToFly 65 = .ok (.ireturn, 1) := dk_172 (dk_at dksX3_unlikeToFly_2 20 rfl rfl)
theorem dX3_unlikeToFly_66 : decode cX3_unlikeToFly 66 = .ok (.iinc 5 1, 3) := dk_132 5 1 (dk_at dksX3_unlikeToFly_2 21 rfl rfl)
theorem dX3_unlikeToFly_69 : decode cX3_unlikeToFly 69 = .ok (.goto (-48), 3) := dk_167 255 208 (dk_at dksX3_unlikeToFly_3 0 rfl rfl)
theorem dX3_unlikeToFly_72 : decode cX3_unlikeToFly 72 = .ok (.iinc 4 1, 3) := dk_132 4 1 (dk_at dksX3_unlikeToFly_3 3 rfl rfl)
theorem dX3_unlikeToFly_75 : decode cX3_unlikeToFly 75 = .ok (.goto (-64), 3) := dk_167 255 192 (dk_at dksX3_unlikeToFly_3 6 rfl rfl)
theorem dX3_unlikeToFly_78 : decode cX3_unlikeToFly 78 = .ok (.iinc 3 1, 3) := dk_132 3 1 (dk_at dksX3_unlikeToFly_3 9 rfl rfl)
theorem dX3_unlikeToFly_81 : decode cX3_unlikeToFly 81 = .ok (.goto (-79), 3) := dk_167 255 177 (dk_at dksX3_unlikeToFly_3 12 rfl rfl)
theorem dX3_unlikeToFly_84 : decode cX3_unlikeToFly 84 = .ok (.iconst (-1), 1) := dk_2 (dk_at dksX3_unlikeToFly_3 15 rfl rfl)
theorem dX3_unlikeToFly_85 : decode cX3_unlikeToFly 85 = .ok (.ireturn, 1) := dk_172 (dk_at dksX3_unlikeToFly_3 16 rfl rfl)
abbrev cX3_unlike : ByteArray := prog_24_method_57_code
def dkwX3_unlike_3 : List UInt8 := [16, 100, 21, 4, 104, 21, 5, 96, 172, 132, 5, 1, 167, 255, 216, 132, 4, 1, 167, 255, 199, 2, 172]
abbrev dktX3_unlike_3 : List UInt8 := dkwX3_unlike_3 ++ []
def dkwX3_unlike_2 : List UInt8 := [162, 0, 39, 42, 27, 21, 4, 21, 5, 182, 1, 233, 42, 28, 21, 4, 21, 5, 182, 1, 233, 159, 0, 12]
abbrev dktX3_unlike_2 : List UInt8 := dkwX3_unlike_2 ++ dktX3_unlike_3
def dkwX3_unlike_1 : List UInt8 := [182, 1, 230, 172, 3, 54, 4, 21, 4, 17, 0, 200, 162, 0, 55, 3, 54, 5, 21, 5, 16, 100]
abbrev dktX3_unlike_1 : List UInt8 := dkwX3_unlike_1 ++ dktX3_unlike_2
def dkwX3_unlike_0 : List UInt8 := [27, 184, 1, 135, 153, 0, 10, 28, 184, 1, 135, 154, 0, 5, 2, 172, 29, 153, 0, 10, 42, 27, 28]
abbrev dktX3_unlike_0 : List UInt8 := dkwX3_unlike_0 ++ dktX3_unlike_1
theorem dksX3_unlike_0 : cX3_unlike.data.toList.drop 0 = dktX3_unlike_0 := by decide +kernel
theorem dksX3_unlike_1 : cX3_unlike.data.toList.drop 23 = dktX3_unlike_1 := dk_seg dksX3_unlike_0 23 rfl rfl
theorem dksX3_unlike_2 : cX3_unlike.data.toList.drop 45 = dktX3_unlike_2 := dk_seg dksX3_unlike_1 22 rfl rfl
theorem dksX3_unlike_3 : cX3_unlike.data.toList.drop 69 = dktX3_unlike_3 := dk_seg dksX3_unlike_2 24 rfl rfl
theorem dX3_unlike_0 : decode cX3_unlike 0 = .ok (.iload_n 1, 1) := dk_27 (dk_at dksX3_unlike_0 0 rfl rfl)
theorem dX3_unlike_1 : decode cX3_unlike 1 = .ok (.invokestatic 391, 3) := dk_184 1 135 (dk_at dksX3_unlike_0 1 rfl rfl)
theorem dX3_unlike_4 : decode cX3_unlike 4 = .ok (.ifCond .eq 10, 3) := dk_153 0 10 (dk_at dksX3_unlike_0 4 rfl rfl)
theorem dX3_unlike_7 : decode cX3_unlike 7 = .ok (.iload_n 2, 1) := dk_28 (dk_at dksX3_unlike_0 7 rfl rfl)
theorem dX3_unlike_8 : decode cX3_unlike 8 = .ok (.invokestatic 391, 3) := dk_184 1 135 (dk_at dksX3_unlike_0 8 rfl rfl)
theorem dX3_unlike_11 : decode cX3_unlike 11 = .ok (.ifCond .ne 5, 3) := dk_154 0 5 (dk_at dksX3_unlike_0 11 rfl rfl)
theorem dX3_unlike_14 : decode cX3_unlike 14 = .ok (.iconst (-1), 1) := dk_2 (dk_at dksX3_unlike_0 14 rfl rfl)
theorem dX3_unlike_15 : decode cX3_unlike 15 = .ok (.ireturn, 1) := dk_172 (dk_at dksX3_unlike_0 15 rfl rfl)
theorem dX3_unlike_16 : decode cX3_unlike 16 = .ok (.iload_n 3, 1) := dk_29 (dk_at dksX3_unlike_0 16 rfl rfl)
theorem dX3_unlike_17 : decode cX3_unlike 17 = .ok (.ifCond .eq 10, 3) := dk_153 0 10 (dk_at dksX3_unlike_0 17 rfl rfl)
theorem dX3_unlike_20 : decode cX3_unlike 20 = .ok (.aload_n 0, 1) := dk_42 (dk_at dksX3_unlike_0 20 rfl rfl)
theorem dX3_unlike_21 : decode cX3_unlike 21 = .ok (.iload_n 1, 1) := dk_27 (dk_at dksX3_unlike_0 21 rfl rfl)
theorem dX3_unlike_22 : decode cX3_unlike 22 = .ok (.iload_n 2, 1) := dk_28 (dk_at dksX3_unlike_0 22 rfl rfl)
theorem dX3_unlike_23 : decode cX3_unlike 23 = .ok (.invokevirtual 486, 3) := dk_182 1 230 (dk_at dksX3_unlike_1 0 rfl rfl)
theorem dX3_unlike_26 : decode cX3_unlike 26 = .ok (.ireturn, 1) := dk_172 (dk_at dksX3_unlike_1 3 rfl rfl)
theorem dX3_unlike_27 : decode cX3_unlike 27 = .ok (.iconst 0, 1) := dk_3 (dk_at dksX3_unlike_1 4 rfl rfl)
theorem dX3_unlike_28 : decode cX3_unlike 28 = .ok (.istore 4, 2) := dk_54 4 (dk_at dksX3_unlike_1 5 rfl rfl)
theorem dX3_unlike_30 : decode cX3_unlike 30 = .ok (.iload 4, 2) := dk_21 4 (dk_at dksX3_unlike_1 7 rfl rfl)
theorem dX3_unlike_32 : decode cX3_unlike 32 = .ok (.sipush 200, 3) := dk_17 0 200 (dk_at dksX3_unlike_1 9 rfl rfl)
theorem dX3_unlike_35 : decode cX3_unlike 35 = .ok (.if_icmp .ge 55, 3) := dk_162 0 55 (dk_at dksX3_unlike_1 12 rfl rfl)
theorem dX3_unlike_38 : decode cX3_unlike 38 = .ok (.iconst 0, 1) := dk_3 (dk_at dksX3_unlike_1 15 rfl rfl)
theorem dX3_unlike_39 : decode cX3_unlike 39 = .ok (.istore 5, 2) := dk_54 5 (dk_at dksX3_unlike_1 16 rfl rfl)
theorem dX3_unlike_41 : decode cX3_unlike 41 = .ok (.iload 5, 2) := dk_21 5 (dk_at dksX3_unlike_1 18 rfl rfl)
theorem dX3_unlike_43 : decode cX3_unlike 43 = .ok (.bipush 100, 2) := dk_16 100 (dk_at dksX3_unlike_1 20 rfl rfl)
theorem dX3_unlike_45 : decode cX3_unlike 45 = .ok (.if_icmp .ge 39, 3) := dk_162 0 39 (dk_at dksX3_unlike_2 0 rfl rfl)
theorem dX3_unlike_48 : decode cX3_unlike 48 = .ok (.aload_n 0, 1) := dk_42 (dk_at dksX3_unlike_2 3 rfl rfl)
theorem dX3_unlike_49 : decode cX3_unlike 49 = .ok (.iload_n 1, 1) := dk_27 (dk_at dksX3_unlike_2 4 rfl rfl)
theorem dX3_unlike_50 : decode cX3_unlike 50 = .ok (.iload 4, 2) := dk_21 4 (dk_at dksX3_unlike_2 5 rfl rfl)
theorem dX3_unlike_52 : decode cX3_unlike 52 = .ok (.iload 5, 2) := dk_21 5 (dk_at dksX3_unlike_2 7 rfl rfl)
theorem dX3_unlike_54 : decode cX3_unlike 54 = .ok (.invokevirtual 489, 3) := dk_182 1 233 (dk_at dksX3_unlike_2 9 rfl rfl)
theorem dX3_unlike_57 : decode cX3_unlike 57 = .ok (.aload_n 0, 1) := dk_42 (dk_at dksX3_unlike_2 12 rfl rfl)
theorem dX3_unlike_58 : decode cX3_unlike 58 = .ok (.iload_n 2, 1) := dk_28 (dk_at dksX3_unlike_2 13 rfl rfl)
theorem dX3_unlike_59 : decode cX3_unlike 59 = .ok (.iload 4, 2) := dk_21 4 (dk_at dksX3_unlike_2 14 rfl rfl)
theorem dX3_unlike_61 : decode cX3_unlike 61 = .ok (.iload 5, 2) := dk_21 5 (dk_at dksX3_unlike_2 16 rfl rfl)
theorem dX3_unlike_63 : decode cX3_unlike 63 = .ok (.invokevirtual 489, 3) := dk_182 1 233 (dk_at dksX3_unlike_2 18 rfl rfl)
theorem dX3_unlike_66 : decode cX3_unlike 66 = .ok (.if_icmp .eq 12, 3) := dk_159 0 12 (dk_at dksX3_unlike_2 21 rfl rfl)
theorem dX3_unlike_69 : decode cX3_unlike 69 = .ok (.bipush 100, 2) := dk_16 100 (dk_at dksX3_unlike_3 0 rfl rfl)
theorem dX3_unlike_71 : decode cX3_unlike 71 = .ok (.iload 4, 2) := dk_21 4 (dk_at dksX3_unlike_3 2 rfl rfl)
theorem dX3_unlike_73 : decode cX3_unlike 73 = .ok (.imul, 1) := dk_104 (dk_at dksX3_unlike_3 4 rfl rfl)
theorem dX3_unlike_74 : decode cX3_unlike 74 = .ok (.iload 5, 2) := dk_21 5 (dk_at dksX3_unlike_3 5 rfl rfl)
theorem dX3_unlike_76 : decode cX3_unlike 76 = .ok (.iadd, 1) := dk_96 (dk_at dksX3_unlike_3 7 rfl rfl)
theorem dX3_unlike_77 : decode cX3_unlike 77 = .ok (.ireturn, 1) := dk_172 (dk_at dksX3_unlike_3 8 rfl rfl)
theorem dX3_unlike_78 : decode cX3_unlike 78 = .ok (.iinc 5 1, 3) := dk_132 5 1 (dk_at dksX3_unlike_3 9 rfl rfl)
theorem dX3_unlike_81 : decode cX3_unlike 81 = .ok (.goto (-40), 3) := dk_167 255 216 (dk_at dksX3_unlike_3 12 rfl rfl)
theorem dX3_unlike_84 : decode cX3_unlike 84 = .ok (.iinc 4 1, 3) := dk_132 4 1 (dk_at dksX3_unlike_3 15 rfl rfl)
theorem dX3_unlike_87 : decode cX3_unlike 87 = .ok (.goto (-57), 3) := dk_167 255 199 (dk_at dksX3_unlike_3 18 rfl rfl)
theorem dX3_unlike_90 : decode cX3_unlike 90 = .ok (.iconst (-1), 1) := dk_2 (dk_at dksX3_unlike_3 21 rfl rfl)
theorem dX3_unlike_91 : decode cX3_unlike 91 = .ok (.ireturn, 1) := dk_172 (dk_at dksX3_unlike_3 22 rfl rfl)
abbrev cX3_untell : ByteArray := prog_24_method_63_code
def dkwX3_untell_1 : List UInt8 := [180, 0, 122, 27, 42, 180, 1, 236, 79, 4, 172]
abbrev dktX3_untell_1 : List UInt8 := dkwX3_untell_1 ++ []
def dkwX3_untell_0 : List UInt8 := [27, 155, 0, 20, 27, 42, 180, 1, 53, 162, 0, 12, 42, 180, 0, 122, 27, 46, 155, 0, 5, 3, 172, 42]
abbrev dktX3_untell_0 : List UInt8 := dkwX3_untell_0 ++ dktX3_untell_1
theorem dksX3_untell_0 : cX3_untell.data.toList.drop 0 = dktX3_untell_0 := by decide +kernel
theorem dksX3_untell_1 : cX3_untell.data.toList.drop 24 = dktX3_untell_1 := dk_seg dksX3_untell_0 24 rfl rfl
theorem dX3_untell_0 : decode cX3_untell 0 = .ok (.iload_n 1, 1) := dk_27 (dk_at dksX3_untell_0 0 rfl rfl)
theorem dX3_untell_1 : decode cX3_untell 1 = .ok (.ifCond .lt 20, 3) := dk_155 0 20 (dk_at dksX3_untell_0 1 rfl rfl)
theorem dX3_untell_4 : decode cX3_untell 4 = .ok (.iload_n 1, 1) := dk_27 (dk_at dksX3_untell_0 4 rfl rfl)
theorem dX3_untell_5 : decode cX3_untell 5 = .ok (.aload_n 0, 1) := dk_42 (dk_at dksX3_untell_0 5 rfl rfl)
theorem dX3_untell_6 : decode cX3_untell 6 = .ok (.getfield 309, 3) := dk_180 1 53 (dk_at dksX3_untell_0 6 rfl rfl)
theorem dX3_untell_9 : decode cX3_untell 9 = .ok (.if_icmp .ge 12, 3) := dk_162 0 12 (dk_at dksX3_untell_0 9 rfl rfl)
theorem dX3_untell_12 : decode cX3_untell 12 = .ok (.aload_n 0, 1) := dk_42 (dk_at dksX3_untell_0 12 rfl rfl)
theorem dX3_untell_13 : decode cX3_untell 13 = .ok (.getfield 122, 3) := dk_180 0 122 (dk_at dksX3_untell_0 13 rfl rfl)
theorem dX3_untell_16 : decode cX3_untell 16 = .ok (.iload_n 1, 1) := dk_27 (dk_at dksX3_untell_0 16 rfl rfl)
theorem dX3_untell_17 : decode cX3_untell 17 = .ok (.iaload, 1) := dk_46 (dk_at dksX3_untell_0 17 rfl rfl)
theorem dX3_untell_18 : decode cX3_untell 18 = .ok (.ifCond .lt 5, 3) := dk_155 0 5 (dk_at dksX3_untell_0 18 rfl rfl)
theorem dX3_untell_21 : decode cX3_untell 21 = .ok (.iconst 0, 1) := dk_3 (dk_at dksX3_untell_0 21 rfl rfl)
theorem dX3_untell_22 : decode cX3_untell 22 = .ok (.ireturn, 1) := dk_172 (dk_at dksX3_untell_0 22 rfl rfl)
theorem dX3_untell_23 : decode cX3_untell 23 = .ok (.aload_n 0, 1) := dk_42 (dk_at dksX3_untell_0 23 rfl rfl)
theorem dX3_untell_24 : decode cX3_untell 24 = .ok (.getfield 122, 3) := dk_180 0 122 (dk_at dksX3_untell_1 0 rfl rfl)
theorem dX3_untell_27 : decode cX3_untell 27 = .ok (.iload_n 1, 1) := dk_27 (dk_at dksX3_untell_1 3 rfl rfl)
theorem dX3_untell_28 : decode cX3_untell 28 = .ok (.aload_n 0, 1) := dk_42 (dk_at dksX3_untell_1 4 rfl rfl)
theorem dX3_untell_29 : decode cX3_untell 29 = .ok (.getfield 492, 3) := dk_180 1 236 (dk_at dksX3_untell_1 5 rfl rfl)
theorem dX3_untell_32 : decode cX3_untell 32 = .ok (.iastore, 1) := dk_79 (dk_at dksX3_untell_1 8 rfl rfl)
theorem dX3_untell_33 : decode cX3_untell 33 = .ok (.iconst 1, 1) := dk_4 (dk_at dksX3_untell_1 9 rfl rfl)
theorem dX3_untell_34 : decode cX3_untell 34 = .ok (.ireturn, 1) := dk_172 (dk_at dksX3_untell_1 10 rfl rfl)
abbrev cX3_waits : ByteArray := prog_24_method_101_code
def dkwX3_waits_1 : List UInt8 := [21, 5, 42, 180, 2, 73, 96, 184, 2, 79, 184, 2, 82, 51, 153, 0, 7, 4, 167, 0, 4, 3, 172]
abbrev dktX3_waits_1 : List UInt8 := dkwX3_waits_1 ++ []
def dkwX3_waits_0 : List UInt8 := [28, 158, 0, 43, 42, 180, 0, 169, 27, 28, 4, 100, 29, 21, 4, 42, 180, 2, 73, 96, 184, 2, 79]
abbrev dktX3_waits_0 : List UInt8 := dkwX3_waits_0 ++ dktX3_waits_1
theorem dksX3_waits_0 : cX3_waits.data.toList.drop 0 = dktX3_waits_0 := by decide +kernel
theorem dksX3_waits_1 : cX3_waits.data.toList.drop 23 = dktX3_waits_1 := dk_seg dksX3_waits_0 23 rfl rfl
theorem dX3_waits_0 : decode cX3_waits 0 = .ok (.iload_n 2, 1) := dk_28 (dk_at dksX3_waits_0 0 rfl rfl)
theorem dX3_waits_1 : decode cX3_waits 1 = .ok (.ifCond .le 43, 3) := dk_158 0 43 (dk_at dksX3_waits_0 1 rfl rfl)
theorem dX3_waits_4 : decode cX3_waits 4 = .ok (.aload_n 0, 1) := dk_42 (dk_at dksX3_waits_0 4 rfl rfl)
theorem dX3_waits_5 : decode cX3_waits 5 = .ok (.getfield 169, 3) := dk_180 0 169 (dk_at dksX3_waits_0 5 rfl rfl)
theorem dX3_waits_8 : decode cX3_waits 8 = .ok (.iload_n 1, 1) := dk_27 (dk_at dksX3_waits_0 8 rfl rfl)
theorem dX3_waits_9 : decode cX3_waits 9 = .ok (.iload_n 2, 1) := dk_28 (dk_at dksX3_waits_0 9 rfl rfl)
theorem dX3_waits_10 : decode cX3_waits 10 = .ok (.iconst 1, 1) := dk_4 (dk_at dksX3_waits_0 10 rfl rfl)
theorem dX3_waits_11 : decode cX3_waits 11 = .ok (.isub, 1) := dk_100 (dk_at dksX3_waits_0 11 rfl rfl)
theorem dX3_waits_12 : decode cX3_waits 12 = .ok (.iload_n 3, 1) := dk_29 (dk_at dksX3_waits_0 12 rfl rfl)
theorem dX3_waits_13 : decode cX3_waits 13 = .ok (.iload 4, 2) := dk_21 4 (dk_at dksX3_waits_0 13 rfl rfl)
theorem dX3_waits_15 : decode cX3_waits 15 = .ok (.aload_n 0, 1) := dk_42 (dk_at dksX3_waits_0 15 rfl rfl)
theorem dX3_waits_16 : decode cX3_waits 16 = .ok (.getfield 585, 3) := dk_180 2 73 (dk_at dksX3_waits_0 16 rfl rfl)
theorem dX3_waits_19 : decode cX3_waits 19 = .ok (.iadd, 1) := dk_96 (dk_at dksX3_waits_0 19 rfl rfl)
theorem dX3_waits_20 : decode cX3_waits 20 = .ok (.invokestatic 591, 3) := dk_184 2 79 (dk_at dksX3_waits_0 20 rfl rfl)
theorem dX3_waits_23 : decode cX3_waits 23 = .ok (.iload 5, 2) := dk_21 5 (dk_at dksX3_waits_1 0 rfl rfl)
theorem dX3_waits_25 : decode cX3_waits 25 = .ok (.aload_n 0, 1) := dk_42 (dk_at dksX3_waits_1 2 rfl rfl)
theorem dX3_waits_26 : decode cX3_waits 26 = .ok (.getfield 585, 3) := dk_180 2 73 (dk_at dksX3_waits_1 3 rfl rfl)
theorem dX3_waits_29 : decode cX3_waits 29 = .ok (.iadd, 1) := dk_96 (dk_at dksX3_waits_1 6 rfl rfl)
theorem dX3_waits_30 : decode cX3_waits 30 = .ok (.invokestatic 591, 3) := dk_184 2 79 (dk_at dksX3_waits_1 7 rfl rfl)
theorem dX3_waits_33 : decode cX3_waits 33 = .ok (.invokestatic 594, 3) := dk_184 2 82 (dk_at dksX3_waits_1 10 rfl rfl)
theorem dX3_waits_36 : decode cX3_waits 36 = .ok (.baload, 1) := dk_51 (dk_at dksX3_waits_1 13 rfl rfl)
theorem dX3_waits_37 : decode cX3_waits 37 = .ok (.ifCond .eq 7, 3) := dk_153 0 7 (dk_at dksX3_waits_1 14 rfl rfl)
theorem dX3_waits_40 : decode cX3_waits 40 = .ok (.iconst 1, 1) := dk_4 (dk_at dksX3_waits_1 17 rfl rfl)
theorem dX3_waits_41 : decode cX3_waits 41 = .ok (.goto 4, 3) := dk_167 0 4 (dk_at dksX3_waits_1 18 rfl rfl)
theorem dX3_waits_44 : decode cX3_waits 44 = .ok (.iconst 0, 1) := dk_3 (dk_at dksX3_waits_1 21 rfl rfl)
theorem dX3_waits_45 : decode cX3_waits 45 = .ok (.ireturn, 1) := dk_172 (dk_at dksX3_waits_1 22 rfl rfl)
abbrev cX3_wordHere : ByteArray := prog_24_method_45_code
def dkwX3_wordHere_6 : List UInt8 := [16, 112, 167, 0, 4, 3, 172]
abbrev dktX3_wordHere_6 : List UInt8 := dkwX3_wordHere_6 ++ []
def dkwX3_wordHere_5 : List UInt8 := [172, 42, 20, 0, 242, 182, 1, 59, 153, 0, 6, 16, 116, 172, 42, 20, 0, 244, 182, 1, 59, 153, 0, 8]
abbrev dktX3_wordHere_5 : List UInt8 := dkwX3_wordHere_5 ++ dktX3_wordHere_6
def dkwX3_wordHere_4 : List UInt8 := [20, 0, 238, 182, 1, 59, 153, 0, 6, 16, 97, 172, 42, 20, 0, 240, 182, 1, 59, 153, 0, 6, 16, 119]
abbrev dktX3_wordHere_4 : List UInt8 := dkwX3_wordHere_4 ++ dktX3_wordHere_5
def dkwX3_wordHere_3 : List UInt8 := [182, 1, 59, 153, 0, 6, 16, 104, 172, 42, 20, 0, 236, 182, 1, 59, 153, 0, 6, 16, 115, 172, 42]
abbrev dktX3_wordHere_3 : List UInt8 := dkwX3_wordHere_3 ++ dktX3_wordHere_4
def dkwX3_wordHere_2 : List UInt8 := [153, 0, 6, 16, 111, 172, 42, 20, 0, 232, 182, 1, 59, 153, 0, 6, 16, 103, 172, 42, 20, 0, 234]
abbrev dktX3_wordHere_2 : List UInt8 := dkwX3_wordHere_2 ++ dktX3_wordHere_3
def dkwX3_wordHere_1 : List UInt8 := [16, 99, 172, 42, 20, 0, 228, 182, 1, 59, 153, 0, 6, 16, 109, 172, 42, 20, 0, 230, 182, 1, 59]
abbrev dktX3_wordHere_1 : List UInt8 := dkwX3_wordHere_1 ++ dktX3_wordHere_2
def dkwX3_wordHere_0 : List UInt8 := [42, 20, 0, 224, 182, 1, 59, 153, 0, 6, 16, 108, 172, 42, 20, 0, 226, 182, 1, 59, 153, 0, 6]
abbrev dktX3_wordHere_0 : List UInt8 := dkwX3_wordHere_0 ++ dktX3_wordHere_1
theorem dksX3_wordHere_0 : cX3_wordHere.data.toList.drop 0 = dktX3_wordHere_0 := by decide +kernel
theorem dksX3_wordHere_1 : cX3_wordHere.data.toList.drop 23 = dktX3_wordHere_1 := dk_seg dksX3_wordHere_0 23 rfl rfl
theorem dksX3_wordHere_2 : cX3_wordHere.data.toList.drop 46 = dktX3_wordHere_2 := dk_seg dksX3_wordHere_1 23 rfl rfl
theorem dksX3_wordHere_3 : cX3_wordHere.data.toList.drop 69 = dktX3_wordHere_3 := dk_seg dksX3_wordHere_2 23 rfl rfl
theorem dksX3_wordHere_4 : cX3_wordHere.data.toList.drop 92 = dktX3_wordHere_4 := dk_seg dksX3_wordHere_3 23 rfl rfl
theorem dksX3_wordHere_5 : cX3_wordHere.data.toList.drop 116 = dktX3_wordHere_5 := dk_seg dksX3_wordHere_4 24 rfl rfl
theorem dksX3_wordHere_6 : cX3_wordHere.data.toList.drop 140 = dktX3_wordHere_6 := dk_seg dksX3_wordHere_5 24 rfl rfl
theorem dX3_wordHere_0 : decode cX3_wordHere 0 = .ok (.aload_n 0, 1) := dk_42 (dk_at dksX3_wordHere_0 0 rfl rfl)
theorem dX3_wordHere_1 : decode cX3_wordHere 1 = .ok (.ldc2_w 224, 3) := dk_20 0 224 (dk_at dksX3_wordHere_0 1 rfl rfl)
theorem dX3_wordHere_4 : decode cX3_wordHere 4 = .ok (.invokevirtual 315, 3) := dk_182 1 59 (dk_at dksX3_wordHere_0 4 rfl rfl)
theorem dX3_wordHere_7 : decode cX3_wordHere 7 = .ok (.ifCond .eq 6, 3) := dk_153 0 6 (dk_at dksX3_wordHere_0 7 rfl rfl)
theorem dX3_wordHere_10 : decode cX3_wordHere 10 = .ok (.bipush 108, 2) := dk_16 108 (dk_at dksX3_wordHere_0 10 rfl rfl)
theorem dX3_wordHere_12 : decode cX3_wordHere 12 = .ok (.ireturn, 1) := dk_172 (dk_at dksX3_wordHere_0 12 rfl rfl)
theorem dX3_wordHere_13 : decode cX3_wordHere 13 = .ok (.aload_n 0, 1) := dk_42 (dk_at dksX3_wordHere_0 13 rfl rfl)
theorem dX3_wordHere_14 : decode cX3_wordHere 14 = .ok (.ldc2_w 226, 3) := dk_20 0 226 (dk_at dksX3_wordHere_0 14 rfl rfl)
theorem dX3_wordHere_17 : decode cX3_wordHere 17 = .ok (.invokevirtual 315, 3) := dk_182 1 59 (dk_at dksX3_wordHere_0 17 rfl rfl)
theorem dX3_wordHere_20 : decode cX3_wordHere 20 = .ok (.ifCond .eq 6, 3) := dk_153 0 6 (dk_at dksX3_wordHere_0 20 rfl rfl)
theorem dX3_wordHere_23 : decode cX3_wordHere 23 = .ok (.bipush 99, 2) := dk_16 99 (dk_at dksX3_wordHere_1 0 rfl rfl)
theorem dX3_wordHere_25 : decode cX3_wordHere 25 = .ok (.ireturn, 1) := dk_172 (dk_at dksX3_wordHere_1 2 rfl rfl)
theorem dX3_wordHere_26 : decode cX3_wordHere 26 = .ok (.aload_n 0, 1) := dk_42 (dk_at dksX3_wordHere_1 3 rfl rfl)
theorem dX3_wordHere_27 : decode cX3_wordHere 27 = .ok (.ldc2_w 228, 3) := dk_20 0 228 (dk_at dksX3_wordHere_1 4 rfl rfl)
theorem dX3_wordHere_30 : decode cX3_wordHere 30 = .ok (.invokevirtual 315, 3) := dk_182 1 59 (dk_at dksX3_wordHere_1 7 rfl rfl)
theorem dX3_wordHere_33 : decode cX3_wordHere 33 = .ok (.ifCond .eq 6, 3) := dk_153 0 6 (dk_at dksX3_wordHere_1 10 rfl rfl)
theorem dX3_wordHere_36 : decode cX3_wordHere 36 = .ok (.bipush 109, 2) := dk_16 109 (dk_at dksX3_wordHere_1 13 rfl rfl)
theorem dX3_wordHere_38 : decode cX3_wordHere 38 = .ok (.ireturn, 1) := dk_172 (dk_at dksX3_wordHere_1 15 rfl rfl)
theorem dX3_wordHere_39 : decode cX3_wordHere 39 = .ok (.aload_n 0, 1) := dk_42 (dk_at dksX3_wordHere_1 16 rfl rfl)
theorem dX3_wordHere_40 : decode cX3_wordHere 40 = .ok (.ldc2_w 230, 3) := dk_20 0 230 (dk_at dksX3_wordHere_1 17 rfl rfl)
theorem dX3_wordHere_43 : decode cX3_wordHere 43 = .ok (.invokevirtual 315, 3) := dk_182 1 59 (dk_at dksX3_wordHere_1 20 rfl rfl)
theorem dX3_wordHere_46 : decode cX3_wordHere 46 = .ok (.ifCond .eq 6, 3) := dk_153 0 6 (dk_at dksX3_wordHere_2 0 rfl rfl)
theorem dX3_wordHere_49 : decode cX3_wordHere 49 = .ok (.bipush 111, 2) := dk_16 111 (dk_at dksX3_wordHere_2 3 rfl rfl)
theorem dX3_wordHere_51 : decode cX3_wordHere 51 = .ok (.ireturn, 1) := dk_172 (dk_at dksX3_wordHere_2 5 rfl rfl)
theorem dX3_wordHere_52 : decode cX3_wordHere 52 = .ok (.aload_n 0, 1) := dk_42 (dk_at dksX3_wordHere_2 6 rfl rfl)
theorem dX3_wordHere_53 : decode cX3_wordHere 53 = .ok (.ldc2_w 232, 3) := dk_20 0 232 (dk_at dksX3_wordHere_2 7 rfl rfl)
theorem dX3_wordHere_56 : decode cX3_wordHere 56 = .ok (.invokevirtual 315, 3) := dk_182 1 59 (dk_at dksX3_wordHere_2 10 rfl rfl)
theorem dX3_wordHere_59 : decode cX3_wordHere 59 = .ok (.ifCond .eq 6, 3) := dk_153 0 6 (dk_at dksX3_wordHere_2 13 rfl rfl)
theorem dX3_wordHere_62 : decode cX3_wordHere 62 = .ok (.bipush 103, 2) := dk_16 103 (dk_at dksX3_wordHere_2 16 rfl rfl)
theorem dX3_wordHere_64 : decode cX3_wordHere 64 = .ok (.ireturn, 1) := dk_172 (dk_at dksX3_wordHere_2 18 rfl rfl)
theorem dX3_wordHere_65 : decode cX3_wordHere 65 = .ok (.aload_n 0, 1) := dk_42 (dk_at dksX3_wordHere_2 19 rfl rfl)
theorem dX3_wordHere_66 : decode cX3_wordHere 66 = .ok (.ldc2_w 234, 3) := dk_20 0 234 (dk_at dksX3_wordHere_2 20 rfl rfl)
theorem dX3_wordHere_69 : decode cX3_wordHere 69 = .ok (.invokevirtual 315, 3) := dk_182 1 59 (dk_at dksX3_wordHere_3 0 rfl rfl)
theorem dX3_wordHere_72 : decode cX3_wordHere 72 = .ok (.ifCond .eq 6, 3) := dk_153 0 6 (dk_at dksX3_wordHere_3 3 rfl rfl)
theorem dX3_wordHere_75 : decode cX3_wordHere 75 = .ok (.bipush 104, 2) := dk_16 104 (dk_at dksX3_wordHere_3 6 rfl rfl)
theorem dX3_wordHere_77 : decode cX3_wordHere 77 = .ok (.ireturn, 1) := dk_172 (dk_at dksX3_wordHere_3 8 rfl rfl)
theorem dX3_wordHere_78 : decode cX3_wordHere 78 = .ok (.aload_n 0, 1) := dk_42 (dk_at dksX3_wordHere_3 9 rfl rfl)
theorem dX3_wordHere_79 : decode cX3_wordHere 79 = .ok (.ldc2_w 236, 3) := dk_20 0 236 (dk_at dksX3_wordHere_3 10 rfl rfl)
theorem dX3_wordHere_82 : decode cX3_wordHere 82 = .ok (.invokevirtual 315, 3) := dk_182 1 59 (dk_at dksX3_wordHere_3 13 rfl rfl)
theorem dX3_wordHere_85 : decode cX3_wordHere 85 = .ok (.ifCond .eq 6, 3) := dk_153 0 6 (dk_at dksX3_wordHere_3 16 rfl rfl)
theorem dX3_wordHere_88 : decode cX3_wordHere 88 = .ok (.bipush 115, 2) := dk_16 115 (dk_at dksX3_wordHere_3 19 rfl rfl)
theorem dX3_wordHere_90 : decode cX3_wordHere 90 = .ok (.ireturn, 1) := dk_172 (dk_at dksX3_wordHere_3 21 rfl rfl)
theorem dX3_wordHere_91 : decode cX3_wordHere 91 = .ok (.aload_n 0, 1) := dk_42 (dk_at dksX3_wordHere_3 22 rfl rfl)
theorem dX3_wordHere_92 : decode cX3_wordHere 92 = .ok (.ldc2_w 238, 3) := dk_20 0 238 (dk_at dksX3_wordHere_4 0 rfl rfl)
theorem dX3_wordHere_95 : decode cX3_wordHere 95 = .ok (.invokevirtual 315, 3) := dk_182 1 59 (dk_at dksX3_wordHere_4 3 rfl rfl)
theorem dX3_wordHere_98 : decode cX3_wordHere 98 = .ok (.ifCond .eq 6, 3) := dk_153 0 6 (dk_at dksX3_wordHere_4 6 rfl rfl)
theorem dX3_wordHere_101 : decode cX3_wordHere 101 = .ok (.bipush 97, 2) := dk_16 97 (dk_at dksX3_wordHere_4 9 rfl rfl)
theorem dX3_wordHere_103 : decode cX3_wordHere 103 = .ok (.ireturn, 1) := dk_172 (dk_at dksX3_wordHere_4 11 rfl rfl)
theorem dX3_wordHere_104 : decode cX3_wordHere 104 = .ok (.aload_n 0, 1) := dk_42 (dk_at dksX3_wordHere_4 12 rfl rfl)
theorem dX3_wordHere_105 : decode cX3_wordHere 105 = .ok (.ldc2_w 240, 3) := dk_20 0 240 (dk_at dksX3_wordHere_4 13 rfl rfl)
theorem dX3_wordHere_108 : decode cX3_wordHere 108 = .ok (.invokevirtual 315, 3) := dk_182 1 59 (dk_at dksX3_wordHere_4 16 rfl rfl)
theorem dX3_wordHere_111 : decode cX3_wordHere 111 = .ok (.ifCond .eq 6, 3) := dk_153 0 6 (dk_at dksX3_wordHere_4 19 rfl rfl)
theorem dX3_wordHere_114 : decode cX3_wordHere 114 = .ok (.bipush 119, 2) := dk_16 119 (dk_at dksX3_wordHere_4 22 rfl rfl)
theorem dX3_wordHere_116 : decode cX3_wordHere 116 = .ok (.ireturn, 1) := dk_172 (dk_at dksX3_wordHere_5 0 rfl rfl)
theorem dX3_wordHere_117 : decode cX3_wordHere 117 = .ok (.aload_n 0, 1) := dk_42 (dk_at dksX3_wordHere_5 1 rfl rfl)
theorem dX3_wordHere_118 : decode cX3_wordHere 118 = .ok (.ldc2_w 242, 3) := dk_20 0 242 (dk_at dksX3_wordHere_5 2 rfl rfl)
theorem dX3_wordHere_121 : decode cX3_wordHere 121 = .ok (.invokevirtual 315, 3) := dk_182 1 59 (dk_at dksX3_wordHere_5 5 rfl rfl)
theorem dX3_wordHere_124 : decode cX3_wordHere 124 = .ok (.ifCond .eq 6, 3) := dk_153 0 6 (dk_at dksX3_wordHere_5 8 rfl rfl)
theorem dX3_wordHere_127 : decode cX3_wordHere 127 = .ok (.bipush 116, 2) := dk_16 116 (dk_at dksX3_wordHere_5 11 rfl rfl)
theorem dX3_wordHere_129 : decode cX3_wordHere 129 = .ok (.ireturn, 1) := dk_172 (dk_at dksX3_wordHere_5 13 rfl rfl)
theorem dX3_wordHere_130 : decode cX3_wordHere 130 = .ok (.aload_n 0, 1) := dk_42 (dk_at dksX3_wordHere_5 14 rfl rfl)
theorem dX3_wordHere_131 : decode cX3_wordHere 131 = .ok (.ldc2_w 244, 3) := dk_20 0 244 (dk_at dksX3_wordHere_5 15 rfl rfl)
theorem dX3_wordHere_134 : decode cX3_wordHere 134 = .ok (.invokevirtual 315, 3) := dk_182 1 59 (dk_at dksX3_wordHere_5 18 rfl rfl)
theorem dX3_wordHere_137 : decode cX3_wordHere 137 = .ok (.ifCond .eq 8, 3) := dk_153 0 8 (dk_at dksX3_wordHere_5 21 rfl rfl)
theorem dX3_wordHere_140 : decode cX3_wordHere 140 = .ok (.bipush 112, 2) := dk_16 112 (dk_at dksX3_wordHere_6 0 rfl rfl)
theorem dX3_wordHere_142 : decode cX3_wordHere 142 = .ok (.goto 4, 3) := dk_167 0 4 (dk_at dksX3_wordHere_6 2 rfl rfl)
theorem dX3_wordHere_145 : decode cX3_wordHere 145 = .ok (.iconst 0, 1) := dk_3 (dk_at dksX3_wordHere_6 5 rfl rfl)
theorem dX3_wordHere_146 : decode cX3_wordHere 146 = .ok (.ireturn, 1) := dk_172 (dk_at dksX3_wordHere_6 6 rfl rfl)
abbrev cX3_work : ByteArray := prog_24_method_53_code
def dkwX3_work_7 : List UInt8 := [46, 184, 1, 219, 79, 132, 5, 1, 167, 255, 120, 42, 180, 0, 104, 3, 46, 172]
abbrev dktX3_work_7 : List UInt8 := dkwX3_work_7 ++ []
def dkwX3_work_6 : List UInt8 := [180, 0, 104, 21, 4, 4, 100, 21, 6, 42, 180, 0, 104, 21, 4, 4, 100, 46, 42, 180, 0, 104, 21, 4]
abbrev dktX3_work_6 : List UInt8 := dkwX3_work_6 ++ dktX3_work_7
def dkwX3_work_5 : List UInt8 := [21, 6, 42, 180, 0, 95, 21, 5, 46, 182, 1, 216, 79, 132, 4, 1, 167, 0, 36, 132, 4, 255, 42]
abbrev dktX3_work_5 : List UInt8 := dkwX3_work_5 ++ dktX3_work_6
def dkwX3_work_4 : List UInt8 := [167, 0, 4, 3, 79, 167, 0, 70, 21, 6, 184, 1, 3, 153, 0, 29, 42, 180, 0, 104, 21, 4, 42]
abbrev dktX3_work_4 : List UInt8 := dkwX3_work_4 ++ dktX3_work_5
def dkwX3_work_3 : List UInt8 := [160, 0, 32, 42, 180, 0, 104, 21, 4, 4, 100, 42, 180, 0, 104, 21, 4, 4, 100, 46, 154, 0, 7, 4]
abbrev dktX3_work_3 : List UInt8 := dkwX3_work_3 ++ dktX3_work_4
def dkwX3_work_2 : List UInt8 := [27, 104, 28, 96, 46, 96, 162, 0, 121, 42, 180, 0, 92, 21, 5, 46, 54, 6, 21, 6, 16, 126]
abbrev dktX3_work_2 : List UInt8 := dkwX3_work_2 ++ dktX3_work_3
def dkwX3_work_1 : List UInt8 := [180, 0, 86, 7, 27, 104, 28, 96, 46, 96, 54, 5, 21, 5, 17, 2, 188, 27, 104, 42, 180, 0, 89, 7]
abbrev dktX3_work_1 : List UInt8 := dkwX3_work_1 ++ dktX3_work_2
def dkwX3_work_0 : List UInt8 := [42, 180, 0, 107, 7, 27, 104, 28, 96, 51, 154, 0, 5, 29, 172, 3, 54, 4, 17, 2, 188, 27, 104, 42]
abbrev dktX3_work_0 : List UInt8 := dkwX3_work_0 ++ dktX3_work_1
theorem dksX3_work_0 : cX3_work.data.toList.drop 0 = dktX3_work_0 := by decide +kernel
theorem dksX3_work_1 : cX3_work.data.toList.drop 24 = dktX3_work_1 := dk_seg dksX3_work_0 24 rfl rfl
theorem dksX3_work_2 : cX3_work.data.toList.drop 48 = dktX3_work_2 := dk_seg dksX3_work_1 24 rfl rfl
theorem dksX3_work_3 : cX3_work.data.toList.drop 70 = dktX3_work_3 := dk_seg dksX3_work_2 22 rfl rfl
theorem dksX3_work_4 : cX3_work.data.toList.drop 94 = dktX3_work_4 := dk_seg dksX3_work_3 24 rfl rfl
theorem dksX3_work_5 : cX3_work.data.toList.drop 117 = dktX3_work_5 := dk_seg dksX3_work_4 23 rfl rfl
theorem dksX3_work_6 : cX3_work.data.toList.drop 140 = dktX3_work_6 := dk_seg dksX3_work_5 23 rfl rfl
theorem dksX3_work_7 : cX3_work.data.toList.drop 164 = dktX3_work_7 := dk_seg dksX3_work_6 24 rfl rfl
theorem dX3_work_0 : decode cX3_work 0 = .ok (.aload_n 0, 1) := dk_42 (dk_at dksX3_work_0 0 rfl rfl)
theorem dX3_work_1 : decode cX3_work 1 = .ok (.getfield 107, 3) := dk_180 0 107 (dk_at dksX3_work_0 1 rfl rfl)
theorem dX3_work_4 : decode cX3_work 4 = .ok (.iconst 4, 1) := dk_7 (dk_at dksX3_work_0 4 rfl rfl)
theorem dX3_work_5 : decode cX3_work 5 = .ok (.iload_n 1, 1) := dk_27 (dk_at dksX3_work_0 5 rfl rfl)
theorem dX3_work_6 : decode cX3_work 6 = .ok (.imul, 1) := dk_104 (dk_at dksX3_work_0 6 rfl rfl)
theorem dX3_work_7 : decode cX3_work 7 = .ok (.iload_n 2, 1) := dk_28 (dk_at dksX3_work_0 7 rfl rfl)
theorem dX3_work_8 : decode cX3_work 8 = .ok (.iadd, 1) := dk_96 (dk_at dksX3_work_0 8 rfl rfl)
theorem dX3_work_9 : decode cX3_work 9 = .ok (.baload, 1) := dk_51 (dk_at dksX3_work_0 9 rfl rfl)
theorem dX3_work_10 : decode cX3_work 10 = .ok (.ifCond .ne 5, 3) := dk_154 0 5 (dk_at dksX3_work_0 10 rfl rfl)
theorem dX3_work_13 : decode cX3_work 13 = .ok (.iload_n 3, 1) := dk_29 (dk_at dksX3_work_0 13 rfl rfl)
theorem dX3_work_14 : decode cX3_work 14 = .ok (.ireturn, 1) := dk_172 (dk_at dksX3_work_0 14 rfl rfl)
theorem dX3_work_15 : decode cX3_work 15 = .ok (.iconst 0, 1) := dk_3 (dk_at dksX3_work_0 15 rfl rfl)
theorem dX3_work_16 : decode cX3_work 16 = .ok (.istore 4, 2) := dk_54 4 (dk_at dksX3_work_0 16 rfl rfl)
theorem dX3_work_18 : decode cX3_work 18 = .ok (.sipush 700, 3) := dk_17 2 188 (dk_at dksX3_work_0 18 rfl rfl)
theorem dX3_work_21 : decode cX3_work 21 = .ok (.iload_n 1, 1) := dk_27 (dk_at dksX3_work_0 21 rfl rfl)
theorem dX3_work_22 : decode cX3_work 22 = .ok (.imul, 1) := dk_104 (dk_at dksX3_work_0 22 rfl rfl)
theorem dX3_work_23 : decode cX3_work 23 = .ok (.aload_n 0, 1) := dk_42 (dk_at dksX3_work_0 23 rfl rfl)
theorem dX3_work_24 : decode cX3_work 24 = .ok (.getfield 86, 3) := dk_180 0 86 (dk_at dksX3_work_1 0 rfl rfl)
theorem dX3_work_27 : decode cX3_work 27 = .ok (.iconst 4, 1) := dk_7 (dk_at dksX3_work_1 3 rfl rfl)
theorem dX3_work_28 : decode cX3_work 28 = .ok (.iload_n 1, 1) := dk_27 (dk_at dksX3_work_1 4 rfl rfl)
theorem dX3_work_29 : decode cX3_work 29 = .ok (.imul, 1) := dk_104 (dk_at dksX3_work_1 5 rfl rfl)
theorem dX3_work_30 : decode cX3_work 30 = .ok (.iload_n 2, 1) := dk_28 (dk_at dksX3_work_1 6 rfl rfl)
theorem dX3_work_31 : decode cX3_work 31 = .ok (.iadd, 1) := dk_96 (dk_at dksX3_work_1 7 rfl rfl)
theorem dX3_work_32 : decode cX3_work 32 = .ok (.iaload, 1) := dk_46 (dk_at dksX3_work_1 8 rfl rfl)
theorem dX3_work_33 : decode cX3_work 33 = .ok (.iadd, 1) := dk_96 (dk_at dksX3_work_1 9 rfl rfl)
theorem dX3_work_34 : decode cX3_work 34 = .ok (.istore 5, 2) := dk_54 5 (dk_at dksX3_work_1 10 rfl rfl)
theorem dX3_work_36 : decode cX3_work 36 = .ok (.iload 5, 2) := dk_21 5 (dk_at dksX3_work_1 12 rfl rfl)
theorem dX3_work_38 : decode cX3_work 38 = .ok (.sipush 700, 3) := dk_17 2 188 (dk_at dksX3_work_1 14 rfl rfl)
theorem dX3_work_41 : decode cX3_work 41 = .ok (.iload_n 1, 1) := dk_27 (dk_at dksX3_work_1 17 rfl rfl)
theorem dX3_work_42 : decode cX3_work 42 = .ok (.imul, 1) := dk_104 (dk_at dksX3_work_1 18 rfl rfl)
theorem dX3_work_43 : decode cX3_work 43 = .ok (.aload_n 0, 1) := dk_42 (dk_at dksX3_work_1 19 rfl rfl)
theorem dX3_work_44 : decode cX3_work 44 = .ok (.getfield 89, 3) := dk_180 0 89 (dk_at dksX3_work_1 20 rfl rfl)
theorem dX3_work_47 : decode cX3_work 47 = .ok (.iconst 4, 1) := dk_7 (dk_at dksX3_work_1 23 rfl rfl)
theorem dX3_work_48 : decode cX3_work 48 = .ok (.iload_n 1, 1) := dk_27 (dk_at dksX3_work_2 0 rfl rfl)
theorem dX3_work_49 : decode cX3_work 49 = .ok (.imul, 1) := dk_104 (dk_at dksX3_work_2 1 rfl rfl)
theorem dX3_work_50 : decode cX3_work 50 = .ok (.iload_n 2, 1) := dk_28 (dk_at dksX3_work_2 2 rfl rfl)
theorem dX3_work_51 : decode cX3_work 51 = .ok (.iadd, 1) := dk_96 (dk_at dksX3_work_2 3 rfl rfl)
theorem dX3_work_52 : decode cX3_work 52 = .ok (.iaload, 1) := dk_46 (dk_at dksX3_work_2 4 rfl rfl)
theorem dX3_work_53 : decode cX3_work 53 = .ok (.iadd, 1) := dk_96 (dk_at dksX3_work_2 5 rfl rfl)
theorem dX3_work_54 : decode cX3_work 54 = .ok (.if_icmp .ge 121, 3) := dk_162 0 121 (dk_at dksX3_work_2 6 rfl rfl)
theorem dX3_work_57 : decode cX3_work 57 = .ok (.aload_n 0, 1) := dk_42 (dk_at dksX3_work_2 9 rfl rfl)
theorem dX3_work_58 : decode cX3_work 58 = .ok (.getfield 92, 3) := dk_180 0 92 (dk_at dksX3_work_2 10 rfl rfl)
theorem dX3_work_61 : decode cX3_work 61 = .ok (.iload 5, 2) := dk_21 5 (dk_at dksX3_work_2 13 rfl rfl)
theorem dX3_work_63 : decode cX3_work 63 = .ok (.iaload, 1) := dk_46 (dk_at dksX3_work_2 15 rfl rfl)
theorem dX3_work_64 : decode cX3_work 64 = .ok (.istore 6, 2) := dk_54 6 (dk_at dksX3_work_2 16 rfl rfl)
theorem dX3_work_66 : decode cX3_work 66 = .ok (.iload 6, 2) := dk_21 6 (dk_at dksX3_work_2 18 rfl rfl)
theorem dX3_work_68 : decode cX3_work 68 = .ok (.bipush 126, 2) := dk_16 126 (dk_at dksX3_work_2 20 rfl rfl)
theorem dX3_work_70 : decode cX3_work 70 = .ok (.if_icmp .ne 32, 3) := dk_160 0 32 (dk_at dksX3_work_3 0 rfl rfl)
theorem dX3_work_73 : decode cX3_work 73 = .ok (.aload_n 0, 1) := dk_42 (dk_at dksX3_work_3 3 rfl rfl)
theorem dX3_work_74 : decode cX3_work 74 = .ok (.getfield 104, 3) := dk_180 0 104 (dk_at dksX3_work_3 4 rfl rfl)
theorem dX3_work_77 : decode cX3_work 77 = .ok (.iload 4, 2) := dk_21 4 (dk_at dksX3_work_3 7 rfl rfl)
theorem dX3_work_79 : decode cX3_work 79 = .ok (.iconst 1, 1) := dk_4 (dk_at dksX3_work_3 9 rfl rfl)
theorem dX3_work_80 : decode cX3_work 80 = .ok (.isub, 1) := dk_100 (dk_at dksX3_work_3 10 rfl rfl)
theorem dX3_work_81 : decode cX3_work 81 = .ok (.aload_n 0, 1) := dk_42 (dk_at dksX3_work_3 11 rfl rfl)
theorem dX3_work_82 : decode cX3_work 82 = .ok (.getfield 104, 3) := dk_180 0 104 (dk_at dksX3_work_3 12 rfl rfl)
theorem dX3_work_85 : decode cX3_work 85 = .ok (.iload 4, 2) := dk_21 4 (dk_at dksX3_work_3 15 rfl rfl)
theorem dX3_work_87 : decode cX3_work 87 = .ok (.iconst 1, 1) := dk_4 (dk_at dksX3_work_3 17 rfl rfl)
theorem dX3_work_88 : decode cX3_work 88 = .ok (.isub, 1) := dk_100 (dk_at dksX3_work_3 18 rfl rfl)
theorem dX3_work_89 : decode cX3_work 89 = .ok (.iaload, 1) := dk_46 (dk_at dksX3_work_3 19 rfl rfl)
theorem dX3_work_90 : decode cX3_work 90 = .ok (.ifCond .ne 7, 3) := dk_154 0 7 (dk_at dksX3_work_3 20 rfl rfl)
theorem dX3_work_93 : decode cX3_work 93 = .ok (.iconst 1, 1) := dk_4 (dk_at dksX3_work_3 23 rfl rfl)
theorem dX3_work_94 : decode cX3_work 94 = .ok (.goto 4, 3) := dk_167 0 4 (dk_at dksX3_work_4 0 rfl rfl)
theorem dX3_work_97 : decode cX3_work 97 = .ok (.iconst 0, 1) := dk_3 (dk_at dksX3_work_4 3 rfl rfl)
theorem dX3_work_98 : decode cX3_work 98 = .ok (.iastore, 1) := dk_79 (dk_at dksX3_work_4 4 rfl rfl)
theorem dX3_work_99 : decode cX3_work 99 = .ok (.goto 70, 3) := dk_167 0 70 (dk_at dksX3_work_4 5 rfl rfl)
theorem dX3_work_102 : decode cX3_work 102 = .ok (.iload 6, 2) := dk_21 6 (dk_at dksX3_work_4 8 rfl rfl)
theorem dX3_work_104 : decode cX3_work 104 = .ok (.invokestatic 259, 3) := dk_184 1 3 (dk_at dksX3_work_4 10 rfl rfl)
theorem dX3_work_107 : decode cX3_work 107 = .ok (.ifCond .eq 29, 3) := dk_153 0 29 (dk_at dksX3_work_4 13 rfl rfl)
theorem dX3_work_110 : decode cX3_work 110 = .ok (.aload_n 0, 1) := dk_42 (dk_at dksX3_work_4 16 rfl rfl)
theorem dX3_work_111 : decode cX3_work 111 = .ok (.getfield 104, 3) := dk_180 0 104 (dk_at dksX3_work_4 17 rfl rfl)
theorem dX3_work_114 : decode cX3_work 114 = .ok (.iload 4, 2) := dk_21 4 (dk_at dksX3_work_4 20 rfl rfl)
theorem dX3_work_116 : decode cX3_work 116 = .ok (.aload_n 0, 1) := dk_42 (dk_at dksX3_work_4 22 rfl rfl)
theorem dX3_work_117 : decode cX3_work 117 = .ok (.iload 6, 2) := dk_21 6 (dk_at dksX3_work_5 0 rfl rfl)
theorem dX3_work_119 : decode cX3_work 119 = .ok (.aload_n 0, 1) := dk_42 (dk_at dksX3_work_5 2 rfl rfl)
theorem dX3_work_120 : decode cX3_work 120 = .ok (.getfield 95, 3) := dk_180 0 95 (dk_at dksX3_work_5 3 rfl rfl)
theorem dX3_work_123 : decode cX3_work 123 = .ok (.iload 5, 2) := dk_21 5 (dk_at dksX3_work_5 6 rfl rfl)
theorem dX3_work_125 : decode cX3_work 125 = .ok (.iaload, 1) := dk_46 (dk_at dksX3_work_5 8 rfl rfl)
theorem dX3_work_126 : decode cX3_work 126 = .ok (.invokevirtual 472, 3) := dk_182 1 216 (dk_at dksX3_work_5 9 rfl rfl)
theorem dX3_work_129 : decode cX3_work 129 = .ok (.iastore, 1) := dk_79 (dk_at dksX3_work_5 12 rfl rfl)
theorem dX3_work_130 : decode cX3_work 130 = .ok (.iinc 4 1, 3) := dk_132 4 1 (dk_at dksX3_work_5 13 rfl rfl)
theorem dX3_work_133 : decode cX3_work 133 = .ok (.goto 36, 3) := dk_167 0 36 (dk_at dksX3_work_5 16 rfl rfl)
theorem dX3_work_136 : decode cX3_work 136 = .ok (.iinc 4 (-1), 3) := dk_132 4 255 (dk_at dksX3_work_5 19 rfl rfl)
theorem dX3_work_139 : decode cX3_work 139 = .ok (.aload_n 0, 1) := dk_42 (dk_at dksX3_work_5 22 rfl rfl)
theorem dX3_work_140 : decode cX3_work 140 = .ok (.getfield 104, 3) := dk_180 0 104 (dk_at dksX3_work_6 0 rfl rfl)
theorem dX3_work_143 : decode cX3_work 143 = .ok (.iload 4, 2) := dk_21 4 (dk_at dksX3_work_6 3 rfl rfl)
theorem dX3_work_145 : decode cX3_work 145 = .ok (.iconst 1, 1) := dk_4 (dk_at dksX3_work_6 5 rfl rfl)
theorem dX3_work_146 : decode cX3_work 146 = .ok (.isub, 1) := dk_100 (dk_at dksX3_work_6 6 rfl rfl)
theorem dX3_work_147 : decode cX3_work 147 = .ok (.iload 6, 2) := dk_21 6 (dk_at dksX3_work_6 7 rfl rfl)
theorem dX3_work_149 : decode cX3_work 149 = .ok (.aload_n 0, 1) := dk_42 (dk_at dksX3_work_6 9 rfl rfl)
theorem dX3_work_150 : decode cX3_work 150 = .ok (.getfield 104, 3) := dk_180 0 104 (dk_at dksX3_work_6 10 rfl rfl)
theorem dX3_work_153 : decode cX3_work 153 = .ok (.iload 4, 2) := dk_21 4 (dk_at dksX3_work_6 13 rfl rfl)
theorem dX3_work_155 : decode cX3_work 155 = .ok (.iconst 1, 1) := dk_4 (dk_at dksX3_work_6 15 rfl rfl)
theorem dX3_work_156 : decode cX3_work 156 = .ok (.isub, 1) := dk_100 (dk_at dksX3_work_6 16 rfl rfl)
theorem dX3_work_157 : decode cX3_work 157 = .ok (.iaload, 1) := dk_46 (dk_at dksX3_work_6 17 rfl rfl)
theorem dX3_work_158 : decode cX3_work 158 = .ok (.aload_n 0, 1) := dk_42 (dk_at dksX3_work_6 18 rfl rfl)
theorem dX3_work_159 : decode cX3_work 159 = .ok (.getfield 104, 3) := dk_180 0 104 (dk_at dksX3_work_6 19 rfl rfl)
theorem dX3_work_162 : decode cX3_work 162 = .ok (.iload 4, 2) := dk_21 4 (dk_at dksX3_work_6 22 rfl rfl)
theorem dX3_work_164 : decode cX3_work 164 = .ok (.iaload, 1) := dk_46 (dk_at dksX3_work_7 0 rfl rfl)
theorem dX3_work_165 : decode cX3_work 165 = .ok (.invokestatic 475, 3) := dk_184 1 219 (dk_at dksX3_work_7 1 rfl rfl)
theorem dX3_work_168 : decode cX3_work 168 = .ok (.iastore, 1) := dk_79 (dk_at dksX3_work_7 4 rfl rfl)
theorem dX3_work_169 : decode cX3_work 169 = .ok (.iinc 5 1, 3) := dk_132 5 1 (dk_at dksX3_work_7 5 rfl rfl)
theorem dX3_work_172 : decode cX3_work 172 = .ok (.goto (-136), 3) := dk_167 255 120 (dk_at dksX3_work_7 8 rfl rfl)
theorem dX3_work_175 : decode cX3_work 175 = .ok (.aload_n 0, 1) := dk_42 (dk_at dksX3_work_7 11 rfl rfl)
theorem dX3_work_176 : decode cX3_work 176 = .ok (.getfield 104, 3) := dk_180 0 104 (dk_at dksX3_work_7 12 rfl rfl)
theorem dX3_work_179 : decode cX3_work 179 = .ok (.iconst 0, 1) := dk_3 (dk_at dksX3_work_7 15 rfl rfl)
theorem dX3_work_180 : decode cX3_work 180 = .ok (.iaload, 1) := dk_46 (dk_at dksX3_work_7 16 rfl rfl)
theorem dX3_work_181 : decode cX3_work 181 = .ok (.ireturn, 1) := dk_172 (dk_at dksX3_work_7 17 rfl rfl)
abbrev cX3_wrong : ByteArray := prog_24_method_12_code
def dkwX3_wrong_0 : List UInt8 := [42, 42, 180, 1, 0, 4, 160, 0, 7, 4, 167, 0, 4, 5, 42, 180, 0, 249, 182, 1, 24, 177]
abbrev dktX3_wrong_0 : List UInt8 := dkwX3_wrong_0 ++ []
theorem dksX3_wrong_0 : cX3_wrong.data.toList.drop 0 = dktX3_wrong_0 := by decide +kernel
theorem dX3_wrong_0 : decode cX3_wrong 0 = .ok (.aload_n 0, 1) := dk_42 (dk_at dksX3_wrong_0 0 rfl rfl)
theorem dX3_wrong_1 : decode cX3_wrong 1 = .ok (.aload_n 0, 1) := dk_42 (dk_at dksX3_wrong_0 1 rfl rfl)
theorem dX3_wrong_2 : decode cX3_wrong 2 = .ok (.getfield 256, 3) := dk_180 1 0 (dk_at dksX3_wrong_0 2 rfl rfl)
theorem dX3_wrong_5 : decode cX3_wrong 5 = .ok (.iconst 1, 1) := dk_4 (dk_at dksX3_wrong_0 5 rfl rfl)
theorem dX3_wrong_6 : decode cX3_wrong 6 = .ok (.if_icmp .ne 7, 3) := dk_160 0 7 (dk_at dksX3_wrong_0 6 rfl rfl)
theorem dX3_wrong_9 : decode cX3_wrong 9 = .ok (.iconst 1, 1) := dk_4 (dk_at dksX3_wrong_0 9 rfl rfl)
theorem dX3_wrong_10 : decode cX3_wrong 10 = .ok (.goto 4, 3) := dk_167 0 4 (dk_at dksX3_wrong_0 10 rfl rfl)
theorem dX3_wrong_13 : decode cX3_wrong 13 = .ok (.iconst 2, 1) := dk_5 (dk_at dksX3_wrong_0 13 rfl rfl)
theorem dX3_wrong_14 : decode cX3_wrong 14 = .ok (.aload_n 0, 1) := dk_42 (dk_at dksX3_wrong_0 14 rfl rfl)
theorem dX3_wrong_15 : decode cX3_wrong 15 = .ok (.getfield 249, 3) := dk_180 0 249 (dk_at dksX3_wrong_0 15 rfl rfl)
theorem dX3_wrong_18 : decode cX3_wrong 18 = .ok (.invokevirtual 280, 3) := dk_182 1 24 (dk_at dksX3_wrong_0 18 rfl rfl)
theorem dX3_wrong_21 : decode cX3_wrong 21 = .ok (.return_, 1) := dk_177 (dk_at dksX3_wrong_0 21 rfl rfl)
