/-! decode rows of the reachable methods, as the claim's names print them -/
set_option maxRecDepth 100000
abbrev cX1_init : ByteArray := prog_10_method_1_code
def dkwX1_init_3 : List UInt8 := [181, 0, 36, 177]
abbrev dktX1_init_3 : List UInt8 := dkwX1_init_3 ++ []
def dkwX1_init_2 : List UInt8 := [181, 0, 26, 42, 6, 188, 10, 181, 0, 30, 42, 16, 64, 188, 10, 181, 0, 33, 42, 16, 8, 188, 4]
abbrev dktX1_init_2 : List UInt8 := dkwX1_init_2 ++ dktX1_init_3
def dkwX1_init_1 : List UInt8 := [183, 0, 11, 181, 0, 20, 42, 187, 0, 9, 89, 4, 183, 0, 11, 181, 0, 23, 42, 6, 188, 10]
abbrev dktX1_init_1 : List UInt8 := dkwX1_init_1 ++ dktX1_init_2
def dkwX1_init_0 : List UInt8 := [42, 183, 0, 3, 42, 187, 0, 9, 89, 5, 183, 0, 11, 181, 0, 14, 42, 187, 0, 9, 89, 4]
abbrev dktX1_init_0 : List UInt8 := dkwX1_init_0 ++ dktX1_init_1
theorem dksX1_init_0 : cX1_init.data.toList.drop 0 = dktX1_init_0 := by decide +kernel
theorem dksX1_init_1 : cX1_init.data.toList.drop 22 = dktX1_init_1 := dk_seg dksX1_init_0 22 rfl rfl
theorem dksX1_init_2 : cX1_init.data.toList.drop 44 = dktX1_init_2 := dk_seg dksX1_init_1 22 rfl rfl
theorem dksX1_init_3 : cX1_init.data.toList.drop 67 = dktX1_init_3 := dk_seg dksX1_init_2 23 rfl rfl
theorem dX1_init_0 : decode cX1_init 0 = .ok (.aload_n 0, 1) := dk_42 (dk_at dksX1_init_0 0 rfl rfl)
theorem dX1_init_1 : decode cX1_init 1 = .ok (.invokespecial 3, 3) := dk_183 0 3 (dk_at dksX1_init_0 1 rfl rfl)
theorem dX1_init_4 : decode cX1_init 4 = .ok (.aload_n 0, 1) := dk_42 (dk_at dksX1_init_0 4 rfl rfl)
theorem dX1_init_5 : decode cX1_init 5 = .ok (.new 9, 3) := dk_187 0 9 (dk_at dksX1_init_0 5 rfl rfl)
theorem dX1_init_8 : decode cX1_init 8 = .ok (.dup, 1) := dk_89 (dk_at dksX1_init_0 8 rfl rfl)
theorem dX1_init_9 : decode cX1_init 9 = .ok (.iconst 2, 1) := dk_5 (dk_at dksX1_init_0 9 rfl rfl)
theorem dX1_init_10 : decode cX1_init 10 = .ok (.invokespecial 11, 3) := dk_183 0 11 (dk_at dksX1_init_0 10 rfl rfl)
theorem dX1_init_13 : decode cX1_init 13 = .ok (.putfield 14, 3) := dk_181 0 14 (dk_at dksX1_init_0 13 rfl rfl)
theorem dX1_init_16 : decode cX1_init 16 = .ok (.aload_n 0, 1) := dk_42 (dk_at dksX1_init_0 16 rfl rfl)
theorem dX1_init_17 : decode cX1_init 17 = .ok (.new 9, 3) := dk_187 0 9 (dk_at dksX1_init_0 17 rfl rfl)
theorem dX1_init_20 : decode cX1_init 20 = .ok (.dup, 1) := dk_89 (dk_at dksX1_init_0 20 rfl rfl)
theorem dX1_init_21 : decode cX1_init 21 = .ok (.iconst 1, 1) := dk_4 (dk_at dksX1_init_0 21 rfl rfl)
theorem dX1_init_22 : decode cX1_init 22 = .ok (.invokespecial 11, 3) := dk_183 0 11 (dk_at dksX1_init_1 0 rfl rfl)
theorem dX1_init_25 : decode cX1_init 25 = .ok (.putfield 20, 3) := dk_181 0 20 (dk_at dksX1_init_1 3 rfl rfl)
theorem dX1_init_28 : decode cX1_init 28 = .ok (.aload_n 0, 1) := dk_42 (dk_at dksX1_init_1 6 rfl rfl)
theorem dX1_init_29 : decode cX1_init 29 = .ok (.new 9, 3) := dk_187 0 9 (dk_at dksX1_init_1 7 rfl rfl)
theorem dX1_init_32 : decode cX1_init 32 = .ok (.dup, 1) := dk_89 (dk_at dksX1_init_1 10 rfl rfl)
theorem dX1_init_33 : decode cX1_init 33 = .ok (.iconst 1, 1) := dk_4 (dk_at dksX1_init_1 11 rfl rfl)
theorem dX1_init_34 : decode cX1_init 34 = .ok (.invokespecial 11, 3) := dk_183 0 11 (dk_at dksX1_init_1 12 rfl rfl)
theorem dX1_init_37 : decode cX1_init 37 = .ok (.putfield 23, 3) := dk_181 0 23 (dk_at dksX1_init_1 15 rfl rfl)
theorem dX1_init_40 : decode cX1_init 40 = .ok (.aload_n 0, 1) := dk_42 (dk_at dksX1_init_1 18 rfl rfl)
theorem dX1_init_41 : decode cX1_init 41 = .ok (.iconst 3, 1) := dk_6 (dk_at dksX1_init_1 19 rfl rfl)
theorem dX1_init_42 : decode cX1_init 42 = .ok (.newarray .int, 2) := dk_188_10 (dk_at dksX1_init_1 20 rfl rfl)
theorem dX1_init_44 : decode cX1_init 44 = .ok (.putfield 26, 3) := dk_181 0 26 (dk_at dksX1_init_2 0 rfl rfl)
theorem dX1_init_47 : decode cX1_init 47 = .ok (.aload_n 0, 1) := dk_42 (dk_at dksX1_init_2 3 rfl rfl)
theorem dX1_init_48 : decode cX1_init 48 = .ok (.iconst 3, 1) := dk_6 (dk_at dksX1_init_2 4 rfl rfl)
theorem dX1_init_49 : decode cX1_init 49 = .ok (.newarray .int, 2) := dk_188_10 (dk_at dksX1_init_2 5 rfl rfl)
theorem dX1_init_51 : decode cX1_init 51 = .ok (.putfield 30, 3) := dk_181 0 30 (dk_at dksX1_init_2 7 rfl rfl)
theorem dX1_init_54 : decode cX1_init 54 = .ok (.aload_n 0, 1) := dk_42 (dk_at dksX1_init_2 10 rfl rfl)
theorem dX1_init_55 : decode cX1_init 55 = .ok (.bipush 64, 2) := dk_16 64 (dk_at dksX1_init_2 11 rfl rfl)
theorem dX1_init_57 : decode cX1_init 57 = .ok (.newarray .int, 2) := dk_188_10 (dk_at dksX1_init_2 13 rfl rfl)
theorem dX1_init_59 : decode cX1_init 59 = .ok (.putfield 33, 3) := dk_181 0 33 (dk_at dksX1_init_2 15 rfl rfl)
theorem dX1_init_62 : decode cX1_init 62 = .ok (.aload_n 0, 1) := dk_42 (dk_at dksX1_init_2 18 rfl rfl)
theorem dX1_init_63 : decode cX1_init 63 = .ok (.bipush 8, 2) := dk_16 8 (dk_at dksX1_init_2 19 rfl rfl)
theorem dX1_init_65 : decode cX1_init 65 = .ok (.newarray .boolean, 2) := dk_188_4 (dk_at dksX1_init_2 21 rfl rfl)
theorem dX1_init_67 : decode cX1_init 67 = .ok (.putfield 36, 3) := dk_181 0 36 (dk_at dksX1_init_3 0 rfl rfl)
theorem dX1_init_70 : decode cX1_init 70 = .ok (.return_, 1) := dk_177 (dk_at dksX1_init_3 3 rfl rfl)
abbrev cX1_part : ByteArray := prog_10_method_2_code
def dkwX1_part_2 : List UInt8 := [132, 2, 1, 167, 255, 209, 1, 176]
abbrev dktX1_part_2 : List UInt8 := dkwX1_part_2 ++ []
def dkwX1_part_1 : List UInt8 := [180, 0, 50, 43, 182, 0, 54, 153, 0, 15, 42, 180, 0, 14, 28, 182, 0, 44, 192, 0, 48, 176]
abbrev dktX1_part_1 : List UInt8 := dkwX1_part_1 ++ dktX1_part_2
def dkwX1_part_0 : List UInt8 := [3, 61, 28, 42, 180, 0, 14, 182, 0, 40, 162, 0, 42, 42, 180, 0, 14, 28, 182, 0, 44, 192, 0, 48]
abbrev dktX1_part_0 : List UInt8 := dkwX1_part_0 ++ dktX1_part_1
theorem dksX1_part_0 : cX1_part.data.toList.drop 0 = dktX1_part_0 := by decide +kernel
theorem dksX1_part_1 : cX1_part.data.toList.drop 24 = dktX1_part_1 := dk_seg dksX1_part_0 24 rfl rfl
theorem dksX1_part_2 : cX1_part.data.toList.drop 46 = dktX1_part_2 := dk_seg dksX1_part_1 22 rfl rfl
theorem dX1_part_0 : decode cX1_part 0 = .ok (.iconst 0, 1) := dk_3 (dk_at dksX1_part_0 0 rfl rfl)
theorem dX1_part_1 : decode cX1_part 1 = .ok (.istore_n 2, 1) := dk_61 (dk_at dksX1_part_0 1 rfl rfl)
theorem dX1_part_2 : decode cX1_part 2 = .ok (.iload_n 2, 1) := dk_28 (dk_at dksX1_part_0 2 rfl rfl)
theorem dX1_part_3 : decode cX1_part 3 = .ok (.aload_n 0, 1) := dk_42 (dk_at dksX1_part_0 3 rfl rfl)
theorem dX1_part_4 : decode cX1_part 4 = .ok (.getfield 14, 3) := dk_180 0 14 (dk_at dksX1_part_0 4 rfl rfl)
theorem dX1_part_7 : decode cX1_part 7 = .ok (.invokevirtual 40, 3) := dk_182 0 40 (dk_at dksX1_part_0 7 rfl rfl)
theorem dX1_part_10 : decode cX1_part 10 = .ok (.if_icmp .ge 42, 3) := dk_162 0 42 (dk_at dksX1_part_0 10 rfl rfl)
theorem dX1_part_13 : decode cX1_part 13 = .ok (.aload_n 0, 1) := dk_42 (dk_at dksX1_part_0 13 rfl rfl)
theorem dX1_part_14 : decode cX1_part 14 = .ok (.getfield 14, 3) := dk_180 0 14 (dk_at dksX1_part_0 14 rfl rfl)
theorem dX1_part_17 : decode cX1_part 17 = .ok (.iload_n 2, 1) := dk_28 (dk_at dksX1_part_0 17 rfl rfl)
theorem dX1_part_18 : decode cX1_part 18 = .ok (.invokevirtual 44, 3) := dk_182 0 44 (dk_at dksX1_part_0 18 rfl rfl)
theorem dX1_part_21 : decode cX1_part 21 = .ok (.checkcast 48, 3) := dk_192 0 48 (dk_at dksX1_part_0 21 rfl rfl)
theorem dX1_part_24 : decode cX1_part 24 = .ok (.getfield 50, 3) := dk_180 0 50 (dk_at dksX1_part_1 0 rfl rfl)
theorem dX1_part_27 : decode cX1_part 27 = .ok (.aload_n 1, 1) := dk_43 (dk_at dksX1_part_1 3 rfl rfl)
theorem dX1_part_28 : decode cX1_part 28 = .ok (.invokevirtual 54, 3) := dk_182 0 54 (dk_at dksX1_part_1 4 rfl rfl)
theorem dX1_part_31 : decode cX1_part 31 = .ok (.ifCond .eq 15, 3) := dk_153 0 15 (dk_at dksX1_part_1 7 rfl rfl)
theorem dX1_part_34 : decode cX1_part 34 = .ok (.aload_n 0, 1) := dk_42 (dk_at dksX1_part_1 10 rfl rfl)
theorem dX1_part_35 : decode cX1_part 35 = .ok (.getfield 14, 3) := dk_180 0 14 (dk_at dksX1_part_1 11 rfl rfl)
theorem dX1_part_38 : decode cX1_part 38 = .ok (.iload_n 2, 1) := dk_28 (dk_at dksX1_part_1 14 rfl rfl)
theorem dX1_part_39 : decode cX1_part 39 = .ok (.invokevirtual 44, 3) := dk_182 0 44 (dk_at dksX1_part_1 15 rfl rfl)
theorem dX1_part_42 : decode cX1_part 42 = .ok (.checkcast 48, 3) := dk_192 0 48 (dk_at dksX1_part_1 18 rfl rfl)
theorem dX1_part_45 : decode cX1_part 45 = .ok (.areturn, 1) := dk_176 (dk_at dksX1_part_1 21 rfl rfl)
theorem dX1_part_46 : decode cX1_part 46 = .ok (.iinc 2 1, 3) := dk_132 2 1 (dk_at dksX1_part_2 0 rfl rfl)
theorem dX1_part_49 : decode cX1_part 49 = .ok (.goto (-47), 3) := dk_167 255 209 (dk_at dksX1_part_2 3 rfl rfl)
theorem dX1_part_52 : decode cX1_part 52 = .ok (.aconst_null, 1) := dk_1 (dk_at dksX1_part_2 6 rfl rfl)
theorem dX1_part_53 : decode cX1_part 53 = .ok (.areturn, 1) := dk_176 (dk_at dksX1_part_2 7 rfl rfl)
abbrev cX10_fits : ByteArray := prog_9_method_2_code
def dkwX10_fits_1 : List UInt8 := [163, 0, 7, 4, 167, 0, 4, 3, 172]
abbrev dktX10_fits_1 : List UInt8 := dkwX10_fits_1 ++ []
def dkwX10_fits_0 : List UInt8 := [42, 180, 0, 7, 27, 182, 0, 20, 42, 180, 0, 13, 27, 182, 0, 20, 100, 184, 0, 26, 42, 180, 0, 16]
abbrev dktX10_fits_0 : List UInt8 := dkwX10_fits_0 ++ dktX10_fits_1
theorem dksX10_fits_0 : cX10_fits.data.toList.drop 0 = dktX10_fits_0 := by decide +kernel
theorem dksX10_fits_1 : cX10_fits.data.toList.drop 24 = dktX10_fits_1 := dk_seg dksX10_fits_0 24 rfl rfl
theorem dX10_fits_0 : decode cX10_fits 0 = .ok (.aload_n 0, 1) := dk_42 (dk_at dksX10_fits_0 0 rfl rfl)
theorem dX10_fits_1 : decode cX10_fits 1 = .ok (.getfield 7, 3) := dk_180 0 7 (dk_at dksX10_fits_0 1 rfl rfl)
theorem dX10_fits_4 : decode cX10_fits 4 = .ok (.iload_n 1, 1) := dk_27 (dk_at dksX10_fits_0 4 rfl rfl)
theorem dX10_fits_5 : decode cX10_fits 5 = .ok (.invokevirtual 20, 3) := dk_182 0 20 (dk_at dksX10_fits_0 5 rfl rfl)
theorem dX10_fits_8 : decode cX10_fits 8 = .ok (.aload_n 0, 1) := dk_42 (dk_at dksX10_fits_0 8 rfl rfl)
theorem dX10_fits_9 : decode cX10_fits 9 = .ok (.getfield 13, 3) := dk_180 0 13 (dk_at dksX10_fits_0 9 rfl rfl)
theorem dX10_fits_12 : decode cX10_fits 12 = .ok (.iload_n 1, 1) := dk_27 (dk_at dksX10_fits_0 12 rfl rfl)
theorem dX10_fits_13 : decode cX10_fits 13 = .ok (.invokevirtual 20, 3) := dk_182 0 20 (dk_at dksX10_fits_0 13 rfl rfl)
theorem dX10_fits_16 : decode cX10_fits 16 = .ok (.isub, 1) := dk_100 (dk_at dksX10_fits_0 16 rfl rfl)
theorem dX10_fits_17 : decode cX10_fits 17 = .ok (.invokestatic 26, 3) := dk_184 0 26 (dk_at dksX10_fits_0 17 rfl rfl)
theorem dX10_fits_20 : decode cX10_fits 20 = .ok (.aload_n 0, 1) := dk_42 (dk_at dksX10_fits_0 20 rfl rfl)
theorem dX10_fits_21 : decode cX10_fits 21 = .ok (.getfield 16, 3) := dk_180 0 16 (dk_at dksX10_fits_0 21 rfl rfl)
theorem dX10_fits_24 : decode cX10_fits 24 = .ok (.if_icmp .gt 7, 3) := dk_163 0 7 (dk_at dksX10_fits_1 0 rfl rfl)
theorem dX10_fits_27 : decode cX10_fits 27 = .ok (.iconst 1, 1) := dk_4 (dk_at dksX10_fits_1 3 rfl rfl)
theorem dX10_fits_28 : decode cX10_fits 28 = .ok (.goto 4, 3) := dk_167 0 4 (dk_at dksX10_fits_1 4 rfl rfl)
theorem dX10_fits_31 : decode cX10_fits 31 = .ok (.iconst 0, 1) := dk_3 (dk_at dksX10_fits_1 7 rfl rfl)
theorem dX10_fits_32 : decode cX10_fits 32 = .ok (.ireturn, 1) := dk_172 (dk_at dksX10_fits_1 8 rfl rfl)
abbrev cX10_init : ByteArray := prog_9_method_1_code
def dkwX10_init_0 : List UInt8 := [42, 183, 0, 1, 42, 43, 181, 0, 7, 42, 44, 181, 0, 13, 42, 29, 181, 0, 16, 177]
abbrev dktX10_init_0 : List UInt8 := dkwX10_init_0 ++ []
theorem dksX10_init_0 : cX10_init.data.toList.drop 0 = dktX10_init_0 := by decide +kernel
theorem dX10_init_0 : decode cX10_init 0 = .ok (.aload_n 0, 1) := dk_42 (dk_at dksX10_init_0 0 rfl rfl)
theorem dX10_init_1 : decode cX10_init 1 = .ok (.invokespecial 1, 3) := dk_183 0 1 (dk_at dksX10_init_0 1 rfl rfl)
theorem dX10_init_4 : decode cX10_init 4 = .ok (.aload_n 0, 1) := dk_42 (dk_at dksX10_init_0 4 rfl rfl)
theorem dX10_init_5 : decode cX10_init 5 = .ok (.aload_n 1, 1) := dk_43 (dk_at dksX10_init_0 5 rfl rfl)
theorem dX10_init_6 : decode cX10_init 6 = .ok (.putfield 7, 3) := dk_181 0 7 (dk_at dksX10_init_0 6 rfl rfl)
theorem dX10_init_9 : decode cX10_init 9 = .ok (.aload_n 0, 1) := dk_42 (dk_at dksX10_init_0 9 rfl rfl)
theorem dX10_init_10 : decode cX10_init 10 = .ok (.aload_n 2, 1) := dk_44 (dk_at dksX10_init_0 10 rfl rfl)
theorem dX10_init_11 : decode cX10_init 11 = .ok (.putfield 13, 3) := dk_181 0 13 (dk_at dksX10_init_0 11 rfl rfl)
theorem dX10_init_14 : decode cX10_init 14 = .ok (.aload_n 0, 1) := dk_42 (dk_at dksX10_init_0 14 rfl rfl)
theorem dX10_init_15 : decode cX10_init 15 = .ok (.iload_n 3, 1) := dk_29 (dk_at dksX10_init_0 15 rfl rfl)
theorem dX10_init_16 : decode cX10_init 16 = .ok (.putfield 16, 3) := dk_181 0 16 (dk_at dksX10_init_0 16 rfl rfl)
theorem dX10_init_19 : decode cX10_init 19 = .ok (.return_, 1) := dk_177 (dk_at dksX10_init_0 19 rfl rfl)
abbrev cX11_both : ByteArray := prog_20_method_5_code
def dkwX11_both_2 : List UInt8 := [3, 182, 0, 94, 192, 0, 98, 167, 0, 12, 187, 0, 100, 89, 43, 4, 183, 0, 102, 176]
abbrev dktX11_both_2 : List UInt8 := dkwX11_both_2 ++ []
def dkwX11_both_1 : List UInt8 := [153, 0, 15, 43, 42, 182, 0, 105, 182, 0, 82, 87, 167, 255, 238, 43, 182, 0, 91, 4, 160, 0, 14, 43]
abbrev dktX11_both_1 : List UInt8 := dkwX11_both_1 ++ dktX11_both_2
def dkwX11_both_0 : List UInt8 := [187, 0, 75, 89, 4, 183, 0, 77, 76, 43, 42, 182, 0, 105, 182, 0, 82, 87, 42, 18, 108, 182, 0, 88]
abbrev dktX11_both_0 : List UInt8 := dkwX11_both_0 ++ dktX11_both_1
theorem dksX11_both_0 : cX11_both.data.toList.drop 0 = dktX11_both_0 := by decide +kernel
theorem dksX11_both_1 : cX11_both.data.toList.drop 24 = dktX11_both_1 := dk_seg dksX11_both_0 24 rfl rfl
theorem dksX11_both_2 : cX11_both.data.toList.drop 48 = dktX11_both_2 := dk_seg dksX11_both_1 24 rfl rfl
theorem dX11_both_0 : decode cX11_both 0 = .ok (.new 75, 3) := dk_187 0 75 (dk_at dksX11_both_0 0 rfl rfl)
theorem dX11_both_3 : decode cX11_both 3 = .ok (.dup, 1) := dk_89 (dk_at dksX11_both_0 3 rfl rfl)
theorem dX11_both_4 : decode cX11_both 4 = .ok (.iconst 1, 1) := dk_4 (dk_at dksX11_both_0 4 rfl rfl)
theorem dX11_both_5 : decode cX11_both 5 = .ok (.invokespecial 77, 3) := dk_183 0 77 (dk_at dksX11_both_0 5 rfl rfl)
theorem dX11_both_8 : decode cX11_both 8 = .ok (.astore_n 1, 1) := dk_76 (dk_at dksX11_both_0 8 rfl rfl)
theorem dX11_both_9 : decode cX11_both 9 = .ok (.aload_n 1, 1) := dk_43 (dk_at dksX11_both_0 9 rfl rfl)
theorem dX11_both_10 : decode cX11_both 10 = .ok (.aload_n 0, 1) := dk_42 (dk_at dksX11_both_0 10 rfl rfl)
theorem dX11_both_11 : decode cX11_both 11 = .ok (.invokevirtual 105, 3) := dk_182 0 105 (dk_at dksX11_both_0 11 rfl rfl)
theorem dX11_both_14 : decode cX11_both 14 = .ok (.invokevirtual 82, 3) := dk_182 0 82 (dk_at dksX11_both_0 14 rfl rfl)
theorem dX11_both_17 : decode cX11_both 17 = .ok (.pop, 1) := dk_87 (dk_at dksX11_both_0 17 rfl rfl)
theorem dX11_both_18 : decode cX11_both 18 = .ok (.aload_n 0, 1) := dk_42 (dk_at dksX11_both_0 18 rfl rfl)
theorem dX11_both_19 : decode cX11_both 19 = .ok (.ldc 108, 2) := dk_18 108 (dk_at dksX11_both_0 19 rfl rfl)
theorem dX11_both_21 : decode cX11_both 21 = .ok (.invokevirtual 88, 3) := dk_182 0 88 (dk_at dksX11_both_0 21 rfl rfl)
theorem dX11_both_24 : decode cX11_both 24 = .ok (.ifCond .eq 15, 3) := dk_153 0 15 (dk_at dksX11_both_1 0 rfl rfl)
theorem dX11_both_27 : decode cX11_both 27 = .ok (.aload_n 1, 1) := dk_43 (dk_at dksX11_both_1 3 rfl rfl)
theorem dX11_both_28 : decode cX11_both 28 = .ok (.aload_n 0, 1) := dk_42 (dk_at dksX11_both_1 4 rfl rfl)
theorem dX11_both_29 : decode cX11_both 29 = .ok (.invokevirtual 105, 3) := dk_182 0 105 (dk_at dksX11_both_1 5 rfl rfl)
theorem dX11_both_32 : decode cX11_both 32 = .ok (.invokevirtual 82, 3) := dk_182 0 82 (dk_at dksX11_both_1 8 rfl rfl)
theorem dX11_both_35 : decode cX11_both 35 = .ok (.pop, 1) := dk_87 (dk_at dksX11_both_1 11 rfl rfl)
theorem dX11_both_36 : decode cX11_both 36 = .ok (.goto (-18), 3) := dk_167 255 238 (dk_at dksX11_both_1 12 rfl rfl)
theorem dX11_both_39 : decode cX11_both 39 = .ok (.aload_n 1, 1) := dk_43 (dk_at dksX11_both_1 15 rfl rfl)
theorem dX11_both_40 : decode cX11_both 40 = .ok (.invokevirtual 91, 3) := dk_182 0 91 (dk_at dksX11_both_1 16 rfl rfl)
theorem dX11_both_43 : decode cX11_both 43 = .ok (.iconst 1, 1) := dk_4 (dk_at dksX11_both_1 19 rfl rfl)
theorem dX11_both_44 : decode cX11_both 44 = .ok (.if_icmp .ne 14, 3) := dk_160 0 14 (dk_at dksX11_both_1 20 rfl rfl)
theorem dX11_both_47 : decode cX11_both 47 = .ok (.aload_n 1, 1) := dk_43 (dk_at dksX11_both_1 23 rfl rfl)
theorem dX11_both_48 : decode cX11_both 48 = .ok (.iconst 0, 1) := dk_3 (dk_at dksX11_both_2 0 rfl rfl)
theorem dX11_both_49 : decode cX11_both 49 = .ok (.invokevirtual 94, 3) := dk_182 0 94 (dk_at dksX11_both_2 1 rfl rfl)
theorem dX11_both_52 : decode cX11_both 52 = .ok (.checkcast 98, 3) := dk_192 0 98 (dk_at dksX11_both_2 4 rfl rfl)
theorem dX11_both_55 : decode cX11_both 55 = .ok (.goto 12, 3) := dk_167 0 12 (dk_at dksX11_both_2 7 rfl rfl)
theorem dX11_both_58 : decode cX11_both 58 = .ok (.new 100, 3) := dk_187 0 100 (dk_at dksX11_both_2 10 rfl rfl)
theorem dX11_both_61 : decode cX11_both 61 = .ok (.dup, 1) := dk_89 (dk_at dksX11_both_2 13 rfl rfl)
theorem dX11_both_62 : decode cX11_both 62 = .ok (.aload_n 1, 1) := dk_43 (dk_at dksX11_both_2 14 rfl rfl)
theorem dX11_both_63 : decode cX11_both 63 = .ok (.iconst 1, 1) := dk_4 (dk_at dksX11_both_2 15 rfl rfl)
theorem dX11_both_64 : decode cX11_both 64 = .ok (.invokespecial 102, 3) := dk_183 0 102 (dk_at dksX11_both_2 16 rfl rfl)
theorem dX11_both_67 : decode cX11_both 67 = .ok (.areturn, 1) := dk_176 (dk_at dksX11_both_2 19 rfl rfl)
abbrev cX11_deeper : ByteArray := prog_20_method_6_code
def dkwX11_deeper_1 : List UInt8 := [177]
abbrev dktX11_deeper_1 : List UInt8 := dkwX11_deeper_1 ++ []
def dkwX11_deeper_0 : List UInt8 := [42, 180, 0, 110, 16, 7, 160, 0, 8, 42, 182, 0, 54, 191, 42, 89, 180, 0, 110, 4, 96, 181, 0, 110]
abbrev dktX11_deeper_0 : List UInt8 := dkwX11_deeper_0 ++ dktX11_deeper_1
theorem dksX11_deeper_0 : cX11_deeper.data.toList.drop 0 = dktX11_deeper_0 := by decide +kernel
theorem dksX11_deeper_1 : cX11_deeper.data.toList.drop 24 = dktX11_deeper_1 := dk_seg dksX11_deeper_0 24 rfl rfl
theorem dX11_deeper_0 : decode cX11_deeper 0 = .ok (.aload_n 0, 1) := dk_42 (dk_at dksX11_deeper_0 0 rfl rfl)
theorem dX11_deeper_1 : decode cX11_deeper 1 = .ok (.getfield 110, 3) := dk_180 0 110 (dk_at dksX11_deeper_0 1 rfl rfl)
theorem dX11_deeper_4 : decode cX11_deeper 4 = .ok (.bipush 7, 2) := dk_16 7 (dk_at dksX11_deeper_0 4 rfl rfl)
theorem dX11_deeper_6 : decode cX11_deeper 6 = .ok (.if_icmp .ne 8, 3) := dk_160 0 8 (dk_at dksX11_deeper_0 6 rfl rfl)
theorem dX11_deeper_9 : decode cX11_deeper 9 = .ok (.aload_n 0, 1) := dk_42 (dk_at dksX11_deeper_0 9 rfl rfl)
theorem dX11_deeper_10 : decode cX11_deeper 10 = .ok (.invokevirtual 54, 3) := dk_182 0 54 (dk_at dksX11_deeper_0 10 rfl rfl)
theorem dX11_deeper_13 : decode cX11_deeper 13 = .ok (.athrow, 1) := dk_191 (dk_at dksX11_deeper_0 13 rfl rfl)
theorem dX11_deeper_14 : decode cX11_deeper 14 = .ok (.aload_n 0, 1) := dk_42 (dk_at dksX11_deeper_0 14 rfl rfl)
theorem dX11_deeper_15 : decode cX11_deeper 15 = .ok (.dup, 1) := dk_89 (dk_at dksX11_deeper_0 15 rfl rfl)
theorem dX11_deeper_16 : decode cX11_deeper 16 = .ok (.getfield 110, 3) := dk_180 0 110 (dk_at dksX11_deeper_0 16 rfl rfl)
theorem dX11_deeper_19 : decode cX11_deeper 19 = .ok (.iconst 1, 1) := dk_4 (dk_at dksX11_deeper_0 19 rfl rfl)
theorem dX11_deeper_20 : decode cX11_deeper 20 = .ok (.iadd, 1) := dk_96 (dk_at dksX11_deeper_0 20 rfl rfl)
theorem dX11_deeper_21 : decode cX11_deeper 21 = .ok (.putfield 110, 3) := dk_181 0 110 (dk_at dksX11_deeper_0 21 rfl rfl)
theorem dX11_deeper_24 : decode cX11_deeper 24 = .ok (.return_, 1) := dk_177 (dk_at dksX11_deeper_1 0 rfl rfl)
abbrev cX11_either : ByteArray := prog_20_method_4_code
def dkwX11_either_2 : List UInt8 := [3, 182, 0, 94, 192, 0, 98, 167, 0, 12, 187, 0, 100, 89, 43, 3, 183, 0, 102, 176]
abbrev dktX11_either_2 : List UInt8 := dkwX11_either_2 ++ []
def dkwX11_either_1 : List UInt8 := [153, 0, 15, 43, 42, 182, 0, 79, 182, 0, 82, 87, 167, 255, 238, 43, 182, 0, 91, 4, 160, 0, 14, 43]
abbrev dktX11_either_1 : List UInt8 := dkwX11_either_1 ++ dktX11_either_2
def dkwX11_either_0 : List UInt8 := [187, 0, 75, 89, 4, 183, 0, 77, 76, 43, 42, 182, 0, 79, 182, 0, 82, 87, 42, 18, 86, 182, 0, 88]
abbrev dktX11_either_0 : List UInt8 := dkwX11_either_0 ++ dktX11_either_1
theorem dksX11_either_0 : cX11_either.data.toList.drop 0 = dktX11_either_0 := by decide +kernel
theorem dksX11_either_1 : cX11_either.data.toList.drop 24 = dktX11_either_1 := dk_seg dksX11_either_0 24 rfl rfl
theorem dksX11_either_2 : cX11_either.data.toList.drop 48 = dktX11_either_2 := dk_seg dksX11_either_1 24 rfl rfl
theorem dX11_either_0 : decode cX11_either 0 = .ok (.new 75, 3) := dk_187 0 75 (dk_at dksX11_either_0 0 rfl rfl)
theorem dX11_either_3 : decode cX11_either 3 = .ok (.dup, 1) := dk_89 (dk_at dksX11_either_0 3 rfl rfl)
theorem dX11_either_4 : decode cX11_either 4 = .ok (.iconst 1, 1) := dk_4 (dk_at dksX11_either_0 4 rfl rfl)
theorem dX11_either_5 : decode cX11_either 5 = .ok (.invokespecial 77, 3) := dk_183 0 77 (dk_at dksX11_either_0 5 rfl rfl)
theorem dX11_either_8 : decode cX11_either 8 = .ok (.astore_n 1, 1) := dk_76 (dk_at dksX11_either_0 8 rfl rfl)
theorem dX11_either_9 : decode cX11_either 9 = .ok (.aload_n 1, 1) := dk_43 (dk_at dksX11_either_0 9 rfl rfl)
theorem dX11_either_10 : decode cX11_either 10 = .ok (.aload_n 0, 1) := dk_42 (dk_at dksX11_either_0 10 rfl rfl)
theorem dX11_either_11 : decode cX11_either 11 = .ok (.invokevirtual 79, 3) := dk_182 0 79 (dk_at dksX11_either_0 11 rfl rfl)
theorem dX11_either_14 : decode cX11_either 14 = .ok (.invokevirtual 82, 3) := dk_182 0 82 (dk_at dksX11_either_0 14 rfl rfl)
theorem dX11_either_17 : decode cX11_either 17 = .ok (.pop, 1) := dk_87 (dk_at dksX11_either_0 17 rfl rfl)
theorem dX11_either_18 : decode cX11_either 18 = .ok (.aload_n 0, 1) := dk_42 (dk_at dksX11_either_0 18 rfl rfl)
theorem dX11_either_19 : decode cX11_either 19 = .ok (.ldc 86, 2) := dk_18 86 (dk_at dksX11_either_0 19 rfl rfl)
theorem dX11_either_21 : decode cX11_either 21 = .ok (.invokevirtual 88, 3) := dk_182 0 88 (dk_at dksX11_either_0 21 rfl rfl)
theorem dX11_either_24 : decode cX11_either 24 = .ok (.ifCond .eq 15, 3) := dk_153 0 15 (dk_at dksX11_either_1 0 rfl rfl)
theorem dX11_either_27 : decode cX11_either 27 = .ok (.aload_n 1, 1) := dk_43 (dk_at dksX11_either_1 3 rfl rfl)
theorem dX11_either_28 : decode cX11_either 28 = .ok (.aload_n 0, 1) := dk_42 (dk_at dksX11_either_1 4 rfl rfl)
theorem dX11_either_29 : decode cX11_either 29 = .ok (.invokevirtual 79, 3) := dk_182 0 79 (dk_at dksX11_either_1 5 rfl rfl)
theorem dX11_either_32 : decode cX11_either 32 = .ok (.invokevirtual 82, 3) := dk_182 0 82 (dk_at dksX11_either_1 8 rfl rfl)
theorem dX11_either_35 : decode cX11_either 35 = .ok (.pop, 1) := dk_87 (dk_at dksX11_either_1 11 rfl rfl)
theorem dX11_either_36 : decode cX11_either 36 = .ok (.goto (-18), 3) := dk_167 255 238 (dk_at dksX11_either_1 12 rfl rfl)
theorem dX11_either_39 : decode cX11_either 39 = .ok (.aload_n 1, 1) := dk_43 (dk_at dksX11_either_1 15 rfl rfl)
theorem dX11_either_40 : decode cX11_either 40 = .ok (.invokevirtual 91, 3) := dk_182 0 91 (dk_at dksX11_either_1 16 rfl rfl)
theorem dX11_either_43 : decode cX11_either 43 = .ok (.iconst 1, 1) := dk_4 (dk_at dksX11_either_1 19 rfl rfl)
theorem dX11_either_44 : decode cX11_either 44 = .ok (.if_icmp .ne 14, 3) := dk_160 0 14 (dk_at dksX11_either_1 20 rfl rfl)
theorem dX11_either_47 : decode cX11_either 47 = .ok (.aload_n 1, 1) := dk_43 (dk_at dksX11_either_1 23 rfl rfl)
theorem dX11_either_48 : decode cX11_either 48 = .ok (.iconst 0, 1) := dk_3 (dk_at dksX11_either_2 0 rfl rfl)
theorem dX11_either_49 : decode cX11_either 49 = .ok (.invokevirtual 94, 3) := dk_182 0 94 (dk_at dksX11_either_2 1 rfl rfl)
theorem dX11_either_52 : decode cX11_either 52 = .ok (.checkcast 98, 3) := dk_192 0 98 (dk_at dksX11_either_2 4 rfl rfl)
theorem dX11_either_55 : decode cX11_either 55 = .ok (.goto 12, 3) := dk_167 0 12 (dk_at dksX11_either_2 7 rfl rfl)
theorem dX11_either_58 : decode cX11_either 58 = .ok (.new 100, 3) := dk_187 0 100 (dk_at dksX11_either_2 10 rfl rfl)
theorem dX11_either_61 : decode cX11_either 61 = .ok (.dup, 1) := dk_89 (dk_at dksX11_either_2 13 rfl rfl)
theorem dX11_either_62 : decode cX11_either 62 = .ok (.aload_n 1, 1) := dk_43 (dk_at dksX11_either_2 14 rfl rfl)
theorem dX11_either_63 : decode cX11_either 63 = .ok (.iconst 0, 1) := dk_3 (dk_at dksX11_either_2 15 rfl rfl)
theorem dX11_either_64 : decode cX11_either 64 = .ok (.invokespecial 102, 3) := dk_183 0 102 (dk_at dksX11_either_2 16 rfl rfl)
theorem dX11_either_67 : decode cX11_either 67 = .ok (.areturn, 1) := dk_176 (dk_at dksX11_either_2 19 rfl rfl)
abbrev cX11_init : ByteArray := prog_20_method_1_code
def dkwX11_init_0 : List UInt8 := [42, 43, 181, 0, 3, 42, 43, 183, 0, 9, 42, 187, 0, 15, 89, 183, 0, 17, 181, 0, 20, 177]
abbrev dktX11_init_0 : List UInt8 := dkwX11_init_0 ++ []
theorem dksX11_init_0 : cX11_init.data.toList.drop 0 = dktX11_init_0 := by decide +kernel
theorem dX11_init_0 : decode cX11_init 0 = .ok (.aload_n 0, 1) := dk_42 (dk_at dksX11_init_0 0 rfl rfl)
theorem dX11_init_1 : decode cX11_init 1 = .ok (.aload_n 1, 1) := dk_43 (dk_at dksX11_init_0 1 rfl rfl)
theorem dX11_init_2 : decode cX11_init 2 = .ok (.putfield 3, 3) := dk_181 0 3 (dk_at dksX11_init_0 2 rfl rfl)
theorem dX11_init_5 : decode cX11_init 5 = .ok (.aload_n 0, 1) := dk_42 (dk_at dksX11_init_0 5 rfl rfl)
theorem dX11_init_6 : decode cX11_init 6 = .ok (.aload_n 1, 1) := dk_43 (dk_at dksX11_init_0 6 rfl rfl)
theorem dX11_init_7 : decode cX11_init 7 = .ok (.invokespecial 9, 3) := dk_183 0 9 (dk_at dksX11_init_0 7 rfl rfl)
theorem dX11_init_10 : decode cX11_init 10 = .ok (.aload_n 0, 1) := dk_42 (dk_at dksX11_init_0 10 rfl rfl)
theorem dX11_init_11 : decode cX11_init 11 = .ok (.new 15, 3) := dk_187 0 15 (dk_at dksX11_init_0 11 rfl rfl)
theorem dX11_init_14 : decode cX11_init 14 = .ok (.dup, 1) := dk_89 (dk_at dksX11_init_0 14 rfl rfl)
theorem dX11_init_15 : decode cX11_init 15 = .ok (.invokespecial 17, 3) := dk_183 0 17 (dk_at dksX11_init_0 15 rfl rfl)
theorem dX11_init_18 : decode cX11_init 18 = .ok (.putfield 20, 3) := dk_181 0 20 (dk_at dksX11_init_0 18 rfl rfl)
theorem dX11_init_21 : decode cX11_init 21 = .ok (.return_, 1) := dk_177 (dk_at dksX11_init_0 21 rfl rfl)
abbrev cX11_lineHere : ByteArray := prog_20_method_2_code
def dkwX11_lineHere_2 : List UInt8 := [153, 0, 7, 6, 167, 0, 4, 2, 172]
abbrev dktX11_lineHere_2 : List UInt8 := dkwX11_lineHere_2 ++ []
def dkwX11_lineHere_1 : List UInt8 := [167, 0, 30, 42, 18, 32, 182, 0, 26, 153, 0, 7, 5, 167, 0, 17, 42, 18, 34, 182, 0, 26]
abbrev dktX11_lineHere_1 : List UInt8 := dkwX11_lineHere_1 ++ dktX11_lineHere_2
def dkwX11_lineHere_0 : List UInt8 := [42, 18, 24, 182, 0, 26, 153, 0, 7, 3, 167, 0, 43, 42, 18, 30, 182, 0, 26, 153, 0, 7, 4]
abbrev dktX11_lineHere_0 : List UInt8 := dkwX11_lineHere_0 ++ dktX11_lineHere_1
theorem dksX11_lineHere_0 : cX11_lineHere.data.toList.drop 0 = dktX11_lineHere_0 := by decide +kernel
theorem dksX11_lineHere_1 : cX11_lineHere.data.toList.drop 23 = dktX11_lineHere_1 := dk_seg dksX11_lineHere_0 23 rfl rfl
theorem dksX11_lineHere_2 : cX11_lineHere.data.toList.drop 45 = dktX11_lineHere_2 := dk_seg dksX11_lineHere_1 22 rfl rfl
theorem dX11_lineHere_0 : decode cX11_lineHere 0 = .ok (.aload_n 0, 1) := dk_42 (dk_at dksX11_lineHere_0 0 rfl rfl)
theorem dX11_lineHere_1 : decode cX11_lineHere 1 = .ok (.ldc 24, 2) := dk_18 24 (dk_at dksX11_lineHere_0 1 rfl rfl)
theorem dX11_lineHere_3 : decode cX11_lineHere 3 = .ok (.invokevirtual 26, 3) := dk_182 0 26 (dk_at dksX11_lineHere_0 3 rfl rfl)
theorem dX11_lineHere_6 : decode cX11_lineHere 6 = .ok (.ifCond .eq 7, 3) := dk_153 0 7 (dk_at dksX11_lineHere_0 6 rfl rfl)
theorem dX11_lineHere_9 : decode cX11_lineHere 9 = .ok (.iconst 0, 1) := dk_3 (dk_at dksX11_lineHere_0 9 rfl rfl)
theorem dX11_lineHere_10 : decode cX11_lineHere 10 = .ok (.goto 43, 3) := dk_167 0 43 (dk_at dksX11_lineHere_0 10 rfl rfl)
theorem dX11_lineHere_13 : decode cX11_lineHere 13 = .ok (.aload_n 0, 1) := dk_42 (dk_at dksX11_lineHere_0 13 rfl rfl)
theorem dX11_lineHere_14 : decode cX11_lineHere 14 = .ok (.ldc 30, 2) := dk_18 30 (dk_at dksX11_lineHere_0 14 rfl rfl)
theorem dX11_lineHere_16 : decode cX11_lineHere 16 = .ok (.invokevirtual 26, 3) := dk_182 0 26 (dk_at dksX11_lineHere_0 16 rfl rfl)
theorem dX11_lineHere_19 : decode cX11_lineHere 19 = .ok (.ifCond .eq 7, 3) := dk_153 0 7 (dk_at dksX11_lineHere_0 19 rfl rfl)
theorem dX11_lineHere_22 : decode cX11_lineHere 22 = .ok (.iconst 1, 1) := dk_4 (dk_at dksX11_lineHere_0 22 rfl rfl)
theorem dX11_lineHere_23 : decode cX11_lineHere 23 = .ok (.goto 30, 3) := dk_167 0 30 (dk_at dksX11_lineHere_1 0 rfl rfl)
theorem dX11_lineHere_26 : decode cX11_lineHere 26 = .ok (.aload_n 0, 1) := dk_42 (dk_at dksX11_lineHere_1 3 rfl rfl)
theorem dX11_lineHere_27 : decode cX11_lineHere 27 = .ok (.ldc 32, 2) := dk_18 32 (dk_at dksX11_lineHere_1 4 rfl rfl)
theorem dX11_lineHere_29 : decode cX11_lineHere 29 = .ok (.invokevirtual 26, 3) := dk_182 0 26 (dk_at dksX11_lineHere_1 6 rfl rfl)
theorem dX11_lineHere_32 : decode cX11_lineHere 32 = .ok (.ifCond .eq 7, 3) := dk_153 0 7 (dk_at dksX11_lineHere_1 9 rfl rfl)
theorem dX11_lineHere_35 : decode cX11_lineHere 35 = .ok (.iconst 2, 1) := dk_5 (dk_at dksX11_lineHere_1 12 rfl rfl)
theorem dX11_lineHere_36 : decode cX11_lineHere 36 = .ok (.goto 17, 3) := dk_167 0 17 (dk_at dksX11_lineHere_1 13 rfl rfl)
theorem dX11_lineHere_39 : decode cX11_lineHere 39 = .ok (.aload_n 0, 1) := dk_42 (dk_at dksX11_lineHere_1 16 rfl rfl)
theorem dX11_lineHere_40 : decode cX11_lineHere 40 = .ok (.ldc 34, 2) := dk_18 34 (dk_at dksX11_lineHere_1 17 rfl rfl)
theorem dX11_lineHere_42 : decode cX11_lineHere 42 = .ok (.invokevirtual 26, 3) := dk_182 0 26 (dk_at dksX11_lineHere_1 19 rfl rfl)
theorem dX11_lineHere_45 : decode cX11_lineHere 45 = .ok (.ifCond .eq 7, 3) := dk_153 0 7 (dk_at dksX11_lineHere_2 0 rfl rfl)
theorem dX11_lineHere_48 : decode cX11_lineHere 48 = .ok (.iconst 3, 1) := dk_6 (dk_at dksX11_lineHere_2 3 rfl rfl)
theorem dX11_lineHere_49 : decode cX11_lineHere 49 = .ok (.goto 4, 3) := dk_167 0 4 (dk_at dksX11_lineHere_2 4 rfl rfl)
theorem dX11_lineHere_52 : decode cX11_lineHere 52 = .ok (.iconst (-1), 1) := dk_2 (dk_at dksX11_lineHere_2 7 rfl rfl)
theorem dX11_lineHere_53 : decode cX11_lineHere 53 = .ok (.ireturn, 1) := dk_172 (dk_at dksX11_lineHere_2 8 rfl rfl)
abbrev cX11_one : ByteArray := prog_20_method_7_code
def dkwX11_one_4 : List UInt8 := [183, 0, 128, 176]
abbrev dktX11_one_4 : List UInt8 := dkwX11_one_4 ++ []
def dkwX11_one_3 : List UInt8 := [159, 0, 5, 43, 176, 42, 180, 0, 39, 61, 42, 182, 0, 36, 187, 0, 126, 89, 43, 28, 42, 182, 0, 123]
abbrev dktX11_one_3 : List UInt8 := dkwX11_one_3 ++ dktX11_one_4
def dkwX11_one_2 : List UInt8 := [42, 180, 0, 39, 16, 60, 159, 0, 23, 42, 180, 0, 39, 16, 62, 159, 0, 14, 42, 180, 0, 39, 16, 61]
abbrev dktX11_one_2 : List UInt8 := dkwX11_one_2 ++ dktX11_one_3
def dkwX11_one_1 : List UInt8 := [182, 0, 105, 183, 0, 120, 76, 42, 89, 180, 0, 110, 4, 100, 181, 0, 110, 43, 176, 42, 182, 0, 123, 76]
abbrev dktX11_one_1 : List UInt8 := dkwX11_one_1 ++ dktX11_one_2
def dkwX11_one_0 : List UInt8 := [42, 18, 113, 182, 0, 26, 153, 0, 35, 42, 182, 0, 115, 42, 182, 0, 36, 187, 0, 118, 89, 42]
abbrev dktX11_one_0 : List UInt8 := dkwX11_one_0 ++ dktX11_one_1
theorem dksX11_one_0 : cX11_one.data.toList.drop 0 = dktX11_one_0 := by decide +kernel
theorem dksX11_one_1 : cX11_one.data.toList.drop 22 = dktX11_one_1 := dk_seg dksX11_one_0 22 rfl rfl
theorem dksX11_one_2 : cX11_one.data.toList.drop 46 = dktX11_one_2 := dk_seg dksX11_one_1 24 rfl rfl
theorem dksX11_one_3 : cX11_one.data.toList.drop 70 = dktX11_one_3 := dk_seg dksX11_one_2 24 rfl rfl
theorem dksX11_one_4 : cX11_one.data.toList.drop 94 = dktX11_one_4 := dk_seg dksX11_one_3 24 rfl rfl
theorem dX11_one_0 : decode cX11_one 0 = .ok (.aload_n 0, 1) := dk_42 (dk_at dksX11_one_0 0 rfl rfl)
theorem dX11_one_1 : decode cX11_one 1 = .ok (.ldc 113, 2) := dk_18 113 (dk_at dksX11_one_0 1 rfl rfl)
theorem dX11_one_3 : decode cX11_one 3 = .ok (.invokevirtual 26, 3) := dk_182 0 26 (dk_at dksX11_one_0 3 rfl rfl)
theorem dX11_one_6 : decode cX11_one 6 = .ok (.ifCond .eq 35, 3) := dk_153 0 35 (dk_at dksX11_one_0 6 rfl rfl)
theorem dX11_one_9 : decode cX11_one 9 = .ok (.aload_n 0, 1) := dk_42 (dk_at dksX11_one_0 9 rfl rfl)
theorem dX11_one_10 : decode cX11_one 10 = .ok (.invokevirtual 115, 3) := dk_182 0 115 (dk_at dksX11_one_0 10 rfl rfl)
theorem dX11_one_13 : decode cX11_one 13 = .ok (.aload_n 0, 1) := dk_42 (dk_at dksX11_one_0 13 rfl rfl)
theorem dX11_one_14 : decode cX11_one 14 = .ok (.invokevirtual 36, 3) := dk_182 0 36 (dk_at dksX11_one_0 14 rfl rfl)
theorem dX11_one_17 : decode cX11_one 17 = .ok (.new 118, 3) := dk_187 0 118 (dk_at dksX11_one_0 17 rfl rfl)
theorem dX11_one_20 : decode cX11_one 20 = .ok (.dup, 1) := dk_89 (dk_at dksX11_one_0 20 rfl rfl)
theorem dX11_one_21 : decode cX11_one 21 = .ok (.aload_n 0, 1) := dk_42 (dk_at dksX11_one_0 21 rfl rfl)
theorem dX11_one_22 : decode cX11_one 22 = .ok (.invokevirtual 105, 3) := dk_182 0 105 (dk_at dksX11_one_1 0 rfl rfl)
theorem dX11_one_25 : decode cX11_one 25 = .ok (.invokespecial 120, 3) := dk_183 0 120 (dk_at dksX11_one_1 3 rfl rfl)
theorem dX11_one_28 : decode cX11_one 28 = .ok (.astore_n 1, 1) := dk_76 (dk_at dksX11_one_1 6 rfl rfl)
theorem dX11_one_29 : decode cX11_one 29 = .ok (.aload_n 0, 1) := dk_42 (dk_at dksX11_one_1 7 rfl rfl)
theorem dX11_one_30 : decode cX11_one 30 = .ok (.dup, 1) := dk_89 (dk_at dksX11_one_1 8 rfl rfl)
theorem dX11_one_31 : decode cX11_one 31 = .ok (.getfield 110, 3) := dk_180 0 110 (dk_at dksX11_one_1 9 rfl rfl)
theorem dX11_one_34 : decode cX11_one 34 = .ok (.iconst 1, 1) := dk_4 (dk_at dksX11_one_1 12 rfl rfl)
theorem dX11_one_35 : decode cX11_one 35 = .ok (.isub, 1) := dk_100 (dk_at dksX11_one_1 13 rfl rfl)
theorem dX11_one_36 : decode cX11_one 36 = .ok (.putfield 110, 3) := dk_181 0 110 (dk_at dksX11_one_1 14 rfl rfl)
theorem dX11_one_39 : decode cX11_one 39 = .ok (.aload_n 1, 1) := dk_43 (dk_at dksX11_one_1 17 rfl rfl)
theorem dX11_one_40 : decode cX11_one 40 = .ok (.areturn, 1) := dk_176 (dk_at dksX11_one_1 18 rfl rfl)
theorem dX11_one_41 : decode cX11_one 41 = .ok (.aload_n 0, 1) := dk_42 (dk_at dksX11_one_1 19 rfl rfl)
theorem dX11_one_42 : decode cX11_one 42 = .ok (.invokevirtual 123, 3) := dk_182 0 123 (dk_at dksX11_one_1 20 rfl rfl)
theorem dX11_one_45 : decode cX11_one 45 = .ok (.astore_n 1, 1) := dk_76 (dk_at dksX11_one_1 23 rfl rfl)
theorem dX11_one_46 : decode cX11_one 46 = .ok (.aload_n 0, 1) := dk_42 (dk_at dksX11_one_2 0 rfl rfl)
theorem dX11_one_47 : decode cX11_one 47 = .ok (.getfield 39, 3) := dk_180 0 39 (dk_at dksX11_one_2 1 rfl rfl)
theorem dX11_one_50 : decode cX11_one 50 = .ok (.bipush 60, 2) := dk_16 60 (dk_at dksX11_one_2 4 rfl rfl)
theorem dX11_one_52 : decode cX11_one 52 = .ok (.if_icmp .eq 23, 3) := dk_159 0 23 (dk_at dksX11_one_2 6 rfl rfl)
theorem dX11_one_55 : decode cX11_one 55 = .ok (.aload_n 0, 1) := dk_42 (dk_at dksX11_one_2 9 rfl rfl)
theorem dX11_one_56 : decode cX11_one 56 = .ok (.getfield 39, 3) := dk_180 0 39 (dk_at dksX11_one_2 10 rfl rfl)
theorem dX11_one_59 : decode cX11_one 59 = .ok (.bipush 62, 2) := dk_16 62 (dk_at dksX11_one_2 13 rfl rfl)
theorem dX11_one_61 : decode cX11_one 61 = .ok (.if_icmp .eq 14, 3) := dk_159 0 14 (dk_at dksX11_one_2 15 rfl rfl)
theorem dX11_one_64 : decode cX11_one 64 = .ok (.aload_n 0, 1) := dk_42 (dk_at dksX11_one_2 18 rfl rfl)
theorem dX11_one_65 : decode cX11_one 65 = .ok (.getfield 39, 3) := dk_180 0 39 (dk_at dksX11_one_2 19 rfl rfl)
theorem dX11_one_68 : decode cX11_one 68 = .ok (.bipush 61, 2) := dk_16 61 (dk_at dksX11_one_2 22 rfl rfl)
theorem dX11_one_70 : decode cX11_one 70 = .ok (.if_icmp .eq 5, 3) := dk_159 0 5 (dk_at dksX11_one_3 0 rfl rfl)
theorem dX11_one_73 : decode cX11_one 73 = .ok (.aload_n 1, 1) := dk_43 (dk_at dksX11_one_3 3 rfl rfl)
theorem dX11_one_74 : decode cX11_one 74 = .ok (.areturn, 1) := dk_176 (dk_at dksX11_one_3 4 rfl rfl)
theorem dX11_one_75 : decode cX11_one 75 = .ok (.aload_n 0, 1) := dk_42 (dk_at dksX11_one_3 5 rfl rfl)
theorem dX11_one_76 : decode cX11_one 76 = .ok (.getfield 39, 3) := dk_180 0 39 (dk_at dksX11_one_3 6 rfl rfl)
theorem dX11_one_79 : decode cX11_one 79 = .ok (.istore_n 2, 1) := dk_61 (dk_at dksX11_one_3 9 rfl rfl)
theorem dX11_one_80 : decode cX11_one 80 = .ok (.aload_n 0, 1) := dk_42 (dk_at dksX11_one_3 10 rfl rfl)
theorem dX11_one_81 : decode cX11_one 81 = .ok (.invokevirtual 36, 3) := dk_182 0 36 (dk_at dksX11_one_3 11 rfl rfl)
theorem dX11_one_84 : decode cX11_one 84 = .ok (.new 126, 3) := dk_187 0 126 (dk_at dksX11_one_3 14 rfl rfl)
theorem dX11_one_87 : decode cX11_one 87 = .ok (.dup, 1) := dk_89 (dk_at dksX11_one_3 17 rfl rfl)
theorem dX11_one_88 : decode cX11_one 88 = .ok (.aload_n 1, 1) := dk_43 (dk_at dksX11_one_3 18 rfl rfl)
theorem dX11_one_89 : decode cX11_one 89 = .ok (.iload_n 2, 1) := dk_28 (dk_at dksX11_one_3 19 rfl rfl)
theorem dX11_one_90 : decode cX11_one 90 = .ok (.aload_n 0, 1) := dk_42 (dk_at dksX11_one_3 20 rfl rfl)
theorem dX11_one_91 : decode cX11_one 91 = .ok (.invokevirtual 123, 3) := dk_182 0 123 (dk_at dksX11_one_3 21 rfl rfl)
theorem dX11_one_94 : decode cX11_one 94 = .ok (.invokespecial 128, 3) := dk_183 0 128 (dk_at dksX11_one_4 0 rfl rfl)
theorem dX11_one_97 : decode cX11_one 97 = .ok (.areturn, 1) := dk_176 (dk_at dksX11_one_4 3 rfl rfl)
abbrev cX11_sum : ByteArray := prog_20_method_8_code
def dkwX11_sum_3 : List UInt8 := [167, 255, 220, 44, 176]
abbrev dktX11_sum_3 : List UInt8 := dkwX11_sum_3 ++ []
def dkwX11_sum_2 : List UInt8 := [16, 45, 160, 0, 24, 42, 180, 0, 39, 62, 42, 182, 0, 36, 44, 29, 42, 182, 0, 131, 182, 0, 137]
abbrev dktX11_sum_2 : List UInt8 := dkwX11_sum_2 ++ dktX11_sum_3
def dkwX11_sum_1 : List UInt8 := [176, 187, 0, 134, 89, 43, 183, 0, 136, 77, 42, 180, 0, 39, 16, 43, 159, 0, 12, 42, 180, 0, 39]
abbrev dktX11_sum_1 : List UInt8 := dkwX11_sum_1 ++ dktX11_sum_2
def dkwX11_sum_0 : List UInt8 := [42, 182, 0, 131, 76, 42, 180, 0, 39, 16, 43, 159, 0, 14, 42, 180, 0, 39, 16, 45, 159, 0, 5, 43]
abbrev dktX11_sum_0 : List UInt8 := dkwX11_sum_0 ++ dktX11_sum_1
theorem dksX11_sum_0 : cX11_sum.data.toList.drop 0 = dktX11_sum_0 := by decide +kernel
theorem dksX11_sum_1 : cX11_sum.data.toList.drop 24 = dktX11_sum_1 := dk_seg dksX11_sum_0 24 rfl rfl
theorem dksX11_sum_2 : cX11_sum.data.toList.drop 47 = dktX11_sum_2 := dk_seg dksX11_sum_1 23 rfl rfl
theorem dksX11_sum_3 : cX11_sum.data.toList.drop 70 = dktX11_sum_3 := dk_seg dksX11_sum_2 23 rfl rfl
theorem dX11_sum_0 : decode cX11_sum 0 = .ok (.aload_n 0, 1) := dk_42 (dk_at dksX11_sum_0 0 rfl rfl)
theorem dX11_sum_1 : decode cX11_sum 1 = .ok (.invokevirtual 131, 3) := dk_182 0 131 (dk_at dksX11_sum_0 1 rfl rfl)
theorem dX11_sum_4 : decode cX11_sum 4 = .ok (.astore_n 1, 1) := dk_76 (dk_at dksX11_sum_0 4 rfl rfl)
theorem dX11_sum_5 : decode cX11_sum 5 = .ok (.aload_n 0, 1) := dk_42 (dk_at dksX11_sum_0 5 rfl rfl)
theorem dX11_sum_6 : decode cX11_sum 6 = .ok (.getfield 39, 3) := dk_180 0 39 (dk_at dksX11_sum_0 6 rfl rfl)
theorem dX11_sum_9 : decode cX11_sum 9 = .ok (.bipush 43, 2) := dk_16 43 (dk_at dksX11_sum_0 9 rfl rfl)
theorem dX11_sum_11 : decode cX11_sum 11 = .ok (.if_icmp .eq 14, 3) := dk_159 0 14 (dk_at dksX11_sum_0 11 rfl rfl)
theorem dX11_sum_14 : decode cX11_sum 14 = .ok (.aload_n 0, 1) := dk_42 (dk_at dksX11_sum_0 14 rfl rfl)
theorem dX11_sum_15 : decode cX11_sum 15 = .ok (.getfield 39, 3) := dk_180 0 39 (dk_at dksX11_sum_0 15 rfl rfl)
theorem dX11_sum_18 : decode cX11_sum 18 = .ok (.bipush 45, 2) := dk_16 45 (dk_at dksX11_sum_0 18 rfl rfl)
theorem dX11_sum_20 : decode cX11_sum 20 = .ok (.if_icmp .eq 5, 3) := dk_159 0 5 (dk_at dksX11_sum_0 20 rfl rfl)
theorem dX11_sum_23 : decode cX11_sum 23 = .ok (.aload_n 1, 1) := dk_43 (dk_at dksX11_sum_0 23 rfl rfl)
theorem dX11_sum_24 : decode cX11_sum 24 = .ok (.areturn, 1) := dk_176 (dk_at dksX11_sum_1 0 rfl rfl)
theorem dX11_sum_25 : decode cX11_sum 25 = .ok (.new 134, 3) := dk_187 0 134 (dk_at dksX11_sum_1 1 rfl rfl)
theorem dX11_sum_28 : decode cX11_sum 28 = .ok (.dup, 1) := dk_89 (dk_at dksX11_sum_1 4 rfl rfl)
theorem dX11_sum_29 : decode cX11_sum 29 = .ok (.aload_n 1, 1) := dk_43 (dk_at dksX11_sum_1 5 rfl rfl)
theorem dX11_sum_30 : decode cX11_sum 30 = .ok (.invokespecial 136, 3) := dk_183 0 136 (dk_at dksX11_sum_1 6 rfl rfl)
theorem dX11_sum_33 : decode cX11_sum 33 = .ok (.astore_n 2, 1) := dk_77 (dk_at dksX11_sum_1 9 rfl rfl)
theorem dX11_sum_34 : decode cX11_sum 34 = .ok (.aload_n 0, 1) := dk_42 (dk_at dksX11_sum_1 10 rfl rfl)
theorem dX11_sum_35 : decode cX11_sum 35 = .ok (.getfield 39, 3) := dk_180 0 39 (dk_at dksX11_sum_1 11 rfl rfl)
theorem dX11_sum_38 : decode cX11_sum 38 = .ok (.bipush 43, 2) := dk_16 43 (dk_at dksX11_sum_1 14 rfl rfl)
theorem dX11_sum_40 : decode cX11_sum 40 = .ok (.if_icmp .eq 12, 3) := dk_159 0 12 (dk_at dksX11_sum_1 16 rfl rfl)
theorem dX11_sum_43 : decode cX11_sum 43 = .ok (.aload_n 0, 1) := dk_42 (dk_at dksX11_sum_1 19 rfl rfl)
theorem dX11_sum_44 : decode cX11_sum 44 = .ok (.getfield 39, 3) := dk_180 0 39 (dk_at dksX11_sum_1 20 rfl rfl)
theorem dX11_sum_47 : decode cX11_sum 47 = .ok (.bipush 45, 2) := dk_16 45 (dk_at dksX11_sum_2 0 rfl rfl)
theorem dX11_sum_49 : decode cX11_sum 49 = .ok (.if_icmp .ne 24, 3) := dk_160 0 24 (dk_at dksX11_sum_2 2 rfl rfl)
theorem dX11_sum_52 : decode cX11_sum 52 = .ok (.aload_n 0, 1) := dk_42 (dk_at dksX11_sum_2 5 rfl rfl)
theorem dX11_sum_53 : decode cX11_sum 53 = .ok (.getfield 39, 3) := dk_180 0 39 (dk_at dksX11_sum_2 6 rfl rfl)
theorem dX11_sum_56 : decode cX11_sum 56 = .ok (.istore_n 3, 1) := dk_62 (dk_at dksX11_sum_2 9 rfl rfl)
theorem dX11_sum_57 : decode cX11_sum 57 = .ok (.aload_n 0, 1) := dk_42 (dk_at dksX11_sum_2 10 rfl rfl)
theorem dX11_sum_58 : decode cX11_sum 58 = .ok (.invokevirtual 36, 3) := dk_182 0 36 (dk_at dksX11_sum_2 11 rfl rfl)
theorem dX11_sum_61 : decode cX11_sum 61 = .ok (.aload_n 2, 1) := dk_44 (dk_at dksX11_sum_2 14 rfl rfl)
theorem dX11_sum_62 : decode cX11_sum 62 = .ok (.iload_n 3, 1) := dk_29 (dk_at dksX11_sum_2 15 rfl rfl)
theorem dX11_sum_63 : decode cX11_sum 63 = .ok (.aload_n 0, 1) := dk_42 (dk_at dksX11_sum_2 16 rfl rfl)
theorem dX11_sum_64 : decode cX11_sum 64 = .ok (.invokevirtual 131, 3) := dk_182 0 131 (dk_at dksX11_sum_2 17 rfl rfl)
theorem dX11_sum_67 : decode cX11_sum 67 = .ok (.invokevirtual 137, 3) := dk_182 0 137 (dk_at dksX11_sum_2 20 rfl rfl)
theorem dX11_sum_70 : decode cX11_sum 70 = .ok (.goto (-36), 3) := dk_167 255 220 (dk_at dksX11_sum_3 0 rfl rfl)
theorem dX11_sum_73 : decode cX11_sum 73 = .ok (.aload_n 2, 1) := dk_44 (dk_at dksX11_sum_3 3 rfl rfl)
theorem dX11_sum_74 : decode cX11_sum 74 = .ok (.areturn, 1) := dk_176 (dk_at dksX11_sum_3 4 rfl rfl)
abbrev cX11_term : ByteArray := prog_20_method_9_code
def dkwX11_term_2 : List UInt8 := [167, 255, 233, 44, 176]
abbrev dktX11_term_2 : List UInt8 := dkwX11_term_2 ++ []
def dkwX11_term_1 : List UInt8 := [77, 42, 180, 0, 39, 16, 42, 160, 0, 20, 42, 182, 0, 36, 44, 16, 42, 42, 182, 0, 140, 182, 0, 137]
abbrev dktX11_term_1 : List UInt8 := dkwX11_term_1 ++ dktX11_term_2
def dkwX11_term_0 : List UInt8 := [42, 182, 0, 140, 76, 42, 180, 0, 39, 16, 42, 159, 0, 5, 43, 176, 187, 0, 134, 89, 43, 183, 0, 136]
abbrev dktX11_term_0 : List UInt8 := dkwX11_term_0 ++ dktX11_term_1
theorem dksX11_term_0 : cX11_term.data.toList.drop 0 = dktX11_term_0 := by decide +kernel
theorem dksX11_term_1 : cX11_term.data.toList.drop 24 = dktX11_term_1 := dk_seg dksX11_term_0 24 rfl rfl
theorem dksX11_term_2 : cX11_term.data.toList.drop 48 = dktX11_term_2 := dk_seg dksX11_term_1 24 rfl rfl
theorem dX11_term_0 : decode cX11_term 0 = .ok (.aload_n 0, 1) := dk_42 (dk_at dksX11_term_0 0 rfl rfl)
theorem dX11_term_1 : decode cX11_term 1 = .ok (.invokevirtual 140, 3) := dk_182 0 140 (dk_at dksX11_term_0 1 rfl rfl)
theorem dX11_term_4 : decode cX11_term 4 = .ok (.astore_n 1, 1) := dk_76 (dk_at dksX11_term_0 4 rfl rfl)
theorem dX11_term_5 : decode cX11_term 5 = .ok (.aload_n 0, 1) := dk_42 (dk_at dksX11_term_0 5 rfl rfl)
theorem dX11_term_6 : decode cX11_term 6 = .ok (.getfield 39, 3) := dk_180 0 39 (dk_at dksX11_term_0 6 rfl rfl)
theorem dX11_term_9 : decode cX11_term 9 = .ok (.bipush 42, 2) := dk_16 42 (dk_at dksX11_term_0 9 rfl rfl)
theorem dX11_term_11 : decode cX11_term 11 = .ok (.if_icmp .eq 5, 3) := dk_159 0 5 (dk_at dksX11_term_0 11 rfl rfl)
theorem dX11_term_14 : decode cX11_term 14 = .ok (.aload_n 1, 1) := dk_43 (dk_at dksX11_term_0 14 rfl rfl)
theorem dX11_term_15 : decode cX11_term 15 = .ok (.areturn, 1) := dk_176 (dk_at dksX11_term_0 15 rfl rfl)
theorem dX11_term_16 : decode cX11_term 16 = .ok (.new 134, 3) := dk_187 0 134 (dk_at dksX11_term_0 16 rfl rfl)
theorem dX11_term_19 : decode cX11_term 19 = .ok (.dup, 1) := dk_89 (dk_at dksX11_term_0 19 rfl rfl)
theorem dX11_term_20 : decode cX11_term 20 = .ok (.aload_n 1, 1) := dk_43 (dk_at dksX11_term_0 20 rfl rfl)
theorem dX11_term_21 : decode cX11_term 21 = .ok (.invokespecial 136, 3) := dk_183 0 136 (dk_at dksX11_term_0 21 rfl rfl)
theorem dX11_term_24 : decode cX11_term 24 = .ok (.astore_n 2, 1) := dk_77 (dk_at dksX11_term_1 0 rfl rfl)
theorem dX11_term_25 : decode cX11_term 25 = .ok (.aload_n 0, 1) := dk_42 (dk_at dksX11_term_1 1 rfl rfl)
theorem dX11_term_26 : decode cX11_term 26 = .ok (.getfield 39, 3) := dk_180 0 39 (dk_at dksX11_term_1 2 rfl rfl)
theorem dX11_term_29 : decode cX11_term 29 = .ok (.bipush 42, 2) := dk_16 42 (dk_at dksX11_term_1 5 rfl rfl)
theorem dX11_term_31 : decode cX11_term 31 = .ok (.if_icmp .ne 20, 3) := dk_160 0 20 (dk_at dksX11_term_1 7 rfl rfl)
theorem dX11_term_34 : decode cX11_term 34 = .ok (.aload_n 0, 1) := dk_42 (dk_at dksX11_term_1 10 rfl rfl)
theorem dX11_term_35 : decode cX11_term 35 = .ok (.invokevirtual 36, 3) := dk_182 0 36 (dk_at dksX11_term_1 11 rfl rfl)
theorem dX11_term_38 : decode cX11_term 38 = .ok (.aload_n 2, 1) := dk_44 (dk_at dksX11_term_1 14 rfl rfl)
theorem dX11_term_39 : decode cX11_term 39 = .ok (.bipush 42, 2) := dk_16 42 (dk_at dksX11_term_1 15 rfl rfl)
theorem dX11_term_41 : decode cX11_term 41 = .ok (.aload_n 0, 1) := dk_42 (dk_at dksX11_term_1 17 rfl rfl)
theorem dX11_term_42 : decode cX11_term 42 = .ok (.invokevirtual 140, 3) := dk_182 0 140 (dk_at dksX11_term_1 18 rfl rfl)
theorem dX11_term_45 : decode cX11_term 45 = .ok (.invokevirtual 137, 3) := dk_182 0 137 (dk_at dksX11_term_1 21 rfl rfl)
theorem dX11_term_48 : decode cX11_term 48 = .ok (.goto (-23), 3) := dk_167 255 233 (dk_at dksX11_term_2 0 rfl rfl)
theorem dX11_term_51 : decode cX11_term 51 = .ok (.aload_n 2, 1) := dk_44 (dk_at dksX11_term_2 3 rfl rfl)
theorem dX11_term_52 : decode cX11_term 52 = .ok (.areturn, 1) := dk_176 (dk_at dksX11_term_2 4 rfl rfl)
abbrev cX11_text : ByteArray := prog_20_method_3_code
def dkwX11_text_4 : List UInt8 := [4, 96, 181, 0, 72, 167, 255, 160, 42, 180, 0, 20, 176]
abbrev dktX11_text_4 : List UInt8 := dkwX11_text_4 ++ []
def dkwX11_text_3 : List UInt8 := [182, 0, 68, 42, 180, 0, 20, 180, 0, 50, 42, 180, 0, 47, 43, 83, 42, 180, 0, 20, 89, 180, 0, 72]
abbrev dktX11_text_3 : List UInt8 := dkwX11_text_3 ++ dktX11_text_4
def dkwX11_text_2 : List UInt8 := [182, 0, 36, 42, 180, 0, 47, 153, 0, 9, 42, 18, 58, 182, 0, 60, 42, 182, 0, 64, 76, 42, 16, 59]
abbrev dktX11_text_2 : List UInt8 := dkwX11_text_2 ++ dktX11_text_3
def dkwX11_text_1 : List UInt8 := [155, 0, 18, 42, 180, 0, 20, 180, 0, 50, 42, 180, 0, 47, 50, 198, 0, 8, 42, 182, 0, 54, 191, 42]
abbrev dktX11_text_1 : List UInt8 := dkwX11_text_1 ++ dktX11_text_2
def dkwX11_text_0 : List UInt8 := [42, 182, 0, 36, 42, 180, 0, 39, 153, 0, 95, 42, 42, 182, 0, 43, 181, 0, 47, 42, 180, 0, 47]
abbrev dktX11_text_0 : List UInt8 := dkwX11_text_0 ++ dktX11_text_1
theorem dksX11_text_0 : cX11_text.data.toList.drop 0 = dktX11_text_0 := by decide +kernel
theorem dksX11_text_1 : cX11_text.data.toList.drop 23 = dktX11_text_1 := dk_seg dksX11_text_0 23 rfl rfl
theorem dksX11_text_2 : cX11_text.data.toList.drop 47 = dktX11_text_2 := dk_seg dksX11_text_1 24 rfl rfl
theorem dksX11_text_3 : cX11_text.data.toList.drop 71 = dktX11_text_3 := dk_seg dksX11_text_2 24 rfl rfl
theorem dksX11_text_4 : cX11_text.data.toList.drop 95 = dktX11_text_4 := dk_seg dksX11_text_3 24 rfl rfl
theorem dX11_text_0 : decode cX11_text 0 = .ok (.aload_n 0, 1) := dk_42 (dk_at dksX11_text_0 0 rfl rfl)
theorem dX11_text_1 : decode cX11_text 1 = .ok (.invokevirtual 36, 3) := dk_182 0 36 (dk_at dksX11_text_0 1 rfl rfl)
theorem dX11_text_4 : decode cX11_text 4 = .ok (.aload_n 0, 1) := dk_42 (dk_at dksX11_text_0 4 rfl rfl)
theorem dX11_text_5 : decode cX11_text 5 = .ok (.getfield 39, 3) := dk_180 0 39 (dk_at dksX11_text_0 5 rfl rfl)
theorem dX11_text_8 : decode cX11_text 8 = .ok (.ifCond .eq 95, 3) := dk_153 0 95 (dk_at dksX11_text_0 8 rfl rfl)
theorem dX11_text_11 : decode cX11_text 11 = .ok (.aload_n 0, 1) := dk_42 (dk_at dksX11_text_0 11 rfl rfl)
theorem dX11_text_12 : decode cX11_text 12 = .ok (.aload_n 0, 1) := dk_42 (dk_at dksX11_text_0 12 rfl rfl)
theorem dX11_text_13 : decode cX11_text 13 = .ok (.invokevirtual 43, 3) := dk_182 0 43 (dk_at dksX11_text_0 13 rfl rfl)
theorem dX11_text_16 : decode cX11_text 16 = .ok (.putfield 47, 3) := dk_181 0 47 (dk_at dksX11_text_0 16 rfl rfl)
theorem dX11_text_19 : decode cX11_text 19 = .ok (.aload_n 0, 1) := dk_42 (dk_at dksX11_text_0 19 rfl rfl)
theorem dX11_text_20 : decode cX11_text 20 = .ok (.getfield 47, 3) := dk_180 0 47 (dk_at dksX11_text_0 20 rfl rfl)
theorem dX11_text_23 : decode cX11_text 23 = .ok (.ifCond .lt 18, 3) := dk_155 0 18 (dk_at dksX11_text_1 0 rfl rfl)
theorem dX11_text_26 : decode cX11_text 26 = .ok (.aload_n 0, 1) := dk_42 (dk_at dksX11_text_1 3 rfl rfl)
theorem dX11_text_27 : decode cX11_text 27 = .ok (.getfield 20, 3) := dk_180 0 20 (dk_at dksX11_text_1 4 rfl rfl)
theorem dX11_text_30 : decode cX11_text 30 = .ok (.getfield 50, 3) := dk_180 0 50 (dk_at dksX11_text_1 7 rfl rfl)
theorem dX11_text_33 : decode cX11_text 33 = .ok (.aload_n 0, 1) := dk_42 (dk_at dksX11_text_1 10 rfl rfl)
theorem dX11_text_34 : decode cX11_text 34 = .ok (.getfield 47, 3) := dk_180 0 47 (dk_at dksX11_text_1 11 rfl rfl)
theorem dX11_text_37 : decode cX11_text 37 = .ok (.aaload, 1) := dk_50 (dk_at dksX11_text_1 14 rfl rfl)
theorem dX11_text_38 : decode cX11_text 38 = .ok (.ifnull 8, 3) := dk_198 0 8 (dk_at dksX11_text_1 15 rfl rfl)
theorem dX11_text_41 : decode cX11_text 41 = .ok (.aload_n 0, 1) := dk_42 (dk_at dksX11_text_1 18 rfl rfl)
theorem dX11_text_42 : decode cX11_text 42 = .ok (.invokevirtual 54, 3) := dk_182 0 54 (dk_at dksX11_text_1 19 rfl rfl)
theorem dX11_text_45 : decode cX11_text 45 = .ok (.athrow, 1) := dk_191 (dk_at dksX11_text_1 22 rfl rfl)
theorem dX11_text_46 : decode cX11_text 46 = .ok (.aload_n 0, 1) := dk_42 (dk_at dksX11_text_1 23 rfl rfl)
theorem dX11_text_47 : decode cX11_text 47 = .ok (.invokevirtual 36, 3) := dk_182 0 36 (dk_at dksX11_text_2 0 rfl rfl)
theorem dX11_text_50 : decode cX11_text 50 = .ok (.aload_n 0, 1) := dk_42 (dk_at dksX11_text_2 3 rfl rfl)
theorem dX11_text_51 : decode cX11_text 51 = .ok (.getfield 47, 3) := dk_180 0 47 (dk_at dksX11_text_2 4 rfl rfl)
theorem dX11_text_54 : decode cX11_text 54 = .ok (.ifCond .eq 9, 3) := dk_153 0 9 (dk_at dksX11_text_2 7 rfl rfl)
theorem dX11_text_57 : decode cX11_text 57 = .ok (.aload_n 0, 1) := dk_42 (dk_at dksX11_text_2 10 rfl rfl)
theorem dX11_text_58 : decode cX11_text 58 = .ok (.ldc 58, 2) := dk_18 58 (dk_at dksX11_text_2 11 rfl rfl)
theorem dX11_text_60 : decode cX11_text 60 = .ok (.invokevirtual 60, 3) := dk_182 0 60 (dk_at dksX11_text_2 13 rfl rfl)
theorem dX11_text_63 : decode cX11_text 63 = .ok (.aload_n 0, 1) := dk_42 (dk_at dksX11_text_2 16 rfl rfl)
theorem dX11_text_64 : decode cX11_text 64 = .ok (.invokevirtual 64, 3) := dk_182 0 64 (dk_at dksX11_text_2 17 rfl rfl)
theorem dX11_text_67 : decode cX11_text 67 = .ok (.astore_n 1, 1) := dk_76 (dk_at dksX11_text_2 20 rfl rfl)
theorem dX11_text_68 : decode cX11_text 68 = .ok (.aload_n 0, 1) := dk_42 (dk_at dksX11_text_2 21 rfl rfl)
theorem dX11_text_69 : decode cX11_text 69 = .ok (.bipush 59, 2) := dk_16 59 (dk_at dksX11_text_2 22 rfl rfl)
theorem dX11_text_71 : decode cX11_text 71 = .ok (.invokevirtual 68, 3) := dk_182 0 68 (dk_at dksX11_text_3 0 rfl rfl)
theorem dX11_text_74 : decode cX11_text 74 = .ok (.aload_n 0, 1) := dk_42 (dk_at dksX11_text_3 3 rfl rfl)
theorem dX11_text_75 : decode cX11_text 75 = .ok (.getfield 20, 3) := dk_180 0 20 (dk_at dksX11_text_3 4 rfl rfl)
theorem dX11_text_78 : decode cX11_text 78 = .ok (.getfield 50, 3) := dk_180 0 50 (dk_at dksX11_text_3 7 rfl rfl)
theorem dX11_text_81 : decode cX11_text 81 = .ok (.aload_n 0, 1) := dk_42 (dk_at dksX11_text_3 10 rfl rfl)
theorem dX11_text_82 : decode cX11_text 82 = .ok (.getfield 47, 3) := dk_180 0 47 (dk_at dksX11_text_3 11 rfl rfl)
theorem dX11_text_85 : decode cX11_text 85 = .ok (.aload_n 1, 1) := dk_43 (dk_at dksX11_text_3 14 rfl rfl)
theorem dX11_text_86 : decode cX11_text 86 = .ok (.aastore, 1) := dk_83 (dk_at dksX11_text_3 15 rfl rfl)
theorem dX11_text_87 : decode cX11_text 87 = .ok (.aload_n 0, 1) := dk_42 (dk_at dksX11_text_3 16 rfl rfl)
theorem dX11_text_88 : decode cX11_text 88 = .ok (.getfield 20, 3) := dk_180 0 20 (dk_at dksX11_text_3 17 rfl rfl)
theorem dX11_text_91 : decode cX11_text 91 = .ok (.dup, 1) := dk_89 (dk_at dksX11_text_3 20 rfl rfl)
theorem dX11_text_92 : decode cX11_text 92 = .ok (.getfield 72, 3) := dk_180 0 72 (dk_at dksX11_text_3 21 rfl rfl)
theorem dX11_text_95 : decode cX11_text 95 = .ok (.iconst 1, 1) := dk_4 (dk_at dksX11_text_4 0 rfl rfl)
theorem dX11_text_96 : decode cX11_text 96 = .ok (.iadd, 1) := dk_96 (dk_at dksX11_text_4 1 rfl rfl)
theorem dX11_text_97 : decode cX11_text 97 = .ok (.putfield 72, 3) := dk_181 0 72 (dk_at dksX11_text_4 2 rfl rfl)
theorem dX11_text_100 : decode cX11_text 100 = .ok (.goto (-96), 3) := dk_167 255 160 (dk_at dksX11_text_4 5 rfl rfl)
theorem dX11_text_103 : decode cX11_text 103 = .ok (.aload_n 0, 1) := dk_42 (dk_at dksX11_text_4 8 rfl rfl)
theorem dX11_text_104 : decode cX11_text 104 = .ok (.getfield 20, 3) := dk_180 0 20 (dk_at dksX11_text_4 9 rfl rfl)
theorem dX11_text_107 : decode cX11_text 107 = .ok (.areturn, 1) := dk_176 (dk_at dksX11_text_4 12 rfl rfl)
abbrev cX11_unit : ByteArray := prog_20_method_10_code
def dkwX11_unit_7 : List UInt8 := [187, 0, 168, 89, 42, 180, 0, 170, 183, 0, 173, 77, 42, 182, 0, 36, 44, 176]
abbrev dktX11_unit_7 : List UInt8 := dkwX11_unit_7 ++ []
def dkwX11_unit_6 : List UInt8 := [180, 0, 151, 4, 96, 181, 0, 151, 27, 155, 0, 14, 187, 0, 165, 89, 27, 183, 0, 167, 167, 0, 14]
abbrev dktX11_unit_6 : List UInt8 := dkwX11_unit_6 ++ dktX11_unit_7
def dkwX11_unit_5 : List UInt8 := [182, 0, 64, 77, 42, 16, 41, 182, 0, 68, 42, 89, 180, 0, 110, 4, 100, 181, 0, 110, 44, 176, 42, 89]
abbrev dktX11_unit_5 : List UInt8 := dkwX11_unit_5 ++ dktX11_unit_6
def dkwX11_unit_4 : List UInt8 := [160, 0, 44, 42, 182, 0, 115, 42, 89, 180, 0, 151, 4, 96, 181, 0, 151, 42, 182, 0, 36, 42]
abbrev dktX11_unit_4 : List UInt8 := dkwX11_unit_4 ++ dktX11_unit_5
def dkwX11_unit_3 : List UInt8 := [154, 0, 17, 187, 0, 157, 89, 16, 7, 42, 180, 0, 159, 183, 0, 162, 191, 42, 180, 0, 39, 16, 40]
abbrev dktX11_unit_3 : List UInt8 := dkwX11_unit_3 ++ dktX11_unit_4
def dkwX11_unit_2 : List UInt8 := [160, 0, 8, 42, 182, 0, 54, 191, 27, 155, 0, 31, 42, 180, 0, 47, 184, 0, 154, 27, 122, 4, 126]
abbrev dktX11_unit_2 : List UInt8 := dkwX11_unit_2 ++ dktX11_unit_3
def dkwX11_unit_1 : List UInt8 := [5, 159, 0, 16, 42, 180, 0, 39, 16, 40, 159, 0, 7, 27, 155, 0, 12, 42, 180, 0, 151, 16, 60]
abbrev dktX11_unit_1 : List UInt8 := dkwX11_unit_1 ++ dktX11_unit_2
def dkwX11_unit_0 : List UInt8 := [42, 180, 0, 39, 4, 160, 0, 13, 42, 180, 0, 143, 184, 0, 147, 167, 0, 4, 2, 60, 42, 180, 0, 39]
abbrev dktX11_unit_0 : List UInt8 := dkwX11_unit_0 ++ dktX11_unit_1
theorem dksX11_unit_0 : cX11_unit.data.toList.drop 0 = dktX11_unit_0 := by decide +kernel
theorem dksX11_unit_1 : cX11_unit.data.toList.drop 24 = dktX11_unit_1 := dk_seg dksX11_unit_0 24 rfl rfl
theorem dksX11_unit_2 : cX11_unit.data.toList.drop 47 = dktX11_unit_2 := dk_seg dksX11_unit_1 23 rfl rfl
theorem dksX11_unit_3 : cX11_unit.data.toList.drop 70 = dktX11_unit_3 := dk_seg dksX11_unit_2 23 rfl rfl
theorem dksX11_unit_4 : cX11_unit.data.toList.drop 93 = dktX11_unit_4 := dk_seg dksX11_unit_3 23 rfl rfl
theorem dksX11_unit_5 : cX11_unit.data.toList.drop 115 = dktX11_unit_5 := dk_seg dksX11_unit_4 22 rfl rfl
theorem dksX11_unit_6 : cX11_unit.data.toList.drop 139 = dktX11_unit_6 := dk_seg dksX11_unit_5 24 rfl rfl
theorem dksX11_unit_7 : cX11_unit.data.toList.drop 162 = dktX11_unit_7 := dk_seg dksX11_unit_6 23 rfl rfl
theorem dX11_unit_0 : decode cX11_unit 0 = .ok (.aload_n 0, 1) := dk_42 (dk_at dksX11_unit_0 0 rfl rfl)
theorem dX11_unit_1 : decode cX11_unit 1 = .ok (.getfield 39, 3) := dk_180 0 39 (dk_at dksX11_unit_0 1 rfl rfl)
theorem dX11_unit_4 : decode cX11_unit 4 = .ok (.iconst 1, 1) := dk_4 (dk_at dksX11_unit_0 4 rfl rfl)
theorem dX11_unit_5 : decode cX11_unit 5 = .ok (.if_icmp .ne 13, 3) := dk_160 0 13 (dk_at dksX11_unit_0 5 rfl rfl)
theorem dX11_unit_8 : decode cX11_unit 8 = .ok (.aload_n 0, 1) := dk_42 (dk_at dksX11_unit_0 8 rfl rfl)
theorem dX11_unit_9 : decode cX11_unit 9 = .ok (.getfield 143, 3) := dk_180 0 143 (dk_at dksX11_unit_0 9 rfl rfl)
theorem dX11_unit_12 : decode cX11_unit 12 = .ok (.invokestatic 147, 3) := dk_184 0 147 (dk_at dksX11_unit_0 12 rfl rfl)
theorem dX11_unit_15 : decode cX11_unit 15 = .ok (.goto 4, 3) := dk_167 0 4 (dk_at dksX11_unit_0 15 rfl rfl)
theorem dX11_unit_18 : decode cX11_unit 18 = .ok (.iconst (-1), 1) := dk_2 (dk_at dksX11_unit_0 18 rfl rfl)
theorem dX11_unit_19 : decode cX11_unit 19 = .ok (.istore_n 1, 1) := dk_60 (dk_at dksX11_unit_0 19 rfl rfl)
theorem dX11_unit_20 : decode cX11_unit 20 = .ok (.aload_n 0, 1) := dk_42 (dk_at dksX11_unit_0 20 rfl rfl)
theorem dX11_unit_21 : decode cX11_unit 21 = .ok (.getfield 39, 3) := dk_180 0 39 (dk_at dksX11_unit_0 21 rfl rfl)
theorem dX11_unit_24 : decode cX11_unit 24 = .ok (.iconst 2, 1) := dk_5 (dk_at dksX11_unit_1 0 rfl rfl)
theorem dX11_unit_25 : decode cX11_unit 25 = .ok (.if_icmp .eq 16, 3) := dk_159 0 16 (dk_at dksX11_unit_1 1 rfl rfl)
theorem dX11_unit_28 : decode cX11_unit 28 = .ok (.aload_n 0, 1) := dk_42 (dk_at dksX11_unit_1 4 rfl rfl)
theorem dX11_unit_29 : decode cX11_unit 29 = .ok (.getfield 39, 3) := dk_180 0 39 (dk_at dksX11_unit_1 5 rfl rfl)
theorem dX11_unit_32 : decode cX11_unit 32 = .ok (.bipush 40, 2) := dk_16 40 (dk_at dksX11_unit_1 8 rfl rfl)
theorem dX11_unit_34 : decode cX11_unit 34 = .ok (.if_icmp .eq 7, 3) := dk_159 0 7 (dk_at dksX11_unit_1 10 rfl rfl)
theorem dX11_unit_37 : decode cX11_unit 37 = .ok (.iload_n 1, 1) := dk_27 (dk_at dksX11_unit_1 13 rfl rfl)
theorem dX11_unit_38 : decode cX11_unit 38 = .ok (.ifCond .lt 12, 3) := dk_155 0 12 (dk_at dksX11_unit_1 14 rfl rfl)
theorem dX11_unit_41 : decode cX11_unit 41 = .ok (.aload_n 0, 1) := dk_42 (dk_at dksX11_unit_1 17 rfl rfl)
theorem dX11_unit_42 : decode cX11_unit 42 = .ok (.getfield 151, 3) := dk_180 0 151 (dk_at dksX11_unit_1 18 rfl rfl)
theorem dX11_unit_45 : decode cX11_unit 45 = .ok (.bipush 60, 2) := dk_16 60 (dk_at dksX11_unit_1 21 rfl rfl)
theorem dX11_unit_47 : decode cX11_unit 47 = .ok (.if_icmp .ne 8, 3) := dk_160 0 8 (dk_at dksX11_unit_2 0 rfl rfl)
theorem dX11_unit_50 : decode cX11_unit 50 = .ok (.aload_n 0, 1) := dk_42 (dk_at dksX11_unit_2 3 rfl rfl)
theorem dX11_unit_51 : decode cX11_unit 51 = .ok (.invokevirtual 54, 3) := dk_182 0 54 (dk_at dksX11_unit_2 4 rfl rfl)
theorem dX11_unit_54 : decode cX11_unit 54 = .ok (.athrow, 1) := dk_191 (dk_at dksX11_unit_2 7 rfl rfl)
theorem dX11_unit_55 : decode cX11_unit 55 = .ok (.iload_n 1, 1) := dk_27 (dk_at dksX11_unit_2 8 rfl rfl)
theorem dX11_unit_56 : decode cX11_unit 56 = .ok (.ifCond .lt 31, 3) := dk_155 0 31 (dk_at dksX11_unit_2 9 rfl rfl)
theorem dX11_unit_59 : decode cX11_unit 59 = .ok (.aload_n 0, 1) := dk_42 (dk_at dksX11_unit_2 12 rfl rfl)
theorem dX11_unit_60 : decode cX11_unit 60 = .ok (.getfield 47, 3) := dk_180 0 47 (dk_at dksX11_unit_2 13 rfl rfl)
theorem dX11_unit_63 : decode cX11_unit 63 = .ok (.invokestatic 154, 3) := dk_184 0 154 (dk_at dksX11_unit_2 16 rfl rfl)
theorem dX11_unit_66 : decode cX11_unit 66 = .ok (.iload_n 1, 1) := dk_27 (dk_at dksX11_unit_2 19 rfl rfl)
theorem dX11_unit_67 : decode cX11_unit 67 = .ok (.ishr, 1) := dk_122 (dk_at dksX11_unit_2 20 rfl rfl)
theorem dX11_unit_68 : decode cX11_unit 68 = .ok (.iconst 1, 1) := dk_4 (dk_at dksX11_unit_2 21 rfl rfl)
theorem dX11_unit_69 : decode cX11_unit 69 = .ok (.iand, 1) := dk_126 (dk_at dksX11_unit_2 22 rfl rfl)
theorem dX11_unit_70 : decode cX11_unit 70 = .ok (.ifCond .ne 17, 3) := dk_154 0 17 (dk_at dksX11_unit_3 0 rfl rfl)
theorem dX11_unit_73 : decode cX11_unit 73 = .ok (.new 157, 3) := dk_187 0 157 (dk_at dksX11_unit_3 3 rfl rfl)
theorem dX11_unit_76 : decode cX11_unit 76 = .ok (.dup, 1) := dk_89 (dk_at dksX11_unit_3 6 rfl rfl)
theorem dX11_unit_77 : decode cX11_unit 77 = .ok (.bipush 7, 2) := dk_16 7 (dk_at dksX11_unit_3 7 rfl rfl)
theorem dX11_unit_79 : decode cX11_unit 79 = .ok (.aload_n 0, 1) := dk_42 (dk_at dksX11_unit_3 9 rfl rfl)
theorem dX11_unit_80 : decode cX11_unit 80 = .ok (.getfield 159, 3) := dk_180 0 159 (dk_at dksX11_unit_3 10 rfl rfl)
theorem dX11_unit_83 : decode cX11_unit 83 = .ok (.invokespecial 162, 3) := dk_183 0 162 (dk_at dksX11_unit_3 13 rfl rfl)
theorem dX11_unit_86 : decode cX11_unit 86 = .ok (.athrow, 1) := dk_191 (dk_at dksX11_unit_3 16 rfl rfl)
theorem dX11_unit_87 : decode cX11_unit 87 = .ok (.aload_n 0, 1) := dk_42 (dk_at dksX11_unit_3 17 rfl rfl)
theorem dX11_unit_88 : decode cX11_unit 88 = .ok (.getfield 39, 3) := dk_180 0 39 (dk_at dksX11_unit_3 18 rfl rfl)
theorem dX11_unit_91 : decode cX11_unit 91 = .ok (.bipush 40, 2) := dk_16 40 (dk_at dksX11_unit_3 21 rfl rfl)
theorem dX11_unit_93 : decode cX11_unit 93 = .ok (.if_icmp .ne 44, 3) := dk_160 0 44 (dk_at dksX11_unit_4 0 rfl rfl)
theorem dX11_unit_96 : decode cX11_unit 96 = .ok (.aload_n 0, 1) := dk_42 (dk_at dksX11_unit_4 3 rfl rfl)
theorem dX11_unit_97 : decode cX11_unit 97 = .ok (.invokevirtual 115, 3) := dk_182 0 115 (dk_at dksX11_unit_4 4 rfl rfl)
theorem dX11_unit_100 : decode cX11_unit 100 = .ok (.aload_n 0, 1) := dk_42 (dk_at dksX11_unit_4 7 rfl rfl)
theorem dX11_unit_101 : decode cX11_unit 101 = .ok (.dup, 1) := dk_89 (dk_at dksX11_unit_4 8 rfl rfl)
theorem dX11_unit_102 : decode cX11_unit 102 = .ok (.getfield 151, 3) := dk_180 0 151 (dk_at dksX11_unit_4 9 rfl rfl)
theorem dX11_unit_105 : decode cX11_unit 105 = .ok (.iconst 1, 1) := dk_4 (dk_at dksX11_unit_4 12 rfl rfl)
theorem dX11_unit_106 : decode cX11_unit 106 = .ok (.iadd, 1) := dk_96 (dk_at dksX11_unit_4 13 rfl rfl)
theorem dX11_unit_107 : decode cX11_unit 107 = .ok (.putfield 151, 3) := dk_181 0 151 (dk_at dksX11_unit_4 14 rfl rfl)
theorem dX11_unit_110 : decode cX11_unit 110 = .ok (.aload_n 0, 1) := dk_42 (dk_at dksX11_unit_4 17 rfl rfl)
theorem dX11_unit_111 : decode cX11_unit 111 = .ok (.invokevirtual 36, 3) := dk_182 0 36 (dk_at dksX11_unit_4 18 rfl rfl)
theorem dX11_unit_114 : decode cX11_unit 114 = .ok (.aload_n 0, 1) := dk_42 (dk_at dksX11_unit_4 21 rfl rfl)
theorem dX11_unit_115 : decode cX11_unit 115 = .ok (.invokevirtual 64, 3) := dk_182 0 64 (dk_at dksX11_unit_5 0 rfl rfl)
theorem dX11_unit_118 : decode cX11_unit 118 = .ok (.astore_n 2, 1) := dk_77 (dk_at dksX11_unit_5 3 rfl rfl)
theorem dX11_unit_119 : decode cX11_unit 119 = .ok (.aload_n 0, 1) := dk_42 (dk_at dksX11_unit_5 4 rfl rfl)
theorem dX11_unit_120 : decode cX11_unit 120 = .ok (.bipush 41, 2) := dk_16 41 (dk_at dksX11_unit_5 5 rfl rfl)
theorem dX11_unit_122 : decode cX11_unit 122 = .ok (.invokevirtual 68, 3) := dk_182 0 68 (dk_at dksX11_unit_5 7 rfl rfl)
theorem dX11_unit_125 : decode cX11_unit 125 = .ok (.aload_n 0, 1) := dk_42 (dk_at dksX11_unit_5 10 rfl rfl)
theorem dX11_unit_126 : decode cX11_unit 126 = .ok (.dup, 1) := dk_89 (dk_at dksX11_unit_5 11 rfl rfl)
theorem dX11_unit_127 : decode cX11_unit 127 = .ok (.getfield 110, 3) := dk_180 0 110 (dk_at dksX11_unit_5 12 rfl rfl)
theorem dX11_unit_130 : decode cX11_unit 130 = .ok (.iconst 1, 1) := dk_4 (dk_at dksX11_unit_5 15 rfl rfl)
theorem dX11_unit_131 : decode cX11_unit 131 = .ok (.isub, 1) := dk_100 (dk_at dksX11_unit_5 16 rfl rfl)
theorem dX11_unit_132 : decode cX11_unit 132 = .ok (.putfield 110, 3) := dk_181 0 110 (dk_at dksX11_unit_5 17 rfl rfl)
theorem dX11_unit_135 : decode cX11_unit 135 = .ok (.aload_n 2, 1) := dk_44 (dk_at dksX11_unit_5 20 rfl rfl)
theorem dX11_unit_136 : decode cX11_unit 136 = .ok (.areturn, 1) := dk_176 (dk_at dksX11_unit_5 21 rfl rfl)
theorem dX11_unit_137 : decode cX11_unit 137 = .ok (.aload_n 0, 1) := dk_42 (dk_at dksX11_unit_5 22 rfl rfl)
theorem dX11_unit_138 : decode cX11_unit 138 = .ok (.dup, 1) := dk_89 (dk_at dksX11_unit_5 23 rfl rfl)
theorem dX11_unit_139 : decode cX11_unit 139 = .ok (.getfield 151, 3) := dk_180 0 151 (dk_at dksX11_unit_6 0 rfl rfl)
theorem dX11_unit_142 : decode cX11_unit 142 = .ok (.iconst 1, 1) := dk_4 (dk_at dksX11_unit_6 3 rfl rfl)
theorem dX11_unit_143 : decode cX11_unit 143 = .ok (.iadd, 1) := dk_96 (dk_at dksX11_unit_6 4 rfl rfl)
theorem dX11_unit_144 : decode cX11_unit 144 = .ok (.putfield 151, 3) := dk_181 0 151 (dk_at dksX11_unit_6 5 rfl rfl)
theorem dX11_unit_147 : decode cX11_unit 147 = .ok (.iload_n 1, 1) := dk_27 (dk_at dksX11_unit_6 8 rfl rfl)
theorem dX11_unit_148 : decode cX11_unit 148 = .ok (.ifCond .lt 14, 3) := dk_155 0 14 (dk_at dksX11_unit_6 9 rfl rfl)
theorem dX11_unit_151 : decode cX11_unit 151 = .ok (.new 165, 3) := dk_187 0 165 (dk_at dksX11_unit_6 12 rfl rfl)
theorem dX11_unit_154 : decode cX11_unit 154 = .ok (.dup, 1) := dk_89 (dk_at dksX11_unit_6 15 rfl rfl)
theorem dX11_unit_155 : decode cX11_unit 155 = .ok (.iload_n 1, 1) := dk_27 (dk_at dksX11_unit_6 16 rfl rfl)
theorem dX11_unit_156 : decode cX11_unit 156 = .ok (.invokespecial 167, 3) := dk_183 0 167 (dk_at dksX11_unit_6 17 rfl rfl)
theorem dX11_unit_159 : decode cX11_unit 159 = .ok (.goto 14, 3) := dk_167 0 14 (dk_at dksX11_unit_6 20 rfl rfl)
theorem dX11_unit_162 : decode cX11_unit 162 = .ok (.new 168, 3) := dk_187 0 168 (dk_at dksX11_unit_7 0 rfl rfl)
theorem dX11_unit_165 : decode cX11_unit 165 = .ok (.dup, 1) := dk_89 (dk_at dksX11_unit_7 3 rfl rfl)
theorem dX11_unit_166 : decode cX11_unit 166 = .ok (.aload_n 0, 1) := dk_42 (dk_at dksX11_unit_7 4 rfl rfl)
theorem dX11_unit_167 : decode cX11_unit 167 = .ok (.getfield 170, 3) := dk_180 0 170 (dk_at dksX11_unit_7 5 rfl rfl)
theorem dX11_unit_170 : decode cX11_unit 170 = .ok (.invokespecial 173, 3) := dk_183 0 173 (dk_at dksX11_unit_7 8 rfl rfl)
theorem dX11_unit_173 : decode cX11_unit 173 = .ok (.astore_n 2, 1) := dk_77 (dk_at dksX11_unit_7 11 rfl rfl)
theorem dX11_unit_174 : decode cX11_unit 174 = .ok (.aload_n 0, 1) := dk_42 (dk_at dksX11_unit_7 12 rfl rfl)
theorem dX11_unit_175 : decode cX11_unit 175 = .ok (.invokevirtual 36, 3) := dk_182 0 36 (dk_at dksX11_unit_7 13 rfl rfl)
theorem dX11_unit_178 : decode cX11_unit 178 = .ok (.aload_n 2, 1) := dk_44 (dk_at dksX11_unit_7 16 rfl rfl)
theorem dX11_unit_179 : decode cX11_unit 179 = .ok (.areturn, 1) := dk_176 (dk_at dksX11_unit_7 17 rfl rfl)
abbrev cX12_init : ByteArray := prog_5_method_1_code
theorem dX12_init_0 : decode cX12_init 0 = .ok (.aload_n 0, 1) := by decide +kernel
theorem dX12_init_1 : decode cX12_init 1 = .ok (.invokespecial 1, 3) := by decide +kernel
theorem dX12_init_4 : decode cX12_init 4 = .ok (.return_, 1) := by decide +kernel
abbrev cX13_init : ByteArray := prog_13_method_1_code
def dkwX13_init_0 : List UInt8 := [42, 183, 0, 1, 42, 43, 181, 0, 7, 177]
abbrev dktX13_init_0 : List UInt8 := dkwX13_init_0 ++ []
theorem dksX13_init_0 : cX13_init.data.toList.drop 0 = dktX13_init_0 := by decide +kernel
theorem dX13_init_0 : decode cX13_init 0 = .ok (.aload_n 0, 1) := dk_42 (dk_at dksX13_init_0 0 rfl rfl)
theorem dX13_init_1 : decode cX13_init 1 = .ok (.invokespecial 1, 3) := dk_183 0 1 (dk_at dksX13_init_0 1 rfl rfl)
theorem dX13_init_4 : decode cX13_init 4 = .ok (.aload_n 0, 1) := dk_42 (dk_at dksX13_init_0 4 rfl rfl)
theorem dX13_init_5 : decode cX13_init 5 = .ok (.aload_n 1, 1) := dk_43 (dk_at dksX13_init_0 5 rfl rfl)
theorem dX13_init_6 : decode cX13_init 6 = .ok (.putfield 7, 3) := dk_181 0 7 (dk_at dksX13_init_0 6 rfl rfl)
theorem dX13_init_9 : decode cX13_init 9 = .ok (.return_, 1) := dk_177 (dk_at dksX13_init_0 9 rfl rfl)
abbrev cX13_of : ByteArray := prog_13_method_2_code
def dkwX13_of_0 : List UInt8 := [42, 180, 0, 7, 43, 182, 0, 13, 154, 0, 7, 4, 167, 0, 4, 3, 172]
abbrev dktX13_of_0 : List UInt8 := dkwX13_of_0 ++ []
theorem dksX13_of_0 : cX13_of.data.toList.drop 0 = dktX13_of_0 := by decide +kernel
theorem dX13_of_0 : decode cX13_of 0 = .ok (.aload_n 0, 1) := dk_42 (dk_at dksX13_of_0 0 rfl rfl)
theorem dX13_of_1 : decode cX13_of 1 = .ok (.getfield 7, 3) := dk_180 0 7 (dk_at dksX13_of_0 1 rfl rfl)
theorem dX13_of_4 : decode cX13_of 4 = .ok (.aload_n 1, 1) := dk_43 (dk_at dksX13_of_0 4 rfl rfl)
theorem dX13_of_5 : decode cX13_of 5 = .ok (.invokevirtual 13, 3) := dk_182 0 13 (dk_at dksX13_of_0 5 rfl rfl)
theorem dX13_of_8 : decode cX13_of 8 = .ok (.ifCond .ne 7, 3) := dk_154 0 7 (dk_at dksX13_of_0 8 rfl rfl)
theorem dX13_of_11 : decode cX13_of 11 = .ok (.iconst 1, 1) := dk_4 (dk_at dksX13_of_0 11 rfl rfl)
theorem dX13_of_12 : decode cX13_of 12 = .ok (.goto 4, 3) := dk_167 0 4 (dk_at dksX13_of_0 12 rfl rfl)
theorem dX13_of_15 : decode cX13_of 15 = .ok (.iconst 0, 1) := dk_3 (dk_at dksX13_of_0 15 rfl rfl)
theorem dX13_of_16 : decode cX13_of 16 = .ok (.ireturn, 1) := dk_172 (dk_at dksX13_of_0 16 rfl rfl)
abbrev cX14_init : ByteArray := prog_21_method_1_code
def dkwX14_init_0 : List UInt8 := [42, 183, 0, 1, 42, 27, 181, 0, 7, 177]
abbrev dktX14_init_0 : List UInt8 := dkwX14_init_0 ++ []
theorem dksX14_init_0 : cX14_init.data.toList.drop 0 = dktX14_init_0 := by decide +kernel
theorem dX14_init_0 : decode cX14_init 0 = .ok (.aload_n 0, 1) := dk_42 (dk_at dksX14_init_0 0 rfl rfl)
theorem dX14_init_1 : decode cX14_init 1 = .ok (.invokespecial 1, 3) := dk_183 0 1 (dk_at dksX14_init_0 1 rfl rfl)
theorem dX14_init_4 : decode cX14_init 4 = .ok (.aload_n 0, 1) := dk_42 (dk_at dksX14_init_0 4 rfl rfl)
theorem dX14_init_5 : decode cX14_init 5 = .ok (.iload_n 1, 1) := dk_27 (dk_at dksX14_init_0 5 rfl rfl)
theorem dX14_init_6 : decode cX14_init 6 = .ok (.putfield 7, 3) := dk_181 0 7 (dk_at dksX14_init_0 6 rfl rfl)
theorem dX14_init_9 : decode cX14_init 9 = .ok (.return_, 1) := dk_177 (dk_at dksX14_init_0 9 rfl rfl)
abbrev cX14_of : ByteArray := prog_21_method_2_code
def dkwX14_of_0 : List UInt8 := [43, 42, 180, 0, 7, 46, 172]
abbrev dktX14_of_0 : List UInt8 := dkwX14_of_0 ++ []
theorem dksX14_of_0 : cX14_of.data.toList.drop 0 = dktX14_of_0 := by decide +kernel
theorem dX14_of_0 : decode cX14_of 0 = .ok (.aload_n 1, 1) := dk_43 (dk_at dksX14_of_0 0 rfl rfl)
theorem dX14_of_1 : decode cX14_of 1 = .ok (.aload_n 0, 1) := dk_42 (dk_at dksX14_of_0 1 rfl rfl)
theorem dX14_of_2 : decode cX14_of 2 = .ok (.getfield 7, 3) := dk_180 0 7 (dk_at dksX14_of_0 2 rfl rfl)
theorem dX14_of_5 : decode cX14_of 5 = .ok (.iaload, 1) := dk_46 (dk_at dksX14_of_0 5 rfl rfl)
theorem dX14_of_6 : decode cX14_of 6 = .ok (.ireturn, 1) := dk_172 (dk_at dksX14_of_0 6 rfl rfl)
abbrev cX15_init : ByteArray := prog_16_method_1_code
def dkwX15_init_0 : List UInt8 := [42, 183, 0, 1, 42, 27, 181, 0, 7, 177]
abbrev dktX15_init_0 : List UInt8 := dkwX15_init_0 ++ []
theorem dksX15_init_0 : cX15_init.data.toList.drop 0 = dktX15_init_0 := by decide +kernel
theorem dX15_init_0 : decode cX15_init 0 = .ok (.aload_n 0, 1) := dk_42 (dk_at dksX15_init_0 0 rfl rfl)
theorem dX15_init_1 : decode cX15_init 1 = .ok (.invokespecial 1, 3) := dk_183 0 1 (dk_at dksX15_init_0 1 rfl rfl)
theorem dX15_init_4 : decode cX15_init 4 = .ok (.aload_n 0, 1) := dk_42 (dk_at dksX15_init_0 4 rfl rfl)
theorem dX15_init_5 : decode cX15_init 5 = .ok (.iload_n 1, 1) := dk_27 (dk_at dksX15_init_0 5 rfl rfl)
theorem dX15_init_6 : decode cX15_init 6 = .ok (.putfield 7, 3) := dk_181 0 7 (dk_at dksX15_init_0 6 rfl rfl)
theorem dX15_init_9 : decode cX15_init 9 = .ok (.return_, 1) := dk_177 (dk_at dksX15_init_0 9 rfl rfl)
abbrev cX15_of : ByteArray := prog_16_method_2_code
theorem dX15_of_0 : decode cX15_of 0 = .ok (.aload_n 0, 1) := by decide +kernel
theorem dX15_of_1 : decode cX15_of 1 = .ok (.getfield 7, 3) := by decide +kernel
theorem dX15_of_4 : decode cX15_of 4 = .ok (.ireturn, 1) := by decide +kernel
abbrev cX16_add : ByteArray := prog_2_method_2_code
def dkwX16_add_0 : List UInt8 := [42, 180, 0, 18, 27, 184, 0, 25, 182, 0, 21, 87, 42, 180, 0, 12, 44, 182, 0, 21, 87, 177]
abbrev dktX16_add_0 : List UInt8 := dkwX16_add_0 ++ []
theorem dksX16_add_0 : cX16_add.data.toList.drop 0 = dktX16_add_0 := by decide +kernel
theorem dX16_add_0 : decode cX16_add 0 = .ok (.aload_n 0, 1) := dk_42 (dk_at dksX16_add_0 0 rfl rfl)
theorem dX16_add_1 : decode cX16_add 1 = .ok (.getfield 18, 3) := dk_180 0 18 (dk_at dksX16_add_0 1 rfl rfl)
theorem dX16_add_4 : decode cX16_add 4 = .ok (.iload_n 1, 1) := dk_27 (dk_at dksX16_add_0 4 rfl rfl)
theorem dX16_add_5 : decode cX16_add 5 = .ok (.invokestatic 25, 3) := dk_184 0 25 (dk_at dksX16_add_0 5 rfl rfl)
theorem dX16_add_8 : decode cX16_add 8 = .ok (.invokevirtual 21, 3) := dk_182 0 21 (dk_at dksX16_add_0 8 rfl rfl)
theorem dX16_add_11 : decode cX16_add 11 = .ok (.pop, 1) := dk_87 (dk_at dksX16_add_0 11 rfl rfl)
theorem dX16_add_12 : decode cX16_add 12 = .ok (.aload_n 0, 1) := dk_42 (dk_at dksX16_add_0 12 rfl rfl)
theorem dX16_add_13 : decode cX16_add 13 = .ok (.getfield 12, 3) := dk_180 0 12 (dk_at dksX16_add_0 13 rfl rfl)
theorem dX16_add_16 : decode cX16_add 16 = .ok (.aload_n 2, 1) := dk_44 (dk_at dksX16_add_0 16 rfl rfl)
theorem dX16_add_17 : decode cX16_add 17 = .ok (.invokevirtual 21, 3) := dk_182 0 21 (dk_at dksX16_add_0 17 rfl rfl)
theorem dX16_add_20 : decode cX16_add 20 = .ok (.pop, 1) := dk_87 (dk_at dksX16_add_0 20 rfl rfl)
theorem dX16_add_21 : decode cX16_add 21 = .ok (.return_, 1) := dk_177 (dk_at dksX16_add_0 21 rfl rfl)
abbrev cX16_init : ByteArray := prog_2_method_1_code
def dkwX16_init_1 : List UInt8 := [183, 0, 9, 181, 0, 18, 42, 180, 0, 12, 43, 182, 0, 21, 87, 177]
abbrev dktX16_init_1 : List UInt8 := dkwX16_init_1 ++ []
def dkwX16_init_0 : List UInt8 := [42, 183, 0, 1, 42, 187, 0, 7, 89, 5, 183, 0, 9, 181, 0, 12, 42, 187, 0, 7, 89, 5]
abbrev dktX16_init_0 : List UInt8 := dkwX16_init_0 ++ dktX16_init_1
theorem dksX16_init_0 : cX16_init.data.toList.drop 0 = dktX16_init_0 := by decide +kernel
theorem dksX16_init_1 : cX16_init.data.toList.drop 22 = dktX16_init_1 := dk_seg dksX16_init_0 22 rfl rfl
theorem dX16_init_0 : decode cX16_init 0 = .ok (.aload_n 0, 1) := dk_42 (dk_at dksX16_init_0 0 rfl rfl)
theorem dX16_init_1 : decode cX16_init 1 = .ok (.invokespecial 1, 3) := dk_183 0 1 (dk_at dksX16_init_0 1 rfl rfl)
theorem dX16_init_4 : decode cX16_init 4 = .ok (.aload_n 0, 1) := dk_42 (dk_at dksX16_init_0 4 rfl rfl)
theorem dX16_init_5 : decode cX16_init 5 = .ok (.new 7, 3) := dk_187 0 7 (dk_at dksX16_init_0 5 rfl rfl)
theorem dX16_init_8 : decode cX16_init 8 = .ok (.dup, 1) := dk_89 (dk_at dksX16_init_0 8 rfl rfl)
theorem dX16_init_9 : decode cX16_init 9 = .ok (.iconst 2, 1) := dk_5 (dk_at dksX16_init_0 9 rfl rfl)
theorem dX16_init_10 : decode cX16_init 10 = .ok (.invokespecial 9, 3) := dk_183 0 9 (dk_at dksX16_init_0 10 rfl rfl)
theorem dX16_init_13 : decode cX16_init 13 = .ok (.putfield 12, 3) := dk_181 0 12 (dk_at dksX16_init_0 13 rfl rfl)
theorem dX16_init_16 : decode cX16_init 16 = .ok (.aload_n 0, 1) := dk_42 (dk_at dksX16_init_0 16 rfl rfl)
theorem dX16_init_17 : decode cX16_init 17 = .ok (.new 7, 3) := dk_187 0 7 (dk_at dksX16_init_0 17 rfl rfl)
theorem dX16_init_20 : decode cX16_init 20 = .ok (.dup, 1) := dk_89 (dk_at dksX16_init_0 20 rfl rfl)
theorem dX16_init_21 : decode cX16_init 21 = .ok (.iconst 2, 1) := dk_5 (dk_at dksX16_init_0 21 rfl rfl)
theorem dX16_init_22 : decode cX16_init 22 = .ok (.invokespecial 9, 3) := dk_183 0 9 (dk_at dksX16_init_1 0 rfl rfl)
theorem dX16_init_25 : decode cX16_init 25 = .ok (.putfield 18, 3) := dk_181 0 18 (dk_at dksX16_init_1 3 rfl rfl)
theorem dX16_init_28 : decode cX16_init 28 = .ok (.aload_n 0, 1) := dk_42 (dk_at dksX16_init_1 6 rfl rfl)
theorem dX16_init_29 : decode cX16_init 29 = .ok (.getfield 12, 3) := dk_180 0 12 (dk_at dksX16_init_1 7 rfl rfl)
theorem dX16_init_32 : decode cX16_init 32 = .ok (.aload_n 1, 1) := dk_43 (dk_at dksX16_init_1 10 rfl rfl)
theorem dX16_init_33 : decode cX16_init 33 = .ok (.invokevirtual 21, 3) := dk_182 0 21 (dk_at dksX16_init_1 11 rfl rfl)
theorem dX16_init_36 : decode cX16_init 36 = .ok (.pop, 1) := dk_87 (dk_at dksX16_init_1 14 rfl rfl)
theorem dX16_init_37 : decode cX16_init 37 = .ok (.return_, 1) := dk_177 (dk_at dksX16_init_1 15 rfl rfl)
abbrev cX16_of : ByteArray := prog_2_method_3_code
def dkwX16_of_4 : List UInt8 := [104, 61, 132, 3, 1, 167, 255, 174, 28, 172]
abbrev dktX16_of_4 : List UInt8 := dkwX16_of_4 ++ []
def dkwX16_of_3 : List UInt8 := [28, 21, 4, 96, 167, 0, 21, 21, 5, 16, 45, 160, 0, 10, 28, 21, 4, 100, 167, 0, 7, 28, 21, 4]
abbrev dktX16_of_3 : List UInt8 := dkwX16_of_3 ++ dktX16_of_4
def dkwX16_of_2 : List UInt8 := [180, 0, 18, 29, 4, 100, 182, 0, 31, 192, 0, 26, 182, 0, 43, 54, 5, 21, 5, 16, 43, 160, 0, 10]
abbrev dktX16_of_2 : List UInt8 := dkwX16_of_2 ++ dktX16_of_3
def dkwX16_of_1 : List UInt8 := [182, 0, 39, 162, 0, 77, 42, 180, 0, 12, 29, 182, 0, 31, 192, 0, 2, 43, 182, 0, 35, 54, 4, 42]
abbrev dktX16_of_1 : List UInt8 := dkwX16_of_1 ++ dktX16_of_2
def dkwX16_of_0 : List UInt8 := [42, 180, 0, 12, 3, 182, 0, 31, 192, 0, 2, 43, 182, 0, 35, 61, 4, 62, 29, 42, 180, 0, 12]
abbrev dktX16_of_0 : List UInt8 := dkwX16_of_0 ++ dktX16_of_1
theorem dksX16_of_0 : cX16_of.data.toList.drop 0 = dktX16_of_0 := by decide +kernel
theorem dksX16_of_1 : cX16_of.data.toList.drop 23 = dktX16_of_1 := dk_seg dksX16_of_0 23 rfl rfl
theorem dksX16_of_2 : cX16_of.data.toList.drop 47 = dktX16_of_2 := dk_seg dksX16_of_1 24 rfl rfl
theorem dksX16_of_3 : cX16_of.data.toList.drop 71 = dktX16_of_3 := dk_seg dksX16_of_2 24 rfl rfl
theorem dksX16_of_4 : cX16_of.data.toList.drop 95 = dktX16_of_4 := dk_seg dksX16_of_3 24 rfl rfl
theorem dX16_of_0 : decode cX16_of 0 = .ok (.aload_n 0, 1) := dk_42 (dk_at dksX16_of_0 0 rfl rfl)
theorem dX16_of_1 : decode cX16_of 1 = .ok (.getfield 12, 3) := dk_180 0 12 (dk_at dksX16_of_0 1 rfl rfl)
theorem dX16_of_4 : decode cX16_of 4 = .ok (.iconst 0, 1) := dk_3 (dk_at dksX16_of_0 4 rfl rfl)
theorem dX16_of_5 : decode cX16_of 5 = .ok (.invokevirtual 31, 3) := dk_182 0 31 (dk_at dksX16_of_0 5 rfl rfl)
theorem dX16_of_8 : decode cX16_of 8 = .ok (.checkcast 2, 3) := dk_192 0 2 (dk_at dksX16_of_0 8 rfl rfl)
theorem dX16_of_11 : decode cX16_of 11 = .ok (.aload_n 1, 1) := dk_43 (dk_at dksX16_of_0 11 rfl rfl)
theorem dX16_of_12 : decode cX16_of 12 = .ok (.invokevirtual 35, 3) := dk_182 0 35 (dk_at dksX16_of_0 12 rfl rfl)
theorem dX16_of_15 : decode cX16_of 15 = .ok (.istore_n 2, 1) := dk_61 (dk_at dksX16_of_0 15 rfl rfl)
theorem dX16_of_16 : decode cX16_of 16 = .ok (.iconst 1, 1) := dk_4 (dk_at dksX16_of_0 16 rfl rfl)
theorem dX16_of_17 : decode cX16_of 17 = .ok (.istore_n 3, 1) := dk_62 (dk_at dksX16_of_0 17 rfl rfl)
theorem dX16_of_18 : decode cX16_of 18 = .ok (.iload_n 3, 1) := dk_29 (dk_at dksX16_of_0 18 rfl rfl)
theorem dX16_of_19 : decode cX16_of 19 = .ok (.aload_n 0, 1) := dk_42 (dk_at dksX16_of_0 19 rfl rfl)
theorem dX16_of_20 : decode cX16_of 20 = .ok (.getfield 12, 3) := dk_180 0 12 (dk_at dksX16_of_0 20 rfl rfl)
theorem dX16_of_23 : decode cX16_of 23 = .ok (.invokevirtual 39, 3) := dk_182 0 39 (dk_at dksX16_of_1 0 rfl rfl)
theorem dX16_of_26 : decode cX16_of 26 = .ok (.if_icmp .ge 77, 3) := dk_162 0 77 (dk_at dksX16_of_1 3 rfl rfl)
theorem dX16_of_29 : decode cX16_of 29 = .ok (.aload_n 0, 1) := dk_42 (dk_at dksX16_of_1 6 rfl rfl)
theorem dX16_of_30 : decode cX16_of 30 = .ok (.getfield 12, 3) := dk_180 0 12 (dk_at dksX16_of_1 7 rfl rfl)
theorem dX16_of_33 : decode cX16_of 33 = .ok (.iload_n 3, 1) := dk_29 (dk_at dksX16_of_1 10 rfl rfl)
theorem dX16_of_34 : decode cX16_of 34 = .ok (.invokevirtual 31, 3) := dk_182 0 31 (dk_at dksX16_of_1 11 rfl rfl)
theorem dX16_of_37 : decode cX16_of 37 = .ok (.checkcast 2, 3) := dk_192 0 2 (dk_at dksX16_of_1 14 rfl rfl)
theorem dX16_of_40 : decode cX16_of 40 = .ok (.aload_n 1, 1) := dk_43 (dk_at dksX16_of_1 17 rfl rfl)
theorem dX16_of_41 : decode cX16_of 41 = .ok (.invokevirtual 35, 3) := dk_182 0 35 (dk_at dksX16_of_1 18 rfl rfl)
theorem dX16_of_44 : decode cX16_of 44 = .ok (.istore 4, 2) := dk_54 4 (dk_at dksX16_of_1 21 rfl rfl)
theorem dX16_of_46 : decode cX16_of 46 = .ok (.aload_n 0, 1) := dk_42 (dk_at dksX16_of_1 23 rfl rfl)
theorem dX16_of_47 : decode cX16_of 47 = .ok (.getfield 18, 3) := dk_180 0 18 (dk_at dksX16_of_2 0 rfl rfl)
theorem dX16_of_50 : decode cX16_of 50 = .ok (.iload_n 3, 1) := dk_29 (dk_at dksX16_of_2 3 rfl rfl)
theorem dX16_of_51 : decode cX16_of 51 = .ok (.iconst 1, 1) := dk_4 (dk_at dksX16_of_2 4 rfl rfl)
theorem dX16_of_52 : decode cX16_of 52 = .ok (.isub, 1) := dk_100 (dk_at dksX16_of_2 5 rfl rfl)
theorem dX16_of_53 : decode cX16_of 53 = .ok (.invokevirtual 31, 3) := dk_182 0 31 (dk_at dksX16_of_2 6 rfl rfl)
theorem dX16_of_56 : decode cX16_of 56 = .ok (.checkcast 26, 3) := dk_192 0 26 (dk_at dksX16_of_2 9 rfl rfl)
theorem dX16_of_59 : decode cX16_of 59 = .ok (.invokevirtual 43, 3) := dk_182 0 43 (dk_at dksX16_of_2 12 rfl rfl)
theorem dX16_of_62 : decode cX16_of 62 = .ok (.istore 5, 2) := dk_54 5 (dk_at dksX16_of_2 15 rfl rfl)
theorem dX16_of_64 : decode cX16_of 64 = .ok (.iload 5, 2) := dk_21 5 (dk_at dksX16_of_2 17 rfl rfl)
theorem dX16_of_66 : decode cX16_of 66 = .ok (.bipush 43, 2) := dk_16 43 (dk_at dksX16_of_2 19 rfl rfl)
theorem dX16_of_68 : decode cX16_of 68 = .ok (.if_icmp .ne 10, 3) := dk_160 0 10 (dk_at dksX16_of_2 21 rfl rfl)
theorem dX16_of_71 : decode cX16_of 71 = .ok (.iload_n 2, 1) := dk_28 (dk_at dksX16_of_3 0 rfl rfl)
theorem dX16_of_72 : decode cX16_of 72 = .ok (.iload 4, 2) := dk_21 4 (dk_at dksX16_of_3 1 rfl rfl)
theorem dX16_of_74 : decode cX16_of 74 = .ok (.iadd, 1) := dk_96 (dk_at dksX16_of_3 3 rfl rfl)
theorem dX16_of_75 : decode cX16_of 75 = .ok (.goto 21, 3) := dk_167 0 21 (dk_at dksX16_of_3 4 rfl rfl)
theorem dX16_of_78 : decode cX16_of 78 = .ok (.iload 5, 2) := dk_21 5 (dk_at dksX16_of_3 7 rfl rfl)
theorem dX16_of_80 : decode cX16_of 80 = .ok (.bipush 45, 2) := dk_16 45 (dk_at dksX16_of_3 9 rfl rfl)
theorem dX16_of_82 : decode cX16_of 82 = .ok (.if_icmp .ne 10, 3) := dk_160 0 10 (dk_at dksX16_of_3 11 rfl rfl)
theorem dX16_of_85 : decode cX16_of 85 = .ok (.iload_n 2, 1) := dk_28 (dk_at dksX16_of_3 14 rfl rfl)
theorem dX16_of_86 : decode cX16_of 86 = .ok (.iload 4, 2) := dk_21 4 (dk_at dksX16_of_3 15 rfl rfl)
theorem dX16_of_88 : decode cX16_of 88 = .ok (.isub, 1) := dk_100 (dk_at dksX16_of_3 17 rfl rfl)
theorem dX16_of_89 : decode cX16_of 89 = .ok (.goto 7, 3) := dk_167 0 7 (dk_at dksX16_of_3 18 rfl rfl)
theorem dX16_of_92 : decode cX16_of 92 = .ok (.iload_n 2, 1) := dk_28 (dk_at dksX16_of_3 21 rfl rfl)
theorem dX16_of_93 : decode cX16_of 93 = .ok (.iload 4, 2) := dk_21 4 (dk_at dksX16_of_3 22 rfl rfl)
theorem dX16_of_95 : decode cX16_of 95 = .ok (.imul, 1) := dk_104 (dk_at dksX16_of_4 0 rfl rfl)
theorem dX16_of_96 : decode cX16_of 96 = .ok (.istore_n 2, 1) := dk_61 (dk_at dksX16_of_4 1 rfl rfl)
theorem dX16_of_97 : decode cX16_of 97 = .ok (.iinc 3 1, 3) := dk_132 3 1 (dk_at dksX16_of_4 2 rfl rfl)
theorem dX16_of_100 : decode cX16_of 100 = .ok (.goto (-82), 3) := dk_167 255 174 (dk_at dksX16_of_4 5 rfl rfl)
theorem dX16_of_103 : decode cX16_of 103 = .ok (.iload_n 2, 1) := dk_28 (dk_at dksX16_of_4 8 rfl rfl)
theorem dX16_of_104 : decode cX16_of 104 = .ok (.ireturn, 1) := dk_172 (dk_at dksX16_of_4 9 rfl rfl)
abbrev cX17_init : ByteArray := prog_14_method_1_code
def dkwX17_init_0 : List UInt8 := [42, 183, 0, 1, 42, 43, 181, 0, 7, 42, 28, 181, 0, 13, 42, 45, 181, 0, 17, 177]
abbrev dktX17_init_0 : List UInt8 := dkwX17_init_0 ++ []
theorem dksX17_init_0 : cX17_init.data.toList.drop 0 = dktX17_init_0 := by decide +kernel
theorem dX17_init_0 : decode cX17_init 0 = .ok (.aload_n 0, 1) := dk_42 (dk_at dksX17_init_0 0 rfl rfl)
theorem dX17_init_1 : decode cX17_init 1 = .ok (.invokespecial 1, 3) := dk_183 0 1 (dk_at dksX17_init_0 1 rfl rfl)
theorem dX17_init_4 : decode cX17_init 4 = .ok (.aload_n 0, 1) := dk_42 (dk_at dksX17_init_0 4 rfl rfl)
theorem dX17_init_5 : decode cX17_init 5 = .ok (.aload_n 1, 1) := dk_43 (dk_at dksX17_init_0 5 rfl rfl)
theorem dX17_init_6 : decode cX17_init 6 = .ok (.putfield 7, 3) := dk_181 0 7 (dk_at dksX17_init_0 6 rfl rfl)
theorem dX17_init_9 : decode cX17_init 9 = .ok (.aload_n 0, 1) := dk_42 (dk_at dksX17_init_0 9 rfl rfl)
theorem dX17_init_10 : decode cX17_init 10 = .ok (.iload_n 2, 1) := dk_28 (dk_at dksX17_init_0 10 rfl rfl)
theorem dX17_init_11 : decode cX17_init 11 = .ok (.putfield 13, 3) := dk_181 0 13 (dk_at dksX17_init_0 11 rfl rfl)
theorem dX17_init_14 : decode cX17_init 14 = .ok (.aload_n 0, 1) := dk_42 (dk_at dksX17_init_0 14 rfl rfl)
theorem dX17_init_15 : decode cX17_init 15 = .ok (.aload_n 3, 1) := dk_45 (dk_at dksX17_init_0 15 rfl rfl)
theorem dX17_init_16 : decode cX17_init 16 = .ok (.putfield 17, 3) := dk_181 0 17 (dk_at dksX17_init_0 16 rfl rfl)
theorem dX17_init_19 : decode cX17_init 19 = .ok (.return_, 1) := dk_177 (dk_at dksX17_init_0 19 rfl rfl)
abbrev cX17_of : ByteArray := prog_14_method_2_code
def dkwX17_of_2 : List UInt8 := [164, 0, 15, 167, 0, 8, 28, 29, 160, 0, 7, 4, 167, 0, 4, 3, 172]
abbrev dktX17_of_2 : List UInt8 := dkwX17_of_2 ++ []
def dkwX17_of_1 : List UInt8 := [160, 0, 11, 28, 29, 162, 0, 32, 167, 0, 25, 42, 180, 0, 13, 16, 62, 160, 0, 11, 28, 29]
abbrev dktX17_of_1 : List UInt8 := dkwX17_of_1 ++ dktX17_of_2
def dkwX17_of_0 : List UInt8 := [42, 180, 0, 7, 43, 182, 0, 20, 61, 42, 180, 0, 17, 43, 182, 0, 20, 62, 42, 180, 0, 13, 16, 60]
abbrev dktX17_of_0 : List UInt8 := dkwX17_of_0 ++ dktX17_of_1
theorem dksX17_of_0 : cX17_of.data.toList.drop 0 = dktX17_of_0 := by decide +kernel
theorem dksX17_of_1 : cX17_of.data.toList.drop 24 = dktX17_of_1 := dk_seg dksX17_of_0 24 rfl rfl
theorem dksX17_of_2 : cX17_of.data.toList.drop 46 = dktX17_of_2 := dk_seg dksX17_of_1 22 rfl rfl
theorem dX17_of_0 : decode cX17_of 0 = .ok (.aload_n 0, 1) := dk_42 (dk_at dksX17_of_0 0 rfl rfl)
theorem dX17_of_1 : decode cX17_of 1 = .ok (.getfield 7, 3) := dk_180 0 7 (dk_at dksX17_of_0 1 rfl rfl)
theorem dX17_of_4 : decode cX17_of 4 = .ok (.aload_n 1, 1) := dk_43 (dk_at dksX17_of_0 4 rfl rfl)
theorem dX17_of_5 : decode cX17_of 5 = .ok (.invokevirtual 20, 3) := dk_182 0 20 (dk_at dksX17_of_0 5 rfl rfl)
theorem dX17_of_8 : decode cX17_of 8 = .ok (.istore_n 2, 1) := dk_61 (dk_at dksX17_of_0 8 rfl rfl)
theorem dX17_of_9 : decode cX17_of 9 = .ok (.aload_n 0, 1) := dk_42 (dk_at dksX17_of_0 9 rfl rfl)
theorem dX17_of_10 : decode cX17_of 10 = .ok (.getfield 17, 3) := dk_180 0 17 (dk_at dksX17_of_0 10 rfl rfl)
theorem dX17_of_13 : decode cX17_of 13 = .ok (.aload_n 1, 1) := dk_43 (dk_at dksX17_of_0 13 rfl rfl)
theorem dX17_of_14 : decode cX17_of 14 = .ok (.invokevirtual 20, 3) := dk_182 0 20 (dk_at dksX17_of_0 14 rfl rfl)
theorem dX17_of_17 : decode cX17_of 17 = .ok (.istore_n 3, 1) := dk_62 (dk_at dksX17_of_0 17 rfl rfl)
theorem dX17_of_18 : decode cX17_of 18 = .ok (.aload_n 0, 1) := dk_42 (dk_at dksX17_of_0 18 rfl rfl)
theorem dX17_of_19 : decode cX17_of 19 = .ok (.getfield 13, 3) := dk_180 0 13 (dk_at dksX17_of_0 19 rfl rfl)
theorem dX17_of_22 : decode cX17_of 22 = .ok (.bipush 60, 2) := dk_16 60 (dk_at dksX17_of_0 22 rfl rfl)
theorem dX17_of_24 : decode cX17_of 24 = .ok (.if_icmp .ne 11, 3) := dk_160 0 11 (dk_at dksX17_of_1 0 rfl rfl)
theorem dX17_of_27 : decode cX17_of 27 = .ok (.iload_n 2, 1) := dk_28 (dk_at dksX17_of_1 3 rfl rfl)
theorem dX17_of_28 : decode cX17_of 28 = .ok (.iload_n 3, 1) := dk_29 (dk_at dksX17_of_1 4 rfl rfl)
theorem dX17_of_29 : decode cX17_of 29 = .ok (.if_icmp .ge 32, 3) := dk_162 0 32 (dk_at dksX17_of_1 5 rfl rfl)
theorem dX17_of_32 : decode cX17_of 32 = .ok (.goto 25, 3) := dk_167 0 25 (dk_at dksX17_of_1 8 rfl rfl)
theorem dX17_of_35 : decode cX17_of 35 = .ok (.aload_n 0, 1) := dk_42 (dk_at dksX17_of_1 11 rfl rfl)
theorem dX17_of_36 : decode cX17_of 36 = .ok (.getfield 13, 3) := dk_180 0 13 (dk_at dksX17_of_1 12 rfl rfl)
theorem dX17_of_39 : decode cX17_of 39 = .ok (.bipush 62, 2) := dk_16 62 (dk_at dksX17_of_1 15 rfl rfl)
theorem dX17_of_41 : decode cX17_of 41 = .ok (.if_icmp .ne 11, 3) := dk_160 0 11 (dk_at dksX17_of_1 17 rfl rfl)
theorem dX17_of_44 : decode cX17_of 44 = .ok (.iload_n 2, 1) := dk_28 (dk_at dksX17_of_1 20 rfl rfl)
theorem dX17_of_45 : decode cX17_of 45 = .ok (.iload_n 3, 1) := dk_29 (dk_at dksX17_of_1 21 rfl rfl)
theorem dX17_of_46 : decode cX17_of 46 = .ok (.if_icmp .le 15, 3) := dk_164 0 15 (dk_at dksX17_of_2 0 rfl rfl)
theorem dX17_of_49 : decode cX17_of 49 = .ok (.goto 8, 3) := dk_167 0 8 (dk_at dksX17_of_2 3 rfl rfl)
theorem dX17_of_52 : decode cX17_of 52 = .ok (.iload_n 2, 1) := dk_28 (dk_at dksX17_of_2 6 rfl rfl)
theorem dX17_of_53 : decode cX17_of 53 = .ok (.iload_n 3, 1) := dk_29 (dk_at dksX17_of_2 7 rfl rfl)
theorem dX17_of_54 : decode cX17_of 54 = .ok (.if_icmp .ne 7, 3) := dk_160 0 7 (dk_at dksX17_of_2 8 rfl rfl)
theorem dX17_of_57 : decode cX17_of 57 = .ok (.iconst 1, 1) := dk_4 (dk_at dksX17_of_2 11 rfl rfl)
theorem dX17_of_58 : decode cX17_of 58 = .ok (.goto 4, 3) := dk_167 0 4 (dk_at dksX17_of_2 12 rfl rfl)
theorem dX17_of_61 : decode cX17_of 61 = .ok (.iconst 0, 1) := dk_3 (dk_at dksX17_of_2 15 rfl rfl)
theorem dX17_of_62 : decode cX17_of 62 = .ok (.ireturn, 1) := dk_172 (dk_at dksX17_of_2 16 rfl rfl)
abbrev cX18_init : ByteArray := prog_8_method_1_code
def dkwX18_init_0 : List UInt8 := [42, 183, 0, 1, 42, 43, 181, 0, 7, 42, 28, 181, 0, 13, 177]
abbrev dktX18_init_0 : List UInt8 := dkwX18_init_0 ++ []
theorem dksX18_init_0 : cX18_init.data.toList.drop 0 = dktX18_init_0 := by decide +kernel
theorem dX18_init_0 : decode cX18_init 0 = .ok (.aload_n 0, 1) := dk_42 (dk_at dksX18_init_0 0 rfl rfl)
theorem dX18_init_1 : decode cX18_init 1 = .ok (.invokespecial 1, 3) := dk_183 0 1 (dk_at dksX18_init_0 1 rfl rfl)
theorem dX18_init_4 : decode cX18_init 4 = .ok (.aload_n 0, 1) := dk_42 (dk_at dksX18_init_0 4 rfl rfl)
theorem dX18_init_5 : decode cX18_init 5 = .ok (.aload_n 1, 1) := dk_43 (dk_at dksX18_init_0 5 rfl rfl)
theorem dX18_init_6 : decode cX18_init 6 = .ok (.putfield 7, 3) := dk_181 0 7 (dk_at dksX18_init_0 6 rfl rfl)
theorem dX18_init_9 : decode cX18_init 9 = .ok (.aload_n 0, 1) := dk_42 (dk_at dksX18_init_0 9 rfl rfl)
theorem dX18_init_10 : decode cX18_init 10 = .ok (.iload_n 2, 1) := dk_28 (dk_at dksX18_init_0 10 rfl rfl)
theorem dX18_init_11 : decode cX18_init 11 = .ok (.putfield 13, 3) := dk_181 0 13 (dk_at dksX18_init_0 11 rfl rfl)
theorem dX18_init_14 : decode cX18_init 14 = .ok (.return_, 1) := dk_177 (dk_at dksX18_init_0 14 rfl rfl)
abbrev cX18_of : ByteArray := prog_8_method_2_code
def dkwX18_of_2 : List UInt8 := [167, 0, 4, 3, 61, 132, 3, 1, 167, 255, 210, 28, 153, 0, 7, 4, 167, 0, 4, 3, 172]
abbrev dktX18_of_2 : List UInt8 := dkwX18_of_2 ++ []
def dkwX18_of_1 : List UInt8 := [160, 0, 33, 42, 180, 0, 7, 29, 182, 0, 23, 192, 0, 2, 43, 182, 0, 27, 153, 0, 7, 4]
abbrev dktX18_of_1 : List UInt8 := dkwX18_of_1 ++ dktX18_of_2
def dkwX18_of_0 : List UInt8 := [42, 180, 0, 13, 61, 3, 62, 29, 42, 180, 0, 7, 182, 0, 17, 162, 0, 41, 28, 42, 180, 0, 13]
abbrev dktX18_of_0 : List UInt8 := dkwX18_of_0 ++ dktX18_of_1
theorem dksX18_of_0 : cX18_of.data.toList.drop 0 = dktX18_of_0 := by decide +kernel
theorem dksX18_of_1 : cX18_of.data.toList.drop 23 = dktX18_of_1 := dk_seg dksX18_of_0 23 rfl rfl
theorem dksX18_of_2 : cX18_of.data.toList.drop 45 = dktX18_of_2 := dk_seg dksX18_of_1 22 rfl rfl
theorem dX18_of_0 : decode cX18_of 0 = .ok (.aload_n 0, 1) := dk_42 (dk_at dksX18_of_0 0 rfl rfl)
theorem dX18_of_1 : decode cX18_of 1 = .ok (.getfield 13, 3) := dk_180 0 13 (dk_at dksX18_of_0 1 rfl rfl)
theorem dX18_of_4 : decode cX18_of 4 = .ok (.istore_n 2, 1) := dk_61 (dk_at dksX18_of_0 4 rfl rfl)
theorem dX18_of_5 : decode cX18_of 5 = .ok (.iconst 0, 1) := dk_3 (dk_at dksX18_of_0 5 rfl rfl)
theorem dX18_of_6 : decode cX18_of 6 = .ok (.istore_n 3, 1) := dk_62 (dk_at dksX18_of_0 6 rfl rfl)
theorem dX18_of_7 : decode cX18_of 7 = .ok (.iload_n 3, 1) := dk_29 (dk_at dksX18_of_0 7 rfl rfl)
theorem dX18_of_8 : decode cX18_of 8 = .ok (.aload_n 0, 1) := dk_42 (dk_at dksX18_of_0 8 rfl rfl)
theorem dX18_of_9 : decode cX18_of 9 = .ok (.getfield 7, 3) := dk_180 0 7 (dk_at dksX18_of_0 9 rfl rfl)
theorem dX18_of_12 : decode cX18_of 12 = .ok (.invokevirtual 17, 3) := dk_182 0 17 (dk_at dksX18_of_0 12 rfl rfl)
theorem dX18_of_15 : decode cX18_of 15 = .ok (.if_icmp .ge 41, 3) := dk_162 0 41 (dk_at dksX18_of_0 15 rfl rfl)
theorem dX18_of_18 : decode cX18_of 18 = .ok (.iload_n 2, 1) := dk_28 (dk_at dksX18_of_0 18 rfl rfl)
theorem dX18_of_19 : decode cX18_of 19 = .ok (.aload_n 0, 1) := dk_42 (dk_at dksX18_of_0 19 rfl rfl)
theorem dX18_of_20 : decode cX18_of 20 = .ok (.getfield 13, 3) := dk_180 0 13 (dk_at dksX18_of_0 20 rfl rfl)
theorem dX18_of_23 : decode cX18_of 23 = .ok (.if_icmp .ne 33, 3) := dk_160 0 33 (dk_at dksX18_of_1 0 rfl rfl)
theorem dX18_of_26 : decode cX18_of 26 = .ok (.aload_n 0, 1) := dk_42 (dk_at dksX18_of_1 3 rfl rfl)
theorem dX18_of_27 : decode cX18_of 27 = .ok (.getfield 7, 3) := dk_180 0 7 (dk_at dksX18_of_1 4 rfl rfl)
theorem dX18_of_30 : decode cX18_of 30 = .ok (.iload_n 3, 1) := dk_29 (dk_at dksX18_of_1 7 rfl rfl)
theorem dX18_of_31 : decode cX18_of 31 = .ok (.invokevirtual 23, 3) := dk_182 0 23 (dk_at dksX18_of_1 8 rfl rfl)
theorem dX18_of_34 : decode cX18_of 34 = .ok (.checkcast 2, 3) := dk_192 0 2 (dk_at dksX18_of_1 11 rfl rfl)
theorem dX18_of_37 : decode cX18_of 37 = .ok (.aload_n 1, 1) := dk_43 (dk_at dksX18_of_1 14 rfl rfl)
theorem dX18_of_38 : decode cX18_of 38 = .ok (.invokevirtual 27, 3) := dk_182 0 27 (dk_at dksX18_of_1 15 rfl rfl)
theorem dX18_of_41 : decode cX18_of 41 = .ok (.ifCond .eq 7, 3) := dk_153 0 7 (dk_at dksX18_of_1 18 rfl rfl)
theorem dX18_of_44 : decode cX18_of 44 = .ok (.iconst 1, 1) := dk_4 (dk_at dksX18_of_1 21 rfl rfl)
theorem dX18_of_45 : decode cX18_of 45 = .ok (.goto 4, 3) := dk_167 0 4 (dk_at dksX18_of_2 0 rfl rfl)
theorem dX18_of_48 : decode cX18_of 48 = .ok (.iconst 0, 1) := dk_3 (dk_at dksX18_of_2 3 rfl rfl)
theorem dX18_of_49 : decode cX18_of 49 = .ok (.istore_n 2, 1) := dk_61 (dk_at dksX18_of_2 4 rfl rfl)
theorem dX18_of_50 : decode cX18_of 50 = .ok (.iinc 3 1, 3) := dk_132 3 1 (dk_at dksX18_of_2 5 rfl rfl)
theorem dX18_of_53 : decode cX18_of 53 = .ok (.goto (-46), 3) := dk_167 255 210 (dk_at dksX18_of_2 8 rfl rfl)
theorem dX18_of_56 : decode cX18_of 56 = .ok (.iload_n 2, 1) := dk_28 (dk_at dksX18_of_2 11 rfl rfl)
theorem dX18_of_57 : decode cX18_of 57 = .ok (.ifCond .eq 7, 3) := dk_153 0 7 (dk_at dksX18_of_2 12 rfl rfl)
theorem dX18_of_60 : decode cX18_of 60 = .ok (.iconst 1, 1) := dk_4 (dk_at dksX18_of_2 15 rfl rfl)
theorem dX18_of_61 : decode cX18_of 61 = .ok (.goto 4, 3) := dk_167 0 4 (dk_at dksX18_of_2 16 rfl rfl)
theorem dX18_of_64 : decode cX18_of 64 = .ok (.iconst 0, 1) := dk_3 (dk_at dksX18_of_2 19 rfl rfl)
theorem dX18_of_65 : decode cX18_of 65 = .ok (.ireturn, 1) := dk_172 (dk_at dksX18_of_2 20 rfl rfl)
abbrev cX19_counts : ByteArray := prog_6_method_3_code
def dkwX19_counts_1 : List UInt8 := [167, 0, 4, 3, 172]
abbrev dktX19_counts_1 : List UInt8 := dkwX19_counts_1 ++ []
def dkwX19_counts_0 : List UInt8 := [42, 180, 0, 18, 27, 163, 0, 22, 42, 180, 0, 9, 155, 0, 11, 42, 180, 0, 9, 27, 164, 0, 7, 4]
abbrev dktX19_counts_0 : List UInt8 := dkwX19_counts_0 ++ dktX19_counts_1
theorem dksX19_counts_0 : cX19_counts.data.toList.drop 0 = dktX19_counts_0 := by decide +kernel
theorem dksX19_counts_1 : cX19_counts.data.toList.drop 24 = dktX19_counts_1 := dk_seg dksX19_counts_0 24 rfl rfl
theorem dX19_counts_0 : decode cX19_counts 0 = .ok (.aload_n 0, 1) := dk_42 (dk_at dksX19_counts_0 0 rfl rfl)
theorem dX19_counts_1 : decode cX19_counts 1 = .ok (.getfield 18, 3) := dk_180 0 18 (dk_at dksX19_counts_0 1 rfl rfl)
theorem dX19_counts_4 : decode cX19_counts 4 = .ok (.iload_n 1, 1) := dk_27 (dk_at dksX19_counts_0 4 rfl rfl)
theorem dX19_counts_5 : decode cX19_counts 5 = .ok (.if_icmp .gt 22, 3) := dk_163 0 22 (dk_at dksX19_counts_0 5 rfl rfl)
theorem dX19_counts_8 : decode cX19_counts 8 = .ok (.aload_n 0, 1) := dk_42 (dk_at dksX19_counts_0 8 rfl rfl)
theorem dX19_counts_9 : decode cX19_counts 9 = .ok (.getfield 9, 3) := dk_180 0 9 (dk_at dksX19_counts_0 9 rfl rfl)
theorem dX19_counts_12 : decode cX19_counts 12 = .ok (.ifCond .lt 11, 3) := dk_155 0 11 (dk_at dksX19_counts_0 12 rfl rfl)
theorem dX19_counts_15 : decode cX19_counts 15 = .ok (.aload_n 0, 1) := dk_42 (dk_at dksX19_counts_0 15 rfl rfl)
theorem dX19_counts_16 : decode cX19_counts 16 = .ok (.getfield 9, 3) := dk_180 0 9 (dk_at dksX19_counts_0 16 rfl rfl)
theorem dX19_counts_19 : decode cX19_counts 19 = .ok (.iload_n 1, 1) := dk_27 (dk_at dksX19_counts_0 19 rfl rfl)
theorem dX19_counts_20 : decode cX19_counts 20 = .ok (.if_icmp .le 7, 3) := dk_164 0 7 (dk_at dksX19_counts_0 20 rfl rfl)
theorem dX19_counts_23 : decode cX19_counts 23 = .ok (.iconst 1, 1) := dk_4 (dk_at dksX19_counts_0 23 rfl rfl)
theorem dX19_counts_24 : decode cX19_counts 24 = .ok (.goto 4, 3) := dk_167 0 4 (dk_at dksX19_counts_1 0 rfl rfl)
theorem dX19_counts_27 : decode cX19_counts 27 = .ok (.iconst 0, 1) := dk_3 (dk_at dksX19_counts_1 3 rfl rfl)
theorem dX19_counts_28 : decode cX19_counts 28 = .ok (.ireturn, 1) := dk_172 (dk_at dksX19_counts_1 4 rfl rfl)
abbrev cX19_init : ByteArray := prog_6_method_1_code
def dkwX19_init_0 : List UInt8 := [42, 183, 0, 3, 42, 2, 181, 0, 9, 42, 27, 181, 0, 15, 42, 28, 181, 0, 18, 177]
abbrev dktX19_init_0 : List UInt8 := dkwX19_init_0 ++ []
theorem dksX19_init_0 : cX19_init.data.toList.drop 0 = dktX19_init_0 := by decide +kernel
theorem dX19_init_0 : decode cX19_init 0 = .ok (.aload_n 0, 1) := dk_42 (dk_at dksX19_init_0 0 rfl rfl)
theorem dX19_init_1 : decode cX19_init 1 = .ok (.invokespecial 3, 3) := dk_183 0 3 (dk_at dksX19_init_0 1 rfl rfl)
theorem dX19_init_4 : decode cX19_init 4 = .ok (.aload_n 0, 1) := dk_42 (dk_at dksX19_init_0 4 rfl rfl)
theorem dX19_init_5 : decode cX19_init 5 = .ok (.iconst (-1), 1) := dk_2 (dk_at dksX19_init_0 5 rfl rfl)
theorem dX19_init_6 : decode cX19_init 6 = .ok (.putfield 9, 3) := dk_181 0 9 (dk_at dksX19_init_0 6 rfl rfl)
theorem dX19_init_9 : decode cX19_init 9 = .ok (.aload_n 0, 1) := dk_42 (dk_at dksX19_init_0 9 rfl rfl)
theorem dX19_init_10 : decode cX19_init 10 = .ok (.iload_n 1, 1) := dk_27 (dk_at dksX19_init_0 10 rfl rfl)
theorem dX19_init_11 : decode cX19_init 11 = .ok (.putfield 15, 3) := dk_181 0 15 (dk_at dksX19_init_0 11 rfl rfl)
theorem dX19_init_14 : decode cX19_init 14 = .ok (.aload_n 0, 1) := dk_42 (dk_at dksX19_init_0 14 rfl rfl)
theorem dX19_init_15 : decode cX19_init 15 = .ok (.iload_n 2, 1) := dk_28 (dk_at dksX19_init_0 15 rfl rfl)
theorem dX19_init_16 : decode cX19_init 16 = .ok (.putfield 18, 3) := dk_181 0 18 (dk_at dksX19_init_0 16 rfl rfl)
theorem dX19_init_19 : decode cX19_init 19 = .ok (.return_, 1) := dk_177 (dk_at dksX19_init_0 19 rfl rfl)
abbrev cX19_untell : ByteArray := prog_6_method_2_code
def dkwX19_untell_0 : List UInt8 := [42, 180, 0, 9, 155, 0, 5, 3, 172, 42, 27, 181, 0, 9, 4, 172]
abbrev dktX19_untell_0 : List UInt8 := dkwX19_untell_0 ++ []
theorem dksX19_untell_0 : cX19_untell.data.toList.drop 0 = dktX19_untell_0 := by decide +kernel
theorem dX19_untell_0 : decode cX19_untell 0 = .ok (.aload_n 0, 1) := dk_42 (dk_at dksX19_untell_0 0 rfl rfl)
theorem dX19_untell_1 : decode cX19_untell 1 = .ok (.getfield 9, 3) := dk_180 0 9 (dk_at dksX19_untell_0 1 rfl rfl)
theorem dX19_untell_4 : decode cX19_untell 4 = .ok (.ifCond .lt 5, 3) := dk_155 0 5 (dk_at dksX19_untell_0 4 rfl rfl)
theorem dX19_untell_7 : decode cX19_untell 7 = .ok (.iconst 0, 1) := dk_3 (dk_at dksX19_untell_0 7 rfl rfl)
theorem dX19_untell_8 : decode cX19_untell 8 = .ok (.ireturn, 1) := dk_172 (dk_at dksX19_untell_0 8 rfl rfl)
theorem dX19_untell_9 : decode cX19_untell 9 = .ok (.aload_n 0, 1) := dk_42 (dk_at dksX19_untell_0 9 rfl rfl)
theorem dX19_untell_10 : decode cX19_untell 10 = .ok (.iload_n 1, 1) := dk_27 (dk_at dksX19_untell_0 10 rfl rfl)
theorem dX19_untell_11 : decode cX19_untell 11 = .ok (.putfield 9, 3) := dk_181 0 9 (dk_at dksX19_untell_0 11 rfl rfl)
theorem dX19_untell_14 : decode cX19_untell 14 = .ok (.iconst 1, 1) := dk_4 (dk_at dksX19_untell_0 14 rfl rfl)
theorem dX19_untell_15 : decode cX19_untell 15 = .ok (.ireturn, 1) := dk_172 (dk_at dksX19_untell_0 15 rfl rfl)
abbrev cX2_holds : ByteArray := prog_19_method_2_code
def dkwX2_holds_1 : List UInt8 := [153, 0, 7, 4, 167, 0, 4, 3, 172]
abbrev dktX2_holds_1 : List UInt8 := dkwX2_holds_1 ++ []
def dkwX2_holds_0 : List UInt8 := [42, 180, 0, 11, 27, 50, 199, 0, 7, 28, 167, 0, 21, 42, 180, 0, 11, 27, 50, 45, 182, 0, 17]
abbrev dktX2_holds_0 : List UInt8 := dkwX2_holds_0 ++ dktX2_holds_1
theorem dksX2_holds_0 : cX2_holds.data.toList.drop 0 = dktX2_holds_0 := by decide +kernel
theorem dksX2_holds_1 : cX2_holds.data.toList.drop 23 = dktX2_holds_1 := dk_seg dksX2_holds_0 23 rfl rfl
theorem dX2_holds_0 : decode cX2_holds 0 = .ok (.aload_n 0, 1) := dk_42 (dk_at dksX2_holds_0 0 rfl rfl)
theorem dX2_holds_1 : decode cX2_holds 1 = .ok (.getfield 11, 3) := dk_180 0 11 (dk_at dksX2_holds_0 1 rfl rfl)
theorem dX2_holds_4 : decode cX2_holds 4 = .ok (.iload_n 1, 1) := dk_27 (dk_at dksX2_holds_0 4 rfl rfl)
theorem dX2_holds_5 : decode cX2_holds 5 = .ok (.aaload, 1) := dk_50 (dk_at dksX2_holds_0 5 rfl rfl)
theorem dX2_holds_6 : decode cX2_holds 6 = .ok (.ifnonnull 7, 3) := dk_199 0 7 (dk_at dksX2_holds_0 6 rfl rfl)
theorem dX2_holds_9 : decode cX2_holds 9 = .ok (.iload_n 2, 1) := dk_28 (dk_at dksX2_holds_0 9 rfl rfl)
theorem dX2_holds_10 : decode cX2_holds 10 = .ok (.goto 21, 3) := dk_167 0 21 (dk_at dksX2_holds_0 10 rfl rfl)
theorem dX2_holds_13 : decode cX2_holds 13 = .ok (.aload_n 0, 1) := dk_42 (dk_at dksX2_holds_0 13 rfl rfl)
theorem dX2_holds_14 : decode cX2_holds 14 = .ok (.getfield 11, 3) := dk_180 0 11 (dk_at dksX2_holds_0 14 rfl rfl)
theorem dX2_holds_17 : decode cX2_holds 17 = .ok (.iload_n 1, 1) := dk_27 (dk_at dksX2_holds_0 17 rfl rfl)
theorem dX2_holds_18 : decode cX2_holds 18 = .ok (.aaload, 1) := dk_50 (dk_at dksX2_holds_0 18 rfl rfl)
theorem dX2_holds_19 : decode cX2_holds 19 = .ok (.aload_n 3, 1) := dk_45 (dk_at dksX2_holds_0 19 rfl rfl)
theorem dX2_holds_20 : decode cX2_holds 20 = .ok (.invokevirtual 17, 3) := dk_182 0 17 (dk_at dksX2_holds_0 20 rfl rfl)
theorem dX2_holds_23 : decode cX2_holds 23 = .ok (.ifCond .eq 7, 3) := dk_153 0 7 (dk_at dksX2_holds_1 0 rfl rfl)
theorem dX2_holds_26 : decode cX2_holds 26 = .ok (.iconst 1, 1) := dk_4 (dk_at dksX2_holds_1 3 rfl rfl)
theorem dX2_holds_27 : decode cX2_holds 27 = .ok (.goto 4, 3) := dk_167 0 4 (dk_at dksX2_holds_1 4 rfl rfl)
theorem dX2_holds_30 : decode cX2_holds 30 = .ok (.iconst 0, 1) := dk_3 (dk_at dksX2_holds_1 7 rfl rfl)
theorem dX2_holds_31 : decode cX2_holds 31 = .ok (.ireturn, 1) := dk_172 (dk_at dksX2_holds_1 8 rfl rfl)
abbrev cX2_init : ByteArray := prog_19_method_1_code
def dkwX2_init_0 : List UInt8 := [42, 183, 0, 3, 42, 7, 189, 0, 9, 181, 0, 11, 177]
abbrev dktX2_init_0 : List UInt8 := dkwX2_init_0 ++ []
theorem dksX2_init_0 : cX2_init.data.toList.drop 0 = dktX2_init_0 := by decide +kernel
theorem dX2_init_0 : decode cX2_init 0 = .ok (.aload_n 0, 1) := dk_42 (dk_at dksX2_init_0 0 rfl rfl)
theorem dX2_init_1 : decode cX2_init 1 = .ok (.invokespecial 3, 3) := dk_183 0 3 (dk_at dksX2_init_0 1 rfl rfl)
theorem dX2_init_4 : decode cX2_init 4 = .ok (.aload_n 0, 1) := dk_42 (dk_at dksX2_init_0 4 rfl rfl)
theorem dX2_init_5 : decode cX2_init 5 = .ok (.iconst 4, 1) := dk_7 (dk_at dksX2_init_0 5 rfl rfl)
theorem dX2_init_6 : decode cX2_init 6 = .ok (.anewarray 9, 3) := dk_189 0 9 (dk_at dksX2_init_0 6 rfl rfl)
theorem dX2_init_9 : decode cX2_init 9 = .ok (.putfield 11, 3) := dk_181 0 11 (dk_at dksX2_init_0 9 rfl rfl)
theorem dX2_init_12 : decode cX2_init 12 = .ok (.return_, 1) := dk_177 (dk_at dksX2_init_0 12 rfl rfl)
abbrev cX2_share : ByteArray := prog_19_method_3_code
def dkwX2_share_1 : List UInt8 := [182, 0, 17, 184, 0, 21, 184, 0, 27, 172]
abbrev dktX2_share_1 : List UInt8 := dkwX2_share_1 ++ []
def dkwX2_share_0 : List UInt8 := [42, 180, 0, 11, 3, 50, 199, 0, 8, 16, 50, 167, 0, 22, 3, 16, 100, 42, 180, 0, 11, 3, 50, 43]
abbrev dktX2_share_0 : List UInt8 := dkwX2_share_0 ++ dktX2_share_1
theorem dksX2_share_0 : cX2_share.data.toList.drop 0 = dktX2_share_0 := by decide +kernel
theorem dksX2_share_1 : cX2_share.data.toList.drop 24 = dktX2_share_1 := dk_seg dksX2_share_0 24 rfl rfl
theorem dX2_share_0 : decode cX2_share 0 = .ok (.aload_n 0, 1) := dk_42 (dk_at dksX2_share_0 0 rfl rfl)
theorem dX2_share_1 : decode cX2_share 1 = .ok (.getfield 11, 3) := dk_180 0 11 (dk_at dksX2_share_0 1 rfl rfl)
theorem dX2_share_4 : decode cX2_share 4 = .ok (.iconst 0, 1) := dk_3 (dk_at dksX2_share_0 4 rfl rfl)
theorem dX2_share_5 : decode cX2_share 5 = .ok (.aaload, 1) := dk_50 (dk_at dksX2_share_0 5 rfl rfl)
theorem dX2_share_6 : decode cX2_share 6 = .ok (.ifnonnull 8, 3) := dk_199 0 8 (dk_at dksX2_share_0 6 rfl rfl)
theorem dX2_share_9 : decode cX2_share 9 = .ok (.bipush 50, 2) := dk_16 50 (dk_at dksX2_share_0 9 rfl rfl)
theorem dX2_share_11 : decode cX2_share 11 = .ok (.goto 22, 3) := dk_167 0 22 (dk_at dksX2_share_0 11 rfl rfl)
theorem dX2_share_14 : decode cX2_share 14 = .ok (.iconst 0, 1) := dk_3 (dk_at dksX2_share_0 14 rfl rfl)
theorem dX2_share_15 : decode cX2_share 15 = .ok (.bipush 100, 2) := dk_16 100 (dk_at dksX2_share_0 15 rfl rfl)
theorem dX2_share_17 : decode cX2_share 17 = .ok (.aload_n 0, 1) := dk_42 (dk_at dksX2_share_0 17 rfl rfl)
theorem dX2_share_18 : decode cX2_share 18 = .ok (.getfield 11, 3) := dk_180 0 11 (dk_at dksX2_share_0 18 rfl rfl)
theorem dX2_share_21 : decode cX2_share 21 = .ok (.iconst 0, 1) := dk_3 (dk_at dksX2_share_0 21 rfl rfl)
theorem dX2_share_22 : decode cX2_share 22 = .ok (.aaload, 1) := dk_50 (dk_at dksX2_share_0 22 rfl rfl)
theorem dX2_share_23 : decode cX2_share 23 = .ok (.aload_n 1, 1) := dk_43 (dk_at dksX2_share_0 23 rfl rfl)
theorem dX2_share_24 : decode cX2_share 24 = .ok (.invokevirtual 17, 3) := dk_182 0 17 (dk_at dksX2_share_1 0 rfl rfl)
theorem dX2_share_27 : decode cX2_share 27 = .ok (.invokestatic 21, 3) := dk_184 0 21 (dk_at dksX2_share_1 3 rfl rfl)
theorem dX2_share_30 : decode cX2_share 30 = .ok (.invokestatic 27, 3) := dk_184 0 27 (dk_at dksX2_share_1 6 rfl rfl)
theorem dX2_share_33 : decode cX2_share 33 = .ok (.ireturn, 1) := dk_172 (dk_at dksX2_share_1 9 rfl rfl)
abbrev cX20_init : ByteArray := prog_3_method_1_code
def dkwX20_init_0 : List UInt8 := [42, 28, 29, 183, 0, 1, 42, 27, 181, 0, 7, 177]
abbrev dktX20_init_0 : List UInt8 := dkwX20_init_0 ++ []
theorem dksX20_init_0 : cX20_init.data.toList.drop 0 = dktX20_init_0 := by decide +kernel
theorem dX20_init_0 : decode cX20_init 0 = .ok (.aload_n 0, 1) := dk_42 (dk_at dksX20_init_0 0 rfl rfl)
theorem dX20_init_1 : decode cX20_init 1 = .ok (.iload_n 2, 1) := dk_28 (dk_at dksX20_init_0 1 rfl rfl)
theorem dX20_init_2 : decode cX20_init 2 = .ok (.iload_n 3, 1) := dk_29 (dk_at dksX20_init_0 2 rfl rfl)
theorem dX20_init_3 : decode cX20_init 3 = .ok (.invokespecial 1, 3) := dk_183 0 1 (dk_at dksX20_init_0 3 rfl rfl)
theorem dX20_init_6 : decode cX20_init 6 = .ok (.aload_n 0, 1) := dk_42 (dk_at dksX20_init_0 6 rfl rfl)
theorem dX20_init_7 : decode cX20_init 7 = .ok (.iload_n 1, 1) := dk_27 (dk_at dksX20_init_0 7 rfl rfl)
theorem dX20_init_8 : decode cX20_init 8 = .ok (.putfield 7, 3) := dk_181 0 7 (dk_at dksX20_init_0 8 rfl rfl)
theorem dX20_init_11 : decode cX20_init 11 = .ok (.return_, 1) := dk_177 (dk_at dksX20_init_0 11 rfl rfl)
abbrev cX21_init : ByteArray := prog_4_method_1_code
def dkwX21_init_0 : List UInt8 := [42, 27, 29, 183, 0, 1, 42, 28, 181, 0, 7, 177]
abbrev dktX21_init_0 : List UInt8 := dkwX21_init_0 ++ []
theorem dksX21_init_0 : cX21_init.data.toList.drop 0 = dktX21_init_0 := by decide +kernel
theorem dX21_init_0 : decode cX21_init 0 = .ok (.aload_n 0, 1) := dk_42 (dk_at dksX21_init_0 0 rfl rfl)
theorem dX21_init_1 : decode cX21_init 1 = .ok (.iload_n 1, 1) := dk_27 (dk_at dksX21_init_0 1 rfl rfl)
theorem dX21_init_2 : decode cX21_init 2 = .ok (.iload_n 3, 1) := dk_29 (dk_at dksX21_init_0 2 rfl rfl)
theorem dX21_init_3 : decode cX21_init 3 = .ok (.invokespecial 1, 3) := dk_183 0 1 (dk_at dksX21_init_0 3 rfl rfl)
theorem dX21_init_6 : decode cX21_init 6 = .ok (.aload_n 0, 1) := dk_42 (dk_at dksX21_init_0 6 rfl rfl)
theorem dX21_init_7 : decode cX21_init 7 = .ok (.iload_n 2, 1) := dk_28 (dk_at dksX21_init_0 7 rfl rfl)
theorem dX21_init_8 : decode cX21_init 8 = .ok (.putfield 7, 3) := dk_181 0 7 (dk_at dksX21_init_0 8 rfl rfl)
theorem dX21_init_11 : decode cX21_init 11 = .ok (.return_, 1) := dk_177 (dk_at dksX21_init_0 11 rfl rfl)
abbrev cX22_init : ByteArray := prog_18_method_1_code
def dkwX22_init_0 : List UInt8 := [42, 27, 29, 183, 0, 1, 42, 28, 181, 0, 7, 177]
abbrev dktX22_init_0 : List UInt8 := dkwX22_init_0 ++ []
theorem dksX22_init_0 : cX22_init.data.toList.drop 0 = dktX22_init_0 := by decide +kernel
theorem dX22_init_0 : decode cX22_init 0 = .ok (.aload_n 0, 1) := dk_42 (dk_at dksX22_init_0 0 rfl rfl)
theorem dX22_init_1 : decode cX22_init 1 = .ok (.iload_n 1, 1) := dk_27 (dk_at dksX22_init_0 1 rfl rfl)
theorem dX22_init_2 : decode cX22_init 2 = .ok (.iload_n 3, 1) := dk_29 (dk_at dksX22_init_0 2 rfl rfl)
theorem dX22_init_3 : decode cX22_init 3 = .ok (.invokespecial 1, 3) := dk_183 0 1 (dk_at dksX22_init_0 3 rfl rfl)
theorem dX22_init_6 : decode cX22_init 6 = .ok (.aload_n 0, 1) := dk_42 (dk_at dksX22_init_0 6 rfl rfl)
theorem dX22_init_7 : decode cX22_init 7 = .ok (.iload_n 2, 1) := dk_28 (dk_at dksX22_init_0 7 rfl rfl)
theorem dX22_init_8 : decode cX22_init 8 = .ok (.putfield 7, 3) := dk_181 0 7 (dk_at dksX22_init_0 8 rfl rfl)
theorem dX22_init_11 : decode cX22_init 11 = .ok (.return_, 1) := dk_177 (dk_at dksX22_init_0 11 rfl rfl)
abbrev cX4_here : ByteArray := prog_17_method_2_code
def dkwX4_here_1 : List UInt8 := [180, 0, 21, 27, 96, 51, 17, 0, 255, 126, 167, 0, 4, 2, 172]
abbrev dktX4_here_1 : List UInt8 := dkwX4_here_1 ++ []
def dkwX4_here_0 : List UInt8 := [42, 180, 0, 21, 27, 96, 42, 180, 0, 3, 180, 0, 25, 162, 0, 24, 42, 180, 0, 3, 180, 0, 28, 42]
abbrev dktX4_here_0 : List UInt8 := dkwX4_here_0 ++ dktX4_here_1
theorem dksX4_here_0 : cX4_here.data.toList.drop 0 = dktX4_here_0 := by decide +kernel
theorem dksX4_here_1 : cX4_here.data.toList.drop 24 = dktX4_here_1 := dk_seg dksX4_here_0 24 rfl rfl
theorem dX4_here_0 : decode cX4_here 0 = .ok (.aload_n 0, 1) := dk_42 (dk_at dksX4_here_0 0 rfl rfl)
theorem dX4_here_1 : decode cX4_here 1 = .ok (.getfield 21, 3) := dk_180 0 21 (dk_at dksX4_here_0 1 rfl rfl)
theorem dX4_here_4 : decode cX4_here 4 = .ok (.iload_n 1, 1) := dk_27 (dk_at dksX4_here_0 4 rfl rfl)
theorem dX4_here_5 : decode cX4_here 5 = .ok (.iadd, 1) := dk_96 (dk_at dksX4_here_0 5 rfl rfl)
theorem dX4_here_6 : decode cX4_here 6 = .ok (.aload_n 0, 1) := dk_42 (dk_at dksX4_here_0 6 rfl rfl)
theorem dX4_here_7 : decode cX4_here 7 = .ok (.getfield 3, 3) := dk_180 0 3 (dk_at dksX4_here_0 7 rfl rfl)
theorem dX4_here_10 : decode cX4_here 10 = .ok (.getfield 25, 3) := dk_180 0 25 (dk_at dksX4_here_0 10 rfl rfl)
theorem dX4_here_13 : decode cX4_here 13 = .ok (.if_icmp .ge 24, 3) := dk_162 0 24 (dk_at dksX4_here_0 13 rfl rfl)
theorem dX4_here_16 : decode cX4_here 16 = .ok (.aload_n 0, 1) := dk_42 (dk_at dksX4_here_0 16 rfl rfl)
theorem dX4_here_17 : decode cX4_here 17 = .ok (.getfield 3, 3) := dk_180 0 3 (dk_at dksX4_here_0 17 rfl rfl)
theorem dX4_here_20 : decode cX4_here 20 = .ok (.getfield 28, 3) := dk_180 0 28 (dk_at dksX4_here_0 20 rfl rfl)
theorem dX4_here_23 : decode cX4_here 23 = .ok (.aload_n 0, 1) := dk_42 (dk_at dksX4_here_0 23 rfl rfl)
theorem dX4_here_24 : decode cX4_here 24 = .ok (.getfield 21, 3) := dk_180 0 21 (dk_at dksX4_here_1 0 rfl rfl)
theorem dX4_here_27 : decode cX4_here 27 = .ok (.iload_n 1, 1) := dk_27 (dk_at dksX4_here_1 3 rfl rfl)
theorem dX4_here_28 : decode cX4_here 28 = .ok (.iadd, 1) := dk_96 (dk_at dksX4_here_1 4 rfl rfl)
theorem dX4_here_29 : decode cX4_here 29 = .ok (.baload, 1) := dk_51 (dk_at dksX4_here_1 5 rfl rfl)
theorem dX4_here_30 : decode cX4_here 30 = .ok (.sipush 255, 3) := dk_17 0 255 (dk_at dksX4_here_1 6 rfl rfl)
theorem dX4_here_33 : decode cX4_here 33 = .ok (.iand, 1) := dk_126 (dk_at dksX4_here_1 9 rfl rfl)
theorem dX4_here_34 : decode cX4_here 34 = .ok (.goto 4, 3) := dk_167 0 4 (dk_at dksX4_here_1 10 rfl rfl)
theorem dX4_here_37 : decode cX4_here 37 = .ok (.iconst (-1), 1) := dk_2 (dk_at dksX4_here_1 13 rfl rfl)
theorem dX4_here_38 : decode cX4_here 38 = .ok (.ireturn, 1) := dk_172 (dk_at dksX4_here_1 14 rfl rfl)
abbrev cX4_init : ByteArray := prog_17_method_1_code
def dkwX4_init_0 : List UInt8 := [42, 43, 181, 0, 3, 42, 183, 0, 9, 42, 18, 15, 181, 0, 17, 177]
abbrev dktX4_init_0 : List UInt8 := dkwX4_init_0 ++ []
theorem dksX4_init_0 : cX4_init.data.toList.drop 0 = dktX4_init_0 := by decide +kernel
theorem dX4_init_0 : decode cX4_init 0 = .ok (.aload_n 0, 1) := dk_42 (dk_at dksX4_init_0 0 rfl rfl)
theorem dX4_init_1 : decode cX4_init 1 = .ok (.aload_n 1, 1) := dk_43 (dk_at dksX4_init_0 1 rfl rfl)
theorem dX4_init_2 : decode cX4_init 2 = .ok (.putfield 3, 3) := dk_181 0 3 (dk_at dksX4_init_0 2 rfl rfl)
theorem dX4_init_5 : decode cX4_init 5 = .ok (.aload_n 0, 1) := dk_42 (dk_at dksX4_init_0 5 rfl rfl)
theorem dX4_init_6 : decode cX4_init 6 = .ok (.invokespecial 9, 3) := dk_183 0 9 (dk_at dksX4_init_0 6 rfl rfl)
theorem dX4_init_9 : decode cX4_init 9 = .ok (.aload_n 0, 1) := dk_42 (dk_at dksX4_init_0 9 rfl rfl)
theorem dX4_init_10 : decode cX4_init 10 = .ok (.ldc 15, 2) := dk_18 15 (dk_at dksX4_init_0 10 rfl rfl)
theorem dX4_init_12 : decode cX4_init 12 = .ok (.putfield 17, 3) := dk_181 0 17 (dk_at dksX4_init_0 12 rfl rfl)
theorem dX4_init_15 : decode cX4_init 15 = .ok (.return_, 1) := dk_177 (dk_at dksX4_init_0 15 rfl rfl)
abbrev cX4_isDigit : ByteArray := prog_17_method_4_code
def dkwX4_isDigit_1 : List UInt8 := [3, 172]
abbrev dktX4_isDigit_1 : List UInt8 := dkwX4_isDigit_1 ++ []
def dkwX4_isDigit_0 : List UInt8 := [42, 27, 182, 0, 32, 16, 48, 161, 0, 17, 42, 27, 182, 0, 32, 16, 57, 163, 0, 7, 4, 167, 0, 4]
abbrev dktX4_isDigit_0 : List UInt8 := dkwX4_isDigit_0 ++ dktX4_isDigit_1
theorem dksX4_isDigit_0 : cX4_isDigit.data.toList.drop 0 = dktX4_isDigit_0 := by decide +kernel
theorem dksX4_isDigit_1 : cX4_isDigit.data.toList.drop 24 = dktX4_isDigit_1 := dk_seg dksX4_isDigit_0 24 rfl rfl
theorem dX4_isDigit_0 : decode cX4_isDigit 0 = .ok (.aload_n 0, 1) := dk_42 (dk_at dksX4_isDigit_0 0 rfl rfl)
theorem dX4_isDigit_1 : decode cX4_isDigit 1 = .ok (.iload_n 1, 1) := dk_27 (dk_at dksX4_isDigit_0 1 rfl rfl)
theorem dX4_isDigit_2 : decode cX4_isDigit 2 = .ok (.invokevirtual 32, 3) := dk_182 0 32 (dk_at dksX4_isDigit_0 2 rfl rfl)
theorem dX4_isDigit_5 : decode cX4_isDigit 5 = .ok (.bipush 48, 2) := dk_16 48 (dk_at dksX4_isDigit_0 5 rfl rfl)
theorem dX4_isDigit_7 : decode cX4_isDigit 7 = .ok (.if_icmp .lt 17, 3) := dk_161 0 17 (dk_at dksX4_isDigit_0 7 rfl rfl)
theorem dX4_isDigit_10 : decode cX4_isDigit 10 = .ok (.aload_n 0, 1) := dk_42 (dk_at dksX4_isDigit_0 10 rfl rfl)
theorem dX4_isDigit_11 : decode cX4_isDigit 11 = .ok (.iload_n 1, 1) := dk_27 (dk_at dksX4_isDigit_0 11 rfl rfl)
theorem dX4_isDigit_12 : decode cX4_isDigit 12 = .ok (.invokevirtual 32, 3) := dk_182 0 32 (dk_at dksX4_isDigit_0 12 rfl rfl)
theorem dX4_isDigit_15 : decode cX4_isDigit 15 = .ok (.bipush 57, 2) := dk_16 57 (dk_at dksX4_isDigit_0 15 rfl rfl)
theorem dX4_isDigit_17 : decode cX4_isDigit 17 = .ok (.if_icmp .gt 7, 3) := dk_163 0 7 (dk_at dksX4_isDigit_0 17 rfl rfl)
theorem dX4_isDigit_20 : decode cX4_isDigit 20 = .ok (.iconst 1, 1) := dk_4 (dk_at dksX4_isDigit_0 20 rfl rfl)
theorem dX4_isDigit_21 : decode cX4_isDigit 21 = .ok (.goto 4, 3) := dk_167 0 4 (dk_at dksX4_isDigit_0 21 rfl rfl)
theorem dX4_isDigit_24 : decode cX4_isDigit 24 = .ok (.iconst 0, 1) := dk_3 (dk_at dksX4_isDigit_1 0 rfl rfl)
theorem dX4_isDigit_25 : decode cX4_isDigit 25 = .ok (.ireturn, 1) := dk_172 (dk_at dksX4_isDigit_1 1 rfl rfl)
abbrev cX4_isLetter : ByteArray := prog_17_method_3_code
def dkwX4_isLetter_1 : List UInt8 := [3, 172]
abbrev dktX4_isLetter_1 : List UInt8 := dkwX4_isLetter_1 ++ []
def dkwX4_isLetter_0 : List UInt8 := [42, 27, 182, 0, 32, 16, 97, 161, 0, 17, 42, 27, 182, 0, 32, 16, 122, 163, 0, 7, 4, 167, 0, 4]
abbrev dktX4_isLetter_0 : List UInt8 := dkwX4_isLetter_0 ++ dktX4_isLetter_1
theorem dksX4_isLetter_0 : cX4_isLetter.data.toList.drop 0 = dktX4_isLetter_0 := by decide +kernel
theorem dksX4_isLetter_1 : cX4_isLetter.data.toList.drop 24 = dktX4_isLetter_1 := dk_seg dksX4_isLetter_0 24 rfl rfl
theorem dX4_isLetter_0 : decode cX4_isLetter 0 = .ok (.aload_n 0, 1) := dk_42 (dk_at dksX4_isLetter_0 0 rfl rfl)
theorem dX4_isLetter_1 : decode cX4_isLetter 1 = .ok (.iload_n 1, 1) := dk_27 (dk_at dksX4_isLetter_0 1 rfl rfl)
theorem dX4_isLetter_2 : decode cX4_isLetter 2 = .ok (.invokevirtual 32, 3) := dk_182 0 32 (dk_at dksX4_isLetter_0 2 rfl rfl)
theorem dX4_isLetter_5 : decode cX4_isLetter 5 = .ok (.bipush 97, 2) := dk_16 97 (dk_at dksX4_isLetter_0 5 rfl rfl)
theorem dX4_isLetter_7 : decode cX4_isLetter 7 = .ok (.if_icmp .lt 17, 3) := dk_161 0 17 (dk_at dksX4_isLetter_0 7 rfl rfl)
theorem dX4_isLetter_10 : decode cX4_isLetter 10 = .ok (.aload_n 0, 1) := dk_42 (dk_at dksX4_isLetter_0 10 rfl rfl)
theorem dX4_isLetter_11 : decode cX4_isLetter 11 = .ok (.iload_n 1, 1) := dk_27 (dk_at dksX4_isLetter_0 11 rfl rfl)
theorem dX4_isLetter_12 : decode cX4_isLetter 12 = .ok (.invokevirtual 32, 3) := dk_182 0 32 (dk_at dksX4_isLetter_0 12 rfl rfl)
theorem dX4_isLetter_15 : decode cX4_isLetter 15 = .ok (.bipush 122, 2) := dk_16 122 (dk_at dksX4_isLetter_0 15 rfl rfl)
theorem dX4_isLetter_17 : decode cX4_isLetter 17 = .ok (.if_icmp .gt 7, 3) := dk_163 0 7 (dk_at dksX4_isLetter_0 17 rfl rfl)
theorem dX4_isLetter_20 : decode cX4_isLetter 20 = .ok (.iconst 1, 1) := dk_4 (dk_at dksX4_isLetter_0 20 rfl rfl)
theorem dX4_isLetter_21 : decode cX4_isLetter 21 = .ok (.goto 4, 3) := dk_167 0 4 (dk_at dksX4_isLetter_0 21 rfl rfl)
theorem dX4_isLetter_24 : decode cX4_isLetter 24 = .ok (.iconst 0, 1) := dk_3 (dk_at dksX4_isLetter_1 0 rfl rfl)
theorem dX4_isLetter_25 : decode cX4_isLetter 25 = .ok (.ireturn, 1) := dk_172 (dk_at dksX4_isLetter_1 1 rfl rfl)
abbrev cX4_is : ByteArray := prog_17_method_7_code
def dkwX4_is_1 : List UInt8 := [172]
abbrev dktX4_is_1 : List UInt8 := dkwX4_is_1 ++ []
def dkwX4_is_0 : List UInt8 := [42, 180, 0, 39, 4, 160, 0, 18, 42, 180, 0, 17, 43, 182, 0, 77, 153, 0, 7, 4, 167, 0, 4, 3]
abbrev dktX4_is_0 : List UInt8 := dkwX4_is_0 ++ dktX4_is_1
theorem dksX4_is_0 : cX4_is.data.toList.drop 0 = dktX4_is_0 := by decide +kernel
theorem dksX4_is_1 : cX4_is.data.toList.drop 24 = dktX4_is_1 := dk_seg dksX4_is_0 24 rfl rfl
theorem dX4_is_0 : decode cX4_is 0 = .ok (.aload_n 0, 1) := dk_42 (dk_at dksX4_is_0 0 rfl rfl)
theorem dX4_is_1 : decode cX4_is 1 = .ok (.getfield 39, 3) := dk_180 0 39 (dk_at dksX4_is_0 1 rfl rfl)
theorem dX4_is_4 : decode cX4_is 4 = .ok (.iconst 1, 1) := dk_4 (dk_at dksX4_is_0 4 rfl rfl)
theorem dX4_is_5 : decode cX4_is 5 = .ok (.if_icmp .ne 18, 3) := dk_160 0 18 (dk_at dksX4_is_0 5 rfl rfl)
theorem dX4_is_8 : decode cX4_is 8 = .ok (.aload_n 0, 1) := dk_42 (dk_at dksX4_is_0 8 rfl rfl)
theorem dX4_is_9 : decode cX4_is 9 = .ok (.getfield 17, 3) := dk_180 0 17 (dk_at dksX4_is_0 9 rfl rfl)
theorem dX4_is_12 : decode cX4_is 12 = .ok (.aload_n 1, 1) := dk_43 (dk_at dksX4_is_0 12 rfl rfl)
theorem dX4_is_13 : decode cX4_is 13 = .ok (.invokevirtual 77, 3) := dk_182 0 77 (dk_at dksX4_is_0 13 rfl rfl)
theorem dX4_is_16 : decode cX4_is 16 = .ok (.ifCond .eq 7, 3) := dk_153 0 7 (dk_at dksX4_is_0 16 rfl rfl)
theorem dX4_is_19 : decode cX4_is 19 = .ok (.iconst 1, 1) := dk_4 (dk_at dksX4_is_0 19 rfl rfl)
theorem dX4_is_20 : decode cX4_is 20 = .ok (.goto 4, 3) := dk_167 0 4 (dk_at dksX4_is_0 20 rfl rfl)
theorem dX4_is_23 : decode cX4_is 23 = .ok (.iconst 0, 1) := dk_3 (dk_at dksX4_is_0 23 rfl rfl)
theorem dX4_is_24 : decode cX4_is 24 = .ok (.ireturn, 1) := dk_172 (dk_at dksX4_is_1 0 rfl rfl)
abbrev cX4_key : ByteArray := prog_17_method_8_code
def dkwX4_key_0 : List UInt8 := [42, 43, 182, 0, 81, 154, 0, 8, 42, 182, 0, 85, 191, 42, 182, 0, 89, 177]
abbrev dktX4_key_0 : List UInt8 := dkwX4_key_0 ++ []
theorem dksX4_key_0 : cX4_key.data.toList.drop 0 = dktX4_key_0 := by decide +kernel
theorem dX4_key_0 : decode cX4_key 0 = .ok (.aload_n 0, 1) := dk_42 (dk_at dksX4_key_0 0 rfl rfl)
theorem dX4_key_1 : decode cX4_key 1 = .ok (.aload_n 1, 1) := dk_43 (dk_at dksX4_key_0 1 rfl rfl)
theorem dX4_key_2 : decode cX4_key 2 = .ok (.invokevirtual 81, 3) := dk_182 0 81 (dk_at dksX4_key_0 2 rfl rfl)
theorem dX4_key_5 : decode cX4_key 5 = .ok (.ifCond .ne 8, 3) := dk_154 0 8 (dk_at dksX4_key_0 5 rfl rfl)
theorem dX4_key_8 : decode cX4_key 8 = .ok (.aload_n 0, 1) := dk_42 (dk_at dksX4_key_0 8 rfl rfl)
theorem dX4_key_9 : decode cX4_key 9 = .ok (.invokevirtual 85, 3) := dk_182 0 85 (dk_at dksX4_key_0 9 rfl rfl)
theorem dX4_key_12 : decode cX4_key 12 = .ok (.athrow, 1) := dk_191 (dk_at dksX4_key_0 12 rfl rfl)
theorem dX4_key_13 : decode cX4_key 13 = .ok (.aload_n 0, 1) := dk_42 (dk_at dksX4_key_0 13 rfl rfl)
theorem dX4_key_14 : decode cX4_key 14 = .ok (.invokevirtual 89, 3) := dk_182 0 89 (dk_at dksX4_key_0 14 rfl rfl)
theorem dX4_key_17 : decode cX4_key 17 = .ok (.return_, 1) := dk_177 (dk_at dksX4_key_0 17 rfl rfl)
abbrev cX4_may : ByteArray := prog_17_method_9_code
def dkwX4_may_0 : List UInt8 := [42, 43, 182, 0, 81, 61, 28, 153, 0, 7, 42, 182, 0, 89, 28, 172]
abbrev dktX4_may_0 : List UInt8 := dkwX4_may_0 ++ []
theorem dksX4_may_0 : cX4_may.data.toList.drop 0 = dktX4_may_0 := by decide +kernel
theorem dX4_may_0 : decode cX4_may 0 = .ok (.aload_n 0, 1) := dk_42 (dk_at dksX4_may_0 0 rfl rfl)
theorem dX4_may_1 : decode cX4_may 1 = .ok (.aload_n 1, 1) := dk_43 (dk_at dksX4_may_0 1 rfl rfl)
theorem dX4_may_2 : decode cX4_may 2 = .ok (.invokevirtual 81, 3) := dk_182 0 81 (dk_at dksX4_may_0 2 rfl rfl)
theorem dX4_may_5 : decode cX4_may 5 = .ok (.istore_n 2, 1) := dk_61 (dk_at dksX4_may_0 5 rfl rfl)
theorem dX4_may_6 : decode cX4_may 6 = .ok (.iload_n 2, 1) := dk_28 (dk_at dksX4_may_0 6 rfl rfl)
theorem dX4_may_7 : decode cX4_may 7 = .ok (.ifCond .eq 7, 3) := dk_153 0 7 (dk_at dksX4_may_0 7 rfl rfl)
theorem dX4_may_10 : decode cX4_may 10 = .ok (.aload_n 0, 1) := dk_42 (dk_at dksX4_may_0 10 rfl rfl)
theorem dX4_may_11 : decode cX4_may 11 = .ok (.invokevirtual 89, 3) := dk_182 0 89 (dk_at dksX4_may_0 11 rfl rfl)
theorem dX4_may_14 : decode cX4_may 14 = .ok (.iload_n 2, 1) := dk_28 (dk_at dksX4_may_0 14 rfl rfl)
theorem dX4_may_15 : decode cX4_may 15 = .ok (.ireturn, 1) := dk_172 (dk_at dksX4_may_0 15 rfl rfl)
abbrev cX4_mustBeName : ByteArray := prog_17_method_12_code
def dkwX4_mustBeName_19 : List UInt8 := [42, 182, 0, 85, 191, 177]
abbrev dktX4_mustBeName_19 : List UInt8 := dkwX4_mustBeName_19 ++ []
def dkwX4_mustBeName_18 : List UInt8 := [170, 0, 0, 0, 0, 0, 112, 0, 0, 0, 0, 0, 0, 0, 22, 0, 0, 0, 107, 0, 0, 0, 107, 0, 0, 0, 107, 0, 0, 0, 107, 0, 0, 0, 107, 0, 0, 0, 107, 0, 0, 0, 107, 0, 0, 0, 107, 0, 0, 0, 107, 0, 0, 0, 107, 0, 0, 0, 107, 0, 0, 0, 107, 0, 0, 0, 107, 0, 0, 0, 107, 0, 0, 0, 107, 0, 0, 0, 107, 0, 0, 0, 107, 0, 0, 0, 107, 0, 0, 0, 107, 0, 0, 0, 107, 0, 0, 0, 107, 0, 0, 0, 107, 0, 0, 0, 107]
abbrev dktX4_mustBeName_18 : List UInt8 := dkwX4_mustBeName_18 ++ dktX4_mustBeName_19
def dkwX4_mustBeName_17 : List UInt8 := [16, 22, 61, 28]
abbrev dktX4_mustBeName_17 : List UInt8 := dkwX4_mustBeName_17 ++ dktX4_mustBeName_18
def dkwX4_mustBeName_16 : List UInt8 := [43, 18, 144, 182, 0, 77, 153, 0, 21, 16, 21, 61, 167, 0, 15, 43, 18, 146, 182, 0, 77, 153, 0, 6]
abbrev dktX4_mustBeName_16 : List UInt8 := dkwX4_mustBeName_16 ++ dktX4_mustBeName_17
def dkwX4_mustBeName_15 : List UInt8 := [153, 0, 51, 16, 19, 61, 167, 0, 45, 43, 18, 142, 182, 0, 77, 153, 0, 36, 16, 20, 61, 167, 0, 30]
abbrev dktX4_mustBeName_15 : List UInt8 := dkwX4_mustBeName_15 ++ dktX4_mustBeName_16
def dkwX4_mustBeName_14 : List UInt8 := [167, 0, 75, 43, 18, 138, 182, 0, 77, 153, 0, 66, 16, 18, 61, 167, 0, 60, 43, 18, 140, 182, 0, 77]
abbrev dktX4_mustBeName_14 : List UInt8 := dkwX4_mustBeName_14 ++ dktX4_mustBeName_15
def dkwX4_mustBeName_13 : List UInt8 := [182, 0, 77, 153, 0, 96, 16, 16, 61, 167, 0, 90, 43, 18, 136, 182, 0, 77, 153, 0, 81, 16, 17, 61]
abbrev dktX4_mustBeName_13 : List UInt8 := dkwX4_mustBeName_13 ++ dktX4_mustBeName_14
def dkwX4_mustBeName_12 : List UInt8 := [16, 14, 61, 167, 0, 120, 43, 18, 132, 182, 0, 77, 153, 0, 111, 16, 15, 61, 167, 0, 105, 43, 18, 134]
abbrev dktX4_mustBeName_12 : List UInt8 := dkwX4_mustBeName_12 ++ dktX4_mustBeName_13
def dkwX4_mustBeName_11 : List UInt8 := [43, 18, 128, 182, 0, 77, 153, 0, 141, 16, 13, 61, 167, 0, 135, 43, 18, 130, 182, 0, 77, 153, 0, 126]
abbrev dktX4_mustBeName_11 : List UInt8 := dkwX4_mustBeName_11 ++ dktX4_mustBeName_12
def dkwX4_mustBeName_10 : List UInt8 := [153, 0, 171, 16, 11, 61, 167, 0, 165, 43, 18, 127, 182, 0, 77, 153, 0, 156, 16, 12, 61, 167, 0, 150]
abbrev dktX4_mustBeName_10 : List UInt8 := dkwX4_mustBeName_10 ++ dktX4_mustBeName_11
def dkwX4_mustBeName_9 : List UInt8 := [167, 0, 195, 43, 18, 123, 182, 0, 77, 153, 0, 186, 16, 10, 61, 167, 0, 180, 43, 18, 125, 182, 0, 77]
abbrev dktX4_mustBeName_9 : List UInt8 := dkwX4_mustBeName_9 ++ dktX4_mustBeName_10
def dkwX4_mustBeName_8 : List UInt8 := [182, 0, 77, 153, 0, 216, 16, 8, 61, 167, 0, 210, 43, 18, 121, 182, 0, 77, 153, 0, 201, 16, 9, 61]
abbrev dktX4_mustBeName_8 : List UInt8 := dkwX4_mustBeName_8 ++ dktX4_mustBeName_9
def dkwX4_mustBeName_7 : List UInt8 := [61, 167, 0, 240, 43, 18, 117, 182, 0, 77, 153, 0, 231, 16, 7, 61, 167, 0, 225, 43, 18, 119]
abbrev dktX4_mustBeName_7 : List UInt8 := dkwX4_mustBeName_7 ++ dktX4_mustBeName_8
def dkwX4_mustBeName_6 : List UInt8 := [18, 113, 182, 0, 77, 153, 1, 4, 8, 61, 167, 0, 255, 43, 18, 115, 182, 0, 77, 153, 0, 246, 16, 6]
abbrev dktX4_mustBeName_6 : List UInt8 := dkwX4_mustBeName_6 ++ dktX4_mustBeName_7
def dkwX4_mustBeName_5 : List UInt8 := [153, 1, 32, 6, 61, 167, 1, 27, 43, 18, 111, 182, 0, 77, 153, 1, 18, 7, 61, 167, 1, 13, 43]
abbrev dktX4_mustBeName_5 : List UInt8 := dkwX4_mustBeName_5 ++ dktX4_mustBeName_6
def dkwX4_mustBeName_4 : List UInt8 := [61, 167, 1, 55, 43, 18, 107, 182, 0, 77, 153, 1, 46, 5, 61, 167, 1, 41, 43, 18, 109, 182, 0, 77]
abbrev dktX4_mustBeName_4 : List UInt8 := dkwX4_mustBeName_4 ++ dktX4_mustBeName_5
def dkwX4_mustBeName_3 : List UInt8 := [43, 18, 103, 182, 0, 77, 153, 1, 74, 3, 61, 167, 1, 69, 43, 18, 105, 182, 0, 77, 153, 1, 60, 4]
abbrev dktX4_mustBeName_3 : List UInt8 := dkwX4_mustBeName_3 ++ dktX4_mustBeName_4
def dkwX4_mustBeName_2 : List UInt8 := [171, 0, 0, 0, 2, 18, 0, 0, 0, 23, 0, 0, 12, 51, 0, 0, 1, 112, 0, 0, 12, 87, 0, 0, 0, 208, 0, 0, 12, 106, 0, 0, 0, 236, 0, 0, 13, 227, 0, 0, 1, 247, 0, 1, 121, 215, 0, 0, 1, 232, 0, 1, 140, 115, 0, 0, 1, 187, 0, 1, 142, 214, 0, 0, 1, 52, 0, 1, 170, 211, 0, 0, 2, 6, 0, 1, 185, 218, 0, 0, 1, 142, 0, 49, 100, 74, 0, 0, 0, 250, 0, 49, 221, 42, 0, 0, 1, 37, 0, 50, 43, 133, 0, 0, 1, 202, 0, 50, 198, 124, 0, 0, 0, 222, 0, 52, 99, 243, 0, 0, 0, 194, 0, 54, 52, 234, 0, 0, 1, 97, 0, 55, 171, 58, 0, 0, 1, 217, 5, 135, 5, 220, 0, 0, 1, 82, 5, 167, 74, 70, 0, 0, 1, 22, 5, 224, 246, 192, 0, 0, 1, 8, 5, 237, 163, 148, 0, 0, 1, 127, 6, 33, 78, 183, 0, 0, 1, 172, 6, 52, 62, 194, 0, 0, 1, 67, 6, 133, 79, 223, 0, 0, 1, 157]
abbrev dktX4_mustBeName_2 : List UInt8 := dkwX4_mustBeName_2 ++ dktX4_mustBeName_3
def dkwX4_mustBeName_1 : List UInt8 := [180, 0, 17, 76, 2, 61, 43, 182, 0, 99]
abbrev dktX4_mustBeName_1 : List UInt8 := dkwX4_mustBeName_1 ++ dktX4_mustBeName_2
def dkwX4_mustBeName_0 : List UInt8 := [42, 180, 0, 39, 4, 160, 0, 13, 42, 180, 0, 17, 184, 0, 95, 155, 0, 8, 42, 182, 0, 85, 191, 42]
abbrev dktX4_mustBeName_0 : List UInt8 := dkwX4_mustBeName_0 ++ dktX4_mustBeName_1
theorem dksX4_mustBeName_0 : cX4_mustBeName.data.toList.drop 0 = dktX4_mustBeName_0 := by decide +kernel
theorem dksX4_mustBeName_1 : cX4_mustBeName.data.toList.drop 24 = dktX4_mustBeName_1 := dk_seg dksX4_mustBeName_0 24 rfl rfl
theorem dksX4_mustBeName_2 : cX4_mustBeName.data.toList.drop 34 = dktX4_mustBeName_2 := dk_seg dksX4_mustBeName_1 10 rfl rfl
theorem dksX4_mustBeName_3 : cX4_mustBeName.data.toList.drop 228 = dktX4_mustBeName_3 := dk_seg dksX4_mustBeName_2 194 rfl rfl
theorem dksX4_mustBeName_4 : cX4_mustBeName.data.toList.drop 252 = dktX4_mustBeName_4 := dk_seg dksX4_mustBeName_3 24 rfl rfl
theorem dksX4_mustBeName_5 : cX4_mustBeName.data.toList.drop 276 = dktX4_mustBeName_5 := dk_seg dksX4_mustBeName_4 24 rfl rfl
theorem dksX4_mustBeName_6 : cX4_mustBeName.data.toList.drop 299 = dktX4_mustBeName_6 := dk_seg dksX4_mustBeName_5 23 rfl rfl
theorem dksX4_mustBeName_7 : cX4_mustBeName.data.toList.drop 323 = dktX4_mustBeName_7 := dk_seg dksX4_mustBeName_6 24 rfl rfl
theorem dksX4_mustBeName_8 : cX4_mustBeName.data.toList.drop 345 = dktX4_mustBeName_8 := dk_seg dksX4_mustBeName_7 22 rfl rfl
theorem dksX4_mustBeName_9 : cX4_mustBeName.data.toList.drop 369 = dktX4_mustBeName_9 := dk_seg dksX4_mustBeName_8 24 rfl rfl
theorem dksX4_mustBeName_10 : cX4_mustBeName.data.toList.drop 393 = dktX4_mustBeName_10 := dk_seg dksX4_mustBeName_9 24 rfl rfl
theorem dksX4_mustBeName_11 : cX4_mustBeName.data.toList.drop 417 = dktX4_mustBeName_11 := dk_seg dksX4_mustBeName_10 24 rfl rfl
theorem dksX4_mustBeName_12 : cX4_mustBeName.data.toList.drop 441 = dktX4_mustBeName_12 := dk_seg dksX4_mustBeName_11 24 rfl rfl
theorem dksX4_mustBeName_13 : cX4_mustBeName.data.toList.drop 465 = dktX4_mustBeName_13 := dk_seg dksX4_mustBeName_12 24 rfl rfl
theorem dksX4_mustBeName_14 : cX4_mustBeName.data.toList.drop 489 = dktX4_mustBeName_14 := dk_seg dksX4_mustBeName_13 24 rfl rfl
theorem dksX4_mustBeName_15 : cX4_mustBeName.data.toList.drop 513 = dktX4_mustBeName_15 := dk_seg dksX4_mustBeName_14 24 rfl rfl
theorem dksX4_mustBeName_16 : cX4_mustBeName.data.toList.drop 537 = dktX4_mustBeName_16 := dk_seg dksX4_mustBeName_15 24 rfl rfl
theorem dksX4_mustBeName_17 : cX4_mustBeName.data.toList.drop 561 = dktX4_mustBeName_17 := dk_seg dksX4_mustBeName_16 24 rfl rfl
theorem dksX4_mustBeName_18 : cX4_mustBeName.data.toList.drop 565 = dktX4_mustBeName_18 := dk_seg dksX4_mustBeName_17 4 rfl rfl
theorem dksX4_mustBeName_19 : cX4_mustBeName.data.toList.drop 672 = dktX4_mustBeName_19 := dk_seg dksX4_mustBeName_18 107 rfl rfl
theorem dX4_mustBeName_0 : decode cX4_mustBeName 0 = .ok (.aload_n 0, 1) := dk_42 (dk_at dksX4_mustBeName_0 0 rfl rfl)
theorem dX4_mustBeName_1 : decode cX4_mustBeName 1 = .ok (.getfield 39, 3) := dk_180 0 39 (dk_at dksX4_mustBeName_0 1 rfl rfl)
theorem dX4_mustBeName_4 : decode cX4_mustBeName 4 = .ok (.iconst 1, 1) := dk_4 (dk_at dksX4_mustBeName_0 4 rfl rfl)
theorem dX4_mustBeName_5 : decode cX4_mustBeName 5 = .ok (.if_icmp .ne 13, 3) := dk_160 0 13 (dk_at dksX4_mustBeName_0 5 rfl rfl)
theorem dX4_mustBeName_8 : decode cX4_mustBeName 8 = .ok (.aload_n 0, 1) := dk_42 (dk_at dksX4_mustBeName_0 8 rfl rfl)
theorem dX4_mustBeName_9 : decode cX4_mustBeName 9 = .ok (.getfield 17, 3) := dk_180 0 17 (dk_at dksX4_mustBeName_0 9 rfl rfl)
theorem dX4_mustBeName_12 : decode cX4_mustBeName 12 = .ok (.invokestatic 95, 3) := dk_184 0 95 (dk_at dksX4_mustBeName_0 12 rfl rfl)
theorem dX4_mustBeName_15 : decode cX4_mustBeName 15 = .ok (.ifCond .lt 8, 3) := dk_155 0 8 (dk_at dksX4_mustBeName_0 15 rfl rfl)
theorem dX4_mustBeName_18 : decode cX4_mustBeName 18 = .ok (.aload_n 0, 1) := dk_42 (dk_at dksX4_mustBeName_0 18 rfl rfl)
theorem dX4_mustBeName_19 : decode cX4_mustBeName 19 = .ok (.invokevirtual 85, 3) := dk_182 0 85 (dk_at dksX4_mustBeName_0 19 rfl rfl)
theorem dX4_mustBeName_22 : decode cX4_mustBeName 22 = .ok (.athrow, 1) := dk_191 (dk_at dksX4_mustBeName_0 22 rfl rfl)
theorem dX4_mustBeName_23 : decode cX4_mustBeName 23 = .ok (.aload_n 0, 1) := dk_42 (dk_at dksX4_mustBeName_0 23 rfl rfl)
theorem dX4_mustBeName_24 : decode cX4_mustBeName 24 = .ok (.getfield 17, 3) := dk_180 0 17 (dk_at dksX4_mustBeName_1 0 rfl rfl)
theorem dX4_mustBeName_27 : decode cX4_mustBeName 27 = .ok (.astore_n 1, 1) := dk_76 (dk_at dksX4_mustBeName_1 3 rfl rfl)
theorem dX4_mustBeName_28 : decode cX4_mustBeName 28 = .ok (.iconst (-1), 1) := dk_2 (dk_at dksX4_mustBeName_1 4 rfl rfl)
theorem dX4_mustBeName_29 : decode cX4_mustBeName 29 = .ok (.istore_n 2, 1) := dk_61 (dk_at dksX4_mustBeName_1 5 rfl rfl)
theorem dX4_mustBeName_30 : decode cX4_mustBeName 30 = .ok (.aload_n 1, 1) := dk_43 (dk_at dksX4_mustBeName_1 6 rfl rfl)
theorem dX4_mustBeName_31 : decode cX4_mustBeName 31 = .ok (.invokevirtual 99, 3) := dk_182 0 99 (dk_at dksX4_mustBeName_1 7 rfl rfl)
theorem dX4_mustBeName_34 : decode cX4_mustBeName 34 = .ok (.lookupswitch 530 #[(3123, 368), (3159, 208), (3178, 236), (3555, 503), (96727, 488), (101491, 443), (102102, 308), (109267, 518), (113114, 398), (3236938, 250), (3267882, 293), (3287941, 458), (3327612, 222), (3433459, 194), (3552490, 353), (3648314, 473), (92734940, 338), (94849606, 278), (98629312, 264), (99459988, 383), (102846135, 428), (104087234, 323), (109400031, 413)], 194) := by decide +kernel
theorem dX4_mustBeName_228 : decode cX4_mustBeName 228 = .ok (.aload_n 1, 1) := dk_43 (dk_at dksX4_mustBeName_3 0 rfl rfl)
theorem dX4_mustBeName_229 : decode cX4_mustBeName 229 = .ok (.ldc 103, 2) := dk_18 103 (dk_at dksX4_mustBeName_3 1 rfl rfl)
theorem dX4_mustBeName_231 : decode cX4_mustBeName 231 = .ok (.invokevirtual 77, 3) := dk_182 0 77 (dk_at dksX4_mustBeName_3 3 rfl rfl)
theorem dX4_mustBeName_234 : decode cX4_mustBeName 234 = .ok (.ifCond .eq 330, 3) := dk_153 1 74 (dk_at dksX4_mustBeName_3 6 rfl rfl)
theorem dX4_mustBeName_237 : decode cX4_mustBeName 237 = .ok (.iconst 0, 1) := dk_3 (dk_at dksX4_mustBeName_3 9 rfl rfl)
theorem dX4_mustBeName_238 : decode cX4_mustBeName 238 = .ok (.istore_n 2, 1) := dk_61 (dk_at dksX4_mustBeName_3 10 rfl rfl)
theorem dX4_mustBeName_239 : decode cX4_mustBeName 239 = .ok (.goto 325, 3) := dk_167 1 69 (dk_at dksX4_mustBeName_3 11 rfl rfl)
theorem dX4_mustBeName_242 : decode cX4_mustBeName 242 = .ok (.aload_n 1, 1) := dk_43 (dk_at dksX4_mustBeName_3 14 rfl rfl)
theorem dX4_mustBeName_243 : decode cX4_mustBeName 243 = .ok (.ldc 105, 2) := dk_18 105 (dk_at dksX4_mustBeName_3 15 rfl rfl)
theorem dX4_mustBeName_245 : decode cX4_mustBeName 245 = .ok (.invokevirtual 77, 3) := dk_182 0 77 (dk_at dksX4_mustBeName_3 17 rfl rfl)
theorem dX4_mustBeName_248 : decode cX4_mustBeName 248 = .ok (.ifCond .eq 316, 3) := dk_153 1 60 (dk_at dksX4_mustBeName_3 20 rfl rfl)
theorem dX4_mustBeName_251 : decode cX4_mustBeName 251 = .ok (.iconst 1, 1) := dk_4 (dk_at dksX4_mustBeName_3 23 rfl rfl)
theorem dX4_mustBeName_252 : decode cX4_mustBeName 252 = .ok (.istore_n 2, 1) := dk_61 (dk_at dksX4_mustBeName_4 0 rfl rfl)
theorem dX4_mustBeName_253 : decode cX4_mustBeName 253 = .ok (.goto 311, 3) := dk_167 1 55 (dk_at dksX4_mustBeName_4 1 rfl rfl)
theorem dX4_mustBeName_256 : decode cX4_mustBeName 256 = .ok (.aload_n 1, 1) := dk_43 (dk_at dksX4_mustBeName_4 4 rfl rfl)
theorem dX4_mustBeName_257 : decode cX4_mustBeName 257 = .ok (.ldc 107, 2) := dk_18 107 (dk_at dksX4_mustBeName_4 5 rfl rfl)
theorem dX4_mustBeName_259 : decode cX4_mustBeName 259 = .ok (.invokevirtual 77, 3) := dk_182 0 77 (dk_at dksX4_mustBeName_4 7 rfl rfl)
theorem dX4_mustBeName_262 : decode cX4_mustBeName 262 = .ok (.ifCond .eq 302, 3) := dk_153 1 46 (dk_at dksX4_mustBeName_4 10 rfl rfl)
theorem dX4_mustBeName_265 : decode cX4_mustBeName 265 = .ok (.iconst 2, 1) := dk_5 (dk_at dksX4_mustBeName_4 13 rfl rfl)
theorem dX4_mustBeName_266 : decode cX4_mustBeName 266 = .ok (.istore_n 2, 1) := dk_61 (dk_at dksX4_mustBeName_4 14 rfl rfl)
theorem dX4_mustBeName_267 : decode cX4_mustBeName 267 = .ok (.goto 297, 3) := dk_167 1 41 (dk_at dksX4_mustBeName_4 15 rfl rfl)
theorem dX4_mustBeName_270 : decode cX4_mustBeName 270 = .ok (.aload_n 1, 1) := dk_43 (dk_at dksX4_mustBeName_4 18 rfl rfl)
theorem dX4_mustBeName_271 : decode cX4_mustBeName 271 = .ok (.ldc 109, 2) := dk_18 109 (dk_at dksX4_mustBeName_4 19 rfl rfl)
theorem dX4_mustBeName_273 : decode cX4_mustBeName 273 = .ok (.invokevirtual 77, 3) := dk_182 0 77 (dk_at dksX4_mustBeName_4 21 rfl rfl)
theorem dX4_mustBeName_276 : decode cX4_mustBeName 276 = .ok (.ifCond .eq 288, 3) := dk_153 1 32 (dk_at dksX4_mustBeName_5 0 rfl rfl)
theorem dX4_mustBeName_279 : decode cX4_mustBeName 279 = .ok (.iconst 3, 1) := dk_6 (dk_at dksX4_mustBeName_5 3 rfl rfl)
theorem dX4_mustBeName_280 : decode cX4_mustBeName 280 = .ok (.istore_n 2, 1) := dk_61 (dk_at dksX4_mustBeName_5 4 rfl rfl)
theorem dX4_mustBeName_281 : decode cX4_mustBeName 281 = .ok (.goto 283, 3) := dk_167 1 27 (dk_at dksX4_mustBeName_5 5 rfl rfl)
theorem dX4_mustBeName_284 : decode cX4_mustBeName 284 = .ok (.aload_n 1, 1) := dk_43 (dk_at dksX4_mustBeName_5 8 rfl rfl)
theorem dX4_mustBeName_285 : decode cX4_mustBeName 285 = .ok (.ldc 111, 2) := dk_18 111 (dk_at dksX4_mustBeName_5 9 rfl rfl)
theorem dX4_mustBeName_287 : decode cX4_mustBeName 287 = .ok (.invokevirtual 77, 3) := dk_182 0 77 (dk_at dksX4_mustBeName_5 11 rfl rfl)
theorem dX4_mustBeName_290 : decode cX4_mustBeName 290 = .ok (.ifCond .eq 274, 3) := dk_153 1 18 (dk_at dksX4_mustBeName_5 14 rfl rfl)
theorem dX4_mustBeName_293 : decode cX4_mustBeName 293 = .ok (.iconst 4, 1) := dk_7 (dk_at dksX4_mustBeName_5 17 rfl rfl)
theorem dX4_mustBeName_294 : decode cX4_mustBeName 294 = .ok (.istore_n 2, 1) := dk_61 (dk_at dksX4_mustBeName_5 18 rfl rfl)
theorem dX4_mustBeName_295 : decode cX4_mustBeName 295 = .ok (.goto 269, 3) := dk_167 1 13 (dk_at dksX4_mustBeName_5 19 rfl rfl)
theorem dX4_mustBeName_298 : decode cX4_mustBeName 298 = .ok (.aload_n 1, 1) := dk_43 (dk_at dksX4_mustBeName_5 22 rfl rfl)
theorem dX4_mustBeName_299 : decode cX4_mustBeName 299 = .ok (.ldc 113, 2) := dk_18 113 (dk_at dksX4_mustBeName_6 0 rfl rfl)
theorem dX4_mustBeName_301 : decode cX4_mustBeName 301 = .ok (.invokevirtual 77, 3) := dk_182 0 77 (dk_at dksX4_mustBeName_6 2 rfl rfl)
theorem dX4_mustBeName_304 : decode cX4_mustBeName 304 = .ok (.ifCond .eq 260, 3) := dk_153 1 4 (dk_at dksX4_mustBeName_6 5 rfl rfl)
theorem dX4_mustBeName_307 : decode cX4_mustBeName 307 = .ok (.iconst 5, 1) := dk_8 (dk_at dksX4_mustBeName_6 8 rfl rfl)
theorem dX4_mustBeName_308 : decode cX4_mustBeName 308 = .ok (.istore_n 2, 1) := dk_61 (dk_at dksX4_mustBeName_6 9 rfl rfl)
theorem dX4_mustBeName_309 : decode cX4_mustBeName 309 = .ok (.goto 255, 3) := dk_167 0 255 (dk_at dksX4_mustBeName_6 10 rfl rfl)
theorem dX4_mustBeName_312 : decode cX4_mustBeName 312 = .ok (.aload_n 1, 1) := dk_43 (dk_at dksX4_mustBeName_6 13 rfl rfl)
theorem dX4_mustBeName_313 : decode cX4_mustBeName 313 = .ok (.ldc 115, 2) := dk_18 115 (dk_at dksX4_mustBeName_6 14 rfl rfl)
theorem dX4_mustBeName_315 : decode cX4_mustBeName 315 = .ok (.invokevirtual 77, 3) := dk_182 0 77 (dk_at dksX4_mustBeName_6 16 rfl rfl)
theorem dX4_mustBeName_318 : decode cX4_mustBeName 318 = .ok (.ifCond .eq 246, 3) := dk_153 0 246 (dk_at dksX4_mustBeName_6 19 rfl rfl)
theorem dX4_mustBeName_321 : decode cX4_mustBeName 321 = .ok (.bipush 6, 2) := dk_16 6 (dk_at dksX4_mustBeName_6 22 rfl rfl)
theorem dX4_mustBeName_323 : decode cX4_mustBeName 323 = .ok (.istore_n 2, 1) := dk_61 (dk_at dksX4_mustBeName_7 0 rfl rfl)
theorem dX4_mustBeName_324 : decode cX4_mustBeName 324 = .ok (.goto 240, 3) := dk_167 0 240 (dk_at dksX4_mustBeName_7 1 rfl rfl)
theorem dX4_mustBeName_327 : decode cX4_mustBeName 327 = .ok (.aload_n 1, 1) := dk_43 (dk_at dksX4_mustBeName_7 4 rfl rfl)
theorem dX4_mustBeName_328 : decode cX4_mustBeName 328 = .ok (.ldc 117, 2) := dk_18 117 (dk_at dksX4_mustBeName_7 5 rfl rfl)
theorem dX4_mustBeName_330 : decode cX4_mustBeName 330 = .ok (.invokevirtual 77, 3) := dk_182 0 77 (dk_at dksX4_mustBeName_7 7 rfl rfl)
theorem dX4_mustBeName_333 : decode cX4_mustBeName 333 = .ok (.ifCond .eq 231, 3) := dk_153 0 231 (dk_at dksX4_mustBeName_7 10 rfl rfl)
theorem dX4_mustBeName_336 : decode cX4_mustBeName 336 = .ok (.bipush 7, 2) := dk_16 7 (dk_at dksX4_mustBeName_7 13 rfl rfl)
theorem dX4_mustBeName_338 : decode cX4_mustBeName 338 = .ok (.istore_n 2, 1) := dk_61 (dk_at dksX4_mustBeName_7 15 rfl rfl)
theorem dX4_mustBeName_339 : decode cX4_mustBeName 339 = .ok (.goto 225, 3) := dk_167 0 225 (dk_at dksX4_mustBeName_7 16 rfl rfl)
theorem dX4_mustBeName_342 : decode cX4_mustBeName 342 = .ok (.aload_n 1, 1) := dk_43 (dk_at dksX4_mustBeName_7 19 rfl rfl)
theorem dX4_mustBeName_343 : decode cX4_mustBeName 343 = .ok (.ldc 119, 2) := dk_18 119 (dk_at dksX4_mustBeName_7 20 rfl rfl)
theorem dX4_mustBeName_345 : decode cX4_mustBeName 345 = .ok (.invokevirtual 77, 3) := dk_182 0 77 (dk_at dksX4_mustBeName_8 0 rfl rfl)
theorem dX4_mustBeName_348 : decode cX4_mustBeName 348 = .ok (.ifCond .eq 216, 3) := dk_153 0 216 (dk_at dksX4_mustBeName_8 3 rfl rfl)
theorem dX4_mustBeName_351 : decode cX4_mustBeName 351 = .ok (.bipush 8, 2) := dk_16 8 (dk_at dksX4_mustBeName_8 6 rfl rfl)
theorem dX4_mustBeName_353 : decode cX4_mustBeName 353 = .ok (.istore_n 2, 1) := dk_61 (dk_at dksX4_mustBeName_8 8 rfl rfl)
theorem dX4_mustBeName_354 : decode cX4_mustBeName 354 = .ok (.goto 210, 3) := dk_167 0 210 (dk_at dksX4_mustBeName_8 9 rfl rfl)
theorem dX4_mustBeName_357 : decode cX4_mustBeName 357 = .ok (.aload_n 1, 1) := dk_43 (dk_at dksX4_mustBeName_8 12 rfl rfl)
theorem dX4_mustBeName_358 : decode cX4_mustBeName 358 = .ok (.ldc 121, 2) := dk_18 121 (dk_at dksX4_mustBeName_8 13 rfl rfl)
theorem dX4_mustBeName_360 : decode cX4_mustBeName 360 = .ok (.invokevirtual 77, 3) := dk_182 0 77 (dk_at dksX4_mustBeName_8 15 rfl rfl)
theorem dX4_mustBeName_363 : decode cX4_mustBeName 363 = .ok (.ifCond .eq 201, 3) := dk_153 0 201 (dk_at dksX4_mustBeName_8 18 rfl rfl)
theorem dX4_mustBeName_366 : decode cX4_mustBeName 366 = .ok (.bipush 9, 2) := dk_16 9 (dk_at dksX4_mustBeName_8 21 rfl rfl)
theorem dX4_mustBeName_368 : decode cX4_mustBeName 368 = .ok (.istore_n 2, 1) := dk_61 (dk_at dksX4_mustBeName_8 23 rfl rfl)
theorem dX4_mustBeName_369 : decode cX4_mustBeName 369 = .ok (.goto 195, 3) := dk_167 0 195 (dk_at dksX4_mustBeName_9 0 rfl rfl)
theorem dX4_mustBeName_372 : decode cX4_mustBeName 372 = .ok (.aload_n 1, 1) := dk_43 (dk_at dksX4_mustBeName_9 3 rfl rfl)
theorem dX4_mustBeName_373 : decode cX4_mustBeName 373 = .ok (.ldc 123, 2) := dk_18 123 (dk_at dksX4_mustBeName_9 4 rfl rfl)
theorem dX4_mustBeName_375 : decode cX4_mustBeName 375 = .ok (.invokevirtual 77, 3) := dk_182 0 77 (dk_at dksX4_mustBeName_9 6 rfl rfl)
theorem dX4_mustBeName_378 : decode cX4_mustBeName 378 = .ok (.ifCond .eq 186, 3) := dk_153 0 186 (dk_at dksX4_mustBeName_9 9 rfl rfl)
theorem dX4_mustBeName_381 : decode cX4_mustBeName 381 = .ok (.bipush 10, 2) := dk_16 10 (dk_at dksX4_mustBeName_9 12 rfl rfl)
theorem dX4_mustBeName_383 : decode cX4_mustBeName 383 = .ok (.istore_n 2, 1) := dk_61 (dk_at dksX4_mustBeName_9 14 rfl rfl)
theorem dX4_mustBeName_384 : decode cX4_mustBeName 384 = .ok (.goto 180, 3) := dk_167 0 180 (dk_at dksX4_mustBeName_9 15 rfl rfl)
theorem dX4_mustBeName_387 : decode cX4_mustBeName 387 = .ok (.aload_n 1, 1) := dk_43 (dk_at dksX4_mustBeName_9 18 rfl rfl)
theorem dX4_mustBeName_388 : decode cX4_mustBeName 388 = .ok (.ldc 125, 2) := dk_18 125 (dk_at dksX4_mustBeName_9 19 rfl rfl)
theorem dX4_mustBeName_390 : decode cX4_mustBeName 390 = .ok (.invokevirtual 77, 3) := dk_182 0 77 (dk_at dksX4_mustBeName_9 21 rfl rfl)
theorem dX4_mustBeName_393 : decode cX4_mustBeName 393 = .ok (.ifCond .eq 171, 3) := dk_153 0 171 (dk_at dksX4_mustBeName_10 0 rfl rfl)
theorem dX4_mustBeName_396 : decode cX4_mustBeName 396 = .ok (.bipush 11, 2) := dk_16 11 (dk_at dksX4_mustBeName_10 3 rfl rfl)
theorem dX4_mustBeName_398 : decode cX4_mustBeName 398 = .ok (.istore_n 2, 1) := dk_61 (dk_at dksX4_mustBeName_10 5 rfl rfl)
theorem dX4_mustBeName_399 : decode cX4_mustBeName 399 = .ok (.goto 165, 3) := dk_167 0 165 (dk_at dksX4_mustBeName_10 6 rfl rfl)
theorem dX4_mustBeName_402 : decode cX4_mustBeName 402 = .ok (.aload_n 1, 1) := dk_43 (dk_at dksX4_mustBeName_10 9 rfl rfl)
theorem dX4_mustBeName_403 : decode cX4_mustBeName 403 = .ok (.ldc 127, 2) := dk_18 127 (dk_at dksX4_mustBeName_10 10 rfl rfl)
theorem dX4_mustBeName_405 : decode cX4_mustBeName 405 = .ok (.invokevirtual 77, 3) := dk_182 0 77 (dk_at dksX4_mustBeName_10 12 rfl rfl)
theorem dX4_mustBeName_408 : decode cX4_mustBeName 408 = .ok (.ifCond .eq 156, 3) := dk_153 0 156 (dk_at dksX4_mustBeName_10 15 rfl rfl)
theorem dX4_mustBeName_411 : decode cX4_mustBeName 411 = .ok (.bipush 12, 2) := dk_16 12 (dk_at dksX4_mustBeName_10 18 rfl rfl)
theorem dX4_mustBeName_413 : decode cX4_mustBeName 413 = .ok (.istore_n 2, 1) := dk_61 (dk_at dksX4_mustBeName_10 20 rfl rfl)
theorem dX4_mustBeName_414 : decode cX4_mustBeName 414 = .ok (.goto 150, 3) := dk_167 0 150 (dk_at dksX4_mustBeName_10 21 rfl rfl)
theorem dX4_mustBeName_417 : decode cX4_mustBeName 417 = .ok (.aload_n 1, 1) := dk_43 (dk_at dksX4_mustBeName_11 0 rfl rfl)
theorem dX4_mustBeName_418 : decode cX4_mustBeName 418 = .ok (.ldc 128, 2) := dk_18 128 (dk_at dksX4_mustBeName_11 1 rfl rfl)
theorem dX4_mustBeName_420 : decode cX4_mustBeName 420 = .ok (.invokevirtual 77, 3) := dk_182 0 77 (dk_at dksX4_mustBeName_11 3 rfl rfl)
theorem dX4_mustBeName_423 : decode cX4_mustBeName 423 = .ok (.ifCond .eq 141, 3) := dk_153 0 141 (dk_at dksX4_mustBeName_11 6 rfl rfl)
theorem dX4_mustBeName_426 : decode cX4_mustBeName 426 = .ok (.bipush 13, 2) := dk_16 13 (dk_at dksX4_mustBeName_11 9 rfl rfl)
theorem dX4_mustBeName_428 : decode cX4_mustBeName 428 = .ok (.istore_n 2, 1) := dk_61 (dk_at dksX4_mustBeName_11 11 rfl rfl)
theorem dX4_mustBeName_429 : decode cX4_mustBeName 429 = .ok (.goto 135, 3) := dk_167 0 135 (dk_at dksX4_mustBeName_11 12 rfl rfl)
theorem dX4_mustBeName_432 : decode cX4_mustBeName 432 = .ok (.aload_n 1, 1) := dk_43 (dk_at dksX4_mustBeName_11 15 rfl rfl)
theorem dX4_mustBeName_433 : decode cX4_mustBeName 433 = .ok (.ldc 130, 2) := dk_18 130 (dk_at dksX4_mustBeName_11 16 rfl rfl)
theorem dX4_mustBeName_435 : decode cX4_mustBeName 435 = .ok (.invokevirtual 77, 3) := dk_182 0 77 (dk_at dksX4_mustBeName_11 18 rfl rfl)
theorem dX4_mustBeName_438 : decode cX4_mustBeName 438 = .ok (.ifCond .eq 126, 3) := dk_153 0 126 (dk_at dksX4_mustBeName_11 21 rfl rfl)
theorem dX4_mustBeName_441 : decode cX4_mustBeName 441 = .ok (.bipush 14, 2) := dk_16 14 (dk_at dksX4_mustBeName_12 0 rfl rfl)
theorem dX4_mustBeName_443 : decode cX4_mustBeName 443 = .ok (.istore_n 2, 1) := dk_61 (dk_at dksX4_mustBeName_12 2 rfl rfl)
theorem dX4_mustBeName_444 : decode cX4_mustBeName 444 = .ok (.goto 120, 3) := dk_167 0 120 (dk_at dksX4_mustBeName_12 3 rfl rfl)
theorem dX4_mustBeName_447 : decode cX4_mustBeName 447 = .ok (.aload_n 1, 1) := dk_43 (dk_at dksX4_mustBeName_12 6 rfl rfl)
theorem dX4_mustBeName_448 : decode cX4_mustBeName 448 = .ok (.ldc 132, 2) := dk_18 132 (dk_at dksX4_mustBeName_12 7 rfl rfl)
theorem dX4_mustBeName_450 : decode cX4_mustBeName 450 = .ok (.invokevirtual 77, 3) := dk_182 0 77 (dk_at dksX4_mustBeName_12 9 rfl rfl)
theorem dX4_mustBeName_453 : decode cX4_mustBeName 453 = .ok (.ifCond .eq 111, 3) := dk_153 0 111 (dk_at dksX4_mustBeName_12 12 rfl rfl)
theorem dX4_mustBeName_456 : decode cX4_mustBeName 456 = .ok (.bipush 15, 2) := dk_16 15 (dk_at dksX4_mustBeName_12 15 rfl rfl)
theorem dX4_mustBeName_458 : decode cX4_mustBeName 458 = .ok (.istore_n 2, 1) := dk_61 (dk_at dksX4_mustBeName_12 17 rfl rfl)
theorem dX4_mustBeName_459 : decode cX4_mustBeName 459 = .ok (.goto 105, 3) := dk_167 0 105 (dk_at dksX4_mustBeName_12 18 rfl rfl)
theorem dX4_mustBeName_462 : decode cX4_mustBeName 462 = .ok (.aload_n 1, 1) := dk_43 (dk_at dksX4_mustBeName_12 21 rfl rfl)
theorem dX4_mustBeName_463 : decode cX4_mustBeName 463 = .ok (.ldc 134, 2) := dk_18 134 (dk_at dksX4_mustBeName_12 22 rfl rfl)
theorem dX4_mustBeName_465 : decode cX4_mustBeName 465 = .ok (.invokevirtual 77, 3) := dk_182 0 77 (dk_at dksX4_mustBeName_13 0 rfl rfl)
theorem dX4_mustBeName_468 : decode cX4_mustBeName 468 = .ok (.ifCond .eq 96, 3) := dk_153 0 96 (dk_at dksX4_mustBeName_13 3 rfl rfl)
theorem dX4_mustBeName_471 : decode cX4_mustBeName 471 = .ok (.bipush 16, 2) := dk_16 16 (dk_at dksX4_mustBeName_13 6 rfl rfl)
theorem dX4_mustBeName_473 : decode cX4_mustBeName 473 = .ok (.istore_n 2, 1) := dk_61 (dk_at dksX4_mustBeName_13 8 rfl rfl)
theorem dX4_mustBeName_474 : decode cX4_mustBeName 474 = .ok (.goto 90, 3) := dk_167 0 90 (dk_at dksX4_mustBeName_13 9 rfl rfl)
theorem dX4_mustBeName_477 : decode cX4_mustBeName 477 = .ok (.aload_n 1, 1) := dk_43 (dk_at dksX4_mustBeName_13 12 rfl rfl)
theorem dX4_mustBeName_478 : decode cX4_mustBeName 478 = .ok (.ldc 136, 2) := dk_18 136 (dk_at dksX4_mustBeName_13 13 rfl rfl)
theorem dX4_mustBeName_480 : decode cX4_mustBeName 480 = .ok (.invokevirtual 77, 3) := dk_182 0 77 (dk_at dksX4_mustBeName_13 15 rfl rfl)
theorem dX4_mustBeName_483 : decode cX4_mustBeName 483 = .ok (.ifCond .eq 81, 3) := dk_153 0 81 (dk_at dksX4_mustBeName_13 18 rfl rfl)
theorem dX4_mustBeName_486 : decode cX4_mustBeName 486 = .ok (.bipush 17, 2) := dk_16 17 (dk_at dksX4_mustBeName_13 21 rfl rfl)
theorem dX4_mustBeName_488 : decode cX4_mustBeName 488 = .ok (.istore_n 2, 1) := dk_61 (dk_at dksX4_mustBeName_13 23 rfl rfl)
theorem dX4_mustBeName_489 : decode cX4_mustBeName 489 = .ok (.goto 75, 3) := dk_167 0 75 (dk_at dksX4_mustBeName_14 0 rfl rfl)
theorem dX4_mustBeName_492 : decode cX4_mustBeName 492 = .ok (.aload_n 1, 1) := dk_43 (dk_at dksX4_mustBeName_14 3 rfl rfl)
theorem dX4_mustBeName_493 : decode cX4_mustBeName 493 = .ok (.ldc 138, 2) := dk_18 138 (dk_at dksX4_mustBeName_14 4 rfl rfl)
theorem dX4_mustBeName_495 : decode cX4_mustBeName 495 = .ok (.invokevirtual 77, 3) := dk_182 0 77 (dk_at dksX4_mustBeName_14 6 rfl rfl)
theorem dX4_mustBeName_498 : decode cX4_mustBeName 498 = .ok (.ifCond .eq 66, 3) := dk_153 0 66 (dk_at dksX4_mustBeName_14 9 rfl rfl)
theorem dX4_mustBeName_501 : decode cX4_mustBeName 501 = .ok (.bipush 18, 2) := dk_16 18 (dk_at dksX4_mustBeName_14 12 rfl rfl)
theorem dX4_mustBeName_503 : decode cX4_mustBeName 503 = .ok (.istore_n 2, 1) := dk_61 (dk_at dksX4_mustBeName_14 14 rfl rfl)
theorem dX4_mustBeName_504 : decode cX4_mustBeName 504 = .ok (.goto 60, 3) := dk_167 0 60 (dk_at dksX4_mustBeName_14 15 rfl rfl)
theorem dX4_mustBeName_507 : decode cX4_mustBeName 507 = .ok (.aload_n 1, 1) := dk_43 (dk_at dksX4_mustBeName_14 18 rfl rfl)
theorem dX4_mustBeName_508 : decode cX4_mustBeName 508 = .ok (.ldc 140, 2) := dk_18 140 (dk_at dksX4_mustBeName_14 19 rfl rfl)
theorem dX4_mustBeName_510 : decode cX4_mustBeName 510 = .ok (.invokevirtual 77, 3) := dk_182 0 77 (dk_at dksX4_mustBeName_14 21 rfl rfl)
theorem dX4_mustBeName_513 : decode cX4_mustBeName 513 = .ok (.ifCond .eq 51, 3) := dk_153 0 51 (dk_at dksX4_mustBeName_15 0 rfl rfl)
theorem dX4_mustBeName_516 : decode cX4_mustBeName 516 = .ok (.bipush 19, 2) := dk_16 19 (dk_at dksX4_mustBeName_15 3 rfl rfl)
theorem dX4_mustBeName_518 : decode cX4_mustBeName 518 = .ok (.istore_n 2, 1) := dk_61 (dk_at dksX4_mustBeName_15 5 rfl rfl)
theorem dX4_mustBeName_519 : decode cX4_mustBeName 519 = .ok (.goto 45, 3) := dk_167 0 45 (dk_at dksX4_mustBeName_15 6 rfl rfl)
theorem dX4_mustBeName_522 : decode cX4_mustBeName 522 = .ok (.aload_n 1, 1) := dk_43 (dk_at dksX4_mustBeName_15 9 rfl rfl)
theorem dX4_mustBeName_523 : decode cX4_mustBeName 523 = .ok (.ldc 142, 2) := dk_18 142 (dk_at dksX4_mustBeName_15 10 rfl rfl)
theorem dX4_mustBeName_525 : decode cX4_mustBeName 525 = .ok (.invokevirtual 77, 3) := dk_182 0 77 (dk_at dksX4_mustBeName_15 12 rfl rfl)
theorem dX4_mustBeName_528 : decode cX4_mustBeName 528 = .ok (.ifCond .eq 36, 3) := dk_153 0 36 (dk_at dksX4_mustBeName_15 15 rfl rfl)
theorem dX4_mustBeName_531 : decode cX4_mustBeName 531 = .ok (.bipush 20, 2) := dk_16 20 (dk_at dksX4_mustBeName_15 18 rfl rfl)
theorem dX4_mustBeName_533 : decode cX4_mustBeName 533 = .ok (.istore_n 2, 1) := dk_61 (dk_at dksX4_mustBeName_15 20 rfl rfl)
theorem dX4_mustBeName_534 : decode cX4_mustBeName 534 = .ok (.goto 30, 3) := dk_167 0 30 (dk_at dksX4_mustBeName_15 21 rfl rfl)
theorem dX4_mustBeName_537 : decode cX4_mustBeName 537 = .ok (.aload_n 1, 1) := dk_43 (dk_at dksX4_mustBeName_16 0 rfl rfl)
theorem dX4_mustBeName_538 : decode cX4_mustBeName 538 = .ok (.ldc 144, 2) := dk_18 144 (dk_at dksX4_mustBeName_16 1 rfl rfl)
theorem dX4_mustBeName_540 : decode cX4_mustBeName 540 = .ok (.invokevirtual 77, 3) := dk_182 0 77 (dk_at dksX4_mustBeName_16 3 rfl rfl)
theorem dX4_mustBeName_543 : decode cX4_mustBeName 543 = .ok (.ifCond .eq 21, 3) := dk_153 0 21 (dk_at dksX4_mustBeName_16 6 rfl rfl)
theorem dX4_mustBeName_546 : decode cX4_mustBeName 546 = .ok (.bipush 21, 2) := dk_16 21 (dk_at dksX4_mustBeName_16 9 rfl rfl)
theorem dX4_mustBeName_548 : decode cX4_mustBeName 548 = .ok (.istore_n 2, 1) := dk_61 (dk_at dksX4_mustBeName_16 11 rfl rfl)
theorem dX4_mustBeName_549 : decode cX4_mustBeName 549 = .ok (.goto 15, 3) := dk_167 0 15 (dk_at dksX4_mustBeName_16 12 rfl rfl)
theorem dX4_mustBeName_552 : decode cX4_mustBeName 552 = .ok (.aload_n 1, 1) := dk_43 (dk_at dksX4_mustBeName_16 15 rfl rfl)
theorem dX4_mustBeName_553 : decode cX4_mustBeName 553 = .ok (.ldc 146, 2) := dk_18 146 (dk_at dksX4_mustBeName_16 16 rfl rfl)
theorem dX4_mustBeName_555 : decode cX4_mustBeName 555 = .ok (.invokevirtual 77, 3) := dk_182 0 77 (dk_at dksX4_mustBeName_16 18 rfl rfl)
theorem dX4_mustBeName_558 : decode cX4_mustBeName 558 = .ok (.ifCond .eq 6, 3) := dk_153 0 6 (dk_at dksX4_mustBeName_16 21 rfl rfl)
theorem dX4_mustBeName_561 : decode cX4_mustBeName 561 = .ok (.bipush 22, 2) := dk_16 22 (dk_at dksX4_mustBeName_17 0 rfl rfl)
theorem dX4_mustBeName_563 : decode cX4_mustBeName 563 = .ok (.istore_n 2, 1) := dk_61 (dk_at dksX4_mustBeName_17 2 rfl rfl)
theorem dX4_mustBeName_564 : decode cX4_mustBeName 564 = .ok (.iload_n 2, 1) := dk_28 (dk_at dksX4_mustBeName_17 3 rfl rfl)
theorem dX4_mustBeName_565 : decode cX4_mustBeName 565 = .ok (.tableswitch 112 0 22 #[107, 107, 107, 107, 107, 107, 107, 107, 107, 107, 107, 107, 107, 107, 107, 107, 107, 107, 107, 107, 107, 107, 107], 107) := by decide +kernel
theorem dX4_mustBeName_672 : decode cX4_mustBeName 672 = .ok (.aload_n 0, 1) := dk_42 (dk_at dksX4_mustBeName_19 0 rfl rfl)
theorem dX4_mustBeName_673 : decode cX4_mustBeName 673 = .ok (.invokevirtual 85, 3) := dk_182 0 85 (dk_at dksX4_mustBeName_19 1 rfl rfl)
theorem dX4_mustBeName_676 : decode cX4_mustBeName 676 = .ok (.athrow, 1) := dk_191 (dk_at dksX4_mustBeName_19 4 rfl rfl)
theorem dX4_mustBeName_677 : decode cX4_mustBeName 677 = .ok (.return_, 1) := dk_177 (dk_at dksX4_mustBeName_19 5 rfl rfl)
abbrev cX4_need : ByteArray := prog_17_method_10_code
def dkwX4_need_0 : List UInt8 := [42, 180, 0, 39, 27, 159, 0, 8, 42, 182, 0, 85, 191, 42, 182, 0, 89, 177]
abbrev dktX4_need_0 : List UInt8 := dkwX4_need_0 ++ []
theorem dksX4_need_0 : cX4_need.data.toList.drop 0 = dktX4_need_0 := by decide +kernel
theorem dX4_need_0 : decode cX4_need 0 = .ok (.aload_n 0, 1) := dk_42 (dk_at dksX4_need_0 0 rfl rfl)
theorem dX4_need_1 : decode cX4_need 1 = .ok (.getfield 39, 3) := dk_180 0 39 (dk_at dksX4_need_0 1 rfl rfl)
theorem dX4_need_4 : decode cX4_need 4 = .ok (.iload_n 1, 1) := dk_27 (dk_at dksX4_need_0 4 rfl rfl)
theorem dX4_need_5 : decode cX4_need 5 = .ok (.if_icmp .eq 8, 3) := dk_159 0 8 (dk_at dksX4_need_0 5 rfl rfl)
theorem dX4_need_8 : decode cX4_need 8 = .ok (.aload_n 0, 1) := dk_42 (dk_at dksX4_need_0 8 rfl rfl)
theorem dX4_need_9 : decode cX4_need 9 = .ok (.invokevirtual 85, 3) := dk_182 0 85 (dk_at dksX4_need_0 9 rfl rfl)
theorem dX4_need_12 : decode cX4_need 12 = .ok (.athrow, 1) := dk_191 (dk_at dksX4_need_0 12 rfl rfl)
theorem dX4_need_13 : decode cX4_need 13 = .ok (.aload_n 0, 1) := dk_42 (dk_at dksX4_need_0 13 rfl rfl)
theorem dX4_need_14 : decode cX4_need 14 = .ok (.invokevirtual 89, 3) := dk_182 0 89 (dk_at dksX4_need_0 14 rfl rfl)
theorem dX4_need_17 : decode cX4_need 17 = .ok (.return_, 1) := dk_177 (dk_at dksX4_need_0 17 rfl rfl)
abbrev cX4_next : ByteArray := prog_17_method_5_code
def dkwX4_next_10 : List UInt8 := [28, 96, 181, 0, 21, 177]
abbrev dktX4_next_10 : List UInt8 := dkwX4_next_10 ++ []
def dkwX4_next_9 : List UInt8 := [167, 0, 19, 18, 65, 27, 182, 0, 67, 155, 0, 10, 42, 27, 181, 0, 39, 4, 61, 42, 89, 180, 0, 21]
abbrev dktX4_next_9 : List UInt8 := dkwX4_next_9 ++ dktX4_next_10
def dkwX4_next_8 : List UInt8 := [167, 255, 220, 28, 7, 163, 0, 11, 42, 28, 182, 0, 42, 153, 0, 4, 177, 42, 5, 181, 0, 39]
abbrev dktX4_next_8 : List UInt8 := dkwX4_next_8 ++ dktX4_next_9
def dkwX4_next_7 : List UInt8 := [42, 16, 10, 42, 180, 0, 62, 104, 42, 28, 182, 0, 32, 96, 16, 48, 100, 181, 0, 62, 132, 2, 1]
abbrev dktX4_next_7 : List UInt8 := dkwX4_next_7 ++ dktX4_next_8
def dkwX4_next_6 : List UInt8 := [182, 0, 59, 153, 0, 69, 42, 3, 181, 0, 62, 42, 28, 182, 0, 59, 153, 0, 34, 28, 7, 162, 0, 23]
abbrev dktX4_next_6 : List UInt8 := dkwX4_next_6 ++ dktX4_next_7
def dkwX4_next_5 : List UInt8 := [16, 8, 164, 0, 4, 177, 42, 45, 182, 0, 55, 181, 0, 17, 42, 4, 181, 0, 39, 167, 0, 93, 42, 3]
abbrev dktX4_next_5 : List UInt8 := dkwX4_next_5 ++ dktX4_next_6
def dkwX4_next_4 : List UInt8 := [28, 16, 8, 162, 0, 14, 45, 42, 28, 182, 0, 32, 146, 182, 0, 51, 87, 132, 2, 1, 167, 255, 228, 28]
abbrev dktX4_next_4 : List UInt8 := dkwX4_next_4 ++ dktX4_next_5
def dkwX4_next_3 : List UInt8 := [182, 0, 42, 153, 0, 67, 187, 0, 46, 89, 16, 8, 183, 0, 48, 78, 42, 28, 182, 0, 42, 153, 0, 26]
abbrev dktX4_next_3 : List UInt8 := dkwX4_next_3 ++ dktX4_next_4
def dkwX4_next_2 : List UInt8 := [60, 3, 61, 42, 6, 181, 0, 39, 27, 156, 0, 11, 42, 3, 181, 0, 39, 167, 0, 165, 42, 3]
abbrev dktX4_next_2 : List UInt8 := dkwX4_next_2 ++ dktX4_next_3
def dkwX4_next_1 : List UInt8 := [180, 0, 21, 4, 96, 181, 0, 21, 167, 255, 226, 42, 42, 180, 0, 21, 181, 0, 36, 42, 3, 182, 0, 32]
abbrev dktX4_next_1 : List UInt8 := dkwX4_next_1 ++ dktX4_next_2
def dkwX4_next_0 : List UInt8 := [42, 3, 182, 0, 32, 16, 32, 159, 0, 13, 42, 3, 182, 0, 32, 16, 10, 160, 0, 16, 42, 89]
abbrev dktX4_next_0 : List UInt8 := dkwX4_next_0 ++ dktX4_next_1
theorem dksX4_next_0 : cX4_next.data.toList.drop 0 = dktX4_next_0 := by decide +kernel
theorem dksX4_next_1 : cX4_next.data.toList.drop 22 = dktX4_next_1 := dk_seg dksX4_next_0 22 rfl rfl
theorem dksX4_next_2 : cX4_next.data.toList.drop 46 = dktX4_next_2 := dk_seg dksX4_next_1 24 rfl rfl
theorem dksX4_next_3 : cX4_next.data.toList.drop 68 = dktX4_next_3 := dk_seg dksX4_next_2 22 rfl rfl
theorem dksX4_next_4 : cX4_next.data.toList.drop 92 = dktX4_next_4 := dk_seg dksX4_next_3 24 rfl rfl
theorem dksX4_next_5 : cX4_next.data.toList.drop 116 = dktX4_next_5 := dk_seg dksX4_next_4 24 rfl rfl
theorem dksX4_next_6 : cX4_next.data.toList.drop 140 = dktX4_next_6 := dk_seg dksX4_next_5 24 rfl rfl
theorem dksX4_next_7 : cX4_next.data.toList.drop 164 = dktX4_next_7 := dk_seg dksX4_next_6 24 rfl rfl
theorem dksX4_next_8 : cX4_next.data.toList.drop 187 = dktX4_next_8 := dk_seg dksX4_next_7 23 rfl rfl
theorem dksX4_next_9 : cX4_next.data.toList.drop 209 = dktX4_next_9 := dk_seg dksX4_next_8 22 rfl rfl
theorem dksX4_next_10 : cX4_next.data.toList.drop 233 = dktX4_next_10 := dk_seg dksX4_next_9 24 rfl rfl
theorem dX4_next_0 : decode cX4_next 0 = .ok (.aload_n 0, 1) := dk_42 (dk_at dksX4_next_0 0 rfl rfl)
theorem dX4_next_1 : decode cX4_next 1 = .ok (.iconst 0, 1) := dk_3 (dk_at dksX4_next_0 1 rfl rfl)
theorem dX4_next_2 : decode cX4_next 2 = .ok (.invokevirtual 32, 3) := dk_182 0 32 (dk_at dksX4_next_0 2 rfl rfl)
theorem dX4_next_5 : decode cX4_next 5 = .ok (.bipush 32, 2) := dk_16 32 (dk_at dksX4_next_0 5 rfl rfl)
theorem dX4_next_7 : decode cX4_next 7 = .ok (.if_icmp .eq 13, 3) := dk_159 0 13 (dk_at dksX4_next_0 7 rfl rfl)
theorem dX4_next_10 : decode cX4_next 10 = .ok (.aload_n 0, 1) := dk_42 (dk_at dksX4_next_0 10 rfl rfl)
theorem dX4_next_11 : decode cX4_next 11 = .ok (.iconst 0, 1) := dk_3 (dk_at dksX4_next_0 11 rfl rfl)
theorem dX4_next_12 : decode cX4_next 12 = .ok (.invokevirtual 32, 3) := dk_182 0 32 (dk_at dksX4_next_0 12 rfl rfl)
theorem dX4_next_15 : decode cX4_next 15 = .ok (.bipush 10, 2) := dk_16 10 (dk_at dksX4_next_0 15 rfl rfl)
theorem dX4_next_17 : decode cX4_next 17 = .ok (.if_icmp .ne 16, 3) := dk_160 0 16 (dk_at dksX4_next_0 17 rfl rfl)
theorem dX4_next_20 : decode cX4_next 20 = .ok (.aload_n 0, 1) := dk_42 (dk_at dksX4_next_0 20 rfl rfl)
theorem dX4_next_21 : decode cX4_next 21 = .ok (.dup, 1) := dk_89 (dk_at dksX4_next_0 21 rfl rfl)
theorem dX4_next_22 : decode cX4_next 22 = .ok (.getfield 21, 3) := dk_180 0 21 (dk_at dksX4_next_1 0 rfl rfl)
theorem dX4_next_25 : decode cX4_next 25 = .ok (.iconst 1, 1) := dk_4 (dk_at dksX4_next_1 3 rfl rfl)
theorem dX4_next_26 : decode cX4_next 26 = .ok (.iadd, 1) := dk_96 (dk_at dksX4_next_1 4 rfl rfl)
theorem dX4_next_27 : decode cX4_next 27 = .ok (.putfield 21, 3) := dk_181 0 21 (dk_at dksX4_next_1 5 rfl rfl)
theorem dX4_next_30 : decode cX4_next 30 = .ok (.goto (-30), 3) := dk_167 255 226 (dk_at dksX4_next_1 8 rfl rfl)
theorem dX4_next_33 : decode cX4_next 33 = .ok (.aload_n 0, 1) := dk_42 (dk_at dksX4_next_1 11 rfl rfl)
theorem dX4_next_34 : decode cX4_next 34 = .ok (.aload_n 0, 1) := dk_42 (dk_at dksX4_next_1 12 rfl rfl)
theorem dX4_next_35 : decode cX4_next 35 = .ok (.getfield 21, 3) := dk_180 0 21 (dk_at dksX4_next_1 13 rfl rfl)
theorem dX4_next_38 : decode cX4_next 38 = .ok (.putfield 36, 3) := dk_181 0 36 (dk_at dksX4_next_1 16 rfl rfl)
theorem dX4_next_41 : decode cX4_next 41 = .ok (.aload_n 0, 1) := dk_42 (dk_at dksX4_next_1 19 rfl rfl)
theorem dX4_next_42 : decode cX4_next 42 = .ok (.iconst 0, 1) := dk_3 (dk_at dksX4_next_1 20 rfl rfl)
theorem dX4_next_43 : decode cX4_next 43 = .ok (.invokevirtual 32, 3) := dk_182 0 32 (dk_at dksX4_next_1 21 rfl rfl)
theorem dX4_next_46 : decode cX4_next 46 = .ok (.istore_n 1, 1) := dk_60 (dk_at dksX4_next_2 0 rfl rfl)
theorem dX4_next_47 : decode cX4_next 47 = .ok (.iconst 0, 1) := dk_3 (dk_at dksX4_next_2 1 rfl rfl)
theorem dX4_next_48 : decode cX4_next 48 = .ok (.istore_n 2, 1) := dk_61 (dk_at dksX4_next_2 2 rfl rfl)
theorem dX4_next_49 : decode cX4_next 49 = .ok (.aload_n 0, 1) := dk_42 (dk_at dksX4_next_2 3 rfl rfl)
theorem dX4_next_50 : decode cX4_next 50 = .ok (.iconst 3, 1) := dk_6 (dk_at dksX4_next_2 4 rfl rfl)
theorem dX4_next_51 : decode cX4_next 51 = .ok (.putfield 39, 3) := dk_181 0 39 (dk_at dksX4_next_2 5 rfl rfl)
theorem dX4_next_54 : decode cX4_next 54 = .ok (.iload_n 1, 1) := dk_27 (dk_at dksX4_next_2 8 rfl rfl)
theorem dX4_next_55 : decode cX4_next 55 = .ok (.ifCond .ge 11, 3) := dk_156 0 11 (dk_at dksX4_next_2 9 rfl rfl)
theorem dX4_next_58 : decode cX4_next 58 = .ok (.aload_n 0, 1) := dk_42 (dk_at dksX4_next_2 12 rfl rfl)
theorem dX4_next_59 : decode cX4_next 59 = .ok (.iconst 0, 1) := dk_3 (dk_at dksX4_next_2 13 rfl rfl)
theorem dX4_next_60 : decode cX4_next 60 = .ok (.putfield 39, 3) := dk_181 0 39 (dk_at dksX4_next_2 14 rfl rfl)
theorem dX4_next_63 : decode cX4_next 63 = .ok (.goto 165, 3) := dk_167 0 165 (dk_at dksX4_next_2 17 rfl rfl)
theorem dX4_next_66 : decode cX4_next 66 = .ok (.aload_n 0, 1) := dk_42 (dk_at dksX4_next_2 20 rfl rfl)
theorem dX4_next_67 : decode cX4_next 67 = .ok (.iconst 0, 1) := dk_3 (dk_at dksX4_next_2 21 rfl rfl)
theorem dX4_next_68 : decode cX4_next 68 = .ok (.invokevirtual 42, 3) := dk_182 0 42 (dk_at dksX4_next_3 0 rfl rfl)
theorem dX4_next_71 : decode cX4_next 71 = .ok (.ifCond .eq 67, 3) := dk_153 0 67 (dk_at dksX4_next_3 3 rfl rfl)
theorem dX4_next_74 : decode cX4_next 74 = .ok (.new 46, 3) := dk_187 0 46 (dk_at dksX4_next_3 6 rfl rfl)
theorem dX4_next_77 : decode cX4_next 77 = .ok (.dup, 1) := dk_89 (dk_at dksX4_next_3 9 rfl rfl)
theorem dX4_next_78 : decode cX4_next 78 = .ok (.bipush 8, 2) := dk_16 8 (dk_at dksX4_next_3 10 rfl rfl)
theorem dX4_next_80 : decode cX4_next 80 = .ok (.invokespecial 48, 3) := dk_183 0 48 (dk_at dksX4_next_3 12 rfl rfl)
theorem dX4_next_83 : decode cX4_next 83 = .ok (.astore_n 3, 1) := dk_78 (dk_at dksX4_next_3 15 rfl rfl)
theorem dX4_next_84 : decode cX4_next 84 = .ok (.aload_n 0, 1) := dk_42 (dk_at dksX4_next_3 16 rfl rfl)
theorem dX4_next_85 : decode cX4_next 85 = .ok (.iload_n 2, 1) := dk_28 (dk_at dksX4_next_3 17 rfl rfl)
theorem dX4_next_86 : decode cX4_next 86 = .ok (.invokevirtual 42, 3) := dk_182 0 42 (dk_at dksX4_next_3 18 rfl rfl)
theorem dX4_next_89 : decode cX4_next 89 = .ok (.ifCond .eq 26, 3) := dk_153 0 26 (dk_at dksX4_next_3 21 rfl rfl)
theorem dX4_next_92 : decode cX4_next 92 = .ok (.iload_n 2, 1) := dk_28 (dk_at dksX4_next_4 0 rfl rfl)
theorem dX4_next_93 : decode cX4_next 93 = .ok (.bipush 8, 2) := dk_16 8 (dk_at dksX4_next_4 1 rfl rfl)
theorem dX4_next_95 : decode cX4_next 95 = .ok (.if_icmp .ge 14, 3) := dk_162 0 14 (dk_at dksX4_next_4 3 rfl rfl)
theorem dX4_next_98 : decode cX4_next 98 = .ok (.aload_n 3, 1) := dk_45 (dk_at dksX4_next_4 6 rfl rfl)
theorem dX4_next_99 : decode cX4_next 99 = .ok (.aload_n 0, 1) := dk_42 (dk_at dksX4_next_4 7 rfl rfl)
theorem dX4_next_100 : decode cX4_next 100 = .ok (.iload_n 2, 1) := dk_28 (dk_at dksX4_next_4 8 rfl rfl)
theorem dX4_next_101 : decode cX4_next 101 = .ok (.invokevirtual 32, 3) := dk_182 0 32 (dk_at dksX4_next_4 9 rfl rfl)
theorem dX4_next_104 : decode cX4_next 104 = .ok (.i2c, 1) := dk_146 (dk_at dksX4_next_4 12 rfl rfl)
theorem dX4_next_105 : decode cX4_next 105 = .ok (.invokevirtual 51, 3) := dk_182 0 51 (dk_at dksX4_next_4 13 rfl rfl)
theorem dX4_next_108 : decode cX4_next 108 = .ok (.pop, 1) := dk_87 (dk_at dksX4_next_4 16 rfl rfl)
theorem dX4_next_109 : decode cX4_next 109 = .ok (.iinc 2 1, 3) := dk_132 2 1 (dk_at dksX4_next_4 17 rfl rfl)
theorem dX4_next_112 : decode cX4_next 112 = .ok (.goto (-28), 3) := dk_167 255 228 (dk_at dksX4_next_4 20 rfl rfl)
theorem dX4_next_115 : decode cX4_next 115 = .ok (.iload_n 2, 1) := dk_28 (dk_at dksX4_next_4 23 rfl rfl)
theorem dX4_next_116 : decode cX4_next 116 = .ok (.bipush 8, 2) := dk_16 8 (dk_at dksX4_next_5 0 rfl rfl)
theorem dX4_next_118 : decode cX4_next 118 = .ok (.if_icmp .le 4, 3) := dk_164 0 4 (dk_at dksX4_next_5 2 rfl rfl)
theorem dX4_next_121 : decode cX4_next 121 = .ok (.return_, 1) := dk_177 (dk_at dksX4_next_5 5 rfl rfl)
theorem dX4_next_122 : decode cX4_next 122 = .ok (.aload_n 0, 1) := dk_42 (dk_at dksX4_next_5 6 rfl rfl)
theorem dX4_next_123 : decode cX4_next 123 = .ok (.aload_n 3, 1) := dk_45 (dk_at dksX4_next_5 7 rfl rfl)
theorem dX4_next_124 : decode cX4_next 124 = .ok (.invokevirtual 55, 3) := dk_182 0 55 (dk_at dksX4_next_5 8 rfl rfl)
theorem dX4_next_127 : decode cX4_next 127 = .ok (.putfield 17, 3) := dk_181 0 17 (dk_at dksX4_next_5 11 rfl rfl)
theorem dX4_next_130 : decode cX4_next 130 = .ok (.aload_n 0, 1) := dk_42 (dk_at dksX4_next_5 14 rfl rfl)
theorem dX4_next_131 : decode cX4_next 131 = .ok (.iconst 1, 1) := dk_4 (dk_at dksX4_next_5 15 rfl rfl)
theorem dX4_next_132 : decode cX4_next 132 = .ok (.putfield 39, 3) := dk_181 0 39 (dk_at dksX4_next_5 16 rfl rfl)
theorem dX4_next_135 : decode cX4_next 135 = .ok (.goto 93, 3) := dk_167 0 93 (dk_at dksX4_next_5 19 rfl rfl)
theorem dX4_next_138 : decode cX4_next 138 = .ok (.aload_n 0, 1) := dk_42 (dk_at dksX4_next_5 22 rfl rfl)
theorem dX4_next_139 : decode cX4_next 139 = .ok (.iconst 0, 1) := dk_3 (dk_at dksX4_next_5 23 rfl rfl)
theorem dX4_next_140 : decode cX4_next 140 = .ok (.invokevirtual 59, 3) := dk_182 0 59 (dk_at dksX4_next_6 0 rfl rfl)
theorem dX4_next_143 : decode cX4_next 143 = .ok (.ifCond .eq 69, 3) := dk_153 0 69 (dk_at dksX4_next_6 3 rfl rfl)
theorem dX4_next_146 : decode cX4_next 146 = .ok (.aload_n 0, 1) := dk_42 (dk_at dksX4_next_6 6 rfl rfl)
theorem dX4_next_147 : decode cX4_next 147 = .ok (.iconst 0, 1) := dk_3 (dk_at dksX4_next_6 7 rfl rfl)
theorem dX4_next_148 : decode cX4_next 148 = .ok (.putfield 62, 3) := dk_181 0 62 (dk_at dksX4_next_6 8 rfl rfl)
theorem dX4_next_151 : decode cX4_next 151 = .ok (.aload_n 0, 1) := dk_42 (dk_at dksX4_next_6 11 rfl rfl)
theorem dX4_next_152 : decode cX4_next 152 = .ok (.iload_n 2, 1) := dk_28 (dk_at dksX4_next_6 12 rfl rfl)
theorem dX4_next_153 : decode cX4_next 153 = .ok (.invokevirtual 59, 3) := dk_182 0 59 (dk_at dksX4_next_6 13 rfl rfl)
theorem dX4_next_156 : decode cX4_next 156 = .ok (.ifCond .eq 34, 3) := dk_153 0 34 (dk_at dksX4_next_6 16 rfl rfl)
theorem dX4_next_159 : decode cX4_next 159 = .ok (.iload_n 2, 1) := dk_28 (dk_at dksX4_next_6 19 rfl rfl)
theorem dX4_next_160 : decode cX4_next 160 = .ok (.iconst 4, 1) := dk_7 (dk_at dksX4_next_6 20 rfl rfl)
theorem dX4_next_161 : decode cX4_next 161 = .ok (.if_icmp .ge 23, 3) := dk_162 0 23 (dk_at dksX4_next_6 21 rfl rfl)
theorem dX4_next_164 : decode cX4_next 164 = .ok (.aload_n 0, 1) := dk_42 (dk_at dksX4_next_7 0 rfl rfl)
theorem dX4_next_165 : decode cX4_next 165 = .ok (.bipush 10, 2) := dk_16 10 (dk_at dksX4_next_7 1 rfl rfl)
theorem dX4_next_167 : decode cX4_next 167 = .ok (.aload_n 0, 1) := dk_42 (dk_at dksX4_next_7 3 rfl rfl)
theorem dX4_next_168 : decode cX4_next 168 = .ok (.getfield 62, 3) := dk_180 0 62 (dk_at dksX4_next_7 4 rfl rfl)
theorem dX4_next_171 : decode cX4_next 171 = .ok (.imul, 1) := dk_104 (dk_at dksX4_next_7 7 rfl rfl)
theorem dX4_next_172 : decode cX4_next 172 = .ok (.aload_n 0, 1) := dk_42 (dk_at dksX4_next_7 8 rfl rfl)
theorem dX4_next_173 : decode cX4_next 173 = .ok (.iload_n 2, 1) := dk_28 (dk_at dksX4_next_7 9 rfl rfl)
theorem dX4_next_174 : decode cX4_next 174 = .ok (.invokevirtual 32, 3) := dk_182 0 32 (dk_at dksX4_next_7 10 rfl rfl)
theorem dX4_next_177 : decode cX4_next 177 = .ok (.iadd, 1) := dk_96 (dk_at dksX4_next_7 13 rfl rfl)
theorem dX4_next_178 : decode cX4_next 178 = .ok (.bipush 48, 2) := dk_16 48 (dk_at dksX4_next_7 14 rfl rfl)
theorem dX4_next_180 : decode cX4_next 180 = .ok (.isub, 1) := dk_100 (dk_at dksX4_next_7 16 rfl rfl)
theorem dX4_next_181 : decode cX4_next 181 = .ok (.putfield 62, 3) := dk_181 0 62 (dk_at dksX4_next_7 17 rfl rfl)
theorem dX4_next_184 : decode cX4_next 184 = .ok (.iinc 2 1, 3) := dk_132 2 1 (dk_at dksX4_next_7 20 rfl rfl)
theorem dX4_next_187 : decode cX4_next 187 = .ok (.goto (-36), 3) := dk_167 255 220 (dk_at dksX4_next_8 0 rfl rfl)
theorem dX4_next_190 : decode cX4_next 190 = .ok (.iload_n 2, 1) := dk_28 (dk_at dksX4_next_8 3 rfl rfl)
theorem dX4_next_191 : decode cX4_next 191 = .ok (.iconst 4, 1) := dk_7 (dk_at dksX4_next_8 4 rfl rfl)
theorem dX4_next_192 : decode cX4_next 192 = .ok (.if_icmp .gt 11, 3) := dk_163 0 11 (dk_at dksX4_next_8 5 rfl rfl)
theorem dX4_next_195 : decode cX4_next 195 = .ok (.aload_n 0, 1) := dk_42 (dk_at dksX4_next_8 8 rfl rfl)
theorem dX4_next_196 : decode cX4_next 196 = .ok (.iload_n 2, 1) := dk_28 (dk_at dksX4_next_8 9 rfl rfl)
theorem dX4_next_197 : decode cX4_next 197 = .ok (.invokevirtual 42, 3) := dk_182 0 42 (dk_at dksX4_next_8 10 rfl rfl)
theorem dX4_next_200 : decode cX4_next 200 = .ok (.ifCond .eq 4, 3) := dk_153 0 4 (dk_at dksX4_next_8 13 rfl rfl)
theorem dX4_next_203 : decode cX4_next 203 = .ok (.return_, 1) := dk_177 (dk_at dksX4_next_8 16 rfl rfl)
theorem dX4_next_204 : decode cX4_next 204 = .ok (.aload_n 0, 1) := dk_42 (dk_at dksX4_next_8 17 rfl rfl)
theorem dX4_next_205 : decode cX4_next 205 = .ok (.iconst 2, 1) := dk_5 (dk_at dksX4_next_8 18 rfl rfl)
theorem dX4_next_206 : decode cX4_next 206 = .ok (.putfield 39, 3) := dk_181 0 39 (dk_at dksX4_next_8 19 rfl rfl)
theorem dX4_next_209 : decode cX4_next 209 = .ok (.goto 19, 3) := dk_167 0 19 (dk_at dksX4_next_9 0 rfl rfl)
theorem dX4_next_212 : decode cX4_next 212 = .ok (.ldc 65, 2) := dk_18 65 (dk_at dksX4_next_9 3 rfl rfl)
theorem dX4_next_214 : decode cX4_next 214 = .ok (.iload_n 1, 1) := dk_27 (dk_at dksX4_next_9 5 rfl rfl)
theorem dX4_next_215 : decode cX4_next 215 = .ok (.invokevirtual 67, 3) := dk_182 0 67 (dk_at dksX4_next_9 6 rfl rfl)
theorem dX4_next_218 : decode cX4_next 218 = .ok (.ifCond .lt 10, 3) := dk_155 0 10 (dk_at dksX4_next_9 9 rfl rfl)
theorem dX4_next_221 : decode cX4_next 221 = .ok (.aload_n 0, 1) := dk_42 (dk_at dksX4_next_9 12 rfl rfl)
theorem dX4_next_222 : decode cX4_next 222 = .ok (.iload_n 1, 1) := dk_27 (dk_at dksX4_next_9 13 rfl rfl)
theorem dX4_next_223 : decode cX4_next 223 = .ok (.putfield 39, 3) := dk_181 0 39 (dk_at dksX4_next_9 14 rfl rfl)
theorem dX4_next_226 : decode cX4_next 226 = .ok (.iconst 1, 1) := dk_4 (dk_at dksX4_next_9 17 rfl rfl)
theorem dX4_next_227 : decode cX4_next 227 = .ok (.istore_n 2, 1) := dk_61 (dk_at dksX4_next_9 18 rfl rfl)
theorem dX4_next_228 : decode cX4_next 228 = .ok (.aload_n 0, 1) := dk_42 (dk_at dksX4_next_9 19 rfl rfl)
theorem dX4_next_229 : decode cX4_next 229 = .ok (.dup, 1) := dk_89 (dk_at dksX4_next_9 20 rfl rfl)
theorem dX4_next_230 : decode cX4_next 230 = .ok (.getfield 21, 3) := dk_180 0 21 (dk_at dksX4_next_9 21 rfl rfl)
theorem dX4_next_233 : decode cX4_next 233 = .ok (.iload_n 2, 1) := dk_28 (dk_at dksX4_next_10 0 rfl rfl)
theorem dX4_next_234 : decode cX4_next 234 = .ok (.iadd, 1) := dk_96 (dk_at dksX4_next_10 1 rfl rfl)
theorem dX4_next_235 : decode cX4_next 235 = .ok (.putfield 21, 3) := dk_181 0 21 (dk_at dksX4_next_10 2 rfl rfl)
theorem dX4_next_238 : decode cX4_next 238 = .ok (.return_, 1) := dk_177 (dk_at dksX4_next_10 5 rfl rfl)
abbrev cX4_number : ByteArray := prog_17_method_11_code
def dkwX4_number_2 : List UInt8 := [62, 42, 42, 180, 0, 36, 181, 0, 92, 42, 182, 0, 89, 29, 172]
abbrev dktX4_number_2 : List UInt8 := dkwX4_number_2 ++ []
def dkwX4_number_1 : List UInt8 := [180, 0, 62, 28, 164, 0, 16, 187, 0, 72, 89, 7, 42, 180, 0, 36, 183, 0, 74, 191, 42, 180, 0, 62]
abbrev dktX4_number_1 : List UInt8 := dkwX4_number_1 ++ dktX4_number_2
def dkwX4_number_0 : List UInt8 := [42, 180, 0, 39, 5, 159, 0, 8, 42, 182, 0, 85, 191, 42, 180, 0, 62, 27, 161, 0, 11, 42]
abbrev dktX4_number_0 : List UInt8 := dkwX4_number_0 ++ dktX4_number_1
theorem dksX4_number_0 : cX4_number.data.toList.drop 0 = dktX4_number_0 := by decide +kernel
theorem dksX4_number_1 : cX4_number.data.toList.drop 22 = dktX4_number_1 := dk_seg dksX4_number_0 22 rfl rfl
theorem dksX4_number_2 : cX4_number.data.toList.drop 46 = dktX4_number_2 := dk_seg dksX4_number_1 24 rfl rfl
theorem dX4_number_0 : decode cX4_number 0 = .ok (.aload_n 0, 1) := dk_42 (dk_at dksX4_number_0 0 rfl rfl)
theorem dX4_number_1 : decode cX4_number 1 = .ok (.getfield 39, 3) := dk_180 0 39 (dk_at dksX4_number_0 1 rfl rfl)
theorem dX4_number_4 : decode cX4_number 4 = .ok (.iconst 2, 1) := dk_5 (dk_at dksX4_number_0 4 rfl rfl)
theorem dX4_number_5 : decode cX4_number 5 = .ok (.if_icmp .eq 8, 3) := dk_159 0 8 (dk_at dksX4_number_0 5 rfl rfl)
theorem dX4_number_8 : decode cX4_number 8 = .ok (.aload_n 0, 1) := dk_42 (dk_at dksX4_number_0 8 rfl rfl)
theorem dX4_number_9 : decode cX4_number 9 = .ok (.invokevirtual 85, 3) := dk_182 0 85 (dk_at dksX4_number_0 9 rfl rfl)
theorem dX4_number_12 : decode cX4_number 12 = .ok (.athrow, 1) := dk_191 (dk_at dksX4_number_0 12 rfl rfl)
theorem dX4_number_13 : decode cX4_number 13 = .ok (.aload_n 0, 1) := dk_42 (dk_at dksX4_number_0 13 rfl rfl)
theorem dX4_number_14 : decode cX4_number 14 = .ok (.getfield 62, 3) := dk_180 0 62 (dk_at dksX4_number_0 14 rfl rfl)
theorem dX4_number_17 : decode cX4_number 17 = .ok (.iload_n 1, 1) := dk_27 (dk_at dksX4_number_0 17 rfl rfl)
theorem dX4_number_18 : decode cX4_number 18 = .ok (.if_icmp .lt 11, 3) := dk_161 0 11 (dk_at dksX4_number_0 18 rfl rfl)
theorem dX4_number_21 : decode cX4_number 21 = .ok (.aload_n 0, 1) := dk_42 (dk_at dksX4_number_0 21 rfl rfl)
theorem dX4_number_22 : decode cX4_number 22 = .ok (.getfield 62, 3) := dk_180 0 62 (dk_at dksX4_number_1 0 rfl rfl)
theorem dX4_number_25 : decode cX4_number 25 = .ok (.iload_n 2, 1) := dk_28 (dk_at dksX4_number_1 3 rfl rfl)
theorem dX4_number_26 : decode cX4_number 26 = .ok (.if_icmp .le 16, 3) := dk_164 0 16 (dk_at dksX4_number_1 4 rfl rfl)
theorem dX4_number_29 : decode cX4_number 29 = .ok (.new 72, 3) := dk_187 0 72 (dk_at dksX4_number_1 7 rfl rfl)
theorem dX4_number_32 : decode cX4_number 32 = .ok (.dup, 1) := dk_89 (dk_at dksX4_number_1 10 rfl rfl)
theorem dX4_number_33 : decode cX4_number 33 = .ok (.iconst 4, 1) := dk_7 (dk_at dksX4_number_1 11 rfl rfl)
theorem dX4_number_34 : decode cX4_number 34 = .ok (.aload_n 0, 1) := dk_42 (dk_at dksX4_number_1 12 rfl rfl)
theorem dX4_number_35 : decode cX4_number 35 = .ok (.getfield 36, 3) := dk_180 0 36 (dk_at dksX4_number_1 13 rfl rfl)
theorem dX4_number_38 : decode cX4_number 38 = .ok (.invokespecial 74, 3) := dk_183 0 74 (dk_at dksX4_number_1 16 rfl rfl)
theorem dX4_number_41 : decode cX4_number 41 = .ok (.athrow, 1) := dk_191 (dk_at dksX4_number_1 19 rfl rfl)
theorem dX4_number_42 : decode cX4_number 42 = .ok (.aload_n 0, 1) := dk_42 (dk_at dksX4_number_1 20 rfl rfl)
theorem dX4_number_43 : decode cX4_number 43 = .ok (.getfield 62, 3) := dk_180 0 62 (dk_at dksX4_number_1 21 rfl rfl)
theorem dX4_number_46 : decode cX4_number 46 = .ok (.istore_n 3, 1) := dk_62 (dk_at dksX4_number_2 0 rfl rfl)
theorem dX4_number_47 : decode cX4_number 47 = .ok (.aload_n 0, 1) := dk_42 (dk_at dksX4_number_2 1 rfl rfl)
theorem dX4_number_48 : decode cX4_number 48 = .ok (.aload_n 0, 1) := dk_42 (dk_at dksX4_number_2 2 rfl rfl)
theorem dX4_number_49 : decode cX4_number 49 = .ok (.getfield 36, 3) := dk_180 0 36 (dk_at dksX4_number_2 3 rfl rfl)
theorem dX4_number_52 : decode cX4_number 52 = .ok (.putfield 92, 3) := dk_181 0 92 (dk_at dksX4_number_2 6 rfl rfl)
theorem dX4_number_55 : decode cX4_number 55 = .ok (.aload_n 0, 1) := dk_42 (dk_at dksX4_number_2 9 rfl rfl)
theorem dX4_number_56 : decode cX4_number 56 = .ok (.invokevirtual 89, 3) := dk_182 0 89 (dk_at dksX4_number_2 10 rfl rfl)
theorem dX4_number_59 : decode cX4_number 59 = .ok (.iload_n 3, 1) := dk_29 (dk_at dksX4_number_2 13 rfl rfl)
theorem dX4_number_60 : decode cX4_number 60 = .ok (.ireturn, 1) := dk_172 (dk_at dksX4_number_2 14 rfl rfl)
abbrev cX4_wrong : ByteArray := prog_17_method_6_code
def dkwX4_wrong_1 : List UInt8 := [176]
abbrev dktX4_wrong_1 : List UInt8 := dkwX4_wrong_1 ++ []
def dkwX4_wrong_0 : List UInt8 := [187, 0, 72, 89, 42, 180, 0, 39, 6, 160, 0, 7, 4, 167, 0, 4, 5, 42, 180, 0, 36, 183, 0, 74]
abbrev dktX4_wrong_0 : List UInt8 := dkwX4_wrong_0 ++ dktX4_wrong_1
theorem dksX4_wrong_0 : cX4_wrong.data.toList.drop 0 = dktX4_wrong_0 := by decide +kernel
theorem dksX4_wrong_1 : cX4_wrong.data.toList.drop 24 = dktX4_wrong_1 := dk_seg dksX4_wrong_0 24 rfl rfl
theorem dX4_wrong_0 : decode cX4_wrong 0 = .ok (.new 72, 3) := dk_187 0 72 (dk_at dksX4_wrong_0 0 rfl rfl)
theorem dX4_wrong_3 : decode cX4_wrong 3 = .ok (.dup, 1) := dk_89 (dk_at dksX4_wrong_0 3 rfl rfl)
theorem dX4_wrong_4 : decode cX4_wrong 4 = .ok (.aload_n 0, 1) := dk_42 (dk_at dksX4_wrong_0 4 rfl rfl)
theorem dX4_wrong_5 : decode cX4_wrong 5 = .ok (.getfield 39, 3) := dk_180 0 39 (dk_at dksX4_wrong_0 5 rfl rfl)
theorem dX4_wrong_8 : decode cX4_wrong 8 = .ok (.iconst 3, 1) := dk_6 (dk_at dksX4_wrong_0 8 rfl rfl)
theorem dX4_wrong_9 : decode cX4_wrong 9 = .ok (.if_icmp .ne 7, 3) := dk_160 0 7 (dk_at dksX4_wrong_0 9 rfl rfl)
theorem dX4_wrong_12 : decode cX4_wrong 12 = .ok (.iconst 1, 1) := dk_4 (dk_at dksX4_wrong_0 12 rfl rfl)
theorem dX4_wrong_13 : decode cX4_wrong 13 = .ok (.goto 4, 3) := dk_167 0 4 (dk_at dksX4_wrong_0 13 rfl rfl)
theorem dX4_wrong_16 : decode cX4_wrong 16 = .ok (.iconst 2, 1) := dk_5 (dk_at dksX4_wrong_0 16 rfl rfl)
theorem dX4_wrong_17 : decode cX4_wrong 17 = .ok (.aload_n 0, 1) := dk_42 (dk_at dksX4_wrong_0 17 rfl rfl)
theorem dX4_wrong_18 : decode cX4_wrong 18 = .ok (.getfield 36, 3) := dk_180 0 36 (dk_at dksX4_wrong_0 18 rfl rfl)
theorem dX4_wrong_21 : decode cX4_wrong 21 = .ok (.invokespecial 74, 3) := dk_183 0 74 (dk_at dksX4_wrong_0 21 rfl rfl)
theorem dX4_wrong_24 : decode cX4_wrong 24 = .ok (.areturn, 1) := dk_176 (dk_at dksX4_wrong_1 0 rfl rfl)
abbrev cX5_init : ByteArray := prog_11_method_1_code
def dkwX5_init_0 : List UInt8 := [42, 43, 181, 0, 3, 42, 43, 183, 0, 9, 42, 187, 0, 15, 89, 183, 0, 17, 181, 0, 20, 177]
abbrev dktX5_init_0 : List UInt8 := dkwX5_init_0 ++ []
theorem dksX5_init_0 : cX5_init.data.toList.drop 0 = dktX5_init_0 := by decide +kernel
theorem dX5_init_0 : decode cX5_init 0 = .ok (.aload_n 0, 1) := dk_42 (dk_at dksX5_init_0 0 rfl rfl)
theorem dX5_init_1 : decode cX5_init 1 = .ok (.aload_n 1, 1) := dk_43 (dk_at dksX5_init_0 1 rfl rfl)
theorem dX5_init_2 : decode cX5_init 2 = .ok (.putfield 3, 3) := dk_181 0 3 (dk_at dksX5_init_0 2 rfl rfl)
theorem dX5_init_5 : decode cX5_init 5 = .ok (.aload_n 0, 1) := dk_42 (dk_at dksX5_init_0 5 rfl rfl)
theorem dX5_init_6 : decode cX5_init 6 = .ok (.aload_n 1, 1) := dk_43 (dk_at dksX5_init_0 6 rfl rfl)
theorem dX5_init_7 : decode cX5_init 7 = .ok (.invokespecial 9, 3) := dk_183 0 9 (dk_at dksX5_init_0 7 rfl rfl)
theorem dX5_init_10 : decode cX5_init 10 = .ok (.aload_n 0, 1) := dk_42 (dk_at dksX5_init_0 10 rfl rfl)
theorem dX5_init_11 : decode cX5_init 11 = .ok (.new 15, 3) := dk_187 0 15 (dk_at dksX5_init_0 11 rfl rfl)
theorem dX5_init_14 : decode cX5_init 14 = .ok (.dup, 1) := dk_89 (dk_at dksX5_init_0 14 rfl rfl)
theorem dX5_init_15 : decode cX5_init 15 = .ok (.invokespecial 17, 3) := dk_183 0 17 (dk_at dksX5_init_0 15 rfl rfl)
theorem dX5_init_18 : decode cX5_init 18 = .ok (.putfield 20, 3) := dk_181 0 20 (dk_at dksX5_init_0 18 rfl rfl)
theorem dX5_init_21 : decode cX5_init 21 = .ok (.return_, 1) := dk_177 (dk_at dksX5_init_0 21 rfl rfl)
abbrev cX5_link : ByteArray := prog_11_method_5_code
def dkwX5_link_1 : List UInt8 := [43, 187, 0, 142, 89, 25, 4, 25, 5, 42, 3, 29, 182, 0, 112, 183, 0, 144, 182, 0, 134, 87, 177]
abbrev dktX5_link_1 : List UInt8 := dkwX5_link_1 ++ []
def dkwX5_link_0 : List UInt8 := [42, 182, 0, 24, 42, 1, 182, 0, 138, 58, 4, 42, 25, 4, 182, 0, 138, 58, 5, 42, 44, 182, 0, 108]
abbrev dktX5_link_0 : List UInt8 := dkwX5_link_0 ++ dktX5_link_1
theorem dksX5_link_0 : cX5_link.data.toList.drop 0 = dktX5_link_0 := by decide +kernel
theorem dksX5_link_1 : cX5_link.data.toList.drop 24 = dktX5_link_1 := dk_seg dksX5_link_0 24 rfl rfl
theorem dX5_link_0 : decode cX5_link 0 = .ok (.aload_n 0, 1) := dk_42 (dk_at dksX5_link_0 0 rfl rfl)
theorem dX5_link_1 : decode cX5_link 1 = .ok (.invokevirtual 24, 3) := dk_182 0 24 (dk_at dksX5_link_0 1 rfl rfl)
theorem dX5_link_4 : decode cX5_link 4 = .ok (.aload_n 0, 1) := dk_42 (dk_at dksX5_link_0 4 rfl rfl)
theorem dX5_link_5 : decode cX5_link 5 = .ok (.aconst_null, 1) := dk_1 (dk_at dksX5_link_0 5 rfl rfl)
theorem dX5_link_6 : decode cX5_link 6 = .ok (.invokevirtual 138, 3) := dk_182 0 138 (dk_at dksX5_link_0 6 rfl rfl)
theorem dX5_link_9 : decode cX5_link 9 = .ok (.astore 4, 2) := dk_58 4 (dk_at dksX5_link_0 9 rfl rfl)
theorem dX5_link_11 : decode cX5_link 11 = .ok (.aload_n 0, 1) := dk_42 (dk_at dksX5_link_0 11 rfl rfl)
theorem dX5_link_12 : decode cX5_link 12 = .ok (.aload 4, 2) := dk_25 4 (dk_at dksX5_link_0 12 rfl rfl)
theorem dX5_link_14 : decode cX5_link 14 = .ok (.invokevirtual 138, 3) := dk_182 0 138 (dk_at dksX5_link_0 14 rfl rfl)
theorem dX5_link_17 : decode cX5_link 17 = .ok (.astore 5, 2) := dk_58 5 (dk_at dksX5_link_0 17 rfl rfl)
theorem dX5_link_19 : decode cX5_link 19 = .ok (.aload_n 0, 1) := dk_42 (dk_at dksX5_link_0 19 rfl rfl)
theorem dX5_link_20 : decode cX5_link 20 = .ok (.aload_n 2, 1) := dk_44 (dk_at dksX5_link_0 20 rfl rfl)
theorem dX5_link_21 : decode cX5_link 21 = .ok (.invokevirtual 108, 3) := dk_182 0 108 (dk_at dksX5_link_0 21 rfl rfl)
theorem dX5_link_24 : decode cX5_link 24 = .ok (.aload_n 1, 1) := dk_43 (dk_at dksX5_link_1 0 rfl rfl)
theorem dX5_link_25 : decode cX5_link 25 = .ok (.new 142, 3) := dk_187 0 142 (dk_at dksX5_link_1 1 rfl rfl)
theorem dX5_link_28 : decode cX5_link 28 = .ok (.dup, 1) := dk_89 (dk_at dksX5_link_1 4 rfl rfl)
theorem dX5_link_29 : decode cX5_link 29 = .ok (.aload 4, 2) := dk_25 4 (dk_at dksX5_link_1 5 rfl rfl)
theorem dX5_link_31 : decode cX5_link 31 = .ok (.aload 5, 2) := dk_25 5 (dk_at dksX5_link_1 7 rfl rfl)
theorem dX5_link_33 : decode cX5_link 33 = .ok (.aload_n 0, 1) := dk_42 (dk_at dksX5_link_1 9 rfl rfl)
theorem dX5_link_34 : decode cX5_link 34 = .ok (.iconst 0, 1) := dk_3 (dk_at dksX5_link_1 10 rfl rfl)
theorem dX5_link_35 : decode cX5_link 35 = .ok (.iload_n 3, 1) := dk_29 (dk_at dksX5_link_1 11 rfl rfl)
theorem dX5_link_36 : decode cX5_link 36 = .ok (.invokevirtual 112, 3) := dk_182 0 112 (dk_at dksX5_link_1 12 rfl rfl)
theorem dX5_link_39 : decode cX5_link 39 = .ok (.invokespecial 144, 3) := dk_183 0 144 (dk_at dksX5_link_1 15 rfl rfl)
theorem dX5_link_42 : decode cX5_link 42 = .ok (.invokevirtual 134, 3) := dk_182 0 134 (dk_at dksX5_link_1 18 rfl rfl)
theorem dX5_link_45 : decode cX5_link 45 = .ok (.pop, 1) := dk_87 (dk_at dksX5_link_1 21 rfl rfl)
theorem dX5_link_46 : decode cX5_link 46 = .ok (.return_, 1) := dk_177 (dk_at dksX5_link_1 22 rfl rfl)
abbrev cX5_named : ByteArray := prog_11_method_4_code
def dkwX5_named_2 : List UInt8 := [183, 0, 103, 191, 42, 182, 0, 24, 44, 176]
abbrev dktX5_named_2 : List UInt8 := dkwX5_named_2 ++ []
def dkwX5_named_1 : List UInt8 := [8, 42, 180, 0, 100, 183, 0, 103, 191, 44, 43, 166, 0, 17, 187, 0, 98, 89, 16, 6, 42, 180, 0, 100]
abbrev dktX5_named_1 : List UInt8 := dkwX5_named_1 ++ dktX5_named_2
def dkwX5_named_0 : List UInt8 := [42, 182, 0, 88, 42, 180, 0, 20, 42, 180, 0, 91, 182, 0, 95, 77, 44, 199, 0, 16, 187, 0, 98, 89]
abbrev dktX5_named_0 : List UInt8 := dkwX5_named_0 ++ dktX5_named_1
theorem dksX5_named_0 : cX5_named.data.toList.drop 0 = dktX5_named_0 := by decide +kernel
theorem dksX5_named_1 : cX5_named.data.toList.drop 24 = dktX5_named_1 := dk_seg dksX5_named_0 24 rfl rfl
theorem dksX5_named_2 : cX5_named.data.toList.drop 48 = dktX5_named_2 := dk_seg dksX5_named_1 24 rfl rfl
theorem dX5_named_0 : decode cX5_named 0 = .ok (.aload_n 0, 1) := dk_42 (dk_at dksX5_named_0 0 rfl rfl)
theorem dX5_named_1 : decode cX5_named 1 = .ok (.invokevirtual 88, 3) := dk_182 0 88 (dk_at dksX5_named_0 1 rfl rfl)
theorem dX5_named_4 : decode cX5_named 4 = .ok (.aload_n 0, 1) := dk_42 (dk_at dksX5_named_0 4 rfl rfl)
theorem dX5_named_5 : decode cX5_named 5 = .ok (.getfield 20, 3) := dk_180 0 20 (dk_at dksX5_named_0 5 rfl rfl)
theorem dX5_named_8 : decode cX5_named 8 = .ok (.aload_n 0, 1) := dk_42 (dk_at dksX5_named_0 8 rfl rfl)
theorem dX5_named_9 : decode cX5_named 9 = .ok (.getfield 91, 3) := dk_180 0 91 (dk_at dksX5_named_0 9 rfl rfl)
theorem dX5_named_12 : decode cX5_named 12 = .ok (.invokevirtual 95, 3) := dk_182 0 95 (dk_at dksX5_named_0 12 rfl rfl)
theorem dX5_named_15 : decode cX5_named 15 = .ok (.astore_n 2, 1) := dk_77 (dk_at dksX5_named_0 15 rfl rfl)
theorem dX5_named_16 : decode cX5_named 16 = .ok (.aload_n 2, 1) := dk_44 (dk_at dksX5_named_0 16 rfl rfl)
theorem dX5_named_17 : decode cX5_named 17 = .ok (.ifnonnull 16, 3) := dk_199 0 16 (dk_at dksX5_named_0 17 rfl rfl)
theorem dX5_named_20 : decode cX5_named 20 = .ok (.new 98, 3) := dk_187 0 98 (dk_at dksX5_named_0 20 rfl rfl)
theorem dX5_named_23 : decode cX5_named 23 = .ok (.dup, 1) := dk_89 (dk_at dksX5_named_0 23 rfl rfl)
theorem dX5_named_24 : decode cX5_named 24 = .ok (.iconst 5, 1) := dk_8 (dk_at dksX5_named_1 0 rfl rfl)
theorem dX5_named_25 : decode cX5_named 25 = .ok (.aload_n 0, 1) := dk_42 (dk_at dksX5_named_1 1 rfl rfl)
theorem dX5_named_26 : decode cX5_named 26 = .ok (.getfield 100, 3) := dk_180 0 100 (dk_at dksX5_named_1 2 rfl rfl)
theorem dX5_named_29 : decode cX5_named 29 = .ok (.invokespecial 103, 3) := dk_183 0 103 (dk_at dksX5_named_1 5 rfl rfl)
theorem dX5_named_32 : decode cX5_named 32 = .ok (.athrow, 1) := dk_191 (dk_at dksX5_named_1 8 rfl rfl)
theorem dX5_named_33 : decode cX5_named 33 = .ok (.aload_n 2, 1) := dk_44 (dk_at dksX5_named_1 9 rfl rfl)
theorem dX5_named_34 : decode cX5_named 34 = .ok (.aload_n 1, 1) := dk_43 (dk_at dksX5_named_1 10 rfl rfl)
theorem dX5_named_35 : decode cX5_named 35 = .ok (.if_acmp .ne 17, 3) := dk_166 0 17 (dk_at dksX5_named_1 11 rfl rfl)
theorem dX5_named_38 : decode cX5_named 38 = .ok (.new 98, 3) := dk_187 0 98 (dk_at dksX5_named_1 14 rfl rfl)
theorem dX5_named_41 : decode cX5_named 41 = .ok (.dup, 1) := dk_89 (dk_at dksX5_named_1 17 rfl rfl)
theorem dX5_named_42 : decode cX5_named 42 = .ok (.bipush 6, 2) := dk_16 6 (dk_at dksX5_named_1 18 rfl rfl)
theorem dX5_named_44 : decode cX5_named 44 = .ok (.aload_n 0, 1) := dk_42 (dk_at dksX5_named_1 20 rfl rfl)
theorem dX5_named_45 : decode cX5_named 45 = .ok (.getfield 100, 3) := dk_180 0 100 (dk_at dksX5_named_1 21 rfl rfl)
theorem dX5_named_48 : decode cX5_named 48 = .ok (.invokespecial 103, 3) := dk_183 0 103 (dk_at dksX5_named_2 0 rfl rfl)
theorem dX5_named_51 : decode cX5_named 51 = .ok (.athrow, 1) := dk_191 (dk_at dksX5_named_2 3 rfl rfl)
theorem dX5_named_52 : decode cX5_named 52 = .ok (.aload_n 0, 1) := dk_42 (dk_at dksX5_named_2 4 rfl rfl)
theorem dX5_named_53 : decode cX5_named 53 = .ok (.invokevirtual 24, 3) := dk_182 0 24 (dk_at dksX5_named_2 5 rfl rfl)
theorem dX5_named_56 : decode cX5_named 56 = .ok (.aload_n 2, 1) := dk_44 (dk_at dksX5_named_2 8 rfl rfl)
theorem dX5_named_57 : decode cX5_named 57 = .ok (.areturn, 1) := dk_176 (dk_at dksX5_named_2 9 rfl rfl)
abbrev cX5_part : ByteArray := prog_11_method_3_code
def dkwX5_part_8 : List UInt8 := [21, 7, 28, 29, 21, 5, 21, 6, 183, 0, 133, 182, 0, 134, 87, 177]
abbrev dktX5_part_8 : List UInt8 := dkwX5_part_8 ++ []
def dkwX5_part_7 : List UInt8 := [187, 0, 126, 89, 43, 21, 7, 28, 29, 21, 5, 21, 6, 183, 0, 128, 167, 0, 19, 187, 0, 131, 89, 43]
abbrev dktX5_part_7 : List UInt8 := dkwX5_part_7 ++ dktX5_part_8
def dkwX5_part_6 : List UInt8 := [180, 0, 20, 180, 0, 37, 182, 0, 41, 54, 7, 42, 180, 0, 20, 180, 0, 37, 21, 4, 153, 0, 22]
abbrev dktX5_part_6 : List UInt8 := dkwX5_part_6 ++ dktX5_part_7
def dkwX5_part_5 : List UInt8 := [182, 0, 112, 54, 5, 42, 18, 124, 182, 0, 108, 42, 3, 17, 3, 231, 182, 0, 112, 54, 6, 42]
abbrev dktX5_part_5 : List UInt8 := dkwX5_part_5 ++ dktX5_part_6
def dkwX5_part_4 : List UInt8 := [154, 0, 8, 42, 182, 0, 77, 191, 42, 182, 0, 24, 42, 18, 122, 182, 0, 108, 42, 3, 16, 99]
abbrev dktX5_part_4 : List UInt8 := dkwX5_part_4 ++ dktX5_part_5
def dkwX5_part_3 : List UInt8 := [182, 0, 112, 62, 42, 18, 118, 182, 0, 33, 54, 4, 21, 4, 154, 0, 17, 42, 18, 120, 182, 0, 33]
abbrev dktX5_part_3 : List UInt8 := dkwX5_part_3 ++ dktX5_part_4
def dkwX5_part_2 : List UInt8 := [18, 106, 182, 0, 108, 42, 3, 4, 182, 0, 112, 61, 42, 18, 116, 182, 0, 108, 42, 4, 17, 3, 231]
abbrev dktX5_part_2 : List UInt8 := dkwX5_part_2 ++ dktX5_part_3
def dkwX5_part_1 : List UInt8 := [187, 0, 98, 89, 6, 42, 180, 0, 100, 183, 0, 103, 191, 42, 180, 0, 91, 76, 42, 182, 0, 24, 42]
abbrev dktX5_part_1 : List UInt8 := dkwX5_part_1 ++ dktX5_part_2
def dkwX5_part_0 : List UInt8 := [42, 182, 0, 24, 42, 182, 0, 88, 42, 180, 0, 20, 42, 180, 0, 91, 182, 0, 95, 198, 0, 16]
abbrev dktX5_part_0 : List UInt8 := dkwX5_part_0 ++ dktX5_part_1
theorem dksX5_part_0 : cX5_part.data.toList.drop 0 = dktX5_part_0 := by decide +kernel
theorem dksX5_part_1 : cX5_part.data.toList.drop 22 = dktX5_part_1 := dk_seg dksX5_part_0 22 rfl rfl
theorem dksX5_part_2 : cX5_part.data.toList.drop 45 = dktX5_part_2 := dk_seg dksX5_part_1 23 rfl rfl
theorem dksX5_part_3 : cX5_part.data.toList.drop 68 = dktX5_part_3 := dk_seg dksX5_part_2 23 rfl rfl
theorem dksX5_part_4 : cX5_part.data.toList.drop 91 = dktX5_part_4 := dk_seg dksX5_part_3 23 rfl rfl
theorem dksX5_part_5 : cX5_part.data.toList.drop 113 = dktX5_part_5 := dk_seg dksX5_part_4 22 rfl rfl
theorem dksX5_part_6 : cX5_part.data.toList.drop 135 = dktX5_part_6 := dk_seg dksX5_part_5 22 rfl rfl
theorem dksX5_part_7 : cX5_part.data.toList.drop 158 = dktX5_part_7 := dk_seg dksX5_part_6 23 rfl rfl
theorem dksX5_part_8 : cX5_part.data.toList.drop 182 = dktX5_part_8 := dk_seg dksX5_part_7 24 rfl rfl
theorem dX5_part_0 : decode cX5_part 0 = .ok (.aload_n 0, 1) := dk_42 (dk_at dksX5_part_0 0 rfl rfl)
theorem dX5_part_1 : decode cX5_part 1 = .ok (.invokevirtual 24, 3) := dk_182 0 24 (dk_at dksX5_part_0 1 rfl rfl)
theorem dX5_part_4 : decode cX5_part 4 = .ok (.aload_n 0, 1) := dk_42 (dk_at dksX5_part_0 4 rfl rfl)
theorem dX5_part_5 : decode cX5_part 5 = .ok (.invokevirtual 88, 3) := dk_182 0 88 (dk_at dksX5_part_0 5 rfl rfl)
theorem dX5_part_8 : decode cX5_part 8 = .ok (.aload_n 0, 1) := dk_42 (dk_at dksX5_part_0 8 rfl rfl)
theorem dX5_part_9 : decode cX5_part 9 = .ok (.getfield 20, 3) := dk_180 0 20 (dk_at dksX5_part_0 9 rfl rfl)
theorem dX5_part_12 : decode cX5_part 12 = .ok (.aload_n 0, 1) := dk_42 (dk_at dksX5_part_0 12 rfl rfl)
theorem dX5_part_13 : decode cX5_part 13 = .ok (.getfield 91, 3) := dk_180 0 91 (dk_at dksX5_part_0 13 rfl rfl)
theorem dX5_part_16 : decode cX5_part 16 = .ok (.invokevirtual 95, 3) := dk_182 0 95 (dk_at dksX5_part_0 16 rfl rfl)
theorem dX5_part_19 : decode cX5_part 19 = .ok (.ifnull 16, 3) := dk_198 0 16 (dk_at dksX5_part_0 19 rfl rfl)
theorem dX5_part_22 : decode cX5_part 22 = .ok (.new 98, 3) := dk_187 0 98 (dk_at dksX5_part_1 0 rfl rfl)
theorem dX5_part_25 : decode cX5_part 25 = .ok (.dup, 1) := dk_89 (dk_at dksX5_part_1 3 rfl rfl)
theorem dX5_part_26 : decode cX5_part 26 = .ok (.iconst 3, 1) := dk_6 (dk_at dksX5_part_1 4 rfl rfl)
theorem dX5_part_27 : decode cX5_part 27 = .ok (.aload_n 0, 1) := dk_42 (dk_at dksX5_part_1 5 rfl rfl)
theorem dX5_part_28 : decode cX5_part 28 = .ok (.getfield 100, 3) := dk_180 0 100 (dk_at dksX5_part_1 6 rfl rfl)
theorem dX5_part_31 : decode cX5_part 31 = .ok (.invokespecial 103, 3) := dk_183 0 103 (dk_at dksX5_part_1 9 rfl rfl)
theorem dX5_part_34 : decode cX5_part 34 = .ok (.athrow, 1) := dk_191 (dk_at dksX5_part_1 12 rfl rfl)
theorem dX5_part_35 : decode cX5_part 35 = .ok (.aload_n 0, 1) := dk_42 (dk_at dksX5_part_1 13 rfl rfl)
theorem dX5_part_36 : decode cX5_part 36 = .ok (.getfield 91, 3) := dk_180 0 91 (dk_at dksX5_part_1 14 rfl rfl)
theorem dX5_part_39 : decode cX5_part 39 = .ok (.astore_n 1, 1) := dk_76 (dk_at dksX5_part_1 17 rfl rfl)
theorem dX5_part_40 : decode cX5_part 40 = .ok (.aload_n 0, 1) := dk_42 (dk_at dksX5_part_1 18 rfl rfl)
theorem dX5_part_41 : decode cX5_part 41 = .ok (.invokevirtual 24, 3) := dk_182 0 24 (dk_at dksX5_part_1 19 rfl rfl)
theorem dX5_part_44 : decode cX5_part 44 = .ok (.aload_n 0, 1) := dk_42 (dk_at dksX5_part_1 22 rfl rfl)
theorem dX5_part_45 : decode cX5_part 45 = .ok (.ldc 106, 2) := dk_18 106 (dk_at dksX5_part_2 0 rfl rfl)
theorem dX5_part_47 : decode cX5_part 47 = .ok (.invokevirtual 108, 3) := dk_182 0 108 (dk_at dksX5_part_2 2 rfl rfl)
theorem dX5_part_50 : decode cX5_part 50 = .ok (.aload_n 0, 1) := dk_42 (dk_at dksX5_part_2 5 rfl rfl)
theorem dX5_part_51 : decode cX5_part 51 = .ok (.iconst 0, 1) := dk_3 (dk_at dksX5_part_2 6 rfl rfl)
theorem dX5_part_52 : decode cX5_part 52 = .ok (.iconst 1, 1) := dk_4 (dk_at dksX5_part_2 7 rfl rfl)
theorem dX5_part_53 : decode cX5_part 53 = .ok (.invokevirtual 112, 3) := dk_182 0 112 (dk_at dksX5_part_2 8 rfl rfl)
theorem dX5_part_56 : decode cX5_part 56 = .ok (.istore_n 2, 1) := dk_61 (dk_at dksX5_part_2 11 rfl rfl)
theorem dX5_part_57 : decode cX5_part 57 = .ok (.aload_n 0, 1) := dk_42 (dk_at dksX5_part_2 12 rfl rfl)
theorem dX5_part_58 : decode cX5_part 58 = .ok (.ldc 116, 2) := dk_18 116 (dk_at dksX5_part_2 13 rfl rfl)
theorem dX5_part_60 : decode cX5_part 60 = .ok (.invokevirtual 108, 3) := dk_182 0 108 (dk_at dksX5_part_2 15 rfl rfl)
theorem dX5_part_63 : decode cX5_part 63 = .ok (.aload_n 0, 1) := dk_42 (dk_at dksX5_part_2 18 rfl rfl)
theorem dX5_part_64 : decode cX5_part 64 = .ok (.iconst 1, 1) := dk_4 (dk_at dksX5_part_2 19 rfl rfl)
theorem dX5_part_65 : decode cX5_part 65 = .ok (.sipush 999, 3) := dk_17 3 231 (dk_at dksX5_part_2 20 rfl rfl)
theorem dX5_part_68 : decode cX5_part 68 = .ok (.invokevirtual 112, 3) := dk_182 0 112 (dk_at dksX5_part_3 0 rfl rfl)
theorem dX5_part_71 : decode cX5_part 71 = .ok (.istore_n 3, 1) := dk_62 (dk_at dksX5_part_3 3 rfl rfl)
theorem dX5_part_72 : decode cX5_part 72 = .ok (.aload_n 0, 1) := dk_42 (dk_at dksX5_part_3 4 rfl rfl)
theorem dX5_part_73 : decode cX5_part 73 = .ok (.ldc 118, 2) := dk_18 118 (dk_at dksX5_part_3 5 rfl rfl)
theorem dX5_part_75 : decode cX5_part 75 = .ok (.invokevirtual 33, 3) := dk_182 0 33 (dk_at dksX5_part_3 7 rfl rfl)
theorem dX5_part_78 : decode cX5_part 78 = .ok (.istore 4, 2) := dk_54 4 (dk_at dksX5_part_3 10 rfl rfl)
theorem dX5_part_80 : decode cX5_part 80 = .ok (.iload 4, 2) := dk_21 4 (dk_at dksX5_part_3 12 rfl rfl)
theorem dX5_part_82 : decode cX5_part 82 = .ok (.ifCond .ne 17, 3) := dk_154 0 17 (dk_at dksX5_part_3 14 rfl rfl)
theorem dX5_part_85 : decode cX5_part 85 = .ok (.aload_n 0, 1) := dk_42 (dk_at dksX5_part_3 17 rfl rfl)
theorem dX5_part_86 : decode cX5_part 86 = .ok (.ldc 120, 2) := dk_18 120 (dk_at dksX5_part_3 18 rfl rfl)
theorem dX5_part_88 : decode cX5_part 88 = .ok (.invokevirtual 33, 3) := dk_182 0 33 (dk_at dksX5_part_3 20 rfl rfl)
theorem dX5_part_91 : decode cX5_part 91 = .ok (.ifCond .ne 8, 3) := dk_154 0 8 (dk_at dksX5_part_4 0 rfl rfl)
theorem dX5_part_94 : decode cX5_part 94 = .ok (.aload_n 0, 1) := dk_42 (dk_at dksX5_part_4 3 rfl rfl)
theorem dX5_part_95 : decode cX5_part 95 = .ok (.invokevirtual 77, 3) := dk_182 0 77 (dk_at dksX5_part_4 4 rfl rfl)
theorem dX5_part_98 : decode cX5_part 98 = .ok (.athrow, 1) := dk_191 (dk_at dksX5_part_4 7 rfl rfl)
theorem dX5_part_99 : decode cX5_part 99 = .ok (.aload_n 0, 1) := dk_42 (dk_at dksX5_part_4 8 rfl rfl)
theorem dX5_part_100 : decode cX5_part 100 = .ok (.invokevirtual 24, 3) := dk_182 0 24 (dk_at dksX5_part_4 9 rfl rfl)
theorem dX5_part_103 : decode cX5_part 103 = .ok (.aload_n 0, 1) := dk_42 (dk_at dksX5_part_4 12 rfl rfl)
theorem dX5_part_104 : decode cX5_part 104 = .ok (.ldc 122, 2) := dk_18 122 (dk_at dksX5_part_4 13 rfl rfl)
theorem dX5_part_106 : decode cX5_part 106 = .ok (.invokevirtual 108, 3) := dk_182 0 108 (dk_at dksX5_part_4 15 rfl rfl)
theorem dX5_part_109 : decode cX5_part 109 = .ok (.aload_n 0, 1) := dk_42 (dk_at dksX5_part_4 18 rfl rfl)
theorem dX5_part_110 : decode cX5_part 110 = .ok (.iconst 0, 1) := dk_3 (dk_at dksX5_part_4 19 rfl rfl)
theorem dX5_part_111 : decode cX5_part 111 = .ok (.bipush 99, 2) := dk_16 99 (dk_at dksX5_part_4 20 rfl rfl)
theorem dX5_part_113 : decode cX5_part 113 = .ok (.invokevirtual 112, 3) := dk_182 0 112 (dk_at dksX5_part_5 0 rfl rfl)
theorem dX5_part_116 : decode cX5_part 116 = .ok (.istore 5, 2) := dk_54 5 (dk_at dksX5_part_5 3 rfl rfl)
theorem dX5_part_118 : decode cX5_part 118 = .ok (.aload_n 0, 1) := dk_42 (dk_at dksX5_part_5 5 rfl rfl)
theorem dX5_part_119 : decode cX5_part 119 = .ok (.ldc 124, 2) := dk_18 124 (dk_at dksX5_part_5 6 rfl rfl)
theorem dX5_part_121 : decode cX5_part 121 = .ok (.invokevirtual 108, 3) := dk_182 0 108 (dk_at dksX5_part_5 8 rfl rfl)
theorem dX5_part_124 : decode cX5_part 124 = .ok (.aload_n 0, 1) := dk_42 (dk_at dksX5_part_5 11 rfl rfl)
theorem dX5_part_125 : decode cX5_part 125 = .ok (.iconst 0, 1) := dk_3 (dk_at dksX5_part_5 12 rfl rfl)
theorem dX5_part_126 : decode cX5_part 126 = .ok (.sipush 999, 3) := dk_17 3 231 (dk_at dksX5_part_5 13 rfl rfl)
theorem dX5_part_129 : decode cX5_part 129 = .ok (.invokevirtual 112, 3) := dk_182 0 112 (dk_at dksX5_part_5 16 rfl rfl)
theorem dX5_part_132 : decode cX5_part 132 = .ok (.istore 6, 2) := dk_54 6 (dk_at dksX5_part_5 19 rfl rfl)
theorem dX5_part_134 : decode cX5_part 134 = .ok (.aload_n 0, 1) := dk_42 (dk_at dksX5_part_5 21 rfl rfl)
theorem dX5_part_135 : decode cX5_part 135 = .ok (.getfield 20, 3) := dk_180 0 20 (dk_at dksX5_part_6 0 rfl rfl)
theorem dX5_part_138 : decode cX5_part 138 = .ok (.getfield 37, 3) := dk_180 0 37 (dk_at dksX5_part_6 3 rfl rfl)
theorem dX5_part_141 : decode cX5_part 141 = .ok (.invokevirtual 41, 3) := dk_182 0 41 (dk_at dksX5_part_6 6 rfl rfl)
theorem dX5_part_144 : decode cX5_part 144 = .ok (.istore 7, 2) := dk_54 7 (dk_at dksX5_part_6 9 rfl rfl)
theorem dX5_part_146 : decode cX5_part 146 = .ok (.aload_n 0, 1) := dk_42 (dk_at dksX5_part_6 11 rfl rfl)
theorem dX5_part_147 : decode cX5_part 147 = .ok (.getfield 20, 3) := dk_180 0 20 (dk_at dksX5_part_6 12 rfl rfl)
theorem dX5_part_150 : decode cX5_part 150 = .ok (.getfield 37, 3) := dk_180 0 37 (dk_at dksX5_part_6 15 rfl rfl)
theorem dX5_part_153 : decode cX5_part 153 = .ok (.iload 4, 2) := dk_21 4 (dk_at dksX5_part_6 18 rfl rfl)
theorem dX5_part_155 : decode cX5_part 155 = .ok (.ifCond .eq 22, 3) := dk_153 0 22 (dk_at dksX5_part_6 20 rfl rfl)
theorem dX5_part_158 : decode cX5_part 158 = .ok (.new 126, 3) := dk_187 0 126 (dk_at dksX5_part_7 0 rfl rfl)
theorem dX5_part_161 : decode cX5_part 161 = .ok (.dup, 1) := dk_89 (dk_at dksX5_part_7 3 rfl rfl)
theorem dX5_part_162 : decode cX5_part 162 = .ok (.aload_n 1, 1) := dk_43 (dk_at dksX5_part_7 4 rfl rfl)
theorem dX5_part_163 : decode cX5_part 163 = .ok (.iload 7, 2) := dk_21 7 (dk_at dksX5_part_7 5 rfl rfl)
theorem dX5_part_165 : decode cX5_part 165 = .ok (.iload_n 2, 1) := dk_28 (dk_at dksX5_part_7 7 rfl rfl)
theorem dX5_part_166 : decode cX5_part 166 = .ok (.iload_n 3, 1) := dk_29 (dk_at dksX5_part_7 8 rfl rfl)
theorem dX5_part_167 : decode cX5_part 167 = .ok (.iload 5, 2) := dk_21 5 (dk_at dksX5_part_7 9 rfl rfl)
theorem dX5_part_169 : decode cX5_part 169 = .ok (.iload 6, 2) := dk_21 6 (dk_at dksX5_part_7 11 rfl rfl)
theorem dX5_part_171 : decode cX5_part 171 = .ok (.invokespecial 128, 3) := dk_183 0 128 (dk_at dksX5_part_7 13 rfl rfl)
theorem dX5_part_174 : decode cX5_part 174 = .ok (.goto 19, 3) := dk_167 0 19 (dk_at dksX5_part_7 16 rfl rfl)
theorem dX5_part_177 : decode cX5_part 177 = .ok (.new 131, 3) := dk_187 0 131 (dk_at dksX5_part_7 19 rfl rfl)
theorem dX5_part_180 : decode cX5_part 180 = .ok (.dup, 1) := dk_89 (dk_at dksX5_part_7 22 rfl rfl)
theorem dX5_part_181 : decode cX5_part 181 = .ok (.aload_n 1, 1) := dk_43 (dk_at dksX5_part_7 23 rfl rfl)
theorem dX5_part_182 : decode cX5_part 182 = .ok (.iload 7, 2) := dk_21 7 (dk_at dksX5_part_8 0 rfl rfl)
theorem dX5_part_184 : decode cX5_part 184 = .ok (.iload_n 2, 1) := dk_28 (dk_at dksX5_part_8 2 rfl rfl)
theorem dX5_part_185 : decode cX5_part 185 = .ok (.iload_n 3, 1) := dk_29 (dk_at dksX5_part_8 3 rfl rfl)
theorem dX5_part_186 : decode cX5_part 186 = .ok (.iload 5, 2) := dk_21 5 (dk_at dksX5_part_8 4 rfl rfl)
theorem dX5_part_188 : decode cX5_part 188 = .ok (.iload 6, 2) := dk_21 6 (dk_at dksX5_part_8 6 rfl rfl)
theorem dX5_part_190 : decode cX5_part 190 = .ok (.invokespecial 133, 3) := dk_183 0 133 (dk_at dksX5_part_8 8 rfl rfl)
theorem dX5_part_193 : decode cX5_part 193 = .ok (.invokevirtual 134, 3) := dk_182 0 134 (dk_at dksX5_part_8 11 rfl rfl)
theorem dX5_part_196 : decode cX5_part 196 = .ok (.pop, 1) := dk_87 (dk_at dksX5_part_8 14 rfl rfl)
theorem dX5_part_197 : decode cX5_part 197 = .ok (.return_, 1) := dk_177 (dk_at dksX5_part_8 15 rfl rfl)
abbrev cX5_row : ByteArray := prog_11_method_7_code
def dkwX5_row_7 : List UInt8 := [167, 255, 222, 42, 180, 0, 20, 180, 0, 156, 27, 4, 84, 42, 182, 0, 24, 177]
abbrev dktX5_row_7 : List UInt8 := dkwX5_row_7 ++ []
def dkwX5_row_6 : List UInt8 := [180, 0, 172, 16, 8, 27, 104, 29, 96, 42, 180, 0, 91, 29, 182, 0, 168, 16, 97, 100, 79, 132, 3, 1]
abbrev dktX5_row_6 : List UInt8 := dkwX5_row_6 ++ dktX5_row_7
def dkwX5_row_5 : List UInt8 := [89, 7, 42, 180, 0, 100, 183, 0, 103, 191, 3, 62, 29, 16, 8, 162, 0, 34, 42, 180, 0, 20]
abbrev dktX5_row_5 : List UInt8 := dkwX5_row_5 ++ dktX5_row_6
def dkwX5_row_4 : List UInt8 := [16, 104, 163, 0, 7, 4, 167, 0, 4, 3, 61, 132, 3, 1, 167, 255, 219, 28, 154, 0, 16, 187, 0, 98]
abbrev dktX5_row_4 : List UInt8 := dkwX5_row_4 ++ dktX5_row_5
def dkwX5_row_3 : List UInt8 := [29, 42, 180, 0, 91, 182, 0, 163, 162, 0, 32, 28, 153, 0, 28, 42, 180, 0, 91, 29, 182, 0, 168]
abbrev dktX5_row_3 : List UInt8 := dkwX5_row_3 ++ dktX5_row_4
def dkwX5_row_2 : List UInt8 := [182, 0, 77, 191, 42, 180, 0, 91, 182, 0, 163, 16, 8, 160, 0, 7, 4, 167, 0, 4, 3, 61, 3, 62]
abbrev dktX5_row_2 : List UInt8 := dkwX5_row_2 ++ dktX5_row_3
def dkwX5_row_1 : List UInt8 := [187, 0, 98, 89, 6, 42, 180, 0, 160, 183, 0, 103, 191, 42, 180, 0, 27, 4, 159, 0, 8, 42]
abbrev dktX5_row_1 : List UInt8 := dkwX5_row_1 ++ dktX5_row_2
def dkwX5_row_0 : List UInt8 := [42, 182, 0, 24, 42, 3, 16, 7, 182, 0, 112, 60, 42, 180, 0, 20, 180, 0, 156, 27, 51, 153, 0, 16]
abbrev dktX5_row_0 : List UInt8 := dkwX5_row_0 ++ dktX5_row_1
theorem dksX5_row_0 : cX5_row.data.toList.drop 0 = dktX5_row_0 := by decide +kernel
theorem dksX5_row_1 : cX5_row.data.toList.drop 24 = dktX5_row_1 := dk_seg dksX5_row_0 24 rfl rfl
theorem dksX5_row_2 : cX5_row.data.toList.drop 46 = dktX5_row_2 := dk_seg dksX5_row_1 22 rfl rfl
theorem dksX5_row_3 : cX5_row.data.toList.drop 70 = dktX5_row_3 := dk_seg dksX5_row_2 24 rfl rfl
theorem dksX5_row_4 : cX5_row.data.toList.drop 93 = dktX5_row_4 := dk_seg dksX5_row_3 23 rfl rfl
theorem dksX5_row_5 : cX5_row.data.toList.drop 117 = dktX5_row_5 := dk_seg dksX5_row_4 24 rfl rfl
theorem dksX5_row_6 : cX5_row.data.toList.drop 139 = dktX5_row_6 := dk_seg dksX5_row_5 22 rfl rfl
theorem dksX5_row_7 : cX5_row.data.toList.drop 163 = dktX5_row_7 := dk_seg dksX5_row_6 24 rfl rfl
theorem dX5_row_0 : decode cX5_row 0 = .ok (.aload_n 0, 1) := dk_42 (dk_at dksX5_row_0 0 rfl rfl)
theorem dX5_row_1 : decode cX5_row 1 = .ok (.invokevirtual 24, 3) := dk_182 0 24 (dk_at dksX5_row_0 1 rfl rfl)
theorem dX5_row_4 : decode cX5_row 4 = .ok (.aload_n 0, 1) := dk_42 (dk_at dksX5_row_0 4 rfl rfl)
theorem dX5_row_5 : decode cX5_row 5 = .ok (.iconst 0, 1) := dk_3 (dk_at dksX5_row_0 5 rfl rfl)
theorem dX5_row_6 : decode cX5_row 6 = .ok (.bipush 7, 2) := dk_16 7 (dk_at dksX5_row_0 6 rfl rfl)
theorem dX5_row_8 : decode cX5_row 8 = .ok (.invokevirtual 112, 3) := dk_182 0 112 (dk_at dksX5_row_0 8 rfl rfl)
theorem dX5_row_11 : decode cX5_row 11 = .ok (.istore_n 1, 1) := dk_60 (dk_at dksX5_row_0 11 rfl rfl)
theorem dX5_row_12 : decode cX5_row 12 = .ok (.aload_n 0, 1) := dk_42 (dk_at dksX5_row_0 12 rfl rfl)
theorem dX5_row_13 : decode cX5_row 13 = .ok (.getfield 20, 3) := dk_180 0 20 (dk_at dksX5_row_0 13 rfl rfl)
theorem dX5_row_16 : decode cX5_row 16 = .ok (.getfield 156, 3) := dk_180 0 156 (dk_at dksX5_row_0 16 rfl rfl)
theorem dX5_row_19 : decode cX5_row 19 = .ok (.iload_n 1, 1) := dk_27 (dk_at dksX5_row_0 19 rfl rfl)
theorem dX5_row_20 : decode cX5_row 20 = .ok (.baload, 1) := dk_51 (dk_at dksX5_row_0 20 rfl rfl)
theorem dX5_row_21 : decode cX5_row 21 = .ok (.ifCond .eq 16, 3) := dk_153 0 16 (dk_at dksX5_row_0 21 rfl rfl)
theorem dX5_row_24 : decode cX5_row 24 = .ok (.new 98, 3) := dk_187 0 98 (dk_at dksX5_row_1 0 rfl rfl)
theorem dX5_row_27 : decode cX5_row 27 = .ok (.dup, 1) := dk_89 (dk_at dksX5_row_1 3 rfl rfl)
theorem dX5_row_28 : decode cX5_row 28 = .ok (.iconst 3, 1) := dk_6 (dk_at dksX5_row_1 4 rfl rfl)
theorem dX5_row_29 : decode cX5_row 29 = .ok (.aload_n 0, 1) := dk_42 (dk_at dksX5_row_1 5 rfl rfl)
theorem dX5_row_30 : decode cX5_row 30 = .ok (.getfield 160, 3) := dk_180 0 160 (dk_at dksX5_row_1 6 rfl rfl)
theorem dX5_row_33 : decode cX5_row 33 = .ok (.invokespecial 103, 3) := dk_183 0 103 (dk_at dksX5_row_1 9 rfl rfl)
theorem dX5_row_36 : decode cX5_row 36 = .ok (.athrow, 1) := dk_191 (dk_at dksX5_row_1 12 rfl rfl)
theorem dX5_row_37 : decode cX5_row 37 = .ok (.aload_n 0, 1) := dk_42 (dk_at dksX5_row_1 13 rfl rfl)
theorem dX5_row_38 : decode cX5_row 38 = .ok (.getfield 27, 3) := dk_180 0 27 (dk_at dksX5_row_1 14 rfl rfl)
theorem dX5_row_41 : decode cX5_row 41 = .ok (.iconst 1, 1) := dk_4 (dk_at dksX5_row_1 17 rfl rfl)
theorem dX5_row_42 : decode cX5_row 42 = .ok (.if_icmp .eq 8, 3) := dk_159 0 8 (dk_at dksX5_row_1 18 rfl rfl)
theorem dX5_row_45 : decode cX5_row 45 = .ok (.aload_n 0, 1) := dk_42 (dk_at dksX5_row_1 21 rfl rfl)
theorem dX5_row_46 : decode cX5_row 46 = .ok (.invokevirtual 77, 3) := dk_182 0 77 (dk_at dksX5_row_2 0 rfl rfl)
theorem dX5_row_49 : decode cX5_row 49 = .ok (.athrow, 1) := dk_191 (dk_at dksX5_row_2 3 rfl rfl)
theorem dX5_row_50 : decode cX5_row 50 = .ok (.aload_n 0, 1) := dk_42 (dk_at dksX5_row_2 4 rfl rfl)
theorem dX5_row_51 : decode cX5_row 51 = .ok (.getfield 91, 3) := dk_180 0 91 (dk_at dksX5_row_2 5 rfl rfl)
theorem dX5_row_54 : decode cX5_row 54 = .ok (.invokevirtual 163, 3) := dk_182 0 163 (dk_at dksX5_row_2 8 rfl rfl)
theorem dX5_row_57 : decode cX5_row 57 = .ok (.bipush 8, 2) := dk_16 8 (dk_at dksX5_row_2 11 rfl rfl)
theorem dX5_row_59 : decode cX5_row 59 = .ok (.if_icmp .ne 7, 3) := dk_160 0 7 (dk_at dksX5_row_2 13 rfl rfl)
theorem dX5_row_62 : decode cX5_row 62 = .ok (.iconst 1, 1) := dk_4 (dk_at dksX5_row_2 16 rfl rfl)
theorem dX5_row_63 : decode cX5_row 63 = .ok (.goto 4, 3) := dk_167 0 4 (dk_at dksX5_row_2 17 rfl rfl)
theorem dX5_row_66 : decode cX5_row 66 = .ok (.iconst 0, 1) := dk_3 (dk_at dksX5_row_2 20 rfl rfl)
theorem dX5_row_67 : decode cX5_row 67 = .ok (.istore_n 2, 1) := dk_61 (dk_at dksX5_row_2 21 rfl rfl)
theorem dX5_row_68 : decode cX5_row 68 = .ok (.iconst 0, 1) := dk_3 (dk_at dksX5_row_2 22 rfl rfl)
theorem dX5_row_69 : decode cX5_row 69 = .ok (.istore_n 3, 1) := dk_62 (dk_at dksX5_row_2 23 rfl rfl)
theorem dX5_row_70 : decode cX5_row 70 = .ok (.iload_n 3, 1) := dk_29 (dk_at dksX5_row_3 0 rfl rfl)
theorem dX5_row_71 : decode cX5_row 71 = .ok (.aload_n 0, 1) := dk_42 (dk_at dksX5_row_3 1 rfl rfl)
theorem dX5_row_72 : decode cX5_row 72 = .ok (.getfield 91, 3) := dk_180 0 91 (dk_at dksX5_row_3 2 rfl rfl)
theorem dX5_row_75 : decode cX5_row 75 = .ok (.invokevirtual 163, 3) := dk_182 0 163 (dk_at dksX5_row_3 5 rfl rfl)
theorem dX5_row_78 : decode cX5_row 78 = .ok (.if_icmp .ge 32, 3) := dk_162 0 32 (dk_at dksX5_row_3 8 rfl rfl)
theorem dX5_row_81 : decode cX5_row 81 = .ok (.iload_n 2, 1) := dk_28 (dk_at dksX5_row_3 11 rfl rfl)
theorem dX5_row_82 : decode cX5_row 82 = .ok (.ifCond .eq 28, 3) := dk_153 0 28 (dk_at dksX5_row_3 12 rfl rfl)
theorem dX5_row_85 : decode cX5_row 85 = .ok (.aload_n 0, 1) := dk_42 (dk_at dksX5_row_3 15 rfl rfl)
theorem dX5_row_86 : decode cX5_row 86 = .ok (.getfield 91, 3) := dk_180 0 91 (dk_at dksX5_row_3 16 rfl rfl)
theorem dX5_row_89 : decode cX5_row 89 = .ok (.iload_n 3, 1) := dk_29 (dk_at dksX5_row_3 19 rfl rfl)
theorem dX5_row_90 : decode cX5_row 90 = .ok (.invokevirtual 168, 3) := dk_182 0 168 (dk_at dksX5_row_3 20 rfl rfl)
theorem dX5_row_93 : decode cX5_row 93 = .ok (.bipush 104, 2) := dk_16 104 (dk_at dksX5_row_4 0 rfl rfl)
theorem dX5_row_95 : decode cX5_row 95 = .ok (.if_icmp .gt 7, 3) := dk_163 0 7 (dk_at dksX5_row_4 2 rfl rfl)
theorem dX5_row_98 : decode cX5_row 98 = .ok (.iconst 1, 1) := dk_4 (dk_at dksX5_row_4 5 rfl rfl)
theorem dX5_row_99 : decode cX5_row 99 = .ok (.goto 4, 3) := dk_167 0 4 (dk_at dksX5_row_4 6 rfl rfl)
theorem dX5_row_102 : decode cX5_row 102 = .ok (.iconst 0, 1) := dk_3 (dk_at dksX5_row_4 9 rfl rfl)
theorem dX5_row_103 : decode cX5_row 103 = .ok (.istore_n 2, 1) := dk_61 (dk_at dksX5_row_4 10 rfl rfl)
theorem dX5_row_104 : decode cX5_row 104 = .ok (.iinc 3 1, 3) := dk_132 3 1 (dk_at dksX5_row_4 11 rfl rfl)
theorem dX5_row_107 : decode cX5_row 107 = .ok (.goto (-37), 3) := dk_167 255 219 (dk_at dksX5_row_4 14 rfl rfl)
theorem dX5_row_110 : decode cX5_row 110 = .ok (.iload_n 2, 1) := dk_28 (dk_at dksX5_row_4 17 rfl rfl)
theorem dX5_row_111 : decode cX5_row 111 = .ok (.ifCond .ne 16, 3) := dk_154 0 16 (dk_at dksX5_row_4 18 rfl rfl)
theorem dX5_row_114 : decode cX5_row 114 = .ok (.new 98, 3) := dk_187 0 98 (dk_at dksX5_row_4 21 rfl rfl)
theorem dX5_row_117 : decode cX5_row 117 = .ok (.dup, 1) := dk_89 (dk_at dksX5_row_5 0 rfl rfl)
theorem dX5_row_118 : decode cX5_row 118 = .ok (.iconst 4, 1) := dk_7 (dk_at dksX5_row_5 1 rfl rfl)
theorem dX5_row_119 : decode cX5_row 119 = .ok (.aload_n 0, 1) := dk_42 (dk_at dksX5_row_5 2 rfl rfl)
theorem dX5_row_120 : decode cX5_row 120 = .ok (.getfield 100, 3) := dk_180 0 100 (dk_at dksX5_row_5 3 rfl rfl)
theorem dX5_row_123 : decode cX5_row 123 = .ok (.invokespecial 103, 3) := dk_183 0 103 (dk_at dksX5_row_5 6 rfl rfl)
theorem dX5_row_126 : decode cX5_row 126 = .ok (.athrow, 1) := dk_191 (dk_at dksX5_row_5 9 rfl rfl)
theorem dX5_row_127 : decode cX5_row 127 = .ok (.iconst 0, 1) := dk_3 (dk_at dksX5_row_5 10 rfl rfl)
theorem dX5_row_128 : decode cX5_row 128 = .ok (.istore_n 3, 1) := dk_62 (dk_at dksX5_row_5 11 rfl rfl)
theorem dX5_row_129 : decode cX5_row 129 = .ok (.iload_n 3, 1) := dk_29 (dk_at dksX5_row_5 12 rfl rfl)
theorem dX5_row_130 : decode cX5_row 130 = .ok (.bipush 8, 2) := dk_16 8 (dk_at dksX5_row_5 13 rfl rfl)
theorem dX5_row_132 : decode cX5_row 132 = .ok (.if_icmp .ge 34, 3) := dk_162 0 34 (dk_at dksX5_row_5 15 rfl rfl)
theorem dX5_row_135 : decode cX5_row 135 = .ok (.aload_n 0, 1) := dk_42 (dk_at dksX5_row_5 18 rfl rfl)
theorem dX5_row_136 : decode cX5_row 136 = .ok (.getfield 20, 3) := dk_180 0 20 (dk_at dksX5_row_5 19 rfl rfl)
theorem dX5_row_139 : decode cX5_row 139 = .ok (.getfield 172, 3) := dk_180 0 172 (dk_at dksX5_row_6 0 rfl rfl)
theorem dX5_row_142 : decode cX5_row 142 = .ok (.bipush 8, 2) := dk_16 8 (dk_at dksX5_row_6 3 rfl rfl)
theorem dX5_row_144 : decode cX5_row 144 = .ok (.iload_n 1, 1) := dk_27 (dk_at dksX5_row_6 5 rfl rfl)
theorem dX5_row_145 : decode cX5_row 145 = .ok (.imul, 1) := dk_104 (dk_at dksX5_row_6 6 rfl rfl)
theorem dX5_row_146 : decode cX5_row 146 = .ok (.iload_n 3, 1) := dk_29 (dk_at dksX5_row_6 7 rfl rfl)
theorem dX5_row_147 : decode cX5_row 147 = .ok (.iadd, 1) := dk_96 (dk_at dksX5_row_6 8 rfl rfl)
theorem dX5_row_148 : decode cX5_row 148 = .ok (.aload_n 0, 1) := dk_42 (dk_at dksX5_row_6 9 rfl rfl)
theorem dX5_row_149 : decode cX5_row 149 = .ok (.getfield 91, 3) := dk_180 0 91 (dk_at dksX5_row_6 10 rfl rfl)
theorem dX5_row_152 : decode cX5_row 152 = .ok (.iload_n 3, 1) := dk_29 (dk_at dksX5_row_6 13 rfl rfl)
theorem dX5_row_153 : decode cX5_row 153 = .ok (.invokevirtual 168, 3) := dk_182 0 168 (dk_at dksX5_row_6 14 rfl rfl)
theorem dX5_row_156 : decode cX5_row 156 = .ok (.bipush 97, 2) := dk_16 97 (dk_at dksX5_row_6 17 rfl rfl)
theorem dX5_row_158 : decode cX5_row 158 = .ok (.isub, 1) := dk_100 (dk_at dksX5_row_6 19 rfl rfl)
theorem dX5_row_159 : decode cX5_row 159 = .ok (.iastore, 1) := dk_79 (dk_at dksX5_row_6 20 rfl rfl)
theorem dX5_row_160 : decode cX5_row 160 = .ok (.iinc 3 1, 3) := dk_132 3 1 (dk_at dksX5_row_6 21 rfl rfl)
theorem dX5_row_163 : decode cX5_row 163 = .ok (.goto (-34), 3) := dk_167 255 222 (dk_at dksX5_row_7 0 rfl rfl)
theorem dX5_row_166 : decode cX5_row 166 = .ok (.aload_n 0, 1) := dk_42 (dk_at dksX5_row_7 3 rfl rfl)
theorem dX5_row_167 : decode cX5_row 167 = .ok (.getfield 20, 3) := dk_180 0 20 (dk_at dksX5_row_7 4 rfl rfl)
theorem dX5_row_170 : decode cX5_row 170 = .ok (.getfield 156, 3) := dk_180 0 156 (dk_at dksX5_row_7 7 rfl rfl)
theorem dX5_row_173 : decode cX5_row 173 = .ok (.iload_n 1, 1) := dk_27 (dk_at dksX5_row_7 10 rfl rfl)
theorem dX5_row_174 : decode cX5_row 174 = .ok (.iconst 1, 1) := dk_4 (dk_at dksX5_row_7 11 rfl rfl)
theorem dX5_row_175 : decode cX5_row 175 = .ok (.bastore, 1) := dk_84 (dk_at dksX5_row_7 12 rfl rfl)
theorem dX5_row_176 : decode cX5_row 176 = .ok (.aload_n 0, 1) := dk_42 (dk_at dksX5_row_7 13 rfl rfl)
theorem dX5_row_177 : decode cX5_row 177 = .ok (.invokevirtual 24, 3) := dk_182 0 24 (dk_at dksX5_row_7 14 rfl rfl)
theorem dX5_row_180 : decode cX5_row 180 = .ok (.return_, 1) := dk_177 (dk_at dksX5_row_7 17 rfl rfl)
abbrev cX5_tank : ByteArray := prog_11_method_6_code
def dkwX5_tank_3 : List UInt8 := [181, 0, 68, 177]
abbrev dktX5_tank_3 : List UInt8 := dkwX5_tank_3 ++ []
def dkwX5_tank_2 : List UInt8 := [180, 0, 20, 180, 0, 68, 42, 4, 16, 15, 182, 0, 112, 79, 42, 180, 0, 20, 89, 180, 0, 68, 4, 96]
abbrev dktX5_tank_2 : List UInt8 := dkwX5_tank_2 ++ dktX5_tank_3
def dkwX5_tank_1 : List UInt8 := [42, 3, 16, 99, 182, 0, 112, 79, 42, 18, 152, 182, 0, 108, 42, 180, 0, 20, 180, 0, 154, 42]
abbrev dktX5_tank_1 : List UInt8 := dkwX5_tank_1 ++ dktX5_tank_2
def dkwX5_tank_0 : List UInt8 := [42, 182, 0, 24, 42, 18, 147, 182, 0, 108, 42, 180, 0, 20, 180, 0, 149, 42, 180, 0, 20, 180, 0, 68]
abbrev dktX5_tank_0 : List UInt8 := dkwX5_tank_0 ++ dktX5_tank_1
theorem dksX5_tank_0 : cX5_tank.data.toList.drop 0 = dktX5_tank_0 := by decide +kernel
theorem dksX5_tank_1 : cX5_tank.data.toList.drop 24 = dktX5_tank_1 := dk_seg dksX5_tank_0 24 rfl rfl
theorem dksX5_tank_2 : cX5_tank.data.toList.drop 46 = dktX5_tank_2 := dk_seg dksX5_tank_1 22 rfl rfl
theorem dksX5_tank_3 : cX5_tank.data.toList.drop 70 = dktX5_tank_3 := dk_seg dksX5_tank_2 24 rfl rfl
theorem dX5_tank_0 : decode cX5_tank 0 = .ok (.aload_n 0, 1) := dk_42 (dk_at dksX5_tank_0 0 rfl rfl)
theorem dX5_tank_1 : decode cX5_tank 1 = .ok (.invokevirtual 24, 3) := dk_182 0 24 (dk_at dksX5_tank_0 1 rfl rfl)
theorem dX5_tank_4 : decode cX5_tank 4 = .ok (.aload_n 0, 1) := dk_42 (dk_at dksX5_tank_0 4 rfl rfl)
theorem dX5_tank_5 : decode cX5_tank 5 = .ok (.ldc 147, 2) := dk_18 147 (dk_at dksX5_tank_0 5 rfl rfl)
theorem dX5_tank_7 : decode cX5_tank 7 = .ok (.invokevirtual 108, 3) := dk_182 0 108 (dk_at dksX5_tank_0 7 rfl rfl)
theorem dX5_tank_10 : decode cX5_tank 10 = .ok (.aload_n 0, 1) := dk_42 (dk_at dksX5_tank_0 10 rfl rfl)
theorem dX5_tank_11 : decode cX5_tank 11 = .ok (.getfield 20, 3) := dk_180 0 20 (dk_at dksX5_tank_0 11 rfl rfl)
theorem dX5_tank_14 : decode cX5_tank 14 = .ok (.getfield 149, 3) := dk_180 0 149 (dk_at dksX5_tank_0 14 rfl rfl)
theorem dX5_tank_17 : decode cX5_tank 17 = .ok (.aload_n 0, 1) := dk_42 (dk_at dksX5_tank_0 17 rfl rfl)
theorem dX5_tank_18 : decode cX5_tank 18 = .ok (.getfield 20, 3) := dk_180 0 20 (dk_at dksX5_tank_0 18 rfl rfl)
theorem dX5_tank_21 : decode cX5_tank 21 = .ok (.getfield 68, 3) := dk_180 0 68 (dk_at dksX5_tank_0 21 rfl rfl)
theorem dX5_tank_24 : decode cX5_tank 24 = .ok (.aload_n 0, 1) := dk_42 (dk_at dksX5_tank_1 0 rfl rfl)
theorem dX5_tank_25 : decode cX5_tank 25 = .ok (.iconst 0, 1) := dk_3 (dk_at dksX5_tank_1 1 rfl rfl)
theorem dX5_tank_26 : decode cX5_tank 26 = .ok (.bipush 99, 2) := dk_16 99 (dk_at dksX5_tank_1 2 rfl rfl)
theorem dX5_tank_28 : decode cX5_tank 28 = .ok (.invokevirtual 112, 3) := dk_182 0 112 (dk_at dksX5_tank_1 4 rfl rfl)
theorem dX5_tank_31 : decode cX5_tank 31 = .ok (.iastore, 1) := dk_79 (dk_at dksX5_tank_1 7 rfl rfl)
theorem dX5_tank_32 : decode cX5_tank 32 = .ok (.aload_n 0, 1) := dk_42 (dk_at dksX5_tank_1 8 rfl rfl)
theorem dX5_tank_33 : decode cX5_tank 33 = .ok (.ldc 152, 2) := dk_18 152 (dk_at dksX5_tank_1 9 rfl rfl)
theorem dX5_tank_35 : decode cX5_tank 35 = .ok (.invokevirtual 108, 3) := dk_182 0 108 (dk_at dksX5_tank_1 11 rfl rfl)
theorem dX5_tank_38 : decode cX5_tank 38 = .ok (.aload_n 0, 1) := dk_42 (dk_at dksX5_tank_1 14 rfl rfl)
theorem dX5_tank_39 : decode cX5_tank 39 = .ok (.getfield 20, 3) := dk_180 0 20 (dk_at dksX5_tank_1 15 rfl rfl)
theorem dX5_tank_42 : decode cX5_tank 42 = .ok (.getfield 154, 3) := dk_180 0 154 (dk_at dksX5_tank_1 18 rfl rfl)
theorem dX5_tank_45 : decode cX5_tank 45 = .ok (.aload_n 0, 1) := dk_42 (dk_at dksX5_tank_1 21 rfl rfl)
theorem dX5_tank_46 : decode cX5_tank 46 = .ok (.getfield 20, 3) := dk_180 0 20 (dk_at dksX5_tank_2 0 rfl rfl)
theorem dX5_tank_49 : decode cX5_tank 49 = .ok (.getfield 68, 3) := dk_180 0 68 (dk_at dksX5_tank_2 3 rfl rfl)
theorem dX5_tank_52 : decode cX5_tank 52 = .ok (.aload_n 0, 1) := dk_42 (dk_at dksX5_tank_2 6 rfl rfl)
theorem dX5_tank_53 : decode cX5_tank 53 = .ok (.iconst 1, 1) := dk_4 (dk_at dksX5_tank_2 7 rfl rfl)
theorem dX5_tank_54 : decode cX5_tank 54 = .ok (.bipush 15, 2) := dk_16 15 (dk_at dksX5_tank_2 8 rfl rfl)
theorem dX5_tank_56 : decode cX5_tank 56 = .ok (.invokevirtual 112, 3) := dk_182 0 112 (dk_at dksX5_tank_2 10 rfl rfl)
theorem dX5_tank_59 : decode cX5_tank 59 = .ok (.iastore, 1) := dk_79 (dk_at dksX5_tank_2 13 rfl rfl)
theorem dX5_tank_60 : decode cX5_tank 60 = .ok (.aload_n 0, 1) := dk_42 (dk_at dksX5_tank_2 14 rfl rfl)
theorem dX5_tank_61 : decode cX5_tank 61 = .ok (.getfield 20, 3) := dk_180 0 20 (dk_at dksX5_tank_2 15 rfl rfl)
theorem dX5_tank_64 : decode cX5_tank 64 = .ok (.dup, 1) := dk_89 (dk_at dksX5_tank_2 18 rfl rfl)
theorem dX5_tank_65 : decode cX5_tank 65 = .ok (.getfield 68, 3) := dk_180 0 68 (dk_at dksX5_tank_2 19 rfl rfl)
theorem dX5_tank_68 : decode cX5_tank 68 = .ok (.iconst 1, 1) := dk_4 (dk_at dksX5_tank_2 22 rfl rfl)
theorem dX5_tank_69 : decode cX5_tank 69 = .ok (.iadd, 1) := dk_96 (dk_at dksX5_tank_2 23 rfl rfl)
theorem dX5_tank_70 : decode cX5_tank 70 = .ok (.putfield 68, 3) := dk_181 0 68 (dk_at dksX5_tank_3 0 rfl rfl)
theorem dX5_tank_73 : decode cX5_tank 73 = .ok (.return_, 1) := dk_177 (dk_at dksX5_tank_3 3 rfl rfl)
abbrev cX5_text : ByteArray := prog_11_method_2_code
def dkwX5_text_8 : List UInt8 := [181, 0, 85, 167, 255, 67, 42, 180, 0, 20, 176]
abbrev dktX5_text_8 : List UInt8 := dkwX5_text_8 ++ []
def dkwX5_text_7 : List UInt8 := [167, 0, 8, 42, 182, 0, 77, 191, 42, 16, 59, 182, 0, 81, 42, 180, 0, 20, 89, 180, 0, 85, 4, 96]
abbrev dktX5_text_7 : List UInt8 := dkwX5_text_7 ++ dktX5_text_8
def dkwX5_text_6 : List UInt8 := [6, 162, 0, 10, 42, 182, 0, 71, 167, 0, 24, 42, 18, 73, 182, 0, 33, 153, 0, 10, 42, 182, 0, 75]
abbrev dktX5_text_6 : List UInt8 := dkwX5_text_6 ++ dktX5_text_7
def dkwX5_text_5 : List UInt8 := [16, 24, 182, 0, 56, 167, 0, 51, 42, 18, 66, 182, 0, 33, 153, 0, 21, 42, 180, 0, 20, 180, 0, 68]
abbrev dktX5_text_5 : List UInt8 := dkwX5_text_5 ++ dktX5_text_6
def dkwX5_text_4 : List UInt8 := [180, 0, 20, 180, 0, 62, 182, 0, 41, 16, 16, 162, 0, 21, 42, 42, 180, 0, 20, 180, 0, 62, 18, 64]
abbrev dktX5_text_4 : List UInt8 := dkwX5_text_4 ++ dktX5_text_5
def dkwX5_text_3 : List UInt8 := [180, 0, 51, 18, 54, 16, 99, 182, 0, 56, 167, 0, 93, 42, 18, 60, 182, 0, 33, 153, 0, 36, 42]
abbrev dktX5_text_3 : List UInt8 := dkwX5_text_3 ++ dktX5_text_4
def dkwX5_text_2 : List UInt8 := [153, 0, 36, 42, 180, 0, 20, 180, 0, 51, 182, 0, 41, 16, 16, 162, 0, 21, 42, 42, 180, 0, 20]
abbrev dktX5_text_2 : List UInt8 := dkwX5_text_2 ++ dktX5_text_3
def dkwX5_text_1 : List UInt8 := [180, 0, 37, 182, 0, 41, 16, 12, 162, 0, 10, 42, 182, 0, 47, 167, 0, 135, 42, 18, 49, 182, 0, 33]
abbrev dktX5_text_1 : List UInt8 := dkwX5_text_1 ++ dktX5_text_2
def dkwX5_text_0 : List UInt8 := [42, 182, 0, 24, 42, 180, 0, 27, 153, 0, 188, 42, 18, 31, 182, 0, 33, 153, 0, 25, 42, 180, 0, 20]
abbrev dktX5_text_0 : List UInt8 := dkwX5_text_0 ++ dktX5_text_1
theorem dksX5_text_0 : cX5_text.data.toList.drop 0 = dktX5_text_0 := by decide +kernel
theorem dksX5_text_1 : cX5_text.data.toList.drop 24 = dktX5_text_1 := dk_seg dksX5_text_0 24 rfl rfl
theorem dksX5_text_2 : cX5_text.data.toList.drop 48 = dktX5_text_2 := dk_seg dksX5_text_1 24 rfl rfl
theorem dksX5_text_3 : cX5_text.data.toList.drop 71 = dktX5_text_3 := dk_seg dksX5_text_2 23 rfl rfl
theorem dksX5_text_4 : cX5_text.data.toList.drop 94 = dktX5_text_4 := dk_seg dksX5_text_3 23 rfl rfl
theorem dksX5_text_5 : cX5_text.data.toList.drop 118 = dktX5_text_5 := dk_seg dksX5_text_4 24 rfl rfl
theorem dksX5_text_6 : cX5_text.data.toList.drop 142 = dktX5_text_6 := dk_seg dksX5_text_5 24 rfl rfl
theorem dksX5_text_7 : cX5_text.data.toList.drop 166 = dktX5_text_7 := dk_seg dksX5_text_6 24 rfl rfl
theorem dksX5_text_8 : cX5_text.data.toList.drop 190 = dktX5_text_8 := dk_seg dksX5_text_7 24 rfl rfl
theorem dX5_text_0 : decode cX5_text 0 = .ok (.aload_n 0, 1) := dk_42 (dk_at dksX5_text_0 0 rfl rfl)
theorem dX5_text_1 : decode cX5_text 1 = .ok (.invokevirtual 24, 3) := dk_182 0 24 (dk_at dksX5_text_0 1 rfl rfl)
theorem dX5_text_4 : decode cX5_text 4 = .ok (.aload_n 0, 1) := dk_42 (dk_at dksX5_text_0 4 rfl rfl)
theorem dX5_text_5 : decode cX5_text 5 = .ok (.getfield 27, 3) := dk_180 0 27 (dk_at dksX5_text_0 5 rfl rfl)
theorem dX5_text_8 : decode cX5_text 8 = .ok (.ifCond .eq 188, 3) := dk_153 0 188 (dk_at dksX5_text_0 8 rfl rfl)
theorem dX5_text_11 : decode cX5_text 11 = .ok (.aload_n 0, 1) := dk_42 (dk_at dksX5_text_0 11 rfl rfl)
theorem dX5_text_12 : decode cX5_text 12 = .ok (.ldc 31, 2) := dk_18 31 (dk_at dksX5_text_0 12 rfl rfl)
theorem dX5_text_14 : decode cX5_text 14 = .ok (.invokevirtual 33, 3) := dk_182 0 33 (dk_at dksX5_text_0 14 rfl rfl)
theorem dX5_text_17 : decode cX5_text 17 = .ok (.ifCond .eq 25, 3) := dk_153 0 25 (dk_at dksX5_text_0 17 rfl rfl)
theorem dX5_text_20 : decode cX5_text 20 = .ok (.aload_n 0, 1) := dk_42 (dk_at dksX5_text_0 20 rfl rfl)
theorem dX5_text_21 : decode cX5_text 21 = .ok (.getfield 20, 3) := dk_180 0 20 (dk_at dksX5_text_0 21 rfl rfl)
theorem dX5_text_24 : decode cX5_text 24 = .ok (.getfield 37, 3) := dk_180 0 37 (dk_at dksX5_text_1 0 rfl rfl)
theorem dX5_text_27 : decode cX5_text 27 = .ok (.invokevirtual 41, 3) := dk_182 0 41 (dk_at dksX5_text_1 3 rfl rfl)
theorem dX5_text_30 : decode cX5_text 30 = .ok (.bipush 12, 2) := dk_16 12 (dk_at dksX5_text_1 6 rfl rfl)
theorem dX5_text_32 : decode cX5_text 32 = .ok (.if_icmp .ge 10, 3) := dk_162 0 10 (dk_at dksX5_text_1 8 rfl rfl)
theorem dX5_text_35 : decode cX5_text 35 = .ok (.aload_n 0, 1) := dk_42 (dk_at dksX5_text_1 11 rfl rfl)
theorem dX5_text_36 : decode cX5_text 36 = .ok (.invokevirtual 47, 3) := dk_182 0 47 (dk_at dksX5_text_1 12 rfl rfl)
theorem dX5_text_39 : decode cX5_text 39 = .ok (.goto 135, 3) := dk_167 0 135 (dk_at dksX5_text_1 15 rfl rfl)
theorem dX5_text_42 : decode cX5_text 42 = .ok (.aload_n 0, 1) := dk_42 (dk_at dksX5_text_1 18 rfl rfl)
theorem dX5_text_43 : decode cX5_text 43 = .ok (.ldc 49, 2) := dk_18 49 (dk_at dksX5_text_1 19 rfl rfl)
theorem dX5_text_45 : decode cX5_text 45 = .ok (.invokevirtual 33, 3) := dk_182 0 33 (dk_at dksX5_text_1 21 rfl rfl)
theorem dX5_text_48 : decode cX5_text 48 = .ok (.ifCond .eq 36, 3) := dk_153 0 36 (dk_at dksX5_text_2 0 rfl rfl)
theorem dX5_text_51 : decode cX5_text 51 = .ok (.aload_n 0, 1) := dk_42 (dk_at dksX5_text_2 3 rfl rfl)
theorem dX5_text_52 : decode cX5_text 52 = .ok (.getfield 20, 3) := dk_180 0 20 (dk_at dksX5_text_2 4 rfl rfl)
theorem dX5_text_55 : decode cX5_text 55 = .ok (.getfield 51, 3) := dk_180 0 51 (dk_at dksX5_text_2 7 rfl rfl)
theorem dX5_text_58 : decode cX5_text 58 = .ok (.invokevirtual 41, 3) := dk_182 0 41 (dk_at dksX5_text_2 10 rfl rfl)
theorem dX5_text_61 : decode cX5_text 61 = .ok (.bipush 16, 2) := dk_16 16 (dk_at dksX5_text_2 13 rfl rfl)
theorem dX5_text_63 : decode cX5_text 63 = .ok (.if_icmp .ge 21, 3) := dk_162 0 21 (dk_at dksX5_text_2 15 rfl rfl)
theorem dX5_text_66 : decode cX5_text 66 = .ok (.aload_n 0, 1) := dk_42 (dk_at dksX5_text_2 18 rfl rfl)
theorem dX5_text_67 : decode cX5_text 67 = .ok (.aload_n 0, 1) := dk_42 (dk_at dksX5_text_2 19 rfl rfl)
theorem dX5_text_68 : decode cX5_text 68 = .ok (.getfield 20, 3) := dk_180 0 20 (dk_at dksX5_text_2 20 rfl rfl)
theorem dX5_text_71 : decode cX5_text 71 = .ok (.getfield 51, 3) := dk_180 0 51 (dk_at dksX5_text_3 0 rfl rfl)
theorem dX5_text_74 : decode cX5_text 74 = .ok (.ldc 54, 2) := dk_18 54 (dk_at dksX5_text_3 3 rfl rfl)
theorem dX5_text_76 : decode cX5_text 76 = .ok (.bipush 99, 2) := dk_16 99 (dk_at dksX5_text_3 5 rfl rfl)
theorem dX5_text_78 : decode cX5_text 78 = .ok (.invokevirtual 56, 3) := dk_182 0 56 (dk_at dksX5_text_3 7 rfl rfl)
theorem dX5_text_81 : decode cX5_text 81 = .ok (.goto 93, 3) := dk_167 0 93 (dk_at dksX5_text_3 10 rfl rfl)
theorem dX5_text_84 : decode cX5_text 84 = .ok (.aload_n 0, 1) := dk_42 (dk_at dksX5_text_3 13 rfl rfl)
theorem dX5_text_85 : decode cX5_text 85 = .ok (.ldc 60, 2) := dk_18 60 (dk_at dksX5_text_3 14 rfl rfl)
theorem dX5_text_87 : decode cX5_text 87 = .ok (.invokevirtual 33, 3) := dk_182 0 33 (dk_at dksX5_text_3 16 rfl rfl)
theorem dX5_text_90 : decode cX5_text 90 = .ok (.ifCond .eq 36, 3) := dk_153 0 36 (dk_at dksX5_text_3 19 rfl rfl)
theorem dX5_text_93 : decode cX5_text 93 = .ok (.aload_n 0, 1) := dk_42 (dk_at dksX5_text_3 22 rfl rfl)
theorem dX5_text_94 : decode cX5_text 94 = .ok (.getfield 20, 3) := dk_180 0 20 (dk_at dksX5_text_4 0 rfl rfl)
theorem dX5_text_97 : decode cX5_text 97 = .ok (.getfield 62, 3) := dk_180 0 62 (dk_at dksX5_text_4 3 rfl rfl)
theorem dX5_text_100 : decode cX5_text 100 = .ok (.invokevirtual 41, 3) := dk_182 0 41 (dk_at dksX5_text_4 6 rfl rfl)
theorem dX5_text_103 : decode cX5_text 103 = .ok (.bipush 16, 2) := dk_16 16 (dk_at dksX5_text_4 9 rfl rfl)
theorem dX5_text_105 : decode cX5_text 105 = .ok (.if_icmp .ge 21, 3) := dk_162 0 21 (dk_at dksX5_text_4 11 rfl rfl)
theorem dX5_text_108 : decode cX5_text 108 = .ok (.aload_n 0, 1) := dk_42 (dk_at dksX5_text_4 14 rfl rfl)
theorem dX5_text_109 : decode cX5_text 109 = .ok (.aload_n 0, 1) := dk_42 (dk_at dksX5_text_4 15 rfl rfl)
theorem dX5_text_110 : decode cX5_text 110 = .ok (.getfield 20, 3) := dk_180 0 20 (dk_at dksX5_text_4 16 rfl rfl)
theorem dX5_text_113 : decode cX5_text 113 = .ok (.getfield 62, 3) := dk_180 0 62 (dk_at dksX5_text_4 19 rfl rfl)
theorem dX5_text_116 : decode cX5_text 116 = .ok (.ldc 64, 2) := dk_18 64 (dk_at dksX5_text_4 22 rfl rfl)
theorem dX5_text_118 : decode cX5_text 118 = .ok (.bipush 24, 2) := dk_16 24 (dk_at dksX5_text_5 0 rfl rfl)
theorem dX5_text_120 : decode cX5_text 120 = .ok (.invokevirtual 56, 3) := dk_182 0 56 (dk_at dksX5_text_5 2 rfl rfl)
theorem dX5_text_123 : decode cX5_text 123 = .ok (.goto 51, 3) := dk_167 0 51 (dk_at dksX5_text_5 5 rfl rfl)
theorem dX5_text_126 : decode cX5_text 126 = .ok (.aload_n 0, 1) := dk_42 (dk_at dksX5_text_5 8 rfl rfl)
theorem dX5_text_127 : decode cX5_text 127 = .ok (.ldc 66, 2) := dk_18 66 (dk_at dksX5_text_5 9 rfl rfl)
theorem dX5_text_129 : decode cX5_text 129 = .ok (.invokevirtual 33, 3) := dk_182 0 33 (dk_at dksX5_text_5 11 rfl rfl)
theorem dX5_text_132 : decode cX5_text 132 = .ok (.ifCond .eq 21, 3) := dk_153 0 21 (dk_at dksX5_text_5 14 rfl rfl)
theorem dX5_text_135 : decode cX5_text 135 = .ok (.aload_n 0, 1) := dk_42 (dk_at dksX5_text_5 17 rfl rfl)
theorem dX5_text_136 : decode cX5_text 136 = .ok (.getfield 20, 3) := dk_180 0 20 (dk_at dksX5_text_5 18 rfl rfl)
theorem dX5_text_139 : decode cX5_text 139 = .ok (.getfield 68, 3) := dk_180 0 68 (dk_at dksX5_text_5 21 rfl rfl)
theorem dX5_text_142 : decode cX5_text 142 = .ok (.iconst 3, 1) := dk_6 (dk_at dksX5_text_6 0 rfl rfl)
theorem dX5_text_143 : decode cX5_text 143 = .ok (.if_icmp .ge 10, 3) := dk_162 0 10 (dk_at dksX5_text_6 1 rfl rfl)
theorem dX5_text_146 : decode cX5_text 146 = .ok (.aload_n 0, 1) := dk_42 (dk_at dksX5_text_6 4 rfl rfl)
theorem dX5_text_147 : decode cX5_text 147 = .ok (.invokevirtual 71, 3) := dk_182 0 71 (dk_at dksX5_text_6 5 rfl rfl)
theorem dX5_text_150 : decode cX5_text 150 = .ok (.goto 24, 3) := dk_167 0 24 (dk_at dksX5_text_6 8 rfl rfl)
theorem dX5_text_153 : decode cX5_text 153 = .ok (.aload_n 0, 1) := dk_42 (dk_at dksX5_text_6 11 rfl rfl)
theorem dX5_text_154 : decode cX5_text 154 = .ok (.ldc 73, 2) := dk_18 73 (dk_at dksX5_text_6 12 rfl rfl)
theorem dX5_text_156 : decode cX5_text 156 = .ok (.invokevirtual 33, 3) := dk_182 0 33 (dk_at dksX5_text_6 14 rfl rfl)
theorem dX5_text_159 : decode cX5_text 159 = .ok (.ifCond .eq 10, 3) := dk_153 0 10 (dk_at dksX5_text_6 17 rfl rfl)
theorem dX5_text_162 : decode cX5_text 162 = .ok (.aload_n 0, 1) := dk_42 (dk_at dksX5_text_6 20 rfl rfl)
theorem dX5_text_163 : decode cX5_text 163 = .ok (.invokevirtual 75, 3) := dk_182 0 75 (dk_at dksX5_text_6 21 rfl rfl)
theorem dX5_text_166 : decode cX5_text 166 = .ok (.goto 8, 3) := dk_167 0 8 (dk_at dksX5_text_7 0 rfl rfl)
theorem dX5_text_169 : decode cX5_text 169 = .ok (.aload_n 0, 1) := dk_42 (dk_at dksX5_text_7 3 rfl rfl)
theorem dX5_text_170 : decode cX5_text 170 = .ok (.invokevirtual 77, 3) := dk_182 0 77 (dk_at dksX5_text_7 4 rfl rfl)
theorem dX5_text_173 : decode cX5_text 173 = .ok (.athrow, 1) := dk_191 (dk_at dksX5_text_7 7 rfl rfl)
theorem dX5_text_174 : decode cX5_text 174 = .ok (.aload_n 0, 1) := dk_42 (dk_at dksX5_text_7 8 rfl rfl)
theorem dX5_text_175 : decode cX5_text 175 = .ok (.bipush 59, 2) := dk_16 59 (dk_at dksX5_text_7 9 rfl rfl)
theorem dX5_text_177 : decode cX5_text 177 = .ok (.invokevirtual 81, 3) := dk_182 0 81 (dk_at dksX5_text_7 11 rfl rfl)
theorem dX5_text_180 : decode cX5_text 180 = .ok (.aload_n 0, 1) := dk_42 (dk_at dksX5_text_7 14 rfl rfl)
theorem dX5_text_181 : decode cX5_text 181 = .ok (.getfield 20, 3) := dk_180 0 20 (dk_at dksX5_text_7 15 rfl rfl)
theorem dX5_text_184 : decode cX5_text 184 = .ok (.dup, 1) := dk_89 (dk_at dksX5_text_7 18 rfl rfl)
theorem dX5_text_185 : decode cX5_text 185 = .ok (.getfield 85, 3) := dk_180 0 85 (dk_at dksX5_text_7 19 rfl rfl)
theorem dX5_text_188 : decode cX5_text 188 = .ok (.iconst 1, 1) := dk_4 (dk_at dksX5_text_7 22 rfl rfl)
theorem dX5_text_189 : decode cX5_text 189 = .ok (.iadd, 1) := dk_96 (dk_at dksX5_text_7 23 rfl rfl)
theorem dX5_text_190 : decode cX5_text 190 = .ok (.putfield 85, 3) := dk_181 0 85 (dk_at dksX5_text_8 0 rfl rfl)
theorem dX5_text_193 : decode cX5_text 193 = .ok (.goto (-189), 3) := dk_167 255 67 (dk_at dksX5_text_8 3 rfl rfl)
theorem dX5_text_196 : decode cX5_text 196 = .ok (.aload_n 0, 1) := dk_42 (dk_at dksX5_text_8 6 rfl rfl)
theorem dX5_text_197 : decode cX5_text 197 = .ok (.getfield 20, 3) := dk_180 0 20 (dk_at dksX5_text_8 7 rfl rfl)
theorem dX5_text_200 : decode cX5_text 200 = .ok (.areturn, 1) := dk_176 (dk_at dksX5_text_8 10 rfl rfl)
abbrev cX6_init : ByteArray := prog_22_method_1_code
def dkwX6_init_0 : List UInt8 := [42, 1, 1, 3, 3, 183, 0, 1, 42, 27, 181, 0, 7, 42, 28, 181, 0, 13, 177]
abbrev dktX6_init_0 : List UInt8 := dkwX6_init_0 ++ []
theorem dksX6_init_0 : cX6_init.data.toList.drop 0 = dktX6_init_0 := by decide +kernel
theorem dX6_init_0 : decode cX6_init 0 = .ok (.aload_n 0, 1) := dk_42 (dk_at dksX6_init_0 0 rfl rfl)
theorem dX6_init_1 : decode cX6_init 1 = .ok (.aconst_null, 1) := dk_1 (dk_at dksX6_init_0 1 rfl rfl)
theorem dX6_init_2 : decode cX6_init 2 = .ok (.aconst_null, 1) := dk_1 (dk_at dksX6_init_0 2 rfl rfl)
theorem dX6_init_3 : decode cX6_init 3 = .ok (.iconst 0, 1) := dk_3 (dk_at dksX6_init_0 3 rfl rfl)
theorem dX6_init_4 : decode cX6_init 4 = .ok (.iconst 0, 1) := dk_3 (dk_at dksX6_init_0 4 rfl rfl)
theorem dX6_init_5 : decode cX6_init 5 = .ok (.invokespecial 1, 3) := dk_183 0 1 (dk_at dksX6_init_0 5 rfl rfl)
theorem dX6_init_8 : decode cX6_init 8 = .ok (.aload_n 0, 1) := dk_42 (dk_at dksX6_init_0 8 rfl rfl)
theorem dX6_init_9 : decode cX6_init 9 = .ok (.iload_n 1, 1) := dk_27 (dk_at dksX6_init_0 9 rfl rfl)
theorem dX6_init_10 : decode cX6_init 10 = .ok (.putfield 7, 3) := dk_181 0 7 (dk_at dksX6_init_0 10 rfl rfl)
theorem dX6_init_13 : decode cX6_init 13 = .ok (.aload_n 0, 1) := dk_42 (dk_at dksX6_init_0 13 rfl rfl)
theorem dX6_init_14 : decode cX6_init 14 = .ok (.iload_n 2, 1) := dk_28 (dk_at dksX6_init_0 14 rfl rfl)
theorem dX6_init_15 : decode cX6_init 15 = .ok (.putfield 13, 3) := dk_181 0 13 (dk_at dksX6_init_0 15 rfl rfl)
theorem dX6_init_18 : decode cX6_init 18 = .ok (.return_, 1) := dk_177 (dk_at dksX6_init_0 18 rfl rfl)
abbrev cX7_at : ByteArray := prog_15_method_3_code
def dkwX7_at_1 : List UInt8 := [97, 136, 172]
abbrev dktX7_at_1 : List UInt8 := dkwX7_at_1 ++ []
def dkwX7_at_0 : List UInt8 := [42, 182, 0, 29, 133, 65, 32, 32, 42, 180, 0, 23, 133, 105, 27, 133, 105, 27, 133, 105, 20, 0, 33, 109]
abbrev dktX7_at_0 : List UInt8 := dkwX7_at_0 ++ dktX7_at_1
theorem dksX7_at_0 : cX7_at.data.toList.drop 0 = dktX7_at_0 := by decide +kernel
theorem dksX7_at_1 : cX7_at.data.toList.drop 24 = dktX7_at_1 := dk_seg dksX7_at_0 24 rfl rfl
theorem dX7_at_0 : decode cX7_at 0 = .ok (.aload_n 0, 1) := dk_42 (dk_at dksX7_at_0 0 rfl rfl)
theorem dX7_at_1 : decode cX7_at 1 = .ok (.invokevirtual 29, 3) := dk_182 0 29 (dk_at dksX7_at_0 1 rfl rfl)
theorem dX7_at_4 : decode cX7_at 4 = .ok (.i2l, 1) := dk_133 (dk_at dksX7_at_0 4 rfl rfl)
theorem dX7_at_5 : decode cX7_at 5 = .ok (.lstore_n 2, 1) := dk_65 (dk_at dksX7_at_0 5 rfl rfl)
theorem dX7_at_6 : decode cX7_at 6 = .ok (.lload_n 2, 1) := dk_32 (dk_at dksX7_at_0 6 rfl rfl)
theorem dX7_at_7 : decode cX7_at 7 = .ok (.lload_n 2, 1) := dk_32 (dk_at dksX7_at_0 7 rfl rfl)
theorem dX7_at_8 : decode cX7_at 8 = .ok (.aload_n 0, 1) := dk_42 (dk_at dksX7_at_0 8 rfl rfl)
theorem dX7_at_9 : decode cX7_at 9 = .ok (.getfield 23, 3) := dk_180 0 23 (dk_at dksX7_at_0 9 rfl rfl)
theorem dX7_at_12 : decode cX7_at 12 = .ok (.i2l, 1) := dk_133 (dk_at dksX7_at_0 12 rfl rfl)
theorem dX7_at_13 : decode cX7_at 13 = .ok (.lmul, 1) := dk_105 (dk_at dksX7_at_0 13 rfl rfl)
theorem dX7_at_14 : decode cX7_at 14 = .ok (.iload_n 1, 1) := dk_27 (dk_at dksX7_at_0 14 rfl rfl)
theorem dX7_at_15 : decode cX7_at 15 = .ok (.i2l, 1) := dk_133 (dk_at dksX7_at_0 15 rfl rfl)
theorem dX7_at_16 : decode cX7_at 16 = .ok (.lmul, 1) := dk_105 (dk_at dksX7_at_0 16 rfl rfl)
theorem dX7_at_17 : decode cX7_at 17 = .ok (.iload_n 1, 1) := dk_27 (dk_at dksX7_at_0 17 rfl rfl)
theorem dX7_at_18 : decode cX7_at 18 = .ok (.i2l, 1) := dk_133 (dk_at dksX7_at_0 18 rfl rfl)
theorem dX7_at_19 : decode cX7_at 19 = .ok (.lmul, 1) := dk_105 (dk_at dksX7_at_0 19 rfl rfl)
theorem dX7_at_20 : decode cX7_at 20 = .ok (.ldc2_w 33, 3) := dk_20 0 33 (dk_at dksX7_at_0 20 rfl rfl)
theorem dX7_at_23 : decode cX7_at 23 = .ok (.ldiv, 1) := dk_109 (dk_at dksX7_at_0 23 rfl rfl)
theorem dX7_at_24 : decode cX7_at 24 = .ok (.ladd, 1) := dk_97 (dk_at dksX7_at_1 0 rfl rfl)
theorem dX7_at_25 : decode cX7_at 25 = .ok (.l2i, 1) := dk_136 (dk_at dksX7_at_1 1 rfl rfl)
theorem dX7_at_26 : decode cX7_at 26 = .ok (.ireturn, 1) := dk_172 (dk_at dksX7_at_1 2 rfl rfl)
abbrev cX7_init : ByteArray := prog_15_method_1_code
def dkwX7_init_1 : List UInt8 := [181, 0, 20, 42, 21, 5, 181, 0, 23, 42, 21, 6, 181, 0, 26, 177]
abbrev dktX7_init_1 : List UInt8 := dkwX7_init_1 ++ []
def dkwX7_init_0 : List UInt8 := [42, 183, 0, 1, 42, 43, 181, 0, 7, 42, 28, 181, 0, 13, 42, 29, 181, 0, 17, 42, 21, 4]
abbrev dktX7_init_0 : List UInt8 := dkwX7_init_0 ++ dktX7_init_1
theorem dksX7_init_0 : cX7_init.data.toList.drop 0 = dktX7_init_0 := by decide +kernel
theorem dksX7_init_1 : cX7_init.data.toList.drop 22 = dktX7_init_1 := dk_seg dksX7_init_0 22 rfl rfl
theorem dX7_init_0 : decode cX7_init 0 = .ok (.aload_n 0, 1) := dk_42 (dk_at dksX7_init_0 0 rfl rfl)
theorem dX7_init_1 : decode cX7_init 1 = .ok (.invokespecial 1, 3) := dk_183 0 1 (dk_at dksX7_init_0 1 rfl rfl)
theorem dX7_init_4 : decode cX7_init 4 = .ok (.aload_n 0, 1) := dk_42 (dk_at dksX7_init_0 4 rfl rfl)
theorem dX7_init_5 : decode cX7_init 5 = .ok (.aload_n 1, 1) := dk_43 (dk_at dksX7_init_0 5 rfl rfl)
theorem dX7_init_6 : decode cX7_init 6 = .ok (.putfield 7, 3) := dk_181 0 7 (dk_at dksX7_init_0 6 rfl rfl)
theorem dX7_init_9 : decode cX7_init 9 = .ok (.aload_n 0, 1) := dk_42 (dk_at dksX7_init_0 9 rfl rfl)
theorem dX7_init_10 : decode cX7_init 10 = .ok (.iload_n 2, 1) := dk_28 (dk_at dksX7_init_0 10 rfl rfl)
theorem dX7_init_11 : decode cX7_init 11 = .ok (.putfield 13, 3) := dk_181 0 13 (dk_at dksX7_init_0 11 rfl rfl)
theorem dX7_init_14 : decode cX7_init 14 = .ok (.aload_n 0, 1) := dk_42 (dk_at dksX7_init_0 14 rfl rfl)
theorem dX7_init_15 : decode cX7_init 15 = .ok (.iload_n 3, 1) := dk_29 (dk_at dksX7_init_0 15 rfl rfl)
theorem dX7_init_16 : decode cX7_init 16 = .ok (.putfield 17, 3) := dk_181 0 17 (dk_at dksX7_init_0 16 rfl rfl)
theorem dX7_init_19 : decode cX7_init 19 = .ok (.aload_n 0, 1) := dk_42 (dk_at dksX7_init_0 19 rfl rfl)
theorem dX7_init_20 : decode cX7_init 20 = .ok (.iload 4, 2) := dk_21 4 (dk_at dksX7_init_0 20 rfl rfl)
theorem dX7_init_22 : decode cX7_init 22 = .ok (.putfield 20, 3) := dk_181 0 20 (dk_at dksX7_init_1 0 rfl rfl)
theorem dX7_init_25 : decode cX7_init 25 = .ok (.aload_n 0, 1) := dk_42 (dk_at dksX7_init_1 3 rfl rfl)
theorem dX7_init_26 : decode cX7_init 26 = .ok (.iload 5, 2) := dk_21 5 (dk_at dksX7_init_1 4 rfl rfl)
theorem dX7_init_28 : decode cX7_init 28 = .ok (.putfield 23, 3) := dk_181 0 23 (dk_at dksX7_init_1 6 rfl rfl)
theorem dX7_init_31 : decode cX7_init 31 = .ok (.aload_n 0, 1) := dk_42 (dk_at dksX7_init_1 9 rfl rfl)
theorem dX7_init_32 : decode cX7_init 32 = .ok (.iload 6, 2) := dk_21 6 (dk_at dksX7_init_1 10 rfl rfl)
theorem dX7_init_34 : decode cX7_init 34 = .ok (.putfield 26, 3) := dk_181 0 26 (dk_at dksX7_init_1 12 rfl rfl)
theorem dX7_init_37 : decode cX7_init 37 = .ok (.return_, 1) := dk_177 (dk_at dksX7_init_1 15 rfl rfl)
abbrev cX8_init : ByteArray := prog_7_method_1_code
def dkwX8_init_0 : List UInt8 := [42, 43, 28, 29, 21, 4, 21, 5, 21, 6, 183, 0, 1, 177]
abbrev dktX8_init_0 : List UInt8 := dkwX8_init_0 ++ []
theorem dksX8_init_0 : cX8_init.data.toList.drop 0 = dktX8_init_0 := by decide +kernel
theorem dX8_init_0 : decode cX8_init 0 = .ok (.aload_n 0, 1) := dk_42 (dk_at dksX8_init_0 0 rfl rfl)
theorem dX8_init_1 : decode cX8_init 1 = .ok (.aload_n 1, 1) := dk_43 (dk_at dksX8_init_0 1 rfl rfl)
theorem dX8_init_2 : decode cX8_init 2 = .ok (.iload_n 2, 1) := dk_28 (dk_at dksX8_init_0 2 rfl rfl)
theorem dX8_init_3 : decode cX8_init 3 = .ok (.iload_n 3, 1) := dk_29 (dk_at dksX8_init_0 3 rfl rfl)
theorem dX8_init_4 : decode cX8_init 4 = .ok (.iload 4, 2) := dk_21 4 (dk_at dksX8_init_0 4 rfl rfl)
theorem dX8_init_6 : decode cX8_init 6 = .ok (.iload 5, 2) := dk_21 5 (dk_at dksX8_init_0 6 rfl rfl)
theorem dX8_init_8 : decode cX8_init 8 = .ok (.iload 6, 2) := dk_21 6 (dk_at dksX8_init_0 8 rfl rfl)
theorem dX8_init_10 : decode cX8_init 10 = .ok (.invokespecial 1, 3) := dk_183 0 1 (dk_at dksX8_init_0 10 rfl rfl)
theorem dX8_init_13 : decode cX8_init 13 = .ok (.return_, 1) := dk_177 (dk_at dksX8_init_0 13 rfl rfl)
abbrev cX8_millimetres : ByteArray := prog_7_method_2_code
def dkwX8_millimetres_0 : List UInt8 := [42, 180, 0, 7, 17, 0, 254, 104, 16, 10, 108, 172]
abbrev dktX8_millimetres_0 : List UInt8 := dkwX8_millimetres_0 ++ []
theorem dksX8_millimetres_0 : cX8_millimetres.data.toList.drop 0 = dktX8_millimetres_0 := by decide +kernel
theorem dX8_millimetres_0 : decode cX8_millimetres 0 = .ok (.aload_n 0, 1) := dk_42 (dk_at dksX8_millimetres_0 0 rfl rfl)
theorem dX8_millimetres_1 : decode cX8_millimetres 1 = .ok (.getfield 7, 3) := dk_180 0 7 (dk_at dksX8_millimetres_0 1 rfl rfl)
theorem dX8_millimetres_4 : decode cX8_millimetres 4 = .ok (.sipush 254, 3) := dk_17 0 254 (dk_at dksX8_millimetres_0 4 rfl rfl)
theorem dX8_millimetres_7 : decode cX8_millimetres 7 = .ok (.imul, 1) := dk_104 (dk_at dksX8_millimetres_0 7 rfl rfl)
theorem dX8_millimetres_8 : decode cX8_millimetres 8 = .ok (.bipush 10, 2) := dk_16 10 (dk_at dksX8_millimetres_0 8 rfl rfl)
theorem dX8_millimetres_10 : decode cX8_millimetres 10 = .ok (.idiv, 1) := dk_108 (dk_at dksX8_millimetres_0 10 rfl rfl)
theorem dX8_millimetres_11 : decode cX8_millimetres 11 = .ok (.ireturn, 1) := dk_172 (dk_at dksX8_millimetres_0 11 rfl rfl)
abbrev cX9_init : ByteArray := prog_12_method_1_code
def dkwX9_init_0 : List UInt8 := [42, 43, 28, 29, 21, 4, 21, 5, 21, 6, 183, 0, 1, 177]
abbrev dktX9_init_0 : List UInt8 := dkwX9_init_0 ++ []
theorem dksX9_init_0 : cX9_init.data.toList.drop 0 = dktX9_init_0 := by decide +kernel
theorem dX9_init_0 : decode cX9_init 0 = .ok (.aload_n 0, 1) := dk_42 (dk_at dksX9_init_0 0 rfl rfl)
theorem dX9_init_1 : decode cX9_init 1 = .ok (.aload_n 1, 1) := dk_43 (dk_at dksX9_init_0 1 rfl rfl)
theorem dX9_init_2 : decode cX9_init 2 = .ok (.iload_n 2, 1) := dk_28 (dk_at dksX9_init_0 2 rfl rfl)
theorem dX9_init_3 : decode cX9_init 3 = .ok (.iload_n 3, 1) := dk_29 (dk_at dksX9_init_0 3 rfl rfl)
theorem dX9_init_4 : decode cX9_init 4 = .ok (.iload 4, 2) := dk_21 4 (dk_at dksX9_init_0 4 rfl rfl)
theorem dX9_init_6 : decode cX9_init 6 = .ok (.iload 5, 2) := dk_21 5 (dk_at dksX9_init_0 6 rfl rfl)
theorem dX9_init_8 : decode cX9_init 8 = .ok (.iload 6, 2) := dk_21 6 (dk_at dksX9_init_0 8 rfl rfl)
theorem dX9_init_10 : decode cX9_init 10 = .ok (.invokespecial 1, 3) := dk_183 0 1 (dk_at dksX9_init_0 10 rfl rfl)
theorem dX9_init_13 : decode cX9_init 13 = .ok (.return_, 1) := dk_177 (dk_at dksX9_init_0 13 rfl rfl)
abbrev cX9_millimetres : ByteArray := prog_12_method_2_code
def dkwX9_millimetres_0 : List UInt8 := [42, 180, 0, 7, 16, 10, 104, 172]
abbrev dktX9_millimetres_0 : List UInt8 := dkwX9_millimetres_0 ++ []
theorem dksX9_millimetres_0 : cX9_millimetres.data.toList.drop 0 = dktX9_millimetres_0 := by decide +kernel
theorem dX9_millimetres_0 : decode cX9_millimetres 0 = .ok (.aload_n 0, 1) := dk_42 (dk_at dksX9_millimetres_0 0 rfl rfl)
theorem dX9_millimetres_1 : decode cX9_millimetres 1 = .ok (.getfield 7, 3) := dk_180 0 7 (dk_at dksX9_millimetres_0 1 rfl rfl)
theorem dX9_millimetres_4 : decode cX9_millimetres 4 = .ok (.bipush 10, 2) := dk_16 10 (dk_at dksX9_millimetres_0 4 rfl rfl)
theorem dX9_millimetres_6 : decode cX9_millimetres 6 = .ok (.imul, 1) := dk_104 (dk_at dksX9_millimetres_0 6 rfl rfl)
theorem dX9_millimetres_7 : decode cX9_millimetres 7 = .ok (.ireturn, 1) := dk_172 (dk_at dksX9_millimetres_0 7 rfl rfl)
