set_option maxRecDepth 100000
def dkwX1_feed_4 : List UInt8 := [16, 20, 96, 181, 0, 7, 42, 180, 0, 7, 172]
abbrev dktX1_feed_4 : List UInt8 := dkwX1_feed_4 ++ []
def dkwX1_feed_3 : List UInt8 := [16, 24, 16, 8, 21, 7, 7, 112, 104, 100, 122, 145, 84, 132, 7, 1, 167, 255, 215, 42, 89, 180, 0, 7]
abbrev dktX1_feed_3 : List UInt8 := dkwX1_feed_3 ++ dktX1_feed_4
def dkwX1_feed_2 : List UInt8 := [16, 20, 162, 0, 40, 42, 180, 0, 10, 42, 180, 0, 7, 21, 7, 96, 25, 6, 21, 7, 7, 108, 46]
abbrev dktX1_feed_2 : List UInt8 := dkwX1_feed_2 ++ dktX1_feed_3
def dkwX1_feed_1 : List UInt8 := [28, 79, 89, 5, 29, 79, 89, 6, 21, 4, 79, 89, 7, 21, 5, 79, 58, 6, 3, 54, 7, 21, 7]
abbrev dktX1_feed_1 : List UInt8 := dkwX1_feed_1 ++ dktX1_feed_2
def dkwX1_feed_0 : List UInt8 := [42, 180, 0, 7, 16, 20, 96, 17, 3, 132, 164, 0, 5, 2, 172, 8, 188, 10, 89, 3, 27, 79, 89, 4]
abbrev dktX1_feed_0 : List UInt8 := dkwX1_feed_0 ++ dktX1_feed_1
theorem dksX1_feed_0 : cX1_feed.data.toList.drop 0 = dktX1_feed_0 := by decide +kernel
theorem dksX1_feed_1 : cX1_feed.data.toList.drop 24 = dktX1_feed_1 := dk_seg dksX1_feed_0 24 rfl rfl
theorem dksX1_feed_2 : cX1_feed.data.toList.drop 47 = dktX1_feed_2 := dk_seg dksX1_feed_1 23 rfl rfl
theorem dksX1_feed_3 : cX1_feed.data.toList.drop 70 = dktX1_feed_3 := dk_seg dksX1_feed_2 23 rfl rfl
theorem dksX1_feed_4 : cX1_feed.data.toList.drop 94 = dktX1_feed_4 := dk_seg dksX1_feed_3 24 rfl rfl
theorem dX1_feed_0 : decode cX1_feed 0 = .ok (.aload_n 0, 1) := dk_42 (dk_at dksX1_feed_0 0 rfl rfl)
theorem dX1_feed_1 : decode cX1_feed 1 = .ok (.getfield 7, 3) := dk_180 0 7 (dk_at dksX1_feed_0 1 rfl rfl)
theorem dX1_feed_4 : decode cX1_feed 4 = .ok (.bipush 20, 2) := dk_16 20 (dk_at dksX1_feed_0 4 rfl rfl)
theorem dX1_feed_6 : decode cX1_feed 6 = .ok (.iadd, 1) := dk_96 (dk_at dksX1_feed_0 6 rfl rfl)
theorem dX1_feed_7 : decode cX1_feed 7 = .ok (.sipush 900, 3) := dk_17 3 132 (dk_at dksX1_feed_0 7 rfl rfl)
theorem dX1_feed_10 : decode cX1_feed 10 = .ok (.if_icmp .le 5, 3) := dk_164 0 5 (dk_at dksX1_feed_0 10 rfl rfl)
theorem dX1_feed_13 : decode cX1_feed 13 = .ok (.iconst (-1), 1) := dk_2 (dk_at dksX1_feed_0 13 rfl rfl)
theorem dX1_feed_14 : decode cX1_feed 14 = .ok (.ireturn, 1) := dk_172 (dk_at dksX1_feed_0 14 rfl rfl)
theorem dX1_feed_15 : decode cX1_feed 15 = .ok (.iconst 5, 1) := dk_8 (dk_at dksX1_feed_0 15 rfl rfl)
theorem dX1_feed_16 : decode cX1_feed 16 = .ok (.newarray .int, 2) := dk_188_10 (dk_at dksX1_feed_0 16 rfl rfl)
theorem dX1_feed_18 : decode cX1_feed 18 = .ok (.dup, 1) := dk_89 (dk_at dksX1_feed_0 18 rfl rfl)
theorem dX1_feed_19 : decode cX1_feed 19 = .ok (.iconst 0, 1) := dk_3 (dk_at dksX1_feed_0 19 rfl rfl)
theorem dX1_feed_20 : decode cX1_feed 20 = .ok (.iload_n 1, 1) := dk_27 (dk_at dksX1_feed_0 20 rfl rfl)
theorem dX1_feed_21 : decode cX1_feed 21 = .ok (.iastore, 1) := dk_79 (dk_at dksX1_feed_0 21 rfl rfl)
theorem dX1_feed_22 : decode cX1_feed 22 = .ok (.dup, 1) := dk_89 (dk_at dksX1_feed_0 22 rfl rfl)
theorem dX1_feed_23 : decode cX1_feed 23 = .ok (.iconst 1, 1) := dk_4 (dk_at dksX1_feed_0 23 rfl rfl)
theorem dX1_feed_24 : decode cX1_feed 24 = .ok (.iload_n 2, 1) := dk_28 (dk_at dksX1_feed_1 0 rfl rfl)
theorem dX1_feed_25 : decode cX1_feed 25 = .ok (.iastore, 1) := dk_79 (dk_at dksX1_feed_1 1 rfl rfl)
theorem dX1_feed_26 : decode cX1_feed 26 = .ok (.dup, 1) := dk_89 (dk_at dksX1_feed_1 2 rfl rfl)
theorem dX1_feed_27 : decode cX1_feed 27 = .ok (.iconst 2, 1) := dk_5 (dk_at dksX1_feed_1 3 rfl rfl)
theorem dX1_feed_28 : decode cX1_feed 28 = .ok (.iload_n 3, 1) := dk_29 (dk_at dksX1_feed_1 4 rfl rfl)
theorem dX1_feed_29 : decode cX1_feed 29 = .ok (.iastore, 1) := dk_79 (dk_at dksX1_feed_1 5 rfl rfl)
theorem dX1_feed_30 : decode cX1_feed 30 = .ok (.dup, 1) := dk_89 (dk_at dksX1_feed_1 6 rfl rfl)
theorem dX1_feed_31 : decode cX1_feed 31 = .ok (.iconst 3, 1) := dk_6 (dk_at dksX1_feed_1 7 rfl rfl)
theorem dX1_feed_32 : decode cX1_feed 32 = .ok (.iload 4, 2) := dk_21 4 (dk_at dksX1_feed_1 8 rfl rfl)
theorem dX1_feed_34 : decode cX1_feed 34 = .ok (.iastore, 1) := dk_79 (dk_at dksX1_feed_1 10 rfl rfl)
theorem dX1_feed_35 : decode cX1_feed 35 = .ok (.dup, 1) := dk_89 (dk_at dksX1_feed_1 11 rfl rfl)
theorem dX1_feed_36 : decode cX1_feed 36 = .ok (.iconst 4, 1) := dk_7 (dk_at dksX1_feed_1 12 rfl rfl)
theorem dX1_feed_37 : decode cX1_feed 37 = .ok (.iload 5, 2) := dk_21 5 (dk_at dksX1_feed_1 13 rfl rfl)
theorem dX1_feed_39 : decode cX1_feed 39 = .ok (.iastore, 1) := dk_79 (dk_at dksX1_feed_1 15 rfl rfl)
theorem dX1_feed_40 : decode cX1_feed 40 = .ok (.astore 6, 2) := dk_58 6 (dk_at dksX1_feed_1 16 rfl rfl)
theorem dX1_feed_42 : decode cX1_feed 42 = .ok (.iconst 0, 1) := dk_3 (dk_at dksX1_feed_1 18 rfl rfl)
theorem dX1_feed_43 : decode cX1_feed 43 = .ok (.istore 7, 2) := dk_54 7 (dk_at dksX1_feed_1 19 rfl rfl)
theorem dX1_feed_45 : decode cX1_feed 45 = .ok (.iload 7, 2) := dk_21 7 (dk_at dksX1_feed_1 21 rfl rfl)
theorem dX1_feed_47 : decode cX1_feed 47 = .ok (.bipush 20, 2) := dk_16 20 (dk_at dksX1_feed_2 0 rfl rfl)
theorem dX1_feed_49 : decode cX1_feed 49 = .ok (.if_icmp .ge 40, 3) := dk_162 0 40 (dk_at dksX1_feed_2 2 rfl rfl)
theorem dX1_feed_52 : decode cX1_feed 52 = .ok (.aload_n 0, 1) := dk_42 (dk_at dksX1_feed_2 5 rfl rfl)
theorem dX1_feed_53 : decode cX1_feed 53 = .ok (.getfield 10, 3) := dk_180 0 10 (dk_at dksX1_feed_2 6 rfl rfl)
theorem dX1_feed_56 : decode cX1_feed 56 = .ok (.aload_n 0, 1) := dk_42 (dk_at dksX1_feed_2 9 rfl rfl)
theorem dX1_feed_57 : decode cX1_feed 57 = .ok (.getfield 7, 3) := dk_180 0 7 (dk_at dksX1_feed_2 10 rfl rfl)
theorem dX1_feed_60 : decode cX1_feed 60 = .ok (.iload 7, 2) := dk_21 7 (dk_at dksX1_feed_2 13 rfl rfl)
theorem dX1_feed_62 : decode cX1_feed 62 = .ok (.iadd, 1) := dk_96 (dk_at dksX1_feed_2 15 rfl rfl)
theorem dX1_feed_63 : decode cX1_feed 63 = .ok (.aload 6, 2) := dk_25 6 (dk_at dksX1_feed_2 16 rfl rfl)
theorem dX1_feed_65 : decode cX1_feed 65 = .ok (.iload 7, 2) := dk_21 7 (dk_at dksX1_feed_2 18 rfl rfl)
theorem dX1_feed_67 : decode cX1_feed 67 = .ok (.iconst 4, 1) := dk_7 (dk_at dksX1_feed_2 20 rfl rfl)
theorem dX1_feed_68 : decode cX1_feed 68 = .ok (.idiv, 1) := dk_108 (dk_at dksX1_feed_2 21 rfl rfl)
theorem dX1_feed_69 : decode cX1_feed 69 = .ok (.iaload, 1) := dk_46 (dk_at dksX1_feed_2 22 rfl rfl)
theorem dX1_feed_70 : decode cX1_feed 70 = .ok (.bipush 24, 2) := dk_16 24 (dk_at dksX1_feed_3 0 rfl rfl)
theorem dX1_feed_72 : decode cX1_feed 72 = .ok (.bipush 8, 2) := dk_16 8 (dk_at dksX1_feed_3 2 rfl rfl)
theorem dX1_feed_74 : decode cX1_feed 74 = .ok (.iload 7, 2) := dk_21 7 (dk_at dksX1_feed_3 4 rfl rfl)
theorem dX1_feed_76 : decode cX1_feed 76 = .ok (.iconst 4, 1) := dk_7 (dk_at dksX1_feed_3 6 rfl rfl)
theorem dX1_feed_77 : decode cX1_feed 77 = .ok (.irem, 1) := dk_112 (dk_at dksX1_feed_3 7 rfl rfl)
theorem dX1_feed_78 : decode cX1_feed 78 = .ok (.imul, 1) := dk_104 (dk_at dksX1_feed_3 8 rfl rfl)
theorem dX1_feed_79 : decode cX1_feed 79 = .ok (.isub, 1) := dk_100 (dk_at dksX1_feed_3 9 rfl rfl)
theorem dX1_feed_80 : decode cX1_feed 80 = .ok (.ishr, 1) := dk_122 (dk_at dksX1_feed_3 10 rfl rfl)
theorem dX1_feed_81 : decode cX1_feed 81 = .ok (.i2b, 1) := dk_145 (dk_at dksX1_feed_3 11 rfl rfl)
theorem dX1_feed_82 : decode cX1_feed 82 = .ok (.bastore, 1) := dk_84 (dk_at dksX1_feed_3 12 rfl rfl)
theorem dX1_feed_83 : decode cX1_feed 83 = .ok (.iinc 7 1, 3) := dk_132 7 1 (dk_at dksX1_feed_3 13 rfl rfl)
theorem dX1_feed_86 : decode cX1_feed 86 = .ok (.goto (-41), 3) := dk_167 255 215 (dk_at dksX1_feed_3 16 rfl rfl)
theorem dX1_feed_89 : decode cX1_feed 89 = .ok (.aload_n 0, 1) := dk_42 (dk_at dksX1_feed_3 19 rfl rfl)
theorem dX1_feed_90 : decode cX1_feed 90 = .ok (.dup, 1) := dk_89 (dk_at dksX1_feed_3 20 rfl rfl)
theorem dX1_feed_91 : decode cX1_feed 91 = .ok (.getfield 7, 3) := dk_180 0 7 (dk_at dksX1_feed_3 21 rfl rfl)
theorem dX1_feed_94 : decode cX1_feed 94 = .ok (.bipush 20, 2) := dk_16 20 (dk_at dksX1_feed_4 0 rfl rfl)
theorem dX1_feed_96 : decode cX1_feed 96 = .ok (.iadd, 1) := dk_96 (dk_at dksX1_feed_4 2 rfl rfl)
theorem dX1_feed_97 : decode cX1_feed 97 = .ok (.putfield 7, 3) := dk_181 0 7 (dk_at dksX1_feed_4 3 rfl rfl)
theorem dX1_feed_100 : decode cX1_feed 100 = .ok (.aload_n 0, 1) := dk_42 (dk_at dksX1_feed_4 6 rfl rfl)
theorem dX1_feed_101 : decode cX1_feed 101 = .ok (.getfield 7, 3) := dk_180 0 7 (dk_at dksX1_feed_4 7 rfl rfl)
theorem dX1_feed_104 : decode cX1_feed 104 = .ok (.ireturn, 1) := dk_172 (dk_at dksX1_feed_4 10 rfl rfl)
def dkwX1_init_3 : List UInt8 := [181, 0, 49, 42, 187, 0, 52, 89, 183, 0, 54, 181, 0, 55, 177]
abbrev dktX1_init_3 : List UInt8 := dkwX1_init_3 ++ []
def dkwX1_init_2 : List UInt8 := [183, 0, 36, 181, 0, 37, 42, 42, 182, 0, 41, 181, 0, 45, 42, 187, 0, 34, 89, 183, 0, 36]
abbrev dktX1_init_2 : List UInt8 := dkwX1_init_2 ++ dktX1_init_3
def dkwX1_init_1 : List UInt8 := [183, 0, 25, 181, 0, 26, 42, 4, 188, 10, 89, 3, 3, 79, 181, 0, 30, 42, 187, 0, 34, 89]
abbrev dktX1_init_1 : List UInt8 := dkwX1_init_1 ++ dktX1_init_2
def dkwX1_init_0 : List UInt8 := [42, 183, 0, 14, 42, 17, 3, 132, 188, 8, 181, 0, 10, 42, 2, 181, 0, 20, 42, 187, 0, 23, 89]
abbrev dktX1_init_0 : List UInt8 := dkwX1_init_0 ++ dktX1_init_1
theorem dksX1_init_0 : cX1_init.data.toList.drop 0 = dktX1_init_0 := by decide +kernel
theorem dksX1_init_1 : cX1_init.data.toList.drop 23 = dktX1_init_1 := dk_seg dksX1_init_0 23 rfl rfl
theorem dksX1_init_2 : cX1_init.data.toList.drop 45 = dktX1_init_2 := dk_seg dksX1_init_1 22 rfl rfl
theorem dksX1_init_3 : cX1_init.data.toList.drop 67 = dktX1_init_3 := dk_seg dksX1_init_2 22 rfl rfl
theorem dX1_init_0 : decode cX1_init 0 = .ok (.aload_n 0, 1) := dk_42 (dk_at dksX1_init_0 0 rfl rfl)
theorem dX1_init_1 : decode cX1_init 1 = .ok (.invokespecial 14, 3) := dk_183 0 14 (dk_at dksX1_init_0 1 rfl rfl)
theorem dX1_init_4 : decode cX1_init 4 = .ok (.aload_n 0, 1) := dk_42 (dk_at dksX1_init_0 4 rfl rfl)
theorem dX1_init_5 : decode cX1_init 5 = .ok (.sipush 900, 3) := dk_17 3 132 (dk_at dksX1_init_0 5 rfl rfl)
theorem dX1_init_8 : decode cX1_init 8 = .ok (.newarray .byte, 2) := dk_188_8 (dk_at dksX1_init_0 8 rfl rfl)
theorem dX1_init_10 : decode cX1_init 10 = .ok (.putfield 10, 3) := dk_181 0 10 (dk_at dksX1_init_0 10 rfl rfl)
theorem dX1_init_13 : decode cX1_init 13 = .ok (.aload_n 0, 1) := dk_42 (dk_at dksX1_init_0 13 rfl rfl)
theorem dX1_init_14 : decode cX1_init 14 = .ok (.iconst (-1), 1) := dk_2 (dk_at dksX1_init_0 14 rfl rfl)
theorem dX1_init_15 : decode cX1_init 15 = .ok (.putfield 20, 3) := dk_181 0 20 (dk_at dksX1_init_0 15 rfl rfl)
theorem dX1_init_18 : decode cX1_init 18 = .ok (.aload_n 0, 1) := dk_42 (dk_at dksX1_init_0 18 rfl rfl)
theorem dX1_init_19 : decode cX1_init 19 = .ok (.new 23, 3) := dk_187 0 23 (dk_at dksX1_init_0 19 rfl rfl)
theorem dX1_init_22 : decode cX1_init 22 = .ok (.dup, 1) := dk_89 (dk_at dksX1_init_0 22 rfl rfl)
theorem dX1_init_23 : decode cX1_init 23 = .ok (.invokespecial 25, 3) := dk_183 0 25 (dk_at dksX1_init_1 0 rfl rfl)
theorem dX1_init_26 : decode cX1_init 26 = .ok (.putfield 26, 3) := dk_181 0 26 (dk_at dksX1_init_1 3 rfl rfl)
theorem dX1_init_29 : decode cX1_init 29 = .ok (.aload_n 0, 1) := dk_42 (dk_at dksX1_init_1 6 rfl rfl)
theorem dX1_init_30 : decode cX1_init 30 = .ok (.iconst 1, 1) := dk_4 (dk_at dksX1_init_1 7 rfl rfl)
theorem dX1_init_31 : decode cX1_init 31 = .ok (.newarray .int, 2) := dk_188_10 (dk_at dksX1_init_1 8 rfl rfl)
theorem dX1_init_33 : decode cX1_init 33 = .ok (.dup, 1) := dk_89 (dk_at dksX1_init_1 10 rfl rfl)
theorem dX1_init_34 : decode cX1_init 34 = .ok (.iconst 0, 1) := dk_3 (dk_at dksX1_init_1 11 rfl rfl)
theorem dX1_init_35 : decode cX1_init 35 = .ok (.iconst 0, 1) := dk_3 (dk_at dksX1_init_1 12 rfl rfl)
theorem dX1_init_36 : decode cX1_init 36 = .ok (.iastore, 1) := dk_79 (dk_at dksX1_init_1 13 rfl rfl)
theorem dX1_init_37 : decode cX1_init 37 = .ok (.putfield 30, 3) := dk_181 0 30 (dk_at dksX1_init_1 14 rfl rfl)
theorem dX1_init_40 : decode cX1_init 40 = .ok (.aload_n 0, 1) := dk_42 (dk_at dksX1_init_1 17 rfl rfl)
theorem dX1_init_41 : decode cX1_init 41 = .ok (.new 34, 3) := dk_187 0 34 (dk_at dksX1_init_1 18 rfl rfl)
theorem dX1_init_44 : decode cX1_init 44 = .ok (.dup, 1) := dk_89 (dk_at dksX1_init_1 21 rfl rfl)
theorem dX1_init_45 : decode cX1_init 45 = .ok (.invokespecial 36, 3) := dk_183 0 36 (dk_at dksX1_init_2 0 rfl rfl)
theorem dX1_init_48 : decode cX1_init 48 = .ok (.putfield 37, 3) := dk_181 0 37 (dk_at dksX1_init_2 3 rfl rfl)
theorem dX1_init_51 : decode cX1_init 51 = .ok (.aload_n 0, 1) := dk_42 (dk_at dksX1_init_2 6 rfl rfl)
theorem dX1_init_52 : decode cX1_init 52 = .ok (.aload_n 0, 1) := dk_42 (dk_at dksX1_init_2 7 rfl rfl)
theorem dX1_init_53 : decode cX1_init 53 = .ok (.invokevirtual 41, 3) := dk_182 0 41 (dk_at dksX1_init_2 8 rfl rfl)
theorem dX1_init_56 : decode cX1_init 56 = .ok (.putfield 45, 3) := dk_181 0 45 (dk_at dksX1_init_2 11 rfl rfl)
theorem dX1_init_59 : decode cX1_init 59 = .ok (.aload_n 0, 1) := dk_42 (dk_at dksX1_init_2 14 rfl rfl)
theorem dX1_init_60 : decode cX1_init 60 = .ok (.new 34, 3) := dk_187 0 34 (dk_at dksX1_init_2 15 rfl rfl)
theorem dX1_init_63 : decode cX1_init 63 = .ok (.dup, 1) := dk_89 (dk_at dksX1_init_2 18 rfl rfl)
theorem dX1_init_64 : decode cX1_init 64 = .ok (.invokespecial 36, 3) := dk_183 0 36 (dk_at dksX1_init_2 19 rfl rfl)
theorem dX1_init_67 : decode cX1_init 67 = .ok (.putfield 49, 3) := dk_181 0 49 (dk_at dksX1_init_3 0 rfl rfl)
theorem dX1_init_70 : decode cX1_init 70 = .ok (.aload_n 0, 1) := dk_42 (dk_at dksX1_init_3 3 rfl rfl)
theorem dX1_init_71 : decode cX1_init 71 = .ok (.new 52, 3) := dk_187 0 52 (dk_at dksX1_init_3 4 rfl rfl)
theorem dX1_init_74 : decode cX1_init 74 = .ok (.dup, 1) := dk_89 (dk_at dksX1_init_3 7 rfl rfl)
theorem dX1_init_75 : decode cX1_init 75 = .ok (.invokespecial 54, 3) := dk_183 0 54 (dk_at dksX1_init_3 8 rfl rfl)
theorem dX1_init_78 : decode cX1_init 78 = .ok (.putfield 55, 3) := dk_181 0 55 (dk_at dksX1_init_3 11 rfl rfl)
theorem dX1_init_81 : decode cX1_init 81 = .ok (.return_, 1) := dk_177 (dk_at dksX1_init_3 14 rfl rfl)
def dkwX1_laid_1 : List UInt8 := [182, 0, 61, 183, 0, 65, 83, 132, 2, 1, 167, 255, 231, 43, 176]
abbrev dktX1_laid_1 : List UInt8 := dkwX1_laid_1 ++ []
def dkwX1_laid_0 : List UInt8 := [7, 189, 0, 59, 76, 3, 61, 28, 7, 162, 0, 26, 43, 28, 187, 0, 59, 89, 42, 180, 0, 26]
abbrev dktX1_laid_0 : List UInt8 := dkwX1_laid_0 ++ dktX1_laid_1
theorem dksX1_laid_0 : cX1_laid.data.toList.drop 0 = dktX1_laid_0 := by decide +kernel
theorem dksX1_laid_1 : cX1_laid.data.toList.drop 22 = dktX1_laid_1 := dk_seg dksX1_laid_0 22 rfl rfl
theorem dX1_laid_0 : decode cX1_laid 0 = .ok (.iconst 4, 1) := dk_7 (dk_at dksX1_laid_0 0 rfl rfl)
theorem dX1_laid_1 : decode cX1_laid 1 = .ok (.anewarray 59, 3) := dk_189 0 59 (dk_at dksX1_laid_0 1 rfl rfl)
theorem dX1_laid_4 : decode cX1_laid 4 = .ok (.astore_n 1, 1) := dk_76 (dk_at dksX1_laid_0 4 rfl rfl)
theorem dX1_laid_5 : decode cX1_laid 5 = .ok (.iconst 0, 1) := dk_3 (dk_at dksX1_laid_0 5 rfl rfl)
theorem dX1_laid_6 : decode cX1_laid 6 = .ok (.istore_n 2, 1) := dk_61 (dk_at dksX1_laid_0 6 rfl rfl)
theorem dX1_laid_7 : decode cX1_laid 7 = .ok (.iload_n 2, 1) := dk_28 (dk_at dksX1_laid_0 7 rfl rfl)
theorem dX1_laid_8 : decode cX1_laid 8 = .ok (.iconst 4, 1) := dk_7 (dk_at dksX1_laid_0 8 rfl rfl)
theorem dX1_laid_9 : decode cX1_laid 9 = .ok (.if_icmp .ge 26, 3) := dk_162 0 26 (dk_at dksX1_laid_0 9 rfl rfl)
theorem dX1_laid_12 : decode cX1_laid 12 = .ok (.aload_n 1, 1) := dk_43 (dk_at dksX1_laid_0 12 rfl rfl)
theorem dX1_laid_13 : decode cX1_laid 13 = .ok (.iload_n 2, 1) := dk_28 (dk_at dksX1_laid_0 13 rfl rfl)
theorem dX1_laid_14 : decode cX1_laid 14 = .ok (.new 59, 3) := dk_187 0 59 (dk_at dksX1_laid_0 14 rfl rfl)
theorem dX1_laid_17 : decode cX1_laid 17 = .ok (.dup, 1) := dk_89 (dk_at dksX1_laid_0 17 rfl rfl)
theorem dX1_laid_18 : decode cX1_laid 18 = .ok (.aload_n 0, 1) := dk_42 (dk_at dksX1_laid_0 18 rfl rfl)
theorem dX1_laid_19 : decode cX1_laid 19 = .ok (.getfield 26, 3) := dk_180 0 26 (dk_at dksX1_laid_0 19 rfl rfl)
theorem dX1_laid_22 : decode cX1_laid 22 = .ok (.invokevirtual 61, 3) := dk_182 0 61 (dk_at dksX1_laid_1 0 rfl rfl)
theorem dX1_laid_25 : decode cX1_laid 25 = .ok (.invokespecial 65, 3) := dk_183 0 65 (dk_at dksX1_laid_1 3 rfl rfl)
theorem dX1_laid_28 : decode cX1_laid 28 = .ok (.aastore, 1) := dk_83 (dk_at dksX1_laid_1 6 rfl rfl)
theorem dX1_laid_29 : decode cX1_laid 29 = .ok (.iinc 2 1, 3) := dk_132 2 1 (dk_at dksX1_laid_1 7 rfl rfl)
theorem dX1_laid_32 : decode cX1_laid 32 = .ok (.goto (-25), 3) := dk_167 255 231 (dk_at dksX1_laid_1 10 rfl rfl)
theorem dX1_laid_35 : decode cX1_laid 35 = .ok (.aload_n 1, 1) := dk_43 (dk_at dksX1_laid_1 13 rfl rfl)
theorem dX1_laid_36 : decode cX1_laid 36 = .ok (.areturn, 1) := dk_176 (dk_at dksX1_laid_1 14 rfl rfl)
def dkwX1_text_5 : List UInt8 := [42, 44, 180, 0, 108, 181, 0, 91, 42, 44, 180, 0, 111, 181, 0, 20, 2, 172]
abbrev dktX1_text_5 : List UInt8 := dkwX1_text_5 ++ []
def dkwX1_text_4 : List UInt8 := [182, 0, 97, 29, 172, 78, 44, 182, 0, 97, 167, 0, 11, 58, 4, 45, 25, 4, 182, 0, 102, 45, 191, 77]
abbrev dktX1_text_4 : List UInt8 := dkwX1_text_4 ++ dktX1_text_5
def dkwX1_text_3 : List UInt8 := [42, 182, 0, 88, 42, 3, 181, 0, 91, 42, 2, 181, 0, 20, 42, 180, 0, 26, 180, 0, 94, 62, 44]
abbrev dktX1_text_3 : List UInt8 := dkwX1_text_3 ++ dktX1_text_4
def dkwX1_text_2 : List UInt8 := [182, 0, 41, 181, 0, 45, 42, 187, 0, 34, 89, 183, 0, 36, 181, 0, 49, 42, 180, 0, 55, 182, 0, 85]
abbrev dktX1_text_2 : List UInt8 := dkwX1_text_2 ++ dktX1_text_3
def dkwX1_text_1 : List UInt8 := [77, 42, 44, 182, 0, 77, 181, 0, 26, 42, 42, 180, 0, 26, 182, 0, 81, 181, 0, 30, 42, 42]
abbrev dktX1_text_1 : List UInt8 := dkwX1_text_1 ++ dktX1_text_2
def dkwX1_text_0 : List UInt8 := [27, 3, 42, 180, 0, 7, 184, 0, 68, 154, 0, 6, 16, 254, 172, 187, 0, 72, 89, 42, 27, 183, 0, 74]
abbrev dktX1_text_0 : List UInt8 := dkwX1_text_0 ++ dktX1_text_1
theorem dksX1_text_0 : cX1_text.data.toList.drop 0 = dktX1_text_0 := by decide +kernel
theorem dksX1_text_1 : cX1_text.data.toList.drop 24 = dktX1_text_1 := dk_seg dksX1_text_0 24 rfl rfl
theorem dksX1_text_2 : cX1_text.data.toList.drop 46 = dktX1_text_2 := dk_seg dksX1_text_1 22 rfl rfl
theorem dksX1_text_3 : cX1_text.data.toList.drop 70 = dktX1_text_3 := dk_seg dksX1_text_2 24 rfl rfl
theorem dksX1_text_4 : cX1_text.data.toList.drop 93 = dktX1_text_4 := dk_seg dksX1_text_3 23 rfl rfl
theorem dksX1_text_5 : cX1_text.data.toList.drop 117 = dktX1_text_5 := dk_seg dksX1_text_4 24 rfl rfl
theorem dX1_text_0 : decode cX1_text 0 = .ok (.iload_n 1, 1) := dk_27 (dk_at dksX1_text_0 0 rfl rfl)
theorem dX1_text_1 : decode cX1_text 1 = .ok (.iconst 0, 1) := dk_3 (dk_at dksX1_text_0 1 rfl rfl)
theorem dX1_text_2 : decode cX1_text 2 = .ok (.aload_n 0, 1) := dk_42 (dk_at dksX1_text_0 2 rfl rfl)
theorem dX1_text_3 : decode cX1_text 3 = .ok (.getfield 7, 3) := dk_180 0 7 (dk_at dksX1_text_0 3 rfl rfl)
theorem dX1_text_6 : decode cX1_text 6 = .ok (.invokestatic 68, 3) := dk_184 0 68 (dk_at dksX1_text_0 6 rfl rfl)
theorem dX1_text_9 : decode cX1_text 9 = .ok (.ifCond .ne 6, 3) := dk_154 0 6 (dk_at dksX1_text_0 9 rfl rfl)
theorem dX1_text_12 : decode cX1_text 12 = .ok (.bipush (-2), 2) := dk_16 254 (dk_at dksX1_text_0 12 rfl rfl)
theorem dX1_text_14 : decode cX1_text 14 = .ok (.ireturn, 1) := dk_172 (dk_at dksX1_text_0 14 rfl rfl)
theorem dX1_text_15 : decode cX1_text 15 = .ok (.new 72, 3) := dk_187 0 72 (dk_at dksX1_text_0 15 rfl rfl)
theorem dX1_text_18 : decode cX1_text 18 = .ok (.dup, 1) := dk_89 (dk_at dksX1_text_0 18 rfl rfl)
theorem dX1_text_19 : decode cX1_text 19 = .ok (.aload_n 0, 1) := dk_42 (dk_at dksX1_text_0 19 rfl rfl)
theorem dX1_text_20 : decode cX1_text 20 = .ok (.iload_n 1, 1) := dk_27 (dk_at dksX1_text_0 20 rfl rfl)
theorem dX1_text_21 : decode cX1_text 21 = .ok (.invokespecial 74, 3) := dk_183 0 74 (dk_at dksX1_text_0 21 rfl rfl)
theorem dX1_text_24 : decode cX1_text 24 = .ok (.astore_n 2, 1) := dk_77 (dk_at dksX1_text_1 0 rfl rfl)
theorem dX1_text_25 : decode cX1_text 25 = .ok (.aload_n 0, 1) := dk_42 (dk_at dksX1_text_1 1 rfl rfl)
theorem dX1_text_26 : decode cX1_text 26 = .ok (.aload_n 2, 1) := dk_44 (dk_at dksX1_text_1 2 rfl rfl)
theorem dX1_text_27 : decode cX1_text 27 = .ok (.invokevirtual 77, 3) := dk_182 0 77 (dk_at dksX1_text_1 3 rfl rfl)
theorem dX1_text_30 : decode cX1_text 30 = .ok (.putfield 26, 3) := dk_181 0 26 (dk_at dksX1_text_1 6 rfl rfl)
theorem dX1_text_33 : decode cX1_text 33 = .ok (.aload_n 0, 1) := dk_42 (dk_at dksX1_text_1 9 rfl rfl)
theorem dX1_text_34 : decode cX1_text 34 = .ok (.aload_n 0, 1) := dk_42 (dk_at dksX1_text_1 10 rfl rfl)
theorem dX1_text_35 : decode cX1_text 35 = .ok (.getfield 26, 3) := dk_180 0 26 (dk_at dksX1_text_1 11 rfl rfl)
theorem dX1_text_38 : decode cX1_text 38 = .ok (.invokevirtual 81, 3) := dk_182 0 81 (dk_at dksX1_text_1 14 rfl rfl)
theorem dX1_text_41 : decode cX1_text 41 = .ok (.putfield 30, 3) := dk_181 0 30 (dk_at dksX1_text_1 17 rfl rfl)
theorem dX1_text_44 : decode cX1_text 44 = .ok (.aload_n 0, 1) := dk_42 (dk_at dksX1_text_1 20 rfl rfl)
theorem dX1_text_45 : decode cX1_text 45 = .ok (.aload_n 0, 1) := dk_42 (dk_at dksX1_text_1 21 rfl rfl)
theorem dX1_text_46 : decode cX1_text 46 = .ok (.invokevirtual 41, 3) := dk_182 0 41 (dk_at dksX1_text_2 0 rfl rfl)
theorem dX1_text_49 : decode cX1_text 49 = .ok (.putfield 45, 3) := dk_181 0 45 (dk_at dksX1_text_2 3 rfl rfl)
theorem dX1_text_52 : decode cX1_text 52 = .ok (.aload_n 0, 1) := dk_42 (dk_at dksX1_text_2 6 rfl rfl)
theorem dX1_text_53 : decode cX1_text 53 = .ok (.new 34, 3) := dk_187 0 34 (dk_at dksX1_text_2 7 rfl rfl)
theorem dX1_text_56 : decode cX1_text 56 = .ok (.dup, 1) := dk_89 (dk_at dksX1_text_2 10 rfl rfl)
theorem dX1_text_57 : decode cX1_text 57 = .ok (.invokespecial 36, 3) := dk_183 0 36 (dk_at dksX1_text_2 11 rfl rfl)
theorem dX1_text_60 : decode cX1_text 60 = .ok (.putfield 49, 3) := dk_181 0 49 (dk_at dksX1_text_2 14 rfl rfl)
theorem dX1_text_63 : decode cX1_text 63 = .ok (.aload_n 0, 1) := dk_42 (dk_at dksX1_text_2 17 rfl rfl)
theorem dX1_text_64 : decode cX1_text 64 = .ok (.getfield 55, 3) := dk_180 0 55 (dk_at dksX1_text_2 18 rfl rfl)
theorem dX1_text_67 : decode cX1_text 67 = .ok (.invokevirtual 85, 3) := dk_182 0 85 (dk_at dksX1_text_2 21 rfl rfl)
theorem dX1_text_70 : decode cX1_text 70 = .ok (.aload_n 0, 1) := dk_42 (dk_at dksX1_text_3 0 rfl rfl)
theorem dX1_text_71 : decode cX1_text 71 = .ok (.invokevirtual 88, 3) := dk_182 0 88 (dk_at dksX1_text_3 1 rfl rfl)
theorem dX1_text_74 : decode cX1_text 74 = .ok (.aload_n 0, 1) := dk_42 (dk_at dksX1_text_3 4 rfl rfl)
theorem dX1_text_75 : decode cX1_text 75 = .ok (.iconst 0, 1) := dk_3 (dk_at dksX1_text_3 5 rfl rfl)
theorem dX1_text_76 : decode cX1_text 76 = .ok (.putfield 91, 3) := dk_181 0 91 (dk_at dksX1_text_3 6 rfl rfl)
theorem dX1_text_79 : decode cX1_text 79 = .ok (.aload_n 0, 1) := dk_42 (dk_at dksX1_text_3 9 rfl rfl)
theorem dX1_text_80 : decode cX1_text 80 = .ok (.iconst (-1), 1) := dk_2 (dk_at dksX1_text_3 10 rfl rfl)
theorem dX1_text_81 : decode cX1_text 81 = .ok (.putfield 20, 3) := dk_181 0 20 (dk_at dksX1_text_3 11 rfl rfl)
theorem dX1_text_84 : decode cX1_text 84 = .ok (.aload_n 0, 1) := dk_42 (dk_at dksX1_text_3 14 rfl rfl)
theorem dX1_text_85 : decode cX1_text 85 = .ok (.getfield 26, 3) := dk_180 0 26 (dk_at dksX1_text_3 15 rfl rfl)
theorem dX1_text_88 : decode cX1_text 88 = .ok (.getfield 94, 3) := dk_180 0 94 (dk_at dksX1_text_3 18 rfl rfl)
theorem dX1_text_91 : decode cX1_text 91 = .ok (.istore_n 3, 1) := dk_62 (dk_at dksX1_text_3 21 rfl rfl)
theorem dX1_text_92 : decode cX1_text 92 = .ok (.aload_n 2, 1) := dk_44 (dk_at dksX1_text_3 22 rfl rfl)
theorem dX1_text_93 : decode cX1_text 93 = .ok (.invokevirtual 97, 3) := dk_182 0 97 (dk_at dksX1_text_4 0 rfl rfl)
theorem dX1_text_96 : decode cX1_text 96 = .ok (.iload_n 3, 1) := dk_29 (dk_at dksX1_text_4 3 rfl rfl)
theorem dX1_text_97 : decode cX1_text 97 = .ok (.ireturn, 1) := dk_172 (dk_at dksX1_text_4 4 rfl rfl)
theorem dX1_text_98 : decode cX1_text 98 = .ok (.astore_n 3, 1) := dk_78 (dk_at dksX1_text_4 5 rfl rfl)
theorem dX1_text_99 : decode cX1_text 99 = .ok (.aload_n 2, 1) := dk_44 (dk_at dksX1_text_4 6 rfl rfl)
theorem dX1_text_100 : decode cX1_text 100 = .ok (.invokevirtual 97, 3) := dk_182 0 97 (dk_at dksX1_text_4 7 rfl rfl)
theorem dX1_text_103 : decode cX1_text 103 = .ok (.goto 11, 3) := dk_167 0 11 (dk_at dksX1_text_4 10 rfl rfl)
theorem dX1_text_106 : decode cX1_text 106 = .ok (.astore 4, 2) := dk_58 4 (dk_at dksX1_text_4 13 rfl rfl)
theorem dX1_text_108 : decode cX1_text 108 = .ok (.aload_n 3, 1) := dk_45 (dk_at dksX1_text_4 15 rfl rfl)
theorem dX1_text_109 : decode cX1_text 109 = .ok (.aload 4, 2) := dk_25 4 (dk_at dksX1_text_4 16 rfl rfl)
theorem dX1_text_111 : decode cX1_text 111 = .ok (.invokevirtual 102, 3) := dk_182 0 102 (dk_at dksX1_text_4 18 rfl rfl)
theorem dX1_text_114 : decode cX1_text 114 = .ok (.aload_n 3, 1) := dk_45 (dk_at dksX1_text_4 21 rfl rfl)
theorem dX1_text_115 : decode cX1_text 115 = .ok (.athrow, 1) := dk_191 (dk_at dksX1_text_4 22 rfl rfl)
theorem dX1_text_116 : decode cX1_text 116 = .ok (.astore_n 2, 1) := dk_77 (dk_at dksX1_text_4 23 rfl rfl)
theorem dX1_text_117 : decode cX1_text 117 = .ok (.aload_n 0, 1) := dk_42 (dk_at dksX1_text_5 0 rfl rfl)
theorem dX1_text_118 : decode cX1_text 118 = .ok (.aload_n 2, 1) := dk_44 (dk_at dksX1_text_5 1 rfl rfl)
theorem dX1_text_119 : decode cX1_text 119 = .ok (.getfield 108, 3) := dk_180 0 108 (dk_at dksX1_text_5 2 rfl rfl)
theorem dX1_text_122 : decode cX1_text 122 = .ok (.putfield 91, 3) := dk_181 0 91 (dk_at dksX1_text_5 5 rfl rfl)
theorem dX1_text_125 : decode cX1_text 125 = .ok (.aload_n 0, 1) := dk_42 (dk_at dksX1_text_5 8 rfl rfl)
theorem dX1_text_126 : decode cX1_text 126 = .ok (.aload_n 2, 1) := dk_44 (dk_at dksX1_text_5 9 rfl rfl)
theorem dX1_text_127 : decode cX1_text 127 = .ok (.getfield 111, 3) := dk_180 0 111 (dk_at dksX1_text_5 10 rfl rfl)
theorem dX1_text_130 : decode cX1_text 130 = .ok (.putfield 20, 3) := dk_181 0 20 (dk_at dksX1_text_5 13 rfl rfl)
theorem dX1_text_133 : decode cX1_text 133 = .ok (.iconst (-1), 1) := dk_2 (dk_at dksX1_text_5 16 rfl rfl)
theorem dX1_text_134 : decode cX1_text 134 = .ok (.ireturn, 1) := dk_172 (dk_at dksX1_text_5 17 rfl rfl)
def dkwX1_in_0 : List UInt8 := [26, 27, 161, 0, 12, 26, 28, 163, 0, 7, 4, 167, 0, 4, 3, 172]
abbrev dktX1_in_0 : List UInt8 := dkwX1_in_0 ++ []
theorem dksX1_in_0 : cX1_in.data.toList.drop 0 = dktX1_in_0 := by decide +kernel
theorem dX1_in_0 : decode cX1_in 0 = .ok (.iload_n 0, 1) := dk_26 (dk_at dksX1_in_0 0 rfl rfl)
theorem dX1_in_1 : decode cX1_in 1 = .ok (.iload_n 1, 1) := dk_27 (dk_at dksX1_in_0 1 rfl rfl)
theorem dX1_in_2 : decode cX1_in 2 = .ok (.if_icmp .lt 12, 3) := dk_161 0 12 (dk_at dksX1_in_0 2 rfl rfl)
theorem dX1_in_5 : decode cX1_in 5 = .ok (.iload_n 0, 1) := dk_26 (dk_at dksX1_in_0 5 rfl rfl)
theorem dX1_in_6 : decode cX1_in 6 = .ok (.iload_n 2, 1) := dk_28 (dk_at dksX1_in_0 6 rfl rfl)
theorem dX1_in_7 : decode cX1_in 7 = .ok (.if_icmp .gt 7, 3) := dk_163 0 7 (dk_at dksX1_in_0 7 rfl rfl)
theorem dX1_in_10 : decode cX1_in 10 = .ok (.iconst 1, 1) := dk_4 (dk_at dksX1_in_0 10 rfl rfl)
theorem dX1_in_11 : decode cX1_in 11 = .ok (.goto 4, 3) := dk_167 0 4 (dk_at dksX1_in_0 11 rfl rfl)
theorem dX1_in_14 : decode cX1_in 14 = .ok (.iconst 0, 1) := dk_3 (dk_at dksX1_in_0 14 rfl rfl)
theorem dX1_in_15 : decode cX1_in 15 = .ok (.ireturn, 1) := dk_172 (dk_at dksX1_in_0 15 rfl rfl)
def dkwX1_reaches_4 : List UInt8 := [132, 2, 1, 167, 255, 237, 177]
abbrev dktX1_reaches_4 : List UInt8 := dkwX1_reaches_4 ++ []
def dkwX1_reaches_3 : List UInt8 := [182, 0, 204, 87, 3, 61, 28, 42, 180, 0, 37, 182, 0, 208, 162, 0, 14, 42, 28, 182, 0, 209]
abbrev dktX1_reaches_3 : List UInt8 := dkwX1_reaches_3 ++ dktX1_reaches_4
def dkwX1_reaches_2 : List UInt8 := [153, 0, 4, 177, 42, 180, 0, 37, 187, 0, 182, 89, 42, 180, 0, 26, 180, 0, 194, 43, 183, 0, 201]
abbrev dktX1_reaches_2 : List UInt8 := dkwX1_reaches_2 ++ dktX1_reaches_3
def dkwX1_reaches_1 : List UInt8 := [42, 180, 0, 26, 180, 0, 194, 182, 0, 178, 43, 42, 180, 0, 30, 182, 0, 197, 43, 180, 0, 146]
abbrev dktX1_reaches_1 : List UInt8 := dkwX1_reaches_1 ++ dktX1_reaches_2
def dkwX1_reaches_0 : List UInt8 := [42, 180, 0, 37, 182, 0, 193, 187, 0, 59, 89, 42, 180, 0, 26, 182, 0, 61, 183, 0, 65, 76, 42, 43]
abbrev dktX1_reaches_0 : List UInt8 := dkwX1_reaches_0 ++ dktX1_reaches_1
theorem dksX1_reaches_0 : cX1_reaches.data.toList.drop 0 = dktX1_reaches_0 := by decide +kernel
theorem dksX1_reaches_1 : cX1_reaches.data.toList.drop 24 = dktX1_reaches_1 := dk_seg dksX1_reaches_0 24 rfl rfl
theorem dksX1_reaches_2 : cX1_reaches.data.toList.drop 46 = dktX1_reaches_2 := dk_seg dksX1_reaches_1 22 rfl rfl
theorem dksX1_reaches_3 : cX1_reaches.data.toList.drop 69 = dktX1_reaches_3 := dk_seg dksX1_reaches_2 23 rfl rfl
theorem dksX1_reaches_4 : cX1_reaches.data.toList.drop 91 = dktX1_reaches_4 := dk_seg dksX1_reaches_3 22 rfl rfl
theorem dX1_reaches_0 : decode cX1_reaches 0 = .ok (.aload_n 0, 1) := dk_42 (dk_at dksX1_reaches_0 0 rfl rfl)
theorem dX1_reaches_1 : decode cX1_reaches 1 = .ok (.getfield 37, 3) := dk_180 0 37 (dk_at dksX1_reaches_0 1 rfl rfl)
theorem dX1_reaches_4 : decode cX1_reaches 4 = .ok (.invokevirtual 193, 3) := dk_182 0 193 (dk_at dksX1_reaches_0 4 rfl rfl)
theorem dX1_reaches_7 : decode cX1_reaches 7 = .ok (.new 59, 3) := dk_187 0 59 (dk_at dksX1_reaches_0 7 rfl rfl)
theorem dX1_reaches_10 : decode cX1_reaches 10 = .ok (.dup, 1) := dk_89 (dk_at dksX1_reaches_0 10 rfl rfl)
theorem dX1_reaches_11 : decode cX1_reaches 11 = .ok (.aload_n 0, 1) := dk_42 (dk_at dksX1_reaches_0 11 rfl rfl)
theorem dX1_reaches_12 : decode cX1_reaches 12 = .ok (.getfield 26, 3) := dk_180 0 26 (dk_at dksX1_reaches_0 12 rfl rfl)
theorem dX1_reaches_15 : decode cX1_reaches 15 = .ok (.invokevirtual 61, 3) := dk_182 0 61 (dk_at dksX1_reaches_0 15 rfl rfl)
theorem dX1_reaches_18 : decode cX1_reaches 18 = .ok (.invokespecial 65, 3) := dk_183 0 65 (dk_at dksX1_reaches_0 18 rfl rfl)
theorem dX1_reaches_21 : decode cX1_reaches 21 = .ok (.astore_n 1, 1) := dk_76 (dk_at dksX1_reaches_0 21 rfl rfl)
theorem dX1_reaches_22 : decode cX1_reaches 22 = .ok (.aload_n 0, 1) := dk_42 (dk_at dksX1_reaches_0 22 rfl rfl)
theorem dX1_reaches_23 : decode cX1_reaches 23 = .ok (.aload_n 1, 1) := dk_43 (dk_at dksX1_reaches_0 23 rfl rfl)
theorem dX1_reaches_24 : decode cX1_reaches 24 = .ok (.aload_n 0, 1) := dk_42 (dk_at dksX1_reaches_1 0 rfl rfl)
theorem dX1_reaches_25 : decode cX1_reaches 25 = .ok (.getfield 26, 3) := dk_180 0 26 (dk_at dksX1_reaches_1 1 rfl rfl)
theorem dX1_reaches_28 : decode cX1_reaches 28 = .ok (.getfield 194, 3) := dk_180 0 194 (dk_at dksX1_reaches_1 4 rfl rfl)
theorem dX1_reaches_31 : decode cX1_reaches 31 = .ok (.invokevirtual 178, 3) := dk_182 0 178 (dk_at dksX1_reaches_1 7 rfl rfl)
theorem dX1_reaches_34 : decode cX1_reaches 34 = .ok (.aload_n 1, 1) := dk_43 (dk_at dksX1_reaches_1 10 rfl rfl)
theorem dX1_reaches_35 : decode cX1_reaches 35 = .ok (.aload_n 0, 1) := dk_42 (dk_at dksX1_reaches_1 11 rfl rfl)
theorem dX1_reaches_36 : decode cX1_reaches 36 = .ok (.getfield 30, 3) := dk_180 0 30 (dk_at dksX1_reaches_1 12 rfl rfl)
theorem dX1_reaches_39 : decode cX1_reaches 39 = .ok (.invokevirtual 197, 3) := dk_182 0 197 (dk_at dksX1_reaches_1 15 rfl rfl)
theorem dX1_reaches_42 : decode cX1_reaches 42 = .ok (.aload_n 1, 1) := dk_43 (dk_at dksX1_reaches_1 18 rfl rfl)
theorem dX1_reaches_43 : decode cX1_reaches 43 = .ok (.getfield 146, 3) := dk_180 0 146 (dk_at dksX1_reaches_1 19 rfl rfl)
theorem dX1_reaches_46 : decode cX1_reaches 46 = .ok (.ifCond .eq 4, 3) := dk_153 0 4 (dk_at dksX1_reaches_2 0 rfl rfl)
theorem dX1_reaches_49 : decode cX1_reaches 49 = .ok (.return_, 1) := dk_177 (dk_at dksX1_reaches_2 3 rfl rfl)
theorem dX1_reaches_50 : decode cX1_reaches 50 = .ok (.aload_n 0, 1) := dk_42 (dk_at dksX1_reaches_2 4 rfl rfl)
theorem dX1_reaches_51 : decode cX1_reaches 51 = .ok (.getfield 37, 3) := dk_180 0 37 (dk_at dksX1_reaches_2 5 rfl rfl)
theorem dX1_reaches_54 : decode cX1_reaches 54 = .ok (.new 182, 3) := dk_187 0 182 (dk_at dksX1_reaches_2 8 rfl rfl)
theorem dX1_reaches_57 : decode cX1_reaches 57 = .ok (.dup, 1) := dk_89 (dk_at dksX1_reaches_2 11 rfl rfl)
theorem dX1_reaches_58 : decode cX1_reaches 58 = .ok (.aload_n 0, 1) := dk_42 (dk_at dksX1_reaches_2 12 rfl rfl)
theorem dX1_reaches_59 : decode cX1_reaches 59 = .ok (.getfield 26, 3) := dk_180 0 26 (dk_at dksX1_reaches_2 13 rfl rfl)
theorem dX1_reaches_62 : decode cX1_reaches 62 = .ok (.getfield 194, 3) := dk_180 0 194 (dk_at dksX1_reaches_2 16 rfl rfl)
theorem dX1_reaches_65 : decode cX1_reaches 65 = .ok (.aload_n 1, 1) := dk_43 (dk_at dksX1_reaches_2 19 rfl rfl)
theorem dX1_reaches_66 : decode cX1_reaches 66 = .ok (.invokespecial 201, 3) := dk_183 0 201 (dk_at dksX1_reaches_2 20 rfl rfl)
theorem dX1_reaches_69 : decode cX1_reaches 69 = .ok (.invokevirtual 204, 3) := dk_182 0 204 (dk_at dksX1_reaches_3 0 rfl rfl)
theorem dX1_reaches_72 : decode cX1_reaches 72 = .ok (.pop, 1) := dk_87 (dk_at dksX1_reaches_3 3 rfl rfl)
theorem dX1_reaches_73 : decode cX1_reaches 73 = .ok (.iconst 0, 1) := dk_3 (dk_at dksX1_reaches_3 4 rfl rfl)
theorem dX1_reaches_74 : decode cX1_reaches 74 = .ok (.istore_n 2, 1) := dk_61 (dk_at dksX1_reaches_3 5 rfl rfl)
theorem dX1_reaches_75 : decode cX1_reaches 75 = .ok (.iload_n 2, 1) := dk_28 (dk_at dksX1_reaches_3 6 rfl rfl)
theorem dX1_reaches_76 : decode cX1_reaches 76 = .ok (.aload_n 0, 1) := dk_42 (dk_at dksX1_reaches_3 7 rfl rfl)
theorem dX1_reaches_77 : decode cX1_reaches 77 = .ok (.getfield 37, 3) := dk_180 0 37 (dk_at dksX1_reaches_3 8 rfl rfl)
theorem dX1_reaches_80 : decode cX1_reaches 80 = .ok (.invokevirtual 208, 3) := dk_182 0 208 (dk_at dksX1_reaches_3 11 rfl rfl)
theorem dX1_reaches_83 : decode cX1_reaches 83 = .ok (.if_icmp .ge 14, 3) := dk_162 0 14 (dk_at dksX1_reaches_3 14 rfl rfl)
theorem dX1_reaches_86 : decode cX1_reaches 86 = .ok (.aload_n 0, 1) := dk_42 (dk_at dksX1_reaches_3 17 rfl rfl)
theorem dX1_reaches_87 : decode cX1_reaches 87 = .ok (.iload_n 2, 1) := dk_28 (dk_at dksX1_reaches_3 18 rfl rfl)
theorem dX1_reaches_88 : decode cX1_reaches 88 = .ok (.invokevirtual 209, 3) := dk_182 0 209 (dk_at dksX1_reaches_3 19 rfl rfl)
theorem dX1_reaches_91 : decode cX1_reaches 91 = .ok (.iinc 2 1, 3) := dk_132 2 1 (dk_at dksX1_reaches_4 0 rfl rfl)
theorem dX1_reaches_94 : decode cX1_reaches 94 = .ok (.goto (-19), 3) := dk_167 255 237 (dk_at dksX1_reaches_4 3 rfl rfl)
theorem dX1_reaches_97 : decode cX1_reaches 97 = .ok (.return_, 1) := dk_177 (dk_at dksX1_reaches_4 6 rfl rfl)
def dkwX1_waits_2 : List UInt8 := [182, 0, 153, 192, 0, 34, 184, 0, 157, 177]
abbrev dktX1_waits_2 : List UInt8 := dkwX1_waits_2 ++ []
def dkwX1_waits_1 : List UInt8 := [184, 0, 157, 43, 180, 0, 146, 153, 0, 4, 177, 43, 182, 0, 161, 43, 42, 180, 0, 26, 180, 0, 150, 28]
abbrev dktX1_waits_1 : List UInt8 := dkwX1_waits_1 ++ dktX1_waits_2
def dkwX1_waits_0 : List UInt8 := [43, 180, 0, 146, 154, 0, 21, 43, 42, 180, 0, 26, 180, 0, 150, 28, 182, 0, 153, 192, 0, 34]
abbrev dktX1_waits_0 : List UInt8 := dkwX1_waits_0 ++ dktX1_waits_1
theorem dksX1_waits_0 : cX1_waits.data.toList.drop 0 = dktX1_waits_0 := by decide +kernel
theorem dksX1_waits_1 : cX1_waits.data.toList.drop 22 = dktX1_waits_1 := dk_seg dksX1_waits_0 22 rfl rfl
theorem dksX1_waits_2 : cX1_waits.data.toList.drop 46 = dktX1_waits_2 := dk_seg dksX1_waits_1 24 rfl rfl
theorem dX1_waits_0 : decode cX1_waits 0 = .ok (.aload_n 1, 1) := dk_43 (dk_at dksX1_waits_0 0 rfl rfl)
theorem dX1_waits_1 : decode cX1_waits 1 = .ok (.getfield 146, 3) := dk_180 0 146 (dk_at dksX1_waits_0 1 rfl rfl)
theorem dX1_waits_4 : decode cX1_waits 4 = .ok (.ifCond .ne 21, 3) := dk_154 0 21 (dk_at dksX1_waits_0 4 rfl rfl)
theorem dX1_waits_7 : decode cX1_waits 7 = .ok (.aload_n 1, 1) := dk_43 (dk_at dksX1_waits_0 7 rfl rfl)
theorem dX1_waits_8 : decode cX1_waits 8 = .ok (.aload_n 0, 1) := dk_42 (dk_at dksX1_waits_0 8 rfl rfl)
theorem dX1_waits_9 : decode cX1_waits 9 = .ok (.getfield 26, 3) := dk_180 0 26 (dk_at dksX1_waits_0 9 rfl rfl)
theorem dX1_waits_12 : decode cX1_waits 12 = .ok (.getfield 150, 3) := dk_180 0 150 (dk_at dksX1_waits_0 12 rfl rfl)
theorem dX1_waits_15 : decode cX1_waits 15 = .ok (.iload_n 2, 1) := dk_28 (dk_at dksX1_waits_0 15 rfl rfl)
theorem dX1_waits_16 : decode cX1_waits 16 = .ok (.invokevirtual 153, 3) := dk_182 0 153 (dk_at dksX1_waits_0 16 rfl rfl)
theorem dX1_waits_19 : decode cX1_waits 19 = .ok (.checkcast 34, 3) := dk_192 0 34 (dk_at dksX1_waits_0 19 rfl rfl)
theorem dX1_waits_22 : decode cX1_waits 22 = .ok (.invokestatic 157, 3) := dk_184 0 157 (dk_at dksX1_waits_1 0 rfl rfl)
theorem dX1_waits_25 : decode cX1_waits 25 = .ok (.aload_n 1, 1) := dk_43 (dk_at dksX1_waits_1 3 rfl rfl)
theorem dX1_waits_26 : decode cX1_waits 26 = .ok (.getfield 146, 3) := dk_180 0 146 (dk_at dksX1_waits_1 4 rfl rfl)
theorem dX1_waits_29 : decode cX1_waits 29 = .ok (.ifCond .eq 4, 3) := dk_153 0 4 (dk_at dksX1_waits_1 7 rfl rfl)
theorem dX1_waits_32 : decode cX1_waits 32 = .ok (.return_, 1) := dk_177 (dk_at dksX1_waits_1 10 rfl rfl)
theorem dX1_waits_33 : decode cX1_waits 33 = .ok (.aload_n 1, 1) := dk_43 (dk_at dksX1_waits_1 11 rfl rfl)
theorem dX1_waits_34 : decode cX1_waits 34 = .ok (.invokevirtual 161, 3) := dk_182 0 161 (dk_at dksX1_waits_1 12 rfl rfl)
theorem dX1_waits_37 : decode cX1_waits 37 = .ok (.aload_n 1, 1) := dk_43 (dk_at dksX1_waits_1 15 rfl rfl)
theorem dX1_waits_38 : decode cX1_waits 38 = .ok (.aload_n 0, 1) := dk_42 (dk_at dksX1_waits_1 16 rfl rfl)
theorem dX1_waits_39 : decode cX1_waits 39 = .ok (.getfield 26, 3) := dk_180 0 26 (dk_at dksX1_waits_1 17 rfl rfl)
theorem dX1_waits_42 : decode cX1_waits 42 = .ok (.getfield 150, 3) := dk_180 0 150 (dk_at dksX1_waits_1 20 rfl rfl)
theorem dX1_waits_45 : decode cX1_waits 45 = .ok (.iload_n 2, 1) := dk_28 (dk_at dksX1_waits_1 23 rfl rfl)
theorem dX1_waits_46 : decode cX1_waits 46 = .ok (.invokevirtual 153, 3) := dk_182 0 153 (dk_at dksX1_waits_2 0 rfl rfl)
theorem dX1_waits_49 : decode cX1_waits 49 = .ok (.checkcast 34, 3) := dk_192 0 34 (dk_at dksX1_waits_2 3 rfl rfl)
theorem dX1_waits_52 : decode cX1_waits 52 = .ok (.invokestatic 157, 3) := dk_184 0 157 (dk_at dksX1_waits_2 6 rfl rfl)
theorem dX1_waits_55 : decode cX1_waits 55 = .ok (.return_, 1) := dk_177 (dk_at dksX1_waits_2 9 rfl rfl)
def dkwX1_keeps_2 : List UInt8 := [182, 0, 143, 177]
abbrev dktX1_keeps_2 : List UInt8 := dkwX1_keeps_2 ++ []
def dkwX1_keeps_1 : List UInt8 := [42, 45, 180, 0, 130, 4, 96, 3, 45, 180, 0, 133, 45, 180, 0, 136, 182, 0, 139, 167, 255, 218, 42]
abbrev dktX1_keeps_1 : List UInt8 := dkwX1_keeps_1 ++ dktX1_keeps_2
def dkwX1_keeps_0 : List UInt8 := [43, 182, 0, 114, 77, 44, 185, 0, 118, 1, 0, 153, 0, 35, 44, 185, 0, 124, 1, 0, 192, 0, 128, 78]
abbrev dktX1_keeps_0 : List UInt8 := dkwX1_keeps_0 ++ dktX1_keeps_1
theorem dksX1_keeps_0 : cX1_keeps.data.toList.drop 0 = dktX1_keeps_0 := by decide +kernel
theorem dksX1_keeps_1 : cX1_keeps.data.toList.drop 24 = dktX1_keeps_1 := dk_seg dksX1_keeps_0 24 rfl rfl
theorem dksX1_keeps_2 : cX1_keeps.data.toList.drop 47 = dktX1_keeps_2 := dk_seg dksX1_keeps_1 23 rfl rfl
theorem dX1_keeps_0 : decode cX1_keeps 0 = .ok (.aload_n 1, 1) := dk_43 (dk_at dksX1_keeps_0 0 rfl rfl)
theorem dX1_keeps_1 : decode cX1_keeps 1 = .ok (.invokevirtual 114, 3) := dk_182 0 114 (dk_at dksX1_keeps_0 1 rfl rfl)
theorem dX1_keeps_4 : decode cX1_keeps 4 = .ok (.astore_n 2, 1) := dk_77 (dk_at dksX1_keeps_0 4 rfl rfl)
theorem dX1_keeps_5 : decode cX1_keeps 5 = .ok (.aload_n 2, 1) := dk_44 (dk_at dksX1_keeps_0 5 rfl rfl)
theorem dX1_keeps_6 : decode cX1_keeps 6 = .ok (.invokeinterface 118 1, 5) := by decide +kernel
theorem dX1_keeps_11 : decode cX1_keeps 11 = .ok (.ifCond .eq 35, 3) := dk_153 0 35 (dk_at dksX1_keeps_0 11 rfl rfl)
theorem dX1_keeps_14 : decode cX1_keeps 14 = .ok (.aload_n 2, 1) := dk_44 (dk_at dksX1_keeps_0 14 rfl rfl)
theorem dX1_keeps_15 : decode cX1_keeps 15 = .ok (.invokeinterface 124 1, 5) := by decide +kernel
theorem dX1_keeps_20 : decode cX1_keeps 20 = .ok (.checkcast 128, 3) := dk_192 0 128 (dk_at dksX1_keeps_0 20 rfl rfl)
theorem dX1_keeps_23 : decode cX1_keeps 23 = .ok (.astore_n 3, 1) := dk_78 (dk_at dksX1_keeps_0 23 rfl rfl)
theorem dX1_keeps_24 : decode cX1_keeps 24 = .ok (.aload_n 0, 1) := dk_42 (dk_at dksX1_keeps_1 0 rfl rfl)
theorem dX1_keeps_25 : decode cX1_keeps 25 = .ok (.aload_n 3, 1) := dk_45 (dk_at dksX1_keeps_1 1 rfl rfl)
theorem dX1_keeps_26 : decode cX1_keeps 26 = .ok (.getfield 130, 3) := dk_180 0 130 (dk_at dksX1_keeps_1 2 rfl rfl)
theorem dX1_keeps_29 : decode cX1_keeps 29 = .ok (.iconst 1, 1) := dk_4 (dk_at dksX1_keeps_1 5 rfl rfl)
theorem dX1_keeps_30 : decode cX1_keeps 30 = .ok (.iadd, 1) := dk_96 (dk_at dksX1_keeps_1 6 rfl rfl)
theorem dX1_keeps_31 : decode cX1_keeps 31 = .ok (.iconst 0, 1) := dk_3 (dk_at dksX1_keeps_1 7 rfl rfl)
theorem dX1_keeps_32 : decode cX1_keeps 32 = .ok (.aload_n 3, 1) := dk_45 (dk_at dksX1_keeps_1 8 rfl rfl)
theorem dX1_keeps_33 : decode cX1_keeps 33 = .ok (.getfield 133, 3) := dk_180 0 133 (dk_at dksX1_keeps_1 9 rfl rfl)
theorem dX1_keeps_36 : decode cX1_keeps 36 = .ok (.aload_n 3, 1) := dk_45 (dk_at dksX1_keeps_1 12 rfl rfl)
theorem dX1_keeps_37 : decode cX1_keeps 37 = .ok (.getfield 136, 3) := dk_180 0 136 (dk_at dksX1_keeps_1 13 rfl rfl)
theorem dX1_keeps_40 : decode cX1_keeps 40 = .ok (.invokevirtual 139, 3) := dk_182 0 139 (dk_at dksX1_keeps_1 16 rfl rfl)
theorem dX1_keeps_43 : decode cX1_keeps 43 = .ok (.goto (-38), 3) := dk_167 255 218 (dk_at dksX1_keeps_1 19 rfl rfl)
theorem dX1_keeps_46 : decode cX1_keeps 46 = .ok (.aload_n 0, 1) := dk_42 (dk_at dksX1_keeps_1 22 rfl rfl)
theorem dX1_keeps_47 : decode cX1_keeps 47 = .ok (.invokevirtual 143, 3) := dk_182 0 143 (dk_at dksX1_keeps_2 0 rfl rfl)
theorem dX1_keeps_50 : decode cX1_keeps 50 = .ok (.return_, 1) := dk_177 (dk_at dksX1_keeps_2 3 rfl rfl)
def dkwX1_below_0 : List UInt8 := [5, 26, 104, 172]
abbrev dktX1_below_0 : List UInt8 := dkwX1_below_0 ++ []
theorem dksX1_below_0 : cX1_below.data.toList.drop 0 = dktX1_below_0 := by decide +kernel
theorem dX1_below_0 : decode cX1_below 0 = .ok (.iconst 2, 1) := dk_5 (dk_at dksX1_below_0 0 rfl rfl)
theorem dX1_below_1 : decode cX1_below 1 = .ok (.iload_n 0, 1) := dk_26 (dk_at dksX1_below_0 1 rfl rfl)
theorem dX1_below_2 : decode cX1_below 2 = .ok (.imul, 1) := dk_104 (dk_at dksX1_below_0 2 rfl rfl)
theorem dX1_below_3 : decode cX1_below 3 = .ok (.ireturn, 1) := dk_172 (dk_at dksX1_below_0 3 rfl rfl)
def dkwX1_reached_0 : List UInt8 := [5, 26, 104, 4, 96, 172]
abbrev dktX1_reached_0 : List UInt8 := dkwX1_reached_0 ++ []
theorem dksX1_reached_0 : cX1_reached.data.toList.drop 0 = dktX1_reached_0 := by decide +kernel
theorem dX1_reached_0 : decode cX1_reached 0 = .ok (.iconst 2, 1) := dk_5 (dk_at dksX1_reached_0 0 rfl rfl)
theorem dX1_reached_1 : decode cX1_reached 1 = .ok (.iload_n 0, 1) := dk_26 (dk_at dksX1_reached_0 1 rfl rfl)
theorem dX1_reached_2 : decode cX1_reached 2 = .ok (.imul, 1) := dk_104 (dk_at dksX1_reached_0 2 rfl rfl)
theorem dX1_reached_3 : decode cX1_reached 3 = .ok (.iconst 1, 1) := dk_4 (dk_at dksX1_reached_0 3 rfl rfl)
theorem dX1_reached_4 : decode cX1_reached 4 = .ok (.iadd, 1) := dk_96 (dk_at dksX1_reached_0 4 rfl rfl)
theorem dX1_reached_5 : decode cX1_reached 5 = .ok (.ireturn, 1) := dk_172 (dk_at dksX1_reached_0 5 rfl rfl)
def dkwX1_sum_1 : List UInt8 := [27, 4, 122, 96, 104, 26, 27, 126, 4, 126, 96, 172]
abbrev dktX1_sum_1 : List UInt8 := dkwX1_sum_1 ++ []
def dkwX1_sum_0 : List UInt8 := [26, 178, 0, 1, 159, 0, 10, 27, 178, 0, 1, 160, 0, 9, 178, 0, 1, 167, 0, 18, 5, 26, 4, 122]
abbrev dktX1_sum_0 : List UInt8 := dkwX1_sum_0 ++ dktX1_sum_1
theorem dksX1_sum_0 : cX1_sum.data.toList.drop 0 = dktX1_sum_0 := by decide +kernel
theorem dksX1_sum_1 : cX1_sum.data.toList.drop 24 = dktX1_sum_1 := dk_seg dksX1_sum_0 24 rfl rfl
theorem dX1_sum_0 : decode cX1_sum 0 = .ok (.iload_n 0, 1) := dk_26 (dk_at dksX1_sum_0 0 rfl rfl)
theorem dX1_sum_1 : decode cX1_sum 1 = .ok (.getstatic 1, 3) := dk_178 0 1 (dk_at dksX1_sum_0 1 rfl rfl)
theorem dX1_sum_4 : decode cX1_sum 4 = .ok (.if_icmp .eq 10, 3) := dk_159 0 10 (dk_at dksX1_sum_0 4 rfl rfl)
theorem dX1_sum_7 : decode cX1_sum 7 = .ok (.iload_n 1, 1) := dk_27 (dk_at dksX1_sum_0 7 rfl rfl)
theorem dX1_sum_8 : decode cX1_sum 8 = .ok (.getstatic 1, 3) := dk_178 0 1 (dk_at dksX1_sum_0 8 rfl rfl)
theorem dX1_sum_11 : decode cX1_sum 11 = .ok (.if_icmp .ne 9, 3) := dk_160 0 9 (dk_at dksX1_sum_0 11 rfl rfl)
theorem dX1_sum_14 : decode cX1_sum 14 = .ok (.getstatic 1, 3) := dk_178 0 1 (dk_at dksX1_sum_0 14 rfl rfl)
theorem dX1_sum_17 : decode cX1_sum 17 = .ok (.goto 18, 3) := dk_167 0 18 (dk_at dksX1_sum_0 17 rfl rfl)
theorem dX1_sum_20 : decode cX1_sum 20 = .ok (.iconst 2, 1) := dk_5 (dk_at dksX1_sum_0 20 rfl rfl)
theorem dX1_sum_21 : decode cX1_sum 21 = .ok (.iload_n 0, 1) := dk_26 (dk_at dksX1_sum_0 21 rfl rfl)
theorem dX1_sum_22 : decode cX1_sum 22 = .ok (.iconst 1, 1) := dk_4 (dk_at dksX1_sum_0 22 rfl rfl)
theorem dX1_sum_23 : decode cX1_sum 23 = .ok (.ishr, 1) := dk_122 (dk_at dksX1_sum_0 23 rfl rfl)
theorem dX1_sum_24 : decode cX1_sum 24 = .ok (.iload_n 1, 1) := dk_27 (dk_at dksX1_sum_1 0 rfl rfl)
theorem dX1_sum_25 : decode cX1_sum 25 = .ok (.iconst 1, 1) := dk_4 (dk_at dksX1_sum_1 1 rfl rfl)
theorem dX1_sum_26 : decode cX1_sum 26 = .ok (.ishr, 1) := dk_122 (dk_at dksX1_sum_1 2 rfl rfl)
theorem dX1_sum_27 : decode cX1_sum 27 = .ok (.iadd, 1) := dk_96 (dk_at dksX1_sum_1 3 rfl rfl)
theorem dX1_sum_28 : decode cX1_sum 28 = .ok (.imul, 1) := dk_104 (dk_at dksX1_sum_1 4 rfl rfl)
theorem dX1_sum_29 : decode cX1_sum 29 = .ok (.iload_n 0, 1) := dk_26 (dk_at dksX1_sum_1 5 rfl rfl)
theorem dX1_sum_30 : decode cX1_sum 30 = .ok (.iload_n 1, 1) := dk_27 (dk_at dksX1_sum_1 6 rfl rfl)
theorem dX1_sum_31 : decode cX1_sum 31 = .ok (.iand, 1) := dk_126 (dk_at dksX1_sum_1 7 rfl rfl)
theorem dX1_sum_32 : decode cX1_sum 32 = .ok (.iconst 1, 1) := dk_4 (dk_at dksX1_sum_1 8 rfl rfl)
theorem dX1_sum_33 : decode cX1_sum 33 = .ok (.iand, 1) := dk_126 (dk_at dksX1_sum_1 9 rfl rfl)
theorem dX1_sum_34 : decode cX1_sum 34 = .ok (.iadd, 1) := dk_96 (dk_at dksX1_sum_1 10 rfl rfl)
theorem dX1_sum_35 : decode cX1_sum 35 = .ok (.ireturn, 1) := dk_172 (dk_at dksX1_sum_1 11 rfl rfl)
def dkwX1_goesOn_6 : List UInt8 := [29, 44, 180, 0, 229, 4, 96, 183, 0, 232, 182, 0, 204, 87, 132, 3, 1, 167, 255, 114, 177]
abbrev dktX1_goesOn_6 : List UInt8 := dkwX1_goesOn_6 ++ []
def dkwX1_goesOn_5 : List UInt8 := [25, 5, 182, 0, 225, 153, 0, 33, 42, 180, 0, 37, 187, 0, 182, 89, 25, 4, 180, 0, 175, 25, 5, 27]
abbrev dktX1_goesOn_5 : List UInt8 := dkwX1_goesOn_5 ++ dktX1_goesOn_6
def dkwX1_goesOn_4 : List UInt8 := [25, 5, 42, 180, 0, 30, 182, 0, 197, 25, 5, 180, 0, 146, 154, 0, 47, 42, 25, 4, 180, 0, 175]
abbrev dktX1_goesOn_4 : List UInt8 := dkwX1_goesOn_4 ++ dktX1_goesOn_5
def dkwX1_goesOn_3 : List UInt8 := [167, 0, 85, 187, 0, 59, 89, 44, 180, 0, 185, 183, 0, 218, 58, 5, 42, 25, 5, 25, 4, 182, 0, 221]
abbrev dktX1_goesOn_3 : List UInt8 := dkwX1_goesOn_3 ++ dktX1_goesOn_4
def dkwX1_goesOn_2 : List UInt8 := [180, 0, 215, 44, 180, 0, 184, 160, 0, 100, 42, 180, 0, 37, 182, 0, 208, 16, 60, 160, 0, 6]
abbrev dktX1_goesOn_2 : List UInt8 := dkwX1_goesOn_2 ++ dktX1_goesOn_3
def dkwX1_goesOn_1 : List UInt8 := [182, 0, 208, 162, 0, 134, 42, 180, 0, 26, 180, 0, 212, 29, 182, 0, 153, 192, 0, 165, 58, 4, 25, 4]
abbrev dktX1_goesOn_1 : List UInt8 := dkwX1_goesOn_1 ++ dktX1_goesOn_2
def dkwX1_goesOn_0 : List UInt8 := [42, 180, 0, 37, 27, 182, 0, 153, 192, 0, 182, 77, 3, 62, 29, 42, 180, 0, 26, 180, 0, 212]
abbrev dktX1_goesOn_0 : List UInt8 := dkwX1_goesOn_0 ++ dktX1_goesOn_1
theorem dksX1_goesOn_0 : cX1_goesOn.data.toList.drop 0 = dktX1_goesOn_0 := by decide +kernel
theorem dksX1_goesOn_1 : cX1_goesOn.data.toList.drop 22 = dktX1_goesOn_1 := dk_seg dksX1_goesOn_0 22 rfl rfl
theorem dksX1_goesOn_2 : cX1_goesOn.data.toList.drop 46 = dktX1_goesOn_2 := dk_seg dksX1_goesOn_1 24 rfl rfl
theorem dksX1_goesOn_3 : cX1_goesOn.data.toList.drop 68 = dktX1_goesOn_3 := dk_seg dksX1_goesOn_2 22 rfl rfl
theorem dksX1_goesOn_4 : cX1_goesOn.data.toList.drop 92 = dktX1_goesOn_4 := dk_seg dksX1_goesOn_3 24 rfl rfl
theorem dksX1_goesOn_5 : cX1_goesOn.data.toList.drop 115 = dktX1_goesOn_5 := dk_seg dksX1_goesOn_4 23 rfl rfl
theorem dksX1_goesOn_6 : cX1_goesOn.data.toList.drop 139 = dktX1_goesOn_6 := dk_seg dksX1_goesOn_5 24 rfl rfl
theorem dX1_goesOn_0 : decode cX1_goesOn 0 = .ok (.aload_n 0, 1) := dk_42 (dk_at dksX1_goesOn_0 0 rfl rfl)
theorem dX1_goesOn_1 : decode cX1_goesOn 1 = .ok (.getfield 37, 3) := dk_180 0 37 (dk_at dksX1_goesOn_0 1 rfl rfl)
theorem dX1_goesOn_4 : decode cX1_goesOn 4 = .ok (.iload_n 1, 1) := dk_27 (dk_at dksX1_goesOn_0 4 rfl rfl)
theorem dX1_goesOn_5 : decode cX1_goesOn 5 = .ok (.invokevirtual 153, 3) := dk_182 0 153 (dk_at dksX1_goesOn_0 5 rfl rfl)
theorem dX1_goesOn_8 : decode cX1_goesOn 8 = .ok (.checkcast 182, 3) := dk_192 0 182 (dk_at dksX1_goesOn_0 8 rfl rfl)
theorem dX1_goesOn_11 : decode cX1_goesOn 11 = .ok (.astore_n 2, 1) := dk_77 (dk_at dksX1_goesOn_0 11 rfl rfl)
theorem dX1_goesOn_12 : decode cX1_goesOn 12 = .ok (.iconst 0, 1) := dk_3 (dk_at dksX1_goesOn_0 12 rfl rfl)
theorem dX1_goesOn_13 : decode cX1_goesOn 13 = .ok (.istore_n 3, 1) := dk_62 (dk_at dksX1_goesOn_0 13 rfl rfl)
theorem dX1_goesOn_14 : decode cX1_goesOn 14 = .ok (.iload_n 3, 1) := dk_29 (dk_at dksX1_goesOn_0 14 rfl rfl)
theorem dX1_goesOn_15 : decode cX1_goesOn 15 = .ok (.aload_n 0, 1) := dk_42 (dk_at dksX1_goesOn_0 15 rfl rfl)
theorem dX1_goesOn_16 : decode cX1_goesOn 16 = .ok (.getfield 26, 3) := dk_180 0 26 (dk_at dksX1_goesOn_0 16 rfl rfl)
theorem dX1_goesOn_19 : decode cX1_goesOn 19 = .ok (.getfield 212, 3) := dk_180 0 212 (dk_at dksX1_goesOn_0 19 rfl rfl)
theorem dX1_goesOn_22 : decode cX1_goesOn 22 = .ok (.invokevirtual 208, 3) := dk_182 0 208 (dk_at dksX1_goesOn_1 0 rfl rfl)
theorem dX1_goesOn_25 : decode cX1_goesOn 25 = .ok (.if_icmp .ge 134, 3) := dk_162 0 134 (dk_at dksX1_goesOn_1 3 rfl rfl)
theorem dX1_goesOn_28 : decode cX1_goesOn 28 = .ok (.aload_n 0, 1) := dk_42 (dk_at dksX1_goesOn_1 6 rfl rfl)
theorem dX1_goesOn_29 : decode cX1_goesOn 29 = .ok (.getfield 26, 3) := dk_180 0 26 (dk_at dksX1_goesOn_1 7 rfl rfl)
theorem dX1_goesOn_32 : decode cX1_goesOn 32 = .ok (.getfield 212, 3) := dk_180 0 212 (dk_at dksX1_goesOn_1 10 rfl rfl)
theorem dX1_goesOn_35 : decode cX1_goesOn 35 = .ok (.iload_n 3, 1) := dk_29 (dk_at dksX1_goesOn_1 13 rfl rfl)
theorem dX1_goesOn_36 : decode cX1_goesOn 36 = .ok (.invokevirtual 153, 3) := dk_182 0 153 (dk_at dksX1_goesOn_1 14 rfl rfl)
theorem dX1_goesOn_39 : decode cX1_goesOn 39 = .ok (.checkcast 165, 3) := dk_192 0 165 (dk_at dksX1_goesOn_1 17 rfl rfl)
theorem dX1_goesOn_42 : decode cX1_goesOn 42 = .ok (.astore 4, 2) := dk_58 4 (dk_at dksX1_goesOn_1 20 rfl rfl)
theorem dX1_goesOn_44 : decode cX1_goesOn 44 = .ok (.aload 4, 2) := dk_25 4 (dk_at dksX1_goesOn_1 22 rfl rfl)
theorem dX1_goesOn_46 : decode cX1_goesOn 46 = .ok (.getfield 215, 3) := dk_180 0 215 (dk_at dksX1_goesOn_2 0 rfl rfl)
theorem dX1_goesOn_49 : decode cX1_goesOn 49 = .ok (.aload_n 2, 1) := dk_44 (dk_at dksX1_goesOn_2 3 rfl rfl)
theorem dX1_goesOn_50 : decode cX1_goesOn 50 = .ok (.getfield 184, 3) := dk_180 0 184 (dk_at dksX1_goesOn_2 4 rfl rfl)
theorem dX1_goesOn_53 : decode cX1_goesOn 53 = .ok (.if_icmp .ne 100, 3) := dk_160 0 100 (dk_at dksX1_goesOn_2 7 rfl rfl)
theorem dX1_goesOn_56 : decode cX1_goesOn 56 = .ok (.aload_n 0, 1) := dk_42 (dk_at dksX1_goesOn_2 10 rfl rfl)
theorem dX1_goesOn_57 : decode cX1_goesOn 57 = .ok (.getfield 37, 3) := dk_180 0 37 (dk_at dksX1_goesOn_2 11 rfl rfl)
theorem dX1_goesOn_60 : decode cX1_goesOn 60 = .ok (.invokevirtual 208, 3) := dk_182 0 208 (dk_at dksX1_goesOn_2 14 rfl rfl)
theorem dX1_goesOn_63 : decode cX1_goesOn 63 = .ok (.bipush 60, 2) := dk_16 60 (dk_at dksX1_goesOn_2 17 rfl rfl)
theorem dX1_goesOn_65 : decode cX1_goesOn 65 = .ok (.if_icmp .ne 6, 3) := dk_160 0 6 (dk_at dksX1_goesOn_2 19 rfl rfl)
theorem dX1_goesOn_68 : decode cX1_goesOn 68 = .ok (.goto 85, 3) := dk_167 0 85 (dk_at dksX1_goesOn_3 0 rfl rfl)
theorem dX1_goesOn_71 : decode cX1_goesOn 71 = .ok (.new 59, 3) := dk_187 0 59 (dk_at dksX1_goesOn_3 3 rfl rfl)
theorem dX1_goesOn_74 : decode cX1_goesOn 74 = .ok (.dup, 1) := dk_89 (dk_at dksX1_goesOn_3 6 rfl rfl)
theorem dX1_goesOn_75 : decode cX1_goesOn 75 = .ok (.aload_n 2, 1) := dk_44 (dk_at dksX1_goesOn_3 7 rfl rfl)
theorem dX1_goesOn_76 : decode cX1_goesOn 76 = .ok (.getfield 185, 3) := dk_180 0 185 (dk_at dksX1_goesOn_3 8 rfl rfl)
theorem dX1_goesOn_79 : decode cX1_goesOn 79 = .ok (.invokespecial 218, 3) := dk_183 0 218 (dk_at dksX1_goesOn_3 11 rfl rfl)
theorem dX1_goesOn_82 : decode cX1_goesOn 82 = .ok (.astore 5, 2) := dk_58 5 (dk_at dksX1_goesOn_3 14 rfl rfl)
theorem dX1_goesOn_84 : decode cX1_goesOn 84 = .ok (.aload_n 0, 1) := dk_42 (dk_at dksX1_goesOn_3 16 rfl rfl)
theorem dX1_goesOn_85 : decode cX1_goesOn 85 = .ok (.aload 5, 2) := dk_25 5 (dk_at dksX1_goesOn_3 17 rfl rfl)
theorem dX1_goesOn_87 : decode cX1_goesOn 87 = .ok (.aload 4, 2) := dk_25 4 (dk_at dksX1_goesOn_3 19 rfl rfl)
theorem dX1_goesOn_89 : decode cX1_goesOn 89 = .ok (.invokevirtual 221, 3) := dk_182 0 221 (dk_at dksX1_goesOn_3 21 rfl rfl)
theorem dX1_goesOn_92 : decode cX1_goesOn 92 = .ok (.aload 5, 2) := dk_25 5 (dk_at dksX1_goesOn_4 0 rfl rfl)
theorem dX1_goesOn_94 : decode cX1_goesOn 94 = .ok (.aload_n 0, 1) := dk_42 (dk_at dksX1_goesOn_4 2 rfl rfl)
theorem dX1_goesOn_95 : decode cX1_goesOn 95 = .ok (.getfield 30, 3) := dk_180 0 30 (dk_at dksX1_goesOn_4 3 rfl rfl)
theorem dX1_goesOn_98 : decode cX1_goesOn 98 = .ok (.invokevirtual 197, 3) := dk_182 0 197 (dk_at dksX1_goesOn_4 6 rfl rfl)
theorem dX1_goesOn_101 : decode cX1_goesOn 101 = .ok (.aload 5, 2) := dk_25 5 (dk_at dksX1_goesOn_4 9 rfl rfl)
theorem dX1_goesOn_103 : decode cX1_goesOn 103 = .ok (.getfield 146, 3) := dk_180 0 146 (dk_at dksX1_goesOn_4 11 rfl rfl)
theorem dX1_goesOn_106 : decode cX1_goesOn 106 = .ok (.ifCond .ne 47, 3) := dk_154 0 47 (dk_at dksX1_goesOn_4 14 rfl rfl)
theorem dX1_goesOn_109 : decode cX1_goesOn 109 = .ok (.aload_n 0, 1) := dk_42 (dk_at dksX1_goesOn_4 17 rfl rfl)
theorem dX1_goesOn_110 : decode cX1_goesOn 110 = .ok (.aload 4, 2) := dk_25 4 (dk_at dksX1_goesOn_4 18 rfl rfl)
theorem dX1_goesOn_112 : decode cX1_goesOn 112 = .ok (.getfield 175, 3) := dk_180 0 175 (dk_at dksX1_goesOn_4 20 rfl rfl)
theorem dX1_goesOn_115 : decode cX1_goesOn 115 = .ok (.aload 5, 2) := dk_25 5 (dk_at dksX1_goesOn_5 0 rfl rfl)
theorem dX1_goesOn_117 : decode cX1_goesOn 117 = .ok (.invokevirtual 225, 3) := dk_182 0 225 (dk_at dksX1_goesOn_5 2 rfl rfl)
theorem dX1_goesOn_120 : decode cX1_goesOn 120 = .ok (.ifCond .eq 33, 3) := dk_153 0 33 (dk_at dksX1_goesOn_5 5 rfl rfl)
theorem dX1_goesOn_123 : decode cX1_goesOn 123 = .ok (.aload_n 0, 1) := dk_42 (dk_at dksX1_goesOn_5 8 rfl rfl)
theorem dX1_goesOn_124 : decode cX1_goesOn 124 = .ok (.getfield 37, 3) := dk_180 0 37 (dk_at dksX1_goesOn_5 9 rfl rfl)
theorem dX1_goesOn_127 : decode cX1_goesOn 127 = .ok (.new 182, 3) := dk_187 0 182 (dk_at dksX1_goesOn_5 12 rfl rfl)
theorem dX1_goesOn_130 : decode cX1_goesOn 130 = .ok (.dup, 1) := dk_89 (dk_at dksX1_goesOn_5 15 rfl rfl)
theorem dX1_goesOn_131 : decode cX1_goesOn 131 = .ok (.aload 4, 2) := dk_25 4 (dk_at dksX1_goesOn_5 16 rfl rfl)
theorem dX1_goesOn_133 : decode cX1_goesOn 133 = .ok (.getfield 175, 3) := dk_180 0 175 (dk_at dksX1_goesOn_5 18 rfl rfl)
theorem dX1_goesOn_136 : decode cX1_goesOn 136 = .ok (.aload 5, 2) := dk_25 5 (dk_at dksX1_goesOn_5 21 rfl rfl)
theorem dX1_goesOn_138 : decode cX1_goesOn 138 = .ok (.iload_n 1, 1) := dk_27 (dk_at dksX1_goesOn_5 23 rfl rfl)
theorem dX1_goesOn_139 : decode cX1_goesOn 139 = .ok (.iload_n 3, 1) := dk_29 (dk_at dksX1_goesOn_6 0 rfl rfl)
theorem dX1_goesOn_140 : decode cX1_goesOn 140 = .ok (.aload_n 2, 1) := dk_44 (dk_at dksX1_goesOn_6 1 rfl rfl)
theorem dX1_goesOn_141 : decode cX1_goesOn 141 = .ok (.getfield 229, 3) := dk_180 0 229 (dk_at dksX1_goesOn_6 2 rfl rfl)
theorem dX1_goesOn_144 : decode cX1_goesOn 144 = .ok (.iconst 1, 1) := dk_4 (dk_at dksX1_goesOn_6 5 rfl rfl)
theorem dX1_goesOn_145 : decode cX1_goesOn 145 = .ok (.iadd, 1) := dk_96 (dk_at dksX1_goesOn_6 6 rfl rfl)
theorem dX1_goesOn_146 : decode cX1_goesOn 146 = .ok (.invokespecial 232, 3) := dk_183 0 232 (dk_at dksX1_goesOn_6 7 rfl rfl)
theorem dX1_goesOn_149 : decode cX1_goesOn 149 = .ok (.invokevirtual 204, 3) := dk_182 0 204 (dk_at dksX1_goesOn_6 10 rfl rfl)
theorem dX1_goesOn_152 : decode cX1_goesOn 152 = .ok (.pop, 1) := dk_87 (dk_at dksX1_goesOn_6 13 rfl rfl)
theorem dX1_goesOn_153 : decode cX1_goesOn 153 = .ok (.iinc 3 1, 3) := dk_132 3 1 (dk_at dksX1_goesOn_6 14 rfl rfl)
theorem dX1_goesOn_156 : decode cX1_goesOn 156 = .ok (.goto (-142), 3) := dk_167 255 114 (dk_at dksX1_goesOn_6 17 rfl rfl)
theorem dX1_goesOn_159 : decode cX1_goesOn 159 = .ok (.return_, 1) := dk_177 (dk_at dksX1_goesOn_6 20 rfl rfl)
def dkwX1_steps_3 : List UInt8 := [42, 43, 44, 180, 0, 175, 182, 0, 178, 177]
abbrev dktX1_steps_3 : List UInt8 := dkwX1_steps_3 ++ []
def dkwX1_steps_2 : List UInt8 := [192, 0, 128, 58, 4, 43, 25, 4, 180, 0, 130, 4, 96, 25, 4, 180, 0, 136, 182, 0, 172, 167, 255, 220]
abbrev dktX1_steps_2 : List UInt8 := dkwX1_steps_2 ++ dktX1_steps_3
def dkwX1_steps_1 : List UInt8 := [180, 0, 169, 182, 0, 114, 78, 45, 185, 0, 118, 1, 0, 153, 0, 33, 45, 185, 0, 124, 1, 0]
abbrev dktX1_steps_1 : List UInt8 := dkwX1_steps_1 ++ dktX1_steps_2
def dkwX1_steps_0 : List UInt8 := [43, 180, 0, 146, 154, 0, 11, 43, 44, 180, 0, 164, 184, 0, 157, 43, 180, 0, 146, 153, 0, 4, 177, 44]
abbrev dktX1_steps_0 : List UInt8 := dkwX1_steps_0 ++ dktX1_steps_1
theorem dksX1_steps_0 : cX1_steps.data.toList.drop 0 = dktX1_steps_0 := by decide +kernel
theorem dksX1_steps_1 : cX1_steps.data.toList.drop 24 = dktX1_steps_1 := dk_seg dksX1_steps_0 24 rfl rfl
theorem dksX1_steps_2 : cX1_steps.data.toList.drop 46 = dktX1_steps_2 := dk_seg dksX1_steps_1 22 rfl rfl
theorem dksX1_steps_3 : cX1_steps.data.toList.drop 70 = dktX1_steps_3 := dk_seg dksX1_steps_2 24 rfl rfl
theorem dX1_steps_0 : decode cX1_steps 0 = .ok (.aload_n 1, 1) := dk_43 (dk_at dksX1_steps_0 0 rfl rfl)
theorem dX1_steps_1 : decode cX1_steps 1 = .ok (.getfield 146, 3) := dk_180 0 146 (dk_at dksX1_steps_0 1 rfl rfl)
theorem dX1_steps_4 : decode cX1_steps 4 = .ok (.ifCond .ne 11, 3) := dk_154 0 11 (dk_at dksX1_steps_0 4 rfl rfl)
theorem dX1_steps_7 : decode cX1_steps 7 = .ok (.aload_n 1, 1) := dk_43 (dk_at dksX1_steps_0 7 rfl rfl)
theorem dX1_steps_8 : decode cX1_steps 8 = .ok (.aload_n 2, 1) := dk_44 (dk_at dksX1_steps_0 8 rfl rfl)
theorem dX1_steps_9 : decode cX1_steps 9 = .ok (.getfield 164, 3) := dk_180 0 164 (dk_at dksX1_steps_0 9 rfl rfl)
theorem dX1_steps_12 : decode cX1_steps 12 = .ok (.invokestatic 157, 3) := dk_184 0 157 (dk_at dksX1_steps_0 12 rfl rfl)
theorem dX1_steps_15 : decode cX1_steps 15 = .ok (.aload_n 1, 1) := dk_43 (dk_at dksX1_steps_0 15 rfl rfl)
theorem dX1_steps_16 : decode cX1_steps 16 = .ok (.getfield 146, 3) := dk_180 0 146 (dk_at dksX1_steps_0 16 rfl rfl)
theorem dX1_steps_19 : decode cX1_steps 19 = .ok (.ifCond .eq 4, 3) := dk_153 0 4 (dk_at dksX1_steps_0 19 rfl rfl)
theorem dX1_steps_22 : decode cX1_steps 22 = .ok (.return_, 1) := dk_177 (dk_at dksX1_steps_0 22 rfl rfl)
theorem dX1_steps_23 : decode cX1_steps 23 = .ok (.aload_n 2, 1) := dk_44 (dk_at dksX1_steps_0 23 rfl rfl)
theorem dX1_steps_24 : decode cX1_steps 24 = .ok (.getfield 169, 3) := dk_180 0 169 (dk_at dksX1_steps_1 0 rfl rfl)
theorem dX1_steps_27 : decode cX1_steps 27 = .ok (.invokevirtual 114, 3) := dk_182 0 114 (dk_at dksX1_steps_1 3 rfl rfl)
theorem dX1_steps_30 : decode cX1_steps 30 = .ok (.astore_n 3, 1) := dk_78 (dk_at dksX1_steps_1 6 rfl rfl)
theorem dX1_steps_31 : decode cX1_steps 31 = .ok (.aload_n 3, 1) := dk_45 (dk_at dksX1_steps_1 7 rfl rfl)
theorem dX1_steps_32 : decode cX1_steps 32 = .ok (.invokeinterface 118 1, 5) := by decide +kernel
theorem dX1_steps_37 : decode cX1_steps 37 = .ok (.ifCond .eq 33, 3) := dk_153 0 33 (dk_at dksX1_steps_1 13 rfl rfl)
theorem dX1_steps_40 : decode cX1_steps 40 = .ok (.aload_n 3, 1) := dk_45 (dk_at dksX1_steps_1 16 rfl rfl)
theorem dX1_steps_41 : decode cX1_steps 41 = .ok (.invokeinterface 124 1, 5) := by decide +kernel
theorem dX1_steps_46 : decode cX1_steps 46 = .ok (.checkcast 128, 3) := dk_192 0 128 (dk_at dksX1_steps_2 0 rfl rfl)
theorem dX1_steps_49 : decode cX1_steps 49 = .ok (.astore 4, 2) := dk_58 4 (dk_at dksX1_steps_2 3 rfl rfl)
theorem dX1_steps_51 : decode cX1_steps 51 = .ok (.aload_n 1, 1) := dk_43 (dk_at dksX1_steps_2 5 rfl rfl)
theorem dX1_steps_52 : decode cX1_steps 52 = .ok (.aload 4, 2) := dk_25 4 (dk_at dksX1_steps_2 6 rfl rfl)
theorem dX1_steps_54 : decode cX1_steps 54 = .ok (.getfield 130, 3) := dk_180 0 130 (dk_at dksX1_steps_2 8 rfl rfl)
theorem dX1_steps_57 : decode cX1_steps 57 = .ok (.iconst 1, 1) := dk_4 (dk_at dksX1_steps_2 11 rfl rfl)
theorem dX1_steps_58 : decode cX1_steps 58 = .ok (.iadd, 1) := dk_96 (dk_at dksX1_steps_2 12 rfl rfl)
theorem dX1_steps_59 : decode cX1_steps 59 = .ok (.aload 4, 2) := dk_25 4 (dk_at dksX1_steps_2 13 rfl rfl)
theorem dX1_steps_61 : decode cX1_steps 61 = .ok (.getfield 136, 3) := dk_180 0 136 (dk_at dksX1_steps_2 15 rfl rfl)
theorem dX1_steps_64 : decode cX1_steps 64 = .ok (.invokevirtual 172, 3) := dk_182 0 172 (dk_at dksX1_steps_2 18 rfl rfl)
theorem dX1_steps_67 : decode cX1_steps 67 = .ok (.goto (-36), 3) := dk_167 255 220 (dk_at dksX1_steps_2 21 rfl rfl)
theorem dX1_steps_70 : decode cX1_steps 70 = .ok (.aload_n 0, 1) := dk_42 (dk_at dksX1_steps_3 0 rfl rfl)
theorem dX1_steps_71 : decode cX1_steps 71 = .ok (.aload_n 1, 1) := dk_43 (dk_at dksX1_steps_3 1 rfl rfl)
theorem dX1_steps_72 : decode cX1_steps 72 = .ok (.aload_n 2, 1) := dk_44 (dk_at dksX1_steps_3 2 rfl rfl)
theorem dX1_steps_73 : decode cX1_steps 73 = .ok (.getfield 175, 3) := dk_180 0 175 (dk_at dksX1_steps_3 3 rfl rfl)
theorem dX1_steps_76 : decode cX1_steps 76 = .ok (.invokevirtual 178, 3) := dk_182 0 178 (dk_at dksX1_steps_3 6 rfl rfl)
theorem dX1_steps_79 : decode cX1_steps 79 = .ok (.return_, 1) := dk_177 (dk_at dksX1_steps_3 9 rfl rfl)
def dkwX1_isNew_2 : List UInt8 := [153, 0, 5, 3, 172, 167, 255, 213, 4, 172]
abbrev dktX1_isNew_2 : List UInt8 := dkwX1_isNew_2 ++ []
def dkwX1_isNew_1 : List UInt8 := [192, 0, 182, 58, 4, 25, 4, 180, 0, 184, 27, 160, 0, 17, 25, 4, 180, 0, 185, 44, 182, 0, 189]
abbrev dktX1_isNew_1 : List UInt8 := dkwX1_isNew_1 ++ dktX1_isNew_2
def dkwX1_isNew_0 : List UInt8 := [42, 180, 0, 37, 182, 0, 114, 78, 45, 185, 0, 118, 1, 0, 153, 0, 40, 45, 185, 0, 124, 1, 0]
abbrev dktX1_isNew_0 : List UInt8 := dkwX1_isNew_0 ++ dktX1_isNew_1
theorem dksX1_isNew_0 : cX1_isNew.data.toList.drop 0 = dktX1_isNew_0 := by decide +kernel
theorem dksX1_isNew_1 : cX1_isNew.data.toList.drop 23 = dktX1_isNew_1 := dk_seg dksX1_isNew_0 23 rfl rfl
theorem dksX1_isNew_2 : cX1_isNew.data.toList.drop 46 = dktX1_isNew_2 := dk_seg dksX1_isNew_1 23 rfl rfl
theorem dX1_isNew_0 : decode cX1_isNew 0 = .ok (.aload_n 0, 1) := dk_42 (dk_at dksX1_isNew_0 0 rfl rfl)
theorem dX1_isNew_1 : decode cX1_isNew 1 = .ok (.getfield 37, 3) := dk_180 0 37 (dk_at dksX1_isNew_0 1 rfl rfl)
theorem dX1_isNew_4 : decode cX1_isNew 4 = .ok (.invokevirtual 114, 3) := dk_182 0 114 (dk_at dksX1_isNew_0 4 rfl rfl)
theorem dX1_isNew_7 : decode cX1_isNew 7 = .ok (.astore_n 3, 1) := dk_78 (dk_at dksX1_isNew_0 7 rfl rfl)
theorem dX1_isNew_8 : decode cX1_isNew 8 = .ok (.aload_n 3, 1) := dk_45 (dk_at dksX1_isNew_0 8 rfl rfl)
theorem dX1_isNew_9 : decode cX1_isNew 9 = .ok (.invokeinterface 118 1, 5) := by decide +kernel
theorem dX1_isNew_14 : decode cX1_isNew 14 = .ok (.ifCond .eq 40, 3) := dk_153 0 40 (dk_at dksX1_isNew_0 14 rfl rfl)
theorem dX1_isNew_17 : decode cX1_isNew 17 = .ok (.aload_n 3, 1) := dk_45 (dk_at dksX1_isNew_0 17 rfl rfl)
theorem dX1_isNew_18 : decode cX1_isNew 18 = .ok (.invokeinterface 124 1, 5) := by decide +kernel
theorem dX1_isNew_23 : decode cX1_isNew 23 = .ok (.checkcast 182, 3) := dk_192 0 182 (dk_at dksX1_isNew_1 0 rfl rfl)
theorem dX1_isNew_26 : decode cX1_isNew 26 = .ok (.astore 4, 2) := dk_58 4 (dk_at dksX1_isNew_1 3 rfl rfl)
theorem dX1_isNew_28 : decode cX1_isNew 28 = .ok (.aload 4, 2) := dk_25 4 (dk_at dksX1_isNew_1 5 rfl rfl)
theorem dX1_isNew_30 : decode cX1_isNew 30 = .ok (.getfield 184, 3) := dk_180 0 184 (dk_at dksX1_isNew_1 7 rfl rfl)
theorem dX1_isNew_33 : decode cX1_isNew 33 = .ok (.iload_n 1, 1) := dk_27 (dk_at dksX1_isNew_1 10 rfl rfl)
theorem dX1_isNew_34 : decode cX1_isNew 34 = .ok (.if_icmp .ne 17, 3) := dk_160 0 17 (dk_at dksX1_isNew_1 11 rfl rfl)
theorem dX1_isNew_37 : decode cX1_isNew 37 = .ok (.aload 4, 2) := dk_25 4 (dk_at dksX1_isNew_1 14 rfl rfl)
theorem dX1_isNew_39 : decode cX1_isNew 39 = .ok (.getfield 185, 3) := dk_180 0 185 (dk_at dksX1_isNew_1 16 rfl rfl)
theorem dX1_isNew_42 : decode cX1_isNew 42 = .ok (.aload_n 2, 1) := dk_44 (dk_at dksX1_isNew_1 19 rfl rfl)
theorem dX1_isNew_43 : decode cX1_isNew 43 = .ok (.invokevirtual 189, 3) := dk_182 0 189 (dk_at dksX1_isNew_1 20 rfl rfl)
theorem dX1_isNew_46 : decode cX1_isNew 46 = .ok (.ifCond .eq 5, 3) := dk_153 0 5 (dk_at dksX1_isNew_2 0 rfl rfl)
theorem dX1_isNew_49 : decode cX1_isNew 49 = .ok (.iconst 0, 1) := dk_3 (dk_at dksX1_isNew_2 3 rfl rfl)
theorem dX1_isNew_50 : decode cX1_isNew 50 = .ok (.ireturn, 1) := dk_172 (dk_at dksX1_isNew_2 4 rfl rfl)
theorem dX1_isNew_51 : decode cX1_isNew 51 = .ok (.goto (-43), 3) := dk_167 255 213 (dk_at dksX1_isNew_2 5 rfl rfl)
theorem dX1_isNew_54 : decode cX1_isNew 54 = .ok (.iconst 1, 1) := dk_4 (dk_at dksX1_isNew_2 8 rfl rfl)
theorem dX1_isNew_55 : decode cX1_isNew 55 = .ok (.ireturn, 1) := dk_172 (dk_at dksX1_isNew_2 9 rfl rfl)
def dkwX1_fault_1 : List UInt8 := [172]
abbrev dktX1_fault_1 : List UInt8 := dkwX1_fault_1 ++ []
def dkwX1_fault_0 : List UInt8 := [27, 154, 0, 10, 42, 180, 0, 91, 167, 0, 16, 27, 4, 160, 0, 10, 42, 180, 0, 20, 167, 0, 4, 2]
abbrev dktX1_fault_0 : List UInt8 := dkwX1_fault_0 ++ dktX1_fault_1
theorem dksX1_fault_0 : cX1_fault.data.toList.drop 0 = dktX1_fault_0 := by decide +kernel
theorem dksX1_fault_1 : cX1_fault.data.toList.drop 24 = dktX1_fault_1 := dk_seg dksX1_fault_0 24 rfl rfl
theorem dX1_fault_0 : decode cX1_fault 0 = .ok (.iload_n 1, 1) := dk_27 (dk_at dksX1_fault_0 0 rfl rfl)
theorem dX1_fault_1 : decode cX1_fault 1 = .ok (.ifCond .ne 10, 3) := dk_154 0 10 (dk_at dksX1_fault_0 1 rfl rfl)
theorem dX1_fault_4 : decode cX1_fault 4 = .ok (.aload_n 0, 1) := dk_42 (dk_at dksX1_fault_0 4 rfl rfl)
theorem dX1_fault_5 : decode cX1_fault 5 = .ok (.getfield 91, 3) := dk_180 0 91 (dk_at dksX1_fault_0 5 rfl rfl)
theorem dX1_fault_8 : decode cX1_fault 8 = .ok (.goto 16, 3) := dk_167 0 16 (dk_at dksX1_fault_0 8 rfl rfl)
theorem dX1_fault_11 : decode cX1_fault 11 = .ok (.iload_n 1, 1) := dk_27 (dk_at dksX1_fault_0 11 rfl rfl)
theorem dX1_fault_12 : decode cX1_fault 12 = .ok (.iconst 1, 1) := dk_4 (dk_at dksX1_fault_0 12 rfl rfl)
theorem dX1_fault_13 : decode cX1_fault 13 = .ok (.if_icmp .ne 10, 3) := dk_160 0 10 (dk_at dksX1_fault_0 13 rfl rfl)
theorem dX1_fault_16 : decode cX1_fault 16 = .ok (.aload_n 0, 1) := dk_42 (dk_at dksX1_fault_0 16 rfl rfl)
theorem dX1_fault_17 : decode cX1_fault 17 = .ok (.getfield 20, 3) := dk_180 0 20 (dk_at dksX1_fault_0 17 rfl rfl)
theorem dX1_fault_20 : decode cX1_fault 20 = .ok (.goto 4, 3) := dk_167 0 4 (dk_at dksX1_fault_0 20 rfl rfl)
theorem dX1_fault_23 : decode cX1_fault 23 = .ok (.iconst (-1), 1) := dk_2 (dk_at dksX1_fault_0 23 rfl rfl)
theorem dX1_fault_24 : decode cX1_fault 24 = .ok (.ireturn, 1) := dk_172 (dk_at dksX1_fault_1 0 rfl rfl)
def dkwX1_when_4 : List UInt8 := [25, 4, 28, 182, 0, 153, 192, 0, 128, 180, 0, 136, 172]
abbrev dktX1_when_4 : List UInt8 := dkwX1_when_4 ++ []
def dkwX1_when_3 : List UInt8 := [167, 0, 35, 29, 4, 160, 0, 18, 25, 4, 28, 182, 0, 153, 192, 0, 128, 180, 0, 133, 167, 0, 15]
abbrev dktX1_when_3 : List UInt8 := dkwX1_when_3 ++ dktX1_when_4
def dkwX1_when_2 : List UInt8 := [161, 0, 6, 16, 254, 172, 29, 154, 0, 18, 25, 4, 28, 182, 0, 153, 192, 0, 128, 180, 0, 130]
abbrev dktX1_when_2 : List UInt8 := dkwX1_when_2 ++ dktX1_when_3
def dkwX1_when_1 : List UInt8 := [180, 0, 26, 180, 0, 212, 27, 182, 0, 153, 192, 0, 165, 180, 0, 164, 58, 4, 28, 25, 4, 182, 0, 208]
abbrev dktX1_when_1 : List UInt8 := dkwX1_when_1 ++ dktX1_when_2
def dkwX1_when_0 : List UInt8 := [42, 27, 182, 1, 17, 153, 0, 16, 28, 155, 0, 12, 29, 3, 5, 184, 0, 68, 154, 0, 5, 2, 172, 42]
abbrev dktX1_when_0 : List UInt8 := dkwX1_when_0 ++ dktX1_when_1
theorem dksX1_when_0 : cX1_when.data.toList.drop 0 = dktX1_when_0 := by decide +kernel
theorem dksX1_when_1 : cX1_when.data.toList.drop 24 = dktX1_when_1 := dk_seg dksX1_when_0 24 rfl rfl
theorem dksX1_when_2 : cX1_when.data.toList.drop 48 = dktX1_when_2 := dk_seg dksX1_when_1 24 rfl rfl
theorem dksX1_when_3 : cX1_when.data.toList.drop 70 = dktX1_when_3 := dk_seg dksX1_when_2 22 rfl rfl
theorem dksX1_when_4 : cX1_when.data.toList.drop 93 = dktX1_when_4 := dk_seg dksX1_when_3 23 rfl rfl
theorem dX1_when_0 : decode cX1_when 0 = .ok (.aload_n 0, 1) := dk_42 (dk_at dksX1_when_0 0 rfl rfl)
theorem dX1_when_1 : decode cX1_when 1 = .ok (.iload_n 1, 1) := dk_27 (dk_at dksX1_when_0 1 rfl rfl)
theorem dX1_when_2 : decode cX1_when 2 = .ok (.invokevirtual 273, 3) := dk_182 1 17 (dk_at dksX1_when_0 2 rfl rfl)
theorem dX1_when_5 : decode cX1_when 5 = .ok (.ifCond .eq 16, 3) := dk_153 0 16 (dk_at dksX1_when_0 5 rfl rfl)
theorem dX1_when_8 : decode cX1_when 8 = .ok (.iload_n 2, 1) := dk_28 (dk_at dksX1_when_0 8 rfl rfl)
theorem dX1_when_9 : decode cX1_when 9 = .ok (.ifCond .lt 12, 3) := dk_155 0 12 (dk_at dksX1_when_0 9 rfl rfl)
theorem dX1_when_12 : decode cX1_when 12 = .ok (.iload_n 3, 1) := dk_29 (dk_at dksX1_when_0 12 rfl rfl)
theorem dX1_when_13 : decode cX1_when 13 = .ok (.iconst 0, 1) := dk_3 (dk_at dksX1_when_0 13 rfl rfl)
theorem dX1_when_14 : decode cX1_when 14 = .ok (.iconst 2, 1) := dk_5 (dk_at dksX1_when_0 14 rfl rfl)
theorem dX1_when_15 : decode cX1_when 15 = .ok (.invokestatic 68, 3) := dk_184 0 68 (dk_at dksX1_when_0 15 rfl rfl)
theorem dX1_when_18 : decode cX1_when 18 = .ok (.ifCond .ne 5, 3) := dk_154 0 5 (dk_at dksX1_when_0 18 rfl rfl)
theorem dX1_when_21 : decode cX1_when 21 = .ok (.iconst (-1), 1) := dk_2 (dk_at dksX1_when_0 21 rfl rfl)
theorem dX1_when_22 : decode cX1_when 22 = .ok (.ireturn, 1) := dk_172 (dk_at dksX1_when_0 22 rfl rfl)
theorem dX1_when_23 : decode cX1_when 23 = .ok (.aload_n 0, 1) := dk_42 (dk_at dksX1_when_0 23 rfl rfl)
theorem dX1_when_24 : decode cX1_when 24 = .ok (.getfield 26, 3) := dk_180 0 26 (dk_at dksX1_when_1 0 rfl rfl)
theorem dX1_when_27 : decode cX1_when 27 = .ok (.getfield 212, 3) := dk_180 0 212 (dk_at dksX1_when_1 3 rfl rfl)
theorem dX1_when_30 : decode cX1_when 30 = .ok (.iload_n 1, 1) := dk_27 (dk_at dksX1_when_1 6 rfl rfl)
theorem dX1_when_31 : decode cX1_when 31 = .ok (.invokevirtual 153, 3) := dk_182 0 153 (dk_at dksX1_when_1 7 rfl rfl)
theorem dX1_when_34 : decode cX1_when 34 = .ok (.checkcast 165, 3) := dk_192 0 165 (dk_at dksX1_when_1 10 rfl rfl)
theorem dX1_when_37 : decode cX1_when 37 = .ok (.getfield 164, 3) := dk_180 0 164 (dk_at dksX1_when_1 13 rfl rfl)
theorem dX1_when_40 : decode cX1_when 40 = .ok (.astore 4, 2) := dk_58 4 (dk_at dksX1_when_1 16 rfl rfl)
theorem dX1_when_42 : decode cX1_when 42 = .ok (.iload_n 2, 1) := dk_28 (dk_at dksX1_when_1 18 rfl rfl)
theorem dX1_when_43 : decode cX1_when 43 = .ok (.aload 4, 2) := dk_25 4 (dk_at dksX1_when_1 19 rfl rfl)
theorem dX1_when_45 : decode cX1_when 45 = .ok (.invokevirtual 208, 3) := dk_182 0 208 (dk_at dksX1_when_1 21 rfl rfl)
theorem dX1_when_48 : decode cX1_when 48 = .ok (.if_icmp .lt 6, 3) := dk_161 0 6 (dk_at dksX1_when_2 0 rfl rfl)
theorem dX1_when_51 : decode cX1_when 51 = .ok (.bipush (-2), 2) := dk_16 254 (dk_at dksX1_when_2 3 rfl rfl)
theorem dX1_when_53 : decode cX1_when 53 = .ok (.ireturn, 1) := dk_172 (dk_at dksX1_when_2 5 rfl rfl)
theorem dX1_when_54 : decode cX1_when 54 = .ok (.iload_n 3, 1) := dk_29 (dk_at dksX1_when_2 6 rfl rfl)
theorem dX1_when_55 : decode cX1_when 55 = .ok (.ifCond .ne 18, 3) := dk_154 0 18 (dk_at dksX1_when_2 7 rfl rfl)
theorem dX1_when_58 : decode cX1_when 58 = .ok (.aload 4, 2) := dk_25 4 (dk_at dksX1_when_2 10 rfl rfl)
theorem dX1_when_60 : decode cX1_when 60 = .ok (.iload_n 2, 1) := dk_28 (dk_at dksX1_when_2 12 rfl rfl)
theorem dX1_when_61 : decode cX1_when 61 = .ok (.invokevirtual 153, 3) := dk_182 0 153 (dk_at dksX1_when_2 13 rfl rfl)
theorem dX1_when_64 : decode cX1_when 64 = .ok (.checkcast 128, 3) := dk_192 0 128 (dk_at dksX1_when_2 16 rfl rfl)
theorem dX1_when_67 : decode cX1_when 67 = .ok (.getfield 130, 3) := dk_180 0 130 (dk_at dksX1_when_2 19 rfl rfl)
theorem dX1_when_70 : decode cX1_when 70 = .ok (.goto 35, 3) := dk_167 0 35 (dk_at dksX1_when_3 0 rfl rfl)
theorem dX1_when_73 : decode cX1_when 73 = .ok (.iload_n 3, 1) := dk_29 (dk_at dksX1_when_3 3 rfl rfl)
theorem dX1_when_74 : decode cX1_when 74 = .ok (.iconst 1, 1) := dk_4 (dk_at dksX1_when_3 4 rfl rfl)
theorem dX1_when_75 : decode cX1_when 75 = .ok (.if_icmp .ne 18, 3) := dk_160 0 18 (dk_at dksX1_when_3 5 rfl rfl)
theorem dX1_when_78 : decode cX1_when 78 = .ok (.aload 4, 2) := dk_25 4 (dk_at dksX1_when_3 8 rfl rfl)
theorem dX1_when_80 : decode cX1_when 80 = .ok (.iload_n 2, 1) := dk_28 (dk_at dksX1_when_3 10 rfl rfl)
theorem dX1_when_81 : decode cX1_when 81 = .ok (.invokevirtual 153, 3) := dk_182 0 153 (dk_at dksX1_when_3 11 rfl rfl)
theorem dX1_when_84 : decode cX1_when 84 = .ok (.checkcast 128, 3) := dk_192 0 128 (dk_at dksX1_when_3 14 rfl rfl)
theorem dX1_when_87 : decode cX1_when 87 = .ok (.getfield 133, 3) := dk_180 0 133 (dk_at dksX1_when_3 17 rfl rfl)
theorem dX1_when_90 : decode cX1_when 90 = .ok (.goto 15, 3) := dk_167 0 15 (dk_at dksX1_when_3 20 rfl rfl)
theorem dX1_when_93 : decode cX1_when 93 = .ok (.aload 4, 2) := dk_25 4 (dk_at dksX1_when_4 0 rfl rfl)
theorem dX1_when_95 : decode cX1_when 95 = .ok (.iload_n 2, 1) := dk_28 (dk_at dksX1_when_4 2 rfl rfl)
theorem dX1_when_96 : decode cX1_when 96 = .ok (.invokevirtual 153, 3) := dk_182 0 153 (dk_at dksX1_when_4 3 rfl rfl)
theorem dX1_when_99 : decode cX1_when 99 = .ok (.checkcast 128, 3) := dk_192 0 128 (dk_at dksX1_when_4 6 rfl rfl)
theorem dX1_when_102 : decode cX1_when 102 = .ok (.getfield 136, 3) := dk_180 0 136 (dk_at dksX1_when_4 9 rfl rfl)
theorem dX1_when_105 : decode cX1_when 105 = .ok (.ireturn, 1) := dk_172 (dk_at dksX1_when_4 12 rfl rfl)
def dkwX1_isEdge_0 : List UInt8 := [27, 3, 42, 180, 0, 26, 180, 0, 212, 182, 0, 208, 4, 100, 184, 0, 68, 172]
abbrev dktX1_isEdge_0 : List UInt8 := dkwX1_isEdge_0 ++ []
theorem dksX1_isEdge_0 : cX1_isEdge.data.toList.drop 0 = dktX1_isEdge_0 := by decide +kernel
theorem dX1_isEdge_0 : decode cX1_isEdge 0 = .ok (.iload_n 1, 1) := dk_27 (dk_at dksX1_isEdge_0 0 rfl rfl)
theorem dX1_isEdge_1 : decode cX1_isEdge 1 = .ok (.iconst 0, 1) := dk_3 (dk_at dksX1_isEdge_0 1 rfl rfl)
theorem dX1_isEdge_2 : decode cX1_isEdge 2 = .ok (.aload_n 0, 1) := dk_42 (dk_at dksX1_isEdge_0 2 rfl rfl)
theorem dX1_isEdge_3 : decode cX1_isEdge 3 = .ok (.getfield 26, 3) := dk_180 0 26 (dk_at dksX1_isEdge_0 3 rfl rfl)
theorem dX1_isEdge_6 : decode cX1_isEdge 6 = .ok (.getfield 212, 3) := dk_180 0 212 (dk_at dksX1_isEdge_0 6 rfl rfl)
theorem dX1_isEdge_9 : decode cX1_isEdge 9 = .ok (.invokevirtual 208, 3) := dk_182 0 208 (dk_at dksX1_isEdge_0 9 rfl rfl)
theorem dX1_isEdge_12 : decode cX1_isEdge 12 = .ok (.iconst 1, 1) := dk_4 (dk_at dksX1_isEdge_0 12 rfl rfl)
theorem dX1_isEdge_13 : decode cX1_isEdge 13 = .ok (.isub, 1) := dk_100 (dk_at dksX1_isEdge_0 13 rfl rfl)
theorem dX1_isEdge_14 : decode cX1_isEdge 14 = .ok (.invokestatic 68, 3) := dk_184 0 68 (dk_at dksX1_isEdge_0 14 rfl rfl)
theorem dX1_isEdge_17 : decode cX1_isEdge 17 = .ok (.ireturn, 1) := dk_172 (dk_at dksX1_isEdge_0 17 rfl rfl)
def dkwX1_set_3 : List UInt8 := [167, 0, 15, 25, 4, 28, 182, 0, 153, 192, 0, 128, 180, 0, 136, 172]
abbrev dktX1_set_3 : List UInt8 := dkwX1_set_3 ++ []
def dkwX1_set_2 : List UInt8 := [161, 0, 6, 16, 254, 172, 29, 154, 0, 18, 25, 4, 28, 182, 0, 153, 192, 0, 128, 180, 0, 130]
abbrev dktX1_set_2 : List UInt8 := dkwX1_set_2 ++ dktX1_set_3
def dkwX1_set_1 : List UInt8 := [180, 0, 26, 180, 0, 212, 27, 182, 0, 153, 192, 0, 165, 180, 0, 169, 58, 4, 28, 25, 4, 182, 0, 208]
abbrev dktX1_set_1 : List UInt8 := dkwX1_set_1 ++ dktX1_set_2
def dkwX1_set_0 : List UInt8 := [42, 27, 182, 1, 17, 153, 0, 16, 28, 155, 0, 12, 29, 3, 4, 184, 0, 68, 154, 0, 5, 2, 172, 42]
abbrev dktX1_set_0 : List UInt8 := dkwX1_set_0 ++ dktX1_set_1
theorem dksX1_set_0 : cX1_set.data.toList.drop 0 = dktX1_set_0 := by decide +kernel
theorem dksX1_set_1 : cX1_set.data.toList.drop 24 = dktX1_set_1 := dk_seg dksX1_set_0 24 rfl rfl
theorem dksX1_set_2 : cX1_set.data.toList.drop 48 = dktX1_set_2 := dk_seg dksX1_set_1 24 rfl rfl
theorem dksX1_set_3 : cX1_set.data.toList.drop 70 = dktX1_set_3 := dk_seg dksX1_set_2 22 rfl rfl
theorem dX1_set_0 : decode cX1_set 0 = .ok (.aload_n 0, 1) := dk_42 (dk_at dksX1_set_0 0 rfl rfl)
theorem dX1_set_1 : decode cX1_set 1 = .ok (.iload_n 1, 1) := dk_27 (dk_at dksX1_set_0 1 rfl rfl)
theorem dX1_set_2 : decode cX1_set 2 = .ok (.invokevirtual 273, 3) := dk_182 1 17 (dk_at dksX1_set_0 2 rfl rfl)
theorem dX1_set_5 : decode cX1_set 5 = .ok (.ifCond .eq 16, 3) := dk_153 0 16 (dk_at dksX1_set_0 5 rfl rfl)
theorem dX1_set_8 : decode cX1_set 8 = .ok (.iload_n 2, 1) := dk_28 (dk_at dksX1_set_0 8 rfl rfl)
theorem dX1_set_9 : decode cX1_set 9 = .ok (.ifCond .lt 12, 3) := dk_155 0 12 (dk_at dksX1_set_0 9 rfl rfl)
theorem dX1_set_12 : decode cX1_set 12 = .ok (.iload_n 3, 1) := dk_29 (dk_at dksX1_set_0 12 rfl rfl)
theorem dX1_set_13 : decode cX1_set 13 = .ok (.iconst 0, 1) := dk_3 (dk_at dksX1_set_0 13 rfl rfl)
theorem dX1_set_14 : decode cX1_set 14 = .ok (.iconst 1, 1) := dk_4 (dk_at dksX1_set_0 14 rfl rfl)
theorem dX1_set_15 : decode cX1_set 15 = .ok (.invokestatic 68, 3) := dk_184 0 68 (dk_at dksX1_set_0 15 rfl rfl)
theorem dX1_set_18 : decode cX1_set 18 = .ok (.ifCond .ne 5, 3) := dk_154 0 5 (dk_at dksX1_set_0 18 rfl rfl)
theorem dX1_set_21 : decode cX1_set 21 = .ok (.iconst (-1), 1) := dk_2 (dk_at dksX1_set_0 21 rfl rfl)
theorem dX1_set_22 : decode cX1_set 22 = .ok (.ireturn, 1) := dk_172 (dk_at dksX1_set_0 22 rfl rfl)
theorem dX1_set_23 : decode cX1_set 23 = .ok (.aload_n 0, 1) := dk_42 (dk_at dksX1_set_0 23 rfl rfl)
theorem dX1_set_24 : decode cX1_set 24 = .ok (.getfield 26, 3) := dk_180 0 26 (dk_at dksX1_set_1 0 rfl rfl)
theorem dX1_set_27 : decode cX1_set 27 = .ok (.getfield 212, 3) := dk_180 0 212 (dk_at dksX1_set_1 3 rfl rfl)
theorem dX1_set_30 : decode cX1_set 30 = .ok (.iload_n 1, 1) := dk_27 (dk_at dksX1_set_1 6 rfl rfl)
theorem dX1_set_31 : decode cX1_set 31 = .ok (.invokevirtual 153, 3) := dk_182 0 153 (dk_at dksX1_set_1 7 rfl rfl)
theorem dX1_set_34 : decode cX1_set 34 = .ok (.checkcast 165, 3) := dk_192 0 165 (dk_at dksX1_set_1 10 rfl rfl)
theorem dX1_set_37 : decode cX1_set 37 = .ok (.getfield 169, 3) := dk_180 0 169 (dk_at dksX1_set_1 13 rfl rfl)
theorem dX1_set_40 : decode cX1_set 40 = .ok (.astore 4, 2) := dk_58 4 (dk_at dksX1_set_1 16 rfl rfl)
theorem dX1_set_42 : decode cX1_set 42 = .ok (.iload_n 2, 1) := dk_28 (dk_at dksX1_set_1 18 rfl rfl)
theorem dX1_set_43 : decode cX1_set 43 = .ok (.aload 4, 2) := dk_25 4 (dk_at dksX1_set_1 19 rfl rfl)
theorem dX1_set_45 : decode cX1_set 45 = .ok (.invokevirtual 208, 3) := dk_182 0 208 (dk_at dksX1_set_1 21 rfl rfl)
theorem dX1_set_48 : decode cX1_set 48 = .ok (.if_icmp .lt 6, 3) := dk_161 0 6 (dk_at dksX1_set_2 0 rfl rfl)
theorem dX1_set_51 : decode cX1_set 51 = .ok (.bipush (-2), 2) := dk_16 254 (dk_at dksX1_set_2 3 rfl rfl)
theorem dX1_set_53 : decode cX1_set 53 = .ok (.ireturn, 1) := dk_172 (dk_at dksX1_set_2 5 rfl rfl)
theorem dX1_set_54 : decode cX1_set 54 = .ok (.iload_n 3, 1) := dk_29 (dk_at dksX1_set_2 6 rfl rfl)
theorem dX1_set_55 : decode cX1_set 55 = .ok (.ifCond .ne 18, 3) := dk_154 0 18 (dk_at dksX1_set_2 7 rfl rfl)
theorem dX1_set_58 : decode cX1_set 58 = .ok (.aload 4, 2) := dk_25 4 (dk_at dksX1_set_2 10 rfl rfl)
theorem dX1_set_60 : decode cX1_set 60 = .ok (.iload_n 2, 1) := dk_28 (dk_at dksX1_set_2 12 rfl rfl)
theorem dX1_set_61 : decode cX1_set 61 = .ok (.invokevirtual 153, 3) := dk_182 0 153 (dk_at dksX1_set_2 13 rfl rfl)
theorem dX1_set_64 : decode cX1_set 64 = .ok (.checkcast 128, 3) := dk_192 0 128 (dk_at dksX1_set_2 16 rfl rfl)
theorem dX1_set_67 : decode cX1_set 67 = .ok (.getfield 130, 3) := dk_180 0 130 (dk_at dksX1_set_2 19 rfl rfl)
theorem dX1_set_70 : decode cX1_set 70 = .ok (.goto 15, 3) := dk_167 0 15 (dk_at dksX1_set_3 0 rfl rfl)
theorem dX1_set_73 : decode cX1_set 73 = .ok (.aload 4, 2) := dk_25 4 (dk_at dksX1_set_3 3 rfl rfl)
theorem dX1_set_75 : decode cX1_set 75 = .ok (.iload_n 2, 1) := dk_28 (dk_at dksX1_set_3 5 rfl rfl)
theorem dX1_set_76 : decode cX1_set 76 = .ok (.invokevirtual 153, 3) := dk_182 0 153 (dk_at dksX1_set_3 6 rfl rfl)
theorem dX1_set_79 : decode cX1_set 79 = .ok (.checkcast 128, 3) := dk_192 0 128 (dk_at dksX1_set_3 9 rfl rfl)
theorem dX1_set_82 : decode cX1_set 82 = .ok (.getfield 136, 3) := dk_180 0 136 (dk_at dksX1_set_3 12 rfl rfl)
theorem dX1_set_85 : decode cX1_set 85 = .ok (.ireturn, 1) := dk_172 (dk_at dksX1_set_3 15 rfl rfl)
def dkwX1_great_0 : List UInt8 := [42, 27, 182, 1, 1, 153, 0, 14, 42, 180, 0, 30, 27, 4, 96, 46, 167, 0, 4, 2, 172]
abbrev dktX1_great_0 : List UInt8 := dkwX1_great_0 ++ []
theorem dksX1_great_0 : cX1_great.data.toList.drop 0 = dktX1_great_0 := by decide +kernel
theorem dX1_great_0 : decode cX1_great 0 = .ok (.aload_n 0, 1) := dk_42 (dk_at dksX1_great_0 0 rfl rfl)
theorem dX1_great_1 : decode cX1_great 1 = .ok (.iload_n 1, 1) := dk_27 (dk_at dksX1_great_0 1 rfl rfl)
theorem dX1_great_2 : decode cX1_great 2 = .ok (.invokevirtual 257, 3) := dk_182 1 1 (dk_at dksX1_great_0 2 rfl rfl)
theorem dX1_great_5 : decode cX1_great 5 = .ok (.ifCond .eq 14, 3) := dk_153 0 14 (dk_at dksX1_great_0 5 rfl rfl)
theorem dX1_great_8 : decode cX1_great 8 = .ok (.aload_n 0, 1) := dk_42 (dk_at dksX1_great_0 8 rfl rfl)
theorem dX1_great_9 : decode cX1_great 9 = .ok (.getfield 30, 3) := dk_180 0 30 (dk_at dksX1_great_0 9 rfl rfl)
theorem dX1_great_12 : decode cX1_great 12 = .ok (.iload_n 1, 1) := dk_27 (dk_at dksX1_great_0 12 rfl rfl)
theorem dX1_great_13 : decode cX1_great 13 = .ok (.iconst 1, 1) := dk_4 (dk_at dksX1_great_0 13 rfl rfl)
theorem dX1_great_14 : decode cX1_great 14 = .ok (.iadd, 1) := dk_96 (dk_at dksX1_great_0 14 rfl rfl)
theorem dX1_great_15 : decode cX1_great 15 = .ok (.iaload, 1) := dk_46 (dk_at dksX1_great_0 15 rfl rfl)
theorem dX1_great_16 : decode cX1_great 16 = .ok (.goto 4, 3) := dk_167 0 4 (dk_at dksX1_great_0 16 rfl rfl)
theorem dX1_great_19 : decode cX1_great 19 = .ok (.iconst (-1), 1) := dk_2 (dk_at dksX1_great_0 19 rfl rfl)
theorem dX1_great_20 : decode cX1_great 20 = .ok (.ireturn, 1) := dk_172 (dk_at dksX1_great_0 20 rfl rfl)
def dkwX1_isClock_0 : List UInt8 := [27, 3, 42, 180, 0, 26, 180, 0, 254, 182, 0, 208, 4, 100, 184, 0, 68, 172]
abbrev dktX1_isClock_0 : List UInt8 := dkwX1_isClock_0 ++ []
theorem dksX1_isClock_0 : cX1_isClock.data.toList.drop 0 = dktX1_isClock_0 := by decide +kernel
theorem dX1_isClock_0 : decode cX1_isClock 0 = .ok (.iload_n 1, 1) := dk_27 (dk_at dksX1_isClock_0 0 rfl rfl)
theorem dX1_isClock_1 : decode cX1_isClock 1 = .ok (.iconst 0, 1) := dk_3 (dk_at dksX1_isClock_0 1 rfl rfl)
theorem dX1_isClock_2 : decode cX1_isClock 2 = .ok (.aload_n 0, 1) := dk_42 (dk_at dksX1_isClock_0 2 rfl rfl)
theorem dX1_isClock_3 : decode cX1_isClock 3 = .ok (.getfield 26, 3) := dk_180 0 26 (dk_at dksX1_isClock_0 3 rfl rfl)
theorem dX1_isClock_6 : decode cX1_isClock 6 = .ok (.getfield 254, 3) := dk_180 0 254 (dk_at dksX1_isClock_0 6 rfl rfl)
theorem dX1_isClock_9 : decode cX1_isClock 9 = .ok (.invokevirtual 208, 3) := dk_182 0 208 (dk_at dksX1_isClock_0 9 rfl rfl)
theorem dX1_isClock_12 : decode cX1_isClock 12 = .ok (.iconst 1, 1) := dk_4 (dk_at dksX1_isClock_0 12 rfl rfl)
theorem dX1_isClock_13 : decode cX1_isClock 13 = .ok (.isub, 1) := dk_100 (dk_at dksX1_isClock_0 13 rfl rfl)
theorem dX1_isClock_14 : decode cX1_isClock 14 = .ok (.invokestatic 68, 3) := dk_184 0 68 (dk_at dksX1_isClock_0 14 rfl rfl)
theorem dX1_isClock_17 : decode cX1_isClock 17 = .ok (.ireturn, 1) := dk_172 (dk_at dksX1_isClock_0 17 rfl rfl)
def dkwX1_undo_2 : List UInt8 := [180, 1, 48, 181, 0, 49, 42, 180, 0, 55, 182, 1, 20, 172]
abbrev dktX1_undo_2 : List UInt8 := dkwX1_undo_2 ++ []
def dkwX1_undo_1 : List UInt8 := [180, 1, 44, 198, 0, 19, 42, 180, 0, 45, 43, 180, 1, 45, 43, 180, 1, 44, 83, 167, 0, 11, 42, 43]
abbrev dktX1_undo_1 : List UInt8 := dkwX1_undo_1 ++ dktX1_undo_2
def dkwX1_undo_0 : List UInt8 := [42, 180, 0, 55, 182, 1, 39, 153, 0, 5, 2, 172, 42, 180, 0, 55, 182, 1, 41, 192, 1, 31, 76, 43]
abbrev dktX1_undo_0 : List UInt8 := dkwX1_undo_0 ++ dktX1_undo_1
theorem dksX1_undo_0 : cX1_undo.data.toList.drop 0 = dktX1_undo_0 := by decide +kernel
theorem dksX1_undo_1 : cX1_undo.data.toList.drop 24 = dktX1_undo_1 := dk_seg dksX1_undo_0 24 rfl rfl
theorem dksX1_undo_2 : cX1_undo.data.toList.drop 48 = dktX1_undo_2 := dk_seg dksX1_undo_1 24 rfl rfl
theorem dX1_undo_0 : decode cX1_undo 0 = .ok (.aload_n 0, 1) := dk_42 (dk_at dksX1_undo_0 0 rfl rfl)
theorem dX1_undo_1 : decode cX1_undo 1 = .ok (.getfield 55, 3) := dk_180 0 55 (dk_at dksX1_undo_0 1 rfl rfl)
theorem dX1_undo_4 : decode cX1_undo 4 = .ok (.invokevirtual 295, 3) := dk_182 1 39 (dk_at dksX1_undo_0 4 rfl rfl)
theorem dX1_undo_7 : decode cX1_undo 7 = .ok (.ifCond .eq 5, 3) := dk_153 0 5 (dk_at dksX1_undo_0 7 rfl rfl)
theorem dX1_undo_10 : decode cX1_undo 10 = .ok (.iconst (-1), 1) := dk_2 (dk_at dksX1_undo_0 10 rfl rfl)
theorem dX1_undo_11 : decode cX1_undo 11 = .ok (.ireturn, 1) := dk_172 (dk_at dksX1_undo_0 11 rfl rfl)
theorem dX1_undo_12 : decode cX1_undo 12 = .ok (.aload_n 0, 1) := dk_42 (dk_at dksX1_undo_0 12 rfl rfl)
theorem dX1_undo_13 : decode cX1_undo 13 = .ok (.getfield 55, 3) := dk_180 0 55 (dk_at dksX1_undo_0 13 rfl rfl)
theorem dX1_undo_16 : decode cX1_undo 16 = .ok (.invokevirtual 297, 3) := dk_182 1 41 (dk_at dksX1_undo_0 16 rfl rfl)
theorem dX1_undo_19 : decode cX1_undo 19 = .ok (.checkcast 287, 3) := dk_192 1 31 (dk_at dksX1_undo_0 19 rfl rfl)
theorem dX1_undo_22 : decode cX1_undo 22 = .ok (.astore_n 1, 1) := dk_76 (dk_at dksX1_undo_0 22 rfl rfl)
theorem dX1_undo_23 : decode cX1_undo 23 = .ok (.aload_n 1, 1) := dk_43 (dk_at dksX1_undo_0 23 rfl rfl)
theorem dX1_undo_24 : decode cX1_undo 24 = .ok (.getfield 300, 3) := dk_180 1 44 (dk_at dksX1_undo_1 0 rfl rfl)
theorem dX1_undo_27 : decode cX1_undo 27 = .ok (.ifnull 19, 3) := dk_198 0 19 (dk_at dksX1_undo_1 3 rfl rfl)
theorem dX1_undo_30 : decode cX1_undo 30 = .ok (.aload_n 0, 1) := dk_42 (dk_at dksX1_undo_1 6 rfl rfl)
theorem dX1_undo_31 : decode cX1_undo 31 = .ok (.getfield 45, 3) := dk_180 0 45 (dk_at dksX1_undo_1 7 rfl rfl)
theorem dX1_undo_34 : decode cX1_undo 34 = .ok (.aload_n 1, 1) := dk_43 (dk_at dksX1_undo_1 10 rfl rfl)
theorem dX1_undo_35 : decode cX1_undo 35 = .ok (.getfield 301, 3) := dk_180 1 45 (dk_at dksX1_undo_1 11 rfl rfl)
theorem dX1_undo_38 : decode cX1_undo 38 = .ok (.aload_n 1, 1) := dk_43 (dk_at dksX1_undo_1 14 rfl rfl)
theorem dX1_undo_39 : decode cX1_undo 39 = .ok (.getfield 300, 3) := dk_180 1 44 (dk_at dksX1_undo_1 15 rfl rfl)
theorem dX1_undo_42 : decode cX1_undo 42 = .ok (.aastore, 1) := dk_83 (dk_at dksX1_undo_1 18 rfl rfl)
theorem dX1_undo_43 : decode cX1_undo 43 = .ok (.goto 11, 3) := dk_167 0 11 (dk_at dksX1_undo_1 19 rfl rfl)
theorem dX1_undo_46 : decode cX1_undo 46 = .ok (.aload_n 0, 1) := dk_42 (dk_at dksX1_undo_1 22 rfl rfl)
theorem dX1_undo_47 : decode cX1_undo 47 = .ok (.aload_n 1, 1) := dk_43 (dk_at dksX1_undo_1 23 rfl rfl)
theorem dX1_undo_48 : decode cX1_undo 48 = .ok (.getfield 304, 3) := dk_180 1 48 (dk_at dksX1_undo_2 0 rfl rfl)
theorem dX1_undo_51 : decode cX1_undo 51 = .ok (.putfield 49, 3) := dk_181 0 49 (dk_at dksX1_undo_2 3 rfl rfl)
theorem dX1_undo_54 : decode cX1_undo 54 = .ok (.aload_n 0, 1) := dk_42 (dk_at dksX1_undo_2 6 rfl rfl)
theorem dX1_undo_55 : decode cX1_undo 55 = .ok (.getfield 55, 3) := dk_180 0 55 (dk_at dksX1_undo_2 7 rfl rfl)
theorem dX1_undo_58 : decode cX1_undo 58 = .ok (.invokevirtual 276, 3) := dk_182 1 20 (dk_at dksX1_undo_2 10 rfl rfl)
theorem dX1_undo_61 : decode cX1_undo 61 = .ok (.ireturn, 1) := dk_172 (dk_at dksX1_undo_2 13 rfl rfl)
def dkwX1_lay_2 : List UInt8 := [167, 0, 4, 3, 181, 0, 146, 42, 27, 45, 182, 1, 63, 155, 0, 7, 4, 167, 0, 4, 3, 172]
abbrev dktX1_lay_2 : List UInt8 := dkwX1_lay_2 ++ []
def dkwX1_lay_1 : List UInt8 := [28, 154, 0, 10, 45, 182, 1, 56, 167, 0, 8, 45, 182, 1, 59, 87, 45, 28, 5, 160, 0, 7, 4]
abbrev dktX1_lay_1 : List UInt8 := dkwX1_lay_1 ++ dktX1_lay_2
def dkwX1_lay_0 : List UInt8 := [27, 184, 1, 49, 153, 0, 12, 28, 3, 5, 184, 0, 68, 154, 0, 5, 3, 172, 42, 27, 182, 1, 52, 78]
abbrev dktX1_lay_0 : List UInt8 := dkwX1_lay_0 ++ dktX1_lay_1
theorem dksX1_lay_0 : cX1_lay.data.toList.drop 0 = dktX1_lay_0 := by decide +kernel
theorem dksX1_lay_1 : cX1_lay.data.toList.drop 24 = dktX1_lay_1 := dk_seg dksX1_lay_0 24 rfl rfl
theorem dksX1_lay_2 : cX1_lay.data.toList.drop 47 = dktX1_lay_2 := dk_seg dksX1_lay_1 23 rfl rfl
theorem dX1_lay_0 : decode cX1_lay 0 = .ok (.iload_n 1, 1) := dk_27 (dk_at dksX1_lay_0 0 rfl rfl)
theorem dX1_lay_1 : decode cX1_lay 1 = .ok (.invokestatic 305, 3) := dk_184 1 49 (dk_at dksX1_lay_0 1 rfl rfl)
theorem dX1_lay_4 : decode cX1_lay 4 = .ok (.ifCond .eq 12, 3) := dk_153 0 12 (dk_at dksX1_lay_0 4 rfl rfl)
theorem dX1_lay_7 : decode cX1_lay 7 = .ok (.iload_n 2, 1) := dk_28 (dk_at dksX1_lay_0 7 rfl rfl)
theorem dX1_lay_8 : decode cX1_lay 8 = .ok (.iconst 0, 1) := dk_3 (dk_at dksX1_lay_0 8 rfl rfl)
theorem dX1_lay_9 : decode cX1_lay 9 = .ok (.iconst 2, 1) := dk_5 (dk_at dksX1_lay_0 9 rfl rfl)
theorem dX1_lay_10 : decode cX1_lay 10 = .ok (.invokestatic 68, 3) := dk_184 0 68 (dk_at dksX1_lay_0 10 rfl rfl)
theorem dX1_lay_13 : decode cX1_lay 13 = .ok (.ifCond .ne 5, 3) := dk_154 0 5 (dk_at dksX1_lay_0 13 rfl rfl)
theorem dX1_lay_16 : decode cX1_lay 16 = .ok (.iconst 0, 1) := dk_3 (dk_at dksX1_lay_0 16 rfl rfl)
theorem dX1_lay_17 : decode cX1_lay 17 = .ok (.ireturn, 1) := dk_172 (dk_at dksX1_lay_0 17 rfl rfl)
theorem dX1_lay_18 : decode cX1_lay 18 = .ok (.aload_n 0, 1) := dk_42 (dk_at dksX1_lay_0 18 rfl rfl)
theorem dX1_lay_19 : decode cX1_lay 19 = .ok (.iload_n 1, 1) := dk_27 (dk_at dksX1_lay_0 19 rfl rfl)
theorem dX1_lay_20 : decode cX1_lay 20 = .ok (.invokevirtual 308, 3) := dk_182 1 52 (dk_at dksX1_lay_0 20 rfl rfl)
theorem dX1_lay_23 : decode cX1_lay 23 = .ok (.astore_n 3, 1) := dk_78 (dk_at dksX1_lay_0 23 rfl rfl)
theorem dX1_lay_24 : decode cX1_lay 24 = .ok (.iload_n 2, 1) := dk_28 (dk_at dksX1_lay_1 0 rfl rfl)
theorem dX1_lay_25 : decode cX1_lay 25 = .ok (.ifCond .ne 10, 3) := dk_154 0 10 (dk_at dksX1_lay_1 1 rfl rfl)
theorem dX1_lay_28 : decode cX1_lay 28 = .ok (.aload_n 3, 1) := dk_45 (dk_at dksX1_lay_1 4 rfl rfl)
theorem dX1_lay_29 : decode cX1_lay 29 = .ok (.invokevirtual 312, 3) := dk_182 1 56 (dk_at dksX1_lay_1 5 rfl rfl)
theorem dX1_lay_32 : decode cX1_lay 32 = .ok (.goto 8, 3) := dk_167 0 8 (dk_at dksX1_lay_1 8 rfl rfl)
theorem dX1_lay_35 : decode cX1_lay 35 = .ok (.aload_n 3, 1) := dk_45 (dk_at dksX1_lay_1 11 rfl rfl)
theorem dX1_lay_36 : decode cX1_lay 36 = .ok (.invokevirtual 315, 3) := dk_182 1 59 (dk_at dksX1_lay_1 12 rfl rfl)
theorem dX1_lay_39 : decode cX1_lay 39 = .ok (.pop, 1) := dk_87 (dk_at dksX1_lay_1 15 rfl rfl)
theorem dX1_lay_40 : decode cX1_lay 40 = .ok (.aload_n 3, 1) := dk_45 (dk_at dksX1_lay_1 16 rfl rfl)
theorem dX1_lay_41 : decode cX1_lay 41 = .ok (.iload_n 2, 1) := dk_28 (dk_at dksX1_lay_1 17 rfl rfl)
theorem dX1_lay_42 : decode cX1_lay 42 = .ok (.iconst 2, 1) := dk_5 (dk_at dksX1_lay_1 18 rfl rfl)
theorem dX1_lay_43 : decode cX1_lay 43 = .ok (.if_icmp .ne 7, 3) := dk_160 0 7 (dk_at dksX1_lay_1 19 rfl rfl)
theorem dX1_lay_46 : decode cX1_lay 46 = .ok (.iconst 1, 1) := dk_4 (dk_at dksX1_lay_1 22 rfl rfl)
theorem dX1_lay_47 : decode cX1_lay 47 = .ok (.goto 4, 3) := dk_167 0 4 (dk_at dksX1_lay_2 0 rfl rfl)
theorem dX1_lay_50 : decode cX1_lay 50 = .ok (.iconst 0, 1) := dk_3 (dk_at dksX1_lay_2 3 rfl rfl)
theorem dX1_lay_51 : decode cX1_lay 51 = .ok (.putfield 146, 3) := dk_181 0 146 (dk_at dksX1_lay_2 4 rfl rfl)
theorem dX1_lay_54 : decode cX1_lay 54 = .ok (.aload_n 0, 1) := dk_42 (dk_at dksX1_lay_2 7 rfl rfl)
theorem dX1_lay_55 : decode cX1_lay 55 = .ok (.iload_n 1, 1) := dk_27 (dk_at dksX1_lay_2 8 rfl rfl)
theorem dX1_lay_56 : decode cX1_lay 56 = .ok (.aload_n 3, 1) := dk_45 (dk_at dksX1_lay_2 9 rfl rfl)
theorem dX1_lay_57 : decode cX1_lay 57 = .ok (.invokevirtual 319, 3) := dk_182 1 63 (dk_at dksX1_lay_2 10 rfl rfl)
theorem dX1_lay_60 : decode cX1_lay 60 = .ok (.ifCond .lt 7, 3) := dk_155 0 7 (dk_at dksX1_lay_2 13 rfl rfl)
theorem dX1_lay_63 : decode cX1_lay 63 = .ok (.iconst 1, 1) := dk_4 (dk_at dksX1_lay_2 16 rfl rfl)
theorem dX1_lay_64 : decode cX1_lay 64 = .ok (.goto 4, 3) := dk_167 0 4 (dk_at dksX1_lay_2 17 rfl rfl)
theorem dX1_lay_67 : decode cX1_lay 67 = .ok (.iconst 0, 1) := dk_3 (dk_at dksX1_lay_2 20 rfl rfl)
theorem dX1_lay_68 : decode cX1_lay 68 = .ok (.ireturn, 1) := dk_172 (dk_at dksX1_lay_2 21 rfl rfl)
def dkwX1_isTable_0 : List UInt8 := [26, 3, 6, 184, 0, 68, 172]
abbrev dktX1_isTable_0 : List UInt8 := dkwX1_isTable_0 ++ []
theorem dksX1_isTable_0 : cX1_isTable.data.toList.drop 0 = dktX1_isTable_0 := by decide +kernel
theorem dX1_isTable_0 : decode cX1_isTable 0 = .ok (.iload_n 0, 1) := dk_26 (dk_at dksX1_isTable_0 0 rfl rfl)
theorem dX1_isTable_1 : decode cX1_isTable 1 = .ok (.iconst 0, 1) := dk_3 (dk_at dksX1_isTable_0 1 rfl rfl)
theorem dX1_isTable_2 : decode cX1_isTable 2 = .ok (.iconst 3, 1) := dk_6 (dk_at dksX1_isTable_0 2 rfl rfl)
theorem dX1_isTable_3 : decode cX1_isTable 3 = .ok (.invokestatic 68, 3) := dk_184 0 68 (dk_at dksX1_isTable_0 3 rfl rfl)
theorem dX1_isTable_6 : decode cX1_isTable 6 = .ok (.ireturn, 1) := dk_172 (dk_at dksX1_isTable_0 6 rfl rfl)
def dkwX1_now_0 : List UInt8 := [187, 0, 59, 89, 42, 180, 0, 45, 27, 50, 183, 0, 218, 176]
abbrev dktX1_now_0 : List UInt8 := dkwX1_now_0 ++ []
theorem dksX1_now_0 : cX1_now.data.toList.drop 0 = dktX1_now_0 := by decide +kernel
theorem dX1_now_0 : decode cX1_now 0 = .ok (.new 59, 3) := dk_187 0 59 (dk_at dksX1_now_0 0 rfl rfl)
theorem dX1_now_3 : decode cX1_now 3 = .ok (.dup, 1) := dk_89 (dk_at dksX1_now_0 3 rfl rfl)
theorem dX1_now_4 : decode cX1_now 4 = .ok (.aload_n 0, 1) := dk_42 (dk_at dksX1_now_0 4 rfl rfl)
theorem dX1_now_5 : decode cX1_now 5 = .ok (.getfield 45, 3) := dk_180 0 45 (dk_at dksX1_now_0 5 rfl rfl)
theorem dX1_now_8 : decode cX1_now 8 = .ok (.iload_n 1, 1) := dk_27 (dk_at dksX1_now_0 8 rfl rfl)
theorem dX1_now_9 : decode cX1_now 9 = .ok (.aaload, 1) := dk_50 (dk_at dksX1_now_0 9 rfl rfl)
theorem dX1_now_10 : decode cX1_now 10 = .ok (.invokespecial 218, 3) := dk_183 0 218 (dk_at dksX1_now_0 10 rfl rfl)
theorem dX1_now_13 : decode cX1_now 13 = .ok (.areturn, 1) := dk_176 (dk_at dksX1_now_0 13 rfl rfl)
def dkwX1_becomes_2 : List UInt8 := [4, 172]
abbrev dktX1_becomes_2 : List UInt8 := dkwX1_becomes_2 ++ []
def dkwX1_becomes_1 : List UInt8 := [183, 1, 33, 182, 1, 36, 42, 180, 0, 45, 27, 44, 83, 44, 180, 0, 146, 153, 0, 7, 3, 167, 0, 4]
abbrev dktX1_becomes_1 : List UInt8 := dkwX1_becomes_1 ++ dktX1_becomes_2
def dkwX1_becomes_0 : List UInt8 := [44, 182, 1, 28, 153, 0, 6, 16, 254, 172, 42, 187, 1, 31, 89, 27, 42, 180, 0, 45, 27, 50, 1]
abbrev dktX1_becomes_0 : List UInt8 := dkwX1_becomes_0 ++ dktX1_becomes_1
theorem dksX1_becomes_0 : cX1_becomes.data.toList.drop 0 = dktX1_becomes_0 := by decide +kernel
theorem dksX1_becomes_1 : cX1_becomes.data.toList.drop 23 = dktX1_becomes_1 := dk_seg dksX1_becomes_0 23 rfl rfl
theorem dksX1_becomes_2 : cX1_becomes.data.toList.drop 47 = dktX1_becomes_2 := dk_seg dksX1_becomes_1 24 rfl rfl
theorem dX1_becomes_0 : decode cX1_becomes 0 = .ok (.aload_n 2, 1) := dk_44 (dk_at dksX1_becomes_0 0 rfl rfl)
theorem dX1_becomes_1 : decode cX1_becomes 1 = .ok (.invokevirtual 284, 3) := dk_182 1 28 (dk_at dksX1_becomes_0 1 rfl rfl)
theorem dX1_becomes_4 : decode cX1_becomes 4 = .ok (.ifCond .eq 6, 3) := dk_153 0 6 (dk_at dksX1_becomes_0 4 rfl rfl)
theorem dX1_becomes_7 : decode cX1_becomes 7 = .ok (.bipush (-2), 2) := dk_16 254 (dk_at dksX1_becomes_0 7 rfl rfl)
theorem dX1_becomes_9 : decode cX1_becomes 9 = .ok (.ireturn, 1) := dk_172 (dk_at dksX1_becomes_0 9 rfl rfl)
theorem dX1_becomes_10 : decode cX1_becomes 10 = .ok (.aload_n 0, 1) := dk_42 (dk_at dksX1_becomes_0 10 rfl rfl)
theorem dX1_becomes_11 : decode cX1_becomes 11 = .ok (.new 287, 3) := dk_187 1 31 (dk_at dksX1_becomes_0 11 rfl rfl)
theorem dX1_becomes_14 : decode cX1_becomes 14 = .ok (.dup, 1) := dk_89 (dk_at dksX1_becomes_0 14 rfl rfl)
theorem dX1_becomes_15 : decode cX1_becomes 15 = .ok (.iload_n 1, 1) := dk_27 (dk_at dksX1_becomes_0 15 rfl rfl)
theorem dX1_becomes_16 : decode cX1_becomes 16 = .ok (.aload_n 0, 1) := dk_42 (dk_at dksX1_becomes_0 16 rfl rfl)
theorem dX1_becomes_17 : decode cX1_becomes 17 = .ok (.getfield 45, 3) := dk_180 0 45 (dk_at dksX1_becomes_0 17 rfl rfl)
theorem dX1_becomes_20 : decode cX1_becomes 20 = .ok (.iload_n 1, 1) := dk_27 (dk_at dksX1_becomes_0 20 rfl rfl)
theorem dX1_becomes_21 : decode cX1_becomes 21 = .ok (.aaload, 1) := dk_50 (dk_at dksX1_becomes_0 21 rfl rfl)
theorem dX1_becomes_22 : decode cX1_becomes 22 = .ok (.aconst_null, 1) := dk_1 (dk_at dksX1_becomes_0 22 rfl rfl)
theorem dX1_becomes_23 : decode cX1_becomes 23 = .ok (.invokespecial 289, 3) := dk_183 1 33 (dk_at dksX1_becomes_1 0 rfl rfl)
theorem dX1_becomes_26 : decode cX1_becomes 26 = .ok (.invokevirtual 292, 3) := dk_182 1 36 (dk_at dksX1_becomes_1 3 rfl rfl)
theorem dX1_becomes_29 : decode cX1_becomes 29 = .ok (.aload_n 0, 1) := dk_42 (dk_at dksX1_becomes_1 6 rfl rfl)
theorem dX1_becomes_30 : decode cX1_becomes 30 = .ok (.getfield 45, 3) := dk_180 0 45 (dk_at dksX1_becomes_1 7 rfl rfl)
theorem dX1_becomes_33 : decode cX1_becomes 33 = .ok (.iload_n 1, 1) := dk_27 (dk_at dksX1_becomes_1 10 rfl rfl)
theorem dX1_becomes_34 : decode cX1_becomes 34 = .ok (.aload_n 2, 1) := dk_44 (dk_at dksX1_becomes_1 11 rfl rfl)
theorem dX1_becomes_35 : decode cX1_becomes 35 = .ok (.aastore, 1) := dk_83 (dk_at dksX1_becomes_1 12 rfl rfl)
theorem dX1_becomes_36 : decode cX1_becomes 36 = .ok (.aload_n 2, 1) := dk_44 (dk_at dksX1_becomes_1 13 rfl rfl)
theorem dX1_becomes_37 : decode cX1_becomes 37 = .ok (.getfield 146, 3) := dk_180 0 146 (dk_at dksX1_becomes_1 14 rfl rfl)
theorem dX1_becomes_40 : decode cX1_becomes 40 = .ok (.ifCond .eq 7, 3) := dk_153 0 7 (dk_at dksX1_becomes_1 17 rfl rfl)
theorem dX1_becomes_43 : decode cX1_becomes 43 = .ok (.iconst 0, 1) := dk_3 (dk_at dksX1_becomes_1 20 rfl rfl)
theorem dX1_becomes_44 : decode cX1_becomes 44 = .ok (.goto 4, 3) := dk_167 0 4 (dk_at dksX1_becomes_1 21 rfl rfl)
theorem dX1_becomes_47 : decode cX1_becomes 47 = .ok (.iconst 1, 1) := dk_4 (dk_at dksX1_becomes_2 0 rfl rfl)
theorem dX1_becomes_48 : decode cX1_becomes 48 = .ok (.ireturn, 1) := dk_172 (dk_at dksX1_becomes_2 1 rfl rfl)
def dkwX1_keeps_2_1 : List UInt8 := [43, 182, 1, 24, 177]
abbrev dktX1_keeps_2_1 : List UInt8 := dkwX1_keeps_2_1 ++ []
def dkwX1_keeps_2_0 : List UInt8 := [42, 180, 0, 55, 182, 1, 20, 16, 16, 160, 0, 11, 42, 180, 0, 55, 182, 1, 21, 87, 42, 180, 0, 55]
abbrev dktX1_keeps_2_0 : List UInt8 := dkwX1_keeps_2_0 ++ dktX1_keeps_2_1
theorem dksX1_keeps_2_0 : cX1_keeps_2.data.toList.drop 0 = dktX1_keeps_2_0 := by decide +kernel
theorem dksX1_keeps_2_1 : cX1_keeps_2.data.toList.drop 24 = dktX1_keeps_2_1 := dk_seg dksX1_keeps_2_0 24 rfl rfl
theorem dX1_keeps_2_0 : decode cX1_keeps_2 0 = .ok (.aload_n 0, 1) := dk_42 (dk_at dksX1_keeps_2_0 0 rfl rfl)
theorem dX1_keeps_2_1 : decode cX1_keeps_2 1 = .ok (.getfield 55, 3) := dk_180 0 55 (dk_at dksX1_keeps_2_0 1 rfl rfl)
theorem dX1_keeps_2_4 : decode cX1_keeps_2 4 = .ok (.invokevirtual 276, 3) := dk_182 1 20 (dk_at dksX1_keeps_2_0 4 rfl rfl)
theorem dX1_keeps_2_7 : decode cX1_keeps_2 7 = .ok (.bipush 16, 2) := dk_16 16 (dk_at dksX1_keeps_2_0 7 rfl rfl)
theorem dX1_keeps_2_9 : decode cX1_keeps_2 9 = .ok (.if_icmp .ne 11, 3) := dk_160 0 11 (dk_at dksX1_keeps_2_0 9 rfl rfl)
theorem dX1_keeps_2_12 : decode cX1_keeps_2 12 = .ok (.aload_n 0, 1) := dk_42 (dk_at dksX1_keeps_2_0 12 rfl rfl)
theorem dX1_keeps_2_13 : decode cX1_keeps_2 13 = .ok (.getfield 55, 3) := dk_180 0 55 (dk_at dksX1_keeps_2_0 13 rfl rfl)
theorem dX1_keeps_2_16 : decode cX1_keeps_2 16 = .ok (.invokevirtual 277, 3) := dk_182 1 21 (dk_at dksX1_keeps_2_0 16 rfl rfl)
theorem dX1_keeps_2_19 : decode cX1_keeps_2 19 = .ok (.pop, 1) := dk_87 (dk_at dksX1_keeps_2_0 19 rfl rfl)
theorem dX1_keeps_2_20 : decode cX1_keeps_2 20 = .ok (.aload_n 0, 1) := dk_42 (dk_at dksX1_keeps_2_0 20 rfl rfl)
theorem dX1_keeps_2_21 : decode cX1_keeps_2 21 = .ok (.getfield 55, 3) := dk_180 0 55 (dk_at dksX1_keeps_2_0 21 rfl rfl)
theorem dX1_keeps_2_24 : decode cX1_keeps_2 24 = .ok (.aload_n 1, 1) := dk_43 (dk_at dksX1_keeps_2_1 0 rfl rfl)
theorem dX1_keeps_2_25 : decode cX1_keeps_2 25 = .ok (.invokevirtual 280, 3) := dk_182 1 24 (dk_at dksX1_keeps_2_1 1 rfl rfl)
theorem dX1_keeps_2_28 : decode cX1_keeps_2 28 = .ok (.return_, 1) := dk_177 (dk_at dksX1_keeps_2_1 4 rfl rfl)
def dkwX1_meet_3 : List UInt8 := [96, 29, 4, 96, 21, 4, 21, 5, 182, 0, 139, 25, 6, 182, 0, 143, 42, 27, 25, 6, 182, 1, 63, 172]
abbrev dktX1_meet_3 : List UInt8 := dkwX1_meet_3 ++ []
def dkwX1_meet_2 : List UInt8 := [154, 0, 5, 2, 172, 42, 27, 182, 1, 52, 58, 6, 25, 6, 180, 0, 146, 154, 0, 23, 25, 6, 28, 4]
abbrev dktX1_meet_2 : List UInt8 := dkwX1_meet_2 ++ dktX1_meet_3
def dkwX1_meet_1 : List UInt8 := [29, 159, 0, 25, 21, 4, 3, 7, 184, 0, 68, 153, 0, 15, 21, 5, 16, 156, 16, 100, 184, 0, 68]
abbrev dktX1_meet_1 : List UInt8 := dkwX1_meet_1 ++ dktX1_meet_2
def dkwX1_meet_0 : List UInt8 := [27, 184, 1, 49, 153, 0, 46, 42, 28, 182, 1, 67, 153, 0, 38, 42, 29, 182, 1, 67, 153, 0, 30, 28]
abbrev dktX1_meet_0 : List UInt8 := dkwX1_meet_0 ++ dktX1_meet_1
theorem dksX1_meet_0 : cX1_meet.data.toList.drop 0 = dktX1_meet_0 := by decide +kernel
theorem dksX1_meet_1 : cX1_meet.data.toList.drop 24 = dktX1_meet_1 := dk_seg dksX1_meet_0 24 rfl rfl
theorem dksX1_meet_2 : cX1_meet.data.toList.drop 47 = dktX1_meet_2 := dk_seg dksX1_meet_1 23 rfl rfl
theorem dksX1_meet_3 : cX1_meet.data.toList.drop 71 = dktX1_meet_3 := dk_seg dksX1_meet_2 24 rfl rfl
theorem dX1_meet_0 : decode cX1_meet 0 = .ok (.iload_n 1, 1) := dk_27 (dk_at dksX1_meet_0 0 rfl rfl)
theorem dX1_meet_1 : decode cX1_meet 1 = .ok (.invokestatic 305, 3) := dk_184 1 49 (dk_at dksX1_meet_0 1 rfl rfl)
theorem dX1_meet_4 : decode cX1_meet 4 = .ok (.ifCond .eq 46, 3) := dk_153 0 46 (dk_at dksX1_meet_0 4 rfl rfl)
theorem dX1_meet_7 : decode cX1_meet 7 = .ok (.aload_n 0, 1) := dk_42 (dk_at dksX1_meet_0 7 rfl rfl)
theorem dX1_meet_8 : decode cX1_meet 8 = .ok (.iload_n 2, 1) := dk_28 (dk_at dksX1_meet_0 8 rfl rfl)
theorem dX1_meet_9 : decode cX1_meet 9 = .ok (.invokevirtual 323, 3) := dk_182 1 67 (dk_at dksX1_meet_0 9 rfl rfl)
theorem dX1_meet_12 : decode cX1_meet 12 = .ok (.ifCond .eq 38, 3) := dk_153 0 38 (dk_at dksX1_meet_0 12 rfl rfl)
theorem dX1_meet_15 : decode cX1_meet 15 = .ok (.aload_n 0, 1) := dk_42 (dk_at dksX1_meet_0 15 rfl rfl)
theorem dX1_meet_16 : decode cX1_meet 16 = .ok (.iload_n 3, 1) := dk_29 (dk_at dksX1_meet_0 16 rfl rfl)
theorem dX1_meet_17 : decode cX1_meet 17 = .ok (.invokevirtual 323, 3) := dk_182 1 67 (dk_at dksX1_meet_0 17 rfl rfl)
theorem dX1_meet_20 : decode cX1_meet 20 = .ok (.ifCond .eq 30, 3) := dk_153 0 30 (dk_at dksX1_meet_0 20 rfl rfl)
theorem dX1_meet_23 : decode cX1_meet 23 = .ok (.iload_n 2, 1) := dk_28 (dk_at dksX1_meet_0 23 rfl rfl)
theorem dX1_meet_24 : decode cX1_meet 24 = .ok (.iload_n 3, 1) := dk_29 (dk_at dksX1_meet_1 0 rfl rfl)
theorem dX1_meet_25 : decode cX1_meet 25 = .ok (.if_icmp .eq 25, 3) := dk_159 0 25 (dk_at dksX1_meet_1 1 rfl rfl)
theorem dX1_meet_28 : decode cX1_meet 28 = .ok (.iload 4, 2) := dk_21 4 (dk_at dksX1_meet_1 4 rfl rfl)
theorem dX1_meet_30 : decode cX1_meet 30 = .ok (.iconst 0, 1) := dk_3 (dk_at dksX1_meet_1 6 rfl rfl)
theorem dX1_meet_31 : decode cX1_meet 31 = .ok (.iconst 4, 1) := dk_7 (dk_at dksX1_meet_1 7 rfl rfl)
theorem dX1_meet_32 : decode cX1_meet 32 = .ok (.invokestatic 68, 3) := dk_184 0 68 (dk_at dksX1_meet_1 8 rfl rfl)
theorem dX1_meet_35 : decode cX1_meet 35 = .ok (.ifCond .eq 15, 3) := dk_153 0 15 (dk_at dksX1_meet_1 11 rfl rfl)
theorem dX1_meet_38 : decode cX1_meet 38 = .ok (.iload 5, 2) := dk_21 5 (dk_at dksX1_meet_1 14 rfl rfl)
theorem dX1_meet_40 : decode cX1_meet 40 = .ok (.bipush (-100), 2) := dk_16 156 (dk_at dksX1_meet_1 16 rfl rfl)
theorem dX1_meet_42 : decode cX1_meet 42 = .ok (.bipush 100, 2) := dk_16 100 (dk_at dksX1_meet_1 18 rfl rfl)
theorem dX1_meet_44 : decode cX1_meet 44 = .ok (.invokestatic 68, 3) := dk_184 0 68 (dk_at dksX1_meet_1 20 rfl rfl)
theorem dX1_meet_47 : decode cX1_meet 47 = .ok (.ifCond .ne 5, 3) := dk_154 0 5 (dk_at dksX1_meet_2 0 rfl rfl)
theorem dX1_meet_50 : decode cX1_meet 50 = .ok (.iconst (-1), 1) := dk_2 (dk_at dksX1_meet_2 3 rfl rfl)
theorem dX1_meet_51 : decode cX1_meet 51 = .ok (.ireturn, 1) := dk_172 (dk_at dksX1_meet_2 4 rfl rfl)
theorem dX1_meet_52 : decode cX1_meet 52 = .ok (.aload_n 0, 1) := dk_42 (dk_at dksX1_meet_2 5 rfl rfl)
theorem dX1_meet_53 : decode cX1_meet 53 = .ok (.iload_n 1, 1) := dk_27 (dk_at dksX1_meet_2 6 rfl rfl)
theorem dX1_meet_54 : decode cX1_meet 54 = .ok (.invokevirtual 308, 3) := dk_182 1 52 (dk_at dksX1_meet_2 7 rfl rfl)
theorem dX1_meet_57 : decode cX1_meet 57 = .ok (.astore 6, 2) := dk_58 6 (dk_at dksX1_meet_2 10 rfl rfl)
theorem dX1_meet_59 : decode cX1_meet 59 = .ok (.aload 6, 2) := dk_25 6 (dk_at dksX1_meet_2 12 rfl rfl)
theorem dX1_meet_61 : decode cX1_meet 61 = .ok (.getfield 146, 3) := dk_180 0 146 (dk_at dksX1_meet_2 14 rfl rfl)
theorem dX1_meet_64 : decode cX1_meet 64 = .ok (.ifCond .ne 23, 3) := dk_154 0 23 (dk_at dksX1_meet_2 17 rfl rfl)
theorem dX1_meet_67 : decode cX1_meet 67 = .ok (.aload 6, 2) := dk_25 6 (dk_at dksX1_meet_2 20 rfl rfl)
theorem dX1_meet_69 : decode cX1_meet 69 = .ok (.iload_n 2, 1) := dk_28 (dk_at dksX1_meet_2 22 rfl rfl)
theorem dX1_meet_70 : decode cX1_meet 70 = .ok (.iconst 1, 1) := dk_4 (dk_at dksX1_meet_2 23 rfl rfl)
theorem dX1_meet_71 : decode cX1_meet 71 = .ok (.iadd, 1) := dk_96 (dk_at dksX1_meet_3 0 rfl rfl)
theorem dX1_meet_72 : decode cX1_meet 72 = .ok (.iload_n 3, 1) := dk_29 (dk_at dksX1_meet_3 1 rfl rfl)
theorem dX1_meet_73 : decode cX1_meet 73 = .ok (.iconst 1, 1) := dk_4 (dk_at dksX1_meet_3 2 rfl rfl)
theorem dX1_meet_74 : decode cX1_meet 74 = .ok (.iadd, 1) := dk_96 (dk_at dksX1_meet_3 3 rfl rfl)
theorem dX1_meet_75 : decode cX1_meet 75 = .ok (.iload 4, 2) := dk_21 4 (dk_at dksX1_meet_3 4 rfl rfl)
theorem dX1_meet_77 : decode cX1_meet 77 = .ok (.iload 5, 2) := dk_21 5 (dk_at dksX1_meet_3 6 rfl rfl)
theorem dX1_meet_79 : decode cX1_meet 79 = .ok (.invokevirtual 139, 3) := dk_182 0 139 (dk_at dksX1_meet_3 8 rfl rfl)
theorem dX1_meet_82 : decode cX1_meet 82 = .ok (.aload 6, 2) := dk_25 6 (dk_at dksX1_meet_3 11 rfl rfl)
theorem dX1_meet_84 : decode cX1_meet 84 = .ok (.invokevirtual 143, 3) := dk_182 0 143 (dk_at dksX1_meet_3 13 rfl rfl)
theorem dX1_meet_87 : decode cX1_meet 87 = .ok (.aload_n 0, 1) := dk_42 (dk_at dksX1_meet_3 16 rfl rfl)
theorem dX1_meet_88 : decode cX1_meet 88 = .ok (.iload_n 1, 1) := dk_27 (dk_at dksX1_meet_3 17 rfl rfl)
theorem dX1_meet_89 : decode cX1_meet 89 = .ok (.aload 6, 2) := dk_25 6 (dk_at dksX1_meet_3 18 rfl rfl)
theorem dX1_meet_91 : decode cX1_meet 91 = .ok (.invokevirtual 319, 3) := dk_182 1 63 (dk_at dksX1_meet_3 20 rfl rfl)
theorem dX1_meet_94 : decode cX1_meet 94 = .ok (.ireturn, 1) := dk_172 (dk_at dksX1_meet_3 23 rfl rfl)
def dkwX1_isSide_0 : List UInt8 := [27, 2, 159, 0, 11, 42, 27, 182, 1, 1, 153, 0, 7, 4, 167, 0, 4, 3, 172]
abbrev dktX1_isSide_0 : List UInt8 := dkwX1_isSide_0 ++ []
theorem dksX1_isSide_0 : cX1_isSide.data.toList.drop 0 = dktX1_isSide_0 := by decide +kernel
theorem dX1_isSide_0 : decode cX1_isSide 0 = .ok (.iload_n 1, 1) := dk_27 (dk_at dksX1_isSide_0 0 rfl rfl)
theorem dX1_isSide_1 : decode cX1_isSide 1 = .ok (.iconst (-1), 1) := dk_2 (dk_at dksX1_isSide_0 1 rfl rfl)
theorem dX1_isSide_2 : decode cX1_isSide 2 = .ok (.if_icmp .eq 11, 3) := dk_159 0 11 (dk_at dksX1_isSide_0 2 rfl rfl)
theorem dX1_isSide_5 : decode cX1_isSide 5 = .ok (.aload_n 0, 1) := dk_42 (dk_at dksX1_isSide_0 5 rfl rfl)
theorem dX1_isSide_6 : decode cX1_isSide 6 = .ok (.iload_n 1, 1) := dk_27 (dk_at dksX1_isSide_0 6 rfl rfl)
theorem dX1_isSide_7 : decode cX1_isSide 7 = .ok (.invokevirtual 257, 3) := dk_182 1 1 (dk_at dksX1_isSide_0 7 rfl rfl)
theorem dX1_isSide_10 : decode cX1_isSide 10 = .ok (.ifCond .eq 7, 3) := dk_153 0 7 (dk_at dksX1_isSide_0 10 rfl rfl)
theorem dX1_isSide_13 : decode cX1_isSide 13 = .ok (.iconst 1, 1) := dk_4 (dk_at dksX1_isSide_0 13 rfl rfl)
theorem dX1_isSide_14 : decode cX1_isSide 14 = .ok (.goto 4, 3) := dk_167 0 4 (dk_at dksX1_isSide_0 14 rfl rfl)
theorem dX1_isSide_17 : decode cX1_isSide 17 = .ok (.iconst 0, 1) := dk_3 (dk_at dksX1_isSide_0 17 rfl rfl)
theorem dX1_isSide_18 : decode cX1_isSide 18 = .ok (.ireturn, 1) := dk_172 (dk_at dksX1_isSide_0 18 rfl rfl)
def dkwX1_pass_2 : List UInt8 := [154, 0, 7, 45, 182, 1, 70, 42, 27, 45, 182, 1, 63, 172]
abbrev dktX1_pass_2 : List UInt8 := dkwX1_pass_2 ++ []
def dkwX1_pass_1 : List UInt8 := [45, 180, 0, 146, 154, 0, 14, 28, 154, 0, 10, 45, 182, 0, 161, 167, 0, 14, 45, 180, 0, 146]
abbrev dktX1_pass_1 : List UInt8 := dkwX1_pass_1 ++ dktX1_pass_2
def dkwX1_pass_0 : List UInt8 := [27, 184, 1, 49, 153, 0, 12, 28, 3, 4, 184, 0, 68, 154, 0, 5, 2, 172, 42, 27, 182, 1, 52, 78]
abbrev dktX1_pass_0 : List UInt8 := dkwX1_pass_0 ++ dktX1_pass_1
theorem dksX1_pass_0 : cX1_pass.data.toList.drop 0 = dktX1_pass_0 := by decide +kernel
theorem dksX1_pass_1 : cX1_pass.data.toList.drop 24 = dktX1_pass_1 := dk_seg dksX1_pass_0 24 rfl rfl
theorem dksX1_pass_2 : cX1_pass.data.toList.drop 46 = dktX1_pass_2 := dk_seg dksX1_pass_1 22 rfl rfl
theorem dX1_pass_0 : decode cX1_pass 0 = .ok (.iload_n 1, 1) := dk_27 (dk_at dksX1_pass_0 0 rfl rfl)
theorem dX1_pass_1 : decode cX1_pass 1 = .ok (.invokestatic 305, 3) := dk_184 1 49 (dk_at dksX1_pass_0 1 rfl rfl)
theorem dX1_pass_4 : decode cX1_pass 4 = .ok (.ifCond .eq 12, 3) := dk_153 0 12 (dk_at dksX1_pass_0 4 rfl rfl)
theorem dX1_pass_7 : decode cX1_pass 7 = .ok (.iload_n 2, 1) := dk_28 (dk_at dksX1_pass_0 7 rfl rfl)
theorem dX1_pass_8 : decode cX1_pass 8 = .ok (.iconst 0, 1) := dk_3 (dk_at dksX1_pass_0 8 rfl rfl)
theorem dX1_pass_9 : decode cX1_pass 9 = .ok (.iconst 1, 1) := dk_4 (dk_at dksX1_pass_0 9 rfl rfl)
theorem dX1_pass_10 : decode cX1_pass 10 = .ok (.invokestatic 68, 3) := dk_184 0 68 (dk_at dksX1_pass_0 10 rfl rfl)
theorem dX1_pass_13 : decode cX1_pass 13 = .ok (.ifCond .ne 5, 3) := dk_154 0 5 (dk_at dksX1_pass_0 13 rfl rfl)
theorem dX1_pass_16 : decode cX1_pass 16 = .ok (.iconst (-1), 1) := dk_2 (dk_at dksX1_pass_0 16 rfl rfl)
theorem dX1_pass_17 : decode cX1_pass 17 = .ok (.ireturn, 1) := dk_172 (dk_at dksX1_pass_0 17 rfl rfl)
theorem dX1_pass_18 : decode cX1_pass 18 = .ok (.aload_n 0, 1) := dk_42 (dk_at dksX1_pass_0 18 rfl rfl)
theorem dX1_pass_19 : decode cX1_pass 19 = .ok (.iload_n 1, 1) := dk_27 (dk_at dksX1_pass_0 19 rfl rfl)
theorem dX1_pass_20 : decode cX1_pass 20 = .ok (.invokevirtual 308, 3) := dk_182 1 52 (dk_at dksX1_pass_0 20 rfl rfl)
theorem dX1_pass_23 : decode cX1_pass 23 = .ok (.astore_n 3, 1) := dk_78 (dk_at dksX1_pass_0 23 rfl rfl)
theorem dX1_pass_24 : decode cX1_pass 24 = .ok (.aload_n 3, 1) := dk_45 (dk_at dksX1_pass_1 0 rfl rfl)
theorem dX1_pass_25 : decode cX1_pass 25 = .ok (.getfield 146, 3) := dk_180 0 146 (dk_at dksX1_pass_1 1 rfl rfl)
theorem dX1_pass_28 : decode cX1_pass 28 = .ok (.ifCond .ne 14, 3) := dk_154 0 14 (dk_at dksX1_pass_1 4 rfl rfl)
theorem dX1_pass_31 : decode cX1_pass 31 = .ok (.iload_n 2, 1) := dk_28 (dk_at dksX1_pass_1 7 rfl rfl)
theorem dX1_pass_32 : decode cX1_pass 32 = .ok (.ifCond .ne 10, 3) := dk_154 0 10 (dk_at dksX1_pass_1 8 rfl rfl)
theorem dX1_pass_35 : decode cX1_pass 35 = .ok (.aload_n 3, 1) := dk_45 (dk_at dksX1_pass_1 11 rfl rfl)
theorem dX1_pass_36 : decode cX1_pass 36 = .ok (.invokevirtual 161, 3) := dk_182 0 161 (dk_at dksX1_pass_1 12 rfl rfl)
theorem dX1_pass_39 : decode cX1_pass 39 = .ok (.goto 14, 3) := dk_167 0 14 (dk_at dksX1_pass_1 15 rfl rfl)
theorem dX1_pass_42 : decode cX1_pass 42 = .ok (.aload_n 3, 1) := dk_45 (dk_at dksX1_pass_1 18 rfl rfl)
theorem dX1_pass_43 : decode cX1_pass 43 = .ok (.getfield 146, 3) := dk_180 0 146 (dk_at dksX1_pass_1 19 rfl rfl)
theorem dX1_pass_46 : decode cX1_pass 46 = .ok (.ifCond .ne 7, 3) := dk_154 0 7 (dk_at dksX1_pass_2 0 rfl rfl)
theorem dX1_pass_49 : decode cX1_pass 49 = .ok (.aload_n 3, 1) := dk_45 (dk_at dksX1_pass_2 3 rfl rfl)
theorem dX1_pass_50 : decode cX1_pass 50 = .ok (.invokevirtual 326, 3) := dk_182 1 70 (dk_at dksX1_pass_2 4 rfl rfl)
theorem dX1_pass_53 : decode cX1_pass 53 = .ok (.aload_n 0, 1) := dk_42 (dk_at dksX1_pass_2 7 rfl rfl)
theorem dX1_pass_54 : decode cX1_pass 54 = .ok (.iload_n 1, 1) := dk_27 (dk_at dksX1_pass_2 8 rfl rfl)
theorem dX1_pass_55 : decode cX1_pass 55 = .ok (.aload_n 3, 1) := dk_45 (dk_at dksX1_pass_2 9 rfl rfl)
theorem dX1_pass_56 : decode cX1_pass 56 = .ok (.invokevirtual 319, 3) := dk_182 1 63 (dk_at dksX1_pass_2 10 rfl rfl)
theorem dX1_pass_59 : decode cX1_pass 59 = .ok (.ireturn, 1) := dk_172 (dk_at dksX1_pass_2 13 rfl rfl)
def dkwX1_reset_2 : List UInt8 := [96, 29, 182, 0, 172, 42, 27, 25, 4, 182, 1, 63, 172]
abbrev dktX1_reset_2 : List UInt8 := dkwX1_reset_2 ++ []
def dkwX1_reset_1 : List UInt8 := [154, 0, 5, 2, 172, 42, 27, 182, 1, 52, 58, 4, 25, 4, 180, 0, 146, 154, 0, 12, 25, 4, 28, 4]
abbrev dktX1_reset_1 : List UInt8 := dkwX1_reset_1 ++ dktX1_reset_2
def dkwX1_reset_0 : List UInt8 := [27, 184, 1, 49, 153, 0, 21, 42, 28, 182, 1, 1, 153, 0, 13, 29, 3, 16, 50, 184, 0, 68]
abbrev dktX1_reset_0 : List UInt8 := dkwX1_reset_0 ++ dktX1_reset_1
theorem dksX1_reset_0 : cX1_reset.data.toList.drop 0 = dktX1_reset_0 := by decide +kernel
theorem dksX1_reset_1 : cX1_reset.data.toList.drop 22 = dktX1_reset_1 := dk_seg dksX1_reset_0 22 rfl rfl
theorem dksX1_reset_2 : cX1_reset.data.toList.drop 46 = dktX1_reset_2 := dk_seg dksX1_reset_1 24 rfl rfl
theorem dX1_reset_0 : decode cX1_reset 0 = .ok (.iload_n 1, 1) := dk_27 (dk_at dksX1_reset_0 0 rfl rfl)
theorem dX1_reset_1 : decode cX1_reset 1 = .ok (.invokestatic 305, 3) := dk_184 1 49 (dk_at dksX1_reset_0 1 rfl rfl)
theorem dX1_reset_4 : decode cX1_reset 4 = .ok (.ifCond .eq 21, 3) := dk_153 0 21 (dk_at dksX1_reset_0 4 rfl rfl)
theorem dX1_reset_7 : decode cX1_reset 7 = .ok (.aload_n 0, 1) := dk_42 (dk_at dksX1_reset_0 7 rfl rfl)
theorem dX1_reset_8 : decode cX1_reset 8 = .ok (.iload_n 2, 1) := dk_28 (dk_at dksX1_reset_0 8 rfl rfl)
theorem dX1_reset_9 : decode cX1_reset 9 = .ok (.invokevirtual 257, 3) := dk_182 1 1 (dk_at dksX1_reset_0 9 rfl rfl)
theorem dX1_reset_12 : decode cX1_reset 12 = .ok (.ifCond .eq 13, 3) := dk_153 0 13 (dk_at dksX1_reset_0 12 rfl rfl)
theorem dX1_reset_15 : decode cX1_reset 15 = .ok (.iload_n 3, 1) := dk_29 (dk_at dksX1_reset_0 15 rfl rfl)
theorem dX1_reset_16 : decode cX1_reset 16 = .ok (.iconst 0, 1) := dk_3 (dk_at dksX1_reset_0 16 rfl rfl)
theorem dX1_reset_17 : decode cX1_reset 17 = .ok (.bipush 50, 2) := dk_16 50 (dk_at dksX1_reset_0 17 rfl rfl)
theorem dX1_reset_19 : decode cX1_reset 19 = .ok (.invokestatic 68, 3) := dk_184 0 68 (dk_at dksX1_reset_0 19 rfl rfl)
theorem dX1_reset_22 : decode cX1_reset 22 = .ok (.ifCond .ne 5, 3) := dk_154 0 5 (dk_at dksX1_reset_1 0 rfl rfl)
theorem dX1_reset_25 : decode cX1_reset 25 = .ok (.iconst (-1), 1) := dk_2 (dk_at dksX1_reset_1 3 rfl rfl)
theorem dX1_reset_26 : decode cX1_reset 26 = .ok (.ireturn, 1) := dk_172 (dk_at dksX1_reset_1 4 rfl rfl)
theorem dX1_reset_27 : decode cX1_reset 27 = .ok (.aload_n 0, 1) := dk_42 (dk_at dksX1_reset_1 5 rfl rfl)
theorem dX1_reset_28 : decode cX1_reset 28 = .ok (.iload_n 1, 1) := dk_27 (dk_at dksX1_reset_1 6 rfl rfl)
theorem dX1_reset_29 : decode cX1_reset 29 = .ok (.invokevirtual 308, 3) := dk_182 1 52 (dk_at dksX1_reset_1 7 rfl rfl)
theorem dX1_reset_32 : decode cX1_reset 32 = .ok (.astore 4, 2) := dk_58 4 (dk_at dksX1_reset_1 10 rfl rfl)
theorem dX1_reset_34 : decode cX1_reset 34 = .ok (.aload 4, 2) := dk_25 4 (dk_at dksX1_reset_1 12 rfl rfl)
theorem dX1_reset_36 : decode cX1_reset 36 = .ok (.getfield 146, 3) := dk_180 0 146 (dk_at dksX1_reset_1 14 rfl rfl)
theorem dX1_reset_39 : decode cX1_reset 39 = .ok (.ifCond .ne 12, 3) := dk_154 0 12 (dk_at dksX1_reset_1 17 rfl rfl)
theorem dX1_reset_42 : decode cX1_reset 42 = .ok (.aload 4, 2) := dk_25 4 (dk_at dksX1_reset_1 20 rfl rfl)
theorem dX1_reset_44 : decode cX1_reset 44 = .ok (.iload_n 2, 1) := dk_28 (dk_at dksX1_reset_1 22 rfl rfl)
theorem dX1_reset_45 : decode cX1_reset 45 = .ok (.iconst 1, 1) := dk_4 (dk_at dksX1_reset_1 23 rfl rfl)
theorem dX1_reset_46 : decode cX1_reset 46 = .ok (.iadd, 1) := dk_96 (dk_at dksX1_reset_2 0 rfl rfl)
theorem dX1_reset_47 : decode cX1_reset 47 = .ok (.iload_n 3, 1) := dk_29 (dk_at dksX1_reset_2 1 rfl rfl)
theorem dX1_reset_48 : decode cX1_reset 48 = .ok (.invokevirtual 172, 3) := dk_182 0 172 (dk_at dksX1_reset_2 2 rfl rfl)
theorem dX1_reset_51 : decode cX1_reset 51 = .ok (.aload_n 0, 1) := dk_42 (dk_at dksX1_reset_2 5 rfl rfl)
theorem dX1_reset_52 : decode cX1_reset 52 = .ok (.iload_n 1, 1) := dk_27 (dk_at dksX1_reset_2 6 rfl rfl)
theorem dX1_reset_53 : decode cX1_reset 53 = .ok (.aload 4, 2) := dk_25 4 (dk_at dksX1_reset_2 7 rfl rfl)
theorem dX1_reset_55 : decode cX1_reset 55 = .ok (.invokevirtual 319, 3) := dk_182 1 63 (dk_at dksX1_reset_2 9 rfl rfl)
theorem dX1_reset_58 : decode cX1_reset 58 = .ok (.ireturn, 1) := dk_172 (dk_at dksX1_reset_2 12 rfl rfl)
def dkwX1_free_1 : List UInt8 := [180, 0, 146, 154, 0, 10, 45, 28, 4, 96, 182, 1, 73, 42, 27, 45, 182, 1, 63, 172]
abbrev dktX1_free_1 : List UInt8 := dkwX1_free_1 ++ []
def dkwX1_free_0 : List UInt8 := [27, 184, 1, 49, 153, 0, 11, 42, 28, 182, 1, 1, 154, 0, 5, 2, 172, 42, 27, 182, 1, 52, 78, 45]
abbrev dktX1_free_0 : List UInt8 := dkwX1_free_0 ++ dktX1_free_1
theorem dksX1_free_0 : cX1_free.data.toList.drop 0 = dktX1_free_0 := by decide +kernel
theorem dksX1_free_1 : cX1_free.data.toList.drop 24 = dktX1_free_1 := dk_seg dksX1_free_0 24 rfl rfl
theorem dX1_free_0 : decode cX1_free 0 = .ok (.iload_n 1, 1) := dk_27 (dk_at dksX1_free_0 0 rfl rfl)
theorem dX1_free_1 : decode cX1_free 1 = .ok (.invokestatic 305, 3) := dk_184 1 49 (dk_at dksX1_free_0 1 rfl rfl)
theorem dX1_free_4 : decode cX1_free 4 = .ok (.ifCond .eq 11, 3) := dk_153 0 11 (dk_at dksX1_free_0 4 rfl rfl)
theorem dX1_free_7 : decode cX1_free 7 = .ok (.aload_n 0, 1) := dk_42 (dk_at dksX1_free_0 7 rfl rfl)
theorem dX1_free_8 : decode cX1_free 8 = .ok (.iload_n 2, 1) := dk_28 (dk_at dksX1_free_0 8 rfl rfl)
theorem dX1_free_9 : decode cX1_free 9 = .ok (.invokevirtual 257, 3) := dk_182 1 1 (dk_at dksX1_free_0 9 rfl rfl)
theorem dX1_free_12 : decode cX1_free 12 = .ok (.ifCond .ne 5, 3) := dk_154 0 5 (dk_at dksX1_free_0 12 rfl rfl)
theorem dX1_free_15 : decode cX1_free 15 = .ok (.iconst (-1), 1) := dk_2 (dk_at dksX1_free_0 15 rfl rfl)
theorem dX1_free_16 : decode cX1_free 16 = .ok (.ireturn, 1) := dk_172 (dk_at dksX1_free_0 16 rfl rfl)
theorem dX1_free_17 : decode cX1_free 17 = .ok (.aload_n 0, 1) := dk_42 (dk_at dksX1_free_0 17 rfl rfl)
theorem dX1_free_18 : decode cX1_free 18 = .ok (.iload_n 1, 1) := dk_27 (dk_at dksX1_free_0 18 rfl rfl)
theorem dX1_free_19 : decode cX1_free 19 = .ok (.invokevirtual 308, 3) := dk_182 1 52 (dk_at dksX1_free_0 19 rfl rfl)
theorem dX1_free_22 : decode cX1_free 22 = .ok (.astore_n 3, 1) := dk_78 (dk_at dksX1_free_0 22 rfl rfl)
theorem dX1_free_23 : decode cX1_free 23 = .ok (.aload_n 3, 1) := dk_45 (dk_at dksX1_free_0 23 rfl rfl)
theorem dX1_free_24 : decode cX1_free 24 = .ok (.getfield 146, 3) := dk_180 0 146 (dk_at dksX1_free_1 0 rfl rfl)
theorem dX1_free_27 : decode cX1_free 27 = .ok (.ifCond .ne 10, 3) := dk_154 0 10 (dk_at dksX1_free_1 3 rfl rfl)
theorem dX1_free_30 : decode cX1_free 30 = .ok (.aload_n 3, 1) := dk_45 (dk_at dksX1_free_1 6 rfl rfl)
theorem dX1_free_31 : decode cX1_free 31 = .ok (.iload_n 2, 1) := dk_28 (dk_at dksX1_free_1 7 rfl rfl)
theorem dX1_free_32 : decode cX1_free 32 = .ok (.iconst 1, 1) := dk_4 (dk_at dksX1_free_1 8 rfl rfl)
theorem dX1_free_33 : decode cX1_free 33 = .ok (.iadd, 1) := dk_96 (dk_at dksX1_free_1 9 rfl rfl)
theorem dX1_free_34 : decode cX1_free 34 = .ok (.invokevirtual 329, 3) := dk_182 1 73 (dk_at dksX1_free_1 10 rfl rfl)
theorem dX1_free_37 : decode cX1_free 37 = .ok (.aload_n 0, 1) := dk_42 (dk_at dksX1_free_1 13 rfl rfl)
theorem dX1_free_38 : decode cX1_free 38 = .ok (.iload_n 1, 1) := dk_27 (dk_at dksX1_free_1 14 rfl rfl)
theorem dX1_free_39 : decode cX1_free 39 = .ok (.aload_n 3, 1) := dk_45 (dk_at dksX1_free_1 15 rfl rfl)
theorem dX1_free_40 : decode cX1_free 40 = .ok (.invokevirtual 319, 3) := dk_182 1 63 (dk_at dksX1_free_1 16 rfl rfl)
theorem dX1_free_43 : decode cX1_free 43 = .ok (.ireturn, 1) := dk_172 (dk_at dksX1_free_1 19 rfl rfl)
def dkwX1_copy_1 : List UInt8 := [182, 1, 63, 172]
abbrev dktX1_copy_1 : List UInt8 := dkwX1_copy_1 ++ []
def dkwX1_copy_0 : List UInt8 := [27, 184, 1, 49, 153, 0, 10, 28, 184, 1, 49, 154, 0, 5, 2, 172, 42, 27, 42, 28, 182, 1, 52]
abbrev dktX1_copy_0 : List UInt8 := dkwX1_copy_0 ++ dktX1_copy_1
theorem dksX1_copy_0 : cX1_copy.data.toList.drop 0 = dktX1_copy_0 := by decide +kernel
theorem dksX1_copy_1 : cX1_copy.data.toList.drop 23 = dktX1_copy_1 := dk_seg dksX1_copy_0 23 rfl rfl
theorem dX1_copy_0 : decode cX1_copy 0 = .ok (.iload_n 1, 1) := dk_27 (dk_at dksX1_copy_0 0 rfl rfl)
theorem dX1_copy_1 : decode cX1_copy 1 = .ok (.invokestatic 305, 3) := dk_184 1 49 (dk_at dksX1_copy_0 1 rfl rfl)
theorem dX1_copy_4 : decode cX1_copy 4 = .ok (.ifCond .eq 10, 3) := dk_153 0 10 (dk_at dksX1_copy_0 4 rfl rfl)
theorem dX1_copy_7 : decode cX1_copy 7 = .ok (.iload_n 2, 1) := dk_28 (dk_at dksX1_copy_0 7 rfl rfl)
theorem dX1_copy_8 : decode cX1_copy 8 = .ok (.invokestatic 305, 3) := dk_184 1 49 (dk_at dksX1_copy_0 8 rfl rfl)
theorem dX1_copy_11 : decode cX1_copy 11 = .ok (.ifCond .ne 5, 3) := dk_154 0 5 (dk_at dksX1_copy_0 11 rfl rfl)
theorem dX1_copy_14 : decode cX1_copy 14 = .ok (.iconst (-1), 1) := dk_2 (dk_at dksX1_copy_0 14 rfl rfl)
theorem dX1_copy_15 : decode cX1_copy 15 = .ok (.ireturn, 1) := dk_172 (dk_at dksX1_copy_0 15 rfl rfl)
theorem dX1_copy_16 : decode cX1_copy 16 = .ok (.aload_n 0, 1) := dk_42 (dk_at dksX1_copy_0 16 rfl rfl)
theorem dX1_copy_17 : decode cX1_copy 17 = .ok (.iload_n 1, 1) := dk_27 (dk_at dksX1_copy_0 17 rfl rfl)
theorem dX1_copy_18 : decode cX1_copy 18 = .ok (.aload_n 0, 1) := dk_42 (dk_at dksX1_copy_0 18 rfl rfl)
theorem dX1_copy_19 : decode cX1_copy 19 = .ok (.iload_n 2, 1) := dk_28 (dk_at dksX1_copy_0 19 rfl rfl)
theorem dX1_copy_20 : decode cX1_copy 20 = .ok (.invokevirtual 308, 3) := dk_182 1 52 (dk_at dksX1_copy_0 20 rfl rfl)
theorem dX1_copy_23 : decode cX1_copy 23 = .ok (.invokevirtual 319, 3) := dk_182 1 63 (dk_at dksX1_copy_1 0 rfl rfl)
theorem dX1_copy_26 : decode cX1_copy 26 = .ok (.ireturn, 1) := dk_172 (dk_at dksX1_copy_1 3 rfl rfl)
def dkwX1_join_1 : List UInt8 := [180, 0, 45, 28, 50, 182, 1, 76, 42, 27, 45, 182, 1, 63, 172]
abbrev dktX1_join_1 : List UInt8 := dkwX1_join_1 ++ []
def dkwX1_join_0 : List UInt8 := [27, 184, 1, 49, 153, 0, 10, 28, 184, 1, 49, 154, 0, 5, 2, 172, 42, 27, 182, 1, 52, 78, 45, 42]
abbrev dktX1_join_0 : List UInt8 := dkwX1_join_0 ++ dktX1_join_1
theorem dksX1_join_0 : cX1_join.data.toList.drop 0 = dktX1_join_0 := by decide +kernel
theorem dksX1_join_1 : cX1_join.data.toList.drop 24 = dktX1_join_1 := dk_seg dksX1_join_0 24 rfl rfl
theorem dX1_join_0 : decode cX1_join 0 = .ok (.iload_n 1, 1) := dk_27 (dk_at dksX1_join_0 0 rfl rfl)
theorem dX1_join_1 : decode cX1_join 1 = .ok (.invokestatic 305, 3) := dk_184 1 49 (dk_at dksX1_join_0 1 rfl rfl)
theorem dX1_join_4 : decode cX1_join 4 = .ok (.ifCond .eq 10, 3) := dk_153 0 10 (dk_at dksX1_join_0 4 rfl rfl)
theorem dX1_join_7 : decode cX1_join 7 = .ok (.iload_n 2, 1) := dk_28 (dk_at dksX1_join_0 7 rfl rfl)
theorem dX1_join_8 : decode cX1_join 8 = .ok (.invokestatic 305, 3) := dk_184 1 49 (dk_at dksX1_join_0 8 rfl rfl)
theorem dX1_join_11 : decode cX1_join 11 = .ok (.ifCond .ne 5, 3) := dk_154 0 5 (dk_at dksX1_join_0 11 rfl rfl)
theorem dX1_join_14 : decode cX1_join 14 = .ok (.iconst (-1), 1) := dk_2 (dk_at dksX1_join_0 14 rfl rfl)
theorem dX1_join_15 : decode cX1_join 15 = .ok (.ireturn, 1) := dk_172 (dk_at dksX1_join_0 15 rfl rfl)
theorem dX1_join_16 : decode cX1_join 16 = .ok (.aload_n 0, 1) := dk_42 (dk_at dksX1_join_0 16 rfl rfl)
theorem dX1_join_17 : decode cX1_join 17 = .ok (.iload_n 1, 1) := dk_27 (dk_at dksX1_join_0 17 rfl rfl)
theorem dX1_join_18 : decode cX1_join 18 = .ok (.invokevirtual 308, 3) := dk_182 1 52 (dk_at dksX1_join_0 18 rfl rfl)
theorem dX1_join_21 : decode cX1_join 21 = .ok (.astore_n 3, 1) := dk_78 (dk_at dksX1_join_0 21 rfl rfl)
theorem dX1_join_22 : decode cX1_join 22 = .ok (.aload_n 3, 1) := dk_45 (dk_at dksX1_join_0 22 rfl rfl)
theorem dX1_join_23 : decode cX1_join 23 = .ok (.aload_n 0, 1) := dk_42 (dk_at dksX1_join_0 23 rfl rfl)
theorem dX1_join_24 : decode cX1_join 24 = .ok (.getfield 45, 3) := dk_180 0 45 (dk_at dksX1_join_1 0 rfl rfl)
theorem dX1_join_27 : decode cX1_join 27 = .ok (.iload_n 2, 1) := dk_28 (dk_at dksX1_join_1 3 rfl rfl)
theorem dX1_join_28 : decode cX1_join 28 = .ok (.aaload, 1) := dk_50 (dk_at dksX1_join_1 4 rfl rfl)
theorem dX1_join_29 : decode cX1_join 29 = .ok (.invokevirtual 332, 3) := dk_182 1 76 (dk_at dksX1_join_1 5 rfl rfl)
theorem dX1_join_32 : decode cX1_join 32 = .ok (.aload_n 0, 1) := dk_42 (dk_at dksX1_join_1 8 rfl rfl)
theorem dX1_join_33 : decode cX1_join 33 = .ok (.iload_n 1, 1) := dk_27 (dk_at dksX1_join_1 9 rfl rfl)
theorem dX1_join_34 : decode cX1_join 34 = .ok (.aload_n 3, 1) := dk_45 (dk_at dksX1_join_1 10 rfl rfl)
theorem dX1_join_35 : decode cX1_join 35 = .ok (.invokevirtual 319, 3) := dk_182 1 63 (dk_at dksX1_join_1 11 rfl rfl)
theorem dX1_join_38 : decode cX1_join 38 = .ok (.ireturn, 1) := dk_172 (dk_at dksX1_join_1 14 rfl rfl)
def dkwX1_both_1 : List UInt8 := [180, 0, 45, 28, 50, 182, 1, 79, 42, 27, 45, 182, 1, 63, 172]
abbrev dktX1_both_1 : List UInt8 := dkwX1_both_1 ++ []
def dkwX1_both_0 : List UInt8 := [27, 184, 1, 49, 153, 0, 10, 28, 184, 1, 49, 154, 0, 5, 2, 172, 42, 27, 182, 1, 52, 78, 45, 42]
abbrev dktX1_both_0 : List UInt8 := dkwX1_both_0 ++ dktX1_both_1
theorem dksX1_both_0 : cX1_both.data.toList.drop 0 = dktX1_both_0 := by decide +kernel
theorem dksX1_both_1 : cX1_both.data.toList.drop 24 = dktX1_both_1 := dk_seg dksX1_both_0 24 rfl rfl
theorem dX1_both_0 : decode cX1_both 0 = .ok (.iload_n 1, 1) := dk_27 (dk_at dksX1_both_0 0 rfl rfl)
theorem dX1_both_1 : decode cX1_both 1 = .ok (.invokestatic 305, 3) := dk_184 1 49 (dk_at dksX1_both_0 1 rfl rfl)
theorem dX1_both_4 : decode cX1_both 4 = .ok (.ifCond .eq 10, 3) := dk_153 0 10 (dk_at dksX1_both_0 4 rfl rfl)
theorem dX1_both_7 : decode cX1_both 7 = .ok (.iload_n 2, 1) := dk_28 (dk_at dksX1_both_0 7 rfl rfl)
theorem dX1_both_8 : decode cX1_both 8 = .ok (.invokestatic 305, 3) := dk_184 1 49 (dk_at dksX1_both_0 8 rfl rfl)
theorem dX1_both_11 : decode cX1_both 11 = .ok (.ifCond .ne 5, 3) := dk_154 0 5 (dk_at dksX1_both_0 11 rfl rfl)
theorem dX1_both_14 : decode cX1_both 14 = .ok (.iconst (-1), 1) := dk_2 (dk_at dksX1_both_0 14 rfl rfl)
theorem dX1_both_15 : decode cX1_both 15 = .ok (.ireturn, 1) := dk_172 (dk_at dksX1_both_0 15 rfl rfl)
theorem dX1_both_16 : decode cX1_both 16 = .ok (.aload_n 0, 1) := dk_42 (dk_at dksX1_both_0 16 rfl rfl)
theorem dX1_both_17 : decode cX1_both 17 = .ok (.iload_n 1, 1) := dk_27 (dk_at dksX1_both_0 17 rfl rfl)
theorem dX1_both_18 : decode cX1_both 18 = .ok (.invokevirtual 308, 3) := dk_182 1 52 (dk_at dksX1_both_0 18 rfl rfl)
theorem dX1_both_21 : decode cX1_both 21 = .ok (.astore_n 3, 1) := dk_78 (dk_at dksX1_both_0 21 rfl rfl)
theorem dX1_both_22 : decode cX1_both 22 = .ok (.aload_n 3, 1) := dk_45 (dk_at dksX1_both_0 22 rfl rfl)
theorem dX1_both_23 : decode cX1_both 23 = .ok (.aload_n 0, 1) := dk_42 (dk_at dksX1_both_0 23 rfl rfl)
theorem dX1_both_24 : decode cX1_both 24 = .ok (.getfield 45, 3) := dk_180 0 45 (dk_at dksX1_both_1 0 rfl rfl)
theorem dX1_both_27 : decode cX1_both 27 = .ok (.iload_n 2, 1) := dk_28 (dk_at dksX1_both_1 3 rfl rfl)
theorem dX1_both_28 : decode cX1_both 28 = .ok (.aaload, 1) := dk_50 (dk_at dksX1_both_1 4 rfl rfl)
theorem dX1_both_29 : decode cX1_both 29 = .ok (.invokevirtual 335, 3) := dk_182 1 79 (dk_at dksX1_both_1 5 rfl rfl)
theorem dX1_both_32 : decode cX1_both 32 = .ok (.aload_n 0, 1) := dk_42 (dk_at dksX1_both_1 8 rfl rfl)
theorem dX1_both_33 : decode cX1_both 33 = .ok (.iload_n 1, 1) := dk_27 (dk_at dksX1_both_1 9 rfl rfl)
theorem dX1_both_34 : decode cX1_both 34 = .ok (.aload_n 3, 1) := dk_45 (dk_at dksX1_both_1 10 rfl rfl)
theorem dX1_both_35 : decode cX1_both 35 = .ok (.invokevirtual 319, 3) := dk_182 1 63 (dk_at dksX1_both_1 11 rfl rfl)
theorem dX1_both_38 : decode cX1_both 38 = .ok (.ireturn, 1) := dk_172 (dk_at dksX1_both_1 14 rfl rfl)
def dkwX1_step_2 : List UInt8 := [172]
abbrev dktX1_step_2 : List UInt8 := dkwX1_step_2 ++ []
def dkwX1_step_1 : List UInt8 := [45, 42, 180, 0, 26, 180, 0, 212, 28, 182, 0, 153, 192, 0, 165, 182, 0, 221, 42, 27, 45, 182, 1, 63]
abbrev dktX1_step_1 : List UInt8 := dkwX1_step_1 ++ dktX1_step_2
def dkwX1_step_0 : List UInt8 := [27, 184, 1, 49, 153, 0, 11, 42, 28, 182, 1, 17, 154, 0, 5, 2, 172, 42, 27, 182, 1, 52, 78, 42]
abbrev dktX1_step_0 : List UInt8 := dkwX1_step_0 ++ dktX1_step_1
theorem dksX1_step_0 : cX1_step.data.toList.drop 0 = dktX1_step_0 := by decide +kernel
theorem dksX1_step_1 : cX1_step.data.toList.drop 24 = dktX1_step_1 := dk_seg dksX1_step_0 24 rfl rfl
theorem dksX1_step_2 : cX1_step.data.toList.drop 48 = dktX1_step_2 := dk_seg dksX1_step_1 24 rfl rfl
theorem dX1_step_0 : decode cX1_step 0 = .ok (.iload_n 1, 1) := dk_27 (dk_at dksX1_step_0 0 rfl rfl)
theorem dX1_step_1 : decode cX1_step 1 = .ok (.invokestatic 305, 3) := dk_184 1 49 (dk_at dksX1_step_0 1 rfl rfl)
theorem dX1_step_4 : decode cX1_step 4 = .ok (.ifCond .eq 11, 3) := dk_153 0 11 (dk_at dksX1_step_0 4 rfl rfl)
theorem dX1_step_7 : decode cX1_step 7 = .ok (.aload_n 0, 1) := dk_42 (dk_at dksX1_step_0 7 rfl rfl)
theorem dX1_step_8 : decode cX1_step 8 = .ok (.iload_n 2, 1) := dk_28 (dk_at dksX1_step_0 8 rfl rfl)
theorem dX1_step_9 : decode cX1_step 9 = .ok (.invokevirtual 273, 3) := dk_182 1 17 (dk_at dksX1_step_0 9 rfl rfl)
theorem dX1_step_12 : decode cX1_step 12 = .ok (.ifCond .ne 5, 3) := dk_154 0 5 (dk_at dksX1_step_0 12 rfl rfl)
theorem dX1_step_15 : decode cX1_step 15 = .ok (.iconst (-1), 1) := dk_2 (dk_at dksX1_step_0 15 rfl rfl)
theorem dX1_step_16 : decode cX1_step 16 = .ok (.ireturn, 1) := dk_172 (dk_at dksX1_step_0 16 rfl rfl)
theorem dX1_step_17 : decode cX1_step 17 = .ok (.aload_n 0, 1) := dk_42 (dk_at dksX1_step_0 17 rfl rfl)
theorem dX1_step_18 : decode cX1_step 18 = .ok (.iload_n 1, 1) := dk_27 (dk_at dksX1_step_0 18 rfl rfl)
theorem dX1_step_19 : decode cX1_step 19 = .ok (.invokevirtual 308, 3) := dk_182 1 52 (dk_at dksX1_step_0 19 rfl rfl)
theorem dX1_step_22 : decode cX1_step 22 = .ok (.astore_n 3, 1) := dk_78 (dk_at dksX1_step_0 22 rfl rfl)
theorem dX1_step_23 : decode cX1_step 23 = .ok (.aload_n 0, 1) := dk_42 (dk_at dksX1_step_0 23 rfl rfl)
theorem dX1_step_24 : decode cX1_step 24 = .ok (.aload_n 3, 1) := dk_45 (dk_at dksX1_step_1 0 rfl rfl)
theorem dX1_step_25 : decode cX1_step 25 = .ok (.aload_n 0, 1) := dk_42 (dk_at dksX1_step_1 1 rfl rfl)
theorem dX1_step_26 : decode cX1_step 26 = .ok (.getfield 26, 3) := dk_180 0 26 (dk_at dksX1_step_1 2 rfl rfl)
theorem dX1_step_29 : decode cX1_step 29 = .ok (.getfield 212, 3) := dk_180 0 212 (dk_at dksX1_step_1 5 rfl rfl)
theorem dX1_step_32 : decode cX1_step 32 = .ok (.iload_n 2, 1) := dk_28 (dk_at dksX1_step_1 8 rfl rfl)
theorem dX1_step_33 : decode cX1_step 33 = .ok (.invokevirtual 153, 3) := dk_182 0 153 (dk_at dksX1_step_1 9 rfl rfl)
theorem dX1_step_36 : decode cX1_step 36 = .ok (.checkcast 165, 3) := dk_192 0 165 (dk_at dksX1_step_1 12 rfl rfl)
theorem dX1_step_39 : decode cX1_step 39 = .ok (.invokevirtual 221, 3) := dk_182 0 221 (dk_at dksX1_step_1 15 rfl rfl)
theorem dX1_step_42 : decode cX1_step 42 = .ok (.aload_n 0, 1) := dk_42 (dk_at dksX1_step_1 18 rfl rfl)
theorem dX1_step_43 : decode cX1_step 43 = .ok (.iload_n 1, 1) := dk_27 (dk_at dksX1_step_1 19 rfl rfl)
theorem dX1_step_44 : decode cX1_step 44 = .ok (.aload_n 3, 1) := dk_45 (dk_at dksX1_step_1 20 rfl rfl)
theorem dX1_step_45 : decode cX1_step 45 = .ok (.invokevirtual 319, 3) := dk_182 1 63 (dk_at dksX1_step_1 21 rfl rfl)
theorem dX1_step_48 : decode cX1_step 48 = .ok (.ireturn, 1) := dk_172 (dk_at dksX1_step_2 0 rfl rfl)
def dkwX1_stay_1 : List UInt8 := [45, 28, 182, 0, 178, 42, 27, 45, 182, 1, 63, 172]
abbrev dktX1_stay_1 : List UInt8 := dkwX1_stay_1 ++ []
def dkwX1_stay_0 : List UInt8 := [27, 184, 1, 49, 153, 0, 11, 42, 28, 182, 1, 8, 154, 0, 5, 2, 172, 42, 27, 182, 1, 52, 78, 42]
abbrev dktX1_stay_0 : List UInt8 := dkwX1_stay_0 ++ dktX1_stay_1
theorem dksX1_stay_0 : cX1_stay.data.toList.drop 0 = dktX1_stay_0 := by decide +kernel
theorem dksX1_stay_1 : cX1_stay.data.toList.drop 24 = dktX1_stay_1 := dk_seg dksX1_stay_0 24 rfl rfl
theorem dX1_stay_0 : decode cX1_stay 0 = .ok (.iload_n 1, 1) := dk_27 (dk_at dksX1_stay_0 0 rfl rfl)
theorem dX1_stay_1 : decode cX1_stay 1 = .ok (.invokestatic 305, 3) := dk_184 1 49 (dk_at dksX1_stay_0 1 rfl rfl)
theorem dX1_stay_4 : decode cX1_stay 4 = .ok (.ifCond .eq 11, 3) := dk_153 0 11 (dk_at dksX1_stay_0 4 rfl rfl)
theorem dX1_stay_7 : decode cX1_stay 7 = .ok (.aload_n 0, 1) := dk_42 (dk_at dksX1_stay_0 7 rfl rfl)
theorem dX1_stay_8 : decode cX1_stay 8 = .ok (.iload_n 2, 1) := dk_28 (dk_at dksX1_stay_0 8 rfl rfl)
theorem dX1_stay_9 : decode cX1_stay 9 = .ok (.invokevirtual 264, 3) := dk_182 1 8 (dk_at dksX1_stay_0 9 rfl rfl)
theorem dX1_stay_12 : decode cX1_stay 12 = .ok (.ifCond .ne 5, 3) := dk_154 0 5 (dk_at dksX1_stay_0 12 rfl rfl)
theorem dX1_stay_15 : decode cX1_stay 15 = .ok (.iconst (-1), 1) := dk_2 (dk_at dksX1_stay_0 15 rfl rfl)
theorem dX1_stay_16 : decode cX1_stay 16 = .ok (.ireturn, 1) := dk_172 (dk_at dksX1_stay_0 16 rfl rfl)
theorem dX1_stay_17 : decode cX1_stay 17 = .ok (.aload_n 0, 1) := dk_42 (dk_at dksX1_stay_0 17 rfl rfl)
theorem dX1_stay_18 : decode cX1_stay 18 = .ok (.iload_n 1, 1) := dk_27 (dk_at dksX1_stay_0 18 rfl rfl)
theorem dX1_stay_19 : decode cX1_stay 19 = .ok (.invokevirtual 308, 3) := dk_182 1 52 (dk_at dksX1_stay_0 19 rfl rfl)
theorem dX1_stay_22 : decode cX1_stay 22 = .ok (.astore_n 3, 1) := dk_78 (dk_at dksX1_stay_0 22 rfl rfl)
theorem dX1_stay_23 : decode cX1_stay 23 = .ok (.aload_n 0, 1) := dk_42 (dk_at dksX1_stay_0 23 rfl rfl)
theorem dX1_stay_24 : decode cX1_stay 24 = .ok (.aload_n 3, 1) := dk_45 (dk_at dksX1_stay_1 0 rfl rfl)
theorem dX1_stay_25 : decode cX1_stay 25 = .ok (.iload_n 2, 1) := dk_28 (dk_at dksX1_stay_1 1 rfl rfl)
theorem dX1_stay_26 : decode cX1_stay 26 = .ok (.invokevirtual 178, 3) := dk_182 0 178 (dk_at dksX1_stay_1 2 rfl rfl)
theorem dX1_stay_29 : decode cX1_stay 29 = .ok (.aload_n 0, 1) := dk_42 (dk_at dksX1_stay_1 5 rfl rfl)
theorem dX1_stay_30 : decode cX1_stay 30 = .ok (.iload_n 1, 1) := dk_27 (dk_at dksX1_stay_1 6 rfl rfl)
theorem dX1_stay_31 : decode cX1_stay 31 = .ok (.aload_n 3, 1) := dk_45 (dk_at dksX1_stay_1 7 rfl rfl)
theorem dX1_stay_32 : decode cX1_stay 32 = .ok (.invokevirtual 319, 3) := dk_182 1 63 (dk_at dksX1_stay_1 8 rfl rfl)
theorem dX1_stay_35 : decode cX1_stay 35 = .ok (.ireturn, 1) := dk_172 (dk_at dksX1_stay_1 11 rfl rfl)
def dkwX1_isPlace_0 : List UInt8 := [27, 3, 42, 180, 0, 26, 180, 1, 5, 182, 0, 208, 4, 100, 184, 0, 68, 172]
abbrev dktX1_isPlace_0 : List UInt8 := dkwX1_isPlace_0 ++ []
theorem dksX1_isPlace_0 : cX1_isPlace.data.toList.drop 0 = dktX1_isPlace_0 := by decide +kernel
theorem dX1_isPlace_0 : decode cX1_isPlace 0 = .ok (.iload_n 1, 1) := dk_27 (dk_at dksX1_isPlace_0 0 rfl rfl)
theorem dX1_isPlace_1 : decode cX1_isPlace 1 = .ok (.iconst 0, 1) := dk_3 (dk_at dksX1_isPlace_0 1 rfl rfl)
theorem dX1_isPlace_2 : decode cX1_isPlace 2 = .ok (.aload_n 0, 1) := dk_42 (dk_at dksX1_isPlace_0 2 rfl rfl)
theorem dX1_isPlace_3 : decode cX1_isPlace 3 = .ok (.getfield 26, 3) := dk_180 0 26 (dk_at dksX1_isPlace_0 3 rfl rfl)
theorem dX1_isPlace_6 : decode cX1_isPlace 6 = .ok (.getfield 261, 3) := dk_180 1 5 (dk_at dksX1_isPlace_0 6 rfl rfl)
theorem dX1_isPlace_9 : decode cX1_isPlace 9 = .ok (.invokevirtual 208, 3) := dk_182 0 208 (dk_at dksX1_isPlace_0 9 rfl rfl)
theorem dX1_isPlace_12 : decode cX1_isPlace 12 = .ok (.iconst 1, 1) := dk_4 (dk_at dksX1_isPlace_0 12 rfl rfl)
theorem dX1_isPlace_13 : decode cX1_isPlace 13 = .ok (.isub, 1) := dk_100 (dk_at dksX1_isPlace_0 13 rfl rfl)
theorem dX1_isPlace_14 : decode cX1_isPlace 14 = .ok (.invokestatic 68, 3) := dk_184 0 68 (dk_at dksX1_isPlace_0 14 rfl rfl)
theorem dX1_isPlace_17 : decode cX1_isPlace 17 = .ok (.ireturn, 1) := dk_172 (dk_at dksX1_isPlace_0 17 rfl rfl)
def dkwX1_rough_1 : List UInt8 := [27, 44, 182, 1, 63, 172]
abbrev dktX1_rough_1 : List UInt8 := dkwX1_rough_1 ++ []
def dkwX1_rough_0 : List UInt8 := [27, 184, 1, 49, 154, 0, 5, 2, 172, 42, 27, 182, 1, 52, 77, 44, 42, 180, 0, 30, 182, 0, 197, 42]
abbrev dktX1_rough_0 : List UInt8 := dkwX1_rough_0 ++ dktX1_rough_1
theorem dksX1_rough_0 : cX1_rough.data.toList.drop 0 = dktX1_rough_0 := by decide +kernel
theorem dksX1_rough_1 : cX1_rough.data.toList.drop 24 = dktX1_rough_1 := dk_seg dksX1_rough_0 24 rfl rfl
theorem dX1_rough_0 : decode cX1_rough 0 = .ok (.iload_n 1, 1) := dk_27 (dk_at dksX1_rough_0 0 rfl rfl)
theorem dX1_rough_1 : decode cX1_rough 1 = .ok (.invokestatic 305, 3) := dk_184 1 49 (dk_at dksX1_rough_0 1 rfl rfl)
theorem dX1_rough_4 : decode cX1_rough 4 = .ok (.ifCond .ne 5, 3) := dk_154 0 5 (dk_at dksX1_rough_0 4 rfl rfl)
theorem dX1_rough_7 : decode cX1_rough 7 = .ok (.iconst (-1), 1) := dk_2 (dk_at dksX1_rough_0 7 rfl rfl)
theorem dX1_rough_8 : decode cX1_rough 8 = .ok (.ireturn, 1) := dk_172 (dk_at dksX1_rough_0 8 rfl rfl)
theorem dX1_rough_9 : decode cX1_rough 9 = .ok (.aload_n 0, 1) := dk_42 (dk_at dksX1_rough_0 9 rfl rfl)
theorem dX1_rough_10 : decode cX1_rough 10 = .ok (.iload_n 1, 1) := dk_27 (dk_at dksX1_rough_0 10 rfl rfl)
theorem dX1_rough_11 : decode cX1_rough 11 = .ok (.invokevirtual 308, 3) := dk_182 1 52 (dk_at dksX1_rough_0 11 rfl rfl)
theorem dX1_rough_14 : decode cX1_rough 14 = .ok (.astore_n 2, 1) := dk_77 (dk_at dksX1_rough_0 14 rfl rfl)
theorem dX1_rough_15 : decode cX1_rough 15 = .ok (.aload_n 2, 1) := dk_44 (dk_at dksX1_rough_0 15 rfl rfl)
theorem dX1_rough_16 : decode cX1_rough 16 = .ok (.aload_n 0, 1) := dk_42 (dk_at dksX1_rough_0 16 rfl rfl)
theorem dX1_rough_17 : decode cX1_rough 17 = .ok (.getfield 30, 3) := dk_180 0 30 (dk_at dksX1_rough_0 17 rfl rfl)
theorem dX1_rough_20 : decode cX1_rough 20 = .ok (.invokevirtual 197, 3) := dk_182 0 197 (dk_at dksX1_rough_0 20 rfl rfl)
theorem dX1_rough_23 : decode cX1_rough 23 = .ok (.aload_n 0, 1) := dk_42 (dk_at dksX1_rough_0 23 rfl rfl)
theorem dX1_rough_24 : decode cX1_rough 24 = .ok (.iload_n 1, 1) := dk_27 (dk_at dksX1_rough_1 0 rfl rfl)
theorem dX1_rough_25 : decode cX1_rough 25 = .ok (.aload_n 2, 1) := dk_44 (dk_at dksX1_rough_1 1 rfl rfl)
theorem dX1_rough_26 : decode cX1_rough 26 = .ok (.invokevirtual 319, 3) := dk_182 1 63 (dk_at dksX1_rough_1 2 rfl rfl)
theorem dX1_rough_29 : decode cX1_rough 29 = .ok (.ireturn, 1) := dk_172 (dk_at dksX1_rough_1 5 rfl rfl)
def dkwX1_take_1 : List UInt8 := [180, 0, 37, 28, 182, 0, 153, 192, 0, 182, 180, 0, 185, 183, 0, 218, 182, 1, 63, 172]
abbrev dktX1_take_1 : List UInt8 := dkwX1_take_1 ++ []
def dkwX1_take_0 : List UInt8 := [27, 184, 1, 49, 153, 0, 11, 42, 28, 182, 1, 82, 154, 0, 5, 2, 172, 42, 27, 187, 0, 59, 89, 42]
abbrev dktX1_take_0 : List UInt8 := dkwX1_take_0 ++ dktX1_take_1
theorem dksX1_take_0 : cX1_take.data.toList.drop 0 = dktX1_take_0 := by decide +kernel
theorem dksX1_take_1 : cX1_take.data.toList.drop 24 = dktX1_take_1 := dk_seg dksX1_take_0 24 rfl rfl
theorem dX1_take_0 : decode cX1_take 0 = .ok (.iload_n 1, 1) := dk_27 (dk_at dksX1_take_0 0 rfl rfl)
theorem dX1_take_1 : decode cX1_take 1 = .ok (.invokestatic 305, 3) := dk_184 1 49 (dk_at dksX1_take_0 1 rfl rfl)
theorem dX1_take_4 : decode cX1_take 4 = .ok (.ifCond .eq 11, 3) := dk_153 0 11 (dk_at dksX1_take_0 4 rfl rfl)
theorem dX1_take_7 : decode cX1_take 7 = .ok (.aload_n 0, 1) := dk_42 (dk_at dksX1_take_0 7 rfl rfl)
theorem dX1_take_8 : decode cX1_take 8 = .ok (.iload_n 2, 1) := dk_28 (dk_at dksX1_take_0 8 rfl rfl)
theorem dX1_take_9 : decode cX1_take 9 = .ok (.invokevirtual 338, 3) := dk_182 1 82 (dk_at dksX1_take_0 9 rfl rfl)
theorem dX1_take_12 : decode cX1_take 12 = .ok (.ifCond .ne 5, 3) := dk_154 0 5 (dk_at dksX1_take_0 12 rfl rfl)
theorem dX1_take_15 : decode cX1_take 15 = .ok (.iconst (-1), 1) := dk_2 (dk_at dksX1_take_0 15 rfl rfl)
theorem dX1_take_16 : decode cX1_take 16 = .ok (.ireturn, 1) := dk_172 (dk_at dksX1_take_0 16 rfl rfl)
theorem dX1_take_17 : decode cX1_take 17 = .ok (.aload_n 0, 1) := dk_42 (dk_at dksX1_take_0 17 rfl rfl)
theorem dX1_take_18 : decode cX1_take 18 = .ok (.iload_n 1, 1) := dk_27 (dk_at dksX1_take_0 18 rfl rfl)
theorem dX1_take_19 : decode cX1_take 19 = .ok (.new 59, 3) := dk_187 0 59 (dk_at dksX1_take_0 19 rfl rfl)
theorem dX1_take_22 : decode cX1_take 22 = .ok (.dup, 1) := dk_89 (dk_at dksX1_take_0 22 rfl rfl)
theorem dX1_take_23 : decode cX1_take 23 = .ok (.aload_n 0, 1) := dk_42 (dk_at dksX1_take_0 23 rfl rfl)
theorem dX1_take_24 : decode cX1_take 24 = .ok (.getfield 37, 3) := dk_180 0 37 (dk_at dksX1_take_1 0 rfl rfl)
theorem dX1_take_27 : decode cX1_take 27 = .ok (.iload_n 2, 1) := dk_28 (dk_at dksX1_take_1 3 rfl rfl)
theorem dX1_take_28 : decode cX1_take 28 = .ok (.invokevirtual 153, 3) := dk_182 0 153 (dk_at dksX1_take_1 4 rfl rfl)
theorem dX1_take_31 : decode cX1_take 31 = .ok (.checkcast 182, 3) := dk_192 0 182 (dk_at dksX1_take_1 7 rfl rfl)
theorem dX1_take_34 : decode cX1_take 34 = .ok (.getfield 185, 3) := dk_180 0 185 (dk_at dksX1_take_1 10 rfl rfl)
theorem dX1_take_37 : decode cX1_take 37 = .ok (.invokespecial 218, 3) := dk_183 0 218 (dk_at dksX1_take_1 13 rfl rfl)
theorem dX1_take_40 : decode cX1_take 40 = .ok (.invokevirtual 319, 3) := dk_182 1 63 (dk_at dksX1_take_1 16 rfl rfl)
theorem dX1_take_43 : decode cX1_take 43 = .ok (.ireturn, 1) := dk_172 (dk_at dksX1_take_1 19 rfl rfl)
def dkwX1_isNode_0 : List UInt8 := [27, 3, 42, 180, 0, 37, 182, 0, 208, 4, 100, 184, 0, 68, 172]
abbrev dktX1_isNode_0 : List UInt8 := dkwX1_isNode_0 ++ []
theorem dksX1_isNode_0 : cX1_isNode.data.toList.drop 0 = dktX1_isNode_0 := by decide +kernel
theorem dX1_isNode_0 : decode cX1_isNode 0 = .ok (.iload_n 1, 1) := dk_27 (dk_at dksX1_isNode_0 0 rfl rfl)
theorem dX1_isNode_1 : decode cX1_isNode 1 = .ok (.iconst 0, 1) := dk_3 (dk_at dksX1_isNode_0 1 rfl rfl)
theorem dX1_isNode_2 : decode cX1_isNode 2 = .ok (.aload_n 0, 1) := dk_42 (dk_at dksX1_isNode_0 2 rfl rfl)
theorem dX1_isNode_3 : decode cX1_isNode 3 = .ok (.getfield 37, 3) := dk_180 0 37 (dk_at dksX1_isNode_0 3 rfl rfl)
theorem dX1_isNode_6 : decode cX1_isNode 6 = .ok (.invokevirtual 208, 3) := dk_182 0 208 (dk_at dksX1_isNode_0 6 rfl rfl)
theorem dX1_isNode_9 : decode cX1_isNode 9 = .ok (.iconst 1, 1) := dk_4 (dk_at dksX1_isNode_0 9 rfl rfl)
theorem dX1_isNode_10 : decode cX1_isNode 10 = .ok (.isub, 1) := dk_100 (dk_at dksX1_isNode_0 10 rfl rfl)
theorem dX1_isNode_11 : decode cX1_isNode 11 = .ok (.invokestatic 68, 3) := dk_184 0 68 (dk_at dksX1_isNode_0 11 rfl rfl)
theorem dX1_isNode_14 : decode cX1_isNode 14 = .ok (.ireturn, 1) := dk_172 (dk_at dksX1_isNode_0 14 rfl rfl)
def dkwX1_bound_2 : List UInt8 := [50, 28, 29, 21, 4, 182, 1, 89, 172]
abbrev dktX1_bound_2 : List UInt8 := dkwX1_bound_2 ++ []
def dkwX1_bound_1 : List UInt8 := [29, 159, 0, 13, 21, 4, 3, 4, 184, 0, 68, 154, 0, 7, 17, 248, 48, 172, 42, 42, 180, 0, 45, 27]
abbrev dktX1_bound_1 : List UInt8 := dkwX1_bound_1 ++ dktX1_bound_2
def dkwX1_bound_0 : List UInt8 := [27, 184, 1, 49, 153, 0, 34, 42, 28, 182, 1, 67, 153, 0, 26, 42, 29, 182, 1, 67, 153, 0, 18, 28]
abbrev dktX1_bound_0 : List UInt8 := dkwX1_bound_0 ++ dktX1_bound_1
theorem dksX1_bound_0 : cX1_bound.data.toList.drop 0 = dktX1_bound_0 := by decide +kernel
theorem dksX1_bound_1 : cX1_bound.data.toList.drop 24 = dktX1_bound_1 := dk_seg dksX1_bound_0 24 rfl rfl
theorem dksX1_bound_2 : cX1_bound.data.toList.drop 48 = dktX1_bound_2 := dk_seg dksX1_bound_1 24 rfl rfl
theorem dX1_bound_0 : decode cX1_bound 0 = .ok (.iload_n 1, 1) := dk_27 (dk_at dksX1_bound_0 0 rfl rfl)
theorem dX1_bound_1 : decode cX1_bound 1 = .ok (.invokestatic 305, 3) := dk_184 1 49 (dk_at dksX1_bound_0 1 rfl rfl)
theorem dX1_bound_4 : decode cX1_bound 4 = .ok (.ifCond .eq 34, 3) := dk_153 0 34 (dk_at dksX1_bound_0 4 rfl rfl)
theorem dX1_bound_7 : decode cX1_bound 7 = .ok (.aload_n 0, 1) := dk_42 (dk_at dksX1_bound_0 7 rfl rfl)
theorem dX1_bound_8 : decode cX1_bound 8 = .ok (.iload_n 2, 1) := dk_28 (dk_at dksX1_bound_0 8 rfl rfl)
theorem dX1_bound_9 : decode cX1_bound 9 = .ok (.invokevirtual 323, 3) := dk_182 1 67 (dk_at dksX1_bound_0 9 rfl rfl)
theorem dX1_bound_12 : decode cX1_bound 12 = .ok (.ifCond .eq 26, 3) := dk_153 0 26 (dk_at dksX1_bound_0 12 rfl rfl)
theorem dX1_bound_15 : decode cX1_bound 15 = .ok (.aload_n 0, 1) := dk_42 (dk_at dksX1_bound_0 15 rfl rfl)
theorem dX1_bound_16 : decode cX1_bound 16 = .ok (.iload_n 3, 1) := dk_29 (dk_at dksX1_bound_0 16 rfl rfl)
theorem dX1_bound_17 : decode cX1_bound 17 = .ok (.invokevirtual 323, 3) := dk_182 1 67 (dk_at dksX1_bound_0 17 rfl rfl)
theorem dX1_bound_20 : decode cX1_bound 20 = .ok (.ifCond .eq 18, 3) := dk_153 0 18 (dk_at dksX1_bound_0 20 rfl rfl)
theorem dX1_bound_23 : decode cX1_bound 23 = .ok (.iload_n 2, 1) := dk_28 (dk_at dksX1_bound_0 23 rfl rfl)
theorem dX1_bound_24 : decode cX1_bound 24 = .ok (.iload_n 3, 1) := dk_29 (dk_at dksX1_bound_1 0 rfl rfl)
theorem dX1_bound_25 : decode cX1_bound 25 = .ok (.if_icmp .eq 13, 3) := dk_159 0 13 (dk_at dksX1_bound_1 1 rfl rfl)
theorem dX1_bound_28 : decode cX1_bound 28 = .ok (.iload 4, 2) := dk_21 4 (dk_at dksX1_bound_1 4 rfl rfl)
theorem dX1_bound_30 : decode cX1_bound 30 = .ok (.iconst 0, 1) := dk_3 (dk_at dksX1_bound_1 6 rfl rfl)
theorem dX1_bound_31 : decode cX1_bound 31 = .ok (.iconst 1, 1) := dk_4 (dk_at dksX1_bound_1 7 rfl rfl)
theorem dX1_bound_32 : decode cX1_bound 32 = .ok (.invokestatic 68, 3) := dk_184 0 68 (dk_at dksX1_bound_1 8 rfl rfl)
theorem dX1_bound_35 : decode cX1_bound 35 = .ok (.ifCond .ne 7, 3) := dk_154 0 7 (dk_at dksX1_bound_1 11 rfl rfl)
theorem dX1_bound_38 : decode cX1_bound 38 = .ok (.sipush (-2000), 3) := dk_17 248 48 (dk_at dksX1_bound_1 14 rfl rfl)
theorem dX1_bound_41 : decode cX1_bound 41 = .ok (.ireturn, 1) := dk_172 (dk_at dksX1_bound_1 17 rfl rfl)
theorem dX1_bound_42 : decode cX1_bound 42 = .ok (.aload_n 0, 1) := dk_42 (dk_at dksX1_bound_1 18 rfl rfl)
theorem dX1_bound_43 : decode cX1_bound 43 = .ok (.aload_n 0, 1) := dk_42 (dk_at dksX1_bound_1 19 rfl rfl)
theorem dX1_bound_44 : decode cX1_bound 44 = .ok (.getfield 45, 3) := dk_180 0 45 (dk_at dksX1_bound_1 20 rfl rfl)
theorem dX1_bound_47 : decode cX1_bound 47 = .ok (.iload_n 1, 1) := dk_27 (dk_at dksX1_bound_1 23 rfl rfl)
theorem dX1_bound_48 : decode cX1_bound 48 = .ok (.aaload, 1) := dk_50 (dk_at dksX1_bound_2 0 rfl rfl)
theorem dX1_bound_49 : decode cX1_bound 49 = .ok (.iload_n 2, 1) := dk_28 (dk_at dksX1_bound_2 1 rfl rfl)
theorem dX1_bound_50 : decode cX1_bound 50 = .ok (.iload_n 3, 1) := dk_29 (dk_at dksX1_bound_2 2 rfl rfl)
theorem dX1_bound_51 : decode cX1_bound 51 = .ok (.iload 4, 2) := dk_21 4 (dk_at dksX1_bound_2 3 rfl rfl)
theorem dX1_bound_53 : decode cX1_bound 53 = .ok (.invokevirtual 345, 3) := dk_182 1 89 (dk_at dksX1_bound_2 5 rfl rfl)
theorem dX1_bound_56 : decode cX1_bound 56 = .ok (.ireturn, 1) := dk_172 (dk_at dksX1_bound_2 8 rfl rfl)
def dkwX1_boundOf_2 : List UInt8 := [154, 0, 10, 21, 5, 4, 122, 167, 0, 7, 21, 5, 4, 126, 172]
abbrev dktX1_boundOf_2 : List UInt8 := dkwX1_boundOf_2 ++ []
def dkwX1_boundOf_1 : List UInt8 := [21, 5, 178, 0, 1, 160, 0, 16, 21, 4, 154, 0, 9, 17, 3, 232, 167, 0, 4, 3, 172, 21, 4]
abbrev dktX1_boundOf_1 : List UInt8 := dkwX1_boundOf_1 ++ dktX1_boundOf_2
def dkwX1_boundOf_0 : List UInt8 := [43, 180, 0, 146, 153, 0, 7, 17, 252, 24, 172, 43, 28, 4, 96, 29, 4, 96, 182, 1, 85, 54, 5]
abbrev dktX1_boundOf_0 : List UInt8 := dkwX1_boundOf_0 ++ dktX1_boundOf_1
theorem dksX1_boundOf_0 : cX1_boundOf.data.toList.drop 0 = dktX1_boundOf_0 := by decide +kernel
theorem dksX1_boundOf_1 : cX1_boundOf.data.toList.drop 23 = dktX1_boundOf_1 := dk_seg dksX1_boundOf_0 23 rfl rfl
theorem dksX1_boundOf_2 : cX1_boundOf.data.toList.drop 46 = dktX1_boundOf_2 := dk_seg dksX1_boundOf_1 23 rfl rfl
theorem dX1_boundOf_0 : decode cX1_boundOf 0 = .ok (.aload_n 1, 1) := dk_43 (dk_at dksX1_boundOf_0 0 rfl rfl)
theorem dX1_boundOf_1 : decode cX1_boundOf 1 = .ok (.getfield 146, 3) := dk_180 0 146 (dk_at dksX1_boundOf_0 1 rfl rfl)
theorem dX1_boundOf_4 : decode cX1_boundOf 4 = .ok (.ifCond .eq 7, 3) := dk_153 0 7 (dk_at dksX1_boundOf_0 4 rfl rfl)
theorem dX1_boundOf_7 : decode cX1_boundOf 7 = .ok (.sipush (-1000), 3) := dk_17 252 24 (dk_at dksX1_boundOf_0 7 rfl rfl)
theorem dX1_boundOf_10 : decode cX1_boundOf 10 = .ok (.ireturn, 1) := dk_172 (dk_at dksX1_boundOf_0 10 rfl rfl)
theorem dX1_boundOf_11 : decode cX1_boundOf 11 = .ok (.aload_n 1, 1) := dk_43 (dk_at dksX1_boundOf_0 11 rfl rfl)
theorem dX1_boundOf_12 : decode cX1_boundOf 12 = .ok (.iload_n 2, 1) := dk_28 (dk_at dksX1_boundOf_0 12 rfl rfl)
theorem dX1_boundOf_13 : decode cX1_boundOf 13 = .ok (.iconst 1, 1) := dk_4 (dk_at dksX1_boundOf_0 13 rfl rfl)
theorem dX1_boundOf_14 : decode cX1_boundOf 14 = .ok (.iadd, 1) := dk_96 (dk_at dksX1_boundOf_0 14 rfl rfl)
theorem dX1_boundOf_15 : decode cX1_boundOf 15 = .ok (.iload_n 3, 1) := dk_29 (dk_at dksX1_boundOf_0 15 rfl rfl)
theorem dX1_boundOf_16 : decode cX1_boundOf 16 = .ok (.iconst 1, 1) := dk_4 (dk_at dksX1_boundOf_0 16 rfl rfl)
theorem dX1_boundOf_17 : decode cX1_boundOf 17 = .ok (.iadd, 1) := dk_96 (dk_at dksX1_boundOf_0 17 rfl rfl)
theorem dX1_boundOf_18 : decode cX1_boundOf 18 = .ok (.invokevirtual 341, 3) := dk_182 1 85 (dk_at dksX1_boundOf_0 18 rfl rfl)
theorem dX1_boundOf_21 : decode cX1_boundOf 21 = .ok (.istore 5, 2) := dk_54 5 (dk_at dksX1_boundOf_0 21 rfl rfl)
theorem dX1_boundOf_23 : decode cX1_boundOf 23 = .ok (.iload 5, 2) := dk_21 5 (dk_at dksX1_boundOf_1 0 rfl rfl)
theorem dX1_boundOf_25 : decode cX1_boundOf 25 = .ok (.getstatic 1, 3) := dk_178 0 1 (dk_at dksX1_boundOf_1 2 rfl rfl)
theorem dX1_boundOf_28 : decode cX1_boundOf 28 = .ok (.if_icmp .ne 16, 3) := dk_160 0 16 (dk_at dksX1_boundOf_1 5 rfl rfl)
theorem dX1_boundOf_31 : decode cX1_boundOf 31 = .ok (.iload 4, 2) := dk_21 4 (dk_at dksX1_boundOf_1 8 rfl rfl)
theorem dX1_boundOf_33 : decode cX1_boundOf 33 = .ok (.ifCond .ne 9, 3) := dk_154 0 9 (dk_at dksX1_boundOf_1 10 rfl rfl)
theorem dX1_boundOf_36 : decode cX1_boundOf 36 = .ok (.sipush 1000, 3) := dk_17 3 232 (dk_at dksX1_boundOf_1 13 rfl rfl)
theorem dX1_boundOf_39 : decode cX1_boundOf 39 = .ok (.goto 4, 3) := dk_167 0 4 (dk_at dksX1_boundOf_1 16 rfl rfl)
theorem dX1_boundOf_42 : decode cX1_boundOf 42 = .ok (.iconst 0, 1) := dk_3 (dk_at dksX1_boundOf_1 19 rfl rfl)
theorem dX1_boundOf_43 : decode cX1_boundOf 43 = .ok (.ireturn, 1) := dk_172 (dk_at dksX1_boundOf_1 20 rfl rfl)
theorem dX1_boundOf_44 : decode cX1_boundOf 44 = .ok (.iload 4, 2) := dk_21 4 (dk_at dksX1_boundOf_1 21 rfl rfl)
theorem dX1_boundOf_46 : decode cX1_boundOf 46 = .ok (.ifCond .ne 10, 3) := dk_154 0 10 (dk_at dksX1_boundOf_2 0 rfl rfl)
theorem dX1_boundOf_49 : decode cX1_boundOf 49 = .ok (.iload 5, 2) := dk_21 5 (dk_at dksX1_boundOf_2 3 rfl rfl)
theorem dX1_boundOf_51 : decode cX1_boundOf 51 = .ok (.iconst 1, 1) := dk_4 (dk_at dksX1_boundOf_2 5 rfl rfl)
theorem dX1_boundOf_52 : decode cX1_boundOf 52 = .ok (.ishr, 1) := dk_122 (dk_at dksX1_boundOf_2 6 rfl rfl)
theorem dX1_boundOf_53 : decode cX1_boundOf 53 = .ok (.goto 7, 3) := dk_167 0 7 (dk_at dksX1_boundOf_2 7 rfl rfl)
theorem dX1_boundOf_56 : decode cX1_boundOf 56 = .ok (.iload 5, 2) := dk_21 5 (dk_at dksX1_boundOf_2 10 rfl rfl)
theorem dX1_boundOf_58 : decode cX1_boundOf 58 = .ok (.iconst 1, 1) := dk_4 (dk_at dksX1_boundOf_2 12 rfl rfl)
theorem dX1_boundOf_59 : decode cX1_boundOf 59 = .ok (.iand, 1) := dk_126 (dk_at dksX1_boundOf_2 13 rfl rfl)
theorem dX1_boundOf_60 : decode cX1_boundOf 60 = .ok (.ireturn, 1) := dk_172 (dk_at dksX1_boundOf_2 14 rfl rfl)
def dkwX1_empty_1 : List UInt8 := [167, 0, 4, 3, 172]
abbrev dktX1_empty_1 : List UInt8 := dkwX1_empty_1 ++ []
def dkwX1_empty_0 : List UInt8 := [27, 184, 1, 49, 154, 0, 7, 2, 167, 0, 20, 42, 180, 0, 45, 27, 50, 180, 0, 146, 153, 0, 7, 4]
abbrev dktX1_empty_0 : List UInt8 := dkwX1_empty_0 ++ dktX1_empty_1
theorem dksX1_empty_0 : cX1_empty.data.toList.drop 0 = dktX1_empty_0 := by decide +kernel
theorem dksX1_empty_1 : cX1_empty.data.toList.drop 24 = dktX1_empty_1 := dk_seg dksX1_empty_0 24 rfl rfl
theorem dX1_empty_0 : decode cX1_empty 0 = .ok (.iload_n 1, 1) := dk_27 (dk_at dksX1_empty_0 0 rfl rfl)
theorem dX1_empty_1 : decode cX1_empty 1 = .ok (.invokestatic 305, 3) := dk_184 1 49 (dk_at dksX1_empty_0 1 rfl rfl)
theorem dX1_empty_4 : decode cX1_empty 4 = .ok (.ifCond .ne 7, 3) := dk_154 0 7 (dk_at dksX1_empty_0 4 rfl rfl)
theorem dX1_empty_7 : decode cX1_empty 7 = .ok (.iconst (-1), 1) := dk_2 (dk_at dksX1_empty_0 7 rfl rfl)
theorem dX1_empty_8 : decode cX1_empty 8 = .ok (.goto 20, 3) := dk_167 0 20 (dk_at dksX1_empty_0 8 rfl rfl)
theorem dX1_empty_11 : decode cX1_empty 11 = .ok (.aload_n 0, 1) := dk_42 (dk_at dksX1_empty_0 11 rfl rfl)
theorem dX1_empty_12 : decode cX1_empty 12 = .ok (.getfield 45, 3) := dk_180 0 45 (dk_at dksX1_empty_0 12 rfl rfl)
theorem dX1_empty_15 : decode cX1_empty 15 = .ok (.iload_n 1, 1) := dk_27 (dk_at dksX1_empty_0 15 rfl rfl)
theorem dX1_empty_16 : decode cX1_empty 16 = .ok (.aaload, 1) := dk_50 (dk_at dksX1_empty_0 16 rfl rfl)
theorem dX1_empty_17 : decode cX1_empty 17 = .ok (.getfield 146, 3) := dk_180 0 146 (dk_at dksX1_empty_0 17 rfl rfl)
theorem dX1_empty_20 : decode cX1_empty 20 = .ok (.ifCond .eq 7, 3) := dk_153 0 7 (dk_at dksX1_empty_0 20 rfl rfl)
theorem dX1_empty_23 : decode cX1_empty 23 = .ok (.iconst 1, 1) := dk_4 (dk_at dksX1_empty_0 23 rfl rfl)
theorem dX1_empty_24 : decode cX1_empty 24 = .ok (.goto 4, 3) := dk_167 0 4 (dk_at dksX1_empty_1 0 rfl rfl)
theorem dX1_empty_27 : decode cX1_empty 27 = .ok (.iconst 0, 1) := dk_3 (dk_at dksX1_empty_1 3 rfl rfl)
theorem dX1_empty_28 : decode cX1_empty 28 = .ok (.ireturn, 1) := dk_172 (dk_at dksX1_empty_1 4 rfl rfl)
def dkwX1_within_1 : List UInt8 := [42, 180, 0, 45, 28, 50, 182, 0, 189, 153, 0, 7, 4, 167, 0, 4, 3, 172]
abbrev dktX1_within_1 : List UInt8 := dkwX1_within_1 ++ []
def dkwX1_within_0 : List UInt8 := [27, 184, 1, 49, 153, 0, 10, 28, 184, 1, 49, 154, 0, 7, 2, 167, 0, 26, 42, 180, 0, 45, 27, 50]
abbrev dktX1_within_0 : List UInt8 := dkwX1_within_0 ++ dktX1_within_1
theorem dksX1_within_0 : cX1_within.data.toList.drop 0 = dktX1_within_0 := by decide +kernel
theorem dksX1_within_1 : cX1_within.data.toList.drop 24 = dktX1_within_1 := dk_seg dksX1_within_0 24 rfl rfl
theorem dX1_within_0 : decode cX1_within 0 = .ok (.iload_n 1, 1) := dk_27 (dk_at dksX1_within_0 0 rfl rfl)
theorem dX1_within_1 : decode cX1_within 1 = .ok (.invokestatic 305, 3) := dk_184 1 49 (dk_at dksX1_within_0 1 rfl rfl)
theorem dX1_within_4 : decode cX1_within 4 = .ok (.ifCond .eq 10, 3) := dk_153 0 10 (dk_at dksX1_within_0 4 rfl rfl)
theorem dX1_within_7 : decode cX1_within 7 = .ok (.iload_n 2, 1) := dk_28 (dk_at dksX1_within_0 7 rfl rfl)
theorem dX1_within_8 : decode cX1_within 8 = .ok (.invokestatic 305, 3) := dk_184 1 49 (dk_at dksX1_within_0 8 rfl rfl)
theorem dX1_within_11 : decode cX1_within 11 = .ok (.ifCond .ne 7, 3) := dk_154 0 7 (dk_at dksX1_within_0 11 rfl rfl)
theorem dX1_within_14 : decode cX1_within 14 = .ok (.iconst (-1), 1) := dk_2 (dk_at dksX1_within_0 14 rfl rfl)
theorem dX1_within_15 : decode cX1_within 15 = .ok (.goto 26, 3) := dk_167 0 26 (dk_at dksX1_within_0 15 rfl rfl)
theorem dX1_within_18 : decode cX1_within 18 = .ok (.aload_n 0, 1) := dk_42 (dk_at dksX1_within_0 18 rfl rfl)
theorem dX1_within_19 : decode cX1_within 19 = .ok (.getfield 45, 3) := dk_180 0 45 (dk_at dksX1_within_0 19 rfl rfl)
theorem dX1_within_22 : decode cX1_within 22 = .ok (.iload_n 1, 1) := dk_27 (dk_at dksX1_within_0 22 rfl rfl)
theorem dX1_within_23 : decode cX1_within 23 = .ok (.aaload, 1) := dk_50 (dk_at dksX1_within_0 23 rfl rfl)
theorem dX1_within_24 : decode cX1_within 24 = .ok (.aload_n 0, 1) := dk_42 (dk_at dksX1_within_1 0 rfl rfl)
theorem dX1_within_25 : decode cX1_within 25 = .ok (.getfield 45, 3) := dk_180 0 45 (dk_at dksX1_within_1 1 rfl rfl)
theorem dX1_within_28 : decode cX1_within 28 = .ok (.iload_n 2, 1) := dk_28 (dk_at dksX1_within_1 4 rfl rfl)
theorem dX1_within_29 : decode cX1_within 29 = .ok (.aaload, 1) := dk_50 (dk_at dksX1_within_1 5 rfl rfl)
theorem dX1_within_30 : decode cX1_within 30 = .ok (.invokevirtual 189, 3) := dk_182 0 189 (dk_at dksX1_within_1 6 rfl rfl)
theorem dX1_within_33 : decode cX1_within 33 = .ok (.ifCond .eq 7, 3) := dk_153 0 7 (dk_at dksX1_within_1 9 rfl rfl)
theorem dX1_within_36 : decode cX1_within 36 = .ok (.iconst 1, 1) := dk_4 (dk_at dksX1_within_1 12 rfl rfl)
theorem dX1_within_37 : decode cX1_within 37 = .ok (.goto 4, 3) := dk_167 0 4 (dk_at dksX1_within_1 13 rfl rfl)
theorem dX1_within_40 : decode cX1_within 40 = .ok (.iconst 0, 1) := dk_3 (dk_at dksX1_within_1 16 rfl rfl)
theorem dX1_within_41 : decode cX1_within 41 = .ok (.ireturn, 1) := dk_172 (dk_at dksX1_within_1 17 rfl rfl)
def dkwX1_has_2 : List UInt8 := [5, 21, 4, 79, 89, 6, 21, 5, 79, 182, 1, 93, 153, 0, 7, 4, 167, 0, 4, 3, 172]
abbrev dktX1_has_2 : List UInt8 := dkwX1_has_2 ++ []
def dkwX1_has_1 : List UInt8 := [156, 0, 5, 2, 172, 42, 180, 0, 45, 27, 50, 5, 7, 188, 10, 89, 3, 28, 79, 89, 4, 29, 79, 89]
abbrev dktX1_has_1 : List UInt8 := dkwX1_has_1 ++ dktX1_has_2
def dkwX1_has_0 : List UInt8 := [27, 184, 1, 49, 153, 0, 21, 28, 155, 0, 17, 29, 155, 0, 13, 21, 4, 155, 0, 8, 21, 5]
abbrev dktX1_has_0 : List UInt8 := dkwX1_has_0 ++ dktX1_has_1
theorem dksX1_has_0 : cX1_has.data.toList.drop 0 = dktX1_has_0 := by decide +kernel
theorem dksX1_has_1 : cX1_has.data.toList.drop 22 = dktX1_has_1 := dk_seg dksX1_has_0 22 rfl rfl
theorem dksX1_has_2 : cX1_has.data.toList.drop 46 = dktX1_has_2 := dk_seg dksX1_has_1 24 rfl rfl
theorem dX1_has_0 : decode cX1_has 0 = .ok (.iload_n 1, 1) := dk_27 (dk_at dksX1_has_0 0 rfl rfl)
theorem dX1_has_1 : decode cX1_has 1 = .ok (.invokestatic 305, 3) := dk_184 1 49 (dk_at dksX1_has_0 1 rfl rfl)
theorem dX1_has_4 : decode cX1_has 4 = .ok (.ifCond .eq 21, 3) := dk_153 0 21 (dk_at dksX1_has_0 4 rfl rfl)
theorem dX1_has_7 : decode cX1_has 7 = .ok (.iload_n 2, 1) := dk_28 (dk_at dksX1_has_0 7 rfl rfl)
theorem dX1_has_8 : decode cX1_has 8 = .ok (.ifCond .lt 17, 3) := dk_155 0 17 (dk_at dksX1_has_0 8 rfl rfl)
theorem dX1_has_11 : decode cX1_has 11 = .ok (.iload_n 3, 1) := dk_29 (dk_at dksX1_has_0 11 rfl rfl)
theorem dX1_has_12 : decode cX1_has 12 = .ok (.ifCond .lt 13, 3) := dk_155 0 13 (dk_at dksX1_has_0 12 rfl rfl)
theorem dX1_has_15 : decode cX1_has 15 = .ok (.iload 4, 2) := dk_21 4 (dk_at dksX1_has_0 15 rfl rfl)
theorem dX1_has_17 : decode cX1_has 17 = .ok (.ifCond .lt 8, 3) := dk_155 0 8 (dk_at dksX1_has_0 17 rfl rfl)
theorem dX1_has_20 : decode cX1_has 20 = .ok (.iload 5, 2) := dk_21 5 (dk_at dksX1_has_0 20 rfl rfl)
theorem dX1_has_22 : decode cX1_has 22 = .ok (.ifCond .ge 5, 3) := dk_156 0 5 (dk_at dksX1_has_1 0 rfl rfl)
theorem dX1_has_25 : decode cX1_has 25 = .ok (.iconst (-1), 1) := dk_2 (dk_at dksX1_has_1 3 rfl rfl)
theorem dX1_has_26 : decode cX1_has 26 = .ok (.ireturn, 1) := dk_172 (dk_at dksX1_has_1 4 rfl rfl)
theorem dX1_has_27 : decode cX1_has 27 = .ok (.aload_n 0, 1) := dk_42 (dk_at dksX1_has_1 5 rfl rfl)
theorem dX1_has_28 : decode cX1_has 28 = .ok (.getfield 45, 3) := dk_180 0 45 (dk_at dksX1_has_1 6 rfl rfl)
theorem dX1_has_31 : decode cX1_has 31 = .ok (.iload_n 1, 1) := dk_27 (dk_at dksX1_has_1 9 rfl rfl)
theorem dX1_has_32 : decode cX1_has 32 = .ok (.aaload, 1) := dk_50 (dk_at dksX1_has_1 10 rfl rfl)
theorem dX1_has_33 : decode cX1_has 33 = .ok (.iconst 2, 1) := dk_5 (dk_at dksX1_has_1 11 rfl rfl)
theorem dX1_has_34 : decode cX1_has 34 = .ok (.iconst 4, 1) := dk_7 (dk_at dksX1_has_1 12 rfl rfl)
theorem dX1_has_35 : decode cX1_has 35 = .ok (.newarray .int, 2) := dk_188_10 (dk_at dksX1_has_1 13 rfl rfl)
theorem dX1_has_37 : decode cX1_has 37 = .ok (.dup, 1) := dk_89 (dk_at dksX1_has_1 15 rfl rfl)
theorem dX1_has_38 : decode cX1_has 38 = .ok (.iconst 0, 1) := dk_3 (dk_at dksX1_has_1 16 rfl rfl)
theorem dX1_has_39 : decode cX1_has 39 = .ok (.iload_n 2, 1) := dk_28 (dk_at dksX1_has_1 17 rfl rfl)
theorem dX1_has_40 : decode cX1_has 40 = .ok (.iastore, 1) := dk_79 (dk_at dksX1_has_1 18 rfl rfl)
theorem dX1_has_41 : decode cX1_has 41 = .ok (.dup, 1) := dk_89 (dk_at dksX1_has_1 19 rfl rfl)
theorem dX1_has_42 : decode cX1_has 42 = .ok (.iconst 1, 1) := dk_4 (dk_at dksX1_has_1 20 rfl rfl)
theorem dX1_has_43 : decode cX1_has 43 = .ok (.iload_n 3, 1) := dk_29 (dk_at dksX1_has_1 21 rfl rfl)
theorem dX1_has_44 : decode cX1_has 44 = .ok (.iastore, 1) := dk_79 (dk_at dksX1_has_1 22 rfl rfl)
theorem dX1_has_45 : decode cX1_has 45 = .ok (.dup, 1) := dk_89 (dk_at dksX1_has_1 23 rfl rfl)
theorem dX1_has_46 : decode cX1_has 46 = .ok (.iconst 2, 1) := dk_5 (dk_at dksX1_has_2 0 rfl rfl)
theorem dX1_has_47 : decode cX1_has 47 = .ok (.iload 4, 2) := dk_21 4 (dk_at dksX1_has_2 1 rfl rfl)
theorem dX1_has_49 : decode cX1_has 49 = .ok (.iastore, 1) := dk_79 (dk_at dksX1_has_2 3 rfl rfl)
theorem dX1_has_50 : decode cX1_has 50 = .ok (.dup, 1) := dk_89 (dk_at dksX1_has_2 4 rfl rfl)
theorem dX1_has_51 : decode cX1_has 51 = .ok (.iconst 3, 1) := dk_6 (dk_at dksX1_has_2 5 rfl rfl)
theorem dX1_has_52 : decode cX1_has 52 = .ok (.iload 5, 2) := dk_21 5 (dk_at dksX1_has_2 6 rfl rfl)
theorem dX1_has_54 : decode cX1_has 54 = .ok (.iastore, 1) := dk_79 (dk_at dksX1_has_2 8 rfl rfl)
theorem dX1_has_55 : decode cX1_has 55 = .ok (.invokevirtual 349, 3) := dk_182 1 93 (dk_at dksX1_has_2 9 rfl rfl)
theorem dX1_has_58 : decode cX1_has 58 = .ok (.ifCond .eq 7, 3) := dk_153 0 7 (dk_at dksX1_has_2 12 rfl rfl)
theorem dX1_has_61 : decode cX1_has 61 = .ok (.iconst 1, 1) := dk_4 (dk_at dksX1_has_2 15 rfl rfl)
theorem dX1_has_62 : decode cX1_has 62 = .ok (.goto 4, 3) := dk_167 0 4 (dk_at dksX1_has_2 16 rfl rfl)
theorem dX1_has_65 : decode cX1_has 65 = .ok (.iconst 0, 1) := dk_3 (dk_at dksX1_has_2 19 rfl rfl)
theorem dX1_has_66 : decode cX1_has 66 = .ok (.ireturn, 1) := dk_172 (dk_at dksX1_has_2 20 rfl rfl)
def dkwX1_width_5 : List UInt8 := [122, 167, 0, 7, 21, 6, 4, 126, 172]
abbrev dktX1_width_5 : List UInt8 := dkwX1_width_5 ++ []
def dkwX1_width_4 : List UInt8 := [160, 0, 16, 21, 4, 154, 0, 9, 17, 3, 232, 167, 0, 4, 3, 172, 21, 4, 154, 0, 10, 21, 6, 4]
abbrev dktX1_width_4 : List UInt8 := dkwX1_width_4 ++ dktX1_width_5
def dkwX1_width_3 : List UInt8 := [182, 1, 85, 25, 5, 29, 4, 96, 28, 4, 96, 182, 1, 85, 184, 1, 97, 54, 6, 21, 6, 178, 0, 1]
abbrev dktX1_width_3 : List UInt8 := dkwX1_width_3 ++ dktX1_width_4
def dkwX1_width_2 : List UInt8 := [58, 5, 25, 5, 180, 0, 146, 153, 0, 7, 17, 252, 24, 172, 25, 5, 28, 4, 96, 29, 4, 96]
abbrev dktX1_width_2 : List UInt8 := dkwX1_width_2 ++ dktX1_width_3
def dkwX1_width_1 : List UInt8 := [29, 159, 0, 13, 21, 4, 3, 4, 184, 0, 68, 154, 0, 7, 17, 248, 48, 172, 42, 180, 0, 45, 27, 50]
abbrev dktX1_width_1 : List UInt8 := dkwX1_width_1 ++ dktX1_width_2
def dkwX1_width_0 : List UInt8 := [27, 184, 1, 49, 153, 0, 34, 42, 28, 182, 1, 67, 153, 0, 26, 42, 29, 182, 1, 67, 153, 0, 18, 28]
abbrev dktX1_width_0 : List UInt8 := dkwX1_width_0 ++ dktX1_width_1
theorem dksX1_width_0 : cX1_width.data.toList.drop 0 = dktX1_width_0 := by decide +kernel
theorem dksX1_width_1 : cX1_width.data.toList.drop 24 = dktX1_width_1 := dk_seg dksX1_width_0 24 rfl rfl
theorem dksX1_width_2 : cX1_width.data.toList.drop 48 = dktX1_width_2 := dk_seg dksX1_width_1 24 rfl rfl
theorem dksX1_width_3 : cX1_width.data.toList.drop 70 = dktX1_width_3 := dk_seg dksX1_width_2 22 rfl rfl
theorem dksX1_width_4 : cX1_width.data.toList.drop 94 = dktX1_width_4 := dk_seg dksX1_width_3 24 rfl rfl
theorem dksX1_width_5 : cX1_width.data.toList.drop 118 = dktX1_width_5 := dk_seg dksX1_width_4 24 rfl rfl
theorem dX1_width_0 : decode cX1_width 0 = .ok (.iload_n 1, 1) := dk_27 (dk_at dksX1_width_0 0 rfl rfl)
theorem dX1_width_1 : decode cX1_width 1 = .ok (.invokestatic 305, 3) := dk_184 1 49 (dk_at dksX1_width_0 1 rfl rfl)
theorem dX1_width_4 : decode cX1_width 4 = .ok (.ifCond .eq 34, 3) := dk_153 0 34 (dk_at dksX1_width_0 4 rfl rfl)
theorem dX1_width_7 : decode cX1_width 7 = .ok (.aload_n 0, 1) := dk_42 (dk_at dksX1_width_0 7 rfl rfl)
theorem dX1_width_8 : decode cX1_width 8 = .ok (.iload_n 2, 1) := dk_28 (dk_at dksX1_width_0 8 rfl rfl)
theorem dX1_width_9 : decode cX1_width 9 = .ok (.invokevirtual 323, 3) := dk_182 1 67 (dk_at dksX1_width_0 9 rfl rfl)
theorem dX1_width_12 : decode cX1_width 12 = .ok (.ifCond .eq 26, 3) := dk_153 0 26 (dk_at dksX1_width_0 12 rfl rfl)
theorem dX1_width_15 : decode cX1_width 15 = .ok (.aload_n 0, 1) := dk_42 (dk_at dksX1_width_0 15 rfl rfl)
theorem dX1_width_16 : decode cX1_width 16 = .ok (.iload_n 3, 1) := dk_29 (dk_at dksX1_width_0 16 rfl rfl)
theorem dX1_width_17 : decode cX1_width 17 = .ok (.invokevirtual 323, 3) := dk_182 1 67 (dk_at dksX1_width_0 17 rfl rfl)
theorem dX1_width_20 : decode cX1_width 20 = .ok (.ifCond .eq 18, 3) := dk_153 0 18 (dk_at dksX1_width_0 20 rfl rfl)
theorem dX1_width_23 : decode cX1_width 23 = .ok (.iload_n 2, 1) := dk_28 (dk_at dksX1_width_0 23 rfl rfl)
theorem dX1_width_24 : decode cX1_width 24 = .ok (.iload_n 3, 1) := dk_29 (dk_at dksX1_width_1 0 rfl rfl)
theorem dX1_width_25 : decode cX1_width 25 = .ok (.if_icmp .eq 13, 3) := dk_159 0 13 (dk_at dksX1_width_1 1 rfl rfl)
theorem dX1_width_28 : decode cX1_width 28 = .ok (.iload 4, 2) := dk_21 4 (dk_at dksX1_width_1 4 rfl rfl)
theorem dX1_width_30 : decode cX1_width 30 = .ok (.iconst 0, 1) := dk_3 (dk_at dksX1_width_1 6 rfl rfl)
theorem dX1_width_31 : decode cX1_width 31 = .ok (.iconst 1, 1) := dk_4 (dk_at dksX1_width_1 7 rfl rfl)
theorem dX1_width_32 : decode cX1_width 32 = .ok (.invokestatic 68, 3) := dk_184 0 68 (dk_at dksX1_width_1 8 rfl rfl)
theorem dX1_width_35 : decode cX1_width 35 = .ok (.ifCond .ne 7, 3) := dk_154 0 7 (dk_at dksX1_width_1 11 rfl rfl)
theorem dX1_width_38 : decode cX1_width 38 = .ok (.sipush (-2000), 3) := dk_17 248 48 (dk_at dksX1_width_1 14 rfl rfl)
theorem dX1_width_41 : decode cX1_width 41 = .ok (.ireturn, 1) := dk_172 (dk_at dksX1_width_1 17 rfl rfl)
theorem dX1_width_42 : decode cX1_width 42 = .ok (.aload_n 0, 1) := dk_42 (dk_at dksX1_width_1 18 rfl rfl)
theorem dX1_width_43 : decode cX1_width 43 = .ok (.getfield 45, 3) := dk_180 0 45 (dk_at dksX1_width_1 19 rfl rfl)
theorem dX1_width_46 : decode cX1_width 46 = .ok (.iload_n 1, 1) := dk_27 (dk_at dksX1_width_1 22 rfl rfl)
theorem dX1_width_47 : decode cX1_width 47 = .ok (.aaload, 1) := dk_50 (dk_at dksX1_width_1 23 rfl rfl)
theorem dX1_width_48 : decode cX1_width 48 = .ok (.astore 5, 2) := dk_58 5 (dk_at dksX1_width_2 0 rfl rfl)
theorem dX1_width_50 : decode cX1_width 50 = .ok (.aload 5, 2) := dk_25 5 (dk_at dksX1_width_2 2 rfl rfl)
theorem dX1_width_52 : decode cX1_width 52 = .ok (.getfield 146, 3) := dk_180 0 146 (dk_at dksX1_width_2 4 rfl rfl)
theorem dX1_width_55 : decode cX1_width 55 = .ok (.ifCond .eq 7, 3) := dk_153 0 7 (dk_at dksX1_width_2 7 rfl rfl)
theorem dX1_width_58 : decode cX1_width 58 = .ok (.sipush (-1000), 3) := dk_17 252 24 (dk_at dksX1_width_2 10 rfl rfl)
theorem dX1_width_61 : decode cX1_width 61 = .ok (.ireturn, 1) := dk_172 (dk_at dksX1_width_2 13 rfl rfl)
theorem dX1_width_62 : decode cX1_width 62 = .ok (.aload 5, 2) := dk_25 5 (dk_at dksX1_width_2 14 rfl rfl)
theorem dX1_width_64 : decode cX1_width 64 = .ok (.iload_n 2, 1) := dk_28 (dk_at dksX1_width_2 16 rfl rfl)
theorem dX1_width_65 : decode cX1_width 65 = .ok (.iconst 1, 1) := dk_4 (dk_at dksX1_width_2 17 rfl rfl)
theorem dX1_width_66 : decode cX1_width 66 = .ok (.iadd, 1) := dk_96 (dk_at dksX1_width_2 18 rfl rfl)
theorem dX1_width_67 : decode cX1_width 67 = .ok (.iload_n 3, 1) := dk_29 (dk_at dksX1_width_2 19 rfl rfl)
theorem dX1_width_68 : decode cX1_width 68 = .ok (.iconst 1, 1) := dk_4 (dk_at dksX1_width_2 20 rfl rfl)
theorem dX1_width_69 : decode cX1_width 69 = .ok (.iadd, 1) := dk_96 (dk_at dksX1_width_2 21 rfl rfl)
theorem dX1_width_70 : decode cX1_width 70 = .ok (.invokevirtual 341, 3) := dk_182 1 85 (dk_at dksX1_width_3 0 rfl rfl)
theorem dX1_width_73 : decode cX1_width 73 = .ok (.aload 5, 2) := dk_25 5 (dk_at dksX1_width_3 3 rfl rfl)
theorem dX1_width_75 : decode cX1_width 75 = .ok (.iload_n 3, 1) := dk_29 (dk_at dksX1_width_3 5 rfl rfl)
theorem dX1_width_76 : decode cX1_width 76 = .ok (.iconst 1, 1) := dk_4 (dk_at dksX1_width_3 6 rfl rfl)
theorem dX1_width_77 : decode cX1_width 77 = .ok (.iadd, 1) := dk_96 (dk_at dksX1_width_3 7 rfl rfl)
theorem dX1_width_78 : decode cX1_width 78 = .ok (.iload_n 2, 1) := dk_28 (dk_at dksX1_width_3 8 rfl rfl)
theorem dX1_width_79 : decode cX1_width 79 = .ok (.iconst 1, 1) := dk_4 (dk_at dksX1_width_3 9 rfl rfl)
theorem dX1_width_80 : decode cX1_width 80 = .ok (.iadd, 1) := dk_96 (dk_at dksX1_width_3 10 rfl rfl)
theorem dX1_width_81 : decode cX1_width 81 = .ok (.invokevirtual 341, 3) := dk_182 1 85 (dk_at dksX1_width_3 11 rfl rfl)
theorem dX1_width_84 : decode cX1_width 84 = .ok (.invokestatic 353, 3) := dk_184 1 97 (dk_at dksX1_width_3 14 rfl rfl)
theorem dX1_width_87 : decode cX1_width 87 = .ok (.istore 6, 2) := dk_54 6 (dk_at dksX1_width_3 17 rfl rfl)
theorem dX1_width_89 : decode cX1_width 89 = .ok (.iload 6, 2) := dk_21 6 (dk_at dksX1_width_3 19 rfl rfl)
theorem dX1_width_91 : decode cX1_width 91 = .ok (.getstatic 1, 3) := dk_178 0 1 (dk_at dksX1_width_3 21 rfl rfl)
theorem dX1_width_94 : decode cX1_width 94 = .ok (.if_icmp .ne 16, 3) := dk_160 0 16 (dk_at dksX1_width_4 0 rfl rfl)
theorem dX1_width_97 : decode cX1_width 97 = .ok (.iload 4, 2) := dk_21 4 (dk_at dksX1_width_4 3 rfl rfl)
theorem dX1_width_99 : decode cX1_width 99 = .ok (.ifCond .ne 9, 3) := dk_154 0 9 (dk_at dksX1_width_4 5 rfl rfl)
theorem dX1_width_102 : decode cX1_width 102 = .ok (.sipush 1000, 3) := dk_17 3 232 (dk_at dksX1_width_4 8 rfl rfl)
theorem dX1_width_105 : decode cX1_width 105 = .ok (.goto 4, 3) := dk_167 0 4 (dk_at dksX1_width_4 11 rfl rfl)
theorem dX1_width_108 : decode cX1_width 108 = .ok (.iconst 0, 1) := dk_3 (dk_at dksX1_width_4 14 rfl rfl)
theorem dX1_width_109 : decode cX1_width 109 = .ok (.ireturn, 1) := dk_172 (dk_at dksX1_width_4 15 rfl rfl)
theorem dX1_width_110 : decode cX1_width 110 = .ok (.iload 4, 2) := dk_21 4 (dk_at dksX1_width_4 16 rfl rfl)
theorem dX1_width_112 : decode cX1_width 112 = .ok (.ifCond .ne 10, 3) := dk_154 0 10 (dk_at dksX1_width_4 18 rfl rfl)
theorem dX1_width_115 : decode cX1_width 115 = .ok (.iload 6, 2) := dk_21 6 (dk_at dksX1_width_4 21 rfl rfl)
theorem dX1_width_117 : decode cX1_width 117 = .ok (.iconst 1, 1) := dk_4 (dk_at dksX1_width_4 23 rfl rfl)
theorem dX1_width_118 : decode cX1_width 118 = .ok (.ishr, 1) := dk_122 (dk_at dksX1_width_5 0 rfl rfl)
theorem dX1_width_119 : decode cX1_width 119 = .ok (.goto 7, 3) := dk_167 0 7 (dk_at dksX1_width_5 1 rfl rfl)
theorem dX1_width_122 : decode cX1_width 122 = .ok (.iload 6, 2) := dk_21 6 (dk_at dksX1_width_5 4 rfl rfl)
theorem dX1_width_124 : decode cX1_width 124 = .ok (.iconst 1, 1) := dk_4 (dk_at dksX1_width_5 6 rfl rfl)
theorem dX1_width_125 : decode cX1_width 125 = .ok (.iand, 1) := dk_126 (dk_at dksX1_width_5 7 rfl rfl)
theorem dX1_width_126 : decode cX1_width 126 = .ok (.ireturn, 1) := dk_172 (dk_at dksX1_width_5 8 rfl rfl)
def dkwX1_touch_1 : List UInt8 := [180, 0, 45, 28, 50, 182, 1, 79, 45, 180, 0, 146, 153, 0, 7, 3, 167, 0, 4, 4, 172]
abbrev dktX1_touch_1 : List UInt8 := dkwX1_touch_1 ++ []
def dkwX1_touch_0 : List UInt8 := [27, 184, 1, 49, 153, 0, 10, 28, 184, 1, 49, 154, 0, 5, 2, 172, 42, 27, 182, 1, 52, 78, 45, 42]
abbrev dktX1_touch_0 : List UInt8 := dkwX1_touch_0 ++ dktX1_touch_1
theorem dksX1_touch_0 : cX1_touch.data.toList.drop 0 = dktX1_touch_0 := by decide +kernel
theorem dksX1_touch_1 : cX1_touch.data.toList.drop 24 = dktX1_touch_1 := dk_seg dksX1_touch_0 24 rfl rfl
theorem dX1_touch_0 : decode cX1_touch 0 = .ok (.iload_n 1, 1) := dk_27 (dk_at dksX1_touch_0 0 rfl rfl)
theorem dX1_touch_1 : decode cX1_touch 1 = .ok (.invokestatic 305, 3) := dk_184 1 49 (dk_at dksX1_touch_0 1 rfl rfl)
theorem dX1_touch_4 : decode cX1_touch 4 = .ok (.ifCond .eq 10, 3) := dk_153 0 10 (dk_at dksX1_touch_0 4 rfl rfl)
theorem dX1_touch_7 : decode cX1_touch 7 = .ok (.iload_n 2, 1) := dk_28 (dk_at dksX1_touch_0 7 rfl rfl)
theorem dX1_touch_8 : decode cX1_touch 8 = .ok (.invokestatic 305, 3) := dk_184 1 49 (dk_at dksX1_touch_0 8 rfl rfl)
theorem dX1_touch_11 : decode cX1_touch 11 = .ok (.ifCond .ne 5, 3) := dk_154 0 5 (dk_at dksX1_touch_0 11 rfl rfl)
theorem dX1_touch_14 : decode cX1_touch 14 = .ok (.iconst (-1), 1) := dk_2 (dk_at dksX1_touch_0 14 rfl rfl)
theorem dX1_touch_15 : decode cX1_touch 15 = .ok (.ireturn, 1) := dk_172 (dk_at dksX1_touch_0 15 rfl rfl)
theorem dX1_touch_16 : decode cX1_touch 16 = .ok (.aload_n 0, 1) := dk_42 (dk_at dksX1_touch_0 16 rfl rfl)
theorem dX1_touch_17 : decode cX1_touch 17 = .ok (.iload_n 1, 1) := dk_27 (dk_at dksX1_touch_0 17 rfl rfl)
theorem dX1_touch_18 : decode cX1_touch 18 = .ok (.invokevirtual 308, 3) := dk_182 1 52 (dk_at dksX1_touch_0 18 rfl rfl)
theorem dX1_touch_21 : decode cX1_touch 21 = .ok (.astore_n 3, 1) := dk_78 (dk_at dksX1_touch_0 21 rfl rfl)
theorem dX1_touch_22 : decode cX1_touch 22 = .ok (.aload_n 3, 1) := dk_45 (dk_at dksX1_touch_0 22 rfl rfl)
theorem dX1_touch_23 : decode cX1_touch 23 = .ok (.aload_n 0, 1) := dk_42 (dk_at dksX1_touch_0 23 rfl rfl)
theorem dX1_touch_24 : decode cX1_touch 24 = .ok (.getfield 45, 3) := dk_180 0 45 (dk_at dksX1_touch_1 0 rfl rfl)
theorem dX1_touch_27 : decode cX1_touch 27 = .ok (.iload_n 2, 1) := dk_28 (dk_at dksX1_touch_1 3 rfl rfl)
theorem dX1_touch_28 : decode cX1_touch 28 = .ok (.aaload, 1) := dk_50 (dk_at dksX1_touch_1 4 rfl rfl)
theorem dX1_touch_29 : decode cX1_touch 29 = .ok (.invokevirtual 335, 3) := dk_182 1 79 (dk_at dksX1_touch_1 5 rfl rfl)
theorem dX1_touch_32 : decode cX1_touch 32 = .ok (.aload_n 3, 1) := dk_45 (dk_at dksX1_touch_1 8 rfl rfl)
theorem dX1_touch_33 : decode cX1_touch 33 = .ok (.getfield 146, 3) := dk_180 0 146 (dk_at dksX1_touch_1 9 rfl rfl)
theorem dX1_touch_36 : decode cX1_touch 36 = .ok (.ifCond .eq 7, 3) := dk_153 0 7 (dk_at dksX1_touch_1 12 rfl rfl)
theorem dX1_touch_39 : decode cX1_touch 39 = .ok (.iconst 0, 1) := dk_3 (dk_at dksX1_touch_1 15 rfl rfl)
theorem dX1_touch_40 : decode cX1_touch 40 = .ok (.goto 4, 3) := dk_167 0 4 (dk_at dksX1_touch_1 16 rfl rfl)
theorem dX1_touch_43 : decode cX1_touch 43 = .ok (.iconst 1, 1) := dk_4 (dk_at dksX1_touch_1 19 rfl rfl)
theorem dX1_touch_44 : decode cX1_touch 44 = .ok (.ireturn, 1) := dk_172 (dk_at dksX1_touch_1 20 rfl rfl)
def dkwX1_back_2 : List UInt8 := [172]
abbrev dktX1_back_2 : List UInt8 := dkwX1_back_2 ++ []
def dkwX1_back_1 : List UInt8 := [45, 42, 180, 0, 26, 180, 0, 212, 28, 182, 0, 153, 192, 0, 165, 182, 1, 100, 42, 27, 45, 182, 1, 63]
abbrev dktX1_back_1 : List UInt8 := dkwX1_back_1 ++ dktX1_back_2
def dkwX1_back_0 : List UInt8 := [27, 184, 1, 49, 153, 0, 11, 42, 28, 182, 1, 17, 154, 0, 5, 2, 172, 42, 27, 182, 1, 52, 78, 42]
abbrev dktX1_back_0 : List UInt8 := dkwX1_back_0 ++ dktX1_back_1
theorem dksX1_back_0 : cX1_back.data.toList.drop 0 = dktX1_back_0 := by decide +kernel
theorem dksX1_back_1 : cX1_back.data.toList.drop 24 = dktX1_back_1 := dk_seg dksX1_back_0 24 rfl rfl
theorem dksX1_back_2 : cX1_back.data.toList.drop 48 = dktX1_back_2 := dk_seg dksX1_back_1 24 rfl rfl
theorem dX1_back_0 : decode cX1_back 0 = .ok (.iload_n 1, 1) := dk_27 (dk_at dksX1_back_0 0 rfl rfl)
theorem dX1_back_1 : decode cX1_back 1 = .ok (.invokestatic 305, 3) := dk_184 1 49 (dk_at dksX1_back_0 1 rfl rfl)
theorem dX1_back_4 : decode cX1_back 4 = .ok (.ifCond .eq 11, 3) := dk_153 0 11 (dk_at dksX1_back_0 4 rfl rfl)
theorem dX1_back_7 : decode cX1_back 7 = .ok (.aload_n 0, 1) := dk_42 (dk_at dksX1_back_0 7 rfl rfl)
theorem dX1_back_8 : decode cX1_back 8 = .ok (.iload_n 2, 1) := dk_28 (dk_at dksX1_back_0 8 rfl rfl)
theorem dX1_back_9 : decode cX1_back 9 = .ok (.invokevirtual 273, 3) := dk_182 1 17 (dk_at dksX1_back_0 9 rfl rfl)
theorem dX1_back_12 : decode cX1_back 12 = .ok (.ifCond .ne 5, 3) := dk_154 0 5 (dk_at dksX1_back_0 12 rfl rfl)
theorem dX1_back_15 : decode cX1_back 15 = .ok (.iconst (-1), 1) := dk_2 (dk_at dksX1_back_0 15 rfl rfl)
theorem dX1_back_16 : decode cX1_back 16 = .ok (.ireturn, 1) := dk_172 (dk_at dksX1_back_0 16 rfl rfl)
theorem dX1_back_17 : decode cX1_back 17 = .ok (.aload_n 0, 1) := dk_42 (dk_at dksX1_back_0 17 rfl rfl)
theorem dX1_back_18 : decode cX1_back 18 = .ok (.iload_n 1, 1) := dk_27 (dk_at dksX1_back_0 18 rfl rfl)
theorem dX1_back_19 : decode cX1_back 19 = .ok (.invokevirtual 308, 3) := dk_182 1 52 (dk_at dksX1_back_0 19 rfl rfl)
theorem dX1_back_22 : decode cX1_back 22 = .ok (.astore_n 3, 1) := dk_78 (dk_at dksX1_back_0 22 rfl rfl)
theorem dX1_back_23 : decode cX1_back 23 = .ok (.aload_n 0, 1) := dk_42 (dk_at dksX1_back_0 23 rfl rfl)
theorem dX1_back_24 : decode cX1_back 24 = .ok (.aload_n 3, 1) := dk_45 (dk_at dksX1_back_1 0 rfl rfl)
theorem dX1_back_25 : decode cX1_back 25 = .ok (.aload_n 0, 1) := dk_42 (dk_at dksX1_back_1 1 rfl rfl)
theorem dX1_back_26 : decode cX1_back 26 = .ok (.getfield 26, 3) := dk_180 0 26 (dk_at dksX1_back_1 2 rfl rfl)
theorem dX1_back_29 : decode cX1_back 29 = .ok (.getfield 212, 3) := dk_180 0 212 (dk_at dksX1_back_1 5 rfl rfl)
theorem dX1_back_32 : decode cX1_back 32 = .ok (.iload_n 2, 1) := dk_28 (dk_at dksX1_back_1 8 rfl rfl)
theorem dX1_back_33 : decode cX1_back 33 = .ok (.invokevirtual 153, 3) := dk_182 0 153 (dk_at dksX1_back_1 9 rfl rfl)
theorem dX1_back_36 : decode cX1_back 36 = .ok (.checkcast 165, 3) := dk_192 0 165 (dk_at dksX1_back_1 12 rfl rfl)
theorem dX1_back_39 : decode cX1_back 39 = .ok (.invokevirtual 356, 3) := dk_182 1 100 (dk_at dksX1_back_1 15 rfl rfl)
theorem dX1_back_42 : decode cX1_back 42 = .ok (.aload_n 0, 1) := dk_42 (dk_at dksX1_back_1 18 rfl rfl)
theorem dX1_back_43 : decode cX1_back 43 = .ok (.iload_n 1, 1) := dk_27 (dk_at dksX1_back_1 19 rfl rfl)
theorem dX1_back_44 : decode cX1_back 44 = .ok (.aload_n 3, 1) := dk_45 (dk_at dksX1_back_1 20 rfl rfl)
theorem dX1_back_45 : decode cX1_back 45 = .ok (.invokevirtual 319, 3) := dk_182 1 63 (dk_at dksX1_back_1 21 rfl rfl)
theorem dX1_back_48 : decode cX1_back 48 = .ok (.ireturn, 1) := dk_172 (dk_at dksX1_back_2 0 rfl rfl)
def dkwX1_goesBack_6 : List UInt8 := [180, 0, 130, 4, 96, 182, 1, 73, 167, 255, 225, 43, 44, 180, 0, 164, 184, 0, 157, 177]
abbrev dktX1_goesBack_6 : List UInt8 := dkwX1_goesBack_6 ++ []
def dkwX1_goesBack_5 : List UInt8 := [185, 0, 118, 1, 0, 153, 0, 28, 45, 185, 0, 124, 1, 0, 192, 0, 128, 58, 4, 43, 25, 4]
abbrev dktX1_goesBack_5 : List UInt8 := dkwX1_goesBack_5 ++ dktX1_goesBack_6
def dkwX1_goesBack_4 : List UInt8 := [182, 0, 143, 43, 180, 0, 146, 153, 0, 4, 177, 44, 180, 0, 169, 182, 0, 114, 78, 45]
abbrev dktX1_goesBack_4 : List UInt8 := dkwX1_goesBack_4 ++ dktX1_goesBack_5
def dkwX1_goesBack_3 : List UInt8 := [96, 3, 5, 25, 4, 180, 0, 136, 182, 0, 139, 167, 255, 211, 43, 180, 0, 146, 154, 0, 7, 43]
abbrev dktX1_goesBack_3 : List UInt8 := dkwX1_goesBack_3 ++ dktX1_goesBack_4
def dkwX1_goesBack_2 : List UInt8 := [185, 0, 124, 1, 0, 192, 0, 128, 58, 4, 43, 180, 0, 146, 154, 0, 21, 43, 25, 4, 180, 0, 130, 4]
abbrev dktX1_goesBack_2 : List UInt8 := dkwX1_goesBack_2 ++ dktX1_goesBack_3
def dkwX1_goesBack_1 : List UInt8 := [192, 0, 34, 184, 0, 157, 44, 180, 0, 169, 182, 0, 114, 78, 45, 185, 0, 118, 1, 0, 153, 0, 42, 45]
abbrev dktX1_goesBack_1 : List UInt8 := dkwX1_goesBack_1 ++ dktX1_goesBack_2
def dkwX1_goesBack_0 : List UInt8 := [43, 180, 0, 146, 154, 0, 24, 43, 42, 180, 0, 26, 180, 0, 150, 44, 180, 0, 175, 182, 0, 153]
abbrev dktX1_goesBack_0 : List UInt8 := dkwX1_goesBack_0 ++ dktX1_goesBack_1
theorem dksX1_goesBack_0 : cX1_goesBack.data.toList.drop 0 = dktX1_goesBack_0 := by decide +kernel
theorem dksX1_goesBack_1 : cX1_goesBack.data.toList.drop 22 = dktX1_goesBack_1 := dk_seg dksX1_goesBack_0 22 rfl rfl
theorem dksX1_goesBack_2 : cX1_goesBack.data.toList.drop 46 = dktX1_goesBack_2 := dk_seg dksX1_goesBack_1 24 rfl rfl
theorem dksX1_goesBack_3 : cX1_goesBack.data.toList.drop 70 = dktX1_goesBack_3 := dk_seg dksX1_goesBack_2 24 rfl rfl
theorem dksX1_goesBack_4 : cX1_goesBack.data.toList.drop 92 = dktX1_goesBack_4 := dk_seg dksX1_goesBack_3 22 rfl rfl
theorem dksX1_goesBack_5 : cX1_goesBack.data.toList.drop 112 = dktX1_goesBack_5 := dk_seg dksX1_goesBack_4 20 rfl rfl
theorem dksX1_goesBack_6 : cX1_goesBack.data.toList.drop 134 = dktX1_goesBack_6 := dk_seg dksX1_goesBack_5 22 rfl rfl
theorem dX1_goesBack_0 : decode cX1_goesBack 0 = .ok (.aload_n 1, 1) := dk_43 (dk_at dksX1_goesBack_0 0 rfl rfl)
theorem dX1_goesBack_1 : decode cX1_goesBack 1 = .ok (.getfield 146, 3) := dk_180 0 146 (dk_at dksX1_goesBack_0 1 rfl rfl)
theorem dX1_goesBack_4 : decode cX1_goesBack 4 = .ok (.ifCond .ne 24, 3) := dk_154 0 24 (dk_at dksX1_goesBack_0 4 rfl rfl)
theorem dX1_goesBack_7 : decode cX1_goesBack 7 = .ok (.aload_n 1, 1) := dk_43 (dk_at dksX1_goesBack_0 7 rfl rfl)
theorem dX1_goesBack_8 : decode cX1_goesBack 8 = .ok (.aload_n 0, 1) := dk_42 (dk_at dksX1_goesBack_0 8 rfl rfl)
theorem dX1_goesBack_9 : decode cX1_goesBack 9 = .ok (.getfield 26, 3) := dk_180 0 26 (dk_at dksX1_goesBack_0 9 rfl rfl)
theorem dX1_goesBack_12 : decode cX1_goesBack 12 = .ok (.getfield 150, 3) := dk_180 0 150 (dk_at dksX1_goesBack_0 12 rfl rfl)
theorem dX1_goesBack_15 : decode cX1_goesBack 15 = .ok (.aload_n 2, 1) := dk_44 (dk_at dksX1_goesBack_0 15 rfl rfl)
theorem dX1_goesBack_16 : decode cX1_goesBack 16 = .ok (.getfield 175, 3) := dk_180 0 175 (dk_at dksX1_goesBack_0 16 rfl rfl)
theorem dX1_goesBack_19 : decode cX1_goesBack 19 = .ok (.invokevirtual 153, 3) := dk_182 0 153 (dk_at dksX1_goesBack_0 19 rfl rfl)
theorem dX1_goesBack_22 : decode cX1_goesBack 22 = .ok (.checkcast 34, 3) := dk_192 0 34 (dk_at dksX1_goesBack_1 0 rfl rfl)
theorem dX1_goesBack_25 : decode cX1_goesBack 25 = .ok (.invokestatic 157, 3) := dk_184 0 157 (dk_at dksX1_goesBack_1 3 rfl rfl)
theorem dX1_goesBack_28 : decode cX1_goesBack 28 = .ok (.aload_n 2, 1) := dk_44 (dk_at dksX1_goesBack_1 6 rfl rfl)
theorem dX1_goesBack_29 : decode cX1_goesBack 29 = .ok (.getfield 169, 3) := dk_180 0 169 (dk_at dksX1_goesBack_1 7 rfl rfl)
theorem dX1_goesBack_32 : decode cX1_goesBack 32 = .ok (.invokevirtual 114, 3) := dk_182 0 114 (dk_at dksX1_goesBack_1 10 rfl rfl)
theorem dX1_goesBack_35 : decode cX1_goesBack 35 = .ok (.astore_n 3, 1) := dk_78 (dk_at dksX1_goesBack_1 13 rfl rfl)
theorem dX1_goesBack_36 : decode cX1_goesBack 36 = .ok (.aload_n 3, 1) := dk_45 (dk_at dksX1_goesBack_1 14 rfl rfl)
theorem dX1_goesBack_37 : decode cX1_goesBack 37 = .ok (.invokeinterface 118 1, 5) := by decide +kernel
theorem dX1_goesBack_42 : decode cX1_goesBack 42 = .ok (.ifCond .eq 42, 3) := dk_153 0 42 (dk_at dksX1_goesBack_1 20 rfl rfl)
theorem dX1_goesBack_45 : decode cX1_goesBack 45 = .ok (.aload_n 3, 1) := dk_45 (dk_at dksX1_goesBack_1 23 rfl rfl)
theorem dX1_goesBack_46 : decode cX1_goesBack 46 = .ok (.invokeinterface 124 1, 5) := by decide +kernel
theorem dX1_goesBack_51 : decode cX1_goesBack 51 = .ok (.checkcast 128, 3) := dk_192 0 128 (dk_at dksX1_goesBack_2 5 rfl rfl)
theorem dX1_goesBack_54 : decode cX1_goesBack 54 = .ok (.astore 4, 2) := dk_58 4 (dk_at dksX1_goesBack_2 8 rfl rfl)
theorem dX1_goesBack_56 : decode cX1_goesBack 56 = .ok (.aload_n 1, 1) := dk_43 (dk_at dksX1_goesBack_2 10 rfl rfl)
theorem dX1_goesBack_57 : decode cX1_goesBack 57 = .ok (.getfield 146, 3) := dk_180 0 146 (dk_at dksX1_goesBack_2 11 rfl rfl)
theorem dX1_goesBack_60 : decode cX1_goesBack 60 = .ok (.ifCond .ne 21, 3) := dk_154 0 21 (dk_at dksX1_goesBack_2 14 rfl rfl)
theorem dX1_goesBack_63 : decode cX1_goesBack 63 = .ok (.aload_n 1, 1) := dk_43 (dk_at dksX1_goesBack_2 17 rfl rfl)
theorem dX1_goesBack_64 : decode cX1_goesBack 64 = .ok (.aload 4, 2) := dk_25 4 (dk_at dksX1_goesBack_2 18 rfl rfl)
theorem dX1_goesBack_66 : decode cX1_goesBack 66 = .ok (.getfield 130, 3) := dk_180 0 130 (dk_at dksX1_goesBack_2 20 rfl rfl)
theorem dX1_goesBack_69 : decode cX1_goesBack 69 = .ok (.iconst 1, 1) := dk_4 (dk_at dksX1_goesBack_2 23 rfl rfl)
theorem dX1_goesBack_70 : decode cX1_goesBack 70 = .ok (.iadd, 1) := dk_96 (dk_at dksX1_goesBack_3 0 rfl rfl)
theorem dX1_goesBack_71 : decode cX1_goesBack 71 = .ok (.iconst 0, 1) := dk_3 (dk_at dksX1_goesBack_3 1 rfl rfl)
theorem dX1_goesBack_72 : decode cX1_goesBack 72 = .ok (.iconst 2, 1) := dk_5 (dk_at dksX1_goesBack_3 2 rfl rfl)
theorem dX1_goesBack_73 : decode cX1_goesBack 73 = .ok (.aload 4, 2) := dk_25 4 (dk_at dksX1_goesBack_3 3 rfl rfl)
theorem dX1_goesBack_75 : decode cX1_goesBack 75 = .ok (.getfield 136, 3) := dk_180 0 136 (dk_at dksX1_goesBack_3 5 rfl rfl)
theorem dX1_goesBack_78 : decode cX1_goesBack 78 = .ok (.invokevirtual 139, 3) := dk_182 0 139 (dk_at dksX1_goesBack_3 8 rfl rfl)
theorem dX1_goesBack_81 : decode cX1_goesBack 81 = .ok (.goto (-45), 3) := dk_167 255 211 (dk_at dksX1_goesBack_3 11 rfl rfl)
theorem dX1_goesBack_84 : decode cX1_goesBack 84 = .ok (.aload_n 1, 1) := dk_43 (dk_at dksX1_goesBack_3 14 rfl rfl)
theorem dX1_goesBack_85 : decode cX1_goesBack 85 = .ok (.getfield 146, 3) := dk_180 0 146 (dk_at dksX1_goesBack_3 15 rfl rfl)
theorem dX1_goesBack_88 : decode cX1_goesBack 88 = .ok (.ifCond .ne 7, 3) := dk_154 0 7 (dk_at dksX1_goesBack_3 18 rfl rfl)
theorem dX1_goesBack_91 : decode cX1_goesBack 91 = .ok (.aload_n 1, 1) := dk_43 (dk_at dksX1_goesBack_3 21 rfl rfl)
theorem dX1_goesBack_92 : decode cX1_goesBack 92 = .ok (.invokevirtual 143, 3) := dk_182 0 143 (dk_at dksX1_goesBack_4 0 rfl rfl)
theorem dX1_goesBack_95 : decode cX1_goesBack 95 = .ok (.aload_n 1, 1) := dk_43 (dk_at dksX1_goesBack_4 3 rfl rfl)
theorem dX1_goesBack_96 : decode cX1_goesBack 96 = .ok (.getfield 146, 3) := dk_180 0 146 (dk_at dksX1_goesBack_4 4 rfl rfl)
theorem dX1_goesBack_99 : decode cX1_goesBack 99 = .ok (.ifCond .eq 4, 3) := dk_153 0 4 (dk_at dksX1_goesBack_4 7 rfl rfl)
theorem dX1_goesBack_102 : decode cX1_goesBack 102 = .ok (.return_, 1) := dk_177 (dk_at dksX1_goesBack_4 10 rfl rfl)
theorem dX1_goesBack_103 : decode cX1_goesBack 103 = .ok (.aload_n 2, 1) := dk_44 (dk_at dksX1_goesBack_4 11 rfl rfl)
theorem dX1_goesBack_104 : decode cX1_goesBack 104 = .ok (.getfield 169, 3) := dk_180 0 169 (dk_at dksX1_goesBack_4 12 rfl rfl)
theorem dX1_goesBack_107 : decode cX1_goesBack 107 = .ok (.invokevirtual 114, 3) := dk_182 0 114 (dk_at dksX1_goesBack_4 15 rfl rfl)
theorem dX1_goesBack_110 : decode cX1_goesBack 110 = .ok (.astore_n 3, 1) := dk_78 (dk_at dksX1_goesBack_4 18 rfl rfl)
theorem dX1_goesBack_111 : decode cX1_goesBack 111 = .ok (.aload_n 3, 1) := dk_45 (dk_at dksX1_goesBack_4 19 rfl rfl)
theorem dX1_goesBack_112 : decode cX1_goesBack 112 = .ok (.invokeinterface 118 1, 5) := by decide +kernel
theorem dX1_goesBack_117 : decode cX1_goesBack 117 = .ok (.ifCond .eq 28, 3) := dk_153 0 28 (dk_at dksX1_goesBack_5 5 rfl rfl)
theorem dX1_goesBack_120 : decode cX1_goesBack 120 = .ok (.aload_n 3, 1) := dk_45 (dk_at dksX1_goesBack_5 8 rfl rfl)
theorem dX1_goesBack_121 : decode cX1_goesBack 121 = .ok (.invokeinterface 124 1, 5) := by decide +kernel
theorem dX1_goesBack_126 : decode cX1_goesBack 126 = .ok (.checkcast 128, 3) := dk_192 0 128 (dk_at dksX1_goesBack_5 14 rfl rfl)
theorem dX1_goesBack_129 : decode cX1_goesBack 129 = .ok (.astore 4, 2) := dk_58 4 (dk_at dksX1_goesBack_5 17 rfl rfl)
theorem dX1_goesBack_131 : decode cX1_goesBack 131 = .ok (.aload_n 1, 1) := dk_43 (dk_at dksX1_goesBack_5 19 rfl rfl)
theorem dX1_goesBack_132 : decode cX1_goesBack 132 = .ok (.aload 4, 2) := dk_25 4 (dk_at dksX1_goesBack_5 20 rfl rfl)
theorem dX1_goesBack_134 : decode cX1_goesBack 134 = .ok (.getfield 130, 3) := dk_180 0 130 (dk_at dksX1_goesBack_6 0 rfl rfl)
theorem dX1_goesBack_137 : decode cX1_goesBack 137 = .ok (.iconst 1, 1) := dk_4 (dk_at dksX1_goesBack_6 3 rfl rfl)
theorem dX1_goesBack_138 : decode cX1_goesBack 138 = .ok (.iadd, 1) := dk_96 (dk_at dksX1_goesBack_6 4 rfl rfl)
theorem dX1_goesBack_139 : decode cX1_goesBack 139 = .ok (.invokevirtual 329, 3) := dk_182 1 73 (dk_at dksX1_goesBack_6 5 rfl rfl)
theorem dX1_goesBack_142 : decode cX1_goesBack 142 = .ok (.goto (-31), 3) := dk_167 255 225 (dk_at dksX1_goesBack_6 8 rfl rfl)
theorem dX1_goesBack_145 : decode cX1_goesBack 145 = .ok (.aload_n 1, 1) := dk_43 (dk_at dksX1_goesBack_6 11 rfl rfl)
theorem dX1_goesBack_146 : decode cX1_goesBack 146 = .ok (.aload_n 2, 1) := dk_44 (dk_at dksX1_goesBack_6 12 rfl rfl)
theorem dX1_goesBack_147 : decode cX1_goesBack 147 = .ok (.getfield 164, 3) := dk_180 0 164 (dk_at dksX1_goesBack_6 13 rfl rfl)
theorem dX1_goesBack_150 : decode cX1_goesBack 150 = .ok (.invokestatic 157, 3) := dk_184 0 157 (dk_at dksX1_goesBack_6 16 rfl rfl)
theorem dX1_goesBack_153 : decode cX1_goesBack 153 = .ok (.return_, 1) := dk_177 (dk_at dksX1_goesBack_6 19 rfl rfl)
def dkwX1_longest_3 : List UInt8 := [54, 5, 21, 5, 17, 39, 16, 160, 0, 9, 17, 3, 232, 167, 0, 5, 21, 5, 172]
abbrev dktX1_longest_3 : List UInt8 := dkwX1_longest_3 ++ []
def dkwX1_longest_2 : List UInt8 := [153, 0, 7, 17, 252, 24, 172, 25, 4, 3, 25, 4, 180, 1, 103, 4, 100, 3, 5, 29, 96, 182, 1, 113]
abbrev dktX1_longest_2 : List UInt8 := dkwX1_longest_2 ++ dktX1_longest_3
def dkwX1_longest_1 : List UInt8 := [17, 248, 48, 172, 42, 42, 180, 0, 45, 27, 50, 28, 182, 1, 109, 58, 4, 25, 4, 180, 0, 146]
abbrev dktX1_longest_1 : List UInt8 := dkwX1_longest_1 ++ dktX1_longest_2
def dkwX1_longest_0 : List UInt8 := [27, 184, 1, 49, 153, 0, 20, 42, 28, 182, 1, 8, 153, 0, 12, 29, 3, 4, 184, 0, 68, 154, 0, 7]
abbrev dktX1_longest_0 : List UInt8 := dkwX1_longest_0 ++ dktX1_longest_1
theorem dksX1_longest_0 : cX1_longest.data.toList.drop 0 = dktX1_longest_0 := by decide +kernel
theorem dksX1_longest_1 : cX1_longest.data.toList.drop 24 = dktX1_longest_1 := dk_seg dksX1_longest_0 24 rfl rfl
theorem dksX1_longest_2 : cX1_longest.data.toList.drop 46 = dktX1_longest_2 := dk_seg dksX1_longest_1 22 rfl rfl
theorem dksX1_longest_3 : cX1_longest.data.toList.drop 70 = dktX1_longest_3 := dk_seg dksX1_longest_2 24 rfl rfl
theorem dX1_longest_0 : decode cX1_longest 0 = .ok (.iload_n 1, 1) := dk_27 (dk_at dksX1_longest_0 0 rfl rfl)
theorem dX1_longest_1 : decode cX1_longest 1 = .ok (.invokestatic 305, 3) := dk_184 1 49 (dk_at dksX1_longest_0 1 rfl rfl)
theorem dX1_longest_4 : decode cX1_longest 4 = .ok (.ifCond .eq 20, 3) := dk_153 0 20 (dk_at dksX1_longest_0 4 rfl rfl)
theorem dX1_longest_7 : decode cX1_longest 7 = .ok (.aload_n 0, 1) := dk_42 (dk_at dksX1_longest_0 7 rfl rfl)
theorem dX1_longest_8 : decode cX1_longest 8 = .ok (.iload_n 2, 1) := dk_28 (dk_at dksX1_longest_0 8 rfl rfl)
theorem dX1_longest_9 : decode cX1_longest 9 = .ok (.invokevirtual 264, 3) := dk_182 1 8 (dk_at dksX1_longest_0 9 rfl rfl)
theorem dX1_longest_12 : decode cX1_longest 12 = .ok (.ifCond .eq 12, 3) := dk_153 0 12 (dk_at dksX1_longest_0 12 rfl rfl)
theorem dX1_longest_15 : decode cX1_longest 15 = .ok (.iload_n 3, 1) := dk_29 (dk_at dksX1_longest_0 15 rfl rfl)
theorem dX1_longest_16 : decode cX1_longest 16 = .ok (.iconst 0, 1) := dk_3 (dk_at dksX1_longest_0 16 rfl rfl)
theorem dX1_longest_17 : decode cX1_longest 17 = .ok (.iconst 1, 1) := dk_4 (dk_at dksX1_longest_0 17 rfl rfl)
theorem dX1_longest_18 : decode cX1_longest 18 = .ok (.invokestatic 68, 3) := dk_184 0 68 (dk_at dksX1_longest_0 18 rfl rfl)
theorem dX1_longest_21 : decode cX1_longest 21 = .ok (.ifCond .ne 7, 3) := dk_154 0 7 (dk_at dksX1_longest_0 21 rfl rfl)
theorem dX1_longest_24 : decode cX1_longest 24 = .ok (.sipush (-2000), 3) := dk_17 248 48 (dk_at dksX1_longest_1 0 rfl rfl)
theorem dX1_longest_27 : decode cX1_longest 27 = .ok (.ireturn, 1) := dk_172 (dk_at dksX1_longest_1 3 rfl rfl)
theorem dX1_longest_28 : decode cX1_longest 28 = .ok (.aload_n 0, 1) := dk_42 (dk_at dksX1_longest_1 4 rfl rfl)
theorem dX1_longest_29 : decode cX1_longest 29 = .ok (.aload_n 0, 1) := dk_42 (dk_at dksX1_longest_1 5 rfl rfl)
theorem dX1_longest_30 : decode cX1_longest 30 = .ok (.getfield 45, 3) := dk_180 0 45 (dk_at dksX1_longest_1 6 rfl rfl)
theorem dX1_longest_33 : decode cX1_longest 33 = .ok (.iload_n 1, 1) := dk_27 (dk_at dksX1_longest_1 9 rfl rfl)
theorem dX1_longest_34 : decode cX1_longest 34 = .ok (.aaload, 1) := dk_50 (dk_at dksX1_longest_1 10 rfl rfl)
theorem dX1_longest_35 : decode cX1_longest 35 = .ok (.iload_n 2, 1) := dk_28 (dk_at dksX1_longest_1 11 rfl rfl)
theorem dX1_longest_36 : decode cX1_longest 36 = .ok (.invokevirtual 365, 3) := dk_182 1 109 (dk_at dksX1_longest_1 12 rfl rfl)
theorem dX1_longest_39 : decode cX1_longest 39 = .ok (.astore 4, 2) := dk_58 4 (dk_at dksX1_longest_1 15 rfl rfl)
theorem dX1_longest_41 : decode cX1_longest 41 = .ok (.aload 4, 2) := dk_25 4 (dk_at dksX1_longest_1 17 rfl rfl)
theorem dX1_longest_43 : decode cX1_longest 43 = .ok (.getfield 146, 3) := dk_180 0 146 (dk_at dksX1_longest_1 19 rfl rfl)
theorem dX1_longest_46 : decode cX1_longest 46 = .ok (.ifCond .eq 7, 3) := dk_153 0 7 (dk_at dksX1_longest_2 0 rfl rfl)
theorem dX1_longest_49 : decode cX1_longest 49 = .ok (.sipush (-1000), 3) := dk_17 252 24 (dk_at dksX1_longest_2 3 rfl rfl)
theorem dX1_longest_52 : decode cX1_longest 52 = .ok (.ireturn, 1) := dk_172 (dk_at dksX1_longest_2 6 rfl rfl)
theorem dX1_longest_53 : decode cX1_longest 53 = .ok (.aload 4, 2) := dk_25 4 (dk_at dksX1_longest_2 7 rfl rfl)
theorem dX1_longest_55 : decode cX1_longest 55 = .ok (.iconst 0, 1) := dk_3 (dk_at dksX1_longest_2 9 rfl rfl)
theorem dX1_longest_56 : decode cX1_longest 56 = .ok (.aload 4, 2) := dk_25 4 (dk_at dksX1_longest_2 10 rfl rfl)
theorem dX1_longest_58 : decode cX1_longest 58 = .ok (.getfield 359, 3) := dk_180 1 103 (dk_at dksX1_longest_2 12 rfl rfl)
theorem dX1_longest_61 : decode cX1_longest 61 = .ok (.iconst 1, 1) := dk_4 (dk_at dksX1_longest_2 15 rfl rfl)
theorem dX1_longest_62 : decode cX1_longest 62 = .ok (.isub, 1) := dk_100 (dk_at dksX1_longest_2 16 rfl rfl)
theorem dX1_longest_63 : decode cX1_longest 63 = .ok (.iconst 0, 1) := dk_3 (dk_at dksX1_longest_2 17 rfl rfl)
theorem dX1_longest_64 : decode cX1_longest 64 = .ok (.iconst 2, 1) := dk_5 (dk_at dksX1_longest_2 18 rfl rfl)
theorem dX1_longest_65 : decode cX1_longest 65 = .ok (.iload_n 3, 1) := dk_29 (dk_at dksX1_longest_2 19 rfl rfl)
theorem dX1_longest_66 : decode cX1_longest 66 = .ok (.iadd, 1) := dk_96 (dk_at dksX1_longest_2 20 rfl rfl)
theorem dX1_longest_67 : decode cX1_longest 67 = .ok (.invokevirtual 369, 3) := dk_182 1 113 (dk_at dksX1_longest_2 21 rfl rfl)
theorem dX1_longest_70 : decode cX1_longest 70 = .ok (.istore 5, 2) := dk_54 5 (dk_at dksX1_longest_3 0 rfl rfl)
theorem dX1_longest_72 : decode cX1_longest 72 = .ok (.iload 5, 2) := dk_21 5 (dk_at dksX1_longest_3 2 rfl rfl)
theorem dX1_longest_74 : decode cX1_longest 74 = .ok (.sipush 10000, 3) := dk_17 39 16 (dk_at dksX1_longest_3 4 rfl rfl)
theorem dX1_longest_77 : decode cX1_longest 77 = .ok (.if_icmp .ne 9, 3) := dk_160 0 9 (dk_at dksX1_longest_3 7 rfl rfl)
theorem dX1_longest_80 : decode cX1_longest 80 = .ok (.sipush 1000, 3) := dk_17 3 232 (dk_at dksX1_longest_3 10 rfl rfl)
theorem dX1_longest_83 : decode cX1_longest 83 = .ok (.goto 5, 3) := dk_167 0 5 (dk_at dksX1_longest_3 13 rfl rfl)
theorem dX1_longest_86 : decode cX1_longest 86 = .ok (.iload 5, 2) := dk_21 5 (dk_at dksX1_longest_3 16 rfl rfl)
theorem dX1_longest_88 : decode cX1_longest 88 = .ok (.ireturn, 1) := dk_172 (dk_at dksX1_longest_3 18 rfl rfl)
def dkwX1_withOneMore_4 : List UInt8 := [5, 3, 182, 0, 139, 45, 182, 0, 143, 42, 45, 28, 182, 0, 178, 45, 176]
abbrev dktX1_withOneMore_4 : List UInt8 := dkwX1_withOneMore_4 ++ []
def dkwX1_withOneMore_3 : List UInt8 := [167, 255, 210, 45, 43, 180, 0, 146, 181, 0, 146, 45, 180, 0, 146, 153, 0, 5, 45, 176, 45, 21, 4, 3]
abbrev dktX1_withOneMore_3 : List UInt8 := dkwX1_withOneMore_3 ++ dktX1_withOneMore_4
def dkwX1_withOneMore_2 : List UInt8 := [21, 5, 21, 6, 43, 21, 5, 21, 6, 182, 1, 85, 182, 1, 105, 132, 6, 1, 167, 255, 228, 132, 5, 1]
abbrev dktX1_withOneMore_2 : List UInt8 := dkwX1_withOneMore_2 ++ dktX1_withOneMore_3
def dkwX1_withOneMore_1 : List UInt8 := [54, 5, 21, 5, 43, 180, 1, 103, 162, 0, 43, 3, 54, 6, 21, 6, 43, 180, 1, 103, 162, 0, 25, 45]
abbrev dktX1_withOneMore_1 : List UInt8 := dkwX1_withOneMore_1 ++ dktX1_withOneMore_2
def dkwX1_withOneMore_0 : List UInt8 := [187, 0, 59, 89, 43, 180, 1, 103, 4, 96, 183, 0, 65, 182, 1, 59, 78, 43, 180, 1, 103, 54, 4, 3]
abbrev dktX1_withOneMore_0 : List UInt8 := dkwX1_withOneMore_0 ++ dktX1_withOneMore_1
theorem dksX1_withOneMore_0 : cX1_withOneMore.data.toList.drop 0 = dktX1_withOneMore_0 := by decide +kernel
theorem dksX1_withOneMore_1 : cX1_withOneMore.data.toList.drop 24 = dktX1_withOneMore_1 := dk_seg dksX1_withOneMore_0 24 rfl rfl
theorem dksX1_withOneMore_2 : cX1_withOneMore.data.toList.drop 48 = dktX1_withOneMore_2 := dk_seg dksX1_withOneMore_1 24 rfl rfl
theorem dksX1_withOneMore_3 : cX1_withOneMore.data.toList.drop 72 = dktX1_withOneMore_3 := dk_seg dksX1_withOneMore_2 24 rfl rfl
theorem dksX1_withOneMore_4 : cX1_withOneMore.data.toList.drop 96 = dktX1_withOneMore_4 := dk_seg dksX1_withOneMore_3 24 rfl rfl
theorem dX1_withOneMore_0 : decode cX1_withOneMore 0 = .ok (.new 59, 3) := dk_187 0 59 (dk_at dksX1_withOneMore_0 0 rfl rfl)
theorem dX1_withOneMore_3 : decode cX1_withOneMore 3 = .ok (.dup, 1) := dk_89 (dk_at dksX1_withOneMore_0 3 rfl rfl)
theorem dX1_withOneMore_4 : decode cX1_withOneMore 4 = .ok (.aload_n 1, 1) := dk_43 (dk_at dksX1_withOneMore_0 4 rfl rfl)
theorem dX1_withOneMore_5 : decode cX1_withOneMore 5 = .ok (.getfield 359, 3) := dk_180 1 103 (dk_at dksX1_withOneMore_0 5 rfl rfl)
theorem dX1_withOneMore_8 : decode cX1_withOneMore 8 = .ok (.iconst 1, 1) := dk_4 (dk_at dksX1_withOneMore_0 8 rfl rfl)
theorem dX1_withOneMore_9 : decode cX1_withOneMore 9 = .ok (.iadd, 1) := dk_96 (dk_at dksX1_withOneMore_0 9 rfl rfl)
theorem dX1_withOneMore_10 : decode cX1_withOneMore 10 = .ok (.invokespecial 65, 3) := dk_183 0 65 (dk_at dksX1_withOneMore_0 10 rfl rfl)
theorem dX1_withOneMore_13 : decode cX1_withOneMore 13 = .ok (.invokevirtual 315, 3) := dk_182 1 59 (dk_at dksX1_withOneMore_0 13 rfl rfl)
theorem dX1_withOneMore_16 : decode cX1_withOneMore 16 = .ok (.astore_n 3, 1) := dk_78 (dk_at dksX1_withOneMore_0 16 rfl rfl)
theorem dX1_withOneMore_17 : decode cX1_withOneMore 17 = .ok (.aload_n 1, 1) := dk_43 (dk_at dksX1_withOneMore_0 17 rfl rfl)
theorem dX1_withOneMore_18 : decode cX1_withOneMore 18 = .ok (.getfield 359, 3) := dk_180 1 103 (dk_at dksX1_withOneMore_0 18 rfl rfl)
theorem dX1_withOneMore_21 : decode cX1_withOneMore 21 = .ok (.istore 4, 2) := dk_54 4 (dk_at dksX1_withOneMore_0 21 rfl rfl)
theorem dX1_withOneMore_23 : decode cX1_withOneMore 23 = .ok (.iconst 0, 1) := dk_3 (dk_at dksX1_withOneMore_0 23 rfl rfl)
theorem dX1_withOneMore_24 : decode cX1_withOneMore 24 = .ok (.istore 5, 2) := dk_54 5 (dk_at dksX1_withOneMore_1 0 rfl rfl)
theorem dX1_withOneMore_26 : decode cX1_withOneMore 26 = .ok (.iload 5, 2) := dk_21 5 (dk_at dksX1_withOneMore_1 2 rfl rfl)
theorem dX1_withOneMore_28 : decode cX1_withOneMore 28 = .ok (.aload_n 1, 1) := dk_43 (dk_at dksX1_withOneMore_1 4 rfl rfl)
theorem dX1_withOneMore_29 : decode cX1_withOneMore 29 = .ok (.getfield 359, 3) := dk_180 1 103 (dk_at dksX1_withOneMore_1 5 rfl rfl)
theorem dX1_withOneMore_32 : decode cX1_withOneMore 32 = .ok (.if_icmp .ge 43, 3) := dk_162 0 43 (dk_at dksX1_withOneMore_1 8 rfl rfl)
theorem dX1_withOneMore_35 : decode cX1_withOneMore 35 = .ok (.iconst 0, 1) := dk_3 (dk_at dksX1_withOneMore_1 11 rfl rfl)
theorem dX1_withOneMore_36 : decode cX1_withOneMore 36 = .ok (.istore 6, 2) := dk_54 6 (dk_at dksX1_withOneMore_1 12 rfl rfl)
theorem dX1_withOneMore_38 : decode cX1_withOneMore 38 = .ok (.iload 6, 2) := dk_21 6 (dk_at dksX1_withOneMore_1 14 rfl rfl)
theorem dX1_withOneMore_40 : decode cX1_withOneMore 40 = .ok (.aload_n 1, 1) := dk_43 (dk_at dksX1_withOneMore_1 16 rfl rfl)
theorem dX1_withOneMore_41 : decode cX1_withOneMore 41 = .ok (.getfield 359, 3) := dk_180 1 103 (dk_at dksX1_withOneMore_1 17 rfl rfl)
theorem dX1_withOneMore_44 : decode cX1_withOneMore 44 = .ok (.if_icmp .ge 25, 3) := dk_162 0 25 (dk_at dksX1_withOneMore_1 20 rfl rfl)
theorem dX1_withOneMore_47 : decode cX1_withOneMore 47 = .ok (.aload_n 3, 1) := dk_45 (dk_at dksX1_withOneMore_1 23 rfl rfl)
theorem dX1_withOneMore_48 : decode cX1_withOneMore 48 = .ok (.iload 5, 2) := dk_21 5 (dk_at dksX1_withOneMore_2 0 rfl rfl)
theorem dX1_withOneMore_50 : decode cX1_withOneMore 50 = .ok (.iload 6, 2) := dk_21 6 (dk_at dksX1_withOneMore_2 2 rfl rfl)
theorem dX1_withOneMore_52 : decode cX1_withOneMore 52 = .ok (.aload_n 1, 1) := dk_43 (dk_at dksX1_withOneMore_2 4 rfl rfl)
theorem dX1_withOneMore_53 : decode cX1_withOneMore 53 = .ok (.iload 5, 2) := dk_21 5 (dk_at dksX1_withOneMore_2 5 rfl rfl)
theorem dX1_withOneMore_55 : decode cX1_withOneMore 55 = .ok (.iload 6, 2) := dk_21 6 (dk_at dksX1_withOneMore_2 7 rfl rfl)
theorem dX1_withOneMore_57 : decode cX1_withOneMore 57 = .ok (.invokevirtual 341, 3) := dk_182 1 85 (dk_at dksX1_withOneMore_2 9 rfl rfl)
theorem dX1_withOneMore_60 : decode cX1_withOneMore 60 = .ok (.invokevirtual 361, 3) := dk_182 1 105 (dk_at dksX1_withOneMore_2 12 rfl rfl)
theorem dX1_withOneMore_63 : decode cX1_withOneMore 63 = .ok (.iinc 6 1, 3) := dk_132 6 1 (dk_at dksX1_withOneMore_2 15 rfl rfl)
theorem dX1_withOneMore_66 : decode cX1_withOneMore 66 = .ok (.goto (-28), 3) := dk_167 255 228 (dk_at dksX1_withOneMore_2 18 rfl rfl)
theorem dX1_withOneMore_69 : decode cX1_withOneMore 69 = .ok (.iinc 5 1, 3) := dk_132 5 1 (dk_at dksX1_withOneMore_2 21 rfl rfl)
theorem dX1_withOneMore_72 : decode cX1_withOneMore 72 = .ok (.goto (-46), 3) := dk_167 255 210 (dk_at dksX1_withOneMore_3 0 rfl rfl)
theorem dX1_withOneMore_75 : decode cX1_withOneMore 75 = .ok (.aload_n 3, 1) := dk_45 (dk_at dksX1_withOneMore_3 3 rfl rfl)
theorem dX1_withOneMore_76 : decode cX1_withOneMore 76 = .ok (.aload_n 1, 1) := dk_43 (dk_at dksX1_withOneMore_3 4 rfl rfl)
theorem dX1_withOneMore_77 : decode cX1_withOneMore 77 = .ok (.getfield 146, 3) := dk_180 0 146 (dk_at dksX1_withOneMore_3 5 rfl rfl)
theorem dX1_withOneMore_80 : decode cX1_withOneMore 80 = .ok (.putfield 146, 3) := dk_181 0 146 (dk_at dksX1_withOneMore_3 8 rfl rfl)
theorem dX1_withOneMore_83 : decode cX1_withOneMore 83 = .ok (.aload_n 3, 1) := dk_45 (dk_at dksX1_withOneMore_3 11 rfl rfl)
theorem dX1_withOneMore_84 : decode cX1_withOneMore 84 = .ok (.getfield 146, 3) := dk_180 0 146 (dk_at dksX1_withOneMore_3 12 rfl rfl)
theorem dX1_withOneMore_87 : decode cX1_withOneMore 87 = .ok (.ifCond .eq 5, 3) := dk_153 0 5 (dk_at dksX1_withOneMore_3 15 rfl rfl)
theorem dX1_withOneMore_90 : decode cX1_withOneMore 90 = .ok (.aload_n 3, 1) := dk_45 (dk_at dksX1_withOneMore_3 18 rfl rfl)
theorem dX1_withOneMore_91 : decode cX1_withOneMore 91 = .ok (.areturn, 1) := dk_176 (dk_at dksX1_withOneMore_3 19 rfl rfl)
theorem dX1_withOneMore_92 : decode cX1_withOneMore 92 = .ok (.aload_n 3, 1) := dk_45 (dk_at dksX1_withOneMore_3 20 rfl rfl)
theorem dX1_withOneMore_93 : decode cX1_withOneMore 93 = .ok (.iload 4, 2) := dk_21 4 (dk_at dksX1_withOneMore_3 21 rfl rfl)
theorem dX1_withOneMore_95 : decode cX1_withOneMore 95 = .ok (.iconst 0, 1) := dk_3 (dk_at dksX1_withOneMore_3 23 rfl rfl)
theorem dX1_withOneMore_96 : decode cX1_withOneMore 96 = .ok (.iconst 2, 1) := dk_5 (dk_at dksX1_withOneMore_4 0 rfl rfl)
theorem dX1_withOneMore_97 : decode cX1_withOneMore 97 = .ok (.iconst 0, 1) := dk_3 (dk_at dksX1_withOneMore_4 1 rfl rfl)
theorem dX1_withOneMore_98 : decode cX1_withOneMore 98 = .ok (.invokevirtual 139, 3) := dk_182 0 139 (dk_at dksX1_withOneMore_4 2 rfl rfl)
theorem dX1_withOneMore_101 : decode cX1_withOneMore 101 = .ok (.aload_n 3, 1) := dk_45 (dk_at dksX1_withOneMore_4 5 rfl rfl)
theorem dX1_withOneMore_102 : decode cX1_withOneMore 102 = .ok (.invokevirtual 143, 3) := dk_182 0 143 (dk_at dksX1_withOneMore_4 6 rfl rfl)
theorem dX1_withOneMore_105 : decode cX1_withOneMore 105 = .ok (.aload_n 0, 1) := dk_42 (dk_at dksX1_withOneMore_4 9 rfl rfl)
theorem dX1_withOneMore_106 : decode cX1_withOneMore 106 = .ok (.aload_n 3, 1) := dk_45 (dk_at dksX1_withOneMore_4 10 rfl rfl)
theorem dX1_withOneMore_107 : decode cX1_withOneMore 107 = .ok (.iload_n 2, 1) := dk_28 (dk_at dksX1_withOneMore_4 11 rfl rfl)
theorem dX1_withOneMore_108 : decode cX1_withOneMore 108 = .ok (.invokevirtual 178, 3) := dk_182 0 178 (dk_at dksX1_withOneMore_4 12 rfl rfl)
theorem dX1_withOneMore_111 : decode cX1_withOneMore 111 = .ok (.aload_n 3, 1) := dk_45 (dk_at dksX1_withOneMore_4 15 rfl rfl)
theorem dX1_withOneMore_112 : decode cX1_withOneMore 112 = .ok (.areturn, 1) := dk_176 (dk_at dksX1_withOneMore_4 16 rfl rfl)
def dkwX1_soonest_4 : List UInt8 := [3, 25, 5, 180, 1, 103, 4, 100, 3, 29, 182, 1, 113, 172]
abbrev dktX1_soonest_4 : List UInt8 := dkwX1_soonest_4 ++ []
def dkwX1_soonest_3 : List UInt8 := [25, 5, 25, 4, 180, 0, 164, 184, 0, 157, 25, 5, 180, 0, 146, 153, 0, 7, 17, 252, 24, 172, 25, 5]
abbrev dktX1_soonest_3 : List UInt8 := dkwX1_soonest_3 ++ dktX1_soonest_4
def dkwX1_soonest_2 : List UInt8 := [180, 0, 45, 27, 50, 25, 4, 180, 0, 215, 182, 1, 109, 58, 5, 25, 5, 180, 0, 146, 154, 0, 13]
abbrev dktX1_soonest_2 : List UInt8 := dkwX1_soonest_2 ++ dktX1_soonest_3
def dkwX1_soonest_1 : List UInt8 := [17, 248, 48, 172, 42, 180, 0, 26, 180, 0, 212, 28, 182, 0, 153, 192, 0, 165, 58, 4, 42, 42]
abbrev dktX1_soonest_1 : List UInt8 := dkwX1_soonest_1 ++ dktX1_soonest_2
def dkwX1_soonest_0 : List UInt8 := [27, 184, 1, 49, 153, 0, 20, 42, 28, 182, 1, 17, 153, 0, 12, 29, 3, 4, 184, 0, 68, 154, 0, 7]
abbrev dktX1_soonest_0 : List UInt8 := dkwX1_soonest_0 ++ dktX1_soonest_1
theorem dksX1_soonest_0 : cX1_soonest.data.toList.drop 0 = dktX1_soonest_0 := by decide +kernel
theorem dksX1_soonest_1 : cX1_soonest.data.toList.drop 24 = dktX1_soonest_1 := dk_seg dksX1_soonest_0 24 rfl rfl
theorem dksX1_soonest_2 : cX1_soonest.data.toList.drop 46 = dktX1_soonest_2 := dk_seg dksX1_soonest_1 22 rfl rfl
theorem dksX1_soonest_3 : cX1_soonest.data.toList.drop 69 = dktX1_soonest_3 := dk_seg dksX1_soonest_2 23 rfl rfl
theorem dksX1_soonest_4 : cX1_soonest.data.toList.drop 93 = dktX1_soonest_4 := dk_seg dksX1_soonest_3 24 rfl rfl
theorem dX1_soonest_0 : decode cX1_soonest 0 = .ok (.iload_n 1, 1) := dk_27 (dk_at dksX1_soonest_0 0 rfl rfl)
theorem dX1_soonest_1 : decode cX1_soonest 1 = .ok (.invokestatic 305, 3) := dk_184 1 49 (dk_at dksX1_soonest_0 1 rfl rfl)
theorem dX1_soonest_4 : decode cX1_soonest 4 = .ok (.ifCond .eq 20, 3) := dk_153 0 20 (dk_at dksX1_soonest_0 4 rfl rfl)
theorem dX1_soonest_7 : decode cX1_soonest 7 = .ok (.aload_n 0, 1) := dk_42 (dk_at dksX1_soonest_0 7 rfl rfl)
theorem dX1_soonest_8 : decode cX1_soonest 8 = .ok (.iload_n 2, 1) := dk_28 (dk_at dksX1_soonest_0 8 rfl rfl)
theorem dX1_soonest_9 : decode cX1_soonest 9 = .ok (.invokevirtual 273, 3) := dk_182 1 17 (dk_at dksX1_soonest_0 9 rfl rfl)
theorem dX1_soonest_12 : decode cX1_soonest 12 = .ok (.ifCond .eq 12, 3) := dk_153 0 12 (dk_at dksX1_soonest_0 12 rfl rfl)
theorem dX1_soonest_15 : decode cX1_soonest 15 = .ok (.iload_n 3, 1) := dk_29 (dk_at dksX1_soonest_0 15 rfl rfl)
theorem dX1_soonest_16 : decode cX1_soonest 16 = .ok (.iconst 0, 1) := dk_3 (dk_at dksX1_soonest_0 16 rfl rfl)
theorem dX1_soonest_17 : decode cX1_soonest 17 = .ok (.iconst 1, 1) := dk_4 (dk_at dksX1_soonest_0 17 rfl rfl)
theorem dX1_soonest_18 : decode cX1_soonest 18 = .ok (.invokestatic 68, 3) := dk_184 0 68 (dk_at dksX1_soonest_0 18 rfl rfl)
theorem dX1_soonest_21 : decode cX1_soonest 21 = .ok (.ifCond .ne 7, 3) := dk_154 0 7 (dk_at dksX1_soonest_0 21 rfl rfl)
theorem dX1_soonest_24 : decode cX1_soonest 24 = .ok (.sipush (-2000), 3) := dk_17 248 48 (dk_at dksX1_soonest_1 0 rfl rfl)
theorem dX1_soonest_27 : decode cX1_soonest 27 = .ok (.ireturn, 1) := dk_172 (dk_at dksX1_soonest_1 3 rfl rfl)
theorem dX1_soonest_28 : decode cX1_soonest 28 = .ok (.aload_n 0, 1) := dk_42 (dk_at dksX1_soonest_1 4 rfl rfl)
theorem dX1_soonest_29 : decode cX1_soonest 29 = .ok (.getfield 26, 3) := dk_180 0 26 (dk_at dksX1_soonest_1 5 rfl rfl)
theorem dX1_soonest_32 : decode cX1_soonest 32 = .ok (.getfield 212, 3) := dk_180 0 212 (dk_at dksX1_soonest_1 8 rfl rfl)
theorem dX1_soonest_35 : decode cX1_soonest 35 = .ok (.iload_n 2, 1) := dk_28 (dk_at dksX1_soonest_1 11 rfl rfl)
theorem dX1_soonest_36 : decode cX1_soonest 36 = .ok (.invokevirtual 153, 3) := dk_182 0 153 (dk_at dksX1_soonest_1 12 rfl rfl)
theorem dX1_soonest_39 : decode cX1_soonest 39 = .ok (.checkcast 165, 3) := dk_192 0 165 (dk_at dksX1_soonest_1 15 rfl rfl)
theorem dX1_soonest_42 : decode cX1_soonest 42 = .ok (.astore 4, 2) := dk_58 4 (dk_at dksX1_soonest_1 18 rfl rfl)
theorem dX1_soonest_44 : decode cX1_soonest 44 = .ok (.aload_n 0, 1) := dk_42 (dk_at dksX1_soonest_1 20 rfl rfl)
theorem dX1_soonest_45 : decode cX1_soonest 45 = .ok (.aload_n 0, 1) := dk_42 (dk_at dksX1_soonest_1 21 rfl rfl)
theorem dX1_soonest_46 : decode cX1_soonest 46 = .ok (.getfield 45, 3) := dk_180 0 45 (dk_at dksX1_soonest_2 0 rfl rfl)
theorem dX1_soonest_49 : decode cX1_soonest 49 = .ok (.iload_n 1, 1) := dk_27 (dk_at dksX1_soonest_2 3 rfl rfl)
theorem dX1_soonest_50 : decode cX1_soonest 50 = .ok (.aaload, 1) := dk_50 (dk_at dksX1_soonest_2 4 rfl rfl)
theorem dX1_soonest_51 : decode cX1_soonest 51 = .ok (.aload 4, 2) := dk_25 4 (dk_at dksX1_soonest_2 5 rfl rfl)
theorem dX1_soonest_53 : decode cX1_soonest 53 = .ok (.getfield 215, 3) := dk_180 0 215 (dk_at dksX1_soonest_2 7 rfl rfl)
theorem dX1_soonest_56 : decode cX1_soonest 56 = .ok (.invokevirtual 365, 3) := dk_182 1 109 (dk_at dksX1_soonest_2 10 rfl rfl)
theorem dX1_soonest_59 : decode cX1_soonest 59 = .ok (.astore 5, 2) := dk_58 5 (dk_at dksX1_soonest_2 13 rfl rfl)
theorem dX1_soonest_61 : decode cX1_soonest 61 = .ok (.aload 5, 2) := dk_25 5 (dk_at dksX1_soonest_2 15 rfl rfl)
theorem dX1_soonest_63 : decode cX1_soonest 63 = .ok (.getfield 146, 3) := dk_180 0 146 (dk_at dksX1_soonest_2 17 rfl rfl)
theorem dX1_soonest_66 : decode cX1_soonest 66 = .ok (.ifCond .ne 13, 3) := dk_154 0 13 (dk_at dksX1_soonest_2 20 rfl rfl)
theorem dX1_soonest_69 : decode cX1_soonest 69 = .ok (.aload 5, 2) := dk_25 5 (dk_at dksX1_soonest_3 0 rfl rfl)
theorem dX1_soonest_71 : decode cX1_soonest 71 = .ok (.aload 4, 2) := dk_25 4 (dk_at dksX1_soonest_3 2 rfl rfl)
theorem dX1_soonest_73 : decode cX1_soonest 73 = .ok (.getfield 164, 3) := dk_180 0 164 (dk_at dksX1_soonest_3 4 rfl rfl)
theorem dX1_soonest_76 : decode cX1_soonest 76 = .ok (.invokestatic 157, 3) := dk_184 0 157 (dk_at dksX1_soonest_3 7 rfl rfl)
theorem dX1_soonest_79 : decode cX1_soonest 79 = .ok (.aload 5, 2) := dk_25 5 (dk_at dksX1_soonest_3 10 rfl rfl)
theorem dX1_soonest_81 : decode cX1_soonest 81 = .ok (.getfield 146, 3) := dk_180 0 146 (dk_at dksX1_soonest_3 12 rfl rfl)
theorem dX1_soonest_84 : decode cX1_soonest 84 = .ok (.ifCond .eq 7, 3) := dk_153 0 7 (dk_at dksX1_soonest_3 15 rfl rfl)
theorem dX1_soonest_87 : decode cX1_soonest 87 = .ok (.sipush (-1000), 3) := dk_17 252 24 (dk_at dksX1_soonest_3 18 rfl rfl)
theorem dX1_soonest_90 : decode cX1_soonest 90 = .ok (.ireturn, 1) := dk_172 (dk_at dksX1_soonest_3 21 rfl rfl)
theorem dX1_soonest_91 : decode cX1_soonest 91 = .ok (.aload 5, 2) := dk_25 5 (dk_at dksX1_soonest_3 22 rfl rfl)
theorem dX1_soonest_93 : decode cX1_soonest 93 = .ok (.iconst 0, 1) := dk_3 (dk_at dksX1_soonest_4 0 rfl rfl)
theorem dX1_soonest_94 : decode cX1_soonest 94 = .ok (.aload 5, 2) := dk_25 5 (dk_at dksX1_soonest_4 1 rfl rfl)
theorem dX1_soonest_96 : decode cX1_soonest 96 = .ok (.getfield 359, 3) := dk_180 1 103 (dk_at dksX1_soonest_4 3 rfl rfl)
theorem dX1_soonest_99 : decode cX1_soonest 99 = .ok (.iconst 1, 1) := dk_4 (dk_at dksX1_soonest_4 6 rfl rfl)
theorem dX1_soonest_100 : decode cX1_soonest 100 = .ok (.isub, 1) := dk_100 (dk_at dksX1_soonest_4 7 rfl rfl)
theorem dX1_soonest_101 : decode cX1_soonest 101 = .ok (.iconst 0, 1) := dk_3 (dk_at dksX1_soonest_4 8 rfl rfl)
theorem dX1_soonest_102 : decode cX1_soonest 102 = .ok (.iload_n 3, 1) := dk_29 (dk_at dksX1_soonest_4 9 rfl rfl)
theorem dX1_soonest_103 : decode cX1_soonest 103 = .ok (.invokevirtual 369, 3) := dk_182 1 113 (dk_at dksX1_soonest_4 10 rfl rfl)
theorem dX1_soonest_106 : decode cX1_soonest 106 = .ok (.ireturn, 1) := dk_172 (dk_at dksX1_soonest_4 13 rfl rfl)
def dkwX1_pairs_6 : List UInt8 := [132, 5, 1, 167, 255, 155, 21, 4, 172]
abbrev dktX1_pairs_6 : List UInt8 := dkwX1_pairs_6 ++ []
def dkwX1_pairs_5 : List UInt8 := [21, 6, 184, 1, 117, 154, 0, 7, 4, 167, 0, 4, 3, 96, 54, 4, 132, 6, 1, 167, 255, 173]
abbrev dktX1_pairs_5 : List UInt8 := dkwX1_pairs_5 ++ dktX1_pairs_6
def dkwX1_pairs_4 : List UInt8 := [153, 0, 32, 28, 4, 160, 0, 11, 21, 7, 4, 126, 4, 159, 0, 19, 28, 5, 160, 0, 18, 45, 21, 5]
abbrev dktX1_pairs_4 : List UInt8 := dkwX1_pairs_4 ++ dktX1_pairs_5
def dkwX1_pairs_3 : List UInt8 := [54, 7, 21, 5, 21, 6, 159, 0, 57, 21, 7, 178, 0, 1, 160, 0, 6, 167, 0, 46, 21, 4, 28]
abbrev dktX1_pairs_3 : List UInt8 := dkwX1_pairs_3 ++ dktX1_pairs_4
def dkwX1_pairs_2 : List UInt8 := [162, 0, 98, 3, 54, 6, 21, 6, 45, 180, 1, 103, 162, 0, 80, 45, 21, 5, 21, 6, 182, 1, 85]
abbrev dktX1_pairs_2 : List UInt8 := dkwX1_pairs_2 ++ dktX1_pairs_3
def dkwX1_pairs_1 : List UInt8 := [78, 45, 180, 0, 146, 153, 0, 6, 16, 254, 172, 3, 54, 4, 3, 54, 5, 21, 5, 45, 180, 1, 103]
abbrev dktX1_pairs_1 : List UInt8 := dkwX1_pairs_1 ++ dktX1_pairs_2
def dkwX1_pairs_0 : List UInt8 := [27, 184, 1, 49, 153, 0, 12, 28, 3, 5, 184, 0, 68, 154, 0, 5, 2, 172, 42, 180, 0, 45, 27, 50]
abbrev dktX1_pairs_0 : List UInt8 := dkwX1_pairs_0 ++ dktX1_pairs_1
theorem dksX1_pairs_0 : cX1_pairs.data.toList.drop 0 = dktX1_pairs_0 := by decide +kernel
theorem dksX1_pairs_1 : cX1_pairs.data.toList.drop 24 = dktX1_pairs_1 := dk_seg dksX1_pairs_0 24 rfl rfl
theorem dksX1_pairs_2 : cX1_pairs.data.toList.drop 47 = dktX1_pairs_2 := dk_seg dksX1_pairs_1 23 rfl rfl
theorem dksX1_pairs_3 : cX1_pairs.data.toList.drop 70 = dktX1_pairs_3 := dk_seg dksX1_pairs_2 23 rfl rfl
theorem dksX1_pairs_4 : cX1_pairs.data.toList.drop 93 = dktX1_pairs_4 := dk_seg dksX1_pairs_3 23 rfl rfl
theorem dksX1_pairs_5 : cX1_pairs.data.toList.drop 117 = dktX1_pairs_5 := dk_seg dksX1_pairs_4 24 rfl rfl
theorem dksX1_pairs_6 : cX1_pairs.data.toList.drop 139 = dktX1_pairs_6 := dk_seg dksX1_pairs_5 22 rfl rfl
theorem dX1_pairs_0 : decode cX1_pairs 0 = .ok (.iload_n 1, 1) := dk_27 (dk_at dksX1_pairs_0 0 rfl rfl)
theorem dX1_pairs_1 : decode cX1_pairs 1 = .ok (.invokestatic 305, 3) := dk_184 1 49 (dk_at dksX1_pairs_0 1 rfl rfl)
theorem dX1_pairs_4 : decode cX1_pairs 4 = .ok (.ifCond .eq 12, 3) := dk_153 0 12 (dk_at dksX1_pairs_0 4 rfl rfl)
theorem dX1_pairs_7 : decode cX1_pairs 7 = .ok (.iload_n 2, 1) := dk_28 (dk_at dksX1_pairs_0 7 rfl rfl)
theorem dX1_pairs_8 : decode cX1_pairs 8 = .ok (.iconst 0, 1) := dk_3 (dk_at dksX1_pairs_0 8 rfl rfl)
theorem dX1_pairs_9 : decode cX1_pairs 9 = .ok (.iconst 2, 1) := dk_5 (dk_at dksX1_pairs_0 9 rfl rfl)
theorem dX1_pairs_10 : decode cX1_pairs 10 = .ok (.invokestatic 68, 3) := dk_184 0 68 (dk_at dksX1_pairs_0 10 rfl rfl)
theorem dX1_pairs_13 : decode cX1_pairs 13 = .ok (.ifCond .ne 5, 3) := dk_154 0 5 (dk_at dksX1_pairs_0 13 rfl rfl)
theorem dX1_pairs_16 : decode cX1_pairs 16 = .ok (.iconst (-1), 1) := dk_2 (dk_at dksX1_pairs_0 16 rfl rfl)
theorem dX1_pairs_17 : decode cX1_pairs 17 = .ok (.ireturn, 1) := dk_172 (dk_at dksX1_pairs_0 17 rfl rfl)
theorem dX1_pairs_18 : decode cX1_pairs 18 = .ok (.aload_n 0, 1) := dk_42 (dk_at dksX1_pairs_0 18 rfl rfl)
theorem dX1_pairs_19 : decode cX1_pairs 19 = .ok (.getfield 45, 3) := dk_180 0 45 (dk_at dksX1_pairs_0 19 rfl rfl)
theorem dX1_pairs_22 : decode cX1_pairs 22 = .ok (.iload_n 1, 1) := dk_27 (dk_at dksX1_pairs_0 22 rfl rfl)
theorem dX1_pairs_23 : decode cX1_pairs 23 = .ok (.aaload, 1) := dk_50 (dk_at dksX1_pairs_0 23 rfl rfl)
theorem dX1_pairs_24 : decode cX1_pairs 24 = .ok (.astore_n 3, 1) := dk_78 (dk_at dksX1_pairs_1 0 rfl rfl)
theorem dX1_pairs_25 : decode cX1_pairs 25 = .ok (.aload_n 3, 1) := dk_45 (dk_at dksX1_pairs_1 1 rfl rfl)
theorem dX1_pairs_26 : decode cX1_pairs 26 = .ok (.getfield 146, 3) := dk_180 0 146 (dk_at dksX1_pairs_1 2 rfl rfl)
theorem dX1_pairs_29 : decode cX1_pairs 29 = .ok (.ifCond .eq 6, 3) := dk_153 0 6 (dk_at dksX1_pairs_1 5 rfl rfl)
theorem dX1_pairs_32 : decode cX1_pairs 32 = .ok (.bipush (-2), 2) := dk_16 254 (dk_at dksX1_pairs_1 8 rfl rfl)
theorem dX1_pairs_34 : decode cX1_pairs 34 = .ok (.ireturn, 1) := dk_172 (dk_at dksX1_pairs_1 10 rfl rfl)
theorem dX1_pairs_35 : decode cX1_pairs 35 = .ok (.iconst 0, 1) := dk_3 (dk_at dksX1_pairs_1 11 rfl rfl)
theorem dX1_pairs_36 : decode cX1_pairs 36 = .ok (.istore 4, 2) := dk_54 4 (dk_at dksX1_pairs_1 12 rfl rfl)
theorem dX1_pairs_38 : decode cX1_pairs 38 = .ok (.iconst 0, 1) := dk_3 (dk_at dksX1_pairs_1 14 rfl rfl)
theorem dX1_pairs_39 : decode cX1_pairs 39 = .ok (.istore 5, 2) := dk_54 5 (dk_at dksX1_pairs_1 15 rfl rfl)
theorem dX1_pairs_41 : decode cX1_pairs 41 = .ok (.iload 5, 2) := dk_21 5 (dk_at dksX1_pairs_1 17 rfl rfl)
theorem dX1_pairs_43 : decode cX1_pairs 43 = .ok (.aload_n 3, 1) := dk_45 (dk_at dksX1_pairs_1 19 rfl rfl)
theorem dX1_pairs_44 : decode cX1_pairs 44 = .ok (.getfield 359, 3) := dk_180 1 103 (dk_at dksX1_pairs_1 20 rfl rfl)
theorem dX1_pairs_47 : decode cX1_pairs 47 = .ok (.if_icmp .ge 98, 3) := dk_162 0 98 (dk_at dksX1_pairs_2 0 rfl rfl)
theorem dX1_pairs_50 : decode cX1_pairs 50 = .ok (.iconst 0, 1) := dk_3 (dk_at dksX1_pairs_2 3 rfl rfl)
theorem dX1_pairs_51 : decode cX1_pairs 51 = .ok (.istore 6, 2) := dk_54 6 (dk_at dksX1_pairs_2 4 rfl rfl)
theorem dX1_pairs_53 : decode cX1_pairs 53 = .ok (.iload 6, 2) := dk_21 6 (dk_at dksX1_pairs_2 6 rfl rfl)
theorem dX1_pairs_55 : decode cX1_pairs 55 = .ok (.aload_n 3, 1) := dk_45 (dk_at dksX1_pairs_2 8 rfl rfl)
theorem dX1_pairs_56 : decode cX1_pairs 56 = .ok (.getfield 359, 3) := dk_180 1 103 (dk_at dksX1_pairs_2 9 rfl rfl)
theorem dX1_pairs_59 : decode cX1_pairs 59 = .ok (.if_icmp .ge 80, 3) := dk_162 0 80 (dk_at dksX1_pairs_2 12 rfl rfl)
theorem dX1_pairs_62 : decode cX1_pairs 62 = .ok (.aload_n 3, 1) := dk_45 (dk_at dksX1_pairs_2 15 rfl rfl)
theorem dX1_pairs_63 : decode cX1_pairs 63 = .ok (.iload 5, 2) := dk_21 5 (dk_at dksX1_pairs_2 16 rfl rfl)
theorem dX1_pairs_65 : decode cX1_pairs 65 = .ok (.iload 6, 2) := dk_21 6 (dk_at dksX1_pairs_2 18 rfl rfl)
theorem dX1_pairs_67 : decode cX1_pairs 67 = .ok (.invokevirtual 341, 3) := dk_182 1 85 (dk_at dksX1_pairs_2 20 rfl rfl)
theorem dX1_pairs_70 : decode cX1_pairs 70 = .ok (.istore 7, 2) := dk_54 7 (dk_at dksX1_pairs_3 0 rfl rfl)
theorem dX1_pairs_72 : decode cX1_pairs 72 = .ok (.iload 5, 2) := dk_21 5 (dk_at dksX1_pairs_3 2 rfl rfl)
theorem dX1_pairs_74 : decode cX1_pairs 74 = .ok (.iload 6, 2) := dk_21 6 (dk_at dksX1_pairs_3 4 rfl rfl)
theorem dX1_pairs_76 : decode cX1_pairs 76 = .ok (.if_icmp .eq 57, 3) := dk_159 0 57 (dk_at dksX1_pairs_3 6 rfl rfl)
theorem dX1_pairs_79 : decode cX1_pairs 79 = .ok (.iload 7, 2) := dk_21 7 (dk_at dksX1_pairs_3 9 rfl rfl)
theorem dX1_pairs_81 : decode cX1_pairs 81 = .ok (.getstatic 1, 3) := dk_178 0 1 (dk_at dksX1_pairs_3 11 rfl rfl)
theorem dX1_pairs_84 : decode cX1_pairs 84 = .ok (.if_icmp .ne 6, 3) := dk_160 0 6 (dk_at dksX1_pairs_3 14 rfl rfl)
theorem dX1_pairs_87 : decode cX1_pairs 87 = .ok (.goto 46, 3) := dk_167 0 46 (dk_at dksX1_pairs_3 17 rfl rfl)
theorem dX1_pairs_90 : decode cX1_pairs 90 = .ok (.iload 4, 2) := dk_21 4 (dk_at dksX1_pairs_3 20 rfl rfl)
theorem dX1_pairs_92 : decode cX1_pairs 92 = .ok (.iload_n 2, 1) := dk_28 (dk_at dksX1_pairs_3 22 rfl rfl)
theorem dX1_pairs_93 : decode cX1_pairs 93 = .ok (.ifCond .eq 32, 3) := dk_153 0 32 (dk_at dksX1_pairs_4 0 rfl rfl)
theorem dX1_pairs_96 : decode cX1_pairs 96 = .ok (.iload_n 2, 1) := dk_28 (dk_at dksX1_pairs_4 3 rfl rfl)
theorem dX1_pairs_97 : decode cX1_pairs 97 = .ok (.iconst 1, 1) := dk_4 (dk_at dksX1_pairs_4 4 rfl rfl)
theorem dX1_pairs_98 : decode cX1_pairs 98 = .ok (.if_icmp .ne 11, 3) := dk_160 0 11 (dk_at dksX1_pairs_4 5 rfl rfl)
theorem dX1_pairs_101 : decode cX1_pairs 101 = .ok (.iload 7, 2) := dk_21 7 (dk_at dksX1_pairs_4 8 rfl rfl)
theorem dX1_pairs_103 : decode cX1_pairs 103 = .ok (.iconst 1, 1) := dk_4 (dk_at dksX1_pairs_4 10 rfl rfl)
theorem dX1_pairs_104 : decode cX1_pairs 104 = .ok (.iand, 1) := dk_126 (dk_at dksX1_pairs_4 11 rfl rfl)
theorem dX1_pairs_105 : decode cX1_pairs 105 = .ok (.iconst 1, 1) := dk_4 (dk_at dksX1_pairs_4 12 rfl rfl)
theorem dX1_pairs_106 : decode cX1_pairs 106 = .ok (.if_icmp .eq 19, 3) := dk_159 0 19 (dk_at dksX1_pairs_4 13 rfl rfl)
theorem dX1_pairs_109 : decode cX1_pairs 109 = .ok (.iload_n 2, 1) := dk_28 (dk_at dksX1_pairs_4 16 rfl rfl)
theorem dX1_pairs_110 : decode cX1_pairs 110 = .ok (.iconst 2, 1) := dk_5 (dk_at dksX1_pairs_4 17 rfl rfl)
theorem dX1_pairs_111 : decode cX1_pairs 111 = .ok (.if_icmp .ne 18, 3) := dk_160 0 18 (dk_at dksX1_pairs_4 18 rfl rfl)
theorem dX1_pairs_114 : decode cX1_pairs 114 = .ok (.aload_n 3, 1) := dk_45 (dk_at dksX1_pairs_4 21 rfl rfl)
theorem dX1_pairs_115 : decode cX1_pairs 115 = .ok (.iload 5, 2) := dk_21 5 (dk_at dksX1_pairs_4 22 rfl rfl)
theorem dX1_pairs_117 : decode cX1_pairs 117 = .ok (.iload 6, 2) := dk_21 6 (dk_at dksX1_pairs_5 0 rfl rfl)
theorem dX1_pairs_119 : decode cX1_pairs 119 = .ok (.invokestatic 373, 3) := dk_184 1 117 (dk_at dksX1_pairs_5 2 rfl rfl)
theorem dX1_pairs_122 : decode cX1_pairs 122 = .ok (.ifCond .ne 7, 3) := dk_154 0 7 (dk_at dksX1_pairs_5 5 rfl rfl)
theorem dX1_pairs_125 : decode cX1_pairs 125 = .ok (.iconst 1, 1) := dk_4 (dk_at dksX1_pairs_5 8 rfl rfl)
theorem dX1_pairs_126 : decode cX1_pairs 126 = .ok (.goto 4, 3) := dk_167 0 4 (dk_at dksX1_pairs_5 9 rfl rfl)
theorem dX1_pairs_129 : decode cX1_pairs 129 = .ok (.iconst 0, 1) := dk_3 (dk_at dksX1_pairs_5 12 rfl rfl)
theorem dX1_pairs_130 : decode cX1_pairs 130 = .ok (.iadd, 1) := dk_96 (dk_at dksX1_pairs_5 13 rfl rfl)
theorem dX1_pairs_131 : decode cX1_pairs 131 = .ok (.istore 4, 2) := dk_54 4 (dk_at dksX1_pairs_5 14 rfl rfl)
theorem dX1_pairs_133 : decode cX1_pairs 133 = .ok (.iinc 6 1, 3) := dk_132 6 1 (dk_at dksX1_pairs_5 16 rfl rfl)
theorem dX1_pairs_136 : decode cX1_pairs 136 = .ok (.goto (-83), 3) := dk_167 255 173 (dk_at dksX1_pairs_5 19 rfl rfl)
theorem dX1_pairs_139 : decode cX1_pairs 139 = .ok (.iinc 5 1, 3) := dk_132 5 1 (dk_at dksX1_pairs_6 0 rfl rfl)
theorem dX1_pairs_142 : decode cX1_pairs 142 = .ok (.goto (-101), 3) := dk_167 255 155 (dk_at dksX1_pairs_6 3 rfl rfl)
theorem dX1_pairs_145 : decode cX1_pairs 145 = .ok (.iload 4, 2) := dk_21 4 (dk_at dksX1_pairs_6 6 rfl rfl)
theorem dX1_pairs_147 : decode cX1_pairs 147 = .ok (.ireturn, 1) := dk_172 (dk_at dksX1_pairs_6 8 rfl rfl)
def dkwX1_follows_2 : List UInt8 := [132, 3, 1, 167, 255, 209, 3, 172]
abbrev dktX1_follows_2 : List UInt8 := dkwX1_follows_2 ++ []
def dkwX1_follows_1 : List UInt8 := [182, 1, 85, 42, 29, 28, 182, 1, 85, 184, 1, 97, 42, 27, 28, 182, 1, 85, 163, 0, 5, 4, 172]
abbrev dktX1_follows_1 : List UInt8 := dkwX1_follows_1 ++ dktX1_follows_2
def dkwX1_follows_0 : List UInt8 := [3, 62, 29, 42, 180, 1, 103, 162, 0, 45, 29, 27, 159, 0, 34, 29, 28, 159, 0, 29, 42, 27, 29]
abbrev dktX1_follows_0 : List UInt8 := dkwX1_follows_0 ++ dktX1_follows_1
theorem dksX1_follows_0 : cX1_follows.data.toList.drop 0 = dktX1_follows_0 := by decide +kernel
theorem dksX1_follows_1 : cX1_follows.data.toList.drop 23 = dktX1_follows_1 := dk_seg dksX1_follows_0 23 rfl rfl
theorem dksX1_follows_2 : cX1_follows.data.toList.drop 46 = dktX1_follows_2 := dk_seg dksX1_follows_1 23 rfl rfl
theorem dX1_follows_0 : decode cX1_follows 0 = .ok (.iconst 0, 1) := dk_3 (dk_at dksX1_follows_0 0 rfl rfl)
theorem dX1_follows_1 : decode cX1_follows 1 = .ok (.istore_n 3, 1) := dk_62 (dk_at dksX1_follows_0 1 rfl rfl)
theorem dX1_follows_2 : decode cX1_follows 2 = .ok (.iload_n 3, 1) := dk_29 (dk_at dksX1_follows_0 2 rfl rfl)
theorem dX1_follows_3 : decode cX1_follows 3 = .ok (.aload_n 0, 1) := dk_42 (dk_at dksX1_follows_0 3 rfl rfl)
theorem dX1_follows_4 : decode cX1_follows 4 = .ok (.getfield 359, 3) := dk_180 1 103 (dk_at dksX1_follows_0 4 rfl rfl)
theorem dX1_follows_7 : decode cX1_follows 7 = .ok (.if_icmp .ge 45, 3) := dk_162 0 45 (dk_at dksX1_follows_0 7 rfl rfl)
theorem dX1_follows_10 : decode cX1_follows 10 = .ok (.iload_n 3, 1) := dk_29 (dk_at dksX1_follows_0 10 rfl rfl)
theorem dX1_follows_11 : decode cX1_follows 11 = .ok (.iload_n 1, 1) := dk_27 (dk_at dksX1_follows_0 11 rfl rfl)
theorem dX1_follows_12 : decode cX1_follows 12 = .ok (.if_icmp .eq 34, 3) := dk_159 0 34 (dk_at dksX1_follows_0 12 rfl rfl)
theorem dX1_follows_15 : decode cX1_follows 15 = .ok (.iload_n 3, 1) := dk_29 (dk_at dksX1_follows_0 15 rfl rfl)
theorem dX1_follows_16 : decode cX1_follows 16 = .ok (.iload_n 2, 1) := dk_28 (dk_at dksX1_follows_0 16 rfl rfl)
theorem dX1_follows_17 : decode cX1_follows 17 = .ok (.if_icmp .eq 29, 3) := dk_159 0 29 (dk_at dksX1_follows_0 17 rfl rfl)
theorem dX1_follows_20 : decode cX1_follows 20 = .ok (.aload_n 0, 1) := dk_42 (dk_at dksX1_follows_0 20 rfl rfl)
theorem dX1_follows_21 : decode cX1_follows 21 = .ok (.iload_n 1, 1) := dk_27 (dk_at dksX1_follows_0 21 rfl rfl)
theorem dX1_follows_22 : decode cX1_follows 22 = .ok (.iload_n 3, 1) := dk_29 (dk_at dksX1_follows_0 22 rfl rfl)
theorem dX1_follows_23 : decode cX1_follows 23 = .ok (.invokevirtual 341, 3) := dk_182 1 85 (dk_at dksX1_follows_1 0 rfl rfl)
theorem dX1_follows_26 : decode cX1_follows 26 = .ok (.aload_n 0, 1) := dk_42 (dk_at dksX1_follows_1 3 rfl rfl)
theorem dX1_follows_27 : decode cX1_follows 27 = .ok (.iload_n 3, 1) := dk_29 (dk_at dksX1_follows_1 4 rfl rfl)
theorem dX1_follows_28 : decode cX1_follows 28 = .ok (.iload_n 2, 1) := dk_28 (dk_at dksX1_follows_1 5 rfl rfl)
theorem dX1_follows_29 : decode cX1_follows 29 = .ok (.invokevirtual 341, 3) := dk_182 1 85 (dk_at dksX1_follows_1 6 rfl rfl)
theorem dX1_follows_32 : decode cX1_follows 32 = .ok (.invokestatic 353, 3) := dk_184 1 97 (dk_at dksX1_follows_1 9 rfl rfl)
theorem dX1_follows_35 : decode cX1_follows 35 = .ok (.aload_n 0, 1) := dk_42 (dk_at dksX1_follows_1 12 rfl rfl)
theorem dX1_follows_36 : decode cX1_follows 36 = .ok (.iload_n 1, 1) := dk_27 (dk_at dksX1_follows_1 13 rfl rfl)
theorem dX1_follows_37 : decode cX1_follows 37 = .ok (.iload_n 2, 1) := dk_28 (dk_at dksX1_follows_1 14 rfl rfl)
theorem dX1_follows_38 : decode cX1_follows 38 = .ok (.invokevirtual 341, 3) := dk_182 1 85 (dk_at dksX1_follows_1 15 rfl rfl)
theorem dX1_follows_41 : decode cX1_follows 41 = .ok (.if_icmp .gt 5, 3) := dk_163 0 5 (dk_at dksX1_follows_1 18 rfl rfl)
theorem dX1_follows_44 : decode cX1_follows 44 = .ok (.iconst 1, 1) := dk_4 (dk_at dksX1_follows_1 21 rfl rfl)
theorem dX1_follows_45 : decode cX1_follows 45 = .ok (.ireturn, 1) := dk_172 (dk_at dksX1_follows_1 22 rfl rfl)
theorem dX1_follows_46 : decode cX1_follows 46 = .ok (.iinc 3 1, 3) := dk_132 3 1 (dk_at dksX1_follows_2 0 rfl rfl)
theorem dX1_follows_49 : decode cX1_follows 49 = .ok (.goto (-47), 3) := dk_167 255 209 (dk_at dksX1_follows_2 3 rfl rfl)
theorem dX1_follows_52 : decode cX1_follows 52 = .ok (.iconst 0, 1) := dk_3 (dk_at dksX1_follows_2 6 rfl rfl)
theorem dX1_follows_53 : decode cX1_follows 53 = .ok (.ireturn, 1) := dk_172 (dk_at dksX1_follows_2 7 rfl rfl)
def dkwX1_whole_4 : List UInt8 := [182, 0, 208, 160, 0, 6, 21, 4, 172, 45, 21, 5, 92, 46, 4, 96, 79, 167, 255, 169]
abbrev dktX1_whole_4 : List UInt8 := dkwX1_whole_4 ++ []
def dkwX1_whole_3 : List UInt8 := [28, 160, 0, 14, 45, 21, 5, 3, 79, 132, 5, 1, 167, 255, 225, 21, 5, 42, 180, 0, 26, 180, 0, 254]
abbrev dktX1_whole_3 : List UInt8 := dkwX1_whole_3 ++ dktX1_whole_4
def dkwX1_whole_2 : List UInt8 := [54, 4, 3, 54, 5, 21, 5, 42, 180, 0, 26, 180, 0, 254, 182, 0, 208, 162, 0, 22, 45, 21, 5, 46]
abbrev dktX1_whole_2 : List UInt8 := dkwX1_whole_2 ++ dktX1_whole_3
def dkwX1_whole_1 : List UInt8 := [54, 4, 21, 4, 42, 180, 0, 45, 27, 50, 4, 45, 182, 1, 93, 153, 0, 7, 4, 167, 0, 4, 3, 96]
abbrev dktX1_whole_1 : List UInt8 := dkwX1_whole_1 ++ dktX1_whole_2
def dkwX1_whole_0 : List UInt8 := [27, 184, 1, 49, 153, 0, 13, 28, 3, 16, 9, 184, 0, 68, 154, 0, 5, 2, 172, 7, 188, 10, 78, 3]
abbrev dktX1_whole_0 : List UInt8 := dkwX1_whole_0 ++ dktX1_whole_1
theorem dksX1_whole_0 : cX1_whole.data.toList.drop 0 = dktX1_whole_0 := by decide +kernel
theorem dksX1_whole_1 : cX1_whole.data.toList.drop 24 = dktX1_whole_1 := dk_seg dksX1_whole_0 24 rfl rfl
theorem dksX1_whole_2 : cX1_whole.data.toList.drop 48 = dktX1_whole_2 := dk_seg dksX1_whole_1 24 rfl rfl
theorem dksX1_whole_3 : cX1_whole.data.toList.drop 72 = dktX1_whole_3 := dk_seg dksX1_whole_2 24 rfl rfl
theorem dksX1_whole_4 : cX1_whole.data.toList.drop 96 = dktX1_whole_4 := dk_seg dksX1_whole_3 24 rfl rfl
theorem dX1_whole_0 : decode cX1_whole 0 = .ok (.iload_n 1, 1) := dk_27 (dk_at dksX1_whole_0 0 rfl rfl)
theorem dX1_whole_1 : decode cX1_whole 1 = .ok (.invokestatic 305, 3) := dk_184 1 49 (dk_at dksX1_whole_0 1 rfl rfl)
theorem dX1_whole_4 : decode cX1_whole 4 = .ok (.ifCond .eq 13, 3) := dk_153 0 13 (dk_at dksX1_whole_0 4 rfl rfl)
theorem dX1_whole_7 : decode cX1_whole 7 = .ok (.iload_n 2, 1) := dk_28 (dk_at dksX1_whole_0 7 rfl rfl)
theorem dX1_whole_8 : decode cX1_whole 8 = .ok (.iconst 0, 1) := dk_3 (dk_at dksX1_whole_0 8 rfl rfl)
theorem dX1_whole_9 : decode cX1_whole 9 = .ok (.bipush 9, 2) := dk_16 9 (dk_at dksX1_whole_0 9 rfl rfl)
theorem dX1_whole_11 : decode cX1_whole 11 = .ok (.invokestatic 68, 3) := dk_184 0 68 (dk_at dksX1_whole_0 11 rfl rfl)
theorem dX1_whole_14 : decode cX1_whole 14 = .ok (.ifCond .ne 5, 3) := dk_154 0 5 (dk_at dksX1_whole_0 14 rfl rfl)
theorem dX1_whole_17 : decode cX1_whole 17 = .ok (.iconst (-1), 1) := dk_2 (dk_at dksX1_whole_0 17 rfl rfl)
theorem dX1_whole_18 : decode cX1_whole 18 = .ok (.ireturn, 1) := dk_172 (dk_at dksX1_whole_0 18 rfl rfl)
theorem dX1_whole_19 : decode cX1_whole 19 = .ok (.iconst 4, 1) := dk_7 (dk_at dksX1_whole_0 19 rfl rfl)
theorem dX1_whole_20 : decode cX1_whole 20 = .ok (.newarray .int, 2) := dk_188_10 (dk_at dksX1_whole_0 20 rfl rfl)
theorem dX1_whole_22 : decode cX1_whole 22 = .ok (.astore_n 3, 1) := dk_78 (dk_at dksX1_whole_0 22 rfl rfl)
theorem dX1_whole_23 : decode cX1_whole 23 = .ok (.iconst 0, 1) := dk_3 (dk_at dksX1_whole_0 23 rfl rfl)
theorem dX1_whole_24 : decode cX1_whole 24 = .ok (.istore 4, 2) := dk_54 4 (dk_at dksX1_whole_1 0 rfl rfl)
theorem dX1_whole_26 : decode cX1_whole 26 = .ok (.iload 4, 2) := dk_21 4 (dk_at dksX1_whole_1 2 rfl rfl)
theorem dX1_whole_28 : decode cX1_whole 28 = .ok (.aload_n 0, 1) := dk_42 (dk_at dksX1_whole_1 4 rfl rfl)
theorem dX1_whole_29 : decode cX1_whole 29 = .ok (.getfield 45, 3) := dk_180 0 45 (dk_at dksX1_whole_1 5 rfl rfl)
theorem dX1_whole_32 : decode cX1_whole 32 = .ok (.iload_n 1, 1) := dk_27 (dk_at dksX1_whole_1 8 rfl rfl)
theorem dX1_whole_33 : decode cX1_whole 33 = .ok (.aaload, 1) := dk_50 (dk_at dksX1_whole_1 9 rfl rfl)
theorem dX1_whole_34 : decode cX1_whole 34 = .ok (.iconst 1, 1) := dk_4 (dk_at dksX1_whole_1 10 rfl rfl)
theorem dX1_whole_35 : decode cX1_whole 35 = .ok (.aload_n 3, 1) := dk_45 (dk_at dksX1_whole_1 11 rfl rfl)
theorem dX1_whole_36 : decode cX1_whole 36 = .ok (.invokevirtual 349, 3) := dk_182 1 93 (dk_at dksX1_whole_1 12 rfl rfl)
theorem dX1_whole_39 : decode cX1_whole 39 = .ok (.ifCond .eq 7, 3) := dk_153 0 7 (dk_at dksX1_whole_1 15 rfl rfl)
theorem dX1_whole_42 : decode cX1_whole 42 = .ok (.iconst 1, 1) := dk_4 (dk_at dksX1_whole_1 18 rfl rfl)
theorem dX1_whole_43 : decode cX1_whole 43 = .ok (.goto 4, 3) := dk_167 0 4 (dk_at dksX1_whole_1 19 rfl rfl)
theorem dX1_whole_46 : decode cX1_whole 46 = .ok (.iconst 0, 1) := dk_3 (dk_at dksX1_whole_1 22 rfl rfl)
theorem dX1_whole_47 : decode cX1_whole 47 = .ok (.iadd, 1) := dk_96 (dk_at dksX1_whole_1 23 rfl rfl)
theorem dX1_whole_48 : decode cX1_whole 48 = .ok (.istore 4, 2) := dk_54 4 (dk_at dksX1_whole_2 0 rfl rfl)
theorem dX1_whole_50 : decode cX1_whole 50 = .ok (.iconst 0, 1) := dk_3 (dk_at dksX1_whole_2 2 rfl rfl)
theorem dX1_whole_51 : decode cX1_whole 51 = .ok (.istore 5, 2) := dk_54 5 (dk_at dksX1_whole_2 3 rfl rfl)
theorem dX1_whole_53 : decode cX1_whole 53 = .ok (.iload 5, 2) := dk_21 5 (dk_at dksX1_whole_2 5 rfl rfl)
theorem dX1_whole_55 : decode cX1_whole 55 = .ok (.aload_n 0, 1) := dk_42 (dk_at dksX1_whole_2 7 rfl rfl)
theorem dX1_whole_56 : decode cX1_whole 56 = .ok (.getfield 26, 3) := dk_180 0 26 (dk_at dksX1_whole_2 8 rfl rfl)
theorem dX1_whole_59 : decode cX1_whole 59 = .ok (.getfield 254, 3) := dk_180 0 254 (dk_at dksX1_whole_2 11 rfl rfl)
theorem dX1_whole_62 : decode cX1_whole 62 = .ok (.invokevirtual 208, 3) := dk_182 0 208 (dk_at dksX1_whole_2 14 rfl rfl)
theorem dX1_whole_65 : decode cX1_whole 65 = .ok (.if_icmp .ge 22, 3) := dk_162 0 22 (dk_at dksX1_whole_2 17 rfl rfl)
theorem dX1_whole_68 : decode cX1_whole 68 = .ok (.aload_n 3, 1) := dk_45 (dk_at dksX1_whole_2 20 rfl rfl)
theorem dX1_whole_69 : decode cX1_whole 69 = .ok (.iload 5, 2) := dk_21 5 (dk_at dksX1_whole_2 21 rfl rfl)
theorem dX1_whole_71 : decode cX1_whole 71 = .ok (.iaload, 1) := dk_46 (dk_at dksX1_whole_2 23 rfl rfl)
theorem dX1_whole_72 : decode cX1_whole 72 = .ok (.iload_n 2, 1) := dk_28 (dk_at dksX1_whole_3 0 rfl rfl)
theorem dX1_whole_73 : decode cX1_whole 73 = .ok (.if_icmp .ne 14, 3) := dk_160 0 14 (dk_at dksX1_whole_3 1 rfl rfl)
theorem dX1_whole_76 : decode cX1_whole 76 = .ok (.aload_n 3, 1) := dk_45 (dk_at dksX1_whole_3 4 rfl rfl)
theorem dX1_whole_77 : decode cX1_whole 77 = .ok (.iload 5, 2) := dk_21 5 (dk_at dksX1_whole_3 5 rfl rfl)
theorem dX1_whole_79 : decode cX1_whole 79 = .ok (.iconst 0, 1) := dk_3 (dk_at dksX1_whole_3 7 rfl rfl)
theorem dX1_whole_80 : decode cX1_whole 80 = .ok (.iastore, 1) := dk_79 (dk_at dksX1_whole_3 8 rfl rfl)
theorem dX1_whole_81 : decode cX1_whole 81 = .ok (.iinc 5 1, 3) := dk_132 5 1 (dk_at dksX1_whole_3 9 rfl rfl)
theorem dX1_whole_84 : decode cX1_whole 84 = .ok (.goto (-31), 3) := dk_167 255 225 (dk_at dksX1_whole_3 12 rfl rfl)
theorem dX1_whole_87 : decode cX1_whole 87 = .ok (.iload 5, 2) := dk_21 5 (dk_at dksX1_whole_3 15 rfl rfl)
theorem dX1_whole_89 : decode cX1_whole 89 = .ok (.aload_n 0, 1) := dk_42 (dk_at dksX1_whole_3 17 rfl rfl)
theorem dX1_whole_90 : decode cX1_whole 90 = .ok (.getfield 26, 3) := dk_180 0 26 (dk_at dksX1_whole_3 18 rfl rfl)
theorem dX1_whole_93 : decode cX1_whole 93 = .ok (.getfield 254, 3) := dk_180 0 254 (dk_at dksX1_whole_3 21 rfl rfl)
theorem dX1_whole_96 : decode cX1_whole 96 = .ok (.invokevirtual 208, 3) := dk_182 0 208 (dk_at dksX1_whole_4 0 rfl rfl)
theorem dX1_whole_99 : decode cX1_whole 99 = .ok (.if_icmp .ne 6, 3) := dk_160 0 6 (dk_at dksX1_whole_4 3 rfl rfl)
theorem dX1_whole_102 : decode cX1_whole 102 = .ok (.iload 4, 2) := dk_21 4 (dk_at dksX1_whole_4 6 rfl rfl)
theorem dX1_whole_104 : decode cX1_whole 104 = .ok (.ireturn, 1) := dk_172 (dk_at dksX1_whole_4 8 rfl rfl)
theorem dX1_whole_105 : decode cX1_whole 105 = .ok (.aload_n 3, 1) := dk_45 (dk_at dksX1_whole_4 9 rfl rfl)
theorem dX1_whole_106 : decode cX1_whole 106 = .ok (.iload 5, 2) := dk_21 5 (dk_at dksX1_whole_4 10 rfl rfl)
theorem dX1_whole_108 : decode cX1_whole 108 = .ok (.dup2, 1) := dk_92 (dk_at dksX1_whole_4 12 rfl rfl)
theorem dX1_whole_109 : decode cX1_whole 109 = .ok (.iaload, 1) := dk_46 (dk_at dksX1_whole_4 13 rfl rfl)
theorem dX1_whole_110 : decode cX1_whole 110 = .ok (.iconst 1, 1) := dk_4 (dk_at dksX1_whole_4 14 rfl rfl)
theorem dX1_whole_111 : decode cX1_whole 111 = .ok (.iadd, 1) := dk_96 (dk_at dksX1_whole_4 15 rfl rfl)
theorem dX1_whole_112 : decode cX1_whole 112 = .ok (.iastore, 1) := dk_79 (dk_at dksX1_whole_4 16 rfl rfl)
theorem dX1_whole_113 : decode cX1_whole 113 = .ok (.goto (-87), 3) := dk_167 255 169 (dk_at dksX1_whole_4 17 rfl rfl)
def dkwX1_first_4 : List UInt8 := [4, 96, 182, 1, 130, 172]
abbrev dktX1_first_4 : List UInt8 := dkwX1_first_4 ++ []
def dkwX1_first_3 : List UInt8 := [132, 4, 1, 167, 255, 232, 45, 182, 1, 127, 45, 180, 0, 146, 153, 0, 8, 16, 254, 167, 0, 10, 45, 28]
abbrev dktX1_first_3 : List UInt8 := dkwX1_first_3 ++ dktX1_first_4
def dkwX1_first_2 : List UInt8 := [54, 4, 21, 4, 45, 180, 1, 103, 162, 0, 21, 45, 21, 4, 3, 16, 100, 184, 1, 121, 182, 1, 124]
abbrev dktX1_first_2 : List UInt8 := dkwX1_first_2 ++ dktX1_first_3
def dkwX1_first_1 : List UInt8 := [180, 0, 146, 153, 0, 6, 16, 254, 172, 187, 0, 59, 89, 42, 180, 0, 45, 27, 50, 183, 0, 218, 78, 4]
abbrev dktX1_first_1 : List UInt8 := dkwX1_first_1 ++ dktX1_first_2
def dkwX1_first_0 : List UInt8 := [27, 184, 1, 49, 153, 0, 11, 42, 28, 182, 1, 1, 154, 0, 5, 2, 172, 42, 180, 0, 45, 27, 50]
abbrev dktX1_first_0 : List UInt8 := dkwX1_first_0 ++ dktX1_first_1
theorem dksX1_first_0 : cX1_first.data.toList.drop 0 = dktX1_first_0 := by decide +kernel
theorem dksX1_first_1 : cX1_first.data.toList.drop 23 = dktX1_first_1 := dk_seg dksX1_first_0 23 rfl rfl
theorem dksX1_first_2 : cX1_first.data.toList.drop 47 = dktX1_first_2 := dk_seg dksX1_first_1 24 rfl rfl
theorem dksX1_first_3 : cX1_first.data.toList.drop 70 = dktX1_first_3 := dk_seg dksX1_first_2 23 rfl rfl
theorem dksX1_first_4 : cX1_first.data.toList.drop 94 = dktX1_first_4 := dk_seg dksX1_first_3 24 rfl rfl
theorem dX1_first_0 : decode cX1_first 0 = .ok (.iload_n 1, 1) := dk_27 (dk_at dksX1_first_0 0 rfl rfl)
theorem dX1_first_1 : decode cX1_first 1 = .ok (.invokestatic 305, 3) := dk_184 1 49 (dk_at dksX1_first_0 1 rfl rfl)
theorem dX1_first_4 : decode cX1_first 4 = .ok (.ifCond .eq 11, 3) := dk_153 0 11 (dk_at dksX1_first_0 4 rfl rfl)
theorem dX1_first_7 : decode cX1_first 7 = .ok (.aload_n 0, 1) := dk_42 (dk_at dksX1_first_0 7 rfl rfl)
theorem dX1_first_8 : decode cX1_first 8 = .ok (.iload_n 2, 1) := dk_28 (dk_at dksX1_first_0 8 rfl rfl)
theorem dX1_first_9 : decode cX1_first 9 = .ok (.invokevirtual 257, 3) := dk_182 1 1 (dk_at dksX1_first_0 9 rfl rfl)
theorem dX1_first_12 : decode cX1_first 12 = .ok (.ifCond .ne 5, 3) := dk_154 0 5 (dk_at dksX1_first_0 12 rfl rfl)
theorem dX1_first_15 : decode cX1_first 15 = .ok (.iconst (-1), 1) := dk_2 (dk_at dksX1_first_0 15 rfl rfl)
theorem dX1_first_16 : decode cX1_first 16 = .ok (.ireturn, 1) := dk_172 (dk_at dksX1_first_0 16 rfl rfl)
theorem dX1_first_17 : decode cX1_first 17 = .ok (.aload_n 0, 1) := dk_42 (dk_at dksX1_first_0 17 rfl rfl)
theorem dX1_first_18 : decode cX1_first 18 = .ok (.getfield 45, 3) := dk_180 0 45 (dk_at dksX1_first_0 18 rfl rfl)
theorem dX1_first_21 : decode cX1_first 21 = .ok (.iload_n 1, 1) := dk_27 (dk_at dksX1_first_0 21 rfl rfl)
theorem dX1_first_22 : decode cX1_first 22 = .ok (.aaload, 1) := dk_50 (dk_at dksX1_first_0 22 rfl rfl)
theorem dX1_first_23 : decode cX1_first 23 = .ok (.getfield 146, 3) := dk_180 0 146 (dk_at dksX1_first_1 0 rfl rfl)
theorem dX1_first_26 : decode cX1_first 26 = .ok (.ifCond .eq 6, 3) := dk_153 0 6 (dk_at dksX1_first_1 3 rfl rfl)
theorem dX1_first_29 : decode cX1_first 29 = .ok (.bipush (-2), 2) := dk_16 254 (dk_at dksX1_first_1 6 rfl rfl)
theorem dX1_first_31 : decode cX1_first 31 = .ok (.ireturn, 1) := dk_172 (dk_at dksX1_first_1 8 rfl rfl)
theorem dX1_first_32 : decode cX1_first 32 = .ok (.new 59, 3) := dk_187 0 59 (dk_at dksX1_first_1 9 rfl rfl)
theorem dX1_first_35 : decode cX1_first 35 = .ok (.dup, 1) := dk_89 (dk_at dksX1_first_1 12 rfl rfl)
theorem dX1_first_36 : decode cX1_first 36 = .ok (.aload_n 0, 1) := dk_42 (dk_at dksX1_first_1 13 rfl rfl)
theorem dX1_first_37 : decode cX1_first 37 = .ok (.getfield 45, 3) := dk_180 0 45 (dk_at dksX1_first_1 14 rfl rfl)
theorem dX1_first_40 : decode cX1_first 40 = .ok (.iload_n 1, 1) := dk_27 (dk_at dksX1_first_1 17 rfl rfl)
theorem dX1_first_41 : decode cX1_first 41 = .ok (.aaload, 1) := dk_50 (dk_at dksX1_first_1 18 rfl rfl)
theorem dX1_first_42 : decode cX1_first 42 = .ok (.invokespecial 218, 3) := dk_183 0 218 (dk_at dksX1_first_1 19 rfl rfl)
theorem dX1_first_45 : decode cX1_first 45 = .ok (.astore_n 3, 1) := dk_78 (dk_at dksX1_first_1 22 rfl rfl)
theorem dX1_first_46 : decode cX1_first 46 = .ok (.iconst 1, 1) := dk_4 (dk_at dksX1_first_1 23 rfl rfl)
theorem dX1_first_47 : decode cX1_first 47 = .ok (.istore 4, 2) := dk_54 4 (dk_at dksX1_first_2 0 rfl rfl)
theorem dX1_first_49 : decode cX1_first 49 = .ok (.iload 4, 2) := dk_21 4 (dk_at dksX1_first_2 2 rfl rfl)
theorem dX1_first_51 : decode cX1_first 51 = .ok (.aload_n 3, 1) := dk_45 (dk_at dksX1_first_2 4 rfl rfl)
theorem dX1_first_52 : decode cX1_first 52 = .ok (.getfield 359, 3) := dk_180 1 103 (dk_at dksX1_first_2 5 rfl rfl)
theorem dX1_first_55 : decode cX1_first 55 = .ok (.if_icmp .ge 21, 3) := dk_162 0 21 (dk_at dksX1_first_2 8 rfl rfl)
theorem dX1_first_58 : decode cX1_first 58 = .ok (.aload_n 3, 1) := dk_45 (dk_at dksX1_first_2 11 rfl rfl)
theorem dX1_first_59 : decode cX1_first 59 = .ok (.iload 4, 2) := dk_21 4 (dk_at dksX1_first_2 12 rfl rfl)
theorem dX1_first_61 : decode cX1_first 61 = .ok (.iconst 0, 1) := dk_3 (dk_at dksX1_first_2 14 rfl rfl)
theorem dX1_first_62 : decode cX1_first 62 = .ok (.bipush 100, 2) := dk_16 100 (dk_at dksX1_first_2 15 rfl rfl)
theorem dX1_first_64 : decode cX1_first 64 = .ok (.invokestatic 377, 3) := dk_184 1 121 (dk_at dksX1_first_2 17 rfl rfl)
theorem dX1_first_67 : decode cX1_first 67 = .ok (.invokevirtual 380, 3) := dk_182 1 124 (dk_at dksX1_first_2 20 rfl rfl)
theorem dX1_first_70 : decode cX1_first 70 = .ok (.iinc 4 1, 3) := dk_132 4 1 (dk_at dksX1_first_3 0 rfl rfl)
theorem dX1_first_73 : decode cX1_first 73 = .ok (.goto (-24), 3) := dk_167 255 232 (dk_at dksX1_first_3 3 rfl rfl)
theorem dX1_first_76 : decode cX1_first 76 = .ok (.aload_n 3, 1) := dk_45 (dk_at dksX1_first_3 6 rfl rfl)
theorem dX1_first_77 : decode cX1_first 77 = .ok (.invokevirtual 383, 3) := dk_182 1 127 (dk_at dksX1_first_3 7 rfl rfl)
theorem dX1_first_80 : decode cX1_first 80 = .ok (.aload_n 3, 1) := dk_45 (dk_at dksX1_first_3 10 rfl rfl)
theorem dX1_first_81 : decode cX1_first 81 = .ok (.getfield 146, 3) := dk_180 0 146 (dk_at dksX1_first_3 11 rfl rfl)
theorem dX1_first_84 : decode cX1_first 84 = .ok (.ifCond .eq 8, 3) := dk_153 0 8 (dk_at dksX1_first_3 14 rfl rfl)
theorem dX1_first_87 : decode cX1_first 87 = .ok (.bipush (-2), 2) := dk_16 254 (dk_at dksX1_first_3 17 rfl rfl)
theorem dX1_first_89 : decode cX1_first 89 = .ok (.goto 10, 3) := dk_167 0 10 (dk_at dksX1_first_3 19 rfl rfl)
theorem dX1_first_92 : decode cX1_first 92 = .ok (.aload_n 3, 1) := dk_45 (dk_at dksX1_first_3 22 rfl rfl)
theorem dX1_first_93 : decode cX1_first 93 = .ok (.iload_n 2, 1) := dk_28 (dk_at dksX1_first_3 23 rfl rfl)
theorem dX1_first_94 : decode cX1_first 94 = .ok (.iconst 1, 1) := dk_4 (dk_at dksX1_first_4 0 rfl rfl)
theorem dX1_first_95 : decode cX1_first 95 = .ok (.iadd, 1) := dk_96 (dk_at dksX1_first_4 1 rfl rfl)
theorem dX1_first_96 : decode cX1_first 96 = .ok (.invokevirtual 386, 3) := dk_182 1 130 (dk_at dksX1_first_4 2 rfl rfl)
theorem dX1_first_99 : decode cX1_first 99 = .ok (.ireturn, 1) := dk_172 (dk_at dksX1_first_4 5 rfl rfl)
def dkwX1_nodes_0 : List UInt8 := [42, 180, 0, 37, 182, 0, 208, 172]
abbrev dktX1_nodes_0 : List UInt8 := dkwX1_nodes_0 ++ []
theorem dksX1_nodes_0 : cX1_nodes.data.toList.drop 0 = dktX1_nodes_0 := by decide +kernel
theorem dX1_nodes_0 : decode cX1_nodes 0 = .ok (.aload_n 0, 1) := dk_42 (dk_at dksX1_nodes_0 0 rfl rfl)
theorem dX1_nodes_1 : decode cX1_nodes 1 = .ok (.getfield 37, 3) := dk_180 0 37 (dk_at dksX1_nodes_0 1 rfl rfl)
theorem dX1_nodes_4 : decode cX1_nodes 4 = .ok (.invokevirtual 208, 3) := dk_182 0 208 (dk_at dksX1_nodes_0 4 rfl rfl)
theorem dX1_nodes_7 : decode cX1_nodes 7 = .ok (.ireturn, 1) := dk_172 (dk_at dksX1_nodes_0 7 rfl rfl)
def dkwX1_node_3 : List UInt8 := [180, 0, 229, 172]
abbrev dktX1_node_3 : List UInt8 := dkwX1_node_3 ++ []
def dkwX1_node_2 : List UInt8 := [160, 0, 10, 45, 180, 0, 239, 167, 0, 19, 28, 5, 160, 0, 10, 45, 180, 0, 242, 167, 0, 7, 45]
abbrev dktX1_node_2 : List UInt8 := dkwX1_node_2 ++ dktX1_node_3
def dkwX1_node_1 : List UInt8 := [180, 0, 37, 27, 182, 0, 153, 192, 0, 182, 78, 28, 154, 0, 10, 45, 180, 0, 184, 167, 0, 31, 28, 4]
abbrev dktX1_node_1 : List UInt8 := dkwX1_node_1 ++ dktX1_node_2
def dkwX1_node_0 : List UInt8 := [28, 3, 6, 184, 0, 68, 154, 0, 5, 2, 172, 42, 27, 182, 1, 82, 154, 0, 6, 16, 253, 172, 42]
abbrev dktX1_node_0 : List UInt8 := dkwX1_node_0 ++ dktX1_node_1
theorem dksX1_node_0 : cX1_node.data.toList.drop 0 = dktX1_node_0 := by decide +kernel
theorem dksX1_node_1 : cX1_node.data.toList.drop 23 = dktX1_node_1 := dk_seg dksX1_node_0 23 rfl rfl
theorem dksX1_node_2 : cX1_node.data.toList.drop 47 = dktX1_node_2 := dk_seg dksX1_node_1 24 rfl rfl
theorem dksX1_node_3 : cX1_node.data.toList.drop 70 = dktX1_node_3 := dk_seg dksX1_node_2 23 rfl rfl
theorem dX1_node_0 : decode cX1_node 0 = .ok (.iload_n 2, 1) := dk_28 (dk_at dksX1_node_0 0 rfl rfl)
theorem dX1_node_1 : decode cX1_node 1 = .ok (.iconst 0, 1) := dk_3 (dk_at dksX1_node_0 1 rfl rfl)
theorem dX1_node_2 : decode cX1_node 2 = .ok (.iconst 3, 1) := dk_6 (dk_at dksX1_node_0 2 rfl rfl)
theorem dX1_node_3 : decode cX1_node 3 = .ok (.invokestatic 68, 3) := dk_184 0 68 (dk_at dksX1_node_0 3 rfl rfl)
theorem dX1_node_6 : decode cX1_node 6 = .ok (.ifCond .ne 5, 3) := dk_154 0 5 (dk_at dksX1_node_0 6 rfl rfl)
theorem dX1_node_9 : decode cX1_node 9 = .ok (.iconst (-1), 1) := dk_2 (dk_at dksX1_node_0 9 rfl rfl)
theorem dX1_node_10 : decode cX1_node 10 = .ok (.ireturn, 1) := dk_172 (dk_at dksX1_node_0 10 rfl rfl)
theorem dX1_node_11 : decode cX1_node 11 = .ok (.aload_n 0, 1) := dk_42 (dk_at dksX1_node_0 11 rfl rfl)
theorem dX1_node_12 : decode cX1_node 12 = .ok (.iload_n 1, 1) := dk_27 (dk_at dksX1_node_0 12 rfl rfl)
theorem dX1_node_13 : decode cX1_node 13 = .ok (.invokevirtual 338, 3) := dk_182 1 82 (dk_at dksX1_node_0 13 rfl rfl)
theorem dX1_node_16 : decode cX1_node 16 = .ok (.ifCond .ne 6, 3) := dk_154 0 6 (dk_at dksX1_node_0 16 rfl rfl)
theorem dX1_node_19 : decode cX1_node 19 = .ok (.bipush (-3), 2) := dk_16 253 (dk_at dksX1_node_0 19 rfl rfl)
theorem dX1_node_21 : decode cX1_node 21 = .ok (.ireturn, 1) := dk_172 (dk_at dksX1_node_0 21 rfl rfl)
theorem dX1_node_22 : decode cX1_node 22 = .ok (.aload_n 0, 1) := dk_42 (dk_at dksX1_node_0 22 rfl rfl)
theorem dX1_node_23 : decode cX1_node 23 = .ok (.getfield 37, 3) := dk_180 0 37 (dk_at dksX1_node_1 0 rfl rfl)
theorem dX1_node_26 : decode cX1_node 26 = .ok (.iload_n 1, 1) := dk_27 (dk_at dksX1_node_1 3 rfl rfl)
theorem dX1_node_27 : decode cX1_node 27 = .ok (.invokevirtual 153, 3) := dk_182 0 153 (dk_at dksX1_node_1 4 rfl rfl)
theorem dX1_node_30 : decode cX1_node 30 = .ok (.checkcast 182, 3) := dk_192 0 182 (dk_at dksX1_node_1 7 rfl rfl)
theorem dX1_node_33 : decode cX1_node 33 = .ok (.astore_n 3, 1) := dk_78 (dk_at dksX1_node_1 10 rfl rfl)
theorem dX1_node_34 : decode cX1_node 34 = .ok (.iload_n 2, 1) := dk_28 (dk_at dksX1_node_1 11 rfl rfl)
theorem dX1_node_35 : decode cX1_node 35 = .ok (.ifCond .ne 10, 3) := dk_154 0 10 (dk_at dksX1_node_1 12 rfl rfl)
theorem dX1_node_38 : decode cX1_node 38 = .ok (.aload_n 3, 1) := dk_45 (dk_at dksX1_node_1 15 rfl rfl)
theorem dX1_node_39 : decode cX1_node 39 = .ok (.getfield 184, 3) := dk_180 0 184 (dk_at dksX1_node_1 16 rfl rfl)
theorem dX1_node_42 : decode cX1_node 42 = .ok (.goto 31, 3) := dk_167 0 31 (dk_at dksX1_node_1 19 rfl rfl)
theorem dX1_node_45 : decode cX1_node 45 = .ok (.iload_n 2, 1) := dk_28 (dk_at dksX1_node_1 22 rfl rfl)
theorem dX1_node_46 : decode cX1_node 46 = .ok (.iconst 1, 1) := dk_4 (dk_at dksX1_node_1 23 rfl rfl)
theorem dX1_node_47 : decode cX1_node 47 = .ok (.if_icmp .ne 10, 3) := dk_160 0 10 (dk_at dksX1_node_2 0 rfl rfl)
theorem dX1_node_50 : decode cX1_node 50 = .ok (.aload_n 3, 1) := dk_45 (dk_at dksX1_node_2 3 rfl rfl)
theorem dX1_node_51 : decode cX1_node 51 = .ok (.getfield 239, 3) := dk_180 0 239 (dk_at dksX1_node_2 4 rfl rfl)
theorem dX1_node_54 : decode cX1_node 54 = .ok (.goto 19, 3) := dk_167 0 19 (dk_at dksX1_node_2 7 rfl rfl)
theorem dX1_node_57 : decode cX1_node 57 = .ok (.iload_n 2, 1) := dk_28 (dk_at dksX1_node_2 10 rfl rfl)
theorem dX1_node_58 : decode cX1_node 58 = .ok (.iconst 2, 1) := dk_5 (dk_at dksX1_node_2 11 rfl rfl)
theorem dX1_node_59 : decode cX1_node 59 = .ok (.if_icmp .ne 10, 3) := dk_160 0 10 (dk_at dksX1_node_2 12 rfl rfl)
theorem dX1_node_62 : decode cX1_node 62 = .ok (.aload_n 3, 1) := dk_45 (dk_at dksX1_node_2 15 rfl rfl)
theorem dX1_node_63 : decode cX1_node 63 = .ok (.getfield 242, 3) := dk_180 0 242 (dk_at dksX1_node_2 16 rfl rfl)
theorem dX1_node_66 : decode cX1_node 66 = .ok (.goto 7, 3) := dk_167 0 7 (dk_at dksX1_node_2 19 rfl rfl)
theorem dX1_node_69 : decode cX1_node 69 = .ok (.aload_n 3, 1) := dk_45 (dk_at dksX1_node_2 22 rfl rfl)
theorem dX1_node_70 : decode cX1_node 70 = .ok (.getfield 229, 3) := dk_180 0 229 (dk_at dksX1_node_3 0 rfl rfl)
theorem dX1_node_73 : decode cX1_node 73 = .ok (.ireturn, 1) := dk_172 (dk_at dksX1_node_3 3 rfl rfl)
def dkwX1_nodeBound_2 : List UInt8 := [27, 182, 0, 153, 192, 0, 182, 180, 0, 185, 28, 29, 21, 4, 182, 1, 89, 172]
abbrev dktX1_nodeBound_2 : List UInt8 := dkwX1_nodeBound_2 ++ []
def dkwX1_nodeBound_1 : List UInt8 := [28, 29, 159, 0, 13, 21, 4, 3, 4, 184, 0, 68, 154, 0, 7, 17, 248, 48, 172, 42, 42, 180, 0, 37]
abbrev dktX1_nodeBound_1 : List UInt8 := dkwX1_nodeBound_1 ++ dktX1_nodeBound_2
def dkwX1_nodeBound_0 : List UInt8 := [42, 27, 182, 1, 82, 153, 0, 34, 42, 28, 182, 1, 67, 153, 0, 26, 42, 29, 182, 1, 67, 153, 0, 18]
abbrev dktX1_nodeBound_0 : List UInt8 := dkwX1_nodeBound_0 ++ dktX1_nodeBound_1
theorem dksX1_nodeBound_0 : cX1_nodeBound.data.toList.drop 0 = dktX1_nodeBound_0 := by decide +kernel
theorem dksX1_nodeBound_1 : cX1_nodeBound.data.toList.drop 24 = dktX1_nodeBound_1 := dk_seg dksX1_nodeBound_0 24 rfl rfl
theorem dksX1_nodeBound_2 : cX1_nodeBound.data.toList.drop 48 = dktX1_nodeBound_2 := dk_seg dksX1_nodeBound_1 24 rfl rfl
theorem dX1_nodeBound_0 : decode cX1_nodeBound 0 = .ok (.aload_n 0, 1) := dk_42 (dk_at dksX1_nodeBound_0 0 rfl rfl)
theorem dX1_nodeBound_1 : decode cX1_nodeBound 1 = .ok (.iload_n 1, 1) := dk_27 (dk_at dksX1_nodeBound_0 1 rfl rfl)
theorem dX1_nodeBound_2 : decode cX1_nodeBound 2 = .ok (.invokevirtual 338, 3) := dk_182 1 82 (dk_at dksX1_nodeBound_0 2 rfl rfl)
theorem dX1_nodeBound_5 : decode cX1_nodeBound 5 = .ok (.ifCond .eq 34, 3) := dk_153 0 34 (dk_at dksX1_nodeBound_0 5 rfl rfl)
theorem dX1_nodeBound_8 : decode cX1_nodeBound 8 = .ok (.aload_n 0, 1) := dk_42 (dk_at dksX1_nodeBound_0 8 rfl rfl)
theorem dX1_nodeBound_9 : decode cX1_nodeBound 9 = .ok (.iload_n 2, 1) := dk_28 (dk_at dksX1_nodeBound_0 9 rfl rfl)
theorem dX1_nodeBound_10 : decode cX1_nodeBound 10 = .ok (.invokevirtual 323, 3) := dk_182 1 67 (dk_at dksX1_nodeBound_0 10 rfl rfl)
theorem dX1_nodeBound_13 : decode cX1_nodeBound 13 = .ok (.ifCond .eq 26, 3) := dk_153 0 26 (dk_at dksX1_nodeBound_0 13 rfl rfl)
theorem dX1_nodeBound_16 : decode cX1_nodeBound 16 = .ok (.aload_n 0, 1) := dk_42 (dk_at dksX1_nodeBound_0 16 rfl rfl)
theorem dX1_nodeBound_17 : decode cX1_nodeBound 17 = .ok (.iload_n 3, 1) := dk_29 (dk_at dksX1_nodeBound_0 17 rfl rfl)
theorem dX1_nodeBound_18 : decode cX1_nodeBound 18 = .ok (.invokevirtual 323, 3) := dk_182 1 67 (dk_at dksX1_nodeBound_0 18 rfl rfl)
theorem dX1_nodeBound_21 : decode cX1_nodeBound 21 = .ok (.ifCond .eq 18, 3) := dk_153 0 18 (dk_at dksX1_nodeBound_0 21 rfl rfl)
theorem dX1_nodeBound_24 : decode cX1_nodeBound 24 = .ok (.iload_n 2, 1) := dk_28 (dk_at dksX1_nodeBound_1 0 rfl rfl)
theorem dX1_nodeBound_25 : decode cX1_nodeBound 25 = .ok (.iload_n 3, 1) := dk_29 (dk_at dksX1_nodeBound_1 1 rfl rfl)
theorem dX1_nodeBound_26 : decode cX1_nodeBound 26 = .ok (.if_icmp .eq 13, 3) := dk_159 0 13 (dk_at dksX1_nodeBound_1 2 rfl rfl)
theorem dX1_nodeBound_29 : decode cX1_nodeBound 29 = .ok (.iload 4, 2) := dk_21 4 (dk_at dksX1_nodeBound_1 5 rfl rfl)
theorem dX1_nodeBound_31 : decode cX1_nodeBound 31 = .ok (.iconst 0, 1) := dk_3 (dk_at dksX1_nodeBound_1 7 rfl rfl)
theorem dX1_nodeBound_32 : decode cX1_nodeBound 32 = .ok (.iconst 1, 1) := dk_4 (dk_at dksX1_nodeBound_1 8 rfl rfl)
theorem dX1_nodeBound_33 : decode cX1_nodeBound 33 = .ok (.invokestatic 68, 3) := dk_184 0 68 (dk_at dksX1_nodeBound_1 9 rfl rfl)
theorem dX1_nodeBound_36 : decode cX1_nodeBound 36 = .ok (.ifCond .ne 7, 3) := dk_154 0 7 (dk_at dksX1_nodeBound_1 12 rfl rfl)
theorem dX1_nodeBound_39 : decode cX1_nodeBound 39 = .ok (.sipush (-2000), 3) := dk_17 248 48 (dk_at dksX1_nodeBound_1 15 rfl rfl)
theorem dX1_nodeBound_42 : decode cX1_nodeBound 42 = .ok (.ireturn, 1) := dk_172 (dk_at dksX1_nodeBound_1 18 rfl rfl)
theorem dX1_nodeBound_43 : decode cX1_nodeBound 43 = .ok (.aload_n 0, 1) := dk_42 (dk_at dksX1_nodeBound_1 19 rfl rfl)
theorem dX1_nodeBound_44 : decode cX1_nodeBound 44 = .ok (.aload_n 0, 1) := dk_42 (dk_at dksX1_nodeBound_1 20 rfl rfl)
theorem dX1_nodeBound_45 : decode cX1_nodeBound 45 = .ok (.getfield 37, 3) := dk_180 0 37 (dk_at dksX1_nodeBound_1 21 rfl rfl)
theorem dX1_nodeBound_48 : decode cX1_nodeBound 48 = .ok (.iload_n 1, 1) := dk_27 (dk_at dksX1_nodeBound_2 0 rfl rfl)
theorem dX1_nodeBound_49 : decode cX1_nodeBound 49 = .ok (.invokevirtual 153, 3) := dk_182 0 153 (dk_at dksX1_nodeBound_2 1 rfl rfl)
theorem dX1_nodeBound_52 : decode cX1_nodeBound 52 = .ok (.checkcast 182, 3) := dk_192 0 182 (dk_at dksX1_nodeBound_2 4 rfl rfl)
theorem dX1_nodeBound_55 : decode cX1_nodeBound 55 = .ok (.getfield 185, 3) := dk_180 0 185 (dk_at dksX1_nodeBound_2 7 rfl rfl)
theorem dX1_nodeBound_58 : decode cX1_nodeBound 58 = .ok (.iload_n 2, 1) := dk_28 (dk_at dksX1_nodeBound_2 10 rfl rfl)
theorem dX1_nodeBound_59 : decode cX1_nodeBound 59 = .ok (.iload_n 3, 1) := dk_29 (dk_at dksX1_nodeBound_2 11 rfl rfl)
theorem dX1_nodeBound_60 : decode cX1_nodeBound 60 = .ok (.iload 4, 2) := dk_21 4 (dk_at dksX1_nodeBound_2 12 rfl rfl)
theorem dX1_nodeBound_62 : decode cX1_nodeBound 62 = .ok (.invokevirtual 345, 3) := dk_182 1 89 (dk_at dksX1_nodeBound_2 14 rfl rfl)
theorem dX1_nodeBound_65 : decode cX1_nodeBound 65 = .ok (.ireturn, 1) := dk_172 (dk_at dksX1_nodeBound_2 17 rfl rfl)
def dkwX1_way_2 : List UInt8 := [162, 0, 17, 45, 28, 182, 0, 153, 192, 0, 246, 182, 1, 137, 167, 0, 5, 16, 254, 172]
abbrev dktX1_way_2 : List UInt8 := dkwX1_way_2 ++ []
def dkwX1_way_1 : List UInt8 := [199, 0, 6, 16, 254, 172, 28, 2, 160, 0, 10, 45, 182, 0, 208, 167, 0, 27, 28, 45, 182, 0, 208]
abbrev dktX1_way_1 : List UInt8 := dkwX1_way_1 ++ dktX1_way_2
def dkwX1_way_0 : List UInt8 := [42, 27, 182, 1, 8, 153, 0, 8, 28, 2, 162, 0, 5, 2, 172, 42, 27, 182, 1, 133, 78, 45]
abbrev dktX1_way_0 : List UInt8 := dkwX1_way_0 ++ dktX1_way_1
theorem dksX1_way_0 : cX1_way.data.toList.drop 0 = dktX1_way_0 := by decide +kernel
theorem dksX1_way_1 : cX1_way.data.toList.drop 22 = dktX1_way_1 := dk_seg dksX1_way_0 22 rfl rfl
theorem dksX1_way_2 : cX1_way.data.toList.drop 45 = dktX1_way_2 := dk_seg dksX1_way_1 23 rfl rfl
theorem dX1_way_0 : decode cX1_way 0 = .ok (.aload_n 0, 1) := dk_42 (dk_at dksX1_way_0 0 rfl rfl)
theorem dX1_way_1 : decode cX1_way 1 = .ok (.iload_n 1, 1) := dk_27 (dk_at dksX1_way_0 1 rfl rfl)
theorem dX1_way_2 : decode cX1_way 2 = .ok (.invokevirtual 264, 3) := dk_182 1 8 (dk_at dksX1_way_0 2 rfl rfl)
theorem dX1_way_5 : decode cX1_way 5 = .ok (.ifCond .eq 8, 3) := dk_153 0 8 (dk_at dksX1_way_0 5 rfl rfl)
theorem dX1_way_8 : decode cX1_way 8 = .ok (.iload_n 2, 1) := dk_28 (dk_at dksX1_way_0 8 rfl rfl)
theorem dX1_way_9 : decode cX1_way 9 = .ok (.iconst (-1), 1) := dk_2 (dk_at dksX1_way_0 9 rfl rfl)
theorem dX1_way_10 : decode cX1_way 10 = .ok (.if_icmp .ge 5, 3) := dk_162 0 5 (dk_at dksX1_way_0 10 rfl rfl)
theorem dX1_way_13 : decode cX1_way 13 = .ok (.iconst (-1), 1) := dk_2 (dk_at dksX1_way_0 13 rfl rfl)
theorem dX1_way_14 : decode cX1_way 14 = .ok (.ireturn, 1) := dk_172 (dk_at dksX1_way_0 14 rfl rfl)
theorem dX1_way_15 : decode cX1_way 15 = .ok (.aload_n 0, 1) := dk_42 (dk_at dksX1_way_0 15 rfl rfl)
theorem dX1_way_16 : decode cX1_way 16 = .ok (.iload_n 1, 1) := dk_27 (dk_at dksX1_way_0 16 rfl rfl)
theorem dX1_way_17 : decode cX1_way 17 = .ok (.invokevirtual 389, 3) := dk_182 1 133 (dk_at dksX1_way_0 17 rfl rfl)
theorem dX1_way_20 : decode cX1_way 20 = .ok (.astore_n 3, 1) := dk_78 (dk_at dksX1_way_0 20 rfl rfl)
theorem dX1_way_21 : decode cX1_way 21 = .ok (.aload_n 3, 1) := dk_45 (dk_at dksX1_way_0 21 rfl rfl)
theorem dX1_way_22 : decode cX1_way 22 = .ok (.ifnonnull 6, 3) := dk_199 0 6 (dk_at dksX1_way_1 0 rfl rfl)
theorem dX1_way_25 : decode cX1_way 25 = .ok (.bipush (-2), 2) := dk_16 254 (dk_at dksX1_way_1 3 rfl rfl)
theorem dX1_way_27 : decode cX1_way 27 = .ok (.ireturn, 1) := dk_172 (dk_at dksX1_way_1 5 rfl rfl)
theorem dX1_way_28 : decode cX1_way 28 = .ok (.iload_n 2, 1) := dk_28 (dk_at dksX1_way_1 6 rfl rfl)
theorem dX1_way_29 : decode cX1_way 29 = .ok (.iconst (-1), 1) := dk_2 (dk_at dksX1_way_1 7 rfl rfl)
theorem dX1_way_30 : decode cX1_way 30 = .ok (.if_icmp .ne 10, 3) := dk_160 0 10 (dk_at dksX1_way_1 8 rfl rfl)
theorem dX1_way_33 : decode cX1_way 33 = .ok (.aload_n 3, 1) := dk_45 (dk_at dksX1_way_1 11 rfl rfl)
theorem dX1_way_34 : decode cX1_way 34 = .ok (.invokevirtual 208, 3) := dk_182 0 208 (dk_at dksX1_way_1 12 rfl rfl)
theorem dX1_way_37 : decode cX1_way 37 = .ok (.goto 27, 3) := dk_167 0 27 (dk_at dksX1_way_1 15 rfl rfl)
theorem dX1_way_40 : decode cX1_way 40 = .ok (.iload_n 2, 1) := dk_28 (dk_at dksX1_way_1 18 rfl rfl)
theorem dX1_way_41 : decode cX1_way 41 = .ok (.aload_n 3, 1) := dk_45 (dk_at dksX1_way_1 19 rfl rfl)
theorem dX1_way_42 : decode cX1_way 42 = .ok (.invokevirtual 208, 3) := dk_182 0 208 (dk_at dksX1_way_1 20 rfl rfl)
theorem dX1_way_45 : decode cX1_way 45 = .ok (.if_icmp .ge 17, 3) := dk_162 0 17 (dk_at dksX1_way_2 0 rfl rfl)
theorem dX1_way_48 : decode cX1_way 48 = .ok (.aload_n 3, 1) := dk_45 (dk_at dksX1_way_2 3 rfl rfl)
theorem dX1_way_49 : decode cX1_way 49 = .ok (.iload_n 2, 1) := dk_28 (dk_at dksX1_way_2 4 rfl rfl)
theorem dX1_way_50 : decode cX1_way 50 = .ok (.invokevirtual 153, 3) := dk_182 0 153 (dk_at dksX1_way_2 5 rfl rfl)
theorem dX1_way_53 : decode cX1_way 53 = .ok (.checkcast 246, 3) := dk_192 0 246 (dk_at dksX1_way_2 8 rfl rfl)
theorem dX1_way_56 : decode cX1_way 56 = .ok (.invokevirtual 393, 3) := dk_182 1 137 (dk_at dksX1_way_2 11 rfl rfl)
theorem dX1_way_59 : decode cX1_way 59 = .ok (.goto 5, 3) := dk_167 0 5 (dk_at dksX1_way_2 14 rfl rfl)
theorem dX1_way_62 : decode cX1_way 62 = .ok (.bipush (-2), 2) := dk_16 254 (dk_at dksX1_way_2 17 rfl rfl)
theorem dX1_way_64 : decode cX1_way 64 = .ok (.ireturn, 1) := dk_172 (dk_at dksX1_way_2 19 rfl rfl)
def dkwX1_wayTo_3 : List UInt8 := [192, 0, 182, 180, 0, 239, 61, 167, 255, 200, 45, 176]
abbrev dktX1_wayTo_3 : List UInt8 := dkwX1_wayTo_3 ++ []
def dkwX1_wayTo_2 : List UInt8 := [28, 182, 0, 153, 192, 0, 182, 180, 0, 242, 184, 0, 245, 182, 0, 251, 42, 180, 0, 37, 28, 182, 0, 153]
abbrev dktX1_wayTo_2 : List UInt8 := dkwX1_wayTo_2 ++ dktX1_wayTo_3
def dkwX1_wayTo_1 : List UInt8 := [180, 0, 37, 28, 182, 0, 153, 192, 0, 182, 180, 0, 239, 16, 254, 159, 0, 43, 45, 3, 42, 180, 0, 37]
abbrev dktX1_wayTo_1 : List UInt8 := dkwX1_wayTo_1 ++ dktX1_wayTo_2
def dkwX1_wayTo_0 : List UInt8 := [42, 27, 182, 0, 235, 61, 28, 16, 254, 160, 0, 5, 1, 176, 187, 0, 34, 89, 183, 0, 36, 78, 42]
abbrev dktX1_wayTo_0 : List UInt8 := dkwX1_wayTo_0 ++ dktX1_wayTo_1
theorem dksX1_wayTo_0 : cX1_wayTo.data.toList.drop 0 = dktX1_wayTo_0 := by decide +kernel
theorem dksX1_wayTo_1 : cX1_wayTo.data.toList.drop 23 = dktX1_wayTo_1 := dk_seg dksX1_wayTo_0 23 rfl rfl
theorem dksX1_wayTo_2 : cX1_wayTo.data.toList.drop 47 = dktX1_wayTo_2 := dk_seg dksX1_wayTo_1 24 rfl rfl
theorem dksX1_wayTo_3 : cX1_wayTo.data.toList.drop 71 = dktX1_wayTo_3 := dk_seg dksX1_wayTo_2 24 rfl rfl
theorem dX1_wayTo_0 : decode cX1_wayTo 0 = .ok (.aload_n 0, 1) := dk_42 (dk_at dksX1_wayTo_0 0 rfl rfl)
theorem dX1_wayTo_1 : decode cX1_wayTo 1 = .ok (.iload_n 1, 1) := dk_27 (dk_at dksX1_wayTo_0 1 rfl rfl)
theorem dX1_wayTo_2 : decode cX1_wayTo 2 = .ok (.invokevirtual 235, 3) := dk_182 0 235 (dk_at dksX1_wayTo_0 2 rfl rfl)
theorem dX1_wayTo_5 : decode cX1_wayTo 5 = .ok (.istore_n 2, 1) := dk_61 (dk_at dksX1_wayTo_0 5 rfl rfl)
theorem dX1_wayTo_6 : decode cX1_wayTo 6 = .ok (.iload_n 2, 1) := dk_28 (dk_at dksX1_wayTo_0 6 rfl rfl)
theorem dX1_wayTo_7 : decode cX1_wayTo 7 = .ok (.bipush (-2), 2) := dk_16 254 (dk_at dksX1_wayTo_0 7 rfl rfl)
theorem dX1_wayTo_9 : decode cX1_wayTo 9 = .ok (.if_icmp .ne 5, 3) := dk_160 0 5 (dk_at dksX1_wayTo_0 9 rfl rfl)
theorem dX1_wayTo_12 : decode cX1_wayTo 12 = .ok (.aconst_null, 1) := dk_1 (dk_at dksX1_wayTo_0 12 rfl rfl)
theorem dX1_wayTo_13 : decode cX1_wayTo 13 = .ok (.areturn, 1) := dk_176 (dk_at dksX1_wayTo_0 13 rfl rfl)
theorem dX1_wayTo_14 : decode cX1_wayTo 14 = .ok (.new 34, 3) := dk_187 0 34 (dk_at dksX1_wayTo_0 14 rfl rfl)
theorem dX1_wayTo_17 : decode cX1_wayTo 17 = .ok (.dup, 1) := dk_89 (dk_at dksX1_wayTo_0 17 rfl rfl)
theorem dX1_wayTo_18 : decode cX1_wayTo 18 = .ok (.invokespecial 36, 3) := dk_183 0 36 (dk_at dksX1_wayTo_0 18 rfl rfl)
theorem dX1_wayTo_21 : decode cX1_wayTo 21 = .ok (.astore_n 3, 1) := dk_78 (dk_at dksX1_wayTo_0 21 rfl rfl)
theorem dX1_wayTo_22 : decode cX1_wayTo 22 = .ok (.aload_n 0, 1) := dk_42 (dk_at dksX1_wayTo_0 22 rfl rfl)
theorem dX1_wayTo_23 : decode cX1_wayTo 23 = .ok (.getfield 37, 3) := dk_180 0 37 (dk_at dksX1_wayTo_1 0 rfl rfl)
theorem dX1_wayTo_26 : decode cX1_wayTo 26 = .ok (.iload_n 2, 1) := dk_28 (dk_at dksX1_wayTo_1 3 rfl rfl)
theorem dX1_wayTo_27 : decode cX1_wayTo 27 = .ok (.invokevirtual 153, 3) := dk_182 0 153 (dk_at dksX1_wayTo_1 4 rfl rfl)
theorem dX1_wayTo_30 : decode cX1_wayTo 30 = .ok (.checkcast 182, 3) := dk_192 0 182 (dk_at dksX1_wayTo_1 7 rfl rfl)
theorem dX1_wayTo_33 : decode cX1_wayTo 33 = .ok (.getfield 239, 3) := dk_180 0 239 (dk_at dksX1_wayTo_1 10 rfl rfl)
theorem dX1_wayTo_36 : decode cX1_wayTo 36 = .ok (.bipush (-2), 2) := dk_16 254 (dk_at dksX1_wayTo_1 13 rfl rfl)
theorem dX1_wayTo_38 : decode cX1_wayTo 38 = .ok (.if_icmp .eq 43, 3) := dk_159 0 43 (dk_at dksX1_wayTo_1 15 rfl rfl)
theorem dX1_wayTo_41 : decode cX1_wayTo 41 = .ok (.aload_n 3, 1) := dk_45 (dk_at dksX1_wayTo_1 18 rfl rfl)
theorem dX1_wayTo_42 : decode cX1_wayTo 42 = .ok (.iconst 0, 1) := dk_3 (dk_at dksX1_wayTo_1 19 rfl rfl)
theorem dX1_wayTo_43 : decode cX1_wayTo 43 = .ok (.aload_n 0, 1) := dk_42 (dk_at dksX1_wayTo_1 20 rfl rfl)
theorem dX1_wayTo_44 : decode cX1_wayTo 44 = .ok (.getfield 37, 3) := dk_180 0 37 (dk_at dksX1_wayTo_1 21 rfl rfl)
theorem dX1_wayTo_47 : decode cX1_wayTo 47 = .ok (.iload_n 2, 1) := dk_28 (dk_at dksX1_wayTo_2 0 rfl rfl)
theorem dX1_wayTo_48 : decode cX1_wayTo 48 = .ok (.invokevirtual 153, 3) := dk_182 0 153 (dk_at dksX1_wayTo_2 1 rfl rfl)
theorem dX1_wayTo_51 : decode cX1_wayTo 51 = .ok (.checkcast 182, 3) := dk_192 0 182 (dk_at dksX1_wayTo_2 4 rfl rfl)
theorem dX1_wayTo_54 : decode cX1_wayTo 54 = .ok (.getfield 242, 3) := dk_180 0 242 (dk_at dksX1_wayTo_2 7 rfl rfl)
theorem dX1_wayTo_57 : decode cX1_wayTo 57 = .ok (.invokestatic 245, 3) := dk_184 0 245 (dk_at dksX1_wayTo_2 10 rfl rfl)
theorem dX1_wayTo_60 : decode cX1_wayTo 60 = .ok (.invokevirtual 251, 3) := dk_182 0 251 (dk_at dksX1_wayTo_2 13 rfl rfl)
theorem dX1_wayTo_63 : decode cX1_wayTo 63 = .ok (.aload_n 0, 1) := dk_42 (dk_at dksX1_wayTo_2 16 rfl rfl)
theorem dX1_wayTo_64 : decode cX1_wayTo 64 = .ok (.getfield 37, 3) := dk_180 0 37 (dk_at dksX1_wayTo_2 17 rfl rfl)
theorem dX1_wayTo_67 : decode cX1_wayTo 67 = .ok (.iload_n 2, 1) := dk_28 (dk_at dksX1_wayTo_2 20 rfl rfl)
theorem dX1_wayTo_68 : decode cX1_wayTo 68 = .ok (.invokevirtual 153, 3) := dk_182 0 153 (dk_at dksX1_wayTo_2 21 rfl rfl)
theorem dX1_wayTo_71 : decode cX1_wayTo 71 = .ok (.checkcast 182, 3) := dk_192 0 182 (dk_at dksX1_wayTo_3 0 rfl rfl)
theorem dX1_wayTo_74 : decode cX1_wayTo 74 = .ok (.getfield 239, 3) := dk_180 0 239 (dk_at dksX1_wayTo_3 3 rfl rfl)
theorem dX1_wayTo_77 : decode cX1_wayTo 77 = .ok (.istore_n 2, 1) := dk_61 (dk_at dksX1_wayTo_3 6 rfl rfl)
theorem dX1_wayTo_78 : decode cX1_wayTo 78 = .ok (.goto (-56), 3) := dk_167 255 200 (dk_at dksX1_wayTo_3 7 rfl rfl)
theorem dX1_wayTo_81 : decode cX1_wayTo 81 = .ok (.aload_n 3, 1) := dk_45 (dk_at dksX1_wayTo_3 10 rfl rfl)
theorem dX1_wayTo_82 : decode cX1_wayTo 82 = .ok (.areturn, 1) := dk_176 (dk_at dksX1_wayTo_3 11 rfl rfl)
def dkwX1_firstNode_1 : List UInt8 := [180, 0, 184, 27, 160, 0, 5, 28, 172, 132, 2, 1, 167, 255, 222, 16, 254, 172]
abbrev dktX1_firstNode_1 : List UInt8 := dkwX1_firstNode_1 ++ []
def dkwX1_firstNode_0 : List UInt8 := [3, 61, 28, 42, 180, 0, 37, 182, 0, 208, 162, 0, 29, 42, 180, 0, 37, 28, 182, 0, 153, 192, 0, 182]
abbrev dktX1_firstNode_0 : List UInt8 := dkwX1_firstNode_0 ++ dktX1_firstNode_1
theorem dksX1_firstNode_0 : cX1_firstNode.data.toList.drop 0 = dktX1_firstNode_0 := by decide +kernel
theorem dksX1_firstNode_1 : cX1_firstNode.data.toList.drop 24 = dktX1_firstNode_1 := dk_seg dksX1_firstNode_0 24 rfl rfl
theorem dX1_firstNode_0 : decode cX1_firstNode 0 = .ok (.iconst 0, 1) := dk_3 (dk_at dksX1_firstNode_0 0 rfl rfl)
theorem dX1_firstNode_1 : decode cX1_firstNode 1 = .ok (.istore_n 2, 1) := dk_61 (dk_at dksX1_firstNode_0 1 rfl rfl)
theorem dX1_firstNode_2 : decode cX1_firstNode 2 = .ok (.iload_n 2, 1) := dk_28 (dk_at dksX1_firstNode_0 2 rfl rfl)
theorem dX1_firstNode_3 : decode cX1_firstNode 3 = .ok (.aload_n 0, 1) := dk_42 (dk_at dksX1_firstNode_0 3 rfl rfl)
theorem dX1_firstNode_4 : decode cX1_firstNode 4 = .ok (.getfield 37, 3) := dk_180 0 37 (dk_at dksX1_firstNode_0 4 rfl rfl)
theorem dX1_firstNode_7 : decode cX1_firstNode 7 = .ok (.invokevirtual 208, 3) := dk_182 0 208 (dk_at dksX1_firstNode_0 7 rfl rfl)
theorem dX1_firstNode_10 : decode cX1_firstNode 10 = .ok (.if_icmp .ge 29, 3) := dk_162 0 29 (dk_at dksX1_firstNode_0 10 rfl rfl)
theorem dX1_firstNode_13 : decode cX1_firstNode 13 = .ok (.aload_n 0, 1) := dk_42 (dk_at dksX1_firstNode_0 13 rfl rfl)
theorem dX1_firstNode_14 : decode cX1_firstNode 14 = .ok (.getfield 37, 3) := dk_180 0 37 (dk_at dksX1_firstNode_0 14 rfl rfl)
theorem dX1_firstNode_17 : decode cX1_firstNode 17 = .ok (.iload_n 2, 1) := dk_28 (dk_at dksX1_firstNode_0 17 rfl rfl)
theorem dX1_firstNode_18 : decode cX1_firstNode 18 = .ok (.invokevirtual 153, 3) := dk_182 0 153 (dk_at dksX1_firstNode_0 18 rfl rfl)
theorem dX1_firstNode_21 : decode cX1_firstNode 21 = .ok (.checkcast 182, 3) := dk_192 0 182 (dk_at dksX1_firstNode_0 21 rfl rfl)
theorem dX1_firstNode_24 : decode cX1_firstNode 24 = .ok (.getfield 184, 3) := dk_180 0 184 (dk_at dksX1_firstNode_1 0 rfl rfl)
theorem dX1_firstNode_27 : decode cX1_firstNode 27 = .ok (.iload_n 1, 1) := dk_27 (dk_at dksX1_firstNode_1 3 rfl rfl)
theorem dX1_firstNode_28 : decode cX1_firstNode 28 = .ok (.if_icmp .ne 5, 3) := dk_160 0 5 (dk_at dksX1_firstNode_1 4 rfl rfl)
theorem dX1_firstNode_31 : decode cX1_firstNode 31 = .ok (.iload_n 2, 1) := dk_28 (dk_at dksX1_firstNode_1 7 rfl rfl)
theorem dX1_firstNode_32 : decode cX1_firstNode 32 = .ok (.ireturn, 1) := dk_172 (dk_at dksX1_firstNode_1 8 rfl rfl)
theorem dX1_firstNode_33 : decode cX1_firstNode 33 = .ok (.iinc 2 1, 3) := dk_132 2 1 (dk_at dksX1_firstNode_1 9 rfl rfl)
theorem dX1_firstNode_36 : decode cX1_firstNode 36 = .ok (.goto (-34), 3) := dk_167 255 222 (dk_at dksX1_firstNode_1 12 rfl rfl)
theorem dX1_firstNode_39 : decode cX1_firstNode 39 = .ok (.bipush (-2), 2) := dk_16 254 (dk_at dksX1_firstNode_1 15 rfl rfl)
theorem dX1_firstNode_41 : decode cX1_firstNode 41 = .ok (.ireturn, 1) := dk_172 (dk_at dksX1_firstNode_1 17 rfl rfl)
def dkwX1_open_0 : List UInt8 := [42, 27, 182, 1, 82, 153, 0, 11, 42, 27, 182, 1, 140, 167, 0, 4, 2, 172]
abbrev dktX1_open_0 : List UInt8 := dkwX1_open_0 ++ []
theorem dksX1_open_0 : cX1_open.data.toList.drop 0 = dktX1_open_0 := by decide +kernel
theorem dX1_open_0 : decode cX1_open 0 = .ok (.aload_n 0, 1) := dk_42 (dk_at dksX1_open_0 0 rfl rfl)
theorem dX1_open_1 : decode cX1_open 1 = .ok (.iload_n 1, 1) := dk_27 (dk_at dksX1_open_0 1 rfl rfl)
theorem dX1_open_2 : decode cX1_open 2 = .ok (.invokevirtual 338, 3) := dk_182 1 82 (dk_at dksX1_open_0 2 rfl rfl)
theorem dX1_open_5 : decode cX1_open 5 = .ok (.ifCond .eq 11, 3) := dk_153 0 11 (dk_at dksX1_open_0 5 rfl rfl)
theorem dX1_open_8 : decode cX1_open 8 = .ok (.aload_n 0, 1) := dk_42 (dk_at dksX1_open_0 8 rfl rfl)
theorem dX1_open_9 : decode cX1_open 9 = .ok (.iload_n 1, 1) := dk_27 (dk_at dksX1_open_0 9 rfl rfl)
theorem dX1_open_10 : decode cX1_open 10 = .ok (.invokevirtual 396, 3) := dk_182 1 140 (dk_at dksX1_open_0 10 rfl rfl)
theorem dX1_open_13 : decode cX1_open 13 = .ok (.goto 4, 3) := dk_167 0 4 (dk_at dksX1_open_0 13 rfl rfl)
theorem dX1_open_16 : decode cX1_open 16 = .ok (.iconst (-1), 1) := dk_2 (dk_at dksX1_open_0 16 rfl rfl)
theorem dX1_open_17 : decode cX1_open 17 = .ok (.ireturn, 1) := dk_172 (dk_at dksX1_open_0 17 rfl rfl)
def dkwX1_opens_5 : List UInt8 := [29, 172]
abbrev dktX1_opens_5 : List UInt8 := dkwX1_opens_5 ++ []
def dkwX1_opens_4 : List UInt8 := [25, 5, 180, 0, 146, 153, 0, 7, 3, 167, 0, 7, 4, 21, 4, 120, 128, 62, 132, 4, 1, 167, 255, 157]
abbrev dktX1_opens_4 : List UInt8 := dkwX1_opens_4 ++ dktX1_opens_5
def dkwX1_opens_3 : List UInt8 := [58, 5, 42, 25, 5, 42, 180, 0, 26, 180, 0, 212, 21, 4, 182, 0, 153, 192, 0, 165, 182, 0, 221, 29]
abbrev dktX1_opens_3 : List UInt8 := dkwX1_opens_3 ++ dktX1_opens_4
def dkwX1_opens_2 : List UInt8 := [180, 0, 215, 44, 180, 0, 184, 159, 0, 6, 167, 0, 56, 187, 0, 59, 89, 44, 180, 0, 185, 183, 0, 218]
abbrev dktX1_opens_2 : List UInt8 := dkwX1_opens_2 ++ dktX1_opens_3
def dkwX1_opens_1 : List UInt8 := [180, 0, 212, 182, 0, 208, 162, 0, 90, 42, 180, 0, 26, 180, 0, 212, 21, 4, 182, 0, 153, 192, 0, 165]
abbrev dktX1_opens_1 : List UInt8 := dkwX1_opens_1 ++ dktX1_opens_2
def dkwX1_opens_0 : List UInt8 := [42, 180, 0, 37, 27, 182, 0, 153, 192, 0, 182, 77, 3, 62, 3, 54, 4, 21, 4, 42, 180, 0, 26]
abbrev dktX1_opens_0 : List UInt8 := dkwX1_opens_0 ++ dktX1_opens_1
theorem dksX1_opens_0 : cX1_opens.data.toList.drop 0 = dktX1_opens_0 := by decide +kernel
theorem dksX1_opens_1 : cX1_opens.data.toList.drop 23 = dktX1_opens_1 := dk_seg dksX1_opens_0 23 rfl rfl
theorem dksX1_opens_2 : cX1_opens.data.toList.drop 47 = dktX1_opens_2 := dk_seg dksX1_opens_1 24 rfl rfl
theorem dksX1_opens_3 : cX1_opens.data.toList.drop 71 = dktX1_opens_3 := dk_seg dksX1_opens_2 24 rfl rfl
theorem dksX1_opens_4 : cX1_opens.data.toList.drop 95 = dktX1_opens_4 := dk_seg dksX1_opens_3 24 rfl rfl
theorem dksX1_opens_5 : cX1_opens.data.toList.drop 119 = dktX1_opens_5 := dk_seg dksX1_opens_4 24 rfl rfl
theorem dX1_opens_0 : decode cX1_opens 0 = .ok (.aload_n 0, 1) := dk_42 (dk_at dksX1_opens_0 0 rfl rfl)
theorem dX1_opens_1 : decode cX1_opens 1 = .ok (.getfield 37, 3) := dk_180 0 37 (dk_at dksX1_opens_0 1 rfl rfl)
theorem dX1_opens_4 : decode cX1_opens 4 = .ok (.iload_n 1, 1) := dk_27 (dk_at dksX1_opens_0 4 rfl rfl)
theorem dX1_opens_5 : decode cX1_opens 5 = .ok (.invokevirtual 153, 3) := dk_182 0 153 (dk_at dksX1_opens_0 5 rfl rfl)
theorem dX1_opens_8 : decode cX1_opens 8 = .ok (.checkcast 182, 3) := dk_192 0 182 (dk_at dksX1_opens_0 8 rfl rfl)
theorem dX1_opens_11 : decode cX1_opens 11 = .ok (.astore_n 2, 1) := dk_77 (dk_at dksX1_opens_0 11 rfl rfl)
theorem dX1_opens_12 : decode cX1_opens 12 = .ok (.iconst 0, 1) := dk_3 (dk_at dksX1_opens_0 12 rfl rfl)
theorem dX1_opens_13 : decode cX1_opens 13 = .ok (.istore_n 3, 1) := dk_62 (dk_at dksX1_opens_0 13 rfl rfl)
theorem dX1_opens_14 : decode cX1_opens 14 = .ok (.iconst 0, 1) := dk_3 (dk_at dksX1_opens_0 14 rfl rfl)
theorem dX1_opens_15 : decode cX1_opens 15 = .ok (.istore 4, 2) := dk_54 4 (dk_at dksX1_opens_0 15 rfl rfl)
theorem dX1_opens_17 : decode cX1_opens 17 = .ok (.iload 4, 2) := dk_21 4 (dk_at dksX1_opens_0 17 rfl rfl)
theorem dX1_opens_19 : decode cX1_opens 19 = .ok (.aload_n 0, 1) := dk_42 (dk_at dksX1_opens_0 19 rfl rfl)
theorem dX1_opens_20 : decode cX1_opens 20 = .ok (.getfield 26, 3) := dk_180 0 26 (dk_at dksX1_opens_0 20 rfl rfl)
theorem dX1_opens_23 : decode cX1_opens 23 = .ok (.getfield 212, 3) := dk_180 0 212 (dk_at dksX1_opens_1 0 rfl rfl)
theorem dX1_opens_26 : decode cX1_opens 26 = .ok (.invokevirtual 208, 3) := dk_182 0 208 (dk_at dksX1_opens_1 3 rfl rfl)
theorem dX1_opens_29 : decode cX1_opens 29 = .ok (.if_icmp .ge 90, 3) := dk_162 0 90 (dk_at dksX1_opens_1 6 rfl rfl)
theorem dX1_opens_32 : decode cX1_opens 32 = .ok (.aload_n 0, 1) := dk_42 (dk_at dksX1_opens_1 9 rfl rfl)
theorem dX1_opens_33 : decode cX1_opens 33 = .ok (.getfield 26, 3) := dk_180 0 26 (dk_at dksX1_opens_1 10 rfl rfl)
theorem dX1_opens_36 : decode cX1_opens 36 = .ok (.getfield 212, 3) := dk_180 0 212 (dk_at dksX1_opens_1 13 rfl rfl)
theorem dX1_opens_39 : decode cX1_opens 39 = .ok (.iload 4, 2) := dk_21 4 (dk_at dksX1_opens_1 16 rfl rfl)
theorem dX1_opens_41 : decode cX1_opens 41 = .ok (.invokevirtual 153, 3) := dk_182 0 153 (dk_at dksX1_opens_1 18 rfl rfl)
theorem dX1_opens_44 : decode cX1_opens 44 = .ok (.checkcast 165, 3) := dk_192 0 165 (dk_at dksX1_opens_1 21 rfl rfl)
theorem dX1_opens_47 : decode cX1_opens 47 = .ok (.getfield 215, 3) := dk_180 0 215 (dk_at dksX1_opens_2 0 rfl rfl)
theorem dX1_opens_50 : decode cX1_opens 50 = .ok (.aload_n 2, 1) := dk_44 (dk_at dksX1_opens_2 3 rfl rfl)
theorem dX1_opens_51 : decode cX1_opens 51 = .ok (.getfield 184, 3) := dk_180 0 184 (dk_at dksX1_opens_2 4 rfl rfl)
theorem dX1_opens_54 : decode cX1_opens 54 = .ok (.if_icmp .eq 6, 3) := dk_159 0 6 (dk_at dksX1_opens_2 7 rfl rfl)
theorem dX1_opens_57 : decode cX1_opens 57 = .ok (.goto 56, 3) := dk_167 0 56 (dk_at dksX1_opens_2 10 rfl rfl)
theorem dX1_opens_60 : decode cX1_opens 60 = .ok (.new 59, 3) := dk_187 0 59 (dk_at dksX1_opens_2 13 rfl rfl)
theorem dX1_opens_63 : decode cX1_opens 63 = .ok (.dup, 1) := dk_89 (dk_at dksX1_opens_2 16 rfl rfl)
theorem dX1_opens_64 : decode cX1_opens 64 = .ok (.aload_n 2, 1) := dk_44 (dk_at dksX1_opens_2 17 rfl rfl)
theorem dX1_opens_65 : decode cX1_opens 65 = .ok (.getfield 185, 3) := dk_180 0 185 (dk_at dksX1_opens_2 18 rfl rfl)
theorem dX1_opens_68 : decode cX1_opens 68 = .ok (.invokespecial 218, 3) := dk_183 0 218 (dk_at dksX1_opens_2 21 rfl rfl)
theorem dX1_opens_71 : decode cX1_opens 71 = .ok (.astore 5, 2) := dk_58 5 (dk_at dksX1_opens_3 0 rfl rfl)
theorem dX1_opens_73 : decode cX1_opens 73 = .ok (.aload_n 0, 1) := dk_42 (dk_at dksX1_opens_3 2 rfl rfl)
theorem dX1_opens_74 : decode cX1_opens 74 = .ok (.aload 5, 2) := dk_25 5 (dk_at dksX1_opens_3 3 rfl rfl)
theorem dX1_opens_76 : decode cX1_opens 76 = .ok (.aload_n 0, 1) := dk_42 (dk_at dksX1_opens_3 5 rfl rfl)
theorem dX1_opens_77 : decode cX1_opens 77 = .ok (.getfield 26, 3) := dk_180 0 26 (dk_at dksX1_opens_3 6 rfl rfl)
theorem dX1_opens_80 : decode cX1_opens 80 = .ok (.getfield 212, 3) := dk_180 0 212 (dk_at dksX1_opens_3 9 rfl rfl)
theorem dX1_opens_83 : decode cX1_opens 83 = .ok (.iload 4, 2) := dk_21 4 (dk_at dksX1_opens_3 12 rfl rfl)
theorem dX1_opens_85 : decode cX1_opens 85 = .ok (.invokevirtual 153, 3) := dk_182 0 153 (dk_at dksX1_opens_3 14 rfl rfl)
theorem dX1_opens_88 : decode cX1_opens 88 = .ok (.checkcast 165, 3) := dk_192 0 165 (dk_at dksX1_opens_3 17 rfl rfl)
theorem dX1_opens_91 : decode cX1_opens 91 = .ok (.invokevirtual 221, 3) := dk_182 0 221 (dk_at dksX1_opens_3 20 rfl rfl)
theorem dX1_opens_94 : decode cX1_opens 94 = .ok (.iload_n 3, 1) := dk_29 (dk_at dksX1_opens_3 23 rfl rfl)
theorem dX1_opens_95 : decode cX1_opens 95 = .ok (.aload 5, 2) := dk_25 5 (dk_at dksX1_opens_4 0 rfl rfl)
theorem dX1_opens_97 : decode cX1_opens 97 = .ok (.getfield 146, 3) := dk_180 0 146 (dk_at dksX1_opens_4 2 rfl rfl)
theorem dX1_opens_100 : decode cX1_opens 100 = .ok (.ifCond .eq 7, 3) := dk_153 0 7 (dk_at dksX1_opens_4 5 rfl rfl)
theorem dX1_opens_103 : decode cX1_opens 103 = .ok (.iconst 0, 1) := dk_3 (dk_at dksX1_opens_4 8 rfl rfl)
theorem dX1_opens_104 : decode cX1_opens 104 = .ok (.goto 7, 3) := dk_167 0 7 (dk_at dksX1_opens_4 9 rfl rfl)
theorem dX1_opens_107 : decode cX1_opens 107 = .ok (.iconst 1, 1) := dk_4 (dk_at dksX1_opens_4 12 rfl rfl)
theorem dX1_opens_108 : decode cX1_opens 108 = .ok (.iload 4, 2) := dk_21 4 (dk_at dksX1_opens_4 13 rfl rfl)
theorem dX1_opens_110 : decode cX1_opens 110 = .ok (.ishl, 1) := dk_120 (dk_at dksX1_opens_4 15 rfl rfl)
theorem dX1_opens_111 : decode cX1_opens 111 = .ok (.ior, 1) := dk_128 (dk_at dksX1_opens_4 16 rfl rfl)
theorem dX1_opens_112 : decode cX1_opens 112 = .ok (.istore_n 3, 1) := dk_62 (dk_at dksX1_opens_4 17 rfl rfl)
theorem dX1_opens_113 : decode cX1_opens 113 = .ok (.iinc 4 1, 3) := dk_132 4 1 (dk_at dksX1_opens_4 18 rfl rfl)
theorem dX1_opens_116 : decode cX1_opens 116 = .ok (.goto (-99), 3) := dk_167 255 157 (dk_at dksX1_opens_4 21 rfl rfl)
theorem dX1_opens_119 : decode cX1_opens 119 = .ok (.iload_n 3, 1) := dk_29 (dk_at dksX1_opens_5 0 rfl rfl)
theorem dX1_opens_120 : decode cX1_opens 120 = .ok (.ireturn, 1) := dk_172 (dk_at dksX1_opens_5 1 rfl rfl)
def dkwX1_stuck_1 : List UInt8 := [132, 1, 1, 167, 255, 232, 16, 254, 172]
abbrev dktX1_stuck_1 : List UInt8 := dkwX1_stuck_1 ++ []
def dkwX1_stuck_0 : List UInt8 := [3, 60, 27, 42, 180, 0, 37, 182, 0, 208, 162, 0, 19, 42, 27, 182, 1, 140, 154, 0, 5, 27, 172]
abbrev dktX1_stuck_0 : List UInt8 := dkwX1_stuck_0 ++ dktX1_stuck_1
theorem dksX1_stuck_0 : cX1_stuck.data.toList.drop 0 = dktX1_stuck_0 := by decide +kernel
theorem dksX1_stuck_1 : cX1_stuck.data.toList.drop 23 = dktX1_stuck_1 := dk_seg dksX1_stuck_0 23 rfl rfl
theorem dX1_stuck_0 : decode cX1_stuck 0 = .ok (.iconst 0, 1) := dk_3 (dk_at dksX1_stuck_0 0 rfl rfl)
theorem dX1_stuck_1 : decode cX1_stuck 1 = .ok (.istore_n 1, 1) := dk_60 (dk_at dksX1_stuck_0 1 rfl rfl)
theorem dX1_stuck_2 : decode cX1_stuck 2 = .ok (.iload_n 1, 1) := dk_27 (dk_at dksX1_stuck_0 2 rfl rfl)
theorem dX1_stuck_3 : decode cX1_stuck 3 = .ok (.aload_n 0, 1) := dk_42 (dk_at dksX1_stuck_0 3 rfl rfl)
theorem dX1_stuck_4 : decode cX1_stuck 4 = .ok (.getfield 37, 3) := dk_180 0 37 (dk_at dksX1_stuck_0 4 rfl rfl)
theorem dX1_stuck_7 : decode cX1_stuck 7 = .ok (.invokevirtual 208, 3) := dk_182 0 208 (dk_at dksX1_stuck_0 7 rfl rfl)
theorem dX1_stuck_10 : decode cX1_stuck 10 = .ok (.if_icmp .ge 19, 3) := dk_162 0 19 (dk_at dksX1_stuck_0 10 rfl rfl)
theorem dX1_stuck_13 : decode cX1_stuck 13 = .ok (.aload_n 0, 1) := dk_42 (dk_at dksX1_stuck_0 13 rfl rfl)
theorem dX1_stuck_14 : decode cX1_stuck 14 = .ok (.iload_n 1, 1) := dk_27 (dk_at dksX1_stuck_0 14 rfl rfl)
theorem dX1_stuck_15 : decode cX1_stuck 15 = .ok (.invokevirtual 396, 3) := dk_182 1 140 (dk_at dksX1_stuck_0 15 rfl rfl)
theorem dX1_stuck_18 : decode cX1_stuck 18 = .ok (.ifCond .ne 5, 3) := dk_154 0 5 (dk_at dksX1_stuck_0 18 rfl rfl)
theorem dX1_stuck_21 : decode cX1_stuck 21 = .ok (.iload_n 1, 1) := dk_27 (dk_at dksX1_stuck_0 21 rfl rfl)
theorem dX1_stuck_22 : decode cX1_stuck 22 = .ok (.ireturn, 1) := dk_172 (dk_at dksX1_stuck_0 22 rfl rfl)
theorem dX1_stuck_23 : decode cX1_stuck 23 = .ok (.iinc 1 1, 3) := dk_132 1 1 (dk_at dksX1_stuck_1 0 rfl rfl)
theorem dX1_stuck_26 : decode cX1_stuck 26 = .ok (.goto (-24), 3) := dk_167 255 232 (dk_at dksX1_stuck_1 3 rfl rfl)
theorem dX1_stuck_29 : decode cX1_stuck 29 = .ok (.bipush (-2), 2) := dk_16 254 (dk_at dksX1_stuck_1 6 rfl rfl)
theorem dX1_stuck_31 : decode cX1_stuck 31 = .ok (.ireturn, 1) := dk_172 (dk_at dksX1_stuck_1 8 rfl rfl)
def dkwX1_reached_2_1 : List UInt8 := [185, 0, 124, 1, 0, 192, 0, 182, 78, 27, 4, 45, 180, 0, 184, 120, 128, 60, 167, 255, 228, 27, 172]
abbrev dktX1_reached_2_1 : List UInt8 := dkwX1_reached_2_1 ++ []
def dkwX1_reached_2_0 : List UInt8 := [3, 60, 42, 180, 0, 37, 182, 0, 114, 77, 44, 185, 0, 118, 1, 0, 153, 0, 25, 44]
abbrev dktX1_reached_2_0 : List UInt8 := dkwX1_reached_2_0 ++ dktX1_reached_2_1
theorem dksX1_reached_2_0 : cX1_reached_2.data.toList.drop 0 = dktX1_reached_2_0 := by decide +kernel
theorem dksX1_reached_2_1 : cX1_reached_2.data.toList.drop 20 = dktX1_reached_2_1 := dk_seg dksX1_reached_2_0 20 rfl rfl
theorem dX1_reached_2_0 : decode cX1_reached_2 0 = .ok (.iconst 0, 1) := dk_3 (dk_at dksX1_reached_2_0 0 rfl rfl)
theorem dX1_reached_2_1 : decode cX1_reached_2 1 = .ok (.istore_n 1, 1) := dk_60 (dk_at dksX1_reached_2_0 1 rfl rfl)
theorem dX1_reached_2_2 : decode cX1_reached_2 2 = .ok (.aload_n 0, 1) := dk_42 (dk_at dksX1_reached_2_0 2 rfl rfl)
theorem dX1_reached_2_3 : decode cX1_reached_2 3 = .ok (.getfield 37, 3) := dk_180 0 37 (dk_at dksX1_reached_2_0 3 rfl rfl)
theorem dX1_reached_2_6 : decode cX1_reached_2 6 = .ok (.invokevirtual 114, 3) := dk_182 0 114 (dk_at dksX1_reached_2_0 6 rfl rfl)
theorem dX1_reached_2_9 : decode cX1_reached_2 9 = .ok (.astore_n 2, 1) := dk_77 (dk_at dksX1_reached_2_0 9 rfl rfl)
theorem dX1_reached_2_10 : decode cX1_reached_2 10 = .ok (.aload_n 2, 1) := dk_44 (dk_at dksX1_reached_2_0 10 rfl rfl)
theorem dX1_reached_2_11 : decode cX1_reached_2 11 = .ok (.invokeinterface 118 1, 5) := by decide +kernel
theorem dX1_reached_2_16 : decode cX1_reached_2 16 = .ok (.ifCond .eq 25, 3) := dk_153 0 25 (dk_at dksX1_reached_2_0 16 rfl rfl)
theorem dX1_reached_2_19 : decode cX1_reached_2 19 = .ok (.aload_n 2, 1) := dk_44 (dk_at dksX1_reached_2_0 19 rfl rfl)
theorem dX1_reached_2_20 : decode cX1_reached_2 20 = .ok (.invokeinterface 124 1, 5) := by decide +kernel
theorem dX1_reached_2_25 : decode cX1_reached_2 25 = .ok (.checkcast 182, 3) := dk_192 0 182 (dk_at dksX1_reached_2_1 5 rfl rfl)
theorem dX1_reached_2_28 : decode cX1_reached_2 28 = .ok (.astore_n 3, 1) := dk_78 (dk_at dksX1_reached_2_1 8 rfl rfl)
theorem dX1_reached_2_29 : decode cX1_reached_2 29 = .ok (.iload_n 1, 1) := dk_27 (dk_at dksX1_reached_2_1 9 rfl rfl)
theorem dX1_reached_2_30 : decode cX1_reached_2 30 = .ok (.iconst 1, 1) := dk_4 (dk_at dksX1_reached_2_1 10 rfl rfl)
theorem dX1_reached_2_31 : decode cX1_reached_2 31 = .ok (.aload_n 3, 1) := dk_45 (dk_at dksX1_reached_2_1 11 rfl rfl)
theorem dX1_reached_2_32 : decode cX1_reached_2 32 = .ok (.getfield 184, 3) := dk_180 0 184 (dk_at dksX1_reached_2_1 12 rfl rfl)
theorem dX1_reached_2_35 : decode cX1_reached_2 35 = .ok (.ishl, 1) := dk_120 (dk_at dksX1_reached_2_1 15 rfl rfl)
theorem dX1_reached_2_36 : decode cX1_reached_2 36 = .ok (.ior, 1) := dk_128 (dk_at dksX1_reached_2_1 16 rfl rfl)
theorem dX1_reached_2_37 : decode cX1_reached_2 37 = .ok (.istore_n 1, 1) := dk_60 (dk_at dksX1_reached_2_1 17 rfl rfl)
theorem dX1_reached_2_38 : decode cX1_reached_2 38 = .ok (.goto (-28), 3) := dk_167 255 228 (dk_at dksX1_reached_2_1 18 rfl rfl)
theorem dX1_reached_2_41 : decode cX1_reached_2 41 = .ok (.iload_n 1, 1) := dk_27 (dk_at dksX1_reached_2_1 21 rfl rfl)
theorem dX1_reached_2_42 : decode cX1_reached_2 42 = .ok (.ireturn, 1) := dk_172 (dk_at dksX1_reached_2_1 22 rfl rfl)
def dkwX1_deepest_4 : List UInt8 := [132, 4, 1, 167, 255, 182, 28, 16, 254, 159, 0, 7, 27, 154, 0, 7, 28, 167, 0, 4, 29, 172]
abbrev dktX1_deepest_4 : List UInt8 := dkwX1_deepest_4 ++ []
def dkwX1_deepest_3 : List UInt8 := [167, 0, 22, 21, 4, 61, 42, 180, 0, 37, 21, 5, 182, 0, 153, 192, 0, 182, 180, 0, 229, 62]
abbrev dktX1_deepest_3 : List UInt8 := dkwX1_deepest_3 ++ dktX1_deepest_4
def dkwX1_deepest_2 : List UInt8 := [159, 0, 44, 42, 180, 0, 37, 21, 5, 182, 0, 153, 192, 0, 182, 180, 0, 229, 29, 163, 0, 6]
abbrev dktX1_deepest_2 : List UInt8 := dkwX1_deepest_2 ++ dktX1_deepest_3
def dkwX1_deepest_1 : List UInt8 := [180, 0, 26, 180, 1, 5, 182, 0, 208, 162, 0, 65, 42, 21, 4, 182, 0, 235, 54, 5, 21, 5, 16, 254]
abbrev dktX1_deepest_1 : List UInt8 := dkwX1_deepest_1 ++ dktX1_deepest_2
def dkwX1_deepest_0 : List UInt8 := [27, 3, 4, 184, 0, 68, 154, 0, 5, 2, 172, 16, 254, 61, 2, 62, 3, 54, 4, 21, 4, 42]
abbrev dktX1_deepest_0 : List UInt8 := dkwX1_deepest_0 ++ dktX1_deepest_1
theorem dksX1_deepest_0 : cX1_deepest.data.toList.drop 0 = dktX1_deepest_0 := by decide +kernel
theorem dksX1_deepest_1 : cX1_deepest.data.toList.drop 22 = dktX1_deepest_1 := dk_seg dksX1_deepest_0 22 rfl rfl
theorem dksX1_deepest_2 : cX1_deepest.data.toList.drop 46 = dktX1_deepest_2 := dk_seg dksX1_deepest_1 24 rfl rfl
theorem dksX1_deepest_3 : cX1_deepest.data.toList.drop 68 = dktX1_deepest_3 := dk_seg dksX1_deepest_2 22 rfl rfl
theorem dksX1_deepest_4 : cX1_deepest.data.toList.drop 90 = dktX1_deepest_4 := dk_seg dksX1_deepest_3 22 rfl rfl
theorem dX1_deepest_0 : decode cX1_deepest 0 = .ok (.iload_n 1, 1) := dk_27 (dk_at dksX1_deepest_0 0 rfl rfl)
theorem dX1_deepest_1 : decode cX1_deepest 1 = .ok (.iconst 0, 1) := dk_3 (dk_at dksX1_deepest_0 1 rfl rfl)
theorem dX1_deepest_2 : decode cX1_deepest 2 = .ok (.iconst 1, 1) := dk_4 (dk_at dksX1_deepest_0 2 rfl rfl)
theorem dX1_deepest_3 : decode cX1_deepest 3 = .ok (.invokestatic 68, 3) := dk_184 0 68 (dk_at dksX1_deepest_0 3 rfl rfl)
theorem dX1_deepest_6 : decode cX1_deepest 6 = .ok (.ifCond .ne 5, 3) := dk_154 0 5 (dk_at dksX1_deepest_0 6 rfl rfl)
theorem dX1_deepest_9 : decode cX1_deepest 9 = .ok (.iconst (-1), 1) := dk_2 (dk_at dksX1_deepest_0 9 rfl rfl)
theorem dX1_deepest_10 : decode cX1_deepest 10 = .ok (.ireturn, 1) := dk_172 (dk_at dksX1_deepest_0 10 rfl rfl)
theorem dX1_deepest_11 : decode cX1_deepest 11 = .ok (.bipush (-2), 2) := dk_16 254 (dk_at dksX1_deepest_0 11 rfl rfl)
theorem dX1_deepest_13 : decode cX1_deepest 13 = .ok (.istore_n 2, 1) := dk_61 (dk_at dksX1_deepest_0 13 rfl rfl)
theorem dX1_deepest_14 : decode cX1_deepest 14 = .ok (.iconst (-1), 1) := dk_2 (dk_at dksX1_deepest_0 14 rfl rfl)
theorem dX1_deepest_15 : decode cX1_deepest 15 = .ok (.istore_n 3, 1) := dk_62 (dk_at dksX1_deepest_0 15 rfl rfl)
theorem dX1_deepest_16 : decode cX1_deepest 16 = .ok (.iconst 0, 1) := dk_3 (dk_at dksX1_deepest_0 16 rfl rfl)
theorem dX1_deepest_17 : decode cX1_deepest 17 = .ok (.istore 4, 2) := dk_54 4 (dk_at dksX1_deepest_0 17 rfl rfl)
theorem dX1_deepest_19 : decode cX1_deepest 19 = .ok (.iload 4, 2) := dk_21 4 (dk_at dksX1_deepest_0 19 rfl rfl)
theorem dX1_deepest_21 : decode cX1_deepest 21 = .ok (.aload_n 0, 1) := dk_42 (dk_at dksX1_deepest_0 21 rfl rfl)
theorem dX1_deepest_22 : decode cX1_deepest 22 = .ok (.getfield 26, 3) := dk_180 0 26 (dk_at dksX1_deepest_1 0 rfl rfl)
theorem dX1_deepest_25 : decode cX1_deepest 25 = .ok (.getfield 261, 3) := dk_180 1 5 (dk_at dksX1_deepest_1 3 rfl rfl)
theorem dX1_deepest_28 : decode cX1_deepest 28 = .ok (.invokevirtual 208, 3) := dk_182 0 208 (dk_at dksX1_deepest_1 6 rfl rfl)
theorem dX1_deepest_31 : decode cX1_deepest 31 = .ok (.if_icmp .ge 65, 3) := dk_162 0 65 (dk_at dksX1_deepest_1 9 rfl rfl)
theorem dX1_deepest_34 : decode cX1_deepest 34 = .ok (.aload_n 0, 1) := dk_42 (dk_at dksX1_deepest_1 12 rfl rfl)
theorem dX1_deepest_35 : decode cX1_deepest 35 = .ok (.iload 4, 2) := dk_21 4 (dk_at dksX1_deepest_1 13 rfl rfl)
theorem dX1_deepest_37 : decode cX1_deepest 37 = .ok (.invokevirtual 235, 3) := dk_182 0 235 (dk_at dksX1_deepest_1 15 rfl rfl)
theorem dX1_deepest_40 : decode cX1_deepest 40 = .ok (.istore 5, 2) := dk_54 5 (dk_at dksX1_deepest_1 18 rfl rfl)
theorem dX1_deepest_42 : decode cX1_deepest 42 = .ok (.iload 5, 2) := dk_21 5 (dk_at dksX1_deepest_1 20 rfl rfl)
theorem dX1_deepest_44 : decode cX1_deepest 44 = .ok (.bipush (-2), 2) := dk_16 254 (dk_at dksX1_deepest_1 22 rfl rfl)
theorem dX1_deepest_46 : decode cX1_deepest 46 = .ok (.if_icmp .eq 44, 3) := dk_159 0 44 (dk_at dksX1_deepest_2 0 rfl rfl)
theorem dX1_deepest_49 : decode cX1_deepest 49 = .ok (.aload_n 0, 1) := dk_42 (dk_at dksX1_deepest_2 3 rfl rfl)
theorem dX1_deepest_50 : decode cX1_deepest 50 = .ok (.getfield 37, 3) := dk_180 0 37 (dk_at dksX1_deepest_2 4 rfl rfl)
theorem dX1_deepest_53 : decode cX1_deepest 53 = .ok (.iload 5, 2) := dk_21 5 (dk_at dksX1_deepest_2 7 rfl rfl)
theorem dX1_deepest_55 : decode cX1_deepest 55 = .ok (.invokevirtual 153, 3) := dk_182 0 153 (dk_at dksX1_deepest_2 9 rfl rfl)
theorem dX1_deepest_58 : decode cX1_deepest 58 = .ok (.checkcast 182, 3) := dk_192 0 182 (dk_at dksX1_deepest_2 12 rfl rfl)
theorem dX1_deepest_61 : decode cX1_deepest 61 = .ok (.getfield 229, 3) := dk_180 0 229 (dk_at dksX1_deepest_2 15 rfl rfl)
theorem dX1_deepest_64 : decode cX1_deepest 64 = .ok (.iload_n 3, 1) := dk_29 (dk_at dksX1_deepest_2 18 rfl rfl)
theorem dX1_deepest_65 : decode cX1_deepest 65 = .ok (.if_icmp .gt 6, 3) := dk_163 0 6 (dk_at dksX1_deepest_2 19 rfl rfl)
theorem dX1_deepest_68 : decode cX1_deepest 68 = .ok (.goto 22, 3) := dk_167 0 22 (dk_at dksX1_deepest_3 0 rfl rfl)
theorem dX1_deepest_71 : decode cX1_deepest 71 = .ok (.iload 4, 2) := dk_21 4 (dk_at dksX1_deepest_3 3 rfl rfl)
theorem dX1_deepest_73 : decode cX1_deepest 73 = .ok (.istore_n 2, 1) := dk_61 (dk_at dksX1_deepest_3 5 rfl rfl)
theorem dX1_deepest_74 : decode cX1_deepest 74 = .ok (.aload_n 0, 1) := dk_42 (dk_at dksX1_deepest_3 6 rfl rfl)
theorem dX1_deepest_75 : decode cX1_deepest 75 = .ok (.getfield 37, 3) := dk_180 0 37 (dk_at dksX1_deepest_3 7 rfl rfl)
theorem dX1_deepest_78 : decode cX1_deepest 78 = .ok (.iload 5, 2) := dk_21 5 (dk_at dksX1_deepest_3 10 rfl rfl)
theorem dX1_deepest_80 : decode cX1_deepest 80 = .ok (.invokevirtual 153, 3) := dk_182 0 153 (dk_at dksX1_deepest_3 12 rfl rfl)
theorem dX1_deepest_83 : decode cX1_deepest 83 = .ok (.checkcast 182, 3) := dk_192 0 182 (dk_at dksX1_deepest_3 15 rfl rfl)
theorem dX1_deepest_86 : decode cX1_deepest 86 = .ok (.getfield 229, 3) := dk_180 0 229 (dk_at dksX1_deepest_3 18 rfl rfl)
theorem dX1_deepest_89 : decode cX1_deepest 89 = .ok (.istore_n 3, 1) := dk_62 (dk_at dksX1_deepest_3 21 rfl rfl)
theorem dX1_deepest_90 : decode cX1_deepest 90 = .ok (.iinc 4 1, 3) := dk_132 4 1 (dk_at dksX1_deepest_4 0 rfl rfl)
theorem dX1_deepest_93 : decode cX1_deepest 93 = .ok (.goto (-74), 3) := dk_167 255 182 (dk_at dksX1_deepest_4 3 rfl rfl)
theorem dX1_deepest_96 : decode cX1_deepest 96 = .ok (.iload_n 2, 1) := dk_28 (dk_at dksX1_deepest_4 6 rfl rfl)
theorem dX1_deepest_97 : decode cX1_deepest 97 = .ok (.bipush (-2), 2) := dk_16 254 (dk_at dksX1_deepest_4 7 rfl rfl)
theorem dX1_deepest_99 : decode cX1_deepest 99 = .ok (.if_icmp .eq 7, 3) := dk_159 0 7 (dk_at dksX1_deepest_4 9 rfl rfl)
theorem dX1_deepest_102 : decode cX1_deepest 102 = .ok (.iload_n 1, 1) := dk_27 (dk_at dksX1_deepest_4 12 rfl rfl)
theorem dX1_deepest_103 : decode cX1_deepest 103 = .ok (.ifCond .ne 7, 3) := dk_154 0 7 (dk_at dksX1_deepest_4 13 rfl rfl)
theorem dX1_deepest_106 : decode cX1_deepest 106 = .ok (.iload_n 2, 1) := dk_28 (dk_at dksX1_deepest_4 16 rfl rfl)
theorem dX1_deepest_107 : decode cX1_deepest 107 = .ok (.goto 4, 3) := dk_167 0 4 (dk_at dksX1_deepest_4 17 rfl rfl)
theorem dX1_deepest_110 : decode cX1_deepest 110 = .ok (.iload_n 3, 1) := dk_29 (dk_at dksX1_deepest_4 20 rfl rfl)
theorem dX1_deepest_111 : decode cX1_deepest 111 = .ok (.ireturn, 1) := dk_172 (dk_at dksX1_deepest_4 21 rfl rfl)
def dkwX1_tells_7 : List UInt8 := [132, 4, 1, 167, 255, 177, 29, 172]
abbrev dktX1_tells_7 : List UInt8 := dkwX1_tells_7 ++ []
def dkwX1_tells_6 : List UInt8 := [192, 0, 165, 180, 0, 169, 27, 184, 1, 142, 153, 0, 10, 4, 21, 4, 120, 167, 0, 4, 3, 128, 62]
abbrev dktX1_tells_6 : List UInt8 := dkwX1_tells_6 ++ dktX1_tells_7
def dkwX1_tells_5 : List UInt8 := [182, 0, 153, 192, 0, 165, 180, 0, 164, 167, 0, 21, 42, 180, 0, 26, 180, 0, 212, 21, 4, 182, 0, 153]
abbrev dktX1_tells_5 : List UInt8 := dkwX1_tells_5 ++ dktX1_tells_6
def dkwX1_tells_4 : List UInt8 := [180, 0, 212, 182, 0, 208, 162, 0, 70, 29, 28, 154, 0, 24, 42, 180, 0, 26, 180, 0, 212, 21, 4]
abbrev dktX1_tells_4 : List UInt8 := dkwX1_tells_4 ++ dktX1_tells_5
def dkwX1_tells_3 : List UInt8 := [120, 167, 0, 4, 3, 128, 62, 132, 4, 1, 167, 255, 205, 29, 172, 3, 54, 4, 21, 4, 42, 180, 0, 26]
abbrev dktX1_tells_3 : List UInt8 := dkwX1_tells_3 ++ dktX1_tells_4
def dkwX1_tells_2 : List UInt8 := [180, 0, 26, 180, 0, 150, 21, 4, 182, 0, 153, 192, 0, 34, 27, 184, 1, 142, 153, 0, 10, 4, 21, 4]
abbrev dktX1_tells_2 : List UInt8 := dkwX1_tells_2 ++ dktX1_tells_3
def dkwX1_tells_1 : List UInt8 := [160, 0, 62, 3, 54, 4, 21, 4, 42, 180, 0, 26, 180, 1, 5, 182, 0, 208, 162, 0, 42, 29, 42]
abbrev dktX1_tells_1 : List UInt8 := dkwX1_tells_1 ++ dktX1_tells_2
def dkwX1_tells_0 : List UInt8 := [42, 27, 182, 1, 1, 153, 0, 12, 28, 3, 5, 184, 0, 68, 154, 0, 5, 2, 172, 3, 62, 28, 5]
abbrev dktX1_tells_0 : List UInt8 := dkwX1_tells_0 ++ dktX1_tells_1
theorem dksX1_tells_0 : cX1_tells.data.toList.drop 0 = dktX1_tells_0 := by decide +kernel
theorem dksX1_tells_1 : cX1_tells.data.toList.drop 23 = dktX1_tells_1 := dk_seg dksX1_tells_0 23 rfl rfl
theorem dksX1_tells_2 : cX1_tells.data.toList.drop 46 = dktX1_tells_2 := dk_seg dksX1_tells_1 23 rfl rfl
theorem dksX1_tells_3 : cX1_tells.data.toList.drop 70 = dktX1_tells_3 := dk_seg dksX1_tells_2 24 rfl rfl
theorem dksX1_tells_4 : cX1_tells.data.toList.drop 94 = dktX1_tells_4 := dk_seg dksX1_tells_3 24 rfl rfl
theorem dksX1_tells_5 : cX1_tells.data.toList.drop 117 = dktX1_tells_5 := dk_seg dksX1_tells_4 23 rfl rfl
theorem dksX1_tells_6 : cX1_tells.data.toList.drop 141 = dktX1_tells_6 := dk_seg dksX1_tells_5 24 rfl rfl
theorem dksX1_tells_7 : cX1_tells.data.toList.drop 164 = dktX1_tells_7 := dk_seg dksX1_tells_6 23 rfl rfl
theorem dX1_tells_0 : decode cX1_tells 0 = .ok (.aload_n 0, 1) := dk_42 (dk_at dksX1_tells_0 0 rfl rfl)
theorem dX1_tells_1 : decode cX1_tells 1 = .ok (.iload_n 1, 1) := dk_27 (dk_at dksX1_tells_0 1 rfl rfl)
theorem dX1_tells_2 : decode cX1_tells 2 = .ok (.invokevirtual 257, 3) := dk_182 1 1 (dk_at dksX1_tells_0 2 rfl rfl)
theorem dX1_tells_5 : decode cX1_tells 5 = .ok (.ifCond .eq 12, 3) := dk_153 0 12 (dk_at dksX1_tells_0 5 rfl rfl)
theorem dX1_tells_8 : decode cX1_tells 8 = .ok (.iload_n 2, 1) := dk_28 (dk_at dksX1_tells_0 8 rfl rfl)
theorem dX1_tells_9 : decode cX1_tells 9 = .ok (.iconst 0, 1) := dk_3 (dk_at dksX1_tells_0 9 rfl rfl)
theorem dX1_tells_10 : decode cX1_tells 10 = .ok (.iconst 2, 1) := dk_5 (dk_at dksX1_tells_0 10 rfl rfl)
theorem dX1_tells_11 : decode cX1_tells 11 = .ok (.invokestatic 68, 3) := dk_184 0 68 (dk_at dksX1_tells_0 11 rfl rfl)
theorem dX1_tells_14 : decode cX1_tells 14 = .ok (.ifCond .ne 5, 3) := dk_154 0 5 (dk_at dksX1_tells_0 14 rfl rfl)
theorem dX1_tells_17 : decode cX1_tells 17 = .ok (.iconst (-1), 1) := dk_2 (dk_at dksX1_tells_0 17 rfl rfl)
theorem dX1_tells_18 : decode cX1_tells 18 = .ok (.ireturn, 1) := dk_172 (dk_at dksX1_tells_0 18 rfl rfl)
theorem dX1_tells_19 : decode cX1_tells 19 = .ok (.iconst 0, 1) := dk_3 (dk_at dksX1_tells_0 19 rfl rfl)
theorem dX1_tells_20 : decode cX1_tells 20 = .ok (.istore_n 3, 1) := dk_62 (dk_at dksX1_tells_0 20 rfl rfl)
theorem dX1_tells_21 : decode cX1_tells 21 = .ok (.iload_n 2, 1) := dk_28 (dk_at dksX1_tells_0 21 rfl rfl)
theorem dX1_tells_22 : decode cX1_tells 22 = .ok (.iconst 2, 1) := dk_5 (dk_at dksX1_tells_0 22 rfl rfl)
theorem dX1_tells_23 : decode cX1_tells 23 = .ok (.if_icmp .ne 62, 3) := dk_160 0 62 (dk_at dksX1_tells_1 0 rfl rfl)
theorem dX1_tells_26 : decode cX1_tells 26 = .ok (.iconst 0, 1) := dk_3 (dk_at dksX1_tells_1 3 rfl rfl)
theorem dX1_tells_27 : decode cX1_tells 27 = .ok (.istore 4, 2) := dk_54 4 (dk_at dksX1_tells_1 4 rfl rfl)
theorem dX1_tells_29 : decode cX1_tells 29 = .ok (.iload 4, 2) := dk_21 4 (dk_at dksX1_tells_1 6 rfl rfl)
theorem dX1_tells_31 : decode cX1_tells 31 = .ok (.aload_n 0, 1) := dk_42 (dk_at dksX1_tells_1 8 rfl rfl)
theorem dX1_tells_32 : decode cX1_tells 32 = .ok (.getfield 26, 3) := dk_180 0 26 (dk_at dksX1_tells_1 9 rfl rfl)
theorem dX1_tells_35 : decode cX1_tells 35 = .ok (.getfield 261, 3) := dk_180 1 5 (dk_at dksX1_tells_1 12 rfl rfl)
theorem dX1_tells_38 : decode cX1_tells 38 = .ok (.invokevirtual 208, 3) := dk_182 0 208 (dk_at dksX1_tells_1 15 rfl rfl)
theorem dX1_tells_41 : decode cX1_tells 41 = .ok (.if_icmp .ge 42, 3) := dk_162 0 42 (dk_at dksX1_tells_1 18 rfl rfl)
theorem dX1_tells_44 : decode cX1_tells 44 = .ok (.iload_n 3, 1) := dk_29 (dk_at dksX1_tells_1 21 rfl rfl)
theorem dX1_tells_45 : decode cX1_tells 45 = .ok (.aload_n 0, 1) := dk_42 (dk_at dksX1_tells_1 22 rfl rfl)
theorem dX1_tells_46 : decode cX1_tells 46 = .ok (.getfield 26, 3) := dk_180 0 26 (dk_at dksX1_tells_2 0 rfl rfl)
theorem dX1_tells_49 : decode cX1_tells 49 = .ok (.getfield 150, 3) := dk_180 0 150 (dk_at dksX1_tells_2 3 rfl rfl)
theorem dX1_tells_52 : decode cX1_tells 52 = .ok (.iload 4, 2) := dk_21 4 (dk_at dksX1_tells_2 6 rfl rfl)
theorem dX1_tells_54 : decode cX1_tells 54 = .ok (.invokevirtual 153, 3) := dk_182 0 153 (dk_at dksX1_tells_2 8 rfl rfl)
theorem dX1_tells_57 : decode cX1_tells 57 = .ok (.checkcast 34, 3) := dk_192 0 34 (dk_at dksX1_tells_2 11 rfl rfl)
theorem dX1_tells_60 : decode cX1_tells 60 = .ok (.iload_n 1, 1) := dk_27 (dk_at dksX1_tells_2 14 rfl rfl)
theorem dX1_tells_61 : decode cX1_tells 61 = .ok (.invokestatic 398, 3) := dk_184 1 142 (dk_at dksX1_tells_2 15 rfl rfl)
theorem dX1_tells_64 : decode cX1_tells 64 = .ok (.ifCond .eq 10, 3) := dk_153 0 10 (dk_at dksX1_tells_2 18 rfl rfl)
theorem dX1_tells_67 : decode cX1_tells 67 = .ok (.iconst 1, 1) := dk_4 (dk_at dksX1_tells_2 21 rfl rfl)
theorem dX1_tells_68 : decode cX1_tells 68 = .ok (.iload 4, 2) := dk_21 4 (dk_at dksX1_tells_2 22 rfl rfl)
theorem dX1_tells_70 : decode cX1_tells 70 = .ok (.ishl, 1) := dk_120 (dk_at dksX1_tells_3 0 rfl rfl)
theorem dX1_tells_71 : decode cX1_tells 71 = .ok (.goto 4, 3) := dk_167 0 4 (dk_at dksX1_tells_3 1 rfl rfl)
theorem dX1_tells_74 : decode cX1_tells 74 = .ok (.iconst 0, 1) := dk_3 (dk_at dksX1_tells_3 4 rfl rfl)
theorem dX1_tells_75 : decode cX1_tells 75 = .ok (.ior, 1) := dk_128 (dk_at dksX1_tells_3 5 rfl rfl)
theorem dX1_tells_76 : decode cX1_tells 76 = .ok (.istore_n 3, 1) := dk_62 (dk_at dksX1_tells_3 6 rfl rfl)
theorem dX1_tells_77 : decode cX1_tells 77 = .ok (.iinc 4 1, 3) := dk_132 4 1 (dk_at dksX1_tells_3 7 rfl rfl)
theorem dX1_tells_80 : decode cX1_tells 80 = .ok (.goto (-51), 3) := dk_167 255 205 (dk_at dksX1_tells_3 10 rfl rfl)
theorem dX1_tells_83 : decode cX1_tells 83 = .ok (.iload_n 3, 1) := dk_29 (dk_at dksX1_tells_3 13 rfl rfl)
theorem dX1_tells_84 : decode cX1_tells 84 = .ok (.ireturn, 1) := dk_172 (dk_at dksX1_tells_3 14 rfl rfl)
theorem dX1_tells_85 : decode cX1_tells 85 = .ok (.iconst 0, 1) := dk_3 (dk_at dksX1_tells_3 15 rfl rfl)
theorem dX1_tells_86 : decode cX1_tells 86 = .ok (.istore 4, 2) := dk_54 4 (dk_at dksX1_tells_3 16 rfl rfl)
theorem dX1_tells_88 : decode cX1_tells 88 = .ok (.iload 4, 2) := dk_21 4 (dk_at dksX1_tells_3 18 rfl rfl)
theorem dX1_tells_90 : decode cX1_tells 90 = .ok (.aload_n 0, 1) := dk_42 (dk_at dksX1_tells_3 20 rfl rfl)
theorem dX1_tells_91 : decode cX1_tells 91 = .ok (.getfield 26, 3) := dk_180 0 26 (dk_at dksX1_tells_3 21 rfl rfl)
theorem dX1_tells_94 : decode cX1_tells 94 = .ok (.getfield 212, 3) := dk_180 0 212 (dk_at dksX1_tells_4 0 rfl rfl)
theorem dX1_tells_97 : decode cX1_tells 97 = .ok (.invokevirtual 208, 3) := dk_182 0 208 (dk_at dksX1_tells_4 3 rfl rfl)
theorem dX1_tells_100 : decode cX1_tells 100 = .ok (.if_icmp .ge 70, 3) := dk_162 0 70 (dk_at dksX1_tells_4 6 rfl rfl)
theorem dX1_tells_103 : decode cX1_tells 103 = .ok (.iload_n 3, 1) := dk_29 (dk_at dksX1_tells_4 9 rfl rfl)
theorem dX1_tells_104 : decode cX1_tells 104 = .ok (.iload_n 2, 1) := dk_28 (dk_at dksX1_tells_4 10 rfl rfl)
theorem dX1_tells_105 : decode cX1_tells 105 = .ok (.ifCond .ne 24, 3) := dk_154 0 24 (dk_at dksX1_tells_4 11 rfl rfl)
theorem dX1_tells_108 : decode cX1_tells 108 = .ok (.aload_n 0, 1) := dk_42 (dk_at dksX1_tells_4 14 rfl rfl)
theorem dX1_tells_109 : decode cX1_tells 109 = .ok (.getfield 26, 3) := dk_180 0 26 (dk_at dksX1_tells_4 15 rfl rfl)
theorem dX1_tells_112 : decode cX1_tells 112 = .ok (.getfield 212, 3) := dk_180 0 212 (dk_at dksX1_tells_4 18 rfl rfl)
theorem dX1_tells_115 : decode cX1_tells 115 = .ok (.iload 4, 2) := dk_21 4 (dk_at dksX1_tells_4 21 rfl rfl)
theorem dX1_tells_117 : decode cX1_tells 117 = .ok (.invokevirtual 153, 3) := dk_182 0 153 (dk_at dksX1_tells_5 0 rfl rfl)
theorem dX1_tells_120 : decode cX1_tells 120 = .ok (.checkcast 165, 3) := dk_192 0 165 (dk_at dksX1_tells_5 3 rfl rfl)
theorem dX1_tells_123 : decode cX1_tells 123 = .ok (.getfield 164, 3) := dk_180 0 164 (dk_at dksX1_tells_5 6 rfl rfl)
theorem dX1_tells_126 : decode cX1_tells 126 = .ok (.goto 21, 3) := dk_167 0 21 (dk_at dksX1_tells_5 9 rfl rfl)
theorem dX1_tells_129 : decode cX1_tells 129 = .ok (.aload_n 0, 1) := dk_42 (dk_at dksX1_tells_5 12 rfl rfl)
theorem dX1_tells_130 : decode cX1_tells 130 = .ok (.getfield 26, 3) := dk_180 0 26 (dk_at dksX1_tells_5 13 rfl rfl)
theorem dX1_tells_133 : decode cX1_tells 133 = .ok (.getfield 212, 3) := dk_180 0 212 (dk_at dksX1_tells_5 16 rfl rfl)
theorem dX1_tells_136 : decode cX1_tells 136 = .ok (.iload 4, 2) := dk_21 4 (dk_at dksX1_tells_5 19 rfl rfl)
theorem dX1_tells_138 : decode cX1_tells 138 = .ok (.invokevirtual 153, 3) := dk_182 0 153 (dk_at dksX1_tells_5 21 rfl rfl)
theorem dX1_tells_141 : decode cX1_tells 141 = .ok (.checkcast 165, 3) := dk_192 0 165 (dk_at dksX1_tells_6 0 rfl rfl)
theorem dX1_tells_144 : decode cX1_tells 144 = .ok (.getfield 169, 3) := dk_180 0 169 (dk_at dksX1_tells_6 3 rfl rfl)
theorem dX1_tells_147 : decode cX1_tells 147 = .ok (.iload_n 1, 1) := dk_27 (dk_at dksX1_tells_6 6 rfl rfl)
theorem dX1_tells_148 : decode cX1_tells 148 = .ok (.invokestatic 398, 3) := dk_184 1 142 (dk_at dksX1_tells_6 7 rfl rfl)
theorem dX1_tells_151 : decode cX1_tells 151 = .ok (.ifCond .eq 10, 3) := dk_153 0 10 (dk_at dksX1_tells_6 10 rfl rfl)
theorem dX1_tells_154 : decode cX1_tells 154 = .ok (.iconst 1, 1) := dk_4 (dk_at dksX1_tells_6 13 rfl rfl)
theorem dX1_tells_155 : decode cX1_tells 155 = .ok (.iload 4, 2) := dk_21 4 (dk_at dksX1_tells_6 14 rfl rfl)
theorem dX1_tells_157 : decode cX1_tells 157 = .ok (.ishl, 1) := dk_120 (dk_at dksX1_tells_6 16 rfl rfl)
theorem dX1_tells_158 : decode cX1_tells 158 = .ok (.goto 4, 3) := dk_167 0 4 (dk_at dksX1_tells_6 17 rfl rfl)
theorem dX1_tells_161 : decode cX1_tells 161 = .ok (.iconst 0, 1) := dk_3 (dk_at dksX1_tells_6 20 rfl rfl)
theorem dX1_tells_162 : decode cX1_tells 162 = .ok (.ior, 1) := dk_128 (dk_at dksX1_tells_6 21 rfl rfl)
theorem dX1_tells_163 : decode cX1_tells 163 = .ok (.istore_n 3, 1) := dk_62 (dk_at dksX1_tells_6 22 rfl rfl)
theorem dX1_tells_164 : decode cX1_tells 164 = .ok (.iinc 4 1, 3) := dk_132 4 1 (dk_at dksX1_tells_7 0 rfl rfl)
theorem dX1_tells_167 : decode cX1_tells 167 = .ok (.goto (-79), 3) := dk_167 255 177 (dk_at dksX1_tells_7 3 rfl rfl)
theorem dX1_tells_170 : decode cX1_tells 170 = .ok (.iload_n 3, 1) := dk_29 (dk_at dksX1_tells_7 6 rfl rfl)
theorem dX1_tells_171 : decode cX1_tells 171 = .ok (.ireturn, 1) := dk_172 (dk_at dksX1_tells_7 7 rfl rfl)
def dkwX1_tellsOf_1 : List UInt8 := [45, 180, 0, 130, 27, 160, 0, 5, 4, 172, 167, 255, 227, 3, 172]
abbrev dktX1_tellsOf_1 : List UInt8 := dkwX1_tellsOf_1 ++ []
def dkwX1_tellsOf_0 : List UInt8 := [42, 182, 0, 114, 77, 44, 185, 0, 118, 1, 0, 153, 0, 26, 44, 185, 0, 124, 1, 0, 192, 0, 128, 78]
abbrev dktX1_tellsOf_0 : List UInt8 := dkwX1_tellsOf_0 ++ dktX1_tellsOf_1
theorem dksX1_tellsOf_0 : cX1_tellsOf.data.toList.drop 0 = dktX1_tellsOf_0 := by decide +kernel
theorem dksX1_tellsOf_1 : cX1_tellsOf.data.toList.drop 24 = dktX1_tellsOf_1 := dk_seg dksX1_tellsOf_0 24 rfl rfl
theorem dX1_tellsOf_0 : decode cX1_tellsOf 0 = .ok (.aload_n 0, 1) := dk_42 (dk_at dksX1_tellsOf_0 0 rfl rfl)
theorem dX1_tellsOf_1 : decode cX1_tellsOf 1 = .ok (.invokevirtual 114, 3) := dk_182 0 114 (dk_at dksX1_tellsOf_0 1 rfl rfl)
theorem dX1_tellsOf_4 : decode cX1_tellsOf 4 = .ok (.astore_n 2, 1) := dk_77 (dk_at dksX1_tellsOf_0 4 rfl rfl)
theorem dX1_tellsOf_5 : decode cX1_tellsOf 5 = .ok (.aload_n 2, 1) := dk_44 (dk_at dksX1_tellsOf_0 5 rfl rfl)
theorem dX1_tellsOf_6 : decode cX1_tellsOf 6 = .ok (.invokeinterface 118 1, 5) := by decide +kernel
theorem dX1_tellsOf_11 : decode cX1_tellsOf 11 = .ok (.ifCond .eq 26, 3) := dk_153 0 26 (dk_at dksX1_tellsOf_0 11 rfl rfl)
theorem dX1_tellsOf_14 : decode cX1_tellsOf 14 = .ok (.aload_n 2, 1) := dk_44 (dk_at dksX1_tellsOf_0 14 rfl rfl)
theorem dX1_tellsOf_15 : decode cX1_tellsOf 15 = .ok (.invokeinterface 124 1, 5) := by decide +kernel
theorem dX1_tellsOf_20 : decode cX1_tellsOf 20 = .ok (.checkcast 128, 3) := dk_192 0 128 (dk_at dksX1_tellsOf_0 20 rfl rfl)
theorem dX1_tellsOf_23 : decode cX1_tellsOf 23 = .ok (.astore_n 3, 1) := dk_78 (dk_at dksX1_tellsOf_0 23 rfl rfl)
theorem dX1_tellsOf_24 : decode cX1_tellsOf 24 = .ok (.aload_n 3, 1) := dk_45 (dk_at dksX1_tellsOf_1 0 rfl rfl)
theorem dX1_tellsOf_25 : decode cX1_tellsOf 25 = .ok (.getfield 130, 3) := dk_180 0 130 (dk_at dksX1_tellsOf_1 1 rfl rfl)
theorem dX1_tellsOf_28 : decode cX1_tellsOf 28 = .ok (.iload_n 1, 1) := dk_27 (dk_at dksX1_tellsOf_1 4 rfl rfl)
theorem dX1_tellsOf_29 : decode cX1_tellsOf 29 = .ok (.if_icmp .ne 5, 3) := dk_160 0 5 (dk_at dksX1_tellsOf_1 5 rfl rfl)
theorem dX1_tellsOf_32 : decode cX1_tellsOf 32 = .ok (.iconst 1, 1) := dk_4 (dk_at dksX1_tellsOf_1 8 rfl rfl)
theorem dX1_tellsOf_33 : decode cX1_tellsOf 33 = .ok (.ireturn, 1) := dk_172 (dk_at dksX1_tellsOf_1 9 rfl rfl)
theorem dX1_tellsOf_34 : decode cX1_tellsOf 34 = .ok (.goto (-29), 3) := dk_167 255 227 (dk_at dksX1_tellsOf_1 10 rfl rfl)
theorem dX1_tellsOf_37 : decode cX1_tellsOf 37 = .ok (.iconst 0, 1) := dk_3 (dk_at dksX1_tellsOf_1 13 rfl rfl)
theorem dX1_tellsOf_38 : decode cX1_tellsOf 38 = .ok (.ireturn, 1) := dk_172 (dk_at dksX1_tellsOf_1 14 rfl rfl)
def dkwX1_single_3 : List UInt8 := [160, 0, 11, 4, 29, 4, 100, 120, 167, 0, 4, 3, 128, 61, 132, 3, 1, 167, 255, 197, 28, 172]
abbrev dktX1_single_3 : List UInt8 := dkwX1_single_3 ++ []
def dkwX1_single_2 : List UInt8 := [29, 3, 182, 1, 85, 42, 180, 0, 45, 27, 50, 3, 29, 182, 1, 85, 184, 1, 97, 178, 1, 146]
abbrev dktX1_single_2 : List UInt8 := dkwX1_single_2 ++ dktX1_single_3
def dkwX1_single_1 : List UInt8 := [3, 61, 4, 62, 29, 42, 180, 0, 45, 27, 50, 180, 1, 103, 162, 0, 52, 28, 42, 180, 0, 45, 27, 50]
abbrev dktX1_single_1 : List UInt8 := dkwX1_single_1 ++ dktX1_single_2
def dkwX1_single_0 : List UInt8 := [27, 184, 1, 49, 154, 0, 5, 2, 172, 42, 180, 0, 45, 27, 50, 180, 0, 146, 153, 0, 6, 16, 254, 172]
abbrev dktX1_single_0 : List UInt8 := dkwX1_single_0 ++ dktX1_single_1
theorem dksX1_single_0 : cX1_single.data.toList.drop 0 = dktX1_single_0 := by decide +kernel
theorem dksX1_single_1 : cX1_single.data.toList.drop 24 = dktX1_single_1 := dk_seg dksX1_single_0 24 rfl rfl
theorem dksX1_single_2 : cX1_single.data.toList.drop 48 = dktX1_single_2 := dk_seg dksX1_single_1 24 rfl rfl
theorem dksX1_single_3 : cX1_single.data.toList.drop 70 = dktX1_single_3 := dk_seg dksX1_single_2 22 rfl rfl
theorem dX1_single_0 : decode cX1_single 0 = .ok (.iload_n 1, 1) := dk_27 (dk_at dksX1_single_0 0 rfl rfl)
theorem dX1_single_1 : decode cX1_single 1 = .ok (.invokestatic 305, 3) := dk_184 1 49 (dk_at dksX1_single_0 1 rfl rfl)
theorem dX1_single_4 : decode cX1_single 4 = .ok (.ifCond .ne 5, 3) := dk_154 0 5 (dk_at dksX1_single_0 4 rfl rfl)
theorem dX1_single_7 : decode cX1_single 7 = .ok (.iconst (-1), 1) := dk_2 (dk_at dksX1_single_0 7 rfl rfl)
theorem dX1_single_8 : decode cX1_single 8 = .ok (.ireturn, 1) := dk_172 (dk_at dksX1_single_0 8 rfl rfl)
theorem dX1_single_9 : decode cX1_single 9 = .ok (.aload_n 0, 1) := dk_42 (dk_at dksX1_single_0 9 rfl rfl)
theorem dX1_single_10 : decode cX1_single 10 = .ok (.getfield 45, 3) := dk_180 0 45 (dk_at dksX1_single_0 10 rfl rfl)
theorem dX1_single_13 : decode cX1_single 13 = .ok (.iload_n 1, 1) := dk_27 (dk_at dksX1_single_0 13 rfl rfl)
theorem dX1_single_14 : decode cX1_single 14 = .ok (.aaload, 1) := dk_50 (dk_at dksX1_single_0 14 rfl rfl)
theorem dX1_single_15 : decode cX1_single 15 = .ok (.getfield 146, 3) := dk_180 0 146 (dk_at dksX1_single_0 15 rfl rfl)
theorem dX1_single_18 : decode cX1_single 18 = .ok (.ifCond .eq 6, 3) := dk_153 0 6 (dk_at dksX1_single_0 18 rfl rfl)
theorem dX1_single_21 : decode cX1_single 21 = .ok (.bipush (-2), 2) := dk_16 254 (dk_at dksX1_single_0 21 rfl rfl)
theorem dX1_single_23 : decode cX1_single 23 = .ok (.ireturn, 1) := dk_172 (dk_at dksX1_single_0 23 rfl rfl)
theorem dX1_single_24 : decode cX1_single 24 = .ok (.iconst 0, 1) := dk_3 (dk_at dksX1_single_1 0 rfl rfl)
theorem dX1_single_25 : decode cX1_single 25 = .ok (.istore_n 2, 1) := dk_61 (dk_at dksX1_single_1 1 rfl rfl)
theorem dX1_single_26 : decode cX1_single 26 = .ok (.iconst 1, 1) := dk_4 (dk_at dksX1_single_1 2 rfl rfl)
theorem dX1_single_27 : decode cX1_single 27 = .ok (.istore_n 3, 1) := dk_62 (dk_at dksX1_single_1 3 rfl rfl)
theorem dX1_single_28 : decode cX1_single 28 = .ok (.iload_n 3, 1) := dk_29 (dk_at dksX1_single_1 4 rfl rfl)
theorem dX1_single_29 : decode cX1_single 29 = .ok (.aload_n 0, 1) := dk_42 (dk_at dksX1_single_1 5 rfl rfl)
theorem dX1_single_30 : decode cX1_single 30 = .ok (.getfield 45, 3) := dk_180 0 45 (dk_at dksX1_single_1 6 rfl rfl)
theorem dX1_single_33 : decode cX1_single 33 = .ok (.iload_n 1, 1) := dk_27 (dk_at dksX1_single_1 9 rfl rfl)
theorem dX1_single_34 : decode cX1_single 34 = .ok (.aaload, 1) := dk_50 (dk_at dksX1_single_1 10 rfl rfl)
theorem dX1_single_35 : decode cX1_single 35 = .ok (.getfield 359, 3) := dk_180 1 103 (dk_at dksX1_single_1 11 rfl rfl)
theorem dX1_single_38 : decode cX1_single 38 = .ok (.if_icmp .ge 52, 3) := dk_162 0 52 (dk_at dksX1_single_1 14 rfl rfl)
theorem dX1_single_41 : decode cX1_single 41 = .ok (.iload_n 2, 1) := dk_28 (dk_at dksX1_single_1 17 rfl rfl)
theorem dX1_single_42 : decode cX1_single 42 = .ok (.aload_n 0, 1) := dk_42 (dk_at dksX1_single_1 18 rfl rfl)
theorem dX1_single_43 : decode cX1_single 43 = .ok (.getfield 45, 3) := dk_180 0 45 (dk_at dksX1_single_1 19 rfl rfl)
theorem dX1_single_46 : decode cX1_single 46 = .ok (.iload_n 1, 1) := dk_27 (dk_at dksX1_single_1 22 rfl rfl)
theorem dX1_single_47 : decode cX1_single 47 = .ok (.aaload, 1) := dk_50 (dk_at dksX1_single_1 23 rfl rfl)
theorem dX1_single_48 : decode cX1_single 48 = .ok (.iload_n 3, 1) := dk_29 (dk_at dksX1_single_2 0 rfl rfl)
theorem dX1_single_49 : decode cX1_single 49 = .ok (.iconst 0, 1) := dk_3 (dk_at dksX1_single_2 1 rfl rfl)
theorem dX1_single_50 : decode cX1_single 50 = .ok (.invokevirtual 341, 3) := dk_182 1 85 (dk_at dksX1_single_2 2 rfl rfl)
theorem dX1_single_53 : decode cX1_single 53 = .ok (.aload_n 0, 1) := dk_42 (dk_at dksX1_single_2 5 rfl rfl)
theorem dX1_single_54 : decode cX1_single 54 = .ok (.getfield 45, 3) := dk_180 0 45 (dk_at dksX1_single_2 6 rfl rfl)
theorem dX1_single_57 : decode cX1_single 57 = .ok (.iload_n 1, 1) := dk_27 (dk_at dksX1_single_2 9 rfl rfl)
theorem dX1_single_58 : decode cX1_single 58 = .ok (.aaload, 1) := dk_50 (dk_at dksX1_single_2 10 rfl rfl)
theorem dX1_single_59 : decode cX1_single 59 = .ok (.iconst 0, 1) := dk_3 (dk_at dksX1_single_2 11 rfl rfl)
theorem dX1_single_60 : decode cX1_single 60 = .ok (.iload_n 3, 1) := dk_29 (dk_at dksX1_single_2 12 rfl rfl)
theorem dX1_single_61 : decode cX1_single 61 = .ok (.invokevirtual 341, 3) := dk_182 1 85 (dk_at dksX1_single_2 13 rfl rfl)
theorem dX1_single_64 : decode cX1_single 64 = .ok (.invokestatic 353, 3) := dk_184 1 97 (dk_at dksX1_single_2 16 rfl rfl)
theorem dX1_single_67 : decode cX1_single 67 = .ok (.getstatic 402, 3) := dk_178 1 146 (dk_at dksX1_single_2 19 rfl rfl)
theorem dX1_single_70 : decode cX1_single 70 = .ok (.if_icmp .ne 11, 3) := dk_160 0 11 (dk_at dksX1_single_3 0 rfl rfl)
theorem dX1_single_73 : decode cX1_single 73 = .ok (.iconst 1, 1) := dk_4 (dk_at dksX1_single_3 3 rfl rfl)
theorem dX1_single_74 : decode cX1_single 74 = .ok (.iload_n 3, 1) := dk_29 (dk_at dksX1_single_3 4 rfl rfl)
theorem dX1_single_75 : decode cX1_single 75 = .ok (.iconst 1, 1) := dk_4 (dk_at dksX1_single_3 5 rfl rfl)
theorem dX1_single_76 : decode cX1_single 76 = .ok (.isub, 1) := dk_100 (dk_at dksX1_single_3 6 rfl rfl)
theorem dX1_single_77 : decode cX1_single 77 = .ok (.ishl, 1) := dk_120 (dk_at dksX1_single_3 7 rfl rfl)
theorem dX1_single_78 : decode cX1_single 78 = .ok (.goto 4, 3) := dk_167 0 4 (dk_at dksX1_single_3 8 rfl rfl)
theorem dX1_single_81 : decode cX1_single 81 = .ok (.iconst 0, 1) := dk_3 (dk_at dksX1_single_3 11 rfl rfl)
theorem dX1_single_82 : decode cX1_single 82 = .ok (.ior, 1) := dk_128 (dk_at dksX1_single_3 12 rfl rfl)
theorem dX1_single_83 : decode cX1_single 83 = .ok (.istore_n 2, 1) := dk_61 (dk_at dksX1_single_3 13 rfl rfl)
theorem dX1_single_84 : decode cX1_single 84 = .ok (.iinc 3 1, 3) := dk_132 3 1 (dk_at dksX1_single_3 14 rfl rfl)
theorem dX1_single_87 : decode cX1_single 87 = .ok (.goto (-59), 3) := dk_167 255 197 (dk_at dksX1_single_3 17 rfl rfl)
theorem dX1_single_90 : decode cX1_single 90 = .ok (.iload_n 2, 1) := dk_28 (dk_at dksX1_single_3 20 rfl rfl)
theorem dX1_single_91 : decode cX1_single 91 = .ok (.ireturn, 1) := dk_172 (dk_at dksX1_single_3 21 rfl rfl)
def dkwX1_leads_3 : List UInt8 := [4, 25, 5, 180, 0, 175, 120, 128, 61, 167, 255, 211, 132, 3, 1, 167, 255, 187, 28, 172]
abbrev dktX1_leads_3 : List UInt8 := dkwX1_leads_3 ++ []
def dkwX1_leads_2 : List UInt8 := [185, 0, 124, 1, 0, 192, 0, 165, 58, 5, 28, 25, 5, 180, 0, 215, 122, 4, 126, 4, 160, 0, 13, 28]
abbrev dktX1_leads_2 : List UInt8 := dkwX1_leads_2 ++ dktX1_leads_3
def dkwX1_leads_1 : List UInt8 := [180, 0, 26, 180, 0, 212, 182, 0, 114, 58, 4, 25, 4, 185, 0, 118, 1, 0, 153, 0, 41, 25, 4]
abbrev dktX1_leads_1 : List UInt8 := dkwX1_leads_1 ++ dktX1_leads_2
def dkwX1_leads_0 : List UInt8 := [42, 27, 182, 1, 8, 154, 0, 5, 2, 172, 4, 27, 120, 61, 3, 62, 29, 16, 8, 162, 0, 69, 42]
abbrev dktX1_leads_0 : List UInt8 := dkwX1_leads_0 ++ dktX1_leads_1
theorem dksX1_leads_0 : cX1_leads.data.toList.drop 0 = dktX1_leads_0 := by decide +kernel
theorem dksX1_leads_1 : cX1_leads.data.toList.drop 23 = dktX1_leads_1 := dk_seg dksX1_leads_0 23 rfl rfl
theorem dksX1_leads_2 : cX1_leads.data.toList.drop 46 = dktX1_leads_2 := dk_seg dksX1_leads_1 23 rfl rfl
theorem dksX1_leads_3 : cX1_leads.data.toList.drop 70 = dktX1_leads_3 := dk_seg dksX1_leads_2 24 rfl rfl
theorem dX1_leads_0 : decode cX1_leads 0 = .ok (.aload_n 0, 1) := dk_42 (dk_at dksX1_leads_0 0 rfl rfl)
theorem dX1_leads_1 : decode cX1_leads 1 = .ok (.iload_n 1, 1) := dk_27 (dk_at dksX1_leads_0 1 rfl rfl)
theorem dX1_leads_2 : decode cX1_leads 2 = .ok (.invokevirtual 264, 3) := dk_182 1 8 (dk_at dksX1_leads_0 2 rfl rfl)
theorem dX1_leads_5 : decode cX1_leads 5 = .ok (.ifCond .ne 5, 3) := dk_154 0 5 (dk_at dksX1_leads_0 5 rfl rfl)
theorem dX1_leads_8 : decode cX1_leads 8 = .ok (.iconst (-1), 1) := dk_2 (dk_at dksX1_leads_0 8 rfl rfl)
theorem dX1_leads_9 : decode cX1_leads 9 = .ok (.ireturn, 1) := dk_172 (dk_at dksX1_leads_0 9 rfl rfl)
theorem dX1_leads_10 : decode cX1_leads 10 = .ok (.iconst 1, 1) := dk_4 (dk_at dksX1_leads_0 10 rfl rfl)
theorem dX1_leads_11 : decode cX1_leads 11 = .ok (.iload_n 1, 1) := dk_27 (dk_at dksX1_leads_0 11 rfl rfl)
theorem dX1_leads_12 : decode cX1_leads 12 = .ok (.ishl, 1) := dk_120 (dk_at dksX1_leads_0 12 rfl rfl)
theorem dX1_leads_13 : decode cX1_leads 13 = .ok (.istore_n 2, 1) := dk_61 (dk_at dksX1_leads_0 13 rfl rfl)
theorem dX1_leads_14 : decode cX1_leads 14 = .ok (.iconst 0, 1) := dk_3 (dk_at dksX1_leads_0 14 rfl rfl)
theorem dX1_leads_15 : decode cX1_leads 15 = .ok (.istore_n 3, 1) := dk_62 (dk_at dksX1_leads_0 15 rfl rfl)
theorem dX1_leads_16 : decode cX1_leads 16 = .ok (.iload_n 3, 1) := dk_29 (dk_at dksX1_leads_0 16 rfl rfl)
theorem dX1_leads_17 : decode cX1_leads 17 = .ok (.bipush 8, 2) := dk_16 8 (dk_at dksX1_leads_0 17 rfl rfl)
theorem dX1_leads_19 : decode cX1_leads 19 = .ok (.if_icmp .ge 69, 3) := dk_162 0 69 (dk_at dksX1_leads_0 19 rfl rfl)
theorem dX1_leads_22 : decode cX1_leads 22 = .ok (.aload_n 0, 1) := dk_42 (dk_at dksX1_leads_0 22 rfl rfl)
theorem dX1_leads_23 : decode cX1_leads 23 = .ok (.getfield 26, 3) := dk_180 0 26 (dk_at dksX1_leads_1 0 rfl rfl)
theorem dX1_leads_26 : decode cX1_leads 26 = .ok (.getfield 212, 3) := dk_180 0 212 (dk_at dksX1_leads_1 3 rfl rfl)
theorem dX1_leads_29 : decode cX1_leads 29 = .ok (.invokevirtual 114, 3) := dk_182 0 114 (dk_at dksX1_leads_1 6 rfl rfl)
theorem dX1_leads_32 : decode cX1_leads 32 = .ok (.astore 4, 2) := dk_58 4 (dk_at dksX1_leads_1 9 rfl rfl)
theorem dX1_leads_34 : decode cX1_leads 34 = .ok (.aload 4, 2) := dk_25 4 (dk_at dksX1_leads_1 11 rfl rfl)
theorem dX1_leads_36 : decode cX1_leads 36 = .ok (.invokeinterface 118 1, 5) := by decide +kernel
theorem dX1_leads_41 : decode cX1_leads 41 = .ok (.ifCond .eq 41, 3) := dk_153 0 41 (dk_at dksX1_leads_1 18 rfl rfl)
theorem dX1_leads_44 : decode cX1_leads 44 = .ok (.aload 4, 2) := dk_25 4 (dk_at dksX1_leads_1 21 rfl rfl)
theorem dX1_leads_46 : decode cX1_leads 46 = .ok (.invokeinterface 124 1, 5) := by decide +kernel
theorem dX1_leads_51 : decode cX1_leads 51 = .ok (.checkcast 165, 3) := dk_192 0 165 (dk_at dksX1_leads_2 5 rfl rfl)
theorem dX1_leads_54 : decode cX1_leads 54 = .ok (.astore 5, 2) := dk_58 5 (dk_at dksX1_leads_2 8 rfl rfl)
theorem dX1_leads_56 : decode cX1_leads 56 = .ok (.iload_n 2, 1) := dk_28 (dk_at dksX1_leads_2 10 rfl rfl)
theorem dX1_leads_57 : decode cX1_leads 57 = .ok (.aload 5, 2) := dk_25 5 (dk_at dksX1_leads_2 11 rfl rfl)
theorem dX1_leads_59 : decode cX1_leads 59 = .ok (.getfield 215, 3) := dk_180 0 215 (dk_at dksX1_leads_2 13 rfl rfl)
theorem dX1_leads_62 : decode cX1_leads 62 = .ok (.ishr, 1) := dk_122 (dk_at dksX1_leads_2 16 rfl rfl)
theorem dX1_leads_63 : decode cX1_leads 63 = .ok (.iconst 1, 1) := dk_4 (dk_at dksX1_leads_2 17 rfl rfl)
theorem dX1_leads_64 : decode cX1_leads 64 = .ok (.iand, 1) := dk_126 (dk_at dksX1_leads_2 18 rfl rfl)
theorem dX1_leads_65 : decode cX1_leads 65 = .ok (.iconst 1, 1) := dk_4 (dk_at dksX1_leads_2 19 rfl rfl)
theorem dX1_leads_66 : decode cX1_leads 66 = .ok (.if_icmp .ne 13, 3) := dk_160 0 13 (dk_at dksX1_leads_2 20 rfl rfl)
theorem dX1_leads_69 : decode cX1_leads 69 = .ok (.iload_n 2, 1) := dk_28 (dk_at dksX1_leads_2 23 rfl rfl)
theorem dX1_leads_70 : decode cX1_leads 70 = .ok (.iconst 1, 1) := dk_4 (dk_at dksX1_leads_3 0 rfl rfl)
theorem dX1_leads_71 : decode cX1_leads 71 = .ok (.aload 5, 2) := dk_25 5 (dk_at dksX1_leads_3 1 rfl rfl)
theorem dX1_leads_73 : decode cX1_leads 73 = .ok (.getfield 175, 3) := dk_180 0 175 (dk_at dksX1_leads_3 3 rfl rfl)
theorem dX1_leads_76 : decode cX1_leads 76 = .ok (.ishl, 1) := dk_120 (dk_at dksX1_leads_3 6 rfl rfl)
theorem dX1_leads_77 : decode cX1_leads 77 = .ok (.ior, 1) := dk_128 (dk_at dksX1_leads_3 7 rfl rfl)
theorem dX1_leads_78 : decode cX1_leads 78 = .ok (.istore_n 2, 1) := dk_61 (dk_at dksX1_leads_3 8 rfl rfl)
theorem dX1_leads_79 : decode cX1_leads 79 = .ok (.goto (-45), 3) := dk_167 255 211 (dk_at dksX1_leads_3 9 rfl rfl)
theorem dX1_leads_82 : decode cX1_leads 82 = .ok (.iinc 3 1, 3) := dk_132 3 1 (dk_at dksX1_leads_3 12 rfl rfl)
theorem dX1_leads_85 : decode cX1_leads 85 = .ok (.goto (-69), 3) := dk_167 255 187 (dk_at dksX1_leads_3 15 rfl rfl)
theorem dX1_leads_88 : decode cX1_leads 88 = .ok (.iload_n 2, 1) := dk_28 (dk_at dksX1_leads_3 18 rfl rfl)
theorem dX1_leads_89 : decode cX1_leads 89 = .ok (.ireturn, 1) := dk_172 (dk_at dksX1_leads_3 19 rfl rfl)
def dkwX1_fastest_3 : List UInt8 := [45, 182, 0, 208, 3, 28, 182, 1, 156, 172]
abbrev dktX1_fastest_3 : List UInt8 := dkwX1_fastest_3 ++ []
def dkwX1_fastest_2 : List UInt8 := [182, 0, 208, 183, 1, 152, 58, 4, 25, 4, 180, 1, 155, 153, 0, 8, 16, 253, 167, 0, 15, 25, 4, 3]
abbrev dktX1_fastest_2 : List UInt8 := dkwX1_fastest_2 ++ dktX1_fastest_3
def dkwX1_fastest_1 : List UInt8 := [78, 45, 199, 0, 6, 16, 254, 172, 45, 182, 1, 149, 153, 0, 5, 28, 172, 187, 1, 150, 89, 42, 45, 45]
abbrev dktX1_fastest_1 : List UInt8 := dkwX1_fastest_1 ++ dktX1_fastest_2
def dkwX1_fastest_0 : List UInt8 := [42, 27, 182, 1, 8, 153, 0, 12, 28, 3, 4, 184, 0, 68, 154, 0, 5, 2, 172, 42, 27, 182, 1, 133]
abbrev dktX1_fastest_0 : List UInt8 := dkwX1_fastest_0 ++ dktX1_fastest_1
theorem dksX1_fastest_0 : cX1_fastest.data.toList.drop 0 = dktX1_fastest_0 := by decide +kernel
theorem dksX1_fastest_1 : cX1_fastest.data.toList.drop 24 = dktX1_fastest_1 := dk_seg dksX1_fastest_0 24 rfl rfl
theorem dksX1_fastest_2 : cX1_fastest.data.toList.drop 48 = dktX1_fastest_2 := dk_seg dksX1_fastest_1 24 rfl rfl
theorem dksX1_fastest_3 : cX1_fastest.data.toList.drop 72 = dktX1_fastest_3 := dk_seg dksX1_fastest_2 24 rfl rfl
theorem dX1_fastest_0 : decode cX1_fastest 0 = .ok (.aload_n 0, 1) := dk_42 (dk_at dksX1_fastest_0 0 rfl rfl)
theorem dX1_fastest_1 : decode cX1_fastest 1 = .ok (.iload_n 1, 1) := dk_27 (dk_at dksX1_fastest_0 1 rfl rfl)
theorem dX1_fastest_2 : decode cX1_fastest 2 = .ok (.invokevirtual 264, 3) := dk_182 1 8 (dk_at dksX1_fastest_0 2 rfl rfl)
theorem dX1_fastest_5 : decode cX1_fastest 5 = .ok (.ifCond .eq 12, 3) := dk_153 0 12 (dk_at dksX1_fastest_0 5 rfl rfl)
theorem dX1_fastest_8 : decode cX1_fastest 8 = .ok (.iload_n 2, 1) := dk_28 (dk_at dksX1_fastest_0 8 rfl rfl)
theorem dX1_fastest_9 : decode cX1_fastest 9 = .ok (.iconst 0, 1) := dk_3 (dk_at dksX1_fastest_0 9 rfl rfl)
theorem dX1_fastest_10 : decode cX1_fastest 10 = .ok (.iconst 1, 1) := dk_4 (dk_at dksX1_fastest_0 10 rfl rfl)
theorem dX1_fastest_11 : decode cX1_fastest 11 = .ok (.invokestatic 68, 3) := dk_184 0 68 (dk_at dksX1_fastest_0 11 rfl rfl)
theorem dX1_fastest_14 : decode cX1_fastest 14 = .ok (.ifCond .ne 5, 3) := dk_154 0 5 (dk_at dksX1_fastest_0 14 rfl rfl)
theorem dX1_fastest_17 : decode cX1_fastest 17 = .ok (.iconst (-1), 1) := dk_2 (dk_at dksX1_fastest_0 17 rfl rfl)
theorem dX1_fastest_18 : decode cX1_fastest 18 = .ok (.ireturn, 1) := dk_172 (dk_at dksX1_fastest_0 18 rfl rfl)
theorem dX1_fastest_19 : decode cX1_fastest 19 = .ok (.aload_n 0, 1) := dk_42 (dk_at dksX1_fastest_0 19 rfl rfl)
theorem dX1_fastest_20 : decode cX1_fastest 20 = .ok (.iload_n 1, 1) := dk_27 (dk_at dksX1_fastest_0 20 rfl rfl)
theorem dX1_fastest_21 : decode cX1_fastest 21 = .ok (.invokevirtual 389, 3) := dk_182 1 133 (dk_at dksX1_fastest_0 21 rfl rfl)
theorem dX1_fastest_24 : decode cX1_fastest 24 = .ok (.astore_n 3, 1) := dk_78 (dk_at dksX1_fastest_1 0 rfl rfl)
theorem dX1_fastest_25 : decode cX1_fastest 25 = .ok (.aload_n 3, 1) := dk_45 (dk_at dksX1_fastest_1 1 rfl rfl)
theorem dX1_fastest_26 : decode cX1_fastest 26 = .ok (.ifnonnull 6, 3) := dk_199 0 6 (dk_at dksX1_fastest_1 2 rfl rfl)
theorem dX1_fastest_29 : decode cX1_fastest 29 = .ok (.bipush (-2), 2) := dk_16 254 (dk_at dksX1_fastest_1 5 rfl rfl)
theorem dX1_fastest_31 : decode cX1_fastest 31 = .ok (.ireturn, 1) := dk_172 (dk_at dksX1_fastest_1 7 rfl rfl)
theorem dX1_fastest_32 : decode cX1_fastest 32 = .ok (.aload_n 3, 1) := dk_45 (dk_at dksX1_fastest_1 8 rfl rfl)
theorem dX1_fastest_33 : decode cX1_fastest 33 = .ok (.invokevirtual 405, 3) := dk_182 1 149 (dk_at dksX1_fastest_1 9 rfl rfl)
theorem dX1_fastest_36 : decode cX1_fastest 36 = .ok (.ifCond .eq 5, 3) := dk_153 0 5 (dk_at dksX1_fastest_1 12 rfl rfl)
theorem dX1_fastest_39 : decode cX1_fastest 39 = .ok (.iload_n 2, 1) := dk_28 (dk_at dksX1_fastest_1 15 rfl rfl)
theorem dX1_fastest_40 : decode cX1_fastest 40 = .ok (.ireturn, 1) := dk_172 (dk_at dksX1_fastest_1 16 rfl rfl)
theorem dX1_fastest_41 : decode cX1_fastest 41 = .ok (.new 406, 3) := dk_187 1 150 (dk_at dksX1_fastest_1 17 rfl rfl)
theorem dX1_fastest_44 : decode cX1_fastest 44 = .ok (.dup, 1) := dk_89 (dk_at dksX1_fastest_1 20 rfl rfl)
theorem dX1_fastest_45 : decode cX1_fastest 45 = .ok (.aload_n 0, 1) := dk_42 (dk_at dksX1_fastest_1 21 rfl rfl)
theorem dX1_fastest_46 : decode cX1_fastest 46 = .ok (.aload_n 3, 1) := dk_45 (dk_at dksX1_fastest_1 22 rfl rfl)
theorem dX1_fastest_47 : decode cX1_fastest 47 = .ok (.aload_n 3, 1) := dk_45 (dk_at dksX1_fastest_1 23 rfl rfl)
theorem dX1_fastest_48 : decode cX1_fastest 48 = .ok (.invokevirtual 208, 3) := dk_182 0 208 (dk_at dksX1_fastest_2 0 rfl rfl)
theorem dX1_fastest_51 : decode cX1_fastest 51 = .ok (.invokespecial 408, 3) := dk_183 1 152 (dk_at dksX1_fastest_2 3 rfl rfl)
theorem dX1_fastest_54 : decode cX1_fastest 54 = .ok (.astore 4, 2) := dk_58 4 (dk_at dksX1_fastest_2 6 rfl rfl)
theorem dX1_fastest_56 : decode cX1_fastest 56 = .ok (.aload 4, 2) := dk_25 4 (dk_at dksX1_fastest_2 8 rfl rfl)
theorem dX1_fastest_58 : decode cX1_fastest 58 = .ok (.getfield 411, 3) := dk_180 1 155 (dk_at dksX1_fastest_2 10 rfl rfl)
theorem dX1_fastest_61 : decode cX1_fastest 61 = .ok (.ifCond .eq 8, 3) := dk_153 0 8 (dk_at dksX1_fastest_2 13 rfl rfl)
theorem dX1_fastest_64 : decode cX1_fastest 64 = .ok (.bipush (-3), 2) := dk_16 253 (dk_at dksX1_fastest_2 16 rfl rfl)
theorem dX1_fastest_66 : decode cX1_fastest 66 = .ok (.goto 15, 3) := dk_167 0 15 (dk_at dksX1_fastest_2 18 rfl rfl)
theorem dX1_fastest_69 : decode cX1_fastest 69 = .ok (.aload 4, 2) := dk_25 4 (dk_at dksX1_fastest_2 21 rfl rfl)
theorem dX1_fastest_71 : decode cX1_fastest 71 = .ok (.iconst 0, 1) := dk_3 (dk_at dksX1_fastest_2 23 rfl rfl)
theorem dX1_fastest_72 : decode cX1_fastest 72 = .ok (.aload_n 3, 1) := dk_45 (dk_at dksX1_fastest_3 0 rfl rfl)
theorem dX1_fastest_73 : decode cX1_fastest 73 = .ok (.invokevirtual 208, 3) := dk_182 0 208 (dk_at dksX1_fastest_3 1 rfl rfl)
theorem dX1_fastest_76 : decode cX1_fastest 76 = .ok (.iconst 0, 1) := dk_3 (dk_at dksX1_fastest_3 4 rfl rfl)
theorem dX1_fastest_77 : decode cX1_fastest 77 = .ok (.iload_n 2, 1) := dk_28 (dk_at dksX1_fastest_3 5 rfl rfl)
theorem dX1_fastest_78 : decode cX1_fastest 78 = .ok (.invokevirtual 412, 3) := dk_182 1 156 (dk_at dksX1_fastest_3 6 rfl rfl)
theorem dX1_fastest_81 : decode cX1_fastest 81 = .ok (.ireturn, 1) := dk_172 (dk_at dksX1_fastest_3 9 rfl rfl)
def dkwX1_add_3 : List UInt8 := [184, 0, 245, 182, 0, 204, 87, 42, 44, 182, 1, 164, 44, 182, 0, 208, 172]
abbrev dktX1_add_3 : List UInt8 := dkwX1_add_3 ++ []
def dkwX1_add_2 : List UInt8 := [16, 20, 160, 0, 6, 16, 253, 172, 187, 0, 34, 89, 42, 180, 0, 49, 183, 1, 161, 77, 44, 27]
abbrev dktX1_add_2 : List UInt8 := dkwX1_add_2 ++ dktX1_add_3
def dkwX1_add_1 : List UInt8 := [180, 0, 215, 42, 42, 180, 0, 49, 182, 1, 157, 159, 0, 6, 16, 254, 172, 42, 180, 0, 49, 182, 0, 208]
abbrev dktX1_add_1 : List UInt8 := dkwX1_add_1 ++ dktX1_add_2
def dkwX1_add_0 : List UInt8 := [42, 27, 182, 1, 17, 154, 0, 5, 2, 172, 42, 180, 0, 26, 180, 0, 212, 27, 182, 0, 153, 192, 0, 165]
abbrev dktX1_add_0 : List UInt8 := dkwX1_add_0 ++ dktX1_add_1
theorem dksX1_add_0 : cX1_add.data.toList.drop 0 = dktX1_add_0 := by decide +kernel
theorem dksX1_add_1 : cX1_add.data.toList.drop 24 = dktX1_add_1 := dk_seg dksX1_add_0 24 rfl rfl
theorem dksX1_add_2 : cX1_add.data.toList.drop 48 = dktX1_add_2 := dk_seg dksX1_add_1 24 rfl rfl
theorem dksX1_add_3 : cX1_add.data.toList.drop 70 = dktX1_add_3 := dk_seg dksX1_add_2 22 rfl rfl
theorem dX1_add_0 : decode cX1_add 0 = .ok (.aload_n 0, 1) := dk_42 (dk_at dksX1_add_0 0 rfl rfl)
theorem dX1_add_1 : decode cX1_add 1 = .ok (.iload_n 1, 1) := dk_27 (dk_at dksX1_add_0 1 rfl rfl)
theorem dX1_add_2 : decode cX1_add 2 = .ok (.invokevirtual 273, 3) := dk_182 1 17 (dk_at dksX1_add_0 2 rfl rfl)
theorem dX1_add_5 : decode cX1_add 5 = .ok (.ifCond .ne 5, 3) := dk_154 0 5 (dk_at dksX1_add_0 5 rfl rfl)
theorem dX1_add_8 : decode cX1_add 8 = .ok (.iconst (-1), 1) := dk_2 (dk_at dksX1_add_0 8 rfl rfl)
theorem dX1_add_9 : decode cX1_add 9 = .ok (.ireturn, 1) := dk_172 (dk_at dksX1_add_0 9 rfl rfl)
theorem dX1_add_10 : decode cX1_add 10 = .ok (.aload_n 0, 1) := dk_42 (dk_at dksX1_add_0 10 rfl rfl)
theorem dX1_add_11 : decode cX1_add 11 = .ok (.getfield 26, 3) := dk_180 0 26 (dk_at dksX1_add_0 11 rfl rfl)
theorem dX1_add_14 : decode cX1_add 14 = .ok (.getfield 212, 3) := dk_180 0 212 (dk_at dksX1_add_0 14 rfl rfl)
theorem dX1_add_17 : decode cX1_add 17 = .ok (.iload_n 1, 1) := dk_27 (dk_at dksX1_add_0 17 rfl rfl)
theorem dX1_add_18 : decode cX1_add 18 = .ok (.invokevirtual 153, 3) := dk_182 0 153 (dk_at dksX1_add_0 18 rfl rfl)
theorem dX1_add_21 : decode cX1_add 21 = .ok (.checkcast 165, 3) := dk_192 0 165 (dk_at dksX1_add_0 21 rfl rfl)
theorem dX1_add_24 : decode cX1_add 24 = .ok (.getfield 215, 3) := dk_180 0 215 (dk_at dksX1_add_1 0 rfl rfl)
theorem dX1_add_27 : decode cX1_add 27 = .ok (.aload_n 0, 1) := dk_42 (dk_at dksX1_add_1 3 rfl rfl)
theorem dX1_add_28 : decode cX1_add 28 = .ok (.aload_n 0, 1) := dk_42 (dk_at dksX1_add_1 4 rfl rfl)
theorem dX1_add_29 : decode cX1_add 29 = .ok (.getfield 49, 3) := dk_180 0 49 (dk_at dksX1_add_1 5 rfl rfl)
theorem dX1_add_32 : decode cX1_add 32 = .ok (.invokevirtual 413, 3) := dk_182 1 157 (dk_at dksX1_add_1 8 rfl rfl)
theorem dX1_add_35 : decode cX1_add 35 = .ok (.if_icmp .eq 6, 3) := dk_159 0 6 (dk_at dksX1_add_1 11 rfl rfl)
theorem dX1_add_38 : decode cX1_add 38 = .ok (.bipush (-2), 2) := dk_16 254 (dk_at dksX1_add_1 14 rfl rfl)
theorem dX1_add_40 : decode cX1_add 40 = .ok (.ireturn, 1) := dk_172 (dk_at dksX1_add_1 16 rfl rfl)
theorem dX1_add_41 : decode cX1_add 41 = .ok (.aload_n 0, 1) := dk_42 (dk_at dksX1_add_1 17 rfl rfl)
theorem dX1_add_42 : decode cX1_add 42 = .ok (.getfield 49, 3) := dk_180 0 49 (dk_at dksX1_add_1 18 rfl rfl)
theorem dX1_add_45 : decode cX1_add 45 = .ok (.invokevirtual 208, 3) := dk_182 0 208 (dk_at dksX1_add_1 21 rfl rfl)
theorem dX1_add_48 : decode cX1_add 48 = .ok (.bipush 20, 2) := dk_16 20 (dk_at dksX1_add_2 0 rfl rfl)
theorem dX1_add_50 : decode cX1_add 50 = .ok (.if_icmp .ne 6, 3) := dk_160 0 6 (dk_at dksX1_add_2 2 rfl rfl)
theorem dX1_add_53 : decode cX1_add 53 = .ok (.bipush (-3), 2) := dk_16 253 (dk_at dksX1_add_2 5 rfl rfl)
theorem dX1_add_55 : decode cX1_add 55 = .ok (.ireturn, 1) := dk_172 (dk_at dksX1_add_2 7 rfl rfl)
theorem dX1_add_56 : decode cX1_add 56 = .ok (.new 34, 3) := dk_187 0 34 (dk_at dksX1_add_2 8 rfl rfl)
theorem dX1_add_59 : decode cX1_add 59 = .ok (.dup, 1) := dk_89 (dk_at dksX1_add_2 11 rfl rfl)
theorem dX1_add_60 : decode cX1_add 60 = .ok (.aload_n 0, 1) := dk_42 (dk_at dksX1_add_2 12 rfl rfl)
theorem dX1_add_61 : decode cX1_add 61 = .ok (.getfield 49, 3) := dk_180 0 49 (dk_at dksX1_add_2 13 rfl rfl)
theorem dX1_add_64 : decode cX1_add 64 = .ok (.invokespecial 417, 3) := dk_183 1 161 (dk_at dksX1_add_2 16 rfl rfl)
theorem dX1_add_67 : decode cX1_add 67 = .ok (.astore_n 2, 1) := dk_77 (dk_at dksX1_add_2 19 rfl rfl)
theorem dX1_add_68 : decode cX1_add 68 = .ok (.aload_n 2, 1) := dk_44 (dk_at dksX1_add_2 20 rfl rfl)
theorem dX1_add_69 : decode cX1_add 69 = .ok (.iload_n 1, 1) := dk_27 (dk_at dksX1_add_2 21 rfl rfl)
theorem dX1_add_70 : decode cX1_add 70 = .ok (.invokestatic 245, 3) := dk_184 0 245 (dk_at dksX1_add_3 0 rfl rfl)
theorem dX1_add_73 : decode cX1_add 73 = .ok (.invokevirtual 204, 3) := dk_182 0 204 (dk_at dksX1_add_3 3 rfl rfl)
theorem dX1_add_76 : decode cX1_add 76 = .ok (.pop, 1) := dk_87 (dk_at dksX1_add_3 6 rfl rfl)
theorem dX1_add_77 : decode cX1_add 77 = .ok (.aload_n 0, 1) := dk_42 (dk_at dksX1_add_3 7 rfl rfl)
theorem dX1_add_78 : decode cX1_add 78 = .ok (.aload_n 2, 1) := dk_44 (dk_at dksX1_add_3 8 rfl rfl)
theorem dX1_add_79 : decode cX1_add 79 = .ok (.invokevirtual 420, 3) := dk_182 1 164 (dk_at dksX1_add_3 9 rfl rfl)
theorem dX1_add_82 : decode cX1_add 82 = .ok (.aload_n 2, 1) := dk_44 (dk_at dksX1_add_3 12 rfl rfl)
theorem dX1_add_83 : decode cX1_add 83 = .ok (.invokevirtual 208, 3) := dk_182 0 208 (dk_at dksX1_add_3 13 rfl rfl)
theorem dX1_add_86 : decode cX1_add 86 = .ok (.ireturn, 1) := dk_172 (dk_at dksX1_add_3 16 rfl rfl)
def dkwX1_endOf_2 : List UInt8 := [180, 0, 175, 172]
abbrev dktX1_endOf_2 : List UInt8 := dkwX1_endOf_2 ++ []
def dkwX1_endOf_1 : List UInt8 := [43, 43, 182, 0, 208, 4, 100, 182, 0, 153, 192, 0, 246, 182, 1, 137, 182, 0, 153, 192, 0, 165]
abbrev dktX1_endOf_1 : List UInt8 := dkwX1_endOf_1 ++ dktX1_endOf_2
def dkwX1_endOf_0 : List UInt8 := [43, 182, 1, 149, 153, 0, 13, 42, 180, 0, 26, 180, 0, 194, 167, 0, 35, 42, 180, 0, 26, 180, 0, 212]
abbrev dktX1_endOf_0 : List UInt8 := dkwX1_endOf_0 ++ dktX1_endOf_1
theorem dksX1_endOf_0 : cX1_endOf.data.toList.drop 0 = dktX1_endOf_0 := by decide +kernel
theorem dksX1_endOf_1 : cX1_endOf.data.toList.drop 24 = dktX1_endOf_1 := dk_seg dksX1_endOf_0 24 rfl rfl
theorem dksX1_endOf_2 : cX1_endOf.data.toList.drop 46 = dktX1_endOf_2 := dk_seg dksX1_endOf_1 22 rfl rfl
theorem dX1_endOf_0 : decode cX1_endOf 0 = .ok (.aload_n 1, 1) := dk_43 (dk_at dksX1_endOf_0 0 rfl rfl)
theorem dX1_endOf_1 : decode cX1_endOf 1 = .ok (.invokevirtual 405, 3) := dk_182 1 149 (dk_at dksX1_endOf_0 1 rfl rfl)
theorem dX1_endOf_4 : decode cX1_endOf 4 = .ok (.ifCond .eq 13, 3) := dk_153 0 13 (dk_at dksX1_endOf_0 4 rfl rfl)
theorem dX1_endOf_7 : decode cX1_endOf 7 = .ok (.aload_n 0, 1) := dk_42 (dk_at dksX1_endOf_0 7 rfl rfl)
theorem dX1_endOf_8 : decode cX1_endOf 8 = .ok (.getfield 26, 3) := dk_180 0 26 (dk_at dksX1_endOf_0 8 rfl rfl)
theorem dX1_endOf_11 : decode cX1_endOf 11 = .ok (.getfield 194, 3) := dk_180 0 194 (dk_at dksX1_endOf_0 11 rfl rfl)
theorem dX1_endOf_14 : decode cX1_endOf 14 = .ok (.goto 35, 3) := dk_167 0 35 (dk_at dksX1_endOf_0 14 rfl rfl)
theorem dX1_endOf_17 : decode cX1_endOf 17 = .ok (.aload_n 0, 1) := dk_42 (dk_at dksX1_endOf_0 17 rfl rfl)
theorem dX1_endOf_18 : decode cX1_endOf 18 = .ok (.getfield 26, 3) := dk_180 0 26 (dk_at dksX1_endOf_0 18 rfl rfl)
theorem dX1_endOf_21 : decode cX1_endOf 21 = .ok (.getfield 212, 3) := dk_180 0 212 (dk_at dksX1_endOf_0 21 rfl rfl)
theorem dX1_endOf_24 : decode cX1_endOf 24 = .ok (.aload_n 1, 1) := dk_43 (dk_at dksX1_endOf_1 0 rfl rfl)
theorem dX1_endOf_25 : decode cX1_endOf 25 = .ok (.aload_n 1, 1) := dk_43 (dk_at dksX1_endOf_1 1 rfl rfl)
theorem dX1_endOf_26 : decode cX1_endOf 26 = .ok (.invokevirtual 208, 3) := dk_182 0 208 (dk_at dksX1_endOf_1 2 rfl rfl)
theorem dX1_endOf_29 : decode cX1_endOf 29 = .ok (.iconst 1, 1) := dk_4 (dk_at dksX1_endOf_1 5 rfl rfl)
theorem dX1_endOf_30 : decode cX1_endOf 30 = .ok (.isub, 1) := dk_100 (dk_at dksX1_endOf_1 6 rfl rfl)
theorem dX1_endOf_31 : decode cX1_endOf 31 = .ok (.invokevirtual 153, 3) := dk_182 0 153 (dk_at dksX1_endOf_1 7 rfl rfl)
theorem dX1_endOf_34 : decode cX1_endOf 34 = .ok (.checkcast 246, 3) := dk_192 0 246 (dk_at dksX1_endOf_1 10 rfl rfl)
theorem dX1_endOf_37 : decode cX1_endOf 37 = .ok (.invokevirtual 393, 3) := dk_182 1 137 (dk_at dksX1_endOf_1 13 rfl rfl)
theorem dX1_endOf_40 : decode cX1_endOf 40 = .ok (.invokevirtual 153, 3) := dk_182 0 153 (dk_at dksX1_endOf_1 16 rfl rfl)
theorem dX1_endOf_43 : decode cX1_endOf 43 = .ok (.checkcast 165, 3) := dk_192 0 165 (dk_at dksX1_endOf_1 19 rfl rfl)
theorem dX1_endOf_46 : decode cX1_endOf 46 = .ok (.getfield 175, 3) := dk_180 0 175 (dk_at dksX1_endOf_2 0 rfl rfl)
theorem dX1_endOf_49 : decode cX1_endOf 49 = .ok (.ireturn, 1) := dk_172 (dk_at dksX1_endOf_2 3 rfl rfl)
def dkwX1_tracesAnew_0 : List UInt8 := [42, 187, 1, 31, 89, 2, 1, 42, 180, 0, 49, 183, 1, 33, 182, 1, 36, 42, 43, 181, 0, 49, 177]
abbrev dktX1_tracesAnew_0 : List UInt8 := dkwX1_tracesAnew_0 ++ []
theorem dksX1_tracesAnew_0 : cX1_tracesAnew.data.toList.drop 0 = dktX1_tracesAnew_0 := by decide +kernel
theorem dX1_tracesAnew_0 : decode cX1_tracesAnew 0 = .ok (.aload_n 0, 1) := dk_42 (dk_at dksX1_tracesAnew_0 0 rfl rfl)
theorem dX1_tracesAnew_1 : decode cX1_tracesAnew 1 = .ok (.new 287, 3) := dk_187 1 31 (dk_at dksX1_tracesAnew_0 1 rfl rfl)
theorem dX1_tracesAnew_4 : decode cX1_tracesAnew 4 = .ok (.dup, 1) := dk_89 (dk_at dksX1_tracesAnew_0 4 rfl rfl)
theorem dX1_tracesAnew_5 : decode cX1_tracesAnew 5 = .ok (.iconst (-1), 1) := dk_2 (dk_at dksX1_tracesAnew_0 5 rfl rfl)
theorem dX1_tracesAnew_6 : decode cX1_tracesAnew 6 = .ok (.aconst_null, 1) := dk_1 (dk_at dksX1_tracesAnew_0 6 rfl rfl)
theorem dX1_tracesAnew_7 : decode cX1_tracesAnew 7 = .ok (.aload_n 0, 1) := dk_42 (dk_at dksX1_tracesAnew_0 7 rfl rfl)
theorem dX1_tracesAnew_8 : decode cX1_tracesAnew 8 = .ok (.getfield 49, 3) := dk_180 0 49 (dk_at dksX1_tracesAnew_0 8 rfl rfl)
theorem dX1_tracesAnew_11 : decode cX1_tracesAnew 11 = .ok (.invokespecial 289, 3) := dk_183 1 33 (dk_at dksX1_tracesAnew_0 11 rfl rfl)
theorem dX1_tracesAnew_14 : decode cX1_tracesAnew 14 = .ok (.invokevirtual 292, 3) := dk_182 1 36 (dk_at dksX1_tracesAnew_0 14 rfl rfl)
theorem dX1_tracesAnew_17 : decode cX1_tracesAnew 17 = .ok (.aload_n 0, 1) := dk_42 (dk_at dksX1_tracesAnew_0 17 rfl rfl)
theorem dX1_tracesAnew_18 : decode cX1_tracesAnew 18 = .ok (.aload_n 1, 1) := dk_43 (dk_at dksX1_tracesAnew_0 18 rfl rfl)
theorem dX1_tracesAnew_19 : decode cX1_tracesAnew 19 = .ok (.putfield 49, 3) := dk_181 0 49 (dk_at dksX1_tracesAnew_0 19 rfl rfl)
theorem dX1_tracesAnew_22 : decode cX1_tracesAnew 22 = .ok (.return_, 1) := dk_177 (dk_at dksX1_tracesAnew_0 22 rfl rfl)
def dkwX1_lead_3 : List UInt8 := [172]
abbrev dktX1_lead_3 : List UInt8 := dkwX1_lead_3 ++ []
def dkwX1_lead_2 : List UInt8 := [16, 20, 164, 0, 13, 44, 16, 20, 182, 1, 168, 87, 167, 255, 240, 42, 44, 182, 1, 164, 44, 182, 0, 208]
abbrev dktX1_lead_2 : List UInt8 := dkwX1_lead_2 ++ dktX1_lead_3
def dkwX1_lead_1 : List UInt8 := [183, 0, 36, 167, 0, 8, 42, 27, 182, 1, 133, 77, 44, 199, 0, 6, 16, 254, 172, 44, 182, 0, 208]
abbrev dktX1_lead_1 : List UInt8 := dkwX1_lead_1 ++ dktX1_lead_2
def dkwX1_lead_0 : List UInt8 := [27, 2, 159, 0, 13, 42, 27, 182, 1, 8, 154, 0, 5, 2, 172, 27, 2, 160, 0, 13, 187, 0, 34, 89]
abbrev dktX1_lead_0 : List UInt8 := dkwX1_lead_0 ++ dktX1_lead_1
theorem dksX1_lead_0 : cX1_lead.data.toList.drop 0 = dktX1_lead_0 := by decide +kernel
theorem dksX1_lead_1 : cX1_lead.data.toList.drop 24 = dktX1_lead_1 := dk_seg dksX1_lead_0 24 rfl rfl
theorem dksX1_lead_2 : cX1_lead.data.toList.drop 47 = dktX1_lead_2 := dk_seg dksX1_lead_1 23 rfl rfl
theorem dksX1_lead_3 : cX1_lead.data.toList.drop 71 = dktX1_lead_3 := dk_seg dksX1_lead_2 24 rfl rfl
theorem dX1_lead_0 : decode cX1_lead 0 = .ok (.iload_n 1, 1) := dk_27 (dk_at dksX1_lead_0 0 rfl rfl)
theorem dX1_lead_1 : decode cX1_lead 1 = .ok (.iconst (-1), 1) := dk_2 (dk_at dksX1_lead_0 1 rfl rfl)
theorem dX1_lead_2 : decode cX1_lead 2 = .ok (.if_icmp .eq 13, 3) := dk_159 0 13 (dk_at dksX1_lead_0 2 rfl rfl)
theorem dX1_lead_5 : decode cX1_lead 5 = .ok (.aload_n 0, 1) := dk_42 (dk_at dksX1_lead_0 5 rfl rfl)
theorem dX1_lead_6 : decode cX1_lead 6 = .ok (.iload_n 1, 1) := dk_27 (dk_at dksX1_lead_0 6 rfl rfl)
theorem dX1_lead_7 : decode cX1_lead 7 = .ok (.invokevirtual 264, 3) := dk_182 1 8 (dk_at dksX1_lead_0 7 rfl rfl)
theorem dX1_lead_10 : decode cX1_lead 10 = .ok (.ifCond .ne 5, 3) := dk_154 0 5 (dk_at dksX1_lead_0 10 rfl rfl)
theorem dX1_lead_13 : decode cX1_lead 13 = .ok (.iconst (-1), 1) := dk_2 (dk_at dksX1_lead_0 13 rfl rfl)
theorem dX1_lead_14 : decode cX1_lead 14 = .ok (.ireturn, 1) := dk_172 (dk_at dksX1_lead_0 14 rfl rfl)
theorem dX1_lead_15 : decode cX1_lead 15 = .ok (.iload_n 1, 1) := dk_27 (dk_at dksX1_lead_0 15 rfl rfl)
theorem dX1_lead_16 : decode cX1_lead 16 = .ok (.iconst (-1), 1) := dk_2 (dk_at dksX1_lead_0 16 rfl rfl)
theorem dX1_lead_17 : decode cX1_lead 17 = .ok (.if_icmp .ne 13, 3) := dk_160 0 13 (dk_at dksX1_lead_0 17 rfl rfl)
theorem dX1_lead_20 : decode cX1_lead 20 = .ok (.new 34, 3) := dk_187 0 34 (dk_at dksX1_lead_0 20 rfl rfl)
theorem dX1_lead_23 : decode cX1_lead 23 = .ok (.dup, 1) := dk_89 (dk_at dksX1_lead_0 23 rfl rfl)
theorem dX1_lead_24 : decode cX1_lead 24 = .ok (.invokespecial 36, 3) := dk_183 0 36 (dk_at dksX1_lead_1 0 rfl rfl)
theorem dX1_lead_27 : decode cX1_lead 27 = .ok (.goto 8, 3) := dk_167 0 8 (dk_at dksX1_lead_1 3 rfl rfl)
theorem dX1_lead_30 : decode cX1_lead 30 = .ok (.aload_n 0, 1) := dk_42 (dk_at dksX1_lead_1 6 rfl rfl)
theorem dX1_lead_31 : decode cX1_lead 31 = .ok (.iload_n 1, 1) := dk_27 (dk_at dksX1_lead_1 7 rfl rfl)
theorem dX1_lead_32 : decode cX1_lead 32 = .ok (.invokevirtual 389, 3) := dk_182 1 133 (dk_at dksX1_lead_1 8 rfl rfl)
theorem dX1_lead_35 : decode cX1_lead 35 = .ok (.astore_n 2, 1) := dk_77 (dk_at dksX1_lead_1 11 rfl rfl)
theorem dX1_lead_36 : decode cX1_lead 36 = .ok (.aload_n 2, 1) := dk_44 (dk_at dksX1_lead_1 12 rfl rfl)
theorem dX1_lead_37 : decode cX1_lead 37 = .ok (.ifnonnull 6, 3) := dk_199 0 6 (dk_at dksX1_lead_1 13 rfl rfl)
theorem dX1_lead_40 : decode cX1_lead 40 = .ok (.bipush (-2), 2) := dk_16 254 (dk_at dksX1_lead_1 16 rfl rfl)
theorem dX1_lead_42 : decode cX1_lead 42 = .ok (.ireturn, 1) := dk_172 (dk_at dksX1_lead_1 18 rfl rfl)
theorem dX1_lead_43 : decode cX1_lead 43 = .ok (.aload_n 2, 1) := dk_44 (dk_at dksX1_lead_1 19 rfl rfl)
theorem dX1_lead_44 : decode cX1_lead 44 = .ok (.invokevirtual 208, 3) := dk_182 0 208 (dk_at dksX1_lead_1 20 rfl rfl)
theorem dX1_lead_47 : decode cX1_lead 47 = .ok (.bipush 20, 2) := dk_16 20 (dk_at dksX1_lead_2 0 rfl rfl)
theorem dX1_lead_49 : decode cX1_lead 49 = .ok (.if_icmp .le 13, 3) := dk_164 0 13 (dk_at dksX1_lead_2 2 rfl rfl)
theorem dX1_lead_52 : decode cX1_lead 52 = .ok (.aload_n 2, 1) := dk_44 (dk_at dksX1_lead_2 5 rfl rfl)
theorem dX1_lead_53 : decode cX1_lead 53 = .ok (.bipush 20, 2) := dk_16 20 (dk_at dksX1_lead_2 6 rfl rfl)
theorem dX1_lead_55 : decode cX1_lead 55 = .ok (.invokevirtual 424, 3) := dk_182 1 168 (dk_at dksX1_lead_2 8 rfl rfl)
theorem dX1_lead_58 : decode cX1_lead 58 = .ok (.pop, 1) := dk_87 (dk_at dksX1_lead_2 11 rfl rfl)
theorem dX1_lead_59 : decode cX1_lead 59 = .ok (.goto (-16), 3) := dk_167 255 240 (dk_at dksX1_lead_2 12 rfl rfl)
theorem dX1_lead_62 : decode cX1_lead 62 = .ok (.aload_n 0, 1) := dk_42 (dk_at dksX1_lead_2 15 rfl rfl)
theorem dX1_lead_63 : decode cX1_lead 63 = .ok (.aload_n 2, 1) := dk_44 (dk_at dksX1_lead_2 16 rfl rfl)
theorem dX1_lead_64 : decode cX1_lead 64 = .ok (.invokevirtual 420, 3) := dk_182 1 164 (dk_at dksX1_lead_2 17 rfl rfl)
theorem dX1_lead_67 : decode cX1_lead 67 = .ok (.aload_n 2, 1) := dk_44 (dk_at dksX1_lead_2 20 rfl rfl)
theorem dX1_lead_68 : decode cX1_lead 68 = .ok (.invokevirtual 208, 3) := dk_182 0 208 (dk_at dksX1_lead_2 21 rfl rfl)
theorem dX1_lead_71 : decode cX1_lead 71 = .ok (.ireturn, 1) := dk_172 (dk_at dksX1_lead_3 0 rfl rfl)
def dkwX1_trace_2 : List UInt8 := [182, 1, 137, 167, 0, 5, 16, 254, 172]
abbrev dktX1_trace_2 : List UInt8 := dkwX1_trace_2 ++ []
def dkwX1_trace_1 : List UInt8 := [27, 42, 180, 0, 49, 182, 0, 208, 162, 0, 20, 42, 180, 0, 49, 27, 182, 0, 153, 192, 0, 246]
abbrev dktX1_trace_1 : List UInt8 := dkwX1_trace_1 ++ dktX1_trace_2
def dkwX1_trace_0 : List UInt8 := [27, 2, 162, 0, 7, 2, 167, 0, 48, 27, 2, 160, 0, 13, 42, 180, 0, 49, 182, 0, 208, 167, 0, 33]
abbrev dktX1_trace_0 : List UInt8 := dkwX1_trace_0 ++ dktX1_trace_1
theorem dksX1_trace_0 : cX1_trace.data.toList.drop 0 = dktX1_trace_0 := by decide +kernel
theorem dksX1_trace_1 : cX1_trace.data.toList.drop 24 = dktX1_trace_1 := dk_seg dksX1_trace_0 24 rfl rfl
theorem dksX1_trace_2 : cX1_trace.data.toList.drop 46 = dktX1_trace_2 := dk_seg dksX1_trace_1 22 rfl rfl
theorem dX1_trace_0 : decode cX1_trace 0 = .ok (.iload_n 1, 1) := dk_27 (dk_at dksX1_trace_0 0 rfl rfl)
theorem dX1_trace_1 : decode cX1_trace 1 = .ok (.iconst (-1), 1) := dk_2 (dk_at dksX1_trace_0 1 rfl rfl)
theorem dX1_trace_2 : decode cX1_trace 2 = .ok (.if_icmp .ge 7, 3) := dk_162 0 7 (dk_at dksX1_trace_0 2 rfl rfl)
theorem dX1_trace_5 : decode cX1_trace 5 = .ok (.iconst (-1), 1) := dk_2 (dk_at dksX1_trace_0 5 rfl rfl)
theorem dX1_trace_6 : decode cX1_trace 6 = .ok (.goto 48, 3) := dk_167 0 48 (dk_at dksX1_trace_0 6 rfl rfl)
theorem dX1_trace_9 : decode cX1_trace 9 = .ok (.iload_n 1, 1) := dk_27 (dk_at dksX1_trace_0 9 rfl rfl)
theorem dX1_trace_10 : decode cX1_trace 10 = .ok (.iconst (-1), 1) := dk_2 (dk_at dksX1_trace_0 10 rfl rfl)
theorem dX1_trace_11 : decode cX1_trace 11 = .ok (.if_icmp .ne 13, 3) := dk_160 0 13 (dk_at dksX1_trace_0 11 rfl rfl)
theorem dX1_trace_14 : decode cX1_trace 14 = .ok (.aload_n 0, 1) := dk_42 (dk_at dksX1_trace_0 14 rfl rfl)
theorem dX1_trace_15 : decode cX1_trace 15 = .ok (.getfield 49, 3) := dk_180 0 49 (dk_at dksX1_trace_0 15 rfl rfl)
theorem dX1_trace_18 : decode cX1_trace 18 = .ok (.invokevirtual 208, 3) := dk_182 0 208 (dk_at dksX1_trace_0 18 rfl rfl)
theorem dX1_trace_21 : decode cX1_trace 21 = .ok (.goto 33, 3) := dk_167 0 33 (dk_at dksX1_trace_0 21 rfl rfl)
theorem dX1_trace_24 : decode cX1_trace 24 = .ok (.iload_n 1, 1) := dk_27 (dk_at dksX1_trace_1 0 rfl rfl)
theorem dX1_trace_25 : decode cX1_trace 25 = .ok (.aload_n 0, 1) := dk_42 (dk_at dksX1_trace_1 1 rfl rfl)
theorem dX1_trace_26 : decode cX1_trace 26 = .ok (.getfield 49, 3) := dk_180 0 49 (dk_at dksX1_trace_1 2 rfl rfl)
theorem dX1_trace_29 : decode cX1_trace 29 = .ok (.invokevirtual 208, 3) := dk_182 0 208 (dk_at dksX1_trace_1 5 rfl rfl)
theorem dX1_trace_32 : decode cX1_trace 32 = .ok (.if_icmp .ge 20, 3) := dk_162 0 20 (dk_at dksX1_trace_1 8 rfl rfl)
theorem dX1_trace_35 : decode cX1_trace 35 = .ok (.aload_n 0, 1) := dk_42 (dk_at dksX1_trace_1 11 rfl rfl)
theorem dX1_trace_36 : decode cX1_trace 36 = .ok (.getfield 49, 3) := dk_180 0 49 (dk_at dksX1_trace_1 12 rfl rfl)
theorem dX1_trace_39 : decode cX1_trace 39 = .ok (.iload_n 1, 1) := dk_27 (dk_at dksX1_trace_1 15 rfl rfl)
theorem dX1_trace_40 : decode cX1_trace 40 = .ok (.invokevirtual 153, 3) := dk_182 0 153 (dk_at dksX1_trace_1 16 rfl rfl)
theorem dX1_trace_43 : decode cX1_trace 43 = .ok (.checkcast 246, 3) := dk_192 0 246 (dk_at dksX1_trace_1 19 rfl rfl)
theorem dX1_trace_46 : decode cX1_trace 46 = .ok (.invokevirtual 393, 3) := dk_182 1 137 (dk_at dksX1_trace_2 0 rfl rfl)
theorem dX1_trace_49 : decode cX1_trace 49 = .ok (.goto 5, 3) := dk_167 0 5 (dk_at dksX1_trace_2 3 rfl rfl)
theorem dX1_trace_52 : decode cX1_trace 52 = .ok (.bipush (-2), 2) := dk_16 254 (dk_at dksX1_trace_2 6 rfl rfl)
theorem dX1_trace_54 : decode cX1_trace 54 = .ok (.ireturn, 1) := dk_172 (dk_at dksX1_trace_2 8 rfl rfl)
def dkwX1_can_1 : List UInt8 := [153, 0, 7, 3, 167, 0, 4, 4, 172]
abbrev dktX1_can_1 : List UInt8 := dkwX1_can_1 ++ []
def dkwX1_can_0 : List UInt8 := [42, 180, 0, 26, 180, 1, 5, 182, 1, 149, 153, 0, 7, 2, 167, 0, 18, 42, 182, 1, 171, 180, 1, 155]
abbrev dktX1_can_0 : List UInt8 := dkwX1_can_0 ++ dktX1_can_1
theorem dksX1_can_0 : cX1_can.data.toList.drop 0 = dktX1_can_0 := by decide +kernel
theorem dksX1_can_1 : cX1_can.data.toList.drop 24 = dktX1_can_1 := dk_seg dksX1_can_0 24 rfl rfl
theorem dX1_can_0 : decode cX1_can 0 = .ok (.aload_n 0, 1) := dk_42 (dk_at dksX1_can_0 0 rfl rfl)
theorem dX1_can_1 : decode cX1_can 1 = .ok (.getfield 26, 3) := dk_180 0 26 (dk_at dksX1_can_0 1 rfl rfl)
theorem dX1_can_4 : decode cX1_can 4 = .ok (.getfield 261, 3) := dk_180 1 5 (dk_at dksX1_can_0 4 rfl rfl)
theorem dX1_can_7 : decode cX1_can 7 = .ok (.invokevirtual 405, 3) := dk_182 1 149 (dk_at dksX1_can_0 7 rfl rfl)
theorem dX1_can_10 : decode cX1_can 10 = .ok (.ifCond .eq 7, 3) := dk_153 0 7 (dk_at dksX1_can_0 10 rfl rfl)
theorem dX1_can_13 : decode cX1_can 13 = .ok (.iconst (-1), 1) := dk_2 (dk_at dksX1_can_0 13 rfl rfl)
theorem dX1_can_14 : decode cX1_can 14 = .ok (.goto 18, 3) := dk_167 0 18 (dk_at dksX1_can_0 14 rfl rfl)
theorem dX1_can_17 : decode cX1_can 17 = .ok (.aload_n 0, 1) := dk_42 (dk_at dksX1_can_0 17 rfl rfl)
theorem dX1_can_18 : decode cX1_can 18 = .ok (.invokevirtual 427, 3) := dk_182 1 171 (dk_at dksX1_can_0 18 rfl rfl)
theorem dX1_can_21 : decode cX1_can 21 = .ok (.getfield 411, 3) := dk_180 1 155 (dk_at dksX1_can_0 21 rfl rfl)
theorem dX1_can_24 : decode cX1_can 24 = .ok (.ifCond .eq 7, 3) := dk_153 0 7 (dk_at dksX1_can_1 0 rfl rfl)
theorem dX1_can_27 : decode cX1_can 27 = .ok (.iconst 0, 1) := dk_3 (dk_at dksX1_can_1 3 rfl rfl)
theorem dX1_can_28 : decode cX1_can 28 = .ok (.goto 4, 3) := dk_167 0 4 (dk_at dksX1_can_1 4 rfl rfl)
theorem dX1_can_31 : decode cX1_can 31 = .ok (.iconst 1, 1) := dk_4 (dk_at dksX1_can_1 7 rfl rfl)
theorem dX1_can_32 : decode cX1_can 32 = .ok (.ireturn, 1) := dk_172 (dk_at dksX1_can_1 8 rfl rfl)
def dkwX1_times_0 : List UInt8 := [187, 1, 150, 89, 42, 42, 180, 0, 49, 42, 180, 0, 49, 182, 0, 208, 183, 1, 152, 176]
abbrev dktX1_times_0 : List UInt8 := dkwX1_times_0 ++ []
theorem dksX1_times_0 : cX1_times.data.toList.drop 0 = dktX1_times_0 := by decide +kernel
theorem dX1_times_0 : decode cX1_times 0 = .ok (.new 406, 3) := dk_187 1 150 (dk_at dksX1_times_0 0 rfl rfl)
theorem dX1_times_3 : decode cX1_times 3 = .ok (.dup, 1) := dk_89 (dk_at dksX1_times_0 3 rfl rfl)
theorem dX1_times_4 : decode cX1_times 4 = .ok (.aload_n 0, 1) := dk_42 (dk_at dksX1_times_0 4 rfl rfl)
theorem dX1_times_5 : decode cX1_times 5 = .ok (.aload_n 0, 1) := dk_42 (dk_at dksX1_times_0 5 rfl rfl)
theorem dX1_times_6 : decode cX1_times 6 = .ok (.getfield 49, 3) := dk_180 0 49 (dk_at dksX1_times_0 6 rfl rfl)
theorem dX1_times_9 : decode cX1_times 9 = .ok (.aload_n 0, 1) := dk_42 (dk_at dksX1_times_0 9 rfl rfl)
theorem dX1_times_10 : decode cX1_times 10 = .ok (.getfield 49, 3) := dk_180 0 49 (dk_at dksX1_times_0 10 rfl rfl)
theorem dX1_times_13 : decode cX1_times 13 = .ok (.invokevirtual 208, 3) := dk_182 0 208 (dk_at dksX1_times_0 13 rfl rfl)
theorem dX1_times_16 : decode cX1_times 16 = .ok (.invokespecial 408, 3) := dk_183 1 152 (dk_at dksX1_times_0 16 rfl rfl)
theorem dX1_times_19 : decode cX1_times 19 = .ok (.areturn, 1) := dk_176 (dk_at dksX1_times_0 19 rfl rfl)
def dkwX1_window_2 : List UInt8 := [3, 27, 4, 96, 3, 28, 182, 1, 156, 172]
abbrev dktX1_window_2 : List UInt8 := dkwX1_window_2 ++ []
def dkwX1_window_1 : List UInt8 := [161, 0, 6, 16, 254, 172, 42, 182, 1, 171, 78, 45, 180, 1, 155, 153, 0, 8, 16, 253, 167, 0, 13, 45]
abbrev dktX1_window_1 : List UInt8 := dkwX1_window_1 ++ dktX1_window_2
def dkwX1_window_0 : List UInt8 := [27, 155, 0, 12, 28, 3, 6, 184, 0, 68, 154, 0, 5, 2, 172, 27, 42, 180, 0, 49, 182, 0, 208]
abbrev dktX1_window_0 : List UInt8 := dkwX1_window_0 ++ dktX1_window_1
theorem dksX1_window_0 : cX1_window.data.toList.drop 0 = dktX1_window_0 := by decide +kernel
theorem dksX1_window_1 : cX1_window.data.toList.drop 23 = dktX1_window_1 := dk_seg dksX1_window_0 23 rfl rfl
theorem dksX1_window_2 : cX1_window.data.toList.drop 47 = dktX1_window_2 := dk_seg dksX1_window_1 24 rfl rfl
theorem dX1_window_0 : decode cX1_window 0 = .ok (.iload_n 1, 1) := dk_27 (dk_at dksX1_window_0 0 rfl rfl)
theorem dX1_window_1 : decode cX1_window 1 = .ok (.ifCond .lt 12, 3) := dk_155 0 12 (dk_at dksX1_window_0 1 rfl rfl)
theorem dX1_window_4 : decode cX1_window 4 = .ok (.iload_n 2, 1) := dk_28 (dk_at dksX1_window_0 4 rfl rfl)
theorem dX1_window_5 : decode cX1_window 5 = .ok (.iconst 0, 1) := dk_3 (dk_at dksX1_window_0 5 rfl rfl)
theorem dX1_window_6 : decode cX1_window 6 = .ok (.iconst 3, 1) := dk_6 (dk_at dksX1_window_0 6 rfl rfl)
theorem dX1_window_7 : decode cX1_window 7 = .ok (.invokestatic 68, 3) := dk_184 0 68 (dk_at dksX1_window_0 7 rfl rfl)
theorem dX1_window_10 : decode cX1_window 10 = .ok (.ifCond .ne 5, 3) := dk_154 0 5 (dk_at dksX1_window_0 10 rfl rfl)
theorem dX1_window_13 : decode cX1_window 13 = .ok (.iconst (-1), 1) := dk_2 (dk_at dksX1_window_0 13 rfl rfl)
theorem dX1_window_14 : decode cX1_window 14 = .ok (.ireturn, 1) := dk_172 (dk_at dksX1_window_0 14 rfl rfl)
theorem dX1_window_15 : decode cX1_window 15 = .ok (.iload_n 1, 1) := dk_27 (dk_at dksX1_window_0 15 rfl rfl)
theorem dX1_window_16 : decode cX1_window 16 = .ok (.aload_n 0, 1) := dk_42 (dk_at dksX1_window_0 16 rfl rfl)
theorem dX1_window_17 : decode cX1_window 17 = .ok (.getfield 49, 3) := dk_180 0 49 (dk_at dksX1_window_0 17 rfl rfl)
theorem dX1_window_20 : decode cX1_window 20 = .ok (.invokevirtual 208, 3) := dk_182 0 208 (dk_at dksX1_window_0 20 rfl rfl)
theorem dX1_window_23 : decode cX1_window 23 = .ok (.if_icmp .lt 6, 3) := dk_161 0 6 (dk_at dksX1_window_1 0 rfl rfl)
theorem dX1_window_26 : decode cX1_window 26 = .ok (.bipush (-2), 2) := dk_16 254 (dk_at dksX1_window_1 3 rfl rfl)
theorem dX1_window_28 : decode cX1_window 28 = .ok (.ireturn, 1) := dk_172 (dk_at dksX1_window_1 5 rfl rfl)
theorem dX1_window_29 : decode cX1_window 29 = .ok (.aload_n 0, 1) := dk_42 (dk_at dksX1_window_1 6 rfl rfl)
theorem dX1_window_30 : decode cX1_window 30 = .ok (.invokevirtual 427, 3) := dk_182 1 171 (dk_at dksX1_window_1 7 rfl rfl)
theorem dX1_window_33 : decode cX1_window 33 = .ok (.astore_n 3, 1) := dk_78 (dk_at dksX1_window_1 10 rfl rfl)
theorem dX1_window_34 : decode cX1_window 34 = .ok (.aload_n 3, 1) := dk_45 (dk_at dksX1_window_1 11 rfl rfl)
theorem dX1_window_35 : decode cX1_window 35 = .ok (.getfield 411, 3) := dk_180 1 155 (dk_at dksX1_window_1 12 rfl rfl)
theorem dX1_window_38 : decode cX1_window 38 = .ok (.ifCond .eq 8, 3) := dk_153 0 8 (dk_at dksX1_window_1 15 rfl rfl)
theorem dX1_window_41 : decode cX1_window 41 = .ok (.bipush (-3), 2) := dk_16 253 (dk_at dksX1_window_1 18 rfl rfl)
theorem dX1_window_43 : decode cX1_window 43 = .ok (.goto 13, 3) := dk_167 0 13 (dk_at dksX1_window_1 20 rfl rfl)
theorem dX1_window_46 : decode cX1_window 46 = .ok (.aload_n 3, 1) := dk_45 (dk_at dksX1_window_1 23 rfl rfl)
theorem dX1_window_47 : decode cX1_window 47 = .ok (.iconst 0, 1) := dk_3 (dk_at dksX1_window_2 0 rfl rfl)
theorem dX1_window_48 : decode cX1_window 48 = .ok (.iload_n 1, 1) := dk_27 (dk_at dksX1_window_2 1 rfl rfl)
theorem dX1_window_49 : decode cX1_window 49 = .ok (.iconst 1, 1) := dk_4 (dk_at dksX1_window_2 2 rfl rfl)
theorem dX1_window_50 : decode cX1_window 50 = .ok (.iadd, 1) := dk_96 (dk_at dksX1_window_2 3 rfl rfl)
theorem dX1_window_51 : decode cX1_window 51 = .ok (.iconst 0, 1) := dk_3 (dk_at dksX1_window_2 4 rfl rfl)
theorem dX1_window_52 : decode cX1_window 52 = .ok (.iload_n 2, 1) := dk_28 (dk_at dksX1_window_2 5 rfl rfl)
theorem dX1_window_53 : decode cX1_window 53 = .ok (.invokevirtual 412, 3) := dk_182 1 156 (dk_at dksX1_window_2 6 rfl rfl)
theorem dX1_window_56 : decode cX1_window 56 = .ok (.ireturn, 1) := dk_172 (dk_at dksX1_window_2 9 rfl rfl)
def dkwX1_between_2 : List UInt8 := [153, 0, 8, 16, 253, 167, 0, 16, 25, 4, 27, 4, 96, 28, 4, 96, 3, 29, 182, 1, 156, 172]
abbrev dktX1_between_2 : List UInt8 := dkwX1_between_2 ++ []
def dkwX1_between_1 : List UInt8 := [180, 0, 49, 182, 0, 208, 161, 0, 6, 16, 254, 172, 42, 182, 1, 171, 58, 4, 25, 4, 180, 1, 155]
abbrev dktX1_between_1 : List UInt8 := dkwX1_between_1 ++ dktX1_between_2
def dkwX1_between_0 : List UInt8 := [27, 155, 0, 17, 28, 27, 164, 0, 12, 29, 3, 6, 184, 0, 68, 154, 0, 5, 2, 172, 28, 42]
abbrev dktX1_between_0 : List UInt8 := dkwX1_between_0 ++ dktX1_between_1
theorem dksX1_between_0 : cX1_between.data.toList.drop 0 = dktX1_between_0 := by decide +kernel
theorem dksX1_between_1 : cX1_between.data.toList.drop 22 = dktX1_between_1 := dk_seg dksX1_between_0 22 rfl rfl
theorem dksX1_between_2 : cX1_between.data.toList.drop 45 = dktX1_between_2 := dk_seg dksX1_between_1 23 rfl rfl
theorem dX1_between_0 : decode cX1_between 0 = .ok (.iload_n 1, 1) := dk_27 (dk_at dksX1_between_0 0 rfl rfl)
theorem dX1_between_1 : decode cX1_between 1 = .ok (.ifCond .lt 17, 3) := dk_155 0 17 (dk_at dksX1_between_0 1 rfl rfl)
theorem dX1_between_4 : decode cX1_between 4 = .ok (.iload_n 2, 1) := dk_28 (dk_at dksX1_between_0 4 rfl rfl)
theorem dX1_between_5 : decode cX1_between 5 = .ok (.iload_n 1, 1) := dk_27 (dk_at dksX1_between_0 5 rfl rfl)
theorem dX1_between_6 : decode cX1_between 6 = .ok (.if_icmp .le 12, 3) := dk_164 0 12 (dk_at dksX1_between_0 6 rfl rfl)
theorem dX1_between_9 : decode cX1_between 9 = .ok (.iload_n 3, 1) := dk_29 (dk_at dksX1_between_0 9 rfl rfl)
theorem dX1_between_10 : decode cX1_between 10 = .ok (.iconst 0, 1) := dk_3 (dk_at dksX1_between_0 10 rfl rfl)
theorem dX1_between_11 : decode cX1_between 11 = .ok (.iconst 3, 1) := dk_6 (dk_at dksX1_between_0 11 rfl rfl)
theorem dX1_between_12 : decode cX1_between 12 = .ok (.invokestatic 68, 3) := dk_184 0 68 (dk_at dksX1_between_0 12 rfl rfl)
theorem dX1_between_15 : decode cX1_between 15 = .ok (.ifCond .ne 5, 3) := dk_154 0 5 (dk_at dksX1_between_0 15 rfl rfl)
theorem dX1_between_18 : decode cX1_between 18 = .ok (.iconst (-1), 1) := dk_2 (dk_at dksX1_between_0 18 rfl rfl)
theorem dX1_between_19 : decode cX1_between 19 = .ok (.ireturn, 1) := dk_172 (dk_at dksX1_between_0 19 rfl rfl)
theorem dX1_between_20 : decode cX1_between 20 = .ok (.iload_n 2, 1) := dk_28 (dk_at dksX1_between_0 20 rfl rfl)
theorem dX1_between_21 : decode cX1_between 21 = .ok (.aload_n 0, 1) := dk_42 (dk_at dksX1_between_0 21 rfl rfl)
theorem dX1_between_22 : decode cX1_between 22 = .ok (.getfield 49, 3) := dk_180 0 49 (dk_at dksX1_between_1 0 rfl rfl)
theorem dX1_between_25 : decode cX1_between 25 = .ok (.invokevirtual 208, 3) := dk_182 0 208 (dk_at dksX1_between_1 3 rfl rfl)
theorem dX1_between_28 : decode cX1_between 28 = .ok (.if_icmp .lt 6, 3) := dk_161 0 6 (dk_at dksX1_between_1 6 rfl rfl)
theorem dX1_between_31 : decode cX1_between 31 = .ok (.bipush (-2), 2) := dk_16 254 (dk_at dksX1_between_1 9 rfl rfl)
theorem dX1_between_33 : decode cX1_between 33 = .ok (.ireturn, 1) := dk_172 (dk_at dksX1_between_1 11 rfl rfl)
theorem dX1_between_34 : decode cX1_between 34 = .ok (.aload_n 0, 1) := dk_42 (dk_at dksX1_between_1 12 rfl rfl)
theorem dX1_between_35 : decode cX1_between 35 = .ok (.invokevirtual 427, 3) := dk_182 1 171 (dk_at dksX1_between_1 13 rfl rfl)
theorem dX1_between_38 : decode cX1_between 38 = .ok (.astore 4, 2) := dk_58 4 (dk_at dksX1_between_1 16 rfl rfl)
theorem dX1_between_40 : decode cX1_between 40 = .ok (.aload 4, 2) := dk_25 4 (dk_at dksX1_between_1 18 rfl rfl)
theorem dX1_between_42 : decode cX1_between 42 = .ok (.getfield 411, 3) := dk_180 1 155 (dk_at dksX1_between_1 20 rfl rfl)
theorem dX1_between_45 : decode cX1_between 45 = .ok (.ifCond .eq 8, 3) := dk_153 0 8 (dk_at dksX1_between_2 0 rfl rfl)
theorem dX1_between_48 : decode cX1_between 48 = .ok (.bipush (-3), 2) := dk_16 253 (dk_at dksX1_between_2 3 rfl rfl)
theorem dX1_between_50 : decode cX1_between 50 = .ok (.goto 16, 3) := dk_167 0 16 (dk_at dksX1_between_2 5 rfl rfl)
theorem dX1_between_53 : decode cX1_between 53 = .ok (.aload 4, 2) := dk_25 4 (dk_at dksX1_between_2 8 rfl rfl)
theorem dX1_between_55 : decode cX1_between 55 = .ok (.iload_n 1, 1) := dk_27 (dk_at dksX1_between_2 10 rfl rfl)
theorem dX1_between_56 : decode cX1_between 56 = .ok (.iconst 1, 1) := dk_4 (dk_at dksX1_between_2 11 rfl rfl)
theorem dX1_between_57 : decode cX1_between 57 = .ok (.iadd, 1) := dk_96 (dk_at dksX1_between_2 12 rfl rfl)
theorem dX1_between_58 : decode cX1_between 58 = .ok (.iload_n 2, 1) := dk_28 (dk_at dksX1_between_2 13 rfl rfl)
theorem dX1_between_59 : decode cX1_between 59 = .ok (.iconst 1, 1) := dk_4 (dk_at dksX1_between_2 14 rfl rfl)
theorem dX1_between_60 : decode cX1_between 60 = .ok (.iadd, 1) := dk_96 (dk_at dksX1_between_2 15 rfl rfl)
theorem dX1_between_61 : decode cX1_between 61 = .ok (.iconst 0, 1) := dk_3 (dk_at dksX1_between_2 16 rfl rfl)
theorem dX1_between_62 : decode cX1_between 62 = .ok (.iload_n 3, 1) := dk_29 (dk_at dksX1_between_2 17 rfl rfl)
theorem dX1_between_63 : decode cX1_between 63 = .ok (.invokevirtual 412, 3) := dk_182 1 156 (dk_at dksX1_between_2 18 rfl rfl)
theorem dX1_between_66 : decode cX1_between 66 = .ok (.ireturn, 1) := dk_172 (dk_at dksX1_between_2 21 rfl rfl)
def dkwX1_value_3 : List UInt8 := [25, 4, 180, 1, 179, 27, 4, 96, 50, 28, 46, 29, 182, 1, 156, 172]
abbrev dktX1_value_3 : List UInt8 := dkwX1_value_3 ++ []
def dkwX1_value_2 : List UInt8 := [153, 0, 8, 16, 253, 167, 0, 34, 25, 4, 25, 4, 180, 1, 175, 27, 4, 96, 50, 28, 46, 27, 4, 96]
abbrev dktX1_value_2 : List UInt8 := dkwX1_value_2 ++ dktX1_value_3
def dkwX1_value_1 : List UInt8 := [42, 180, 0, 49, 182, 0, 208, 161, 0, 6, 16, 254, 172, 42, 182, 1, 171, 58, 4, 25, 4, 180, 1, 155]
abbrev dktX1_value_1 : List UInt8 := dkwX1_value_1 ++ dktX1_value_2
def dkwX1_value_0 : List UInt8 := [27, 155, 0, 20, 42, 28, 182, 1, 1, 153, 0, 12, 29, 3, 6, 184, 0, 68, 154, 0, 5, 2, 172, 27]
abbrev dktX1_value_0 : List UInt8 := dkwX1_value_0 ++ dktX1_value_1
theorem dksX1_value_0 : cX1_value.data.toList.drop 0 = dktX1_value_0 := by decide +kernel
theorem dksX1_value_1 : cX1_value.data.toList.drop 24 = dktX1_value_1 := dk_seg dksX1_value_0 24 rfl rfl
theorem dksX1_value_2 : cX1_value.data.toList.drop 48 = dktX1_value_2 := dk_seg dksX1_value_1 24 rfl rfl
theorem dksX1_value_3 : cX1_value.data.toList.drop 72 = dktX1_value_3 := dk_seg dksX1_value_2 24 rfl rfl
theorem dX1_value_0 : decode cX1_value 0 = .ok (.iload_n 1, 1) := dk_27 (dk_at dksX1_value_0 0 rfl rfl)
theorem dX1_value_1 : decode cX1_value 1 = .ok (.ifCond .lt 20, 3) := dk_155 0 20 (dk_at dksX1_value_0 1 rfl rfl)
theorem dX1_value_4 : decode cX1_value 4 = .ok (.aload_n 0, 1) := dk_42 (dk_at dksX1_value_0 4 rfl rfl)
theorem dX1_value_5 : decode cX1_value 5 = .ok (.iload_n 2, 1) := dk_28 (dk_at dksX1_value_0 5 rfl rfl)
theorem dX1_value_6 : decode cX1_value 6 = .ok (.invokevirtual 257, 3) := dk_182 1 1 (dk_at dksX1_value_0 6 rfl rfl)
theorem dX1_value_9 : decode cX1_value 9 = .ok (.ifCond .eq 12, 3) := dk_153 0 12 (dk_at dksX1_value_0 9 rfl rfl)
theorem dX1_value_12 : decode cX1_value 12 = .ok (.iload_n 3, 1) := dk_29 (dk_at dksX1_value_0 12 rfl rfl)
theorem dX1_value_13 : decode cX1_value 13 = .ok (.iconst 0, 1) := dk_3 (dk_at dksX1_value_0 13 rfl rfl)
theorem dX1_value_14 : decode cX1_value 14 = .ok (.iconst 3, 1) := dk_6 (dk_at dksX1_value_0 14 rfl rfl)
theorem dX1_value_15 : decode cX1_value 15 = .ok (.invokestatic 68, 3) := dk_184 0 68 (dk_at dksX1_value_0 15 rfl rfl)
theorem dX1_value_18 : decode cX1_value 18 = .ok (.ifCond .ne 5, 3) := dk_154 0 5 (dk_at dksX1_value_0 18 rfl rfl)
theorem dX1_value_21 : decode cX1_value 21 = .ok (.iconst (-1), 1) := dk_2 (dk_at dksX1_value_0 21 rfl rfl)
theorem dX1_value_22 : decode cX1_value 22 = .ok (.ireturn, 1) := dk_172 (dk_at dksX1_value_0 22 rfl rfl)
theorem dX1_value_23 : decode cX1_value 23 = .ok (.iload_n 1, 1) := dk_27 (dk_at dksX1_value_0 23 rfl rfl)
theorem dX1_value_24 : decode cX1_value 24 = .ok (.aload_n 0, 1) := dk_42 (dk_at dksX1_value_1 0 rfl rfl)
theorem dX1_value_25 : decode cX1_value 25 = .ok (.getfield 49, 3) := dk_180 0 49 (dk_at dksX1_value_1 1 rfl rfl)
theorem dX1_value_28 : decode cX1_value 28 = .ok (.invokevirtual 208, 3) := dk_182 0 208 (dk_at dksX1_value_1 4 rfl rfl)
theorem dX1_value_31 : decode cX1_value 31 = .ok (.if_icmp .lt 6, 3) := dk_161 0 6 (dk_at dksX1_value_1 7 rfl rfl)
theorem dX1_value_34 : decode cX1_value 34 = .ok (.bipush (-2), 2) := dk_16 254 (dk_at dksX1_value_1 10 rfl rfl)
theorem dX1_value_36 : decode cX1_value 36 = .ok (.ireturn, 1) := dk_172 (dk_at dksX1_value_1 12 rfl rfl)
theorem dX1_value_37 : decode cX1_value 37 = .ok (.aload_n 0, 1) := dk_42 (dk_at dksX1_value_1 13 rfl rfl)
theorem dX1_value_38 : decode cX1_value 38 = .ok (.invokevirtual 427, 3) := dk_182 1 171 (dk_at dksX1_value_1 14 rfl rfl)
theorem dX1_value_41 : decode cX1_value 41 = .ok (.astore 4, 2) := dk_58 4 (dk_at dksX1_value_1 17 rfl rfl)
theorem dX1_value_43 : decode cX1_value 43 = .ok (.aload 4, 2) := dk_25 4 (dk_at dksX1_value_1 19 rfl rfl)
theorem dX1_value_45 : decode cX1_value 45 = .ok (.getfield 411, 3) := dk_180 1 155 (dk_at dksX1_value_1 21 rfl rfl)
theorem dX1_value_48 : decode cX1_value 48 = .ok (.ifCond .eq 8, 3) := dk_153 0 8 (dk_at dksX1_value_2 0 rfl rfl)
theorem dX1_value_51 : decode cX1_value 51 = .ok (.bipush (-3), 2) := dk_16 253 (dk_at dksX1_value_2 3 rfl rfl)
theorem dX1_value_53 : decode cX1_value 53 = .ok (.goto 34, 3) := dk_167 0 34 (dk_at dksX1_value_2 5 rfl rfl)
theorem dX1_value_56 : decode cX1_value 56 = .ok (.aload 4, 2) := dk_25 4 (dk_at dksX1_value_2 8 rfl rfl)
theorem dX1_value_58 : decode cX1_value 58 = .ok (.aload 4, 2) := dk_25 4 (dk_at dksX1_value_2 10 rfl rfl)
theorem dX1_value_60 : decode cX1_value 60 = .ok (.getfield 431, 3) := dk_180 1 175 (dk_at dksX1_value_2 12 rfl rfl)
theorem dX1_value_63 : decode cX1_value 63 = .ok (.iload_n 1, 1) := dk_27 (dk_at dksX1_value_2 15 rfl rfl)
theorem dX1_value_64 : decode cX1_value 64 = .ok (.iconst 1, 1) := dk_4 (dk_at dksX1_value_2 16 rfl rfl)
theorem dX1_value_65 : decode cX1_value 65 = .ok (.iadd, 1) := dk_96 (dk_at dksX1_value_2 17 rfl rfl)
theorem dX1_value_66 : decode cX1_value 66 = .ok (.aaload, 1) := dk_50 (dk_at dksX1_value_2 18 rfl rfl)
theorem dX1_value_67 : decode cX1_value 67 = .ok (.iload_n 2, 1) := dk_28 (dk_at dksX1_value_2 19 rfl rfl)
theorem dX1_value_68 : decode cX1_value 68 = .ok (.iaload, 1) := dk_46 (dk_at dksX1_value_2 20 rfl rfl)
theorem dX1_value_69 : decode cX1_value 69 = .ok (.iload_n 1, 1) := dk_27 (dk_at dksX1_value_2 21 rfl rfl)
theorem dX1_value_70 : decode cX1_value 70 = .ok (.iconst 1, 1) := dk_4 (dk_at dksX1_value_2 22 rfl rfl)
theorem dX1_value_71 : decode cX1_value 71 = .ok (.iadd, 1) := dk_96 (dk_at dksX1_value_2 23 rfl rfl)
theorem dX1_value_72 : decode cX1_value 72 = .ok (.aload 4, 2) := dk_25 4 (dk_at dksX1_value_3 0 rfl rfl)
theorem dX1_value_74 : decode cX1_value 74 = .ok (.getfield 435, 3) := dk_180 1 179 (dk_at dksX1_value_3 2 rfl rfl)
theorem dX1_value_77 : decode cX1_value 77 = .ok (.iload_n 1, 1) := dk_27 (dk_at dksX1_value_3 5 rfl rfl)
theorem dX1_value_78 : decode cX1_value 78 = .ok (.iconst 1, 1) := dk_4 (dk_at dksX1_value_3 6 rfl rfl)
theorem dX1_value_79 : decode cX1_value 79 = .ok (.iadd, 1) := dk_96 (dk_at dksX1_value_3 7 rfl rfl)
theorem dX1_value_80 : decode cX1_value 80 = .ok (.aaload, 1) := dk_50 (dk_at dksX1_value_3 8 rfl rfl)
theorem dX1_value_81 : decode cX1_value 81 = .ok (.iload_n 2, 1) := dk_28 (dk_at dksX1_value_3 9 rfl rfl)
theorem dX1_value_82 : decode cX1_value 82 = .ok (.iaload, 1) := dk_46 (dk_at dksX1_value_3 10 rfl rfl)
theorem dX1_value_83 : decode cX1_value 83 = .ok (.iload_n 3, 1) := dk_29 (dk_at dksX1_value_3 11 rfl rfl)
theorem dX1_value_84 : decode cX1_value 84 = .ok (.invokevirtual 412, 3) := dk_182 1 156 (dk_at dksX1_value_3 12 rfl rfl)
theorem dX1_value_87 : decode cX1_value 87 = .ok (.ireturn, 1) := dk_172 (dk_at dksX1_value_3 15 rfl rfl)
def dkwX1_moment_2 : List UInt8 := [167, 0, 10, 44, 27, 4, 96, 182, 1, 183, 172]
abbrev dktX1_moment_2 : List UInt8 := dkwX1_moment_2 ++ []
def dkwX1_moment_1 : List UInt8 := [77, 44, 180, 1, 155, 153, 0, 6, 16, 253, 172, 44, 182, 1, 182, 44, 180, 1, 155, 153, 0, 8, 16, 252]
abbrev dktX1_moment_1 : List UInt8 := dkwX1_moment_1 ++ dktX1_moment_2
def dkwX1_moment_0 : List UInt8 := [27, 156, 0, 5, 2, 172, 27, 42, 180, 0, 49, 182, 0, 208, 161, 0, 6, 16, 254, 172, 42, 182, 1, 171]
abbrev dktX1_moment_0 : List UInt8 := dkwX1_moment_0 ++ dktX1_moment_1
theorem dksX1_moment_0 : cX1_moment.data.toList.drop 0 = dktX1_moment_0 := by decide +kernel
theorem dksX1_moment_1 : cX1_moment.data.toList.drop 24 = dktX1_moment_1 := dk_seg dksX1_moment_0 24 rfl rfl
theorem dksX1_moment_2 : cX1_moment.data.toList.drop 48 = dktX1_moment_2 := dk_seg dksX1_moment_1 24 rfl rfl
theorem dX1_moment_0 : decode cX1_moment 0 = .ok (.iload_n 1, 1) := dk_27 (dk_at dksX1_moment_0 0 rfl rfl)
theorem dX1_moment_1 : decode cX1_moment 1 = .ok (.ifCond .ge 5, 3) := dk_156 0 5 (dk_at dksX1_moment_0 1 rfl rfl)
theorem dX1_moment_4 : decode cX1_moment 4 = .ok (.iconst (-1), 1) := dk_2 (dk_at dksX1_moment_0 4 rfl rfl)
theorem dX1_moment_5 : decode cX1_moment 5 = .ok (.ireturn, 1) := dk_172 (dk_at dksX1_moment_0 5 rfl rfl)
theorem dX1_moment_6 : decode cX1_moment 6 = .ok (.iload_n 1, 1) := dk_27 (dk_at dksX1_moment_0 6 rfl rfl)
theorem dX1_moment_7 : decode cX1_moment 7 = .ok (.aload_n 0, 1) := dk_42 (dk_at dksX1_moment_0 7 rfl rfl)
theorem dX1_moment_8 : decode cX1_moment 8 = .ok (.getfield 49, 3) := dk_180 0 49 (dk_at dksX1_moment_0 8 rfl rfl)
theorem dX1_moment_11 : decode cX1_moment 11 = .ok (.invokevirtual 208, 3) := dk_182 0 208 (dk_at dksX1_moment_0 11 rfl rfl)
theorem dX1_moment_14 : decode cX1_moment 14 = .ok (.if_icmp .lt 6, 3) := dk_161 0 6 (dk_at dksX1_moment_0 14 rfl rfl)
theorem dX1_moment_17 : decode cX1_moment 17 = .ok (.bipush (-2), 2) := dk_16 254 (dk_at dksX1_moment_0 17 rfl rfl)
theorem dX1_moment_19 : decode cX1_moment 19 = .ok (.ireturn, 1) := dk_172 (dk_at dksX1_moment_0 19 rfl rfl)
theorem dX1_moment_20 : decode cX1_moment 20 = .ok (.aload_n 0, 1) := dk_42 (dk_at dksX1_moment_0 20 rfl rfl)
theorem dX1_moment_21 : decode cX1_moment 21 = .ok (.invokevirtual 427, 3) := dk_182 1 171 (dk_at dksX1_moment_0 21 rfl rfl)
theorem dX1_moment_24 : decode cX1_moment 24 = .ok (.astore_n 2, 1) := dk_77 (dk_at dksX1_moment_1 0 rfl rfl)
theorem dX1_moment_25 : decode cX1_moment 25 = .ok (.aload_n 2, 1) := dk_44 (dk_at dksX1_moment_1 1 rfl rfl)
theorem dX1_moment_26 : decode cX1_moment 26 = .ok (.getfield 411, 3) := dk_180 1 155 (dk_at dksX1_moment_1 2 rfl rfl)
theorem dX1_moment_29 : decode cX1_moment 29 = .ok (.ifCond .eq 6, 3) := dk_153 0 6 (dk_at dksX1_moment_1 5 rfl rfl)
theorem dX1_moment_32 : decode cX1_moment 32 = .ok (.bipush (-3), 2) := dk_16 253 (dk_at dksX1_moment_1 8 rfl rfl)
theorem dX1_moment_34 : decode cX1_moment 34 = .ok (.ireturn, 1) := dk_172 (dk_at dksX1_moment_1 10 rfl rfl)
theorem dX1_moment_35 : decode cX1_moment 35 = .ok (.aload_n 2, 1) := dk_44 (dk_at dksX1_moment_1 11 rfl rfl)
theorem dX1_moment_36 : decode cX1_moment 36 = .ok (.invokevirtual 438, 3) := dk_182 1 182 (dk_at dksX1_moment_1 12 rfl rfl)
theorem dX1_moment_39 : decode cX1_moment 39 = .ok (.aload_n 2, 1) := dk_44 (dk_at dksX1_moment_1 15 rfl rfl)
theorem dX1_moment_40 : decode cX1_moment 40 = .ok (.getfield 411, 3) := dk_180 1 155 (dk_at dksX1_moment_1 16 rfl rfl)
theorem dX1_moment_43 : decode cX1_moment 43 = .ok (.ifCond .eq 8, 3) := dk_153 0 8 (dk_at dksX1_moment_1 19 rfl rfl)
theorem dX1_moment_46 : decode cX1_moment 46 = .ok (.bipush (-4), 2) := dk_16 252 (dk_at dksX1_moment_1 22 rfl rfl)
theorem dX1_moment_48 : decode cX1_moment 48 = .ok (.goto 10, 3) := dk_167 0 10 (dk_at dksX1_moment_2 0 rfl rfl)
theorem dX1_moment_51 : decode cX1_moment 51 = .ok (.aload_n 2, 1) := dk_44 (dk_at dksX1_moment_2 3 rfl rfl)
theorem dX1_moment_52 : decode cX1_moment 52 = .ok (.iload_n 1, 1) := dk_27 (dk_at dksX1_moment_2 4 rfl rfl)
theorem dX1_moment_53 : decode cX1_moment 53 = .ok (.iconst 1, 1) := dk_4 (dk_at dksX1_moment_2 5 rfl rfl)
theorem dX1_moment_54 : decode cX1_moment 54 = .ok (.iadd, 1) := dk_96 (dk_at dksX1_moment_2 6 rfl rfl)
theorem dX1_moment_55 : decode cX1_moment 55 = .ok (.invokevirtual 439, 3) := dk_182 1 183 (dk_at dksX1_moment_2 7 rfl rfl)
theorem dX1_moment_58 : decode cX1_moment 58 = .ok (.ireturn, 1) := dk_172 (dk_at dksX1_moment_2 10 rfl rfl)
def dkwX1_breaks_3 : List UInt8 := [16, 253, 172]
abbrev dktX1_breaks_3 : List UInt8 := dkwX1_breaks_3 ++ []
def dkwX1_breaks_2 : List UInt8 := [42, 180, 0, 49, 27, 183, 1, 152, 180, 1, 155, 153, 0, 7, 27, 4, 100, 172, 132, 1, 1, 167, 255, 219]
abbrev dktX1_breaks_2 : List UInt8 := dkwX1_breaks_2 ++ dktX1_breaks_3
def dkwX1_breaks_1 : List UInt8 := [154, 0, 6, 16, 254, 172, 4, 60, 27, 42, 180, 0, 49, 182, 0, 208, 163, 0, 32, 187, 1, 150, 89, 42]
abbrev dktX1_breaks_1 : List UInt8 := dkwX1_breaks_1 ++ dktX1_breaks_2
def dkwX1_breaks_0 : List UInt8 := [42, 180, 0, 26, 180, 1, 5, 182, 1, 149, 153, 0, 5, 2, 172, 42, 182, 1, 171, 180, 1, 155]
abbrev dktX1_breaks_0 : List UInt8 := dkwX1_breaks_0 ++ dktX1_breaks_1
theorem dksX1_breaks_0 : cX1_breaks.data.toList.drop 0 = dktX1_breaks_0 := by decide +kernel
theorem dksX1_breaks_1 : cX1_breaks.data.toList.drop 22 = dktX1_breaks_1 := dk_seg dksX1_breaks_0 22 rfl rfl
theorem dksX1_breaks_2 : cX1_breaks.data.toList.drop 46 = dktX1_breaks_2 := dk_seg dksX1_breaks_1 24 rfl rfl
theorem dksX1_breaks_3 : cX1_breaks.data.toList.drop 70 = dktX1_breaks_3 := dk_seg dksX1_breaks_2 24 rfl rfl
theorem dX1_breaks_0 : decode cX1_breaks 0 = .ok (.aload_n 0, 1) := dk_42 (dk_at dksX1_breaks_0 0 rfl rfl)
theorem dX1_breaks_1 : decode cX1_breaks 1 = .ok (.getfield 26, 3) := dk_180 0 26 (dk_at dksX1_breaks_0 1 rfl rfl)
theorem dX1_breaks_4 : decode cX1_breaks 4 = .ok (.getfield 261, 3) := dk_180 1 5 (dk_at dksX1_breaks_0 4 rfl rfl)
theorem dX1_breaks_7 : decode cX1_breaks 7 = .ok (.invokevirtual 405, 3) := dk_182 1 149 (dk_at dksX1_breaks_0 7 rfl rfl)
theorem dX1_breaks_10 : decode cX1_breaks 10 = .ok (.ifCond .eq 5, 3) := dk_153 0 5 (dk_at dksX1_breaks_0 10 rfl rfl)
theorem dX1_breaks_13 : decode cX1_breaks 13 = .ok (.iconst (-1), 1) := dk_2 (dk_at dksX1_breaks_0 13 rfl rfl)
theorem dX1_breaks_14 : decode cX1_breaks 14 = .ok (.ireturn, 1) := dk_172 (dk_at dksX1_breaks_0 14 rfl rfl)
theorem dX1_breaks_15 : decode cX1_breaks 15 = .ok (.aload_n 0, 1) := dk_42 (dk_at dksX1_breaks_0 15 rfl rfl)
theorem dX1_breaks_16 : decode cX1_breaks 16 = .ok (.invokevirtual 427, 3) := dk_182 1 171 (dk_at dksX1_breaks_0 16 rfl rfl)
theorem dX1_breaks_19 : decode cX1_breaks 19 = .ok (.getfield 411, 3) := dk_180 1 155 (dk_at dksX1_breaks_0 19 rfl rfl)
theorem dX1_breaks_22 : decode cX1_breaks 22 = .ok (.ifCond .ne 6, 3) := dk_154 0 6 (dk_at dksX1_breaks_1 0 rfl rfl)
theorem dX1_breaks_25 : decode cX1_breaks 25 = .ok (.bipush (-2), 2) := dk_16 254 (dk_at dksX1_breaks_1 3 rfl rfl)
theorem dX1_breaks_27 : decode cX1_breaks 27 = .ok (.ireturn, 1) := dk_172 (dk_at dksX1_breaks_1 5 rfl rfl)
theorem dX1_breaks_28 : decode cX1_breaks 28 = .ok (.iconst 1, 1) := dk_4 (dk_at dksX1_breaks_1 6 rfl rfl)
theorem dX1_breaks_29 : decode cX1_breaks 29 = .ok (.istore_n 1, 1) := dk_60 (dk_at dksX1_breaks_1 7 rfl rfl)
theorem dX1_breaks_30 : decode cX1_breaks 30 = .ok (.iload_n 1, 1) := dk_27 (dk_at dksX1_breaks_1 8 rfl rfl)
theorem dX1_breaks_31 : decode cX1_breaks 31 = .ok (.aload_n 0, 1) := dk_42 (dk_at dksX1_breaks_1 9 rfl rfl)
theorem dX1_breaks_32 : decode cX1_breaks 32 = .ok (.getfield 49, 3) := dk_180 0 49 (dk_at dksX1_breaks_1 10 rfl rfl)
theorem dX1_breaks_35 : decode cX1_breaks 35 = .ok (.invokevirtual 208, 3) := dk_182 0 208 (dk_at dksX1_breaks_1 13 rfl rfl)
theorem dX1_breaks_38 : decode cX1_breaks 38 = .ok (.if_icmp .gt 32, 3) := dk_163 0 32 (dk_at dksX1_breaks_1 16 rfl rfl)
theorem dX1_breaks_41 : decode cX1_breaks 41 = .ok (.new 406, 3) := dk_187 1 150 (dk_at dksX1_breaks_1 19 rfl rfl)
theorem dX1_breaks_44 : decode cX1_breaks 44 = .ok (.dup, 1) := dk_89 (dk_at dksX1_breaks_1 22 rfl rfl)
theorem dX1_breaks_45 : decode cX1_breaks 45 = .ok (.aload_n 0, 1) := dk_42 (dk_at dksX1_breaks_1 23 rfl rfl)
theorem dX1_breaks_46 : decode cX1_breaks 46 = .ok (.aload_n 0, 1) := dk_42 (dk_at dksX1_breaks_2 0 rfl rfl)
theorem dX1_breaks_47 : decode cX1_breaks 47 = .ok (.getfield 49, 3) := dk_180 0 49 (dk_at dksX1_breaks_2 1 rfl rfl)
theorem dX1_breaks_50 : decode cX1_breaks 50 = .ok (.iload_n 1, 1) := dk_27 (dk_at dksX1_breaks_2 4 rfl rfl)
theorem dX1_breaks_51 : decode cX1_breaks 51 = .ok (.invokespecial 408, 3) := dk_183 1 152 (dk_at dksX1_breaks_2 5 rfl rfl)
theorem dX1_breaks_54 : decode cX1_breaks 54 = .ok (.getfield 411, 3) := dk_180 1 155 (dk_at dksX1_breaks_2 8 rfl rfl)
theorem dX1_breaks_57 : decode cX1_breaks 57 = .ok (.ifCond .eq 7, 3) := dk_153 0 7 (dk_at dksX1_breaks_2 11 rfl rfl)
theorem dX1_breaks_60 : decode cX1_breaks 60 = .ok (.iload_n 1, 1) := dk_27 (dk_at dksX1_breaks_2 14 rfl rfl)
theorem dX1_breaks_61 : decode cX1_breaks 61 = .ok (.iconst 1, 1) := dk_4 (dk_at dksX1_breaks_2 15 rfl rfl)
theorem dX1_breaks_62 : decode cX1_breaks 62 = .ok (.isub, 1) := dk_100 (dk_at dksX1_breaks_2 16 rfl rfl)
theorem dX1_breaks_63 : decode cX1_breaks 63 = .ok (.ireturn, 1) := dk_172 (dk_at dksX1_breaks_2 17 rfl rfl)
theorem dX1_breaks_64 : decode cX1_breaks 64 = .ok (.iinc 1 1, 3) := dk_132 1 1 (dk_at dksX1_breaks_2 18 rfl rfl)
theorem dX1_breaks_67 : decode cX1_breaks 67 = .ok (.goto (-37), 3) := dk_167 255 219 (dk_at dksX1_breaks_2 21 rfl rfl)
theorem dX1_breaks_70 : decode cX1_breaks 70 = .ok (.bipush (-3), 2) := dk_16 253 (dk_at dksX1_breaks_3 0 rfl rfl)
theorem dX1_breaks_72 : decode cX1_breaks 72 = .ok (.ireturn, 1) := dk_172 (dk_at dksX1_breaks_3 2 rfl rfl)
def dkwX1_count_5 : List UInt8 := [180, 0, 49, 182, 0, 208, 172, 42, 180, 0, 55, 182, 1, 20, 172, 42, 180, 0, 7, 172, 2, 172]
abbrev dktX1_count_5 : List UInt8 := dkwX1_count_5 ++ []
def dkwX1_count_4 : List UInt8 := [180, 1, 5, 182, 1, 149, 153, 0, 7, 2, 167, 0, 10, 42, 180, 0, 26, 180, 0, 194, 172, 42]
abbrev dktX1_count_4 : List UInt8 := dkwX1_count_4 ++ dktX1_count_5
def dkwX1_count_3 : List UInt8 := [180, 1, 5, 182, 0, 208, 172, 42, 180, 0, 26, 180, 0, 212, 182, 0, 208, 172, 42, 180, 0, 26]
abbrev dktX1_count_3 : List UInt8 := dkwX1_count_3 ++ dktX1_count_4
def dkwX1_count_2 : List UInt8 := [42, 180, 0, 26, 180, 0, 94, 172, 42, 180, 0, 26, 180, 0, 254, 182, 0, 208, 172, 42, 180, 0, 26]
abbrev dktX1_count_2 : List UInt8 := dkwX1_count_2 ++ dktX1_count_3
def dkwX1_count_1 : List UInt8 := [170, 0, 0, 0, 0, 0, 134, 0, 0, 0, 0, 0, 0, 0, 7, 0, 0, 0, 47, 0, 0, 0, 55, 0, 0, 0, 66, 0, 0, 0, 77, 0, 0, 0, 88, 0, 0, 0, 113, 0, 0, 0, 121, 0, 0, 0, 129]
abbrev dktX1_count_1 : List UInt8 := dkwX1_count_1 ++ dktX1_count_2
def dkwX1_count_0 : List UInt8 := [27]
abbrev dktX1_count_0 : List UInt8 := dkwX1_count_0 ++ dktX1_count_1
theorem dksX1_count_0 : cX1_count.data.toList.drop 0 = dktX1_count_0 := by decide +kernel
theorem dksX1_count_1 : cX1_count.data.toList.drop 1 = dktX1_count_1 := dk_seg dksX1_count_0 1 rfl rfl
theorem dksX1_count_2 : cX1_count.data.toList.drop 48 = dktX1_count_2 := dk_seg dksX1_count_1 47 rfl rfl
theorem dksX1_count_3 : cX1_count.data.toList.drop 71 = dktX1_count_3 := dk_seg dksX1_count_2 23 rfl rfl
theorem dksX1_count_4 : cX1_count.data.toList.drop 93 = dktX1_count_4 := dk_seg dksX1_count_3 22 rfl rfl
theorem dksX1_count_5 : cX1_count.data.toList.drop 115 = dktX1_count_5 := dk_seg dksX1_count_4 22 rfl rfl
theorem dX1_count_0 : decode cX1_count 0 = .ok (.iload_n 1, 1) := dk_27 (dk_at dksX1_count_0 0 rfl rfl)
theorem dX1_count_1 : decode cX1_count 1 = .ok (.tableswitch 134 0 7 #[47, 55, 66, 77, 88, 113, 121, 129], 47) := by decide +kernel
theorem dX1_count_48 : decode cX1_count 48 = .ok (.aload_n 0, 1) := dk_42 (dk_at dksX1_count_2 0 rfl rfl)
theorem dX1_count_49 : decode cX1_count 49 = .ok (.getfield 26, 3) := dk_180 0 26 (dk_at dksX1_count_2 1 rfl rfl)
theorem dX1_count_52 : decode cX1_count 52 = .ok (.getfield 94, 3) := dk_180 0 94 (dk_at dksX1_count_2 4 rfl rfl)
theorem dX1_count_55 : decode cX1_count 55 = .ok (.ireturn, 1) := dk_172 (dk_at dksX1_count_2 7 rfl rfl)
theorem dX1_count_56 : decode cX1_count 56 = .ok (.aload_n 0, 1) := dk_42 (dk_at dksX1_count_2 8 rfl rfl)
theorem dX1_count_57 : decode cX1_count 57 = .ok (.getfield 26, 3) := dk_180 0 26 (dk_at dksX1_count_2 9 rfl rfl)
theorem dX1_count_60 : decode cX1_count 60 = .ok (.getfield 254, 3) := dk_180 0 254 (dk_at dksX1_count_2 12 rfl rfl)
theorem dX1_count_63 : decode cX1_count 63 = .ok (.invokevirtual 208, 3) := dk_182 0 208 (dk_at dksX1_count_2 15 rfl rfl)
theorem dX1_count_66 : decode cX1_count 66 = .ok (.ireturn, 1) := dk_172 (dk_at dksX1_count_2 18 rfl rfl)
theorem dX1_count_67 : decode cX1_count 67 = .ok (.aload_n 0, 1) := dk_42 (dk_at dksX1_count_2 19 rfl rfl)
theorem dX1_count_68 : decode cX1_count 68 = .ok (.getfield 26, 3) := dk_180 0 26 (dk_at dksX1_count_2 20 rfl rfl)
theorem dX1_count_71 : decode cX1_count 71 = .ok (.getfield 261, 3) := dk_180 1 5 (dk_at dksX1_count_3 0 rfl rfl)
theorem dX1_count_74 : decode cX1_count 74 = .ok (.invokevirtual 208, 3) := dk_182 0 208 (dk_at dksX1_count_3 3 rfl rfl)
theorem dX1_count_77 : decode cX1_count 77 = .ok (.ireturn, 1) := dk_172 (dk_at dksX1_count_3 6 rfl rfl)
theorem dX1_count_78 : decode cX1_count 78 = .ok (.aload_n 0, 1) := dk_42 (dk_at dksX1_count_3 7 rfl rfl)
theorem dX1_count_79 : decode cX1_count 79 = .ok (.getfield 26, 3) := dk_180 0 26 (dk_at dksX1_count_3 8 rfl rfl)
theorem dX1_count_82 : decode cX1_count 82 = .ok (.getfield 212, 3) := dk_180 0 212 (dk_at dksX1_count_3 11 rfl rfl)
theorem dX1_count_85 : decode cX1_count 85 = .ok (.invokevirtual 208, 3) := dk_182 0 208 (dk_at dksX1_count_3 14 rfl rfl)
theorem dX1_count_88 : decode cX1_count 88 = .ok (.ireturn, 1) := dk_172 (dk_at dksX1_count_3 17 rfl rfl)
theorem dX1_count_89 : decode cX1_count 89 = .ok (.aload_n 0, 1) := dk_42 (dk_at dksX1_count_3 18 rfl rfl)
theorem dX1_count_90 : decode cX1_count 90 = .ok (.getfield 26, 3) := dk_180 0 26 (dk_at dksX1_count_3 19 rfl rfl)
theorem dX1_count_93 : decode cX1_count 93 = .ok (.getfield 261, 3) := dk_180 1 5 (dk_at dksX1_count_4 0 rfl rfl)
theorem dX1_count_96 : decode cX1_count 96 = .ok (.invokevirtual 405, 3) := dk_182 1 149 (dk_at dksX1_count_4 3 rfl rfl)
theorem dX1_count_99 : decode cX1_count 99 = .ok (.ifCond .eq 7, 3) := dk_153 0 7 (dk_at dksX1_count_4 6 rfl rfl)
theorem dX1_count_102 : decode cX1_count 102 = .ok (.iconst (-1), 1) := dk_2 (dk_at dksX1_count_4 9 rfl rfl)
theorem dX1_count_103 : decode cX1_count 103 = .ok (.goto 10, 3) := dk_167 0 10 (dk_at dksX1_count_4 10 rfl rfl)
theorem dX1_count_106 : decode cX1_count 106 = .ok (.aload_n 0, 1) := dk_42 (dk_at dksX1_count_4 13 rfl rfl)
theorem dX1_count_107 : decode cX1_count 107 = .ok (.getfield 26, 3) := dk_180 0 26 (dk_at dksX1_count_4 14 rfl rfl)
theorem dX1_count_110 : decode cX1_count 110 = .ok (.getfield 194, 3) := dk_180 0 194 (dk_at dksX1_count_4 17 rfl rfl)
theorem dX1_count_113 : decode cX1_count 113 = .ok (.ireturn, 1) := dk_172 (dk_at dksX1_count_4 20 rfl rfl)
theorem dX1_count_114 : decode cX1_count 114 = .ok (.aload_n 0, 1) := dk_42 (dk_at dksX1_count_4 21 rfl rfl)
theorem dX1_count_115 : decode cX1_count 115 = .ok (.getfield 49, 3) := dk_180 0 49 (dk_at dksX1_count_5 0 rfl rfl)
theorem dX1_count_118 : decode cX1_count 118 = .ok (.invokevirtual 208, 3) := dk_182 0 208 (dk_at dksX1_count_5 3 rfl rfl)
theorem dX1_count_121 : decode cX1_count 121 = .ok (.ireturn, 1) := dk_172 (dk_at dksX1_count_5 6 rfl rfl)
theorem dX1_count_122 : decode cX1_count 122 = .ok (.aload_n 0, 1) := dk_42 (dk_at dksX1_count_5 7 rfl rfl)
theorem dX1_count_123 : decode cX1_count 123 = .ok (.getfield 55, 3) := dk_180 0 55 (dk_at dksX1_count_5 8 rfl rfl)
theorem dX1_count_126 : decode cX1_count 126 = .ok (.invokevirtual 276, 3) := dk_182 1 20 (dk_at dksX1_count_5 11 rfl rfl)
theorem dX1_count_129 : decode cX1_count 129 = .ok (.ireturn, 1) := dk_172 (dk_at dksX1_count_5 14 rfl rfl)
theorem dX1_count_130 : decode cX1_count 130 = .ok (.aload_n 0, 1) := dk_42 (dk_at dksX1_count_5 15 rfl rfl)
theorem dX1_count_131 : decode cX1_count 131 = .ok (.getfield 7, 3) := dk_180 0 7 (dk_at dksX1_count_5 16 rfl rfl)
theorem dX1_count_134 : decode cX1_count 134 = .ok (.ireturn, 1) := dk_172 (dk_at dksX1_count_5 19 rfl rfl)
theorem dX1_count_135 : decode cX1_count 135 = .ok (.iconst (-1), 1) := dk_2 (dk_at dksX1_count_5 20 rfl rfl)
theorem dX1_count_136 : decode cX1_count 136 = .ok (.ireturn, 1) := dk_172 (dk_at dksX1_count_5 21 rfl rfl)
def dkwX1_place_10 : List UInt8 := [3, 96, 62, 167, 255, 217, 29, 172, 187, 1, 14, 89, 183, 1, 16, 191]
abbrev dktX1_place_10 : List UInt8 := dkwX1_place_10 ++ []
def dkwX1_place_9 : List UInt8 := [185, 0, 124, 1, 0, 192, 0, 182, 58, 5, 29, 25, 5, 180, 0, 184, 27, 160, 0, 7, 4, 167, 0, 4]
abbrev dktX1_place_9 : List UInt8 := dkwX1_place_9 ++ dktX1_place_10
def dkwX1_place_8 : List UInt8 := [172, 42, 180, 0, 37, 182, 0, 114, 58, 4, 25, 4, 185, 0, 118, 1, 0, 153, 0, 35, 25, 4]
abbrev dktX1_place_8 : List UInt8 := dkwX1_place_8 ++ dktX1_place_9
def dkwX1_place_7 : List UInt8 := [180, 0, 175, 27, 160, 0, 7, 4, 167, 0, 4, 3, 96, 62, 167, 255, 217, 29, 172, 42, 27, 182, 0, 235]
abbrev dktX1_place_7 : List UInt8 := dkwX1_place_7 ++ dktX1_place_8
def dkwX1_place_6 : List UInt8 := [185, 0, 118, 1, 0, 153, 0, 35, 25, 4, 185, 0, 124, 1, 0, 192, 0, 165, 58, 5, 29, 25, 5]
abbrev dktX1_place_6 : List UInt8 := dkwX1_place_6 ++ dktX1_place_7
def dkwX1_place_5 : List UInt8 := [3, 96, 62, 167, 255, 217, 29, 172, 42, 180, 0, 26, 180, 0, 212, 182, 0, 114, 58, 4, 25, 4]
abbrev dktX1_place_5 : List UInt8 := dkwX1_place_5 ++ dktX1_place_6
def dkwX1_place_4 : List UInt8 := [185, 0, 124, 1, 0, 192, 0, 165, 58, 5, 29, 25, 5, 180, 0, 215, 27, 160, 0, 7, 4, 167, 0, 4]
abbrev dktX1_place_4 : List UInt8 := dkwX1_place_4 ++ dktX1_place_5
def dkwX1_place_3 : List UInt8 := [180, 0, 212, 182, 0, 114, 58, 4, 25, 4, 185, 0, 118, 1, 0, 153, 0, 35, 25, 4]
abbrev dktX1_place_3 : List UInt8 := dkwX1_place_3 ++ dktX1_place_4
def dkwX1_place_2 : List UInt8 := [42, 180, 0, 26, 180, 0, 150, 27, 182, 0, 153, 192, 0, 34, 182, 0, 208, 172, 42, 180, 0, 26]
abbrev dktX1_place_2 : List UInt8 := dkwX1_place_2 ++ dktX1_place_3
def dkwX1_place_1 : List UInt8 := [170, 0, 0, 0, 222, 0, 0, 0, 0, 0, 0, 0, 4, 0, 0, 0, 33, 0, 0, 0, 51, 0, 0, 0, 107, 0, 0, 0, 163, 0, 0, 0, 169]
abbrev dktX1_place_1 : List UInt8 := dkwX1_place_1 ++ dktX1_place_2
def dkwX1_place_0 : List UInt8 := [42, 27, 182, 1, 8, 154, 0, 11, 187, 1, 11, 89, 183, 1, 13, 191, 3, 62, 28]
abbrev dktX1_place_0 : List UInt8 := dkwX1_place_0 ++ dktX1_place_1
theorem dksX1_place_0 : cX1_place.data.toList.drop 0 = dktX1_place_0 := by decide +kernel
theorem dksX1_place_1 : cX1_place.data.toList.drop 19 = dktX1_place_1 := dk_seg dksX1_place_0 19 rfl rfl
theorem dksX1_place_2 : cX1_place.data.toList.drop 52 = dktX1_place_2 := dk_seg dksX1_place_1 33 rfl rfl
theorem dksX1_place_3 : cX1_place.data.toList.drop 74 = dktX1_place_3 := dk_seg dksX1_place_2 22 rfl rfl
theorem dksX1_place_4 : cX1_place.data.toList.drop 94 = dktX1_place_4 := dk_seg dksX1_place_3 20 rfl rfl
theorem dksX1_place_5 : cX1_place.data.toList.drop 118 = dktX1_place_5 := dk_seg dksX1_place_4 24 rfl rfl
theorem dksX1_place_6 : cX1_place.data.toList.drop 140 = dktX1_place_6 := dk_seg dksX1_place_5 22 rfl rfl
theorem dksX1_place_7 : cX1_place.data.toList.drop 163 = dktX1_place_7 := dk_seg dksX1_place_6 23 rfl rfl
theorem dksX1_place_8 : cX1_place.data.toList.drop 187 = dktX1_place_8 := dk_seg dksX1_place_7 24 rfl rfl
theorem dksX1_place_9 : cX1_place.data.toList.drop 209 = dktX1_place_9 := dk_seg dksX1_place_8 22 rfl rfl
theorem dksX1_place_10 : cX1_place.data.toList.drop 233 = dktX1_place_10 := dk_seg dksX1_place_9 24 rfl rfl
theorem dX1_place_0 : decode cX1_place 0 = .ok (.aload_n 0, 1) := dk_42 (dk_at dksX1_place_0 0 rfl rfl)
theorem dX1_place_1 : decode cX1_place 1 = .ok (.iload_n 1, 1) := dk_27 (dk_at dksX1_place_0 1 rfl rfl)
theorem dX1_place_2 : decode cX1_place 2 = .ok (.invokevirtual 264, 3) := dk_182 1 8 (dk_at dksX1_place_0 2 rfl rfl)
theorem dX1_place_5 : decode cX1_place 5 = .ok (.ifCond .ne 11, 3) := dk_154 0 11 (dk_at dksX1_place_0 5 rfl rfl)
theorem dX1_place_8 : decode cX1_place 8 = .ok (.new 267, 3) := dk_187 1 11 (dk_at dksX1_place_0 8 rfl rfl)
theorem dX1_place_11 : decode cX1_place 11 = .ok (.dup, 1) := dk_89 (dk_at dksX1_place_0 11 rfl rfl)
theorem dX1_place_12 : decode cX1_place 12 = .ok (.invokespecial 269, 3) := dk_183 1 13 (dk_at dksX1_place_0 12 rfl rfl)
theorem dX1_place_15 : decode cX1_place 15 = .ok (.athrow, 1) := dk_191 (dk_at dksX1_place_0 15 rfl rfl)
theorem dX1_place_16 : decode cX1_place 16 = .ok (.iconst 0, 1) := dk_3 (dk_at dksX1_place_0 16 rfl rfl)
theorem dX1_place_17 : decode cX1_place 17 = .ok (.istore_n 3, 1) := dk_62 (dk_at dksX1_place_0 17 rfl rfl)
theorem dX1_place_18 : decode cX1_place 18 = .ok (.iload_n 2, 1) := dk_28 (dk_at dksX1_place_0 18 rfl rfl)
theorem dX1_place_19 : decode cX1_place 19 = .ok (.tableswitch 222 0 4 #[33, 51, 107, 163, 169], 33) := by decide +kernel
theorem dX1_place_52 : decode cX1_place 52 = .ok (.aload_n 0, 1) := dk_42 (dk_at dksX1_place_2 0 rfl rfl)
theorem dX1_place_53 : decode cX1_place 53 = .ok (.getfield 26, 3) := dk_180 0 26 (dk_at dksX1_place_2 1 rfl rfl)
theorem dX1_place_56 : decode cX1_place 56 = .ok (.getfield 150, 3) := dk_180 0 150 (dk_at dksX1_place_2 4 rfl rfl)
theorem dX1_place_59 : decode cX1_place 59 = .ok (.iload_n 1, 1) := dk_27 (dk_at dksX1_place_2 7 rfl rfl)
theorem dX1_place_60 : decode cX1_place 60 = .ok (.invokevirtual 153, 3) := dk_182 0 153 (dk_at dksX1_place_2 8 rfl rfl)
theorem dX1_place_63 : decode cX1_place 63 = .ok (.checkcast 34, 3) := dk_192 0 34 (dk_at dksX1_place_2 11 rfl rfl)
theorem dX1_place_66 : decode cX1_place 66 = .ok (.invokevirtual 208, 3) := dk_182 0 208 (dk_at dksX1_place_2 14 rfl rfl)
theorem dX1_place_69 : decode cX1_place 69 = .ok (.ireturn, 1) := dk_172 (dk_at dksX1_place_2 17 rfl rfl)
theorem dX1_place_70 : decode cX1_place 70 = .ok (.aload_n 0, 1) := dk_42 (dk_at dksX1_place_2 18 rfl rfl)
theorem dX1_place_71 : decode cX1_place 71 = .ok (.getfield 26, 3) := dk_180 0 26 (dk_at dksX1_place_2 19 rfl rfl)
theorem dX1_place_74 : decode cX1_place 74 = .ok (.getfield 212, 3) := dk_180 0 212 (dk_at dksX1_place_3 0 rfl rfl)
theorem dX1_place_77 : decode cX1_place 77 = .ok (.invokevirtual 114, 3) := dk_182 0 114 (dk_at dksX1_place_3 3 rfl rfl)
theorem dX1_place_80 : decode cX1_place 80 = .ok (.astore 4, 2) := dk_58 4 (dk_at dksX1_place_3 6 rfl rfl)
theorem dX1_place_82 : decode cX1_place 82 = .ok (.aload 4, 2) := dk_25 4 (dk_at dksX1_place_3 8 rfl rfl)
theorem dX1_place_84 : decode cX1_place 84 = .ok (.invokeinterface 118 1, 5) := by decide +kernel
theorem dX1_place_89 : decode cX1_place 89 = .ok (.ifCond .eq 35, 3) := dk_153 0 35 (dk_at dksX1_place_3 15 rfl rfl)
theorem dX1_place_92 : decode cX1_place 92 = .ok (.aload 4, 2) := dk_25 4 (dk_at dksX1_place_3 18 rfl rfl)
theorem dX1_place_94 : decode cX1_place 94 = .ok (.invokeinterface 124 1, 5) := by decide +kernel
theorem dX1_place_99 : decode cX1_place 99 = .ok (.checkcast 165, 3) := dk_192 0 165 (dk_at dksX1_place_4 5 rfl rfl)
theorem dX1_place_102 : decode cX1_place 102 = .ok (.astore 5, 2) := dk_58 5 (dk_at dksX1_place_4 8 rfl rfl)
theorem dX1_place_104 : decode cX1_place 104 = .ok (.iload_n 3, 1) := dk_29 (dk_at dksX1_place_4 10 rfl rfl)
theorem dX1_place_105 : decode cX1_place 105 = .ok (.aload 5, 2) := dk_25 5 (dk_at dksX1_place_4 11 rfl rfl)
theorem dX1_place_107 : decode cX1_place 107 = .ok (.getfield 215, 3) := dk_180 0 215 (dk_at dksX1_place_4 13 rfl rfl)
theorem dX1_place_110 : decode cX1_place 110 = .ok (.iload_n 1, 1) := dk_27 (dk_at dksX1_place_4 16 rfl rfl)
theorem dX1_place_111 : decode cX1_place 111 = .ok (.if_icmp .ne 7, 3) := dk_160 0 7 (dk_at dksX1_place_4 17 rfl rfl)
theorem dX1_place_114 : decode cX1_place 114 = .ok (.iconst 1, 1) := dk_4 (dk_at dksX1_place_4 20 rfl rfl)
theorem dX1_place_115 : decode cX1_place 115 = .ok (.goto 4, 3) := dk_167 0 4 (dk_at dksX1_place_4 21 rfl rfl)
theorem dX1_place_118 : decode cX1_place 118 = .ok (.iconst 0, 1) := dk_3 (dk_at dksX1_place_5 0 rfl rfl)
theorem dX1_place_119 : decode cX1_place 119 = .ok (.iadd, 1) := dk_96 (dk_at dksX1_place_5 1 rfl rfl)
theorem dX1_place_120 : decode cX1_place 120 = .ok (.istore_n 3, 1) := dk_62 (dk_at dksX1_place_5 2 rfl rfl)
theorem dX1_place_121 : decode cX1_place 121 = .ok (.goto (-39), 3) := dk_167 255 217 (dk_at dksX1_place_5 3 rfl rfl)
theorem dX1_place_124 : decode cX1_place 124 = .ok (.iload_n 3, 1) := dk_29 (dk_at dksX1_place_5 6 rfl rfl)
theorem dX1_place_125 : decode cX1_place 125 = .ok (.ireturn, 1) := dk_172 (dk_at dksX1_place_5 7 rfl rfl)
theorem dX1_place_126 : decode cX1_place 126 = .ok (.aload_n 0, 1) := dk_42 (dk_at dksX1_place_5 8 rfl rfl)
theorem dX1_place_127 : decode cX1_place 127 = .ok (.getfield 26, 3) := dk_180 0 26 (dk_at dksX1_place_5 9 rfl rfl)
theorem dX1_place_130 : decode cX1_place 130 = .ok (.getfield 212, 3) := dk_180 0 212 (dk_at dksX1_place_5 12 rfl rfl)
theorem dX1_place_133 : decode cX1_place 133 = .ok (.invokevirtual 114, 3) := dk_182 0 114 (dk_at dksX1_place_5 15 rfl rfl)
theorem dX1_place_136 : decode cX1_place 136 = .ok (.astore 4, 2) := dk_58 4 (dk_at dksX1_place_5 18 rfl rfl)
theorem dX1_place_138 : decode cX1_place 138 = .ok (.aload 4, 2) := dk_25 4 (dk_at dksX1_place_5 20 rfl rfl)
theorem dX1_place_140 : decode cX1_place 140 = .ok (.invokeinterface 118 1, 5) := by decide +kernel
theorem dX1_place_145 : decode cX1_place 145 = .ok (.ifCond .eq 35, 3) := dk_153 0 35 (dk_at dksX1_place_6 5 rfl rfl)
theorem dX1_place_148 : decode cX1_place 148 = .ok (.aload 4, 2) := dk_25 4 (dk_at dksX1_place_6 8 rfl rfl)
theorem dX1_place_150 : decode cX1_place 150 = .ok (.invokeinterface 124 1, 5) := by decide +kernel
theorem dX1_place_155 : decode cX1_place 155 = .ok (.checkcast 165, 3) := dk_192 0 165 (dk_at dksX1_place_6 15 rfl rfl)
theorem dX1_place_158 : decode cX1_place 158 = .ok (.astore 5, 2) := dk_58 5 (dk_at dksX1_place_6 18 rfl rfl)
theorem dX1_place_160 : decode cX1_place 160 = .ok (.iload_n 3, 1) := dk_29 (dk_at dksX1_place_6 20 rfl rfl)
theorem dX1_place_161 : decode cX1_place 161 = .ok (.aload 5, 2) := dk_25 5 (dk_at dksX1_place_6 21 rfl rfl)
theorem dX1_place_163 : decode cX1_place 163 = .ok (.getfield 175, 3) := dk_180 0 175 (dk_at dksX1_place_7 0 rfl rfl)
theorem dX1_place_166 : decode cX1_place 166 = .ok (.iload_n 1, 1) := dk_27 (dk_at dksX1_place_7 3 rfl rfl)
theorem dX1_place_167 : decode cX1_place 167 = .ok (.if_icmp .ne 7, 3) := dk_160 0 7 (dk_at dksX1_place_7 4 rfl rfl)
theorem dX1_place_170 : decode cX1_place 170 = .ok (.iconst 1, 1) := dk_4 (dk_at dksX1_place_7 7 rfl rfl)
theorem dX1_place_171 : decode cX1_place 171 = .ok (.goto 4, 3) := dk_167 0 4 (dk_at dksX1_place_7 8 rfl rfl)
theorem dX1_place_174 : decode cX1_place 174 = .ok (.iconst 0, 1) := dk_3 (dk_at dksX1_place_7 11 rfl rfl)
theorem dX1_place_175 : decode cX1_place 175 = .ok (.iadd, 1) := dk_96 (dk_at dksX1_place_7 12 rfl rfl)
theorem dX1_place_176 : decode cX1_place 176 = .ok (.istore_n 3, 1) := dk_62 (dk_at dksX1_place_7 13 rfl rfl)
theorem dX1_place_177 : decode cX1_place 177 = .ok (.goto (-39), 3) := dk_167 255 217 (dk_at dksX1_place_7 14 rfl rfl)
theorem dX1_place_180 : decode cX1_place 180 = .ok (.iload_n 3, 1) := dk_29 (dk_at dksX1_place_7 17 rfl rfl)
theorem dX1_place_181 : decode cX1_place 181 = .ok (.ireturn, 1) := dk_172 (dk_at dksX1_place_7 18 rfl rfl)
theorem dX1_place_182 : decode cX1_place 182 = .ok (.aload_n 0, 1) := dk_42 (dk_at dksX1_place_7 19 rfl rfl)
theorem dX1_place_183 : decode cX1_place 183 = .ok (.iload_n 1, 1) := dk_27 (dk_at dksX1_place_7 20 rfl rfl)
theorem dX1_place_184 : decode cX1_place 184 = .ok (.invokevirtual 235, 3) := dk_182 0 235 (dk_at dksX1_place_7 21 rfl rfl)
theorem dX1_place_187 : decode cX1_place 187 = .ok (.ireturn, 1) := dk_172 (dk_at dksX1_place_8 0 rfl rfl)
theorem dX1_place_188 : decode cX1_place 188 = .ok (.aload_n 0, 1) := dk_42 (dk_at dksX1_place_8 1 rfl rfl)
theorem dX1_place_189 : decode cX1_place 189 = .ok (.getfield 37, 3) := dk_180 0 37 (dk_at dksX1_place_8 2 rfl rfl)
theorem dX1_place_192 : decode cX1_place 192 = .ok (.invokevirtual 114, 3) := dk_182 0 114 (dk_at dksX1_place_8 5 rfl rfl)
theorem dX1_place_195 : decode cX1_place 195 = .ok (.astore 4, 2) := dk_58 4 (dk_at dksX1_place_8 8 rfl rfl)
theorem dX1_place_197 : decode cX1_place 197 = .ok (.aload 4, 2) := dk_25 4 (dk_at dksX1_place_8 10 rfl rfl)
theorem dX1_place_199 : decode cX1_place 199 = .ok (.invokeinterface 118 1, 5) := by decide +kernel
theorem dX1_place_204 : decode cX1_place 204 = .ok (.ifCond .eq 35, 3) := dk_153 0 35 (dk_at dksX1_place_8 17 rfl rfl)
theorem dX1_place_207 : decode cX1_place 207 = .ok (.aload 4, 2) := dk_25 4 (dk_at dksX1_place_8 20 rfl rfl)
theorem dX1_place_209 : decode cX1_place 209 = .ok (.invokeinterface 124 1, 5) := by decide +kernel
theorem dX1_place_214 : decode cX1_place 214 = .ok (.checkcast 182, 3) := dk_192 0 182 (dk_at dksX1_place_9 5 rfl rfl)
theorem dX1_place_217 : decode cX1_place 217 = .ok (.astore 5, 2) := dk_58 5 (dk_at dksX1_place_9 8 rfl rfl)
theorem dX1_place_219 : decode cX1_place 219 = .ok (.iload_n 3, 1) := dk_29 (dk_at dksX1_place_9 10 rfl rfl)
theorem dX1_place_220 : decode cX1_place 220 = .ok (.aload 5, 2) := dk_25 5 (dk_at dksX1_place_9 11 rfl rfl)
theorem dX1_place_222 : decode cX1_place 222 = .ok (.getfield 184, 3) := dk_180 0 184 (dk_at dksX1_place_9 13 rfl rfl)
theorem dX1_place_225 : decode cX1_place 225 = .ok (.iload_n 1, 1) := dk_27 (dk_at dksX1_place_9 16 rfl rfl)
theorem dX1_place_226 : decode cX1_place 226 = .ok (.if_icmp .ne 7, 3) := dk_160 0 7 (dk_at dksX1_place_9 17 rfl rfl)
theorem dX1_place_229 : decode cX1_place 229 = .ok (.iconst 1, 1) := dk_4 (dk_at dksX1_place_9 20 rfl rfl)
theorem dX1_place_230 : decode cX1_place 230 = .ok (.goto 4, 3) := dk_167 0 4 (dk_at dksX1_place_9 21 rfl rfl)
theorem dX1_place_233 : decode cX1_place 233 = .ok (.iconst 0, 1) := dk_3 (dk_at dksX1_place_10 0 rfl rfl)
theorem dX1_place_234 : decode cX1_place 234 = .ok (.iadd, 1) := dk_96 (dk_at dksX1_place_10 1 rfl rfl)
theorem dX1_place_235 : decode cX1_place 235 = .ok (.istore_n 3, 1) := dk_62 (dk_at dksX1_place_10 2 rfl rfl)
theorem dX1_place_236 : decode cX1_place 236 = .ok (.goto (-39), 3) := dk_167 255 217 (dk_at dksX1_place_10 3 rfl rfl)
theorem dX1_place_239 : decode cX1_place 239 = .ok (.iload_n 3, 1) := dk_29 (dk_at dksX1_place_10 6 rfl rfl)
theorem dX1_place_240 : decode cX1_place 240 = .ok (.ireturn, 1) := dk_172 (dk_at dksX1_place_10 7 rfl rfl)
theorem dX1_place_241 : decode cX1_place 241 = .ok (.new 270, 3) := dk_187 1 14 (dk_at dksX1_place_10 8 rfl rfl)
theorem dX1_place_244 : decode cX1_place 244 = .ok (.dup, 1) := dk_89 (dk_at dksX1_place_10 11 rfl rfl)
theorem dX1_place_245 : decode cX1_place 245 = .ok (.invokespecial 272, 3) := dk_183 1 16 (dk_at dksX1_place_10 12 rfl rfl)
theorem dX1_place_248 : decode cX1_place 248 = .ok (.athrow, 1) := dk_191 (dk_at dksX1_place_10 15 rfl rfl)
def dkwX1_edge_6 : List UInt8 := [167, 255, 223, 3, 172, 187, 1, 14, 89, 183, 1, 16, 191]
abbrev dktX1_edge_6 : List UInt8 := dkwX1_edge_6 ++ []
def dkwX1_edge_5 : List UInt8 := [25, 4, 185, 0, 124, 1, 0, 192, 0, 182, 58, 5, 25, 5, 180, 0, 242, 27, 160, 0, 5, 4, 172]
abbrev dktX1_edge_5 : List UInt8 := dkwX1_edge_5 ++ dktX1_edge_6
def dkwX1_edge_4 : List UInt8 := [182, 0, 208, 172, 42, 180, 0, 37, 182, 0, 114, 58, 4, 25, 4, 185, 0, 118, 1, 0, 153, 0, 29]
abbrev dktX1_edge_4 : List UInt8 := dkwX1_edge_4 ++ dktX1_edge_5
def dkwX1_edge_3 : List UInt8 := [45, 180, 0, 215, 172, 45, 180, 0, 175, 172, 45, 180, 0, 164, 182, 0, 208, 172, 45, 180, 0, 169]
abbrev dktX1_edge_3 : List UInt8 := dkwX1_edge_3 ++ dktX1_edge_4
def dkwX1_edge_2 : List UInt8 := [170, 0, 0, 0, 0, 0, 0, 109, 0, 0, 0, 0, 0, 0, 0, 4, 0, 0, 0, 36, 0, 0, 0, 41, 0, 0, 0, 46, 0, 0, 0, 54, 0, 0, 0, 62]
abbrev dktX1_edge_2 : List UInt8 := dkwX1_edge_2 ++ dktX1_edge_3
def dkwX1_edge_1 : List UInt8 := [182, 0, 153, 192, 0, 165, 78, 28]
abbrev dktX1_edge_1 : List UInt8 := dkwX1_edge_1 ++ dktX1_edge_2
def dkwX1_edge_0 : List UInt8 := [42, 27, 182, 1, 17, 154, 0, 11, 187, 1, 11, 89, 183, 1, 13, 191, 42, 180, 0, 26, 180, 0, 212, 27]
abbrev dktX1_edge_0 : List UInt8 := dkwX1_edge_0 ++ dktX1_edge_1
theorem dksX1_edge_0 : cX1_edge.data.toList.drop 0 = dktX1_edge_0 := by decide +kernel
theorem dksX1_edge_1 : cX1_edge.data.toList.drop 24 = dktX1_edge_1 := dk_seg dksX1_edge_0 24 rfl rfl
theorem dksX1_edge_2 : cX1_edge.data.toList.drop 32 = dktX1_edge_2 := dk_seg dksX1_edge_1 8 rfl rfl
theorem dksX1_edge_3 : cX1_edge.data.toList.drop 68 = dktX1_edge_3 := dk_seg dksX1_edge_2 36 rfl rfl
theorem dksX1_edge_4 : cX1_edge.data.toList.drop 90 = dktX1_edge_4 := dk_seg dksX1_edge_3 22 rfl rfl
theorem dksX1_edge_5 : cX1_edge.data.toList.drop 113 = dktX1_edge_5 := dk_seg dksX1_edge_4 23 rfl rfl
theorem dksX1_edge_6 : cX1_edge.data.toList.drop 136 = dktX1_edge_6 := dk_seg dksX1_edge_5 23 rfl rfl
theorem dX1_edge_0 : decode cX1_edge 0 = .ok (.aload_n 0, 1) := dk_42 (dk_at dksX1_edge_0 0 rfl rfl)
theorem dX1_edge_1 : decode cX1_edge 1 = .ok (.iload_n 1, 1) := dk_27 (dk_at dksX1_edge_0 1 rfl rfl)
theorem dX1_edge_2 : decode cX1_edge 2 = .ok (.invokevirtual 273, 3) := dk_182 1 17 (dk_at dksX1_edge_0 2 rfl rfl)
theorem dX1_edge_5 : decode cX1_edge 5 = .ok (.ifCond .ne 11, 3) := dk_154 0 11 (dk_at dksX1_edge_0 5 rfl rfl)
theorem dX1_edge_8 : decode cX1_edge 8 = .ok (.new 267, 3) := dk_187 1 11 (dk_at dksX1_edge_0 8 rfl rfl)
theorem dX1_edge_11 : decode cX1_edge 11 = .ok (.dup, 1) := dk_89 (dk_at dksX1_edge_0 11 rfl rfl)
theorem dX1_edge_12 : decode cX1_edge 12 = .ok (.invokespecial 269, 3) := dk_183 1 13 (dk_at dksX1_edge_0 12 rfl rfl)
theorem dX1_edge_15 : decode cX1_edge 15 = .ok (.athrow, 1) := dk_191 (dk_at dksX1_edge_0 15 rfl rfl)
theorem dX1_edge_16 : decode cX1_edge 16 = .ok (.aload_n 0, 1) := dk_42 (dk_at dksX1_edge_0 16 rfl rfl)
theorem dX1_edge_17 : decode cX1_edge 17 = .ok (.getfield 26, 3) := dk_180 0 26 (dk_at dksX1_edge_0 17 rfl rfl)
theorem dX1_edge_20 : decode cX1_edge 20 = .ok (.getfield 212, 3) := dk_180 0 212 (dk_at dksX1_edge_0 20 rfl rfl)
theorem dX1_edge_23 : decode cX1_edge 23 = .ok (.iload_n 1, 1) := dk_27 (dk_at dksX1_edge_0 23 rfl rfl)
theorem dX1_edge_24 : decode cX1_edge 24 = .ok (.invokevirtual 153, 3) := dk_182 0 153 (dk_at dksX1_edge_1 0 rfl rfl)
theorem dX1_edge_27 : decode cX1_edge 27 = .ok (.checkcast 165, 3) := dk_192 0 165 (dk_at dksX1_edge_1 3 rfl rfl)
theorem dX1_edge_30 : decode cX1_edge 30 = .ok (.astore_n 3, 1) := dk_78 (dk_at dksX1_edge_1 6 rfl rfl)
theorem dX1_edge_31 : decode cX1_edge 31 = .ok (.iload_n 2, 1) := dk_28 (dk_at dksX1_edge_1 7 rfl rfl)
theorem dX1_edge_32 : decode cX1_edge 32 = .ok (.tableswitch 109 0 4 #[36, 41, 46, 54, 62], 36) := by decide +kernel
theorem dX1_edge_68 : decode cX1_edge 68 = .ok (.aload_n 3, 1) := dk_45 (dk_at dksX1_edge_3 0 rfl rfl)
theorem dX1_edge_69 : decode cX1_edge 69 = .ok (.getfield 215, 3) := dk_180 0 215 (dk_at dksX1_edge_3 1 rfl rfl)
theorem dX1_edge_72 : decode cX1_edge 72 = .ok (.ireturn, 1) := dk_172 (dk_at dksX1_edge_3 4 rfl rfl)
theorem dX1_edge_73 : decode cX1_edge 73 = .ok (.aload_n 3, 1) := dk_45 (dk_at dksX1_edge_3 5 rfl rfl)
theorem dX1_edge_74 : decode cX1_edge 74 = .ok (.getfield 175, 3) := dk_180 0 175 (dk_at dksX1_edge_3 6 rfl rfl)
theorem dX1_edge_77 : decode cX1_edge 77 = .ok (.ireturn, 1) := dk_172 (dk_at dksX1_edge_3 9 rfl rfl)
theorem dX1_edge_78 : decode cX1_edge 78 = .ok (.aload_n 3, 1) := dk_45 (dk_at dksX1_edge_3 10 rfl rfl)
theorem dX1_edge_79 : decode cX1_edge 79 = .ok (.getfield 164, 3) := dk_180 0 164 (dk_at dksX1_edge_3 11 rfl rfl)
theorem dX1_edge_82 : decode cX1_edge 82 = .ok (.invokevirtual 208, 3) := dk_182 0 208 (dk_at dksX1_edge_3 14 rfl rfl)
theorem dX1_edge_85 : decode cX1_edge 85 = .ok (.ireturn, 1) := dk_172 (dk_at dksX1_edge_3 17 rfl rfl)
theorem dX1_edge_86 : decode cX1_edge 86 = .ok (.aload_n 3, 1) := dk_45 (dk_at dksX1_edge_3 18 rfl rfl)
theorem dX1_edge_87 : decode cX1_edge 87 = .ok (.getfield 169, 3) := dk_180 0 169 (dk_at dksX1_edge_3 19 rfl rfl)
theorem dX1_edge_90 : decode cX1_edge 90 = .ok (.invokevirtual 208, 3) := dk_182 0 208 (dk_at dksX1_edge_4 0 rfl rfl)
theorem dX1_edge_93 : decode cX1_edge 93 = .ok (.ireturn, 1) := dk_172 (dk_at dksX1_edge_4 3 rfl rfl)
theorem dX1_edge_94 : decode cX1_edge 94 = .ok (.aload_n 0, 1) := dk_42 (dk_at dksX1_edge_4 4 rfl rfl)
theorem dX1_edge_95 : decode cX1_edge 95 = .ok (.getfield 37, 3) := dk_180 0 37 (dk_at dksX1_edge_4 5 rfl rfl)
theorem dX1_edge_98 : decode cX1_edge 98 = .ok (.invokevirtual 114, 3) := dk_182 0 114 (dk_at dksX1_edge_4 8 rfl rfl)
theorem dX1_edge_101 : decode cX1_edge 101 = .ok (.astore 4, 2) := dk_58 4 (dk_at dksX1_edge_4 11 rfl rfl)
theorem dX1_edge_103 : decode cX1_edge 103 = .ok (.aload 4, 2) := dk_25 4 (dk_at dksX1_edge_4 13 rfl rfl)
theorem dX1_edge_105 : decode cX1_edge 105 = .ok (.invokeinterface 118 1, 5) := by decide +kernel
theorem dX1_edge_110 : decode cX1_edge 110 = .ok (.ifCond .eq 29, 3) := dk_153 0 29 (dk_at dksX1_edge_4 20 rfl rfl)
theorem dX1_edge_113 : decode cX1_edge 113 = .ok (.aload 4, 2) := dk_25 4 (dk_at dksX1_edge_5 0 rfl rfl)
theorem dX1_edge_115 : decode cX1_edge 115 = .ok (.invokeinterface 124 1, 5) := by decide +kernel
theorem dX1_edge_120 : decode cX1_edge 120 = .ok (.checkcast 182, 3) := dk_192 0 182 (dk_at dksX1_edge_5 7 rfl rfl)
theorem dX1_edge_123 : decode cX1_edge 123 = .ok (.astore 5, 2) := dk_58 5 (dk_at dksX1_edge_5 10 rfl rfl)
theorem dX1_edge_125 : decode cX1_edge 125 = .ok (.aload 5, 2) := dk_25 5 (dk_at dksX1_edge_5 12 rfl rfl)
theorem dX1_edge_127 : decode cX1_edge 127 = .ok (.getfield 242, 3) := dk_180 0 242 (dk_at dksX1_edge_5 14 rfl rfl)
theorem dX1_edge_130 : decode cX1_edge 130 = .ok (.iload_n 1, 1) := dk_27 (dk_at dksX1_edge_5 17 rfl rfl)
theorem dX1_edge_131 : decode cX1_edge 131 = .ok (.if_icmp .ne 5, 3) := dk_160 0 5 (dk_at dksX1_edge_5 18 rfl rfl)
theorem dX1_edge_134 : decode cX1_edge 134 = .ok (.iconst 1, 1) := dk_4 (dk_at dksX1_edge_5 21 rfl rfl)
theorem dX1_edge_135 : decode cX1_edge 135 = .ok (.ireturn, 1) := dk_172 (dk_at dksX1_edge_5 22 rfl rfl)
theorem dX1_edge_136 : decode cX1_edge 136 = .ok (.goto (-33), 3) := dk_167 255 223 (dk_at dksX1_edge_6 0 rfl rfl)
theorem dX1_edge_139 : decode cX1_edge 139 = .ok (.iconst 0, 1) := dk_3 (dk_at dksX1_edge_6 3 rfl rfl)
theorem dX1_edge_140 : decode cX1_edge 140 = .ok (.ireturn, 1) := dk_172 (dk_at dksX1_edge_6 4 rfl rfl)
theorem dX1_edge_141 : decode cX1_edge 141 = .ok (.new 270, 3) := dk_187 1 14 (dk_at dksX1_edge_6 5 rfl rfl)
theorem dX1_edge_144 : decode cX1_edge 144 = .ok (.dup, 1) := dk_89 (dk_at dksX1_edge_6 8 rfl rfl)
theorem dX1_edge_145 : decode cX1_edge 145 = .ok (.invokespecial 272, 3) := dk_183 1 16 (dk_at dksX1_edge_6 9 rfl rfl)
theorem dX1_edge_148 : decode cX1_edge 148 = .ok (.athrow, 1) := dk_191 (dk_at dksX1_edge_6 12 rfl rfl)
