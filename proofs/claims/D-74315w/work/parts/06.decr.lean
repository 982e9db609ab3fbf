set_option maxRecDepth 100000
def dkwX0_place_0 : List UInt8 := [45, 3, 42, 27, 28, 182, 0, 7, 133, 80, 167, 0, 11, 58, 4, 4, 172, 58, 4, 5, 172, 3, 172]
abbrev dktX0_place_0 : List UInt8 := dkwX0_place_0 ++ []
theorem dksX0_place_0 : cX0_place.data.toList.drop 0 = dktX0_place_0 := by decide +kernel
theorem dX0_place_0 : decode cX0_place 0 = .ok (.aload_n 3, 1) := dk_45 (dk_at dksX0_place_0 0 rfl rfl)
theorem dX0_place_1 : decode cX0_place 1 = .ok (.iconst 0, 1) := dk_3 (dk_at dksX0_place_0 1 rfl rfl)
theorem dX0_place_2 : decode cX0_place 2 = .ok (.aload_n 0, 1) := dk_42 (dk_at dksX0_place_0 2 rfl rfl)
theorem dX0_place_3 : decode cX0_place 3 = .ok (.iload_n 1, 1) := dk_27 (dk_at dksX0_place_0 3 rfl rfl)
theorem dX0_place_4 : decode cX0_place 4 = .ok (.iload_n 2, 1) := dk_28 (dk_at dksX0_place_0 4 rfl rfl)
theorem dX0_place_5 : decode cX0_place 5 = .ok (.invokevirtual 7, 3) := dk_182 0 7 (dk_at dksX0_place_0 5 rfl rfl)
theorem dX0_place_8 : decode cX0_place 8 = .ok (.i2l, 1) := dk_133 (dk_at dksX0_place_0 8 rfl rfl)
theorem dX0_place_9 : decode cX0_place 9 = .ok (.lastore, 1) := dk_80 (dk_at dksX0_place_0 9 rfl rfl)
theorem dX0_place_10 : decode cX0_place 10 = .ok (.goto 11, 3) := dk_167 0 11 (dk_at dksX0_place_0 10 rfl rfl)
theorem dX0_place_13 : decode cX0_place 13 = .ok (.astore 4, 2) := dk_58 4 (dk_at dksX0_place_0 13 rfl rfl)
theorem dX0_place_15 : decode cX0_place 15 = .ok (.iconst 1, 1) := dk_4 (dk_at dksX0_place_0 15 rfl rfl)
theorem dX0_place_16 : decode cX0_place 16 = .ok (.ireturn, 1) := dk_172 (dk_at dksX0_place_0 16 rfl rfl)
theorem dX0_place_17 : decode cX0_place 17 = .ok (.astore 4, 2) := dk_58 4 (dk_at dksX0_place_0 17 rfl rfl)
theorem dX0_place_19 : decode cX0_place 19 = .ok (.iconst 2, 1) := dk_5 (dk_at dksX0_place_0 19 rfl rfl)
theorem dX0_place_20 : decode cX0_place 20 = .ok (.ireturn, 1) := dk_172 (dk_at dksX0_place_0 20 rfl rfl)
theorem dX0_place_21 : decode cX0_place 21 = .ok (.iconst 0, 1) := dk_3 (dk_at dksX0_place_0 21 rfl rfl)
theorem dX0_place_22 : decode cX0_place 22 = .ok (.ireturn, 1) := dk_172 (dk_at dksX0_place_0 22 rfl rfl)
def dkwX0_edge_0 : List UInt8 := [45, 3, 42, 27, 28, 182, 0, 17, 133, 80, 167, 0, 11, 58, 4, 4, 172, 58, 4, 5, 172, 3, 172]
abbrev dktX0_edge_0 : List UInt8 := dkwX0_edge_0 ++ []
theorem dksX0_edge_0 : cX0_edge.data.toList.drop 0 = dktX0_edge_0 := by decide +kernel
theorem dX0_edge_0 : decode cX0_edge 0 = .ok (.aload_n 3, 1) := dk_45 (dk_at dksX0_edge_0 0 rfl rfl)
theorem dX0_edge_1 : decode cX0_edge 1 = .ok (.iconst 0, 1) := dk_3 (dk_at dksX0_edge_0 1 rfl rfl)
theorem dX0_edge_2 : decode cX0_edge 2 = .ok (.aload_n 0, 1) := dk_42 (dk_at dksX0_edge_0 2 rfl rfl)
theorem dX0_edge_3 : decode cX0_edge 3 = .ok (.iload_n 1, 1) := dk_27 (dk_at dksX0_edge_0 3 rfl rfl)
theorem dX0_edge_4 : decode cX0_edge 4 = .ok (.iload_n 2, 1) := dk_28 (dk_at dksX0_edge_0 4 rfl rfl)
theorem dX0_edge_5 : decode cX0_edge 5 = .ok (.invokevirtual 17, 3) := dk_182 0 17 (dk_at dksX0_edge_0 5 rfl rfl)
theorem dX0_edge_8 : decode cX0_edge 8 = .ok (.i2l, 1) := dk_133 (dk_at dksX0_edge_0 8 rfl rfl)
theorem dX0_edge_9 : decode cX0_edge 9 = .ok (.lastore, 1) := dk_80 (dk_at dksX0_edge_0 9 rfl rfl)
theorem dX0_edge_10 : decode cX0_edge 10 = .ok (.goto 11, 3) := dk_167 0 11 (dk_at dksX0_edge_0 10 rfl rfl)
theorem dX0_edge_13 : decode cX0_edge 13 = .ok (.astore 4, 2) := dk_58 4 (dk_at dksX0_edge_0 13 rfl rfl)
theorem dX0_edge_15 : decode cX0_edge 15 = .ok (.iconst 1, 1) := dk_4 (dk_at dksX0_edge_0 15 rfl rfl)
theorem dX0_edge_16 : decode cX0_edge 16 = .ok (.ireturn, 1) := dk_172 (dk_at dksX0_edge_0 16 rfl rfl)
theorem dX0_edge_17 : decode cX0_edge 17 = .ok (.astore 4, 2) := dk_58 4 (dk_at dksX0_edge_0 17 rfl rfl)
theorem dX0_edge_19 : decode cX0_edge 19 = .ok (.iconst 2, 1) := dk_5 (dk_at dksX0_edge_0 19 rfl rfl)
theorem dX0_edge_20 : decode cX0_edge 20 = .ok (.ireturn, 1) := dk_172 (dk_at dksX0_edge_0 20 rfl rfl)
theorem dX0_edge_21 : decode cX0_edge 21 = .ok (.iconst 0, 1) := dk_3 (dk_at dksX0_edge_0 21 rfl rfl)
theorem dX0_edge_22 : decode cX0_edge 22 = .ok (.ireturn, 1) := dk_172 (dk_at dksX0_edge_0 22 rfl rfl)
def dkwX2_init_2 : List UInt8 := [181, 0, 22, 177]
abbrev dktX2_init_2 : List UInt8 := dkwX2_init_2 ++ []
def dkwX2_init_1 : List UInt8 := [181, 0, 16, 42, 187, 0, 7, 89, 183, 0, 9, 181, 0, 19, 42, 187, 0, 7, 89, 183, 0, 9]
abbrev dktX2_init_1 : List UInt8 := dkwX2_init_1 ++ dktX2_init_2
def dkwX2_init_0 : List UInt8 := [42, 183, 0, 1, 42, 187, 0, 7, 89, 183, 0, 9, 181, 0, 10, 42, 187, 0, 7, 89, 183, 0, 9]
abbrev dktX2_init_0 : List UInt8 := dkwX2_init_0 ++ dktX2_init_1
theorem dksX2_init_0 : cX2_init.data.toList.drop 0 = dktX2_init_0 := by decide +kernel
theorem dksX2_init_1 : cX2_init.data.toList.drop 23 = dktX2_init_1 := dk_seg dksX2_init_0 23 rfl rfl
theorem dksX2_init_2 : cX2_init.data.toList.drop 45 = dktX2_init_2 := dk_seg dksX2_init_1 22 rfl rfl
theorem dX2_init_0 : decode cX2_init 0 = .ok (.aload_n 0, 1) := dk_42 (dk_at dksX2_init_0 0 rfl rfl)
theorem dX2_init_1 : decode cX2_init 1 = .ok (.invokespecial 1, 3) := dk_183 0 1 (dk_at dksX2_init_0 1 rfl rfl)
theorem dX2_init_4 : decode cX2_init 4 = .ok (.aload_n 0, 1) := dk_42 (dk_at dksX2_init_0 4 rfl rfl)
theorem dX2_init_5 : decode cX2_init 5 = .ok (.new 7, 3) := dk_187 0 7 (dk_at dksX2_init_0 5 rfl rfl)
theorem dX2_init_8 : decode cX2_init 8 = .ok (.dup, 1) := dk_89 (dk_at dksX2_init_0 8 rfl rfl)
theorem dX2_init_9 : decode cX2_init 9 = .ok (.invokespecial 9, 3) := dk_183 0 9 (dk_at dksX2_init_0 9 rfl rfl)
theorem dX2_init_12 : decode cX2_init 12 = .ok (.putfield 10, 3) := dk_181 0 10 (dk_at dksX2_init_0 12 rfl rfl)
theorem dX2_init_15 : decode cX2_init 15 = .ok (.aload_n 0, 1) := dk_42 (dk_at dksX2_init_0 15 rfl rfl)
theorem dX2_init_16 : decode cX2_init 16 = .ok (.new 7, 3) := dk_187 0 7 (dk_at dksX2_init_0 16 rfl rfl)
theorem dX2_init_19 : decode cX2_init 19 = .ok (.dup, 1) := dk_89 (dk_at dksX2_init_0 19 rfl rfl)
theorem dX2_init_20 : decode cX2_init 20 = .ok (.invokespecial 9, 3) := dk_183 0 9 (dk_at dksX2_init_0 20 rfl rfl)
theorem dX2_init_23 : decode cX2_init 23 = .ok (.putfield 16, 3) := dk_181 0 16 (dk_at dksX2_init_1 0 rfl rfl)
theorem dX2_init_26 : decode cX2_init 26 = .ok (.aload_n 0, 1) := dk_42 (dk_at dksX2_init_1 3 rfl rfl)
theorem dX2_init_27 : decode cX2_init 27 = .ok (.new 7, 3) := dk_187 0 7 (dk_at dksX2_init_1 4 rfl rfl)
theorem dX2_init_30 : decode cX2_init 30 = .ok (.dup, 1) := dk_89 (dk_at dksX2_init_1 7 rfl rfl)
theorem dX2_init_31 : decode cX2_init 31 = .ok (.invokespecial 9, 3) := dk_183 0 9 (dk_at dksX2_init_1 8 rfl rfl)
theorem dX2_init_34 : decode cX2_init 34 = .ok (.putfield 19, 3) := dk_181 0 19 (dk_at dksX2_init_1 11 rfl rfl)
theorem dX2_init_37 : decode cX2_init 37 = .ok (.aload_n 0, 1) := dk_42 (dk_at dksX2_init_1 14 rfl rfl)
theorem dX2_init_38 : decode cX2_init 38 = .ok (.new 7, 3) := dk_187 0 7 (dk_at dksX2_init_1 15 rfl rfl)
theorem dX2_init_41 : decode cX2_init 41 = .ok (.dup, 1) := dk_89 (dk_at dksX2_init_1 18 rfl rfl)
theorem dX2_init_42 : decode cX2_init 42 = .ok (.invokespecial 9, 3) := dk_183 0 9 (dk_at dksX2_init_1 19 rfl rfl)
theorem dX2_init_45 : decode cX2_init 45 = .ok (.putfield 22, 3) := dk_181 0 22 (dk_at dksX2_init_2 0 rfl rfl)
theorem dX2_init_48 : decode cX2_init 48 = .ok (.return_, 1) := dk_177 (dk_at dksX2_init_2 3 rfl rfl)
def dkwX2_size_0 : List UInt8 := [42, 180, 0, 10, 182, 0, 25, 4, 96, 172]
abbrev dktX2_size_0 : List UInt8 := dkwX2_size_0 ++ []
theorem dksX2_size_0 : cX2_size.data.toList.drop 0 = dktX2_size_0 := by decide +kernel
theorem dX2_size_0 : decode cX2_size 0 = .ok (.aload_n 0, 1) := dk_42 (dk_at dksX2_size_0 0 rfl rfl)
theorem dX2_size_1 : decode cX2_size 1 = .ok (.getfield 10, 3) := dk_180 0 10 (dk_at dksX2_size_0 1 rfl rfl)
theorem dX2_size_4 : decode cX2_size 4 = .ok (.invokevirtual 25, 3) := dk_182 0 25 (dk_at dksX2_size_0 4 rfl rfl)
theorem dX2_size_7 : decode cX2_size 7 = .ok (.iconst 1, 1) := dk_4 (dk_at dksX2_size_0 7 rfl rfl)
theorem dX2_size_8 : decode cX2_size 8 = .ok (.iadd, 1) := dk_96 (dk_at dksX2_size_0 8 rfl rfl)
theorem dX2_size_9 : decode cX2_size 9 = .ok (.ireturn, 1) := dk_172 (dk_at dksX2_size_0 9 rfl rfl)
def dkwX2_greats_3 : List UInt8 := [45, 180, 0, 50, 184, 0, 44, 43, 45, 180, 0, 53, 184, 0, 44, 167, 255, 221, 43, 176]
abbrev dktX2_greats_3 : List UInt8 := dkwX2_greats_3 ++ []
def dkwX2_greats_2 : List UInt8 := [182, 0, 30, 77, 44, 185, 0, 34, 1, 0, 153, 0, 32, 44, 185, 0, 40, 1, 0, 192, 0, 48, 78, 43]
abbrev dktX2_greats_2 : List UInt8 := dkwX2_greats_2 ++ dktX2_greats_3
def dkwX2_greats_1 : List UInt8 := [44, 185, 0, 40, 1, 0, 192, 0, 7, 78, 43, 45, 184, 0, 44, 167, 255, 232, 42, 180, 0, 22]
abbrev dktX2_greats_1 : List UInt8 := dkwX2_greats_1 ++ dktX2_greats_2
def dkwX2_greats_0 : List UInt8 := [42, 182, 0, 29, 188, 10, 76, 42, 180, 0, 19, 182, 0, 30, 77, 44, 185, 0, 34, 1, 0, 153, 0, 21]
abbrev dktX2_greats_0 : List UInt8 := dkwX2_greats_0 ++ dktX2_greats_1
theorem dksX2_greats_0 : cX2_greats.data.toList.drop 0 = dktX2_greats_0 := by decide +kernel
theorem dksX2_greats_1 : cX2_greats.data.toList.drop 24 = dktX2_greats_1 := dk_seg dksX2_greats_0 24 rfl rfl
theorem dksX2_greats_2 : cX2_greats.data.toList.drop 46 = dktX2_greats_2 := dk_seg dksX2_greats_1 22 rfl rfl
theorem dksX2_greats_3 : cX2_greats.data.toList.drop 70 = dktX2_greats_3 := dk_seg dksX2_greats_2 24 rfl rfl
theorem dX2_greats_0 : decode cX2_greats 0 = .ok (.aload_n 0, 1) := dk_42 (dk_at dksX2_greats_0 0 rfl rfl)
theorem dX2_greats_1 : decode cX2_greats 1 = .ok (.invokevirtual 29, 3) := dk_182 0 29 (dk_at dksX2_greats_0 1 rfl rfl)
theorem dX2_greats_4 : decode cX2_greats 4 = .ok (.newarray .int, 2) := dk_188_10 (dk_at dksX2_greats_0 4 rfl rfl)
theorem dX2_greats_6 : decode cX2_greats 6 = .ok (.astore_n 1, 1) := dk_76 (dk_at dksX2_greats_0 6 rfl rfl)
theorem dX2_greats_7 : decode cX2_greats 7 = .ok (.aload_n 0, 1) := dk_42 (dk_at dksX2_greats_0 7 rfl rfl)
theorem dX2_greats_8 : decode cX2_greats 8 = .ok (.getfield 19, 3) := dk_180 0 19 (dk_at dksX2_greats_0 8 rfl rfl)
theorem dX2_greats_11 : decode cX2_greats 11 = .ok (.invokevirtual 30, 3) := dk_182 0 30 (dk_at dksX2_greats_0 11 rfl rfl)
theorem dX2_greats_14 : decode cX2_greats 14 = .ok (.astore_n 2, 1) := dk_77 (dk_at dksX2_greats_0 14 rfl rfl)
theorem dX2_greats_15 : decode cX2_greats 15 = .ok (.aload_n 2, 1) := dk_44 (dk_at dksX2_greats_0 15 rfl rfl)
theorem dX2_greats_16 : decode cX2_greats 16 = .ok (.invokeinterface 34 1, 5) := by decide +kernel
theorem dX2_greats_21 : decode cX2_greats 21 = .ok (.ifCond .eq 21, 3) := dk_153 0 21 (dk_at dksX2_greats_0 21 rfl rfl)
theorem dX2_greats_24 : decode cX2_greats 24 = .ok (.aload_n 2, 1) := dk_44 (dk_at dksX2_greats_1 0 rfl rfl)
theorem dX2_greats_25 : decode cX2_greats 25 = .ok (.invokeinterface 40 1, 5) := by decide +kernel
theorem dX2_greats_30 : decode cX2_greats 30 = .ok (.checkcast 7, 3) := dk_192 0 7 (dk_at dksX2_greats_1 6 rfl rfl)
theorem dX2_greats_33 : decode cX2_greats 33 = .ok (.astore_n 3, 1) := dk_78 (dk_at dksX2_greats_1 9 rfl rfl)
theorem dX2_greats_34 : decode cX2_greats 34 = .ok (.aload_n 1, 1) := dk_43 (dk_at dksX2_greats_1 10 rfl rfl)
theorem dX2_greats_35 : decode cX2_greats 35 = .ok (.aload_n 3, 1) := dk_45 (dk_at dksX2_greats_1 11 rfl rfl)
theorem dX2_greats_36 : decode cX2_greats 36 = .ok (.invokestatic 44, 3) := dk_184 0 44 (dk_at dksX2_greats_1 12 rfl rfl)
theorem dX2_greats_39 : decode cX2_greats 39 = .ok (.goto (-24), 3) := dk_167 255 232 (dk_at dksX2_greats_1 15 rfl rfl)
theorem dX2_greats_42 : decode cX2_greats 42 = .ok (.aload_n 0, 1) := dk_42 (dk_at dksX2_greats_1 18 rfl rfl)
theorem dX2_greats_43 : decode cX2_greats 43 = .ok (.getfield 22, 3) := dk_180 0 22 (dk_at dksX2_greats_1 19 rfl rfl)
theorem dX2_greats_46 : decode cX2_greats 46 = .ok (.invokevirtual 30, 3) := dk_182 0 30 (dk_at dksX2_greats_2 0 rfl rfl)
theorem dX2_greats_49 : decode cX2_greats 49 = .ok (.astore_n 2, 1) := dk_77 (dk_at dksX2_greats_2 3 rfl rfl)
theorem dX2_greats_50 : decode cX2_greats 50 = .ok (.aload_n 2, 1) := dk_44 (dk_at dksX2_greats_2 4 rfl rfl)
theorem dX2_greats_51 : decode cX2_greats 51 = .ok (.invokeinterface 34 1, 5) := by decide +kernel
theorem dX2_greats_56 : decode cX2_greats 56 = .ok (.ifCond .eq 32, 3) := dk_153 0 32 (dk_at dksX2_greats_2 10 rfl rfl)
theorem dX2_greats_59 : decode cX2_greats 59 = .ok (.aload_n 2, 1) := dk_44 (dk_at dksX2_greats_2 13 rfl rfl)
theorem dX2_greats_60 : decode cX2_greats 60 = .ok (.invokeinterface 40 1, 5) := by decide +kernel
theorem dX2_greats_65 : decode cX2_greats 65 = .ok (.checkcast 48, 3) := dk_192 0 48 (dk_at dksX2_greats_2 19 rfl rfl)
theorem dX2_greats_68 : decode cX2_greats 68 = .ok (.astore_n 3, 1) := dk_78 (dk_at dksX2_greats_2 22 rfl rfl)
theorem dX2_greats_69 : decode cX2_greats 69 = .ok (.aload_n 1, 1) := dk_43 (dk_at dksX2_greats_2 23 rfl rfl)
theorem dX2_greats_70 : decode cX2_greats 70 = .ok (.aload_n 3, 1) := dk_45 (dk_at dksX2_greats_3 0 rfl rfl)
theorem dX2_greats_71 : decode cX2_greats 71 = .ok (.getfield 50, 3) := dk_180 0 50 (dk_at dksX2_greats_3 1 rfl rfl)
theorem dX2_greats_74 : decode cX2_greats 74 = .ok (.invokestatic 44, 3) := dk_184 0 44 (dk_at dksX2_greats_3 4 rfl rfl)
theorem dX2_greats_77 : decode cX2_greats 77 = .ok (.aload_n 1, 1) := dk_43 (dk_at dksX2_greats_3 7 rfl rfl)
theorem dX2_greats_78 : decode cX2_greats 78 = .ok (.aload_n 3, 1) := dk_45 (dk_at dksX2_greats_3 8 rfl rfl)
theorem dX2_greats_79 : decode cX2_greats 79 = .ok (.getfield 53, 3) := dk_180 0 53 (dk_at dksX2_greats_3 9 rfl rfl)
theorem dX2_greats_82 : decode cX2_greats 82 = .ok (.invokestatic 44, 3) := dk_184 0 44 (dk_at dksX2_greats_3 12 rfl rfl)
theorem dX2_greats_85 : decode cX2_greats 85 = .ok (.goto (-35), 3) := dk_167 255 221 (dk_at dksX2_greats_3 15 rfl rfl)
theorem dX2_greats_88 : decode cX2_greats 88 = .ok (.aload_n 1, 1) := dk_43 (dk_at dksX2_greats_3 18 rfl rfl)
theorem dX2_greats_89 : decode cX2_greats 89 = .ok (.areturn, 1) := dk_176 (dk_at dksX2_greats_3 19 rfl rfl)
def dkwX2_greatest_2 : List UInt8 := [167, 255, 214, 177]
abbrev dktX2_greatest_2 : List UInt8 := dkwX2_greatest_2 ++ []
def dkwX2_greatest_1 : List UInt8 := [42, 45, 180, 0, 58, 4, 96, 42, 45, 180, 0, 58, 4, 96, 46, 45, 180, 0, 62, 184, 0, 65, 79]
abbrev dktX2_greatest_1 : List UInt8 := dkwX2_greatest_1 ++ dktX2_greatest_2
def dkwX2_greatest_0 : List UInt8 := [43, 182, 0, 30, 77, 44, 185, 0, 34, 1, 0, 153, 0, 39, 44, 185, 0, 40, 1, 0, 192, 0, 56, 78]
abbrev dktX2_greatest_0 : List UInt8 := dkwX2_greatest_0 ++ dktX2_greatest_1
theorem dksX2_greatest_0 : cX2_greatest.data.toList.drop 0 = dktX2_greatest_0 := by decide +kernel
theorem dksX2_greatest_1 : cX2_greatest.data.toList.drop 24 = dktX2_greatest_1 := dk_seg dksX2_greatest_0 24 rfl rfl
theorem dksX2_greatest_2 : cX2_greatest.data.toList.drop 47 = dktX2_greatest_2 := dk_seg dksX2_greatest_1 23 rfl rfl
theorem dX2_greatest_0 : decode cX2_greatest 0 = .ok (.aload_n 1, 1) := dk_43 (dk_at dksX2_greatest_0 0 rfl rfl)
theorem dX2_greatest_1 : decode cX2_greatest 1 = .ok (.invokevirtual 30, 3) := dk_182 0 30 (dk_at dksX2_greatest_0 1 rfl rfl)
theorem dX2_greatest_4 : decode cX2_greatest 4 = .ok (.astore_n 2, 1) := dk_77 (dk_at dksX2_greatest_0 4 rfl rfl)
theorem dX2_greatest_5 : decode cX2_greatest 5 = .ok (.aload_n 2, 1) := dk_44 (dk_at dksX2_greatest_0 5 rfl rfl)
theorem dX2_greatest_6 : decode cX2_greatest 6 = .ok (.invokeinterface 34 1, 5) := by decide +kernel
theorem dX2_greatest_11 : decode cX2_greatest 11 = .ok (.ifCond .eq 39, 3) := dk_153 0 39 (dk_at dksX2_greatest_0 11 rfl rfl)
theorem dX2_greatest_14 : decode cX2_greatest 14 = .ok (.aload_n 2, 1) := dk_44 (dk_at dksX2_greatest_0 14 rfl rfl)
theorem dX2_greatest_15 : decode cX2_greatest 15 = .ok (.invokeinterface 40 1, 5) := by decide +kernel
theorem dX2_greatest_20 : decode cX2_greatest 20 = .ok (.checkcast 56, 3) := dk_192 0 56 (dk_at dksX2_greatest_0 20 rfl rfl)
theorem dX2_greatest_23 : decode cX2_greatest 23 = .ok (.astore_n 3, 1) := dk_78 (dk_at dksX2_greatest_0 23 rfl rfl)
theorem dX2_greatest_24 : decode cX2_greatest 24 = .ok (.aload_n 0, 1) := dk_42 (dk_at dksX2_greatest_1 0 rfl rfl)
theorem dX2_greatest_25 : decode cX2_greatest 25 = .ok (.aload_n 3, 1) := dk_45 (dk_at dksX2_greatest_1 1 rfl rfl)
theorem dX2_greatest_26 : decode cX2_greatest 26 = .ok (.getfield 58, 3) := dk_180 0 58 (dk_at dksX2_greatest_1 2 rfl rfl)
theorem dX2_greatest_29 : decode cX2_greatest 29 = .ok (.iconst 1, 1) := dk_4 (dk_at dksX2_greatest_1 5 rfl rfl)
theorem dX2_greatest_30 : decode cX2_greatest 30 = .ok (.iadd, 1) := dk_96 (dk_at dksX2_greatest_1 6 rfl rfl)
theorem dX2_greatest_31 : decode cX2_greatest 31 = .ok (.aload_n 0, 1) := dk_42 (dk_at dksX2_greatest_1 7 rfl rfl)
theorem dX2_greatest_32 : decode cX2_greatest 32 = .ok (.aload_n 3, 1) := dk_45 (dk_at dksX2_greatest_1 8 rfl rfl)
theorem dX2_greatest_33 : decode cX2_greatest 33 = .ok (.getfield 58, 3) := dk_180 0 58 (dk_at dksX2_greatest_1 9 rfl rfl)
theorem dX2_greatest_36 : decode cX2_greatest 36 = .ok (.iconst 1, 1) := dk_4 (dk_at dksX2_greatest_1 12 rfl rfl)
theorem dX2_greatest_37 : decode cX2_greatest 37 = .ok (.iadd, 1) := dk_96 (dk_at dksX2_greatest_1 13 rfl rfl)
theorem dX2_greatest_38 : decode cX2_greatest 38 = .ok (.iaload, 1) := dk_46 (dk_at dksX2_greatest_1 14 rfl rfl)
theorem dX2_greatest_39 : decode cX2_greatest 39 = .ok (.aload_n 3, 1) := dk_45 (dk_at dksX2_greatest_1 15 rfl rfl)
theorem dX2_greatest_40 : decode cX2_greatest 40 = .ok (.getfield 62, 3) := dk_180 0 62 (dk_at dksX2_greatest_1 16 rfl rfl)
theorem dX2_greatest_43 : decode cX2_greatest 43 = .ok (.invokestatic 65, 3) := dk_184 0 65 (dk_at dksX2_greatest_1 19 rfl rfl)
theorem dX2_greatest_46 : decode cX2_greatest 46 = .ok (.iastore, 1) := dk_79 (dk_at dksX2_greatest_1 22 rfl rfl)
theorem dX2_greatest_47 : decode cX2_greatest 47 = .ok (.goto (-42), 3) := dk_167 255 214 (dk_at dksX2_greatest_2 0 rfl rfl)
theorem dX2_greatest_50 : decode cX2_greatest 50 = .ok (.return_, 1) := dk_177 (dk_at dksX2_greatest_2 3 rfl rfl)
def dkwX3_init_1 : List UInt8 := [178, 0, 19, 184, 0, 22, 177]
abbrev dktX3_init_1 : List UInt8 := dkwX3_init_1 ++ []
def dkwX3_init_0 : List UInt8 := [42, 183, 0, 3, 42, 27, 181, 0, 9, 42, 27, 27, 104, 188, 10, 181, 0, 15, 42, 180, 0, 15]
abbrev dktX3_init_0 : List UInt8 := dkwX3_init_0 ++ dktX3_init_1
theorem dksX3_init_0 : cX3_init.data.toList.drop 0 = dktX3_init_0 := by decide +kernel
theorem dksX3_init_1 : cX3_init.data.toList.drop 22 = dktX3_init_1 := dk_seg dksX3_init_0 22 rfl rfl
theorem dX3_init_0 : decode cX3_init 0 = .ok (.aload_n 0, 1) := dk_42 (dk_at dksX3_init_0 0 rfl rfl)
theorem dX3_init_1 : decode cX3_init 1 = .ok (.invokespecial 3, 3) := dk_183 0 3 (dk_at dksX3_init_0 1 rfl rfl)
theorem dX3_init_4 : decode cX3_init 4 = .ok (.aload_n 0, 1) := dk_42 (dk_at dksX3_init_0 4 rfl rfl)
theorem dX3_init_5 : decode cX3_init 5 = .ok (.iload_n 1, 1) := dk_27 (dk_at dksX3_init_0 5 rfl rfl)
theorem dX3_init_6 : decode cX3_init 6 = .ok (.putfield 9, 3) := dk_181 0 9 (dk_at dksX3_init_0 6 rfl rfl)
theorem dX3_init_9 : decode cX3_init 9 = .ok (.aload_n 0, 1) := dk_42 (dk_at dksX3_init_0 9 rfl rfl)
theorem dX3_init_10 : decode cX3_init 10 = .ok (.iload_n 1, 1) := dk_27 (dk_at dksX3_init_0 10 rfl rfl)
theorem dX3_init_11 : decode cX3_init 11 = .ok (.iload_n 1, 1) := dk_27 (dk_at dksX3_init_0 11 rfl rfl)
theorem dX3_init_12 : decode cX3_init 12 = .ok (.imul, 1) := dk_104 (dk_at dksX3_init_0 12 rfl rfl)
theorem dX3_init_13 : decode cX3_init 13 = .ok (.newarray .int, 2) := dk_188_10 (dk_at dksX3_init_0 13 rfl rfl)
theorem dX3_init_15 : decode cX3_init 15 = .ok (.putfield 15, 3) := dk_181 0 15 (dk_at dksX3_init_0 15 rfl rfl)
theorem dX3_init_18 : decode cX3_init 18 = .ok (.aload_n 0, 1) := dk_42 (dk_at dksX3_init_0 18 rfl rfl)
theorem dX3_init_19 : decode cX3_init 19 = .ok (.getfield 15, 3) := dk_180 0 15 (dk_at dksX3_init_0 19 rfl rfl)
theorem dX3_init_22 : decode cX3_init 22 = .ok (.getstatic 19, 3) := dk_178 0 19 (dk_at dksX3_init_1 0 rfl rfl)
theorem dX3_init_25 : decode cX3_init 25 = .ok (.invokestatic 22, 3) := dk_184 0 22 (dk_at dksX3_init_1 3 rfl rfl)
theorem dX3_init_28 : decode cX3_init 28 = .ok (.return_, 1) := dk_177 (dk_at dksX3_init_1 6 rfl rfl)
def dkwX3_says_5 : List UInt8 := [42, 28, 27, 21, 4, 116, 184, 0, 64, 182, 0, 68, 177]
abbrev dktX3_says_5 : List UInt8 := dkwX3_says_5 ++ []
def dkwX3_says_4 : List UInt8 := [184, 0, 71, 182, 0, 68, 167, 0, 30, 42, 28, 27, 21, 4, 116, 184, 0, 71, 182, 0, 68, 167, 0, 15]
abbrev dktX3_says_4 : List UInt8 := dkwX3_says_4 ++ dktX3_says_5
def dkwX3_says_3 : List UInt8 := [182, 0, 68, 167, 0, 56, 42, 27, 28, 21, 4, 184, 0, 71, 182, 0, 68, 42, 28, 27, 21, 4, 116]
abbrev dktX3_says_3 : List UInt8 := dkwX3_says_3 ++ dktX3_says_4
def dkwX3_says_2 : List UInt8 := [42, 27, 28, 21, 4, 184, 0, 64, 182, 0, 68, 167, 0, 70, 42, 27, 28, 21, 4, 184, 0, 71]
abbrev dktX3_says_2 : List UInt8 := dkwX3_says_2 ++ dktX3_says_3
def dkwX3_says_1 : List UInt8 := [170, 0, 0, 0, 0, 0, 100, 0, 0, 0, 0, 0, 0, 0, 3, 0, 0, 0, 31, 0, 0, 0, 45, 0, 0, 0, 59, 0, 0, 0, 85]
abbrev dktX3_says_1 : List UInt8 := dkwX3_says_1 ++ dktX3_says_2
def dkwX3_says_0 : List UInt8 := [29]
abbrev dktX3_says_0 : List UInt8 := dkwX3_says_0 ++ dktX3_says_1
theorem dksX3_says_0 : cX3_says.data.toList.drop 0 = dktX3_says_0 := by decide +kernel
theorem dksX3_says_1 : cX3_says.data.toList.drop 1 = dktX3_says_1 := dk_seg dksX3_says_0 1 rfl rfl
theorem dksX3_says_2 : cX3_says.data.toList.drop 32 = dktX3_says_2 := dk_seg dksX3_says_1 31 rfl rfl
theorem dksX3_says_3 : cX3_says.data.toList.drop 54 = dktX3_says_3 := dk_seg dksX3_says_2 22 rfl rfl
theorem dksX3_says_4 : cX3_says.data.toList.drop 77 = dktX3_says_4 := dk_seg dksX3_says_3 23 rfl rfl
theorem dksX3_says_5 : cX3_says.data.toList.drop 101 = dktX3_says_5 := dk_seg dksX3_says_4 24 rfl rfl
theorem dX3_says_0 : decode cX3_says 0 = .ok (.iload_n 3, 1) := dk_29 (dk_at dksX3_says_0 0 rfl rfl)
theorem dX3_says_1 : decode cX3_says 1 = .ok (.tableswitch 100 0 3 #[31, 45, 59, 85], 31) := by decide +kernel
theorem dX3_says_32 : decode cX3_says 32 = .ok (.aload_n 0, 1) := dk_42 (dk_at dksX3_says_2 0 rfl rfl)
theorem dX3_says_33 : decode cX3_says 33 = .ok (.iload_n 1, 1) := dk_27 (dk_at dksX3_says_2 1 rfl rfl)
theorem dX3_says_34 : decode cX3_says 34 = .ok (.iload_n 2, 1) := dk_28 (dk_at dksX3_says_2 2 rfl rfl)
theorem dX3_says_35 : decode cX3_says 35 = .ok (.iload 4, 2) := dk_21 4 (dk_at dksX3_says_2 3 rfl rfl)
theorem dX3_says_37 : decode cX3_says 37 = .ok (.invokestatic 64, 3) := dk_184 0 64 (dk_at dksX3_says_2 5 rfl rfl)
theorem dX3_says_40 : decode cX3_says 40 = .ok (.invokevirtual 68, 3) := dk_182 0 68 (dk_at dksX3_says_2 8 rfl rfl)
theorem dX3_says_43 : decode cX3_says 43 = .ok (.goto 70, 3) := dk_167 0 70 (dk_at dksX3_says_2 11 rfl rfl)
theorem dX3_says_46 : decode cX3_says 46 = .ok (.aload_n 0, 1) := dk_42 (dk_at dksX3_says_2 14 rfl rfl)
theorem dX3_says_47 : decode cX3_says 47 = .ok (.iload_n 1, 1) := dk_27 (dk_at dksX3_says_2 15 rfl rfl)
theorem dX3_says_48 : decode cX3_says 48 = .ok (.iload_n 2, 1) := dk_28 (dk_at dksX3_says_2 16 rfl rfl)
theorem dX3_says_49 : decode cX3_says 49 = .ok (.iload 4, 2) := dk_21 4 (dk_at dksX3_says_2 17 rfl rfl)
theorem dX3_says_51 : decode cX3_says 51 = .ok (.invokestatic 71, 3) := dk_184 0 71 (dk_at dksX3_says_2 19 rfl rfl)
theorem dX3_says_54 : decode cX3_says 54 = .ok (.invokevirtual 68, 3) := dk_182 0 68 (dk_at dksX3_says_3 0 rfl rfl)
theorem dX3_says_57 : decode cX3_says 57 = .ok (.goto 56, 3) := dk_167 0 56 (dk_at dksX3_says_3 3 rfl rfl)
theorem dX3_says_60 : decode cX3_says 60 = .ok (.aload_n 0, 1) := dk_42 (dk_at dksX3_says_3 6 rfl rfl)
theorem dX3_says_61 : decode cX3_says 61 = .ok (.iload_n 1, 1) := dk_27 (dk_at dksX3_says_3 7 rfl rfl)
theorem dX3_says_62 : decode cX3_says 62 = .ok (.iload_n 2, 1) := dk_28 (dk_at dksX3_says_3 8 rfl rfl)
theorem dX3_says_63 : decode cX3_says 63 = .ok (.iload 4, 2) := dk_21 4 (dk_at dksX3_says_3 9 rfl rfl)
theorem dX3_says_65 : decode cX3_says 65 = .ok (.invokestatic 71, 3) := dk_184 0 71 (dk_at dksX3_says_3 11 rfl rfl)
theorem dX3_says_68 : decode cX3_says 68 = .ok (.invokevirtual 68, 3) := dk_182 0 68 (dk_at dksX3_says_3 14 rfl rfl)
theorem dX3_says_71 : decode cX3_says 71 = .ok (.aload_n 0, 1) := dk_42 (dk_at dksX3_says_3 17 rfl rfl)
theorem dX3_says_72 : decode cX3_says 72 = .ok (.iload_n 2, 1) := dk_28 (dk_at dksX3_says_3 18 rfl rfl)
theorem dX3_says_73 : decode cX3_says 73 = .ok (.iload_n 1, 1) := dk_27 (dk_at dksX3_says_3 19 rfl rfl)
theorem dX3_says_74 : decode cX3_says 74 = .ok (.iload 4, 2) := dk_21 4 (dk_at dksX3_says_3 20 rfl rfl)
theorem dX3_says_76 : decode cX3_says 76 = .ok (.ineg, 1) := dk_116 (dk_at dksX3_says_3 22 rfl rfl)
theorem dX3_says_77 : decode cX3_says 77 = .ok (.invokestatic 71, 3) := dk_184 0 71 (dk_at dksX3_says_4 0 rfl rfl)
theorem dX3_says_80 : decode cX3_says 80 = .ok (.invokevirtual 68, 3) := dk_182 0 68 (dk_at dksX3_says_4 3 rfl rfl)
theorem dX3_says_83 : decode cX3_says 83 = .ok (.goto 30, 3) := dk_167 0 30 (dk_at dksX3_says_4 6 rfl rfl)
theorem dX3_says_86 : decode cX3_says 86 = .ok (.aload_n 0, 1) := dk_42 (dk_at dksX3_says_4 9 rfl rfl)
theorem dX3_says_87 : decode cX3_says 87 = .ok (.iload_n 2, 1) := dk_28 (dk_at dksX3_says_4 10 rfl rfl)
theorem dX3_says_88 : decode cX3_says 88 = .ok (.iload_n 1, 1) := dk_27 (dk_at dksX3_says_4 11 rfl rfl)
theorem dX3_says_89 : decode cX3_says 89 = .ok (.iload 4, 2) := dk_21 4 (dk_at dksX3_says_4 12 rfl rfl)
theorem dX3_says_91 : decode cX3_says 91 = .ok (.ineg, 1) := dk_116 (dk_at dksX3_says_4 14 rfl rfl)
theorem dX3_says_92 : decode cX3_says 92 = .ok (.invokestatic 71, 3) := dk_184 0 71 (dk_at dksX3_says_4 15 rfl rfl)
theorem dX3_says_95 : decode cX3_says 95 = .ok (.invokevirtual 68, 3) := dk_182 0 68 (dk_at dksX3_says_4 18 rfl rfl)
theorem dX3_says_98 : decode cX3_says 98 = .ok (.goto 15, 3) := dk_167 0 15 (dk_at dksX3_says_4 21 rfl rfl)
theorem dX3_says_101 : decode cX3_says 101 = .ok (.aload_n 0, 1) := dk_42 (dk_at dksX3_says_5 0 rfl rfl)
theorem dX3_says_102 : decode cX3_says 102 = .ok (.iload_n 2, 1) := dk_28 (dk_at dksX3_says_5 1 rfl rfl)
theorem dX3_says_103 : decode cX3_says 103 = .ok (.iload_n 1, 1) := dk_27 (dk_at dksX3_says_5 2 rfl rfl)
theorem dX3_says_104 : decode cX3_says 104 = .ok (.iload 4, 2) := dk_21 4 (dk_at dksX3_says_5 3 rfl rfl)
theorem dX3_says_106 : decode cX3_says 106 = .ok (.ineg, 1) := dk_116 (dk_at dksX3_says_5 5 rfl rfl)
theorem dX3_says_107 : decode cX3_says 107 = .ok (.invokestatic 64, 3) := dk_184 0 64 (dk_at dksX3_says_5 6 rfl rfl)
theorem dX3_says_110 : decode cX3_says 110 = .ok (.invokevirtual 68, 3) := dk_182 0 68 (dk_at dksX3_says_5 9 rfl rfl)
theorem dX3_says_113 : decode cX3_says 113 = .ok (.return_, 1) := dk_177 (dk_at dksX3_says_5 12 rfl rfl)
def dkwX3_least_0 : List UInt8 := [42, 27, 28, 42, 27, 28, 182, 0, 52, 29, 184, 0, 59, 182, 0, 48, 177]
abbrev dktX3_least_0 : List UInt8 := dkwX3_least_0 ++ []
theorem dksX3_least_0 : cX3_least.data.toList.drop 0 = dktX3_least_0 := by decide +kernel
theorem dX3_least_0 : decode cX3_least 0 = .ok (.aload_n 0, 1) := dk_42 (dk_at dksX3_least_0 0 rfl rfl)
theorem dX3_least_1 : decode cX3_least 1 = .ok (.iload_n 1, 1) := dk_27 (dk_at dksX3_least_0 1 rfl rfl)
theorem dX3_least_2 : decode cX3_least 2 = .ok (.iload_n 2, 1) := dk_28 (dk_at dksX3_least_0 2 rfl rfl)
theorem dX3_least_3 : decode cX3_least 3 = .ok (.aload_n 0, 1) := dk_42 (dk_at dksX3_least_0 3 rfl rfl)
theorem dX3_least_4 : decode cX3_least 4 = .ok (.iload_n 1, 1) := dk_27 (dk_at dksX3_least_0 4 rfl rfl)
theorem dX3_least_5 : decode cX3_least 5 = .ok (.iload_n 2, 1) := dk_28 (dk_at dksX3_least_0 5 rfl rfl)
theorem dX3_least_6 : decode cX3_least 6 = .ok (.invokevirtual 52, 3) := dk_182 0 52 (dk_at dksX3_least_0 6 rfl rfl)
theorem dX3_least_9 : decode cX3_least 9 = .ok (.iload_n 3, 1) := dk_29 (dk_at dksX3_least_0 9 rfl rfl)
theorem dX3_least_10 : decode cX3_least 10 = .ok (.invokestatic 59, 3) := dk_184 0 59 (dk_at dksX3_least_0 10 rfl rfl)
theorem dX3_least_13 : decode cX3_least 13 = .ok (.invokevirtual 48, 3) := dk_182 0 48 (dk_at dksX3_least_0 13 rfl rfl)
theorem dX3_least_16 : decode cX3_least 16 = .ok (.return_, 1) := dk_177 (dk_at dksX3_least_0 16 rfl rfl)
def dkwX3_of_0 : List UInt8 := [42, 180, 0, 15, 42, 180, 0, 9, 27, 104, 28, 96, 46, 172]
abbrev dktX3_of_0 : List UInt8 := dkwX3_of_0 ++ []
theorem dksX3_of_0 : cX3_of.data.toList.drop 0 = dktX3_of_0 := by decide +kernel
theorem dX3_of_0 : decode cX3_of 0 = .ok (.aload_n 0, 1) := dk_42 (dk_at dksX3_of_0 0 rfl rfl)
theorem dX3_of_1 : decode cX3_of 1 = .ok (.getfield 15, 3) := dk_180 0 15 (dk_at dksX3_of_0 1 rfl rfl)
theorem dX3_of_4 : decode cX3_of 4 = .ok (.aload_n 0, 1) := dk_42 (dk_at dksX3_of_0 4 rfl rfl)
theorem dX3_of_5 : decode cX3_of 5 = .ok (.getfield 9, 3) := dk_180 0 9 (dk_at dksX3_of_0 5 rfl rfl)
theorem dX3_of_8 : decode cX3_of 8 = .ok (.iload_n 1, 1) := dk_27 (dk_at dksX3_of_0 8 rfl rfl)
theorem dX3_of_9 : decode cX3_of 9 = .ok (.imul, 1) := dk_104 (dk_at dksX3_of_0 9 rfl rfl)
theorem dX3_of_10 : decode cX3_of 10 = .ok (.iload_n 2, 1) := dk_28 (dk_at dksX3_of_0 10 rfl rfl)
theorem dX3_of_11 : decode cX3_of 11 = .ok (.iadd, 1) := dk_96 (dk_at dksX3_of_0 11 rfl rfl)
theorem dX3_of_12 : decode cX3_of 12 = .ok (.iaload, 1) := dk_46 (dk_at dksX3_of_0 12 rfl rfl)
theorem dX3_of_13 : decode cX3_of 13 = .ok (.ireturn, 1) := dk_172 (dk_at dksX3_of_0 13 rfl rfl)
def dkwX3_lays_0 : List UInt8 := [42, 180, 0, 15, 42, 180, 0, 9, 27, 104, 28, 96, 29, 79, 177]
abbrev dktX3_lays_0 : List UInt8 := dkwX3_lays_0 ++ []
theorem dksX3_lays_0 : cX3_lays.data.toList.drop 0 = dktX3_lays_0 := by decide +kernel
theorem dX3_lays_0 : decode cX3_lays 0 = .ok (.aload_n 0, 1) := dk_42 (dk_at dksX3_lays_0 0 rfl rfl)
theorem dX3_lays_1 : decode cX3_lays 1 = .ok (.getfield 15, 3) := dk_180 0 15 (dk_at dksX3_lays_0 1 rfl rfl)
theorem dX3_lays_4 : decode cX3_lays 4 = .ok (.aload_n 0, 1) := dk_42 (dk_at dksX3_lays_0 4 rfl rfl)
theorem dX3_lays_5 : decode cX3_lays 5 = .ok (.getfield 9, 3) := dk_180 0 9 (dk_at dksX3_lays_0 5 rfl rfl)
theorem dX3_lays_8 : decode cX3_lays 8 = .ok (.iload_n 1, 1) := dk_27 (dk_at dksX3_lays_0 8 rfl rfl)
theorem dX3_lays_9 : decode cX3_lays 9 = .ok (.imul, 1) := dk_104 (dk_at dksX3_lays_0 9 rfl rfl)
theorem dX3_lays_10 : decode cX3_lays 10 = .ok (.iload_n 2, 1) := dk_28 (dk_at dksX3_lays_0 10 rfl rfl)
theorem dX3_lays_11 : decode cX3_lays 11 = .ok (.iadd, 1) := dk_96 (dk_at dksX3_lays_0 11 rfl rfl)
theorem dX3_lays_12 : decode cX3_lays 12 = .ok (.iload_n 3, 1) := dk_29 (dk_at dksX3_lays_0 12 rfl rfl)
theorem dX3_lays_13 : decode cX3_lays 13 = .ok (.iastore, 1) := dk_79 (dk_at dksX3_lays_0 13 rfl rfl)
theorem dX3_lays_14 : decode cX3_lays 14 = .ok (.return_, 1) := dk_177 (dk_at dksX3_lays_0 14 rfl rfl)
def dkwX3_closes_5 : List UInt8 := [162, 0, 7, 4, 167, 0, 4, 3, 128, 181, 0, 41, 132, 1, 1, 167, 255, 219, 177]
abbrev dktX3_closes_5 : List UInt8 := dkwX3_closes_5 ++ []
def dkwX3_closes_4 : List UInt8 := [3, 60, 27, 42, 180, 0, 9, 162, 0, 35, 42, 89, 180, 0, 41, 42, 27, 27, 182, 0, 52, 178, 0, 19]
abbrev dktX3_closes_4 : List UInt8 := dkwX3_closes_4 ++ dktX3_closes_5
def dkwX3_closes_3 : List UInt8 := [184, 0, 59, 182, 0, 48, 132, 3, 1, 167, 255, 215, 132, 2, 1, 167, 255, 184, 132, 1, 1, 167, 255, 168]
abbrev dktX3_closes_3 : List UInt8 := dkwX3_closes_3 ++ dktX3_closes_4
def dkwX3_closes_2 : List UInt8 := [29, 42, 28, 29, 182, 0, 52, 42, 28, 27, 182, 0, 52, 42, 27, 29, 182, 0, 52, 184, 0, 56]
abbrev dktX3_closes_2 : List UInt8 := dkwX3_closes_2 ++ dktX3_closes_3
def dkwX3_closes_1 : List UInt8 := [182, 0, 52, 178, 0, 45, 160, 0, 6, 167, 0, 49, 3, 62, 29, 42, 180, 0, 9, 162, 0, 39, 42, 28]
abbrev dktX3_closes_1 : List UInt8 := dkwX3_closes_1 ++ dktX3_closes_2
def dkwX3_closes_0 : List UInt8 := [3, 60, 27, 42, 180, 0, 9, 162, 0, 86, 3, 61, 28, 42, 180, 0, 9, 162, 0, 70, 42, 28, 27]
abbrev dktX3_closes_0 : List UInt8 := dkwX3_closes_0 ++ dktX3_closes_1
theorem dksX3_closes_0 : cX3_closes.data.toList.drop 0 = dktX3_closes_0 := by decide +kernel
theorem dksX3_closes_1 : cX3_closes.data.toList.drop 23 = dktX3_closes_1 := dk_seg dksX3_closes_0 23 rfl rfl
theorem dksX3_closes_2 : cX3_closes.data.toList.drop 47 = dktX3_closes_2 := dk_seg dksX3_closes_1 24 rfl rfl
theorem dksX3_closes_3 : cX3_closes.data.toList.drop 69 = dktX3_closes_3 := dk_seg dksX3_closes_2 22 rfl rfl
theorem dksX3_closes_4 : cX3_closes.data.toList.drop 93 = dktX3_closes_4 := dk_seg dksX3_closes_3 24 rfl rfl
theorem dksX3_closes_5 : cX3_closes.data.toList.drop 117 = dktX3_closes_5 := dk_seg dksX3_closes_4 24 rfl rfl
theorem dX3_closes_0 : decode cX3_closes 0 = .ok (.iconst 0, 1) := dk_3 (dk_at dksX3_closes_0 0 rfl rfl)
theorem dX3_closes_1 : decode cX3_closes 1 = .ok (.istore_n 1, 1) := dk_60 (dk_at dksX3_closes_0 1 rfl rfl)
theorem dX3_closes_2 : decode cX3_closes 2 = .ok (.iload_n 1, 1) := dk_27 (dk_at dksX3_closes_0 2 rfl rfl)
theorem dX3_closes_3 : decode cX3_closes 3 = .ok (.aload_n 0, 1) := dk_42 (dk_at dksX3_closes_0 3 rfl rfl)
theorem dX3_closes_4 : decode cX3_closes 4 = .ok (.getfield 9, 3) := dk_180 0 9 (dk_at dksX3_closes_0 4 rfl rfl)
theorem dX3_closes_7 : decode cX3_closes 7 = .ok (.if_icmp .ge 86, 3) := dk_162 0 86 (dk_at dksX3_closes_0 7 rfl rfl)
theorem dX3_closes_10 : decode cX3_closes 10 = .ok (.iconst 0, 1) := dk_3 (dk_at dksX3_closes_0 10 rfl rfl)
theorem dX3_closes_11 : decode cX3_closes 11 = .ok (.istore_n 2, 1) := dk_61 (dk_at dksX3_closes_0 11 rfl rfl)
theorem dX3_closes_12 : decode cX3_closes 12 = .ok (.iload_n 2, 1) := dk_28 (dk_at dksX3_closes_0 12 rfl rfl)
theorem dX3_closes_13 : decode cX3_closes 13 = .ok (.aload_n 0, 1) := dk_42 (dk_at dksX3_closes_0 13 rfl rfl)
theorem dX3_closes_14 : decode cX3_closes 14 = .ok (.getfield 9, 3) := dk_180 0 9 (dk_at dksX3_closes_0 14 rfl rfl)
theorem dX3_closes_17 : decode cX3_closes 17 = .ok (.if_icmp .ge 70, 3) := dk_162 0 70 (dk_at dksX3_closes_0 17 rfl rfl)
theorem dX3_closes_20 : decode cX3_closes 20 = .ok (.aload_n 0, 1) := dk_42 (dk_at dksX3_closes_0 20 rfl rfl)
theorem dX3_closes_21 : decode cX3_closes 21 = .ok (.iload_n 2, 1) := dk_28 (dk_at dksX3_closes_0 21 rfl rfl)
theorem dX3_closes_22 : decode cX3_closes 22 = .ok (.iload_n 1, 1) := dk_27 (dk_at dksX3_closes_0 22 rfl rfl)
theorem dX3_closes_23 : decode cX3_closes 23 = .ok (.invokevirtual 52, 3) := dk_182 0 52 (dk_at dksX3_closes_1 0 rfl rfl)
theorem dX3_closes_26 : decode cX3_closes 26 = .ok (.getstatic 45, 3) := dk_178 0 45 (dk_at dksX3_closes_1 3 rfl rfl)
theorem dX3_closes_29 : decode cX3_closes 29 = .ok (.if_icmp .ne 6, 3) := dk_160 0 6 (dk_at dksX3_closes_1 6 rfl rfl)
theorem dX3_closes_32 : decode cX3_closes 32 = .ok (.goto 49, 3) := dk_167 0 49 (dk_at dksX3_closes_1 9 rfl rfl)
theorem dX3_closes_35 : decode cX3_closes 35 = .ok (.iconst 0, 1) := dk_3 (dk_at dksX3_closes_1 12 rfl rfl)
theorem dX3_closes_36 : decode cX3_closes 36 = .ok (.istore_n 3, 1) := dk_62 (dk_at dksX3_closes_1 13 rfl rfl)
theorem dX3_closes_37 : decode cX3_closes 37 = .ok (.iload_n 3, 1) := dk_29 (dk_at dksX3_closes_1 14 rfl rfl)
theorem dX3_closes_38 : decode cX3_closes 38 = .ok (.aload_n 0, 1) := dk_42 (dk_at dksX3_closes_1 15 rfl rfl)
theorem dX3_closes_39 : decode cX3_closes 39 = .ok (.getfield 9, 3) := dk_180 0 9 (dk_at dksX3_closes_1 16 rfl rfl)
theorem dX3_closes_42 : decode cX3_closes 42 = .ok (.if_icmp .ge 39, 3) := dk_162 0 39 (dk_at dksX3_closes_1 19 rfl rfl)
theorem dX3_closes_45 : decode cX3_closes 45 = .ok (.aload_n 0, 1) := dk_42 (dk_at dksX3_closes_1 22 rfl rfl)
theorem dX3_closes_46 : decode cX3_closes 46 = .ok (.iload_n 2, 1) := dk_28 (dk_at dksX3_closes_1 23 rfl rfl)
theorem dX3_closes_47 : decode cX3_closes 47 = .ok (.iload_n 3, 1) := dk_29 (dk_at dksX3_closes_2 0 rfl rfl)
theorem dX3_closes_48 : decode cX3_closes 48 = .ok (.aload_n 0, 1) := dk_42 (dk_at dksX3_closes_2 1 rfl rfl)
theorem dX3_closes_49 : decode cX3_closes 49 = .ok (.iload_n 2, 1) := dk_28 (dk_at dksX3_closes_2 2 rfl rfl)
theorem dX3_closes_50 : decode cX3_closes 50 = .ok (.iload_n 3, 1) := dk_29 (dk_at dksX3_closes_2 3 rfl rfl)
theorem dX3_closes_51 : decode cX3_closes 51 = .ok (.invokevirtual 52, 3) := dk_182 0 52 (dk_at dksX3_closes_2 4 rfl rfl)
theorem dX3_closes_54 : decode cX3_closes 54 = .ok (.aload_n 0, 1) := dk_42 (dk_at dksX3_closes_2 7 rfl rfl)
theorem dX3_closes_55 : decode cX3_closes 55 = .ok (.iload_n 2, 1) := dk_28 (dk_at dksX3_closes_2 8 rfl rfl)
theorem dX3_closes_56 : decode cX3_closes 56 = .ok (.iload_n 1, 1) := dk_27 (dk_at dksX3_closes_2 9 rfl rfl)
theorem dX3_closes_57 : decode cX3_closes 57 = .ok (.invokevirtual 52, 3) := dk_182 0 52 (dk_at dksX3_closes_2 10 rfl rfl)
theorem dX3_closes_60 : decode cX3_closes 60 = .ok (.aload_n 0, 1) := dk_42 (dk_at dksX3_closes_2 13 rfl rfl)
theorem dX3_closes_61 : decode cX3_closes 61 = .ok (.iload_n 1, 1) := dk_27 (dk_at dksX3_closes_2 14 rfl rfl)
theorem dX3_closes_62 : decode cX3_closes 62 = .ok (.iload_n 3, 1) := dk_29 (dk_at dksX3_closes_2 15 rfl rfl)
theorem dX3_closes_63 : decode cX3_closes 63 = .ok (.invokevirtual 52, 3) := dk_182 0 52 (dk_at dksX3_closes_2 16 rfl rfl)
theorem dX3_closes_66 : decode cX3_closes 66 = .ok (.invokestatic 56, 3) := dk_184 0 56 (dk_at dksX3_closes_2 19 rfl rfl)
theorem dX3_closes_69 : decode cX3_closes 69 = .ok (.invokestatic 59, 3) := dk_184 0 59 (dk_at dksX3_closes_3 0 rfl rfl)
theorem dX3_closes_72 : decode cX3_closes 72 = .ok (.invokevirtual 48, 3) := dk_182 0 48 (dk_at dksX3_closes_3 3 rfl rfl)
theorem dX3_closes_75 : decode cX3_closes 75 = .ok (.iinc 3 1, 3) := dk_132 3 1 (dk_at dksX3_closes_3 6 rfl rfl)
theorem dX3_closes_78 : decode cX3_closes 78 = .ok (.goto (-41), 3) := dk_167 255 215 (dk_at dksX3_closes_3 9 rfl rfl)
theorem dX3_closes_81 : decode cX3_closes 81 = .ok (.iinc 2 1, 3) := dk_132 2 1 (dk_at dksX3_closes_3 12 rfl rfl)
theorem dX3_closes_84 : decode cX3_closes 84 = .ok (.goto (-72), 3) := dk_167 255 184 (dk_at dksX3_closes_3 15 rfl rfl)
theorem dX3_closes_87 : decode cX3_closes 87 = .ok (.iinc 1 1, 3) := dk_132 1 1 (dk_at dksX3_closes_3 18 rfl rfl)
theorem dX3_closes_90 : decode cX3_closes 90 = .ok (.goto (-88), 3) := dk_167 255 168 (dk_at dksX3_closes_3 21 rfl rfl)
theorem dX3_closes_93 : decode cX3_closes 93 = .ok (.iconst 0, 1) := dk_3 (dk_at dksX3_closes_4 0 rfl rfl)
theorem dX3_closes_94 : decode cX3_closes 94 = .ok (.istore_n 1, 1) := dk_60 (dk_at dksX3_closes_4 1 rfl rfl)
theorem dX3_closes_95 : decode cX3_closes 95 = .ok (.iload_n 1, 1) := dk_27 (dk_at dksX3_closes_4 2 rfl rfl)
theorem dX3_closes_96 : decode cX3_closes 96 = .ok (.aload_n 0, 1) := dk_42 (dk_at dksX3_closes_4 3 rfl rfl)
theorem dX3_closes_97 : decode cX3_closes 97 = .ok (.getfield 9, 3) := dk_180 0 9 (dk_at dksX3_closes_4 4 rfl rfl)
theorem dX3_closes_100 : decode cX3_closes 100 = .ok (.if_icmp .ge 35, 3) := dk_162 0 35 (dk_at dksX3_closes_4 7 rfl rfl)
theorem dX3_closes_103 : decode cX3_closes 103 = .ok (.aload_n 0, 1) := dk_42 (dk_at dksX3_closes_4 10 rfl rfl)
theorem dX3_closes_104 : decode cX3_closes 104 = .ok (.dup, 1) := dk_89 (dk_at dksX3_closes_4 11 rfl rfl)
theorem dX3_closes_105 : decode cX3_closes 105 = .ok (.getfield 41, 3) := dk_180 0 41 (dk_at dksX3_closes_4 12 rfl rfl)
theorem dX3_closes_108 : decode cX3_closes 108 = .ok (.aload_n 0, 1) := dk_42 (dk_at dksX3_closes_4 15 rfl rfl)
theorem dX3_closes_109 : decode cX3_closes 109 = .ok (.iload_n 1, 1) := dk_27 (dk_at dksX3_closes_4 16 rfl rfl)
theorem dX3_closes_110 : decode cX3_closes 110 = .ok (.iload_n 1, 1) := dk_27 (dk_at dksX3_closes_4 17 rfl rfl)
theorem dX3_closes_111 : decode cX3_closes 111 = .ok (.invokevirtual 52, 3) := dk_182 0 52 (dk_at dksX3_closes_4 18 rfl rfl)
theorem dX3_closes_114 : decode cX3_closes 114 = .ok (.getstatic 19, 3) := dk_178 0 19 (dk_at dksX3_closes_4 21 rfl rfl)
theorem dX3_closes_117 : decode cX3_closes 117 = .ok (.if_icmp .ge 7, 3) := dk_162 0 7 (dk_at dksX3_closes_5 0 rfl rfl)
theorem dX3_closes_120 : decode cX3_closes 120 = .ok (.iconst 1, 1) := dk_4 (dk_at dksX3_closes_5 3 rfl rfl)
theorem dX3_closes_121 : decode cX3_closes 121 = .ok (.goto 4, 3) := dk_167 0 4 (dk_at dksX3_closes_5 4 rfl rfl)
theorem dX3_closes_124 : decode cX3_closes 124 = .ok (.iconst 0, 1) := dk_3 (dk_at dksX3_closes_5 7 rfl rfl)
theorem dX3_closes_125 : decode cX3_closes 125 = .ok (.ior, 1) := dk_128 (dk_at dksX3_closes_5 8 rfl rfl)
theorem dX3_closes_126 : decode cX3_closes 126 = .ok (.putfield 41, 3) := dk_181 0 41 (dk_at dksX3_closes_5 9 rfl rfl)
theorem dX3_closes_129 : decode cX3_closes 129 = .ok (.iinc 1 1, 3) := dk_132 1 1 (dk_at dksX3_closes_5 12 rfl rfl)
theorem dX3_closes_132 : decode cX3_closes 132 = .ok (.goto (-37), 3) := dk_167 255 219 (dk_at dksX3_closes_5 15 rfl rfl)
theorem dX3_closes_135 : decode cX3_closes 135 = .ok (.return_, 1) := dk_177 (dk_at dksX3_closes_5 18 rfl rfl)
def dkwX3_up_1 : List UInt8 := [167, 255, 236, 177]
abbrev dktX3_up_1 : List UInt8 := dkwX3_up_1 ++ []
def dkwX3_up_0 : List UInt8 := [4, 60, 27, 42, 180, 0, 9, 162, 0, 18, 42, 27, 3, 178, 0, 45, 182, 0, 48, 132, 1, 1]
abbrev dktX3_up_0 : List UInt8 := dkwX3_up_0 ++ dktX3_up_1
theorem dksX3_up_0 : cX3_up.data.toList.drop 0 = dktX3_up_0 := by decide +kernel
theorem dksX3_up_1 : cX3_up.data.toList.drop 22 = dktX3_up_1 := dk_seg dksX3_up_0 22 rfl rfl
theorem dX3_up_0 : decode cX3_up 0 = .ok (.iconst 1, 1) := dk_4 (dk_at dksX3_up_0 0 rfl rfl)
theorem dX3_up_1 : decode cX3_up 1 = .ok (.istore_n 1, 1) := dk_60 (dk_at dksX3_up_0 1 rfl rfl)
theorem dX3_up_2 : decode cX3_up 2 = .ok (.iload_n 1, 1) := dk_27 (dk_at dksX3_up_0 2 rfl rfl)
theorem dX3_up_3 : decode cX3_up 3 = .ok (.aload_n 0, 1) := dk_42 (dk_at dksX3_up_0 3 rfl rfl)
theorem dX3_up_4 : decode cX3_up 4 = .ok (.getfield 9, 3) := dk_180 0 9 (dk_at dksX3_up_0 4 rfl rfl)
theorem dX3_up_7 : decode cX3_up 7 = .ok (.if_icmp .ge 18, 3) := dk_162 0 18 (dk_at dksX3_up_0 7 rfl rfl)
theorem dX3_up_10 : decode cX3_up 10 = .ok (.aload_n 0, 1) := dk_42 (dk_at dksX3_up_0 10 rfl rfl)
theorem dX3_up_11 : decode cX3_up 11 = .ok (.iload_n 1, 1) := dk_27 (dk_at dksX3_up_0 11 rfl rfl)
theorem dX3_up_12 : decode cX3_up 12 = .ok (.iconst 0, 1) := dk_3 (dk_at dksX3_up_0 12 rfl rfl)
theorem dX3_up_13 : decode cX3_up 13 = .ok (.getstatic 45, 3) := dk_178 0 45 (dk_at dksX3_up_0 13 rfl rfl)
theorem dX3_up_16 : decode cX3_up 16 = .ok (.invokevirtual 48, 3) := dk_182 0 48 (dk_at dksX3_up_0 16 rfl rfl)
theorem dX3_up_19 : decode cX3_up 19 = .ok (.iinc 1 1, 3) := dk_132 1 1 (dk_at dksX3_up_0 19 rfl rfl)
theorem dX3_up_22 : decode cX3_up 22 = .ok (.goto (-20), 3) := dk_167 255 236 (dk_at dksX3_up_1 0 rfl rfl)
theorem dX3_up_25 : decode cX3_up 25 = .ok (.return_, 1) := dk_177 (dk_at dksX3_up_1 3 rfl rfl)
def dkwX3_roughens_5 : List UInt8 := [182, 0, 74, 177]
abbrev dktX3_roughens_5 : List UInt8 := dkwX3_roughens_5 ++ []
def dkwX3_roughens_4 : List UInt8 := [29, 43, 29, 46, 116, 184, 0, 64, 182, 0, 48, 132, 3, 1, 167, 255, 169, 132, 2, 1, 167, 255, 153, 42]
abbrev dktX3_roughens_4 : List UInt8 := dkwX3_roughens_4 ++ dktX3_roughens_5
def dkwX3_roughens_3 : List UInt8 := [182, 0, 48, 167, 0, 32, 42, 28, 29, 182, 0, 52, 43, 29, 46, 116, 184, 0, 64, 162, 0, 16, 42, 28]
abbrev dktX3_roughens_3 : List UInt8 := dkwX3_roughens_3 ++ dktX3_roughens_4
def dkwX3_roughens_2 : List UInt8 := [167, 0, 59, 42, 28, 29, 182, 0, 52, 43, 28, 46, 184, 0, 71, 164, 0, 15, 42, 28, 29, 178, 0, 45]
abbrev dktX3_roughens_2 : List UInt8 := dkwX3_roughens_2 ++ dktX3_roughens_3
def dkwX3_roughens_1 : List UInt8 := [180, 0, 9, 162, 0, 85, 28, 29, 159, 0, 74, 42, 28, 29, 182, 0, 52, 178, 0, 45, 160, 0, 6]
abbrev dktX3_roughens_1 : List UInt8 := dkwX3_roughens_1 ++ dktX3_roughens_2
def dkwX3_roughens_0 : List UInt8 := [42, 180, 0, 41, 153, 0, 4, 177, 3, 61, 28, 42, 180, 0, 9, 162, 0, 101, 3, 62, 29, 42]
abbrev dktX3_roughens_0 : List UInt8 := dkwX3_roughens_0 ++ dktX3_roughens_1
theorem dksX3_roughens_0 : cX3_roughens.data.toList.drop 0 = dktX3_roughens_0 := by decide +kernel
theorem dksX3_roughens_1 : cX3_roughens.data.toList.drop 22 = dktX3_roughens_1 := dk_seg dksX3_roughens_0 22 rfl rfl
theorem dksX3_roughens_2 : cX3_roughens.data.toList.drop 45 = dktX3_roughens_2 := dk_seg dksX3_roughens_1 23 rfl rfl
theorem dksX3_roughens_3 : cX3_roughens.data.toList.drop 69 = dktX3_roughens_3 := dk_seg dksX3_roughens_2 24 rfl rfl
theorem dksX3_roughens_4 : cX3_roughens.data.toList.drop 93 = dktX3_roughens_4 := dk_seg dksX3_roughens_3 24 rfl rfl
theorem dksX3_roughens_5 : cX3_roughens.data.toList.drop 117 = dktX3_roughens_5 := dk_seg dksX3_roughens_4 24 rfl rfl
theorem dX3_roughens_0 : decode cX3_roughens 0 = .ok (.aload_n 0, 1) := dk_42 (dk_at dksX3_roughens_0 0 rfl rfl)
theorem dX3_roughens_1 : decode cX3_roughens 1 = .ok (.getfield 41, 3) := dk_180 0 41 (dk_at dksX3_roughens_0 1 rfl rfl)
theorem dX3_roughens_4 : decode cX3_roughens 4 = .ok (.ifCond .eq 4, 3) := dk_153 0 4 (dk_at dksX3_roughens_0 4 rfl rfl)
theorem dX3_roughens_7 : decode cX3_roughens 7 = .ok (.return_, 1) := dk_177 (dk_at dksX3_roughens_0 7 rfl rfl)
theorem dX3_roughens_8 : decode cX3_roughens 8 = .ok (.iconst 0, 1) := dk_3 (dk_at dksX3_roughens_0 8 rfl rfl)
theorem dX3_roughens_9 : decode cX3_roughens 9 = .ok (.istore_n 2, 1) := dk_61 (dk_at dksX3_roughens_0 9 rfl rfl)
theorem dX3_roughens_10 : decode cX3_roughens 10 = .ok (.iload_n 2, 1) := dk_28 (dk_at dksX3_roughens_0 10 rfl rfl)
theorem dX3_roughens_11 : decode cX3_roughens 11 = .ok (.aload_n 0, 1) := dk_42 (dk_at dksX3_roughens_0 11 rfl rfl)
theorem dX3_roughens_12 : decode cX3_roughens 12 = .ok (.getfield 9, 3) := dk_180 0 9 (dk_at dksX3_roughens_0 12 rfl rfl)
theorem dX3_roughens_15 : decode cX3_roughens 15 = .ok (.if_icmp .ge 101, 3) := dk_162 0 101 (dk_at dksX3_roughens_0 15 rfl rfl)
theorem dX3_roughens_18 : decode cX3_roughens 18 = .ok (.iconst 0, 1) := dk_3 (dk_at dksX3_roughens_0 18 rfl rfl)
theorem dX3_roughens_19 : decode cX3_roughens 19 = .ok (.istore_n 3, 1) := dk_62 (dk_at dksX3_roughens_0 19 rfl rfl)
theorem dX3_roughens_20 : decode cX3_roughens 20 = .ok (.iload_n 3, 1) := dk_29 (dk_at dksX3_roughens_0 20 rfl rfl)
theorem dX3_roughens_21 : decode cX3_roughens 21 = .ok (.aload_n 0, 1) := dk_42 (dk_at dksX3_roughens_0 21 rfl rfl)
theorem dX3_roughens_22 : decode cX3_roughens 22 = .ok (.getfield 9, 3) := dk_180 0 9 (dk_at dksX3_roughens_1 0 rfl rfl)
theorem dX3_roughens_25 : decode cX3_roughens 25 = .ok (.if_icmp .ge 85, 3) := dk_162 0 85 (dk_at dksX3_roughens_1 3 rfl rfl)
theorem dX3_roughens_28 : decode cX3_roughens 28 = .ok (.iload_n 2, 1) := dk_28 (dk_at dksX3_roughens_1 6 rfl rfl)
theorem dX3_roughens_29 : decode cX3_roughens 29 = .ok (.iload_n 3, 1) := dk_29 (dk_at dksX3_roughens_1 7 rfl rfl)
theorem dX3_roughens_30 : decode cX3_roughens 30 = .ok (.if_icmp .eq 74, 3) := dk_159 0 74 (dk_at dksX3_roughens_1 8 rfl rfl)
theorem dX3_roughens_33 : decode cX3_roughens 33 = .ok (.aload_n 0, 1) := dk_42 (dk_at dksX3_roughens_1 11 rfl rfl)
theorem dX3_roughens_34 : decode cX3_roughens 34 = .ok (.iload_n 2, 1) := dk_28 (dk_at dksX3_roughens_1 12 rfl rfl)
theorem dX3_roughens_35 : decode cX3_roughens 35 = .ok (.iload_n 3, 1) := dk_29 (dk_at dksX3_roughens_1 13 rfl rfl)
theorem dX3_roughens_36 : decode cX3_roughens 36 = .ok (.invokevirtual 52, 3) := dk_182 0 52 (dk_at dksX3_roughens_1 14 rfl rfl)
theorem dX3_roughens_39 : decode cX3_roughens 39 = .ok (.getstatic 45, 3) := dk_178 0 45 (dk_at dksX3_roughens_1 17 rfl rfl)
theorem dX3_roughens_42 : decode cX3_roughens 42 = .ok (.if_icmp .ne 6, 3) := dk_160 0 6 (dk_at dksX3_roughens_1 20 rfl rfl)
theorem dX3_roughens_45 : decode cX3_roughens 45 = .ok (.goto 59, 3) := dk_167 0 59 (dk_at dksX3_roughens_2 0 rfl rfl)
theorem dX3_roughens_48 : decode cX3_roughens 48 = .ok (.aload_n 0, 1) := dk_42 (dk_at dksX3_roughens_2 3 rfl rfl)
theorem dX3_roughens_49 : decode cX3_roughens 49 = .ok (.iload_n 2, 1) := dk_28 (dk_at dksX3_roughens_2 4 rfl rfl)
theorem dX3_roughens_50 : decode cX3_roughens 50 = .ok (.iload_n 3, 1) := dk_29 (dk_at dksX3_roughens_2 5 rfl rfl)
theorem dX3_roughens_51 : decode cX3_roughens 51 = .ok (.invokevirtual 52, 3) := dk_182 0 52 (dk_at dksX3_roughens_2 6 rfl rfl)
theorem dX3_roughens_54 : decode cX3_roughens 54 = .ok (.aload_n 1, 1) := dk_43 (dk_at dksX3_roughens_2 9 rfl rfl)
theorem dX3_roughens_55 : decode cX3_roughens 55 = .ok (.iload_n 2, 1) := dk_28 (dk_at dksX3_roughens_2 10 rfl rfl)
theorem dX3_roughens_56 : decode cX3_roughens 56 = .ok (.iaload, 1) := dk_46 (dk_at dksX3_roughens_2 11 rfl rfl)
theorem dX3_roughens_57 : decode cX3_roughens 57 = .ok (.invokestatic 71, 3) := dk_184 0 71 (dk_at dksX3_roughens_2 12 rfl rfl)
theorem dX3_roughens_60 : decode cX3_roughens 60 = .ok (.if_icmp .le 15, 3) := dk_164 0 15 (dk_at dksX3_roughens_2 15 rfl rfl)
theorem dX3_roughens_63 : decode cX3_roughens 63 = .ok (.aload_n 0, 1) := dk_42 (dk_at dksX3_roughens_2 18 rfl rfl)
theorem dX3_roughens_64 : decode cX3_roughens 64 = .ok (.iload_n 2, 1) := dk_28 (dk_at dksX3_roughens_2 19 rfl rfl)
theorem dX3_roughens_65 : decode cX3_roughens 65 = .ok (.iload_n 3, 1) := dk_29 (dk_at dksX3_roughens_2 20 rfl rfl)
theorem dX3_roughens_66 : decode cX3_roughens 66 = .ok (.getstatic 45, 3) := dk_178 0 45 (dk_at dksX3_roughens_2 21 rfl rfl)
theorem dX3_roughens_69 : decode cX3_roughens 69 = .ok (.invokevirtual 48, 3) := dk_182 0 48 (dk_at dksX3_roughens_3 0 rfl rfl)
theorem dX3_roughens_72 : decode cX3_roughens 72 = .ok (.goto 32, 3) := dk_167 0 32 (dk_at dksX3_roughens_3 3 rfl rfl)
theorem dX3_roughens_75 : decode cX3_roughens 75 = .ok (.aload_n 0, 1) := dk_42 (dk_at dksX3_roughens_3 6 rfl rfl)
theorem dX3_roughens_76 : decode cX3_roughens 76 = .ok (.iload_n 2, 1) := dk_28 (dk_at dksX3_roughens_3 7 rfl rfl)
theorem dX3_roughens_77 : decode cX3_roughens 77 = .ok (.iload_n 3, 1) := dk_29 (dk_at dksX3_roughens_3 8 rfl rfl)
theorem dX3_roughens_78 : decode cX3_roughens 78 = .ok (.invokevirtual 52, 3) := dk_182 0 52 (dk_at dksX3_roughens_3 9 rfl rfl)
theorem dX3_roughens_81 : decode cX3_roughens 81 = .ok (.aload_n 1, 1) := dk_43 (dk_at dksX3_roughens_3 12 rfl rfl)
theorem dX3_roughens_82 : decode cX3_roughens 82 = .ok (.iload_n 3, 1) := dk_29 (dk_at dksX3_roughens_3 13 rfl rfl)
theorem dX3_roughens_83 : decode cX3_roughens 83 = .ok (.iaload, 1) := dk_46 (dk_at dksX3_roughens_3 14 rfl rfl)
theorem dX3_roughens_84 : decode cX3_roughens 84 = .ok (.ineg, 1) := dk_116 (dk_at dksX3_roughens_3 15 rfl rfl)
theorem dX3_roughens_85 : decode cX3_roughens 85 = .ok (.invokestatic 64, 3) := dk_184 0 64 (dk_at dksX3_roughens_3 16 rfl rfl)
theorem dX3_roughens_88 : decode cX3_roughens 88 = .ok (.if_icmp .ge 16, 3) := dk_162 0 16 (dk_at dksX3_roughens_3 19 rfl rfl)
theorem dX3_roughens_91 : decode cX3_roughens 91 = .ok (.aload_n 0, 1) := dk_42 (dk_at dksX3_roughens_3 22 rfl rfl)
theorem dX3_roughens_92 : decode cX3_roughens 92 = .ok (.iload_n 2, 1) := dk_28 (dk_at dksX3_roughens_3 23 rfl rfl)
theorem dX3_roughens_93 : decode cX3_roughens 93 = .ok (.iload_n 3, 1) := dk_29 (dk_at dksX3_roughens_4 0 rfl rfl)
theorem dX3_roughens_94 : decode cX3_roughens 94 = .ok (.aload_n 1, 1) := dk_43 (dk_at dksX3_roughens_4 1 rfl rfl)
theorem dX3_roughens_95 : decode cX3_roughens 95 = .ok (.iload_n 3, 1) := dk_29 (dk_at dksX3_roughens_4 2 rfl rfl)
theorem dX3_roughens_96 : decode cX3_roughens 96 = .ok (.iaload, 1) := dk_46 (dk_at dksX3_roughens_4 3 rfl rfl)
theorem dX3_roughens_97 : decode cX3_roughens 97 = .ok (.ineg, 1) := dk_116 (dk_at dksX3_roughens_4 4 rfl rfl)
theorem dX3_roughens_98 : decode cX3_roughens 98 = .ok (.invokestatic 64, 3) := dk_184 0 64 (dk_at dksX3_roughens_4 5 rfl rfl)
theorem dX3_roughens_101 : decode cX3_roughens 101 = .ok (.invokevirtual 48, 3) := dk_182 0 48 (dk_at dksX3_roughens_4 8 rfl rfl)
theorem dX3_roughens_104 : decode cX3_roughens 104 = .ok (.iinc 3 1, 3) := dk_132 3 1 (dk_at dksX3_roughens_4 11 rfl rfl)
theorem dX3_roughens_107 : decode cX3_roughens 107 = .ok (.goto (-87), 3) := dk_167 255 169 (dk_at dksX3_roughens_4 14 rfl rfl)
theorem dX3_roughens_110 : decode cX3_roughens 110 = .ok (.iinc 2 1, 3) := dk_132 2 1 (dk_at dksX3_roughens_4 17 rfl rfl)
theorem dX3_roughens_113 : decode cX3_roughens 113 = .ok (.goto (-103), 3) := dk_167 255 153 (dk_at dksX3_roughens_4 20 rfl rfl)
theorem dX3_roughens_116 : decode cX3_roughens 116 = .ok (.aload_n 0, 1) := dk_42 (dk_at dksX3_roughens_4 23 rfl rfl)
theorem dX3_roughens_117 : decode cX3_roughens 117 = .ok (.invokevirtual 74, 3) := dk_182 0 74 (dk_at dksX3_roughens_5 0 rfl rfl)
theorem dX3_roughens_120 : decode cX3_roughens 120 = .ok (.return_, 1) := dk_177 (dk_at dksX3_roughens_5 3 rfl rfl)
def dkwX3_init_2_0 : List UInt8 := [42, 43, 180, 0, 9, 183, 0, 28, 42, 43, 182, 0, 31, 177]
abbrev dktX3_init_2_0 : List UInt8 := dkwX3_init_2_0 ++ []
theorem dksX3_init_2_0 : cX3_init_2.data.toList.drop 0 = dktX3_init_2_0 := by decide +kernel
theorem dX3_init_2_0 : decode cX3_init_2 0 = .ok (.aload_n 0, 1) := dk_42 (dk_at dksX3_init_2_0 0 rfl rfl)
theorem dX3_init_2_1 : decode cX3_init_2 1 = .ok (.aload_n 1, 1) := dk_43 (dk_at dksX3_init_2_0 1 rfl rfl)
theorem dX3_init_2_2 : decode cX3_init_2 2 = .ok (.getfield 9, 3) := dk_180 0 9 (dk_at dksX3_init_2_0 2 rfl rfl)
theorem dX3_init_2_5 : decode cX3_init_2 5 = .ok (.invokespecial 28, 3) := dk_183 0 28 (dk_at dksX3_init_2_0 5 rfl rfl)
theorem dX3_init_2_8 : decode cX3_init_2 8 = .ok (.aload_n 0, 1) := dk_42 (dk_at dksX3_init_2_0 8 rfl rfl)
theorem dX3_init_2_9 : decode cX3_init_2 9 = .ok (.aload_n 1, 1) := dk_43 (dk_at dksX3_init_2_0 9 rfl rfl)
theorem dX3_init_2_10 : decode cX3_init_2 10 = .ok (.invokevirtual 31, 3) := dk_182 0 31 (dk_at dksX3_init_2_0 10 rfl rfl)
theorem dX3_init_2_13 : decode cX3_init_2 13 = .ok (.return_, 1) := dk_177 (dk_at dksX3_init_2_0 13 rfl rfl)
def dkwX3_likens_1 : List UInt8 := [181, 0, 41, 177]
abbrev dktX3_likens_1 : List UInt8 := dkwX3_likens_1 ++ []
def dkwX3_likens_0 : List UInt8 := [43, 180, 0, 15, 3, 42, 180, 0, 15, 3, 42, 180, 0, 15, 190, 184, 0, 35, 42, 43, 180, 0, 41]
abbrev dktX3_likens_0 : List UInt8 := dkwX3_likens_0 ++ dktX3_likens_1
theorem dksX3_likens_0 : cX3_likens.data.toList.drop 0 = dktX3_likens_0 := by decide +kernel
theorem dksX3_likens_1 : cX3_likens.data.toList.drop 23 = dktX3_likens_1 := dk_seg dksX3_likens_0 23 rfl rfl
theorem dX3_likens_0 : decode cX3_likens 0 = .ok (.aload_n 1, 1) := dk_43 (dk_at dksX3_likens_0 0 rfl rfl)
theorem dX3_likens_1 : decode cX3_likens 1 = .ok (.getfield 15, 3) := dk_180 0 15 (dk_at dksX3_likens_0 1 rfl rfl)
theorem dX3_likens_4 : decode cX3_likens 4 = .ok (.iconst 0, 1) := dk_3 (dk_at dksX3_likens_0 4 rfl rfl)
theorem dX3_likens_5 : decode cX3_likens 5 = .ok (.aload_n 0, 1) := dk_42 (dk_at dksX3_likens_0 5 rfl rfl)
theorem dX3_likens_6 : decode cX3_likens 6 = .ok (.getfield 15, 3) := dk_180 0 15 (dk_at dksX3_likens_0 6 rfl rfl)
theorem dX3_likens_9 : decode cX3_likens 9 = .ok (.iconst 0, 1) := dk_3 (dk_at dksX3_likens_0 9 rfl rfl)
theorem dX3_likens_10 : decode cX3_likens 10 = .ok (.aload_n 0, 1) := dk_42 (dk_at dksX3_likens_0 10 rfl rfl)
theorem dX3_likens_11 : decode cX3_likens 11 = .ok (.getfield 15, 3) := dk_180 0 15 (dk_at dksX3_likens_0 11 rfl rfl)
theorem dX3_likens_14 : decode cX3_likens 14 = .ok (.arraylength, 1) := dk_190 (dk_at dksX3_likens_0 14 rfl rfl)
theorem dX3_likens_15 : decode cX3_likens 15 = .ok (.invokestatic 35, 3) := dk_184 0 35 (dk_at dksX3_likens_0 15 rfl rfl)
theorem dX3_likens_18 : decode cX3_likens 18 = .ok (.aload_n 0, 1) := dk_42 (dk_at dksX3_likens_0 18 rfl rfl)
theorem dX3_likens_19 : decode cX3_likens 19 = .ok (.aload_n 1, 1) := dk_43 (dk_at dksX3_likens_0 19 rfl rfl)
theorem dX3_likens_20 : decode cX3_likens 20 = .ok (.getfield 41, 3) := dk_180 0 41 (dk_at dksX3_likens_0 20 rfl rfl)
theorem dX3_likens_23 : decode cX3_likens 23 = .ok (.putfield 41, 3) := dk_181 0 41 (dk_at dksX3_likens_1 0 rfl rfl)
theorem dX3_likens_26 : decode cX3_likens 26 = .ok (.return_, 1) := dk_177 (dk_at dksX3_likens_1 3 rfl rfl)
def dkwX3_sets_2 : List UInt8 := [28, 116, 184, 0, 71, 184, 0, 56, 182, 0, 48, 132, 3, 1, 167, 255, 198, 177]
abbrev dktX3_sets_2 : List UInt8 := dkwX3_sets_2 ++ []
def dkwX3_sets_1 : List UInt8 := [184, 0, 71, 42, 3, 29, 182, 0, 52, 184, 0, 56, 182, 0, 48, 42, 29, 27, 42, 29, 3, 182, 0, 52]
abbrev dktX3_sets_1 : List UInt8 := dkwX3_sets_1 ++ dktX3_sets_2
def dkwX3_sets_0 : List UInt8 := [3, 62, 29, 42, 180, 0, 9, 162, 0, 56, 29, 27, 160, 0, 6, 167, 0, 42, 42, 27, 29, 28]
abbrev dktX3_sets_0 : List UInt8 := dkwX3_sets_0 ++ dktX3_sets_1
theorem dksX3_sets_0 : cX3_sets.data.toList.drop 0 = dktX3_sets_0 := by decide +kernel
theorem dksX3_sets_1 : cX3_sets.data.toList.drop 22 = dktX3_sets_1 := dk_seg dksX3_sets_0 22 rfl rfl
theorem dksX3_sets_2 : cX3_sets.data.toList.drop 46 = dktX3_sets_2 := dk_seg dksX3_sets_1 24 rfl rfl
theorem dX3_sets_0 : decode cX3_sets 0 = .ok (.iconst 0, 1) := dk_3 (dk_at dksX3_sets_0 0 rfl rfl)
theorem dX3_sets_1 : decode cX3_sets 1 = .ok (.istore_n 3, 1) := dk_62 (dk_at dksX3_sets_0 1 rfl rfl)
theorem dX3_sets_2 : decode cX3_sets 2 = .ok (.iload_n 3, 1) := dk_29 (dk_at dksX3_sets_0 2 rfl rfl)
theorem dX3_sets_3 : decode cX3_sets 3 = .ok (.aload_n 0, 1) := dk_42 (dk_at dksX3_sets_0 3 rfl rfl)
theorem dX3_sets_4 : decode cX3_sets 4 = .ok (.getfield 9, 3) := dk_180 0 9 (dk_at dksX3_sets_0 4 rfl rfl)
theorem dX3_sets_7 : decode cX3_sets 7 = .ok (.if_icmp .ge 56, 3) := dk_162 0 56 (dk_at dksX3_sets_0 7 rfl rfl)
theorem dX3_sets_10 : decode cX3_sets 10 = .ok (.iload_n 3, 1) := dk_29 (dk_at dksX3_sets_0 10 rfl rfl)
theorem dX3_sets_11 : decode cX3_sets 11 = .ok (.iload_n 1, 1) := dk_27 (dk_at dksX3_sets_0 11 rfl rfl)
theorem dX3_sets_12 : decode cX3_sets 12 = .ok (.if_icmp .ne 6, 3) := dk_160 0 6 (dk_at dksX3_sets_0 12 rfl rfl)
theorem dX3_sets_15 : decode cX3_sets 15 = .ok (.goto 42, 3) := dk_167 0 42 (dk_at dksX3_sets_0 15 rfl rfl)
theorem dX3_sets_18 : decode cX3_sets 18 = .ok (.aload_n 0, 1) := dk_42 (dk_at dksX3_sets_0 18 rfl rfl)
theorem dX3_sets_19 : decode cX3_sets 19 = .ok (.iload_n 1, 1) := dk_27 (dk_at dksX3_sets_0 19 rfl rfl)
theorem dX3_sets_20 : decode cX3_sets 20 = .ok (.iload_n 3, 1) := dk_29 (dk_at dksX3_sets_0 20 rfl rfl)
theorem dX3_sets_21 : decode cX3_sets 21 = .ok (.iload_n 2, 1) := dk_28 (dk_at dksX3_sets_0 21 rfl rfl)
theorem dX3_sets_22 : decode cX3_sets 22 = .ok (.invokestatic 71, 3) := dk_184 0 71 (dk_at dksX3_sets_1 0 rfl rfl)
theorem dX3_sets_25 : decode cX3_sets 25 = .ok (.aload_n 0, 1) := dk_42 (dk_at dksX3_sets_1 3 rfl rfl)
theorem dX3_sets_26 : decode cX3_sets 26 = .ok (.iconst 0, 1) := dk_3 (dk_at dksX3_sets_1 4 rfl rfl)
theorem dX3_sets_27 : decode cX3_sets 27 = .ok (.iload_n 3, 1) := dk_29 (dk_at dksX3_sets_1 5 rfl rfl)
theorem dX3_sets_28 : decode cX3_sets 28 = .ok (.invokevirtual 52, 3) := dk_182 0 52 (dk_at dksX3_sets_1 6 rfl rfl)
theorem dX3_sets_31 : decode cX3_sets 31 = .ok (.invokestatic 56, 3) := dk_184 0 56 (dk_at dksX3_sets_1 9 rfl rfl)
theorem dX3_sets_34 : decode cX3_sets 34 = .ok (.invokevirtual 48, 3) := dk_182 0 48 (dk_at dksX3_sets_1 12 rfl rfl)
theorem dX3_sets_37 : decode cX3_sets 37 = .ok (.aload_n 0, 1) := dk_42 (dk_at dksX3_sets_1 15 rfl rfl)
theorem dX3_sets_38 : decode cX3_sets 38 = .ok (.iload_n 3, 1) := dk_29 (dk_at dksX3_sets_1 16 rfl rfl)
theorem dX3_sets_39 : decode cX3_sets 39 = .ok (.iload_n 1, 1) := dk_27 (dk_at dksX3_sets_1 17 rfl rfl)
theorem dX3_sets_40 : decode cX3_sets 40 = .ok (.aload_n 0, 1) := dk_42 (dk_at dksX3_sets_1 18 rfl rfl)
theorem dX3_sets_41 : decode cX3_sets 41 = .ok (.iload_n 3, 1) := dk_29 (dk_at dksX3_sets_1 19 rfl rfl)
theorem dX3_sets_42 : decode cX3_sets 42 = .ok (.iconst 0, 1) := dk_3 (dk_at dksX3_sets_1 20 rfl rfl)
theorem dX3_sets_43 : decode cX3_sets 43 = .ok (.invokevirtual 52, 3) := dk_182 0 52 (dk_at dksX3_sets_1 21 rfl rfl)
theorem dX3_sets_46 : decode cX3_sets 46 = .ok (.iload_n 2, 1) := dk_28 (dk_at dksX3_sets_2 0 rfl rfl)
theorem dX3_sets_47 : decode cX3_sets 47 = .ok (.ineg, 1) := dk_116 (dk_at dksX3_sets_2 1 rfl rfl)
theorem dX3_sets_48 : decode cX3_sets 48 = .ok (.invokestatic 71, 3) := dk_184 0 71 (dk_at dksX3_sets_2 2 rfl rfl)
theorem dX3_sets_51 : decode cX3_sets 51 = .ok (.invokestatic 56, 3) := dk_184 0 56 (dk_at dksX3_sets_2 5 rfl rfl)
theorem dX3_sets_54 : decode cX3_sets 54 = .ok (.invokevirtual 48, 3) := dk_182 0 48 (dk_at dksX3_sets_2 8 rfl rfl)
theorem dX3_sets_57 : decode cX3_sets 57 = .ok (.iinc 3 1, 3) := dk_132 3 1 (dk_at dksX3_sets_2 11 rfl rfl)
theorem dX3_sets_60 : decode cX3_sets 60 = .ok (.goto (-58), 3) := dk_167 255 198 (dk_at dksX3_sets_2 14 rfl rfl)
theorem dX3_sets_63 : decode cX3_sets 63 = .ok (.return_, 1) := dk_177 (dk_at dksX3_sets_2 17 rfl rfl)
def dkwX3_holds_2 : List UInt8 := [132, 2, 1, 167, 255, 227, 4, 172]
abbrev dktX3_holds_2 : List UInt8 := dkwX3_holds_2 ++ []
def dkwX3_holds_1 : List UInt8 := [180, 0, 15, 190, 162, 0, 26, 43, 180, 0, 15, 28, 46, 42, 180, 0, 15, 28, 46, 164, 0, 5, 3, 172]
abbrev dktX3_holds_1 : List UInt8 := dkwX3_holds_1 ++ dktX3_holds_2
def dkwX3_holds_0 : List UInt8 := [43, 180, 0, 41, 154, 0, 10, 42, 180, 0, 41, 153, 0, 8, 43, 180, 0, 41, 172, 3, 61, 28, 42]
abbrev dktX3_holds_0 : List UInt8 := dkwX3_holds_0 ++ dktX3_holds_1
theorem dksX3_holds_0 : cX3_holds.data.toList.drop 0 = dktX3_holds_0 := by decide +kernel
theorem dksX3_holds_1 : cX3_holds.data.toList.drop 23 = dktX3_holds_1 := dk_seg dksX3_holds_0 23 rfl rfl
theorem dksX3_holds_2 : cX3_holds.data.toList.drop 47 = dktX3_holds_2 := dk_seg dksX3_holds_1 24 rfl rfl
theorem dX3_holds_0 : decode cX3_holds 0 = .ok (.aload_n 1, 1) := dk_43 (dk_at dksX3_holds_0 0 rfl rfl)
theorem dX3_holds_1 : decode cX3_holds 1 = .ok (.getfield 41, 3) := dk_180 0 41 (dk_at dksX3_holds_0 1 rfl rfl)
theorem dX3_holds_4 : decode cX3_holds 4 = .ok (.ifCond .ne 10, 3) := dk_154 0 10 (dk_at dksX3_holds_0 4 rfl rfl)
theorem dX3_holds_7 : decode cX3_holds 7 = .ok (.aload_n 0, 1) := dk_42 (dk_at dksX3_holds_0 7 rfl rfl)
theorem dX3_holds_8 : decode cX3_holds 8 = .ok (.getfield 41, 3) := dk_180 0 41 (dk_at dksX3_holds_0 8 rfl rfl)
theorem dX3_holds_11 : decode cX3_holds 11 = .ok (.ifCond .eq 8, 3) := dk_153 0 8 (dk_at dksX3_holds_0 11 rfl rfl)
theorem dX3_holds_14 : decode cX3_holds 14 = .ok (.aload_n 1, 1) := dk_43 (dk_at dksX3_holds_0 14 rfl rfl)
theorem dX3_holds_15 : decode cX3_holds 15 = .ok (.getfield 41, 3) := dk_180 0 41 (dk_at dksX3_holds_0 15 rfl rfl)
theorem dX3_holds_18 : decode cX3_holds 18 = .ok (.ireturn, 1) := dk_172 (dk_at dksX3_holds_0 18 rfl rfl)
theorem dX3_holds_19 : decode cX3_holds 19 = .ok (.iconst 0, 1) := dk_3 (dk_at dksX3_holds_0 19 rfl rfl)
theorem dX3_holds_20 : decode cX3_holds 20 = .ok (.istore_n 2, 1) := dk_61 (dk_at dksX3_holds_0 20 rfl rfl)
theorem dX3_holds_21 : decode cX3_holds 21 = .ok (.iload_n 2, 1) := dk_28 (dk_at dksX3_holds_0 21 rfl rfl)
theorem dX3_holds_22 : decode cX3_holds 22 = .ok (.aload_n 0, 1) := dk_42 (dk_at dksX3_holds_0 22 rfl rfl)
theorem dX3_holds_23 : decode cX3_holds 23 = .ok (.getfield 15, 3) := dk_180 0 15 (dk_at dksX3_holds_1 0 rfl rfl)
theorem dX3_holds_26 : decode cX3_holds 26 = .ok (.arraylength, 1) := dk_190 (dk_at dksX3_holds_1 3 rfl rfl)
theorem dX3_holds_27 : decode cX3_holds 27 = .ok (.if_icmp .ge 26, 3) := dk_162 0 26 (dk_at dksX3_holds_1 4 rfl rfl)
theorem dX3_holds_30 : decode cX3_holds 30 = .ok (.aload_n 1, 1) := dk_43 (dk_at dksX3_holds_1 7 rfl rfl)
theorem dX3_holds_31 : decode cX3_holds 31 = .ok (.getfield 15, 3) := dk_180 0 15 (dk_at dksX3_holds_1 8 rfl rfl)
theorem dX3_holds_34 : decode cX3_holds 34 = .ok (.iload_n 2, 1) := dk_28 (dk_at dksX3_holds_1 11 rfl rfl)
theorem dX3_holds_35 : decode cX3_holds 35 = .ok (.iaload, 1) := dk_46 (dk_at dksX3_holds_1 12 rfl rfl)
theorem dX3_holds_36 : decode cX3_holds 36 = .ok (.aload_n 0, 1) := dk_42 (dk_at dksX3_holds_1 13 rfl rfl)
theorem dX3_holds_37 : decode cX3_holds 37 = .ok (.getfield 15, 3) := dk_180 0 15 (dk_at dksX3_holds_1 14 rfl rfl)
theorem dX3_holds_40 : decode cX3_holds 40 = .ok (.iload_n 2, 1) := dk_28 (dk_at dksX3_holds_1 17 rfl rfl)
theorem dX3_holds_41 : decode cX3_holds 41 = .ok (.iaload, 1) := dk_46 (dk_at dksX3_holds_1 18 rfl rfl)
theorem dX3_holds_42 : decode cX3_holds 42 = .ok (.if_icmp .le 5, 3) := dk_164 0 5 (dk_at dksX3_holds_1 19 rfl rfl)
theorem dX3_holds_45 : decode cX3_holds 45 = .ok (.iconst 0, 1) := dk_3 (dk_at dksX3_holds_1 22 rfl rfl)
theorem dX3_holds_46 : decode cX3_holds 46 = .ok (.ireturn, 1) := dk_172 (dk_at dksX3_holds_1 23 rfl rfl)
theorem dX3_holds_47 : decode cX3_holds 47 = .ok (.iinc 2 1, 3) := dk_132 2 1 (dk_at dksX3_holds_2 0 rfl rfl)
theorem dX3_holds_50 : decode cX3_holds 50 = .ok (.goto (-29), 3) := dk_167 255 227 (dk_at dksX3_holds_2 3 rfl rfl)
theorem dX3_holds_53 : decode cX3_holds 53 = .ok (.iconst 1, 1) := dk_4 (dk_at dksX3_holds_2 6 rfl rfl)
theorem dX3_holds_54 : decode cX3_holds 54 = .ok (.ireturn, 1) := dk_172 (dk_at dksX3_holds_2 7 rfl rfl)
def dkwX3_nulls_0 : List UInt8 := [42, 3, 181, 0, 41, 42, 180, 0, 15, 178, 0, 19, 184, 0, 22, 177]
abbrev dktX3_nulls_0 : List UInt8 := dkwX3_nulls_0 ++ []
theorem dksX3_nulls_0 : cX3_nulls.data.toList.drop 0 = dktX3_nulls_0 := by decide +kernel
theorem dX3_nulls_0 : decode cX3_nulls 0 = .ok (.aload_n 0, 1) := dk_42 (dk_at dksX3_nulls_0 0 rfl rfl)
theorem dX3_nulls_1 : decode cX3_nulls 1 = .ok (.iconst 0, 1) := dk_3 (dk_at dksX3_nulls_0 1 rfl rfl)
theorem dX3_nulls_2 : decode cX3_nulls 2 = .ok (.putfield 41, 3) := dk_181 0 41 (dk_at dksX3_nulls_0 2 rfl rfl)
theorem dX3_nulls_5 : decode cX3_nulls 5 = .ok (.aload_n 0, 1) := dk_42 (dk_at dksX3_nulls_0 5 rfl rfl)
theorem dX3_nulls_6 : decode cX3_nulls 6 = .ok (.getfield 15, 3) := dk_180 0 15 (dk_at dksX3_nulls_0 6 rfl rfl)
theorem dX3_nulls_9 : decode cX3_nulls 9 = .ok (.getstatic 19, 3) := dk_178 0 19 (dk_at dksX3_nulls_0 9 rfl rfl)
theorem dX3_nulls_12 : decode cX3_nulls 12 = .ok (.invokestatic 22, 3) := dk_184 0 22 (dk_at dksX3_nulls_0 12 rfl rfl)
theorem dX3_nulls_15 : decode cX3_nulls 15 = .ok (.return_, 1) := dk_177 (dk_at dksX3_nulls_0 15 rfl rfl)
def dkwX3_opens_2 : List UInt8 := [182, 0, 48, 132, 2, 1, 167, 255, 221, 132, 1, 1, 167, 255, 205, 42, 176]
abbrev dktX3_opens_2 : List UInt8 := dkwX3_opens_2 ++ []
def dkwX3_opens_1 : List UInt8 := [162, 0, 33, 42, 27, 28, 27, 28, 159, 0, 7, 27, 154, 0, 9, 178, 0, 19, 167, 0, 6, 178, 0, 45]
abbrev dktX3_opens_1 : List UInt8 := dkwX3_opens_1 ++ dktX3_opens_2
def dkwX3_opens_0 : List UInt8 := [42, 3, 181, 0, 41, 3, 60, 27, 42, 180, 0, 9, 162, 0, 49, 3, 61, 28, 42, 180, 0, 9]
abbrev dktX3_opens_0 : List UInt8 := dkwX3_opens_0 ++ dktX3_opens_1
theorem dksX3_opens_0 : cX3_opens.data.toList.drop 0 = dktX3_opens_0 := by decide +kernel
theorem dksX3_opens_1 : cX3_opens.data.toList.drop 22 = dktX3_opens_1 := dk_seg dksX3_opens_0 22 rfl rfl
theorem dksX3_opens_2 : cX3_opens.data.toList.drop 46 = dktX3_opens_2 := dk_seg dksX3_opens_1 24 rfl rfl
theorem dX3_opens_0 : decode cX3_opens 0 = .ok (.aload_n 0, 1) := dk_42 (dk_at dksX3_opens_0 0 rfl rfl)
theorem dX3_opens_1 : decode cX3_opens 1 = .ok (.iconst 0, 1) := dk_3 (dk_at dksX3_opens_0 1 rfl rfl)
theorem dX3_opens_2 : decode cX3_opens 2 = .ok (.putfield 41, 3) := dk_181 0 41 (dk_at dksX3_opens_0 2 rfl rfl)
theorem dX3_opens_5 : decode cX3_opens 5 = .ok (.iconst 0, 1) := dk_3 (dk_at dksX3_opens_0 5 rfl rfl)
theorem dX3_opens_6 : decode cX3_opens 6 = .ok (.istore_n 1, 1) := dk_60 (dk_at dksX3_opens_0 6 rfl rfl)
theorem dX3_opens_7 : decode cX3_opens 7 = .ok (.iload_n 1, 1) := dk_27 (dk_at dksX3_opens_0 7 rfl rfl)
theorem dX3_opens_8 : decode cX3_opens 8 = .ok (.aload_n 0, 1) := dk_42 (dk_at dksX3_opens_0 8 rfl rfl)
theorem dX3_opens_9 : decode cX3_opens 9 = .ok (.getfield 9, 3) := dk_180 0 9 (dk_at dksX3_opens_0 9 rfl rfl)
theorem dX3_opens_12 : decode cX3_opens 12 = .ok (.if_icmp .ge 49, 3) := dk_162 0 49 (dk_at dksX3_opens_0 12 rfl rfl)
theorem dX3_opens_15 : decode cX3_opens 15 = .ok (.iconst 0, 1) := dk_3 (dk_at dksX3_opens_0 15 rfl rfl)
theorem dX3_opens_16 : decode cX3_opens 16 = .ok (.istore_n 2, 1) := dk_61 (dk_at dksX3_opens_0 16 rfl rfl)
theorem dX3_opens_17 : decode cX3_opens 17 = .ok (.iload_n 2, 1) := dk_28 (dk_at dksX3_opens_0 17 rfl rfl)
theorem dX3_opens_18 : decode cX3_opens 18 = .ok (.aload_n 0, 1) := dk_42 (dk_at dksX3_opens_0 18 rfl rfl)
theorem dX3_opens_19 : decode cX3_opens 19 = .ok (.getfield 9, 3) := dk_180 0 9 (dk_at dksX3_opens_0 19 rfl rfl)
theorem dX3_opens_22 : decode cX3_opens 22 = .ok (.if_icmp .ge 33, 3) := dk_162 0 33 (dk_at dksX3_opens_1 0 rfl rfl)
theorem dX3_opens_25 : decode cX3_opens 25 = .ok (.aload_n 0, 1) := dk_42 (dk_at dksX3_opens_1 3 rfl rfl)
theorem dX3_opens_26 : decode cX3_opens 26 = .ok (.iload_n 1, 1) := dk_27 (dk_at dksX3_opens_1 4 rfl rfl)
theorem dX3_opens_27 : decode cX3_opens 27 = .ok (.iload_n 2, 1) := dk_28 (dk_at dksX3_opens_1 5 rfl rfl)
theorem dX3_opens_28 : decode cX3_opens 28 = .ok (.iload_n 1, 1) := dk_27 (dk_at dksX3_opens_1 6 rfl rfl)
theorem dX3_opens_29 : decode cX3_opens 29 = .ok (.iload_n 2, 1) := dk_28 (dk_at dksX3_opens_1 7 rfl rfl)
theorem dX3_opens_30 : decode cX3_opens 30 = .ok (.if_icmp .eq 7, 3) := dk_159 0 7 (dk_at dksX3_opens_1 8 rfl rfl)
theorem dX3_opens_33 : decode cX3_opens 33 = .ok (.iload_n 1, 1) := dk_27 (dk_at dksX3_opens_1 11 rfl rfl)
theorem dX3_opens_34 : decode cX3_opens 34 = .ok (.ifCond .ne 9, 3) := dk_154 0 9 (dk_at dksX3_opens_1 12 rfl rfl)
theorem dX3_opens_37 : decode cX3_opens 37 = .ok (.getstatic 19, 3) := dk_178 0 19 (dk_at dksX3_opens_1 15 rfl rfl)
theorem dX3_opens_40 : decode cX3_opens 40 = .ok (.goto 6, 3) := dk_167 0 6 (dk_at dksX3_opens_1 18 rfl rfl)
theorem dX3_opens_43 : decode cX3_opens 43 = .ok (.getstatic 45, 3) := dk_178 0 45 (dk_at dksX3_opens_1 21 rfl rfl)
theorem dX3_opens_46 : decode cX3_opens 46 = .ok (.invokevirtual 48, 3) := dk_182 0 48 (dk_at dksX3_opens_2 0 rfl rfl)
theorem dX3_opens_49 : decode cX3_opens 49 = .ok (.iinc 2 1, 3) := dk_132 2 1 (dk_at dksX3_opens_2 3 rfl rfl)
theorem dX3_opens_52 : decode cX3_opens 52 = .ok (.goto (-35), 3) := dk_167 255 221 (dk_at dksX3_opens_2 6 rfl rfl)
theorem dX3_opens_55 : decode cX3_opens 55 = .ok (.iinc 1 1, 3) := dk_132 1 1 (dk_at dksX3_opens_2 9 rfl rfl)
theorem dX3_opens_58 : decode cX3_opens 58 = .ok (.goto (-51), 3) := dk_167 255 205 (dk_at dksX3_opens_2 12 rfl rfl)
theorem dX3_opens_61 : decode cX3_opens 61 = .ok (.aload_n 0, 1) := dk_42 (dk_at dksX3_opens_2 15 rfl rfl)
theorem dX3_opens_62 : decode cX3_opens 62 = .ok (.areturn, 1) := dk_176 (dk_at dksX3_opens_2 16 rfl rfl)
def dkwX3_isTooWide_2 : List UInt8 := [154, 0, 5, 4, 172, 132, 1, 1, 167, 255, 203, 3, 172]
abbrev dktX3_isTooWide_2 : List UInt8 := dkwX3_isTooWide_2 ++ []
def dkwX3_isTooWide_1 : List UInt8 := [178, 0, 45, 159, 0, 25, 42, 180, 0, 15, 27, 46, 4, 122, 17, 254, 112, 17, 1, 144, 184, 0, 80]
abbrev dktX3_isTooWide_1 : List UInt8 := dkwX3_isTooWide_1 ++ dktX3_isTooWide_2
def dkwX3_isTooWide_0 : List UInt8 := [3, 60, 27, 42, 180, 0, 15, 190, 162, 0, 50, 42, 180, 0, 41, 154, 0, 43, 42, 180, 0, 15, 27, 46]
abbrev dktX3_isTooWide_0 : List UInt8 := dkwX3_isTooWide_0 ++ dktX3_isTooWide_1
theorem dksX3_isTooWide_0 : cX3_isTooWide.data.toList.drop 0 = dktX3_isTooWide_0 := by decide +kernel
theorem dksX3_isTooWide_1 : cX3_isTooWide.data.toList.drop 24 = dktX3_isTooWide_1 := dk_seg dksX3_isTooWide_0 24 rfl rfl
theorem dksX3_isTooWide_2 : cX3_isTooWide.data.toList.drop 47 = dktX3_isTooWide_2 := dk_seg dksX3_isTooWide_1 23 rfl rfl
theorem dX3_isTooWide_0 : decode cX3_isTooWide 0 = .ok (.iconst 0, 1) := dk_3 (dk_at dksX3_isTooWide_0 0 rfl rfl)
theorem dX3_isTooWide_1 : decode cX3_isTooWide 1 = .ok (.istore_n 1, 1) := dk_60 (dk_at dksX3_isTooWide_0 1 rfl rfl)
theorem dX3_isTooWide_2 : decode cX3_isTooWide 2 = .ok (.iload_n 1, 1) := dk_27 (dk_at dksX3_isTooWide_0 2 rfl rfl)
theorem dX3_isTooWide_3 : decode cX3_isTooWide 3 = .ok (.aload_n 0, 1) := dk_42 (dk_at dksX3_isTooWide_0 3 rfl rfl)
theorem dX3_isTooWide_4 : decode cX3_isTooWide 4 = .ok (.getfield 15, 3) := dk_180 0 15 (dk_at dksX3_isTooWide_0 4 rfl rfl)
theorem dX3_isTooWide_7 : decode cX3_isTooWide 7 = .ok (.arraylength, 1) := dk_190 (dk_at dksX3_isTooWide_0 7 rfl rfl)
theorem dX3_isTooWide_8 : decode cX3_isTooWide 8 = .ok (.if_icmp .ge 50, 3) := dk_162 0 50 (dk_at dksX3_isTooWide_0 8 rfl rfl)
theorem dX3_isTooWide_11 : decode cX3_isTooWide 11 = .ok (.aload_n 0, 1) := dk_42 (dk_at dksX3_isTooWide_0 11 rfl rfl)
theorem dX3_isTooWide_12 : decode cX3_isTooWide 12 = .ok (.getfield 41, 3) := dk_180 0 41 (dk_at dksX3_isTooWide_0 12 rfl rfl)
theorem dX3_isTooWide_15 : decode cX3_isTooWide 15 = .ok (.ifCond .ne 43, 3) := dk_154 0 43 (dk_at dksX3_isTooWide_0 15 rfl rfl)
theorem dX3_isTooWide_18 : decode cX3_isTooWide 18 = .ok (.aload_n 0, 1) := dk_42 (dk_at dksX3_isTooWide_0 18 rfl rfl)
theorem dX3_isTooWide_19 : decode cX3_isTooWide 19 = .ok (.getfield 15, 3) := dk_180 0 15 (dk_at dksX3_isTooWide_0 19 rfl rfl)
theorem dX3_isTooWide_22 : decode cX3_isTooWide 22 = .ok (.iload_n 1, 1) := dk_27 (dk_at dksX3_isTooWide_0 22 rfl rfl)
theorem dX3_isTooWide_23 : decode cX3_isTooWide 23 = .ok (.iaload, 1) := dk_46 (dk_at dksX3_isTooWide_0 23 rfl rfl)
theorem dX3_isTooWide_24 : decode cX3_isTooWide 24 = .ok (.getstatic 45, 3) := dk_178 0 45 (dk_at dksX3_isTooWide_1 0 rfl rfl)
theorem dX3_isTooWide_27 : decode cX3_isTooWide 27 = .ok (.if_icmp .eq 25, 3) := dk_159 0 25 (dk_at dksX3_isTooWide_1 3 rfl rfl)
theorem dX3_isTooWide_30 : decode cX3_isTooWide 30 = .ok (.aload_n 0, 1) := dk_42 (dk_at dksX3_isTooWide_1 6 rfl rfl)
theorem dX3_isTooWide_31 : decode cX3_isTooWide 31 = .ok (.getfield 15, 3) := dk_180 0 15 (dk_at dksX3_isTooWide_1 7 rfl rfl)
theorem dX3_isTooWide_34 : decode cX3_isTooWide 34 = .ok (.iload_n 1, 1) := dk_27 (dk_at dksX3_isTooWide_1 10 rfl rfl)
theorem dX3_isTooWide_35 : decode cX3_isTooWide 35 = .ok (.iaload, 1) := dk_46 (dk_at dksX3_isTooWide_1 11 rfl rfl)
theorem dX3_isTooWide_36 : decode cX3_isTooWide 36 = .ok (.iconst 1, 1) := dk_4 (dk_at dksX3_isTooWide_1 12 rfl rfl)
theorem dX3_isTooWide_37 : decode cX3_isTooWide 37 = .ok (.ishr, 1) := dk_122 (dk_at dksX3_isTooWide_1 13 rfl rfl)
theorem dX3_isTooWide_38 : decode cX3_isTooWide 38 = .ok (.sipush (-400), 3) := dk_17 254 112 (dk_at dksX3_isTooWide_1 14 rfl rfl)
theorem dX3_isTooWide_41 : decode cX3_isTooWide 41 = .ok (.sipush 400, 3) := dk_17 1 144 (dk_at dksX3_isTooWide_1 17 rfl rfl)
theorem dX3_isTooWide_44 : decode cX3_isTooWide 44 = .ok (.invokestatic 80, 3) := dk_184 0 80 (dk_at dksX3_isTooWide_1 20 rfl rfl)
theorem dX3_isTooWide_47 : decode cX3_isTooWide 47 = .ok (.ifCond .ne 5, 3) := dk_154 0 5 (dk_at dksX3_isTooWide_2 0 rfl rfl)
theorem dX3_isTooWide_50 : decode cX3_isTooWide 50 = .ok (.iconst 1, 1) := dk_4 (dk_at dksX3_isTooWide_2 3 rfl rfl)
theorem dX3_isTooWide_51 : decode cX3_isTooWide 51 = .ok (.ireturn, 1) := dk_172 (dk_at dksX3_isTooWide_2 4 rfl rfl)
theorem dX3_isTooWide_52 : decode cX3_isTooWide 52 = .ok (.iinc 1 1, 3) := dk_132 1 1 (dk_at dksX3_isTooWide_2 5 rfl rfl)
theorem dX3_isTooWide_55 : decode cX3_isTooWide 55 = .ok (.goto (-53), 3) := dk_167 255 203 (dk_at dksX3_isTooWide_2 8 rfl rfl)
theorem dX3_isTooWide_58 : decode cX3_isTooWide 58 = .ok (.iconst 0, 1) := dk_3 (dk_at dksX3_isTooWide_2 11 rfl rfl)
theorem dX3_isTooWide_59 : decode cX3_isTooWide 59 = .ok (.ireturn, 1) := dk_172 (dk_at dksX3_isTooWide_2 12 rfl rfl)
def dkwX3_down_2 : List UInt8 := [132, 1, 1, 167, 255, 207, 42, 182, 0, 74, 177]
abbrev dktX3_down_2 : List UInt8 := dkwX3_down_2 ++ []
def dkwX3_down_1 : List UInt8 := [28, 42, 29, 27, 182, 0, 52, 184, 0, 59, 61, 132, 3, 1, 167, 255, 234, 42, 3, 27, 28, 182, 0, 48]
abbrev dktX3_down_1 : List UInt8 := dkwX3_down_1 ++ dktX3_down_2
def dkwX3_down_0 : List UInt8 := [4, 60, 27, 42, 180, 0, 9, 162, 0, 47, 178, 0, 19, 61, 4, 62, 29, 42, 180, 0, 9, 162, 0, 20]
abbrev dktX3_down_0 : List UInt8 := dkwX3_down_0 ++ dktX3_down_1
theorem dksX3_down_0 : cX3_down.data.toList.drop 0 = dktX3_down_0 := by decide +kernel
theorem dksX3_down_1 : cX3_down.data.toList.drop 24 = dktX3_down_1 := dk_seg dksX3_down_0 24 rfl rfl
theorem dksX3_down_2 : cX3_down.data.toList.drop 48 = dktX3_down_2 := dk_seg dksX3_down_1 24 rfl rfl
theorem dX3_down_0 : decode cX3_down 0 = .ok (.iconst 1, 1) := dk_4 (dk_at dksX3_down_0 0 rfl rfl)
theorem dX3_down_1 : decode cX3_down 1 = .ok (.istore_n 1, 1) := dk_60 (dk_at dksX3_down_0 1 rfl rfl)
theorem dX3_down_2 : decode cX3_down 2 = .ok (.iload_n 1, 1) := dk_27 (dk_at dksX3_down_0 2 rfl rfl)
theorem dX3_down_3 : decode cX3_down 3 = .ok (.aload_n 0, 1) := dk_42 (dk_at dksX3_down_0 3 rfl rfl)
theorem dX3_down_4 : decode cX3_down 4 = .ok (.getfield 9, 3) := dk_180 0 9 (dk_at dksX3_down_0 4 rfl rfl)
theorem dX3_down_7 : decode cX3_down 7 = .ok (.if_icmp .ge 47, 3) := dk_162 0 47 (dk_at dksX3_down_0 7 rfl rfl)
theorem dX3_down_10 : decode cX3_down 10 = .ok (.getstatic 19, 3) := dk_178 0 19 (dk_at dksX3_down_0 10 rfl rfl)
theorem dX3_down_13 : decode cX3_down 13 = .ok (.istore_n 2, 1) := dk_61 (dk_at dksX3_down_0 13 rfl rfl)
theorem dX3_down_14 : decode cX3_down 14 = .ok (.iconst 1, 1) := dk_4 (dk_at dksX3_down_0 14 rfl rfl)
theorem dX3_down_15 : decode cX3_down 15 = .ok (.istore_n 3, 1) := dk_62 (dk_at dksX3_down_0 15 rfl rfl)
theorem dX3_down_16 : decode cX3_down 16 = .ok (.iload_n 3, 1) := dk_29 (dk_at dksX3_down_0 16 rfl rfl)
theorem dX3_down_17 : decode cX3_down 17 = .ok (.aload_n 0, 1) := dk_42 (dk_at dksX3_down_0 17 rfl rfl)
theorem dX3_down_18 : decode cX3_down 18 = .ok (.getfield 9, 3) := dk_180 0 9 (dk_at dksX3_down_0 18 rfl rfl)
theorem dX3_down_21 : decode cX3_down 21 = .ok (.if_icmp .ge 20, 3) := dk_162 0 20 (dk_at dksX3_down_0 21 rfl rfl)
theorem dX3_down_24 : decode cX3_down 24 = .ok (.iload_n 2, 1) := dk_28 (dk_at dksX3_down_1 0 rfl rfl)
theorem dX3_down_25 : decode cX3_down 25 = .ok (.aload_n 0, 1) := dk_42 (dk_at dksX3_down_1 1 rfl rfl)
theorem dX3_down_26 : decode cX3_down 26 = .ok (.iload_n 3, 1) := dk_29 (dk_at dksX3_down_1 2 rfl rfl)
theorem dX3_down_27 : decode cX3_down 27 = .ok (.iload_n 1, 1) := dk_27 (dk_at dksX3_down_1 3 rfl rfl)
theorem dX3_down_28 : decode cX3_down 28 = .ok (.invokevirtual 52, 3) := dk_182 0 52 (dk_at dksX3_down_1 4 rfl rfl)
theorem dX3_down_31 : decode cX3_down 31 = .ok (.invokestatic 59, 3) := dk_184 0 59 (dk_at dksX3_down_1 7 rfl rfl)
theorem dX3_down_34 : decode cX3_down 34 = .ok (.istore_n 2, 1) := dk_61 (dk_at dksX3_down_1 10 rfl rfl)
theorem dX3_down_35 : decode cX3_down 35 = .ok (.iinc 3 1, 3) := dk_132 3 1 (dk_at dksX3_down_1 11 rfl rfl)
theorem dX3_down_38 : decode cX3_down 38 = .ok (.goto (-22), 3) := dk_167 255 234 (dk_at dksX3_down_1 14 rfl rfl)
theorem dX3_down_41 : decode cX3_down 41 = .ok (.aload_n 0, 1) := dk_42 (dk_at dksX3_down_1 17 rfl rfl)
theorem dX3_down_42 : decode cX3_down 42 = .ok (.iconst 0, 1) := dk_3 (dk_at dksX3_down_1 18 rfl rfl)
theorem dX3_down_43 : decode cX3_down 43 = .ok (.iload_n 1, 1) := dk_27 (dk_at dksX3_down_1 19 rfl rfl)
theorem dX3_down_44 : decode cX3_down 44 = .ok (.iload_n 2, 1) := dk_28 (dk_at dksX3_down_1 20 rfl rfl)
theorem dX3_down_45 : decode cX3_down 45 = .ok (.invokevirtual 48, 3) := dk_182 0 48 (dk_at dksX3_down_1 21 rfl rfl)
theorem dX3_down_48 : decode cX3_down 48 = .ok (.iinc 1 1, 3) := dk_132 1 1 (dk_at dksX3_down_2 0 rfl rfl)
theorem dX3_down_51 : decode cX3_down 51 = .ok (.goto (-49), 3) := dk_167 255 207 (dk_at dksX3_down_2 3 rfl rfl)
theorem dX3_down_54 : decode cX3_down 54 = .ok (.aload_n 0, 1) := dk_42 (dk_at dksX3_down_2 6 rfl rfl)
theorem dX3_down_55 : decode cX3_down 55 = .ok (.invokevirtual 74, 3) := dk_182 0 74 (dk_at dksX3_down_2 7 rfl rfl)
theorem dX3_down_58 : decode cX3_down 58 = .ok (.return_, 1) := dk_177 (dk_at dksX3_down_2 10 rfl rfl)
def dkwX3_frees_1 : List UInt8 := [182, 0, 48, 42, 28, 27, 42, 28, 3, 182, 0, 52, 182, 0, 48, 132, 2, 1, 167, 255, 216, 177]
abbrev dktX3_frees_1 : List UInt8 := dkwX3_frees_1 ++ []
def dkwX3_frees_0 : List UInt8 := [3, 61, 28, 42, 180, 0, 9, 162, 0, 38, 28, 27, 160, 0, 6, 167, 0, 24, 42, 27, 28, 178, 0, 45]
abbrev dktX3_frees_0 : List UInt8 := dkwX3_frees_0 ++ dktX3_frees_1
theorem dksX3_frees_0 : cX3_frees.data.toList.drop 0 = dktX3_frees_0 := by decide +kernel
theorem dksX3_frees_1 : cX3_frees.data.toList.drop 24 = dktX3_frees_1 := dk_seg dksX3_frees_0 24 rfl rfl
theorem dX3_frees_0 : decode cX3_frees 0 = .ok (.iconst 0, 1) := dk_3 (dk_at dksX3_frees_0 0 rfl rfl)
theorem dX3_frees_1 : decode cX3_frees 1 = .ok (.istore_n 2, 1) := dk_61 (dk_at dksX3_frees_0 1 rfl rfl)
theorem dX3_frees_2 : decode cX3_frees 2 = .ok (.iload_n 2, 1) := dk_28 (dk_at dksX3_frees_0 2 rfl rfl)
theorem dX3_frees_3 : decode cX3_frees 3 = .ok (.aload_n 0, 1) := dk_42 (dk_at dksX3_frees_0 3 rfl rfl)
theorem dX3_frees_4 : decode cX3_frees 4 = .ok (.getfield 9, 3) := dk_180 0 9 (dk_at dksX3_frees_0 4 rfl rfl)
theorem dX3_frees_7 : decode cX3_frees 7 = .ok (.if_icmp .ge 38, 3) := dk_162 0 38 (dk_at dksX3_frees_0 7 rfl rfl)
theorem dX3_frees_10 : decode cX3_frees 10 = .ok (.iload_n 2, 1) := dk_28 (dk_at dksX3_frees_0 10 rfl rfl)
theorem dX3_frees_11 : decode cX3_frees 11 = .ok (.iload_n 1, 1) := dk_27 (dk_at dksX3_frees_0 11 rfl rfl)
theorem dX3_frees_12 : decode cX3_frees 12 = .ok (.if_icmp .ne 6, 3) := dk_160 0 6 (dk_at dksX3_frees_0 12 rfl rfl)
theorem dX3_frees_15 : decode cX3_frees 15 = .ok (.goto 24, 3) := dk_167 0 24 (dk_at dksX3_frees_0 15 rfl rfl)
theorem dX3_frees_18 : decode cX3_frees 18 = .ok (.aload_n 0, 1) := dk_42 (dk_at dksX3_frees_0 18 rfl rfl)
theorem dX3_frees_19 : decode cX3_frees 19 = .ok (.iload_n 1, 1) := dk_27 (dk_at dksX3_frees_0 19 rfl rfl)
theorem dX3_frees_20 : decode cX3_frees 20 = .ok (.iload_n 2, 1) := dk_28 (dk_at dksX3_frees_0 20 rfl rfl)
theorem dX3_frees_21 : decode cX3_frees 21 = .ok (.getstatic 45, 3) := dk_178 0 45 (dk_at dksX3_frees_0 21 rfl rfl)
theorem dX3_frees_24 : decode cX3_frees 24 = .ok (.invokevirtual 48, 3) := dk_182 0 48 (dk_at dksX3_frees_1 0 rfl rfl)
theorem dX3_frees_27 : decode cX3_frees 27 = .ok (.aload_n 0, 1) := dk_42 (dk_at dksX3_frees_1 3 rfl rfl)
theorem dX3_frees_28 : decode cX3_frees 28 = .ok (.iload_n 2, 1) := dk_28 (dk_at dksX3_frees_1 4 rfl rfl)
theorem dX3_frees_29 : decode cX3_frees 29 = .ok (.iload_n 1, 1) := dk_27 (dk_at dksX3_frees_1 5 rfl rfl)
theorem dX3_frees_30 : decode cX3_frees 30 = .ok (.aload_n 0, 1) := dk_42 (dk_at dksX3_frees_1 6 rfl rfl)
theorem dX3_frees_31 : decode cX3_frees 31 = .ok (.iload_n 2, 1) := dk_28 (dk_at dksX3_frees_1 7 rfl rfl)
theorem dX3_frees_32 : decode cX3_frees 32 = .ok (.iconst 0, 1) := dk_3 (dk_at dksX3_frees_1 8 rfl rfl)
theorem dX3_frees_33 : decode cX3_frees 33 = .ok (.invokevirtual 52, 3) := dk_182 0 52 (dk_at dksX3_frees_1 9 rfl rfl)
theorem dX3_frees_36 : decode cX3_frees 36 = .ok (.invokevirtual 48, 3) := dk_182 0 48 (dk_at dksX3_frees_1 12 rfl rfl)
theorem dX3_frees_39 : decode cX3_frees 39 = .ok (.iinc 2 1, 3) := dk_132 2 1 (dk_at dksX3_frees_1 15 rfl rfl)
theorem dX3_frees_42 : decode cX3_frees 42 = .ok (.goto (-40), 3) := dk_167 255 216 (dk_at dksX3_frees_1 18 rfl rfl)
theorem dX3_frees_45 : decode cX3_frees 45 = .ok (.return_, 1) := dk_177 (dk_at dksX3_frees_1 21 rfl rfl)
def dkwX3_joins_2 : List UInt8 := [180, 0, 15, 28, 46, 184, 0, 77, 79, 132, 2, 1, 167, 255, 223, 177]
abbrev dktX3_joins_2 : List UInt8 := dkwX3_joins_2 ++ []
def dkwX3_joins_1 : List UInt8 := [61, 28, 42, 180, 0, 15, 190, 162, 0, 30, 42, 180, 0, 15, 28, 42, 180, 0, 15, 28, 46, 43]
abbrev dktX3_joins_1 : List UInt8 := dkwX3_joins_1 ++ dktX3_joins_2
def dkwX3_joins_0 : List UInt8 := [43, 180, 0, 41, 153, 0, 4, 177, 42, 180, 0, 41, 153, 0, 11, 42, 43, 182, 0, 31, 167, 0, 41, 3]
abbrev dktX3_joins_0 : List UInt8 := dkwX3_joins_0 ++ dktX3_joins_1
theorem dksX3_joins_0 : cX3_joins.data.toList.drop 0 = dktX3_joins_0 := by decide +kernel
theorem dksX3_joins_1 : cX3_joins.data.toList.drop 24 = dktX3_joins_1 := dk_seg dksX3_joins_0 24 rfl rfl
theorem dksX3_joins_2 : cX3_joins.data.toList.drop 46 = dktX3_joins_2 := dk_seg dksX3_joins_1 22 rfl rfl
theorem dX3_joins_0 : decode cX3_joins 0 = .ok (.aload_n 1, 1) := dk_43 (dk_at dksX3_joins_0 0 rfl rfl)
theorem dX3_joins_1 : decode cX3_joins 1 = .ok (.getfield 41, 3) := dk_180 0 41 (dk_at dksX3_joins_0 1 rfl rfl)
theorem dX3_joins_4 : decode cX3_joins 4 = .ok (.ifCond .eq 4, 3) := dk_153 0 4 (dk_at dksX3_joins_0 4 rfl rfl)
theorem dX3_joins_7 : decode cX3_joins 7 = .ok (.return_, 1) := dk_177 (dk_at dksX3_joins_0 7 rfl rfl)
theorem dX3_joins_8 : decode cX3_joins 8 = .ok (.aload_n 0, 1) := dk_42 (dk_at dksX3_joins_0 8 rfl rfl)
theorem dX3_joins_9 : decode cX3_joins 9 = .ok (.getfield 41, 3) := dk_180 0 41 (dk_at dksX3_joins_0 9 rfl rfl)
theorem dX3_joins_12 : decode cX3_joins 12 = .ok (.ifCond .eq 11, 3) := dk_153 0 11 (dk_at dksX3_joins_0 12 rfl rfl)
theorem dX3_joins_15 : decode cX3_joins 15 = .ok (.aload_n 0, 1) := dk_42 (dk_at dksX3_joins_0 15 rfl rfl)
theorem dX3_joins_16 : decode cX3_joins 16 = .ok (.aload_n 1, 1) := dk_43 (dk_at dksX3_joins_0 16 rfl rfl)
theorem dX3_joins_17 : decode cX3_joins 17 = .ok (.invokevirtual 31, 3) := dk_182 0 31 (dk_at dksX3_joins_0 17 rfl rfl)
theorem dX3_joins_20 : decode cX3_joins 20 = .ok (.goto 41, 3) := dk_167 0 41 (dk_at dksX3_joins_0 20 rfl rfl)
theorem dX3_joins_23 : decode cX3_joins 23 = .ok (.iconst 0, 1) := dk_3 (dk_at dksX3_joins_0 23 rfl rfl)
theorem dX3_joins_24 : decode cX3_joins 24 = .ok (.istore_n 2, 1) := dk_61 (dk_at dksX3_joins_1 0 rfl rfl)
theorem dX3_joins_25 : decode cX3_joins 25 = .ok (.iload_n 2, 1) := dk_28 (dk_at dksX3_joins_1 1 rfl rfl)
theorem dX3_joins_26 : decode cX3_joins 26 = .ok (.aload_n 0, 1) := dk_42 (dk_at dksX3_joins_1 2 rfl rfl)
theorem dX3_joins_27 : decode cX3_joins 27 = .ok (.getfield 15, 3) := dk_180 0 15 (dk_at dksX3_joins_1 3 rfl rfl)
theorem dX3_joins_30 : decode cX3_joins 30 = .ok (.arraylength, 1) := dk_190 (dk_at dksX3_joins_1 6 rfl rfl)
theorem dX3_joins_31 : decode cX3_joins 31 = .ok (.if_icmp .ge 30, 3) := dk_162 0 30 (dk_at dksX3_joins_1 7 rfl rfl)
theorem dX3_joins_34 : decode cX3_joins 34 = .ok (.aload_n 0, 1) := dk_42 (dk_at dksX3_joins_1 10 rfl rfl)
theorem dX3_joins_35 : decode cX3_joins 35 = .ok (.getfield 15, 3) := dk_180 0 15 (dk_at dksX3_joins_1 11 rfl rfl)
theorem dX3_joins_38 : decode cX3_joins 38 = .ok (.iload_n 2, 1) := dk_28 (dk_at dksX3_joins_1 14 rfl rfl)
theorem dX3_joins_39 : decode cX3_joins 39 = .ok (.aload_n 0, 1) := dk_42 (dk_at dksX3_joins_1 15 rfl rfl)
theorem dX3_joins_40 : decode cX3_joins 40 = .ok (.getfield 15, 3) := dk_180 0 15 (dk_at dksX3_joins_1 16 rfl rfl)
theorem dX3_joins_43 : decode cX3_joins 43 = .ok (.iload_n 2, 1) := dk_28 (dk_at dksX3_joins_1 19 rfl rfl)
theorem dX3_joins_44 : decode cX3_joins 44 = .ok (.iaload, 1) := dk_46 (dk_at dksX3_joins_1 20 rfl rfl)
theorem dX3_joins_45 : decode cX3_joins 45 = .ok (.aload_n 1, 1) := dk_43 (dk_at dksX3_joins_1 21 rfl rfl)
theorem dX3_joins_46 : decode cX3_joins 46 = .ok (.getfield 15, 3) := dk_180 0 15 (dk_at dksX3_joins_2 0 rfl rfl)
theorem dX3_joins_49 : decode cX3_joins 49 = .ok (.iload_n 2, 1) := dk_28 (dk_at dksX3_joins_2 3 rfl rfl)
theorem dX3_joins_50 : decode cX3_joins 50 = .ok (.iaload, 1) := dk_46 (dk_at dksX3_joins_2 4 rfl rfl)
theorem dX3_joins_51 : decode cX3_joins 51 = .ok (.invokestatic 77, 3) := dk_184 0 77 (dk_at dksX3_joins_2 5 rfl rfl)
theorem dX3_joins_54 : decode cX3_joins 54 = .ok (.iastore, 1) := dk_79 (dk_at dksX3_joins_2 8 rfl rfl)
theorem dX3_joins_55 : decode cX3_joins 55 = .ok (.iinc 2 1, 3) := dk_132 2 1 (dk_at dksX3_joins_2 9 rfl rfl)
theorem dX3_joins_58 : decode cX3_joins 58 = .ok (.goto (-33), 3) := dk_167 255 223 (dk_at dksX3_joins_2 12 rfl rfl)
theorem dX3_joins_61 : decode cX3_joins 61 = .ok (.return_, 1) := dk_177 (dk_at dksX3_joins_2 15 rfl rfl)
def dkwX3_meets_2 : List UInt8 := [184, 0, 59, 79, 132, 2, 1, 167, 255, 216, 42, 180, 0, 41, 154, 0, 7, 42, 182, 0, 74, 177]
abbrev dktX3_meets_2 : List UInt8 := dkwX3_meets_2 ++ []
def dkwX3_meets_1 : List UInt8 := [42, 180, 0, 41, 154, 0, 30, 42, 180, 0, 15, 28, 42, 180, 0, 15, 28, 46, 43, 180, 0, 15, 28, 46]
abbrev dktX3_meets_1 : List UInt8 := dkwX3_meets_1 ++ dktX3_meets_2
def dkwX3_meets_0 : List UInt8 := [42, 89, 180, 0, 41, 43, 180, 0, 41, 128, 181, 0, 41, 3, 61, 28, 42, 180, 0, 15, 190, 162, 0, 37]
abbrev dktX3_meets_0 : List UInt8 := dkwX3_meets_0 ++ dktX3_meets_1
theorem dksX3_meets_0 : cX3_meets.data.toList.drop 0 = dktX3_meets_0 := by decide +kernel
theorem dksX3_meets_1 : cX3_meets.data.toList.drop 24 = dktX3_meets_1 := dk_seg dksX3_meets_0 24 rfl rfl
theorem dksX3_meets_2 : cX3_meets.data.toList.drop 48 = dktX3_meets_2 := dk_seg dksX3_meets_1 24 rfl rfl
theorem dX3_meets_0 : decode cX3_meets 0 = .ok (.aload_n 0, 1) := dk_42 (dk_at dksX3_meets_0 0 rfl rfl)
theorem dX3_meets_1 : decode cX3_meets 1 = .ok (.dup, 1) := dk_89 (dk_at dksX3_meets_0 1 rfl rfl)
theorem dX3_meets_2 : decode cX3_meets 2 = .ok (.getfield 41, 3) := dk_180 0 41 (dk_at dksX3_meets_0 2 rfl rfl)
theorem dX3_meets_5 : decode cX3_meets 5 = .ok (.aload_n 1, 1) := dk_43 (dk_at dksX3_meets_0 5 rfl rfl)
theorem dX3_meets_6 : decode cX3_meets 6 = .ok (.getfield 41, 3) := dk_180 0 41 (dk_at dksX3_meets_0 6 rfl rfl)
theorem dX3_meets_9 : decode cX3_meets 9 = .ok (.ior, 1) := dk_128 (dk_at dksX3_meets_0 9 rfl rfl)
theorem dX3_meets_10 : decode cX3_meets 10 = .ok (.putfield 41, 3) := dk_181 0 41 (dk_at dksX3_meets_0 10 rfl rfl)
theorem dX3_meets_13 : decode cX3_meets 13 = .ok (.iconst 0, 1) := dk_3 (dk_at dksX3_meets_0 13 rfl rfl)
theorem dX3_meets_14 : decode cX3_meets 14 = .ok (.istore_n 2, 1) := dk_61 (dk_at dksX3_meets_0 14 rfl rfl)
theorem dX3_meets_15 : decode cX3_meets 15 = .ok (.iload_n 2, 1) := dk_28 (dk_at dksX3_meets_0 15 rfl rfl)
theorem dX3_meets_16 : decode cX3_meets 16 = .ok (.aload_n 0, 1) := dk_42 (dk_at dksX3_meets_0 16 rfl rfl)
theorem dX3_meets_17 : decode cX3_meets 17 = .ok (.getfield 15, 3) := dk_180 0 15 (dk_at dksX3_meets_0 17 rfl rfl)
theorem dX3_meets_20 : decode cX3_meets 20 = .ok (.arraylength, 1) := dk_190 (dk_at dksX3_meets_0 20 rfl rfl)
theorem dX3_meets_21 : decode cX3_meets 21 = .ok (.if_icmp .ge 37, 3) := dk_162 0 37 (dk_at dksX3_meets_0 21 rfl rfl)
theorem dX3_meets_24 : decode cX3_meets 24 = .ok (.aload_n 0, 1) := dk_42 (dk_at dksX3_meets_1 0 rfl rfl)
theorem dX3_meets_25 : decode cX3_meets 25 = .ok (.getfield 41, 3) := dk_180 0 41 (dk_at dksX3_meets_1 1 rfl rfl)
theorem dX3_meets_28 : decode cX3_meets 28 = .ok (.ifCond .ne 30, 3) := dk_154 0 30 (dk_at dksX3_meets_1 4 rfl rfl)
theorem dX3_meets_31 : decode cX3_meets 31 = .ok (.aload_n 0, 1) := dk_42 (dk_at dksX3_meets_1 7 rfl rfl)
theorem dX3_meets_32 : decode cX3_meets 32 = .ok (.getfield 15, 3) := dk_180 0 15 (dk_at dksX3_meets_1 8 rfl rfl)
theorem dX3_meets_35 : decode cX3_meets 35 = .ok (.iload_n 2, 1) := dk_28 (dk_at dksX3_meets_1 11 rfl rfl)
theorem dX3_meets_36 : decode cX3_meets 36 = .ok (.aload_n 0, 1) := dk_42 (dk_at dksX3_meets_1 12 rfl rfl)
theorem dX3_meets_37 : decode cX3_meets 37 = .ok (.getfield 15, 3) := dk_180 0 15 (dk_at dksX3_meets_1 13 rfl rfl)
theorem dX3_meets_40 : decode cX3_meets 40 = .ok (.iload_n 2, 1) := dk_28 (dk_at dksX3_meets_1 16 rfl rfl)
theorem dX3_meets_41 : decode cX3_meets 41 = .ok (.iaload, 1) := dk_46 (dk_at dksX3_meets_1 17 rfl rfl)
theorem dX3_meets_42 : decode cX3_meets 42 = .ok (.aload_n 1, 1) := dk_43 (dk_at dksX3_meets_1 18 rfl rfl)
theorem dX3_meets_43 : decode cX3_meets 43 = .ok (.getfield 15, 3) := dk_180 0 15 (dk_at dksX3_meets_1 19 rfl rfl)
theorem dX3_meets_46 : decode cX3_meets 46 = .ok (.iload_n 2, 1) := dk_28 (dk_at dksX3_meets_1 22 rfl rfl)
theorem dX3_meets_47 : decode cX3_meets 47 = .ok (.iaload, 1) := dk_46 (dk_at dksX3_meets_1 23 rfl rfl)
theorem dX3_meets_48 : decode cX3_meets 48 = .ok (.invokestatic 59, 3) := dk_184 0 59 (dk_at dksX3_meets_2 0 rfl rfl)
theorem dX3_meets_51 : decode cX3_meets 51 = .ok (.iastore, 1) := dk_79 (dk_at dksX3_meets_2 3 rfl rfl)
theorem dX3_meets_52 : decode cX3_meets 52 = .ok (.iinc 2 1, 3) := dk_132 2 1 (dk_at dksX3_meets_2 4 rfl rfl)
theorem dX3_meets_55 : decode cX3_meets 55 = .ok (.goto (-40), 3) := dk_167 255 216 (dk_at dksX3_meets_2 7 rfl rfl)
theorem dX3_meets_58 : decode cX3_meets 58 = .ok (.aload_n 0, 1) := dk_42 (dk_at dksX3_meets_2 10 rfl rfl)
theorem dX3_meets_59 : decode cX3_meets 59 = .ok (.getfield 41, 3) := dk_180 0 41 (dk_at dksX3_meets_2 11 rfl rfl)
theorem dX3_meets_62 : decode cX3_meets 62 = .ok (.ifCond .ne 7, 3) := dk_154 0 7 (dk_at dksX3_meets_2 14 rfl rfl)
theorem dX3_meets_65 : decode cX3_meets 65 = .ok (.aload_n 0, 1) := dk_42 (dk_at dksX3_meets_2 17 rfl rfl)
theorem dX3_meets_66 : decode cX3_meets 66 = .ok (.invokevirtual 74, 3) := dk_182 0 74 (dk_at dksX3_meets_2 18 rfl rfl)
theorem dX3_meets_69 : decode cX3_meets 69 = .ok (.return_, 1) := dk_177 (dk_at dksX3_meets_2 21 rfl rfl)
def dkwX3_hasAll_5 : List UInt8 := [167, 255, 161, 132, 3, 1, 167, 255, 144, 4, 172]
abbrev dktX3_hasAll_5 : List UInt8 := dkwX3_hasAll_5 ++ []
def dkwX3_hasAll_4 : List UInt8 := [122, 104, 164, 0, 19, 167, 0, 14, 21, 5, 27, 21, 6, 4, 122, 104, 161, 0, 5, 3, 172, 132, 4, 1]
abbrev dktX3_hasAll_4 : List UInt8 := dkwX3_hasAll_4 ++ dktX3_hasAll_5
def dkwX3_hasAll_3 : List UInt8 := [54, 6, 21, 6, 178, 0, 45, 159, 0, 38, 21, 6, 4, 126, 4, 160, 0, 17, 21, 5, 27, 21, 6, 4]
abbrev dktX3_hasAll_3 : List UInt8 := dkwX3_hasAll_3 ++ dktX3_hasAll_4
def dkwX3_hasAll_2 : List UInt8 := [154, 0, 7, 3, 167, 0, 9, 44, 21, 4, 4, 100, 46, 100, 54, 5, 42, 29, 21, 4, 182, 0, 52]
abbrev dktX3_hasAll_2 : List UInt8 := dkwX3_hasAll_2 ++ dktX3_hasAll_3
def dkwX3_hasAll_1 : List UInt8 := [42, 180, 0, 9, 162, 0, 92, 29, 154, 0, 7, 3, 167, 0, 8, 44, 29, 4, 100, 46, 21, 4]
abbrev dktX3_hasAll_1 : List UInt8 := dkwX3_hasAll_1 ++ dktX3_hasAll_2
def dkwX3_hasAll_0 : List UInt8 := [42, 180, 0, 41, 153, 0, 5, 3, 172, 3, 62, 29, 42, 180, 0, 9, 162, 0, 110, 3, 54, 4, 21, 4]
abbrev dktX3_hasAll_0 : List UInt8 := dkwX3_hasAll_0 ++ dktX3_hasAll_1
theorem dksX3_hasAll_0 : cX3_hasAll.data.toList.drop 0 = dktX3_hasAll_0 := by decide +kernel
theorem dksX3_hasAll_1 : cX3_hasAll.data.toList.drop 24 = dktX3_hasAll_1 := dk_seg dksX3_hasAll_0 24 rfl rfl
theorem dksX3_hasAll_2 : cX3_hasAll.data.toList.drop 46 = dktX3_hasAll_2 := dk_seg dksX3_hasAll_1 22 rfl rfl
theorem dksX3_hasAll_3 : cX3_hasAll.data.toList.drop 69 = dktX3_hasAll_3 := dk_seg dksX3_hasAll_2 23 rfl rfl
theorem dksX3_hasAll_4 : cX3_hasAll.data.toList.drop 93 = dktX3_hasAll_4 := dk_seg dksX3_hasAll_3 24 rfl rfl
theorem dksX3_hasAll_5 : cX3_hasAll.data.toList.drop 117 = dktX3_hasAll_5 := dk_seg dksX3_hasAll_4 24 rfl rfl
theorem dX3_hasAll_0 : decode cX3_hasAll 0 = .ok (.aload_n 0, 1) := dk_42 (dk_at dksX3_hasAll_0 0 rfl rfl)
theorem dX3_hasAll_1 : decode cX3_hasAll 1 = .ok (.getfield 41, 3) := dk_180 0 41 (dk_at dksX3_hasAll_0 1 rfl rfl)
theorem dX3_hasAll_4 : decode cX3_hasAll 4 = .ok (.ifCond .eq 5, 3) := dk_153 0 5 (dk_at dksX3_hasAll_0 4 rfl rfl)
theorem dX3_hasAll_7 : decode cX3_hasAll 7 = .ok (.iconst 0, 1) := dk_3 (dk_at dksX3_hasAll_0 7 rfl rfl)
theorem dX3_hasAll_8 : decode cX3_hasAll 8 = .ok (.ireturn, 1) := dk_172 (dk_at dksX3_hasAll_0 8 rfl rfl)
theorem dX3_hasAll_9 : decode cX3_hasAll 9 = .ok (.iconst 0, 1) := dk_3 (dk_at dksX3_hasAll_0 9 rfl rfl)
theorem dX3_hasAll_10 : decode cX3_hasAll 10 = .ok (.istore_n 3, 1) := dk_62 (dk_at dksX3_hasAll_0 10 rfl rfl)
theorem dX3_hasAll_11 : decode cX3_hasAll 11 = .ok (.iload_n 3, 1) := dk_29 (dk_at dksX3_hasAll_0 11 rfl rfl)
theorem dX3_hasAll_12 : decode cX3_hasAll 12 = .ok (.aload_n 0, 1) := dk_42 (dk_at dksX3_hasAll_0 12 rfl rfl)
theorem dX3_hasAll_13 : decode cX3_hasAll 13 = .ok (.getfield 9, 3) := dk_180 0 9 (dk_at dksX3_hasAll_0 13 rfl rfl)
theorem dX3_hasAll_16 : decode cX3_hasAll 16 = .ok (.if_icmp .ge 110, 3) := dk_162 0 110 (dk_at dksX3_hasAll_0 16 rfl rfl)
theorem dX3_hasAll_19 : decode cX3_hasAll 19 = .ok (.iconst 0, 1) := dk_3 (dk_at dksX3_hasAll_0 19 rfl rfl)
theorem dX3_hasAll_20 : decode cX3_hasAll 20 = .ok (.istore 4, 2) := dk_54 4 (dk_at dksX3_hasAll_0 20 rfl rfl)
theorem dX3_hasAll_22 : decode cX3_hasAll 22 = .ok (.iload 4, 2) := dk_21 4 (dk_at dksX3_hasAll_0 22 rfl rfl)
theorem dX3_hasAll_24 : decode cX3_hasAll 24 = .ok (.aload_n 0, 1) := dk_42 (dk_at dksX3_hasAll_1 0 rfl rfl)
theorem dX3_hasAll_25 : decode cX3_hasAll 25 = .ok (.getfield 9, 3) := dk_180 0 9 (dk_at dksX3_hasAll_1 1 rfl rfl)
theorem dX3_hasAll_28 : decode cX3_hasAll 28 = .ok (.if_icmp .ge 92, 3) := dk_162 0 92 (dk_at dksX3_hasAll_1 4 rfl rfl)
theorem dX3_hasAll_31 : decode cX3_hasAll 31 = .ok (.iload_n 3, 1) := dk_29 (dk_at dksX3_hasAll_1 7 rfl rfl)
theorem dX3_hasAll_32 : decode cX3_hasAll 32 = .ok (.ifCond .ne 7, 3) := dk_154 0 7 (dk_at dksX3_hasAll_1 8 rfl rfl)
theorem dX3_hasAll_35 : decode cX3_hasAll 35 = .ok (.iconst 0, 1) := dk_3 (dk_at dksX3_hasAll_1 11 rfl rfl)
theorem dX3_hasAll_36 : decode cX3_hasAll 36 = .ok (.goto 8, 3) := dk_167 0 8 (dk_at dksX3_hasAll_1 12 rfl rfl)
theorem dX3_hasAll_39 : decode cX3_hasAll 39 = .ok (.aload_n 2, 1) := dk_44 (dk_at dksX3_hasAll_1 15 rfl rfl)
theorem dX3_hasAll_40 : decode cX3_hasAll 40 = .ok (.iload_n 3, 1) := dk_29 (dk_at dksX3_hasAll_1 16 rfl rfl)
theorem dX3_hasAll_41 : decode cX3_hasAll 41 = .ok (.iconst 1, 1) := dk_4 (dk_at dksX3_hasAll_1 17 rfl rfl)
theorem dX3_hasAll_42 : decode cX3_hasAll 42 = .ok (.isub, 1) := dk_100 (dk_at dksX3_hasAll_1 18 rfl rfl)
theorem dX3_hasAll_43 : decode cX3_hasAll 43 = .ok (.iaload, 1) := dk_46 (dk_at dksX3_hasAll_1 19 rfl rfl)
theorem dX3_hasAll_44 : decode cX3_hasAll 44 = .ok (.iload 4, 2) := dk_21 4 (dk_at dksX3_hasAll_1 20 rfl rfl)
theorem dX3_hasAll_46 : decode cX3_hasAll 46 = .ok (.ifCond .ne 7, 3) := dk_154 0 7 (dk_at dksX3_hasAll_2 0 rfl rfl)
theorem dX3_hasAll_49 : decode cX3_hasAll 49 = .ok (.iconst 0, 1) := dk_3 (dk_at dksX3_hasAll_2 3 rfl rfl)
theorem dX3_hasAll_50 : decode cX3_hasAll 50 = .ok (.goto 9, 3) := dk_167 0 9 (dk_at dksX3_hasAll_2 4 rfl rfl)
theorem dX3_hasAll_53 : decode cX3_hasAll 53 = .ok (.aload_n 2, 1) := dk_44 (dk_at dksX3_hasAll_2 7 rfl rfl)
theorem dX3_hasAll_54 : decode cX3_hasAll 54 = .ok (.iload 4, 2) := dk_21 4 (dk_at dksX3_hasAll_2 8 rfl rfl)
theorem dX3_hasAll_56 : decode cX3_hasAll 56 = .ok (.iconst 1, 1) := dk_4 (dk_at dksX3_hasAll_2 10 rfl rfl)
theorem dX3_hasAll_57 : decode cX3_hasAll 57 = .ok (.isub, 1) := dk_100 (dk_at dksX3_hasAll_2 11 rfl rfl)
theorem dX3_hasAll_58 : decode cX3_hasAll 58 = .ok (.iaload, 1) := dk_46 (dk_at dksX3_hasAll_2 12 rfl rfl)
theorem dX3_hasAll_59 : decode cX3_hasAll 59 = .ok (.isub, 1) := dk_100 (dk_at dksX3_hasAll_2 13 rfl rfl)
theorem dX3_hasAll_60 : decode cX3_hasAll 60 = .ok (.istore 5, 2) := dk_54 5 (dk_at dksX3_hasAll_2 14 rfl rfl)
theorem dX3_hasAll_62 : decode cX3_hasAll 62 = .ok (.aload_n 0, 1) := dk_42 (dk_at dksX3_hasAll_2 16 rfl rfl)
theorem dX3_hasAll_63 : decode cX3_hasAll 63 = .ok (.iload_n 3, 1) := dk_29 (dk_at dksX3_hasAll_2 17 rfl rfl)
theorem dX3_hasAll_64 : decode cX3_hasAll 64 = .ok (.iload 4, 2) := dk_21 4 (dk_at dksX3_hasAll_2 18 rfl rfl)
theorem dX3_hasAll_66 : decode cX3_hasAll 66 = .ok (.invokevirtual 52, 3) := dk_182 0 52 (dk_at dksX3_hasAll_2 20 rfl rfl)
theorem dX3_hasAll_69 : decode cX3_hasAll 69 = .ok (.istore 6, 2) := dk_54 6 (dk_at dksX3_hasAll_3 0 rfl rfl)
theorem dX3_hasAll_71 : decode cX3_hasAll 71 = .ok (.iload 6, 2) := dk_21 6 (dk_at dksX3_hasAll_3 2 rfl rfl)
theorem dX3_hasAll_73 : decode cX3_hasAll 73 = .ok (.getstatic 45, 3) := dk_178 0 45 (dk_at dksX3_hasAll_3 4 rfl rfl)
theorem dX3_hasAll_76 : decode cX3_hasAll 76 = .ok (.if_icmp .eq 38, 3) := dk_159 0 38 (dk_at dksX3_hasAll_3 7 rfl rfl)
theorem dX3_hasAll_79 : decode cX3_hasAll 79 = .ok (.iload 6, 2) := dk_21 6 (dk_at dksX3_hasAll_3 10 rfl rfl)
theorem dX3_hasAll_81 : decode cX3_hasAll 81 = .ok (.iconst 1, 1) := dk_4 (dk_at dksX3_hasAll_3 12 rfl rfl)
theorem dX3_hasAll_82 : decode cX3_hasAll 82 = .ok (.iand, 1) := dk_126 (dk_at dksX3_hasAll_3 13 rfl rfl)
theorem dX3_hasAll_83 : decode cX3_hasAll 83 = .ok (.iconst 1, 1) := dk_4 (dk_at dksX3_hasAll_3 14 rfl rfl)
theorem dX3_hasAll_84 : decode cX3_hasAll 84 = .ok (.if_icmp .ne 17, 3) := dk_160 0 17 (dk_at dksX3_hasAll_3 15 rfl rfl)
theorem dX3_hasAll_87 : decode cX3_hasAll 87 = .ok (.iload 5, 2) := dk_21 5 (dk_at dksX3_hasAll_3 18 rfl rfl)
theorem dX3_hasAll_89 : decode cX3_hasAll 89 = .ok (.iload_n 1, 1) := dk_27 (dk_at dksX3_hasAll_3 20 rfl rfl)
theorem dX3_hasAll_90 : decode cX3_hasAll 90 = .ok (.iload 6, 2) := dk_21 6 (dk_at dksX3_hasAll_3 21 rfl rfl)
theorem dX3_hasAll_92 : decode cX3_hasAll 92 = .ok (.iconst 1, 1) := dk_4 (dk_at dksX3_hasAll_3 23 rfl rfl)
theorem dX3_hasAll_93 : decode cX3_hasAll 93 = .ok (.ishr, 1) := dk_122 (dk_at dksX3_hasAll_4 0 rfl rfl)
theorem dX3_hasAll_94 : decode cX3_hasAll 94 = .ok (.imul, 1) := dk_104 (dk_at dksX3_hasAll_4 1 rfl rfl)
theorem dX3_hasAll_95 : decode cX3_hasAll 95 = .ok (.if_icmp .le 19, 3) := dk_164 0 19 (dk_at dksX3_hasAll_4 2 rfl rfl)
theorem dX3_hasAll_98 : decode cX3_hasAll 98 = .ok (.goto 14, 3) := dk_167 0 14 (dk_at dksX3_hasAll_4 5 rfl rfl)
theorem dX3_hasAll_101 : decode cX3_hasAll 101 = .ok (.iload 5, 2) := dk_21 5 (dk_at dksX3_hasAll_4 8 rfl rfl)
theorem dX3_hasAll_103 : decode cX3_hasAll 103 = .ok (.iload_n 1, 1) := dk_27 (dk_at dksX3_hasAll_4 10 rfl rfl)
theorem dX3_hasAll_104 : decode cX3_hasAll 104 = .ok (.iload 6, 2) := dk_21 6 (dk_at dksX3_hasAll_4 11 rfl rfl)
theorem dX3_hasAll_106 : decode cX3_hasAll 106 = .ok (.iconst 1, 1) := dk_4 (dk_at dksX3_hasAll_4 13 rfl rfl)
theorem dX3_hasAll_107 : decode cX3_hasAll 107 = .ok (.ishr, 1) := dk_122 (dk_at dksX3_hasAll_4 14 rfl rfl)
theorem dX3_hasAll_108 : decode cX3_hasAll 108 = .ok (.imul, 1) := dk_104 (dk_at dksX3_hasAll_4 15 rfl rfl)
theorem dX3_hasAll_109 : decode cX3_hasAll 109 = .ok (.if_icmp .lt 5, 3) := dk_161 0 5 (dk_at dksX3_hasAll_4 16 rfl rfl)
theorem dX3_hasAll_112 : decode cX3_hasAll 112 = .ok (.iconst 0, 1) := dk_3 (dk_at dksX3_hasAll_4 19 rfl rfl)
theorem dX3_hasAll_113 : decode cX3_hasAll 113 = .ok (.ireturn, 1) := dk_172 (dk_at dksX3_hasAll_4 20 rfl rfl)
theorem dX3_hasAll_114 : decode cX3_hasAll 114 = .ok (.iinc 4 1, 3) := dk_132 4 1 (dk_at dksX3_hasAll_4 21 rfl rfl)
theorem dX3_hasAll_117 : decode cX3_hasAll 117 = .ok (.goto (-95), 3) := dk_167 255 161 (dk_at dksX3_hasAll_5 0 rfl rfl)
theorem dX3_hasAll_120 : decode cX3_hasAll 120 = .ok (.iinc 3 1, 3) := dk_132 3 1 (dk_at dksX3_hasAll_5 3 rfl rfl)
theorem dX3_hasAll_123 : decode cX3_hasAll 123 = .ok (.goto (-112), 3) := dk_167 255 144 (dk_at dksX3_hasAll_5 6 rfl rfl)
theorem dX3_hasAll_126 : decode cX3_hasAll 126 = .ok (.iconst 1, 1) := dk_4 (dk_at dksX3_hasAll_5 9 rfl rfl)
theorem dX3_hasAll_127 : decode cX3_hasAll 127 = .ok (.ireturn, 1) := dk_172 (dk_at dksX3_hasAll_5 10 rfl rfl)
def dkwX3_told_3 : List UInt8 := [167, 0, 9, 29, 21, 5, 4, 122, 96, 172]
abbrev dktX3_told_3 : List UInt8 := dkwX3_told_3 ++ []
def dkwX3_told_2 : List UInt8 := [5, 112, 4, 160, 0, 10, 21, 5, 4, 126, 167, 0, 23, 21, 4, 154, 0, 12, 29, 21, 5, 4, 122, 100]
abbrev dktX3_told_2 : List UInt8 := dkwX3_told_2 ++ dktX3_told_3
def dkwX3_told_1 : List UInt8 := [21, 5, 178, 0, 45, 160, 0, 17, 21, 4, 5, 160, 0, 9, 17, 39, 16, 167, 0, 4, 3, 172, 21, 4]
abbrev dktX3_told_1 : List UInt8 := dkwX3_told_1 ++ dktX3_told_2
def dkwX3_told_0 : List UInt8 := [21, 4, 5, 162, 0, 12, 42, 27, 28, 182, 0, 52, 167, 0, 9, 42, 28, 27, 182, 0, 52, 54, 5]
abbrev dktX3_told_0 : List UInt8 := dkwX3_told_0 ++ dktX3_told_1
theorem dksX3_told_0 : cX3_told.data.toList.drop 0 = dktX3_told_0 := by decide +kernel
theorem dksX3_told_1 : cX3_told.data.toList.drop 23 = dktX3_told_1 := dk_seg dksX3_told_0 23 rfl rfl
theorem dksX3_told_2 : cX3_told.data.toList.drop 47 = dktX3_told_2 := dk_seg dksX3_told_1 24 rfl rfl
theorem dksX3_told_3 : cX3_told.data.toList.drop 71 = dktX3_told_3 := dk_seg dksX3_told_2 24 rfl rfl
theorem dX3_told_0 : decode cX3_told 0 = .ok (.iload 4, 2) := dk_21 4 (dk_at dksX3_told_0 0 rfl rfl)
theorem dX3_told_2 : decode cX3_told 2 = .ok (.iconst 2, 1) := dk_5 (dk_at dksX3_told_0 2 rfl rfl)
theorem dX3_told_3 : decode cX3_told 3 = .ok (.if_icmp .ge 12, 3) := dk_162 0 12 (dk_at dksX3_told_0 3 rfl rfl)
theorem dX3_told_6 : decode cX3_told 6 = .ok (.aload_n 0, 1) := dk_42 (dk_at dksX3_told_0 6 rfl rfl)
theorem dX3_told_7 : decode cX3_told 7 = .ok (.iload_n 1, 1) := dk_27 (dk_at dksX3_told_0 7 rfl rfl)
theorem dX3_told_8 : decode cX3_told 8 = .ok (.iload_n 2, 1) := dk_28 (dk_at dksX3_told_0 8 rfl rfl)
theorem dX3_told_9 : decode cX3_told 9 = .ok (.invokevirtual 52, 3) := dk_182 0 52 (dk_at dksX3_told_0 9 rfl rfl)
theorem dX3_told_12 : decode cX3_told 12 = .ok (.goto 9, 3) := dk_167 0 9 (dk_at dksX3_told_0 12 rfl rfl)
theorem dX3_told_15 : decode cX3_told 15 = .ok (.aload_n 0, 1) := dk_42 (dk_at dksX3_told_0 15 rfl rfl)
theorem dX3_told_16 : decode cX3_told 16 = .ok (.iload_n 2, 1) := dk_28 (dk_at dksX3_told_0 16 rfl rfl)
theorem dX3_told_17 : decode cX3_told 17 = .ok (.iload_n 1, 1) := dk_27 (dk_at dksX3_told_0 17 rfl rfl)
theorem dX3_told_18 : decode cX3_told 18 = .ok (.invokevirtual 52, 3) := dk_182 0 52 (dk_at dksX3_told_0 18 rfl rfl)
theorem dX3_told_21 : decode cX3_told 21 = .ok (.istore 5, 2) := dk_54 5 (dk_at dksX3_told_0 21 rfl rfl)
theorem dX3_told_23 : decode cX3_told 23 = .ok (.iload 5, 2) := dk_21 5 (dk_at dksX3_told_1 0 rfl rfl)
theorem dX3_told_25 : decode cX3_told 25 = .ok (.getstatic 45, 3) := dk_178 0 45 (dk_at dksX3_told_1 2 rfl rfl)
theorem dX3_told_28 : decode cX3_told 28 = .ok (.if_icmp .ne 17, 3) := dk_160 0 17 (dk_at dksX3_told_1 5 rfl rfl)
theorem dX3_told_31 : decode cX3_told 31 = .ok (.iload 4, 2) := dk_21 4 (dk_at dksX3_told_1 8 rfl rfl)
theorem dX3_told_33 : decode cX3_told 33 = .ok (.iconst 2, 1) := dk_5 (dk_at dksX3_told_1 10 rfl rfl)
theorem dX3_told_34 : decode cX3_told 34 = .ok (.if_icmp .ne 9, 3) := dk_160 0 9 (dk_at dksX3_told_1 11 rfl rfl)
theorem dX3_told_37 : decode cX3_told 37 = .ok (.sipush 10000, 3) := dk_17 39 16 (dk_at dksX3_told_1 14 rfl rfl)
theorem dX3_told_40 : decode cX3_told 40 = .ok (.goto 4, 3) := dk_167 0 4 (dk_at dksX3_told_1 17 rfl rfl)
theorem dX3_told_43 : decode cX3_told 43 = .ok (.iconst 0, 1) := dk_3 (dk_at dksX3_told_1 20 rfl rfl)
theorem dX3_told_44 : decode cX3_told 44 = .ok (.ireturn, 1) := dk_172 (dk_at dksX3_told_1 21 rfl rfl)
theorem dX3_told_45 : decode cX3_told 45 = .ok (.iload 4, 2) := dk_21 4 (dk_at dksX3_told_1 22 rfl rfl)
theorem dX3_told_47 : decode cX3_told 47 = .ok (.iconst 2, 1) := dk_5 (dk_at dksX3_told_2 0 rfl rfl)
theorem dX3_told_48 : decode cX3_told 48 = .ok (.irem, 1) := dk_112 (dk_at dksX3_told_2 1 rfl rfl)
theorem dX3_told_49 : decode cX3_told 49 = .ok (.iconst 1, 1) := dk_4 (dk_at dksX3_told_2 2 rfl rfl)
theorem dX3_told_50 : decode cX3_told 50 = .ok (.if_icmp .ne 10, 3) := dk_160 0 10 (dk_at dksX3_told_2 3 rfl rfl)
theorem dX3_told_53 : decode cX3_told 53 = .ok (.iload 5, 2) := dk_21 5 (dk_at dksX3_told_2 6 rfl rfl)
theorem dX3_told_55 : decode cX3_told 55 = .ok (.iconst 1, 1) := dk_4 (dk_at dksX3_told_2 8 rfl rfl)
theorem dX3_told_56 : decode cX3_told 56 = .ok (.iand, 1) := dk_126 (dk_at dksX3_told_2 9 rfl rfl)
theorem dX3_told_57 : decode cX3_told 57 = .ok (.goto 23, 3) := dk_167 0 23 (dk_at dksX3_told_2 10 rfl rfl)
theorem dX3_told_60 : decode cX3_told 60 = .ok (.iload 4, 2) := dk_21 4 (dk_at dksX3_told_2 13 rfl rfl)
theorem dX3_told_62 : decode cX3_told 62 = .ok (.ifCond .ne 12, 3) := dk_154 0 12 (dk_at dksX3_told_2 15 rfl rfl)
theorem dX3_told_65 : decode cX3_told 65 = .ok (.iload_n 3, 1) := dk_29 (dk_at dksX3_told_2 18 rfl rfl)
theorem dX3_told_66 : decode cX3_told 66 = .ok (.iload 5, 2) := dk_21 5 (dk_at dksX3_told_2 19 rfl rfl)
theorem dX3_told_68 : decode cX3_told 68 = .ok (.iconst 1, 1) := dk_4 (dk_at dksX3_told_2 21 rfl rfl)
theorem dX3_told_69 : decode cX3_told 69 = .ok (.ishr, 1) := dk_122 (dk_at dksX3_told_2 22 rfl rfl)
theorem dX3_told_70 : decode cX3_told 70 = .ok (.isub, 1) := dk_100 (dk_at dksX3_told_2 23 rfl rfl)
theorem dX3_told_71 : decode cX3_told 71 = .ok (.goto 9, 3) := dk_167 0 9 (dk_at dksX3_told_3 0 rfl rfl)
theorem dX3_told_74 : decode cX3_told 74 = .ok (.iload_n 3, 1) := dk_29 (dk_at dksX3_told_3 3 rfl rfl)
theorem dX3_told_75 : decode cX3_told 75 = .ok (.iload 5, 2) := dk_21 5 (dk_at dksX3_told_3 4 rfl rfl)
theorem dX3_told_77 : decode cX3_told 77 = .ok (.iconst 1, 1) := dk_4 (dk_at dksX3_told_3 6 rfl rfl)
theorem dX3_told_78 : decode cX3_told 78 = .ok (.ishr, 1) := dk_122 (dk_at dksX3_told_3 7 rfl rfl)
theorem dX3_told_79 : decode cX3_told 79 = .ok (.iadd, 1) := dk_96 (dk_at dksX3_told_3 8 rfl rfl)
theorem dX3_told_80 : decode cX3_told 80 = .ok (.ireturn, 1) := dk_172 (dk_at dksX3_told_3 9 rfl rfl)
def dkwX3_wholes_2 : List UInt8 := [167, 255, 211, 42, 182, 0, 74, 177]
abbrev dktX3_wholes_2 : List UInt8 := dkwX3_wholes_2 ++ []
def dkwX3_wholes_1 : List UInt8 := [180, 0, 15, 27, 46, 4, 126, 154, 0, 13, 42, 180, 0, 15, 27, 92, 46, 4, 100, 79, 132, 1, 1]
abbrev dktX3_wholes_1 : List UInt8 := dkwX3_wholes_1 ++ dktX3_wholes_2
def dkwX3_wholes_0 : List UInt8 := [3, 60, 27, 42, 180, 0, 15, 190, 162, 0, 42, 42, 180, 0, 15, 27, 46, 178, 0, 45, 159, 0, 24, 42]
abbrev dktX3_wholes_0 : List UInt8 := dkwX3_wholes_0 ++ dktX3_wholes_1
theorem dksX3_wholes_0 : cX3_wholes.data.toList.drop 0 = dktX3_wholes_0 := by decide +kernel
theorem dksX3_wholes_1 : cX3_wholes.data.toList.drop 24 = dktX3_wholes_1 := dk_seg dksX3_wholes_0 24 rfl rfl
theorem dksX3_wholes_2 : cX3_wholes.data.toList.drop 47 = dktX3_wholes_2 := dk_seg dksX3_wholes_1 23 rfl rfl
theorem dX3_wholes_0 : decode cX3_wholes 0 = .ok (.iconst 0, 1) := dk_3 (dk_at dksX3_wholes_0 0 rfl rfl)
theorem dX3_wholes_1 : decode cX3_wholes 1 = .ok (.istore_n 1, 1) := dk_60 (dk_at dksX3_wholes_0 1 rfl rfl)
theorem dX3_wholes_2 : decode cX3_wholes 2 = .ok (.iload_n 1, 1) := dk_27 (dk_at dksX3_wholes_0 2 rfl rfl)
theorem dX3_wholes_3 : decode cX3_wholes 3 = .ok (.aload_n 0, 1) := dk_42 (dk_at dksX3_wholes_0 3 rfl rfl)
theorem dX3_wholes_4 : decode cX3_wholes 4 = .ok (.getfield 15, 3) := dk_180 0 15 (dk_at dksX3_wholes_0 4 rfl rfl)
theorem dX3_wholes_7 : decode cX3_wholes 7 = .ok (.arraylength, 1) := dk_190 (dk_at dksX3_wholes_0 7 rfl rfl)
theorem dX3_wholes_8 : decode cX3_wholes 8 = .ok (.if_icmp .ge 42, 3) := dk_162 0 42 (dk_at dksX3_wholes_0 8 rfl rfl)
theorem dX3_wholes_11 : decode cX3_wholes 11 = .ok (.aload_n 0, 1) := dk_42 (dk_at dksX3_wholes_0 11 rfl rfl)
theorem dX3_wholes_12 : decode cX3_wholes 12 = .ok (.getfield 15, 3) := dk_180 0 15 (dk_at dksX3_wholes_0 12 rfl rfl)
theorem dX3_wholes_15 : decode cX3_wholes 15 = .ok (.iload_n 1, 1) := dk_27 (dk_at dksX3_wholes_0 15 rfl rfl)
theorem dX3_wholes_16 : decode cX3_wholes 16 = .ok (.iaload, 1) := dk_46 (dk_at dksX3_wholes_0 16 rfl rfl)
theorem dX3_wholes_17 : decode cX3_wholes 17 = .ok (.getstatic 45, 3) := dk_178 0 45 (dk_at dksX3_wholes_0 17 rfl rfl)
theorem dX3_wholes_20 : decode cX3_wholes 20 = .ok (.if_icmp .eq 24, 3) := dk_159 0 24 (dk_at dksX3_wholes_0 20 rfl rfl)
theorem dX3_wholes_23 : decode cX3_wholes 23 = .ok (.aload_n 0, 1) := dk_42 (dk_at dksX3_wholes_0 23 rfl rfl)
theorem dX3_wholes_24 : decode cX3_wholes 24 = .ok (.getfield 15, 3) := dk_180 0 15 (dk_at dksX3_wholes_1 0 rfl rfl)
theorem dX3_wholes_27 : decode cX3_wholes 27 = .ok (.iload_n 1, 1) := dk_27 (dk_at dksX3_wholes_1 3 rfl rfl)
theorem dX3_wholes_28 : decode cX3_wholes 28 = .ok (.iaload, 1) := dk_46 (dk_at dksX3_wholes_1 4 rfl rfl)
theorem dX3_wholes_29 : decode cX3_wholes 29 = .ok (.iconst 1, 1) := dk_4 (dk_at dksX3_wholes_1 5 rfl rfl)
theorem dX3_wholes_30 : decode cX3_wholes 30 = .ok (.iand, 1) := dk_126 (dk_at dksX3_wholes_1 6 rfl rfl)
theorem dX3_wholes_31 : decode cX3_wholes 31 = .ok (.ifCond .ne 13, 3) := dk_154 0 13 (dk_at dksX3_wholes_1 7 rfl rfl)
theorem dX3_wholes_34 : decode cX3_wholes 34 = .ok (.aload_n 0, 1) := dk_42 (dk_at dksX3_wholes_1 10 rfl rfl)
theorem dX3_wholes_35 : decode cX3_wholes 35 = .ok (.getfield 15, 3) := dk_180 0 15 (dk_at dksX3_wholes_1 11 rfl rfl)
theorem dX3_wholes_38 : decode cX3_wholes 38 = .ok (.iload_n 1, 1) := dk_27 (dk_at dksX3_wholes_1 14 rfl rfl)
theorem dX3_wholes_39 : decode cX3_wholes 39 = .ok (.dup2, 1) := dk_92 (dk_at dksX3_wholes_1 15 rfl rfl)
theorem dX3_wholes_40 : decode cX3_wholes 40 = .ok (.iaload, 1) := dk_46 (dk_at dksX3_wholes_1 16 rfl rfl)
theorem dX3_wholes_41 : decode cX3_wholes 41 = .ok (.iconst 1, 1) := dk_4 (dk_at dksX3_wholes_1 17 rfl rfl)
theorem dX3_wholes_42 : decode cX3_wholes 42 = .ok (.isub, 1) := dk_100 (dk_at dksX3_wholes_1 18 rfl rfl)
theorem dX3_wholes_43 : decode cX3_wholes 43 = .ok (.iastore, 1) := dk_79 (dk_at dksX3_wholes_1 19 rfl rfl)
theorem dX3_wholes_44 : decode cX3_wholes 44 = .ok (.iinc 1 1, 3) := dk_132 1 1 (dk_at dksX3_wholes_1 20 rfl rfl)
theorem dX3_wholes_47 : decode cX3_wholes 47 = .ok (.goto (-45), 3) := dk_167 255 211 (dk_at dksX3_wholes_2 0 rfl rfl)
theorem dX3_wholes_50 : decode cX3_wholes 50 = .ok (.aload_n 0, 1) := dk_42 (dk_at dksX3_wholes_2 3 rfl rfl)
theorem dX3_wholes_51 : decode cX3_wholes 51 = .ok (.invokevirtual 74, 3) := dk_182 0 74 (dk_at dksX3_wholes_2 4 rfl rfl)
theorem dX3_wholes_54 : decode cX3_wholes 54 = .ok (.return_, 1) := dk_177 (dk_at dksX3_wholes_2 7 rfl rfl)
def dkwX3_leastOf_1 : List UInt8 := [182, 0, 74, 132, 2, 1, 167, 255, 228, 42, 3, 27, 182, 0, 52, 4, 122, 116, 172]
abbrev dktX3_leastOf_1 : List UInt8 := dkwX3_leastOf_1 ++ []
def dkwX3_leastOf_0 : List UInt8 := [4, 61, 28, 27, 162, 0, 29, 42, 28, 3, 4, 42, 3, 28, 182, 0, 52, 4, 122, 116, 182, 0, 84, 42]
abbrev dktX3_leastOf_0 : List UInt8 := dkwX3_leastOf_0 ++ dktX3_leastOf_1
theorem dksX3_leastOf_0 : cX3_leastOf.data.toList.drop 0 = dktX3_leastOf_0 := by decide +kernel
theorem dksX3_leastOf_1 : cX3_leastOf.data.toList.drop 24 = dktX3_leastOf_1 := dk_seg dksX3_leastOf_0 24 rfl rfl
theorem dX3_leastOf_0 : decode cX3_leastOf 0 = .ok (.iconst 1, 1) := dk_4 (dk_at dksX3_leastOf_0 0 rfl rfl)
theorem dX3_leastOf_1 : decode cX3_leastOf 1 = .ok (.istore_n 2, 1) := dk_61 (dk_at dksX3_leastOf_0 1 rfl rfl)
theorem dX3_leastOf_2 : decode cX3_leastOf 2 = .ok (.iload_n 2, 1) := dk_28 (dk_at dksX3_leastOf_0 2 rfl rfl)
theorem dX3_leastOf_3 : decode cX3_leastOf 3 = .ok (.iload_n 1, 1) := dk_27 (dk_at dksX3_leastOf_0 3 rfl rfl)
theorem dX3_leastOf_4 : decode cX3_leastOf 4 = .ok (.if_icmp .ge 29, 3) := dk_162 0 29 (dk_at dksX3_leastOf_0 4 rfl rfl)
theorem dX3_leastOf_7 : decode cX3_leastOf 7 = .ok (.aload_n 0, 1) := dk_42 (dk_at dksX3_leastOf_0 7 rfl rfl)
theorem dX3_leastOf_8 : decode cX3_leastOf 8 = .ok (.iload_n 2, 1) := dk_28 (dk_at dksX3_leastOf_0 8 rfl rfl)
theorem dX3_leastOf_9 : decode cX3_leastOf 9 = .ok (.iconst 0, 1) := dk_3 (dk_at dksX3_leastOf_0 9 rfl rfl)
theorem dX3_leastOf_10 : decode cX3_leastOf 10 = .ok (.iconst 1, 1) := dk_4 (dk_at dksX3_leastOf_0 10 rfl rfl)
theorem dX3_leastOf_11 : decode cX3_leastOf 11 = .ok (.aload_n 0, 1) := dk_42 (dk_at dksX3_leastOf_0 11 rfl rfl)
theorem dX3_leastOf_12 : decode cX3_leastOf 12 = .ok (.iconst 0, 1) := dk_3 (dk_at dksX3_leastOf_0 12 rfl rfl)
theorem dX3_leastOf_13 : decode cX3_leastOf 13 = .ok (.iload_n 2, 1) := dk_28 (dk_at dksX3_leastOf_0 13 rfl rfl)
theorem dX3_leastOf_14 : decode cX3_leastOf 14 = .ok (.invokevirtual 52, 3) := dk_182 0 52 (dk_at dksX3_leastOf_0 14 rfl rfl)
theorem dX3_leastOf_17 : decode cX3_leastOf 17 = .ok (.iconst 1, 1) := dk_4 (dk_at dksX3_leastOf_0 17 rfl rfl)
theorem dX3_leastOf_18 : decode cX3_leastOf 18 = .ok (.ishr, 1) := dk_122 (dk_at dksX3_leastOf_0 18 rfl rfl)
theorem dX3_leastOf_19 : decode cX3_leastOf 19 = .ok (.ineg, 1) := dk_116 (dk_at dksX3_leastOf_0 19 rfl rfl)
theorem dX3_leastOf_20 : decode cX3_leastOf 20 = .ok (.invokevirtual 84, 3) := dk_182 0 84 (dk_at dksX3_leastOf_0 20 rfl rfl)
theorem dX3_leastOf_23 : decode cX3_leastOf 23 = .ok (.aload_n 0, 1) := dk_42 (dk_at dksX3_leastOf_0 23 rfl rfl)
theorem dX3_leastOf_24 : decode cX3_leastOf 24 = .ok (.invokevirtual 74, 3) := dk_182 0 74 (dk_at dksX3_leastOf_1 0 rfl rfl)
theorem dX3_leastOf_27 : decode cX3_leastOf 27 = .ok (.iinc 2 1, 3) := dk_132 2 1 (dk_at dksX3_leastOf_1 3 rfl rfl)
theorem dX3_leastOf_30 : decode cX3_leastOf 30 = .ok (.goto (-28), 3) := dk_167 255 228 (dk_at dksX3_leastOf_1 6 rfl rfl)
theorem dX3_leastOf_33 : decode cX3_leastOf 33 = .ok (.aload_n 0, 1) := dk_42 (dk_at dksX3_leastOf_1 9 rfl rfl)
theorem dX3_leastOf_34 : decode cX3_leastOf 34 = .ok (.iconst 0, 1) := dk_3 (dk_at dksX3_leastOf_1 10 rfl rfl)
theorem dX3_leastOf_35 : decode cX3_leastOf 35 = .ok (.iload_n 1, 1) := dk_27 (dk_at dksX3_leastOf_1 11 rfl rfl)
theorem dX3_leastOf_36 : decode cX3_leastOf 36 = .ok (.invokevirtual 52, 3) := dk_182 0 52 (dk_at dksX3_leastOf_1 12 rfl rfl)
theorem dX3_leastOf_39 : decode cX3_leastOf 39 = .ok (.iconst 1, 1) := dk_4 (dk_at dksX3_leastOf_1 15 rfl rfl)
theorem dX3_leastOf_40 : decode cX3_leastOf 40 = .ok (.ishr, 1) := dk_122 (dk_at dksX3_leastOf_1 16 rfl rfl)
theorem dX3_leastOf_41 : decode cX3_leastOf 41 = .ok (.ineg, 1) := dk_116 (dk_at dksX3_leastOf_1 17 rfl rfl)
theorem dX3_leastOf_42 : decode cX3_leastOf 42 = .ok (.ireturn, 1) := dk_172 (dk_at dksX3_leastOf_1 18 rfl rfl)
def dkwX5_init_4 : List UInt8 := [181, 0, 55, 42, 28, 181, 0, 59, 42, 182, 0, 63, 177]
abbrev dktX5_init_4 : List UInt8 := dkwX5_init_4 ++ []
def dkwX5_init_3 : List UInt8 := [83, 89, 7, 18, 41, 83, 181, 0, 43, 42, 187, 0, 46, 89, 183, 0, 48, 181, 0, 49, 42, 18, 53]
abbrev dktX5_init_3 : List UInt8 := dkwX5_init_3 ++ dktX5_init_4
def dkwX5_init_2 : List UInt8 := [42, 8, 189, 0, 15, 89, 3, 18, 33, 83, 89, 4, 18, 35, 83, 89, 5, 18, 37, 83, 89, 6, 18, 39]
abbrev dktX5_init_2 : List UInt8 := dkwX5_init_2 ++ dktX5_init_3
def dkwX5_init_1 : List UInt8 := [83, 89, 5, 18, 21, 83, 89, 6, 18, 23, 83, 89, 7, 18, 25, 83, 89, 8, 18, 27, 83, 181, 0, 29]
abbrev dktX5_init_1 : List UInt8 := dkwX5_init_1 ++ dktX5_init_2
def dkwX5_init_0 : List UInt8 := [42, 43, 181, 0, 3, 42, 183, 0, 9, 42, 16, 6, 189, 0, 15, 89, 3, 18, 17, 83, 89, 4, 18, 19]
abbrev dktX5_init_0 : List UInt8 := dkwX5_init_0 ++ dktX5_init_1
theorem dksX5_init_0 : cX5_init.data.toList.drop 0 = dktX5_init_0 := by decide +kernel
theorem dksX5_init_1 : cX5_init.data.toList.drop 24 = dktX5_init_1 := dk_seg dksX5_init_0 24 rfl rfl
theorem dksX5_init_2 : cX5_init.data.toList.drop 48 = dktX5_init_2 := dk_seg dksX5_init_1 24 rfl rfl
theorem dksX5_init_3 : cX5_init.data.toList.drop 72 = dktX5_init_3 := dk_seg dksX5_init_2 24 rfl rfl
theorem dksX5_init_4 : cX5_init.data.toList.drop 95 = dktX5_init_4 := dk_seg dksX5_init_3 23 rfl rfl
theorem dX5_init_0 : decode cX5_init 0 = .ok (.aload_n 0, 1) := dk_42 (dk_at dksX5_init_0 0 rfl rfl)
theorem dX5_init_1 : decode cX5_init 1 = .ok (.aload_n 1, 1) := dk_43 (dk_at dksX5_init_0 1 rfl rfl)
theorem dX5_init_2 : decode cX5_init 2 = .ok (.putfield 3, 3) := dk_181 0 3 (dk_at dksX5_init_0 2 rfl rfl)
theorem dX5_init_5 : decode cX5_init 5 = .ok (.aload_n 0, 1) := dk_42 (dk_at dksX5_init_0 5 rfl rfl)
theorem dX5_init_6 : decode cX5_init 6 = .ok (.invokespecial 9, 3) := dk_183 0 9 (dk_at dksX5_init_0 6 rfl rfl)
theorem dX5_init_9 : decode cX5_init 9 = .ok (.aload_n 0, 1) := dk_42 (dk_at dksX5_init_0 9 rfl rfl)
theorem dX5_init_10 : decode cX5_init 10 = .ok (.bipush 6, 2) := dk_16 6 (dk_at dksX5_init_0 10 rfl rfl)
theorem dX5_init_12 : decode cX5_init 12 = .ok (.anewarray 15, 3) := dk_189 0 15 (dk_at dksX5_init_0 12 rfl rfl)
theorem dX5_init_15 : decode cX5_init 15 = .ok (.dup, 1) := dk_89 (dk_at dksX5_init_0 15 rfl rfl)
theorem dX5_init_16 : decode cX5_init 16 = .ok (.iconst 0, 1) := dk_3 (dk_at dksX5_init_0 16 rfl rfl)
theorem dX5_init_17 : decode cX5_init 17 = .ok (.ldc 17, 2) := dk_18 17 (dk_at dksX5_init_0 17 rfl rfl)
theorem dX5_init_19 : decode cX5_init 19 = .ok (.aastore, 1) := dk_83 (dk_at dksX5_init_0 19 rfl rfl)
theorem dX5_init_20 : decode cX5_init 20 = .ok (.dup, 1) := dk_89 (dk_at dksX5_init_0 20 rfl rfl)
theorem dX5_init_21 : decode cX5_init 21 = .ok (.iconst 1, 1) := dk_4 (dk_at dksX5_init_0 21 rfl rfl)
theorem dX5_init_22 : decode cX5_init 22 = .ok (.ldc 19, 2) := dk_18 19 (dk_at dksX5_init_0 22 rfl rfl)
theorem dX5_init_24 : decode cX5_init 24 = .ok (.aastore, 1) := dk_83 (dk_at dksX5_init_1 0 rfl rfl)
theorem dX5_init_25 : decode cX5_init 25 = .ok (.dup, 1) := dk_89 (dk_at dksX5_init_1 1 rfl rfl)
theorem dX5_init_26 : decode cX5_init 26 = .ok (.iconst 2, 1) := dk_5 (dk_at dksX5_init_1 2 rfl rfl)
theorem dX5_init_27 : decode cX5_init 27 = .ok (.ldc 21, 2) := dk_18 21 (dk_at dksX5_init_1 3 rfl rfl)
theorem dX5_init_29 : decode cX5_init 29 = .ok (.aastore, 1) := dk_83 (dk_at dksX5_init_1 5 rfl rfl)
theorem dX5_init_30 : decode cX5_init 30 = .ok (.dup, 1) := dk_89 (dk_at dksX5_init_1 6 rfl rfl)
theorem dX5_init_31 : decode cX5_init 31 = .ok (.iconst 3, 1) := dk_6 (dk_at dksX5_init_1 7 rfl rfl)
theorem dX5_init_32 : decode cX5_init 32 = .ok (.ldc 23, 2) := dk_18 23 (dk_at dksX5_init_1 8 rfl rfl)
theorem dX5_init_34 : decode cX5_init 34 = .ok (.aastore, 1) := dk_83 (dk_at dksX5_init_1 10 rfl rfl)
theorem dX5_init_35 : decode cX5_init 35 = .ok (.dup, 1) := dk_89 (dk_at dksX5_init_1 11 rfl rfl)
theorem dX5_init_36 : decode cX5_init 36 = .ok (.iconst 4, 1) := dk_7 (dk_at dksX5_init_1 12 rfl rfl)
theorem dX5_init_37 : decode cX5_init 37 = .ok (.ldc 25, 2) := dk_18 25 (dk_at dksX5_init_1 13 rfl rfl)
theorem dX5_init_39 : decode cX5_init 39 = .ok (.aastore, 1) := dk_83 (dk_at dksX5_init_1 15 rfl rfl)
theorem dX5_init_40 : decode cX5_init 40 = .ok (.dup, 1) := dk_89 (dk_at dksX5_init_1 16 rfl rfl)
theorem dX5_init_41 : decode cX5_init 41 = .ok (.iconst 5, 1) := dk_8 (dk_at dksX5_init_1 17 rfl rfl)
theorem dX5_init_42 : decode cX5_init 42 = .ok (.ldc 27, 2) := dk_18 27 (dk_at dksX5_init_1 18 rfl rfl)
theorem dX5_init_44 : decode cX5_init 44 = .ok (.aastore, 1) := dk_83 (dk_at dksX5_init_1 20 rfl rfl)
theorem dX5_init_45 : decode cX5_init 45 = .ok (.putfield 29, 3) := dk_181 0 29 (dk_at dksX5_init_1 21 rfl rfl)
theorem dX5_init_48 : decode cX5_init 48 = .ok (.aload_n 0, 1) := dk_42 (dk_at dksX5_init_2 0 rfl rfl)
theorem dX5_init_49 : decode cX5_init 49 = .ok (.iconst 5, 1) := dk_8 (dk_at dksX5_init_2 1 rfl rfl)
theorem dX5_init_50 : decode cX5_init 50 = .ok (.anewarray 15, 3) := dk_189 0 15 (dk_at dksX5_init_2 2 rfl rfl)
theorem dX5_init_53 : decode cX5_init 53 = .ok (.dup, 1) := dk_89 (dk_at dksX5_init_2 5 rfl rfl)
theorem dX5_init_54 : decode cX5_init 54 = .ok (.iconst 0, 1) := dk_3 (dk_at dksX5_init_2 6 rfl rfl)
theorem dX5_init_55 : decode cX5_init 55 = .ok (.ldc 33, 2) := dk_18 33 (dk_at dksX5_init_2 7 rfl rfl)
theorem dX5_init_57 : decode cX5_init 57 = .ok (.aastore, 1) := dk_83 (dk_at dksX5_init_2 9 rfl rfl)
theorem dX5_init_58 : decode cX5_init 58 = .ok (.dup, 1) := dk_89 (dk_at dksX5_init_2 10 rfl rfl)
theorem dX5_init_59 : decode cX5_init 59 = .ok (.iconst 1, 1) := dk_4 (dk_at dksX5_init_2 11 rfl rfl)
theorem dX5_init_60 : decode cX5_init 60 = .ok (.ldc 35, 2) := dk_18 35 (dk_at dksX5_init_2 12 rfl rfl)
theorem dX5_init_62 : decode cX5_init 62 = .ok (.aastore, 1) := dk_83 (dk_at dksX5_init_2 14 rfl rfl)
theorem dX5_init_63 : decode cX5_init 63 = .ok (.dup, 1) := dk_89 (dk_at dksX5_init_2 15 rfl rfl)
theorem dX5_init_64 : decode cX5_init 64 = .ok (.iconst 2, 1) := dk_5 (dk_at dksX5_init_2 16 rfl rfl)
theorem dX5_init_65 : decode cX5_init 65 = .ok (.ldc 37, 2) := dk_18 37 (dk_at dksX5_init_2 17 rfl rfl)
theorem dX5_init_67 : decode cX5_init 67 = .ok (.aastore, 1) := dk_83 (dk_at dksX5_init_2 19 rfl rfl)
theorem dX5_init_68 : decode cX5_init 68 = .ok (.dup, 1) := dk_89 (dk_at dksX5_init_2 20 rfl rfl)
theorem dX5_init_69 : decode cX5_init 69 = .ok (.iconst 3, 1) := dk_6 (dk_at dksX5_init_2 21 rfl rfl)
theorem dX5_init_70 : decode cX5_init 70 = .ok (.ldc 39, 2) := dk_18 39 (dk_at dksX5_init_2 22 rfl rfl)
theorem dX5_init_72 : decode cX5_init 72 = .ok (.aastore, 1) := dk_83 (dk_at dksX5_init_3 0 rfl rfl)
theorem dX5_init_73 : decode cX5_init 73 = .ok (.dup, 1) := dk_89 (dk_at dksX5_init_3 1 rfl rfl)
theorem dX5_init_74 : decode cX5_init 74 = .ok (.iconst 4, 1) := dk_7 (dk_at dksX5_init_3 2 rfl rfl)
theorem dX5_init_75 : decode cX5_init 75 = .ok (.ldc 41, 2) := dk_18 41 (dk_at dksX5_init_3 3 rfl rfl)
theorem dX5_init_77 : decode cX5_init 77 = .ok (.aastore, 1) := dk_83 (dk_at dksX5_init_3 5 rfl rfl)
theorem dX5_init_78 : decode cX5_init 78 = .ok (.putfield 43, 3) := dk_181 0 43 (dk_at dksX5_init_3 6 rfl rfl)
theorem dX5_init_81 : decode cX5_init 81 = .ok (.aload_n 0, 1) := dk_42 (dk_at dksX5_init_3 9 rfl rfl)
theorem dX5_init_82 : decode cX5_init 82 = .ok (.new 46, 3) := dk_187 0 46 (dk_at dksX5_init_3 10 rfl rfl)
theorem dX5_init_85 : decode cX5_init 85 = .ok (.dup, 1) := dk_89 (dk_at dksX5_init_3 13 rfl rfl)
theorem dX5_init_86 : decode cX5_init 86 = .ok (.invokespecial 48, 3) := dk_183 0 48 (dk_at dksX5_init_3 14 rfl rfl)
theorem dX5_init_89 : decode cX5_init 89 = .ok (.putfield 49, 3) := dk_181 0 49 (dk_at dksX5_init_3 17 rfl rfl)
theorem dX5_init_92 : decode cX5_init 92 = .ok (.aload_n 0, 1) := dk_42 (dk_at dksX5_init_3 20 rfl rfl)
theorem dX5_init_93 : decode cX5_init 93 = .ok (.ldc 53, 2) := dk_18 53 (dk_at dksX5_init_3 21 rfl rfl)
theorem dX5_init_95 : decode cX5_init 95 = .ok (.putfield 55, 3) := dk_181 0 55 (dk_at dksX5_init_4 0 rfl rfl)
theorem dX5_init_98 : decode cX5_init 98 = .ok (.aload_n 0, 1) := dk_42 (dk_at dksX5_init_4 3 rfl rfl)
theorem dX5_init_99 : decode cX5_init 99 = .ok (.iload_n 2, 1) := dk_28 (dk_at dksX5_init_4 4 rfl rfl)
theorem dX5_init_100 : decode cX5_init 100 = .ok (.putfield 59, 3) := dk_181 0 59 (dk_at dksX5_init_4 5 rfl rfl)
theorem dX5_init_103 : decode cX5_init 103 = .ok (.aload_n 0, 1) := dk_42 (dk_at dksX5_init_4 8 rfl rfl)
theorem dX5_init_104 : decode cX5_init 104 = .ok (.invokevirtual 63, 3) := dk_182 0 63 (dk_at dksX5_init_4 9 rfl rfl)
theorem dX5_init_107 : decode cX5_init 107 = .ok (.return_, 1) := dk_177 (dk_at dksX5_init_4 12 rfl rfl)
def dkwX5_goes_16 : List UInt8 := [167, 0, 4, 7, 181, 0, 89, 42, 89, 180, 0, 69, 4, 96, 181, 0, 69, 177]
abbrev dktX5_goes_16 : List UInt8 := dkwX5_goes_16 ++ []
def dkwX5_goes_15 : List UInt8 := [182, 0, 99, 181, 0, 55, 167, 0, 33, 42, 42, 16, 59, 16, 59, 182, 0, 79, 153, 0, 7, 6]
abbrev dktX5_goes_15 : List UInt8 := dkwX5_goes_15 ++ dktX5_goes_16
def dkwX5_goes_14 : List UInt8 := [153, 0, 20, 44, 16, 61, 182, 0, 95, 87, 42, 89, 180, 0, 69, 4, 96, 181, 0, 69, 42, 44]
abbrev dktX5_goes_14 : List UInt8 := dkwX5_goes_14 ++ dktX5_goes_15
def dkwX5_goes_13 : List UInt8 := [77, 42, 89, 180, 0, 69, 4, 96, 181, 0, 69, 27, 153, 0, 31, 42, 16, 61, 16, 61, 182, 0, 79]
abbrev dktX5_goes_13 : List UInt8 := dkwX5_goes_13 ++ dktX5_goes_14
def dkwX5_goes_12 : List UInt8 := [60, 187, 0, 92, 89, 183, 0, 94, 42, 180, 0, 3, 180, 0, 71, 42, 180, 0, 69, 51, 146, 182, 0, 95]
abbrev dktX5_goes_12 : List UInt8 := dkwX5_goes_12 ++ dktX5_goes_13
def dkwX5_goes_11 : List UInt8 := [153, 0, 102, 42, 8, 181, 0, 89, 42, 16, 61, 16, 61, 182, 0, 79, 154, 0, 7, 4, 167, 0, 4, 3]
abbrev dktX5_goes_11 : List UInt8 := dkwX5_goes_11 ++ dktX5_goes_12
def dkwX5_goes_10 : List UInt8 := [181, 0, 86, 42, 89, 180, 0, 69, 4, 96, 181, 0, 69, 167, 255, 192, 42, 16, 60, 16, 62, 182, 0, 79]
abbrev dktX5_goes_10 : List UInt8 := dkwX5_goes_10 ++ dktX5_goes_11
def dkwX5_goes_9 : List UInt8 := [16, 10, 42, 180, 0, 86, 104, 42, 180, 0, 3, 180, 0, 71, 42, 180, 0, 69, 51, 96, 16, 48, 100]
abbrev dktX5_goes_9 : List UInt8 := dkwX5_goes_9 ++ dktX5_goes_10
def dkwX5_goes_8 : List UInt8 := [182, 0, 79, 153, 0, 199, 42, 42, 180, 0, 86, 16, 50, 164, 0, 10, 42, 180, 0, 86, 167, 0, 26]
abbrev dktX5_goes_8 : List UInt8 := dkwX5_goes_8 ++ dktX5_goes_9
def dkwX5_goes_7 : List UInt8 := [167, 0, 226, 42, 16, 48, 16, 57, 182, 0, 79, 153, 0, 75, 42, 5, 181, 0, 89, 42, 16, 48, 16, 57]
abbrev dktX5_goes_7 : List UInt8 := dkwX5_goes_7 ++ dktX5_goes_8
def dkwX5_goes_6 : List UInt8 := [181, 0, 55, 42, 42, 180, 0, 55, 182, 0, 103, 16, 6, 163, 0, 7, 4, 167, 0, 4, 7, 181, 0, 89]
abbrev dktX5_goes_6 : List UInt8 := dkwX5_goes_6 ++ dktX5_goes_7
def dkwX5_goes_5 : List UInt8 := [182, 0, 95, 87, 42, 89, 180, 0, 69, 4, 96, 181, 0, 69, 167, 255, 217, 42, 43, 182, 0, 99]
abbrev dktX5_goes_5 : List UInt8 := dkwX5_goes_5 ++ dktX5_goes_6
def dkwX5_goes_4 : List UInt8 := [16, 97, 16, 122, 182, 0, 79, 153, 0, 34, 43, 42, 180, 0, 3, 180, 0, 71, 42, 180, 0, 69, 51, 146]
abbrev dktX5_goes_4 : List UInt8 := dkwX5_goes_4 ++ dktX5_goes_5
def dkwX5_goes_3 : List UInt8 := [167, 1, 63, 42, 16, 97, 16, 122, 182, 0, 79, 153, 0, 85, 187, 0, 92, 89, 183, 0, 94, 76, 42]
abbrev dktX5_goes_3 : List UInt8 := dkwX5_goes_3 ++ dktX5_goes_4
def dkwX5_goes_2 : List UInt8 := [181, 0, 55, 42, 3, 181, 0, 86, 42, 180, 0, 69, 42, 180, 0, 59, 160, 0, 11, 42, 3, 181, 0, 89]
abbrev dktX5_goes_2 : List UInt8 := dkwX5_goes_2 ++ dktX5_goes_3
def dkwX5_goes_1 : List UInt8 := [180, 0, 69, 4, 96, 181, 0, 69, 167, 255, 224, 42, 42, 180, 0, 69, 181, 0, 83, 42, 18, 53]
abbrev dktX5_goes_1 : List UInt8 := dkwX5_goes_1 ++ dktX5_goes_2
def dkwX5_goes_0 : List UInt8 := [42, 16, 32, 16, 32, 182, 0, 79, 154, 0, 14, 42, 16, 10, 16, 10, 182, 0, 79, 153, 0, 16, 42, 89]
abbrev dktX5_goes_0 : List UInt8 := dkwX5_goes_0 ++ dktX5_goes_1
theorem dksX5_goes_0 : cX5_goes.data.toList.drop 0 = dktX5_goes_0 := by decide +kernel
theorem dksX5_goes_1 : cX5_goes.data.toList.drop 24 = dktX5_goes_1 := dk_seg dksX5_goes_0 24 rfl rfl
theorem dksX5_goes_2 : cX5_goes.data.toList.drop 46 = dktX5_goes_2 := dk_seg dksX5_goes_1 22 rfl rfl
theorem dksX5_goes_3 : cX5_goes.data.toList.drop 70 = dktX5_goes_3 := dk_seg dksX5_goes_2 24 rfl rfl
theorem dksX5_goes_4 : cX5_goes.data.toList.drop 93 = dktX5_goes_4 := dk_seg dksX5_goes_3 23 rfl rfl
theorem dksX5_goes_5 : cX5_goes.data.toList.drop 117 = dktX5_goes_5 := dk_seg dksX5_goes_4 24 rfl rfl
theorem dksX5_goes_6 : cX5_goes.data.toList.drop 139 = dktX5_goes_6 := dk_seg dksX5_goes_5 22 rfl rfl
theorem dksX5_goes_7 : cX5_goes.data.toList.drop 163 = dktX5_goes_7 := dk_seg dksX5_goes_6 24 rfl rfl
theorem dksX5_goes_8 : cX5_goes.data.toList.drop 187 = dktX5_goes_8 := dk_seg dksX5_goes_7 24 rfl rfl
theorem dksX5_goes_9 : cX5_goes.data.toList.drop 210 = dktX5_goes_9 := dk_seg dksX5_goes_8 23 rfl rfl
theorem dksX5_goes_10 : cX5_goes.data.toList.drop 233 = dktX5_goes_10 := dk_seg dksX5_goes_9 23 rfl rfl
theorem dksX5_goes_11 : cX5_goes.data.toList.drop 257 = dktX5_goes_11 := dk_seg dksX5_goes_10 24 rfl rfl
theorem dksX5_goes_12 : cX5_goes.data.toList.drop 281 = dktX5_goes_12 := dk_seg dksX5_goes_11 24 rfl rfl
theorem dksX5_goes_13 : cX5_goes.data.toList.drop 305 = dktX5_goes_13 := dk_seg dksX5_goes_12 24 rfl rfl
theorem dksX5_goes_14 : cX5_goes.data.toList.drop 328 = dktX5_goes_14 := dk_seg dksX5_goes_13 23 rfl rfl
theorem dksX5_goes_15 : cX5_goes.data.toList.drop 350 = dktX5_goes_15 := dk_seg dksX5_goes_14 22 rfl rfl
theorem dksX5_goes_16 : cX5_goes.data.toList.drop 372 = dktX5_goes_16 := dk_seg dksX5_goes_15 22 rfl rfl
theorem dX5_goes_0 : decode cX5_goes 0 = .ok (.aload_n 0, 1) := dk_42 (dk_at dksX5_goes_0 0 rfl rfl)
theorem dX5_goes_1 : decode cX5_goes 1 = .ok (.bipush 32, 2) := dk_16 32 (dk_at dksX5_goes_0 1 rfl rfl)
theorem dX5_goes_3 : decode cX5_goes 3 = .ok (.bipush 32, 2) := dk_16 32 (dk_at dksX5_goes_0 3 rfl rfl)
theorem dX5_goes_5 : decode cX5_goes 5 = .ok (.invokevirtual 79, 3) := dk_182 0 79 (dk_at dksX5_goes_0 5 rfl rfl)
theorem dX5_goes_8 : decode cX5_goes 8 = .ok (.ifCond .ne 14, 3) := dk_154 0 14 (dk_at dksX5_goes_0 8 rfl rfl)
theorem dX5_goes_11 : decode cX5_goes 11 = .ok (.aload_n 0, 1) := dk_42 (dk_at dksX5_goes_0 11 rfl rfl)
theorem dX5_goes_12 : decode cX5_goes 12 = .ok (.bipush 10, 2) := dk_16 10 (dk_at dksX5_goes_0 12 rfl rfl)
theorem dX5_goes_14 : decode cX5_goes 14 = .ok (.bipush 10, 2) := dk_16 10 (dk_at dksX5_goes_0 14 rfl rfl)
theorem dX5_goes_16 : decode cX5_goes 16 = .ok (.invokevirtual 79, 3) := dk_182 0 79 (dk_at dksX5_goes_0 16 rfl rfl)
theorem dX5_goes_19 : decode cX5_goes 19 = .ok (.ifCond .eq 16, 3) := dk_153 0 16 (dk_at dksX5_goes_0 19 rfl rfl)
theorem dX5_goes_22 : decode cX5_goes 22 = .ok (.aload_n 0, 1) := dk_42 (dk_at dksX5_goes_0 22 rfl rfl)
theorem dX5_goes_23 : decode cX5_goes 23 = .ok (.dup, 1) := dk_89 (dk_at dksX5_goes_0 23 rfl rfl)
theorem dX5_goes_24 : decode cX5_goes 24 = .ok (.getfield 69, 3) := dk_180 0 69 (dk_at dksX5_goes_1 0 rfl rfl)
theorem dX5_goes_27 : decode cX5_goes 27 = .ok (.iconst 1, 1) := dk_4 (dk_at dksX5_goes_1 3 rfl rfl)
theorem dX5_goes_28 : decode cX5_goes 28 = .ok (.iadd, 1) := dk_96 (dk_at dksX5_goes_1 4 rfl rfl)
theorem dX5_goes_29 : decode cX5_goes 29 = .ok (.putfield 69, 3) := dk_181 0 69 (dk_at dksX5_goes_1 5 rfl rfl)
theorem dX5_goes_32 : decode cX5_goes 32 = .ok (.goto (-32), 3) := dk_167 255 224 (dk_at dksX5_goes_1 8 rfl rfl)
theorem dX5_goes_35 : decode cX5_goes 35 = .ok (.aload_n 0, 1) := dk_42 (dk_at dksX5_goes_1 11 rfl rfl)
theorem dX5_goes_36 : decode cX5_goes 36 = .ok (.aload_n 0, 1) := dk_42 (dk_at dksX5_goes_1 12 rfl rfl)
theorem dX5_goes_37 : decode cX5_goes 37 = .ok (.getfield 69, 3) := dk_180 0 69 (dk_at dksX5_goes_1 13 rfl rfl)
theorem dX5_goes_40 : decode cX5_goes 40 = .ok (.putfield 83, 3) := dk_181 0 83 (dk_at dksX5_goes_1 16 rfl rfl)
theorem dX5_goes_43 : decode cX5_goes 43 = .ok (.aload_n 0, 1) := dk_42 (dk_at dksX5_goes_1 19 rfl rfl)
theorem dX5_goes_44 : decode cX5_goes 44 = .ok (.ldc 53, 2) := dk_18 53 (dk_at dksX5_goes_1 20 rfl rfl)
theorem dX5_goes_46 : decode cX5_goes 46 = .ok (.putfield 55, 3) := dk_181 0 55 (dk_at dksX5_goes_2 0 rfl rfl)
theorem dX5_goes_49 : decode cX5_goes 49 = .ok (.aload_n 0, 1) := dk_42 (dk_at dksX5_goes_2 3 rfl rfl)
theorem dX5_goes_50 : decode cX5_goes 50 = .ok (.iconst 0, 1) := dk_3 (dk_at dksX5_goes_2 4 rfl rfl)
theorem dX5_goes_51 : decode cX5_goes 51 = .ok (.putfield 86, 3) := dk_181 0 86 (dk_at dksX5_goes_2 5 rfl rfl)
theorem dX5_goes_54 : decode cX5_goes 54 = .ok (.aload_n 0, 1) := dk_42 (dk_at dksX5_goes_2 8 rfl rfl)
theorem dX5_goes_55 : decode cX5_goes 55 = .ok (.getfield 69, 3) := dk_180 0 69 (dk_at dksX5_goes_2 9 rfl rfl)
theorem dX5_goes_58 : decode cX5_goes 58 = .ok (.aload_n 0, 1) := dk_42 (dk_at dksX5_goes_2 12 rfl rfl)
theorem dX5_goes_59 : decode cX5_goes 59 = .ok (.getfield 59, 3) := dk_180 0 59 (dk_at dksX5_goes_2 13 rfl rfl)
theorem dX5_goes_62 : decode cX5_goes 62 = .ok (.if_icmp .ne 11, 3) := dk_160 0 11 (dk_at dksX5_goes_2 16 rfl rfl)
theorem dX5_goes_65 : decode cX5_goes 65 = .ok (.aload_n 0, 1) := dk_42 (dk_at dksX5_goes_2 19 rfl rfl)
theorem dX5_goes_66 : decode cX5_goes 66 = .ok (.iconst 0, 1) := dk_3 (dk_at dksX5_goes_2 20 rfl rfl)
theorem dX5_goes_67 : decode cX5_goes 67 = .ok (.putfield 89, 3) := dk_181 0 89 (dk_at dksX5_goes_2 21 rfl rfl)
theorem dX5_goes_70 : decode cX5_goes 70 = .ok (.goto 319, 3) := dk_167 1 63 (dk_at dksX5_goes_3 0 rfl rfl)
theorem dX5_goes_73 : decode cX5_goes 73 = .ok (.aload_n 0, 1) := dk_42 (dk_at dksX5_goes_3 3 rfl rfl)
theorem dX5_goes_74 : decode cX5_goes 74 = .ok (.bipush 97, 2) := dk_16 97 (dk_at dksX5_goes_3 4 rfl rfl)
theorem dX5_goes_76 : decode cX5_goes 76 = .ok (.bipush 122, 2) := dk_16 122 (dk_at dksX5_goes_3 6 rfl rfl)
theorem dX5_goes_78 : decode cX5_goes 78 = .ok (.invokevirtual 79, 3) := dk_182 0 79 (dk_at dksX5_goes_3 8 rfl rfl)
theorem dX5_goes_81 : decode cX5_goes 81 = .ok (.ifCond .eq 85, 3) := dk_153 0 85 (dk_at dksX5_goes_3 11 rfl rfl)
theorem dX5_goes_84 : decode cX5_goes 84 = .ok (.new 92, 3) := dk_187 0 92 (dk_at dksX5_goes_3 14 rfl rfl)
theorem dX5_goes_87 : decode cX5_goes 87 = .ok (.dup, 1) := dk_89 (dk_at dksX5_goes_3 17 rfl rfl)
theorem dX5_goes_88 : decode cX5_goes 88 = .ok (.invokespecial 94, 3) := dk_183 0 94 (dk_at dksX5_goes_3 18 rfl rfl)
theorem dX5_goes_91 : decode cX5_goes 91 = .ok (.astore_n 1, 1) := dk_76 (dk_at dksX5_goes_3 21 rfl rfl)
theorem dX5_goes_92 : decode cX5_goes 92 = .ok (.aload_n 0, 1) := dk_42 (dk_at dksX5_goes_3 22 rfl rfl)
theorem dX5_goes_93 : decode cX5_goes 93 = .ok (.bipush 97, 2) := dk_16 97 (dk_at dksX5_goes_4 0 rfl rfl)
theorem dX5_goes_95 : decode cX5_goes 95 = .ok (.bipush 122, 2) := dk_16 122 (dk_at dksX5_goes_4 2 rfl rfl)
theorem dX5_goes_97 : decode cX5_goes 97 = .ok (.invokevirtual 79, 3) := dk_182 0 79 (dk_at dksX5_goes_4 4 rfl rfl)
theorem dX5_goes_100 : decode cX5_goes 100 = .ok (.ifCond .eq 34, 3) := dk_153 0 34 (dk_at dksX5_goes_4 7 rfl rfl)
theorem dX5_goes_103 : decode cX5_goes 103 = .ok (.aload_n 1, 1) := dk_43 (dk_at dksX5_goes_4 10 rfl rfl)
theorem dX5_goes_104 : decode cX5_goes 104 = .ok (.aload_n 0, 1) := dk_42 (dk_at dksX5_goes_4 11 rfl rfl)
theorem dX5_goes_105 : decode cX5_goes 105 = .ok (.getfield 3, 3) := dk_180 0 3 (dk_at dksX5_goes_4 12 rfl rfl)
theorem dX5_goes_108 : decode cX5_goes 108 = .ok (.getfield 71, 3) := dk_180 0 71 (dk_at dksX5_goes_4 15 rfl rfl)
theorem dX5_goes_111 : decode cX5_goes 111 = .ok (.aload_n 0, 1) := dk_42 (dk_at dksX5_goes_4 18 rfl rfl)
theorem dX5_goes_112 : decode cX5_goes 112 = .ok (.getfield 69, 3) := dk_180 0 69 (dk_at dksX5_goes_4 19 rfl rfl)
theorem dX5_goes_115 : decode cX5_goes 115 = .ok (.baload, 1) := dk_51 (dk_at dksX5_goes_4 22 rfl rfl)
theorem dX5_goes_116 : decode cX5_goes 116 = .ok (.i2c, 1) := dk_146 (dk_at dksX5_goes_4 23 rfl rfl)
theorem dX5_goes_117 : decode cX5_goes 117 = .ok (.invokevirtual 95, 3) := dk_182 0 95 (dk_at dksX5_goes_5 0 rfl rfl)
theorem dX5_goes_120 : decode cX5_goes 120 = .ok (.pop, 1) := dk_87 (dk_at dksX5_goes_5 3 rfl rfl)
theorem dX5_goes_121 : decode cX5_goes 121 = .ok (.aload_n 0, 1) := dk_42 (dk_at dksX5_goes_5 4 rfl rfl)
theorem dX5_goes_122 : decode cX5_goes 122 = .ok (.dup, 1) := dk_89 (dk_at dksX5_goes_5 5 rfl rfl)
theorem dX5_goes_123 : decode cX5_goes 123 = .ok (.getfield 69, 3) := dk_180 0 69 (dk_at dksX5_goes_5 6 rfl rfl)
theorem dX5_goes_126 : decode cX5_goes 126 = .ok (.iconst 1, 1) := dk_4 (dk_at dksX5_goes_5 9 rfl rfl)
theorem dX5_goes_127 : decode cX5_goes 127 = .ok (.iadd, 1) := dk_96 (dk_at dksX5_goes_5 10 rfl rfl)
theorem dX5_goes_128 : decode cX5_goes 128 = .ok (.putfield 69, 3) := dk_181 0 69 (dk_at dksX5_goes_5 11 rfl rfl)
theorem dX5_goes_131 : decode cX5_goes 131 = .ok (.goto (-39), 3) := dk_167 255 217 (dk_at dksX5_goes_5 14 rfl rfl)
theorem dX5_goes_134 : decode cX5_goes 134 = .ok (.aload_n 0, 1) := dk_42 (dk_at dksX5_goes_5 17 rfl rfl)
theorem dX5_goes_135 : decode cX5_goes 135 = .ok (.aload_n 1, 1) := dk_43 (dk_at dksX5_goes_5 18 rfl rfl)
theorem dX5_goes_136 : decode cX5_goes 136 = .ok (.invokevirtual 99, 3) := dk_182 0 99 (dk_at dksX5_goes_5 19 rfl rfl)
theorem dX5_goes_139 : decode cX5_goes 139 = .ok (.putfield 55, 3) := dk_181 0 55 (dk_at dksX5_goes_6 0 rfl rfl)
theorem dX5_goes_142 : decode cX5_goes 142 = .ok (.aload_n 0, 1) := dk_42 (dk_at dksX5_goes_6 3 rfl rfl)
theorem dX5_goes_143 : decode cX5_goes 143 = .ok (.aload_n 0, 1) := dk_42 (dk_at dksX5_goes_6 4 rfl rfl)
theorem dX5_goes_144 : decode cX5_goes 144 = .ok (.getfield 55, 3) := dk_180 0 55 (dk_at dksX5_goes_6 5 rfl rfl)
theorem dX5_goes_147 : decode cX5_goes 147 = .ok (.invokevirtual 103, 3) := dk_182 0 103 (dk_at dksX5_goes_6 8 rfl rfl)
theorem dX5_goes_150 : decode cX5_goes 150 = .ok (.bipush 6, 2) := dk_16 6 (dk_at dksX5_goes_6 11 rfl rfl)
theorem dX5_goes_152 : decode cX5_goes 152 = .ok (.if_icmp .gt 7, 3) := dk_163 0 7 (dk_at dksX5_goes_6 13 rfl rfl)
theorem dX5_goes_155 : decode cX5_goes 155 = .ok (.iconst 1, 1) := dk_4 (dk_at dksX5_goes_6 16 rfl rfl)
theorem dX5_goes_156 : decode cX5_goes 156 = .ok (.goto 4, 3) := dk_167 0 4 (dk_at dksX5_goes_6 17 rfl rfl)
theorem dX5_goes_159 : decode cX5_goes 159 = .ok (.iconst 4, 1) := dk_7 (dk_at dksX5_goes_6 20 rfl rfl)
theorem dX5_goes_160 : decode cX5_goes 160 = .ok (.putfield 89, 3) := dk_181 0 89 (dk_at dksX5_goes_6 21 rfl rfl)
theorem dX5_goes_163 : decode cX5_goes 163 = .ok (.goto 226, 3) := dk_167 0 226 (dk_at dksX5_goes_7 0 rfl rfl)
theorem dX5_goes_166 : decode cX5_goes 166 = .ok (.aload_n 0, 1) := dk_42 (dk_at dksX5_goes_7 3 rfl rfl)
theorem dX5_goes_167 : decode cX5_goes 167 = .ok (.bipush 48, 2) := dk_16 48 (dk_at dksX5_goes_7 4 rfl rfl)
theorem dX5_goes_169 : decode cX5_goes 169 = .ok (.bipush 57, 2) := dk_16 57 (dk_at dksX5_goes_7 6 rfl rfl)
theorem dX5_goes_171 : decode cX5_goes 171 = .ok (.invokevirtual 79, 3) := dk_182 0 79 (dk_at dksX5_goes_7 8 rfl rfl)
theorem dX5_goes_174 : decode cX5_goes 174 = .ok (.ifCond .eq 75, 3) := dk_153 0 75 (dk_at dksX5_goes_7 11 rfl rfl)
theorem dX5_goes_177 : decode cX5_goes 177 = .ok (.aload_n 0, 1) := dk_42 (dk_at dksX5_goes_7 14 rfl rfl)
theorem dX5_goes_178 : decode cX5_goes 178 = .ok (.iconst 2, 1) := dk_5 (dk_at dksX5_goes_7 15 rfl rfl)
theorem dX5_goes_179 : decode cX5_goes 179 = .ok (.putfield 89, 3) := dk_181 0 89 (dk_at dksX5_goes_7 16 rfl rfl)
theorem dX5_goes_182 : decode cX5_goes 182 = .ok (.aload_n 0, 1) := dk_42 (dk_at dksX5_goes_7 19 rfl rfl)
theorem dX5_goes_183 : decode cX5_goes 183 = .ok (.bipush 48, 2) := dk_16 48 (dk_at dksX5_goes_7 20 rfl rfl)
theorem dX5_goes_185 : decode cX5_goes 185 = .ok (.bipush 57, 2) := dk_16 57 (dk_at dksX5_goes_7 22 rfl rfl)
theorem dX5_goes_187 : decode cX5_goes 187 = .ok (.invokevirtual 79, 3) := dk_182 0 79 (dk_at dksX5_goes_8 0 rfl rfl)
theorem dX5_goes_190 : decode cX5_goes 190 = .ok (.ifCond .eq 199, 3) := dk_153 0 199 (dk_at dksX5_goes_8 3 rfl rfl)
theorem dX5_goes_193 : decode cX5_goes 193 = .ok (.aload_n 0, 1) := dk_42 (dk_at dksX5_goes_8 6 rfl rfl)
theorem dX5_goes_194 : decode cX5_goes 194 = .ok (.aload_n 0, 1) := dk_42 (dk_at dksX5_goes_8 7 rfl rfl)
theorem dX5_goes_195 : decode cX5_goes 195 = .ok (.getfield 86, 3) := dk_180 0 86 (dk_at dksX5_goes_8 8 rfl rfl)
theorem dX5_goes_198 : decode cX5_goes 198 = .ok (.bipush 50, 2) := dk_16 50 (dk_at dksX5_goes_8 11 rfl rfl)
theorem dX5_goes_200 : decode cX5_goes 200 = .ok (.if_icmp .le 10, 3) := dk_164 0 10 (dk_at dksX5_goes_8 13 rfl rfl)
theorem dX5_goes_203 : decode cX5_goes 203 = .ok (.aload_n 0, 1) := dk_42 (dk_at dksX5_goes_8 16 rfl rfl)
theorem dX5_goes_204 : decode cX5_goes 204 = .ok (.getfield 86, 3) := dk_180 0 86 (dk_at dksX5_goes_8 17 rfl rfl)
theorem dX5_goes_207 : decode cX5_goes 207 = .ok (.goto 26, 3) := dk_167 0 26 (dk_at dksX5_goes_8 20 rfl rfl)
theorem dX5_goes_210 : decode cX5_goes 210 = .ok (.bipush 10, 2) := dk_16 10 (dk_at dksX5_goes_9 0 rfl rfl)
theorem dX5_goes_212 : decode cX5_goes 212 = .ok (.aload_n 0, 1) := dk_42 (dk_at dksX5_goes_9 2 rfl rfl)
theorem dX5_goes_213 : decode cX5_goes 213 = .ok (.getfield 86, 3) := dk_180 0 86 (dk_at dksX5_goes_9 3 rfl rfl)
theorem dX5_goes_216 : decode cX5_goes 216 = .ok (.imul, 1) := dk_104 (dk_at dksX5_goes_9 6 rfl rfl)
theorem dX5_goes_217 : decode cX5_goes 217 = .ok (.aload_n 0, 1) := dk_42 (dk_at dksX5_goes_9 7 rfl rfl)
theorem dX5_goes_218 : decode cX5_goes 218 = .ok (.getfield 3, 3) := dk_180 0 3 (dk_at dksX5_goes_9 8 rfl rfl)
theorem dX5_goes_221 : decode cX5_goes 221 = .ok (.getfield 71, 3) := dk_180 0 71 (dk_at dksX5_goes_9 11 rfl rfl)
theorem dX5_goes_224 : decode cX5_goes 224 = .ok (.aload_n 0, 1) := dk_42 (dk_at dksX5_goes_9 14 rfl rfl)
theorem dX5_goes_225 : decode cX5_goes 225 = .ok (.getfield 69, 3) := dk_180 0 69 (dk_at dksX5_goes_9 15 rfl rfl)
theorem dX5_goes_228 : decode cX5_goes 228 = .ok (.baload, 1) := dk_51 (dk_at dksX5_goes_9 18 rfl rfl)
theorem dX5_goes_229 : decode cX5_goes 229 = .ok (.iadd, 1) := dk_96 (dk_at dksX5_goes_9 19 rfl rfl)
theorem dX5_goes_230 : decode cX5_goes 230 = .ok (.bipush 48, 2) := dk_16 48 (dk_at dksX5_goes_9 20 rfl rfl)
theorem dX5_goes_232 : decode cX5_goes 232 = .ok (.isub, 1) := dk_100 (dk_at dksX5_goes_9 22 rfl rfl)
theorem dX5_goes_233 : decode cX5_goes 233 = .ok (.putfield 86, 3) := dk_181 0 86 (dk_at dksX5_goes_10 0 rfl rfl)
theorem dX5_goes_236 : decode cX5_goes 236 = .ok (.aload_n 0, 1) := dk_42 (dk_at dksX5_goes_10 3 rfl rfl)
theorem dX5_goes_237 : decode cX5_goes 237 = .ok (.dup, 1) := dk_89 (dk_at dksX5_goes_10 4 rfl rfl)
theorem dX5_goes_238 : decode cX5_goes 238 = .ok (.getfield 69, 3) := dk_180 0 69 (dk_at dksX5_goes_10 5 rfl rfl)
theorem dX5_goes_241 : decode cX5_goes 241 = .ok (.iconst 1, 1) := dk_4 (dk_at dksX5_goes_10 8 rfl rfl)
theorem dX5_goes_242 : decode cX5_goes 242 = .ok (.iadd, 1) := dk_96 (dk_at dksX5_goes_10 9 rfl rfl)
theorem dX5_goes_243 : decode cX5_goes 243 = .ok (.putfield 69, 3) := dk_181 0 69 (dk_at dksX5_goes_10 10 rfl rfl)
theorem dX5_goes_246 : decode cX5_goes 246 = .ok (.goto (-64), 3) := dk_167 255 192 (dk_at dksX5_goes_10 13 rfl rfl)
theorem dX5_goes_249 : decode cX5_goes 249 = .ok (.aload_n 0, 1) := dk_42 (dk_at dksX5_goes_10 16 rfl rfl)
theorem dX5_goes_250 : decode cX5_goes 250 = .ok (.bipush 60, 2) := dk_16 60 (dk_at dksX5_goes_10 17 rfl rfl)
theorem dX5_goes_252 : decode cX5_goes 252 = .ok (.bipush 62, 2) := dk_16 62 (dk_at dksX5_goes_10 19 rfl rfl)
theorem dX5_goes_254 : decode cX5_goes 254 = .ok (.invokevirtual 79, 3) := dk_182 0 79 (dk_at dksX5_goes_10 21 rfl rfl)
theorem dX5_goes_257 : decode cX5_goes 257 = .ok (.ifCond .eq 102, 3) := dk_153 0 102 (dk_at dksX5_goes_11 0 rfl rfl)
theorem dX5_goes_260 : decode cX5_goes 260 = .ok (.aload_n 0, 1) := dk_42 (dk_at dksX5_goes_11 3 rfl rfl)
theorem dX5_goes_261 : decode cX5_goes 261 = .ok (.iconst 5, 1) := dk_8 (dk_at dksX5_goes_11 4 rfl rfl)
theorem dX5_goes_262 : decode cX5_goes 262 = .ok (.putfield 89, 3) := dk_181 0 89 (dk_at dksX5_goes_11 5 rfl rfl)
theorem dX5_goes_265 : decode cX5_goes 265 = .ok (.aload_n 0, 1) := dk_42 (dk_at dksX5_goes_11 8 rfl rfl)
theorem dX5_goes_266 : decode cX5_goes 266 = .ok (.bipush 61, 2) := dk_16 61 (dk_at dksX5_goes_11 9 rfl rfl)
theorem dX5_goes_268 : decode cX5_goes 268 = .ok (.bipush 61, 2) := dk_16 61 (dk_at dksX5_goes_11 11 rfl rfl)
theorem dX5_goes_270 : decode cX5_goes 270 = .ok (.invokevirtual 79, 3) := dk_182 0 79 (dk_at dksX5_goes_11 13 rfl rfl)
theorem dX5_goes_273 : decode cX5_goes 273 = .ok (.ifCond .ne 7, 3) := dk_154 0 7 (dk_at dksX5_goes_11 16 rfl rfl)
theorem dX5_goes_276 : decode cX5_goes 276 = .ok (.iconst 1, 1) := dk_4 (dk_at dksX5_goes_11 19 rfl rfl)
theorem dX5_goes_277 : decode cX5_goes 277 = .ok (.goto 4, 3) := dk_167 0 4 (dk_at dksX5_goes_11 20 rfl rfl)
theorem dX5_goes_280 : decode cX5_goes 280 = .ok (.iconst 0, 1) := dk_3 (dk_at dksX5_goes_11 23 rfl rfl)
theorem dX5_goes_281 : decode cX5_goes 281 = .ok (.istore_n 1, 1) := dk_60 (dk_at dksX5_goes_12 0 rfl rfl)
theorem dX5_goes_282 : decode cX5_goes 282 = .ok (.new 92, 3) := dk_187 0 92 (dk_at dksX5_goes_12 1 rfl rfl)
theorem dX5_goes_285 : decode cX5_goes 285 = .ok (.dup, 1) := dk_89 (dk_at dksX5_goes_12 4 rfl rfl)
theorem dX5_goes_286 : decode cX5_goes 286 = .ok (.invokespecial 94, 3) := dk_183 0 94 (dk_at dksX5_goes_12 5 rfl rfl)
theorem dX5_goes_289 : decode cX5_goes 289 = .ok (.aload_n 0, 1) := dk_42 (dk_at dksX5_goes_12 8 rfl rfl)
theorem dX5_goes_290 : decode cX5_goes 290 = .ok (.getfield 3, 3) := dk_180 0 3 (dk_at dksX5_goes_12 9 rfl rfl)
theorem dX5_goes_293 : decode cX5_goes 293 = .ok (.getfield 71, 3) := dk_180 0 71 (dk_at dksX5_goes_12 12 rfl rfl)
theorem dX5_goes_296 : decode cX5_goes 296 = .ok (.aload_n 0, 1) := dk_42 (dk_at dksX5_goes_12 15 rfl rfl)
theorem dX5_goes_297 : decode cX5_goes 297 = .ok (.getfield 69, 3) := dk_180 0 69 (dk_at dksX5_goes_12 16 rfl rfl)
theorem dX5_goes_300 : decode cX5_goes 300 = .ok (.baload, 1) := dk_51 (dk_at dksX5_goes_12 19 rfl rfl)
theorem dX5_goes_301 : decode cX5_goes 301 = .ok (.i2c, 1) := dk_146 (dk_at dksX5_goes_12 20 rfl rfl)
theorem dX5_goes_302 : decode cX5_goes 302 = .ok (.invokevirtual 95, 3) := dk_182 0 95 (dk_at dksX5_goes_12 21 rfl rfl)
theorem dX5_goes_305 : decode cX5_goes 305 = .ok (.astore_n 2, 1) := dk_77 (dk_at dksX5_goes_13 0 rfl rfl)
theorem dX5_goes_306 : decode cX5_goes 306 = .ok (.aload_n 0, 1) := dk_42 (dk_at dksX5_goes_13 1 rfl rfl)
theorem dX5_goes_307 : decode cX5_goes 307 = .ok (.dup, 1) := dk_89 (dk_at dksX5_goes_13 2 rfl rfl)
theorem dX5_goes_308 : decode cX5_goes 308 = .ok (.getfield 69, 3) := dk_180 0 69 (dk_at dksX5_goes_13 3 rfl rfl)
theorem dX5_goes_311 : decode cX5_goes 311 = .ok (.iconst 1, 1) := dk_4 (dk_at dksX5_goes_13 6 rfl rfl)
theorem dX5_goes_312 : decode cX5_goes 312 = .ok (.iadd, 1) := dk_96 (dk_at dksX5_goes_13 7 rfl rfl)
theorem dX5_goes_313 : decode cX5_goes 313 = .ok (.putfield 69, 3) := dk_181 0 69 (dk_at dksX5_goes_13 8 rfl rfl)
theorem dX5_goes_316 : decode cX5_goes 316 = .ok (.iload_n 1, 1) := dk_27 (dk_at dksX5_goes_13 11 rfl rfl)
theorem dX5_goes_317 : decode cX5_goes 317 = .ok (.ifCond .eq 31, 3) := dk_153 0 31 (dk_at dksX5_goes_13 12 rfl rfl)
theorem dX5_goes_320 : decode cX5_goes 320 = .ok (.aload_n 0, 1) := dk_42 (dk_at dksX5_goes_13 15 rfl rfl)
theorem dX5_goes_321 : decode cX5_goes 321 = .ok (.bipush 61, 2) := dk_16 61 (dk_at dksX5_goes_13 16 rfl rfl)
theorem dX5_goes_323 : decode cX5_goes 323 = .ok (.bipush 61, 2) := dk_16 61 (dk_at dksX5_goes_13 18 rfl rfl)
theorem dX5_goes_325 : decode cX5_goes 325 = .ok (.invokevirtual 79, 3) := dk_182 0 79 (dk_at dksX5_goes_13 20 rfl rfl)
theorem dX5_goes_328 : decode cX5_goes 328 = .ok (.ifCond .eq 20, 3) := dk_153 0 20 (dk_at dksX5_goes_14 0 rfl rfl)
theorem dX5_goes_331 : decode cX5_goes 331 = .ok (.aload_n 2, 1) := dk_44 (dk_at dksX5_goes_14 3 rfl rfl)
theorem dX5_goes_332 : decode cX5_goes 332 = .ok (.bipush 61, 2) := dk_16 61 (dk_at dksX5_goes_14 4 rfl rfl)
theorem dX5_goes_334 : decode cX5_goes 334 = .ok (.invokevirtual 95, 3) := dk_182 0 95 (dk_at dksX5_goes_14 6 rfl rfl)
theorem dX5_goes_337 : decode cX5_goes 337 = .ok (.pop, 1) := dk_87 (dk_at dksX5_goes_14 9 rfl rfl)
theorem dX5_goes_338 : decode cX5_goes 338 = .ok (.aload_n 0, 1) := dk_42 (dk_at dksX5_goes_14 10 rfl rfl)
theorem dX5_goes_339 : decode cX5_goes 339 = .ok (.dup, 1) := dk_89 (dk_at dksX5_goes_14 11 rfl rfl)
theorem dX5_goes_340 : decode cX5_goes 340 = .ok (.getfield 69, 3) := dk_180 0 69 (dk_at dksX5_goes_14 12 rfl rfl)
theorem dX5_goes_343 : decode cX5_goes 343 = .ok (.iconst 1, 1) := dk_4 (dk_at dksX5_goes_14 15 rfl rfl)
theorem dX5_goes_344 : decode cX5_goes 344 = .ok (.iadd, 1) := dk_96 (dk_at dksX5_goes_14 16 rfl rfl)
theorem dX5_goes_345 : decode cX5_goes 345 = .ok (.putfield 69, 3) := dk_181 0 69 (dk_at dksX5_goes_14 17 rfl rfl)
theorem dX5_goes_348 : decode cX5_goes 348 = .ok (.aload_n 0, 1) := dk_42 (dk_at dksX5_goes_14 20 rfl rfl)
theorem dX5_goes_349 : decode cX5_goes 349 = .ok (.aload_n 2, 1) := dk_44 (dk_at dksX5_goes_14 21 rfl rfl)
theorem dX5_goes_350 : decode cX5_goes 350 = .ok (.invokevirtual 99, 3) := dk_182 0 99 (dk_at dksX5_goes_15 0 rfl rfl)
theorem dX5_goes_353 : decode cX5_goes 353 = .ok (.putfield 55, 3) := dk_181 0 55 (dk_at dksX5_goes_15 3 rfl rfl)
theorem dX5_goes_356 : decode cX5_goes 356 = .ok (.goto 33, 3) := dk_167 0 33 (dk_at dksX5_goes_15 6 rfl rfl)
theorem dX5_goes_359 : decode cX5_goes 359 = .ok (.aload_n 0, 1) := dk_42 (dk_at dksX5_goes_15 9 rfl rfl)
theorem dX5_goes_360 : decode cX5_goes 360 = .ok (.aload_n 0, 1) := dk_42 (dk_at dksX5_goes_15 10 rfl rfl)
theorem dX5_goes_361 : decode cX5_goes 361 = .ok (.bipush 59, 2) := dk_16 59 (dk_at dksX5_goes_15 11 rfl rfl)
theorem dX5_goes_363 : decode cX5_goes 363 = .ok (.bipush 59, 2) := dk_16 59 (dk_at dksX5_goes_15 13 rfl rfl)
theorem dX5_goes_365 : decode cX5_goes 365 = .ok (.invokevirtual 79, 3) := dk_182 0 79 (dk_at dksX5_goes_15 15 rfl rfl)
theorem dX5_goes_368 : decode cX5_goes 368 = .ok (.ifCond .eq 7, 3) := dk_153 0 7 (dk_at dksX5_goes_15 18 rfl rfl)
theorem dX5_goes_371 : decode cX5_goes 371 = .ok (.iconst 3, 1) := dk_6 (dk_at dksX5_goes_15 21 rfl rfl)
theorem dX5_goes_372 : decode cX5_goes 372 = .ok (.goto 4, 3) := dk_167 0 4 (dk_at dksX5_goes_16 0 rfl rfl)
theorem dX5_goes_375 : decode cX5_goes 375 = .ok (.iconst 4, 1) := dk_7 (dk_at dksX5_goes_16 3 rfl rfl)
theorem dX5_goes_376 : decode cX5_goes 376 = .ok (.putfield 89, 3) := dk_181 0 89 (dk_at dksX5_goes_16 4 rfl rfl)
theorem dX5_goes_379 : decode cX5_goes 379 = .ok (.aload_n 0, 1) := dk_42 (dk_at dksX5_goes_16 7 rfl rfl)
theorem dX5_goes_380 : decode cX5_goes 380 = .ok (.dup, 1) := dk_89 (dk_at dksX5_goes_16 8 rfl rfl)
theorem dX5_goes_381 : decode cX5_goes 381 = .ok (.getfield 69, 3) := dk_180 0 69 (dk_at dksX5_goes_16 9 rfl rfl)
theorem dX5_goes_384 : decode cX5_goes 384 = .ok (.iconst 1, 1) := dk_4 (dk_at dksX5_goes_16 12 rfl rfl)
theorem dX5_goes_385 : decode cX5_goes 385 = .ok (.iadd, 1) := dk_96 (dk_at dksX5_goes_16 13 rfl rfl)
theorem dX5_goes_386 : decode cX5_goes 386 = .ok (.putfield 69, 3) := dk_181 0 69 (dk_at dksX5_goes_16 14 rfl rfl)
theorem dX5_goes_389 : decode cX5_goes 389 = .ok (.return_, 1) := dk_177 (dk_at dksX5_goes_16 17 rfl rfl)
def dkwX5_isAt_1 : List UInt8 := [28, 184, 0, 75, 153, 0, 7, 4, 167, 0, 4, 3, 172]
abbrev dktX5_isAt_1 : List UInt8 := dkwX5_isAt_1 ++ []
def dkwX5_isAt_0 : List UInt8 := [42, 180, 0, 69, 42, 180, 0, 59, 162, 0, 27, 42, 180, 0, 3, 180, 0, 71, 42, 180, 0, 69, 51, 27]
abbrev dktX5_isAt_0 : List UInt8 := dkwX5_isAt_0 ++ dktX5_isAt_1
theorem dksX5_isAt_0 : cX5_isAt.data.toList.drop 0 = dktX5_isAt_0 := by decide +kernel
theorem dksX5_isAt_1 : cX5_isAt.data.toList.drop 24 = dktX5_isAt_1 := dk_seg dksX5_isAt_0 24 rfl rfl
theorem dX5_isAt_0 : decode cX5_isAt 0 = .ok (.aload_n 0, 1) := dk_42 (dk_at dksX5_isAt_0 0 rfl rfl)
theorem dX5_isAt_1 : decode cX5_isAt 1 = .ok (.getfield 69, 3) := dk_180 0 69 (dk_at dksX5_isAt_0 1 rfl rfl)
theorem dX5_isAt_4 : decode cX5_isAt 4 = .ok (.aload_n 0, 1) := dk_42 (dk_at dksX5_isAt_0 4 rfl rfl)
theorem dX5_isAt_5 : decode cX5_isAt 5 = .ok (.getfield 59, 3) := dk_180 0 59 (dk_at dksX5_isAt_0 5 rfl rfl)
theorem dX5_isAt_8 : decode cX5_isAt 8 = .ok (.if_icmp .ge 27, 3) := dk_162 0 27 (dk_at dksX5_isAt_0 8 rfl rfl)
theorem dX5_isAt_11 : decode cX5_isAt 11 = .ok (.aload_n 0, 1) := dk_42 (dk_at dksX5_isAt_0 11 rfl rfl)
theorem dX5_isAt_12 : decode cX5_isAt 12 = .ok (.getfield 3, 3) := dk_180 0 3 (dk_at dksX5_isAt_0 12 rfl rfl)
theorem dX5_isAt_15 : decode cX5_isAt 15 = .ok (.getfield 71, 3) := dk_180 0 71 (dk_at dksX5_isAt_0 15 rfl rfl)
theorem dX5_isAt_18 : decode cX5_isAt 18 = .ok (.aload_n 0, 1) := dk_42 (dk_at dksX5_isAt_0 18 rfl rfl)
theorem dX5_isAt_19 : decode cX5_isAt 19 = .ok (.getfield 69, 3) := dk_180 0 69 (dk_at dksX5_isAt_0 19 rfl rfl)
theorem dX5_isAt_22 : decode cX5_isAt 22 = .ok (.baload, 1) := dk_51 (dk_at dksX5_isAt_0 22 rfl rfl)
theorem dX5_isAt_23 : decode cX5_isAt 23 = .ok (.iload_n 1, 1) := dk_27 (dk_at dksX5_isAt_0 23 rfl rfl)
theorem dX5_isAt_24 : decode cX5_isAt 24 = .ok (.iload_n 2, 1) := dk_28 (dk_at dksX5_isAt_1 0 rfl rfl)
theorem dX5_isAt_25 : decode cX5_isAt 25 = .ok (.invokestatic 75, 3) := dk_184 0 75 (dk_at dksX5_isAt_1 1 rfl rfl)
theorem dX5_isAt_28 : decode cX5_isAt 28 = .ok (.ifCond .eq 7, 3) := dk_153 0 7 (dk_at dksX5_isAt_1 4 rfl rfl)
theorem dX5_isAt_31 : decode cX5_isAt 31 = .ok (.iconst 1, 1) := dk_4 (dk_at dksX5_isAt_1 7 rfl rfl)
theorem dX5_isAt_32 : decode cX5_isAt 32 = .ok (.goto 4, 3) := dk_167 0 4 (dk_at dksX5_isAt_1 8 rfl rfl)
theorem dX5_isAt_35 : decode cX5_isAt 35 = .ok (.iconst 0, 1) := dk_3 (dk_at dksX5_isAt_1 11 rfl rfl)
theorem dX5_isAt_36 : decode cX5_isAt 36 = .ok (.ireturn, 1) := dk_172 (dk_at dksX5_isAt_1 12 rfl rfl)
def dkwX5_whole_1 : List UInt8 := [182, 0, 223, 154, 0, 7, 4, 167, 0, 4, 3, 7, 182, 0, 120, 42, 180, 0, 49, 176]
abbrev dktX5_whole_1 : List UInt8 := dkwX5_whole_1 ++ []
def dkwX5_whole_0 : List UInt8 := [42, 180, 0, 89, 153, 0, 10, 42, 182, 0, 220, 167, 255, 245, 42, 42, 180, 0, 49, 180, 0, 183]
abbrev dktX5_whole_0 : List UInt8 := dkwX5_whole_0 ++ dktX5_whole_1
theorem dksX5_whole_0 : cX5_whole.data.toList.drop 0 = dktX5_whole_0 := by decide +kernel
theorem dksX5_whole_1 : cX5_whole.data.toList.drop 22 = dktX5_whole_1 := dk_seg dksX5_whole_0 22 rfl rfl
theorem dX5_whole_0 : decode cX5_whole 0 = .ok (.aload_n 0, 1) := dk_42 (dk_at dksX5_whole_0 0 rfl rfl)
theorem dX5_whole_1 : decode cX5_whole 1 = .ok (.getfield 89, 3) := dk_180 0 89 (dk_at dksX5_whole_0 1 rfl rfl)
theorem dX5_whole_4 : decode cX5_whole 4 = .ok (.ifCond .eq 10, 3) := dk_153 0 10 (dk_at dksX5_whole_0 4 rfl rfl)
theorem dX5_whole_7 : decode cX5_whole 7 = .ok (.aload_n 0, 1) := dk_42 (dk_at dksX5_whole_0 7 rfl rfl)
theorem dX5_whole_8 : decode cX5_whole 8 = .ok (.invokevirtual 220, 3) := dk_182 0 220 (dk_at dksX5_whole_0 8 rfl rfl)
theorem dX5_whole_11 : decode cX5_whole 11 = .ok (.goto (-11), 3) := dk_167 255 245 (dk_at dksX5_whole_0 11 rfl rfl)
theorem dX5_whole_14 : decode cX5_whole 14 = .ok (.aload_n 0, 1) := dk_42 (dk_at dksX5_whole_0 14 rfl rfl)
theorem dX5_whole_15 : decode cX5_whole 15 = .ok (.aload_n 0, 1) := dk_42 (dk_at dksX5_whole_0 15 rfl rfl)
theorem dX5_whole_16 : decode cX5_whole 16 = .ok (.getfield 49, 3) := dk_180 0 49 (dk_at dksX5_whole_0 16 rfl rfl)
theorem dX5_whole_19 : decode cX5_whole 19 = .ok (.getfield 183, 3) := dk_180 0 183 (dk_at dksX5_whole_0 19 rfl rfl)
theorem dX5_whole_22 : decode cX5_whole 22 = .ok (.invokevirtual 223, 3) := dk_182 0 223 (dk_at dksX5_whole_1 0 rfl rfl)
theorem dX5_whole_25 : decode cX5_whole 25 = .ok (.ifCond .ne 7, 3) := dk_154 0 7 (dk_at dksX5_whole_1 3 rfl rfl)
theorem dX5_whole_28 : decode cX5_whole 28 = .ok (.iconst 1, 1) := dk_4 (dk_at dksX5_whole_1 6 rfl rfl)
theorem dX5_whole_29 : decode cX5_whole 29 = .ok (.goto 4, 3) := dk_167 0 4 (dk_at dksX5_whole_1 7 rfl rfl)
theorem dX5_whole_32 : decode cX5_whole 32 = .ok (.iconst 0, 1) := dk_3 (dk_at dksX5_whole_1 10 rfl rfl)
theorem dX5_whole_33 : decode cX5_whole 33 = .ok (.iconst 4, 1) := dk_7 (dk_at dksX5_whole_1 11 rfl rfl)
theorem dX5_whole_34 : decode cX5_whole 34 = .ok (.invokevirtual 120, 3) := dk_182 0 120 (dk_at dksX5_whole_1 12 rfl rfl)
theorem dX5_whole_37 : decode cX5_whole 37 = .ok (.aload_n 0, 1) := dk_42 (dk_at dksX5_whole_1 15 rfl rfl)
theorem dX5_whole_38 : decode cX5_whole 38 = .ok (.getfield 49, 3) := dk_180 0 49 (dk_at dksX5_whole_1 16 rfl rfl)
theorem dX5_whole_41 : decode cX5_whole 41 = .ok (.areturn, 1) := dk_176 (dk_at dksX5_whole_1 19 rfl rfl)
def dkwX5_line_14 : List UInt8 := [180, 0, 217, 4, 96, 181, 0, 217, 177]
abbrev dktX5_line_14 : List UInt8 := dkwX5_line_14 ++ []
def dkwX5_line_13 : List UInt8 := [6, 160, 0, 7, 4, 167, 0, 4, 3, 4, 182, 0, 120, 42, 182, 0, 63, 42, 180, 0, 49, 89]
abbrev dktX5_line_13 : List UInt8 := dkwX5_line_13 ++ dktX5_line_14
def dkwX5_line_12 : List UInt8 := [181, 0, 215, 167, 0, 16, 187, 0, 111, 89, 4, 42, 180, 0, 83, 183, 0, 113, 191, 42, 42, 180, 0, 89]
abbrev dktX5_line_12 : List UInt8 := dkwX5_line_12 ++ dktX5_line_13
def dkwX5_line_11 : List UInt8 := [42, 4, 181, 0, 211, 42, 182, 0, 63, 42, 180, 0, 49, 42, 42, 180, 0, 49, 180, 0, 183, 182, 0, 151]
abbrev dktX5_line_11 : List UInt8 := dkwX5_line_11 ++ dktX5_line_12
def dkwX5_line_10 : List UInt8 := [182, 0, 140, 87, 167, 0, 63, 42, 42, 180, 0, 211, 154, 0, 7, 4, 167, 0, 4, 3, 6, 182, 0, 120]
abbrev dktX5_line_10 : List UInt8 := dkwX5_line_10 ++ dktX5_line_11
def dkwX5_line_9 : List UInt8 := [42, 44, 180, 0, 204, 182, 0, 194, 42, 44, 180, 0, 206, 182, 0, 209, 42, 180, 0, 49, 180, 0, 198, 44]
abbrev dktX5_line_9 : List UInt8 := dkwX5_line_9 ++ dktX5_line_10
def dkwX5_line_8 : List UInt8 := [182, 0, 151, 60, 187, 0, 201, 89, 27, 42, 42, 180, 0, 49, 180, 0, 183, 182, 0, 151, 183, 0, 203, 77]
abbrev dktX5_line_8 : List UInt8 := dkwX5_line_8 ++ dktX5_line_9
def dkwX5_line_7 : List UInt8 := [162, 0, 7, 4, 167, 0, 4, 3, 5, 182, 0, 120, 42, 182, 0, 63, 42, 42, 180, 0, 49, 180, 0, 183]
abbrev dktX5_line_7 : List UInt8 := dkwX5_line_7 ++ dktX5_line_8
def dkwX5_line_6 : List UInt8 := [192, 0, 129, 182, 0, 194, 167, 0, 155, 42, 42, 180, 0, 49, 180, 0, 198, 182, 0, 137, 16, 16]
abbrev dktX5_line_6 : List UInt8 := dkwX5_line_6 ++ dktX5_line_7
def dkwX5_line_5 : List UInt8 := [42, 180, 0, 49, 180, 0, 186, 42, 180, 0, 49, 180, 0, 183, 182, 0, 137, 4, 100, 182, 0, 190]
abbrev dktX5_line_5 : List UInt8 := dkwX5_line_5 ++ dktX5_line_6
def dkwX5_line_4 : List UInt8 := [16, 8, 182, 0, 179, 42, 180, 0, 49, 180, 0, 186, 187, 0, 129, 89, 183, 0, 189, 182, 0, 140, 87, 42]
abbrev dktX5_line_4 : List UInt8 := dkwX5_line_4 ++ dktX5_line_5
def dkwX5_line_3 : List UInt8 := [42, 42, 180, 0, 49, 180, 0, 147, 7, 182, 0, 179, 167, 0, 218, 42, 42, 180, 0, 49, 180, 0, 183]
abbrev dktX5_line_3 : List UInt8 := dkwX5_line_3 ++ dktX5_line_4
def dkwX5_line_2 : List UInt8 := [170, 0, 0, 0, 0, 247, 0, 0, 0, 0, 0, 0, 0, 3, 0, 0, 0, 30, 0, 0, 0, 45, 0, 0, 0, 108, 0, 0, 0, 200]
abbrev dktX5_line_2 : List UInt8 := dkwX5_line_2 ++ dktX5_line_3
def dkwX5_line_1 : List UInt8 := [182, 0, 116]
abbrev dktX5_line_1 : List UInt8 := dkwX5_line_1 ++ dktX5_line_2
def dkwX5_line_0 : List UInt8 := [42, 42, 180, 0, 89, 4, 160, 0, 7, 4, 167, 0, 4, 3, 4, 182, 0, 120, 42, 42, 180, 0, 29]
abbrev dktX5_line_0 : List UInt8 := dkwX5_line_0 ++ dktX5_line_1
theorem dksX5_line_0 : cX5_line.data.toList.drop 0 = dktX5_line_0 := by decide +kernel
theorem dksX5_line_1 : cX5_line.data.toList.drop 23 = dktX5_line_1 := dk_seg dksX5_line_0 23 rfl rfl
theorem dksX5_line_2 : cX5_line.data.toList.drop 26 = dktX5_line_2 := dk_seg dksX5_line_1 3 rfl rfl
theorem dksX5_line_3 : cX5_line.data.toList.drop 56 = dktX5_line_3 := dk_seg dksX5_line_2 30 rfl rfl
theorem dksX5_line_4 : cX5_line.data.toList.drop 79 = dktX5_line_4 := dk_seg dksX5_line_3 23 rfl rfl
theorem dksX5_line_5 : cX5_line.data.toList.drop 103 = dktX5_line_5 := dk_seg dksX5_line_4 24 rfl rfl
theorem dksX5_line_6 : cX5_line.data.toList.drop 125 = dktX5_line_6 := dk_seg dksX5_line_5 22 rfl rfl
theorem dksX5_line_7 : cX5_line.data.toList.drop 147 = dktX5_line_7 := dk_seg dksX5_line_6 22 rfl rfl
theorem dksX5_line_8 : cX5_line.data.toList.drop 171 = dktX5_line_8 := dk_seg dksX5_line_7 24 rfl rfl
theorem dksX5_line_9 : cX5_line.data.toList.drop 195 = dktX5_line_9 := dk_seg dksX5_line_8 24 rfl rfl
theorem dksX5_line_10 : cX5_line.data.toList.drop 219 = dktX5_line_10 := dk_seg dksX5_line_9 24 rfl rfl
theorem dksX5_line_11 : cX5_line.data.toList.drop 243 = dktX5_line_11 := dk_seg dksX5_line_10 24 rfl rfl
theorem dksX5_line_12 : cX5_line.data.toList.drop 267 = dktX5_line_12 := dk_seg dksX5_line_11 24 rfl rfl
theorem dksX5_line_13 : cX5_line.data.toList.drop 291 = dktX5_line_13 := dk_seg dksX5_line_12 24 rfl rfl
theorem dksX5_line_14 : cX5_line.data.toList.drop 313 = dktX5_line_14 := dk_seg dksX5_line_13 22 rfl rfl
theorem dX5_line_0 : decode cX5_line 0 = .ok (.aload_n 0, 1) := dk_42 (dk_at dksX5_line_0 0 rfl rfl)
theorem dX5_line_1 : decode cX5_line 1 = .ok (.aload_n 0, 1) := dk_42 (dk_at dksX5_line_0 1 rfl rfl)
theorem dX5_line_2 : decode cX5_line 2 = .ok (.getfield 89, 3) := dk_180 0 89 (dk_at dksX5_line_0 2 rfl rfl)
theorem dX5_line_5 : decode cX5_line 5 = .ok (.iconst 1, 1) := dk_4 (dk_at dksX5_line_0 5 rfl rfl)
theorem dX5_line_6 : decode cX5_line 6 = .ok (.if_icmp .ne 7, 3) := dk_160 0 7 (dk_at dksX5_line_0 6 rfl rfl)
theorem dX5_line_9 : decode cX5_line 9 = .ok (.iconst 1, 1) := dk_4 (dk_at dksX5_line_0 9 rfl rfl)
theorem dX5_line_10 : decode cX5_line 10 = .ok (.goto 4, 3) := dk_167 0 4 (dk_at dksX5_line_0 10 rfl rfl)
theorem dX5_line_13 : decode cX5_line 13 = .ok (.iconst 0, 1) := dk_3 (dk_at dksX5_line_0 13 rfl rfl)
theorem dX5_line_14 : decode cX5_line 14 = .ok (.iconst 1, 1) := dk_4 (dk_at dksX5_line_0 14 rfl rfl)
theorem dX5_line_15 : decode cX5_line 15 = .ok (.invokevirtual 120, 3) := dk_182 0 120 (dk_at dksX5_line_0 15 rfl rfl)
theorem dX5_line_18 : decode cX5_line 18 = .ok (.aload_n 0, 1) := dk_42 (dk_at dksX5_line_0 18 rfl rfl)
theorem dX5_line_19 : decode cX5_line 19 = .ok (.aload_n 0, 1) := dk_42 (dk_at dksX5_line_0 19 rfl rfl)
theorem dX5_line_20 : decode cX5_line 20 = .ok (.getfield 29, 3) := dk_180 0 29 (dk_at dksX5_line_0 20 rfl rfl)
theorem dX5_line_23 : decode cX5_line 23 = .ok (.invokevirtual 116, 3) := dk_182 0 116 (dk_at dksX5_line_1 0 rfl rfl)
theorem dX5_line_26 : decode cX5_line 26 = .ok (.tableswitch 247 0 3 #[30, 45, 108, 200], 30) := by decide +kernel
theorem dX5_line_56 : decode cX5_line 56 = .ok (.aload_n 0, 1) := dk_42 (dk_at dksX5_line_3 0 rfl rfl)
theorem dX5_line_57 : decode cX5_line 57 = .ok (.aload_n 0, 1) := dk_42 (dk_at dksX5_line_3 1 rfl rfl)
theorem dX5_line_58 : decode cX5_line 58 = .ok (.getfield 49, 3) := dk_180 0 49 (dk_at dksX5_line_3 2 rfl rfl)
theorem dX5_line_61 : decode cX5_line 61 = .ok (.getfield 147, 3) := dk_180 0 147 (dk_at dksX5_line_3 5 rfl rfl)
theorem dX5_line_64 : decode cX5_line 64 = .ok (.iconst 4, 1) := dk_7 (dk_at dksX5_line_3 8 rfl rfl)
theorem dX5_line_65 : decode cX5_line 65 = .ok (.invokevirtual 179, 3) := dk_182 0 179 (dk_at dksX5_line_3 9 rfl rfl)
theorem dX5_line_68 : decode cX5_line 68 = .ok (.goto 218, 3) := dk_167 0 218 (dk_at dksX5_line_3 12 rfl rfl)
theorem dX5_line_71 : decode cX5_line 71 = .ok (.aload_n 0, 1) := dk_42 (dk_at dksX5_line_3 15 rfl rfl)
theorem dX5_line_72 : decode cX5_line 72 = .ok (.aload_n 0, 1) := dk_42 (dk_at dksX5_line_3 16 rfl rfl)
theorem dX5_line_73 : decode cX5_line 73 = .ok (.getfield 49, 3) := dk_180 0 49 (dk_at dksX5_line_3 17 rfl rfl)
theorem dX5_line_76 : decode cX5_line 76 = .ok (.getfield 183, 3) := dk_180 0 183 (dk_at dksX5_line_3 20 rfl rfl)
theorem dX5_line_79 : decode cX5_line 79 = .ok (.bipush 8, 2) := dk_16 8 (dk_at dksX5_line_4 0 rfl rfl)
theorem dX5_line_81 : decode cX5_line 81 = .ok (.invokevirtual 179, 3) := dk_182 0 179 (dk_at dksX5_line_4 2 rfl rfl)
theorem dX5_line_84 : decode cX5_line 84 = .ok (.aload_n 0, 1) := dk_42 (dk_at dksX5_line_4 5 rfl rfl)
theorem dX5_line_85 : decode cX5_line 85 = .ok (.getfield 49, 3) := dk_180 0 49 (dk_at dksX5_line_4 6 rfl rfl)
theorem dX5_line_88 : decode cX5_line 88 = .ok (.getfield 186, 3) := dk_180 0 186 (dk_at dksX5_line_4 9 rfl rfl)
theorem dX5_line_91 : decode cX5_line 91 = .ok (.new 129, 3) := dk_187 0 129 (dk_at dksX5_line_4 12 rfl rfl)
theorem dX5_line_94 : decode cX5_line 94 = .ok (.dup, 1) := dk_89 (dk_at dksX5_line_4 15 rfl rfl)
theorem dX5_line_95 : decode cX5_line 95 = .ok (.invokespecial 189, 3) := dk_183 0 189 (dk_at dksX5_line_4 16 rfl rfl)
theorem dX5_line_98 : decode cX5_line 98 = .ok (.invokevirtual 140, 3) := dk_182 0 140 (dk_at dksX5_line_4 19 rfl rfl)
theorem dX5_line_101 : decode cX5_line 101 = .ok (.pop, 1) := dk_87 (dk_at dksX5_line_4 22 rfl rfl)
theorem dX5_line_102 : decode cX5_line 102 = .ok (.aload_n 0, 1) := dk_42 (dk_at dksX5_line_4 23 rfl rfl)
theorem dX5_line_103 : decode cX5_line 103 = .ok (.aload_n 0, 1) := dk_42 (dk_at dksX5_line_5 0 rfl rfl)
theorem dX5_line_104 : decode cX5_line 104 = .ok (.getfield 49, 3) := dk_180 0 49 (dk_at dksX5_line_5 1 rfl rfl)
theorem dX5_line_107 : decode cX5_line 107 = .ok (.getfield 186, 3) := dk_180 0 186 (dk_at dksX5_line_5 4 rfl rfl)
theorem dX5_line_110 : decode cX5_line 110 = .ok (.aload_n 0, 1) := dk_42 (dk_at dksX5_line_5 7 rfl rfl)
theorem dX5_line_111 : decode cX5_line 111 = .ok (.getfield 49, 3) := dk_180 0 49 (dk_at dksX5_line_5 8 rfl rfl)
theorem dX5_line_114 : decode cX5_line 114 = .ok (.getfield 183, 3) := dk_180 0 183 (dk_at dksX5_line_5 11 rfl rfl)
theorem dX5_line_117 : decode cX5_line 117 = .ok (.invokevirtual 137, 3) := dk_182 0 137 (dk_at dksX5_line_5 14 rfl rfl)
theorem dX5_line_120 : decode cX5_line 120 = .ok (.iconst 1, 1) := dk_4 (dk_at dksX5_line_5 17 rfl rfl)
theorem dX5_line_121 : decode cX5_line 121 = .ok (.isub, 1) := dk_100 (dk_at dksX5_line_5 18 rfl rfl)
theorem dX5_line_122 : decode cX5_line 122 = .ok (.invokevirtual 190, 3) := dk_182 0 190 (dk_at dksX5_line_5 19 rfl rfl)
theorem dX5_line_125 : decode cX5_line 125 = .ok (.checkcast 129, 3) := dk_192 0 129 (dk_at dksX5_line_6 0 rfl rfl)
theorem dX5_line_128 : decode cX5_line 128 = .ok (.invokevirtual 194, 3) := dk_182 0 194 (dk_at dksX5_line_6 3 rfl rfl)
theorem dX5_line_131 : decode cX5_line 131 = .ok (.goto 155, 3) := dk_167 0 155 (dk_at dksX5_line_6 6 rfl rfl)
theorem dX5_line_134 : decode cX5_line 134 = .ok (.aload_n 0, 1) := dk_42 (dk_at dksX5_line_6 9 rfl rfl)
theorem dX5_line_135 : decode cX5_line 135 = .ok (.aload_n 0, 1) := dk_42 (dk_at dksX5_line_6 10 rfl rfl)
theorem dX5_line_136 : decode cX5_line 136 = .ok (.getfield 49, 3) := dk_180 0 49 (dk_at dksX5_line_6 11 rfl rfl)
theorem dX5_line_139 : decode cX5_line 139 = .ok (.getfield 198, 3) := dk_180 0 198 (dk_at dksX5_line_6 14 rfl rfl)
theorem dX5_line_142 : decode cX5_line 142 = .ok (.invokevirtual 137, 3) := dk_182 0 137 (dk_at dksX5_line_6 17 rfl rfl)
theorem dX5_line_145 : decode cX5_line 145 = .ok (.bipush 16, 2) := dk_16 16 (dk_at dksX5_line_6 20 rfl rfl)
theorem dX5_line_147 : decode cX5_line 147 = .ok (.if_icmp .ge 7, 3) := dk_162 0 7 (dk_at dksX5_line_7 0 rfl rfl)
theorem dX5_line_150 : decode cX5_line 150 = .ok (.iconst 1, 1) := dk_4 (dk_at dksX5_line_7 3 rfl rfl)
theorem dX5_line_151 : decode cX5_line 151 = .ok (.goto 4, 3) := dk_167 0 4 (dk_at dksX5_line_7 4 rfl rfl)
theorem dX5_line_154 : decode cX5_line 154 = .ok (.iconst 0, 1) := dk_3 (dk_at dksX5_line_7 7 rfl rfl)
theorem dX5_line_155 : decode cX5_line 155 = .ok (.iconst 2, 1) := dk_5 (dk_at dksX5_line_7 8 rfl rfl)
theorem dX5_line_156 : decode cX5_line 156 = .ok (.invokevirtual 120, 3) := dk_182 0 120 (dk_at dksX5_line_7 9 rfl rfl)
theorem dX5_line_159 : decode cX5_line 159 = .ok (.aload_n 0, 1) := dk_42 (dk_at dksX5_line_7 12 rfl rfl)
theorem dX5_line_160 : decode cX5_line 160 = .ok (.invokevirtual 63, 3) := dk_182 0 63 (dk_at dksX5_line_7 13 rfl rfl)
theorem dX5_line_163 : decode cX5_line 163 = .ok (.aload_n 0, 1) := dk_42 (dk_at dksX5_line_7 16 rfl rfl)
theorem dX5_line_164 : decode cX5_line 164 = .ok (.aload_n 0, 1) := dk_42 (dk_at dksX5_line_7 17 rfl rfl)
theorem dX5_line_165 : decode cX5_line 165 = .ok (.getfield 49, 3) := dk_180 0 49 (dk_at dksX5_line_7 18 rfl rfl)
theorem dX5_line_168 : decode cX5_line 168 = .ok (.getfield 183, 3) := dk_180 0 183 (dk_at dksX5_line_7 21 rfl rfl)
theorem dX5_line_171 : decode cX5_line 171 = .ok (.invokevirtual 151, 3) := dk_182 0 151 (dk_at dksX5_line_8 0 rfl rfl)
theorem dX5_line_174 : decode cX5_line 174 = .ok (.istore_n 1, 1) := dk_60 (dk_at dksX5_line_8 3 rfl rfl)
theorem dX5_line_175 : decode cX5_line 175 = .ok (.new 201, 3) := dk_187 0 201 (dk_at dksX5_line_8 4 rfl rfl)
theorem dX5_line_178 : decode cX5_line 178 = .ok (.dup, 1) := dk_89 (dk_at dksX5_line_8 7 rfl rfl)
theorem dX5_line_179 : decode cX5_line 179 = .ok (.iload_n 1, 1) := dk_27 (dk_at dksX5_line_8 8 rfl rfl)
theorem dX5_line_180 : decode cX5_line 180 = .ok (.aload_n 0, 1) := dk_42 (dk_at dksX5_line_8 9 rfl rfl)
theorem dX5_line_181 : decode cX5_line 181 = .ok (.aload_n 0, 1) := dk_42 (dk_at dksX5_line_8 10 rfl rfl)
theorem dX5_line_182 : decode cX5_line 182 = .ok (.getfield 49, 3) := dk_180 0 49 (dk_at dksX5_line_8 11 rfl rfl)
theorem dX5_line_185 : decode cX5_line 185 = .ok (.getfield 183, 3) := dk_180 0 183 (dk_at dksX5_line_8 14 rfl rfl)
theorem dX5_line_188 : decode cX5_line 188 = .ok (.invokevirtual 151, 3) := dk_182 0 151 (dk_at dksX5_line_8 17 rfl rfl)
theorem dX5_line_191 : decode cX5_line 191 = .ok (.invokespecial 203, 3) := dk_183 0 203 (dk_at dksX5_line_8 20 rfl rfl)
theorem dX5_line_194 : decode cX5_line 194 = .ok (.astore_n 2, 1) := dk_77 (dk_at dksX5_line_8 23 rfl rfl)
theorem dX5_line_195 : decode cX5_line 195 = .ok (.aload_n 0, 1) := dk_42 (dk_at dksX5_line_9 0 rfl rfl)
theorem dX5_line_196 : decode cX5_line 196 = .ok (.aload_n 2, 1) := dk_44 (dk_at dksX5_line_9 1 rfl rfl)
theorem dX5_line_197 : decode cX5_line 197 = .ok (.getfield 204, 3) := dk_180 0 204 (dk_at dksX5_line_9 2 rfl rfl)
theorem dX5_line_200 : decode cX5_line 200 = .ok (.invokevirtual 194, 3) := dk_182 0 194 (dk_at dksX5_line_9 5 rfl rfl)
theorem dX5_line_203 : decode cX5_line 203 = .ok (.aload_n 0, 1) := dk_42 (dk_at dksX5_line_9 8 rfl rfl)
theorem dX5_line_204 : decode cX5_line 204 = .ok (.aload_n 2, 1) := dk_44 (dk_at dksX5_line_9 9 rfl rfl)
theorem dX5_line_205 : decode cX5_line 205 = .ok (.getfield 206, 3) := dk_180 0 206 (dk_at dksX5_line_9 10 rfl rfl)
theorem dX5_line_208 : decode cX5_line 208 = .ok (.invokevirtual 209, 3) := dk_182 0 209 (dk_at dksX5_line_9 13 rfl rfl)
theorem dX5_line_211 : decode cX5_line 211 = .ok (.aload_n 0, 1) := dk_42 (dk_at dksX5_line_9 16 rfl rfl)
theorem dX5_line_212 : decode cX5_line 212 = .ok (.getfield 49, 3) := dk_180 0 49 (dk_at dksX5_line_9 17 rfl rfl)
theorem dX5_line_215 : decode cX5_line 215 = .ok (.getfield 198, 3) := dk_180 0 198 (dk_at dksX5_line_9 20 rfl rfl)
theorem dX5_line_218 : decode cX5_line 218 = .ok (.aload_n 2, 1) := dk_44 (dk_at dksX5_line_9 23 rfl rfl)
theorem dX5_line_219 : decode cX5_line 219 = .ok (.invokevirtual 140, 3) := dk_182 0 140 (dk_at dksX5_line_10 0 rfl rfl)
theorem dX5_line_222 : decode cX5_line 222 = .ok (.pop, 1) := dk_87 (dk_at dksX5_line_10 3 rfl rfl)
theorem dX5_line_223 : decode cX5_line 223 = .ok (.goto 63, 3) := dk_167 0 63 (dk_at dksX5_line_10 4 rfl rfl)
theorem dX5_line_226 : decode cX5_line 226 = .ok (.aload_n 0, 1) := dk_42 (dk_at dksX5_line_10 7 rfl rfl)
theorem dX5_line_227 : decode cX5_line 227 = .ok (.aload_n 0, 1) := dk_42 (dk_at dksX5_line_10 8 rfl rfl)
theorem dX5_line_228 : decode cX5_line 228 = .ok (.getfield 211, 3) := dk_180 0 211 (dk_at dksX5_line_10 9 rfl rfl)
theorem dX5_line_231 : decode cX5_line 231 = .ok (.ifCond .ne 7, 3) := dk_154 0 7 (dk_at dksX5_line_10 12 rfl rfl)
theorem dX5_line_234 : decode cX5_line 234 = .ok (.iconst 1, 1) := dk_4 (dk_at dksX5_line_10 15 rfl rfl)
theorem dX5_line_235 : decode cX5_line 235 = .ok (.goto 4, 3) := dk_167 0 4 (dk_at dksX5_line_10 16 rfl rfl)
theorem dX5_line_238 : decode cX5_line 238 = .ok (.iconst 0, 1) := dk_3 (dk_at dksX5_line_10 19 rfl rfl)
theorem dX5_line_239 : decode cX5_line 239 = .ok (.iconst 3, 1) := dk_6 (dk_at dksX5_line_10 20 rfl rfl)
theorem dX5_line_240 : decode cX5_line 240 = .ok (.invokevirtual 120, 3) := dk_182 0 120 (dk_at dksX5_line_10 21 rfl rfl)
theorem dX5_line_243 : decode cX5_line 243 = .ok (.aload_n 0, 1) := dk_42 (dk_at dksX5_line_11 0 rfl rfl)
theorem dX5_line_244 : decode cX5_line 244 = .ok (.iconst 1, 1) := dk_4 (dk_at dksX5_line_11 1 rfl rfl)
theorem dX5_line_245 : decode cX5_line 245 = .ok (.putfield 211, 3) := dk_181 0 211 (dk_at dksX5_line_11 2 rfl rfl)
theorem dX5_line_248 : decode cX5_line 248 = .ok (.aload_n 0, 1) := dk_42 (dk_at dksX5_line_11 5 rfl rfl)
theorem dX5_line_249 : decode cX5_line 249 = .ok (.invokevirtual 63, 3) := dk_182 0 63 (dk_at dksX5_line_11 6 rfl rfl)
theorem dX5_line_252 : decode cX5_line 252 = .ok (.aload_n 0, 1) := dk_42 (dk_at dksX5_line_11 9 rfl rfl)
theorem dX5_line_253 : decode cX5_line 253 = .ok (.getfield 49, 3) := dk_180 0 49 (dk_at dksX5_line_11 10 rfl rfl)
theorem dX5_line_256 : decode cX5_line 256 = .ok (.aload_n 0, 1) := dk_42 (dk_at dksX5_line_11 13 rfl rfl)
theorem dX5_line_257 : decode cX5_line 257 = .ok (.aload_n 0, 1) := dk_42 (dk_at dksX5_line_11 14 rfl rfl)
theorem dX5_line_258 : decode cX5_line 258 = .ok (.getfield 49, 3) := dk_180 0 49 (dk_at dksX5_line_11 15 rfl rfl)
theorem dX5_line_261 : decode cX5_line 261 = .ok (.getfield 183, 3) := dk_180 0 183 (dk_at dksX5_line_11 18 rfl rfl)
theorem dX5_line_264 : decode cX5_line 264 = .ok (.invokevirtual 151, 3) := dk_182 0 151 (dk_at dksX5_line_11 21 rfl rfl)
theorem dX5_line_267 : decode cX5_line 267 = .ok (.putfield 215, 3) := dk_181 0 215 (dk_at dksX5_line_12 0 rfl rfl)
theorem dX5_line_270 : decode cX5_line 270 = .ok (.goto 16, 3) := dk_167 0 16 (dk_at dksX5_line_12 3 rfl rfl)
theorem dX5_line_273 : decode cX5_line 273 = .ok (.new 111, 3) := dk_187 0 111 (dk_at dksX5_line_12 6 rfl rfl)
theorem dX5_line_276 : decode cX5_line 276 = .ok (.dup, 1) := dk_89 (dk_at dksX5_line_12 9 rfl rfl)
theorem dX5_line_277 : decode cX5_line 277 = .ok (.iconst 1, 1) := dk_4 (dk_at dksX5_line_12 10 rfl rfl)
theorem dX5_line_278 : decode cX5_line 278 = .ok (.aload_n 0, 1) := dk_42 (dk_at dksX5_line_12 11 rfl rfl)
theorem dX5_line_279 : decode cX5_line 279 = .ok (.getfield 83, 3) := dk_180 0 83 (dk_at dksX5_line_12 12 rfl rfl)
theorem dX5_line_282 : decode cX5_line 282 = .ok (.invokespecial 113, 3) := dk_183 0 113 (dk_at dksX5_line_12 15 rfl rfl)
theorem dX5_line_285 : decode cX5_line 285 = .ok (.athrow, 1) := dk_191 (dk_at dksX5_line_12 18 rfl rfl)
theorem dX5_line_286 : decode cX5_line 286 = .ok (.aload_n 0, 1) := dk_42 (dk_at dksX5_line_12 19 rfl rfl)
theorem dX5_line_287 : decode cX5_line 287 = .ok (.aload_n 0, 1) := dk_42 (dk_at dksX5_line_12 20 rfl rfl)
theorem dX5_line_288 : decode cX5_line 288 = .ok (.getfield 89, 3) := dk_180 0 89 (dk_at dksX5_line_12 21 rfl rfl)
theorem dX5_line_291 : decode cX5_line 291 = .ok (.iconst 3, 1) := dk_6 (dk_at dksX5_line_13 0 rfl rfl)
theorem dX5_line_292 : decode cX5_line 292 = .ok (.if_icmp .ne 7, 3) := dk_160 0 7 (dk_at dksX5_line_13 1 rfl rfl)
theorem dX5_line_295 : decode cX5_line 295 = .ok (.iconst 1, 1) := dk_4 (dk_at dksX5_line_13 4 rfl rfl)
theorem dX5_line_296 : decode cX5_line 296 = .ok (.goto 4, 3) := dk_167 0 4 (dk_at dksX5_line_13 5 rfl rfl)
theorem dX5_line_299 : decode cX5_line 299 = .ok (.iconst 0, 1) := dk_3 (dk_at dksX5_line_13 8 rfl rfl)
theorem dX5_line_300 : decode cX5_line 300 = .ok (.iconst 1, 1) := dk_4 (dk_at dksX5_line_13 9 rfl rfl)
theorem dX5_line_301 : decode cX5_line 301 = .ok (.invokevirtual 120, 3) := dk_182 0 120 (dk_at dksX5_line_13 10 rfl rfl)
theorem dX5_line_304 : decode cX5_line 304 = .ok (.aload_n 0, 1) := dk_42 (dk_at dksX5_line_13 13 rfl rfl)
theorem dX5_line_305 : decode cX5_line 305 = .ok (.invokevirtual 63, 3) := dk_182 0 63 (dk_at dksX5_line_13 14 rfl rfl)
theorem dX5_line_308 : decode cX5_line 308 = .ok (.aload_n 0, 1) := dk_42 (dk_at dksX5_line_13 17 rfl rfl)
theorem dX5_line_309 : decode cX5_line 309 = .ok (.getfield 49, 3) := dk_180 0 49 (dk_at dksX5_line_13 18 rfl rfl)
theorem dX5_line_312 : decode cX5_line 312 = .ok (.dup, 1) := dk_89 (dk_at dksX5_line_13 21 rfl rfl)
theorem dX5_line_313 : decode cX5_line 313 = .ok (.getfield 217, 3) := dk_180 0 217 (dk_at dksX5_line_14 0 rfl rfl)
theorem dX5_line_316 : decode cX5_line 316 = .ok (.iconst 1, 1) := dk_4 (dk_at dksX5_line_14 3 rfl rfl)
theorem dX5_line_317 : decode cX5_line 317 = .ok (.iadd, 1) := dk_96 (dk_at dksX5_line_14 4 rfl rfl)
theorem dX5_line_318 : decode cX5_line 318 = .ok (.putfield 217, 3) := dk_181 0 217 (dk_at dksX5_line_14 5 rfl rfl)
theorem dX5_line_321 : decode cX5_line 321 = .ok (.return_, 1) := dk_177 (dk_at dksX5_line_14 8 rfl rfl)
def dkwX5_must_0 : List UInt8 := [27, 154, 0, 16, 187, 0, 111, 89, 28, 42, 180, 0, 83, 183, 0, 113, 191, 177]
abbrev dktX5_must_0 : List UInt8 := dkwX5_must_0 ++ []
theorem dksX5_must_0 : cX5_must.data.toList.drop 0 = dktX5_must_0 := by decide +kernel
theorem dX5_must_0 : decode cX5_must 0 = .ok (.iload_n 1, 1) := dk_27 (dk_at dksX5_must_0 0 rfl rfl)
theorem dX5_must_1 : decode cX5_must 1 = .ok (.ifCond .ne 16, 3) := dk_154 0 16 (dk_at dksX5_must_0 1 rfl rfl)
theorem dX5_must_4 : decode cX5_must 4 = .ok (.new 111, 3) := dk_187 0 111 (dk_at dksX5_must_0 4 rfl rfl)
theorem dX5_must_7 : decode cX5_must 7 = .ok (.dup, 1) := dk_89 (dk_at dksX5_must_0 7 rfl rfl)
theorem dX5_must_8 : decode cX5_must 8 = .ok (.iload_n 2, 1) := dk_28 (dk_at dksX5_must_0 8 rfl rfl)
theorem dX5_must_9 : decode cX5_must 9 = .ok (.aload_n 0, 1) := dk_42 (dk_at dksX5_must_0 9 rfl rfl)
theorem dX5_must_10 : decode cX5_must 10 = .ok (.getfield 83, 3) := dk_180 0 83 (dk_at dksX5_must_0 10 rfl rfl)
theorem dX5_must_13 : decode cX5_must 13 = .ok (.invokespecial 113, 3) := dk_183 0 113 (dk_at dksX5_must_0 13 rfl rfl)
theorem dX5_must_16 : decode cX5_must 16 = .ok (.athrow, 1) := dk_191 (dk_at dksX5_must_0 16 rfl rfl)
theorem dX5_must_17 : decode cX5_must 17 = .ok (.return_, 1) := dk_177 (dk_at dksX5_must_0 17 rfl rfl)
def dkwX5_which_1 : List UInt8 := [132, 2, 1, 167, 255, 232, 2, 172]
abbrev dktX5_which_1 : List UInt8 := dkwX5_which_1 ++ []
def dkwX5_which_0 : List UInt8 := [3, 61, 28, 43, 190, 162, 0, 24, 43, 28, 50, 42, 180, 0, 55, 182, 0, 107, 153, 0, 5, 28, 172]
abbrev dktX5_which_0 : List UInt8 := dkwX5_which_0 ++ dktX5_which_1
theorem dksX5_which_0 : cX5_which.data.toList.drop 0 = dktX5_which_0 := by decide +kernel
theorem dksX5_which_1 : cX5_which.data.toList.drop 23 = dktX5_which_1 := dk_seg dksX5_which_0 23 rfl rfl
theorem dX5_which_0 : decode cX5_which 0 = .ok (.iconst 0, 1) := dk_3 (dk_at dksX5_which_0 0 rfl rfl)
theorem dX5_which_1 : decode cX5_which 1 = .ok (.istore_n 2, 1) := dk_61 (dk_at dksX5_which_0 1 rfl rfl)
theorem dX5_which_2 : decode cX5_which 2 = .ok (.iload_n 2, 1) := dk_28 (dk_at dksX5_which_0 2 rfl rfl)
theorem dX5_which_3 : decode cX5_which 3 = .ok (.aload_n 1, 1) := dk_43 (dk_at dksX5_which_0 3 rfl rfl)
theorem dX5_which_4 : decode cX5_which 4 = .ok (.arraylength, 1) := dk_190 (dk_at dksX5_which_0 4 rfl rfl)
theorem dX5_which_5 : decode cX5_which 5 = .ok (.if_icmp .ge 24, 3) := dk_162 0 24 (dk_at dksX5_which_0 5 rfl rfl)
theorem dX5_which_8 : decode cX5_which 8 = .ok (.aload_n 1, 1) := dk_43 (dk_at dksX5_which_0 8 rfl rfl)
theorem dX5_which_9 : decode cX5_which 9 = .ok (.iload_n 2, 1) := dk_28 (dk_at dksX5_which_0 9 rfl rfl)
theorem dX5_which_10 : decode cX5_which 10 = .ok (.aaload, 1) := dk_50 (dk_at dksX5_which_0 10 rfl rfl)
theorem dX5_which_11 : decode cX5_which 11 = .ok (.aload_n 0, 1) := dk_42 (dk_at dksX5_which_0 11 rfl rfl)
theorem dX5_which_12 : decode cX5_which 12 = .ok (.getfield 55, 3) := dk_180 0 55 (dk_at dksX5_which_0 12 rfl rfl)
theorem dX5_which_15 : decode cX5_which 15 = .ok (.invokevirtual 107, 3) := dk_182 0 107 (dk_at dksX5_which_0 15 rfl rfl)
theorem dX5_which_18 : decode cX5_which 18 = .ok (.ifCond .eq 5, 3) := dk_153 0 5 (dk_at dksX5_which_0 18 rfl rfl)
theorem dX5_which_21 : decode cX5_which 21 = .ok (.iload_n 2, 1) := dk_28 (dk_at dksX5_which_0 21 rfl rfl)
theorem dX5_which_22 : decode cX5_which 22 = .ok (.ireturn, 1) := dk_172 (dk_at dksX5_which_0 22 rfl rfl)
theorem dX5_which_23 : decode cX5_which 23 = .ok (.iinc 2 1, 3) := dk_132 2 1 (dk_at dksX5_which_1 0 rfl rfl)
theorem dX5_which_26 : decode cX5_which 26 = .ok (.goto (-24), 3) := dk_167 255 232 (dk_at dksX5_which_1 3 rfl rfl)
theorem dX5_which_29 : decode cX5_which 29 = .ok (.iconst (-1), 1) := dk_2 (dk_at dksX5_which_1 6 rfl rfl)
theorem dX5_which_30 : decode cX5_which 30 = .ok (.ireturn, 1) := dk_172 (dk_at dksX5_which_1 7 rfl rfl)
def dkwX5_newName_2 : List UInt8 := [6, 182, 0, 120, 43, 42, 180, 0, 55, 182, 0, 140, 87, 42, 182, 0, 63, 177]
abbrev dktX5_newName_2 : List UInt8 := dkwX5_newName_2 ++ []
def dkwX5_newName_1 : List UInt8 := [182, 0, 124, 4, 182, 0, 120, 42, 43, 42, 180, 0, 55, 182, 0, 128, 154, 0, 7, 4, 167, 0, 4, 3]
abbrev dktX5_newName_1 : List UInt8 := dkwX5_newName_1 ++ dktX5_newName_2
def dkwX5_newName_0 : List UInt8 := [42, 43, 182, 0, 137, 28, 162, 0, 7, 4, 167, 0, 4, 3, 5, 182, 0, 120, 42, 182, 0, 63, 42, 42]
abbrev dktX5_newName_0 : List UInt8 := dkwX5_newName_0 ++ dktX5_newName_1
theorem dksX5_newName_0 : cX5_newName.data.toList.drop 0 = dktX5_newName_0 := by decide +kernel
theorem dksX5_newName_1 : cX5_newName.data.toList.drop 24 = dktX5_newName_1 := dk_seg dksX5_newName_0 24 rfl rfl
theorem dksX5_newName_2 : cX5_newName.data.toList.drop 48 = dktX5_newName_2 := dk_seg dksX5_newName_1 24 rfl rfl
theorem dX5_newName_0 : decode cX5_newName 0 = .ok (.aload_n 0, 1) := dk_42 (dk_at dksX5_newName_0 0 rfl rfl)
theorem dX5_newName_1 : decode cX5_newName 1 = .ok (.aload_n 1, 1) := dk_43 (dk_at dksX5_newName_0 1 rfl rfl)
theorem dX5_newName_2 : decode cX5_newName 2 = .ok (.invokevirtual 137, 3) := dk_182 0 137 (dk_at dksX5_newName_0 2 rfl rfl)
theorem dX5_newName_5 : decode cX5_newName 5 = .ok (.iload_n 2, 1) := dk_28 (dk_at dksX5_newName_0 5 rfl rfl)
theorem dX5_newName_6 : decode cX5_newName 6 = .ok (.if_icmp .ge 7, 3) := dk_162 0 7 (dk_at dksX5_newName_0 6 rfl rfl)
theorem dX5_newName_9 : decode cX5_newName 9 = .ok (.iconst 1, 1) := dk_4 (dk_at dksX5_newName_0 9 rfl rfl)
theorem dX5_newName_10 : decode cX5_newName 10 = .ok (.goto 4, 3) := dk_167 0 4 (dk_at dksX5_newName_0 10 rfl rfl)
theorem dX5_newName_13 : decode cX5_newName 13 = .ok (.iconst 0, 1) := dk_3 (dk_at dksX5_newName_0 13 rfl rfl)
theorem dX5_newName_14 : decode cX5_newName 14 = .ok (.iconst 2, 1) := dk_5 (dk_at dksX5_newName_0 14 rfl rfl)
theorem dX5_newName_15 : decode cX5_newName 15 = .ok (.invokevirtual 120, 3) := dk_182 0 120 (dk_at dksX5_newName_0 15 rfl rfl)
theorem dX5_newName_18 : decode cX5_newName 18 = .ok (.aload_n 0, 1) := dk_42 (dk_at dksX5_newName_0 18 rfl rfl)
theorem dX5_newName_19 : decode cX5_newName 19 = .ok (.invokevirtual 63, 3) := dk_182 0 63 (dk_at dksX5_newName_0 19 rfl rfl)
theorem dX5_newName_22 : decode cX5_newName 22 = .ok (.aload_n 0, 1) := dk_42 (dk_at dksX5_newName_0 22 rfl rfl)
theorem dX5_newName_23 : decode cX5_newName 23 = .ok (.aload_n 0, 1) := dk_42 (dk_at dksX5_newName_0 23 rfl rfl)
theorem dX5_newName_24 : decode cX5_newName 24 = .ok (.invokevirtual 124, 3) := dk_182 0 124 (dk_at dksX5_newName_1 0 rfl rfl)
theorem dX5_newName_27 : decode cX5_newName 27 = .ok (.iconst 1, 1) := dk_4 (dk_at dksX5_newName_1 3 rfl rfl)
theorem dX5_newName_28 : decode cX5_newName 28 = .ok (.invokevirtual 120, 3) := dk_182 0 120 (dk_at dksX5_newName_1 4 rfl rfl)
theorem dX5_newName_31 : decode cX5_newName 31 = .ok (.aload_n 0, 1) := dk_42 (dk_at dksX5_newName_1 7 rfl rfl)
theorem dX5_newName_32 : decode cX5_newName 32 = .ok (.aload_n 1, 1) := dk_43 (dk_at dksX5_newName_1 8 rfl rfl)
theorem dX5_newName_33 : decode cX5_newName 33 = .ok (.aload_n 0, 1) := dk_42 (dk_at dksX5_newName_1 9 rfl rfl)
theorem dX5_newName_34 : decode cX5_newName 34 = .ok (.getfield 55, 3) := dk_180 0 55 (dk_at dksX5_newName_1 10 rfl rfl)
theorem dX5_newName_37 : decode cX5_newName 37 = .ok (.invokevirtual 128, 3) := dk_182 0 128 (dk_at dksX5_newName_1 13 rfl rfl)
theorem dX5_newName_40 : decode cX5_newName 40 = .ok (.ifCond .ne 7, 3) := dk_154 0 7 (dk_at dksX5_newName_1 16 rfl rfl)
theorem dX5_newName_43 : decode cX5_newName 43 = .ok (.iconst 1, 1) := dk_4 (dk_at dksX5_newName_1 19 rfl rfl)
theorem dX5_newName_44 : decode cX5_newName 44 = .ok (.goto 4, 3) := dk_167 0 4 (dk_at dksX5_newName_1 20 rfl rfl)
theorem dX5_newName_47 : decode cX5_newName 47 = .ok (.iconst 0, 1) := dk_3 (dk_at dksX5_newName_1 23 rfl rfl)
theorem dX5_newName_48 : decode cX5_newName 48 = .ok (.iconst 3, 1) := dk_6 (dk_at dksX5_newName_2 0 rfl rfl)
theorem dX5_newName_49 : decode cX5_newName 49 = .ok (.invokevirtual 120, 3) := dk_182 0 120 (dk_at dksX5_newName_2 1 rfl rfl)
theorem dX5_newName_52 : decode cX5_newName 52 = .ok (.aload_n 1, 1) := dk_43 (dk_at dksX5_newName_2 4 rfl rfl)
theorem dX5_newName_53 : decode cX5_newName 53 = .ok (.aload_n 0, 1) := dk_42 (dk_at dksX5_newName_2 5 rfl rfl)
theorem dX5_newName_54 : decode cX5_newName 54 = .ok (.getfield 55, 3) := dk_180 0 55 (dk_at dksX5_newName_2 6 rfl rfl)
theorem dX5_newName_57 : decode cX5_newName 57 = .ok (.invokevirtual 140, 3) := dk_182 0 140 (dk_at dksX5_newName_2 9 rfl rfl)
theorem dX5_newName_60 : decode cX5_newName 60 = .ok (.pop, 1) := dk_87 (dk_at dksX5_newName_2 12 rfl rfl)
theorem dX5_newName_61 : decode cX5_newName 61 = .ok (.aload_n 0, 1) := dk_42 (dk_at dksX5_newName_2 13 rfl rfl)
theorem dX5_newName_62 : decode cX5_newName 62 = .ok (.invokevirtual 63, 3) := dk_182 0 63 (dk_at dksX5_newName_2 14 rfl rfl)
theorem dX5_newName_65 : decode cX5_newName 65 = .ok (.return_, 1) := dk_177 (dk_at dksX5_newName_2 17 rfl rfl)
def dkwX5_isName_1 : List UInt8 := [3, 172]
abbrev dktX5_isName_1 : List UInt8 := dkwX5_isName_1 ++ []
def dkwX5_isName_0 : List UInt8 := [42, 180, 0, 89, 4, 160, 0, 19, 42, 42, 180, 0, 29, 182, 0, 116, 2, 160, 0, 7, 4, 167, 0, 4]
abbrev dktX5_isName_0 : List UInt8 := dkwX5_isName_0 ++ dktX5_isName_1
theorem dksX5_isName_0 : cX5_isName.data.toList.drop 0 = dktX5_isName_0 := by decide +kernel
theorem dksX5_isName_1 : cX5_isName.data.toList.drop 24 = dktX5_isName_1 := dk_seg dksX5_isName_0 24 rfl rfl
theorem dX5_isName_0 : decode cX5_isName 0 = .ok (.aload_n 0, 1) := dk_42 (dk_at dksX5_isName_0 0 rfl rfl)
theorem dX5_isName_1 : decode cX5_isName 1 = .ok (.getfield 89, 3) := dk_180 0 89 (dk_at dksX5_isName_0 1 rfl rfl)
theorem dX5_isName_4 : decode cX5_isName 4 = .ok (.iconst 1, 1) := dk_4 (dk_at dksX5_isName_0 4 rfl rfl)
theorem dX5_isName_5 : decode cX5_isName 5 = .ok (.if_icmp .ne 19, 3) := dk_160 0 19 (dk_at dksX5_isName_0 5 rfl rfl)
theorem dX5_isName_8 : decode cX5_isName 8 = .ok (.aload_n 0, 1) := dk_42 (dk_at dksX5_isName_0 8 rfl rfl)
theorem dX5_isName_9 : decode cX5_isName 9 = .ok (.aload_n 0, 1) := dk_42 (dk_at dksX5_isName_0 9 rfl rfl)
theorem dX5_isName_10 : decode cX5_isName 10 = .ok (.getfield 29, 3) := dk_180 0 29 (dk_at dksX5_isName_0 10 rfl rfl)
theorem dX5_isName_13 : decode cX5_isName 13 = .ok (.invokevirtual 116, 3) := dk_182 0 116 (dk_at dksX5_isName_0 13 rfl rfl)
theorem dX5_isName_16 : decode cX5_isName 16 = .ok (.iconst (-1), 1) := dk_2 (dk_at dksX5_isName_0 16 rfl rfl)
theorem dX5_isName_17 : decode cX5_isName 17 = .ok (.if_icmp .ne 7, 3) := dk_160 0 7 (dk_at dksX5_isName_0 17 rfl rfl)
theorem dX5_isName_20 : decode cX5_isName 20 = .ok (.iconst 1, 1) := dk_4 (dk_at dksX5_isName_0 20 rfl rfl)
theorem dX5_isName_21 : decode cX5_isName 21 = .ok (.goto 4, 3) := dk_167 0 4 (dk_at dksX5_isName_0 21 rfl rfl)
theorem dX5_isName_24 : decode cX5_isName 24 = .ok (.iconst 0, 1) := dk_3 (dk_at dksX5_isName_1 0 rfl rfl)
theorem dX5_isName_25 : decode cX5_isName 25 = .ok (.ireturn, 1) := dk_172 (dk_at dksX5_isName_1 1 rfl rfl)
def dkwX5_whens_4 : List UInt8 := [167, 255, 163, 177]
abbrev dktX5_whens_4 : List UInt8 := dkwX5_whens_4 ++ []
def dkwX5_whens_3 : List UInt8 := [62, 42, 182, 0, 63, 43, 187, 0, 155, 89, 28, 29, 42, 182, 0, 157, 183, 0, 160, 182, 0, 140, 87]
abbrev dktX5_whens_3 : List UInt8 := dkwX5_whens_3 ++ dktX5_whens_4
def dkwX5_whens_2 : List UInt8 := [180, 0, 89, 8, 160, 0, 7, 4, 167, 0, 4, 3, 4, 182, 0, 120, 42, 42, 180, 0, 43, 182, 0, 116]
abbrev dktX5_whens_2 : List UInt8 := dkwX5_whens_2 ++ dktX5_whens_3
def dkwX5_whens_1 : List UInt8 := [5, 182, 0, 120, 42, 182, 0, 63, 42, 42, 180, 0, 49, 180, 0, 147, 182, 0, 151, 61, 42, 42]
abbrev dktX5_whens_1 : List UInt8 := dkwX5_whens_1 ++ dktX5_whens_2
def dkwX5_whens_0 : List UInt8 := [42, 18, 25, 182, 0, 143, 153, 0, 90, 42, 43, 182, 0, 137, 16, 6, 162, 0, 7, 4, 167, 0, 4, 3]
abbrev dktX5_whens_0 : List UInt8 := dkwX5_whens_0 ++ dktX5_whens_1
theorem dksX5_whens_0 : cX5_whens.data.toList.drop 0 = dktX5_whens_0 := by decide +kernel
theorem dksX5_whens_1 : cX5_whens.data.toList.drop 24 = dktX5_whens_1 := dk_seg dksX5_whens_0 24 rfl rfl
theorem dksX5_whens_2 : cX5_whens.data.toList.drop 46 = dktX5_whens_2 := dk_seg dksX5_whens_1 22 rfl rfl
theorem dksX5_whens_3 : cX5_whens.data.toList.drop 70 = dktX5_whens_3 := dk_seg dksX5_whens_2 24 rfl rfl
theorem dksX5_whens_4 : cX5_whens.data.toList.drop 93 = dktX5_whens_4 := dk_seg dksX5_whens_3 23 rfl rfl
theorem dX5_whens_0 : decode cX5_whens 0 = .ok (.aload_n 0, 1) := dk_42 (dk_at dksX5_whens_0 0 rfl rfl)
theorem dX5_whens_1 : decode cX5_whens 1 = .ok (.ldc 25, 2) := dk_18 25 (dk_at dksX5_whens_0 1 rfl rfl)
theorem dX5_whens_3 : decode cX5_whens 3 = .ok (.invokevirtual 143, 3) := dk_182 0 143 (dk_at dksX5_whens_0 3 rfl rfl)
theorem dX5_whens_6 : decode cX5_whens 6 = .ok (.ifCond .eq 90, 3) := dk_153 0 90 (dk_at dksX5_whens_0 6 rfl rfl)
theorem dX5_whens_9 : decode cX5_whens 9 = .ok (.aload_n 0, 1) := dk_42 (dk_at dksX5_whens_0 9 rfl rfl)
theorem dX5_whens_10 : decode cX5_whens 10 = .ok (.aload_n 1, 1) := dk_43 (dk_at dksX5_whens_0 10 rfl rfl)
theorem dX5_whens_11 : decode cX5_whens 11 = .ok (.invokevirtual 137, 3) := dk_182 0 137 (dk_at dksX5_whens_0 11 rfl rfl)
theorem dX5_whens_14 : decode cX5_whens 14 = .ok (.bipush 6, 2) := dk_16 6 (dk_at dksX5_whens_0 14 rfl rfl)
theorem dX5_whens_16 : decode cX5_whens 16 = .ok (.if_icmp .ge 7, 3) := dk_162 0 7 (dk_at dksX5_whens_0 16 rfl rfl)
theorem dX5_whens_19 : decode cX5_whens 19 = .ok (.iconst 1, 1) := dk_4 (dk_at dksX5_whens_0 19 rfl rfl)
theorem dX5_whens_20 : decode cX5_whens 20 = .ok (.goto 4, 3) := dk_167 0 4 (dk_at dksX5_whens_0 20 rfl rfl)
theorem dX5_whens_23 : decode cX5_whens 23 = .ok (.iconst 0, 1) := dk_3 (dk_at dksX5_whens_0 23 rfl rfl)
theorem dX5_whens_24 : decode cX5_whens 24 = .ok (.iconst 2, 1) := dk_5 (dk_at dksX5_whens_1 0 rfl rfl)
theorem dX5_whens_25 : decode cX5_whens 25 = .ok (.invokevirtual 120, 3) := dk_182 0 120 (dk_at dksX5_whens_1 1 rfl rfl)
theorem dX5_whens_28 : decode cX5_whens 28 = .ok (.aload_n 0, 1) := dk_42 (dk_at dksX5_whens_1 4 rfl rfl)
theorem dX5_whens_29 : decode cX5_whens 29 = .ok (.invokevirtual 63, 3) := dk_182 0 63 (dk_at dksX5_whens_1 5 rfl rfl)
theorem dX5_whens_32 : decode cX5_whens 32 = .ok (.aload_n 0, 1) := dk_42 (dk_at dksX5_whens_1 8 rfl rfl)
theorem dX5_whens_33 : decode cX5_whens 33 = .ok (.aload_n 0, 1) := dk_42 (dk_at dksX5_whens_1 9 rfl rfl)
theorem dX5_whens_34 : decode cX5_whens 34 = .ok (.getfield 49, 3) := dk_180 0 49 (dk_at dksX5_whens_1 10 rfl rfl)
theorem dX5_whens_37 : decode cX5_whens 37 = .ok (.getfield 147, 3) := dk_180 0 147 (dk_at dksX5_whens_1 13 rfl rfl)
theorem dX5_whens_40 : decode cX5_whens 40 = .ok (.invokevirtual 151, 3) := dk_182 0 151 (dk_at dksX5_whens_1 16 rfl rfl)
theorem dX5_whens_43 : decode cX5_whens 43 = .ok (.istore_n 2, 1) := dk_61 (dk_at dksX5_whens_1 19 rfl rfl)
theorem dX5_whens_44 : decode cX5_whens 44 = .ok (.aload_n 0, 1) := dk_42 (dk_at dksX5_whens_1 20 rfl rfl)
theorem dX5_whens_45 : decode cX5_whens 45 = .ok (.aload_n 0, 1) := dk_42 (dk_at dksX5_whens_1 21 rfl rfl)
theorem dX5_whens_46 : decode cX5_whens 46 = .ok (.getfield 89, 3) := dk_180 0 89 (dk_at dksX5_whens_2 0 rfl rfl)
theorem dX5_whens_49 : decode cX5_whens 49 = .ok (.iconst 5, 1) := dk_8 (dk_at dksX5_whens_2 3 rfl rfl)
theorem dX5_whens_50 : decode cX5_whens 50 = .ok (.if_icmp .ne 7, 3) := dk_160 0 7 (dk_at dksX5_whens_2 4 rfl rfl)
theorem dX5_whens_53 : decode cX5_whens 53 = .ok (.iconst 1, 1) := dk_4 (dk_at dksX5_whens_2 7 rfl rfl)
theorem dX5_whens_54 : decode cX5_whens 54 = .ok (.goto 4, 3) := dk_167 0 4 (dk_at dksX5_whens_2 8 rfl rfl)
theorem dX5_whens_57 : decode cX5_whens 57 = .ok (.iconst 0, 1) := dk_3 (dk_at dksX5_whens_2 11 rfl rfl)
theorem dX5_whens_58 : decode cX5_whens 58 = .ok (.iconst 1, 1) := dk_4 (dk_at dksX5_whens_2 12 rfl rfl)
theorem dX5_whens_59 : decode cX5_whens 59 = .ok (.invokevirtual 120, 3) := dk_182 0 120 (dk_at dksX5_whens_2 13 rfl rfl)
theorem dX5_whens_62 : decode cX5_whens 62 = .ok (.aload_n 0, 1) := dk_42 (dk_at dksX5_whens_2 16 rfl rfl)
theorem dX5_whens_63 : decode cX5_whens 63 = .ok (.aload_n 0, 1) := dk_42 (dk_at dksX5_whens_2 17 rfl rfl)
theorem dX5_whens_64 : decode cX5_whens 64 = .ok (.getfield 43, 3) := dk_180 0 43 (dk_at dksX5_whens_2 18 rfl rfl)
theorem dX5_whens_67 : decode cX5_whens 67 = .ok (.invokevirtual 116, 3) := dk_182 0 116 (dk_at dksX5_whens_2 21 rfl rfl)
theorem dX5_whens_70 : decode cX5_whens 70 = .ok (.istore_n 3, 1) := dk_62 (dk_at dksX5_whens_3 0 rfl rfl)
theorem dX5_whens_71 : decode cX5_whens 71 = .ok (.aload_n 0, 1) := dk_42 (dk_at dksX5_whens_3 1 rfl rfl)
theorem dX5_whens_72 : decode cX5_whens 72 = .ok (.invokevirtual 63, 3) := dk_182 0 63 (dk_at dksX5_whens_3 2 rfl rfl)
theorem dX5_whens_75 : decode cX5_whens 75 = .ok (.aload_n 1, 1) := dk_43 (dk_at dksX5_whens_3 5 rfl rfl)
theorem dX5_whens_76 : decode cX5_whens 76 = .ok (.new 155, 3) := dk_187 0 155 (dk_at dksX5_whens_3 6 rfl rfl)
theorem dX5_whens_79 : decode cX5_whens 79 = .ok (.dup, 1) := dk_89 (dk_at dksX5_whens_3 9 rfl rfl)
theorem dX5_whens_80 : decode cX5_whens 80 = .ok (.iload_n 2, 1) := dk_28 (dk_at dksX5_whens_3 10 rfl rfl)
theorem dX5_whens_81 : decode cX5_whens 81 = .ok (.iload_n 3, 1) := dk_29 (dk_at dksX5_whens_3 11 rfl rfl)
theorem dX5_whens_82 : decode cX5_whens 82 = .ok (.aload_n 0, 1) := dk_42 (dk_at dksX5_whens_3 12 rfl rfl)
theorem dX5_whens_83 : decode cX5_whens 83 = .ok (.invokevirtual 157, 3) := dk_182 0 157 (dk_at dksX5_whens_3 13 rfl rfl)
theorem dX5_whens_86 : decode cX5_whens 86 = .ok (.invokespecial 160, 3) := dk_183 0 160 (dk_at dksX5_whens_3 16 rfl rfl)
theorem dX5_whens_89 : decode cX5_whens 89 = .ok (.invokevirtual 140, 3) := dk_182 0 140 (dk_at dksX5_whens_3 19 rfl rfl)
theorem dX5_whens_92 : decode cX5_whens 92 = .ok (.pop, 1) := dk_87 (dk_at dksX5_whens_3 22 rfl rfl)
theorem dX5_whens_93 : decode cX5_whens 93 = .ok (.goto (-93), 3) := dk_167 255 163 (dk_at dksX5_whens_4 0 rfl rfl)
theorem dX5_whens_96 : decode cX5_whens 96 = .ok (.return_, 1) := dk_177 (dk_at dksX5_whens_4 3 rfl rfl)
def dkwX5_isWord_1 : List UInt8 := [172]
abbrev dktX5_isWord_1 : List UInt8 := dkwX5_isWord_1 ++ []
def dkwX5_isWord_0 : List UInt8 := [42, 180, 0, 89, 4, 160, 0, 18, 42, 180, 0, 55, 43, 182, 0, 107, 153, 0, 7, 4, 167, 0, 4, 3]
abbrev dktX5_isWord_0 : List UInt8 := dkwX5_isWord_0 ++ dktX5_isWord_1
theorem dksX5_isWord_0 : cX5_isWord.data.toList.drop 0 = dktX5_isWord_0 := by decide +kernel
theorem dksX5_isWord_1 : cX5_isWord.data.toList.drop 24 = dktX5_isWord_1 := dk_seg dksX5_isWord_0 24 rfl rfl
theorem dX5_isWord_0 : decode cX5_isWord 0 = .ok (.aload_n 0, 1) := dk_42 (dk_at dksX5_isWord_0 0 rfl rfl)
theorem dX5_isWord_1 : decode cX5_isWord 1 = .ok (.getfield 89, 3) := dk_180 0 89 (dk_at dksX5_isWord_0 1 rfl rfl)
theorem dX5_isWord_4 : decode cX5_isWord 4 = .ok (.iconst 1, 1) := dk_4 (dk_at dksX5_isWord_0 4 rfl rfl)
theorem dX5_isWord_5 : decode cX5_isWord 5 = .ok (.if_icmp .ne 18, 3) := dk_160 0 18 (dk_at dksX5_isWord_0 5 rfl rfl)
theorem dX5_isWord_8 : decode cX5_isWord 8 = .ok (.aload_n 0, 1) := dk_42 (dk_at dksX5_isWord_0 8 rfl rfl)
theorem dX5_isWord_9 : decode cX5_isWord 9 = .ok (.getfield 55, 3) := dk_180 0 55 (dk_at dksX5_isWord_0 9 rfl rfl)
theorem dX5_isWord_12 : decode cX5_isWord 12 = .ok (.aload_n 1, 1) := dk_43 (dk_at dksX5_isWord_0 12 rfl rfl)
theorem dX5_isWord_13 : decode cX5_isWord 13 = .ok (.invokevirtual 107, 3) := dk_182 0 107 (dk_at dksX5_isWord_0 13 rfl rfl)
theorem dX5_isWord_16 : decode cX5_isWord 16 = .ok (.ifCond .eq 7, 3) := dk_153 0 7 (dk_at dksX5_isWord_0 16 rfl rfl)
theorem dX5_isWord_19 : decode cX5_isWord 19 = .ok (.iconst 1, 1) := dk_4 (dk_at dksX5_isWord_0 19 rfl rfl)
theorem dX5_isWord_20 : decode cX5_isWord 20 = .ok (.goto 4, 3) := dk_167 0 4 (dk_at dksX5_isWord_0 20 rfl rfl)
theorem dX5_isWord_23 : decode cX5_isWord 23 = .ok (.iconst 0, 1) := dk_3 (dk_at dksX5_isWord_0 23 rfl rfl)
theorem dX5_isWord_24 : decode cX5_isWord 24 = .ok (.ireturn, 1) := dk_172 (dk_at dksX5_isWord_1 0 rfl rfl)
def dkwX5_told_1 : List UInt8 := [4, 182, 0, 120, 43, 42, 180, 0, 55, 182, 0, 133, 61, 42, 182, 0, 63, 28, 172]
abbrev dktX5_told_1 : List UInt8 := dkwX5_told_1 ++ []
def dkwX5_told_0 : List UInt8 := [42, 42, 182, 0, 124, 153, 0, 18, 43, 42, 180, 0, 55, 182, 0, 128, 153, 0, 7, 4, 167, 0, 4, 3]
abbrev dktX5_told_0 : List UInt8 := dkwX5_told_0 ++ dktX5_told_1
theorem dksX5_told_0 : cX5_told.data.toList.drop 0 = dktX5_told_0 := by decide +kernel
theorem dksX5_told_1 : cX5_told.data.toList.drop 24 = dktX5_told_1 := dk_seg dksX5_told_0 24 rfl rfl
theorem dX5_told_0 : decode cX5_told 0 = .ok (.aload_n 0, 1) := dk_42 (dk_at dksX5_told_0 0 rfl rfl)
theorem dX5_told_1 : decode cX5_told 1 = .ok (.aload_n 0, 1) := dk_42 (dk_at dksX5_told_0 1 rfl rfl)
theorem dX5_told_2 : decode cX5_told 2 = .ok (.invokevirtual 124, 3) := dk_182 0 124 (dk_at dksX5_told_0 2 rfl rfl)
theorem dX5_told_5 : decode cX5_told 5 = .ok (.ifCond .eq 18, 3) := dk_153 0 18 (dk_at dksX5_told_0 5 rfl rfl)
theorem dX5_told_8 : decode cX5_told 8 = .ok (.aload_n 1, 1) := dk_43 (dk_at dksX5_told_0 8 rfl rfl)
theorem dX5_told_9 : decode cX5_told 9 = .ok (.aload_n 0, 1) := dk_42 (dk_at dksX5_told_0 9 rfl rfl)
theorem dX5_told_10 : decode cX5_told 10 = .ok (.getfield 55, 3) := dk_180 0 55 (dk_at dksX5_told_0 10 rfl rfl)
theorem dX5_told_13 : decode cX5_told 13 = .ok (.invokevirtual 128, 3) := dk_182 0 128 (dk_at dksX5_told_0 13 rfl rfl)
theorem dX5_told_16 : decode cX5_told 16 = .ok (.ifCond .eq 7, 3) := dk_153 0 7 (dk_at dksX5_told_0 16 rfl rfl)
theorem dX5_told_19 : decode cX5_told 19 = .ok (.iconst 1, 1) := dk_4 (dk_at dksX5_told_0 19 rfl rfl)
theorem dX5_told_20 : decode cX5_told 20 = .ok (.goto 4, 3) := dk_167 0 4 (dk_at dksX5_told_0 20 rfl rfl)
theorem dX5_told_23 : decode cX5_told 23 = .ok (.iconst 0, 1) := dk_3 (dk_at dksX5_told_0 23 rfl rfl)
theorem dX5_told_24 : decode cX5_told 24 = .ok (.iconst 1, 1) := dk_4 (dk_at dksX5_told_1 0 rfl rfl)
theorem dX5_told_25 : decode cX5_told 25 = .ok (.invokevirtual 120, 3) := dk_182 0 120 (dk_at dksX5_told_1 1 rfl rfl)
theorem dX5_told_28 : decode cX5_told 28 = .ok (.aload_n 1, 1) := dk_43 (dk_at dksX5_told_1 4 rfl rfl)
theorem dX5_told_29 : decode cX5_told 29 = .ok (.aload_n 0, 1) := dk_42 (dk_at dksX5_told_1 5 rfl rfl)
theorem dX5_told_30 : decode cX5_told 30 = .ok (.getfield 55, 3) := dk_180 0 55 (dk_at dksX5_told_1 6 rfl rfl)
theorem dX5_told_33 : decode cX5_told 33 = .ok (.invokevirtual 133, 3) := dk_182 0 133 (dk_at dksX5_told_1 9 rfl rfl)
theorem dX5_told_36 : decode cX5_told 36 = .ok (.istore_n 2, 1) := dk_61 (dk_at dksX5_told_1 12 rfl rfl)
theorem dX5_told_37 : decode cX5_told 37 = .ok (.aload_n 0, 1) := dk_42 (dk_at dksX5_told_1 13 rfl rfl)
theorem dX5_told_38 : decode cX5_told 38 = .ok (.invokevirtual 63, 3) := dk_182 0 63 (dk_at dksX5_told_1 14 rfl rfl)
theorem dX5_told_41 : decode cX5_told 41 = .ok (.iload_n 2, 1) := dk_28 (dk_at dksX5_told_1 17 rfl rfl)
theorem dX5_told_42 : decode cX5_told 42 = .ok (.ireturn, 1) := dk_172 (dk_at dksX5_told_1 18 rfl rfl)
def dkwX5_number_2 : List UInt8 := [172]
abbrev dktX5_number_2 : List UInt8 := dkwX5_number_2 ++ []
def dkwX5_number_1 : List UInt8 := [16, 50, 163, 0, 7, 4, 167, 0, 4, 3, 5, 182, 0, 120, 42, 180, 0, 86, 60, 42, 182, 0, 63, 27]
abbrev dktX5_number_1 : List UInt8 := dkwX5_number_1 ++ dktX5_number_2
def dkwX5_number_0 : List UInt8 := [42, 42, 180, 0, 89, 5, 160, 0, 7, 4, 167, 0, 4, 3, 4, 182, 0, 120, 42, 42, 180, 0, 86]
abbrev dktX5_number_0 : List UInt8 := dkwX5_number_0 ++ dktX5_number_1
theorem dksX5_number_0 : cX5_number.data.toList.drop 0 = dktX5_number_0 := by decide +kernel
theorem dksX5_number_1 : cX5_number.data.toList.drop 23 = dktX5_number_1 := dk_seg dksX5_number_0 23 rfl rfl
theorem dksX5_number_2 : cX5_number.data.toList.drop 47 = dktX5_number_2 := dk_seg dksX5_number_1 24 rfl rfl
theorem dX5_number_0 : decode cX5_number 0 = .ok (.aload_n 0, 1) := dk_42 (dk_at dksX5_number_0 0 rfl rfl)
theorem dX5_number_1 : decode cX5_number 1 = .ok (.aload_n 0, 1) := dk_42 (dk_at dksX5_number_0 1 rfl rfl)
theorem dX5_number_2 : decode cX5_number 2 = .ok (.getfield 89, 3) := dk_180 0 89 (dk_at dksX5_number_0 2 rfl rfl)
theorem dX5_number_5 : decode cX5_number 5 = .ok (.iconst 2, 1) := dk_5 (dk_at dksX5_number_0 5 rfl rfl)
theorem dX5_number_6 : decode cX5_number 6 = .ok (.if_icmp .ne 7, 3) := dk_160 0 7 (dk_at dksX5_number_0 6 rfl rfl)
theorem dX5_number_9 : decode cX5_number 9 = .ok (.iconst 1, 1) := dk_4 (dk_at dksX5_number_0 9 rfl rfl)
theorem dX5_number_10 : decode cX5_number 10 = .ok (.goto 4, 3) := dk_167 0 4 (dk_at dksX5_number_0 10 rfl rfl)
theorem dX5_number_13 : decode cX5_number 13 = .ok (.iconst 0, 1) := dk_3 (dk_at dksX5_number_0 13 rfl rfl)
theorem dX5_number_14 : decode cX5_number 14 = .ok (.iconst 1, 1) := dk_4 (dk_at dksX5_number_0 14 rfl rfl)
theorem dX5_number_15 : decode cX5_number 15 = .ok (.invokevirtual 120, 3) := dk_182 0 120 (dk_at dksX5_number_0 15 rfl rfl)
theorem dX5_number_18 : decode cX5_number 18 = .ok (.aload_n 0, 1) := dk_42 (dk_at dksX5_number_0 18 rfl rfl)
theorem dX5_number_19 : decode cX5_number 19 = .ok (.aload_n 0, 1) := dk_42 (dk_at dksX5_number_0 19 rfl rfl)
theorem dX5_number_20 : decode cX5_number 20 = .ok (.getfield 86, 3) := dk_180 0 86 (dk_at dksX5_number_0 20 rfl rfl)
theorem dX5_number_23 : decode cX5_number 23 = .ok (.bipush 50, 2) := dk_16 50 (dk_at dksX5_number_1 0 rfl rfl)
theorem dX5_number_25 : decode cX5_number 25 = .ok (.if_icmp .gt 7, 3) := dk_163 0 7 (dk_at dksX5_number_1 2 rfl rfl)
theorem dX5_number_28 : decode cX5_number 28 = .ok (.iconst 1, 1) := dk_4 (dk_at dksX5_number_1 5 rfl rfl)
theorem dX5_number_29 : decode cX5_number 29 = .ok (.goto 4, 3) := dk_167 0 4 (dk_at dksX5_number_1 6 rfl rfl)
theorem dX5_number_32 : decode cX5_number 32 = .ok (.iconst 0, 1) := dk_3 (dk_at dksX5_number_1 9 rfl rfl)
theorem dX5_number_33 : decode cX5_number 33 = .ok (.iconst 2, 1) := dk_5 (dk_at dksX5_number_1 10 rfl rfl)
theorem dX5_number_34 : decode cX5_number 34 = .ok (.invokevirtual 120, 3) := dk_182 0 120 (dk_at dksX5_number_1 11 rfl rfl)
theorem dX5_number_37 : decode cX5_number 37 = .ok (.aload_n 0, 1) := dk_42 (dk_at dksX5_number_1 14 rfl rfl)
theorem dX5_number_38 : decode cX5_number 38 = .ok (.getfield 86, 3) := dk_180 0 86 (dk_at dksX5_number_1 15 rfl rfl)
theorem dX5_number_41 : decode cX5_number 41 = .ok (.istore_n 1, 1) := dk_60 (dk_at dksX5_number_1 18 rfl rfl)
theorem dX5_number_42 : decode cX5_number 42 = .ok (.aload_n 0, 1) := dk_42 (dk_at dksX5_number_1 19 rfl rfl)
theorem dX5_number_43 : decode cX5_number 43 = .ok (.invokevirtual 63, 3) := dk_182 0 63 (dk_at dksX5_number_1 20 rfl rfl)
theorem dX5_number_46 : decode cX5_number 46 = .ok (.iload_n 1, 1) := dk_27 (dk_at dksX5_number_1 23 rfl rfl)
theorem dX5_number_47 : decode cX5_number 47 = .ok (.ireturn, 1) := dk_172 (dk_at dksX5_number_2 0 rfl rfl)
def dkwX5_sets_6 : List UInt8 := [182, 0, 157, 183, 0, 178, 182, 0, 140, 87, 167, 255, 108, 177]
abbrev dktX5_sets_6 : List UInt8 := dkwX5_sets_6 ++ []
def dkwX5_sets_5 : List UInt8 := [4, 167, 0, 4, 3, 6, 182, 0, 120, 167, 255, 217, 42, 182, 0, 63, 43, 187, 0, 155, 89, 28, 42]
abbrev dktX5_sets_5 : List UInt8 := dkwX5_sets_5 ++ dktX5_sets_6
def dkwX5_sets_4 : List UInt8 := [153, 0, 36, 45, 185, 0, 172, 1, 0, 192, 0, 155, 58, 4, 42, 25, 4, 180, 0, 176, 28, 159, 0, 7]
abbrev dktX5_sets_4 : List UInt8 := dkwX5_sets_4 ++ dktX5_sets_5
def dkwX5_sets_3 : List UInt8 := [180, 0, 147, 42, 180, 0, 55, 182, 0, 133, 61, 43, 182, 0, 163, 78, 45, 185, 0, 167, 1, 0]
abbrev dktX5_sets_3 : List UInt8 := dkwX5_sets_3 ++ dktX5_sets_4
def dkwX5_sets_2 : List UInt8 := [180, 0, 55, 182, 0, 128, 153, 0, 7, 4, 167, 0, 4, 3, 4, 182, 0, 120, 42, 180, 0, 49]
abbrev dktX5_sets_2 : List UInt8 := dkwX5_sets_2 ++ dktX5_sets_3
def dkwX5_sets_1 : List UInt8 := [182, 0, 120, 42, 182, 0, 63, 42, 42, 182, 0, 124, 153, 0, 24, 42, 180, 0, 49, 180, 0, 147, 42]
abbrev dktX5_sets_1 : List UInt8 := dkwX5_sets_1 ++ dktX5_sets_2
def dkwX5_sets_0 : List UInt8 := [42, 18, 27, 182, 0, 143, 153, 0, 145, 42, 43, 182, 0, 137, 7, 162, 0, 7, 4, 167, 0, 4, 3, 5]
abbrev dktX5_sets_0 : List UInt8 := dkwX5_sets_0 ++ dktX5_sets_1
theorem dksX5_sets_0 : cX5_sets.data.toList.drop 0 = dktX5_sets_0 := by decide +kernel
theorem dksX5_sets_1 : cX5_sets.data.toList.drop 24 = dktX5_sets_1 := dk_seg dksX5_sets_0 24 rfl rfl
theorem dksX5_sets_2 : cX5_sets.data.toList.drop 47 = dktX5_sets_2 := dk_seg dksX5_sets_1 23 rfl rfl
theorem dksX5_sets_3 : cX5_sets.data.toList.drop 69 = dktX5_sets_3 := dk_seg dksX5_sets_2 22 rfl rfl
theorem dksX5_sets_4 : cX5_sets.data.toList.drop 91 = dktX5_sets_4 := dk_seg dksX5_sets_3 22 rfl rfl
theorem dksX5_sets_5 : cX5_sets.data.toList.drop 115 = dktX5_sets_5 := dk_seg dksX5_sets_4 24 rfl rfl
theorem dksX5_sets_6 : cX5_sets.data.toList.drop 138 = dktX5_sets_6 := dk_seg dksX5_sets_5 23 rfl rfl
theorem dX5_sets_0 : decode cX5_sets 0 = .ok (.aload_n 0, 1) := dk_42 (dk_at dksX5_sets_0 0 rfl rfl)
theorem dX5_sets_1 : decode cX5_sets 1 = .ok (.ldc 27, 2) := dk_18 27 (dk_at dksX5_sets_0 1 rfl rfl)
theorem dX5_sets_3 : decode cX5_sets 3 = .ok (.invokevirtual 143, 3) := dk_182 0 143 (dk_at dksX5_sets_0 3 rfl rfl)
theorem dX5_sets_6 : decode cX5_sets 6 = .ok (.ifCond .eq 145, 3) := dk_153 0 145 (dk_at dksX5_sets_0 6 rfl rfl)
theorem dX5_sets_9 : decode cX5_sets 9 = .ok (.aload_n 0, 1) := dk_42 (dk_at dksX5_sets_0 9 rfl rfl)
theorem dX5_sets_10 : decode cX5_sets 10 = .ok (.aload_n 1, 1) := dk_43 (dk_at dksX5_sets_0 10 rfl rfl)
theorem dX5_sets_11 : decode cX5_sets 11 = .ok (.invokevirtual 137, 3) := dk_182 0 137 (dk_at dksX5_sets_0 11 rfl rfl)
theorem dX5_sets_14 : decode cX5_sets 14 = .ok (.iconst 4, 1) := dk_7 (dk_at dksX5_sets_0 14 rfl rfl)
theorem dX5_sets_15 : decode cX5_sets 15 = .ok (.if_icmp .ge 7, 3) := dk_162 0 7 (dk_at dksX5_sets_0 15 rfl rfl)
theorem dX5_sets_18 : decode cX5_sets 18 = .ok (.iconst 1, 1) := dk_4 (dk_at dksX5_sets_0 18 rfl rfl)
theorem dX5_sets_19 : decode cX5_sets 19 = .ok (.goto 4, 3) := dk_167 0 4 (dk_at dksX5_sets_0 19 rfl rfl)
theorem dX5_sets_22 : decode cX5_sets 22 = .ok (.iconst 0, 1) := dk_3 (dk_at dksX5_sets_0 22 rfl rfl)
theorem dX5_sets_23 : decode cX5_sets 23 = .ok (.iconst 2, 1) := dk_5 (dk_at dksX5_sets_0 23 rfl rfl)
theorem dX5_sets_24 : decode cX5_sets 24 = .ok (.invokevirtual 120, 3) := dk_182 0 120 (dk_at dksX5_sets_1 0 rfl rfl)
theorem dX5_sets_27 : decode cX5_sets 27 = .ok (.aload_n 0, 1) := dk_42 (dk_at dksX5_sets_1 3 rfl rfl)
theorem dX5_sets_28 : decode cX5_sets 28 = .ok (.invokevirtual 63, 3) := dk_182 0 63 (dk_at dksX5_sets_1 4 rfl rfl)
theorem dX5_sets_31 : decode cX5_sets 31 = .ok (.aload_n 0, 1) := dk_42 (dk_at dksX5_sets_1 7 rfl rfl)
theorem dX5_sets_32 : decode cX5_sets 32 = .ok (.aload_n 0, 1) := dk_42 (dk_at dksX5_sets_1 8 rfl rfl)
theorem dX5_sets_33 : decode cX5_sets 33 = .ok (.invokevirtual 124, 3) := dk_182 0 124 (dk_at dksX5_sets_1 9 rfl rfl)
theorem dX5_sets_36 : decode cX5_sets 36 = .ok (.ifCond .eq 24, 3) := dk_153 0 24 (dk_at dksX5_sets_1 12 rfl rfl)
theorem dX5_sets_39 : decode cX5_sets 39 = .ok (.aload_n 0, 1) := dk_42 (dk_at dksX5_sets_1 15 rfl rfl)
theorem dX5_sets_40 : decode cX5_sets 40 = .ok (.getfield 49, 3) := dk_180 0 49 (dk_at dksX5_sets_1 16 rfl rfl)
theorem dX5_sets_43 : decode cX5_sets 43 = .ok (.getfield 147, 3) := dk_180 0 147 (dk_at dksX5_sets_1 19 rfl rfl)
theorem dX5_sets_46 : decode cX5_sets 46 = .ok (.aload_n 0, 1) := dk_42 (dk_at dksX5_sets_1 22 rfl rfl)
theorem dX5_sets_47 : decode cX5_sets 47 = .ok (.getfield 55, 3) := dk_180 0 55 (dk_at dksX5_sets_2 0 rfl rfl)
theorem dX5_sets_50 : decode cX5_sets 50 = .ok (.invokevirtual 128, 3) := dk_182 0 128 (dk_at dksX5_sets_2 3 rfl rfl)
theorem dX5_sets_53 : decode cX5_sets 53 = .ok (.ifCond .eq 7, 3) := dk_153 0 7 (dk_at dksX5_sets_2 6 rfl rfl)
theorem dX5_sets_56 : decode cX5_sets 56 = .ok (.iconst 1, 1) := dk_4 (dk_at dksX5_sets_2 9 rfl rfl)
theorem dX5_sets_57 : decode cX5_sets 57 = .ok (.goto 4, 3) := dk_167 0 4 (dk_at dksX5_sets_2 10 rfl rfl)
theorem dX5_sets_60 : decode cX5_sets 60 = .ok (.iconst 0, 1) := dk_3 (dk_at dksX5_sets_2 13 rfl rfl)
theorem dX5_sets_61 : decode cX5_sets 61 = .ok (.iconst 1, 1) := dk_4 (dk_at dksX5_sets_2 14 rfl rfl)
theorem dX5_sets_62 : decode cX5_sets 62 = .ok (.invokevirtual 120, 3) := dk_182 0 120 (dk_at dksX5_sets_2 15 rfl rfl)
theorem dX5_sets_65 : decode cX5_sets 65 = .ok (.aload_n 0, 1) := dk_42 (dk_at dksX5_sets_2 18 rfl rfl)
theorem dX5_sets_66 : decode cX5_sets 66 = .ok (.getfield 49, 3) := dk_180 0 49 (dk_at dksX5_sets_2 19 rfl rfl)
theorem dX5_sets_69 : decode cX5_sets 69 = .ok (.getfield 147, 3) := dk_180 0 147 (dk_at dksX5_sets_3 0 rfl rfl)
theorem dX5_sets_72 : decode cX5_sets 72 = .ok (.aload_n 0, 1) := dk_42 (dk_at dksX5_sets_3 3 rfl rfl)
theorem dX5_sets_73 : decode cX5_sets 73 = .ok (.getfield 55, 3) := dk_180 0 55 (dk_at dksX5_sets_3 4 rfl rfl)
theorem dX5_sets_76 : decode cX5_sets 76 = .ok (.invokevirtual 133, 3) := dk_182 0 133 (dk_at dksX5_sets_3 7 rfl rfl)
theorem dX5_sets_79 : decode cX5_sets 79 = .ok (.istore_n 2, 1) := dk_61 (dk_at dksX5_sets_3 10 rfl rfl)
theorem dX5_sets_80 : decode cX5_sets 80 = .ok (.aload_n 1, 1) := dk_43 (dk_at dksX5_sets_3 11 rfl rfl)
theorem dX5_sets_81 : decode cX5_sets 81 = .ok (.invokevirtual 163, 3) := dk_182 0 163 (dk_at dksX5_sets_3 12 rfl rfl)
theorem dX5_sets_84 : decode cX5_sets 84 = .ok (.astore_n 3, 1) := dk_78 (dk_at dksX5_sets_3 15 rfl rfl)
theorem dX5_sets_85 : decode cX5_sets 85 = .ok (.aload_n 3, 1) := dk_45 (dk_at dksX5_sets_3 16 rfl rfl)
theorem dX5_sets_86 : decode cX5_sets 86 = .ok (.invokeinterface 167 1, 5) := by decide +kernel
theorem dX5_sets_91 : decode cX5_sets 91 = .ok (.ifCond .eq 36, 3) := dk_153 0 36 (dk_at dksX5_sets_4 0 rfl rfl)
theorem dX5_sets_94 : decode cX5_sets 94 = .ok (.aload_n 3, 1) := dk_45 (dk_at dksX5_sets_4 3 rfl rfl)
theorem dX5_sets_95 : decode cX5_sets 95 = .ok (.invokeinterface 172 1, 5) := by decide +kernel
theorem dX5_sets_100 : decode cX5_sets 100 = .ok (.checkcast 155, 3) := dk_192 0 155 (dk_at dksX5_sets_4 9 rfl rfl)
theorem dX5_sets_103 : decode cX5_sets 103 = .ok (.astore 4, 2) := dk_58 4 (dk_at dksX5_sets_4 12 rfl rfl)
theorem dX5_sets_105 : decode cX5_sets 105 = .ok (.aload_n 0, 1) := dk_42 (dk_at dksX5_sets_4 14 rfl rfl)
theorem dX5_sets_106 : decode cX5_sets 106 = .ok (.aload 4, 2) := dk_25 4 (dk_at dksX5_sets_4 15 rfl rfl)
theorem dX5_sets_108 : decode cX5_sets 108 = .ok (.getfield 176, 3) := dk_180 0 176 (dk_at dksX5_sets_4 17 rfl rfl)
theorem dX5_sets_111 : decode cX5_sets 111 = .ok (.iload_n 2, 1) := dk_28 (dk_at dksX5_sets_4 20 rfl rfl)
theorem dX5_sets_112 : decode cX5_sets 112 = .ok (.if_icmp .eq 7, 3) := dk_159 0 7 (dk_at dksX5_sets_4 21 rfl rfl)
theorem dX5_sets_115 : decode cX5_sets 115 = .ok (.iconst 1, 1) := dk_4 (dk_at dksX5_sets_5 0 rfl rfl)
theorem dX5_sets_116 : decode cX5_sets 116 = .ok (.goto 4, 3) := dk_167 0 4 (dk_at dksX5_sets_5 1 rfl rfl)
theorem dX5_sets_119 : decode cX5_sets 119 = .ok (.iconst 0, 1) := dk_3 (dk_at dksX5_sets_5 4 rfl rfl)
theorem dX5_sets_120 : decode cX5_sets 120 = .ok (.iconst 3, 1) := dk_6 (dk_at dksX5_sets_5 5 rfl rfl)
theorem dX5_sets_121 : decode cX5_sets 121 = .ok (.invokevirtual 120, 3) := dk_182 0 120 (dk_at dksX5_sets_5 6 rfl rfl)
theorem dX5_sets_124 : decode cX5_sets 124 = .ok (.goto (-39), 3) := dk_167 255 217 (dk_at dksX5_sets_5 9 rfl rfl)
theorem dX5_sets_127 : decode cX5_sets 127 = .ok (.aload_n 0, 1) := dk_42 (dk_at dksX5_sets_5 12 rfl rfl)
theorem dX5_sets_128 : decode cX5_sets 128 = .ok (.invokevirtual 63, 3) := dk_182 0 63 (dk_at dksX5_sets_5 13 rfl rfl)
theorem dX5_sets_131 : decode cX5_sets 131 = .ok (.aload_n 1, 1) := dk_43 (dk_at dksX5_sets_5 16 rfl rfl)
theorem dX5_sets_132 : decode cX5_sets 132 = .ok (.new 155, 3) := dk_187 0 155 (dk_at dksX5_sets_5 17 rfl rfl)
theorem dX5_sets_135 : decode cX5_sets 135 = .ok (.dup, 1) := dk_89 (dk_at dksX5_sets_5 20 rfl rfl)
theorem dX5_sets_136 : decode cX5_sets 136 = .ok (.iload_n 2, 1) := dk_28 (dk_at dksX5_sets_5 21 rfl rfl)
theorem dX5_sets_137 : decode cX5_sets 137 = .ok (.aload_n 0, 1) := dk_42 (dk_at dksX5_sets_5 22 rfl rfl)
theorem dX5_sets_138 : decode cX5_sets 138 = .ok (.invokevirtual 157, 3) := dk_182 0 157 (dk_at dksX5_sets_6 0 rfl rfl)
theorem dX5_sets_141 : decode cX5_sets 141 = .ok (.invokespecial 178, 3) := dk_183 0 178 (dk_at dksX5_sets_6 3 rfl rfl)
theorem dX5_sets_144 : decode cX5_sets 144 = .ok (.invokevirtual 140, 3) := dk_182 0 140 (dk_at dksX5_sets_6 6 rfl rfl)
theorem dX5_sets_147 : decode cX5_sets 147 = .ok (.pop, 1) := dk_87 (dk_at dksX5_sets_6 9 rfl rfl)
theorem dX5_sets_148 : decode cX5_sets 148 = .ok (.goto (-148), 3) := dk_167 255 108 (dk_at dksX5_sets_6 10 rfl rfl)
theorem dX5_sets_151 : decode cX5_sets 151 = .ok (.return_, 1) := dk_177 (dk_at dksX5_sets_6 13 rfl rfl)
def dkwX5_close_0 : List UInt8 := [42, 180, 0, 3, 3, 181, 0, 66, 177]
abbrev dktX5_close_0 : List UInt8 := dkwX5_close_0 ++ []
theorem dksX5_close_0 : cX5_close.data.toList.drop 0 = dktX5_close_0 := by decide +kernel
theorem dX5_close_0 : decode cX5_close 0 = .ok (.aload_n 0, 1) := dk_42 (dk_at dksX5_close_0 0 rfl rfl)
theorem dX5_close_1 : decode cX5_close 1 = .ok (.getfield 3, 3) := dk_180 0 3 (dk_at dksX5_close_0 1 rfl rfl)
theorem dX5_close_4 : decode cX5_close 4 = .ok (.iconst 0, 1) := dk_3 (dk_at dksX5_close_0 4 rfl rfl)
theorem dX5_close_5 : decode cX5_close 5 = .ok (.putfield 66, 3) := dk_181 0 66 (dk_at dksX5_close_0 5 rfl rfl)
theorem dX5_close_8 : decode cX5_close 8 = .ok (.return_, 1) := dk_177 (dk_at dksX5_close_0 8 rfl rfl)
def dkwX6_init_0 : List UInt8 := [42, 1, 1, 3, 3, 183, 0, 1, 42, 27, 181, 0, 7, 42, 28, 181, 0, 13, 177]
abbrev dktX6_init_0 : List UInt8 := dkwX6_init_0 ++ []
theorem dksX6_init_0 : cX6_init.data.toList.drop 0 = dktX6_init_0 := by decide +kernel
theorem dX6_init_0 : decode cX6_init 0 = .ok (.aload_n 0, 1) := dk_42 (dk_at dksX6_init_0 0 rfl rfl)
theorem dX6_init_1 : decode cX6_init 1 = .ok (.aconst_null, 1) := dk_1 (dk_at dksX6_init_0 1 rfl rfl)
theorem dX6_init_2 : decode cX6_init 2 = .ok (.aconst_null, 1) := dk_1 (dk_at dksX6_init_0 2 rfl rfl)
theorem dX6_init_3 : decode cX6_init 3 = .ok (.iconst 0, 1) := dk_3 (dk_at dksX6_init_0 3 rfl rfl)
theorem dX6_init_4 : decode cX6_init 4 = .ok (.iconst 0, 1) := dk_3 (dk_at dksX6_init_0 4 rfl rfl)
theorem dX6_init_5 : decode cX6_init 5 = .ok (.invokespecial 1, 3) := dk_183 0 1 (dk_at dksX6_init_0 5 rfl rfl)
theorem dX6_init_8 : decode cX6_init 8 = .ok (.aload_n 0, 1) := dk_42 (dk_at dksX6_init_0 8 rfl rfl)
theorem dX6_init_9 : decode cX6_init 9 = .ok (.iload_n 1, 1) := dk_27 (dk_at dksX6_init_0 9 rfl rfl)
theorem dX6_init_10 : decode cX6_init 10 = .ok (.putfield 7, 3) := dk_181 0 7 (dk_at dksX6_init_0 10 rfl rfl)
theorem dX6_init_13 : decode cX6_init 13 = .ok (.aload_n 0, 1) := dk_42 (dk_at dksX6_init_0 13 rfl rfl)
theorem dX6_init_14 : decode cX6_init 14 = .ok (.iload_n 2, 1) := dk_28 (dk_at dksX6_init_0 14 rfl rfl)
theorem dX6_init_15 : decode cX6_init 15 = .ok (.putfield 13, 3) := dk_181 0 13 (dk_at dksX6_init_0 15 rfl rfl)
theorem dX6_init_18 : decode cX6_init 18 = .ok (.return_, 1) := dk_177 (dk_at dksX6_init_0 18 rfl rfl)
def dkwX7_init_0 : List UInt8 := [42, 183, 0, 3, 42, 27, 181, 0, 9, 42, 28, 181, 0, 15, 42, 29, 181, 0, 18, 177]
abbrev dktX7_init_0 : List UInt8 := dkwX7_init_0 ++ []
theorem dksX7_init_0 : cX7_init.data.toList.drop 0 = dktX7_init_0 := by decide +kernel
theorem dX7_init_0 : decode cX7_init 0 = .ok (.aload_n 0, 1) := dk_42 (dk_at dksX7_init_0 0 rfl rfl)
theorem dX7_init_1 : decode cX7_init 1 = .ok (.invokespecial 3, 3) := dk_183 0 3 (dk_at dksX7_init_0 1 rfl rfl)
theorem dX7_init_4 : decode cX7_init 4 = .ok (.aload_n 0, 1) := dk_42 (dk_at dksX7_init_0 4 rfl rfl)
theorem dX7_init_5 : decode cX7_init 5 = .ok (.iload_n 1, 1) := dk_27 (dk_at dksX7_init_0 5 rfl rfl)
theorem dX7_init_6 : decode cX7_init 6 = .ok (.putfield 9, 3) := dk_181 0 9 (dk_at dksX7_init_0 6 rfl rfl)
theorem dX7_init_9 : decode cX7_init 9 = .ok (.aload_n 0, 1) := dk_42 (dk_at dksX7_init_0 9 rfl rfl)
theorem dX7_init_10 : decode cX7_init 10 = .ok (.iload_n 2, 1) := dk_28 (dk_at dksX7_init_0 10 rfl rfl)
theorem dX7_init_11 : decode cX7_init 11 = .ok (.putfield 15, 3) := dk_181 0 15 (dk_at dksX7_init_0 11 rfl rfl)
theorem dX7_init_14 : decode cX7_init 14 = .ok (.aload_n 0, 1) := dk_42 (dk_at dksX7_init_0 14 rfl rfl)
theorem dX7_init_15 : decode cX7_init 15 = .ok (.iload_n 3, 1) := dk_29 (dk_at dksX7_init_0 15 rfl rfl)
theorem dX7_init_16 : decode cX7_init 16 = .ok (.putfield 18, 3) := dk_181 0 18 (dk_at dksX7_init_0 16 rfl rfl)
theorem dX7_init_19 : decode cX7_init 19 = .ok (.return_, 1) := dk_177 (dk_at dksX7_init_0 19 rfl rfl)
def dkwX7_init_2_0 : List UInt8 := [42, 27, 2, 28, 183, 0, 21, 177]
abbrev dktX7_init_2_0 : List UInt8 := dkwX7_init_2_0 ++ []
theorem dksX7_init_2_0 : cX7_init_2.data.toList.drop 0 = dktX7_init_2_0 := by decide +kernel
theorem dX7_init_2_0 : decode cX7_init_2 0 = .ok (.aload_n 0, 1) := dk_42 (dk_at dksX7_init_2_0 0 rfl rfl)
theorem dX7_init_2_1 : decode cX7_init_2 1 = .ok (.iload_n 1, 1) := dk_27 (dk_at dksX7_init_2_0 1 rfl rfl)
theorem dX7_init_2_2 : decode cX7_init_2 2 = .ok (.iconst (-1), 1) := dk_2 (dk_at dksX7_init_2_0 2 rfl rfl)
theorem dX7_init_2_3 : decode cX7_init_2 3 = .ok (.iload_n 2, 1) := dk_28 (dk_at dksX7_init_2_0 3 rfl rfl)
theorem dX7_init_2_4 : decode cX7_init_2 4 = .ok (.invokespecial 21, 3) := dk_183 0 21 (dk_at dksX7_init_2_0 4 rfl rfl)
theorem dX7_init_2_7 : decode cX7_init_2 7 = .ok (.return_, 1) := dk_177 (dk_at dksX7_init_2_0 7 rfl rfl)
def dkwX8_init_1 : List UInt8 := [181, 0, 16, 42, 27, 181, 0, 19, 42, 28, 181, 0, 23, 177]
abbrev dktX8_init_1 : List UInt8 := dkwX8_init_1 ++ []
def dkwX8_init_0 : List UInt8 := [42, 183, 0, 1, 42, 187, 0, 7, 89, 183, 0, 9, 181, 0, 10, 42, 187, 0, 7, 89, 183, 0, 9]
abbrev dktX8_init_0 : List UInt8 := dkwX8_init_0 ++ dktX8_init_1
theorem dksX8_init_0 : cX8_init.data.toList.drop 0 = dktX8_init_0 := by decide +kernel
theorem dksX8_init_1 : cX8_init.data.toList.drop 23 = dktX8_init_1 := dk_seg dksX8_init_0 23 rfl rfl
theorem dX8_init_0 : decode cX8_init 0 = .ok (.aload_n 0, 1) := dk_42 (dk_at dksX8_init_0 0 rfl rfl)
theorem dX8_init_1 : decode cX8_init 1 = .ok (.invokespecial 1, 3) := dk_183 0 1 (dk_at dksX8_init_0 1 rfl rfl)
theorem dX8_init_4 : decode cX8_init 4 = .ok (.aload_n 0, 1) := dk_42 (dk_at dksX8_init_0 4 rfl rfl)
theorem dX8_init_5 : decode cX8_init 5 = .ok (.new 7, 3) := dk_187 0 7 (dk_at dksX8_init_0 5 rfl rfl)
theorem dX8_init_8 : decode cX8_init 8 = .ok (.dup, 1) := dk_89 (dk_at dksX8_init_0 8 rfl rfl)
theorem dX8_init_9 : decode cX8_init 9 = .ok (.invokespecial 9, 3) := dk_183 0 9 (dk_at dksX8_init_0 9 rfl rfl)
theorem dX8_init_12 : decode cX8_init 12 = .ok (.putfield 10, 3) := dk_181 0 10 (dk_at dksX8_init_0 12 rfl rfl)
theorem dX8_init_15 : decode cX8_init 15 = .ok (.aload_n 0, 1) := dk_42 (dk_at dksX8_init_0 15 rfl rfl)
theorem dX8_init_16 : decode cX8_init 16 = .ok (.new 7, 3) := dk_187 0 7 (dk_at dksX8_init_0 16 rfl rfl)
theorem dX8_init_19 : decode cX8_init 19 = .ok (.dup, 1) := dk_89 (dk_at dksX8_init_0 19 rfl rfl)
theorem dX8_init_20 : decode cX8_init 20 = .ok (.invokespecial 9, 3) := dk_183 0 9 (dk_at dksX8_init_0 20 rfl rfl)
theorem dX8_init_23 : decode cX8_init 23 = .ok (.putfield 16, 3) := dk_181 0 16 (dk_at dksX8_init_1 0 rfl rfl)
theorem dX8_init_26 : decode cX8_init 26 = .ok (.aload_n 0, 1) := dk_42 (dk_at dksX8_init_1 3 rfl rfl)
theorem dX8_init_27 : decode cX8_init 27 = .ok (.iload_n 1, 1) := dk_27 (dk_at dksX8_init_1 4 rfl rfl)
theorem dX8_init_28 : decode cX8_init 28 = .ok (.putfield 19, 3) := dk_181 0 19 (dk_at dksX8_init_1 5 rfl rfl)
theorem dX8_init_31 : decode cX8_init 31 = .ok (.aload_n 0, 1) := dk_42 (dk_at dksX8_init_1 8 rfl rfl)
theorem dX8_init_32 : decode cX8_init 32 = .ok (.iload_n 2, 1) := dk_28 (dk_at dksX8_init_1 9 rfl rfl)
theorem dX8_init_33 : decode cX8_init 33 = .ok (.putfield 23, 3) := dk_181 0 23 (dk_at dksX8_init_1 10 rfl rfl)
theorem dX8_init_36 : decode cX8_init 36 = .ok (.return_, 1) := dk_177 (dk_at dksX8_init_1 13 rfl rfl)
def dkwX9_init_0 : List UInt8 := [42, 27, 44, 16, 254, 16, 254, 3, 183, 0, 28, 177]
abbrev dktX9_init_0 : List UInt8 := dkwX9_init_0 ++ []
theorem dksX9_init_0 : cX9_init.data.toList.drop 0 = dktX9_init_0 := by decide +kernel
theorem dX9_init_0 : decode cX9_init 0 = .ok (.aload_n 0, 1) := dk_42 (dk_at dksX9_init_0 0 rfl rfl)
theorem dX9_init_1 : decode cX9_init 1 = .ok (.iload_n 1, 1) := dk_27 (dk_at dksX9_init_0 1 rfl rfl)
theorem dX9_init_2 : decode cX9_init 2 = .ok (.aload_n 2, 1) := dk_44 (dk_at dksX9_init_0 2 rfl rfl)
theorem dX9_init_3 : decode cX9_init 3 = .ok (.bipush (-2), 2) := dk_16 254 (dk_at dksX9_init_0 3 rfl rfl)
theorem dX9_init_5 : decode cX9_init 5 = .ok (.bipush (-2), 2) := dk_16 254 (dk_at dksX9_init_0 5 rfl rfl)
theorem dX9_init_7 : decode cX9_init 7 = .ok (.iconst 0, 1) := dk_3 (dk_at dksX9_init_0 7 rfl rfl)
theorem dX9_init_8 : decode cX9_init 8 = .ok (.invokespecial 28, 3) := dk_183 0 28 (dk_at dksX9_init_0 8 rfl rfl)
theorem dX9_init_11 : decode cX9_init 11 = .ok (.return_, 1) := dk_177 (dk_at dksX9_init_0 11 rfl rfl)
def dkwX9_init_2_1 : List UInt8 := [181, 0, 22, 42, 21, 5, 181, 0, 25, 177]
abbrev dktX9_init_2_1 : List UInt8 := dkwX9_init_2_1 ++ []
def dkwX9_init_2_0 : List UInt8 := [42, 183, 0, 3, 42, 27, 181, 0, 9, 42, 44, 181, 0, 15, 42, 29, 181, 0, 19, 42, 21, 4]
abbrev dktX9_init_2_0 : List UInt8 := dkwX9_init_2_0 ++ dktX9_init_2_1
theorem dksX9_init_2_0 : cX9_init_2.data.toList.drop 0 = dktX9_init_2_0 := by decide +kernel
theorem dksX9_init_2_1 : cX9_init_2.data.toList.drop 22 = dktX9_init_2_1 := dk_seg dksX9_init_2_0 22 rfl rfl
theorem dX9_init_2_0 : decode cX9_init_2 0 = .ok (.aload_n 0, 1) := dk_42 (dk_at dksX9_init_2_0 0 rfl rfl)
theorem dX9_init_2_1 : decode cX9_init_2 1 = .ok (.invokespecial 3, 3) := dk_183 0 3 (dk_at dksX9_init_2_0 1 rfl rfl)
theorem dX9_init_2_4 : decode cX9_init_2 4 = .ok (.aload_n 0, 1) := dk_42 (dk_at dksX9_init_2_0 4 rfl rfl)
theorem dX9_init_2_5 : decode cX9_init_2 5 = .ok (.iload_n 1, 1) := dk_27 (dk_at dksX9_init_2_0 5 rfl rfl)
theorem dX9_init_2_6 : decode cX9_init_2 6 = .ok (.putfield 9, 3) := dk_181 0 9 (dk_at dksX9_init_2_0 6 rfl rfl)
theorem dX9_init_2_9 : decode cX9_init_2 9 = .ok (.aload_n 0, 1) := dk_42 (dk_at dksX9_init_2_0 9 rfl rfl)
theorem dX9_init_2_10 : decode cX9_init_2 10 = .ok (.aload_n 2, 1) := dk_44 (dk_at dksX9_init_2_0 10 rfl rfl)
theorem dX9_init_2_11 : decode cX9_init_2 11 = .ok (.putfield 15, 3) := dk_181 0 15 (dk_at dksX9_init_2_0 11 rfl rfl)
theorem dX9_init_2_14 : decode cX9_init_2 14 = .ok (.aload_n 0, 1) := dk_42 (dk_at dksX9_init_2_0 14 rfl rfl)
theorem dX9_init_2_15 : decode cX9_init_2 15 = .ok (.iload_n 3, 1) := dk_29 (dk_at dksX9_init_2_0 15 rfl rfl)
theorem dX9_init_2_16 : decode cX9_init_2 16 = .ok (.putfield 19, 3) := dk_181 0 19 (dk_at dksX9_init_2_0 16 rfl rfl)
theorem dX9_init_2_19 : decode cX9_init_2 19 = .ok (.aload_n 0, 1) := dk_42 (dk_at dksX9_init_2_0 19 rfl rfl)
theorem dX9_init_2_20 : decode cX9_init_2 20 = .ok (.iload 4, 2) := dk_21 4 (dk_at dksX9_init_2_0 20 rfl rfl)
theorem dX9_init_2_22 : decode cX9_init_2 22 = .ok (.putfield 22, 3) := dk_181 0 22 (dk_at dksX9_init_2_1 0 rfl rfl)
theorem dX9_init_2_25 : decode cX9_init_2 25 = .ok (.aload_n 0, 1) := dk_42 (dk_at dksX9_init_2_1 3 rfl rfl)
theorem dX9_init_2_26 : decode cX9_init_2 26 = .ok (.iload 5, 2) := dk_21 5 (dk_at dksX9_init_2_1 4 rfl rfl)
theorem dX9_init_2_28 : decode cX9_init_2 28 = .ok (.putfield 25, 3) := dk_181 0 25 (dk_at dksX9_init_2_1 6 rfl rfl)
theorem dX9_init_2_31 : decode cX9_init_2 31 = .ok (.return_, 1) := dk_177 (dk_at dksX9_init_2_1 9 rfl rfl)
def dkwX10_init_0 : List UInt8 := [42, 183, 0, 1, 42, 27, 181, 0, 7, 42, 44, 181, 0, 13, 42, 45, 181, 0, 17, 177]
abbrev dktX10_init_0 : List UInt8 := dkwX10_init_0 ++ []
theorem dksX10_init_0 : cX10_init.data.toList.drop 0 = dktX10_init_0 := by decide +kernel
theorem dX10_init_0 : decode cX10_init 0 = .ok (.aload_n 0, 1) := dk_42 (dk_at dksX10_init_0 0 rfl rfl)
theorem dX10_init_1 : decode cX10_init 1 = .ok (.invokespecial 1, 3) := dk_183 0 1 (dk_at dksX10_init_0 1 rfl rfl)
theorem dX10_init_4 : decode cX10_init 4 = .ok (.aload_n 0, 1) := dk_42 (dk_at dksX10_init_0 4 rfl rfl)
theorem dX10_init_5 : decode cX10_init 5 = .ok (.iload_n 1, 1) := dk_27 (dk_at dksX10_init_0 5 rfl rfl)
theorem dX10_init_6 : decode cX10_init 6 = .ok (.putfield 7, 3) := dk_181 0 7 (dk_at dksX10_init_0 6 rfl rfl)
theorem dX10_init_9 : decode cX10_init 9 = .ok (.aload_n 0, 1) := dk_42 (dk_at dksX10_init_0 9 rfl rfl)
theorem dX10_init_10 : decode cX10_init 10 = .ok (.aload_n 2, 1) := dk_44 (dk_at dksX10_init_0 10 rfl rfl)
theorem dX10_init_11 : decode cX10_init 11 = .ok (.putfield 13, 3) := dk_181 0 13 (dk_at dksX10_init_0 11 rfl rfl)
theorem dX10_init_14 : decode cX10_init 14 = .ok (.aload_n 0, 1) := dk_42 (dk_at dksX10_init_0 14 rfl rfl)
theorem dX10_init_15 : decode cX10_init 15 = .ok (.aload_n 3, 1) := dk_45 (dk_at dksX10_init_0 15 rfl rfl)
theorem dX10_init_16 : decode cX10_init 16 = .ok (.putfield 17, 3) := dk_181 0 17 (dk_at dksX10_init_0 16 rfl rfl)
theorem dX10_init_19 : decode cX10_init 19 = .ok (.return_, 1) := dk_177 (dk_at dksX10_init_0 19 rfl rfl)
def dkwX11_init_5 : List UInt8 := [182, 0, 69, 132, 4, 1, 167, 255, 214, 42, 182, 0, 73, 177]
abbrev dktX11_init_5 : List UInt8 := dkwX11_init_5 ++ []
def dkwX11_init_4 : List UInt8 := [180, 0, 58, 44, 21, 4, 4, 100, 182, 0, 48, 192, 0, 61, 182, 0, 63, 182, 0, 48, 192, 0, 67]
abbrev dktX11_init_4 : List UInt8 := dkwX11_init_4 ++ dktX11_init_5
def dkwX11_init_3 : List UInt8 := [192, 0, 49, 3, 182, 0, 54, 4, 54, 4, 21, 4, 29, 163, 0, 42, 42, 21, 4, 43, 180, 0, 34]
abbrev dktX11_init_3 : List UInt8 := dkwX11_init_3 ++ dktX11_init_4
def dkwX11_init_2 : List UInt8 := [182, 0, 30, 87, 42, 43, 180, 0, 34, 180, 0, 38, 43, 180, 0, 34, 180, 0, 44, 182, 0, 48]
abbrev dktX11_init_2 : List UInt8 := dkwX11_init_2 ++ dktX11_init_3
def dkwX11_init_1 : List UInt8 := [181, 0, 19, 42, 29, 4, 96, 189, 0, 22, 181, 0, 23, 42, 29, 4, 96, 189, 0, 22, 181, 0, 27, 42]
abbrev dktX11_init_1 : List UInt8 := dkwX11_init_1 ++ dktX11_init_2
def dkwX11_init_0 : List UInt8 := [42, 43, 181, 0, 3, 42, 29, 4, 96, 183, 0, 9, 42, 7, 188, 10, 181, 0, 15, 42, 7, 188, 10]
abbrev dktX11_init_0 : List UInt8 := dkwX11_init_0 ++ dktX11_init_1
theorem dksX11_init_0 : cX11_init.data.toList.drop 0 = dktX11_init_0 := by decide +kernel
theorem dksX11_init_1 : cX11_init.data.toList.drop 23 = dktX11_init_1 := dk_seg dksX11_init_0 23 rfl rfl
theorem dksX11_init_2 : cX11_init.data.toList.drop 47 = dktX11_init_2 := dk_seg dksX11_init_1 24 rfl rfl
theorem dksX11_init_3 : cX11_init.data.toList.drop 69 = dktX11_init_3 := dk_seg dksX11_init_2 22 rfl rfl
theorem dksX11_init_4 : cX11_init.data.toList.drop 92 = dktX11_init_4 := dk_seg dksX11_init_3 23 rfl rfl
theorem dksX11_init_5 : cX11_init.data.toList.drop 115 = dktX11_init_5 := dk_seg dksX11_init_4 23 rfl rfl
theorem dX11_init_0 : decode cX11_init 0 = .ok (.aload_n 0, 1) := dk_42 (dk_at dksX11_init_0 0 rfl rfl)
theorem dX11_init_1 : decode cX11_init 1 = .ok (.aload_n 1, 1) := dk_43 (dk_at dksX11_init_0 1 rfl rfl)
theorem dX11_init_2 : decode cX11_init 2 = .ok (.putfield 3, 3) := dk_181 0 3 (dk_at dksX11_init_0 2 rfl rfl)
theorem dX11_init_5 : decode cX11_init 5 = .ok (.aload_n 0, 1) := dk_42 (dk_at dksX11_init_0 5 rfl rfl)
theorem dX11_init_6 : decode cX11_init 6 = .ok (.iload_n 3, 1) := dk_29 (dk_at dksX11_init_0 6 rfl rfl)
theorem dX11_init_7 : decode cX11_init 7 = .ok (.iconst 1, 1) := dk_4 (dk_at dksX11_init_0 7 rfl rfl)
theorem dX11_init_8 : decode cX11_init 8 = .ok (.iadd, 1) := dk_96 (dk_at dksX11_init_0 8 rfl rfl)
theorem dX11_init_9 : decode cX11_init 9 = .ok (.invokespecial 9, 3) := dk_183 0 9 (dk_at dksX11_init_0 9 rfl rfl)
theorem dX11_init_12 : decode cX11_init 12 = .ok (.aload_n 0, 1) := dk_42 (dk_at dksX11_init_0 12 rfl rfl)
theorem dX11_init_13 : decode cX11_init 13 = .ok (.iconst 4, 1) := dk_7 (dk_at dksX11_init_0 13 rfl rfl)
theorem dX11_init_14 : decode cX11_init 14 = .ok (.newarray .int, 2) := dk_188_10 (dk_at dksX11_init_0 14 rfl rfl)
theorem dX11_init_16 : decode cX11_init 16 = .ok (.putfield 15, 3) := dk_181 0 15 (dk_at dksX11_init_0 16 rfl rfl)
theorem dX11_init_19 : decode cX11_init 19 = .ok (.aload_n 0, 1) := dk_42 (dk_at dksX11_init_0 19 rfl rfl)
theorem dX11_init_20 : decode cX11_init 20 = .ok (.iconst 4, 1) := dk_7 (dk_at dksX11_init_0 20 rfl rfl)
theorem dX11_init_21 : decode cX11_init 21 = .ok (.newarray .int, 2) := dk_188_10 (dk_at dksX11_init_0 21 rfl rfl)
theorem dX11_init_23 : decode cX11_init 23 = .ok (.putfield 19, 3) := dk_181 0 19 (dk_at dksX11_init_1 0 rfl rfl)
theorem dX11_init_26 : decode cX11_init 26 = .ok (.aload_n 0, 1) := dk_42 (dk_at dksX11_init_1 3 rfl rfl)
theorem dX11_init_27 : decode cX11_init 27 = .ok (.iload_n 3, 1) := dk_29 (dk_at dksX11_init_1 4 rfl rfl)
theorem dX11_init_28 : decode cX11_init 28 = .ok (.iconst 1, 1) := dk_4 (dk_at dksX11_init_1 5 rfl rfl)
theorem dX11_init_29 : decode cX11_init 29 = .ok (.iadd, 1) := dk_96 (dk_at dksX11_init_1 6 rfl rfl)
theorem dX11_init_30 : decode cX11_init 30 = .ok (.anewarray 22, 3) := dk_189 0 22 (dk_at dksX11_init_1 7 rfl rfl)
theorem dX11_init_33 : decode cX11_init 33 = .ok (.putfield 23, 3) := dk_181 0 23 (dk_at dksX11_init_1 10 rfl rfl)
theorem dX11_init_36 : decode cX11_init 36 = .ok (.aload_n 0, 1) := dk_42 (dk_at dksX11_init_1 13 rfl rfl)
theorem dX11_init_37 : decode cX11_init 37 = .ok (.iload_n 3, 1) := dk_29 (dk_at dksX11_init_1 14 rfl rfl)
theorem dX11_init_38 : decode cX11_init 38 = .ok (.iconst 1, 1) := dk_4 (dk_at dksX11_init_1 15 rfl rfl)
theorem dX11_init_39 : decode cX11_init 39 = .ok (.iadd, 1) := dk_96 (dk_at dksX11_init_1 16 rfl rfl)
theorem dX11_init_40 : decode cX11_init 40 = .ok (.anewarray 22, 3) := dk_189 0 22 (dk_at dksX11_init_1 17 rfl rfl)
theorem dX11_init_43 : decode cX11_init 43 = .ok (.putfield 27, 3) := dk_181 0 27 (dk_at dksX11_init_1 20 rfl rfl)
theorem dX11_init_46 : decode cX11_init 46 = .ok (.aload_n 0, 1) := dk_42 (dk_at dksX11_init_1 23 rfl rfl)
theorem dX11_init_47 : decode cX11_init 47 = .ok (.invokevirtual 30, 3) := dk_182 0 30 (dk_at dksX11_init_2 0 rfl rfl)
theorem dX11_init_50 : decode cX11_init 50 = .ok (.pop, 1) := dk_87 (dk_at dksX11_init_2 3 rfl rfl)
theorem dX11_init_51 : decode cX11_init 51 = .ok (.aload_n 0, 1) := dk_42 (dk_at dksX11_init_2 4 rfl rfl)
theorem dX11_init_52 : decode cX11_init 52 = .ok (.aload_n 1, 1) := dk_43 (dk_at dksX11_init_2 5 rfl rfl)
theorem dX11_init_53 : decode cX11_init 53 = .ok (.getfield 34, 3) := dk_180 0 34 (dk_at dksX11_init_2 6 rfl rfl)
theorem dX11_init_56 : decode cX11_init 56 = .ok (.getfield 38, 3) := dk_180 0 38 (dk_at dksX11_init_2 9 rfl rfl)
theorem dX11_init_59 : decode cX11_init 59 = .ok (.aload_n 1, 1) := dk_43 (dk_at dksX11_init_2 12 rfl rfl)
theorem dX11_init_60 : decode cX11_init 60 = .ok (.getfield 34, 3) := dk_180 0 34 (dk_at dksX11_init_2 13 rfl rfl)
theorem dX11_init_63 : decode cX11_init 63 = .ok (.getfield 44, 3) := dk_180 0 44 (dk_at dksX11_init_2 16 rfl rfl)
theorem dX11_init_66 : decode cX11_init 66 = .ok (.invokevirtual 48, 3) := dk_182 0 48 (dk_at dksX11_init_2 19 rfl rfl)
theorem dX11_init_69 : decode cX11_init 69 = .ok (.checkcast 49, 3) := dk_192 0 49 (dk_at dksX11_init_3 0 rfl rfl)
theorem dX11_init_72 : decode cX11_init 72 = .ok (.iconst 0, 1) := dk_3 (dk_at dksX11_init_3 3 rfl rfl)
theorem dX11_init_73 : decode cX11_init 73 = .ok (.invokevirtual 54, 3) := dk_182 0 54 (dk_at dksX11_init_3 4 rfl rfl)
theorem dX11_init_76 : decode cX11_init 76 = .ok (.iconst 1, 1) := dk_4 (dk_at dksX11_init_3 7 rfl rfl)
theorem dX11_init_77 : decode cX11_init 77 = .ok (.istore 4, 2) := dk_54 4 (dk_at dksX11_init_3 8 rfl rfl)
theorem dX11_init_79 : decode cX11_init 79 = .ok (.iload 4, 2) := dk_21 4 (dk_at dksX11_init_3 10 rfl rfl)
theorem dX11_init_81 : decode cX11_init 81 = .ok (.iload_n 3, 1) := dk_29 (dk_at dksX11_init_3 12 rfl rfl)
theorem dX11_init_82 : decode cX11_init 82 = .ok (.if_icmp .gt 42, 3) := dk_163 0 42 (dk_at dksX11_init_3 13 rfl rfl)
theorem dX11_init_85 : decode cX11_init 85 = .ok (.aload_n 0, 1) := dk_42 (dk_at dksX11_init_3 16 rfl rfl)
theorem dX11_init_86 : decode cX11_init 86 = .ok (.iload 4, 2) := dk_21 4 (dk_at dksX11_init_3 17 rfl rfl)
theorem dX11_init_88 : decode cX11_init 88 = .ok (.aload_n 1, 1) := dk_43 (dk_at dksX11_init_3 19 rfl rfl)
theorem dX11_init_89 : decode cX11_init 89 = .ok (.getfield 34, 3) := dk_180 0 34 (dk_at dksX11_init_3 20 rfl rfl)
theorem dX11_init_92 : decode cX11_init 92 = .ok (.getfield 58, 3) := dk_180 0 58 (dk_at dksX11_init_4 0 rfl rfl)
theorem dX11_init_95 : decode cX11_init 95 = .ok (.aload_n 2, 1) := dk_44 (dk_at dksX11_init_4 3 rfl rfl)
theorem dX11_init_96 : decode cX11_init 96 = .ok (.iload 4, 2) := dk_21 4 (dk_at dksX11_init_4 4 rfl rfl)
theorem dX11_init_98 : decode cX11_init 98 = .ok (.iconst 1, 1) := dk_4 (dk_at dksX11_init_4 6 rfl rfl)
theorem dX11_init_99 : decode cX11_init 99 = .ok (.isub, 1) := dk_100 (dk_at dksX11_init_4 7 rfl rfl)
theorem dX11_init_100 : decode cX11_init 100 = .ok (.invokevirtual 48, 3) := dk_182 0 48 (dk_at dksX11_init_4 8 rfl rfl)
theorem dX11_init_103 : decode cX11_init 103 = .ok (.checkcast 61, 3) := dk_192 0 61 (dk_at dksX11_init_4 11 rfl rfl)
theorem dX11_init_106 : decode cX11_init 106 = .ok (.invokevirtual 63, 3) := dk_182 0 63 (dk_at dksX11_init_4 14 rfl rfl)
theorem dX11_init_109 : decode cX11_init 109 = .ok (.invokevirtual 48, 3) := dk_182 0 48 (dk_at dksX11_init_4 17 rfl rfl)
theorem dX11_init_112 : decode cX11_init 112 = .ok (.checkcast 67, 3) := dk_192 0 67 (dk_at dksX11_init_4 20 rfl rfl)
theorem dX11_init_115 : decode cX11_init 115 = .ok (.invokevirtual 69, 3) := dk_182 0 69 (dk_at dksX11_init_5 0 rfl rfl)
theorem dX11_init_118 : decode cX11_init 118 = .ok (.iinc 4 1, 3) := dk_132 4 1 (dk_at dksX11_init_5 3 rfl rfl)
theorem dX11_init_121 : decode cX11_init 121 = .ok (.goto (-42), 3) := dk_167 255 214 (dk_at dksX11_init_5 6 rfl rfl)
theorem dX11_init_124 : decode cX11_init 124 = .ok (.aload_n 0, 1) := dk_42 (dk_at dksX11_init_5 9 rfl rfl)
theorem dX11_init_125 : decode cX11_init 125 = .ok (.invokevirtual 73, 3) := dk_182 0 73 (dk_at dksX11_init_5 10 rfl rfl)
theorem dX11_init_128 : decode cX11_init 128 = .ok (.return_, 1) := dk_177 (dk_at dksX11_init_5 13 rfl rfl)
def dkwX11_holds_1 : List UInt8 := [58, 4, 42, 25, 4, 28, 182, 0, 93, 167, 255, 229, 177]
abbrev dktX11_holds_1 : List UInt8 := dkwX11_holds_1 ++ []
def dkwX11_holds_0 : List UInt8 := [43, 182, 0, 77, 78, 45, 185, 0, 81, 1, 0, 153, 0, 24, 45, 185, 0, 87, 1, 0, 192, 0, 91]
abbrev dktX11_holds_0 : List UInt8 := dkwX11_holds_0 ++ dktX11_holds_1
theorem dksX11_holds_0 : cX11_holds.data.toList.drop 0 = dktX11_holds_0 := by decide +kernel
theorem dksX11_holds_1 : cX11_holds.data.toList.drop 23 = dktX11_holds_1 := dk_seg dksX11_holds_0 23 rfl rfl
theorem dX11_holds_0 : decode cX11_holds 0 = .ok (.aload_n 1, 1) := dk_43 (dk_at dksX11_holds_0 0 rfl rfl)
theorem dX11_holds_1 : decode cX11_holds 1 = .ok (.invokevirtual 77, 3) := dk_182 0 77 (dk_at dksX11_holds_0 1 rfl rfl)
theorem dX11_holds_4 : decode cX11_holds 4 = .ok (.astore_n 3, 1) := dk_78 (dk_at dksX11_holds_0 4 rfl rfl)
theorem dX11_holds_5 : decode cX11_holds 5 = .ok (.aload_n 3, 1) := dk_45 (dk_at dksX11_holds_0 5 rfl rfl)
theorem dX11_holds_6 : decode cX11_holds 6 = .ok (.invokeinterface 81 1, 5) := by decide +kernel
theorem dX11_holds_11 : decode cX11_holds 11 = .ok (.ifCond .eq 24, 3) := dk_153 0 24 (dk_at dksX11_holds_0 11 rfl rfl)
theorem dX11_holds_14 : decode cX11_holds 14 = .ok (.aload_n 3, 1) := dk_45 (dk_at dksX11_holds_0 14 rfl rfl)
theorem dX11_holds_15 : decode cX11_holds 15 = .ok (.invokeinterface 87 1, 5) := by decide +kernel
theorem dX11_holds_20 : decode cX11_holds 20 = .ok (.checkcast 91, 3) := dk_192 0 91 (dk_at dksX11_holds_0 20 rfl rfl)
theorem dX11_holds_23 : decode cX11_holds 23 = .ok (.astore 4, 2) := dk_58 4 (dk_at dksX11_holds_1 0 rfl rfl)
theorem dX11_holds_25 : decode cX11_holds 25 = .ok (.aload_n 0, 1) := dk_42 (dk_at dksX11_holds_1 2 rfl rfl)
theorem dX11_holds_26 : decode cX11_holds 26 = .ok (.aload 4, 2) := dk_25 4 (dk_at dksX11_holds_1 3 rfl rfl)
theorem dX11_holds_28 : decode cX11_holds 28 = .ok (.iload_n 2, 1) := dk_28 (dk_at dksX11_holds_1 5 rfl rfl)
theorem dX11_holds_29 : decode cX11_holds 29 = .ok (.invokevirtual 93, 3) := dk_182 0 93 (dk_at dksX11_holds_1 6 rfl rfl)
theorem dX11_holds_32 : decode cX11_holds 32 = .ok (.goto (-27), 3) := dk_167 255 229 (dk_at dksX11_holds_1 9 rfl rfl)
theorem dX11_holds_35 : decode cX11_holds 35 = .ok (.return_, 1) := dk_177 (dk_at dksX11_holds_1 12 rfl rfl)
def dkwX11_asks_7 : List UInt8 := [180, 0, 100, 43, 180, 0, 103, 42, 180, 0, 19, 43, 180, 0, 97, 46, 100, 182, 0, 110, 177]
abbrev dktX11_asks_7 : List UInt8 := dkwX11_asks_7 ++ []
def dkwX11_asks_6 : List UInt8 := [4, 167, 0, 4, 3, 128, 181, 0, 106, 167, 0, 35, 42, 28, 42, 180, 0, 15, 43, 180, 0, 97, 46, 43]
abbrev dktX11_asks_6 : List UInt8 := dkwX11_asks_6 ++ dktX11_asks_7
def dkwX11_asks_5 : List UInt8 := [43, 180, 0, 103, 164, 0, 7, 4, 167, 0, 4, 3, 54, 4, 42, 89, 180, 0, 106, 21, 4, 154, 0, 7]
abbrev dktX11_asks_5 : List UInt8 := dkwX11_asks_5 ++ dktX11_asks_6
def dkwX11_asks_4 : List UInt8 := [180, 0, 100, 6, 160, 0, 19, 29, 43, 180, 0, 103, 161, 0, 7, 4, 167, 0, 20, 3, 167, 0, 16, 29]
abbrev dktX11_asks_4 : List UInt8 := dkwX11_asks_4 ++ dktX11_asks_5
def dkwX11_asks_3 : List UInt8 := [180, 0, 100, 5, 160, 0, 19, 29, 43, 180, 0, 103, 160, 0, 7, 4, 167, 0, 44, 3, 167, 0, 40, 43]
abbrev dktX11_asks_3 : List UInt8 := dkwX11_asks_3 ++ dktX11_asks_4
def dkwX11_asks_2 : List UInt8 := [180, 0, 100, 4, 160, 0, 19, 29, 43, 180, 0, 103, 163, 0, 7, 4, 167, 0, 68, 3, 167, 0, 64, 43]
abbrev dktX11_asks_2 : List UInt8 := dkwX11_asks_2 ++ dktX11_asks_3
def dkwX11_asks_1 : List UInt8 := [180, 0, 100, 154, 0, 19, 29, 43, 180, 0, 103, 162, 0, 7, 4, 167, 0, 92, 3, 167, 0, 88, 43]
abbrev dktX11_asks_1 : List UInt8 := dkwX11_asks_1 ++ dktX11_asks_2
def dkwX11_asks_0 : List UInt8 := [42, 180, 0, 15, 43, 180, 0, 97, 46, 28, 160, 0, 145, 42, 180, 0, 19, 43, 180, 0, 97, 46, 62, 43]
abbrev dktX11_asks_0 : List UInt8 := dkwX11_asks_0 ++ dktX11_asks_1
theorem dksX11_asks_0 : cX11_asks.data.toList.drop 0 = dktX11_asks_0 := by decide +kernel
theorem dksX11_asks_1 : cX11_asks.data.toList.drop 24 = dktX11_asks_1 := dk_seg dksX11_asks_0 24 rfl rfl
theorem dksX11_asks_2 : cX11_asks.data.toList.drop 47 = dktX11_asks_2 := dk_seg dksX11_asks_1 23 rfl rfl
theorem dksX11_asks_3 : cX11_asks.data.toList.drop 71 = dktX11_asks_3 := dk_seg dksX11_asks_2 24 rfl rfl
theorem dksX11_asks_4 : cX11_asks.data.toList.drop 95 = dktX11_asks_4 := dk_seg dksX11_asks_3 24 rfl rfl
theorem dksX11_asks_5 : cX11_asks.data.toList.drop 119 = dktX11_asks_5 := dk_seg dksX11_asks_4 24 rfl rfl
theorem dksX11_asks_6 : cX11_asks.data.toList.drop 143 = dktX11_asks_6 := dk_seg dksX11_asks_5 24 rfl rfl
theorem dksX11_asks_7 : cX11_asks.data.toList.drop 167 = dktX11_asks_7 := dk_seg dksX11_asks_6 24 rfl rfl
theorem dX11_asks_0 : decode cX11_asks 0 = .ok (.aload_n 0, 1) := dk_42 (dk_at dksX11_asks_0 0 rfl rfl)
theorem dX11_asks_1 : decode cX11_asks 1 = .ok (.getfield 15, 3) := dk_180 0 15 (dk_at dksX11_asks_0 1 rfl rfl)
theorem dX11_asks_4 : decode cX11_asks 4 = .ok (.aload_n 1, 1) := dk_43 (dk_at dksX11_asks_0 4 rfl rfl)
theorem dX11_asks_5 : decode cX11_asks 5 = .ok (.getfield 97, 3) := dk_180 0 97 (dk_at dksX11_asks_0 5 rfl rfl)
theorem dX11_asks_8 : decode cX11_asks 8 = .ok (.iaload, 1) := dk_46 (dk_at dksX11_asks_0 8 rfl rfl)
theorem dX11_asks_9 : decode cX11_asks 9 = .ok (.iload_n 2, 1) := dk_28 (dk_at dksX11_asks_0 9 rfl rfl)
theorem dX11_asks_10 : decode cX11_asks 10 = .ok (.if_icmp .ne 145, 3) := dk_160 0 145 (dk_at dksX11_asks_0 10 rfl rfl)
theorem dX11_asks_13 : decode cX11_asks 13 = .ok (.aload_n 0, 1) := dk_42 (dk_at dksX11_asks_0 13 rfl rfl)
theorem dX11_asks_14 : decode cX11_asks 14 = .ok (.getfield 19, 3) := dk_180 0 19 (dk_at dksX11_asks_0 14 rfl rfl)
theorem dX11_asks_17 : decode cX11_asks 17 = .ok (.aload_n 1, 1) := dk_43 (dk_at dksX11_asks_0 17 rfl rfl)
theorem dX11_asks_18 : decode cX11_asks 18 = .ok (.getfield 97, 3) := dk_180 0 97 (dk_at dksX11_asks_0 18 rfl rfl)
theorem dX11_asks_21 : decode cX11_asks 21 = .ok (.iaload, 1) := dk_46 (dk_at dksX11_asks_0 21 rfl rfl)
theorem dX11_asks_22 : decode cX11_asks 22 = .ok (.istore_n 3, 1) := dk_62 (dk_at dksX11_asks_0 22 rfl rfl)
theorem dX11_asks_23 : decode cX11_asks 23 = .ok (.aload_n 1, 1) := dk_43 (dk_at dksX11_asks_0 23 rfl rfl)
theorem dX11_asks_24 : decode cX11_asks 24 = .ok (.getfield 100, 3) := dk_180 0 100 (dk_at dksX11_asks_1 0 rfl rfl)
theorem dX11_asks_27 : decode cX11_asks 27 = .ok (.ifCond .ne 19, 3) := dk_154 0 19 (dk_at dksX11_asks_1 3 rfl rfl)
theorem dX11_asks_30 : decode cX11_asks 30 = .ok (.iload_n 3, 1) := dk_29 (dk_at dksX11_asks_1 6 rfl rfl)
theorem dX11_asks_31 : decode cX11_asks 31 = .ok (.aload_n 1, 1) := dk_43 (dk_at dksX11_asks_1 7 rfl rfl)
theorem dX11_asks_32 : decode cX11_asks 32 = .ok (.getfield 103, 3) := dk_180 0 103 (dk_at dksX11_asks_1 8 rfl rfl)
theorem dX11_asks_35 : decode cX11_asks 35 = .ok (.if_icmp .ge 7, 3) := dk_162 0 7 (dk_at dksX11_asks_1 11 rfl rfl)
theorem dX11_asks_38 : decode cX11_asks 38 = .ok (.iconst 1, 1) := dk_4 (dk_at dksX11_asks_1 14 rfl rfl)
theorem dX11_asks_39 : decode cX11_asks 39 = .ok (.goto 92, 3) := dk_167 0 92 (dk_at dksX11_asks_1 15 rfl rfl)
theorem dX11_asks_42 : decode cX11_asks 42 = .ok (.iconst 0, 1) := dk_3 (dk_at dksX11_asks_1 18 rfl rfl)
theorem dX11_asks_43 : decode cX11_asks 43 = .ok (.goto 88, 3) := dk_167 0 88 (dk_at dksX11_asks_1 19 rfl rfl)
theorem dX11_asks_46 : decode cX11_asks 46 = .ok (.aload_n 1, 1) := dk_43 (dk_at dksX11_asks_1 22 rfl rfl)
theorem dX11_asks_47 : decode cX11_asks 47 = .ok (.getfield 100, 3) := dk_180 0 100 (dk_at dksX11_asks_2 0 rfl rfl)
theorem dX11_asks_50 : decode cX11_asks 50 = .ok (.iconst 1, 1) := dk_4 (dk_at dksX11_asks_2 3 rfl rfl)
theorem dX11_asks_51 : decode cX11_asks 51 = .ok (.if_icmp .ne 19, 3) := dk_160 0 19 (dk_at dksX11_asks_2 4 rfl rfl)
theorem dX11_asks_54 : decode cX11_asks 54 = .ok (.iload_n 3, 1) := dk_29 (dk_at dksX11_asks_2 7 rfl rfl)
theorem dX11_asks_55 : decode cX11_asks 55 = .ok (.aload_n 1, 1) := dk_43 (dk_at dksX11_asks_2 8 rfl rfl)
theorem dX11_asks_56 : decode cX11_asks 56 = .ok (.getfield 103, 3) := dk_180 0 103 (dk_at dksX11_asks_2 9 rfl rfl)
theorem dX11_asks_59 : decode cX11_asks 59 = .ok (.if_icmp .gt 7, 3) := dk_163 0 7 (dk_at dksX11_asks_2 12 rfl rfl)
theorem dX11_asks_62 : decode cX11_asks 62 = .ok (.iconst 1, 1) := dk_4 (dk_at dksX11_asks_2 15 rfl rfl)
theorem dX11_asks_63 : decode cX11_asks 63 = .ok (.goto 68, 3) := dk_167 0 68 (dk_at dksX11_asks_2 16 rfl rfl)
theorem dX11_asks_66 : decode cX11_asks 66 = .ok (.iconst 0, 1) := dk_3 (dk_at dksX11_asks_2 19 rfl rfl)
theorem dX11_asks_67 : decode cX11_asks 67 = .ok (.goto 64, 3) := dk_167 0 64 (dk_at dksX11_asks_2 20 rfl rfl)
theorem dX11_asks_70 : decode cX11_asks 70 = .ok (.aload_n 1, 1) := dk_43 (dk_at dksX11_asks_2 23 rfl rfl)
theorem dX11_asks_71 : decode cX11_asks 71 = .ok (.getfield 100, 3) := dk_180 0 100 (dk_at dksX11_asks_3 0 rfl rfl)
theorem dX11_asks_74 : decode cX11_asks 74 = .ok (.iconst 2, 1) := dk_5 (dk_at dksX11_asks_3 3 rfl rfl)
theorem dX11_asks_75 : decode cX11_asks 75 = .ok (.if_icmp .ne 19, 3) := dk_160 0 19 (dk_at dksX11_asks_3 4 rfl rfl)
theorem dX11_asks_78 : decode cX11_asks 78 = .ok (.iload_n 3, 1) := dk_29 (dk_at dksX11_asks_3 7 rfl rfl)
theorem dX11_asks_79 : decode cX11_asks 79 = .ok (.aload_n 1, 1) := dk_43 (dk_at dksX11_asks_3 8 rfl rfl)
theorem dX11_asks_80 : decode cX11_asks 80 = .ok (.getfield 103, 3) := dk_180 0 103 (dk_at dksX11_asks_3 9 rfl rfl)
theorem dX11_asks_83 : decode cX11_asks 83 = .ok (.if_icmp .ne 7, 3) := dk_160 0 7 (dk_at dksX11_asks_3 12 rfl rfl)
theorem dX11_asks_86 : decode cX11_asks 86 = .ok (.iconst 1, 1) := dk_4 (dk_at dksX11_asks_3 15 rfl rfl)
theorem dX11_asks_87 : decode cX11_asks 87 = .ok (.goto 44, 3) := dk_167 0 44 (dk_at dksX11_asks_3 16 rfl rfl)
theorem dX11_asks_90 : decode cX11_asks 90 = .ok (.iconst 0, 1) := dk_3 (dk_at dksX11_asks_3 19 rfl rfl)
theorem dX11_asks_91 : decode cX11_asks 91 = .ok (.goto 40, 3) := dk_167 0 40 (dk_at dksX11_asks_3 20 rfl rfl)
theorem dX11_asks_94 : decode cX11_asks 94 = .ok (.aload_n 1, 1) := dk_43 (dk_at dksX11_asks_3 23 rfl rfl)
theorem dX11_asks_95 : decode cX11_asks 95 = .ok (.getfield 100, 3) := dk_180 0 100 (dk_at dksX11_asks_4 0 rfl rfl)
theorem dX11_asks_98 : decode cX11_asks 98 = .ok (.iconst 3, 1) := dk_6 (dk_at dksX11_asks_4 3 rfl rfl)
theorem dX11_asks_99 : decode cX11_asks 99 = .ok (.if_icmp .ne 19, 3) := dk_160 0 19 (dk_at dksX11_asks_4 4 rfl rfl)
theorem dX11_asks_102 : decode cX11_asks 102 = .ok (.iload_n 3, 1) := dk_29 (dk_at dksX11_asks_4 7 rfl rfl)
theorem dX11_asks_103 : decode cX11_asks 103 = .ok (.aload_n 1, 1) := dk_43 (dk_at dksX11_asks_4 8 rfl rfl)
theorem dX11_asks_104 : decode cX11_asks 104 = .ok (.getfield 103, 3) := dk_180 0 103 (dk_at dksX11_asks_4 9 rfl rfl)
theorem dX11_asks_107 : decode cX11_asks 107 = .ok (.if_icmp .lt 7, 3) := dk_161 0 7 (dk_at dksX11_asks_4 12 rfl rfl)
theorem dX11_asks_110 : decode cX11_asks 110 = .ok (.iconst 1, 1) := dk_4 (dk_at dksX11_asks_4 15 rfl rfl)
theorem dX11_asks_111 : decode cX11_asks 111 = .ok (.goto 20, 3) := dk_167 0 20 (dk_at dksX11_asks_4 16 rfl rfl)
theorem dX11_asks_114 : decode cX11_asks 114 = .ok (.iconst 0, 1) := dk_3 (dk_at dksX11_asks_4 19 rfl rfl)
theorem dX11_asks_115 : decode cX11_asks 115 = .ok (.goto 16, 3) := dk_167 0 16 (dk_at dksX11_asks_4 20 rfl rfl)
theorem dX11_asks_118 : decode cX11_asks 118 = .ok (.iload_n 3, 1) := dk_29 (dk_at dksX11_asks_4 23 rfl rfl)
theorem dX11_asks_119 : decode cX11_asks 119 = .ok (.aload_n 1, 1) := dk_43 (dk_at dksX11_asks_5 0 rfl rfl)
theorem dX11_asks_120 : decode cX11_asks 120 = .ok (.getfield 103, 3) := dk_180 0 103 (dk_at dksX11_asks_5 1 rfl rfl)
theorem dX11_asks_123 : decode cX11_asks 123 = .ok (.if_icmp .le 7, 3) := dk_164 0 7 (dk_at dksX11_asks_5 4 rfl rfl)
theorem dX11_asks_126 : decode cX11_asks 126 = .ok (.iconst 1, 1) := dk_4 (dk_at dksX11_asks_5 7 rfl rfl)
theorem dX11_asks_127 : decode cX11_asks 127 = .ok (.goto 4, 3) := dk_167 0 4 (dk_at dksX11_asks_5 8 rfl rfl)
theorem dX11_asks_130 : decode cX11_asks 130 = .ok (.iconst 0, 1) := dk_3 (dk_at dksX11_asks_5 11 rfl rfl)
theorem dX11_asks_131 : decode cX11_asks 131 = .ok (.istore 4, 2) := dk_54 4 (dk_at dksX11_asks_5 12 rfl rfl)
theorem dX11_asks_133 : decode cX11_asks 133 = .ok (.aload_n 0, 1) := dk_42 (dk_at dksX11_asks_5 14 rfl rfl)
theorem dX11_asks_134 : decode cX11_asks 134 = .ok (.dup, 1) := dk_89 (dk_at dksX11_asks_5 15 rfl rfl)
theorem dX11_asks_135 : decode cX11_asks 135 = .ok (.getfield 106, 3) := dk_180 0 106 (dk_at dksX11_asks_5 16 rfl rfl)
theorem dX11_asks_138 : decode cX11_asks 138 = .ok (.iload 4, 2) := dk_21 4 (dk_at dksX11_asks_5 19 rfl rfl)
theorem dX11_asks_140 : decode cX11_asks 140 = .ok (.ifCond .ne 7, 3) := dk_154 0 7 (dk_at dksX11_asks_5 21 rfl rfl)
theorem dX11_asks_143 : decode cX11_asks 143 = .ok (.iconst 1, 1) := dk_4 (dk_at dksX11_asks_6 0 rfl rfl)
theorem dX11_asks_144 : decode cX11_asks 144 = .ok (.goto 4, 3) := dk_167 0 4 (dk_at dksX11_asks_6 1 rfl rfl)
theorem dX11_asks_147 : decode cX11_asks 147 = .ok (.iconst 0, 1) := dk_3 (dk_at dksX11_asks_6 4 rfl rfl)
theorem dX11_asks_148 : decode cX11_asks 148 = .ok (.ior, 1) := dk_128 (dk_at dksX11_asks_6 5 rfl rfl)
theorem dX11_asks_149 : decode cX11_asks 149 = .ok (.putfield 106, 3) := dk_181 0 106 (dk_at dksX11_asks_6 6 rfl rfl)
theorem dX11_asks_152 : decode cX11_asks 152 = .ok (.goto 35, 3) := dk_167 0 35 (dk_at dksX11_asks_6 9 rfl rfl)
theorem dX11_asks_155 : decode cX11_asks 155 = .ok (.aload_n 0, 1) := dk_42 (dk_at dksX11_asks_6 12 rfl rfl)
theorem dX11_asks_156 : decode cX11_asks 156 = .ok (.iload_n 2, 1) := dk_28 (dk_at dksX11_asks_6 13 rfl rfl)
theorem dX11_asks_157 : decode cX11_asks 157 = .ok (.aload_n 0, 1) := dk_42 (dk_at dksX11_asks_6 14 rfl rfl)
theorem dX11_asks_158 : decode cX11_asks 158 = .ok (.getfield 15, 3) := dk_180 0 15 (dk_at dksX11_asks_6 15 rfl rfl)
theorem dX11_asks_161 : decode cX11_asks 161 = .ok (.aload_n 1, 1) := dk_43 (dk_at dksX11_asks_6 18 rfl rfl)
theorem dX11_asks_162 : decode cX11_asks 162 = .ok (.getfield 97, 3) := dk_180 0 97 (dk_at dksX11_asks_6 19 rfl rfl)
theorem dX11_asks_165 : decode cX11_asks 165 = .ok (.iaload, 1) := dk_46 (dk_at dksX11_asks_6 22 rfl rfl)
theorem dX11_asks_166 : decode cX11_asks 166 = .ok (.aload_n 1, 1) := dk_43 (dk_at dksX11_asks_6 23 rfl rfl)
theorem dX11_asks_167 : decode cX11_asks 167 = .ok (.getfield 100, 3) := dk_180 0 100 (dk_at dksX11_asks_7 0 rfl rfl)
theorem dX11_asks_170 : decode cX11_asks 170 = .ok (.aload_n 1, 1) := dk_43 (dk_at dksX11_asks_7 3 rfl rfl)
theorem dX11_asks_171 : decode cX11_asks 171 = .ok (.getfield 103, 3) := dk_180 0 103 (dk_at dksX11_asks_7 4 rfl rfl)
theorem dX11_asks_174 : decode cX11_asks 174 = .ok (.aload_n 0, 1) := dk_42 (dk_at dksX11_asks_7 7 rfl rfl)
theorem dX11_asks_175 : decode cX11_asks 175 = .ok (.getfield 19, 3) := dk_180 0 19 (dk_at dksX11_asks_7 8 rfl rfl)
theorem dX11_asks_178 : decode cX11_asks 178 = .ok (.aload_n 1, 1) := dk_43 (dk_at dksX11_asks_7 11 rfl rfl)
theorem dX11_asks_179 : decode cX11_asks 179 = .ok (.getfield 97, 3) := dk_180 0 97 (dk_at dksX11_asks_7 12 rfl rfl)
theorem dX11_asks_182 : decode cX11_asks 182 = .ok (.iaload, 1) := dk_46 (dk_at dksX11_asks_7 15 rfl rfl)
theorem dX11_asks_183 : decode cX11_asks 183 = .ok (.isub, 1) := dk_100 (dk_at dksX11_asks_7 16 rfl rfl)
theorem dX11_asks_184 : decode cX11_asks 184 = .ok (.invokevirtual 110, 3) := dk_182 0 110 (dk_at dksX11_asks_7 17 rfl rfl)
theorem dX11_asks_187 : decode cX11_asks 187 = .ok (.return_, 1) := dk_177 (dk_at dksX11_asks_7 20 rfl rfl)
def dkwX11_goes_6 : List UInt8 := [180, 0, 34, 180, 0, 38, 44, 180, 0, 132, 182, 0, 48, 192, 0, 49, 27, 182, 0, 54, 177]
abbrev dktX11_goes_6 : List UInt8 := dkwX11_goes_6 ++ []
def dkwX11_goes_5 : List UInt8 := [79, 42, 180, 0, 19, 25, 4, 180, 0, 97, 25, 4, 180, 0, 103, 79, 167, 255, 210, 42, 42, 180, 0, 3]
abbrev dktX11_goes_5 : List UInt8 := dkwX11_goes_5 ++ dktX11_goes_6
def dkwX11_goes_4 : List UInt8 := [153, 0, 43, 45, 185, 0, 87, 1, 0, 192, 0, 91, 58, 4, 42, 180, 0, 15, 25, 4, 180, 0, 97, 27]
abbrev dktX11_goes_4 : List UInt8 := dkwX11_goes_4 ++ dktX11_goes_5
def dkwX11_goes_3 : List UInt8 := [44, 180, 0, 126, 27, 182, 0, 54, 44, 180, 0, 129, 182, 0, 77, 78, 45, 185, 0, 81, 1, 0]
abbrev dktX11_goes_3 : List UInt8 := dkwX11_goes_3 ++ dktX11_goes_4
def dkwX11_goes_2 : List UInt8 := [180, 0, 3, 180, 0, 34, 180, 0, 38, 44, 180, 0, 124, 182, 0, 48, 192, 0, 49, 27, 182, 0, 54, 42]
abbrev dktX11_goes_2 : List UInt8 := dkwX11_goes_2 ++ dktX11_goes_3
def dkwX11_goes_1 : List UInt8 := [192, 0, 22, 83, 42, 180, 0, 27, 27, 42, 180, 0, 19, 182, 0, 121, 192, 0, 22, 83, 42, 42]
abbrev dktX11_goes_1 : List UInt8 := dkwX11_goes_1 ++ dktX11_goes_2
def dkwX11_goes_0 : List UInt8 := [42, 27, 4, 100, 27, 178, 0, 114, 182, 0, 117, 42, 180, 0, 23, 27, 42, 180, 0, 15, 182, 0, 121]
abbrev dktX11_goes_0 : List UInt8 := dkwX11_goes_0 ++ dktX11_goes_1
theorem dksX11_goes_0 : cX11_goes.data.toList.drop 0 = dktX11_goes_0 := by decide +kernel
theorem dksX11_goes_1 : cX11_goes.data.toList.drop 23 = dktX11_goes_1 := dk_seg dksX11_goes_0 23 rfl rfl
theorem dksX11_goes_2 : cX11_goes.data.toList.drop 45 = dktX11_goes_2 := dk_seg dksX11_goes_1 22 rfl rfl
theorem dksX11_goes_3 : cX11_goes.data.toList.drop 69 = dktX11_goes_3 := dk_seg dksX11_goes_2 24 rfl rfl
theorem dksX11_goes_4 : cX11_goes.data.toList.drop 91 = dktX11_goes_4 := dk_seg dksX11_goes_3 22 rfl rfl
theorem dksX11_goes_5 : cX11_goes.data.toList.drop 115 = dktX11_goes_5 := dk_seg dksX11_goes_4 24 rfl rfl
theorem dksX11_goes_6 : cX11_goes.data.toList.drop 139 = dktX11_goes_6 := dk_seg dksX11_goes_5 24 rfl rfl
theorem dX11_goes_0 : decode cX11_goes 0 = .ok (.aload_n 0, 1) := dk_42 (dk_at dksX11_goes_0 0 rfl rfl)
theorem dX11_goes_1 : decode cX11_goes 1 = .ok (.iload_n 1, 1) := dk_27 (dk_at dksX11_goes_0 1 rfl rfl)
theorem dX11_goes_2 : decode cX11_goes 2 = .ok (.iconst 1, 1) := dk_4 (dk_at dksX11_goes_0 2 rfl rfl)
theorem dX11_goes_3 : decode cX11_goes 3 = .ok (.isub, 1) := dk_100 (dk_at dksX11_goes_0 3 rfl rfl)
theorem dX11_goes_4 : decode cX11_goes 4 = .ok (.iload_n 1, 1) := dk_27 (dk_at dksX11_goes_0 4 rfl rfl)
theorem dX11_goes_5 : decode cX11_goes 5 = .ok (.getstatic 114, 3) := dk_178 0 114 (dk_at dksX11_goes_0 5 rfl rfl)
theorem dX11_goes_8 : decode cX11_goes 8 = .ok (.invokevirtual 117, 3) := dk_182 0 117 (dk_at dksX11_goes_0 8 rfl rfl)
theorem dX11_goes_11 : decode cX11_goes 11 = .ok (.aload_n 0, 1) := dk_42 (dk_at dksX11_goes_0 11 rfl rfl)
theorem dX11_goes_12 : decode cX11_goes 12 = .ok (.getfield 23, 3) := dk_180 0 23 (dk_at dksX11_goes_0 12 rfl rfl)
theorem dX11_goes_15 : decode cX11_goes 15 = .ok (.iload_n 1, 1) := dk_27 (dk_at dksX11_goes_0 15 rfl rfl)
theorem dX11_goes_16 : decode cX11_goes 16 = .ok (.aload_n 0, 1) := dk_42 (dk_at dksX11_goes_0 16 rfl rfl)
theorem dX11_goes_17 : decode cX11_goes 17 = .ok (.getfield 15, 3) := dk_180 0 15 (dk_at dksX11_goes_0 17 rfl rfl)
theorem dX11_goes_20 : decode cX11_goes 20 = .ok (.invokevirtual 121, 3) := dk_182 0 121 (dk_at dksX11_goes_0 20 rfl rfl)
theorem dX11_goes_23 : decode cX11_goes 23 = .ok (.checkcast 22, 3) := dk_192 0 22 (dk_at dksX11_goes_1 0 rfl rfl)
theorem dX11_goes_26 : decode cX11_goes 26 = .ok (.aastore, 1) := dk_83 (dk_at dksX11_goes_1 3 rfl rfl)
theorem dX11_goes_27 : decode cX11_goes 27 = .ok (.aload_n 0, 1) := dk_42 (dk_at dksX11_goes_1 4 rfl rfl)
theorem dX11_goes_28 : decode cX11_goes 28 = .ok (.getfield 27, 3) := dk_180 0 27 (dk_at dksX11_goes_1 5 rfl rfl)
theorem dX11_goes_31 : decode cX11_goes 31 = .ok (.iload_n 1, 1) := dk_27 (dk_at dksX11_goes_1 8 rfl rfl)
theorem dX11_goes_32 : decode cX11_goes 32 = .ok (.aload_n 0, 1) := dk_42 (dk_at dksX11_goes_1 9 rfl rfl)
theorem dX11_goes_33 : decode cX11_goes 33 = .ok (.getfield 19, 3) := dk_180 0 19 (dk_at dksX11_goes_1 10 rfl rfl)
theorem dX11_goes_36 : decode cX11_goes 36 = .ok (.invokevirtual 121, 3) := dk_182 0 121 (dk_at dksX11_goes_1 13 rfl rfl)
theorem dX11_goes_39 : decode cX11_goes 39 = .ok (.checkcast 22, 3) := dk_192 0 22 (dk_at dksX11_goes_1 16 rfl rfl)
theorem dX11_goes_42 : decode cX11_goes 42 = .ok (.aastore, 1) := dk_83 (dk_at dksX11_goes_1 19 rfl rfl)
theorem dX11_goes_43 : decode cX11_goes 43 = .ok (.aload_n 0, 1) := dk_42 (dk_at dksX11_goes_1 20 rfl rfl)
theorem dX11_goes_44 : decode cX11_goes 44 = .ok (.aload_n 0, 1) := dk_42 (dk_at dksX11_goes_1 21 rfl rfl)
theorem dX11_goes_45 : decode cX11_goes 45 = .ok (.getfield 3, 3) := dk_180 0 3 (dk_at dksX11_goes_2 0 rfl rfl)
theorem dX11_goes_48 : decode cX11_goes 48 = .ok (.getfield 34, 3) := dk_180 0 34 (dk_at dksX11_goes_2 3 rfl rfl)
theorem dX11_goes_51 : decode cX11_goes 51 = .ok (.getfield 38, 3) := dk_180 0 38 (dk_at dksX11_goes_2 6 rfl rfl)
theorem dX11_goes_54 : decode cX11_goes 54 = .ok (.aload_n 2, 1) := dk_44 (dk_at dksX11_goes_2 9 rfl rfl)
theorem dX11_goes_55 : decode cX11_goes 55 = .ok (.getfield 124, 3) := dk_180 0 124 (dk_at dksX11_goes_2 10 rfl rfl)
theorem dX11_goes_58 : decode cX11_goes 58 = .ok (.invokevirtual 48, 3) := dk_182 0 48 (dk_at dksX11_goes_2 13 rfl rfl)
theorem dX11_goes_61 : decode cX11_goes 61 = .ok (.checkcast 49, 3) := dk_192 0 49 (dk_at dksX11_goes_2 16 rfl rfl)
theorem dX11_goes_64 : decode cX11_goes 64 = .ok (.iload_n 1, 1) := dk_27 (dk_at dksX11_goes_2 19 rfl rfl)
theorem dX11_goes_65 : decode cX11_goes 65 = .ok (.invokevirtual 54, 3) := dk_182 0 54 (dk_at dksX11_goes_2 20 rfl rfl)
theorem dX11_goes_68 : decode cX11_goes 68 = .ok (.aload_n 0, 1) := dk_42 (dk_at dksX11_goes_2 23 rfl rfl)
theorem dX11_goes_69 : decode cX11_goes 69 = .ok (.aload_n 2, 1) := dk_44 (dk_at dksX11_goes_3 0 rfl rfl)
theorem dX11_goes_70 : decode cX11_goes 70 = .ok (.getfield 126, 3) := dk_180 0 126 (dk_at dksX11_goes_3 1 rfl rfl)
theorem dX11_goes_73 : decode cX11_goes 73 = .ok (.iload_n 1, 1) := dk_27 (dk_at dksX11_goes_3 4 rfl rfl)
theorem dX11_goes_74 : decode cX11_goes 74 = .ok (.invokevirtual 54, 3) := dk_182 0 54 (dk_at dksX11_goes_3 5 rfl rfl)
theorem dX11_goes_77 : decode cX11_goes 77 = .ok (.aload_n 2, 1) := dk_44 (dk_at dksX11_goes_3 8 rfl rfl)
theorem dX11_goes_78 : decode cX11_goes 78 = .ok (.getfield 129, 3) := dk_180 0 129 (dk_at dksX11_goes_3 9 rfl rfl)
theorem dX11_goes_81 : decode cX11_goes 81 = .ok (.invokevirtual 77, 3) := dk_182 0 77 (dk_at dksX11_goes_3 12 rfl rfl)
theorem dX11_goes_84 : decode cX11_goes 84 = .ok (.astore_n 3, 1) := dk_78 (dk_at dksX11_goes_3 15 rfl rfl)
theorem dX11_goes_85 : decode cX11_goes 85 = .ok (.aload_n 3, 1) := dk_45 (dk_at dksX11_goes_3 16 rfl rfl)
theorem dX11_goes_86 : decode cX11_goes 86 = .ok (.invokeinterface 81 1, 5) := by decide +kernel
theorem dX11_goes_91 : decode cX11_goes 91 = .ok (.ifCond .eq 43, 3) := dk_153 0 43 (dk_at dksX11_goes_4 0 rfl rfl)
theorem dX11_goes_94 : decode cX11_goes 94 = .ok (.aload_n 3, 1) := dk_45 (dk_at dksX11_goes_4 3 rfl rfl)
theorem dX11_goes_95 : decode cX11_goes 95 = .ok (.invokeinterface 87 1, 5) := by decide +kernel
theorem dX11_goes_100 : decode cX11_goes 100 = .ok (.checkcast 91, 3) := dk_192 0 91 (dk_at dksX11_goes_4 9 rfl rfl)
theorem dX11_goes_103 : decode cX11_goes 103 = .ok (.astore 4, 2) := dk_58 4 (dk_at dksX11_goes_4 12 rfl rfl)
theorem dX11_goes_105 : decode cX11_goes 105 = .ok (.aload_n 0, 1) := dk_42 (dk_at dksX11_goes_4 14 rfl rfl)
theorem dX11_goes_106 : decode cX11_goes 106 = .ok (.getfield 15, 3) := dk_180 0 15 (dk_at dksX11_goes_4 15 rfl rfl)
theorem dX11_goes_109 : decode cX11_goes 109 = .ok (.aload 4, 2) := dk_25 4 (dk_at dksX11_goes_4 18 rfl rfl)
theorem dX11_goes_111 : decode cX11_goes 111 = .ok (.getfield 97, 3) := dk_180 0 97 (dk_at dksX11_goes_4 20 rfl rfl)
theorem dX11_goes_114 : decode cX11_goes 114 = .ok (.iload_n 1, 1) := dk_27 (dk_at dksX11_goes_4 23 rfl rfl)
theorem dX11_goes_115 : decode cX11_goes 115 = .ok (.iastore, 1) := dk_79 (dk_at dksX11_goes_5 0 rfl rfl)
theorem dX11_goes_116 : decode cX11_goes 116 = .ok (.aload_n 0, 1) := dk_42 (dk_at dksX11_goes_5 1 rfl rfl)
theorem dX11_goes_117 : decode cX11_goes 117 = .ok (.getfield 19, 3) := dk_180 0 19 (dk_at dksX11_goes_5 2 rfl rfl)
theorem dX11_goes_120 : decode cX11_goes 120 = .ok (.aload 4, 2) := dk_25 4 (dk_at dksX11_goes_5 5 rfl rfl)
theorem dX11_goes_122 : decode cX11_goes 122 = .ok (.getfield 97, 3) := dk_180 0 97 (dk_at dksX11_goes_5 7 rfl rfl)
theorem dX11_goes_125 : decode cX11_goes 125 = .ok (.aload 4, 2) := dk_25 4 (dk_at dksX11_goes_5 10 rfl rfl)
theorem dX11_goes_127 : decode cX11_goes 127 = .ok (.getfield 103, 3) := dk_180 0 103 (dk_at dksX11_goes_5 12 rfl rfl)
theorem dX11_goes_130 : decode cX11_goes 130 = .ok (.iastore, 1) := dk_79 (dk_at dksX11_goes_5 15 rfl rfl)
theorem dX11_goes_131 : decode cX11_goes 131 = .ok (.goto (-46), 3) := dk_167 255 210 (dk_at dksX11_goes_5 16 rfl rfl)
theorem dX11_goes_134 : decode cX11_goes 134 = .ok (.aload_n 0, 1) := dk_42 (dk_at dksX11_goes_5 19 rfl rfl)
theorem dX11_goes_135 : decode cX11_goes 135 = .ok (.aload_n 0, 1) := dk_42 (dk_at dksX11_goes_5 20 rfl rfl)
theorem dX11_goes_136 : decode cX11_goes 136 = .ok (.getfield 3, 3) := dk_180 0 3 (dk_at dksX11_goes_5 21 rfl rfl)
theorem dX11_goes_139 : decode cX11_goes 139 = .ok (.getfield 34, 3) := dk_180 0 34 (dk_at dksX11_goes_6 0 rfl rfl)
theorem dX11_goes_142 : decode cX11_goes 142 = .ok (.getfield 38, 3) := dk_180 0 38 (dk_at dksX11_goes_6 3 rfl rfl)
theorem dX11_goes_145 : decode cX11_goes 145 = .ok (.aload_n 2, 1) := dk_44 (dk_at dksX11_goes_6 6 rfl rfl)
theorem dX11_goes_146 : decode cX11_goes 146 = .ok (.getfield 132, 3) := dk_180 0 132 (dk_at dksX11_goes_6 7 rfl rfl)
theorem dX11_goes_149 : decode cX11_goes 149 = .ok (.invokevirtual 48, 3) := dk_182 0 48 (dk_at dksX11_goes_6 10 rfl rfl)
theorem dX11_goes_152 : decode cX11_goes 152 = .ok (.checkcast 49, 3) := dk_192 0 49 (dk_at dksX11_goes_6 13 rfl rfl)
theorem dX11_goes_155 : decode cX11_goes 155 = .ok (.iload_n 1, 1) := dk_27 (dk_at dksX11_goes_6 16 rfl rfl)
theorem dX11_goes_156 : decode cX11_goes 156 = .ok (.invokevirtual 54, 3) := dk_182 0 54 (dk_at dksX11_goes_6 17 rfl rfl)
theorem dX11_goes_159 : decode cX11_goes 159 = .ok (.return_, 1) := dk_177 (dk_at dksX11_goes_6 20 rfl rfl)
