set_option maxRecDepth 100000
def dkwJ2_init_0 : List UInt8 := [42, 183, 0, 1, 42, 178, 0, 39, 181, 0, 9, 177]
abbrev dktJ2_init_0 : List UInt8 := dkwJ2_init_0 ++ []
theorem dksJ2_init_0 : cJ2_init.data.toList.drop 0 = dktJ2_init_0 := by decide +kernel
theorem dJ2_init_0 : decode cJ2_init 0 = .ok (.aload_n 0, 1) := dk_42 (dk_at dksJ2_init_0 0 rfl rfl)
theorem dJ2_init_1 : decode cJ2_init 1 = .ok (.invokespecial 1, 3) := dk_183 0 1 (dk_at dksJ2_init_0 1 rfl rfl)
theorem dJ2_init_4 : decode cJ2_init 4 = .ok (.aload_n 0, 1) := dk_42 (dk_at dksJ2_init_0 4 rfl rfl)
theorem dJ2_init_5 : decode cJ2_init 5 = .ok (.getstatic 39, 3) := dk_178 0 39 (dk_at dksJ2_init_0 5 rfl rfl)
theorem dJ2_init_8 : decode cJ2_init 8 = .ok (.putfield 9, 3) := dk_181 0 9 (dk_at dksJ2_init_0 8 rfl rfl)
theorem dJ2_init_11 : decode cJ2_init 11 = .ok (.return_, 1) := dk_177 (dk_at dksJ2_init_0 11 rfl rfl)
theorem dJ2_size_0 : decode cJ2_size 0 = .ok (.aload_n 0, 1) := by decide +kernel
theorem dJ2_size_1 : decode cJ2_size 1 = .ok (.getfield 48, 3) := by decide +kernel
theorem dJ2_size_4 : decode cJ2_size 4 = .ok (.ireturn, 1) := by decide +kernel
def dkwJ2_contains_0 : List UInt8 := [42, 43, 182, 0, 85, 155, 0, 7, 4, 167, 0, 4, 3, 172]
abbrev dktJ2_contains_0 : List UInt8 := dkwJ2_contains_0 ++ []
theorem dksJ2_contains_0 : cJ2_contains.data.toList.drop 0 = dktJ2_contains_0 := by decide +kernel
theorem dJ2_contains_0 : decode cJ2_contains 0 = .ok (.aload_n 0, 1) := dk_42 (dk_at dksJ2_contains_0 0 rfl rfl)
theorem dJ2_contains_1 : decode cJ2_contains 1 = .ok (.aload_n 1, 1) := dk_43 (dk_at dksJ2_contains_0 1 rfl rfl)
theorem dJ2_contains_2 : decode cJ2_contains 2 = .ok (.invokevirtual 85, 3) := dk_182 0 85 (dk_at dksJ2_contains_0 2 rfl rfl)
theorem dJ2_contains_5 : decode cJ2_contains 5 = .ok (.ifCond .lt 7, 3) := dk_155 0 7 (dk_at dksJ2_contains_0 5 rfl rfl)
theorem dJ2_contains_8 : decode cJ2_contains 8 = .ok (.iconst 1, 1) := dk_4 (dk_at dksJ2_contains_0 8 rfl rfl)
theorem dJ2_contains_9 : decode cJ2_contains 9 = .ok (.goto 4, 3) := dk_167 0 4 (dk_at dksJ2_contains_0 9 rfl rfl)
theorem dJ2_contains_12 : decode cJ2_contains 12 = .ok (.iconst 0, 1) := dk_3 (dk_at dksJ2_contains_0 12 rfl rfl)
theorem dJ2_contains_13 : decode cJ2_contains 13 = .ok (.ireturn, 1) := dk_172 (dk_at dksJ2_contains_0 13 rfl rfl)
def dkwJ2_indexOf_0 : List UInt8 := [42, 43, 3, 42, 180, 0, 48, 182, 0, 89, 172]
abbrev dktJ2_indexOf_0 : List UInt8 := dkwJ2_indexOf_0 ++ []
theorem dksJ2_indexOf_0 : cJ2_indexOf.data.toList.drop 0 = dktJ2_indexOf_0 := by decide +kernel
theorem dJ2_indexOf_0 : decode cJ2_indexOf 0 = .ok (.aload_n 0, 1) := dk_42 (dk_at dksJ2_indexOf_0 0 rfl rfl)
theorem dJ2_indexOf_1 : decode cJ2_indexOf 1 = .ok (.aload_n 1, 1) := dk_43 (dk_at dksJ2_indexOf_0 1 rfl rfl)
theorem dJ2_indexOf_2 : decode cJ2_indexOf 2 = .ok (.iconst 0, 1) := dk_3 (dk_at dksJ2_indexOf_0 2 rfl rfl)
theorem dJ2_indexOf_3 : decode cJ2_indexOf 3 = .ok (.aload_n 0, 1) := dk_42 (dk_at dksJ2_indexOf_0 3 rfl rfl)
theorem dJ2_indexOf_4 : decode cJ2_indexOf 4 = .ok (.getfield 48, 3) := dk_180 0 48 (dk_at dksJ2_indexOf_0 4 rfl rfl)
theorem dJ2_indexOf_7 : decode cJ2_indexOf 7 = .ok (.invokevirtual 89, 3) := dk_182 0 89 (dk_at dksJ2_indexOf_0 7 rfl rfl)
theorem dJ2_indexOf_10 : decode cJ2_indexOf 10 = .ok (.ireturn, 1) := dk_172 (dk_at dksJ2_indexOf_0 10 rfl rfl)
def dkwJ2_indexOfRange_2 : List UInt8 := [43, 25, 4, 21, 5, 50, 182, 0, 93, 153, 0, 6, 21, 5, 172, 132, 5, 1, 167, 255, 232, 2, 172]
abbrev dktJ2_indexOfRange_2 : List UInt8 := dkwJ2_indexOfRange_2 ++ []
def dkwJ2_indexOfRange_1 : List UInt8 := [199, 0, 6, 21, 5, 172, 132, 5, 1, 167, 255, 236, 167, 0, 33, 28, 54, 5, 21, 5, 29, 162, 0, 24]
abbrev dktJ2_indexOfRange_1 : List UInt8 := dkwJ2_indexOfRange_1 ++ dktJ2_indexOfRange_2
def dkwJ2_indexOfRange_0 : List UInt8 := [42, 180, 0, 9, 58, 4, 43, 199, 0, 32, 28, 54, 5, 21, 5, 29, 162, 0, 20, 25, 4, 21, 5, 50]
abbrev dktJ2_indexOfRange_0 : List UInt8 := dkwJ2_indexOfRange_0 ++ dktJ2_indexOfRange_1
theorem dksJ2_indexOfRange_0 : cJ2_indexOfRange.data.toList.drop 0 = dktJ2_indexOfRange_0 := by decide +kernel
theorem dksJ2_indexOfRange_1 : cJ2_indexOfRange.data.toList.drop 24 = dktJ2_indexOfRange_1 := dk_seg dksJ2_indexOfRange_0 24 rfl rfl
theorem dksJ2_indexOfRange_2 : cJ2_indexOfRange.data.toList.drop 48 = dktJ2_indexOfRange_2 := dk_seg dksJ2_indexOfRange_1 24 rfl rfl
theorem dJ2_indexOfRange_0 : decode cJ2_indexOfRange 0 = .ok (.aload_n 0, 1) := dk_42 (dk_at dksJ2_indexOfRange_0 0 rfl rfl)
theorem dJ2_indexOfRange_1 : decode cJ2_indexOfRange 1 = .ok (.getfield 9, 3) := dk_180 0 9 (dk_at dksJ2_indexOfRange_0 1 rfl rfl)
theorem dJ2_indexOfRange_4 : decode cJ2_indexOfRange 4 = .ok (.astore 4, 2) := dk_58 4 (dk_at dksJ2_indexOfRange_0 4 rfl rfl)
theorem dJ2_indexOfRange_6 : decode cJ2_indexOfRange 6 = .ok (.aload_n 1, 1) := dk_43 (dk_at dksJ2_indexOfRange_0 6 rfl rfl)
theorem dJ2_indexOfRange_7 : decode cJ2_indexOfRange 7 = .ok (.ifnonnull 32, 3) := dk_199 0 32 (dk_at dksJ2_indexOfRange_0 7 rfl rfl)
theorem dJ2_indexOfRange_10 : decode cJ2_indexOfRange 10 = .ok (.iload_n 2, 1) := dk_28 (dk_at dksJ2_indexOfRange_0 10 rfl rfl)
theorem dJ2_indexOfRange_11 : decode cJ2_indexOfRange 11 = .ok (.istore 5, 2) := dk_54 5 (dk_at dksJ2_indexOfRange_0 11 rfl rfl)
theorem dJ2_indexOfRange_13 : decode cJ2_indexOfRange 13 = .ok (.iload 5, 2) := dk_21 5 (dk_at dksJ2_indexOfRange_0 13 rfl rfl)
theorem dJ2_indexOfRange_15 : decode cJ2_indexOfRange 15 = .ok (.iload_n 3, 1) := dk_29 (dk_at dksJ2_indexOfRange_0 15 rfl rfl)
theorem dJ2_indexOfRange_16 : decode cJ2_indexOfRange 16 = .ok (.if_icmp .ge 20, 3) := dk_162 0 20 (dk_at dksJ2_indexOfRange_0 16 rfl rfl)
theorem dJ2_indexOfRange_19 : decode cJ2_indexOfRange 19 = .ok (.aload 4, 2) := dk_25 4 (dk_at dksJ2_indexOfRange_0 19 rfl rfl)
theorem dJ2_indexOfRange_21 : decode cJ2_indexOfRange 21 = .ok (.iload 5, 2) := dk_21 5 (dk_at dksJ2_indexOfRange_0 21 rfl rfl)
theorem dJ2_indexOfRange_23 : decode cJ2_indexOfRange 23 = .ok (.aaload, 1) := dk_50 (dk_at dksJ2_indexOfRange_0 23 rfl rfl)
theorem dJ2_indexOfRange_24 : decode cJ2_indexOfRange 24 = .ok (.ifnonnull 6, 3) := dk_199 0 6 (dk_at dksJ2_indexOfRange_1 0 rfl rfl)
theorem dJ2_indexOfRange_27 : decode cJ2_indexOfRange 27 = .ok (.iload 5, 2) := dk_21 5 (dk_at dksJ2_indexOfRange_1 3 rfl rfl)
theorem dJ2_indexOfRange_29 : decode cJ2_indexOfRange 29 = .ok (.ireturn, 1) := dk_172 (dk_at dksJ2_indexOfRange_1 5 rfl rfl)
theorem dJ2_indexOfRange_30 : decode cJ2_indexOfRange 30 = .ok (.iinc 5 1, 3) := dk_132 5 1 (dk_at dksJ2_indexOfRange_1 6 rfl rfl)
theorem dJ2_indexOfRange_33 : decode cJ2_indexOfRange 33 = .ok (.goto (-20), 3) := dk_167 255 236 (dk_at dksJ2_indexOfRange_1 9 rfl rfl)
theorem dJ2_indexOfRange_36 : decode cJ2_indexOfRange 36 = .ok (.goto 33, 3) := dk_167 0 33 (dk_at dksJ2_indexOfRange_1 12 rfl rfl)
theorem dJ2_indexOfRange_39 : decode cJ2_indexOfRange 39 = .ok (.iload_n 2, 1) := dk_28 (dk_at dksJ2_indexOfRange_1 15 rfl rfl)
theorem dJ2_indexOfRange_40 : decode cJ2_indexOfRange 40 = .ok (.istore 5, 2) := dk_54 5 (dk_at dksJ2_indexOfRange_1 16 rfl rfl)
theorem dJ2_indexOfRange_42 : decode cJ2_indexOfRange 42 = .ok (.iload 5, 2) := dk_21 5 (dk_at dksJ2_indexOfRange_1 18 rfl rfl)
theorem dJ2_indexOfRange_44 : decode cJ2_indexOfRange 44 = .ok (.iload_n 3, 1) := dk_29 (dk_at dksJ2_indexOfRange_1 20 rfl rfl)
theorem dJ2_indexOfRange_45 : decode cJ2_indexOfRange 45 = .ok (.if_icmp .ge 24, 3) := dk_162 0 24 (dk_at dksJ2_indexOfRange_1 21 rfl rfl)
theorem dJ2_indexOfRange_48 : decode cJ2_indexOfRange 48 = .ok (.aload_n 1, 1) := dk_43 (dk_at dksJ2_indexOfRange_2 0 rfl rfl)
theorem dJ2_indexOfRange_49 : decode cJ2_indexOfRange 49 = .ok (.aload 4, 2) := dk_25 4 (dk_at dksJ2_indexOfRange_2 1 rfl rfl)
theorem dJ2_indexOfRange_51 : decode cJ2_indexOfRange 51 = .ok (.iload 5, 2) := dk_21 5 (dk_at dksJ2_indexOfRange_2 3 rfl rfl)
theorem dJ2_indexOfRange_53 : decode cJ2_indexOfRange 53 = .ok (.aaload, 1) := dk_50 (dk_at dksJ2_indexOfRange_2 5 rfl rfl)
theorem dJ2_indexOfRange_54 : decode cJ2_indexOfRange 54 = .ok (.invokevirtual 93, 3) := dk_182 0 93 (dk_at dksJ2_indexOfRange_2 6 rfl rfl)
theorem dJ2_indexOfRange_57 : decode cJ2_indexOfRange 57 = .ok (.ifCond .eq 6, 3) := dk_153 0 6 (dk_at dksJ2_indexOfRange_2 9 rfl rfl)
theorem dJ2_indexOfRange_60 : decode cJ2_indexOfRange 60 = .ok (.iload 5, 2) := dk_21 5 (dk_at dksJ2_indexOfRange_2 12 rfl rfl)
theorem dJ2_indexOfRange_62 : decode cJ2_indexOfRange 62 = .ok (.ireturn, 1) := dk_172 (dk_at dksJ2_indexOfRange_2 14 rfl rfl)
theorem dJ2_indexOfRange_63 : decode cJ2_indexOfRange 63 = .ok (.iinc 5 1, 3) := dk_132 5 1 (dk_at dksJ2_indexOfRange_2 15 rfl rfl)
theorem dJ2_indexOfRange_66 : decode cJ2_indexOfRange 66 = .ok (.goto (-24), 3) := dk_167 255 232 (dk_at dksJ2_indexOfRange_2 18 rfl rfl)
theorem dJ2_indexOfRange_69 : decode cJ2_indexOfRange 69 = .ok (.iconst (-1), 1) := dk_2 (dk_at dksJ2_indexOfRange_2 21 rfl rfl)
theorem dJ2_indexOfRange_70 : decode cJ2_indexOfRange 70 = .ok (.ireturn, 1) := dk_172 (dk_at dksJ2_indexOfRange_2 22 rfl rfl)
def dkwJ2_add_1 : List UInt8 := [172]
abbrev dktJ2_add_1 : List UInt8 := dkwJ2_add_1 ++ []
def dkwJ2_add_0 : List UInt8 := [42, 89, 180, 0, 63, 4, 96, 181, 0, 63, 42, 43, 42, 180, 0, 9, 42, 180, 0, 48, 182, 0, 131, 4]
abbrev dktJ2_add_0 : List UInt8 := dkwJ2_add_0 ++ dktJ2_add_1
theorem dksJ2_add_0 : cJ2_add.data.toList.drop 0 = dktJ2_add_0 := by decide +kernel
theorem dksJ2_add_1 : cJ2_add.data.toList.drop 24 = dktJ2_add_1 := dk_seg dksJ2_add_0 24 rfl rfl
theorem dJ2_add_0 : decode cJ2_add 0 = .ok (.aload_n 0, 1) := dk_42 (dk_at dksJ2_add_0 0 rfl rfl)
theorem dJ2_add_1 : decode cJ2_add 1 = .ok (.dup, 1) := dk_89 (dk_at dksJ2_add_0 1 rfl rfl)
theorem dJ2_add_2 : decode cJ2_add 2 = .ok (.getfield 63, 3) := dk_180 0 63 (dk_at dksJ2_add_0 2 rfl rfl)
theorem dJ2_add_5 : decode cJ2_add 5 = .ok (.iconst 1, 1) := dk_4 (dk_at dksJ2_add_0 5 rfl rfl)
theorem dJ2_add_6 : decode cJ2_add 6 = .ok (.iadd, 1) := dk_96 (dk_at dksJ2_add_0 6 rfl rfl)
theorem dJ2_add_7 : decode cJ2_add 7 = .ok (.putfield 63, 3) := dk_181 0 63 (dk_at dksJ2_add_0 7 rfl rfl)
theorem dJ2_add_10 : decode cJ2_add 10 = .ok (.aload_n 0, 1) := dk_42 (dk_at dksJ2_add_0 10 rfl rfl)
theorem dJ2_add_11 : decode cJ2_add 11 = .ok (.aload_n 1, 1) := dk_43 (dk_at dksJ2_add_0 11 rfl rfl)
theorem dJ2_add_12 : decode cJ2_add 12 = .ok (.aload_n 0, 1) := dk_42 (dk_at dksJ2_add_0 12 rfl rfl)
theorem dJ2_add_13 : decode cJ2_add 13 = .ok (.getfield 9, 3) := dk_180 0 9 (dk_at dksJ2_add_0 13 rfl rfl)
theorem dJ2_add_16 : decode cJ2_add 16 = .ok (.aload_n 0, 1) := dk_42 (dk_at dksJ2_add_0 16 rfl rfl)
theorem dJ2_add_17 : decode cJ2_add 17 = .ok (.getfield 48, 3) := dk_180 0 48 (dk_at dksJ2_add_0 17 rfl rfl)
theorem dJ2_add_20 : decode cJ2_add 20 = .ok (.invokevirtual 131, 3) := dk_182 0 131 (dk_at dksJ2_add_0 20 rfl rfl)
theorem dJ2_add_23 : decode cJ2_add 23 = .ok (.iconst 1, 1) := dk_4 (dk_at dksJ2_add_0 23 rfl rfl)
theorem dJ2_add_24 : decode cJ2_add 24 = .ok (.ireturn, 1) := dk_172 (dk_at dksJ2_add_1 0 rfl rfl)
def dkwJ2_add_2_0 : List UInt8 := [29, 44, 190, 160, 0, 8, 42, 182, 0, 129, 77, 44, 29, 43, 83, 42, 29, 4, 96, 181, 0, 48, 177]
abbrev dktJ2_add_2_0 : List UInt8 := dkwJ2_add_2_0 ++ []
theorem dksJ2_add_2_0 : cJ2_add_2.data.toList.drop 0 = dktJ2_add_2_0 := by decide +kernel
theorem dJ2_add_2_0 : decode cJ2_add_2 0 = .ok (.iload_n 3, 1) := dk_29 (dk_at dksJ2_add_2_0 0 rfl rfl)
theorem dJ2_add_2_1 : decode cJ2_add_2 1 = .ok (.aload_n 2, 1) := dk_44 (dk_at dksJ2_add_2_0 1 rfl rfl)
theorem dJ2_add_2_2 : decode cJ2_add_2 2 = .ok (.arraylength, 1) := dk_190 (dk_at dksJ2_add_2_0 2 rfl rfl)
theorem dJ2_add_2_3 : decode cJ2_add_2 3 = .ok (.if_icmp .ne 8, 3) := dk_160 0 8 (dk_at dksJ2_add_2_0 3 rfl rfl)
theorem dJ2_add_2_6 : decode cJ2_add_2 6 = .ok (.aload_n 0, 1) := dk_42 (dk_at dksJ2_add_2_0 6 rfl rfl)
theorem dJ2_add_2_7 : decode cJ2_add_2 7 = .ok (.invokevirtual 129, 3) := dk_182 0 129 (dk_at dksJ2_add_2_0 7 rfl rfl)
theorem dJ2_add_2_10 : decode cJ2_add_2 10 = .ok (.astore_n 2, 1) := dk_77 (dk_at dksJ2_add_2_0 10 rfl rfl)
theorem dJ2_add_2_11 : decode cJ2_add_2 11 = .ok (.aload_n 2, 1) := dk_44 (dk_at dksJ2_add_2_0 11 rfl rfl)
theorem dJ2_add_2_12 : decode cJ2_add_2 12 = .ok (.iload_n 3, 1) := dk_29 (dk_at dksJ2_add_2_0 12 rfl rfl)
theorem dJ2_add_2_13 : decode cJ2_add_2 13 = .ok (.aload_n 1, 1) := dk_43 (dk_at dksJ2_add_2_0 13 rfl rfl)
theorem dJ2_add_2_14 : decode cJ2_add_2 14 = .ok (.aastore, 1) := dk_83 (dk_at dksJ2_add_2_0 14 rfl rfl)
theorem dJ2_add_2_15 : decode cJ2_add_2 15 = .ok (.aload_n 0, 1) := dk_42 (dk_at dksJ2_add_2_0 15 rfl rfl)
theorem dJ2_add_2_16 : decode cJ2_add_2 16 = .ok (.iload_n 3, 1) := dk_29 (dk_at dksJ2_add_2_0 16 rfl rfl)
theorem dJ2_add_2_17 : decode cJ2_add_2 17 = .ok (.iconst 1, 1) := dk_4 (dk_at dksJ2_add_2_0 17 rfl rfl)
theorem dJ2_add_2_18 : decode cJ2_add_2 18 = .ok (.iadd, 1) := dk_96 (dk_at dksJ2_add_2_0 18 rfl rfl)
theorem dJ2_add_2_19 : decode cJ2_add_2 19 = .ok (.putfield 48, 3) := dk_181 0 48 (dk_at dksJ2_add_2_0 19 rfl rfl)
theorem dJ2_add_2_22 : decode cJ2_add_2 22 = .ok (.return_, 1) := dk_177 (dk_at dksJ2_add_2_0 22 rfl rfl)
def dkwJ2_grow_0 : List UInt8 := [42, 42, 180, 0, 48, 4, 96, 182, 0, 69, 176]
abbrev dktJ2_grow_0 : List UInt8 := dkwJ2_grow_0 ++ []
theorem dksJ2_grow_0 : cJ2_grow.data.toList.drop 0 = dktJ2_grow_0 := by decide +kernel
theorem dJ2_grow_0 : decode cJ2_grow 0 = .ok (.aload_n 0, 1) := dk_42 (dk_at dksJ2_grow_0 0 rfl rfl)
theorem dJ2_grow_1 : decode cJ2_grow 1 = .ok (.aload_n 0, 1) := dk_42 (dk_at dksJ2_grow_0 1 rfl rfl)
theorem dJ2_grow_2 : decode cJ2_grow 2 = .ok (.getfield 48, 3) := dk_180 0 48 (dk_at dksJ2_grow_0 2 rfl rfl)
theorem dJ2_grow_5 : decode cJ2_grow 5 = .ok (.iconst 1, 1) := dk_4 (dk_at dksJ2_grow_0 5 rfl rfl)
theorem dJ2_grow_6 : decode cJ2_grow 6 = .ok (.iadd, 1) := dk_96 (dk_at dksJ2_grow_0 6 rfl rfl)
theorem dJ2_grow_7 : decode cJ2_grow 7 = .ok (.invokevirtual 69, 3) := dk_182 0 69 (dk_at dksJ2_grow_0 7 rfl rfl)
theorem dJ2_grow_10 : decode cJ2_grow 10 = .ok (.areturn, 1) := dk_176 (dk_at dksJ2_grow_0 10 rfl rfl)
def dkwJ2_grow_2_2 : List UInt8 := [27, 184, 0, 79, 189, 0, 7, 90, 181, 0, 9, 176]
abbrev dktJ2_grow_2_2 : List UInt8 := dkwJ2_grow_2_2 ++ []
def dkwJ2_grow_2_1 : List UInt8 := [28, 4, 122, 184, 0, 73, 62, 42, 42, 180, 0, 9, 29, 184, 0, 66, 90, 181, 0, 9, 176, 42, 16, 10]
abbrev dktJ2_grow_2_1 : List UInt8 := dkwJ2_grow_2_1 ++ dktJ2_grow_2_2
def dkwJ2_grow_2_0 : List UInt8 := [42, 180, 0, 9, 190, 61, 28, 157, 0, 13, 42, 180, 0, 9, 178, 0, 39, 165, 0, 28, 28, 27, 28, 100]
abbrev dktJ2_grow_2_0 : List UInt8 := dkwJ2_grow_2_0 ++ dktJ2_grow_2_1
theorem dksJ2_grow_2_0 : cJ2_grow_2.data.toList.drop 0 = dktJ2_grow_2_0 := by decide +kernel
theorem dksJ2_grow_2_1 : cJ2_grow_2.data.toList.drop 24 = dktJ2_grow_2_1 := dk_seg dksJ2_grow_2_0 24 rfl rfl
theorem dksJ2_grow_2_2 : cJ2_grow_2.data.toList.drop 48 = dktJ2_grow_2_2 := dk_seg dksJ2_grow_2_1 24 rfl rfl
theorem dJ2_grow_2_0 : decode cJ2_grow_2 0 = .ok (.aload_n 0, 1) := dk_42 (dk_at dksJ2_grow_2_0 0 rfl rfl)
theorem dJ2_grow_2_1 : decode cJ2_grow_2 1 = .ok (.getfield 9, 3) := dk_180 0 9 (dk_at dksJ2_grow_2_0 1 rfl rfl)
theorem dJ2_grow_2_4 : decode cJ2_grow_2 4 = .ok (.arraylength, 1) := dk_190 (dk_at dksJ2_grow_2_0 4 rfl rfl)
theorem dJ2_grow_2_5 : decode cJ2_grow_2 5 = .ok (.istore_n 2, 1) := dk_61 (dk_at dksJ2_grow_2_0 5 rfl rfl)
theorem dJ2_grow_2_6 : decode cJ2_grow_2 6 = .ok (.iload_n 2, 1) := dk_28 (dk_at dksJ2_grow_2_0 6 rfl rfl)
theorem dJ2_grow_2_7 : decode cJ2_grow_2 7 = .ok (.ifCond .gt 13, 3) := dk_157 0 13 (dk_at dksJ2_grow_2_0 7 rfl rfl)
theorem dJ2_grow_2_10 : decode cJ2_grow_2 10 = .ok (.aload_n 0, 1) := dk_42 (dk_at dksJ2_grow_2_0 10 rfl rfl)
theorem dJ2_grow_2_11 : decode cJ2_grow_2 11 = .ok (.getfield 9, 3) := dk_180 0 9 (dk_at dksJ2_grow_2_0 11 rfl rfl)
theorem dJ2_grow_2_14 : decode cJ2_grow_2 14 = .ok (.getstatic 39, 3) := dk_178 0 39 (dk_at dksJ2_grow_2_0 14 rfl rfl)
theorem dJ2_grow_2_17 : decode cJ2_grow_2 17 = .ok (.if_acmp .eq 28, 3) := dk_165 0 28 (dk_at dksJ2_grow_2_0 17 rfl rfl)
theorem dJ2_grow_2_20 : decode cJ2_grow_2 20 = .ok (.iload_n 2, 1) := dk_28 (dk_at dksJ2_grow_2_0 20 rfl rfl)
theorem dJ2_grow_2_21 : decode cJ2_grow_2 21 = .ok (.iload_n 1, 1) := dk_27 (dk_at dksJ2_grow_2_0 21 rfl rfl)
theorem dJ2_grow_2_22 : decode cJ2_grow_2 22 = .ok (.iload_n 2, 1) := dk_28 (dk_at dksJ2_grow_2_0 22 rfl rfl)
theorem dJ2_grow_2_23 : decode cJ2_grow_2 23 = .ok (.isub, 1) := dk_100 (dk_at dksJ2_grow_2_0 23 rfl rfl)
theorem dJ2_grow_2_24 : decode cJ2_grow_2 24 = .ok (.iload_n 2, 1) := dk_28 (dk_at dksJ2_grow_2_1 0 rfl rfl)
theorem dJ2_grow_2_25 : decode cJ2_grow_2 25 = .ok (.iconst 1, 1) := dk_4 (dk_at dksJ2_grow_2_1 1 rfl rfl)
theorem dJ2_grow_2_26 : decode cJ2_grow_2 26 = .ok (.ishr, 1) := dk_122 (dk_at dksJ2_grow_2_1 2 rfl rfl)
theorem dJ2_grow_2_27 : decode cJ2_grow_2 27 = .ok (.invokestatic 73, 3) := dk_184 0 73 (dk_at dksJ2_grow_2_1 3 rfl rfl)
theorem dJ2_grow_2_30 : decode cJ2_grow_2 30 = .ok (.istore_n 3, 1) := dk_62 (dk_at dksJ2_grow_2_1 6 rfl rfl)
theorem dJ2_grow_2_31 : decode cJ2_grow_2 31 = .ok (.aload_n 0, 1) := dk_42 (dk_at dksJ2_grow_2_1 7 rfl rfl)
theorem dJ2_grow_2_32 : decode cJ2_grow_2 32 = .ok (.aload_n 0, 1) := dk_42 (dk_at dksJ2_grow_2_1 8 rfl rfl)
theorem dJ2_grow_2_33 : decode cJ2_grow_2 33 = .ok (.getfield 9, 3) := dk_180 0 9 (dk_at dksJ2_grow_2_1 9 rfl rfl)
theorem dJ2_grow_2_36 : decode cJ2_grow_2 36 = .ok (.iload_n 3, 1) := dk_29 (dk_at dksJ2_grow_2_1 12 rfl rfl)
theorem dJ2_grow_2_37 : decode cJ2_grow_2 37 = .ok (.invokestatic 66, 3) := dk_184 0 66 (dk_at dksJ2_grow_2_1 13 rfl rfl)
theorem dJ2_grow_2_40 : decode cJ2_grow_2 40 = .ok (.dup_x1, 1) := dk_90 (dk_at dksJ2_grow_2_1 16 rfl rfl)
theorem dJ2_grow_2_41 : decode cJ2_grow_2 41 = .ok (.putfield 9, 3) := dk_181 0 9 (dk_at dksJ2_grow_2_1 17 rfl rfl)
theorem dJ2_grow_2_44 : decode cJ2_grow_2 44 = .ok (.areturn, 1) := dk_176 (dk_at dksJ2_grow_2_1 20 rfl rfl)
theorem dJ2_grow_2_45 : decode cJ2_grow_2 45 = .ok (.aload_n 0, 1) := dk_42 (dk_at dksJ2_grow_2_1 21 rfl rfl)
theorem dJ2_grow_2_46 : decode cJ2_grow_2 46 = .ok (.bipush 10, 2) := dk_16 10 (dk_at dksJ2_grow_2_1 22 rfl rfl)
theorem dJ2_grow_2_48 : decode cJ2_grow_2 48 = .ok (.iload_n 1, 1) := dk_27 (dk_at dksJ2_grow_2_2 0 rfl rfl)
theorem dJ2_grow_2_49 : decode cJ2_grow_2 49 = .ok (.invokestatic 79, 3) := dk_184 0 79 (dk_at dksJ2_grow_2_2 1 rfl rfl)
theorem dJ2_grow_2_52 : decode cJ2_grow_2 52 = .ok (.anewarray 7, 3) := dk_189 0 7 (dk_at dksJ2_grow_2_2 4 rfl rfl)
theorem dJ2_grow_2_55 : decode cJ2_grow_2 55 = .ok (.dup_x1, 1) := dk_90 (dk_at dksJ2_grow_2_2 7 rfl rfl)
theorem dJ2_grow_2_56 : decode cJ2_grow_2 56 = .ok (.putfield 9, 3) := dk_181 0 9 (dk_at dksJ2_grow_2_2 8 rfl rfl)
theorem dJ2_grow_2_59 : decode cJ2_grow_2 59 = .ok (.areturn, 1) := dk_176 (dk_at dksJ2_grow_2_2 11 rfl rfl)
def dkwJ2_get_0 : List UInt8 := [27, 42, 180, 0, 48, 184, 0, 118, 87, 42, 27, 182, 0, 123, 176]
abbrev dktJ2_get_0 : List UInt8 := dkwJ2_get_0 ++ []
theorem dksJ2_get_0 : cJ2_get.data.toList.drop 0 = dktJ2_get_0 := by decide +kernel
theorem dJ2_get_0 : decode cJ2_get 0 = .ok (.iload_n 1, 1) := dk_27 (dk_at dksJ2_get_0 0 rfl rfl)
theorem dJ2_get_1 : decode cJ2_get 1 = .ok (.aload_n 0, 1) := dk_42 (dk_at dksJ2_get_0 1 rfl rfl)
theorem dJ2_get_2 : decode cJ2_get 2 = .ok (.getfield 48, 3) := dk_180 0 48 (dk_at dksJ2_get_0 2 rfl rfl)
theorem dJ2_get_5 : decode cJ2_get 5 = .ok (.invokestatic 118, 3) := dk_184 0 118 (dk_at dksJ2_get_0 5 rfl rfl)
theorem dJ2_get_8 : decode cJ2_get 8 = .ok (.pop, 1) := dk_87 (dk_at dksJ2_get_0 8 rfl rfl)
theorem dJ2_get_9 : decode cJ2_get 9 = .ok (.aload_n 0, 1) := dk_42 (dk_at dksJ2_get_0 9 rfl rfl)
theorem dJ2_get_10 : decode cJ2_get 10 = .ok (.iload_n 1, 1) := dk_27 (dk_at dksJ2_get_0 10 rfl rfl)
theorem dJ2_get_11 : decode cJ2_get 11 = .ok (.invokevirtual 123, 3) := dk_182 0 123 (dk_at dksJ2_get_0 11 rfl rfl)
theorem dJ2_get_14 : decode cJ2_get 14 = .ok (.areturn, 1) := dk_176 (dk_at dksJ2_get_0 14 rfl rfl)
def dkwJ2_elementData_0 : List UInt8 := [42, 180, 0, 9, 27, 50, 176]
abbrev dktJ2_elementData_0 : List UInt8 := dkwJ2_elementData_0 ++ []
theorem dksJ2_elementData_0 : cJ2_elementData.data.toList.drop 0 = dktJ2_elementData_0 := by decide +kernel
theorem dJ2_elementData_0 : decode cJ2_elementData 0 = .ok (.aload_n 0, 1) := dk_42 (dk_at dksJ2_elementData_0 0 rfl rfl)
theorem dJ2_elementData_1 : decode cJ2_elementData 1 = .ok (.getfield 9, 3) := dk_180 0 9 (dk_at dksJ2_elementData_0 1 rfl rfl)
theorem dJ2_elementData_4 : decode cJ2_elementData 4 = .ok (.iload_n 1, 1) := dk_27 (dk_at dksJ2_elementData_0 4 rfl rfl)
theorem dJ2_elementData_5 : decode cJ2_elementData 5 = .ok (.aaload, 1) := dk_50 (dk_at dksJ2_elementData_0 5 rfl rfl)
theorem dJ2_elementData_6 : decode cJ2_elementData 6 = .ok (.areturn, 1) := dk_176 (dk_at dksJ2_elementData_0 6 rfl rfl)
def dkwJ2_iterator_0 : List UInt8 := [187, 1, 11, 89, 42, 183, 1, 13, 176]
abbrev dktJ2_iterator_0 : List UInt8 := dkwJ2_iterator_0 ++ []
theorem dksJ2_iterator_0 : cJ2_iterator.data.toList.drop 0 = dktJ2_iterator_0 := by decide +kernel
theorem dJ2_iterator_0 : decode cJ2_iterator 0 = .ok (.new 267, 3) := dk_187 1 11 (dk_at dksJ2_iterator_0 0 rfl rfl)
theorem dJ2_iterator_3 : decode cJ2_iterator 3 = .ok (.dup, 1) := dk_89 (dk_at dksJ2_iterator_0 3 rfl rfl)
theorem dJ2_iterator_4 : decode cJ2_iterator 4 = .ok (.aload_n 0, 1) := dk_42 (dk_at dksJ2_iterator_0 4 rfl rfl)
theorem dJ2_iterator_5 : decode cJ2_iterator 5 = .ok (.invokespecial 269, 3) := dk_183 1 13 (dk_at dksJ2_iterator_0 5 rfl rfl)
theorem dJ2_iterator_8 : decode cJ2_iterator 8 = .ok (.areturn, 1) := dk_176 (dk_at dksJ2_iterator_0 8 rfl rfl)
def dkwJ2_isEmpty_0 : List UInt8 := [42, 180, 0, 48, 154, 0, 7, 4, 167, 0, 4, 3, 172]
abbrev dktJ2_isEmpty_0 : List UInt8 := dkwJ2_isEmpty_0 ++ []
theorem dksJ2_isEmpty_0 : cJ2_isEmpty.data.toList.drop 0 = dktJ2_isEmpty_0 := by decide +kernel
theorem dJ2_isEmpty_0 : decode cJ2_isEmpty 0 = .ok (.aload_n 0, 1) := dk_42 (dk_at dksJ2_isEmpty_0 0 rfl rfl)
theorem dJ2_isEmpty_1 : decode cJ2_isEmpty 1 = .ok (.getfield 48, 3) := dk_180 0 48 (dk_at dksJ2_isEmpty_0 1 rfl rfl)
theorem dJ2_isEmpty_4 : decode cJ2_isEmpty 4 = .ok (.ifCond .ne 7, 3) := dk_154 0 7 (dk_at dksJ2_isEmpty_0 4 rfl rfl)
theorem dJ2_isEmpty_7 : decode cJ2_isEmpty 7 = .ok (.iconst 1, 1) := dk_4 (dk_at dksJ2_isEmpty_0 7 rfl rfl)
theorem dJ2_isEmpty_8 : decode cJ2_isEmpty 8 = .ok (.goto 4, 3) := dk_167 0 4 (dk_at dksJ2_isEmpty_0 8 rfl rfl)
theorem dJ2_isEmpty_11 : decode cJ2_isEmpty 11 = .ok (.iconst 0, 1) := dk_3 (dk_at dksJ2_isEmpty_0 11 rfl rfl)
theorem dJ2_isEmpty_12 : decode cJ2_isEmpty 12 = .ok (.ireturn, 1) := dk_172 (dk_at dksJ2_isEmpty_0 12 rfl rfl)
def dkwJ2_clear_1 : List UInt8 := [181, 0, 48, 62, 29, 28, 162, 0, 13, 43, 29, 1, 83, 132, 3, 1, 167, 255, 244, 177]
abbrev dktJ2_clear_1 : List UInt8 := dkwJ2_clear_1 ++ []
def dkwJ2_clear_0 : List UInt8 := [42, 89, 180, 0, 63, 4, 96, 181, 0, 63, 42, 180, 0, 9, 76, 42, 180, 0, 48, 61, 42, 3, 90]
abbrev dktJ2_clear_0 : List UInt8 := dkwJ2_clear_0 ++ dktJ2_clear_1
theorem dksJ2_clear_0 : cJ2_clear.data.toList.drop 0 = dktJ2_clear_0 := by decide +kernel
theorem dksJ2_clear_1 : cJ2_clear.data.toList.drop 23 = dktJ2_clear_1 := dk_seg dksJ2_clear_0 23 rfl rfl
theorem dJ2_clear_0 : decode cJ2_clear 0 = .ok (.aload_n 0, 1) := dk_42 (dk_at dksJ2_clear_0 0 rfl rfl)
theorem dJ2_clear_1 : decode cJ2_clear 1 = .ok (.dup, 1) := dk_89 (dk_at dksJ2_clear_0 1 rfl rfl)
theorem dJ2_clear_2 : decode cJ2_clear 2 = .ok (.getfield 63, 3) := dk_180 0 63 (dk_at dksJ2_clear_0 2 rfl rfl)
theorem dJ2_clear_5 : decode cJ2_clear 5 = .ok (.iconst 1, 1) := dk_4 (dk_at dksJ2_clear_0 5 rfl rfl)
theorem dJ2_clear_6 : decode cJ2_clear 6 = .ok (.iadd, 1) := dk_96 (dk_at dksJ2_clear_0 6 rfl rfl)
theorem dJ2_clear_7 : decode cJ2_clear 7 = .ok (.putfield 63, 3) := dk_181 0 63 (dk_at dksJ2_clear_0 7 rfl rfl)
theorem dJ2_clear_10 : decode cJ2_clear 10 = .ok (.aload_n 0, 1) := dk_42 (dk_at dksJ2_clear_0 10 rfl rfl)
theorem dJ2_clear_11 : decode cJ2_clear 11 = .ok (.getfield 9, 3) := dk_180 0 9 (dk_at dksJ2_clear_0 11 rfl rfl)
theorem dJ2_clear_14 : decode cJ2_clear 14 = .ok (.astore_n 1, 1) := dk_76 (dk_at dksJ2_clear_0 14 rfl rfl)
theorem dJ2_clear_15 : decode cJ2_clear 15 = .ok (.aload_n 0, 1) := dk_42 (dk_at dksJ2_clear_0 15 rfl rfl)
theorem dJ2_clear_16 : decode cJ2_clear 16 = .ok (.getfield 48, 3) := dk_180 0 48 (dk_at dksJ2_clear_0 16 rfl rfl)
theorem dJ2_clear_19 : decode cJ2_clear 19 = .ok (.istore_n 2, 1) := dk_61 (dk_at dksJ2_clear_0 19 rfl rfl)
theorem dJ2_clear_20 : decode cJ2_clear 20 = .ok (.aload_n 0, 1) := dk_42 (dk_at dksJ2_clear_0 20 rfl rfl)
theorem dJ2_clear_21 : decode cJ2_clear 21 = .ok (.iconst 0, 1) := dk_3 (dk_at dksJ2_clear_0 21 rfl rfl)
theorem dJ2_clear_22 : decode cJ2_clear 22 = .ok (.dup_x1, 1) := dk_90 (dk_at dksJ2_clear_0 22 rfl rfl)
theorem dJ2_clear_23 : decode cJ2_clear 23 = .ok (.putfield 48, 3) := dk_181 0 48 (dk_at dksJ2_clear_1 0 rfl rfl)
theorem dJ2_clear_26 : decode cJ2_clear 26 = .ok (.istore_n 3, 1) := dk_62 (dk_at dksJ2_clear_1 3 rfl rfl)
theorem dJ2_clear_27 : decode cJ2_clear 27 = .ok (.iload_n 3, 1) := dk_29 (dk_at dksJ2_clear_1 4 rfl rfl)
theorem dJ2_clear_28 : decode cJ2_clear 28 = .ok (.iload_n 2, 1) := dk_28 (dk_at dksJ2_clear_1 5 rfl rfl)
theorem dJ2_clear_29 : decode cJ2_clear 29 = .ok (.if_icmp .ge 13, 3) := dk_162 0 13 (dk_at dksJ2_clear_1 6 rfl rfl)
theorem dJ2_clear_32 : decode cJ2_clear 32 = .ok (.aload_n 1, 1) := dk_43 (dk_at dksJ2_clear_1 9 rfl rfl)
theorem dJ2_clear_33 : decode cJ2_clear 33 = .ok (.iload_n 3, 1) := dk_29 (dk_at dksJ2_clear_1 10 rfl rfl)
theorem dJ2_clear_34 : decode cJ2_clear 34 = .ok (.aconst_null, 1) := dk_1 (dk_at dksJ2_clear_1 11 rfl rfl)
theorem dJ2_clear_35 : decode cJ2_clear 35 = .ok (.aastore, 1) := dk_83 (dk_at dksJ2_clear_1 12 rfl rfl)
theorem dJ2_clear_36 : decode cJ2_clear 36 = .ok (.iinc 3 1, 3) := dk_132 3 1 (dk_at dksJ2_clear_1 13 rfl rfl)
theorem dJ2_clear_39 : decode cJ2_clear 39 = .ok (.goto (-12), 3) := dk_167 255 244 (dk_at dksJ2_clear_1 16 rfl rfl)
theorem dJ2_clear_42 : decode cJ2_clear 42 = .ok (.return_, 1) := dk_177 (dk_at dksJ2_clear_1 19 rfl rfl)
def dkwJ2_init_2_2 : List UInt8 := [182, 0, 25, 27, 182, 0, 29, 182, 0, 32, 183, 0, 36, 191, 177]
abbrev dktJ2_init_2_2 : List UInt8 := dkwJ2_init_2_2 ++ []
def dkwJ2_init_2_1 : List UInt8 := [178, 0, 15, 181, 0, 9, 167, 0, 30, 187, 0, 18, 89, 187, 0, 20, 89, 183, 0, 22, 18, 23]
abbrev dktJ2_init_2_1 : List UInt8 := dkwJ2_init_2_1 ++ dktJ2_init_2_2
def dkwJ2_init_2_0 : List UInt8 := [42, 183, 0, 1, 27, 158, 0, 14, 42, 27, 189, 0, 7, 181, 0, 9, 167, 0, 44, 27, 154, 0, 13, 42]
abbrev dktJ2_init_2_0 : List UInt8 := dkwJ2_init_2_0 ++ dktJ2_init_2_1
theorem dksJ2_init_2_0 : cJ2_init_2.data.toList.drop 0 = dktJ2_init_2_0 := by decide +kernel
theorem dksJ2_init_2_1 : cJ2_init_2.data.toList.drop 24 = dktJ2_init_2_1 := dk_seg dksJ2_init_2_0 24 rfl rfl
theorem dksJ2_init_2_2 : cJ2_init_2.data.toList.drop 46 = dktJ2_init_2_2 := dk_seg dksJ2_init_2_1 22 rfl rfl
theorem dJ2_init_2_0 : decode cJ2_init_2 0 = .ok (.aload_n 0, 1) := dk_42 (dk_at dksJ2_init_2_0 0 rfl rfl)
theorem dJ2_init_2_1 : decode cJ2_init_2 1 = .ok (.invokespecial 1, 3) := dk_183 0 1 (dk_at dksJ2_init_2_0 1 rfl rfl)
theorem dJ2_init_2_4 : decode cJ2_init_2 4 = .ok (.iload_n 1, 1) := dk_27 (dk_at dksJ2_init_2_0 4 rfl rfl)
theorem dJ2_init_2_5 : decode cJ2_init_2 5 = .ok (.ifCond .le 14, 3) := dk_158 0 14 (dk_at dksJ2_init_2_0 5 rfl rfl)
theorem dJ2_init_2_8 : decode cJ2_init_2 8 = .ok (.aload_n 0, 1) := dk_42 (dk_at dksJ2_init_2_0 8 rfl rfl)
theorem dJ2_init_2_9 : decode cJ2_init_2 9 = .ok (.iload_n 1, 1) := dk_27 (dk_at dksJ2_init_2_0 9 rfl rfl)
theorem dJ2_init_2_10 : decode cJ2_init_2 10 = .ok (.anewarray 7, 3) := dk_189 0 7 (dk_at dksJ2_init_2_0 10 rfl rfl)
theorem dJ2_init_2_13 : decode cJ2_init_2 13 = .ok (.putfield 9, 3) := dk_181 0 9 (dk_at dksJ2_init_2_0 13 rfl rfl)
theorem dJ2_init_2_16 : decode cJ2_init_2 16 = .ok (.goto 44, 3) := dk_167 0 44 (dk_at dksJ2_init_2_0 16 rfl rfl)
theorem dJ2_init_2_19 : decode cJ2_init_2 19 = .ok (.iload_n 1, 1) := dk_27 (dk_at dksJ2_init_2_0 19 rfl rfl)
theorem dJ2_init_2_20 : decode cJ2_init_2 20 = .ok (.ifCond .ne 13, 3) := dk_154 0 13 (dk_at dksJ2_init_2_0 20 rfl rfl)
theorem dJ2_init_2_23 : decode cJ2_init_2 23 = .ok (.aload_n 0, 1) := dk_42 (dk_at dksJ2_init_2_0 23 rfl rfl)
theorem dJ2_init_2_24 : decode cJ2_init_2 24 = .ok (.getstatic 15, 3) := dk_178 0 15 (dk_at dksJ2_init_2_1 0 rfl rfl)
theorem dJ2_init_2_27 : decode cJ2_init_2 27 = .ok (.putfield 9, 3) := dk_181 0 9 (dk_at dksJ2_init_2_1 3 rfl rfl)
theorem dJ2_init_2_30 : decode cJ2_init_2 30 = .ok (.goto 30, 3) := dk_167 0 30 (dk_at dksJ2_init_2_1 6 rfl rfl)
theorem dJ2_init_2_33 : decode cJ2_init_2 33 = .ok (.new 18, 3) := dk_187 0 18 (dk_at dksJ2_init_2_1 9 rfl rfl)
theorem dJ2_init_2_36 : decode cJ2_init_2 36 = .ok (.dup, 1) := dk_89 (dk_at dksJ2_init_2_1 12 rfl rfl)
theorem dJ2_init_2_37 : decode cJ2_init_2 37 = .ok (.new 20, 3) := dk_187 0 20 (dk_at dksJ2_init_2_1 13 rfl rfl)
theorem dJ2_init_2_40 : decode cJ2_init_2 40 = .ok (.dup, 1) := dk_89 (dk_at dksJ2_init_2_1 16 rfl rfl)
theorem dJ2_init_2_41 : decode cJ2_init_2 41 = .ok (.invokespecial 22, 3) := dk_183 0 22 (dk_at dksJ2_init_2_1 17 rfl rfl)
theorem dJ2_init_2_44 : decode cJ2_init_2 44 = .ok (.ldc 23, 2) := dk_18 23 (dk_at dksJ2_init_2_1 20 rfl rfl)
theorem dJ2_init_2_46 : decode cJ2_init_2 46 = .ok (.invokevirtual 25, 3) := dk_182 0 25 (dk_at dksJ2_init_2_2 0 rfl rfl)
theorem dJ2_init_2_49 : decode cJ2_init_2 49 = .ok (.iload_n 1, 1) := dk_27 (dk_at dksJ2_init_2_2 3 rfl rfl)
theorem dJ2_init_2_50 : decode cJ2_init_2 50 = .ok (.invokevirtual 29, 3) := dk_182 0 29 (dk_at dksJ2_init_2_2 4 rfl rfl)
theorem dJ2_init_2_53 : decode cJ2_init_2 53 = .ok (.invokevirtual 32, 3) := dk_182 0 32 (dk_at dksJ2_init_2_2 7 rfl rfl)
theorem dJ2_init_2_56 : decode cJ2_init_2 56 = .ok (.invokespecial 36, 3) := dk_183 0 36 (dk_at dksJ2_init_2_2 10 rfl rfl)
theorem dJ2_init_2_59 : decode cJ2_init_2 59 = .ok (.athrow, 1) := dk_191 (dk_at dksJ2_init_2_2 13 rfl rfl)
theorem dJ2_init_2_60 : decode cJ2_init_2 60 = .ok (.return_, 1) := dk_177 (dk_at dksJ2_init_2_2 14 rfl rfl)
def dkwJ2_add_3_2 : List UInt8 := [29, 27, 100, 184, 0, 112, 25, 4, 27, 44, 83, 42, 29, 4, 96, 181, 0, 48, 177]
abbrev dktJ2_add_3_2 : List UInt8 := dkwJ2_add_3_2 ++ []
def dkwJ2_add_3_1 : List UInt8 := [180, 0, 9, 89, 58, 4, 190, 160, 0, 9, 42, 182, 0, 129, 58, 4, 25, 4, 27, 25, 4, 27, 4, 96]
abbrev dktJ2_add_3_1 : List UInt8 := dkwJ2_add_3_1 ++ dktJ2_add_3_2
def dkwJ2_add_3_0 : List UInt8 := [42, 27, 182, 0, 135, 42, 89, 180, 0, 63, 4, 96, 181, 0, 63, 42, 180, 0, 48, 89, 62, 42]
abbrev dktJ2_add_3_0 : List UInt8 := dkwJ2_add_3_0 ++ dktJ2_add_3_1
theorem dksJ2_add_3_0 : cJ2_add_3.data.toList.drop 0 = dktJ2_add_3_0 := by decide +kernel
theorem dksJ2_add_3_1 : cJ2_add_3.data.toList.drop 22 = dktJ2_add_3_1 := dk_seg dksJ2_add_3_0 22 rfl rfl
theorem dksJ2_add_3_2 : cJ2_add_3.data.toList.drop 46 = dktJ2_add_3_2 := dk_seg dksJ2_add_3_1 24 rfl rfl
theorem dJ2_add_3_0 : decode cJ2_add_3 0 = .ok (.aload_n 0, 1) := dk_42 (dk_at dksJ2_add_3_0 0 rfl rfl)
theorem dJ2_add_3_1 : decode cJ2_add_3 1 = .ok (.iload_n 1, 1) := dk_27 (dk_at dksJ2_add_3_0 1 rfl rfl)
theorem dJ2_add_3_2 : decode cJ2_add_3 2 = .ok (.invokevirtual 135, 3) := dk_182 0 135 (dk_at dksJ2_add_3_0 2 rfl rfl)
theorem dJ2_add_3_5 : decode cJ2_add_3 5 = .ok (.aload_n 0, 1) := dk_42 (dk_at dksJ2_add_3_0 5 rfl rfl)
theorem dJ2_add_3_6 : decode cJ2_add_3 6 = .ok (.dup, 1) := dk_89 (dk_at dksJ2_add_3_0 6 rfl rfl)
theorem dJ2_add_3_7 : decode cJ2_add_3 7 = .ok (.getfield 63, 3) := dk_180 0 63 (dk_at dksJ2_add_3_0 7 rfl rfl)
theorem dJ2_add_3_10 : decode cJ2_add_3 10 = .ok (.iconst 1, 1) := dk_4 (dk_at dksJ2_add_3_0 10 rfl rfl)
theorem dJ2_add_3_11 : decode cJ2_add_3 11 = .ok (.iadd, 1) := dk_96 (dk_at dksJ2_add_3_0 11 rfl rfl)
theorem dJ2_add_3_12 : decode cJ2_add_3 12 = .ok (.putfield 63, 3) := dk_181 0 63 (dk_at dksJ2_add_3_0 12 rfl rfl)
theorem dJ2_add_3_15 : decode cJ2_add_3 15 = .ok (.aload_n 0, 1) := dk_42 (dk_at dksJ2_add_3_0 15 rfl rfl)
theorem dJ2_add_3_16 : decode cJ2_add_3 16 = .ok (.getfield 48, 3) := dk_180 0 48 (dk_at dksJ2_add_3_0 16 rfl rfl)
theorem dJ2_add_3_19 : decode cJ2_add_3 19 = .ok (.dup, 1) := dk_89 (dk_at dksJ2_add_3_0 19 rfl rfl)
theorem dJ2_add_3_20 : decode cJ2_add_3 20 = .ok (.istore_n 3, 1) := dk_62 (dk_at dksJ2_add_3_0 20 rfl rfl)
theorem dJ2_add_3_21 : decode cJ2_add_3 21 = .ok (.aload_n 0, 1) := dk_42 (dk_at dksJ2_add_3_0 21 rfl rfl)
theorem dJ2_add_3_22 : decode cJ2_add_3 22 = .ok (.getfield 9, 3) := dk_180 0 9 (dk_at dksJ2_add_3_1 0 rfl rfl)
theorem dJ2_add_3_25 : decode cJ2_add_3 25 = .ok (.dup, 1) := dk_89 (dk_at dksJ2_add_3_1 3 rfl rfl)
theorem dJ2_add_3_26 : decode cJ2_add_3 26 = .ok (.astore 4, 2) := dk_58 4 (dk_at dksJ2_add_3_1 4 rfl rfl)
theorem dJ2_add_3_28 : decode cJ2_add_3 28 = .ok (.arraylength, 1) := dk_190 (dk_at dksJ2_add_3_1 6 rfl rfl)
theorem dJ2_add_3_29 : decode cJ2_add_3 29 = .ok (.if_icmp .ne 9, 3) := dk_160 0 9 (dk_at dksJ2_add_3_1 7 rfl rfl)
theorem dJ2_add_3_32 : decode cJ2_add_3 32 = .ok (.aload_n 0, 1) := dk_42 (dk_at dksJ2_add_3_1 10 rfl rfl)
theorem dJ2_add_3_33 : decode cJ2_add_3 33 = .ok (.invokevirtual 129, 3) := dk_182 0 129 (dk_at dksJ2_add_3_1 11 rfl rfl)
theorem dJ2_add_3_36 : decode cJ2_add_3 36 = .ok (.astore 4, 2) := dk_58 4 (dk_at dksJ2_add_3_1 14 rfl rfl)
theorem dJ2_add_3_38 : decode cJ2_add_3 38 = .ok (.aload 4, 2) := dk_25 4 (dk_at dksJ2_add_3_1 16 rfl rfl)
theorem dJ2_add_3_40 : decode cJ2_add_3 40 = .ok (.iload_n 1, 1) := dk_27 (dk_at dksJ2_add_3_1 18 rfl rfl)
theorem dJ2_add_3_41 : decode cJ2_add_3 41 = .ok (.aload 4, 2) := dk_25 4 (dk_at dksJ2_add_3_1 19 rfl rfl)
theorem dJ2_add_3_43 : decode cJ2_add_3 43 = .ok (.iload_n 1, 1) := dk_27 (dk_at dksJ2_add_3_1 21 rfl rfl)
theorem dJ2_add_3_44 : decode cJ2_add_3 44 = .ok (.iconst 1, 1) := dk_4 (dk_at dksJ2_add_3_1 22 rfl rfl)
theorem dJ2_add_3_45 : decode cJ2_add_3 45 = .ok (.iadd, 1) := dk_96 (dk_at dksJ2_add_3_1 23 rfl rfl)
theorem dJ2_add_3_46 : decode cJ2_add_3 46 = .ok (.iload_n 3, 1) := dk_29 (dk_at dksJ2_add_3_2 0 rfl rfl)
theorem dJ2_add_3_47 : decode cJ2_add_3 47 = .ok (.iload_n 1, 1) := dk_27 (dk_at dksJ2_add_3_2 1 rfl rfl)
theorem dJ2_add_3_48 : decode cJ2_add_3 48 = .ok (.isub, 1) := dk_100 (dk_at dksJ2_add_3_2 2 rfl rfl)
theorem dJ2_add_3_49 : decode cJ2_add_3 49 = .ok (.invokestatic 112, 3) := dk_184 0 112 (dk_at dksJ2_add_3_2 3 rfl rfl)
theorem dJ2_add_3_52 : decode cJ2_add_3 52 = .ok (.aload 4, 2) := dk_25 4 (dk_at dksJ2_add_3_2 6 rfl rfl)
theorem dJ2_add_3_54 : decode cJ2_add_3 54 = .ok (.iload_n 1, 1) := dk_27 (dk_at dksJ2_add_3_2 8 rfl rfl)
theorem dJ2_add_3_55 : decode cJ2_add_3 55 = .ok (.aload_n 2, 1) := dk_44 (dk_at dksJ2_add_3_2 9 rfl rfl)
theorem dJ2_add_3_56 : decode cJ2_add_3 56 = .ok (.aastore, 1) := dk_83 (dk_at dksJ2_add_3_2 10 rfl rfl)
theorem dJ2_add_3_57 : decode cJ2_add_3 57 = .ok (.aload_n 0, 1) := dk_42 (dk_at dksJ2_add_3_2 11 rfl rfl)
theorem dJ2_add_3_58 : decode cJ2_add_3 58 = .ok (.iload_n 3, 1) := dk_29 (dk_at dksJ2_add_3_2 12 rfl rfl)
theorem dJ2_add_3_59 : decode cJ2_add_3 59 = .ok (.iconst 1, 1) := dk_4 (dk_at dksJ2_add_3_2 13 rfl rfl)
theorem dJ2_add_3_60 : decode cJ2_add_3 60 = .ok (.iadd, 1) := dk_96 (dk_at dksJ2_add_3_2 14 rfl rfl)
theorem dJ2_add_3_61 : decode cJ2_add_3 61 = .ok (.putfield 48, 3) := dk_181 0 48 (dk_at dksJ2_add_3_2 15 rfl rfl)
theorem dJ2_add_3_64 : decode cJ2_add_3 64 = .ok (.return_, 1) := dk_177 (dk_at dksJ2_add_3_2 18 rfl rfl)
def dkwJ2_rangeCheckForAdd_1 : List UInt8 := [191, 177]
abbrev dktJ2_rangeCheckForAdd_1 : List UInt8 := dkwJ2_rangeCheckForAdd_1 ++ []
def dkwJ2_rangeCheckForAdd_0 : List UInt8 := [27, 42, 180, 0, 48, 163, 0, 7, 27, 156, 0, 16, 187, 0, 187, 89, 42, 27, 182, 0, 198, 183, 0, 193]
abbrev dktJ2_rangeCheckForAdd_0 : List UInt8 := dkwJ2_rangeCheckForAdd_0 ++ dktJ2_rangeCheckForAdd_1
theorem dksJ2_rangeCheckForAdd_0 : cJ2_rangeCheckForAdd.data.toList.drop 0 = dktJ2_rangeCheckForAdd_0 := by decide +kernel
theorem dksJ2_rangeCheckForAdd_1 : cJ2_rangeCheckForAdd.data.toList.drop 24 = dktJ2_rangeCheckForAdd_1 := dk_seg dksJ2_rangeCheckForAdd_0 24 rfl rfl
theorem dJ2_rangeCheckForAdd_0 : decode cJ2_rangeCheckForAdd 0 = .ok (.iload_n 1, 1) := dk_27 (dk_at dksJ2_rangeCheckForAdd_0 0 rfl rfl)
theorem dJ2_rangeCheckForAdd_1 : decode cJ2_rangeCheckForAdd 1 = .ok (.aload_n 0, 1) := dk_42 (dk_at dksJ2_rangeCheckForAdd_0 1 rfl rfl)
theorem dJ2_rangeCheckForAdd_2 : decode cJ2_rangeCheckForAdd 2 = .ok (.getfield 48, 3) := dk_180 0 48 (dk_at dksJ2_rangeCheckForAdd_0 2 rfl rfl)
theorem dJ2_rangeCheckForAdd_5 : decode cJ2_rangeCheckForAdd 5 = .ok (.if_icmp .gt 7, 3) := dk_163 0 7 (dk_at dksJ2_rangeCheckForAdd_0 5 rfl rfl)
theorem dJ2_rangeCheckForAdd_8 : decode cJ2_rangeCheckForAdd 8 = .ok (.iload_n 1, 1) := dk_27 (dk_at dksJ2_rangeCheckForAdd_0 8 rfl rfl)
theorem dJ2_rangeCheckForAdd_9 : decode cJ2_rangeCheckForAdd 9 = .ok (.ifCond .ge 16, 3) := dk_156 0 16 (dk_at dksJ2_rangeCheckForAdd_0 9 rfl rfl)
theorem dJ2_rangeCheckForAdd_12 : decode cJ2_rangeCheckForAdd 12 = .ok (.new 187, 3) := dk_187 0 187 (dk_at dksJ2_rangeCheckForAdd_0 12 rfl rfl)
theorem dJ2_rangeCheckForAdd_15 : decode cJ2_rangeCheckForAdd 15 = .ok (.dup, 1) := dk_89 (dk_at dksJ2_rangeCheckForAdd_0 15 rfl rfl)
theorem dJ2_rangeCheckForAdd_16 : decode cJ2_rangeCheckForAdd 16 = .ok (.aload_n 0, 1) := dk_42 (dk_at dksJ2_rangeCheckForAdd_0 16 rfl rfl)
theorem dJ2_rangeCheckForAdd_17 : decode cJ2_rangeCheckForAdd 17 = .ok (.iload_n 1, 1) := dk_27 (dk_at dksJ2_rangeCheckForAdd_0 17 rfl rfl)
theorem dJ2_rangeCheckForAdd_18 : decode cJ2_rangeCheckForAdd 18 = .ok (.invokevirtual 198, 3) := dk_182 0 198 (dk_at dksJ2_rangeCheckForAdd_0 18 rfl rfl)
theorem dJ2_rangeCheckForAdd_21 : decode cJ2_rangeCheckForAdd 21 = .ok (.invokespecial 193, 3) := dk_183 0 193 (dk_at dksJ2_rangeCheckForAdd_0 21 rfl rfl)
theorem dJ2_rangeCheckForAdd_24 : decode cJ2_rangeCheckForAdd 24 = .ok (.athrow, 1) := dk_191 (dk_at dksJ2_rangeCheckForAdd_1 0 rfl rfl)
theorem dJ2_rangeCheckForAdd_25 : decode cJ2_rangeCheckForAdd 25 = .ok (.return_, 1) := dk_177 (dk_at dksJ2_rangeCheckForAdd_1 1 rfl rfl)
def dkwJ2_outOfBoundsMsg_1 : List UInt8 := [180, 0, 48, 182, 0, 29, 182, 0, 32, 176]
abbrev dktJ2_outOfBoundsMsg_1 : List UInt8 := dkwJ2_outOfBoundsMsg_1 ++ []
def dkwJ2_outOfBoundsMsg_0 : List UInt8 := [187, 0, 20, 89, 183, 0, 22, 18, 201, 182, 0, 25, 27, 182, 0, 29, 18, 203, 182, 0, 25, 42]
abbrev dktJ2_outOfBoundsMsg_0 : List UInt8 := dkwJ2_outOfBoundsMsg_0 ++ dktJ2_outOfBoundsMsg_1
theorem dksJ2_outOfBoundsMsg_0 : cJ2_outOfBoundsMsg.data.toList.drop 0 = dktJ2_outOfBoundsMsg_0 := by decide +kernel
theorem dksJ2_outOfBoundsMsg_1 : cJ2_outOfBoundsMsg.data.toList.drop 22 = dktJ2_outOfBoundsMsg_1 := dk_seg dksJ2_outOfBoundsMsg_0 22 rfl rfl
theorem dJ2_outOfBoundsMsg_0 : decode cJ2_outOfBoundsMsg 0 = .ok (.new 20, 3) := dk_187 0 20 (dk_at dksJ2_outOfBoundsMsg_0 0 rfl rfl)
theorem dJ2_outOfBoundsMsg_3 : decode cJ2_outOfBoundsMsg 3 = .ok (.dup, 1) := dk_89 (dk_at dksJ2_outOfBoundsMsg_0 3 rfl rfl)
theorem dJ2_outOfBoundsMsg_4 : decode cJ2_outOfBoundsMsg 4 = .ok (.invokespecial 22, 3) := dk_183 0 22 (dk_at dksJ2_outOfBoundsMsg_0 4 rfl rfl)
theorem dJ2_outOfBoundsMsg_7 : decode cJ2_outOfBoundsMsg 7 = .ok (.ldc 201, 2) := dk_18 201 (dk_at dksJ2_outOfBoundsMsg_0 7 rfl rfl)
theorem dJ2_outOfBoundsMsg_9 : decode cJ2_outOfBoundsMsg 9 = .ok (.invokevirtual 25, 3) := dk_182 0 25 (dk_at dksJ2_outOfBoundsMsg_0 9 rfl rfl)
theorem dJ2_outOfBoundsMsg_12 : decode cJ2_outOfBoundsMsg 12 = .ok (.iload_n 1, 1) := dk_27 (dk_at dksJ2_outOfBoundsMsg_0 12 rfl rfl)
theorem dJ2_outOfBoundsMsg_13 : decode cJ2_outOfBoundsMsg 13 = .ok (.invokevirtual 29, 3) := dk_182 0 29 (dk_at dksJ2_outOfBoundsMsg_0 13 rfl rfl)
theorem dJ2_outOfBoundsMsg_16 : decode cJ2_outOfBoundsMsg 16 = .ok (.ldc 203, 2) := dk_18 203 (dk_at dksJ2_outOfBoundsMsg_0 16 rfl rfl)
theorem dJ2_outOfBoundsMsg_18 : decode cJ2_outOfBoundsMsg 18 = .ok (.invokevirtual 25, 3) := dk_182 0 25 (dk_at dksJ2_outOfBoundsMsg_0 18 rfl rfl)
theorem dJ2_outOfBoundsMsg_21 : decode cJ2_outOfBoundsMsg 21 = .ok (.aload_n 0, 1) := dk_42 (dk_at dksJ2_outOfBoundsMsg_0 21 rfl rfl)
theorem dJ2_outOfBoundsMsg_22 : decode cJ2_outOfBoundsMsg 22 = .ok (.getfield 48, 3) := dk_180 0 48 (dk_at dksJ2_outOfBoundsMsg_1 0 rfl rfl)
theorem dJ2_outOfBoundsMsg_25 : decode cJ2_outOfBoundsMsg 25 = .ok (.invokevirtual 29, 3) := dk_182 0 29 (dk_at dksJ2_outOfBoundsMsg_1 3 rfl rfl)
theorem dJ2_outOfBoundsMsg_28 : decode cJ2_outOfBoundsMsg 28 = .ok (.invokevirtual 32, 3) := dk_182 0 32 (dk_at dksJ2_outOfBoundsMsg_1 6 rfl rfl)
theorem dJ2_outOfBoundsMsg_31 : decode cJ2_outOfBoundsMsg 31 = .ok (.areturn, 1) := dk_176 (dk_at dksJ2_outOfBoundsMsg_1 9 rfl rfl)
def dkwJ2_init_3_2 : List UInt8 := [18, 56, 184, 0, 57, 181, 0, 9, 167, 0, 10, 42, 178, 0, 15, 181, 0, 9, 177]
abbrev dktJ2_init_3_2 : List UInt8 := dkwJ2_init_3_2 ++ []
def dkwJ2_init_3_1 : List UInt8 := [185, 0, 52, 1, 0, 18, 10, 166, 0, 11, 42, 44, 181, 0, 9, 167, 0, 27, 42, 44, 42, 180, 0, 48]
abbrev dktJ2_init_3_1 : List UInt8 := dkwJ2_init_3_1 ++ dktJ2_init_3_2
def dkwJ2_init_3_0 : List UInt8 := [42, 183, 0, 1, 43, 185, 0, 42, 1, 0, 77, 42, 44, 190, 90, 181, 0, 48, 153, 0, 39, 43]
abbrev dktJ2_init_3_0 : List UInt8 := dkwJ2_init_3_0 ++ dktJ2_init_3_1
theorem dksJ2_init_3_0 : cJ2_init_3.data.toList.drop 0 = dktJ2_init_3_0 := by decide +kernel
theorem dksJ2_init_3_1 : cJ2_init_3.data.toList.drop 22 = dktJ2_init_3_1 := dk_seg dksJ2_init_3_0 22 rfl rfl
theorem dksJ2_init_3_2 : cJ2_init_3.data.toList.drop 46 = dktJ2_init_3_2 := dk_seg dksJ2_init_3_1 24 rfl rfl
theorem dJ2_init_3_0 : decode cJ2_init_3 0 = .ok (.aload_n 0, 1) := dk_42 (dk_at dksJ2_init_3_0 0 rfl rfl)
theorem dJ2_init_3_1 : decode cJ2_init_3 1 = .ok (.invokespecial 1, 3) := dk_183 0 1 (dk_at dksJ2_init_3_0 1 rfl rfl)
theorem dJ2_init_3_4 : decode cJ2_init_3 4 = .ok (.aload_n 1, 1) := dk_43 (dk_at dksJ2_init_3_0 4 rfl rfl)
theorem dJ2_init_3_5 : decode cJ2_init_3 5 = .ok (.invokeinterface 42 1, 5) := by decide +kernel
theorem dJ2_init_3_10 : decode cJ2_init_3 10 = .ok (.astore_n 2, 1) := dk_77 (dk_at dksJ2_init_3_0 10 rfl rfl)
theorem dJ2_init_3_11 : decode cJ2_init_3 11 = .ok (.aload_n 0, 1) := dk_42 (dk_at dksJ2_init_3_0 11 rfl rfl)
theorem dJ2_init_3_12 : decode cJ2_init_3 12 = .ok (.aload_n 2, 1) := dk_44 (dk_at dksJ2_init_3_0 12 rfl rfl)
theorem dJ2_init_3_13 : decode cJ2_init_3 13 = .ok (.arraylength, 1) := dk_190 (dk_at dksJ2_init_3_0 13 rfl rfl)
theorem dJ2_init_3_14 : decode cJ2_init_3 14 = .ok (.dup_x1, 1) := dk_90 (dk_at dksJ2_init_3_0 14 rfl rfl)
theorem dJ2_init_3_15 : decode cJ2_init_3 15 = .ok (.putfield 48, 3) := dk_181 0 48 (dk_at dksJ2_init_3_0 15 rfl rfl)
theorem dJ2_init_3_18 : decode cJ2_init_3 18 = .ok (.ifCond .eq 39, 3) := dk_153 0 39 (dk_at dksJ2_init_3_0 18 rfl rfl)
theorem dJ2_init_3_21 : decode cJ2_init_3 21 = .ok (.aload_n 1, 1) := dk_43 (dk_at dksJ2_init_3_0 21 rfl rfl)
theorem dJ2_init_3_22 : decode cJ2_init_3 22 = .ok (.invokeinterface 52 1, 5) := by decide +kernel
theorem dJ2_init_3_27 : decode cJ2_init_3 27 = .ok (.ldc 10, 2) := dk_18 10 (dk_at dksJ2_init_3_1 5 rfl rfl)
theorem dJ2_init_3_29 : decode cJ2_init_3 29 = .ok (.if_acmp .ne 11, 3) := dk_166 0 11 (dk_at dksJ2_init_3_1 7 rfl rfl)
theorem dJ2_init_3_32 : decode cJ2_init_3 32 = .ok (.aload_n 0, 1) := dk_42 (dk_at dksJ2_init_3_1 10 rfl rfl)
theorem dJ2_init_3_33 : decode cJ2_init_3 33 = .ok (.aload_n 2, 1) := dk_44 (dk_at dksJ2_init_3_1 11 rfl rfl)
theorem dJ2_init_3_34 : decode cJ2_init_3 34 = .ok (.putfield 9, 3) := dk_181 0 9 (dk_at dksJ2_init_3_1 12 rfl rfl)
theorem dJ2_init_3_37 : decode cJ2_init_3 37 = .ok (.goto 27, 3) := dk_167 0 27 (dk_at dksJ2_init_3_1 15 rfl rfl)
theorem dJ2_init_3_40 : decode cJ2_init_3 40 = .ok (.aload_n 0, 1) := dk_42 (dk_at dksJ2_init_3_1 18 rfl rfl)
theorem dJ2_init_3_41 : decode cJ2_init_3 41 = .ok (.aload_n 2, 1) := dk_44 (dk_at dksJ2_init_3_1 19 rfl rfl)
theorem dJ2_init_3_42 : decode cJ2_init_3 42 = .ok (.aload_n 0, 1) := dk_42 (dk_at dksJ2_init_3_1 20 rfl rfl)
theorem dJ2_init_3_43 : decode cJ2_init_3 43 = .ok (.getfield 48, 3) := dk_180 0 48 (dk_at dksJ2_init_3_1 21 rfl rfl)
theorem dJ2_init_3_46 : decode cJ2_init_3 46 = .ok (.ldc 56, 2) := dk_18 56 (dk_at dksJ2_init_3_2 0 rfl rfl)
theorem dJ2_init_3_48 : decode cJ2_init_3 48 = .ok (.invokestatic 57, 3) := dk_184 0 57 (dk_at dksJ2_init_3_2 2 rfl rfl)
theorem dJ2_init_3_51 : decode cJ2_init_3 51 = .ok (.putfield 9, 3) := dk_181 0 9 (dk_at dksJ2_init_3_2 5 rfl rfl)
theorem dJ2_init_3_54 : decode cJ2_init_3 54 = .ok (.goto 10, 3) := dk_167 0 10 (dk_at dksJ2_init_3_2 8 rfl rfl)
theorem dJ2_init_3_57 : decode cJ2_init_3 57 = .ok (.aload_n 0, 1) := dk_42 (dk_at dksJ2_init_3_2 11 rfl rfl)
theorem dJ2_init_3_58 : decode cJ2_init_3 58 = .ok (.getstatic 15, 3) := dk_178 0 15 (dk_at dksJ2_init_3_2 12 rfl rfl)
theorem dJ2_init_3_61 : decode cJ2_init_3 61 = .ok (.putfield 9, 3) := dk_181 0 9 (dk_at dksJ2_init_3_2 15 rfl rfl)
theorem dJ2_init_3_64 : decode cJ2_init_3 64 = .ok (.return_, 1) := dk_177 (dk_at dksJ2_init_3_2 18 rfl rfl)
def dkwJ2_toArray_0 : List UInt8 := [42, 180, 0, 9, 42, 180, 0, 48, 184, 0, 66, 176]
abbrev dktJ2_toArray_0 : List UInt8 := dkwJ2_toArray_0 ++ []
theorem dksJ2_toArray_0 : cJ2_toArray.data.toList.drop 0 = dktJ2_toArray_0 := by decide +kernel
theorem dJ2_toArray_0 : decode cJ2_toArray 0 = .ok (.aload_n 0, 1) := dk_42 (dk_at dksJ2_toArray_0 0 rfl rfl)
theorem dJ2_toArray_1 : decode cJ2_toArray 1 = .ok (.getfield 9, 3) := dk_180 0 9 (dk_at dksJ2_toArray_0 1 rfl rfl)
theorem dJ2_toArray_4 : decode cJ2_toArray 4 = .ok (.aload_n 0, 1) := dk_42 (dk_at dksJ2_toArray_0 4 rfl rfl)
theorem dJ2_toArray_5 : decode cJ2_toArray 5 = .ok (.getfield 48, 3) := dk_180 0 48 (dk_at dksJ2_toArray_0 5 rfl rfl)
theorem dJ2_toArray_8 : decode cJ2_toArray 8 = .ok (.invokestatic 66, 3) := dk_184 0 66 (dk_at dksJ2_toArray_0 8 rfl rfl)
theorem dJ2_toArray_11 : decode cJ2_toArray 11 = .ok (.areturn, 1) := dk_176 (dk_at dksJ2_toArray_0 11 rfl rfl)
def dkwJ2_remove_1 : List UInt8 := [45, 176]
abbrev dktJ2_remove_1 : List UInt8 := dkwJ2_remove_1 ++ []
def dkwJ2_remove_0 : List UInt8 := [27, 42, 180, 0, 48, 184, 0, 118, 87, 42, 180, 0, 9, 77, 44, 27, 50, 78, 42, 44, 27, 182, 0, 144]
abbrev dktJ2_remove_0 : List UInt8 := dkwJ2_remove_0 ++ dktJ2_remove_1
theorem dksJ2_remove_0 : cJ2_remove.data.toList.drop 0 = dktJ2_remove_0 := by decide +kernel
theorem dksJ2_remove_1 : cJ2_remove.data.toList.drop 24 = dktJ2_remove_1 := dk_seg dksJ2_remove_0 24 rfl rfl
theorem dJ2_remove_0 : decode cJ2_remove 0 = .ok (.iload_n 1, 1) := dk_27 (dk_at dksJ2_remove_0 0 rfl rfl)
theorem dJ2_remove_1 : decode cJ2_remove 1 = .ok (.aload_n 0, 1) := dk_42 (dk_at dksJ2_remove_0 1 rfl rfl)
theorem dJ2_remove_2 : decode cJ2_remove 2 = .ok (.getfield 48, 3) := dk_180 0 48 (dk_at dksJ2_remove_0 2 rfl rfl)
theorem dJ2_remove_5 : decode cJ2_remove 5 = .ok (.invokestatic 118, 3) := dk_184 0 118 (dk_at dksJ2_remove_0 5 rfl rfl)
theorem dJ2_remove_8 : decode cJ2_remove 8 = .ok (.pop, 1) := dk_87 (dk_at dksJ2_remove_0 8 rfl rfl)
theorem dJ2_remove_9 : decode cJ2_remove 9 = .ok (.aload_n 0, 1) := dk_42 (dk_at dksJ2_remove_0 9 rfl rfl)
theorem dJ2_remove_10 : decode cJ2_remove 10 = .ok (.getfield 9, 3) := dk_180 0 9 (dk_at dksJ2_remove_0 10 rfl rfl)
theorem dJ2_remove_13 : decode cJ2_remove 13 = .ok (.astore_n 2, 1) := dk_77 (dk_at dksJ2_remove_0 13 rfl rfl)
theorem dJ2_remove_14 : decode cJ2_remove 14 = .ok (.aload_n 2, 1) := dk_44 (dk_at dksJ2_remove_0 14 rfl rfl)
theorem dJ2_remove_15 : decode cJ2_remove 15 = .ok (.iload_n 1, 1) := dk_27 (dk_at dksJ2_remove_0 15 rfl rfl)
theorem dJ2_remove_16 : decode cJ2_remove 16 = .ok (.aaload, 1) := dk_50 (dk_at dksJ2_remove_0 16 rfl rfl)
theorem dJ2_remove_17 : decode cJ2_remove 17 = .ok (.astore_n 3, 1) := dk_78 (dk_at dksJ2_remove_0 17 rfl rfl)
theorem dJ2_remove_18 : decode cJ2_remove 18 = .ok (.aload_n 0, 1) := dk_42 (dk_at dksJ2_remove_0 18 rfl rfl)
theorem dJ2_remove_19 : decode cJ2_remove 19 = .ok (.aload_n 2, 1) := dk_44 (dk_at dksJ2_remove_0 19 rfl rfl)
theorem dJ2_remove_20 : decode cJ2_remove 20 = .ok (.iload_n 1, 1) := dk_27 (dk_at dksJ2_remove_0 20 rfl rfl)
theorem dJ2_remove_21 : decode cJ2_remove 21 = .ok (.invokevirtual 144, 3) := dk_182 0 144 (dk_at dksJ2_remove_0 21 rfl rfl)
theorem dJ2_remove_24 : decode cJ2_remove 24 = .ok (.aload_n 3, 1) := dk_45 (dk_at dksJ2_remove_1 0 rfl rfl)
theorem dJ2_remove_25 : decode cJ2_remove 25 = .ok (.areturn, 1) := dk_176 (dk_at dksJ2_remove_1 1 rfl rfl)
def dkwJ2_fastRemove_1 : List UInt8 := [4, 96, 43, 28, 29, 28, 100, 184, 0, 112, 43, 42, 29, 90, 181, 0, 48, 1, 83, 177]
abbrev dktJ2_fastRemove_1 : List UInt8 := dkwJ2_fastRemove_1 ++ []
def dkwJ2_fastRemove_0 : List UInt8 := [42, 89, 180, 0, 63, 4, 96, 181, 0, 63, 42, 180, 0, 48, 4, 100, 89, 62, 28, 164, 0, 15, 43, 28]
abbrev dktJ2_fastRemove_0 : List UInt8 := dkwJ2_fastRemove_0 ++ dktJ2_fastRemove_1
theorem dksJ2_fastRemove_0 : cJ2_fastRemove.data.toList.drop 0 = dktJ2_fastRemove_0 := by decide +kernel
theorem dksJ2_fastRemove_1 : cJ2_fastRemove.data.toList.drop 24 = dktJ2_fastRemove_1 := dk_seg dksJ2_fastRemove_0 24 rfl rfl
theorem dJ2_fastRemove_0 : decode cJ2_fastRemove 0 = .ok (.aload_n 0, 1) := dk_42 (dk_at dksJ2_fastRemove_0 0 rfl rfl)
theorem dJ2_fastRemove_1 : decode cJ2_fastRemove 1 = .ok (.dup, 1) := dk_89 (dk_at dksJ2_fastRemove_0 1 rfl rfl)
theorem dJ2_fastRemove_2 : decode cJ2_fastRemove 2 = .ok (.getfield 63, 3) := dk_180 0 63 (dk_at dksJ2_fastRemove_0 2 rfl rfl)
theorem dJ2_fastRemove_5 : decode cJ2_fastRemove 5 = .ok (.iconst 1, 1) := dk_4 (dk_at dksJ2_fastRemove_0 5 rfl rfl)
theorem dJ2_fastRemove_6 : decode cJ2_fastRemove 6 = .ok (.iadd, 1) := dk_96 (dk_at dksJ2_fastRemove_0 6 rfl rfl)
theorem dJ2_fastRemove_7 : decode cJ2_fastRemove 7 = .ok (.putfield 63, 3) := dk_181 0 63 (dk_at dksJ2_fastRemove_0 7 rfl rfl)
theorem dJ2_fastRemove_10 : decode cJ2_fastRemove 10 = .ok (.aload_n 0, 1) := dk_42 (dk_at dksJ2_fastRemove_0 10 rfl rfl)
theorem dJ2_fastRemove_11 : decode cJ2_fastRemove 11 = .ok (.getfield 48, 3) := dk_180 0 48 (dk_at dksJ2_fastRemove_0 11 rfl rfl)
theorem dJ2_fastRemove_14 : decode cJ2_fastRemove 14 = .ok (.iconst 1, 1) := dk_4 (dk_at dksJ2_fastRemove_0 14 rfl rfl)
theorem dJ2_fastRemove_15 : decode cJ2_fastRemove 15 = .ok (.isub, 1) := dk_100 (dk_at dksJ2_fastRemove_0 15 rfl rfl)
theorem dJ2_fastRemove_16 : decode cJ2_fastRemove 16 = .ok (.dup, 1) := dk_89 (dk_at dksJ2_fastRemove_0 16 rfl rfl)
theorem dJ2_fastRemove_17 : decode cJ2_fastRemove 17 = .ok (.istore_n 3, 1) := dk_62 (dk_at dksJ2_fastRemove_0 17 rfl rfl)
theorem dJ2_fastRemove_18 : decode cJ2_fastRemove 18 = .ok (.iload_n 2, 1) := dk_28 (dk_at dksJ2_fastRemove_0 18 rfl rfl)
theorem dJ2_fastRemove_19 : decode cJ2_fastRemove 19 = .ok (.if_icmp .le 15, 3) := dk_164 0 15 (dk_at dksJ2_fastRemove_0 19 rfl rfl)
theorem dJ2_fastRemove_22 : decode cJ2_fastRemove 22 = .ok (.aload_n 1, 1) := dk_43 (dk_at dksJ2_fastRemove_0 22 rfl rfl)
theorem dJ2_fastRemove_23 : decode cJ2_fastRemove 23 = .ok (.iload_n 2, 1) := dk_28 (dk_at dksJ2_fastRemove_0 23 rfl rfl)
theorem dJ2_fastRemove_24 : decode cJ2_fastRemove 24 = .ok (.iconst 1, 1) := dk_4 (dk_at dksJ2_fastRemove_1 0 rfl rfl)
theorem dJ2_fastRemove_25 : decode cJ2_fastRemove 25 = .ok (.iadd, 1) := dk_96 (dk_at dksJ2_fastRemove_1 1 rfl rfl)
theorem dJ2_fastRemove_26 : decode cJ2_fastRemove 26 = .ok (.aload_n 1, 1) := dk_43 (dk_at dksJ2_fastRemove_1 2 rfl rfl)
theorem dJ2_fastRemove_27 : decode cJ2_fastRemove 27 = .ok (.iload_n 2, 1) := dk_28 (dk_at dksJ2_fastRemove_1 3 rfl rfl)
theorem dJ2_fastRemove_28 : decode cJ2_fastRemove 28 = .ok (.iload_n 3, 1) := dk_29 (dk_at dksJ2_fastRemove_1 4 rfl rfl)
theorem dJ2_fastRemove_29 : decode cJ2_fastRemove 29 = .ok (.iload_n 2, 1) := dk_28 (dk_at dksJ2_fastRemove_1 5 rfl rfl)
theorem dJ2_fastRemove_30 : decode cJ2_fastRemove 30 = .ok (.isub, 1) := dk_100 (dk_at dksJ2_fastRemove_1 6 rfl rfl)
theorem dJ2_fastRemove_31 : decode cJ2_fastRemove 31 = .ok (.invokestatic 112, 3) := dk_184 0 112 (dk_at dksJ2_fastRemove_1 7 rfl rfl)
theorem dJ2_fastRemove_34 : decode cJ2_fastRemove 34 = .ok (.aload_n 1, 1) := dk_43 (dk_at dksJ2_fastRemove_1 10 rfl rfl)
theorem dJ2_fastRemove_35 : decode cJ2_fastRemove 35 = .ok (.aload_n 0, 1) := dk_42 (dk_at dksJ2_fastRemove_1 11 rfl rfl)
theorem dJ2_fastRemove_36 : decode cJ2_fastRemove 36 = .ok (.iload_n 3, 1) := dk_29 (dk_at dksJ2_fastRemove_1 12 rfl rfl)
theorem dJ2_fastRemove_37 : decode cJ2_fastRemove 37 = .ok (.dup_x1, 1) := dk_90 (dk_at dksJ2_fastRemove_1 13 rfl rfl)
theorem dJ2_fastRemove_38 : decode cJ2_fastRemove 38 = .ok (.putfield 48, 3) := dk_181 0 48 (dk_at dksJ2_fastRemove_1 14 rfl rfl)
theorem dJ2_fastRemove_41 : decode cJ2_fastRemove 41 = .ok (.aconst_null, 1) := dk_1 (dk_at dksJ2_fastRemove_1 17 rfl rfl)
theorem dJ2_fastRemove_42 : decode cJ2_fastRemove 42 = .ok (.aastore, 1) := dk_83 (dk_at dksJ2_fastRemove_1 18 rfl rfl)
theorem dJ2_fastRemove_43 : decode cJ2_fastRemove 43 = .ok (.return_, 1) := dk_177 (dk_at dksJ2_fastRemove_1 19 rfl rfl)
def dkwJ4_init_0 : List UInt8 := [42, 183, 0, 42, 42, 16, 17, 189, 0, 47, 181, 0, 3, 177]
abbrev dktJ4_init_0 : List UInt8 := dkwJ4_init_0 ++ []
theorem dksJ4_init_0 : cJ4_init.data.toList.drop 0 = dktJ4_init_0 := by decide +kernel
theorem dJ4_init_0 : decode cJ4_init 0 = .ok (.aload_n 0, 1) := dk_42 (dk_at dksJ4_init_0 0 rfl rfl)
theorem dJ4_init_1 : decode cJ4_init 1 = .ok (.invokespecial 42, 3) := dk_183 0 42 (dk_at dksJ4_init_0 1 rfl rfl)
theorem dJ4_init_4 : decode cJ4_init 4 = .ok (.aload_n 0, 1) := dk_42 (dk_at dksJ4_init_0 4 rfl rfl)
theorem dJ4_init_5 : decode cJ4_init 5 = .ok (.bipush 17, 2) := dk_16 17 (dk_at dksJ4_init_0 5 rfl rfl)
theorem dJ4_init_7 : decode cJ4_init 7 = .ok (.anewarray 47, 3) := dk_189 0 47 (dk_at dksJ4_init_0 7 rfl rfl)
theorem dJ4_init_10 : decode cJ4_init 10 = .ok (.putfield 3, 3) := dk_181 0 3 (dk_at dksJ4_init_0 10 rfl rfl)
theorem dJ4_init_13 : decode cJ4_init 13 = .ok (.return_, 1) := dk_177 (dk_at dksJ4_init_0 13 rfl rfl)
def dkwJ4_clear_1 : List UInt8 := [181, 0, 24, 177]
abbrev dktJ4_clear_1 : List UInt8 := dkwJ4_clear_1 ++ []
def dkwJ4_clear_0 : List UInt8 := [42, 180, 0, 3, 42, 180, 0, 24, 42, 180, 0, 20, 184, 0, 181, 42, 42, 3, 90, 181, 0, 20]
abbrev dktJ4_clear_0 : List UInt8 := dkwJ4_clear_0 ++ dktJ4_clear_1
theorem dksJ4_clear_0 : cJ4_clear.data.toList.drop 0 = dktJ4_clear_0 := by decide +kernel
theorem dksJ4_clear_1 : cJ4_clear.data.toList.drop 22 = dktJ4_clear_1 := dk_seg dksJ4_clear_0 22 rfl rfl
theorem dJ4_clear_0 : decode cJ4_clear 0 = .ok (.aload_n 0, 1) := dk_42 (dk_at dksJ4_clear_0 0 rfl rfl)
theorem dJ4_clear_1 : decode cJ4_clear 1 = .ok (.getfield 3, 3) := dk_180 0 3 (dk_at dksJ4_clear_0 1 rfl rfl)
theorem dJ4_clear_4 : decode cJ4_clear 4 = .ok (.aload_n 0, 1) := dk_42 (dk_at dksJ4_clear_0 4 rfl rfl)
theorem dJ4_clear_5 : decode cJ4_clear 5 = .ok (.getfield 24, 3) := dk_180 0 24 (dk_at dksJ4_clear_0 5 rfl rfl)
theorem dJ4_clear_8 : decode cJ4_clear 8 = .ok (.aload_n 0, 1) := dk_42 (dk_at dksJ4_clear_0 8 rfl rfl)
theorem dJ4_clear_9 : decode cJ4_clear 9 = .ok (.getfield 20, 3) := dk_180 0 20 (dk_at dksJ4_clear_0 9 rfl rfl)
theorem dJ4_clear_12 : decode cJ4_clear 12 = .ok (.invokestatic 181, 3) := dk_184 0 181 (dk_at dksJ4_clear_0 12 rfl rfl)
theorem dJ4_clear_15 : decode cJ4_clear 15 = .ok (.aload_n 0, 1) := dk_42 (dk_at dksJ4_clear_0 15 rfl rfl)
theorem dJ4_clear_16 : decode cJ4_clear 16 = .ok (.aload_n 0, 1) := dk_42 (dk_at dksJ4_clear_0 16 rfl rfl)
theorem dJ4_clear_17 : decode cJ4_clear 17 = .ok (.iconst 0, 1) := dk_3 (dk_at dksJ4_clear_0 17 rfl rfl)
theorem dJ4_clear_18 : decode cJ4_clear 18 = .ok (.dup_x1, 1) := dk_90 (dk_at dksJ4_clear_0 18 rfl rfl)
theorem dJ4_clear_19 : decode cJ4_clear 19 = .ok (.putfield 20, 3) := dk_181 0 20 (dk_at dksJ4_clear_0 19 rfl rfl)
theorem dJ4_clear_22 : decode cJ4_clear 22 = .ok (.putfield 24, 3) := dk_181 0 24 (dk_at dksJ4_clear_1 0 rfl rfl)
theorem dJ4_clear_25 : decode cJ4_clear 25 = .ok (.return_, 1) := dk_177 (dk_at dksJ4_clear_1 3 rfl rfl)
def dkwJ4_circularClear_1 : List UInt8 := [167, 255, 244, 29, 28, 160, 0, 6, 167, 0, 10, 3, 60, 28, 62, 167, 255, 229, 177]
abbrev dktJ4_circularClear_1 : List UInt8 := dkwJ4_circularClear_1 ++ []
def dkwJ4_circularClear_0 : List UInt8 := [27, 28, 163, 0, 7, 28, 167, 0, 5, 42, 190, 62, 27, 29, 162, 0, 13, 42, 27, 1, 83, 132, 1, 1]
abbrev dktJ4_circularClear_0 : List UInt8 := dkwJ4_circularClear_0 ++ dktJ4_circularClear_1
theorem dksJ4_circularClear_0 : cJ4_circularClear.data.toList.drop 0 = dktJ4_circularClear_0 := by decide +kernel
theorem dksJ4_circularClear_1 : cJ4_circularClear.data.toList.drop 24 = dktJ4_circularClear_1 := dk_seg dksJ4_circularClear_0 24 rfl rfl
theorem dJ4_circularClear_0 : decode cJ4_circularClear 0 = .ok (.iload_n 1, 1) := dk_27 (dk_at dksJ4_circularClear_0 0 rfl rfl)
theorem dJ4_circularClear_1 : decode cJ4_circularClear 1 = .ok (.iload_n 2, 1) := dk_28 (dk_at dksJ4_circularClear_0 1 rfl rfl)
theorem dJ4_circularClear_2 : decode cJ4_circularClear 2 = .ok (.if_icmp .gt 7, 3) := dk_163 0 7 (dk_at dksJ4_circularClear_0 2 rfl rfl)
theorem dJ4_circularClear_5 : decode cJ4_circularClear 5 = .ok (.iload_n 2, 1) := dk_28 (dk_at dksJ4_circularClear_0 5 rfl rfl)
theorem dJ4_circularClear_6 : decode cJ4_circularClear 6 = .ok (.goto 5, 3) := dk_167 0 5 (dk_at dksJ4_circularClear_0 6 rfl rfl)
theorem dJ4_circularClear_9 : decode cJ4_circularClear 9 = .ok (.aload_n 0, 1) := dk_42 (dk_at dksJ4_circularClear_0 9 rfl rfl)
theorem dJ4_circularClear_10 : decode cJ4_circularClear 10 = .ok (.arraylength, 1) := dk_190 (dk_at dksJ4_circularClear_0 10 rfl rfl)
theorem dJ4_circularClear_11 : decode cJ4_circularClear 11 = .ok (.istore_n 3, 1) := dk_62 (dk_at dksJ4_circularClear_0 11 rfl rfl)
theorem dJ4_circularClear_12 : decode cJ4_circularClear 12 = .ok (.iload_n 1, 1) := dk_27 (dk_at dksJ4_circularClear_0 12 rfl rfl)
theorem dJ4_circularClear_13 : decode cJ4_circularClear 13 = .ok (.iload_n 3, 1) := dk_29 (dk_at dksJ4_circularClear_0 13 rfl rfl)
theorem dJ4_circularClear_14 : decode cJ4_circularClear 14 = .ok (.if_icmp .ge 13, 3) := dk_162 0 13 (dk_at dksJ4_circularClear_0 14 rfl rfl)
theorem dJ4_circularClear_17 : decode cJ4_circularClear 17 = .ok (.aload_n 0, 1) := dk_42 (dk_at dksJ4_circularClear_0 17 rfl rfl)
theorem dJ4_circularClear_18 : decode cJ4_circularClear 18 = .ok (.iload_n 1, 1) := dk_27 (dk_at dksJ4_circularClear_0 18 rfl rfl)
theorem dJ4_circularClear_19 : decode cJ4_circularClear 19 = .ok (.aconst_null, 1) := dk_1 (dk_at dksJ4_circularClear_0 19 rfl rfl)
theorem dJ4_circularClear_20 : decode cJ4_circularClear 20 = .ok (.aastore, 1) := dk_83 (dk_at dksJ4_circularClear_0 20 rfl rfl)
theorem dJ4_circularClear_21 : decode cJ4_circularClear 21 = .ok (.iinc 1 1, 3) := dk_132 1 1 (dk_at dksJ4_circularClear_0 21 rfl rfl)
theorem dJ4_circularClear_24 : decode cJ4_circularClear 24 = .ok (.goto (-12), 3) := dk_167 255 244 (dk_at dksJ4_circularClear_1 0 rfl rfl)
theorem dJ4_circularClear_27 : decode cJ4_circularClear 27 = .ok (.iload_n 3, 1) := dk_29 (dk_at dksJ4_circularClear_1 3 rfl rfl)
theorem dJ4_circularClear_28 : decode cJ4_circularClear 28 = .ok (.iload_n 2, 1) := dk_28 (dk_at dksJ4_circularClear_1 4 rfl rfl)
theorem dJ4_circularClear_29 : decode cJ4_circularClear 29 = .ok (.if_icmp .ne 6, 3) := dk_160 0 6 (dk_at dksJ4_circularClear_1 5 rfl rfl)
theorem dJ4_circularClear_32 : decode cJ4_circularClear 32 = .ok (.goto 10, 3) := dk_167 0 10 (dk_at dksJ4_circularClear_1 8 rfl rfl)
theorem dJ4_circularClear_35 : decode cJ4_circularClear 35 = .ok (.iconst 0, 1) := dk_3 (dk_at dksJ4_circularClear_1 11 rfl rfl)
theorem dJ4_circularClear_36 : decode cJ4_circularClear 36 = .ok (.istore_n 1, 1) := dk_60 (dk_at dksJ4_circularClear_1 12 rfl rfl)
theorem dJ4_circularClear_37 : decode cJ4_circularClear 37 = .ok (.iload_n 2, 1) := dk_28 (dk_at dksJ4_circularClear_1 13 rfl rfl)
theorem dJ4_circularClear_38 : decode cJ4_circularClear 38 = .ok (.istore_n 3, 1) := dk_62 (dk_at dksJ4_circularClear_1 14 rfl rfl)
theorem dJ4_circularClear_39 : decode cJ4_circularClear 39 = .ok (.goto (-27), 3) := dk_167 255 229 (dk_at dksJ4_circularClear_1 15 rfl rfl)
theorem dJ4_circularClear_42 : decode cJ4_circularClear 42 = .ok (.return_, 1) := dk_177 (dk_at dksJ4_circularClear_1 18 rfl rfl)
def dkwJ4_isEmpty_0 : List UInt8 := [42, 180, 0, 24, 42, 180, 0, 20, 160, 0, 7, 4, 167, 0, 4, 3, 172]
abbrev dktJ4_isEmpty_0 : List UInt8 := dkwJ4_isEmpty_0 ++ []
theorem dksJ4_isEmpty_0 : cJ4_isEmpty.data.toList.drop 0 = dktJ4_isEmpty_0 := by decide +kernel
theorem dJ4_isEmpty_0 : decode cJ4_isEmpty 0 = .ok (.aload_n 0, 1) := dk_42 (dk_at dksJ4_isEmpty_0 0 rfl rfl)
theorem dJ4_isEmpty_1 : decode cJ4_isEmpty 1 = .ok (.getfield 24, 3) := dk_180 0 24 (dk_at dksJ4_isEmpty_0 1 rfl rfl)
theorem dJ4_isEmpty_4 : decode cJ4_isEmpty 4 = .ok (.aload_n 0, 1) := dk_42 (dk_at dksJ4_isEmpty_0 4 rfl rfl)
theorem dJ4_isEmpty_5 : decode cJ4_isEmpty 5 = .ok (.getfield 20, 3) := dk_180 0 20 (dk_at dksJ4_isEmpty_0 5 rfl rfl)
theorem dJ4_isEmpty_8 : decode cJ4_isEmpty 8 = .ok (.if_icmp .ne 7, 3) := dk_160 0 7 (dk_at dksJ4_isEmpty_0 8 rfl rfl)
theorem dJ4_isEmpty_11 : decode cJ4_isEmpty 11 = .ok (.iconst 1, 1) := dk_4 (dk_at dksJ4_isEmpty_0 11 rfl rfl)
theorem dJ4_isEmpty_12 : decode cJ4_isEmpty 12 = .ok (.goto 4, 3) := dk_167 0 4 (dk_at dksJ4_isEmpty_0 12 rfl rfl)
theorem dJ4_isEmpty_15 : decode cJ4_isEmpty 15 = .ok (.iconst 0, 1) := dk_3 (dk_at dksJ4_isEmpty_0 15 rfl rfl)
theorem dJ4_isEmpty_16 : decode cJ4_isEmpty 16 = .ok (.ireturn, 1) := dk_172 (dk_at dksJ4_isEmpty_0 16 rfl rfl)
def dkwJ4_removeLast_0 : List UInt8 := [42, 182, 0, 100, 76, 43, 199, 0, 11, 187, 0, 97, 89, 183, 0, 99, 191, 43, 176]
abbrev dktJ4_removeLast_0 : List UInt8 := dkwJ4_removeLast_0 ++ []
theorem dksJ4_removeLast_0 : cJ4_removeLast.data.toList.drop 0 = dktJ4_removeLast_0 := by decide +kernel
theorem dJ4_removeLast_0 : decode cJ4_removeLast 0 = .ok (.aload_n 0, 1) := dk_42 (dk_at dksJ4_removeLast_0 0 rfl rfl)
theorem dJ4_removeLast_1 : decode cJ4_removeLast 1 = .ok (.invokevirtual 100, 3) := dk_182 0 100 (dk_at dksJ4_removeLast_0 1 rfl rfl)
theorem dJ4_removeLast_4 : decode cJ4_removeLast 4 = .ok (.astore_n 1, 1) := dk_76 (dk_at dksJ4_removeLast_0 4 rfl rfl)
theorem dJ4_removeLast_5 : decode cJ4_removeLast 5 = .ok (.aload_n 1, 1) := dk_43 (dk_at dksJ4_removeLast_0 5 rfl rfl)
theorem dJ4_removeLast_6 : decode cJ4_removeLast 6 = .ok (.ifnonnull 11, 3) := dk_199 0 11 (dk_at dksJ4_removeLast_0 6 rfl rfl)
theorem dJ4_removeLast_9 : decode cJ4_removeLast 9 = .ok (.new 97, 3) := dk_187 0 97 (dk_at dksJ4_removeLast_0 9 rfl rfl)
theorem dJ4_removeLast_12 : decode cJ4_removeLast 12 = .ok (.dup, 1) := dk_89 (dk_at dksJ4_removeLast_0 12 rfl rfl)
theorem dJ4_removeLast_13 : decode cJ4_removeLast 13 = .ok (.invokespecial 99, 3) := dk_183 0 99 (dk_at dksJ4_removeLast_0 13 rfl rfl)
theorem dJ4_removeLast_16 : decode cJ4_removeLast 16 = .ok (.athrow, 1) := dk_191 (dk_at dksJ4_removeLast_0 16 rfl rfl)
theorem dJ4_removeLast_17 : decode cJ4_removeLast 17 = .ok (.aload_n 1, 1) := dk_43 (dk_at dksJ4_removeLast_0 17 rfl rfl)
theorem dJ4_removeLast_18 : decode cJ4_removeLast 18 = .ok (.areturn, 1) := dk_176 (dk_at dksJ4_removeLast_0 18 rfl rfl)
def dkwJ4_pollLast_1 : List UInt8 := [198, 0, 12, 43, 42, 28, 90, 181, 0, 20, 1, 83, 45, 176]
abbrev dktJ4_pollLast_1 : List UInt8 := dkwJ4_pollLast_1 ++ []
def dkwJ4_pollLast_0 : List UInt8 := [42, 180, 0, 3, 89, 76, 42, 180, 0, 20, 43, 190, 184, 0, 68, 89, 61, 184, 0, 103, 78, 45]
abbrev dktJ4_pollLast_0 : List UInt8 := dkwJ4_pollLast_0 ++ dktJ4_pollLast_1
theorem dksJ4_pollLast_0 : cJ4_pollLast.data.toList.drop 0 = dktJ4_pollLast_0 := by decide +kernel
theorem dksJ4_pollLast_1 : cJ4_pollLast.data.toList.drop 22 = dktJ4_pollLast_1 := dk_seg dksJ4_pollLast_0 22 rfl rfl
theorem dJ4_pollLast_0 : decode cJ4_pollLast 0 = .ok (.aload_n 0, 1) := dk_42 (dk_at dksJ4_pollLast_0 0 rfl rfl)
theorem dJ4_pollLast_1 : decode cJ4_pollLast 1 = .ok (.getfield 3, 3) := dk_180 0 3 (dk_at dksJ4_pollLast_0 1 rfl rfl)
theorem dJ4_pollLast_4 : decode cJ4_pollLast 4 = .ok (.dup, 1) := dk_89 (dk_at dksJ4_pollLast_0 4 rfl rfl)
theorem dJ4_pollLast_5 : decode cJ4_pollLast 5 = .ok (.astore_n 1, 1) := dk_76 (dk_at dksJ4_pollLast_0 5 rfl rfl)
theorem dJ4_pollLast_6 : decode cJ4_pollLast 6 = .ok (.aload_n 0, 1) := dk_42 (dk_at dksJ4_pollLast_0 6 rfl rfl)
theorem dJ4_pollLast_7 : decode cJ4_pollLast 7 = .ok (.getfield 20, 3) := dk_180 0 20 (dk_at dksJ4_pollLast_0 7 rfl rfl)
theorem dJ4_pollLast_10 : decode cJ4_pollLast 10 = .ok (.aload_n 1, 1) := dk_43 (dk_at dksJ4_pollLast_0 10 rfl rfl)
theorem dJ4_pollLast_11 : decode cJ4_pollLast 11 = .ok (.arraylength, 1) := dk_190 (dk_at dksJ4_pollLast_0 11 rfl rfl)
theorem dJ4_pollLast_12 : decode cJ4_pollLast 12 = .ok (.invokestatic 68, 3) := dk_184 0 68 (dk_at dksJ4_pollLast_0 12 rfl rfl)
theorem dJ4_pollLast_15 : decode cJ4_pollLast 15 = .ok (.dup, 1) := dk_89 (dk_at dksJ4_pollLast_0 15 rfl rfl)
theorem dJ4_pollLast_16 : decode cJ4_pollLast 16 = .ok (.istore_n 2, 1) := dk_61 (dk_at dksJ4_pollLast_0 16 rfl rfl)
theorem dJ4_pollLast_17 : decode cJ4_pollLast 17 = .ok (.invokestatic 103, 3) := dk_184 0 103 (dk_at dksJ4_pollLast_0 17 rfl rfl)
theorem dJ4_pollLast_20 : decode cJ4_pollLast 20 = .ok (.astore_n 3, 1) := dk_78 (dk_at dksJ4_pollLast_0 20 rfl rfl)
theorem dJ4_pollLast_21 : decode cJ4_pollLast 21 = .ok (.aload_n 3, 1) := dk_45 (dk_at dksJ4_pollLast_0 21 rfl rfl)
theorem dJ4_pollLast_22 : decode cJ4_pollLast 22 = .ok (.ifnull 12, 3) := dk_198 0 12 (dk_at dksJ4_pollLast_1 0 rfl rfl)
theorem dJ4_pollLast_25 : decode cJ4_pollLast 25 = .ok (.aload_n 1, 1) := dk_43 (dk_at dksJ4_pollLast_1 3 rfl rfl)
theorem dJ4_pollLast_26 : decode cJ4_pollLast 26 = .ok (.aload_n 0, 1) := dk_42 (dk_at dksJ4_pollLast_1 4 rfl rfl)
theorem dJ4_pollLast_27 : decode cJ4_pollLast 27 = .ok (.iload_n 2, 1) := dk_28 (dk_at dksJ4_pollLast_1 5 rfl rfl)
theorem dJ4_pollLast_28 : decode cJ4_pollLast 28 = .ok (.dup_x1, 1) := dk_90 (dk_at dksJ4_pollLast_1 6 rfl rfl)
theorem dJ4_pollLast_29 : decode cJ4_pollLast 29 = .ok (.putfield 20, 3) := dk_181 0 20 (dk_at dksJ4_pollLast_1 7 rfl rfl)
theorem dJ4_pollLast_32 : decode cJ4_pollLast 32 = .ok (.aconst_null, 1) := dk_1 (dk_at dksJ4_pollLast_1 10 rfl rfl)
theorem dJ4_pollLast_33 : decode cJ4_pollLast 33 = .ok (.aastore, 1) := dk_83 (dk_at dksJ4_pollLast_1 11 rfl rfl)
theorem dJ4_pollLast_34 : decode cJ4_pollLast 34 = .ok (.aload_n 3, 1) := dk_45 (dk_at dksJ4_pollLast_1 12 rfl rfl)
theorem dJ4_pollLast_35 : decode cJ4_pollLast 35 = .ok (.areturn, 1) := dk_176 (dk_at dksJ4_pollLast_1 13 rfl rfl)
def dkwJ4_dec_0 : List UInt8 := [132, 0, 255, 26, 156, 0, 7, 27, 4, 100, 59, 26, 172]
abbrev dktJ4_dec_0 : List UInt8 := dkwJ4_dec_0 ++ []
theorem dksJ4_dec_0 : cJ4_dec.data.toList.drop 0 = dktJ4_dec_0 := by decide +kernel
theorem dJ4_dec_0 : decode cJ4_dec 0 = .ok (.iinc 0 (-1), 3) := dk_132 0 255 (dk_at dksJ4_dec_0 0 rfl rfl)
theorem dJ4_dec_3 : decode cJ4_dec 3 = .ok (.iload_n 0, 1) := dk_26 (dk_at dksJ4_dec_0 3 rfl rfl)
theorem dJ4_dec_4 : decode cJ4_dec 4 = .ok (.ifCond .ge 7, 3) := dk_156 0 7 (dk_at dksJ4_dec_0 4 rfl rfl)
theorem dJ4_dec_7 : decode cJ4_dec 7 = .ok (.iload_n 1, 1) := dk_27 (dk_at dksJ4_dec_0 7 rfl rfl)
theorem dJ4_dec_8 : decode cJ4_dec 8 = .ok (.iconst 1, 1) := dk_4 (dk_at dksJ4_dec_0 8 rfl rfl)
theorem dJ4_dec_9 : decode cJ4_dec 9 = .ok (.isub, 1) := dk_100 (dk_at dksJ4_dec_0 9 rfl rfl)
theorem dJ4_dec_10 : decode cJ4_dec 10 = .ok (.istore_n 0, 1) := dk_59 (dk_at dksJ4_dec_0 10 rfl rfl)
theorem dJ4_dec_11 : decode cJ4_dec 11 = .ok (.iload_n 0, 1) := dk_26 (dk_at dksJ4_dec_0 11 rfl rfl)
theorem dJ4_dec_12 : decode cJ4_dec 12 = .ok (.ireturn, 1) := dk_172 (dk_at dksJ4_dec_0 12 rfl rfl)
def dkwJ4_elementAt_0 : List UInt8 := [42, 27, 50, 176]
abbrev dktJ4_elementAt_0 : List UInt8 := dkwJ4_elementAt_0 ++ []
theorem dksJ4_elementAt_0 : cJ4_elementAt.data.toList.drop 0 = dktJ4_elementAt_0 := by decide +kernel
theorem dJ4_elementAt_0 : decode cJ4_elementAt 0 = .ok (.aload_n 0, 1) := dk_42 (dk_at dksJ4_elementAt_0 0 rfl rfl)
theorem dJ4_elementAt_1 : decode cJ4_elementAt 1 = .ok (.iload_n 1, 1) := dk_27 (dk_at dksJ4_elementAt_0 1 rfl rfl)
theorem dJ4_elementAt_2 : decode cJ4_elementAt 2 = .ok (.aaload, 1) := dk_50 (dk_at dksJ4_elementAt_0 2 rfl rfl)
theorem dJ4_elementAt_3 : decode cJ4_elementAt 3 = .ok (.areturn, 1) := dk_176 (dk_at dksJ4_elementAt_0 3 rfl rfl)
def dkwJ4_size_0 : List UInt8 := [42, 180, 0, 20, 42, 180, 0, 24, 42, 180, 0, 3, 190, 184, 0, 127, 172]
abbrev dktJ4_size_0 : List UInt8 := dkwJ4_size_0 ++ []
theorem dksJ4_size_0 : cJ4_size.data.toList.drop 0 = dktJ4_size_0 := by decide +kernel
theorem dJ4_size_0 : decode cJ4_size 0 = .ok (.aload_n 0, 1) := dk_42 (dk_at dksJ4_size_0 0 rfl rfl)
theorem dJ4_size_1 : decode cJ4_size 1 = .ok (.getfield 20, 3) := dk_180 0 20 (dk_at dksJ4_size_0 1 rfl rfl)
theorem dJ4_size_4 : decode cJ4_size 4 = .ok (.aload_n 0, 1) := dk_42 (dk_at dksJ4_size_0 4 rfl rfl)
theorem dJ4_size_5 : decode cJ4_size 5 = .ok (.getfield 24, 3) := dk_180 0 24 (dk_at dksJ4_size_0 5 rfl rfl)
theorem dJ4_size_8 : decode cJ4_size 8 = .ok (.aload_n 0, 1) := dk_42 (dk_at dksJ4_size_0 8 rfl rfl)
theorem dJ4_size_9 : decode cJ4_size 9 = .ok (.getfield 3, 3) := dk_180 0 3 (dk_at dksJ4_size_0 9 rfl rfl)
theorem dJ4_size_12 : decode cJ4_size 12 = .ok (.arraylength, 1) := dk_190 (dk_at dksJ4_size_0 12 rfl rfl)
theorem dJ4_size_13 : decode cJ4_size 13 = .ok (.invokestatic 127, 3) := dk_184 0 127 (dk_at dksJ4_size_0 13 rfl rfl)
theorem dJ4_size_16 : decode cJ4_size 16 = .ok (.ireturn, 1) := dk_172 (dk_at dksJ4_size_0 16 rfl rfl)
def dkwJ4_sub_0 : List UInt8 := [26, 27, 100, 89, 59, 156, 0, 7, 26, 28, 96, 59, 26, 172]
abbrev dktJ4_sub_0 : List UInt8 := dkwJ4_sub_0 ++ []
theorem dksJ4_sub_0 : cJ4_sub.data.toList.drop 0 = dktJ4_sub_0 := by decide +kernel
theorem dJ4_sub_0 : decode cJ4_sub 0 = .ok (.iload_n 0, 1) := dk_26 (dk_at dksJ4_sub_0 0 rfl rfl)
theorem dJ4_sub_1 : decode cJ4_sub 1 = .ok (.iload_n 1, 1) := dk_27 (dk_at dksJ4_sub_0 1 rfl rfl)
theorem dJ4_sub_2 : decode cJ4_sub 2 = .ok (.isub, 1) := dk_100 (dk_at dksJ4_sub_0 2 rfl rfl)
theorem dJ4_sub_3 : decode cJ4_sub 3 = .ok (.dup, 1) := dk_89 (dk_at dksJ4_sub_0 3 rfl rfl)
theorem dJ4_sub_4 : decode cJ4_sub 4 = .ok (.istore_n 0, 1) := dk_59 (dk_at dksJ4_sub_0 4 rfl rfl)
theorem dJ4_sub_5 : decode cJ4_sub 5 = .ok (.ifCond .ge 7, 3) := dk_156 0 7 (dk_at dksJ4_sub_0 5 rfl rfl)
theorem dJ4_sub_8 : decode cJ4_sub 8 = .ok (.iload_n 0, 1) := dk_26 (dk_at dksJ4_sub_0 8 rfl rfl)
theorem dJ4_sub_9 : decode cJ4_sub 9 = .ok (.iload_n 2, 1) := dk_28 (dk_at dksJ4_sub_0 9 rfl rfl)
theorem dJ4_sub_10 : decode cJ4_sub 10 = .ok (.iadd, 1) := dk_96 (dk_at dksJ4_sub_0 10 rfl rfl)
theorem dJ4_sub_11 : decode cJ4_sub 11 = .ok (.istore_n 0, 1) := dk_59 (dk_at dksJ4_sub_0 11 rfl rfl)
theorem dJ4_sub_12 : decode cJ4_sub 12 = .ok (.iload_n 0, 1) := dk_26 (dk_at dksJ4_sub_0 12 rfl rfl)
theorem dJ4_sub_13 : decode cJ4_sub 13 = .ok (.ireturn, 1) := dk_172 (dk_at dksJ4_sub_0 13 rfl rfl)
def dkwJ4_removeFirst_0 : List UInt8 := [42, 182, 0, 93, 76, 43, 199, 0, 11, 187, 0, 97, 89, 183, 0, 99, 191, 43, 176]
abbrev dktJ4_removeFirst_0 : List UInt8 := dkwJ4_removeFirst_0 ++ []
theorem dksJ4_removeFirst_0 : cJ4_removeFirst.data.toList.drop 0 = dktJ4_removeFirst_0 := by decide +kernel
theorem dJ4_removeFirst_0 : decode cJ4_removeFirst 0 = .ok (.aload_n 0, 1) := dk_42 (dk_at dksJ4_removeFirst_0 0 rfl rfl)
theorem dJ4_removeFirst_1 : decode cJ4_removeFirst 1 = .ok (.invokevirtual 93, 3) := dk_182 0 93 (dk_at dksJ4_removeFirst_0 1 rfl rfl)
theorem dJ4_removeFirst_4 : decode cJ4_removeFirst 4 = .ok (.astore_n 1, 1) := dk_76 (dk_at dksJ4_removeFirst_0 4 rfl rfl)
theorem dJ4_removeFirst_5 : decode cJ4_removeFirst 5 = .ok (.aload_n 1, 1) := dk_43 (dk_at dksJ4_removeFirst_0 5 rfl rfl)
theorem dJ4_removeFirst_6 : decode cJ4_removeFirst 6 = .ok (.ifnonnull 11, 3) := dk_199 0 11 (dk_at dksJ4_removeFirst_0 6 rfl rfl)
theorem dJ4_removeFirst_9 : decode cJ4_removeFirst 9 = .ok (.new 97, 3) := dk_187 0 97 (dk_at dksJ4_removeFirst_0 9 rfl rfl)
theorem dJ4_removeFirst_12 : decode cJ4_removeFirst 12 = .ok (.dup, 1) := dk_89 (dk_at dksJ4_removeFirst_0 12 rfl rfl)
theorem dJ4_removeFirst_13 : decode cJ4_removeFirst 13 = .ok (.invokespecial 99, 3) := dk_183 0 99 (dk_at dksJ4_removeFirst_0 13 rfl rfl)
theorem dJ4_removeFirst_16 : decode cJ4_removeFirst 16 = .ok (.athrow, 1) := dk_191 (dk_at dksJ4_removeFirst_0 16 rfl rfl)
theorem dJ4_removeFirst_17 : decode cJ4_removeFirst 17 = .ok (.aload_n 1, 1) := dk_43 (dk_at dksJ4_removeFirst_0 17 rfl rfl)
theorem dJ4_removeFirst_18 : decode cJ4_removeFirst 18 = .ok (.areturn, 1) := dk_176 (dk_at dksJ4_removeFirst_0 18 rfl rfl)
def dkwJ4_pollFirst_1 : List UInt8 := [42, 28, 43, 190, 184, 0, 74, 181, 0, 24, 45, 176]
abbrev dktJ4_pollFirst_1 : List UInt8 := dkwJ4_pollFirst_1 ++ []
def dkwJ4_pollFirst_0 : List UInt8 := [42, 180, 0, 3, 89, 76, 42, 180, 0, 24, 89, 61, 184, 0, 103, 78, 45, 198, 0, 17, 43, 28, 1, 83]
abbrev dktJ4_pollFirst_0 : List UInt8 := dkwJ4_pollFirst_0 ++ dktJ4_pollFirst_1
theorem dksJ4_pollFirst_0 : cJ4_pollFirst.data.toList.drop 0 = dktJ4_pollFirst_0 := by decide +kernel
theorem dksJ4_pollFirst_1 : cJ4_pollFirst.data.toList.drop 24 = dktJ4_pollFirst_1 := dk_seg dksJ4_pollFirst_0 24 rfl rfl
theorem dJ4_pollFirst_0 : decode cJ4_pollFirst 0 = .ok (.aload_n 0, 1) := dk_42 (dk_at dksJ4_pollFirst_0 0 rfl rfl)
theorem dJ4_pollFirst_1 : decode cJ4_pollFirst 1 = .ok (.getfield 3, 3) := dk_180 0 3 (dk_at dksJ4_pollFirst_0 1 rfl rfl)
theorem dJ4_pollFirst_4 : decode cJ4_pollFirst 4 = .ok (.dup, 1) := dk_89 (dk_at dksJ4_pollFirst_0 4 rfl rfl)
theorem dJ4_pollFirst_5 : decode cJ4_pollFirst 5 = .ok (.astore_n 1, 1) := dk_76 (dk_at dksJ4_pollFirst_0 5 rfl rfl)
theorem dJ4_pollFirst_6 : decode cJ4_pollFirst 6 = .ok (.aload_n 0, 1) := dk_42 (dk_at dksJ4_pollFirst_0 6 rfl rfl)
theorem dJ4_pollFirst_7 : decode cJ4_pollFirst 7 = .ok (.getfield 24, 3) := dk_180 0 24 (dk_at dksJ4_pollFirst_0 7 rfl rfl)
theorem dJ4_pollFirst_10 : decode cJ4_pollFirst 10 = .ok (.dup, 1) := dk_89 (dk_at dksJ4_pollFirst_0 10 rfl rfl)
theorem dJ4_pollFirst_11 : decode cJ4_pollFirst 11 = .ok (.istore_n 2, 1) := dk_61 (dk_at dksJ4_pollFirst_0 11 rfl rfl)
theorem dJ4_pollFirst_12 : decode cJ4_pollFirst 12 = .ok (.invokestatic 103, 3) := dk_184 0 103 (dk_at dksJ4_pollFirst_0 12 rfl rfl)
theorem dJ4_pollFirst_15 : decode cJ4_pollFirst 15 = .ok (.astore_n 3, 1) := dk_78 (dk_at dksJ4_pollFirst_0 15 rfl rfl)
theorem dJ4_pollFirst_16 : decode cJ4_pollFirst 16 = .ok (.aload_n 3, 1) := dk_45 (dk_at dksJ4_pollFirst_0 16 rfl rfl)
theorem dJ4_pollFirst_17 : decode cJ4_pollFirst 17 = .ok (.ifnull 17, 3) := dk_198 0 17 (dk_at dksJ4_pollFirst_0 17 rfl rfl)
theorem dJ4_pollFirst_20 : decode cJ4_pollFirst 20 = .ok (.aload_n 1, 1) := dk_43 (dk_at dksJ4_pollFirst_0 20 rfl rfl)
theorem dJ4_pollFirst_21 : decode cJ4_pollFirst 21 = .ok (.iload_n 2, 1) := dk_28 (dk_at dksJ4_pollFirst_0 21 rfl rfl)
theorem dJ4_pollFirst_22 : decode cJ4_pollFirst 22 = .ok (.aconst_null, 1) := dk_1 (dk_at dksJ4_pollFirst_0 22 rfl rfl)
theorem dJ4_pollFirst_23 : decode cJ4_pollFirst 23 = .ok (.aastore, 1) := dk_83 (dk_at dksJ4_pollFirst_0 23 rfl rfl)
theorem dJ4_pollFirst_24 : decode cJ4_pollFirst 24 = .ok (.aload_n 0, 1) := dk_42 (dk_at dksJ4_pollFirst_1 0 rfl rfl)
theorem dJ4_pollFirst_25 : decode cJ4_pollFirst 25 = .ok (.iload_n 2, 1) := dk_28 (dk_at dksJ4_pollFirst_1 1 rfl rfl)
theorem dJ4_pollFirst_26 : decode cJ4_pollFirst 26 = .ok (.aload_n 1, 1) := dk_43 (dk_at dksJ4_pollFirst_1 2 rfl rfl)
theorem dJ4_pollFirst_27 : decode cJ4_pollFirst 27 = .ok (.arraylength, 1) := dk_190 (dk_at dksJ4_pollFirst_1 3 rfl rfl)
theorem dJ4_pollFirst_28 : decode cJ4_pollFirst 28 = .ok (.invokestatic 74, 3) := dk_184 0 74 (dk_at dksJ4_pollFirst_1 4 rfl rfl)
theorem dJ4_pollFirst_31 : decode cJ4_pollFirst 31 = .ok (.putfield 24, 3) := dk_181 0 24 (dk_at dksJ4_pollFirst_1 7 rfl rfl)
theorem dJ4_pollFirst_34 : decode cJ4_pollFirst 34 = .ok (.aload_n 3, 1) := dk_45 (dk_at dksJ4_pollFirst_1 10 rfl rfl)
theorem dJ4_pollFirst_35 : decode cJ4_pollFirst 35 = .ok (.areturn, 1) := dk_176 (dk_at dksJ4_pollFirst_1 11 rfl rfl)
def dkwJ4_inc_0 : List UInt8 := [132, 0, 1, 26, 27, 161, 0, 5, 3, 59, 26, 172]
abbrev dktJ4_inc_0 : List UInt8 := dkwJ4_inc_0 ++ []
theorem dksJ4_inc_0 : cJ4_inc.data.toList.drop 0 = dktJ4_inc_0 := by decide +kernel
theorem dJ4_inc_0 : decode cJ4_inc 0 = .ok (.iinc 0 1, 3) := dk_132 0 1 (dk_at dksJ4_inc_0 0 rfl rfl)
theorem dJ4_inc_3 : decode cJ4_inc 3 = .ok (.iload_n 0, 1) := dk_26 (dk_at dksJ4_inc_0 3 rfl rfl)
theorem dJ4_inc_4 : decode cJ4_inc 4 = .ok (.iload_n 1, 1) := dk_27 (dk_at dksJ4_inc_0 4 rfl rfl)
theorem dJ4_inc_5 : decode cJ4_inc 5 = .ok (.if_icmp .lt 5, 3) := dk_161 0 5 (dk_at dksJ4_inc_0 5 rfl rfl)
theorem dJ4_inc_8 : decode cJ4_inc 8 = .ok (.iconst 0, 1) := dk_3 (dk_at dksJ4_inc_0 8 rfl rfl)
theorem dJ4_inc_9 : decode cJ4_inc 9 = .ok (.istore_n 0, 1) := dk_59 (dk_at dksJ4_inc_0 9 rfl rfl)
theorem dJ4_inc_10 : decode cJ4_inc 10 = .ok (.iload_n 0, 1) := dk_26 (dk_at dksJ4_inc_0 10 rfl rfl)
theorem dJ4_inc_11 : decode cJ4_inc 11 = .ok (.ireturn, 1) := dk_172 (dk_at dksJ4_inc_0 11 rfl rfl)
def dkwJ4_addLast_2 : List UInt8 := [182, 0, 71, 177]
abbrev dktJ4_addLast_2 : List UInt8 := dkwJ4_addLast_2 ++ []
def dkwJ4_addLast_1 : List UInt8 := [42, 180, 0, 24, 42, 42, 180, 0, 20, 44, 190, 184, 0, 74, 90, 181, 0, 20, 160, 0, 8, 42, 4]
abbrev dktJ4_addLast_1 : List UInt8 := dkwJ4_addLast_1 ++ dktJ4_addLast_2
def dkwJ4_addLast_0 : List UInt8 := [43, 199, 0, 11, 187, 0, 65, 89, 183, 0, 67, 191, 42, 180, 0, 3, 77, 44, 42, 180, 0, 20, 43, 83]
abbrev dktJ4_addLast_0 : List UInt8 := dkwJ4_addLast_0 ++ dktJ4_addLast_1
theorem dksJ4_addLast_0 : cJ4_addLast.data.toList.drop 0 = dktJ4_addLast_0 := by decide +kernel
theorem dksJ4_addLast_1 : cJ4_addLast.data.toList.drop 24 = dktJ4_addLast_1 := dk_seg dksJ4_addLast_0 24 rfl rfl
theorem dksJ4_addLast_2 : cJ4_addLast.data.toList.drop 47 = dktJ4_addLast_2 := dk_seg dksJ4_addLast_1 23 rfl rfl
theorem dJ4_addLast_0 : decode cJ4_addLast 0 = .ok (.aload_n 1, 1) := dk_43 (dk_at dksJ4_addLast_0 0 rfl rfl)
theorem dJ4_addLast_1 : decode cJ4_addLast 1 = .ok (.ifnonnull 11, 3) := dk_199 0 11 (dk_at dksJ4_addLast_0 1 rfl rfl)
theorem dJ4_addLast_4 : decode cJ4_addLast 4 = .ok (.new 65, 3) := dk_187 0 65 (dk_at dksJ4_addLast_0 4 rfl rfl)
theorem dJ4_addLast_7 : decode cJ4_addLast 7 = .ok (.dup, 1) := dk_89 (dk_at dksJ4_addLast_0 7 rfl rfl)
theorem dJ4_addLast_8 : decode cJ4_addLast 8 = .ok (.invokespecial 67, 3) := dk_183 0 67 (dk_at dksJ4_addLast_0 8 rfl rfl)
theorem dJ4_addLast_11 : decode cJ4_addLast 11 = .ok (.athrow, 1) := dk_191 (dk_at dksJ4_addLast_0 11 rfl rfl)
theorem dJ4_addLast_12 : decode cJ4_addLast 12 = .ok (.aload_n 0, 1) := dk_42 (dk_at dksJ4_addLast_0 12 rfl rfl)
theorem dJ4_addLast_13 : decode cJ4_addLast 13 = .ok (.getfield 3, 3) := dk_180 0 3 (dk_at dksJ4_addLast_0 13 rfl rfl)
theorem dJ4_addLast_16 : decode cJ4_addLast 16 = .ok (.astore_n 2, 1) := dk_77 (dk_at dksJ4_addLast_0 16 rfl rfl)
theorem dJ4_addLast_17 : decode cJ4_addLast 17 = .ok (.aload_n 2, 1) := dk_44 (dk_at dksJ4_addLast_0 17 rfl rfl)
theorem dJ4_addLast_18 : decode cJ4_addLast 18 = .ok (.aload_n 0, 1) := dk_42 (dk_at dksJ4_addLast_0 18 rfl rfl)
theorem dJ4_addLast_19 : decode cJ4_addLast 19 = .ok (.getfield 20, 3) := dk_180 0 20 (dk_at dksJ4_addLast_0 19 rfl rfl)
theorem dJ4_addLast_22 : decode cJ4_addLast 22 = .ok (.aload_n 1, 1) := dk_43 (dk_at dksJ4_addLast_0 22 rfl rfl)
theorem dJ4_addLast_23 : decode cJ4_addLast 23 = .ok (.aastore, 1) := dk_83 (dk_at dksJ4_addLast_0 23 rfl rfl)
theorem dJ4_addLast_24 : decode cJ4_addLast 24 = .ok (.aload_n 0, 1) := dk_42 (dk_at dksJ4_addLast_1 0 rfl rfl)
theorem dJ4_addLast_25 : decode cJ4_addLast 25 = .ok (.getfield 24, 3) := dk_180 0 24 (dk_at dksJ4_addLast_1 1 rfl rfl)
theorem dJ4_addLast_28 : decode cJ4_addLast 28 = .ok (.aload_n 0, 1) := dk_42 (dk_at dksJ4_addLast_1 4 rfl rfl)
theorem dJ4_addLast_29 : decode cJ4_addLast 29 = .ok (.aload_n 0, 1) := dk_42 (dk_at dksJ4_addLast_1 5 rfl rfl)
theorem dJ4_addLast_30 : decode cJ4_addLast 30 = .ok (.getfield 20, 3) := dk_180 0 20 (dk_at dksJ4_addLast_1 6 rfl rfl)
theorem dJ4_addLast_33 : decode cJ4_addLast 33 = .ok (.aload_n 2, 1) := dk_44 (dk_at dksJ4_addLast_1 9 rfl rfl)
theorem dJ4_addLast_34 : decode cJ4_addLast 34 = .ok (.arraylength, 1) := dk_190 (dk_at dksJ4_addLast_1 10 rfl rfl)
theorem dJ4_addLast_35 : decode cJ4_addLast 35 = .ok (.invokestatic 74, 3) := dk_184 0 74 (dk_at dksJ4_addLast_1 11 rfl rfl)
theorem dJ4_addLast_38 : decode cJ4_addLast 38 = .ok (.dup_x1, 1) := dk_90 (dk_at dksJ4_addLast_1 14 rfl rfl)
theorem dJ4_addLast_39 : decode cJ4_addLast 39 = .ok (.putfield 20, 3) := dk_181 0 20 (dk_at dksJ4_addLast_1 15 rfl rfl)
theorem dJ4_addLast_42 : decode cJ4_addLast 42 = .ok (.if_icmp .ne 8, 3) := dk_160 0 8 (dk_at dksJ4_addLast_1 18 rfl rfl)
theorem dJ4_addLast_45 : decode cJ4_addLast 45 = .ok (.aload_n 0, 1) := dk_42 (dk_at dksJ4_addLast_1 21 rfl rfl)
theorem dJ4_addLast_46 : decode cJ4_addLast 46 = .ok (.iconst 1, 1) := dk_4 (dk_at dksJ4_addLast_1 22 rfl rfl)
theorem dJ4_addLast_47 : decode cJ4_addLast 47 = .ok (.invokevirtual 71, 3) := dk_182 0 71 (dk_at dksJ4_addLast_2 0 rfl rfl)
theorem dJ4_addLast_50 : decode cJ4_addLast 50 = .ok (.return_, 1) := dk_177 (dk_at dksJ4_addLast_2 3 rfl rfl)
def dkwJ4_grow_7 : List UInt8 := [177]
abbrev dktJ4_grow_7 : List UInt8 := dkwJ4_grow_7 ++ []
def dkwJ4_grow_6 : List UInt8 := [181, 0, 24, 54, 8, 21, 7, 21, 8, 162, 0, 15, 25, 5, 21, 7, 1, 83, 132, 7, 1, 167, 255, 240]
abbrev dktJ4_grow_6 : List UInt8 := dkwJ4_grow_6 ++ dktJ4_grow_7
def dkwJ4_grow_5 : List UInt8 := [42, 180, 0, 24, 100, 184, 0, 27, 42, 180, 0, 24, 54, 7, 42, 89, 180, 0, 24, 21, 6, 96, 90]
abbrev dktJ4_grow_5 : List UInt8 := dkwJ4_grow_5 ++ dktJ4_grow_6
def dkwJ4_grow_4 : List UInt8 := [198, 0, 71, 29, 28, 100, 54, 6, 25, 5, 42, 180, 0, 24, 25, 5, 42, 180, 0, 24, 21, 6, 96, 28]
abbrev dktJ4_grow_4 : List UInt8 := dkwJ4_grow_4 ++ dktJ4_grow_5
def dkwJ4_grow_3 : List UInt8 := [180, 0, 24, 161, 0, 24, 42, 180, 0, 20, 42, 180, 0, 24, 160, 0, 81, 25, 5, 42, 180, 0, 24, 50]
abbrev dktJ4_grow_3 : List UInt8 := dkwJ4_grow_3 ++ dktJ4_grow_4
def dkwJ4_grow_2 : List UInt8 := [182, 0, 10, 62, 42, 42, 180, 0, 3, 29, 184, 0, 14, 90, 181, 0, 3, 58, 5, 42, 180, 0, 20, 42]
abbrev dktJ4_grow_2 : List UInt8 := dkwJ4_grow_2 ++ dktJ4_grow_3
def dkwJ4_grow_1 : List UInt8 := [21, 4, 27, 161, 0, 15, 28, 21, 4, 96, 89, 62, 18, 9, 100, 158, 0, 11, 42, 27, 21, 4]
abbrev dktJ4_grow_1 : List UInt8 := dkwJ4_grow_1 ++ dktJ4_grow_2
def dkwJ4_grow_0 : List UInt8 := [42, 180, 0, 3, 190, 61, 28, 16, 64, 162, 0, 9, 28, 5, 96, 167, 0, 6, 28, 4, 122, 54, 4]
abbrev dktJ4_grow_0 : List UInt8 := dkwJ4_grow_0 ++ dktJ4_grow_1
theorem dksJ4_grow_0 : cJ4_grow.data.toList.drop 0 = dktJ4_grow_0 := by decide +kernel
theorem dksJ4_grow_1 : cJ4_grow.data.toList.drop 23 = dktJ4_grow_1 := dk_seg dksJ4_grow_0 23 rfl rfl
theorem dksJ4_grow_2 : cJ4_grow.data.toList.drop 45 = dktJ4_grow_2 := dk_seg dksJ4_grow_1 22 rfl rfl
theorem dksJ4_grow_3 : cJ4_grow.data.toList.drop 69 = dktJ4_grow_3 := dk_seg dksJ4_grow_2 24 rfl rfl
theorem dksJ4_grow_4 : cJ4_grow.data.toList.drop 93 = dktJ4_grow_4 := dk_seg dksJ4_grow_3 24 rfl rfl
theorem dksJ4_grow_5 : cJ4_grow.data.toList.drop 117 = dktJ4_grow_5 := dk_seg dksJ4_grow_4 24 rfl rfl
theorem dksJ4_grow_6 : cJ4_grow.data.toList.drop 140 = dktJ4_grow_6 := dk_seg dksJ4_grow_5 23 rfl rfl
theorem dksJ4_grow_7 : cJ4_grow.data.toList.drop 164 = dktJ4_grow_7 := dk_seg dksJ4_grow_6 24 rfl rfl
theorem dJ4_grow_0 : decode cJ4_grow 0 = .ok (.aload_n 0, 1) := dk_42 (dk_at dksJ4_grow_0 0 rfl rfl)
theorem dJ4_grow_1 : decode cJ4_grow 1 = .ok (.getfield 3, 3) := dk_180 0 3 (dk_at dksJ4_grow_0 1 rfl rfl)
theorem dJ4_grow_4 : decode cJ4_grow 4 = .ok (.arraylength, 1) := dk_190 (dk_at dksJ4_grow_0 4 rfl rfl)
theorem dJ4_grow_5 : decode cJ4_grow 5 = .ok (.istore_n 2, 1) := dk_61 (dk_at dksJ4_grow_0 5 rfl rfl)
theorem dJ4_grow_6 : decode cJ4_grow 6 = .ok (.iload_n 2, 1) := dk_28 (dk_at dksJ4_grow_0 6 rfl rfl)
theorem dJ4_grow_7 : decode cJ4_grow 7 = .ok (.bipush 64, 2) := dk_16 64 (dk_at dksJ4_grow_0 7 rfl rfl)
theorem dJ4_grow_9 : decode cJ4_grow 9 = .ok (.if_icmp .ge 9, 3) := dk_162 0 9 (dk_at dksJ4_grow_0 9 rfl rfl)
theorem dJ4_grow_12 : decode cJ4_grow 12 = .ok (.iload_n 2, 1) := dk_28 (dk_at dksJ4_grow_0 12 rfl rfl)
theorem dJ4_grow_13 : decode cJ4_grow 13 = .ok (.iconst 2, 1) := dk_5 (dk_at dksJ4_grow_0 13 rfl rfl)
theorem dJ4_grow_14 : decode cJ4_grow 14 = .ok (.iadd, 1) := dk_96 (dk_at dksJ4_grow_0 14 rfl rfl)
theorem dJ4_grow_15 : decode cJ4_grow 15 = .ok (.goto 6, 3) := dk_167 0 6 (dk_at dksJ4_grow_0 15 rfl rfl)
theorem dJ4_grow_18 : decode cJ4_grow 18 = .ok (.iload_n 2, 1) := dk_28 (dk_at dksJ4_grow_0 18 rfl rfl)
theorem dJ4_grow_19 : decode cJ4_grow 19 = .ok (.iconst 1, 1) := dk_4 (dk_at dksJ4_grow_0 19 rfl rfl)
theorem dJ4_grow_20 : decode cJ4_grow 20 = .ok (.ishr, 1) := dk_122 (dk_at dksJ4_grow_0 20 rfl rfl)
theorem dJ4_grow_21 : decode cJ4_grow 21 = .ok (.istore 4, 2) := dk_54 4 (dk_at dksJ4_grow_0 21 rfl rfl)
theorem dJ4_grow_23 : decode cJ4_grow 23 = .ok (.iload 4, 2) := dk_21 4 (dk_at dksJ4_grow_1 0 rfl rfl)
theorem dJ4_grow_25 : decode cJ4_grow 25 = .ok (.iload_n 1, 1) := dk_27 (dk_at dksJ4_grow_1 2 rfl rfl)
theorem dJ4_grow_26 : decode cJ4_grow 26 = .ok (.if_icmp .lt 15, 3) := dk_161 0 15 (dk_at dksJ4_grow_1 3 rfl rfl)
theorem dJ4_grow_29 : decode cJ4_grow 29 = .ok (.iload_n 2, 1) := dk_28 (dk_at dksJ4_grow_1 6 rfl rfl)
theorem dJ4_grow_30 : decode cJ4_grow 30 = .ok (.iload 4, 2) := dk_21 4 (dk_at dksJ4_grow_1 7 rfl rfl)
theorem dJ4_grow_32 : decode cJ4_grow 32 = .ok (.iadd, 1) := dk_96 (dk_at dksJ4_grow_1 9 rfl rfl)
theorem dJ4_grow_33 : decode cJ4_grow 33 = .ok (.dup, 1) := dk_89 (dk_at dksJ4_grow_1 10 rfl rfl)
theorem dJ4_grow_34 : decode cJ4_grow 34 = .ok (.istore_n 3, 1) := dk_62 (dk_at dksJ4_grow_1 11 rfl rfl)
theorem dJ4_grow_35 : decode cJ4_grow 35 = .ok (.ldc 9, 2) := dk_18 9 (dk_at dksJ4_grow_1 12 rfl rfl)
theorem dJ4_grow_37 : decode cJ4_grow 37 = .ok (.isub, 1) := dk_100 (dk_at dksJ4_grow_1 14 rfl rfl)
theorem dJ4_grow_38 : decode cJ4_grow 38 = .ok (.ifCond .le 11, 3) := dk_158 0 11 (dk_at dksJ4_grow_1 15 rfl rfl)
theorem dJ4_grow_41 : decode cJ4_grow 41 = .ok (.aload_n 0, 1) := dk_42 (dk_at dksJ4_grow_1 18 rfl rfl)
theorem dJ4_grow_42 : decode cJ4_grow 42 = .ok (.iload_n 1, 1) := dk_27 (dk_at dksJ4_grow_1 19 rfl rfl)
theorem dJ4_grow_43 : decode cJ4_grow 43 = .ok (.iload 4, 2) := dk_21 4 (dk_at dksJ4_grow_1 20 rfl rfl)
theorem dJ4_grow_45 : decode cJ4_grow 45 = .ok (.invokevirtual 10, 3) := dk_182 0 10 (dk_at dksJ4_grow_2 0 rfl rfl)
theorem dJ4_grow_48 : decode cJ4_grow 48 = .ok (.istore_n 3, 1) := dk_62 (dk_at dksJ4_grow_2 3 rfl rfl)
theorem dJ4_grow_49 : decode cJ4_grow 49 = .ok (.aload_n 0, 1) := dk_42 (dk_at dksJ4_grow_2 4 rfl rfl)
theorem dJ4_grow_50 : decode cJ4_grow 50 = .ok (.aload_n 0, 1) := dk_42 (dk_at dksJ4_grow_2 5 rfl rfl)
theorem dJ4_grow_51 : decode cJ4_grow 51 = .ok (.getfield 3, 3) := dk_180 0 3 (dk_at dksJ4_grow_2 6 rfl rfl)
theorem dJ4_grow_54 : decode cJ4_grow 54 = .ok (.iload_n 3, 1) := dk_29 (dk_at dksJ4_grow_2 9 rfl rfl)
theorem dJ4_grow_55 : decode cJ4_grow 55 = .ok (.invokestatic 14, 3) := dk_184 0 14 (dk_at dksJ4_grow_2 10 rfl rfl)
theorem dJ4_grow_58 : decode cJ4_grow 58 = .ok (.dup_x1, 1) := dk_90 (dk_at dksJ4_grow_2 13 rfl rfl)
theorem dJ4_grow_59 : decode cJ4_grow 59 = .ok (.putfield 3, 3) := dk_181 0 3 (dk_at dksJ4_grow_2 14 rfl rfl)
theorem dJ4_grow_62 : decode cJ4_grow 62 = .ok (.astore 5, 2) := dk_58 5 (dk_at dksJ4_grow_2 17 rfl rfl)
theorem dJ4_grow_64 : decode cJ4_grow 64 = .ok (.aload_n 0, 1) := dk_42 (dk_at dksJ4_grow_2 19 rfl rfl)
theorem dJ4_grow_65 : decode cJ4_grow 65 = .ok (.getfield 20, 3) := dk_180 0 20 (dk_at dksJ4_grow_2 20 rfl rfl)
theorem dJ4_grow_68 : decode cJ4_grow 68 = .ok (.aload_n 0, 1) := dk_42 (dk_at dksJ4_grow_2 23 rfl rfl)
theorem dJ4_grow_69 : decode cJ4_grow 69 = .ok (.getfield 24, 3) := dk_180 0 24 (dk_at dksJ4_grow_3 0 rfl rfl)
theorem dJ4_grow_72 : decode cJ4_grow 72 = .ok (.if_icmp .lt 24, 3) := dk_161 0 24 (dk_at dksJ4_grow_3 3 rfl rfl)
theorem dJ4_grow_75 : decode cJ4_grow 75 = .ok (.aload_n 0, 1) := dk_42 (dk_at dksJ4_grow_3 6 rfl rfl)
theorem dJ4_grow_76 : decode cJ4_grow 76 = .ok (.getfield 20, 3) := dk_180 0 20 (dk_at dksJ4_grow_3 7 rfl rfl)
theorem dJ4_grow_79 : decode cJ4_grow 79 = .ok (.aload_n 0, 1) := dk_42 (dk_at dksJ4_grow_3 10 rfl rfl)
theorem dJ4_grow_80 : decode cJ4_grow 80 = .ok (.getfield 24, 3) := dk_180 0 24 (dk_at dksJ4_grow_3 11 rfl rfl)
theorem dJ4_grow_83 : decode cJ4_grow 83 = .ok (.if_icmp .ne 81, 3) := dk_160 0 81 (dk_at dksJ4_grow_3 14 rfl rfl)
theorem dJ4_grow_86 : decode cJ4_grow 86 = .ok (.aload 5, 2) := dk_25 5 (dk_at dksJ4_grow_3 17 rfl rfl)
theorem dJ4_grow_88 : decode cJ4_grow 88 = .ok (.aload_n 0, 1) := dk_42 (dk_at dksJ4_grow_3 19 rfl rfl)
theorem dJ4_grow_89 : decode cJ4_grow 89 = .ok (.getfield 24, 3) := dk_180 0 24 (dk_at dksJ4_grow_3 20 rfl rfl)
theorem dJ4_grow_92 : decode cJ4_grow 92 = .ok (.aaload, 1) := dk_50 (dk_at dksJ4_grow_3 23 rfl rfl)
theorem dJ4_grow_93 : decode cJ4_grow 93 = .ok (.ifnull 71, 3) := dk_198 0 71 (dk_at dksJ4_grow_4 0 rfl rfl)
theorem dJ4_grow_96 : decode cJ4_grow 96 = .ok (.iload_n 3, 1) := dk_29 (dk_at dksJ4_grow_4 3 rfl rfl)
theorem dJ4_grow_97 : decode cJ4_grow 97 = .ok (.iload_n 2, 1) := dk_28 (dk_at dksJ4_grow_4 4 rfl rfl)
theorem dJ4_grow_98 : decode cJ4_grow 98 = .ok (.isub, 1) := dk_100 (dk_at dksJ4_grow_4 5 rfl rfl)
theorem dJ4_grow_99 : decode cJ4_grow 99 = .ok (.istore 6, 2) := dk_54 6 (dk_at dksJ4_grow_4 6 rfl rfl)
theorem dJ4_grow_101 : decode cJ4_grow 101 = .ok (.aload 5, 2) := dk_25 5 (dk_at dksJ4_grow_4 8 rfl rfl)
theorem dJ4_grow_103 : decode cJ4_grow 103 = .ok (.aload_n 0, 1) := dk_42 (dk_at dksJ4_grow_4 10 rfl rfl)
theorem dJ4_grow_104 : decode cJ4_grow 104 = .ok (.getfield 24, 3) := dk_180 0 24 (dk_at dksJ4_grow_4 11 rfl rfl)
theorem dJ4_grow_107 : decode cJ4_grow 107 = .ok (.aload 5, 2) := dk_25 5 (dk_at dksJ4_grow_4 14 rfl rfl)
theorem dJ4_grow_109 : decode cJ4_grow 109 = .ok (.aload_n 0, 1) := dk_42 (dk_at dksJ4_grow_4 16 rfl rfl)
theorem dJ4_grow_110 : decode cJ4_grow 110 = .ok (.getfield 24, 3) := dk_180 0 24 (dk_at dksJ4_grow_4 17 rfl rfl)
theorem dJ4_grow_113 : decode cJ4_grow 113 = .ok (.iload 6, 2) := dk_21 6 (dk_at dksJ4_grow_4 20 rfl rfl)
theorem dJ4_grow_115 : decode cJ4_grow 115 = .ok (.iadd, 1) := dk_96 (dk_at dksJ4_grow_4 22 rfl rfl)
theorem dJ4_grow_116 : decode cJ4_grow 116 = .ok (.iload_n 2, 1) := dk_28 (dk_at dksJ4_grow_4 23 rfl rfl)
theorem dJ4_grow_117 : decode cJ4_grow 117 = .ok (.aload_n 0, 1) := dk_42 (dk_at dksJ4_grow_5 0 rfl rfl)
theorem dJ4_grow_118 : decode cJ4_grow 118 = .ok (.getfield 24, 3) := dk_180 0 24 (dk_at dksJ4_grow_5 1 rfl rfl)
theorem dJ4_grow_121 : decode cJ4_grow 121 = .ok (.isub, 1) := dk_100 (dk_at dksJ4_grow_5 4 rfl rfl)
theorem dJ4_grow_122 : decode cJ4_grow 122 = .ok (.invokestatic 27, 3) := dk_184 0 27 (dk_at dksJ4_grow_5 5 rfl rfl)
theorem dJ4_grow_125 : decode cJ4_grow 125 = .ok (.aload_n 0, 1) := dk_42 (dk_at dksJ4_grow_5 8 rfl rfl)
theorem dJ4_grow_126 : decode cJ4_grow 126 = .ok (.getfield 24, 3) := dk_180 0 24 (dk_at dksJ4_grow_5 9 rfl rfl)
theorem dJ4_grow_129 : decode cJ4_grow 129 = .ok (.istore 7, 2) := dk_54 7 (dk_at dksJ4_grow_5 12 rfl rfl)
theorem dJ4_grow_131 : decode cJ4_grow 131 = .ok (.aload_n 0, 1) := dk_42 (dk_at dksJ4_grow_5 14 rfl rfl)
theorem dJ4_grow_132 : decode cJ4_grow 132 = .ok (.dup, 1) := dk_89 (dk_at dksJ4_grow_5 15 rfl rfl)
theorem dJ4_grow_133 : decode cJ4_grow 133 = .ok (.getfield 24, 3) := dk_180 0 24 (dk_at dksJ4_grow_5 16 rfl rfl)
theorem dJ4_grow_136 : decode cJ4_grow 136 = .ok (.iload 6, 2) := dk_21 6 (dk_at dksJ4_grow_5 19 rfl rfl)
theorem dJ4_grow_138 : decode cJ4_grow 138 = .ok (.iadd, 1) := dk_96 (dk_at dksJ4_grow_5 21 rfl rfl)
theorem dJ4_grow_139 : decode cJ4_grow 139 = .ok (.dup_x1, 1) := dk_90 (dk_at dksJ4_grow_5 22 rfl rfl)
theorem dJ4_grow_140 : decode cJ4_grow 140 = .ok (.putfield 24, 3) := dk_181 0 24 (dk_at dksJ4_grow_6 0 rfl rfl)
theorem dJ4_grow_143 : decode cJ4_grow 143 = .ok (.istore 8, 2) := dk_54 8 (dk_at dksJ4_grow_6 3 rfl rfl)
theorem dJ4_grow_145 : decode cJ4_grow 145 = .ok (.iload 7, 2) := dk_21 7 (dk_at dksJ4_grow_6 5 rfl rfl)
theorem dJ4_grow_147 : decode cJ4_grow 147 = .ok (.iload 8, 2) := dk_21 8 (dk_at dksJ4_grow_6 7 rfl rfl)
theorem dJ4_grow_149 : decode cJ4_grow 149 = .ok (.if_icmp .ge 15, 3) := dk_162 0 15 (dk_at dksJ4_grow_6 9 rfl rfl)
theorem dJ4_grow_152 : decode cJ4_grow 152 = .ok (.aload 5, 2) := dk_25 5 (dk_at dksJ4_grow_6 12 rfl rfl)
theorem dJ4_grow_154 : decode cJ4_grow 154 = .ok (.iload 7, 2) := dk_21 7 (dk_at dksJ4_grow_6 14 rfl rfl)
theorem dJ4_grow_156 : decode cJ4_grow 156 = .ok (.aconst_null, 1) := dk_1 (dk_at dksJ4_grow_6 16 rfl rfl)
theorem dJ4_grow_157 : decode cJ4_grow 157 = .ok (.aastore, 1) := dk_83 (dk_at dksJ4_grow_6 17 rfl rfl)
theorem dJ4_grow_158 : decode cJ4_grow 158 = .ok (.iinc 7 1, 3) := dk_132 7 1 (dk_at dksJ4_grow_6 18 rfl rfl)
theorem dJ4_grow_161 : decode cJ4_grow 161 = .ok (.goto (-16), 3) := dk_167 255 240 (dk_at dksJ4_grow_6 21 rfl rfl)
theorem dJ4_grow_164 : decode cJ4_grow 164 = .ok (.return_, 1) := dk_177 (dk_at dksJ4_grow_7 0 rfl rfl)
def dkwJ4_newCapacity_2 : List UInt8 := [18, 9, 100, 156, 0, 9, 29, 28, 96, 167, 0, 5, 18, 9, 172]
abbrev dktJ4_newCapacity_2 : List UInt8 := dkwJ4_newCapacity_2 ++ []
def dkwJ4_newCapacity_1 : List UInt8 := [187, 0, 33, 89, 18, 35, 183, 0, 37, 191, 18, 41, 172, 27, 28, 164, 0, 6, 21, 4, 172, 29, 28, 96]
abbrev dktJ4_newCapacity_1 : List UInt8 := dkwJ4_newCapacity_1 ++ dktJ4_newCapacity_2
def dkwJ4_newCapacity_0 : List UInt8 := [42, 180, 0, 3, 190, 62, 29, 27, 96, 89, 54, 4, 18, 9, 100, 158, 0, 21, 21, 4, 156, 0, 13]
abbrev dktJ4_newCapacity_0 : List UInt8 := dkwJ4_newCapacity_0 ++ dktJ4_newCapacity_1
theorem dksJ4_newCapacity_0 : cJ4_newCapacity.data.toList.drop 0 = dktJ4_newCapacity_0 := by decide +kernel
theorem dksJ4_newCapacity_1 : cJ4_newCapacity.data.toList.drop 23 = dktJ4_newCapacity_1 := dk_seg dksJ4_newCapacity_0 23 rfl rfl
theorem dksJ4_newCapacity_2 : cJ4_newCapacity.data.toList.drop 47 = dktJ4_newCapacity_2 := dk_seg dksJ4_newCapacity_1 24 rfl rfl
theorem dJ4_newCapacity_0 : decode cJ4_newCapacity 0 = .ok (.aload_n 0, 1) := dk_42 (dk_at dksJ4_newCapacity_0 0 rfl rfl)
theorem dJ4_newCapacity_1 : decode cJ4_newCapacity 1 = .ok (.getfield 3, 3) := dk_180 0 3 (dk_at dksJ4_newCapacity_0 1 rfl rfl)
theorem dJ4_newCapacity_4 : decode cJ4_newCapacity 4 = .ok (.arraylength, 1) := dk_190 (dk_at dksJ4_newCapacity_0 4 rfl rfl)
theorem dJ4_newCapacity_5 : decode cJ4_newCapacity 5 = .ok (.istore_n 3, 1) := dk_62 (dk_at dksJ4_newCapacity_0 5 rfl rfl)
theorem dJ4_newCapacity_6 : decode cJ4_newCapacity 6 = .ok (.iload_n 3, 1) := dk_29 (dk_at dksJ4_newCapacity_0 6 rfl rfl)
theorem dJ4_newCapacity_7 : decode cJ4_newCapacity 7 = .ok (.iload_n 1, 1) := dk_27 (dk_at dksJ4_newCapacity_0 7 rfl rfl)
theorem dJ4_newCapacity_8 : decode cJ4_newCapacity 8 = .ok (.iadd, 1) := dk_96 (dk_at dksJ4_newCapacity_0 8 rfl rfl)
theorem dJ4_newCapacity_9 : decode cJ4_newCapacity 9 = .ok (.dup, 1) := dk_89 (dk_at dksJ4_newCapacity_0 9 rfl rfl)
theorem dJ4_newCapacity_10 : decode cJ4_newCapacity 10 = .ok (.istore 4, 2) := dk_54 4 (dk_at dksJ4_newCapacity_0 10 rfl rfl)
theorem dJ4_newCapacity_12 : decode cJ4_newCapacity 12 = .ok (.ldc 9, 2) := dk_18 9 (dk_at dksJ4_newCapacity_0 12 rfl rfl)
theorem dJ4_newCapacity_14 : decode cJ4_newCapacity 14 = .ok (.isub, 1) := dk_100 (dk_at dksJ4_newCapacity_0 14 rfl rfl)
theorem dJ4_newCapacity_15 : decode cJ4_newCapacity 15 = .ok (.ifCond .le 21, 3) := dk_158 0 21 (dk_at dksJ4_newCapacity_0 15 rfl rfl)
theorem dJ4_newCapacity_18 : decode cJ4_newCapacity 18 = .ok (.iload 4, 2) := dk_21 4 (dk_at dksJ4_newCapacity_0 18 rfl rfl)
theorem dJ4_newCapacity_20 : decode cJ4_newCapacity 20 = .ok (.ifCond .ge 13, 3) := dk_156 0 13 (dk_at dksJ4_newCapacity_0 20 rfl rfl)
theorem dJ4_newCapacity_23 : decode cJ4_newCapacity 23 = .ok (.new 33, 3) := dk_187 0 33 (dk_at dksJ4_newCapacity_1 0 rfl rfl)
theorem dJ4_newCapacity_26 : decode cJ4_newCapacity 26 = .ok (.dup, 1) := dk_89 (dk_at dksJ4_newCapacity_1 3 rfl rfl)
theorem dJ4_newCapacity_27 : decode cJ4_newCapacity 27 = .ok (.ldc 35, 2) := dk_18 35 (dk_at dksJ4_newCapacity_1 4 rfl rfl)
theorem dJ4_newCapacity_29 : decode cJ4_newCapacity 29 = .ok (.invokespecial 37, 3) := dk_183 0 37 (dk_at dksJ4_newCapacity_1 6 rfl rfl)
theorem dJ4_newCapacity_32 : decode cJ4_newCapacity 32 = .ok (.athrow, 1) := dk_191 (dk_at dksJ4_newCapacity_1 9 rfl rfl)
theorem dJ4_newCapacity_33 : decode cJ4_newCapacity 33 = .ok (.ldc 41, 2) := dk_18 41 (dk_at dksJ4_newCapacity_1 10 rfl rfl)
theorem dJ4_newCapacity_35 : decode cJ4_newCapacity 35 = .ok (.ireturn, 1) := dk_172 (dk_at dksJ4_newCapacity_1 12 rfl rfl)
theorem dJ4_newCapacity_36 : decode cJ4_newCapacity 36 = .ok (.iload_n 1, 1) := dk_27 (dk_at dksJ4_newCapacity_1 13 rfl rfl)
theorem dJ4_newCapacity_37 : decode cJ4_newCapacity 37 = .ok (.iload_n 2, 1) := dk_28 (dk_at dksJ4_newCapacity_1 14 rfl rfl)
theorem dJ4_newCapacity_38 : decode cJ4_newCapacity 38 = .ok (.if_icmp .le 6, 3) := dk_164 0 6 (dk_at dksJ4_newCapacity_1 15 rfl rfl)
theorem dJ4_newCapacity_41 : decode cJ4_newCapacity 41 = .ok (.iload 4, 2) := dk_21 4 (dk_at dksJ4_newCapacity_1 18 rfl rfl)
theorem dJ4_newCapacity_43 : decode cJ4_newCapacity 43 = .ok (.ireturn, 1) := dk_172 (dk_at dksJ4_newCapacity_1 20 rfl rfl)
theorem dJ4_newCapacity_44 : decode cJ4_newCapacity 44 = .ok (.iload_n 3, 1) := dk_29 (dk_at dksJ4_newCapacity_1 21 rfl rfl)
theorem dJ4_newCapacity_45 : decode cJ4_newCapacity 45 = .ok (.iload_n 2, 1) := dk_28 (dk_at dksJ4_newCapacity_1 22 rfl rfl)
theorem dJ4_newCapacity_46 : decode cJ4_newCapacity 46 = .ok (.iadd, 1) := dk_96 (dk_at dksJ4_newCapacity_1 23 rfl rfl)
theorem dJ4_newCapacity_47 : decode cJ4_newCapacity 47 = .ok (.ldc 9, 2) := dk_18 9 (dk_at dksJ4_newCapacity_2 0 rfl rfl)
theorem dJ4_newCapacity_49 : decode cJ4_newCapacity 49 = .ok (.isub, 1) := dk_100 (dk_at dksJ4_newCapacity_2 2 rfl rfl)
theorem dJ4_newCapacity_50 : decode cJ4_newCapacity 50 = .ok (.ifCond .ge 9, 3) := dk_156 0 9 (dk_at dksJ4_newCapacity_2 3 rfl rfl)
theorem dJ4_newCapacity_53 : decode cJ4_newCapacity 53 = .ok (.iload_n 3, 1) := dk_29 (dk_at dksJ4_newCapacity_2 6 rfl rfl)
theorem dJ4_newCapacity_54 : decode cJ4_newCapacity 54 = .ok (.iload_n 2, 1) := dk_28 (dk_at dksJ4_newCapacity_2 7 rfl rfl)
theorem dJ4_newCapacity_55 : decode cJ4_newCapacity 55 = .ok (.iadd, 1) := dk_96 (dk_at dksJ4_newCapacity_2 8 rfl rfl)
theorem dJ4_newCapacity_56 : decode cJ4_newCapacity 56 = .ok (.goto 5, 3) := dk_167 0 5 (dk_at dksJ4_newCapacity_2 9 rfl rfl)
theorem dJ4_newCapacity_59 : decode cJ4_newCapacity 59 = .ok (.ldc 9, 2) := dk_18 9 (dk_at dksJ4_newCapacity_2 12 rfl rfl)
theorem dJ4_newCapacity_61 : decode cJ4_newCapacity 61 = .ok (.ireturn, 1) := dk_172 (dk_at dksJ4_newCapacity_2 14 rfl rfl)
def dkwJ4_toArray_0 : List UInt8 := [42, 18, 188, 182, 0, 189, 176]
abbrev dktJ4_toArray_0 : List UInt8 := dkwJ4_toArray_0 ++ []
theorem dksJ4_toArray_0 : cJ4_toArray.data.toList.drop 0 = dktJ4_toArray_0 := by decide +kernel
theorem dJ4_toArray_0 : decode cJ4_toArray 0 = .ok (.aload_n 0, 1) := dk_42 (dk_at dksJ4_toArray_0 0 rfl rfl)
theorem dJ4_toArray_1 : decode cJ4_toArray 1 = .ok (.ldc 188, 2) := dk_18 188 (dk_at dksJ4_toArray_0 1 rfl rfl)
theorem dJ4_toArray_3 : decode cJ4_toArray 3 = .ok (.invokevirtual 189, 3) := dk_182 0 189 (dk_at dksJ4_toArray_0 3 rfl rfl)
theorem dJ4_toArray_6 : decode cJ4_toArray 6 = .ok (.areturn, 1) := dk_176 (dk_at dksJ4_toArray_0 6 rfl rfl)
def dkwJ4_toArray_2_4 : List UInt8 := [21, 5, 184, 0, 27, 45, 176]
abbrev dktJ4_toArray_2_4 : List UInt8 := dkwJ4_toArray_2_4 ++ []
def dkwJ4_toArray_2_3 : List UInt8 := [44, 190, 21, 4, 100, 184, 0, 27, 21, 6, 21, 5, 159, 0, 16, 44, 3, 45, 44, 190, 21, 4, 100]
abbrev dktJ4_toArray_2_3 : List UInt8 := dkwJ4_toArray_2_3 ++ dktJ4_toArray_2_4
def dkwJ4_toArray_2_2 : List UInt8 := [184, 0, 193, 78, 167, 0, 28, 44, 3, 21, 6, 21, 4, 100, 43, 184, 0, 193, 78, 44, 21, 4, 45, 3]
abbrev dktJ4_toArray_2_2 : List UInt8 := dkwJ4_toArray_2_2 ++ dktJ4_toArray_2_3
def dkwJ4_toArray_2_1 : List UInt8 := [163, 0, 7, 3, 167, 0, 5, 44, 190, 96, 89, 54, 6, 155, 0, 16, 44, 21, 4, 21, 6, 43]
abbrev dktJ4_toArray_2_1 : List UInt8 := dkwJ4_toArray_2_1 ++ dktJ4_toArray_2_2
def dkwJ4_toArray_2_0 : List UInt8 := [42, 180, 0, 3, 77, 42, 180, 0, 24, 54, 4, 42, 180, 0, 20, 54, 5, 21, 5, 21, 4, 21, 5]
abbrev dktJ4_toArray_2_0 : List UInt8 := dkwJ4_toArray_2_0 ++ dktJ4_toArray_2_1
theorem dksJ4_toArray_2_0 : cJ4_toArray_2.data.toList.drop 0 = dktJ4_toArray_2_0 := by decide +kernel
theorem dksJ4_toArray_2_1 : cJ4_toArray_2.data.toList.drop 23 = dktJ4_toArray_2_1 := dk_seg dksJ4_toArray_2_0 23 rfl rfl
theorem dksJ4_toArray_2_2 : cJ4_toArray_2.data.toList.drop 45 = dktJ4_toArray_2_2 := dk_seg dksJ4_toArray_2_1 22 rfl rfl
theorem dksJ4_toArray_2_3 : cJ4_toArray_2.data.toList.drop 69 = dktJ4_toArray_2_3 := dk_seg dksJ4_toArray_2_2 24 rfl rfl
theorem dksJ4_toArray_2_4 : cJ4_toArray_2.data.toList.drop 92 = dktJ4_toArray_2_4 := dk_seg dksJ4_toArray_2_3 23 rfl rfl
theorem dJ4_toArray_2_0 : decode cJ4_toArray_2 0 = .ok (.aload_n 0, 1) := dk_42 (dk_at dksJ4_toArray_2_0 0 rfl rfl)
theorem dJ4_toArray_2_1 : decode cJ4_toArray_2 1 = .ok (.getfield 3, 3) := dk_180 0 3 (dk_at dksJ4_toArray_2_0 1 rfl rfl)
theorem dJ4_toArray_2_4 : decode cJ4_toArray_2 4 = .ok (.astore_n 2, 1) := dk_77 (dk_at dksJ4_toArray_2_0 4 rfl rfl)
theorem dJ4_toArray_2_5 : decode cJ4_toArray_2 5 = .ok (.aload_n 0, 1) := dk_42 (dk_at dksJ4_toArray_2_0 5 rfl rfl)
theorem dJ4_toArray_2_6 : decode cJ4_toArray_2 6 = .ok (.getfield 24, 3) := dk_180 0 24 (dk_at dksJ4_toArray_2_0 6 rfl rfl)
theorem dJ4_toArray_2_9 : decode cJ4_toArray_2 9 = .ok (.istore 4, 2) := dk_54 4 (dk_at dksJ4_toArray_2_0 9 rfl rfl)
theorem dJ4_toArray_2_11 : decode cJ4_toArray_2 11 = .ok (.aload_n 0, 1) := dk_42 (dk_at dksJ4_toArray_2_0 11 rfl rfl)
theorem dJ4_toArray_2_12 : decode cJ4_toArray_2 12 = .ok (.getfield 20, 3) := dk_180 0 20 (dk_at dksJ4_toArray_2_0 12 rfl rfl)
theorem dJ4_toArray_2_15 : decode cJ4_toArray_2 15 = .ok (.istore 5, 2) := dk_54 5 (dk_at dksJ4_toArray_2_0 15 rfl rfl)
theorem dJ4_toArray_2_17 : decode cJ4_toArray_2 17 = .ok (.iload 5, 2) := dk_21 5 (dk_at dksJ4_toArray_2_0 17 rfl rfl)
theorem dJ4_toArray_2_19 : decode cJ4_toArray_2 19 = .ok (.iload 4, 2) := dk_21 4 (dk_at dksJ4_toArray_2_0 19 rfl rfl)
theorem dJ4_toArray_2_21 : decode cJ4_toArray_2 21 = .ok (.iload 5, 2) := dk_21 5 (dk_at dksJ4_toArray_2_0 21 rfl rfl)
theorem dJ4_toArray_2_23 : decode cJ4_toArray_2 23 = .ok (.if_icmp .gt 7, 3) := dk_163 0 7 (dk_at dksJ4_toArray_2_1 0 rfl rfl)
theorem dJ4_toArray_2_26 : decode cJ4_toArray_2 26 = .ok (.iconst 0, 1) := dk_3 (dk_at dksJ4_toArray_2_1 3 rfl rfl)
theorem dJ4_toArray_2_27 : decode cJ4_toArray_2 27 = .ok (.goto 5, 3) := dk_167 0 5 (dk_at dksJ4_toArray_2_1 4 rfl rfl)
theorem dJ4_toArray_2_30 : decode cJ4_toArray_2 30 = .ok (.aload_n 2, 1) := dk_44 (dk_at dksJ4_toArray_2_1 7 rfl rfl)
theorem dJ4_toArray_2_31 : decode cJ4_toArray_2 31 = .ok (.arraylength, 1) := dk_190 (dk_at dksJ4_toArray_2_1 8 rfl rfl)
theorem dJ4_toArray_2_32 : decode cJ4_toArray_2 32 = .ok (.iadd, 1) := dk_96 (dk_at dksJ4_toArray_2_1 9 rfl rfl)
theorem dJ4_toArray_2_33 : decode cJ4_toArray_2 33 = .ok (.dup, 1) := dk_89 (dk_at dksJ4_toArray_2_1 10 rfl rfl)
theorem dJ4_toArray_2_34 : decode cJ4_toArray_2 34 = .ok (.istore 6, 2) := dk_54 6 (dk_at dksJ4_toArray_2_1 11 rfl rfl)
theorem dJ4_toArray_2_36 : decode cJ4_toArray_2 36 = .ok (.ifCond .lt 16, 3) := dk_155 0 16 (dk_at dksJ4_toArray_2_1 13 rfl rfl)
theorem dJ4_toArray_2_39 : decode cJ4_toArray_2 39 = .ok (.aload_n 2, 1) := dk_44 (dk_at dksJ4_toArray_2_1 16 rfl rfl)
theorem dJ4_toArray_2_40 : decode cJ4_toArray_2 40 = .ok (.iload 4, 2) := dk_21 4 (dk_at dksJ4_toArray_2_1 17 rfl rfl)
theorem dJ4_toArray_2_42 : decode cJ4_toArray_2 42 = .ok (.iload 6, 2) := dk_21 6 (dk_at dksJ4_toArray_2_1 19 rfl rfl)
theorem dJ4_toArray_2_44 : decode cJ4_toArray_2 44 = .ok (.aload_n 1, 1) := dk_43 (dk_at dksJ4_toArray_2_1 21 rfl rfl)
theorem dJ4_toArray_2_45 : decode cJ4_toArray_2 45 = .ok (.invokestatic 193, 3) := dk_184 0 193 (dk_at dksJ4_toArray_2_2 0 rfl rfl)
theorem dJ4_toArray_2_48 : decode cJ4_toArray_2 48 = .ok (.astore_n 3, 1) := dk_78 (dk_at dksJ4_toArray_2_2 3 rfl rfl)
theorem dJ4_toArray_2_49 : decode cJ4_toArray_2 49 = .ok (.goto 28, 3) := dk_167 0 28 (dk_at dksJ4_toArray_2_2 4 rfl rfl)
theorem dJ4_toArray_2_52 : decode cJ4_toArray_2 52 = .ok (.aload_n 2, 1) := dk_44 (dk_at dksJ4_toArray_2_2 7 rfl rfl)
theorem dJ4_toArray_2_53 : decode cJ4_toArray_2 53 = .ok (.iconst 0, 1) := dk_3 (dk_at dksJ4_toArray_2_2 8 rfl rfl)
theorem dJ4_toArray_2_54 : decode cJ4_toArray_2 54 = .ok (.iload 6, 2) := dk_21 6 (dk_at dksJ4_toArray_2_2 9 rfl rfl)
theorem dJ4_toArray_2_56 : decode cJ4_toArray_2 56 = .ok (.iload 4, 2) := dk_21 4 (dk_at dksJ4_toArray_2_2 11 rfl rfl)
theorem dJ4_toArray_2_58 : decode cJ4_toArray_2 58 = .ok (.isub, 1) := dk_100 (dk_at dksJ4_toArray_2_2 13 rfl rfl)
theorem dJ4_toArray_2_59 : decode cJ4_toArray_2 59 = .ok (.aload_n 1, 1) := dk_43 (dk_at dksJ4_toArray_2_2 14 rfl rfl)
theorem dJ4_toArray_2_60 : decode cJ4_toArray_2 60 = .ok (.invokestatic 193, 3) := dk_184 0 193 (dk_at dksJ4_toArray_2_2 15 rfl rfl)
theorem dJ4_toArray_2_63 : decode cJ4_toArray_2 63 = .ok (.astore_n 3, 1) := dk_78 (dk_at dksJ4_toArray_2_2 18 rfl rfl)
theorem dJ4_toArray_2_64 : decode cJ4_toArray_2 64 = .ok (.aload_n 2, 1) := dk_44 (dk_at dksJ4_toArray_2_2 19 rfl rfl)
theorem dJ4_toArray_2_65 : decode cJ4_toArray_2 65 = .ok (.iload 4, 2) := dk_21 4 (dk_at dksJ4_toArray_2_2 20 rfl rfl)
theorem dJ4_toArray_2_67 : decode cJ4_toArray_2 67 = .ok (.aload_n 3, 1) := dk_45 (dk_at dksJ4_toArray_2_2 22 rfl rfl)
theorem dJ4_toArray_2_68 : decode cJ4_toArray_2 68 = .ok (.iconst 0, 1) := dk_3 (dk_at dksJ4_toArray_2_2 23 rfl rfl)
theorem dJ4_toArray_2_69 : decode cJ4_toArray_2 69 = .ok (.aload_n 2, 1) := dk_44 (dk_at dksJ4_toArray_2_3 0 rfl rfl)
theorem dJ4_toArray_2_70 : decode cJ4_toArray_2 70 = .ok (.arraylength, 1) := dk_190 (dk_at dksJ4_toArray_2_3 1 rfl rfl)
theorem dJ4_toArray_2_71 : decode cJ4_toArray_2 71 = .ok (.iload 4, 2) := dk_21 4 (dk_at dksJ4_toArray_2_3 2 rfl rfl)
theorem dJ4_toArray_2_73 : decode cJ4_toArray_2 73 = .ok (.isub, 1) := dk_100 (dk_at dksJ4_toArray_2_3 4 rfl rfl)
theorem dJ4_toArray_2_74 : decode cJ4_toArray_2 74 = .ok (.invokestatic 27, 3) := dk_184 0 27 (dk_at dksJ4_toArray_2_3 5 rfl rfl)
theorem dJ4_toArray_2_77 : decode cJ4_toArray_2 77 = .ok (.iload 6, 2) := dk_21 6 (dk_at dksJ4_toArray_2_3 8 rfl rfl)
theorem dJ4_toArray_2_79 : decode cJ4_toArray_2 79 = .ok (.iload 5, 2) := dk_21 5 (dk_at dksJ4_toArray_2_3 10 rfl rfl)
theorem dJ4_toArray_2_81 : decode cJ4_toArray_2 81 = .ok (.if_icmp .eq 16, 3) := dk_159 0 16 (dk_at dksJ4_toArray_2_3 12 rfl rfl)
theorem dJ4_toArray_2_84 : decode cJ4_toArray_2 84 = .ok (.aload_n 2, 1) := dk_44 (dk_at dksJ4_toArray_2_3 15 rfl rfl)
theorem dJ4_toArray_2_85 : decode cJ4_toArray_2 85 = .ok (.iconst 0, 1) := dk_3 (dk_at dksJ4_toArray_2_3 16 rfl rfl)
theorem dJ4_toArray_2_86 : decode cJ4_toArray_2 86 = .ok (.aload_n 3, 1) := dk_45 (dk_at dksJ4_toArray_2_3 17 rfl rfl)
theorem dJ4_toArray_2_87 : decode cJ4_toArray_2 87 = .ok (.aload_n 2, 1) := dk_44 (dk_at dksJ4_toArray_2_3 18 rfl rfl)
theorem dJ4_toArray_2_88 : decode cJ4_toArray_2 88 = .ok (.arraylength, 1) := dk_190 (dk_at dksJ4_toArray_2_3 19 rfl rfl)
theorem dJ4_toArray_2_89 : decode cJ4_toArray_2 89 = .ok (.iload 4, 2) := dk_21 4 (dk_at dksJ4_toArray_2_3 20 rfl rfl)
theorem dJ4_toArray_2_91 : decode cJ4_toArray_2 91 = .ok (.isub, 1) := dk_100 (dk_at dksJ4_toArray_2_3 22 rfl rfl)
theorem dJ4_toArray_2_92 : decode cJ4_toArray_2 92 = .ok (.iload 5, 2) := dk_21 5 (dk_at dksJ4_toArray_2_4 0 rfl rfl)
theorem dJ4_toArray_2_94 : decode cJ4_toArray_2 94 = .ok (.invokestatic 27, 3) := dk_184 0 27 (dk_at dksJ4_toArray_2_4 2 rfl rfl)
theorem dJ4_toArray_2_97 : decode cJ4_toArray_2 97 = .ok (.aload_n 3, 1) := dk_45 (dk_at dksJ4_toArray_2_4 5 rfl rfl)
theorem dJ4_toArray_2_98 : decode cJ4_toArray_2 98 = .ok (.areturn, 1) := dk_176 (dk_at dksJ4_toArray_2_4 6 rfl rfl)
def dkwJ24_init_1 : List UInt8 := [181, 0, 22, 177]
abbrev dktJ24_init_1 : List UInt8 := dkwJ24_init_1 ++ []
def dkwJ24_init_0 : List UInt8 := [42, 43, 181, 0, 1, 42, 183, 0, 7, 42, 2, 181, 0, 13, 42, 42, 180, 0, 1, 180, 0, 17]
abbrev dktJ24_init_0 : List UInt8 := dkwJ24_init_0 ++ dktJ24_init_1
theorem dksJ24_init_0 : cJ24_init.data.toList.drop 0 = dktJ24_init_0 := by decide +kernel
theorem dksJ24_init_1 : cJ24_init.data.toList.drop 22 = dktJ24_init_1 := dk_seg dksJ24_init_0 22 rfl rfl
theorem dJ24_init_0 : decode cJ24_init 0 = .ok (.aload_n 0, 1) := dk_42 (dk_at dksJ24_init_0 0 rfl rfl)
theorem dJ24_init_1 : decode cJ24_init 1 = .ok (.aload_n 1, 1) := dk_43 (dk_at dksJ24_init_0 1 rfl rfl)
theorem dJ24_init_2 : decode cJ24_init 2 = .ok (.putfield 1, 3) := dk_181 0 1 (dk_at dksJ24_init_0 2 rfl rfl)
theorem dJ24_init_5 : decode cJ24_init 5 = .ok (.aload_n 0, 1) := dk_42 (dk_at dksJ24_init_0 5 rfl rfl)
theorem dJ24_init_6 : decode cJ24_init 6 = .ok (.invokespecial 7, 3) := dk_183 0 7 (dk_at dksJ24_init_0 6 rfl rfl)
theorem dJ24_init_9 : decode cJ24_init 9 = .ok (.aload_n 0, 1) := dk_42 (dk_at dksJ24_init_0 9 rfl rfl)
theorem dJ24_init_10 : decode cJ24_init 10 = .ok (.iconst (-1), 1) := dk_2 (dk_at dksJ24_init_0 10 rfl rfl)
theorem dJ24_init_11 : decode cJ24_init 11 = .ok (.putfield 13, 3) := dk_181 0 13 (dk_at dksJ24_init_0 11 rfl rfl)
theorem dJ24_init_14 : decode cJ24_init 14 = .ok (.aload_n 0, 1) := dk_42 (dk_at dksJ24_init_0 14 rfl rfl)
theorem dJ24_init_15 : decode cJ24_init 15 = .ok (.aload_n 0, 1) := dk_42 (dk_at dksJ24_init_0 15 rfl rfl)
theorem dJ24_init_16 : decode cJ24_init 16 = .ok (.getfield 1, 3) := dk_180 0 1 (dk_at dksJ24_init_0 16 rfl rfl)
theorem dJ24_init_19 : decode cJ24_init 19 = .ok (.getfield 17, 3) := dk_180 0 17 (dk_at dksJ24_init_0 19 rfl rfl)
theorem dJ24_init_22 : decode cJ24_init 22 = .ok (.putfield 22, 3) := dk_181 0 22 (dk_at dksJ24_init_1 0 rfl rfl)
theorem dJ24_init_25 : decode cJ24_init 25 = .ok (.return_, 1) := dk_177 (dk_at dksJ24_init_1 3 rfl rfl)
def dkwJ24_hasNext_0 : List UInt8 := [42, 180, 0, 25, 42, 180, 0, 1, 180, 0, 28, 159, 0, 7, 4, 167, 0, 4, 3, 172]
abbrev dktJ24_hasNext_0 : List UInt8 := dkwJ24_hasNext_0 ++ []
theorem dksJ24_hasNext_0 : cJ24_hasNext.data.toList.drop 0 = dktJ24_hasNext_0 := by decide +kernel
theorem dJ24_hasNext_0 : decode cJ24_hasNext 0 = .ok (.aload_n 0, 1) := dk_42 (dk_at dksJ24_hasNext_0 0 rfl rfl)
theorem dJ24_hasNext_1 : decode cJ24_hasNext 1 = .ok (.getfield 25, 3) := dk_180 0 25 (dk_at dksJ24_hasNext_0 1 rfl rfl)
theorem dJ24_hasNext_4 : decode cJ24_hasNext 4 = .ok (.aload_n 0, 1) := dk_42 (dk_at dksJ24_hasNext_0 4 rfl rfl)
theorem dJ24_hasNext_5 : decode cJ24_hasNext 5 = .ok (.getfield 1, 3) := dk_180 0 1 (dk_at dksJ24_hasNext_0 5 rfl rfl)
theorem dJ24_hasNext_8 : decode cJ24_hasNext 8 = .ok (.getfield 28, 3) := dk_180 0 28 (dk_at dksJ24_hasNext_0 8 rfl rfl)
theorem dJ24_hasNext_11 : decode cJ24_hasNext 11 = .ok (.if_icmp .eq 7, 3) := dk_159 0 7 (dk_at dksJ24_hasNext_0 11 rfl rfl)
theorem dJ24_hasNext_14 : decode cJ24_hasNext 14 = .ok (.iconst 1, 1) := dk_4 (dk_at dksJ24_hasNext_0 14 rfl rfl)
theorem dJ24_hasNext_15 : decode cJ24_hasNext 15 = .ok (.goto 4, 3) := dk_167 0 4 (dk_at dksJ24_hasNext_0 15 rfl rfl)
theorem dJ24_hasNext_18 : decode cJ24_hasNext 18 = .ok (.iconst 0, 1) := dk_3 (dk_at dksJ24_hasNext_0 18 rfl rfl)
theorem dJ24_hasNext_19 : decode cJ24_hasNext 19 = .ok (.ireturn, 1) := dk_172 (dk_at dksJ24_hasNext_0 19 rfl rfl)
def dkwJ24_next_2 : List UInt8 := [183, 0, 43, 191, 42, 27, 4, 96, 181, 0, 25, 44, 42, 27, 90, 181, 0, 13, 50, 176]
abbrev dktJ24_next_2 : List UInt8 := dkwJ24_next_2 ++ []
def dkwJ24_next_1 : List UInt8 := [183, 0, 36, 191, 42, 180, 0, 1, 180, 0, 37, 77, 27, 44, 190, 161, 0, 11, 187, 0, 41, 89]
abbrev dktJ24_next_1 : List UInt8 := dkwJ24_next_1 ++ dktJ24_next_2
def dkwJ24_next_0 : List UInt8 := [42, 182, 0, 31, 42, 180, 0, 25, 60, 27, 42, 180, 0, 1, 180, 0, 28, 161, 0, 11, 187, 0, 34, 89]
abbrev dktJ24_next_0 : List UInt8 := dkwJ24_next_0 ++ dktJ24_next_1
theorem dksJ24_next_0 : cJ24_next.data.toList.drop 0 = dktJ24_next_0 := by decide +kernel
theorem dksJ24_next_1 : cJ24_next.data.toList.drop 24 = dktJ24_next_1 := dk_seg dksJ24_next_0 24 rfl rfl
theorem dksJ24_next_2 : cJ24_next.data.toList.drop 46 = dktJ24_next_2 := dk_seg dksJ24_next_1 22 rfl rfl
theorem dJ24_next_0 : decode cJ24_next 0 = .ok (.aload_n 0, 1) := dk_42 (dk_at dksJ24_next_0 0 rfl rfl)
theorem dJ24_next_1 : decode cJ24_next 1 = .ok (.invokevirtual 31, 3) := dk_182 0 31 (dk_at dksJ24_next_0 1 rfl rfl)
theorem dJ24_next_4 : decode cJ24_next 4 = .ok (.aload_n 0, 1) := dk_42 (dk_at dksJ24_next_0 4 rfl rfl)
theorem dJ24_next_5 : decode cJ24_next 5 = .ok (.getfield 25, 3) := dk_180 0 25 (dk_at dksJ24_next_0 5 rfl rfl)
theorem dJ24_next_8 : decode cJ24_next 8 = .ok (.istore_n 1, 1) := dk_60 (dk_at dksJ24_next_0 8 rfl rfl)
theorem dJ24_next_9 : decode cJ24_next 9 = .ok (.iload_n 1, 1) := dk_27 (dk_at dksJ24_next_0 9 rfl rfl)
theorem dJ24_next_10 : decode cJ24_next 10 = .ok (.aload_n 0, 1) := dk_42 (dk_at dksJ24_next_0 10 rfl rfl)
theorem dJ24_next_11 : decode cJ24_next 11 = .ok (.getfield 1, 3) := dk_180 0 1 (dk_at dksJ24_next_0 11 rfl rfl)
theorem dJ24_next_14 : decode cJ24_next 14 = .ok (.getfield 28, 3) := dk_180 0 28 (dk_at dksJ24_next_0 14 rfl rfl)
theorem dJ24_next_17 : decode cJ24_next 17 = .ok (.if_icmp .lt 11, 3) := dk_161 0 11 (dk_at dksJ24_next_0 17 rfl rfl)
theorem dJ24_next_20 : decode cJ24_next 20 = .ok (.new 34, 3) := dk_187 0 34 (dk_at dksJ24_next_0 20 rfl rfl)
theorem dJ24_next_23 : decode cJ24_next 23 = .ok (.dup, 1) := dk_89 (dk_at dksJ24_next_0 23 rfl rfl)
theorem dJ24_next_24 : decode cJ24_next 24 = .ok (.invokespecial 36, 3) := dk_183 0 36 (dk_at dksJ24_next_1 0 rfl rfl)
theorem dJ24_next_27 : decode cJ24_next 27 = .ok (.athrow, 1) := dk_191 (dk_at dksJ24_next_1 3 rfl rfl)
theorem dJ24_next_28 : decode cJ24_next 28 = .ok (.aload_n 0, 1) := dk_42 (dk_at dksJ24_next_1 4 rfl rfl)
theorem dJ24_next_29 : decode cJ24_next 29 = .ok (.getfield 1, 3) := dk_180 0 1 (dk_at dksJ24_next_1 5 rfl rfl)
theorem dJ24_next_32 : decode cJ24_next 32 = .ok (.getfield 37, 3) := dk_180 0 37 (dk_at dksJ24_next_1 8 rfl rfl)
theorem dJ24_next_35 : decode cJ24_next 35 = .ok (.astore_n 2, 1) := dk_77 (dk_at dksJ24_next_1 11 rfl rfl)
theorem dJ24_next_36 : decode cJ24_next 36 = .ok (.iload_n 1, 1) := dk_27 (dk_at dksJ24_next_1 12 rfl rfl)
theorem dJ24_next_37 : decode cJ24_next 37 = .ok (.aload_n 2, 1) := dk_44 (dk_at dksJ24_next_1 13 rfl rfl)
theorem dJ24_next_38 : decode cJ24_next 38 = .ok (.arraylength, 1) := dk_190 (dk_at dksJ24_next_1 14 rfl rfl)
theorem dJ24_next_39 : decode cJ24_next 39 = .ok (.if_icmp .lt 11, 3) := dk_161 0 11 (dk_at dksJ24_next_1 15 rfl rfl)
theorem dJ24_next_42 : decode cJ24_next 42 = .ok (.new 41, 3) := dk_187 0 41 (dk_at dksJ24_next_1 18 rfl rfl)
theorem dJ24_next_45 : decode cJ24_next 45 = .ok (.dup, 1) := dk_89 (dk_at dksJ24_next_1 21 rfl rfl)
theorem dJ24_next_46 : decode cJ24_next 46 = .ok (.invokespecial 43, 3) := dk_183 0 43 (dk_at dksJ24_next_2 0 rfl rfl)
theorem dJ24_next_49 : decode cJ24_next 49 = .ok (.athrow, 1) := dk_191 (dk_at dksJ24_next_2 3 rfl rfl)
theorem dJ24_next_50 : decode cJ24_next 50 = .ok (.aload_n 0, 1) := dk_42 (dk_at dksJ24_next_2 4 rfl rfl)
theorem dJ24_next_51 : decode cJ24_next 51 = .ok (.iload_n 1, 1) := dk_27 (dk_at dksJ24_next_2 5 rfl rfl)
theorem dJ24_next_52 : decode cJ24_next 52 = .ok (.iconst 1, 1) := dk_4 (dk_at dksJ24_next_2 6 rfl rfl)
theorem dJ24_next_53 : decode cJ24_next 53 = .ok (.iadd, 1) := dk_96 (dk_at dksJ24_next_2 7 rfl rfl)
theorem dJ24_next_54 : decode cJ24_next 54 = .ok (.putfield 25, 3) := dk_181 0 25 (dk_at dksJ24_next_2 8 rfl rfl)
theorem dJ24_next_57 : decode cJ24_next 57 = .ok (.aload_n 2, 1) := dk_44 (dk_at dksJ24_next_2 11 rfl rfl)
theorem dJ24_next_58 : decode cJ24_next 58 = .ok (.aload_n 0, 1) := dk_42 (dk_at dksJ24_next_2 12 rfl rfl)
theorem dJ24_next_59 : decode cJ24_next 59 = .ok (.iload_n 1, 1) := dk_27 (dk_at dksJ24_next_2 13 rfl rfl)
theorem dJ24_next_60 : decode cJ24_next 60 = .ok (.dup_x1, 1) := dk_90 (dk_at dksJ24_next_2 14 rfl rfl)
theorem dJ24_next_61 : decode cJ24_next 61 = .ok (.putfield 13, 3) := dk_181 0 13 (dk_at dksJ24_next_2 15 rfl rfl)
theorem dJ24_next_64 : decode cJ24_next 64 = .ok (.aaload, 1) := dk_50 (dk_at dksJ24_next_2 18 rfl rfl)
theorem dJ24_next_65 : decode cJ24_next 65 = .ok (.areturn, 1) := dk_176 (dk_at dksJ24_next_2 19 rfl rfl)
def dkwJ24_checkForComodification_0 : List UInt8 := [42, 180, 0, 1, 180, 0, 17, 42, 180, 0, 22, 159, 0, 11, 187, 0, 41, 89, 183, 0, 43, 191, 177]
abbrev dktJ24_checkForComodification_0 : List UInt8 := dkwJ24_checkForComodification_0 ++ []
theorem dksJ24_checkForComodification_0 : cJ24_checkForComodification.data.toList.drop 0 = dktJ24_checkForComodification_0 := by decide +kernel
theorem dJ24_checkForComodification_0 : decode cJ24_checkForComodification 0 = .ok (.aload_n 0, 1) := dk_42 (dk_at dksJ24_checkForComodification_0 0 rfl rfl)
theorem dJ24_checkForComodification_1 : decode cJ24_checkForComodification 1 = .ok (.getfield 1, 3) := dk_180 0 1 (dk_at dksJ24_checkForComodification_0 1 rfl rfl)
theorem dJ24_checkForComodification_4 : decode cJ24_checkForComodification 4 = .ok (.getfield 17, 3) := dk_180 0 17 (dk_at dksJ24_checkForComodification_0 4 rfl rfl)
theorem dJ24_checkForComodification_7 : decode cJ24_checkForComodification 7 = .ok (.aload_n 0, 1) := dk_42 (dk_at dksJ24_checkForComodification_0 7 rfl rfl)
theorem dJ24_checkForComodification_8 : decode cJ24_checkForComodification 8 = .ok (.getfield 22, 3) := dk_180 0 22 (dk_at dksJ24_checkForComodification_0 8 rfl rfl)
theorem dJ24_checkForComodification_11 : decode cJ24_checkForComodification 11 = .ok (.if_icmp .eq 11, 3) := dk_159 0 11 (dk_at dksJ24_checkForComodification_0 11 rfl rfl)
theorem dJ24_checkForComodification_14 : decode cJ24_checkForComodification 14 = .ok (.new 41, 3) := dk_187 0 41 (dk_at dksJ24_checkForComodification_0 14 rfl rfl)
theorem dJ24_checkForComodification_17 : decode cJ24_checkForComodification 17 = .ok (.dup, 1) := dk_89 (dk_at dksJ24_checkForComodification_0 17 rfl rfl)
theorem dJ24_checkForComodification_18 : decode cJ24_checkForComodification 18 = .ok (.invokespecial 43, 3) := dk_183 0 43 (dk_at dksJ24_checkForComodification_0 18 rfl rfl)
theorem dJ24_checkForComodification_21 : decode cJ24_checkForComodification 21 = .ok (.athrow, 1) := dk_191 (dk_at dksJ24_checkForComodification_0 21 rfl rfl)
theorem dJ24_checkForComodification_22 : decode cJ24_checkForComodification 22 = .ok (.return_, 1) := dk_177 (dk_at dksJ24_checkForComodification_0 22 rfl rfl)
def dkwJ27_equals_1 : List UInt8 := [167, 0, 4, 3, 172, 3, 172]
abbrev dktJ27_equals_1 : List UInt8 := dkwJ27_equals_1 ++ []
def dkwJ27_equals_0 : List UInt8 := [43, 193, 0, 1, 153, 0, 23, 42, 180, 0, 205, 43, 192, 0, 1, 182, 0, 211, 160, 0, 7, 4]
abbrev dktJ27_equals_0 : List UInt8 := dkwJ27_equals_0 ++ dktJ27_equals_1
theorem dksJ27_equals_0 : cJ27_equals.data.toList.drop 0 = dktJ27_equals_0 := by decide +kernel
theorem dksJ27_equals_1 : cJ27_equals.data.toList.drop 22 = dktJ27_equals_1 := dk_seg dksJ27_equals_0 22 rfl rfl
theorem dJ27_equals_0 : decode cJ27_equals 0 = .ok (.aload_n 1, 1) := dk_43 (dk_at dksJ27_equals_0 0 rfl rfl)
theorem dJ27_equals_1 : decode cJ27_equals 1 = .ok (.instanceof 1, 3) := dk_193 0 1 (dk_at dksJ27_equals_0 1 rfl rfl)
theorem dJ27_equals_4 : decode cJ27_equals 4 = .ok (.ifCond .eq 23, 3) := dk_153 0 23 (dk_at dksJ27_equals_0 4 rfl rfl)
theorem dJ27_equals_7 : decode cJ27_equals 7 = .ok (.aload_n 0, 1) := dk_42 (dk_at dksJ27_equals_0 7 rfl rfl)
theorem dJ27_equals_8 : decode cJ27_equals 8 = .ok (.getfield 205, 3) := dk_180 0 205 (dk_at dksJ27_equals_0 8 rfl rfl)
theorem dJ27_equals_11 : decode cJ27_equals 11 = .ok (.aload_n 1, 1) := dk_43 (dk_at dksJ27_equals_0 11 rfl rfl)
theorem dJ27_equals_12 : decode cJ27_equals 12 = .ok (.checkcast 1, 3) := dk_192 0 1 (dk_at dksJ27_equals_0 12 rfl rfl)
theorem dJ27_equals_15 : decode cJ27_equals 15 = .ok (.invokevirtual 211, 3) := dk_182 0 211 (dk_at dksJ27_equals_0 15 rfl rfl)
theorem dJ27_equals_18 : decode cJ27_equals 18 = .ok (.if_icmp .ne 7, 3) := dk_160 0 7 (dk_at dksJ27_equals_0 18 rfl rfl)
theorem dJ27_equals_21 : decode cJ27_equals 21 = .ok (.iconst 1, 1) := dk_4 (dk_at dksJ27_equals_0 21 rfl rfl)
theorem dJ27_equals_22 : decode cJ27_equals 22 = .ok (.goto 4, 3) := dk_167 0 4 (dk_at dksJ27_equals_1 0 rfl rfl)
theorem dJ27_equals_25 : decode cJ27_equals 25 = .ok (.iconst 0, 1) := dk_3 (dk_at dksJ27_equals_1 3 rfl rfl)
theorem dJ27_equals_26 : decode cJ27_equals 26 = .ok (.ireturn, 1) := dk_172 (dk_at dksJ27_equals_1 4 rfl rfl)
theorem dJ27_equals_27 : decode cJ27_equals 27 = .ok (.iconst 0, 1) := dk_3 (dk_at dksJ27_equals_1 5 rfl rfl)
theorem dJ27_equals_28 : decode cJ27_equals 28 = .ok (.ireturn, 1) := dk_172 (dk_at dksJ27_equals_1 6 rfl rfl)
theorem dJ27_intValue_0 : decode cJ27_intValue 0 = .ok (.aload_n 0, 1) := by decide +kernel
theorem dJ27_intValue_1 : decode cJ27_intValue 1 = .ok (.getfield 205, 3) := by decide +kernel
theorem dJ27_intValue_4 : decode cJ27_intValue 4 = .ok (.ireturn, 1) := by decide +kernel
def dkwJ27_valueOf_1 : List UInt8 := [187, 0, 1, 89, 26, 183, 0, 199, 176]
abbrev dktJ27_valueOf_1 : List UInt8 := dkwJ27_valueOf_1 ++ []
def dkwJ27_valueOf_0 : List UInt8 := [26, 16, 128, 161, 0, 20, 26, 178, 0, 191, 163, 0, 13, 178, 0, 195, 26, 17, 0, 128, 96, 50, 176]
abbrev dktJ27_valueOf_0 : List UInt8 := dkwJ27_valueOf_0 ++ dktJ27_valueOf_1
theorem dksJ27_valueOf_0 : cJ27_valueOf.data.toList.drop 0 = dktJ27_valueOf_0 := by decide +kernel
theorem dksJ27_valueOf_1 : cJ27_valueOf.data.toList.drop 23 = dktJ27_valueOf_1 := dk_seg dksJ27_valueOf_0 23 rfl rfl
theorem dJ27_valueOf_0 : decode cJ27_valueOf 0 = .ok (.iload_n 0, 1) := dk_26 (dk_at dksJ27_valueOf_0 0 rfl rfl)
theorem dJ27_valueOf_1 : decode cJ27_valueOf 1 = .ok (.bipush (-128), 2) := dk_16 128 (dk_at dksJ27_valueOf_0 1 rfl rfl)
theorem dJ27_valueOf_3 : decode cJ27_valueOf 3 = .ok (.if_icmp .lt 20, 3) := dk_161 0 20 (dk_at dksJ27_valueOf_0 3 rfl rfl)
theorem dJ27_valueOf_6 : decode cJ27_valueOf 6 = .ok (.iload_n 0, 1) := dk_26 (dk_at dksJ27_valueOf_0 6 rfl rfl)
theorem dJ27_valueOf_7 : decode cJ27_valueOf 7 = .ok (.getstatic 191, 3) := dk_178 0 191 (dk_at dksJ27_valueOf_0 7 rfl rfl)
theorem dJ27_valueOf_10 : decode cJ27_valueOf 10 = .ok (.if_icmp .gt 13, 3) := dk_163 0 13 (dk_at dksJ27_valueOf_0 10 rfl rfl)
theorem dJ27_valueOf_13 : decode cJ27_valueOf 13 = .ok (.getstatic 195, 3) := dk_178 0 195 (dk_at dksJ27_valueOf_0 13 rfl rfl)
theorem dJ27_valueOf_16 : decode cJ27_valueOf 16 = .ok (.iload_n 0, 1) := dk_26 (dk_at dksJ27_valueOf_0 16 rfl rfl)
theorem dJ27_valueOf_17 : decode cJ27_valueOf 17 = .ok (.sipush 128, 3) := dk_17 0 128 (dk_at dksJ27_valueOf_0 17 rfl rfl)
theorem dJ27_valueOf_20 : decode cJ27_valueOf 20 = .ok (.iadd, 1) := dk_96 (dk_at dksJ27_valueOf_0 20 rfl rfl)
theorem dJ27_valueOf_21 : decode cJ27_valueOf 21 = .ok (.aaload, 1) := dk_50 (dk_at dksJ27_valueOf_0 21 rfl rfl)
theorem dJ27_valueOf_22 : decode cJ27_valueOf 22 = .ok (.areturn, 1) := dk_176 (dk_at dksJ27_valueOf_0 22 rfl rfl)
theorem dJ27_valueOf_23 : decode cJ27_valueOf 23 = .ok (.new 1, 3) := dk_187 0 1 (dk_at dksJ27_valueOf_1 0 rfl rfl)
theorem dJ27_valueOf_26 : decode cJ27_valueOf 26 = .ok (.dup, 1) := dk_89 (dk_at dksJ27_valueOf_1 3 rfl rfl)
theorem dJ27_valueOf_27 : decode cJ27_valueOf 27 = .ok (.iload_n 0, 1) := dk_26 (dk_at dksJ27_valueOf_1 4 rfl rfl)
theorem dJ27_valueOf_28 : decode cJ27_valueOf 28 = .ok (.invokespecial 199, 3) := dk_183 0 199 (dk_at dksJ27_valueOf_1 5 rfl rfl)
theorem dJ27_valueOf_31 : decode cJ27_valueOf 31 = .ok (.areturn, 1) := dk_176 (dk_at dksJ27_valueOf_1 8 rfl rfl)
def dkwJ27_init_0 : List UInt8 := [42, 183, 0, 202, 42, 27, 181, 0, 205, 177]
abbrev dktJ27_init_0 : List UInt8 := dkwJ27_init_0 ++ []
theorem dksJ27_init_0 : cJ27_init.data.toList.drop 0 = dktJ27_init_0 := by decide +kernel
theorem dJ27_init_0 : decode cJ27_init 0 = .ok (.aload_n 0, 1) := dk_42 (dk_at dksJ27_init_0 0 rfl rfl)
theorem dJ27_init_1 : decode cJ27_init 1 = .ok (.invokespecial 202, 3) := dk_183 0 202 (dk_at dksJ27_init_0 1 rfl rfl)
theorem dJ27_init_4 : decode cJ27_init 4 = .ok (.aload_n 0, 1) := dk_42 (dk_at dksJ27_init_0 4 rfl rfl)
theorem dJ27_init_5 : decode cJ27_init 5 = .ok (.iload_n 1, 1) := dk_27 (dk_at dksJ27_init_0 5 rfl rfl)
theorem dJ27_init_6 : decode cJ27_init 6 = .ok (.putfield 205, 3) := dk_181 0 205 (dk_at dksJ27_init_0 6 rfl rfl)
theorem dJ27_init_9 : decode cJ27_init 9 = .ok (.return_, 1) := dk_177 (dk_at dksJ27_init_0 9 rfl rfl)
def dkwJ27_stringSize_1 : List UInt8 := [164, 0, 7, 29, 27, 96, 172, 16, 10, 28, 104, 61, 132, 3, 1, 167, 255, 233, 16, 10, 27, 96, 172]
abbrev dktJ27_stringSize_1 : List UInt8 := dkwJ27_stringSize_1 ++ []
def dkwJ27_stringSize_0 : List UInt8 := [4, 60, 26, 155, 0, 8, 3, 60, 26, 116, 59, 16, 246, 61, 4, 62, 29, 16, 10, 162, 0, 23, 26, 28]
abbrev dktJ27_stringSize_0 : List UInt8 := dkwJ27_stringSize_0 ++ dktJ27_stringSize_1
theorem dksJ27_stringSize_0 : cJ27_stringSize.data.toList.drop 0 = dktJ27_stringSize_0 := by decide +kernel
theorem dksJ27_stringSize_1 : cJ27_stringSize.data.toList.drop 24 = dktJ27_stringSize_1 := dk_seg dksJ27_stringSize_0 24 rfl rfl
theorem dJ27_stringSize_0 : decode cJ27_stringSize 0 = .ok (.iconst 1, 1) := dk_4 (dk_at dksJ27_stringSize_0 0 rfl rfl)
theorem dJ27_stringSize_1 : decode cJ27_stringSize 1 = .ok (.istore_n 1, 1) := dk_60 (dk_at dksJ27_stringSize_0 1 rfl rfl)
theorem dJ27_stringSize_2 : decode cJ27_stringSize 2 = .ok (.iload_n 0, 1) := dk_26 (dk_at dksJ27_stringSize_0 2 rfl rfl)
theorem dJ27_stringSize_3 : decode cJ27_stringSize 3 = .ok (.ifCond .lt 8, 3) := dk_155 0 8 (dk_at dksJ27_stringSize_0 3 rfl rfl)
theorem dJ27_stringSize_6 : decode cJ27_stringSize 6 = .ok (.iconst 0, 1) := dk_3 (dk_at dksJ27_stringSize_0 6 rfl rfl)
theorem dJ27_stringSize_7 : decode cJ27_stringSize 7 = .ok (.istore_n 1, 1) := dk_60 (dk_at dksJ27_stringSize_0 7 rfl rfl)
theorem dJ27_stringSize_8 : decode cJ27_stringSize 8 = .ok (.iload_n 0, 1) := dk_26 (dk_at dksJ27_stringSize_0 8 rfl rfl)
theorem dJ27_stringSize_9 : decode cJ27_stringSize 9 = .ok (.ineg, 1) := dk_116 (dk_at dksJ27_stringSize_0 9 rfl rfl)
theorem dJ27_stringSize_10 : decode cJ27_stringSize 10 = .ok (.istore_n 0, 1) := dk_59 (dk_at dksJ27_stringSize_0 10 rfl rfl)
theorem dJ27_stringSize_11 : decode cJ27_stringSize 11 = .ok (.bipush (-10), 2) := dk_16 246 (dk_at dksJ27_stringSize_0 11 rfl rfl)
theorem dJ27_stringSize_13 : decode cJ27_stringSize 13 = .ok (.istore_n 2, 1) := dk_61 (dk_at dksJ27_stringSize_0 13 rfl rfl)
theorem dJ27_stringSize_14 : decode cJ27_stringSize 14 = .ok (.iconst 1, 1) := dk_4 (dk_at dksJ27_stringSize_0 14 rfl rfl)
theorem dJ27_stringSize_15 : decode cJ27_stringSize 15 = .ok (.istore_n 3, 1) := dk_62 (dk_at dksJ27_stringSize_0 15 rfl rfl)
theorem dJ27_stringSize_16 : decode cJ27_stringSize 16 = .ok (.iload_n 3, 1) := dk_29 (dk_at dksJ27_stringSize_0 16 rfl rfl)
theorem dJ27_stringSize_17 : decode cJ27_stringSize 17 = .ok (.bipush 10, 2) := dk_16 10 (dk_at dksJ27_stringSize_0 17 rfl rfl)
theorem dJ27_stringSize_19 : decode cJ27_stringSize 19 = .ok (.if_icmp .ge 23, 3) := dk_162 0 23 (dk_at dksJ27_stringSize_0 19 rfl rfl)
theorem dJ27_stringSize_22 : decode cJ27_stringSize 22 = .ok (.iload_n 0, 1) := dk_26 (dk_at dksJ27_stringSize_0 22 rfl rfl)
theorem dJ27_stringSize_23 : decode cJ27_stringSize 23 = .ok (.iload_n 2, 1) := dk_28 (dk_at dksJ27_stringSize_0 23 rfl rfl)
theorem dJ27_stringSize_24 : decode cJ27_stringSize 24 = .ok (.if_icmp .le 7, 3) := dk_164 0 7 (dk_at dksJ27_stringSize_1 0 rfl rfl)
theorem dJ27_stringSize_27 : decode cJ27_stringSize 27 = .ok (.iload_n 3, 1) := dk_29 (dk_at dksJ27_stringSize_1 3 rfl rfl)
theorem dJ27_stringSize_28 : decode cJ27_stringSize 28 = .ok (.iload_n 1, 1) := dk_27 (dk_at dksJ27_stringSize_1 4 rfl rfl)
theorem dJ27_stringSize_29 : decode cJ27_stringSize 29 = .ok (.iadd, 1) := dk_96 (dk_at dksJ27_stringSize_1 5 rfl rfl)
theorem dJ27_stringSize_30 : decode cJ27_stringSize 30 = .ok (.ireturn, 1) := dk_172 (dk_at dksJ27_stringSize_1 6 rfl rfl)
theorem dJ27_stringSize_31 : decode cJ27_stringSize 31 = .ok (.bipush 10, 2) := dk_16 10 (dk_at dksJ27_stringSize_1 7 rfl rfl)
theorem dJ27_stringSize_33 : decode cJ27_stringSize 33 = .ok (.iload_n 2, 1) := dk_28 (dk_at dksJ27_stringSize_1 9 rfl rfl)
theorem dJ27_stringSize_34 : decode cJ27_stringSize 34 = .ok (.imul, 1) := dk_104 (dk_at dksJ27_stringSize_1 10 rfl rfl)
theorem dJ27_stringSize_35 : decode cJ27_stringSize 35 = .ok (.istore_n 2, 1) := dk_61 (dk_at dksJ27_stringSize_1 11 rfl rfl)
theorem dJ27_stringSize_36 : decode cJ27_stringSize 36 = .ok (.iinc 3 1, 3) := dk_132 3 1 (dk_at dksJ27_stringSize_1 12 rfl rfl)
theorem dJ27_stringSize_39 : decode cJ27_stringSize 39 = .ok (.goto (-23), 3) := dk_167 255 233 (dk_at dksJ27_stringSize_1 15 rfl rfl)
theorem dJ27_stringSize_42 : decode cJ27_stringSize 42 = .ok (.bipush 10, 2) := dk_16 10 (dk_at dksJ27_stringSize_1 18 rfl rfl)
theorem dJ27_stringSize_44 : decode cJ27_stringSize 44 = .ok (.iload_n 1, 1) := dk_27 (dk_at dksJ27_stringSize_1 20 rfl rfl)
theorem dJ27_stringSize_45 : decode cJ27_stringSize 45 = .ok (.iadd, 1) := dk_96 (dk_at dksJ27_stringSize_1 21 rfl rfl)
theorem dJ27_stringSize_46 : decode cJ27_stringSize 46 = .ok (.ireturn, 1) := dk_172 (dk_at dksJ27_stringSize_1 22 rfl rfl)
def dkwJ27_getChars_5 : List UInt8 := [16, 45, 84, 21, 5, 172]
abbrev dktJ27_getChars_5 : List UInt8 := dkwJ27_getChars_5 ++ []
def dkwJ27_getChars_4 : List UInt8 := [132, 5, 255, 21, 5, 178, 0, 87, 26, 116, 51, 84, 21, 6, 153, 0, 12, 44, 132, 5, 255, 21, 5]
abbrev dktJ27_getChars_4 : List UInt8 := dkwJ27_getChars_4 ++ dktJ27_getChars_5
def dkwJ27_getChars_3 : List UInt8 := [167, 255, 209, 44, 132, 5, 255, 21, 5, 178, 0, 83, 26, 116, 51, 84, 26, 16, 247, 162, 0, 16, 44]
abbrev dktJ27_getChars_3 : List UInt8 := dkwJ27_getChars_3 ++ dktJ27_getChars_4
def dkwJ27_getChars_2 : List UInt8 := [21, 5, 178, 0, 83, 21, 4, 51, 84, 44, 132, 5, 255, 21, 5, 178, 0, 87, 21, 4, 51, 84]
abbrev dktJ27_getChars_2 : List UInt8 := dkwJ27_getChars_2 ++ dktJ27_getChars_3
def dkwJ27_getChars_1 : List UInt8 := [16, 156, 163, 0, 47, 26, 16, 100, 108, 62, 29, 16, 100, 104, 26, 100, 54, 4, 29, 59, 44, 132, 5, 255]
abbrev dktJ27_getChars_1 : List UInt8 := dkwJ27_getChars_1 ++ dktJ27_getChars_2
def dkwJ27_getChars_0 : List UInt8 := [27, 54, 5, 26, 156, 0, 7, 4, 167, 0, 4, 3, 54, 6, 21, 6, 154, 0, 6, 26, 116, 59, 26]
abbrev dktJ27_getChars_0 : List UInt8 := dkwJ27_getChars_0 ++ dktJ27_getChars_1
theorem dksJ27_getChars_0 : cJ27_getChars.data.toList.drop 0 = dktJ27_getChars_0 := by decide +kernel
theorem dksJ27_getChars_1 : cJ27_getChars.data.toList.drop 23 = dktJ27_getChars_1 := dk_seg dksJ27_getChars_0 23 rfl rfl
theorem dksJ27_getChars_2 : cJ27_getChars.data.toList.drop 47 = dktJ27_getChars_2 := dk_seg dksJ27_getChars_1 24 rfl rfl
theorem dksJ27_getChars_3 : cJ27_getChars.data.toList.drop 69 = dktJ27_getChars_3 := dk_seg dksJ27_getChars_2 22 rfl rfl
theorem dksJ27_getChars_4 : cJ27_getChars.data.toList.drop 92 = dktJ27_getChars_4 := dk_seg dksJ27_getChars_3 23 rfl rfl
theorem dksJ27_getChars_5 : cJ27_getChars.data.toList.drop 115 = dktJ27_getChars_5 := dk_seg dksJ27_getChars_4 23 rfl rfl
theorem dJ27_getChars_0 : decode cJ27_getChars 0 = .ok (.iload_n 1, 1) := dk_27 (dk_at dksJ27_getChars_0 0 rfl rfl)
theorem dJ27_getChars_1 : decode cJ27_getChars 1 = .ok (.istore 5, 2) := dk_54 5 (dk_at dksJ27_getChars_0 1 rfl rfl)
theorem dJ27_getChars_3 : decode cJ27_getChars 3 = .ok (.iload_n 0, 1) := dk_26 (dk_at dksJ27_getChars_0 3 rfl rfl)
theorem dJ27_getChars_4 : decode cJ27_getChars 4 = .ok (.ifCond .ge 7, 3) := dk_156 0 7 (dk_at dksJ27_getChars_0 4 rfl rfl)
theorem dJ27_getChars_7 : decode cJ27_getChars 7 = .ok (.iconst 1, 1) := dk_4 (dk_at dksJ27_getChars_0 7 rfl rfl)
theorem dJ27_getChars_8 : decode cJ27_getChars 8 = .ok (.goto 4, 3) := dk_167 0 4 (dk_at dksJ27_getChars_0 8 rfl rfl)
theorem dJ27_getChars_11 : decode cJ27_getChars 11 = .ok (.iconst 0, 1) := dk_3 (dk_at dksJ27_getChars_0 11 rfl rfl)
theorem dJ27_getChars_12 : decode cJ27_getChars 12 = .ok (.istore 6, 2) := dk_54 6 (dk_at dksJ27_getChars_0 12 rfl rfl)
theorem dJ27_getChars_14 : decode cJ27_getChars 14 = .ok (.iload 6, 2) := dk_21 6 (dk_at dksJ27_getChars_0 14 rfl rfl)
theorem dJ27_getChars_16 : decode cJ27_getChars 16 = .ok (.ifCond .ne 6, 3) := dk_154 0 6 (dk_at dksJ27_getChars_0 16 rfl rfl)
theorem dJ27_getChars_19 : decode cJ27_getChars 19 = .ok (.iload_n 0, 1) := dk_26 (dk_at dksJ27_getChars_0 19 rfl rfl)
theorem dJ27_getChars_20 : decode cJ27_getChars 20 = .ok (.ineg, 1) := dk_116 (dk_at dksJ27_getChars_0 20 rfl rfl)
theorem dJ27_getChars_21 : decode cJ27_getChars 21 = .ok (.istore_n 0, 1) := dk_59 (dk_at dksJ27_getChars_0 21 rfl rfl)
theorem dJ27_getChars_22 : decode cJ27_getChars 22 = .ok (.iload_n 0, 1) := dk_26 (dk_at dksJ27_getChars_0 22 rfl rfl)
theorem dJ27_getChars_23 : decode cJ27_getChars 23 = .ok (.bipush (-100), 2) := dk_16 156 (dk_at dksJ27_getChars_1 0 rfl rfl)
theorem dJ27_getChars_25 : decode cJ27_getChars 25 = .ok (.if_icmp .gt 47, 3) := dk_163 0 47 (dk_at dksJ27_getChars_1 2 rfl rfl)
theorem dJ27_getChars_28 : decode cJ27_getChars 28 = .ok (.iload_n 0, 1) := dk_26 (dk_at dksJ27_getChars_1 5 rfl rfl)
theorem dJ27_getChars_29 : decode cJ27_getChars 29 = .ok (.bipush 100, 2) := dk_16 100 (dk_at dksJ27_getChars_1 6 rfl rfl)
theorem dJ27_getChars_31 : decode cJ27_getChars 31 = .ok (.idiv, 1) := dk_108 (dk_at dksJ27_getChars_1 8 rfl rfl)
theorem dJ27_getChars_32 : decode cJ27_getChars 32 = .ok (.istore_n 3, 1) := dk_62 (dk_at dksJ27_getChars_1 9 rfl rfl)
theorem dJ27_getChars_33 : decode cJ27_getChars 33 = .ok (.iload_n 3, 1) := dk_29 (dk_at dksJ27_getChars_1 10 rfl rfl)
theorem dJ27_getChars_34 : decode cJ27_getChars 34 = .ok (.bipush 100, 2) := dk_16 100 (dk_at dksJ27_getChars_1 11 rfl rfl)
theorem dJ27_getChars_36 : decode cJ27_getChars 36 = .ok (.imul, 1) := dk_104 (dk_at dksJ27_getChars_1 13 rfl rfl)
theorem dJ27_getChars_37 : decode cJ27_getChars 37 = .ok (.iload_n 0, 1) := dk_26 (dk_at dksJ27_getChars_1 14 rfl rfl)
theorem dJ27_getChars_38 : decode cJ27_getChars 38 = .ok (.isub, 1) := dk_100 (dk_at dksJ27_getChars_1 15 rfl rfl)
theorem dJ27_getChars_39 : decode cJ27_getChars 39 = .ok (.istore 4, 2) := dk_54 4 (dk_at dksJ27_getChars_1 16 rfl rfl)
theorem dJ27_getChars_41 : decode cJ27_getChars 41 = .ok (.iload_n 3, 1) := dk_29 (dk_at dksJ27_getChars_1 18 rfl rfl)
theorem dJ27_getChars_42 : decode cJ27_getChars 42 = .ok (.istore_n 0, 1) := dk_59 (dk_at dksJ27_getChars_1 19 rfl rfl)
theorem dJ27_getChars_43 : decode cJ27_getChars 43 = .ok (.aload_n 2, 1) := dk_44 (dk_at dksJ27_getChars_1 20 rfl rfl)
theorem dJ27_getChars_44 : decode cJ27_getChars 44 = .ok (.iinc 5 (-1), 3) := dk_132 5 255 (dk_at dksJ27_getChars_1 21 rfl rfl)
theorem dJ27_getChars_47 : decode cJ27_getChars 47 = .ok (.iload 5, 2) := dk_21 5 (dk_at dksJ27_getChars_2 0 rfl rfl)
theorem dJ27_getChars_49 : decode cJ27_getChars 49 = .ok (.getstatic 83, 3) := dk_178 0 83 (dk_at dksJ27_getChars_2 2 rfl rfl)
theorem dJ27_getChars_52 : decode cJ27_getChars 52 = .ok (.iload 4, 2) := dk_21 4 (dk_at dksJ27_getChars_2 5 rfl rfl)
theorem dJ27_getChars_54 : decode cJ27_getChars 54 = .ok (.baload, 1) := dk_51 (dk_at dksJ27_getChars_2 7 rfl rfl)
theorem dJ27_getChars_55 : decode cJ27_getChars 55 = .ok (.bastore, 1) := dk_84 (dk_at dksJ27_getChars_2 8 rfl rfl)
theorem dJ27_getChars_56 : decode cJ27_getChars 56 = .ok (.aload_n 2, 1) := dk_44 (dk_at dksJ27_getChars_2 9 rfl rfl)
theorem dJ27_getChars_57 : decode cJ27_getChars 57 = .ok (.iinc 5 (-1), 3) := dk_132 5 255 (dk_at dksJ27_getChars_2 10 rfl rfl)
theorem dJ27_getChars_60 : decode cJ27_getChars 60 = .ok (.iload 5, 2) := dk_21 5 (dk_at dksJ27_getChars_2 13 rfl rfl)
theorem dJ27_getChars_62 : decode cJ27_getChars 62 = .ok (.getstatic 87, 3) := dk_178 0 87 (dk_at dksJ27_getChars_2 15 rfl rfl)
theorem dJ27_getChars_65 : decode cJ27_getChars 65 = .ok (.iload 4, 2) := dk_21 4 (dk_at dksJ27_getChars_2 18 rfl rfl)
theorem dJ27_getChars_67 : decode cJ27_getChars 67 = .ok (.baload, 1) := dk_51 (dk_at dksJ27_getChars_2 20 rfl rfl)
theorem dJ27_getChars_68 : decode cJ27_getChars 68 = .ok (.bastore, 1) := dk_84 (dk_at dksJ27_getChars_2 21 rfl rfl)
theorem dJ27_getChars_69 : decode cJ27_getChars 69 = .ok (.goto (-47), 3) := dk_167 255 209 (dk_at dksJ27_getChars_3 0 rfl rfl)
theorem dJ27_getChars_72 : decode cJ27_getChars 72 = .ok (.aload_n 2, 1) := dk_44 (dk_at dksJ27_getChars_3 3 rfl rfl)
theorem dJ27_getChars_73 : decode cJ27_getChars 73 = .ok (.iinc 5 (-1), 3) := dk_132 5 255 (dk_at dksJ27_getChars_3 4 rfl rfl)
theorem dJ27_getChars_76 : decode cJ27_getChars 76 = .ok (.iload 5, 2) := dk_21 5 (dk_at dksJ27_getChars_3 7 rfl rfl)
theorem dJ27_getChars_78 : decode cJ27_getChars 78 = .ok (.getstatic 83, 3) := dk_178 0 83 (dk_at dksJ27_getChars_3 9 rfl rfl)
theorem dJ27_getChars_81 : decode cJ27_getChars 81 = .ok (.iload_n 0, 1) := dk_26 (dk_at dksJ27_getChars_3 12 rfl rfl)
theorem dJ27_getChars_82 : decode cJ27_getChars 82 = .ok (.ineg, 1) := dk_116 (dk_at dksJ27_getChars_3 13 rfl rfl)
theorem dJ27_getChars_83 : decode cJ27_getChars 83 = .ok (.baload, 1) := dk_51 (dk_at dksJ27_getChars_3 14 rfl rfl)
theorem dJ27_getChars_84 : decode cJ27_getChars 84 = .ok (.bastore, 1) := dk_84 (dk_at dksJ27_getChars_3 15 rfl rfl)
theorem dJ27_getChars_85 : decode cJ27_getChars 85 = .ok (.iload_n 0, 1) := dk_26 (dk_at dksJ27_getChars_3 16 rfl rfl)
theorem dJ27_getChars_86 : decode cJ27_getChars 86 = .ok (.bipush (-9), 2) := dk_16 247 (dk_at dksJ27_getChars_3 17 rfl rfl)
theorem dJ27_getChars_88 : decode cJ27_getChars 88 = .ok (.if_icmp .ge 16, 3) := dk_162 0 16 (dk_at dksJ27_getChars_3 19 rfl rfl)
theorem dJ27_getChars_91 : decode cJ27_getChars 91 = .ok (.aload_n 2, 1) := dk_44 (dk_at dksJ27_getChars_3 22 rfl rfl)
theorem dJ27_getChars_92 : decode cJ27_getChars 92 = .ok (.iinc 5 (-1), 3) := dk_132 5 255 (dk_at dksJ27_getChars_4 0 rfl rfl)
theorem dJ27_getChars_95 : decode cJ27_getChars 95 = .ok (.iload 5, 2) := dk_21 5 (dk_at dksJ27_getChars_4 3 rfl rfl)
theorem dJ27_getChars_97 : decode cJ27_getChars 97 = .ok (.getstatic 87, 3) := dk_178 0 87 (dk_at dksJ27_getChars_4 5 rfl rfl)
theorem dJ27_getChars_100 : decode cJ27_getChars 100 = .ok (.iload_n 0, 1) := dk_26 (dk_at dksJ27_getChars_4 8 rfl rfl)
theorem dJ27_getChars_101 : decode cJ27_getChars 101 = .ok (.ineg, 1) := dk_116 (dk_at dksJ27_getChars_4 9 rfl rfl)
theorem dJ27_getChars_102 : decode cJ27_getChars 102 = .ok (.baload, 1) := dk_51 (dk_at dksJ27_getChars_4 10 rfl rfl)
theorem dJ27_getChars_103 : decode cJ27_getChars 103 = .ok (.bastore, 1) := dk_84 (dk_at dksJ27_getChars_4 11 rfl rfl)
theorem dJ27_getChars_104 : decode cJ27_getChars 104 = .ok (.iload 6, 2) := dk_21 6 (dk_at dksJ27_getChars_4 12 rfl rfl)
theorem dJ27_getChars_106 : decode cJ27_getChars 106 = .ok (.ifCond .eq 12, 3) := dk_153 0 12 (dk_at dksJ27_getChars_4 14 rfl rfl)
theorem dJ27_getChars_109 : decode cJ27_getChars 109 = .ok (.aload_n 2, 1) := dk_44 (dk_at dksJ27_getChars_4 17 rfl rfl)
theorem dJ27_getChars_110 : decode cJ27_getChars 110 = .ok (.iinc 5 (-1), 3) := dk_132 5 255 (dk_at dksJ27_getChars_4 18 rfl rfl)
theorem dJ27_getChars_113 : decode cJ27_getChars 113 = .ok (.iload 5, 2) := dk_21 5 (dk_at dksJ27_getChars_4 21 rfl rfl)
theorem dJ27_getChars_115 : decode cJ27_getChars 115 = .ok (.bipush 45, 2) := dk_16 45 (dk_at dksJ27_getChars_5 0 rfl rfl)
theorem dJ27_getChars_117 : decode cJ27_getChars 117 = .ok (.bastore, 1) := dk_84 (dk_at dksJ27_getChars_5 2 rfl rfl)
theorem dJ27_getChars_118 : decode cJ27_getChars 118 = .ok (.iload 5, 2) := dk_21 5 (dk_at dksJ27_getChars_5 3 rfl rfl)
theorem dJ27_getChars_120 : decode cJ27_getChars 120 = .ok (.ireturn, 1) := dk_172 (dk_at dksJ27_getChars_5 5 rfl rfl)
def dkwJ9_checkBoundsOffCount_0 : List UInt8 := [26, 27, 28, 178, 4, 29, 184, 4, 41, 172]
abbrev dktJ9_checkBoundsOffCount_0 : List UInt8 := dkwJ9_checkBoundsOffCount_0 ++ []
theorem dksJ9_checkBoundsOffCount_0 : cJ9_checkBoundsOffCount.data.toList.drop 0 = dktJ9_checkBoundsOffCount_0 := by decide +kernel
theorem dJ9_checkBoundsOffCount_0 : decode cJ9_checkBoundsOffCount 0 = .ok (.iload_n 0, 1) := dk_26 (dk_at dksJ9_checkBoundsOffCount_0 0 rfl rfl)
theorem dJ9_checkBoundsOffCount_1 : decode cJ9_checkBoundsOffCount 1 = .ok (.iload_n 1, 1) := dk_27 (dk_at dksJ9_checkBoundsOffCount_0 1 rfl rfl)
theorem dJ9_checkBoundsOffCount_2 : decode cJ9_checkBoundsOffCount 2 = .ok (.iload_n 2, 1) := dk_28 (dk_at dksJ9_checkBoundsOffCount_0 2 rfl rfl)
theorem dJ9_checkBoundsOffCount_3 : decode cJ9_checkBoundsOffCount 3 = .ok (.getstatic 1053, 3) := dk_178 4 29 (dk_at dksJ9_checkBoundsOffCount_0 3 rfl rfl)
theorem dJ9_checkBoundsOffCount_6 : decode cJ9_checkBoundsOffCount 6 = .ok (.invokestatic 1065, 3) := dk_184 4 41 (dk_at dksJ9_checkBoundsOffCount_0 6 rfl rfl)
theorem dJ9_checkBoundsOffCount_9 : decode cJ9_checkBoundsOffCount 9 = .ok (.ireturn, 1) := dk_172 (dk_at dksJ9_checkBoundsOffCount_0 9 rfl rfl)
def dkwJ9_checkIndex_0 : List UInt8 := [26, 27, 178, 4, 29, 184, 4, 35, 87, 177]
abbrev dktJ9_checkIndex_0 : List UInt8 := dkwJ9_checkIndex_0 ++ []
theorem dksJ9_checkIndex_0 : cJ9_checkIndex.data.toList.drop 0 = dktJ9_checkIndex_0 := by decide +kernel
theorem dJ9_checkIndex_0 : decode cJ9_checkIndex 0 = .ok (.iload_n 0, 1) := dk_26 (dk_at dksJ9_checkIndex_0 0 rfl rfl)
theorem dJ9_checkIndex_1 : decode cJ9_checkIndex 1 = .ok (.iload_n 1, 1) := dk_27 (dk_at dksJ9_checkIndex_0 1 rfl rfl)
theorem dJ9_checkIndex_2 : decode cJ9_checkIndex 2 = .ok (.getstatic 1053, 3) := dk_178 4 29 (dk_at dksJ9_checkIndex_0 2 rfl rfl)
theorem dJ9_checkIndex_5 : decode cJ9_checkIndex 5 = .ok (.invokestatic 1059, 3) := dk_184 4 35 (dk_at dksJ9_checkIndex_0 5 rfl rfl)
theorem dJ9_checkIndex_8 : decode cJ9_checkIndex 8 = .ok (.pop, 1) := dk_87 (dk_at dksJ9_checkIndex_0 8 rfl rfl)
theorem dJ9_checkIndex_9 : decode cJ9_checkIndex 9 = .ok (.return_, 1) := dk_177 (dk_at dksJ9_checkIndex_0 9 rfl rfl)
def dkwJ9_init_0 : List UInt8 := [42, 43, 1, 183, 1, 233, 177]
abbrev dktJ9_init_0 : List UInt8 := dkwJ9_init_0 ++ []
theorem dksJ9_init_0 : cJ9_init.data.toList.drop 0 = dktJ9_init_0 := by decide +kernel
theorem dJ9_init_0 : decode cJ9_init 0 = .ok (.aload_n 0, 1) := dk_42 (dk_at dksJ9_init_0 0 rfl rfl)
theorem dJ9_init_1 : decode cJ9_init 1 = .ok (.aload_n 1, 1) := dk_43 (dk_at dksJ9_init_0 1 rfl rfl)
theorem dJ9_init_2 : decode cJ9_init 2 = .ok (.aconst_null, 1) := dk_1 (dk_at dksJ9_init_0 2 rfl rfl)
theorem dJ9_init_3 : decode cJ9_init 3 = .ok (.invokespecial 489, 3) := dk_183 1 233 (dk_at dksJ9_init_0 3 rfl rfl)
theorem dJ9_init_6 : decode cJ9_init 6 = .ok (.return_, 1) := dk_177 (dk_at dksJ9_init_0 6 rfl rfl)
def dkwJ9_init_2_4 : List UInt8 := [181, 0, 9, 177]
abbrev dktJ9_init_2_4 : List UInt8 := dkwJ9_init_2_4 ++ []
def dkwJ9_init_2_3 : List UInt8 := [184, 0, 47, 181, 0, 15, 177, 42, 4, 181, 0, 15, 42, 45, 3, 21, 4, 4, 120, 184, 0, 54]
abbrev dktJ9_init_2_3 : List UInt8 := dkwJ9_init_2_3 ++ dktJ9_init_2_4
def dkwJ9_init_2_2 : List UInt8 := [180, 4, 24, 153, 0, 28, 42, 45, 3, 21, 4, 184, 4, 27, 181, 0, 9, 42, 42, 180, 0, 9, 21, 4]
abbrev dktJ9_init_2_2 : List UInt8 := dkwJ9_init_2_2 ++ dktJ9_init_2_3
def dkwJ9_init_2_1 : List UInt8 := [181, 0, 15, 42, 45, 3, 21, 4, 184, 0, 54, 181, 0, 9, 167, 0, 59, 178, 0, 38, 153, 0, 35, 43]
abbrev dktJ9_init_2_1 : List UInt8 := dkwJ9_init_2_1 ++ dktJ9_init_2_2
def dkwJ9_init_2_0 : List UInt8 := [42, 183, 0, 1, 43, 182, 2, 40, 78, 43, 182, 2, 37, 54, 4, 43, 182, 4, 23, 153, 0, 22, 42, 3]
abbrev dktJ9_init_2_0 : List UInt8 := dkwJ9_init_2_0 ++ dktJ9_init_2_1
theorem dksJ9_init_2_0 : cJ9_init_2.data.toList.drop 0 = dktJ9_init_2_0 := by decide +kernel
theorem dksJ9_init_2_1 : cJ9_init_2.data.toList.drop 24 = dktJ9_init_2_1 := dk_seg dksJ9_init_2_0 24 rfl rfl
theorem dksJ9_init_2_2 : cJ9_init_2.data.toList.drop 48 = dktJ9_init_2_2 := dk_seg dksJ9_init_2_1 24 rfl rfl
theorem dksJ9_init_2_3 : cJ9_init_2.data.toList.drop 72 = dktJ9_init_2_3 := dk_seg dksJ9_init_2_2 24 rfl rfl
theorem dksJ9_init_2_4 : cJ9_init_2.data.toList.drop 94 = dktJ9_init_2_4 := dk_seg dksJ9_init_2_3 22 rfl rfl
theorem dJ9_init_2_0 : decode cJ9_init_2 0 = .ok (.aload_n 0, 1) := dk_42 (dk_at dksJ9_init_2_0 0 rfl rfl)
theorem dJ9_init_2_1 : decode cJ9_init_2 1 = .ok (.invokespecial 1, 3) := dk_183 0 1 (dk_at dksJ9_init_2_0 1 rfl rfl)
theorem dJ9_init_2_4 : decode cJ9_init_2 4 = .ok (.aload_n 1, 1) := dk_43 (dk_at dksJ9_init_2_0 4 rfl rfl)
theorem dJ9_init_2_5 : decode cJ9_init_2 5 = .ok (.invokevirtual 552, 3) := dk_182 2 40 (dk_at dksJ9_init_2_0 5 rfl rfl)
theorem dJ9_init_2_8 : decode cJ9_init_2 8 = .ok (.astore_n 3, 1) := dk_78 (dk_at dksJ9_init_2_0 8 rfl rfl)
theorem dJ9_init_2_9 : decode cJ9_init_2 9 = .ok (.aload_n 1, 1) := dk_43 (dk_at dksJ9_init_2_0 9 rfl rfl)
theorem dJ9_init_2_10 : decode cJ9_init_2 10 = .ok (.invokevirtual 549, 3) := dk_182 2 37 (dk_at dksJ9_init_2_0 10 rfl rfl)
theorem dJ9_init_2_13 : decode cJ9_init_2 13 = .ok (.istore 4, 2) := dk_54 4 (dk_at dksJ9_init_2_0 13 rfl rfl)
theorem dJ9_init_2_15 : decode cJ9_init_2 15 = .ok (.aload_n 1, 1) := dk_43 (dk_at dksJ9_init_2_0 15 rfl rfl)
theorem dJ9_init_2_16 : decode cJ9_init_2 16 = .ok (.invokevirtual 1047, 3) := dk_182 4 23 (dk_at dksJ9_init_2_0 16 rfl rfl)
theorem dJ9_init_2_19 : decode cJ9_init_2 19 = .ok (.ifCond .eq 22, 3) := dk_153 0 22 (dk_at dksJ9_init_2_0 19 rfl rfl)
theorem dJ9_init_2_22 : decode cJ9_init_2 22 = .ok (.aload_n 0, 1) := dk_42 (dk_at dksJ9_init_2_0 22 rfl rfl)
theorem dJ9_init_2_23 : decode cJ9_init_2 23 = .ok (.iconst 0, 1) := dk_3 (dk_at dksJ9_init_2_0 23 rfl rfl)
theorem dJ9_init_2_24 : decode cJ9_init_2 24 = .ok (.putfield 15, 3) := dk_181 0 15 (dk_at dksJ9_init_2_1 0 rfl rfl)
theorem dJ9_init_2_27 : decode cJ9_init_2 27 = .ok (.aload_n 0, 1) := dk_42 (dk_at dksJ9_init_2_1 3 rfl rfl)
theorem dJ9_init_2_28 : decode cJ9_init_2 28 = .ok (.aload_n 3, 1) := dk_45 (dk_at dksJ9_init_2_1 4 rfl rfl)
theorem dJ9_init_2_29 : decode cJ9_init_2 29 = .ok (.iconst 0, 1) := dk_3 (dk_at dksJ9_init_2_1 5 rfl rfl)
theorem dJ9_init_2_30 : decode cJ9_init_2 30 = .ok (.iload 4, 2) := dk_21 4 (dk_at dksJ9_init_2_1 6 rfl rfl)
theorem dJ9_init_2_32 : decode cJ9_init_2 32 = .ok (.invokestatic 54, 3) := dk_184 0 54 (dk_at dksJ9_init_2_1 8 rfl rfl)
theorem dJ9_init_2_35 : decode cJ9_init_2 35 = .ok (.putfield 9, 3) := dk_181 0 9 (dk_at dksJ9_init_2_1 11 rfl rfl)
theorem dJ9_init_2_38 : decode cJ9_init_2 38 = .ok (.goto 59, 3) := dk_167 0 59 (dk_at dksJ9_init_2_1 14 rfl rfl)
theorem dJ9_init_2_41 : decode cJ9_init_2 41 = .ok (.getstatic 38, 3) := dk_178 0 38 (dk_at dksJ9_init_2_1 17 rfl rfl)
theorem dJ9_init_2_44 : decode cJ9_init_2 44 = .ok (.ifCond .eq 35, 3) := dk_153 0 35 (dk_at dksJ9_init_2_1 20 rfl rfl)
theorem dJ9_init_2_47 : decode cJ9_init_2 47 = .ok (.aload_n 1, 1) := dk_43 (dk_at dksJ9_init_2_1 23 rfl rfl)
theorem dJ9_init_2_48 : decode cJ9_init_2 48 = .ok (.getfield 1048, 3) := dk_180 4 24 (dk_at dksJ9_init_2_2 0 rfl rfl)
theorem dJ9_init_2_51 : decode cJ9_init_2 51 = .ok (.ifCond .eq 28, 3) := dk_153 0 28 (dk_at dksJ9_init_2_2 3 rfl rfl)
theorem dJ9_init_2_54 : decode cJ9_init_2 54 = .ok (.aload_n 0, 1) := dk_42 (dk_at dksJ9_init_2_2 6 rfl rfl)
theorem dJ9_init_2_55 : decode cJ9_init_2 55 = .ok (.aload_n 3, 1) := dk_45 (dk_at dksJ9_init_2_2 7 rfl rfl)
theorem dJ9_init_2_56 : decode cJ9_init_2 56 = .ok (.iconst 0, 1) := dk_3 (dk_at dksJ9_init_2_2 8 rfl rfl)
theorem dJ9_init_2_57 : decode cJ9_init_2 57 = .ok (.iload 4, 2) := dk_21 4 (dk_at dksJ9_init_2_2 9 rfl rfl)
theorem dJ9_init_2_59 : decode cJ9_init_2 59 = .ok (.invokestatic 1051, 3) := dk_184 4 27 (dk_at dksJ9_init_2_2 11 rfl rfl)
theorem dJ9_init_2_62 : decode cJ9_init_2 62 = .ok (.putfield 9, 3) := dk_181 0 9 (dk_at dksJ9_init_2_2 14 rfl rfl)
theorem dJ9_init_2_65 : decode cJ9_init_2 65 = .ok (.aload_n 0, 1) := dk_42 (dk_at dksJ9_init_2_2 17 rfl rfl)
theorem dJ9_init_2_66 : decode cJ9_init_2 66 = .ok (.aload_n 0, 1) := dk_42 (dk_at dksJ9_init_2_2 18 rfl rfl)
theorem dJ9_init_2_67 : decode cJ9_init_2 67 = .ok (.getfield 9, 3) := dk_180 0 9 (dk_at dksJ9_init_2_2 19 rfl rfl)
theorem dJ9_init_2_70 : decode cJ9_init_2 70 = .ok (.iload 4, 2) := dk_21 4 (dk_at dksJ9_init_2_2 22 rfl rfl)
theorem dJ9_init_2_72 : decode cJ9_init_2 72 = .ok (.invokestatic 47, 3) := dk_184 0 47 (dk_at dksJ9_init_2_3 0 rfl rfl)
theorem dJ9_init_2_75 : decode cJ9_init_2 75 = .ok (.putfield 15, 3) := dk_181 0 15 (dk_at dksJ9_init_2_3 3 rfl rfl)
theorem dJ9_init_2_78 : decode cJ9_init_2 78 = .ok (.return_, 1) := dk_177 (dk_at dksJ9_init_2_3 6 rfl rfl)
theorem dJ9_init_2_79 : decode cJ9_init_2 79 = .ok (.aload_n 0, 1) := dk_42 (dk_at dksJ9_init_2_3 7 rfl rfl)
theorem dJ9_init_2_80 : decode cJ9_init_2 80 = .ok (.iconst 1, 1) := dk_4 (dk_at dksJ9_init_2_3 8 rfl rfl)
theorem dJ9_init_2_81 : decode cJ9_init_2 81 = .ok (.putfield 15, 3) := dk_181 0 15 (dk_at dksJ9_init_2_3 9 rfl rfl)
theorem dJ9_init_2_84 : decode cJ9_init_2 84 = .ok (.aload_n 0, 1) := dk_42 (dk_at dksJ9_init_2_3 12 rfl rfl)
theorem dJ9_init_2_85 : decode cJ9_init_2 85 = .ok (.aload_n 3, 1) := dk_45 (dk_at dksJ9_init_2_3 13 rfl rfl)
theorem dJ9_init_2_86 : decode cJ9_init_2 86 = .ok (.iconst 0, 1) := dk_3 (dk_at dksJ9_init_2_3 14 rfl rfl)
theorem dJ9_init_2_87 : decode cJ9_init_2 87 = .ok (.iload 4, 2) := dk_21 4 (dk_at dksJ9_init_2_3 15 rfl rfl)
theorem dJ9_init_2_89 : decode cJ9_init_2 89 = .ok (.iconst 1, 1) := dk_4 (dk_at dksJ9_init_2_3 17 rfl rfl)
theorem dJ9_init_2_90 : decode cJ9_init_2 90 = .ok (.ishl, 1) := dk_120 (dk_at dksJ9_init_2_3 18 rfl rfl)
theorem dJ9_init_2_91 : decode cJ9_init_2 91 = .ok (.invokestatic 54, 3) := dk_184 0 54 (dk_at dksJ9_init_2_3 19 rfl rfl)
theorem dJ9_init_2_94 : decode cJ9_init_2 94 = .ok (.putfield 9, 3) := dk_181 0 9 (dk_at dksJ9_init_2_4 0 rfl rfl)
theorem dJ9_init_2_97 : decode cJ9_init_2 97 = .ok (.return_, 1) := dk_177 (dk_at dksJ9_init_2_4 3 rfl rfl)
def dkwJ9_length_0 : List UInt8 := [42, 180, 0, 9, 190, 42, 182, 1, 79, 122, 172]
abbrev dktJ9_length_0 : List UInt8 := dkwJ9_length_0 ++ []
theorem dksJ9_length_0 : cJ9_length.data.toList.drop 0 = dktJ9_length_0 := by decide +kernel
theorem dJ9_length_0 : decode cJ9_length 0 = .ok (.aload_n 0, 1) := dk_42 (dk_at dksJ9_length_0 0 rfl rfl)
theorem dJ9_length_1 : decode cJ9_length 1 = .ok (.getfield 9, 3) := dk_180 0 9 (dk_at dksJ9_length_0 1 rfl rfl)
theorem dJ9_length_4 : decode cJ9_length 4 = .ok (.arraylength, 1) := dk_190 (dk_at dksJ9_length_0 4 rfl rfl)
theorem dJ9_length_5 : decode cJ9_length 5 = .ok (.aload_n 0, 1) := dk_42 (dk_at dksJ9_length_0 5 rfl rfl)
theorem dJ9_length_6 : decode cJ9_length 6 = .ok (.invokevirtual 335, 3) := dk_182 1 79 (dk_at dksJ9_length_0 6 rfl rfl)
theorem dJ9_length_9 : decode cJ9_length 9 = .ok (.ishr, 1) := dk_122 (dk_at dksJ9_length_0 9 rfl rfl)
theorem dJ9_length_10 : decode cJ9_length 10 = .ok (.ireturn, 1) := dk_172 (dk_at dksJ9_length_0 10 rfl rfl)
def dkwJ9_coder_0 : List UInt8 := [178, 0, 38, 153, 0, 10, 42, 180, 0, 15, 167, 0, 4, 4, 172]
abbrev dktJ9_coder_0 : List UInt8 := dkwJ9_coder_0 ++ []
theorem dksJ9_coder_0 : cJ9_coder.data.toList.drop 0 = dktJ9_coder_0 := by decide +kernel
theorem dJ9_coder_0 : decode cJ9_coder 0 = .ok (.getstatic 38, 3) := dk_178 0 38 (dk_at dksJ9_coder_0 0 rfl rfl)
theorem dJ9_coder_3 : decode cJ9_coder 3 = .ok (.ifCond .eq 10, 3) := dk_153 0 10 (dk_at dksJ9_coder_0 3 rfl rfl)
theorem dJ9_coder_6 : decode cJ9_coder 6 = .ok (.aload_n 0, 1) := dk_42 (dk_at dksJ9_coder_0 6 rfl rfl)
theorem dJ9_coder_7 : decode cJ9_coder 7 = .ok (.getfield 15, 3) := dk_180 0 15 (dk_at dksJ9_coder_0 7 rfl rfl)
theorem dJ9_coder_10 : decode cJ9_coder 10 = .ok (.goto 4, 3) := dk_167 0 4 (dk_at dksJ9_coder_0 10 rfl rfl)
theorem dJ9_coder_13 : decode cJ9_coder 13 = .ok (.iconst 1, 1) := dk_4 (dk_at dksJ9_coder_0 13 rfl rfl)
theorem dJ9_coder_14 : decode cJ9_coder 14 = .ok (.ireturn, 1) := dk_172 (dk_at dksJ9_coder_0 14 rfl rfl)
def dkwJ9_equals_2 : List UInt8 := [184, 2, 29, 153, 0, 7, 4, 167, 0, 4, 3, 172]
abbrev dktJ9_equals_2 : List UInt8 := dkwJ9_equals_2 ++ []
def dkwJ9_equals_1 : List UInt8 := [153, 0, 14, 42, 180, 0, 15, 44, 180, 0, 15, 160, 0, 21, 42, 180, 0, 9, 44, 180, 0, 9]
abbrev dktJ9_equals_1 : List UInt8 := dkwJ9_equals_1 ++ dktJ9_equals_2
def dkwJ9_equals_0 : List UInt8 := [42, 43, 166, 0, 5, 4, 172, 43, 193, 0, 10, 153, 0, 43, 43, 192, 0, 10, 77, 178, 0, 38]
abbrev dktJ9_equals_0 : List UInt8 := dkwJ9_equals_0 ++ dktJ9_equals_1
theorem dksJ9_equals_0 : cJ9_equals.data.toList.drop 0 = dktJ9_equals_0 := by decide +kernel
theorem dksJ9_equals_1 : cJ9_equals.data.toList.drop 22 = dktJ9_equals_1 := dk_seg dksJ9_equals_0 22 rfl rfl
theorem dksJ9_equals_2 : cJ9_equals.data.toList.drop 44 = dktJ9_equals_2 := dk_seg dksJ9_equals_1 22 rfl rfl
theorem dJ9_equals_0 : decode cJ9_equals 0 = .ok (.aload_n 0, 1) := dk_42 (dk_at dksJ9_equals_0 0 rfl rfl)
theorem dJ9_equals_1 : decode cJ9_equals 1 = .ok (.aload_n 1, 1) := dk_43 (dk_at dksJ9_equals_0 1 rfl rfl)
theorem dJ9_equals_2 : decode cJ9_equals 2 = .ok (.if_acmp .ne 5, 3) := dk_166 0 5 (dk_at dksJ9_equals_0 2 rfl rfl)
theorem dJ9_equals_5 : decode cJ9_equals 5 = .ok (.iconst 1, 1) := dk_4 (dk_at dksJ9_equals_0 5 rfl rfl)
theorem dJ9_equals_6 : decode cJ9_equals 6 = .ok (.ireturn, 1) := dk_172 (dk_at dksJ9_equals_0 6 rfl rfl)
theorem dJ9_equals_7 : decode cJ9_equals 7 = .ok (.aload_n 1, 1) := dk_43 (dk_at dksJ9_equals_0 7 rfl rfl)
theorem dJ9_equals_8 : decode cJ9_equals 8 = .ok (.instanceof 10, 3) := dk_193 0 10 (dk_at dksJ9_equals_0 8 rfl rfl)
theorem dJ9_equals_11 : decode cJ9_equals 11 = .ok (.ifCond .eq 43, 3) := dk_153 0 43 (dk_at dksJ9_equals_0 11 rfl rfl)
theorem dJ9_equals_14 : decode cJ9_equals 14 = .ok (.aload_n 1, 1) := dk_43 (dk_at dksJ9_equals_0 14 rfl rfl)
theorem dJ9_equals_15 : decode cJ9_equals 15 = .ok (.checkcast 10, 3) := dk_192 0 10 (dk_at dksJ9_equals_0 15 rfl rfl)
theorem dJ9_equals_18 : decode cJ9_equals 18 = .ok (.astore_n 2, 1) := dk_77 (dk_at dksJ9_equals_0 18 rfl rfl)
theorem dJ9_equals_19 : decode cJ9_equals 19 = .ok (.getstatic 38, 3) := dk_178 0 38 (dk_at dksJ9_equals_0 19 rfl rfl)
theorem dJ9_equals_22 : decode cJ9_equals 22 = .ok (.ifCond .eq 14, 3) := dk_153 0 14 (dk_at dksJ9_equals_1 0 rfl rfl)
theorem dJ9_equals_25 : decode cJ9_equals 25 = .ok (.aload_n 0, 1) := dk_42 (dk_at dksJ9_equals_1 3 rfl rfl)
theorem dJ9_equals_26 : decode cJ9_equals 26 = .ok (.getfield 15, 3) := dk_180 0 15 (dk_at dksJ9_equals_1 4 rfl rfl)
theorem dJ9_equals_29 : decode cJ9_equals 29 = .ok (.aload_n 2, 1) := dk_44 (dk_at dksJ9_equals_1 7 rfl rfl)
theorem dJ9_equals_30 : decode cJ9_equals 30 = .ok (.getfield 15, 3) := dk_180 0 15 (dk_at dksJ9_equals_1 8 rfl rfl)
theorem dJ9_equals_33 : decode cJ9_equals 33 = .ok (.if_icmp .ne 21, 3) := dk_160 0 21 (dk_at dksJ9_equals_1 11 rfl rfl)
theorem dJ9_equals_36 : decode cJ9_equals 36 = .ok (.aload_n 0, 1) := dk_42 (dk_at dksJ9_equals_1 14 rfl rfl)
theorem dJ9_equals_37 : decode cJ9_equals 37 = .ok (.getfield 9, 3) := dk_180 0 9 (dk_at dksJ9_equals_1 15 rfl rfl)
theorem dJ9_equals_40 : decode cJ9_equals 40 = .ok (.aload_n 2, 1) := dk_44 (dk_at dksJ9_equals_1 18 rfl rfl)
theorem dJ9_equals_41 : decode cJ9_equals 41 = .ok (.getfield 9, 3) := dk_180 0 9 (dk_at dksJ9_equals_1 19 rfl rfl)
theorem dJ9_equals_44 : decode cJ9_equals 44 = .ok (.invokestatic 541, 3) := dk_184 2 29 (dk_at dksJ9_equals_2 0 rfl rfl)
theorem dJ9_equals_47 : decode cJ9_equals 47 = .ok (.ifCond .eq 7, 3) := dk_153 0 7 (dk_at dksJ9_equals_2 3 rfl rfl)
theorem dJ9_equals_50 : decode cJ9_equals 50 = .ok (.iconst 1, 1) := dk_4 (dk_at dksJ9_equals_2 6 rfl rfl)
theorem dJ9_equals_51 : decode cJ9_equals 51 = .ok (.goto 4, 3) := dk_167 0 4 (dk_at dksJ9_equals_2 7 rfl rfl)
theorem dJ9_equals_54 : decode cJ9_equals 54 = .ok (.iconst 0, 1) := dk_3 (dk_at dksJ9_equals_2 10 rfl rfl)
theorem dJ9_equals_55 : decode cJ9_equals 55 = .ok (.ireturn, 1) := dk_172 (dk_at dksJ9_equals_2 11 rfl rfl)
def dkwJ9_checkBoundsBeginEnd_0 : List UInt8 := [26, 27, 28, 178, 4, 29, 184, 4, 38, 87, 177]
abbrev dktJ9_checkBoundsBeginEnd_0 : List UInt8 := dkwJ9_checkBoundsBeginEnd_0 ++ []
theorem dksJ9_checkBoundsBeginEnd_0 : cJ9_checkBoundsBeginEnd.data.toList.drop 0 = dktJ9_checkBoundsBeginEnd_0 := by decide +kernel
theorem dJ9_checkBoundsBeginEnd_0 : decode cJ9_checkBoundsBeginEnd 0 = .ok (.iload_n 0, 1) := dk_26 (dk_at dksJ9_checkBoundsBeginEnd_0 0 rfl rfl)
theorem dJ9_checkBoundsBeginEnd_1 : decode cJ9_checkBoundsBeginEnd 1 = .ok (.iload_n 1, 1) := dk_27 (dk_at dksJ9_checkBoundsBeginEnd_0 1 rfl rfl)
theorem dJ9_checkBoundsBeginEnd_2 : decode cJ9_checkBoundsBeginEnd 2 = .ok (.iload_n 2, 1) := dk_28 (dk_at dksJ9_checkBoundsBeginEnd_0 2 rfl rfl)
theorem dJ9_checkBoundsBeginEnd_3 : decode cJ9_checkBoundsBeginEnd 3 = .ok (.getstatic 1053, 3) := dk_178 4 29 (dk_at dksJ9_checkBoundsBeginEnd_0 3 rfl rfl)
theorem dJ9_checkBoundsBeginEnd_6 : decode cJ9_checkBoundsBeginEnd 6 = .ok (.invokestatic 1062, 3) := dk_184 4 38 (dk_at dksJ9_checkBoundsBeginEnd_0 6 rfl rfl)
theorem dJ9_checkBoundsBeginEnd_9 : decode cJ9_checkBoundsBeginEnd 9 = .ok (.pop, 1) := dk_87 (dk_at dksJ9_checkBoundsBeginEnd_0 9 rfl rfl)
theorem dJ9_checkBoundsBeginEnd_10 : decode cJ9_checkBoundsBeginEnd 10 = .ok (.return_, 1) := dk_177 (dk_at dksJ9_checkBoundsBeginEnd_0 10 rfl rfl)
def dkwJ9_getBytes_1 : List UInt8 := [184, 0, 212, 167, 0, 18, 42, 180, 0, 9, 3, 43, 28, 42, 180, 0, 9, 190, 184, 0, 106, 177]
abbrev dktJ9_getBytes_1 : List UInt8 := dkwJ9_getBytes_1 ++ []
def dkwJ9_getBytes_0 : List UInt8 := [42, 182, 1, 79, 29, 160, 0, 23, 42, 180, 0, 9, 3, 43, 28, 29, 120, 42, 180, 0, 9, 190]
abbrev dktJ9_getBytes_0 : List UInt8 := dkwJ9_getBytes_0 ++ dktJ9_getBytes_1
theorem dksJ9_getBytes_0 : cJ9_getBytes.data.toList.drop 0 = dktJ9_getBytes_0 := by decide +kernel
theorem dksJ9_getBytes_1 : cJ9_getBytes.data.toList.drop 22 = dktJ9_getBytes_1 := dk_seg dksJ9_getBytes_0 22 rfl rfl
theorem dJ9_getBytes_0 : decode cJ9_getBytes 0 = .ok (.aload_n 0, 1) := dk_42 (dk_at dksJ9_getBytes_0 0 rfl rfl)
theorem dJ9_getBytes_1 : decode cJ9_getBytes 1 = .ok (.invokevirtual 335, 3) := dk_182 1 79 (dk_at dksJ9_getBytes_0 1 rfl rfl)
theorem dJ9_getBytes_4 : decode cJ9_getBytes 4 = .ok (.iload_n 3, 1) := dk_29 (dk_at dksJ9_getBytes_0 4 rfl rfl)
theorem dJ9_getBytes_5 : decode cJ9_getBytes 5 = .ok (.if_icmp .ne 23, 3) := dk_160 0 23 (dk_at dksJ9_getBytes_0 5 rfl rfl)
theorem dJ9_getBytes_8 : decode cJ9_getBytes 8 = .ok (.aload_n 0, 1) := dk_42 (dk_at dksJ9_getBytes_0 8 rfl rfl)
theorem dJ9_getBytes_9 : decode cJ9_getBytes 9 = .ok (.getfield 9, 3) := dk_180 0 9 (dk_at dksJ9_getBytes_0 9 rfl rfl)
theorem dJ9_getBytes_12 : decode cJ9_getBytes 12 = .ok (.iconst 0, 1) := dk_3 (dk_at dksJ9_getBytes_0 12 rfl rfl)
theorem dJ9_getBytes_13 : decode cJ9_getBytes 13 = .ok (.aload_n 1, 1) := dk_43 (dk_at dksJ9_getBytes_0 13 rfl rfl)
theorem dJ9_getBytes_14 : decode cJ9_getBytes 14 = .ok (.iload_n 2, 1) := dk_28 (dk_at dksJ9_getBytes_0 14 rfl rfl)
theorem dJ9_getBytes_15 : decode cJ9_getBytes 15 = .ok (.iload_n 3, 1) := dk_29 (dk_at dksJ9_getBytes_0 15 rfl rfl)
theorem dJ9_getBytes_16 : decode cJ9_getBytes 16 = .ok (.ishl, 1) := dk_120 (dk_at dksJ9_getBytes_0 16 rfl rfl)
theorem dJ9_getBytes_17 : decode cJ9_getBytes 17 = .ok (.aload_n 0, 1) := dk_42 (dk_at dksJ9_getBytes_0 17 rfl rfl)
theorem dJ9_getBytes_18 : decode cJ9_getBytes 18 = .ok (.getfield 9, 3) := dk_180 0 9 (dk_at dksJ9_getBytes_0 18 rfl rfl)
theorem dJ9_getBytes_21 : decode cJ9_getBytes 21 = .ok (.arraylength, 1) := dk_190 (dk_at dksJ9_getBytes_0 21 rfl rfl)
theorem dJ9_getBytes_22 : decode cJ9_getBytes 22 = .ok (.invokestatic 212, 3) := dk_184 0 212 (dk_at dksJ9_getBytes_1 0 rfl rfl)
theorem dJ9_getBytes_25 : decode cJ9_getBytes 25 = .ok (.goto 18, 3) := dk_167 0 18 (dk_at dksJ9_getBytes_1 3 rfl rfl)
theorem dJ9_getBytes_28 : decode cJ9_getBytes 28 = .ok (.aload_n 0, 1) := dk_42 (dk_at dksJ9_getBytes_1 6 rfl rfl)
theorem dJ9_getBytes_29 : decode cJ9_getBytes 29 = .ok (.getfield 9, 3) := dk_180 0 9 (dk_at dksJ9_getBytes_1 7 rfl rfl)
theorem dJ9_getBytes_32 : decode cJ9_getBytes 32 = .ok (.iconst 0, 1) := dk_3 (dk_at dksJ9_getBytes_1 10 rfl rfl)
theorem dJ9_getBytes_33 : decode cJ9_getBytes 33 = .ok (.aload_n 1, 1) := dk_43 (dk_at dksJ9_getBytes_1 11 rfl rfl)
theorem dJ9_getBytes_34 : decode cJ9_getBytes 34 = .ok (.iload_n 2, 1) := dk_28 (dk_at dksJ9_getBytes_1 12 rfl rfl)
theorem dJ9_getBytes_35 : decode cJ9_getBytes 35 = .ok (.aload_n 0, 1) := dk_42 (dk_at dksJ9_getBytes_1 13 rfl rfl)
theorem dJ9_getBytes_36 : decode cJ9_getBytes 36 = .ok (.getfield 9, 3) := dk_180 0 9 (dk_at dksJ9_getBytes_1 14 rfl rfl)
theorem dJ9_getBytes_39 : decode cJ9_getBytes 39 = .ok (.arraylength, 1) := dk_190 (dk_at dksJ9_getBytes_1 17 rfl rfl)
theorem dJ9_getBytes_40 : decode cJ9_getBytes 40 = .ok (.invokestatic 106, 3) := dk_184 0 106 (dk_at dksJ9_getBytes_1 18 rfl rfl)
theorem dJ9_getBytes_43 : decode cJ9_getBytes 43 = .ok (.return_, 1) := dk_177 (dk_at dksJ9_getBytes_1 21 rfl rfl)
def dkwJ3_fill_0 : List UInt8 := [3, 61, 42, 190, 62, 28, 29, 162, 0, 13, 42, 28, 27, 79, 132, 2, 1, 167, 255, 244, 177]
abbrev dktJ3_fill_0 : List UInt8 := dkwJ3_fill_0 ++ []
theorem dksJ3_fill_0 : cJ3_fill.data.toList.drop 0 = dktJ3_fill_0 := by decide +kernel
theorem dJ3_fill_0 : decode cJ3_fill 0 = .ok (.iconst 0, 1) := dk_3 (dk_at dksJ3_fill_0 0 rfl rfl)
theorem dJ3_fill_1 : decode cJ3_fill 1 = .ok (.istore_n 2, 1) := dk_61 (dk_at dksJ3_fill_0 1 rfl rfl)
theorem dJ3_fill_2 : decode cJ3_fill 2 = .ok (.aload_n 0, 1) := dk_42 (dk_at dksJ3_fill_0 2 rfl rfl)
theorem dJ3_fill_3 : decode cJ3_fill 3 = .ok (.arraylength, 1) := dk_190 (dk_at dksJ3_fill_0 3 rfl rfl)
theorem dJ3_fill_4 : decode cJ3_fill 4 = .ok (.istore_n 3, 1) := dk_62 (dk_at dksJ3_fill_0 4 rfl rfl)
theorem dJ3_fill_5 : decode cJ3_fill 5 = .ok (.iload_n 2, 1) := dk_28 (dk_at dksJ3_fill_0 5 rfl rfl)
theorem dJ3_fill_6 : decode cJ3_fill 6 = .ok (.iload_n 3, 1) := dk_29 (dk_at dksJ3_fill_0 6 rfl rfl)
theorem dJ3_fill_7 : decode cJ3_fill 7 = .ok (.if_icmp .ge 13, 3) := dk_162 0 13 (dk_at dksJ3_fill_0 7 rfl rfl)
theorem dJ3_fill_10 : decode cJ3_fill 10 = .ok (.aload_n 0, 1) := dk_42 (dk_at dksJ3_fill_0 10 rfl rfl)
theorem dJ3_fill_11 : decode cJ3_fill 11 = .ok (.iload_n 2, 1) := dk_28 (dk_at dksJ3_fill_0 11 rfl rfl)
theorem dJ3_fill_12 : decode cJ3_fill 12 = .ok (.iload_n 1, 1) := dk_27 (dk_at dksJ3_fill_0 12 rfl rfl)
theorem dJ3_fill_13 : decode cJ3_fill 13 = .ok (.iastore, 1) := dk_79 (dk_at dksJ3_fill_0 13 rfl rfl)
theorem dJ3_fill_14 : decode cJ3_fill 14 = .ok (.iinc 2 1, 3) := dk_132 2 1 (dk_at dksJ3_fill_0 14 rfl rfl)
theorem dJ3_fill_17 : decode cJ3_fill 17 = .ok (.goto (-12), 3) := dk_167 255 244 (dk_at dksJ3_fill_0 17 rfl rfl)
theorem dJ3_fill_20 : decode cJ3_fill 20 = .ok (.return_, 1) := dk_177 (dk_at dksJ3_fill_0 20 rfl rfl)
def dkwJ3_copyOf_1 : List UInt8 := [27, 184, 1, 48, 184, 0, 150, 44, 176]
abbrev dktJ3_copyOf_1 : List UInt8 := dkwJ3_copyOf_1 ++ []
def dkwJ3_copyOf_0 : List UInt8 := [27, 42, 190, 160, 0, 11, 42, 182, 1, 54, 192, 1, 55, 176, 27, 188, 8, 77, 42, 3, 44, 3, 42, 190]
abbrev dktJ3_copyOf_0 : List UInt8 := dkwJ3_copyOf_0 ++ dktJ3_copyOf_1
theorem dksJ3_copyOf_0 : cJ3_copyOf.data.toList.drop 0 = dktJ3_copyOf_0 := by decide +kernel
theorem dksJ3_copyOf_1 : cJ3_copyOf.data.toList.drop 24 = dktJ3_copyOf_1 := dk_seg dksJ3_copyOf_0 24 rfl rfl
theorem dJ3_copyOf_0 : decode cJ3_copyOf 0 = .ok (.iload_n 1, 1) := dk_27 (dk_at dksJ3_copyOf_0 0 rfl rfl)
theorem dJ3_copyOf_1 : decode cJ3_copyOf 1 = .ok (.aload_n 0, 1) := dk_42 (dk_at dksJ3_copyOf_0 1 rfl rfl)
theorem dJ3_copyOf_2 : decode cJ3_copyOf 2 = .ok (.arraylength, 1) := dk_190 (dk_at dksJ3_copyOf_0 2 rfl rfl)
theorem dJ3_copyOf_3 : decode cJ3_copyOf 3 = .ok (.if_icmp .ne 11, 3) := dk_160 0 11 (dk_at dksJ3_copyOf_0 3 rfl rfl)
theorem dJ3_copyOf_6 : decode cJ3_copyOf 6 = .ok (.aload_n 0, 1) := dk_42 (dk_at dksJ3_copyOf_0 6 rfl rfl)
theorem dJ3_copyOf_7 : decode cJ3_copyOf 7 = .ok (.invokevirtual 310, 3) := dk_182 1 54 (dk_at dksJ3_copyOf_0 7 rfl rfl)
theorem dJ3_copyOf_10 : decode cJ3_copyOf 10 = .ok (.checkcast 311, 3) := dk_192 1 55 (dk_at dksJ3_copyOf_0 10 rfl rfl)
theorem dJ3_copyOf_13 : decode cJ3_copyOf 13 = .ok (.areturn, 1) := dk_176 (dk_at dksJ3_copyOf_0 13 rfl rfl)
theorem dJ3_copyOf_14 : decode cJ3_copyOf 14 = .ok (.iload_n 1, 1) := dk_27 (dk_at dksJ3_copyOf_0 14 rfl rfl)
theorem dJ3_copyOf_15 : decode cJ3_copyOf 15 = .ok (.newarray .byte, 2) := dk_188_8 (dk_at dksJ3_copyOf_0 15 rfl rfl)
theorem dJ3_copyOf_17 : decode cJ3_copyOf 17 = .ok (.astore_n 2, 1) := dk_77 (dk_at dksJ3_copyOf_0 17 rfl rfl)
theorem dJ3_copyOf_18 : decode cJ3_copyOf 18 = .ok (.aload_n 0, 1) := dk_42 (dk_at dksJ3_copyOf_0 18 rfl rfl)
theorem dJ3_copyOf_19 : decode cJ3_copyOf 19 = .ok (.iconst 0, 1) := dk_3 (dk_at dksJ3_copyOf_0 19 rfl rfl)
theorem dJ3_copyOf_20 : decode cJ3_copyOf 20 = .ok (.aload_n 2, 1) := dk_44 (dk_at dksJ3_copyOf_0 20 rfl rfl)
theorem dJ3_copyOf_21 : decode cJ3_copyOf 21 = .ok (.iconst 0, 1) := dk_3 (dk_at dksJ3_copyOf_0 21 rfl rfl)
theorem dJ3_copyOf_22 : decode cJ3_copyOf 22 = .ok (.aload_n 0, 1) := dk_42 (dk_at dksJ3_copyOf_0 22 rfl rfl)
theorem dJ3_copyOf_23 : decode cJ3_copyOf 23 = .ok (.arraylength, 1) := dk_190 (dk_at dksJ3_copyOf_0 23 rfl rfl)
theorem dJ3_copyOf_24 : decode cJ3_copyOf 24 = .ok (.iload_n 1, 1) := dk_27 (dk_at dksJ3_copyOf_1 0 rfl rfl)
theorem dJ3_copyOf_25 : decode cJ3_copyOf 25 = .ok (.invokestatic 304, 3) := dk_184 1 48 (dk_at dksJ3_copyOf_1 1 rfl rfl)
theorem dJ3_copyOf_28 : decode cJ3_copyOf 28 = .ok (.invokestatic 150, 3) := dk_184 0 150 (dk_at dksJ3_copyOf_1 4 rfl rfl)
theorem dJ3_copyOf_31 : decode cJ3_copyOf 31 = .ok (.aload_n 2, 1) := dk_44 (dk_at dksJ3_copyOf_1 7 rfl rfl)
theorem dJ3_copyOf_32 : decode cJ3_copyOf 32 = .ok (.areturn, 1) := dk_176 (dk_at dksJ3_copyOf_1 8 rfl rfl)
def dkwJ3_copyOfRange_1 : List UInt8 := [176]
abbrev dktJ3_copyOfRange_1 : List UInt8 := dkwJ3_copyOfRange_1 ++ []
def dkwJ3_copyOfRange_0 : List UInt8 := [27, 154, 0, 9, 28, 42, 190, 159, 0, 10, 42, 27, 28, 184, 1, 83, 176, 42, 182, 1, 54, 192, 1, 55]
abbrev dktJ3_copyOfRange_0 : List UInt8 := dkwJ3_copyOfRange_0 ++ dktJ3_copyOfRange_1
theorem dksJ3_copyOfRange_0 : cJ3_copyOfRange.data.toList.drop 0 = dktJ3_copyOfRange_0 := by decide +kernel
theorem dksJ3_copyOfRange_1 : cJ3_copyOfRange.data.toList.drop 24 = dktJ3_copyOfRange_1 := dk_seg dksJ3_copyOfRange_0 24 rfl rfl
theorem dJ3_copyOfRange_0 : decode cJ3_copyOfRange 0 = .ok (.iload_n 1, 1) := dk_27 (dk_at dksJ3_copyOfRange_0 0 rfl rfl)
theorem dJ3_copyOfRange_1 : decode cJ3_copyOfRange 1 = .ok (.ifCond .ne 9, 3) := dk_154 0 9 (dk_at dksJ3_copyOfRange_0 1 rfl rfl)
theorem dJ3_copyOfRange_4 : decode cJ3_copyOfRange 4 = .ok (.iload_n 2, 1) := dk_28 (dk_at dksJ3_copyOfRange_0 4 rfl rfl)
theorem dJ3_copyOfRange_5 : decode cJ3_copyOfRange 5 = .ok (.aload_n 0, 1) := dk_42 (dk_at dksJ3_copyOfRange_0 5 rfl rfl)
theorem dJ3_copyOfRange_6 : decode cJ3_copyOfRange 6 = .ok (.arraylength, 1) := dk_190 (dk_at dksJ3_copyOfRange_0 6 rfl rfl)
theorem dJ3_copyOfRange_7 : decode cJ3_copyOfRange 7 = .ok (.if_icmp .eq 10, 3) := dk_159 0 10 (dk_at dksJ3_copyOfRange_0 7 rfl rfl)
theorem dJ3_copyOfRange_10 : decode cJ3_copyOfRange 10 = .ok (.aload_n 0, 1) := dk_42 (dk_at dksJ3_copyOfRange_0 10 rfl rfl)
theorem dJ3_copyOfRange_11 : decode cJ3_copyOfRange 11 = .ok (.iload_n 1, 1) := dk_27 (dk_at dksJ3_copyOfRange_0 11 rfl rfl)
theorem dJ3_copyOfRange_12 : decode cJ3_copyOfRange 12 = .ok (.iload_n 2, 1) := dk_28 (dk_at dksJ3_copyOfRange_0 12 rfl rfl)
theorem dJ3_copyOfRange_13 : decode cJ3_copyOfRange 13 = .ok (.invokestatic 339, 3) := dk_184 1 83 (dk_at dksJ3_copyOfRange_0 13 rfl rfl)
theorem dJ3_copyOfRange_16 : decode cJ3_copyOfRange 16 = .ok (.areturn, 1) := dk_176 (dk_at dksJ3_copyOfRange_0 16 rfl rfl)
theorem dJ3_copyOfRange_17 : decode cJ3_copyOfRange 17 = .ok (.aload_n 0, 1) := dk_42 (dk_at dksJ3_copyOfRange_0 17 rfl rfl)
theorem dJ3_copyOfRange_18 : decode cJ3_copyOfRange 18 = .ok (.invokevirtual 310, 3) := dk_182 1 54 (dk_at dksJ3_copyOfRange_0 18 rfl rfl)
theorem dJ3_copyOfRange_21 : decode cJ3_copyOfRange 21 = .ok (.checkcast 311, 3) := dk_192 1 55 (dk_at dksJ3_copyOfRange_0 21 rfl rfl)
theorem dJ3_copyOfRange_24 : decode cJ3_copyOfRange 24 = .ok (.areturn, 1) := dk_176 (dk_at dksJ3_copyOfRange_1 0 rfl rfl)
def dkwJ3_copyOfRangeByte_1 : List UInt8 := [184, 1, 48, 184, 0, 150, 25, 4, 176]
abbrev dktJ3_copyOfRangeByte_1 : List UInt8 := dkwJ3_copyOfRangeByte_1 ++ []
def dkwJ3_copyOfRangeByte_0 : List UInt8 := [27, 28, 184, 1, 87, 28, 27, 100, 62, 29, 188, 8, 58, 4, 42, 27, 25, 4, 3, 42, 190, 27, 100, 29]
abbrev dktJ3_copyOfRangeByte_0 : List UInt8 := dkwJ3_copyOfRangeByte_0 ++ dktJ3_copyOfRangeByte_1
theorem dksJ3_copyOfRangeByte_0 : cJ3_copyOfRangeByte.data.toList.drop 0 = dktJ3_copyOfRangeByte_0 := by decide +kernel
theorem dksJ3_copyOfRangeByte_1 : cJ3_copyOfRangeByte.data.toList.drop 24 = dktJ3_copyOfRangeByte_1 := dk_seg dksJ3_copyOfRangeByte_0 24 rfl rfl
theorem dJ3_copyOfRangeByte_0 : decode cJ3_copyOfRangeByte 0 = .ok (.iload_n 1, 1) := dk_27 (dk_at dksJ3_copyOfRangeByte_0 0 rfl rfl)
theorem dJ3_copyOfRangeByte_1 : decode cJ3_copyOfRangeByte 1 = .ok (.iload_n 2, 1) := dk_28 (dk_at dksJ3_copyOfRangeByte_0 1 rfl rfl)
theorem dJ3_copyOfRangeByte_2 : decode cJ3_copyOfRangeByte 2 = .ok (.invokestatic 343, 3) := dk_184 1 87 (dk_at dksJ3_copyOfRangeByte_0 2 rfl rfl)
theorem dJ3_copyOfRangeByte_5 : decode cJ3_copyOfRangeByte 5 = .ok (.iload_n 2, 1) := dk_28 (dk_at dksJ3_copyOfRangeByte_0 5 rfl rfl)
theorem dJ3_copyOfRangeByte_6 : decode cJ3_copyOfRangeByte 6 = .ok (.iload_n 1, 1) := dk_27 (dk_at dksJ3_copyOfRangeByte_0 6 rfl rfl)
theorem dJ3_copyOfRangeByte_7 : decode cJ3_copyOfRangeByte 7 = .ok (.isub, 1) := dk_100 (dk_at dksJ3_copyOfRangeByte_0 7 rfl rfl)
theorem dJ3_copyOfRangeByte_8 : decode cJ3_copyOfRangeByte 8 = .ok (.istore_n 3, 1) := dk_62 (dk_at dksJ3_copyOfRangeByte_0 8 rfl rfl)
theorem dJ3_copyOfRangeByte_9 : decode cJ3_copyOfRangeByte 9 = .ok (.iload_n 3, 1) := dk_29 (dk_at dksJ3_copyOfRangeByte_0 9 rfl rfl)
theorem dJ3_copyOfRangeByte_10 : decode cJ3_copyOfRangeByte 10 = .ok (.newarray .byte, 2) := dk_188_8 (dk_at dksJ3_copyOfRangeByte_0 10 rfl rfl)
theorem dJ3_copyOfRangeByte_12 : decode cJ3_copyOfRangeByte 12 = .ok (.astore 4, 2) := dk_58 4 (dk_at dksJ3_copyOfRangeByte_0 12 rfl rfl)
theorem dJ3_copyOfRangeByte_14 : decode cJ3_copyOfRangeByte 14 = .ok (.aload_n 0, 1) := dk_42 (dk_at dksJ3_copyOfRangeByte_0 14 rfl rfl)
theorem dJ3_copyOfRangeByte_15 : decode cJ3_copyOfRangeByte 15 = .ok (.iload_n 1, 1) := dk_27 (dk_at dksJ3_copyOfRangeByte_0 15 rfl rfl)
theorem dJ3_copyOfRangeByte_16 : decode cJ3_copyOfRangeByte 16 = .ok (.aload 4, 2) := dk_25 4 (dk_at dksJ3_copyOfRangeByte_0 16 rfl rfl)
theorem dJ3_copyOfRangeByte_18 : decode cJ3_copyOfRangeByte 18 = .ok (.iconst 0, 1) := dk_3 (dk_at dksJ3_copyOfRangeByte_0 18 rfl rfl)
theorem dJ3_copyOfRangeByte_19 : decode cJ3_copyOfRangeByte 19 = .ok (.aload_n 0, 1) := dk_42 (dk_at dksJ3_copyOfRangeByte_0 19 rfl rfl)
theorem dJ3_copyOfRangeByte_20 : decode cJ3_copyOfRangeByte 20 = .ok (.arraylength, 1) := dk_190 (dk_at dksJ3_copyOfRangeByte_0 20 rfl rfl)
theorem dJ3_copyOfRangeByte_21 : decode cJ3_copyOfRangeByte 21 = .ok (.iload_n 1, 1) := dk_27 (dk_at dksJ3_copyOfRangeByte_0 21 rfl rfl)
theorem dJ3_copyOfRangeByte_22 : decode cJ3_copyOfRangeByte 22 = .ok (.isub, 1) := dk_100 (dk_at dksJ3_copyOfRangeByte_0 22 rfl rfl)
theorem dJ3_copyOfRangeByte_23 : decode cJ3_copyOfRangeByte 23 = .ok (.iload_n 3, 1) := dk_29 (dk_at dksJ3_copyOfRangeByte_0 23 rfl rfl)
theorem dJ3_copyOfRangeByte_24 : decode cJ3_copyOfRangeByte 24 = .ok (.invokestatic 304, 3) := dk_184 1 48 (dk_at dksJ3_copyOfRangeByte_1 0 rfl rfl)
theorem dJ3_copyOfRangeByte_27 : decode cJ3_copyOfRangeByte 27 = .ok (.invokestatic 150, 3) := dk_184 0 150 (dk_at dksJ3_copyOfRangeByte_1 3 rfl rfl)
theorem dJ3_copyOfRangeByte_30 : decode cJ3_copyOfRangeByte 30 = .ok (.aload 4, 2) := dk_25 4 (dk_at dksJ3_copyOfRangeByte_1 6 rfl rfl)
theorem dJ3_copyOfRangeByte_32 : decode cJ3_copyOfRangeByte 32 = .ok (.areturn, 1) := dk_176 (dk_at dksJ3_copyOfRangeByte_1 8 rfl rfl)
def dkwJ3_checkLength_1 : List UInt8 := [182, 0, 50, 27, 182, 0, 54, 182, 0, 61, 183, 0, 65, 191, 177]
abbrev dktJ3_checkLength_1 : List UInt8 := dkwJ3_checkLength_1 ++ []
def dkwJ3_checkLength_0 : List UInt8 := [27, 26, 162, 0, 35, 187, 0, 43, 89, 187, 0, 45, 89, 183, 0, 47, 26, 182, 0, 54, 19, 1, 81]
abbrev dktJ3_checkLength_0 : List UInt8 := dkwJ3_checkLength_0 ++ dktJ3_checkLength_1
theorem dksJ3_checkLength_0 : cJ3_checkLength.data.toList.drop 0 = dktJ3_checkLength_0 := by decide +kernel
theorem dksJ3_checkLength_1 : cJ3_checkLength.data.toList.drop 23 = dktJ3_checkLength_1 := dk_seg dksJ3_checkLength_0 23 rfl rfl
theorem dJ3_checkLength_0 : decode cJ3_checkLength 0 = .ok (.iload_n 1, 1) := dk_27 (dk_at dksJ3_checkLength_0 0 rfl rfl)
theorem dJ3_checkLength_1 : decode cJ3_checkLength 1 = .ok (.iload_n 0, 1) := dk_26 (dk_at dksJ3_checkLength_0 1 rfl rfl)
theorem dJ3_checkLength_2 : decode cJ3_checkLength 2 = .ok (.if_icmp .ge 35, 3) := dk_162 0 35 (dk_at dksJ3_checkLength_0 2 rfl rfl)
theorem dJ3_checkLength_5 : decode cJ3_checkLength 5 = .ok (.new 43, 3) := dk_187 0 43 (dk_at dksJ3_checkLength_0 5 rfl rfl)
theorem dJ3_checkLength_8 : decode cJ3_checkLength 8 = .ok (.dup, 1) := dk_89 (dk_at dksJ3_checkLength_0 8 rfl rfl)
theorem dJ3_checkLength_9 : decode cJ3_checkLength 9 = .ok (.new 45, 3) := dk_187 0 45 (dk_at dksJ3_checkLength_0 9 rfl rfl)
theorem dJ3_checkLength_12 : decode cJ3_checkLength 12 = .ok (.dup, 1) := dk_89 (dk_at dksJ3_checkLength_0 12 rfl rfl)
theorem dJ3_checkLength_13 : decode cJ3_checkLength 13 = .ok (.invokespecial 47, 3) := dk_183 0 47 (dk_at dksJ3_checkLength_0 13 rfl rfl)
theorem dJ3_checkLength_16 : decode cJ3_checkLength 16 = .ok (.iload_n 0, 1) := dk_26 (dk_at dksJ3_checkLength_0 16 rfl rfl)
theorem dJ3_checkLength_17 : decode cJ3_checkLength 17 = .ok (.invokevirtual 54, 3) := dk_182 0 54 (dk_at dksJ3_checkLength_0 17 rfl rfl)
theorem dJ3_checkLength_20 : decode cJ3_checkLength 20 = .ok (.ldc_w 337, 3) := dk_19 1 81 (dk_at dksJ3_checkLength_0 20 rfl rfl)
theorem dJ3_checkLength_23 : decode cJ3_checkLength 23 = .ok (.invokevirtual 50, 3) := dk_182 0 50 (dk_at dksJ3_checkLength_1 0 rfl rfl)
theorem dJ3_checkLength_26 : decode cJ3_checkLength 26 = .ok (.iload_n 1, 1) := dk_27 (dk_at dksJ3_checkLength_1 3 rfl rfl)
theorem dJ3_checkLength_27 : decode cJ3_checkLength 27 = .ok (.invokevirtual 54, 3) := dk_182 0 54 (dk_at dksJ3_checkLength_1 4 rfl rfl)
theorem dJ3_checkLength_30 : decode cJ3_checkLength 30 = .ok (.invokevirtual 61, 3) := dk_182 0 61 (dk_at dksJ3_checkLength_1 7 rfl rfl)
theorem dJ3_checkLength_33 : decode cJ3_checkLength 33 = .ok (.invokespecial 65, 3) := dk_183 0 65 (dk_at dksJ3_checkLength_1 10 rfl rfl)
theorem dJ3_checkLength_36 : decode cJ3_checkLength 36 = .ok (.athrow, 1) := dk_191 (dk_at dksJ3_checkLength_1 13 rfl rfl)
theorem dJ3_checkLength_37 : decode cJ3_checkLength 37 = .ok (.return_, 1) := dk_177 (dk_at dksJ3_checkLength_1 14 rfl rfl)
def dkwJ3_copyOf_2_0 : List UInt8 := [42, 27, 42, 182, 0, 86, 184, 1, 44, 176]
abbrev dktJ3_copyOf_2_0 : List UInt8 := dkwJ3_copyOf_2_0 ++ []
theorem dksJ3_copyOf_2_0 : cJ3_copyOf_2.data.toList.drop 0 = dktJ3_copyOf_2_0 := by decide +kernel
theorem dJ3_copyOf_2_0 : decode cJ3_copyOf_2 0 = .ok (.aload_n 0, 1) := dk_42 (dk_at dksJ3_copyOf_2_0 0 rfl rfl)
theorem dJ3_copyOf_2_1 : decode cJ3_copyOf_2 1 = .ok (.iload_n 1, 1) := dk_27 (dk_at dksJ3_copyOf_2_0 1 rfl rfl)
theorem dJ3_copyOf_2_2 : decode cJ3_copyOf_2 2 = .ok (.aload_n 0, 1) := dk_42 (dk_at dksJ3_copyOf_2_0 2 rfl rfl)
theorem dJ3_copyOf_2_3 : decode cJ3_copyOf_2 3 = .ok (.invokevirtual 86, 3) := dk_182 0 86 (dk_at dksJ3_copyOf_2_0 3 rfl rfl)
theorem dJ3_copyOf_2_6 : decode cJ3_copyOf_2 6 = .ok (.invokestatic 300, 3) := dk_184 1 44 (dk_at dksJ3_copyOf_2_0 6 rfl rfl)
theorem dJ3_copyOf_2_9 : decode cJ3_copyOf_2 9 = .ok (.areturn, 1) := dk_176 (dk_at dksJ3_copyOf_2_0 9 rfl rfl)
def dkwJ3_copyOf_3_1 : List UInt8 := [78, 42, 3, 45, 3, 42, 190, 27, 184, 1, 48, 184, 0, 150, 45, 176]
abbrev dktJ3_copyOf_3_1 : List UInt8 := dkwJ3_copyOf_3_1 ++ []
def dkwJ3_copyOf_3_0 : List UInt8 := [44, 18, 110, 166, 0, 10, 27, 189, 0, 2, 167, 0, 14, 44, 182, 0, 90, 27, 184, 0, 95, 192, 0, 110]
abbrev dktJ3_copyOf_3_0 : List UInt8 := dkwJ3_copyOf_3_0 ++ dktJ3_copyOf_3_1
theorem dksJ3_copyOf_3_0 : cJ3_copyOf_3.data.toList.drop 0 = dktJ3_copyOf_3_0 := by decide +kernel
theorem dksJ3_copyOf_3_1 : cJ3_copyOf_3.data.toList.drop 24 = dktJ3_copyOf_3_1 := dk_seg dksJ3_copyOf_3_0 24 rfl rfl
theorem dJ3_copyOf_3_0 : decode cJ3_copyOf_3 0 = .ok (.aload_n 2, 1) := dk_44 (dk_at dksJ3_copyOf_3_0 0 rfl rfl)
theorem dJ3_copyOf_3_1 : decode cJ3_copyOf_3 1 = .ok (.ldc 110, 2) := dk_18 110 (dk_at dksJ3_copyOf_3_0 1 rfl rfl)
theorem dJ3_copyOf_3_3 : decode cJ3_copyOf_3 3 = .ok (.if_acmp .ne 10, 3) := dk_166 0 10 (dk_at dksJ3_copyOf_3_0 3 rfl rfl)
theorem dJ3_copyOf_3_6 : decode cJ3_copyOf_3 6 = .ok (.iload_n 1, 1) := dk_27 (dk_at dksJ3_copyOf_3_0 6 rfl rfl)
theorem dJ3_copyOf_3_7 : decode cJ3_copyOf_3 7 = .ok (.anewarray 2, 3) := dk_189 0 2 (dk_at dksJ3_copyOf_3_0 7 rfl rfl)
theorem dJ3_copyOf_3_10 : decode cJ3_copyOf_3 10 = .ok (.goto 14, 3) := dk_167 0 14 (dk_at dksJ3_copyOf_3_0 10 rfl rfl)
theorem dJ3_copyOf_3_13 : decode cJ3_copyOf_3 13 = .ok (.aload_n 2, 1) := dk_44 (dk_at dksJ3_copyOf_3_0 13 rfl rfl)
theorem dJ3_copyOf_3_14 : decode cJ3_copyOf_3 14 = .ok (.invokevirtual 90, 3) := dk_182 0 90 (dk_at dksJ3_copyOf_3_0 14 rfl rfl)
theorem dJ3_copyOf_3_17 : decode cJ3_copyOf_3 17 = .ok (.iload_n 1, 1) := dk_27 (dk_at dksJ3_copyOf_3_0 17 rfl rfl)
theorem dJ3_copyOf_3_18 : decode cJ3_copyOf_3 18 = .ok (.invokestatic 95, 3) := dk_184 0 95 (dk_at dksJ3_copyOf_3_0 18 rfl rfl)
theorem dJ3_copyOf_3_21 : decode cJ3_copyOf_3 21 = .ok (.checkcast 110, 3) := dk_192 0 110 (dk_at dksJ3_copyOf_3_0 21 rfl rfl)
theorem dJ3_copyOf_3_24 : decode cJ3_copyOf_3 24 = .ok (.astore_n 3, 1) := dk_78 (dk_at dksJ3_copyOf_3_1 0 rfl rfl)
theorem dJ3_copyOf_3_25 : decode cJ3_copyOf_3 25 = .ok (.aload_n 0, 1) := dk_42 (dk_at dksJ3_copyOf_3_1 1 rfl rfl)
theorem dJ3_copyOf_3_26 : decode cJ3_copyOf_3 26 = .ok (.iconst 0, 1) := dk_3 (dk_at dksJ3_copyOf_3_1 2 rfl rfl)
theorem dJ3_copyOf_3_27 : decode cJ3_copyOf_3 27 = .ok (.aload_n 3, 1) := dk_45 (dk_at dksJ3_copyOf_3_1 3 rfl rfl)
theorem dJ3_copyOf_3_28 : decode cJ3_copyOf_3 28 = .ok (.iconst 0, 1) := dk_3 (dk_at dksJ3_copyOf_3_1 4 rfl rfl)
theorem dJ3_copyOf_3_29 : decode cJ3_copyOf_3 29 = .ok (.aload_n 0, 1) := dk_42 (dk_at dksJ3_copyOf_3_1 5 rfl rfl)
theorem dJ3_copyOf_3_30 : decode cJ3_copyOf_3 30 = .ok (.arraylength, 1) := dk_190 (dk_at dksJ3_copyOf_3_1 6 rfl rfl)
theorem dJ3_copyOf_3_31 : decode cJ3_copyOf_3 31 = .ok (.iload_n 1, 1) := dk_27 (dk_at dksJ3_copyOf_3_1 7 rfl rfl)
theorem dJ3_copyOf_3_32 : decode cJ3_copyOf_3 32 = .ok (.invokestatic 304, 3) := dk_184 1 48 (dk_at dksJ3_copyOf_3_1 8 rfl rfl)
theorem dJ3_copyOf_3_35 : decode cJ3_copyOf_3 35 = .ok (.invokestatic 150, 3) := dk_184 0 150 (dk_at dksJ3_copyOf_3_1 11 rfl rfl)
theorem dJ3_copyOf_3_38 : decode cJ3_copyOf_3 38 = .ok (.aload_n 3, 1) := dk_45 (dk_at dksJ3_copyOf_3_1 14 rfl rfl)
theorem dJ3_copyOf_3_39 : decode cJ3_copyOf_3 39 = .ok (.areturn, 1) := dk_176 (dk_at dksJ3_copyOf_3_1 15 rfl rfl)
def dkwJ3_copyOfRange_2_3 : List UInt8 := [58, 5, 42, 27, 25, 5, 3, 42, 190, 27, 100, 21, 4, 184, 1, 48, 184, 0, 150, 25, 5, 176]
abbrev dktJ3_copyOfRange_2_3 : List UInt8 := dkwJ3_copyOfRange_2_3 ++ []
def dkwJ3_copyOfRange_2_2 : List UInt8 := [166, 0, 11, 21, 4, 189, 0, 2, 167, 0, 15, 45, 182, 0, 90, 21, 4, 184, 0, 95, 192, 0, 110]
abbrev dktJ3_copyOfRange_2_2 : List UInt8 := dkwJ3_copyOfRange_2_2 ++ dktJ3_copyOfRange_2_3
def dkwJ3_copyOfRange_2_1 : List UInt8 := [182, 0, 54, 19, 1, 81, 182, 0, 50, 28, 182, 0, 54, 182, 0, 61, 183, 0, 65, 191, 45, 18, 110]
abbrev dktJ3_copyOfRange_2_1 : List UInt8 := dkwJ3_copyOfRange_2_1 ++ dktJ3_copyOfRange_2_2
def dkwJ3_copyOfRange_2_0 : List UInt8 := [28, 27, 100, 54, 4, 21, 4, 156, 0, 35, 187, 0, 43, 89, 187, 0, 45, 89, 183, 0, 47, 27]
abbrev dktJ3_copyOfRange_2_0 : List UInt8 := dkwJ3_copyOfRange_2_0 ++ dktJ3_copyOfRange_2_1
theorem dksJ3_copyOfRange_2_0 : cJ3_copyOfRange_2.data.toList.drop 0 = dktJ3_copyOfRange_2_0 := by decide +kernel
theorem dksJ3_copyOfRange_2_1 : cJ3_copyOfRange_2.data.toList.drop 22 = dktJ3_copyOfRange_2_1 := dk_seg dksJ3_copyOfRange_2_0 22 rfl rfl
theorem dksJ3_copyOfRange_2_2 : cJ3_copyOfRange_2.data.toList.drop 45 = dktJ3_copyOfRange_2_2 := dk_seg dksJ3_copyOfRange_2_1 23 rfl rfl
theorem dksJ3_copyOfRange_2_3 : cJ3_copyOfRange_2.data.toList.drop 68 = dktJ3_copyOfRange_2_3 := dk_seg dksJ3_copyOfRange_2_2 23 rfl rfl
theorem dJ3_copyOfRange_2_0 : decode cJ3_copyOfRange_2 0 = .ok (.iload_n 2, 1) := dk_28 (dk_at dksJ3_copyOfRange_2_0 0 rfl rfl)
theorem dJ3_copyOfRange_2_1 : decode cJ3_copyOfRange_2 1 = .ok (.iload_n 1, 1) := dk_27 (dk_at dksJ3_copyOfRange_2_0 1 rfl rfl)
theorem dJ3_copyOfRange_2_2 : decode cJ3_copyOfRange_2 2 = .ok (.isub, 1) := dk_100 (dk_at dksJ3_copyOfRange_2_0 2 rfl rfl)
theorem dJ3_copyOfRange_2_3 : decode cJ3_copyOfRange_2 3 = .ok (.istore 4, 2) := dk_54 4 (dk_at dksJ3_copyOfRange_2_0 3 rfl rfl)
theorem dJ3_copyOfRange_2_5 : decode cJ3_copyOfRange_2 5 = .ok (.iload 4, 2) := dk_21 4 (dk_at dksJ3_copyOfRange_2_0 5 rfl rfl)
theorem dJ3_copyOfRange_2_7 : decode cJ3_copyOfRange_2 7 = .ok (.ifCond .ge 35, 3) := dk_156 0 35 (dk_at dksJ3_copyOfRange_2_0 7 rfl rfl)
theorem dJ3_copyOfRange_2_10 : decode cJ3_copyOfRange_2 10 = .ok (.new 43, 3) := dk_187 0 43 (dk_at dksJ3_copyOfRange_2_0 10 rfl rfl)
theorem dJ3_copyOfRange_2_13 : decode cJ3_copyOfRange_2 13 = .ok (.dup, 1) := dk_89 (dk_at dksJ3_copyOfRange_2_0 13 rfl rfl)
theorem dJ3_copyOfRange_2_14 : decode cJ3_copyOfRange_2 14 = .ok (.new 45, 3) := dk_187 0 45 (dk_at dksJ3_copyOfRange_2_0 14 rfl rfl)
theorem dJ3_copyOfRange_2_17 : decode cJ3_copyOfRange_2 17 = .ok (.dup, 1) := dk_89 (dk_at dksJ3_copyOfRange_2_0 17 rfl rfl)
theorem dJ3_copyOfRange_2_18 : decode cJ3_copyOfRange_2 18 = .ok (.invokespecial 47, 3) := dk_183 0 47 (dk_at dksJ3_copyOfRange_2_0 18 rfl rfl)
theorem dJ3_copyOfRange_2_21 : decode cJ3_copyOfRange_2 21 = .ok (.iload_n 1, 1) := dk_27 (dk_at dksJ3_copyOfRange_2_0 21 rfl rfl)
theorem dJ3_copyOfRange_2_22 : decode cJ3_copyOfRange_2 22 = .ok (.invokevirtual 54, 3) := dk_182 0 54 (dk_at dksJ3_copyOfRange_2_1 0 rfl rfl)
theorem dJ3_copyOfRange_2_25 : decode cJ3_copyOfRange_2 25 = .ok (.ldc_w 337, 3) := dk_19 1 81 (dk_at dksJ3_copyOfRange_2_1 3 rfl rfl)
theorem dJ3_copyOfRange_2_28 : decode cJ3_copyOfRange_2 28 = .ok (.invokevirtual 50, 3) := dk_182 0 50 (dk_at dksJ3_copyOfRange_2_1 6 rfl rfl)
theorem dJ3_copyOfRange_2_31 : decode cJ3_copyOfRange_2 31 = .ok (.iload_n 2, 1) := dk_28 (dk_at dksJ3_copyOfRange_2_1 9 rfl rfl)
theorem dJ3_copyOfRange_2_32 : decode cJ3_copyOfRange_2 32 = .ok (.invokevirtual 54, 3) := dk_182 0 54 (dk_at dksJ3_copyOfRange_2_1 10 rfl rfl)
theorem dJ3_copyOfRange_2_35 : decode cJ3_copyOfRange_2 35 = .ok (.invokevirtual 61, 3) := dk_182 0 61 (dk_at dksJ3_copyOfRange_2_1 13 rfl rfl)
theorem dJ3_copyOfRange_2_38 : decode cJ3_copyOfRange_2 38 = .ok (.invokespecial 65, 3) := dk_183 0 65 (dk_at dksJ3_copyOfRange_2_1 16 rfl rfl)
theorem dJ3_copyOfRange_2_41 : decode cJ3_copyOfRange_2 41 = .ok (.athrow, 1) := dk_191 (dk_at dksJ3_copyOfRange_2_1 19 rfl rfl)
theorem dJ3_copyOfRange_2_42 : decode cJ3_copyOfRange_2 42 = .ok (.aload_n 3, 1) := dk_45 (dk_at dksJ3_copyOfRange_2_1 20 rfl rfl)
theorem dJ3_copyOfRange_2_43 : decode cJ3_copyOfRange_2 43 = .ok (.ldc 110, 2) := dk_18 110 (dk_at dksJ3_copyOfRange_2_1 21 rfl rfl)
theorem dJ3_copyOfRange_2_45 : decode cJ3_copyOfRange_2 45 = .ok (.if_acmp .ne 11, 3) := dk_166 0 11 (dk_at dksJ3_copyOfRange_2_2 0 rfl rfl)
theorem dJ3_copyOfRange_2_48 : decode cJ3_copyOfRange_2 48 = .ok (.iload 4, 2) := dk_21 4 (dk_at dksJ3_copyOfRange_2_2 3 rfl rfl)
theorem dJ3_copyOfRange_2_50 : decode cJ3_copyOfRange_2 50 = .ok (.anewarray 2, 3) := dk_189 0 2 (dk_at dksJ3_copyOfRange_2_2 5 rfl rfl)
theorem dJ3_copyOfRange_2_53 : decode cJ3_copyOfRange_2 53 = .ok (.goto 15, 3) := dk_167 0 15 (dk_at dksJ3_copyOfRange_2_2 8 rfl rfl)
theorem dJ3_copyOfRange_2_56 : decode cJ3_copyOfRange_2 56 = .ok (.aload_n 3, 1) := dk_45 (dk_at dksJ3_copyOfRange_2_2 11 rfl rfl)
theorem dJ3_copyOfRange_2_57 : decode cJ3_copyOfRange_2 57 = .ok (.invokevirtual 90, 3) := dk_182 0 90 (dk_at dksJ3_copyOfRange_2_2 12 rfl rfl)
theorem dJ3_copyOfRange_2_60 : decode cJ3_copyOfRange_2 60 = .ok (.iload 4, 2) := dk_21 4 (dk_at dksJ3_copyOfRange_2_2 15 rfl rfl)
theorem dJ3_copyOfRange_2_62 : decode cJ3_copyOfRange_2 62 = .ok (.invokestatic 95, 3) := dk_184 0 95 (dk_at dksJ3_copyOfRange_2_2 17 rfl rfl)
theorem dJ3_copyOfRange_2_65 : decode cJ3_copyOfRange_2 65 = .ok (.checkcast 110, 3) := dk_192 0 110 (dk_at dksJ3_copyOfRange_2_2 20 rfl rfl)
theorem dJ3_copyOfRange_2_68 : decode cJ3_copyOfRange_2 68 = .ok (.astore 5, 2) := dk_58 5 (dk_at dksJ3_copyOfRange_2_3 0 rfl rfl)
theorem dJ3_copyOfRange_2_70 : decode cJ3_copyOfRange_2 70 = .ok (.aload_n 0, 1) := dk_42 (dk_at dksJ3_copyOfRange_2_3 2 rfl rfl)
theorem dJ3_copyOfRange_2_71 : decode cJ3_copyOfRange_2 71 = .ok (.iload_n 1, 1) := dk_27 (dk_at dksJ3_copyOfRange_2_3 3 rfl rfl)
theorem dJ3_copyOfRange_2_72 : decode cJ3_copyOfRange_2 72 = .ok (.aload 5, 2) := dk_25 5 (dk_at dksJ3_copyOfRange_2_3 4 rfl rfl)
theorem dJ3_copyOfRange_2_74 : decode cJ3_copyOfRange_2 74 = .ok (.iconst 0, 1) := dk_3 (dk_at dksJ3_copyOfRange_2_3 6 rfl rfl)
theorem dJ3_copyOfRange_2_75 : decode cJ3_copyOfRange_2 75 = .ok (.aload_n 0, 1) := dk_42 (dk_at dksJ3_copyOfRange_2_3 7 rfl rfl)
theorem dJ3_copyOfRange_2_76 : decode cJ3_copyOfRange_2 76 = .ok (.arraylength, 1) := dk_190 (dk_at dksJ3_copyOfRange_2_3 8 rfl rfl)
theorem dJ3_copyOfRange_2_77 : decode cJ3_copyOfRange_2 77 = .ok (.iload_n 1, 1) := dk_27 (dk_at dksJ3_copyOfRange_2_3 9 rfl rfl)
theorem dJ3_copyOfRange_2_78 : decode cJ3_copyOfRange_2 78 = .ok (.isub, 1) := dk_100 (dk_at dksJ3_copyOfRange_2_3 10 rfl rfl)
theorem dJ3_copyOfRange_2_79 : decode cJ3_copyOfRange_2 79 = .ok (.iload 4, 2) := dk_21 4 (dk_at dksJ3_copyOfRange_2_3 11 rfl rfl)
theorem dJ3_copyOfRange_2_81 : decode cJ3_copyOfRange_2 81 = .ok (.invokestatic 304, 3) := dk_184 1 48 (dk_at dksJ3_copyOfRange_2_3 13 rfl rfl)
theorem dJ3_copyOfRange_2_84 : decode cJ3_copyOfRange_2 84 = .ok (.invokestatic 150, 3) := dk_184 0 150 (dk_at dksJ3_copyOfRange_2_3 16 rfl rfl)
theorem dJ3_copyOfRange_2_87 : decode cJ3_copyOfRange_2 87 = .ok (.aload 5, 2) := dk_25 5 (dk_at dksJ3_copyOfRange_2_3 19 rfl rfl)
theorem dJ3_copyOfRange_2_89 : decode cJ3_copyOfRange_2 89 = .ok (.areturn, 1) := dk_176 (dk_at dksJ3_copyOfRange_2_3 21 rfl rfl)
theorem dJ0_init_0 : decode cJ0_init 0 = .ok (.aload_n 0, 1) := by decide +kernel
theorem dJ0_init_1 : decode cJ0_init 1 = .ok (.invokespecial 1, 3) := by decide +kernel
theorem dJ0_init_4 : decode cJ0_init 4 = .ok (.return_, 1) := by decide +kernel
def dkwJ1_init_0 : List UInt8 := [42, 183, 0, 1, 42, 3, 181, 0, 7, 177]
abbrev dktJ1_init_0 : List UInt8 := dkwJ1_init_0 ++ []
theorem dksJ1_init_0 : cJ1_init.data.toList.drop 0 = dktJ1_init_0 := by decide +kernel
theorem dJ1_init_0 : decode cJ1_init 0 = .ok (.aload_n 0, 1) := dk_42 (dk_at dksJ1_init_0 0 rfl rfl)
theorem dJ1_init_1 : decode cJ1_init 1 = .ok (.invokespecial 1, 3) := dk_183 0 1 (dk_at dksJ1_init_0 1 rfl rfl)
theorem dJ1_init_4 : decode cJ1_init 4 = .ok (.aload_n 0, 1) := dk_42 (dk_at dksJ1_init_0 4 rfl rfl)
theorem dJ1_init_5 : decode cJ1_init 5 = .ok (.iconst 0, 1) := dk_3 (dk_at dksJ1_init_0 5 rfl rfl)
theorem dJ1_init_6 : decode cJ1_init 6 = .ok (.putfield 7, 3) := dk_181 0 7 (dk_at dksJ1_init_0 6 rfl rfl)
theorem dJ1_init_9 : decode cJ1_init 9 = .ok (.return_, 1) := dk_177 (dk_at dksJ1_init_0 9 rfl rfl)
def dkwJ16_init_1 : List UInt8 := [167, 0, 16, 42, 27, 184, 0, 26, 181, 0, 15, 42, 4, 181, 0, 22, 177]
abbrev dktJ16_init_1 : List UInt8 := dkwJ16_init_1 ++ []
def dkwJ16_init_0 : List UInt8 := [42, 183, 0, 3, 178, 0, 18, 153, 0, 18, 42, 27, 188, 8, 181, 0, 15, 42, 3, 181, 0, 22]
abbrev dktJ16_init_0 : List UInt8 := dkwJ16_init_0 ++ dktJ16_init_1
theorem dksJ16_init_0 : cJ16_init.data.toList.drop 0 = dktJ16_init_0 := by decide +kernel
theorem dksJ16_init_1 : cJ16_init.data.toList.drop 22 = dktJ16_init_1 := dk_seg dksJ16_init_0 22 rfl rfl
theorem dJ16_init_0 : decode cJ16_init 0 = .ok (.aload_n 0, 1) := dk_42 (dk_at dksJ16_init_0 0 rfl rfl)
theorem dJ16_init_1 : decode cJ16_init 1 = .ok (.invokespecial 3, 3) := dk_183 0 3 (dk_at dksJ16_init_0 1 rfl rfl)
theorem dJ16_init_4 : decode cJ16_init 4 = .ok (.getstatic 18, 3) := dk_178 0 18 (dk_at dksJ16_init_0 4 rfl rfl)
theorem dJ16_init_7 : decode cJ16_init 7 = .ok (.ifCond .eq 18, 3) := dk_153 0 18 (dk_at dksJ16_init_0 7 rfl rfl)
theorem dJ16_init_10 : decode cJ16_init 10 = .ok (.aload_n 0, 1) := dk_42 (dk_at dksJ16_init_0 10 rfl rfl)
theorem dJ16_init_11 : decode cJ16_init 11 = .ok (.iload_n 1, 1) := dk_27 (dk_at dksJ16_init_0 11 rfl rfl)
theorem dJ16_init_12 : decode cJ16_init 12 = .ok (.newarray .byte, 2) := dk_188_8 (dk_at dksJ16_init_0 12 rfl rfl)
theorem dJ16_init_14 : decode cJ16_init 14 = .ok (.putfield 15, 3) := dk_181 0 15 (dk_at dksJ16_init_0 14 rfl rfl)
theorem dJ16_init_17 : decode cJ16_init 17 = .ok (.aload_n 0, 1) := dk_42 (dk_at dksJ16_init_0 17 rfl rfl)
theorem dJ16_init_18 : decode cJ16_init 18 = .ok (.iconst 0, 1) := dk_3 (dk_at dksJ16_init_0 18 rfl rfl)
theorem dJ16_init_19 : decode cJ16_init 19 = .ok (.putfield 22, 3) := dk_181 0 22 (dk_at dksJ16_init_0 19 rfl rfl)
theorem dJ16_init_22 : decode cJ16_init 22 = .ok (.goto 16, 3) := dk_167 0 16 (dk_at dksJ16_init_1 0 rfl rfl)
theorem dJ16_init_25 : decode cJ16_init 25 = .ok (.aload_n 0, 1) := dk_42 (dk_at dksJ16_init_1 3 rfl rfl)
theorem dJ16_init_26 : decode cJ16_init 26 = .ok (.iload_n 1, 1) := dk_27 (dk_at dksJ16_init_1 4 rfl rfl)
theorem dJ16_init_27 : decode cJ16_init 27 = .ok (.invokestatic 26, 3) := dk_184 0 26 (dk_at dksJ16_init_1 5 rfl rfl)
theorem dJ16_init_30 : decode cJ16_init 30 = .ok (.putfield 15, 3) := dk_181 0 15 (dk_at dksJ16_init_1 8 rfl rfl)
theorem dJ16_init_33 : decode cJ16_init 33 = .ok (.aload_n 0, 1) := dk_42 (dk_at dksJ16_init_1 11 rfl rfl)
theorem dJ16_init_34 : decode cJ16_init 34 = .ok (.iconst 1, 1) := dk_4 (dk_at dksJ16_init_1 12 rfl rfl)
theorem dJ16_init_35 : decode cJ16_init 35 = .ok (.putfield 22, 3) := dk_181 0 22 (dk_at dksJ16_init_1 13 rfl rfl)
theorem dJ16_init_38 : decode cJ16_init 38 = .ok (.return_, 1) := dk_177 (dk_at dksJ16_init_1 16 rfl rfl)
def dkwJ16_append_3 : List UInt8 := [181, 0, 79, 27, 184, 0, 197, 42, 176]
abbrev dktJ16_append_3 : List UInt8 := dkwJ16_append_3 ++ []
def dkwJ16_append_2 : List UInt8 := [182, 0, 83, 153, 0, 7, 42, 182, 0, 195, 42, 180, 0, 15, 42, 89, 180, 0, 79, 90, 4, 96]
abbrev dktJ16_append_2 : List UInt8 := dkwJ16_append_2 ++ dktJ16_append_3
def dkwJ16_append_1 : List UInt8 := [42, 180, 0, 15, 42, 89, 180, 0, 79, 90, 4, 96, 181, 0, 79, 27, 145, 84, 167, 0, 33, 42]
abbrev dktJ16_append_1 : List UInt8 := dkwJ16_append_1 ++ dktJ16_append_2
def dkwJ16_append_0 : List UInt8 := [42, 42, 180, 0, 79, 4, 96, 182, 0, 100, 42, 182, 0, 83, 153, 0, 31, 27, 184, 0, 191, 153, 0, 24]
abbrev dktJ16_append_0 : List UInt8 := dkwJ16_append_0 ++ dktJ16_append_1
theorem dksJ16_append_0 : cJ16_append.data.toList.drop 0 = dktJ16_append_0 := by decide +kernel
theorem dksJ16_append_1 : cJ16_append.data.toList.drop 24 = dktJ16_append_1 := dk_seg dksJ16_append_0 24 rfl rfl
theorem dksJ16_append_2 : cJ16_append.data.toList.drop 46 = dktJ16_append_2 := dk_seg dksJ16_append_1 22 rfl rfl
theorem dksJ16_append_3 : cJ16_append.data.toList.drop 68 = dktJ16_append_3 := dk_seg dksJ16_append_2 22 rfl rfl
theorem dJ16_append_0 : decode cJ16_append 0 = .ok (.aload_n 0, 1) := dk_42 (dk_at dksJ16_append_0 0 rfl rfl)
theorem dJ16_append_1 : decode cJ16_append 1 = .ok (.aload_n 0, 1) := dk_42 (dk_at dksJ16_append_0 1 rfl rfl)
theorem dJ16_append_2 : decode cJ16_append 2 = .ok (.getfield 79, 3) := dk_180 0 79 (dk_at dksJ16_append_0 2 rfl rfl)
theorem dJ16_append_5 : decode cJ16_append 5 = .ok (.iconst 1, 1) := dk_4 (dk_at dksJ16_append_0 5 rfl rfl)
theorem dJ16_append_6 : decode cJ16_append 6 = .ok (.iadd, 1) := dk_96 (dk_at dksJ16_append_0 6 rfl rfl)
theorem dJ16_append_7 : decode cJ16_append 7 = .ok (.invokevirtual 100, 3) := dk_182 0 100 (dk_at dksJ16_append_0 7 rfl rfl)
theorem dJ16_append_10 : decode cJ16_append 10 = .ok (.aload_n 0, 1) := dk_42 (dk_at dksJ16_append_0 10 rfl rfl)
theorem dJ16_append_11 : decode cJ16_append 11 = .ok (.invokevirtual 83, 3) := dk_182 0 83 (dk_at dksJ16_append_0 11 rfl rfl)
theorem dJ16_append_14 : decode cJ16_append 14 = .ok (.ifCond .eq 31, 3) := dk_153 0 31 (dk_at dksJ16_append_0 14 rfl rfl)
theorem dJ16_append_17 : decode cJ16_append 17 = .ok (.iload_n 1, 1) := dk_27 (dk_at dksJ16_append_0 17 rfl rfl)
theorem dJ16_append_18 : decode cJ16_append 18 = .ok (.invokestatic 191, 3) := dk_184 0 191 (dk_at dksJ16_append_0 18 rfl rfl)
theorem dJ16_append_21 : decode cJ16_append 21 = .ok (.ifCond .eq 24, 3) := dk_153 0 24 (dk_at dksJ16_append_0 21 rfl rfl)
theorem dJ16_append_24 : decode cJ16_append 24 = .ok (.aload_n 0, 1) := dk_42 (dk_at dksJ16_append_1 0 rfl rfl)
theorem dJ16_append_25 : decode cJ16_append 25 = .ok (.getfield 15, 3) := dk_180 0 15 (dk_at dksJ16_append_1 1 rfl rfl)
theorem dJ16_append_28 : decode cJ16_append 28 = .ok (.aload_n 0, 1) := dk_42 (dk_at dksJ16_append_1 4 rfl rfl)
theorem dJ16_append_29 : decode cJ16_append 29 = .ok (.dup, 1) := dk_89 (dk_at dksJ16_append_1 5 rfl rfl)
theorem dJ16_append_30 : decode cJ16_append 30 = .ok (.getfield 79, 3) := dk_180 0 79 (dk_at dksJ16_append_1 6 rfl rfl)
theorem dJ16_append_33 : decode cJ16_append 33 = .ok (.dup_x1, 1) := dk_90 (dk_at dksJ16_append_1 9 rfl rfl)
theorem dJ16_append_34 : decode cJ16_append 34 = .ok (.iconst 1, 1) := dk_4 (dk_at dksJ16_append_1 10 rfl rfl)
theorem dJ16_append_35 : decode cJ16_append 35 = .ok (.iadd, 1) := dk_96 (dk_at dksJ16_append_1 11 rfl rfl)
theorem dJ16_append_36 : decode cJ16_append 36 = .ok (.putfield 79, 3) := dk_181 0 79 (dk_at dksJ16_append_1 12 rfl rfl)
theorem dJ16_append_39 : decode cJ16_append 39 = .ok (.iload_n 1, 1) := dk_27 (dk_at dksJ16_append_1 15 rfl rfl)
theorem dJ16_append_40 : decode cJ16_append 40 = .ok (.i2b, 1) := dk_145 (dk_at dksJ16_append_1 16 rfl rfl)
theorem dJ16_append_41 : decode cJ16_append 41 = .ok (.bastore, 1) := dk_84 (dk_at dksJ16_append_1 17 rfl rfl)
theorem dJ16_append_42 : decode cJ16_append 42 = .ok (.goto 33, 3) := dk_167 0 33 (dk_at dksJ16_append_1 18 rfl rfl)
theorem dJ16_append_45 : decode cJ16_append 45 = .ok (.aload_n 0, 1) := dk_42 (dk_at dksJ16_append_1 21 rfl rfl)
theorem dJ16_append_46 : decode cJ16_append 46 = .ok (.invokevirtual 83, 3) := dk_182 0 83 (dk_at dksJ16_append_2 0 rfl rfl)
theorem dJ16_append_49 : decode cJ16_append 49 = .ok (.ifCond .eq 7, 3) := dk_153 0 7 (dk_at dksJ16_append_2 3 rfl rfl)
theorem dJ16_append_52 : decode cJ16_append 52 = .ok (.aload_n 0, 1) := dk_42 (dk_at dksJ16_append_2 6 rfl rfl)
theorem dJ16_append_53 : decode cJ16_append 53 = .ok (.invokevirtual 195, 3) := dk_182 0 195 (dk_at dksJ16_append_2 7 rfl rfl)
theorem dJ16_append_56 : decode cJ16_append 56 = .ok (.aload_n 0, 1) := dk_42 (dk_at dksJ16_append_2 10 rfl rfl)
theorem dJ16_append_57 : decode cJ16_append 57 = .ok (.getfield 15, 3) := dk_180 0 15 (dk_at dksJ16_append_2 11 rfl rfl)
theorem dJ16_append_60 : decode cJ16_append 60 = .ok (.aload_n 0, 1) := dk_42 (dk_at dksJ16_append_2 14 rfl rfl)
theorem dJ16_append_61 : decode cJ16_append 61 = .ok (.dup, 1) := dk_89 (dk_at dksJ16_append_2 15 rfl rfl)
theorem dJ16_append_62 : decode cJ16_append 62 = .ok (.getfield 79, 3) := dk_180 0 79 (dk_at dksJ16_append_2 16 rfl rfl)
theorem dJ16_append_65 : decode cJ16_append 65 = .ok (.dup_x1, 1) := dk_90 (dk_at dksJ16_append_2 19 rfl rfl)
theorem dJ16_append_66 : decode cJ16_append 66 = .ok (.iconst 1, 1) := dk_4 (dk_at dksJ16_append_2 20 rfl rfl)
theorem dJ16_append_67 : decode cJ16_append 67 = .ok (.iadd, 1) := dk_96 (dk_at dksJ16_append_2 21 rfl rfl)
theorem dJ16_append_68 : decode cJ16_append 68 = .ok (.putfield 79, 3) := dk_181 0 79 (dk_at dksJ16_append_3 0 rfl rfl)
theorem dJ16_append_71 : decode cJ16_append 71 = .ok (.iload_n 1, 1) := dk_27 (dk_at dksJ16_append_3 3 rfl rfl)
theorem dJ16_append_72 : decode cJ16_append 72 = .ok (.invokestatic 197, 3) := dk_184 0 197 (dk_at dksJ16_append_3 4 rfl rfl)
theorem dJ16_append_75 : decode cJ16_append 75 = .ok (.aload_n 0, 1) := dk_42 (dk_at dksJ16_append_3 7 rfl rfl)
theorem dJ16_append_76 : decode cJ16_append 76 = .ok (.areturn, 1) := dk_176 (dk_at dksJ16_append_3 8 rfl rfl)
def dkwJ16_ensureCapacityInternal_1 : List UInt8 := [182, 0, 104, 42, 180, 0, 22, 120, 184, 0, 108, 181, 0, 15, 177]
abbrev dktJ16_ensureCapacityInternal_1 : List UInt8 := dkwJ16_ensureCapacityInternal_1 ++ []
def dkwJ16_ensureCapacityInternal_0 : List UInt8 := [42, 180, 0, 15, 190, 42, 180, 0, 22, 122, 61, 27, 28, 100, 158, 0, 24, 42, 42, 180, 0, 15, 42, 27]
abbrev dktJ16_ensureCapacityInternal_0 : List UInt8 := dkwJ16_ensureCapacityInternal_0 ++ dktJ16_ensureCapacityInternal_1
theorem dksJ16_ensureCapacityInternal_0 : cJ16_ensureCapacityInternal.data.toList.drop 0 = dktJ16_ensureCapacityInternal_0 := by decide +kernel
theorem dksJ16_ensureCapacityInternal_1 : cJ16_ensureCapacityInternal.data.toList.drop 24 = dktJ16_ensureCapacityInternal_1 := dk_seg dksJ16_ensureCapacityInternal_0 24 rfl rfl
theorem dJ16_ensureCapacityInternal_0 : decode cJ16_ensureCapacityInternal 0 = .ok (.aload_n 0, 1) := dk_42 (dk_at dksJ16_ensureCapacityInternal_0 0 rfl rfl)
theorem dJ16_ensureCapacityInternal_1 : decode cJ16_ensureCapacityInternal 1 = .ok (.getfield 15, 3) := dk_180 0 15 (dk_at dksJ16_ensureCapacityInternal_0 1 rfl rfl)
theorem dJ16_ensureCapacityInternal_4 : decode cJ16_ensureCapacityInternal 4 = .ok (.arraylength, 1) := dk_190 (dk_at dksJ16_ensureCapacityInternal_0 4 rfl rfl)
theorem dJ16_ensureCapacityInternal_5 : decode cJ16_ensureCapacityInternal 5 = .ok (.aload_n 0, 1) := dk_42 (dk_at dksJ16_ensureCapacityInternal_0 5 rfl rfl)
theorem dJ16_ensureCapacityInternal_6 : decode cJ16_ensureCapacityInternal 6 = .ok (.getfield 22, 3) := dk_180 0 22 (dk_at dksJ16_ensureCapacityInternal_0 6 rfl rfl)
theorem dJ16_ensureCapacityInternal_9 : decode cJ16_ensureCapacityInternal 9 = .ok (.ishr, 1) := dk_122 (dk_at dksJ16_ensureCapacityInternal_0 9 rfl rfl)
theorem dJ16_ensureCapacityInternal_10 : decode cJ16_ensureCapacityInternal 10 = .ok (.istore_n 2, 1) := dk_61 (dk_at dksJ16_ensureCapacityInternal_0 10 rfl rfl)
theorem dJ16_ensureCapacityInternal_11 : decode cJ16_ensureCapacityInternal 11 = .ok (.iload_n 1, 1) := dk_27 (dk_at dksJ16_ensureCapacityInternal_0 11 rfl rfl)
theorem dJ16_ensureCapacityInternal_12 : decode cJ16_ensureCapacityInternal 12 = .ok (.iload_n 2, 1) := dk_28 (dk_at dksJ16_ensureCapacityInternal_0 12 rfl rfl)
theorem dJ16_ensureCapacityInternal_13 : decode cJ16_ensureCapacityInternal 13 = .ok (.isub, 1) := dk_100 (dk_at dksJ16_ensureCapacityInternal_0 13 rfl rfl)
theorem dJ16_ensureCapacityInternal_14 : decode cJ16_ensureCapacityInternal 14 = .ok (.ifCond .le 24, 3) := dk_158 0 24 (dk_at dksJ16_ensureCapacityInternal_0 14 rfl rfl)
theorem dJ16_ensureCapacityInternal_17 : decode cJ16_ensureCapacityInternal 17 = .ok (.aload_n 0, 1) := dk_42 (dk_at dksJ16_ensureCapacityInternal_0 17 rfl rfl)
theorem dJ16_ensureCapacityInternal_18 : decode cJ16_ensureCapacityInternal 18 = .ok (.aload_n 0, 1) := dk_42 (dk_at dksJ16_ensureCapacityInternal_0 18 rfl rfl)
theorem dJ16_ensureCapacityInternal_19 : decode cJ16_ensureCapacityInternal 19 = .ok (.getfield 15, 3) := dk_180 0 15 (dk_at dksJ16_ensureCapacityInternal_0 19 rfl rfl)
theorem dJ16_ensureCapacityInternal_22 : decode cJ16_ensureCapacityInternal 22 = .ok (.aload_n 0, 1) := dk_42 (dk_at dksJ16_ensureCapacityInternal_0 22 rfl rfl)
theorem dJ16_ensureCapacityInternal_23 : decode cJ16_ensureCapacityInternal 23 = .ok (.iload_n 1, 1) := dk_27 (dk_at dksJ16_ensureCapacityInternal_0 23 rfl rfl)
theorem dJ16_ensureCapacityInternal_24 : decode cJ16_ensureCapacityInternal 24 = .ok (.invokevirtual 104, 3) := dk_182 0 104 (dk_at dksJ16_ensureCapacityInternal_1 0 rfl rfl)
theorem dJ16_ensureCapacityInternal_27 : decode cJ16_ensureCapacityInternal 27 = .ok (.aload_n 0, 1) := dk_42 (dk_at dksJ16_ensureCapacityInternal_1 3 rfl rfl)
theorem dJ16_ensureCapacityInternal_28 : decode cJ16_ensureCapacityInternal 28 = .ok (.getfield 22, 3) := dk_180 0 22 (dk_at dksJ16_ensureCapacityInternal_1 4 rfl rfl)
theorem dJ16_ensureCapacityInternal_31 : decode cJ16_ensureCapacityInternal 31 = .ok (.ishl, 1) := dk_120 (dk_at dksJ16_ensureCapacityInternal_1 7 rfl rfl)
theorem dJ16_ensureCapacityInternal_32 : decode cJ16_ensureCapacityInternal 32 = .ok (.invokestatic 108, 3) := dk_184 0 108 (dk_at dksJ16_ensureCapacityInternal_1 8 rfl rfl)
theorem dJ16_ensureCapacityInternal_35 : decode cJ16_ensureCapacityInternal 35 = .ok (.putfield 15, 3) := dk_181 0 15 (dk_at dksJ16_ensureCapacityInternal_1 11 rfl rfl)
theorem dJ16_ensureCapacityInternal_38 : decode cJ16_ensureCapacityInternal 38 = .ok (.return_, 1) := dk_177 (dk_at dksJ16_ensureCapacityInternal_1 14 rfl rfl)
def dkwJ16_newCapacity_2 : List UInt8 := [183, 0, 124, 191, 21, 5, 42, 180, 0, 22, 122, 172]
abbrev dktJ16_newCapacity_2 : List UInt8 := dkwJ16_newCapacity_2 ++ []
def dkwJ16_newCapacity_1 : List UInt8 := [180, 0, 22, 120, 96, 184, 0, 114, 54, 5, 21, 5, 18, 39, 160, 0, 13, 187, 0, 120, 89, 18, 122]
abbrev dktJ16_newCapacity_1 : List UInt8 := dkwJ16_newCapacity_1 ++ dktJ16_newCapacity_2
def dkwJ16_newCapacity_0 : List UInt8 := [42, 180, 0, 15, 190, 61, 27, 42, 180, 0, 22, 120, 62, 29, 28, 100, 54, 4, 28, 21, 4, 28, 5, 42]
abbrev dktJ16_newCapacity_0 : List UInt8 := dkwJ16_newCapacity_0 ++ dktJ16_newCapacity_1
theorem dksJ16_newCapacity_0 : cJ16_newCapacity.data.toList.drop 0 = dktJ16_newCapacity_0 := by decide +kernel
theorem dksJ16_newCapacity_1 : cJ16_newCapacity.data.toList.drop 24 = dktJ16_newCapacity_1 := dk_seg dksJ16_newCapacity_0 24 rfl rfl
theorem dksJ16_newCapacity_2 : cJ16_newCapacity.data.toList.drop 47 = dktJ16_newCapacity_2 := dk_seg dksJ16_newCapacity_1 23 rfl rfl
theorem dJ16_newCapacity_0 : decode cJ16_newCapacity 0 = .ok (.aload_n 0, 1) := dk_42 (dk_at dksJ16_newCapacity_0 0 rfl rfl)
theorem dJ16_newCapacity_1 : decode cJ16_newCapacity 1 = .ok (.getfield 15, 3) := dk_180 0 15 (dk_at dksJ16_newCapacity_0 1 rfl rfl)
theorem dJ16_newCapacity_4 : decode cJ16_newCapacity 4 = .ok (.arraylength, 1) := dk_190 (dk_at dksJ16_newCapacity_0 4 rfl rfl)
theorem dJ16_newCapacity_5 : decode cJ16_newCapacity 5 = .ok (.istore_n 2, 1) := dk_61 (dk_at dksJ16_newCapacity_0 5 rfl rfl)
theorem dJ16_newCapacity_6 : decode cJ16_newCapacity 6 = .ok (.iload_n 1, 1) := dk_27 (dk_at dksJ16_newCapacity_0 6 rfl rfl)
theorem dJ16_newCapacity_7 : decode cJ16_newCapacity 7 = .ok (.aload_n 0, 1) := dk_42 (dk_at dksJ16_newCapacity_0 7 rfl rfl)
theorem dJ16_newCapacity_8 : decode cJ16_newCapacity 8 = .ok (.getfield 22, 3) := dk_180 0 22 (dk_at dksJ16_newCapacity_0 8 rfl rfl)
theorem dJ16_newCapacity_11 : decode cJ16_newCapacity 11 = .ok (.ishl, 1) := dk_120 (dk_at dksJ16_newCapacity_0 11 rfl rfl)
theorem dJ16_newCapacity_12 : decode cJ16_newCapacity 12 = .ok (.istore_n 3, 1) := dk_62 (dk_at dksJ16_newCapacity_0 12 rfl rfl)
theorem dJ16_newCapacity_13 : decode cJ16_newCapacity 13 = .ok (.iload_n 3, 1) := dk_29 (dk_at dksJ16_newCapacity_0 13 rfl rfl)
theorem dJ16_newCapacity_14 : decode cJ16_newCapacity 14 = .ok (.iload_n 2, 1) := dk_28 (dk_at dksJ16_newCapacity_0 14 rfl rfl)
theorem dJ16_newCapacity_15 : decode cJ16_newCapacity 15 = .ok (.isub, 1) := dk_100 (dk_at dksJ16_newCapacity_0 15 rfl rfl)
theorem dJ16_newCapacity_16 : decode cJ16_newCapacity 16 = .ok (.istore 4, 2) := dk_54 4 (dk_at dksJ16_newCapacity_0 16 rfl rfl)
theorem dJ16_newCapacity_18 : decode cJ16_newCapacity 18 = .ok (.iload_n 2, 1) := dk_28 (dk_at dksJ16_newCapacity_0 18 rfl rfl)
theorem dJ16_newCapacity_19 : decode cJ16_newCapacity 19 = .ok (.iload 4, 2) := dk_21 4 (dk_at dksJ16_newCapacity_0 19 rfl rfl)
theorem dJ16_newCapacity_21 : decode cJ16_newCapacity 21 = .ok (.iload_n 2, 1) := dk_28 (dk_at dksJ16_newCapacity_0 21 rfl rfl)
theorem dJ16_newCapacity_22 : decode cJ16_newCapacity 22 = .ok (.iconst 2, 1) := dk_5 (dk_at dksJ16_newCapacity_0 22 rfl rfl)
theorem dJ16_newCapacity_23 : decode cJ16_newCapacity 23 = .ok (.aload_n 0, 1) := dk_42 (dk_at dksJ16_newCapacity_0 23 rfl rfl)
theorem dJ16_newCapacity_24 : decode cJ16_newCapacity 24 = .ok (.getfield 22, 3) := dk_180 0 22 (dk_at dksJ16_newCapacity_1 0 rfl rfl)
theorem dJ16_newCapacity_27 : decode cJ16_newCapacity 27 = .ok (.ishl, 1) := dk_120 (dk_at dksJ16_newCapacity_1 3 rfl rfl)
theorem dJ16_newCapacity_28 : decode cJ16_newCapacity 28 = .ok (.iadd, 1) := dk_96 (dk_at dksJ16_newCapacity_1 4 rfl rfl)
theorem dJ16_newCapacity_29 : decode cJ16_newCapacity 29 = .ok (.invokestatic 114, 3) := dk_184 0 114 (dk_at dksJ16_newCapacity_1 5 rfl rfl)
theorem dJ16_newCapacity_32 : decode cJ16_newCapacity 32 = .ok (.istore 5, 2) := dk_54 5 (dk_at dksJ16_newCapacity_1 8 rfl rfl)
theorem dJ16_newCapacity_34 : decode cJ16_newCapacity 34 = .ok (.iload 5, 2) := dk_21 5 (dk_at dksJ16_newCapacity_1 10 rfl rfl)
theorem dJ16_newCapacity_36 : decode cJ16_newCapacity 36 = .ok (.ldc 39, 2) := dk_18 39 (dk_at dksJ16_newCapacity_1 12 rfl rfl)
theorem dJ16_newCapacity_38 : decode cJ16_newCapacity 38 = .ok (.if_icmp .ne 13, 3) := dk_160 0 13 (dk_at dksJ16_newCapacity_1 14 rfl rfl)
theorem dJ16_newCapacity_41 : decode cJ16_newCapacity 41 = .ok (.new 120, 3) := dk_187 0 120 (dk_at dksJ16_newCapacity_1 17 rfl rfl)
theorem dJ16_newCapacity_44 : decode cJ16_newCapacity 44 = .ok (.dup, 1) := dk_89 (dk_at dksJ16_newCapacity_1 20 rfl rfl)
theorem dJ16_newCapacity_45 : decode cJ16_newCapacity 45 = .ok (.ldc 122, 2) := dk_18 122 (dk_at dksJ16_newCapacity_1 21 rfl rfl)
theorem dJ16_newCapacity_47 : decode cJ16_newCapacity 47 = .ok (.invokespecial 124, 3) := dk_183 0 124 (dk_at dksJ16_newCapacity_2 0 rfl rfl)
theorem dJ16_newCapacity_50 : decode cJ16_newCapacity 50 = .ok (.athrow, 1) := dk_191 (dk_at dksJ16_newCapacity_2 3 rfl rfl)
theorem dJ16_newCapacity_51 : decode cJ16_newCapacity 51 = .ok (.iload 5, 2) := dk_21 5 (dk_at dksJ16_newCapacity_2 4 rfl rfl)
theorem dJ16_newCapacity_53 : decode cJ16_newCapacity 53 = .ok (.aload_n 0, 1) := dk_42 (dk_at dksJ16_newCapacity_2 6 rfl rfl)
theorem dJ16_newCapacity_54 : decode cJ16_newCapacity 54 = .ok (.getfield 22, 3) := dk_180 0 22 (dk_at dksJ16_newCapacity_2 7 rfl rfl)
theorem dJ16_newCapacity_57 : decode cJ16_newCapacity 57 = .ok (.ishr, 1) := dk_122 (dk_at dksJ16_newCapacity_2 10 rfl rfl)
theorem dJ16_newCapacity_58 : decode cJ16_newCapacity 58 = .ok (.ireturn, 1) := dk_172 (dk_at dksJ16_newCapacity_2 11 rfl rfl)
def dkwJ16_isLatin1_0 : List UInt8 := [178, 0, 18, 153, 0, 14, 42, 180, 0, 22, 154, 0, 7, 4, 167, 0, 4, 3, 172]
abbrev dktJ16_isLatin1_0 : List UInt8 := dkwJ16_isLatin1_0 ++ []
theorem dksJ16_isLatin1_0 : cJ16_isLatin1.data.toList.drop 0 = dktJ16_isLatin1_0 := by decide +kernel
theorem dJ16_isLatin1_0 : decode cJ16_isLatin1 0 = .ok (.getstatic 18, 3) := dk_178 0 18 (dk_at dksJ16_isLatin1_0 0 rfl rfl)
theorem dJ16_isLatin1_3 : decode cJ16_isLatin1 3 = .ok (.ifCond .eq 14, 3) := dk_153 0 14 (dk_at dksJ16_isLatin1_0 3 rfl rfl)
theorem dJ16_isLatin1_6 : decode cJ16_isLatin1 6 = .ok (.aload_n 0, 1) := dk_42 (dk_at dksJ16_isLatin1_0 6 rfl rfl)
theorem dJ16_isLatin1_7 : decode cJ16_isLatin1 7 = .ok (.getfield 22, 3) := dk_180 0 22 (dk_at dksJ16_isLatin1_0 7 rfl rfl)
theorem dJ16_isLatin1_10 : decode cJ16_isLatin1 10 = .ok (.ifCond .ne 7, 3) := dk_154 0 7 (dk_at dksJ16_isLatin1_0 10 rfl rfl)
theorem dJ16_isLatin1_13 : decode cJ16_isLatin1 13 = .ok (.iconst 1, 1) := dk_4 (dk_at dksJ16_isLatin1_0 13 rfl rfl)
theorem dJ16_isLatin1_14 : decode cJ16_isLatin1 14 = .ok (.goto 4, 3) := dk_167 0 4 (dk_at dksJ16_isLatin1_0 14 rfl rfl)
theorem dJ16_isLatin1_17 : decode cJ16_isLatin1 17 = .ok (.iconst 0, 1) := dk_3 (dk_at dksJ16_isLatin1_0 17 rfl rfl)
theorem dJ16_isLatin1_18 : decode cJ16_isLatin1 18 = .ok (.ireturn, 1) := dk_172 (dk_at dksJ16_isLatin1_0 18 rfl rfl)
def dkwJ16_inflate_1 : List UInt8 := [42, 180, 0, 79, 184, 0, 125, 42, 43, 181, 0, 15, 42, 4, 181, 0, 22, 177]
abbrev dktJ16_inflate_1 : List UInt8 := dkwJ16_inflate_1 ++ []
def dkwJ16_inflate_0 : List UInt8 := [42, 182, 0, 83, 154, 0, 4, 177, 42, 180, 0, 15, 190, 184, 0, 26, 76, 42, 180, 0, 15, 3, 43, 3]
abbrev dktJ16_inflate_0 : List UInt8 := dkwJ16_inflate_0 ++ dktJ16_inflate_1
theorem dksJ16_inflate_0 : cJ16_inflate.data.toList.drop 0 = dktJ16_inflate_0 := by decide +kernel
theorem dksJ16_inflate_1 : cJ16_inflate.data.toList.drop 24 = dktJ16_inflate_1 := dk_seg dksJ16_inflate_0 24 rfl rfl
theorem dJ16_inflate_0 : decode cJ16_inflate 0 = .ok (.aload_n 0, 1) := dk_42 (dk_at dksJ16_inflate_0 0 rfl rfl)
theorem dJ16_inflate_1 : decode cJ16_inflate 1 = .ok (.invokevirtual 83, 3) := dk_182 0 83 (dk_at dksJ16_inflate_0 1 rfl rfl)
theorem dJ16_inflate_4 : decode cJ16_inflate 4 = .ok (.ifCond .ne 4, 3) := dk_154 0 4 (dk_at dksJ16_inflate_0 4 rfl rfl)
theorem dJ16_inflate_7 : decode cJ16_inflate 7 = .ok (.return_, 1) := dk_177 (dk_at dksJ16_inflate_0 7 rfl rfl)
theorem dJ16_inflate_8 : decode cJ16_inflate 8 = .ok (.aload_n 0, 1) := dk_42 (dk_at dksJ16_inflate_0 8 rfl rfl)
theorem dJ16_inflate_9 : decode cJ16_inflate 9 = .ok (.getfield 15, 3) := dk_180 0 15 (dk_at dksJ16_inflate_0 9 rfl rfl)
theorem dJ16_inflate_12 : decode cJ16_inflate 12 = .ok (.arraylength, 1) := dk_190 (dk_at dksJ16_inflate_0 12 rfl rfl)
theorem dJ16_inflate_13 : decode cJ16_inflate 13 = .ok (.invokestatic 26, 3) := dk_184 0 26 (dk_at dksJ16_inflate_0 13 rfl rfl)
theorem dJ16_inflate_16 : decode cJ16_inflate 16 = .ok (.astore_n 1, 1) := dk_76 (dk_at dksJ16_inflate_0 16 rfl rfl)
theorem dJ16_inflate_17 : decode cJ16_inflate 17 = .ok (.aload_n 0, 1) := dk_42 (dk_at dksJ16_inflate_0 17 rfl rfl)
theorem dJ16_inflate_18 : decode cJ16_inflate 18 = .ok (.getfield 15, 3) := dk_180 0 15 (dk_at dksJ16_inflate_0 18 rfl rfl)
theorem dJ16_inflate_21 : decode cJ16_inflate 21 = .ok (.iconst 0, 1) := dk_3 (dk_at dksJ16_inflate_0 21 rfl rfl)
theorem dJ16_inflate_22 : decode cJ16_inflate 22 = .ok (.aload_n 1, 1) := dk_43 (dk_at dksJ16_inflate_0 22 rfl rfl)
theorem dJ16_inflate_23 : decode cJ16_inflate 23 = .ok (.iconst 0, 1) := dk_3 (dk_at dksJ16_inflate_0 23 rfl rfl)
theorem dJ16_inflate_24 : decode cJ16_inflate 24 = .ok (.aload_n 0, 1) := dk_42 (dk_at dksJ16_inflate_1 0 rfl rfl)
theorem dJ16_inflate_25 : decode cJ16_inflate 25 = .ok (.getfield 79, 3) := dk_180 0 79 (dk_at dksJ16_inflate_1 1 rfl rfl)
theorem dJ16_inflate_28 : decode cJ16_inflate 28 = .ok (.invokestatic 125, 3) := dk_184 0 125 (dk_at dksJ16_inflate_1 4 rfl rfl)
theorem dJ16_inflate_31 : decode cJ16_inflate 31 = .ok (.aload_n 0, 1) := dk_42 (dk_at dksJ16_inflate_1 7 rfl rfl)
theorem dJ16_inflate_32 : decode cJ16_inflate 32 = .ok (.aload_n 1, 1) := dk_43 (dk_at dksJ16_inflate_1 8 rfl rfl)
theorem dJ16_inflate_33 : decode cJ16_inflate 33 = .ok (.putfield 15, 3) := dk_181 0 15 (dk_at dksJ16_inflate_1 9 rfl rfl)
theorem dJ16_inflate_36 : decode cJ16_inflate 36 = .ok (.aload_n 0, 1) := dk_42 (dk_at dksJ16_inflate_1 12 rfl rfl)
theorem dJ16_inflate_37 : decode cJ16_inflate 37 = .ok (.iconst 1, 1) := dk_4 (dk_at dksJ16_inflate_1 13 rfl rfl)
theorem dJ16_inflate_38 : decode cJ16_inflate 38 = .ok (.putfield 22, 3) := dk_181 0 22 (dk_at dksJ16_inflate_1 14 rfl rfl)
theorem dJ16_inflate_41 : decode cJ16_inflate 41 = .ok (.return_, 1) := dk_177 (dk_at dksJ16_inflate_1 17 rfl rfl)
theorem dJ16_getValue_0 : decode cJ16_getValue 0 = .ok (.aload_n 0, 1) := by decide +kernel
theorem dJ16_getValue_1 : decode cJ16_getValue 1 = .ok (.getfield 15, 3) := by decide +kernel
theorem dJ16_getValue_4 : decode cJ16_getValue 4 = .ok (.areturn, 1) := by decide +kernel
theorem dJ16_length_0 : decode cJ16_length 0 = .ok (.aload_n 0, 1) := by decide +kernel
theorem dJ16_length_1 : decode cJ16_length 1 = .ok (.getfield 79, 3) := by decide +kernel
theorem dJ16_length_4 : decode cJ16_length 4 = .ok (.ireturn, 1) := by decide +kernel
def dkwJ16_append_2_1 : List UInt8 := [42, 42, 180, 0, 79, 43, 182, 0, 208, 42, 89, 180, 0, 79, 28, 96, 181, 0, 79, 42, 176]
abbrev dktJ16_append_2_1 : List UInt8 := dkwJ16_append_2_1 ++ []
def dkwJ16_append_2_0 : List UInt8 := [43, 199, 0, 8, 42, 182, 0, 204, 176, 43, 182, 0, 32, 61, 42, 42, 180, 0, 79, 28, 96, 182, 0, 100]
abbrev dktJ16_append_2_0 : List UInt8 := dkwJ16_append_2_0 ++ dktJ16_append_2_1
theorem dksJ16_append_2_0 : cJ16_append_2.data.toList.drop 0 = dktJ16_append_2_0 := by decide +kernel
theorem dksJ16_append_2_1 : cJ16_append_2.data.toList.drop 24 = dktJ16_append_2_1 := dk_seg dksJ16_append_2_0 24 rfl rfl
theorem dJ16_append_2_0 : decode cJ16_append_2 0 = .ok (.aload_n 1, 1) := dk_43 (dk_at dksJ16_append_2_0 0 rfl rfl)
theorem dJ16_append_2_1 : decode cJ16_append_2 1 = .ok (.ifnonnull 8, 3) := dk_199 0 8 (dk_at dksJ16_append_2_0 1 rfl rfl)
theorem dJ16_append_2_4 : decode cJ16_append_2 4 = .ok (.aload_n 0, 1) := dk_42 (dk_at dksJ16_append_2_0 4 rfl rfl)
theorem dJ16_append_2_5 : decode cJ16_append_2 5 = .ok (.invokevirtual 204, 3) := dk_182 0 204 (dk_at dksJ16_append_2_0 5 rfl rfl)
theorem dJ16_append_2_8 : decode cJ16_append_2 8 = .ok (.areturn, 1) := dk_176 (dk_at dksJ16_append_2_0 8 rfl rfl)
theorem dJ16_append_2_9 : decode cJ16_append_2 9 = .ok (.aload_n 1, 1) := dk_43 (dk_at dksJ16_append_2_0 9 rfl rfl)
theorem dJ16_append_2_10 : decode cJ16_append_2 10 = .ok (.invokevirtual 32, 3) := dk_182 0 32 (dk_at dksJ16_append_2_0 10 rfl rfl)
theorem dJ16_append_2_13 : decode cJ16_append_2 13 = .ok (.istore_n 2, 1) := dk_61 (dk_at dksJ16_append_2_0 13 rfl rfl)
theorem dJ16_append_2_14 : decode cJ16_append_2 14 = .ok (.aload_n 0, 1) := dk_42 (dk_at dksJ16_append_2_0 14 rfl rfl)
theorem dJ16_append_2_15 : decode cJ16_append_2 15 = .ok (.aload_n 0, 1) := dk_42 (dk_at dksJ16_append_2_0 15 rfl rfl)
theorem dJ16_append_2_16 : decode cJ16_append_2 16 = .ok (.getfield 79, 3) := dk_180 0 79 (dk_at dksJ16_append_2_0 16 rfl rfl)
theorem dJ16_append_2_19 : decode cJ16_append_2 19 = .ok (.iload_n 2, 1) := dk_28 (dk_at dksJ16_append_2_0 19 rfl rfl)
theorem dJ16_append_2_20 : decode cJ16_append_2 20 = .ok (.iadd, 1) := dk_96 (dk_at dksJ16_append_2_0 20 rfl rfl)
theorem dJ16_append_2_21 : decode cJ16_append_2 21 = .ok (.invokevirtual 100, 3) := dk_182 0 100 (dk_at dksJ16_append_2_0 21 rfl rfl)
theorem dJ16_append_2_24 : decode cJ16_append_2 24 = .ok (.aload_n 0, 1) := dk_42 (dk_at dksJ16_append_2_1 0 rfl rfl)
theorem dJ16_append_2_25 : decode cJ16_append_2 25 = .ok (.aload_n 0, 1) := dk_42 (dk_at dksJ16_append_2_1 1 rfl rfl)
theorem dJ16_append_2_26 : decode cJ16_append_2 26 = .ok (.getfield 79, 3) := dk_180 0 79 (dk_at dksJ16_append_2_1 2 rfl rfl)
theorem dJ16_append_2_29 : decode cJ16_append_2 29 = .ok (.aload_n 1, 1) := dk_43 (dk_at dksJ16_append_2_1 5 rfl rfl)
theorem dJ16_append_2_30 : decode cJ16_append_2 30 = .ok (.invokevirtual 208, 3) := dk_182 0 208 (dk_at dksJ16_append_2_1 6 rfl rfl)
theorem dJ16_append_2_33 : decode cJ16_append_2 33 = .ok (.aload_n 0, 1) := dk_42 (dk_at dksJ16_append_2_1 9 rfl rfl)
theorem dJ16_append_2_34 : decode cJ16_append_2 34 = .ok (.dup, 1) := dk_89 (dk_at dksJ16_append_2_1 10 rfl rfl)
theorem dJ16_append_2_35 : decode cJ16_append_2 35 = .ok (.getfield 79, 3) := dk_180 0 79 (dk_at dksJ16_append_2_1 11 rfl rfl)
theorem dJ16_append_2_38 : decode cJ16_append_2 38 = .ok (.iload_n 2, 1) := dk_28 (dk_at dksJ16_append_2_1 14 rfl rfl)
theorem dJ16_append_2_39 : decode cJ16_append_2 39 = .ok (.iadd, 1) := dk_96 (dk_at dksJ16_append_2_1 15 rfl rfl)
theorem dJ16_append_2_40 : decode cJ16_append_2 40 = .ok (.putfield 79, 3) := dk_181 0 79 (dk_at dksJ16_append_2_1 16 rfl rfl)
theorem dJ16_append_2_43 : decode cJ16_append_2 43 = .ok (.aload_n 0, 1) := dk_42 (dk_at dksJ16_append_2_1 19 rfl rfl)
theorem dJ16_append_2_44 : decode cJ16_append_2 44 = .ok (.areturn, 1) := dk_176 (dk_at dksJ16_append_2_1 20 rfl rfl)
def dkwJ16_appendNull_3 : List UInt8 := [184, 0, 226, 60, 42, 27, 181, 0, 79, 42, 176]
abbrev dktJ16_appendNull_3 : List UInt8 := dkwJ16_appendNull_3 ++ []
def dkwJ16_appendNull_2 : List UInt8 := [16, 108, 84, 44, 27, 132, 1, 1, 16, 108, 84, 167, 0, 17, 44, 27, 16, 110, 16, 117, 16, 108, 16, 108]
abbrev dktJ16_appendNull_2 : List UInt8 := dkwJ16_appendNull_2 ++ dktJ16_appendNull_3
def dkwJ16_appendNull_1 : List UInt8 := [153, 0, 38, 44, 27, 132, 1, 1, 16, 110, 84, 44, 27, 132, 1, 1, 16, 117, 84, 44, 27, 132, 1, 1]
abbrev dktJ16_appendNull_1 : List UInt8 := dkwJ16_appendNull_1 ++ dktJ16_appendNull_2
def dkwJ16_appendNull_0 : List UInt8 := [42, 42, 180, 0, 79, 7, 96, 182, 0, 100, 42, 180, 0, 79, 60, 42, 180, 0, 15, 77, 42, 182, 0, 83]
abbrev dktJ16_appendNull_0 : List UInt8 := dkwJ16_appendNull_0 ++ dktJ16_appendNull_1
theorem dksJ16_appendNull_0 : cJ16_appendNull.data.toList.drop 0 = dktJ16_appendNull_0 := by decide +kernel
theorem dksJ16_appendNull_1 : cJ16_appendNull.data.toList.drop 24 = dktJ16_appendNull_1 := dk_seg dksJ16_appendNull_0 24 rfl rfl
theorem dksJ16_appendNull_2 : cJ16_appendNull.data.toList.drop 48 = dktJ16_appendNull_2 := dk_seg dksJ16_appendNull_1 24 rfl rfl
theorem dksJ16_appendNull_3 : cJ16_appendNull.data.toList.drop 72 = dktJ16_appendNull_3 := dk_seg dksJ16_appendNull_2 24 rfl rfl
theorem dJ16_appendNull_0 : decode cJ16_appendNull 0 = .ok (.aload_n 0, 1) := dk_42 (dk_at dksJ16_appendNull_0 0 rfl rfl)
theorem dJ16_appendNull_1 : decode cJ16_appendNull 1 = .ok (.aload_n 0, 1) := dk_42 (dk_at dksJ16_appendNull_0 1 rfl rfl)
theorem dJ16_appendNull_2 : decode cJ16_appendNull 2 = .ok (.getfield 79, 3) := dk_180 0 79 (dk_at dksJ16_appendNull_0 2 rfl rfl)
theorem dJ16_appendNull_5 : decode cJ16_appendNull 5 = .ok (.iconst 4, 1) := dk_7 (dk_at dksJ16_appendNull_0 5 rfl rfl)
theorem dJ16_appendNull_6 : decode cJ16_appendNull 6 = .ok (.iadd, 1) := dk_96 (dk_at dksJ16_appendNull_0 6 rfl rfl)
theorem dJ16_appendNull_7 : decode cJ16_appendNull 7 = .ok (.invokevirtual 100, 3) := dk_182 0 100 (dk_at dksJ16_appendNull_0 7 rfl rfl)
theorem dJ16_appendNull_10 : decode cJ16_appendNull 10 = .ok (.aload_n 0, 1) := dk_42 (dk_at dksJ16_appendNull_0 10 rfl rfl)
theorem dJ16_appendNull_11 : decode cJ16_appendNull 11 = .ok (.getfield 79, 3) := dk_180 0 79 (dk_at dksJ16_appendNull_0 11 rfl rfl)
theorem dJ16_appendNull_14 : decode cJ16_appendNull 14 = .ok (.istore_n 1, 1) := dk_60 (dk_at dksJ16_appendNull_0 14 rfl rfl)
theorem dJ16_appendNull_15 : decode cJ16_appendNull 15 = .ok (.aload_n 0, 1) := dk_42 (dk_at dksJ16_appendNull_0 15 rfl rfl)
theorem dJ16_appendNull_16 : decode cJ16_appendNull 16 = .ok (.getfield 15, 3) := dk_180 0 15 (dk_at dksJ16_appendNull_0 16 rfl rfl)
theorem dJ16_appendNull_19 : decode cJ16_appendNull 19 = .ok (.astore_n 2, 1) := dk_77 (dk_at dksJ16_appendNull_0 19 rfl rfl)
theorem dJ16_appendNull_20 : decode cJ16_appendNull 20 = .ok (.aload_n 0, 1) := dk_42 (dk_at dksJ16_appendNull_0 20 rfl rfl)
theorem dJ16_appendNull_21 : decode cJ16_appendNull 21 = .ok (.invokevirtual 83, 3) := dk_182 0 83 (dk_at dksJ16_appendNull_0 21 rfl rfl)
theorem dJ16_appendNull_24 : decode cJ16_appendNull 24 = .ok (.ifCond .eq 38, 3) := dk_153 0 38 (dk_at dksJ16_appendNull_1 0 rfl rfl)
theorem dJ16_appendNull_27 : decode cJ16_appendNull 27 = .ok (.aload_n 2, 1) := dk_44 (dk_at dksJ16_appendNull_1 3 rfl rfl)
theorem dJ16_appendNull_28 : decode cJ16_appendNull 28 = .ok (.iload_n 1, 1) := dk_27 (dk_at dksJ16_appendNull_1 4 rfl rfl)
theorem dJ16_appendNull_29 : decode cJ16_appendNull 29 = .ok (.iinc 1 1, 3) := dk_132 1 1 (dk_at dksJ16_appendNull_1 5 rfl rfl)
theorem dJ16_appendNull_32 : decode cJ16_appendNull 32 = .ok (.bipush 110, 2) := dk_16 110 (dk_at dksJ16_appendNull_1 8 rfl rfl)
theorem dJ16_appendNull_34 : decode cJ16_appendNull 34 = .ok (.bastore, 1) := dk_84 (dk_at dksJ16_appendNull_1 10 rfl rfl)
theorem dJ16_appendNull_35 : decode cJ16_appendNull 35 = .ok (.aload_n 2, 1) := dk_44 (dk_at dksJ16_appendNull_1 11 rfl rfl)
theorem dJ16_appendNull_36 : decode cJ16_appendNull 36 = .ok (.iload_n 1, 1) := dk_27 (dk_at dksJ16_appendNull_1 12 rfl rfl)
theorem dJ16_appendNull_37 : decode cJ16_appendNull 37 = .ok (.iinc 1 1, 3) := dk_132 1 1 (dk_at dksJ16_appendNull_1 13 rfl rfl)
theorem dJ16_appendNull_40 : decode cJ16_appendNull 40 = .ok (.bipush 117, 2) := dk_16 117 (dk_at dksJ16_appendNull_1 16 rfl rfl)
theorem dJ16_appendNull_42 : decode cJ16_appendNull 42 = .ok (.bastore, 1) := dk_84 (dk_at dksJ16_appendNull_1 18 rfl rfl)
theorem dJ16_appendNull_43 : decode cJ16_appendNull 43 = .ok (.aload_n 2, 1) := dk_44 (dk_at dksJ16_appendNull_1 19 rfl rfl)
theorem dJ16_appendNull_44 : decode cJ16_appendNull 44 = .ok (.iload_n 1, 1) := dk_27 (dk_at dksJ16_appendNull_1 20 rfl rfl)
theorem dJ16_appendNull_45 : decode cJ16_appendNull 45 = .ok (.iinc 1 1, 3) := dk_132 1 1 (dk_at dksJ16_appendNull_1 21 rfl rfl)
theorem dJ16_appendNull_48 : decode cJ16_appendNull 48 = .ok (.bipush 108, 2) := dk_16 108 (dk_at dksJ16_appendNull_2 0 rfl rfl)
theorem dJ16_appendNull_50 : decode cJ16_appendNull 50 = .ok (.bastore, 1) := dk_84 (dk_at dksJ16_appendNull_2 2 rfl rfl)
theorem dJ16_appendNull_51 : decode cJ16_appendNull 51 = .ok (.aload_n 2, 1) := dk_44 (dk_at dksJ16_appendNull_2 3 rfl rfl)
theorem dJ16_appendNull_52 : decode cJ16_appendNull 52 = .ok (.iload_n 1, 1) := dk_27 (dk_at dksJ16_appendNull_2 4 rfl rfl)
theorem dJ16_appendNull_53 : decode cJ16_appendNull 53 = .ok (.iinc 1 1, 3) := dk_132 1 1 (dk_at dksJ16_appendNull_2 5 rfl rfl)
theorem dJ16_appendNull_56 : decode cJ16_appendNull 56 = .ok (.bipush 108, 2) := dk_16 108 (dk_at dksJ16_appendNull_2 8 rfl rfl)
theorem dJ16_appendNull_58 : decode cJ16_appendNull 58 = .ok (.bastore, 1) := dk_84 (dk_at dksJ16_appendNull_2 10 rfl rfl)
theorem dJ16_appendNull_59 : decode cJ16_appendNull 59 = .ok (.goto 17, 3) := dk_167 0 17 (dk_at dksJ16_appendNull_2 11 rfl rfl)
theorem dJ16_appendNull_62 : decode cJ16_appendNull 62 = .ok (.aload_n 2, 1) := dk_44 (dk_at dksJ16_appendNull_2 14 rfl rfl)
theorem dJ16_appendNull_63 : decode cJ16_appendNull 63 = .ok (.iload_n 1, 1) := dk_27 (dk_at dksJ16_appendNull_2 15 rfl rfl)
theorem dJ16_appendNull_64 : decode cJ16_appendNull 64 = .ok (.bipush 110, 2) := dk_16 110 (dk_at dksJ16_appendNull_2 16 rfl rfl)
theorem dJ16_appendNull_66 : decode cJ16_appendNull 66 = .ok (.bipush 117, 2) := dk_16 117 (dk_at dksJ16_appendNull_2 18 rfl rfl)
theorem dJ16_appendNull_68 : decode cJ16_appendNull 68 = .ok (.bipush 108, 2) := dk_16 108 (dk_at dksJ16_appendNull_2 20 rfl rfl)
theorem dJ16_appendNull_70 : decode cJ16_appendNull 70 = .ok (.bipush 108, 2) := dk_16 108 (dk_at dksJ16_appendNull_2 22 rfl rfl)
theorem dJ16_appendNull_72 : decode cJ16_appendNull 72 = .ok (.invokestatic 226, 3) := dk_184 0 226 (dk_at dksJ16_appendNull_3 0 rfl rfl)
theorem dJ16_appendNull_75 : decode cJ16_appendNull 75 = .ok (.istore_n 1, 1) := dk_60 (dk_at dksJ16_appendNull_3 3 rfl rfl)
theorem dJ16_appendNull_76 : decode cJ16_appendNull 76 = .ok (.aload_n 0, 1) := dk_42 (dk_at dksJ16_appendNull_3 4 rfl rfl)
theorem dJ16_appendNull_77 : decode cJ16_appendNull 77 = .ok (.iload_n 1, 1) := dk_27 (dk_at dksJ16_appendNull_3 5 rfl rfl)
theorem dJ16_appendNull_78 : decode cJ16_appendNull 78 = .ok (.putfield 79, 3) := dk_181 0 79 (dk_at dksJ16_appendNull_3 6 rfl rfl)
theorem dJ16_appendNull_81 : decode cJ16_appendNull 81 = .ok (.aload_n 0, 1) := dk_42 (dk_at dksJ16_appendNull_3 9 rfl rfl)
theorem dJ16_appendNull_82 : decode cJ16_appendNull 82 = .ok (.areturn, 1) := dk_176 (dk_at dksJ16_appendNull_3 10 rfl rfl)
def dkwJ16_putStringAt_0 : List UInt8 := [42, 44, 182, 1, 141, 44, 42, 180, 0, 15, 27, 42, 180, 0, 22, 182, 1, 143, 177]
abbrev dktJ16_putStringAt_0 : List UInt8 := dkwJ16_putStringAt_0 ++ []
theorem dksJ16_putStringAt_0 : cJ16_putStringAt.data.toList.drop 0 = dktJ16_putStringAt_0 := by decide +kernel
theorem dJ16_putStringAt_0 : decode cJ16_putStringAt 0 = .ok (.aload_n 0, 1) := dk_42 (dk_at dksJ16_putStringAt_0 0 rfl rfl)
theorem dJ16_putStringAt_1 : decode cJ16_putStringAt 1 = .ok (.aload_n 2, 1) := dk_44 (dk_at dksJ16_putStringAt_0 1 rfl rfl)
theorem dJ16_putStringAt_2 : decode cJ16_putStringAt 2 = .ok (.invokevirtual 397, 3) := dk_182 1 141 (dk_at dksJ16_putStringAt_0 2 rfl rfl)
theorem dJ16_putStringAt_5 : decode cJ16_putStringAt 5 = .ok (.aload_n 2, 1) := dk_44 (dk_at dksJ16_putStringAt_0 5 rfl rfl)
theorem dJ16_putStringAt_6 : decode cJ16_putStringAt 6 = .ok (.aload_n 0, 1) := dk_42 (dk_at dksJ16_putStringAt_0 6 rfl rfl)
theorem dJ16_putStringAt_7 : decode cJ16_putStringAt 7 = .ok (.getfield 15, 3) := dk_180 0 15 (dk_at dksJ16_putStringAt_0 7 rfl rfl)
theorem dJ16_putStringAt_10 : decode cJ16_putStringAt 10 = .ok (.iload_n 1, 1) := dk_27 (dk_at dksJ16_putStringAt_0 10 rfl rfl)
theorem dJ16_putStringAt_11 : decode cJ16_putStringAt 11 = .ok (.aload_n 0, 1) := dk_42 (dk_at dksJ16_putStringAt_0 11 rfl rfl)
theorem dJ16_putStringAt_12 : decode cJ16_putStringAt 12 = .ok (.getfield 22, 3) := dk_180 0 22 (dk_at dksJ16_putStringAt_0 12 rfl rfl)
theorem dJ16_putStringAt_15 : decode cJ16_putStringAt 15 = .ok (.invokevirtual 399, 3) := dk_182 1 143 (dk_at dksJ16_putStringAt_0 15 rfl rfl)
theorem dJ16_putStringAt_18 : decode cJ16_putStringAt 18 = .ok (.return_, 1) := dk_177 (dk_at dksJ16_putStringAt_0 18 rfl rfl)
def dkwJ16_inflateIfNeededFor_0 : List UInt8 := [178, 0, 18, 153, 0, 18, 42, 180, 0, 22, 43, 182, 0, 40, 159, 0, 7, 42, 182, 0, 195, 177]
abbrev dktJ16_inflateIfNeededFor_0 : List UInt8 := dkwJ16_inflateIfNeededFor_0 ++ []
theorem dksJ16_inflateIfNeededFor_0 : cJ16_inflateIfNeededFor.data.toList.drop 0 = dktJ16_inflateIfNeededFor_0 := by decide +kernel
theorem dJ16_inflateIfNeededFor_0 : decode cJ16_inflateIfNeededFor 0 = .ok (.getstatic 18, 3) := dk_178 0 18 (dk_at dksJ16_inflateIfNeededFor_0 0 rfl rfl)
theorem dJ16_inflateIfNeededFor_3 : decode cJ16_inflateIfNeededFor 3 = .ok (.ifCond .eq 18, 3) := dk_153 0 18 (dk_at dksJ16_inflateIfNeededFor_0 3 rfl rfl)
theorem dJ16_inflateIfNeededFor_6 : decode cJ16_inflateIfNeededFor 6 = .ok (.aload_n 0, 1) := dk_42 (dk_at dksJ16_inflateIfNeededFor_0 6 rfl rfl)
theorem dJ16_inflateIfNeededFor_7 : decode cJ16_inflateIfNeededFor 7 = .ok (.getfield 22, 3) := dk_180 0 22 (dk_at dksJ16_inflateIfNeededFor_0 7 rfl rfl)
theorem dJ16_inflateIfNeededFor_10 : decode cJ16_inflateIfNeededFor 10 = .ok (.aload_n 1, 1) := dk_43 (dk_at dksJ16_inflateIfNeededFor_0 10 rfl rfl)
theorem dJ16_inflateIfNeededFor_11 : decode cJ16_inflateIfNeededFor 11 = .ok (.invokevirtual 40, 3) := dk_182 0 40 (dk_at dksJ16_inflateIfNeededFor_0 11 rfl rfl)
theorem dJ16_inflateIfNeededFor_14 : decode cJ16_inflateIfNeededFor 14 = .ok (.if_icmp .eq 7, 3) := dk_159 0 7 (dk_at dksJ16_inflateIfNeededFor_0 14 rfl rfl)
theorem dJ16_inflateIfNeededFor_17 : decode cJ16_inflateIfNeededFor 17 = .ok (.aload_n 0, 1) := dk_42 (dk_at dksJ16_inflateIfNeededFor_0 17 rfl rfl)
theorem dJ16_inflateIfNeededFor_18 : decode cJ16_inflateIfNeededFor 18 = .ok (.invokevirtual 195, 3) := dk_182 0 195 (dk_at dksJ16_inflateIfNeededFor_0 18 rfl rfl)
theorem dJ16_inflateIfNeededFor_21 : decode cJ16_inflateIfNeededFor 21 = .ok (.return_, 1) := dk_177 (dk_at dksJ16_inflateIfNeededFor_0 21 rfl rfl)
def dkwJ16_append_3_2 : List UInt8 := [42, 29, 181, 0, 79, 42, 176]
abbrev dktJ16_append_3_2 : List UInt8 := dkwJ16_append_3_2 ++ []
def dkwJ16_append_3_1 : List UInt8 := [27, 29, 42, 180, 0, 15, 184, 0, 248, 87, 167, 0, 14, 27, 28, 29, 42, 180, 0, 15, 184, 0, 251, 87]
abbrev dktJ16_append_3_1 : List UInt8 := dkwJ16_append_3_1 ++ dktJ16_append_3_2
def dkwJ16_append_3_0 : List UInt8 := [42, 180, 0, 79, 61, 28, 27, 184, 0, 245, 96, 62, 42, 29, 182, 0, 100, 42, 182, 0, 83, 153, 0, 16]
abbrev dktJ16_append_3_0 : List UInt8 := dkwJ16_append_3_0 ++ dktJ16_append_3_1
theorem dksJ16_append_3_0 : cJ16_append_3.data.toList.drop 0 = dktJ16_append_3_0 := by decide +kernel
theorem dksJ16_append_3_1 : cJ16_append_3.data.toList.drop 24 = dktJ16_append_3_1 := dk_seg dksJ16_append_3_0 24 rfl rfl
theorem dksJ16_append_3_2 : cJ16_append_3.data.toList.drop 48 = dktJ16_append_3_2 := dk_seg dksJ16_append_3_1 24 rfl rfl
theorem dJ16_append_3_0 : decode cJ16_append_3 0 = .ok (.aload_n 0, 1) := dk_42 (dk_at dksJ16_append_3_0 0 rfl rfl)
theorem dJ16_append_3_1 : decode cJ16_append_3 1 = .ok (.getfield 79, 3) := dk_180 0 79 (dk_at dksJ16_append_3_0 1 rfl rfl)
theorem dJ16_append_3_4 : decode cJ16_append_3 4 = .ok (.istore_n 2, 1) := dk_61 (dk_at dksJ16_append_3_0 4 rfl rfl)
theorem dJ16_append_3_5 : decode cJ16_append_3 5 = .ok (.iload_n 2, 1) := dk_28 (dk_at dksJ16_append_3_0 5 rfl rfl)
theorem dJ16_append_3_6 : decode cJ16_append_3 6 = .ok (.iload_n 1, 1) := dk_27 (dk_at dksJ16_append_3_0 6 rfl rfl)
theorem dJ16_append_3_7 : decode cJ16_append_3 7 = .ok (.invokestatic 245, 3) := dk_184 0 245 (dk_at dksJ16_append_3_0 7 rfl rfl)
theorem dJ16_append_3_10 : decode cJ16_append_3 10 = .ok (.iadd, 1) := dk_96 (dk_at dksJ16_append_3_0 10 rfl rfl)
theorem dJ16_append_3_11 : decode cJ16_append_3 11 = .ok (.istore_n 3, 1) := dk_62 (dk_at dksJ16_append_3_0 11 rfl rfl)
theorem dJ16_append_3_12 : decode cJ16_append_3 12 = .ok (.aload_n 0, 1) := dk_42 (dk_at dksJ16_append_3_0 12 rfl rfl)
theorem dJ16_append_3_13 : decode cJ16_append_3 13 = .ok (.iload_n 3, 1) := dk_29 (dk_at dksJ16_append_3_0 13 rfl rfl)
theorem dJ16_append_3_14 : decode cJ16_append_3 14 = .ok (.invokevirtual 100, 3) := dk_182 0 100 (dk_at dksJ16_append_3_0 14 rfl rfl)
theorem dJ16_append_3_17 : decode cJ16_append_3 17 = .ok (.aload_n 0, 1) := dk_42 (dk_at dksJ16_append_3_0 17 rfl rfl)
theorem dJ16_append_3_18 : decode cJ16_append_3 18 = .ok (.invokevirtual 83, 3) := dk_182 0 83 (dk_at dksJ16_append_3_0 18 rfl rfl)
theorem dJ16_append_3_21 : decode cJ16_append_3 21 = .ok (.ifCond .eq 16, 3) := dk_153 0 16 (dk_at dksJ16_append_3_0 21 rfl rfl)
theorem dJ16_append_3_24 : decode cJ16_append_3 24 = .ok (.iload_n 1, 1) := dk_27 (dk_at dksJ16_append_3_1 0 rfl rfl)
theorem dJ16_append_3_25 : decode cJ16_append_3 25 = .ok (.iload_n 3, 1) := dk_29 (dk_at dksJ16_append_3_1 1 rfl rfl)
theorem dJ16_append_3_26 : decode cJ16_append_3 26 = .ok (.aload_n 0, 1) := dk_42 (dk_at dksJ16_append_3_1 2 rfl rfl)
theorem dJ16_append_3_27 : decode cJ16_append_3 27 = .ok (.getfield 15, 3) := dk_180 0 15 (dk_at dksJ16_append_3_1 3 rfl rfl)
theorem dJ16_append_3_30 : decode cJ16_append_3 30 = .ok (.invokestatic 248, 3) := dk_184 0 248 (dk_at dksJ16_append_3_1 6 rfl rfl)
theorem dJ16_append_3_33 : decode cJ16_append_3 33 = .ok (.pop, 1) := dk_87 (dk_at dksJ16_append_3_1 9 rfl rfl)
theorem dJ16_append_3_34 : decode cJ16_append_3 34 = .ok (.goto 14, 3) := dk_167 0 14 (dk_at dksJ16_append_3_1 10 rfl rfl)
theorem dJ16_append_3_37 : decode cJ16_append_3 37 = .ok (.iload_n 1, 1) := dk_27 (dk_at dksJ16_append_3_1 13 rfl rfl)
theorem dJ16_append_3_38 : decode cJ16_append_3 38 = .ok (.iload_n 2, 1) := dk_28 (dk_at dksJ16_append_3_1 14 rfl rfl)
theorem dJ16_append_3_39 : decode cJ16_append_3 39 = .ok (.iload_n 3, 1) := dk_29 (dk_at dksJ16_append_3_1 15 rfl rfl)
theorem dJ16_append_3_40 : decode cJ16_append_3 40 = .ok (.aload_n 0, 1) := dk_42 (dk_at dksJ16_append_3_1 16 rfl rfl)
theorem dJ16_append_3_41 : decode cJ16_append_3 41 = .ok (.getfield 15, 3) := dk_180 0 15 (dk_at dksJ16_append_3_1 17 rfl rfl)
theorem dJ16_append_3_44 : decode cJ16_append_3 44 = .ok (.invokestatic 251, 3) := dk_184 0 251 (dk_at dksJ16_append_3_1 20 rfl rfl)
theorem dJ16_append_3_47 : decode cJ16_append_3 47 = .ok (.pop, 1) := dk_87 (dk_at dksJ16_append_3_1 23 rfl rfl)
theorem dJ16_append_3_48 : decode cJ16_append_3 48 = .ok (.aload_n 0, 1) := dk_42 (dk_at dksJ16_append_3_2 0 rfl rfl)
theorem dJ16_append_3_49 : decode cJ16_append_3 49 = .ok (.iload_n 3, 1) := dk_29 (dk_at dksJ16_append_3_2 1 rfl rfl)
theorem dJ16_append_3_50 : decode cJ16_append_3 50 = .ok (.putfield 79, 3) := dk_181 0 79 (dk_at dksJ16_append_3_2 2 rfl rfl)
theorem dJ16_append_3_53 : decode cJ16_append_3 53 = .ok (.aload_n 0, 1) := dk_42 (dk_at dksJ16_append_3_2 5 rfl rfl)
theorem dJ16_append_3_54 : decode cJ16_append_3 54 = .ok (.areturn, 1) := dk_176 (dk_at dksJ16_append_3_2 6 rfl rfl)
def dkwJ17_init_0 : List UInt8 := [42, 16, 16, 183, 0, 1, 177]
abbrev dktJ17_init_0 : List UInt8 := dkwJ17_init_0 ++ []
theorem dksJ17_init_0 : cJ17_init.data.toList.drop 0 = dktJ17_init_0 := by decide +kernel
theorem dJ17_init_0 : decode cJ17_init 0 = .ok (.aload_n 0, 1) := dk_42 (dk_at dksJ17_init_0 0 rfl rfl)
theorem dJ17_init_1 : decode cJ17_init 1 = .ok (.bipush 16, 2) := dk_16 16 (dk_at dksJ17_init_0 1 rfl rfl)
theorem dJ17_init_3 : decode cJ17_init 3 = .ok (.invokespecial 1, 3) := dk_183 0 1 (dk_at dksJ17_init_0 3 rfl rfl)
theorem dJ17_init_6 : decode cJ17_init 6 = .ok (.return_, 1) := dk_177 (dk_at dksJ17_init_0 6 rfl rfl)
def dkwJ17_append_0 : List UInt8 := [42, 27, 183, 0, 50, 87, 42, 176]
abbrev dktJ17_append_0 : List UInt8 := dkwJ17_append_0 ++ []
theorem dksJ17_append_0 : cJ17_append.data.toList.drop 0 = dktJ17_append_0 := by decide +kernel
theorem dJ17_append_0 : decode cJ17_append 0 = .ok (.aload_n 0, 1) := dk_42 (dk_at dksJ17_append_0 0 rfl rfl)
theorem dJ17_append_1 : decode cJ17_append 1 = .ok (.iload_n 1, 1) := dk_27 (dk_at dksJ17_append_0 1 rfl rfl)
theorem dJ17_append_2 : decode cJ17_append 2 = .ok (.invokespecial 50, 3) := dk_183 0 50 (dk_at dksJ17_append_0 2 rfl rfl)
theorem dJ17_append_5 : decode cJ17_append 5 = .ok (.pop, 1) := dk_87 (dk_at dksJ17_append_0 5 rfl rfl)
theorem dJ17_append_6 : decode cJ17_append 6 = .ok (.aload_n 0, 1) := dk_42 (dk_at dksJ17_append_0 6 rfl rfl)
theorem dJ17_append_7 : decode cJ17_append 7 = .ok (.areturn, 1) := dk_176 (dk_at dksJ17_append_0 7 rfl rfl)
def dkwJ17_toString_0 : List UInt8 := [187, 0, 18, 89, 42, 183, 0, 137, 176]
abbrev dktJ17_toString_0 : List UInt8 := dkwJ17_toString_0 ++ []
theorem dksJ17_toString_0 : cJ17_toString.data.toList.drop 0 = dktJ17_toString_0 := by decide +kernel
theorem dJ17_toString_0 : decode cJ17_toString 0 = .ok (.new 18, 3) := dk_187 0 18 (dk_at dksJ17_toString_0 0 rfl rfl)
theorem dJ17_toString_3 : decode cJ17_toString 3 = .ok (.dup, 1) := dk_89 (dk_at dksJ17_toString_0 3 rfl rfl)
theorem dJ17_toString_4 : decode cJ17_toString 4 = .ok (.aload_n 0, 1) := dk_42 (dk_at dksJ17_toString_0 4 rfl rfl)
theorem dJ17_toString_5 : decode cJ17_toString 5 = .ok (.invokespecial 137, 3) := dk_183 0 137 (dk_at dksJ17_toString_0 5 rfl rfl)
theorem dJ17_toString_8 : decode cJ17_toString 8 = .ok (.areturn, 1) := dk_176 (dk_at dksJ17_toString_0 8 rfl rfl)
theorem dJ17_length_0 : decode cJ17_length 0 = .ok (.aload_n 0, 1) := by decide +kernel
theorem dJ17_length_1 : decode cJ17_length 1 = .ok (.invokespecial 343, 3) := by decide +kernel
theorem dJ17_length_4 : decode cJ17_length 4 = .ok (.ireturn, 1) := by decide +kernel
def dkwJ17_append_2_0 : List UInt8 := [42, 43, 183, 0, 29, 87, 42, 176]
abbrev dktJ17_append_2_0 : List UInt8 := dkwJ17_append_2_0 ++ []
theorem dksJ17_append_2_0 : cJ17_append_2.data.toList.drop 0 = dktJ17_append_2_0 := by decide +kernel
theorem dJ17_append_2_0 : decode cJ17_append_2 0 = .ok (.aload_n 0, 1) := dk_42 (dk_at dksJ17_append_2_0 0 rfl rfl)
theorem dJ17_append_2_1 : decode cJ17_append_2 1 = .ok (.aload_n 1, 1) := dk_43 (dk_at dksJ17_append_2_0 1 rfl rfl)
theorem dJ17_append_2_2 : decode cJ17_append_2 2 = .ok (.invokespecial 29, 3) := dk_183 0 29 (dk_at dksJ17_append_2_0 2 rfl rfl)
theorem dJ17_append_2_5 : decode cJ17_append_2 5 = .ok (.pop, 1) := dk_87 (dk_at dksJ17_append_2_0 5 rfl rfl)
theorem dJ17_append_2_6 : decode cJ17_append_2 6 = .ok (.aload_n 0, 1) := dk_42 (dk_at dksJ17_append_2_0 6 rfl rfl)
theorem dJ17_append_2_7 : decode cJ17_append_2 7 = .ok (.areturn, 1) := dk_176 (dk_at dksJ17_append_2_0 7 rfl rfl)
def dkwJ17_append_3_0 : List UInt8 := [42, 27, 183, 0, 53, 87, 42, 176]
abbrev dktJ17_append_3_0 : List UInt8 := dkwJ17_append_3_0 ++ []
theorem dksJ17_append_3_0 : cJ17_append_3.data.toList.drop 0 = dktJ17_append_3_0 := by decide +kernel
theorem dJ17_append_3_0 : decode cJ17_append_3 0 = .ok (.aload_n 0, 1) := dk_42 (dk_at dksJ17_append_3_0 0 rfl rfl)
theorem dJ17_append_3_1 : decode cJ17_append_3 1 = .ok (.iload_n 1, 1) := dk_27 (dk_at dksJ17_append_3_0 1 rfl rfl)
theorem dJ17_append_3_2 : decode cJ17_append_3 2 = .ok (.invokespecial 53, 3) := dk_183 0 53 (dk_at dksJ17_append_3_0 2 rfl rfl)
theorem dJ17_append_3_5 : decode cJ17_append_3 5 = .ok (.pop, 1) := dk_87 (dk_at dksJ17_append_3_0 5 rfl rfl)
theorem dJ17_append_3_6 : decode cJ17_append_3 6 = .ok (.aload_n 0, 1) := dk_42 (dk_at dksJ17_append_3_0 6 rfl rfl)
theorem dJ17_append_3_7 : decode cJ17_append_3 7 = .ok (.areturn, 1) := dk_176 (dk_at dksJ17_append_3_0 7 rfl rfl)
def dkwJ19_newLength_1 : List UInt8 := [184, 0, 201, 172]
abbrev dktJ19_newLength_1 : List UInt8 := dkwJ19_newLength_1 ++ []
def dkwJ19_newLength_0 : List UInt8 := [26, 27, 28, 184, 0, 194, 96, 62, 3, 29, 162, 0, 11, 29, 18, 200, 163, 0, 5, 29, 172, 26, 27]
abbrev dktJ19_newLength_0 : List UInt8 := dkwJ19_newLength_0 ++ dktJ19_newLength_1
theorem dksJ19_newLength_0 : cJ19_newLength.data.toList.drop 0 = dktJ19_newLength_0 := by decide +kernel
theorem dksJ19_newLength_1 : cJ19_newLength.data.toList.drop 23 = dktJ19_newLength_1 := dk_seg dksJ19_newLength_0 23 rfl rfl
theorem dJ19_newLength_0 : decode cJ19_newLength 0 = .ok (.iload_n 0, 1) := dk_26 (dk_at dksJ19_newLength_0 0 rfl rfl)
theorem dJ19_newLength_1 : decode cJ19_newLength 1 = .ok (.iload_n 1, 1) := dk_27 (dk_at dksJ19_newLength_0 1 rfl rfl)
theorem dJ19_newLength_2 : decode cJ19_newLength 2 = .ok (.iload_n 2, 1) := dk_28 (dk_at dksJ19_newLength_0 2 rfl rfl)
theorem dJ19_newLength_3 : decode cJ19_newLength 3 = .ok (.invokestatic 194, 3) := dk_184 0 194 (dk_at dksJ19_newLength_0 3 rfl rfl)
theorem dJ19_newLength_6 : decode cJ19_newLength 6 = .ok (.iadd, 1) := dk_96 (dk_at dksJ19_newLength_0 6 rfl rfl)
theorem dJ19_newLength_7 : decode cJ19_newLength 7 = .ok (.istore_n 3, 1) := dk_62 (dk_at dksJ19_newLength_0 7 rfl rfl)
theorem dJ19_newLength_8 : decode cJ19_newLength 8 = .ok (.iconst 0, 1) := dk_3 (dk_at dksJ19_newLength_0 8 rfl rfl)
theorem dJ19_newLength_9 : decode cJ19_newLength 9 = .ok (.iload_n 3, 1) := dk_29 (dk_at dksJ19_newLength_0 9 rfl rfl)
theorem dJ19_newLength_10 : decode cJ19_newLength 10 = .ok (.if_icmp .ge 11, 3) := dk_162 0 11 (dk_at dksJ19_newLength_0 10 rfl rfl)
theorem dJ19_newLength_13 : decode cJ19_newLength 13 = .ok (.iload_n 3, 1) := dk_29 (dk_at dksJ19_newLength_0 13 rfl rfl)
theorem dJ19_newLength_14 : decode cJ19_newLength 14 = .ok (.ldc 200, 2) := dk_18 200 (dk_at dksJ19_newLength_0 14 rfl rfl)
theorem dJ19_newLength_16 : decode cJ19_newLength 16 = .ok (.if_icmp .gt 5, 3) := dk_163 0 5 (dk_at dksJ19_newLength_0 16 rfl rfl)
theorem dJ19_newLength_19 : decode cJ19_newLength 19 = .ok (.iload_n 3, 1) := dk_29 (dk_at dksJ19_newLength_0 19 rfl rfl)
theorem dJ19_newLength_20 : decode cJ19_newLength 20 = .ok (.ireturn, 1) := dk_172 (dk_at dksJ19_newLength_0 20 rfl rfl)
theorem dJ19_newLength_21 : decode cJ19_newLength 21 = .ok (.iload_n 0, 1) := dk_26 (dk_at dksJ19_newLength_0 21 rfl rfl)
theorem dJ19_newLength_22 : decode cJ19_newLength 22 = .ok (.iload_n 1, 1) := dk_27 (dk_at dksJ19_newLength_0 22 rfl rfl)
theorem dJ19_newLength_23 : decode cJ19_newLength 23 = .ok (.invokestatic 201, 3) := dk_184 0 201 (dk_at dksJ19_newLength_1 0 rfl rfl)
theorem dJ19_newLength_26 : decode cJ19_newLength 26 = .ok (.ireturn, 1) := dk_172 (dk_at dksJ19_newLength_1 3 rfl rfl)
def dkwJ19_hugeLength_2 : List UInt8 := [191, 28, 18, 200, 163, 0, 6, 18, 200, 172, 28, 172]
abbrev dktJ19_hugeLength_2 : List UInt8 := dkwJ19_hugeLength_2 ++ []
def dkwJ19_hugeLength_1 : List UInt8 := [26, 182, 0, 98, 18, 208, 182, 0, 94, 27, 182, 0, 98, 18, 210, 182, 0, 94, 182, 0, 101, 183, 0, 212]
abbrev dktJ19_hugeLength_1 : List UInt8 := dkwJ19_hugeLength_1 ++ dktJ19_hugeLength_2
def dkwJ19_hugeLength_0 : List UInt8 := [26, 27, 96, 61, 28, 156, 0, 44, 187, 0, 204, 89, 187, 0, 89, 89, 183, 0, 91, 18, 206, 182, 0, 94]
abbrev dktJ19_hugeLength_0 : List UInt8 := dkwJ19_hugeLength_0 ++ dktJ19_hugeLength_1
theorem dksJ19_hugeLength_0 : cJ19_hugeLength.data.toList.drop 0 = dktJ19_hugeLength_0 := by decide +kernel
theorem dksJ19_hugeLength_1 : cJ19_hugeLength.data.toList.drop 24 = dktJ19_hugeLength_1 := dk_seg dksJ19_hugeLength_0 24 rfl rfl
theorem dksJ19_hugeLength_2 : cJ19_hugeLength.data.toList.drop 48 = dktJ19_hugeLength_2 := dk_seg dksJ19_hugeLength_1 24 rfl rfl
theorem dJ19_hugeLength_0 : decode cJ19_hugeLength 0 = .ok (.iload_n 0, 1) := dk_26 (dk_at dksJ19_hugeLength_0 0 rfl rfl)
theorem dJ19_hugeLength_1 : decode cJ19_hugeLength 1 = .ok (.iload_n 1, 1) := dk_27 (dk_at dksJ19_hugeLength_0 1 rfl rfl)
theorem dJ19_hugeLength_2 : decode cJ19_hugeLength 2 = .ok (.iadd, 1) := dk_96 (dk_at dksJ19_hugeLength_0 2 rfl rfl)
theorem dJ19_hugeLength_3 : decode cJ19_hugeLength 3 = .ok (.istore_n 2, 1) := dk_61 (dk_at dksJ19_hugeLength_0 3 rfl rfl)
theorem dJ19_hugeLength_4 : decode cJ19_hugeLength 4 = .ok (.iload_n 2, 1) := dk_28 (dk_at dksJ19_hugeLength_0 4 rfl rfl)
theorem dJ19_hugeLength_5 : decode cJ19_hugeLength 5 = .ok (.ifCond .ge 44, 3) := dk_156 0 44 (dk_at dksJ19_hugeLength_0 5 rfl rfl)
theorem dJ19_hugeLength_8 : decode cJ19_hugeLength 8 = .ok (.new 204, 3) := dk_187 0 204 (dk_at dksJ19_hugeLength_0 8 rfl rfl)
theorem dJ19_hugeLength_11 : decode cJ19_hugeLength 11 = .ok (.dup, 1) := dk_89 (dk_at dksJ19_hugeLength_0 11 rfl rfl)
theorem dJ19_hugeLength_12 : decode cJ19_hugeLength 12 = .ok (.new 89, 3) := dk_187 0 89 (dk_at dksJ19_hugeLength_0 12 rfl rfl)
theorem dJ19_hugeLength_15 : decode cJ19_hugeLength 15 = .ok (.dup, 1) := dk_89 (dk_at dksJ19_hugeLength_0 15 rfl rfl)
theorem dJ19_hugeLength_16 : decode cJ19_hugeLength 16 = .ok (.invokespecial 91, 3) := dk_183 0 91 (dk_at dksJ19_hugeLength_0 16 rfl rfl)
theorem dJ19_hugeLength_19 : decode cJ19_hugeLength 19 = .ok (.ldc 206, 2) := dk_18 206 (dk_at dksJ19_hugeLength_0 19 rfl rfl)
theorem dJ19_hugeLength_21 : decode cJ19_hugeLength 21 = .ok (.invokevirtual 94, 3) := dk_182 0 94 (dk_at dksJ19_hugeLength_0 21 rfl rfl)
theorem dJ19_hugeLength_24 : decode cJ19_hugeLength 24 = .ok (.iload_n 0, 1) := dk_26 (dk_at dksJ19_hugeLength_1 0 rfl rfl)
theorem dJ19_hugeLength_25 : decode cJ19_hugeLength 25 = .ok (.invokevirtual 98, 3) := dk_182 0 98 (dk_at dksJ19_hugeLength_1 1 rfl rfl)
theorem dJ19_hugeLength_28 : decode cJ19_hugeLength 28 = .ok (.ldc 208, 2) := dk_18 208 (dk_at dksJ19_hugeLength_1 4 rfl rfl)
theorem dJ19_hugeLength_30 : decode cJ19_hugeLength 30 = .ok (.invokevirtual 94, 3) := dk_182 0 94 (dk_at dksJ19_hugeLength_1 6 rfl rfl)
theorem dJ19_hugeLength_33 : decode cJ19_hugeLength 33 = .ok (.iload_n 1, 1) := dk_27 (dk_at dksJ19_hugeLength_1 9 rfl rfl)
theorem dJ19_hugeLength_34 : decode cJ19_hugeLength 34 = .ok (.invokevirtual 98, 3) := dk_182 0 98 (dk_at dksJ19_hugeLength_1 10 rfl rfl)
theorem dJ19_hugeLength_37 : decode cJ19_hugeLength 37 = .ok (.ldc 210, 2) := dk_18 210 (dk_at dksJ19_hugeLength_1 13 rfl rfl)
theorem dJ19_hugeLength_39 : decode cJ19_hugeLength 39 = .ok (.invokevirtual 94, 3) := dk_182 0 94 (dk_at dksJ19_hugeLength_1 15 rfl rfl)
theorem dJ19_hugeLength_42 : decode cJ19_hugeLength 42 = .ok (.invokevirtual 101, 3) := dk_182 0 101 (dk_at dksJ19_hugeLength_1 18 rfl rfl)
theorem dJ19_hugeLength_45 : decode cJ19_hugeLength 45 = .ok (.invokespecial 212, 3) := dk_183 0 212 (dk_at dksJ19_hugeLength_1 21 rfl rfl)
theorem dJ19_hugeLength_48 : decode cJ19_hugeLength 48 = .ok (.athrow, 1) := dk_191 (dk_at dksJ19_hugeLength_2 0 rfl rfl)
theorem dJ19_hugeLength_49 : decode cJ19_hugeLength 49 = .ok (.iload_n 2, 1) := dk_28 (dk_at dksJ19_hugeLength_2 1 rfl rfl)
theorem dJ19_hugeLength_50 : decode cJ19_hugeLength 50 = .ok (.ldc 200, 2) := dk_18 200 (dk_at dksJ19_hugeLength_2 2 rfl rfl)
theorem dJ19_hugeLength_52 : decode cJ19_hugeLength 52 = .ok (.if_icmp .gt 6, 3) := dk_163 0 6 (dk_at dksJ19_hugeLength_2 4 rfl rfl)
theorem dJ19_hugeLength_55 : decode cJ19_hugeLength 55 = .ok (.ldc 200, 2) := dk_18 200 (dk_at dksJ19_hugeLength_2 7 rfl rfl)
theorem dJ19_hugeLength_57 : decode cJ19_hugeLength 57 = .ok (.ireturn, 1) := dk_172 (dk_at dksJ19_hugeLength_2 9 rfl rfl)
theorem dJ19_hugeLength_58 : decode cJ19_hugeLength 58 = .ok (.iload_n 2, 1) := dk_28 (dk_at dksJ19_hugeLength_2 10 rfl rfl)
theorem dJ19_hugeLength_59 : decode cJ19_hugeLength 59 = .ok (.ireturn, 1) := dk_172 (dk_at dksJ19_hugeLength_2 11 rfl rfl)
def dkwJ20_max_0 : List UInt8 := [26, 27, 161, 0, 7, 26, 167, 0, 4, 27, 172]
abbrev dktJ20_max_0 : List UInt8 := dkwJ20_max_0 ++ []
theorem dksJ20_max_0 : cJ20_max.data.toList.drop 0 = dktJ20_max_0 := by decide +kernel
theorem dJ20_max_0 : decode cJ20_max 0 = .ok (.iload_n 0, 1) := dk_26 (dk_at dksJ20_max_0 0 rfl rfl)
theorem dJ20_max_1 : decode cJ20_max 1 = .ok (.iload_n 1, 1) := dk_27 (dk_at dksJ20_max_0 1 rfl rfl)
theorem dJ20_max_2 : decode cJ20_max 2 = .ok (.if_icmp .lt 7, 3) := dk_161 0 7 (dk_at dksJ20_max_0 2 rfl rfl)
theorem dJ20_max_5 : decode cJ20_max 5 = .ok (.iload_n 0, 1) := dk_26 (dk_at dksJ20_max_0 5 rfl rfl)
theorem dJ20_max_6 : decode cJ20_max 6 = .ok (.goto 4, 3) := dk_167 0 4 (dk_at dksJ20_max_0 6 rfl rfl)
theorem dJ20_max_9 : decode cJ20_max 9 = .ok (.iload_n 1, 1) := dk_27 (dk_at dksJ20_max_0 9 rfl rfl)
theorem dJ20_max_10 : decode cJ20_max 10 = .ok (.ireturn, 1) := dk_172 (dk_at dksJ20_max_0 10 rfl rfl)
def dkwJ20_min_0 : List UInt8 := [26, 27, 163, 0, 7, 26, 167, 0, 4, 27, 172]
abbrev dktJ20_min_0 : List UInt8 := dkwJ20_min_0 ++ []
theorem dksJ20_min_0 : cJ20_min.data.toList.drop 0 = dktJ20_min_0 := by decide +kernel
theorem dJ20_min_0 : decode cJ20_min 0 = .ok (.iload_n 0, 1) := dk_26 (dk_at dksJ20_min_0 0 rfl rfl)
theorem dJ20_min_1 : decode cJ20_min 1 = .ok (.iload_n 1, 1) := dk_27 (dk_at dksJ20_min_0 1 rfl rfl)
theorem dJ20_min_2 : decode cJ20_min 2 = .ok (.if_icmp .gt 7, 3) := dk_163 0 7 (dk_at dksJ20_min_0 2 rfl rfl)
theorem dJ20_min_5 : decode cJ20_min 5 = .ok (.iload_n 0, 1) := dk_26 (dk_at dksJ20_min_0 5 rfl rfl)
theorem dJ20_min_6 : decode cJ20_min 6 = .ok (.goto 4, 3) := dk_167 0 4 (dk_at dksJ20_min_0 6 rfl rfl)
theorem dJ20_min_9 : decode cJ20_min 9 = .ok (.iload_n 1, 1) := dk_27 (dk_at dksJ20_min_0 9 rfl rfl)
theorem dJ20_min_10 : decode cJ20_min 10 = .ok (.ireturn, 1) := dk_172 (dk_at dksJ20_min_0 10 rfl rfl)
def dkwJ21_canEncode_0 : List UInt8 := [26, 17, 0, 255, 163, 0, 7, 4, 167, 0, 4, 3, 172]
abbrev dktJ21_canEncode_0 : List UInt8 := dkwJ21_canEncode_0 ++ []
theorem dksJ21_canEncode_0 : cJ21_canEncode.data.toList.drop 0 = dktJ21_canEncode_0 := by decide +kernel
theorem dJ21_canEncode_0 : decode cJ21_canEncode 0 = .ok (.iload_n 0, 1) := dk_26 (dk_at dksJ21_canEncode_0 0 rfl rfl)
theorem dJ21_canEncode_1 : decode cJ21_canEncode 1 = .ok (.sipush 255, 3) := dk_17 0 255 (dk_at dksJ21_canEncode_0 1 rfl rfl)
theorem dJ21_canEncode_4 : decode cJ21_canEncode 4 = .ok (.if_icmp .gt 7, 3) := dk_163 0 7 (dk_at dksJ21_canEncode_0 4 rfl rfl)
theorem dJ21_canEncode_7 : decode cJ21_canEncode 7 = .ok (.iconst 1, 1) := dk_4 (dk_at dksJ21_canEncode_0 7 rfl rfl)
theorem dJ21_canEncode_8 : decode cJ21_canEncode 8 = .ok (.goto 4, 3) := dk_167 0 4 (dk_at dksJ21_canEncode_0 8 rfl rfl)
theorem dJ21_canEncode_11 : decode cJ21_canEncode 11 = .ok (.iconst 0, 1) := dk_3 (dk_at dksJ21_canEncode_0 11 rfl rfl)
theorem dJ21_canEncode_12 : decode cJ21_canEncode 12 = .ok (.ireturn, 1) := dk_172 (dk_at dksJ21_canEncode_0 12 rfl rfl)
def dkwJ21_inflate_0 : List UInt8 := [42, 27, 44, 29, 21, 4, 184, 0, 240, 177]
abbrev dktJ21_inflate_0 : List UInt8 := dkwJ21_inflate_0 ++ []
theorem dksJ21_inflate_0 : cJ21_inflate.data.toList.drop 0 = dktJ21_inflate_0 := by decide +kernel
theorem dJ21_inflate_0 : decode cJ21_inflate 0 = .ok (.aload_n 0, 1) := dk_42 (dk_at dksJ21_inflate_0 0 rfl rfl)
theorem dJ21_inflate_1 : decode cJ21_inflate 1 = .ok (.iload_n 1, 1) := dk_27 (dk_at dksJ21_inflate_0 1 rfl rfl)
theorem dJ21_inflate_2 : decode cJ21_inflate 2 = .ok (.aload_n 2, 1) := dk_44 (dk_at dksJ21_inflate_0 2 rfl rfl)
theorem dJ21_inflate_3 : decode cJ21_inflate 3 = .ok (.iload_n 3, 1) := dk_29 (dk_at dksJ21_inflate_0 3 rfl rfl)
theorem dJ21_inflate_4 : decode cJ21_inflate 4 = .ok (.iload 4, 2) := dk_21 4 (dk_at dksJ21_inflate_0 4 rfl rfl)
theorem dJ21_inflate_6 : decode cJ21_inflate 6 = .ok (.invokestatic 240, 3) := dk_184 0 240 (dk_at dksJ21_inflate_0 6 rfl rfl)
theorem dJ21_inflate_9 : decode cJ21_inflate 9 = .ok (.return_, 1) := dk_177 (dk_at dksJ21_inflate_0 9 rfl rfl)
def dkwJ21_equals_1 : List UInt8 := [3, 172, 132, 2, 1, 167, 255, 236, 4, 172, 3, 172]
abbrev dktJ21_equals_1 : List UInt8 := dkwJ21_equals_1 ++ []
def dkwJ21_equals_0 : List UInt8 := [42, 190, 43, 190, 160, 0, 30, 3, 61, 28, 42, 190, 162, 0, 20, 42, 28, 51, 43, 28, 51, 159, 0, 5]
abbrev dktJ21_equals_0 : List UInt8 := dkwJ21_equals_0 ++ dktJ21_equals_1
theorem dksJ21_equals_0 : cJ21_equals.data.toList.drop 0 = dktJ21_equals_0 := by decide +kernel
theorem dksJ21_equals_1 : cJ21_equals.data.toList.drop 24 = dktJ21_equals_1 := dk_seg dksJ21_equals_0 24 rfl rfl
theorem dJ21_equals_0 : decode cJ21_equals 0 = .ok (.aload_n 0, 1) := dk_42 (dk_at dksJ21_equals_0 0 rfl rfl)
theorem dJ21_equals_1 : decode cJ21_equals 1 = .ok (.arraylength, 1) := dk_190 (dk_at dksJ21_equals_0 1 rfl rfl)
theorem dJ21_equals_2 : decode cJ21_equals 2 = .ok (.aload_n 1, 1) := dk_43 (dk_at dksJ21_equals_0 2 rfl rfl)
theorem dJ21_equals_3 : decode cJ21_equals 3 = .ok (.arraylength, 1) := dk_190 (dk_at dksJ21_equals_0 3 rfl rfl)
theorem dJ21_equals_4 : decode cJ21_equals 4 = .ok (.if_icmp .ne 30, 3) := dk_160 0 30 (dk_at dksJ21_equals_0 4 rfl rfl)
theorem dJ21_equals_7 : decode cJ21_equals 7 = .ok (.iconst 0, 1) := dk_3 (dk_at dksJ21_equals_0 7 rfl rfl)
theorem dJ21_equals_8 : decode cJ21_equals 8 = .ok (.istore_n 2, 1) := dk_61 (dk_at dksJ21_equals_0 8 rfl rfl)
theorem dJ21_equals_9 : decode cJ21_equals 9 = .ok (.iload_n 2, 1) := dk_28 (dk_at dksJ21_equals_0 9 rfl rfl)
theorem dJ21_equals_10 : decode cJ21_equals 10 = .ok (.aload_n 0, 1) := dk_42 (dk_at dksJ21_equals_0 10 rfl rfl)
theorem dJ21_equals_11 : decode cJ21_equals 11 = .ok (.arraylength, 1) := dk_190 (dk_at dksJ21_equals_0 11 rfl rfl)
theorem dJ21_equals_12 : decode cJ21_equals 12 = .ok (.if_icmp .ge 20, 3) := dk_162 0 20 (dk_at dksJ21_equals_0 12 rfl rfl)
theorem dJ21_equals_15 : decode cJ21_equals 15 = .ok (.aload_n 0, 1) := dk_42 (dk_at dksJ21_equals_0 15 rfl rfl)
theorem dJ21_equals_16 : decode cJ21_equals 16 = .ok (.iload_n 2, 1) := dk_28 (dk_at dksJ21_equals_0 16 rfl rfl)
theorem dJ21_equals_17 : decode cJ21_equals 17 = .ok (.baload, 1) := dk_51 (dk_at dksJ21_equals_0 17 rfl rfl)
theorem dJ21_equals_18 : decode cJ21_equals 18 = .ok (.aload_n 1, 1) := dk_43 (dk_at dksJ21_equals_0 18 rfl rfl)
theorem dJ21_equals_19 : decode cJ21_equals 19 = .ok (.iload_n 2, 1) := dk_28 (dk_at dksJ21_equals_0 19 rfl rfl)
theorem dJ21_equals_20 : decode cJ21_equals 20 = .ok (.baload, 1) := dk_51 (dk_at dksJ21_equals_0 20 rfl rfl)
theorem dJ21_equals_21 : decode cJ21_equals 21 = .ok (.if_icmp .eq 5, 3) := dk_159 0 5 (dk_at dksJ21_equals_0 21 rfl rfl)
theorem dJ21_equals_24 : decode cJ21_equals 24 = .ok (.iconst 0, 1) := dk_3 (dk_at dksJ21_equals_1 0 rfl rfl)
theorem dJ21_equals_25 : decode cJ21_equals 25 = .ok (.ireturn, 1) := dk_172 (dk_at dksJ21_equals_1 1 rfl rfl)
theorem dJ21_equals_26 : decode cJ21_equals 26 = .ok (.iinc 2 1, 3) := dk_132 2 1 (dk_at dksJ21_equals_1 2 rfl rfl)
theorem dJ21_equals_29 : decode cJ21_equals 29 = .ok (.goto (-20), 3) := dk_167 255 236 (dk_at dksJ21_equals_1 5 rfl rfl)
theorem dJ21_equals_32 : decode cJ21_equals 32 = .ok (.iconst 1, 1) := dk_4 (dk_at dksJ21_equals_1 8 rfl rfl)
theorem dJ21_equals_33 : decode cJ21_equals 33 = .ok (.ireturn, 1) := dk_172 (dk_at dksJ21_equals_1 9 rfl rfl)
theorem dJ21_equals_34 : decode cJ21_equals 34 = .ok (.iconst 0, 1) := dk_3 (dk_at dksJ21_equals_1 10 rfl rfl)
theorem dJ21_equals_35 : decode cJ21_equals 35 = .ok (.ireturn, 1) := dk_172 (dk_at dksJ21_equals_1 11 rfl rfl)
def dkwJ22_checkFromIndexSize_1 : List UInt8 := [172]
abbrev dktJ22_checkFromIndexSize_1 : List UInt8 := dkwJ22_checkFromIndexSize_1 ++ []
def dkwJ22_checkFromIndexSize_0 : List UInt8 := [28, 26, 128, 27, 128, 155, 0, 10, 27, 28, 26, 100, 164, 0, 11, 45, 26, 27, 28, 184, 0, 103, 191, 26]
abbrev dktJ22_checkFromIndexSize_0 : List UInt8 := dkwJ22_checkFromIndexSize_0 ++ dktJ22_checkFromIndexSize_1
theorem dksJ22_checkFromIndexSize_0 : cJ22_checkFromIndexSize.data.toList.drop 0 = dktJ22_checkFromIndexSize_0 := by decide +kernel
theorem dksJ22_checkFromIndexSize_1 : cJ22_checkFromIndexSize.data.toList.drop 24 = dktJ22_checkFromIndexSize_1 := dk_seg dksJ22_checkFromIndexSize_0 24 rfl rfl
theorem dJ22_checkFromIndexSize_0 : decode cJ22_checkFromIndexSize 0 = .ok (.iload_n 2, 1) := dk_28 (dk_at dksJ22_checkFromIndexSize_0 0 rfl rfl)
theorem dJ22_checkFromIndexSize_1 : decode cJ22_checkFromIndexSize 1 = .ok (.iload_n 0, 1) := dk_26 (dk_at dksJ22_checkFromIndexSize_0 1 rfl rfl)
theorem dJ22_checkFromIndexSize_2 : decode cJ22_checkFromIndexSize 2 = .ok (.ior, 1) := dk_128 (dk_at dksJ22_checkFromIndexSize_0 2 rfl rfl)
theorem dJ22_checkFromIndexSize_3 : decode cJ22_checkFromIndexSize 3 = .ok (.iload_n 1, 1) := dk_27 (dk_at dksJ22_checkFromIndexSize_0 3 rfl rfl)
theorem dJ22_checkFromIndexSize_4 : decode cJ22_checkFromIndexSize 4 = .ok (.ior, 1) := dk_128 (dk_at dksJ22_checkFromIndexSize_0 4 rfl rfl)
theorem dJ22_checkFromIndexSize_5 : decode cJ22_checkFromIndexSize 5 = .ok (.ifCond .lt 10, 3) := dk_155 0 10 (dk_at dksJ22_checkFromIndexSize_0 5 rfl rfl)
theorem dJ22_checkFromIndexSize_8 : decode cJ22_checkFromIndexSize 8 = .ok (.iload_n 1, 1) := dk_27 (dk_at dksJ22_checkFromIndexSize_0 8 rfl rfl)
theorem dJ22_checkFromIndexSize_9 : decode cJ22_checkFromIndexSize 9 = .ok (.iload_n 2, 1) := dk_28 (dk_at dksJ22_checkFromIndexSize_0 9 rfl rfl)
theorem dJ22_checkFromIndexSize_10 : decode cJ22_checkFromIndexSize 10 = .ok (.iload_n 0, 1) := dk_26 (dk_at dksJ22_checkFromIndexSize_0 10 rfl rfl)
theorem dJ22_checkFromIndexSize_11 : decode cJ22_checkFromIndexSize 11 = .ok (.isub, 1) := dk_100 (dk_at dksJ22_checkFromIndexSize_0 11 rfl rfl)
theorem dJ22_checkFromIndexSize_12 : decode cJ22_checkFromIndexSize 12 = .ok (.if_icmp .le 11, 3) := dk_164 0 11 (dk_at dksJ22_checkFromIndexSize_0 12 rfl rfl)
theorem dJ22_checkFromIndexSize_15 : decode cJ22_checkFromIndexSize 15 = .ok (.aload_n 3, 1) := dk_45 (dk_at dksJ22_checkFromIndexSize_0 15 rfl rfl)
theorem dJ22_checkFromIndexSize_16 : decode cJ22_checkFromIndexSize 16 = .ok (.iload_n 0, 1) := dk_26 (dk_at dksJ22_checkFromIndexSize_0 16 rfl rfl)
theorem dJ22_checkFromIndexSize_17 : decode cJ22_checkFromIndexSize 17 = .ok (.iload_n 1, 1) := dk_27 (dk_at dksJ22_checkFromIndexSize_0 17 rfl rfl)
theorem dJ22_checkFromIndexSize_18 : decode cJ22_checkFromIndexSize 18 = .ok (.iload_n 2, 1) := dk_28 (dk_at dksJ22_checkFromIndexSize_0 18 rfl rfl)
theorem dJ22_checkFromIndexSize_19 : decode cJ22_checkFromIndexSize 19 = .ok (.invokestatic 103, 3) := dk_184 0 103 (dk_at dksJ22_checkFromIndexSize_0 19 rfl rfl)
theorem dJ22_checkFromIndexSize_22 : decode cJ22_checkFromIndexSize 22 = .ok (.athrow, 1) := dk_191 (dk_at dksJ22_checkFromIndexSize_0 22 rfl rfl)
theorem dJ22_checkFromIndexSize_23 : decode cJ22_checkFromIndexSize 23 = .ok (.iload_n 0, 1) := dk_26 (dk_at dksJ22_checkFromIndexSize_0 23 rfl rfl)
theorem dJ22_checkFromIndexSize_24 : decode cJ22_checkFromIndexSize 24 = .ok (.ireturn, 1) := dk_172 (dk_at dksJ22_checkFromIndexSize_1 0 rfl rfl)
def dkwJ22_checkIndex_0 : List UInt8 := [26, 155, 0, 8, 26, 27, 161, 0, 10, 44, 26, 27, 184, 0, 95, 191, 26, 172]
abbrev dktJ22_checkIndex_0 : List UInt8 := dkwJ22_checkIndex_0 ++ []
theorem dksJ22_checkIndex_0 : cJ22_checkIndex.data.toList.drop 0 = dktJ22_checkIndex_0 := by decide +kernel
theorem dJ22_checkIndex_0 : decode cJ22_checkIndex 0 = .ok (.iload_n 0, 1) := dk_26 (dk_at dksJ22_checkIndex_0 0 rfl rfl)
theorem dJ22_checkIndex_1 : decode cJ22_checkIndex 1 = .ok (.ifCond .lt 8, 3) := dk_155 0 8 (dk_at dksJ22_checkIndex_0 1 rfl rfl)
theorem dJ22_checkIndex_4 : decode cJ22_checkIndex 4 = .ok (.iload_n 0, 1) := dk_26 (dk_at dksJ22_checkIndex_0 4 rfl rfl)
theorem dJ22_checkIndex_5 : decode cJ22_checkIndex 5 = .ok (.iload_n 1, 1) := dk_27 (dk_at dksJ22_checkIndex_0 5 rfl rfl)
theorem dJ22_checkIndex_6 : decode cJ22_checkIndex 6 = .ok (.if_icmp .lt 10, 3) := dk_161 0 10 (dk_at dksJ22_checkIndex_0 6 rfl rfl)
theorem dJ22_checkIndex_9 : decode cJ22_checkIndex 9 = .ok (.aload_n 2, 1) := dk_44 (dk_at dksJ22_checkIndex_0 9 rfl rfl)
theorem dJ22_checkIndex_10 : decode cJ22_checkIndex 10 = .ok (.iload_n 0, 1) := dk_26 (dk_at dksJ22_checkIndex_0 10 rfl rfl)
theorem dJ22_checkIndex_11 : decode cJ22_checkIndex 11 = .ok (.iload_n 1, 1) := dk_27 (dk_at dksJ22_checkIndex_0 11 rfl rfl)
theorem dJ22_checkIndex_12 : decode cJ22_checkIndex 12 = .ok (.invokestatic 95, 3) := dk_184 0 95 (dk_at dksJ22_checkIndex_0 12 rfl rfl)
theorem dJ22_checkIndex_15 : decode cJ22_checkIndex 15 = .ok (.athrow, 1) := dk_191 (dk_at dksJ22_checkIndex_0 15 rfl rfl)
theorem dJ22_checkIndex_16 : decode cJ22_checkIndex 16 = .ok (.iload_n 0, 1) := dk_26 (dk_at dksJ22_checkIndex_0 16 rfl rfl)
theorem dJ22_checkIndex_17 : decode cJ22_checkIndex 17 = .ok (.ireturn, 1) := dk_172 (dk_at dksJ22_checkIndex_0 17 rfl rfl)
def dkwJ22_checkFromToIndex_0 : List UInt8 := [26, 155, 0, 13, 26, 27, 163, 0, 8, 27, 28, 164, 0, 11, 45, 26, 27, 28, 184, 0, 99, 191, 26, 172]
abbrev dktJ22_checkFromToIndex_0 : List UInt8 := dkwJ22_checkFromToIndex_0 ++ []
theorem dksJ22_checkFromToIndex_0 : cJ22_checkFromToIndex.data.toList.drop 0 = dktJ22_checkFromToIndex_0 := by decide +kernel
theorem dJ22_checkFromToIndex_0 : decode cJ22_checkFromToIndex 0 = .ok (.iload_n 0, 1) := dk_26 (dk_at dksJ22_checkFromToIndex_0 0 rfl rfl)
theorem dJ22_checkFromToIndex_1 : decode cJ22_checkFromToIndex 1 = .ok (.ifCond .lt 13, 3) := dk_155 0 13 (dk_at dksJ22_checkFromToIndex_0 1 rfl rfl)
theorem dJ22_checkFromToIndex_4 : decode cJ22_checkFromToIndex 4 = .ok (.iload_n 0, 1) := dk_26 (dk_at dksJ22_checkFromToIndex_0 4 rfl rfl)
theorem dJ22_checkFromToIndex_5 : decode cJ22_checkFromToIndex 5 = .ok (.iload_n 1, 1) := dk_27 (dk_at dksJ22_checkFromToIndex_0 5 rfl rfl)
theorem dJ22_checkFromToIndex_6 : decode cJ22_checkFromToIndex 6 = .ok (.if_icmp .gt 8, 3) := dk_163 0 8 (dk_at dksJ22_checkFromToIndex_0 6 rfl rfl)
theorem dJ22_checkFromToIndex_9 : decode cJ22_checkFromToIndex 9 = .ok (.iload_n 1, 1) := dk_27 (dk_at dksJ22_checkFromToIndex_0 9 rfl rfl)
theorem dJ22_checkFromToIndex_10 : decode cJ22_checkFromToIndex 10 = .ok (.iload_n 2, 1) := dk_28 (dk_at dksJ22_checkFromToIndex_0 10 rfl rfl)
theorem dJ22_checkFromToIndex_11 : decode cJ22_checkFromToIndex 11 = .ok (.if_icmp .le 11, 3) := dk_164 0 11 (dk_at dksJ22_checkFromToIndex_0 11 rfl rfl)
theorem dJ22_checkFromToIndex_14 : decode cJ22_checkFromToIndex 14 = .ok (.aload_n 3, 1) := dk_45 (dk_at dksJ22_checkFromToIndex_0 14 rfl rfl)
theorem dJ22_checkFromToIndex_15 : decode cJ22_checkFromToIndex 15 = .ok (.iload_n 0, 1) := dk_26 (dk_at dksJ22_checkFromToIndex_0 15 rfl rfl)
theorem dJ22_checkFromToIndex_16 : decode cJ22_checkFromToIndex 16 = .ok (.iload_n 1, 1) := dk_27 (dk_at dksJ22_checkFromToIndex_0 16 rfl rfl)
theorem dJ22_checkFromToIndex_17 : decode cJ22_checkFromToIndex 17 = .ok (.iload_n 2, 1) := dk_28 (dk_at dksJ22_checkFromToIndex_0 17 rfl rfl)
theorem dJ22_checkFromToIndex_18 : decode cJ22_checkFromToIndex 18 = .ok (.invokestatic 99, 3) := dk_184 0 99 (dk_at dksJ22_checkFromToIndex_0 18 rfl rfl)
theorem dJ22_checkFromToIndex_21 : decode cJ22_checkFromToIndex 21 = .ok (.athrow, 1) := dk_191 (dk_at dksJ22_checkFromToIndex_0 21 rfl rfl)
theorem dJ22_checkFromToIndex_22 : decode cJ22_checkFromToIndex 22 = .ok (.iload_n 0, 1) := dk_26 (dk_at dksJ22_checkFromToIndex_0 22 rfl rfl)
theorem dJ22_checkFromToIndex_23 : decode cJ22_checkFromToIndex 23 = .ok (.ireturn, 1) := dk_172 (dk_at dksJ22_checkFromToIndex_0 23 rfl rfl)
def dkwJ23_checkIndex_0 : List UInt8 := [26, 27, 1, 184, 0, 105, 172]
abbrev dktJ23_checkIndex_0 : List UInt8 := dkwJ23_checkIndex_0 ++ []
theorem dksJ23_checkIndex_0 : cJ23_checkIndex.data.toList.drop 0 = dktJ23_checkIndex_0 := by decide +kernel
theorem dJ23_checkIndex_0 : decode cJ23_checkIndex 0 = .ok (.iload_n 0, 1) := dk_26 (dk_at dksJ23_checkIndex_0 0 rfl rfl)
theorem dJ23_checkIndex_1 : decode cJ23_checkIndex 1 = .ok (.iload_n 1, 1) := dk_27 (dk_at dksJ23_checkIndex_0 1 rfl rfl)
theorem dJ23_checkIndex_2 : decode cJ23_checkIndex 2 = .ok (.aconst_null, 1) := dk_1 (dk_at dksJ23_checkIndex_0 2 rfl rfl)
theorem dJ23_checkIndex_3 : decode cJ23_checkIndex 3 = .ok (.invokestatic 105, 3) := dk_184 0 105 (dk_at dksJ23_checkIndex_0 3 rfl rfl)
theorem dJ23_checkIndex_6 : decode cJ23_checkIndex 6 = .ok (.ireturn, 1) := dk_172 (dk_at dksJ23_checkIndex_0 6 rfl rfl)
def dkwJ23_requireNonNull_0 : List UInt8 := [42, 199, 0, 12, 187, 0, 84, 89, 43, 183, 0, 87, 191, 42, 176]
abbrev dktJ23_requireNonNull_0 : List UInt8 := dkwJ23_requireNonNull_0 ++ []
theorem dksJ23_requireNonNull_0 : cJ23_requireNonNull.data.toList.drop 0 = dktJ23_requireNonNull_0 := by decide +kernel
theorem dJ23_requireNonNull_0 : decode cJ23_requireNonNull 0 = .ok (.aload_n 0, 1) := dk_42 (dk_at dksJ23_requireNonNull_0 0 rfl rfl)
theorem dJ23_requireNonNull_1 : decode cJ23_requireNonNull 1 = .ok (.ifnonnull 12, 3) := dk_199 0 12 (dk_at dksJ23_requireNonNull_0 1 rfl rfl)
theorem dJ23_requireNonNull_4 : decode cJ23_requireNonNull 4 = .ok (.new 84, 3) := dk_187 0 84 (dk_at dksJ23_requireNonNull_0 4 rfl rfl)
theorem dJ23_requireNonNull_7 : decode cJ23_requireNonNull 7 = .ok (.dup, 1) := dk_89 (dk_at dksJ23_requireNonNull_0 7 rfl rfl)
theorem dJ23_requireNonNull_8 : decode cJ23_requireNonNull 8 = .ok (.aload_n 1, 1) := dk_43 (dk_at dksJ23_requireNonNull_0 8 rfl rfl)
theorem dJ23_requireNonNull_9 : decode cJ23_requireNonNull 9 = .ok (.invokespecial 87, 3) := dk_183 0 87 (dk_at dksJ23_requireNonNull_0 9 rfl rfl)
theorem dJ23_requireNonNull_12 : decode cJ23_requireNonNull 12 = .ok (.athrow, 1) := dk_191 (dk_at dksJ23_requireNonNull_0 12 rfl rfl)
theorem dJ23_requireNonNull_13 : decode cJ23_requireNonNull 13 = .ok (.aload_n 0, 1) := dk_42 (dk_at dksJ23_requireNonNull_0 13 rfl rfl)
theorem dJ23_requireNonNull_14 : decode cJ23_requireNonNull 14 = .ok (.areturn, 1) := dk_176 (dk_at dksJ23_requireNonNull_0 14 rfl rfl)
theorem dJ26_init_0 : decode cJ26_init 0 = .ok (.aload_n 0, 1) := by decide +kernel
theorem dJ26_init_1 : decode cJ26_init 1 = .ok (.invokespecial 1, 3) := by decide +kernel
theorem dJ26_init_4 : decode cJ26_init 4 = .ok (.return_, 1) := by decide +kernel
theorem dJ28_init_0 : decode cJ28_init 0 = .ok (.return_, 1) := by decide +kernel
def dkwJ28_equals_0 : List UInt8 := [42, 43, 166, 0, 7, 4, 167, 0, 4, 3, 172]
abbrev dktJ28_equals_0 : List UInt8 := dkwJ28_equals_0 ++ []
theorem dksJ28_equals_0 : cJ28_equals.data.toList.drop 0 = dktJ28_equals_0 := by decide +kernel
theorem dJ28_equals_0 : decode cJ28_equals 0 = .ok (.aload_n 0, 1) := dk_42 (dk_at dksJ28_equals_0 0 rfl rfl)
theorem dJ28_equals_1 : decode cJ28_equals 1 = .ok (.aload_n 1, 1) := dk_43 (dk_at dksJ28_equals_0 1 rfl rfl)
theorem dJ28_equals_2 : decode cJ28_equals 2 = .ok (.if_acmp .ne 7, 3) := dk_166 0 7 (dk_at dksJ28_equals_0 2 rfl rfl)
theorem dJ28_equals_5 : decode cJ28_equals 5 = .ok (.iconst 1, 1) := dk_4 (dk_at dksJ28_equals_0 5 rfl rfl)
theorem dJ28_equals_6 : decode cJ28_equals 6 = .ok (.goto 4, 3) := dk_167 0 4 (dk_at dksJ28_equals_0 6 rfl rfl)
theorem dJ28_equals_9 : decode cJ28_equals 9 = .ok (.iconst 0, 1) := dk_3 (dk_at dksJ28_equals_0 9 rfl rfl)
theorem dJ28_equals_10 : decode cJ28_equals 10 = .ok (.ireturn, 1) := dk_172 (dk_at dksJ28_equals_0 10 rfl rfl)
def dkwJ5_init_1 : List UInt8 := [182, 0, 27, 87, 42, 43, 181, 0, 31, 177]
abbrev dktJ5_init_1 : List UInt8 := dkwJ5_init_1 ++ []
def dkwJ5_init_0 : List UInt8 := [42, 183, 0, 1, 42, 42, 181, 0, 7, 42, 178, 0, 13, 181, 0, 17, 42, 178, 0, 20, 181, 0, 24, 42]
abbrev dktJ5_init_0 : List UInt8 := dkwJ5_init_0 ++ dktJ5_init_1
theorem dksJ5_init_0 : cJ5_init.data.toList.drop 0 = dktJ5_init_0 := by decide +kernel
theorem dksJ5_init_1 : cJ5_init.data.toList.drop 24 = dktJ5_init_1 := dk_seg dksJ5_init_0 24 rfl rfl
theorem dJ5_init_0 : decode cJ5_init 0 = .ok (.aload_n 0, 1) := dk_42 (dk_at dksJ5_init_0 0 rfl rfl)
theorem dJ5_init_1 : decode cJ5_init 1 = .ok (.invokespecial 1, 3) := dk_183 0 1 (dk_at dksJ5_init_0 1 rfl rfl)
theorem dJ5_init_4 : decode cJ5_init 4 = .ok (.aload_n 0, 1) := dk_42 (dk_at dksJ5_init_0 4 rfl rfl)
theorem dJ5_init_5 : decode cJ5_init 5 = .ok (.aload_n 0, 1) := dk_42 (dk_at dksJ5_init_0 5 rfl rfl)
theorem dJ5_init_6 : decode cJ5_init 6 = .ok (.putfield 7, 3) := dk_181 0 7 (dk_at dksJ5_init_0 6 rfl rfl)
theorem dJ5_init_9 : decode cJ5_init 9 = .ok (.aload_n 0, 1) := dk_42 (dk_at dksJ5_init_0 9 rfl rfl)
theorem dJ5_init_10 : decode cJ5_init 10 = .ok (.getstatic 13, 3) := dk_178 0 13 (dk_at dksJ5_init_0 10 rfl rfl)
theorem dJ5_init_13 : decode cJ5_init 13 = .ok (.putfield 17, 3) := dk_181 0 17 (dk_at dksJ5_init_0 13 rfl rfl)
theorem dJ5_init_16 : decode cJ5_init 16 = .ok (.aload_n 0, 1) := dk_42 (dk_at dksJ5_init_0 16 rfl rfl)
theorem dJ5_init_17 : decode cJ5_init 17 = .ok (.getstatic 20, 3) := dk_178 0 20 (dk_at dksJ5_init_0 17 rfl rfl)
theorem dJ5_init_20 : decode cJ5_init 20 = .ok (.putfield 24, 3) := dk_181 0 24 (dk_at dksJ5_init_0 20 rfl rfl)
theorem dJ5_init_23 : decode cJ5_init 23 = .ok (.aload_n 0, 1) := dk_42 (dk_at dksJ5_init_0 23 rfl rfl)
theorem dJ5_init_24 : decode cJ5_init 24 = .ok (.invokevirtual 27, 3) := dk_182 0 27 (dk_at dksJ5_init_1 0 rfl rfl)
theorem dJ5_init_27 : decode cJ5_init 27 = .ok (.pop, 1) := dk_87 (dk_at dksJ5_init_1 3 rfl rfl)
theorem dJ5_init_28 : decode cJ5_init 28 = .ok (.aload_n 0, 1) := dk_42 (dk_at dksJ5_init_1 4 rfl rfl)
theorem dJ5_init_29 : decode cJ5_init 29 = .ok (.aload_n 1, 1) := dk_43 (dk_at dksJ5_init_1 5 rfl rfl)
theorem dJ5_init_30 : decode cJ5_init 30 = .ok (.putfield 31, 3) := dk_181 0 31 (dk_at dksJ5_init_1 6 rfl rfl)
theorem dJ5_init_33 : decode cJ5_init 33 = .ok (.return_, 1) := dk_177 (dk_at dksJ5_init_1 9 rfl rfl)
def dkwJ5_init_2_1 : List UInt8 := [182, 0, 27, 87, 177]
abbrev dktJ5_init_2_1 : List UInt8 := dkwJ5_init_2_1 ++ []
def dkwJ5_init_2_0 : List UInt8 := [42, 183, 0, 1, 42, 42, 181, 0, 7, 42, 178, 0, 13, 181, 0, 17, 42, 178, 0, 20, 181, 0, 24, 42]
abbrev dktJ5_init_2_0 : List UInt8 := dkwJ5_init_2_0 ++ dktJ5_init_2_1
theorem dksJ5_init_2_0 : cJ5_init_2.data.toList.drop 0 = dktJ5_init_2_0 := by decide +kernel
theorem dksJ5_init_2_1 : cJ5_init_2.data.toList.drop 24 = dktJ5_init_2_1 := dk_seg dksJ5_init_2_0 24 rfl rfl
theorem dJ5_init_2_0 : decode cJ5_init_2 0 = .ok (.aload_n 0, 1) := dk_42 (dk_at dksJ5_init_2_0 0 rfl rfl)
theorem dJ5_init_2_1 : decode cJ5_init_2 1 = .ok (.invokespecial 1, 3) := dk_183 0 1 (dk_at dksJ5_init_2_0 1 rfl rfl)
theorem dJ5_init_2_4 : decode cJ5_init_2 4 = .ok (.aload_n 0, 1) := dk_42 (dk_at dksJ5_init_2_0 4 rfl rfl)
theorem dJ5_init_2_5 : decode cJ5_init_2 5 = .ok (.aload_n 0, 1) := dk_42 (dk_at dksJ5_init_2_0 5 rfl rfl)
theorem dJ5_init_2_6 : decode cJ5_init_2 6 = .ok (.putfield 7, 3) := dk_181 0 7 (dk_at dksJ5_init_2_0 6 rfl rfl)
theorem dJ5_init_2_9 : decode cJ5_init_2 9 = .ok (.aload_n 0, 1) := dk_42 (dk_at dksJ5_init_2_0 9 rfl rfl)
theorem dJ5_init_2_10 : decode cJ5_init_2 10 = .ok (.getstatic 13, 3) := dk_178 0 13 (dk_at dksJ5_init_2_0 10 rfl rfl)
theorem dJ5_init_2_13 : decode cJ5_init_2 13 = .ok (.putfield 17, 3) := dk_181 0 17 (dk_at dksJ5_init_2_0 13 rfl rfl)
theorem dJ5_init_2_16 : decode cJ5_init_2 16 = .ok (.aload_n 0, 1) := dk_42 (dk_at dksJ5_init_2_0 16 rfl rfl)
theorem dJ5_init_2_17 : decode cJ5_init_2 17 = .ok (.getstatic 20, 3) := dk_178 0 20 (dk_at dksJ5_init_2_0 17 rfl rfl)
theorem dJ5_init_2_20 : decode cJ5_init_2 20 = .ok (.putfield 24, 3) := dk_181 0 24 (dk_at dksJ5_init_2_0 20 rfl rfl)
theorem dJ5_init_2_23 : decode cJ5_init_2 23 = .ok (.aload_n 0, 1) := dk_42 (dk_at dksJ5_init_2_0 23 rfl rfl)
theorem dJ5_init_2_24 : decode cJ5_init_2 24 = .ok (.invokevirtual 27, 3) := dk_182 0 27 (dk_at dksJ5_init_2_1 0 rfl rfl)
theorem dJ5_init_2_27 : decode cJ5_init_2 27 = .ok (.pop, 1) := dk_87 (dk_at dksJ5_init_2_1 3 rfl rfl)
theorem dJ5_init_2_28 : decode cJ5_init_2 28 = .ok (.return_, 1) := dk_177 (dk_at dksJ5_init_2_1 4 rfl rfl)
def dkwJ5_init_3_2 : List UInt8 := [44, 181, 0, 7, 29, 154, 0, 8, 42, 1, 181, 0, 24, 177]
abbrev dktJ5_init_3_2 : List UInt8 := dkwJ5_init_3_2 ++ []
def dkwJ5_init_3_1 : List UInt8 := [21, 4, 153, 0, 11, 42, 182, 0, 27, 87, 167, 0, 8, 42, 1, 181, 0, 17, 42, 43, 181, 0, 31, 42]
abbrev dktJ5_init_3_1 : List UInt8 := dkwJ5_init_3_1 ++ dktJ5_init_3_2
def dkwJ5_init_3_0 : List UInt8 := [42, 183, 0, 1, 42, 42, 181, 0, 7, 42, 178, 0, 13, 181, 0, 17, 42, 178, 0, 20, 181, 0, 24]
abbrev dktJ5_init_3_0 : List UInt8 := dkwJ5_init_3_0 ++ dktJ5_init_3_1
theorem dksJ5_init_3_0 : cJ5_init_3.data.toList.drop 0 = dktJ5_init_3_0 := by decide +kernel
theorem dksJ5_init_3_1 : cJ5_init_3.data.toList.drop 23 = dktJ5_init_3_1 := dk_seg dksJ5_init_3_0 23 rfl rfl
theorem dksJ5_init_3_2 : cJ5_init_3.data.toList.drop 47 = dktJ5_init_3_2 := dk_seg dksJ5_init_3_1 24 rfl rfl
theorem dJ5_init_3_0 : decode cJ5_init_3 0 = .ok (.aload_n 0, 1) := dk_42 (dk_at dksJ5_init_3_0 0 rfl rfl)
theorem dJ5_init_3_1 : decode cJ5_init_3 1 = .ok (.invokespecial 1, 3) := dk_183 0 1 (dk_at dksJ5_init_3_0 1 rfl rfl)
theorem dJ5_init_3_4 : decode cJ5_init_3 4 = .ok (.aload_n 0, 1) := dk_42 (dk_at dksJ5_init_3_0 4 rfl rfl)
theorem dJ5_init_3_5 : decode cJ5_init_3 5 = .ok (.aload_n 0, 1) := dk_42 (dk_at dksJ5_init_3_0 5 rfl rfl)
theorem dJ5_init_3_6 : decode cJ5_init_3 6 = .ok (.putfield 7, 3) := dk_181 0 7 (dk_at dksJ5_init_3_0 6 rfl rfl)
theorem dJ5_init_3_9 : decode cJ5_init_3 9 = .ok (.aload_n 0, 1) := dk_42 (dk_at dksJ5_init_3_0 9 rfl rfl)
theorem dJ5_init_3_10 : decode cJ5_init_3 10 = .ok (.getstatic 13, 3) := dk_178 0 13 (dk_at dksJ5_init_3_0 10 rfl rfl)
theorem dJ5_init_3_13 : decode cJ5_init_3 13 = .ok (.putfield 17, 3) := dk_181 0 17 (dk_at dksJ5_init_3_0 13 rfl rfl)
theorem dJ5_init_3_16 : decode cJ5_init_3 16 = .ok (.aload_n 0, 1) := dk_42 (dk_at dksJ5_init_3_0 16 rfl rfl)
theorem dJ5_init_3_17 : decode cJ5_init_3 17 = .ok (.getstatic 20, 3) := dk_178 0 20 (dk_at dksJ5_init_3_0 17 rfl rfl)
theorem dJ5_init_3_20 : decode cJ5_init_3 20 = .ok (.putfield 24, 3) := dk_181 0 24 (dk_at dksJ5_init_3_0 20 rfl rfl)
theorem dJ5_init_3_23 : decode cJ5_init_3 23 = .ok (.iload 4, 2) := dk_21 4 (dk_at dksJ5_init_3_1 0 rfl rfl)
theorem dJ5_init_3_25 : decode cJ5_init_3 25 = .ok (.ifCond .eq 11, 3) := dk_153 0 11 (dk_at dksJ5_init_3_1 2 rfl rfl)
theorem dJ5_init_3_28 : decode cJ5_init_3 28 = .ok (.aload_n 0, 1) := dk_42 (dk_at dksJ5_init_3_1 5 rfl rfl)
theorem dJ5_init_3_29 : decode cJ5_init_3 29 = .ok (.invokevirtual 27, 3) := dk_182 0 27 (dk_at dksJ5_init_3_1 6 rfl rfl)
theorem dJ5_init_3_32 : decode cJ5_init_3 32 = .ok (.pop, 1) := dk_87 (dk_at dksJ5_init_3_1 9 rfl rfl)
theorem dJ5_init_3_33 : decode cJ5_init_3 33 = .ok (.goto 8, 3) := dk_167 0 8 (dk_at dksJ5_init_3_1 10 rfl rfl)
theorem dJ5_init_3_36 : decode cJ5_init_3 36 = .ok (.aload_n 0, 1) := dk_42 (dk_at dksJ5_init_3_1 13 rfl rfl)
theorem dJ5_init_3_37 : decode cJ5_init_3 37 = .ok (.aconst_null, 1) := dk_1 (dk_at dksJ5_init_3_1 14 rfl rfl)
theorem dJ5_init_3_38 : decode cJ5_init_3 38 = .ok (.putfield 17, 3) := dk_181 0 17 (dk_at dksJ5_init_3_1 15 rfl rfl)
theorem dJ5_init_3_41 : decode cJ5_init_3 41 = .ok (.aload_n 0, 1) := dk_42 (dk_at dksJ5_init_3_1 18 rfl rfl)
theorem dJ5_init_3_42 : decode cJ5_init_3 42 = .ok (.aload_n 1, 1) := dk_43 (dk_at dksJ5_init_3_1 19 rfl rfl)
theorem dJ5_init_3_43 : decode cJ5_init_3 43 = .ok (.putfield 31, 3) := dk_181 0 31 (dk_at dksJ5_init_3_1 20 rfl rfl)
theorem dJ5_init_3_46 : decode cJ5_init_3 46 = .ok (.aload_n 0, 1) := dk_42 (dk_at dksJ5_init_3_1 23 rfl rfl)
theorem dJ5_init_3_47 : decode cJ5_init_3 47 = .ok (.aload_n 2, 1) := dk_44 (dk_at dksJ5_init_3_2 0 rfl rfl)
theorem dJ5_init_3_48 : decode cJ5_init_3 48 = .ok (.putfield 7, 3) := dk_181 0 7 (dk_at dksJ5_init_3_2 1 rfl rfl)
theorem dJ5_init_3_51 : decode cJ5_init_3 51 = .ok (.iload_n 3, 1) := dk_29 (dk_at dksJ5_init_3_2 4 rfl rfl)
theorem dJ5_init_3_52 : decode cJ5_init_3 52 = .ok (.ifCond .ne 8, 3) := dk_154 0 8 (dk_at dksJ5_init_3_2 5 rfl rfl)
theorem dJ5_init_3_55 : decode cJ5_init_3 55 = .ok (.aload_n 0, 1) := dk_42 (dk_at dksJ5_init_3_2 8 rfl rfl)
theorem dJ5_init_3_56 : decode cJ5_init_3 56 = .ok (.aconst_null, 1) := dk_1 (dk_at dksJ5_init_3_2 9 rfl rfl)
theorem dJ5_init_3_57 : decode cJ5_init_3 57 = .ok (.putfield 24, 3) := dk_181 0 24 (dk_at dksJ5_init_3_2 10 rfl rfl)
theorem dJ5_init_3_60 : decode cJ5_init_3 60 = .ok (.return_, 1) := dk_177 (dk_at dksJ5_init_3_2 13 rfl rfl)
def dkwJ6_init_0 : List UInt8 := [42, 43, 183, 0, 7, 177]
abbrev dktJ6_init_0 : List UInt8 := dkwJ6_init_0 ++ []
theorem dksJ6_init_0 : cJ6_init.data.toList.drop 0 = dktJ6_init_0 := by decide +kernel
theorem dJ6_init_0 : decode cJ6_init 0 = .ok (.aload_n 0, 1) := dk_42 (dk_at dksJ6_init_0 0 rfl rfl)
theorem dJ6_init_1 : decode cJ6_init 1 = .ok (.aload_n 1, 1) := dk_43 (dk_at dksJ6_init_0 1 rfl rfl)
theorem dJ6_init_2 : decode cJ6_init 2 = .ok (.invokespecial 7, 3) := dk_183 0 7 (dk_at dksJ6_init_0 2 rfl rfl)
theorem dJ6_init_5 : decode cJ6_init 5 = .ok (.return_, 1) := dk_177 (dk_at dksJ6_init_0 5 rfl rfl)
theorem dJ6_init_2_0 : decode cJ6_init_2 0 = .ok (.aload_n 0, 1) := by decide +kernel
theorem dJ6_init_2_1 : decode cJ6_init_2 1 = .ok (.invokespecial 1, 3) := by decide +kernel
theorem dJ6_init_2_4 : decode cJ6_init_2 4 = .ok (.return_, 1) := by decide +kernel
def dkwJ6_init_3_0 : List UInt8 := [42, 43, 44, 29, 21, 4, 183, 0, 16, 177]
abbrev dktJ6_init_3_0 : List UInt8 := dkwJ6_init_3_0 ++ []
theorem dksJ6_init_3_0 : cJ6_init_3.data.toList.drop 0 = dktJ6_init_3_0 := by decide +kernel
theorem dJ6_init_3_0 : decode cJ6_init_3 0 = .ok (.aload_n 0, 1) := dk_42 (dk_at dksJ6_init_3_0 0 rfl rfl)
theorem dJ6_init_3_1 : decode cJ6_init_3 1 = .ok (.aload_n 1, 1) := dk_43 (dk_at dksJ6_init_3_0 1 rfl rfl)
theorem dJ6_init_3_2 : decode cJ6_init_3 2 = .ok (.aload_n 2, 1) := dk_44 (dk_at dksJ6_init_3_0 2 rfl rfl)
theorem dJ6_init_3_3 : decode cJ6_init_3 3 = .ok (.iload_n 3, 1) := dk_29 (dk_at dksJ6_init_3_0 3 rfl rfl)
theorem dJ6_init_3_4 : decode cJ6_init_3 4 = .ok (.iload 4, 2) := dk_21 4 (dk_at dksJ6_init_3_0 4 rfl rfl)
theorem dJ6_init_3_6 : decode cJ6_init_3 6 = .ok (.invokespecial 16, 3) := dk_183 0 16 (dk_at dksJ6_init_3_0 6 rfl rfl)
theorem dJ6_init_3_9 : decode cJ6_init_3 9 = .ok (.return_, 1) := dk_177 (dk_at dksJ6_init_3_0 9 rfl rfl)
def dkwJ7_init_0 : List UInt8 := [42, 43, 183, 0, 7, 177]
abbrev dktJ7_init_0 : List UInt8 := dkwJ7_init_0 ++ []
theorem dksJ7_init_0 : cJ7_init.data.toList.drop 0 = dktJ7_init_0 := by decide +kernel
theorem dJ7_init_0 : decode cJ7_init 0 = .ok (.aload_n 0, 1) := dk_42 (dk_at dksJ7_init_0 0 rfl rfl)
theorem dJ7_init_1 : decode cJ7_init 1 = .ok (.aload_n 1, 1) := dk_43 (dk_at dksJ7_init_0 1 rfl rfl)
theorem dJ7_init_2 : decode cJ7_init 2 = .ok (.invokespecial 7, 3) := dk_183 0 7 (dk_at dksJ7_init_0 2 rfl rfl)
theorem dJ7_init_5 : decode cJ7_init 5 = .ok (.return_, 1) := dk_177 (dk_at dksJ7_init_0 5 rfl rfl)
theorem dJ7_init_2_0 : decode cJ7_init_2 0 = .ok (.aload_n 0, 1) := by decide +kernel
theorem dJ7_init_2_1 : decode cJ7_init_2 1 = .ok (.invokespecial 1, 3) := by decide +kernel
theorem dJ7_init_2_4 : decode cJ7_init_2 4 = .ok (.return_, 1) := by decide +kernel
def dkwJ10_init_0 : List UInt8 := [42, 43, 183, 0, 7, 177]
abbrev dktJ10_init_0 : List UInt8 := dkwJ10_init_0 ++ []
theorem dksJ10_init_0 : cJ10_init.data.toList.drop 0 = dktJ10_init_0 := by decide +kernel
theorem dJ10_init_0 : decode cJ10_init 0 = .ok (.aload_n 0, 1) := dk_42 (dk_at dksJ10_init_0 0 rfl rfl)
theorem dJ10_init_1 : decode cJ10_init 1 = .ok (.aload_n 1, 1) := dk_43 (dk_at dksJ10_init_0 1 rfl rfl)
theorem dJ10_init_2 : decode cJ10_init 2 = .ok (.invokespecial 7, 3) := dk_183 0 7 (dk_at dksJ10_init_0 2 rfl rfl)
theorem dJ10_init_5 : decode cJ10_init 5 = .ok (.return_, 1) := dk_177 (dk_at dksJ10_init_0 5 rfl rfl)
theorem dJ10_init_2_0 : decode cJ10_init_2 0 = .ok (.aload_n 0, 1) := by decide +kernel
theorem dJ10_init_2_1 : decode cJ10_init_2 1 = .ok (.invokespecial 1, 3) := by decide +kernel
theorem dJ10_init_2_4 : decode cJ10_init_2 4 = .ok (.return_, 1) := by decide +kernel
theorem dJ25_init_0 : decode cJ25_init 0 = .ok (.aload_n 0, 1) := by decide +kernel
theorem dJ25_init_1 : decode cJ25_init 1 = .ok (.invokespecial 1, 3) := by decide +kernel
theorem dJ25_init_4 : decode cJ25_init 4 = .ok (.return_, 1) := by decide +kernel
