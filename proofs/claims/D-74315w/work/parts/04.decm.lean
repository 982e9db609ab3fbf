set_option maxRecDepth 100000
theorem dX4_thrown_0 : decode cX4_thrown 0 = .ok (.aload_n 0, 1) := by decide +kernel
theorem dX4_thrown_1 : decode cX4_thrown 1 = .ok (.getfield 1, 3) := by decide +kernel
theorem dX4_thrown_4 : decode cX4_thrown 4 = .ok (.ireturn, 1) := by decide +kernel
def dkwX4_init_13 : List UInt8 := [182, 0, 123, 177]
abbrev dktX4_init_13 : List UInt8 := dkwX4_init_13 ++ []
def dkwX4_init_12 : List UInt8 := [181, 0, 114, 42, 17, 0, 240, 188, 10, 181, 0, 117, 42, 17, 0, 240, 188, 10, 181, 0, 120, 42]
abbrev dktX4_init_12 : List UInt8 := dkwX4_init_12 ++ dktX4_init_13
def dkwX4_init_11 : List UInt8 := [181, 0, 105, 42, 16, 60, 188, 10, 181, 0, 108, 42, 7, 188, 10, 181, 0, 111, 42, 7, 188, 10]
abbrev dktX4_init_11 : List UInt8 := dkwX4_init_11 ++ dktX4_init_12
def dkwX4_init_10 : List UInt8 := [181, 0, 96, 42, 16, 64, 188, 10, 181, 0, 99, 42, 17, 15, 4, 188, 10, 181, 0, 102, 42, 8, 188, 10]
abbrev dktX4_init_10 : List UInt8 := dkwX4_init_10 ++ dktX4_init_11
def dkwX4_init_9 : List UInt8 := [181, 0, 87, 42, 16, 16, 188, 10, 181, 0, 90, 42, 16, 16, 188, 10, 181, 0, 93, 42, 16, 64, 188, 10]
abbrev dktX4_init_9 : List UInt8 := dkwX4_init_9 ++ dktX4_init_10
def dkwX4_init_8 : List UInt8 := [17, 0, 144, 188, 10, 181, 0, 81, 42, 17, 0, 144, 188, 10, 181, 0, 84, 42, 16, 16, 188, 10]
abbrev dktX4_init_8 : List UInt8 := dkwX4_init_8 ++ dktX4_init_9
def dkwX4_init_7 : List UInt8 := [188, 10, 181, 0, 72, 42, 16, 24, 188, 10, 181, 0, 75, 42, 17, 0, 144, 188, 10, 181, 0, 78, 42]
abbrev dktX4_init_7 : List UInt8 := dkwX4_init_7 ++ dktX4_init_8
def dkwX4_init_6 : List UInt8 := [17, 3, 132, 188, 8, 181, 0, 62, 42, 2, 181, 0, 66, 42, 7, 188, 10, 181, 0, 69, 42, 16, 8]
abbrev dktX4_init_6 : List UInt8 := dkwX4_init_6 ++ dktX4_init_7
def dkwX4_init_5 : List UInt8 := [188, 10, 181, 0, 53, 42, 16, 60, 188, 10, 181, 0, 56, 42, 17, 5, 220, 188, 10, 181, 0, 59, 42]
abbrev dktX4_init_5 : List UInt8 := dkwX4_init_5 ++ dktX4_init_6
def dkwX4_init_4 : List UInt8 := [181, 0, 44, 42, 17, 7, 208, 188, 10, 181, 0, 47, 42, 16, 60, 188, 10, 181, 0, 50, 42, 16, 60]
abbrev dktX4_init_4 : List UInt8 := dkwX4_init_4 ++ dktX4_init_5
def dkwX4_init_3 : List UInt8 := [181, 0, 35, 42, 16, 64, 188, 10, 181, 0, 38, 42, 8, 188, 10, 181, 0, 41, 42, 16, 125, 188, 10]
abbrev dktX4_init_3 : List UInt8 := dkwX4_init_3 ++ dktX4_init_4
def dkwX4_init_2 : List UInt8 := [181, 0, 26, 42, 16, 16, 188, 10, 181, 0, 29, 42, 16, 16, 188, 10, 181, 0, 32, 42, 16, 64, 188, 10]
abbrev dktX4_init_2 : List UInt8 := dkwX4_init_2 ++ dktX4_init_3
def dkwX4_init_1 : List UInt8 := [17, 0, 144, 188, 10, 181, 0, 20, 42, 17, 0, 144, 188, 10, 181, 0, 23, 42, 16, 16, 188, 10]
abbrev dktX4_init_1 : List UInt8 := dkwX4_init_1 ++ dktX4_init_2
def dkwX4_init_0 : List UInt8 := [42, 183, 0, 7, 42, 16, 24, 188, 10, 181, 0, 13, 42, 17, 0, 144, 188, 10, 181, 0, 17, 42]
abbrev dktX4_init_0 : List UInt8 := dkwX4_init_0 ++ dktX4_init_1
theorem dksX4_init_0 : cX4_init.data.toList.drop 0 = dktX4_init_0 := by decide +kernel
theorem dksX4_init_1 : cX4_init.data.toList.drop 22 = dktX4_init_1 := dk_seg dksX4_init_0 22 rfl rfl
theorem dksX4_init_2 : cX4_init.data.toList.drop 44 = dktX4_init_2 := dk_seg dksX4_init_1 22 rfl rfl
theorem dksX4_init_3 : cX4_init.data.toList.drop 68 = dktX4_init_3 := dk_seg dksX4_init_2 24 rfl rfl
theorem dksX4_init_4 : cX4_init.data.toList.drop 91 = dktX4_init_4 := dk_seg dksX4_init_3 23 rfl rfl
theorem dksX4_init_5 : cX4_init.data.toList.drop 114 = dktX4_init_5 := dk_seg dksX4_init_4 23 rfl rfl
theorem dksX4_init_6 : cX4_init.data.toList.drop 137 = dktX4_init_6 := dk_seg dksX4_init_5 23 rfl rfl
theorem dksX4_init_7 : cX4_init.data.toList.drop 160 = dktX4_init_7 := dk_seg dksX4_init_6 23 rfl rfl
theorem dksX4_init_8 : cX4_init.data.toList.drop 183 = dktX4_init_8 := dk_seg dksX4_init_7 23 rfl rfl
theorem dksX4_init_9 : cX4_init.data.toList.drop 205 = dktX4_init_9 := dk_seg dksX4_init_8 22 rfl rfl
theorem dksX4_init_10 : cX4_init.data.toList.drop 229 = dktX4_init_10 := dk_seg dksX4_init_9 24 rfl rfl
theorem dksX4_init_11 : cX4_init.data.toList.drop 253 = dktX4_init_11 := dk_seg dksX4_init_10 24 rfl rfl
theorem dksX4_init_12 : cX4_init.data.toList.drop 275 = dktX4_init_12 := dk_seg dksX4_init_11 22 rfl rfl
theorem dksX4_init_13 : cX4_init.data.toList.drop 297 = dktX4_init_13 := dk_seg dksX4_init_12 22 rfl rfl
theorem dX4_init_0 : decode cX4_init 0 = .ok (.aload_n 0, 1) := dk_42 (dk_at dksX4_init_0 0 rfl rfl)
theorem dX4_init_1 : decode cX4_init 1 = .ok (.invokespecial 7, 3) := dk_183 0 7 (dk_at dksX4_init_0 1 rfl rfl)
theorem dX4_init_4 : decode cX4_init 4 = .ok (.aload_n 0, 1) := dk_42 (dk_at dksX4_init_0 4 rfl rfl)
theorem dX4_init_5 : decode cX4_init 5 = .ok (.bipush 24, 2) := dk_16 24 (dk_at dksX4_init_0 5 rfl rfl)
theorem dX4_init_7 : decode cX4_init 7 = .ok (.newarray .int, 2) := dk_188_10 (dk_at dksX4_init_0 7 rfl rfl)
theorem dX4_init_9 : decode cX4_init 9 = .ok (.putfield 13, 3) := dk_181 0 13 (dk_at dksX4_init_0 9 rfl rfl)
theorem dX4_init_12 : decode cX4_init 12 = .ok (.aload_n 0, 1) := dk_42 (dk_at dksX4_init_0 12 rfl rfl)
theorem dX4_init_13 : decode cX4_init 13 = .ok (.sipush 144, 3) := dk_17 0 144 (dk_at dksX4_init_0 13 rfl rfl)
theorem dX4_init_16 : decode cX4_init 16 = .ok (.newarray .int, 2) := dk_188_10 (dk_at dksX4_init_0 16 rfl rfl)
theorem dX4_init_18 : decode cX4_init 18 = .ok (.putfield 17, 3) := dk_181 0 17 (dk_at dksX4_init_0 18 rfl rfl)
theorem dX4_init_21 : decode cX4_init 21 = .ok (.aload_n 0, 1) := dk_42 (dk_at dksX4_init_0 21 rfl rfl)
theorem dX4_init_22 : decode cX4_init 22 = .ok (.sipush 144, 3) := dk_17 0 144 (dk_at dksX4_init_1 0 rfl rfl)
theorem dX4_init_25 : decode cX4_init 25 = .ok (.newarray .int, 2) := dk_188_10 (dk_at dksX4_init_1 3 rfl rfl)
theorem dX4_init_27 : decode cX4_init 27 = .ok (.putfield 20, 3) := dk_181 0 20 (dk_at dksX4_init_1 5 rfl rfl)
theorem dX4_init_30 : decode cX4_init 30 = .ok (.aload_n 0, 1) := dk_42 (dk_at dksX4_init_1 8 rfl rfl)
theorem dX4_init_31 : decode cX4_init 31 = .ok (.sipush 144, 3) := dk_17 0 144 (dk_at dksX4_init_1 9 rfl rfl)
theorem dX4_init_34 : decode cX4_init 34 = .ok (.newarray .int, 2) := dk_188_10 (dk_at dksX4_init_1 12 rfl rfl)
theorem dX4_init_36 : decode cX4_init 36 = .ok (.putfield 23, 3) := dk_181 0 23 (dk_at dksX4_init_1 14 rfl rfl)
theorem dX4_init_39 : decode cX4_init 39 = .ok (.aload_n 0, 1) := dk_42 (dk_at dksX4_init_1 17 rfl rfl)
theorem dX4_init_40 : decode cX4_init 40 = .ok (.bipush 16, 2) := dk_16 16 (dk_at dksX4_init_1 18 rfl rfl)
theorem dX4_init_42 : decode cX4_init 42 = .ok (.newarray .int, 2) := dk_188_10 (dk_at dksX4_init_1 20 rfl rfl)
theorem dX4_init_44 : decode cX4_init 44 = .ok (.putfield 26, 3) := dk_181 0 26 (dk_at dksX4_init_2 0 rfl rfl)
theorem dX4_init_47 : decode cX4_init 47 = .ok (.aload_n 0, 1) := dk_42 (dk_at dksX4_init_2 3 rfl rfl)
theorem dX4_init_48 : decode cX4_init 48 = .ok (.bipush 16, 2) := dk_16 16 (dk_at dksX4_init_2 4 rfl rfl)
theorem dX4_init_50 : decode cX4_init 50 = .ok (.newarray .int, 2) := dk_188_10 (dk_at dksX4_init_2 6 rfl rfl)
theorem dX4_init_52 : decode cX4_init 52 = .ok (.putfield 29, 3) := dk_181 0 29 (dk_at dksX4_init_2 8 rfl rfl)
theorem dX4_init_55 : decode cX4_init 55 = .ok (.aload_n 0, 1) := dk_42 (dk_at dksX4_init_2 11 rfl rfl)
theorem dX4_init_56 : decode cX4_init 56 = .ok (.bipush 16, 2) := dk_16 16 (dk_at dksX4_init_2 12 rfl rfl)
theorem dX4_init_58 : decode cX4_init 58 = .ok (.newarray .int, 2) := dk_188_10 (dk_at dksX4_init_2 14 rfl rfl)
theorem dX4_init_60 : decode cX4_init 60 = .ok (.putfield 32, 3) := dk_181 0 32 (dk_at dksX4_init_2 16 rfl rfl)
theorem dX4_init_63 : decode cX4_init 63 = .ok (.aload_n 0, 1) := dk_42 (dk_at dksX4_init_2 19 rfl rfl)
theorem dX4_init_64 : decode cX4_init 64 = .ok (.bipush 64, 2) := dk_16 64 (dk_at dksX4_init_2 20 rfl rfl)
theorem dX4_init_66 : decode cX4_init 66 = .ok (.newarray .int, 2) := dk_188_10 (dk_at dksX4_init_2 22 rfl rfl)
theorem dX4_init_68 : decode cX4_init 68 = .ok (.putfield 35, 3) := dk_181 0 35 (dk_at dksX4_init_3 0 rfl rfl)
theorem dX4_init_71 : decode cX4_init 71 = .ok (.aload_n 0, 1) := dk_42 (dk_at dksX4_init_3 3 rfl rfl)
theorem dX4_init_72 : decode cX4_init 72 = .ok (.bipush 64, 2) := dk_16 64 (dk_at dksX4_init_3 4 rfl rfl)
theorem dX4_init_74 : decode cX4_init 74 = .ok (.newarray .int, 2) := dk_188_10 (dk_at dksX4_init_3 6 rfl rfl)
theorem dX4_init_76 : decode cX4_init 76 = .ok (.putfield 38, 3) := dk_181 0 38 (dk_at dksX4_init_3 8 rfl rfl)
theorem dX4_init_79 : decode cX4_init 79 = .ok (.aload_n 0, 1) := dk_42 (dk_at dksX4_init_3 11 rfl rfl)
theorem dX4_init_80 : decode cX4_init 80 = .ok (.iconst 5, 1) := dk_8 (dk_at dksX4_init_3 12 rfl rfl)
theorem dX4_init_81 : decode cX4_init 81 = .ok (.newarray .int, 2) := dk_188_10 (dk_at dksX4_init_3 13 rfl rfl)
theorem dX4_init_83 : decode cX4_init 83 = .ok (.putfield 41, 3) := dk_181 0 41 (dk_at dksX4_init_3 15 rfl rfl)
theorem dX4_init_86 : decode cX4_init 86 = .ok (.aload_n 0, 1) := dk_42 (dk_at dksX4_init_3 18 rfl rfl)
theorem dX4_init_87 : decode cX4_init 87 = .ok (.bipush 125, 2) := dk_16 125 (dk_at dksX4_init_3 19 rfl rfl)
theorem dX4_init_89 : decode cX4_init 89 = .ok (.newarray .int, 2) := dk_188_10 (dk_at dksX4_init_3 21 rfl rfl)
theorem dX4_init_91 : decode cX4_init 91 = .ok (.putfield 44, 3) := dk_181 0 44 (dk_at dksX4_init_4 0 rfl rfl)
theorem dX4_init_94 : decode cX4_init 94 = .ok (.aload_n 0, 1) := dk_42 (dk_at dksX4_init_4 3 rfl rfl)
theorem dX4_init_95 : decode cX4_init 95 = .ok (.sipush 2000, 3) := dk_17 7 208 (dk_at dksX4_init_4 4 rfl rfl)
theorem dX4_init_98 : decode cX4_init 98 = .ok (.newarray .int, 2) := dk_188_10 (dk_at dksX4_init_4 7 rfl rfl)
theorem dX4_init_100 : decode cX4_init 100 = .ok (.putfield 47, 3) := dk_181 0 47 (dk_at dksX4_init_4 9 rfl rfl)
theorem dX4_init_103 : decode cX4_init 103 = .ok (.aload_n 0, 1) := dk_42 (dk_at dksX4_init_4 12 rfl rfl)
theorem dX4_init_104 : decode cX4_init 104 = .ok (.bipush 60, 2) := dk_16 60 (dk_at dksX4_init_4 13 rfl rfl)
theorem dX4_init_106 : decode cX4_init 106 = .ok (.newarray .int, 2) := dk_188_10 (dk_at dksX4_init_4 15 rfl rfl)
theorem dX4_init_108 : decode cX4_init 108 = .ok (.putfield 50, 3) := dk_181 0 50 (dk_at dksX4_init_4 17 rfl rfl)
theorem dX4_init_111 : decode cX4_init 111 = .ok (.aload_n 0, 1) := dk_42 (dk_at dksX4_init_4 20 rfl rfl)
theorem dX4_init_112 : decode cX4_init 112 = .ok (.bipush 60, 2) := dk_16 60 (dk_at dksX4_init_4 21 rfl rfl)
theorem dX4_init_114 : decode cX4_init 114 = .ok (.newarray .int, 2) := dk_188_10 (dk_at dksX4_init_5 0 rfl rfl)
theorem dX4_init_116 : decode cX4_init 116 = .ok (.putfield 53, 3) := dk_181 0 53 (dk_at dksX4_init_5 2 rfl rfl)
theorem dX4_init_119 : decode cX4_init 119 = .ok (.aload_n 0, 1) := dk_42 (dk_at dksX4_init_5 5 rfl rfl)
theorem dX4_init_120 : decode cX4_init 120 = .ok (.bipush 60, 2) := dk_16 60 (dk_at dksX4_init_5 6 rfl rfl)
theorem dX4_init_122 : decode cX4_init 122 = .ok (.newarray .int, 2) := dk_188_10 (dk_at dksX4_init_5 8 rfl rfl)
theorem dX4_init_124 : decode cX4_init 124 = .ok (.putfield 56, 3) := dk_181 0 56 (dk_at dksX4_init_5 10 rfl rfl)
theorem dX4_init_127 : decode cX4_init 127 = .ok (.aload_n 0, 1) := dk_42 (dk_at dksX4_init_5 13 rfl rfl)
theorem dX4_init_128 : decode cX4_init 128 = .ok (.sipush 1500, 3) := dk_17 5 220 (dk_at dksX4_init_5 14 rfl rfl)
theorem dX4_init_131 : decode cX4_init 131 = .ok (.newarray .int, 2) := dk_188_10 (dk_at dksX4_init_5 17 rfl rfl)
theorem dX4_init_133 : decode cX4_init 133 = .ok (.putfield 59, 3) := dk_181 0 59 (dk_at dksX4_init_5 19 rfl rfl)
theorem dX4_init_136 : decode cX4_init 136 = .ok (.aload_n 0, 1) := dk_42 (dk_at dksX4_init_5 22 rfl rfl)
theorem dX4_init_137 : decode cX4_init 137 = .ok (.sipush 900, 3) := dk_17 3 132 (dk_at dksX4_init_6 0 rfl rfl)
theorem dX4_init_140 : decode cX4_init 140 = .ok (.newarray .byte, 2) := dk_188_8 (dk_at dksX4_init_6 3 rfl rfl)
theorem dX4_init_142 : decode cX4_init 142 = .ok (.putfield 62, 3) := dk_181 0 62 (dk_at dksX4_init_6 5 rfl rfl)
theorem dX4_init_145 : decode cX4_init 145 = .ok (.aload_n 0, 1) := dk_42 (dk_at dksX4_init_6 8 rfl rfl)
theorem dX4_init_146 : decode cX4_init 146 = .ok (.iconst (-1), 1) := dk_2 (dk_at dksX4_init_6 9 rfl rfl)
theorem dX4_init_147 : decode cX4_init 147 = .ok (.putfield 66, 3) := dk_181 0 66 (dk_at dksX4_init_6 10 rfl rfl)
theorem dX4_init_150 : decode cX4_init 150 = .ok (.aload_n 0, 1) := dk_42 (dk_at dksX4_init_6 13 rfl rfl)
theorem dX4_init_151 : decode cX4_init 151 = .ok (.iconst 4, 1) := dk_7 (dk_at dksX4_init_6 14 rfl rfl)
theorem dX4_init_152 : decode cX4_init 152 = .ok (.newarray .int, 2) := dk_188_10 (dk_at dksX4_init_6 15 rfl rfl)
theorem dX4_init_154 : decode cX4_init 154 = .ok (.putfield 69, 3) := dk_181 0 69 (dk_at dksX4_init_6 17 rfl rfl)
theorem dX4_init_157 : decode cX4_init 157 = .ok (.aload_n 0, 1) := dk_42 (dk_at dksX4_init_6 20 rfl rfl)
theorem dX4_init_158 : decode cX4_init 158 = .ok (.bipush 8, 2) := dk_16 8 (dk_at dksX4_init_6 21 rfl rfl)
theorem dX4_init_160 : decode cX4_init 160 = .ok (.newarray .int, 2) := dk_188_10 (dk_at dksX4_init_7 0 rfl rfl)
theorem dX4_init_162 : decode cX4_init 162 = .ok (.putfield 72, 3) := dk_181 0 72 (dk_at dksX4_init_7 2 rfl rfl)
theorem dX4_init_165 : decode cX4_init 165 = .ok (.aload_n 0, 1) := dk_42 (dk_at dksX4_init_7 5 rfl rfl)
theorem dX4_init_166 : decode cX4_init 166 = .ok (.bipush 24, 2) := dk_16 24 (dk_at dksX4_init_7 6 rfl rfl)
theorem dX4_init_168 : decode cX4_init 168 = .ok (.newarray .int, 2) := dk_188_10 (dk_at dksX4_init_7 8 rfl rfl)
theorem dX4_init_170 : decode cX4_init 170 = .ok (.putfield 75, 3) := dk_181 0 75 (dk_at dksX4_init_7 10 rfl rfl)
theorem dX4_init_173 : decode cX4_init 173 = .ok (.aload_n 0, 1) := dk_42 (dk_at dksX4_init_7 13 rfl rfl)
theorem dX4_init_174 : decode cX4_init 174 = .ok (.sipush 144, 3) := dk_17 0 144 (dk_at dksX4_init_7 14 rfl rfl)
theorem dX4_init_177 : decode cX4_init 177 = .ok (.newarray .int, 2) := dk_188_10 (dk_at dksX4_init_7 17 rfl rfl)
theorem dX4_init_179 : decode cX4_init 179 = .ok (.putfield 78, 3) := dk_181 0 78 (dk_at dksX4_init_7 19 rfl rfl)
theorem dX4_init_182 : decode cX4_init 182 = .ok (.aload_n 0, 1) := dk_42 (dk_at dksX4_init_7 22 rfl rfl)
theorem dX4_init_183 : decode cX4_init 183 = .ok (.sipush 144, 3) := dk_17 0 144 (dk_at dksX4_init_8 0 rfl rfl)
theorem dX4_init_186 : decode cX4_init 186 = .ok (.newarray .int, 2) := dk_188_10 (dk_at dksX4_init_8 3 rfl rfl)
theorem dX4_init_188 : decode cX4_init 188 = .ok (.putfield 81, 3) := dk_181 0 81 (dk_at dksX4_init_8 5 rfl rfl)
theorem dX4_init_191 : decode cX4_init 191 = .ok (.aload_n 0, 1) := dk_42 (dk_at dksX4_init_8 8 rfl rfl)
theorem dX4_init_192 : decode cX4_init 192 = .ok (.sipush 144, 3) := dk_17 0 144 (dk_at dksX4_init_8 9 rfl rfl)
theorem dX4_init_195 : decode cX4_init 195 = .ok (.newarray .int, 2) := dk_188_10 (dk_at dksX4_init_8 12 rfl rfl)
theorem dX4_init_197 : decode cX4_init 197 = .ok (.putfield 84, 3) := dk_181 0 84 (dk_at dksX4_init_8 14 rfl rfl)
theorem dX4_init_200 : decode cX4_init 200 = .ok (.aload_n 0, 1) := dk_42 (dk_at dksX4_init_8 17 rfl rfl)
theorem dX4_init_201 : decode cX4_init 201 = .ok (.bipush 16, 2) := dk_16 16 (dk_at dksX4_init_8 18 rfl rfl)
theorem dX4_init_203 : decode cX4_init 203 = .ok (.newarray .int, 2) := dk_188_10 (dk_at dksX4_init_8 20 rfl rfl)
theorem dX4_init_205 : decode cX4_init 205 = .ok (.putfield 87, 3) := dk_181 0 87 (dk_at dksX4_init_9 0 rfl rfl)
theorem dX4_init_208 : decode cX4_init 208 = .ok (.aload_n 0, 1) := dk_42 (dk_at dksX4_init_9 3 rfl rfl)
theorem dX4_init_209 : decode cX4_init 209 = .ok (.bipush 16, 2) := dk_16 16 (dk_at dksX4_init_9 4 rfl rfl)
theorem dX4_init_211 : decode cX4_init 211 = .ok (.newarray .int, 2) := dk_188_10 (dk_at dksX4_init_9 6 rfl rfl)
theorem dX4_init_213 : decode cX4_init 213 = .ok (.putfield 90, 3) := dk_181 0 90 (dk_at dksX4_init_9 8 rfl rfl)
theorem dX4_init_216 : decode cX4_init 216 = .ok (.aload_n 0, 1) := dk_42 (dk_at dksX4_init_9 11 rfl rfl)
theorem dX4_init_217 : decode cX4_init 217 = .ok (.bipush 16, 2) := dk_16 16 (dk_at dksX4_init_9 12 rfl rfl)
theorem dX4_init_219 : decode cX4_init 219 = .ok (.newarray .int, 2) := dk_188_10 (dk_at dksX4_init_9 14 rfl rfl)
theorem dX4_init_221 : decode cX4_init 221 = .ok (.putfield 93, 3) := dk_181 0 93 (dk_at dksX4_init_9 16 rfl rfl)
theorem dX4_init_224 : decode cX4_init 224 = .ok (.aload_n 0, 1) := dk_42 (dk_at dksX4_init_9 19 rfl rfl)
theorem dX4_init_225 : decode cX4_init 225 = .ok (.bipush 64, 2) := dk_16 64 (dk_at dksX4_init_9 20 rfl rfl)
theorem dX4_init_227 : decode cX4_init 227 = .ok (.newarray .int, 2) := dk_188_10 (dk_at dksX4_init_9 22 rfl rfl)
theorem dX4_init_229 : decode cX4_init 229 = .ok (.putfield 96, 3) := dk_181 0 96 (dk_at dksX4_init_10 0 rfl rfl)
theorem dX4_init_232 : decode cX4_init 232 = .ok (.aload_n 0, 1) := dk_42 (dk_at dksX4_init_10 3 rfl rfl)
theorem dX4_init_233 : decode cX4_init 233 = .ok (.bipush 64, 2) := dk_16 64 (dk_at dksX4_init_10 4 rfl rfl)
theorem dX4_init_235 : decode cX4_init 235 = .ok (.newarray .int, 2) := dk_188_10 (dk_at dksX4_init_10 6 rfl rfl)
theorem dX4_init_237 : decode cX4_init 237 = .ok (.putfield 99, 3) := dk_181 0 99 (dk_at dksX4_init_10 8 rfl rfl)
theorem dX4_init_240 : decode cX4_init 240 = .ok (.aload_n 0, 1) := dk_42 (dk_at dksX4_init_10 11 rfl rfl)
theorem dX4_init_241 : decode cX4_init 241 = .ok (.sipush 3844, 3) := dk_17 15 4 (dk_at dksX4_init_10 12 rfl rfl)
theorem dX4_init_244 : decode cX4_init 244 = .ok (.newarray .int, 2) := dk_188_10 (dk_at dksX4_init_10 15 rfl rfl)
theorem dX4_init_246 : decode cX4_init 246 = .ok (.putfield 102, 3) := dk_181 0 102 (dk_at dksX4_init_10 17 rfl rfl)
theorem dX4_init_249 : decode cX4_init 249 = .ok (.aload_n 0, 1) := dk_42 (dk_at dksX4_init_10 20 rfl rfl)
theorem dX4_init_250 : decode cX4_init 250 = .ok (.iconst 5, 1) := dk_8 (dk_at dksX4_init_10 21 rfl rfl)
theorem dX4_init_251 : decode cX4_init 251 = .ok (.newarray .int, 2) := dk_188_10 (dk_at dksX4_init_10 22 rfl rfl)
theorem dX4_init_253 : decode cX4_init 253 = .ok (.putfield 105, 3) := dk_181 0 105 (dk_at dksX4_init_11 0 rfl rfl)
theorem dX4_init_256 : decode cX4_init 256 = .ok (.aload_n 0, 1) := dk_42 (dk_at dksX4_init_11 3 rfl rfl)
theorem dX4_init_257 : decode cX4_init 257 = .ok (.bipush 60, 2) := dk_16 60 (dk_at dksX4_init_11 4 rfl rfl)
theorem dX4_init_259 : decode cX4_init 259 = .ok (.newarray .int, 2) := dk_188_10 (dk_at dksX4_init_11 6 rfl rfl)
theorem dX4_init_261 : decode cX4_init 261 = .ok (.putfield 108, 3) := dk_181 0 108 (dk_at dksX4_init_11 8 rfl rfl)
theorem dX4_init_264 : decode cX4_init 264 = .ok (.aload_n 0, 1) := dk_42 (dk_at dksX4_init_11 11 rfl rfl)
theorem dX4_init_265 : decode cX4_init 265 = .ok (.iconst 4, 1) := dk_7 (dk_at dksX4_init_11 12 rfl rfl)
theorem dX4_init_266 : decode cX4_init 266 = .ok (.newarray .int, 2) := dk_188_10 (dk_at dksX4_init_11 13 rfl rfl)
theorem dX4_init_268 : decode cX4_init 268 = .ok (.putfield 111, 3) := dk_181 0 111 (dk_at dksX4_init_11 15 rfl rfl)
theorem dX4_init_271 : decode cX4_init 271 = .ok (.aload_n 0, 1) := dk_42 (dk_at dksX4_init_11 18 rfl rfl)
theorem dX4_init_272 : decode cX4_init 272 = .ok (.iconst 4, 1) := dk_7 (dk_at dksX4_init_11 19 rfl rfl)
theorem dX4_init_273 : decode cX4_init 273 = .ok (.newarray .int, 2) := dk_188_10 (dk_at dksX4_init_11 20 rfl rfl)
theorem dX4_init_275 : decode cX4_init 275 = .ok (.putfield 114, 3) := dk_181 0 114 (dk_at dksX4_init_12 0 rfl rfl)
theorem dX4_init_278 : decode cX4_init 278 = .ok (.aload_n 0, 1) := dk_42 (dk_at dksX4_init_12 3 rfl rfl)
theorem dX4_init_279 : decode cX4_init 279 = .ok (.sipush 240, 3) := dk_17 0 240 (dk_at dksX4_init_12 4 rfl rfl)
theorem dX4_init_282 : decode cX4_init 282 = .ok (.newarray .int, 2) := dk_188_10 (dk_at dksX4_init_12 7 rfl rfl)
theorem dX4_init_284 : decode cX4_init 284 = .ok (.putfield 117, 3) := dk_181 0 117 (dk_at dksX4_init_12 9 rfl rfl)
theorem dX4_init_287 : decode cX4_init 287 = .ok (.aload_n 0, 1) := dk_42 (dk_at dksX4_init_12 12 rfl rfl)
theorem dX4_init_288 : decode cX4_init 288 = .ok (.sipush 240, 3) := dk_17 0 240 (dk_at dksX4_init_12 13 rfl rfl)
theorem dX4_init_291 : decode cX4_init 291 = .ok (.newarray .int, 2) := dk_188_10 (dk_at dksX4_init_12 16 rfl rfl)
theorem dX4_init_293 : decode cX4_init 293 = .ok (.putfield 120, 3) := dk_181 0 120 (dk_at dksX4_init_12 18 rfl rfl)
theorem dX4_init_296 : decode cX4_init 296 = .ok (.aload_n 0, 1) := dk_42 (dk_at dksX4_init_12 21 rfl rfl)
theorem dX4_init_297 : decode cX4_init 297 = .ok (.invokevirtual 123, 3) := dk_182 0 123 (dk_at dksX4_init_13 0 rfl rfl)
theorem dX4_init_300 : decode cX4_init 300 = .ok (.return_, 1) := dk_177 (dk_at dksX4_init_13 3 rfl rfl)
def dkwX4_laysAll_0 : List UInt8 := [3, 60, 27, 7, 162, 0, 18, 42, 182, 0, 126, 42, 27, 182, 0, 129, 132, 1, 1, 167, 255, 239, 177]
abbrev dktX4_laysAll_0 : List UInt8 := dkwX4_laysAll_0 ++ []
theorem dksX4_laysAll_0 : cX4_laysAll.data.toList.drop 0 = dktX4_laysAll_0 := by decide +kernel
theorem dX4_laysAll_0 : decode cX4_laysAll 0 = .ok (.iconst 0, 1) := dk_3 (dk_at dksX4_laysAll_0 0 rfl rfl)
theorem dX4_laysAll_1 : decode cX4_laysAll 1 = .ok (.istore_n 1, 1) := dk_60 (dk_at dksX4_laysAll_0 1 rfl rfl)
theorem dX4_laysAll_2 : decode cX4_laysAll 2 = .ok (.iload_n 1, 1) := dk_27 (dk_at dksX4_laysAll_0 2 rfl rfl)
theorem dX4_laysAll_3 : decode cX4_laysAll 3 = .ok (.iconst 4, 1) := dk_7 (dk_at dksX4_laysAll_0 3 rfl rfl)
theorem dX4_laysAll_4 : decode cX4_laysAll 4 = .ok (.if_icmp .ge 18, 3) := dk_162 0 18 (dk_at dksX4_laysAll_0 4 rfl rfl)
theorem dX4_laysAll_7 : decode cX4_laysAll 7 = .ok (.aload_n 0, 1) := dk_42 (dk_at dksX4_laysAll_0 7 rfl rfl)
theorem dX4_laysAll_8 : decode cX4_laysAll 8 = .ok (.invokevirtual 126, 3) := dk_182 0 126 (dk_at dksX4_laysAll_0 8 rfl rfl)
theorem dX4_laysAll_11 : decode cX4_laysAll 11 = .ok (.aload_n 0, 1) := dk_42 (dk_at dksX4_laysAll_0 11 rfl rfl)
theorem dX4_laysAll_12 : decode cX4_laysAll 12 = .ok (.iload_n 1, 1) := dk_27 (dk_at dksX4_laysAll_0 12 rfl rfl)
theorem dX4_laysAll_13 : decode cX4_laysAll 13 = .ok (.invokevirtual 129, 3) := dk_182 0 129 (dk_at dksX4_laysAll_0 13 rfl rfl)
theorem dX4_laysAll_16 : decode cX4_laysAll 16 = .ok (.iinc 1 1, 3) := dk_132 1 1 (dk_at dksX4_laysAll_0 16 rfl rfl)
theorem dX4_laysAll_19 : decode cX4_laysAll 19 = .ok (.goto (-17), 3) := dk_167 255 239 (dk_at dksX4_laysAll_0 19 rfl rfl)
theorem dX4_laysAll_22 : decode cX4_laysAll 22 = .ok (.return_, 1) := dk_177 (dk_at dksX4_laysAll_0 22 rfl rfl)
def dkwX4_nought_2 : List UInt8 := [167, 255, 238, 132, 1, 1, 167, 255, 222, 177]
abbrev dktX4_nought_2 : List UInt8 := dkwX4_nought_2 ++ []
def dkwX4_nought_1 : List UInt8 := [162, 0, 32, 3, 61, 28, 42, 180, 1, 24, 162, 0, 16, 42, 27, 28, 4, 182, 1, 20, 132, 2, 1]
abbrev dktX4_nought_1 : List UInt8 := dkwX4_nought_1 ++ dktX4_nought_2
def dkwX4_nought_0 : List UInt8 := [42, 42, 180, 0, 242, 4, 96, 181, 1, 24, 42, 3, 181, 1, 33, 3, 60, 27, 42, 180, 1, 24]
abbrev dktX4_nought_0 : List UInt8 := dkwX4_nought_0 ++ dktX4_nought_1
theorem dksX4_nought_0 : cX4_nought.data.toList.drop 0 = dktX4_nought_0 := by decide +kernel
theorem dksX4_nought_1 : cX4_nought.data.toList.drop 22 = dktX4_nought_1 := dk_seg dksX4_nought_0 22 rfl rfl
theorem dksX4_nought_2 : cX4_nought.data.toList.drop 45 = dktX4_nought_2 := dk_seg dksX4_nought_1 23 rfl rfl
theorem dX4_nought_0 : decode cX4_nought 0 = .ok (.aload_n 0, 1) := dk_42 (dk_at dksX4_nought_0 0 rfl rfl)
theorem dX4_nought_1 : decode cX4_nought 1 = .ok (.aload_n 0, 1) := dk_42 (dk_at dksX4_nought_0 1 rfl rfl)
theorem dX4_nought_2 : decode cX4_nought 2 = .ok (.getfield 242, 3) := dk_180 0 242 (dk_at dksX4_nought_0 2 rfl rfl)
theorem dX4_nought_5 : decode cX4_nought 5 = .ok (.iconst 1, 1) := dk_4 (dk_at dksX4_nought_0 5 rfl rfl)
theorem dX4_nought_6 : decode cX4_nought 6 = .ok (.iadd, 1) := dk_96 (dk_at dksX4_nought_0 6 rfl rfl)
theorem dX4_nought_7 : decode cX4_nought 7 = .ok (.putfield 280, 3) := dk_181 1 24 (dk_at dksX4_nought_0 7 rfl rfl)
theorem dX4_nought_10 : decode cX4_nought 10 = .ok (.aload_n 0, 1) := dk_42 (dk_at dksX4_nought_0 10 rfl rfl)
theorem dX4_nought_11 : decode cX4_nought 11 = .ok (.iconst 0, 1) := dk_3 (dk_at dksX4_nought_0 11 rfl rfl)
theorem dX4_nought_12 : decode cX4_nought 12 = .ok (.putfield 289, 3) := dk_181 1 33 (dk_at dksX4_nought_0 12 rfl rfl)
theorem dX4_nought_15 : decode cX4_nought 15 = .ok (.iconst 0, 1) := dk_3 (dk_at dksX4_nought_0 15 rfl rfl)
theorem dX4_nought_16 : decode cX4_nought 16 = .ok (.istore_n 1, 1) := dk_60 (dk_at dksX4_nought_0 16 rfl rfl)
theorem dX4_nought_17 : decode cX4_nought 17 = .ok (.iload_n 1, 1) := dk_27 (dk_at dksX4_nought_0 17 rfl rfl)
theorem dX4_nought_18 : decode cX4_nought 18 = .ok (.aload_n 0, 1) := dk_42 (dk_at dksX4_nought_0 18 rfl rfl)
theorem dX4_nought_19 : decode cX4_nought 19 = .ok (.getfield 280, 3) := dk_180 1 24 (dk_at dksX4_nought_0 19 rfl rfl)
theorem dX4_nought_22 : decode cX4_nought 22 = .ok (.if_icmp .ge 32, 3) := dk_162 0 32 (dk_at dksX4_nought_1 0 rfl rfl)
theorem dX4_nought_25 : decode cX4_nought 25 = .ok (.iconst 0, 1) := dk_3 (dk_at dksX4_nought_1 3 rfl rfl)
theorem dX4_nought_26 : decode cX4_nought 26 = .ok (.istore_n 2, 1) := dk_61 (dk_at dksX4_nought_1 4 rfl rfl)
theorem dX4_nought_27 : decode cX4_nought 27 = .ok (.iload_n 2, 1) := dk_28 (dk_at dksX4_nought_1 5 rfl rfl)
theorem dX4_nought_28 : decode cX4_nought 28 = .ok (.aload_n 0, 1) := dk_42 (dk_at dksX4_nought_1 6 rfl rfl)
theorem dX4_nought_29 : decode cX4_nought 29 = .ok (.getfield 280, 3) := dk_180 1 24 (dk_at dksX4_nought_1 7 rfl rfl)
theorem dX4_nought_32 : decode cX4_nought 32 = .ok (.if_icmp .ge 16, 3) := dk_162 0 16 (dk_at dksX4_nought_1 10 rfl rfl)
theorem dX4_nought_35 : decode cX4_nought 35 = .ok (.aload_n 0, 1) := dk_42 (dk_at dksX4_nought_1 13 rfl rfl)
theorem dX4_nought_36 : decode cX4_nought 36 = .ok (.iload_n 1, 1) := dk_27 (dk_at dksX4_nought_1 14 rfl rfl)
theorem dX4_nought_37 : decode cX4_nought 37 = .ok (.iload_n 2, 1) := dk_28 (dk_at dksX4_nought_1 15 rfl rfl)
theorem dX4_nought_38 : decode cX4_nought 38 = .ok (.iconst 1, 1) := dk_4 (dk_at dksX4_nought_1 16 rfl rfl)
theorem dX4_nought_39 : decode cX4_nought 39 = .ok (.invokevirtual 276, 3) := dk_182 1 20 (dk_at dksX4_nought_1 17 rfl rfl)
theorem dX4_nought_42 : decode cX4_nought 42 = .ok (.iinc 2 1, 3) := dk_132 2 1 (dk_at dksX4_nought_1 20 rfl rfl)
theorem dX4_nought_45 : decode cX4_nought 45 = .ok (.goto (-18), 3) := dk_167 255 238 (dk_at dksX4_nought_2 0 rfl rfl)
theorem dX4_nought_48 : decode cX4_nought 48 = .ok (.iinc 1 1, 3) := dk_132 1 1 (dk_at dksX4_nought_2 3 rfl rfl)
theorem dX4_nought_51 : decode cX4_nought 51 = .ok (.goto (-34), 3) := dk_167 255 222 (dk_at dksX4_nought_2 6 rfl rfl)
theorem dX4_nought_54 : decode cX4_nought 54 = .ok (.return_, 1) := dk_177 (dk_at dksX4_nought_2 9 rfl rfl)
def dkwX4_put_0 : List UInt8 := [42, 180, 0, 102, 16, 62, 27, 104, 28, 96, 29, 79, 177]
abbrev dktX4_put_0 : List UInt8 := dkwX4_put_0 ++ []
theorem dksX4_put_0 : cX4_put.data.toList.drop 0 = dktX4_put_0 := by decide +kernel
theorem dX4_put_0 : decode cX4_put 0 = .ok (.aload_n 0, 1) := dk_42 (dk_at dksX4_put_0 0 rfl rfl)
theorem dX4_put_1 : decode cX4_put 1 = .ok (.getfield 102, 3) := dk_180 0 102 (dk_at dksX4_put_0 1 rfl rfl)
theorem dX4_put_4 : decode cX4_put 4 = .ok (.bipush 62, 2) := dk_16 62 (dk_at dksX4_put_0 4 rfl rfl)
theorem dX4_put_6 : decode cX4_put 6 = .ok (.iload_n 1, 1) := dk_27 (dk_at dksX4_put_0 6 rfl rfl)
theorem dX4_put_7 : decode cX4_put 7 = .ok (.imul, 1) := dk_104 (dk_at dksX4_put_0 7 rfl rfl)
theorem dX4_put_8 : decode cX4_put 8 = .ok (.iload_n 2, 1) := dk_28 (dk_at dksX4_put_0 8 rfl rfl)
theorem dX4_put_9 : decode cX4_put 9 = .ok (.iadd, 1) := dk_96 (dk_at dksX4_put_0 9 rfl rfl)
theorem dX4_put_10 : decode cX4_put 10 = .ok (.iload_n 3, 1) := dk_29 (dk_at dksX4_put_0 10 rfl rfl)
theorem dX4_put_11 : decode cX4_put 11 = .ok (.iastore, 1) := dk_79 (dk_at dksX4_put_0 11 rfl rfl)
theorem dX4_put_12 : decode cX4_put 12 = .ok (.return_, 1) := dk_177 (dk_at dksX4_put_0 12 rfl rfl)
def dkwX4_stores_3 : List UInt8 := [167, 0, 4, 3, 79, 177]
abbrev dktX4_stores_3 : List UInt8 := dkwX4_stores_3 ++ []
def dkwX4_stores_2 : List UInt8 := [132, 2, 1, 167, 255, 208, 42, 180, 0, 44, 16, 100, 27, 96, 42, 180, 1, 33, 153, 0, 7, 4]
abbrev dktX4_stores_2 : List UInt8 := dkwX4_stores_2 ++ dktX4_stores_3
def dkwX4_stores_1 : List UInt8 := [16, 25, 27, 104, 8, 28, 104, 96, 29, 96, 42, 28, 29, 182, 1, 16, 79, 132, 3, 1, 167, 255, 224]
abbrev dktX4_stores_1 : List UInt8 := dkwX4_stores_1 ++ dktX4_stores_2
def dkwX4_stores_0 : List UInt8 := [3, 61, 28, 42, 180, 1, 24, 162, 0, 46, 3, 62, 29, 42, 180, 1, 24, 162, 0, 30, 42, 180, 0, 44]
abbrev dktX4_stores_0 : List UInt8 := dkwX4_stores_0 ++ dktX4_stores_1
theorem dksX4_stores_0 : cX4_stores.data.toList.drop 0 = dktX4_stores_0 := by decide +kernel
theorem dksX4_stores_1 : cX4_stores.data.toList.drop 24 = dktX4_stores_1 := dk_seg dksX4_stores_0 24 rfl rfl
theorem dksX4_stores_2 : cX4_stores.data.toList.drop 47 = dktX4_stores_2 := dk_seg dksX4_stores_1 23 rfl rfl
theorem dksX4_stores_3 : cX4_stores.data.toList.drop 69 = dktX4_stores_3 := dk_seg dksX4_stores_2 22 rfl rfl
theorem dX4_stores_0 : decode cX4_stores 0 = .ok (.iconst 0, 1) := dk_3 (dk_at dksX4_stores_0 0 rfl rfl)
theorem dX4_stores_1 : decode cX4_stores 1 = .ok (.istore_n 2, 1) := dk_61 (dk_at dksX4_stores_0 1 rfl rfl)
theorem dX4_stores_2 : decode cX4_stores 2 = .ok (.iload_n 2, 1) := dk_28 (dk_at dksX4_stores_0 2 rfl rfl)
theorem dX4_stores_3 : decode cX4_stores 3 = .ok (.aload_n 0, 1) := dk_42 (dk_at dksX4_stores_0 3 rfl rfl)
theorem dX4_stores_4 : decode cX4_stores 4 = .ok (.getfield 280, 3) := dk_180 1 24 (dk_at dksX4_stores_0 4 rfl rfl)
theorem dX4_stores_7 : decode cX4_stores 7 = .ok (.if_icmp .ge 46, 3) := dk_162 0 46 (dk_at dksX4_stores_0 7 rfl rfl)
theorem dX4_stores_10 : decode cX4_stores 10 = .ok (.iconst 0, 1) := dk_3 (dk_at dksX4_stores_0 10 rfl rfl)
theorem dX4_stores_11 : decode cX4_stores 11 = .ok (.istore_n 3, 1) := dk_62 (dk_at dksX4_stores_0 11 rfl rfl)
theorem dX4_stores_12 : decode cX4_stores 12 = .ok (.iload_n 3, 1) := dk_29 (dk_at dksX4_stores_0 12 rfl rfl)
theorem dX4_stores_13 : decode cX4_stores 13 = .ok (.aload_n 0, 1) := dk_42 (dk_at dksX4_stores_0 13 rfl rfl)
theorem dX4_stores_14 : decode cX4_stores 14 = .ok (.getfield 280, 3) := dk_180 1 24 (dk_at dksX4_stores_0 14 rfl rfl)
theorem dX4_stores_17 : decode cX4_stores 17 = .ok (.if_icmp .ge 30, 3) := dk_162 0 30 (dk_at dksX4_stores_0 17 rfl rfl)
theorem dX4_stores_20 : decode cX4_stores 20 = .ok (.aload_n 0, 1) := dk_42 (dk_at dksX4_stores_0 20 rfl rfl)
theorem dX4_stores_21 : decode cX4_stores 21 = .ok (.getfield 44, 3) := dk_180 0 44 (dk_at dksX4_stores_0 21 rfl rfl)
theorem dX4_stores_24 : decode cX4_stores 24 = .ok (.bipush 25, 2) := dk_16 25 (dk_at dksX4_stores_1 0 rfl rfl)
theorem dX4_stores_26 : decode cX4_stores 26 = .ok (.iload_n 1, 1) := dk_27 (dk_at dksX4_stores_1 2 rfl rfl)
theorem dX4_stores_27 : decode cX4_stores 27 = .ok (.imul, 1) := dk_104 (dk_at dksX4_stores_1 3 rfl rfl)
theorem dX4_stores_28 : decode cX4_stores 28 = .ok (.iconst 5, 1) := dk_8 (dk_at dksX4_stores_1 4 rfl rfl)
theorem dX4_stores_29 : decode cX4_stores 29 = .ok (.iload_n 2, 1) := dk_28 (dk_at dksX4_stores_1 5 rfl rfl)
theorem dX4_stores_30 : decode cX4_stores 30 = .ok (.imul, 1) := dk_104 (dk_at dksX4_stores_1 6 rfl rfl)
theorem dX4_stores_31 : decode cX4_stores 31 = .ok (.iadd, 1) := dk_96 (dk_at dksX4_stores_1 7 rfl rfl)
theorem dX4_stores_32 : decode cX4_stores 32 = .ok (.iload_n 3, 1) := dk_29 (dk_at dksX4_stores_1 8 rfl rfl)
theorem dX4_stores_33 : decode cX4_stores 33 = .ok (.iadd, 1) := dk_96 (dk_at dksX4_stores_1 9 rfl rfl)
theorem dX4_stores_34 : decode cX4_stores 34 = .ok (.aload_n 0, 1) := dk_42 (dk_at dksX4_stores_1 10 rfl rfl)
theorem dX4_stores_35 : decode cX4_stores 35 = .ok (.iload_n 2, 1) := dk_28 (dk_at dksX4_stores_1 11 rfl rfl)
theorem dX4_stores_36 : decode cX4_stores 36 = .ok (.iload_n 3, 1) := dk_29 (dk_at dksX4_stores_1 12 rfl rfl)
theorem dX4_stores_37 : decode cX4_stores 37 = .ok (.invokevirtual 272, 3) := dk_182 1 16 (dk_at dksX4_stores_1 13 rfl rfl)
theorem dX4_stores_40 : decode cX4_stores 40 = .ok (.iastore, 1) := dk_79 (dk_at dksX4_stores_1 16 rfl rfl)
theorem dX4_stores_41 : decode cX4_stores 41 = .ok (.iinc 3 1, 3) := dk_132 3 1 (dk_at dksX4_stores_1 17 rfl rfl)
theorem dX4_stores_44 : decode cX4_stores 44 = .ok (.goto (-32), 3) := dk_167 255 224 (dk_at dksX4_stores_1 20 rfl rfl)
theorem dX4_stores_47 : decode cX4_stores 47 = .ok (.iinc 2 1, 3) := dk_132 2 1 (dk_at dksX4_stores_2 0 rfl rfl)
theorem dX4_stores_50 : decode cX4_stores 50 = .ok (.goto (-48), 3) := dk_167 255 208 (dk_at dksX4_stores_2 3 rfl rfl)
theorem dX4_stores_53 : decode cX4_stores 53 = .ok (.aload_n 0, 1) := dk_42 (dk_at dksX4_stores_2 6 rfl rfl)
theorem dX4_stores_54 : decode cX4_stores 54 = .ok (.getfield 44, 3) := dk_180 0 44 (dk_at dksX4_stores_2 7 rfl rfl)
theorem dX4_stores_57 : decode cX4_stores 57 = .ok (.bipush 100, 2) := dk_16 100 (dk_at dksX4_stores_2 10 rfl rfl)
theorem dX4_stores_59 : decode cX4_stores 59 = .ok (.iload_n 1, 1) := dk_27 (dk_at dksX4_stores_2 12 rfl rfl)
theorem dX4_stores_60 : decode cX4_stores 60 = .ok (.iadd, 1) := dk_96 (dk_at dksX4_stores_2 13 rfl rfl)
theorem dX4_stores_61 : decode cX4_stores 61 = .ok (.aload_n 0, 1) := dk_42 (dk_at dksX4_stores_2 14 rfl rfl)
theorem dX4_stores_62 : decode cX4_stores 62 = .ok (.getfield 289, 3) := dk_180 1 33 (dk_at dksX4_stores_2 15 rfl rfl)
theorem dX4_stores_65 : decode cX4_stores 65 = .ok (.ifCond .eq 7, 3) := dk_153 0 7 (dk_at dksX4_stores_2 18 rfl rfl)
theorem dX4_stores_68 : decode cX4_stores 68 = .ok (.iconst 1, 1) := dk_4 (dk_at dksX4_stores_2 21 rfl rfl)
theorem dX4_stores_69 : decode cX4_stores 69 = .ok (.goto 4, 3) := dk_167 0 4 (dk_at dksX4_stores_3 0 rfl rfl)
theorem dX4_stores_72 : decode cX4_stores 72 = .ok (.iconst 0, 1) := dk_3 (dk_at dksX4_stores_3 3 rfl rfl)
theorem dX4_stores_73 : decode cX4_stores 73 = .ok (.iastore, 1) := dk_79 (dk_at dksX4_stores_3 4 rfl rfl)
theorem dX4_stores_74 : decode cX4_stores 74 = .ok (.return_, 1) := dk_177 (dk_at dksX4_stores_3 5 rfl rfl)
def dkwX4_get_0 : List UInt8 := [42, 180, 0, 102, 16, 62, 27, 104, 28, 96, 46, 172]
abbrev dktX4_get_0 : List UInt8 := dkwX4_get_0 ++ []
theorem dksX4_get_0 : cX4_get.data.toList.drop 0 = dktX4_get_0 := by decide +kernel
theorem dX4_get_0 : decode cX4_get 0 = .ok (.aload_n 0, 1) := dk_42 (dk_at dksX4_get_0 0 rfl rfl)
theorem dX4_get_1 : decode cX4_get 1 = .ok (.getfield 102, 3) := dk_180 0 102 (dk_at dksX4_get_0 1 rfl rfl)
theorem dX4_get_4 : decode cX4_get 4 = .ok (.bipush 62, 2) := dk_16 62 (dk_at dksX4_get_0 4 rfl rfl)
theorem dX4_get_6 : decode cX4_get 6 = .ok (.iload_n 1, 1) := dk_27 (dk_at dksX4_get_0 6 rfl rfl)
theorem dX4_get_7 : decode cX4_get 7 = .ok (.imul, 1) := dk_104 (dk_at dksX4_get_0 7 rfl rfl)
theorem dX4_get_8 : decode cX4_get 8 = .ok (.iload_n 2, 1) := dk_28 (dk_at dksX4_get_0 8 rfl rfl)
theorem dX4_get_9 : decode cX4_get 9 = .ok (.iadd, 1) := dk_96 (dk_at dksX4_get_0 9 rfl rfl)
theorem dX4_get_10 : decode cX4_get 10 = .ok (.iaload, 1) := dk_46 (dk_at dksX4_get_0 10 rfl rfl)
theorem dX4_get_11 : decode cX4_get 11 = .ok (.ireturn, 1) := dk_172 (dk_at dksX4_get_0 11 rfl rfl)
def dkwX4_feed_2 : List UInt8 := [182, 0, 136, 42, 180, 0, 133, 172]
abbrev dktX4_feed_2 : List UInt8 := dkwX4_feed_2 ++ []
def dkwX4_feed_1 : List UInt8 := [182, 0, 136, 42, 28, 182, 0, 136, 42, 29, 182, 0, 136, 42, 21, 4, 182, 0, 136, 42, 21, 5]
abbrev dktX4_feed_1 : List UInt8 := dkwX4_feed_1 ++ dktX4_feed_2
def dkwX4_feed_0 : List UInt8 := [42, 3, 181, 0, 1, 42, 180, 0, 133, 16, 20, 96, 17, 3, 132, 164, 0, 5, 2, 172, 42, 27]
abbrev dktX4_feed_0 : List UInt8 := dkwX4_feed_0 ++ dktX4_feed_1
theorem dksX4_feed_0 : cX4_feed.data.toList.drop 0 = dktX4_feed_0 := by decide +kernel
theorem dksX4_feed_1 : cX4_feed.data.toList.drop 22 = dktX4_feed_1 := dk_seg dksX4_feed_0 22 rfl rfl
theorem dksX4_feed_2 : cX4_feed.data.toList.drop 44 = dktX4_feed_2 := dk_seg dksX4_feed_1 22 rfl rfl
theorem dX4_feed_0 : decode cX4_feed 0 = .ok (.aload_n 0, 1) := dk_42 (dk_at dksX4_feed_0 0 rfl rfl)
theorem dX4_feed_1 : decode cX4_feed 1 = .ok (.iconst 0, 1) := dk_3 (dk_at dksX4_feed_0 1 rfl rfl)
theorem dX4_feed_2 : decode cX4_feed 2 = .ok (.putfield 1, 3) := dk_181 0 1 (dk_at dksX4_feed_0 2 rfl rfl)
theorem dX4_feed_5 : decode cX4_feed 5 = .ok (.aload_n 0, 1) := dk_42 (dk_at dksX4_feed_0 5 rfl rfl)
theorem dX4_feed_6 : decode cX4_feed 6 = .ok (.getfield 133, 3) := dk_180 0 133 (dk_at dksX4_feed_0 6 rfl rfl)
theorem dX4_feed_9 : decode cX4_feed 9 = .ok (.bipush 20, 2) := dk_16 20 (dk_at dksX4_feed_0 9 rfl rfl)
theorem dX4_feed_11 : decode cX4_feed 11 = .ok (.iadd, 1) := dk_96 (dk_at dksX4_feed_0 11 rfl rfl)
theorem dX4_feed_12 : decode cX4_feed 12 = .ok (.sipush 900, 3) := dk_17 3 132 (dk_at dksX4_feed_0 12 rfl rfl)
theorem dX4_feed_15 : decode cX4_feed 15 = .ok (.if_icmp .le 5, 3) := dk_164 0 5 (dk_at dksX4_feed_0 15 rfl rfl)
theorem dX4_feed_18 : decode cX4_feed 18 = .ok (.iconst (-1), 1) := dk_2 (dk_at dksX4_feed_0 18 rfl rfl)
theorem dX4_feed_19 : decode cX4_feed 19 = .ok (.ireturn, 1) := dk_172 (dk_at dksX4_feed_0 19 rfl rfl)
theorem dX4_feed_20 : decode cX4_feed 20 = .ok (.aload_n 0, 1) := dk_42 (dk_at dksX4_feed_0 20 rfl rfl)
theorem dX4_feed_21 : decode cX4_feed 21 = .ok (.iload_n 1, 1) := dk_27 (dk_at dksX4_feed_0 21 rfl rfl)
theorem dX4_feed_22 : decode cX4_feed 22 = .ok (.invokevirtual 136, 3) := dk_182 0 136 (dk_at dksX4_feed_1 0 rfl rfl)
theorem dX4_feed_25 : decode cX4_feed 25 = .ok (.aload_n 0, 1) := dk_42 (dk_at dksX4_feed_1 3 rfl rfl)
theorem dX4_feed_26 : decode cX4_feed 26 = .ok (.iload_n 2, 1) := dk_28 (dk_at dksX4_feed_1 4 rfl rfl)
theorem dX4_feed_27 : decode cX4_feed 27 = .ok (.invokevirtual 136, 3) := dk_182 0 136 (dk_at dksX4_feed_1 5 rfl rfl)
theorem dX4_feed_30 : decode cX4_feed 30 = .ok (.aload_n 0, 1) := dk_42 (dk_at dksX4_feed_1 8 rfl rfl)
theorem dX4_feed_31 : decode cX4_feed 31 = .ok (.iload_n 3, 1) := dk_29 (dk_at dksX4_feed_1 9 rfl rfl)
theorem dX4_feed_32 : decode cX4_feed 32 = .ok (.invokevirtual 136, 3) := dk_182 0 136 (dk_at dksX4_feed_1 10 rfl rfl)
theorem dX4_feed_35 : decode cX4_feed 35 = .ok (.aload_n 0, 1) := dk_42 (dk_at dksX4_feed_1 13 rfl rfl)
theorem dX4_feed_36 : decode cX4_feed 36 = .ok (.iload 4, 2) := dk_21 4 (dk_at dksX4_feed_1 14 rfl rfl)
theorem dX4_feed_38 : decode cX4_feed 38 = .ok (.invokevirtual 136, 3) := dk_182 0 136 (dk_at dksX4_feed_1 16 rfl rfl)
theorem dX4_feed_41 : decode cX4_feed 41 = .ok (.aload_n 0, 1) := dk_42 (dk_at dksX4_feed_1 19 rfl rfl)
theorem dX4_feed_42 : decode cX4_feed 42 = .ok (.iload 5, 2) := dk_21 5 (dk_at dksX4_feed_1 20 rfl rfl)
theorem dX4_feed_44 : decode cX4_feed 44 = .ok (.invokevirtual 136, 3) := dk_182 0 136 (dk_at dksX4_feed_2 0 rfl rfl)
theorem dX4_feed_47 : decode cX4_feed 47 = .ok (.aload_n 0, 1) := dk_42 (dk_at dksX4_feed_2 3 rfl rfl)
theorem dX4_feed_48 : decode cX4_feed 48 = .ok (.getfield 133, 3) := dk_180 0 133 (dk_at dksX4_feed_2 4 rfl rfl)
theorem dX4_feed_51 : decode cX4_feed 51 = .ok (.ireturn, 1) := dk_172 (dk_at dksX4_feed_2 7 rfl rfl)
def dkwX4_four_1 : List UInt8 := [180, 0, 133, 4, 96, 181, 0, 133, 132, 2, 248, 167, 255, 226, 177]
abbrev dktX4_four_1 : List UInt8 := dkwX4_four_1 ++ []
def dkwX4_four_0 : List UInt8 := [16, 24, 61, 28, 155, 0, 32, 42, 180, 0, 62, 42, 180, 0, 133, 27, 28, 122, 145, 84, 42, 89]
abbrev dktX4_four_0 : List UInt8 := dkwX4_four_0 ++ dktX4_four_1
theorem dksX4_four_0 : cX4_four.data.toList.drop 0 = dktX4_four_0 := by decide +kernel
theorem dksX4_four_1 : cX4_four.data.toList.drop 22 = dktX4_four_1 := dk_seg dksX4_four_0 22 rfl rfl
theorem dX4_four_0 : decode cX4_four 0 = .ok (.bipush 24, 2) := dk_16 24 (dk_at dksX4_four_0 0 rfl rfl)
theorem dX4_four_2 : decode cX4_four 2 = .ok (.istore_n 2, 1) := dk_61 (dk_at dksX4_four_0 2 rfl rfl)
theorem dX4_four_3 : decode cX4_four 3 = .ok (.iload_n 2, 1) := dk_28 (dk_at dksX4_four_0 3 rfl rfl)
theorem dX4_four_4 : decode cX4_four 4 = .ok (.ifCond .lt 32, 3) := dk_155 0 32 (dk_at dksX4_four_0 4 rfl rfl)
theorem dX4_four_7 : decode cX4_four 7 = .ok (.aload_n 0, 1) := dk_42 (dk_at dksX4_four_0 7 rfl rfl)
theorem dX4_four_8 : decode cX4_four 8 = .ok (.getfield 62, 3) := dk_180 0 62 (dk_at dksX4_four_0 8 rfl rfl)
theorem dX4_four_11 : decode cX4_four 11 = .ok (.aload_n 0, 1) := dk_42 (dk_at dksX4_four_0 11 rfl rfl)
theorem dX4_four_12 : decode cX4_four 12 = .ok (.getfield 133, 3) := dk_180 0 133 (dk_at dksX4_four_0 12 rfl rfl)
theorem dX4_four_15 : decode cX4_four 15 = .ok (.iload_n 1, 1) := dk_27 (dk_at dksX4_four_0 15 rfl rfl)
theorem dX4_four_16 : decode cX4_four 16 = .ok (.iload_n 2, 1) := dk_28 (dk_at dksX4_four_0 16 rfl rfl)
theorem dX4_four_17 : decode cX4_four 17 = .ok (.ishr, 1) := dk_122 (dk_at dksX4_four_0 17 rfl rfl)
theorem dX4_four_18 : decode cX4_four 18 = .ok (.i2b, 1) := dk_145 (dk_at dksX4_four_0 18 rfl rfl)
theorem dX4_four_19 : decode cX4_four 19 = .ok (.bastore, 1) := dk_84 (dk_at dksX4_four_0 19 rfl rfl)
theorem dX4_four_20 : decode cX4_four 20 = .ok (.aload_n 0, 1) := dk_42 (dk_at dksX4_four_0 20 rfl rfl)
theorem dX4_four_21 : decode cX4_four 21 = .ok (.dup, 1) := dk_89 (dk_at dksX4_four_0 21 rfl rfl)
theorem dX4_four_22 : decode cX4_four 22 = .ok (.getfield 133, 3) := dk_180 0 133 (dk_at dksX4_four_1 0 rfl rfl)
theorem dX4_four_25 : decode cX4_four 25 = .ok (.iconst 1, 1) := dk_4 (dk_at dksX4_four_1 3 rfl rfl)
theorem dX4_four_26 : decode cX4_four 26 = .ok (.iadd, 1) := dk_96 (dk_at dksX4_four_1 4 rfl rfl)
theorem dX4_four_27 : decode cX4_four 27 = .ok (.putfield 133, 3) := dk_181 0 133 (dk_at dksX4_four_1 5 rfl rfl)
theorem dX4_four_30 : decode cX4_four 30 = .ok (.iinc 2 (-8), 3) := dk_132 2 248 (dk_at dksX4_four_1 8 rfl rfl)
theorem dX4_four_33 : decode cX4_four 33 = .ok (.goto (-30), 3) := dk_167 255 226 (dk_at dksX4_four_1 11 rfl rfl)
theorem dX4_four_36 : decode cX4_four 36 = .ok (.return_, 1) := dk_177 (dk_at dksX4_four_1 14 rfl rfl)
def dkwX4_text_7 : List UInt8 := [180, 0, 162, 153, 0, 5, 2, 172, 42, 182, 0, 236, 42, 180, 0, 239, 172]
abbrev dktX4_text_7 : List UInt8 := dkwX4_text_7 ++ []
def dkwX4_text_6 : List UInt8 := [181, 0, 230, 167, 255, 199, 42, 42, 180, 0, 189, 158, 0, 7, 4, 167, 0, 4, 3, 7, 182, 0, 174, 42]
abbrev dktX4_text_6 : List UInt8 := dkwX4_text_6 ++ dktX4_text_7
def dkwX4_text_5 : List UInt8 := [4, 182, 0, 174, 42, 180, 0, 162, 154, 0, 7, 42, 182, 0, 178, 42, 89, 180, 0, 230, 4, 96]
abbrev dktX4_text_5 : List UInt8 := dkwX4_text_5 ++ dktX4_text_6
def dkwX4_text_4 : List UInt8 := [180, 0, 155, 153, 0, 49, 42, 182, 0, 233, 42, 42, 180, 0, 155, 6, 160, 0, 7, 4, 167, 0, 4, 3]
abbrev dktX4_text_4 : List UInt8 := dkwX4_text_4 ++ dktX4_text_5
def dkwX4_text_3 : List UInt8 := [42, 3, 181, 0, 139, 42, 3, 181, 0, 133, 42, 182, 0, 178, 42, 180, 0, 162, 154, 0, 56, 42]
abbrev dktX4_text_3 : List UInt8 := dkwX4_text_3 ++ dktX4_text_4
def dkwX4_text_2 : List UInt8 := [3, 181, 0, 189, 42, 3, 181, 0, 215, 42, 3, 181, 0, 227, 42, 3, 181, 0, 224, 42, 3, 181, 0, 230]
abbrev dktX4_text_2 : List UInt8 := dkwX4_text_2 ++ dktX4_text_3
def dkwX4_text_1 : List UInt8 := [181, 0, 142, 42, 3, 181, 0, 162, 42, 3, 181, 0, 166, 42, 2, 181, 0, 66, 42, 3, 181, 0, 203, 42]
abbrev dktX4_text_1 : List UInt8 := dkwX4_text_1 ++ dktX4_text_2
def dkwX4_text_0 : List UInt8 := [42, 3, 181, 0, 1, 27, 3, 42, 180, 0, 133, 184, 0, 158, 154, 0, 6, 16, 254, 172, 42, 27]
abbrev dktX4_text_0 : List UInt8 := dkwX4_text_0 ++ dktX4_text_1
theorem dksX4_text_0 : cX4_text.data.toList.drop 0 = dktX4_text_0 := by decide +kernel
theorem dksX4_text_1 : cX4_text.data.toList.drop 22 = dktX4_text_1 := dk_seg dksX4_text_0 22 rfl rfl
theorem dksX4_text_2 : cX4_text.data.toList.drop 46 = dktX4_text_2 := dk_seg dksX4_text_1 24 rfl rfl
theorem dksX4_text_3 : cX4_text.data.toList.drop 70 = dktX4_text_3 := dk_seg dksX4_text_2 24 rfl rfl
theorem dksX4_text_4 : cX4_text.data.toList.drop 92 = dktX4_text_4 := dk_seg dksX4_text_3 22 rfl rfl
theorem dksX4_text_5 : cX4_text.data.toList.drop 116 = dktX4_text_5 := dk_seg dksX4_text_4 24 rfl rfl
theorem dksX4_text_6 : cX4_text.data.toList.drop 138 = dktX4_text_6 := dk_seg dksX4_text_5 22 rfl rfl
theorem dksX4_text_7 : cX4_text.data.toList.drop 162 = dktX4_text_7 := dk_seg dksX4_text_6 24 rfl rfl
theorem dX4_text_0 : decode cX4_text 0 = .ok (.aload_n 0, 1) := dk_42 (dk_at dksX4_text_0 0 rfl rfl)
theorem dX4_text_1 : decode cX4_text 1 = .ok (.iconst 0, 1) := dk_3 (dk_at dksX4_text_0 1 rfl rfl)
theorem dX4_text_2 : decode cX4_text 2 = .ok (.putfield 1, 3) := dk_181 0 1 (dk_at dksX4_text_0 2 rfl rfl)
theorem dX4_text_5 : decode cX4_text 5 = .ok (.iload_n 1, 1) := dk_27 (dk_at dksX4_text_0 5 rfl rfl)
theorem dX4_text_6 : decode cX4_text 6 = .ok (.iconst 0, 1) := dk_3 (dk_at dksX4_text_0 6 rfl rfl)
theorem dX4_text_7 : decode cX4_text 7 = .ok (.aload_n 0, 1) := dk_42 (dk_at dksX4_text_0 7 rfl rfl)
theorem dX4_text_8 : decode cX4_text 8 = .ok (.getfield 133, 3) := dk_180 0 133 (dk_at dksX4_text_0 8 rfl rfl)
theorem dX4_text_11 : decode cX4_text 11 = .ok (.invokestatic 158, 3) := dk_184 0 158 (dk_at dksX4_text_0 11 rfl rfl)
theorem dX4_text_14 : decode cX4_text 14 = .ok (.ifCond .ne 6, 3) := dk_154 0 6 (dk_at dksX4_text_0 14 rfl rfl)
theorem dX4_text_17 : decode cX4_text 17 = .ok (.bipush (-2), 2) := dk_16 254 (dk_at dksX4_text_0 17 rfl rfl)
theorem dX4_text_19 : decode cX4_text 19 = .ok (.ireturn, 1) := dk_172 (dk_at dksX4_text_0 19 rfl rfl)
theorem dX4_text_20 : decode cX4_text 20 = .ok (.aload_n 0, 1) := dk_42 (dk_at dksX4_text_0 20 rfl rfl)
theorem dX4_text_21 : decode cX4_text 21 = .ok (.iload_n 1, 1) := dk_27 (dk_at dksX4_text_0 21 rfl rfl)
theorem dX4_text_22 : decode cX4_text 22 = .ok (.putfield 142, 3) := dk_181 0 142 (dk_at dksX4_text_1 0 rfl rfl)
theorem dX4_text_25 : decode cX4_text 25 = .ok (.aload_n 0, 1) := dk_42 (dk_at dksX4_text_1 3 rfl rfl)
theorem dX4_text_26 : decode cX4_text 26 = .ok (.iconst 0, 1) := dk_3 (dk_at dksX4_text_1 4 rfl rfl)
theorem dX4_text_27 : decode cX4_text 27 = .ok (.putfield 162, 3) := dk_181 0 162 (dk_at dksX4_text_1 5 rfl rfl)
theorem dX4_text_30 : decode cX4_text 30 = .ok (.aload_n 0, 1) := dk_42 (dk_at dksX4_text_1 8 rfl rfl)
theorem dX4_text_31 : decode cX4_text 31 = .ok (.iconst 0, 1) := dk_3 (dk_at dksX4_text_1 9 rfl rfl)
theorem dX4_text_32 : decode cX4_text 32 = .ok (.putfield 166, 3) := dk_181 0 166 (dk_at dksX4_text_1 10 rfl rfl)
theorem dX4_text_35 : decode cX4_text 35 = .ok (.aload_n 0, 1) := dk_42 (dk_at dksX4_text_1 13 rfl rfl)
theorem dX4_text_36 : decode cX4_text 36 = .ok (.iconst (-1), 1) := dk_2 (dk_at dksX4_text_1 14 rfl rfl)
theorem dX4_text_37 : decode cX4_text 37 = .ok (.putfield 66, 3) := dk_181 0 66 (dk_at dksX4_text_1 15 rfl rfl)
theorem dX4_text_40 : decode cX4_text 40 = .ok (.aload_n 0, 1) := dk_42 (dk_at dksX4_text_1 18 rfl rfl)
theorem dX4_text_41 : decode cX4_text 41 = .ok (.iconst 0, 1) := dk_3 (dk_at dksX4_text_1 19 rfl rfl)
theorem dX4_text_42 : decode cX4_text 42 = .ok (.putfield 203, 3) := dk_181 0 203 (dk_at dksX4_text_1 20 rfl rfl)
theorem dX4_text_45 : decode cX4_text 45 = .ok (.aload_n 0, 1) := dk_42 (dk_at dksX4_text_1 23 rfl rfl)
theorem dX4_text_46 : decode cX4_text 46 = .ok (.iconst 0, 1) := dk_3 (dk_at dksX4_text_2 0 rfl rfl)
theorem dX4_text_47 : decode cX4_text 47 = .ok (.putfield 189, 3) := dk_181 0 189 (dk_at dksX4_text_2 1 rfl rfl)
theorem dX4_text_50 : decode cX4_text 50 = .ok (.aload_n 0, 1) := dk_42 (dk_at dksX4_text_2 4 rfl rfl)
theorem dX4_text_51 : decode cX4_text 51 = .ok (.iconst 0, 1) := dk_3 (dk_at dksX4_text_2 5 rfl rfl)
theorem dX4_text_52 : decode cX4_text 52 = .ok (.putfield 215, 3) := dk_181 0 215 (dk_at dksX4_text_2 6 rfl rfl)
theorem dX4_text_55 : decode cX4_text 55 = .ok (.aload_n 0, 1) := dk_42 (dk_at dksX4_text_2 9 rfl rfl)
theorem dX4_text_56 : decode cX4_text 56 = .ok (.iconst 0, 1) := dk_3 (dk_at dksX4_text_2 10 rfl rfl)
theorem dX4_text_57 : decode cX4_text 57 = .ok (.putfield 227, 3) := dk_181 0 227 (dk_at dksX4_text_2 11 rfl rfl)
theorem dX4_text_60 : decode cX4_text 60 = .ok (.aload_n 0, 1) := dk_42 (dk_at dksX4_text_2 14 rfl rfl)
theorem dX4_text_61 : decode cX4_text 61 = .ok (.iconst 0, 1) := dk_3 (dk_at dksX4_text_2 15 rfl rfl)
theorem dX4_text_62 : decode cX4_text 62 = .ok (.putfield 224, 3) := dk_181 0 224 (dk_at dksX4_text_2 16 rfl rfl)
theorem dX4_text_65 : decode cX4_text 65 = .ok (.aload_n 0, 1) := dk_42 (dk_at dksX4_text_2 19 rfl rfl)
theorem dX4_text_66 : decode cX4_text 66 = .ok (.iconst 0, 1) := dk_3 (dk_at dksX4_text_2 20 rfl rfl)
theorem dX4_text_67 : decode cX4_text 67 = .ok (.putfield 230, 3) := dk_181 0 230 (dk_at dksX4_text_2 21 rfl rfl)
theorem dX4_text_70 : decode cX4_text 70 = .ok (.aload_n 0, 1) := dk_42 (dk_at dksX4_text_3 0 rfl rfl)
theorem dX4_text_71 : decode cX4_text 71 = .ok (.iconst 0, 1) := dk_3 (dk_at dksX4_text_3 1 rfl rfl)
theorem dX4_text_72 : decode cX4_text 72 = .ok (.putfield 139, 3) := dk_181 0 139 (dk_at dksX4_text_3 2 rfl rfl)
theorem dX4_text_75 : decode cX4_text 75 = .ok (.aload_n 0, 1) := dk_42 (dk_at dksX4_text_3 5 rfl rfl)
theorem dX4_text_76 : decode cX4_text 76 = .ok (.iconst 0, 1) := dk_3 (dk_at dksX4_text_3 6 rfl rfl)
theorem dX4_text_77 : decode cX4_text 77 = .ok (.putfield 133, 3) := dk_181 0 133 (dk_at dksX4_text_3 7 rfl rfl)
theorem dX4_text_80 : decode cX4_text 80 = .ok (.aload_n 0, 1) := dk_42 (dk_at dksX4_text_3 10 rfl rfl)
theorem dX4_text_81 : decode cX4_text 81 = .ok (.invokevirtual 178, 3) := dk_182 0 178 (dk_at dksX4_text_3 11 rfl rfl)
theorem dX4_text_84 : decode cX4_text 84 = .ok (.aload_n 0, 1) := dk_42 (dk_at dksX4_text_3 14 rfl rfl)
theorem dX4_text_85 : decode cX4_text 85 = .ok (.getfield 162, 3) := dk_180 0 162 (dk_at dksX4_text_3 15 rfl rfl)
theorem dX4_text_88 : decode cX4_text 88 = .ok (.ifCond .ne 56, 3) := dk_154 0 56 (dk_at dksX4_text_3 18 rfl rfl)
theorem dX4_text_91 : decode cX4_text 91 = .ok (.aload_n 0, 1) := dk_42 (dk_at dksX4_text_3 21 rfl rfl)
theorem dX4_text_92 : decode cX4_text 92 = .ok (.getfield 155, 3) := dk_180 0 155 (dk_at dksX4_text_4 0 rfl rfl)
theorem dX4_text_95 : decode cX4_text 95 = .ok (.ifCond .eq 49, 3) := dk_153 0 49 (dk_at dksX4_text_4 3 rfl rfl)
theorem dX4_text_98 : decode cX4_text 98 = .ok (.aload_n 0, 1) := dk_42 (dk_at dksX4_text_4 6 rfl rfl)
theorem dX4_text_99 : decode cX4_text 99 = .ok (.invokevirtual 233, 3) := dk_182 0 233 (dk_at dksX4_text_4 7 rfl rfl)
theorem dX4_text_102 : decode cX4_text 102 = .ok (.aload_n 0, 1) := dk_42 (dk_at dksX4_text_4 10 rfl rfl)
theorem dX4_text_103 : decode cX4_text 103 = .ok (.aload_n 0, 1) := dk_42 (dk_at dksX4_text_4 11 rfl rfl)
theorem dX4_text_104 : decode cX4_text 104 = .ok (.getfield 155, 3) := dk_180 0 155 (dk_at dksX4_text_4 12 rfl rfl)
theorem dX4_text_107 : decode cX4_text 107 = .ok (.iconst 3, 1) := dk_6 (dk_at dksX4_text_4 15 rfl rfl)
theorem dX4_text_108 : decode cX4_text 108 = .ok (.if_icmp .ne 7, 3) := dk_160 0 7 (dk_at dksX4_text_4 16 rfl rfl)
theorem dX4_text_111 : decode cX4_text 111 = .ok (.iconst 1, 1) := dk_4 (dk_at dksX4_text_4 19 rfl rfl)
theorem dX4_text_112 : decode cX4_text 112 = .ok (.goto 4, 3) := dk_167 0 4 (dk_at dksX4_text_4 20 rfl rfl)
theorem dX4_text_115 : decode cX4_text 115 = .ok (.iconst 0, 1) := dk_3 (dk_at dksX4_text_4 23 rfl rfl)
theorem dX4_text_116 : decode cX4_text 116 = .ok (.iconst 1, 1) := dk_4 (dk_at dksX4_text_5 0 rfl rfl)
theorem dX4_text_117 : decode cX4_text 117 = .ok (.invokevirtual 174, 3) := dk_182 0 174 (dk_at dksX4_text_5 1 rfl rfl)
theorem dX4_text_120 : decode cX4_text 120 = .ok (.aload_n 0, 1) := dk_42 (dk_at dksX4_text_5 4 rfl rfl)
theorem dX4_text_121 : decode cX4_text 121 = .ok (.getfield 162, 3) := dk_180 0 162 (dk_at dksX4_text_5 5 rfl rfl)
theorem dX4_text_124 : decode cX4_text 124 = .ok (.ifCond .ne 7, 3) := dk_154 0 7 (dk_at dksX4_text_5 8 rfl rfl)
theorem dX4_text_127 : decode cX4_text 127 = .ok (.aload_n 0, 1) := dk_42 (dk_at dksX4_text_5 11 rfl rfl)
theorem dX4_text_128 : decode cX4_text 128 = .ok (.invokevirtual 178, 3) := dk_182 0 178 (dk_at dksX4_text_5 12 rfl rfl)
theorem dX4_text_131 : decode cX4_text 131 = .ok (.aload_n 0, 1) := dk_42 (dk_at dksX4_text_5 15 rfl rfl)
theorem dX4_text_132 : decode cX4_text 132 = .ok (.dup, 1) := dk_89 (dk_at dksX4_text_5 16 rfl rfl)
theorem dX4_text_133 : decode cX4_text 133 = .ok (.getfield 230, 3) := dk_180 0 230 (dk_at dksX4_text_5 17 rfl rfl)
theorem dX4_text_136 : decode cX4_text 136 = .ok (.iconst 1, 1) := dk_4 (dk_at dksX4_text_5 20 rfl rfl)
theorem dX4_text_137 : decode cX4_text 137 = .ok (.iadd, 1) := dk_96 (dk_at dksX4_text_5 21 rfl rfl)
theorem dX4_text_138 : decode cX4_text 138 = .ok (.putfield 230, 3) := dk_181 0 230 (dk_at dksX4_text_6 0 rfl rfl)
theorem dX4_text_141 : decode cX4_text 141 = .ok (.goto (-57), 3) := dk_167 255 199 (dk_at dksX4_text_6 3 rfl rfl)
theorem dX4_text_144 : decode cX4_text 144 = .ok (.aload_n 0, 1) := dk_42 (dk_at dksX4_text_6 6 rfl rfl)
theorem dX4_text_145 : decode cX4_text 145 = .ok (.aload_n 0, 1) := dk_42 (dk_at dksX4_text_6 7 rfl rfl)
theorem dX4_text_146 : decode cX4_text 146 = .ok (.getfield 189, 3) := dk_180 0 189 (dk_at dksX4_text_6 8 rfl rfl)
theorem dX4_text_149 : decode cX4_text 149 = .ok (.ifCond .le 7, 3) := dk_158 0 7 (dk_at dksX4_text_6 11 rfl rfl)
theorem dX4_text_152 : decode cX4_text 152 = .ok (.iconst 1, 1) := dk_4 (dk_at dksX4_text_6 14 rfl rfl)
theorem dX4_text_153 : decode cX4_text 153 = .ok (.goto 4, 3) := dk_167 0 4 (dk_at dksX4_text_6 15 rfl rfl)
theorem dX4_text_156 : decode cX4_text 156 = .ok (.iconst 0, 1) := dk_3 (dk_at dksX4_text_6 18 rfl rfl)
theorem dX4_text_157 : decode cX4_text 157 = .ok (.iconst 4, 1) := dk_7 (dk_at dksX4_text_6 19 rfl rfl)
theorem dX4_text_158 : decode cX4_text 158 = .ok (.invokevirtual 174, 3) := dk_182 0 174 (dk_at dksX4_text_6 20 rfl rfl)
theorem dX4_text_161 : decode cX4_text 161 = .ok (.aload_n 0, 1) := dk_42 (dk_at dksX4_text_6 23 rfl rfl)
theorem dX4_text_162 : decode cX4_text 162 = .ok (.getfield 162, 3) := dk_180 0 162 (dk_at dksX4_text_7 0 rfl rfl)
theorem dX4_text_165 : decode cX4_text 165 = .ok (.ifCond .eq 5, 3) := dk_153 0 5 (dk_at dksX4_text_7 3 rfl rfl)
theorem dX4_text_168 : decode cX4_text 168 = .ok (.iconst (-1), 1) := dk_2 (dk_at dksX4_text_7 6 rfl rfl)
theorem dX4_text_169 : decode cX4_text 169 = .ok (.ireturn, 1) := dk_172 (dk_at dksX4_text_7 7 rfl rfl)
theorem dX4_text_170 : decode cX4_text 170 = .ok (.aload_n 0, 1) := dk_42 (dk_at dksX4_text_7 8 rfl rfl)
theorem dX4_text_171 : decode cX4_text 171 = .ok (.invokevirtual 236, 3) := dk_182 0 236 (dk_at dksX4_text_7 9 rfl rfl)
theorem dX4_text_174 : decode cX4_text 174 = .ok (.aload_n 0, 1) := dk_42 (dk_at dksX4_text_7 12 rfl rfl)
theorem dX4_text_175 : decode cX4_text 175 = .ok (.getfield 239, 3) := dk_180 0 239 (dk_at dksX4_text_7 13 rfl rfl)
theorem dX4_text_178 : decode cX4_text 178 = .ok (.ireturn, 1) := dk_172 (dk_at dksX4_text_7 16 rfl rfl)
def dkwX4_isIn_0 : List UInt8 := [26, 27, 161, 0, 12, 26, 28, 163, 0, 7, 4, 167, 0, 4, 3, 172]
abbrev dktX4_isIn_0 : List UInt8 := dkwX4_isIn_0 ++ []
theorem dksX4_isIn_0 : cX4_isIn.data.toList.drop 0 = dktX4_isIn_0 := by decide +kernel
theorem dX4_isIn_0 : decode cX4_isIn 0 = .ok (.iload_n 0, 1) := dk_26 (dk_at dksX4_isIn_0 0 rfl rfl)
theorem dX4_isIn_1 : decode cX4_isIn 1 = .ok (.iload_n 1, 1) := dk_27 (dk_at dksX4_isIn_0 1 rfl rfl)
theorem dX4_isIn_2 : decode cX4_isIn 2 = .ok (.if_icmp .lt 12, 3) := dk_161 0 12 (dk_at dksX4_isIn_0 2 rfl rfl)
theorem dX4_isIn_5 : decode cX4_isIn 5 = .ok (.iload_n 0, 1) := dk_26 (dk_at dksX4_isIn_0 5 rfl rfl)
theorem dX4_isIn_6 : decode cX4_isIn 6 = .ok (.iload_n 2, 1) := dk_28 (dk_at dksX4_isIn_0 6 rfl rfl)
theorem dX4_isIn_7 : decode cX4_isIn 7 = .ok (.if_icmp .gt 7, 3) := dk_163 0 7 (dk_at dksX4_isIn_0 7 rfl rfl)
theorem dX4_isIn_10 : decode cX4_isIn 10 = .ok (.iconst 1, 1) := dk_4 (dk_at dksX4_isIn_0 10 rfl rfl)
theorem dX4_isIn_11 : decode cX4_isIn 11 = .ok (.goto 4, 3) := dk_167 0 4 (dk_at dksX4_isIn_0 11 rfl rfl)
theorem dX4_isIn_14 : decode cX4_isIn 14 = .ok (.iconst 0, 1) := dk_3 (dk_at dksX4_isIn_0 14 rfl rfl)
theorem dX4_isIn_15 : decode cX4_isIn 15 = .ok (.ireturn, 1) := dk_172 (dk_at dksX4_isIn_0 15 rfl rfl)
def dkwX4_advance_15 : List UInt8 := [153, 0, 7, 4, 167, 0, 16, 3, 167, 0, 12, 28, 153, 0, 7, 6, 167, 0, 4, 7, 181, 0, 152, 177]
abbrev dktX4_advance_15 : List UInt8 := dkwX4_advance_15 ++ []
def dkwX4_advance_14 : List UInt8 := [96, 181, 0, 139, 42, 27, 16, 61, 160, 0, 7, 5, 167, 0, 30, 27, 16, 60, 160, 0, 15, 28]
abbrev dktX4_advance_14 : List UInt8 := dkwX4_advance_14 ++ dktX4_advance_15
def dkwX4_advance_13 : List UInt8 := [182, 0, 145, 16, 61, 160, 0, 7, 4, 167, 0, 4, 3, 61, 28, 153, 0, 13, 42, 89, 180, 0, 139, 4]
abbrev dktX4_advance_13 : List UInt8 := dkwX4_advance_13 ++ dktX4_advance_14
def dkwX4_advance_12 : List UInt8 := [167, 0, 4, 8, 181, 0, 155, 27, 16, 61, 159, 0, 24, 42, 180, 0, 155, 7, 160, 0, 16, 42]
abbrev dktX4_advance_12 : List UInt8 := dkwX4_advance_12 ++ dktX4_advance_13
def dkwX4_advance_11 : List UInt8 := [6, 167, 0, 26, 27, 16, 60, 159, 0, 15, 27, 16, 61, 159, 0, 9, 27, 16, 62, 160, 0, 7, 7]
abbrev dktX4_advance_11 : List UInt8 := dkwX4_advance_11 ++ dktX4_advance_12
def dkwX4_advance_10 : List UInt8 := [96, 181, 0, 139, 167, 255, 196, 42, 89, 180, 0, 139, 4, 96, 181, 0, 139, 42, 27, 16, 59, 160, 0, 7]
abbrev dktX4_advance_10 : List UInt8 := dkwX4_advance_10 ++ dktX4_advance_11
def dkwX4_advance_9 : List UInt8 := [16, 10, 42, 180, 0, 152, 104, 42, 182, 0, 145, 96, 16, 48, 100, 181, 0, 152, 42, 89, 180, 0, 139, 4]
abbrev dktX4_advance_9 : List UInt8 := dkwX4_advance_9 ++ dktX4_advance_10
def dkwX4_advance_8 : List UInt8 := [184, 0, 158, 153, 0, 183, 42, 42, 180, 0, 152, 17, 3, 232, 164, 0, 10, 42, 180, 0, 152, 167, 0, 18]
abbrev dktX4_advance_8 : List UInt8 := dkwX4_advance_8 ++ dktX4_advance_9
def dkwX4_advance_7 : List UInt8 := [27, 16, 48, 16, 57, 184, 0, 158, 153, 0, 71, 42, 5, 181, 0, 155, 42, 182, 0, 145, 16, 48, 16, 57]
abbrev dktX4_advance_7 : List UInt8 := dkwX4_advance_7 ++ dktX4_advance_8
def dkwX4_advance_6 : List UInt8 := [180, 0, 139, 42, 180, 0, 149, 100, 16, 6, 163, 0, 7, 4, 167, 0, 4, 8, 181, 0, 155, 167, 0, 213]
abbrev dktX4_advance_6 : List UInt8 := dkwX4_advance_6 ++ dktX4_advance_7
def dkwX4_advance_5 : List UInt8 := [167, 0, 4, 3, 181, 0, 152, 42, 89, 180, 0, 139, 4, 96, 181, 0, 139, 167, 255, 196, 42, 42]
abbrev dktX4_advance_5 : List UInt8 := dkwX4_advance_5 ++ dktX4_advance_6
def dkwX4_advance_4 : List UInt8 := [180, 0, 149, 100, 16, 6, 162, 0, 20, 42, 180, 0, 152, 8, 120, 42, 182, 0, 145, 16, 96, 100, 128]
abbrev dktX4_advance_4 : List UInt8 := dkwX4_advance_4 ++ dktX4_advance_5
def dkwX4_advance_3 : List UInt8 := [153, 0, 92, 42, 182, 0, 145, 16, 97, 16, 122, 184, 0, 158, 153, 0, 52, 42, 42, 180, 0, 139, 42]
abbrev dktX4_advance_3 : List UInt8 := dkwX4_advance_3 ++ dktX4_advance_4
def dkwX4_advance_2 : List UInt8 := [181, 0, 152, 27, 2, 160, 0, 11, 42, 3, 181, 0, 155, 167, 1, 57, 27, 16, 97, 16, 122, 184, 0, 158]
abbrev dktX4_advance_2 : List UInt8 := dkwX4_advance_2 ++ dktX4_advance_3
def dkwX4_advance_1 : List UInt8 := [96, 181, 0, 139, 167, 255, 228, 42, 42, 180, 0, 139, 181, 0, 149, 42, 182, 0, 145, 60, 42, 3]
abbrev dktX4_advance_1 : List UInt8 := dkwX4_advance_1 ++ dktX4_advance_2
def dkwX4_advance_0 : List UInt8 := [42, 182, 0, 145, 16, 32, 159, 0, 12, 42, 182, 0, 145, 16, 10, 160, 0, 16, 42, 89, 180, 0, 139, 4]
abbrev dktX4_advance_0 : List UInt8 := dkwX4_advance_0 ++ dktX4_advance_1
theorem dksX4_advance_0 : cX4_advance.data.toList.drop 0 = dktX4_advance_0 := by decide +kernel
theorem dksX4_advance_1 : cX4_advance.data.toList.drop 24 = dktX4_advance_1 := dk_seg dksX4_advance_0 24 rfl rfl
theorem dksX4_advance_2 : cX4_advance.data.toList.drop 46 = dktX4_advance_2 := dk_seg dksX4_advance_1 22 rfl rfl
theorem dksX4_advance_3 : cX4_advance.data.toList.drop 70 = dktX4_advance_3 := dk_seg dksX4_advance_2 24 rfl rfl
theorem dksX4_advance_4 : cX4_advance.data.toList.drop 93 = dktX4_advance_4 := dk_seg dksX4_advance_3 23 rfl rfl
theorem dksX4_advance_5 : cX4_advance.data.toList.drop 116 = dktX4_advance_5 := dk_seg dksX4_advance_4 23 rfl rfl
theorem dksX4_advance_6 : cX4_advance.data.toList.drop 138 = dktX4_advance_6 := dk_seg dksX4_advance_5 22 rfl rfl
theorem dksX4_advance_7 : cX4_advance.data.toList.drop 162 = dktX4_advance_7 := dk_seg dksX4_advance_6 24 rfl rfl
theorem dksX4_advance_8 : cX4_advance.data.toList.drop 186 = dktX4_advance_8 := dk_seg dksX4_advance_7 24 rfl rfl
theorem dksX4_advance_9 : cX4_advance.data.toList.drop 210 = dktX4_advance_9 := dk_seg dksX4_advance_8 24 rfl rfl
theorem dksX4_advance_10 : cX4_advance.data.toList.drop 234 = dktX4_advance_10 := dk_seg dksX4_advance_9 24 rfl rfl
theorem dksX4_advance_11 : cX4_advance.data.toList.drop 258 = dktX4_advance_11 := dk_seg dksX4_advance_10 24 rfl rfl
theorem dksX4_advance_12 : cX4_advance.data.toList.drop 281 = dktX4_advance_12 := dk_seg dksX4_advance_11 23 rfl rfl
theorem dksX4_advance_13 : cX4_advance.data.toList.drop 303 = dktX4_advance_13 := dk_seg dksX4_advance_12 22 rfl rfl
theorem dksX4_advance_14 : cX4_advance.data.toList.drop 327 = dktX4_advance_14 := dk_seg dksX4_advance_13 24 rfl rfl
theorem dksX4_advance_15 : cX4_advance.data.toList.drop 349 = dktX4_advance_15 := dk_seg dksX4_advance_14 22 rfl rfl
theorem dX4_advance_0 : decode cX4_advance 0 = .ok (.aload_n 0, 1) := dk_42 (dk_at dksX4_advance_0 0 rfl rfl)
theorem dX4_advance_1 : decode cX4_advance 1 = .ok (.invokevirtual 145, 3) := dk_182 0 145 (dk_at dksX4_advance_0 1 rfl rfl)
theorem dX4_advance_4 : decode cX4_advance 4 = .ok (.bipush 32, 2) := dk_16 32 (dk_at dksX4_advance_0 4 rfl rfl)
theorem dX4_advance_6 : decode cX4_advance 6 = .ok (.if_icmp .eq 12, 3) := dk_159 0 12 (dk_at dksX4_advance_0 6 rfl rfl)
theorem dX4_advance_9 : decode cX4_advance 9 = .ok (.aload_n 0, 1) := dk_42 (dk_at dksX4_advance_0 9 rfl rfl)
theorem dX4_advance_10 : decode cX4_advance 10 = .ok (.invokevirtual 145, 3) := dk_182 0 145 (dk_at dksX4_advance_0 10 rfl rfl)
theorem dX4_advance_13 : decode cX4_advance 13 = .ok (.bipush 10, 2) := dk_16 10 (dk_at dksX4_advance_0 13 rfl rfl)
theorem dX4_advance_15 : decode cX4_advance 15 = .ok (.if_icmp .ne 16, 3) := dk_160 0 16 (dk_at dksX4_advance_0 15 rfl rfl)
theorem dX4_advance_18 : decode cX4_advance 18 = .ok (.aload_n 0, 1) := dk_42 (dk_at dksX4_advance_0 18 rfl rfl)
theorem dX4_advance_19 : decode cX4_advance 19 = .ok (.dup, 1) := dk_89 (dk_at dksX4_advance_0 19 rfl rfl)
theorem dX4_advance_20 : decode cX4_advance 20 = .ok (.getfield 139, 3) := dk_180 0 139 (dk_at dksX4_advance_0 20 rfl rfl)
theorem dX4_advance_23 : decode cX4_advance 23 = .ok (.iconst 1, 1) := dk_4 (dk_at dksX4_advance_0 23 rfl rfl)
theorem dX4_advance_24 : decode cX4_advance 24 = .ok (.iadd, 1) := dk_96 (dk_at dksX4_advance_1 0 rfl rfl)
theorem dX4_advance_25 : decode cX4_advance 25 = .ok (.putfield 139, 3) := dk_181 0 139 (dk_at dksX4_advance_1 1 rfl rfl)
theorem dX4_advance_28 : decode cX4_advance 28 = .ok (.goto (-28), 3) := dk_167 255 228 (dk_at dksX4_advance_1 4 rfl rfl)
theorem dX4_advance_31 : decode cX4_advance 31 = .ok (.aload_n 0, 1) := dk_42 (dk_at dksX4_advance_1 7 rfl rfl)
theorem dX4_advance_32 : decode cX4_advance 32 = .ok (.aload_n 0, 1) := dk_42 (dk_at dksX4_advance_1 8 rfl rfl)
theorem dX4_advance_33 : decode cX4_advance 33 = .ok (.getfield 139, 3) := dk_180 0 139 (dk_at dksX4_advance_1 9 rfl rfl)
theorem dX4_advance_36 : decode cX4_advance 36 = .ok (.putfield 149, 3) := dk_181 0 149 (dk_at dksX4_advance_1 12 rfl rfl)
theorem dX4_advance_39 : decode cX4_advance 39 = .ok (.aload_n 0, 1) := dk_42 (dk_at dksX4_advance_1 15 rfl rfl)
theorem dX4_advance_40 : decode cX4_advance 40 = .ok (.invokevirtual 145, 3) := dk_182 0 145 (dk_at dksX4_advance_1 16 rfl rfl)
theorem dX4_advance_43 : decode cX4_advance 43 = .ok (.istore_n 1, 1) := dk_60 (dk_at dksX4_advance_1 19 rfl rfl)
theorem dX4_advance_44 : decode cX4_advance 44 = .ok (.aload_n 0, 1) := dk_42 (dk_at dksX4_advance_1 20 rfl rfl)
theorem dX4_advance_45 : decode cX4_advance 45 = .ok (.iconst 0, 1) := dk_3 (dk_at dksX4_advance_1 21 rfl rfl)
theorem dX4_advance_46 : decode cX4_advance 46 = .ok (.putfield 152, 3) := dk_181 0 152 (dk_at dksX4_advance_2 0 rfl rfl)
theorem dX4_advance_49 : decode cX4_advance 49 = .ok (.iload_n 1, 1) := dk_27 (dk_at dksX4_advance_2 3 rfl rfl)
theorem dX4_advance_50 : decode cX4_advance 50 = .ok (.iconst (-1), 1) := dk_2 (dk_at dksX4_advance_2 4 rfl rfl)
theorem dX4_advance_51 : decode cX4_advance 51 = .ok (.if_icmp .ne 11, 3) := dk_160 0 11 (dk_at dksX4_advance_2 5 rfl rfl)
theorem dX4_advance_54 : decode cX4_advance 54 = .ok (.aload_n 0, 1) := dk_42 (dk_at dksX4_advance_2 8 rfl rfl)
theorem dX4_advance_55 : decode cX4_advance 55 = .ok (.iconst 0, 1) := dk_3 (dk_at dksX4_advance_2 9 rfl rfl)
theorem dX4_advance_56 : decode cX4_advance 56 = .ok (.putfield 155, 3) := dk_181 0 155 (dk_at dksX4_advance_2 10 rfl rfl)
theorem dX4_advance_59 : decode cX4_advance 59 = .ok (.goto 313, 3) := dk_167 1 57 (dk_at dksX4_advance_2 13 rfl rfl)
theorem dX4_advance_62 : decode cX4_advance 62 = .ok (.iload_n 1, 1) := dk_27 (dk_at dksX4_advance_2 16 rfl rfl)
theorem dX4_advance_63 : decode cX4_advance 63 = .ok (.bipush 97, 2) := dk_16 97 (dk_at dksX4_advance_2 17 rfl rfl)
theorem dX4_advance_65 : decode cX4_advance 65 = .ok (.bipush 122, 2) := dk_16 122 (dk_at dksX4_advance_2 19 rfl rfl)
theorem dX4_advance_67 : decode cX4_advance 67 = .ok (.invokestatic 158, 3) := dk_184 0 158 (dk_at dksX4_advance_2 21 rfl rfl)
theorem dX4_advance_70 : decode cX4_advance 70 = .ok (.ifCond .eq 92, 3) := dk_153 0 92 (dk_at dksX4_advance_3 0 rfl rfl)
theorem dX4_advance_73 : decode cX4_advance 73 = .ok (.aload_n 0, 1) := dk_42 (dk_at dksX4_advance_3 3 rfl rfl)
theorem dX4_advance_74 : decode cX4_advance 74 = .ok (.invokevirtual 145, 3) := dk_182 0 145 (dk_at dksX4_advance_3 4 rfl rfl)
theorem dX4_advance_77 : decode cX4_advance 77 = .ok (.bipush 97, 2) := dk_16 97 (dk_at dksX4_advance_3 7 rfl rfl)
theorem dX4_advance_79 : decode cX4_advance 79 = .ok (.bipush 122, 2) := dk_16 122 (dk_at dksX4_advance_3 9 rfl rfl)
theorem dX4_advance_81 : decode cX4_advance 81 = .ok (.invokestatic 158, 3) := dk_184 0 158 (dk_at dksX4_advance_3 11 rfl rfl)
theorem dX4_advance_84 : decode cX4_advance 84 = .ok (.ifCond .eq 52, 3) := dk_153 0 52 (dk_at dksX4_advance_3 14 rfl rfl)
theorem dX4_advance_87 : decode cX4_advance 87 = .ok (.aload_n 0, 1) := dk_42 (dk_at dksX4_advance_3 17 rfl rfl)
theorem dX4_advance_88 : decode cX4_advance 88 = .ok (.aload_n 0, 1) := dk_42 (dk_at dksX4_advance_3 18 rfl rfl)
theorem dX4_advance_89 : decode cX4_advance 89 = .ok (.getfield 139, 3) := dk_180 0 139 (dk_at dksX4_advance_3 19 rfl rfl)
theorem dX4_advance_92 : decode cX4_advance 92 = .ok (.aload_n 0, 1) := dk_42 (dk_at dksX4_advance_3 22 rfl rfl)
theorem dX4_advance_93 : decode cX4_advance 93 = .ok (.getfield 149, 3) := dk_180 0 149 (dk_at dksX4_advance_4 0 rfl rfl)
theorem dX4_advance_96 : decode cX4_advance 96 = .ok (.isub, 1) := dk_100 (dk_at dksX4_advance_4 3 rfl rfl)
theorem dX4_advance_97 : decode cX4_advance 97 = .ok (.bipush 6, 2) := dk_16 6 (dk_at dksX4_advance_4 4 rfl rfl)
theorem dX4_advance_99 : decode cX4_advance 99 = .ok (.if_icmp .ge 20, 3) := dk_162 0 20 (dk_at dksX4_advance_4 6 rfl rfl)
theorem dX4_advance_102 : decode cX4_advance 102 = .ok (.aload_n 0, 1) := dk_42 (dk_at dksX4_advance_4 9 rfl rfl)
theorem dX4_advance_103 : decode cX4_advance 103 = .ok (.getfield 152, 3) := dk_180 0 152 (dk_at dksX4_advance_4 10 rfl rfl)
theorem dX4_advance_106 : decode cX4_advance 106 = .ok (.iconst 5, 1) := dk_8 (dk_at dksX4_advance_4 13 rfl rfl)
theorem dX4_advance_107 : decode cX4_advance 107 = .ok (.ishl, 1) := dk_120 (dk_at dksX4_advance_4 14 rfl rfl)
theorem dX4_advance_108 : decode cX4_advance 108 = .ok (.aload_n 0, 1) := dk_42 (dk_at dksX4_advance_4 15 rfl rfl)
theorem dX4_advance_109 : decode cX4_advance 109 = .ok (.invokevirtual 145, 3) := dk_182 0 145 (dk_at dksX4_advance_4 16 rfl rfl)
theorem dX4_advance_112 : decode cX4_advance 112 = .ok (.bipush 96, 2) := dk_16 96 (dk_at dksX4_advance_4 19 rfl rfl)
theorem dX4_advance_114 : decode cX4_advance 114 = .ok (.isub, 1) := dk_100 (dk_at dksX4_advance_4 21 rfl rfl)
theorem dX4_advance_115 : decode cX4_advance 115 = .ok (.ior, 1) := dk_128 (dk_at dksX4_advance_4 22 rfl rfl)
theorem dX4_advance_116 : decode cX4_advance 116 = .ok (.goto 4, 3) := dk_167 0 4 (dk_at dksX4_advance_5 0 rfl rfl)
theorem dX4_advance_119 : decode cX4_advance 119 = .ok (.iconst 0, 1) := dk_3 (dk_at dksX4_advance_5 3 rfl rfl)
theorem dX4_advance_120 : decode cX4_advance 120 = .ok (.putfield 152, 3) := dk_181 0 152 (dk_at dksX4_advance_5 4 rfl rfl)
theorem dX4_advance_123 : decode cX4_advance 123 = .ok (.aload_n 0, 1) := dk_42 (dk_at dksX4_advance_5 7 rfl rfl)
theorem dX4_advance_124 : decode cX4_advance 124 = .ok (.dup, 1) := dk_89 (dk_at dksX4_advance_5 8 rfl rfl)
theorem dX4_advance_125 : decode cX4_advance 125 = .ok (.getfield 139, 3) := dk_180 0 139 (dk_at dksX4_advance_5 9 rfl rfl)
theorem dX4_advance_128 : decode cX4_advance 128 = .ok (.iconst 1, 1) := dk_4 (dk_at dksX4_advance_5 12 rfl rfl)
theorem dX4_advance_129 : decode cX4_advance 129 = .ok (.iadd, 1) := dk_96 (dk_at dksX4_advance_5 13 rfl rfl)
theorem dX4_advance_130 : decode cX4_advance 130 = .ok (.putfield 139, 3) := dk_181 0 139 (dk_at dksX4_advance_5 14 rfl rfl)
theorem dX4_advance_133 : decode cX4_advance 133 = .ok (.goto (-60), 3) := dk_167 255 196 (dk_at dksX4_advance_5 17 rfl rfl)
theorem dX4_advance_136 : decode cX4_advance 136 = .ok (.aload_n 0, 1) := dk_42 (dk_at dksX4_advance_5 20 rfl rfl)
theorem dX4_advance_137 : decode cX4_advance 137 = .ok (.aload_n 0, 1) := dk_42 (dk_at dksX4_advance_5 21 rfl rfl)
theorem dX4_advance_138 : decode cX4_advance 138 = .ok (.getfield 139, 3) := dk_180 0 139 (dk_at dksX4_advance_6 0 rfl rfl)
theorem dX4_advance_141 : decode cX4_advance 141 = .ok (.aload_n 0, 1) := dk_42 (dk_at dksX4_advance_6 3 rfl rfl)
theorem dX4_advance_142 : decode cX4_advance 142 = .ok (.getfield 149, 3) := dk_180 0 149 (dk_at dksX4_advance_6 4 rfl rfl)
theorem dX4_advance_145 : decode cX4_advance 145 = .ok (.isub, 1) := dk_100 (dk_at dksX4_advance_6 7 rfl rfl)
theorem dX4_advance_146 : decode cX4_advance 146 = .ok (.bipush 6, 2) := dk_16 6 (dk_at dksX4_advance_6 8 rfl rfl)
theorem dX4_advance_148 : decode cX4_advance 148 = .ok (.if_icmp .gt 7, 3) := dk_163 0 7 (dk_at dksX4_advance_6 10 rfl rfl)
theorem dX4_advance_151 : decode cX4_advance 151 = .ok (.iconst 1, 1) := dk_4 (dk_at dksX4_advance_6 13 rfl rfl)
theorem dX4_advance_152 : decode cX4_advance 152 = .ok (.goto 4, 3) := dk_167 0 4 (dk_at dksX4_advance_6 14 rfl rfl)
theorem dX4_advance_155 : decode cX4_advance 155 = .ok (.iconst 5, 1) := dk_8 (dk_at dksX4_advance_6 17 rfl rfl)
theorem dX4_advance_156 : decode cX4_advance 156 = .ok (.putfield 155, 3) := dk_181 0 155 (dk_at dksX4_advance_6 18 rfl rfl)
theorem dX4_advance_159 : decode cX4_advance 159 = .ok (.goto 213, 3) := dk_167 0 213 (dk_at dksX4_advance_6 21 rfl rfl)
theorem dX4_advance_162 : decode cX4_advance 162 = .ok (.iload_n 1, 1) := dk_27 (dk_at dksX4_advance_7 0 rfl rfl)
theorem dX4_advance_163 : decode cX4_advance 163 = .ok (.bipush 48, 2) := dk_16 48 (dk_at dksX4_advance_7 1 rfl rfl)
theorem dX4_advance_165 : decode cX4_advance 165 = .ok (.bipush 57, 2) := dk_16 57 (dk_at dksX4_advance_7 3 rfl rfl)
theorem dX4_advance_167 : decode cX4_advance 167 = .ok (.invokestatic 158, 3) := dk_184 0 158 (dk_at dksX4_advance_7 5 rfl rfl)
theorem dX4_advance_170 : decode cX4_advance 170 = .ok (.ifCond .eq 71, 3) := dk_153 0 71 (dk_at dksX4_advance_7 8 rfl rfl)
theorem dX4_advance_173 : decode cX4_advance 173 = .ok (.aload_n 0, 1) := dk_42 (dk_at dksX4_advance_7 11 rfl rfl)
theorem dX4_advance_174 : decode cX4_advance 174 = .ok (.iconst 2, 1) := dk_5 (dk_at dksX4_advance_7 12 rfl rfl)
theorem dX4_advance_175 : decode cX4_advance 175 = .ok (.putfield 155, 3) := dk_181 0 155 (dk_at dksX4_advance_7 13 rfl rfl)
theorem dX4_advance_178 : decode cX4_advance 178 = .ok (.aload_n 0, 1) := dk_42 (dk_at dksX4_advance_7 16 rfl rfl)
theorem dX4_advance_179 : decode cX4_advance 179 = .ok (.invokevirtual 145, 3) := dk_182 0 145 (dk_at dksX4_advance_7 17 rfl rfl)
theorem dX4_advance_182 : decode cX4_advance 182 = .ok (.bipush 48, 2) := dk_16 48 (dk_at dksX4_advance_7 20 rfl rfl)
theorem dX4_advance_184 : decode cX4_advance 184 = .ok (.bipush 57, 2) := dk_16 57 (dk_at dksX4_advance_7 22 rfl rfl)
theorem dX4_advance_186 : decode cX4_advance 186 = .ok (.invokestatic 158, 3) := dk_184 0 158 (dk_at dksX4_advance_8 0 rfl rfl)
theorem dX4_advance_189 : decode cX4_advance 189 = .ok (.ifCond .eq 183, 3) := dk_153 0 183 (dk_at dksX4_advance_8 3 rfl rfl)
theorem dX4_advance_192 : decode cX4_advance 192 = .ok (.aload_n 0, 1) := dk_42 (dk_at dksX4_advance_8 6 rfl rfl)
theorem dX4_advance_193 : decode cX4_advance 193 = .ok (.aload_n 0, 1) := dk_42 (dk_at dksX4_advance_8 7 rfl rfl)
theorem dX4_advance_194 : decode cX4_advance 194 = .ok (.getfield 152, 3) := dk_180 0 152 (dk_at dksX4_advance_8 8 rfl rfl)
theorem dX4_advance_197 : decode cX4_advance 197 = .ok (.sipush 1000, 3) := dk_17 3 232 (dk_at dksX4_advance_8 11 rfl rfl)
theorem dX4_advance_200 : decode cX4_advance 200 = .ok (.if_icmp .le 10, 3) := dk_164 0 10 (dk_at dksX4_advance_8 14 rfl rfl)
theorem dX4_advance_203 : decode cX4_advance 203 = .ok (.aload_n 0, 1) := dk_42 (dk_at dksX4_advance_8 17 rfl rfl)
theorem dX4_advance_204 : decode cX4_advance 204 = .ok (.getfield 152, 3) := dk_180 0 152 (dk_at dksX4_advance_8 18 rfl rfl)
theorem dX4_advance_207 : decode cX4_advance 207 = .ok (.goto 18, 3) := dk_167 0 18 (dk_at dksX4_advance_8 21 rfl rfl)
theorem dX4_advance_210 : decode cX4_advance 210 = .ok (.bipush 10, 2) := dk_16 10 (dk_at dksX4_advance_9 0 rfl rfl)
theorem dX4_advance_212 : decode cX4_advance 212 = .ok (.aload_n 0, 1) := dk_42 (dk_at dksX4_advance_9 2 rfl rfl)
theorem dX4_advance_213 : decode cX4_advance 213 = .ok (.getfield 152, 3) := dk_180 0 152 (dk_at dksX4_advance_9 3 rfl rfl)
theorem dX4_advance_216 : decode cX4_advance 216 = .ok (.imul, 1) := dk_104 (dk_at dksX4_advance_9 6 rfl rfl)
theorem dX4_advance_217 : decode cX4_advance 217 = .ok (.aload_n 0, 1) := dk_42 (dk_at dksX4_advance_9 7 rfl rfl)
theorem dX4_advance_218 : decode cX4_advance 218 = .ok (.invokevirtual 145, 3) := dk_182 0 145 (dk_at dksX4_advance_9 8 rfl rfl)
theorem dX4_advance_221 : decode cX4_advance 221 = .ok (.iadd, 1) := dk_96 (dk_at dksX4_advance_9 11 rfl rfl)
theorem dX4_advance_222 : decode cX4_advance 222 = .ok (.bipush 48, 2) := dk_16 48 (dk_at dksX4_advance_9 12 rfl rfl)
theorem dX4_advance_224 : decode cX4_advance 224 = .ok (.isub, 1) := dk_100 (dk_at dksX4_advance_9 14 rfl rfl)
theorem dX4_advance_225 : decode cX4_advance 225 = .ok (.putfield 152, 3) := dk_181 0 152 (dk_at dksX4_advance_9 15 rfl rfl)
theorem dX4_advance_228 : decode cX4_advance 228 = .ok (.aload_n 0, 1) := dk_42 (dk_at dksX4_advance_9 18 rfl rfl)
theorem dX4_advance_229 : decode cX4_advance 229 = .ok (.dup, 1) := dk_89 (dk_at dksX4_advance_9 19 rfl rfl)
theorem dX4_advance_230 : decode cX4_advance 230 = .ok (.getfield 139, 3) := dk_180 0 139 (dk_at dksX4_advance_9 20 rfl rfl)
theorem dX4_advance_233 : decode cX4_advance 233 = .ok (.iconst 1, 1) := dk_4 (dk_at dksX4_advance_9 23 rfl rfl)
theorem dX4_advance_234 : decode cX4_advance 234 = .ok (.iadd, 1) := dk_96 (dk_at dksX4_advance_10 0 rfl rfl)
theorem dX4_advance_235 : decode cX4_advance 235 = .ok (.putfield 139, 3) := dk_181 0 139 (dk_at dksX4_advance_10 1 rfl rfl)
theorem dX4_advance_238 : decode cX4_advance 238 = .ok (.goto (-60), 3) := dk_167 255 196 (dk_at dksX4_advance_10 4 rfl rfl)
theorem dX4_advance_241 : decode cX4_advance 241 = .ok (.aload_n 0, 1) := dk_42 (dk_at dksX4_advance_10 7 rfl rfl)
theorem dX4_advance_242 : decode cX4_advance 242 = .ok (.dup, 1) := dk_89 (dk_at dksX4_advance_10 8 rfl rfl)
theorem dX4_advance_243 : decode cX4_advance 243 = .ok (.getfield 139, 3) := dk_180 0 139 (dk_at dksX4_advance_10 9 rfl rfl)
theorem dX4_advance_246 : decode cX4_advance 246 = .ok (.iconst 1, 1) := dk_4 (dk_at dksX4_advance_10 12 rfl rfl)
theorem dX4_advance_247 : decode cX4_advance 247 = .ok (.iadd, 1) := dk_96 (dk_at dksX4_advance_10 13 rfl rfl)
theorem dX4_advance_248 : decode cX4_advance 248 = .ok (.putfield 139, 3) := dk_181 0 139 (dk_at dksX4_advance_10 14 rfl rfl)
theorem dX4_advance_251 : decode cX4_advance 251 = .ok (.aload_n 0, 1) := dk_42 (dk_at dksX4_advance_10 17 rfl rfl)
theorem dX4_advance_252 : decode cX4_advance 252 = .ok (.iload_n 1, 1) := dk_27 (dk_at dksX4_advance_10 18 rfl rfl)
theorem dX4_advance_253 : decode cX4_advance 253 = .ok (.bipush 59, 2) := dk_16 59 (dk_at dksX4_advance_10 19 rfl rfl)
theorem dX4_advance_255 : decode cX4_advance 255 = .ok (.if_icmp .ne 7, 3) := dk_160 0 7 (dk_at dksX4_advance_10 21 rfl rfl)
theorem dX4_advance_258 : decode cX4_advance 258 = .ok (.iconst 3, 1) := dk_6 (dk_at dksX4_advance_11 0 rfl rfl)
theorem dX4_advance_259 : decode cX4_advance 259 = .ok (.goto 26, 3) := dk_167 0 26 (dk_at dksX4_advance_11 1 rfl rfl)
theorem dX4_advance_262 : decode cX4_advance 262 = .ok (.iload_n 1, 1) := dk_27 (dk_at dksX4_advance_11 4 rfl rfl)
theorem dX4_advance_263 : decode cX4_advance 263 = .ok (.bipush 60, 2) := dk_16 60 (dk_at dksX4_advance_11 5 rfl rfl)
theorem dX4_advance_265 : decode cX4_advance 265 = .ok (.if_icmp .eq 15, 3) := dk_159 0 15 (dk_at dksX4_advance_11 7 rfl rfl)
theorem dX4_advance_268 : decode cX4_advance 268 = .ok (.iload_n 1, 1) := dk_27 (dk_at dksX4_advance_11 10 rfl rfl)
theorem dX4_advance_269 : decode cX4_advance 269 = .ok (.bipush 61, 2) := dk_16 61 (dk_at dksX4_advance_11 11 rfl rfl)
theorem dX4_advance_271 : decode cX4_advance 271 = .ok (.if_icmp .eq 9, 3) := dk_159 0 9 (dk_at dksX4_advance_11 13 rfl rfl)
theorem dX4_advance_274 : decode cX4_advance 274 = .ok (.iload_n 1, 1) := dk_27 (dk_at dksX4_advance_11 16 rfl rfl)
theorem dX4_advance_275 : decode cX4_advance 275 = .ok (.bipush 62, 2) := dk_16 62 (dk_at dksX4_advance_11 17 rfl rfl)
theorem dX4_advance_277 : decode cX4_advance 277 = .ok (.if_icmp .ne 7, 3) := dk_160 0 7 (dk_at dksX4_advance_11 19 rfl rfl)
theorem dX4_advance_280 : decode cX4_advance 280 = .ok (.iconst 4, 1) := dk_7 (dk_at dksX4_advance_11 22 rfl rfl)
theorem dX4_advance_281 : decode cX4_advance 281 = .ok (.goto 4, 3) := dk_167 0 4 (dk_at dksX4_advance_12 0 rfl rfl)
theorem dX4_advance_284 : decode cX4_advance 284 = .ok (.iconst 5, 1) := dk_8 (dk_at dksX4_advance_12 3 rfl rfl)
theorem dX4_advance_285 : decode cX4_advance 285 = .ok (.putfield 155, 3) := dk_181 0 155 (dk_at dksX4_advance_12 4 rfl rfl)
theorem dX4_advance_288 : decode cX4_advance 288 = .ok (.iload_n 1, 1) := dk_27 (dk_at dksX4_advance_12 7 rfl rfl)
theorem dX4_advance_289 : decode cX4_advance 289 = .ok (.bipush 61, 2) := dk_16 61 (dk_at dksX4_advance_12 8 rfl rfl)
theorem dX4_advance_291 : decode cX4_advance 291 = .ok (.if_icmp .eq 24, 3) := dk_159 0 24 (dk_at dksX4_advance_12 10 rfl rfl)
theorem dX4_advance_294 : decode cX4_advance 294 = .ok (.aload_n 0, 1) := dk_42 (dk_at dksX4_advance_12 13 rfl rfl)
theorem dX4_advance_295 : decode cX4_advance 295 = .ok (.getfield 155, 3) := dk_180 0 155 (dk_at dksX4_advance_12 14 rfl rfl)
theorem dX4_advance_298 : decode cX4_advance 298 = .ok (.iconst 4, 1) := dk_7 (dk_at dksX4_advance_12 17 rfl rfl)
theorem dX4_advance_299 : decode cX4_advance 299 = .ok (.if_icmp .ne 16, 3) := dk_160 0 16 (dk_at dksX4_advance_12 18 rfl rfl)
theorem dX4_advance_302 : decode cX4_advance 302 = .ok (.aload_n 0, 1) := dk_42 (dk_at dksX4_advance_12 21 rfl rfl)
theorem dX4_advance_303 : decode cX4_advance 303 = .ok (.invokevirtual 145, 3) := dk_182 0 145 (dk_at dksX4_advance_13 0 rfl rfl)
theorem dX4_advance_306 : decode cX4_advance 306 = .ok (.bipush 61, 2) := dk_16 61 (dk_at dksX4_advance_13 3 rfl rfl)
theorem dX4_advance_308 : decode cX4_advance 308 = .ok (.if_icmp .ne 7, 3) := dk_160 0 7 (dk_at dksX4_advance_13 5 rfl rfl)
theorem dX4_advance_311 : decode cX4_advance 311 = .ok (.iconst 1, 1) := dk_4 (dk_at dksX4_advance_13 8 rfl rfl)
theorem dX4_advance_312 : decode cX4_advance 312 = .ok (.goto 4, 3) := dk_167 0 4 (dk_at dksX4_advance_13 9 rfl rfl)
theorem dX4_advance_315 : decode cX4_advance 315 = .ok (.iconst 0, 1) := dk_3 (dk_at dksX4_advance_13 12 rfl rfl)
theorem dX4_advance_316 : decode cX4_advance 316 = .ok (.istore_n 2, 1) := dk_61 (dk_at dksX4_advance_13 13 rfl rfl)
theorem dX4_advance_317 : decode cX4_advance 317 = .ok (.iload_n 2, 1) := dk_28 (dk_at dksX4_advance_13 14 rfl rfl)
theorem dX4_advance_318 : decode cX4_advance 318 = .ok (.ifCond .eq 13, 3) := dk_153 0 13 (dk_at dksX4_advance_13 15 rfl rfl)
theorem dX4_advance_321 : decode cX4_advance 321 = .ok (.aload_n 0, 1) := dk_42 (dk_at dksX4_advance_13 18 rfl rfl)
theorem dX4_advance_322 : decode cX4_advance 322 = .ok (.dup, 1) := dk_89 (dk_at dksX4_advance_13 19 rfl rfl)
theorem dX4_advance_323 : decode cX4_advance 323 = .ok (.getfield 139, 3) := dk_180 0 139 (dk_at dksX4_advance_13 20 rfl rfl)
theorem dX4_advance_326 : decode cX4_advance 326 = .ok (.iconst 1, 1) := dk_4 (dk_at dksX4_advance_13 23 rfl rfl)
theorem dX4_advance_327 : decode cX4_advance 327 = .ok (.iadd, 1) := dk_96 (dk_at dksX4_advance_14 0 rfl rfl)
theorem dX4_advance_328 : decode cX4_advance 328 = .ok (.putfield 139, 3) := dk_181 0 139 (dk_at dksX4_advance_14 1 rfl rfl)
theorem dX4_advance_331 : decode cX4_advance 331 = .ok (.aload_n 0, 1) := dk_42 (dk_at dksX4_advance_14 4 rfl rfl)
theorem dX4_advance_332 : decode cX4_advance 332 = .ok (.iload_n 1, 1) := dk_27 (dk_at dksX4_advance_14 5 rfl rfl)
theorem dX4_advance_333 : decode cX4_advance 333 = .ok (.bipush 61, 2) := dk_16 61 (dk_at dksX4_advance_14 6 rfl rfl)
theorem dX4_advance_335 : decode cX4_advance 335 = .ok (.if_icmp .ne 7, 3) := dk_160 0 7 (dk_at dksX4_advance_14 8 rfl rfl)
theorem dX4_advance_338 : decode cX4_advance 338 = .ok (.iconst 2, 1) := dk_5 (dk_at dksX4_advance_14 11 rfl rfl)
theorem dX4_advance_339 : decode cX4_advance 339 = .ok (.goto 30, 3) := dk_167 0 30 (dk_at dksX4_advance_14 12 rfl rfl)
theorem dX4_advance_342 : decode cX4_advance 342 = .ok (.iload_n 1, 1) := dk_27 (dk_at dksX4_advance_14 15 rfl rfl)
theorem dX4_advance_343 : decode cX4_advance 343 = .ok (.bipush 60, 2) := dk_16 60 (dk_at dksX4_advance_14 16 rfl rfl)
theorem dX4_advance_345 : decode cX4_advance 345 = .ok (.if_icmp .ne 15, 3) := dk_160 0 15 (dk_at dksX4_advance_14 18 rfl rfl)
theorem dX4_advance_348 : decode cX4_advance 348 = .ok (.iload_n 2, 1) := dk_28 (dk_at dksX4_advance_14 21 rfl rfl)
theorem dX4_advance_349 : decode cX4_advance 349 = .ok (.ifCond .eq 7, 3) := dk_153 0 7 (dk_at dksX4_advance_15 0 rfl rfl)
theorem dX4_advance_352 : decode cX4_advance 352 = .ok (.iconst 1, 1) := dk_4 (dk_at dksX4_advance_15 3 rfl rfl)
theorem dX4_advance_353 : decode cX4_advance 353 = .ok (.goto 16, 3) := dk_167 0 16 (dk_at dksX4_advance_15 4 rfl rfl)
theorem dX4_advance_356 : decode cX4_advance 356 = .ok (.iconst 0, 1) := dk_3 (dk_at dksX4_advance_15 7 rfl rfl)
theorem dX4_advance_357 : decode cX4_advance 357 = .ok (.goto 12, 3) := dk_167 0 12 (dk_at dksX4_advance_15 8 rfl rfl)
theorem dX4_advance_360 : decode cX4_advance 360 = .ok (.iload_n 2, 1) := dk_28 (dk_at dksX4_advance_15 11 rfl rfl)
theorem dX4_advance_361 : decode cX4_advance 361 = .ok (.ifCond .eq 7, 3) := dk_153 0 7 (dk_at dksX4_advance_15 12 rfl rfl)
theorem dX4_advance_364 : decode cX4_advance 364 = .ok (.iconst 3, 1) := dk_6 (dk_at dksX4_advance_15 15 rfl rfl)
theorem dX4_advance_365 : decode cX4_advance 365 = .ok (.goto 4, 3) := dk_167 0 4 (dk_at dksX4_advance_15 16 rfl rfl)
theorem dX4_advance_368 : decode cX4_advance 368 = .ok (.iconst 4, 1) := dk_7 (dk_at dksX4_advance_15 19 rfl rfl)
theorem dX4_advance_369 : decode cX4_advance 369 = .ok (.putfield 152, 3) := dk_181 0 152 (dk_at dksX4_advance_15 20 rfl rfl)
theorem dX4_advance_372 : decode cX4_advance 372 = .ok (.return_, 1) := dk_177 (dk_at dksX4_advance_15 23 rfl rfl)
def dkwX4_see_1 : List UInt8 := [167, 0, 4, 2, 172]
abbrev dktX4_see_1 : List UInt8 := dkwX4_see_1 ++ []
def dkwX4_see_0 : List UInt8 := [42, 180, 0, 139, 42, 180, 0, 142, 162, 0, 19, 42, 180, 0, 62, 42, 180, 0, 139, 51, 17, 0, 255, 126]
abbrev dktX4_see_0 : List UInt8 := dkwX4_see_0 ++ dktX4_see_1
theorem dksX4_see_0 : cX4_see.data.toList.drop 0 = dktX4_see_0 := by decide +kernel
theorem dksX4_see_1 : cX4_see.data.toList.drop 24 = dktX4_see_1 := dk_seg dksX4_see_0 24 rfl rfl
theorem dX4_see_0 : decode cX4_see 0 = .ok (.aload_n 0, 1) := dk_42 (dk_at dksX4_see_0 0 rfl rfl)
theorem dX4_see_1 : decode cX4_see 1 = .ok (.getfield 139, 3) := dk_180 0 139 (dk_at dksX4_see_0 1 rfl rfl)
theorem dX4_see_4 : decode cX4_see 4 = .ok (.aload_n 0, 1) := dk_42 (dk_at dksX4_see_0 4 rfl rfl)
theorem dX4_see_5 : decode cX4_see 5 = .ok (.getfield 142, 3) := dk_180 0 142 (dk_at dksX4_see_0 5 rfl rfl)
theorem dX4_see_8 : decode cX4_see 8 = .ok (.if_icmp .ge 19, 3) := dk_162 0 19 (dk_at dksX4_see_0 8 rfl rfl)
theorem dX4_see_11 : decode cX4_see 11 = .ok (.aload_n 0, 1) := dk_42 (dk_at dksX4_see_0 11 rfl rfl)
theorem dX4_see_12 : decode cX4_see 12 = .ok (.getfield 62, 3) := dk_180 0 62 (dk_at dksX4_see_0 12 rfl rfl)
theorem dX4_see_15 : decode cX4_see 15 = .ok (.aload_n 0, 1) := dk_42 (dk_at dksX4_see_0 15 rfl rfl)
theorem dX4_see_16 : decode cX4_see 16 = .ok (.getfield 139, 3) := dk_180 0 139 (dk_at dksX4_see_0 16 rfl rfl)
theorem dX4_see_19 : decode cX4_see 19 = .ok (.baload, 1) := dk_51 (dk_at dksX4_see_0 19 rfl rfl)
theorem dX4_see_20 : decode cX4_see 20 = .ok (.sipush 255, 3) := dk_17 0 255 (dk_at dksX4_see_0 20 rfl rfl)
theorem dX4_see_23 : decode cX4_see 23 = .ok (.iand, 1) := dk_126 (dk_at dksX4_see_0 23 rfl rfl)
theorem dX4_see_24 : decode cX4_see 24 = .ok (.goto 4, 3) := dk_167 0 4 (dk_at dksX4_see_1 0 rfl rfl)
theorem dX4_see_27 : decode cX4_see 27 = .ok (.iconst (-1), 1) := dk_2 (dk_at dksX4_see_1 3 rfl rfl)
theorem dX4_see_28 : decode cX4_see 28 = .ok (.ireturn, 1) := dk_172 (dk_at dksX4_see_1 4 rfl rfl)
def dkwX4_lineHere_13 : List UInt8 := [181, 0, 227, 177]
abbrev dktX4_lineHere_13 : List UInt8 := dkwX4_lineHere_13 ++ []
def dkwX4_lineHere_12 : List UInt8 := [154, 0, 7, 4, 167, 0, 4, 3, 6, 182, 0, 200, 42, 4, 181, 0, 224, 42, 42, 182, 0, 218]
abbrev dktX4_lineHere_12 : List UInt8 := dkwX4_lineHere_12 ++ dktX4_lineHere_13
def dkwX4_lineHere_11 : List UInt8 := [42, 18, 172, 182, 0, 196, 4, 182, 0, 174, 42, 180, 0, 162, 153, 0, 4, 177, 42, 42, 180, 0, 224]
abbrev dktX4_lineHere_11 : List UInt8 := dkwX4_lineHere_11 ++ dktX4_lineHere_12
def dkwX4_lineHere_10 : List UInt8 := [42, 180, 0, 90, 42, 180, 0, 215, 28, 79, 42, 89, 180, 0, 215, 4, 96, 181, 0, 215, 167, 0, 52, 42]
abbrev dktX4_lineHere_10 : List UInt8 := dkwX4_lineHere_10 ++ dktX4_lineHere_11
def dkwX4_lineHere_9 : List UInt8 := [180, 0, 162, 154, 0, 11, 42, 42, 180, 0, 215, 182, 0, 221, 42, 180, 0, 87, 42, 180, 0, 215, 27, 79]
abbrev dktX4_lineHere_9 : List UInt8 := dkwX4_lineHere_9 ++ dktX4_lineHere_10
def dkwX4_lineHere_8 : List UInt8 := [182, 0, 218, 61, 42, 180, 0, 162, 153, 0, 4, 177, 42, 16, 8, 42, 180, 0, 215, 96, 182, 0, 212, 42]
abbrev dktX4_lineHere_8 : List UInt8 := dkwX4_lineHere_8 ++ dktX4_lineHere_9
def dkwX4_lineHere_7 : List UInt8 := [42, 180, 0, 215, 16, 16, 162, 0, 7, 4, 167, 0, 4, 3, 5, 182, 0, 200, 42, 182, 0, 218, 60, 42]
abbrev dktX4_lineHere_7 : List UInt8 := dkwX4_lineHere_7 ++ dktX4_lineHere_8
def dkwX4_lineHere_6 : List UInt8 := [79, 42, 89, 180, 0, 189, 4, 96, 181, 0, 189, 167, 0, 157, 42, 18, 171, 182, 0, 196, 153, 0, 99, 42]
abbrev dktX4_lineHere_6 : List UInt8 := dkwX4_lineHere_6 ++ dktX4_lineHere_7
def dkwX4_lineHere_5 : List UInt8 := [42, 180, 0, 189, 182, 0, 212, 42, 180, 0, 162, 153, 0, 4, 177, 42, 180, 0, 72, 42, 180, 0, 189, 27]
abbrev dktX4_lineHere_5 : List UInt8 := dkwX4_lineHere_5 ++ dktX4_lineHere_6
def dkwX4_lineHere_4 : List UInt8 := [182, 0, 200, 42, 42, 180, 0, 72, 42, 180, 0, 189, 182, 0, 209, 60, 42, 180, 0, 162, 154, 0, 11, 42]
abbrev dktX4_lineHere_4 : List UInt8 := dkwX4_lineHere_4 ++ dktX4_lineHere_5
def dkwX4_lineHere_3 : List UInt8 := [18, 170, 182, 0, 196, 153, 0, 81, 42, 42, 180, 0, 189, 16, 8, 162, 0, 7, 4, 167, 0, 4, 3, 5]
abbrev dktX4_lineHere_3 : List UInt8 := dkwX4_lineHere_3 ++ dktX4_lineHere_4
def dkwX4_lineHere_2 : List UInt8 := [42, 180, 0, 69, 42, 180, 0, 203, 27, 79, 42, 89, 180, 0, 203, 4, 96, 181, 0, 203, 167, 0, 244, 42]
abbrev dktX4_lineHere_2 : List UInt8 := dkwX4_lineHere_2 ++ dktX4_lineHere_3
def dkwX4_lineHere_1 : List UInt8 := [182, 0, 200, 42, 42, 180, 0, 69, 42, 180, 0, 203, 182, 0, 209, 60, 42, 180, 0, 162, 153, 0, 4, 177]
abbrev dktX4_lineHere_1 : List UInt8 := dkwX4_lineHere_1 ++ dktX4_lineHere_2
def dkwX4_lineHere_0 : List UInt8 := [42, 18, 169, 182, 0, 196, 153, 0, 65, 42, 42, 180, 0, 203, 7, 162, 0, 7, 4, 167, 0, 4, 3, 5]
abbrev dktX4_lineHere_0 : List UInt8 := dkwX4_lineHere_0 ++ dktX4_lineHere_1
theorem dksX4_lineHere_0 : cX4_lineHere.data.toList.drop 0 = dktX4_lineHere_0 := by decide +kernel
theorem dksX4_lineHere_1 : cX4_lineHere.data.toList.drop 24 = dktX4_lineHere_1 := dk_seg dksX4_lineHere_0 24 rfl rfl
theorem dksX4_lineHere_2 : cX4_lineHere.data.toList.drop 48 = dktX4_lineHere_2 := dk_seg dksX4_lineHere_1 24 rfl rfl
theorem dksX4_lineHere_3 : cX4_lineHere.data.toList.drop 72 = dktX4_lineHere_3 := dk_seg dksX4_lineHere_2 24 rfl rfl
theorem dksX4_lineHere_4 : cX4_lineHere.data.toList.drop 96 = dktX4_lineHere_4 := dk_seg dksX4_lineHere_3 24 rfl rfl
theorem dksX4_lineHere_5 : cX4_lineHere.data.toList.drop 120 = dktX4_lineHere_5 := dk_seg dksX4_lineHere_4 24 rfl rfl
theorem dksX4_lineHere_6 : cX4_lineHere.data.toList.drop 144 = dktX4_lineHere_6 := dk_seg dksX4_lineHere_5 24 rfl rfl
theorem dksX4_lineHere_7 : cX4_lineHere.data.toList.drop 168 = dktX4_lineHere_7 := dk_seg dksX4_lineHere_6 24 rfl rfl
theorem dksX4_lineHere_8 : cX4_lineHere.data.toList.drop 192 = dktX4_lineHere_8 := dk_seg dksX4_lineHere_7 24 rfl rfl
theorem dksX4_lineHere_9 : cX4_lineHere.data.toList.drop 216 = dktX4_lineHere_9 := dk_seg dksX4_lineHere_8 24 rfl rfl
theorem dksX4_lineHere_10 : cX4_lineHere.data.toList.drop 240 = dktX4_lineHere_10 := dk_seg dksX4_lineHere_9 24 rfl rfl
theorem dksX4_lineHere_11 : cX4_lineHere.data.toList.drop 264 = dktX4_lineHere_11 := dk_seg dksX4_lineHere_10 24 rfl rfl
theorem dksX4_lineHere_12 : cX4_lineHere.data.toList.drop 287 = dktX4_lineHere_12 := dk_seg dksX4_lineHere_11 23 rfl rfl
theorem dksX4_lineHere_13 : cX4_lineHere.data.toList.drop 309 = dktX4_lineHere_13 := dk_seg dksX4_lineHere_12 22 rfl rfl
theorem dX4_lineHere_0 : decode cX4_lineHere 0 = .ok (.aload_n 0, 1) := dk_42 (dk_at dksX4_lineHere_0 0 rfl rfl)
theorem dX4_lineHere_1 : decode cX4_lineHere 1 = .ok (.ldc 169, 2) := dk_18 169 (dk_at dksX4_lineHere_0 1 rfl rfl)
theorem dX4_lineHere_3 : decode cX4_lineHere 3 = .ok (.invokevirtual 196, 3) := dk_182 0 196 (dk_at dksX4_lineHere_0 3 rfl rfl)
theorem dX4_lineHere_6 : decode cX4_lineHere 6 = .ok (.ifCond .eq 65, 3) := dk_153 0 65 (dk_at dksX4_lineHere_0 6 rfl rfl)
theorem dX4_lineHere_9 : decode cX4_lineHere 9 = .ok (.aload_n 0, 1) := dk_42 (dk_at dksX4_lineHere_0 9 rfl rfl)
theorem dX4_lineHere_10 : decode cX4_lineHere 10 = .ok (.aload_n 0, 1) := dk_42 (dk_at dksX4_lineHere_0 10 rfl rfl)
theorem dX4_lineHere_11 : decode cX4_lineHere 11 = .ok (.getfield 203, 3) := dk_180 0 203 (dk_at dksX4_lineHere_0 11 rfl rfl)
theorem dX4_lineHere_14 : decode cX4_lineHere 14 = .ok (.iconst 4, 1) := dk_7 (dk_at dksX4_lineHere_0 14 rfl rfl)
theorem dX4_lineHere_15 : decode cX4_lineHere 15 = .ok (.if_icmp .ge 7, 3) := dk_162 0 7 (dk_at dksX4_lineHere_0 15 rfl rfl)
theorem dX4_lineHere_18 : decode cX4_lineHere 18 = .ok (.iconst 1, 1) := dk_4 (dk_at dksX4_lineHere_0 18 rfl rfl)
theorem dX4_lineHere_19 : decode cX4_lineHere 19 = .ok (.goto 4, 3) := dk_167 0 4 (dk_at dksX4_lineHere_0 19 rfl rfl)
theorem dX4_lineHere_22 : decode cX4_lineHere 22 = .ok (.iconst 0, 1) := dk_3 (dk_at dksX4_lineHere_0 22 rfl rfl)
theorem dX4_lineHere_23 : decode cX4_lineHere 23 = .ok (.iconst 2, 1) := dk_5 (dk_at dksX4_lineHere_0 23 rfl rfl)
theorem dX4_lineHere_24 : decode cX4_lineHere 24 = .ok (.invokevirtual 200, 3) := dk_182 0 200 (dk_at dksX4_lineHere_1 0 rfl rfl)
theorem dX4_lineHere_27 : decode cX4_lineHere 27 = .ok (.aload_n 0, 1) := dk_42 (dk_at dksX4_lineHere_1 3 rfl rfl)
theorem dX4_lineHere_28 : decode cX4_lineHere 28 = .ok (.aload_n 0, 1) := dk_42 (dk_at dksX4_lineHere_1 4 rfl rfl)
theorem dX4_lineHere_29 : decode cX4_lineHere 29 = .ok (.getfield 69, 3) := dk_180 0 69 (dk_at dksX4_lineHere_1 5 rfl rfl)
theorem dX4_lineHere_32 : decode cX4_lineHere 32 = .ok (.aload_n 0, 1) := dk_42 (dk_at dksX4_lineHere_1 8 rfl rfl)
theorem dX4_lineHere_33 : decode cX4_lineHere 33 = .ok (.getfield 203, 3) := dk_180 0 203 (dk_at dksX4_lineHere_1 9 rfl rfl)
theorem dX4_lineHere_36 : decode cX4_lineHere 36 = .ok (.invokevirtual 209, 3) := dk_182 0 209 (dk_at dksX4_lineHere_1 12 rfl rfl)
theorem dX4_lineHere_39 : decode cX4_lineHere 39 = .ok (.istore_n 1, 1) := dk_60 (dk_at dksX4_lineHere_1 15 rfl rfl)
theorem dX4_lineHere_40 : decode cX4_lineHere 40 = .ok (.aload_n 0, 1) := dk_42 (dk_at dksX4_lineHere_1 16 rfl rfl)
theorem dX4_lineHere_41 : decode cX4_lineHere 41 = .ok (.getfield 162, 3) := dk_180 0 162 (dk_at dksX4_lineHere_1 17 rfl rfl)
theorem dX4_lineHere_44 : decode cX4_lineHere 44 = .ok (.ifCond .eq 4, 3) := dk_153 0 4 (dk_at dksX4_lineHere_1 20 rfl rfl)
theorem dX4_lineHere_47 : decode cX4_lineHere 47 = .ok (.return_, 1) := dk_177 (dk_at dksX4_lineHere_1 23 rfl rfl)
theorem dX4_lineHere_48 : decode cX4_lineHere 48 = .ok (.aload_n 0, 1) := dk_42 (dk_at dksX4_lineHere_2 0 rfl rfl)
theorem dX4_lineHere_49 : decode cX4_lineHere 49 = .ok (.getfield 69, 3) := dk_180 0 69 (dk_at dksX4_lineHere_2 1 rfl rfl)
theorem dX4_lineHere_52 : decode cX4_lineHere 52 = .ok (.aload_n 0, 1) := dk_42 (dk_at dksX4_lineHere_2 4 rfl rfl)
theorem dX4_lineHere_53 : decode cX4_lineHere 53 = .ok (.getfield 203, 3) := dk_180 0 203 (dk_at dksX4_lineHere_2 5 rfl rfl)
theorem dX4_lineHere_56 : decode cX4_lineHere 56 = .ok (.iload_n 1, 1) := dk_27 (dk_at dksX4_lineHere_2 8 rfl rfl)
theorem dX4_lineHere_57 : decode cX4_lineHere 57 = .ok (.iastore, 1) := dk_79 (dk_at dksX4_lineHere_2 9 rfl rfl)
theorem dX4_lineHere_58 : decode cX4_lineHere 58 = .ok (.aload_n 0, 1) := dk_42 (dk_at dksX4_lineHere_2 10 rfl rfl)
theorem dX4_lineHere_59 : decode cX4_lineHere 59 = .ok (.dup, 1) := dk_89 (dk_at dksX4_lineHere_2 11 rfl rfl)
theorem dX4_lineHere_60 : decode cX4_lineHere 60 = .ok (.getfield 203, 3) := dk_180 0 203 (dk_at dksX4_lineHere_2 12 rfl rfl)
theorem dX4_lineHere_63 : decode cX4_lineHere 63 = .ok (.iconst 1, 1) := dk_4 (dk_at dksX4_lineHere_2 15 rfl rfl)
theorem dX4_lineHere_64 : decode cX4_lineHere 64 = .ok (.iadd, 1) := dk_96 (dk_at dksX4_lineHere_2 16 rfl rfl)
theorem dX4_lineHere_65 : decode cX4_lineHere 65 = .ok (.putfield 203, 3) := dk_181 0 203 (dk_at dksX4_lineHere_2 17 rfl rfl)
theorem dX4_lineHere_68 : decode cX4_lineHere 68 = .ok (.goto 244, 3) := dk_167 0 244 (dk_at dksX4_lineHere_2 20 rfl rfl)
theorem dX4_lineHere_71 : decode cX4_lineHere 71 = .ok (.aload_n 0, 1) := dk_42 (dk_at dksX4_lineHere_2 23 rfl rfl)
theorem dX4_lineHere_72 : decode cX4_lineHere 72 = .ok (.ldc 170, 2) := dk_18 170 (dk_at dksX4_lineHere_3 0 rfl rfl)
theorem dX4_lineHere_74 : decode cX4_lineHere 74 = .ok (.invokevirtual 196, 3) := dk_182 0 196 (dk_at dksX4_lineHere_3 2 rfl rfl)
theorem dX4_lineHere_77 : decode cX4_lineHere 77 = .ok (.ifCond .eq 81, 3) := dk_153 0 81 (dk_at dksX4_lineHere_3 5 rfl rfl)
theorem dX4_lineHere_80 : decode cX4_lineHere 80 = .ok (.aload_n 0, 1) := dk_42 (dk_at dksX4_lineHere_3 8 rfl rfl)
theorem dX4_lineHere_81 : decode cX4_lineHere 81 = .ok (.aload_n 0, 1) := dk_42 (dk_at dksX4_lineHere_3 9 rfl rfl)
theorem dX4_lineHere_82 : decode cX4_lineHere 82 = .ok (.getfield 189, 3) := dk_180 0 189 (dk_at dksX4_lineHere_3 10 rfl rfl)
theorem dX4_lineHere_85 : decode cX4_lineHere 85 = .ok (.bipush 8, 2) := dk_16 8 (dk_at dksX4_lineHere_3 13 rfl rfl)
theorem dX4_lineHere_87 : decode cX4_lineHere 87 = .ok (.if_icmp .ge 7, 3) := dk_162 0 7 (dk_at dksX4_lineHere_3 15 rfl rfl)
theorem dX4_lineHere_90 : decode cX4_lineHere 90 = .ok (.iconst 1, 1) := dk_4 (dk_at dksX4_lineHere_3 18 rfl rfl)
theorem dX4_lineHere_91 : decode cX4_lineHere 91 = .ok (.goto 4, 3) := dk_167 0 4 (dk_at dksX4_lineHere_3 19 rfl rfl)
theorem dX4_lineHere_94 : decode cX4_lineHere 94 = .ok (.iconst 0, 1) := dk_3 (dk_at dksX4_lineHere_3 22 rfl rfl)
theorem dX4_lineHere_95 : decode cX4_lineHere 95 = .ok (.iconst 2, 1) := dk_5 (dk_at dksX4_lineHere_3 23 rfl rfl)
theorem dX4_lineHere_96 : decode cX4_lineHere 96 = .ok (.invokevirtual 200, 3) := dk_182 0 200 (dk_at dksX4_lineHere_4 0 rfl rfl)
theorem dX4_lineHere_99 : decode cX4_lineHere 99 = .ok (.aload_n 0, 1) := dk_42 (dk_at dksX4_lineHere_4 3 rfl rfl)
theorem dX4_lineHere_100 : decode cX4_lineHere 100 = .ok (.aload_n 0, 1) := dk_42 (dk_at dksX4_lineHere_4 4 rfl rfl)
theorem dX4_lineHere_101 : decode cX4_lineHere 101 = .ok (.getfield 72, 3) := dk_180 0 72 (dk_at dksX4_lineHere_4 5 rfl rfl)
theorem dX4_lineHere_104 : decode cX4_lineHere 104 = .ok (.aload_n 0, 1) := dk_42 (dk_at dksX4_lineHere_4 8 rfl rfl)
theorem dX4_lineHere_105 : decode cX4_lineHere 105 = .ok (.getfield 189, 3) := dk_180 0 189 (dk_at dksX4_lineHere_4 9 rfl rfl)
theorem dX4_lineHere_108 : decode cX4_lineHere 108 = .ok (.invokevirtual 209, 3) := dk_182 0 209 (dk_at dksX4_lineHere_4 12 rfl rfl)
theorem dX4_lineHere_111 : decode cX4_lineHere 111 = .ok (.istore_n 1, 1) := dk_60 (dk_at dksX4_lineHere_4 15 rfl rfl)
theorem dX4_lineHere_112 : decode cX4_lineHere 112 = .ok (.aload_n 0, 1) := dk_42 (dk_at dksX4_lineHere_4 16 rfl rfl)
theorem dX4_lineHere_113 : decode cX4_lineHere 113 = .ok (.getfield 162, 3) := dk_180 0 162 (dk_at dksX4_lineHere_4 17 rfl rfl)
theorem dX4_lineHere_116 : decode cX4_lineHere 116 = .ok (.ifCond .ne 11, 3) := dk_154 0 11 (dk_at dksX4_lineHere_4 20 rfl rfl)
theorem dX4_lineHere_119 : decode cX4_lineHere 119 = .ok (.aload_n 0, 1) := dk_42 (dk_at dksX4_lineHere_4 23 rfl rfl)
theorem dX4_lineHere_120 : decode cX4_lineHere 120 = .ok (.aload_n 0, 1) := dk_42 (dk_at dksX4_lineHere_5 0 rfl rfl)
theorem dX4_lineHere_121 : decode cX4_lineHere 121 = .ok (.getfield 189, 3) := dk_180 0 189 (dk_at dksX4_lineHere_5 1 rfl rfl)
theorem dX4_lineHere_124 : decode cX4_lineHere 124 = .ok (.invokevirtual 212, 3) := dk_182 0 212 (dk_at dksX4_lineHere_5 4 rfl rfl)
theorem dX4_lineHere_127 : decode cX4_lineHere 127 = .ok (.aload_n 0, 1) := dk_42 (dk_at dksX4_lineHere_5 7 rfl rfl)
theorem dX4_lineHere_128 : decode cX4_lineHere 128 = .ok (.getfield 162, 3) := dk_180 0 162 (dk_at dksX4_lineHere_5 8 rfl rfl)
theorem dX4_lineHere_131 : decode cX4_lineHere 131 = .ok (.ifCond .eq 4, 3) := dk_153 0 4 (dk_at dksX4_lineHere_5 11 rfl rfl)
theorem dX4_lineHere_134 : decode cX4_lineHere 134 = .ok (.return_, 1) := dk_177 (dk_at dksX4_lineHere_5 14 rfl rfl)
theorem dX4_lineHere_135 : decode cX4_lineHere 135 = .ok (.aload_n 0, 1) := dk_42 (dk_at dksX4_lineHere_5 15 rfl rfl)
theorem dX4_lineHere_136 : decode cX4_lineHere 136 = .ok (.getfield 72, 3) := dk_180 0 72 (dk_at dksX4_lineHere_5 16 rfl rfl)
theorem dX4_lineHere_139 : decode cX4_lineHere 139 = .ok (.aload_n 0, 1) := dk_42 (dk_at dksX4_lineHere_5 19 rfl rfl)
theorem dX4_lineHere_140 : decode cX4_lineHere 140 = .ok (.getfield 189, 3) := dk_180 0 189 (dk_at dksX4_lineHere_5 20 rfl rfl)
theorem dX4_lineHere_143 : decode cX4_lineHere 143 = .ok (.iload_n 1, 1) := dk_27 (dk_at dksX4_lineHere_5 23 rfl rfl)
theorem dX4_lineHere_144 : decode cX4_lineHere 144 = .ok (.iastore, 1) := dk_79 (dk_at dksX4_lineHere_6 0 rfl rfl)
theorem dX4_lineHere_145 : decode cX4_lineHere 145 = .ok (.aload_n 0, 1) := dk_42 (dk_at dksX4_lineHere_6 1 rfl rfl)
theorem dX4_lineHere_146 : decode cX4_lineHere 146 = .ok (.dup, 1) := dk_89 (dk_at dksX4_lineHere_6 2 rfl rfl)
theorem dX4_lineHere_147 : decode cX4_lineHere 147 = .ok (.getfield 189, 3) := dk_180 0 189 (dk_at dksX4_lineHere_6 3 rfl rfl)
theorem dX4_lineHere_150 : decode cX4_lineHere 150 = .ok (.iconst 1, 1) := dk_4 (dk_at dksX4_lineHere_6 6 rfl rfl)
theorem dX4_lineHere_151 : decode cX4_lineHere 151 = .ok (.iadd, 1) := dk_96 (dk_at dksX4_lineHere_6 7 rfl rfl)
theorem dX4_lineHere_152 : decode cX4_lineHere 152 = .ok (.putfield 189, 3) := dk_181 0 189 (dk_at dksX4_lineHere_6 8 rfl rfl)
theorem dX4_lineHere_155 : decode cX4_lineHere 155 = .ok (.goto 157, 3) := dk_167 0 157 (dk_at dksX4_lineHere_6 11 rfl rfl)
theorem dX4_lineHere_158 : decode cX4_lineHere 158 = .ok (.aload_n 0, 1) := dk_42 (dk_at dksX4_lineHere_6 14 rfl rfl)
theorem dX4_lineHere_159 : decode cX4_lineHere 159 = .ok (.ldc 171, 2) := dk_18 171 (dk_at dksX4_lineHere_6 15 rfl rfl)
theorem dX4_lineHere_161 : decode cX4_lineHere 161 = .ok (.invokevirtual 196, 3) := dk_182 0 196 (dk_at dksX4_lineHere_6 17 rfl rfl)
theorem dX4_lineHere_164 : decode cX4_lineHere 164 = .ok (.ifCond .eq 99, 3) := dk_153 0 99 (dk_at dksX4_lineHere_6 20 rfl rfl)
theorem dX4_lineHere_167 : decode cX4_lineHere 167 = .ok (.aload_n 0, 1) := dk_42 (dk_at dksX4_lineHere_6 23 rfl rfl)
theorem dX4_lineHere_168 : decode cX4_lineHere 168 = .ok (.aload_n 0, 1) := dk_42 (dk_at dksX4_lineHere_7 0 rfl rfl)
theorem dX4_lineHere_169 : decode cX4_lineHere 169 = .ok (.getfield 215, 3) := dk_180 0 215 (dk_at dksX4_lineHere_7 1 rfl rfl)
theorem dX4_lineHere_172 : decode cX4_lineHere 172 = .ok (.bipush 16, 2) := dk_16 16 (dk_at dksX4_lineHere_7 4 rfl rfl)
theorem dX4_lineHere_174 : decode cX4_lineHere 174 = .ok (.if_icmp .ge 7, 3) := dk_162 0 7 (dk_at dksX4_lineHere_7 6 rfl rfl)
theorem dX4_lineHere_177 : decode cX4_lineHere 177 = .ok (.iconst 1, 1) := dk_4 (dk_at dksX4_lineHere_7 9 rfl rfl)
theorem dX4_lineHere_178 : decode cX4_lineHere 178 = .ok (.goto 4, 3) := dk_167 0 4 (dk_at dksX4_lineHere_7 10 rfl rfl)
theorem dX4_lineHere_181 : decode cX4_lineHere 181 = .ok (.iconst 0, 1) := dk_3 (dk_at dksX4_lineHere_7 13 rfl rfl)
theorem dX4_lineHere_182 : decode cX4_lineHere 182 = .ok (.iconst 2, 1) := dk_5 (dk_at dksX4_lineHere_7 14 rfl rfl)
theorem dX4_lineHere_183 : decode cX4_lineHere 183 = .ok (.invokevirtual 200, 3) := dk_182 0 200 (dk_at dksX4_lineHere_7 15 rfl rfl)
theorem dX4_lineHere_186 : decode cX4_lineHere 186 = .ok (.aload_n 0, 1) := dk_42 (dk_at dksX4_lineHere_7 18 rfl rfl)
theorem dX4_lineHere_187 : decode cX4_lineHere 187 = .ok (.invokevirtual 218, 3) := dk_182 0 218 (dk_at dksX4_lineHere_7 19 rfl rfl)
theorem dX4_lineHere_190 : decode cX4_lineHere 190 = .ok (.istore_n 1, 1) := dk_60 (dk_at dksX4_lineHere_7 22 rfl rfl)
theorem dX4_lineHere_191 : decode cX4_lineHere 191 = .ok (.aload_n 0, 1) := dk_42 (dk_at dksX4_lineHere_7 23 rfl rfl)
theorem dX4_lineHere_192 : decode cX4_lineHere 192 = .ok (.invokevirtual 218, 3) := dk_182 0 218 (dk_at dksX4_lineHere_8 0 rfl rfl)
theorem dX4_lineHere_195 : decode cX4_lineHere 195 = .ok (.istore_n 2, 1) := dk_61 (dk_at dksX4_lineHere_8 3 rfl rfl)
theorem dX4_lineHere_196 : decode cX4_lineHere 196 = .ok (.aload_n 0, 1) := dk_42 (dk_at dksX4_lineHere_8 4 rfl rfl)
theorem dX4_lineHere_197 : decode cX4_lineHere 197 = .ok (.getfield 162, 3) := dk_180 0 162 (dk_at dksX4_lineHere_8 5 rfl rfl)
theorem dX4_lineHere_200 : decode cX4_lineHere 200 = .ok (.ifCond .eq 4, 3) := dk_153 0 4 (dk_at dksX4_lineHere_8 8 rfl rfl)
theorem dX4_lineHere_203 : decode cX4_lineHere 203 = .ok (.return_, 1) := dk_177 (dk_at dksX4_lineHere_8 11 rfl rfl)
theorem dX4_lineHere_204 : decode cX4_lineHere 204 = .ok (.aload_n 0, 1) := dk_42 (dk_at dksX4_lineHere_8 12 rfl rfl)
theorem dX4_lineHere_205 : decode cX4_lineHere 205 = .ok (.bipush 8, 2) := dk_16 8 (dk_at dksX4_lineHere_8 13 rfl rfl)
theorem dX4_lineHere_207 : decode cX4_lineHere 207 = .ok (.aload_n 0, 1) := dk_42 (dk_at dksX4_lineHere_8 15 rfl rfl)
theorem dX4_lineHere_208 : decode cX4_lineHere 208 = .ok (.getfield 215, 3) := dk_180 0 215 (dk_at dksX4_lineHere_8 16 rfl rfl)
theorem dX4_lineHere_211 : decode cX4_lineHere 211 = .ok (.iadd, 1) := dk_96 (dk_at dksX4_lineHere_8 19 rfl rfl)
theorem dX4_lineHere_212 : decode cX4_lineHere 212 = .ok (.invokevirtual 212, 3) := dk_182 0 212 (dk_at dksX4_lineHere_8 20 rfl rfl)
theorem dX4_lineHere_215 : decode cX4_lineHere 215 = .ok (.aload_n 0, 1) := dk_42 (dk_at dksX4_lineHere_8 23 rfl rfl)
theorem dX4_lineHere_216 : decode cX4_lineHere 216 = .ok (.getfield 162, 3) := dk_180 0 162 (dk_at dksX4_lineHere_9 0 rfl rfl)
theorem dX4_lineHere_219 : decode cX4_lineHere 219 = .ok (.ifCond .ne 11, 3) := dk_154 0 11 (dk_at dksX4_lineHere_9 3 rfl rfl)
theorem dX4_lineHere_222 : decode cX4_lineHere 222 = .ok (.aload_n 0, 1) := dk_42 (dk_at dksX4_lineHere_9 6 rfl rfl)
theorem dX4_lineHere_223 : decode cX4_lineHere 223 = .ok (.aload_n 0, 1) := dk_42 (dk_at dksX4_lineHere_9 7 rfl rfl)
theorem dX4_lineHere_224 : decode cX4_lineHere 224 = .ok (.getfield 215, 3) := dk_180 0 215 (dk_at dksX4_lineHere_9 8 rfl rfl)
theorem dX4_lineHere_227 : decode cX4_lineHere 227 = .ok (.invokevirtual 221, 3) := dk_182 0 221 (dk_at dksX4_lineHere_9 11 rfl rfl)
theorem dX4_lineHere_230 : decode cX4_lineHere 230 = .ok (.aload_n 0, 1) := dk_42 (dk_at dksX4_lineHere_9 14 rfl rfl)
theorem dX4_lineHere_231 : decode cX4_lineHere 231 = .ok (.getfield 87, 3) := dk_180 0 87 (dk_at dksX4_lineHere_9 15 rfl rfl)
theorem dX4_lineHere_234 : decode cX4_lineHere 234 = .ok (.aload_n 0, 1) := dk_42 (dk_at dksX4_lineHere_9 18 rfl rfl)
theorem dX4_lineHere_235 : decode cX4_lineHere 235 = .ok (.getfield 215, 3) := dk_180 0 215 (dk_at dksX4_lineHere_9 19 rfl rfl)
theorem dX4_lineHere_238 : decode cX4_lineHere 238 = .ok (.iload_n 1, 1) := dk_27 (dk_at dksX4_lineHere_9 22 rfl rfl)
theorem dX4_lineHere_239 : decode cX4_lineHere 239 = .ok (.iastore, 1) := dk_79 (dk_at dksX4_lineHere_9 23 rfl rfl)
theorem dX4_lineHere_240 : decode cX4_lineHere 240 = .ok (.aload_n 0, 1) := dk_42 (dk_at dksX4_lineHere_10 0 rfl rfl)
theorem dX4_lineHere_241 : decode cX4_lineHere 241 = .ok (.getfield 90, 3) := dk_180 0 90 (dk_at dksX4_lineHere_10 1 rfl rfl)
theorem dX4_lineHere_244 : decode cX4_lineHere 244 = .ok (.aload_n 0, 1) := dk_42 (dk_at dksX4_lineHere_10 4 rfl rfl)
theorem dX4_lineHere_245 : decode cX4_lineHere 245 = .ok (.getfield 215, 3) := dk_180 0 215 (dk_at dksX4_lineHere_10 5 rfl rfl)
theorem dX4_lineHere_248 : decode cX4_lineHere 248 = .ok (.iload_n 2, 1) := dk_28 (dk_at dksX4_lineHere_10 8 rfl rfl)
theorem dX4_lineHere_249 : decode cX4_lineHere 249 = .ok (.iastore, 1) := dk_79 (dk_at dksX4_lineHere_10 9 rfl rfl)
theorem dX4_lineHere_250 : decode cX4_lineHere 250 = .ok (.aload_n 0, 1) := dk_42 (dk_at dksX4_lineHere_10 10 rfl rfl)
theorem dX4_lineHere_251 : decode cX4_lineHere 251 = .ok (.dup, 1) := dk_89 (dk_at dksX4_lineHere_10 11 rfl rfl)
theorem dX4_lineHere_252 : decode cX4_lineHere 252 = .ok (.getfield 215, 3) := dk_180 0 215 (dk_at dksX4_lineHere_10 12 rfl rfl)
theorem dX4_lineHere_255 : decode cX4_lineHere 255 = .ok (.iconst 1, 1) := dk_4 (dk_at dksX4_lineHere_10 15 rfl rfl)
theorem dX4_lineHere_256 : decode cX4_lineHere 256 = .ok (.iadd, 1) := dk_96 (dk_at dksX4_lineHere_10 16 rfl rfl)
theorem dX4_lineHere_257 : decode cX4_lineHere 257 = .ok (.putfield 215, 3) := dk_181 0 215 (dk_at dksX4_lineHere_10 17 rfl rfl)
theorem dX4_lineHere_260 : decode cX4_lineHere 260 = .ok (.goto 52, 3) := dk_167 0 52 (dk_at dksX4_lineHere_10 20 rfl rfl)
theorem dX4_lineHere_263 : decode cX4_lineHere 263 = .ok (.aload_n 0, 1) := dk_42 (dk_at dksX4_lineHere_10 23 rfl rfl)
theorem dX4_lineHere_264 : decode cX4_lineHere 264 = .ok (.aload_n 0, 1) := dk_42 (dk_at dksX4_lineHere_11 0 rfl rfl)
theorem dX4_lineHere_265 : decode cX4_lineHere 265 = .ok (.ldc 172, 2) := dk_18 172 (dk_at dksX4_lineHere_11 1 rfl rfl)
theorem dX4_lineHere_267 : decode cX4_lineHere 267 = .ok (.invokevirtual 196, 3) := dk_182 0 196 (dk_at dksX4_lineHere_11 3 rfl rfl)
theorem dX4_lineHere_270 : decode cX4_lineHere 270 = .ok (.iconst 1, 1) := dk_4 (dk_at dksX4_lineHere_11 6 rfl rfl)
theorem dX4_lineHere_271 : decode cX4_lineHere 271 = .ok (.invokevirtual 174, 3) := dk_182 0 174 (dk_at dksX4_lineHere_11 7 rfl rfl)
theorem dX4_lineHere_274 : decode cX4_lineHere 274 = .ok (.aload_n 0, 1) := dk_42 (dk_at dksX4_lineHere_11 10 rfl rfl)
theorem dX4_lineHere_275 : decode cX4_lineHere 275 = .ok (.getfield 162, 3) := dk_180 0 162 (dk_at dksX4_lineHere_11 11 rfl rfl)
theorem dX4_lineHere_278 : decode cX4_lineHere 278 = .ok (.ifCond .eq 4, 3) := dk_153 0 4 (dk_at dksX4_lineHere_11 14 rfl rfl)
theorem dX4_lineHere_281 : decode cX4_lineHere 281 = .ok (.return_, 1) := dk_177 (dk_at dksX4_lineHere_11 17 rfl rfl)
theorem dX4_lineHere_282 : decode cX4_lineHere 282 = .ok (.aload_n 0, 1) := dk_42 (dk_at dksX4_lineHere_11 18 rfl rfl)
theorem dX4_lineHere_283 : decode cX4_lineHere 283 = .ok (.aload_n 0, 1) := dk_42 (dk_at dksX4_lineHere_11 19 rfl rfl)
theorem dX4_lineHere_284 : decode cX4_lineHere 284 = .ok (.getfield 224, 3) := dk_180 0 224 (dk_at dksX4_lineHere_11 20 rfl rfl)
theorem dX4_lineHere_287 : decode cX4_lineHere 287 = .ok (.ifCond .ne 7, 3) := dk_154 0 7 (dk_at dksX4_lineHere_12 0 rfl rfl)
theorem dX4_lineHere_290 : decode cX4_lineHere 290 = .ok (.iconst 1, 1) := dk_4 (dk_at dksX4_lineHere_12 3 rfl rfl)
theorem dX4_lineHere_291 : decode cX4_lineHere 291 = .ok (.goto 4, 3) := dk_167 0 4 (dk_at dksX4_lineHere_12 4 rfl rfl)
theorem dX4_lineHere_294 : decode cX4_lineHere 294 = .ok (.iconst 0, 1) := dk_3 (dk_at dksX4_lineHere_12 7 rfl rfl)
theorem dX4_lineHere_295 : decode cX4_lineHere 295 = .ok (.iconst 3, 1) := dk_6 (dk_at dksX4_lineHere_12 8 rfl rfl)
theorem dX4_lineHere_296 : decode cX4_lineHere 296 = .ok (.invokevirtual 200, 3) := dk_182 0 200 (dk_at dksX4_lineHere_12 9 rfl rfl)
theorem dX4_lineHere_299 : decode cX4_lineHere 299 = .ok (.aload_n 0, 1) := dk_42 (dk_at dksX4_lineHere_12 12 rfl rfl)
theorem dX4_lineHere_300 : decode cX4_lineHere 300 = .ok (.iconst 1, 1) := dk_4 (dk_at dksX4_lineHere_12 13 rfl rfl)
theorem dX4_lineHere_301 : decode cX4_lineHere 301 = .ok (.putfield 224, 3) := dk_181 0 224 (dk_at dksX4_lineHere_12 14 rfl rfl)
theorem dX4_lineHere_304 : decode cX4_lineHere 304 = .ok (.aload_n 0, 1) := dk_42 (dk_at dksX4_lineHere_12 17 rfl rfl)
theorem dX4_lineHere_305 : decode cX4_lineHere 305 = .ok (.aload_n 0, 1) := dk_42 (dk_at dksX4_lineHere_12 18 rfl rfl)
theorem dX4_lineHere_306 : decode cX4_lineHere 306 = .ok (.invokevirtual 218, 3) := dk_182 0 218 (dk_at dksX4_lineHere_12 19 rfl rfl)
theorem dX4_lineHere_309 : decode cX4_lineHere 309 = .ok (.putfield 227, 3) := dk_181 0 227 (dk_at dksX4_lineHere_13 0 rfl rfl)
theorem dX4_lineHere_312 : decode cX4_lineHere 312 = .ok (.return_, 1) := dk_177 (dk_at dksX4_lineHere_13 3 rfl rfl)
def dkwX4_isWord_1 : List UInt8 := [167, 0, 4, 3, 172]
abbrev dktX4_isWord_1 : List UInt8 := dkwX4_isWord_1 ++ []
def dkwX4_isWord_0 : List UInt8 := [42, 180, 0, 162, 154, 0, 23, 42, 180, 0, 155, 4, 160, 0, 15, 42, 180, 0, 152, 27, 160, 0, 7, 4]
abbrev dktX4_isWord_0 : List UInt8 := dkwX4_isWord_0 ++ dktX4_isWord_1
theorem dksX4_isWord_0 : cX4_isWord.data.toList.drop 0 = dktX4_isWord_0 := by decide +kernel
theorem dksX4_isWord_1 : cX4_isWord.data.toList.drop 24 = dktX4_isWord_1 := dk_seg dksX4_isWord_0 24 rfl rfl
theorem dX4_isWord_0 : decode cX4_isWord 0 = .ok (.aload_n 0, 1) := dk_42 (dk_at dksX4_isWord_0 0 rfl rfl)
theorem dX4_isWord_1 : decode cX4_isWord 1 = .ok (.getfield 162, 3) := dk_180 0 162 (dk_at dksX4_isWord_0 1 rfl rfl)
theorem dX4_isWord_4 : decode cX4_isWord 4 = .ok (.ifCond .ne 23, 3) := dk_154 0 23 (dk_at dksX4_isWord_0 4 rfl rfl)
theorem dX4_isWord_7 : decode cX4_isWord 7 = .ok (.aload_n 0, 1) := dk_42 (dk_at dksX4_isWord_0 7 rfl rfl)
theorem dX4_isWord_8 : decode cX4_isWord 8 = .ok (.getfield 155, 3) := dk_180 0 155 (dk_at dksX4_isWord_0 8 rfl rfl)
theorem dX4_isWord_11 : decode cX4_isWord 11 = .ok (.iconst 1, 1) := dk_4 (dk_at dksX4_isWord_0 11 rfl rfl)
theorem dX4_isWord_12 : decode cX4_isWord 12 = .ok (.if_icmp .ne 15, 3) := dk_160 0 15 (dk_at dksX4_isWord_0 12 rfl rfl)
theorem dX4_isWord_15 : decode cX4_isWord 15 = .ok (.aload_n 0, 1) := dk_42 (dk_at dksX4_isWord_0 15 rfl rfl)
theorem dX4_isWord_16 : decode cX4_isWord 16 = .ok (.getfield 152, 3) := dk_180 0 152 (dk_at dksX4_isWord_0 16 rfl rfl)
theorem dX4_isWord_19 : decode cX4_isWord 19 = .ok (.iload_n 1, 1) := dk_27 (dk_at dksX4_isWord_0 19 rfl rfl)
theorem dX4_isWord_20 : decode cX4_isWord 20 = .ok (.if_icmp .ne 7, 3) := dk_160 0 7 (dk_at dksX4_isWord_0 20 rfl rfl)
theorem dX4_isWord_23 : decode cX4_isWord 23 = .ok (.iconst 1, 1) := dk_4 (dk_at dksX4_isWord_0 23 rfl rfl)
theorem dX4_isWord_24 : decode cX4_isWord 24 = .ok (.goto 4, 3) := dk_167 0 4 (dk_at dksX4_isWord_1 0 rfl rfl)
theorem dX4_isWord_27 : decode cX4_isWord 27 = .ok (.iconst 0, 1) := dk_3 (dk_at dksX4_isWord_1 3 rfl rfl)
theorem dX4_isWord_28 : decode cX4_isWord 28 = .ok (.ireturn, 1) := dk_172 (dk_at dksX4_isWord_1 4 rfl rfl)
def dkwX4_opens_0 : List UInt8 := [42, 27, 28, 182, 0, 174, 42, 180, 0, 162, 154, 0, 7, 42, 182, 0, 178, 177]
abbrev dktX4_opens_0 : List UInt8 := dkwX4_opens_0 ++ []
theorem dksX4_opens_0 : cX4_opens.data.toList.drop 0 = dktX4_opens_0 := by decide +kernel
theorem dX4_opens_0 : decode cX4_opens 0 = .ok (.aload_n 0, 1) := dk_42 (dk_at dksX4_opens_0 0 rfl rfl)
theorem dX4_opens_1 : decode cX4_opens 1 = .ok (.iload_n 1, 1) := dk_27 (dk_at dksX4_opens_0 1 rfl rfl)
theorem dX4_opens_2 : decode cX4_opens 2 = .ok (.iload_n 2, 1) := dk_28 (dk_at dksX4_opens_0 2 rfl rfl)
theorem dX4_opens_3 : decode cX4_opens 3 = .ok (.invokevirtual 174, 3) := dk_182 0 174 (dk_at dksX4_opens_0 3 rfl rfl)
theorem dX4_opens_6 : decode cX4_opens 6 = .ok (.aload_n 0, 1) := dk_42 (dk_at dksX4_opens_0 6 rfl rfl)
theorem dX4_opens_7 : decode cX4_opens 7 = .ok (.getfield 162, 3) := dk_180 0 162 (dk_at dksX4_opens_0 7 rfl rfl)
theorem dX4_opens_10 : decode cX4_opens 10 = .ok (.ifCond .ne 7, 3) := dk_154 0 7 (dk_at dksX4_opens_0 10 rfl rfl)
theorem dX4_opens_13 : decode cX4_opens 13 = .ok (.aload_n 0, 1) := dk_42 (dk_at dksX4_opens_0 13 rfl rfl)
theorem dX4_opens_14 : decode cX4_opens 14 = .ok (.invokevirtual 178, 3) := dk_182 0 178 (dk_at dksX4_opens_0 14 rfl rfl)
theorem dX4_opens_17 : decode cX4_opens 17 = .ok (.return_, 1) := dk_177 (dk_at dksX4_opens_0 17 rfl rfl)
def dkwX4_must_1 : List UInt8 := [180, 0, 149, 181, 0, 66, 177]
abbrev dktX4_must_1 : List UInt8 := dkwX4_must_1 ++ []
def dkwX4_must_0 : List UInt8 := [27, 154, 0, 10, 42, 180, 0, 162, 153, 0, 4, 177, 42, 4, 181, 0, 162, 42, 28, 181, 0, 166, 42, 42]
abbrev dktX4_must_0 : List UInt8 := dkwX4_must_0 ++ dktX4_must_1
theorem dksX4_must_0 : cX4_must.data.toList.drop 0 = dktX4_must_0 := by decide +kernel
theorem dksX4_must_1 : cX4_must.data.toList.drop 24 = dktX4_must_1 := dk_seg dksX4_must_0 24 rfl rfl
theorem dX4_must_0 : decode cX4_must 0 = .ok (.iload_n 1, 1) := dk_27 (dk_at dksX4_must_0 0 rfl rfl)
theorem dX4_must_1 : decode cX4_must 1 = .ok (.ifCond .ne 10, 3) := dk_154 0 10 (dk_at dksX4_must_0 1 rfl rfl)
theorem dX4_must_4 : decode cX4_must 4 = .ok (.aload_n 0, 1) := dk_42 (dk_at dksX4_must_0 4 rfl rfl)
theorem dX4_must_5 : decode cX4_must 5 = .ok (.getfield 162, 3) := dk_180 0 162 (dk_at dksX4_must_0 5 rfl rfl)
theorem dX4_must_8 : decode cX4_must 8 = .ok (.ifCond .eq 4, 3) := dk_153 0 4 (dk_at dksX4_must_0 8 rfl rfl)
theorem dX4_must_11 : decode cX4_must 11 = .ok (.return_, 1) := dk_177 (dk_at dksX4_must_0 11 rfl rfl)
theorem dX4_must_12 : decode cX4_must 12 = .ok (.aload_n 0, 1) := dk_42 (dk_at dksX4_must_0 12 rfl rfl)
theorem dX4_must_13 : decode cX4_must 13 = .ok (.iconst 1, 1) := dk_4 (dk_at dksX4_must_0 13 rfl rfl)
theorem dX4_must_14 : decode cX4_must 14 = .ok (.putfield 162, 3) := dk_181 0 162 (dk_at dksX4_must_0 14 rfl rfl)
theorem dX4_must_17 : decode cX4_must 17 = .ok (.aload_n 0, 1) := dk_42 (dk_at dksX4_must_0 17 rfl rfl)
theorem dX4_must_18 : decode cX4_must 18 = .ok (.iload_n 2, 1) := dk_28 (dk_at dksX4_must_0 18 rfl rfl)
theorem dX4_must_19 : decode cX4_must 19 = .ok (.putfield 166, 3) := dk_181 0 166 (dk_at dksX4_must_0 19 rfl rfl)
theorem dX4_must_22 : decode cX4_must 22 = .ok (.aload_n 0, 1) := dk_42 (dk_at dksX4_must_0 22 rfl rfl)
theorem dX4_must_23 : decode cX4_must 23 = .ok (.aload_n 0, 1) := dk_42 (dk_at dksX4_must_0 23 rfl rfl)
theorem dX4_must_24 : decode cX4_must 24 = .ok (.getfield 149, 3) := dk_180 0 149 (dk_at dksX4_must_1 0 rfl rfl)
theorem dX4_must_27 : decode cX4_must 27 = .ok (.putfield 66, 3) := dk_181 0 66 (dk_at dksX4_must_1 3 rfl rfl)
theorem dX4_must_30 : decode cX4_must 30 = .ok (.return_, 1) := dk_177 (dk_at dksX4_must_1 6 rfl rfl)
def dkwX4_freshHere_2 : List UInt8 := [29, 172]
abbrev dktX4_freshHere_2 : List UInt8 := dkwX4_freshHere_2 ++ []
def dkwX4_freshHere_1 : List UInt8 := [167, 0, 4, 3, 6, 182, 0, 174, 42, 180, 0, 152, 62, 42, 180, 0, 162, 154, 0, 7, 42, 182, 0, 178]
abbrev dktX4_freshHere_1 : List UInt8 := dkwX4_freshHere_1 ++ dktX4_freshHere_2
def dkwX4_freshHere_0 : List UInt8 := [42, 42, 182, 0, 181, 4, 182, 0, 174, 42, 43, 28, 42, 180, 0, 152, 184, 0, 185, 2, 160, 0, 7, 4]
abbrev dktX4_freshHere_0 : List UInt8 := dkwX4_freshHere_0 ++ dktX4_freshHere_1
theorem dksX4_freshHere_0 : cX4_freshHere.data.toList.drop 0 = dktX4_freshHere_0 := by decide +kernel
theorem dksX4_freshHere_1 : cX4_freshHere.data.toList.drop 24 = dktX4_freshHere_1 := dk_seg dksX4_freshHere_0 24 rfl rfl
theorem dksX4_freshHere_2 : cX4_freshHere.data.toList.drop 48 = dktX4_freshHere_2 := dk_seg dksX4_freshHere_1 24 rfl rfl
theorem dX4_freshHere_0 : decode cX4_freshHere 0 = .ok (.aload_n 0, 1) := dk_42 (dk_at dksX4_freshHere_0 0 rfl rfl)
theorem dX4_freshHere_1 : decode cX4_freshHere 1 = .ok (.aload_n 0, 1) := dk_42 (dk_at dksX4_freshHere_0 1 rfl rfl)
theorem dX4_freshHere_2 : decode cX4_freshHere 2 = .ok (.invokevirtual 181, 3) := dk_182 0 181 (dk_at dksX4_freshHere_0 2 rfl rfl)
theorem dX4_freshHere_5 : decode cX4_freshHere 5 = .ok (.iconst 1, 1) := dk_4 (dk_at dksX4_freshHere_0 5 rfl rfl)
theorem dX4_freshHere_6 : decode cX4_freshHere 6 = .ok (.invokevirtual 174, 3) := dk_182 0 174 (dk_at dksX4_freshHere_0 6 rfl rfl)
theorem dX4_freshHere_9 : decode cX4_freshHere 9 = .ok (.aload_n 0, 1) := dk_42 (dk_at dksX4_freshHere_0 9 rfl rfl)
theorem dX4_freshHere_10 : decode cX4_freshHere 10 = .ok (.aload_n 1, 1) := dk_43 (dk_at dksX4_freshHere_0 10 rfl rfl)
theorem dX4_freshHere_11 : decode cX4_freshHere 11 = .ok (.iload_n 2, 1) := dk_28 (dk_at dksX4_freshHere_0 11 rfl rfl)
theorem dX4_freshHere_12 : decode cX4_freshHere 12 = .ok (.aload_n 0, 1) := dk_42 (dk_at dksX4_freshHere_0 12 rfl rfl)
theorem dX4_freshHere_13 : decode cX4_freshHere 13 = .ok (.getfield 152, 3) := dk_180 0 152 (dk_at dksX4_freshHere_0 13 rfl rfl)
theorem dX4_freshHere_16 : decode cX4_freshHere 16 = .ok (.invokestatic 185, 3) := dk_184 0 185 (dk_at dksX4_freshHere_0 16 rfl rfl)
theorem dX4_freshHere_19 : decode cX4_freshHere 19 = .ok (.iconst (-1), 1) := dk_2 (dk_at dksX4_freshHere_0 19 rfl rfl)
theorem dX4_freshHere_20 : decode cX4_freshHere 20 = .ok (.if_icmp .ne 7, 3) := dk_160 0 7 (dk_at dksX4_freshHere_0 20 rfl rfl)
theorem dX4_freshHere_23 : decode cX4_freshHere 23 = .ok (.iconst 1, 1) := dk_4 (dk_at dksX4_freshHere_0 23 rfl rfl)
theorem dX4_freshHere_24 : decode cX4_freshHere 24 = .ok (.goto 4, 3) := dk_167 0 4 (dk_at dksX4_freshHere_1 0 rfl rfl)
theorem dX4_freshHere_27 : decode cX4_freshHere 27 = .ok (.iconst 0, 1) := dk_3 (dk_at dksX4_freshHere_1 3 rfl rfl)
theorem dX4_freshHere_28 : decode cX4_freshHere 28 = .ok (.iconst 3, 1) := dk_6 (dk_at dksX4_freshHere_1 4 rfl rfl)
theorem dX4_freshHere_29 : decode cX4_freshHere 29 = .ok (.invokevirtual 174, 3) := dk_182 0 174 (dk_at dksX4_freshHere_1 5 rfl rfl)
theorem dX4_freshHere_32 : decode cX4_freshHere 32 = .ok (.aload_n 0, 1) := dk_42 (dk_at dksX4_freshHere_1 8 rfl rfl)
theorem dX4_freshHere_33 : decode cX4_freshHere 33 = .ok (.getfield 152, 3) := dk_180 0 152 (dk_at dksX4_freshHere_1 9 rfl rfl)
theorem dX4_freshHere_36 : decode cX4_freshHere 36 = .ok (.istore_n 3, 1) := dk_62 (dk_at dksX4_freshHere_1 12 rfl rfl)
theorem dX4_freshHere_37 : decode cX4_freshHere 37 = .ok (.aload_n 0, 1) := dk_42 (dk_at dksX4_freshHere_1 13 rfl rfl)
theorem dX4_freshHere_38 : decode cX4_freshHere 38 = .ok (.getfield 162, 3) := dk_180 0 162 (dk_at dksX4_freshHere_1 14 rfl rfl)
theorem dX4_freshHere_41 : decode cX4_freshHere 41 = .ok (.ifCond .ne 7, 3) := dk_154 0 7 (dk_at dksX4_freshHere_1 17 rfl rfl)
theorem dX4_freshHere_44 : decode cX4_freshHere 44 = .ok (.aload_n 0, 1) := dk_42 (dk_at dksX4_freshHere_1 20 rfl rfl)
theorem dX4_freshHere_45 : decode cX4_freshHere 45 = .ok (.invokevirtual 178, 3) := dk_182 0 178 (dk_at dksX4_freshHere_1 21 rfl rfl)
theorem dX4_freshHere_48 : decode cX4_freshHere 48 = .ok (.iload_n 3, 1) := dk_29 (dk_at dksX4_freshHere_2 0 rfl rfl)
theorem dX4_freshHere_49 : decode cX4_freshHere 49 = .ok (.ireturn, 1) := dk_172 (dk_at dksX4_freshHere_2 1 rfl rfl)
def dkwX4_isName_2 : List UInt8 := [180, 0, 152, 18, 173, 159, 0, 17, 42, 180, 0, 152, 17, 76, 180, 159, 0, 7, 4, 167, 0, 4, 3, 172]
abbrev dktX4_isName_2 : List UInt8 := dkwX4_isName_2 ++ []
def dkwX4_isName_1 : List UInt8 := [159, 0, 44, 42, 180, 0, 152, 18, 171, 159, 0, 35, 42, 180, 0, 152, 18, 172, 159, 0, 26, 42]
abbrev dktX4_isName_1 : List UInt8 := dkwX4_isName_1 ++ dktX4_isName_2
def dkwX4_isName_0 : List UInt8 := [42, 180, 0, 155, 4, 160, 0, 62, 42, 180, 0, 152, 18, 169, 159, 0, 53, 42, 180, 0, 152, 18, 170]
abbrev dktX4_isName_0 : List UInt8 := dkwX4_isName_0 ++ dktX4_isName_1
theorem dksX4_isName_0 : cX4_isName.data.toList.drop 0 = dktX4_isName_0 := by decide +kernel
theorem dksX4_isName_1 : cX4_isName.data.toList.drop 23 = dktX4_isName_1 := dk_seg dksX4_isName_0 23 rfl rfl
theorem dksX4_isName_2 : cX4_isName.data.toList.drop 45 = dktX4_isName_2 := dk_seg dksX4_isName_1 22 rfl rfl
theorem dX4_isName_0 : decode cX4_isName 0 = .ok (.aload_n 0, 1) := dk_42 (dk_at dksX4_isName_0 0 rfl rfl)
theorem dX4_isName_1 : decode cX4_isName 1 = .ok (.getfield 155, 3) := dk_180 0 155 (dk_at dksX4_isName_0 1 rfl rfl)
theorem dX4_isName_4 : decode cX4_isName 4 = .ok (.iconst 1, 1) := dk_4 (dk_at dksX4_isName_0 4 rfl rfl)
theorem dX4_isName_5 : decode cX4_isName 5 = .ok (.if_icmp .ne 62, 3) := dk_160 0 62 (dk_at dksX4_isName_0 5 rfl rfl)
theorem dX4_isName_8 : decode cX4_isName 8 = .ok (.aload_n 0, 1) := dk_42 (dk_at dksX4_isName_0 8 rfl rfl)
theorem dX4_isName_9 : decode cX4_isName 9 = .ok (.getfield 152, 3) := dk_180 0 152 (dk_at dksX4_isName_0 9 rfl rfl)
theorem dX4_isName_12 : decode cX4_isName 12 = .ok (.ldc 169, 2) := dk_18 169 (dk_at dksX4_isName_0 12 rfl rfl)
theorem dX4_isName_14 : decode cX4_isName 14 = .ok (.if_icmp .eq 53, 3) := dk_159 0 53 (dk_at dksX4_isName_0 14 rfl rfl)
theorem dX4_isName_17 : decode cX4_isName 17 = .ok (.aload_n 0, 1) := dk_42 (dk_at dksX4_isName_0 17 rfl rfl)
theorem dX4_isName_18 : decode cX4_isName 18 = .ok (.getfield 152, 3) := dk_180 0 152 (dk_at dksX4_isName_0 18 rfl rfl)
theorem dX4_isName_21 : decode cX4_isName 21 = .ok (.ldc 170, 2) := dk_18 170 (dk_at dksX4_isName_0 21 rfl rfl)
theorem dX4_isName_23 : decode cX4_isName 23 = .ok (.if_icmp .eq 44, 3) := dk_159 0 44 (dk_at dksX4_isName_1 0 rfl rfl)
theorem dX4_isName_26 : decode cX4_isName 26 = .ok (.aload_n 0, 1) := dk_42 (dk_at dksX4_isName_1 3 rfl rfl)
theorem dX4_isName_27 : decode cX4_isName 27 = .ok (.getfield 152, 3) := dk_180 0 152 (dk_at dksX4_isName_1 4 rfl rfl)
theorem dX4_isName_30 : decode cX4_isName 30 = .ok (.ldc 171, 2) := dk_18 171 (dk_at dksX4_isName_1 7 rfl rfl)
theorem dX4_isName_32 : decode cX4_isName 32 = .ok (.if_icmp .eq 35, 3) := dk_159 0 35 (dk_at dksX4_isName_1 9 rfl rfl)
theorem dX4_isName_35 : decode cX4_isName 35 = .ok (.aload_n 0, 1) := dk_42 (dk_at dksX4_isName_1 12 rfl rfl)
theorem dX4_isName_36 : decode cX4_isName 36 = .ok (.getfield 152, 3) := dk_180 0 152 (dk_at dksX4_isName_1 13 rfl rfl)
theorem dX4_isName_39 : decode cX4_isName 39 = .ok (.ldc 172, 2) := dk_18 172 (dk_at dksX4_isName_1 16 rfl rfl)
theorem dX4_isName_41 : decode cX4_isName 41 = .ok (.if_icmp .eq 26, 3) := dk_159 0 26 (dk_at dksX4_isName_1 18 rfl rfl)
theorem dX4_isName_44 : decode cX4_isName 44 = .ok (.aload_n 0, 1) := dk_42 (dk_at dksX4_isName_1 21 rfl rfl)
theorem dX4_isName_45 : decode cX4_isName 45 = .ok (.getfield 152, 3) := dk_180 0 152 (dk_at dksX4_isName_2 0 rfl rfl)
theorem dX4_isName_48 : decode cX4_isName 48 = .ok (.ldc 173, 2) := dk_18 173 (dk_at dksX4_isName_2 3 rfl rfl)
theorem dX4_isName_50 : decode cX4_isName 50 = .ok (.if_icmp .eq 17, 3) := dk_159 0 17 (dk_at dksX4_isName_2 5 rfl rfl)
theorem dX4_isName_53 : decode cX4_isName 53 = .ok (.aload_n 0, 1) := dk_42 (dk_at dksX4_isName_2 8 rfl rfl)
theorem dX4_isName_54 : decode cX4_isName 54 = .ok (.getfield 152, 3) := dk_180 0 152 (dk_at dksX4_isName_2 9 rfl rfl)
theorem dX4_isName_57 : decode cX4_isName 57 = .ok (.sipush 19636, 3) := dk_17 76 180 (dk_at dksX4_isName_2 12 rfl rfl)
theorem dX4_isName_60 : decode cX4_isName 60 = .ok (.if_icmp .eq 7, 3) := dk_159 0 7 (dk_at dksX4_isName_2 15 rfl rfl)
theorem dX4_isName_63 : decode cX4_isName 63 = .ok (.iconst 1, 1) := dk_4 (dk_at dksX4_isName_2 18 rfl rfl)
theorem dX4_isName_64 : decode cX4_isName 64 = .ok (.goto 4, 3) := dk_167 0 4 (dk_at dksX4_isName_2 19 rfl rfl)
theorem dX4_isName_67 : decode cX4_isName 67 = .ok (.iconst 0, 1) := dk_3 (dk_at dksX4_isName_2 22 rfl rfl)
theorem dX4_isName_68 : decode cX4_isName 68 = .ok (.ireturn, 1) := dk_172 (dk_at dksX4_isName_2 23 rfl rfl)
def dkwX4_at_0 : List UInt8 := [3, 62, 29, 27, 162, 0, 18, 42, 29, 46, 28, 160, 0, 5, 29, 172, 132, 3, 1, 167, 255, 239, 2, 172]
abbrev dktX4_at_0 : List UInt8 := dkwX4_at_0 ++ []
theorem dksX4_at_0 : cX4_at.data.toList.drop 0 = dktX4_at_0 := by decide +kernel
theorem dX4_at_0 : decode cX4_at 0 = .ok (.iconst 0, 1) := dk_3 (dk_at dksX4_at_0 0 rfl rfl)
theorem dX4_at_1 : decode cX4_at 1 = .ok (.istore_n 3, 1) := dk_62 (dk_at dksX4_at_0 1 rfl rfl)
theorem dX4_at_2 : decode cX4_at 2 = .ok (.iload_n 3, 1) := dk_29 (dk_at dksX4_at_0 2 rfl rfl)
theorem dX4_at_3 : decode cX4_at 3 = .ok (.iload_n 1, 1) := dk_27 (dk_at dksX4_at_0 3 rfl rfl)
theorem dX4_at_4 : decode cX4_at 4 = .ok (.if_icmp .ge 18, 3) := dk_162 0 18 (dk_at dksX4_at_0 4 rfl rfl)
theorem dX4_at_7 : decode cX4_at 7 = .ok (.aload_n 0, 1) := dk_42 (dk_at dksX4_at_0 7 rfl rfl)
theorem dX4_at_8 : decode cX4_at 8 = .ok (.iload_n 3, 1) := dk_29 (dk_at dksX4_at_0 8 rfl rfl)
theorem dX4_at_9 : decode cX4_at 9 = .ok (.iaload, 1) := dk_46 (dk_at dksX4_at_0 9 rfl rfl)
theorem dX4_at_10 : decode cX4_at 10 = .ok (.iload_n 2, 1) := dk_28 (dk_at dksX4_at_0 10 rfl rfl)
theorem dX4_at_11 : decode cX4_at 11 = .ok (.if_icmp .ne 5, 3) := dk_160 0 5 (dk_at dksX4_at_0 11 rfl rfl)
theorem dX4_at_14 : decode cX4_at 14 = .ok (.iload_n 3, 1) := dk_29 (dk_at dksX4_at_0 14 rfl rfl)
theorem dX4_at_15 : decode cX4_at 15 = .ok (.ireturn, 1) := dk_172 (dk_at dksX4_at_0 15 rfl rfl)
theorem dX4_at_16 : decode cX4_at 16 = .ok (.iinc 3 1, 3) := dk_132 3 1 (dk_at dksX4_at_0 16 rfl rfl)
theorem dX4_at_19 : decode cX4_at 19 = .ok (.goto (-17), 3) := dk_167 255 239 (dk_at dksX4_at_0 19 rfl rfl)
theorem dX4_at_22 : decode cX4_at 22 = .ok (.iconst (-1), 1) := dk_2 (dk_at dksX4_at_0 22 rfl rfl)
theorem dX4_at_23 : decode cX4_at 23 = .ok (.ireturn, 1) := dk_172 (dk_at dksX4_at_0 23 rfl rfl)
def dkwX4_whensHere_6 : List UInt8 := [42, 180, 0, 84, 21, 5, 21, 4, 79, 42, 180, 0, 75, 27, 92, 46, 4, 96, 79, 167, 255, 106, 177]
abbrev dktX4_whensHere_6 : List UInt8 := dkwX4_whensHere_6 ++ []
def dkwX4_whensHere_5 : List UInt8 := [180, 0, 75, 27, 46, 96, 54, 5, 42, 180, 0, 78, 21, 5, 28, 79, 42, 180, 0, 81, 21, 5, 29, 79]
abbrev dktX4_whensHere_5 : List UInt8 := dkwX4_whensHere_5 ++ dktX4_whensHere_6
def dkwX4_whensHere_4 : List UInt8 := [182, 0, 178, 42, 182, 0, 206, 54, 4, 42, 180, 0, 162, 153, 0, 4, 177, 16, 6, 27, 104, 42]
abbrev dktX4_whensHere_4 : List UInt8 := dkwX4_whensHere_4 ++ dktX4_whensHere_5
def dkwX4_whensHere_3 : List UInt8 := [4, 167, 0, 4, 3, 4, 182, 0, 174, 42, 180, 0, 152, 62, 42, 180, 0, 162, 154, 0, 7, 42]
abbrev dktX4_whensHere_3 : List UInt8 := dkwX4_whensHere_3 ++ dktX4_whensHere_4
def dkwX4_whensHere_2 : List UInt8 := [182, 0, 192, 61, 42, 180, 0, 162, 154, 0, 7, 42, 182, 0, 178, 42, 42, 180, 0, 155, 7, 160, 0, 7]
abbrev dktX4_whensHere_2 : List UInt8 := dkwX4_whensHere_2 ++ dktX4_whensHere_3
def dkwX4_whensHere_1 : List UInt8 := [16, 6, 162, 0, 7, 4, 167, 0, 4, 3, 5, 182, 0, 200, 42, 42, 180, 0, 69, 42, 180, 0, 203]
abbrev dktX4_whensHere_1 : List UInt8 := dkwX4_whensHere_1 ++ dktX4_whensHere_2
def dkwX4_whensHere_0 : List UInt8 := [42, 180, 0, 75, 27, 3, 79, 42, 18, 173, 182, 0, 196, 153, 0, 147, 42, 42, 180, 0, 75, 27, 46]
abbrev dktX4_whensHere_0 : List UInt8 := dkwX4_whensHere_0 ++ dktX4_whensHere_1
theorem dksX4_whensHere_0 : cX4_whensHere.data.toList.drop 0 = dktX4_whensHere_0 := by decide +kernel
theorem dksX4_whensHere_1 : cX4_whensHere.data.toList.drop 23 = dktX4_whensHere_1 := dk_seg dksX4_whensHere_0 23 rfl rfl
theorem dksX4_whensHere_2 : cX4_whensHere.data.toList.drop 46 = dktX4_whensHere_2 := dk_seg dksX4_whensHere_1 23 rfl rfl
theorem dksX4_whensHere_3 : cX4_whensHere.data.toList.drop 70 = dktX4_whensHere_3 := dk_seg dksX4_whensHere_2 24 rfl rfl
theorem dksX4_whensHere_4 : cX4_whensHere.data.toList.drop 92 = dktX4_whensHere_4 := dk_seg dksX4_whensHere_3 22 rfl rfl
theorem dksX4_whensHere_5 : cX4_whensHere.data.toList.drop 114 = dktX4_whensHere_5 := dk_seg dksX4_whensHere_4 22 rfl rfl
theorem dksX4_whensHere_6 : cX4_whensHere.data.toList.drop 138 = dktX4_whensHere_6 := dk_seg dksX4_whensHere_5 24 rfl rfl
theorem dX4_whensHere_0 : decode cX4_whensHere 0 = .ok (.aload_n 0, 1) := dk_42 (dk_at dksX4_whensHere_0 0 rfl rfl)
theorem dX4_whensHere_1 : decode cX4_whensHere 1 = .ok (.getfield 75, 3) := dk_180 0 75 (dk_at dksX4_whensHere_0 1 rfl rfl)
theorem dX4_whensHere_4 : decode cX4_whensHere 4 = .ok (.iload_n 1, 1) := dk_27 (dk_at dksX4_whensHere_0 4 rfl rfl)
theorem dX4_whensHere_5 : decode cX4_whensHere 5 = .ok (.iconst 0, 1) := dk_3 (dk_at dksX4_whensHere_0 5 rfl rfl)
theorem dX4_whensHere_6 : decode cX4_whensHere 6 = .ok (.iastore, 1) := dk_79 (dk_at dksX4_whensHere_0 6 rfl rfl)
theorem dX4_whensHere_7 : decode cX4_whensHere 7 = .ok (.aload_n 0, 1) := dk_42 (dk_at dksX4_whensHere_0 7 rfl rfl)
theorem dX4_whensHere_8 : decode cX4_whensHere 8 = .ok (.ldc 173, 2) := dk_18 173 (dk_at dksX4_whensHere_0 8 rfl rfl)
theorem dX4_whensHere_10 : decode cX4_whensHere 10 = .ok (.invokevirtual 196, 3) := dk_182 0 196 (dk_at dksX4_whensHere_0 10 rfl rfl)
theorem dX4_whensHere_13 : decode cX4_whensHere 13 = .ok (.ifCond .eq 147, 3) := dk_153 0 147 (dk_at dksX4_whensHere_0 13 rfl rfl)
theorem dX4_whensHere_16 : decode cX4_whensHere 16 = .ok (.aload_n 0, 1) := dk_42 (dk_at dksX4_whensHere_0 16 rfl rfl)
theorem dX4_whensHere_17 : decode cX4_whensHere 17 = .ok (.aload_n 0, 1) := dk_42 (dk_at dksX4_whensHere_0 17 rfl rfl)
theorem dX4_whensHere_18 : decode cX4_whensHere 18 = .ok (.getfield 75, 3) := dk_180 0 75 (dk_at dksX4_whensHere_0 18 rfl rfl)
theorem dX4_whensHere_21 : decode cX4_whensHere 21 = .ok (.iload_n 1, 1) := dk_27 (dk_at dksX4_whensHere_0 21 rfl rfl)
theorem dX4_whensHere_22 : decode cX4_whensHere 22 = .ok (.iaload, 1) := dk_46 (dk_at dksX4_whensHere_0 22 rfl rfl)
theorem dX4_whensHere_23 : decode cX4_whensHere 23 = .ok (.bipush 6, 2) := dk_16 6 (dk_at dksX4_whensHere_1 0 rfl rfl)
theorem dX4_whensHere_25 : decode cX4_whensHere 25 = .ok (.if_icmp .ge 7, 3) := dk_162 0 7 (dk_at dksX4_whensHere_1 2 rfl rfl)
theorem dX4_whensHere_28 : decode cX4_whensHere 28 = .ok (.iconst 1, 1) := dk_4 (dk_at dksX4_whensHere_1 5 rfl rfl)
theorem dX4_whensHere_29 : decode cX4_whensHere 29 = .ok (.goto 4, 3) := dk_167 0 4 (dk_at dksX4_whensHere_1 6 rfl rfl)
theorem dX4_whensHere_32 : decode cX4_whensHere 32 = .ok (.iconst 0, 1) := dk_3 (dk_at dksX4_whensHere_1 9 rfl rfl)
theorem dX4_whensHere_33 : decode cX4_whensHere 33 = .ok (.iconst 2, 1) := dk_5 (dk_at dksX4_whensHere_1 10 rfl rfl)
theorem dX4_whensHere_34 : decode cX4_whensHere 34 = .ok (.invokevirtual 200, 3) := dk_182 0 200 (dk_at dksX4_whensHere_1 11 rfl rfl)
theorem dX4_whensHere_37 : decode cX4_whensHere 37 = .ok (.aload_n 0, 1) := dk_42 (dk_at dksX4_whensHere_1 14 rfl rfl)
theorem dX4_whensHere_38 : decode cX4_whensHere 38 = .ok (.aload_n 0, 1) := dk_42 (dk_at dksX4_whensHere_1 15 rfl rfl)
theorem dX4_whensHere_39 : decode cX4_whensHere 39 = .ok (.getfield 69, 3) := dk_180 0 69 (dk_at dksX4_whensHere_1 16 rfl rfl)
theorem dX4_whensHere_42 : decode cX4_whensHere 42 = .ok (.aload_n 0, 1) := dk_42 (dk_at dksX4_whensHere_1 19 rfl rfl)
theorem dX4_whensHere_43 : decode cX4_whensHere 43 = .ok (.getfield 203, 3) := dk_180 0 203 (dk_at dksX4_whensHere_1 20 rfl rfl)
theorem dX4_whensHere_46 : decode cX4_whensHere 46 = .ok (.invokevirtual 192, 3) := dk_182 0 192 (dk_at dksX4_whensHere_2 0 rfl rfl)
theorem dX4_whensHere_49 : decode cX4_whensHere 49 = .ok (.istore_n 2, 1) := dk_61 (dk_at dksX4_whensHere_2 3 rfl rfl)
theorem dX4_whensHere_50 : decode cX4_whensHere 50 = .ok (.aload_n 0, 1) := dk_42 (dk_at dksX4_whensHere_2 4 rfl rfl)
theorem dX4_whensHere_51 : decode cX4_whensHere 51 = .ok (.getfield 162, 3) := dk_180 0 162 (dk_at dksX4_whensHere_2 5 rfl rfl)
theorem dX4_whensHere_54 : decode cX4_whensHere 54 = .ok (.ifCond .ne 7, 3) := dk_154 0 7 (dk_at dksX4_whensHere_2 8 rfl rfl)
theorem dX4_whensHere_57 : decode cX4_whensHere 57 = .ok (.aload_n 0, 1) := dk_42 (dk_at dksX4_whensHere_2 11 rfl rfl)
theorem dX4_whensHere_58 : decode cX4_whensHere 58 = .ok (.invokevirtual 178, 3) := dk_182 0 178 (dk_at dksX4_whensHere_2 12 rfl rfl)
theorem dX4_whensHere_61 : decode cX4_whensHere 61 = .ok (.aload_n 0, 1) := dk_42 (dk_at dksX4_whensHere_2 15 rfl rfl)
theorem dX4_whensHere_62 : decode cX4_whensHere 62 = .ok (.aload_n 0, 1) := dk_42 (dk_at dksX4_whensHere_2 16 rfl rfl)
theorem dX4_whensHere_63 : decode cX4_whensHere 63 = .ok (.getfield 155, 3) := dk_180 0 155 (dk_at dksX4_whensHere_2 17 rfl rfl)
theorem dX4_whensHere_66 : decode cX4_whensHere 66 = .ok (.iconst 4, 1) := dk_7 (dk_at dksX4_whensHere_2 20 rfl rfl)
theorem dX4_whensHere_67 : decode cX4_whensHere 67 = .ok (.if_icmp .ne 7, 3) := dk_160 0 7 (dk_at dksX4_whensHere_2 21 rfl rfl)
theorem dX4_whensHere_70 : decode cX4_whensHere 70 = .ok (.iconst 1, 1) := dk_4 (dk_at dksX4_whensHere_3 0 rfl rfl)
theorem dX4_whensHere_71 : decode cX4_whensHere 71 = .ok (.goto 4, 3) := dk_167 0 4 (dk_at dksX4_whensHere_3 1 rfl rfl)
theorem dX4_whensHere_74 : decode cX4_whensHere 74 = .ok (.iconst 0, 1) := dk_3 (dk_at dksX4_whensHere_3 4 rfl rfl)
theorem dX4_whensHere_75 : decode cX4_whensHere 75 = .ok (.iconst 1, 1) := dk_4 (dk_at dksX4_whensHere_3 5 rfl rfl)
theorem dX4_whensHere_76 : decode cX4_whensHere 76 = .ok (.invokevirtual 174, 3) := dk_182 0 174 (dk_at dksX4_whensHere_3 6 rfl rfl)
theorem dX4_whensHere_79 : decode cX4_whensHere 79 = .ok (.aload_n 0, 1) := dk_42 (dk_at dksX4_whensHere_3 9 rfl rfl)
theorem dX4_whensHere_80 : decode cX4_whensHere 80 = .ok (.getfield 152, 3) := dk_180 0 152 (dk_at dksX4_whensHere_3 10 rfl rfl)
theorem dX4_whensHere_83 : decode cX4_whensHere 83 = .ok (.istore_n 3, 1) := dk_62 (dk_at dksX4_whensHere_3 13 rfl rfl)
theorem dX4_whensHere_84 : decode cX4_whensHere 84 = .ok (.aload_n 0, 1) := dk_42 (dk_at dksX4_whensHere_3 14 rfl rfl)
theorem dX4_whensHere_85 : decode cX4_whensHere 85 = .ok (.getfield 162, 3) := dk_180 0 162 (dk_at dksX4_whensHere_3 15 rfl rfl)
theorem dX4_whensHere_88 : decode cX4_whensHere 88 = .ok (.ifCond .ne 7, 3) := dk_154 0 7 (dk_at dksX4_whensHere_3 18 rfl rfl)
theorem dX4_whensHere_91 : decode cX4_whensHere 91 = .ok (.aload_n 0, 1) := dk_42 (dk_at dksX4_whensHere_3 21 rfl rfl)
theorem dX4_whensHere_92 : decode cX4_whensHere 92 = .ok (.invokevirtual 178, 3) := dk_182 0 178 (dk_at dksX4_whensHere_4 0 rfl rfl)
theorem dX4_whensHere_95 : decode cX4_whensHere 95 = .ok (.aload_n 0, 1) := dk_42 (dk_at dksX4_whensHere_4 3 rfl rfl)
theorem dX4_whensHere_96 : decode cX4_whensHere 96 = .ok (.invokevirtual 206, 3) := dk_182 0 206 (dk_at dksX4_whensHere_4 4 rfl rfl)
theorem dX4_whensHere_99 : decode cX4_whensHere 99 = .ok (.istore 4, 2) := dk_54 4 (dk_at dksX4_whensHere_4 7 rfl rfl)
theorem dX4_whensHere_101 : decode cX4_whensHere 101 = .ok (.aload_n 0, 1) := dk_42 (dk_at dksX4_whensHere_4 9 rfl rfl)
theorem dX4_whensHere_102 : decode cX4_whensHere 102 = .ok (.getfield 162, 3) := dk_180 0 162 (dk_at dksX4_whensHere_4 10 rfl rfl)
theorem dX4_whensHere_105 : decode cX4_whensHere 105 = .ok (.ifCond .eq 4, 3) := dk_153 0 4 (dk_at dksX4_whensHere_4 13 rfl rfl)
theorem dX4_whensHere_108 : decode cX4_whensHere 108 = .ok (.return_, 1) := dk_177 (dk_at dksX4_whensHere_4 16 rfl rfl)
theorem dX4_whensHere_109 : decode cX4_whensHere 109 = .ok (.bipush 6, 2) := dk_16 6 (dk_at dksX4_whensHere_4 17 rfl rfl)
theorem dX4_whensHere_111 : decode cX4_whensHere 111 = .ok (.iload_n 1, 1) := dk_27 (dk_at dksX4_whensHere_4 19 rfl rfl)
theorem dX4_whensHere_112 : decode cX4_whensHere 112 = .ok (.imul, 1) := dk_104 (dk_at dksX4_whensHere_4 20 rfl rfl)
theorem dX4_whensHere_113 : decode cX4_whensHere 113 = .ok (.aload_n 0, 1) := dk_42 (dk_at dksX4_whensHere_4 21 rfl rfl)
theorem dX4_whensHere_114 : decode cX4_whensHere 114 = .ok (.getfield 75, 3) := dk_180 0 75 (dk_at dksX4_whensHere_5 0 rfl rfl)
theorem dX4_whensHere_117 : decode cX4_whensHere 117 = .ok (.iload_n 1, 1) := dk_27 (dk_at dksX4_whensHere_5 3 rfl rfl)
theorem dX4_whensHere_118 : decode cX4_whensHere 118 = .ok (.iaload, 1) := dk_46 (dk_at dksX4_whensHere_5 4 rfl rfl)
theorem dX4_whensHere_119 : decode cX4_whensHere 119 = .ok (.iadd, 1) := dk_96 (dk_at dksX4_whensHere_5 5 rfl rfl)
theorem dX4_whensHere_120 : decode cX4_whensHere 120 = .ok (.istore 5, 2) := dk_54 5 (dk_at dksX4_whensHere_5 6 rfl rfl)
theorem dX4_whensHere_122 : decode cX4_whensHere 122 = .ok (.aload_n 0, 1) := dk_42 (dk_at dksX4_whensHere_5 8 rfl rfl)
theorem dX4_whensHere_123 : decode cX4_whensHere 123 = .ok (.getfield 78, 3) := dk_180 0 78 (dk_at dksX4_whensHere_5 9 rfl rfl)
theorem dX4_whensHere_126 : decode cX4_whensHere 126 = .ok (.iload 5, 2) := dk_21 5 (dk_at dksX4_whensHere_5 12 rfl rfl)
theorem dX4_whensHere_128 : decode cX4_whensHere 128 = .ok (.iload_n 2, 1) := dk_28 (dk_at dksX4_whensHere_5 14 rfl rfl)
theorem dX4_whensHere_129 : decode cX4_whensHere 129 = .ok (.iastore, 1) := dk_79 (dk_at dksX4_whensHere_5 15 rfl rfl)
theorem dX4_whensHere_130 : decode cX4_whensHere 130 = .ok (.aload_n 0, 1) := dk_42 (dk_at dksX4_whensHere_5 16 rfl rfl)
theorem dX4_whensHere_131 : decode cX4_whensHere 131 = .ok (.getfield 81, 3) := dk_180 0 81 (dk_at dksX4_whensHere_5 17 rfl rfl)
theorem dX4_whensHere_134 : decode cX4_whensHere 134 = .ok (.iload 5, 2) := dk_21 5 (dk_at dksX4_whensHere_5 20 rfl rfl)
theorem dX4_whensHere_136 : decode cX4_whensHere 136 = .ok (.iload_n 3, 1) := dk_29 (dk_at dksX4_whensHere_5 22 rfl rfl)
theorem dX4_whensHere_137 : decode cX4_whensHere 137 = .ok (.iastore, 1) := dk_79 (dk_at dksX4_whensHere_5 23 rfl rfl)
theorem dX4_whensHere_138 : decode cX4_whensHere 138 = .ok (.aload_n 0, 1) := dk_42 (dk_at dksX4_whensHere_6 0 rfl rfl)
theorem dX4_whensHere_139 : decode cX4_whensHere 139 = .ok (.getfield 84, 3) := dk_180 0 84 (dk_at dksX4_whensHere_6 1 rfl rfl)
theorem dX4_whensHere_142 : decode cX4_whensHere 142 = .ok (.iload 5, 2) := dk_21 5 (dk_at dksX4_whensHere_6 4 rfl rfl)
theorem dX4_whensHere_144 : decode cX4_whensHere 144 = .ok (.iload 4, 2) := dk_21 4 (dk_at dksX4_whensHere_6 6 rfl rfl)
theorem dX4_whensHere_146 : decode cX4_whensHere 146 = .ok (.iastore, 1) := dk_79 (dk_at dksX4_whensHere_6 8 rfl rfl)
theorem dX4_whensHere_147 : decode cX4_whensHere 147 = .ok (.aload_n 0, 1) := dk_42 (dk_at dksX4_whensHere_6 9 rfl rfl)
theorem dX4_whensHere_148 : decode cX4_whensHere 148 = .ok (.getfield 75, 3) := dk_180 0 75 (dk_at dksX4_whensHere_6 10 rfl rfl)
theorem dX4_whensHere_151 : decode cX4_whensHere 151 = .ok (.iload_n 1, 1) := dk_27 (dk_at dksX4_whensHere_6 13 rfl rfl)
theorem dX4_whensHere_152 : decode cX4_whensHere 152 = .ok (.dup2, 1) := dk_92 (dk_at dksX4_whensHere_6 14 rfl rfl)
theorem dX4_whensHere_153 : decode cX4_whensHere 153 = .ok (.iaload, 1) := dk_46 (dk_at dksX4_whensHere_6 15 rfl rfl)
theorem dX4_whensHere_154 : decode cX4_whensHere 154 = .ok (.iconst 1, 1) := dk_4 (dk_at dksX4_whensHere_6 16 rfl rfl)
theorem dX4_whensHere_155 : decode cX4_whensHere 155 = .ok (.iadd, 1) := dk_96 (dk_at dksX4_whensHere_6 17 rfl rfl)
theorem dX4_whensHere_156 : decode cX4_whensHere 156 = .ok (.iastore, 1) := dk_79 (dk_at dksX4_whensHere_6 18 rfl rfl)
theorem dX4_whensHere_157 : decode cX4_whensHere 157 = .ok (.goto (-150), 3) := dk_167 255 106 (dk_at dksX4_whensHere_6 19 rfl rfl)
theorem dX4_whensHere_160 : decode cX4_whensHere 160 = .ok (.return_, 1) := dk_177 (dk_at dksX4_whensHere_6 22 rfl rfl)
def dkwX4_seenHere_1 : List UInt8 := [167, 0, 4, 3, 4, 182, 0, 174, 43, 28, 42, 180, 0, 152, 184, 0, 185, 172]
abbrev dktX4_seenHere_1 : List UInt8 := dkwX4_seenHere_1 ++ []
def dkwX4_seenHere_0 : List UInt8 := [42, 42, 182, 0, 181, 153, 0, 20, 43, 28, 42, 180, 0, 152, 184, 0, 185, 2, 159, 0, 7, 4]
abbrev dktX4_seenHere_0 : List UInt8 := dkwX4_seenHere_0 ++ dktX4_seenHere_1
theorem dksX4_seenHere_0 : cX4_seenHere.data.toList.drop 0 = dktX4_seenHere_0 := by decide +kernel
theorem dksX4_seenHere_1 : cX4_seenHere.data.toList.drop 22 = dktX4_seenHere_1 := dk_seg dksX4_seenHere_0 22 rfl rfl
theorem dX4_seenHere_0 : decode cX4_seenHere 0 = .ok (.aload_n 0, 1) := dk_42 (dk_at dksX4_seenHere_0 0 rfl rfl)
theorem dX4_seenHere_1 : decode cX4_seenHere 1 = .ok (.aload_n 0, 1) := dk_42 (dk_at dksX4_seenHere_0 1 rfl rfl)
theorem dX4_seenHere_2 : decode cX4_seenHere 2 = .ok (.invokevirtual 181, 3) := dk_182 0 181 (dk_at dksX4_seenHere_0 2 rfl rfl)
theorem dX4_seenHere_5 : decode cX4_seenHere 5 = .ok (.ifCond .eq 20, 3) := dk_153 0 20 (dk_at dksX4_seenHere_0 5 rfl rfl)
theorem dX4_seenHere_8 : decode cX4_seenHere 8 = .ok (.aload_n 1, 1) := dk_43 (dk_at dksX4_seenHere_0 8 rfl rfl)
theorem dX4_seenHere_9 : decode cX4_seenHere 9 = .ok (.iload_n 2, 1) := dk_28 (dk_at dksX4_seenHere_0 9 rfl rfl)
theorem dX4_seenHere_10 : decode cX4_seenHere 10 = .ok (.aload_n 0, 1) := dk_42 (dk_at dksX4_seenHere_0 10 rfl rfl)
theorem dX4_seenHere_11 : decode cX4_seenHere 11 = .ok (.getfield 152, 3) := dk_180 0 152 (dk_at dksX4_seenHere_0 11 rfl rfl)
theorem dX4_seenHere_14 : decode cX4_seenHere 14 = .ok (.invokestatic 185, 3) := dk_184 0 185 (dk_at dksX4_seenHere_0 14 rfl rfl)
theorem dX4_seenHere_17 : decode cX4_seenHere 17 = .ok (.iconst (-1), 1) := dk_2 (dk_at dksX4_seenHere_0 17 rfl rfl)
theorem dX4_seenHere_18 : decode cX4_seenHere 18 = .ok (.if_icmp .eq 7, 3) := dk_159 0 7 (dk_at dksX4_seenHere_0 18 rfl rfl)
theorem dX4_seenHere_21 : decode cX4_seenHere 21 = .ok (.iconst 1, 1) := dk_4 (dk_at dksX4_seenHere_0 21 rfl rfl)
theorem dX4_seenHere_22 : decode cX4_seenHere 22 = .ok (.goto 4, 3) := dk_167 0 4 (dk_at dksX4_seenHere_1 0 rfl rfl)
theorem dX4_seenHere_25 : decode cX4_seenHere 25 = .ok (.iconst 0, 1) := dk_3 (dk_at dksX4_seenHere_1 3 rfl rfl)
theorem dX4_seenHere_26 : decode cX4_seenHere 26 = .ok (.iconst 1, 1) := dk_4 (dk_at dksX4_seenHere_1 4 rfl rfl)
theorem dX4_seenHere_27 : decode cX4_seenHere 27 = .ok (.invokevirtual 174, 3) := dk_182 0 174 (dk_at dksX4_seenHere_1 5 rfl rfl)
theorem dX4_seenHere_30 : decode cX4_seenHere 30 = .ok (.aload_n 1, 1) := dk_43 (dk_at dksX4_seenHere_1 8 rfl rfl)
theorem dX4_seenHere_31 : decode cX4_seenHere 31 = .ok (.iload_n 2, 1) := dk_28 (dk_at dksX4_seenHere_1 9 rfl rfl)
theorem dX4_seenHere_32 : decode cX4_seenHere 32 = .ok (.aload_n 0, 1) := dk_42 (dk_at dksX4_seenHere_1 10 rfl rfl)
theorem dX4_seenHere_33 : decode cX4_seenHere 33 = .ok (.getfield 152, 3) := dk_180 0 152 (dk_at dksX4_seenHere_1 11 rfl rfl)
theorem dX4_seenHere_36 : decode cX4_seenHere 36 = .ok (.invokestatic 185, 3) := dk_184 0 185 (dk_at dksX4_seenHere_1 14 rfl rfl)
theorem dX4_seenHere_39 : decode cX4_seenHere 39 = .ok (.ireturn, 1) := dk_172 (dk_at dksX4_seenHere_1 17 rfl rfl)
def dkwX4_numberHere_2 : List UInt8 := [154, 0, 7, 42, 182, 0, 178, 27, 172]
abbrev dktX4_numberHere_2 : List UInt8 := dkwX4_numberHere_2 ++ []
def dkwX4_numberHere_1 : List UInt8 := [16, 50, 163, 0, 7, 4, 167, 0, 4, 3, 5, 182, 0, 174, 42, 180, 0, 152, 60, 42, 180, 0, 162]
abbrev dktX4_numberHere_1 : List UInt8 := dkwX4_numberHere_1 ++ dktX4_numberHere_2
def dkwX4_numberHere_0 : List UInt8 := [42, 42, 180, 0, 155, 5, 160, 0, 7, 4, 167, 0, 4, 3, 4, 182, 0, 174, 42, 42, 180, 0, 152]
abbrev dktX4_numberHere_0 : List UInt8 := dkwX4_numberHere_0 ++ dktX4_numberHere_1
theorem dksX4_numberHere_0 : cX4_numberHere.data.toList.drop 0 = dktX4_numberHere_0 := by decide +kernel
theorem dksX4_numberHere_1 : cX4_numberHere.data.toList.drop 23 = dktX4_numberHere_1 := dk_seg dksX4_numberHere_0 23 rfl rfl
theorem dksX4_numberHere_2 : cX4_numberHere.data.toList.drop 46 = dktX4_numberHere_2 := dk_seg dksX4_numberHere_1 23 rfl rfl
theorem dX4_numberHere_0 : decode cX4_numberHere 0 = .ok (.aload_n 0, 1) := dk_42 (dk_at dksX4_numberHere_0 0 rfl rfl)
theorem dX4_numberHere_1 : decode cX4_numberHere 1 = .ok (.aload_n 0, 1) := dk_42 (dk_at dksX4_numberHere_0 1 rfl rfl)
theorem dX4_numberHere_2 : decode cX4_numberHere 2 = .ok (.getfield 155, 3) := dk_180 0 155 (dk_at dksX4_numberHere_0 2 rfl rfl)
theorem dX4_numberHere_5 : decode cX4_numberHere 5 = .ok (.iconst 2, 1) := dk_5 (dk_at dksX4_numberHere_0 5 rfl rfl)
theorem dX4_numberHere_6 : decode cX4_numberHere 6 = .ok (.if_icmp .ne 7, 3) := dk_160 0 7 (dk_at dksX4_numberHere_0 6 rfl rfl)
theorem dX4_numberHere_9 : decode cX4_numberHere 9 = .ok (.iconst 1, 1) := dk_4 (dk_at dksX4_numberHere_0 9 rfl rfl)
theorem dX4_numberHere_10 : decode cX4_numberHere 10 = .ok (.goto 4, 3) := dk_167 0 4 (dk_at dksX4_numberHere_0 10 rfl rfl)
theorem dX4_numberHere_13 : decode cX4_numberHere 13 = .ok (.iconst 0, 1) := dk_3 (dk_at dksX4_numberHere_0 13 rfl rfl)
theorem dX4_numberHere_14 : decode cX4_numberHere 14 = .ok (.iconst 1, 1) := dk_4 (dk_at dksX4_numberHere_0 14 rfl rfl)
theorem dX4_numberHere_15 : decode cX4_numberHere 15 = .ok (.invokevirtual 174, 3) := dk_182 0 174 (dk_at dksX4_numberHere_0 15 rfl rfl)
theorem dX4_numberHere_18 : decode cX4_numberHere 18 = .ok (.aload_n 0, 1) := dk_42 (dk_at dksX4_numberHere_0 18 rfl rfl)
theorem dX4_numberHere_19 : decode cX4_numberHere 19 = .ok (.aload_n 0, 1) := dk_42 (dk_at dksX4_numberHere_0 19 rfl rfl)
theorem dX4_numberHere_20 : decode cX4_numberHere 20 = .ok (.getfield 152, 3) := dk_180 0 152 (dk_at dksX4_numberHere_0 20 rfl rfl)
theorem dX4_numberHere_23 : decode cX4_numberHere 23 = .ok (.bipush 50, 2) := dk_16 50 (dk_at dksX4_numberHere_1 0 rfl rfl)
theorem dX4_numberHere_25 : decode cX4_numberHere 25 = .ok (.if_icmp .gt 7, 3) := dk_163 0 7 (dk_at dksX4_numberHere_1 2 rfl rfl)
theorem dX4_numberHere_28 : decode cX4_numberHere 28 = .ok (.iconst 1, 1) := dk_4 (dk_at dksX4_numberHere_1 5 rfl rfl)
theorem dX4_numberHere_29 : decode cX4_numberHere 29 = .ok (.goto 4, 3) := dk_167 0 4 (dk_at dksX4_numberHere_1 6 rfl rfl)
theorem dX4_numberHere_32 : decode cX4_numberHere 32 = .ok (.iconst 0, 1) := dk_3 (dk_at dksX4_numberHere_1 9 rfl rfl)
theorem dX4_numberHere_33 : decode cX4_numberHere 33 = .ok (.iconst 2, 1) := dk_5 (dk_at dksX4_numberHere_1 10 rfl rfl)
theorem dX4_numberHere_34 : decode cX4_numberHere 34 = .ok (.invokevirtual 174, 3) := dk_182 0 174 (dk_at dksX4_numberHere_1 11 rfl rfl)
theorem dX4_numberHere_37 : decode cX4_numberHere 37 = .ok (.aload_n 0, 1) := dk_42 (dk_at dksX4_numberHere_1 14 rfl rfl)
theorem dX4_numberHere_38 : decode cX4_numberHere 38 = .ok (.getfield 152, 3) := dk_180 0 152 (dk_at dksX4_numberHere_1 15 rfl rfl)
theorem dX4_numberHere_41 : decode cX4_numberHere 41 = .ok (.istore_n 1, 1) := dk_60 (dk_at dksX4_numberHere_1 18 rfl rfl)
theorem dX4_numberHere_42 : decode cX4_numberHere 42 = .ok (.aload_n 0, 1) := dk_42 (dk_at dksX4_numberHere_1 19 rfl rfl)
theorem dX4_numberHere_43 : decode cX4_numberHere 43 = .ok (.getfield 162, 3) := dk_180 0 162 (dk_at dksX4_numberHere_1 20 rfl rfl)
theorem dX4_numberHere_46 : decode cX4_numberHere 46 = .ok (.ifCond .ne 7, 3) := dk_154 0 7 (dk_at dksX4_numberHere_2 0 rfl rfl)
theorem dX4_numberHere_49 : decode cX4_numberHere 49 = .ok (.aload_n 0, 1) := dk_42 (dk_at dksX4_numberHere_2 3 rfl rfl)
theorem dX4_numberHere_50 : decode cX4_numberHere 50 = .ok (.invokevirtual 178, 3) := dk_182 0 178 (dk_at dksX4_numberHere_2 4 rfl rfl)
theorem dX4_numberHere_53 : decode cX4_numberHere 53 = .ok (.iload_n 1, 1) := dk_27 (dk_at dksX4_numberHere_2 7 rfl rfl)
theorem dX4_numberHere_54 : decode cX4_numberHere 54 = .ok (.ireturn, 1) := dk_172 (dk_at dksX4_numberHere_2 8 rfl rfl)
def dkwX4_placeHere_1 : List UInt8 := [27, 172]
abbrev dktX4_placeHere_1 : List UInt8 := dkwX4_placeHere_1 ++ []
def dkwX4_placeHere_0 : List UInt8 := [42, 42, 180, 0, 72, 42, 180, 0, 189, 182, 0, 192, 60, 42, 180, 0, 162, 154, 0, 7, 42, 182, 0, 178]
abbrev dktX4_placeHere_0 : List UInt8 := dkwX4_placeHere_0 ++ dktX4_placeHere_1
theorem dksX4_placeHere_0 : cX4_placeHere.data.toList.drop 0 = dktX4_placeHere_0 := by decide +kernel
theorem dksX4_placeHere_1 : cX4_placeHere.data.toList.drop 24 = dktX4_placeHere_1 := dk_seg dksX4_placeHere_0 24 rfl rfl
theorem dX4_placeHere_0 : decode cX4_placeHere 0 = .ok (.aload_n 0, 1) := dk_42 (dk_at dksX4_placeHere_0 0 rfl rfl)
theorem dX4_placeHere_1 : decode cX4_placeHere 1 = .ok (.aload_n 0, 1) := dk_42 (dk_at dksX4_placeHere_0 1 rfl rfl)
theorem dX4_placeHere_2 : decode cX4_placeHere 2 = .ok (.getfield 72, 3) := dk_180 0 72 (dk_at dksX4_placeHere_0 2 rfl rfl)
theorem dX4_placeHere_5 : decode cX4_placeHere 5 = .ok (.aload_n 0, 1) := dk_42 (dk_at dksX4_placeHere_0 5 rfl rfl)
theorem dX4_placeHere_6 : decode cX4_placeHere 6 = .ok (.getfield 189, 3) := dk_180 0 189 (dk_at dksX4_placeHere_0 6 rfl rfl)
theorem dX4_placeHere_9 : decode cX4_placeHere 9 = .ok (.invokevirtual 192, 3) := dk_182 0 192 (dk_at dksX4_placeHere_0 9 rfl rfl)
theorem dX4_placeHere_12 : decode cX4_placeHere 12 = .ok (.istore_n 1, 1) := dk_60 (dk_at dksX4_placeHere_0 12 rfl rfl)
theorem dX4_placeHere_13 : decode cX4_placeHere 13 = .ok (.aload_n 0, 1) := dk_42 (dk_at dksX4_placeHere_0 13 rfl rfl)
theorem dX4_placeHere_14 : decode cX4_placeHere 14 = .ok (.getfield 162, 3) := dk_180 0 162 (dk_at dksX4_placeHere_0 14 rfl rfl)
theorem dX4_placeHere_17 : decode cX4_placeHere 17 = .ok (.ifCond .ne 7, 3) := dk_154 0 7 (dk_at dksX4_placeHere_0 17 rfl rfl)
theorem dX4_placeHere_20 : decode cX4_placeHere 20 = .ok (.aload_n 0, 1) := dk_42 (dk_at dksX4_placeHere_0 20 rfl rfl)
theorem dX4_placeHere_21 : decode cX4_placeHere 21 = .ok (.invokevirtual 178, 3) := dk_182 0 178 (dk_at dksX4_placeHere_0 21 rfl rfl)
theorem dX4_placeHere_24 : decode cX4_placeHere 24 = .ok (.iload_n 1, 1) := dk_27 (dk_at dksX4_placeHere_1 0 rfl rfl)
theorem dX4_placeHere_25 : decode cX4_placeHere 25 = .ok (.ireturn, 1) := dk_172 (dk_at dksX4_placeHere_1 1 rfl rfl)
def dkwX4_setsHere_6 : List UInt8 := [180, 0, 93, 27, 92, 46, 4, 96, 79, 167, 255, 114, 177]
abbrev dktX4_setsHere_6 : List UInt8 := dkwX4_setsHere_6 ++ []
def dkwX4_setsHere_5 : List UInt8 := [27, 46, 96, 29, 79, 42, 180, 0, 99, 7, 27, 104, 42, 180, 0, 93, 27, 46, 96, 21, 4, 79, 42]
abbrev dktX4_setsHere_5 : List UInt8 := dkwX4_setsHere_5 ++ dktX4_setsHere_6
def dkwX4_setsHere_4 : List UInt8 := [180, 0, 162, 153, 0, 4, 177, 28, 4, 29, 120, 128, 61, 42, 180, 0, 96, 7, 27, 104, 42, 180, 0, 93]
abbrev dktX4_setsHere_4 : List UInt8 := dkwX4_setsHere_4 ++ dktX4_setsHere_5
def dkwX4_setsHere_3 : List UInt8 := [3, 6, 182, 0, 174, 42, 180, 0, 162, 154, 0, 7, 42, 182, 0, 178, 42, 182, 0, 206, 54, 4, 42]
abbrev dktX4_setsHere_3 : List UInt8 := dkwX4_setsHere_3 ++ dktX4_setsHere_4
def dkwX4_setsHere_2 : List UInt8 := [182, 0, 192, 62, 42, 42, 180, 0, 162, 154, 0, 11, 28, 29, 122, 4, 126, 154, 0, 7, 4, 167, 0, 4]
abbrev dktX4_setsHere_2 : List UInt8 := dkwX4_setsHere_2 ++ dktX4_setsHere_3
def dkwX4_setsHere_1 : List UInt8 := [27, 46, 7, 162, 0, 7, 4, 167, 0, 4, 3, 5, 182, 0, 200, 42, 42, 180, 0, 69, 42, 180, 0, 203]
abbrev dktX4_setsHere_1 : List UInt8 := dkwX4_setsHere_1 ++ dktX4_setsHere_2
def dkwX4_setsHere_0 : List UInt8 := [42, 180, 0, 93, 27, 3, 79, 3, 61, 42, 17, 76, 180, 182, 0, 196, 153, 0, 138, 42, 42, 180, 0, 93]
abbrev dktX4_setsHere_0 : List UInt8 := dkwX4_setsHere_0 ++ dktX4_setsHere_1
theorem dksX4_setsHere_0 : cX4_setsHere.data.toList.drop 0 = dktX4_setsHere_0 := by decide +kernel
theorem dksX4_setsHere_1 : cX4_setsHere.data.toList.drop 24 = dktX4_setsHere_1 := dk_seg dksX4_setsHere_0 24 rfl rfl
theorem dksX4_setsHere_2 : cX4_setsHere.data.toList.drop 48 = dktX4_setsHere_2 := dk_seg dksX4_setsHere_1 24 rfl rfl
theorem dksX4_setsHere_3 : cX4_setsHere.data.toList.drop 72 = dktX4_setsHere_3 := dk_seg dksX4_setsHere_2 24 rfl rfl
theorem dksX4_setsHere_4 : cX4_setsHere.data.toList.drop 95 = dktX4_setsHere_4 := dk_seg dksX4_setsHere_3 23 rfl rfl
theorem dksX4_setsHere_5 : cX4_setsHere.data.toList.drop 119 = dktX4_setsHere_5 := dk_seg dksX4_setsHere_4 24 rfl rfl
theorem dksX4_setsHere_6 : cX4_setsHere.data.toList.drop 142 = dktX4_setsHere_6 := dk_seg dksX4_setsHere_5 23 rfl rfl
theorem dX4_setsHere_0 : decode cX4_setsHere 0 = .ok (.aload_n 0, 1) := dk_42 (dk_at dksX4_setsHere_0 0 rfl rfl)
theorem dX4_setsHere_1 : decode cX4_setsHere 1 = .ok (.getfield 93, 3) := dk_180 0 93 (dk_at dksX4_setsHere_0 1 rfl rfl)
theorem dX4_setsHere_4 : decode cX4_setsHere 4 = .ok (.iload_n 1, 1) := dk_27 (dk_at dksX4_setsHere_0 4 rfl rfl)
theorem dX4_setsHere_5 : decode cX4_setsHere 5 = .ok (.iconst 0, 1) := dk_3 (dk_at dksX4_setsHere_0 5 rfl rfl)
theorem dX4_setsHere_6 : decode cX4_setsHere 6 = .ok (.iastore, 1) := dk_79 (dk_at dksX4_setsHere_0 6 rfl rfl)
theorem dX4_setsHere_7 : decode cX4_setsHere 7 = .ok (.iconst 0, 1) := dk_3 (dk_at dksX4_setsHere_0 7 rfl rfl)
theorem dX4_setsHere_8 : decode cX4_setsHere 8 = .ok (.istore_n 2, 1) := dk_61 (dk_at dksX4_setsHere_0 8 rfl rfl)
theorem dX4_setsHere_9 : decode cX4_setsHere 9 = .ok (.aload_n 0, 1) := dk_42 (dk_at dksX4_setsHere_0 9 rfl rfl)
theorem dX4_setsHere_10 : decode cX4_setsHere 10 = .ok (.sipush 19636, 3) := dk_17 76 180 (dk_at dksX4_setsHere_0 10 rfl rfl)
theorem dX4_setsHere_13 : decode cX4_setsHere 13 = .ok (.invokevirtual 196, 3) := dk_182 0 196 (dk_at dksX4_setsHere_0 13 rfl rfl)
theorem dX4_setsHere_16 : decode cX4_setsHere 16 = .ok (.ifCond .eq 138, 3) := dk_153 0 138 (dk_at dksX4_setsHere_0 16 rfl rfl)
theorem dX4_setsHere_19 : decode cX4_setsHere 19 = .ok (.aload_n 0, 1) := dk_42 (dk_at dksX4_setsHere_0 19 rfl rfl)
theorem dX4_setsHere_20 : decode cX4_setsHere 20 = .ok (.aload_n 0, 1) := dk_42 (dk_at dksX4_setsHere_0 20 rfl rfl)
theorem dX4_setsHere_21 : decode cX4_setsHere 21 = .ok (.getfield 93, 3) := dk_180 0 93 (dk_at dksX4_setsHere_0 21 rfl rfl)
theorem dX4_setsHere_24 : decode cX4_setsHere 24 = .ok (.iload_n 1, 1) := dk_27 (dk_at dksX4_setsHere_1 0 rfl rfl)
theorem dX4_setsHere_25 : decode cX4_setsHere 25 = .ok (.iaload, 1) := dk_46 (dk_at dksX4_setsHere_1 1 rfl rfl)
theorem dX4_setsHere_26 : decode cX4_setsHere 26 = .ok (.iconst 4, 1) := dk_7 (dk_at dksX4_setsHere_1 2 rfl rfl)
theorem dX4_setsHere_27 : decode cX4_setsHere 27 = .ok (.if_icmp .ge 7, 3) := dk_162 0 7 (dk_at dksX4_setsHere_1 3 rfl rfl)
theorem dX4_setsHere_30 : decode cX4_setsHere 30 = .ok (.iconst 1, 1) := dk_4 (dk_at dksX4_setsHere_1 6 rfl rfl)
theorem dX4_setsHere_31 : decode cX4_setsHere 31 = .ok (.goto 4, 3) := dk_167 0 4 (dk_at dksX4_setsHere_1 7 rfl rfl)
theorem dX4_setsHere_34 : decode cX4_setsHere 34 = .ok (.iconst 0, 1) := dk_3 (dk_at dksX4_setsHere_1 10 rfl rfl)
theorem dX4_setsHere_35 : decode cX4_setsHere 35 = .ok (.iconst 2, 1) := dk_5 (dk_at dksX4_setsHere_1 11 rfl rfl)
theorem dX4_setsHere_36 : decode cX4_setsHere 36 = .ok (.invokevirtual 200, 3) := dk_182 0 200 (dk_at dksX4_setsHere_1 12 rfl rfl)
theorem dX4_setsHere_39 : decode cX4_setsHere 39 = .ok (.aload_n 0, 1) := dk_42 (dk_at dksX4_setsHere_1 15 rfl rfl)
theorem dX4_setsHere_40 : decode cX4_setsHere 40 = .ok (.aload_n 0, 1) := dk_42 (dk_at dksX4_setsHere_1 16 rfl rfl)
theorem dX4_setsHere_41 : decode cX4_setsHere 41 = .ok (.getfield 69, 3) := dk_180 0 69 (dk_at dksX4_setsHere_1 17 rfl rfl)
theorem dX4_setsHere_44 : decode cX4_setsHere 44 = .ok (.aload_n 0, 1) := dk_42 (dk_at dksX4_setsHere_1 20 rfl rfl)
theorem dX4_setsHere_45 : decode cX4_setsHere 45 = .ok (.getfield 203, 3) := dk_180 0 203 (dk_at dksX4_setsHere_1 21 rfl rfl)
theorem dX4_setsHere_48 : decode cX4_setsHere 48 = .ok (.invokevirtual 192, 3) := dk_182 0 192 (dk_at dksX4_setsHere_2 0 rfl rfl)
theorem dX4_setsHere_51 : decode cX4_setsHere 51 = .ok (.istore_n 3, 1) := dk_62 (dk_at dksX4_setsHere_2 3 rfl rfl)
theorem dX4_setsHere_52 : decode cX4_setsHere 52 = .ok (.aload_n 0, 1) := dk_42 (dk_at dksX4_setsHere_2 4 rfl rfl)
theorem dX4_setsHere_53 : decode cX4_setsHere 53 = .ok (.aload_n 0, 1) := dk_42 (dk_at dksX4_setsHere_2 5 rfl rfl)
theorem dX4_setsHere_54 : decode cX4_setsHere 54 = .ok (.getfield 162, 3) := dk_180 0 162 (dk_at dksX4_setsHere_2 6 rfl rfl)
theorem dX4_setsHere_57 : decode cX4_setsHere 57 = .ok (.ifCond .ne 11, 3) := dk_154 0 11 (dk_at dksX4_setsHere_2 9 rfl rfl)
theorem dX4_setsHere_60 : decode cX4_setsHere 60 = .ok (.iload_n 2, 1) := dk_28 (dk_at dksX4_setsHere_2 12 rfl rfl)
theorem dX4_setsHere_61 : decode cX4_setsHere 61 = .ok (.iload_n 3, 1) := dk_29 (dk_at dksX4_setsHere_2 13 rfl rfl)
theorem dX4_setsHere_62 : decode cX4_setsHere 62 = .ok (.ishr, 1) := dk_122 (dk_at dksX4_setsHere_2 14 rfl rfl)
theorem dX4_setsHere_63 : decode cX4_setsHere 63 = .ok (.iconst 1, 1) := dk_4 (dk_at dksX4_setsHere_2 15 rfl rfl)
theorem dX4_setsHere_64 : decode cX4_setsHere 64 = .ok (.iand, 1) := dk_126 (dk_at dksX4_setsHere_2 16 rfl rfl)
theorem dX4_setsHere_65 : decode cX4_setsHere 65 = .ok (.ifCond .ne 7, 3) := dk_154 0 7 (dk_at dksX4_setsHere_2 17 rfl rfl)
theorem dX4_setsHere_68 : decode cX4_setsHere 68 = .ok (.iconst 1, 1) := dk_4 (dk_at dksX4_setsHere_2 20 rfl rfl)
theorem dX4_setsHere_69 : decode cX4_setsHere 69 = .ok (.goto 4, 3) := dk_167 0 4 (dk_at dksX4_setsHere_2 21 rfl rfl)
theorem dX4_setsHere_72 : decode cX4_setsHere 72 = .ok (.iconst 0, 1) := dk_3 (dk_at dksX4_setsHere_3 0 rfl rfl)
theorem dX4_setsHere_73 : decode cX4_setsHere 73 = .ok (.iconst 3, 1) := dk_6 (dk_at dksX4_setsHere_3 1 rfl rfl)
theorem dX4_setsHere_74 : decode cX4_setsHere 74 = .ok (.invokevirtual 174, 3) := dk_182 0 174 (dk_at dksX4_setsHere_3 2 rfl rfl)
theorem dX4_setsHere_77 : decode cX4_setsHere 77 = .ok (.aload_n 0, 1) := dk_42 (dk_at dksX4_setsHere_3 5 rfl rfl)
theorem dX4_setsHere_78 : decode cX4_setsHere 78 = .ok (.getfield 162, 3) := dk_180 0 162 (dk_at dksX4_setsHere_3 6 rfl rfl)
theorem dX4_setsHere_81 : decode cX4_setsHere 81 = .ok (.ifCond .ne 7, 3) := dk_154 0 7 (dk_at dksX4_setsHere_3 9 rfl rfl)
theorem dX4_setsHere_84 : decode cX4_setsHere 84 = .ok (.aload_n 0, 1) := dk_42 (dk_at dksX4_setsHere_3 12 rfl rfl)
theorem dX4_setsHere_85 : decode cX4_setsHere 85 = .ok (.invokevirtual 178, 3) := dk_182 0 178 (dk_at dksX4_setsHere_3 13 rfl rfl)
theorem dX4_setsHere_88 : decode cX4_setsHere 88 = .ok (.aload_n 0, 1) := dk_42 (dk_at dksX4_setsHere_3 16 rfl rfl)
theorem dX4_setsHere_89 : decode cX4_setsHere 89 = .ok (.invokevirtual 206, 3) := dk_182 0 206 (dk_at dksX4_setsHere_3 17 rfl rfl)
theorem dX4_setsHere_92 : decode cX4_setsHere 92 = .ok (.istore 4, 2) := dk_54 4 (dk_at dksX4_setsHere_3 20 rfl rfl)
theorem dX4_setsHere_94 : decode cX4_setsHere 94 = .ok (.aload_n 0, 1) := dk_42 (dk_at dksX4_setsHere_3 22 rfl rfl)
theorem dX4_setsHere_95 : decode cX4_setsHere 95 = .ok (.getfield 162, 3) := dk_180 0 162 (dk_at dksX4_setsHere_4 0 rfl rfl)
theorem dX4_setsHere_98 : decode cX4_setsHere 98 = .ok (.ifCond .eq 4, 3) := dk_153 0 4 (dk_at dksX4_setsHere_4 3 rfl rfl)
theorem dX4_setsHere_101 : decode cX4_setsHere 101 = .ok (.return_, 1) := dk_177 (dk_at dksX4_setsHere_4 6 rfl rfl)
theorem dX4_setsHere_102 : decode cX4_setsHere 102 = .ok (.iload_n 2, 1) := dk_28 (dk_at dksX4_setsHere_4 7 rfl rfl)
theorem dX4_setsHere_103 : decode cX4_setsHere 103 = .ok (.iconst 1, 1) := dk_4 (dk_at dksX4_setsHere_4 8 rfl rfl)
theorem dX4_setsHere_104 : decode cX4_setsHere 104 = .ok (.iload_n 3, 1) := dk_29 (dk_at dksX4_setsHere_4 9 rfl rfl)
theorem dX4_setsHere_105 : decode cX4_setsHere 105 = .ok (.ishl, 1) := dk_120 (dk_at dksX4_setsHere_4 10 rfl rfl)
theorem dX4_setsHere_106 : decode cX4_setsHere 106 = .ok (.ior, 1) := dk_128 (dk_at dksX4_setsHere_4 11 rfl rfl)
theorem dX4_setsHere_107 : decode cX4_setsHere 107 = .ok (.istore_n 2, 1) := dk_61 (dk_at dksX4_setsHere_4 12 rfl rfl)
theorem dX4_setsHere_108 : decode cX4_setsHere 108 = .ok (.aload_n 0, 1) := dk_42 (dk_at dksX4_setsHere_4 13 rfl rfl)
theorem dX4_setsHere_109 : decode cX4_setsHere 109 = .ok (.getfield 96, 3) := dk_180 0 96 (dk_at dksX4_setsHere_4 14 rfl rfl)
theorem dX4_setsHere_112 : decode cX4_setsHere 112 = .ok (.iconst 4, 1) := dk_7 (dk_at dksX4_setsHere_4 17 rfl rfl)
theorem dX4_setsHere_113 : decode cX4_setsHere 113 = .ok (.iload_n 1, 1) := dk_27 (dk_at dksX4_setsHere_4 18 rfl rfl)
theorem dX4_setsHere_114 : decode cX4_setsHere 114 = .ok (.imul, 1) := dk_104 (dk_at dksX4_setsHere_4 19 rfl rfl)
theorem dX4_setsHere_115 : decode cX4_setsHere 115 = .ok (.aload_n 0, 1) := dk_42 (dk_at dksX4_setsHere_4 20 rfl rfl)
theorem dX4_setsHere_116 : decode cX4_setsHere 116 = .ok (.getfield 93, 3) := dk_180 0 93 (dk_at dksX4_setsHere_4 21 rfl rfl)
theorem dX4_setsHere_119 : decode cX4_setsHere 119 = .ok (.iload_n 1, 1) := dk_27 (dk_at dksX4_setsHere_5 0 rfl rfl)
theorem dX4_setsHere_120 : decode cX4_setsHere 120 = .ok (.iaload, 1) := dk_46 (dk_at dksX4_setsHere_5 1 rfl rfl)
theorem dX4_setsHere_121 : decode cX4_setsHere 121 = .ok (.iadd, 1) := dk_96 (dk_at dksX4_setsHere_5 2 rfl rfl)
theorem dX4_setsHere_122 : decode cX4_setsHere 122 = .ok (.iload_n 3, 1) := dk_29 (dk_at dksX4_setsHere_5 3 rfl rfl)
theorem dX4_setsHere_123 : decode cX4_setsHere 123 = .ok (.iastore, 1) := dk_79 (dk_at dksX4_setsHere_5 4 rfl rfl)
theorem dX4_setsHere_124 : decode cX4_setsHere 124 = .ok (.aload_n 0, 1) := dk_42 (dk_at dksX4_setsHere_5 5 rfl rfl)
theorem dX4_setsHere_125 : decode cX4_setsHere 125 = .ok (.getfield 99, 3) := dk_180 0 99 (dk_at dksX4_setsHere_5 6 rfl rfl)
theorem dX4_setsHere_128 : decode cX4_setsHere 128 = .ok (.iconst 4, 1) := dk_7 (dk_at dksX4_setsHere_5 9 rfl rfl)
theorem dX4_setsHere_129 : decode cX4_setsHere 129 = .ok (.iload_n 1, 1) := dk_27 (dk_at dksX4_setsHere_5 10 rfl rfl)
theorem dX4_setsHere_130 : decode cX4_setsHere 130 = .ok (.imul, 1) := dk_104 (dk_at dksX4_setsHere_5 11 rfl rfl)
theorem dX4_setsHere_131 : decode cX4_setsHere 131 = .ok (.aload_n 0, 1) := dk_42 (dk_at dksX4_setsHere_5 12 rfl rfl)
theorem dX4_setsHere_132 : decode cX4_setsHere 132 = .ok (.getfield 93, 3) := dk_180 0 93 (dk_at dksX4_setsHere_5 13 rfl rfl)
theorem dX4_setsHere_135 : decode cX4_setsHere 135 = .ok (.iload_n 1, 1) := dk_27 (dk_at dksX4_setsHere_5 16 rfl rfl)
theorem dX4_setsHere_136 : decode cX4_setsHere 136 = .ok (.iaload, 1) := dk_46 (dk_at dksX4_setsHere_5 17 rfl rfl)
theorem dX4_setsHere_137 : decode cX4_setsHere 137 = .ok (.iadd, 1) := dk_96 (dk_at dksX4_setsHere_5 18 rfl rfl)
theorem dX4_setsHere_138 : decode cX4_setsHere 138 = .ok (.iload 4, 2) := dk_21 4 (dk_at dksX4_setsHere_5 19 rfl rfl)
theorem dX4_setsHere_140 : decode cX4_setsHere 140 = .ok (.iastore, 1) := dk_79 (dk_at dksX4_setsHere_5 21 rfl rfl)
theorem dX4_setsHere_141 : decode cX4_setsHere 141 = .ok (.aload_n 0, 1) := dk_42 (dk_at dksX4_setsHere_5 22 rfl rfl)
theorem dX4_setsHere_142 : decode cX4_setsHere 142 = .ok (.getfield 93, 3) := dk_180 0 93 (dk_at dksX4_setsHere_6 0 rfl rfl)
theorem dX4_setsHere_145 : decode cX4_setsHere 145 = .ok (.iload_n 1, 1) := dk_27 (dk_at dksX4_setsHere_6 3 rfl rfl)
theorem dX4_setsHere_146 : decode cX4_setsHere 146 = .ok (.dup2, 1) := dk_92 (dk_at dksX4_setsHere_6 4 rfl rfl)
theorem dX4_setsHere_147 : decode cX4_setsHere 147 = .ok (.iaload, 1) := dk_46 (dk_at dksX4_setsHere_6 5 rfl rfl)
theorem dX4_setsHere_148 : decode cX4_setsHere 148 = .ok (.iconst 1, 1) := dk_4 (dk_at dksX4_setsHere_6 6 rfl rfl)
theorem dX4_setsHere_149 : decode cX4_setsHere 149 = .ok (.iadd, 1) := dk_96 (dk_at dksX4_setsHere_6 7 rfl rfl)
theorem dX4_setsHere_150 : decode cX4_setsHere 150 = .ok (.iastore, 1) := dk_79 (dk_at dksX4_setsHere_6 8 rfl rfl)
theorem dX4_setsHere_151 : decode cX4_setsHere 151 = .ok (.goto (-142), 3) := dk_167 255 114 (dk_at dksX4_setsHere_6 9 rfl rfl)
theorem dX4_setsHere_154 : decode cX4_setsHere 154 = .ok (.return_, 1) := dk_177 (dk_at dksX4_setsHere_6 12 rfl rfl)
def dkwX4_becomes_10 : List UInt8 := [132, 1, 1, 167, 255, 240, 42, 182, 0, 123, 42, 3, 181, 1, 5, 42, 182, 1, 8, 177]
abbrev dktX4_becomes_10 : List UInt8 := dkwX4_becomes_10 ++ []
def dkwX4_becomes_9 : List UInt8 := [182, 1, 2, 132, 1, 1, 167, 255, 223, 3, 60, 27, 16, 125, 162, 0, 16, 42, 180, 0, 44, 27, 3, 79]
abbrev dktX4_becomes_9 : List UInt8 := dkwX4_becomes_9 ++ dktX4_becomes_10
def dkwX4_becomes_8 : List UInt8 := [180, 0, 248, 96, 162, 0, 28, 27, 42, 180, 0, 245, 161, 0, 9, 27, 16, 8, 161, 0, 8, 42, 27]
abbrev dktX4_becomes_8 : List UInt8 := dkwX4_becomes_8 ++ dktX4_becomes_9
def dkwX4_becomes_7 : List UInt8 := [162, 0, 16, 42, 180, 0, 41, 27, 3, 79, 132, 1, 1, 167, 255, 241, 3, 60, 27, 16, 8, 42]
abbrev dktX4_becomes_7 : List UInt8 := dkwX4_becomes_7 ++ dktX4_becomes_8
def dkwX4_becomes_6 : List UInt8 := [16, 64, 184, 0, 254, 42, 180, 0, 99, 42, 180, 0, 38, 16, 64, 184, 0, 254, 3, 60, 27, 8]
abbrev dktX4_becomes_6 : List UInt8 := dkwX4_becomes_6 ++ dktX4_becomes_7
def dkwX4_becomes_5 : List UInt8 := [184, 0, 254, 42, 180, 0, 93, 42, 180, 0, 32, 16, 16, 184, 0, 254, 42, 180, 0, 96, 42, 180, 0, 35]
abbrev dktX4_becomes_5 : List UInt8 := dkwX4_becomes_5 ++ dktX4_becomes_6
def dkwX4_becomes_4 : List UInt8 := [180, 0, 87, 42, 180, 0, 26, 16, 16, 184, 0, 254, 42, 180, 0, 90, 42, 180, 0, 29, 16, 16]
abbrev dktX4_becomes_4 : List UInt8 := dkwX4_becomes_4 ++ dktX4_becomes_5
def dkwX4_becomes_3 : List UInt8 := [180, 0, 20, 17, 0, 144, 184, 0, 254, 42, 180, 0, 84, 42, 180, 0, 23, 17, 0, 144, 184, 0, 254, 42]
abbrev dktX4_becomes_3 : List UInt8 := dkwX4_becomes_3 ++ dktX4_becomes_4
def dkwX4_becomes_2 : List UInt8 := [16, 24, 184, 0, 254, 42, 180, 0, 78, 42, 180, 0, 17, 17, 0, 144, 184, 0, 254, 42, 180, 0, 81, 42]
abbrev dktX4_becomes_2 : List UInt8 := dkwX4_becomes_2 ++ dktX4_becomes_3
def dkwX4_becomes_1 : List UInt8 := [42, 42, 180, 0, 215, 181, 0, 248, 42, 42, 180, 0, 227, 181, 0, 251, 42, 180, 0, 75, 42, 180, 0, 13]
abbrev dktX4_becomes_1 : List UInt8 := dkwX4_becomes_1 ++ dktX4_becomes_2
def dkwX4_becomes_0 : List UInt8 := [42, 42, 180, 0, 230, 181, 0, 239, 42, 42, 180, 0, 203, 181, 0, 242, 42, 42, 180, 0, 189, 181, 0, 245]
abbrev dktX4_becomes_0 : List UInt8 := dkwX4_becomes_0 ++ dktX4_becomes_1
theorem dksX4_becomes_0 : cX4_becomes.data.toList.drop 0 = dktX4_becomes_0 := by decide +kernel
theorem dksX4_becomes_1 : cX4_becomes.data.toList.drop 24 = dktX4_becomes_1 := dk_seg dksX4_becomes_0 24 rfl rfl
theorem dksX4_becomes_2 : cX4_becomes.data.toList.drop 48 = dktX4_becomes_2 := dk_seg dksX4_becomes_1 24 rfl rfl
theorem dksX4_becomes_3 : cX4_becomes.data.toList.drop 72 = dktX4_becomes_3 := dk_seg dksX4_becomes_2 24 rfl rfl
theorem dksX4_becomes_4 : cX4_becomes.data.toList.drop 96 = dktX4_becomes_4 := dk_seg dksX4_becomes_3 24 rfl rfl
theorem dksX4_becomes_5 : cX4_becomes.data.toList.drop 118 = dktX4_becomes_5 := dk_seg dksX4_becomes_4 22 rfl rfl
theorem dksX4_becomes_6 : cX4_becomes.data.toList.drop 142 = dktX4_becomes_6 := dk_seg dksX4_becomes_5 24 rfl rfl
theorem dksX4_becomes_7 : cX4_becomes.data.toList.drop 164 = dktX4_becomes_7 := dk_seg dksX4_becomes_6 22 rfl rfl
theorem dksX4_becomes_8 : cX4_becomes.data.toList.drop 186 = dktX4_becomes_8 := dk_seg dksX4_becomes_7 22 rfl rfl
theorem dksX4_becomes_9 : cX4_becomes.data.toList.drop 209 = dktX4_becomes_9 := dk_seg dksX4_becomes_8 23 rfl rfl
theorem dksX4_becomes_10 : cX4_becomes.data.toList.drop 233 = dktX4_becomes_10 := dk_seg dksX4_becomes_9 24 rfl rfl
theorem dX4_becomes_0 : decode cX4_becomes 0 = .ok (.aload_n 0, 1) := dk_42 (dk_at dksX4_becomes_0 0 rfl rfl)
theorem dX4_becomes_1 : decode cX4_becomes 1 = .ok (.aload_n 0, 1) := dk_42 (dk_at dksX4_becomes_0 1 rfl rfl)
theorem dX4_becomes_2 : decode cX4_becomes 2 = .ok (.getfield 230, 3) := dk_180 0 230 (dk_at dksX4_becomes_0 2 rfl rfl)
theorem dX4_becomes_5 : decode cX4_becomes 5 = .ok (.putfield 239, 3) := dk_181 0 239 (dk_at dksX4_becomes_0 5 rfl rfl)
theorem dX4_becomes_8 : decode cX4_becomes 8 = .ok (.aload_n 0, 1) := dk_42 (dk_at dksX4_becomes_0 8 rfl rfl)
theorem dX4_becomes_9 : decode cX4_becomes 9 = .ok (.aload_n 0, 1) := dk_42 (dk_at dksX4_becomes_0 9 rfl rfl)
theorem dX4_becomes_10 : decode cX4_becomes 10 = .ok (.getfield 203, 3) := dk_180 0 203 (dk_at dksX4_becomes_0 10 rfl rfl)
theorem dX4_becomes_13 : decode cX4_becomes 13 = .ok (.putfield 242, 3) := dk_181 0 242 (dk_at dksX4_becomes_0 13 rfl rfl)
theorem dX4_becomes_16 : decode cX4_becomes 16 = .ok (.aload_n 0, 1) := dk_42 (dk_at dksX4_becomes_0 16 rfl rfl)
theorem dX4_becomes_17 : decode cX4_becomes 17 = .ok (.aload_n 0, 1) := dk_42 (dk_at dksX4_becomes_0 17 rfl rfl)
theorem dX4_becomes_18 : decode cX4_becomes 18 = .ok (.getfield 189, 3) := dk_180 0 189 (dk_at dksX4_becomes_0 18 rfl rfl)
theorem dX4_becomes_21 : decode cX4_becomes 21 = .ok (.putfield 245, 3) := dk_181 0 245 (dk_at dksX4_becomes_0 21 rfl rfl)
theorem dX4_becomes_24 : decode cX4_becomes 24 = .ok (.aload_n 0, 1) := dk_42 (dk_at dksX4_becomes_1 0 rfl rfl)
theorem dX4_becomes_25 : decode cX4_becomes 25 = .ok (.aload_n 0, 1) := dk_42 (dk_at dksX4_becomes_1 1 rfl rfl)
theorem dX4_becomes_26 : decode cX4_becomes 26 = .ok (.getfield 215, 3) := dk_180 0 215 (dk_at dksX4_becomes_1 2 rfl rfl)
theorem dX4_becomes_29 : decode cX4_becomes 29 = .ok (.putfield 248, 3) := dk_181 0 248 (dk_at dksX4_becomes_1 5 rfl rfl)
theorem dX4_becomes_32 : decode cX4_becomes 32 = .ok (.aload_n 0, 1) := dk_42 (dk_at dksX4_becomes_1 8 rfl rfl)
theorem dX4_becomes_33 : decode cX4_becomes 33 = .ok (.aload_n 0, 1) := dk_42 (dk_at dksX4_becomes_1 9 rfl rfl)
theorem dX4_becomes_34 : decode cX4_becomes 34 = .ok (.getfield 227, 3) := dk_180 0 227 (dk_at dksX4_becomes_1 10 rfl rfl)
theorem dX4_becomes_37 : decode cX4_becomes 37 = .ok (.putfield 251, 3) := dk_181 0 251 (dk_at dksX4_becomes_1 13 rfl rfl)
theorem dX4_becomes_40 : decode cX4_becomes 40 = .ok (.aload_n 0, 1) := dk_42 (dk_at dksX4_becomes_1 16 rfl rfl)
theorem dX4_becomes_41 : decode cX4_becomes 41 = .ok (.getfield 75, 3) := dk_180 0 75 (dk_at dksX4_becomes_1 17 rfl rfl)
theorem dX4_becomes_44 : decode cX4_becomes 44 = .ok (.aload_n 0, 1) := dk_42 (dk_at dksX4_becomes_1 20 rfl rfl)
theorem dX4_becomes_45 : decode cX4_becomes 45 = .ok (.getfield 13, 3) := dk_180 0 13 (dk_at dksX4_becomes_1 21 rfl rfl)
theorem dX4_becomes_48 : decode cX4_becomes 48 = .ok (.bipush 24, 2) := dk_16 24 (dk_at dksX4_becomes_2 0 rfl rfl)
theorem dX4_becomes_50 : decode cX4_becomes 50 = .ok (.invokestatic 254, 3) := dk_184 0 254 (dk_at dksX4_becomes_2 2 rfl rfl)
theorem dX4_becomes_53 : decode cX4_becomes 53 = .ok (.aload_n 0, 1) := dk_42 (dk_at dksX4_becomes_2 5 rfl rfl)
theorem dX4_becomes_54 : decode cX4_becomes 54 = .ok (.getfield 78, 3) := dk_180 0 78 (dk_at dksX4_becomes_2 6 rfl rfl)
theorem dX4_becomes_57 : decode cX4_becomes 57 = .ok (.aload_n 0, 1) := dk_42 (dk_at dksX4_becomes_2 9 rfl rfl)
theorem dX4_becomes_58 : decode cX4_becomes 58 = .ok (.getfield 17, 3) := dk_180 0 17 (dk_at dksX4_becomes_2 10 rfl rfl)
theorem dX4_becomes_61 : decode cX4_becomes 61 = .ok (.sipush 144, 3) := dk_17 0 144 (dk_at dksX4_becomes_2 13 rfl rfl)
theorem dX4_becomes_64 : decode cX4_becomes 64 = .ok (.invokestatic 254, 3) := dk_184 0 254 (dk_at dksX4_becomes_2 16 rfl rfl)
theorem dX4_becomes_67 : decode cX4_becomes 67 = .ok (.aload_n 0, 1) := dk_42 (dk_at dksX4_becomes_2 19 rfl rfl)
theorem dX4_becomes_68 : decode cX4_becomes 68 = .ok (.getfield 81, 3) := dk_180 0 81 (dk_at dksX4_becomes_2 20 rfl rfl)
theorem dX4_becomes_71 : decode cX4_becomes 71 = .ok (.aload_n 0, 1) := dk_42 (dk_at dksX4_becomes_2 23 rfl rfl)
theorem dX4_becomes_72 : decode cX4_becomes 72 = .ok (.getfield 20, 3) := dk_180 0 20 (dk_at dksX4_becomes_3 0 rfl rfl)
theorem dX4_becomes_75 : decode cX4_becomes 75 = .ok (.sipush 144, 3) := dk_17 0 144 (dk_at dksX4_becomes_3 3 rfl rfl)
theorem dX4_becomes_78 : decode cX4_becomes 78 = .ok (.invokestatic 254, 3) := dk_184 0 254 (dk_at dksX4_becomes_3 6 rfl rfl)
theorem dX4_becomes_81 : decode cX4_becomes 81 = .ok (.aload_n 0, 1) := dk_42 (dk_at dksX4_becomes_3 9 rfl rfl)
theorem dX4_becomes_82 : decode cX4_becomes 82 = .ok (.getfield 84, 3) := dk_180 0 84 (dk_at dksX4_becomes_3 10 rfl rfl)
theorem dX4_becomes_85 : decode cX4_becomes 85 = .ok (.aload_n 0, 1) := dk_42 (dk_at dksX4_becomes_3 13 rfl rfl)
theorem dX4_becomes_86 : decode cX4_becomes 86 = .ok (.getfield 23, 3) := dk_180 0 23 (dk_at dksX4_becomes_3 14 rfl rfl)
theorem dX4_becomes_89 : decode cX4_becomes 89 = .ok (.sipush 144, 3) := dk_17 0 144 (dk_at dksX4_becomes_3 17 rfl rfl)
theorem dX4_becomes_92 : decode cX4_becomes 92 = .ok (.invokestatic 254, 3) := dk_184 0 254 (dk_at dksX4_becomes_3 20 rfl rfl)
theorem dX4_becomes_95 : decode cX4_becomes 95 = .ok (.aload_n 0, 1) := dk_42 (dk_at dksX4_becomes_3 23 rfl rfl)
theorem dX4_becomes_96 : decode cX4_becomes 96 = .ok (.getfield 87, 3) := dk_180 0 87 (dk_at dksX4_becomes_4 0 rfl rfl)
theorem dX4_becomes_99 : decode cX4_becomes 99 = .ok (.aload_n 0, 1) := dk_42 (dk_at dksX4_becomes_4 3 rfl rfl)
theorem dX4_becomes_100 : decode cX4_becomes 100 = .ok (.getfield 26, 3) := dk_180 0 26 (dk_at dksX4_becomes_4 4 rfl rfl)
theorem dX4_becomes_103 : decode cX4_becomes 103 = .ok (.bipush 16, 2) := dk_16 16 (dk_at dksX4_becomes_4 7 rfl rfl)
theorem dX4_becomes_105 : decode cX4_becomes 105 = .ok (.invokestatic 254, 3) := dk_184 0 254 (dk_at dksX4_becomes_4 9 rfl rfl)
theorem dX4_becomes_108 : decode cX4_becomes 108 = .ok (.aload_n 0, 1) := dk_42 (dk_at dksX4_becomes_4 12 rfl rfl)
theorem dX4_becomes_109 : decode cX4_becomes 109 = .ok (.getfield 90, 3) := dk_180 0 90 (dk_at dksX4_becomes_4 13 rfl rfl)
theorem dX4_becomes_112 : decode cX4_becomes 112 = .ok (.aload_n 0, 1) := dk_42 (dk_at dksX4_becomes_4 16 rfl rfl)
theorem dX4_becomes_113 : decode cX4_becomes 113 = .ok (.getfield 29, 3) := dk_180 0 29 (dk_at dksX4_becomes_4 17 rfl rfl)
theorem dX4_becomes_116 : decode cX4_becomes 116 = .ok (.bipush 16, 2) := dk_16 16 (dk_at dksX4_becomes_4 20 rfl rfl)
theorem dX4_becomes_118 : decode cX4_becomes 118 = .ok (.invokestatic 254, 3) := dk_184 0 254 (dk_at dksX4_becomes_5 0 rfl rfl)
theorem dX4_becomes_121 : decode cX4_becomes 121 = .ok (.aload_n 0, 1) := dk_42 (dk_at dksX4_becomes_5 3 rfl rfl)
theorem dX4_becomes_122 : decode cX4_becomes 122 = .ok (.getfield 93, 3) := dk_180 0 93 (dk_at dksX4_becomes_5 4 rfl rfl)
theorem dX4_becomes_125 : decode cX4_becomes 125 = .ok (.aload_n 0, 1) := dk_42 (dk_at dksX4_becomes_5 7 rfl rfl)
theorem dX4_becomes_126 : decode cX4_becomes 126 = .ok (.getfield 32, 3) := dk_180 0 32 (dk_at dksX4_becomes_5 8 rfl rfl)
theorem dX4_becomes_129 : decode cX4_becomes 129 = .ok (.bipush 16, 2) := dk_16 16 (dk_at dksX4_becomes_5 11 rfl rfl)
theorem dX4_becomes_131 : decode cX4_becomes 131 = .ok (.invokestatic 254, 3) := dk_184 0 254 (dk_at dksX4_becomes_5 13 rfl rfl)
theorem dX4_becomes_134 : decode cX4_becomes 134 = .ok (.aload_n 0, 1) := dk_42 (dk_at dksX4_becomes_5 16 rfl rfl)
theorem dX4_becomes_135 : decode cX4_becomes 135 = .ok (.getfield 96, 3) := dk_180 0 96 (dk_at dksX4_becomes_5 17 rfl rfl)
theorem dX4_becomes_138 : decode cX4_becomes 138 = .ok (.aload_n 0, 1) := dk_42 (dk_at dksX4_becomes_5 20 rfl rfl)
theorem dX4_becomes_139 : decode cX4_becomes 139 = .ok (.getfield 35, 3) := dk_180 0 35 (dk_at dksX4_becomes_5 21 rfl rfl)
theorem dX4_becomes_142 : decode cX4_becomes 142 = .ok (.bipush 64, 2) := dk_16 64 (dk_at dksX4_becomes_6 0 rfl rfl)
theorem dX4_becomes_144 : decode cX4_becomes 144 = .ok (.invokestatic 254, 3) := dk_184 0 254 (dk_at dksX4_becomes_6 2 rfl rfl)
theorem dX4_becomes_147 : decode cX4_becomes 147 = .ok (.aload_n 0, 1) := dk_42 (dk_at dksX4_becomes_6 5 rfl rfl)
theorem dX4_becomes_148 : decode cX4_becomes 148 = .ok (.getfield 99, 3) := dk_180 0 99 (dk_at dksX4_becomes_6 6 rfl rfl)
theorem dX4_becomes_151 : decode cX4_becomes 151 = .ok (.aload_n 0, 1) := dk_42 (dk_at dksX4_becomes_6 9 rfl rfl)
theorem dX4_becomes_152 : decode cX4_becomes 152 = .ok (.getfield 38, 3) := dk_180 0 38 (dk_at dksX4_becomes_6 10 rfl rfl)
theorem dX4_becomes_155 : decode cX4_becomes 155 = .ok (.bipush 64, 2) := dk_16 64 (dk_at dksX4_becomes_6 13 rfl rfl)
theorem dX4_becomes_157 : decode cX4_becomes 157 = .ok (.invokestatic 254, 3) := dk_184 0 254 (dk_at dksX4_becomes_6 15 rfl rfl)
theorem dX4_becomes_160 : decode cX4_becomes 160 = .ok (.iconst 0, 1) := dk_3 (dk_at dksX4_becomes_6 18 rfl rfl)
theorem dX4_becomes_161 : decode cX4_becomes 161 = .ok (.istore_n 1, 1) := dk_60 (dk_at dksX4_becomes_6 19 rfl rfl)
theorem dX4_becomes_162 : decode cX4_becomes 162 = .ok (.iload_n 1, 1) := dk_27 (dk_at dksX4_becomes_6 20 rfl rfl)
theorem dX4_becomes_163 : decode cX4_becomes 163 = .ok (.iconst 5, 1) := dk_8 (dk_at dksX4_becomes_6 21 rfl rfl)
theorem dX4_becomes_164 : decode cX4_becomes 164 = .ok (.if_icmp .ge 16, 3) := dk_162 0 16 (dk_at dksX4_becomes_7 0 rfl rfl)
theorem dX4_becomes_167 : decode cX4_becomes 167 = .ok (.aload_n 0, 1) := dk_42 (dk_at dksX4_becomes_7 3 rfl rfl)
theorem dX4_becomes_168 : decode cX4_becomes 168 = .ok (.getfield 41, 3) := dk_180 0 41 (dk_at dksX4_becomes_7 4 rfl rfl)
theorem dX4_becomes_171 : decode cX4_becomes 171 = .ok (.iload_n 1, 1) := dk_27 (dk_at dksX4_becomes_7 7 rfl rfl)
theorem dX4_becomes_172 : decode cX4_becomes 172 = .ok (.iconst 0, 1) := dk_3 (dk_at dksX4_becomes_7 8 rfl rfl)
theorem dX4_becomes_173 : decode cX4_becomes 173 = .ok (.iastore, 1) := dk_79 (dk_at dksX4_becomes_7 9 rfl rfl)
theorem dX4_becomes_174 : decode cX4_becomes 174 = .ok (.iinc 1 1, 3) := dk_132 1 1 (dk_at dksX4_becomes_7 10 rfl rfl)
theorem dX4_becomes_177 : decode cX4_becomes 177 = .ok (.goto (-15), 3) := dk_167 255 241 (dk_at dksX4_becomes_7 13 rfl rfl)
theorem dX4_becomes_180 : decode cX4_becomes 180 = .ok (.iconst 0, 1) := dk_3 (dk_at dksX4_becomes_7 16 rfl rfl)
theorem dX4_becomes_181 : decode cX4_becomes 181 = .ok (.istore_n 1, 1) := dk_60 (dk_at dksX4_becomes_7 17 rfl rfl)
theorem dX4_becomes_182 : decode cX4_becomes 182 = .ok (.iload_n 1, 1) := dk_27 (dk_at dksX4_becomes_7 18 rfl rfl)
theorem dX4_becomes_183 : decode cX4_becomes 183 = .ok (.bipush 8, 2) := dk_16 8 (dk_at dksX4_becomes_7 19 rfl rfl)
theorem dX4_becomes_185 : decode cX4_becomes 185 = .ok (.aload_n 0, 1) := dk_42 (dk_at dksX4_becomes_7 21 rfl rfl)
theorem dX4_becomes_186 : decode cX4_becomes 186 = .ok (.getfield 248, 3) := dk_180 0 248 (dk_at dksX4_becomes_8 0 rfl rfl)
theorem dX4_becomes_189 : decode cX4_becomes 189 = .ok (.iadd, 1) := dk_96 (dk_at dksX4_becomes_8 3 rfl rfl)
theorem dX4_becomes_190 : decode cX4_becomes 190 = .ok (.if_icmp .ge 28, 3) := dk_162 0 28 (dk_at dksX4_becomes_8 4 rfl rfl)
theorem dX4_becomes_193 : decode cX4_becomes 193 = .ok (.iload_n 1, 1) := dk_27 (dk_at dksX4_becomes_8 7 rfl rfl)
theorem dX4_becomes_194 : decode cX4_becomes 194 = .ok (.aload_n 0, 1) := dk_42 (dk_at dksX4_becomes_8 8 rfl rfl)
theorem dX4_becomes_195 : decode cX4_becomes 195 = .ok (.getfield 245, 3) := dk_180 0 245 (dk_at dksX4_becomes_8 9 rfl rfl)
theorem dX4_becomes_198 : decode cX4_becomes 198 = .ok (.if_icmp .lt 9, 3) := dk_161 0 9 (dk_at dksX4_becomes_8 12 rfl rfl)
theorem dX4_becomes_201 : decode cX4_becomes 201 = .ok (.iload_n 1, 1) := dk_27 (dk_at dksX4_becomes_8 15 rfl rfl)
theorem dX4_becomes_202 : decode cX4_becomes 202 = .ok (.bipush 8, 2) := dk_16 8 (dk_at dksX4_becomes_8 16 rfl rfl)
theorem dX4_becomes_204 : decode cX4_becomes 204 = .ok (.if_icmp .lt 8, 3) := dk_161 0 8 (dk_at dksX4_becomes_8 18 rfl rfl)
theorem dX4_becomes_207 : decode cX4_becomes 207 = .ok (.aload_n 0, 1) := dk_42 (dk_at dksX4_becomes_8 21 rfl rfl)
theorem dX4_becomes_208 : decode cX4_becomes 208 = .ok (.iload_n 1, 1) := dk_27 (dk_at dksX4_becomes_8 22 rfl rfl)
theorem dX4_becomes_209 : decode cX4_becomes 209 = .ok (.invokevirtual 258, 3) := dk_182 1 2 (dk_at dksX4_becomes_9 0 rfl rfl)
theorem dX4_becomes_212 : decode cX4_becomes 212 = .ok (.iinc 1 1, 3) := dk_132 1 1 (dk_at dksX4_becomes_9 3 rfl rfl)
theorem dX4_becomes_215 : decode cX4_becomes 215 = .ok (.goto (-33), 3) := dk_167 255 223 (dk_at dksX4_becomes_9 6 rfl rfl)
theorem dX4_becomes_218 : decode cX4_becomes 218 = .ok (.iconst 0, 1) := dk_3 (dk_at dksX4_becomes_9 9 rfl rfl)
theorem dX4_becomes_219 : decode cX4_becomes 219 = .ok (.istore_n 1, 1) := dk_60 (dk_at dksX4_becomes_9 10 rfl rfl)
theorem dX4_becomes_220 : decode cX4_becomes 220 = .ok (.iload_n 1, 1) := dk_27 (dk_at dksX4_becomes_9 11 rfl rfl)
theorem dX4_becomes_221 : decode cX4_becomes 221 = .ok (.bipush 125, 2) := dk_16 125 (dk_at dksX4_becomes_9 12 rfl rfl)
theorem dX4_becomes_223 : decode cX4_becomes 223 = .ok (.if_icmp .ge 16, 3) := dk_162 0 16 (dk_at dksX4_becomes_9 14 rfl rfl)
theorem dX4_becomes_226 : decode cX4_becomes 226 = .ok (.aload_n 0, 1) := dk_42 (dk_at dksX4_becomes_9 17 rfl rfl)
theorem dX4_becomes_227 : decode cX4_becomes 227 = .ok (.getfield 44, 3) := dk_180 0 44 (dk_at dksX4_becomes_9 18 rfl rfl)
theorem dX4_becomes_230 : decode cX4_becomes 230 = .ok (.iload_n 1, 1) := dk_27 (dk_at dksX4_becomes_9 21 rfl rfl)
theorem dX4_becomes_231 : decode cX4_becomes 231 = .ok (.iconst 0, 1) := dk_3 (dk_at dksX4_becomes_9 22 rfl rfl)
theorem dX4_becomes_232 : decode cX4_becomes 232 = .ok (.iastore, 1) := dk_79 (dk_at dksX4_becomes_9 23 rfl rfl)
theorem dX4_becomes_233 : decode cX4_becomes 233 = .ok (.iinc 1 1, 3) := dk_132 1 1 (dk_at dksX4_becomes_10 0 rfl rfl)
theorem dX4_becomes_236 : decode cX4_becomes 236 = .ok (.goto (-16), 3) := dk_167 255 240 (dk_at dksX4_becomes_10 3 rfl rfl)
theorem dX4_becomes_239 : decode cX4_becomes 239 = .ok (.aload_n 0, 1) := dk_42 (dk_at dksX4_becomes_10 6 rfl rfl)
theorem dX4_becomes_240 : decode cX4_becomes 240 = .ok (.invokevirtual 123, 3) := dk_182 0 123 (dk_at dksX4_becomes_10 7 rfl rfl)
theorem dX4_becomes_243 : decode cX4_becomes 243 = .ok (.aload_n 0, 1) := dk_42 (dk_at dksX4_becomes_10 10 rfl rfl)
theorem dX4_becomes_244 : decode cX4_becomes 244 = .ok (.iconst 0, 1) := dk_3 (dk_at dksX4_becomes_10 11 rfl rfl)
theorem dX4_becomes_245 : decode cX4_becomes 245 = .ok (.putfield 261, 3) := dk_181 1 5 (dk_at dksX4_becomes_10 12 rfl rfl)
theorem dX4_becomes_248 : decode cX4_becomes 248 = .ok (.aload_n 0, 1) := dk_42 (dk_at dksX4_becomes_10 15 rfl rfl)
theorem dX4_becomes_249 : decode cX4_becomes 249 = .ok (.invokevirtual 264, 3) := dk_182 1 8 (dk_at dksX4_becomes_10 16 rfl rfl)
theorem dX4_becomes_252 : decode cX4_becomes 252 = .ok (.return_, 1) := dk_177 (dk_at dksX4_becomes_10 19 rfl rfl)
def dkwX4_copies_0 : List UInt8 := [3, 62, 29, 28, 162, 0, 15, 43, 29, 42, 29, 46, 79, 132, 3, 1, 167, 255, 242, 177]
abbrev dktX4_copies_0 : List UInt8 := dkwX4_copies_0 ++ []
theorem dksX4_copies_0 : cX4_copies.data.toList.drop 0 = dktX4_copies_0 := by decide +kernel
theorem dX4_copies_0 : decode cX4_copies 0 = .ok (.iconst 0, 1) := dk_3 (dk_at dksX4_copies_0 0 rfl rfl)
theorem dX4_copies_1 : decode cX4_copies 1 = .ok (.istore_n 3, 1) := dk_62 (dk_at dksX4_copies_0 1 rfl rfl)
theorem dX4_copies_2 : decode cX4_copies 2 = .ok (.iload_n 3, 1) := dk_29 (dk_at dksX4_copies_0 2 rfl rfl)
theorem dX4_copies_3 : decode cX4_copies 3 = .ok (.iload_n 2, 1) := dk_28 (dk_at dksX4_copies_0 3 rfl rfl)
theorem dX4_copies_4 : decode cX4_copies 4 = .ok (.if_icmp .ge 15, 3) := dk_162 0 15 (dk_at dksX4_copies_0 4 rfl rfl)
theorem dX4_copies_7 : decode cX4_copies 7 = .ok (.aload_n 1, 1) := dk_43 (dk_at dksX4_copies_0 7 rfl rfl)
theorem dX4_copies_8 : decode cX4_copies 8 = .ok (.iload_n 3, 1) := dk_29 (dk_at dksX4_copies_0 8 rfl rfl)
theorem dX4_copies_9 : decode cX4_copies 9 = .ok (.aload_n 0, 1) := dk_42 (dk_at dksX4_copies_0 9 rfl rfl)
theorem dX4_copies_10 : decode cX4_copies 10 = .ok (.iload_n 3, 1) := dk_29 (dk_at dksX4_copies_0 10 rfl rfl)
theorem dX4_copies_11 : decode cX4_copies 11 = .ok (.iaload, 1) := dk_46 (dk_at dksX4_copies_0 11 rfl rfl)
theorem dX4_copies_12 : decode cX4_copies 12 = .ok (.iastore, 1) := dk_79 (dk_at dksX4_copies_0 12 rfl rfl)
theorem dX4_copies_13 : decode cX4_copies 13 = .ok (.iinc 3 1, 3) := dk_132 3 1 (dk_at dksX4_copies_0 13 rfl rfl)
theorem dX4_copies_16 : decode cX4_copies 16 = .ok (.goto (-14), 3) := dk_167 255 242 (dk_at dksX4_copies_0 16 rfl rfl)
theorem dX4_copies_19 : decode cX4_copies 19 = .ok (.return_, 1) := dk_177 (dk_at dksX4_copies_0 19 rfl rfl)
def dkwX4_greatens_4 : List UInt8 := [182, 1, 11, 132, 2, 1, 167, 255, 210, 177]
abbrev dktX4_greatens_4 : List UInt8 := dkwX4_greatens_4 ++ []
def dkwX4_greatens_3 : List UInt8 := [7, 27, 16, 8, 100, 104, 28, 96, 46, 42, 180, 0, 38, 7, 27, 16, 8, 100, 104, 28, 96, 46]
abbrev dktX4_greatens_3 : List UInt8 := dkwX4_greatens_3 ++ dktX4_greatens_4
def dkwX4_greatens_2 : List UInt8 := [162, 0, 4, 177, 3, 61, 28, 42, 180, 0, 32, 27, 16, 8, 100, 46, 162, 0, 39, 42, 42, 180, 0, 35]
abbrev dktX4_greatens_2 : List UInt8 := dkwX4_greatens_2 ++ dktX4_greatens_3
def dkwX4_greatens_1 : List UInt8 := [42, 180, 0, 23, 16, 6, 27, 104, 28, 96, 46, 182, 1, 11, 132, 2, 1, 167, 255, 217, 27, 16, 8]
abbrev dktX4_greatens_1 : List UInt8 := dkwX4_greatens_1 ++ dktX4_greatens_2
def dkwX4_greatens_0 : List UInt8 := [3, 61, 28, 42, 180, 0, 13, 27, 46, 162, 0, 35, 42, 42, 180, 0, 17, 16, 6, 27, 104, 28, 96, 46]
abbrev dktX4_greatens_0 : List UInt8 := dkwX4_greatens_0 ++ dktX4_greatens_1
theorem dksX4_greatens_0 : cX4_greatens.data.toList.drop 0 = dktX4_greatens_0 := by decide +kernel
theorem dksX4_greatens_1 : cX4_greatens.data.toList.drop 24 = dktX4_greatens_1 := dk_seg dksX4_greatens_0 24 rfl rfl
theorem dksX4_greatens_2 : cX4_greatens.data.toList.drop 47 = dktX4_greatens_2 := dk_seg dksX4_greatens_1 23 rfl rfl
theorem dksX4_greatens_3 : cX4_greatens.data.toList.drop 71 = dktX4_greatens_3 := dk_seg dksX4_greatens_2 24 rfl rfl
theorem dksX4_greatens_4 : cX4_greatens.data.toList.drop 93 = dktX4_greatens_4 := dk_seg dksX4_greatens_3 22 rfl rfl
theorem dX4_greatens_0 : decode cX4_greatens 0 = .ok (.iconst 0, 1) := dk_3 (dk_at dksX4_greatens_0 0 rfl rfl)
theorem dX4_greatens_1 : decode cX4_greatens 1 = .ok (.istore_n 2, 1) := dk_61 (dk_at dksX4_greatens_0 1 rfl rfl)
theorem dX4_greatens_2 : decode cX4_greatens 2 = .ok (.iload_n 2, 1) := dk_28 (dk_at dksX4_greatens_0 2 rfl rfl)
theorem dX4_greatens_3 : decode cX4_greatens 3 = .ok (.aload_n 0, 1) := dk_42 (dk_at dksX4_greatens_0 3 rfl rfl)
theorem dX4_greatens_4 : decode cX4_greatens 4 = .ok (.getfield 13, 3) := dk_180 0 13 (dk_at dksX4_greatens_0 4 rfl rfl)
theorem dX4_greatens_7 : decode cX4_greatens 7 = .ok (.iload_n 1, 1) := dk_27 (dk_at dksX4_greatens_0 7 rfl rfl)
theorem dX4_greatens_8 : decode cX4_greatens 8 = .ok (.iaload, 1) := dk_46 (dk_at dksX4_greatens_0 8 rfl rfl)
theorem dX4_greatens_9 : decode cX4_greatens 9 = .ok (.if_icmp .ge 35, 3) := dk_162 0 35 (dk_at dksX4_greatens_0 9 rfl rfl)
theorem dX4_greatens_12 : decode cX4_greatens 12 = .ok (.aload_n 0, 1) := dk_42 (dk_at dksX4_greatens_0 12 rfl rfl)
theorem dX4_greatens_13 : decode cX4_greatens 13 = .ok (.aload_n 0, 1) := dk_42 (dk_at dksX4_greatens_0 13 rfl rfl)
theorem dX4_greatens_14 : decode cX4_greatens 14 = .ok (.getfield 17, 3) := dk_180 0 17 (dk_at dksX4_greatens_0 14 rfl rfl)
theorem dX4_greatens_17 : decode cX4_greatens 17 = .ok (.bipush 6, 2) := dk_16 6 (dk_at dksX4_greatens_0 17 rfl rfl)
theorem dX4_greatens_19 : decode cX4_greatens 19 = .ok (.iload_n 1, 1) := dk_27 (dk_at dksX4_greatens_0 19 rfl rfl)
theorem dX4_greatens_20 : decode cX4_greatens 20 = .ok (.imul, 1) := dk_104 (dk_at dksX4_greatens_0 20 rfl rfl)
theorem dX4_greatens_21 : decode cX4_greatens 21 = .ok (.iload_n 2, 1) := dk_28 (dk_at dksX4_greatens_0 21 rfl rfl)
theorem dX4_greatens_22 : decode cX4_greatens 22 = .ok (.iadd, 1) := dk_96 (dk_at dksX4_greatens_0 22 rfl rfl)
theorem dX4_greatens_23 : decode cX4_greatens 23 = .ok (.iaload, 1) := dk_46 (dk_at dksX4_greatens_0 23 rfl rfl)
theorem dX4_greatens_24 : decode cX4_greatens 24 = .ok (.aload_n 0, 1) := dk_42 (dk_at dksX4_greatens_1 0 rfl rfl)
theorem dX4_greatens_25 : decode cX4_greatens 25 = .ok (.getfield 23, 3) := dk_180 0 23 (dk_at dksX4_greatens_1 1 rfl rfl)
theorem dX4_greatens_28 : decode cX4_greatens 28 = .ok (.bipush 6, 2) := dk_16 6 (dk_at dksX4_greatens_1 4 rfl rfl)
theorem dX4_greatens_30 : decode cX4_greatens 30 = .ok (.iload_n 1, 1) := dk_27 (dk_at dksX4_greatens_1 6 rfl rfl)
theorem dX4_greatens_31 : decode cX4_greatens 31 = .ok (.imul, 1) := dk_104 (dk_at dksX4_greatens_1 7 rfl rfl)
theorem dX4_greatens_32 : decode cX4_greatens 32 = .ok (.iload_n 2, 1) := dk_28 (dk_at dksX4_greatens_1 8 rfl rfl)
theorem dX4_greatens_33 : decode cX4_greatens 33 = .ok (.iadd, 1) := dk_96 (dk_at dksX4_greatens_1 9 rfl rfl)
theorem dX4_greatens_34 : decode cX4_greatens 34 = .ok (.iaload, 1) := dk_46 (dk_at dksX4_greatens_1 10 rfl rfl)
theorem dX4_greatens_35 : decode cX4_greatens 35 = .ok (.invokevirtual 267, 3) := dk_182 1 11 (dk_at dksX4_greatens_1 11 rfl rfl)
theorem dX4_greatens_38 : decode cX4_greatens 38 = .ok (.iinc 2 1, 3) := dk_132 2 1 (dk_at dksX4_greatens_1 14 rfl rfl)
theorem dX4_greatens_41 : decode cX4_greatens 41 = .ok (.goto (-39), 3) := dk_167 255 217 (dk_at dksX4_greatens_1 17 rfl rfl)
theorem dX4_greatens_44 : decode cX4_greatens 44 = .ok (.iload_n 1, 1) := dk_27 (dk_at dksX4_greatens_1 20 rfl rfl)
theorem dX4_greatens_45 : decode cX4_greatens 45 = .ok (.bipush 8, 2) := dk_16 8 (dk_at dksX4_greatens_1 21 rfl rfl)
theorem dX4_greatens_47 : decode cX4_greatens 47 = .ok (.if_icmp .ge 4, 3) := dk_162 0 4 (dk_at dksX4_greatens_2 0 rfl rfl)
theorem dX4_greatens_50 : decode cX4_greatens 50 = .ok (.return_, 1) := dk_177 (dk_at dksX4_greatens_2 3 rfl rfl)
theorem dX4_greatens_51 : decode cX4_greatens 51 = .ok (.iconst 0, 1) := dk_3 (dk_at dksX4_greatens_2 4 rfl rfl)
theorem dX4_greatens_52 : decode cX4_greatens 52 = .ok (.istore_n 2, 1) := dk_61 (dk_at dksX4_greatens_2 5 rfl rfl)
theorem dX4_greatens_53 : decode cX4_greatens 53 = .ok (.iload_n 2, 1) := dk_28 (dk_at dksX4_greatens_2 6 rfl rfl)
theorem dX4_greatens_54 : decode cX4_greatens 54 = .ok (.aload_n 0, 1) := dk_42 (dk_at dksX4_greatens_2 7 rfl rfl)
theorem dX4_greatens_55 : decode cX4_greatens 55 = .ok (.getfield 32, 3) := dk_180 0 32 (dk_at dksX4_greatens_2 8 rfl rfl)
theorem dX4_greatens_58 : decode cX4_greatens 58 = .ok (.iload_n 1, 1) := dk_27 (dk_at dksX4_greatens_2 11 rfl rfl)
theorem dX4_greatens_59 : decode cX4_greatens 59 = .ok (.bipush 8, 2) := dk_16 8 (dk_at dksX4_greatens_2 12 rfl rfl)
theorem dX4_greatens_61 : decode cX4_greatens 61 = .ok (.isub, 1) := dk_100 (dk_at dksX4_greatens_2 14 rfl rfl)
theorem dX4_greatens_62 : decode cX4_greatens 62 = .ok (.iaload, 1) := dk_46 (dk_at dksX4_greatens_2 15 rfl rfl)
theorem dX4_greatens_63 : decode cX4_greatens 63 = .ok (.if_icmp .ge 39, 3) := dk_162 0 39 (dk_at dksX4_greatens_2 16 rfl rfl)
theorem dX4_greatens_66 : decode cX4_greatens 66 = .ok (.aload_n 0, 1) := dk_42 (dk_at dksX4_greatens_2 19 rfl rfl)
theorem dX4_greatens_67 : decode cX4_greatens 67 = .ok (.aload_n 0, 1) := dk_42 (dk_at dksX4_greatens_2 20 rfl rfl)
theorem dX4_greatens_68 : decode cX4_greatens 68 = .ok (.getfield 35, 3) := dk_180 0 35 (dk_at dksX4_greatens_2 21 rfl rfl)
theorem dX4_greatens_71 : decode cX4_greatens 71 = .ok (.iconst 4, 1) := dk_7 (dk_at dksX4_greatens_3 0 rfl rfl)
theorem dX4_greatens_72 : decode cX4_greatens 72 = .ok (.iload_n 1, 1) := dk_27 (dk_at dksX4_greatens_3 1 rfl rfl)
theorem dX4_greatens_73 : decode cX4_greatens 73 = .ok (.bipush 8, 2) := dk_16 8 (dk_at dksX4_greatens_3 2 rfl rfl)
theorem dX4_greatens_75 : decode cX4_greatens 75 = .ok (.isub, 1) := dk_100 (dk_at dksX4_greatens_3 4 rfl rfl)
theorem dX4_greatens_76 : decode cX4_greatens 76 = .ok (.imul, 1) := dk_104 (dk_at dksX4_greatens_3 5 rfl rfl)
theorem dX4_greatens_77 : decode cX4_greatens 77 = .ok (.iload_n 2, 1) := dk_28 (dk_at dksX4_greatens_3 6 rfl rfl)
theorem dX4_greatens_78 : decode cX4_greatens 78 = .ok (.iadd, 1) := dk_96 (dk_at dksX4_greatens_3 7 rfl rfl)
theorem dX4_greatens_79 : decode cX4_greatens 79 = .ok (.iaload, 1) := dk_46 (dk_at dksX4_greatens_3 8 rfl rfl)
theorem dX4_greatens_80 : decode cX4_greatens 80 = .ok (.aload_n 0, 1) := dk_42 (dk_at dksX4_greatens_3 9 rfl rfl)
theorem dX4_greatens_81 : decode cX4_greatens 81 = .ok (.getfield 38, 3) := dk_180 0 38 (dk_at dksX4_greatens_3 10 rfl rfl)
theorem dX4_greatens_84 : decode cX4_greatens 84 = .ok (.iconst 4, 1) := dk_7 (dk_at dksX4_greatens_3 13 rfl rfl)
theorem dX4_greatens_85 : decode cX4_greatens 85 = .ok (.iload_n 1, 1) := dk_27 (dk_at dksX4_greatens_3 14 rfl rfl)
theorem dX4_greatens_86 : decode cX4_greatens 86 = .ok (.bipush 8, 2) := dk_16 8 (dk_at dksX4_greatens_3 15 rfl rfl)
theorem dX4_greatens_88 : decode cX4_greatens 88 = .ok (.isub, 1) := dk_100 (dk_at dksX4_greatens_3 17 rfl rfl)
theorem dX4_greatens_89 : decode cX4_greatens 89 = .ok (.imul, 1) := dk_104 (dk_at dksX4_greatens_3 18 rfl rfl)
theorem dX4_greatens_90 : decode cX4_greatens 90 = .ok (.iload_n 2, 1) := dk_28 (dk_at dksX4_greatens_3 19 rfl rfl)
theorem dX4_greatens_91 : decode cX4_greatens 91 = .ok (.iadd, 1) := dk_96 (dk_at dksX4_greatens_3 20 rfl rfl)
theorem dX4_greatens_92 : decode cX4_greatens 92 = .ok (.iaload, 1) := dk_46 (dk_at dksX4_greatens_3 21 rfl rfl)
theorem dX4_greatens_93 : decode cX4_greatens 93 = .ok (.invokevirtual 267, 3) := dk_182 1 11 (dk_at dksX4_greatens_4 0 rfl rfl)
theorem dX4_greatens_96 : decode cX4_greatens 96 = .ok (.iinc 2 1, 3) := dk_132 2 1 (dk_at dksX4_greatens_4 3 rfl rfl)
theorem dX4_greatens_99 : decode cX4_greatens 99 = .ok (.goto (-46), 3) := dk_167 255 210 (dk_at dksX4_greatens_4 6 rfl rfl)
theorem dX4_greatens_102 : decode cX4_greatens 102 = .ok (.return_, 1) := dk_177 (dk_at dksX4_greatens_4 9 rfl rfl)
def dkwX4_grows_0 : List UInt8 := [28, 42, 180, 0, 41, 27, 4, 96, 46, 164, 0, 12, 42, 180, 0, 41, 27, 4, 96, 28, 79, 177]
abbrev dktX4_grows_0 : List UInt8 := dkwX4_grows_0 ++ []
theorem dksX4_grows_0 : cX4_grows.data.toList.drop 0 = dktX4_grows_0 := by decide +kernel
theorem dX4_grows_0 : decode cX4_grows 0 = .ok (.iload_n 2, 1) := dk_28 (dk_at dksX4_grows_0 0 rfl rfl)
theorem dX4_grows_1 : decode cX4_grows 1 = .ok (.aload_n 0, 1) := dk_42 (dk_at dksX4_grows_0 1 rfl rfl)
theorem dX4_grows_2 : decode cX4_grows 2 = .ok (.getfield 41, 3) := dk_180 0 41 (dk_at dksX4_grows_0 2 rfl rfl)
theorem dX4_grows_5 : decode cX4_grows 5 = .ok (.iload_n 1, 1) := dk_27 (dk_at dksX4_grows_0 5 rfl rfl)
theorem dX4_grows_6 : decode cX4_grows 6 = .ok (.iconst 1, 1) := dk_4 (dk_at dksX4_grows_0 6 rfl rfl)
theorem dX4_grows_7 : decode cX4_grows 7 = .ok (.iadd, 1) := dk_96 (dk_at dksX4_grows_0 7 rfl rfl)
theorem dX4_grows_8 : decode cX4_grows 8 = .ok (.iaload, 1) := dk_46 (dk_at dksX4_grows_0 8 rfl rfl)
theorem dX4_grows_9 : decode cX4_grows 9 = .ok (.if_icmp .le 12, 3) := dk_164 0 12 (dk_at dksX4_grows_0 9 rfl rfl)
theorem dX4_grows_12 : decode cX4_grows 12 = .ok (.aload_n 0, 1) := dk_42 (dk_at dksX4_grows_0 12 rfl rfl)
theorem dX4_grows_13 : decode cX4_grows 13 = .ok (.getfield 41, 3) := dk_180 0 41 (dk_at dksX4_grows_0 13 rfl rfl)
theorem dX4_grows_16 : decode cX4_grows 16 = .ok (.iload_n 1, 1) := dk_27 (dk_at dksX4_grows_0 16 rfl rfl)
theorem dX4_grows_17 : decode cX4_grows 17 = .ok (.iconst 1, 1) := dk_4 (dk_at dksX4_grows_0 17 rfl rfl)
theorem dX4_grows_18 : decode cX4_grows 18 = .ok (.iadd, 1) := dk_96 (dk_at dksX4_grows_0 18 rfl rfl)
theorem dX4_grows_19 : decode cX4_grows 19 = .ok (.iload_n 2, 1) := dk_28 (dk_at dksX4_grows_0 19 rfl rfl)
theorem dX4_grows_20 : decode cX4_grows 20 = .ok (.iastore, 1) := dk_79 (dk_at dksX4_grows_0 20 rfl rfl)
theorem dX4_grows_21 : decode cX4_grows 21 = .ok (.return_, 1) := dk_177 (dk_at dksX4_grows_0 21 rfl rfl)
def dkwX4_explores_6 : List UInt8 := [182, 1, 146, 132, 2, 1, 167, 255, 168, 132, 1, 1, 167, 255, 152, 177]
abbrev dktX4_explores_6 : List UInt8 := dkwX4_explores_6 ++ []
def dkwX4_explores_5 : List UInt8 := [167, 0, 25, 42, 180, 1, 118, 16, 60, 160, 0, 4, 177, 42, 42, 180, 0, 29, 28, 46, 27, 28]
abbrev dktX4_explores_5 : List UInt8 := dkwX4_explores_5 ++ dktX4_explores_6
def dkwX4_explores_4 : List UInt8 := [182, 1, 115, 42, 180, 1, 33, 154, 0, 41, 42, 42, 180, 0, 29, 28, 46, 182, 1, 149, 153, 0, 6]
abbrev dktX4_explores_4 : List UInt8 := dkwX4_explores_4 ++ dktX4_explores_5
def dkwX4_explores_3 : List UInt8 := [180, 0, 50, 27, 46, 159, 0, 6, 167, 0, 62, 42, 27, 182, 1, 121, 42, 28, 182, 1, 106, 42]
abbrev dktX4_explores_3 : List UInt8 := dkwX4_explores_3 ++ dktX4_explores_4
def dkwX4_explores_2 : List UInt8 := [180, 1, 118, 162, 0, 102, 3, 61, 28, 42, 180, 0, 248, 162, 0, 86, 42, 180, 0, 26, 28, 46, 42]
abbrev dktX4_explores_2 : List UInt8 := dkwX4_explores_2 ++ dktX4_explores_3
def dkwX4_explores_1 : List UInt8 := [180, 1, 33, 153, 0, 4, 177, 42, 42, 180, 0, 251, 16, 254, 16, 254, 182, 1, 146, 3, 60, 27, 42]
abbrev dktX4_explores_1 : List UInt8 := dkwX4_explores_1 ++ dktX4_explores_2
def dkwX4_explores_0 : List UInt8 := [42, 3, 181, 1, 118, 42, 182, 0, 126, 42, 42, 180, 0, 251, 182, 1, 56, 42, 182, 1, 115, 42]
abbrev dktX4_explores_0 : List UInt8 := dkwX4_explores_0 ++ dktX4_explores_1
theorem dksX4_explores_0 : cX4_explores.data.toList.drop 0 = dktX4_explores_0 := by decide +kernel
theorem dksX4_explores_1 : cX4_explores.data.toList.drop 22 = dktX4_explores_1 := dk_seg dksX4_explores_0 22 rfl rfl
theorem dksX4_explores_2 : cX4_explores.data.toList.drop 45 = dktX4_explores_2 := dk_seg dksX4_explores_1 23 rfl rfl
theorem dksX4_explores_3 : cX4_explores.data.toList.drop 68 = dktX4_explores_3 := dk_seg dksX4_explores_2 23 rfl rfl
theorem dksX4_explores_4 : cX4_explores.data.toList.drop 90 = dktX4_explores_4 := dk_seg dksX4_explores_3 22 rfl rfl
theorem dksX4_explores_5 : cX4_explores.data.toList.drop 113 = dktX4_explores_5 := dk_seg dksX4_explores_4 23 rfl rfl
theorem dksX4_explores_6 : cX4_explores.data.toList.drop 135 = dktX4_explores_6 := dk_seg dksX4_explores_5 22 rfl rfl
theorem dX4_explores_0 : decode cX4_explores 0 = .ok (.aload_n 0, 1) := dk_42 (dk_at dksX4_explores_0 0 rfl rfl)
theorem dX4_explores_1 : decode cX4_explores 1 = .ok (.iconst 0, 1) := dk_3 (dk_at dksX4_explores_0 1 rfl rfl)
theorem dX4_explores_2 : decode cX4_explores 2 = .ok (.putfield 374, 3) := dk_181 1 118 (dk_at dksX4_explores_0 2 rfl rfl)
theorem dX4_explores_5 : decode cX4_explores 5 = .ok (.aload_n 0, 1) := dk_42 (dk_at dksX4_explores_0 5 rfl rfl)
theorem dX4_explores_6 : decode cX4_explores 6 = .ok (.invokevirtual 126, 3) := dk_182 0 126 (dk_at dksX4_explores_0 6 rfl rfl)
theorem dX4_explores_9 : decode cX4_explores 9 = .ok (.aload_n 0, 1) := dk_42 (dk_at dksX4_explores_0 9 rfl rfl)
theorem dX4_explores_10 : decode cX4_explores 10 = .ok (.aload_n 0, 1) := dk_42 (dk_at dksX4_explores_0 10 rfl rfl)
theorem dX4_explores_11 : decode cX4_explores 11 = .ok (.getfield 251, 3) := dk_180 0 251 (dk_at dksX4_explores_0 11 rfl rfl)
theorem dX4_explores_14 : decode cX4_explores 14 = .ok (.invokevirtual 312, 3) := dk_182 1 56 (dk_at dksX4_explores_0 14 rfl rfl)
theorem dX4_explores_17 : decode cX4_explores 17 = .ok (.aload_n 0, 1) := dk_42 (dk_at dksX4_explores_0 17 rfl rfl)
theorem dX4_explores_18 : decode cX4_explores 18 = .ok (.invokevirtual 371, 3) := dk_182 1 115 (dk_at dksX4_explores_0 18 rfl rfl)
theorem dX4_explores_21 : decode cX4_explores 21 = .ok (.aload_n 0, 1) := dk_42 (dk_at dksX4_explores_0 21 rfl rfl)
theorem dX4_explores_22 : decode cX4_explores 22 = .ok (.getfield 289, 3) := dk_180 1 33 (dk_at dksX4_explores_1 0 rfl rfl)
theorem dX4_explores_25 : decode cX4_explores 25 = .ok (.ifCond .eq 4, 3) := dk_153 0 4 (dk_at dksX4_explores_1 3 rfl rfl)
theorem dX4_explores_28 : decode cX4_explores 28 = .ok (.return_, 1) := dk_177 (dk_at dksX4_explores_1 6 rfl rfl)
theorem dX4_explores_29 : decode cX4_explores 29 = .ok (.aload_n 0, 1) := dk_42 (dk_at dksX4_explores_1 7 rfl rfl)
theorem dX4_explores_30 : decode cX4_explores 30 = .ok (.aload_n 0, 1) := dk_42 (dk_at dksX4_explores_1 8 rfl rfl)
theorem dX4_explores_31 : decode cX4_explores 31 = .ok (.getfield 251, 3) := dk_180 0 251 (dk_at dksX4_explores_1 9 rfl rfl)
theorem dX4_explores_34 : decode cX4_explores 34 = .ok (.bipush (-2), 2) := dk_16 254 (dk_at dksX4_explores_1 12 rfl rfl)
theorem dX4_explores_36 : decode cX4_explores 36 = .ok (.bipush (-2), 2) := dk_16 254 (dk_at dksX4_explores_1 14 rfl rfl)
theorem dX4_explores_38 : decode cX4_explores 38 = .ok (.invokevirtual 402, 3) := dk_182 1 146 (dk_at dksX4_explores_1 16 rfl rfl)
theorem dX4_explores_41 : decode cX4_explores 41 = .ok (.iconst 0, 1) := dk_3 (dk_at dksX4_explores_1 19 rfl rfl)
theorem dX4_explores_42 : decode cX4_explores 42 = .ok (.istore_n 1, 1) := dk_60 (dk_at dksX4_explores_1 20 rfl rfl)
theorem dX4_explores_43 : decode cX4_explores 43 = .ok (.iload_n 1, 1) := dk_27 (dk_at dksX4_explores_1 21 rfl rfl)
theorem dX4_explores_44 : decode cX4_explores 44 = .ok (.aload_n 0, 1) := dk_42 (dk_at dksX4_explores_1 22 rfl rfl)
theorem dX4_explores_45 : decode cX4_explores 45 = .ok (.getfield 374, 3) := dk_180 1 118 (dk_at dksX4_explores_2 0 rfl rfl)
theorem dX4_explores_48 : decode cX4_explores 48 = .ok (.if_icmp .ge 102, 3) := dk_162 0 102 (dk_at dksX4_explores_2 3 rfl rfl)
theorem dX4_explores_51 : decode cX4_explores 51 = .ok (.iconst 0, 1) := dk_3 (dk_at dksX4_explores_2 6 rfl rfl)
theorem dX4_explores_52 : decode cX4_explores 52 = .ok (.istore_n 2, 1) := dk_61 (dk_at dksX4_explores_2 7 rfl rfl)
theorem dX4_explores_53 : decode cX4_explores 53 = .ok (.iload_n 2, 1) := dk_28 (dk_at dksX4_explores_2 8 rfl rfl)
theorem dX4_explores_54 : decode cX4_explores 54 = .ok (.aload_n 0, 1) := dk_42 (dk_at dksX4_explores_2 9 rfl rfl)
theorem dX4_explores_55 : decode cX4_explores 55 = .ok (.getfield 248, 3) := dk_180 0 248 (dk_at dksX4_explores_2 10 rfl rfl)
theorem dX4_explores_58 : decode cX4_explores 58 = .ok (.if_icmp .ge 86, 3) := dk_162 0 86 (dk_at dksX4_explores_2 13 rfl rfl)
theorem dX4_explores_61 : decode cX4_explores 61 = .ok (.aload_n 0, 1) := dk_42 (dk_at dksX4_explores_2 16 rfl rfl)
theorem dX4_explores_62 : decode cX4_explores 62 = .ok (.getfield 26, 3) := dk_180 0 26 (dk_at dksX4_explores_2 17 rfl rfl)
theorem dX4_explores_65 : decode cX4_explores 65 = .ok (.iload_n 2, 1) := dk_28 (dk_at dksX4_explores_2 20 rfl rfl)
theorem dX4_explores_66 : decode cX4_explores 66 = .ok (.iaload, 1) := dk_46 (dk_at dksX4_explores_2 21 rfl rfl)
theorem dX4_explores_67 : decode cX4_explores 67 = .ok (.aload_n 0, 1) := dk_42 (dk_at dksX4_explores_2 22 rfl rfl)
theorem dX4_explores_68 : decode cX4_explores 68 = .ok (.getfield 50, 3) := dk_180 0 50 (dk_at dksX4_explores_3 0 rfl rfl)
theorem dX4_explores_71 : decode cX4_explores 71 = .ok (.iload_n 1, 1) := dk_27 (dk_at dksX4_explores_3 3 rfl rfl)
theorem dX4_explores_72 : decode cX4_explores 72 = .ok (.iaload, 1) := dk_46 (dk_at dksX4_explores_3 4 rfl rfl)
theorem dX4_explores_73 : decode cX4_explores 73 = .ok (.if_icmp .eq 6, 3) := dk_159 0 6 (dk_at dksX4_explores_3 5 rfl rfl)
theorem dX4_explores_76 : decode cX4_explores 76 = .ok (.goto 62, 3) := dk_167 0 62 (dk_at dksX4_explores_3 8 rfl rfl)
theorem dX4_explores_79 : decode cX4_explores 79 = .ok (.aload_n 0, 1) := dk_42 (dk_at dksX4_explores_3 11 rfl rfl)
theorem dX4_explores_80 : decode cX4_explores 80 = .ok (.iload_n 1, 1) := dk_27 (dk_at dksX4_explores_3 12 rfl rfl)
theorem dX4_explores_81 : decode cX4_explores 81 = .ok (.invokevirtual 377, 3) := dk_182 1 121 (dk_at dksX4_explores_3 13 rfl rfl)
theorem dX4_explores_84 : decode cX4_explores 84 = .ok (.aload_n 0, 1) := dk_42 (dk_at dksX4_explores_3 16 rfl rfl)
theorem dX4_explores_85 : decode cX4_explores 85 = .ok (.iload_n 2, 1) := dk_28 (dk_at dksX4_explores_3 17 rfl rfl)
theorem dX4_explores_86 : decode cX4_explores 86 = .ok (.invokevirtual 362, 3) := dk_182 1 106 (dk_at dksX4_explores_3 18 rfl rfl)
theorem dX4_explores_89 : decode cX4_explores 89 = .ok (.aload_n 0, 1) := dk_42 (dk_at dksX4_explores_3 21 rfl rfl)
theorem dX4_explores_90 : decode cX4_explores 90 = .ok (.invokevirtual 371, 3) := dk_182 1 115 (dk_at dksX4_explores_4 0 rfl rfl)
theorem dX4_explores_93 : decode cX4_explores 93 = .ok (.aload_n 0, 1) := dk_42 (dk_at dksX4_explores_4 3 rfl rfl)
theorem dX4_explores_94 : decode cX4_explores 94 = .ok (.getfield 289, 3) := dk_180 1 33 (dk_at dksX4_explores_4 4 rfl rfl)
theorem dX4_explores_97 : decode cX4_explores 97 = .ok (.ifCond .ne 41, 3) := dk_154 0 41 (dk_at dksX4_explores_4 7 rfl rfl)
theorem dX4_explores_100 : decode cX4_explores 100 = .ok (.aload_n 0, 1) := dk_42 (dk_at dksX4_explores_4 10 rfl rfl)
theorem dX4_explores_101 : decode cX4_explores 101 = .ok (.aload_n 0, 1) := dk_42 (dk_at dksX4_explores_4 11 rfl rfl)
theorem dX4_explores_102 : decode cX4_explores 102 = .ok (.getfield 29, 3) := dk_180 0 29 (dk_at dksX4_explores_4 12 rfl rfl)
theorem dX4_explores_105 : decode cX4_explores 105 = .ok (.iload_n 2, 1) := dk_28 (dk_at dksX4_explores_4 15 rfl rfl)
theorem dX4_explores_106 : decode cX4_explores 106 = .ok (.iaload, 1) := dk_46 (dk_at dksX4_explores_4 16 rfl rfl)
theorem dX4_explores_107 : decode cX4_explores 107 = .ok (.invokevirtual 405, 3) := dk_182 1 149 (dk_at dksX4_explores_4 17 rfl rfl)
theorem dX4_explores_110 : decode cX4_explores 110 = .ok (.ifCond .eq 6, 3) := dk_153 0 6 (dk_at dksX4_explores_4 20 rfl rfl)
theorem dX4_explores_113 : decode cX4_explores 113 = .ok (.goto 25, 3) := dk_167 0 25 (dk_at dksX4_explores_5 0 rfl rfl)
theorem dX4_explores_116 : decode cX4_explores 116 = .ok (.aload_n 0, 1) := dk_42 (dk_at dksX4_explores_5 3 rfl rfl)
theorem dX4_explores_117 : decode cX4_explores 117 = .ok (.getfield 374, 3) := dk_180 1 118 (dk_at dksX4_explores_5 4 rfl rfl)
theorem dX4_explores_120 : decode cX4_explores 120 = .ok (.bipush 60, 2) := dk_16 60 (dk_at dksX4_explores_5 7 rfl rfl)
theorem dX4_explores_122 : decode cX4_explores 122 = .ok (.if_icmp .ne 4, 3) := dk_160 0 4 (dk_at dksX4_explores_5 9 rfl rfl)
theorem dX4_explores_125 : decode cX4_explores 125 = .ok (.return_, 1) := dk_177 (dk_at dksX4_explores_5 12 rfl rfl)
theorem dX4_explores_126 : decode cX4_explores 126 = .ok (.aload_n 0, 1) := dk_42 (dk_at dksX4_explores_5 13 rfl rfl)
theorem dX4_explores_127 : decode cX4_explores 127 = .ok (.aload_n 0, 1) := dk_42 (dk_at dksX4_explores_5 14 rfl rfl)
theorem dX4_explores_128 : decode cX4_explores 128 = .ok (.getfield 29, 3) := dk_180 0 29 (dk_at dksX4_explores_5 15 rfl rfl)
theorem dX4_explores_131 : decode cX4_explores 131 = .ok (.iload_n 2, 1) := dk_28 (dk_at dksX4_explores_5 18 rfl rfl)
theorem dX4_explores_132 : decode cX4_explores 132 = .ok (.iaload, 1) := dk_46 (dk_at dksX4_explores_5 19 rfl rfl)
theorem dX4_explores_133 : decode cX4_explores 133 = .ok (.iload_n 1, 1) := dk_27 (dk_at dksX4_explores_5 20 rfl rfl)
theorem dX4_explores_134 : decode cX4_explores 134 = .ok (.iload_n 2, 1) := dk_28 (dk_at dksX4_explores_5 21 rfl rfl)
theorem dX4_explores_135 : decode cX4_explores 135 = .ok (.invokevirtual 402, 3) := dk_182 1 146 (dk_at dksX4_explores_6 0 rfl rfl)
theorem dX4_explores_138 : decode cX4_explores 138 = .ok (.iinc 2 1, 3) := dk_132 2 1 (dk_at dksX4_explores_6 3 rfl rfl)
theorem dX4_explores_141 : decode cX4_explores 141 = .ok (.goto (-88), 3) := dk_167 255 168 (dk_at dksX4_explores_6 6 rfl rfl)
theorem dX4_explores_144 : decode cX4_explores 144 = .ok (.iinc 1 1, 3) := dk_132 1 1 (dk_at dksX4_explores_6 9 rfl rfl)
theorem dX4_explores_147 : decode cX4_explores 147 = .ok (.goto (-104), 3) := dk_167 255 152 (dk_at dksX4_explores_6 12 rfl rfl)
theorem dX4_explores_150 : decode cX4_explores 150 = .ok (.return_, 1) := dk_177 (dk_at dksX4_explores_6 15 rfl rfl)
def dkwX4_stays_0 : List UInt8 := [42, 27, 182, 1, 47, 42, 182, 1, 50, 42, 27, 182, 1, 47, 177]
abbrev dktX4_stays_0 : List UInt8 := dkwX4_stays_0 ++ []
theorem dksX4_stays_0 : cX4_stays.data.toList.drop 0 = dktX4_stays_0 := by decide +kernel
theorem dX4_stays_0 : decode cX4_stays 0 = .ok (.aload_n 0, 1) := dk_42 (dk_at dksX4_stays_0 0 rfl rfl)
theorem dX4_stays_1 : decode cX4_stays 1 = .ok (.iload_n 1, 1) := dk_27 (dk_at dksX4_stays_0 1 rfl rfl)
theorem dX4_stays_2 : decode cX4_stays 2 = .ok (.invokevirtual 303, 3) := dk_182 1 47 (dk_at dksX4_stays_0 2 rfl rfl)
theorem dX4_stays_5 : decode cX4_stays 5 = .ok (.aload_n 0, 1) := dk_42 (dk_at dksX4_stays_0 5 rfl rfl)
theorem dX4_stays_6 : decode cX4_stays 6 = .ok (.invokevirtual 306, 3) := dk_182 1 50 (dk_at dksX4_stays_0 6 rfl rfl)
theorem dX4_stays_9 : decode cX4_stays 9 = .ok (.aload_n 0, 1) := dk_42 (dk_at dksX4_stays_0 9 rfl rfl)
theorem dX4_stays_10 : decode cX4_stays 10 = .ok (.iload_n 1, 1) := dk_27 (dk_at dksX4_stays_0 10 rfl rfl)
theorem dX4_stays_11 : decode cX4_stays 11 = .ok (.invokevirtual 303, 3) := dk_182 1 47 (dk_at dksX4_stays_0 11 rfl rfl)
theorem dX4_stays_14 : decode cX4_stays 14 = .ok (.return_, 1) := dk_177 (dk_at dksX4_stays_0 14 rfl rfl)
def dkwX4_whens_2 : List UInt8 := [132, 2, 1, 167, 255, 213, 42, 182, 1, 44, 177]
abbrev dktX4_whens_2 : List UInt8 := dkwX4_whens_2 ++ []
def dkwX4_whens_1 : List UInt8 := [180, 0, 17, 28, 46, 4, 96, 3, 42, 180, 0, 20, 28, 46, 42, 180, 0, 23, 28, 46, 182, 1, 40]
abbrev dktX4_whens_1 : List UInt8 := dkwX4_whens_1 ++ dktX4_whens_2
def dkwX4_whens_0 : List UInt8 := [16, 6, 27, 104, 61, 28, 16, 6, 27, 104, 42, 180, 0, 13, 27, 46, 96, 162, 0, 34, 42, 42]
abbrev dktX4_whens_0 : List UInt8 := dkwX4_whens_0 ++ dktX4_whens_1
theorem dksX4_whens_0 : cX4_whens.data.toList.drop 0 = dktX4_whens_0 := by decide +kernel
theorem dksX4_whens_1 : cX4_whens.data.toList.drop 22 = dktX4_whens_1 := dk_seg dksX4_whens_0 22 rfl rfl
theorem dksX4_whens_2 : cX4_whens.data.toList.drop 45 = dktX4_whens_2 := dk_seg dksX4_whens_1 23 rfl rfl
theorem dX4_whens_0 : decode cX4_whens 0 = .ok (.bipush 6, 2) := dk_16 6 (dk_at dksX4_whens_0 0 rfl rfl)
theorem dX4_whens_2 : decode cX4_whens 2 = .ok (.iload_n 1, 1) := dk_27 (dk_at dksX4_whens_0 2 rfl rfl)
theorem dX4_whens_3 : decode cX4_whens 3 = .ok (.imul, 1) := dk_104 (dk_at dksX4_whens_0 3 rfl rfl)
theorem dX4_whens_4 : decode cX4_whens 4 = .ok (.istore_n 2, 1) := dk_61 (dk_at dksX4_whens_0 4 rfl rfl)
theorem dX4_whens_5 : decode cX4_whens 5 = .ok (.iload_n 2, 1) := dk_28 (dk_at dksX4_whens_0 5 rfl rfl)
theorem dX4_whens_6 : decode cX4_whens 6 = .ok (.bipush 6, 2) := dk_16 6 (dk_at dksX4_whens_0 6 rfl rfl)
theorem dX4_whens_8 : decode cX4_whens 8 = .ok (.iload_n 1, 1) := dk_27 (dk_at dksX4_whens_0 8 rfl rfl)
theorem dX4_whens_9 : decode cX4_whens 9 = .ok (.imul, 1) := dk_104 (dk_at dksX4_whens_0 9 rfl rfl)
theorem dX4_whens_10 : decode cX4_whens 10 = .ok (.aload_n 0, 1) := dk_42 (dk_at dksX4_whens_0 10 rfl rfl)
theorem dX4_whens_11 : decode cX4_whens 11 = .ok (.getfield 13, 3) := dk_180 0 13 (dk_at dksX4_whens_0 11 rfl rfl)
theorem dX4_whens_14 : decode cX4_whens 14 = .ok (.iload_n 1, 1) := dk_27 (dk_at dksX4_whens_0 14 rfl rfl)
theorem dX4_whens_15 : decode cX4_whens 15 = .ok (.iaload, 1) := dk_46 (dk_at dksX4_whens_0 15 rfl rfl)
theorem dX4_whens_16 : decode cX4_whens 16 = .ok (.iadd, 1) := dk_96 (dk_at dksX4_whens_0 16 rfl rfl)
theorem dX4_whens_17 : decode cX4_whens 17 = .ok (.if_icmp .ge 34, 3) := dk_162 0 34 (dk_at dksX4_whens_0 17 rfl rfl)
theorem dX4_whens_20 : decode cX4_whens 20 = .ok (.aload_n 0, 1) := dk_42 (dk_at dksX4_whens_0 20 rfl rfl)
theorem dX4_whens_21 : decode cX4_whens 21 = .ok (.aload_n 0, 1) := dk_42 (dk_at dksX4_whens_0 21 rfl rfl)
theorem dX4_whens_22 : decode cX4_whens 22 = .ok (.getfield 17, 3) := dk_180 0 17 (dk_at dksX4_whens_1 0 rfl rfl)
theorem dX4_whens_25 : decode cX4_whens 25 = .ok (.iload_n 2, 1) := dk_28 (dk_at dksX4_whens_1 3 rfl rfl)
theorem dX4_whens_26 : decode cX4_whens 26 = .ok (.iaload, 1) := dk_46 (dk_at dksX4_whens_1 4 rfl rfl)
theorem dX4_whens_27 : decode cX4_whens 27 = .ok (.iconst 1, 1) := dk_4 (dk_at dksX4_whens_1 5 rfl rfl)
theorem dX4_whens_28 : decode cX4_whens 28 = .ok (.iadd, 1) := dk_96 (dk_at dksX4_whens_1 6 rfl rfl)
theorem dX4_whens_29 : decode cX4_whens 29 = .ok (.iconst 0, 1) := dk_3 (dk_at dksX4_whens_1 7 rfl rfl)
theorem dX4_whens_30 : decode cX4_whens 30 = .ok (.aload_n 0, 1) := dk_42 (dk_at dksX4_whens_1 8 rfl rfl)
theorem dX4_whens_31 : decode cX4_whens 31 = .ok (.getfield 20, 3) := dk_180 0 20 (dk_at dksX4_whens_1 9 rfl rfl)
theorem dX4_whens_34 : decode cX4_whens 34 = .ok (.iload_n 2, 1) := dk_28 (dk_at dksX4_whens_1 12 rfl rfl)
theorem dX4_whens_35 : decode cX4_whens 35 = .ok (.iaload, 1) := dk_46 (dk_at dksX4_whens_1 13 rfl rfl)
theorem dX4_whens_36 : decode cX4_whens 36 = .ok (.aload_n 0, 1) := dk_42 (dk_at dksX4_whens_1 14 rfl rfl)
theorem dX4_whens_37 : decode cX4_whens 37 = .ok (.getfield 23, 3) := dk_180 0 23 (dk_at dksX4_whens_1 15 rfl rfl)
theorem dX4_whens_40 : decode cX4_whens 40 = .ok (.iload_n 2, 1) := dk_28 (dk_at dksX4_whens_1 18 rfl rfl)
theorem dX4_whens_41 : decode cX4_whens 41 = .ok (.iaload, 1) := dk_46 (dk_at dksX4_whens_1 19 rfl rfl)
theorem dX4_whens_42 : decode cX4_whens 42 = .ok (.invokevirtual 296, 3) := dk_182 1 40 (dk_at dksX4_whens_1 20 rfl rfl)
theorem dX4_whens_45 : decode cX4_whens 45 = .ok (.iinc 2 1, 3) := dk_132 2 1 (dk_at dksX4_whens_2 0 rfl rfl)
theorem dX4_whens_48 : decode cX4_whens 48 = .ok (.goto (-43), 3) := dk_167 255 213 (dk_at dksX4_whens_2 3 rfl rfl)
theorem dX4_whens_51 : decode cX4_whens 51 = .ok (.aload_n 0, 1) := dk_42 (dk_at dksX4_whens_2 6 rfl rfl)
theorem dX4_whens_52 : decode cX4_whens 52 = .ok (.invokevirtual 300, 3) := dk_182 1 44 (dk_at dksX4_whens_2 7 rfl rfl)
theorem dX4_whens_55 : decode cX4_whens 55 = .ok (.return_, 1) := dk_177 (dk_at dksX4_whens_2 10 rfl rfl)
def dkwX4_meets_2 : List UInt8 := [21, 4, 116, 184, 1, 36, 182, 1, 30, 177]
abbrev dktX4_meets_2 : List UInt8 := dkwX4_meets_2 ++ []
def dkwX4_meets_1 : List UInt8 := [182, 1, 30, 29, 5, 161, 0, 28, 42, 28, 27, 29, 7, 160, 0, 11, 16, 254, 21, 4, 104, 167, 0, 9]
abbrev dktX4_meets_1 : List UInt8 := dkwX4_meets_1 ++ dktX4_meets_2
def dkwX4_meets_0 : List UInt8 := [29, 5, 163, 0, 25, 42, 27, 28, 29, 154, 0, 10, 5, 21, 4, 104, 167, 0, 8, 21, 4, 184, 1, 36]
abbrev dktX4_meets_0 : List UInt8 := dkwX4_meets_0 ++ dktX4_meets_1
theorem dksX4_meets_0 : cX4_meets.data.toList.drop 0 = dktX4_meets_0 := by decide +kernel
theorem dksX4_meets_1 : cX4_meets.data.toList.drop 24 = dktX4_meets_1 := dk_seg dksX4_meets_0 24 rfl rfl
theorem dksX4_meets_2 : cX4_meets.data.toList.drop 48 = dktX4_meets_2 := dk_seg dksX4_meets_1 24 rfl rfl
theorem dX4_meets_0 : decode cX4_meets 0 = .ok (.iload_n 3, 1) := dk_29 (dk_at dksX4_meets_0 0 rfl rfl)
theorem dX4_meets_1 : decode cX4_meets 1 = .ok (.iconst 2, 1) := dk_5 (dk_at dksX4_meets_0 1 rfl rfl)
theorem dX4_meets_2 : decode cX4_meets 2 = .ok (.if_icmp .gt 25, 3) := dk_163 0 25 (dk_at dksX4_meets_0 2 rfl rfl)
theorem dX4_meets_5 : decode cX4_meets 5 = .ok (.aload_n 0, 1) := dk_42 (dk_at dksX4_meets_0 5 rfl rfl)
theorem dX4_meets_6 : decode cX4_meets 6 = .ok (.iload_n 1, 1) := dk_27 (dk_at dksX4_meets_0 6 rfl rfl)
theorem dX4_meets_7 : decode cX4_meets 7 = .ok (.iload_n 2, 1) := dk_28 (dk_at dksX4_meets_0 7 rfl rfl)
theorem dX4_meets_8 : decode cX4_meets 8 = .ok (.iload_n 3, 1) := dk_29 (dk_at dksX4_meets_0 8 rfl rfl)
theorem dX4_meets_9 : decode cX4_meets 9 = .ok (.ifCond .ne 10, 3) := dk_154 0 10 (dk_at dksX4_meets_0 9 rfl rfl)
theorem dX4_meets_12 : decode cX4_meets 12 = .ok (.iconst 2, 1) := dk_5 (dk_at dksX4_meets_0 12 rfl rfl)
theorem dX4_meets_13 : decode cX4_meets 13 = .ok (.iload 4, 2) := dk_21 4 (dk_at dksX4_meets_0 13 rfl rfl)
theorem dX4_meets_15 : decode cX4_meets 15 = .ok (.imul, 1) := dk_104 (dk_at dksX4_meets_0 15 rfl rfl)
theorem dX4_meets_16 : decode cX4_meets 16 = .ok (.goto 8, 3) := dk_167 0 8 (dk_at dksX4_meets_0 16 rfl rfl)
theorem dX4_meets_19 : decode cX4_meets 19 = .ok (.iload 4, 2) := dk_21 4 (dk_at dksX4_meets_0 19 rfl rfl)
theorem dX4_meets_21 : decode cX4_meets 21 = .ok (.invokestatic 292, 3) := dk_184 1 36 (dk_at dksX4_meets_0 21 rfl rfl)
theorem dX4_meets_24 : decode cX4_meets 24 = .ok (.invokevirtual 286, 3) := dk_182 1 30 (dk_at dksX4_meets_1 0 rfl rfl)
theorem dX4_meets_27 : decode cX4_meets 27 = .ok (.iload_n 3, 1) := dk_29 (dk_at dksX4_meets_1 3 rfl rfl)
theorem dX4_meets_28 : decode cX4_meets 28 = .ok (.iconst 2, 1) := dk_5 (dk_at dksX4_meets_1 4 rfl rfl)
theorem dX4_meets_29 : decode cX4_meets 29 = .ok (.if_icmp .lt 28, 3) := dk_161 0 28 (dk_at dksX4_meets_1 5 rfl rfl)
theorem dX4_meets_32 : decode cX4_meets 32 = .ok (.aload_n 0, 1) := dk_42 (dk_at dksX4_meets_1 8 rfl rfl)
theorem dX4_meets_33 : decode cX4_meets 33 = .ok (.iload_n 2, 1) := dk_28 (dk_at dksX4_meets_1 9 rfl rfl)
theorem dX4_meets_34 : decode cX4_meets 34 = .ok (.iload_n 1, 1) := dk_27 (dk_at dksX4_meets_1 10 rfl rfl)
theorem dX4_meets_35 : decode cX4_meets 35 = .ok (.iload_n 3, 1) := dk_29 (dk_at dksX4_meets_1 11 rfl rfl)
theorem dX4_meets_36 : decode cX4_meets 36 = .ok (.iconst 4, 1) := dk_7 (dk_at dksX4_meets_1 12 rfl rfl)
theorem dX4_meets_37 : decode cX4_meets 37 = .ok (.if_icmp .ne 11, 3) := dk_160 0 11 (dk_at dksX4_meets_1 13 rfl rfl)
theorem dX4_meets_40 : decode cX4_meets 40 = .ok (.bipush (-2), 2) := dk_16 254 (dk_at dksX4_meets_1 16 rfl rfl)
theorem dX4_meets_42 : decode cX4_meets 42 = .ok (.iload 4, 2) := dk_21 4 (dk_at dksX4_meets_1 18 rfl rfl)
theorem dX4_meets_44 : decode cX4_meets 44 = .ok (.imul, 1) := dk_104 (dk_at dksX4_meets_1 20 rfl rfl)
theorem dX4_meets_45 : decode cX4_meets 45 = .ok (.goto 9, 3) := dk_167 0 9 (dk_at dksX4_meets_1 21 rfl rfl)
theorem dX4_meets_48 : decode cX4_meets 48 = .ok (.iload 4, 2) := dk_21 4 (dk_at dksX4_meets_2 0 rfl rfl)
theorem dX4_meets_50 : decode cX4_meets 50 = .ok (.ineg, 1) := dk_116 (dk_at dksX4_meets_2 2 rfl rfl)
theorem dX4_meets_51 : decode cX4_meets 51 = .ok (.invokestatic 292, 3) := dk_184 1 36 (dk_at dksX4_meets_2 3 rfl rfl)
theorem dX4_meets_54 : decode cX4_meets 54 = .ok (.invokevirtual 286, 3) := dk_182 1 30 (dk_at dksX4_meets_2 6 rfl rfl)
theorem dX4_meets_57 : decode cX4_meets 57 = .ok (.return_, 1) := dk_177 (dk_at dksX4_meets_2 9 rfl rfl)
def dkwX4_reached_0 : List UInt8 := [5, 26, 104, 4, 96, 172]
abbrev dktX4_reached_0 : List UInt8 := dkwX4_reached_0 ++ []
theorem dksX4_reached_0 : cX4_reached.data.toList.drop 0 = dktX4_reached_0 := by decide +kernel
theorem dX4_reached_0 : decode cX4_reached 0 = .ok (.iconst 2, 1) := dk_5 (dk_at dksX4_reached_0 0 rfl rfl)
theorem dX4_reached_1 : decode cX4_reached 1 = .ok (.iload_n 0, 1) := dk_26 (dk_at dksX4_reached_0 1 rfl rfl)
theorem dX4_reached_2 : decode cX4_reached 2 = .ok (.imul, 1) := dk_104 (dk_at dksX4_reached_0 2 rfl rfl)
theorem dX4_reached_3 : decode cX4_reached 3 = .ok (.iconst 1, 1) := dk_4 (dk_at dksX4_reached_0 3 rfl rfl)
theorem dX4_reached_4 : decode cX4_reached 4 = .ok (.iadd, 1) := dk_96 (dk_at dksX4_reached_0 4 rfl rfl)
theorem dX4_reached_5 : decode cX4_reached 5 = .ok (.ireturn, 1) := dk_172 (dk_at dksX4_reached_0 5 rfl rfl)
def dkwX4_tightens_0 : List UInt8 := [29, 42, 27, 28, 182, 1, 16, 162, 0, 10, 42, 27, 28, 29, 182, 1, 20, 177]
abbrev dktX4_tightens_0 : List UInt8 := dkwX4_tightens_0 ++ []
theorem dksX4_tightens_0 : cX4_tightens.data.toList.drop 0 = dktX4_tightens_0 := by decide +kernel
theorem dX4_tightens_0 : decode cX4_tightens 0 = .ok (.iload_n 3, 1) := dk_29 (dk_at dksX4_tightens_0 0 rfl rfl)
theorem dX4_tightens_1 : decode cX4_tightens 1 = .ok (.aload_n 0, 1) := dk_42 (dk_at dksX4_tightens_0 1 rfl rfl)
theorem dX4_tightens_2 : decode cX4_tightens 2 = .ok (.iload_n 1, 1) := dk_27 (dk_at dksX4_tightens_0 2 rfl rfl)
theorem dX4_tightens_3 : decode cX4_tightens 3 = .ok (.iload_n 2, 1) := dk_28 (dk_at dksX4_tightens_0 3 rfl rfl)
theorem dX4_tightens_4 : decode cX4_tightens 4 = .ok (.invokevirtual 272, 3) := dk_182 1 16 (dk_at dksX4_tightens_0 4 rfl rfl)
theorem dX4_tightens_7 : decode cX4_tightens 7 = .ok (.if_icmp .ge 10, 3) := dk_162 0 10 (dk_at dksX4_tightens_0 7 rfl rfl)
theorem dX4_tightens_10 : decode cX4_tightens 10 = .ok (.aload_n 0, 1) := dk_42 (dk_at dksX4_tightens_0 10 rfl rfl)
theorem dX4_tightens_11 : decode cX4_tightens 11 = .ok (.iload_n 1, 1) := dk_27 (dk_at dksX4_tightens_0 11 rfl rfl)
theorem dX4_tightens_12 : decode cX4_tightens 12 = .ok (.iload_n 2, 1) := dk_28 (dk_at dksX4_tightens_0 12 rfl rfl)
theorem dX4_tightens_13 : decode cX4_tightens 13 = .ok (.iload_n 3, 1) := dk_29 (dk_at dksX4_tightens_0 13 rfl rfl)
theorem dX4_tightens_14 : decode cX4_tightens 14 = .ok (.invokevirtual 276, 3) := dk_182 1 20 (dk_at dksX4_tightens_0 14 rfl rfl)
theorem dX4_tightens_17 : decode cX4_tightens 17 = .ok (.return_, 1) := dk_177 (dk_at dksX4_tightens_0 17 rfl rfl)
def dkwX4_closes_5 : List UInt8 := [181, 1, 33, 132, 1, 1, 167, 255, 221, 177]
abbrev dktX4_closes_5 : List UInt8 := dkwX4_closes_5 ++ []
def dkwX4_closes_4 : List UInt8 := [162, 0, 33, 42, 89, 180, 1, 33, 42, 27, 27, 182, 1, 16, 4, 162, 0, 7, 4, 167, 0, 4, 3, 128]
abbrev dktX4_closes_4 : List UInt8 := dkwX4_closes_4 ++ dktX4_closes_5
def dkwX4_closes_3 : List UInt8 := [167, 255, 224, 132, 2, 1, 167, 255, 193, 132, 1, 1, 167, 255, 177, 3, 60, 27, 42, 180, 1, 24]
abbrev dktX4_closes_3 : List UInt8 := dkwX4_closes_3 ++ dktX4_closes_4
def dkwX4_closes_2 : List UInt8 := [29, 42, 28, 27, 182, 1, 16, 42, 27, 29, 182, 1, 16, 184, 1, 27, 182, 1, 30, 132, 3, 1]
abbrev dktX4_closes_2 : List UInt8 := dkwX4_closes_2 ++ dktX4_closes_3
def dkwX4_closes_1 : List UInt8 := [182, 1, 16, 19, 1, 15, 161, 0, 6, 167, 0, 40, 3, 62, 29, 42, 180, 1, 24, 162, 0, 30, 42, 28]
abbrev dktX4_closes_1 : List UInt8 := dkwX4_closes_1 ++ dktX4_closes_2
def dkwX4_closes_0 : List UInt8 := [3, 60, 27, 42, 180, 1, 24, 162, 0, 77, 3, 61, 28, 42, 180, 1, 24, 162, 0, 61, 42, 28, 27]
abbrev dktX4_closes_0 : List UInt8 := dkwX4_closes_0 ++ dktX4_closes_1
theorem dksX4_closes_0 : cX4_closes.data.toList.drop 0 = dktX4_closes_0 := by decide +kernel
theorem dksX4_closes_1 : cX4_closes.data.toList.drop 23 = dktX4_closes_1 := dk_seg dksX4_closes_0 23 rfl rfl
theorem dksX4_closes_2 : cX4_closes.data.toList.drop 47 = dktX4_closes_2 := dk_seg dksX4_closes_1 24 rfl rfl
theorem dksX4_closes_3 : cX4_closes.data.toList.drop 69 = dktX4_closes_3 := dk_seg dksX4_closes_2 22 rfl rfl
theorem dksX4_closes_4 : cX4_closes.data.toList.drop 91 = dktX4_closes_4 := dk_seg dksX4_closes_3 22 rfl rfl
theorem dksX4_closes_5 : cX4_closes.data.toList.drop 115 = dktX4_closes_5 := dk_seg dksX4_closes_4 24 rfl rfl
theorem dX4_closes_0 : decode cX4_closes 0 = .ok (.iconst 0, 1) := dk_3 (dk_at dksX4_closes_0 0 rfl rfl)
theorem dX4_closes_1 : decode cX4_closes 1 = .ok (.istore_n 1, 1) := dk_60 (dk_at dksX4_closes_0 1 rfl rfl)
theorem dX4_closes_2 : decode cX4_closes 2 = .ok (.iload_n 1, 1) := dk_27 (dk_at dksX4_closes_0 2 rfl rfl)
theorem dX4_closes_3 : decode cX4_closes 3 = .ok (.aload_n 0, 1) := dk_42 (dk_at dksX4_closes_0 3 rfl rfl)
theorem dX4_closes_4 : decode cX4_closes 4 = .ok (.getfield 280, 3) := dk_180 1 24 (dk_at dksX4_closes_0 4 rfl rfl)
theorem dX4_closes_7 : decode cX4_closes 7 = .ok (.if_icmp .ge 77, 3) := dk_162 0 77 (dk_at dksX4_closes_0 7 rfl rfl)
theorem dX4_closes_10 : decode cX4_closes 10 = .ok (.iconst 0, 1) := dk_3 (dk_at dksX4_closes_0 10 rfl rfl)
theorem dX4_closes_11 : decode cX4_closes 11 = .ok (.istore_n 2, 1) := dk_61 (dk_at dksX4_closes_0 11 rfl rfl)
theorem dX4_closes_12 : decode cX4_closes 12 = .ok (.iload_n 2, 1) := dk_28 (dk_at dksX4_closes_0 12 rfl rfl)
theorem dX4_closes_13 : decode cX4_closes 13 = .ok (.aload_n 0, 1) := dk_42 (dk_at dksX4_closes_0 13 rfl rfl)
theorem dX4_closes_14 : decode cX4_closes 14 = .ok (.getfield 280, 3) := dk_180 1 24 (dk_at dksX4_closes_0 14 rfl rfl)
theorem dX4_closes_17 : decode cX4_closes 17 = .ok (.if_icmp .ge 61, 3) := dk_162 0 61 (dk_at dksX4_closes_0 17 rfl rfl)
theorem dX4_closes_20 : decode cX4_closes 20 = .ok (.aload_n 0, 1) := dk_42 (dk_at dksX4_closes_0 20 rfl rfl)
theorem dX4_closes_21 : decode cX4_closes 21 = .ok (.iload_n 2, 1) := dk_28 (dk_at dksX4_closes_0 21 rfl rfl)
theorem dX4_closes_22 : decode cX4_closes 22 = .ok (.iload_n 1, 1) := dk_27 (dk_at dksX4_closes_0 22 rfl rfl)
theorem dX4_closes_23 : decode cX4_closes 23 = .ok (.invokevirtual 272, 3) := dk_182 1 16 (dk_at dksX4_closes_1 0 rfl rfl)
theorem dX4_closes_26 : decode cX4_closes 26 = .ok (.ldc_w 271, 3) := dk_19 1 15 (dk_at dksX4_closes_1 3 rfl rfl)
theorem dX4_closes_29 : decode cX4_closes 29 = .ok (.if_icmp .lt 6, 3) := dk_161 0 6 (dk_at dksX4_closes_1 6 rfl rfl)
theorem dX4_closes_32 : decode cX4_closes 32 = .ok (.goto 40, 3) := dk_167 0 40 (dk_at dksX4_closes_1 9 rfl rfl)
theorem dX4_closes_35 : decode cX4_closes 35 = .ok (.iconst 0, 1) := dk_3 (dk_at dksX4_closes_1 12 rfl rfl)
theorem dX4_closes_36 : decode cX4_closes 36 = .ok (.istore_n 3, 1) := dk_62 (dk_at dksX4_closes_1 13 rfl rfl)
theorem dX4_closes_37 : decode cX4_closes 37 = .ok (.iload_n 3, 1) := dk_29 (dk_at dksX4_closes_1 14 rfl rfl)
theorem dX4_closes_38 : decode cX4_closes 38 = .ok (.aload_n 0, 1) := dk_42 (dk_at dksX4_closes_1 15 rfl rfl)
theorem dX4_closes_39 : decode cX4_closes 39 = .ok (.getfield 280, 3) := dk_180 1 24 (dk_at dksX4_closes_1 16 rfl rfl)
theorem dX4_closes_42 : decode cX4_closes 42 = .ok (.if_icmp .ge 30, 3) := dk_162 0 30 (dk_at dksX4_closes_1 19 rfl rfl)
theorem dX4_closes_45 : decode cX4_closes 45 = .ok (.aload_n 0, 1) := dk_42 (dk_at dksX4_closes_1 22 rfl rfl)
theorem dX4_closes_46 : decode cX4_closes 46 = .ok (.iload_n 2, 1) := dk_28 (dk_at dksX4_closes_1 23 rfl rfl)
theorem dX4_closes_47 : decode cX4_closes 47 = .ok (.iload_n 3, 1) := dk_29 (dk_at dksX4_closes_2 0 rfl rfl)
theorem dX4_closes_48 : decode cX4_closes 48 = .ok (.aload_n 0, 1) := dk_42 (dk_at dksX4_closes_2 1 rfl rfl)
theorem dX4_closes_49 : decode cX4_closes 49 = .ok (.iload_n 2, 1) := dk_28 (dk_at dksX4_closes_2 2 rfl rfl)
theorem dX4_closes_50 : decode cX4_closes 50 = .ok (.iload_n 1, 1) := dk_27 (dk_at dksX4_closes_2 3 rfl rfl)
theorem dX4_closes_51 : decode cX4_closes 51 = .ok (.invokevirtual 272, 3) := dk_182 1 16 (dk_at dksX4_closes_2 4 rfl rfl)
theorem dX4_closes_54 : decode cX4_closes 54 = .ok (.aload_n 0, 1) := dk_42 (dk_at dksX4_closes_2 7 rfl rfl)
theorem dX4_closes_55 : decode cX4_closes 55 = .ok (.iload_n 1, 1) := dk_27 (dk_at dksX4_closes_2 8 rfl rfl)
theorem dX4_closes_56 : decode cX4_closes 56 = .ok (.iload_n 3, 1) := dk_29 (dk_at dksX4_closes_2 9 rfl rfl)
theorem dX4_closes_57 : decode cX4_closes 57 = .ok (.invokevirtual 272, 3) := dk_182 1 16 (dk_at dksX4_closes_2 10 rfl rfl)
theorem dX4_closes_60 : decode cX4_closes 60 = .ok (.invokestatic 283, 3) := dk_184 1 27 (dk_at dksX4_closes_2 13 rfl rfl)
theorem dX4_closes_63 : decode cX4_closes 63 = .ok (.invokevirtual 286, 3) := dk_182 1 30 (dk_at dksX4_closes_2 16 rfl rfl)
theorem dX4_closes_66 : decode cX4_closes 66 = .ok (.iinc 3 1, 3) := dk_132 3 1 (dk_at dksX4_closes_2 19 rfl rfl)
theorem dX4_closes_69 : decode cX4_closes 69 = .ok (.goto (-32), 3) := dk_167 255 224 (dk_at dksX4_closes_3 0 rfl rfl)
theorem dX4_closes_72 : decode cX4_closes 72 = .ok (.iinc 2 1, 3) := dk_132 2 1 (dk_at dksX4_closes_3 3 rfl rfl)
theorem dX4_closes_75 : decode cX4_closes 75 = .ok (.goto (-63), 3) := dk_167 255 193 (dk_at dksX4_closes_3 6 rfl rfl)
theorem dX4_closes_78 : decode cX4_closes 78 = .ok (.iinc 1 1, 3) := dk_132 1 1 (dk_at dksX4_closes_3 9 rfl rfl)
theorem dX4_closes_81 : decode cX4_closes 81 = .ok (.goto (-79), 3) := dk_167 255 177 (dk_at dksX4_closes_3 12 rfl rfl)
theorem dX4_closes_84 : decode cX4_closes 84 = .ok (.iconst 0, 1) := dk_3 (dk_at dksX4_closes_3 15 rfl rfl)
theorem dX4_closes_85 : decode cX4_closes 85 = .ok (.istore_n 1, 1) := dk_60 (dk_at dksX4_closes_3 16 rfl rfl)
theorem dX4_closes_86 : decode cX4_closes 86 = .ok (.iload_n 1, 1) := dk_27 (dk_at dksX4_closes_3 17 rfl rfl)
theorem dX4_closes_87 : decode cX4_closes 87 = .ok (.aload_n 0, 1) := dk_42 (dk_at dksX4_closes_3 18 rfl rfl)
theorem dX4_closes_88 : decode cX4_closes 88 = .ok (.getfield 280, 3) := dk_180 1 24 (dk_at dksX4_closes_3 19 rfl rfl)
theorem dX4_closes_91 : decode cX4_closes 91 = .ok (.if_icmp .ge 33, 3) := dk_162 0 33 (dk_at dksX4_closes_4 0 rfl rfl)
theorem dX4_closes_94 : decode cX4_closes 94 = .ok (.aload_n 0, 1) := dk_42 (dk_at dksX4_closes_4 3 rfl rfl)
theorem dX4_closes_95 : decode cX4_closes 95 = .ok (.dup, 1) := dk_89 (dk_at dksX4_closes_4 4 rfl rfl)
theorem dX4_closes_96 : decode cX4_closes 96 = .ok (.getfield 289, 3) := dk_180 1 33 (dk_at dksX4_closes_4 5 rfl rfl)
theorem dX4_closes_99 : decode cX4_closes 99 = .ok (.aload_n 0, 1) := dk_42 (dk_at dksX4_closes_4 8 rfl rfl)
theorem dX4_closes_100 : decode cX4_closes 100 = .ok (.iload_n 1, 1) := dk_27 (dk_at dksX4_closes_4 9 rfl rfl)
theorem dX4_closes_101 : decode cX4_closes 101 = .ok (.iload_n 1, 1) := dk_27 (dk_at dksX4_closes_4 10 rfl rfl)
theorem dX4_closes_102 : decode cX4_closes 102 = .ok (.invokevirtual 272, 3) := dk_182 1 16 (dk_at dksX4_closes_4 11 rfl rfl)
theorem dX4_closes_105 : decode cX4_closes 105 = .ok (.iconst 1, 1) := dk_4 (dk_at dksX4_closes_4 14 rfl rfl)
theorem dX4_closes_106 : decode cX4_closes 106 = .ok (.if_icmp .ge 7, 3) := dk_162 0 7 (dk_at dksX4_closes_4 15 rfl rfl)
theorem dX4_closes_109 : decode cX4_closes 109 = .ok (.iconst 1, 1) := dk_4 (dk_at dksX4_closes_4 18 rfl rfl)
theorem dX4_closes_110 : decode cX4_closes 110 = .ok (.goto 4, 3) := dk_167 0 4 (dk_at dksX4_closes_4 19 rfl rfl)
theorem dX4_closes_113 : decode cX4_closes 113 = .ok (.iconst 0, 1) := dk_3 (dk_at dksX4_closes_4 22 rfl rfl)
theorem dX4_closes_114 : decode cX4_closes 114 = .ok (.ior, 1) := dk_128 (dk_at dksX4_closes_4 23 rfl rfl)
theorem dX4_closes_115 : decode cX4_closes 115 = .ok (.putfield 289, 3) := dk_181 1 33 (dk_at dksX4_closes_5 0 rfl rfl)
theorem dX4_closes_118 : decode cX4_closes 118 = .ok (.iinc 1 1, 3) := dk_132 1 1 (dk_at dksX4_closes_5 3 rfl rfl)
theorem dX4_closes_121 : decode cX4_closes 121 = .ok (.goto (-35), 3) := dk_167 255 221 (dk_at dksX4_closes_5 6 rfl rfl)
theorem dX4_closes_124 : decode cX4_closes 124 = .ok (.return_, 1) := dk_177 (dk_at dksX4_closes_5 9 rfl rfl)
def dkwX4_plus_1 : List UInt8 := [27, 16, 254, 126, 96, 26, 27, 126, 4, 126, 128, 172]
abbrev dktX4_plus_1 : List UInt8 := dkwX4_plus_1 ++ []
def dkwX4_plus_0 : List UInt8 := [26, 19, 1, 15, 162, 0, 10, 27, 19, 1, 15, 161, 0, 9, 19, 1, 15, 167, 0, 18, 26, 16, 254, 126]
abbrev dktX4_plus_0 : List UInt8 := dkwX4_plus_0 ++ dktX4_plus_1
theorem dksX4_plus_0 : cX4_plus.data.toList.drop 0 = dktX4_plus_0 := by decide +kernel
theorem dksX4_plus_1 : cX4_plus.data.toList.drop 24 = dktX4_plus_1 := dk_seg dksX4_plus_0 24 rfl rfl
theorem dX4_plus_0 : decode cX4_plus 0 = .ok (.iload_n 0, 1) := dk_26 (dk_at dksX4_plus_0 0 rfl rfl)
theorem dX4_plus_1 : decode cX4_plus 1 = .ok (.ldc_w 271, 3) := dk_19 1 15 (dk_at dksX4_plus_0 1 rfl rfl)
theorem dX4_plus_4 : decode cX4_plus 4 = .ok (.if_icmp .ge 10, 3) := dk_162 0 10 (dk_at dksX4_plus_0 4 rfl rfl)
theorem dX4_plus_7 : decode cX4_plus 7 = .ok (.iload_n 1, 1) := dk_27 (dk_at dksX4_plus_0 7 rfl rfl)
theorem dX4_plus_8 : decode cX4_plus 8 = .ok (.ldc_w 271, 3) := dk_19 1 15 (dk_at dksX4_plus_0 8 rfl rfl)
theorem dX4_plus_11 : decode cX4_plus 11 = .ok (.if_icmp .lt 9, 3) := dk_161 0 9 (dk_at dksX4_plus_0 11 rfl rfl)
theorem dX4_plus_14 : decode cX4_plus 14 = .ok (.ldc_w 271, 3) := dk_19 1 15 (dk_at dksX4_plus_0 14 rfl rfl)
theorem dX4_plus_17 : decode cX4_plus 17 = .ok (.goto 18, 3) := dk_167 0 18 (dk_at dksX4_plus_0 17 rfl rfl)
theorem dX4_plus_20 : decode cX4_plus 20 = .ok (.iload_n 0, 1) := dk_26 (dk_at dksX4_plus_0 20 rfl rfl)
theorem dX4_plus_21 : decode cX4_plus 21 = .ok (.bipush (-2), 2) := dk_16 254 (dk_at dksX4_plus_0 21 rfl rfl)
theorem dX4_plus_23 : decode cX4_plus 23 = .ok (.iand, 1) := dk_126 (dk_at dksX4_plus_0 23 rfl rfl)
theorem dX4_plus_24 : decode cX4_plus 24 = .ok (.iload_n 1, 1) := dk_27 (dk_at dksX4_plus_1 0 rfl rfl)
theorem dX4_plus_25 : decode cX4_plus 25 = .ok (.bipush (-2), 2) := dk_16 254 (dk_at dksX4_plus_1 1 rfl rfl)
theorem dX4_plus_27 : decode cX4_plus 27 = .ok (.iand, 1) := dk_126 (dk_at dksX4_plus_1 3 rfl rfl)
theorem dX4_plus_28 : decode cX4_plus 28 = .ok (.iadd, 1) := dk_96 (dk_at dksX4_plus_1 4 rfl rfl)
theorem dX4_plus_29 : decode cX4_plus 29 = .ok (.iload_n 0, 1) := dk_26 (dk_at dksX4_plus_1 5 rfl rfl)
theorem dX4_plus_30 : decode cX4_plus 30 = .ok (.iload_n 1, 1) := dk_27 (dk_at dksX4_plus_1 6 rfl rfl)
theorem dX4_plus_31 : decode cX4_plus 31 = .ok (.iand, 1) := dk_126 (dk_at dksX4_plus_1 7 rfl rfl)
theorem dX4_plus_32 : decode cX4_plus 32 = .ok (.iconst 1, 1) := dk_4 (dk_at dksX4_plus_1 8 rfl rfl)
theorem dX4_plus_33 : decode cX4_plus 33 = .ok (.iand, 1) := dk_126 (dk_at dksX4_plus_1 9 rfl rfl)
theorem dX4_plus_34 : decode cX4_plus 34 = .ok (.ior, 1) := dk_128 (dk_at dksX4_plus_1 10 rfl rfl)
theorem dX4_plus_35 : decode cX4_plus 35 = .ok (.ireturn, 1) := dk_172 (dk_at dksX4_plus_1 11 rfl rfl)
def dkwX4_ups_1 : List UInt8 := [167, 255, 236, 177]
abbrev dktX4_ups_1 : List UInt8 := dkwX4_ups_1 ++ []
def dkwX4_ups_0 : List UInt8 := [4, 60, 27, 42, 180, 1, 24, 162, 0, 18, 42, 27, 3, 19, 1, 15, 182, 1, 20, 132, 1, 1]
abbrev dktX4_ups_0 : List UInt8 := dkwX4_ups_0 ++ dktX4_ups_1
theorem dksX4_ups_0 : cX4_ups.data.toList.drop 0 = dktX4_ups_0 := by decide +kernel
theorem dksX4_ups_1 : cX4_ups.data.toList.drop 22 = dktX4_ups_1 := dk_seg dksX4_ups_0 22 rfl rfl
theorem dX4_ups_0 : decode cX4_ups 0 = .ok (.iconst 1, 1) := dk_4 (dk_at dksX4_ups_0 0 rfl rfl)
theorem dX4_ups_1 : decode cX4_ups 1 = .ok (.istore_n 1, 1) := dk_60 (dk_at dksX4_ups_0 1 rfl rfl)
theorem dX4_ups_2 : decode cX4_ups 2 = .ok (.iload_n 1, 1) := dk_27 (dk_at dksX4_ups_0 2 rfl rfl)
theorem dX4_ups_3 : decode cX4_ups 3 = .ok (.aload_n 0, 1) := dk_42 (dk_at dksX4_ups_0 3 rfl rfl)
theorem dX4_ups_4 : decode cX4_ups 4 = .ok (.getfield 280, 3) := dk_180 1 24 (dk_at dksX4_ups_0 4 rfl rfl)
theorem dX4_ups_7 : decode cX4_ups 7 = .ok (.if_icmp .ge 18, 3) := dk_162 0 18 (dk_at dksX4_ups_0 7 rfl rfl)
theorem dX4_ups_10 : decode cX4_ups 10 = .ok (.aload_n 0, 1) := dk_42 (dk_at dksX4_ups_0 10 rfl rfl)
theorem dX4_ups_11 : decode cX4_ups 11 = .ok (.iload_n 1, 1) := dk_27 (dk_at dksX4_ups_0 11 rfl rfl)
theorem dX4_ups_12 : decode cX4_ups 12 = .ok (.iconst 0, 1) := dk_3 (dk_at dksX4_ups_0 12 rfl rfl)
theorem dX4_ups_13 : decode cX4_ups 13 = .ok (.ldc_w 271, 3) := dk_19 1 15 (dk_at dksX4_ups_0 13 rfl rfl)
theorem dX4_ups_16 : decode cX4_ups 16 = .ok (.invokevirtual 276, 3) := dk_182 1 20 (dk_at dksX4_ups_0 16 rfl rfl)
theorem dX4_ups_19 : decode cX4_ups 19 = .ok (.iinc 1 1, 3) := dk_132 1 1 (dk_at dksX4_ups_0 19 rfl rfl)
theorem dX4_ups_22 : decode cX4_ups 22 = .ok (.goto (-20), 3) := dk_167 255 236 (dk_at dksX4_ups_1 0 rfl rfl)
theorem dX4_ups_25 : decode cX4_ups 25 = .ok (.return_, 1) := dk_177 (dk_at dksX4_ups_1 3 rfl rfl)
def dkwX4_roughens_5 : List UInt8 := [167, 255, 153, 42, 182, 1, 44, 177]
abbrev dktX4_roughens_5 : List UInt8 := dkwX4_roughens_5 ++ []
def dkwX4_roughens_4 : List UInt8 := [27, 28, 16, 254, 42, 180, 0, 41, 28, 46, 104, 182, 1, 20, 132, 2, 1, 167, 255, 169, 132, 1, 1]
abbrev dktX4_roughens_4 : List UInt8 := dkwX4_roughens_4 ++ dktX4_roughens_5
def dkwX4_roughens_3 : List UInt8 := [19, 1, 15, 182, 1, 20, 167, 0, 32, 29, 184, 1, 62, 42, 180, 0, 41, 28, 46, 116, 162, 0, 18, 42]
abbrev dktX4_roughens_3 : List UInt8 := dkwX4_roughens_3 ++ dktX4_roughens_4
def dkwX4_roughens_2 : List UInt8 := [161, 0, 6, 167, 0, 57, 29, 184, 1, 62, 42, 180, 0, 41, 27, 46, 164, 0, 15, 42, 27, 28]
abbrev dktX4_roughens_2 : List UInt8 := dkwX4_roughens_2 ++ dktX4_roughens_3
def dkwX4_roughens_1 : List UInt8 := [180, 1, 24, 162, 0, 85, 42, 27, 28, 182, 1, 16, 62, 27, 28, 159, 0, 67, 29, 19, 1, 15]
abbrev dktX4_roughens_1 : List UInt8 := dkwX4_roughens_1 ++ dktX4_roughens_2
def dkwX4_roughens_0 : List UInt8 := [42, 180, 1, 33, 153, 0, 4, 177, 3, 60, 27, 42, 180, 1, 24, 162, 0, 101, 3, 61, 28, 42]
abbrev dktX4_roughens_0 : List UInt8 := dkwX4_roughens_0 ++ dktX4_roughens_1
theorem dksX4_roughens_0 : cX4_roughens.data.toList.drop 0 = dktX4_roughens_0 := by decide +kernel
theorem dksX4_roughens_1 : cX4_roughens.data.toList.drop 22 = dktX4_roughens_1 := dk_seg dksX4_roughens_0 22 rfl rfl
theorem dksX4_roughens_2 : cX4_roughens.data.toList.drop 44 = dktX4_roughens_2 := dk_seg dksX4_roughens_1 22 rfl rfl
theorem dksX4_roughens_3 : cX4_roughens.data.toList.drop 66 = dktX4_roughens_3 := dk_seg dksX4_roughens_2 22 rfl rfl
theorem dksX4_roughens_4 : cX4_roughens.data.toList.drop 90 = dktX4_roughens_4 := dk_seg dksX4_roughens_3 24 rfl rfl
theorem dksX4_roughens_5 : cX4_roughens.data.toList.drop 113 = dktX4_roughens_5 := dk_seg dksX4_roughens_4 23 rfl rfl
theorem dX4_roughens_0 : decode cX4_roughens 0 = .ok (.aload_n 0, 1) := dk_42 (dk_at dksX4_roughens_0 0 rfl rfl)
theorem dX4_roughens_1 : decode cX4_roughens 1 = .ok (.getfield 289, 3) := dk_180 1 33 (dk_at dksX4_roughens_0 1 rfl rfl)
theorem dX4_roughens_4 : decode cX4_roughens 4 = .ok (.ifCond .eq 4, 3) := dk_153 0 4 (dk_at dksX4_roughens_0 4 rfl rfl)
theorem dX4_roughens_7 : decode cX4_roughens 7 = .ok (.return_, 1) := dk_177 (dk_at dksX4_roughens_0 7 rfl rfl)
theorem dX4_roughens_8 : decode cX4_roughens 8 = .ok (.iconst 0, 1) := dk_3 (dk_at dksX4_roughens_0 8 rfl rfl)
theorem dX4_roughens_9 : decode cX4_roughens 9 = .ok (.istore_n 1, 1) := dk_60 (dk_at dksX4_roughens_0 9 rfl rfl)
theorem dX4_roughens_10 : decode cX4_roughens 10 = .ok (.iload_n 1, 1) := dk_27 (dk_at dksX4_roughens_0 10 rfl rfl)
theorem dX4_roughens_11 : decode cX4_roughens 11 = .ok (.aload_n 0, 1) := dk_42 (dk_at dksX4_roughens_0 11 rfl rfl)
theorem dX4_roughens_12 : decode cX4_roughens 12 = .ok (.getfield 280, 3) := dk_180 1 24 (dk_at dksX4_roughens_0 12 rfl rfl)
theorem dX4_roughens_15 : decode cX4_roughens 15 = .ok (.if_icmp .ge 101, 3) := dk_162 0 101 (dk_at dksX4_roughens_0 15 rfl rfl)
theorem dX4_roughens_18 : decode cX4_roughens 18 = .ok (.iconst 0, 1) := dk_3 (dk_at dksX4_roughens_0 18 rfl rfl)
theorem dX4_roughens_19 : decode cX4_roughens 19 = .ok (.istore_n 2, 1) := dk_61 (dk_at dksX4_roughens_0 19 rfl rfl)
theorem dX4_roughens_20 : decode cX4_roughens 20 = .ok (.iload_n 2, 1) := dk_28 (dk_at dksX4_roughens_0 20 rfl rfl)
theorem dX4_roughens_21 : decode cX4_roughens 21 = .ok (.aload_n 0, 1) := dk_42 (dk_at dksX4_roughens_0 21 rfl rfl)
theorem dX4_roughens_22 : decode cX4_roughens 22 = .ok (.getfield 280, 3) := dk_180 1 24 (dk_at dksX4_roughens_1 0 rfl rfl)
theorem dX4_roughens_25 : decode cX4_roughens 25 = .ok (.if_icmp .ge 85, 3) := dk_162 0 85 (dk_at dksX4_roughens_1 3 rfl rfl)
theorem dX4_roughens_28 : decode cX4_roughens 28 = .ok (.aload_n 0, 1) := dk_42 (dk_at dksX4_roughens_1 6 rfl rfl)
theorem dX4_roughens_29 : decode cX4_roughens 29 = .ok (.iload_n 1, 1) := dk_27 (dk_at dksX4_roughens_1 7 rfl rfl)
theorem dX4_roughens_30 : decode cX4_roughens 30 = .ok (.iload_n 2, 1) := dk_28 (dk_at dksX4_roughens_1 8 rfl rfl)
theorem dX4_roughens_31 : decode cX4_roughens 31 = .ok (.invokevirtual 272, 3) := dk_182 1 16 (dk_at dksX4_roughens_1 9 rfl rfl)
theorem dX4_roughens_34 : decode cX4_roughens 34 = .ok (.istore_n 3, 1) := dk_62 (dk_at dksX4_roughens_1 12 rfl rfl)
theorem dX4_roughens_35 : decode cX4_roughens 35 = .ok (.iload_n 1, 1) := dk_27 (dk_at dksX4_roughens_1 13 rfl rfl)
theorem dX4_roughens_36 : decode cX4_roughens 36 = .ok (.iload_n 2, 1) := dk_28 (dk_at dksX4_roughens_1 14 rfl rfl)
theorem dX4_roughens_37 : decode cX4_roughens 37 = .ok (.if_icmp .eq 67, 3) := dk_159 0 67 (dk_at dksX4_roughens_1 15 rfl rfl)
theorem dX4_roughens_40 : decode cX4_roughens 40 = .ok (.iload_n 3, 1) := dk_29 (dk_at dksX4_roughens_1 18 rfl rfl)
theorem dX4_roughens_41 : decode cX4_roughens 41 = .ok (.ldc_w 271, 3) := dk_19 1 15 (dk_at dksX4_roughens_1 19 rfl rfl)
theorem dX4_roughens_44 : decode cX4_roughens 44 = .ok (.if_icmp .lt 6, 3) := dk_161 0 6 (dk_at dksX4_roughens_2 0 rfl rfl)
theorem dX4_roughens_47 : decode cX4_roughens 47 = .ok (.goto 57, 3) := dk_167 0 57 (dk_at dksX4_roughens_2 3 rfl rfl)
theorem dX4_roughens_50 : decode cX4_roughens 50 = .ok (.iload_n 3, 1) := dk_29 (dk_at dksX4_roughens_2 6 rfl rfl)
theorem dX4_roughens_51 : decode cX4_roughens 51 = .ok (.invokestatic 318, 3) := dk_184 1 62 (dk_at dksX4_roughens_2 7 rfl rfl)
theorem dX4_roughens_54 : decode cX4_roughens 54 = .ok (.aload_n 0, 1) := dk_42 (dk_at dksX4_roughens_2 10 rfl rfl)
theorem dX4_roughens_55 : decode cX4_roughens 55 = .ok (.getfield 41, 3) := dk_180 0 41 (dk_at dksX4_roughens_2 11 rfl rfl)
theorem dX4_roughens_58 : decode cX4_roughens 58 = .ok (.iload_n 1, 1) := dk_27 (dk_at dksX4_roughens_2 14 rfl rfl)
theorem dX4_roughens_59 : decode cX4_roughens 59 = .ok (.iaload, 1) := dk_46 (dk_at dksX4_roughens_2 15 rfl rfl)
theorem dX4_roughens_60 : decode cX4_roughens 60 = .ok (.if_icmp .le 15, 3) := dk_164 0 15 (dk_at dksX4_roughens_2 16 rfl rfl)
theorem dX4_roughens_63 : decode cX4_roughens 63 = .ok (.aload_n 0, 1) := dk_42 (dk_at dksX4_roughens_2 19 rfl rfl)
theorem dX4_roughens_64 : decode cX4_roughens 64 = .ok (.iload_n 1, 1) := dk_27 (dk_at dksX4_roughens_2 20 rfl rfl)
theorem dX4_roughens_65 : decode cX4_roughens 65 = .ok (.iload_n 2, 1) := dk_28 (dk_at dksX4_roughens_2 21 rfl rfl)
theorem dX4_roughens_66 : decode cX4_roughens 66 = .ok (.ldc_w 271, 3) := dk_19 1 15 (dk_at dksX4_roughens_3 0 rfl rfl)
theorem dX4_roughens_69 : decode cX4_roughens 69 = .ok (.invokevirtual 276, 3) := dk_182 1 20 (dk_at dksX4_roughens_3 3 rfl rfl)
theorem dX4_roughens_72 : decode cX4_roughens 72 = .ok (.goto 32, 3) := dk_167 0 32 (dk_at dksX4_roughens_3 6 rfl rfl)
theorem dX4_roughens_75 : decode cX4_roughens 75 = .ok (.iload_n 3, 1) := dk_29 (dk_at dksX4_roughens_3 9 rfl rfl)
theorem dX4_roughens_76 : decode cX4_roughens 76 = .ok (.invokestatic 318, 3) := dk_184 1 62 (dk_at dksX4_roughens_3 10 rfl rfl)
theorem dX4_roughens_79 : decode cX4_roughens 79 = .ok (.aload_n 0, 1) := dk_42 (dk_at dksX4_roughens_3 13 rfl rfl)
theorem dX4_roughens_80 : decode cX4_roughens 80 = .ok (.getfield 41, 3) := dk_180 0 41 (dk_at dksX4_roughens_3 14 rfl rfl)
theorem dX4_roughens_83 : decode cX4_roughens 83 = .ok (.iload_n 2, 1) := dk_28 (dk_at dksX4_roughens_3 17 rfl rfl)
theorem dX4_roughens_84 : decode cX4_roughens 84 = .ok (.iaload, 1) := dk_46 (dk_at dksX4_roughens_3 18 rfl rfl)
theorem dX4_roughens_85 : decode cX4_roughens 85 = .ok (.ineg, 1) := dk_116 (dk_at dksX4_roughens_3 19 rfl rfl)
theorem dX4_roughens_86 : decode cX4_roughens 86 = .ok (.if_icmp .ge 18, 3) := dk_162 0 18 (dk_at dksX4_roughens_3 20 rfl rfl)
theorem dX4_roughens_89 : decode cX4_roughens 89 = .ok (.aload_n 0, 1) := dk_42 (dk_at dksX4_roughens_3 23 rfl rfl)
theorem dX4_roughens_90 : decode cX4_roughens 90 = .ok (.iload_n 1, 1) := dk_27 (dk_at dksX4_roughens_4 0 rfl rfl)
theorem dX4_roughens_91 : decode cX4_roughens 91 = .ok (.iload_n 2, 1) := dk_28 (dk_at dksX4_roughens_4 1 rfl rfl)
theorem dX4_roughens_92 : decode cX4_roughens 92 = .ok (.bipush (-2), 2) := dk_16 254 (dk_at dksX4_roughens_4 2 rfl rfl)
theorem dX4_roughens_94 : decode cX4_roughens 94 = .ok (.aload_n 0, 1) := dk_42 (dk_at dksX4_roughens_4 4 rfl rfl)
theorem dX4_roughens_95 : decode cX4_roughens 95 = .ok (.getfield 41, 3) := dk_180 0 41 (dk_at dksX4_roughens_4 5 rfl rfl)
theorem dX4_roughens_98 : decode cX4_roughens 98 = .ok (.iload_n 2, 1) := dk_28 (dk_at dksX4_roughens_4 8 rfl rfl)
theorem dX4_roughens_99 : decode cX4_roughens 99 = .ok (.iaload, 1) := dk_46 (dk_at dksX4_roughens_4 9 rfl rfl)
theorem dX4_roughens_100 : decode cX4_roughens 100 = .ok (.imul, 1) := dk_104 (dk_at dksX4_roughens_4 10 rfl rfl)
theorem dX4_roughens_101 : decode cX4_roughens 101 = .ok (.invokevirtual 276, 3) := dk_182 1 20 (dk_at dksX4_roughens_4 11 rfl rfl)
theorem dX4_roughens_104 : decode cX4_roughens 104 = .ok (.iinc 2 1, 3) := dk_132 2 1 (dk_at dksX4_roughens_4 14 rfl rfl)
theorem dX4_roughens_107 : decode cX4_roughens 107 = .ok (.goto (-87), 3) := dk_167 255 169 (dk_at dksX4_roughens_4 17 rfl rfl)
theorem dX4_roughens_110 : decode cX4_roughens 110 = .ok (.iinc 1 1, 3) := dk_132 1 1 (dk_at dksX4_roughens_4 20 rfl rfl)
theorem dX4_roughens_113 : decode cX4_roughens 113 = .ok (.goto (-103), 3) := dk_167 255 153 (dk_at dksX4_roughens_5 0 rfl rfl)
theorem dX4_roughens_116 : decode cX4_roughens 116 = .ok (.aload_n 0, 1) := dk_42 (dk_at dksX4_roughens_5 3 rfl rfl)
theorem dX4_roughens_117 : decode cX4_roughens 117 = .ok (.invokevirtual 300, 3) := dk_182 1 44 (dk_at dksX4_roughens_5 4 rfl rfl)
theorem dX4_roughens_120 : decode cX4_roughens 120 = .ok (.return_, 1) := dk_177 (dk_at dksX4_roughens_5 7 rfl rfl)
def dkwX4_numberOf_0 : List UInt8 := [26, 4, 122, 172]
abbrev dktX4_numberOf_0 : List UInt8 := dkwX4_numberOf_0 ++ []
theorem dksX4_numberOf_0 : cX4_numberOf.data.toList.drop 0 = dktX4_numberOf_0 := by decide +kernel
theorem dX4_numberOf_0 : decode cX4_numberOf 0 = .ok (.iload_n 0, 1) := dk_26 (dk_at dksX4_numberOf_0 0 rfl rfl)
theorem dX4_numberOf_1 : decode cX4_numberOf 1 = .ok (.iconst 1, 1) := dk_4 (dk_at dksX4_numberOf_0 1 rfl rfl)
theorem dX4_numberOf_2 : decode cX4_numberOf 2 = .ok (.ishr, 1) := dk_122 (dk_at dksX4_numberOf_0 2 rfl rfl)
theorem dX4_numberOf_3 : decode cX4_numberOf 3 = .ok (.ireturn, 1) := dk_172 (dk_at dksX4_numberOf_0 3 rfl rfl)
def dkwX4_adds_4 : List UInt8 := [180, 1, 118, 4, 96, 181, 1, 118, 177]
abbrev dktX4_adds_4 : List UInt8 := dkwX4_adds_4 ++ []
def dkwX4_adds_3 : List UInt8 := [96, 42, 21, 4, 21, 5, 182, 1, 16, 79, 132, 5, 1, 167, 255, 216, 132, 4, 1, 167, 255, 198, 42, 89]
abbrev dktX4_adds_3 : List UInt8 := dkwX4_adds_3 ++ dktX4_adds_4
def dkwX4_adds_2 : List UInt8 := [180, 1, 24, 162, 0, 37, 42, 180, 0, 59, 16, 25, 42, 180, 1, 118, 104, 8, 21, 4, 104, 96, 21, 5]
abbrev dktX4_adds_2 : List UInt8 := dkwX4_adds_2 ++ dktX4_adds_3
def dkwX4_adds_1 : List UInt8 := [42, 180, 1, 118, 29, 79, 3, 54, 4, 21, 4, 42, 180, 1, 24, 162, 0, 55, 3, 54, 5, 21, 5, 42]
abbrev dktX4_adds_1 : List UInt8 := dkwX4_adds_1 ++ dktX4_adds_2
def dkwX4_adds_0 : List UInt8 := [42, 180, 0, 50, 42, 180, 1, 118, 27, 79, 42, 180, 0, 53, 42, 180, 1, 118, 28, 79, 42, 180, 0, 56]
abbrev dktX4_adds_0 : List UInt8 := dkwX4_adds_0 ++ dktX4_adds_1
theorem dksX4_adds_0 : cX4_adds.data.toList.drop 0 = dktX4_adds_0 := by decide +kernel
theorem dksX4_adds_1 : cX4_adds.data.toList.drop 24 = dktX4_adds_1 := dk_seg dksX4_adds_0 24 rfl rfl
theorem dksX4_adds_2 : cX4_adds.data.toList.drop 48 = dktX4_adds_2 := dk_seg dksX4_adds_1 24 rfl rfl
theorem dksX4_adds_3 : cX4_adds.data.toList.drop 72 = dktX4_adds_3 := dk_seg dksX4_adds_2 24 rfl rfl
theorem dksX4_adds_4 : cX4_adds.data.toList.drop 96 = dktX4_adds_4 := dk_seg dksX4_adds_3 24 rfl rfl
theorem dX4_adds_0 : decode cX4_adds 0 = .ok (.aload_n 0, 1) := dk_42 (dk_at dksX4_adds_0 0 rfl rfl)
theorem dX4_adds_1 : decode cX4_adds 1 = .ok (.getfield 50, 3) := dk_180 0 50 (dk_at dksX4_adds_0 1 rfl rfl)
theorem dX4_adds_4 : decode cX4_adds 4 = .ok (.aload_n 0, 1) := dk_42 (dk_at dksX4_adds_0 4 rfl rfl)
theorem dX4_adds_5 : decode cX4_adds 5 = .ok (.getfield 374, 3) := dk_180 1 118 (dk_at dksX4_adds_0 5 rfl rfl)
theorem dX4_adds_8 : decode cX4_adds 8 = .ok (.iload_n 1, 1) := dk_27 (dk_at dksX4_adds_0 8 rfl rfl)
theorem dX4_adds_9 : decode cX4_adds 9 = .ok (.iastore, 1) := dk_79 (dk_at dksX4_adds_0 9 rfl rfl)
theorem dX4_adds_10 : decode cX4_adds 10 = .ok (.aload_n 0, 1) := dk_42 (dk_at dksX4_adds_0 10 rfl rfl)
theorem dX4_adds_11 : decode cX4_adds 11 = .ok (.getfield 53, 3) := dk_180 0 53 (dk_at dksX4_adds_0 11 rfl rfl)
theorem dX4_adds_14 : decode cX4_adds 14 = .ok (.aload_n 0, 1) := dk_42 (dk_at dksX4_adds_0 14 rfl rfl)
theorem dX4_adds_15 : decode cX4_adds 15 = .ok (.getfield 374, 3) := dk_180 1 118 (dk_at dksX4_adds_0 15 rfl rfl)
theorem dX4_adds_18 : decode cX4_adds 18 = .ok (.iload_n 2, 1) := dk_28 (dk_at dksX4_adds_0 18 rfl rfl)
theorem dX4_adds_19 : decode cX4_adds 19 = .ok (.iastore, 1) := dk_79 (dk_at dksX4_adds_0 19 rfl rfl)
theorem dX4_adds_20 : decode cX4_adds 20 = .ok (.aload_n 0, 1) := dk_42 (dk_at dksX4_adds_0 20 rfl rfl)
theorem dX4_adds_21 : decode cX4_adds 21 = .ok (.getfield 56, 3) := dk_180 0 56 (dk_at dksX4_adds_0 21 rfl rfl)
theorem dX4_adds_24 : decode cX4_adds 24 = .ok (.aload_n 0, 1) := dk_42 (dk_at dksX4_adds_1 0 rfl rfl)
theorem dX4_adds_25 : decode cX4_adds 25 = .ok (.getfield 374, 3) := dk_180 1 118 (dk_at dksX4_adds_1 1 rfl rfl)
theorem dX4_adds_28 : decode cX4_adds 28 = .ok (.iload_n 3, 1) := dk_29 (dk_at dksX4_adds_1 4 rfl rfl)
theorem dX4_adds_29 : decode cX4_adds 29 = .ok (.iastore, 1) := dk_79 (dk_at dksX4_adds_1 5 rfl rfl)
theorem dX4_adds_30 : decode cX4_adds 30 = .ok (.iconst 0, 1) := dk_3 (dk_at dksX4_adds_1 6 rfl rfl)
theorem dX4_adds_31 : decode cX4_adds 31 = .ok (.istore 4, 2) := dk_54 4 (dk_at dksX4_adds_1 7 rfl rfl)
theorem dX4_adds_33 : decode cX4_adds 33 = .ok (.iload 4, 2) := dk_21 4 (dk_at dksX4_adds_1 9 rfl rfl)
theorem dX4_adds_35 : decode cX4_adds 35 = .ok (.aload_n 0, 1) := dk_42 (dk_at dksX4_adds_1 11 rfl rfl)
theorem dX4_adds_36 : decode cX4_adds 36 = .ok (.getfield 280, 3) := dk_180 1 24 (dk_at dksX4_adds_1 12 rfl rfl)
theorem dX4_adds_39 : decode cX4_adds 39 = .ok (.if_icmp .ge 55, 3) := dk_162 0 55 (dk_at dksX4_adds_1 15 rfl rfl)
theorem dX4_adds_42 : decode cX4_adds 42 = .ok (.iconst 0, 1) := dk_3 (dk_at dksX4_adds_1 18 rfl rfl)
theorem dX4_adds_43 : decode cX4_adds 43 = .ok (.istore 5, 2) := dk_54 5 (dk_at dksX4_adds_1 19 rfl rfl)
theorem dX4_adds_45 : decode cX4_adds 45 = .ok (.iload 5, 2) := dk_21 5 (dk_at dksX4_adds_1 21 rfl rfl)
theorem dX4_adds_47 : decode cX4_adds 47 = .ok (.aload_n 0, 1) := dk_42 (dk_at dksX4_adds_1 23 rfl rfl)
theorem dX4_adds_48 : decode cX4_adds 48 = .ok (.getfield 280, 3) := dk_180 1 24 (dk_at dksX4_adds_2 0 rfl rfl)
theorem dX4_adds_51 : decode cX4_adds 51 = .ok (.if_icmp .ge 37, 3) := dk_162 0 37 (dk_at dksX4_adds_2 3 rfl rfl)
theorem dX4_adds_54 : decode cX4_adds 54 = .ok (.aload_n 0, 1) := dk_42 (dk_at dksX4_adds_2 6 rfl rfl)
theorem dX4_adds_55 : decode cX4_adds 55 = .ok (.getfield 59, 3) := dk_180 0 59 (dk_at dksX4_adds_2 7 rfl rfl)
theorem dX4_adds_58 : decode cX4_adds 58 = .ok (.bipush 25, 2) := dk_16 25 (dk_at dksX4_adds_2 10 rfl rfl)
theorem dX4_adds_60 : decode cX4_adds 60 = .ok (.aload_n 0, 1) := dk_42 (dk_at dksX4_adds_2 12 rfl rfl)
theorem dX4_adds_61 : decode cX4_adds 61 = .ok (.getfield 374, 3) := dk_180 1 118 (dk_at dksX4_adds_2 13 rfl rfl)
theorem dX4_adds_64 : decode cX4_adds 64 = .ok (.imul, 1) := dk_104 (dk_at dksX4_adds_2 16 rfl rfl)
theorem dX4_adds_65 : decode cX4_adds 65 = .ok (.iconst 5, 1) := dk_8 (dk_at dksX4_adds_2 17 rfl rfl)
theorem dX4_adds_66 : decode cX4_adds 66 = .ok (.iload 4, 2) := dk_21 4 (dk_at dksX4_adds_2 18 rfl rfl)
theorem dX4_adds_68 : decode cX4_adds 68 = .ok (.imul, 1) := dk_104 (dk_at dksX4_adds_2 20 rfl rfl)
theorem dX4_adds_69 : decode cX4_adds 69 = .ok (.iadd, 1) := dk_96 (dk_at dksX4_adds_2 21 rfl rfl)
theorem dX4_adds_70 : decode cX4_adds 70 = .ok (.iload 5, 2) := dk_21 5 (dk_at dksX4_adds_2 22 rfl rfl)
theorem dX4_adds_72 : decode cX4_adds 72 = .ok (.iadd, 1) := dk_96 (dk_at dksX4_adds_3 0 rfl rfl)
theorem dX4_adds_73 : decode cX4_adds 73 = .ok (.aload_n 0, 1) := dk_42 (dk_at dksX4_adds_3 1 rfl rfl)
theorem dX4_adds_74 : decode cX4_adds 74 = .ok (.iload 4, 2) := dk_21 4 (dk_at dksX4_adds_3 2 rfl rfl)
theorem dX4_adds_76 : decode cX4_adds 76 = .ok (.iload 5, 2) := dk_21 5 (dk_at dksX4_adds_3 4 rfl rfl)
theorem dX4_adds_78 : decode cX4_adds 78 = .ok (.invokevirtual 272, 3) := dk_182 1 16 (dk_at dksX4_adds_3 6 rfl rfl)
theorem dX4_adds_81 : decode cX4_adds 81 = .ok (.iastore, 1) := dk_79 (dk_at dksX4_adds_3 9 rfl rfl)
theorem dX4_adds_82 : decode cX4_adds 82 = .ok (.iinc 5 1, 3) := dk_132 5 1 (dk_at dksX4_adds_3 10 rfl rfl)
theorem dX4_adds_85 : decode cX4_adds 85 = .ok (.goto (-40), 3) := dk_167 255 216 (dk_at dksX4_adds_3 13 rfl rfl)
theorem dX4_adds_88 : decode cX4_adds 88 = .ok (.iinc 4 1, 3) := dk_132 4 1 (dk_at dksX4_adds_3 16 rfl rfl)
theorem dX4_adds_91 : decode cX4_adds 91 = .ok (.goto (-58), 3) := dk_167 255 198 (dk_at dksX4_adds_3 19 rfl rfl)
theorem dX4_adds_94 : decode cX4_adds 94 = .ok (.aload_n 0, 1) := dk_42 (dk_at dksX4_adds_3 22 rfl rfl)
theorem dX4_adds_95 : decode cX4_adds 95 = .ok (.dup, 1) := dk_89 (dk_at dksX4_adds_3 23 rfl rfl)
theorem dX4_adds_96 : decode cX4_adds 96 = .ok (.getfield 374, 3) := dk_180 1 118 (dk_at dksX4_adds_4 0 rfl rfl)
theorem dX4_adds_99 : decode cX4_adds 99 = .ok (.iconst 1, 1) := dk_4 (dk_at dksX4_adds_4 3 rfl rfl)
theorem dX4_adds_100 : decode cX4_adds 100 = .ok (.iadd, 1) := dk_96 (dk_at dksX4_adds_4 4 rfl rfl)
theorem dX4_adds_101 : decode cX4_adds 101 = .ok (.putfield 374, 3) := dk_181 1 118 (dk_at dksX4_adds_4 5 rfl rfl)
theorem dX4_adds_104 : decode cX4_adds 104 = .ok (.return_, 1) := dk_177 (dk_at dksX4_adds_4 8 rfl rfl)
def dkwX4_loadsNode_2 : List UInt8 := [8, 28, 104, 96, 29, 96, 46, 182, 1, 20, 132, 3, 1, 167, 255, 224, 132, 2, 1, 167, 255, 208, 177]
abbrev dktX4_loadsNode_2 : List UInt8 := dkwX4_loadsNode_2 ++ []
def dkwX4_loadsNode_1 : List UInt8 := [162, 0, 46, 3, 62, 29, 42, 180, 1, 24, 162, 0, 30, 42, 28, 29, 42, 180, 0, 59, 16, 25, 27, 104]
abbrev dktX4_loadsNode_1 : List UInt8 := dkwX4_loadsNode_1 ++ dktX4_loadsNode_2
def dkwX4_loadsNode_0 : List UInt8 := [42, 42, 180, 0, 242, 4, 96, 181, 1, 24, 42, 3, 181, 1, 33, 3, 61, 28, 42, 180, 1, 24]
abbrev dktX4_loadsNode_0 : List UInt8 := dkwX4_loadsNode_0 ++ dktX4_loadsNode_1
theorem dksX4_loadsNode_0 : cX4_loadsNode.data.toList.drop 0 = dktX4_loadsNode_0 := by decide +kernel
theorem dksX4_loadsNode_1 : cX4_loadsNode.data.toList.drop 22 = dktX4_loadsNode_1 := dk_seg dksX4_loadsNode_0 22 rfl rfl
theorem dksX4_loadsNode_2 : cX4_loadsNode.data.toList.drop 46 = dktX4_loadsNode_2 := dk_seg dksX4_loadsNode_1 24 rfl rfl
theorem dX4_loadsNode_0 : decode cX4_loadsNode 0 = .ok (.aload_n 0, 1) := dk_42 (dk_at dksX4_loadsNode_0 0 rfl rfl)
theorem dX4_loadsNode_1 : decode cX4_loadsNode 1 = .ok (.aload_n 0, 1) := dk_42 (dk_at dksX4_loadsNode_0 1 rfl rfl)
theorem dX4_loadsNode_2 : decode cX4_loadsNode 2 = .ok (.getfield 242, 3) := dk_180 0 242 (dk_at dksX4_loadsNode_0 2 rfl rfl)
theorem dX4_loadsNode_5 : decode cX4_loadsNode 5 = .ok (.iconst 1, 1) := dk_4 (dk_at dksX4_loadsNode_0 5 rfl rfl)
theorem dX4_loadsNode_6 : decode cX4_loadsNode 6 = .ok (.iadd, 1) := dk_96 (dk_at dksX4_loadsNode_0 6 rfl rfl)
theorem dX4_loadsNode_7 : decode cX4_loadsNode 7 = .ok (.putfield 280, 3) := dk_181 1 24 (dk_at dksX4_loadsNode_0 7 rfl rfl)
theorem dX4_loadsNode_10 : decode cX4_loadsNode 10 = .ok (.aload_n 0, 1) := dk_42 (dk_at dksX4_loadsNode_0 10 rfl rfl)
theorem dX4_loadsNode_11 : decode cX4_loadsNode 11 = .ok (.iconst 0, 1) := dk_3 (dk_at dksX4_loadsNode_0 11 rfl rfl)
theorem dX4_loadsNode_12 : decode cX4_loadsNode 12 = .ok (.putfield 289, 3) := dk_181 1 33 (dk_at dksX4_loadsNode_0 12 rfl rfl)
theorem dX4_loadsNode_15 : decode cX4_loadsNode 15 = .ok (.iconst 0, 1) := dk_3 (dk_at dksX4_loadsNode_0 15 rfl rfl)
theorem dX4_loadsNode_16 : decode cX4_loadsNode 16 = .ok (.istore_n 2, 1) := dk_61 (dk_at dksX4_loadsNode_0 16 rfl rfl)
theorem dX4_loadsNode_17 : decode cX4_loadsNode 17 = .ok (.iload_n 2, 1) := dk_28 (dk_at dksX4_loadsNode_0 17 rfl rfl)
theorem dX4_loadsNode_18 : decode cX4_loadsNode 18 = .ok (.aload_n 0, 1) := dk_42 (dk_at dksX4_loadsNode_0 18 rfl rfl)
theorem dX4_loadsNode_19 : decode cX4_loadsNode 19 = .ok (.getfield 280, 3) := dk_180 1 24 (dk_at dksX4_loadsNode_0 19 rfl rfl)
theorem dX4_loadsNode_22 : decode cX4_loadsNode 22 = .ok (.if_icmp .ge 46, 3) := dk_162 0 46 (dk_at dksX4_loadsNode_1 0 rfl rfl)
theorem dX4_loadsNode_25 : decode cX4_loadsNode 25 = .ok (.iconst 0, 1) := dk_3 (dk_at dksX4_loadsNode_1 3 rfl rfl)
theorem dX4_loadsNode_26 : decode cX4_loadsNode 26 = .ok (.istore_n 3, 1) := dk_62 (dk_at dksX4_loadsNode_1 4 rfl rfl)
theorem dX4_loadsNode_27 : decode cX4_loadsNode 27 = .ok (.iload_n 3, 1) := dk_29 (dk_at dksX4_loadsNode_1 5 rfl rfl)
theorem dX4_loadsNode_28 : decode cX4_loadsNode 28 = .ok (.aload_n 0, 1) := dk_42 (dk_at dksX4_loadsNode_1 6 rfl rfl)
theorem dX4_loadsNode_29 : decode cX4_loadsNode 29 = .ok (.getfield 280, 3) := dk_180 1 24 (dk_at dksX4_loadsNode_1 7 rfl rfl)
theorem dX4_loadsNode_32 : decode cX4_loadsNode 32 = .ok (.if_icmp .ge 30, 3) := dk_162 0 30 (dk_at dksX4_loadsNode_1 10 rfl rfl)
theorem dX4_loadsNode_35 : decode cX4_loadsNode 35 = .ok (.aload_n 0, 1) := dk_42 (dk_at dksX4_loadsNode_1 13 rfl rfl)
theorem dX4_loadsNode_36 : decode cX4_loadsNode 36 = .ok (.iload_n 2, 1) := dk_28 (dk_at dksX4_loadsNode_1 14 rfl rfl)
theorem dX4_loadsNode_37 : decode cX4_loadsNode 37 = .ok (.iload_n 3, 1) := dk_29 (dk_at dksX4_loadsNode_1 15 rfl rfl)
theorem dX4_loadsNode_38 : decode cX4_loadsNode 38 = .ok (.aload_n 0, 1) := dk_42 (dk_at dksX4_loadsNode_1 16 rfl rfl)
theorem dX4_loadsNode_39 : decode cX4_loadsNode 39 = .ok (.getfield 59, 3) := dk_180 0 59 (dk_at dksX4_loadsNode_1 17 rfl rfl)
theorem dX4_loadsNode_42 : decode cX4_loadsNode 42 = .ok (.bipush 25, 2) := dk_16 25 (dk_at dksX4_loadsNode_1 20 rfl rfl)
theorem dX4_loadsNode_44 : decode cX4_loadsNode 44 = .ok (.iload_n 1, 1) := dk_27 (dk_at dksX4_loadsNode_1 22 rfl rfl)
theorem dX4_loadsNode_45 : decode cX4_loadsNode 45 = .ok (.imul, 1) := dk_104 (dk_at dksX4_loadsNode_1 23 rfl rfl)
theorem dX4_loadsNode_46 : decode cX4_loadsNode 46 = .ok (.iconst 5, 1) := dk_8 (dk_at dksX4_loadsNode_2 0 rfl rfl)
theorem dX4_loadsNode_47 : decode cX4_loadsNode 47 = .ok (.iload_n 2, 1) := dk_28 (dk_at dksX4_loadsNode_2 1 rfl rfl)
theorem dX4_loadsNode_48 : decode cX4_loadsNode 48 = .ok (.imul, 1) := dk_104 (dk_at dksX4_loadsNode_2 2 rfl rfl)
theorem dX4_loadsNode_49 : decode cX4_loadsNode 49 = .ok (.iadd, 1) := dk_96 (dk_at dksX4_loadsNode_2 3 rfl rfl)
theorem dX4_loadsNode_50 : decode cX4_loadsNode 50 = .ok (.iload_n 3, 1) := dk_29 (dk_at dksX4_loadsNode_2 4 rfl rfl)
theorem dX4_loadsNode_51 : decode cX4_loadsNode 51 = .ok (.iadd, 1) := dk_96 (dk_at dksX4_loadsNode_2 5 rfl rfl)
theorem dX4_loadsNode_52 : decode cX4_loadsNode 52 = .ok (.iaload, 1) := dk_46 (dk_at dksX4_loadsNode_2 6 rfl rfl)
theorem dX4_loadsNode_53 : decode cX4_loadsNode 53 = .ok (.invokevirtual 276, 3) := dk_182 1 20 (dk_at dksX4_loadsNode_2 7 rfl rfl)
theorem dX4_loadsNode_56 : decode cX4_loadsNode 56 = .ok (.iinc 3 1, 3) := dk_132 3 1 (dk_at dksX4_loadsNode_2 10 rfl rfl)
theorem dX4_loadsNode_59 : decode cX4_loadsNode 59 = .ok (.goto (-32), 3) := dk_167 255 224 (dk_at dksX4_loadsNode_2 13 rfl rfl)
theorem dX4_loadsNode_62 : decode cX4_loadsNode 62 = .ok (.iinc 2 1, 3) := dk_132 2 1 (dk_at dksX4_loadsNode_2 16 rfl rfl)
theorem dX4_loadsNode_65 : decode cX4_loadsNode 65 = .ok (.goto (-48), 3) := dk_167 255 208 (dk_at dksX4_loadsNode_2 19 rfl rfl)
theorem dX4_loadsNode_68 : decode cX4_loadsNode 68 = .ok (.return_, 1) := dk_177 (dk_at dksX4_loadsNode_2 22 rfl rfl)
def dkwX4_steps_2 : List UInt8 := [167, 255, 221, 42, 42, 180, 0, 29, 27, 46, 182, 1, 56, 177]
abbrev dktX4_steps_2 : List UInt8 := dkwX4_steps_2 ++ []
def dkwX4_steps_1 : List UInt8 := [162, 0, 27, 42, 42, 180, 0, 35, 28, 46, 4, 96, 42, 180, 0, 38, 28, 46, 182, 1, 53, 132, 2, 1]
abbrev dktX4_steps_1 : List UInt8 := dkwX4_steps_1 ++ dktX4_steps_2
def dkwX4_steps_0 : List UInt8 := [42, 16, 8, 27, 96, 182, 1, 47, 7, 27, 104, 61, 28, 7, 27, 104, 42, 180, 0, 32, 27, 46, 96]
abbrev dktX4_steps_0 : List UInt8 := dkwX4_steps_0 ++ dktX4_steps_1
theorem dksX4_steps_0 : cX4_steps.data.toList.drop 0 = dktX4_steps_0 := by decide +kernel
theorem dksX4_steps_1 : cX4_steps.data.toList.drop 23 = dktX4_steps_1 := dk_seg dksX4_steps_0 23 rfl rfl
theorem dksX4_steps_2 : cX4_steps.data.toList.drop 47 = dktX4_steps_2 := dk_seg dksX4_steps_1 24 rfl rfl
theorem dX4_steps_0 : decode cX4_steps 0 = .ok (.aload_n 0, 1) := dk_42 (dk_at dksX4_steps_0 0 rfl rfl)
theorem dX4_steps_1 : decode cX4_steps 1 = .ok (.bipush 8, 2) := dk_16 8 (dk_at dksX4_steps_0 1 rfl rfl)
theorem dX4_steps_3 : decode cX4_steps 3 = .ok (.iload_n 1, 1) := dk_27 (dk_at dksX4_steps_0 3 rfl rfl)
theorem dX4_steps_4 : decode cX4_steps 4 = .ok (.iadd, 1) := dk_96 (dk_at dksX4_steps_0 4 rfl rfl)
theorem dX4_steps_5 : decode cX4_steps 5 = .ok (.invokevirtual 303, 3) := dk_182 1 47 (dk_at dksX4_steps_0 5 rfl rfl)
theorem dX4_steps_8 : decode cX4_steps 8 = .ok (.iconst 4, 1) := dk_7 (dk_at dksX4_steps_0 8 rfl rfl)
theorem dX4_steps_9 : decode cX4_steps 9 = .ok (.iload_n 1, 1) := dk_27 (dk_at dksX4_steps_0 9 rfl rfl)
theorem dX4_steps_10 : decode cX4_steps 10 = .ok (.imul, 1) := dk_104 (dk_at dksX4_steps_0 10 rfl rfl)
theorem dX4_steps_11 : decode cX4_steps 11 = .ok (.istore_n 2, 1) := dk_61 (dk_at dksX4_steps_0 11 rfl rfl)
theorem dX4_steps_12 : decode cX4_steps 12 = .ok (.iload_n 2, 1) := dk_28 (dk_at dksX4_steps_0 12 rfl rfl)
theorem dX4_steps_13 : decode cX4_steps 13 = .ok (.iconst 4, 1) := dk_7 (dk_at dksX4_steps_0 13 rfl rfl)
theorem dX4_steps_14 : decode cX4_steps 14 = .ok (.iload_n 1, 1) := dk_27 (dk_at dksX4_steps_0 14 rfl rfl)
theorem dX4_steps_15 : decode cX4_steps 15 = .ok (.imul, 1) := dk_104 (dk_at dksX4_steps_0 15 rfl rfl)
theorem dX4_steps_16 : decode cX4_steps 16 = .ok (.aload_n 0, 1) := dk_42 (dk_at dksX4_steps_0 16 rfl rfl)
theorem dX4_steps_17 : decode cX4_steps 17 = .ok (.getfield 32, 3) := dk_180 0 32 (dk_at dksX4_steps_0 17 rfl rfl)
theorem dX4_steps_20 : decode cX4_steps 20 = .ok (.iload_n 1, 1) := dk_27 (dk_at dksX4_steps_0 20 rfl rfl)
theorem dX4_steps_21 : decode cX4_steps 21 = .ok (.iaload, 1) := dk_46 (dk_at dksX4_steps_0 21 rfl rfl)
theorem dX4_steps_22 : decode cX4_steps 22 = .ok (.iadd, 1) := dk_96 (dk_at dksX4_steps_0 22 rfl rfl)
theorem dX4_steps_23 : decode cX4_steps 23 = .ok (.if_icmp .ge 27, 3) := dk_162 0 27 (dk_at dksX4_steps_1 0 rfl rfl)
theorem dX4_steps_26 : decode cX4_steps 26 = .ok (.aload_n 0, 1) := dk_42 (dk_at dksX4_steps_1 3 rfl rfl)
theorem dX4_steps_27 : decode cX4_steps 27 = .ok (.aload_n 0, 1) := dk_42 (dk_at dksX4_steps_1 4 rfl rfl)
theorem dX4_steps_28 : decode cX4_steps 28 = .ok (.getfield 35, 3) := dk_180 0 35 (dk_at dksX4_steps_1 5 rfl rfl)
theorem dX4_steps_31 : decode cX4_steps 31 = .ok (.iload_n 2, 1) := dk_28 (dk_at dksX4_steps_1 8 rfl rfl)
theorem dX4_steps_32 : decode cX4_steps 32 = .ok (.iaload, 1) := dk_46 (dk_at dksX4_steps_1 9 rfl rfl)
theorem dX4_steps_33 : decode cX4_steps 33 = .ok (.iconst 1, 1) := dk_4 (dk_at dksX4_steps_1 10 rfl rfl)
theorem dX4_steps_34 : decode cX4_steps 34 = .ok (.iadd, 1) := dk_96 (dk_at dksX4_steps_1 11 rfl rfl)
theorem dX4_steps_35 : decode cX4_steps 35 = .ok (.aload_n 0, 1) := dk_42 (dk_at dksX4_steps_1 12 rfl rfl)
theorem dX4_steps_36 : decode cX4_steps 36 = .ok (.getfield 38, 3) := dk_180 0 38 (dk_at dksX4_steps_1 13 rfl rfl)
theorem dX4_steps_39 : decode cX4_steps 39 = .ok (.iload_n 2, 1) := dk_28 (dk_at dksX4_steps_1 16 rfl rfl)
theorem dX4_steps_40 : decode cX4_steps 40 = .ok (.iaload, 1) := dk_46 (dk_at dksX4_steps_1 17 rfl rfl)
theorem dX4_steps_41 : decode cX4_steps 41 = .ok (.invokevirtual 309, 3) := dk_182 1 53 (dk_at dksX4_steps_1 18 rfl rfl)
theorem dX4_steps_44 : decode cX4_steps 44 = .ok (.iinc 2 1, 3) := dk_132 2 1 (dk_at dksX4_steps_1 21 rfl rfl)
theorem dX4_steps_47 : decode cX4_steps 47 = .ok (.goto (-35), 3) := dk_167 255 221 (dk_at dksX4_steps_2 0 rfl rfl)
theorem dX4_steps_50 : decode cX4_steps 50 = .ok (.aload_n 0, 1) := dk_42 (dk_at dksX4_steps_2 3 rfl rfl)
theorem dX4_steps_51 : decode cX4_steps 51 = .ok (.aload_n 0, 1) := dk_42 (dk_at dksX4_steps_2 4 rfl rfl)
theorem dX4_steps_52 : decode cX4_steps 52 = .ok (.getfield 29, 3) := dk_180 0 29 (dk_at dksX4_steps_2 5 rfl rfl)
theorem dX4_steps_55 : decode cX4_steps 55 = .ok (.iload_n 1, 1) := dk_27 (dk_at dksX4_steps_2 8 rfl rfl)
theorem dX4_steps_56 : decode cX4_steps 56 = .ok (.iaload, 1) := dk_46 (dk_at dksX4_steps_2 9 rfl rfl)
theorem dX4_steps_57 : decode cX4_steps 57 = .ok (.invokevirtual 312, 3) := dk_182 1 56 (dk_at dksX4_steps_2 10 rfl rfl)
theorem dX4_steps_60 : decode cX4_steps 60 = .ok (.return_, 1) := dk_177 (dk_at dksX4_steps_2 13 rfl rfl)
def dkwX4_sets_2 : List UInt8 := [28, 116, 184, 1, 36, 184, 1, 27, 182, 1, 20, 132, 3, 1, 167, 255, 198, 177]
abbrev dktX4_sets_2 : List UInt8 := dkwX4_sets_2 ++ []
def dkwX4_sets_1 : List UInt8 := [184, 1, 36, 42, 3, 29, 182, 1, 16, 184, 1, 27, 182, 1, 20, 42, 29, 27, 42, 29, 3, 182, 1, 16]
abbrev dktX4_sets_1 : List UInt8 := dkwX4_sets_1 ++ dktX4_sets_2
def dkwX4_sets_0 : List UInt8 := [3, 62, 29, 42, 180, 1, 24, 162, 0, 56, 29, 27, 160, 0, 6, 167, 0, 42, 42, 27, 29, 28]
abbrev dktX4_sets_0 : List UInt8 := dkwX4_sets_0 ++ dktX4_sets_1
theorem dksX4_sets_0 : cX4_sets.data.toList.drop 0 = dktX4_sets_0 := by decide +kernel
theorem dksX4_sets_1 : cX4_sets.data.toList.drop 22 = dktX4_sets_1 := dk_seg dksX4_sets_0 22 rfl rfl
theorem dksX4_sets_2 : cX4_sets.data.toList.drop 46 = dktX4_sets_2 := dk_seg dksX4_sets_1 24 rfl rfl
theorem dX4_sets_0 : decode cX4_sets 0 = .ok (.iconst 0, 1) := dk_3 (dk_at dksX4_sets_0 0 rfl rfl)
theorem dX4_sets_1 : decode cX4_sets 1 = .ok (.istore_n 3, 1) := dk_62 (dk_at dksX4_sets_0 1 rfl rfl)
theorem dX4_sets_2 : decode cX4_sets 2 = .ok (.iload_n 3, 1) := dk_29 (dk_at dksX4_sets_0 2 rfl rfl)
theorem dX4_sets_3 : decode cX4_sets 3 = .ok (.aload_n 0, 1) := dk_42 (dk_at dksX4_sets_0 3 rfl rfl)
theorem dX4_sets_4 : decode cX4_sets 4 = .ok (.getfield 280, 3) := dk_180 1 24 (dk_at dksX4_sets_0 4 rfl rfl)
theorem dX4_sets_7 : decode cX4_sets 7 = .ok (.if_icmp .ge 56, 3) := dk_162 0 56 (dk_at dksX4_sets_0 7 rfl rfl)
theorem dX4_sets_10 : decode cX4_sets 10 = .ok (.iload_n 3, 1) := dk_29 (dk_at dksX4_sets_0 10 rfl rfl)
theorem dX4_sets_11 : decode cX4_sets 11 = .ok (.iload_n 1, 1) := dk_27 (dk_at dksX4_sets_0 11 rfl rfl)
theorem dX4_sets_12 : decode cX4_sets 12 = .ok (.if_icmp .ne 6, 3) := dk_160 0 6 (dk_at dksX4_sets_0 12 rfl rfl)
theorem dX4_sets_15 : decode cX4_sets 15 = .ok (.goto 42, 3) := dk_167 0 42 (dk_at dksX4_sets_0 15 rfl rfl)
theorem dX4_sets_18 : decode cX4_sets 18 = .ok (.aload_n 0, 1) := dk_42 (dk_at dksX4_sets_0 18 rfl rfl)
theorem dX4_sets_19 : decode cX4_sets 19 = .ok (.iload_n 1, 1) := dk_27 (dk_at dksX4_sets_0 19 rfl rfl)
theorem dX4_sets_20 : decode cX4_sets 20 = .ok (.iload_n 3, 1) := dk_29 (dk_at dksX4_sets_0 20 rfl rfl)
theorem dX4_sets_21 : decode cX4_sets 21 = .ok (.iload_n 2, 1) := dk_28 (dk_at dksX4_sets_0 21 rfl rfl)
theorem dX4_sets_22 : decode cX4_sets 22 = .ok (.invokestatic 292, 3) := dk_184 1 36 (dk_at dksX4_sets_1 0 rfl rfl)
theorem dX4_sets_25 : decode cX4_sets 25 = .ok (.aload_n 0, 1) := dk_42 (dk_at dksX4_sets_1 3 rfl rfl)
theorem dX4_sets_26 : decode cX4_sets 26 = .ok (.iconst 0, 1) := dk_3 (dk_at dksX4_sets_1 4 rfl rfl)
theorem dX4_sets_27 : decode cX4_sets 27 = .ok (.iload_n 3, 1) := dk_29 (dk_at dksX4_sets_1 5 rfl rfl)
theorem dX4_sets_28 : decode cX4_sets 28 = .ok (.invokevirtual 272, 3) := dk_182 1 16 (dk_at dksX4_sets_1 6 rfl rfl)
theorem dX4_sets_31 : decode cX4_sets 31 = .ok (.invokestatic 283, 3) := dk_184 1 27 (dk_at dksX4_sets_1 9 rfl rfl)
theorem dX4_sets_34 : decode cX4_sets 34 = .ok (.invokevirtual 276, 3) := dk_182 1 20 (dk_at dksX4_sets_1 12 rfl rfl)
theorem dX4_sets_37 : decode cX4_sets 37 = .ok (.aload_n 0, 1) := dk_42 (dk_at dksX4_sets_1 15 rfl rfl)
theorem dX4_sets_38 : decode cX4_sets 38 = .ok (.iload_n 3, 1) := dk_29 (dk_at dksX4_sets_1 16 rfl rfl)
theorem dX4_sets_39 : decode cX4_sets 39 = .ok (.iload_n 1, 1) := dk_27 (dk_at dksX4_sets_1 17 rfl rfl)
theorem dX4_sets_40 : decode cX4_sets 40 = .ok (.aload_n 0, 1) := dk_42 (dk_at dksX4_sets_1 18 rfl rfl)
theorem dX4_sets_41 : decode cX4_sets 41 = .ok (.iload_n 3, 1) := dk_29 (dk_at dksX4_sets_1 19 rfl rfl)
theorem dX4_sets_42 : decode cX4_sets 42 = .ok (.iconst 0, 1) := dk_3 (dk_at dksX4_sets_1 20 rfl rfl)
theorem dX4_sets_43 : decode cX4_sets 43 = .ok (.invokevirtual 272, 3) := dk_182 1 16 (dk_at dksX4_sets_1 21 rfl rfl)
theorem dX4_sets_46 : decode cX4_sets 46 = .ok (.iload_n 2, 1) := dk_28 (dk_at dksX4_sets_2 0 rfl rfl)
theorem dX4_sets_47 : decode cX4_sets 47 = .ok (.ineg, 1) := dk_116 (dk_at dksX4_sets_2 1 rfl rfl)
theorem dX4_sets_48 : decode cX4_sets 48 = .ok (.invokestatic 292, 3) := dk_184 1 36 (dk_at dksX4_sets_2 2 rfl rfl)
theorem dX4_sets_51 : decode cX4_sets 51 = .ok (.invokestatic 283, 3) := dk_184 1 27 (dk_at dksX4_sets_2 5 rfl rfl)
theorem dX4_sets_54 : decode cX4_sets 54 = .ok (.invokevirtual 276, 3) := dk_182 1 20 (dk_at dksX4_sets_2 8 rfl rfl)
theorem dX4_sets_57 : decode cX4_sets 57 = .ok (.iinc 3 1, 3) := dk_132 3 1 (dk_at dksX4_sets_2 11 rfl rfl)
theorem dX4_sets_60 : decode cX4_sets 60 = .ok (.goto (-58), 3) := dk_167 255 198 (dk_at dksX4_sets_2 14 rfl rfl)
theorem dX4_sets_63 : decode cX4_sets 63 = .ok (.return_, 1) := dk_177 (dk_at dksX4_sets_2 17 rfl rfl)
def dkwX4_isKnown_1 : List UInt8 := [180, 0, 59, 16, 25, 28, 104, 182, 1, 127, 153, 0, 5, 4, 172, 132, 2, 1, 167, 255, 218, 3, 172]
abbrev dktX4_isKnown_1 : List UInt8 := dkwX4_isKnown_1 ++ []
def dkwX4_isKnown_0 : List UInt8 := [3, 61, 28, 42, 180, 1, 118, 162, 0, 36, 42, 180, 0, 50, 28, 46, 27, 160, 0, 20, 42, 42]
abbrev dktX4_isKnown_0 : List UInt8 := dkwX4_isKnown_0 ++ dktX4_isKnown_1
theorem dksX4_isKnown_0 : cX4_isKnown.data.toList.drop 0 = dktX4_isKnown_0 := by decide +kernel
theorem dksX4_isKnown_1 : cX4_isKnown.data.toList.drop 22 = dktX4_isKnown_1 := dk_seg dksX4_isKnown_0 22 rfl rfl
theorem dX4_isKnown_0 : decode cX4_isKnown 0 = .ok (.iconst 0, 1) := dk_3 (dk_at dksX4_isKnown_0 0 rfl rfl)
theorem dX4_isKnown_1 : decode cX4_isKnown 1 = .ok (.istore_n 2, 1) := dk_61 (dk_at dksX4_isKnown_0 1 rfl rfl)
theorem dX4_isKnown_2 : decode cX4_isKnown 2 = .ok (.iload_n 2, 1) := dk_28 (dk_at dksX4_isKnown_0 2 rfl rfl)
theorem dX4_isKnown_3 : decode cX4_isKnown 3 = .ok (.aload_n 0, 1) := dk_42 (dk_at dksX4_isKnown_0 3 rfl rfl)
theorem dX4_isKnown_4 : decode cX4_isKnown 4 = .ok (.getfield 374, 3) := dk_180 1 118 (dk_at dksX4_isKnown_0 4 rfl rfl)
theorem dX4_isKnown_7 : decode cX4_isKnown 7 = .ok (.if_icmp .ge 36, 3) := dk_162 0 36 (dk_at dksX4_isKnown_0 7 rfl rfl)
theorem dX4_isKnown_10 : decode cX4_isKnown 10 = .ok (.aload_n 0, 1) := dk_42 (dk_at dksX4_isKnown_0 10 rfl rfl)
theorem dX4_isKnown_11 : decode cX4_isKnown 11 = .ok (.getfield 50, 3) := dk_180 0 50 (dk_at dksX4_isKnown_0 11 rfl rfl)
theorem dX4_isKnown_14 : decode cX4_isKnown 14 = .ok (.iload_n 2, 1) := dk_28 (dk_at dksX4_isKnown_0 14 rfl rfl)
theorem dX4_isKnown_15 : decode cX4_isKnown 15 = .ok (.iaload, 1) := dk_46 (dk_at dksX4_isKnown_0 15 rfl rfl)
theorem dX4_isKnown_16 : decode cX4_isKnown 16 = .ok (.iload_n 1, 1) := dk_27 (dk_at dksX4_isKnown_0 16 rfl rfl)
theorem dX4_isKnown_17 : decode cX4_isKnown 17 = .ok (.if_icmp .ne 20, 3) := dk_160 0 20 (dk_at dksX4_isKnown_0 17 rfl rfl)
theorem dX4_isKnown_20 : decode cX4_isKnown 20 = .ok (.aload_n 0, 1) := dk_42 (dk_at dksX4_isKnown_0 20 rfl rfl)
theorem dX4_isKnown_21 : decode cX4_isKnown 21 = .ok (.aload_n 0, 1) := dk_42 (dk_at dksX4_isKnown_0 21 rfl rfl)
theorem dX4_isKnown_22 : decode cX4_isKnown 22 = .ok (.getfield 59, 3) := dk_180 0 59 (dk_at dksX4_isKnown_1 0 rfl rfl)
theorem dX4_isKnown_25 : decode cX4_isKnown 25 = .ok (.bipush 25, 2) := dk_16 25 (dk_at dksX4_isKnown_1 3 rfl rfl)
theorem dX4_isKnown_27 : decode cX4_isKnown 27 = .ok (.iload_n 2, 1) := dk_28 (dk_at dksX4_isKnown_1 5 rfl rfl)
theorem dX4_isKnown_28 : decode cX4_isKnown 28 = .ok (.imul, 1) := dk_104 (dk_at dksX4_isKnown_1 6 rfl rfl)
theorem dX4_isKnown_29 : decode cX4_isKnown 29 = .ok (.invokevirtual 383, 3) := dk_182 1 127 (dk_at dksX4_isKnown_1 7 rfl rfl)
theorem dX4_isKnown_32 : decode cX4_isKnown 32 = .ok (.ifCond .eq 5, 3) := dk_153 0 5 (dk_at dksX4_isKnown_1 10 rfl rfl)
theorem dX4_isKnown_35 : decode cX4_isKnown 35 = .ok (.iconst 1, 1) := dk_4 (dk_at dksX4_isKnown_1 13 rfl rfl)
theorem dX4_isKnown_36 : decode cX4_isKnown 36 = .ok (.ireturn, 1) := dk_172 (dk_at dksX4_isKnown_1 14 rfl rfl)
theorem dX4_isKnown_37 : decode cX4_isKnown 37 = .ok (.iinc 2 1, 3) := dk_132 2 1 (dk_at dksX4_isKnown_1 15 rfl rfl)
theorem dX4_isKnown_40 : decode cX4_isKnown 40 = .ok (.goto (-38), 3) := dk_167 255 218 (dk_at dksX4_isKnown_1 18 rfl rfl)
theorem dX4_isKnown_43 : decode cX4_isKnown 43 = .ok (.iconst 0, 1) := dk_3 (dk_at dksX4_isKnown_1 21 rfl rfl)
theorem dX4_isKnown_44 : decode cX4_isKnown 44 = .ok (.ireturn, 1) := dk_172 (dk_at dksX4_isKnown_1 22 rfl rfl)
def dkwX4_isInside_2 : List UInt8 := [167, 255, 222, 132, 3, 1, 167, 255, 205, 4, 172]
abbrev dktX4_isInside_2 : List UInt8 := dkwX4_isInside_2 ++ []
def dkwX4_isInside_1 : List UInt8 := [21, 4, 182, 1, 16, 43, 28, 8, 29, 104, 96, 21, 4, 96, 46, 164, 0, 5, 3, 172, 132, 4, 1]
abbrev dktX4_isInside_1 : List UInt8 := dkwX4_isInside_1 ++ dktX4_isInside_2
def dkwX4_isInside_0 : List UInt8 := [3, 62, 29, 42, 180, 1, 24, 162, 0, 49, 3, 54, 4, 21, 4, 42, 180, 1, 24, 162, 0, 31, 42, 29]
abbrev dktX4_isInside_0 : List UInt8 := dkwX4_isInside_0 ++ dktX4_isInside_1
theorem dksX4_isInside_0 : cX4_isInside.data.toList.drop 0 = dktX4_isInside_0 := by decide +kernel
theorem dksX4_isInside_1 : cX4_isInside.data.toList.drop 24 = dktX4_isInside_1 := dk_seg dksX4_isInside_0 24 rfl rfl
theorem dksX4_isInside_2 : cX4_isInside.data.toList.drop 47 = dktX4_isInside_2 := dk_seg dksX4_isInside_1 23 rfl rfl
theorem dX4_isInside_0 : decode cX4_isInside 0 = .ok (.iconst 0, 1) := dk_3 (dk_at dksX4_isInside_0 0 rfl rfl)
theorem dX4_isInside_1 : decode cX4_isInside 1 = .ok (.istore_n 3, 1) := dk_62 (dk_at dksX4_isInside_0 1 rfl rfl)
theorem dX4_isInside_2 : decode cX4_isInside 2 = .ok (.iload_n 3, 1) := dk_29 (dk_at dksX4_isInside_0 2 rfl rfl)
theorem dX4_isInside_3 : decode cX4_isInside 3 = .ok (.aload_n 0, 1) := dk_42 (dk_at dksX4_isInside_0 3 rfl rfl)
theorem dX4_isInside_4 : decode cX4_isInside 4 = .ok (.getfield 280, 3) := dk_180 1 24 (dk_at dksX4_isInside_0 4 rfl rfl)
theorem dX4_isInside_7 : decode cX4_isInside 7 = .ok (.if_icmp .ge 49, 3) := dk_162 0 49 (dk_at dksX4_isInside_0 7 rfl rfl)
theorem dX4_isInside_10 : decode cX4_isInside 10 = .ok (.iconst 0, 1) := dk_3 (dk_at dksX4_isInside_0 10 rfl rfl)
theorem dX4_isInside_11 : decode cX4_isInside 11 = .ok (.istore 4, 2) := dk_54 4 (dk_at dksX4_isInside_0 11 rfl rfl)
theorem dX4_isInside_13 : decode cX4_isInside 13 = .ok (.iload 4, 2) := dk_21 4 (dk_at dksX4_isInside_0 13 rfl rfl)
theorem dX4_isInside_15 : decode cX4_isInside 15 = .ok (.aload_n 0, 1) := dk_42 (dk_at dksX4_isInside_0 15 rfl rfl)
theorem dX4_isInside_16 : decode cX4_isInside 16 = .ok (.getfield 280, 3) := dk_180 1 24 (dk_at dksX4_isInside_0 16 rfl rfl)
theorem dX4_isInside_19 : decode cX4_isInside 19 = .ok (.if_icmp .ge 31, 3) := dk_162 0 31 (dk_at dksX4_isInside_0 19 rfl rfl)
theorem dX4_isInside_22 : decode cX4_isInside 22 = .ok (.aload_n 0, 1) := dk_42 (dk_at dksX4_isInside_0 22 rfl rfl)
theorem dX4_isInside_23 : decode cX4_isInside 23 = .ok (.iload_n 3, 1) := dk_29 (dk_at dksX4_isInside_0 23 rfl rfl)
theorem dX4_isInside_24 : decode cX4_isInside 24 = .ok (.iload 4, 2) := dk_21 4 (dk_at dksX4_isInside_1 0 rfl rfl)
theorem dX4_isInside_26 : decode cX4_isInside 26 = .ok (.invokevirtual 272, 3) := dk_182 1 16 (dk_at dksX4_isInside_1 2 rfl rfl)
theorem dX4_isInside_29 : decode cX4_isInside 29 = .ok (.aload_n 1, 1) := dk_43 (dk_at dksX4_isInside_1 5 rfl rfl)
theorem dX4_isInside_30 : decode cX4_isInside 30 = .ok (.iload_n 2, 1) := dk_28 (dk_at dksX4_isInside_1 6 rfl rfl)
theorem dX4_isInside_31 : decode cX4_isInside 31 = .ok (.iconst 5, 1) := dk_8 (dk_at dksX4_isInside_1 7 rfl rfl)
theorem dX4_isInside_32 : decode cX4_isInside 32 = .ok (.iload_n 3, 1) := dk_29 (dk_at dksX4_isInside_1 8 rfl rfl)
theorem dX4_isInside_33 : decode cX4_isInside 33 = .ok (.imul, 1) := dk_104 (dk_at dksX4_isInside_1 9 rfl rfl)
theorem dX4_isInside_34 : decode cX4_isInside 34 = .ok (.iadd, 1) := dk_96 (dk_at dksX4_isInside_1 10 rfl rfl)
theorem dX4_isInside_35 : decode cX4_isInside 35 = .ok (.iload 4, 2) := dk_21 4 (dk_at dksX4_isInside_1 11 rfl rfl)
theorem dX4_isInside_37 : decode cX4_isInside 37 = .ok (.iadd, 1) := dk_96 (dk_at dksX4_isInside_1 13 rfl rfl)
theorem dX4_isInside_38 : decode cX4_isInside 38 = .ok (.iaload, 1) := dk_46 (dk_at dksX4_isInside_1 14 rfl rfl)
theorem dX4_isInside_39 : decode cX4_isInside 39 = .ok (.if_icmp .le 5, 3) := dk_164 0 5 (dk_at dksX4_isInside_1 15 rfl rfl)
theorem dX4_isInside_42 : decode cX4_isInside 42 = .ok (.iconst 0, 1) := dk_3 (dk_at dksX4_isInside_1 18 rfl rfl)
theorem dX4_isInside_43 : decode cX4_isInside 43 = .ok (.ireturn, 1) := dk_172 (dk_at dksX4_isInside_1 19 rfl rfl)
theorem dX4_isInside_44 : decode cX4_isInside 44 = .ok (.iinc 4 1, 3) := dk_132 4 1 (dk_at dksX4_isInside_1 20 rfl rfl)
theorem dX4_isInside_47 : decode cX4_isInside 47 = .ok (.goto (-34), 3) := dk_167 255 222 (dk_at dksX4_isInside_2 0 rfl rfl)
theorem dX4_isInside_50 : decode cX4_isInside 50 = .ok (.iinc 3 1, 3) := dk_132 3 1 (dk_at dksX4_isInside_2 3 rfl rfl)
theorem dX4_isInside_53 : decode cX4_isInside 53 = .ok (.goto (-51), 3) := dk_167 255 205 (dk_at dksX4_isInside_2 6 rfl rfl)
theorem dX4_isInside_56 : decode cX4_isInside 56 = .ok (.iconst 1, 1) := dk_4 (dk_at dksX4_isInside_2 9 rfl rfl)
theorem dX4_isInside_57 : decode cX4_isInside 57 = .ok (.ireturn, 1) := dk_172 (dk_at dksX4_isInside_2 10 rfl rfl)
def dkwX4_fault_1 : List UInt8 := [180, 0, 66, 167, 0, 4, 2, 172]
abbrev dktX4_fault_1 : List UInt8 := dkwX4_fault_1 ++ []
def dkwX4_fault_0 : List UInt8 := [42, 3, 181, 0, 1, 27, 154, 0, 10, 42, 180, 0, 166, 167, 0, 16, 27, 4, 160, 0, 10, 42]
abbrev dktX4_fault_0 : List UInt8 := dkwX4_fault_0 ++ dktX4_fault_1
theorem dksX4_fault_0 : cX4_fault.data.toList.drop 0 = dktX4_fault_0 := by decide +kernel
theorem dksX4_fault_1 : cX4_fault.data.toList.drop 22 = dktX4_fault_1 := dk_seg dksX4_fault_0 22 rfl rfl
theorem dX4_fault_0 : decode cX4_fault 0 = .ok (.aload_n 0, 1) := dk_42 (dk_at dksX4_fault_0 0 rfl rfl)
theorem dX4_fault_1 : decode cX4_fault 1 = .ok (.iconst 0, 1) := dk_3 (dk_at dksX4_fault_0 1 rfl rfl)
theorem dX4_fault_2 : decode cX4_fault 2 = .ok (.putfield 1, 3) := dk_181 0 1 (dk_at dksX4_fault_0 2 rfl rfl)
theorem dX4_fault_5 : decode cX4_fault 5 = .ok (.iload_n 1, 1) := dk_27 (dk_at dksX4_fault_0 5 rfl rfl)
theorem dX4_fault_6 : decode cX4_fault 6 = .ok (.ifCond .ne 10, 3) := dk_154 0 10 (dk_at dksX4_fault_0 6 rfl rfl)
theorem dX4_fault_9 : decode cX4_fault 9 = .ok (.aload_n 0, 1) := dk_42 (dk_at dksX4_fault_0 9 rfl rfl)
theorem dX4_fault_10 : decode cX4_fault 10 = .ok (.getfield 166, 3) := dk_180 0 166 (dk_at dksX4_fault_0 10 rfl rfl)
theorem dX4_fault_13 : decode cX4_fault 13 = .ok (.goto 16, 3) := dk_167 0 16 (dk_at dksX4_fault_0 13 rfl rfl)
theorem dX4_fault_16 : decode cX4_fault 16 = .ok (.iload_n 1, 1) := dk_27 (dk_at dksX4_fault_0 16 rfl rfl)
theorem dX4_fault_17 : decode cX4_fault 17 = .ok (.iconst 1, 1) := dk_4 (dk_at dksX4_fault_0 17 rfl rfl)
theorem dX4_fault_18 : decode cX4_fault 18 = .ok (.if_icmp .ne 10, 3) := dk_160 0 10 (dk_at dksX4_fault_0 18 rfl rfl)
theorem dX4_fault_21 : decode cX4_fault 21 = .ok (.aload_n 0, 1) := dk_42 (dk_at dksX4_fault_0 21 rfl rfl)
theorem dX4_fault_22 : decode cX4_fault 22 = .ok (.getfield 66, 3) := dk_180 0 66 (dk_at dksX4_fault_1 0 rfl rfl)
theorem dX4_fault_25 : decode cX4_fault 25 = .ok (.goto 4, 3) := dk_167 0 4 (dk_at dksX4_fault_1 3 rfl rfl)
theorem dX4_fault_28 : decode cX4_fault 28 = .ok (.iconst (-1), 1) := dk_2 (dk_at dksX4_fault_1 6 rfl rfl)
theorem dX4_fault_29 : decode cX4_fault 29 = .ok (.ireturn, 1) := dk_172 (dk_at dksX4_fault_1 7 rfl rfl)
def dkwX4_undo_2 : List UInt8 := [27, 96, 46, 79, 132, 1, 1, 167, 255, 227, 42, 180, 1, 5, 172]
abbrev dktX4_undo_2 : List UInt8 := dkwX4_undo_2 ++ []
def dkwX4_undo_1 : List UInt8 := [3, 60, 27, 16, 125, 162, 0, 29, 42, 180, 0, 44, 27, 42, 180, 0, 47, 16, 125, 42, 180, 1, 5, 104]
abbrev dktX4_undo_1 : List UInt8 := dkwX4_undo_1 ++ dktX4_undo_2
def dkwX4_undo_0 : List UInt8 := [42, 3, 181, 0, 1, 42, 180, 1, 5, 154, 0, 5, 2, 172, 42, 89, 180, 1, 5, 4, 100, 181, 1, 5]
abbrev dktX4_undo_0 : List UInt8 := dkwX4_undo_0 ++ dktX4_undo_1
theorem dksX4_undo_0 : cX4_undo.data.toList.drop 0 = dktX4_undo_0 := by decide +kernel
theorem dksX4_undo_1 : cX4_undo.data.toList.drop 24 = dktX4_undo_1 := dk_seg dksX4_undo_0 24 rfl rfl
theorem dksX4_undo_2 : cX4_undo.data.toList.drop 48 = dktX4_undo_2 := dk_seg dksX4_undo_1 24 rfl rfl
theorem dX4_undo_0 : decode cX4_undo 0 = .ok (.aload_n 0, 1) := dk_42 (dk_at dksX4_undo_0 0 rfl rfl)
theorem dX4_undo_1 : decode cX4_undo 1 = .ok (.iconst 0, 1) := dk_3 (dk_at dksX4_undo_0 1 rfl rfl)
theorem dX4_undo_2 : decode cX4_undo 2 = .ok (.putfield 1, 3) := dk_181 0 1 (dk_at dksX4_undo_0 2 rfl rfl)
theorem dX4_undo_5 : decode cX4_undo 5 = .ok (.aload_n 0, 1) := dk_42 (dk_at dksX4_undo_0 5 rfl rfl)
theorem dX4_undo_6 : decode cX4_undo 6 = .ok (.getfield 261, 3) := dk_180 1 5 (dk_at dksX4_undo_0 6 rfl rfl)
theorem dX4_undo_9 : decode cX4_undo 9 = .ok (.ifCond .ne 5, 3) := dk_154 0 5 (dk_at dksX4_undo_0 9 rfl rfl)
theorem dX4_undo_12 : decode cX4_undo 12 = .ok (.iconst (-1), 1) := dk_2 (dk_at dksX4_undo_0 12 rfl rfl)
theorem dX4_undo_13 : decode cX4_undo 13 = .ok (.ireturn, 1) := dk_172 (dk_at dksX4_undo_0 13 rfl rfl)
theorem dX4_undo_14 : decode cX4_undo 14 = .ok (.aload_n 0, 1) := dk_42 (dk_at dksX4_undo_0 14 rfl rfl)
theorem dX4_undo_15 : decode cX4_undo 15 = .ok (.dup, 1) := dk_89 (dk_at dksX4_undo_0 15 rfl rfl)
theorem dX4_undo_16 : decode cX4_undo 16 = .ok (.getfield 261, 3) := dk_180 1 5 (dk_at dksX4_undo_0 16 rfl rfl)
theorem dX4_undo_19 : decode cX4_undo 19 = .ok (.iconst 1, 1) := dk_4 (dk_at dksX4_undo_0 19 rfl rfl)
theorem dX4_undo_20 : decode cX4_undo 20 = .ok (.isub, 1) := dk_100 (dk_at dksX4_undo_0 20 rfl rfl)
theorem dX4_undo_21 : decode cX4_undo 21 = .ok (.putfield 261, 3) := dk_181 1 5 (dk_at dksX4_undo_0 21 rfl rfl)
theorem dX4_undo_24 : decode cX4_undo 24 = .ok (.iconst 0, 1) := dk_3 (dk_at dksX4_undo_1 0 rfl rfl)
theorem dX4_undo_25 : decode cX4_undo 25 = .ok (.istore_n 1, 1) := dk_60 (dk_at dksX4_undo_1 1 rfl rfl)
theorem dX4_undo_26 : decode cX4_undo 26 = .ok (.iload_n 1, 1) := dk_27 (dk_at dksX4_undo_1 2 rfl rfl)
theorem dX4_undo_27 : decode cX4_undo 27 = .ok (.bipush 125, 2) := dk_16 125 (dk_at dksX4_undo_1 3 rfl rfl)
theorem dX4_undo_29 : decode cX4_undo 29 = .ok (.if_icmp .ge 29, 3) := dk_162 0 29 (dk_at dksX4_undo_1 5 rfl rfl)
theorem dX4_undo_32 : decode cX4_undo 32 = .ok (.aload_n 0, 1) := dk_42 (dk_at dksX4_undo_1 8 rfl rfl)
theorem dX4_undo_33 : decode cX4_undo 33 = .ok (.getfield 44, 3) := dk_180 0 44 (dk_at dksX4_undo_1 9 rfl rfl)
theorem dX4_undo_36 : decode cX4_undo 36 = .ok (.iload_n 1, 1) := dk_27 (dk_at dksX4_undo_1 12 rfl rfl)
theorem dX4_undo_37 : decode cX4_undo 37 = .ok (.aload_n 0, 1) := dk_42 (dk_at dksX4_undo_1 13 rfl rfl)
theorem dX4_undo_38 : decode cX4_undo 38 = .ok (.getfield 47, 3) := dk_180 0 47 (dk_at dksX4_undo_1 14 rfl rfl)
theorem dX4_undo_41 : decode cX4_undo 41 = .ok (.bipush 125, 2) := dk_16 125 (dk_at dksX4_undo_1 17 rfl rfl)
theorem dX4_undo_43 : decode cX4_undo 43 = .ok (.aload_n 0, 1) := dk_42 (dk_at dksX4_undo_1 19 rfl rfl)
theorem dX4_undo_44 : decode cX4_undo 44 = .ok (.getfield 261, 3) := dk_180 1 5 (dk_at dksX4_undo_1 20 rfl rfl)
theorem dX4_undo_47 : decode cX4_undo 47 = .ok (.imul, 1) := dk_104 (dk_at dksX4_undo_1 23 rfl rfl)
theorem dX4_undo_48 : decode cX4_undo 48 = .ok (.iload_n 1, 1) := dk_27 (dk_at dksX4_undo_2 0 rfl rfl)
theorem dX4_undo_49 : decode cX4_undo 49 = .ok (.iadd, 1) := dk_96 (dk_at dksX4_undo_2 1 rfl rfl)
theorem dX4_undo_50 : decode cX4_undo 50 = .ok (.iaload, 1) := dk_46 (dk_at dksX4_undo_2 2 rfl rfl)
theorem dX4_undo_51 : decode cX4_undo 51 = .ok (.iastore, 1) := dk_79 (dk_at dksX4_undo_2 3 rfl rfl)
theorem dX4_undo_52 : decode cX4_undo 52 = .ok (.iinc 1 1, 3) := dk_132 1 1 (dk_at dksX4_undo_2 4 rfl rfl)
theorem dX4_undo_55 : decode cX4_undo 55 = .ok (.goto (-29), 3) := dk_167 255 227 (dk_at dksX4_undo_2 7 rfl rfl)
theorem dX4_undo_58 : decode cX4_undo 58 = .ok (.aload_n 0, 1) := dk_42 (dk_at dksX4_undo_2 10 rfl rfl)
theorem dX4_undo_59 : decode cX4_undo 59 = .ok (.getfield 261, 3) := dk_180 1 5 (dk_at dksX4_undo_2 11 rfl rfl)
theorem dX4_undo_62 : decode cX4_undo 62 = .ok (.ireturn, 1) := dk_172 (dk_at dksX4_undo_2 14 rfl rfl)
def dkwX4_lay_2 : List UInt8 := [181, 1, 33, 42, 27, 182, 1, 77, 87, 4, 172]
abbrev dktX4_lay_2 : List UInt8 := dkwX4_lay_2 ++ []
def dkwX4_lay_1 : List UInt8 := [182, 0, 126, 28, 4, 160, 0, 7, 42, 182, 1, 74, 42, 28, 5, 160, 0, 7, 4, 167, 0, 4, 3]
abbrev dktX4_lay_1 : List UInt8 := dkwX4_lay_1 ++ dktX4_lay_2
def dkwX4_lay_0 : List UInt8 := [42, 3, 181, 0, 1, 27, 184, 1, 71, 153, 0, 12, 28, 3, 5, 184, 0, 158, 154, 0, 5, 3, 172, 42]
abbrev dktX4_lay_0 : List UInt8 := dkwX4_lay_0 ++ dktX4_lay_1
theorem dksX4_lay_0 : cX4_lay.data.toList.drop 0 = dktX4_lay_0 := by decide +kernel
theorem dksX4_lay_1 : cX4_lay.data.toList.drop 24 = dktX4_lay_1 := dk_seg dksX4_lay_0 24 rfl rfl
theorem dksX4_lay_2 : cX4_lay.data.toList.drop 47 = dktX4_lay_2 := dk_seg dksX4_lay_1 23 rfl rfl
theorem dX4_lay_0 : decode cX4_lay 0 = .ok (.aload_n 0, 1) := dk_42 (dk_at dksX4_lay_0 0 rfl rfl)
theorem dX4_lay_1 : decode cX4_lay 1 = .ok (.iconst 0, 1) := dk_3 (dk_at dksX4_lay_0 1 rfl rfl)
theorem dX4_lay_2 : decode cX4_lay 2 = .ok (.putfield 1, 3) := dk_181 0 1 (dk_at dksX4_lay_0 2 rfl rfl)
theorem dX4_lay_5 : decode cX4_lay 5 = .ok (.iload_n 1, 1) := dk_27 (dk_at dksX4_lay_0 5 rfl rfl)
theorem dX4_lay_6 : decode cX4_lay 6 = .ok (.invokestatic 327, 3) := dk_184 1 71 (dk_at dksX4_lay_0 6 rfl rfl)
theorem dX4_lay_9 : decode cX4_lay 9 = .ok (.ifCond .eq 12, 3) := dk_153 0 12 (dk_at dksX4_lay_0 9 rfl rfl)
theorem dX4_lay_12 : decode cX4_lay 12 = .ok (.iload_n 2, 1) := dk_28 (dk_at dksX4_lay_0 12 rfl rfl)
theorem dX4_lay_13 : decode cX4_lay 13 = .ok (.iconst 0, 1) := dk_3 (dk_at dksX4_lay_0 13 rfl rfl)
theorem dX4_lay_14 : decode cX4_lay 14 = .ok (.iconst 2, 1) := dk_5 (dk_at dksX4_lay_0 14 rfl rfl)
theorem dX4_lay_15 : decode cX4_lay 15 = .ok (.invokestatic 158, 3) := dk_184 0 158 (dk_at dksX4_lay_0 15 rfl rfl)
theorem dX4_lay_18 : decode cX4_lay 18 = .ok (.ifCond .ne 5, 3) := dk_154 0 5 (dk_at dksX4_lay_0 18 rfl rfl)
theorem dX4_lay_21 : decode cX4_lay 21 = .ok (.iconst 0, 1) := dk_3 (dk_at dksX4_lay_0 21 rfl rfl)
theorem dX4_lay_22 : decode cX4_lay 22 = .ok (.ireturn, 1) := dk_172 (dk_at dksX4_lay_0 22 rfl rfl)
theorem dX4_lay_23 : decode cX4_lay 23 = .ok (.aload_n 0, 1) := dk_42 (dk_at dksX4_lay_0 23 rfl rfl)
theorem dX4_lay_24 : decode cX4_lay 24 = .ok (.invokevirtual 126, 3) := dk_182 0 126 (dk_at dksX4_lay_1 0 rfl rfl)
theorem dX4_lay_27 : decode cX4_lay 27 = .ok (.iload_n 2, 1) := dk_28 (dk_at dksX4_lay_1 3 rfl rfl)
theorem dX4_lay_28 : decode cX4_lay 28 = .ok (.iconst 1, 1) := dk_4 (dk_at dksX4_lay_1 4 rfl rfl)
theorem dX4_lay_29 : decode cX4_lay 29 = .ok (.if_icmp .ne 7, 3) := dk_160 0 7 (dk_at dksX4_lay_1 5 rfl rfl)
theorem dX4_lay_32 : decode cX4_lay 32 = .ok (.aload_n 0, 1) := dk_42 (dk_at dksX4_lay_1 8 rfl rfl)
theorem dX4_lay_33 : decode cX4_lay 33 = .ok (.invokevirtual 330, 3) := dk_182 1 74 (dk_at dksX4_lay_1 9 rfl rfl)
theorem dX4_lay_36 : decode cX4_lay 36 = .ok (.aload_n 0, 1) := dk_42 (dk_at dksX4_lay_1 12 rfl rfl)
theorem dX4_lay_37 : decode cX4_lay 37 = .ok (.iload_n 2, 1) := dk_28 (dk_at dksX4_lay_1 13 rfl rfl)
theorem dX4_lay_38 : decode cX4_lay 38 = .ok (.iconst 2, 1) := dk_5 (dk_at dksX4_lay_1 14 rfl rfl)
theorem dX4_lay_39 : decode cX4_lay 39 = .ok (.if_icmp .ne 7, 3) := dk_160 0 7 (dk_at dksX4_lay_1 15 rfl rfl)
theorem dX4_lay_42 : decode cX4_lay 42 = .ok (.iconst 1, 1) := dk_4 (dk_at dksX4_lay_1 18 rfl rfl)
theorem dX4_lay_43 : decode cX4_lay 43 = .ok (.goto 4, 3) := dk_167 0 4 (dk_at dksX4_lay_1 19 rfl rfl)
theorem dX4_lay_46 : decode cX4_lay 46 = .ok (.iconst 0, 1) := dk_3 (dk_at dksX4_lay_1 22 rfl rfl)
theorem dX4_lay_47 : decode cX4_lay 47 = .ok (.putfield 289, 3) := dk_181 1 33 (dk_at dksX4_lay_2 0 rfl rfl)
theorem dX4_lay_50 : decode cX4_lay 50 = .ok (.aload_n 0, 1) := dk_42 (dk_at dksX4_lay_2 3 rfl rfl)
theorem dX4_lay_51 : decode cX4_lay 51 = .ok (.iload_n 1, 1) := dk_27 (dk_at dksX4_lay_2 4 rfl rfl)
theorem dX4_lay_52 : decode cX4_lay 52 = .ok (.invokevirtual 333, 3) := dk_182 1 77 (dk_at dksX4_lay_2 5 rfl rfl)
theorem dX4_lay_55 : decode cX4_lay 55 = .ok (.pop, 1) := dk_87 (dk_at dksX4_lay_2 8 rfl rfl)
theorem dX4_lay_56 : decode cX4_lay 56 = .ok (.iconst 1, 1) := dk_4 (dk_at dksX4_lay_2 9 rfl rfl)
theorem dX4_lay_57 : decode cX4_lay 57 = .ok (.ireturn, 1) := dk_172 (dk_at dksX4_lay_2 10 rfl rfl)
def dkwX4_isTable_0 : List UInt8 := [26, 3, 6, 184, 0, 158, 172]
abbrev dktX4_isTable_0 : List UInt8 := dkwX4_isTable_0 ++ []
theorem dksX4_isTable_0 : cX4_isTable.data.toList.drop 0 = dktX4_isTable_0 := by decide +kernel
theorem dX4_isTable_0 : decode cX4_isTable 0 = .ok (.iload_n 0, 1) := dk_26 (dk_at dksX4_isTable_0 0 rfl rfl)
theorem dX4_isTable_1 : decode cX4_isTable 1 = .ok (.iconst 0, 1) := dk_3 (dk_at dksX4_isTable_0 1 rfl rfl)
theorem dX4_isTable_2 : decode cX4_isTable 2 = .ok (.iconst 3, 1) := dk_6 (dk_at dksX4_isTable_0 2 rfl rfl)
theorem dX4_isTable_3 : decode cX4_isTable 3 = .ok (.invokestatic 158, 3) := dk_184 0 158 (dk_at dksX4_isTable_0 3 rfl rfl)
theorem dX4_isTable_6 : decode cX4_isTable 6 = .ok (.ireturn, 1) := dk_172 (dk_at dksX4_isTable_0 6 rfl rfl)
def dkwX4_wide_2 : List UInt8 := [182, 1, 20, 132, 2, 1, 167, 255, 223, 132, 1, 1, 167, 255, 207, 177]
abbrev dktX4_wide_2 : List UInt8 := dkwX4_wide_2 ++ []
def dkwX4_wide_1 : List UInt8 := [162, 0, 31, 42, 27, 28, 27, 153, 0, 8, 27, 28, 160, 0, 7, 4, 167, 0, 6, 19, 1, 15]
abbrev dktX4_wide_1 : List UInt8 := dkwX4_wide_1 ++ dktX4_wide_2
def dkwX4_wide_0 : List UInt8 := [42, 3, 181, 1, 33, 3, 60, 27, 42, 180, 1, 24, 162, 0, 47, 3, 61, 28, 42, 180, 1, 24]
abbrev dktX4_wide_0 : List UInt8 := dkwX4_wide_0 ++ dktX4_wide_1
theorem dksX4_wide_0 : cX4_wide.data.toList.drop 0 = dktX4_wide_0 := by decide +kernel
theorem dksX4_wide_1 : cX4_wide.data.toList.drop 22 = dktX4_wide_1 := dk_seg dksX4_wide_0 22 rfl rfl
theorem dksX4_wide_2 : cX4_wide.data.toList.drop 44 = dktX4_wide_2 := dk_seg dksX4_wide_1 22 rfl rfl
theorem dX4_wide_0 : decode cX4_wide 0 = .ok (.aload_n 0, 1) := dk_42 (dk_at dksX4_wide_0 0 rfl rfl)
theorem dX4_wide_1 : decode cX4_wide 1 = .ok (.iconst 0, 1) := dk_3 (dk_at dksX4_wide_0 1 rfl rfl)
theorem dX4_wide_2 : decode cX4_wide 2 = .ok (.putfield 289, 3) := dk_181 1 33 (dk_at dksX4_wide_0 2 rfl rfl)
theorem dX4_wide_5 : decode cX4_wide 5 = .ok (.iconst 0, 1) := dk_3 (dk_at dksX4_wide_0 5 rfl rfl)
theorem dX4_wide_6 : decode cX4_wide 6 = .ok (.istore_n 1, 1) := dk_60 (dk_at dksX4_wide_0 6 rfl rfl)
theorem dX4_wide_7 : decode cX4_wide 7 = .ok (.iload_n 1, 1) := dk_27 (dk_at dksX4_wide_0 7 rfl rfl)
theorem dX4_wide_8 : decode cX4_wide 8 = .ok (.aload_n 0, 1) := dk_42 (dk_at dksX4_wide_0 8 rfl rfl)
theorem dX4_wide_9 : decode cX4_wide 9 = .ok (.getfield 280, 3) := dk_180 1 24 (dk_at dksX4_wide_0 9 rfl rfl)
theorem dX4_wide_12 : decode cX4_wide 12 = .ok (.if_icmp .ge 47, 3) := dk_162 0 47 (dk_at dksX4_wide_0 12 rfl rfl)
theorem dX4_wide_15 : decode cX4_wide 15 = .ok (.iconst 0, 1) := dk_3 (dk_at dksX4_wide_0 15 rfl rfl)
theorem dX4_wide_16 : decode cX4_wide 16 = .ok (.istore_n 2, 1) := dk_61 (dk_at dksX4_wide_0 16 rfl rfl)
theorem dX4_wide_17 : decode cX4_wide 17 = .ok (.iload_n 2, 1) := dk_28 (dk_at dksX4_wide_0 17 rfl rfl)
theorem dX4_wide_18 : decode cX4_wide 18 = .ok (.aload_n 0, 1) := dk_42 (dk_at dksX4_wide_0 18 rfl rfl)
theorem dX4_wide_19 : decode cX4_wide 19 = .ok (.getfield 280, 3) := dk_180 1 24 (dk_at dksX4_wide_0 19 rfl rfl)
theorem dX4_wide_22 : decode cX4_wide 22 = .ok (.if_icmp .ge 31, 3) := dk_162 0 31 (dk_at dksX4_wide_1 0 rfl rfl)
theorem dX4_wide_25 : decode cX4_wide 25 = .ok (.aload_n 0, 1) := dk_42 (dk_at dksX4_wide_1 3 rfl rfl)
theorem dX4_wide_26 : decode cX4_wide 26 = .ok (.iload_n 1, 1) := dk_27 (dk_at dksX4_wide_1 4 rfl rfl)
theorem dX4_wide_27 : decode cX4_wide 27 = .ok (.iload_n 2, 1) := dk_28 (dk_at dksX4_wide_1 5 rfl rfl)
theorem dX4_wide_28 : decode cX4_wide 28 = .ok (.iload_n 1, 1) := dk_27 (dk_at dksX4_wide_1 6 rfl rfl)
theorem dX4_wide_29 : decode cX4_wide 29 = .ok (.ifCond .eq 8, 3) := dk_153 0 8 (dk_at dksX4_wide_1 7 rfl rfl)
theorem dX4_wide_32 : decode cX4_wide 32 = .ok (.iload_n 1, 1) := dk_27 (dk_at dksX4_wide_1 10 rfl rfl)
theorem dX4_wide_33 : decode cX4_wide 33 = .ok (.iload_n 2, 1) := dk_28 (dk_at dksX4_wide_1 11 rfl rfl)
theorem dX4_wide_34 : decode cX4_wide 34 = .ok (.if_icmp .ne 7, 3) := dk_160 0 7 (dk_at dksX4_wide_1 12 rfl rfl)
theorem dX4_wide_37 : decode cX4_wide 37 = .ok (.iconst 1, 1) := dk_4 (dk_at dksX4_wide_1 15 rfl rfl)
theorem dX4_wide_38 : decode cX4_wide 38 = .ok (.goto 6, 3) := dk_167 0 6 (dk_at dksX4_wide_1 16 rfl rfl)
theorem dX4_wide_41 : decode cX4_wide 41 = .ok (.ldc_w 271, 3) := dk_19 1 15 (dk_at dksX4_wide_1 19 rfl rfl)
theorem dX4_wide_44 : decode cX4_wide 44 = .ok (.invokevirtual 276, 3) := dk_182 1 20 (dk_at dksX4_wide_2 0 rfl rfl)
theorem dX4_wide_47 : decode cX4_wide 47 = .ok (.iinc 2 1, 3) := dk_132 2 1 (dk_at dksX4_wide_2 3 rfl rfl)
theorem dX4_wide_50 : decode cX4_wide 50 = .ok (.goto (-33), 3) := dk_167 255 223 (dk_at dksX4_wide_2 6 rfl rfl)
theorem dX4_wide_53 : decode cX4_wide 53 = .ok (.iinc 1 1, 3) := dk_132 1 1 (dk_at dksX4_wide_2 9 rfl rfl)
theorem dX4_wide_56 : decode cX4_wide 56 = .ok (.goto (-49), 3) := dk_167 255 207 (dk_at dksX4_wide_2 12 rfl rfl)
theorem dX4_wide_59 : decode cX4_wide 59 = .ok (.return_, 1) := dk_177 (dk_at dksX4_wide_2 15 rfl rfl)
def dkwX4_becomesTable_1 : List UInt8 := [153, 0, 7, 3, 167, 0, 4, 4, 172]
abbrev dktX4_becomesTable_1 : List UInt8 := dkwX4_becomesTable_1 ++ []
def dkwX4_becomesTable_0 : List UInt8 := [42, 182, 1, 65, 153, 0, 6, 16, 254, 172, 42, 182, 1, 68, 42, 27, 182, 0, 129, 42, 180, 1, 33]
abbrev dktX4_becomesTable_0 : List UInt8 := dkwX4_becomesTable_0 ++ dktX4_becomesTable_1
theorem dksX4_becomesTable_0 : cX4_becomesTable.data.toList.drop 0 = dktX4_becomesTable_0 := by decide +kernel
theorem dksX4_becomesTable_1 : cX4_becomesTable.data.toList.drop 23 = dktX4_becomesTable_1 := dk_seg dksX4_becomesTable_0 23 rfl rfl
theorem dX4_becomesTable_0 : decode cX4_becomesTable 0 = .ok (.aload_n 0, 1) := dk_42 (dk_at dksX4_becomesTable_0 0 rfl rfl)
theorem dX4_becomesTable_1 : decode cX4_becomesTable 1 = .ok (.invokevirtual 321, 3) := dk_182 1 65 (dk_at dksX4_becomesTable_0 1 rfl rfl)
theorem dX4_becomesTable_4 : decode cX4_becomesTable 4 = .ok (.ifCond .eq 6, 3) := dk_153 0 6 (dk_at dksX4_becomesTable_0 4 rfl rfl)
theorem dX4_becomesTable_7 : decode cX4_becomesTable 7 = .ok (.bipush (-2), 2) := dk_16 254 (dk_at dksX4_becomesTable_0 7 rfl rfl)
theorem dX4_becomesTable_9 : decode cX4_becomesTable 9 = .ok (.ireturn, 1) := dk_172 (dk_at dksX4_becomesTable_0 9 rfl rfl)
theorem dX4_becomesTable_10 : decode cX4_becomesTable 10 = .ok (.aload_n 0, 1) := dk_42 (dk_at dksX4_becomesTable_0 10 rfl rfl)
theorem dX4_becomesTable_11 : decode cX4_becomesTable 11 = .ok (.invokevirtual 324, 3) := dk_182 1 68 (dk_at dksX4_becomesTable_0 11 rfl rfl)
theorem dX4_becomesTable_14 : decode cX4_becomesTable 14 = .ok (.aload_n 0, 1) := dk_42 (dk_at dksX4_becomesTable_0 14 rfl rfl)
theorem dX4_becomesTable_15 : decode cX4_becomesTable 15 = .ok (.iload_n 1, 1) := dk_27 (dk_at dksX4_becomesTable_0 15 rfl rfl)
theorem dX4_becomesTable_16 : decode cX4_becomesTable 16 = .ok (.invokevirtual 129, 3) := dk_182 0 129 (dk_at dksX4_becomesTable_0 16 rfl rfl)
theorem dX4_becomesTable_19 : decode cX4_becomesTable 19 = .ok (.aload_n 0, 1) := dk_42 (dk_at dksX4_becomesTable_0 19 rfl rfl)
theorem dX4_becomesTable_20 : decode cX4_becomesTable 20 = .ok (.getfield 289, 3) := dk_180 1 33 (dk_at dksX4_becomesTable_0 20 rfl rfl)
theorem dX4_becomesTable_23 : decode cX4_becomesTable 23 = .ok (.ifCond .eq 7, 3) := dk_153 0 7 (dk_at dksX4_becomesTable_1 0 rfl rfl)
theorem dX4_becomesTable_26 : decode cX4_becomesTable 26 = .ok (.iconst 0, 1) := dk_3 (dk_at dksX4_becomesTable_1 3 rfl rfl)
theorem dX4_becomesTable_27 : decode cX4_becomesTable 27 = .ok (.goto 4, 3) := dk_167 0 4 (dk_at dksX4_becomesTable_1 4 rfl rfl)
theorem dX4_becomesTable_30 : decode cX4_becomesTable 30 = .ok (.iconst 1, 1) := dk_4 (dk_at dksX4_becomesTable_1 7 rfl rfl)
theorem dX4_becomesTable_31 : decode cX4_becomesTable 31 = .ok (.ireturn, 1) := dk_172 (dk_at dksX4_becomesTable_1 8 rfl rfl)
def dkwX4_isFar_3 : List UInt8 := [167, 255, 187, 3, 172]
abbrev dktX4_isFar_3 : List UInt8 := dkwX4_isFar_3 ++ []
def dkwX4_isFar_2 : List UInt8 := [17, 254, 112, 17, 1, 144, 184, 0, 158, 154, 0, 5, 4, 172, 132, 2, 1, 167, 255, 210, 132, 1, 1]
abbrev dktX4_isFar_2 : List UInt8 := dkwX4_isFar_2 ++ dktX4_isFar_3
def dkwX4_isFar_1 : List UInt8 := [162, 0, 44, 42, 27, 28, 182, 1, 16, 19, 1, 15, 162, 0, 26, 42, 27, 28, 182, 1, 16, 184, 1, 62]
abbrev dktX4_isFar_1 : List UInt8 := dkwX4_isFar_1 ++ dktX4_isFar_2
def dkwX4_isFar_0 : List UInt8 := [3, 60, 27, 42, 180, 1, 24, 162, 0, 67, 42, 180, 1, 33, 154, 0, 60, 3, 61, 28, 42, 180, 1, 24]
abbrev dktX4_isFar_0 : List UInt8 := dkwX4_isFar_0 ++ dktX4_isFar_1
theorem dksX4_isFar_0 : cX4_isFar.data.toList.drop 0 = dktX4_isFar_0 := by decide +kernel
theorem dksX4_isFar_1 : cX4_isFar.data.toList.drop 24 = dktX4_isFar_1 := dk_seg dksX4_isFar_0 24 rfl rfl
theorem dksX4_isFar_2 : cX4_isFar.data.toList.drop 48 = dktX4_isFar_2 := dk_seg dksX4_isFar_1 24 rfl rfl
theorem dksX4_isFar_3 : cX4_isFar.data.toList.drop 71 = dktX4_isFar_3 := dk_seg dksX4_isFar_2 23 rfl rfl
theorem dX4_isFar_0 : decode cX4_isFar 0 = .ok (.iconst 0, 1) := dk_3 (dk_at dksX4_isFar_0 0 rfl rfl)
theorem dX4_isFar_1 : decode cX4_isFar 1 = .ok (.istore_n 1, 1) := dk_60 (dk_at dksX4_isFar_0 1 rfl rfl)
theorem dX4_isFar_2 : decode cX4_isFar 2 = .ok (.iload_n 1, 1) := dk_27 (dk_at dksX4_isFar_0 2 rfl rfl)
theorem dX4_isFar_3 : decode cX4_isFar 3 = .ok (.aload_n 0, 1) := dk_42 (dk_at dksX4_isFar_0 3 rfl rfl)
theorem dX4_isFar_4 : decode cX4_isFar 4 = .ok (.getfield 280, 3) := dk_180 1 24 (dk_at dksX4_isFar_0 4 rfl rfl)
theorem dX4_isFar_7 : decode cX4_isFar 7 = .ok (.if_icmp .ge 67, 3) := dk_162 0 67 (dk_at dksX4_isFar_0 7 rfl rfl)
theorem dX4_isFar_10 : decode cX4_isFar 10 = .ok (.aload_n 0, 1) := dk_42 (dk_at dksX4_isFar_0 10 rfl rfl)
theorem dX4_isFar_11 : decode cX4_isFar 11 = .ok (.getfield 289, 3) := dk_180 1 33 (dk_at dksX4_isFar_0 11 rfl rfl)
theorem dX4_isFar_14 : decode cX4_isFar 14 = .ok (.ifCond .ne 60, 3) := dk_154 0 60 (dk_at dksX4_isFar_0 14 rfl rfl)
theorem dX4_isFar_17 : decode cX4_isFar 17 = .ok (.iconst 0, 1) := dk_3 (dk_at dksX4_isFar_0 17 rfl rfl)
theorem dX4_isFar_18 : decode cX4_isFar 18 = .ok (.istore_n 2, 1) := dk_61 (dk_at dksX4_isFar_0 18 rfl rfl)
theorem dX4_isFar_19 : decode cX4_isFar 19 = .ok (.iload_n 2, 1) := dk_28 (dk_at dksX4_isFar_0 19 rfl rfl)
theorem dX4_isFar_20 : decode cX4_isFar 20 = .ok (.aload_n 0, 1) := dk_42 (dk_at dksX4_isFar_0 20 rfl rfl)
theorem dX4_isFar_21 : decode cX4_isFar 21 = .ok (.getfield 280, 3) := dk_180 1 24 (dk_at dksX4_isFar_0 21 rfl rfl)
theorem dX4_isFar_24 : decode cX4_isFar 24 = .ok (.if_icmp .ge 44, 3) := dk_162 0 44 (dk_at dksX4_isFar_1 0 rfl rfl)
theorem dX4_isFar_27 : decode cX4_isFar 27 = .ok (.aload_n 0, 1) := dk_42 (dk_at dksX4_isFar_1 3 rfl rfl)
theorem dX4_isFar_28 : decode cX4_isFar 28 = .ok (.iload_n 1, 1) := dk_27 (dk_at dksX4_isFar_1 4 rfl rfl)
theorem dX4_isFar_29 : decode cX4_isFar 29 = .ok (.iload_n 2, 1) := dk_28 (dk_at dksX4_isFar_1 5 rfl rfl)
theorem dX4_isFar_30 : decode cX4_isFar 30 = .ok (.invokevirtual 272, 3) := dk_182 1 16 (dk_at dksX4_isFar_1 6 rfl rfl)
theorem dX4_isFar_33 : decode cX4_isFar 33 = .ok (.ldc_w 271, 3) := dk_19 1 15 (dk_at dksX4_isFar_1 9 rfl rfl)
theorem dX4_isFar_36 : decode cX4_isFar 36 = .ok (.if_icmp .ge 26, 3) := dk_162 0 26 (dk_at dksX4_isFar_1 12 rfl rfl)
theorem dX4_isFar_39 : decode cX4_isFar 39 = .ok (.aload_n 0, 1) := dk_42 (dk_at dksX4_isFar_1 15 rfl rfl)
theorem dX4_isFar_40 : decode cX4_isFar 40 = .ok (.iload_n 1, 1) := dk_27 (dk_at dksX4_isFar_1 16 rfl rfl)
theorem dX4_isFar_41 : decode cX4_isFar 41 = .ok (.iload_n 2, 1) := dk_28 (dk_at dksX4_isFar_1 17 rfl rfl)
theorem dX4_isFar_42 : decode cX4_isFar 42 = .ok (.invokevirtual 272, 3) := dk_182 1 16 (dk_at dksX4_isFar_1 18 rfl rfl)
theorem dX4_isFar_45 : decode cX4_isFar 45 = .ok (.invokestatic 318, 3) := dk_184 1 62 (dk_at dksX4_isFar_1 21 rfl rfl)
theorem dX4_isFar_48 : decode cX4_isFar 48 = .ok (.sipush (-400), 3) := dk_17 254 112 (dk_at dksX4_isFar_2 0 rfl rfl)
theorem dX4_isFar_51 : decode cX4_isFar 51 = .ok (.sipush 400, 3) := dk_17 1 144 (dk_at dksX4_isFar_2 3 rfl rfl)
theorem dX4_isFar_54 : decode cX4_isFar 54 = .ok (.invokestatic 158, 3) := dk_184 0 158 (dk_at dksX4_isFar_2 6 rfl rfl)
theorem dX4_isFar_57 : decode cX4_isFar 57 = .ok (.ifCond .ne 5, 3) := dk_154 0 5 (dk_at dksX4_isFar_2 9 rfl rfl)
theorem dX4_isFar_60 : decode cX4_isFar 60 = .ok (.iconst 1, 1) := dk_4 (dk_at dksX4_isFar_2 12 rfl rfl)
theorem dX4_isFar_61 : decode cX4_isFar 61 = .ok (.ireturn, 1) := dk_172 (dk_at dksX4_isFar_2 13 rfl rfl)
theorem dX4_isFar_62 : decode cX4_isFar 62 = .ok (.iinc 2 1, 3) := dk_132 2 1 (dk_at dksX4_isFar_2 14 rfl rfl)
theorem dX4_isFar_65 : decode cX4_isFar 65 = .ok (.goto (-46), 3) := dk_167 255 210 (dk_at dksX4_isFar_2 17 rfl rfl)
theorem dX4_isFar_68 : decode cX4_isFar 68 = .ok (.iinc 1 1, 3) := dk_132 1 1 (dk_at dksX4_isFar_2 20 rfl rfl)
theorem dX4_isFar_71 : decode cX4_isFar 71 = .ok (.goto (-69), 3) := dk_167 255 187 (dk_at dksX4_isFar_3 0 rfl rfl)
theorem dX4_isFar_74 : decode cX4_isFar 74 = .ok (.iconst 0, 1) := dk_3 (dk_at dksX4_isFar_3 3 rfl rfl)
theorem dX4_isFar_75 : decode cX4_isFar 75 = .ok (.ireturn, 1) := dk_172 (dk_at dksX4_isFar_3 4 rfl rfl)
def dkwX4_keeps_3 : List UInt8 := [42, 180, 0, 44, 27, 46, 79, 132, 1, 1, 167, 255, 227, 42, 89, 180, 1, 5, 4, 96, 181, 1, 5, 177]
abbrev dktX4_keeps_3 : List UInt8 := dkwX4_keeps_3 ++ []
def dkwX4_keeps_2 : List UInt8 := [181, 1, 5, 3, 60, 27, 16, 125, 162, 0, 29, 42, 180, 0, 47, 16, 125, 42, 180, 1, 5, 104, 27, 96]
abbrev dktX4_keeps_2 : List UInt8 := dkwX4_keeps_2 ++ dktX4_keeps_3
def dkwX4_keeps_1 : List UInt8 := [16, 125, 100, 42, 180, 0, 47, 27, 46, 79, 132, 1, 1, 167, 255, 231, 42, 89, 180, 1, 5, 4, 100]
abbrev dktX4_keeps_1 : List UInt8 := dkwX4_keeps_1 ++ dktX4_keeps_2
def dkwX4_keeps_0 : List UInt8 := [42, 180, 1, 5, 16, 16, 160, 0, 44, 16, 125, 60, 27, 17, 7, 208, 162, 0, 24, 42, 180, 0, 47, 27]
abbrev dktX4_keeps_0 : List UInt8 := dkwX4_keeps_0 ++ dktX4_keeps_1
theorem dksX4_keeps_0 : cX4_keeps.data.toList.drop 0 = dktX4_keeps_0 := by decide +kernel
theorem dksX4_keeps_1 : cX4_keeps.data.toList.drop 24 = dktX4_keeps_1 := dk_seg dksX4_keeps_0 24 rfl rfl
theorem dksX4_keeps_2 : cX4_keeps.data.toList.drop 47 = dktX4_keeps_2 := dk_seg dksX4_keeps_1 23 rfl rfl
theorem dksX4_keeps_3 : cX4_keeps.data.toList.drop 71 = dktX4_keeps_3 := dk_seg dksX4_keeps_2 24 rfl rfl
theorem dX4_keeps_0 : decode cX4_keeps 0 = .ok (.aload_n 0, 1) := dk_42 (dk_at dksX4_keeps_0 0 rfl rfl)
theorem dX4_keeps_1 : decode cX4_keeps 1 = .ok (.getfield 261, 3) := dk_180 1 5 (dk_at dksX4_keeps_0 1 rfl rfl)
theorem dX4_keeps_4 : decode cX4_keeps 4 = .ok (.bipush 16, 2) := dk_16 16 (dk_at dksX4_keeps_0 4 rfl rfl)
theorem dX4_keeps_6 : decode cX4_keeps 6 = .ok (.if_icmp .ne 44, 3) := dk_160 0 44 (dk_at dksX4_keeps_0 6 rfl rfl)
theorem dX4_keeps_9 : decode cX4_keeps 9 = .ok (.bipush 125, 2) := dk_16 125 (dk_at dksX4_keeps_0 9 rfl rfl)
theorem dX4_keeps_11 : decode cX4_keeps 11 = .ok (.istore_n 1, 1) := dk_60 (dk_at dksX4_keeps_0 11 rfl rfl)
theorem dX4_keeps_12 : decode cX4_keeps 12 = .ok (.iload_n 1, 1) := dk_27 (dk_at dksX4_keeps_0 12 rfl rfl)
theorem dX4_keeps_13 : decode cX4_keeps 13 = .ok (.sipush 2000, 3) := dk_17 7 208 (dk_at dksX4_keeps_0 13 rfl rfl)
theorem dX4_keeps_16 : decode cX4_keeps 16 = .ok (.if_icmp .ge 24, 3) := dk_162 0 24 (dk_at dksX4_keeps_0 16 rfl rfl)
theorem dX4_keeps_19 : decode cX4_keeps 19 = .ok (.aload_n 0, 1) := dk_42 (dk_at dksX4_keeps_0 19 rfl rfl)
theorem dX4_keeps_20 : decode cX4_keeps 20 = .ok (.getfield 47, 3) := dk_180 0 47 (dk_at dksX4_keeps_0 20 rfl rfl)
theorem dX4_keeps_23 : decode cX4_keeps 23 = .ok (.iload_n 1, 1) := dk_27 (dk_at dksX4_keeps_0 23 rfl rfl)
theorem dX4_keeps_24 : decode cX4_keeps 24 = .ok (.bipush 125, 2) := dk_16 125 (dk_at dksX4_keeps_1 0 rfl rfl)
theorem dX4_keeps_26 : decode cX4_keeps 26 = .ok (.isub, 1) := dk_100 (dk_at dksX4_keeps_1 2 rfl rfl)
theorem dX4_keeps_27 : decode cX4_keeps 27 = .ok (.aload_n 0, 1) := dk_42 (dk_at dksX4_keeps_1 3 rfl rfl)
theorem dX4_keeps_28 : decode cX4_keeps 28 = .ok (.getfield 47, 3) := dk_180 0 47 (dk_at dksX4_keeps_1 4 rfl rfl)
theorem dX4_keeps_31 : decode cX4_keeps 31 = .ok (.iload_n 1, 1) := dk_27 (dk_at dksX4_keeps_1 7 rfl rfl)
theorem dX4_keeps_32 : decode cX4_keeps 32 = .ok (.iaload, 1) := dk_46 (dk_at dksX4_keeps_1 8 rfl rfl)
theorem dX4_keeps_33 : decode cX4_keeps 33 = .ok (.iastore, 1) := dk_79 (dk_at dksX4_keeps_1 9 rfl rfl)
theorem dX4_keeps_34 : decode cX4_keeps 34 = .ok (.iinc 1 1, 3) := dk_132 1 1 (dk_at dksX4_keeps_1 10 rfl rfl)
theorem dX4_keeps_37 : decode cX4_keeps 37 = .ok (.goto (-25), 3) := dk_167 255 231 (dk_at dksX4_keeps_1 13 rfl rfl)
theorem dX4_keeps_40 : decode cX4_keeps 40 = .ok (.aload_n 0, 1) := dk_42 (dk_at dksX4_keeps_1 16 rfl rfl)
theorem dX4_keeps_41 : decode cX4_keeps 41 = .ok (.dup, 1) := dk_89 (dk_at dksX4_keeps_1 17 rfl rfl)
theorem dX4_keeps_42 : decode cX4_keeps 42 = .ok (.getfield 261, 3) := dk_180 1 5 (dk_at dksX4_keeps_1 18 rfl rfl)
theorem dX4_keeps_45 : decode cX4_keeps 45 = .ok (.iconst 1, 1) := dk_4 (dk_at dksX4_keeps_1 21 rfl rfl)
theorem dX4_keeps_46 : decode cX4_keeps 46 = .ok (.isub, 1) := dk_100 (dk_at dksX4_keeps_1 22 rfl rfl)
theorem dX4_keeps_47 : decode cX4_keeps 47 = .ok (.putfield 261, 3) := dk_181 1 5 (dk_at dksX4_keeps_2 0 rfl rfl)
theorem dX4_keeps_50 : decode cX4_keeps 50 = .ok (.iconst 0, 1) := dk_3 (dk_at dksX4_keeps_2 3 rfl rfl)
theorem dX4_keeps_51 : decode cX4_keeps 51 = .ok (.istore_n 1, 1) := dk_60 (dk_at dksX4_keeps_2 4 rfl rfl)
theorem dX4_keeps_52 : decode cX4_keeps 52 = .ok (.iload_n 1, 1) := dk_27 (dk_at dksX4_keeps_2 5 rfl rfl)
theorem dX4_keeps_53 : decode cX4_keeps 53 = .ok (.bipush 125, 2) := dk_16 125 (dk_at dksX4_keeps_2 6 rfl rfl)
theorem dX4_keeps_55 : decode cX4_keeps 55 = .ok (.if_icmp .ge 29, 3) := dk_162 0 29 (dk_at dksX4_keeps_2 8 rfl rfl)
theorem dX4_keeps_58 : decode cX4_keeps 58 = .ok (.aload_n 0, 1) := dk_42 (dk_at dksX4_keeps_2 11 rfl rfl)
theorem dX4_keeps_59 : decode cX4_keeps 59 = .ok (.getfield 47, 3) := dk_180 0 47 (dk_at dksX4_keeps_2 12 rfl rfl)
theorem dX4_keeps_62 : decode cX4_keeps 62 = .ok (.bipush 125, 2) := dk_16 125 (dk_at dksX4_keeps_2 15 rfl rfl)
theorem dX4_keeps_64 : decode cX4_keeps 64 = .ok (.aload_n 0, 1) := dk_42 (dk_at dksX4_keeps_2 17 rfl rfl)
theorem dX4_keeps_65 : decode cX4_keeps 65 = .ok (.getfield 261, 3) := dk_180 1 5 (dk_at dksX4_keeps_2 18 rfl rfl)
theorem dX4_keeps_68 : decode cX4_keeps 68 = .ok (.imul, 1) := dk_104 (dk_at dksX4_keeps_2 21 rfl rfl)
theorem dX4_keeps_69 : decode cX4_keeps 69 = .ok (.iload_n 1, 1) := dk_27 (dk_at dksX4_keeps_2 22 rfl rfl)
theorem dX4_keeps_70 : decode cX4_keeps 70 = .ok (.iadd, 1) := dk_96 (dk_at dksX4_keeps_2 23 rfl rfl)
theorem dX4_keeps_71 : decode cX4_keeps 71 = .ok (.aload_n 0, 1) := dk_42 (dk_at dksX4_keeps_3 0 rfl rfl)
theorem dX4_keeps_72 : decode cX4_keeps 72 = .ok (.getfield 44, 3) := dk_180 0 44 (dk_at dksX4_keeps_3 1 rfl rfl)
theorem dX4_keeps_75 : decode cX4_keeps 75 = .ok (.iload_n 1, 1) := dk_27 (dk_at dksX4_keeps_3 4 rfl rfl)
theorem dX4_keeps_76 : decode cX4_keeps 76 = .ok (.iaload, 1) := dk_46 (dk_at dksX4_keeps_3 5 rfl rfl)
theorem dX4_keeps_77 : decode cX4_keeps 77 = .ok (.iastore, 1) := dk_79 (dk_at dksX4_keeps_3 6 rfl rfl)
theorem dX4_keeps_78 : decode cX4_keeps 78 = .ok (.iinc 1 1, 3) := dk_132 1 1 (dk_at dksX4_keeps_3 7 rfl rfl)
theorem dX4_keeps_81 : decode cX4_keeps 81 = .ok (.goto (-29), 3) := dk_167 255 227 (dk_at dksX4_keeps_3 10 rfl rfl)
theorem dX4_keeps_84 : decode cX4_keeps 84 = .ok (.aload_n 0, 1) := dk_42 (dk_at dksX4_keeps_3 13 rfl rfl)
theorem dX4_keeps_85 : decode cX4_keeps 85 = .ok (.dup, 1) := dk_89 (dk_at dksX4_keeps_3 14 rfl rfl)
theorem dX4_keeps_86 : decode cX4_keeps 86 = .ok (.getfield 261, 3) := dk_180 1 5 (dk_at dksX4_keeps_3 15 rfl rfl)
theorem dX4_keeps_89 : decode cX4_keeps 89 = .ok (.iconst 1, 1) := dk_4 (dk_at dksX4_keeps_3 18 rfl rfl)
theorem dX4_keeps_90 : decode cX4_keeps 90 = .ok (.iadd, 1) := dk_96 (dk_at dksX4_keeps_3 19 rfl rfl)
theorem dX4_keeps_91 : decode cX4_keeps 91 = .ok (.putfield 261, 3) := dk_181 1 5 (dk_at dksX4_keeps_3 20 rfl rfl)
theorem dX4_keeps_94 : decode cX4_keeps 94 = .ok (.return_, 1) := dk_177 (dk_at dksX4_keeps_3 23 rfl rfl)
def dkwX4_meet_3 : List UInt8 := [182, 1, 77, 172]
abbrev dktX4_meet_3 : List UInt8 := dkwX4_meet_3 ++ []
def dkwX4_meet_2 : List UInt8 := [182, 1, 84, 42, 28, 4, 96, 29, 4, 96, 21, 4, 21, 5, 182, 1, 40, 42, 182, 1, 44, 42, 27]
abbrev dktX4_meet_2 : List UInt8 := dkwX4_meet_2 ++ dktX4_meet_3
def dkwX4_meet_1 : List UInt8 := [7, 184, 0, 158, 153, 0, 15, 21, 5, 16, 156, 16, 100, 184, 0, 158, 154, 0, 5, 2, 172, 42, 27]
abbrev dktX4_meet_1 : List UInt8 := dkwX4_meet_1 ++ dktX4_meet_2
def dkwX4_meet_0 : List UInt8 := [42, 3, 181, 0, 1, 27, 184, 1, 71, 153, 0, 34, 42, 28, 29, 182, 1, 80, 153, 0, 25, 21, 4, 3]
abbrev dktX4_meet_0 : List UInt8 := dkwX4_meet_0 ++ dktX4_meet_1
theorem dksX4_meet_0 : cX4_meet.data.toList.drop 0 = dktX4_meet_0 := by decide +kernel
theorem dksX4_meet_1 : cX4_meet.data.toList.drop 24 = dktX4_meet_1 := dk_seg dksX4_meet_0 24 rfl rfl
theorem dksX4_meet_2 : cX4_meet.data.toList.drop 47 = dktX4_meet_2 := dk_seg dksX4_meet_1 23 rfl rfl
theorem dksX4_meet_3 : cX4_meet.data.toList.drop 70 = dktX4_meet_3 := dk_seg dksX4_meet_2 23 rfl rfl
theorem dX4_meet_0 : decode cX4_meet 0 = .ok (.aload_n 0, 1) := dk_42 (dk_at dksX4_meet_0 0 rfl rfl)
theorem dX4_meet_1 : decode cX4_meet 1 = .ok (.iconst 0, 1) := dk_3 (dk_at dksX4_meet_0 1 rfl rfl)
theorem dX4_meet_2 : decode cX4_meet 2 = .ok (.putfield 1, 3) := dk_181 0 1 (dk_at dksX4_meet_0 2 rfl rfl)
theorem dX4_meet_5 : decode cX4_meet 5 = .ok (.iload_n 1, 1) := dk_27 (dk_at dksX4_meet_0 5 rfl rfl)
theorem dX4_meet_6 : decode cX4_meet 6 = .ok (.invokestatic 327, 3) := dk_184 1 71 (dk_at dksX4_meet_0 6 rfl rfl)
theorem dX4_meet_9 : decode cX4_meet 9 = .ok (.ifCond .eq 34, 3) := dk_153 0 34 (dk_at dksX4_meet_0 9 rfl rfl)
theorem dX4_meet_12 : decode cX4_meet 12 = .ok (.aload_n 0, 1) := dk_42 (dk_at dksX4_meet_0 12 rfl rfl)
theorem dX4_meet_13 : decode cX4_meet 13 = .ok (.iload_n 2, 1) := dk_28 (dk_at dksX4_meet_0 13 rfl rfl)
theorem dX4_meet_14 : decode cX4_meet 14 = .ok (.iload_n 3, 1) := dk_29 (dk_at dksX4_meet_0 14 rfl rfl)
theorem dX4_meet_15 : decode cX4_meet 15 = .ok (.invokevirtual 336, 3) := dk_182 1 80 (dk_at dksX4_meet_0 15 rfl rfl)
theorem dX4_meet_18 : decode cX4_meet 18 = .ok (.ifCond .eq 25, 3) := dk_153 0 25 (dk_at dksX4_meet_0 18 rfl rfl)
theorem dX4_meet_21 : decode cX4_meet 21 = .ok (.iload 4, 2) := dk_21 4 (dk_at dksX4_meet_0 21 rfl rfl)
theorem dX4_meet_23 : decode cX4_meet 23 = .ok (.iconst 0, 1) := dk_3 (dk_at dksX4_meet_0 23 rfl rfl)
theorem dX4_meet_24 : decode cX4_meet 24 = .ok (.iconst 4, 1) := dk_7 (dk_at dksX4_meet_1 0 rfl rfl)
theorem dX4_meet_25 : decode cX4_meet 25 = .ok (.invokestatic 158, 3) := dk_184 0 158 (dk_at dksX4_meet_1 1 rfl rfl)
theorem dX4_meet_28 : decode cX4_meet 28 = .ok (.ifCond .eq 15, 3) := dk_153 0 15 (dk_at dksX4_meet_1 4 rfl rfl)
theorem dX4_meet_31 : decode cX4_meet 31 = .ok (.iload 5, 2) := dk_21 5 (dk_at dksX4_meet_1 7 rfl rfl)
theorem dX4_meet_33 : decode cX4_meet 33 = .ok (.bipush (-100), 2) := dk_16 156 (dk_at dksX4_meet_1 9 rfl rfl)
theorem dX4_meet_35 : decode cX4_meet 35 = .ok (.bipush 100, 2) := dk_16 100 (dk_at dksX4_meet_1 11 rfl rfl)
theorem dX4_meet_37 : decode cX4_meet 37 = .ok (.invokestatic 158, 3) := dk_184 0 158 (dk_at dksX4_meet_1 13 rfl rfl)
theorem dX4_meet_40 : decode cX4_meet 40 = .ok (.ifCond .ne 5, 3) := dk_154 0 5 (dk_at dksX4_meet_1 16 rfl rfl)
theorem dX4_meet_43 : decode cX4_meet 43 = .ok (.iconst (-1), 1) := dk_2 (dk_at dksX4_meet_1 19 rfl rfl)
theorem dX4_meet_44 : decode cX4_meet 44 = .ok (.ireturn, 1) := dk_172 (dk_at dksX4_meet_1 20 rfl rfl)
theorem dX4_meet_45 : decode cX4_meet 45 = .ok (.aload_n 0, 1) := dk_42 (dk_at dksX4_meet_1 21 rfl rfl)
theorem dX4_meet_46 : decode cX4_meet 46 = .ok (.iload_n 1, 1) := dk_27 (dk_at dksX4_meet_1 22 rfl rfl)
theorem dX4_meet_47 : decode cX4_meet 47 = .ok (.invokevirtual 340, 3) := dk_182 1 84 (dk_at dksX4_meet_2 0 rfl rfl)
theorem dX4_meet_50 : decode cX4_meet 50 = .ok (.aload_n 0, 1) := dk_42 (dk_at dksX4_meet_2 3 rfl rfl)
theorem dX4_meet_51 : decode cX4_meet 51 = .ok (.iload_n 2, 1) := dk_28 (dk_at dksX4_meet_2 4 rfl rfl)
theorem dX4_meet_52 : decode cX4_meet 52 = .ok (.iconst 1, 1) := dk_4 (dk_at dksX4_meet_2 5 rfl rfl)
theorem dX4_meet_53 : decode cX4_meet 53 = .ok (.iadd, 1) := dk_96 (dk_at dksX4_meet_2 6 rfl rfl)
theorem dX4_meet_54 : decode cX4_meet 54 = .ok (.iload_n 3, 1) := dk_29 (dk_at dksX4_meet_2 7 rfl rfl)
theorem dX4_meet_55 : decode cX4_meet 55 = .ok (.iconst 1, 1) := dk_4 (dk_at dksX4_meet_2 8 rfl rfl)
theorem dX4_meet_56 : decode cX4_meet 56 = .ok (.iadd, 1) := dk_96 (dk_at dksX4_meet_2 9 rfl rfl)
theorem dX4_meet_57 : decode cX4_meet 57 = .ok (.iload 4, 2) := dk_21 4 (dk_at dksX4_meet_2 10 rfl rfl)
theorem dX4_meet_59 : decode cX4_meet 59 = .ok (.iload 5, 2) := dk_21 5 (dk_at dksX4_meet_2 12 rfl rfl)
theorem dX4_meet_61 : decode cX4_meet 61 = .ok (.invokevirtual 296, 3) := dk_182 1 40 (dk_at dksX4_meet_2 14 rfl rfl)
theorem dX4_meet_64 : decode cX4_meet 64 = .ok (.aload_n 0, 1) := dk_42 (dk_at dksX4_meet_2 17 rfl rfl)
theorem dX4_meet_65 : decode cX4_meet 65 = .ok (.invokevirtual 300, 3) := dk_182 1 44 (dk_at dksX4_meet_2 18 rfl rfl)
theorem dX4_meet_68 : decode cX4_meet 68 = .ok (.aload_n 0, 1) := dk_42 (dk_at dksX4_meet_2 21 rfl rfl)
theorem dX4_meet_69 : decode cX4_meet 69 = .ok (.iload_n 1, 1) := dk_27 (dk_at dksX4_meet_2 22 rfl rfl)
theorem dX4_meet_70 : decode cX4_meet 70 = .ok (.invokevirtual 333, 3) := dk_182 1 77 (dk_at dksX4_meet_3 0 rfl rfl)
theorem dX4_meet_73 : decode cX4_meet 73 = .ok (.ireturn, 1) := dk_172 (dk_at dksX4_meet_3 3 rfl rfl)
def dkwX4_arePair_1 : List UInt8 := [184, 0, 158, 153, 0, 12, 27, 28, 159, 0, 7, 4, 167, 0, 4, 3, 172]
abbrev dktX4_arePair_1 : List UInt8 := dkwX4_arePair_1 ++ []
def dkwX4_arePair_0 : List UInt8 := [27, 2, 42, 180, 0, 242, 4, 100, 184, 0, 158, 153, 0, 26, 28, 2, 42, 180, 0, 242, 4, 100]
abbrev dktX4_arePair_0 : List UInt8 := dkwX4_arePair_0 ++ dktX4_arePair_1
theorem dksX4_arePair_0 : cX4_arePair.data.toList.drop 0 = dktX4_arePair_0 := by decide +kernel
theorem dksX4_arePair_1 : cX4_arePair.data.toList.drop 22 = dktX4_arePair_1 := dk_seg dksX4_arePair_0 22 rfl rfl
theorem dX4_arePair_0 : decode cX4_arePair 0 = .ok (.iload_n 1, 1) := dk_27 (dk_at dksX4_arePair_0 0 rfl rfl)
theorem dX4_arePair_1 : decode cX4_arePair 1 = .ok (.iconst (-1), 1) := dk_2 (dk_at dksX4_arePair_0 1 rfl rfl)
theorem dX4_arePair_2 : decode cX4_arePair 2 = .ok (.aload_n 0, 1) := dk_42 (dk_at dksX4_arePair_0 2 rfl rfl)
theorem dX4_arePair_3 : decode cX4_arePair 3 = .ok (.getfield 242, 3) := dk_180 0 242 (dk_at dksX4_arePair_0 3 rfl rfl)
theorem dX4_arePair_6 : decode cX4_arePair 6 = .ok (.iconst 1, 1) := dk_4 (dk_at dksX4_arePair_0 6 rfl rfl)
theorem dX4_arePair_7 : decode cX4_arePair 7 = .ok (.isub, 1) := dk_100 (dk_at dksX4_arePair_0 7 rfl rfl)
theorem dX4_arePair_8 : decode cX4_arePair 8 = .ok (.invokestatic 158, 3) := dk_184 0 158 (dk_at dksX4_arePair_0 8 rfl rfl)
theorem dX4_arePair_11 : decode cX4_arePair 11 = .ok (.ifCond .eq 26, 3) := dk_153 0 26 (dk_at dksX4_arePair_0 11 rfl rfl)
theorem dX4_arePair_14 : decode cX4_arePair 14 = .ok (.iload_n 2, 1) := dk_28 (dk_at dksX4_arePair_0 14 rfl rfl)
theorem dX4_arePair_15 : decode cX4_arePair 15 = .ok (.iconst (-1), 1) := dk_2 (dk_at dksX4_arePair_0 15 rfl rfl)
theorem dX4_arePair_16 : decode cX4_arePair 16 = .ok (.aload_n 0, 1) := dk_42 (dk_at dksX4_arePair_0 16 rfl rfl)
theorem dX4_arePair_17 : decode cX4_arePair 17 = .ok (.getfield 242, 3) := dk_180 0 242 (dk_at dksX4_arePair_0 17 rfl rfl)
theorem dX4_arePair_20 : decode cX4_arePair 20 = .ok (.iconst 1, 1) := dk_4 (dk_at dksX4_arePair_0 20 rfl rfl)
theorem dX4_arePair_21 : decode cX4_arePair 21 = .ok (.isub, 1) := dk_100 (dk_at dksX4_arePair_0 21 rfl rfl)
theorem dX4_arePair_22 : decode cX4_arePair 22 = .ok (.invokestatic 158, 3) := dk_184 0 158 (dk_at dksX4_arePair_1 0 rfl rfl)
theorem dX4_arePair_25 : decode cX4_arePair 25 = .ok (.ifCond .eq 12, 3) := dk_153 0 12 (dk_at dksX4_arePair_1 3 rfl rfl)
theorem dX4_arePair_28 : decode cX4_arePair 28 = .ok (.iload_n 1, 1) := dk_27 (dk_at dksX4_arePair_1 6 rfl rfl)
theorem dX4_arePair_29 : decode cX4_arePair 29 = .ok (.iload_n 2, 1) := dk_28 (dk_at dksX4_arePair_1 7 rfl rfl)
theorem dX4_arePair_30 : decode cX4_arePair 30 = .ok (.if_icmp .eq 7, 3) := dk_159 0 7 (dk_at dksX4_arePair_1 8 rfl rfl)
theorem dX4_arePair_33 : decode cX4_arePair 33 = .ok (.iconst 1, 1) := dk_4 (dk_at dksX4_arePair_1 11 rfl rfl)
theorem dX4_arePair_34 : decode cX4_arePair 34 = .ok (.goto 4, 3) := dk_167 0 4 (dk_at dksX4_arePair_1 12 rfl rfl)
theorem dX4_arePair_37 : decode cX4_arePair 37 = .ok (.iconst 0, 1) := dk_3 (dk_at dksX4_arePair_1 15 rfl rfl)
theorem dX4_arePair_38 : decode cX4_arePair 38 = .ok (.ireturn, 1) := dk_172 (dk_at dksX4_arePair_1 16 rfl rfl)
def dkwX4_loads_3 : List UInt8 := [182, 1, 20, 132, 3, 1, 167, 255, 224, 132, 2, 1, 167, 255, 208, 177]
abbrev dktX4_loads_3 : List UInt8 := dkwX4_loads_3 ++ []
def dkwX4_loads_2 : List UInt8 := [180, 1, 24, 162, 0, 30, 42, 28, 29, 42, 180, 0, 44, 16, 25, 27, 104, 8, 28, 104, 96, 29, 96, 46]
abbrev dktX4_loads_2 : List UInt8 := dkwX4_loads_2 ++ dktX4_loads_3
def dkwX4_loads_1 : List UInt8 := [4, 167, 0, 4, 3, 181, 1, 33, 3, 61, 28, 42, 180, 1, 24, 162, 0, 46, 3, 62, 29, 42]
abbrev dktX4_loads_1 : List UInt8 := dkwX4_loads_1 ++ dktX4_loads_2
def dkwX4_loads_0 : List UInt8 := [42, 42, 180, 0, 242, 4, 96, 181, 1, 24, 42, 42, 180, 0, 44, 16, 100, 27, 96, 46, 4, 160, 0, 7]
abbrev dktX4_loads_0 : List UInt8 := dkwX4_loads_0 ++ dktX4_loads_1
theorem dksX4_loads_0 : cX4_loads.data.toList.drop 0 = dktX4_loads_0 := by decide +kernel
theorem dksX4_loads_1 : cX4_loads.data.toList.drop 24 = dktX4_loads_1 := dk_seg dksX4_loads_0 24 rfl rfl
theorem dksX4_loads_2 : cX4_loads.data.toList.drop 46 = dktX4_loads_2 := dk_seg dksX4_loads_1 22 rfl rfl
theorem dksX4_loads_3 : cX4_loads.data.toList.drop 70 = dktX4_loads_3 := dk_seg dksX4_loads_2 24 rfl rfl
theorem dX4_loads_0 : decode cX4_loads 0 = .ok (.aload_n 0, 1) := dk_42 (dk_at dksX4_loads_0 0 rfl rfl)
theorem dX4_loads_1 : decode cX4_loads 1 = .ok (.aload_n 0, 1) := dk_42 (dk_at dksX4_loads_0 1 rfl rfl)
theorem dX4_loads_2 : decode cX4_loads 2 = .ok (.getfield 242, 3) := dk_180 0 242 (dk_at dksX4_loads_0 2 rfl rfl)
theorem dX4_loads_5 : decode cX4_loads 5 = .ok (.iconst 1, 1) := dk_4 (dk_at dksX4_loads_0 5 rfl rfl)
theorem dX4_loads_6 : decode cX4_loads 6 = .ok (.iadd, 1) := dk_96 (dk_at dksX4_loads_0 6 rfl rfl)
theorem dX4_loads_7 : decode cX4_loads 7 = .ok (.putfield 280, 3) := dk_181 1 24 (dk_at dksX4_loads_0 7 rfl rfl)
theorem dX4_loads_10 : decode cX4_loads 10 = .ok (.aload_n 0, 1) := dk_42 (dk_at dksX4_loads_0 10 rfl rfl)
theorem dX4_loads_11 : decode cX4_loads 11 = .ok (.aload_n 0, 1) := dk_42 (dk_at dksX4_loads_0 11 rfl rfl)
theorem dX4_loads_12 : decode cX4_loads 12 = .ok (.getfield 44, 3) := dk_180 0 44 (dk_at dksX4_loads_0 12 rfl rfl)
theorem dX4_loads_15 : decode cX4_loads 15 = .ok (.bipush 100, 2) := dk_16 100 (dk_at dksX4_loads_0 15 rfl rfl)
theorem dX4_loads_17 : decode cX4_loads 17 = .ok (.iload_n 1, 1) := dk_27 (dk_at dksX4_loads_0 17 rfl rfl)
theorem dX4_loads_18 : decode cX4_loads 18 = .ok (.iadd, 1) := dk_96 (dk_at dksX4_loads_0 18 rfl rfl)
theorem dX4_loads_19 : decode cX4_loads 19 = .ok (.iaload, 1) := dk_46 (dk_at dksX4_loads_0 19 rfl rfl)
theorem dX4_loads_20 : decode cX4_loads 20 = .ok (.iconst 1, 1) := dk_4 (dk_at dksX4_loads_0 20 rfl rfl)
theorem dX4_loads_21 : decode cX4_loads 21 = .ok (.if_icmp .ne 7, 3) := dk_160 0 7 (dk_at dksX4_loads_0 21 rfl rfl)
theorem dX4_loads_24 : decode cX4_loads 24 = .ok (.iconst 1, 1) := dk_4 (dk_at dksX4_loads_1 0 rfl rfl)
theorem dX4_loads_25 : decode cX4_loads 25 = .ok (.goto 4, 3) := dk_167 0 4 (dk_at dksX4_loads_1 1 rfl rfl)
theorem dX4_loads_28 : decode cX4_loads 28 = .ok (.iconst 0, 1) := dk_3 (dk_at dksX4_loads_1 4 rfl rfl)
theorem dX4_loads_29 : decode cX4_loads 29 = .ok (.putfield 289, 3) := dk_181 1 33 (dk_at dksX4_loads_1 5 rfl rfl)
theorem dX4_loads_32 : decode cX4_loads 32 = .ok (.iconst 0, 1) := dk_3 (dk_at dksX4_loads_1 8 rfl rfl)
theorem dX4_loads_33 : decode cX4_loads 33 = .ok (.istore_n 2, 1) := dk_61 (dk_at dksX4_loads_1 9 rfl rfl)
theorem dX4_loads_34 : decode cX4_loads 34 = .ok (.iload_n 2, 1) := dk_28 (dk_at dksX4_loads_1 10 rfl rfl)
theorem dX4_loads_35 : decode cX4_loads 35 = .ok (.aload_n 0, 1) := dk_42 (dk_at dksX4_loads_1 11 rfl rfl)
theorem dX4_loads_36 : decode cX4_loads 36 = .ok (.getfield 280, 3) := dk_180 1 24 (dk_at dksX4_loads_1 12 rfl rfl)
theorem dX4_loads_39 : decode cX4_loads 39 = .ok (.if_icmp .ge 46, 3) := dk_162 0 46 (dk_at dksX4_loads_1 15 rfl rfl)
theorem dX4_loads_42 : decode cX4_loads 42 = .ok (.iconst 0, 1) := dk_3 (dk_at dksX4_loads_1 18 rfl rfl)
theorem dX4_loads_43 : decode cX4_loads 43 = .ok (.istore_n 3, 1) := dk_62 (dk_at dksX4_loads_1 19 rfl rfl)
theorem dX4_loads_44 : decode cX4_loads 44 = .ok (.iload_n 3, 1) := dk_29 (dk_at dksX4_loads_1 20 rfl rfl)
theorem dX4_loads_45 : decode cX4_loads 45 = .ok (.aload_n 0, 1) := dk_42 (dk_at dksX4_loads_1 21 rfl rfl)
theorem dX4_loads_46 : decode cX4_loads 46 = .ok (.getfield 280, 3) := dk_180 1 24 (dk_at dksX4_loads_2 0 rfl rfl)
theorem dX4_loads_49 : decode cX4_loads 49 = .ok (.if_icmp .ge 30, 3) := dk_162 0 30 (dk_at dksX4_loads_2 3 rfl rfl)
theorem dX4_loads_52 : decode cX4_loads 52 = .ok (.aload_n 0, 1) := dk_42 (dk_at dksX4_loads_2 6 rfl rfl)
theorem dX4_loads_53 : decode cX4_loads 53 = .ok (.iload_n 2, 1) := dk_28 (dk_at dksX4_loads_2 7 rfl rfl)
theorem dX4_loads_54 : decode cX4_loads 54 = .ok (.iload_n 3, 1) := dk_29 (dk_at dksX4_loads_2 8 rfl rfl)
theorem dX4_loads_55 : decode cX4_loads 55 = .ok (.aload_n 0, 1) := dk_42 (dk_at dksX4_loads_2 9 rfl rfl)
theorem dX4_loads_56 : decode cX4_loads 56 = .ok (.getfield 44, 3) := dk_180 0 44 (dk_at dksX4_loads_2 10 rfl rfl)
theorem dX4_loads_59 : decode cX4_loads 59 = .ok (.bipush 25, 2) := dk_16 25 (dk_at dksX4_loads_2 13 rfl rfl)
theorem dX4_loads_61 : decode cX4_loads 61 = .ok (.iload_n 1, 1) := dk_27 (dk_at dksX4_loads_2 15 rfl rfl)
theorem dX4_loads_62 : decode cX4_loads 62 = .ok (.imul, 1) := dk_104 (dk_at dksX4_loads_2 16 rfl rfl)
theorem dX4_loads_63 : decode cX4_loads 63 = .ok (.iconst 5, 1) := dk_8 (dk_at dksX4_loads_2 17 rfl rfl)
theorem dX4_loads_64 : decode cX4_loads 64 = .ok (.iload_n 2, 1) := dk_28 (dk_at dksX4_loads_2 18 rfl rfl)
theorem dX4_loads_65 : decode cX4_loads 65 = .ok (.imul, 1) := dk_104 (dk_at dksX4_loads_2 19 rfl rfl)
theorem dX4_loads_66 : decode cX4_loads 66 = .ok (.iadd, 1) := dk_96 (dk_at dksX4_loads_2 20 rfl rfl)
theorem dX4_loads_67 : decode cX4_loads 67 = .ok (.iload_n 3, 1) := dk_29 (dk_at dksX4_loads_2 21 rfl rfl)
theorem dX4_loads_68 : decode cX4_loads 68 = .ok (.iadd, 1) := dk_96 (dk_at dksX4_loads_2 22 rfl rfl)
theorem dX4_loads_69 : decode cX4_loads 69 = .ok (.iaload, 1) := dk_46 (dk_at dksX4_loads_2 23 rfl rfl)
theorem dX4_loads_70 : decode cX4_loads 70 = .ok (.invokevirtual 276, 3) := dk_182 1 20 (dk_at dksX4_loads_3 0 rfl rfl)
theorem dX4_loads_73 : decode cX4_loads 73 = .ok (.iinc 3 1, 3) := dk_132 3 1 (dk_at dksX4_loads_3 3 rfl rfl)
theorem dX4_loads_76 : decode cX4_loads 76 = .ok (.goto (-32), 3) := dk_167 255 224 (dk_at dksX4_loads_3 6 rfl rfl)
theorem dX4_loads_79 : decode cX4_loads 79 = .ok (.iinc 2 1, 3) := dk_132 2 1 (dk_at dksX4_loads_3 9 rfl rfl)
theorem dX4_loads_82 : decode cX4_loads 82 = .ok (.goto (-48), 3) := dk_167 255 208 (dk_at dksX4_loads_3 12 rfl rfl)
theorem dX4_loads_85 : decode cX4_loads 85 = .ok (.return_, 1) := dk_177 (dk_at dksX4_loads_3 15 rfl rfl)
def dkwX4_pass_1 : List UInt8 := [182, 1, 84, 28, 154, 0, 10, 42, 182, 1, 50, 167, 0, 7, 42, 182, 1, 90, 42, 27, 182, 1, 77, 172]
abbrev dktX4_pass_1 : List UInt8 := dkwX4_pass_1 ++ []
def dkwX4_pass_0 : List UInt8 := [42, 3, 181, 0, 1, 27, 184, 1, 71, 153, 0, 10, 28, 184, 1, 87, 154, 0, 5, 2, 172, 42, 27]
abbrev dktX4_pass_0 : List UInt8 := dkwX4_pass_0 ++ dktX4_pass_1
theorem dksX4_pass_0 : cX4_pass.data.toList.drop 0 = dktX4_pass_0 := by decide +kernel
theorem dksX4_pass_1 : cX4_pass.data.toList.drop 23 = dktX4_pass_1 := dk_seg dksX4_pass_0 23 rfl rfl
theorem dX4_pass_0 : decode cX4_pass 0 = .ok (.aload_n 0, 1) := dk_42 (dk_at dksX4_pass_0 0 rfl rfl)
theorem dX4_pass_1 : decode cX4_pass 1 = .ok (.iconst 0, 1) := dk_3 (dk_at dksX4_pass_0 1 rfl rfl)
theorem dX4_pass_2 : decode cX4_pass 2 = .ok (.putfield 1, 3) := dk_181 0 1 (dk_at dksX4_pass_0 2 rfl rfl)
theorem dX4_pass_5 : decode cX4_pass 5 = .ok (.iload_n 1, 1) := dk_27 (dk_at dksX4_pass_0 5 rfl rfl)
theorem dX4_pass_6 : decode cX4_pass 6 = .ok (.invokestatic 327, 3) := dk_184 1 71 (dk_at dksX4_pass_0 6 rfl rfl)
theorem dX4_pass_9 : decode cX4_pass 9 = .ok (.ifCond .eq 10, 3) := dk_153 0 10 (dk_at dksX4_pass_0 9 rfl rfl)
theorem dX4_pass_12 : decode cX4_pass 12 = .ok (.iload_n 2, 1) := dk_28 (dk_at dksX4_pass_0 12 rfl rfl)
theorem dX4_pass_13 : decode cX4_pass 13 = .ok (.invokestatic 343, 3) := dk_184 1 87 (dk_at dksX4_pass_0 13 rfl rfl)
theorem dX4_pass_16 : decode cX4_pass 16 = .ok (.ifCond .ne 5, 3) := dk_154 0 5 (dk_at dksX4_pass_0 16 rfl rfl)
theorem dX4_pass_19 : decode cX4_pass 19 = .ok (.iconst (-1), 1) := dk_2 (dk_at dksX4_pass_0 19 rfl rfl)
theorem dX4_pass_20 : decode cX4_pass 20 = .ok (.ireturn, 1) := dk_172 (dk_at dksX4_pass_0 20 rfl rfl)
theorem dX4_pass_21 : decode cX4_pass 21 = .ok (.aload_n 0, 1) := dk_42 (dk_at dksX4_pass_0 21 rfl rfl)
theorem dX4_pass_22 : decode cX4_pass 22 = .ok (.iload_n 1, 1) := dk_27 (dk_at dksX4_pass_0 22 rfl rfl)
theorem dX4_pass_23 : decode cX4_pass 23 = .ok (.invokevirtual 340, 3) := dk_182 1 84 (dk_at dksX4_pass_1 0 rfl rfl)
theorem dX4_pass_26 : decode cX4_pass 26 = .ok (.iload_n 2, 1) := dk_28 (dk_at dksX4_pass_1 3 rfl rfl)
theorem dX4_pass_27 : decode cX4_pass 27 = .ok (.ifCond .ne 10, 3) := dk_154 0 10 (dk_at dksX4_pass_1 4 rfl rfl)
theorem dX4_pass_30 : decode cX4_pass 30 = .ok (.aload_n 0, 1) := dk_42 (dk_at dksX4_pass_1 7 rfl rfl)
theorem dX4_pass_31 : decode cX4_pass 31 = .ok (.invokevirtual 306, 3) := dk_182 1 50 (dk_at dksX4_pass_1 8 rfl rfl)
theorem dX4_pass_34 : decode cX4_pass 34 = .ok (.goto 7, 3) := dk_167 0 7 (dk_at dksX4_pass_1 11 rfl rfl)
theorem dX4_pass_37 : decode cX4_pass 37 = .ok (.aload_n 0, 1) := dk_42 (dk_at dksX4_pass_1 14 rfl rfl)
theorem dX4_pass_38 : decode cX4_pass 38 = .ok (.invokevirtual 346, 3) := dk_182 1 90 (dk_at dksX4_pass_1 15 rfl rfl)
theorem dX4_pass_41 : decode cX4_pass 41 = .ok (.aload_n 0, 1) := dk_42 (dk_at dksX4_pass_1 18 rfl rfl)
theorem dX4_pass_42 : decode cX4_pass 42 = .ok (.iload_n 1, 1) := dk_27 (dk_at dksX4_pass_1 19 rfl rfl)
theorem dX4_pass_43 : decode cX4_pass 43 = .ok (.invokevirtual 333, 3) := dk_182 1 77 (dk_at dksX4_pass_1 20 rfl rfl)
theorem dX4_pass_46 : decode cX4_pass 46 = .ok (.ireturn, 1) := dk_172 (dk_at dksX4_pass_1 23 rfl rfl)
def dkwX4_isTwo_0 : List UInt8 := [26, 3, 4, 184, 0, 158, 172]
abbrev dktX4_isTwo_0 : List UInt8 := dkwX4_isTwo_0 ++ []
theorem dksX4_isTwo_0 : cX4_isTwo.data.toList.drop 0 = dktX4_isTwo_0 := by decide +kernel
theorem dX4_isTwo_0 : decode cX4_isTwo 0 = .ok (.iload_n 0, 1) := dk_26 (dk_at dksX4_isTwo_0 0 rfl rfl)
theorem dX4_isTwo_1 : decode cX4_isTwo 1 = .ok (.iconst 0, 1) := dk_3 (dk_at dksX4_isTwo_0 1 rfl rfl)
theorem dX4_isTwo_2 : decode cX4_isTwo 2 = .ok (.iconst 1, 1) := dk_4 (dk_at dksX4_isTwo_0 2 rfl rfl)
theorem dX4_isTwo_3 : decode cX4_isTwo 3 = .ok (.invokestatic 158, 3) := dk_184 0 158 (dk_at dksX4_isTwo_0 3 rfl rfl)
theorem dX4_isTwo_6 : decode cX4_isTwo 6 = .ok (.ireturn, 1) := dk_172 (dk_at dksX4_isTwo_0 6 rfl rfl)
def dkwX4_downs_1 : List UInt8 := [182, 1, 44, 177]
abbrev dktX4_downs_1 : List UInt8 := dkwX4_downs_1 ++ []
def dkwX4_downs_0 : List UInt8 := [4, 60, 27, 42, 180, 1, 24, 162, 0, 16, 42, 3, 27, 4, 182, 1, 20, 132, 1, 1, 167, 255, 238, 42]
abbrev dktX4_downs_0 : List UInt8 := dkwX4_downs_0 ++ dktX4_downs_1
theorem dksX4_downs_0 : cX4_downs.data.toList.drop 0 = dktX4_downs_0 := by decide +kernel
theorem dksX4_downs_1 : cX4_downs.data.toList.drop 24 = dktX4_downs_1 := dk_seg dksX4_downs_0 24 rfl rfl
theorem dX4_downs_0 : decode cX4_downs 0 = .ok (.iconst 1, 1) := dk_4 (dk_at dksX4_downs_0 0 rfl rfl)
theorem dX4_downs_1 : decode cX4_downs 1 = .ok (.istore_n 1, 1) := dk_60 (dk_at dksX4_downs_0 1 rfl rfl)
theorem dX4_downs_2 : decode cX4_downs 2 = .ok (.iload_n 1, 1) := dk_27 (dk_at dksX4_downs_0 2 rfl rfl)
theorem dX4_downs_3 : decode cX4_downs 3 = .ok (.aload_n 0, 1) := dk_42 (dk_at dksX4_downs_0 3 rfl rfl)
theorem dX4_downs_4 : decode cX4_downs 4 = .ok (.getfield 280, 3) := dk_180 1 24 (dk_at dksX4_downs_0 4 rfl rfl)
theorem dX4_downs_7 : decode cX4_downs 7 = .ok (.if_icmp .ge 16, 3) := dk_162 0 16 (dk_at dksX4_downs_0 7 rfl rfl)
theorem dX4_downs_10 : decode cX4_downs 10 = .ok (.aload_n 0, 1) := dk_42 (dk_at dksX4_downs_0 10 rfl rfl)
theorem dX4_downs_11 : decode cX4_downs 11 = .ok (.iconst 0, 1) := dk_3 (dk_at dksX4_downs_0 11 rfl rfl)
theorem dX4_downs_12 : decode cX4_downs 12 = .ok (.iload_n 1, 1) := dk_27 (dk_at dksX4_downs_0 12 rfl rfl)
theorem dX4_downs_13 : decode cX4_downs 13 = .ok (.iconst 1, 1) := dk_4 (dk_at dksX4_downs_0 13 rfl rfl)
theorem dX4_downs_14 : decode cX4_downs 14 = .ok (.invokevirtual 276, 3) := dk_182 1 20 (dk_at dksX4_downs_0 14 rfl rfl)
theorem dX4_downs_17 : decode cX4_downs 17 = .ok (.iinc 1 1, 3) := dk_132 1 1 (dk_at dksX4_downs_0 17 rfl rfl)
theorem dX4_downs_20 : decode cX4_downs 20 = .ok (.goto (-18), 3) := dk_167 255 238 (dk_at dksX4_downs_0 20 rfl rfl)
theorem dX4_downs_23 : decode cX4_downs 23 = .ok (.aload_n 0, 1) := dk_42 (dk_at dksX4_downs_0 23 rfl rfl)
theorem dX4_downs_24 : decode cX4_downs 24 = .ok (.invokevirtual 300, 3) := dk_182 1 44 (dk_at dksX4_downs_1 0 rfl rfl)
theorem dX4_downs_27 : decode cX4_downs 27 = .ok (.return_, 1) := dk_177 (dk_at dksX4_downs_1 3 rfl rfl)
def dkwX4_reset_2 : List UInt8 := [182, 1, 77, 172]
abbrev dktX4_reset_2 : List UInt8 := dkwX4_reset_2 ++ []
def dkwX4_reset_1 : List UInt8 := [184, 0, 158, 154, 0, 5, 2, 172, 42, 27, 182, 1, 84, 42, 28, 4, 96, 29, 182, 1, 53, 42, 27]
abbrev dktX4_reset_1 : List UInt8 := dkwX4_reset_1 ++ dktX4_reset_2
def dkwX4_reset_0 : List UInt8 := [42, 3, 181, 0, 1, 27, 184, 1, 71, 153, 0, 21, 42, 28, 182, 1, 93, 153, 0, 13, 29, 3, 16, 50]
abbrev dktX4_reset_0 : List UInt8 := dkwX4_reset_0 ++ dktX4_reset_1
theorem dksX4_reset_0 : cX4_reset.data.toList.drop 0 = dktX4_reset_0 := by decide +kernel
theorem dksX4_reset_1 : cX4_reset.data.toList.drop 24 = dktX4_reset_1 := dk_seg dksX4_reset_0 24 rfl rfl
theorem dksX4_reset_2 : cX4_reset.data.toList.drop 47 = dktX4_reset_2 := dk_seg dksX4_reset_1 23 rfl rfl
theorem dX4_reset_0 : decode cX4_reset 0 = .ok (.aload_n 0, 1) := dk_42 (dk_at dksX4_reset_0 0 rfl rfl)
theorem dX4_reset_1 : decode cX4_reset 1 = .ok (.iconst 0, 1) := dk_3 (dk_at dksX4_reset_0 1 rfl rfl)
theorem dX4_reset_2 : decode cX4_reset 2 = .ok (.putfield 1, 3) := dk_181 0 1 (dk_at dksX4_reset_0 2 rfl rfl)
theorem dX4_reset_5 : decode cX4_reset 5 = .ok (.iload_n 1, 1) := dk_27 (dk_at dksX4_reset_0 5 rfl rfl)
theorem dX4_reset_6 : decode cX4_reset 6 = .ok (.invokestatic 327, 3) := dk_184 1 71 (dk_at dksX4_reset_0 6 rfl rfl)
theorem dX4_reset_9 : decode cX4_reset 9 = .ok (.ifCond .eq 21, 3) := dk_153 0 21 (dk_at dksX4_reset_0 9 rfl rfl)
theorem dX4_reset_12 : decode cX4_reset 12 = .ok (.aload_n 0, 1) := dk_42 (dk_at dksX4_reset_0 12 rfl rfl)
theorem dX4_reset_13 : decode cX4_reset 13 = .ok (.iload_n 2, 1) := dk_28 (dk_at dksX4_reset_0 13 rfl rfl)
theorem dX4_reset_14 : decode cX4_reset 14 = .ok (.invokevirtual 349, 3) := dk_182 1 93 (dk_at dksX4_reset_0 14 rfl rfl)
theorem dX4_reset_17 : decode cX4_reset 17 = .ok (.ifCond .eq 13, 3) := dk_153 0 13 (dk_at dksX4_reset_0 17 rfl rfl)
theorem dX4_reset_20 : decode cX4_reset 20 = .ok (.iload_n 3, 1) := dk_29 (dk_at dksX4_reset_0 20 rfl rfl)
theorem dX4_reset_21 : decode cX4_reset 21 = .ok (.iconst 0, 1) := dk_3 (dk_at dksX4_reset_0 21 rfl rfl)
theorem dX4_reset_22 : decode cX4_reset 22 = .ok (.bipush 50, 2) := dk_16 50 (dk_at dksX4_reset_0 22 rfl rfl)
theorem dX4_reset_24 : decode cX4_reset 24 = .ok (.invokestatic 158, 3) := dk_184 0 158 (dk_at dksX4_reset_1 0 rfl rfl)
theorem dX4_reset_27 : decode cX4_reset 27 = .ok (.ifCond .ne 5, 3) := dk_154 0 5 (dk_at dksX4_reset_1 3 rfl rfl)
theorem dX4_reset_30 : decode cX4_reset 30 = .ok (.iconst (-1), 1) := dk_2 (dk_at dksX4_reset_1 6 rfl rfl)
theorem dX4_reset_31 : decode cX4_reset 31 = .ok (.ireturn, 1) := dk_172 (dk_at dksX4_reset_1 7 rfl rfl)
theorem dX4_reset_32 : decode cX4_reset 32 = .ok (.aload_n 0, 1) := dk_42 (dk_at dksX4_reset_1 8 rfl rfl)
theorem dX4_reset_33 : decode cX4_reset 33 = .ok (.iload_n 1, 1) := dk_27 (dk_at dksX4_reset_1 9 rfl rfl)
theorem dX4_reset_34 : decode cX4_reset 34 = .ok (.invokevirtual 340, 3) := dk_182 1 84 (dk_at dksX4_reset_1 10 rfl rfl)
theorem dX4_reset_37 : decode cX4_reset 37 = .ok (.aload_n 0, 1) := dk_42 (dk_at dksX4_reset_1 13 rfl rfl)
theorem dX4_reset_38 : decode cX4_reset 38 = .ok (.iload_n 2, 1) := dk_28 (dk_at dksX4_reset_1 14 rfl rfl)
theorem dX4_reset_39 : decode cX4_reset 39 = .ok (.iconst 1, 1) := dk_4 (dk_at dksX4_reset_1 15 rfl rfl)
theorem dX4_reset_40 : decode cX4_reset 40 = .ok (.iadd, 1) := dk_96 (dk_at dksX4_reset_1 16 rfl rfl)
theorem dX4_reset_41 : decode cX4_reset 41 = .ok (.iload_n 3, 1) := dk_29 (dk_at dksX4_reset_1 17 rfl rfl)
theorem dX4_reset_42 : decode cX4_reset 42 = .ok (.invokevirtual 309, 3) := dk_182 1 53 (dk_at dksX4_reset_1 18 rfl rfl)
theorem dX4_reset_45 : decode cX4_reset 45 = .ok (.aload_n 0, 1) := dk_42 (dk_at dksX4_reset_1 21 rfl rfl)
theorem dX4_reset_46 : decode cX4_reset 46 = .ok (.iload_n 1, 1) := dk_27 (dk_at dksX4_reset_1 22 rfl rfl)
theorem dX4_reset_47 : decode cX4_reset 47 = .ok (.invokevirtual 333, 3) := dk_182 1 77 (dk_at dksX4_reset_2 0 rfl rfl)
theorem dX4_reset_50 : decode cX4_reset 50 = .ok (.ireturn, 1) := dk_172 (dk_at dksX4_reset_2 3 rfl rfl)
def dkwX4_isClock_0 : List UInt8 := [27, 3, 42, 180, 0, 242, 4, 100, 184, 0, 158, 172]
abbrev dktX4_isClock_0 : List UInt8 := dkwX4_isClock_0 ++ []
theorem dksX4_isClock_0 : cX4_isClock.data.toList.drop 0 = dktX4_isClock_0 := by decide +kernel
theorem dX4_isClock_0 : decode cX4_isClock 0 = .ok (.iload_n 1, 1) := dk_27 (dk_at dksX4_isClock_0 0 rfl rfl)
theorem dX4_isClock_1 : decode cX4_isClock 1 = .ok (.iconst 0, 1) := dk_3 (dk_at dksX4_isClock_0 1 rfl rfl)
theorem dX4_isClock_2 : decode cX4_isClock 2 = .ok (.aload_n 0, 1) := dk_42 (dk_at dksX4_isClock_0 2 rfl rfl)
theorem dX4_isClock_3 : decode cX4_isClock 3 = .ok (.getfield 242, 3) := dk_180 0 242 (dk_at dksX4_isClock_0 3 rfl rfl)
theorem dX4_isClock_6 : decode cX4_isClock 6 = .ok (.iconst 1, 1) := dk_4 (dk_at dksX4_isClock_0 6 rfl rfl)
theorem dX4_isClock_7 : decode cX4_isClock 7 = .ok (.isub, 1) := dk_100 (dk_at dksX4_isClock_0 7 rfl rfl)
theorem dX4_isClock_8 : decode cX4_isClock 8 = .ok (.invokestatic 158, 3) := dk_184 0 158 (dk_at dksX4_isClock_0 8 rfl rfl)
theorem dX4_isClock_11 : decode cX4_isClock 11 = .ok (.ireturn, 1) := dk_172 (dk_at dksX4_isClock_0 11 rfl rfl)
def dkwX4_free_1 : List UInt8 := [182, 1, 84, 42, 28, 4, 96, 182, 1, 59, 42, 27, 182, 1, 77, 172]
abbrev dktX4_free_1 : List UInt8 := dkwX4_free_1 ++ []
def dkwX4_free_0 : List UInt8 := [42, 3, 181, 0, 1, 27, 184, 1, 71, 153, 0, 11, 42, 28, 182, 1, 93, 154, 0, 5, 2, 172, 42, 27]
abbrev dktX4_free_0 : List UInt8 := dkwX4_free_0 ++ dktX4_free_1
theorem dksX4_free_0 : cX4_free.data.toList.drop 0 = dktX4_free_0 := by decide +kernel
theorem dksX4_free_1 : cX4_free.data.toList.drop 24 = dktX4_free_1 := dk_seg dksX4_free_0 24 rfl rfl
theorem dX4_free_0 : decode cX4_free 0 = .ok (.aload_n 0, 1) := dk_42 (dk_at dksX4_free_0 0 rfl rfl)
theorem dX4_free_1 : decode cX4_free 1 = .ok (.iconst 0, 1) := dk_3 (dk_at dksX4_free_0 1 rfl rfl)
theorem dX4_free_2 : decode cX4_free 2 = .ok (.putfield 1, 3) := dk_181 0 1 (dk_at dksX4_free_0 2 rfl rfl)
theorem dX4_free_5 : decode cX4_free 5 = .ok (.iload_n 1, 1) := dk_27 (dk_at dksX4_free_0 5 rfl rfl)
theorem dX4_free_6 : decode cX4_free 6 = .ok (.invokestatic 327, 3) := dk_184 1 71 (dk_at dksX4_free_0 6 rfl rfl)
theorem dX4_free_9 : decode cX4_free 9 = .ok (.ifCond .eq 11, 3) := dk_153 0 11 (dk_at dksX4_free_0 9 rfl rfl)
theorem dX4_free_12 : decode cX4_free 12 = .ok (.aload_n 0, 1) := dk_42 (dk_at dksX4_free_0 12 rfl rfl)
theorem dX4_free_13 : decode cX4_free 13 = .ok (.iload_n 2, 1) := dk_28 (dk_at dksX4_free_0 13 rfl rfl)
theorem dX4_free_14 : decode cX4_free 14 = .ok (.invokevirtual 349, 3) := dk_182 1 93 (dk_at dksX4_free_0 14 rfl rfl)
theorem dX4_free_17 : decode cX4_free 17 = .ok (.ifCond .ne 5, 3) := dk_154 0 5 (dk_at dksX4_free_0 17 rfl rfl)
theorem dX4_free_20 : decode cX4_free 20 = .ok (.iconst (-1), 1) := dk_2 (dk_at dksX4_free_0 20 rfl rfl)
theorem dX4_free_21 : decode cX4_free 21 = .ok (.ireturn, 1) := dk_172 (dk_at dksX4_free_0 21 rfl rfl)
theorem dX4_free_22 : decode cX4_free 22 = .ok (.aload_n 0, 1) := dk_42 (dk_at dksX4_free_0 22 rfl rfl)
theorem dX4_free_23 : decode cX4_free 23 = .ok (.iload_n 1, 1) := dk_27 (dk_at dksX4_free_0 23 rfl rfl)
theorem dX4_free_24 : decode cX4_free 24 = .ok (.invokevirtual 340, 3) := dk_182 1 84 (dk_at dksX4_free_1 0 rfl rfl)
theorem dX4_free_27 : decode cX4_free 27 = .ok (.aload_n 0, 1) := dk_42 (dk_at dksX4_free_1 3 rfl rfl)
theorem dX4_free_28 : decode cX4_free 28 = .ok (.iload_n 2, 1) := dk_28 (dk_at dksX4_free_1 4 rfl rfl)
theorem dX4_free_29 : decode cX4_free 29 = .ok (.iconst 1, 1) := dk_4 (dk_at dksX4_free_1 5 rfl rfl)
theorem dX4_free_30 : decode cX4_free 30 = .ok (.iadd, 1) := dk_96 (dk_at dksX4_free_1 6 rfl rfl)
theorem dX4_free_31 : decode cX4_free 31 = .ok (.invokevirtual 315, 3) := dk_182 1 59 (dk_at dksX4_free_1 7 rfl rfl)
theorem dX4_free_34 : decode cX4_free 34 = .ok (.aload_n 0, 1) := dk_42 (dk_at dksX4_free_1 10 rfl rfl)
theorem dX4_free_35 : decode cX4_free 35 = .ok (.iload_n 1, 1) := dk_27 (dk_at dksX4_free_1 11 rfl rfl)
theorem dX4_free_36 : decode cX4_free 36 = .ok (.invokevirtual 333, 3) := dk_182 1 77 (dk_at dksX4_free_1 12 rfl rfl)
theorem dX4_free_39 : decode cX4_free 39 = .ok (.ireturn, 1) := dk_172 (dk_at dksX4_free_1 15 rfl rfl)
def dkwX4_frees_2 : List UInt8 := [4, 182, 1, 20, 177]
abbrev dktX4_frees_2 : List UInt8 := dkwX4_frees_2 ++ []
def dkwX4_frees_1 : List UInt8 := [182, 1, 20, 42, 28, 27, 42, 28, 3, 182, 1, 16, 182, 1, 20, 132, 2, 1, 167, 255, 216, 42, 3, 27]
abbrev dktX4_frees_1 : List UInt8 := dkwX4_frees_1 ++ dktX4_frees_2
def dkwX4_frees_0 : List UInt8 := [3, 61, 28, 42, 180, 1, 24, 162, 0, 38, 28, 27, 160, 0, 6, 167, 0, 24, 42, 27, 28, 19, 1, 15]
abbrev dktX4_frees_0 : List UInt8 := dkwX4_frees_0 ++ dktX4_frees_1
theorem dksX4_frees_0 : cX4_frees.data.toList.drop 0 = dktX4_frees_0 := by decide +kernel
theorem dksX4_frees_1 : cX4_frees.data.toList.drop 24 = dktX4_frees_1 := dk_seg dksX4_frees_0 24 rfl rfl
theorem dksX4_frees_2 : cX4_frees.data.toList.drop 48 = dktX4_frees_2 := dk_seg dksX4_frees_1 24 rfl rfl
theorem dX4_frees_0 : decode cX4_frees 0 = .ok (.iconst 0, 1) := dk_3 (dk_at dksX4_frees_0 0 rfl rfl)
theorem dX4_frees_1 : decode cX4_frees 1 = .ok (.istore_n 2, 1) := dk_61 (dk_at dksX4_frees_0 1 rfl rfl)
theorem dX4_frees_2 : decode cX4_frees 2 = .ok (.iload_n 2, 1) := dk_28 (dk_at dksX4_frees_0 2 rfl rfl)
theorem dX4_frees_3 : decode cX4_frees 3 = .ok (.aload_n 0, 1) := dk_42 (dk_at dksX4_frees_0 3 rfl rfl)
theorem dX4_frees_4 : decode cX4_frees 4 = .ok (.getfield 280, 3) := dk_180 1 24 (dk_at dksX4_frees_0 4 rfl rfl)
theorem dX4_frees_7 : decode cX4_frees 7 = .ok (.if_icmp .ge 38, 3) := dk_162 0 38 (dk_at dksX4_frees_0 7 rfl rfl)
theorem dX4_frees_10 : decode cX4_frees 10 = .ok (.iload_n 2, 1) := dk_28 (dk_at dksX4_frees_0 10 rfl rfl)
theorem dX4_frees_11 : decode cX4_frees 11 = .ok (.iload_n 1, 1) := dk_27 (dk_at dksX4_frees_0 11 rfl rfl)
theorem dX4_frees_12 : decode cX4_frees 12 = .ok (.if_icmp .ne 6, 3) := dk_160 0 6 (dk_at dksX4_frees_0 12 rfl rfl)
theorem dX4_frees_15 : decode cX4_frees 15 = .ok (.goto 24, 3) := dk_167 0 24 (dk_at dksX4_frees_0 15 rfl rfl)
theorem dX4_frees_18 : decode cX4_frees 18 = .ok (.aload_n 0, 1) := dk_42 (dk_at dksX4_frees_0 18 rfl rfl)
theorem dX4_frees_19 : decode cX4_frees 19 = .ok (.iload_n 1, 1) := dk_27 (dk_at dksX4_frees_0 19 rfl rfl)
theorem dX4_frees_20 : decode cX4_frees 20 = .ok (.iload_n 2, 1) := dk_28 (dk_at dksX4_frees_0 20 rfl rfl)
theorem dX4_frees_21 : decode cX4_frees 21 = .ok (.ldc_w 271, 3) := dk_19 1 15 (dk_at dksX4_frees_0 21 rfl rfl)
theorem dX4_frees_24 : decode cX4_frees 24 = .ok (.invokevirtual 276, 3) := dk_182 1 20 (dk_at dksX4_frees_1 0 rfl rfl)
theorem dX4_frees_27 : decode cX4_frees 27 = .ok (.aload_n 0, 1) := dk_42 (dk_at dksX4_frees_1 3 rfl rfl)
theorem dX4_frees_28 : decode cX4_frees 28 = .ok (.iload_n 2, 1) := dk_28 (dk_at dksX4_frees_1 4 rfl rfl)
theorem dX4_frees_29 : decode cX4_frees 29 = .ok (.iload_n 1, 1) := dk_27 (dk_at dksX4_frees_1 5 rfl rfl)
theorem dX4_frees_30 : decode cX4_frees 30 = .ok (.aload_n 0, 1) := dk_42 (dk_at dksX4_frees_1 6 rfl rfl)
theorem dX4_frees_31 : decode cX4_frees 31 = .ok (.iload_n 2, 1) := dk_28 (dk_at dksX4_frees_1 7 rfl rfl)
theorem dX4_frees_32 : decode cX4_frees 32 = .ok (.iconst 0, 1) := dk_3 (dk_at dksX4_frees_1 8 rfl rfl)
theorem dX4_frees_33 : decode cX4_frees 33 = .ok (.invokevirtual 272, 3) := dk_182 1 16 (dk_at dksX4_frees_1 9 rfl rfl)
theorem dX4_frees_36 : decode cX4_frees 36 = .ok (.invokevirtual 276, 3) := dk_182 1 20 (dk_at dksX4_frees_1 12 rfl rfl)
theorem dX4_frees_39 : decode cX4_frees 39 = .ok (.iinc 2 1, 3) := dk_132 2 1 (dk_at dksX4_frees_1 15 rfl rfl)
theorem dX4_frees_42 : decode cX4_frees 42 = .ok (.goto (-40), 3) := dk_167 255 216 (dk_at dksX4_frees_1 18 rfl rfl)
theorem dX4_frees_45 : decode cX4_frees 45 = .ok (.aload_n 0, 1) := dk_42 (dk_at dksX4_frees_1 21 rfl rfl)
theorem dX4_frees_46 : decode cX4_frees 46 = .ok (.iconst 0, 1) := dk_3 (dk_at dksX4_frees_1 22 rfl rfl)
theorem dX4_frees_47 : decode cX4_frees 47 = .ok (.iload_n 1, 1) := dk_27 (dk_at dksX4_frees_1 23 rfl rfl)
theorem dX4_frees_48 : decode cX4_frees 48 = .ok (.iconst 1, 1) := dk_4 (dk_at dksX4_frees_2 0 rfl rfl)
theorem dX4_frees_49 : decode cX4_frees 49 = .ok (.invokevirtual 276, 3) := dk_182 1 20 (dk_at dksX4_frees_2 1 rfl rfl)
theorem dX4_frees_52 : decode cX4_frees 52 = .ok (.return_, 1) := dk_177 (dk_at dksX4_frees_2 4 rfl rfl)
def dkwX4_copy_1 : List UInt8 := [182, 1, 84, 42, 27, 182, 1, 77, 172]
abbrev dktX4_copy_1 : List UInt8 := dkwX4_copy_1 ++ []
def dkwX4_copy_0 : List UInt8 := [42, 3, 181, 0, 1, 27, 184, 1, 71, 153, 0, 10, 28, 184, 1, 71, 154, 0, 5, 2, 172, 42, 28]
abbrev dktX4_copy_0 : List UInt8 := dkwX4_copy_0 ++ dktX4_copy_1
theorem dksX4_copy_0 : cX4_copy.data.toList.drop 0 = dktX4_copy_0 := by decide +kernel
theorem dksX4_copy_1 : cX4_copy.data.toList.drop 23 = dktX4_copy_1 := dk_seg dksX4_copy_0 23 rfl rfl
theorem dX4_copy_0 : decode cX4_copy 0 = .ok (.aload_n 0, 1) := dk_42 (dk_at dksX4_copy_0 0 rfl rfl)
theorem dX4_copy_1 : decode cX4_copy 1 = .ok (.iconst 0, 1) := dk_3 (dk_at dksX4_copy_0 1 rfl rfl)
theorem dX4_copy_2 : decode cX4_copy 2 = .ok (.putfield 1, 3) := dk_181 0 1 (dk_at dksX4_copy_0 2 rfl rfl)
theorem dX4_copy_5 : decode cX4_copy 5 = .ok (.iload_n 1, 1) := dk_27 (dk_at dksX4_copy_0 5 rfl rfl)
theorem dX4_copy_6 : decode cX4_copy 6 = .ok (.invokestatic 327, 3) := dk_184 1 71 (dk_at dksX4_copy_0 6 rfl rfl)
theorem dX4_copy_9 : decode cX4_copy 9 = .ok (.ifCond .eq 10, 3) := dk_153 0 10 (dk_at dksX4_copy_0 9 rfl rfl)
theorem dX4_copy_12 : decode cX4_copy 12 = .ok (.iload_n 2, 1) := dk_28 (dk_at dksX4_copy_0 12 rfl rfl)
theorem dX4_copy_13 : decode cX4_copy 13 = .ok (.invokestatic 327, 3) := dk_184 1 71 (dk_at dksX4_copy_0 13 rfl rfl)
theorem dX4_copy_16 : decode cX4_copy 16 = .ok (.ifCond .ne 5, 3) := dk_154 0 5 (dk_at dksX4_copy_0 16 rfl rfl)
theorem dX4_copy_19 : decode cX4_copy 19 = .ok (.iconst (-1), 1) := dk_2 (dk_at dksX4_copy_0 19 rfl rfl)
theorem dX4_copy_20 : decode cX4_copy 20 = .ok (.ireturn, 1) := dk_172 (dk_at dksX4_copy_0 20 rfl rfl)
theorem dX4_copy_21 : decode cX4_copy 21 = .ok (.aload_n 0, 1) := dk_42 (dk_at dksX4_copy_0 21 rfl rfl)
theorem dX4_copy_22 : decode cX4_copy 22 = .ok (.iload_n 2, 1) := dk_28 (dk_at dksX4_copy_0 22 rfl rfl)
theorem dX4_copy_23 : decode cX4_copy 23 = .ok (.invokevirtual 340, 3) := dk_182 1 84 (dk_at dksX4_copy_1 0 rfl rfl)
theorem dX4_copy_26 : decode cX4_copy 26 = .ok (.aload_n 0, 1) := dk_42 (dk_at dksX4_copy_1 3 rfl rfl)
theorem dX4_copy_27 : decode cX4_copy 27 = .ok (.iload_n 1, 1) := dk_27 (dk_at dksX4_copy_1 4 rfl rfl)
theorem dX4_copy_28 : decode cX4_copy 28 = .ok (.invokevirtual 333, 3) := dk_182 1 77 (dk_at dksX4_copy_1 5 rfl rfl)
theorem dX4_copy_31 : decode cX4_copy 31 = .ok (.ireturn, 1) := dk_172 (dk_at dksX4_copy_1 8 rfl rfl)
def dkwX4_join_5 : List UInt8 := [182, 1, 96, 182, 1, 20, 132, 4, 1, 167, 255, 211, 132, 3, 1, 167, 255, 194, 42, 27, 182, 1, 77, 172]
abbrev dktX4_join_5 : List UInt8 := dkwX4_join_5 ++ []
def dkwX4_join_4 : List UInt8 := [182, 1, 96, 42, 29, 21, 4, 182, 1, 16, 164, 0, 18, 42, 29, 21, 4, 42, 28, 29, 21, 4]
abbrev dktX4_join_4 : List UInt8 := dkwX4_join_4 ++ dktX4_join_5
def dkwX4_join_3 : List UInt8 := [180, 1, 24, 162, 0, 60, 3, 54, 4, 21, 4, 42, 180, 1, 24, 162, 0, 42, 42, 28, 29, 21, 4]
abbrev dktX4_join_3 : List UInt8 := dkwX4_join_3 ++ dktX4_join_4
def dkwX4_join_2 : List UInt8 := [16, 100, 27, 96, 46, 42, 180, 0, 44, 16, 100, 28, 96, 46, 96, 154, 0, 70, 3, 62, 29, 42]
abbrev dktX4_join_2 : List UInt8 := dkwX4_join_2 ++ dktX4_join_3
def dkwX4_join_1 : List UInt8 := [180, 0, 44, 16, 100, 27, 96, 46, 4, 160, 0, 7, 28, 167, 0, 4, 27, 182, 1, 84, 42, 180, 0, 44]
abbrev dktX4_join_1 : List UInt8 := dkwX4_join_1 ++ dktX4_join_2
def dkwX4_join_0 : List UInt8 := [42, 3, 181, 0, 1, 27, 184, 1, 71, 153, 0, 10, 28, 184, 1, 71, 154, 0, 5, 2, 172, 42, 42]
abbrev dktX4_join_0 : List UInt8 := dkwX4_join_0 ++ dktX4_join_1
theorem dksX4_join_0 : cX4_join.data.toList.drop 0 = dktX4_join_0 := by decide +kernel
theorem dksX4_join_1 : cX4_join.data.toList.drop 23 = dktX4_join_1 := dk_seg dksX4_join_0 23 rfl rfl
theorem dksX4_join_2 : cX4_join.data.toList.drop 47 = dktX4_join_2 := dk_seg dksX4_join_1 24 rfl rfl
theorem dksX4_join_3 : cX4_join.data.toList.drop 69 = dktX4_join_3 := dk_seg dksX4_join_2 22 rfl rfl
theorem dksX4_join_4 : cX4_join.data.toList.drop 92 = dktX4_join_4 := dk_seg dksX4_join_3 23 rfl rfl
theorem dksX4_join_5 : cX4_join.data.toList.drop 114 = dktX4_join_5 := dk_seg dksX4_join_4 22 rfl rfl
theorem dX4_join_0 : decode cX4_join 0 = .ok (.aload_n 0, 1) := dk_42 (dk_at dksX4_join_0 0 rfl rfl)
theorem dX4_join_1 : decode cX4_join 1 = .ok (.iconst 0, 1) := dk_3 (dk_at dksX4_join_0 1 rfl rfl)
theorem dX4_join_2 : decode cX4_join 2 = .ok (.putfield 1, 3) := dk_181 0 1 (dk_at dksX4_join_0 2 rfl rfl)
theorem dX4_join_5 : decode cX4_join 5 = .ok (.iload_n 1, 1) := dk_27 (dk_at dksX4_join_0 5 rfl rfl)
theorem dX4_join_6 : decode cX4_join 6 = .ok (.invokestatic 327, 3) := dk_184 1 71 (dk_at dksX4_join_0 6 rfl rfl)
theorem dX4_join_9 : decode cX4_join 9 = .ok (.ifCond .eq 10, 3) := dk_153 0 10 (dk_at dksX4_join_0 9 rfl rfl)
theorem dX4_join_12 : decode cX4_join 12 = .ok (.iload_n 2, 1) := dk_28 (dk_at dksX4_join_0 12 rfl rfl)
theorem dX4_join_13 : decode cX4_join 13 = .ok (.invokestatic 327, 3) := dk_184 1 71 (dk_at dksX4_join_0 13 rfl rfl)
theorem dX4_join_16 : decode cX4_join 16 = .ok (.ifCond .ne 5, 3) := dk_154 0 5 (dk_at dksX4_join_0 16 rfl rfl)
theorem dX4_join_19 : decode cX4_join 19 = .ok (.iconst (-1), 1) := dk_2 (dk_at dksX4_join_0 19 rfl rfl)
theorem dX4_join_20 : decode cX4_join 20 = .ok (.ireturn, 1) := dk_172 (dk_at dksX4_join_0 20 rfl rfl)
theorem dX4_join_21 : decode cX4_join 21 = .ok (.aload_n 0, 1) := dk_42 (dk_at dksX4_join_0 21 rfl rfl)
theorem dX4_join_22 : decode cX4_join 22 = .ok (.aload_n 0, 1) := dk_42 (dk_at dksX4_join_0 22 rfl rfl)
theorem dX4_join_23 : decode cX4_join 23 = .ok (.getfield 44, 3) := dk_180 0 44 (dk_at dksX4_join_1 0 rfl rfl)
theorem dX4_join_26 : decode cX4_join 26 = .ok (.bipush 100, 2) := dk_16 100 (dk_at dksX4_join_1 3 rfl rfl)
theorem dX4_join_28 : decode cX4_join 28 = .ok (.iload_n 1, 1) := dk_27 (dk_at dksX4_join_1 5 rfl rfl)
theorem dX4_join_29 : decode cX4_join 29 = .ok (.iadd, 1) := dk_96 (dk_at dksX4_join_1 6 rfl rfl)
theorem dX4_join_30 : decode cX4_join 30 = .ok (.iaload, 1) := dk_46 (dk_at dksX4_join_1 7 rfl rfl)
theorem dX4_join_31 : decode cX4_join 31 = .ok (.iconst 1, 1) := dk_4 (dk_at dksX4_join_1 8 rfl rfl)
theorem dX4_join_32 : decode cX4_join 32 = .ok (.if_icmp .ne 7, 3) := dk_160 0 7 (dk_at dksX4_join_1 9 rfl rfl)
theorem dX4_join_35 : decode cX4_join 35 = .ok (.iload_n 2, 1) := dk_28 (dk_at dksX4_join_1 12 rfl rfl)
theorem dX4_join_36 : decode cX4_join 36 = .ok (.goto 4, 3) := dk_167 0 4 (dk_at dksX4_join_1 13 rfl rfl)
theorem dX4_join_39 : decode cX4_join 39 = .ok (.iload_n 1, 1) := dk_27 (dk_at dksX4_join_1 16 rfl rfl)
theorem dX4_join_40 : decode cX4_join 40 = .ok (.invokevirtual 340, 3) := dk_182 1 84 (dk_at dksX4_join_1 17 rfl rfl)
theorem dX4_join_43 : decode cX4_join 43 = .ok (.aload_n 0, 1) := dk_42 (dk_at dksX4_join_1 20 rfl rfl)
theorem dX4_join_44 : decode cX4_join 44 = .ok (.getfield 44, 3) := dk_180 0 44 (dk_at dksX4_join_1 21 rfl rfl)
theorem dX4_join_47 : decode cX4_join 47 = .ok (.bipush 100, 2) := dk_16 100 (dk_at dksX4_join_2 0 rfl rfl)
theorem dX4_join_49 : decode cX4_join 49 = .ok (.iload_n 1, 1) := dk_27 (dk_at dksX4_join_2 2 rfl rfl)
theorem dX4_join_50 : decode cX4_join 50 = .ok (.iadd, 1) := dk_96 (dk_at dksX4_join_2 3 rfl rfl)
theorem dX4_join_51 : decode cX4_join 51 = .ok (.iaload, 1) := dk_46 (dk_at dksX4_join_2 4 rfl rfl)
theorem dX4_join_52 : decode cX4_join 52 = .ok (.aload_n 0, 1) := dk_42 (dk_at dksX4_join_2 5 rfl rfl)
theorem dX4_join_53 : decode cX4_join 53 = .ok (.getfield 44, 3) := dk_180 0 44 (dk_at dksX4_join_2 6 rfl rfl)
theorem dX4_join_56 : decode cX4_join 56 = .ok (.bipush 100, 2) := dk_16 100 (dk_at dksX4_join_2 9 rfl rfl)
theorem dX4_join_58 : decode cX4_join 58 = .ok (.iload_n 2, 1) := dk_28 (dk_at dksX4_join_2 11 rfl rfl)
theorem dX4_join_59 : decode cX4_join 59 = .ok (.iadd, 1) := dk_96 (dk_at dksX4_join_2 12 rfl rfl)
theorem dX4_join_60 : decode cX4_join 60 = .ok (.iaload, 1) := dk_46 (dk_at dksX4_join_2 13 rfl rfl)
theorem dX4_join_61 : decode cX4_join 61 = .ok (.iadd, 1) := dk_96 (dk_at dksX4_join_2 14 rfl rfl)
theorem dX4_join_62 : decode cX4_join 62 = .ok (.ifCond .ne 70, 3) := dk_154 0 70 (dk_at dksX4_join_2 15 rfl rfl)
theorem dX4_join_65 : decode cX4_join 65 = .ok (.iconst 0, 1) := dk_3 (dk_at dksX4_join_2 18 rfl rfl)
theorem dX4_join_66 : decode cX4_join 66 = .ok (.istore_n 3, 1) := dk_62 (dk_at dksX4_join_2 19 rfl rfl)
theorem dX4_join_67 : decode cX4_join 67 = .ok (.iload_n 3, 1) := dk_29 (dk_at dksX4_join_2 20 rfl rfl)
theorem dX4_join_68 : decode cX4_join 68 = .ok (.aload_n 0, 1) := dk_42 (dk_at dksX4_join_2 21 rfl rfl)
theorem dX4_join_69 : decode cX4_join 69 = .ok (.getfield 280, 3) := dk_180 1 24 (dk_at dksX4_join_3 0 rfl rfl)
theorem dX4_join_72 : decode cX4_join 72 = .ok (.if_icmp .ge 60, 3) := dk_162 0 60 (dk_at dksX4_join_3 3 rfl rfl)
theorem dX4_join_75 : decode cX4_join 75 = .ok (.iconst 0, 1) := dk_3 (dk_at dksX4_join_3 6 rfl rfl)
theorem dX4_join_76 : decode cX4_join 76 = .ok (.istore 4, 2) := dk_54 4 (dk_at dksX4_join_3 7 rfl rfl)
theorem dX4_join_78 : decode cX4_join 78 = .ok (.iload 4, 2) := dk_21 4 (dk_at dksX4_join_3 9 rfl rfl)
theorem dX4_join_80 : decode cX4_join 80 = .ok (.aload_n 0, 1) := dk_42 (dk_at dksX4_join_3 11 rfl rfl)
theorem dX4_join_81 : decode cX4_join 81 = .ok (.getfield 280, 3) := dk_180 1 24 (dk_at dksX4_join_3 12 rfl rfl)
theorem dX4_join_84 : decode cX4_join 84 = .ok (.if_icmp .ge 42, 3) := dk_162 0 42 (dk_at dksX4_join_3 15 rfl rfl)
theorem dX4_join_87 : decode cX4_join 87 = .ok (.aload_n 0, 1) := dk_42 (dk_at dksX4_join_3 18 rfl rfl)
theorem dX4_join_88 : decode cX4_join 88 = .ok (.iload_n 2, 1) := dk_28 (dk_at dksX4_join_3 19 rfl rfl)
theorem dX4_join_89 : decode cX4_join 89 = .ok (.iload_n 3, 1) := dk_29 (dk_at dksX4_join_3 20 rfl rfl)
theorem dX4_join_90 : decode cX4_join 90 = .ok (.iload 4, 2) := dk_21 4 (dk_at dksX4_join_3 21 rfl rfl)
theorem dX4_join_92 : decode cX4_join 92 = .ok (.invokevirtual 352, 3) := dk_182 1 96 (dk_at dksX4_join_4 0 rfl rfl)
theorem dX4_join_95 : decode cX4_join 95 = .ok (.aload_n 0, 1) := dk_42 (dk_at dksX4_join_4 3 rfl rfl)
theorem dX4_join_96 : decode cX4_join 96 = .ok (.iload_n 3, 1) := dk_29 (dk_at dksX4_join_4 4 rfl rfl)
theorem dX4_join_97 : decode cX4_join 97 = .ok (.iload 4, 2) := dk_21 4 (dk_at dksX4_join_4 5 rfl rfl)
theorem dX4_join_99 : decode cX4_join 99 = .ok (.invokevirtual 272, 3) := dk_182 1 16 (dk_at dksX4_join_4 7 rfl rfl)
theorem dX4_join_102 : decode cX4_join 102 = .ok (.if_icmp .le 18, 3) := dk_164 0 18 (dk_at dksX4_join_4 10 rfl rfl)
theorem dX4_join_105 : decode cX4_join 105 = .ok (.aload_n 0, 1) := dk_42 (dk_at dksX4_join_4 13 rfl rfl)
theorem dX4_join_106 : decode cX4_join 106 = .ok (.iload_n 3, 1) := dk_29 (dk_at dksX4_join_4 14 rfl rfl)
theorem dX4_join_107 : decode cX4_join 107 = .ok (.iload 4, 2) := dk_21 4 (dk_at dksX4_join_4 15 rfl rfl)
theorem dX4_join_109 : decode cX4_join 109 = .ok (.aload_n 0, 1) := dk_42 (dk_at dksX4_join_4 17 rfl rfl)
theorem dX4_join_110 : decode cX4_join 110 = .ok (.iload_n 2, 1) := dk_28 (dk_at dksX4_join_4 18 rfl rfl)
theorem dX4_join_111 : decode cX4_join 111 = .ok (.iload_n 3, 1) := dk_29 (dk_at dksX4_join_4 19 rfl rfl)
theorem dX4_join_112 : decode cX4_join 112 = .ok (.iload 4, 2) := dk_21 4 (dk_at dksX4_join_4 20 rfl rfl)
theorem dX4_join_114 : decode cX4_join 114 = .ok (.invokevirtual 352, 3) := dk_182 1 96 (dk_at dksX4_join_5 0 rfl rfl)
theorem dX4_join_117 : decode cX4_join 117 = .ok (.invokevirtual 276, 3) := dk_182 1 20 (dk_at dksX4_join_5 3 rfl rfl)
theorem dX4_join_120 : decode cX4_join 120 = .ok (.iinc 4 1, 3) := dk_132 4 1 (dk_at dksX4_join_5 6 rfl rfl)
theorem dX4_join_123 : decode cX4_join 123 = .ok (.goto (-45), 3) := dk_167 255 211 (dk_at dksX4_join_5 9 rfl rfl)
theorem dX4_join_126 : decode cX4_join 126 = .ok (.iinc 3 1, 3) := dk_132 3 1 (dk_at dksX4_join_5 12 rfl rfl)
theorem dX4_join_129 : decode cX4_join 129 = .ok (.goto (-62), 3) := dk_167 255 194 (dk_at dksX4_join_5 15 rfl rfl)
theorem dX4_join_132 : decode cX4_join 132 = .ok (.aload_n 0, 1) := dk_42 (dk_at dksX4_join_5 18 rfl rfl)
theorem dX4_join_133 : decode cX4_join 133 = .ok (.iload_n 1, 1) := dk_27 (dk_at dksX4_join_5 19 rfl rfl)
theorem dX4_join_134 : decode cX4_join 134 = .ok (.invokevirtual 333, 3) := dk_182 1 77 (dk_at dksX4_join_5 20 rfl rfl)
theorem dX4_join_137 : decode cX4_join 137 = .ok (.ireturn, 1) := dk_172 (dk_at dksX4_join_5 23 rfl rfl)
def dkwX4_other_0 : List UInt8 := [42, 180, 0, 44, 16, 25, 27, 104, 8, 28, 104, 96, 29, 96, 46, 172]
abbrev dktX4_other_0 : List UInt8 := dkwX4_other_0 ++ []
theorem dksX4_other_0 : cX4_other.data.toList.drop 0 = dktX4_other_0 := by decide +kernel
theorem dX4_other_0 : decode cX4_other 0 = .ok (.aload_n 0, 1) := dk_42 (dk_at dksX4_other_0 0 rfl rfl)
theorem dX4_other_1 : decode cX4_other 1 = .ok (.getfield 44, 3) := dk_180 0 44 (dk_at dksX4_other_0 1 rfl rfl)
theorem dX4_other_4 : decode cX4_other 4 = .ok (.bipush 25, 2) := dk_16 25 (dk_at dksX4_other_0 4 rfl rfl)
theorem dX4_other_6 : decode cX4_other 6 = .ok (.iload_n 1, 1) := dk_27 (dk_at dksX4_other_0 6 rfl rfl)
theorem dX4_other_7 : decode cX4_other 7 = .ok (.imul, 1) := dk_104 (dk_at dksX4_other_0 7 rfl rfl)
theorem dX4_other_8 : decode cX4_other 8 = .ok (.iconst 5, 1) := dk_8 (dk_at dksX4_other_0 8 rfl rfl)
theorem dX4_other_9 : decode cX4_other 9 = .ok (.iload_n 2, 1) := dk_28 (dk_at dksX4_other_0 9 rfl rfl)
theorem dX4_other_10 : decode cX4_other 10 = .ok (.imul, 1) := dk_104 (dk_at dksX4_other_0 10 rfl rfl)
theorem dX4_other_11 : decode cX4_other 11 = .ok (.iadd, 1) := dk_96 (dk_at dksX4_other_0 11 rfl rfl)
theorem dX4_other_12 : decode cX4_other 12 = .ok (.iload_n 3, 1) := dk_29 (dk_at dksX4_other_0 12 rfl rfl)
theorem dX4_other_13 : decode cX4_other 13 = .ok (.iadd, 1) := dk_96 (dk_at dksX4_other_0 13 rfl rfl)
theorem dX4_other_14 : decode cX4_other 14 = .ok (.iaload, 1) := dk_46 (dk_at dksX4_other_0 14 rfl rfl)
theorem dX4_other_15 : decode cX4_other 15 = .ok (.ireturn, 1) := dk_172 (dk_at dksX4_other_0 15 rfl rfl)
def dkwX4_both_1 : List UInt8 := [182, 1, 100, 42, 27, 182, 1, 77, 172]
abbrev dktX4_both_1 : List UInt8 := dkwX4_both_1 ++ []
def dkwX4_both_0 : List UInt8 := [42, 3, 181, 0, 1, 27, 184, 1, 71, 153, 0, 10, 28, 184, 1, 71, 154, 0, 5, 2, 172, 42, 27, 28]
abbrev dktX4_both_0 : List UInt8 := dkwX4_both_0 ++ dktX4_both_1
theorem dksX4_both_0 : cX4_both.data.toList.drop 0 = dktX4_both_0 := by decide +kernel
theorem dksX4_both_1 : cX4_both.data.toList.drop 24 = dktX4_both_1 := dk_seg dksX4_both_0 24 rfl rfl
theorem dX4_both_0 : decode cX4_both 0 = .ok (.aload_n 0, 1) := dk_42 (dk_at dksX4_both_0 0 rfl rfl)
theorem dX4_both_1 : decode cX4_both 1 = .ok (.iconst 0, 1) := dk_3 (dk_at dksX4_both_0 1 rfl rfl)
theorem dX4_both_2 : decode cX4_both 2 = .ok (.putfield 1, 3) := dk_181 0 1 (dk_at dksX4_both_0 2 rfl rfl)
theorem dX4_both_5 : decode cX4_both 5 = .ok (.iload_n 1, 1) := dk_27 (dk_at dksX4_both_0 5 rfl rfl)
theorem dX4_both_6 : decode cX4_both 6 = .ok (.invokestatic 327, 3) := dk_184 1 71 (dk_at dksX4_both_0 6 rfl rfl)
theorem dX4_both_9 : decode cX4_both 9 = .ok (.ifCond .eq 10, 3) := dk_153 0 10 (dk_at dksX4_both_0 9 rfl rfl)
theorem dX4_both_12 : decode cX4_both 12 = .ok (.iload_n 2, 1) := dk_28 (dk_at dksX4_both_0 12 rfl rfl)
theorem dX4_both_13 : decode cX4_both 13 = .ok (.invokestatic 327, 3) := dk_184 1 71 (dk_at dksX4_both_0 13 rfl rfl)
theorem dX4_both_16 : decode cX4_both 16 = .ok (.ifCond .ne 5, 3) := dk_154 0 5 (dk_at dksX4_both_0 16 rfl rfl)
theorem dX4_both_19 : decode cX4_both 19 = .ok (.iconst (-1), 1) := dk_2 (dk_at dksX4_both_0 19 rfl rfl)
theorem dX4_both_20 : decode cX4_both 20 = .ok (.ireturn, 1) := dk_172 (dk_at dksX4_both_0 20 rfl rfl)
theorem dX4_both_21 : decode cX4_both 21 = .ok (.aload_n 0, 1) := dk_42 (dk_at dksX4_both_0 21 rfl rfl)
theorem dX4_both_22 : decode cX4_both 22 = .ok (.iload_n 1, 1) := dk_27 (dk_at dksX4_both_0 22 rfl rfl)
theorem dX4_both_23 : decode cX4_both 23 = .ok (.iload_n 2, 1) := dk_28 (dk_at dksX4_both_0 23 rfl rfl)
theorem dX4_both_24 : decode cX4_both 24 = .ok (.invokevirtual 356, 3) := dk_182 1 100 (dk_at dksX4_both_1 0 rfl rfl)
theorem dX4_both_27 : decode cX4_both 27 = .ok (.aload_n 0, 1) := dk_42 (dk_at dksX4_both_1 3 rfl rfl)
theorem dX4_both_28 : decode cX4_both 28 = .ok (.iload_n 1, 1) := dk_27 (dk_at dksX4_both_1 4 rfl rfl)
theorem dX4_both_29 : decode cX4_both 29 = .ok (.invokevirtual 333, 3) := dk_182 1 77 (dk_at dksX4_both_1 5 rfl rfl)
theorem dX4_both_32 : decode cX4_both 32 = .ok (.ireturn, 1) := dk_172 (dk_at dksX4_both_1 8 rfl rfl)
def dkwX4_meetsTable_3 : List UInt8 := [167, 255, 229, 132, 3, 1, 167, 255, 212, 42, 182, 1, 44, 177]
abbrev dktX4_meetsTable_3 : List UInt8 := dkwX4_meetsTable_3 ++ []
def dkwX4_meetsTable_2 : List UInt8 := [180, 1, 24, 162, 0, 24, 42, 29, 21, 4, 42, 28, 29, 21, 4, 182, 1, 96, 182, 1, 30, 132, 4, 1]
abbrev dktX4_meetsTable_2 : List UInt8 := dkwX4_meetsTable_2 ++ dktX4_meetsTable_3
def dkwX4_meetsTable_1 : List UInt8 := [167, 0, 4, 3, 128, 181, 1, 33, 3, 62, 29, 42, 180, 1, 24, 162, 0, 42, 3, 54, 4, 21, 4, 42]
abbrev dktX4_meetsTable_1 : List UInt8 := dkwX4_meetsTable_1 ++ dktX4_meetsTable_2
def dkwX4_meetsTable_0 : List UInt8 := [42, 27, 182, 1, 84, 42, 89, 180, 1, 33, 42, 180, 0, 44, 16, 100, 28, 96, 46, 4, 160, 0, 7, 4]
abbrev dktX4_meetsTable_0 : List UInt8 := dkwX4_meetsTable_0 ++ dktX4_meetsTable_1
theorem dksX4_meetsTable_0 : cX4_meetsTable.data.toList.drop 0 = dktX4_meetsTable_0 := by decide +kernel
theorem dksX4_meetsTable_1 : cX4_meetsTable.data.toList.drop 24 = dktX4_meetsTable_1 := dk_seg dksX4_meetsTable_0 24 rfl rfl
theorem dksX4_meetsTable_2 : cX4_meetsTable.data.toList.drop 48 = dktX4_meetsTable_2 := dk_seg dksX4_meetsTable_1 24 rfl rfl
theorem dksX4_meetsTable_3 : cX4_meetsTable.data.toList.drop 72 = dktX4_meetsTable_3 := dk_seg dksX4_meetsTable_2 24 rfl rfl
theorem dX4_meetsTable_0 : decode cX4_meetsTable 0 = .ok (.aload_n 0, 1) := dk_42 (dk_at dksX4_meetsTable_0 0 rfl rfl)
theorem dX4_meetsTable_1 : decode cX4_meetsTable 1 = .ok (.iload_n 1, 1) := dk_27 (dk_at dksX4_meetsTable_0 1 rfl rfl)
theorem dX4_meetsTable_2 : decode cX4_meetsTable 2 = .ok (.invokevirtual 340, 3) := dk_182 1 84 (dk_at dksX4_meetsTable_0 2 rfl rfl)
theorem dX4_meetsTable_5 : decode cX4_meetsTable 5 = .ok (.aload_n 0, 1) := dk_42 (dk_at dksX4_meetsTable_0 5 rfl rfl)
theorem dX4_meetsTable_6 : decode cX4_meetsTable 6 = .ok (.dup, 1) := dk_89 (dk_at dksX4_meetsTable_0 6 rfl rfl)
theorem dX4_meetsTable_7 : decode cX4_meetsTable 7 = .ok (.getfield 289, 3) := dk_180 1 33 (dk_at dksX4_meetsTable_0 7 rfl rfl)
theorem dX4_meetsTable_10 : decode cX4_meetsTable 10 = .ok (.aload_n 0, 1) := dk_42 (dk_at dksX4_meetsTable_0 10 rfl rfl)
theorem dX4_meetsTable_11 : decode cX4_meetsTable 11 = .ok (.getfield 44, 3) := dk_180 0 44 (dk_at dksX4_meetsTable_0 11 rfl rfl)
theorem dX4_meetsTable_14 : decode cX4_meetsTable 14 = .ok (.bipush 100, 2) := dk_16 100 (dk_at dksX4_meetsTable_0 14 rfl rfl)
theorem dX4_meetsTable_16 : decode cX4_meetsTable 16 = .ok (.iload_n 2, 1) := dk_28 (dk_at dksX4_meetsTable_0 16 rfl rfl)
theorem dX4_meetsTable_17 : decode cX4_meetsTable 17 = .ok (.iadd, 1) := dk_96 (dk_at dksX4_meetsTable_0 17 rfl rfl)
theorem dX4_meetsTable_18 : decode cX4_meetsTable 18 = .ok (.iaload, 1) := dk_46 (dk_at dksX4_meetsTable_0 18 rfl rfl)
theorem dX4_meetsTable_19 : decode cX4_meetsTable 19 = .ok (.iconst 1, 1) := dk_4 (dk_at dksX4_meetsTable_0 19 rfl rfl)
theorem dX4_meetsTable_20 : decode cX4_meetsTable 20 = .ok (.if_icmp .ne 7, 3) := dk_160 0 7 (dk_at dksX4_meetsTable_0 20 rfl rfl)
theorem dX4_meetsTable_23 : decode cX4_meetsTable 23 = .ok (.iconst 1, 1) := dk_4 (dk_at dksX4_meetsTable_0 23 rfl rfl)
theorem dX4_meetsTable_24 : decode cX4_meetsTable 24 = .ok (.goto 4, 3) := dk_167 0 4 (dk_at dksX4_meetsTable_1 0 rfl rfl)
theorem dX4_meetsTable_27 : decode cX4_meetsTable 27 = .ok (.iconst 0, 1) := dk_3 (dk_at dksX4_meetsTable_1 3 rfl rfl)
theorem dX4_meetsTable_28 : decode cX4_meetsTable 28 = .ok (.ior, 1) := dk_128 (dk_at dksX4_meetsTable_1 4 rfl rfl)
theorem dX4_meetsTable_29 : decode cX4_meetsTable 29 = .ok (.putfield 289, 3) := dk_181 1 33 (dk_at dksX4_meetsTable_1 5 rfl rfl)
theorem dX4_meetsTable_32 : decode cX4_meetsTable 32 = .ok (.iconst 0, 1) := dk_3 (dk_at dksX4_meetsTable_1 8 rfl rfl)
theorem dX4_meetsTable_33 : decode cX4_meetsTable 33 = .ok (.istore_n 3, 1) := dk_62 (dk_at dksX4_meetsTable_1 9 rfl rfl)
theorem dX4_meetsTable_34 : decode cX4_meetsTable 34 = .ok (.iload_n 3, 1) := dk_29 (dk_at dksX4_meetsTable_1 10 rfl rfl)
theorem dX4_meetsTable_35 : decode cX4_meetsTable 35 = .ok (.aload_n 0, 1) := dk_42 (dk_at dksX4_meetsTable_1 11 rfl rfl)
theorem dX4_meetsTable_36 : decode cX4_meetsTable 36 = .ok (.getfield 280, 3) := dk_180 1 24 (dk_at dksX4_meetsTable_1 12 rfl rfl)
theorem dX4_meetsTable_39 : decode cX4_meetsTable 39 = .ok (.if_icmp .ge 42, 3) := dk_162 0 42 (dk_at dksX4_meetsTable_1 15 rfl rfl)
theorem dX4_meetsTable_42 : decode cX4_meetsTable 42 = .ok (.iconst 0, 1) := dk_3 (dk_at dksX4_meetsTable_1 18 rfl rfl)
theorem dX4_meetsTable_43 : decode cX4_meetsTable 43 = .ok (.istore 4, 2) := dk_54 4 (dk_at dksX4_meetsTable_1 19 rfl rfl)
theorem dX4_meetsTable_45 : decode cX4_meetsTable 45 = .ok (.iload 4, 2) := dk_21 4 (dk_at dksX4_meetsTable_1 21 rfl rfl)
theorem dX4_meetsTable_47 : decode cX4_meetsTable 47 = .ok (.aload_n 0, 1) := dk_42 (dk_at dksX4_meetsTable_1 23 rfl rfl)
theorem dX4_meetsTable_48 : decode cX4_meetsTable 48 = .ok (.getfield 280, 3) := dk_180 1 24 (dk_at dksX4_meetsTable_2 0 rfl rfl)
theorem dX4_meetsTable_51 : decode cX4_meetsTable 51 = .ok (.if_icmp .ge 24, 3) := dk_162 0 24 (dk_at dksX4_meetsTable_2 3 rfl rfl)
theorem dX4_meetsTable_54 : decode cX4_meetsTable 54 = .ok (.aload_n 0, 1) := dk_42 (dk_at dksX4_meetsTable_2 6 rfl rfl)
theorem dX4_meetsTable_55 : decode cX4_meetsTable 55 = .ok (.iload_n 3, 1) := dk_29 (dk_at dksX4_meetsTable_2 7 rfl rfl)
theorem dX4_meetsTable_56 : decode cX4_meetsTable 56 = .ok (.iload 4, 2) := dk_21 4 (dk_at dksX4_meetsTable_2 8 rfl rfl)
theorem dX4_meetsTable_58 : decode cX4_meetsTable 58 = .ok (.aload_n 0, 1) := dk_42 (dk_at dksX4_meetsTable_2 10 rfl rfl)
theorem dX4_meetsTable_59 : decode cX4_meetsTable 59 = .ok (.iload_n 2, 1) := dk_28 (dk_at dksX4_meetsTable_2 11 rfl rfl)
theorem dX4_meetsTable_60 : decode cX4_meetsTable 60 = .ok (.iload_n 3, 1) := dk_29 (dk_at dksX4_meetsTable_2 12 rfl rfl)
theorem dX4_meetsTable_61 : decode cX4_meetsTable 61 = .ok (.iload 4, 2) := dk_21 4 (dk_at dksX4_meetsTable_2 13 rfl rfl)
theorem dX4_meetsTable_63 : decode cX4_meetsTable 63 = .ok (.invokevirtual 352, 3) := dk_182 1 96 (dk_at dksX4_meetsTable_2 15 rfl rfl)
theorem dX4_meetsTable_66 : decode cX4_meetsTable 66 = .ok (.invokevirtual 286, 3) := dk_182 1 30 (dk_at dksX4_meetsTable_2 18 rfl rfl)
theorem dX4_meetsTable_69 : decode cX4_meetsTable 69 = .ok (.iinc 4 1, 3) := dk_132 4 1 (dk_at dksX4_meetsTable_2 21 rfl rfl)
theorem dX4_meetsTable_72 : decode cX4_meetsTable 72 = .ok (.goto (-27), 3) := dk_167 255 229 (dk_at dksX4_meetsTable_3 0 rfl rfl)
theorem dX4_meetsTable_75 : decode cX4_meetsTable 75 = .ok (.iinc 3 1, 3) := dk_132 3 1 (dk_at dksX4_meetsTable_3 3 rfl rfl)
theorem dX4_meetsTable_78 : decode cX4_meetsTable 78 = .ok (.goto (-44), 3) := dk_167 255 212 (dk_at dksX4_meetsTable_3 6 rfl rfl)
theorem dX4_meetsTable_81 : decode cX4_meetsTable 81 = .ok (.aload_n 0, 1) := dk_42 (dk_at dksX4_meetsTable_3 9 rfl rfl)
theorem dX4_meetsTable_82 : decode cX4_meetsTable 82 = .ok (.invokevirtual 300, 3) := dk_182 1 44 (dk_at dksX4_meetsTable_3 10 rfl rfl)
theorem dX4_meetsTable_85 : decode cX4_meetsTable 85 = .ok (.return_, 1) := dk_177 (dk_at dksX4_meetsTable_3 13 rfl rfl)
def dkwX4_touch_1 : List UInt8 := [182, 1, 100, 42, 180, 1, 33, 153, 0, 7, 3, 167, 0, 4, 4, 172]
abbrev dktX4_touch_1 : List UInt8 := dkwX4_touch_1 ++ []
def dkwX4_touch_0 : List UInt8 := [42, 3, 181, 0, 1, 27, 184, 1, 71, 153, 0, 10, 28, 184, 1, 71, 154, 0, 5, 2, 172, 42, 27, 28]
abbrev dktX4_touch_0 : List UInt8 := dkwX4_touch_0 ++ dktX4_touch_1
theorem dksX4_touch_0 : cX4_touch.data.toList.drop 0 = dktX4_touch_0 := by decide +kernel
theorem dksX4_touch_1 : cX4_touch.data.toList.drop 24 = dktX4_touch_1 := dk_seg dksX4_touch_0 24 rfl rfl
theorem dX4_touch_0 : decode cX4_touch 0 = .ok (.aload_n 0, 1) := dk_42 (dk_at dksX4_touch_0 0 rfl rfl)
theorem dX4_touch_1 : decode cX4_touch 1 = .ok (.iconst 0, 1) := dk_3 (dk_at dksX4_touch_0 1 rfl rfl)
theorem dX4_touch_2 : decode cX4_touch 2 = .ok (.putfield 1, 3) := dk_181 0 1 (dk_at dksX4_touch_0 2 rfl rfl)
theorem dX4_touch_5 : decode cX4_touch 5 = .ok (.iload_n 1, 1) := dk_27 (dk_at dksX4_touch_0 5 rfl rfl)
theorem dX4_touch_6 : decode cX4_touch 6 = .ok (.invokestatic 327, 3) := dk_184 1 71 (dk_at dksX4_touch_0 6 rfl rfl)
theorem dX4_touch_9 : decode cX4_touch 9 = .ok (.ifCond .eq 10, 3) := dk_153 0 10 (dk_at dksX4_touch_0 9 rfl rfl)
theorem dX4_touch_12 : decode cX4_touch 12 = .ok (.iload_n 2, 1) := dk_28 (dk_at dksX4_touch_0 12 rfl rfl)
theorem dX4_touch_13 : decode cX4_touch 13 = .ok (.invokestatic 327, 3) := dk_184 1 71 (dk_at dksX4_touch_0 13 rfl rfl)
theorem dX4_touch_16 : decode cX4_touch 16 = .ok (.ifCond .ne 5, 3) := dk_154 0 5 (dk_at dksX4_touch_0 16 rfl rfl)
theorem dX4_touch_19 : decode cX4_touch 19 = .ok (.iconst (-1), 1) := dk_2 (dk_at dksX4_touch_0 19 rfl rfl)
theorem dX4_touch_20 : decode cX4_touch 20 = .ok (.ireturn, 1) := dk_172 (dk_at dksX4_touch_0 20 rfl rfl)
theorem dX4_touch_21 : decode cX4_touch 21 = .ok (.aload_n 0, 1) := dk_42 (dk_at dksX4_touch_0 21 rfl rfl)
theorem dX4_touch_22 : decode cX4_touch 22 = .ok (.iload_n 1, 1) := dk_27 (dk_at dksX4_touch_0 22 rfl rfl)
theorem dX4_touch_23 : decode cX4_touch 23 = .ok (.iload_n 2, 1) := dk_28 (dk_at dksX4_touch_0 23 rfl rfl)
theorem dX4_touch_24 : decode cX4_touch 24 = .ok (.invokevirtual 356, 3) := dk_182 1 100 (dk_at dksX4_touch_1 0 rfl rfl)
theorem dX4_touch_27 : decode cX4_touch 27 = .ok (.aload_n 0, 1) := dk_42 (dk_at dksX4_touch_1 3 rfl rfl)
theorem dX4_touch_28 : decode cX4_touch 28 = .ok (.getfield 289, 3) := dk_180 1 33 (dk_at dksX4_touch_1 4 rfl rfl)
theorem dX4_touch_31 : decode cX4_touch 31 = .ok (.ifCond .eq 7, 3) := dk_153 0 7 (dk_at dksX4_touch_1 7 rfl rfl)
theorem dX4_touch_34 : decode cX4_touch 34 = .ok (.iconst 0, 1) := dk_3 (dk_at dksX4_touch_1 10 rfl rfl)
theorem dX4_touch_35 : decode cX4_touch 35 = .ok (.goto 4, 3) := dk_167 0 4 (dk_at dksX4_touch_1 11 rfl rfl)
theorem dX4_touch_38 : decode cX4_touch 38 = .ok (.iconst 1, 1) := dk_4 (dk_at dksX4_touch_1 14 rfl rfl)
theorem dX4_touch_39 : decode cX4_touch 39 = .ok (.ireturn, 1) := dk_172 (dk_at dksX4_touch_1 15 rfl rfl)
def dkwX4_step_1 : List UInt8 := [182, 1, 84, 42, 28, 182, 1, 106, 42, 27, 182, 1, 77, 172]
abbrev dktX4_step_1 : List UInt8 := dkwX4_step_1 ++ []
def dkwX4_step_0 : List UInt8 := [42, 3, 181, 0, 1, 27, 184, 1, 71, 153, 0, 11, 42, 28, 182, 1, 103, 154, 0, 5, 2, 172, 42, 27]
abbrev dktX4_step_0 : List UInt8 := dkwX4_step_0 ++ dktX4_step_1
theorem dksX4_step_0 : cX4_step.data.toList.drop 0 = dktX4_step_0 := by decide +kernel
theorem dksX4_step_1 : cX4_step.data.toList.drop 24 = dktX4_step_1 := dk_seg dksX4_step_0 24 rfl rfl
theorem dX4_step_0 : decode cX4_step 0 = .ok (.aload_n 0, 1) := dk_42 (dk_at dksX4_step_0 0 rfl rfl)
theorem dX4_step_1 : decode cX4_step 1 = .ok (.iconst 0, 1) := dk_3 (dk_at dksX4_step_0 1 rfl rfl)
theorem dX4_step_2 : decode cX4_step 2 = .ok (.putfield 1, 3) := dk_181 0 1 (dk_at dksX4_step_0 2 rfl rfl)
theorem dX4_step_5 : decode cX4_step 5 = .ok (.iload_n 1, 1) := dk_27 (dk_at dksX4_step_0 5 rfl rfl)
theorem dX4_step_6 : decode cX4_step 6 = .ok (.invokestatic 327, 3) := dk_184 1 71 (dk_at dksX4_step_0 6 rfl rfl)
theorem dX4_step_9 : decode cX4_step 9 = .ok (.ifCond .eq 11, 3) := dk_153 0 11 (dk_at dksX4_step_0 9 rfl rfl)
theorem dX4_step_12 : decode cX4_step 12 = .ok (.aload_n 0, 1) := dk_42 (dk_at dksX4_step_0 12 rfl rfl)
theorem dX4_step_13 : decode cX4_step 13 = .ok (.iload_n 2, 1) := dk_28 (dk_at dksX4_step_0 13 rfl rfl)
theorem dX4_step_14 : decode cX4_step 14 = .ok (.invokevirtual 359, 3) := dk_182 1 103 (dk_at dksX4_step_0 14 rfl rfl)
theorem dX4_step_17 : decode cX4_step 17 = .ok (.ifCond .ne 5, 3) := dk_154 0 5 (dk_at dksX4_step_0 17 rfl rfl)
theorem dX4_step_20 : decode cX4_step 20 = .ok (.iconst (-1), 1) := dk_2 (dk_at dksX4_step_0 20 rfl rfl)
theorem dX4_step_21 : decode cX4_step 21 = .ok (.ireturn, 1) := dk_172 (dk_at dksX4_step_0 21 rfl rfl)
theorem dX4_step_22 : decode cX4_step 22 = .ok (.aload_n 0, 1) := dk_42 (dk_at dksX4_step_0 22 rfl rfl)
theorem dX4_step_23 : decode cX4_step 23 = .ok (.iload_n 1, 1) := dk_27 (dk_at dksX4_step_0 23 rfl rfl)
theorem dX4_step_24 : decode cX4_step 24 = .ok (.invokevirtual 340, 3) := dk_182 1 84 (dk_at dksX4_step_1 0 rfl rfl)
theorem dX4_step_27 : decode cX4_step 27 = .ok (.aload_n 0, 1) := dk_42 (dk_at dksX4_step_1 3 rfl rfl)
theorem dX4_step_28 : decode cX4_step 28 = .ok (.iload_n 2, 1) := dk_28 (dk_at dksX4_step_1 4 rfl rfl)
theorem dX4_step_29 : decode cX4_step 29 = .ok (.invokevirtual 362, 3) := dk_182 1 106 (dk_at dksX4_step_1 5 rfl rfl)
theorem dX4_step_32 : decode cX4_step 32 = .ok (.aload_n 0, 1) := dk_42 (dk_at dksX4_step_1 8 rfl rfl)
theorem dX4_step_33 : decode cX4_step 33 = .ok (.iload_n 1, 1) := dk_27 (dk_at dksX4_step_1 9 rfl rfl)
theorem dX4_step_34 : decode cX4_step 34 = .ok (.invokevirtual 333, 3) := dk_182 1 77 (dk_at dksX4_step_1 10 rfl rfl)
theorem dX4_step_37 : decode cX4_step 37 = .ok (.ireturn, 1) := dk_172 (dk_at dksX4_step_1 13 rfl rfl)
def dkwX4_isEdge_0 : List UInt8 := [27, 3, 42, 180, 0, 248, 4, 100, 184, 0, 158, 172]
abbrev dktX4_isEdge_0 : List UInt8 := dkwX4_isEdge_0 ++ []
theorem dksX4_isEdge_0 : cX4_isEdge.data.toList.drop 0 = dktX4_isEdge_0 := by decide +kernel
theorem dX4_isEdge_0 : decode cX4_isEdge 0 = .ok (.iload_n 1, 1) := dk_27 (dk_at dksX4_isEdge_0 0 rfl rfl)
theorem dX4_isEdge_1 : decode cX4_isEdge 1 = .ok (.iconst 0, 1) := dk_3 (dk_at dksX4_isEdge_0 1 rfl rfl)
theorem dX4_isEdge_2 : decode cX4_isEdge 2 = .ok (.aload_n 0, 1) := dk_42 (dk_at dksX4_isEdge_0 2 rfl rfl)
theorem dX4_isEdge_3 : decode cX4_isEdge 3 = .ok (.getfield 248, 3) := dk_180 0 248 (dk_at dksX4_isEdge_0 3 rfl rfl)
theorem dX4_isEdge_6 : decode cX4_isEdge 6 = .ok (.iconst 1, 1) := dk_4 (dk_at dksX4_isEdge_0 6 rfl rfl)
theorem dX4_isEdge_7 : decode cX4_isEdge 7 = .ok (.isub, 1) := dk_100 (dk_at dksX4_isEdge_0 7 rfl rfl)
theorem dX4_isEdge_8 : decode cX4_isEdge 8 = .ok (.invokestatic 158, 3) := dk_184 0 158 (dk_at dksX4_isEdge_0 8 rfl rfl)
theorem dX4_isEdge_11 : decode cX4_isEdge 11 = .ok (.ireturn, 1) := dk_172 (dk_at dksX4_isEdge_0 11 rfl rfl)
def dkwX4_back_1 : List UInt8 := [182, 1, 84, 42, 28, 182, 1, 109, 42, 27, 182, 1, 77, 172]
abbrev dktX4_back_1 : List UInt8 := dkwX4_back_1 ++ []
def dkwX4_back_0 : List UInt8 := [42, 3, 181, 0, 1, 27, 184, 1, 71, 153, 0, 11, 42, 28, 182, 1, 103, 154, 0, 5, 2, 172, 42, 27]
abbrev dktX4_back_0 : List UInt8 := dkwX4_back_0 ++ dktX4_back_1
theorem dksX4_back_0 : cX4_back.data.toList.drop 0 = dktX4_back_0 := by decide +kernel
theorem dksX4_back_1 : cX4_back.data.toList.drop 24 = dktX4_back_1 := dk_seg dksX4_back_0 24 rfl rfl
theorem dX4_back_0 : decode cX4_back 0 = .ok (.aload_n 0, 1) := dk_42 (dk_at dksX4_back_0 0 rfl rfl)
theorem dX4_back_1 : decode cX4_back 1 = .ok (.iconst 0, 1) := dk_3 (dk_at dksX4_back_0 1 rfl rfl)
theorem dX4_back_2 : decode cX4_back 2 = .ok (.putfield 1, 3) := dk_181 0 1 (dk_at dksX4_back_0 2 rfl rfl)
theorem dX4_back_5 : decode cX4_back 5 = .ok (.iload_n 1, 1) := dk_27 (dk_at dksX4_back_0 5 rfl rfl)
theorem dX4_back_6 : decode cX4_back 6 = .ok (.invokestatic 327, 3) := dk_184 1 71 (dk_at dksX4_back_0 6 rfl rfl)
theorem dX4_back_9 : decode cX4_back 9 = .ok (.ifCond .eq 11, 3) := dk_153 0 11 (dk_at dksX4_back_0 9 rfl rfl)
theorem dX4_back_12 : decode cX4_back 12 = .ok (.aload_n 0, 1) := dk_42 (dk_at dksX4_back_0 12 rfl rfl)
theorem dX4_back_13 : decode cX4_back 13 = .ok (.iload_n 2, 1) := dk_28 (dk_at dksX4_back_0 13 rfl rfl)
theorem dX4_back_14 : decode cX4_back 14 = .ok (.invokevirtual 359, 3) := dk_182 1 103 (dk_at dksX4_back_0 14 rfl rfl)
theorem dX4_back_17 : decode cX4_back 17 = .ok (.ifCond .ne 5, 3) := dk_154 0 5 (dk_at dksX4_back_0 17 rfl rfl)
theorem dX4_back_20 : decode cX4_back 20 = .ok (.iconst (-1), 1) := dk_2 (dk_at dksX4_back_0 20 rfl rfl)
theorem dX4_back_21 : decode cX4_back 21 = .ok (.ireturn, 1) := dk_172 (dk_at dksX4_back_0 21 rfl rfl)
theorem dX4_back_22 : decode cX4_back 22 = .ok (.aload_n 0, 1) := dk_42 (dk_at dksX4_back_0 22 rfl rfl)
theorem dX4_back_23 : decode cX4_back 23 = .ok (.iload_n 1, 1) := dk_27 (dk_at dksX4_back_0 23 rfl rfl)
theorem dX4_back_24 : decode cX4_back 24 = .ok (.invokevirtual 340, 3) := dk_182 1 84 (dk_at dksX4_back_1 0 rfl rfl)
theorem dX4_back_27 : decode cX4_back 27 = .ok (.aload_n 0, 1) := dk_42 (dk_at dksX4_back_1 3 rfl rfl)
theorem dX4_back_28 : decode cX4_back 28 = .ok (.iload_n 2, 1) := dk_28 (dk_at dksX4_back_1 4 rfl rfl)
theorem dX4_back_29 : decode cX4_back 29 = .ok (.invokevirtual 365, 3) := dk_182 1 109 (dk_at dksX4_back_1 5 rfl rfl)
theorem dX4_back_32 : decode cX4_back 32 = .ok (.aload_n 0, 1) := dk_42 (dk_at dksX4_back_1 8 rfl rfl)
theorem dX4_back_33 : decode cX4_back 33 = .ok (.iload_n 1, 1) := dk_27 (dk_at dksX4_back_1 9 rfl rfl)
theorem dX4_back_34 : decode cX4_back 34 = .ok (.invokevirtual 333, 3) := dk_182 1 77 (dk_at dksX4_back_1 10 rfl rfl)
theorem dX4_back_37 : decode cX4_back 37 = .ok (.ireturn, 1) := dk_172 (dk_at dksX4_back_1 13 rfl rfl)
def dkwX4_backs_4 : List UInt8 := [16, 8, 27, 96, 182, 1, 47, 177]
abbrev dktX4_backs_4 : List UInt8 := dkwX4_backs_4 ++ []
def dkwX4_backs_3 : List UInt8 := [96, 162, 0, 21, 42, 42, 180, 0, 35, 28, 46, 4, 96, 182, 1, 59, 132, 2, 1, 167, 255, 227, 42]
abbrev dktX4_backs_3 : List UInt8 := dkwX4_backs_3 ++ dktX4_backs_4
def dkwX4_backs_2 : List UInt8 := [132, 2, 1, 167, 255, 219, 42, 182, 1, 44, 7, 27, 104, 61, 28, 7, 27, 104, 42, 180, 0, 32, 27, 46]
abbrev dktX4_backs_2 : List UInt8 := dkwX4_backs_2 ++ dktX4_backs_3
def dkwX4_backs_1 : List UInt8 := [96, 162, 0, 29, 42, 42, 180, 0, 35, 28, 46, 4, 96, 3, 5, 42, 180, 0, 38, 28, 46, 182, 1, 40]
abbrev dktX4_backs_1 : List UInt8 := dkwX4_backs_1 ++ dktX4_backs_2
def dkwX4_backs_0 : List UInt8 := [42, 42, 180, 0, 29, 27, 46, 182, 1, 47, 7, 27, 104, 61, 28, 7, 27, 104, 42, 180, 0, 32, 27, 46]
abbrev dktX4_backs_0 : List UInt8 := dkwX4_backs_0 ++ dktX4_backs_1
theorem dksX4_backs_0 : cX4_backs.data.toList.drop 0 = dktX4_backs_0 := by decide +kernel
theorem dksX4_backs_1 : cX4_backs.data.toList.drop 24 = dktX4_backs_1 := dk_seg dksX4_backs_0 24 rfl rfl
theorem dksX4_backs_2 : cX4_backs.data.toList.drop 48 = dktX4_backs_2 := dk_seg dksX4_backs_1 24 rfl rfl
theorem dksX4_backs_3 : cX4_backs.data.toList.drop 72 = dktX4_backs_3 := dk_seg dksX4_backs_2 24 rfl rfl
theorem dksX4_backs_4 : cX4_backs.data.toList.drop 95 = dktX4_backs_4 := dk_seg dksX4_backs_3 23 rfl rfl
theorem dX4_backs_0 : decode cX4_backs 0 = .ok (.aload_n 0, 1) := dk_42 (dk_at dksX4_backs_0 0 rfl rfl)
theorem dX4_backs_1 : decode cX4_backs 1 = .ok (.aload_n 0, 1) := dk_42 (dk_at dksX4_backs_0 1 rfl rfl)
theorem dX4_backs_2 : decode cX4_backs 2 = .ok (.getfield 29, 3) := dk_180 0 29 (dk_at dksX4_backs_0 2 rfl rfl)
theorem dX4_backs_5 : decode cX4_backs 5 = .ok (.iload_n 1, 1) := dk_27 (dk_at dksX4_backs_0 5 rfl rfl)
theorem dX4_backs_6 : decode cX4_backs 6 = .ok (.iaload, 1) := dk_46 (dk_at dksX4_backs_0 6 rfl rfl)
theorem dX4_backs_7 : decode cX4_backs 7 = .ok (.invokevirtual 303, 3) := dk_182 1 47 (dk_at dksX4_backs_0 7 rfl rfl)
theorem dX4_backs_10 : decode cX4_backs 10 = .ok (.iconst 4, 1) := dk_7 (dk_at dksX4_backs_0 10 rfl rfl)
theorem dX4_backs_11 : decode cX4_backs 11 = .ok (.iload_n 1, 1) := dk_27 (dk_at dksX4_backs_0 11 rfl rfl)
theorem dX4_backs_12 : decode cX4_backs 12 = .ok (.imul, 1) := dk_104 (dk_at dksX4_backs_0 12 rfl rfl)
theorem dX4_backs_13 : decode cX4_backs 13 = .ok (.istore_n 2, 1) := dk_61 (dk_at dksX4_backs_0 13 rfl rfl)
theorem dX4_backs_14 : decode cX4_backs 14 = .ok (.iload_n 2, 1) := dk_28 (dk_at dksX4_backs_0 14 rfl rfl)
theorem dX4_backs_15 : decode cX4_backs 15 = .ok (.iconst 4, 1) := dk_7 (dk_at dksX4_backs_0 15 rfl rfl)
theorem dX4_backs_16 : decode cX4_backs 16 = .ok (.iload_n 1, 1) := dk_27 (dk_at dksX4_backs_0 16 rfl rfl)
theorem dX4_backs_17 : decode cX4_backs 17 = .ok (.imul, 1) := dk_104 (dk_at dksX4_backs_0 17 rfl rfl)
theorem dX4_backs_18 : decode cX4_backs 18 = .ok (.aload_n 0, 1) := dk_42 (dk_at dksX4_backs_0 18 rfl rfl)
theorem dX4_backs_19 : decode cX4_backs 19 = .ok (.getfield 32, 3) := dk_180 0 32 (dk_at dksX4_backs_0 19 rfl rfl)
theorem dX4_backs_22 : decode cX4_backs 22 = .ok (.iload_n 1, 1) := dk_27 (dk_at dksX4_backs_0 22 rfl rfl)
theorem dX4_backs_23 : decode cX4_backs 23 = .ok (.iaload, 1) := dk_46 (dk_at dksX4_backs_0 23 rfl rfl)
theorem dX4_backs_24 : decode cX4_backs 24 = .ok (.iadd, 1) := dk_96 (dk_at dksX4_backs_1 0 rfl rfl)
theorem dX4_backs_25 : decode cX4_backs 25 = .ok (.if_icmp .ge 29, 3) := dk_162 0 29 (dk_at dksX4_backs_1 1 rfl rfl)
theorem dX4_backs_28 : decode cX4_backs 28 = .ok (.aload_n 0, 1) := dk_42 (dk_at dksX4_backs_1 4 rfl rfl)
theorem dX4_backs_29 : decode cX4_backs 29 = .ok (.aload_n 0, 1) := dk_42 (dk_at dksX4_backs_1 5 rfl rfl)
theorem dX4_backs_30 : decode cX4_backs 30 = .ok (.getfield 35, 3) := dk_180 0 35 (dk_at dksX4_backs_1 6 rfl rfl)
theorem dX4_backs_33 : decode cX4_backs 33 = .ok (.iload_n 2, 1) := dk_28 (dk_at dksX4_backs_1 9 rfl rfl)
theorem dX4_backs_34 : decode cX4_backs 34 = .ok (.iaload, 1) := dk_46 (dk_at dksX4_backs_1 10 rfl rfl)
theorem dX4_backs_35 : decode cX4_backs 35 = .ok (.iconst 1, 1) := dk_4 (dk_at dksX4_backs_1 11 rfl rfl)
theorem dX4_backs_36 : decode cX4_backs 36 = .ok (.iadd, 1) := dk_96 (dk_at dksX4_backs_1 12 rfl rfl)
theorem dX4_backs_37 : decode cX4_backs 37 = .ok (.iconst 0, 1) := dk_3 (dk_at dksX4_backs_1 13 rfl rfl)
theorem dX4_backs_38 : decode cX4_backs 38 = .ok (.iconst 2, 1) := dk_5 (dk_at dksX4_backs_1 14 rfl rfl)
theorem dX4_backs_39 : decode cX4_backs 39 = .ok (.aload_n 0, 1) := dk_42 (dk_at dksX4_backs_1 15 rfl rfl)
theorem dX4_backs_40 : decode cX4_backs 40 = .ok (.getfield 38, 3) := dk_180 0 38 (dk_at dksX4_backs_1 16 rfl rfl)
theorem dX4_backs_43 : decode cX4_backs 43 = .ok (.iload_n 2, 1) := dk_28 (dk_at dksX4_backs_1 19 rfl rfl)
theorem dX4_backs_44 : decode cX4_backs 44 = .ok (.iaload, 1) := dk_46 (dk_at dksX4_backs_1 20 rfl rfl)
theorem dX4_backs_45 : decode cX4_backs 45 = .ok (.invokevirtual 296, 3) := dk_182 1 40 (dk_at dksX4_backs_1 21 rfl rfl)
theorem dX4_backs_48 : decode cX4_backs 48 = .ok (.iinc 2 1, 3) := dk_132 2 1 (dk_at dksX4_backs_2 0 rfl rfl)
theorem dX4_backs_51 : decode cX4_backs 51 = .ok (.goto (-37), 3) := dk_167 255 219 (dk_at dksX4_backs_2 3 rfl rfl)
theorem dX4_backs_54 : decode cX4_backs 54 = .ok (.aload_n 0, 1) := dk_42 (dk_at dksX4_backs_2 6 rfl rfl)
theorem dX4_backs_55 : decode cX4_backs 55 = .ok (.invokevirtual 300, 3) := dk_182 1 44 (dk_at dksX4_backs_2 7 rfl rfl)
theorem dX4_backs_58 : decode cX4_backs 58 = .ok (.iconst 4, 1) := dk_7 (dk_at dksX4_backs_2 10 rfl rfl)
theorem dX4_backs_59 : decode cX4_backs 59 = .ok (.iload_n 1, 1) := dk_27 (dk_at dksX4_backs_2 11 rfl rfl)
theorem dX4_backs_60 : decode cX4_backs 60 = .ok (.imul, 1) := dk_104 (dk_at dksX4_backs_2 12 rfl rfl)
theorem dX4_backs_61 : decode cX4_backs 61 = .ok (.istore_n 2, 1) := dk_61 (dk_at dksX4_backs_2 13 rfl rfl)
theorem dX4_backs_62 : decode cX4_backs 62 = .ok (.iload_n 2, 1) := dk_28 (dk_at dksX4_backs_2 14 rfl rfl)
theorem dX4_backs_63 : decode cX4_backs 63 = .ok (.iconst 4, 1) := dk_7 (dk_at dksX4_backs_2 15 rfl rfl)
theorem dX4_backs_64 : decode cX4_backs 64 = .ok (.iload_n 1, 1) := dk_27 (dk_at dksX4_backs_2 16 rfl rfl)
theorem dX4_backs_65 : decode cX4_backs 65 = .ok (.imul, 1) := dk_104 (dk_at dksX4_backs_2 17 rfl rfl)
theorem dX4_backs_66 : decode cX4_backs 66 = .ok (.aload_n 0, 1) := dk_42 (dk_at dksX4_backs_2 18 rfl rfl)
theorem dX4_backs_67 : decode cX4_backs 67 = .ok (.getfield 32, 3) := dk_180 0 32 (dk_at dksX4_backs_2 19 rfl rfl)
theorem dX4_backs_70 : decode cX4_backs 70 = .ok (.iload_n 1, 1) := dk_27 (dk_at dksX4_backs_2 22 rfl rfl)
theorem dX4_backs_71 : decode cX4_backs 71 = .ok (.iaload, 1) := dk_46 (dk_at dksX4_backs_2 23 rfl rfl)
theorem dX4_backs_72 : decode cX4_backs 72 = .ok (.iadd, 1) := dk_96 (dk_at dksX4_backs_3 0 rfl rfl)
theorem dX4_backs_73 : decode cX4_backs 73 = .ok (.if_icmp .ge 21, 3) := dk_162 0 21 (dk_at dksX4_backs_3 1 rfl rfl)
theorem dX4_backs_76 : decode cX4_backs 76 = .ok (.aload_n 0, 1) := dk_42 (dk_at dksX4_backs_3 4 rfl rfl)
theorem dX4_backs_77 : decode cX4_backs 77 = .ok (.aload_n 0, 1) := dk_42 (dk_at dksX4_backs_3 5 rfl rfl)
theorem dX4_backs_78 : decode cX4_backs 78 = .ok (.getfield 35, 3) := dk_180 0 35 (dk_at dksX4_backs_3 6 rfl rfl)
theorem dX4_backs_81 : decode cX4_backs 81 = .ok (.iload_n 2, 1) := dk_28 (dk_at dksX4_backs_3 9 rfl rfl)
theorem dX4_backs_82 : decode cX4_backs 82 = .ok (.iaload, 1) := dk_46 (dk_at dksX4_backs_3 10 rfl rfl)
theorem dX4_backs_83 : decode cX4_backs 83 = .ok (.iconst 1, 1) := dk_4 (dk_at dksX4_backs_3 11 rfl rfl)
theorem dX4_backs_84 : decode cX4_backs 84 = .ok (.iadd, 1) := dk_96 (dk_at dksX4_backs_3 12 rfl rfl)
theorem dX4_backs_85 : decode cX4_backs 85 = .ok (.invokevirtual 315, 3) := dk_182 1 59 (dk_at dksX4_backs_3 13 rfl rfl)
theorem dX4_backs_88 : decode cX4_backs 88 = .ok (.iinc 2 1, 3) := dk_132 2 1 (dk_at dksX4_backs_3 16 rfl rfl)
theorem dX4_backs_91 : decode cX4_backs 91 = .ok (.goto (-29), 3) := dk_167 255 227 (dk_at dksX4_backs_3 19 rfl rfl)
theorem dX4_backs_94 : decode cX4_backs 94 = .ok (.aload_n 0, 1) := dk_42 (dk_at dksX4_backs_3 22 rfl rfl)
theorem dX4_backs_95 : decode cX4_backs 95 = .ok (.bipush 8, 2) := dk_16 8 (dk_at dksX4_backs_4 0 rfl rfl)
theorem dX4_backs_97 : decode cX4_backs 97 = .ok (.iload_n 1, 1) := dk_27 (dk_at dksX4_backs_4 2 rfl rfl)
theorem dX4_backs_98 : decode cX4_backs 98 = .ok (.iadd, 1) := dk_96 (dk_at dksX4_backs_4 3 rfl rfl)
theorem dX4_backs_99 : decode cX4_backs 99 = .ok (.invokevirtual 303, 3) := dk_182 1 47 (dk_at dksX4_backs_4 4 rfl rfl)
theorem dX4_backs_102 : decode cX4_backs 102 = .ok (.return_, 1) := dk_177 (dk_at dksX4_backs_4 7 rfl rfl)
def dkwX4_stay_1 : List UInt8 := [182, 1, 84, 42, 28, 182, 1, 56, 42, 27, 182, 1, 77, 172]
abbrev dktX4_stay_1 : List UInt8 := dkwX4_stay_1 ++ []
def dkwX4_stay_0 : List UInt8 := [42, 3, 181, 0, 1, 27, 184, 1, 71, 153, 0, 11, 42, 28, 182, 1, 112, 154, 0, 5, 2, 172, 42, 27]
abbrev dktX4_stay_0 : List UInt8 := dkwX4_stay_0 ++ dktX4_stay_1
theorem dksX4_stay_0 : cX4_stay.data.toList.drop 0 = dktX4_stay_0 := by decide +kernel
theorem dksX4_stay_1 : cX4_stay.data.toList.drop 24 = dktX4_stay_1 := dk_seg dksX4_stay_0 24 rfl rfl
theorem dX4_stay_0 : decode cX4_stay 0 = .ok (.aload_n 0, 1) := dk_42 (dk_at dksX4_stay_0 0 rfl rfl)
theorem dX4_stay_1 : decode cX4_stay 1 = .ok (.iconst 0, 1) := dk_3 (dk_at dksX4_stay_0 1 rfl rfl)
theorem dX4_stay_2 : decode cX4_stay 2 = .ok (.putfield 1, 3) := dk_181 0 1 (dk_at dksX4_stay_0 2 rfl rfl)
theorem dX4_stay_5 : decode cX4_stay 5 = .ok (.iload_n 1, 1) := dk_27 (dk_at dksX4_stay_0 5 rfl rfl)
theorem dX4_stay_6 : decode cX4_stay 6 = .ok (.invokestatic 327, 3) := dk_184 1 71 (dk_at dksX4_stay_0 6 rfl rfl)
theorem dX4_stay_9 : decode cX4_stay 9 = .ok (.ifCond .eq 11, 3) := dk_153 0 11 (dk_at dksX4_stay_0 9 rfl rfl)
theorem dX4_stay_12 : decode cX4_stay 12 = .ok (.aload_n 0, 1) := dk_42 (dk_at dksX4_stay_0 12 rfl rfl)
theorem dX4_stay_13 : decode cX4_stay 13 = .ok (.iload_n 2, 1) := dk_28 (dk_at dksX4_stay_0 13 rfl rfl)
theorem dX4_stay_14 : decode cX4_stay 14 = .ok (.invokevirtual 368, 3) := dk_182 1 112 (dk_at dksX4_stay_0 14 rfl rfl)
theorem dX4_stay_17 : decode cX4_stay 17 = .ok (.ifCond .ne 5, 3) := dk_154 0 5 (dk_at dksX4_stay_0 17 rfl rfl)
theorem dX4_stay_20 : decode cX4_stay 20 = .ok (.iconst (-1), 1) := dk_2 (dk_at dksX4_stay_0 20 rfl rfl)
theorem dX4_stay_21 : decode cX4_stay 21 = .ok (.ireturn, 1) := dk_172 (dk_at dksX4_stay_0 21 rfl rfl)
theorem dX4_stay_22 : decode cX4_stay 22 = .ok (.aload_n 0, 1) := dk_42 (dk_at dksX4_stay_0 22 rfl rfl)
theorem dX4_stay_23 : decode cX4_stay 23 = .ok (.iload_n 1, 1) := dk_27 (dk_at dksX4_stay_0 23 rfl rfl)
theorem dX4_stay_24 : decode cX4_stay 24 = .ok (.invokevirtual 340, 3) := dk_182 1 84 (dk_at dksX4_stay_1 0 rfl rfl)
theorem dX4_stay_27 : decode cX4_stay 27 = .ok (.aload_n 0, 1) := dk_42 (dk_at dksX4_stay_1 3 rfl rfl)
theorem dX4_stay_28 : decode cX4_stay 28 = .ok (.iload_n 2, 1) := dk_28 (dk_at dksX4_stay_1 4 rfl rfl)
theorem dX4_stay_29 : decode cX4_stay 29 = .ok (.invokevirtual 312, 3) := dk_182 1 56 (dk_at dksX4_stay_1 5 rfl rfl)
theorem dX4_stay_32 : decode cX4_stay 32 = .ok (.aload_n 0, 1) := dk_42 (dk_at dksX4_stay_1 8 rfl rfl)
theorem dX4_stay_33 : decode cX4_stay 33 = .ok (.iload_n 1, 1) := dk_27 (dk_at dksX4_stay_1 9 rfl rfl)
theorem dX4_stay_34 : decode cX4_stay 34 = .ok (.invokevirtual 333, 3) := dk_182 1 77 (dk_at dksX4_stay_1 10 rfl rfl)
theorem dX4_stay_37 : decode cX4_stay 37 = .ok (.ireturn, 1) := dk_172 (dk_at dksX4_stay_1 13 rfl rfl)
def dkwX4_isPlace_0 : List UInt8 := [27, 3, 42, 180, 0, 245, 4, 100, 184, 0, 158, 172]
abbrev dktX4_isPlace_0 : List UInt8 := dkwX4_isPlace_0 ++ []
theorem dksX4_isPlace_0 : cX4_isPlace.data.toList.drop 0 = dktX4_isPlace_0 := by decide +kernel
theorem dX4_isPlace_0 : decode cX4_isPlace 0 = .ok (.iload_n 1, 1) := dk_27 (dk_at dksX4_isPlace_0 0 rfl rfl)
theorem dX4_isPlace_1 : decode cX4_isPlace 1 = .ok (.iconst 0, 1) := dk_3 (dk_at dksX4_isPlace_0 1 rfl rfl)
theorem dX4_isPlace_2 : decode cX4_isPlace 2 = .ok (.aload_n 0, 1) := dk_42 (dk_at dksX4_isPlace_0 2 rfl rfl)
theorem dX4_isPlace_3 : decode cX4_isPlace 3 = .ok (.getfield 245, 3) := dk_180 0 245 (dk_at dksX4_isPlace_0 3 rfl rfl)
theorem dX4_isPlace_6 : decode cX4_isPlace 6 = .ok (.iconst 1, 1) := dk_4 (dk_at dksX4_isPlace_0 6 rfl rfl)
theorem dX4_isPlace_7 : decode cX4_isPlace 7 = .ok (.isub, 1) := dk_100 (dk_at dksX4_isPlace_0 7 rfl rfl)
theorem dX4_isPlace_8 : decode cX4_isPlace 8 = .ok (.invokestatic 158, 3) := dk_184 0 158 (dk_at dksX4_isPlace_0 8 rfl rfl)
theorem dX4_isPlace_11 : decode cX4_isPlace 11 = .ok (.ireturn, 1) := dk_172 (dk_at dksX4_isPlace_0 11 rfl rfl)
def dkwX4_rough_1 : List UInt8 := [27, 182, 1, 77, 172]
abbrev dktX4_rough_1 : List UInt8 := dkwX4_rough_1 ++ []
def dkwX4_rough_0 : List UInt8 := [42, 3, 181, 0, 1, 27, 184, 1, 71, 154, 0, 5, 2, 172, 42, 27, 182, 1, 84, 42, 182, 1, 115, 42]
abbrev dktX4_rough_0 : List UInt8 := dkwX4_rough_0 ++ dktX4_rough_1
theorem dksX4_rough_0 : cX4_rough.data.toList.drop 0 = dktX4_rough_0 := by decide +kernel
theorem dksX4_rough_1 : cX4_rough.data.toList.drop 24 = dktX4_rough_1 := dk_seg dksX4_rough_0 24 rfl rfl
theorem dX4_rough_0 : decode cX4_rough 0 = .ok (.aload_n 0, 1) := dk_42 (dk_at dksX4_rough_0 0 rfl rfl)
theorem dX4_rough_1 : decode cX4_rough 1 = .ok (.iconst 0, 1) := dk_3 (dk_at dksX4_rough_0 1 rfl rfl)
theorem dX4_rough_2 : decode cX4_rough 2 = .ok (.putfield 1, 3) := dk_181 0 1 (dk_at dksX4_rough_0 2 rfl rfl)
theorem dX4_rough_5 : decode cX4_rough 5 = .ok (.iload_n 1, 1) := dk_27 (dk_at dksX4_rough_0 5 rfl rfl)
theorem dX4_rough_6 : decode cX4_rough 6 = .ok (.invokestatic 327, 3) := dk_184 1 71 (dk_at dksX4_rough_0 6 rfl rfl)
theorem dX4_rough_9 : decode cX4_rough 9 = .ok (.ifCond .ne 5, 3) := dk_154 0 5 (dk_at dksX4_rough_0 9 rfl rfl)
theorem dX4_rough_12 : decode cX4_rough 12 = .ok (.iconst (-1), 1) := dk_2 (dk_at dksX4_rough_0 12 rfl rfl)
theorem dX4_rough_13 : decode cX4_rough 13 = .ok (.ireturn, 1) := dk_172 (dk_at dksX4_rough_0 13 rfl rfl)
theorem dX4_rough_14 : decode cX4_rough 14 = .ok (.aload_n 0, 1) := dk_42 (dk_at dksX4_rough_0 14 rfl rfl)
theorem dX4_rough_15 : decode cX4_rough 15 = .ok (.iload_n 1, 1) := dk_27 (dk_at dksX4_rough_0 15 rfl rfl)
theorem dX4_rough_16 : decode cX4_rough 16 = .ok (.invokevirtual 340, 3) := dk_182 1 84 (dk_at dksX4_rough_0 16 rfl rfl)
theorem dX4_rough_19 : decode cX4_rough 19 = .ok (.aload_n 0, 1) := dk_42 (dk_at dksX4_rough_0 19 rfl rfl)
theorem dX4_rough_20 : decode cX4_rough 20 = .ok (.invokevirtual 371, 3) := dk_182 1 115 (dk_at dksX4_rough_0 20 rfl rfl)
theorem dX4_rough_23 : decode cX4_rough 23 = .ok (.aload_n 0, 1) := dk_42 (dk_at dksX4_rough_0 23 rfl rfl)
theorem dX4_rough_24 : decode cX4_rough 24 = .ok (.iload_n 1, 1) := dk_27 (dk_at dksX4_rough_1 0 rfl rfl)
theorem dX4_rough_25 : decode cX4_rough 25 = .ok (.invokevirtual 333, 3) := dk_182 1 77 (dk_at dksX4_rough_1 1 rfl rfl)
theorem dX4_rough_28 : decode cX4_rough 28 = .ok (.ireturn, 1) := dk_172 (dk_at dksX4_rough_1 4 rfl rfl)
def dkwX4_take_1 : List UInt8 := [154, 0, 5, 2, 172, 42, 28, 182, 1, 121, 42, 27, 182, 1, 77, 172]
abbrev dktX4_take_1 : List UInt8 := dkwX4_take_1 ++ []
def dkwX4_take_0 : List UInt8 := [42, 3, 181, 0, 1, 27, 184, 1, 71, 153, 0, 17, 28, 3, 42, 180, 1, 118, 4, 100, 184, 0, 158]
abbrev dktX4_take_0 : List UInt8 := dkwX4_take_0 ++ dktX4_take_1
theorem dksX4_take_0 : cX4_take.data.toList.drop 0 = dktX4_take_0 := by decide +kernel
theorem dksX4_take_1 : cX4_take.data.toList.drop 23 = dktX4_take_1 := dk_seg dksX4_take_0 23 rfl rfl
theorem dX4_take_0 : decode cX4_take 0 = .ok (.aload_n 0, 1) := dk_42 (dk_at dksX4_take_0 0 rfl rfl)
theorem dX4_take_1 : decode cX4_take 1 = .ok (.iconst 0, 1) := dk_3 (dk_at dksX4_take_0 1 rfl rfl)
theorem dX4_take_2 : decode cX4_take 2 = .ok (.putfield 1, 3) := dk_181 0 1 (dk_at dksX4_take_0 2 rfl rfl)
theorem dX4_take_5 : decode cX4_take 5 = .ok (.iload_n 1, 1) := dk_27 (dk_at dksX4_take_0 5 rfl rfl)
theorem dX4_take_6 : decode cX4_take 6 = .ok (.invokestatic 327, 3) := dk_184 1 71 (dk_at dksX4_take_0 6 rfl rfl)
theorem dX4_take_9 : decode cX4_take 9 = .ok (.ifCond .eq 17, 3) := dk_153 0 17 (dk_at dksX4_take_0 9 rfl rfl)
theorem dX4_take_12 : decode cX4_take 12 = .ok (.iload_n 2, 1) := dk_28 (dk_at dksX4_take_0 12 rfl rfl)
theorem dX4_take_13 : decode cX4_take 13 = .ok (.iconst 0, 1) := dk_3 (dk_at dksX4_take_0 13 rfl rfl)
theorem dX4_take_14 : decode cX4_take 14 = .ok (.aload_n 0, 1) := dk_42 (dk_at dksX4_take_0 14 rfl rfl)
theorem dX4_take_15 : decode cX4_take 15 = .ok (.getfield 374, 3) := dk_180 1 118 (dk_at dksX4_take_0 15 rfl rfl)
theorem dX4_take_18 : decode cX4_take 18 = .ok (.iconst 1, 1) := dk_4 (dk_at dksX4_take_0 18 rfl rfl)
theorem dX4_take_19 : decode cX4_take 19 = .ok (.isub, 1) := dk_100 (dk_at dksX4_take_0 19 rfl rfl)
theorem dX4_take_20 : decode cX4_take 20 = .ok (.invokestatic 158, 3) := dk_184 0 158 (dk_at dksX4_take_0 20 rfl rfl)
theorem dX4_take_23 : decode cX4_take 23 = .ok (.ifCond .ne 5, 3) := dk_154 0 5 (dk_at dksX4_take_1 0 rfl rfl)
theorem dX4_take_26 : decode cX4_take 26 = .ok (.iconst (-1), 1) := dk_2 (dk_at dksX4_take_1 3 rfl rfl)
theorem dX4_take_27 : decode cX4_take 27 = .ok (.ireturn, 1) := dk_172 (dk_at dksX4_take_1 4 rfl rfl)
theorem dX4_take_28 : decode cX4_take 28 = .ok (.aload_n 0, 1) := dk_42 (dk_at dksX4_take_1 5 rfl rfl)
theorem dX4_take_29 : decode cX4_take 29 = .ok (.iload_n 2, 1) := dk_28 (dk_at dksX4_take_1 6 rfl rfl)
theorem dX4_take_30 : decode cX4_take 30 = .ok (.invokevirtual 377, 3) := dk_182 1 121 (dk_at dksX4_take_1 7 rfl rfl)
theorem dX4_take_33 : decode cX4_take 33 = .ok (.aload_n 0, 1) := dk_42 (dk_at dksX4_take_1 10 rfl rfl)
theorem dX4_take_34 : decode cX4_take 34 = .ok (.iload_n 1, 1) := dk_27 (dk_at dksX4_take_1 11 rfl rfl)
theorem dX4_take_35 : decode cX4_take 35 = .ok (.invokevirtual 333, 3) := dk_182 1 77 (dk_at dksX4_take_1 12 rfl rfl)
theorem dX4_take_38 : decode cX4_take 38 = .ok (.ireturn, 1) := dk_172 (dk_at dksX4_take_1 15 rfl rfl)
def dkwX4_bound_2 : List UInt8 := [17, 252, 24, 167, 0, 19, 42, 42, 28, 4, 96, 29, 4, 96, 182, 1, 16, 21, 4, 182, 1, 124, 172]
abbrev dktX4_bound_2 : List UInt8 := dkwX4_bound_2 ++ []
def dkwX4_bound_1 : List UInt8 := [184, 1, 87, 154, 0, 7, 17, 248, 48, 172, 42, 27, 182, 1, 84, 42, 180, 1, 33, 153, 0, 9]
abbrev dktX4_bound_1 : List UInt8 := dkwX4_bound_1 ++ dktX4_bound_2
def dkwX4_bound_0 : List UInt8 := [42, 3, 181, 0, 1, 27, 184, 1, 71, 153, 0, 20, 42, 28, 29, 182, 1, 80, 153, 0, 11, 21, 4]
abbrev dktX4_bound_0 : List UInt8 := dkwX4_bound_0 ++ dktX4_bound_1
theorem dksX4_bound_0 : cX4_bound.data.toList.drop 0 = dktX4_bound_0 := by decide +kernel
theorem dksX4_bound_1 : cX4_bound.data.toList.drop 23 = dktX4_bound_1 := dk_seg dksX4_bound_0 23 rfl rfl
theorem dksX4_bound_2 : cX4_bound.data.toList.drop 45 = dktX4_bound_2 := dk_seg dksX4_bound_1 22 rfl rfl
theorem dX4_bound_0 : decode cX4_bound 0 = .ok (.aload_n 0, 1) := dk_42 (dk_at dksX4_bound_0 0 rfl rfl)
theorem dX4_bound_1 : decode cX4_bound 1 = .ok (.iconst 0, 1) := dk_3 (dk_at dksX4_bound_0 1 rfl rfl)
theorem dX4_bound_2 : decode cX4_bound 2 = .ok (.putfield 1, 3) := dk_181 0 1 (dk_at dksX4_bound_0 2 rfl rfl)
theorem dX4_bound_5 : decode cX4_bound 5 = .ok (.iload_n 1, 1) := dk_27 (dk_at dksX4_bound_0 5 rfl rfl)
theorem dX4_bound_6 : decode cX4_bound 6 = .ok (.invokestatic 327, 3) := dk_184 1 71 (dk_at dksX4_bound_0 6 rfl rfl)
theorem dX4_bound_9 : decode cX4_bound 9 = .ok (.ifCond .eq 20, 3) := dk_153 0 20 (dk_at dksX4_bound_0 9 rfl rfl)
theorem dX4_bound_12 : decode cX4_bound 12 = .ok (.aload_n 0, 1) := dk_42 (dk_at dksX4_bound_0 12 rfl rfl)
theorem dX4_bound_13 : decode cX4_bound 13 = .ok (.iload_n 2, 1) := dk_28 (dk_at dksX4_bound_0 13 rfl rfl)
theorem dX4_bound_14 : decode cX4_bound 14 = .ok (.iload_n 3, 1) := dk_29 (dk_at dksX4_bound_0 14 rfl rfl)
theorem dX4_bound_15 : decode cX4_bound 15 = .ok (.invokevirtual 336, 3) := dk_182 1 80 (dk_at dksX4_bound_0 15 rfl rfl)
theorem dX4_bound_18 : decode cX4_bound 18 = .ok (.ifCond .eq 11, 3) := dk_153 0 11 (dk_at dksX4_bound_0 18 rfl rfl)
theorem dX4_bound_21 : decode cX4_bound 21 = .ok (.iload 4, 2) := dk_21 4 (dk_at dksX4_bound_0 21 rfl rfl)
theorem dX4_bound_23 : decode cX4_bound 23 = .ok (.invokestatic 343, 3) := dk_184 1 87 (dk_at dksX4_bound_1 0 rfl rfl)
theorem dX4_bound_26 : decode cX4_bound 26 = .ok (.ifCond .ne 7, 3) := dk_154 0 7 (dk_at dksX4_bound_1 3 rfl rfl)
theorem dX4_bound_29 : decode cX4_bound 29 = .ok (.sipush (-2000), 3) := dk_17 248 48 (dk_at dksX4_bound_1 6 rfl rfl)
theorem dX4_bound_32 : decode cX4_bound 32 = .ok (.ireturn, 1) := dk_172 (dk_at dksX4_bound_1 9 rfl rfl)
theorem dX4_bound_33 : decode cX4_bound 33 = .ok (.aload_n 0, 1) := dk_42 (dk_at dksX4_bound_1 10 rfl rfl)
theorem dX4_bound_34 : decode cX4_bound 34 = .ok (.iload_n 1, 1) := dk_27 (dk_at dksX4_bound_1 11 rfl rfl)
theorem dX4_bound_35 : decode cX4_bound 35 = .ok (.invokevirtual 340, 3) := dk_182 1 84 (dk_at dksX4_bound_1 12 rfl rfl)
theorem dX4_bound_38 : decode cX4_bound 38 = .ok (.aload_n 0, 1) := dk_42 (dk_at dksX4_bound_1 15 rfl rfl)
theorem dX4_bound_39 : decode cX4_bound 39 = .ok (.getfield 289, 3) := dk_180 1 33 (dk_at dksX4_bound_1 16 rfl rfl)
theorem dX4_bound_42 : decode cX4_bound 42 = .ok (.ifCond .eq 9, 3) := dk_153 0 9 (dk_at dksX4_bound_1 19 rfl rfl)
theorem dX4_bound_45 : decode cX4_bound 45 = .ok (.sipush (-1000), 3) := dk_17 252 24 (dk_at dksX4_bound_2 0 rfl rfl)
theorem dX4_bound_48 : decode cX4_bound 48 = .ok (.goto 19, 3) := dk_167 0 19 (dk_at dksX4_bound_2 3 rfl rfl)
theorem dX4_bound_51 : decode cX4_bound 51 = .ok (.aload_n 0, 1) := dk_42 (dk_at dksX4_bound_2 6 rfl rfl)
theorem dX4_bound_52 : decode cX4_bound 52 = .ok (.aload_n 0, 1) := dk_42 (dk_at dksX4_bound_2 7 rfl rfl)
theorem dX4_bound_53 : decode cX4_bound 53 = .ok (.iload_n 2, 1) := dk_28 (dk_at dksX4_bound_2 8 rfl rfl)
theorem dX4_bound_54 : decode cX4_bound 54 = .ok (.iconst 1, 1) := dk_4 (dk_at dksX4_bound_2 9 rfl rfl)
theorem dX4_bound_55 : decode cX4_bound 55 = .ok (.iadd, 1) := dk_96 (dk_at dksX4_bound_2 10 rfl rfl)
theorem dX4_bound_56 : decode cX4_bound 56 = .ok (.iload_n 3, 1) := dk_29 (dk_at dksX4_bound_2 11 rfl rfl)
theorem dX4_bound_57 : decode cX4_bound 57 = .ok (.iconst 1, 1) := dk_4 (dk_at dksX4_bound_2 12 rfl rfl)
theorem dX4_bound_58 : decode cX4_bound 58 = .ok (.iadd, 1) := dk_96 (dk_at dksX4_bound_2 13 rfl rfl)
theorem dX4_bound_59 : decode cX4_bound 59 = .ok (.invokevirtual 272, 3) := dk_182 1 16 (dk_at dksX4_bound_2 14 rfl rfl)
theorem dX4_bound_62 : decode cX4_bound 62 = .ok (.iload 4, 2) := dk_21 4 (dk_at dksX4_bound_2 17 rfl rfl)
theorem dX4_bound_64 : decode cX4_bound 64 = .ok (.invokevirtual 380, 3) := dk_182 1 124 (dk_at dksX4_bound_2 19 rfl rfl)
theorem dX4_bound_67 : decode cX4_bound 67 = .ok (.ireturn, 1) := dk_172 (dk_at dksX4_bound_2 22 rfl rfl)
def dkwX4_told_1 : List UInt8 := [27, 19, 1, 15, 161, 0, 7, 3, 167, 0, 6, 27, 4, 126, 172]
abbrev dktX4_told_1 : List UInt8 := dkwX4_told_1 ++ []
def dkwX4_told_0 : List UInt8 := [28, 154, 0, 23, 27, 19, 1, 15, 161, 0, 9, 17, 3, 232, 167, 0, 24, 27, 184, 1, 62, 167, 0, 17]
abbrev dktX4_told_0 : List UInt8 := dkwX4_told_0 ++ dktX4_told_1
theorem dksX4_told_0 : cX4_told.data.toList.drop 0 = dktX4_told_0 := by decide +kernel
theorem dksX4_told_1 : cX4_told.data.toList.drop 24 = dktX4_told_1 := dk_seg dksX4_told_0 24 rfl rfl
theorem dX4_told_0 : decode cX4_told 0 = .ok (.iload_n 2, 1) := dk_28 (dk_at dksX4_told_0 0 rfl rfl)
theorem dX4_told_1 : decode cX4_told 1 = .ok (.ifCond .ne 23, 3) := dk_154 0 23 (dk_at dksX4_told_0 1 rfl rfl)
theorem dX4_told_4 : decode cX4_told 4 = .ok (.iload_n 1, 1) := dk_27 (dk_at dksX4_told_0 4 rfl rfl)
theorem dX4_told_5 : decode cX4_told 5 = .ok (.ldc_w 271, 3) := dk_19 1 15 (dk_at dksX4_told_0 5 rfl rfl)
theorem dX4_told_8 : decode cX4_told 8 = .ok (.if_icmp .lt 9, 3) := dk_161 0 9 (dk_at dksX4_told_0 8 rfl rfl)
theorem dX4_told_11 : decode cX4_told 11 = .ok (.sipush 1000, 3) := dk_17 3 232 (dk_at dksX4_told_0 11 rfl rfl)
theorem dX4_told_14 : decode cX4_told 14 = .ok (.goto 24, 3) := dk_167 0 24 (dk_at dksX4_told_0 14 rfl rfl)
theorem dX4_told_17 : decode cX4_told 17 = .ok (.iload_n 1, 1) := dk_27 (dk_at dksX4_told_0 17 rfl rfl)
theorem dX4_told_18 : decode cX4_told 18 = .ok (.invokestatic 318, 3) := dk_184 1 62 (dk_at dksX4_told_0 18 rfl rfl)
theorem dX4_told_21 : decode cX4_told 21 = .ok (.goto 17, 3) := dk_167 0 17 (dk_at dksX4_told_0 21 rfl rfl)
theorem dX4_told_24 : decode cX4_told 24 = .ok (.iload_n 1, 1) := dk_27 (dk_at dksX4_told_1 0 rfl rfl)
theorem dX4_told_25 : decode cX4_told 25 = .ok (.ldc_w 271, 3) := dk_19 1 15 (dk_at dksX4_told_1 1 rfl rfl)
theorem dX4_told_28 : decode cX4_told 28 = .ok (.if_icmp .lt 7, 3) := dk_161 0 7 (dk_at dksX4_told_1 4 rfl rfl)
theorem dX4_told_31 : decode cX4_told 31 = .ok (.iconst 0, 1) := dk_3 (dk_at dksX4_told_1 7 rfl rfl)
theorem dX4_told_32 : decode cX4_told 32 = .ok (.goto 6, 3) := dk_167 0 6 (dk_at dksX4_told_1 8 rfl rfl)
theorem dX4_told_35 : decode cX4_told 35 = .ok (.iload_n 1, 1) := dk_27 (dk_at dksX4_told_1 11 rfl rfl)
theorem dX4_told_36 : decode cX4_told 36 = .ok (.iconst 1, 1) := dk_4 (dk_at dksX4_told_1 12 rfl rfl)
theorem dX4_told_37 : decode cX4_told 37 = .ok (.iand, 1) := dk_126 (dk_at dksX4_told_1 13 rfl rfl)
theorem dX4_told_38 : decode cX4_told 38 = .ok (.ireturn, 1) := dk_172 (dk_at dksX4_told_1 14 rfl rfl)
def dkwX4_width_3 : List UInt8 := [182, 1, 16, 184, 1, 27, 21, 4, 182, 1, 124, 172]
abbrev dktX4_width_3 : List UInt8 := dkwX4_width_3 ++ []
def dkwX4_width_2 : List UInt8 := [17, 252, 24, 167, 0, 32, 42, 42, 28, 4, 96, 29, 4, 96, 182, 1, 16, 42, 29, 4, 96, 28, 4, 96]
abbrev dktX4_width_2 : List UInt8 := dkwX4_width_2 ++ dktX4_width_3
def dkwX4_width_1 : List UInt8 := [184, 1, 87, 154, 0, 7, 17, 248, 48, 172, 42, 27, 182, 1, 84, 42, 180, 1, 33, 153, 0, 9]
abbrev dktX4_width_1 : List UInt8 := dkwX4_width_1 ++ dktX4_width_2
def dkwX4_width_0 : List UInt8 := [42, 3, 181, 0, 1, 27, 184, 1, 71, 153, 0, 20, 42, 28, 29, 182, 1, 80, 153, 0, 11, 21, 4]
abbrev dktX4_width_0 : List UInt8 := dkwX4_width_0 ++ dktX4_width_1
theorem dksX4_width_0 : cX4_width.data.toList.drop 0 = dktX4_width_0 := by decide +kernel
theorem dksX4_width_1 : cX4_width.data.toList.drop 23 = dktX4_width_1 := dk_seg dksX4_width_0 23 rfl rfl
theorem dksX4_width_2 : cX4_width.data.toList.drop 45 = dktX4_width_2 := dk_seg dksX4_width_1 22 rfl rfl
theorem dksX4_width_3 : cX4_width.data.toList.drop 69 = dktX4_width_3 := dk_seg dksX4_width_2 24 rfl rfl
theorem dX4_width_0 : decode cX4_width 0 = .ok (.aload_n 0, 1) := dk_42 (dk_at dksX4_width_0 0 rfl rfl)
theorem dX4_width_1 : decode cX4_width 1 = .ok (.iconst 0, 1) := dk_3 (dk_at dksX4_width_0 1 rfl rfl)
theorem dX4_width_2 : decode cX4_width 2 = .ok (.putfield 1, 3) := dk_181 0 1 (dk_at dksX4_width_0 2 rfl rfl)
theorem dX4_width_5 : decode cX4_width 5 = .ok (.iload_n 1, 1) := dk_27 (dk_at dksX4_width_0 5 rfl rfl)
theorem dX4_width_6 : decode cX4_width 6 = .ok (.invokestatic 327, 3) := dk_184 1 71 (dk_at dksX4_width_0 6 rfl rfl)
theorem dX4_width_9 : decode cX4_width 9 = .ok (.ifCond .eq 20, 3) := dk_153 0 20 (dk_at dksX4_width_0 9 rfl rfl)
theorem dX4_width_12 : decode cX4_width 12 = .ok (.aload_n 0, 1) := dk_42 (dk_at dksX4_width_0 12 rfl rfl)
theorem dX4_width_13 : decode cX4_width 13 = .ok (.iload_n 2, 1) := dk_28 (dk_at dksX4_width_0 13 rfl rfl)
theorem dX4_width_14 : decode cX4_width 14 = .ok (.iload_n 3, 1) := dk_29 (dk_at dksX4_width_0 14 rfl rfl)
theorem dX4_width_15 : decode cX4_width 15 = .ok (.invokevirtual 336, 3) := dk_182 1 80 (dk_at dksX4_width_0 15 rfl rfl)
theorem dX4_width_18 : decode cX4_width 18 = .ok (.ifCond .eq 11, 3) := dk_153 0 11 (dk_at dksX4_width_0 18 rfl rfl)
theorem dX4_width_21 : decode cX4_width 21 = .ok (.iload 4, 2) := dk_21 4 (dk_at dksX4_width_0 21 rfl rfl)
theorem dX4_width_23 : decode cX4_width 23 = .ok (.invokestatic 343, 3) := dk_184 1 87 (dk_at dksX4_width_1 0 rfl rfl)
theorem dX4_width_26 : decode cX4_width 26 = .ok (.ifCond .ne 7, 3) := dk_154 0 7 (dk_at dksX4_width_1 3 rfl rfl)
theorem dX4_width_29 : decode cX4_width 29 = .ok (.sipush (-2000), 3) := dk_17 248 48 (dk_at dksX4_width_1 6 rfl rfl)
theorem dX4_width_32 : decode cX4_width 32 = .ok (.ireturn, 1) := dk_172 (dk_at dksX4_width_1 9 rfl rfl)
theorem dX4_width_33 : decode cX4_width 33 = .ok (.aload_n 0, 1) := dk_42 (dk_at dksX4_width_1 10 rfl rfl)
theorem dX4_width_34 : decode cX4_width 34 = .ok (.iload_n 1, 1) := dk_27 (dk_at dksX4_width_1 11 rfl rfl)
theorem dX4_width_35 : decode cX4_width 35 = .ok (.invokevirtual 340, 3) := dk_182 1 84 (dk_at dksX4_width_1 12 rfl rfl)
theorem dX4_width_38 : decode cX4_width 38 = .ok (.aload_n 0, 1) := dk_42 (dk_at dksX4_width_1 15 rfl rfl)
theorem dX4_width_39 : decode cX4_width 39 = .ok (.getfield 289, 3) := dk_180 1 33 (dk_at dksX4_width_1 16 rfl rfl)
theorem dX4_width_42 : decode cX4_width 42 = .ok (.ifCond .eq 9, 3) := dk_153 0 9 (dk_at dksX4_width_1 19 rfl rfl)
theorem dX4_width_45 : decode cX4_width 45 = .ok (.sipush (-1000), 3) := dk_17 252 24 (dk_at dksX4_width_2 0 rfl rfl)
theorem dX4_width_48 : decode cX4_width 48 = .ok (.goto 32, 3) := dk_167 0 32 (dk_at dksX4_width_2 3 rfl rfl)
theorem dX4_width_51 : decode cX4_width 51 = .ok (.aload_n 0, 1) := dk_42 (dk_at dksX4_width_2 6 rfl rfl)
theorem dX4_width_52 : decode cX4_width 52 = .ok (.aload_n 0, 1) := dk_42 (dk_at dksX4_width_2 7 rfl rfl)
theorem dX4_width_53 : decode cX4_width 53 = .ok (.iload_n 2, 1) := dk_28 (dk_at dksX4_width_2 8 rfl rfl)
theorem dX4_width_54 : decode cX4_width 54 = .ok (.iconst 1, 1) := dk_4 (dk_at dksX4_width_2 9 rfl rfl)
theorem dX4_width_55 : decode cX4_width 55 = .ok (.iadd, 1) := dk_96 (dk_at dksX4_width_2 10 rfl rfl)
theorem dX4_width_56 : decode cX4_width 56 = .ok (.iload_n 3, 1) := dk_29 (dk_at dksX4_width_2 11 rfl rfl)
theorem dX4_width_57 : decode cX4_width 57 = .ok (.iconst 1, 1) := dk_4 (dk_at dksX4_width_2 12 rfl rfl)
theorem dX4_width_58 : decode cX4_width 58 = .ok (.iadd, 1) := dk_96 (dk_at dksX4_width_2 13 rfl rfl)
theorem dX4_width_59 : decode cX4_width 59 = .ok (.invokevirtual 272, 3) := dk_182 1 16 (dk_at dksX4_width_2 14 rfl rfl)
theorem dX4_width_62 : decode cX4_width 62 = .ok (.aload_n 0, 1) := dk_42 (dk_at dksX4_width_2 17 rfl rfl)
theorem dX4_width_63 : decode cX4_width 63 = .ok (.iload_n 3, 1) := dk_29 (dk_at dksX4_width_2 18 rfl rfl)
theorem dX4_width_64 : decode cX4_width 64 = .ok (.iconst 1, 1) := dk_4 (dk_at dksX4_width_2 19 rfl rfl)
theorem dX4_width_65 : decode cX4_width 65 = .ok (.iadd, 1) := dk_96 (dk_at dksX4_width_2 20 rfl rfl)
theorem dX4_width_66 : decode cX4_width 66 = .ok (.iload_n 2, 1) := dk_28 (dk_at dksX4_width_2 21 rfl rfl)
theorem dX4_width_67 : decode cX4_width 67 = .ok (.iconst 1, 1) := dk_4 (dk_at dksX4_width_2 22 rfl rfl)
theorem dX4_width_68 : decode cX4_width 68 = .ok (.iadd, 1) := dk_96 (dk_at dksX4_width_2 23 rfl rfl)
theorem dX4_width_69 : decode cX4_width 69 = .ok (.invokevirtual 272, 3) := dk_182 1 16 (dk_at dksX4_width_3 0 rfl rfl)
theorem dX4_width_72 : decode cX4_width 72 = .ok (.invokestatic 283, 3) := dk_184 1 27 (dk_at dksX4_width_3 3 rfl rfl)
theorem dX4_width_75 : decode cX4_width 75 = .ok (.iload 4, 2) := dk_21 4 (dk_at dksX4_width_3 6 rfl rfl)
theorem dX4_width_77 : decode cX4_width 77 = .ok (.invokevirtual 380, 3) := dk_182 1 124 (dk_at dksX4_width_3 8 rfl rfl)
theorem dX4_width_80 : decode cX4_width 80 = .ok (.ireturn, 1) := dk_172 (dk_at dksX4_width_3 11 rfl rfl)
def dkwX4_empty_1 : List UInt8 := [2, 172]
abbrev dktX4_empty_1 : List UInt8 := dkwX4_empty_1 ++ []
def dkwX4_empty_0 : List UInt8 := [42, 3, 181, 0, 1, 27, 184, 1, 71, 153, 0, 15, 42, 180, 0, 44, 16, 100, 27, 96, 46, 167, 0, 4]
abbrev dktX4_empty_0 : List UInt8 := dkwX4_empty_0 ++ dktX4_empty_1
theorem dksX4_empty_0 : cX4_empty.data.toList.drop 0 = dktX4_empty_0 := by decide +kernel
theorem dksX4_empty_1 : cX4_empty.data.toList.drop 24 = dktX4_empty_1 := dk_seg dksX4_empty_0 24 rfl rfl
theorem dX4_empty_0 : decode cX4_empty 0 = .ok (.aload_n 0, 1) := dk_42 (dk_at dksX4_empty_0 0 rfl rfl)
theorem dX4_empty_1 : decode cX4_empty 1 = .ok (.iconst 0, 1) := dk_3 (dk_at dksX4_empty_0 1 rfl rfl)
theorem dX4_empty_2 : decode cX4_empty 2 = .ok (.putfield 1, 3) := dk_181 0 1 (dk_at dksX4_empty_0 2 rfl rfl)
theorem dX4_empty_5 : decode cX4_empty 5 = .ok (.iload_n 1, 1) := dk_27 (dk_at dksX4_empty_0 5 rfl rfl)
theorem dX4_empty_6 : decode cX4_empty 6 = .ok (.invokestatic 327, 3) := dk_184 1 71 (dk_at dksX4_empty_0 6 rfl rfl)
theorem dX4_empty_9 : decode cX4_empty 9 = .ok (.ifCond .eq 15, 3) := dk_153 0 15 (dk_at dksX4_empty_0 9 rfl rfl)
theorem dX4_empty_12 : decode cX4_empty 12 = .ok (.aload_n 0, 1) := dk_42 (dk_at dksX4_empty_0 12 rfl rfl)
theorem dX4_empty_13 : decode cX4_empty 13 = .ok (.getfield 44, 3) := dk_180 0 44 (dk_at dksX4_empty_0 13 rfl rfl)
theorem dX4_empty_16 : decode cX4_empty 16 = .ok (.bipush 100, 2) := dk_16 100 (dk_at dksX4_empty_0 16 rfl rfl)
theorem dX4_empty_18 : decode cX4_empty 18 = .ok (.iload_n 1, 1) := dk_27 (dk_at dksX4_empty_0 18 rfl rfl)
theorem dX4_empty_19 : decode cX4_empty 19 = .ok (.iadd, 1) := dk_96 (dk_at dksX4_empty_0 19 rfl rfl)
theorem dX4_empty_20 : decode cX4_empty 20 = .ok (.iaload, 1) := dk_46 (dk_at dksX4_empty_0 20 rfl rfl)
theorem dX4_empty_21 : decode cX4_empty 21 = .ok (.goto 4, 3) := dk_167 0 4 (dk_at dksX4_empty_0 21 rfl rfl)
theorem dX4_empty_24 : decode cX4_empty 24 = .ok (.iconst (-1), 1) := dk_2 (dk_at dksX4_empty_1 0 rfl rfl)
theorem dX4_empty_25 : decode cX4_empty 25 = .ok (.ireturn, 1) := dk_172 (dk_at dksX4_empty_1 1 rfl rfl)
def dkwX4_within_3 : List UInt8 := [167, 0, 4, 3, 172]
abbrev dktX4_within_3 : List UInt8 := dkwX4_within_3 ++ []
def dkwX4_within_2 : List UInt8 := [16, 100, 27, 96, 46, 154, 0, 22, 42, 42, 180, 0, 44, 16, 25, 27, 104, 182, 1, 127, 153, 0, 7, 4]
abbrev dktX4_within_2 : List UInt8 := dkwX4_within_2 ++ dktX4_within_3
def dkwX4_within_1 : List UInt8 := [180, 0, 44, 16, 100, 28, 96, 46, 4, 160, 0, 5, 4, 172, 42, 28, 182, 1, 84, 42, 180, 0, 44]
abbrev dktX4_within_1 : List UInt8 := dkwX4_within_1 ++ dktX4_within_2
def dkwX4_within_0 : List UInt8 := [42, 3, 181, 0, 1, 27, 184, 1, 71, 153, 0, 10, 28, 184, 1, 71, 154, 0, 5, 2, 172, 42]
abbrev dktX4_within_0 : List UInt8 := dkwX4_within_0 ++ dktX4_within_1
theorem dksX4_within_0 : cX4_within.data.toList.drop 0 = dktX4_within_0 := by decide +kernel
theorem dksX4_within_1 : cX4_within.data.toList.drop 22 = dktX4_within_1 := dk_seg dksX4_within_0 22 rfl rfl
theorem dksX4_within_2 : cX4_within.data.toList.drop 45 = dktX4_within_2 := dk_seg dksX4_within_1 23 rfl rfl
theorem dksX4_within_3 : cX4_within.data.toList.drop 69 = dktX4_within_3 := dk_seg dksX4_within_2 24 rfl rfl
theorem dX4_within_0 : decode cX4_within 0 = .ok (.aload_n 0, 1) := dk_42 (dk_at dksX4_within_0 0 rfl rfl)
theorem dX4_within_1 : decode cX4_within 1 = .ok (.iconst 0, 1) := dk_3 (dk_at dksX4_within_0 1 rfl rfl)
theorem dX4_within_2 : decode cX4_within 2 = .ok (.putfield 1, 3) := dk_181 0 1 (dk_at dksX4_within_0 2 rfl rfl)
theorem dX4_within_5 : decode cX4_within 5 = .ok (.iload_n 1, 1) := dk_27 (dk_at dksX4_within_0 5 rfl rfl)
theorem dX4_within_6 : decode cX4_within 6 = .ok (.invokestatic 327, 3) := dk_184 1 71 (dk_at dksX4_within_0 6 rfl rfl)
theorem dX4_within_9 : decode cX4_within 9 = .ok (.ifCond .eq 10, 3) := dk_153 0 10 (dk_at dksX4_within_0 9 rfl rfl)
theorem dX4_within_12 : decode cX4_within 12 = .ok (.iload_n 2, 1) := dk_28 (dk_at dksX4_within_0 12 rfl rfl)
theorem dX4_within_13 : decode cX4_within 13 = .ok (.invokestatic 327, 3) := dk_184 1 71 (dk_at dksX4_within_0 13 rfl rfl)
theorem dX4_within_16 : decode cX4_within 16 = .ok (.ifCond .ne 5, 3) := dk_154 0 5 (dk_at dksX4_within_0 16 rfl rfl)
theorem dX4_within_19 : decode cX4_within 19 = .ok (.iconst (-1), 1) := dk_2 (dk_at dksX4_within_0 19 rfl rfl)
theorem dX4_within_20 : decode cX4_within 20 = .ok (.ireturn, 1) := dk_172 (dk_at dksX4_within_0 20 rfl rfl)
theorem dX4_within_21 : decode cX4_within 21 = .ok (.aload_n 0, 1) := dk_42 (dk_at dksX4_within_0 21 rfl rfl)
theorem dX4_within_22 : decode cX4_within 22 = .ok (.getfield 44, 3) := dk_180 0 44 (dk_at dksX4_within_1 0 rfl rfl)
theorem dX4_within_25 : decode cX4_within 25 = .ok (.bipush 100, 2) := dk_16 100 (dk_at dksX4_within_1 3 rfl rfl)
theorem dX4_within_27 : decode cX4_within 27 = .ok (.iload_n 2, 1) := dk_28 (dk_at dksX4_within_1 5 rfl rfl)
theorem dX4_within_28 : decode cX4_within 28 = .ok (.iadd, 1) := dk_96 (dk_at dksX4_within_1 6 rfl rfl)
theorem dX4_within_29 : decode cX4_within 29 = .ok (.iaload, 1) := dk_46 (dk_at dksX4_within_1 7 rfl rfl)
theorem dX4_within_30 : decode cX4_within 30 = .ok (.iconst 1, 1) := dk_4 (dk_at dksX4_within_1 8 rfl rfl)
theorem dX4_within_31 : decode cX4_within 31 = .ok (.if_icmp .ne 5, 3) := dk_160 0 5 (dk_at dksX4_within_1 9 rfl rfl)
theorem dX4_within_34 : decode cX4_within 34 = .ok (.iconst 1, 1) := dk_4 (dk_at dksX4_within_1 12 rfl rfl)
theorem dX4_within_35 : decode cX4_within 35 = .ok (.ireturn, 1) := dk_172 (dk_at dksX4_within_1 13 rfl rfl)
theorem dX4_within_36 : decode cX4_within 36 = .ok (.aload_n 0, 1) := dk_42 (dk_at dksX4_within_1 14 rfl rfl)
theorem dX4_within_37 : decode cX4_within 37 = .ok (.iload_n 2, 1) := dk_28 (dk_at dksX4_within_1 15 rfl rfl)
theorem dX4_within_38 : decode cX4_within 38 = .ok (.invokevirtual 340, 3) := dk_182 1 84 (dk_at dksX4_within_1 16 rfl rfl)
theorem dX4_within_41 : decode cX4_within 41 = .ok (.aload_n 0, 1) := dk_42 (dk_at dksX4_within_1 19 rfl rfl)
theorem dX4_within_42 : decode cX4_within 42 = .ok (.getfield 44, 3) := dk_180 0 44 (dk_at dksX4_within_1 20 rfl rfl)
theorem dX4_within_45 : decode cX4_within 45 = .ok (.bipush 100, 2) := dk_16 100 (dk_at dksX4_within_2 0 rfl rfl)
theorem dX4_within_47 : decode cX4_within 47 = .ok (.iload_n 1, 1) := dk_27 (dk_at dksX4_within_2 2 rfl rfl)
theorem dX4_within_48 : decode cX4_within 48 = .ok (.iadd, 1) := dk_96 (dk_at dksX4_within_2 3 rfl rfl)
theorem dX4_within_49 : decode cX4_within 49 = .ok (.iaload, 1) := dk_46 (dk_at dksX4_within_2 4 rfl rfl)
theorem dX4_within_50 : decode cX4_within 50 = .ok (.ifCond .ne 22, 3) := dk_154 0 22 (dk_at dksX4_within_2 5 rfl rfl)
theorem dX4_within_53 : decode cX4_within 53 = .ok (.aload_n 0, 1) := dk_42 (dk_at dksX4_within_2 8 rfl rfl)
theorem dX4_within_54 : decode cX4_within 54 = .ok (.aload_n 0, 1) := dk_42 (dk_at dksX4_within_2 9 rfl rfl)
theorem dX4_within_55 : decode cX4_within 55 = .ok (.getfield 44, 3) := dk_180 0 44 (dk_at dksX4_within_2 10 rfl rfl)
theorem dX4_within_58 : decode cX4_within 58 = .ok (.bipush 25, 2) := dk_16 25 (dk_at dksX4_within_2 13 rfl rfl)
theorem dX4_within_60 : decode cX4_within 60 = .ok (.iload_n 1, 1) := dk_27 (dk_at dksX4_within_2 15 rfl rfl)
theorem dX4_within_61 : decode cX4_within 61 = .ok (.imul, 1) := dk_104 (dk_at dksX4_within_2 16 rfl rfl)
theorem dX4_within_62 : decode cX4_within 62 = .ok (.invokevirtual 383, 3) := dk_182 1 127 (dk_at dksX4_within_2 17 rfl rfl)
theorem dX4_within_65 : decode cX4_within 65 = .ok (.ifCond .eq 7, 3) := dk_153 0 7 (dk_at dksX4_within_2 20 rfl rfl)
theorem dX4_within_68 : decode cX4_within 68 = .ok (.iconst 1, 1) := dk_4 (dk_at dksX4_within_2 23 rfl rfl)
theorem dX4_within_69 : decode cX4_within 69 = .ok (.goto 4, 3) := dk_167 0 4 (dk_at dksX4_within_3 0 rfl rfl)
theorem dX4_within_72 : decode cX4_within 72 = .ok (.iconst 0, 1) := dk_3 (dk_at dksX4_within_3 3 rfl rfl)
theorem dX4_within_73 : decode cX4_within 73 = .ok (.ireturn, 1) := dk_172 (dk_at dksX4_within_3 4 rfl rfl)
def dkwX4_has_3 : List UInt8 := [27, 182, 1, 84, 42, 5, 182, 1, 131, 153, 0, 7, 4, 167, 0, 4, 3, 172]
abbrev dktX4_has_3 : List UInt8 := dkwX4_has_3 ++ []
def dkwX4_has_2 : List UInt8 := [42, 180, 0, 105, 5, 29, 79, 42, 180, 0, 105, 6, 21, 4, 79, 42, 180, 0, 105, 7, 21, 5, 79, 42]
abbrev dktX4_has_2 : List UInt8 := dkwX4_has_2 ++ dktX4_has_3
def dkwX4_has_1 : List UInt8 := [155, 0, 8, 21, 5, 156, 0, 5, 2, 172, 42, 180, 0, 105, 3, 3, 79, 42, 180, 0, 105, 4, 28, 79]
abbrev dktX4_has_1 : List UInt8 := dkwX4_has_1 ++ dktX4_has_2
def dkwX4_has_0 : List UInt8 := [42, 3, 181, 0, 1, 27, 184, 1, 71, 153, 0, 21, 28, 155, 0, 17, 29, 155, 0, 13, 21, 4]
abbrev dktX4_has_0 : List UInt8 := dkwX4_has_0 ++ dktX4_has_1
theorem dksX4_has_0 : cX4_has.data.toList.drop 0 = dktX4_has_0 := by decide +kernel
theorem dksX4_has_1 : cX4_has.data.toList.drop 22 = dktX4_has_1 := dk_seg dksX4_has_0 22 rfl rfl
theorem dksX4_has_2 : cX4_has.data.toList.drop 46 = dktX4_has_2 := dk_seg dksX4_has_1 24 rfl rfl
theorem dksX4_has_3 : cX4_has.data.toList.drop 70 = dktX4_has_3 := dk_seg dksX4_has_2 24 rfl rfl
theorem dX4_has_0 : decode cX4_has 0 = .ok (.aload_n 0, 1) := dk_42 (dk_at dksX4_has_0 0 rfl rfl)
theorem dX4_has_1 : decode cX4_has 1 = .ok (.iconst 0, 1) := dk_3 (dk_at dksX4_has_0 1 rfl rfl)
theorem dX4_has_2 : decode cX4_has 2 = .ok (.putfield 1, 3) := dk_181 0 1 (dk_at dksX4_has_0 2 rfl rfl)
theorem dX4_has_5 : decode cX4_has 5 = .ok (.iload_n 1, 1) := dk_27 (dk_at dksX4_has_0 5 rfl rfl)
theorem dX4_has_6 : decode cX4_has 6 = .ok (.invokestatic 327, 3) := dk_184 1 71 (dk_at dksX4_has_0 6 rfl rfl)
theorem dX4_has_9 : decode cX4_has 9 = .ok (.ifCond .eq 21, 3) := dk_153 0 21 (dk_at dksX4_has_0 9 rfl rfl)
theorem dX4_has_12 : decode cX4_has 12 = .ok (.iload_n 2, 1) := dk_28 (dk_at dksX4_has_0 12 rfl rfl)
theorem dX4_has_13 : decode cX4_has 13 = .ok (.ifCond .lt 17, 3) := dk_155 0 17 (dk_at dksX4_has_0 13 rfl rfl)
theorem dX4_has_16 : decode cX4_has 16 = .ok (.iload_n 3, 1) := dk_29 (dk_at dksX4_has_0 16 rfl rfl)
theorem dX4_has_17 : decode cX4_has 17 = .ok (.ifCond .lt 13, 3) := dk_155 0 13 (dk_at dksX4_has_0 17 rfl rfl)
theorem dX4_has_20 : decode cX4_has 20 = .ok (.iload 4, 2) := dk_21 4 (dk_at dksX4_has_0 20 rfl rfl)
theorem dX4_has_22 : decode cX4_has 22 = .ok (.ifCond .lt 8, 3) := dk_155 0 8 (dk_at dksX4_has_1 0 rfl rfl)
theorem dX4_has_25 : decode cX4_has 25 = .ok (.iload 5, 2) := dk_21 5 (dk_at dksX4_has_1 3 rfl rfl)
theorem dX4_has_27 : decode cX4_has 27 = .ok (.ifCond .ge 5, 3) := dk_156 0 5 (dk_at dksX4_has_1 5 rfl rfl)
theorem dX4_has_30 : decode cX4_has 30 = .ok (.iconst (-1), 1) := dk_2 (dk_at dksX4_has_1 8 rfl rfl)
theorem dX4_has_31 : decode cX4_has 31 = .ok (.ireturn, 1) := dk_172 (dk_at dksX4_has_1 9 rfl rfl)
theorem dX4_has_32 : decode cX4_has 32 = .ok (.aload_n 0, 1) := dk_42 (dk_at dksX4_has_1 10 rfl rfl)
theorem dX4_has_33 : decode cX4_has 33 = .ok (.getfield 105, 3) := dk_180 0 105 (dk_at dksX4_has_1 11 rfl rfl)
theorem dX4_has_36 : decode cX4_has 36 = .ok (.iconst 0, 1) := dk_3 (dk_at dksX4_has_1 14 rfl rfl)
theorem dX4_has_37 : decode cX4_has 37 = .ok (.iconst 0, 1) := dk_3 (dk_at dksX4_has_1 15 rfl rfl)
theorem dX4_has_38 : decode cX4_has 38 = .ok (.iastore, 1) := dk_79 (dk_at dksX4_has_1 16 rfl rfl)
theorem dX4_has_39 : decode cX4_has 39 = .ok (.aload_n 0, 1) := dk_42 (dk_at dksX4_has_1 17 rfl rfl)
theorem dX4_has_40 : decode cX4_has 40 = .ok (.getfield 105, 3) := dk_180 0 105 (dk_at dksX4_has_1 18 rfl rfl)
theorem dX4_has_43 : decode cX4_has 43 = .ok (.iconst 1, 1) := dk_4 (dk_at dksX4_has_1 21 rfl rfl)
theorem dX4_has_44 : decode cX4_has 44 = .ok (.iload_n 2, 1) := dk_28 (dk_at dksX4_has_1 22 rfl rfl)
theorem dX4_has_45 : decode cX4_has 45 = .ok (.iastore, 1) := dk_79 (dk_at dksX4_has_1 23 rfl rfl)
theorem dX4_has_46 : decode cX4_has 46 = .ok (.aload_n 0, 1) := dk_42 (dk_at dksX4_has_2 0 rfl rfl)
theorem dX4_has_47 : decode cX4_has 47 = .ok (.getfield 105, 3) := dk_180 0 105 (dk_at dksX4_has_2 1 rfl rfl)
theorem dX4_has_50 : decode cX4_has 50 = .ok (.iconst 2, 1) := dk_5 (dk_at dksX4_has_2 4 rfl rfl)
theorem dX4_has_51 : decode cX4_has 51 = .ok (.iload_n 3, 1) := dk_29 (dk_at dksX4_has_2 5 rfl rfl)
theorem dX4_has_52 : decode cX4_has 52 = .ok (.iastore, 1) := dk_79 (dk_at dksX4_has_2 6 rfl rfl)
theorem dX4_has_53 : decode cX4_has 53 = .ok (.aload_n 0, 1) := dk_42 (dk_at dksX4_has_2 7 rfl rfl)
theorem dX4_has_54 : decode cX4_has 54 = .ok (.getfield 105, 3) := dk_180 0 105 (dk_at dksX4_has_2 8 rfl rfl)
theorem dX4_has_57 : decode cX4_has 57 = .ok (.iconst 3, 1) := dk_6 (dk_at dksX4_has_2 11 rfl rfl)
theorem dX4_has_58 : decode cX4_has 58 = .ok (.iload 4, 2) := dk_21 4 (dk_at dksX4_has_2 12 rfl rfl)
theorem dX4_has_60 : decode cX4_has 60 = .ok (.iastore, 1) := dk_79 (dk_at dksX4_has_2 14 rfl rfl)
theorem dX4_has_61 : decode cX4_has 61 = .ok (.aload_n 0, 1) := dk_42 (dk_at dksX4_has_2 15 rfl rfl)
theorem dX4_has_62 : decode cX4_has 62 = .ok (.getfield 105, 3) := dk_180 0 105 (dk_at dksX4_has_2 16 rfl rfl)
theorem dX4_has_65 : decode cX4_has 65 = .ok (.iconst 4, 1) := dk_7 (dk_at dksX4_has_2 19 rfl rfl)
theorem dX4_has_66 : decode cX4_has 66 = .ok (.iload 5, 2) := dk_21 5 (dk_at dksX4_has_2 20 rfl rfl)
theorem dX4_has_68 : decode cX4_has 68 = .ok (.iastore, 1) := dk_79 (dk_at dksX4_has_2 22 rfl rfl)
theorem dX4_has_69 : decode cX4_has 69 = .ok (.aload_n 0, 1) := dk_42 (dk_at dksX4_has_2 23 rfl rfl)
theorem dX4_has_70 : decode cX4_has 70 = .ok (.iload_n 1, 1) := dk_27 (dk_at dksX4_has_3 0 rfl rfl)
theorem dX4_has_71 : decode cX4_has 71 = .ok (.invokevirtual 340, 3) := dk_182 1 84 (dk_at dksX4_has_3 1 rfl rfl)
theorem dX4_has_74 : decode cX4_has 74 = .ok (.aload_n 0, 1) := dk_42 (dk_at dksX4_has_3 4 rfl rfl)
theorem dX4_has_75 : decode cX4_has 75 = .ok (.iconst 2, 1) := dk_5 (dk_at dksX4_has_3 5 rfl rfl)
theorem dX4_has_76 : decode cX4_has 76 = .ok (.invokevirtual 387, 3) := dk_182 1 131 (dk_at dksX4_has_3 6 rfl rfl)
theorem dX4_has_79 : decode cX4_has 79 = .ok (.ifCond .eq 7, 3) := dk_153 0 7 (dk_at dksX4_has_3 9 rfl rfl)
theorem dX4_has_82 : decode cX4_has 82 = .ok (.iconst 1, 1) := dk_4 (dk_at dksX4_has_3 12 rfl rfl)
theorem dX4_has_83 : decode cX4_has 83 = .ok (.goto 4, 3) := dk_167 0 4 (dk_at dksX4_has_3 13 rfl rfl)
theorem dX4_has_86 : decode cX4_has 86 = .ok (.iconst 0, 1) := dk_3 (dk_at dksX4_has_3 16 rfl rfl)
theorem dX4_has_87 : decode cX4_has 87 = .ok (.ireturn, 1) := dk_172 (dk_at dksX4_has_3 17 rfl rfl)
def dkwX4_hasTimes_4 : List UInt8 := [4, 126, 154, 0, 5, 3, 172, 132, 3, 1, 167, 255, 176, 132, 2, 1, 167, 255, 160, 4, 172]
abbrev dktX4_hasTimes_4 : List UInt8 := dkwX4_hasTimes_4 ++ []
def dkwX4_hasTimes_3 : List UInt8 := [184, 1, 62, 133, 105, 101, 55, 5, 22, 5, 9, 148, 157, 0, 17, 22, 5, 9, 148, 154, 0, 12, 21, 4]
abbrev dktX4_hasTimes_3 : List UInt8 := dkwX4_hasTimes_3 ++ dktX4_hasTimes_4
def dkwX4_hasTimes_2 : List UInt8 := [167, 0, 53, 42, 180, 0, 105, 28, 46, 133, 42, 180, 0, 105, 29, 46, 133, 101, 27, 133, 21, 4]
abbrev dktX4_hasTimes_2 : List UInt8 := dkwX4_hasTimes_2 ++ dktX4_hasTimes_3
def dkwX4_hasTimes_1 : List UInt8 := [180, 1, 24, 162, 0, 78, 42, 28, 29, 182, 1, 16, 54, 4, 21, 4, 19, 1, 15, 161, 0, 6]
abbrev dktX4_hasTimes_1 : List UInt8 := dkwX4_hasTimes_1 ++ dktX4_hasTimes_2
def dkwX4_hasTimes_0 : List UInt8 := [42, 180, 1, 33, 153, 0, 5, 3, 172, 3, 61, 28, 42, 180, 1, 24, 162, 0, 94, 3, 62, 29, 42]
abbrev dktX4_hasTimes_0 : List UInt8 := dkwX4_hasTimes_0 ++ dktX4_hasTimes_1
theorem dksX4_hasTimes_0 : cX4_hasTimes.data.toList.drop 0 = dktX4_hasTimes_0 := by decide +kernel
theorem dksX4_hasTimes_1 : cX4_hasTimes.data.toList.drop 23 = dktX4_hasTimes_1 := dk_seg dksX4_hasTimes_0 23 rfl rfl
theorem dksX4_hasTimes_2 : cX4_hasTimes.data.toList.drop 45 = dktX4_hasTimes_2 := dk_seg dksX4_hasTimes_1 22 rfl rfl
theorem dksX4_hasTimes_3 : cX4_hasTimes.data.toList.drop 67 = dktX4_hasTimes_3 := dk_seg dksX4_hasTimes_2 22 rfl rfl
theorem dksX4_hasTimes_4 : cX4_hasTimes.data.toList.drop 91 = dktX4_hasTimes_4 := dk_seg dksX4_hasTimes_3 24 rfl rfl
theorem dX4_hasTimes_0 : decode cX4_hasTimes 0 = .ok (.aload_n 0, 1) := dk_42 (dk_at dksX4_hasTimes_0 0 rfl rfl)
theorem dX4_hasTimes_1 : decode cX4_hasTimes 1 = .ok (.getfield 289, 3) := dk_180 1 33 (dk_at dksX4_hasTimes_0 1 rfl rfl)
theorem dX4_hasTimes_4 : decode cX4_hasTimes 4 = .ok (.ifCond .eq 5, 3) := dk_153 0 5 (dk_at dksX4_hasTimes_0 4 rfl rfl)
theorem dX4_hasTimes_7 : decode cX4_hasTimes 7 = .ok (.iconst 0, 1) := dk_3 (dk_at dksX4_hasTimes_0 7 rfl rfl)
theorem dX4_hasTimes_8 : decode cX4_hasTimes 8 = .ok (.ireturn, 1) := dk_172 (dk_at dksX4_hasTimes_0 8 rfl rfl)
theorem dX4_hasTimes_9 : decode cX4_hasTimes 9 = .ok (.iconst 0, 1) := dk_3 (dk_at dksX4_hasTimes_0 9 rfl rfl)
theorem dX4_hasTimes_10 : decode cX4_hasTimes 10 = .ok (.istore_n 2, 1) := dk_61 (dk_at dksX4_hasTimes_0 10 rfl rfl)
theorem dX4_hasTimes_11 : decode cX4_hasTimes 11 = .ok (.iload_n 2, 1) := dk_28 (dk_at dksX4_hasTimes_0 11 rfl rfl)
theorem dX4_hasTimes_12 : decode cX4_hasTimes 12 = .ok (.aload_n 0, 1) := dk_42 (dk_at dksX4_hasTimes_0 12 rfl rfl)
theorem dX4_hasTimes_13 : decode cX4_hasTimes 13 = .ok (.getfield 280, 3) := dk_180 1 24 (dk_at dksX4_hasTimes_0 13 rfl rfl)
theorem dX4_hasTimes_16 : decode cX4_hasTimes 16 = .ok (.if_icmp .ge 94, 3) := dk_162 0 94 (dk_at dksX4_hasTimes_0 16 rfl rfl)
theorem dX4_hasTimes_19 : decode cX4_hasTimes 19 = .ok (.iconst 0, 1) := dk_3 (dk_at dksX4_hasTimes_0 19 rfl rfl)
theorem dX4_hasTimes_20 : decode cX4_hasTimes 20 = .ok (.istore_n 3, 1) := dk_62 (dk_at dksX4_hasTimes_0 20 rfl rfl)
theorem dX4_hasTimes_21 : decode cX4_hasTimes 21 = .ok (.iload_n 3, 1) := dk_29 (dk_at dksX4_hasTimes_0 21 rfl rfl)
theorem dX4_hasTimes_22 : decode cX4_hasTimes 22 = .ok (.aload_n 0, 1) := dk_42 (dk_at dksX4_hasTimes_0 22 rfl rfl)
theorem dX4_hasTimes_23 : decode cX4_hasTimes 23 = .ok (.getfield 280, 3) := dk_180 1 24 (dk_at dksX4_hasTimes_1 0 rfl rfl)
theorem dX4_hasTimes_26 : decode cX4_hasTimes 26 = .ok (.if_icmp .ge 78, 3) := dk_162 0 78 (dk_at dksX4_hasTimes_1 3 rfl rfl)
theorem dX4_hasTimes_29 : decode cX4_hasTimes 29 = .ok (.aload_n 0, 1) := dk_42 (dk_at dksX4_hasTimes_1 6 rfl rfl)
theorem dX4_hasTimes_30 : decode cX4_hasTimes 30 = .ok (.iload_n 2, 1) := dk_28 (dk_at dksX4_hasTimes_1 7 rfl rfl)
theorem dX4_hasTimes_31 : decode cX4_hasTimes 31 = .ok (.iload_n 3, 1) := dk_29 (dk_at dksX4_hasTimes_1 8 rfl rfl)
theorem dX4_hasTimes_32 : decode cX4_hasTimes 32 = .ok (.invokevirtual 272, 3) := dk_182 1 16 (dk_at dksX4_hasTimes_1 9 rfl rfl)
theorem dX4_hasTimes_35 : decode cX4_hasTimes 35 = .ok (.istore 4, 2) := dk_54 4 (dk_at dksX4_hasTimes_1 12 rfl rfl)
theorem dX4_hasTimes_37 : decode cX4_hasTimes 37 = .ok (.iload 4, 2) := dk_21 4 (dk_at dksX4_hasTimes_1 14 rfl rfl)
theorem dX4_hasTimes_39 : decode cX4_hasTimes 39 = .ok (.ldc_w 271, 3) := dk_19 1 15 (dk_at dksX4_hasTimes_1 16 rfl rfl)
theorem dX4_hasTimes_42 : decode cX4_hasTimes 42 = .ok (.if_icmp .lt 6, 3) := dk_161 0 6 (dk_at dksX4_hasTimes_1 19 rfl rfl)
theorem dX4_hasTimes_45 : decode cX4_hasTimes 45 = .ok (.goto 53, 3) := dk_167 0 53 (dk_at dksX4_hasTimes_2 0 rfl rfl)
theorem dX4_hasTimes_48 : decode cX4_hasTimes 48 = .ok (.aload_n 0, 1) := dk_42 (dk_at dksX4_hasTimes_2 3 rfl rfl)
theorem dX4_hasTimes_49 : decode cX4_hasTimes 49 = .ok (.getfield 105, 3) := dk_180 0 105 (dk_at dksX4_hasTimes_2 4 rfl rfl)
theorem dX4_hasTimes_52 : decode cX4_hasTimes 52 = .ok (.iload_n 2, 1) := dk_28 (dk_at dksX4_hasTimes_2 7 rfl rfl)
theorem dX4_hasTimes_53 : decode cX4_hasTimes 53 = .ok (.iaload, 1) := dk_46 (dk_at dksX4_hasTimes_2 8 rfl rfl)
theorem dX4_hasTimes_54 : decode cX4_hasTimes 54 = .ok (.i2l, 1) := dk_133 (dk_at dksX4_hasTimes_2 9 rfl rfl)
theorem dX4_hasTimes_55 : decode cX4_hasTimes 55 = .ok (.aload_n 0, 1) := dk_42 (dk_at dksX4_hasTimes_2 10 rfl rfl)
theorem dX4_hasTimes_56 : decode cX4_hasTimes 56 = .ok (.getfield 105, 3) := dk_180 0 105 (dk_at dksX4_hasTimes_2 11 rfl rfl)
theorem dX4_hasTimes_59 : decode cX4_hasTimes 59 = .ok (.iload_n 3, 1) := dk_29 (dk_at dksX4_hasTimes_2 14 rfl rfl)
theorem dX4_hasTimes_60 : decode cX4_hasTimes 60 = .ok (.iaload, 1) := dk_46 (dk_at dksX4_hasTimes_2 15 rfl rfl)
theorem dX4_hasTimes_61 : decode cX4_hasTimes 61 = .ok (.i2l, 1) := dk_133 (dk_at dksX4_hasTimes_2 16 rfl rfl)
theorem dX4_hasTimes_62 : decode cX4_hasTimes 62 = .ok (.lsub, 1) := dk_101 (dk_at dksX4_hasTimes_2 17 rfl rfl)
theorem dX4_hasTimes_63 : decode cX4_hasTimes 63 = .ok (.iload_n 1, 1) := dk_27 (dk_at dksX4_hasTimes_2 18 rfl rfl)
theorem dX4_hasTimes_64 : decode cX4_hasTimes 64 = .ok (.i2l, 1) := dk_133 (dk_at dksX4_hasTimes_2 19 rfl rfl)
theorem dX4_hasTimes_65 : decode cX4_hasTimes 65 = .ok (.iload 4, 2) := dk_21 4 (dk_at dksX4_hasTimes_2 20 rfl rfl)
theorem dX4_hasTimes_67 : decode cX4_hasTimes 67 = .ok (.invokestatic 318, 3) := dk_184 1 62 (dk_at dksX4_hasTimes_3 0 rfl rfl)
theorem dX4_hasTimes_70 : decode cX4_hasTimes 70 = .ok (.i2l, 1) := dk_133 (dk_at dksX4_hasTimes_3 3 rfl rfl)
theorem dX4_hasTimes_71 : decode cX4_hasTimes 71 = .ok (.lmul, 1) := dk_105 (dk_at dksX4_hasTimes_3 4 rfl rfl)
theorem dX4_hasTimes_72 : decode cX4_hasTimes 72 = .ok (.lsub, 1) := dk_101 (dk_at dksX4_hasTimes_3 5 rfl rfl)
theorem dX4_hasTimes_73 : decode cX4_hasTimes 73 = .ok (.lstore 5, 2) := dk_55 5 (dk_at dksX4_hasTimes_3 6 rfl rfl)
theorem dX4_hasTimes_75 : decode cX4_hasTimes 75 = .ok (.lload 5, 2) := dk_22 5 (dk_at dksX4_hasTimes_3 8 rfl rfl)
theorem dX4_hasTimes_77 : decode cX4_hasTimes 77 = .ok (.lconst 0, 1) := dk_9 (dk_at dksX4_hasTimes_3 10 rfl rfl)
theorem dX4_hasTimes_78 : decode cX4_hasTimes 78 = .ok (.lcmp, 1) := dk_148 (dk_at dksX4_hasTimes_3 11 rfl rfl)
theorem dX4_hasTimes_79 : decode cX4_hasTimes 79 = .ok (.ifCond .gt 17, 3) := dk_157 0 17 (dk_at dksX4_hasTimes_3 12 rfl rfl)
theorem dX4_hasTimes_82 : decode cX4_hasTimes 82 = .ok (.lload 5, 2) := dk_22 5 (dk_at dksX4_hasTimes_3 15 rfl rfl)
theorem dX4_hasTimes_84 : decode cX4_hasTimes 84 = .ok (.lconst 0, 1) := dk_9 (dk_at dksX4_hasTimes_3 17 rfl rfl)
theorem dX4_hasTimes_85 : decode cX4_hasTimes 85 = .ok (.lcmp, 1) := dk_148 (dk_at dksX4_hasTimes_3 18 rfl rfl)
theorem dX4_hasTimes_86 : decode cX4_hasTimes 86 = .ok (.ifCond .ne 12, 3) := dk_154 0 12 (dk_at dksX4_hasTimes_3 19 rfl rfl)
theorem dX4_hasTimes_89 : decode cX4_hasTimes 89 = .ok (.iload 4, 2) := dk_21 4 (dk_at dksX4_hasTimes_3 22 rfl rfl)
theorem dX4_hasTimes_91 : decode cX4_hasTimes 91 = .ok (.iconst 1, 1) := dk_4 (dk_at dksX4_hasTimes_4 0 rfl rfl)
theorem dX4_hasTimes_92 : decode cX4_hasTimes 92 = .ok (.iand, 1) := dk_126 (dk_at dksX4_hasTimes_4 1 rfl rfl)
theorem dX4_hasTimes_93 : decode cX4_hasTimes 93 = .ok (.ifCond .ne 5, 3) := dk_154 0 5 (dk_at dksX4_hasTimes_4 2 rfl rfl)
theorem dX4_hasTimes_96 : decode cX4_hasTimes 96 = .ok (.iconst 0, 1) := dk_3 (dk_at dksX4_hasTimes_4 5 rfl rfl)
theorem dX4_hasTimes_97 : decode cX4_hasTimes 97 = .ok (.ireturn, 1) := dk_172 (dk_at dksX4_hasTimes_4 6 rfl rfl)
theorem dX4_hasTimes_98 : decode cX4_hasTimes 98 = .ok (.iinc 3 1, 3) := dk_132 3 1 (dk_at dksX4_hasTimes_4 7 rfl rfl)
theorem dX4_hasTimes_101 : decode cX4_hasTimes 101 = .ok (.goto (-80), 3) := dk_167 255 176 (dk_at dksX4_hasTimes_4 10 rfl rfl)
theorem dX4_hasTimes_104 : decode cX4_hasTimes 104 = .ok (.iinc 2 1, 3) := dk_132 2 1 (dk_at dksX4_hasTimes_4 13 rfl rfl)
theorem dX4_hasTimes_107 : decode cX4_hasTimes 107 = .ok (.goto (-96), 3) := dk_167 255 160 (dk_at dksX4_hasTimes_4 16 rfl rfl)
theorem dX4_hasTimes_110 : decode cX4_hasTimes 110 = .ok (.iconst 1, 1) := dk_4 (dk_at dksX4_hasTimes_4 19 rfl rfl)
theorem dX4_hasTimes_111 : decode cX4_hasTimes 111 = .ok (.ireturn, 1) := dk_172 (dk_at dksX4_hasTimes_4 20 rfl rfl)
def dkwX4_pairs_6 : List UInt8 := [167, 255, 175, 132, 4, 1, 167, 255, 157, 29, 172]
abbrev dktX4_pairs_6 : List UInt8 := dkwX4_pairs_6 ++ []
def dkwX4_pairs_5 : List UInt8 := [167, 0, 14, 42, 21, 4, 21, 5, 182, 1, 134, 154, 0, 7, 4, 167, 0, 4, 3, 96, 62, 132, 5, 1]
abbrev dktX4_pairs_5 : List UInt8 := dkwX4_pairs_5 ++ dktX4_pairs_6
def dkwX4_pairs_4 : List UInt8 := [153, 0, 36, 28, 4, 160, 0, 20, 42, 21, 4, 21, 5, 182, 1, 16, 4, 126, 4, 160, 0, 21]
abbrev dktX4_pairs_4 : List UInt8 := dkwX4_pairs_4 ++ dktX4_pairs_5
def dkwX4_pairs_3 : List UInt8 := [159, 0, 65, 42, 21, 4, 21, 5, 182, 1, 16, 19, 1, 15, 161, 0, 6, 167, 0, 48, 29, 28]
abbrev dktX4_pairs_3 : List UInt8 := dkwX4_pairs_3 ++ dktX4_pairs_4
def dkwX4_pairs_2 : List UInt8 := [180, 1, 24, 162, 0, 96, 3, 54, 5, 21, 5, 42, 180, 1, 24, 162, 0, 78, 21, 4, 21, 5]
abbrev dktX4_pairs_2 : List UInt8 := dkwX4_pairs_2 ++ dktX4_pairs_3
def dkwX4_pairs_1 : List UInt8 := [27, 182, 1, 84, 42, 180, 1, 33, 153, 0, 6, 16, 254, 172, 3, 62, 3, 54, 4, 21, 4, 42]
abbrev dktX4_pairs_1 : List UInt8 := dkwX4_pairs_1 ++ dktX4_pairs_2
def dkwX4_pairs_0 : List UInt8 := [42, 3, 181, 0, 1, 27, 184, 1, 71, 153, 0, 12, 28, 3, 5, 184, 0, 158, 154, 0, 5, 2, 172, 42]
abbrev dktX4_pairs_0 : List UInt8 := dkwX4_pairs_0 ++ dktX4_pairs_1
theorem dksX4_pairs_0 : cX4_pairs.data.toList.drop 0 = dktX4_pairs_0 := by decide +kernel
theorem dksX4_pairs_1 : cX4_pairs.data.toList.drop 24 = dktX4_pairs_1 := dk_seg dksX4_pairs_0 24 rfl rfl
theorem dksX4_pairs_2 : cX4_pairs.data.toList.drop 46 = dktX4_pairs_2 := dk_seg dksX4_pairs_1 22 rfl rfl
theorem dksX4_pairs_3 : cX4_pairs.data.toList.drop 68 = dktX4_pairs_3 := dk_seg dksX4_pairs_2 22 rfl rfl
theorem dksX4_pairs_4 : cX4_pairs.data.toList.drop 90 = dktX4_pairs_4 := dk_seg dksX4_pairs_3 22 rfl rfl
theorem dksX4_pairs_5 : cX4_pairs.data.toList.drop 112 = dktX4_pairs_5 := dk_seg dksX4_pairs_4 22 rfl rfl
theorem dksX4_pairs_6 : cX4_pairs.data.toList.drop 136 = dktX4_pairs_6 := dk_seg dksX4_pairs_5 24 rfl rfl
theorem dX4_pairs_0 : decode cX4_pairs 0 = .ok (.aload_n 0, 1) := dk_42 (dk_at dksX4_pairs_0 0 rfl rfl)
theorem dX4_pairs_1 : decode cX4_pairs 1 = .ok (.iconst 0, 1) := dk_3 (dk_at dksX4_pairs_0 1 rfl rfl)
theorem dX4_pairs_2 : decode cX4_pairs 2 = .ok (.putfield 1, 3) := dk_181 0 1 (dk_at dksX4_pairs_0 2 rfl rfl)
theorem dX4_pairs_5 : decode cX4_pairs 5 = .ok (.iload_n 1, 1) := dk_27 (dk_at dksX4_pairs_0 5 rfl rfl)
theorem dX4_pairs_6 : decode cX4_pairs 6 = .ok (.invokestatic 327, 3) := dk_184 1 71 (dk_at dksX4_pairs_0 6 rfl rfl)
theorem dX4_pairs_9 : decode cX4_pairs 9 = .ok (.ifCond .eq 12, 3) := dk_153 0 12 (dk_at dksX4_pairs_0 9 rfl rfl)
theorem dX4_pairs_12 : decode cX4_pairs 12 = .ok (.iload_n 2, 1) := dk_28 (dk_at dksX4_pairs_0 12 rfl rfl)
theorem dX4_pairs_13 : decode cX4_pairs 13 = .ok (.iconst 0, 1) := dk_3 (dk_at dksX4_pairs_0 13 rfl rfl)
theorem dX4_pairs_14 : decode cX4_pairs 14 = .ok (.iconst 2, 1) := dk_5 (dk_at dksX4_pairs_0 14 rfl rfl)
theorem dX4_pairs_15 : decode cX4_pairs 15 = .ok (.invokestatic 158, 3) := dk_184 0 158 (dk_at dksX4_pairs_0 15 rfl rfl)
theorem dX4_pairs_18 : decode cX4_pairs 18 = .ok (.ifCond .ne 5, 3) := dk_154 0 5 (dk_at dksX4_pairs_0 18 rfl rfl)
theorem dX4_pairs_21 : decode cX4_pairs 21 = .ok (.iconst (-1), 1) := dk_2 (dk_at dksX4_pairs_0 21 rfl rfl)
theorem dX4_pairs_22 : decode cX4_pairs 22 = .ok (.ireturn, 1) := dk_172 (dk_at dksX4_pairs_0 22 rfl rfl)
theorem dX4_pairs_23 : decode cX4_pairs 23 = .ok (.aload_n 0, 1) := dk_42 (dk_at dksX4_pairs_0 23 rfl rfl)
theorem dX4_pairs_24 : decode cX4_pairs 24 = .ok (.iload_n 1, 1) := dk_27 (dk_at dksX4_pairs_1 0 rfl rfl)
theorem dX4_pairs_25 : decode cX4_pairs 25 = .ok (.invokevirtual 340, 3) := dk_182 1 84 (dk_at dksX4_pairs_1 1 rfl rfl)
theorem dX4_pairs_28 : decode cX4_pairs 28 = .ok (.aload_n 0, 1) := dk_42 (dk_at dksX4_pairs_1 4 rfl rfl)
theorem dX4_pairs_29 : decode cX4_pairs 29 = .ok (.getfield 289, 3) := dk_180 1 33 (dk_at dksX4_pairs_1 5 rfl rfl)
theorem dX4_pairs_32 : decode cX4_pairs 32 = .ok (.ifCond .eq 6, 3) := dk_153 0 6 (dk_at dksX4_pairs_1 8 rfl rfl)
theorem dX4_pairs_35 : decode cX4_pairs 35 = .ok (.bipush (-2), 2) := dk_16 254 (dk_at dksX4_pairs_1 11 rfl rfl)
theorem dX4_pairs_37 : decode cX4_pairs 37 = .ok (.ireturn, 1) := dk_172 (dk_at dksX4_pairs_1 13 rfl rfl)
theorem dX4_pairs_38 : decode cX4_pairs 38 = .ok (.iconst 0, 1) := dk_3 (dk_at dksX4_pairs_1 14 rfl rfl)
theorem dX4_pairs_39 : decode cX4_pairs 39 = .ok (.istore_n 3, 1) := dk_62 (dk_at dksX4_pairs_1 15 rfl rfl)
theorem dX4_pairs_40 : decode cX4_pairs 40 = .ok (.iconst 0, 1) := dk_3 (dk_at dksX4_pairs_1 16 rfl rfl)
theorem dX4_pairs_41 : decode cX4_pairs 41 = .ok (.istore 4, 2) := dk_54 4 (dk_at dksX4_pairs_1 17 rfl rfl)
theorem dX4_pairs_43 : decode cX4_pairs 43 = .ok (.iload 4, 2) := dk_21 4 (dk_at dksX4_pairs_1 19 rfl rfl)
theorem dX4_pairs_45 : decode cX4_pairs 45 = .ok (.aload_n 0, 1) := dk_42 (dk_at dksX4_pairs_1 21 rfl rfl)
theorem dX4_pairs_46 : decode cX4_pairs 46 = .ok (.getfield 280, 3) := dk_180 1 24 (dk_at dksX4_pairs_2 0 rfl rfl)
theorem dX4_pairs_49 : decode cX4_pairs 49 = .ok (.if_icmp .ge 96, 3) := dk_162 0 96 (dk_at dksX4_pairs_2 3 rfl rfl)
theorem dX4_pairs_52 : decode cX4_pairs 52 = .ok (.iconst 0, 1) := dk_3 (dk_at dksX4_pairs_2 6 rfl rfl)
theorem dX4_pairs_53 : decode cX4_pairs 53 = .ok (.istore 5, 2) := dk_54 5 (dk_at dksX4_pairs_2 7 rfl rfl)
theorem dX4_pairs_55 : decode cX4_pairs 55 = .ok (.iload 5, 2) := dk_21 5 (dk_at dksX4_pairs_2 9 rfl rfl)
theorem dX4_pairs_57 : decode cX4_pairs 57 = .ok (.aload_n 0, 1) := dk_42 (dk_at dksX4_pairs_2 11 rfl rfl)
theorem dX4_pairs_58 : decode cX4_pairs 58 = .ok (.getfield 280, 3) := dk_180 1 24 (dk_at dksX4_pairs_2 12 rfl rfl)
theorem dX4_pairs_61 : decode cX4_pairs 61 = .ok (.if_icmp .ge 78, 3) := dk_162 0 78 (dk_at dksX4_pairs_2 15 rfl rfl)
theorem dX4_pairs_64 : decode cX4_pairs 64 = .ok (.iload 4, 2) := dk_21 4 (dk_at dksX4_pairs_2 18 rfl rfl)
theorem dX4_pairs_66 : decode cX4_pairs 66 = .ok (.iload 5, 2) := dk_21 5 (dk_at dksX4_pairs_2 20 rfl rfl)
theorem dX4_pairs_68 : decode cX4_pairs 68 = .ok (.if_icmp .eq 65, 3) := dk_159 0 65 (dk_at dksX4_pairs_3 0 rfl rfl)
theorem dX4_pairs_71 : decode cX4_pairs 71 = .ok (.aload_n 0, 1) := dk_42 (dk_at dksX4_pairs_3 3 rfl rfl)
theorem dX4_pairs_72 : decode cX4_pairs 72 = .ok (.iload 4, 2) := dk_21 4 (dk_at dksX4_pairs_3 4 rfl rfl)
theorem dX4_pairs_74 : decode cX4_pairs 74 = .ok (.iload 5, 2) := dk_21 5 (dk_at dksX4_pairs_3 6 rfl rfl)
theorem dX4_pairs_76 : decode cX4_pairs 76 = .ok (.invokevirtual 272, 3) := dk_182 1 16 (dk_at dksX4_pairs_3 8 rfl rfl)
theorem dX4_pairs_79 : decode cX4_pairs 79 = .ok (.ldc_w 271, 3) := dk_19 1 15 (dk_at dksX4_pairs_3 11 rfl rfl)
theorem dX4_pairs_82 : decode cX4_pairs 82 = .ok (.if_icmp .lt 6, 3) := dk_161 0 6 (dk_at dksX4_pairs_3 14 rfl rfl)
theorem dX4_pairs_85 : decode cX4_pairs 85 = .ok (.goto 48, 3) := dk_167 0 48 (dk_at dksX4_pairs_3 17 rfl rfl)
theorem dX4_pairs_88 : decode cX4_pairs 88 = .ok (.iload_n 3, 1) := dk_29 (dk_at dksX4_pairs_3 20 rfl rfl)
theorem dX4_pairs_89 : decode cX4_pairs 89 = .ok (.iload_n 2, 1) := dk_28 (dk_at dksX4_pairs_3 21 rfl rfl)
theorem dX4_pairs_90 : decode cX4_pairs 90 = .ok (.ifCond .eq 36, 3) := dk_153 0 36 (dk_at dksX4_pairs_4 0 rfl rfl)
theorem dX4_pairs_93 : decode cX4_pairs 93 = .ok (.iload_n 2, 1) := dk_28 (dk_at dksX4_pairs_4 3 rfl rfl)
theorem dX4_pairs_94 : decode cX4_pairs 94 = .ok (.iconst 1, 1) := dk_4 (dk_at dksX4_pairs_4 4 rfl rfl)
theorem dX4_pairs_95 : decode cX4_pairs 95 = .ok (.if_icmp .ne 20, 3) := dk_160 0 20 (dk_at dksX4_pairs_4 5 rfl rfl)
theorem dX4_pairs_98 : decode cX4_pairs 98 = .ok (.aload_n 0, 1) := dk_42 (dk_at dksX4_pairs_4 8 rfl rfl)
theorem dX4_pairs_99 : decode cX4_pairs 99 = .ok (.iload 4, 2) := dk_21 4 (dk_at dksX4_pairs_4 9 rfl rfl)
theorem dX4_pairs_101 : decode cX4_pairs 101 = .ok (.iload 5, 2) := dk_21 5 (dk_at dksX4_pairs_4 11 rfl rfl)
theorem dX4_pairs_103 : decode cX4_pairs 103 = .ok (.invokevirtual 272, 3) := dk_182 1 16 (dk_at dksX4_pairs_4 13 rfl rfl)
theorem dX4_pairs_106 : decode cX4_pairs 106 = .ok (.iconst 1, 1) := dk_4 (dk_at dksX4_pairs_4 16 rfl rfl)
theorem dX4_pairs_107 : decode cX4_pairs 107 = .ok (.iand, 1) := dk_126 (dk_at dksX4_pairs_4 17 rfl rfl)
theorem dX4_pairs_108 : decode cX4_pairs 108 = .ok (.iconst 1, 1) := dk_4 (dk_at dksX4_pairs_4 18 rfl rfl)
theorem dX4_pairs_109 : decode cX4_pairs 109 = .ok (.if_icmp .ne 21, 3) := dk_160 0 21 (dk_at dksX4_pairs_4 19 rfl rfl)
theorem dX4_pairs_112 : decode cX4_pairs 112 = .ok (.goto 14, 3) := dk_167 0 14 (dk_at dksX4_pairs_5 0 rfl rfl)
theorem dX4_pairs_115 : decode cX4_pairs 115 = .ok (.aload_n 0, 1) := dk_42 (dk_at dksX4_pairs_5 3 rfl rfl)
theorem dX4_pairs_116 : decode cX4_pairs 116 = .ok (.iload 4, 2) := dk_21 4 (dk_at dksX4_pairs_5 4 rfl rfl)
theorem dX4_pairs_118 : decode cX4_pairs 118 = .ok (.iload 5, 2) := dk_21 5 (dk_at dksX4_pairs_5 6 rfl rfl)
theorem dX4_pairs_120 : decode cX4_pairs 120 = .ok (.invokevirtual 390, 3) := dk_182 1 134 (dk_at dksX4_pairs_5 8 rfl rfl)
theorem dX4_pairs_123 : decode cX4_pairs 123 = .ok (.ifCond .ne 7, 3) := dk_154 0 7 (dk_at dksX4_pairs_5 11 rfl rfl)
theorem dX4_pairs_126 : decode cX4_pairs 126 = .ok (.iconst 1, 1) := dk_4 (dk_at dksX4_pairs_5 14 rfl rfl)
theorem dX4_pairs_127 : decode cX4_pairs 127 = .ok (.goto 4, 3) := dk_167 0 4 (dk_at dksX4_pairs_5 15 rfl rfl)
theorem dX4_pairs_130 : decode cX4_pairs 130 = .ok (.iconst 0, 1) := dk_3 (dk_at dksX4_pairs_5 18 rfl rfl)
theorem dX4_pairs_131 : decode cX4_pairs 131 = .ok (.iadd, 1) := dk_96 (dk_at dksX4_pairs_5 19 rfl rfl)
theorem dX4_pairs_132 : decode cX4_pairs 132 = .ok (.istore_n 3, 1) := dk_62 (dk_at dksX4_pairs_5 20 rfl rfl)
theorem dX4_pairs_133 : decode cX4_pairs 133 = .ok (.iinc 5 1, 3) := dk_132 5 1 (dk_at dksX4_pairs_5 21 rfl rfl)
theorem dX4_pairs_136 : decode cX4_pairs 136 = .ok (.goto (-81), 3) := dk_167 255 175 (dk_at dksX4_pairs_6 0 rfl rfl)
theorem dX4_pairs_139 : decode cX4_pairs 139 = .ok (.iinc 4 1, 3) := dk_132 4 1 (dk_at dksX4_pairs_6 3 rfl rfl)
theorem dX4_pairs_142 : decode cX4_pairs 142 = .ok (.goto (-99), 3) := dk_167 255 157 (dk_at dksX4_pairs_6 6 rfl rfl)
theorem dX4_pairs_145 : decode cX4_pairs 145 = .ok (.iload_n 3, 1) := dk_29 (dk_at dksX4_pairs_6 9 rfl rfl)
theorem dX4_pairs_146 : decode cX4_pairs 146 = .ok (.ireturn, 1) := dk_172 (dk_at dksX4_pairs_6 10 rfl rfl)
def dkwX4_follows_2 : List UInt8 := [132, 3, 1, 167, 255, 209, 3, 172]
abbrev dktX4_follows_2 : List UInt8 := dkwX4_follows_2 ++ []
def dkwX4_follows_1 : List UInt8 := [182, 1, 16, 42, 29, 28, 182, 1, 16, 184, 1, 27, 42, 27, 28, 182, 1, 16, 163, 0, 5, 4, 172]
abbrev dktX4_follows_1 : List UInt8 := dkwX4_follows_1 ++ dktX4_follows_2
def dkwX4_follows_0 : List UInt8 := [3, 62, 29, 42, 180, 1, 24, 162, 0, 45, 29, 27, 159, 0, 34, 29, 28, 159, 0, 29, 42, 27, 29]
abbrev dktX4_follows_0 : List UInt8 := dkwX4_follows_0 ++ dktX4_follows_1
theorem dksX4_follows_0 : cX4_follows.data.toList.drop 0 = dktX4_follows_0 := by decide +kernel
theorem dksX4_follows_1 : cX4_follows.data.toList.drop 23 = dktX4_follows_1 := dk_seg dksX4_follows_0 23 rfl rfl
theorem dksX4_follows_2 : cX4_follows.data.toList.drop 46 = dktX4_follows_2 := dk_seg dksX4_follows_1 23 rfl rfl
theorem dX4_follows_0 : decode cX4_follows 0 = .ok (.iconst 0, 1) := dk_3 (dk_at dksX4_follows_0 0 rfl rfl)
theorem dX4_follows_1 : decode cX4_follows 1 = .ok (.istore_n 3, 1) := dk_62 (dk_at dksX4_follows_0 1 rfl rfl)
theorem dX4_follows_2 : decode cX4_follows 2 = .ok (.iload_n 3, 1) := dk_29 (dk_at dksX4_follows_0 2 rfl rfl)
theorem dX4_follows_3 : decode cX4_follows 3 = .ok (.aload_n 0, 1) := dk_42 (dk_at dksX4_follows_0 3 rfl rfl)
theorem dX4_follows_4 : decode cX4_follows 4 = .ok (.getfield 280, 3) := dk_180 1 24 (dk_at dksX4_follows_0 4 rfl rfl)
theorem dX4_follows_7 : decode cX4_follows 7 = .ok (.if_icmp .ge 45, 3) := dk_162 0 45 (dk_at dksX4_follows_0 7 rfl rfl)
theorem dX4_follows_10 : decode cX4_follows 10 = .ok (.iload_n 3, 1) := dk_29 (dk_at dksX4_follows_0 10 rfl rfl)
theorem dX4_follows_11 : decode cX4_follows 11 = .ok (.iload_n 1, 1) := dk_27 (dk_at dksX4_follows_0 11 rfl rfl)
theorem dX4_follows_12 : decode cX4_follows 12 = .ok (.if_icmp .eq 34, 3) := dk_159 0 34 (dk_at dksX4_follows_0 12 rfl rfl)
theorem dX4_follows_15 : decode cX4_follows 15 = .ok (.iload_n 3, 1) := dk_29 (dk_at dksX4_follows_0 15 rfl rfl)
theorem dX4_follows_16 : decode cX4_follows 16 = .ok (.iload_n 2, 1) := dk_28 (dk_at dksX4_follows_0 16 rfl rfl)
theorem dX4_follows_17 : decode cX4_follows 17 = .ok (.if_icmp .eq 29, 3) := dk_159 0 29 (dk_at dksX4_follows_0 17 rfl rfl)
theorem dX4_follows_20 : decode cX4_follows 20 = .ok (.aload_n 0, 1) := dk_42 (dk_at dksX4_follows_0 20 rfl rfl)
theorem dX4_follows_21 : decode cX4_follows 21 = .ok (.iload_n 1, 1) := dk_27 (dk_at dksX4_follows_0 21 rfl rfl)
theorem dX4_follows_22 : decode cX4_follows 22 = .ok (.iload_n 3, 1) := dk_29 (dk_at dksX4_follows_0 22 rfl rfl)
theorem dX4_follows_23 : decode cX4_follows 23 = .ok (.invokevirtual 272, 3) := dk_182 1 16 (dk_at dksX4_follows_1 0 rfl rfl)
theorem dX4_follows_26 : decode cX4_follows 26 = .ok (.aload_n 0, 1) := dk_42 (dk_at dksX4_follows_1 3 rfl rfl)
theorem dX4_follows_27 : decode cX4_follows 27 = .ok (.iload_n 3, 1) := dk_29 (dk_at dksX4_follows_1 4 rfl rfl)
theorem dX4_follows_28 : decode cX4_follows 28 = .ok (.iload_n 2, 1) := dk_28 (dk_at dksX4_follows_1 5 rfl rfl)
theorem dX4_follows_29 : decode cX4_follows 29 = .ok (.invokevirtual 272, 3) := dk_182 1 16 (dk_at dksX4_follows_1 6 rfl rfl)
theorem dX4_follows_32 : decode cX4_follows 32 = .ok (.invokestatic 283, 3) := dk_184 1 27 (dk_at dksX4_follows_1 9 rfl rfl)
theorem dX4_follows_35 : decode cX4_follows 35 = .ok (.aload_n 0, 1) := dk_42 (dk_at dksX4_follows_1 12 rfl rfl)
theorem dX4_follows_36 : decode cX4_follows 36 = .ok (.iload_n 1, 1) := dk_27 (dk_at dksX4_follows_1 13 rfl rfl)
theorem dX4_follows_37 : decode cX4_follows 37 = .ok (.iload_n 2, 1) := dk_28 (dk_at dksX4_follows_1 14 rfl rfl)
theorem dX4_follows_38 : decode cX4_follows 38 = .ok (.invokevirtual 272, 3) := dk_182 1 16 (dk_at dksX4_follows_1 15 rfl rfl)
theorem dX4_follows_41 : decode cX4_follows 41 = .ok (.if_icmp .gt 5, 3) := dk_163 0 5 (dk_at dksX4_follows_1 18 rfl rfl)
theorem dX4_follows_44 : decode cX4_follows 44 = .ok (.iconst 1, 1) := dk_4 (dk_at dksX4_follows_1 21 rfl rfl)
theorem dX4_follows_45 : decode cX4_follows 45 = .ok (.ireturn, 1) := dk_172 (dk_at dksX4_follows_1 22 rfl rfl)
theorem dX4_follows_46 : decode cX4_follows 46 = .ok (.iinc 3 1, 3) := dk_132 3 1 (dk_at dksX4_follows_2 0 rfl rfl)
theorem dX4_follows_49 : decode cX4_follows 49 = .ok (.goto (-47), 3) := dk_167 255 209 (dk_at dksX4_follows_2 3 rfl rfl)
theorem dX4_follows_52 : decode cX4_follows 52 = .ok (.iconst 0, 1) := dk_3 (dk_at dksX4_follows_2 6 rfl rfl)
theorem dX4_follows_53 : decode cX4_follows 53 = .ok (.ireturn, 1) := dk_172 (dk_at dksX4_follows_2 7 rfl rfl)
def dkwX4_single_3 : List UInt8 := [3, 128, 61, 132, 3, 1, 167, 255, 212, 28, 172]
abbrev dktX4_single_3 : List UInt8 := dkwX4_single_3 ++ []
def dkwX4_single_2 : List UInt8 := [182, 1, 16, 42, 3, 29, 4, 96, 182, 1, 16, 184, 1, 27, 4, 160, 0, 9, 4, 29, 120, 167, 0, 4]
abbrev dktX4_single_2 : List UInt8 := dkwX4_single_2 ++ dktX4_single_3
def dkwX4_single_1 : List UInt8 := [153, 0, 6, 16, 254, 172, 3, 61, 3, 62, 29, 42, 180, 0, 242, 162, 0, 42, 28, 42, 29, 4, 96, 3]
abbrev dktX4_single_1 : List UInt8 := dkwX4_single_1 ++ dktX4_single_2
def dkwX4_single_0 : List UInt8 := [42, 3, 181, 0, 1, 27, 184, 1, 71, 154, 0, 5, 2, 172, 42, 27, 182, 1, 84, 42, 180, 1, 33]
abbrev dktX4_single_0 : List UInt8 := dkwX4_single_0 ++ dktX4_single_1
theorem dksX4_single_0 : cX4_single.data.toList.drop 0 = dktX4_single_0 := by decide +kernel
theorem dksX4_single_1 : cX4_single.data.toList.drop 23 = dktX4_single_1 := dk_seg dksX4_single_0 23 rfl rfl
theorem dksX4_single_2 : cX4_single.data.toList.drop 47 = dktX4_single_2 := dk_seg dksX4_single_1 24 rfl rfl
theorem dksX4_single_3 : cX4_single.data.toList.drop 71 = dktX4_single_3 := dk_seg dksX4_single_2 24 rfl rfl
theorem dX4_single_0 : decode cX4_single 0 = .ok (.aload_n 0, 1) := dk_42 (dk_at dksX4_single_0 0 rfl rfl)
theorem dX4_single_1 : decode cX4_single 1 = .ok (.iconst 0, 1) := dk_3 (dk_at dksX4_single_0 1 rfl rfl)
theorem dX4_single_2 : decode cX4_single 2 = .ok (.putfield 1, 3) := dk_181 0 1 (dk_at dksX4_single_0 2 rfl rfl)
theorem dX4_single_5 : decode cX4_single 5 = .ok (.iload_n 1, 1) := dk_27 (dk_at dksX4_single_0 5 rfl rfl)
theorem dX4_single_6 : decode cX4_single 6 = .ok (.invokestatic 327, 3) := dk_184 1 71 (dk_at dksX4_single_0 6 rfl rfl)
theorem dX4_single_9 : decode cX4_single 9 = .ok (.ifCond .ne 5, 3) := dk_154 0 5 (dk_at dksX4_single_0 9 rfl rfl)
theorem dX4_single_12 : decode cX4_single 12 = .ok (.iconst (-1), 1) := dk_2 (dk_at dksX4_single_0 12 rfl rfl)
theorem dX4_single_13 : decode cX4_single 13 = .ok (.ireturn, 1) := dk_172 (dk_at dksX4_single_0 13 rfl rfl)
theorem dX4_single_14 : decode cX4_single 14 = .ok (.aload_n 0, 1) := dk_42 (dk_at dksX4_single_0 14 rfl rfl)
theorem dX4_single_15 : decode cX4_single 15 = .ok (.iload_n 1, 1) := dk_27 (dk_at dksX4_single_0 15 rfl rfl)
theorem dX4_single_16 : decode cX4_single 16 = .ok (.invokevirtual 340, 3) := dk_182 1 84 (dk_at dksX4_single_0 16 rfl rfl)
theorem dX4_single_19 : decode cX4_single 19 = .ok (.aload_n 0, 1) := dk_42 (dk_at dksX4_single_0 19 rfl rfl)
theorem dX4_single_20 : decode cX4_single 20 = .ok (.getfield 289, 3) := dk_180 1 33 (dk_at dksX4_single_0 20 rfl rfl)
theorem dX4_single_23 : decode cX4_single 23 = .ok (.ifCond .eq 6, 3) := dk_153 0 6 (dk_at dksX4_single_1 0 rfl rfl)
theorem dX4_single_26 : decode cX4_single 26 = .ok (.bipush (-2), 2) := dk_16 254 (dk_at dksX4_single_1 3 rfl rfl)
theorem dX4_single_28 : decode cX4_single 28 = .ok (.ireturn, 1) := dk_172 (dk_at dksX4_single_1 5 rfl rfl)
theorem dX4_single_29 : decode cX4_single 29 = .ok (.iconst 0, 1) := dk_3 (dk_at dksX4_single_1 6 rfl rfl)
theorem dX4_single_30 : decode cX4_single 30 = .ok (.istore_n 2, 1) := dk_61 (dk_at dksX4_single_1 7 rfl rfl)
theorem dX4_single_31 : decode cX4_single 31 = .ok (.iconst 0, 1) := dk_3 (dk_at dksX4_single_1 8 rfl rfl)
theorem dX4_single_32 : decode cX4_single 32 = .ok (.istore_n 3, 1) := dk_62 (dk_at dksX4_single_1 9 rfl rfl)
theorem dX4_single_33 : decode cX4_single 33 = .ok (.iload_n 3, 1) := dk_29 (dk_at dksX4_single_1 10 rfl rfl)
theorem dX4_single_34 : decode cX4_single 34 = .ok (.aload_n 0, 1) := dk_42 (dk_at dksX4_single_1 11 rfl rfl)
theorem dX4_single_35 : decode cX4_single 35 = .ok (.getfield 242, 3) := dk_180 0 242 (dk_at dksX4_single_1 12 rfl rfl)
theorem dX4_single_38 : decode cX4_single 38 = .ok (.if_icmp .ge 42, 3) := dk_162 0 42 (dk_at dksX4_single_1 15 rfl rfl)
theorem dX4_single_41 : decode cX4_single 41 = .ok (.iload_n 2, 1) := dk_28 (dk_at dksX4_single_1 18 rfl rfl)
theorem dX4_single_42 : decode cX4_single 42 = .ok (.aload_n 0, 1) := dk_42 (dk_at dksX4_single_1 19 rfl rfl)
theorem dX4_single_43 : decode cX4_single 43 = .ok (.iload_n 3, 1) := dk_29 (dk_at dksX4_single_1 20 rfl rfl)
theorem dX4_single_44 : decode cX4_single 44 = .ok (.iconst 1, 1) := dk_4 (dk_at dksX4_single_1 21 rfl rfl)
theorem dX4_single_45 : decode cX4_single 45 = .ok (.iadd, 1) := dk_96 (dk_at dksX4_single_1 22 rfl rfl)
theorem dX4_single_46 : decode cX4_single 46 = .ok (.iconst 0, 1) := dk_3 (dk_at dksX4_single_1 23 rfl rfl)
theorem dX4_single_47 : decode cX4_single 47 = .ok (.invokevirtual 272, 3) := dk_182 1 16 (dk_at dksX4_single_2 0 rfl rfl)
theorem dX4_single_50 : decode cX4_single 50 = .ok (.aload_n 0, 1) := dk_42 (dk_at dksX4_single_2 3 rfl rfl)
theorem dX4_single_51 : decode cX4_single 51 = .ok (.iconst 0, 1) := dk_3 (dk_at dksX4_single_2 4 rfl rfl)
theorem dX4_single_52 : decode cX4_single 52 = .ok (.iload_n 3, 1) := dk_29 (dk_at dksX4_single_2 5 rfl rfl)
theorem dX4_single_53 : decode cX4_single 53 = .ok (.iconst 1, 1) := dk_4 (dk_at dksX4_single_2 6 rfl rfl)
theorem dX4_single_54 : decode cX4_single 54 = .ok (.iadd, 1) := dk_96 (dk_at dksX4_single_2 7 rfl rfl)
theorem dX4_single_55 : decode cX4_single 55 = .ok (.invokevirtual 272, 3) := dk_182 1 16 (dk_at dksX4_single_2 8 rfl rfl)
theorem dX4_single_58 : decode cX4_single 58 = .ok (.invokestatic 283, 3) := dk_184 1 27 (dk_at dksX4_single_2 11 rfl rfl)
theorem dX4_single_61 : decode cX4_single 61 = .ok (.iconst 1, 1) := dk_4 (dk_at dksX4_single_2 14 rfl rfl)
theorem dX4_single_62 : decode cX4_single 62 = .ok (.if_icmp .ne 9, 3) := dk_160 0 9 (dk_at dksX4_single_2 15 rfl rfl)
theorem dX4_single_65 : decode cX4_single 65 = .ok (.iconst 1, 1) := dk_4 (dk_at dksX4_single_2 18 rfl rfl)
theorem dX4_single_66 : decode cX4_single 66 = .ok (.iload_n 3, 1) := dk_29 (dk_at dksX4_single_2 19 rfl rfl)
theorem dX4_single_67 : decode cX4_single 67 = .ok (.ishl, 1) := dk_120 (dk_at dksX4_single_2 20 rfl rfl)
theorem dX4_single_68 : decode cX4_single 68 = .ok (.goto 4, 3) := dk_167 0 4 (dk_at dksX4_single_2 21 rfl rfl)
theorem dX4_single_71 : decode cX4_single 71 = .ok (.iconst 0, 1) := dk_3 (dk_at dksX4_single_3 0 rfl rfl)
theorem dX4_single_72 : decode cX4_single 72 = .ok (.ior, 1) := dk_128 (dk_at dksX4_single_3 1 rfl rfl)
theorem dX4_single_73 : decode cX4_single 73 = .ok (.istore_n 2, 1) := dk_61 (dk_at dksX4_single_3 2 rfl rfl)
theorem dX4_single_74 : decode cX4_single 74 = .ok (.iinc 3 1, 3) := dk_132 3 1 (dk_at dksX4_single_3 3 rfl rfl)
theorem dX4_single_77 : decode cX4_single 77 = .ok (.goto (-44), 3) := dk_167 255 212 (dk_at dksX4_single_3 6 rfl rfl)
theorem dX4_single_80 : decode cX4_single 80 = .ok (.iload_n 2, 1) := dk_28 (dk_at dksX4_single_3 9 rfl rfl)
theorem dX4_single_81 : decode cX4_single 81 = .ok (.ireturn, 1) := dk_172 (dk_at dksX4_single_3 10 rfl rfl)
def dkwX4_whole_6 : List UInt8 := [21, 4, 172]
abbrev dktX4_whole_6 : List UInt8 := dkwX4_whole_6 ++ []
def dkwX4_whole_5 : List UInt8 := [21, 4, 42, 4, 182, 1, 131, 153, 0, 7, 4, 167, 0, 4, 3, 96, 54, 4, 132, 5, 1, 167, 255, 186]
abbrev dktX4_whole_5 : List UInt8 := dkwX4_whole_5 ++ dktX4_whole_6
def dkwX4_whole_4 : List UInt8 := [21, 7, 21, 6, 28, 4, 96, 112, 79, 21, 6, 28, 4, 96, 108, 54, 6, 132, 7, 1, 167, 255, 223]
abbrev dktX4_whole_4 : List UInt8 := dkwX4_whole_4 ++ dktX4_whole_5
def dkwX4_whole_3 : List UInt8 := [162, 0, 70, 21, 5, 54, 6, 4, 54, 7, 21, 7, 42, 180, 0, 242, 163, 0, 30, 42, 180, 0, 105]
abbrev dktX4_whole_3 : List UInt8 := dkwX4_whole_3 ++ dktX4_whole_4
def dkwX4_whole_2 : List UInt8 := [62, 132, 4, 1, 167, 255, 238, 3, 54, 4, 42, 180, 0, 105, 3, 3, 79, 3, 54, 5, 21, 5, 29]
abbrev dktX4_whole_2 : List UInt8 := dkwX4_whole_2 ++ dktX4_whole_3
def dkwX4_whole_1 : List UInt8 := [42, 27, 182, 1, 84, 4, 62, 3, 54, 4, 21, 4, 42, 180, 0, 242, 162, 0, 15, 29, 28, 4, 96, 104]
abbrev dktX4_whole_1 : List UInt8 := dkwX4_whole_1 ++ dktX4_whole_2
def dkwX4_whole_0 : List UInt8 := [42, 3, 181, 0, 1, 27, 184, 1, 71, 153, 0, 13, 28, 3, 16, 9, 184, 0, 158, 154, 0, 5, 2, 172]
abbrev dktX4_whole_0 : List UInt8 := dkwX4_whole_0 ++ dktX4_whole_1
theorem dksX4_whole_0 : cX4_whole.data.toList.drop 0 = dktX4_whole_0 := by decide +kernel
theorem dksX4_whole_1 : cX4_whole.data.toList.drop 24 = dktX4_whole_1 := dk_seg dksX4_whole_0 24 rfl rfl
theorem dksX4_whole_2 : cX4_whole.data.toList.drop 48 = dktX4_whole_2 := dk_seg dksX4_whole_1 24 rfl rfl
theorem dksX4_whole_3 : cX4_whole.data.toList.drop 71 = dktX4_whole_3 := dk_seg dksX4_whole_2 23 rfl rfl
theorem dksX4_whole_4 : cX4_whole.data.toList.drop 94 = dktX4_whole_4 := dk_seg dksX4_whole_3 23 rfl rfl
theorem dksX4_whole_5 : cX4_whole.data.toList.drop 117 = dktX4_whole_5 := dk_seg dksX4_whole_4 23 rfl rfl
theorem dksX4_whole_6 : cX4_whole.data.toList.drop 141 = dktX4_whole_6 := dk_seg dksX4_whole_5 24 rfl rfl
theorem dX4_whole_0 : decode cX4_whole 0 = .ok (.aload_n 0, 1) := dk_42 (dk_at dksX4_whole_0 0 rfl rfl)
theorem dX4_whole_1 : decode cX4_whole 1 = .ok (.iconst 0, 1) := dk_3 (dk_at dksX4_whole_0 1 rfl rfl)
theorem dX4_whole_2 : decode cX4_whole 2 = .ok (.putfield 1, 3) := dk_181 0 1 (dk_at dksX4_whole_0 2 rfl rfl)
theorem dX4_whole_5 : decode cX4_whole 5 = .ok (.iload_n 1, 1) := dk_27 (dk_at dksX4_whole_0 5 rfl rfl)
theorem dX4_whole_6 : decode cX4_whole 6 = .ok (.invokestatic 327, 3) := dk_184 1 71 (dk_at dksX4_whole_0 6 rfl rfl)
theorem dX4_whole_9 : decode cX4_whole 9 = .ok (.ifCond .eq 13, 3) := dk_153 0 13 (dk_at dksX4_whole_0 9 rfl rfl)
theorem dX4_whole_12 : decode cX4_whole 12 = .ok (.iload_n 2, 1) := dk_28 (dk_at dksX4_whole_0 12 rfl rfl)
theorem dX4_whole_13 : decode cX4_whole 13 = .ok (.iconst 0, 1) := dk_3 (dk_at dksX4_whole_0 13 rfl rfl)
theorem dX4_whole_14 : decode cX4_whole 14 = .ok (.bipush 9, 2) := dk_16 9 (dk_at dksX4_whole_0 14 rfl rfl)
theorem dX4_whole_16 : decode cX4_whole 16 = .ok (.invokestatic 158, 3) := dk_184 0 158 (dk_at dksX4_whole_0 16 rfl rfl)
theorem dX4_whole_19 : decode cX4_whole 19 = .ok (.ifCond .ne 5, 3) := dk_154 0 5 (dk_at dksX4_whole_0 19 rfl rfl)
theorem dX4_whole_22 : decode cX4_whole 22 = .ok (.iconst (-1), 1) := dk_2 (dk_at dksX4_whole_0 22 rfl rfl)
theorem dX4_whole_23 : decode cX4_whole 23 = .ok (.ireturn, 1) := dk_172 (dk_at dksX4_whole_0 23 rfl rfl)
theorem dX4_whole_24 : decode cX4_whole 24 = .ok (.aload_n 0, 1) := dk_42 (dk_at dksX4_whole_1 0 rfl rfl)
theorem dX4_whole_25 : decode cX4_whole 25 = .ok (.iload_n 1, 1) := dk_27 (dk_at dksX4_whole_1 1 rfl rfl)
theorem dX4_whole_26 : decode cX4_whole 26 = .ok (.invokevirtual 340, 3) := dk_182 1 84 (dk_at dksX4_whole_1 2 rfl rfl)
theorem dX4_whole_29 : decode cX4_whole 29 = .ok (.iconst 1, 1) := dk_4 (dk_at dksX4_whole_1 5 rfl rfl)
theorem dX4_whole_30 : decode cX4_whole 30 = .ok (.istore_n 3, 1) := dk_62 (dk_at dksX4_whole_1 6 rfl rfl)
theorem dX4_whole_31 : decode cX4_whole 31 = .ok (.iconst 0, 1) := dk_3 (dk_at dksX4_whole_1 7 rfl rfl)
theorem dX4_whole_32 : decode cX4_whole 32 = .ok (.istore 4, 2) := dk_54 4 (dk_at dksX4_whole_1 8 rfl rfl)
theorem dX4_whole_34 : decode cX4_whole 34 = .ok (.iload 4, 2) := dk_21 4 (dk_at dksX4_whole_1 10 rfl rfl)
theorem dX4_whole_36 : decode cX4_whole 36 = .ok (.aload_n 0, 1) := dk_42 (dk_at dksX4_whole_1 12 rfl rfl)
theorem dX4_whole_37 : decode cX4_whole 37 = .ok (.getfield 242, 3) := dk_180 0 242 (dk_at dksX4_whole_1 13 rfl rfl)
theorem dX4_whole_40 : decode cX4_whole 40 = .ok (.if_icmp .ge 15, 3) := dk_162 0 15 (dk_at dksX4_whole_1 16 rfl rfl)
theorem dX4_whole_43 : decode cX4_whole 43 = .ok (.iload_n 3, 1) := dk_29 (dk_at dksX4_whole_1 19 rfl rfl)
theorem dX4_whole_44 : decode cX4_whole 44 = .ok (.iload_n 2, 1) := dk_28 (dk_at dksX4_whole_1 20 rfl rfl)
theorem dX4_whole_45 : decode cX4_whole 45 = .ok (.iconst 1, 1) := dk_4 (dk_at dksX4_whole_1 21 rfl rfl)
theorem dX4_whole_46 : decode cX4_whole 46 = .ok (.iadd, 1) := dk_96 (dk_at dksX4_whole_1 22 rfl rfl)
theorem dX4_whole_47 : decode cX4_whole 47 = .ok (.imul, 1) := dk_104 (dk_at dksX4_whole_1 23 rfl rfl)
theorem dX4_whole_48 : decode cX4_whole 48 = .ok (.istore_n 3, 1) := dk_62 (dk_at dksX4_whole_2 0 rfl rfl)
theorem dX4_whole_49 : decode cX4_whole 49 = .ok (.iinc 4 1, 3) := dk_132 4 1 (dk_at dksX4_whole_2 1 rfl rfl)
theorem dX4_whole_52 : decode cX4_whole 52 = .ok (.goto (-18), 3) := dk_167 255 238 (dk_at dksX4_whole_2 4 rfl rfl)
theorem dX4_whole_55 : decode cX4_whole 55 = .ok (.iconst 0, 1) := dk_3 (dk_at dksX4_whole_2 7 rfl rfl)
theorem dX4_whole_56 : decode cX4_whole 56 = .ok (.istore 4, 2) := dk_54 4 (dk_at dksX4_whole_2 8 rfl rfl)
theorem dX4_whole_58 : decode cX4_whole 58 = .ok (.aload_n 0, 1) := dk_42 (dk_at dksX4_whole_2 10 rfl rfl)
theorem dX4_whole_59 : decode cX4_whole 59 = .ok (.getfield 105, 3) := dk_180 0 105 (dk_at dksX4_whole_2 11 rfl rfl)
theorem dX4_whole_62 : decode cX4_whole 62 = .ok (.iconst 0, 1) := dk_3 (dk_at dksX4_whole_2 14 rfl rfl)
theorem dX4_whole_63 : decode cX4_whole 63 = .ok (.iconst 0, 1) := dk_3 (dk_at dksX4_whole_2 15 rfl rfl)
theorem dX4_whole_64 : decode cX4_whole 64 = .ok (.iastore, 1) := dk_79 (dk_at dksX4_whole_2 16 rfl rfl)
theorem dX4_whole_65 : decode cX4_whole 65 = .ok (.iconst 0, 1) := dk_3 (dk_at dksX4_whole_2 17 rfl rfl)
theorem dX4_whole_66 : decode cX4_whole 66 = .ok (.istore 5, 2) := dk_54 5 (dk_at dksX4_whole_2 18 rfl rfl)
theorem dX4_whole_68 : decode cX4_whole 68 = .ok (.iload 5, 2) := dk_21 5 (dk_at dksX4_whole_2 20 rfl rfl)
theorem dX4_whole_70 : decode cX4_whole 70 = .ok (.iload_n 3, 1) := dk_29 (dk_at dksX4_whole_2 22 rfl rfl)
theorem dX4_whole_71 : decode cX4_whole 71 = .ok (.if_icmp .ge 70, 3) := dk_162 0 70 (dk_at dksX4_whole_3 0 rfl rfl)
theorem dX4_whole_74 : decode cX4_whole 74 = .ok (.iload 5, 2) := dk_21 5 (dk_at dksX4_whole_3 3 rfl rfl)
theorem dX4_whole_76 : decode cX4_whole 76 = .ok (.istore 6, 2) := dk_54 6 (dk_at dksX4_whole_3 5 rfl rfl)
theorem dX4_whole_78 : decode cX4_whole 78 = .ok (.iconst 1, 1) := dk_4 (dk_at dksX4_whole_3 7 rfl rfl)
theorem dX4_whole_79 : decode cX4_whole 79 = .ok (.istore 7, 2) := dk_54 7 (dk_at dksX4_whole_3 8 rfl rfl)
theorem dX4_whole_81 : decode cX4_whole 81 = .ok (.iload 7, 2) := dk_21 7 (dk_at dksX4_whole_3 10 rfl rfl)
theorem dX4_whole_83 : decode cX4_whole 83 = .ok (.aload_n 0, 1) := dk_42 (dk_at dksX4_whole_3 12 rfl rfl)
theorem dX4_whole_84 : decode cX4_whole 84 = .ok (.getfield 242, 3) := dk_180 0 242 (dk_at dksX4_whole_3 13 rfl rfl)
theorem dX4_whole_87 : decode cX4_whole 87 = .ok (.if_icmp .gt 30, 3) := dk_163 0 30 (dk_at dksX4_whole_3 16 rfl rfl)
theorem dX4_whole_90 : decode cX4_whole 90 = .ok (.aload_n 0, 1) := dk_42 (dk_at dksX4_whole_3 19 rfl rfl)
theorem dX4_whole_91 : decode cX4_whole 91 = .ok (.getfield 105, 3) := dk_180 0 105 (dk_at dksX4_whole_3 20 rfl rfl)
theorem dX4_whole_94 : decode cX4_whole 94 = .ok (.iload 7, 2) := dk_21 7 (dk_at dksX4_whole_4 0 rfl rfl)
theorem dX4_whole_96 : decode cX4_whole 96 = .ok (.iload 6, 2) := dk_21 6 (dk_at dksX4_whole_4 2 rfl rfl)
theorem dX4_whole_98 : decode cX4_whole 98 = .ok (.iload_n 2, 1) := dk_28 (dk_at dksX4_whole_4 4 rfl rfl)
theorem dX4_whole_99 : decode cX4_whole 99 = .ok (.iconst 1, 1) := dk_4 (dk_at dksX4_whole_4 5 rfl rfl)
theorem dX4_whole_100 : decode cX4_whole 100 = .ok (.iadd, 1) := dk_96 (dk_at dksX4_whole_4 6 rfl rfl)
theorem dX4_whole_101 : decode cX4_whole 101 = .ok (.irem, 1) := dk_112 (dk_at dksX4_whole_4 7 rfl rfl)
theorem dX4_whole_102 : decode cX4_whole 102 = .ok (.iastore, 1) := dk_79 (dk_at dksX4_whole_4 8 rfl rfl)
theorem dX4_whole_103 : decode cX4_whole 103 = .ok (.iload 6, 2) := dk_21 6 (dk_at dksX4_whole_4 9 rfl rfl)
theorem dX4_whole_105 : decode cX4_whole 105 = .ok (.iload_n 2, 1) := dk_28 (dk_at dksX4_whole_4 11 rfl rfl)
theorem dX4_whole_106 : decode cX4_whole 106 = .ok (.iconst 1, 1) := dk_4 (dk_at dksX4_whole_4 12 rfl rfl)
theorem dX4_whole_107 : decode cX4_whole 107 = .ok (.iadd, 1) := dk_96 (dk_at dksX4_whole_4 13 rfl rfl)
theorem dX4_whole_108 : decode cX4_whole 108 = .ok (.idiv, 1) := dk_108 (dk_at dksX4_whole_4 14 rfl rfl)
theorem dX4_whole_109 : decode cX4_whole 109 = .ok (.istore 6, 2) := dk_54 6 (dk_at dksX4_whole_4 15 rfl rfl)
theorem dX4_whole_111 : decode cX4_whole 111 = .ok (.iinc 7 1, 3) := dk_132 7 1 (dk_at dksX4_whole_4 17 rfl rfl)
theorem dX4_whole_114 : decode cX4_whole 114 = .ok (.goto (-33), 3) := dk_167 255 223 (dk_at dksX4_whole_4 20 rfl rfl)
theorem dX4_whole_117 : decode cX4_whole 117 = .ok (.iload 4, 2) := dk_21 4 (dk_at dksX4_whole_5 0 rfl rfl)
theorem dX4_whole_119 : decode cX4_whole 119 = .ok (.aload_n 0, 1) := dk_42 (dk_at dksX4_whole_5 2 rfl rfl)
theorem dX4_whole_120 : decode cX4_whole 120 = .ok (.iconst 1, 1) := dk_4 (dk_at dksX4_whole_5 3 rfl rfl)
theorem dX4_whole_121 : decode cX4_whole 121 = .ok (.invokevirtual 387, 3) := dk_182 1 131 (dk_at dksX4_whole_5 4 rfl rfl)
theorem dX4_whole_124 : decode cX4_whole 124 = .ok (.ifCond .eq 7, 3) := dk_153 0 7 (dk_at dksX4_whole_5 7 rfl rfl)
theorem dX4_whole_127 : decode cX4_whole 127 = .ok (.iconst 1, 1) := dk_4 (dk_at dksX4_whole_5 10 rfl rfl)
theorem dX4_whole_128 : decode cX4_whole 128 = .ok (.goto 4, 3) := dk_167 0 4 (dk_at dksX4_whole_5 11 rfl rfl)
theorem dX4_whole_131 : decode cX4_whole 131 = .ok (.iconst 0, 1) := dk_3 (dk_at dksX4_whole_5 14 rfl rfl)
theorem dX4_whole_132 : decode cX4_whole 132 = .ok (.iadd, 1) := dk_96 (dk_at dksX4_whole_5 15 rfl rfl)
theorem dX4_whole_133 : decode cX4_whole 133 = .ok (.istore 4, 2) := dk_54 4 (dk_at dksX4_whole_5 16 rfl rfl)
theorem dX4_whole_135 : decode cX4_whole 135 = .ok (.iinc 5 1, 3) := dk_132 5 1 (dk_at dksX4_whole_5 18 rfl rfl)
theorem dX4_whole_138 : decode cX4_whole 138 = .ok (.goto (-70), 3) := dk_167 255 186 (dk_at dksX4_whole_5 21 rfl rfl)
theorem dX4_whole_141 : decode cX4_whole 141 = .ok (.iload 4, 2) := dk_21 4 (dk_at dksX4_whole_6 0 rfl rfl)
theorem dX4_whole_143 : decode cX4_whole 143 = .ok (.ireturn, 1) := dk_172 (dk_at dksX4_whole_6 2 rfl rfl)
def dkwX4_first_3 : List UInt8 := [28, 4, 96, 182, 1, 16, 184, 1, 62, 116, 172]
abbrev dktX4_first_3 : List UInt8 := dkwX4_first_3 ++ []
def dkwX4_first_2 : List UInt8 := [132, 3, 1, 167, 255, 234, 42, 182, 1, 137, 42, 180, 1, 33, 153, 0, 8, 16, 254, 167, 0, 15, 42, 3]
abbrev dktX4_first_2 : List UInt8 := dkwX4_first_2 ++ dktX4_first_3
def dkwX4_first_1 : List UInt8 := [182, 1, 84, 4, 62, 29, 42, 180, 1, 24, 162, 0, 20, 42, 29, 3, 16, 100, 184, 1, 36, 182, 1, 30]
abbrev dktX4_first_1 : List UInt8 := dkwX4_first_1 ++ dktX4_first_2
def dkwX4_first_0 : List UInt8 := [42, 3, 181, 0, 1, 27, 184, 1, 71, 153, 0, 11, 42, 28, 182, 1, 93, 154, 0, 5, 2, 172, 42, 27]
abbrev dktX4_first_0 : List UInt8 := dkwX4_first_0 ++ dktX4_first_1
theorem dksX4_first_0 : cX4_first.data.toList.drop 0 = dktX4_first_0 := by decide +kernel
theorem dksX4_first_1 : cX4_first.data.toList.drop 24 = dktX4_first_1 := dk_seg dksX4_first_0 24 rfl rfl
theorem dksX4_first_2 : cX4_first.data.toList.drop 48 = dktX4_first_2 := dk_seg dksX4_first_1 24 rfl rfl
theorem dksX4_first_3 : cX4_first.data.toList.drop 72 = dktX4_first_3 := dk_seg dksX4_first_2 24 rfl rfl
theorem dX4_first_0 : decode cX4_first 0 = .ok (.aload_n 0, 1) := dk_42 (dk_at dksX4_first_0 0 rfl rfl)
theorem dX4_first_1 : decode cX4_first 1 = .ok (.iconst 0, 1) := dk_3 (dk_at dksX4_first_0 1 rfl rfl)
theorem dX4_first_2 : decode cX4_first 2 = .ok (.putfield 1, 3) := dk_181 0 1 (dk_at dksX4_first_0 2 rfl rfl)
theorem dX4_first_5 : decode cX4_first 5 = .ok (.iload_n 1, 1) := dk_27 (dk_at dksX4_first_0 5 rfl rfl)
theorem dX4_first_6 : decode cX4_first 6 = .ok (.invokestatic 327, 3) := dk_184 1 71 (dk_at dksX4_first_0 6 rfl rfl)
theorem dX4_first_9 : decode cX4_first 9 = .ok (.ifCond .eq 11, 3) := dk_153 0 11 (dk_at dksX4_first_0 9 rfl rfl)
theorem dX4_first_12 : decode cX4_first 12 = .ok (.aload_n 0, 1) := dk_42 (dk_at dksX4_first_0 12 rfl rfl)
theorem dX4_first_13 : decode cX4_first 13 = .ok (.iload_n 2, 1) := dk_28 (dk_at dksX4_first_0 13 rfl rfl)
theorem dX4_first_14 : decode cX4_first 14 = .ok (.invokevirtual 349, 3) := dk_182 1 93 (dk_at dksX4_first_0 14 rfl rfl)
theorem dX4_first_17 : decode cX4_first 17 = .ok (.ifCond .ne 5, 3) := dk_154 0 5 (dk_at dksX4_first_0 17 rfl rfl)
theorem dX4_first_20 : decode cX4_first 20 = .ok (.iconst (-1), 1) := dk_2 (dk_at dksX4_first_0 20 rfl rfl)
theorem dX4_first_21 : decode cX4_first 21 = .ok (.ireturn, 1) := dk_172 (dk_at dksX4_first_0 21 rfl rfl)
theorem dX4_first_22 : decode cX4_first 22 = .ok (.aload_n 0, 1) := dk_42 (dk_at dksX4_first_0 22 rfl rfl)
theorem dX4_first_23 : decode cX4_first 23 = .ok (.iload_n 1, 1) := dk_27 (dk_at dksX4_first_0 23 rfl rfl)
theorem dX4_first_24 : decode cX4_first 24 = .ok (.invokevirtual 340, 3) := dk_182 1 84 (dk_at dksX4_first_1 0 rfl rfl)
theorem dX4_first_27 : decode cX4_first 27 = .ok (.iconst 1, 1) := dk_4 (dk_at dksX4_first_1 3 rfl rfl)
theorem dX4_first_28 : decode cX4_first 28 = .ok (.istore_n 3, 1) := dk_62 (dk_at dksX4_first_1 4 rfl rfl)
theorem dX4_first_29 : decode cX4_first 29 = .ok (.iload_n 3, 1) := dk_29 (dk_at dksX4_first_1 5 rfl rfl)
theorem dX4_first_30 : decode cX4_first 30 = .ok (.aload_n 0, 1) := dk_42 (dk_at dksX4_first_1 6 rfl rfl)
theorem dX4_first_31 : decode cX4_first 31 = .ok (.getfield 280, 3) := dk_180 1 24 (dk_at dksX4_first_1 7 rfl rfl)
theorem dX4_first_34 : decode cX4_first 34 = .ok (.if_icmp .ge 20, 3) := dk_162 0 20 (dk_at dksX4_first_1 10 rfl rfl)
theorem dX4_first_37 : decode cX4_first 37 = .ok (.aload_n 0, 1) := dk_42 (dk_at dksX4_first_1 13 rfl rfl)
theorem dX4_first_38 : decode cX4_first 38 = .ok (.iload_n 3, 1) := dk_29 (dk_at dksX4_first_1 14 rfl rfl)
theorem dX4_first_39 : decode cX4_first 39 = .ok (.iconst 0, 1) := dk_3 (dk_at dksX4_first_1 15 rfl rfl)
theorem dX4_first_40 : decode cX4_first 40 = .ok (.bipush 100, 2) := dk_16 100 (dk_at dksX4_first_1 16 rfl rfl)
theorem dX4_first_42 : decode cX4_first 42 = .ok (.invokestatic 292, 3) := dk_184 1 36 (dk_at dksX4_first_1 18 rfl rfl)
theorem dX4_first_45 : decode cX4_first 45 = .ok (.invokevirtual 286, 3) := dk_182 1 30 (dk_at dksX4_first_1 21 rfl rfl)
theorem dX4_first_48 : decode cX4_first 48 = .ok (.iinc 3 1, 3) := dk_132 3 1 (dk_at dksX4_first_2 0 rfl rfl)
theorem dX4_first_51 : decode cX4_first 51 = .ok (.goto (-22), 3) := dk_167 255 234 (dk_at dksX4_first_2 3 rfl rfl)
theorem dX4_first_54 : decode cX4_first 54 = .ok (.aload_n 0, 1) := dk_42 (dk_at dksX4_first_2 6 rfl rfl)
theorem dX4_first_55 : decode cX4_first 55 = .ok (.invokevirtual 393, 3) := dk_182 1 137 (dk_at dksX4_first_2 7 rfl rfl)
theorem dX4_first_58 : decode cX4_first 58 = .ok (.aload_n 0, 1) := dk_42 (dk_at dksX4_first_2 10 rfl rfl)
theorem dX4_first_59 : decode cX4_first 59 = .ok (.getfield 289, 3) := dk_180 1 33 (dk_at dksX4_first_2 11 rfl rfl)
theorem dX4_first_62 : decode cX4_first 62 = .ok (.ifCond .eq 8, 3) := dk_153 0 8 (dk_at dksX4_first_2 14 rfl rfl)
theorem dX4_first_65 : decode cX4_first 65 = .ok (.bipush (-2), 2) := dk_16 254 (dk_at dksX4_first_2 17 rfl rfl)
theorem dX4_first_67 : decode cX4_first 67 = .ok (.goto 15, 3) := dk_167 0 15 (dk_at dksX4_first_2 19 rfl rfl)
theorem dX4_first_70 : decode cX4_first 70 = .ok (.aload_n 0, 1) := dk_42 (dk_at dksX4_first_2 22 rfl rfl)
theorem dX4_first_71 : decode cX4_first 71 = .ok (.iconst 0, 1) := dk_3 (dk_at dksX4_first_2 23 rfl rfl)
theorem dX4_first_72 : decode cX4_first 72 = .ok (.iload_n 2, 1) := dk_28 (dk_at dksX4_first_3 0 rfl rfl)
theorem dX4_first_73 : decode cX4_first 73 = .ok (.iconst 1, 1) := dk_4 (dk_at dksX4_first_3 1 rfl rfl)
theorem dX4_first_74 : decode cX4_first 74 = .ok (.iadd, 1) := dk_96 (dk_at dksX4_first_3 2 rfl rfl)
theorem dX4_first_75 : decode cX4_first 75 = .ok (.invokevirtual 272, 3) := dk_182 1 16 (dk_at dksX4_first_3 3 rfl rfl)
theorem dX4_first_78 : decode cX4_first 78 = .ok (.invokestatic 318, 3) := dk_184 1 62 (dk_at dksX4_first_3 6 rfl rfl)
theorem dX4_first_81 : decode cX4_first 81 = .ok (.ineg, 1) := dk_116 (dk_at dksX4_first_3 9 rfl rfl)
theorem dX4_first_82 : decode cX4_first 82 = .ok (.ireturn, 1) := dk_172 (dk_at dksX4_first_3 10 rfl rfl)
def dkwX4_wholes_3 : List UInt8 := [182, 1, 44, 177]
abbrev dktX4_wholes_3 : List UInt8 := dkwX4_wholes_3 ++ []
def dkwX4_wholes_2 : List UInt8 := [27, 28, 182, 1, 16, 4, 100, 182, 1, 20, 132, 2, 1, 167, 255, 208, 132, 1, 1, 167, 255, 192, 42]
abbrev dktX4_wholes_2 : List UInt8 := dkwX4_wholes_2 ++ dktX4_wholes_3
def dkwX4_wholes_1 : List UInt8 := [182, 1, 16, 19, 1, 15, 162, 0, 28, 42, 27, 28, 182, 1, 16, 4, 126, 154, 0, 17, 42, 27, 28, 42]
abbrev dktX4_wholes_1 : List UInt8 := dkwX4_wholes_1 ++ dktX4_wholes_2
def dkwX4_wholes_0 : List UInt8 := [3, 60, 27, 42, 180, 1, 24, 162, 0, 62, 3, 61, 28, 42, 180, 1, 24, 162, 0, 46, 42, 27, 28]
abbrev dktX4_wholes_0 : List UInt8 := dkwX4_wholes_0 ++ dktX4_wholes_1
theorem dksX4_wholes_0 : cX4_wholes.data.toList.drop 0 = dktX4_wholes_0 := by decide +kernel
theorem dksX4_wholes_1 : cX4_wholes.data.toList.drop 23 = dktX4_wholes_1 := dk_seg dksX4_wholes_0 23 rfl rfl
theorem dksX4_wholes_2 : cX4_wholes.data.toList.drop 47 = dktX4_wholes_2 := dk_seg dksX4_wholes_1 24 rfl rfl
theorem dksX4_wholes_3 : cX4_wholes.data.toList.drop 70 = dktX4_wholes_3 := dk_seg dksX4_wholes_2 23 rfl rfl
theorem dX4_wholes_0 : decode cX4_wholes 0 = .ok (.iconst 0, 1) := dk_3 (dk_at dksX4_wholes_0 0 rfl rfl)
theorem dX4_wholes_1 : decode cX4_wholes 1 = .ok (.istore_n 1, 1) := dk_60 (dk_at dksX4_wholes_0 1 rfl rfl)
theorem dX4_wholes_2 : decode cX4_wholes 2 = .ok (.iload_n 1, 1) := dk_27 (dk_at dksX4_wholes_0 2 rfl rfl)
theorem dX4_wholes_3 : decode cX4_wholes 3 = .ok (.aload_n 0, 1) := dk_42 (dk_at dksX4_wholes_0 3 rfl rfl)
theorem dX4_wholes_4 : decode cX4_wholes 4 = .ok (.getfield 280, 3) := dk_180 1 24 (dk_at dksX4_wholes_0 4 rfl rfl)
theorem dX4_wholes_7 : decode cX4_wholes 7 = .ok (.if_icmp .ge 62, 3) := dk_162 0 62 (dk_at dksX4_wholes_0 7 rfl rfl)
theorem dX4_wholes_10 : decode cX4_wholes 10 = .ok (.iconst 0, 1) := dk_3 (dk_at dksX4_wholes_0 10 rfl rfl)
theorem dX4_wholes_11 : decode cX4_wholes 11 = .ok (.istore_n 2, 1) := dk_61 (dk_at dksX4_wholes_0 11 rfl rfl)
theorem dX4_wholes_12 : decode cX4_wholes 12 = .ok (.iload_n 2, 1) := dk_28 (dk_at dksX4_wholes_0 12 rfl rfl)
theorem dX4_wholes_13 : decode cX4_wholes 13 = .ok (.aload_n 0, 1) := dk_42 (dk_at dksX4_wholes_0 13 rfl rfl)
theorem dX4_wholes_14 : decode cX4_wholes 14 = .ok (.getfield 280, 3) := dk_180 1 24 (dk_at dksX4_wholes_0 14 rfl rfl)
theorem dX4_wholes_17 : decode cX4_wholes 17 = .ok (.if_icmp .ge 46, 3) := dk_162 0 46 (dk_at dksX4_wholes_0 17 rfl rfl)
theorem dX4_wholes_20 : decode cX4_wholes 20 = .ok (.aload_n 0, 1) := dk_42 (dk_at dksX4_wholes_0 20 rfl rfl)
theorem dX4_wholes_21 : decode cX4_wholes 21 = .ok (.iload_n 1, 1) := dk_27 (dk_at dksX4_wholes_0 21 rfl rfl)
theorem dX4_wholes_22 : decode cX4_wholes 22 = .ok (.iload_n 2, 1) := dk_28 (dk_at dksX4_wholes_0 22 rfl rfl)
theorem dX4_wholes_23 : decode cX4_wholes 23 = .ok (.invokevirtual 272, 3) := dk_182 1 16 (dk_at dksX4_wholes_1 0 rfl rfl)
theorem dX4_wholes_26 : decode cX4_wholes 26 = .ok (.ldc_w 271, 3) := dk_19 1 15 (dk_at dksX4_wholes_1 3 rfl rfl)
theorem dX4_wholes_29 : decode cX4_wholes 29 = .ok (.if_icmp .ge 28, 3) := dk_162 0 28 (dk_at dksX4_wholes_1 6 rfl rfl)
theorem dX4_wholes_32 : decode cX4_wholes 32 = .ok (.aload_n 0, 1) := dk_42 (dk_at dksX4_wholes_1 9 rfl rfl)
theorem dX4_wholes_33 : decode cX4_wholes 33 = .ok (.iload_n 1, 1) := dk_27 (dk_at dksX4_wholes_1 10 rfl rfl)
theorem dX4_wholes_34 : decode cX4_wholes 34 = .ok (.iload_n 2, 1) := dk_28 (dk_at dksX4_wholes_1 11 rfl rfl)
theorem dX4_wholes_35 : decode cX4_wholes 35 = .ok (.invokevirtual 272, 3) := dk_182 1 16 (dk_at dksX4_wholes_1 12 rfl rfl)
theorem dX4_wholes_38 : decode cX4_wholes 38 = .ok (.iconst 1, 1) := dk_4 (dk_at dksX4_wholes_1 15 rfl rfl)
theorem dX4_wholes_39 : decode cX4_wholes 39 = .ok (.iand, 1) := dk_126 (dk_at dksX4_wholes_1 16 rfl rfl)
theorem dX4_wholes_40 : decode cX4_wholes 40 = .ok (.ifCond .ne 17, 3) := dk_154 0 17 (dk_at dksX4_wholes_1 17 rfl rfl)
theorem dX4_wholes_43 : decode cX4_wholes 43 = .ok (.aload_n 0, 1) := dk_42 (dk_at dksX4_wholes_1 20 rfl rfl)
theorem dX4_wholes_44 : decode cX4_wholes 44 = .ok (.iload_n 1, 1) := dk_27 (dk_at dksX4_wholes_1 21 rfl rfl)
theorem dX4_wholes_45 : decode cX4_wholes 45 = .ok (.iload_n 2, 1) := dk_28 (dk_at dksX4_wholes_1 22 rfl rfl)
theorem dX4_wholes_46 : decode cX4_wholes 46 = .ok (.aload_n 0, 1) := dk_42 (dk_at dksX4_wholes_1 23 rfl rfl)
theorem dX4_wholes_47 : decode cX4_wholes 47 = .ok (.iload_n 1, 1) := dk_27 (dk_at dksX4_wholes_2 0 rfl rfl)
theorem dX4_wholes_48 : decode cX4_wholes 48 = .ok (.iload_n 2, 1) := dk_28 (dk_at dksX4_wholes_2 1 rfl rfl)
theorem dX4_wholes_49 : decode cX4_wholes 49 = .ok (.invokevirtual 272, 3) := dk_182 1 16 (dk_at dksX4_wholes_2 2 rfl rfl)
theorem dX4_wholes_52 : decode cX4_wholes 52 = .ok (.iconst 1, 1) := dk_4 (dk_at dksX4_wholes_2 5 rfl rfl)
theorem dX4_wholes_53 : decode cX4_wholes 53 = .ok (.isub, 1) := dk_100 (dk_at dksX4_wholes_2 6 rfl rfl)
theorem dX4_wholes_54 : decode cX4_wholes 54 = .ok (.invokevirtual 276, 3) := dk_182 1 20 (dk_at dksX4_wholes_2 7 rfl rfl)
theorem dX4_wholes_57 : decode cX4_wholes 57 = .ok (.iinc 2 1, 3) := dk_132 2 1 (dk_at dksX4_wholes_2 10 rfl rfl)
theorem dX4_wholes_60 : decode cX4_wholes 60 = .ok (.goto (-48), 3) := dk_167 255 208 (dk_at dksX4_wholes_2 13 rfl rfl)
theorem dX4_wholes_63 : decode cX4_wholes 63 = .ok (.iinc 1 1, 3) := dk_132 1 1 (dk_at dksX4_wholes_2 16 rfl rfl)
theorem dX4_wholes_66 : decode cX4_wholes 66 = .ok (.goto (-64), 3) := dk_167 255 192 (dk_at dksX4_wholes_2 19 rfl rfl)
theorem dX4_wholes_69 : decode cX4_wholes 69 = .ok (.aload_n 0, 1) := dk_42 (dk_at dksX4_wholes_2 22 rfl rfl)
theorem dX4_wholes_70 : decode cX4_wholes 70 = .ok (.invokevirtual 300, 3) := dk_182 1 44 (dk_at dksX4_wholes_3 0 rfl rfl)
theorem dX4_wholes_73 : decode cX4_wholes 73 = .ok (.return_, 1) := dk_177 (dk_at dksX4_wholes_3 3 rfl rfl)
def dkwX4_longest_3 : List UInt8 := [180, 1, 24, 4, 100, 3, 182, 1, 16, 29, 182, 1, 124, 172]
abbrev dktX4_longest_3 : List UInt8 := dkwX4_longest_3 ++ []
def dkwX4_longest_2 : List UInt8 := [182, 1, 50, 42, 28, 182, 1, 47, 42, 180, 1, 33, 153, 0, 9, 17, 252, 24, 167, 0, 19, 42, 42, 42]
abbrev dktX4_longest_2 : List UInt8 := dkwX4_longest_2 ++ dktX4_longest_3
def dkwX4_longest_1 : List UInt8 := [154, 0, 7, 17, 248, 48, 172, 42, 27, 182, 1, 84, 42, 28, 182, 1, 47, 42, 182, 1, 140, 42]
abbrev dktX4_longest_1 : List UInt8 := dkwX4_longest_1 ++ dktX4_longest_2
def dkwX4_longest_0 : List UInt8 := [42, 3, 181, 0, 1, 27, 184, 1, 71, 153, 0, 18, 42, 28, 182, 1, 112, 153, 0, 10, 29, 184, 1, 87]
abbrev dktX4_longest_0 : List UInt8 := dkwX4_longest_0 ++ dktX4_longest_1
theorem dksX4_longest_0 : cX4_longest.data.toList.drop 0 = dktX4_longest_0 := by decide +kernel
theorem dksX4_longest_1 : cX4_longest.data.toList.drop 24 = dktX4_longest_1 := dk_seg dksX4_longest_0 24 rfl rfl
theorem dksX4_longest_2 : cX4_longest.data.toList.drop 46 = dktX4_longest_2 := dk_seg dksX4_longest_1 22 rfl rfl
theorem dksX4_longest_3 : cX4_longest.data.toList.drop 70 = dktX4_longest_3 := dk_seg dksX4_longest_2 24 rfl rfl
theorem dX4_longest_0 : decode cX4_longest 0 = .ok (.aload_n 0, 1) := dk_42 (dk_at dksX4_longest_0 0 rfl rfl)
theorem dX4_longest_1 : decode cX4_longest 1 = .ok (.iconst 0, 1) := dk_3 (dk_at dksX4_longest_0 1 rfl rfl)
theorem dX4_longest_2 : decode cX4_longest 2 = .ok (.putfield 1, 3) := dk_181 0 1 (dk_at dksX4_longest_0 2 rfl rfl)
theorem dX4_longest_5 : decode cX4_longest 5 = .ok (.iload_n 1, 1) := dk_27 (dk_at dksX4_longest_0 5 rfl rfl)
theorem dX4_longest_6 : decode cX4_longest 6 = .ok (.invokestatic 327, 3) := dk_184 1 71 (dk_at dksX4_longest_0 6 rfl rfl)
theorem dX4_longest_9 : decode cX4_longest 9 = .ok (.ifCond .eq 18, 3) := dk_153 0 18 (dk_at dksX4_longest_0 9 rfl rfl)
theorem dX4_longest_12 : decode cX4_longest 12 = .ok (.aload_n 0, 1) := dk_42 (dk_at dksX4_longest_0 12 rfl rfl)
theorem dX4_longest_13 : decode cX4_longest 13 = .ok (.iload_n 2, 1) := dk_28 (dk_at dksX4_longest_0 13 rfl rfl)
theorem dX4_longest_14 : decode cX4_longest 14 = .ok (.invokevirtual 368, 3) := dk_182 1 112 (dk_at dksX4_longest_0 14 rfl rfl)
theorem dX4_longest_17 : decode cX4_longest 17 = .ok (.ifCond .eq 10, 3) := dk_153 0 10 (dk_at dksX4_longest_0 17 rfl rfl)
theorem dX4_longest_20 : decode cX4_longest 20 = .ok (.iload_n 3, 1) := dk_29 (dk_at dksX4_longest_0 20 rfl rfl)
theorem dX4_longest_21 : decode cX4_longest 21 = .ok (.invokestatic 343, 3) := dk_184 1 87 (dk_at dksX4_longest_0 21 rfl rfl)
theorem dX4_longest_24 : decode cX4_longest 24 = .ok (.ifCond .ne 7, 3) := dk_154 0 7 (dk_at dksX4_longest_1 0 rfl rfl)
theorem dX4_longest_27 : decode cX4_longest 27 = .ok (.sipush (-2000), 3) := dk_17 248 48 (dk_at dksX4_longest_1 3 rfl rfl)
theorem dX4_longest_30 : decode cX4_longest 30 = .ok (.ireturn, 1) := dk_172 (dk_at dksX4_longest_1 6 rfl rfl)
theorem dX4_longest_31 : decode cX4_longest 31 = .ok (.aload_n 0, 1) := dk_42 (dk_at dksX4_longest_1 7 rfl rfl)
theorem dX4_longest_32 : decode cX4_longest 32 = .ok (.iload_n 1, 1) := dk_27 (dk_at dksX4_longest_1 8 rfl rfl)
theorem dX4_longest_33 : decode cX4_longest 33 = .ok (.invokevirtual 340, 3) := dk_182 1 84 (dk_at dksX4_longest_1 9 rfl rfl)
theorem dX4_longest_36 : decode cX4_longest 36 = .ok (.aload_n 0, 1) := dk_42 (dk_at dksX4_longest_1 12 rfl rfl)
theorem dX4_longest_37 : decode cX4_longest 37 = .ok (.iload_n 2, 1) := dk_28 (dk_at dksX4_longest_1 13 rfl rfl)
theorem dX4_longest_38 : decode cX4_longest 38 = .ok (.invokevirtual 303, 3) := dk_182 1 47 (dk_at dksX4_longest_1 14 rfl rfl)
theorem dX4_longest_41 : decode cX4_longest 41 = .ok (.aload_n 0, 1) := dk_42 (dk_at dksX4_longest_1 17 rfl rfl)
theorem dX4_longest_42 : decode cX4_longest 42 = .ok (.invokevirtual 396, 3) := dk_182 1 140 (dk_at dksX4_longest_1 18 rfl rfl)
theorem dX4_longest_45 : decode cX4_longest 45 = .ok (.aload_n 0, 1) := dk_42 (dk_at dksX4_longest_1 21 rfl rfl)
theorem dX4_longest_46 : decode cX4_longest 46 = .ok (.invokevirtual 306, 3) := dk_182 1 50 (dk_at dksX4_longest_2 0 rfl rfl)
theorem dX4_longest_49 : decode cX4_longest 49 = .ok (.aload_n 0, 1) := dk_42 (dk_at dksX4_longest_2 3 rfl rfl)
theorem dX4_longest_50 : decode cX4_longest 50 = .ok (.iload_n 2, 1) := dk_28 (dk_at dksX4_longest_2 4 rfl rfl)
theorem dX4_longest_51 : decode cX4_longest 51 = .ok (.invokevirtual 303, 3) := dk_182 1 47 (dk_at dksX4_longest_2 5 rfl rfl)
theorem dX4_longest_54 : decode cX4_longest 54 = .ok (.aload_n 0, 1) := dk_42 (dk_at dksX4_longest_2 8 rfl rfl)
theorem dX4_longest_55 : decode cX4_longest 55 = .ok (.getfield 289, 3) := dk_180 1 33 (dk_at dksX4_longest_2 9 rfl rfl)
theorem dX4_longest_58 : decode cX4_longest 58 = .ok (.ifCond .eq 9, 3) := dk_153 0 9 (dk_at dksX4_longest_2 12 rfl rfl)
theorem dX4_longest_61 : decode cX4_longest 61 = .ok (.sipush (-1000), 3) := dk_17 252 24 (dk_at dksX4_longest_2 15 rfl rfl)
theorem dX4_longest_64 : decode cX4_longest 64 = .ok (.goto 19, 3) := dk_167 0 19 (dk_at dksX4_longest_2 18 rfl rfl)
theorem dX4_longest_67 : decode cX4_longest 67 = .ok (.aload_n 0, 1) := dk_42 (dk_at dksX4_longest_2 21 rfl rfl)
theorem dX4_longest_68 : decode cX4_longest 68 = .ok (.aload_n 0, 1) := dk_42 (dk_at dksX4_longest_2 22 rfl rfl)
theorem dX4_longest_69 : decode cX4_longest 69 = .ok (.aload_n 0, 1) := dk_42 (dk_at dksX4_longest_2 23 rfl rfl)
theorem dX4_longest_70 : decode cX4_longest 70 = .ok (.getfield 280, 3) := dk_180 1 24 (dk_at dksX4_longest_3 0 rfl rfl)
theorem dX4_longest_73 : decode cX4_longest 73 = .ok (.iconst 1, 1) := dk_4 (dk_at dksX4_longest_3 3 rfl rfl)
theorem dX4_longest_74 : decode cX4_longest 74 = .ok (.isub, 1) := dk_100 (dk_at dksX4_longest_3 4 rfl rfl)
theorem dX4_longest_75 : decode cX4_longest 75 = .ok (.iconst 0, 1) := dk_3 (dk_at dksX4_longest_3 5 rfl rfl)
theorem dX4_longest_76 : decode cX4_longest 76 = .ok (.invokevirtual 272, 3) := dk_182 1 16 (dk_at dksX4_longest_3 6 rfl rfl)
theorem dX4_longest_79 : decode cX4_longest 79 = .ok (.iload_n 3, 1) := dk_29 (dk_at dksX4_longest_3 9 rfl rfl)
theorem dX4_longest_80 : decode cX4_longest 80 = .ok (.invokevirtual 380, 3) := dk_182 1 124 (dk_at dksX4_longest_3 10 rfl rfl)
theorem dX4_longest_83 : decode cX4_longest 83 = .ok (.ireturn, 1) := dk_172 (dk_at dksX4_longest_3 13 rfl rfl)
def dkwX4_stretches_2 : List UInt8 := [132, 2, 1, 167, 255, 224, 42, 27, 27, 4, 182, 1, 20, 177]
abbrev dktX4_stretches_2 : List UInt8 := dkwX4_stretches_2 ++ []
def dkwX4_stretches_1 : List UInt8 := [28, 42, 3, 28, 182, 1, 16, 182, 1, 20, 42, 28, 27, 42, 28, 3, 182, 1, 16, 182, 1, 20]
abbrev dktX4_stretches_1 : List UInt8 := dkwX4_stretches_1 ++ dktX4_stretches_2
def dkwX4_stretches_0 : List UInt8 := [42, 180, 1, 24, 60, 42, 89, 180, 1, 24, 4, 96, 181, 1, 24, 3, 61, 28, 27, 162, 0, 33, 42, 27]
abbrev dktX4_stretches_0 : List UInt8 := dkwX4_stretches_0 ++ dktX4_stretches_1
theorem dksX4_stretches_0 : cX4_stretches.data.toList.drop 0 = dktX4_stretches_0 := by decide +kernel
theorem dksX4_stretches_1 : cX4_stretches.data.toList.drop 24 = dktX4_stretches_1 := dk_seg dksX4_stretches_0 24 rfl rfl
theorem dksX4_stretches_2 : cX4_stretches.data.toList.drop 46 = dktX4_stretches_2 := dk_seg dksX4_stretches_1 22 rfl rfl
theorem dX4_stretches_0 : decode cX4_stretches 0 = .ok (.aload_n 0, 1) := dk_42 (dk_at dksX4_stretches_0 0 rfl rfl)
theorem dX4_stretches_1 : decode cX4_stretches 1 = .ok (.getfield 280, 3) := dk_180 1 24 (dk_at dksX4_stretches_0 1 rfl rfl)
theorem dX4_stretches_4 : decode cX4_stretches 4 = .ok (.istore_n 1, 1) := dk_60 (dk_at dksX4_stretches_0 4 rfl rfl)
theorem dX4_stretches_5 : decode cX4_stretches 5 = .ok (.aload_n 0, 1) := dk_42 (dk_at dksX4_stretches_0 5 rfl rfl)
theorem dX4_stretches_6 : decode cX4_stretches 6 = .ok (.dup, 1) := dk_89 (dk_at dksX4_stretches_0 6 rfl rfl)
theorem dX4_stretches_7 : decode cX4_stretches 7 = .ok (.getfield 280, 3) := dk_180 1 24 (dk_at dksX4_stretches_0 7 rfl rfl)
theorem dX4_stretches_10 : decode cX4_stretches 10 = .ok (.iconst 1, 1) := dk_4 (dk_at dksX4_stretches_0 10 rfl rfl)
theorem dX4_stretches_11 : decode cX4_stretches 11 = .ok (.iadd, 1) := dk_96 (dk_at dksX4_stretches_0 11 rfl rfl)
theorem dX4_stretches_12 : decode cX4_stretches 12 = .ok (.putfield 280, 3) := dk_181 1 24 (dk_at dksX4_stretches_0 12 rfl rfl)
theorem dX4_stretches_15 : decode cX4_stretches 15 = .ok (.iconst 0, 1) := dk_3 (dk_at dksX4_stretches_0 15 rfl rfl)
theorem dX4_stretches_16 : decode cX4_stretches 16 = .ok (.istore_n 2, 1) := dk_61 (dk_at dksX4_stretches_0 16 rfl rfl)
theorem dX4_stretches_17 : decode cX4_stretches 17 = .ok (.iload_n 2, 1) := dk_28 (dk_at dksX4_stretches_0 17 rfl rfl)
theorem dX4_stretches_18 : decode cX4_stretches 18 = .ok (.iload_n 1, 1) := dk_27 (dk_at dksX4_stretches_0 18 rfl rfl)
theorem dX4_stretches_19 : decode cX4_stretches 19 = .ok (.if_icmp .ge 33, 3) := dk_162 0 33 (dk_at dksX4_stretches_0 19 rfl rfl)
theorem dX4_stretches_22 : decode cX4_stretches 22 = .ok (.aload_n 0, 1) := dk_42 (dk_at dksX4_stretches_0 22 rfl rfl)
theorem dX4_stretches_23 : decode cX4_stretches 23 = .ok (.iload_n 1, 1) := dk_27 (dk_at dksX4_stretches_0 23 rfl rfl)
theorem dX4_stretches_24 : decode cX4_stretches 24 = .ok (.iload_n 2, 1) := dk_28 (dk_at dksX4_stretches_1 0 rfl rfl)
theorem dX4_stretches_25 : decode cX4_stretches 25 = .ok (.aload_n 0, 1) := dk_42 (dk_at dksX4_stretches_1 1 rfl rfl)
theorem dX4_stretches_26 : decode cX4_stretches 26 = .ok (.iconst 0, 1) := dk_3 (dk_at dksX4_stretches_1 2 rfl rfl)
theorem dX4_stretches_27 : decode cX4_stretches 27 = .ok (.iload_n 2, 1) := dk_28 (dk_at dksX4_stretches_1 3 rfl rfl)
theorem dX4_stretches_28 : decode cX4_stretches 28 = .ok (.invokevirtual 272, 3) := dk_182 1 16 (dk_at dksX4_stretches_1 4 rfl rfl)
theorem dX4_stretches_31 : decode cX4_stretches 31 = .ok (.invokevirtual 276, 3) := dk_182 1 20 (dk_at dksX4_stretches_1 7 rfl rfl)
theorem dX4_stretches_34 : decode cX4_stretches 34 = .ok (.aload_n 0, 1) := dk_42 (dk_at dksX4_stretches_1 10 rfl rfl)
theorem dX4_stretches_35 : decode cX4_stretches 35 = .ok (.iload_n 2, 1) := dk_28 (dk_at dksX4_stretches_1 11 rfl rfl)
theorem dX4_stretches_36 : decode cX4_stretches 36 = .ok (.iload_n 1, 1) := dk_27 (dk_at dksX4_stretches_1 12 rfl rfl)
theorem dX4_stretches_37 : decode cX4_stretches 37 = .ok (.aload_n 0, 1) := dk_42 (dk_at dksX4_stretches_1 13 rfl rfl)
theorem dX4_stretches_38 : decode cX4_stretches 38 = .ok (.iload_n 2, 1) := dk_28 (dk_at dksX4_stretches_1 14 rfl rfl)
theorem dX4_stretches_39 : decode cX4_stretches 39 = .ok (.iconst 0, 1) := dk_3 (dk_at dksX4_stretches_1 15 rfl rfl)
theorem dX4_stretches_40 : decode cX4_stretches 40 = .ok (.invokevirtual 272, 3) := dk_182 1 16 (dk_at dksX4_stretches_1 16 rfl rfl)
theorem dX4_stretches_43 : decode cX4_stretches 43 = .ok (.invokevirtual 276, 3) := dk_182 1 20 (dk_at dksX4_stretches_1 19 rfl rfl)
theorem dX4_stretches_46 : decode cX4_stretches 46 = .ok (.iinc 2 1, 3) := dk_132 2 1 (dk_at dksX4_stretches_2 0 rfl rfl)
theorem dX4_stretches_49 : decode cX4_stretches 49 = .ok (.goto (-32), 3) := dk_167 255 224 (dk_at dksX4_stretches_2 3 rfl rfl)
theorem dX4_stretches_52 : decode cX4_stretches 52 = .ok (.aload_n 0, 1) := dk_42 (dk_at dksX4_stretches_2 6 rfl rfl)
theorem dX4_stretches_53 : decode cX4_stretches 53 = .ok (.iload_n 1, 1) := dk_27 (dk_at dksX4_stretches_2 7 rfl rfl)
theorem dX4_stretches_54 : decode cX4_stretches 54 = .ok (.iload_n 1, 1) := dk_27 (dk_at dksX4_stretches_2 8 rfl rfl)
theorem dX4_stretches_55 : decode cX4_stretches 55 = .ok (.iconst 1, 1) := dk_4 (dk_at dksX4_stretches_2 9 rfl rfl)
theorem dX4_stretches_56 : decode cX4_stretches 56 = .ok (.invokevirtual 276, 3) := dk_182 1 20 (dk_at dksX4_stretches_2 10 rfl rfl)
theorem dX4_stretches_59 : decode cX4_stretches 59 = .ok (.return_, 1) := dk_177 (dk_at dksX4_stretches_2 13 rfl rfl)
def dkwX4_soonest_4 : List UInt8 := [182, 1, 16, 29, 184, 1, 143, 172]
abbrev dktX4_soonest_4 : List UInt8 := dkwX4_soonest_4 ++ []
def dkwX4_soonest_3 : List UInt8 := [182, 1, 47, 42, 180, 1, 33, 153, 0, 9, 17, 252, 24, 167, 0, 18, 42, 3, 42, 180, 1, 24, 4, 100]
abbrev dktX4_soonest_3 : List UInt8 := dkwX4_soonest_3 ++ dktX4_soonest_4
def dkwX4_soonest_2 : List UInt8 := [182, 1, 140, 42, 182, 1, 50, 42, 42, 180, 0, 26, 28, 46, 182, 1, 47, 42, 16, 8, 28, 96]
abbrev dktX4_soonest_2 : List UInt8 := dkwX4_soonest_2 ++ dktX4_soonest_3
def dkwX4_soonest_1 : List UInt8 := [154, 0, 7, 17, 248, 48, 172, 42, 27, 182, 1, 84, 42, 42, 180, 0, 26, 28, 46, 182, 1, 47, 42]
abbrev dktX4_soonest_1 : List UInt8 := dkwX4_soonest_1 ++ dktX4_soonest_2
def dkwX4_soonest_0 : List UInt8 := [42, 3, 181, 0, 1, 27, 184, 1, 71, 153, 0, 18, 42, 28, 182, 1, 103, 153, 0, 10, 29, 184, 1, 87]
abbrev dktX4_soonest_0 : List UInt8 := dkwX4_soonest_0 ++ dktX4_soonest_1
theorem dksX4_soonest_0 : cX4_soonest.data.toList.drop 0 = dktX4_soonest_0 := by decide +kernel
theorem dksX4_soonest_1 : cX4_soonest.data.toList.drop 24 = dktX4_soonest_1 := dk_seg dksX4_soonest_0 24 rfl rfl
theorem dksX4_soonest_2 : cX4_soonest.data.toList.drop 47 = dktX4_soonest_2 := dk_seg dksX4_soonest_1 23 rfl rfl
theorem dksX4_soonest_3 : cX4_soonest.data.toList.drop 69 = dktX4_soonest_3 := dk_seg dksX4_soonest_2 22 rfl rfl
theorem dksX4_soonest_4 : cX4_soonest.data.toList.drop 93 = dktX4_soonest_4 := dk_seg dksX4_soonest_3 24 rfl rfl
theorem dX4_soonest_0 : decode cX4_soonest 0 = .ok (.aload_n 0, 1) := dk_42 (dk_at dksX4_soonest_0 0 rfl rfl)
theorem dX4_soonest_1 : decode cX4_soonest 1 = .ok (.iconst 0, 1) := dk_3 (dk_at dksX4_soonest_0 1 rfl rfl)
theorem dX4_soonest_2 : decode cX4_soonest 2 = .ok (.putfield 1, 3) := dk_181 0 1 (dk_at dksX4_soonest_0 2 rfl rfl)
theorem dX4_soonest_5 : decode cX4_soonest 5 = .ok (.iload_n 1, 1) := dk_27 (dk_at dksX4_soonest_0 5 rfl rfl)
theorem dX4_soonest_6 : decode cX4_soonest 6 = .ok (.invokestatic 327, 3) := dk_184 1 71 (dk_at dksX4_soonest_0 6 rfl rfl)
theorem dX4_soonest_9 : decode cX4_soonest 9 = .ok (.ifCond .eq 18, 3) := dk_153 0 18 (dk_at dksX4_soonest_0 9 rfl rfl)
theorem dX4_soonest_12 : decode cX4_soonest 12 = .ok (.aload_n 0, 1) := dk_42 (dk_at dksX4_soonest_0 12 rfl rfl)
theorem dX4_soonest_13 : decode cX4_soonest 13 = .ok (.iload_n 2, 1) := dk_28 (dk_at dksX4_soonest_0 13 rfl rfl)
theorem dX4_soonest_14 : decode cX4_soonest 14 = .ok (.invokevirtual 359, 3) := dk_182 1 103 (dk_at dksX4_soonest_0 14 rfl rfl)
theorem dX4_soonest_17 : decode cX4_soonest 17 = .ok (.ifCond .eq 10, 3) := dk_153 0 10 (dk_at dksX4_soonest_0 17 rfl rfl)
theorem dX4_soonest_20 : decode cX4_soonest 20 = .ok (.iload_n 3, 1) := dk_29 (dk_at dksX4_soonest_0 20 rfl rfl)
theorem dX4_soonest_21 : decode cX4_soonest 21 = .ok (.invokestatic 343, 3) := dk_184 1 87 (dk_at dksX4_soonest_0 21 rfl rfl)
theorem dX4_soonest_24 : decode cX4_soonest 24 = .ok (.ifCond .ne 7, 3) := dk_154 0 7 (dk_at dksX4_soonest_1 0 rfl rfl)
theorem dX4_soonest_27 : decode cX4_soonest 27 = .ok (.sipush (-2000), 3) := dk_17 248 48 (dk_at dksX4_soonest_1 3 rfl rfl)
theorem dX4_soonest_30 : decode cX4_soonest 30 = .ok (.ireturn, 1) := dk_172 (dk_at dksX4_soonest_1 6 rfl rfl)
theorem dX4_soonest_31 : decode cX4_soonest 31 = .ok (.aload_n 0, 1) := dk_42 (dk_at dksX4_soonest_1 7 rfl rfl)
theorem dX4_soonest_32 : decode cX4_soonest 32 = .ok (.iload_n 1, 1) := dk_27 (dk_at dksX4_soonest_1 8 rfl rfl)
theorem dX4_soonest_33 : decode cX4_soonest 33 = .ok (.invokevirtual 340, 3) := dk_182 1 84 (dk_at dksX4_soonest_1 9 rfl rfl)
theorem dX4_soonest_36 : decode cX4_soonest 36 = .ok (.aload_n 0, 1) := dk_42 (dk_at dksX4_soonest_1 12 rfl rfl)
theorem dX4_soonest_37 : decode cX4_soonest 37 = .ok (.aload_n 0, 1) := dk_42 (dk_at dksX4_soonest_1 13 rfl rfl)
theorem dX4_soonest_38 : decode cX4_soonest 38 = .ok (.getfield 26, 3) := dk_180 0 26 (dk_at dksX4_soonest_1 14 rfl rfl)
theorem dX4_soonest_41 : decode cX4_soonest 41 = .ok (.iload_n 2, 1) := dk_28 (dk_at dksX4_soonest_1 17 rfl rfl)
theorem dX4_soonest_42 : decode cX4_soonest 42 = .ok (.iaload, 1) := dk_46 (dk_at dksX4_soonest_1 18 rfl rfl)
theorem dX4_soonest_43 : decode cX4_soonest 43 = .ok (.invokevirtual 303, 3) := dk_182 1 47 (dk_at dksX4_soonest_1 19 rfl rfl)
theorem dX4_soonest_46 : decode cX4_soonest 46 = .ok (.aload_n 0, 1) := dk_42 (dk_at dksX4_soonest_1 22 rfl rfl)
theorem dX4_soonest_47 : decode cX4_soonest 47 = .ok (.invokevirtual 396, 3) := dk_182 1 140 (dk_at dksX4_soonest_2 0 rfl rfl)
theorem dX4_soonest_50 : decode cX4_soonest 50 = .ok (.aload_n 0, 1) := dk_42 (dk_at dksX4_soonest_2 3 rfl rfl)
theorem dX4_soonest_51 : decode cX4_soonest 51 = .ok (.invokevirtual 306, 3) := dk_182 1 50 (dk_at dksX4_soonest_2 4 rfl rfl)
theorem dX4_soonest_54 : decode cX4_soonest 54 = .ok (.aload_n 0, 1) := dk_42 (dk_at dksX4_soonest_2 7 rfl rfl)
theorem dX4_soonest_55 : decode cX4_soonest 55 = .ok (.aload_n 0, 1) := dk_42 (dk_at dksX4_soonest_2 8 rfl rfl)
theorem dX4_soonest_56 : decode cX4_soonest 56 = .ok (.getfield 26, 3) := dk_180 0 26 (dk_at dksX4_soonest_2 9 rfl rfl)
theorem dX4_soonest_59 : decode cX4_soonest 59 = .ok (.iload_n 2, 1) := dk_28 (dk_at dksX4_soonest_2 12 rfl rfl)
theorem dX4_soonest_60 : decode cX4_soonest 60 = .ok (.iaload, 1) := dk_46 (dk_at dksX4_soonest_2 13 rfl rfl)
theorem dX4_soonest_61 : decode cX4_soonest 61 = .ok (.invokevirtual 303, 3) := dk_182 1 47 (dk_at dksX4_soonest_2 14 rfl rfl)
theorem dX4_soonest_64 : decode cX4_soonest 64 = .ok (.aload_n 0, 1) := dk_42 (dk_at dksX4_soonest_2 17 rfl rfl)
theorem dX4_soonest_65 : decode cX4_soonest 65 = .ok (.bipush 8, 2) := dk_16 8 (dk_at dksX4_soonest_2 18 rfl rfl)
theorem dX4_soonest_67 : decode cX4_soonest 67 = .ok (.iload_n 2, 1) := dk_28 (dk_at dksX4_soonest_2 20 rfl rfl)
theorem dX4_soonest_68 : decode cX4_soonest 68 = .ok (.iadd, 1) := dk_96 (dk_at dksX4_soonest_2 21 rfl rfl)
theorem dX4_soonest_69 : decode cX4_soonest 69 = .ok (.invokevirtual 303, 3) := dk_182 1 47 (dk_at dksX4_soonest_3 0 rfl rfl)
theorem dX4_soonest_72 : decode cX4_soonest 72 = .ok (.aload_n 0, 1) := dk_42 (dk_at dksX4_soonest_3 3 rfl rfl)
theorem dX4_soonest_73 : decode cX4_soonest 73 = .ok (.getfield 289, 3) := dk_180 1 33 (dk_at dksX4_soonest_3 4 rfl rfl)
theorem dX4_soonest_76 : decode cX4_soonest 76 = .ok (.ifCond .eq 9, 3) := dk_153 0 9 (dk_at dksX4_soonest_3 7 rfl rfl)
theorem dX4_soonest_79 : decode cX4_soonest 79 = .ok (.sipush (-1000), 3) := dk_17 252 24 (dk_at dksX4_soonest_3 10 rfl rfl)
theorem dX4_soonest_82 : decode cX4_soonest 82 = .ok (.goto 18, 3) := dk_167 0 18 (dk_at dksX4_soonest_3 13 rfl rfl)
theorem dX4_soonest_85 : decode cX4_soonest 85 = .ok (.aload_n 0, 1) := dk_42 (dk_at dksX4_soonest_3 16 rfl rfl)
theorem dX4_soonest_86 : decode cX4_soonest 86 = .ok (.iconst 0, 1) := dk_3 (dk_at dksX4_soonest_3 17 rfl rfl)
theorem dX4_soonest_87 : decode cX4_soonest 87 = .ok (.aload_n 0, 1) := dk_42 (dk_at dksX4_soonest_3 18 rfl rfl)
theorem dX4_soonest_88 : decode cX4_soonest 88 = .ok (.getfield 280, 3) := dk_180 1 24 (dk_at dksX4_soonest_3 19 rfl rfl)
theorem dX4_soonest_91 : decode cX4_soonest 91 = .ok (.iconst 1, 1) := dk_4 (dk_at dksX4_soonest_3 22 rfl rfl)
theorem dX4_soonest_92 : decode cX4_soonest 92 = .ok (.isub, 1) := dk_100 (dk_at dksX4_soonest_3 23 rfl rfl)
theorem dX4_soonest_93 : decode cX4_soonest 93 = .ok (.invokevirtual 272, 3) := dk_182 1 16 (dk_at dksX4_soonest_4 0 rfl rfl)
theorem dX4_soonest_96 : decode cX4_soonest 96 = .ok (.iload_n 3, 1) := dk_29 (dk_at dksX4_soonest_4 3 rfl rfl)
theorem dX4_soonest_97 : decode cX4_soonest 97 = .ok (.invokestatic 399, 3) := dk_184 1 143 (dk_at dksX4_soonest_4 4 rfl rfl)
theorem dX4_soonest_100 : decode cX4_soonest 100 = .ok (.ireturn, 1) := dk_172 (dk_at dksX4_soonest_4 7 rfl rfl)
def dkwX4_low_0 : List UInt8 := [27, 154, 0, 11, 26, 184, 1, 62, 116, 167, 0, 6, 26, 4, 126, 172]
abbrev dktX4_low_0 : List UInt8 := dkwX4_low_0 ++ []
theorem dksX4_low_0 : cX4_low.data.toList.drop 0 = dktX4_low_0 := by decide +kernel
theorem dX4_low_0 : decode cX4_low 0 = .ok (.iload_n 1, 1) := dk_27 (dk_at dksX4_low_0 0 rfl rfl)
theorem dX4_low_1 : decode cX4_low 1 = .ok (.ifCond .ne 11, 3) := dk_154 0 11 (dk_at dksX4_low_0 1 rfl rfl)
theorem dX4_low_4 : decode cX4_low 4 = .ok (.iload_n 0, 1) := dk_26 (dk_at dksX4_low_0 4 rfl rfl)
theorem dX4_low_5 : decode cX4_low 5 = .ok (.invokestatic 318, 3) := dk_184 1 62 (dk_at dksX4_low_0 5 rfl rfl)
theorem dX4_low_8 : decode cX4_low 8 = .ok (.ineg, 1) := dk_116 (dk_at dksX4_low_0 8 rfl rfl)
theorem dX4_low_9 : decode cX4_low 9 = .ok (.goto 6, 3) := dk_167 0 6 (dk_at dksX4_low_0 9 rfl rfl)
theorem dX4_low_12 : decode cX4_low 12 = .ok (.iload_n 0, 1) := dk_26 (dk_at dksX4_low_0 12 rfl rfl)
theorem dX4_low_13 : decode cX4_low 13 = .ok (.iconst 1, 1) := dk_4 (dk_at dksX4_low_0 13 rfl rfl)
theorem dX4_low_14 : decode cX4_low 14 = .ok (.iand, 1) := dk_126 (dk_at dksX4_low_0 14 rfl rfl)
theorem dX4_low_15 : decode cX4_low 15 = .ok (.ireturn, 1) := dk_172 (dk_at dksX4_low_0 15 rfl rfl)
def dkwX4_nodes_0 : List UInt8 := [42, 3, 181, 0, 1, 42, 180, 1, 118, 172]
abbrev dktX4_nodes_0 : List UInt8 := dkwX4_nodes_0 ++ []
theorem dksX4_nodes_0 : cX4_nodes.data.toList.drop 0 = dktX4_nodes_0 := by decide +kernel
theorem dX4_nodes_0 : decode cX4_nodes 0 = .ok (.aload_n 0, 1) := dk_42 (dk_at dksX4_nodes_0 0 rfl rfl)
theorem dX4_nodes_1 : decode cX4_nodes 1 = .ok (.iconst 0, 1) := dk_3 (dk_at dksX4_nodes_0 1 rfl rfl)
theorem dX4_nodes_2 : decode cX4_nodes 2 = .ok (.putfield 1, 3) := dk_181 0 1 (dk_at dksX4_nodes_0 2 rfl rfl)
theorem dX4_nodes_5 : decode cX4_nodes 5 = .ok (.aload_n 0, 1) := dk_42 (dk_at dksX4_nodes_0 5 rfl rfl)
theorem dX4_nodes_6 : decode cX4_nodes 6 = .ok (.getfield 374, 3) := dk_180 1 118 (dk_at dksX4_nodes_0 6 rfl rfl)
theorem dX4_nodes_9 : decode cX4_nodes 9 = .ok (.ireturn, 1) := dk_172 (dk_at dksX4_nodes_0 9 rfl rfl)
def dkwX4_node_3 : List UInt8 := [167, 0, 8, 42, 27, 182, 1, 152, 172]
abbrev dktX4_node_3 : List UInt8 := dkwX4_node_3 ++ []
def dkwX4_node_2 : List UInt8 := [160, 0, 12, 42, 180, 0, 53, 27, 46, 167, 0, 22, 28, 5, 160, 0, 12, 42, 180, 0, 56, 27, 46]
abbrev dktX4_node_2 : List UInt8 := dkwX4_node_2 ++ dktX4_node_3
def dkwX4_node_1 : List UInt8 := [184, 0, 158, 154, 0, 6, 16, 253, 172, 28, 154, 0, 12, 42, 180, 0, 50, 27, 46, 167, 0, 36, 28, 4]
abbrev dktX4_node_1 : List UInt8 := dkwX4_node_1 ++ dktX4_node_2
def dkwX4_node_0 : List UInt8 := [42, 3, 181, 0, 1, 28, 3, 6, 184, 0, 158, 154, 0, 5, 2, 172, 27, 3, 42, 180, 1, 118, 4, 100]
abbrev dktX4_node_0 : List UInt8 := dkwX4_node_0 ++ dktX4_node_1
theorem dksX4_node_0 : cX4_node.data.toList.drop 0 = dktX4_node_0 := by decide +kernel
theorem dksX4_node_1 : cX4_node.data.toList.drop 24 = dktX4_node_1 := dk_seg dksX4_node_0 24 rfl rfl
theorem dksX4_node_2 : cX4_node.data.toList.drop 48 = dktX4_node_2 := dk_seg dksX4_node_1 24 rfl rfl
theorem dksX4_node_3 : cX4_node.data.toList.drop 71 = dktX4_node_3 := dk_seg dksX4_node_2 23 rfl rfl
theorem dX4_node_0 : decode cX4_node 0 = .ok (.aload_n 0, 1) := dk_42 (dk_at dksX4_node_0 0 rfl rfl)
theorem dX4_node_1 : decode cX4_node 1 = .ok (.iconst 0, 1) := dk_3 (dk_at dksX4_node_0 1 rfl rfl)
theorem dX4_node_2 : decode cX4_node 2 = .ok (.putfield 1, 3) := dk_181 0 1 (dk_at dksX4_node_0 2 rfl rfl)
theorem dX4_node_5 : decode cX4_node 5 = .ok (.iload_n 2, 1) := dk_28 (dk_at dksX4_node_0 5 rfl rfl)
theorem dX4_node_6 : decode cX4_node 6 = .ok (.iconst 0, 1) := dk_3 (dk_at dksX4_node_0 6 rfl rfl)
theorem dX4_node_7 : decode cX4_node 7 = .ok (.iconst 3, 1) := dk_6 (dk_at dksX4_node_0 7 rfl rfl)
theorem dX4_node_8 : decode cX4_node 8 = .ok (.invokestatic 158, 3) := dk_184 0 158 (dk_at dksX4_node_0 8 rfl rfl)
theorem dX4_node_11 : decode cX4_node 11 = .ok (.ifCond .ne 5, 3) := dk_154 0 5 (dk_at dksX4_node_0 11 rfl rfl)
theorem dX4_node_14 : decode cX4_node 14 = .ok (.iconst (-1), 1) := dk_2 (dk_at dksX4_node_0 14 rfl rfl)
theorem dX4_node_15 : decode cX4_node 15 = .ok (.ireturn, 1) := dk_172 (dk_at dksX4_node_0 15 rfl rfl)
theorem dX4_node_16 : decode cX4_node 16 = .ok (.iload_n 1, 1) := dk_27 (dk_at dksX4_node_0 16 rfl rfl)
theorem dX4_node_17 : decode cX4_node 17 = .ok (.iconst 0, 1) := dk_3 (dk_at dksX4_node_0 17 rfl rfl)
theorem dX4_node_18 : decode cX4_node 18 = .ok (.aload_n 0, 1) := dk_42 (dk_at dksX4_node_0 18 rfl rfl)
theorem dX4_node_19 : decode cX4_node 19 = .ok (.getfield 374, 3) := dk_180 1 118 (dk_at dksX4_node_0 19 rfl rfl)
theorem dX4_node_22 : decode cX4_node 22 = .ok (.iconst 1, 1) := dk_4 (dk_at dksX4_node_0 22 rfl rfl)
theorem dX4_node_23 : decode cX4_node 23 = .ok (.isub, 1) := dk_100 (dk_at dksX4_node_0 23 rfl rfl)
theorem dX4_node_24 : decode cX4_node 24 = .ok (.invokestatic 158, 3) := dk_184 0 158 (dk_at dksX4_node_1 0 rfl rfl)
theorem dX4_node_27 : decode cX4_node 27 = .ok (.ifCond .ne 6, 3) := dk_154 0 6 (dk_at dksX4_node_1 3 rfl rfl)
theorem dX4_node_30 : decode cX4_node 30 = .ok (.bipush (-3), 2) := dk_16 253 (dk_at dksX4_node_1 6 rfl rfl)
theorem dX4_node_32 : decode cX4_node 32 = .ok (.ireturn, 1) := dk_172 (dk_at dksX4_node_1 8 rfl rfl)
theorem dX4_node_33 : decode cX4_node 33 = .ok (.iload_n 2, 1) := dk_28 (dk_at dksX4_node_1 9 rfl rfl)
theorem dX4_node_34 : decode cX4_node 34 = .ok (.ifCond .ne 12, 3) := dk_154 0 12 (dk_at dksX4_node_1 10 rfl rfl)
theorem dX4_node_37 : decode cX4_node 37 = .ok (.aload_n 0, 1) := dk_42 (dk_at dksX4_node_1 13 rfl rfl)
theorem dX4_node_38 : decode cX4_node 38 = .ok (.getfield 50, 3) := dk_180 0 50 (dk_at dksX4_node_1 14 rfl rfl)
theorem dX4_node_41 : decode cX4_node 41 = .ok (.iload_n 1, 1) := dk_27 (dk_at dksX4_node_1 17 rfl rfl)
theorem dX4_node_42 : decode cX4_node 42 = .ok (.iaload, 1) := dk_46 (dk_at dksX4_node_1 18 rfl rfl)
theorem dX4_node_43 : decode cX4_node 43 = .ok (.goto 36, 3) := dk_167 0 36 (dk_at dksX4_node_1 19 rfl rfl)
theorem dX4_node_46 : decode cX4_node 46 = .ok (.iload_n 2, 1) := dk_28 (dk_at dksX4_node_1 22 rfl rfl)
theorem dX4_node_47 : decode cX4_node 47 = .ok (.iconst 1, 1) := dk_4 (dk_at dksX4_node_1 23 rfl rfl)
theorem dX4_node_48 : decode cX4_node 48 = .ok (.if_icmp .ne 12, 3) := dk_160 0 12 (dk_at dksX4_node_2 0 rfl rfl)
theorem dX4_node_51 : decode cX4_node 51 = .ok (.aload_n 0, 1) := dk_42 (dk_at dksX4_node_2 3 rfl rfl)
theorem dX4_node_52 : decode cX4_node 52 = .ok (.getfield 53, 3) := dk_180 0 53 (dk_at dksX4_node_2 4 rfl rfl)
theorem dX4_node_55 : decode cX4_node 55 = .ok (.iload_n 1, 1) := dk_27 (dk_at dksX4_node_2 7 rfl rfl)
theorem dX4_node_56 : decode cX4_node 56 = .ok (.iaload, 1) := dk_46 (dk_at dksX4_node_2 8 rfl rfl)
theorem dX4_node_57 : decode cX4_node 57 = .ok (.goto 22, 3) := dk_167 0 22 (dk_at dksX4_node_2 9 rfl rfl)
theorem dX4_node_60 : decode cX4_node 60 = .ok (.iload_n 2, 1) := dk_28 (dk_at dksX4_node_2 12 rfl rfl)
theorem dX4_node_61 : decode cX4_node 61 = .ok (.iconst 2, 1) := dk_5 (dk_at dksX4_node_2 13 rfl rfl)
theorem dX4_node_62 : decode cX4_node 62 = .ok (.if_icmp .ne 12, 3) := dk_160 0 12 (dk_at dksX4_node_2 14 rfl rfl)
theorem dX4_node_65 : decode cX4_node 65 = .ok (.aload_n 0, 1) := dk_42 (dk_at dksX4_node_2 17 rfl rfl)
theorem dX4_node_66 : decode cX4_node 66 = .ok (.getfield 56, 3) := dk_180 0 56 (dk_at dksX4_node_2 18 rfl rfl)
theorem dX4_node_69 : decode cX4_node 69 = .ok (.iload_n 1, 1) := dk_27 (dk_at dksX4_node_2 21 rfl rfl)
theorem dX4_node_70 : decode cX4_node 70 = .ok (.iaload, 1) := dk_46 (dk_at dksX4_node_2 22 rfl rfl)
theorem dX4_node_71 : decode cX4_node 71 = .ok (.goto 8, 3) := dk_167 0 8 (dk_at dksX4_node_3 0 rfl rfl)
theorem dX4_node_74 : decode cX4_node 74 = .ok (.aload_n 0, 1) := dk_42 (dk_at dksX4_node_3 3 rfl rfl)
theorem dX4_node_75 : decode cX4_node 75 = .ok (.iload_n 1, 1) := dk_27 (dk_at dksX4_node_3 4 rfl rfl)
theorem dX4_node_76 : decode cX4_node 76 = .ok (.invokevirtual 408, 3) := dk_182 1 152 (dk_at dksX4_node_3 5 rfl rfl)
theorem dX4_node_79 : decode cX4_node 79 = .ok (.ireturn, 1) := dk_172 (dk_at dksX4_node_3 8 rfl rfl)
def dkwX4_depth_1 : List UInt8 := [62, 167, 255, 235, 28, 172]
abbrev dktX4_depth_1 : List UInt8 := dkwX4_depth_1 ++ []
def dkwX4_depth_0 : List UInt8 := [3, 61, 27, 62, 42, 180, 0, 53, 29, 46, 16, 254, 159, 0, 16, 132, 2, 1, 42, 180, 0, 53, 29, 46]
abbrev dktX4_depth_0 : List UInt8 := dkwX4_depth_0 ++ dktX4_depth_1
theorem dksX4_depth_0 : cX4_depth.data.toList.drop 0 = dktX4_depth_0 := by decide +kernel
theorem dksX4_depth_1 : cX4_depth.data.toList.drop 24 = dktX4_depth_1 := dk_seg dksX4_depth_0 24 rfl rfl
theorem dX4_depth_0 : decode cX4_depth 0 = .ok (.iconst 0, 1) := dk_3 (dk_at dksX4_depth_0 0 rfl rfl)
theorem dX4_depth_1 : decode cX4_depth 1 = .ok (.istore_n 2, 1) := dk_61 (dk_at dksX4_depth_0 1 rfl rfl)
theorem dX4_depth_2 : decode cX4_depth 2 = .ok (.iload_n 1, 1) := dk_27 (dk_at dksX4_depth_0 2 rfl rfl)
theorem dX4_depth_3 : decode cX4_depth 3 = .ok (.istore_n 3, 1) := dk_62 (dk_at dksX4_depth_0 3 rfl rfl)
theorem dX4_depth_4 : decode cX4_depth 4 = .ok (.aload_n 0, 1) := dk_42 (dk_at dksX4_depth_0 4 rfl rfl)
theorem dX4_depth_5 : decode cX4_depth 5 = .ok (.getfield 53, 3) := dk_180 0 53 (dk_at dksX4_depth_0 5 rfl rfl)
theorem dX4_depth_8 : decode cX4_depth 8 = .ok (.iload_n 3, 1) := dk_29 (dk_at dksX4_depth_0 8 rfl rfl)
theorem dX4_depth_9 : decode cX4_depth 9 = .ok (.iaload, 1) := dk_46 (dk_at dksX4_depth_0 9 rfl rfl)
theorem dX4_depth_10 : decode cX4_depth 10 = .ok (.bipush (-2), 2) := dk_16 254 (dk_at dksX4_depth_0 10 rfl rfl)
theorem dX4_depth_12 : decode cX4_depth 12 = .ok (.if_icmp .eq 16, 3) := dk_159 0 16 (dk_at dksX4_depth_0 12 rfl rfl)
theorem dX4_depth_15 : decode cX4_depth 15 = .ok (.iinc 2 1, 3) := dk_132 2 1 (dk_at dksX4_depth_0 15 rfl rfl)
theorem dX4_depth_18 : decode cX4_depth 18 = .ok (.aload_n 0, 1) := dk_42 (dk_at dksX4_depth_0 18 rfl rfl)
theorem dX4_depth_19 : decode cX4_depth 19 = .ok (.getfield 53, 3) := dk_180 0 53 (dk_at dksX4_depth_0 19 rfl rfl)
theorem dX4_depth_22 : decode cX4_depth 22 = .ok (.iload_n 3, 1) := dk_29 (dk_at dksX4_depth_0 22 rfl rfl)
theorem dX4_depth_23 : decode cX4_depth 23 = .ok (.iaload, 1) := dk_46 (dk_at dksX4_depth_0 23 rfl rfl)
theorem dX4_depth_24 : decode cX4_depth 24 = .ok (.istore_n 3, 1) := dk_62 (dk_at dksX4_depth_1 0 rfl rfl)
theorem dX4_depth_25 : decode cX4_depth 25 = .ok (.goto (-21), 3) := dk_167 255 235 (dk_at dksX4_depth_1 1 rfl rfl)
theorem dX4_depth_28 : decode cX4_depth 28 = .ok (.iload_n 2, 1) := dk_28 (dk_at dksX4_depth_1 4 rfl rfl)
theorem dX4_depth_29 : decode cX4_depth 29 = .ok (.ireturn, 1) := dk_172 (dk_at dksX4_depth_1 5 rfl rfl)
def dkwX4_nodeBound_2 : List UInt8 := [42, 28, 4, 96, 29, 4, 96, 182, 1, 16, 21, 4, 182, 1, 124, 172]
abbrev dktX4_nodeBound_2 : List UInt8 := dkwX4_nodeBound_2 ++ []
def dkwX4_nodeBound_1 : List UInt8 := [182, 1, 80, 153, 0, 11, 21, 4, 184, 1, 87, 154, 0, 7, 17, 248, 48, 172, 42, 27, 182, 1, 121, 42]
abbrev dktX4_nodeBound_1 : List UInt8 := dkwX4_nodeBound_1 ++ dktX4_nodeBound_2
def dkwX4_nodeBound_0 : List UInt8 := [42, 3, 181, 0, 1, 27, 3, 42, 180, 1, 118, 4, 100, 184, 0, 158, 153, 0, 20, 42, 28, 29]
abbrev dktX4_nodeBound_0 : List UInt8 := dkwX4_nodeBound_0 ++ dktX4_nodeBound_1
theorem dksX4_nodeBound_0 : cX4_nodeBound.data.toList.drop 0 = dktX4_nodeBound_0 := by decide +kernel
theorem dksX4_nodeBound_1 : cX4_nodeBound.data.toList.drop 22 = dktX4_nodeBound_1 := dk_seg dksX4_nodeBound_0 22 rfl rfl
theorem dksX4_nodeBound_2 : cX4_nodeBound.data.toList.drop 46 = dktX4_nodeBound_2 := dk_seg dksX4_nodeBound_1 24 rfl rfl
theorem dX4_nodeBound_0 : decode cX4_nodeBound 0 = .ok (.aload_n 0, 1) := dk_42 (dk_at dksX4_nodeBound_0 0 rfl rfl)
theorem dX4_nodeBound_1 : decode cX4_nodeBound 1 = .ok (.iconst 0, 1) := dk_3 (dk_at dksX4_nodeBound_0 1 rfl rfl)
theorem dX4_nodeBound_2 : decode cX4_nodeBound 2 = .ok (.putfield 1, 3) := dk_181 0 1 (dk_at dksX4_nodeBound_0 2 rfl rfl)
theorem dX4_nodeBound_5 : decode cX4_nodeBound 5 = .ok (.iload_n 1, 1) := dk_27 (dk_at dksX4_nodeBound_0 5 rfl rfl)
theorem dX4_nodeBound_6 : decode cX4_nodeBound 6 = .ok (.iconst 0, 1) := dk_3 (dk_at dksX4_nodeBound_0 6 rfl rfl)
theorem dX4_nodeBound_7 : decode cX4_nodeBound 7 = .ok (.aload_n 0, 1) := dk_42 (dk_at dksX4_nodeBound_0 7 rfl rfl)
theorem dX4_nodeBound_8 : decode cX4_nodeBound 8 = .ok (.getfield 374, 3) := dk_180 1 118 (dk_at dksX4_nodeBound_0 8 rfl rfl)
theorem dX4_nodeBound_11 : decode cX4_nodeBound 11 = .ok (.iconst 1, 1) := dk_4 (dk_at dksX4_nodeBound_0 11 rfl rfl)
theorem dX4_nodeBound_12 : decode cX4_nodeBound 12 = .ok (.isub, 1) := dk_100 (dk_at dksX4_nodeBound_0 12 rfl rfl)
theorem dX4_nodeBound_13 : decode cX4_nodeBound 13 = .ok (.invokestatic 158, 3) := dk_184 0 158 (dk_at dksX4_nodeBound_0 13 rfl rfl)
theorem dX4_nodeBound_16 : decode cX4_nodeBound 16 = .ok (.ifCond .eq 20, 3) := dk_153 0 20 (dk_at dksX4_nodeBound_0 16 rfl rfl)
theorem dX4_nodeBound_19 : decode cX4_nodeBound 19 = .ok (.aload_n 0, 1) := dk_42 (dk_at dksX4_nodeBound_0 19 rfl rfl)
theorem dX4_nodeBound_20 : decode cX4_nodeBound 20 = .ok (.iload_n 2, 1) := dk_28 (dk_at dksX4_nodeBound_0 20 rfl rfl)
theorem dX4_nodeBound_21 : decode cX4_nodeBound 21 = .ok (.iload_n 3, 1) := dk_29 (dk_at dksX4_nodeBound_0 21 rfl rfl)
theorem dX4_nodeBound_22 : decode cX4_nodeBound 22 = .ok (.invokevirtual 336, 3) := dk_182 1 80 (dk_at dksX4_nodeBound_1 0 rfl rfl)
theorem dX4_nodeBound_25 : decode cX4_nodeBound 25 = .ok (.ifCond .eq 11, 3) := dk_153 0 11 (dk_at dksX4_nodeBound_1 3 rfl rfl)
theorem dX4_nodeBound_28 : decode cX4_nodeBound 28 = .ok (.iload 4, 2) := dk_21 4 (dk_at dksX4_nodeBound_1 6 rfl rfl)
theorem dX4_nodeBound_30 : decode cX4_nodeBound 30 = .ok (.invokestatic 343, 3) := dk_184 1 87 (dk_at dksX4_nodeBound_1 8 rfl rfl)
theorem dX4_nodeBound_33 : decode cX4_nodeBound 33 = .ok (.ifCond .ne 7, 3) := dk_154 0 7 (dk_at dksX4_nodeBound_1 11 rfl rfl)
theorem dX4_nodeBound_36 : decode cX4_nodeBound 36 = .ok (.sipush (-2000), 3) := dk_17 248 48 (dk_at dksX4_nodeBound_1 14 rfl rfl)
theorem dX4_nodeBound_39 : decode cX4_nodeBound 39 = .ok (.ireturn, 1) := dk_172 (dk_at dksX4_nodeBound_1 17 rfl rfl)
theorem dX4_nodeBound_40 : decode cX4_nodeBound 40 = .ok (.aload_n 0, 1) := dk_42 (dk_at dksX4_nodeBound_1 18 rfl rfl)
theorem dX4_nodeBound_41 : decode cX4_nodeBound 41 = .ok (.iload_n 1, 1) := dk_27 (dk_at dksX4_nodeBound_1 19 rfl rfl)
theorem dX4_nodeBound_42 : decode cX4_nodeBound 42 = .ok (.invokevirtual 377, 3) := dk_182 1 121 (dk_at dksX4_nodeBound_1 20 rfl rfl)
theorem dX4_nodeBound_45 : decode cX4_nodeBound 45 = .ok (.aload_n 0, 1) := dk_42 (dk_at dksX4_nodeBound_1 23 rfl rfl)
theorem dX4_nodeBound_46 : decode cX4_nodeBound 46 = .ok (.aload_n 0, 1) := dk_42 (dk_at dksX4_nodeBound_2 0 rfl rfl)
theorem dX4_nodeBound_47 : decode cX4_nodeBound 47 = .ok (.iload_n 2, 1) := dk_28 (dk_at dksX4_nodeBound_2 1 rfl rfl)
theorem dX4_nodeBound_48 : decode cX4_nodeBound 48 = .ok (.iconst 1, 1) := dk_4 (dk_at dksX4_nodeBound_2 2 rfl rfl)
theorem dX4_nodeBound_49 : decode cX4_nodeBound 49 = .ok (.iadd, 1) := dk_96 (dk_at dksX4_nodeBound_2 3 rfl rfl)
theorem dX4_nodeBound_50 : decode cX4_nodeBound 50 = .ok (.iload_n 3, 1) := dk_29 (dk_at dksX4_nodeBound_2 4 rfl rfl)
theorem dX4_nodeBound_51 : decode cX4_nodeBound 51 = .ok (.iconst 1, 1) := dk_4 (dk_at dksX4_nodeBound_2 5 rfl rfl)
theorem dX4_nodeBound_52 : decode cX4_nodeBound 52 = .ok (.iadd, 1) := dk_96 (dk_at dksX4_nodeBound_2 6 rfl rfl)
theorem dX4_nodeBound_53 : decode cX4_nodeBound 53 = .ok (.invokevirtual 272, 3) := dk_182 1 16 (dk_at dksX4_nodeBound_2 7 rfl rfl)
theorem dX4_nodeBound_56 : decode cX4_nodeBound 56 = .ok (.iload 4, 2) := dk_21 4 (dk_at dksX4_nodeBound_2 10 rfl rfl)
theorem dX4_nodeBound_58 : decode cX4_nodeBound 58 = .ok (.invokevirtual 380, 3) := dk_182 1 124 (dk_at dksX4_nodeBound_2 12 rfl rfl)
theorem dX4_nodeBound_61 : decode cX4_nodeBound 61 = .ok (.ireturn, 1) := dk_172 (dk_at dksX4_nodeBound_2 15 rfl rfl)
def dkwX4_way_2 : List UInt8 := [180, 1, 158, 162, 0, 12, 42, 180, 0, 108, 28, 46, 167, 0, 5, 16, 254, 172]
abbrev dktX4_way_2 : List UInt8 := dkwX4_way_2 ++ []
def dkwX4_way_1 : List UInt8 := [182, 1, 161, 154, 0, 6, 16, 254, 172, 28, 2, 160, 0, 10, 42, 180, 1, 158, 167, 0, 22, 28, 42]
abbrev dktX4_way_1 : List UInt8 := dkwX4_way_1 ++ dktX4_way_2
def dkwX4_way_0 : List UInt8 := [42, 3, 181, 0, 1, 42, 27, 182, 1, 112, 153, 0, 8, 28, 2, 162, 0, 5, 2, 172, 42, 27]
abbrev dktX4_way_0 : List UInt8 := dkwX4_way_0 ++ dktX4_way_1
theorem dksX4_way_0 : cX4_way.data.toList.drop 0 = dktX4_way_0 := by decide +kernel
theorem dksX4_way_1 : cX4_way.data.toList.drop 22 = dktX4_way_1 := dk_seg dksX4_way_0 22 rfl rfl
theorem dksX4_way_2 : cX4_way.data.toList.drop 45 = dktX4_way_2 := dk_seg dksX4_way_1 23 rfl rfl
theorem dX4_way_0 : decode cX4_way 0 = .ok (.aload_n 0, 1) := dk_42 (dk_at dksX4_way_0 0 rfl rfl)
theorem dX4_way_1 : decode cX4_way 1 = .ok (.iconst 0, 1) := dk_3 (dk_at dksX4_way_0 1 rfl rfl)
theorem dX4_way_2 : decode cX4_way 2 = .ok (.putfield 1, 3) := dk_181 0 1 (dk_at dksX4_way_0 2 rfl rfl)
theorem dX4_way_5 : decode cX4_way 5 = .ok (.aload_n 0, 1) := dk_42 (dk_at dksX4_way_0 5 rfl rfl)
theorem dX4_way_6 : decode cX4_way 6 = .ok (.iload_n 1, 1) := dk_27 (dk_at dksX4_way_0 6 rfl rfl)
theorem dX4_way_7 : decode cX4_way 7 = .ok (.invokevirtual 368, 3) := dk_182 1 112 (dk_at dksX4_way_0 7 rfl rfl)
theorem dX4_way_10 : decode cX4_way 10 = .ok (.ifCond .eq 8, 3) := dk_153 0 8 (dk_at dksX4_way_0 10 rfl rfl)
theorem dX4_way_13 : decode cX4_way 13 = .ok (.iload_n 2, 1) := dk_28 (dk_at dksX4_way_0 13 rfl rfl)
theorem dX4_way_14 : decode cX4_way 14 = .ok (.iconst (-1), 1) := dk_2 (dk_at dksX4_way_0 14 rfl rfl)
theorem dX4_way_15 : decode cX4_way 15 = .ok (.if_icmp .ge 5, 3) := dk_162 0 5 (dk_at dksX4_way_0 15 rfl rfl)
theorem dX4_way_18 : decode cX4_way 18 = .ok (.iconst (-1), 1) := dk_2 (dk_at dksX4_way_0 18 rfl rfl)
theorem dX4_way_19 : decode cX4_way 19 = .ok (.ireturn, 1) := dk_172 (dk_at dksX4_way_0 19 rfl rfl)
theorem dX4_way_20 : decode cX4_way 20 = .ok (.aload_n 0, 1) := dk_42 (dk_at dksX4_way_0 20 rfl rfl)
theorem dX4_way_21 : decode cX4_way 21 = .ok (.iload_n 1, 1) := dk_27 (dk_at dksX4_way_0 21 rfl rfl)
theorem dX4_way_22 : decode cX4_way 22 = .ok (.invokevirtual 417, 3) := dk_182 1 161 (dk_at dksX4_way_1 0 rfl rfl)
theorem dX4_way_25 : decode cX4_way 25 = .ok (.ifCond .ne 6, 3) := dk_154 0 6 (dk_at dksX4_way_1 3 rfl rfl)
theorem dX4_way_28 : decode cX4_way 28 = .ok (.bipush (-2), 2) := dk_16 254 (dk_at dksX4_way_1 6 rfl rfl)
theorem dX4_way_30 : decode cX4_way 30 = .ok (.ireturn, 1) := dk_172 (dk_at dksX4_way_1 8 rfl rfl)
theorem dX4_way_31 : decode cX4_way 31 = .ok (.iload_n 2, 1) := dk_28 (dk_at dksX4_way_1 9 rfl rfl)
theorem dX4_way_32 : decode cX4_way 32 = .ok (.iconst (-1), 1) := dk_2 (dk_at dksX4_way_1 10 rfl rfl)
theorem dX4_way_33 : decode cX4_way 33 = .ok (.if_icmp .ne 10, 3) := dk_160 0 10 (dk_at dksX4_way_1 11 rfl rfl)
theorem dX4_way_36 : decode cX4_way 36 = .ok (.aload_n 0, 1) := dk_42 (dk_at dksX4_way_1 14 rfl rfl)
theorem dX4_way_37 : decode cX4_way 37 = .ok (.getfield 414, 3) := dk_180 1 158 (dk_at dksX4_way_1 15 rfl rfl)
theorem dX4_way_40 : decode cX4_way 40 = .ok (.goto 22, 3) := dk_167 0 22 (dk_at dksX4_way_1 18 rfl rfl)
theorem dX4_way_43 : decode cX4_way 43 = .ok (.iload_n 2, 1) := dk_28 (dk_at dksX4_way_1 21 rfl rfl)
theorem dX4_way_44 : decode cX4_way 44 = .ok (.aload_n 0, 1) := dk_42 (dk_at dksX4_way_1 22 rfl rfl)
theorem dX4_way_45 : decode cX4_way 45 = .ok (.getfield 414, 3) := dk_180 1 158 (dk_at dksX4_way_2 0 rfl rfl)
theorem dX4_way_48 : decode cX4_way 48 = .ok (.if_icmp .ge 12, 3) := dk_162 0 12 (dk_at dksX4_way_2 3 rfl rfl)
theorem dX4_way_51 : decode cX4_way 51 = .ok (.aload_n 0, 1) := dk_42 (dk_at dksX4_way_2 6 rfl rfl)
theorem dX4_way_52 : decode cX4_way 52 = .ok (.getfield 108, 3) := dk_180 0 108 (dk_at dksX4_way_2 7 rfl rfl)
theorem dX4_way_55 : decode cX4_way 55 = .ok (.iload_n 2, 1) := dk_28 (dk_at dksX4_way_2 10 rfl rfl)
theorem dX4_way_56 : decode cX4_way 56 = .ok (.iaload, 1) := dk_46 (dk_at dksX4_way_2 11 rfl rfl)
theorem dX4_way_57 : decode cX4_way 57 = .ok (.goto 5, 3) := dk_167 0 5 (dk_at dksX4_way_2 12 rfl rfl)
theorem dX4_way_60 : decode cX4_way 60 = .ok (.bipush (-2), 2) := dk_16 254 (dk_at dksX4_way_2 15 rfl rfl)
theorem dX4_way_62 : decode cX4_way 62 = .ok (.ireturn, 1) := dk_172 (dk_at dksX4_way_2 17 rfl rfl)
def dkwX4_laysRoad_2 : List UInt8 := [29, 46, 79, 42, 180, 0, 53, 29, 46, 62, 132, 4, 255, 167, 255, 228, 4, 172]
abbrev dktX4_laysRoad_2 : List UInt8 := dkwX4_laysRoad_2 ++ []
def dkwX4_laysRoad_1 : List UInt8 := [62, 42, 180, 1, 158, 4, 100, 54, 4, 21, 4, 155, 0, 29, 42, 180, 0, 108, 21, 4, 42, 180, 0, 56]
abbrev dktX4_laysRoad_1 : List UInt8 := dkwX4_laysRoad_1 ++ dktX4_laysRoad_2
def dkwX4_laysRoad_0 : List UInt8 := [42, 27, 182, 1, 155, 61, 28, 16, 254, 160, 0, 5, 3, 172, 42, 42, 28, 182, 1, 152, 181, 1, 158, 28]
abbrev dktX4_laysRoad_0 : List UInt8 := dkwX4_laysRoad_0 ++ dktX4_laysRoad_1
theorem dksX4_laysRoad_0 : cX4_laysRoad.data.toList.drop 0 = dktX4_laysRoad_0 := by decide +kernel
theorem dksX4_laysRoad_1 : cX4_laysRoad.data.toList.drop 24 = dktX4_laysRoad_1 := dk_seg dksX4_laysRoad_0 24 rfl rfl
theorem dksX4_laysRoad_2 : cX4_laysRoad.data.toList.drop 48 = dktX4_laysRoad_2 := dk_seg dksX4_laysRoad_1 24 rfl rfl
theorem dX4_laysRoad_0 : decode cX4_laysRoad 0 = .ok (.aload_n 0, 1) := dk_42 (dk_at dksX4_laysRoad_0 0 rfl rfl)
theorem dX4_laysRoad_1 : decode cX4_laysRoad 1 = .ok (.iload_n 1, 1) := dk_27 (dk_at dksX4_laysRoad_0 1 rfl rfl)
theorem dX4_laysRoad_2 : decode cX4_laysRoad 2 = .ok (.invokevirtual 411, 3) := dk_182 1 155 (dk_at dksX4_laysRoad_0 2 rfl rfl)
theorem dX4_laysRoad_5 : decode cX4_laysRoad 5 = .ok (.istore_n 2, 1) := dk_61 (dk_at dksX4_laysRoad_0 5 rfl rfl)
theorem dX4_laysRoad_6 : decode cX4_laysRoad 6 = .ok (.iload_n 2, 1) := dk_28 (dk_at dksX4_laysRoad_0 6 rfl rfl)
theorem dX4_laysRoad_7 : decode cX4_laysRoad 7 = .ok (.bipush (-2), 2) := dk_16 254 (dk_at dksX4_laysRoad_0 7 rfl rfl)
theorem dX4_laysRoad_9 : decode cX4_laysRoad 9 = .ok (.if_icmp .ne 5, 3) := dk_160 0 5 (dk_at dksX4_laysRoad_0 9 rfl rfl)
theorem dX4_laysRoad_12 : decode cX4_laysRoad 12 = .ok (.iconst 0, 1) := dk_3 (dk_at dksX4_laysRoad_0 12 rfl rfl)
theorem dX4_laysRoad_13 : decode cX4_laysRoad 13 = .ok (.ireturn, 1) := dk_172 (dk_at dksX4_laysRoad_0 13 rfl rfl)
theorem dX4_laysRoad_14 : decode cX4_laysRoad 14 = .ok (.aload_n 0, 1) := dk_42 (dk_at dksX4_laysRoad_0 14 rfl rfl)
theorem dX4_laysRoad_15 : decode cX4_laysRoad 15 = .ok (.aload_n 0, 1) := dk_42 (dk_at dksX4_laysRoad_0 15 rfl rfl)
theorem dX4_laysRoad_16 : decode cX4_laysRoad 16 = .ok (.iload_n 2, 1) := dk_28 (dk_at dksX4_laysRoad_0 16 rfl rfl)
theorem dX4_laysRoad_17 : decode cX4_laysRoad 17 = .ok (.invokevirtual 408, 3) := dk_182 1 152 (dk_at dksX4_laysRoad_0 17 rfl rfl)
theorem dX4_laysRoad_20 : decode cX4_laysRoad 20 = .ok (.putfield 414, 3) := dk_181 1 158 (dk_at dksX4_laysRoad_0 20 rfl rfl)
theorem dX4_laysRoad_23 : decode cX4_laysRoad 23 = .ok (.iload_n 2, 1) := dk_28 (dk_at dksX4_laysRoad_0 23 rfl rfl)
theorem dX4_laysRoad_24 : decode cX4_laysRoad 24 = .ok (.istore_n 3, 1) := dk_62 (dk_at dksX4_laysRoad_1 0 rfl rfl)
theorem dX4_laysRoad_25 : decode cX4_laysRoad 25 = .ok (.aload_n 0, 1) := dk_42 (dk_at dksX4_laysRoad_1 1 rfl rfl)
theorem dX4_laysRoad_26 : decode cX4_laysRoad 26 = .ok (.getfield 414, 3) := dk_180 1 158 (dk_at dksX4_laysRoad_1 2 rfl rfl)
theorem dX4_laysRoad_29 : decode cX4_laysRoad 29 = .ok (.iconst 1, 1) := dk_4 (dk_at dksX4_laysRoad_1 5 rfl rfl)
theorem dX4_laysRoad_30 : decode cX4_laysRoad 30 = .ok (.isub, 1) := dk_100 (dk_at dksX4_laysRoad_1 6 rfl rfl)
theorem dX4_laysRoad_31 : decode cX4_laysRoad 31 = .ok (.istore 4, 2) := dk_54 4 (dk_at dksX4_laysRoad_1 7 rfl rfl)
theorem dX4_laysRoad_33 : decode cX4_laysRoad 33 = .ok (.iload 4, 2) := dk_21 4 (dk_at dksX4_laysRoad_1 9 rfl rfl)
theorem dX4_laysRoad_35 : decode cX4_laysRoad 35 = .ok (.ifCond .lt 29, 3) := dk_155 0 29 (dk_at dksX4_laysRoad_1 11 rfl rfl)
theorem dX4_laysRoad_38 : decode cX4_laysRoad 38 = .ok (.aload_n 0, 1) := dk_42 (dk_at dksX4_laysRoad_1 14 rfl rfl)
theorem dX4_laysRoad_39 : decode cX4_laysRoad 39 = .ok (.getfield 108, 3) := dk_180 0 108 (dk_at dksX4_laysRoad_1 15 rfl rfl)
theorem dX4_laysRoad_42 : decode cX4_laysRoad 42 = .ok (.iload 4, 2) := dk_21 4 (dk_at dksX4_laysRoad_1 18 rfl rfl)
theorem dX4_laysRoad_44 : decode cX4_laysRoad 44 = .ok (.aload_n 0, 1) := dk_42 (dk_at dksX4_laysRoad_1 20 rfl rfl)
theorem dX4_laysRoad_45 : decode cX4_laysRoad 45 = .ok (.getfield 56, 3) := dk_180 0 56 (dk_at dksX4_laysRoad_1 21 rfl rfl)
theorem dX4_laysRoad_48 : decode cX4_laysRoad 48 = .ok (.iload_n 3, 1) := dk_29 (dk_at dksX4_laysRoad_2 0 rfl rfl)
theorem dX4_laysRoad_49 : decode cX4_laysRoad 49 = .ok (.iaload, 1) := dk_46 (dk_at dksX4_laysRoad_2 1 rfl rfl)
theorem dX4_laysRoad_50 : decode cX4_laysRoad 50 = .ok (.iastore, 1) := dk_79 (dk_at dksX4_laysRoad_2 2 rfl rfl)
theorem dX4_laysRoad_51 : decode cX4_laysRoad 51 = .ok (.aload_n 0, 1) := dk_42 (dk_at dksX4_laysRoad_2 3 rfl rfl)
theorem dX4_laysRoad_52 : decode cX4_laysRoad 52 = .ok (.getfield 53, 3) := dk_180 0 53 (dk_at dksX4_laysRoad_2 4 rfl rfl)
theorem dX4_laysRoad_55 : decode cX4_laysRoad 55 = .ok (.iload_n 3, 1) := dk_29 (dk_at dksX4_laysRoad_2 7 rfl rfl)
theorem dX4_laysRoad_56 : decode cX4_laysRoad 56 = .ok (.iaload, 1) := dk_46 (dk_at dksX4_laysRoad_2 8 rfl rfl)
theorem dX4_laysRoad_57 : decode cX4_laysRoad 57 = .ok (.istore_n 3, 1) := dk_62 (dk_at dksX4_laysRoad_2 9 rfl rfl)
theorem dX4_laysRoad_58 : decode cX4_laysRoad 58 = .ok (.iinc 4 (-1), 3) := dk_132 4 255 (dk_at dksX4_laysRoad_2 10 rfl rfl)
theorem dX4_laysRoad_61 : decode cX4_laysRoad 61 = .ok (.goto (-28), 3) := dk_167 255 228 (dk_at dksX4_laysRoad_2 13 rfl rfl)
theorem dX4_laysRoad_64 : decode cX4_laysRoad 64 = .ok (.iconst 1, 1) := dk_4 (dk_at dksX4_laysRoad_2 16 rfl rfl)
theorem dX4_laysRoad_65 : decode cX4_laysRoad 65 = .ok (.ireturn, 1) := dk_172 (dk_at dksX4_laysRoad_2 17 rfl rfl)
def dkwX4_firstNode_1 : List UInt8 := [132, 2, 1, 167, 255, 233, 16, 254, 172]
abbrev dktX4_firstNode_1 : List UInt8 := dkwX4_firstNode_1 ++ []
def dkwX4_firstNode_0 : List UInt8 := [3, 61, 28, 42, 180, 1, 118, 162, 0, 21, 42, 180, 0, 50, 28, 46, 27, 160, 0, 5, 28, 172]
abbrev dktX4_firstNode_0 : List UInt8 := dkwX4_firstNode_0 ++ dktX4_firstNode_1
theorem dksX4_firstNode_0 : cX4_firstNode.data.toList.drop 0 = dktX4_firstNode_0 := by decide +kernel
theorem dksX4_firstNode_1 : cX4_firstNode.data.toList.drop 22 = dktX4_firstNode_1 := dk_seg dksX4_firstNode_0 22 rfl rfl
theorem dX4_firstNode_0 : decode cX4_firstNode 0 = .ok (.iconst 0, 1) := dk_3 (dk_at dksX4_firstNode_0 0 rfl rfl)
theorem dX4_firstNode_1 : decode cX4_firstNode 1 = .ok (.istore_n 2, 1) := dk_61 (dk_at dksX4_firstNode_0 1 rfl rfl)
theorem dX4_firstNode_2 : decode cX4_firstNode 2 = .ok (.iload_n 2, 1) := dk_28 (dk_at dksX4_firstNode_0 2 rfl rfl)
theorem dX4_firstNode_3 : decode cX4_firstNode 3 = .ok (.aload_n 0, 1) := dk_42 (dk_at dksX4_firstNode_0 3 rfl rfl)
theorem dX4_firstNode_4 : decode cX4_firstNode 4 = .ok (.getfield 374, 3) := dk_180 1 118 (dk_at dksX4_firstNode_0 4 rfl rfl)
theorem dX4_firstNode_7 : decode cX4_firstNode 7 = .ok (.if_icmp .ge 21, 3) := dk_162 0 21 (dk_at dksX4_firstNode_0 7 rfl rfl)
theorem dX4_firstNode_10 : decode cX4_firstNode 10 = .ok (.aload_n 0, 1) := dk_42 (dk_at dksX4_firstNode_0 10 rfl rfl)
theorem dX4_firstNode_11 : decode cX4_firstNode 11 = .ok (.getfield 50, 3) := dk_180 0 50 (dk_at dksX4_firstNode_0 11 rfl rfl)
theorem dX4_firstNode_14 : decode cX4_firstNode 14 = .ok (.iload_n 2, 1) := dk_28 (dk_at dksX4_firstNode_0 14 rfl rfl)
theorem dX4_firstNode_15 : decode cX4_firstNode 15 = .ok (.iaload, 1) := dk_46 (dk_at dksX4_firstNode_0 15 rfl rfl)
theorem dX4_firstNode_16 : decode cX4_firstNode 16 = .ok (.iload_n 1, 1) := dk_27 (dk_at dksX4_firstNode_0 16 rfl rfl)
theorem dX4_firstNode_17 : decode cX4_firstNode 17 = .ok (.if_icmp .ne 5, 3) := dk_160 0 5 (dk_at dksX4_firstNode_0 17 rfl rfl)
theorem dX4_firstNode_20 : decode cX4_firstNode 20 = .ok (.iload_n 2, 1) := dk_28 (dk_at dksX4_firstNode_0 20 rfl rfl)
theorem dX4_firstNode_21 : decode cX4_firstNode 21 = .ok (.ireturn, 1) := dk_172 (dk_at dksX4_firstNode_0 21 rfl rfl)
theorem dX4_firstNode_22 : decode cX4_firstNode 22 = .ok (.iinc 2 1, 3) := dk_132 2 1 (dk_at dksX4_firstNode_1 0 rfl rfl)
theorem dX4_firstNode_25 : decode cX4_firstNode 25 = .ok (.goto (-23), 3) := dk_167 255 233 (dk_at dksX4_firstNode_1 3 rfl rfl)
theorem dX4_firstNode_28 : decode cX4_firstNode 28 = .ok (.bipush (-2), 2) := dk_16 254 (dk_at dksX4_firstNode_1 6 rfl rfl)
theorem dX4_firstNode_30 : decode cX4_firstNode 30 = .ok (.ireturn, 1) := dk_172 (dk_at dksX4_firstNode_1 8 rfl rfl)
def dkwX4_deepest_3 : List UInt8 := [62, 132, 4, 1, 167, 255, 202, 27, 153, 0, 9, 28, 16, 254, 160, 0, 7, 28, 167, 0, 4, 29, 172]
abbrev dktX4_deepest_3 : List UInt8 := dkwX4_deepest_3 ++ []
def dkwX4_deepest_2 : List UInt8 := [21, 4, 182, 1, 155, 182, 1, 152, 54, 5, 21, 5, 29, 163, 0, 6, 167, 0, 9, 21, 4, 61, 21, 5]
abbrev dktX4_deepest_2 : List UInt8 := dkwX4_deepest_2 ++ dktX4_deepest_3
def dkwX4_deepest_1 : List UInt8 := [42, 180, 0, 245, 162, 0, 51, 42, 21, 4, 182, 1, 155, 16, 254, 160, 0, 7, 2, 167, 0, 13, 42, 42]
abbrev dktX4_deepest_1 : List UInt8 := dkwX4_deepest_1 ++ dktX4_deepest_2
def dkwX4_deepest_0 : List UInt8 := [42, 3, 181, 0, 1, 27, 184, 1, 87, 154, 0, 5, 2, 172, 16, 254, 61, 2, 62, 3, 54, 4, 21, 4]
abbrev dktX4_deepest_0 : List UInt8 := dkwX4_deepest_0 ++ dktX4_deepest_1
theorem dksX4_deepest_0 : cX4_deepest.data.toList.drop 0 = dktX4_deepest_0 := by decide +kernel
theorem dksX4_deepest_1 : cX4_deepest.data.toList.drop 24 = dktX4_deepest_1 := dk_seg dksX4_deepest_0 24 rfl rfl
theorem dksX4_deepest_2 : cX4_deepest.data.toList.drop 48 = dktX4_deepest_2 := dk_seg dksX4_deepest_1 24 rfl rfl
theorem dksX4_deepest_3 : cX4_deepest.data.toList.drop 72 = dktX4_deepest_3 := dk_seg dksX4_deepest_2 24 rfl rfl
theorem dX4_deepest_0 : decode cX4_deepest 0 = .ok (.aload_n 0, 1) := dk_42 (dk_at dksX4_deepest_0 0 rfl rfl)
theorem dX4_deepest_1 : decode cX4_deepest 1 = .ok (.iconst 0, 1) := dk_3 (dk_at dksX4_deepest_0 1 rfl rfl)
theorem dX4_deepest_2 : decode cX4_deepest 2 = .ok (.putfield 1, 3) := dk_181 0 1 (dk_at dksX4_deepest_0 2 rfl rfl)
theorem dX4_deepest_5 : decode cX4_deepest 5 = .ok (.iload_n 1, 1) := dk_27 (dk_at dksX4_deepest_0 5 rfl rfl)
theorem dX4_deepest_6 : decode cX4_deepest 6 = .ok (.invokestatic 343, 3) := dk_184 1 87 (dk_at dksX4_deepest_0 6 rfl rfl)
theorem dX4_deepest_9 : decode cX4_deepest 9 = .ok (.ifCond .ne 5, 3) := dk_154 0 5 (dk_at dksX4_deepest_0 9 rfl rfl)
theorem dX4_deepest_12 : decode cX4_deepest 12 = .ok (.iconst (-1), 1) := dk_2 (dk_at dksX4_deepest_0 12 rfl rfl)
theorem dX4_deepest_13 : decode cX4_deepest 13 = .ok (.ireturn, 1) := dk_172 (dk_at dksX4_deepest_0 13 rfl rfl)
theorem dX4_deepest_14 : decode cX4_deepest 14 = .ok (.bipush (-2), 2) := dk_16 254 (dk_at dksX4_deepest_0 14 rfl rfl)
theorem dX4_deepest_16 : decode cX4_deepest 16 = .ok (.istore_n 2, 1) := dk_61 (dk_at dksX4_deepest_0 16 rfl rfl)
theorem dX4_deepest_17 : decode cX4_deepest 17 = .ok (.iconst (-1), 1) := dk_2 (dk_at dksX4_deepest_0 17 rfl rfl)
theorem dX4_deepest_18 : decode cX4_deepest 18 = .ok (.istore_n 3, 1) := dk_62 (dk_at dksX4_deepest_0 18 rfl rfl)
theorem dX4_deepest_19 : decode cX4_deepest 19 = .ok (.iconst 0, 1) := dk_3 (dk_at dksX4_deepest_0 19 rfl rfl)
theorem dX4_deepest_20 : decode cX4_deepest 20 = .ok (.istore 4, 2) := dk_54 4 (dk_at dksX4_deepest_0 20 rfl rfl)
theorem dX4_deepest_22 : decode cX4_deepest 22 = .ok (.iload 4, 2) := dk_21 4 (dk_at dksX4_deepest_0 22 rfl rfl)
theorem dX4_deepest_24 : decode cX4_deepest 24 = .ok (.aload_n 0, 1) := dk_42 (dk_at dksX4_deepest_1 0 rfl rfl)
theorem dX4_deepest_25 : decode cX4_deepest 25 = .ok (.getfield 245, 3) := dk_180 0 245 (dk_at dksX4_deepest_1 1 rfl rfl)
theorem dX4_deepest_28 : decode cX4_deepest 28 = .ok (.if_icmp .ge 51, 3) := dk_162 0 51 (dk_at dksX4_deepest_1 4 rfl rfl)
theorem dX4_deepest_31 : decode cX4_deepest 31 = .ok (.aload_n 0, 1) := dk_42 (dk_at dksX4_deepest_1 7 rfl rfl)
theorem dX4_deepest_32 : decode cX4_deepest 32 = .ok (.iload 4, 2) := dk_21 4 (dk_at dksX4_deepest_1 8 rfl rfl)
theorem dX4_deepest_34 : decode cX4_deepest 34 = .ok (.invokevirtual 411, 3) := dk_182 1 155 (dk_at dksX4_deepest_1 10 rfl rfl)
theorem dX4_deepest_37 : decode cX4_deepest 37 = .ok (.bipush (-2), 2) := dk_16 254 (dk_at dksX4_deepest_1 13 rfl rfl)
theorem dX4_deepest_39 : decode cX4_deepest 39 = .ok (.if_icmp .ne 7, 3) := dk_160 0 7 (dk_at dksX4_deepest_1 15 rfl rfl)
theorem dX4_deepest_42 : decode cX4_deepest 42 = .ok (.iconst (-1), 1) := dk_2 (dk_at dksX4_deepest_1 18 rfl rfl)
theorem dX4_deepest_43 : decode cX4_deepest 43 = .ok (.goto 13, 3) := dk_167 0 13 (dk_at dksX4_deepest_1 19 rfl rfl)
theorem dX4_deepest_46 : decode cX4_deepest 46 = .ok (.aload_n 0, 1) := dk_42 (dk_at dksX4_deepest_1 22 rfl rfl)
theorem dX4_deepest_47 : decode cX4_deepest 47 = .ok (.aload_n 0, 1) := dk_42 (dk_at dksX4_deepest_1 23 rfl rfl)
theorem dX4_deepest_48 : decode cX4_deepest 48 = .ok (.iload 4, 2) := dk_21 4 (dk_at dksX4_deepest_2 0 rfl rfl)
theorem dX4_deepest_50 : decode cX4_deepest 50 = .ok (.invokevirtual 411, 3) := dk_182 1 155 (dk_at dksX4_deepest_2 2 rfl rfl)
theorem dX4_deepest_53 : decode cX4_deepest 53 = .ok (.invokevirtual 408, 3) := dk_182 1 152 (dk_at dksX4_deepest_2 5 rfl rfl)
theorem dX4_deepest_56 : decode cX4_deepest 56 = .ok (.istore 5, 2) := dk_54 5 (dk_at dksX4_deepest_2 8 rfl rfl)
theorem dX4_deepest_58 : decode cX4_deepest 58 = .ok (.iload 5, 2) := dk_21 5 (dk_at dksX4_deepest_2 10 rfl rfl)
theorem dX4_deepest_60 : decode cX4_deepest 60 = .ok (.iload_n 3, 1) := dk_29 (dk_at dksX4_deepest_2 12 rfl rfl)
theorem dX4_deepest_61 : decode cX4_deepest 61 = .ok (.if_icmp .gt 6, 3) := dk_163 0 6 (dk_at dksX4_deepest_2 13 rfl rfl)
theorem dX4_deepest_64 : decode cX4_deepest 64 = .ok (.goto 9, 3) := dk_167 0 9 (dk_at dksX4_deepest_2 16 rfl rfl)
theorem dX4_deepest_67 : decode cX4_deepest 67 = .ok (.iload 4, 2) := dk_21 4 (dk_at dksX4_deepest_2 19 rfl rfl)
theorem dX4_deepest_69 : decode cX4_deepest 69 = .ok (.istore_n 2, 1) := dk_61 (dk_at dksX4_deepest_2 21 rfl rfl)
theorem dX4_deepest_70 : decode cX4_deepest 70 = .ok (.iload 5, 2) := dk_21 5 (dk_at dksX4_deepest_2 22 rfl rfl)
theorem dX4_deepest_72 : decode cX4_deepest 72 = .ok (.istore_n 3, 1) := dk_62 (dk_at dksX4_deepest_3 0 rfl rfl)
theorem dX4_deepest_73 : decode cX4_deepest 73 = .ok (.iinc 4 1, 3) := dk_132 4 1 (dk_at dksX4_deepest_3 1 rfl rfl)
theorem dX4_deepest_76 : decode cX4_deepest 76 = .ok (.goto (-54), 3) := dk_167 255 202 (dk_at dksX4_deepest_3 4 rfl rfl)
theorem dX4_deepest_79 : decode cX4_deepest 79 = .ok (.iload_n 1, 1) := dk_27 (dk_at dksX4_deepest_3 7 rfl rfl)
theorem dX4_deepest_80 : decode cX4_deepest 80 = .ok (.ifCond .eq 9, 3) := dk_153 0 9 (dk_at dksX4_deepest_3 8 rfl rfl)
theorem dX4_deepest_83 : decode cX4_deepest 83 = .ok (.iload_n 2, 1) := dk_28 (dk_at dksX4_deepest_3 11 rfl rfl)
theorem dX4_deepest_84 : decode cX4_deepest 84 = .ok (.bipush (-2), 2) := dk_16 254 (dk_at dksX4_deepest_3 12 rfl rfl)
theorem dX4_deepest_86 : decode cX4_deepest 86 = .ok (.if_icmp .ne 7, 3) := dk_160 0 7 (dk_at dksX4_deepest_3 14 rfl rfl)
theorem dX4_deepest_89 : decode cX4_deepest 89 = .ok (.iload_n 2, 1) := dk_28 (dk_at dksX4_deepest_3 17 rfl rfl)
theorem dX4_deepest_90 : decode cX4_deepest 90 = .ok (.goto 4, 3) := dk_167 0 4 (dk_at dksX4_deepest_3 18 rfl rfl)
theorem dX4_deepest_93 : decode cX4_deepest 93 = .ok (.iload_n 3, 1) := dk_29 (dk_at dksX4_deepest_3 21 rfl rfl)
theorem dX4_deepest_94 : decode cX4_deepest 94 = .ok (.ireturn, 1) := dk_172 (dk_at dksX4_deepest_3 22 rfl rfl)
def dkwX4_open_1 : List UInt8 := [167, 0, 4, 2, 172]
abbrev dktX4_open_1 : List UInt8 := dkwX4_open_1 ++ []
def dkwX4_open_0 : List UInt8 := [42, 3, 181, 0, 1, 27, 3, 42, 180, 1, 118, 4, 100, 184, 0, 158, 153, 0, 11, 42, 27, 182, 1, 164]
abbrev dktX4_open_0 : List UInt8 := dkwX4_open_0 ++ dktX4_open_1
theorem dksX4_open_0 : cX4_open.data.toList.drop 0 = dktX4_open_0 := by decide +kernel
theorem dksX4_open_1 : cX4_open.data.toList.drop 24 = dktX4_open_1 := dk_seg dksX4_open_0 24 rfl rfl
theorem dX4_open_0 : decode cX4_open 0 = .ok (.aload_n 0, 1) := dk_42 (dk_at dksX4_open_0 0 rfl rfl)
theorem dX4_open_1 : decode cX4_open 1 = .ok (.iconst 0, 1) := dk_3 (dk_at dksX4_open_0 1 rfl rfl)
theorem dX4_open_2 : decode cX4_open 2 = .ok (.putfield 1, 3) := dk_181 0 1 (dk_at dksX4_open_0 2 rfl rfl)
theorem dX4_open_5 : decode cX4_open 5 = .ok (.iload_n 1, 1) := dk_27 (dk_at dksX4_open_0 5 rfl rfl)
theorem dX4_open_6 : decode cX4_open 6 = .ok (.iconst 0, 1) := dk_3 (dk_at dksX4_open_0 6 rfl rfl)
theorem dX4_open_7 : decode cX4_open 7 = .ok (.aload_n 0, 1) := dk_42 (dk_at dksX4_open_0 7 rfl rfl)
theorem dX4_open_8 : decode cX4_open 8 = .ok (.getfield 374, 3) := dk_180 1 118 (dk_at dksX4_open_0 8 rfl rfl)
theorem dX4_open_11 : decode cX4_open 11 = .ok (.iconst 1, 1) := dk_4 (dk_at dksX4_open_0 11 rfl rfl)
theorem dX4_open_12 : decode cX4_open 12 = .ok (.isub, 1) := dk_100 (dk_at dksX4_open_0 12 rfl rfl)
theorem dX4_open_13 : decode cX4_open 13 = .ok (.invokestatic 158, 3) := dk_184 0 158 (dk_at dksX4_open_0 13 rfl rfl)
theorem dX4_open_16 : decode cX4_open 16 = .ok (.ifCond .eq 11, 3) := dk_153 0 11 (dk_at dksX4_open_0 16 rfl rfl)
theorem dX4_open_19 : decode cX4_open 19 = .ok (.aload_n 0, 1) := dk_42 (dk_at dksX4_open_0 19 rfl rfl)
theorem dX4_open_20 : decode cX4_open 20 = .ok (.iload_n 1, 1) := dk_27 (dk_at dksX4_open_0 20 rfl rfl)
theorem dX4_open_21 : decode cX4_open 21 = .ok (.invokevirtual 420, 3) := dk_182 1 164 (dk_at dksX4_open_0 21 rfl rfl)
theorem dX4_open_24 : decode cX4_open 24 = .ok (.goto 4, 3) := dk_167 0 4 (dk_at dksX4_open_1 0 rfl rfl)
theorem dX4_open_27 : decode cX4_open 27 = .ok (.iconst (-1), 1) := dk_2 (dk_at dksX4_open_1 3 rfl rfl)
theorem dX4_open_28 : decode cX4_open 28 = .ok (.ireturn, 1) := dk_172 (dk_at dksX4_open_1 4 rfl rfl)
def dkwX4_openOf_2 : List UInt8 := [3, 167, 0, 6, 4, 29, 120, 128, 61, 132, 3, 1, 167, 255, 200, 28, 172]
abbrev dktX4_openOf_2 : List UInt8 := dkwX4_openOf_2 ++ []
def dkwX4_openOf_1 : List UInt8 := [159, 0, 6, 167, 0, 30, 42, 27, 182, 1, 121, 42, 29, 182, 1, 106, 28, 42, 180, 1, 33, 153, 0, 7]
abbrev dktX4_openOf_1 : List UInt8 := dkwX4_openOf_1 ++ dktX4_openOf_2
def dkwX4_openOf_0 : List UInt8 := [3, 61, 3, 62, 29, 42, 180, 0, 248, 162, 0, 54, 42, 180, 0, 26, 29, 46, 42, 180, 0, 50, 27, 46]
abbrev dktX4_openOf_0 : List UInt8 := dkwX4_openOf_0 ++ dktX4_openOf_1
theorem dksX4_openOf_0 : cX4_openOf.data.toList.drop 0 = dktX4_openOf_0 := by decide +kernel
theorem dksX4_openOf_1 : cX4_openOf.data.toList.drop 24 = dktX4_openOf_1 := dk_seg dksX4_openOf_0 24 rfl rfl
theorem dksX4_openOf_2 : cX4_openOf.data.toList.drop 48 = dktX4_openOf_2 := dk_seg dksX4_openOf_1 24 rfl rfl
theorem dX4_openOf_0 : decode cX4_openOf 0 = .ok (.iconst 0, 1) := dk_3 (dk_at dksX4_openOf_0 0 rfl rfl)
theorem dX4_openOf_1 : decode cX4_openOf 1 = .ok (.istore_n 2, 1) := dk_61 (dk_at dksX4_openOf_0 1 rfl rfl)
theorem dX4_openOf_2 : decode cX4_openOf 2 = .ok (.iconst 0, 1) := dk_3 (dk_at dksX4_openOf_0 2 rfl rfl)
theorem dX4_openOf_3 : decode cX4_openOf 3 = .ok (.istore_n 3, 1) := dk_62 (dk_at dksX4_openOf_0 3 rfl rfl)
theorem dX4_openOf_4 : decode cX4_openOf 4 = .ok (.iload_n 3, 1) := dk_29 (dk_at dksX4_openOf_0 4 rfl rfl)
theorem dX4_openOf_5 : decode cX4_openOf 5 = .ok (.aload_n 0, 1) := dk_42 (dk_at dksX4_openOf_0 5 rfl rfl)
theorem dX4_openOf_6 : decode cX4_openOf 6 = .ok (.getfield 248, 3) := dk_180 0 248 (dk_at dksX4_openOf_0 6 rfl rfl)
theorem dX4_openOf_9 : decode cX4_openOf 9 = .ok (.if_icmp .ge 54, 3) := dk_162 0 54 (dk_at dksX4_openOf_0 9 rfl rfl)
theorem dX4_openOf_12 : decode cX4_openOf 12 = .ok (.aload_n 0, 1) := dk_42 (dk_at dksX4_openOf_0 12 rfl rfl)
theorem dX4_openOf_13 : decode cX4_openOf 13 = .ok (.getfield 26, 3) := dk_180 0 26 (dk_at dksX4_openOf_0 13 rfl rfl)
theorem dX4_openOf_16 : decode cX4_openOf 16 = .ok (.iload_n 3, 1) := dk_29 (dk_at dksX4_openOf_0 16 rfl rfl)
theorem dX4_openOf_17 : decode cX4_openOf 17 = .ok (.iaload, 1) := dk_46 (dk_at dksX4_openOf_0 17 rfl rfl)
theorem dX4_openOf_18 : decode cX4_openOf 18 = .ok (.aload_n 0, 1) := dk_42 (dk_at dksX4_openOf_0 18 rfl rfl)
theorem dX4_openOf_19 : decode cX4_openOf 19 = .ok (.getfield 50, 3) := dk_180 0 50 (dk_at dksX4_openOf_0 19 rfl rfl)
theorem dX4_openOf_22 : decode cX4_openOf 22 = .ok (.iload_n 1, 1) := dk_27 (dk_at dksX4_openOf_0 22 rfl rfl)
theorem dX4_openOf_23 : decode cX4_openOf 23 = .ok (.iaload, 1) := dk_46 (dk_at dksX4_openOf_0 23 rfl rfl)
theorem dX4_openOf_24 : decode cX4_openOf 24 = .ok (.if_icmp .eq 6, 3) := dk_159 0 6 (dk_at dksX4_openOf_1 0 rfl rfl)
theorem dX4_openOf_27 : decode cX4_openOf 27 = .ok (.goto 30, 3) := dk_167 0 30 (dk_at dksX4_openOf_1 3 rfl rfl)
theorem dX4_openOf_30 : decode cX4_openOf 30 = .ok (.aload_n 0, 1) := dk_42 (dk_at dksX4_openOf_1 6 rfl rfl)
theorem dX4_openOf_31 : decode cX4_openOf 31 = .ok (.iload_n 1, 1) := dk_27 (dk_at dksX4_openOf_1 7 rfl rfl)
theorem dX4_openOf_32 : decode cX4_openOf 32 = .ok (.invokevirtual 377, 3) := dk_182 1 121 (dk_at dksX4_openOf_1 8 rfl rfl)
theorem dX4_openOf_35 : decode cX4_openOf 35 = .ok (.aload_n 0, 1) := dk_42 (dk_at dksX4_openOf_1 11 rfl rfl)
theorem dX4_openOf_36 : decode cX4_openOf 36 = .ok (.iload_n 3, 1) := dk_29 (dk_at dksX4_openOf_1 12 rfl rfl)
theorem dX4_openOf_37 : decode cX4_openOf 37 = .ok (.invokevirtual 362, 3) := dk_182 1 106 (dk_at dksX4_openOf_1 13 rfl rfl)
theorem dX4_openOf_40 : decode cX4_openOf 40 = .ok (.iload_n 2, 1) := dk_28 (dk_at dksX4_openOf_1 16 rfl rfl)
theorem dX4_openOf_41 : decode cX4_openOf 41 = .ok (.aload_n 0, 1) := dk_42 (dk_at dksX4_openOf_1 17 rfl rfl)
theorem dX4_openOf_42 : decode cX4_openOf 42 = .ok (.getfield 289, 3) := dk_180 1 33 (dk_at dksX4_openOf_1 18 rfl rfl)
theorem dX4_openOf_45 : decode cX4_openOf 45 = .ok (.ifCond .eq 7, 3) := dk_153 0 7 (dk_at dksX4_openOf_1 21 rfl rfl)
theorem dX4_openOf_48 : decode cX4_openOf 48 = .ok (.iconst 0, 1) := dk_3 (dk_at dksX4_openOf_2 0 rfl rfl)
theorem dX4_openOf_49 : decode cX4_openOf 49 = .ok (.goto 6, 3) := dk_167 0 6 (dk_at dksX4_openOf_2 1 rfl rfl)
theorem dX4_openOf_52 : decode cX4_openOf 52 = .ok (.iconst 1, 1) := dk_4 (dk_at dksX4_openOf_2 4 rfl rfl)
theorem dX4_openOf_53 : decode cX4_openOf 53 = .ok (.iload_n 3, 1) := dk_29 (dk_at dksX4_openOf_2 5 rfl rfl)
theorem dX4_openOf_54 : decode cX4_openOf 54 = .ok (.ishl, 1) := dk_120 (dk_at dksX4_openOf_2 6 rfl rfl)
theorem dX4_openOf_55 : decode cX4_openOf 55 = .ok (.ior, 1) := dk_128 (dk_at dksX4_openOf_2 7 rfl rfl)
theorem dX4_openOf_56 : decode cX4_openOf 56 = .ok (.istore_n 2, 1) := dk_61 (dk_at dksX4_openOf_2 8 rfl rfl)
theorem dX4_openOf_57 : decode cX4_openOf 57 = .ok (.iinc 3 1, 3) := dk_132 3 1 (dk_at dksX4_openOf_2 9 rfl rfl)
theorem dX4_openOf_60 : decode cX4_openOf 60 = .ok (.goto (-56), 3) := dk_167 255 200 (dk_at dksX4_openOf_2 12 rfl rfl)
theorem dX4_openOf_63 : decode cX4_openOf 63 = .ok (.iload_n 2, 1) := dk_28 (dk_at dksX4_openOf_2 15 rfl rfl)
theorem dX4_openOf_64 : decode cX4_openOf 64 = .ok (.ireturn, 1) := dk_172 (dk_at dksX4_openOf_2 16 rfl rfl)
def dkwX4_stuck_1 : List UInt8 := [172, 132, 1, 1, 167, 255, 235, 16, 254, 172]
abbrev dktX4_stuck_1 : List UInt8 := dkwX4_stuck_1 ++ []
def dkwX4_stuck_0 : List UInt8 := [42, 3, 181, 0, 1, 3, 60, 27, 42, 180, 1, 118, 162, 0, 19, 42, 27, 182, 1, 164, 154, 0, 5, 27]
abbrev dktX4_stuck_0 : List UInt8 := dkwX4_stuck_0 ++ dktX4_stuck_1
theorem dksX4_stuck_0 : cX4_stuck.data.toList.drop 0 = dktX4_stuck_0 := by decide +kernel
theorem dksX4_stuck_1 : cX4_stuck.data.toList.drop 24 = dktX4_stuck_1 := dk_seg dksX4_stuck_0 24 rfl rfl
theorem dX4_stuck_0 : decode cX4_stuck 0 = .ok (.aload_n 0, 1) := dk_42 (dk_at dksX4_stuck_0 0 rfl rfl)
theorem dX4_stuck_1 : decode cX4_stuck 1 = .ok (.iconst 0, 1) := dk_3 (dk_at dksX4_stuck_0 1 rfl rfl)
theorem dX4_stuck_2 : decode cX4_stuck 2 = .ok (.putfield 1, 3) := dk_181 0 1 (dk_at dksX4_stuck_0 2 rfl rfl)
theorem dX4_stuck_5 : decode cX4_stuck 5 = .ok (.iconst 0, 1) := dk_3 (dk_at dksX4_stuck_0 5 rfl rfl)
theorem dX4_stuck_6 : decode cX4_stuck 6 = .ok (.istore_n 1, 1) := dk_60 (dk_at dksX4_stuck_0 6 rfl rfl)
theorem dX4_stuck_7 : decode cX4_stuck 7 = .ok (.iload_n 1, 1) := dk_27 (dk_at dksX4_stuck_0 7 rfl rfl)
theorem dX4_stuck_8 : decode cX4_stuck 8 = .ok (.aload_n 0, 1) := dk_42 (dk_at dksX4_stuck_0 8 rfl rfl)
theorem dX4_stuck_9 : decode cX4_stuck 9 = .ok (.getfield 374, 3) := dk_180 1 118 (dk_at dksX4_stuck_0 9 rfl rfl)
theorem dX4_stuck_12 : decode cX4_stuck 12 = .ok (.if_icmp .ge 19, 3) := dk_162 0 19 (dk_at dksX4_stuck_0 12 rfl rfl)
theorem dX4_stuck_15 : decode cX4_stuck 15 = .ok (.aload_n 0, 1) := dk_42 (dk_at dksX4_stuck_0 15 rfl rfl)
theorem dX4_stuck_16 : decode cX4_stuck 16 = .ok (.iload_n 1, 1) := dk_27 (dk_at dksX4_stuck_0 16 rfl rfl)
theorem dX4_stuck_17 : decode cX4_stuck 17 = .ok (.invokevirtual 420, 3) := dk_182 1 164 (dk_at dksX4_stuck_0 17 rfl rfl)
theorem dX4_stuck_20 : decode cX4_stuck 20 = .ok (.ifCond .ne 5, 3) := dk_154 0 5 (dk_at dksX4_stuck_0 20 rfl rfl)
theorem dX4_stuck_23 : decode cX4_stuck 23 = .ok (.iload_n 1, 1) := dk_27 (dk_at dksX4_stuck_0 23 rfl rfl)
theorem dX4_stuck_24 : decode cX4_stuck 24 = .ok (.ireturn, 1) := dk_172 (dk_at dksX4_stuck_1 0 rfl rfl)
theorem dX4_stuck_25 : decode cX4_stuck 25 = .ok (.iinc 1 1, 3) := dk_132 1 1 (dk_at dksX4_stuck_1 1 rfl rfl)
theorem dX4_stuck_28 : decode cX4_stuck 28 = .ok (.goto (-21), 3) := dk_167 255 235 (dk_at dksX4_stuck_1 4 rfl rfl)
theorem dX4_stuck_31 : decode cX4_stuck 31 = .ok (.bipush (-2), 2) := dk_16 254 (dk_at dksX4_stuck_1 7 rfl rfl)
theorem dX4_stuck_33 : decode cX4_stuck 33 = .ok (.ireturn, 1) := dk_172 (dk_at dksX4_stuck_1 9 rfl rfl)
def dkwX4_reached_2_1 : List UInt8 := [46, 120, 128, 60, 132, 2, 1, 167, 255, 234, 27, 172]
abbrev dktX4_reached_2_1 : List UInt8 := dkwX4_reached_2_1 ++ []
def dkwX4_reached_2_0 : List UInt8 := [42, 3, 181, 0, 1, 3, 60, 3, 61, 28, 42, 180, 1, 118, 162, 0, 20, 27, 4, 42, 180, 0, 50, 28]
abbrev dktX4_reached_2_0 : List UInt8 := dkwX4_reached_2_0 ++ dktX4_reached_2_1
theorem dksX4_reached_2_0 : cX4_reached_2.data.toList.drop 0 = dktX4_reached_2_0 := by decide +kernel
theorem dksX4_reached_2_1 : cX4_reached_2.data.toList.drop 24 = dktX4_reached_2_1 := dk_seg dksX4_reached_2_0 24 rfl rfl
theorem dX4_reached_2_0 : decode cX4_reached_2 0 = .ok (.aload_n 0, 1) := dk_42 (dk_at dksX4_reached_2_0 0 rfl rfl)
theorem dX4_reached_2_1 : decode cX4_reached_2 1 = .ok (.iconst 0, 1) := dk_3 (dk_at dksX4_reached_2_0 1 rfl rfl)
theorem dX4_reached_2_2 : decode cX4_reached_2 2 = .ok (.putfield 1, 3) := dk_181 0 1 (dk_at dksX4_reached_2_0 2 rfl rfl)
theorem dX4_reached_2_5 : decode cX4_reached_2 5 = .ok (.iconst 0, 1) := dk_3 (dk_at dksX4_reached_2_0 5 rfl rfl)
theorem dX4_reached_2_6 : decode cX4_reached_2 6 = .ok (.istore_n 1, 1) := dk_60 (dk_at dksX4_reached_2_0 6 rfl rfl)
theorem dX4_reached_2_7 : decode cX4_reached_2 7 = .ok (.iconst 0, 1) := dk_3 (dk_at dksX4_reached_2_0 7 rfl rfl)
theorem dX4_reached_2_8 : decode cX4_reached_2 8 = .ok (.istore_n 2, 1) := dk_61 (dk_at dksX4_reached_2_0 8 rfl rfl)
theorem dX4_reached_2_9 : decode cX4_reached_2 9 = .ok (.iload_n 2, 1) := dk_28 (dk_at dksX4_reached_2_0 9 rfl rfl)
theorem dX4_reached_2_10 : decode cX4_reached_2 10 = .ok (.aload_n 0, 1) := dk_42 (dk_at dksX4_reached_2_0 10 rfl rfl)
theorem dX4_reached_2_11 : decode cX4_reached_2 11 = .ok (.getfield 374, 3) := dk_180 1 118 (dk_at dksX4_reached_2_0 11 rfl rfl)
theorem dX4_reached_2_14 : decode cX4_reached_2 14 = .ok (.if_icmp .ge 20, 3) := dk_162 0 20 (dk_at dksX4_reached_2_0 14 rfl rfl)
theorem dX4_reached_2_17 : decode cX4_reached_2 17 = .ok (.iload_n 1, 1) := dk_27 (dk_at dksX4_reached_2_0 17 rfl rfl)
theorem dX4_reached_2_18 : decode cX4_reached_2 18 = .ok (.iconst 1, 1) := dk_4 (dk_at dksX4_reached_2_0 18 rfl rfl)
theorem dX4_reached_2_19 : decode cX4_reached_2 19 = .ok (.aload_n 0, 1) := dk_42 (dk_at dksX4_reached_2_0 19 rfl rfl)
theorem dX4_reached_2_20 : decode cX4_reached_2 20 = .ok (.getfield 50, 3) := dk_180 0 50 (dk_at dksX4_reached_2_0 20 rfl rfl)
theorem dX4_reached_2_23 : decode cX4_reached_2 23 = .ok (.iload_n 2, 1) := dk_28 (dk_at dksX4_reached_2_0 23 rfl rfl)
theorem dX4_reached_2_24 : decode cX4_reached_2 24 = .ok (.iaload, 1) := dk_46 (dk_at dksX4_reached_2_1 0 rfl rfl)
theorem dX4_reached_2_25 : decode cX4_reached_2 25 = .ok (.ishl, 1) := dk_120 (dk_at dksX4_reached_2_1 1 rfl rfl)
theorem dX4_reached_2_26 : decode cX4_reached_2 26 = .ok (.ior, 1) := dk_128 (dk_at dksX4_reached_2_1 2 rfl rfl)
theorem dX4_reached_2_27 : decode cX4_reached_2 27 = .ok (.istore_n 1, 1) := dk_60 (dk_at dksX4_reached_2_1 3 rfl rfl)
theorem dX4_reached_2_28 : decode cX4_reached_2 28 = .ok (.iinc 2 1, 3) := dk_132 2 1 (dk_at dksX4_reached_2_1 4 rfl rfl)
theorem dX4_reached_2_31 : decode cX4_reached_2 31 = .ok (.goto (-22), 3) := dk_167 255 234 (dk_at dksX4_reached_2_1 7 rfl rfl)
theorem dX4_reached_2_34 : decode cX4_reached_2 34 = .ok (.iload_n 1, 1) := dk_27 (dk_at dksX4_reached_2_1 10 rfl rfl)
theorem dX4_reached_2_35 : decode cX4_reached_2 35 = .ok (.ireturn, 1) := dk_172 (dk_at dksX4_reached_2_1 11 rfl rfl)
def dkwX4_leads_3 : List UInt8 := [132, 3, 1, 167, 255, 202, 28, 172]
abbrev dktX4_leads_3 : List UInt8 := dkwX4_leads_3 ++ []
def dkwX4_leads_2 : List UInt8 := [4, 126, 4, 160, 0, 15, 28, 4, 42, 180, 0, 29, 21, 4, 46, 120, 128, 61, 132, 4, 1, 167, 255, 217]
abbrev dktX4_leads_2 : List UInt8 := dkwX4_leads_2 ++ dktX4_leads_3
def dkwX4_leads_1 : List UInt8 := [162, 0, 54, 3, 54, 4, 21, 4, 42, 180, 0, 248, 162, 0, 36, 28, 42, 180, 0, 26, 21, 4, 46, 122]
abbrev dktX4_leads_1 : List UInt8 := dkwX4_leads_1 ++ dktX4_leads_2
def dkwX4_leads_0 : List UInt8 := [42, 3, 181, 0, 1, 42, 27, 182, 1, 112, 154, 0, 5, 2, 172, 4, 27, 120, 61, 3, 62, 29, 16, 8]
abbrev dktX4_leads_0 : List UInt8 := dkwX4_leads_0 ++ dktX4_leads_1
theorem dksX4_leads_0 : cX4_leads.data.toList.drop 0 = dktX4_leads_0 := by decide +kernel
theorem dksX4_leads_1 : cX4_leads.data.toList.drop 24 = dktX4_leads_1 := dk_seg dksX4_leads_0 24 rfl rfl
theorem dksX4_leads_2 : cX4_leads.data.toList.drop 48 = dktX4_leads_2 := dk_seg dksX4_leads_1 24 rfl rfl
theorem dksX4_leads_3 : cX4_leads.data.toList.drop 72 = dktX4_leads_3 := dk_seg dksX4_leads_2 24 rfl rfl
theorem dX4_leads_0 : decode cX4_leads 0 = .ok (.aload_n 0, 1) := dk_42 (dk_at dksX4_leads_0 0 rfl rfl)
theorem dX4_leads_1 : decode cX4_leads 1 = .ok (.iconst 0, 1) := dk_3 (dk_at dksX4_leads_0 1 rfl rfl)
theorem dX4_leads_2 : decode cX4_leads 2 = .ok (.putfield 1, 3) := dk_181 0 1 (dk_at dksX4_leads_0 2 rfl rfl)
theorem dX4_leads_5 : decode cX4_leads 5 = .ok (.aload_n 0, 1) := dk_42 (dk_at dksX4_leads_0 5 rfl rfl)
theorem dX4_leads_6 : decode cX4_leads 6 = .ok (.iload_n 1, 1) := dk_27 (dk_at dksX4_leads_0 6 rfl rfl)
theorem dX4_leads_7 : decode cX4_leads 7 = .ok (.invokevirtual 368, 3) := dk_182 1 112 (dk_at dksX4_leads_0 7 rfl rfl)
theorem dX4_leads_10 : decode cX4_leads 10 = .ok (.ifCond .ne 5, 3) := dk_154 0 5 (dk_at dksX4_leads_0 10 rfl rfl)
theorem dX4_leads_13 : decode cX4_leads 13 = .ok (.iconst (-1), 1) := dk_2 (dk_at dksX4_leads_0 13 rfl rfl)
theorem dX4_leads_14 : decode cX4_leads 14 = .ok (.ireturn, 1) := dk_172 (dk_at dksX4_leads_0 14 rfl rfl)
theorem dX4_leads_15 : decode cX4_leads 15 = .ok (.iconst 1, 1) := dk_4 (dk_at dksX4_leads_0 15 rfl rfl)
theorem dX4_leads_16 : decode cX4_leads 16 = .ok (.iload_n 1, 1) := dk_27 (dk_at dksX4_leads_0 16 rfl rfl)
theorem dX4_leads_17 : decode cX4_leads 17 = .ok (.ishl, 1) := dk_120 (dk_at dksX4_leads_0 17 rfl rfl)
theorem dX4_leads_18 : decode cX4_leads 18 = .ok (.istore_n 2, 1) := dk_61 (dk_at dksX4_leads_0 18 rfl rfl)
theorem dX4_leads_19 : decode cX4_leads 19 = .ok (.iconst 0, 1) := dk_3 (dk_at dksX4_leads_0 19 rfl rfl)
theorem dX4_leads_20 : decode cX4_leads 20 = .ok (.istore_n 3, 1) := dk_62 (dk_at dksX4_leads_0 20 rfl rfl)
theorem dX4_leads_21 : decode cX4_leads 21 = .ok (.iload_n 3, 1) := dk_29 (dk_at dksX4_leads_0 21 rfl rfl)
theorem dX4_leads_22 : decode cX4_leads 22 = .ok (.bipush 8, 2) := dk_16 8 (dk_at dksX4_leads_0 22 rfl rfl)
theorem dX4_leads_24 : decode cX4_leads 24 = .ok (.if_icmp .ge 54, 3) := dk_162 0 54 (dk_at dksX4_leads_1 0 rfl rfl)
theorem dX4_leads_27 : decode cX4_leads 27 = .ok (.iconst 0, 1) := dk_3 (dk_at dksX4_leads_1 3 rfl rfl)
theorem dX4_leads_28 : decode cX4_leads 28 = .ok (.istore 4, 2) := dk_54 4 (dk_at dksX4_leads_1 4 rfl rfl)
theorem dX4_leads_30 : decode cX4_leads 30 = .ok (.iload 4, 2) := dk_21 4 (dk_at dksX4_leads_1 6 rfl rfl)
theorem dX4_leads_32 : decode cX4_leads 32 = .ok (.aload_n 0, 1) := dk_42 (dk_at dksX4_leads_1 8 rfl rfl)
theorem dX4_leads_33 : decode cX4_leads 33 = .ok (.getfield 248, 3) := dk_180 0 248 (dk_at dksX4_leads_1 9 rfl rfl)
theorem dX4_leads_36 : decode cX4_leads 36 = .ok (.if_icmp .ge 36, 3) := dk_162 0 36 (dk_at dksX4_leads_1 12 rfl rfl)
theorem dX4_leads_39 : decode cX4_leads 39 = .ok (.iload_n 2, 1) := dk_28 (dk_at dksX4_leads_1 15 rfl rfl)
theorem dX4_leads_40 : decode cX4_leads 40 = .ok (.aload_n 0, 1) := dk_42 (dk_at dksX4_leads_1 16 rfl rfl)
theorem dX4_leads_41 : decode cX4_leads 41 = .ok (.getfield 26, 3) := dk_180 0 26 (dk_at dksX4_leads_1 17 rfl rfl)
theorem dX4_leads_44 : decode cX4_leads 44 = .ok (.iload 4, 2) := dk_21 4 (dk_at dksX4_leads_1 20 rfl rfl)
theorem dX4_leads_46 : decode cX4_leads 46 = .ok (.iaload, 1) := dk_46 (dk_at dksX4_leads_1 22 rfl rfl)
theorem dX4_leads_47 : decode cX4_leads 47 = .ok (.ishr, 1) := dk_122 (dk_at dksX4_leads_1 23 rfl rfl)
theorem dX4_leads_48 : decode cX4_leads 48 = .ok (.iconst 1, 1) := dk_4 (dk_at dksX4_leads_2 0 rfl rfl)
theorem dX4_leads_49 : decode cX4_leads 49 = .ok (.iand, 1) := dk_126 (dk_at dksX4_leads_2 1 rfl rfl)
theorem dX4_leads_50 : decode cX4_leads 50 = .ok (.iconst 1, 1) := dk_4 (dk_at dksX4_leads_2 2 rfl rfl)
theorem dX4_leads_51 : decode cX4_leads 51 = .ok (.if_icmp .ne 15, 3) := dk_160 0 15 (dk_at dksX4_leads_2 3 rfl rfl)
theorem dX4_leads_54 : decode cX4_leads 54 = .ok (.iload_n 2, 1) := dk_28 (dk_at dksX4_leads_2 6 rfl rfl)
theorem dX4_leads_55 : decode cX4_leads 55 = .ok (.iconst 1, 1) := dk_4 (dk_at dksX4_leads_2 7 rfl rfl)
theorem dX4_leads_56 : decode cX4_leads 56 = .ok (.aload_n 0, 1) := dk_42 (dk_at dksX4_leads_2 8 rfl rfl)
theorem dX4_leads_57 : decode cX4_leads 57 = .ok (.getfield 29, 3) := dk_180 0 29 (dk_at dksX4_leads_2 9 rfl rfl)
theorem dX4_leads_60 : decode cX4_leads 60 = .ok (.iload 4, 2) := dk_21 4 (dk_at dksX4_leads_2 12 rfl rfl)
theorem dX4_leads_62 : decode cX4_leads 62 = .ok (.iaload, 1) := dk_46 (dk_at dksX4_leads_2 14 rfl rfl)
theorem dX4_leads_63 : decode cX4_leads 63 = .ok (.ishl, 1) := dk_120 (dk_at dksX4_leads_2 15 rfl rfl)
theorem dX4_leads_64 : decode cX4_leads 64 = .ok (.ior, 1) := dk_128 (dk_at dksX4_leads_2 16 rfl rfl)
theorem dX4_leads_65 : decode cX4_leads 65 = .ok (.istore_n 2, 1) := dk_61 (dk_at dksX4_leads_2 17 rfl rfl)
theorem dX4_leads_66 : decode cX4_leads 66 = .ok (.iinc 4 1, 3) := dk_132 4 1 (dk_at dksX4_leads_2 18 rfl rfl)
theorem dX4_leads_69 : decode cX4_leads 69 = .ok (.goto (-39), 3) := dk_167 255 217 (dk_at dksX4_leads_2 21 rfl rfl)
theorem dX4_leads_72 : decode cX4_leads 72 = .ok (.iinc 3 1, 3) := dk_132 3 1 (dk_at dksX4_leads_3 0 rfl rfl)
theorem dX4_leads_75 : decode cX4_leads 75 = .ok (.goto (-54), 3) := dk_167 255 202 (dk_at dksX4_leads_3 3 rfl rfl)
theorem dX4_leads_78 : decode cX4_leads 78 = .ok (.iload_n 2, 1) := dk_28 (dk_at dksX4_leads_3 6 rfl rfl)
theorem dX4_leads_79 : decode cX4_leads 79 = .ok (.ireturn, 1) := dk_172 (dk_at dksX4_leads_3 7 rfl rfl)
def dkwX4_place_7 : List UInt8 := [167, 255, 220, 29, 172]
abbrev dktX4_place_7 : List UInt8 := dkwX4_place_7 ++ []
def dkwX4_place_6 : List UInt8 := [160, 0, 18, 42, 180, 0, 50, 21, 4, 46, 27, 160, 0, 7, 4, 167, 0, 4, 3, 96, 62, 132, 4, 1]
abbrev dktX4_place_6 : List UInt8 := dkwX4_place_6 ++ dktX4_place_7
def dkwX4_place_5 : List UInt8 := [62, 132, 4, 1, 167, 255, 201, 3, 54, 4, 21, 4, 42, 180, 1, 118, 162, 0, 33, 29, 28, 7]
abbrev dktX4_place_5 : List UInt8 := dkwX4_place_5 ++ dktX4_place_6
def dkwX4_place_4 : List UInt8 := [160, 0, 13, 42, 180, 0, 29, 21, 4, 46, 167, 0, 4, 2, 27, 160, 0, 7, 4, 167, 0, 4, 3, 96]
abbrev dktX4_place_4 : List UInt8 := dkwX4_place_4 ++ dktX4_place_5
def dkwX4_place_3 : List UInt8 := [180, 0, 248, 162, 0, 52, 29, 28, 4, 160, 0, 13, 42, 180, 0, 26, 21, 4, 46, 167, 0, 19, 28, 5]
abbrev dktX4_place_3 : List UInt8 := dkwX4_place_3 ++ dktX4_place_4
def dkwX4_place_2 : List UInt8 := [27, 46, 172, 28, 6, 160, 0, 9, 42, 27, 182, 1, 155, 172, 3, 62, 3, 54, 4, 21, 4, 42]
abbrev dktX4_place_2 : List UInt8 := dkwX4_place_2 ++ dktX4_place_3
def dkwX4_place_1 : List UInt8 := [167, 0, 4, 4, 181, 0, 1, 42, 180, 0, 1, 158, 0, 5, 3, 172, 28, 154, 0, 10, 42, 180, 0, 13]
abbrev dktX4_place_1 : List UInt8 := dkwX4_place_1 ++ dktX4_place_2
def dkwX4_place_0 : List UInt8 := [42, 42, 27, 182, 1, 112, 153, 0, 20, 28, 3, 7, 184, 0, 158, 153, 0, 7, 3, 167, 0, 8, 5]
abbrev dktX4_place_0 : List UInt8 := dkwX4_place_0 ++ dktX4_place_1
theorem dksX4_place_0 : cX4_place.data.toList.drop 0 = dktX4_place_0 := by decide +kernel
theorem dksX4_place_1 : cX4_place.data.toList.drop 23 = dktX4_place_1 := dk_seg dksX4_place_0 23 rfl rfl
theorem dksX4_place_2 : cX4_place.data.toList.drop 47 = dktX4_place_2 := dk_seg dksX4_place_1 24 rfl rfl
theorem dksX4_place_3 : cX4_place.data.toList.drop 69 = dktX4_place_3 := dk_seg dksX4_place_2 22 rfl rfl
theorem dksX4_place_4 : cX4_place.data.toList.drop 93 = dktX4_place_4 := dk_seg dksX4_place_3 24 rfl rfl
theorem dksX4_place_5 : cX4_place.data.toList.drop 117 = dktX4_place_5 := dk_seg dksX4_place_4 24 rfl rfl
theorem dksX4_place_6 : cX4_place.data.toList.drop 139 = dktX4_place_6 := dk_seg dksX4_place_5 22 rfl rfl
theorem dksX4_place_7 : cX4_place.data.toList.drop 163 = dktX4_place_7 := dk_seg dksX4_place_6 24 rfl rfl
theorem dX4_place_0 : decode cX4_place 0 = .ok (.aload_n 0, 1) := dk_42 (dk_at dksX4_place_0 0 rfl rfl)
theorem dX4_place_1 : decode cX4_place 1 = .ok (.aload_n 0, 1) := dk_42 (dk_at dksX4_place_0 1 rfl rfl)
theorem dX4_place_2 : decode cX4_place 2 = .ok (.iload_n 1, 1) := dk_27 (dk_at dksX4_place_0 2 rfl rfl)
theorem dX4_place_3 : decode cX4_place 3 = .ok (.invokevirtual 368, 3) := dk_182 1 112 (dk_at dksX4_place_0 3 rfl rfl)
theorem dX4_place_6 : decode cX4_place 6 = .ok (.ifCond .eq 20, 3) := dk_153 0 20 (dk_at dksX4_place_0 6 rfl rfl)
theorem dX4_place_9 : decode cX4_place 9 = .ok (.iload_n 2, 1) := dk_28 (dk_at dksX4_place_0 9 rfl rfl)
theorem dX4_place_10 : decode cX4_place 10 = .ok (.iconst 0, 1) := dk_3 (dk_at dksX4_place_0 10 rfl rfl)
theorem dX4_place_11 : decode cX4_place 11 = .ok (.iconst 4, 1) := dk_7 (dk_at dksX4_place_0 11 rfl rfl)
theorem dX4_place_12 : decode cX4_place 12 = .ok (.invokestatic 158, 3) := dk_184 0 158 (dk_at dksX4_place_0 12 rfl rfl)
theorem dX4_place_15 : decode cX4_place 15 = .ok (.ifCond .eq 7, 3) := dk_153 0 7 (dk_at dksX4_place_0 15 rfl rfl)
theorem dX4_place_18 : decode cX4_place 18 = .ok (.iconst 0, 1) := dk_3 (dk_at dksX4_place_0 18 rfl rfl)
theorem dX4_place_19 : decode cX4_place 19 = .ok (.goto 8, 3) := dk_167 0 8 (dk_at dksX4_place_0 19 rfl rfl)
theorem dX4_place_22 : decode cX4_place 22 = .ok (.iconst 2, 1) := dk_5 (dk_at dksX4_place_0 22 rfl rfl)
theorem dX4_place_23 : decode cX4_place 23 = .ok (.goto 4, 3) := dk_167 0 4 (dk_at dksX4_place_1 0 rfl rfl)
theorem dX4_place_26 : decode cX4_place 26 = .ok (.iconst 1, 1) := dk_4 (dk_at dksX4_place_1 3 rfl rfl)
theorem dX4_place_27 : decode cX4_place 27 = .ok (.putfield 1, 3) := dk_181 0 1 (dk_at dksX4_place_1 4 rfl rfl)
theorem dX4_place_30 : decode cX4_place 30 = .ok (.aload_n 0, 1) := dk_42 (dk_at dksX4_place_1 7 rfl rfl)
theorem dX4_place_31 : decode cX4_place 31 = .ok (.getfield 1, 3) := dk_180 0 1 (dk_at dksX4_place_1 8 rfl rfl)
theorem dX4_place_34 : decode cX4_place 34 = .ok (.ifCond .le 5, 3) := dk_158 0 5 (dk_at dksX4_place_1 11 rfl rfl)
theorem dX4_place_37 : decode cX4_place 37 = .ok (.iconst 0, 1) := dk_3 (dk_at dksX4_place_1 14 rfl rfl)
theorem dX4_place_38 : decode cX4_place 38 = .ok (.ireturn, 1) := dk_172 (dk_at dksX4_place_1 15 rfl rfl)
theorem dX4_place_39 : decode cX4_place 39 = .ok (.iload_n 2, 1) := dk_28 (dk_at dksX4_place_1 16 rfl rfl)
theorem dX4_place_40 : decode cX4_place 40 = .ok (.ifCond .ne 10, 3) := dk_154 0 10 (dk_at dksX4_place_1 17 rfl rfl)
theorem dX4_place_43 : decode cX4_place 43 = .ok (.aload_n 0, 1) := dk_42 (dk_at dksX4_place_1 20 rfl rfl)
theorem dX4_place_44 : decode cX4_place 44 = .ok (.getfield 13, 3) := dk_180 0 13 (dk_at dksX4_place_1 21 rfl rfl)
theorem dX4_place_47 : decode cX4_place 47 = .ok (.iload_n 1, 1) := dk_27 (dk_at dksX4_place_2 0 rfl rfl)
theorem dX4_place_48 : decode cX4_place 48 = .ok (.iaload, 1) := dk_46 (dk_at dksX4_place_2 1 rfl rfl)
theorem dX4_place_49 : decode cX4_place 49 = .ok (.ireturn, 1) := dk_172 (dk_at dksX4_place_2 2 rfl rfl)
theorem dX4_place_50 : decode cX4_place 50 = .ok (.iload_n 2, 1) := dk_28 (dk_at dksX4_place_2 3 rfl rfl)
theorem dX4_place_51 : decode cX4_place 51 = .ok (.iconst 3, 1) := dk_6 (dk_at dksX4_place_2 4 rfl rfl)
theorem dX4_place_52 : decode cX4_place 52 = .ok (.if_icmp .ne 9, 3) := dk_160 0 9 (dk_at dksX4_place_2 5 rfl rfl)
theorem dX4_place_55 : decode cX4_place 55 = .ok (.aload_n 0, 1) := dk_42 (dk_at dksX4_place_2 8 rfl rfl)
theorem dX4_place_56 : decode cX4_place 56 = .ok (.iload_n 1, 1) := dk_27 (dk_at dksX4_place_2 9 rfl rfl)
theorem dX4_place_57 : decode cX4_place 57 = .ok (.invokevirtual 411, 3) := dk_182 1 155 (dk_at dksX4_place_2 10 rfl rfl)
theorem dX4_place_60 : decode cX4_place 60 = .ok (.ireturn, 1) := dk_172 (dk_at dksX4_place_2 13 rfl rfl)
theorem dX4_place_61 : decode cX4_place 61 = .ok (.iconst 0, 1) := dk_3 (dk_at dksX4_place_2 14 rfl rfl)
theorem dX4_place_62 : decode cX4_place 62 = .ok (.istore_n 3, 1) := dk_62 (dk_at dksX4_place_2 15 rfl rfl)
theorem dX4_place_63 : decode cX4_place 63 = .ok (.iconst 0, 1) := dk_3 (dk_at dksX4_place_2 16 rfl rfl)
theorem dX4_place_64 : decode cX4_place 64 = .ok (.istore 4, 2) := dk_54 4 (dk_at dksX4_place_2 17 rfl rfl)
theorem dX4_place_66 : decode cX4_place 66 = .ok (.iload 4, 2) := dk_21 4 (dk_at dksX4_place_2 19 rfl rfl)
theorem dX4_place_68 : decode cX4_place 68 = .ok (.aload_n 0, 1) := dk_42 (dk_at dksX4_place_2 21 rfl rfl)
theorem dX4_place_69 : decode cX4_place 69 = .ok (.getfield 248, 3) := dk_180 0 248 (dk_at dksX4_place_3 0 rfl rfl)
theorem dX4_place_72 : decode cX4_place 72 = .ok (.if_icmp .ge 52, 3) := dk_162 0 52 (dk_at dksX4_place_3 3 rfl rfl)
theorem dX4_place_75 : decode cX4_place 75 = .ok (.iload_n 3, 1) := dk_29 (dk_at dksX4_place_3 6 rfl rfl)
theorem dX4_place_76 : decode cX4_place 76 = .ok (.iload_n 2, 1) := dk_28 (dk_at dksX4_place_3 7 rfl rfl)
theorem dX4_place_77 : decode cX4_place 77 = .ok (.iconst 1, 1) := dk_4 (dk_at dksX4_place_3 8 rfl rfl)
theorem dX4_place_78 : decode cX4_place 78 = .ok (.if_icmp .ne 13, 3) := dk_160 0 13 (dk_at dksX4_place_3 9 rfl rfl)
theorem dX4_place_81 : decode cX4_place 81 = .ok (.aload_n 0, 1) := dk_42 (dk_at dksX4_place_3 12 rfl rfl)
theorem dX4_place_82 : decode cX4_place 82 = .ok (.getfield 26, 3) := dk_180 0 26 (dk_at dksX4_place_3 13 rfl rfl)
theorem dX4_place_85 : decode cX4_place 85 = .ok (.iload 4, 2) := dk_21 4 (dk_at dksX4_place_3 16 rfl rfl)
theorem dX4_place_87 : decode cX4_place 87 = .ok (.iaload, 1) := dk_46 (dk_at dksX4_place_3 18 rfl rfl)
theorem dX4_place_88 : decode cX4_place 88 = .ok (.goto 19, 3) := dk_167 0 19 (dk_at dksX4_place_3 19 rfl rfl)
theorem dX4_place_91 : decode cX4_place 91 = .ok (.iload_n 2, 1) := dk_28 (dk_at dksX4_place_3 22 rfl rfl)
theorem dX4_place_92 : decode cX4_place 92 = .ok (.iconst 2, 1) := dk_5 (dk_at dksX4_place_3 23 rfl rfl)
theorem dX4_place_93 : decode cX4_place 93 = .ok (.if_icmp .ne 13, 3) := dk_160 0 13 (dk_at dksX4_place_4 0 rfl rfl)
theorem dX4_place_96 : decode cX4_place 96 = .ok (.aload_n 0, 1) := dk_42 (dk_at dksX4_place_4 3 rfl rfl)
theorem dX4_place_97 : decode cX4_place 97 = .ok (.getfield 29, 3) := dk_180 0 29 (dk_at dksX4_place_4 4 rfl rfl)
theorem dX4_place_100 : decode cX4_place 100 = .ok (.iload 4, 2) := dk_21 4 (dk_at dksX4_place_4 7 rfl rfl)
theorem dX4_place_102 : decode cX4_place 102 = .ok (.iaload, 1) := dk_46 (dk_at dksX4_place_4 9 rfl rfl)
theorem dX4_place_103 : decode cX4_place 103 = .ok (.goto 4, 3) := dk_167 0 4 (dk_at dksX4_place_4 10 rfl rfl)
theorem dX4_place_106 : decode cX4_place 106 = .ok (.iconst (-1), 1) := dk_2 (dk_at dksX4_place_4 13 rfl rfl)
theorem dX4_place_107 : decode cX4_place 107 = .ok (.iload_n 1, 1) := dk_27 (dk_at dksX4_place_4 14 rfl rfl)
theorem dX4_place_108 : decode cX4_place 108 = .ok (.if_icmp .ne 7, 3) := dk_160 0 7 (dk_at dksX4_place_4 15 rfl rfl)
theorem dX4_place_111 : decode cX4_place 111 = .ok (.iconst 1, 1) := dk_4 (dk_at dksX4_place_4 18 rfl rfl)
theorem dX4_place_112 : decode cX4_place 112 = .ok (.goto 4, 3) := dk_167 0 4 (dk_at dksX4_place_4 19 rfl rfl)
theorem dX4_place_115 : decode cX4_place 115 = .ok (.iconst 0, 1) := dk_3 (dk_at dksX4_place_4 22 rfl rfl)
theorem dX4_place_116 : decode cX4_place 116 = .ok (.iadd, 1) := dk_96 (dk_at dksX4_place_4 23 rfl rfl)
theorem dX4_place_117 : decode cX4_place 117 = .ok (.istore_n 3, 1) := dk_62 (dk_at dksX4_place_5 0 rfl rfl)
theorem dX4_place_118 : decode cX4_place 118 = .ok (.iinc 4 1, 3) := dk_132 4 1 (dk_at dksX4_place_5 1 rfl rfl)
theorem dX4_place_121 : decode cX4_place 121 = .ok (.goto (-55), 3) := dk_167 255 201 (dk_at dksX4_place_5 4 rfl rfl)
theorem dX4_place_124 : decode cX4_place 124 = .ok (.iconst 0, 1) := dk_3 (dk_at dksX4_place_5 7 rfl rfl)
theorem dX4_place_125 : decode cX4_place 125 = .ok (.istore 4, 2) := dk_54 4 (dk_at dksX4_place_5 8 rfl rfl)
theorem dX4_place_127 : decode cX4_place 127 = .ok (.iload 4, 2) := dk_21 4 (dk_at dksX4_place_5 10 rfl rfl)
theorem dX4_place_129 : decode cX4_place 129 = .ok (.aload_n 0, 1) := dk_42 (dk_at dksX4_place_5 12 rfl rfl)
theorem dX4_place_130 : decode cX4_place 130 = .ok (.getfield 374, 3) := dk_180 1 118 (dk_at dksX4_place_5 13 rfl rfl)
theorem dX4_place_133 : decode cX4_place 133 = .ok (.if_icmp .ge 33, 3) := dk_162 0 33 (dk_at dksX4_place_5 16 rfl rfl)
theorem dX4_place_136 : decode cX4_place 136 = .ok (.iload_n 3, 1) := dk_29 (dk_at dksX4_place_5 19 rfl rfl)
theorem dX4_place_137 : decode cX4_place 137 = .ok (.iload_n 2, 1) := dk_28 (dk_at dksX4_place_5 20 rfl rfl)
theorem dX4_place_138 : decode cX4_place 138 = .ok (.iconst 4, 1) := dk_7 (dk_at dksX4_place_5 21 rfl rfl)
theorem dX4_place_139 : decode cX4_place 139 = .ok (.if_icmp .ne 18, 3) := dk_160 0 18 (dk_at dksX4_place_6 0 rfl rfl)
theorem dX4_place_142 : decode cX4_place 142 = .ok (.aload_n 0, 1) := dk_42 (dk_at dksX4_place_6 3 rfl rfl)
theorem dX4_place_143 : decode cX4_place 143 = .ok (.getfield 50, 3) := dk_180 0 50 (dk_at dksX4_place_6 4 rfl rfl)
theorem dX4_place_146 : decode cX4_place 146 = .ok (.iload 4, 2) := dk_21 4 (dk_at dksX4_place_6 7 rfl rfl)
theorem dX4_place_148 : decode cX4_place 148 = .ok (.iaload, 1) := dk_46 (dk_at dksX4_place_6 9 rfl rfl)
theorem dX4_place_149 : decode cX4_place 149 = .ok (.iload_n 1, 1) := dk_27 (dk_at dksX4_place_6 10 rfl rfl)
theorem dX4_place_150 : decode cX4_place 150 = .ok (.if_icmp .ne 7, 3) := dk_160 0 7 (dk_at dksX4_place_6 11 rfl rfl)
theorem dX4_place_153 : decode cX4_place 153 = .ok (.iconst 1, 1) := dk_4 (dk_at dksX4_place_6 14 rfl rfl)
theorem dX4_place_154 : decode cX4_place 154 = .ok (.goto 4, 3) := dk_167 0 4 (dk_at dksX4_place_6 15 rfl rfl)
theorem dX4_place_157 : decode cX4_place 157 = .ok (.iconst 0, 1) := dk_3 (dk_at dksX4_place_6 18 rfl rfl)
theorem dX4_place_158 : decode cX4_place 158 = .ok (.iadd, 1) := dk_96 (dk_at dksX4_place_6 19 rfl rfl)
theorem dX4_place_159 : decode cX4_place 159 = .ok (.istore_n 3, 1) := dk_62 (dk_at dksX4_place_6 20 rfl rfl)
theorem dX4_place_160 : decode cX4_place 160 = .ok (.iinc 4 1, 3) := dk_132 4 1 (dk_at dksX4_place_6 21 rfl rfl)
theorem dX4_place_163 : decode cX4_place 163 = .ok (.goto (-36), 3) := dk_167 255 220 (dk_at dksX4_place_7 0 rfl rfl)
theorem dX4_place_166 : decode cX4_place 166 = .ok (.iload_n 3, 1) := dk_29 (dk_at dksX4_place_7 3 rfl rfl)
theorem dX4_place_167 : decode cX4_place 167 = .ok (.ireturn, 1) := dk_172 (dk_at dksX4_place_7 4 rfl rfl)
def dkwX4_edge_5 : List UInt8 := [132, 3, 1, 167, 255, 233, 3, 172]
abbrev dktX4_edge_5 : List UInt8 := dkwX4_edge_5 ++ []
def dkwX4_edge_4 : List UInt8 := [3, 62, 29, 42, 180, 1, 118, 162, 0, 21, 42, 180, 0, 56, 29, 46, 27, 160, 0, 5, 4, 172]
abbrev dktX4_edge_4 : List UInt8 := dkwX4_edge_4 ++ dktX4_edge_5
def dkwX4_edge_3 : List UInt8 := [28, 5, 160, 0, 15, 42, 180, 0, 13, 16, 8, 27, 96, 46, 167, 0, 9, 42, 180, 0, 32, 27, 46, 172]
abbrev dktX4_edge_3 : List UInt8 := dkwX4_edge_3 ++ dktX4_edge_4
def dkwX4_edge_2 : List UInt8 := [154, 0, 12, 42, 180, 0, 26, 27, 46, 167, 0, 9, 42, 180, 0, 29, 27, 46, 172, 28, 7, 162, 0, 27]
abbrev dktX4_edge_2 : List UInt8 := dkwX4_edge_2 ++ dktX4_edge_3
def dkwX4_edge_1 : List UInt8 := [167, 0, 4, 4, 181, 0, 1, 42, 180, 0, 1, 158, 0, 5, 3, 172, 28, 5, 162, 0, 23, 28]
abbrev dktX4_edge_1 : List UInt8 := dkwX4_edge_1 ++ dktX4_edge_2
def dkwX4_edge_0 : List UInt8 := [42, 42, 27, 182, 1, 103, 153, 0, 20, 28, 3, 7, 184, 0, 158, 153, 0, 7, 3, 167, 0, 8, 5]
abbrev dktX4_edge_0 : List UInt8 := dkwX4_edge_0 ++ dktX4_edge_1
theorem dksX4_edge_0 : cX4_edge.data.toList.drop 0 = dktX4_edge_0 := by decide +kernel
theorem dksX4_edge_1 : cX4_edge.data.toList.drop 23 = dktX4_edge_1 := dk_seg dksX4_edge_0 23 rfl rfl
theorem dksX4_edge_2 : cX4_edge.data.toList.drop 45 = dktX4_edge_2 := dk_seg dksX4_edge_1 22 rfl rfl
theorem dksX4_edge_3 : cX4_edge.data.toList.drop 69 = dktX4_edge_3 := dk_seg dksX4_edge_2 24 rfl rfl
theorem dksX4_edge_4 : cX4_edge.data.toList.drop 93 = dktX4_edge_4 := dk_seg dksX4_edge_3 24 rfl rfl
theorem dksX4_edge_5 : cX4_edge.data.toList.drop 115 = dktX4_edge_5 := dk_seg dksX4_edge_4 22 rfl rfl
theorem dX4_edge_0 : decode cX4_edge 0 = .ok (.aload_n 0, 1) := dk_42 (dk_at dksX4_edge_0 0 rfl rfl)
theorem dX4_edge_1 : decode cX4_edge 1 = .ok (.aload_n 0, 1) := dk_42 (dk_at dksX4_edge_0 1 rfl rfl)
theorem dX4_edge_2 : decode cX4_edge 2 = .ok (.iload_n 1, 1) := dk_27 (dk_at dksX4_edge_0 2 rfl rfl)
theorem dX4_edge_3 : decode cX4_edge 3 = .ok (.invokevirtual 359, 3) := dk_182 1 103 (dk_at dksX4_edge_0 3 rfl rfl)
theorem dX4_edge_6 : decode cX4_edge 6 = .ok (.ifCond .eq 20, 3) := dk_153 0 20 (dk_at dksX4_edge_0 6 rfl rfl)
theorem dX4_edge_9 : decode cX4_edge 9 = .ok (.iload_n 2, 1) := dk_28 (dk_at dksX4_edge_0 9 rfl rfl)
theorem dX4_edge_10 : decode cX4_edge 10 = .ok (.iconst 0, 1) := dk_3 (dk_at dksX4_edge_0 10 rfl rfl)
theorem dX4_edge_11 : decode cX4_edge 11 = .ok (.iconst 4, 1) := dk_7 (dk_at dksX4_edge_0 11 rfl rfl)
theorem dX4_edge_12 : decode cX4_edge 12 = .ok (.invokestatic 158, 3) := dk_184 0 158 (dk_at dksX4_edge_0 12 rfl rfl)
theorem dX4_edge_15 : decode cX4_edge 15 = .ok (.ifCond .eq 7, 3) := dk_153 0 7 (dk_at dksX4_edge_0 15 rfl rfl)
theorem dX4_edge_18 : decode cX4_edge 18 = .ok (.iconst 0, 1) := dk_3 (dk_at dksX4_edge_0 18 rfl rfl)
theorem dX4_edge_19 : decode cX4_edge 19 = .ok (.goto 8, 3) := dk_167 0 8 (dk_at dksX4_edge_0 19 rfl rfl)
theorem dX4_edge_22 : decode cX4_edge 22 = .ok (.iconst 2, 1) := dk_5 (dk_at dksX4_edge_0 22 rfl rfl)
theorem dX4_edge_23 : decode cX4_edge 23 = .ok (.goto 4, 3) := dk_167 0 4 (dk_at dksX4_edge_1 0 rfl rfl)
theorem dX4_edge_26 : decode cX4_edge 26 = .ok (.iconst 1, 1) := dk_4 (dk_at dksX4_edge_1 3 rfl rfl)
theorem dX4_edge_27 : decode cX4_edge 27 = .ok (.putfield 1, 3) := dk_181 0 1 (dk_at dksX4_edge_1 4 rfl rfl)
theorem dX4_edge_30 : decode cX4_edge 30 = .ok (.aload_n 0, 1) := dk_42 (dk_at dksX4_edge_1 7 rfl rfl)
theorem dX4_edge_31 : decode cX4_edge 31 = .ok (.getfield 1, 3) := dk_180 0 1 (dk_at dksX4_edge_1 8 rfl rfl)
theorem dX4_edge_34 : decode cX4_edge 34 = .ok (.ifCond .le 5, 3) := dk_158 0 5 (dk_at dksX4_edge_1 11 rfl rfl)
theorem dX4_edge_37 : decode cX4_edge 37 = .ok (.iconst 0, 1) := dk_3 (dk_at dksX4_edge_1 14 rfl rfl)
theorem dX4_edge_38 : decode cX4_edge 38 = .ok (.ireturn, 1) := dk_172 (dk_at dksX4_edge_1 15 rfl rfl)
theorem dX4_edge_39 : decode cX4_edge 39 = .ok (.iload_n 2, 1) := dk_28 (dk_at dksX4_edge_1 16 rfl rfl)
theorem dX4_edge_40 : decode cX4_edge 40 = .ok (.iconst 2, 1) := dk_5 (dk_at dksX4_edge_1 17 rfl rfl)
theorem dX4_edge_41 : decode cX4_edge 41 = .ok (.if_icmp .ge 23, 3) := dk_162 0 23 (dk_at dksX4_edge_1 18 rfl rfl)
theorem dX4_edge_44 : decode cX4_edge 44 = .ok (.iload_n 2, 1) := dk_28 (dk_at dksX4_edge_1 21 rfl rfl)
theorem dX4_edge_45 : decode cX4_edge 45 = .ok (.ifCond .ne 12, 3) := dk_154 0 12 (dk_at dksX4_edge_2 0 rfl rfl)
theorem dX4_edge_48 : decode cX4_edge 48 = .ok (.aload_n 0, 1) := dk_42 (dk_at dksX4_edge_2 3 rfl rfl)
theorem dX4_edge_49 : decode cX4_edge 49 = .ok (.getfield 26, 3) := dk_180 0 26 (dk_at dksX4_edge_2 4 rfl rfl)
theorem dX4_edge_52 : decode cX4_edge 52 = .ok (.iload_n 1, 1) := dk_27 (dk_at dksX4_edge_2 7 rfl rfl)
theorem dX4_edge_53 : decode cX4_edge 53 = .ok (.iaload, 1) := dk_46 (dk_at dksX4_edge_2 8 rfl rfl)
theorem dX4_edge_54 : decode cX4_edge 54 = .ok (.goto 9, 3) := dk_167 0 9 (dk_at dksX4_edge_2 9 rfl rfl)
theorem dX4_edge_57 : decode cX4_edge 57 = .ok (.aload_n 0, 1) := dk_42 (dk_at dksX4_edge_2 12 rfl rfl)
theorem dX4_edge_58 : decode cX4_edge 58 = .ok (.getfield 29, 3) := dk_180 0 29 (dk_at dksX4_edge_2 13 rfl rfl)
theorem dX4_edge_61 : decode cX4_edge 61 = .ok (.iload_n 1, 1) := dk_27 (dk_at dksX4_edge_2 16 rfl rfl)
theorem dX4_edge_62 : decode cX4_edge 62 = .ok (.iaload, 1) := dk_46 (dk_at dksX4_edge_2 17 rfl rfl)
theorem dX4_edge_63 : decode cX4_edge 63 = .ok (.ireturn, 1) := dk_172 (dk_at dksX4_edge_2 18 rfl rfl)
theorem dX4_edge_64 : decode cX4_edge 64 = .ok (.iload_n 2, 1) := dk_28 (dk_at dksX4_edge_2 19 rfl rfl)
theorem dX4_edge_65 : decode cX4_edge 65 = .ok (.iconst 4, 1) := dk_7 (dk_at dksX4_edge_2 20 rfl rfl)
theorem dX4_edge_66 : decode cX4_edge 66 = .ok (.if_icmp .ge 27, 3) := dk_162 0 27 (dk_at dksX4_edge_2 21 rfl rfl)
theorem dX4_edge_69 : decode cX4_edge 69 = .ok (.iload_n 2, 1) := dk_28 (dk_at dksX4_edge_3 0 rfl rfl)
theorem dX4_edge_70 : decode cX4_edge 70 = .ok (.iconst 2, 1) := dk_5 (dk_at dksX4_edge_3 1 rfl rfl)
theorem dX4_edge_71 : decode cX4_edge 71 = .ok (.if_icmp .ne 15, 3) := dk_160 0 15 (dk_at dksX4_edge_3 2 rfl rfl)
theorem dX4_edge_74 : decode cX4_edge 74 = .ok (.aload_n 0, 1) := dk_42 (dk_at dksX4_edge_3 5 rfl rfl)
theorem dX4_edge_75 : decode cX4_edge 75 = .ok (.getfield 13, 3) := dk_180 0 13 (dk_at dksX4_edge_3 6 rfl rfl)
theorem dX4_edge_78 : decode cX4_edge 78 = .ok (.bipush 8, 2) := dk_16 8 (dk_at dksX4_edge_3 9 rfl rfl)
theorem dX4_edge_80 : decode cX4_edge 80 = .ok (.iload_n 1, 1) := dk_27 (dk_at dksX4_edge_3 11 rfl rfl)
theorem dX4_edge_81 : decode cX4_edge 81 = .ok (.iadd, 1) := dk_96 (dk_at dksX4_edge_3 12 rfl rfl)
theorem dX4_edge_82 : decode cX4_edge 82 = .ok (.iaload, 1) := dk_46 (dk_at dksX4_edge_3 13 rfl rfl)
theorem dX4_edge_83 : decode cX4_edge 83 = .ok (.goto 9, 3) := dk_167 0 9 (dk_at dksX4_edge_3 14 rfl rfl)
theorem dX4_edge_86 : decode cX4_edge 86 = .ok (.aload_n 0, 1) := dk_42 (dk_at dksX4_edge_3 17 rfl rfl)
theorem dX4_edge_87 : decode cX4_edge 87 = .ok (.getfield 32, 3) := dk_180 0 32 (dk_at dksX4_edge_3 18 rfl rfl)
theorem dX4_edge_90 : decode cX4_edge 90 = .ok (.iload_n 1, 1) := dk_27 (dk_at dksX4_edge_3 21 rfl rfl)
theorem dX4_edge_91 : decode cX4_edge 91 = .ok (.iaload, 1) := dk_46 (dk_at dksX4_edge_3 22 rfl rfl)
theorem dX4_edge_92 : decode cX4_edge 92 = .ok (.ireturn, 1) := dk_172 (dk_at dksX4_edge_3 23 rfl rfl)
theorem dX4_edge_93 : decode cX4_edge 93 = .ok (.iconst 0, 1) := dk_3 (dk_at dksX4_edge_4 0 rfl rfl)
theorem dX4_edge_94 : decode cX4_edge 94 = .ok (.istore_n 3, 1) := dk_62 (dk_at dksX4_edge_4 1 rfl rfl)
theorem dX4_edge_95 : decode cX4_edge 95 = .ok (.iload_n 3, 1) := dk_29 (dk_at dksX4_edge_4 2 rfl rfl)
theorem dX4_edge_96 : decode cX4_edge 96 = .ok (.aload_n 0, 1) := dk_42 (dk_at dksX4_edge_4 3 rfl rfl)
theorem dX4_edge_97 : decode cX4_edge 97 = .ok (.getfield 374, 3) := dk_180 1 118 (dk_at dksX4_edge_4 4 rfl rfl)
theorem dX4_edge_100 : decode cX4_edge 100 = .ok (.if_icmp .ge 21, 3) := dk_162 0 21 (dk_at dksX4_edge_4 7 rfl rfl)
theorem dX4_edge_103 : decode cX4_edge 103 = .ok (.aload_n 0, 1) := dk_42 (dk_at dksX4_edge_4 10 rfl rfl)
theorem dX4_edge_104 : decode cX4_edge 104 = .ok (.getfield 56, 3) := dk_180 0 56 (dk_at dksX4_edge_4 11 rfl rfl)
theorem dX4_edge_107 : decode cX4_edge 107 = .ok (.iload_n 3, 1) := dk_29 (dk_at dksX4_edge_4 14 rfl rfl)
theorem dX4_edge_108 : decode cX4_edge 108 = .ok (.iaload, 1) := dk_46 (dk_at dksX4_edge_4 15 rfl rfl)
theorem dX4_edge_109 : decode cX4_edge 109 = .ok (.iload_n 1, 1) := dk_27 (dk_at dksX4_edge_4 16 rfl rfl)
theorem dX4_edge_110 : decode cX4_edge 110 = .ok (.if_icmp .ne 5, 3) := dk_160 0 5 (dk_at dksX4_edge_4 17 rfl rfl)
theorem dX4_edge_113 : decode cX4_edge 113 = .ok (.iconst 1, 1) := dk_4 (dk_at dksX4_edge_4 20 rfl rfl)
theorem dX4_edge_114 : decode cX4_edge 114 = .ok (.ireturn, 1) := dk_172 (dk_at dksX4_edge_4 21 rfl rfl)
theorem dX4_edge_115 : decode cX4_edge 115 = .ok (.iinc 3 1, 3) := dk_132 3 1 (dk_at dksX4_edge_5 0 rfl rfl)
theorem dX4_edge_118 : decode cX4_edge 118 = .ok (.goto (-23), 3) := dk_167 255 233 (dk_at dksX4_edge_5 3 rfl rfl)
theorem dX4_edge_121 : decode cX4_edge 121 = .ok (.iconst 0, 1) := dk_3 (dk_at dksX4_edge_5 6 rfl rfl)
theorem dX4_edge_122 : decode cX4_edge 122 = .ok (.ireturn, 1) := dk_172 (dk_at dksX4_edge_5 7 rfl rfl)
def dkwX4_when_3 : List UInt8 := [4, 160, 0, 13, 42, 180, 0, 20, 21, 4, 46, 167, 0, 10, 42, 180, 0, 23, 21, 4, 46, 172]
abbrev dktX4_when_3 : List UInt8 := dkwX4_when_3 ++ []
def dkwX4_when_2 : List UInt8 := [16, 8, 27, 96, 104, 28, 96, 54, 4, 29, 154, 0, 13, 42, 180, 0, 17, 21, 4, 46, 167, 0, 25, 29]
abbrev dktX4_when_2 : List UInt8 := dkwX4_when_2 ++ dktX4_when_3
def dkwX4_when_1 : List UInt8 := [154, 0, 5, 2, 172, 28, 42, 180, 0, 13, 16, 8, 27, 96, 46, 161, 0, 6, 16, 254, 172, 16, 6]
abbrev dktX4_when_1 : List UInt8 := dkwX4_when_1 ++ dktX4_when_2
def dkwX4_when_0 : List UInt8 := [42, 3, 181, 0, 1, 42, 27, 182, 1, 103, 153, 0, 16, 28, 155, 0, 12, 29, 3, 5, 184, 0, 158]
abbrev dktX4_when_0 : List UInt8 := dkwX4_when_0 ++ dktX4_when_1
theorem dksX4_when_0 : cX4_when.data.toList.drop 0 = dktX4_when_0 := by decide +kernel
theorem dksX4_when_1 : cX4_when.data.toList.drop 23 = dktX4_when_1 := dk_seg dksX4_when_0 23 rfl rfl
theorem dksX4_when_2 : cX4_when.data.toList.drop 46 = dktX4_when_2 := dk_seg dksX4_when_1 23 rfl rfl
theorem dksX4_when_3 : cX4_when.data.toList.drop 70 = dktX4_when_3 := dk_seg dksX4_when_2 24 rfl rfl
theorem dX4_when_0 : decode cX4_when 0 = .ok (.aload_n 0, 1) := dk_42 (dk_at dksX4_when_0 0 rfl rfl)
theorem dX4_when_1 : decode cX4_when 1 = .ok (.iconst 0, 1) := dk_3 (dk_at dksX4_when_0 1 rfl rfl)
theorem dX4_when_2 : decode cX4_when 2 = .ok (.putfield 1, 3) := dk_181 0 1 (dk_at dksX4_when_0 2 rfl rfl)
theorem dX4_when_5 : decode cX4_when 5 = .ok (.aload_n 0, 1) := dk_42 (dk_at dksX4_when_0 5 rfl rfl)
theorem dX4_when_6 : decode cX4_when 6 = .ok (.iload_n 1, 1) := dk_27 (dk_at dksX4_when_0 6 rfl rfl)
theorem dX4_when_7 : decode cX4_when 7 = .ok (.invokevirtual 359, 3) := dk_182 1 103 (dk_at dksX4_when_0 7 rfl rfl)
theorem dX4_when_10 : decode cX4_when 10 = .ok (.ifCond .eq 16, 3) := dk_153 0 16 (dk_at dksX4_when_0 10 rfl rfl)
theorem dX4_when_13 : decode cX4_when 13 = .ok (.iload_n 2, 1) := dk_28 (dk_at dksX4_when_0 13 rfl rfl)
theorem dX4_when_14 : decode cX4_when 14 = .ok (.ifCond .lt 12, 3) := dk_155 0 12 (dk_at dksX4_when_0 14 rfl rfl)
theorem dX4_when_17 : decode cX4_when 17 = .ok (.iload_n 3, 1) := dk_29 (dk_at dksX4_when_0 17 rfl rfl)
theorem dX4_when_18 : decode cX4_when 18 = .ok (.iconst 0, 1) := dk_3 (dk_at dksX4_when_0 18 rfl rfl)
theorem dX4_when_19 : decode cX4_when 19 = .ok (.iconst 2, 1) := dk_5 (dk_at dksX4_when_0 19 rfl rfl)
theorem dX4_when_20 : decode cX4_when 20 = .ok (.invokestatic 158, 3) := dk_184 0 158 (dk_at dksX4_when_0 20 rfl rfl)
theorem dX4_when_23 : decode cX4_when 23 = .ok (.ifCond .ne 5, 3) := dk_154 0 5 (dk_at dksX4_when_1 0 rfl rfl)
theorem dX4_when_26 : decode cX4_when 26 = .ok (.iconst (-1), 1) := dk_2 (dk_at dksX4_when_1 3 rfl rfl)
theorem dX4_when_27 : decode cX4_when 27 = .ok (.ireturn, 1) := dk_172 (dk_at dksX4_when_1 4 rfl rfl)
theorem dX4_when_28 : decode cX4_when 28 = .ok (.iload_n 2, 1) := dk_28 (dk_at dksX4_when_1 5 rfl rfl)
theorem dX4_when_29 : decode cX4_when 29 = .ok (.aload_n 0, 1) := dk_42 (dk_at dksX4_when_1 6 rfl rfl)
theorem dX4_when_30 : decode cX4_when 30 = .ok (.getfield 13, 3) := dk_180 0 13 (dk_at dksX4_when_1 7 rfl rfl)
theorem dX4_when_33 : decode cX4_when 33 = .ok (.bipush 8, 2) := dk_16 8 (dk_at dksX4_when_1 10 rfl rfl)
theorem dX4_when_35 : decode cX4_when 35 = .ok (.iload_n 1, 1) := dk_27 (dk_at dksX4_when_1 12 rfl rfl)
theorem dX4_when_36 : decode cX4_when 36 = .ok (.iadd, 1) := dk_96 (dk_at dksX4_when_1 13 rfl rfl)
theorem dX4_when_37 : decode cX4_when 37 = .ok (.iaload, 1) := dk_46 (dk_at dksX4_when_1 14 rfl rfl)
theorem dX4_when_38 : decode cX4_when 38 = .ok (.if_icmp .lt 6, 3) := dk_161 0 6 (dk_at dksX4_when_1 15 rfl rfl)
theorem dX4_when_41 : decode cX4_when 41 = .ok (.bipush (-2), 2) := dk_16 254 (dk_at dksX4_when_1 18 rfl rfl)
theorem dX4_when_43 : decode cX4_when 43 = .ok (.ireturn, 1) := dk_172 (dk_at dksX4_when_1 20 rfl rfl)
theorem dX4_when_44 : decode cX4_when 44 = .ok (.bipush 6, 2) := dk_16 6 (dk_at dksX4_when_1 21 rfl rfl)
theorem dX4_when_46 : decode cX4_when 46 = .ok (.bipush 8, 2) := dk_16 8 (dk_at dksX4_when_2 0 rfl rfl)
theorem dX4_when_48 : decode cX4_when 48 = .ok (.iload_n 1, 1) := dk_27 (dk_at dksX4_when_2 2 rfl rfl)
theorem dX4_when_49 : decode cX4_when 49 = .ok (.iadd, 1) := dk_96 (dk_at dksX4_when_2 3 rfl rfl)
theorem dX4_when_50 : decode cX4_when 50 = .ok (.imul, 1) := dk_104 (dk_at dksX4_when_2 4 rfl rfl)
theorem dX4_when_51 : decode cX4_when 51 = .ok (.iload_n 2, 1) := dk_28 (dk_at dksX4_when_2 5 rfl rfl)
theorem dX4_when_52 : decode cX4_when 52 = .ok (.iadd, 1) := dk_96 (dk_at dksX4_when_2 6 rfl rfl)
theorem dX4_when_53 : decode cX4_when 53 = .ok (.istore 4, 2) := dk_54 4 (dk_at dksX4_when_2 7 rfl rfl)
theorem dX4_when_55 : decode cX4_when 55 = .ok (.iload_n 3, 1) := dk_29 (dk_at dksX4_when_2 9 rfl rfl)
theorem dX4_when_56 : decode cX4_when 56 = .ok (.ifCond .ne 13, 3) := dk_154 0 13 (dk_at dksX4_when_2 10 rfl rfl)
theorem dX4_when_59 : decode cX4_when 59 = .ok (.aload_n 0, 1) := dk_42 (dk_at dksX4_when_2 13 rfl rfl)
theorem dX4_when_60 : decode cX4_when 60 = .ok (.getfield 17, 3) := dk_180 0 17 (dk_at dksX4_when_2 14 rfl rfl)
theorem dX4_when_63 : decode cX4_when 63 = .ok (.iload 4, 2) := dk_21 4 (dk_at dksX4_when_2 17 rfl rfl)
theorem dX4_when_65 : decode cX4_when 65 = .ok (.iaload, 1) := dk_46 (dk_at dksX4_when_2 19 rfl rfl)
theorem dX4_when_66 : decode cX4_when 66 = .ok (.goto 25, 3) := dk_167 0 25 (dk_at dksX4_when_2 20 rfl rfl)
theorem dX4_when_69 : decode cX4_when 69 = .ok (.iload_n 3, 1) := dk_29 (dk_at dksX4_when_2 23 rfl rfl)
theorem dX4_when_70 : decode cX4_when 70 = .ok (.iconst 1, 1) := dk_4 (dk_at dksX4_when_3 0 rfl rfl)
theorem dX4_when_71 : decode cX4_when 71 = .ok (.if_icmp .ne 13, 3) := dk_160 0 13 (dk_at dksX4_when_3 1 rfl rfl)
theorem dX4_when_74 : decode cX4_when 74 = .ok (.aload_n 0, 1) := dk_42 (dk_at dksX4_when_3 4 rfl rfl)
theorem dX4_when_75 : decode cX4_when 75 = .ok (.getfield 20, 3) := dk_180 0 20 (dk_at dksX4_when_3 5 rfl rfl)
theorem dX4_when_78 : decode cX4_when 78 = .ok (.iload 4, 2) := dk_21 4 (dk_at dksX4_when_3 8 rfl rfl)
theorem dX4_when_80 : decode cX4_when 80 = .ok (.iaload, 1) := dk_46 (dk_at dksX4_when_3 10 rfl rfl)
theorem dX4_when_81 : decode cX4_when 81 = .ok (.goto 10, 3) := dk_167 0 10 (dk_at dksX4_when_3 11 rfl rfl)
theorem dX4_when_84 : decode cX4_when 84 = .ok (.aload_n 0, 1) := dk_42 (dk_at dksX4_when_3 14 rfl rfl)
theorem dX4_when_85 : decode cX4_when 85 = .ok (.getfield 23, 3) := dk_180 0 23 (dk_at dksX4_when_3 15 rfl rfl)
theorem dX4_when_88 : decode cX4_when 88 = .ok (.iload 4, 2) := dk_21 4 (dk_at dksX4_when_3 18 rfl rfl)
theorem dX4_when_90 : decode cX4_when 90 = .ok (.iaload, 1) := dk_46 (dk_at dksX4_when_3 20 rfl rfl)
theorem dX4_when_91 : decode cX4_when 91 = .ok (.ireturn, 1) := dk_172 (dk_at dksX4_when_3 21 rfl rfl)
def dkwX4_set_2 : List UInt8 := [27, 104, 28, 96, 46, 167, 0, 13, 42, 180, 0, 38, 7, 27, 104, 28, 96, 46, 172]
abbrev dktX4_set_2 : List UInt8 := dkwX4_set_2 ++ []
def dkwX4_set_1 : List UInt8 := [2, 172, 28, 42, 180, 0, 32, 27, 46, 161, 0, 6, 16, 254, 172, 29, 154, 0, 16, 42, 180, 0, 35, 7]
abbrev dktX4_set_1 : List UInt8 := dkwX4_set_1 ++ dktX4_set_2
def dkwX4_set_0 : List UInt8 := [42, 3, 181, 0, 1, 42, 27, 182, 1, 103, 153, 0, 14, 28, 155, 0, 10, 29, 184, 1, 87, 154, 0, 5]
abbrev dktX4_set_0 : List UInt8 := dkwX4_set_0 ++ dktX4_set_1
theorem dksX4_set_0 : cX4_set.data.toList.drop 0 = dktX4_set_0 := by decide +kernel
theorem dksX4_set_1 : cX4_set.data.toList.drop 24 = dktX4_set_1 := dk_seg dksX4_set_0 24 rfl rfl
theorem dksX4_set_2 : cX4_set.data.toList.drop 48 = dktX4_set_2 := dk_seg dksX4_set_1 24 rfl rfl
theorem dX4_set_0 : decode cX4_set 0 = .ok (.aload_n 0, 1) := dk_42 (dk_at dksX4_set_0 0 rfl rfl)
theorem dX4_set_1 : decode cX4_set 1 = .ok (.iconst 0, 1) := dk_3 (dk_at dksX4_set_0 1 rfl rfl)
theorem dX4_set_2 : decode cX4_set 2 = .ok (.putfield 1, 3) := dk_181 0 1 (dk_at dksX4_set_0 2 rfl rfl)
theorem dX4_set_5 : decode cX4_set 5 = .ok (.aload_n 0, 1) := dk_42 (dk_at dksX4_set_0 5 rfl rfl)
theorem dX4_set_6 : decode cX4_set 6 = .ok (.iload_n 1, 1) := dk_27 (dk_at dksX4_set_0 6 rfl rfl)
theorem dX4_set_7 : decode cX4_set 7 = .ok (.invokevirtual 359, 3) := dk_182 1 103 (dk_at dksX4_set_0 7 rfl rfl)
theorem dX4_set_10 : decode cX4_set 10 = .ok (.ifCond .eq 14, 3) := dk_153 0 14 (dk_at dksX4_set_0 10 rfl rfl)
theorem dX4_set_13 : decode cX4_set 13 = .ok (.iload_n 2, 1) := dk_28 (dk_at dksX4_set_0 13 rfl rfl)
theorem dX4_set_14 : decode cX4_set 14 = .ok (.ifCond .lt 10, 3) := dk_155 0 10 (dk_at dksX4_set_0 14 rfl rfl)
theorem dX4_set_17 : decode cX4_set 17 = .ok (.iload_n 3, 1) := dk_29 (dk_at dksX4_set_0 17 rfl rfl)
theorem dX4_set_18 : decode cX4_set 18 = .ok (.invokestatic 343, 3) := dk_184 1 87 (dk_at dksX4_set_0 18 rfl rfl)
theorem dX4_set_21 : decode cX4_set 21 = .ok (.ifCond .ne 5, 3) := dk_154 0 5 (dk_at dksX4_set_0 21 rfl rfl)
theorem dX4_set_24 : decode cX4_set 24 = .ok (.iconst (-1), 1) := dk_2 (dk_at dksX4_set_1 0 rfl rfl)
theorem dX4_set_25 : decode cX4_set 25 = .ok (.ireturn, 1) := dk_172 (dk_at dksX4_set_1 1 rfl rfl)
theorem dX4_set_26 : decode cX4_set 26 = .ok (.iload_n 2, 1) := dk_28 (dk_at dksX4_set_1 2 rfl rfl)
theorem dX4_set_27 : decode cX4_set 27 = .ok (.aload_n 0, 1) := dk_42 (dk_at dksX4_set_1 3 rfl rfl)
theorem dX4_set_28 : decode cX4_set 28 = .ok (.getfield 32, 3) := dk_180 0 32 (dk_at dksX4_set_1 4 rfl rfl)
theorem dX4_set_31 : decode cX4_set 31 = .ok (.iload_n 1, 1) := dk_27 (dk_at dksX4_set_1 7 rfl rfl)
theorem dX4_set_32 : decode cX4_set 32 = .ok (.iaload, 1) := dk_46 (dk_at dksX4_set_1 8 rfl rfl)
theorem dX4_set_33 : decode cX4_set 33 = .ok (.if_icmp .lt 6, 3) := dk_161 0 6 (dk_at dksX4_set_1 9 rfl rfl)
theorem dX4_set_36 : decode cX4_set 36 = .ok (.bipush (-2), 2) := dk_16 254 (dk_at dksX4_set_1 12 rfl rfl)
theorem dX4_set_38 : decode cX4_set 38 = .ok (.ireturn, 1) := dk_172 (dk_at dksX4_set_1 14 rfl rfl)
theorem dX4_set_39 : decode cX4_set 39 = .ok (.iload_n 3, 1) := dk_29 (dk_at dksX4_set_1 15 rfl rfl)
theorem dX4_set_40 : decode cX4_set 40 = .ok (.ifCond .ne 16, 3) := dk_154 0 16 (dk_at dksX4_set_1 16 rfl rfl)
theorem dX4_set_43 : decode cX4_set 43 = .ok (.aload_n 0, 1) := dk_42 (dk_at dksX4_set_1 19 rfl rfl)
theorem dX4_set_44 : decode cX4_set 44 = .ok (.getfield 35, 3) := dk_180 0 35 (dk_at dksX4_set_1 20 rfl rfl)
theorem dX4_set_47 : decode cX4_set 47 = .ok (.iconst 4, 1) := dk_7 (dk_at dksX4_set_1 23 rfl rfl)
theorem dX4_set_48 : decode cX4_set 48 = .ok (.iload_n 1, 1) := dk_27 (dk_at dksX4_set_2 0 rfl rfl)
theorem dX4_set_49 : decode cX4_set 49 = .ok (.imul, 1) := dk_104 (dk_at dksX4_set_2 1 rfl rfl)
theorem dX4_set_50 : decode cX4_set 50 = .ok (.iload_n 2, 1) := dk_28 (dk_at dksX4_set_2 2 rfl rfl)
theorem dX4_set_51 : decode cX4_set 51 = .ok (.iadd, 1) := dk_96 (dk_at dksX4_set_2 3 rfl rfl)
theorem dX4_set_52 : decode cX4_set 52 = .ok (.iaload, 1) := dk_46 (dk_at dksX4_set_2 4 rfl rfl)
theorem dX4_set_53 : decode cX4_set 53 = .ok (.goto 13, 3) := dk_167 0 13 (dk_at dksX4_set_2 5 rfl rfl)
theorem dX4_set_56 : decode cX4_set 56 = .ok (.aload_n 0, 1) := dk_42 (dk_at dksX4_set_2 8 rfl rfl)
theorem dX4_set_57 : decode cX4_set 57 = .ok (.getfield 38, 3) := dk_180 0 38 (dk_at dksX4_set_2 9 rfl rfl)
theorem dX4_set_60 : decode cX4_set 60 = .ok (.iconst 4, 1) := dk_7 (dk_at dksX4_set_2 12 rfl rfl)
theorem dX4_set_61 : decode cX4_set 61 = .ok (.iload_n 1, 1) := dk_27 (dk_at dksX4_set_2 13 rfl rfl)
theorem dX4_set_62 : decode cX4_set 62 = .ok (.imul, 1) := dk_104 (dk_at dksX4_set_2 14 rfl rfl)
theorem dX4_set_63 : decode cX4_set 63 = .ok (.iload_n 2, 1) := dk_28 (dk_at dksX4_set_2 15 rfl rfl)
theorem dX4_set_64 : decode cX4_set 64 = .ok (.iadd, 1) := dk_96 (dk_at dksX4_set_2 16 rfl rfl)
theorem dX4_set_65 : decode cX4_set 65 = .ok (.iaload, 1) := dk_46 (dk_at dksX4_set_2 17 rfl rfl)
theorem dX4_set_66 : decode cX4_set 66 = .ok (.ireturn, 1) := dk_172 (dk_at dksX4_set_2 18 rfl rfl)
def dkwX4_tells_4 : List UInt8 := [182, 1, 167, 153, 0, 10, 4, 21, 4, 120, 167, 0, 4, 3, 128, 62, 132, 4, 1, 167, 255, 173, 29, 172]
abbrev dktX4_tells_4 : List UInt8 := dkwX4_tells_4 ++ []
def dkwX4_tells_3 : List UInt8 := [28, 4, 160, 0, 16, 42, 21, 4, 27, 182, 1, 170, 153, 0, 23, 167, 0, 13, 42, 21, 4, 27]
abbrev dktX4_tells_3 : List UInt8 := dkwX4_tells_3 ++ dktX4_tells_4
def dkwX4_tells_2 : List UInt8 := [162, 0, 68, 29, 28, 154, 0, 19, 42, 16, 8, 21, 4, 96, 27, 182, 1, 167, 153, 0, 41, 167, 0, 31]
abbrev dktX4_tells_2 : List UInt8 := dkwX4_tells_2 ++ dktX4_tells_3
def dkwX4_tells_1 : List UInt8 := [3, 62, 3, 54, 4, 21, 4, 28, 5, 160, 0, 10, 42, 180, 0, 245, 167, 0, 7, 42, 180, 0, 248]
abbrev dktX4_tells_1 : List UInt8 := dkwX4_tells_1 ++ dktX4_tells_2
def dkwX4_tells_0 : List UInt8 := [42, 3, 181, 0, 1, 42, 27, 182, 1, 93, 153, 0, 12, 28, 3, 5, 184, 0, 158, 154, 0, 5, 2, 172]
abbrev dktX4_tells_0 : List UInt8 := dkwX4_tells_0 ++ dktX4_tells_1
theorem dksX4_tells_0 : cX4_tells.data.toList.drop 0 = dktX4_tells_0 := by decide +kernel
theorem dksX4_tells_1 : cX4_tells.data.toList.drop 24 = dktX4_tells_1 := dk_seg dksX4_tells_0 24 rfl rfl
theorem dksX4_tells_2 : cX4_tells.data.toList.drop 47 = dktX4_tells_2 := dk_seg dksX4_tells_1 23 rfl rfl
theorem dksX4_tells_3 : cX4_tells.data.toList.drop 71 = dktX4_tells_3 := dk_seg dksX4_tells_2 24 rfl rfl
theorem dksX4_tells_4 : cX4_tells.data.toList.drop 93 = dktX4_tells_4 := dk_seg dksX4_tells_3 22 rfl rfl
theorem dX4_tells_0 : decode cX4_tells 0 = .ok (.aload_n 0, 1) := dk_42 (dk_at dksX4_tells_0 0 rfl rfl)
theorem dX4_tells_1 : decode cX4_tells 1 = .ok (.iconst 0, 1) := dk_3 (dk_at dksX4_tells_0 1 rfl rfl)
theorem dX4_tells_2 : decode cX4_tells 2 = .ok (.putfield 1, 3) := dk_181 0 1 (dk_at dksX4_tells_0 2 rfl rfl)
theorem dX4_tells_5 : decode cX4_tells 5 = .ok (.aload_n 0, 1) := dk_42 (dk_at dksX4_tells_0 5 rfl rfl)
theorem dX4_tells_6 : decode cX4_tells 6 = .ok (.iload_n 1, 1) := dk_27 (dk_at dksX4_tells_0 6 rfl rfl)
theorem dX4_tells_7 : decode cX4_tells 7 = .ok (.invokevirtual 349, 3) := dk_182 1 93 (dk_at dksX4_tells_0 7 rfl rfl)
theorem dX4_tells_10 : decode cX4_tells 10 = .ok (.ifCond .eq 12, 3) := dk_153 0 12 (dk_at dksX4_tells_0 10 rfl rfl)
theorem dX4_tells_13 : decode cX4_tells 13 = .ok (.iload_n 2, 1) := dk_28 (dk_at dksX4_tells_0 13 rfl rfl)
theorem dX4_tells_14 : decode cX4_tells 14 = .ok (.iconst 0, 1) := dk_3 (dk_at dksX4_tells_0 14 rfl rfl)
theorem dX4_tells_15 : decode cX4_tells 15 = .ok (.iconst 2, 1) := dk_5 (dk_at dksX4_tells_0 15 rfl rfl)
theorem dX4_tells_16 : decode cX4_tells 16 = .ok (.invokestatic 158, 3) := dk_184 0 158 (dk_at dksX4_tells_0 16 rfl rfl)
theorem dX4_tells_19 : decode cX4_tells 19 = .ok (.ifCond .ne 5, 3) := dk_154 0 5 (dk_at dksX4_tells_0 19 rfl rfl)
theorem dX4_tells_22 : decode cX4_tells 22 = .ok (.iconst (-1), 1) := dk_2 (dk_at dksX4_tells_0 22 rfl rfl)
theorem dX4_tells_23 : decode cX4_tells 23 = .ok (.ireturn, 1) := dk_172 (dk_at dksX4_tells_0 23 rfl rfl)
theorem dX4_tells_24 : decode cX4_tells 24 = .ok (.iconst 0, 1) := dk_3 (dk_at dksX4_tells_1 0 rfl rfl)
theorem dX4_tells_25 : decode cX4_tells 25 = .ok (.istore_n 3, 1) := dk_62 (dk_at dksX4_tells_1 1 rfl rfl)
theorem dX4_tells_26 : decode cX4_tells 26 = .ok (.iconst 0, 1) := dk_3 (dk_at dksX4_tells_1 2 rfl rfl)
theorem dX4_tells_27 : decode cX4_tells 27 = .ok (.istore 4, 2) := dk_54 4 (dk_at dksX4_tells_1 3 rfl rfl)
theorem dX4_tells_29 : decode cX4_tells 29 = .ok (.iload 4, 2) := dk_21 4 (dk_at dksX4_tells_1 5 rfl rfl)
theorem dX4_tells_31 : decode cX4_tells 31 = .ok (.iload_n 2, 1) := dk_28 (dk_at dksX4_tells_1 7 rfl rfl)
theorem dX4_tells_32 : decode cX4_tells 32 = .ok (.iconst 2, 1) := dk_5 (dk_at dksX4_tells_1 8 rfl rfl)
theorem dX4_tells_33 : decode cX4_tells 33 = .ok (.if_icmp .ne 10, 3) := dk_160 0 10 (dk_at dksX4_tells_1 9 rfl rfl)
theorem dX4_tells_36 : decode cX4_tells 36 = .ok (.aload_n 0, 1) := dk_42 (dk_at dksX4_tells_1 12 rfl rfl)
theorem dX4_tells_37 : decode cX4_tells 37 = .ok (.getfield 245, 3) := dk_180 0 245 (dk_at dksX4_tells_1 13 rfl rfl)
theorem dX4_tells_40 : decode cX4_tells 40 = .ok (.goto 7, 3) := dk_167 0 7 (dk_at dksX4_tells_1 16 rfl rfl)
theorem dX4_tells_43 : decode cX4_tells 43 = .ok (.aload_n 0, 1) := dk_42 (dk_at dksX4_tells_1 19 rfl rfl)
theorem dX4_tells_44 : decode cX4_tells 44 = .ok (.getfield 248, 3) := dk_180 0 248 (dk_at dksX4_tells_1 20 rfl rfl)
theorem dX4_tells_47 : decode cX4_tells 47 = .ok (.if_icmp .ge 68, 3) := dk_162 0 68 (dk_at dksX4_tells_2 0 rfl rfl)
theorem dX4_tells_50 : decode cX4_tells 50 = .ok (.iload_n 3, 1) := dk_29 (dk_at dksX4_tells_2 3 rfl rfl)
theorem dX4_tells_51 : decode cX4_tells 51 = .ok (.iload_n 2, 1) := dk_28 (dk_at dksX4_tells_2 4 rfl rfl)
theorem dX4_tells_52 : decode cX4_tells 52 = .ok (.ifCond .ne 19, 3) := dk_154 0 19 (dk_at dksX4_tells_2 5 rfl rfl)
theorem dX4_tells_55 : decode cX4_tells 55 = .ok (.aload_n 0, 1) := dk_42 (dk_at dksX4_tells_2 8 rfl rfl)
theorem dX4_tells_56 : decode cX4_tells 56 = .ok (.bipush 8, 2) := dk_16 8 (dk_at dksX4_tells_2 9 rfl rfl)
theorem dX4_tells_58 : decode cX4_tells 58 = .ok (.iload 4, 2) := dk_21 4 (dk_at dksX4_tells_2 11 rfl rfl)
theorem dX4_tells_60 : decode cX4_tells 60 = .ok (.iadd, 1) := dk_96 (dk_at dksX4_tells_2 13 rfl rfl)
theorem dX4_tells_61 : decode cX4_tells 61 = .ok (.iload_n 1, 1) := dk_27 (dk_at dksX4_tells_2 14 rfl rfl)
theorem dX4_tells_62 : decode cX4_tells 62 = .ok (.invokevirtual 423, 3) := dk_182 1 167 (dk_at dksX4_tells_2 15 rfl rfl)
theorem dX4_tells_65 : decode cX4_tells 65 = .ok (.ifCond .eq 41, 3) := dk_153 0 41 (dk_at dksX4_tells_2 18 rfl rfl)
theorem dX4_tells_68 : decode cX4_tells 68 = .ok (.goto 31, 3) := dk_167 0 31 (dk_at dksX4_tells_2 21 rfl rfl)
theorem dX4_tells_71 : decode cX4_tells 71 = .ok (.iload_n 2, 1) := dk_28 (dk_at dksX4_tells_3 0 rfl rfl)
theorem dX4_tells_72 : decode cX4_tells 72 = .ok (.iconst 1, 1) := dk_4 (dk_at dksX4_tells_3 1 rfl rfl)
theorem dX4_tells_73 : decode cX4_tells 73 = .ok (.if_icmp .ne 16, 3) := dk_160 0 16 (dk_at dksX4_tells_3 2 rfl rfl)
theorem dX4_tells_76 : decode cX4_tells 76 = .ok (.aload_n 0, 1) := dk_42 (dk_at dksX4_tells_3 5 rfl rfl)
theorem dX4_tells_77 : decode cX4_tells 77 = .ok (.iload 4, 2) := dk_21 4 (dk_at dksX4_tells_3 6 rfl rfl)
theorem dX4_tells_79 : decode cX4_tells 79 = .ok (.iload_n 1, 1) := dk_27 (dk_at dksX4_tells_3 8 rfl rfl)
theorem dX4_tells_80 : decode cX4_tells 80 = .ok (.invokevirtual 426, 3) := dk_182 1 170 (dk_at dksX4_tells_3 9 rfl rfl)
theorem dX4_tells_83 : decode cX4_tells 83 = .ok (.ifCond .eq 23, 3) := dk_153 0 23 (dk_at dksX4_tells_3 12 rfl rfl)
theorem dX4_tells_86 : decode cX4_tells 86 = .ok (.goto 13, 3) := dk_167 0 13 (dk_at dksX4_tells_3 15 rfl rfl)
theorem dX4_tells_89 : decode cX4_tells 89 = .ok (.aload_n 0, 1) := dk_42 (dk_at dksX4_tells_3 18 rfl rfl)
theorem dX4_tells_90 : decode cX4_tells 90 = .ok (.iload 4, 2) := dk_21 4 (dk_at dksX4_tells_3 19 rfl rfl)
theorem dX4_tells_92 : decode cX4_tells 92 = .ok (.iload_n 1, 1) := dk_27 (dk_at dksX4_tells_3 21 rfl rfl)
theorem dX4_tells_93 : decode cX4_tells 93 = .ok (.invokevirtual 423, 3) := dk_182 1 167 (dk_at dksX4_tells_4 0 rfl rfl)
theorem dX4_tells_96 : decode cX4_tells 96 = .ok (.ifCond .eq 10, 3) := dk_153 0 10 (dk_at dksX4_tells_4 3 rfl rfl)
theorem dX4_tells_99 : decode cX4_tells 99 = .ok (.iconst 1, 1) := dk_4 (dk_at dksX4_tells_4 6 rfl rfl)
theorem dX4_tells_100 : decode cX4_tells 100 = .ok (.iload 4, 2) := dk_21 4 (dk_at dksX4_tells_4 7 rfl rfl)
theorem dX4_tells_102 : decode cX4_tells 102 = .ok (.ishl, 1) := dk_120 (dk_at dksX4_tells_4 9 rfl rfl)
theorem dX4_tells_103 : decode cX4_tells 103 = .ok (.goto 4, 3) := dk_167 0 4 (dk_at dksX4_tells_4 10 rfl rfl)
theorem dX4_tells_106 : decode cX4_tells 106 = .ok (.iconst 0, 1) := dk_3 (dk_at dksX4_tells_4 13 rfl rfl)
theorem dX4_tells_107 : decode cX4_tells 107 = .ok (.ior, 1) := dk_128 (dk_at dksX4_tells_4 14 rfl rfl)
theorem dX4_tells_108 : decode cX4_tells 108 = .ok (.istore_n 3, 1) := dk_62 (dk_at dksX4_tells_4 15 rfl rfl)
theorem dX4_tells_109 : decode cX4_tells 109 = .ok (.iinc 4 1, 3) := dk_132 4 1 (dk_at dksX4_tells_4 16 rfl rfl)
theorem dX4_tells_112 : decode cX4_tells 112 = .ok (.goto (-83), 3) := dk_167 255 173 (dk_at dksX4_tells_4 19 rfl rfl)
theorem dX4_tells_115 : decode cX4_tells 115 = .ok (.iload_n 3, 1) := dk_29 (dk_at dksX4_tells_4 22 rfl rfl)
theorem dX4_tells_116 : decode cX4_tells 116 = .ok (.ireturn, 1) := dk_172 (dk_at dksX4_tells_4 23 rfl rfl)
def dkwX4_hasWhen_1 : List UInt8 := [29, 46, 28, 160, 0, 5, 4, 172, 132, 3, 1, 167, 255, 226, 3, 172]
abbrev dktX4_hasWhen_1 : List UInt8 := dkwX4_hasWhen_1 ++ []
def dkwX4_hasWhen_0 : List UInt8 := [16, 6, 27, 104, 62, 29, 16, 6, 27, 104, 42, 180, 0, 13, 27, 46, 96, 162, 0, 21, 42, 180, 0, 17]
abbrev dktX4_hasWhen_0 : List UInt8 := dkwX4_hasWhen_0 ++ dktX4_hasWhen_1
theorem dksX4_hasWhen_0 : cX4_hasWhen.data.toList.drop 0 = dktX4_hasWhen_0 := by decide +kernel
theorem dksX4_hasWhen_1 : cX4_hasWhen.data.toList.drop 24 = dktX4_hasWhen_1 := dk_seg dksX4_hasWhen_0 24 rfl rfl
theorem dX4_hasWhen_0 : decode cX4_hasWhen 0 = .ok (.bipush 6, 2) := dk_16 6 (dk_at dksX4_hasWhen_0 0 rfl rfl)
theorem dX4_hasWhen_2 : decode cX4_hasWhen 2 = .ok (.iload_n 1, 1) := dk_27 (dk_at dksX4_hasWhen_0 2 rfl rfl)
theorem dX4_hasWhen_3 : decode cX4_hasWhen 3 = .ok (.imul, 1) := dk_104 (dk_at dksX4_hasWhen_0 3 rfl rfl)
theorem dX4_hasWhen_4 : decode cX4_hasWhen 4 = .ok (.istore_n 3, 1) := dk_62 (dk_at dksX4_hasWhen_0 4 rfl rfl)
theorem dX4_hasWhen_5 : decode cX4_hasWhen 5 = .ok (.iload_n 3, 1) := dk_29 (dk_at dksX4_hasWhen_0 5 rfl rfl)
theorem dX4_hasWhen_6 : decode cX4_hasWhen 6 = .ok (.bipush 6, 2) := dk_16 6 (dk_at dksX4_hasWhen_0 6 rfl rfl)
theorem dX4_hasWhen_8 : decode cX4_hasWhen 8 = .ok (.iload_n 1, 1) := dk_27 (dk_at dksX4_hasWhen_0 8 rfl rfl)
theorem dX4_hasWhen_9 : decode cX4_hasWhen 9 = .ok (.imul, 1) := dk_104 (dk_at dksX4_hasWhen_0 9 rfl rfl)
theorem dX4_hasWhen_10 : decode cX4_hasWhen 10 = .ok (.aload_n 0, 1) := dk_42 (dk_at dksX4_hasWhen_0 10 rfl rfl)
theorem dX4_hasWhen_11 : decode cX4_hasWhen 11 = .ok (.getfield 13, 3) := dk_180 0 13 (dk_at dksX4_hasWhen_0 11 rfl rfl)
theorem dX4_hasWhen_14 : decode cX4_hasWhen 14 = .ok (.iload_n 1, 1) := dk_27 (dk_at dksX4_hasWhen_0 14 rfl rfl)
theorem dX4_hasWhen_15 : decode cX4_hasWhen 15 = .ok (.iaload, 1) := dk_46 (dk_at dksX4_hasWhen_0 15 rfl rfl)
theorem dX4_hasWhen_16 : decode cX4_hasWhen 16 = .ok (.iadd, 1) := dk_96 (dk_at dksX4_hasWhen_0 16 rfl rfl)
theorem dX4_hasWhen_17 : decode cX4_hasWhen 17 = .ok (.if_icmp .ge 21, 3) := dk_162 0 21 (dk_at dksX4_hasWhen_0 17 rfl rfl)
theorem dX4_hasWhen_20 : decode cX4_hasWhen 20 = .ok (.aload_n 0, 1) := dk_42 (dk_at dksX4_hasWhen_0 20 rfl rfl)
theorem dX4_hasWhen_21 : decode cX4_hasWhen 21 = .ok (.getfield 17, 3) := dk_180 0 17 (dk_at dksX4_hasWhen_0 21 rfl rfl)
theorem dX4_hasWhen_24 : decode cX4_hasWhen 24 = .ok (.iload_n 3, 1) := dk_29 (dk_at dksX4_hasWhen_1 0 rfl rfl)
theorem dX4_hasWhen_25 : decode cX4_hasWhen 25 = .ok (.iaload, 1) := dk_46 (dk_at dksX4_hasWhen_1 1 rfl rfl)
theorem dX4_hasWhen_26 : decode cX4_hasWhen 26 = .ok (.iload_n 2, 1) := dk_28 (dk_at dksX4_hasWhen_1 2 rfl rfl)
theorem dX4_hasWhen_27 : decode cX4_hasWhen 27 = .ok (.if_icmp .ne 5, 3) := dk_160 0 5 (dk_at dksX4_hasWhen_1 3 rfl rfl)
theorem dX4_hasWhen_30 : decode cX4_hasWhen 30 = .ok (.iconst 1, 1) := dk_4 (dk_at dksX4_hasWhen_1 6 rfl rfl)
theorem dX4_hasWhen_31 : decode cX4_hasWhen 31 = .ok (.ireturn, 1) := dk_172 (dk_at dksX4_hasWhen_1 7 rfl rfl)
theorem dX4_hasWhen_32 : decode cX4_hasWhen 32 = .ok (.iinc 3 1, 3) := dk_132 3 1 (dk_at dksX4_hasWhen_1 8 rfl rfl)
theorem dX4_hasWhen_35 : decode cX4_hasWhen 35 = .ok (.goto (-30), 3) := dk_167 255 226 (dk_at dksX4_hasWhen_1 11 rfl rfl)
theorem dX4_hasWhen_38 : decode cX4_hasWhen 38 = .ok (.iconst 0, 1) := dk_3 (dk_at dksX4_hasWhen_1 14 rfl rfl)
theorem dX4_hasWhen_39 : decode cX4_hasWhen 39 = .ok (.ireturn, 1) := dk_172 (dk_at dksX4_hasWhen_1 15 rfl rfl)
def dkwX4_hasSet_1 : List UInt8 := [28, 160, 0, 5, 4, 172, 132, 3, 1, 167, 255, 227, 3, 172]
abbrev dktX4_hasSet_1 : List UInt8 := dkwX4_hasSet_1 ++ []
def dkwX4_hasSet_0 : List UInt8 := [7, 27, 104, 62, 29, 7, 27, 104, 42, 180, 0, 32, 27, 46, 96, 162, 0, 21, 42, 180, 0, 35, 29, 46]
abbrev dktX4_hasSet_0 : List UInt8 := dkwX4_hasSet_0 ++ dktX4_hasSet_1
theorem dksX4_hasSet_0 : cX4_hasSet.data.toList.drop 0 = dktX4_hasSet_0 := by decide +kernel
theorem dksX4_hasSet_1 : cX4_hasSet.data.toList.drop 24 = dktX4_hasSet_1 := dk_seg dksX4_hasSet_0 24 rfl rfl
theorem dX4_hasSet_0 : decode cX4_hasSet 0 = .ok (.iconst 4, 1) := dk_7 (dk_at dksX4_hasSet_0 0 rfl rfl)
theorem dX4_hasSet_1 : decode cX4_hasSet 1 = .ok (.iload_n 1, 1) := dk_27 (dk_at dksX4_hasSet_0 1 rfl rfl)
theorem dX4_hasSet_2 : decode cX4_hasSet 2 = .ok (.imul, 1) := dk_104 (dk_at dksX4_hasSet_0 2 rfl rfl)
theorem dX4_hasSet_3 : decode cX4_hasSet 3 = .ok (.istore_n 3, 1) := dk_62 (dk_at dksX4_hasSet_0 3 rfl rfl)
theorem dX4_hasSet_4 : decode cX4_hasSet 4 = .ok (.iload_n 3, 1) := dk_29 (dk_at dksX4_hasSet_0 4 rfl rfl)
theorem dX4_hasSet_5 : decode cX4_hasSet 5 = .ok (.iconst 4, 1) := dk_7 (dk_at dksX4_hasSet_0 5 rfl rfl)
theorem dX4_hasSet_6 : decode cX4_hasSet 6 = .ok (.iload_n 1, 1) := dk_27 (dk_at dksX4_hasSet_0 6 rfl rfl)
theorem dX4_hasSet_7 : decode cX4_hasSet 7 = .ok (.imul, 1) := dk_104 (dk_at dksX4_hasSet_0 7 rfl rfl)
theorem dX4_hasSet_8 : decode cX4_hasSet 8 = .ok (.aload_n 0, 1) := dk_42 (dk_at dksX4_hasSet_0 8 rfl rfl)
theorem dX4_hasSet_9 : decode cX4_hasSet 9 = .ok (.getfield 32, 3) := dk_180 0 32 (dk_at dksX4_hasSet_0 9 rfl rfl)
theorem dX4_hasSet_12 : decode cX4_hasSet 12 = .ok (.iload_n 1, 1) := dk_27 (dk_at dksX4_hasSet_0 12 rfl rfl)
theorem dX4_hasSet_13 : decode cX4_hasSet 13 = .ok (.iaload, 1) := dk_46 (dk_at dksX4_hasSet_0 13 rfl rfl)
theorem dX4_hasSet_14 : decode cX4_hasSet 14 = .ok (.iadd, 1) := dk_96 (dk_at dksX4_hasSet_0 14 rfl rfl)
theorem dX4_hasSet_15 : decode cX4_hasSet 15 = .ok (.if_icmp .ge 21, 3) := dk_162 0 21 (dk_at dksX4_hasSet_0 15 rfl rfl)
theorem dX4_hasSet_18 : decode cX4_hasSet 18 = .ok (.aload_n 0, 1) := dk_42 (dk_at dksX4_hasSet_0 18 rfl rfl)
theorem dX4_hasSet_19 : decode cX4_hasSet 19 = .ok (.getfield 35, 3) := dk_180 0 35 (dk_at dksX4_hasSet_0 19 rfl rfl)
theorem dX4_hasSet_22 : decode cX4_hasSet 22 = .ok (.iload_n 3, 1) := dk_29 (dk_at dksX4_hasSet_0 22 rfl rfl)
theorem dX4_hasSet_23 : decode cX4_hasSet 23 = .ok (.iaload, 1) := dk_46 (dk_at dksX4_hasSet_0 23 rfl rfl)
theorem dX4_hasSet_24 : decode cX4_hasSet 24 = .ok (.iload_n 2, 1) := dk_28 (dk_at dksX4_hasSet_1 0 rfl rfl)
theorem dX4_hasSet_25 : decode cX4_hasSet 25 = .ok (.if_icmp .ne 5, 3) := dk_160 0 5 (dk_at dksX4_hasSet_1 1 rfl rfl)
theorem dX4_hasSet_28 : decode cX4_hasSet 28 = .ok (.iconst 1, 1) := dk_4 (dk_at dksX4_hasSet_1 4 rfl rfl)
theorem dX4_hasSet_29 : decode cX4_hasSet 29 = .ok (.ireturn, 1) := dk_172 (dk_at dksX4_hasSet_1 5 rfl rfl)
theorem dX4_hasSet_30 : decode cX4_hasSet 30 = .ok (.iinc 3 1, 3) := dk_132 3 1 (dk_at dksX4_hasSet_1 6 rfl rfl)
theorem dX4_hasSet_33 : decode cX4_hasSet 33 = .ok (.goto (-29), 3) := dk_167 255 227 (dk_at dksX4_hasSet_1 9 rfl rfl)
theorem dX4_hasSet_36 : decode cX4_hasSet 36 = .ok (.iconst 0, 1) := dk_3 (dk_at dksX4_hasSet_1 12 rfl rfl)
theorem dX4_hasSet_37 : decode cX4_hasSet 37 = .ok (.ireturn, 1) := dk_172 (dk_at dksX4_hasSet_1 13 rfl rfl)
def dkwX4_great_1 : List UInt8 := [2, 172]
abbrev dktX4_great_1 : List UInt8 := dkwX4_great_1 ++ []
def dkwX4_great_0 : List UInt8 := [42, 3, 181, 0, 1, 42, 27, 182, 1, 93, 153, 0, 14, 42, 180, 0, 41, 27, 4, 96, 46, 167, 0, 4]
abbrev dktX4_great_0 : List UInt8 := dkwX4_great_0 ++ dktX4_great_1
theorem dksX4_great_0 : cX4_great.data.toList.drop 0 = dktX4_great_0 := by decide +kernel
theorem dksX4_great_1 : cX4_great.data.toList.drop 24 = dktX4_great_1 := dk_seg dksX4_great_0 24 rfl rfl
theorem dX4_great_0 : decode cX4_great 0 = .ok (.aload_n 0, 1) := dk_42 (dk_at dksX4_great_0 0 rfl rfl)
theorem dX4_great_1 : decode cX4_great 1 = .ok (.iconst 0, 1) := dk_3 (dk_at dksX4_great_0 1 rfl rfl)
theorem dX4_great_2 : decode cX4_great 2 = .ok (.putfield 1, 3) := dk_181 0 1 (dk_at dksX4_great_0 2 rfl rfl)
theorem dX4_great_5 : decode cX4_great 5 = .ok (.aload_n 0, 1) := dk_42 (dk_at dksX4_great_0 5 rfl rfl)
theorem dX4_great_6 : decode cX4_great 6 = .ok (.iload_n 1, 1) := dk_27 (dk_at dksX4_great_0 6 rfl rfl)
theorem dX4_great_7 : decode cX4_great 7 = .ok (.invokevirtual 349, 3) := dk_182 1 93 (dk_at dksX4_great_0 7 rfl rfl)
theorem dX4_great_10 : decode cX4_great 10 = .ok (.ifCond .eq 14, 3) := dk_153 0 14 (dk_at dksX4_great_0 10 rfl rfl)
theorem dX4_great_13 : decode cX4_great 13 = .ok (.aload_n 0, 1) := dk_42 (dk_at dksX4_great_0 13 rfl rfl)
theorem dX4_great_14 : decode cX4_great 14 = .ok (.getfield 41, 3) := dk_180 0 41 (dk_at dksX4_great_0 14 rfl rfl)
theorem dX4_great_17 : decode cX4_great 17 = .ok (.iload_n 1, 1) := dk_27 (dk_at dksX4_great_0 17 rfl rfl)
theorem dX4_great_18 : decode cX4_great 18 = .ok (.iconst 1, 1) := dk_4 (dk_at dksX4_great_0 18 rfl rfl)
theorem dX4_great_19 : decode cX4_great 19 = .ok (.iadd, 1) := dk_96 (dk_at dksX4_great_0 19 rfl rfl)
theorem dX4_great_20 : decode cX4_great 20 = .ok (.iaload, 1) := dk_46 (dk_at dksX4_great_0 20 rfl rfl)
theorem dX4_great_21 : decode cX4_great 21 = .ok (.goto 4, 3) := dk_167 0 4 (dk_at dksX4_great_0 21 rfl rfl)
theorem dX4_great_24 : decode cX4_great 24 = .ok (.iconst (-1), 1) := dk_2 (dk_at dksX4_great_1 0 rfl rfl)
theorem dX4_great_25 : decode cX4_great 25 = .ok (.ireturn, 1) := dk_172 (dk_at dksX4_great_1 1 rfl rfl)
def dkwX4_add_4 : List UInt8 := [182, 1, 179, 172]
abbrev dktX4_add_4 : List UInt8 := dkwX4_add_4 ++ []
def dkwX4_add_3 : List UInt8 := [42, 180, 0, 44, 16, 105, 28, 96, 27, 79, 42, 180, 0, 44, 16, 104, 92, 46, 4, 96, 79, 42]
abbrev dktX4_add_3 : List UInt8 := dkwX4_add_3 ++ dktX4_add_4
def dkwX4_add_2 : List UInt8 := [96, 4, 100, 46, 46, 159, 0, 6, 16, 254, 172, 28, 16, 20, 160, 0, 6, 16, 253, 172, 42, 182, 1, 68]
abbrev dktX4_add_2 : List UInt8 := dkwX4_add_2 ++ dktX4_add_3
def dkwX4_add_1 : List UInt8 := [27, 46, 28, 154, 0, 10, 42, 180, 0, 251, 167, 0, 19, 42, 180, 0, 29, 42, 180, 0, 44, 16, 105, 28]
abbrev dktX4_add_1 : List UInt8 := dkwX4_add_1 ++ dktX4_add_2
def dkwX4_add_0 : List UInt8 := [42, 3, 181, 0, 1, 42, 27, 182, 1, 103, 154, 0, 5, 2, 172, 42, 182, 1, 179, 61, 42, 180, 0, 26]
abbrev dktX4_add_0 : List UInt8 := dkwX4_add_0 ++ dktX4_add_1
theorem dksX4_add_0 : cX4_add.data.toList.drop 0 = dktX4_add_0 := by decide +kernel
theorem dksX4_add_1 : cX4_add.data.toList.drop 24 = dktX4_add_1 := dk_seg dksX4_add_0 24 rfl rfl
theorem dksX4_add_2 : cX4_add.data.toList.drop 48 = dktX4_add_2 := dk_seg dksX4_add_1 24 rfl rfl
theorem dksX4_add_3 : cX4_add.data.toList.drop 72 = dktX4_add_3 := dk_seg dksX4_add_2 24 rfl rfl
theorem dksX4_add_4 : cX4_add.data.toList.drop 94 = dktX4_add_4 := dk_seg dksX4_add_3 22 rfl rfl
theorem dX4_add_0 : decode cX4_add 0 = .ok (.aload_n 0, 1) := dk_42 (dk_at dksX4_add_0 0 rfl rfl)
theorem dX4_add_1 : decode cX4_add 1 = .ok (.iconst 0, 1) := dk_3 (dk_at dksX4_add_0 1 rfl rfl)
theorem dX4_add_2 : decode cX4_add 2 = .ok (.putfield 1, 3) := dk_181 0 1 (dk_at dksX4_add_0 2 rfl rfl)
theorem dX4_add_5 : decode cX4_add 5 = .ok (.aload_n 0, 1) := dk_42 (dk_at dksX4_add_0 5 rfl rfl)
theorem dX4_add_6 : decode cX4_add 6 = .ok (.iload_n 1, 1) := dk_27 (dk_at dksX4_add_0 6 rfl rfl)
theorem dX4_add_7 : decode cX4_add 7 = .ok (.invokevirtual 359, 3) := dk_182 1 103 (dk_at dksX4_add_0 7 rfl rfl)
theorem dX4_add_10 : decode cX4_add 10 = .ok (.ifCond .ne 5, 3) := dk_154 0 5 (dk_at dksX4_add_0 10 rfl rfl)
theorem dX4_add_13 : decode cX4_add 13 = .ok (.iconst (-1), 1) := dk_2 (dk_at dksX4_add_0 13 rfl rfl)
theorem dX4_add_14 : decode cX4_add 14 = .ok (.ireturn, 1) := dk_172 (dk_at dksX4_add_0 14 rfl rfl)
theorem dX4_add_15 : decode cX4_add 15 = .ok (.aload_n 0, 1) := dk_42 (dk_at dksX4_add_0 15 rfl rfl)
theorem dX4_add_16 : decode cX4_add 16 = .ok (.invokevirtual 435, 3) := dk_182 1 179 (dk_at dksX4_add_0 16 rfl rfl)
theorem dX4_add_19 : decode cX4_add 19 = .ok (.istore_n 2, 1) := dk_61 (dk_at dksX4_add_0 19 rfl rfl)
theorem dX4_add_20 : decode cX4_add 20 = .ok (.aload_n 0, 1) := dk_42 (dk_at dksX4_add_0 20 rfl rfl)
theorem dX4_add_21 : decode cX4_add 21 = .ok (.getfield 26, 3) := dk_180 0 26 (dk_at dksX4_add_0 21 rfl rfl)
theorem dX4_add_24 : decode cX4_add 24 = .ok (.iload_n 1, 1) := dk_27 (dk_at dksX4_add_1 0 rfl rfl)
theorem dX4_add_25 : decode cX4_add 25 = .ok (.iaload, 1) := dk_46 (dk_at dksX4_add_1 1 rfl rfl)
theorem dX4_add_26 : decode cX4_add 26 = .ok (.iload_n 2, 1) := dk_28 (dk_at dksX4_add_1 2 rfl rfl)
theorem dX4_add_27 : decode cX4_add 27 = .ok (.ifCond .ne 10, 3) := dk_154 0 10 (dk_at dksX4_add_1 3 rfl rfl)
theorem dX4_add_30 : decode cX4_add 30 = .ok (.aload_n 0, 1) := dk_42 (dk_at dksX4_add_1 6 rfl rfl)
theorem dX4_add_31 : decode cX4_add 31 = .ok (.getfield 251, 3) := dk_180 0 251 (dk_at dksX4_add_1 7 rfl rfl)
theorem dX4_add_34 : decode cX4_add 34 = .ok (.goto 19, 3) := dk_167 0 19 (dk_at dksX4_add_1 10 rfl rfl)
theorem dX4_add_37 : decode cX4_add 37 = .ok (.aload_n 0, 1) := dk_42 (dk_at dksX4_add_1 13 rfl rfl)
theorem dX4_add_38 : decode cX4_add 38 = .ok (.getfield 29, 3) := dk_180 0 29 (dk_at dksX4_add_1 14 rfl rfl)
theorem dX4_add_41 : decode cX4_add 41 = .ok (.aload_n 0, 1) := dk_42 (dk_at dksX4_add_1 17 rfl rfl)
theorem dX4_add_42 : decode cX4_add 42 = .ok (.getfield 44, 3) := dk_180 0 44 (dk_at dksX4_add_1 18 rfl rfl)
theorem dX4_add_45 : decode cX4_add 45 = .ok (.bipush 105, 2) := dk_16 105 (dk_at dksX4_add_1 21 rfl rfl)
theorem dX4_add_47 : decode cX4_add 47 = .ok (.iload_n 2, 1) := dk_28 (dk_at dksX4_add_1 23 rfl rfl)
theorem dX4_add_48 : decode cX4_add 48 = .ok (.iadd, 1) := dk_96 (dk_at dksX4_add_2 0 rfl rfl)
theorem dX4_add_49 : decode cX4_add 49 = .ok (.iconst 1, 1) := dk_4 (dk_at dksX4_add_2 1 rfl rfl)
theorem dX4_add_50 : decode cX4_add 50 = .ok (.isub, 1) := dk_100 (dk_at dksX4_add_2 2 rfl rfl)
theorem dX4_add_51 : decode cX4_add 51 = .ok (.iaload, 1) := dk_46 (dk_at dksX4_add_2 3 rfl rfl)
theorem dX4_add_52 : decode cX4_add 52 = .ok (.iaload, 1) := dk_46 (dk_at dksX4_add_2 4 rfl rfl)
theorem dX4_add_53 : decode cX4_add 53 = .ok (.if_icmp .eq 6, 3) := dk_159 0 6 (dk_at dksX4_add_2 5 rfl rfl)
theorem dX4_add_56 : decode cX4_add 56 = .ok (.bipush (-2), 2) := dk_16 254 (dk_at dksX4_add_2 8 rfl rfl)
theorem dX4_add_58 : decode cX4_add 58 = .ok (.ireturn, 1) := dk_172 (dk_at dksX4_add_2 10 rfl rfl)
theorem dX4_add_59 : decode cX4_add 59 = .ok (.iload_n 2, 1) := dk_28 (dk_at dksX4_add_2 11 rfl rfl)
theorem dX4_add_60 : decode cX4_add 60 = .ok (.bipush 20, 2) := dk_16 20 (dk_at dksX4_add_2 12 rfl rfl)
theorem dX4_add_62 : decode cX4_add 62 = .ok (.if_icmp .ne 6, 3) := dk_160 0 6 (dk_at dksX4_add_2 14 rfl rfl)
theorem dX4_add_65 : decode cX4_add 65 = .ok (.bipush (-3), 2) := dk_16 253 (dk_at dksX4_add_2 17 rfl rfl)
theorem dX4_add_67 : decode cX4_add 67 = .ok (.ireturn, 1) := dk_172 (dk_at dksX4_add_2 19 rfl rfl)
theorem dX4_add_68 : decode cX4_add 68 = .ok (.aload_n 0, 1) := dk_42 (dk_at dksX4_add_2 20 rfl rfl)
theorem dX4_add_69 : decode cX4_add 69 = .ok (.invokevirtual 324, 3) := dk_182 1 68 (dk_at dksX4_add_2 21 rfl rfl)
theorem dX4_add_72 : decode cX4_add 72 = .ok (.aload_n 0, 1) := dk_42 (dk_at dksX4_add_3 0 rfl rfl)
theorem dX4_add_73 : decode cX4_add 73 = .ok (.getfield 44, 3) := dk_180 0 44 (dk_at dksX4_add_3 1 rfl rfl)
theorem dX4_add_76 : decode cX4_add 76 = .ok (.bipush 105, 2) := dk_16 105 (dk_at dksX4_add_3 4 rfl rfl)
theorem dX4_add_78 : decode cX4_add 78 = .ok (.iload_n 2, 1) := dk_28 (dk_at dksX4_add_3 6 rfl rfl)
theorem dX4_add_79 : decode cX4_add 79 = .ok (.iadd, 1) := dk_96 (dk_at dksX4_add_3 7 rfl rfl)
theorem dX4_add_80 : decode cX4_add 80 = .ok (.iload_n 1, 1) := dk_27 (dk_at dksX4_add_3 8 rfl rfl)
theorem dX4_add_81 : decode cX4_add 81 = .ok (.iastore, 1) := dk_79 (dk_at dksX4_add_3 9 rfl rfl)
theorem dX4_add_82 : decode cX4_add 82 = .ok (.aload_n 0, 1) := dk_42 (dk_at dksX4_add_3 10 rfl rfl)
theorem dX4_add_83 : decode cX4_add 83 = .ok (.getfield 44, 3) := dk_180 0 44 (dk_at dksX4_add_3 11 rfl rfl)
theorem dX4_add_86 : decode cX4_add 86 = .ok (.bipush 104, 2) := dk_16 104 (dk_at dksX4_add_3 14 rfl rfl)
theorem dX4_add_88 : decode cX4_add 88 = .ok (.dup2, 1) := dk_92 (dk_at dksX4_add_3 16 rfl rfl)
theorem dX4_add_89 : decode cX4_add 89 = .ok (.iaload, 1) := dk_46 (dk_at dksX4_add_3 17 rfl rfl)
theorem dX4_add_90 : decode cX4_add 90 = .ok (.iconst 1, 1) := dk_4 (dk_at dksX4_add_3 18 rfl rfl)
theorem dX4_add_91 : decode cX4_add 91 = .ok (.iadd, 1) := dk_96 (dk_at dksX4_add_3 19 rfl rfl)
theorem dX4_add_92 : decode cX4_add 92 = .ok (.iastore, 1) := dk_79 (dk_at dksX4_add_3 20 rfl rfl)
theorem dX4_add_93 : decode cX4_add 93 = .ok (.aload_n 0, 1) := dk_42 (dk_at dksX4_add_3 21 rfl rfl)
theorem dX4_add_94 : decode cX4_add 94 = .ok (.invokevirtual 435, 3) := dk_182 1 179 (dk_at dksX4_add_4 0 rfl rfl)
theorem dX4_add_97 : decode cX4_add 97 = .ok (.ireturn, 1) := dk_172 (dk_at dksX4_add_4 3 rfl rfl)
def dkwX4_traced_0 : List UInt8 := [42, 180, 0, 44, 16, 104, 46, 172]
abbrev dktX4_traced_0 : List UInt8 := dkwX4_traced_0 ++ []
theorem dksX4_traced_0 : cX4_traced.data.toList.drop 0 = dktX4_traced_0 := by decide +kernel
theorem dX4_traced_0 : decode cX4_traced 0 = .ok (.aload_n 0, 1) := dk_42 (dk_at dksX4_traced_0 0 rfl rfl)
theorem dX4_traced_1 : decode cX4_traced 1 = .ok (.getfield 44, 3) := dk_180 0 44 (dk_at dksX4_traced_0 1 rfl rfl)
theorem dX4_traced_4 : decode cX4_traced 4 = .ok (.bipush 104, 2) := dk_16 104 (dk_at dksX4_traced_0 4 rfl rfl)
theorem dX4_traced_6 : decode cX4_traced 6 = .ok (.iaload, 1) := dk_46 (dk_at dksX4_traced_0 6 rfl rfl)
theorem dX4_traced_7 : decode cX4_traced 7 = .ok (.ireturn, 1) := dk_172 (dk_at dksX4_traced_0 7 rfl rfl)
def dkwX4_lead_5 : List UInt8 := [182, 1, 179, 172]
abbrev dktX4_lead_5 : List UInt8 := dkwX4_lead_5 ++ []
def dkwX4_lead_4 : List UInt8 := [182, 1, 179, 162, 0, 12, 42, 180, 0, 108, 28, 46, 167, 0, 4, 3, 79, 132, 2, 1, 167, 255, 220, 42]
abbrev dktX4_lead_4 : List UInt8 := dkwX4_lead_4 ++ dktX4_lead_5
def dkwX4_lead_3 : List UInt8 := [167, 0, 5, 16, 20, 79, 3, 61, 28, 16, 20, 162, 0, 36, 42, 180, 0, 44, 16, 105, 28, 96, 28, 42]
abbrev dktX4_lead_3 : List UInt8 := dkwX4_lead_3 ++ dktX4_lead_4
def dkwX4_lead_2 : List UInt8 := [27, 2, 160, 0, 7, 3, 167, 0, 21, 42, 180, 1, 158, 16, 20, 162, 0, 10, 42, 180, 1, 158]
abbrev dktX4_lead_2 : List UInt8 := dkwX4_lead_2 ++ dktX4_lead_3
def dkwX4_lead_1 : List UInt8 := [159, 0, 14, 42, 27, 182, 1, 161, 154, 0, 6, 16, 254, 172, 42, 182, 1, 68, 42, 180, 0, 44, 16, 104]
abbrev dktX4_lead_1 : List UInt8 := dkwX4_lead_1 ++ dktX4_lead_2
def dkwX4_lead_0 : List UInt8 := [42, 3, 181, 0, 1, 27, 2, 159, 0, 13, 42, 27, 182, 1, 112, 154, 0, 5, 2, 172, 27, 2]
abbrev dktX4_lead_0 : List UInt8 := dkwX4_lead_0 ++ dktX4_lead_1
theorem dksX4_lead_0 : cX4_lead.data.toList.drop 0 = dktX4_lead_0 := by decide +kernel
theorem dksX4_lead_1 : cX4_lead.data.toList.drop 22 = dktX4_lead_1 := dk_seg dksX4_lead_0 22 rfl rfl
theorem dksX4_lead_2 : cX4_lead.data.toList.drop 46 = dktX4_lead_2 := dk_seg dksX4_lead_1 24 rfl rfl
theorem dksX4_lead_3 : cX4_lead.data.toList.drop 68 = dktX4_lead_3 := dk_seg dksX4_lead_2 22 rfl rfl
theorem dksX4_lead_4 : cX4_lead.data.toList.drop 92 = dktX4_lead_4 := dk_seg dksX4_lead_3 24 rfl rfl
theorem dksX4_lead_5 : cX4_lead.data.toList.drop 116 = dktX4_lead_5 := dk_seg dksX4_lead_4 24 rfl rfl
theorem dX4_lead_0 : decode cX4_lead 0 = .ok (.aload_n 0, 1) := dk_42 (dk_at dksX4_lead_0 0 rfl rfl)
theorem dX4_lead_1 : decode cX4_lead 1 = .ok (.iconst 0, 1) := dk_3 (dk_at dksX4_lead_0 1 rfl rfl)
theorem dX4_lead_2 : decode cX4_lead 2 = .ok (.putfield 1, 3) := dk_181 0 1 (dk_at dksX4_lead_0 2 rfl rfl)
theorem dX4_lead_5 : decode cX4_lead 5 = .ok (.iload_n 1, 1) := dk_27 (dk_at dksX4_lead_0 5 rfl rfl)
theorem dX4_lead_6 : decode cX4_lead 6 = .ok (.iconst (-1), 1) := dk_2 (dk_at dksX4_lead_0 6 rfl rfl)
theorem dX4_lead_7 : decode cX4_lead 7 = .ok (.if_icmp .eq 13, 3) := dk_159 0 13 (dk_at dksX4_lead_0 7 rfl rfl)
theorem dX4_lead_10 : decode cX4_lead 10 = .ok (.aload_n 0, 1) := dk_42 (dk_at dksX4_lead_0 10 rfl rfl)
theorem dX4_lead_11 : decode cX4_lead 11 = .ok (.iload_n 1, 1) := dk_27 (dk_at dksX4_lead_0 11 rfl rfl)
theorem dX4_lead_12 : decode cX4_lead 12 = .ok (.invokevirtual 368, 3) := dk_182 1 112 (dk_at dksX4_lead_0 12 rfl rfl)
theorem dX4_lead_15 : decode cX4_lead 15 = .ok (.ifCond .ne 5, 3) := dk_154 0 5 (dk_at dksX4_lead_0 15 rfl rfl)
theorem dX4_lead_18 : decode cX4_lead 18 = .ok (.iconst (-1), 1) := dk_2 (dk_at dksX4_lead_0 18 rfl rfl)
theorem dX4_lead_19 : decode cX4_lead 19 = .ok (.ireturn, 1) := dk_172 (dk_at dksX4_lead_0 19 rfl rfl)
theorem dX4_lead_20 : decode cX4_lead 20 = .ok (.iload_n 1, 1) := dk_27 (dk_at dksX4_lead_0 20 rfl rfl)
theorem dX4_lead_21 : decode cX4_lead 21 = .ok (.iconst (-1), 1) := dk_2 (dk_at dksX4_lead_0 21 rfl rfl)
theorem dX4_lead_22 : decode cX4_lead 22 = .ok (.if_icmp .eq 14, 3) := dk_159 0 14 (dk_at dksX4_lead_1 0 rfl rfl)
theorem dX4_lead_25 : decode cX4_lead 25 = .ok (.aload_n 0, 1) := dk_42 (dk_at dksX4_lead_1 3 rfl rfl)
theorem dX4_lead_26 : decode cX4_lead 26 = .ok (.iload_n 1, 1) := dk_27 (dk_at dksX4_lead_1 4 rfl rfl)
theorem dX4_lead_27 : decode cX4_lead 27 = .ok (.invokevirtual 417, 3) := dk_182 1 161 (dk_at dksX4_lead_1 5 rfl rfl)
theorem dX4_lead_30 : decode cX4_lead 30 = .ok (.ifCond .ne 6, 3) := dk_154 0 6 (dk_at dksX4_lead_1 8 rfl rfl)
theorem dX4_lead_33 : decode cX4_lead 33 = .ok (.bipush (-2), 2) := dk_16 254 (dk_at dksX4_lead_1 11 rfl rfl)
theorem dX4_lead_35 : decode cX4_lead 35 = .ok (.ireturn, 1) := dk_172 (dk_at dksX4_lead_1 13 rfl rfl)
theorem dX4_lead_36 : decode cX4_lead 36 = .ok (.aload_n 0, 1) := dk_42 (dk_at dksX4_lead_1 14 rfl rfl)
theorem dX4_lead_37 : decode cX4_lead 37 = .ok (.invokevirtual 324, 3) := dk_182 1 68 (dk_at dksX4_lead_1 15 rfl rfl)
theorem dX4_lead_40 : decode cX4_lead 40 = .ok (.aload_n 0, 1) := dk_42 (dk_at dksX4_lead_1 18 rfl rfl)
theorem dX4_lead_41 : decode cX4_lead 41 = .ok (.getfield 44, 3) := dk_180 0 44 (dk_at dksX4_lead_1 19 rfl rfl)
theorem dX4_lead_44 : decode cX4_lead 44 = .ok (.bipush 104, 2) := dk_16 104 (dk_at dksX4_lead_1 22 rfl rfl)
theorem dX4_lead_46 : decode cX4_lead 46 = .ok (.iload_n 1, 1) := dk_27 (dk_at dksX4_lead_2 0 rfl rfl)
theorem dX4_lead_47 : decode cX4_lead 47 = .ok (.iconst (-1), 1) := dk_2 (dk_at dksX4_lead_2 1 rfl rfl)
theorem dX4_lead_48 : decode cX4_lead 48 = .ok (.if_icmp .ne 7, 3) := dk_160 0 7 (dk_at dksX4_lead_2 2 rfl rfl)
theorem dX4_lead_51 : decode cX4_lead 51 = .ok (.iconst 0, 1) := dk_3 (dk_at dksX4_lead_2 5 rfl rfl)
theorem dX4_lead_52 : decode cX4_lead 52 = .ok (.goto 21, 3) := dk_167 0 21 (dk_at dksX4_lead_2 6 rfl rfl)
theorem dX4_lead_55 : decode cX4_lead 55 = .ok (.aload_n 0, 1) := dk_42 (dk_at dksX4_lead_2 9 rfl rfl)
theorem dX4_lead_56 : decode cX4_lead 56 = .ok (.getfield 414, 3) := dk_180 1 158 (dk_at dksX4_lead_2 10 rfl rfl)
theorem dX4_lead_59 : decode cX4_lead 59 = .ok (.bipush 20, 2) := dk_16 20 (dk_at dksX4_lead_2 13 rfl rfl)
theorem dX4_lead_61 : decode cX4_lead 61 = .ok (.if_icmp .ge 10, 3) := dk_162 0 10 (dk_at dksX4_lead_2 15 rfl rfl)
theorem dX4_lead_64 : decode cX4_lead 64 = .ok (.aload_n 0, 1) := dk_42 (dk_at dksX4_lead_2 18 rfl rfl)
theorem dX4_lead_65 : decode cX4_lead 65 = .ok (.getfield 414, 3) := dk_180 1 158 (dk_at dksX4_lead_2 19 rfl rfl)
theorem dX4_lead_68 : decode cX4_lead 68 = .ok (.goto 5, 3) := dk_167 0 5 (dk_at dksX4_lead_3 0 rfl rfl)
theorem dX4_lead_71 : decode cX4_lead 71 = .ok (.bipush 20, 2) := dk_16 20 (dk_at dksX4_lead_3 3 rfl rfl)
theorem dX4_lead_73 : decode cX4_lead 73 = .ok (.iastore, 1) := dk_79 (dk_at dksX4_lead_3 5 rfl rfl)
theorem dX4_lead_74 : decode cX4_lead 74 = .ok (.iconst 0, 1) := dk_3 (dk_at dksX4_lead_3 6 rfl rfl)
theorem dX4_lead_75 : decode cX4_lead 75 = .ok (.istore_n 2, 1) := dk_61 (dk_at dksX4_lead_3 7 rfl rfl)
theorem dX4_lead_76 : decode cX4_lead 76 = .ok (.iload_n 2, 1) := dk_28 (dk_at dksX4_lead_3 8 rfl rfl)
theorem dX4_lead_77 : decode cX4_lead 77 = .ok (.bipush 20, 2) := dk_16 20 (dk_at dksX4_lead_3 9 rfl rfl)
theorem dX4_lead_79 : decode cX4_lead 79 = .ok (.if_icmp .ge 36, 3) := dk_162 0 36 (dk_at dksX4_lead_3 11 rfl rfl)
theorem dX4_lead_82 : decode cX4_lead 82 = .ok (.aload_n 0, 1) := dk_42 (dk_at dksX4_lead_3 14 rfl rfl)
theorem dX4_lead_83 : decode cX4_lead 83 = .ok (.getfield 44, 3) := dk_180 0 44 (dk_at dksX4_lead_3 15 rfl rfl)
theorem dX4_lead_86 : decode cX4_lead 86 = .ok (.bipush 105, 2) := dk_16 105 (dk_at dksX4_lead_3 18 rfl rfl)
theorem dX4_lead_88 : decode cX4_lead 88 = .ok (.iload_n 2, 1) := dk_28 (dk_at dksX4_lead_3 20 rfl rfl)
theorem dX4_lead_89 : decode cX4_lead 89 = .ok (.iadd, 1) := dk_96 (dk_at dksX4_lead_3 21 rfl rfl)
theorem dX4_lead_90 : decode cX4_lead 90 = .ok (.iload_n 2, 1) := dk_28 (dk_at dksX4_lead_3 22 rfl rfl)
theorem dX4_lead_91 : decode cX4_lead 91 = .ok (.aload_n 0, 1) := dk_42 (dk_at dksX4_lead_3 23 rfl rfl)
theorem dX4_lead_92 : decode cX4_lead 92 = .ok (.invokevirtual 435, 3) := dk_182 1 179 (dk_at dksX4_lead_4 0 rfl rfl)
theorem dX4_lead_95 : decode cX4_lead 95 = .ok (.if_icmp .ge 12, 3) := dk_162 0 12 (dk_at dksX4_lead_4 3 rfl rfl)
theorem dX4_lead_98 : decode cX4_lead 98 = .ok (.aload_n 0, 1) := dk_42 (dk_at dksX4_lead_4 6 rfl rfl)
theorem dX4_lead_99 : decode cX4_lead 99 = .ok (.getfield 108, 3) := dk_180 0 108 (dk_at dksX4_lead_4 7 rfl rfl)
theorem dX4_lead_102 : decode cX4_lead 102 = .ok (.iload_n 2, 1) := dk_28 (dk_at dksX4_lead_4 10 rfl rfl)
theorem dX4_lead_103 : decode cX4_lead 103 = .ok (.iaload, 1) := dk_46 (dk_at dksX4_lead_4 11 rfl rfl)
theorem dX4_lead_104 : decode cX4_lead 104 = .ok (.goto 4, 3) := dk_167 0 4 (dk_at dksX4_lead_4 12 rfl rfl)
theorem dX4_lead_107 : decode cX4_lead 107 = .ok (.iconst 0, 1) := dk_3 (dk_at dksX4_lead_4 15 rfl rfl)
theorem dX4_lead_108 : decode cX4_lead 108 = .ok (.iastore, 1) := dk_79 (dk_at dksX4_lead_4 16 rfl rfl)
theorem dX4_lead_109 : decode cX4_lead 109 = .ok (.iinc 2 1, 3) := dk_132 2 1 (dk_at dksX4_lead_4 17 rfl rfl)
theorem dX4_lead_112 : decode cX4_lead 112 = .ok (.goto (-36), 3) := dk_167 255 220 (dk_at dksX4_lead_4 20 rfl rfl)
theorem dX4_lead_115 : decode cX4_lead 115 = .ok (.aload_n 0, 1) := dk_42 (dk_at dksX4_lead_4 23 rfl rfl)
theorem dX4_lead_116 : decode cX4_lead 116 = .ok (.invokevirtual 435, 3) := dk_182 1 179 (dk_at dksX4_lead_5 0 rfl rfl)
theorem dX4_lead_119 : decode cX4_lead 119 = .ok (.ireturn, 1) := dk_172 (dk_at dksX4_lead_5 3 rfl rfl)
def dkwX4_trace_1 : List UInt8 := [27, 42, 182, 1, 179, 162, 0, 15, 42, 180, 0, 44, 16, 105, 27, 96, 46, 167, 0, 5, 16, 254, 172]
abbrev dktX4_trace_1 : List UInt8 := dkwX4_trace_1 ++ []
def dkwX4_trace_0 : List UInt8 := [42, 3, 181, 0, 1, 27, 2, 162, 0, 5, 2, 172, 27, 2, 160, 0, 10, 42, 182, 1, 179, 167, 0, 25]
abbrev dktX4_trace_0 : List UInt8 := dkwX4_trace_0 ++ dktX4_trace_1
theorem dksX4_trace_0 : cX4_trace.data.toList.drop 0 = dktX4_trace_0 := by decide +kernel
theorem dksX4_trace_1 : cX4_trace.data.toList.drop 24 = dktX4_trace_1 := dk_seg dksX4_trace_0 24 rfl rfl
theorem dX4_trace_0 : decode cX4_trace 0 = .ok (.aload_n 0, 1) := dk_42 (dk_at dksX4_trace_0 0 rfl rfl)
theorem dX4_trace_1 : decode cX4_trace 1 = .ok (.iconst 0, 1) := dk_3 (dk_at dksX4_trace_0 1 rfl rfl)
theorem dX4_trace_2 : decode cX4_trace 2 = .ok (.putfield 1, 3) := dk_181 0 1 (dk_at dksX4_trace_0 2 rfl rfl)
theorem dX4_trace_5 : decode cX4_trace 5 = .ok (.iload_n 1, 1) := dk_27 (dk_at dksX4_trace_0 5 rfl rfl)
theorem dX4_trace_6 : decode cX4_trace 6 = .ok (.iconst (-1), 1) := dk_2 (dk_at dksX4_trace_0 6 rfl rfl)
theorem dX4_trace_7 : decode cX4_trace 7 = .ok (.if_icmp .ge 5, 3) := dk_162 0 5 (dk_at dksX4_trace_0 7 rfl rfl)
theorem dX4_trace_10 : decode cX4_trace 10 = .ok (.iconst (-1), 1) := dk_2 (dk_at dksX4_trace_0 10 rfl rfl)
theorem dX4_trace_11 : decode cX4_trace 11 = .ok (.ireturn, 1) := dk_172 (dk_at dksX4_trace_0 11 rfl rfl)
theorem dX4_trace_12 : decode cX4_trace 12 = .ok (.iload_n 1, 1) := dk_27 (dk_at dksX4_trace_0 12 rfl rfl)
theorem dX4_trace_13 : decode cX4_trace 13 = .ok (.iconst (-1), 1) := dk_2 (dk_at dksX4_trace_0 13 rfl rfl)
theorem dX4_trace_14 : decode cX4_trace 14 = .ok (.if_icmp .ne 10, 3) := dk_160 0 10 (dk_at dksX4_trace_0 14 rfl rfl)
theorem dX4_trace_17 : decode cX4_trace 17 = .ok (.aload_n 0, 1) := dk_42 (dk_at dksX4_trace_0 17 rfl rfl)
theorem dX4_trace_18 : decode cX4_trace 18 = .ok (.invokevirtual 435, 3) := dk_182 1 179 (dk_at dksX4_trace_0 18 rfl rfl)
theorem dX4_trace_21 : decode cX4_trace 21 = .ok (.goto 25, 3) := dk_167 0 25 (dk_at dksX4_trace_0 21 rfl rfl)
theorem dX4_trace_24 : decode cX4_trace 24 = .ok (.iload_n 1, 1) := dk_27 (dk_at dksX4_trace_1 0 rfl rfl)
theorem dX4_trace_25 : decode cX4_trace 25 = .ok (.aload_n 0, 1) := dk_42 (dk_at dksX4_trace_1 1 rfl rfl)
theorem dX4_trace_26 : decode cX4_trace 26 = .ok (.invokevirtual 435, 3) := dk_182 1 179 (dk_at dksX4_trace_1 2 rfl rfl)
theorem dX4_trace_29 : decode cX4_trace 29 = .ok (.if_icmp .ge 15, 3) := dk_162 0 15 (dk_at dksX4_trace_1 5 rfl rfl)
theorem dX4_trace_32 : decode cX4_trace 32 = .ok (.aload_n 0, 1) := dk_42 (dk_at dksX4_trace_1 8 rfl rfl)
theorem dX4_trace_33 : decode cX4_trace 33 = .ok (.getfield 44, 3) := dk_180 0 44 (dk_at dksX4_trace_1 9 rfl rfl)
theorem dX4_trace_36 : decode cX4_trace 36 = .ok (.bipush 105, 2) := dk_16 105 (dk_at dksX4_trace_1 12 rfl rfl)
theorem dX4_trace_38 : decode cX4_trace 38 = .ok (.iload_n 1, 1) := dk_27 (dk_at dksX4_trace_1 14 rfl rfl)
theorem dX4_trace_39 : decode cX4_trace 39 = .ok (.iadd, 1) := dk_96 (dk_at dksX4_trace_1 15 rfl rfl)
theorem dX4_trace_40 : decode cX4_trace 40 = .ok (.iaload, 1) := dk_46 (dk_at dksX4_trace_1 16 rfl rfl)
theorem dX4_trace_41 : decode cX4_trace 41 = .ok (.goto 5, 3) := dk_167 0 5 (dk_at dksX4_trace_1 17 rfl rfl)
theorem dX4_trace_44 : decode cX4_trace 44 = .ok (.bipush (-2), 2) := dk_16 254 (dk_at dksX4_trace_1 20 rfl rfl)
theorem dX4_trace_46 : decode cX4_trace 46 = .ok (.ireturn, 1) := dk_172 (dk_at dksX4_trace_1 22 rfl rfl)
def dkwX4_can_1 : List UInt8 := [153, 0, 7, 3, 167, 0, 4, 4, 172]
abbrev dktX4_can_1 : List UInt8 := dkwX4_can_1 ++ []
def dkwX4_can_0 : List UInt8 := [42, 3, 181, 0, 1, 42, 180, 0, 245, 154, 0, 5, 2, 172, 42, 182, 1, 186, 42, 180, 1, 33]
abbrev dktX4_can_0 : List UInt8 := dkwX4_can_0 ++ dktX4_can_1
theorem dksX4_can_0 : cX4_can.data.toList.drop 0 = dktX4_can_0 := by decide +kernel
theorem dksX4_can_1 : cX4_can.data.toList.drop 22 = dktX4_can_1 := dk_seg dksX4_can_0 22 rfl rfl
theorem dX4_can_0 : decode cX4_can 0 = .ok (.aload_n 0, 1) := dk_42 (dk_at dksX4_can_0 0 rfl rfl)
theorem dX4_can_1 : decode cX4_can 1 = .ok (.iconst 0, 1) := dk_3 (dk_at dksX4_can_0 1 rfl rfl)
theorem dX4_can_2 : decode cX4_can 2 = .ok (.putfield 1, 3) := dk_181 0 1 (dk_at dksX4_can_0 2 rfl rfl)
theorem dX4_can_5 : decode cX4_can 5 = .ok (.aload_n 0, 1) := dk_42 (dk_at dksX4_can_0 5 rfl rfl)
theorem dX4_can_6 : decode cX4_can 6 = .ok (.getfield 245, 3) := dk_180 0 245 (dk_at dksX4_can_0 6 rfl rfl)
theorem dX4_can_9 : decode cX4_can 9 = .ok (.ifCond .ne 5, 3) := dk_154 0 5 (dk_at dksX4_can_0 9 rfl rfl)
theorem dX4_can_12 : decode cX4_can 12 = .ok (.iconst (-1), 1) := dk_2 (dk_at dksX4_can_0 12 rfl rfl)
theorem dX4_can_13 : decode cX4_can 13 = .ok (.ireturn, 1) := dk_172 (dk_at dksX4_can_0 13 rfl rfl)
theorem dX4_can_14 : decode cX4_can 14 = .ok (.aload_n 0, 1) := dk_42 (dk_at dksX4_can_0 14 rfl rfl)
theorem dX4_can_15 : decode cX4_can 15 = .ok (.invokevirtual 442, 3) := dk_182 1 186 (dk_at dksX4_can_0 15 rfl rfl)
theorem dX4_can_18 : decode cX4_can 18 = .ok (.aload_n 0, 1) := dk_42 (dk_at dksX4_can_0 18 rfl rfl)
theorem dX4_can_19 : decode cX4_can 19 = .ok (.getfield 289, 3) := dk_180 1 33 (dk_at dksX4_can_0 19 rfl rfl)
theorem dX4_can_22 : decode cX4_can 22 = .ok (.ifCond .eq 7, 3) := dk_153 0 7 (dk_at dksX4_can_1 0 rfl rfl)
theorem dX4_can_25 : decode cX4_can 25 = .ok (.iconst 0, 1) := dk_3 (dk_at dksX4_can_1 3 rfl rfl)
theorem dX4_can_26 : decode cX4_can 26 = .ok (.goto 4, 3) := dk_167 0 4 (dk_at dksX4_can_1 4 rfl rfl)
theorem dX4_can_29 : decode cX4_can 29 = .ok (.iconst 1, 1) := dk_4 (dk_at dksX4_can_1 7 rfl rfl)
theorem dX4_can_30 : decode cX4_can 30 = .ok (.ireturn, 1) := dk_172 (dk_at dksX4_can_1 8 rfl rfl)
def dkwX4_laysTrace_0 : List UInt8 := [42, 42, 180, 0, 44, 16, 105, 42, 182, 1, 179, 182, 1, 182, 177]
abbrev dktX4_laysTrace_0 : List UInt8 := dkwX4_laysTrace_0 ++ []
theorem dksX4_laysTrace_0 : cX4_laysTrace.data.toList.drop 0 = dktX4_laysTrace_0 := by decide +kernel
theorem dX4_laysTrace_0 : decode cX4_laysTrace 0 = .ok (.aload_n 0, 1) := dk_42 (dk_at dksX4_laysTrace_0 0 rfl rfl)
theorem dX4_laysTrace_1 : decode cX4_laysTrace 1 = .ok (.aload_n 0, 1) := dk_42 (dk_at dksX4_laysTrace_0 1 rfl rfl)
theorem dX4_laysTrace_2 : decode cX4_laysTrace 2 = .ok (.getfield 44, 3) := dk_180 0 44 (dk_at dksX4_laysTrace_0 2 rfl rfl)
theorem dX4_laysTrace_5 : decode cX4_laysTrace 5 = .ok (.bipush 105, 2) := dk_16 105 (dk_at dksX4_laysTrace_0 5 rfl rfl)
theorem dX4_laysTrace_7 : decode cX4_laysTrace 7 = .ok (.aload_n 0, 1) := dk_42 (dk_at dksX4_laysTrace_0 7 rfl rfl)
theorem dX4_laysTrace_8 : decode cX4_laysTrace 8 = .ok (.invokevirtual 435, 3) := dk_182 1 179 (dk_at dksX4_laysTrace_0 8 rfl rfl)
theorem dX4_laysTrace_11 : decode cX4_laysTrace 11 = .ok (.invokevirtual 438, 3) := dk_182 1 182 (dk_at dksX4_laysTrace_0 11 rfl rfl)
theorem dX4_laysTrace_14 : decode cX4_laysTrace 14 = .ok (.return_, 1) := dk_177 (dk_at dksX4_laysTrace_0 14 rfl rfl)
def dkwX4_laysTimes_10 : List UInt8 := [182, 1, 176, 132, 5, 1, 167, 255, 71, 42, 182, 1, 44, 177]
abbrev dktX4_laysTimes_10 : List UInt8 := dkwX4_laysTimes_10 ++ []
def dkwX4_laysTimes_9 : List UInt8 := [21, 8, 46, 79, 132, 8, 1, 167, 255, 203, 42, 180, 0, 29, 21, 6, 46, 54, 4, 42, 21, 4, 21, 7]
abbrev dktX4_laysTimes_9 : List UInt8 := dkwX4_laysTimes_9 ++ dktX4_laysTimes_10
def dkwX4_laysTimes_8 : List UInt8 := [180, 0, 35, 21, 8, 46, 21, 7, 79, 42, 180, 0, 114, 42, 180, 0, 35, 21, 8, 46, 42, 180, 0, 38]
abbrev dktX4_laysTimes_8 : List UInt8 := dkwX4_laysTimes_8 ++ dktX4_laysTimes_9
def dkwX4_laysTimes_7 : List UInt8 := [54, 8, 21, 8, 7, 21, 6, 104, 42, 180, 0, 32, 21, 6, 46, 96, 162, 0, 42, 42, 180, 0, 111, 42]
abbrev dktX4_laysTimes_7 : List UInt8 := dkwX4_laysTimes_7 ++ dktX4_laysTimes_8
def dkwX4_laysTimes_6 : List UInt8 := [42, 21, 4, 21, 7, 182, 1, 176, 42, 16, 8, 21, 6, 96, 21, 7, 182, 1, 176, 7, 21, 6, 104]
abbrev dktX4_laysTimes_6 : List UInt8 := dkwX4_laysTimes_6 ++ dktX4_laysTimes_7
def dkwX4_laysTimes_5 : List UInt8 := [180, 0, 120, 7, 21, 5, 104, 21, 8, 96, 42, 180, 0, 114, 21, 8, 46, 79, 132, 8, 1, 167, 255, 209]
abbrev dktX4_laysTimes_5 : List UInt8 := dkwX4_laysTimes_5 ++ dktX4_laysTimes_6
def dkwX4_laysTimes_4 : List UInt8 := [7, 162, 0, 47, 42, 180, 0, 117, 7, 21, 5, 104, 21, 8, 96, 42, 180, 0, 111, 21, 8, 46, 79, 42]
abbrev dktX4_laysTimes_4 : List UInt8 := dkwX4_laysTimes_4 ++ dktX4_laysTimes_5
def dkwX4_laysTimes_3 : List UInt8 := [54, 6, 21, 5, 4, 96, 54, 7, 42, 21, 7, 4, 100, 21, 7, 4, 182, 1, 30, 3, 54, 8, 21, 8]
abbrev dktX4_laysTimes_3 : List UInt8 := dkwX4_laysTimes_3 ++ dktX4_laysTimes_4
def dkwX4_laysTimes_2 : List UInt8 := [182, 1, 176, 42, 180, 0, 251, 54, 4, 3, 54, 5, 21, 5, 29, 162, 0, 185, 43, 28, 21, 5, 96, 46]
abbrev dktX4_laysTimes_2 : List UInt8 := dkwX4_laysTimes_2 ++ dktX4_laysTimes_3
def dkwX4_laysTimes_1 : List UInt8 := [21, 4, 3, 79, 42, 180, 0, 114, 21, 4, 3, 79, 132, 4, 1, 167, 255, 231, 42, 42, 180, 0, 251, 3]
abbrev dktX4_laysTimes_1 : List UInt8 := dkwX4_laysTimes_1 ++ dktX4_laysTimes_2
def dkwX4_laysTimes_0 : List UInt8 := [42, 29, 4, 96, 181, 1, 24, 42, 182, 1, 74, 3, 54, 4, 21, 4, 7, 162, 0, 25, 42, 180, 0, 111]
abbrev dktX4_laysTimes_0 : List UInt8 := dkwX4_laysTimes_0 ++ dktX4_laysTimes_1
theorem dksX4_laysTimes_0 : cX4_laysTimes.data.toList.drop 0 = dktX4_laysTimes_0 := by decide +kernel
theorem dksX4_laysTimes_1 : cX4_laysTimes.data.toList.drop 24 = dktX4_laysTimes_1 := dk_seg dksX4_laysTimes_0 24 rfl rfl
theorem dksX4_laysTimes_2 : cX4_laysTimes.data.toList.drop 48 = dktX4_laysTimes_2 := dk_seg dksX4_laysTimes_1 24 rfl rfl
theorem dksX4_laysTimes_3 : cX4_laysTimes.data.toList.drop 72 = dktX4_laysTimes_3 := dk_seg dksX4_laysTimes_2 24 rfl rfl
theorem dksX4_laysTimes_4 : cX4_laysTimes.data.toList.drop 96 = dktX4_laysTimes_4 := dk_seg dksX4_laysTimes_3 24 rfl rfl
theorem dksX4_laysTimes_5 : cX4_laysTimes.data.toList.drop 120 = dktX4_laysTimes_5 := dk_seg dksX4_laysTimes_4 24 rfl rfl
theorem dksX4_laysTimes_6 : cX4_laysTimes.data.toList.drop 144 = dktX4_laysTimes_6 := dk_seg dksX4_laysTimes_5 24 rfl rfl
theorem dksX4_laysTimes_7 : cX4_laysTimes.data.toList.drop 167 = dktX4_laysTimes_7 := dk_seg dksX4_laysTimes_6 23 rfl rfl
theorem dksX4_laysTimes_8 : cX4_laysTimes.data.toList.drop 191 = dktX4_laysTimes_8 := dk_seg dksX4_laysTimes_7 24 rfl rfl
theorem dksX4_laysTimes_9 : cX4_laysTimes.data.toList.drop 215 = dktX4_laysTimes_9 := dk_seg dksX4_laysTimes_8 24 rfl rfl
theorem dksX4_laysTimes_10 : cX4_laysTimes.data.toList.drop 239 = dktX4_laysTimes_10 := dk_seg dksX4_laysTimes_9 24 rfl rfl
theorem dX4_laysTimes_0 : decode cX4_laysTimes 0 = .ok (.aload_n 0, 1) := dk_42 (dk_at dksX4_laysTimes_0 0 rfl rfl)
theorem dX4_laysTimes_1 : decode cX4_laysTimes 1 = .ok (.iload_n 3, 1) := dk_29 (dk_at dksX4_laysTimes_0 1 rfl rfl)
theorem dX4_laysTimes_2 : decode cX4_laysTimes 2 = .ok (.iconst 1, 1) := dk_4 (dk_at dksX4_laysTimes_0 2 rfl rfl)
theorem dX4_laysTimes_3 : decode cX4_laysTimes 3 = .ok (.iadd, 1) := dk_96 (dk_at dksX4_laysTimes_0 3 rfl rfl)
theorem dX4_laysTimes_4 : decode cX4_laysTimes 4 = .ok (.putfield 280, 3) := dk_181 1 24 (dk_at dksX4_laysTimes_0 4 rfl rfl)
theorem dX4_laysTimes_7 : decode cX4_laysTimes 7 = .ok (.aload_n 0, 1) := dk_42 (dk_at dksX4_laysTimes_0 7 rfl rfl)
theorem dX4_laysTimes_8 : decode cX4_laysTimes 8 = .ok (.invokevirtual 330, 3) := dk_182 1 74 (dk_at dksX4_laysTimes_0 8 rfl rfl)
theorem dX4_laysTimes_11 : decode cX4_laysTimes 11 = .ok (.iconst 0, 1) := dk_3 (dk_at dksX4_laysTimes_0 11 rfl rfl)
theorem dX4_laysTimes_12 : decode cX4_laysTimes 12 = .ok (.istore 4, 2) := dk_54 4 (dk_at dksX4_laysTimes_0 12 rfl rfl)
theorem dX4_laysTimes_14 : decode cX4_laysTimes 14 = .ok (.iload 4, 2) := dk_21 4 (dk_at dksX4_laysTimes_0 14 rfl rfl)
theorem dX4_laysTimes_16 : decode cX4_laysTimes 16 = .ok (.iconst 4, 1) := dk_7 (dk_at dksX4_laysTimes_0 16 rfl rfl)
theorem dX4_laysTimes_17 : decode cX4_laysTimes 17 = .ok (.if_icmp .ge 25, 3) := dk_162 0 25 (dk_at dksX4_laysTimes_0 17 rfl rfl)
theorem dX4_laysTimes_20 : decode cX4_laysTimes 20 = .ok (.aload_n 0, 1) := dk_42 (dk_at dksX4_laysTimes_0 20 rfl rfl)
theorem dX4_laysTimes_21 : decode cX4_laysTimes 21 = .ok (.getfield 111, 3) := dk_180 0 111 (dk_at dksX4_laysTimes_0 21 rfl rfl)
theorem dX4_laysTimes_24 : decode cX4_laysTimes 24 = .ok (.iload 4, 2) := dk_21 4 (dk_at dksX4_laysTimes_1 0 rfl rfl)
theorem dX4_laysTimes_26 : decode cX4_laysTimes 26 = .ok (.iconst 0, 1) := dk_3 (dk_at dksX4_laysTimes_1 2 rfl rfl)
theorem dX4_laysTimes_27 : decode cX4_laysTimes 27 = .ok (.iastore, 1) := dk_79 (dk_at dksX4_laysTimes_1 3 rfl rfl)
theorem dX4_laysTimes_28 : decode cX4_laysTimes 28 = .ok (.aload_n 0, 1) := dk_42 (dk_at dksX4_laysTimes_1 4 rfl rfl)
theorem dX4_laysTimes_29 : decode cX4_laysTimes 29 = .ok (.getfield 114, 3) := dk_180 0 114 (dk_at dksX4_laysTimes_1 5 rfl rfl)
theorem dX4_laysTimes_32 : decode cX4_laysTimes 32 = .ok (.iload 4, 2) := dk_21 4 (dk_at dksX4_laysTimes_1 8 rfl rfl)
theorem dX4_laysTimes_34 : decode cX4_laysTimes 34 = .ok (.iconst 0, 1) := dk_3 (dk_at dksX4_laysTimes_1 10 rfl rfl)
theorem dX4_laysTimes_35 : decode cX4_laysTimes 35 = .ok (.iastore, 1) := dk_79 (dk_at dksX4_laysTimes_1 11 rfl rfl)
theorem dX4_laysTimes_36 : decode cX4_laysTimes 36 = .ok (.iinc 4 1, 3) := dk_132 4 1 (dk_at dksX4_laysTimes_1 12 rfl rfl)
theorem dX4_laysTimes_39 : decode cX4_laysTimes 39 = .ok (.goto (-25), 3) := dk_167 255 231 (dk_at dksX4_laysTimes_1 15 rfl rfl)
theorem dX4_laysTimes_42 : decode cX4_laysTimes 42 = .ok (.aload_n 0, 1) := dk_42 (dk_at dksX4_laysTimes_1 18 rfl rfl)
theorem dX4_laysTimes_43 : decode cX4_laysTimes 43 = .ok (.aload_n 0, 1) := dk_42 (dk_at dksX4_laysTimes_1 19 rfl rfl)
theorem dX4_laysTimes_44 : decode cX4_laysTimes 44 = .ok (.getfield 251, 3) := dk_180 0 251 (dk_at dksX4_laysTimes_1 20 rfl rfl)
theorem dX4_laysTimes_47 : decode cX4_laysTimes 47 = .ok (.iconst 0, 1) := dk_3 (dk_at dksX4_laysTimes_1 23 rfl rfl)
theorem dX4_laysTimes_48 : decode cX4_laysTimes 48 = .ok (.invokevirtual 432, 3) := dk_182 1 176 (dk_at dksX4_laysTimes_2 0 rfl rfl)
theorem dX4_laysTimes_51 : decode cX4_laysTimes 51 = .ok (.aload_n 0, 1) := dk_42 (dk_at dksX4_laysTimes_2 3 rfl rfl)
theorem dX4_laysTimes_52 : decode cX4_laysTimes 52 = .ok (.getfield 251, 3) := dk_180 0 251 (dk_at dksX4_laysTimes_2 4 rfl rfl)
theorem dX4_laysTimes_55 : decode cX4_laysTimes 55 = .ok (.istore 4, 2) := dk_54 4 (dk_at dksX4_laysTimes_2 7 rfl rfl)
theorem dX4_laysTimes_57 : decode cX4_laysTimes 57 = .ok (.iconst 0, 1) := dk_3 (dk_at dksX4_laysTimes_2 9 rfl rfl)
theorem dX4_laysTimes_58 : decode cX4_laysTimes 58 = .ok (.istore 5, 2) := dk_54 5 (dk_at dksX4_laysTimes_2 10 rfl rfl)
theorem dX4_laysTimes_60 : decode cX4_laysTimes 60 = .ok (.iload 5, 2) := dk_21 5 (dk_at dksX4_laysTimes_2 12 rfl rfl)
theorem dX4_laysTimes_62 : decode cX4_laysTimes 62 = .ok (.iload_n 3, 1) := dk_29 (dk_at dksX4_laysTimes_2 14 rfl rfl)
theorem dX4_laysTimes_63 : decode cX4_laysTimes 63 = .ok (.if_icmp .ge 185, 3) := dk_162 0 185 (dk_at dksX4_laysTimes_2 15 rfl rfl)
theorem dX4_laysTimes_66 : decode cX4_laysTimes 66 = .ok (.aload_n 1, 1) := dk_43 (dk_at dksX4_laysTimes_2 18 rfl rfl)
theorem dX4_laysTimes_67 : decode cX4_laysTimes 67 = .ok (.iload_n 2, 1) := dk_28 (dk_at dksX4_laysTimes_2 19 rfl rfl)
theorem dX4_laysTimes_68 : decode cX4_laysTimes 68 = .ok (.iload 5, 2) := dk_21 5 (dk_at dksX4_laysTimes_2 20 rfl rfl)
theorem dX4_laysTimes_70 : decode cX4_laysTimes 70 = .ok (.iadd, 1) := dk_96 (dk_at dksX4_laysTimes_2 22 rfl rfl)
theorem dX4_laysTimes_71 : decode cX4_laysTimes 71 = .ok (.iaload, 1) := dk_46 (dk_at dksX4_laysTimes_2 23 rfl rfl)
theorem dX4_laysTimes_72 : decode cX4_laysTimes 72 = .ok (.istore 6, 2) := dk_54 6 (dk_at dksX4_laysTimes_3 0 rfl rfl)
theorem dX4_laysTimes_74 : decode cX4_laysTimes 74 = .ok (.iload 5, 2) := dk_21 5 (dk_at dksX4_laysTimes_3 2 rfl rfl)
theorem dX4_laysTimes_76 : decode cX4_laysTimes 76 = .ok (.iconst 1, 1) := dk_4 (dk_at dksX4_laysTimes_3 4 rfl rfl)
theorem dX4_laysTimes_77 : decode cX4_laysTimes 77 = .ok (.iadd, 1) := dk_96 (dk_at dksX4_laysTimes_3 5 rfl rfl)
theorem dX4_laysTimes_78 : decode cX4_laysTimes 78 = .ok (.istore 7, 2) := dk_54 7 (dk_at dksX4_laysTimes_3 6 rfl rfl)
theorem dX4_laysTimes_80 : decode cX4_laysTimes 80 = .ok (.aload_n 0, 1) := dk_42 (dk_at dksX4_laysTimes_3 8 rfl rfl)
theorem dX4_laysTimes_81 : decode cX4_laysTimes 81 = .ok (.iload 7, 2) := dk_21 7 (dk_at dksX4_laysTimes_3 9 rfl rfl)
theorem dX4_laysTimes_83 : decode cX4_laysTimes 83 = .ok (.iconst 1, 1) := dk_4 (dk_at dksX4_laysTimes_3 11 rfl rfl)
theorem dX4_laysTimes_84 : decode cX4_laysTimes 84 = .ok (.isub, 1) := dk_100 (dk_at dksX4_laysTimes_3 12 rfl rfl)
theorem dX4_laysTimes_85 : decode cX4_laysTimes 85 = .ok (.iload 7, 2) := dk_21 7 (dk_at dksX4_laysTimes_3 13 rfl rfl)
theorem dX4_laysTimes_87 : decode cX4_laysTimes 87 = .ok (.iconst 1, 1) := dk_4 (dk_at dksX4_laysTimes_3 15 rfl rfl)
theorem dX4_laysTimes_88 : decode cX4_laysTimes 88 = .ok (.invokevirtual 286, 3) := dk_182 1 30 (dk_at dksX4_laysTimes_3 16 rfl rfl)
theorem dX4_laysTimes_91 : decode cX4_laysTimes 91 = .ok (.iconst 0, 1) := dk_3 (dk_at dksX4_laysTimes_3 19 rfl rfl)
theorem dX4_laysTimes_92 : decode cX4_laysTimes 92 = .ok (.istore 8, 2) := dk_54 8 (dk_at dksX4_laysTimes_3 20 rfl rfl)
theorem dX4_laysTimes_94 : decode cX4_laysTimes 94 = .ok (.iload 8, 2) := dk_21 8 (dk_at dksX4_laysTimes_3 22 rfl rfl)
theorem dX4_laysTimes_96 : decode cX4_laysTimes 96 = .ok (.iconst 4, 1) := dk_7 (dk_at dksX4_laysTimes_4 0 rfl rfl)
theorem dX4_laysTimes_97 : decode cX4_laysTimes 97 = .ok (.if_icmp .ge 47, 3) := dk_162 0 47 (dk_at dksX4_laysTimes_4 1 rfl rfl)
theorem dX4_laysTimes_100 : decode cX4_laysTimes 100 = .ok (.aload_n 0, 1) := dk_42 (dk_at dksX4_laysTimes_4 4 rfl rfl)
theorem dX4_laysTimes_101 : decode cX4_laysTimes 101 = .ok (.getfield 117, 3) := dk_180 0 117 (dk_at dksX4_laysTimes_4 5 rfl rfl)
theorem dX4_laysTimes_104 : decode cX4_laysTimes 104 = .ok (.iconst 4, 1) := dk_7 (dk_at dksX4_laysTimes_4 8 rfl rfl)
theorem dX4_laysTimes_105 : decode cX4_laysTimes 105 = .ok (.iload 5, 2) := dk_21 5 (dk_at dksX4_laysTimes_4 9 rfl rfl)
theorem dX4_laysTimes_107 : decode cX4_laysTimes 107 = .ok (.imul, 1) := dk_104 (dk_at dksX4_laysTimes_4 11 rfl rfl)
theorem dX4_laysTimes_108 : decode cX4_laysTimes 108 = .ok (.iload 8, 2) := dk_21 8 (dk_at dksX4_laysTimes_4 12 rfl rfl)
theorem dX4_laysTimes_110 : decode cX4_laysTimes 110 = .ok (.iadd, 1) := dk_96 (dk_at dksX4_laysTimes_4 14 rfl rfl)
theorem dX4_laysTimes_111 : decode cX4_laysTimes 111 = .ok (.aload_n 0, 1) := dk_42 (dk_at dksX4_laysTimes_4 15 rfl rfl)
theorem dX4_laysTimes_112 : decode cX4_laysTimes 112 = .ok (.getfield 111, 3) := dk_180 0 111 (dk_at dksX4_laysTimes_4 16 rfl rfl)
theorem dX4_laysTimes_115 : decode cX4_laysTimes 115 = .ok (.iload 8, 2) := dk_21 8 (dk_at dksX4_laysTimes_4 19 rfl rfl)
theorem dX4_laysTimes_117 : decode cX4_laysTimes 117 = .ok (.iaload, 1) := dk_46 (dk_at dksX4_laysTimes_4 21 rfl rfl)
theorem dX4_laysTimes_118 : decode cX4_laysTimes 118 = .ok (.iastore, 1) := dk_79 (dk_at dksX4_laysTimes_4 22 rfl rfl)
theorem dX4_laysTimes_119 : decode cX4_laysTimes 119 = .ok (.aload_n 0, 1) := dk_42 (dk_at dksX4_laysTimes_4 23 rfl rfl)
theorem dX4_laysTimes_120 : decode cX4_laysTimes 120 = .ok (.getfield 120, 3) := dk_180 0 120 (dk_at dksX4_laysTimes_5 0 rfl rfl)
theorem dX4_laysTimes_123 : decode cX4_laysTimes 123 = .ok (.iconst 4, 1) := dk_7 (dk_at dksX4_laysTimes_5 3 rfl rfl)
theorem dX4_laysTimes_124 : decode cX4_laysTimes 124 = .ok (.iload 5, 2) := dk_21 5 (dk_at dksX4_laysTimes_5 4 rfl rfl)
theorem dX4_laysTimes_126 : decode cX4_laysTimes 126 = .ok (.imul, 1) := dk_104 (dk_at dksX4_laysTimes_5 6 rfl rfl)
theorem dX4_laysTimes_127 : decode cX4_laysTimes 127 = .ok (.iload 8, 2) := dk_21 8 (dk_at dksX4_laysTimes_5 7 rfl rfl)
theorem dX4_laysTimes_129 : decode cX4_laysTimes 129 = .ok (.iadd, 1) := dk_96 (dk_at dksX4_laysTimes_5 9 rfl rfl)
theorem dX4_laysTimes_130 : decode cX4_laysTimes 130 = .ok (.aload_n 0, 1) := dk_42 (dk_at dksX4_laysTimes_5 10 rfl rfl)
theorem dX4_laysTimes_131 : decode cX4_laysTimes 131 = .ok (.getfield 114, 3) := dk_180 0 114 (dk_at dksX4_laysTimes_5 11 rfl rfl)
theorem dX4_laysTimes_134 : decode cX4_laysTimes 134 = .ok (.iload 8, 2) := dk_21 8 (dk_at dksX4_laysTimes_5 14 rfl rfl)
theorem dX4_laysTimes_136 : decode cX4_laysTimes 136 = .ok (.iaload, 1) := dk_46 (dk_at dksX4_laysTimes_5 16 rfl rfl)
theorem dX4_laysTimes_137 : decode cX4_laysTimes 137 = .ok (.iastore, 1) := dk_79 (dk_at dksX4_laysTimes_5 17 rfl rfl)
theorem dX4_laysTimes_138 : decode cX4_laysTimes 138 = .ok (.iinc 8 1, 3) := dk_132 8 1 (dk_at dksX4_laysTimes_5 18 rfl rfl)
theorem dX4_laysTimes_141 : decode cX4_laysTimes 141 = .ok (.goto (-47), 3) := dk_167 255 209 (dk_at dksX4_laysTimes_5 21 rfl rfl)
theorem dX4_laysTimes_144 : decode cX4_laysTimes 144 = .ok (.aload_n 0, 1) := dk_42 (dk_at dksX4_laysTimes_6 0 rfl rfl)
theorem dX4_laysTimes_145 : decode cX4_laysTimes 145 = .ok (.iload 4, 2) := dk_21 4 (dk_at dksX4_laysTimes_6 1 rfl rfl)
theorem dX4_laysTimes_147 : decode cX4_laysTimes 147 = .ok (.iload 7, 2) := dk_21 7 (dk_at dksX4_laysTimes_6 3 rfl rfl)
theorem dX4_laysTimes_149 : decode cX4_laysTimes 149 = .ok (.invokevirtual 432, 3) := dk_182 1 176 (dk_at dksX4_laysTimes_6 5 rfl rfl)
theorem dX4_laysTimes_152 : decode cX4_laysTimes 152 = .ok (.aload_n 0, 1) := dk_42 (dk_at dksX4_laysTimes_6 8 rfl rfl)
theorem dX4_laysTimes_153 : decode cX4_laysTimes 153 = .ok (.bipush 8, 2) := dk_16 8 (dk_at dksX4_laysTimes_6 9 rfl rfl)
theorem dX4_laysTimes_155 : decode cX4_laysTimes 155 = .ok (.iload 6, 2) := dk_21 6 (dk_at dksX4_laysTimes_6 11 rfl rfl)
theorem dX4_laysTimes_157 : decode cX4_laysTimes 157 = .ok (.iadd, 1) := dk_96 (dk_at dksX4_laysTimes_6 13 rfl rfl)
theorem dX4_laysTimes_158 : decode cX4_laysTimes 158 = .ok (.iload 7, 2) := dk_21 7 (dk_at dksX4_laysTimes_6 14 rfl rfl)
theorem dX4_laysTimes_160 : decode cX4_laysTimes 160 = .ok (.invokevirtual 432, 3) := dk_182 1 176 (dk_at dksX4_laysTimes_6 16 rfl rfl)
theorem dX4_laysTimes_163 : decode cX4_laysTimes 163 = .ok (.iconst 4, 1) := dk_7 (dk_at dksX4_laysTimes_6 19 rfl rfl)
theorem dX4_laysTimes_164 : decode cX4_laysTimes 164 = .ok (.iload 6, 2) := dk_21 6 (dk_at dksX4_laysTimes_6 20 rfl rfl)
theorem dX4_laysTimes_166 : decode cX4_laysTimes 166 = .ok (.imul, 1) := dk_104 (dk_at dksX4_laysTimes_6 22 rfl rfl)
theorem dX4_laysTimes_167 : decode cX4_laysTimes 167 = .ok (.istore 8, 2) := dk_54 8 (dk_at dksX4_laysTimes_7 0 rfl rfl)
theorem dX4_laysTimes_169 : decode cX4_laysTimes 169 = .ok (.iload 8, 2) := dk_21 8 (dk_at dksX4_laysTimes_7 2 rfl rfl)
theorem dX4_laysTimes_171 : decode cX4_laysTimes 171 = .ok (.iconst 4, 1) := dk_7 (dk_at dksX4_laysTimes_7 4 rfl rfl)
theorem dX4_laysTimes_172 : decode cX4_laysTimes 172 = .ok (.iload 6, 2) := dk_21 6 (dk_at dksX4_laysTimes_7 5 rfl rfl)
theorem dX4_laysTimes_174 : decode cX4_laysTimes 174 = .ok (.imul, 1) := dk_104 (dk_at dksX4_laysTimes_7 7 rfl rfl)
theorem dX4_laysTimes_175 : decode cX4_laysTimes 175 = .ok (.aload_n 0, 1) := dk_42 (dk_at dksX4_laysTimes_7 8 rfl rfl)
theorem dX4_laysTimes_176 : decode cX4_laysTimes 176 = .ok (.getfield 32, 3) := dk_180 0 32 (dk_at dksX4_laysTimes_7 9 rfl rfl)
theorem dX4_laysTimes_179 : decode cX4_laysTimes 179 = .ok (.iload 6, 2) := dk_21 6 (dk_at dksX4_laysTimes_7 12 rfl rfl)
theorem dX4_laysTimes_181 : decode cX4_laysTimes 181 = .ok (.iaload, 1) := dk_46 (dk_at dksX4_laysTimes_7 14 rfl rfl)
theorem dX4_laysTimes_182 : decode cX4_laysTimes 182 = .ok (.iadd, 1) := dk_96 (dk_at dksX4_laysTimes_7 15 rfl rfl)
theorem dX4_laysTimes_183 : decode cX4_laysTimes 183 = .ok (.if_icmp .ge 42, 3) := dk_162 0 42 (dk_at dksX4_laysTimes_7 16 rfl rfl)
theorem dX4_laysTimes_186 : decode cX4_laysTimes 186 = .ok (.aload_n 0, 1) := dk_42 (dk_at dksX4_laysTimes_7 19 rfl rfl)
theorem dX4_laysTimes_187 : decode cX4_laysTimes 187 = .ok (.getfield 111, 3) := dk_180 0 111 (dk_at dksX4_laysTimes_7 20 rfl rfl)
theorem dX4_laysTimes_190 : decode cX4_laysTimes 190 = .ok (.aload_n 0, 1) := dk_42 (dk_at dksX4_laysTimes_7 23 rfl rfl)
theorem dX4_laysTimes_191 : decode cX4_laysTimes 191 = .ok (.getfield 35, 3) := dk_180 0 35 (dk_at dksX4_laysTimes_8 0 rfl rfl)
theorem dX4_laysTimes_194 : decode cX4_laysTimes 194 = .ok (.iload 8, 2) := dk_21 8 (dk_at dksX4_laysTimes_8 3 rfl rfl)
theorem dX4_laysTimes_196 : decode cX4_laysTimes 196 = .ok (.iaload, 1) := dk_46 (dk_at dksX4_laysTimes_8 5 rfl rfl)
theorem dX4_laysTimes_197 : decode cX4_laysTimes 197 = .ok (.iload 7, 2) := dk_21 7 (dk_at dksX4_laysTimes_8 6 rfl rfl)
theorem dX4_laysTimes_199 : decode cX4_laysTimes 199 = .ok (.iastore, 1) := dk_79 (dk_at dksX4_laysTimes_8 8 rfl rfl)
theorem dX4_laysTimes_200 : decode cX4_laysTimes 200 = .ok (.aload_n 0, 1) := dk_42 (dk_at dksX4_laysTimes_8 9 rfl rfl)
theorem dX4_laysTimes_201 : decode cX4_laysTimes 201 = .ok (.getfield 114, 3) := dk_180 0 114 (dk_at dksX4_laysTimes_8 10 rfl rfl)
theorem dX4_laysTimes_204 : decode cX4_laysTimes 204 = .ok (.aload_n 0, 1) := dk_42 (dk_at dksX4_laysTimes_8 13 rfl rfl)
theorem dX4_laysTimes_205 : decode cX4_laysTimes 205 = .ok (.getfield 35, 3) := dk_180 0 35 (dk_at dksX4_laysTimes_8 14 rfl rfl)
theorem dX4_laysTimes_208 : decode cX4_laysTimes 208 = .ok (.iload 8, 2) := dk_21 8 (dk_at dksX4_laysTimes_8 17 rfl rfl)
theorem dX4_laysTimes_210 : decode cX4_laysTimes 210 = .ok (.iaload, 1) := dk_46 (dk_at dksX4_laysTimes_8 19 rfl rfl)
theorem dX4_laysTimes_211 : decode cX4_laysTimes 211 = .ok (.aload_n 0, 1) := dk_42 (dk_at dksX4_laysTimes_8 20 rfl rfl)
theorem dX4_laysTimes_212 : decode cX4_laysTimes 212 = .ok (.getfield 38, 3) := dk_180 0 38 (dk_at dksX4_laysTimes_8 21 rfl rfl)
theorem dX4_laysTimes_215 : decode cX4_laysTimes 215 = .ok (.iload 8, 2) := dk_21 8 (dk_at dksX4_laysTimes_9 0 rfl rfl)
theorem dX4_laysTimes_217 : decode cX4_laysTimes 217 = .ok (.iaload, 1) := dk_46 (dk_at dksX4_laysTimes_9 2 rfl rfl)
theorem dX4_laysTimes_218 : decode cX4_laysTimes 218 = .ok (.iastore, 1) := dk_79 (dk_at dksX4_laysTimes_9 3 rfl rfl)
theorem dX4_laysTimes_219 : decode cX4_laysTimes 219 = .ok (.iinc 8 1, 3) := dk_132 8 1 (dk_at dksX4_laysTimes_9 4 rfl rfl)
theorem dX4_laysTimes_222 : decode cX4_laysTimes 222 = .ok (.goto (-53), 3) := dk_167 255 203 (dk_at dksX4_laysTimes_9 7 rfl rfl)
theorem dX4_laysTimes_225 : decode cX4_laysTimes 225 = .ok (.aload_n 0, 1) := dk_42 (dk_at dksX4_laysTimes_9 10 rfl rfl)
theorem dX4_laysTimes_226 : decode cX4_laysTimes 226 = .ok (.getfield 29, 3) := dk_180 0 29 (dk_at dksX4_laysTimes_9 11 rfl rfl)
theorem dX4_laysTimes_229 : decode cX4_laysTimes 229 = .ok (.iload 6, 2) := dk_21 6 (dk_at dksX4_laysTimes_9 14 rfl rfl)
theorem dX4_laysTimes_231 : decode cX4_laysTimes 231 = .ok (.iaload, 1) := dk_46 (dk_at dksX4_laysTimes_9 16 rfl rfl)
theorem dX4_laysTimes_232 : decode cX4_laysTimes 232 = .ok (.istore 4, 2) := dk_54 4 (dk_at dksX4_laysTimes_9 17 rfl rfl)
theorem dX4_laysTimes_234 : decode cX4_laysTimes 234 = .ok (.aload_n 0, 1) := dk_42 (dk_at dksX4_laysTimes_9 19 rfl rfl)
theorem dX4_laysTimes_235 : decode cX4_laysTimes 235 = .ok (.iload 4, 2) := dk_21 4 (dk_at dksX4_laysTimes_9 20 rfl rfl)
theorem dX4_laysTimes_237 : decode cX4_laysTimes 237 = .ok (.iload 7, 2) := dk_21 7 (dk_at dksX4_laysTimes_9 22 rfl rfl)
theorem dX4_laysTimes_239 : decode cX4_laysTimes 239 = .ok (.invokevirtual 432, 3) := dk_182 1 176 (dk_at dksX4_laysTimes_10 0 rfl rfl)
theorem dX4_laysTimes_242 : decode cX4_laysTimes 242 = .ok (.iinc 5 1, 3) := dk_132 5 1 (dk_at dksX4_laysTimes_10 3 rfl rfl)
theorem dX4_laysTimes_245 : decode cX4_laysTimes 245 = .ok (.goto (-185), 3) := dk_167 255 71 (dk_at dksX4_laysTimes_10 6 rfl rfl)
theorem dX4_laysTimes_248 : decode cX4_laysTimes 248 = .ok (.aload_n 0, 1) := dk_42 (dk_at dksX4_laysTimes_10 9 rfl rfl)
theorem dX4_laysTimes_249 : decode cX4_laysTimes 249 = .ok (.invokevirtual 300, 3) := dk_182 1 44 (dk_at dksX4_laysTimes_10 10 rfl rfl)
theorem dX4_laysTimes_252 : decode cX4_laysTimes 252 = .ok (.return_, 1) := dk_177 (dk_at dksX4_laysTimes_10 13 rfl rfl)
def dkwX4_holdsAt_5 : List UInt8 := [167, 255, 145, 177]
abbrev dktX4_holdsAt_5 : List UInt8 := dkwX4_holdsAt_5 ++ []
def dkwX4_holdsAt_4 : List UInt8 := [29, 46, 42, 180, 0, 23, 29, 46, 42, 180, 0, 114, 21, 4, 46, 100, 182, 1, 40, 132, 3, 1]
abbrev dktX4_holdsAt_4 : List UInt8 := dkwX4_holdsAt_4 ++ dktX4_holdsAt_5
def dkwX4_holdsAt_3 : List UInt8 := [167, 0, 4, 3, 128, 181, 1, 33, 167, 0, 35, 42, 28, 42, 180, 0, 111, 21, 4, 46, 42, 180, 0, 20]
abbrev dktX4_holdsAt_3 : List UInt8 := dkwX4_holdsAt_3 ++ dktX4_holdsAt_4
def dkwX4_holdsAt_2 : List UInt8 := [21, 4, 46, 42, 180, 0, 20, 29, 46, 42, 180, 0, 23, 29, 46, 184, 1, 173, 154, 0, 7, 4]
abbrev dktX4_holdsAt_2 : List UInt8 := dkwX4_holdsAt_2 ++ dktX4_holdsAt_3
def dkwX4_holdsAt_1 : List UInt8 := [29, 46, 54, 4, 42, 180, 0, 111, 21, 4, 46, 28, 160, 0, 45, 42, 89, 180, 1, 33, 42, 180, 0, 114]
abbrev dktX4_holdsAt_1 : List UInt8 := dkwX4_holdsAt_1 ++ dktX4_holdsAt_2
def dkwX4_holdsAt_0 : List UInt8 := [16, 6, 27, 104, 62, 29, 16, 6, 27, 104, 42, 180, 0, 13, 27, 46, 96, 162, 0, 102, 42, 180, 0, 17]
abbrev dktX4_holdsAt_0 : List UInt8 := dkwX4_holdsAt_0 ++ dktX4_holdsAt_1
theorem dksX4_holdsAt_0 : cX4_holdsAt.data.toList.drop 0 = dktX4_holdsAt_0 := by decide +kernel
theorem dksX4_holdsAt_1 : cX4_holdsAt.data.toList.drop 24 = dktX4_holdsAt_1 := dk_seg dksX4_holdsAt_0 24 rfl rfl
theorem dksX4_holdsAt_2 : cX4_holdsAt.data.toList.drop 48 = dktX4_holdsAt_2 := dk_seg dksX4_holdsAt_1 24 rfl rfl
theorem dksX4_holdsAt_3 : cX4_holdsAt.data.toList.drop 70 = dktX4_holdsAt_3 := dk_seg dksX4_holdsAt_2 22 rfl rfl
theorem dksX4_holdsAt_4 : cX4_holdsAt.data.toList.drop 94 = dktX4_holdsAt_4 := dk_seg dksX4_holdsAt_3 24 rfl rfl
theorem dksX4_holdsAt_5 : cX4_holdsAt.data.toList.drop 116 = dktX4_holdsAt_5 := dk_seg dksX4_holdsAt_4 22 rfl rfl
theorem dX4_holdsAt_0 : decode cX4_holdsAt 0 = .ok (.bipush 6, 2) := dk_16 6 (dk_at dksX4_holdsAt_0 0 rfl rfl)
theorem dX4_holdsAt_2 : decode cX4_holdsAt 2 = .ok (.iload_n 1, 1) := dk_27 (dk_at dksX4_holdsAt_0 2 rfl rfl)
theorem dX4_holdsAt_3 : decode cX4_holdsAt 3 = .ok (.imul, 1) := dk_104 (dk_at dksX4_holdsAt_0 3 rfl rfl)
theorem dX4_holdsAt_4 : decode cX4_holdsAt 4 = .ok (.istore_n 3, 1) := dk_62 (dk_at dksX4_holdsAt_0 4 rfl rfl)
theorem dX4_holdsAt_5 : decode cX4_holdsAt 5 = .ok (.iload_n 3, 1) := dk_29 (dk_at dksX4_holdsAt_0 5 rfl rfl)
theorem dX4_holdsAt_6 : decode cX4_holdsAt 6 = .ok (.bipush 6, 2) := dk_16 6 (dk_at dksX4_holdsAt_0 6 rfl rfl)
theorem dX4_holdsAt_8 : decode cX4_holdsAt 8 = .ok (.iload_n 1, 1) := dk_27 (dk_at dksX4_holdsAt_0 8 rfl rfl)
theorem dX4_holdsAt_9 : decode cX4_holdsAt 9 = .ok (.imul, 1) := dk_104 (dk_at dksX4_holdsAt_0 9 rfl rfl)
theorem dX4_holdsAt_10 : decode cX4_holdsAt 10 = .ok (.aload_n 0, 1) := dk_42 (dk_at dksX4_holdsAt_0 10 rfl rfl)
theorem dX4_holdsAt_11 : decode cX4_holdsAt 11 = .ok (.getfield 13, 3) := dk_180 0 13 (dk_at dksX4_holdsAt_0 11 rfl rfl)
theorem dX4_holdsAt_14 : decode cX4_holdsAt 14 = .ok (.iload_n 1, 1) := dk_27 (dk_at dksX4_holdsAt_0 14 rfl rfl)
theorem dX4_holdsAt_15 : decode cX4_holdsAt 15 = .ok (.iaload, 1) := dk_46 (dk_at dksX4_holdsAt_0 15 rfl rfl)
theorem dX4_holdsAt_16 : decode cX4_holdsAt 16 = .ok (.iadd, 1) := dk_96 (dk_at dksX4_holdsAt_0 16 rfl rfl)
theorem dX4_holdsAt_17 : decode cX4_holdsAt 17 = .ok (.if_icmp .ge 102, 3) := dk_162 0 102 (dk_at dksX4_holdsAt_0 17 rfl rfl)
theorem dX4_holdsAt_20 : decode cX4_holdsAt 20 = .ok (.aload_n 0, 1) := dk_42 (dk_at dksX4_holdsAt_0 20 rfl rfl)
theorem dX4_holdsAt_21 : decode cX4_holdsAt 21 = .ok (.getfield 17, 3) := dk_180 0 17 (dk_at dksX4_holdsAt_0 21 rfl rfl)
theorem dX4_holdsAt_24 : decode cX4_holdsAt 24 = .ok (.iload_n 3, 1) := dk_29 (dk_at dksX4_holdsAt_1 0 rfl rfl)
theorem dX4_holdsAt_25 : decode cX4_holdsAt 25 = .ok (.iaload, 1) := dk_46 (dk_at dksX4_holdsAt_1 1 rfl rfl)
theorem dX4_holdsAt_26 : decode cX4_holdsAt 26 = .ok (.istore 4, 2) := dk_54 4 (dk_at dksX4_holdsAt_1 2 rfl rfl)
theorem dX4_holdsAt_28 : decode cX4_holdsAt 28 = .ok (.aload_n 0, 1) := dk_42 (dk_at dksX4_holdsAt_1 4 rfl rfl)
theorem dX4_holdsAt_29 : decode cX4_holdsAt 29 = .ok (.getfield 111, 3) := dk_180 0 111 (dk_at dksX4_holdsAt_1 5 rfl rfl)
theorem dX4_holdsAt_32 : decode cX4_holdsAt 32 = .ok (.iload 4, 2) := dk_21 4 (dk_at dksX4_holdsAt_1 8 rfl rfl)
theorem dX4_holdsAt_34 : decode cX4_holdsAt 34 = .ok (.iaload, 1) := dk_46 (dk_at dksX4_holdsAt_1 10 rfl rfl)
theorem dX4_holdsAt_35 : decode cX4_holdsAt 35 = .ok (.iload_n 2, 1) := dk_28 (dk_at dksX4_holdsAt_1 11 rfl rfl)
theorem dX4_holdsAt_36 : decode cX4_holdsAt 36 = .ok (.if_icmp .ne 45, 3) := dk_160 0 45 (dk_at dksX4_holdsAt_1 12 rfl rfl)
theorem dX4_holdsAt_39 : decode cX4_holdsAt 39 = .ok (.aload_n 0, 1) := dk_42 (dk_at dksX4_holdsAt_1 15 rfl rfl)
theorem dX4_holdsAt_40 : decode cX4_holdsAt 40 = .ok (.dup, 1) := dk_89 (dk_at dksX4_holdsAt_1 16 rfl rfl)
theorem dX4_holdsAt_41 : decode cX4_holdsAt 41 = .ok (.getfield 289, 3) := dk_180 1 33 (dk_at dksX4_holdsAt_1 17 rfl rfl)
theorem dX4_holdsAt_44 : decode cX4_holdsAt 44 = .ok (.aload_n 0, 1) := dk_42 (dk_at dksX4_holdsAt_1 20 rfl rfl)
theorem dX4_holdsAt_45 : decode cX4_holdsAt 45 = .ok (.getfield 114, 3) := dk_180 0 114 (dk_at dksX4_holdsAt_1 21 rfl rfl)
theorem dX4_holdsAt_48 : decode cX4_holdsAt 48 = .ok (.iload 4, 2) := dk_21 4 (dk_at dksX4_holdsAt_2 0 rfl rfl)
theorem dX4_holdsAt_50 : decode cX4_holdsAt 50 = .ok (.iaload, 1) := dk_46 (dk_at dksX4_holdsAt_2 2 rfl rfl)
theorem dX4_holdsAt_51 : decode cX4_holdsAt 51 = .ok (.aload_n 0, 1) := dk_42 (dk_at dksX4_holdsAt_2 3 rfl rfl)
theorem dX4_holdsAt_52 : decode cX4_holdsAt 52 = .ok (.getfield 20, 3) := dk_180 0 20 (dk_at dksX4_holdsAt_2 4 rfl rfl)
theorem dX4_holdsAt_55 : decode cX4_holdsAt 55 = .ok (.iload_n 3, 1) := dk_29 (dk_at dksX4_holdsAt_2 7 rfl rfl)
theorem dX4_holdsAt_56 : decode cX4_holdsAt 56 = .ok (.iaload, 1) := dk_46 (dk_at dksX4_holdsAt_2 8 rfl rfl)
theorem dX4_holdsAt_57 : decode cX4_holdsAt 57 = .ok (.aload_n 0, 1) := dk_42 (dk_at dksX4_holdsAt_2 9 rfl rfl)
theorem dX4_holdsAt_58 : decode cX4_holdsAt 58 = .ok (.getfield 23, 3) := dk_180 0 23 (dk_at dksX4_holdsAt_2 10 rfl rfl)
theorem dX4_holdsAt_61 : decode cX4_holdsAt 61 = .ok (.iload_n 3, 1) := dk_29 (dk_at dksX4_holdsAt_2 13 rfl rfl)
theorem dX4_holdsAt_62 : decode cX4_holdsAt 62 = .ok (.iaload, 1) := dk_46 (dk_at dksX4_holdsAt_2 14 rfl rfl)
theorem dX4_holdsAt_63 : decode cX4_holdsAt 63 = .ok (.invokestatic 429, 3) := dk_184 1 173 (dk_at dksX4_holdsAt_2 15 rfl rfl)
theorem dX4_holdsAt_66 : decode cX4_holdsAt 66 = .ok (.ifCond .ne 7, 3) := dk_154 0 7 (dk_at dksX4_holdsAt_2 18 rfl rfl)
theorem dX4_holdsAt_69 : decode cX4_holdsAt 69 = .ok (.iconst 1, 1) := dk_4 (dk_at dksX4_holdsAt_2 21 rfl rfl)
theorem dX4_holdsAt_70 : decode cX4_holdsAt 70 = .ok (.goto 4, 3) := dk_167 0 4 (dk_at dksX4_holdsAt_3 0 rfl rfl)
theorem dX4_holdsAt_73 : decode cX4_holdsAt 73 = .ok (.iconst 0, 1) := dk_3 (dk_at dksX4_holdsAt_3 3 rfl rfl)
theorem dX4_holdsAt_74 : decode cX4_holdsAt 74 = .ok (.ior, 1) := dk_128 (dk_at dksX4_holdsAt_3 4 rfl rfl)
theorem dX4_holdsAt_75 : decode cX4_holdsAt 75 = .ok (.putfield 289, 3) := dk_181 1 33 (dk_at dksX4_holdsAt_3 5 rfl rfl)
theorem dX4_holdsAt_78 : decode cX4_holdsAt 78 = .ok (.goto 35, 3) := dk_167 0 35 (dk_at dksX4_holdsAt_3 8 rfl rfl)
theorem dX4_holdsAt_81 : decode cX4_holdsAt 81 = .ok (.aload_n 0, 1) := dk_42 (dk_at dksX4_holdsAt_3 11 rfl rfl)
theorem dX4_holdsAt_82 : decode cX4_holdsAt 82 = .ok (.iload_n 2, 1) := dk_28 (dk_at dksX4_holdsAt_3 12 rfl rfl)
theorem dX4_holdsAt_83 : decode cX4_holdsAt 83 = .ok (.aload_n 0, 1) := dk_42 (dk_at dksX4_holdsAt_3 13 rfl rfl)
theorem dX4_holdsAt_84 : decode cX4_holdsAt 84 = .ok (.getfield 111, 3) := dk_180 0 111 (dk_at dksX4_holdsAt_3 14 rfl rfl)
theorem dX4_holdsAt_87 : decode cX4_holdsAt 87 = .ok (.iload 4, 2) := dk_21 4 (dk_at dksX4_holdsAt_3 17 rfl rfl)
theorem dX4_holdsAt_89 : decode cX4_holdsAt 89 = .ok (.iaload, 1) := dk_46 (dk_at dksX4_holdsAt_3 19 rfl rfl)
theorem dX4_holdsAt_90 : decode cX4_holdsAt 90 = .ok (.aload_n 0, 1) := dk_42 (dk_at dksX4_holdsAt_3 20 rfl rfl)
theorem dX4_holdsAt_91 : decode cX4_holdsAt 91 = .ok (.getfield 20, 3) := dk_180 0 20 (dk_at dksX4_holdsAt_3 21 rfl rfl)
theorem dX4_holdsAt_94 : decode cX4_holdsAt 94 = .ok (.iload_n 3, 1) := dk_29 (dk_at dksX4_holdsAt_4 0 rfl rfl)
theorem dX4_holdsAt_95 : decode cX4_holdsAt 95 = .ok (.iaload, 1) := dk_46 (dk_at dksX4_holdsAt_4 1 rfl rfl)
theorem dX4_holdsAt_96 : decode cX4_holdsAt 96 = .ok (.aload_n 0, 1) := dk_42 (dk_at dksX4_holdsAt_4 2 rfl rfl)
theorem dX4_holdsAt_97 : decode cX4_holdsAt 97 = .ok (.getfield 23, 3) := dk_180 0 23 (dk_at dksX4_holdsAt_4 3 rfl rfl)
theorem dX4_holdsAt_100 : decode cX4_holdsAt 100 = .ok (.iload_n 3, 1) := dk_29 (dk_at dksX4_holdsAt_4 6 rfl rfl)
theorem dX4_holdsAt_101 : decode cX4_holdsAt 101 = .ok (.iaload, 1) := dk_46 (dk_at dksX4_holdsAt_4 7 rfl rfl)
theorem dX4_holdsAt_102 : decode cX4_holdsAt 102 = .ok (.aload_n 0, 1) := dk_42 (dk_at dksX4_holdsAt_4 8 rfl rfl)
theorem dX4_holdsAt_103 : decode cX4_holdsAt 103 = .ok (.getfield 114, 3) := dk_180 0 114 (dk_at dksX4_holdsAt_4 9 rfl rfl)
theorem dX4_holdsAt_106 : decode cX4_holdsAt 106 = .ok (.iload 4, 2) := dk_21 4 (dk_at dksX4_holdsAt_4 12 rfl rfl)
theorem dX4_holdsAt_108 : decode cX4_holdsAt 108 = .ok (.iaload, 1) := dk_46 (dk_at dksX4_holdsAt_4 14 rfl rfl)
theorem dX4_holdsAt_109 : decode cX4_holdsAt 109 = .ok (.isub, 1) := dk_100 (dk_at dksX4_holdsAt_4 15 rfl rfl)
theorem dX4_holdsAt_110 : decode cX4_holdsAt 110 = .ok (.invokevirtual 296, 3) := dk_182 1 40 (dk_at dksX4_holdsAt_4 16 rfl rfl)
theorem dX4_holdsAt_113 : decode cX4_holdsAt 113 = .ok (.iinc 3 1, 3) := dk_132 3 1 (dk_at dksX4_holdsAt_4 19 rfl rfl)
theorem dX4_holdsAt_116 : decode cX4_holdsAt 116 = .ok (.goto (-111), 3) := dk_167 255 145 (dk_at dksX4_holdsAt_5 0 rfl rfl)
theorem dX4_holdsAt_119 : decode cX4_holdsAt 119 = .ok (.return_, 1) := dk_177 (dk_at dksX4_holdsAt_5 3 rfl rfl)
def dkwX4_holds_3 : List UInt8 := [167, 0, 13, 26, 28, 164, 0, 7, 4, 167, 0, 4, 3, 172]
abbrev dktX4_holds_3 : List UInt8 := dkwX4_holds_3 ++ []
def dkwX4_holds_2 : List UInt8 := [167, 0, 35, 3, 167, 0, 31, 27, 6, 160, 0, 16, 26, 28, 161, 0, 7, 4, 167, 0, 17, 3]
abbrev dktX4_holds_2 : List UInt8 := dkwX4_holds_2 ++ dktX4_holds_3
def dkwX4_holds_1 : List UInt8 := [163, 0, 7, 4, 167, 0, 53, 3, 167, 0, 49, 27, 5, 160, 0, 16, 26, 28, 160, 0, 7, 4]
abbrev dktX4_holds_1 : List UInt8 := dkwX4_holds_1 ++ dktX4_holds_2
def dkwX4_holds_0 : List UInt8 := [27, 154, 0, 16, 26, 28, 162, 0, 7, 4, 167, 0, 71, 3, 167, 0, 67, 27, 4, 160, 0, 16, 26, 28]
abbrev dktX4_holds_0 : List UInt8 := dkwX4_holds_0 ++ dktX4_holds_1
theorem dksX4_holds_0 : cX4_holds.data.toList.drop 0 = dktX4_holds_0 := by decide +kernel
theorem dksX4_holds_1 : cX4_holds.data.toList.drop 24 = dktX4_holds_1 := dk_seg dksX4_holds_0 24 rfl rfl
theorem dksX4_holds_2 : cX4_holds.data.toList.drop 46 = dktX4_holds_2 := dk_seg dksX4_holds_1 22 rfl rfl
theorem dksX4_holds_3 : cX4_holds.data.toList.drop 68 = dktX4_holds_3 := dk_seg dksX4_holds_2 22 rfl rfl
theorem dX4_holds_0 : decode cX4_holds 0 = .ok (.iload_n 1, 1) := dk_27 (dk_at dksX4_holds_0 0 rfl rfl)
theorem dX4_holds_1 : decode cX4_holds 1 = .ok (.ifCond .ne 16, 3) := dk_154 0 16 (dk_at dksX4_holds_0 1 rfl rfl)
theorem dX4_holds_4 : decode cX4_holds 4 = .ok (.iload_n 0, 1) := dk_26 (dk_at dksX4_holds_0 4 rfl rfl)
theorem dX4_holds_5 : decode cX4_holds 5 = .ok (.iload_n 2, 1) := dk_28 (dk_at dksX4_holds_0 5 rfl rfl)
theorem dX4_holds_6 : decode cX4_holds 6 = .ok (.if_icmp .ge 7, 3) := dk_162 0 7 (dk_at dksX4_holds_0 6 rfl rfl)
theorem dX4_holds_9 : decode cX4_holds 9 = .ok (.iconst 1, 1) := dk_4 (dk_at dksX4_holds_0 9 rfl rfl)
theorem dX4_holds_10 : decode cX4_holds 10 = .ok (.goto 71, 3) := dk_167 0 71 (dk_at dksX4_holds_0 10 rfl rfl)
theorem dX4_holds_13 : decode cX4_holds 13 = .ok (.iconst 0, 1) := dk_3 (dk_at dksX4_holds_0 13 rfl rfl)
theorem dX4_holds_14 : decode cX4_holds 14 = .ok (.goto 67, 3) := dk_167 0 67 (dk_at dksX4_holds_0 14 rfl rfl)
theorem dX4_holds_17 : decode cX4_holds 17 = .ok (.iload_n 1, 1) := dk_27 (dk_at dksX4_holds_0 17 rfl rfl)
theorem dX4_holds_18 : decode cX4_holds 18 = .ok (.iconst 1, 1) := dk_4 (dk_at dksX4_holds_0 18 rfl rfl)
theorem dX4_holds_19 : decode cX4_holds 19 = .ok (.if_icmp .ne 16, 3) := dk_160 0 16 (dk_at dksX4_holds_0 19 rfl rfl)
theorem dX4_holds_22 : decode cX4_holds 22 = .ok (.iload_n 0, 1) := dk_26 (dk_at dksX4_holds_0 22 rfl rfl)
theorem dX4_holds_23 : decode cX4_holds 23 = .ok (.iload_n 2, 1) := dk_28 (dk_at dksX4_holds_0 23 rfl rfl)
theorem dX4_holds_24 : decode cX4_holds 24 = .ok (.if_icmp .gt 7, 3) := dk_163 0 7 (dk_at dksX4_holds_1 0 rfl rfl)
theorem dX4_holds_27 : decode cX4_holds 27 = .ok (.iconst 1, 1) := dk_4 (dk_at dksX4_holds_1 3 rfl rfl)
theorem dX4_holds_28 : decode cX4_holds 28 = .ok (.goto 53, 3) := dk_167 0 53 (dk_at dksX4_holds_1 4 rfl rfl)
theorem dX4_holds_31 : decode cX4_holds 31 = .ok (.iconst 0, 1) := dk_3 (dk_at dksX4_holds_1 7 rfl rfl)
theorem dX4_holds_32 : decode cX4_holds 32 = .ok (.goto 49, 3) := dk_167 0 49 (dk_at dksX4_holds_1 8 rfl rfl)
theorem dX4_holds_35 : decode cX4_holds 35 = .ok (.iload_n 1, 1) := dk_27 (dk_at dksX4_holds_1 11 rfl rfl)
theorem dX4_holds_36 : decode cX4_holds 36 = .ok (.iconst 2, 1) := dk_5 (dk_at dksX4_holds_1 12 rfl rfl)
theorem dX4_holds_37 : decode cX4_holds 37 = .ok (.if_icmp .ne 16, 3) := dk_160 0 16 (dk_at dksX4_holds_1 13 rfl rfl)
theorem dX4_holds_40 : decode cX4_holds 40 = .ok (.iload_n 0, 1) := dk_26 (dk_at dksX4_holds_1 16 rfl rfl)
theorem dX4_holds_41 : decode cX4_holds 41 = .ok (.iload_n 2, 1) := dk_28 (dk_at dksX4_holds_1 17 rfl rfl)
theorem dX4_holds_42 : decode cX4_holds 42 = .ok (.if_icmp .ne 7, 3) := dk_160 0 7 (dk_at dksX4_holds_1 18 rfl rfl)
theorem dX4_holds_45 : decode cX4_holds 45 = .ok (.iconst 1, 1) := dk_4 (dk_at dksX4_holds_1 21 rfl rfl)
theorem dX4_holds_46 : decode cX4_holds 46 = .ok (.goto 35, 3) := dk_167 0 35 (dk_at dksX4_holds_2 0 rfl rfl)
theorem dX4_holds_49 : decode cX4_holds 49 = .ok (.iconst 0, 1) := dk_3 (dk_at dksX4_holds_2 3 rfl rfl)
theorem dX4_holds_50 : decode cX4_holds 50 = .ok (.goto 31, 3) := dk_167 0 31 (dk_at dksX4_holds_2 4 rfl rfl)
theorem dX4_holds_53 : decode cX4_holds 53 = .ok (.iload_n 1, 1) := dk_27 (dk_at dksX4_holds_2 7 rfl rfl)
theorem dX4_holds_54 : decode cX4_holds 54 = .ok (.iconst 3, 1) := dk_6 (dk_at dksX4_holds_2 8 rfl rfl)
theorem dX4_holds_55 : decode cX4_holds 55 = .ok (.if_icmp .ne 16, 3) := dk_160 0 16 (dk_at dksX4_holds_2 9 rfl rfl)
theorem dX4_holds_58 : decode cX4_holds 58 = .ok (.iload_n 0, 1) := dk_26 (dk_at dksX4_holds_2 12 rfl rfl)
theorem dX4_holds_59 : decode cX4_holds 59 = .ok (.iload_n 2, 1) := dk_28 (dk_at dksX4_holds_2 13 rfl rfl)
theorem dX4_holds_60 : decode cX4_holds 60 = .ok (.if_icmp .lt 7, 3) := dk_161 0 7 (dk_at dksX4_holds_2 14 rfl rfl)
theorem dX4_holds_63 : decode cX4_holds 63 = .ok (.iconst 1, 1) := dk_4 (dk_at dksX4_holds_2 17 rfl rfl)
theorem dX4_holds_64 : decode cX4_holds 64 = .ok (.goto 17, 3) := dk_167 0 17 (dk_at dksX4_holds_2 18 rfl rfl)
theorem dX4_holds_67 : decode cX4_holds 67 = .ok (.iconst 0, 1) := dk_3 (dk_at dksX4_holds_2 21 rfl rfl)
theorem dX4_holds_68 : decode cX4_holds 68 = .ok (.goto 13, 3) := dk_167 0 13 (dk_at dksX4_holds_3 0 rfl rfl)
theorem dX4_holds_71 : decode cX4_holds 71 = .ok (.iload_n 0, 1) := dk_26 (dk_at dksX4_holds_3 3 rfl rfl)
theorem dX4_holds_72 : decode cX4_holds 72 = .ok (.iload_n 2, 1) := dk_28 (dk_at dksX4_holds_3 4 rfl rfl)
theorem dX4_holds_73 : decode cX4_holds 73 = .ok (.if_icmp .le 7, 3) := dk_164 0 7 (dk_at dksX4_holds_3 5 rfl rfl)
theorem dX4_holds_76 : decode cX4_holds 76 = .ok (.iconst 1, 1) := dk_4 (dk_at dksX4_holds_3 8 rfl rfl)
theorem dX4_holds_77 : decode cX4_holds 77 = .ok (.goto 4, 3) := dk_167 0 4 (dk_at dksX4_holds_3 9 rfl rfl)
theorem dX4_holds_80 : decode cX4_holds 80 = .ok (.iconst 0, 1) := dk_3 (dk_at dksX4_holds_3 12 rfl rfl)
theorem dX4_holds_81 : decode cX4_holds 81 = .ok (.ireturn, 1) := dk_172 (dk_at dksX4_holds_3 13 rfl rfl)
def dkwX4_window_2 : List UInt8 := [167, 0, 13, 42, 3, 27, 4, 96, 3, 28, 182, 1, 189, 172]
abbrev dktX4_window_2 : List UInt8 := dkwX4_window_2 ++ []
def dkwX4_window_1 : List UInt8 := [182, 1, 179, 161, 0, 6, 16, 254, 172, 42, 182, 1, 186, 42, 180, 1, 33, 153, 0, 8, 16, 253]
abbrev dktX4_window_1 : List UInt8 := dkwX4_window_1 ++ dktX4_window_2
def dkwX4_window_0 : List UInt8 := [42, 3, 181, 0, 1, 27, 155, 0, 12, 28, 3, 6, 184, 0, 158, 154, 0, 5, 2, 172, 27, 42]
abbrev dktX4_window_0 : List UInt8 := dkwX4_window_0 ++ dktX4_window_1
theorem dksX4_window_0 : cX4_window.data.toList.drop 0 = dktX4_window_0 := by decide +kernel
theorem dksX4_window_1 : cX4_window.data.toList.drop 22 = dktX4_window_1 := dk_seg dksX4_window_0 22 rfl rfl
theorem dksX4_window_2 : cX4_window.data.toList.drop 44 = dktX4_window_2 := dk_seg dksX4_window_1 22 rfl rfl
theorem dX4_window_0 : decode cX4_window 0 = .ok (.aload_n 0, 1) := dk_42 (dk_at dksX4_window_0 0 rfl rfl)
theorem dX4_window_1 : decode cX4_window 1 = .ok (.iconst 0, 1) := dk_3 (dk_at dksX4_window_0 1 rfl rfl)
theorem dX4_window_2 : decode cX4_window 2 = .ok (.putfield 1, 3) := dk_181 0 1 (dk_at dksX4_window_0 2 rfl rfl)
theorem dX4_window_5 : decode cX4_window 5 = .ok (.iload_n 1, 1) := dk_27 (dk_at dksX4_window_0 5 rfl rfl)
theorem dX4_window_6 : decode cX4_window 6 = .ok (.ifCond .lt 12, 3) := dk_155 0 12 (dk_at dksX4_window_0 6 rfl rfl)
theorem dX4_window_9 : decode cX4_window 9 = .ok (.iload_n 2, 1) := dk_28 (dk_at dksX4_window_0 9 rfl rfl)
theorem dX4_window_10 : decode cX4_window 10 = .ok (.iconst 0, 1) := dk_3 (dk_at dksX4_window_0 10 rfl rfl)
theorem dX4_window_11 : decode cX4_window 11 = .ok (.iconst 3, 1) := dk_6 (dk_at dksX4_window_0 11 rfl rfl)
theorem dX4_window_12 : decode cX4_window 12 = .ok (.invokestatic 158, 3) := dk_184 0 158 (dk_at dksX4_window_0 12 rfl rfl)
theorem dX4_window_15 : decode cX4_window 15 = .ok (.ifCond .ne 5, 3) := dk_154 0 5 (dk_at dksX4_window_0 15 rfl rfl)
theorem dX4_window_18 : decode cX4_window 18 = .ok (.iconst (-1), 1) := dk_2 (dk_at dksX4_window_0 18 rfl rfl)
theorem dX4_window_19 : decode cX4_window 19 = .ok (.ireturn, 1) := dk_172 (dk_at dksX4_window_0 19 rfl rfl)
theorem dX4_window_20 : decode cX4_window 20 = .ok (.iload_n 1, 1) := dk_27 (dk_at dksX4_window_0 20 rfl rfl)
theorem dX4_window_21 : decode cX4_window 21 = .ok (.aload_n 0, 1) := dk_42 (dk_at dksX4_window_0 21 rfl rfl)
theorem dX4_window_22 : decode cX4_window 22 = .ok (.invokevirtual 435, 3) := dk_182 1 179 (dk_at dksX4_window_1 0 rfl rfl)
theorem dX4_window_25 : decode cX4_window 25 = .ok (.if_icmp .lt 6, 3) := dk_161 0 6 (dk_at dksX4_window_1 3 rfl rfl)
theorem dX4_window_28 : decode cX4_window 28 = .ok (.bipush (-2), 2) := dk_16 254 (dk_at dksX4_window_1 6 rfl rfl)
theorem dX4_window_30 : decode cX4_window 30 = .ok (.ireturn, 1) := dk_172 (dk_at dksX4_window_1 8 rfl rfl)
theorem dX4_window_31 : decode cX4_window 31 = .ok (.aload_n 0, 1) := dk_42 (dk_at dksX4_window_1 9 rfl rfl)
theorem dX4_window_32 : decode cX4_window 32 = .ok (.invokevirtual 442, 3) := dk_182 1 186 (dk_at dksX4_window_1 10 rfl rfl)
theorem dX4_window_35 : decode cX4_window 35 = .ok (.aload_n 0, 1) := dk_42 (dk_at dksX4_window_1 13 rfl rfl)
theorem dX4_window_36 : decode cX4_window 36 = .ok (.getfield 289, 3) := dk_180 1 33 (dk_at dksX4_window_1 14 rfl rfl)
theorem dX4_window_39 : decode cX4_window 39 = .ok (.ifCond .eq 8, 3) := dk_153 0 8 (dk_at dksX4_window_1 17 rfl rfl)
theorem dX4_window_42 : decode cX4_window 42 = .ok (.bipush (-3), 2) := dk_16 253 (dk_at dksX4_window_1 20 rfl rfl)
theorem dX4_window_44 : decode cX4_window 44 = .ok (.goto 13, 3) := dk_167 0 13 (dk_at dksX4_window_2 0 rfl rfl)
theorem dX4_window_47 : decode cX4_window 47 = .ok (.aload_n 0, 1) := dk_42 (dk_at dksX4_window_2 3 rfl rfl)
theorem dX4_window_48 : decode cX4_window 48 = .ok (.iconst 0, 1) := dk_3 (dk_at dksX4_window_2 4 rfl rfl)
theorem dX4_window_49 : decode cX4_window 49 = .ok (.iload_n 1, 1) := dk_27 (dk_at dksX4_window_2 5 rfl rfl)
theorem dX4_window_50 : decode cX4_window 50 = .ok (.iconst 1, 1) := dk_4 (dk_at dksX4_window_2 6 rfl rfl)
theorem dX4_window_51 : decode cX4_window 51 = .ok (.iadd, 1) := dk_96 (dk_at dksX4_window_2 7 rfl rfl)
theorem dX4_window_52 : decode cX4_window 52 = .ok (.iconst 0, 1) := dk_3 (dk_at dksX4_window_2 8 rfl rfl)
theorem dX4_window_53 : decode cX4_window 53 = .ok (.iload_n 2, 1) := dk_28 (dk_at dksX4_window_2 9 rfl rfl)
theorem dX4_window_54 : decode cX4_window 54 = .ok (.invokevirtual 445, 3) := dk_182 1 189 (dk_at dksX4_window_2 10 rfl rfl)
theorem dX4_window_57 : decode cX4_window 57 = .ok (.ireturn, 1) := dk_172 (dk_at dksX4_window_2 13 rfl rfl)
def dkwX4_spanOf_3 : List UInt8 := [167, 0, 19, 21, 5, 19, 1, 15, 161, 0, 7, 3, 167, 0, 7, 21, 5, 4, 126, 172]
abbrev dktX4_spanOf_3 : List UInt8 := dkwX4_spanOf_3 ++ []
def dkwX4_spanOf_2 : List UInt8 := [160, 0, 27, 21, 5, 19, 1, 15, 161, 0, 9, 17, 39, 16, 167, 0, 29, 21, 5, 184, 1, 62, 29, 96]
abbrev dktX4_spanOf_2 : List UInt8 := dkwX4_spanOf_2 ++ dktX4_spanOf_3
def dkwX4_spanOf_1 : List UInt8 := [167, 0, 11, 42, 27, 28, 182, 1, 16, 4, 126, 172, 42, 28, 27, 182, 1, 16, 54, 5, 21, 4, 5]
abbrev dktX4_spanOf_1 : List UInt8 := dkwX4_spanOf_1 ++ dktX4_spanOf_2
def dkwX4_spanOf_0 : List UInt8 := [21, 4, 5, 162, 0, 31, 21, 4, 154, 0, 17, 29, 42, 27, 28, 182, 1, 16, 184, 1, 62, 100]
abbrev dktX4_spanOf_0 : List UInt8 := dkwX4_spanOf_0 ++ dktX4_spanOf_1
theorem dksX4_spanOf_0 : cX4_spanOf.data.toList.drop 0 = dktX4_spanOf_0 := by decide +kernel
theorem dksX4_spanOf_1 : cX4_spanOf.data.toList.drop 22 = dktX4_spanOf_1 := dk_seg dksX4_spanOf_0 22 rfl rfl
theorem dksX4_spanOf_2 : cX4_spanOf.data.toList.drop 45 = dktX4_spanOf_2 := dk_seg dksX4_spanOf_1 23 rfl rfl
theorem dksX4_spanOf_3 : cX4_spanOf.data.toList.drop 69 = dktX4_spanOf_3 := dk_seg dksX4_spanOf_2 24 rfl rfl
theorem dX4_spanOf_0 : decode cX4_spanOf 0 = .ok (.iload 4, 2) := dk_21 4 (dk_at dksX4_spanOf_0 0 rfl rfl)
theorem dX4_spanOf_2 : decode cX4_spanOf 2 = .ok (.iconst 2, 1) := dk_5 (dk_at dksX4_spanOf_0 2 rfl rfl)
theorem dX4_spanOf_3 : decode cX4_spanOf 3 = .ok (.if_icmp .ge 31, 3) := dk_162 0 31 (dk_at dksX4_spanOf_0 3 rfl rfl)
theorem dX4_spanOf_6 : decode cX4_spanOf 6 = .ok (.iload 4, 2) := dk_21 4 (dk_at dksX4_spanOf_0 6 rfl rfl)
theorem dX4_spanOf_8 : decode cX4_spanOf 8 = .ok (.ifCond .ne 17, 3) := dk_154 0 17 (dk_at dksX4_spanOf_0 8 rfl rfl)
theorem dX4_spanOf_11 : decode cX4_spanOf 11 = .ok (.iload_n 3, 1) := dk_29 (dk_at dksX4_spanOf_0 11 rfl rfl)
theorem dX4_spanOf_12 : decode cX4_spanOf 12 = .ok (.aload_n 0, 1) := dk_42 (dk_at dksX4_spanOf_0 12 rfl rfl)
theorem dX4_spanOf_13 : decode cX4_spanOf 13 = .ok (.iload_n 1, 1) := dk_27 (dk_at dksX4_spanOf_0 13 rfl rfl)
theorem dX4_spanOf_14 : decode cX4_spanOf 14 = .ok (.iload_n 2, 1) := dk_28 (dk_at dksX4_spanOf_0 14 rfl rfl)
theorem dX4_spanOf_15 : decode cX4_spanOf 15 = .ok (.invokevirtual 272, 3) := dk_182 1 16 (dk_at dksX4_spanOf_0 15 rfl rfl)
theorem dX4_spanOf_18 : decode cX4_spanOf 18 = .ok (.invokestatic 318, 3) := dk_184 1 62 (dk_at dksX4_spanOf_0 18 rfl rfl)
theorem dX4_spanOf_21 : decode cX4_spanOf 21 = .ok (.isub, 1) := dk_100 (dk_at dksX4_spanOf_0 21 rfl rfl)
theorem dX4_spanOf_22 : decode cX4_spanOf 22 = .ok (.goto 11, 3) := dk_167 0 11 (dk_at dksX4_spanOf_1 0 rfl rfl)
theorem dX4_spanOf_25 : decode cX4_spanOf 25 = .ok (.aload_n 0, 1) := dk_42 (dk_at dksX4_spanOf_1 3 rfl rfl)
theorem dX4_spanOf_26 : decode cX4_spanOf 26 = .ok (.iload_n 1, 1) := dk_27 (dk_at dksX4_spanOf_1 4 rfl rfl)
theorem dX4_spanOf_27 : decode cX4_spanOf 27 = .ok (.iload_n 2, 1) := dk_28 (dk_at dksX4_spanOf_1 5 rfl rfl)
theorem dX4_spanOf_28 : decode cX4_spanOf 28 = .ok (.invokevirtual 272, 3) := dk_182 1 16 (dk_at dksX4_spanOf_1 6 rfl rfl)
theorem dX4_spanOf_31 : decode cX4_spanOf 31 = .ok (.iconst 1, 1) := dk_4 (dk_at dksX4_spanOf_1 9 rfl rfl)
theorem dX4_spanOf_32 : decode cX4_spanOf 32 = .ok (.iand, 1) := dk_126 (dk_at dksX4_spanOf_1 10 rfl rfl)
theorem dX4_spanOf_33 : decode cX4_spanOf 33 = .ok (.ireturn, 1) := dk_172 (dk_at dksX4_spanOf_1 11 rfl rfl)
theorem dX4_spanOf_34 : decode cX4_spanOf 34 = .ok (.aload_n 0, 1) := dk_42 (dk_at dksX4_spanOf_1 12 rfl rfl)
theorem dX4_spanOf_35 : decode cX4_spanOf 35 = .ok (.iload_n 2, 1) := dk_28 (dk_at dksX4_spanOf_1 13 rfl rfl)
theorem dX4_spanOf_36 : decode cX4_spanOf 36 = .ok (.iload_n 1, 1) := dk_27 (dk_at dksX4_spanOf_1 14 rfl rfl)
theorem dX4_spanOf_37 : decode cX4_spanOf 37 = .ok (.invokevirtual 272, 3) := dk_182 1 16 (dk_at dksX4_spanOf_1 15 rfl rfl)
theorem dX4_spanOf_40 : decode cX4_spanOf 40 = .ok (.istore 5, 2) := dk_54 5 (dk_at dksX4_spanOf_1 18 rfl rfl)
theorem dX4_spanOf_42 : decode cX4_spanOf 42 = .ok (.iload 4, 2) := dk_21 4 (dk_at dksX4_spanOf_1 20 rfl rfl)
theorem dX4_spanOf_44 : decode cX4_spanOf 44 = .ok (.iconst 2, 1) := dk_5 (dk_at dksX4_spanOf_1 22 rfl rfl)
theorem dX4_spanOf_45 : decode cX4_spanOf 45 = .ok (.if_icmp .ne 27, 3) := dk_160 0 27 (dk_at dksX4_spanOf_2 0 rfl rfl)
theorem dX4_spanOf_48 : decode cX4_spanOf 48 = .ok (.iload 5, 2) := dk_21 5 (dk_at dksX4_spanOf_2 3 rfl rfl)
theorem dX4_spanOf_50 : decode cX4_spanOf 50 = .ok (.ldc_w 271, 3) := dk_19 1 15 (dk_at dksX4_spanOf_2 5 rfl rfl)
theorem dX4_spanOf_53 : decode cX4_spanOf 53 = .ok (.if_icmp .lt 9, 3) := dk_161 0 9 (dk_at dksX4_spanOf_2 8 rfl rfl)
theorem dX4_spanOf_56 : decode cX4_spanOf 56 = .ok (.sipush 10000, 3) := dk_17 39 16 (dk_at dksX4_spanOf_2 11 rfl rfl)
theorem dX4_spanOf_59 : decode cX4_spanOf 59 = .ok (.goto 29, 3) := dk_167 0 29 (dk_at dksX4_spanOf_2 14 rfl rfl)
theorem dX4_spanOf_62 : decode cX4_spanOf 62 = .ok (.iload 5, 2) := dk_21 5 (dk_at dksX4_spanOf_2 17 rfl rfl)
theorem dX4_spanOf_64 : decode cX4_spanOf 64 = .ok (.invokestatic 318, 3) := dk_184 1 62 (dk_at dksX4_spanOf_2 19 rfl rfl)
theorem dX4_spanOf_67 : decode cX4_spanOf 67 = .ok (.iload_n 3, 1) := dk_29 (dk_at dksX4_spanOf_2 22 rfl rfl)
theorem dX4_spanOf_68 : decode cX4_spanOf 68 = .ok (.iadd, 1) := dk_96 (dk_at dksX4_spanOf_2 23 rfl rfl)
theorem dX4_spanOf_69 : decode cX4_spanOf 69 = .ok (.goto 19, 3) := dk_167 0 19 (dk_at dksX4_spanOf_3 0 rfl rfl)
theorem dX4_spanOf_72 : decode cX4_spanOf 72 = .ok (.iload 5, 2) := dk_21 5 (dk_at dksX4_spanOf_3 3 rfl rfl)
theorem dX4_spanOf_74 : decode cX4_spanOf 74 = .ok (.ldc_w 271, 3) := dk_19 1 15 (dk_at dksX4_spanOf_3 5 rfl rfl)
theorem dX4_spanOf_77 : decode cX4_spanOf 77 = .ok (.if_icmp .lt 7, 3) := dk_161 0 7 (dk_at dksX4_spanOf_3 8 rfl rfl)
theorem dX4_spanOf_80 : decode cX4_spanOf 80 = .ok (.iconst 0, 1) := dk_3 (dk_at dksX4_spanOf_3 11 rfl rfl)
theorem dX4_spanOf_81 : decode cX4_spanOf 81 = .ok (.goto 7, 3) := dk_167 0 7 (dk_at dksX4_spanOf_3 12 rfl rfl)
theorem dX4_spanOf_84 : decode cX4_spanOf 84 = .ok (.iload 5, 2) := dk_21 5 (dk_at dksX4_spanOf_3 15 rfl rfl)
theorem dX4_spanOf_86 : decode cX4_spanOf 86 = .ok (.iconst 1, 1) := dk_4 (dk_at dksX4_spanOf_3 17 rfl rfl)
theorem dX4_spanOf_87 : decode cX4_spanOf 87 = .ok (.iand, 1) := dk_126 (dk_at dksX4_spanOf_3 18 rfl rfl)
theorem dX4_spanOf_88 : decode cX4_spanOf 88 = .ok (.ireturn, 1) := dk_172 (dk_at dksX4_spanOf_3 19 rfl rfl)
def dkwX4_between_2 : List UInt8 := [16, 253, 167, 0, 15, 42, 27, 4, 96, 28, 4, 96, 3, 29, 182, 1, 189, 172]
abbrev dktX4_between_2 : List UInt8 := dkwX4_between_2 ++ []
def dkwX4_between_1 : List UInt8 := [172, 28, 42, 182, 1, 179, 161, 0, 6, 16, 254, 172, 42, 182, 1, 186, 42, 180, 1, 33, 153, 0, 8]
abbrev dktX4_between_1 : List UInt8 := dkwX4_between_1 ++ dktX4_between_2
def dkwX4_between_0 : List UInt8 := [42, 3, 181, 0, 1, 27, 155, 0, 17, 27, 28, 162, 0, 12, 29, 3, 6, 184, 0, 158, 154, 0, 5, 2]
abbrev dktX4_between_0 : List UInt8 := dkwX4_between_0 ++ dktX4_between_1
theorem dksX4_between_0 : cX4_between.data.toList.drop 0 = dktX4_between_0 := by decide +kernel
theorem dksX4_between_1 : cX4_between.data.toList.drop 24 = dktX4_between_1 := dk_seg dksX4_between_0 24 rfl rfl
theorem dksX4_between_2 : cX4_between.data.toList.drop 47 = dktX4_between_2 := dk_seg dksX4_between_1 23 rfl rfl
theorem dX4_between_0 : decode cX4_between 0 = .ok (.aload_n 0, 1) := dk_42 (dk_at dksX4_between_0 0 rfl rfl)
theorem dX4_between_1 : decode cX4_between 1 = .ok (.iconst 0, 1) := dk_3 (dk_at dksX4_between_0 1 rfl rfl)
theorem dX4_between_2 : decode cX4_between 2 = .ok (.putfield 1, 3) := dk_181 0 1 (dk_at dksX4_between_0 2 rfl rfl)
theorem dX4_between_5 : decode cX4_between 5 = .ok (.iload_n 1, 1) := dk_27 (dk_at dksX4_between_0 5 rfl rfl)
theorem dX4_between_6 : decode cX4_between 6 = .ok (.ifCond .lt 17, 3) := dk_155 0 17 (dk_at dksX4_between_0 6 rfl rfl)
theorem dX4_between_9 : decode cX4_between 9 = .ok (.iload_n 1, 1) := dk_27 (dk_at dksX4_between_0 9 rfl rfl)
theorem dX4_between_10 : decode cX4_between 10 = .ok (.iload_n 2, 1) := dk_28 (dk_at dksX4_between_0 10 rfl rfl)
theorem dX4_between_11 : decode cX4_between 11 = .ok (.if_icmp .ge 12, 3) := dk_162 0 12 (dk_at dksX4_between_0 11 rfl rfl)
theorem dX4_between_14 : decode cX4_between 14 = .ok (.iload_n 3, 1) := dk_29 (dk_at dksX4_between_0 14 rfl rfl)
theorem dX4_between_15 : decode cX4_between 15 = .ok (.iconst 0, 1) := dk_3 (dk_at dksX4_between_0 15 rfl rfl)
theorem dX4_between_16 : decode cX4_between 16 = .ok (.iconst 3, 1) := dk_6 (dk_at dksX4_between_0 16 rfl rfl)
theorem dX4_between_17 : decode cX4_between 17 = .ok (.invokestatic 158, 3) := dk_184 0 158 (dk_at dksX4_between_0 17 rfl rfl)
theorem dX4_between_20 : decode cX4_between 20 = .ok (.ifCond .ne 5, 3) := dk_154 0 5 (dk_at dksX4_between_0 20 rfl rfl)
theorem dX4_between_23 : decode cX4_between 23 = .ok (.iconst (-1), 1) := dk_2 (dk_at dksX4_between_0 23 rfl rfl)
theorem dX4_between_24 : decode cX4_between 24 = .ok (.ireturn, 1) := dk_172 (dk_at dksX4_between_1 0 rfl rfl)
theorem dX4_between_25 : decode cX4_between 25 = .ok (.iload_n 2, 1) := dk_28 (dk_at dksX4_between_1 1 rfl rfl)
theorem dX4_between_26 : decode cX4_between 26 = .ok (.aload_n 0, 1) := dk_42 (dk_at dksX4_between_1 2 rfl rfl)
theorem dX4_between_27 : decode cX4_between 27 = .ok (.invokevirtual 435, 3) := dk_182 1 179 (dk_at dksX4_between_1 3 rfl rfl)
theorem dX4_between_30 : decode cX4_between 30 = .ok (.if_icmp .lt 6, 3) := dk_161 0 6 (dk_at dksX4_between_1 6 rfl rfl)
theorem dX4_between_33 : decode cX4_between 33 = .ok (.bipush (-2), 2) := dk_16 254 (dk_at dksX4_between_1 9 rfl rfl)
theorem dX4_between_35 : decode cX4_between 35 = .ok (.ireturn, 1) := dk_172 (dk_at dksX4_between_1 11 rfl rfl)
theorem dX4_between_36 : decode cX4_between 36 = .ok (.aload_n 0, 1) := dk_42 (dk_at dksX4_between_1 12 rfl rfl)
theorem dX4_between_37 : decode cX4_between 37 = .ok (.invokevirtual 442, 3) := dk_182 1 186 (dk_at dksX4_between_1 13 rfl rfl)
theorem dX4_between_40 : decode cX4_between 40 = .ok (.aload_n 0, 1) := dk_42 (dk_at dksX4_between_1 16 rfl rfl)
theorem dX4_between_41 : decode cX4_between 41 = .ok (.getfield 289, 3) := dk_180 1 33 (dk_at dksX4_between_1 17 rfl rfl)
theorem dX4_between_44 : decode cX4_between 44 = .ok (.ifCond .eq 8, 3) := dk_153 0 8 (dk_at dksX4_between_1 20 rfl rfl)
theorem dX4_between_47 : decode cX4_between 47 = .ok (.bipush (-3), 2) := dk_16 253 (dk_at dksX4_between_2 0 rfl rfl)
theorem dX4_between_49 : decode cX4_between 49 = .ok (.goto 15, 3) := dk_167 0 15 (dk_at dksX4_between_2 2 rfl rfl)
theorem dX4_between_52 : decode cX4_between 52 = .ok (.aload_n 0, 1) := dk_42 (dk_at dksX4_between_2 5 rfl rfl)
theorem dX4_between_53 : decode cX4_between 53 = .ok (.iload_n 1, 1) := dk_27 (dk_at dksX4_between_2 6 rfl rfl)
theorem dX4_between_54 : decode cX4_between 54 = .ok (.iconst 1, 1) := dk_4 (dk_at dksX4_between_2 7 rfl rfl)
theorem dX4_between_55 : decode cX4_between 55 = .ok (.iadd, 1) := dk_96 (dk_at dksX4_between_2 8 rfl rfl)
theorem dX4_between_56 : decode cX4_between 56 = .ok (.iload_n 2, 1) := dk_28 (dk_at dksX4_between_2 9 rfl rfl)
theorem dX4_between_57 : decode cX4_between 57 = .ok (.iconst 1, 1) := dk_4 (dk_at dksX4_between_2 10 rfl rfl)
theorem dX4_between_58 : decode cX4_between 58 = .ok (.iadd, 1) := dk_96 (dk_at dksX4_between_2 11 rfl rfl)
theorem dX4_between_59 : decode cX4_between 59 = .ok (.iconst 0, 1) := dk_3 (dk_at dksX4_between_2 12 rfl rfl)
theorem dX4_between_60 : decode cX4_between 60 = .ok (.iload_n 3, 1) := dk_29 (dk_at dksX4_between_2 13 rfl rfl)
theorem dX4_between_61 : decode cX4_between 61 = .ok (.invokevirtual 445, 3) := dk_182 1 189 (dk_at dksX4_between_2 14 rfl rfl)
theorem dX4_between_64 : decode cX4_between 64 = .ok (.ireturn, 1) := dk_172 (dk_at dksX4_between_2 17 rfl rfl)
def dkwX4_value_3 : List UInt8 := [180, 0, 120, 7, 27, 104, 28, 96, 46, 29, 182, 1, 189, 172]
abbrev dktX4_value_3 : List UInt8 := dkwX4_value_3 ++ []
def dkwX4_value_2 : List UInt8 := [153, 0, 8, 16, 253, 167, 0, 31, 42, 42, 180, 0, 117, 7, 27, 104, 28, 96, 46, 27, 4, 96, 42]
abbrev dktX4_value_2 : List UInt8 := dkwX4_value_2 ++ dktX4_value_3
def dkwX4_value_1 : List UInt8 := [154, 0, 5, 2, 172, 27, 42, 182, 1, 179, 161, 0, 6, 16, 254, 172, 42, 182, 1, 186, 42, 180, 1, 33]
abbrev dktX4_value_1 : List UInt8 := dkwX4_value_1 ++ dktX4_value_2
def dkwX4_value_0 : List UInt8 := [42, 3, 181, 0, 1, 27, 155, 0, 20, 42, 28, 182, 1, 93, 153, 0, 12, 29, 3, 6, 184, 0, 158]
abbrev dktX4_value_0 : List UInt8 := dkwX4_value_0 ++ dktX4_value_1
theorem dksX4_value_0 : cX4_value.data.toList.drop 0 = dktX4_value_0 := by decide +kernel
theorem dksX4_value_1 : cX4_value.data.toList.drop 23 = dktX4_value_1 := dk_seg dksX4_value_0 23 rfl rfl
theorem dksX4_value_2 : cX4_value.data.toList.drop 47 = dktX4_value_2 := dk_seg dksX4_value_1 24 rfl rfl
theorem dksX4_value_3 : cX4_value.data.toList.drop 70 = dktX4_value_3 := dk_seg dksX4_value_2 23 rfl rfl
theorem dX4_value_0 : decode cX4_value 0 = .ok (.aload_n 0, 1) := dk_42 (dk_at dksX4_value_0 0 rfl rfl)
theorem dX4_value_1 : decode cX4_value 1 = .ok (.iconst 0, 1) := dk_3 (dk_at dksX4_value_0 1 rfl rfl)
theorem dX4_value_2 : decode cX4_value 2 = .ok (.putfield 1, 3) := dk_181 0 1 (dk_at dksX4_value_0 2 rfl rfl)
theorem dX4_value_5 : decode cX4_value 5 = .ok (.iload_n 1, 1) := dk_27 (dk_at dksX4_value_0 5 rfl rfl)
theorem dX4_value_6 : decode cX4_value 6 = .ok (.ifCond .lt 20, 3) := dk_155 0 20 (dk_at dksX4_value_0 6 rfl rfl)
theorem dX4_value_9 : decode cX4_value 9 = .ok (.aload_n 0, 1) := dk_42 (dk_at dksX4_value_0 9 rfl rfl)
theorem dX4_value_10 : decode cX4_value 10 = .ok (.iload_n 2, 1) := dk_28 (dk_at dksX4_value_0 10 rfl rfl)
theorem dX4_value_11 : decode cX4_value 11 = .ok (.invokevirtual 349, 3) := dk_182 1 93 (dk_at dksX4_value_0 11 rfl rfl)
theorem dX4_value_14 : decode cX4_value 14 = .ok (.ifCond .eq 12, 3) := dk_153 0 12 (dk_at dksX4_value_0 14 rfl rfl)
theorem dX4_value_17 : decode cX4_value 17 = .ok (.iload_n 3, 1) := dk_29 (dk_at dksX4_value_0 17 rfl rfl)
theorem dX4_value_18 : decode cX4_value 18 = .ok (.iconst 0, 1) := dk_3 (dk_at dksX4_value_0 18 rfl rfl)
theorem dX4_value_19 : decode cX4_value 19 = .ok (.iconst 3, 1) := dk_6 (dk_at dksX4_value_0 19 rfl rfl)
theorem dX4_value_20 : decode cX4_value 20 = .ok (.invokestatic 158, 3) := dk_184 0 158 (dk_at dksX4_value_0 20 rfl rfl)
theorem dX4_value_23 : decode cX4_value 23 = .ok (.ifCond .ne 5, 3) := dk_154 0 5 (dk_at dksX4_value_1 0 rfl rfl)
theorem dX4_value_26 : decode cX4_value 26 = .ok (.iconst (-1), 1) := dk_2 (dk_at dksX4_value_1 3 rfl rfl)
theorem dX4_value_27 : decode cX4_value 27 = .ok (.ireturn, 1) := dk_172 (dk_at dksX4_value_1 4 rfl rfl)
theorem dX4_value_28 : decode cX4_value 28 = .ok (.iload_n 1, 1) := dk_27 (dk_at dksX4_value_1 5 rfl rfl)
theorem dX4_value_29 : decode cX4_value 29 = .ok (.aload_n 0, 1) := dk_42 (dk_at dksX4_value_1 6 rfl rfl)
theorem dX4_value_30 : decode cX4_value 30 = .ok (.invokevirtual 435, 3) := dk_182 1 179 (dk_at dksX4_value_1 7 rfl rfl)
theorem dX4_value_33 : decode cX4_value 33 = .ok (.if_icmp .lt 6, 3) := dk_161 0 6 (dk_at dksX4_value_1 10 rfl rfl)
theorem dX4_value_36 : decode cX4_value 36 = .ok (.bipush (-2), 2) := dk_16 254 (dk_at dksX4_value_1 13 rfl rfl)
theorem dX4_value_38 : decode cX4_value 38 = .ok (.ireturn, 1) := dk_172 (dk_at dksX4_value_1 15 rfl rfl)
theorem dX4_value_39 : decode cX4_value 39 = .ok (.aload_n 0, 1) := dk_42 (dk_at dksX4_value_1 16 rfl rfl)
theorem dX4_value_40 : decode cX4_value 40 = .ok (.invokevirtual 442, 3) := dk_182 1 186 (dk_at dksX4_value_1 17 rfl rfl)
theorem dX4_value_43 : decode cX4_value 43 = .ok (.aload_n 0, 1) := dk_42 (dk_at dksX4_value_1 20 rfl rfl)
theorem dX4_value_44 : decode cX4_value 44 = .ok (.getfield 289, 3) := dk_180 1 33 (dk_at dksX4_value_1 21 rfl rfl)
theorem dX4_value_47 : decode cX4_value 47 = .ok (.ifCond .eq 8, 3) := dk_153 0 8 (dk_at dksX4_value_2 0 rfl rfl)
theorem dX4_value_50 : decode cX4_value 50 = .ok (.bipush (-3), 2) := dk_16 253 (dk_at dksX4_value_2 3 rfl rfl)
theorem dX4_value_52 : decode cX4_value 52 = .ok (.goto 31, 3) := dk_167 0 31 (dk_at dksX4_value_2 5 rfl rfl)
theorem dX4_value_55 : decode cX4_value 55 = .ok (.aload_n 0, 1) := dk_42 (dk_at dksX4_value_2 8 rfl rfl)
theorem dX4_value_56 : decode cX4_value 56 = .ok (.aload_n 0, 1) := dk_42 (dk_at dksX4_value_2 9 rfl rfl)
theorem dX4_value_57 : decode cX4_value 57 = .ok (.getfield 117, 3) := dk_180 0 117 (dk_at dksX4_value_2 10 rfl rfl)
theorem dX4_value_60 : decode cX4_value 60 = .ok (.iconst 4, 1) := dk_7 (dk_at dksX4_value_2 13 rfl rfl)
theorem dX4_value_61 : decode cX4_value 61 = .ok (.iload_n 1, 1) := dk_27 (dk_at dksX4_value_2 14 rfl rfl)
theorem dX4_value_62 : decode cX4_value 62 = .ok (.imul, 1) := dk_104 (dk_at dksX4_value_2 15 rfl rfl)
theorem dX4_value_63 : decode cX4_value 63 = .ok (.iload_n 2, 1) := dk_28 (dk_at dksX4_value_2 16 rfl rfl)
theorem dX4_value_64 : decode cX4_value 64 = .ok (.iadd, 1) := dk_96 (dk_at dksX4_value_2 17 rfl rfl)
theorem dX4_value_65 : decode cX4_value 65 = .ok (.iaload, 1) := dk_46 (dk_at dksX4_value_2 18 rfl rfl)
theorem dX4_value_66 : decode cX4_value 66 = .ok (.iload_n 1, 1) := dk_27 (dk_at dksX4_value_2 19 rfl rfl)
theorem dX4_value_67 : decode cX4_value 67 = .ok (.iconst 1, 1) := dk_4 (dk_at dksX4_value_2 20 rfl rfl)
theorem dX4_value_68 : decode cX4_value 68 = .ok (.iadd, 1) := dk_96 (dk_at dksX4_value_2 21 rfl rfl)
theorem dX4_value_69 : decode cX4_value 69 = .ok (.aload_n 0, 1) := dk_42 (dk_at dksX4_value_2 22 rfl rfl)
theorem dX4_value_70 : decode cX4_value 70 = .ok (.getfield 120, 3) := dk_180 0 120 (dk_at dksX4_value_3 0 rfl rfl)
theorem dX4_value_73 : decode cX4_value 73 = .ok (.iconst 4, 1) := dk_7 (dk_at dksX4_value_3 3 rfl rfl)
theorem dX4_value_74 : decode cX4_value 74 = .ok (.iload_n 1, 1) := dk_27 (dk_at dksX4_value_3 4 rfl rfl)
theorem dX4_value_75 : decode cX4_value 75 = .ok (.imul, 1) := dk_104 (dk_at dksX4_value_3 5 rfl rfl)
theorem dX4_value_76 : decode cX4_value 76 = .ok (.iload_n 2, 1) := dk_28 (dk_at dksX4_value_3 6 rfl rfl)
theorem dX4_value_77 : decode cX4_value 77 = .ok (.iadd, 1) := dk_96 (dk_at dksX4_value_3 7 rfl rfl)
theorem dX4_value_78 : decode cX4_value 78 = .ok (.iaload, 1) := dk_46 (dk_at dksX4_value_3 8 rfl rfl)
theorem dX4_value_79 : decode cX4_value 79 = .ok (.iload_n 3, 1) := dk_29 (dk_at dksX4_value_3 9 rfl rfl)
theorem dX4_value_80 : decode cX4_value 80 = .ok (.invokevirtual 445, 3) := dk_182 1 189 (dk_at dksX4_value_3 10 rfl rfl)
theorem dX4_value_83 : decode cX4_value 83 = .ok (.ireturn, 1) := dk_172 (dk_at dksX4_value_3 13 rfl rfl)
def dkwX4_breaks_3 : List UInt8 := [180, 1, 33, 153, 0, 7, 27, 4, 100, 172, 132, 1, 1, 167, 255, 223, 16, 254, 172]
abbrev dktX4_breaks_3 : List UInt8 := dkwX4_breaks_3 ++ []
def dkwX4_breaks_2 : List UInt8 := [172, 4, 60, 27, 42, 182, 1, 179, 163, 0, 31, 42, 42, 180, 0, 44, 16, 105, 27, 182, 1, 182, 42]
abbrev dktX4_breaks_2 : List UInt8 := dkwX4_breaks_2 ++ dktX4_breaks_3
def dkwX4_breaks_1 : List UInt8 := [182, 1, 182, 42, 182, 1, 179, 154, 0, 18, 42, 180, 1, 33, 153, 0, 8, 16, 253, 167, 0, 5, 16, 254]
abbrev dktX4_breaks_1 : List UInt8 := dkwX4_breaks_1 ++ dktX4_breaks_2
def dkwX4_breaks_0 : List UInt8 := [42, 3, 181, 0, 1, 42, 180, 0, 245, 154, 0, 5, 2, 172, 42, 42, 180, 0, 44, 16, 105, 3]
abbrev dktX4_breaks_0 : List UInt8 := dkwX4_breaks_0 ++ dktX4_breaks_1
theorem dksX4_breaks_0 : cX4_breaks.data.toList.drop 0 = dktX4_breaks_0 := by decide +kernel
theorem dksX4_breaks_1 : cX4_breaks.data.toList.drop 22 = dktX4_breaks_1 := dk_seg dksX4_breaks_0 22 rfl rfl
theorem dksX4_breaks_2 : cX4_breaks.data.toList.drop 46 = dktX4_breaks_2 := dk_seg dksX4_breaks_1 24 rfl rfl
theorem dksX4_breaks_3 : cX4_breaks.data.toList.drop 69 = dktX4_breaks_3 := dk_seg dksX4_breaks_2 23 rfl rfl
theorem dX4_breaks_0 : decode cX4_breaks 0 = .ok (.aload_n 0, 1) := dk_42 (dk_at dksX4_breaks_0 0 rfl rfl)
theorem dX4_breaks_1 : decode cX4_breaks 1 = .ok (.iconst 0, 1) := dk_3 (dk_at dksX4_breaks_0 1 rfl rfl)
theorem dX4_breaks_2 : decode cX4_breaks 2 = .ok (.putfield 1, 3) := dk_181 0 1 (dk_at dksX4_breaks_0 2 rfl rfl)
theorem dX4_breaks_5 : decode cX4_breaks 5 = .ok (.aload_n 0, 1) := dk_42 (dk_at dksX4_breaks_0 5 rfl rfl)
theorem dX4_breaks_6 : decode cX4_breaks 6 = .ok (.getfield 245, 3) := dk_180 0 245 (dk_at dksX4_breaks_0 6 rfl rfl)
theorem dX4_breaks_9 : decode cX4_breaks 9 = .ok (.ifCond .ne 5, 3) := dk_154 0 5 (dk_at dksX4_breaks_0 9 rfl rfl)
theorem dX4_breaks_12 : decode cX4_breaks 12 = .ok (.iconst (-1), 1) := dk_2 (dk_at dksX4_breaks_0 12 rfl rfl)
theorem dX4_breaks_13 : decode cX4_breaks 13 = .ok (.ireturn, 1) := dk_172 (dk_at dksX4_breaks_0 13 rfl rfl)
theorem dX4_breaks_14 : decode cX4_breaks 14 = .ok (.aload_n 0, 1) := dk_42 (dk_at dksX4_breaks_0 14 rfl rfl)
theorem dX4_breaks_15 : decode cX4_breaks 15 = .ok (.aload_n 0, 1) := dk_42 (dk_at dksX4_breaks_0 15 rfl rfl)
theorem dX4_breaks_16 : decode cX4_breaks 16 = .ok (.getfield 44, 3) := dk_180 0 44 (dk_at dksX4_breaks_0 16 rfl rfl)
theorem dX4_breaks_19 : decode cX4_breaks 19 = .ok (.bipush 105, 2) := dk_16 105 (dk_at dksX4_breaks_0 19 rfl rfl)
theorem dX4_breaks_21 : decode cX4_breaks 21 = .ok (.iconst 0, 1) := dk_3 (dk_at dksX4_breaks_0 21 rfl rfl)
theorem dX4_breaks_22 : decode cX4_breaks 22 = .ok (.invokevirtual 438, 3) := dk_182 1 182 (dk_at dksX4_breaks_1 0 rfl rfl)
theorem dX4_breaks_25 : decode cX4_breaks 25 = .ok (.aload_n 0, 1) := dk_42 (dk_at dksX4_breaks_1 3 rfl rfl)
theorem dX4_breaks_26 : decode cX4_breaks 26 = .ok (.invokevirtual 435, 3) := dk_182 1 179 (dk_at dksX4_breaks_1 4 rfl rfl)
theorem dX4_breaks_29 : decode cX4_breaks 29 = .ok (.ifCond .ne 18, 3) := dk_154 0 18 (dk_at dksX4_breaks_1 7 rfl rfl)
theorem dX4_breaks_32 : decode cX4_breaks 32 = .ok (.aload_n 0, 1) := dk_42 (dk_at dksX4_breaks_1 10 rfl rfl)
theorem dX4_breaks_33 : decode cX4_breaks 33 = .ok (.getfield 289, 3) := dk_180 1 33 (dk_at dksX4_breaks_1 11 rfl rfl)
theorem dX4_breaks_36 : decode cX4_breaks 36 = .ok (.ifCond .eq 8, 3) := dk_153 0 8 (dk_at dksX4_breaks_1 14 rfl rfl)
theorem dX4_breaks_39 : decode cX4_breaks 39 = .ok (.bipush (-3), 2) := dk_16 253 (dk_at dksX4_breaks_1 17 rfl rfl)
theorem dX4_breaks_41 : decode cX4_breaks 41 = .ok (.goto 5, 3) := dk_167 0 5 (dk_at dksX4_breaks_1 19 rfl rfl)
theorem dX4_breaks_44 : decode cX4_breaks 44 = .ok (.bipush (-2), 2) := dk_16 254 (dk_at dksX4_breaks_1 22 rfl rfl)
theorem dX4_breaks_46 : decode cX4_breaks 46 = .ok (.ireturn, 1) := dk_172 (dk_at dksX4_breaks_2 0 rfl rfl)
theorem dX4_breaks_47 : decode cX4_breaks 47 = .ok (.iconst 1, 1) := dk_4 (dk_at dksX4_breaks_2 1 rfl rfl)
theorem dX4_breaks_48 : decode cX4_breaks 48 = .ok (.istore_n 1, 1) := dk_60 (dk_at dksX4_breaks_2 2 rfl rfl)
theorem dX4_breaks_49 : decode cX4_breaks 49 = .ok (.iload_n 1, 1) := dk_27 (dk_at dksX4_breaks_2 3 rfl rfl)
theorem dX4_breaks_50 : decode cX4_breaks 50 = .ok (.aload_n 0, 1) := dk_42 (dk_at dksX4_breaks_2 4 rfl rfl)
theorem dX4_breaks_51 : decode cX4_breaks 51 = .ok (.invokevirtual 435, 3) := dk_182 1 179 (dk_at dksX4_breaks_2 5 rfl rfl)
theorem dX4_breaks_54 : decode cX4_breaks 54 = .ok (.if_icmp .gt 31, 3) := dk_163 0 31 (dk_at dksX4_breaks_2 8 rfl rfl)
theorem dX4_breaks_57 : decode cX4_breaks 57 = .ok (.aload_n 0, 1) := dk_42 (dk_at dksX4_breaks_2 11 rfl rfl)
theorem dX4_breaks_58 : decode cX4_breaks 58 = .ok (.aload_n 0, 1) := dk_42 (dk_at dksX4_breaks_2 12 rfl rfl)
theorem dX4_breaks_59 : decode cX4_breaks 59 = .ok (.getfield 44, 3) := dk_180 0 44 (dk_at dksX4_breaks_2 13 rfl rfl)
theorem dX4_breaks_62 : decode cX4_breaks 62 = .ok (.bipush 105, 2) := dk_16 105 (dk_at dksX4_breaks_2 16 rfl rfl)
theorem dX4_breaks_64 : decode cX4_breaks 64 = .ok (.iload_n 1, 1) := dk_27 (dk_at dksX4_breaks_2 18 rfl rfl)
theorem dX4_breaks_65 : decode cX4_breaks 65 = .ok (.invokevirtual 438, 3) := dk_182 1 182 (dk_at dksX4_breaks_2 19 rfl rfl)
theorem dX4_breaks_68 : decode cX4_breaks 68 = .ok (.aload_n 0, 1) := dk_42 (dk_at dksX4_breaks_2 22 rfl rfl)
theorem dX4_breaks_69 : decode cX4_breaks 69 = .ok (.getfield 289, 3) := dk_180 1 33 (dk_at dksX4_breaks_3 0 rfl rfl)
theorem dX4_breaks_72 : decode cX4_breaks 72 = .ok (.ifCond .eq 7, 3) := dk_153 0 7 (dk_at dksX4_breaks_3 3 rfl rfl)
theorem dX4_breaks_75 : decode cX4_breaks 75 = .ok (.iload_n 1, 1) := dk_27 (dk_at dksX4_breaks_3 6 rfl rfl)
theorem dX4_breaks_76 : decode cX4_breaks 76 = .ok (.iconst 1, 1) := dk_4 (dk_at dksX4_breaks_3 7 rfl rfl)
theorem dX4_breaks_77 : decode cX4_breaks 77 = .ok (.isub, 1) := dk_100 (dk_at dksX4_breaks_3 8 rfl rfl)
theorem dX4_breaks_78 : decode cX4_breaks 78 = .ok (.ireturn, 1) := dk_172 (dk_at dksX4_breaks_3 9 rfl rfl)
theorem dX4_breaks_79 : decode cX4_breaks 79 = .ok (.iinc 1 1, 3) := dk_132 1 1 (dk_at dksX4_breaks_3 10 rfl rfl)
theorem dX4_breaks_82 : decode cX4_breaks 82 = .ok (.goto (-33), 3) := dk_167 255 223 (dk_at dksX4_breaks_3 13 rfl rfl)
theorem dX4_breaks_85 : decode cX4_breaks 85 = .ok (.bipush (-2), 2) := dk_16 254 (dk_at dksX4_breaks_3 16 rfl rfl)
theorem dX4_breaks_87 : decode cX4_breaks 87 = .ok (.ireturn, 1) := dk_172 (dk_at dksX4_breaks_3 18 rfl rfl)
def dkwX4_fastest_3 : List UInt8 := [180, 1, 158, 3, 28, 182, 1, 189, 172]
abbrev dktX4_fastest_3 : List UInt8 := dkwX4_fastest_3 ++ []
def dkwX4_fastest_2 : List UInt8 := [42, 180, 1, 158, 182, 1, 182, 42, 180, 1, 33, 153, 0, 8, 16, 253, 167, 0, 14, 42, 3, 42]
abbrev dktX4_fastest_2 : List UInt8 := dkwX4_fastest_2 ++ dktX4_fastest_3
def dkwX4_fastest_1 : List UInt8 := [182, 1, 161, 154, 0, 6, 16, 254, 172, 42, 180, 1, 158, 154, 0, 5, 28, 172, 42, 42, 180, 0, 108, 3]
abbrev dktX4_fastest_1 : List UInt8 := dkwX4_fastest_1 ++ dktX4_fastest_2
def dkwX4_fastest_0 : List UInt8 := [42, 3, 181, 0, 1, 42, 27, 182, 1, 112, 153, 0, 10, 28, 184, 1, 87, 154, 0, 5, 2, 172, 42, 27]
abbrev dktX4_fastest_0 : List UInt8 := dkwX4_fastest_0 ++ dktX4_fastest_1
theorem dksX4_fastest_0 : cX4_fastest.data.toList.drop 0 = dktX4_fastest_0 := by decide +kernel
theorem dksX4_fastest_1 : cX4_fastest.data.toList.drop 24 = dktX4_fastest_1 := dk_seg dksX4_fastest_0 24 rfl rfl
theorem dksX4_fastest_2 : cX4_fastest.data.toList.drop 48 = dktX4_fastest_2 := dk_seg dksX4_fastest_1 24 rfl rfl
theorem dksX4_fastest_3 : cX4_fastest.data.toList.drop 70 = dktX4_fastest_3 := dk_seg dksX4_fastest_2 22 rfl rfl
theorem dX4_fastest_0 : decode cX4_fastest 0 = .ok (.aload_n 0, 1) := dk_42 (dk_at dksX4_fastest_0 0 rfl rfl)
theorem dX4_fastest_1 : decode cX4_fastest 1 = .ok (.iconst 0, 1) := dk_3 (dk_at dksX4_fastest_0 1 rfl rfl)
theorem dX4_fastest_2 : decode cX4_fastest 2 = .ok (.putfield 1, 3) := dk_181 0 1 (dk_at dksX4_fastest_0 2 rfl rfl)
theorem dX4_fastest_5 : decode cX4_fastest 5 = .ok (.aload_n 0, 1) := dk_42 (dk_at dksX4_fastest_0 5 rfl rfl)
theorem dX4_fastest_6 : decode cX4_fastest 6 = .ok (.iload_n 1, 1) := dk_27 (dk_at dksX4_fastest_0 6 rfl rfl)
theorem dX4_fastest_7 : decode cX4_fastest 7 = .ok (.invokevirtual 368, 3) := dk_182 1 112 (dk_at dksX4_fastest_0 7 rfl rfl)
theorem dX4_fastest_10 : decode cX4_fastest 10 = .ok (.ifCond .eq 10, 3) := dk_153 0 10 (dk_at dksX4_fastest_0 10 rfl rfl)
theorem dX4_fastest_13 : decode cX4_fastest 13 = .ok (.iload_n 2, 1) := dk_28 (dk_at dksX4_fastest_0 13 rfl rfl)
theorem dX4_fastest_14 : decode cX4_fastest 14 = .ok (.invokestatic 343, 3) := dk_184 1 87 (dk_at dksX4_fastest_0 14 rfl rfl)
theorem dX4_fastest_17 : decode cX4_fastest 17 = .ok (.ifCond .ne 5, 3) := dk_154 0 5 (dk_at dksX4_fastest_0 17 rfl rfl)
theorem dX4_fastest_20 : decode cX4_fastest 20 = .ok (.iconst (-1), 1) := dk_2 (dk_at dksX4_fastest_0 20 rfl rfl)
theorem dX4_fastest_21 : decode cX4_fastest 21 = .ok (.ireturn, 1) := dk_172 (dk_at dksX4_fastest_0 21 rfl rfl)
theorem dX4_fastest_22 : decode cX4_fastest 22 = .ok (.aload_n 0, 1) := dk_42 (dk_at dksX4_fastest_0 22 rfl rfl)
theorem dX4_fastest_23 : decode cX4_fastest 23 = .ok (.iload_n 1, 1) := dk_27 (dk_at dksX4_fastest_0 23 rfl rfl)
theorem dX4_fastest_24 : decode cX4_fastest 24 = .ok (.invokevirtual 417, 3) := dk_182 1 161 (dk_at dksX4_fastest_1 0 rfl rfl)
theorem dX4_fastest_27 : decode cX4_fastest 27 = .ok (.ifCond .ne 6, 3) := dk_154 0 6 (dk_at dksX4_fastest_1 3 rfl rfl)
theorem dX4_fastest_30 : decode cX4_fastest 30 = .ok (.bipush (-2), 2) := dk_16 254 (dk_at dksX4_fastest_1 6 rfl rfl)
theorem dX4_fastest_32 : decode cX4_fastest 32 = .ok (.ireturn, 1) := dk_172 (dk_at dksX4_fastest_1 8 rfl rfl)
theorem dX4_fastest_33 : decode cX4_fastest 33 = .ok (.aload_n 0, 1) := dk_42 (dk_at dksX4_fastest_1 9 rfl rfl)
theorem dX4_fastest_34 : decode cX4_fastest 34 = .ok (.getfield 414, 3) := dk_180 1 158 (dk_at dksX4_fastest_1 10 rfl rfl)
theorem dX4_fastest_37 : decode cX4_fastest 37 = .ok (.ifCond .ne 5, 3) := dk_154 0 5 (dk_at dksX4_fastest_1 13 rfl rfl)
theorem dX4_fastest_40 : decode cX4_fastest 40 = .ok (.iload_n 2, 1) := dk_28 (dk_at dksX4_fastest_1 16 rfl rfl)
theorem dX4_fastest_41 : decode cX4_fastest 41 = .ok (.ireturn, 1) := dk_172 (dk_at dksX4_fastest_1 17 rfl rfl)
theorem dX4_fastest_42 : decode cX4_fastest 42 = .ok (.aload_n 0, 1) := dk_42 (dk_at dksX4_fastest_1 18 rfl rfl)
theorem dX4_fastest_43 : decode cX4_fastest 43 = .ok (.aload_n 0, 1) := dk_42 (dk_at dksX4_fastest_1 19 rfl rfl)
theorem dX4_fastest_44 : decode cX4_fastest 44 = .ok (.getfield 108, 3) := dk_180 0 108 (dk_at dksX4_fastest_1 20 rfl rfl)
theorem dX4_fastest_47 : decode cX4_fastest 47 = .ok (.iconst 0, 1) := dk_3 (dk_at dksX4_fastest_1 23 rfl rfl)
theorem dX4_fastest_48 : decode cX4_fastest 48 = .ok (.aload_n 0, 1) := dk_42 (dk_at dksX4_fastest_2 0 rfl rfl)
theorem dX4_fastest_49 : decode cX4_fastest 49 = .ok (.getfield 414, 3) := dk_180 1 158 (dk_at dksX4_fastest_2 1 rfl rfl)
theorem dX4_fastest_52 : decode cX4_fastest 52 = .ok (.invokevirtual 438, 3) := dk_182 1 182 (dk_at dksX4_fastest_2 4 rfl rfl)
theorem dX4_fastest_55 : decode cX4_fastest 55 = .ok (.aload_n 0, 1) := dk_42 (dk_at dksX4_fastest_2 7 rfl rfl)
theorem dX4_fastest_56 : decode cX4_fastest 56 = .ok (.getfield 289, 3) := dk_180 1 33 (dk_at dksX4_fastest_2 8 rfl rfl)
theorem dX4_fastest_59 : decode cX4_fastest 59 = .ok (.ifCond .eq 8, 3) := dk_153 0 8 (dk_at dksX4_fastest_2 11 rfl rfl)
theorem dX4_fastest_62 : decode cX4_fastest 62 = .ok (.bipush (-3), 2) := dk_16 253 (dk_at dksX4_fastest_2 14 rfl rfl)
theorem dX4_fastest_64 : decode cX4_fastest 64 = .ok (.goto 14, 3) := dk_167 0 14 (dk_at dksX4_fastest_2 16 rfl rfl)
theorem dX4_fastest_67 : decode cX4_fastest 67 = .ok (.aload_n 0, 1) := dk_42 (dk_at dksX4_fastest_2 19 rfl rfl)
theorem dX4_fastest_68 : decode cX4_fastest 68 = .ok (.iconst 0, 1) := dk_3 (dk_at dksX4_fastest_2 20 rfl rfl)
theorem dX4_fastest_69 : decode cX4_fastest 69 = .ok (.aload_n 0, 1) := dk_42 (dk_at dksX4_fastest_2 21 rfl rfl)
theorem dX4_fastest_70 : decode cX4_fastest 70 = .ok (.getfield 414, 3) := dk_180 1 158 (dk_at dksX4_fastest_3 0 rfl rfl)
theorem dX4_fastest_73 : decode cX4_fastest 73 = .ok (.iconst 0, 1) := dk_3 (dk_at dksX4_fastest_3 3 rfl rfl)
theorem dX4_fastest_74 : decode cX4_fastest 74 = .ok (.iload_n 2, 1) := dk_28 (dk_at dksX4_fastest_3 4 rfl rfl)
theorem dX4_fastest_75 : decode cX4_fastest 75 = .ok (.invokevirtual 445, 3) := dk_182 1 189 (dk_at dksX4_fastest_3 5 rfl rfl)
theorem dX4_fastest_78 : decode cX4_fastest 78 = .ok (.ireturn, 1) := dk_172 (dk_at dksX4_fastest_3 8 rfl rfl)
def dkwX4_moment_2 : List UInt8 := [16, 252, 167, 0, 15, 42, 3, 27, 4, 96, 182, 1, 16, 184, 1, 62, 116, 172]
abbrev dktX4_moment_2 : List UInt8 := dkwX4_moment_2 ++ []
def dkwX4_moment_1 : List UInt8 := [182, 1, 186, 42, 180, 1, 33, 153, 0, 6, 16, 253, 172, 42, 182, 1, 137, 42, 180, 1, 33, 153, 0, 8]
abbrev dktX4_moment_1 : List UInt8 := dkwX4_moment_1 ++ dktX4_moment_2
def dkwX4_moment_0 : List UInt8 := [42, 3, 181, 0, 1, 27, 156, 0, 5, 2, 172, 27, 42, 182, 1, 179, 161, 0, 6, 16, 254, 172, 42]
abbrev dktX4_moment_0 : List UInt8 := dkwX4_moment_0 ++ dktX4_moment_1
theorem dksX4_moment_0 : cX4_moment.data.toList.drop 0 = dktX4_moment_0 := by decide +kernel
theorem dksX4_moment_1 : cX4_moment.data.toList.drop 23 = dktX4_moment_1 := dk_seg dksX4_moment_0 23 rfl rfl
theorem dksX4_moment_2 : cX4_moment.data.toList.drop 47 = dktX4_moment_2 := dk_seg dksX4_moment_1 24 rfl rfl
theorem dX4_moment_0 : decode cX4_moment 0 = .ok (.aload_n 0, 1) := dk_42 (dk_at dksX4_moment_0 0 rfl rfl)
theorem dX4_moment_1 : decode cX4_moment 1 = .ok (.iconst 0, 1) := dk_3 (dk_at dksX4_moment_0 1 rfl rfl)
theorem dX4_moment_2 : decode cX4_moment 2 = .ok (.putfield 1, 3) := dk_181 0 1 (dk_at dksX4_moment_0 2 rfl rfl)
theorem dX4_moment_5 : decode cX4_moment 5 = .ok (.iload_n 1, 1) := dk_27 (dk_at dksX4_moment_0 5 rfl rfl)
theorem dX4_moment_6 : decode cX4_moment 6 = .ok (.ifCond .ge 5, 3) := dk_156 0 5 (dk_at dksX4_moment_0 6 rfl rfl)
theorem dX4_moment_9 : decode cX4_moment 9 = .ok (.iconst (-1), 1) := dk_2 (dk_at dksX4_moment_0 9 rfl rfl)
theorem dX4_moment_10 : decode cX4_moment 10 = .ok (.ireturn, 1) := dk_172 (dk_at dksX4_moment_0 10 rfl rfl)
theorem dX4_moment_11 : decode cX4_moment 11 = .ok (.iload_n 1, 1) := dk_27 (dk_at dksX4_moment_0 11 rfl rfl)
theorem dX4_moment_12 : decode cX4_moment 12 = .ok (.aload_n 0, 1) := dk_42 (dk_at dksX4_moment_0 12 rfl rfl)
theorem dX4_moment_13 : decode cX4_moment 13 = .ok (.invokevirtual 435, 3) := dk_182 1 179 (dk_at dksX4_moment_0 13 rfl rfl)
theorem dX4_moment_16 : decode cX4_moment 16 = .ok (.if_icmp .lt 6, 3) := dk_161 0 6 (dk_at dksX4_moment_0 16 rfl rfl)
theorem dX4_moment_19 : decode cX4_moment 19 = .ok (.bipush (-2), 2) := dk_16 254 (dk_at dksX4_moment_0 19 rfl rfl)
theorem dX4_moment_21 : decode cX4_moment 21 = .ok (.ireturn, 1) := dk_172 (dk_at dksX4_moment_0 21 rfl rfl)
theorem dX4_moment_22 : decode cX4_moment 22 = .ok (.aload_n 0, 1) := dk_42 (dk_at dksX4_moment_0 22 rfl rfl)
theorem dX4_moment_23 : decode cX4_moment 23 = .ok (.invokevirtual 442, 3) := dk_182 1 186 (dk_at dksX4_moment_1 0 rfl rfl)
theorem dX4_moment_26 : decode cX4_moment 26 = .ok (.aload_n 0, 1) := dk_42 (dk_at dksX4_moment_1 3 rfl rfl)
theorem dX4_moment_27 : decode cX4_moment 27 = .ok (.getfield 289, 3) := dk_180 1 33 (dk_at dksX4_moment_1 4 rfl rfl)
theorem dX4_moment_30 : decode cX4_moment 30 = .ok (.ifCond .eq 6, 3) := dk_153 0 6 (dk_at dksX4_moment_1 7 rfl rfl)
theorem dX4_moment_33 : decode cX4_moment 33 = .ok (.bipush (-3), 2) := dk_16 253 (dk_at dksX4_moment_1 10 rfl rfl)
theorem dX4_moment_35 : decode cX4_moment 35 = .ok (.ireturn, 1) := dk_172 (dk_at dksX4_moment_1 12 rfl rfl)
theorem dX4_moment_36 : decode cX4_moment 36 = .ok (.aload_n 0, 1) := dk_42 (dk_at dksX4_moment_1 13 rfl rfl)
theorem dX4_moment_37 : decode cX4_moment 37 = .ok (.invokevirtual 393, 3) := dk_182 1 137 (dk_at dksX4_moment_1 14 rfl rfl)
theorem dX4_moment_40 : decode cX4_moment 40 = .ok (.aload_n 0, 1) := dk_42 (dk_at dksX4_moment_1 17 rfl rfl)
theorem dX4_moment_41 : decode cX4_moment 41 = .ok (.getfield 289, 3) := dk_180 1 33 (dk_at dksX4_moment_1 18 rfl rfl)
theorem dX4_moment_44 : decode cX4_moment 44 = .ok (.ifCond .eq 8, 3) := dk_153 0 8 (dk_at dksX4_moment_1 21 rfl rfl)
theorem dX4_moment_47 : decode cX4_moment 47 = .ok (.bipush (-4), 2) := dk_16 252 (dk_at dksX4_moment_2 0 rfl rfl)
theorem dX4_moment_49 : decode cX4_moment 49 = .ok (.goto 15, 3) := dk_167 0 15 (dk_at dksX4_moment_2 2 rfl rfl)
theorem dX4_moment_52 : decode cX4_moment 52 = .ok (.aload_n 0, 1) := dk_42 (dk_at dksX4_moment_2 5 rfl rfl)
theorem dX4_moment_53 : decode cX4_moment 53 = .ok (.iconst 0, 1) := dk_3 (dk_at dksX4_moment_2 6 rfl rfl)
theorem dX4_moment_54 : decode cX4_moment 54 = .ok (.iload_n 1, 1) := dk_27 (dk_at dksX4_moment_2 7 rfl rfl)
theorem dX4_moment_55 : decode cX4_moment 55 = .ok (.iconst 1, 1) := dk_4 (dk_at dksX4_moment_2 8 rfl rfl)
theorem dX4_moment_56 : decode cX4_moment 56 = .ok (.iadd, 1) := dk_96 (dk_at dksX4_moment_2 9 rfl rfl)
theorem dX4_moment_57 : decode cX4_moment 57 = .ok (.invokevirtual 272, 3) := dk_182 1 16 (dk_at dksX4_moment_2 10 rfl rfl)
theorem dX4_moment_60 : decode cX4_moment 60 = .ok (.invokestatic 318, 3) := dk_184 1 62 (dk_at dksX4_moment_2 13 rfl rfl)
theorem dX4_moment_63 : decode cX4_moment 63 = .ok (.ineg, 1) := dk_116 (dk_at dksX4_moment_2 16 rfl rfl)
theorem dX4_moment_64 : decode cX4_moment 64 = .ok (.ireturn, 1) := dk_172 (dk_at dksX4_moment_2 17 rfl rfl)
def dkwX4_count_4 : List UInt8 := [180, 0, 133, 172, 2, 172]
abbrev dktX4_count_4 : List UInt8 := dkwX4_count_4 ++ []
def dkwX4_count_3 : List UInt8 := [154, 0, 7, 2, 167, 0, 7, 42, 180, 0, 251, 172, 42, 182, 1, 179, 172, 42, 180, 1, 5, 172, 42]
abbrev dktX4_count_3 : List UInt8 := dkwX4_count_3 ++ dktX4_count_4
def dkwX4_count_2 : List UInt8 := [42, 180, 0, 239, 172, 42, 180, 0, 242, 172, 42, 180, 0, 245, 172, 42, 180, 0, 248, 172, 42, 180, 0, 245]
abbrev dktX4_count_2 : List UInt8 := dkwX4_count_2 ++ dktX4_count_3
def dkwX4_count_1 : List UInt8 := [170, 0, 0, 0, 0, 97, 0, 0, 0, 0, 0, 0, 0, 7, 0, 0, 0, 46, 0, 0, 0, 51, 0, 0, 0, 56, 0, 0, 0, 61, 0, 0, 0, 66, 0, 0, 0, 82, 0, 0, 0, 87, 0, 0, 0, 92]
abbrev dktX4_count_1 : List UInt8 := dkwX4_count_1 ++ dktX4_count_2
def dkwX4_count_0 : List UInt8 := [42, 3, 181, 0, 1, 27]
abbrev dktX4_count_0 : List UInt8 := dkwX4_count_0 ++ dktX4_count_1
theorem dksX4_count_0 : cX4_count.data.toList.drop 0 = dktX4_count_0 := by decide +kernel
theorem dksX4_count_1 : cX4_count.data.toList.drop 6 = dktX4_count_1 := dk_seg dksX4_count_0 6 rfl rfl
theorem dksX4_count_2 : cX4_count.data.toList.drop 52 = dktX4_count_2 := dk_seg dksX4_count_1 46 rfl rfl
theorem dksX4_count_3 : cX4_count.data.toList.drop 76 = dktX4_count_3 := dk_seg dksX4_count_2 24 rfl rfl
theorem dksX4_count_4 : cX4_count.data.toList.drop 99 = dktX4_count_4 := dk_seg dksX4_count_3 23 rfl rfl
theorem dX4_count_0 : decode cX4_count 0 = .ok (.aload_n 0, 1) := dk_42 (dk_at dksX4_count_0 0 rfl rfl)
theorem dX4_count_1 : decode cX4_count 1 = .ok (.iconst 0, 1) := dk_3 (dk_at dksX4_count_0 1 rfl rfl)
theorem dX4_count_2 : decode cX4_count 2 = .ok (.putfield 1, 3) := dk_181 0 1 (dk_at dksX4_count_0 2 rfl rfl)
theorem dX4_count_5 : decode cX4_count 5 = .ok (.iload_n 1, 1) := dk_27 (dk_at dksX4_count_0 5 rfl rfl)
theorem dX4_count_6 : decode cX4_count 6 = .ok (.tableswitch 97 0 7 #[46, 51, 56, 61, 66, 82, 87, 92], 46) := by decide +kernel
theorem dX4_count_52 : decode cX4_count 52 = .ok (.aload_n 0, 1) := dk_42 (dk_at dksX4_count_2 0 rfl rfl)
theorem dX4_count_53 : decode cX4_count 53 = .ok (.getfield 239, 3) := dk_180 0 239 (dk_at dksX4_count_2 1 rfl rfl)
theorem dX4_count_56 : decode cX4_count 56 = .ok (.ireturn, 1) := dk_172 (dk_at dksX4_count_2 4 rfl rfl)
theorem dX4_count_57 : decode cX4_count 57 = .ok (.aload_n 0, 1) := dk_42 (dk_at dksX4_count_2 5 rfl rfl)
theorem dX4_count_58 : decode cX4_count 58 = .ok (.getfield 242, 3) := dk_180 0 242 (dk_at dksX4_count_2 6 rfl rfl)
theorem dX4_count_61 : decode cX4_count 61 = .ok (.ireturn, 1) := dk_172 (dk_at dksX4_count_2 9 rfl rfl)
theorem dX4_count_62 : decode cX4_count 62 = .ok (.aload_n 0, 1) := dk_42 (dk_at dksX4_count_2 10 rfl rfl)
theorem dX4_count_63 : decode cX4_count 63 = .ok (.getfield 245, 3) := dk_180 0 245 (dk_at dksX4_count_2 11 rfl rfl)
theorem dX4_count_66 : decode cX4_count 66 = .ok (.ireturn, 1) := dk_172 (dk_at dksX4_count_2 14 rfl rfl)
theorem dX4_count_67 : decode cX4_count 67 = .ok (.aload_n 0, 1) := dk_42 (dk_at dksX4_count_2 15 rfl rfl)
theorem dX4_count_68 : decode cX4_count 68 = .ok (.getfield 248, 3) := dk_180 0 248 (dk_at dksX4_count_2 16 rfl rfl)
theorem dX4_count_71 : decode cX4_count 71 = .ok (.ireturn, 1) := dk_172 (dk_at dksX4_count_2 19 rfl rfl)
theorem dX4_count_72 : decode cX4_count 72 = .ok (.aload_n 0, 1) := dk_42 (dk_at dksX4_count_2 20 rfl rfl)
theorem dX4_count_73 : decode cX4_count 73 = .ok (.getfield 245, 3) := dk_180 0 245 (dk_at dksX4_count_2 21 rfl rfl)
theorem dX4_count_76 : decode cX4_count 76 = .ok (.ifCond .ne 7, 3) := dk_154 0 7 (dk_at dksX4_count_3 0 rfl rfl)
theorem dX4_count_79 : decode cX4_count 79 = .ok (.iconst (-1), 1) := dk_2 (dk_at dksX4_count_3 3 rfl rfl)
theorem dX4_count_80 : decode cX4_count 80 = .ok (.goto 7, 3) := dk_167 0 7 (dk_at dksX4_count_3 4 rfl rfl)
theorem dX4_count_83 : decode cX4_count 83 = .ok (.aload_n 0, 1) := dk_42 (dk_at dksX4_count_3 7 rfl rfl)
theorem dX4_count_84 : decode cX4_count 84 = .ok (.getfield 251, 3) := dk_180 0 251 (dk_at dksX4_count_3 8 rfl rfl)
theorem dX4_count_87 : decode cX4_count 87 = .ok (.ireturn, 1) := dk_172 (dk_at dksX4_count_3 11 rfl rfl)
theorem dX4_count_88 : decode cX4_count 88 = .ok (.aload_n 0, 1) := dk_42 (dk_at dksX4_count_3 12 rfl rfl)
theorem dX4_count_89 : decode cX4_count 89 = .ok (.invokevirtual 435, 3) := dk_182 1 179 (dk_at dksX4_count_3 13 rfl rfl)
theorem dX4_count_92 : decode cX4_count 92 = .ok (.ireturn, 1) := dk_172 (dk_at dksX4_count_3 16 rfl rfl)
theorem dX4_count_93 : decode cX4_count 93 = .ok (.aload_n 0, 1) := dk_42 (dk_at dksX4_count_3 17 rfl rfl)
theorem dX4_count_94 : decode cX4_count 94 = .ok (.getfield 261, 3) := dk_180 1 5 (dk_at dksX4_count_3 18 rfl rfl)
theorem dX4_count_97 : decode cX4_count 97 = .ok (.ireturn, 1) := dk_172 (dk_at dksX4_count_3 21 rfl rfl)
theorem dX4_count_98 : decode cX4_count 98 = .ok (.aload_n 0, 1) := dk_42 (dk_at dksX4_count_3 22 rfl rfl)
theorem dX4_count_99 : decode cX4_count 99 = .ok (.getfield 133, 3) := dk_180 0 133 (dk_at dksX4_count_4 0 rfl rfl)
theorem dX4_count_102 : decode cX4_count 102 = .ok (.ireturn, 1) := dk_172 (dk_at dksX4_count_4 3 rfl rfl)
theorem dX4_count_103 : decode cX4_count 103 = .ok (.iconst (-1), 1) := dk_2 (dk_at dksX4_count_4 4 rfl rfl)
theorem dX4_count_104 : decode cX4_count 104 = .ok (.ireturn, 1) := dk_172 (dk_at dksX4_count_4 5 rfl rfl)
