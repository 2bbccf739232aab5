/-! code rows: X0 (rows of claim/names) -/
set_option maxRecDepth 100000
abbrev cX0_init : ByteArray := prog_1_method_3_code
def dkwX0_init_19 : List UInt8 := [132, 1, 1, 167, 255, 235, 177]
abbrev dktX0_init_19 : List UInt8 := dkwX0_init_19 ++ []
def dkwX0_init_18 : List UInt8 := [167, 255, 231, 3, 60, 27, 8, 163, 0, 22, 42, 180, 0, 108, 27, 187, 0, 72, 89, 183, 0, 74, 83]
abbrev dktX0_init_18 : List UInt8 := dkwX0_init_18 ++ dktX0_init_19
def dkwX0_init_17 : List UInt8 := [180, 0, 133, 190, 162, 0, 22, 42, 180, 0, 133, 27, 187, 0, 27, 89, 183, 0, 29, 83, 132, 1, 1]
abbrev dktX0_init_17 : List UInt8 := dkwX0_init_17 ++ dktX0_init_18
def dkwX0_init_16 : List UInt8 := [180, 0, 138, 27, 187, 0, 136, 89, 183, 0, 143, 83, 132, 1, 1, 167, 255, 235, 3, 60, 27, 42]
abbrev dktX0_init_16 : List UInt8 := dkwX0_init_16 ++ dktX0_init_17
def dkwX0_init_15 : List UInt8 := [187, 0, 27, 89, 183, 0, 29, 83, 132, 1, 1, 167, 255, 235, 3, 60, 27, 6, 162, 0, 22, 42]
abbrev dktX0_init_15 : List UInt8 := dkwX0_init_15 ++ dktX0_init_16
def dkwX0_init_14 : List UInt8 := [183, 0, 142, 83, 132, 1, 1, 167, 255, 235, 3, 60, 27, 7, 162, 0, 22, 42, 180, 0, 37, 27]
abbrev dktX0_init_14 : List UInt8 := dkwX0_init_14 ++ dktX0_init_15
def dkwX0_init_13 : List UInt8 := [6, 189, 0, 136, 181, 0, 138, 3, 60, 27, 7, 162, 0, 22, 42, 180, 0, 11, 27, 187, 0, 9, 89]
abbrev dktX0_init_13 : List UInt8 := dkwX0_init_13 ++ dktX0_init_14
def dkwX0_init_12 : List UInt8 := [181, 0, 127, 42, 187, 0, 27, 89, 183, 0, 29, 181, 0, 130, 42, 16, 20, 189, 0, 27, 181, 0, 133, 42]
abbrev dktX0_init_12 : List UInt8 := dkwX0_init_12 ++ dktX0_init_13
def dkwX0_init_11 : List UInt8 := [8, 16, 10, 197, 0, 91, 2, 181, 0, 121, 42, 8, 8, 197, 0, 91, 2, 181, 0, 124, 42, 8, 188, 10]
abbrev dktX0_init_11 : List UInt8 := dkwX0_init_11 ++ dktX0_init_12
def dkwX0_init_10 : List UInt8 := [181, 0, 112, 42, 8, 8, 197, 0, 91, 2, 181, 0, 115, 42, 8, 8, 197, 0, 91, 2, 181, 0, 118, 42]
abbrev dktX0_init_10 : List UInt8 := dkwX0_init_10 ++ dktX0_init_11
def dkwX0_init_9 : List UInt8 := [181, 0, 102, 42, 8, 8, 197, 0, 91, 2, 181, 0, 105, 42, 16, 6, 189, 0, 72, 181, 0, 108, 42, 2]
abbrev dktX0_init_9 : List UInt8 := dkwX0_init_9 ++ dktX0_init_10
def dkwX0_init_8 : List UInt8 := [187, 0, 72, 89, 183, 0, 74, 181, 0, 96, 42, 16, 25, 188, 10, 181, 0, 99, 42, 16, 25, 188, 10]
abbrev dktX0_init_8 : List UInt8 := dkwX0_init_8 ++ dktX0_init_9
def dkwX0_init_7 : List UInt8 := [187, 0, 72, 89, 183, 0, 74, 181, 0, 88, 42, 16, 64, 16, 32, 197, 0, 91, 2, 181, 0, 93, 42]
abbrev dktX0_init_7 : List UInt8 := dkwX0_init_7 ++ dktX0_init_8
def dkwX0_init_6 : List UInt8 := [187, 0, 72, 89, 183, 0, 74, 181, 0, 82, 42, 187, 0, 72, 89, 183, 0, 74, 181, 0, 85, 42]
abbrev dktX0_init_6 : List UInt8 := dkwX0_init_6 ++ dktX0_init_7
def dkwX0_init_5 : List UInt8 := [42, 187, 0, 72, 89, 183, 0, 74, 181, 0, 75, 42, 187, 0, 72, 89, 183, 0, 74, 181, 0, 79, 42]
abbrev dktX0_init_5 : List UInt8 := dkwX0_init_5 ++ dktX0_init_6
def dkwX0_init_4 : List UInt8 := [181, 0, 60, 42, 8, 188, 10, 181, 0, 63, 42, 8, 188, 10, 181, 0, 66, 42, 6, 188, 10, 181, 0, 69]
abbrev dktX0_init_4 : List UInt8 := dkwX0_init_4 ++ dktX0_init_5
def dkwX0_init_3 : List UInt8 := [181, 0, 45, 42, 2, 181, 0, 49, 42, 10, 181, 0, 52, 42, 8, 188, 10, 181, 0, 56, 42, 8, 188, 10]
abbrev dktX0_init_3 : List UInt8 := dkwX0_init_3 ++ dktX0_init_4
def dkwX0_init_2 : List UInt8 := [183, 0, 29, 181, 0, 34, 42, 7, 189, 0, 27, 181, 0, 37, 42, 7, 188, 4, 181, 0, 41, 42, 2]
abbrev dktX0_init_2 : List UInt8 := dkwX0_init_2 ++ dktX0_init_3
def dkwX0_init_1 : List UInt8 := [183, 0, 20, 181, 0, 23, 42, 187, 0, 27, 89, 183, 0, 29, 181, 0, 30, 42, 187, 0, 27, 89]
abbrev dktX0_init_1 : List UInt8 := dkwX0_init_1 ++ dktX0_init_2
def dkwX0_init_0 : List UInt8 := [42, 183, 0, 3, 42, 7, 189, 0, 9, 181, 0, 11, 42, 187, 0, 15, 89, 187, 0, 17, 89, 183, 0, 19]
abbrev dktX0_init_0 : List UInt8 := dkwX0_init_0 ++ dktX0_init_1
theorem dksX0_init_0 : cX0_init.data.toList.drop 0 = dktX0_init_0 := by decide +kernel
theorem dksX0_init_1 : cX0_init.data.toList.drop 24 = dktX0_init_1 := dk_seg dksX0_init_0 24 rfl rfl
theorem dksX0_init_2 : cX0_init.data.toList.drop 46 = dktX0_init_2 := dk_seg dksX0_init_1 22 rfl rfl
theorem dksX0_init_3 : cX0_init.data.toList.drop 69 = dktX0_init_3 := dk_seg dksX0_init_2 23 rfl rfl
theorem dksX0_init_4 : cX0_init.data.toList.drop 93 = dktX0_init_4 := dk_seg dksX0_init_3 24 rfl rfl
theorem dksX0_init_5 : cX0_init.data.toList.drop 117 = dktX0_init_5 := dk_seg dksX0_init_4 24 rfl rfl
theorem dksX0_init_6 : cX0_init.data.toList.drop 140 = dktX0_init_6 := dk_seg dksX0_init_5 23 rfl rfl
theorem dksX0_init_7 : cX0_init.data.toList.drop 162 = dktX0_init_7 := dk_seg dksX0_init_6 22 rfl rfl
theorem dksX0_init_8 : cX0_init.data.toList.drop 185 = dktX0_init_8 := dk_seg dksX0_init_7 23 rfl rfl
theorem dksX0_init_9 : cX0_init.data.toList.drop 208 = dktX0_init_9 := dk_seg dksX0_init_8 23 rfl rfl
theorem dksX0_init_10 : cX0_init.data.toList.drop 232 = dktX0_init_10 := dk_seg dksX0_init_9 24 rfl rfl
theorem dksX0_init_11 : cX0_init.data.toList.drop 256 = dktX0_init_11 := dk_seg dksX0_init_10 24 rfl rfl
theorem dksX0_init_12 : cX0_init.data.toList.drop 280 = dktX0_init_12 := dk_seg dksX0_init_11 24 rfl rfl
theorem dksX0_init_13 : cX0_init.data.toList.drop 304 = dktX0_init_13 := dk_seg dksX0_init_12 24 rfl rfl
theorem dksX0_init_14 : cX0_init.data.toList.drop 327 = dktX0_init_14 := dk_seg dksX0_init_13 23 rfl rfl
theorem dksX0_init_15 : cX0_init.data.toList.drop 349 = dktX0_init_15 := dk_seg dksX0_init_14 22 rfl rfl
theorem dksX0_init_16 : cX0_init.data.toList.drop 371 = dktX0_init_16 := dk_seg dksX0_init_15 22 rfl rfl
theorem dksX0_init_17 : cX0_init.data.toList.drop 393 = dktX0_init_17 := dk_seg dksX0_init_16 22 rfl rfl
theorem dksX0_init_18 : cX0_init.data.toList.drop 416 = dktX0_init_18 := dk_seg dksX0_init_17 23 rfl rfl
theorem dksX0_init_19 : cX0_init.data.toList.drop 439 = dktX0_init_19 := dk_seg dksX0_init_18 23 rfl rfl
theorem dX0_init_0 : decode cX0_init 0 = .ok (.aload_n 0, 1) := dk_42 (dk_at dksX0_init_0 0 rfl rfl)
theorem dX0_init_1 : decode cX0_init 1 = .ok (.invokespecial 3, 3) := dk_183 0 3 (dk_at dksX0_init_0 1 rfl rfl)
theorem dX0_init_4 : decode cX0_init 4 = .ok (.aload_n 0, 1) := dk_42 (dk_at dksX0_init_0 4 rfl rfl)
theorem dX0_init_5 : decode cX0_init 5 = .ok (.iconst 4, 1) := dk_7 (dk_at dksX0_init_0 5 rfl rfl)
theorem dX0_init_6 : decode cX0_init 6 = .ok (.anewarray 9, 3) := dk_189 0 9 (dk_at dksX0_init_0 6 rfl rfl)
theorem dX0_init_9 : decode cX0_init 9 = .ok (.putfield 11, 3) := dk_181 0 11 (dk_at dksX0_init_0 9 rfl rfl)
theorem dX0_init_12 : decode cX0_init 12 = .ok (.aload_n 0, 1) := dk_42 (dk_at dksX0_init_0 12 rfl rfl)
theorem dX0_init_13 : decode cX0_init 13 = .ok (.new 15, 3) := dk_187 0 15 (dk_at dksX0_init_0 13 rfl rfl)
theorem dX0_init_16 : decode cX0_init 16 = .ok (.dup, 1) := dk_89 (dk_at dksX0_init_0 16 rfl rfl)
theorem dX0_init_17 : decode cX0_init 17 = .ok (.new 17, 3) := dk_187 0 17 (dk_at dksX0_init_0 17 rfl rfl)
theorem dX0_init_20 : decode cX0_init 20 = .ok (.dup, 1) := dk_89 (dk_at dksX0_init_0 20 rfl rfl)
theorem dX0_init_21 : decode cX0_init 21 = .ok (.invokespecial 19, 3) := dk_183 0 19 (dk_at dksX0_init_0 21 rfl rfl)
theorem dX0_init_24 : decode cX0_init 24 = .ok (.invokespecial 20, 3) := dk_183 0 20 (dk_at dksX0_init_1 0 rfl rfl)
theorem dX0_init_27 : decode cX0_init 27 = .ok (.putfield 23, 3) := dk_181 0 23 (dk_at dksX0_init_1 3 rfl rfl)
theorem dX0_init_30 : decode cX0_init 30 = .ok (.aload_n 0, 1) := dk_42 (dk_at dksX0_init_1 6 rfl rfl)
theorem dX0_init_31 : decode cX0_init 31 = .ok (.new 27, 3) := dk_187 0 27 (dk_at dksX0_init_1 7 rfl rfl)
theorem dX0_init_34 : decode cX0_init 34 = .ok (.dup, 1) := dk_89 (dk_at dksX0_init_1 10 rfl rfl)
theorem dX0_init_35 : decode cX0_init 35 = .ok (.invokespecial 29, 3) := dk_183 0 29 (dk_at dksX0_init_1 11 rfl rfl)
theorem dX0_init_38 : decode cX0_init 38 = .ok (.putfield 30, 3) := dk_181 0 30 (dk_at dksX0_init_1 14 rfl rfl)
theorem dX0_init_41 : decode cX0_init 41 = .ok (.aload_n 0, 1) := dk_42 (dk_at dksX0_init_1 17 rfl rfl)
theorem dX0_init_42 : decode cX0_init 42 = .ok (.new 27, 3) := dk_187 0 27 (dk_at dksX0_init_1 18 rfl rfl)
theorem dX0_init_45 : decode cX0_init 45 = .ok (.dup, 1) := dk_89 (dk_at dksX0_init_1 21 rfl rfl)
theorem dX0_init_46 : decode cX0_init 46 = .ok (.invokespecial 29, 3) := dk_183 0 29 (dk_at dksX0_init_2 0 rfl rfl)
theorem dX0_init_49 : decode cX0_init 49 = .ok (.putfield 34, 3) := dk_181 0 34 (dk_at dksX0_init_2 3 rfl rfl)
theorem dX0_init_52 : decode cX0_init 52 = .ok (.aload_n 0, 1) := dk_42 (dk_at dksX0_init_2 6 rfl rfl)
theorem dX0_init_53 : decode cX0_init 53 = .ok (.iconst 4, 1) := dk_7 (dk_at dksX0_init_2 7 rfl rfl)
theorem dX0_init_54 : decode cX0_init 54 = .ok (.anewarray 27, 3) := dk_189 0 27 (dk_at dksX0_init_2 8 rfl rfl)
theorem dX0_init_57 : decode cX0_init 57 = .ok (.putfield 37, 3) := dk_181 0 37 (dk_at dksX0_init_2 11 rfl rfl)
theorem dX0_init_60 : decode cX0_init 60 = .ok (.aload_n 0, 1) := dk_42 (dk_at dksX0_init_2 14 rfl rfl)
theorem dX0_init_61 : decode cX0_init 61 = .ok (.iconst 4, 1) := dk_7 (dk_at dksX0_init_2 15 rfl rfl)
theorem dX0_init_62 : decode cX0_init 62 = .ok (.newarray .boolean, 2) := dk_188_4 (dk_at dksX0_init_2 16 rfl rfl)
theorem dX0_init_64 : decode cX0_init 64 = .ok (.putfield 41, 3) := dk_181 0 41 (dk_at dksX0_init_2 18 rfl rfl)
theorem dX0_init_67 : decode cX0_init 67 = .ok (.aload_n 0, 1) := dk_42 (dk_at dksX0_init_2 21 rfl rfl)
theorem dX0_init_68 : decode cX0_init 68 = .ok (.iconst (-1), 1) := dk_2 (dk_at dksX0_init_2 22 rfl rfl)
theorem dX0_init_69 : decode cX0_init 69 = .ok (.putfield 45, 3) := dk_181 0 45 (dk_at dksX0_init_3 0 rfl rfl)
theorem dX0_init_72 : decode cX0_init 72 = .ok (.aload_n 0, 1) := dk_42 (dk_at dksX0_init_3 3 rfl rfl)
theorem dX0_init_73 : decode cX0_init 73 = .ok (.iconst (-1), 1) := dk_2 (dk_at dksX0_init_3 4 rfl rfl)
theorem dX0_init_74 : decode cX0_init 74 = .ok (.putfield 49, 3) := dk_181 0 49 (dk_at dksX0_init_3 5 rfl rfl)
theorem dX0_init_77 : decode cX0_init 77 = .ok (.aload_n 0, 1) := dk_42 (dk_at dksX0_init_3 8 rfl rfl)
theorem dX0_init_78 : decode cX0_init 78 = .ok (.lconst 1, 1) := dk_10 (dk_at dksX0_init_3 9 rfl rfl)
theorem dX0_init_79 : decode cX0_init 79 = .ok (.putfield 52, 3) := dk_181 0 52 (dk_at dksX0_init_3 10 rfl rfl)
theorem dX0_init_82 : decode cX0_init 82 = .ok (.aload_n 0, 1) := dk_42 (dk_at dksX0_init_3 13 rfl rfl)
theorem dX0_init_83 : decode cX0_init 83 = .ok (.iconst 5, 1) := dk_8 (dk_at dksX0_init_3 14 rfl rfl)
theorem dX0_init_84 : decode cX0_init 84 = .ok (.newarray .int, 2) := dk_188_10 (dk_at dksX0_init_3 15 rfl rfl)
theorem dX0_init_86 : decode cX0_init 86 = .ok (.putfield 56, 3) := dk_181 0 56 (dk_at dksX0_init_3 17 rfl rfl)
theorem dX0_init_89 : decode cX0_init 89 = .ok (.aload_n 0, 1) := dk_42 (dk_at dksX0_init_3 20 rfl rfl)
theorem dX0_init_90 : decode cX0_init 90 = .ok (.iconst 5, 1) := dk_8 (dk_at dksX0_init_3 21 rfl rfl)
theorem dX0_init_91 : decode cX0_init 91 = .ok (.newarray .int, 2) := dk_188_10 (dk_at dksX0_init_3 22 rfl rfl)
theorem dX0_init_93 : decode cX0_init 93 = .ok (.putfield 60, 3) := dk_181 0 60 (dk_at dksX0_init_4 0 rfl rfl)
theorem dX0_init_96 : decode cX0_init 96 = .ok (.aload_n 0, 1) := dk_42 (dk_at dksX0_init_4 3 rfl rfl)
theorem dX0_init_97 : decode cX0_init 97 = .ok (.iconst 5, 1) := dk_8 (dk_at dksX0_init_4 4 rfl rfl)
theorem dX0_init_98 : decode cX0_init 98 = .ok (.newarray .int, 2) := dk_188_10 (dk_at dksX0_init_4 5 rfl rfl)
theorem dX0_init_100 : decode cX0_init 100 = .ok (.putfield 63, 3) := dk_181 0 63 (dk_at dksX0_init_4 7 rfl rfl)
theorem dX0_init_103 : decode cX0_init 103 = .ok (.aload_n 0, 1) := dk_42 (dk_at dksX0_init_4 10 rfl rfl)
theorem dX0_init_104 : decode cX0_init 104 = .ok (.iconst 5, 1) := dk_8 (dk_at dksX0_init_4 11 rfl rfl)
theorem dX0_init_105 : decode cX0_init 105 = .ok (.newarray .int, 2) := dk_188_10 (dk_at dksX0_init_4 12 rfl rfl)
theorem dX0_init_107 : decode cX0_init 107 = .ok (.putfield 66, 3) := dk_181 0 66 (dk_at dksX0_init_4 14 rfl rfl)
theorem dX0_init_110 : decode cX0_init 110 = .ok (.aload_n 0, 1) := dk_42 (dk_at dksX0_init_4 17 rfl rfl)
theorem dX0_init_111 : decode cX0_init 111 = .ok (.iconst 3, 1) := dk_6 (dk_at dksX0_init_4 18 rfl rfl)
theorem dX0_init_112 : decode cX0_init 112 = .ok (.newarray .int, 2) := dk_188_10 (dk_at dksX0_init_4 19 rfl rfl)
theorem dX0_init_114 : decode cX0_init 114 = .ok (.putfield 69, 3) := dk_181 0 69 (dk_at dksX0_init_4 21 rfl rfl)
theorem dX0_init_117 : decode cX0_init 117 = .ok (.aload_n 0, 1) := dk_42 (dk_at dksX0_init_5 0 rfl rfl)
theorem dX0_init_118 : decode cX0_init 118 = .ok (.new 72, 3) := dk_187 0 72 (dk_at dksX0_init_5 1 rfl rfl)
theorem dX0_init_121 : decode cX0_init 121 = .ok (.dup, 1) := dk_89 (dk_at dksX0_init_5 4 rfl rfl)
theorem dX0_init_122 : decode cX0_init 122 = .ok (.invokespecial 74, 3) := dk_183 0 74 (dk_at dksX0_init_5 5 rfl rfl)
theorem dX0_init_125 : decode cX0_init 125 = .ok (.putfield 75, 3) := dk_181 0 75 (dk_at dksX0_init_5 8 rfl rfl)
theorem dX0_init_128 : decode cX0_init 128 = .ok (.aload_n 0, 1) := dk_42 (dk_at dksX0_init_5 11 rfl rfl)
theorem dX0_init_129 : decode cX0_init 129 = .ok (.new 72, 3) := dk_187 0 72 (dk_at dksX0_init_5 12 rfl rfl)
theorem dX0_init_132 : decode cX0_init 132 = .ok (.dup, 1) := dk_89 (dk_at dksX0_init_5 15 rfl rfl)
theorem dX0_init_133 : decode cX0_init 133 = .ok (.invokespecial 74, 3) := dk_183 0 74 (dk_at dksX0_init_5 16 rfl rfl)
theorem dX0_init_136 : decode cX0_init 136 = .ok (.putfield 79, 3) := dk_181 0 79 (dk_at dksX0_init_5 19 rfl rfl)
theorem dX0_init_139 : decode cX0_init 139 = .ok (.aload_n 0, 1) := dk_42 (dk_at dksX0_init_5 22 rfl rfl)
theorem dX0_init_140 : decode cX0_init 140 = .ok (.new 72, 3) := dk_187 0 72 (dk_at dksX0_init_6 0 rfl rfl)
theorem dX0_init_143 : decode cX0_init 143 = .ok (.dup, 1) := dk_89 (dk_at dksX0_init_6 3 rfl rfl)
theorem dX0_init_144 : decode cX0_init 144 = .ok (.invokespecial 74, 3) := dk_183 0 74 (dk_at dksX0_init_6 4 rfl rfl)
theorem dX0_init_147 : decode cX0_init 147 = .ok (.putfield 82, 3) := dk_181 0 82 (dk_at dksX0_init_6 7 rfl rfl)
theorem dX0_init_150 : decode cX0_init 150 = .ok (.aload_n 0, 1) := dk_42 (dk_at dksX0_init_6 10 rfl rfl)
theorem dX0_init_151 : decode cX0_init 151 = .ok (.new 72, 3) := dk_187 0 72 (dk_at dksX0_init_6 11 rfl rfl)
theorem dX0_init_154 : decode cX0_init 154 = .ok (.dup, 1) := dk_89 (dk_at dksX0_init_6 14 rfl rfl)
theorem dX0_init_155 : decode cX0_init 155 = .ok (.invokespecial 74, 3) := dk_183 0 74 (dk_at dksX0_init_6 15 rfl rfl)
theorem dX0_init_158 : decode cX0_init 158 = .ok (.putfield 85, 3) := dk_181 0 85 (dk_at dksX0_init_6 18 rfl rfl)
theorem dX0_init_161 : decode cX0_init 161 = .ok (.aload_n 0, 1) := dk_42 (dk_at dksX0_init_6 21 rfl rfl)
theorem dX0_init_162 : decode cX0_init 162 = .ok (.new 72, 3) := dk_187 0 72 (dk_at dksX0_init_7 0 rfl rfl)
theorem dX0_init_165 : decode cX0_init 165 = .ok (.dup, 1) := dk_89 (dk_at dksX0_init_7 3 rfl rfl)
theorem dX0_init_166 : decode cX0_init 166 = .ok (.invokespecial 74, 3) := dk_183 0 74 (dk_at dksX0_init_7 4 rfl rfl)
theorem dX0_init_169 : decode cX0_init 169 = .ok (.putfield 88, 3) := dk_181 0 88 (dk_at dksX0_init_7 7 rfl rfl)
theorem dX0_init_172 : decode cX0_init 172 = .ok (.aload_n 0, 1) := dk_42 (dk_at dksX0_init_7 10 rfl rfl)
theorem dX0_init_173 : decode cX0_init 173 = .ok (.bipush 64, 2) := dk_16 64 (dk_at dksX0_init_7 11 rfl rfl)
theorem dX0_init_175 : decode cX0_init 175 = .ok (.bipush 32, 2) := dk_16 32 (dk_at dksX0_init_7 13 rfl rfl)
theorem dX0_init_177 : decode cX0_init 177 = .ok (.multianewarray 91 2, 4) := by decide +kernel
theorem dX0_init_181 : decode cX0_init 181 = .ok (.putfield 93, 3) := dk_181 0 93 (dk_at dksX0_init_7 19 rfl rfl)
theorem dX0_init_184 : decode cX0_init 184 = .ok (.aload_n 0, 1) := dk_42 (dk_at dksX0_init_7 22 rfl rfl)
theorem dX0_init_185 : decode cX0_init 185 = .ok (.new 72, 3) := dk_187 0 72 (dk_at dksX0_init_8 0 rfl rfl)
theorem dX0_init_188 : decode cX0_init 188 = .ok (.dup, 1) := dk_89 (dk_at dksX0_init_8 3 rfl rfl)
theorem dX0_init_189 : decode cX0_init 189 = .ok (.invokespecial 74, 3) := dk_183 0 74 (dk_at dksX0_init_8 4 rfl rfl)
theorem dX0_init_192 : decode cX0_init 192 = .ok (.putfield 96, 3) := dk_181 0 96 (dk_at dksX0_init_8 7 rfl rfl)
theorem dX0_init_195 : decode cX0_init 195 = .ok (.aload_n 0, 1) := dk_42 (dk_at dksX0_init_8 10 rfl rfl)
theorem dX0_init_196 : decode cX0_init 196 = .ok (.bipush 25, 2) := dk_16 25 (dk_at dksX0_init_8 11 rfl rfl)
theorem dX0_init_198 : decode cX0_init 198 = .ok (.newarray .int, 2) := dk_188_10 (dk_at dksX0_init_8 13 rfl rfl)
theorem dX0_init_200 : decode cX0_init 200 = .ok (.putfield 99, 3) := dk_181 0 99 (dk_at dksX0_init_8 15 rfl rfl)
theorem dX0_init_203 : decode cX0_init 203 = .ok (.aload_n 0, 1) := dk_42 (dk_at dksX0_init_8 18 rfl rfl)
theorem dX0_init_204 : decode cX0_init 204 = .ok (.bipush 25, 2) := dk_16 25 (dk_at dksX0_init_8 19 rfl rfl)
theorem dX0_init_206 : decode cX0_init 206 = .ok (.newarray .int, 2) := dk_188_10 (dk_at dksX0_init_8 21 rfl rfl)
theorem dX0_init_208 : decode cX0_init 208 = .ok (.putfield 102, 3) := dk_181 0 102 (dk_at dksX0_init_9 0 rfl rfl)
theorem dX0_init_211 : decode cX0_init 211 = .ok (.aload_n 0, 1) := dk_42 (dk_at dksX0_init_9 3 rfl rfl)
theorem dX0_init_212 : decode cX0_init 212 = .ok (.iconst 5, 1) := dk_8 (dk_at dksX0_init_9 4 rfl rfl)
theorem dX0_init_213 : decode cX0_init 213 = .ok (.iconst 5, 1) := dk_8 (dk_at dksX0_init_9 5 rfl rfl)
theorem dX0_init_214 : decode cX0_init 214 = .ok (.multianewarray 91 2, 4) := by decide +kernel
theorem dX0_init_218 : decode cX0_init 218 = .ok (.putfield 105, 3) := dk_181 0 105 (dk_at dksX0_init_9 10 rfl rfl)
theorem dX0_init_221 : decode cX0_init 221 = .ok (.aload_n 0, 1) := dk_42 (dk_at dksX0_init_9 13 rfl rfl)
theorem dX0_init_222 : decode cX0_init 222 = .ok (.bipush 6, 2) := dk_16 6 (dk_at dksX0_init_9 14 rfl rfl)
theorem dX0_init_224 : decode cX0_init 224 = .ok (.anewarray 72, 3) := dk_189 0 72 (dk_at dksX0_init_9 16 rfl rfl)
theorem dX0_init_227 : decode cX0_init 227 = .ok (.putfield 108, 3) := dk_181 0 108 (dk_at dksX0_init_9 19 rfl rfl)
theorem dX0_init_230 : decode cX0_init 230 = .ok (.aload_n 0, 1) := dk_42 (dk_at dksX0_init_9 22 rfl rfl)
theorem dX0_init_231 : decode cX0_init 231 = .ok (.iconst (-1), 1) := dk_2 (dk_at dksX0_init_9 23 rfl rfl)
theorem dX0_init_232 : decode cX0_init 232 = .ok (.putfield 112, 3) := dk_181 0 112 (dk_at dksX0_init_10 0 rfl rfl)
theorem dX0_init_235 : decode cX0_init 235 = .ok (.aload_n 0, 1) := dk_42 (dk_at dksX0_init_10 3 rfl rfl)
theorem dX0_init_236 : decode cX0_init 236 = .ok (.iconst 5, 1) := dk_8 (dk_at dksX0_init_10 4 rfl rfl)
theorem dX0_init_237 : decode cX0_init 237 = .ok (.iconst 5, 1) := dk_8 (dk_at dksX0_init_10 5 rfl rfl)
theorem dX0_init_238 : decode cX0_init 238 = .ok (.multianewarray 91 2, 4) := by decide +kernel
theorem dX0_init_242 : decode cX0_init 242 = .ok (.putfield 115, 3) := dk_181 0 115 (dk_at dksX0_init_10 10 rfl rfl)
theorem dX0_init_245 : decode cX0_init 245 = .ok (.aload_n 0, 1) := dk_42 (dk_at dksX0_init_10 13 rfl rfl)
theorem dX0_init_246 : decode cX0_init 246 = .ok (.iconst 5, 1) := dk_8 (dk_at dksX0_init_10 14 rfl rfl)
theorem dX0_init_247 : decode cX0_init 247 = .ok (.iconst 5, 1) := dk_8 (dk_at dksX0_init_10 15 rfl rfl)
theorem dX0_init_248 : decode cX0_init 248 = .ok (.multianewarray 91 2, 4) := by decide +kernel
theorem dX0_init_252 : decode cX0_init 252 = .ok (.putfield 118, 3) := dk_181 0 118 (dk_at dksX0_init_10 20 rfl rfl)
theorem dX0_init_255 : decode cX0_init 255 = .ok (.aload_n 0, 1) := dk_42 (dk_at dksX0_init_10 23 rfl rfl)
theorem dX0_init_256 : decode cX0_init 256 = .ok (.iconst 5, 1) := dk_8 (dk_at dksX0_init_11 0 rfl rfl)
theorem dX0_init_257 : decode cX0_init 257 = .ok (.bipush 10, 2) := dk_16 10 (dk_at dksX0_init_11 1 rfl rfl)
theorem dX0_init_259 : decode cX0_init 259 = .ok (.multianewarray 91 2, 4) := by decide +kernel
theorem dX0_init_263 : decode cX0_init 263 = .ok (.putfield 121, 3) := dk_181 0 121 (dk_at dksX0_init_11 7 rfl rfl)
theorem dX0_init_266 : decode cX0_init 266 = .ok (.aload_n 0, 1) := dk_42 (dk_at dksX0_init_11 10 rfl rfl)
theorem dX0_init_267 : decode cX0_init 267 = .ok (.iconst 5, 1) := dk_8 (dk_at dksX0_init_11 11 rfl rfl)
theorem dX0_init_268 : decode cX0_init 268 = .ok (.iconst 5, 1) := dk_8 (dk_at dksX0_init_11 12 rfl rfl)
theorem dX0_init_269 : decode cX0_init 269 = .ok (.multianewarray 91 2, 4) := by decide +kernel
theorem dX0_init_273 : decode cX0_init 273 = .ok (.putfield 124, 3) := dk_181 0 124 (dk_at dksX0_init_11 17 rfl rfl)
theorem dX0_init_276 : decode cX0_init 276 = .ok (.aload_n 0, 1) := dk_42 (dk_at dksX0_init_11 20 rfl rfl)
theorem dX0_init_277 : decode cX0_init 277 = .ok (.iconst 5, 1) := dk_8 (dk_at dksX0_init_11 21 rfl rfl)
theorem dX0_init_278 : decode cX0_init 278 = .ok (.newarray .int, 2) := dk_188_10 (dk_at dksX0_init_11 22 rfl rfl)
theorem dX0_init_280 : decode cX0_init 280 = .ok (.putfield 127, 3) := dk_181 0 127 (dk_at dksX0_init_12 0 rfl rfl)
theorem dX0_init_283 : decode cX0_init 283 = .ok (.aload_n 0, 1) := dk_42 (dk_at dksX0_init_12 3 rfl rfl)
theorem dX0_init_284 : decode cX0_init 284 = .ok (.new 27, 3) := dk_187 0 27 (dk_at dksX0_init_12 4 rfl rfl)
theorem dX0_init_287 : decode cX0_init 287 = .ok (.dup, 1) := dk_89 (dk_at dksX0_init_12 7 rfl rfl)
theorem dX0_init_288 : decode cX0_init 288 = .ok (.invokespecial 29, 3) := dk_183 0 29 (dk_at dksX0_init_12 8 rfl rfl)
theorem dX0_init_291 : decode cX0_init 291 = .ok (.putfield 130, 3) := dk_181 0 130 (dk_at dksX0_init_12 11 rfl rfl)
theorem dX0_init_294 : decode cX0_init 294 = .ok (.aload_n 0, 1) := dk_42 (dk_at dksX0_init_12 14 rfl rfl)
theorem dX0_init_295 : decode cX0_init 295 = .ok (.bipush 20, 2) := dk_16 20 (dk_at dksX0_init_12 15 rfl rfl)
theorem dX0_init_297 : decode cX0_init 297 = .ok (.anewarray 27, 3) := dk_189 0 27 (dk_at dksX0_init_12 17 rfl rfl)
theorem dX0_init_300 : decode cX0_init 300 = .ok (.putfield 133, 3) := dk_181 0 133 (dk_at dksX0_init_12 20 rfl rfl)
theorem dX0_init_303 : decode cX0_init 303 = .ok (.aload_n 0, 1) := dk_42 (dk_at dksX0_init_12 23 rfl rfl)
theorem dX0_init_304 : decode cX0_init 304 = .ok (.iconst 3, 1) := dk_6 (dk_at dksX0_init_13 0 rfl rfl)
theorem dX0_init_305 : decode cX0_init 305 = .ok (.anewarray 136, 3) := dk_189 0 136 (dk_at dksX0_init_13 1 rfl rfl)
theorem dX0_init_308 : decode cX0_init 308 = .ok (.putfield 138, 3) := dk_181 0 138 (dk_at dksX0_init_13 4 rfl rfl)
theorem dX0_init_311 : decode cX0_init 311 = .ok (.iconst 0, 1) := dk_3 (dk_at dksX0_init_13 7 rfl rfl)
theorem dX0_init_312 : decode cX0_init 312 = .ok (.istore_n 1, 1) := dk_60 (dk_at dksX0_init_13 8 rfl rfl)
theorem dX0_init_313 : decode cX0_init 313 = .ok (.iload_n 1, 1) := dk_27 (dk_at dksX0_init_13 9 rfl rfl)
theorem dX0_init_314 : decode cX0_init 314 = .ok (.iconst 4, 1) := dk_7 (dk_at dksX0_init_13 10 rfl rfl)
theorem dX0_init_315 : decode cX0_init 315 = .ok (.if_icmp .ge 22, 3) := dk_162 0 22 (dk_at dksX0_init_13 11 rfl rfl)
theorem dX0_init_318 : decode cX0_init 318 = .ok (.aload_n 0, 1) := dk_42 (dk_at dksX0_init_13 14 rfl rfl)
theorem dX0_init_319 : decode cX0_init 319 = .ok (.getfield 11, 3) := dk_180 0 11 (dk_at dksX0_init_13 15 rfl rfl)
theorem dX0_init_322 : decode cX0_init 322 = .ok (.iload_n 1, 1) := dk_27 (dk_at dksX0_init_13 18 rfl rfl)
theorem dX0_init_323 : decode cX0_init 323 = .ok (.new 9, 3) := dk_187 0 9 (dk_at dksX0_init_13 19 rfl rfl)
theorem dX0_init_326 : decode cX0_init 326 = .ok (.dup, 1) := dk_89 (dk_at dksX0_init_13 22 rfl rfl)
theorem dX0_init_327 : decode cX0_init 327 = .ok (.invokespecial 142, 3) := dk_183 0 142 (dk_at dksX0_init_14 0 rfl rfl)
theorem dX0_init_330 : decode cX0_init 330 = .ok (.aastore, 1) := dk_83 (dk_at dksX0_init_14 3 rfl rfl)
theorem dX0_init_331 : decode cX0_init 331 = .ok (.iinc 1 1, 3) := dk_132 1 1 (dk_at dksX0_init_14 4 rfl rfl)
theorem dX0_init_334 : decode cX0_init 334 = .ok (.goto (-21), 3) := dk_167 255 235 (dk_at dksX0_init_14 7 rfl rfl)
theorem dX0_init_337 : decode cX0_init 337 = .ok (.iconst 0, 1) := dk_3 (dk_at dksX0_init_14 10 rfl rfl)
theorem dX0_init_338 : decode cX0_init 338 = .ok (.istore_n 1, 1) := dk_60 (dk_at dksX0_init_14 11 rfl rfl)
theorem dX0_init_339 : decode cX0_init 339 = .ok (.iload_n 1, 1) := dk_27 (dk_at dksX0_init_14 12 rfl rfl)
theorem dX0_init_340 : decode cX0_init 340 = .ok (.iconst 4, 1) := dk_7 (dk_at dksX0_init_14 13 rfl rfl)
theorem dX0_init_341 : decode cX0_init 341 = .ok (.if_icmp .ge 22, 3) := dk_162 0 22 (dk_at dksX0_init_14 14 rfl rfl)
theorem dX0_init_344 : decode cX0_init 344 = .ok (.aload_n 0, 1) := dk_42 (dk_at dksX0_init_14 17 rfl rfl)
theorem dX0_init_345 : decode cX0_init 345 = .ok (.getfield 37, 3) := dk_180 0 37 (dk_at dksX0_init_14 18 rfl rfl)
theorem dX0_init_348 : decode cX0_init 348 = .ok (.iload_n 1, 1) := dk_27 (dk_at dksX0_init_14 21 rfl rfl)
theorem dX0_init_349 : decode cX0_init 349 = .ok (.new 27, 3) := dk_187 0 27 (dk_at dksX0_init_15 0 rfl rfl)
theorem dX0_init_352 : decode cX0_init 352 = .ok (.dup, 1) := dk_89 (dk_at dksX0_init_15 3 rfl rfl)
theorem dX0_init_353 : decode cX0_init 353 = .ok (.invokespecial 29, 3) := dk_183 0 29 (dk_at dksX0_init_15 4 rfl rfl)
theorem dX0_init_356 : decode cX0_init 356 = .ok (.aastore, 1) := dk_83 (dk_at dksX0_init_15 7 rfl rfl)
theorem dX0_init_357 : decode cX0_init 357 = .ok (.iinc 1 1, 3) := dk_132 1 1 (dk_at dksX0_init_15 8 rfl rfl)
theorem dX0_init_360 : decode cX0_init 360 = .ok (.goto (-21), 3) := dk_167 255 235 (dk_at dksX0_init_15 11 rfl rfl)
theorem dX0_init_363 : decode cX0_init 363 = .ok (.iconst 0, 1) := dk_3 (dk_at dksX0_init_15 14 rfl rfl)
theorem dX0_init_364 : decode cX0_init 364 = .ok (.istore_n 1, 1) := dk_60 (dk_at dksX0_init_15 15 rfl rfl)
theorem dX0_init_365 : decode cX0_init 365 = .ok (.iload_n 1, 1) := dk_27 (dk_at dksX0_init_15 16 rfl rfl)
theorem dX0_init_366 : decode cX0_init 366 = .ok (.iconst 3, 1) := dk_6 (dk_at dksX0_init_15 17 rfl rfl)
theorem dX0_init_367 : decode cX0_init 367 = .ok (.if_icmp .ge 22, 3) := dk_162 0 22 (dk_at dksX0_init_15 18 rfl rfl)
theorem dX0_init_370 : decode cX0_init 370 = .ok (.aload_n 0, 1) := dk_42 (dk_at dksX0_init_15 21 rfl rfl)
theorem dX0_init_371 : decode cX0_init 371 = .ok (.getfield 138, 3) := dk_180 0 138 (dk_at dksX0_init_16 0 rfl rfl)
theorem dX0_init_374 : decode cX0_init 374 = .ok (.iload_n 1, 1) := dk_27 (dk_at dksX0_init_16 3 rfl rfl)
theorem dX0_init_375 : decode cX0_init 375 = .ok (.new 136, 3) := dk_187 0 136 (dk_at dksX0_init_16 4 rfl rfl)
theorem dX0_init_378 : decode cX0_init 378 = .ok (.dup, 1) := dk_89 (dk_at dksX0_init_16 7 rfl rfl)
theorem dX0_init_379 : decode cX0_init 379 = .ok (.invokespecial 143, 3) := dk_183 0 143 (dk_at dksX0_init_16 8 rfl rfl)
theorem dX0_init_382 : decode cX0_init 382 = .ok (.aastore, 1) := dk_83 (dk_at dksX0_init_16 11 rfl rfl)
theorem dX0_init_383 : decode cX0_init 383 = .ok (.iinc 1 1, 3) := dk_132 1 1 (dk_at dksX0_init_16 12 rfl rfl)
theorem dX0_init_386 : decode cX0_init 386 = .ok (.goto (-21), 3) := dk_167 255 235 (dk_at dksX0_init_16 15 rfl rfl)
theorem dX0_init_389 : decode cX0_init 389 = .ok (.iconst 0, 1) := dk_3 (dk_at dksX0_init_16 18 rfl rfl)
theorem dX0_init_390 : decode cX0_init 390 = .ok (.istore_n 1, 1) := dk_60 (dk_at dksX0_init_16 19 rfl rfl)
theorem dX0_init_391 : decode cX0_init 391 = .ok (.iload_n 1, 1) := dk_27 (dk_at dksX0_init_16 20 rfl rfl)
theorem dX0_init_392 : decode cX0_init 392 = .ok (.aload_n 0, 1) := dk_42 (dk_at dksX0_init_16 21 rfl rfl)
theorem dX0_init_393 : decode cX0_init 393 = .ok (.getfield 133, 3) := dk_180 0 133 (dk_at dksX0_init_17 0 rfl rfl)
theorem dX0_init_396 : decode cX0_init 396 = .ok (.arraylength, 1) := dk_190 (dk_at dksX0_init_17 3 rfl rfl)
theorem dX0_init_397 : decode cX0_init 397 = .ok (.if_icmp .ge 22, 3) := dk_162 0 22 (dk_at dksX0_init_17 4 rfl rfl)
theorem dX0_init_400 : decode cX0_init 400 = .ok (.aload_n 0, 1) := dk_42 (dk_at dksX0_init_17 7 rfl rfl)
theorem dX0_init_401 : decode cX0_init 401 = .ok (.getfield 133, 3) := dk_180 0 133 (dk_at dksX0_init_17 8 rfl rfl)
theorem dX0_init_404 : decode cX0_init 404 = .ok (.iload_n 1, 1) := dk_27 (dk_at dksX0_init_17 11 rfl rfl)
theorem dX0_init_405 : decode cX0_init 405 = .ok (.new 27, 3) := dk_187 0 27 (dk_at dksX0_init_17 12 rfl rfl)
theorem dX0_init_408 : decode cX0_init 408 = .ok (.dup, 1) := dk_89 (dk_at dksX0_init_17 15 rfl rfl)
theorem dX0_init_409 : decode cX0_init 409 = .ok (.invokespecial 29, 3) := dk_183 0 29 (dk_at dksX0_init_17 16 rfl rfl)
theorem dX0_init_412 : decode cX0_init 412 = .ok (.aastore, 1) := dk_83 (dk_at dksX0_init_17 19 rfl rfl)
theorem dX0_init_413 : decode cX0_init 413 = .ok (.iinc 1 1, 3) := dk_132 1 1 (dk_at dksX0_init_17 20 rfl rfl)
theorem dX0_init_416 : decode cX0_init 416 = .ok (.goto (-25), 3) := dk_167 255 231 (dk_at dksX0_init_18 0 rfl rfl)
theorem dX0_init_419 : decode cX0_init 419 = .ok (.iconst 0, 1) := dk_3 (dk_at dksX0_init_18 3 rfl rfl)
theorem dX0_init_420 : decode cX0_init 420 = .ok (.istore_n 1, 1) := dk_60 (dk_at dksX0_init_18 4 rfl rfl)
theorem dX0_init_421 : decode cX0_init 421 = .ok (.iload_n 1, 1) := dk_27 (dk_at dksX0_init_18 5 rfl rfl)
theorem dX0_init_422 : decode cX0_init 422 = .ok (.iconst 5, 1) := dk_8 (dk_at dksX0_init_18 6 rfl rfl)
theorem dX0_init_423 : decode cX0_init 423 = .ok (.if_icmp .gt 22, 3) := dk_163 0 22 (dk_at dksX0_init_18 7 rfl rfl)
theorem dX0_init_426 : decode cX0_init 426 = .ok (.aload_n 0, 1) := dk_42 (dk_at dksX0_init_18 10 rfl rfl)
theorem dX0_init_427 : decode cX0_init 427 = .ok (.getfield 108, 3) := dk_180 0 108 (dk_at dksX0_init_18 11 rfl rfl)
theorem dX0_init_430 : decode cX0_init 430 = .ok (.iload_n 1, 1) := dk_27 (dk_at dksX0_init_18 14 rfl rfl)
theorem dX0_init_431 : decode cX0_init 431 = .ok (.new 72, 3) := dk_187 0 72 (dk_at dksX0_init_18 15 rfl rfl)
theorem dX0_init_434 : decode cX0_init 434 = .ok (.dup, 1) := dk_89 (dk_at dksX0_init_18 18 rfl rfl)
theorem dX0_init_435 : decode cX0_init 435 = .ok (.invokespecial 74, 3) := dk_183 0 74 (dk_at dksX0_init_18 19 rfl rfl)
theorem dX0_init_438 : decode cX0_init 438 = .ok (.aastore, 1) := dk_83 (dk_at dksX0_init_18 22 rfl rfl)
theorem dX0_init_439 : decode cX0_init 439 = .ok (.iinc 1 1, 3) := dk_132 1 1 (dk_at dksX0_init_19 0 rfl rfl)
theorem dX0_init_442 : decode cX0_init 442 = .ok (.goto (-21), 3) := dk_167 255 235 (dk_at dksX0_init_19 3 rfl rfl)
theorem dX0_init_445 : decode cX0_init 445 = .ok (.return_, 1) := dk_177 (dk_at dksX0_init_19 6 rfl rfl)
abbrev cX0_status : ByteArray := prog_1_method_4_code
theorem dX0_status_0 : decode cX0_status 0 = .ok (.aload_n 0, 1) := by decide +kernel
theorem dX0_status_1 : decode cX0_status 1 = .ok (.getfield 144, 3) := by decide +kernel
theorem dX0_status_4 : decode cX0_status 4 = .ok (.ireturn, 1) := by decide +kernel
abbrev cX0_top : ByteArray := prog_1_method_5_code
theorem dX0_top_0 : decode cX0_top 0 = .ok (.aload_n 0, 1) := by decide +kernel
theorem dX0_top_1 : decode cX0_top 1 = .ok (.getfield 147, 3) := by decide +kernel
theorem dX0_top_4 : decode cX0_top 4 = .ok (.lreturn, 1) := by decide +kernel
abbrev cX0_bottom : ByteArray := prog_1_method_6_code
theorem dX0_bottom_0 : decode cX0_bottom 0 = .ok (.aload_n 0, 1) := by decide +kernel
theorem dX0_bottom_1 : decode cX0_bottom 1 = .ok (.getfield 52, 3) := by decide +kernel
theorem dX0_bottom_4 : decode cX0_bottom 4 = .ok (.lreturn, 1) := by decide +kernel
abbrev cX0_tray : ByteArray := prog_1_method_12_code
def dkwX0_tray_2 : List UInt8 := [167, 0, 12, 58, 4, 42, 16, 6, 182, 0, 150, 172, 42, 3, 182, 0, 150, 172]
abbrev dktX0_tray_2 : List UInt8 := dkwX0_tray_2 ++ []
def dkwX0_tray_1 : List UInt8 := [16, 60, 164, 0, 9, 42, 8, 182, 0, 150, 172, 42, 180, 0, 11, 27, 50, 28, 29, 182, 0, 157]
abbrev dktX0_tray_1 : List UInt8 := dkwX0_tray_1 ++ dktX0_tray_2
def dkwX0_tray_0 : List UInt8 := [27, 184, 0, 154, 153, 0, 12, 28, 155, 0, 8, 28, 6, 164, 0, 9, 42, 4, 182, 0, 150, 172, 29]
abbrev dktX0_tray_0 : List UInt8 := dkwX0_tray_0 ++ dktX0_tray_1
theorem dksX0_tray_0 : cX0_tray.data.toList.drop 0 = dktX0_tray_0 := by decide +kernel
theorem dksX0_tray_1 : cX0_tray.data.toList.drop 23 = dktX0_tray_1 := dk_seg dksX0_tray_0 23 rfl rfl
theorem dksX0_tray_2 : cX0_tray.data.toList.drop 45 = dktX0_tray_2 := dk_seg dksX0_tray_1 22 rfl rfl
theorem dX0_tray_0 : decode cX0_tray 0 = .ok (.iload_n 1, 1) := dk_27 (dk_at dksX0_tray_0 0 rfl rfl)
theorem dX0_tray_1 : decode cX0_tray 1 = .ok (.invokestatic 154, 3) := dk_184 0 154 (dk_at dksX0_tray_0 1 rfl rfl)
theorem dX0_tray_4 : decode cX0_tray 4 = .ok (.ifCond .eq 12, 3) := dk_153 0 12 (dk_at dksX0_tray_0 4 rfl rfl)
theorem dX0_tray_7 : decode cX0_tray 7 = .ok (.iload_n 2, 1) := dk_28 (dk_at dksX0_tray_0 7 rfl rfl)
theorem dX0_tray_8 : decode cX0_tray 8 = .ok (.ifCond .lt 8, 3) := dk_155 0 8 (dk_at dksX0_tray_0 8 rfl rfl)
theorem dX0_tray_11 : decode cX0_tray 11 = .ok (.iload_n 2, 1) := dk_28 (dk_at dksX0_tray_0 11 rfl rfl)
theorem dX0_tray_12 : decode cX0_tray 12 = .ok (.iconst 3, 1) := dk_6 (dk_at dksX0_tray_0 12 rfl rfl)
theorem dX0_tray_13 : decode cX0_tray 13 = .ok (.if_icmp .le 9, 3) := dk_164 0 9 (dk_at dksX0_tray_0 13 rfl rfl)
theorem dX0_tray_16 : decode cX0_tray 16 = .ok (.aload_n 0, 1) := dk_42 (dk_at dksX0_tray_0 16 rfl rfl)
theorem dX0_tray_17 : decode cX0_tray 17 = .ok (.iconst 1, 1) := dk_4 (dk_at dksX0_tray_0 17 rfl rfl)
theorem dX0_tray_18 : decode cX0_tray 18 = .ok (.invokevirtual 150, 3) := dk_182 0 150 (dk_at dksX0_tray_0 18 rfl rfl)
theorem dX0_tray_21 : decode cX0_tray 21 = .ok (.ireturn, 1) := dk_172 (dk_at dksX0_tray_0 21 rfl rfl)
theorem dX0_tray_22 : decode cX0_tray 22 = .ok (.iload_n 3, 1) := dk_29 (dk_at dksX0_tray_0 22 rfl rfl)
theorem dX0_tray_23 : decode cX0_tray 23 = .ok (.bipush 60, 2) := dk_16 60 (dk_at dksX0_tray_1 0 rfl rfl)
theorem dX0_tray_25 : decode cX0_tray 25 = .ok (.if_icmp .le 9, 3) := dk_164 0 9 (dk_at dksX0_tray_1 2 rfl rfl)
theorem dX0_tray_28 : decode cX0_tray 28 = .ok (.aload_n 0, 1) := dk_42 (dk_at dksX0_tray_1 5 rfl rfl)
theorem dX0_tray_29 : decode cX0_tray 29 = .ok (.iconst 5, 1) := dk_8 (dk_at dksX0_tray_1 6 rfl rfl)
theorem dX0_tray_30 : decode cX0_tray 30 = .ok (.invokevirtual 150, 3) := dk_182 0 150 (dk_at dksX0_tray_1 7 rfl rfl)
theorem dX0_tray_33 : decode cX0_tray 33 = .ok (.ireturn, 1) := dk_172 (dk_at dksX0_tray_1 10 rfl rfl)
theorem dX0_tray_34 : decode cX0_tray 34 = .ok (.aload_n 0, 1) := dk_42 (dk_at dksX0_tray_1 11 rfl rfl)
theorem dX0_tray_35 : decode cX0_tray 35 = .ok (.getfield 11, 3) := dk_180 0 11 (dk_at dksX0_tray_1 12 rfl rfl)
theorem dX0_tray_38 : decode cX0_tray 38 = .ok (.iload_n 1, 1) := dk_27 (dk_at dksX0_tray_1 15 rfl rfl)
theorem dX0_tray_39 : decode cX0_tray 39 = .ok (.aaload, 1) := dk_50 (dk_at dksX0_tray_1 16 rfl rfl)
theorem dX0_tray_40 : decode cX0_tray 40 = .ok (.iload_n 2, 1) := dk_28 (dk_at dksX0_tray_1 17 rfl rfl)
theorem dX0_tray_41 : decode cX0_tray 41 = .ok (.iload_n 3, 1) := dk_29 (dk_at dksX0_tray_1 18 rfl rfl)
theorem dX0_tray_42 : decode cX0_tray 42 = .ok (.invokevirtual 157, 3) := dk_182 0 157 (dk_at dksX0_tray_1 19 rfl rfl)
theorem dX0_tray_45 : decode cX0_tray 45 = .ok (.goto 12, 3) := dk_167 0 12 (dk_at dksX0_tray_2 0 rfl rfl)
theorem dX0_tray_48 : decode cX0_tray 48 = .ok (.astore 4, 2) := dk_58 4 (dk_at dksX0_tray_2 3 rfl rfl)
theorem dX0_tray_50 : decode cX0_tray 50 = .ok (.aload_n 0, 1) := dk_42 (dk_at dksX0_tray_2 5 rfl rfl)
theorem dX0_tray_51 : decode cX0_tray 51 = .ok (.bipush 6, 2) := dk_16 6 (dk_at dksX0_tray_2 6 rfl rfl)
theorem dX0_tray_53 : decode cX0_tray 53 = .ok (.invokevirtual 150, 3) := dk_182 0 150 (dk_at dksX0_tray_2 8 rfl rfl)
theorem dX0_tray_56 : decode cX0_tray 56 = .ok (.ireturn, 1) := dk_172 (dk_at dksX0_tray_2 11 rfl rfl)
theorem dX0_tray_57 : decode cX0_tray 57 = .ok (.aload_n 0, 1) := dk_42 (dk_at dksX0_tray_2 12 rfl rfl)
theorem dX0_tray_58 : decode cX0_tray 58 = .ok (.iconst 0, 1) := dk_3 (dk_at dksX0_tray_2 13 rfl rfl)
theorem dX0_tray_59 : decode cX0_tray 59 = .ok (.invokevirtual 150, 3) := dk_182 0 150 (dk_at dksX0_tray_2 14 rfl rfl)
theorem dX0_tray_62 : decode cX0_tray 62 = .ok (.ireturn, 1) := dk_172 (dk_at dksX0_tray_2 17 rfl rfl)
abbrev cX0_isTray : ByteArray := prog_1_method_11_code
def dkwX0_isTray_0 : List UInt8 := [26, 155, 0, 12, 26, 7, 162, 0, 7, 4, 167, 0, 4, 3, 172]
abbrev dktX0_isTray_0 : List UInt8 := dkwX0_isTray_0 ++ []
theorem dksX0_isTray_0 : cX0_isTray.data.toList.drop 0 = dktX0_isTray_0 := by decide +kernel
theorem dX0_isTray_0 : decode cX0_isTray 0 = .ok (.iload_n 0, 1) := dk_26 (dk_at dksX0_isTray_0 0 rfl rfl)
theorem dX0_isTray_1 : decode cX0_isTray 1 = .ok (.ifCond .lt 12, 3) := dk_155 0 12 (dk_at dksX0_isTray_0 1 rfl rfl)
theorem dX0_isTray_4 : decode cX0_isTray 4 = .ok (.iload_n 0, 1) := dk_26 (dk_at dksX0_isTray_0 4 rfl rfl)
theorem dX0_isTray_5 : decode cX0_isTray 5 = .ok (.iconst 4, 1) := dk_7 (dk_at dksX0_isTray_0 5 rfl rfl)
theorem dX0_isTray_6 : decode cX0_isTray 6 = .ok (.if_icmp .ge 7, 3) := dk_162 0 7 (dk_at dksX0_isTray_0 6 rfl rfl)
theorem dX0_isTray_9 : decode cX0_isTray 9 = .ok (.iconst 1, 1) := dk_4 (dk_at dksX0_isTray_0 9 rfl rfl)
theorem dX0_isTray_10 : decode cX0_isTray 10 = .ok (.goto 4, 3) := dk_167 0 4 (dk_at dksX0_isTray_0 10 rfl rfl)
theorem dX0_isTray_13 : decode cX0_isTray 13 = .ok (.iconst 0, 1) := dk_3 (dk_at dksX0_isTray_0 13 rfl rfl)
theorem dX0_isTray_14 : decode cX0_isTray 14 = .ok (.ireturn, 1) := dk_172 (dk_at dksX0_isTray_0 14 rfl rfl)
abbrev cX0_is0 : ByteArray := prog_1_method_7_code
def dkwX0_is0_0 : List UInt8 := [42, 27, 181, 0, 144, 27, 154, 0, 7, 4, 167, 0, 4, 3, 172]
abbrev dktX0_is0_0 : List UInt8 := dkwX0_is0_0 ++ []
theorem dksX0_is0_0 : cX0_is0.data.toList.drop 0 = dktX0_is0_0 := by decide +kernel
theorem dX0_is0_0 : decode cX0_is0 0 = .ok (.aload_n 0, 1) := dk_42 (dk_at dksX0_is0_0 0 rfl rfl)
theorem dX0_is0_1 : decode cX0_is0 1 = .ok (.iload_n 1, 1) := dk_27 (dk_at dksX0_is0_0 1 rfl rfl)
theorem dX0_is0_2 : decode cX0_is0 2 = .ok (.putfield 144, 3) := dk_181 0 144 (dk_at dksX0_is0_0 2 rfl rfl)
theorem dX0_is0_5 : decode cX0_is0 5 = .ok (.iload_n 1, 1) := dk_27 (dk_at dksX0_is0_0 5 rfl rfl)
theorem dX0_is0_6 : decode cX0_is0 6 = .ok (.ifCond .ne 7, 3) := dk_154 0 7 (dk_at dksX0_is0_0 6 rfl rfl)
theorem dX0_is0_9 : decode cX0_is0 9 = .ok (.iconst 1, 1) := dk_4 (dk_at dksX0_is0_0 9 rfl rfl)
theorem dX0_is0_10 : decode cX0_is0 10 = .ok (.goto 4, 3) := dk_167 0 4 (dk_at dksX0_is0_0 10 rfl rfl)
theorem dX0_is0_13 : decode cX0_is0 13 = .ok (.iconst 0, 1) := dk_3 (dk_at dksX0_is0_0 13 rfl rfl)
theorem dX0_is0_14 : decode cX0_is0 14 = .ok (.ireturn, 1) := dk_172 (dk_at dksX0_is0_0 14 rfl rfl)
abbrev cX0_write : ByteArray := prog_1_method_13_code
def dkwX0_write_2 : List UInt8 := [172]
abbrev dktX0_write_2 : List UInt8 := dkwX0_write_2 ++ []
def dkwX0_write_1 : List UInt8 := [167, 0, 19, 58, 5, 42, 6, 182, 0, 150, 172, 58, 5, 42, 7, 182, 0, 150, 172, 42, 3, 182, 0, 150]
abbrev dktX0_write_1 : List UInt8 := dkwX0_write_1 ++ dktX0_write_2
def dkwX0_write_0 : List UInt8 := [27, 184, 0, 154, 154, 0, 9, 42, 4, 182, 0, 150, 172, 42, 180, 0, 11, 27, 50, 28, 33, 182, 0, 163]
abbrev dktX0_write_0 : List UInt8 := dkwX0_write_0 ++ dktX0_write_1
theorem dksX0_write_0 : cX0_write.data.toList.drop 0 = dktX0_write_0 := by decide +kernel
theorem dksX0_write_1 : cX0_write.data.toList.drop 24 = dktX0_write_1 := dk_seg dksX0_write_0 24 rfl rfl
theorem dksX0_write_2 : cX0_write.data.toList.drop 48 = dktX0_write_2 := dk_seg dksX0_write_1 24 rfl rfl
theorem dX0_write_0 : decode cX0_write 0 = .ok (.iload_n 1, 1) := dk_27 (dk_at dksX0_write_0 0 rfl rfl)
theorem dX0_write_1 : decode cX0_write 1 = .ok (.invokestatic 154, 3) := dk_184 0 154 (dk_at dksX0_write_0 1 rfl rfl)
theorem dX0_write_4 : decode cX0_write 4 = .ok (.ifCond .ne 9, 3) := dk_154 0 9 (dk_at dksX0_write_0 4 rfl rfl)
theorem dX0_write_7 : decode cX0_write 7 = .ok (.aload_n 0, 1) := dk_42 (dk_at dksX0_write_0 7 rfl rfl)
theorem dX0_write_8 : decode cX0_write 8 = .ok (.iconst 1, 1) := dk_4 (dk_at dksX0_write_0 8 rfl rfl)
theorem dX0_write_9 : decode cX0_write 9 = .ok (.invokevirtual 150, 3) := dk_182 0 150 (dk_at dksX0_write_0 9 rfl rfl)
theorem dX0_write_12 : decode cX0_write 12 = .ok (.ireturn, 1) := dk_172 (dk_at dksX0_write_0 12 rfl rfl)
theorem dX0_write_13 : decode cX0_write 13 = .ok (.aload_n 0, 1) := dk_42 (dk_at dksX0_write_0 13 rfl rfl)
theorem dX0_write_14 : decode cX0_write 14 = .ok (.getfield 11, 3) := dk_180 0 11 (dk_at dksX0_write_0 14 rfl rfl)
theorem dX0_write_17 : decode cX0_write 17 = .ok (.iload_n 1, 1) := dk_27 (dk_at dksX0_write_0 17 rfl rfl)
theorem dX0_write_18 : decode cX0_write 18 = .ok (.aaload, 1) := dk_50 (dk_at dksX0_write_0 18 rfl rfl)
theorem dX0_write_19 : decode cX0_write 19 = .ok (.iload_n 2, 1) := dk_28 (dk_at dksX0_write_0 19 rfl rfl)
theorem dX0_write_20 : decode cX0_write 20 = .ok (.lload_n 3, 1) := dk_33 (dk_at dksX0_write_0 20 rfl rfl)
theorem dX0_write_21 : decode cX0_write 21 = .ok (.invokevirtual 163, 3) := dk_182 0 163 (dk_at dksX0_write_0 21 rfl rfl)
theorem dX0_write_24 : decode cX0_write 24 = .ok (.goto 19, 3) := dk_167 0 19 (dk_at dksX0_write_1 0 rfl rfl)
theorem dX0_write_27 : decode cX0_write 27 = .ok (.astore 5, 2) := dk_58 5 (dk_at dksX0_write_1 3 rfl rfl)
theorem dX0_write_29 : decode cX0_write 29 = .ok (.aload_n 0, 1) := dk_42 (dk_at dksX0_write_1 5 rfl rfl)
theorem dX0_write_30 : decode cX0_write 30 = .ok (.iconst 3, 1) := dk_6 (dk_at dksX0_write_1 6 rfl rfl)
theorem dX0_write_31 : decode cX0_write 31 = .ok (.invokevirtual 150, 3) := dk_182 0 150 (dk_at dksX0_write_1 7 rfl rfl)
theorem dX0_write_34 : decode cX0_write 34 = .ok (.ireturn, 1) := dk_172 (dk_at dksX0_write_1 10 rfl rfl)
theorem dX0_write_35 : decode cX0_write 35 = .ok (.astore 5, 2) := dk_58 5 (dk_at dksX0_write_1 11 rfl rfl)
theorem dX0_write_37 : decode cX0_write 37 = .ok (.aload_n 0, 1) := dk_42 (dk_at dksX0_write_1 13 rfl rfl)
theorem dX0_write_38 : decode cX0_write 38 = .ok (.iconst 4, 1) := dk_7 (dk_at dksX0_write_1 14 rfl rfl)
theorem dX0_write_39 : decode cX0_write 39 = .ok (.invokevirtual 150, 3) := dk_182 0 150 (dk_at dksX0_write_1 15 rfl rfl)
theorem dX0_write_42 : decode cX0_write 42 = .ok (.ireturn, 1) := dk_172 (dk_at dksX0_write_1 18 rfl rfl)
theorem dX0_write_43 : decode cX0_write 43 = .ok (.aload_n 0, 1) := dk_42 (dk_at dksX0_write_1 19 rfl rfl)
theorem dX0_write_44 : decode cX0_write 44 = .ok (.iconst 0, 1) := dk_3 (dk_at dksX0_write_1 20 rfl rfl)
theorem dX0_write_45 : decode cX0_write 45 = .ok (.invokevirtual 150, 3) := dk_182 0 150 (dk_at dksX0_write_1 21 rfl rfl)
theorem dX0_write_48 : decode cX0_write 48 = .ok (.ireturn, 1) := dk_172 (dk_at dksX0_write_2 0 rfl rfl)
abbrev cX0_read : ByteArray := prog_1_method_14_code
def dkwX0_read_2 : List UInt8 := [173]
abbrev dktX0_read_2 : List UInt8 := dkwX0_read_2 ++ []
def dkwX0_read_1 : List UInt8 := [50, 28, 182, 0, 175, 173, 78, 42, 6, 181, 0, 144, 167, 0, 9, 78, 42, 7, 181, 0, 144, 20, 0, 179]
abbrev dktX0_read_1 : List UInt8 := dkwX0_read_1 ++ dktX0_read_2
def dkwX0_read_0 : List UInt8 := [27, 184, 0, 154, 154, 0, 10, 42, 4, 182, 0, 171, 133, 173, 42, 3, 181, 0, 144, 42, 180, 0, 11, 27]
abbrev dktX0_read_0 : List UInt8 := dkwX0_read_0 ++ dktX0_read_1
theorem dksX0_read_0 : cX0_read.data.toList.drop 0 = dktX0_read_0 := by decide +kernel
theorem dksX0_read_1 : cX0_read.data.toList.drop 24 = dktX0_read_1 := dk_seg dksX0_read_0 24 rfl rfl
theorem dksX0_read_2 : cX0_read.data.toList.drop 48 = dktX0_read_2 := dk_seg dksX0_read_1 24 rfl rfl
theorem dX0_read_0 : decode cX0_read 0 = .ok (.iload_n 1, 1) := dk_27 (dk_at dksX0_read_0 0 rfl rfl)
theorem dX0_read_1 : decode cX0_read 1 = .ok (.invokestatic 154, 3) := dk_184 0 154 (dk_at dksX0_read_0 1 rfl rfl)
theorem dX0_read_4 : decode cX0_read 4 = .ok (.ifCond .ne 10, 3) := dk_154 0 10 (dk_at dksX0_read_0 4 rfl rfl)
theorem dX0_read_7 : decode cX0_read 7 = .ok (.aload_n 0, 1) := dk_42 (dk_at dksX0_read_0 7 rfl rfl)
theorem dX0_read_8 : decode cX0_read 8 = .ok (.iconst 1, 1) := dk_4 (dk_at dksX0_read_0 8 rfl rfl)
theorem dX0_read_9 : decode cX0_read 9 = .ok (.invokevirtual 171, 3) := dk_182 0 171 (dk_at dksX0_read_0 9 rfl rfl)
theorem dX0_read_12 : decode cX0_read 12 = .ok (.i2l, 1) := dk_133 (dk_at dksX0_read_0 12 rfl rfl)
theorem dX0_read_13 : decode cX0_read 13 = .ok (.lreturn, 1) := dk_173 (dk_at dksX0_read_0 13 rfl rfl)
theorem dX0_read_14 : decode cX0_read 14 = .ok (.aload_n 0, 1) := dk_42 (dk_at dksX0_read_0 14 rfl rfl)
theorem dX0_read_15 : decode cX0_read 15 = .ok (.iconst 0, 1) := dk_3 (dk_at dksX0_read_0 15 rfl rfl)
theorem dX0_read_16 : decode cX0_read 16 = .ok (.putfield 144, 3) := dk_181 0 144 (dk_at dksX0_read_0 16 rfl rfl)
theorem dX0_read_19 : decode cX0_read 19 = .ok (.aload_n 0, 1) := dk_42 (dk_at dksX0_read_0 19 rfl rfl)
theorem dX0_read_20 : decode cX0_read 20 = .ok (.getfield 11, 3) := dk_180 0 11 (dk_at dksX0_read_0 20 rfl rfl)
theorem dX0_read_23 : decode cX0_read 23 = .ok (.iload_n 1, 1) := dk_27 (dk_at dksX0_read_0 23 rfl rfl)
theorem dX0_read_24 : decode cX0_read 24 = .ok (.aaload, 1) := dk_50 (dk_at dksX0_read_1 0 rfl rfl)
theorem dX0_read_25 : decode cX0_read 25 = .ok (.iload_n 2, 1) := dk_28 (dk_at dksX0_read_1 1 rfl rfl)
theorem dX0_read_26 : decode cX0_read 26 = .ok (.invokevirtual 175, 3) := dk_182 0 175 (dk_at dksX0_read_1 2 rfl rfl)
theorem dX0_read_29 : decode cX0_read 29 = .ok (.lreturn, 1) := dk_173 (dk_at dksX0_read_1 5 rfl rfl)
theorem dX0_read_30 : decode cX0_read 30 = .ok (.astore_n 3, 1) := dk_78 (dk_at dksX0_read_1 6 rfl rfl)
theorem dX0_read_31 : decode cX0_read 31 = .ok (.aload_n 0, 1) := dk_42 (dk_at dksX0_read_1 7 rfl rfl)
theorem dX0_read_32 : decode cX0_read 32 = .ok (.iconst 3, 1) := dk_6 (dk_at dksX0_read_1 8 rfl rfl)
theorem dX0_read_33 : decode cX0_read 33 = .ok (.putfield 144, 3) := dk_181 0 144 (dk_at dksX0_read_1 9 rfl rfl)
theorem dX0_read_36 : decode cX0_read 36 = .ok (.goto 9, 3) := dk_167 0 9 (dk_at dksX0_read_1 12 rfl rfl)
theorem dX0_read_39 : decode cX0_read 39 = .ok (.astore_n 3, 1) := dk_78 (dk_at dksX0_read_1 15 rfl rfl)
theorem dX0_read_40 : decode cX0_read 40 = .ok (.aload_n 0, 1) := dk_42 (dk_at dksX0_read_1 16 rfl rfl)
theorem dX0_read_41 : decode cX0_read 41 = .ok (.iconst 4, 1) := dk_7 (dk_at dksX0_read_1 17 rfl rfl)
theorem dX0_read_42 : decode cX0_read 42 = .ok (.putfield 144, 3) := dk_181 0 144 (dk_at dksX0_read_1 18 rfl rfl)
theorem dX0_read_45 : decode cX0_read 45 = .ok (.ldc2_w 179, 3) := dk_20 0 179 (dk_at dksX0_read_1 21 rfl rfl)
theorem dX0_read_48 : decode cX0_read 48 = .ok (.lreturn, 1) := dk_173 (dk_at dksX0_read_2 0 rfl rfl)
abbrev cX0_none : ByteArray := prog_1_method_8_code
def dkwX0_none_0 : List UInt8 := [42, 27, 181, 0, 144, 2, 172]
abbrev dktX0_none_0 : List UInt8 := dkwX0_none_0 ++ []
theorem dksX0_none_0 : cX0_none.data.toList.drop 0 = dktX0_none_0 := by decide +kernel
theorem dX0_none_0 : decode cX0_none 0 = .ok (.aload_n 0, 1) := dk_42 (dk_at dksX0_none_0 0 rfl rfl)
theorem dX0_none_1 : decode cX0_none 1 = .ok (.iload_n 1, 1) := dk_27 (dk_at dksX0_none_0 1 rfl rfl)
theorem dX0_none_2 : decode cX0_none 2 = .ok (.putfield 144, 3) := dk_181 0 144 (dk_at dksX0_none_0 2 rfl rfl)
theorem dX0_none_5 : decode cX0_none 5 = .ok (.iconst (-1), 1) := dk_2 (dk_at dksX0_none_0 5 rfl rfl)
theorem dX0_none_6 : decode cX0_none 6 = .ok (.ireturn, 1) := dk_172 (dk_at dksX0_none_0 6 rfl rfl)
abbrev cX0_pour : ByteArray := prog_1_method_15_code
def dkwX0_pour_5 : List UInt8 := [7, 182, 0, 150, 172, 42, 3, 182, 0, 150, 172]
abbrev dktX0_pour_5 : List UInt8 := dkwX0_pour_5 ++ []
def dkwX0_pour_4 : List UInt8 := [167, 0, 29, 58, 8, 42, 6, 182, 0, 150, 172, 58, 8, 42, 21, 5, 156, 0, 8, 16, 6, 167, 0, 4]
abbrev dktX0_pour_4 : List UInt8 := dkwX0_pour_4 ++ dktX0_pour_5
def dkwX0_pour_3 : List UInt8 := [159, 0, 10, 42, 16, 11, 182, 0, 150, 172, 25, 6, 28, 25, 7, 21, 4, 21, 5, 184, 0, 188]
abbrev dktX0_pour_3 : List UInt8 := dkwX0_pour_3 ++ dktX0_pour_4
def dkwX0_pour_2 : List UInt8 := [25, 7, 198, 0, 31, 42, 180, 0, 11, 27, 50, 180, 0, 185, 42, 180, 0, 11, 29, 50, 180, 0, 185]
abbrev dktX0_pour_2 : List UInt8 := dkwX0_pour_2 ++ dktX0_pour_3
def dkwX0_pour_1 : List UInt8 := [27, 50, 180, 0, 181, 58, 6, 42, 180, 0, 11, 29, 50, 180, 0, 181, 58, 7, 25, 6, 198, 0, 36]
abbrev dktX0_pour_1 : List UInt8 := dkwX0_pour_1 ++ dktX0_pour_2
def dkwX0_pour_0 : List UInt8 := [27, 184, 0, 154, 153, 0, 10, 29, 184, 0, 154, 154, 0, 9, 42, 4, 182, 0, 150, 172, 42, 180, 0, 11]
abbrev dktX0_pour_0 : List UInt8 := dkwX0_pour_0 ++ dktX0_pour_1
theorem dksX0_pour_0 : cX0_pour.data.toList.drop 0 = dktX0_pour_0 := by decide +kernel
theorem dksX0_pour_1 : cX0_pour.data.toList.drop 24 = dktX0_pour_1 := dk_seg dksX0_pour_0 24 rfl rfl
theorem dksX0_pour_2 : cX0_pour.data.toList.drop 47 = dktX0_pour_2 := dk_seg dksX0_pour_1 23 rfl rfl
theorem dksX0_pour_3 : cX0_pour.data.toList.drop 70 = dktX0_pour_3 := dk_seg dksX0_pour_2 23 rfl rfl
theorem dksX0_pour_4 : cX0_pour.data.toList.drop 92 = dktX0_pour_4 := dk_seg dksX0_pour_3 22 rfl rfl
theorem dksX0_pour_5 : cX0_pour.data.toList.drop 116 = dktX0_pour_5 := dk_seg dksX0_pour_4 24 rfl rfl
theorem dX0_pour_0 : decode cX0_pour 0 = .ok (.iload_n 1, 1) := dk_27 (dk_at dksX0_pour_0 0 rfl rfl)
theorem dX0_pour_1 : decode cX0_pour 1 = .ok (.invokestatic 154, 3) := dk_184 0 154 (dk_at dksX0_pour_0 1 rfl rfl)
theorem dX0_pour_4 : decode cX0_pour 4 = .ok (.ifCond .eq 10, 3) := dk_153 0 10 (dk_at dksX0_pour_0 4 rfl rfl)
theorem dX0_pour_7 : decode cX0_pour 7 = .ok (.iload_n 3, 1) := dk_29 (dk_at dksX0_pour_0 7 rfl rfl)
theorem dX0_pour_8 : decode cX0_pour 8 = .ok (.invokestatic 154, 3) := dk_184 0 154 (dk_at dksX0_pour_0 8 rfl rfl)
theorem dX0_pour_11 : decode cX0_pour 11 = .ok (.ifCond .ne 9, 3) := dk_154 0 9 (dk_at dksX0_pour_0 11 rfl rfl)
theorem dX0_pour_14 : decode cX0_pour 14 = .ok (.aload_n 0, 1) := dk_42 (dk_at dksX0_pour_0 14 rfl rfl)
theorem dX0_pour_15 : decode cX0_pour 15 = .ok (.iconst 1, 1) := dk_4 (dk_at dksX0_pour_0 15 rfl rfl)
theorem dX0_pour_16 : decode cX0_pour 16 = .ok (.invokevirtual 150, 3) := dk_182 0 150 (dk_at dksX0_pour_0 16 rfl rfl)
theorem dX0_pour_19 : decode cX0_pour 19 = .ok (.ireturn, 1) := dk_172 (dk_at dksX0_pour_0 19 rfl rfl)
theorem dX0_pour_20 : decode cX0_pour 20 = .ok (.aload_n 0, 1) := dk_42 (dk_at dksX0_pour_0 20 rfl rfl)
theorem dX0_pour_21 : decode cX0_pour 21 = .ok (.getfield 11, 3) := dk_180 0 11 (dk_at dksX0_pour_0 21 rfl rfl)
theorem dX0_pour_24 : decode cX0_pour 24 = .ok (.iload_n 1, 1) := dk_27 (dk_at dksX0_pour_1 0 rfl rfl)
theorem dX0_pour_25 : decode cX0_pour 25 = .ok (.aaload, 1) := dk_50 (dk_at dksX0_pour_1 1 rfl rfl)
theorem dX0_pour_26 : decode cX0_pour 26 = .ok (.getfield 181, 3) := dk_180 0 181 (dk_at dksX0_pour_1 2 rfl rfl)
theorem dX0_pour_29 : decode cX0_pour 29 = .ok (.astore 6, 2) := dk_58 6 (dk_at dksX0_pour_1 5 rfl rfl)
theorem dX0_pour_31 : decode cX0_pour 31 = .ok (.aload_n 0, 1) := dk_42 (dk_at dksX0_pour_1 7 rfl rfl)
theorem dX0_pour_32 : decode cX0_pour 32 = .ok (.getfield 11, 3) := dk_180 0 11 (dk_at dksX0_pour_1 8 rfl rfl)
theorem dX0_pour_35 : decode cX0_pour 35 = .ok (.iload_n 3, 1) := dk_29 (dk_at dksX0_pour_1 11 rfl rfl)
theorem dX0_pour_36 : decode cX0_pour 36 = .ok (.aaload, 1) := dk_50 (dk_at dksX0_pour_1 12 rfl rfl)
theorem dX0_pour_37 : decode cX0_pour 37 = .ok (.getfield 181, 3) := dk_180 0 181 (dk_at dksX0_pour_1 13 rfl rfl)
theorem dX0_pour_40 : decode cX0_pour 40 = .ok (.astore 7, 2) := dk_58 7 (dk_at dksX0_pour_1 16 rfl rfl)
theorem dX0_pour_42 : decode cX0_pour 42 = .ok (.aload 6, 2) := dk_25 6 (dk_at dksX0_pour_1 18 rfl rfl)
theorem dX0_pour_44 : decode cX0_pour 44 = .ok (.ifnull 36, 3) := dk_198 0 36 (dk_at dksX0_pour_1 20 rfl rfl)
theorem dX0_pour_47 : decode cX0_pour 47 = .ok (.aload 7, 2) := dk_25 7 (dk_at dksX0_pour_2 0 rfl rfl)
theorem dX0_pour_49 : decode cX0_pour 49 = .ok (.ifnull 31, 3) := dk_198 0 31 (dk_at dksX0_pour_2 2 rfl rfl)
theorem dX0_pour_52 : decode cX0_pour 52 = .ok (.aload_n 0, 1) := dk_42 (dk_at dksX0_pour_2 5 rfl rfl)
theorem dX0_pour_53 : decode cX0_pour 53 = .ok (.getfield 11, 3) := dk_180 0 11 (dk_at dksX0_pour_2 6 rfl rfl)
theorem dX0_pour_56 : decode cX0_pour 56 = .ok (.iload_n 1, 1) := dk_27 (dk_at dksX0_pour_2 9 rfl rfl)
theorem dX0_pour_57 : decode cX0_pour 57 = .ok (.aaload, 1) := dk_50 (dk_at dksX0_pour_2 10 rfl rfl)
theorem dX0_pour_58 : decode cX0_pour 58 = .ok (.getfield 185, 3) := dk_180 0 185 (dk_at dksX0_pour_2 11 rfl rfl)
theorem dX0_pour_61 : decode cX0_pour 61 = .ok (.aload_n 0, 1) := dk_42 (dk_at dksX0_pour_2 14 rfl rfl)
theorem dX0_pour_62 : decode cX0_pour 62 = .ok (.getfield 11, 3) := dk_180 0 11 (dk_at dksX0_pour_2 15 rfl rfl)
theorem dX0_pour_65 : decode cX0_pour 65 = .ok (.iload_n 3, 1) := dk_29 (dk_at dksX0_pour_2 18 rfl rfl)
theorem dX0_pour_66 : decode cX0_pour 66 = .ok (.aaload, 1) := dk_50 (dk_at dksX0_pour_2 19 rfl rfl)
theorem dX0_pour_67 : decode cX0_pour 67 = .ok (.getfield 185, 3) := dk_180 0 185 (dk_at dksX0_pour_2 20 rfl rfl)
theorem dX0_pour_70 : decode cX0_pour 70 = .ok (.if_icmp .eq 10, 3) := dk_159 0 10 (dk_at dksX0_pour_3 0 rfl rfl)
theorem dX0_pour_73 : decode cX0_pour 73 = .ok (.aload_n 0, 1) := dk_42 (dk_at dksX0_pour_3 3 rfl rfl)
theorem dX0_pour_74 : decode cX0_pour 74 = .ok (.bipush 11, 2) := dk_16 11 (dk_at dksX0_pour_3 4 rfl rfl)
theorem dX0_pour_76 : decode cX0_pour 76 = .ok (.invokevirtual 150, 3) := dk_182 0 150 (dk_at dksX0_pour_3 6 rfl rfl)
theorem dX0_pour_79 : decode cX0_pour 79 = .ok (.ireturn, 1) := dk_172 (dk_at dksX0_pour_3 9 rfl rfl)
theorem dX0_pour_80 : decode cX0_pour 80 = .ok (.aload 6, 2) := dk_25 6 (dk_at dksX0_pour_3 10 rfl rfl)
theorem dX0_pour_82 : decode cX0_pour 82 = .ok (.iload_n 2, 1) := dk_28 (dk_at dksX0_pour_3 12 rfl rfl)
theorem dX0_pour_83 : decode cX0_pour 83 = .ok (.aload 7, 2) := dk_25 7 (dk_at dksX0_pour_3 13 rfl rfl)
theorem dX0_pour_85 : decode cX0_pour 85 = .ok (.iload 4, 2) := dk_21 4 (dk_at dksX0_pour_3 15 rfl rfl)
theorem dX0_pour_87 : decode cX0_pour 87 = .ok (.iload 5, 2) := dk_21 5 (dk_at dksX0_pour_3 17 rfl rfl)
theorem dX0_pour_89 : decode cX0_pour 89 = .ok (.invokestatic 188, 3) := dk_184 0 188 (dk_at dksX0_pour_3 19 rfl rfl)
theorem dX0_pour_92 : decode cX0_pour 92 = .ok (.goto 29, 3) := dk_167 0 29 (dk_at dksX0_pour_4 0 rfl rfl)
theorem dX0_pour_95 : decode cX0_pour 95 = .ok (.astore 8, 2) := dk_58 8 (dk_at dksX0_pour_4 3 rfl rfl)
theorem dX0_pour_97 : decode cX0_pour 97 = .ok (.aload_n 0, 1) := dk_42 (dk_at dksX0_pour_4 5 rfl rfl)
theorem dX0_pour_98 : decode cX0_pour 98 = .ok (.iconst 3, 1) := dk_6 (dk_at dksX0_pour_4 6 rfl rfl)
theorem dX0_pour_99 : decode cX0_pour 99 = .ok (.invokevirtual 150, 3) := dk_182 0 150 (dk_at dksX0_pour_4 7 rfl rfl)
theorem dX0_pour_102 : decode cX0_pour 102 = .ok (.ireturn, 1) := dk_172 (dk_at dksX0_pour_4 10 rfl rfl)
theorem dX0_pour_103 : decode cX0_pour 103 = .ok (.astore 8, 2) := dk_58 8 (dk_at dksX0_pour_4 11 rfl rfl)
theorem dX0_pour_105 : decode cX0_pour 105 = .ok (.aload_n 0, 1) := dk_42 (dk_at dksX0_pour_4 13 rfl rfl)
theorem dX0_pour_106 : decode cX0_pour 106 = .ok (.iload 5, 2) := dk_21 5 (dk_at dksX0_pour_4 14 rfl rfl)
theorem dX0_pour_108 : decode cX0_pour 108 = .ok (.ifCond .ge 8, 3) := dk_156 0 8 (dk_at dksX0_pour_4 16 rfl rfl)
theorem dX0_pour_111 : decode cX0_pour 111 = .ok (.bipush 6, 2) := dk_16 6 (dk_at dksX0_pour_4 19 rfl rfl)
theorem dX0_pour_113 : decode cX0_pour 113 = .ok (.goto 4, 3) := dk_167 0 4 (dk_at dksX0_pour_4 21 rfl rfl)
theorem dX0_pour_116 : decode cX0_pour 116 = .ok (.iconst 4, 1) := dk_7 (dk_at dksX0_pour_5 0 rfl rfl)
theorem dX0_pour_117 : decode cX0_pour 117 = .ok (.invokevirtual 150, 3) := dk_182 0 150 (dk_at dksX0_pour_5 1 rfl rfl)
theorem dX0_pour_120 : decode cX0_pour 120 = .ok (.ireturn, 1) := dk_172 (dk_at dksX0_pour_5 4 rfl rfl)
theorem dX0_pour_121 : decode cX0_pour 121 = .ok (.aload_n 0, 1) := dk_42 (dk_at dksX0_pour_5 5 rfl rfl)
theorem dX0_pour_122 : decode cX0_pour 122 = .ok (.iconst 0, 1) := dk_3 (dk_at dksX0_pour_5 6 rfl rfl)
theorem dX0_pour_123 : decode cX0_pour 123 = .ok (.invokevirtual 150, 3) := dk_182 0 150 (dk_at dksX0_pour_5 7 rfl rfl)
theorem dX0_pour_126 : decode cX0_pour 126 = .ok (.ireturn, 1) := dk_172 (dk_at dksX0_pour_5 10 rfl rfl)
abbrev cX0_feed : ByteArray := prog_1_method_20_code
def dkwX0_feed_2 : List UInt8 := [180, 0, 23, 180, 0, 203, 172]
abbrev dktX0_feed_2 : List UInt8 := dkwX0_feed_2 ++ []
def dkwX0_feed_1 : List UInt8 := [28, 182, 0, 206, 42, 29, 182, 0, 206, 42, 21, 4, 182, 0, 206, 42, 21, 5, 182, 0, 206, 42]
abbrev dktX0_feed_1 : List UInt8 := dkwX0_feed_1 ++ dktX0_feed_2
def dkwX0_feed_0 : List UInt8 := [42, 180, 0, 23, 180, 0, 203, 16, 20, 96, 17, 2, 88, 164, 0, 5, 2, 172, 42, 27, 182, 0, 206, 42]
abbrev dktX0_feed_0 : List UInt8 := dkwX0_feed_0 ++ dktX0_feed_1
theorem dksX0_feed_0 : cX0_feed.data.toList.drop 0 = dktX0_feed_0 := by decide +kernel
theorem dksX0_feed_1 : cX0_feed.data.toList.drop 24 = dktX0_feed_1 := dk_seg dksX0_feed_0 24 rfl rfl
theorem dksX0_feed_2 : cX0_feed.data.toList.drop 46 = dktX0_feed_2 := dk_seg dksX0_feed_1 22 rfl rfl
theorem dX0_feed_0 : decode cX0_feed 0 = .ok (.aload_n 0, 1) := dk_42 (dk_at dksX0_feed_0 0 rfl rfl)
theorem dX0_feed_1 : decode cX0_feed 1 = .ok (.getfield 23, 3) := dk_180 0 23 (dk_at dksX0_feed_0 1 rfl rfl)
theorem dX0_feed_4 : decode cX0_feed 4 = .ok (.getfield 203, 3) := dk_180 0 203 (dk_at dksX0_feed_0 4 rfl rfl)
theorem dX0_feed_7 : decode cX0_feed 7 = .ok (.bipush 20, 2) := dk_16 20 (dk_at dksX0_feed_0 7 rfl rfl)
theorem dX0_feed_9 : decode cX0_feed 9 = .ok (.iadd, 1) := dk_96 (dk_at dksX0_feed_0 9 rfl rfl)
theorem dX0_feed_10 : decode cX0_feed 10 = .ok (.sipush 600, 3) := dk_17 2 88 (dk_at dksX0_feed_0 10 rfl rfl)
theorem dX0_feed_13 : decode cX0_feed 13 = .ok (.if_icmp .le 5, 3) := dk_164 0 5 (dk_at dksX0_feed_0 13 rfl rfl)
theorem dX0_feed_16 : decode cX0_feed 16 = .ok (.iconst (-1), 1) := dk_2 (dk_at dksX0_feed_0 16 rfl rfl)
theorem dX0_feed_17 : decode cX0_feed 17 = .ok (.ireturn, 1) := dk_172 (dk_at dksX0_feed_0 17 rfl rfl)
theorem dX0_feed_18 : decode cX0_feed 18 = .ok (.aload_n 0, 1) := dk_42 (dk_at dksX0_feed_0 18 rfl rfl)
theorem dX0_feed_19 : decode cX0_feed 19 = .ok (.iload_n 1, 1) := dk_27 (dk_at dksX0_feed_0 19 rfl rfl)
theorem dX0_feed_20 : decode cX0_feed 20 = .ok (.invokevirtual 206, 3) := dk_182 0 206 (dk_at dksX0_feed_0 20 rfl rfl)
theorem dX0_feed_23 : decode cX0_feed 23 = .ok (.aload_n 0, 1) := dk_42 (dk_at dksX0_feed_0 23 rfl rfl)
theorem dX0_feed_24 : decode cX0_feed 24 = .ok (.iload_n 2, 1) := dk_28 (dk_at dksX0_feed_1 0 rfl rfl)
theorem dX0_feed_25 : decode cX0_feed 25 = .ok (.invokevirtual 206, 3) := dk_182 0 206 (dk_at dksX0_feed_1 1 rfl rfl)
theorem dX0_feed_28 : decode cX0_feed 28 = .ok (.aload_n 0, 1) := dk_42 (dk_at dksX0_feed_1 4 rfl rfl)
theorem dX0_feed_29 : decode cX0_feed 29 = .ok (.iload_n 3, 1) := dk_29 (dk_at dksX0_feed_1 5 rfl rfl)
theorem dX0_feed_30 : decode cX0_feed 30 = .ok (.invokevirtual 206, 3) := dk_182 0 206 (dk_at dksX0_feed_1 6 rfl rfl)
theorem dX0_feed_33 : decode cX0_feed 33 = .ok (.aload_n 0, 1) := dk_42 (dk_at dksX0_feed_1 9 rfl rfl)
theorem dX0_feed_34 : decode cX0_feed 34 = .ok (.iload 4, 2) := dk_21 4 (dk_at dksX0_feed_1 10 rfl rfl)
theorem dX0_feed_36 : decode cX0_feed 36 = .ok (.invokevirtual 206, 3) := dk_182 0 206 (dk_at dksX0_feed_1 12 rfl rfl)
theorem dX0_feed_39 : decode cX0_feed 39 = .ok (.aload_n 0, 1) := dk_42 (dk_at dksX0_feed_1 15 rfl rfl)
theorem dX0_feed_40 : decode cX0_feed 40 = .ok (.iload 5, 2) := dk_21 5 (dk_at dksX0_feed_1 16 rfl rfl)
theorem dX0_feed_42 : decode cX0_feed 42 = .ok (.invokevirtual 206, 3) := dk_182 0 206 (dk_at dksX0_feed_1 18 rfl rfl)
theorem dX0_feed_45 : decode cX0_feed 45 = .ok (.aload_n 0, 1) := dk_42 (dk_at dksX0_feed_1 21 rfl rfl)
theorem dX0_feed_46 : decode cX0_feed 46 = .ok (.getfield 23, 3) := dk_180 0 23 (dk_at dksX0_feed_2 0 rfl rfl)
theorem dX0_feed_49 : decode cX0_feed 49 = .ok (.getfield 203, 3) := dk_180 0 203 (dk_at dksX0_feed_2 3 rfl rfl)
theorem dX0_feed_52 : decode cX0_feed 52 = .ok (.ireturn, 1) := dk_172 (dk_at dksX0_feed_2 6 rfl rfl)
abbrev cX0_four : ByteArray := prog_1_method_21_code
def dkwX0_four_1 : List UInt8 := [145, 84, 42, 180, 0, 23, 89, 180, 0, 203, 4, 96, 181, 0, 203, 132, 2, 248, 167, 255, 217, 177]
abbrev dktX0_four_1 : List UInt8 := dkwX0_four_1 ++ []
def dkwX0_four_0 : List UInt8 := [16, 24, 61, 28, 155, 0, 41, 42, 180, 0, 23, 180, 0, 210, 42, 180, 0, 23, 180, 0, 203, 27, 28, 122]
abbrev dktX0_four_0 : List UInt8 := dkwX0_four_0 ++ dktX0_four_1
theorem dksX0_four_0 : cX0_four.data.toList.drop 0 = dktX0_four_0 := by decide +kernel
theorem dksX0_four_1 : cX0_four.data.toList.drop 24 = dktX0_four_1 := dk_seg dksX0_four_0 24 rfl rfl
theorem dX0_four_0 : decode cX0_four 0 = .ok (.bipush 24, 2) := dk_16 24 (dk_at dksX0_four_0 0 rfl rfl)
theorem dX0_four_2 : decode cX0_four 2 = .ok (.istore_n 2, 1) := dk_61 (dk_at dksX0_four_0 2 rfl rfl)
theorem dX0_four_3 : decode cX0_four 3 = .ok (.iload_n 2, 1) := dk_28 (dk_at dksX0_four_0 3 rfl rfl)
theorem dX0_four_4 : decode cX0_four 4 = .ok (.ifCond .lt 41, 3) := dk_155 0 41 (dk_at dksX0_four_0 4 rfl rfl)
theorem dX0_four_7 : decode cX0_four 7 = .ok (.aload_n 0, 1) := dk_42 (dk_at dksX0_four_0 7 rfl rfl)
theorem dX0_four_8 : decode cX0_four 8 = .ok (.getfield 23, 3) := dk_180 0 23 (dk_at dksX0_four_0 8 rfl rfl)
theorem dX0_four_11 : decode cX0_four 11 = .ok (.getfield 210, 3) := dk_180 0 210 (dk_at dksX0_four_0 11 rfl rfl)
theorem dX0_four_14 : decode cX0_four 14 = .ok (.aload_n 0, 1) := dk_42 (dk_at dksX0_four_0 14 rfl rfl)
theorem dX0_four_15 : decode cX0_four 15 = .ok (.getfield 23, 3) := dk_180 0 23 (dk_at dksX0_four_0 15 rfl rfl)
theorem dX0_four_18 : decode cX0_four 18 = .ok (.getfield 203, 3) := dk_180 0 203 (dk_at dksX0_four_0 18 rfl rfl)
theorem dX0_four_21 : decode cX0_four 21 = .ok (.iload_n 1, 1) := dk_27 (dk_at dksX0_four_0 21 rfl rfl)
theorem dX0_four_22 : decode cX0_four 22 = .ok (.iload_n 2, 1) := dk_28 (dk_at dksX0_four_0 22 rfl rfl)
theorem dX0_four_23 : decode cX0_four 23 = .ok (.ishr, 1) := dk_122 (dk_at dksX0_four_0 23 rfl rfl)
theorem dX0_four_24 : decode cX0_four 24 = .ok (.i2b, 1) := dk_145 (dk_at dksX0_four_1 0 rfl rfl)
theorem dX0_four_25 : decode cX0_four 25 = .ok (.bastore, 1) := dk_84 (dk_at dksX0_four_1 1 rfl rfl)
theorem dX0_four_26 : decode cX0_four 26 = .ok (.aload_n 0, 1) := dk_42 (dk_at dksX0_four_1 2 rfl rfl)
theorem dX0_four_27 : decode cX0_four 27 = .ok (.getfield 23, 3) := dk_180 0 23 (dk_at dksX0_four_1 3 rfl rfl)
theorem dX0_four_30 : decode cX0_four 30 = .ok (.dup, 1) := dk_89 (dk_at dksX0_four_1 6 rfl rfl)
theorem dX0_four_31 : decode cX0_four 31 = .ok (.getfield 203, 3) := dk_180 0 203 (dk_at dksX0_four_1 7 rfl rfl)
theorem dX0_four_34 : decode cX0_four 34 = .ok (.iconst 1, 1) := dk_4 (dk_at dksX0_four_1 10 rfl rfl)
theorem dX0_four_35 : decode cX0_four 35 = .ok (.iadd, 1) := dk_96 (dk_at dksX0_four_1 11 rfl rfl)
theorem dX0_four_36 : decode cX0_four 36 = .ok (.putfield 203, 3) := dk_181 0 203 (dk_at dksX0_four_1 12 rfl rfl)
theorem dX0_four_39 : decode cX0_four 39 = .ok (.iinc 2 (-8), 3) := dk_132 2 248 (dk_at dksX0_four_1 15 rfl rfl)
theorem dX0_four_42 : decode cX0_four 42 = .ok (.goto (-39), 3) := dk_167 255 217 (dk_at dksX0_four_1 18 rfl rfl)
theorem dX0_four_45 : decode cX0_four 45 = .ok (.return_, 1) := dk_177 (dk_at dksX0_four_1 21 rfl rfl)
abbrev cX0_world : ByteArray := prog_1_method_24_code
def dkwX0_world_2 : List UInt8 := [182, 0, 231, 42, 42, 180, 0, 30, 180, 0, 196, 182, 0, 235, 172]
abbrev dktX0_world_2 : List UInt8 := dkwX0_world_2 ++ []
def dkwX0_world_1 : List UInt8 := [180, 0, 34, 182, 0, 224, 167, 0, 10, 77, 42, 44, 182, 0, 227, 172, 42, 180, 0, 30, 42, 180, 0, 34]
abbrev dktX0_world_1 : List UInt8 := dkwX0_world_1 ++ dktX0_world_2
def dkwX0_world_0 : List UInt8 := [42, 27, 17, 2, 88, 182, 0, 220, 154, 0, 9, 42, 8, 182, 0, 171, 172, 42, 180, 0, 23, 27, 42]
abbrev dktX0_world_0 : List UInt8 := dkwX0_world_0 ++ dktX0_world_1
theorem dksX0_world_0 : cX0_world.data.toList.drop 0 = dktX0_world_0 := by decide +kernel
theorem dksX0_world_1 : cX0_world.data.toList.drop 23 = dktX0_world_1 := dk_seg dksX0_world_0 23 rfl rfl
theorem dksX0_world_2 : cX0_world.data.toList.drop 47 = dktX0_world_2 := dk_seg dksX0_world_1 24 rfl rfl
theorem dX0_world_0 : decode cX0_world 0 = .ok (.aload_n 0, 1) := dk_42 (dk_at dksX0_world_0 0 rfl rfl)
theorem dX0_world_1 : decode cX0_world 1 = .ok (.iload_n 1, 1) := dk_27 (dk_at dksX0_world_0 1 rfl rfl)
theorem dX0_world_2 : decode cX0_world 2 = .ok (.sipush 600, 3) := dk_17 2 88 (dk_at dksX0_world_0 2 rfl rfl)
theorem dX0_world_5 : decode cX0_world 5 = .ok (.invokevirtual 220, 3) := dk_182 0 220 (dk_at dksX0_world_0 5 rfl rfl)
theorem dX0_world_8 : decode cX0_world 8 = .ok (.ifCond .ne 9, 3) := dk_154 0 9 (dk_at dksX0_world_0 8 rfl rfl)
theorem dX0_world_11 : decode cX0_world 11 = .ok (.aload_n 0, 1) := dk_42 (dk_at dksX0_world_0 11 rfl rfl)
theorem dX0_world_12 : decode cX0_world 12 = .ok (.iconst 5, 1) := dk_8 (dk_at dksX0_world_0 12 rfl rfl)
theorem dX0_world_13 : decode cX0_world 13 = .ok (.invokevirtual 171, 3) := dk_182 0 171 (dk_at dksX0_world_0 13 rfl rfl)
theorem dX0_world_16 : decode cX0_world 16 = .ok (.ireturn, 1) := dk_172 (dk_at dksX0_world_0 16 rfl rfl)
theorem dX0_world_17 : decode cX0_world 17 = .ok (.aload_n 0, 1) := dk_42 (dk_at dksX0_world_0 17 rfl rfl)
theorem dX0_world_18 : decode cX0_world 18 = .ok (.getfield 23, 3) := dk_180 0 23 (dk_at dksX0_world_0 18 rfl rfl)
theorem dX0_world_21 : decode cX0_world 21 = .ok (.iload_n 1, 1) := dk_27 (dk_at dksX0_world_0 21 rfl rfl)
theorem dX0_world_22 : decode cX0_world 22 = .ok (.aload_n 0, 1) := dk_42 (dk_at dksX0_world_0 22 rfl rfl)
theorem dX0_world_23 : decode cX0_world 23 = .ok (.getfield 34, 3) := dk_180 0 34 (dk_at dksX0_world_1 0 rfl rfl)
theorem dX0_world_26 : decode cX0_world 26 = .ok (.invokevirtual 224, 3) := dk_182 0 224 (dk_at dksX0_world_1 3 rfl rfl)
theorem dX0_world_29 : decode cX0_world 29 = .ok (.goto 10, 3) := dk_167 0 10 (dk_at dksX0_world_1 6 rfl rfl)
theorem dX0_world_32 : decode cX0_world 32 = .ok (.astore_n 2, 1) := dk_77 (dk_at dksX0_world_1 9 rfl rfl)
theorem dX0_world_33 : decode cX0_world 33 = .ok (.aload_n 0, 1) := dk_42 (dk_at dksX0_world_1 10 rfl rfl)
theorem dX0_world_34 : decode cX0_world 34 = .ok (.aload_n 2, 1) := dk_44 (dk_at dksX0_world_1 11 rfl rfl)
theorem dX0_world_35 : decode cX0_world 35 = .ok (.invokevirtual 227, 3) := dk_182 0 227 (dk_at dksX0_world_1 12 rfl rfl)
theorem dX0_world_38 : decode cX0_world 38 = .ok (.ireturn, 1) := dk_172 (dk_at dksX0_world_1 15 rfl rfl)
theorem dX0_world_39 : decode cX0_world 39 = .ok (.aload_n 0, 1) := dk_42 (dk_at dksX0_world_1 16 rfl rfl)
theorem dX0_world_40 : decode cX0_world 40 = .ok (.getfield 30, 3) := dk_180 0 30 (dk_at dksX0_world_1 17 rfl rfl)
theorem dX0_world_43 : decode cX0_world 43 = .ok (.aload_n 0, 1) := dk_42 (dk_at dksX0_world_1 20 rfl rfl)
theorem dX0_world_44 : decode cX0_world 44 = .ok (.getfield 34, 3) := dk_180 0 34 (dk_at dksX0_world_1 21 rfl rfl)
theorem dX0_world_47 : decode cX0_world 47 = .ok (.invokevirtual 231, 3) := dk_182 0 231 (dk_at dksX0_world_2 0 rfl rfl)
theorem dX0_world_50 : decode cX0_world 50 = .ok (.aload_n 0, 1) := dk_42 (dk_at dksX0_world_2 3 rfl rfl)
theorem dX0_world_51 : decode cX0_world 51 = .ok (.aload_n 0, 1) := dk_42 (dk_at dksX0_world_2 4 rfl rfl)
theorem dX0_world_52 : decode cX0_world 52 = .ok (.getfield 30, 3) := dk_180 0 30 (dk_at dksX0_world_2 5 rfl rfl)
theorem dX0_world_55 : decode cX0_world 55 = .ok (.getfield 196, 3) := dk_180 0 196 (dk_at dksX0_world_2 8 rfl rfl)
theorem dX0_world_58 : decode cX0_world 58 = .ok (.invokevirtual 235, 3) := dk_182 0 235 (dk_at dksX0_world_2 11 rfl rfl)
theorem dX0_world_61 : decode cX0_world 61 = .ok (.ireturn, 1) := dk_172 (dk_at dksX0_world_2 14 rfl rfl)
abbrev cX0_takes : ByteArray := prog_1_method_22_code
def dkwX0_takes_1 : List UInt8 := [180, 0, 23, 3, 181, 0, 203, 42, 3, 181, 0, 45, 42, 2, 181, 0, 49, 4, 172]
abbrev dktX0_takes_1 : List UInt8 := dkwX0_takes_1 ++ []
def dkwX0_takes_0 : List UInt8 := [27, 155, 0, 19, 27, 42, 180, 0, 23, 180, 0, 203, 163, 0, 8, 27, 28, 164, 0, 5, 3, 172, 42]
abbrev dktX0_takes_0 : List UInt8 := dkwX0_takes_0 ++ dktX0_takes_1
theorem dksX0_takes_0 : cX0_takes.data.toList.drop 0 = dktX0_takes_0 := by decide +kernel
theorem dksX0_takes_1 : cX0_takes.data.toList.drop 23 = dktX0_takes_1 := dk_seg dksX0_takes_0 23 rfl rfl
theorem dX0_takes_0 : decode cX0_takes 0 = .ok (.iload_n 1, 1) := dk_27 (dk_at dksX0_takes_0 0 rfl rfl)
theorem dX0_takes_1 : decode cX0_takes 1 = .ok (.ifCond .lt 19, 3) := dk_155 0 19 (dk_at dksX0_takes_0 1 rfl rfl)
theorem dX0_takes_4 : decode cX0_takes 4 = .ok (.iload_n 1, 1) := dk_27 (dk_at dksX0_takes_0 4 rfl rfl)
theorem dX0_takes_5 : decode cX0_takes 5 = .ok (.aload_n 0, 1) := dk_42 (dk_at dksX0_takes_0 5 rfl rfl)
theorem dX0_takes_6 : decode cX0_takes 6 = .ok (.getfield 23, 3) := dk_180 0 23 (dk_at dksX0_takes_0 6 rfl rfl)
theorem dX0_takes_9 : decode cX0_takes 9 = .ok (.getfield 203, 3) := dk_180 0 203 (dk_at dksX0_takes_0 9 rfl rfl)
theorem dX0_takes_12 : decode cX0_takes 12 = .ok (.if_icmp .gt 8, 3) := dk_163 0 8 (dk_at dksX0_takes_0 12 rfl rfl)
theorem dX0_takes_15 : decode cX0_takes 15 = .ok (.iload_n 1, 1) := dk_27 (dk_at dksX0_takes_0 15 rfl rfl)
theorem dX0_takes_16 : decode cX0_takes 16 = .ok (.iload_n 2, 1) := dk_28 (dk_at dksX0_takes_0 16 rfl rfl)
theorem dX0_takes_17 : decode cX0_takes 17 = .ok (.if_icmp .le 5, 3) := dk_164 0 5 (dk_at dksX0_takes_0 17 rfl rfl)
theorem dX0_takes_20 : decode cX0_takes 20 = .ok (.iconst 0, 1) := dk_3 (dk_at dksX0_takes_0 20 rfl rfl)
theorem dX0_takes_21 : decode cX0_takes 21 = .ok (.ireturn, 1) := dk_172 (dk_at dksX0_takes_0 21 rfl rfl)
theorem dX0_takes_22 : decode cX0_takes 22 = .ok (.aload_n 0, 1) := dk_42 (dk_at dksX0_takes_0 22 rfl rfl)
theorem dX0_takes_23 : decode cX0_takes 23 = .ok (.getfield 23, 3) := dk_180 0 23 (dk_at dksX0_takes_1 0 rfl rfl)
theorem dX0_takes_26 : decode cX0_takes 26 = .ok (.iconst 0, 1) := dk_3 (dk_at dksX0_takes_1 3 rfl rfl)
theorem dX0_takes_27 : decode cX0_takes 27 = .ok (.putfield 203, 3) := dk_181 0 203 (dk_at dksX0_takes_1 4 rfl rfl)
theorem dX0_takes_30 : decode cX0_takes 30 = .ok (.aload_n 0, 1) := dk_42 (dk_at dksX0_takes_1 7 rfl rfl)
theorem dX0_takes_31 : decode cX0_takes 31 = .ok (.iconst 0, 1) := dk_3 (dk_at dksX0_takes_1 8 rfl rfl)
theorem dX0_takes_32 : decode cX0_takes 32 = .ok (.putfield 45, 3) := dk_181 0 45 (dk_at dksX0_takes_1 9 rfl rfl)
theorem dX0_takes_35 : decode cX0_takes 35 = .ok (.aload_n 0, 1) := dk_42 (dk_at dksX0_takes_1 12 rfl rfl)
theorem dX0_takes_36 : decode cX0_takes 36 = .ok (.iconst (-1), 1) := dk_2 (dk_at dksX0_takes_1 13 rfl rfl)
theorem dX0_takes_37 : decode cX0_takes 37 = .ok (.putfield 49, 3) := dk_181 0 49 (dk_at dksX0_takes_1 14 rfl rfl)
theorem dX0_takes_40 : decode cX0_takes 40 = .ok (.iconst 1, 1) := dk_4 (dk_at dksX0_takes_1 17 rfl rfl)
theorem dX0_takes_41 : decode cX0_takes 41 = .ok (.ireturn, 1) := dk_172 (dk_at dksX0_takes_1 18 rfl rfl)
abbrev cX0_isPrime : ByteArray := prog_1_method_2_code
def dkwX0_isPrime_1 : List UInt8 := [167, 0, 4, 3, 172]
abbrev dktX0_isPrime_1 : List UInt8 := dkwX0_isPrime_1 ++ []
def dkwX0_isPrime_0 : List UInt8 := [26, 5, 159, 0, 19, 26, 6, 159, 0, 14, 26, 8, 159, 0, 9, 26, 16, 7, 160, 0, 7, 4]
abbrev dktX0_isPrime_0 : List UInt8 := dkwX0_isPrime_0 ++ dktX0_isPrime_1
theorem dksX0_isPrime_0 : cX0_isPrime.data.toList.drop 0 = dktX0_isPrime_0 := by decide +kernel
theorem dksX0_isPrime_1 : cX0_isPrime.data.toList.drop 22 = dktX0_isPrime_1 := dk_seg dksX0_isPrime_0 22 rfl rfl
theorem dX0_isPrime_0 : decode cX0_isPrime 0 = .ok (.iload_n 0, 1) := dk_26 (dk_at dksX0_isPrime_0 0 rfl rfl)
theorem dX0_isPrime_1 : decode cX0_isPrime 1 = .ok (.iconst 2, 1) := dk_5 (dk_at dksX0_isPrime_0 1 rfl rfl)
theorem dX0_isPrime_2 : decode cX0_isPrime 2 = .ok (.if_icmp .eq 19, 3) := dk_159 0 19 (dk_at dksX0_isPrime_0 2 rfl rfl)
theorem dX0_isPrime_5 : decode cX0_isPrime 5 = .ok (.iload_n 0, 1) := dk_26 (dk_at dksX0_isPrime_0 5 rfl rfl)
theorem dX0_isPrime_6 : decode cX0_isPrime 6 = .ok (.iconst 3, 1) := dk_6 (dk_at dksX0_isPrime_0 6 rfl rfl)
theorem dX0_isPrime_7 : decode cX0_isPrime 7 = .ok (.if_icmp .eq 14, 3) := dk_159 0 14 (dk_at dksX0_isPrime_0 7 rfl rfl)
theorem dX0_isPrime_10 : decode cX0_isPrime 10 = .ok (.iload_n 0, 1) := dk_26 (dk_at dksX0_isPrime_0 10 rfl rfl)
theorem dX0_isPrime_11 : decode cX0_isPrime 11 = .ok (.iconst 5, 1) := dk_8 (dk_at dksX0_isPrime_0 11 rfl rfl)
theorem dX0_isPrime_12 : decode cX0_isPrime 12 = .ok (.if_icmp .eq 9, 3) := dk_159 0 9 (dk_at dksX0_isPrime_0 12 rfl rfl)
theorem dX0_isPrime_15 : decode cX0_isPrime 15 = .ok (.iload_n 0, 1) := dk_26 (dk_at dksX0_isPrime_0 15 rfl rfl)
theorem dX0_isPrime_16 : decode cX0_isPrime 16 = .ok (.bipush 7, 2) := dk_16 7 (dk_at dksX0_isPrime_0 16 rfl rfl)
theorem dX0_isPrime_18 : decode cX0_isPrime 18 = .ok (.if_icmp .ne 7, 3) := dk_160 0 7 (dk_at dksX0_isPrime_0 18 rfl rfl)
theorem dX0_isPrime_21 : decode cX0_isPrime 21 = .ok (.iconst 1, 1) := dk_4 (dk_at dksX0_isPrime_0 21 rfl rfl)
theorem dX0_isPrime_22 : decode cX0_isPrime 22 = .ok (.goto 4, 3) := dk_167 0 4 (dk_at dksX0_isPrime_1 0 rfl rfl)
theorem dX0_isPrime_25 : decode cX0_isPrime 25 = .ok (.iconst 0, 1) := dk_3 (dk_at dksX0_isPrime_1 3 rfl rfl)
theorem dX0_isPrime_26 : decode cX0_isPrime 26 = .ok (.ireturn, 1) := dk_172 (dk_at dksX0_isPrime_1 4 rfl rfl)
abbrev cX0_widest : ByteArray := prog_1_method_1_code
def dkwX0_widest_0 : List UInt8 := [26, 8, 162, 0, 7, 8, 167, 0, 13, 26, 8, 160, 0, 7, 7, 167, 0, 4, 6, 172]
abbrev dktX0_widest_0 : List UInt8 := dkwX0_widest_0 ++ []
theorem dksX0_widest_0 : cX0_widest.data.toList.drop 0 = dktX0_widest_0 := by decide +kernel
theorem dX0_widest_0 : decode cX0_widest 0 = .ok (.iload_n 0, 1) := dk_26 (dk_at dksX0_widest_0 0 rfl rfl)
theorem dX0_widest_1 : decode cX0_widest 1 = .ok (.iconst 5, 1) := dk_8 (dk_at dksX0_widest_0 1 rfl rfl)
theorem dX0_widest_2 : decode cX0_widest 2 = .ok (.if_icmp .ge 7, 3) := dk_162 0 7 (dk_at dksX0_widest_0 2 rfl rfl)
theorem dX0_widest_5 : decode cX0_widest 5 = .ok (.iconst 5, 1) := dk_8 (dk_at dksX0_widest_0 5 rfl rfl)
theorem dX0_widest_6 : decode cX0_widest 6 = .ok (.goto 13, 3) := dk_167 0 13 (dk_at dksX0_widest_0 6 rfl rfl)
theorem dX0_widest_9 : decode cX0_widest 9 = .ok (.iload_n 0, 1) := dk_26 (dk_at dksX0_widest_0 9 rfl rfl)
theorem dX0_widest_10 : decode cX0_widest 10 = .ok (.iconst 5, 1) := dk_8 (dk_at dksX0_widest_0 10 rfl rfl)
theorem dX0_widest_11 : decode cX0_widest 11 = .ok (.if_icmp .ne 7, 3) := dk_160 0 7 (dk_at dksX0_widest_0 11 rfl rfl)
theorem dX0_widest_14 : decode cX0_widest 14 = .ok (.iconst 4, 1) := dk_7 (dk_at dksX0_widest_0 14 rfl rfl)
theorem dX0_widest_15 : decode cX0_widest 15 = .ok (.goto 4, 3) := dk_167 0 4 (dk_at dksX0_widest_0 15 rfl rfl)
theorem dX0_widest_18 : decode cX0_widest 18 = .ok (.iconst 3, 1) := dk_6 (dk_at dksX0_widest_0 18 rfl rfl)
theorem dX0_widest_19 : decode cX0_widest 19 = .ok (.ireturn, 1) := dk_172 (dk_at dksX0_widest_0 19 rfl rfl)
abbrev cX0_refused : ByteArray := prog_1_method_23_code
def dkwX0_refused_0 : List UInt8 := [42, 43, 180, 0, 214, 181, 0, 45, 42, 43, 180, 0, 217, 181, 0, 49, 42, 16, 10, 182, 0, 171, 172]
abbrev dktX0_refused_0 : List UInt8 := dkwX0_refused_0 ++ []
theorem dksX0_refused_0 : cX0_refused.data.toList.drop 0 = dktX0_refused_0 := by decide +kernel
theorem dX0_refused_0 : decode cX0_refused 0 = .ok (.aload_n 0, 1) := dk_42 (dk_at dksX0_refused_0 0 rfl rfl)
theorem dX0_refused_1 : decode cX0_refused 1 = .ok (.aload_n 1, 1) := dk_43 (dk_at dksX0_refused_0 1 rfl rfl)
theorem dX0_refused_2 : decode cX0_refused 2 = .ok (.getfield 214, 3) := dk_180 0 214 (dk_at dksX0_refused_0 2 rfl rfl)
theorem dX0_refused_5 : decode cX0_refused 5 = .ok (.putfield 45, 3) := dk_181 0 45 (dk_at dksX0_refused_0 5 rfl rfl)
theorem dX0_refused_8 : decode cX0_refused 8 = .ok (.aload_n 0, 1) := dk_42 (dk_at dksX0_refused_0 8 rfl rfl)
theorem dX0_refused_9 : decode cX0_refused 9 = .ok (.aload_n 1, 1) := dk_43 (dk_at dksX0_refused_0 9 rfl rfl)
theorem dX0_refused_10 : decode cX0_refused 10 = .ok (.getfield 217, 3) := dk_180 0 217 (dk_at dksX0_refused_0 10 rfl rfl)
theorem dX0_refused_13 : decode cX0_refused 13 = .ok (.putfield 49, 3) := dk_181 0 49 (dk_at dksX0_refused_0 13 rfl rfl)
theorem dX0_refused_16 : decode cX0_refused 16 = .ok (.aload_n 0, 1) := dk_42 (dk_at dksX0_refused_0 16 rfl rfl)
theorem dX0_refused_17 : decode cX0_refused 17 = .ok (.bipush 10, 2) := dk_16 10 (dk_at dksX0_refused_0 17 rfl rfl)
theorem dX0_refused_19 : decode cX0_refused 19 = .ok (.invokevirtual 171, 3) := dk_182 0 171 (dk_at dksX0_refused_0 19 rfl rfl)
theorem dX0_refused_22 : decode cX0_refused 22 = .ok (.ireturn, 1) := dk_172 (dk_at dksX0_refused_0 22 rfl rfl)
abbrev cX0_gives : ByteArray := prog_1_method_9_code
def dkwX0_gives_0 : List UInt8 := [42, 3, 181, 0, 144, 27, 172]
abbrev dktX0_gives_0 : List UInt8 := dkwX0_gives_0 ++ []
theorem dksX0_gives_0 : cX0_gives.data.toList.drop 0 = dktX0_gives_0 := by decide +kernel
theorem dX0_gives_0 : decode cX0_gives 0 = .ok (.aload_n 0, 1) := dk_42 (dk_at dksX0_gives_0 0 rfl rfl)
theorem dX0_gives_1 : decode cX0_gives 1 = .ok (.iconst 0, 1) := dk_3 (dk_at dksX0_gives_0 1 rfl rfl)
theorem dX0_gives_2 : decode cX0_gives 2 = .ok (.putfield 144, 3) := dk_181 0 144 (dk_at dksX0_gives_0 2 rfl rfl)
theorem dX0_gives_5 : decode cX0_gives 5 = .ok (.iload_n 1, 1) := dk_27 (dk_at dksX0_gives_0 5 rfl rfl)
theorem dX0_gives_6 : decode cX0_gives 6 = .ok (.ireturn, 1) := dk_172 (dk_at dksX0_gives_0 6 rfl rfl)
abbrev cX0_script : ByteArray := prog_1_method_25_code
def dkwX0_script_2 : List UInt8 := [181, 0, 249, 42, 42, 180, 0, 23, 180, 0, 250, 182, 0, 235, 172]
abbrev dktX0_script_2 : List UInt8 := dkwX0_script_2 ++ []
def dkwX0_script_1 : List UInt8 := [182, 0, 238, 181, 0, 242, 167, 0, 10, 77, 42, 44, 182, 0, 227, 172, 42, 42, 180, 0, 23, 180, 0, 246]
abbrev dktX0_script_1 : List UInt8 := dkwX0_script_1 ++ dktX0_script_2
def dkwX0_script_0 : List UInt8 := [42, 27, 17, 1, 44, 182, 0, 220, 154, 0, 9, 42, 8, 182, 0, 171, 172, 42, 42, 180, 0, 23, 27]
abbrev dktX0_script_0 : List UInt8 := dkwX0_script_0 ++ dktX0_script_1
theorem dksX0_script_0 : cX0_script.data.toList.drop 0 = dktX0_script_0 := by decide +kernel
theorem dksX0_script_1 : cX0_script.data.toList.drop 23 = dktX0_script_1 := dk_seg dksX0_script_0 23 rfl rfl
theorem dksX0_script_2 : cX0_script.data.toList.drop 47 = dktX0_script_2 := dk_seg dksX0_script_1 24 rfl rfl
theorem dX0_script_0 : decode cX0_script 0 = .ok (.aload_n 0, 1) := dk_42 (dk_at dksX0_script_0 0 rfl rfl)
theorem dX0_script_1 : decode cX0_script 1 = .ok (.iload_n 1, 1) := dk_27 (dk_at dksX0_script_0 1 rfl rfl)
theorem dX0_script_2 : decode cX0_script 2 = .ok (.sipush 300, 3) := dk_17 1 44 (dk_at dksX0_script_0 2 rfl rfl)
theorem dX0_script_5 : decode cX0_script 5 = .ok (.invokevirtual 220, 3) := dk_182 0 220 (dk_at dksX0_script_0 5 rfl rfl)
theorem dX0_script_8 : decode cX0_script 8 = .ok (.ifCond .ne 9, 3) := dk_154 0 9 (dk_at dksX0_script_0 8 rfl rfl)
theorem dX0_script_11 : decode cX0_script 11 = .ok (.aload_n 0, 1) := dk_42 (dk_at dksX0_script_0 11 rfl rfl)
theorem dX0_script_12 : decode cX0_script 12 = .ok (.iconst 5, 1) := dk_8 (dk_at dksX0_script_0 12 rfl rfl)
theorem dX0_script_13 : decode cX0_script 13 = .ok (.invokevirtual 171, 3) := dk_182 0 171 (dk_at dksX0_script_0 13 rfl rfl)
theorem dX0_script_16 : decode cX0_script 16 = .ok (.ireturn, 1) := dk_172 (dk_at dksX0_script_0 16 rfl rfl)
theorem dX0_script_17 : decode cX0_script 17 = .ok (.aload_n 0, 1) := dk_42 (dk_at dksX0_script_0 17 rfl rfl)
theorem dX0_script_18 : decode cX0_script 18 = .ok (.aload_n 0, 1) := dk_42 (dk_at dksX0_script_0 18 rfl rfl)
theorem dX0_script_19 : decode cX0_script 19 = .ok (.getfield 23, 3) := dk_180 0 23 (dk_at dksX0_script_0 19 rfl rfl)
theorem dX0_script_22 : decode cX0_script 22 = .ok (.iload_n 1, 1) := dk_27 (dk_at dksX0_script_0 22 rfl rfl)
theorem dX0_script_23 : decode cX0_script 23 = .ok (.invokevirtual 238, 3) := dk_182 0 238 (dk_at dksX0_script_1 0 rfl rfl)
theorem dX0_script_26 : decode cX0_script 26 = .ok (.putfield 242, 3) := dk_181 0 242 (dk_at dksX0_script_1 3 rfl rfl)
theorem dX0_script_29 : decode cX0_script 29 = .ok (.goto 10, 3) := dk_167 0 10 (dk_at dksX0_script_1 6 rfl rfl)
theorem dX0_script_32 : decode cX0_script 32 = .ok (.astore_n 2, 1) := dk_77 (dk_at dksX0_script_1 9 rfl rfl)
theorem dX0_script_33 : decode cX0_script 33 = .ok (.aload_n 0, 1) := dk_42 (dk_at dksX0_script_1 10 rfl rfl)
theorem dX0_script_34 : decode cX0_script 34 = .ok (.aload_n 2, 1) := dk_44 (dk_at dksX0_script_1 11 rfl rfl)
theorem dX0_script_35 : decode cX0_script 35 = .ok (.invokevirtual 227, 3) := dk_182 0 227 (dk_at dksX0_script_1 12 rfl rfl)
theorem dX0_script_38 : decode cX0_script 38 = .ok (.ireturn, 1) := dk_172 (dk_at dksX0_script_1 15 rfl rfl)
theorem dX0_script_39 : decode cX0_script 39 = .ok (.aload_n 0, 1) := dk_42 (dk_at dksX0_script_1 16 rfl rfl)
theorem dX0_script_40 : decode cX0_script 40 = .ok (.aload_n 0, 1) := dk_42 (dk_at dksX0_script_1 17 rfl rfl)
theorem dX0_script_41 : decode cX0_script 41 = .ok (.getfield 23, 3) := dk_180 0 23 (dk_at dksX0_script_1 18 rfl rfl)
theorem dX0_script_44 : decode cX0_script 44 = .ok (.getfield 246, 3) := dk_180 0 246 (dk_at dksX0_script_1 21 rfl rfl)
theorem dX0_script_47 : decode cX0_script 47 = .ok (.putfield 249, 3) := dk_181 0 249 (dk_at dksX0_script_2 0 rfl rfl)
theorem dX0_script_50 : decode cX0_script 50 = .ok (.aload_n 0, 1) := dk_42 (dk_at dksX0_script_2 3 rfl rfl)
theorem dX0_script_51 : decode cX0_script 51 = .ok (.aload_n 0, 1) := dk_42 (dk_at dksX0_script_2 4 rfl rfl)
theorem dX0_script_52 : decode cX0_script 52 = .ok (.getfield 23, 3) := dk_180 0 23 (dk_at dksX0_script_2 5 rfl rfl)
theorem dX0_script_55 : decode cX0_script 55 = .ok (.getfield 250, 3) := dk_180 0 250 (dk_at dksX0_script_2 8 rfl rfl)
theorem dX0_script_58 : decode cX0_script 58 = .ok (.invokevirtual 235, 3) := dk_182 0 235 (dk_at dksX0_script_2 11 rfl rfl)
theorem dX0_script_61 : decode cX0_script 61 = .ok (.ireturn, 1) := dk_172 (dk_at dksX0_script_2 14 rfl rfl)
abbrev cX0_fault : ByteArray := prog_1_method_26_code
def dkwX0_fault_1 : List UInt8 := [172]
abbrev dktX0_fault_1 : List UInt8 := dkwX0_fault_1 ++ []
def dkwX0_fault_0 : List UInt8 := [27, 154, 0, 10, 42, 180, 0, 45, 167, 0, 16, 27, 4, 160, 0, 10, 42, 180, 0, 49, 167, 0, 4, 2]
abbrev dktX0_fault_0 : List UInt8 := dkwX0_fault_0 ++ dktX0_fault_1
theorem dksX0_fault_0 : cX0_fault.data.toList.drop 0 = dktX0_fault_0 := by decide +kernel
theorem dksX0_fault_1 : cX0_fault.data.toList.drop 24 = dktX0_fault_1 := dk_seg dksX0_fault_0 24 rfl rfl
theorem dX0_fault_0 : decode cX0_fault 0 = .ok (.iload_n 1, 1) := dk_27 (dk_at dksX0_fault_0 0 rfl rfl)
theorem dX0_fault_1 : decode cX0_fault 1 = .ok (.ifCond .ne 10, 3) := dk_154 0 10 (dk_at dksX0_fault_0 1 rfl rfl)
theorem dX0_fault_4 : decode cX0_fault 4 = .ok (.aload_n 0, 1) := dk_42 (dk_at dksX0_fault_0 4 rfl rfl)
theorem dX0_fault_5 : decode cX0_fault 5 = .ok (.getfield 45, 3) := dk_180 0 45 (dk_at dksX0_fault_0 5 rfl rfl)
theorem dX0_fault_8 : decode cX0_fault 8 = .ok (.goto 16, 3) := dk_167 0 16 (dk_at dksX0_fault_0 8 rfl rfl)
theorem dX0_fault_11 : decode cX0_fault 11 = .ok (.iload_n 1, 1) := dk_27 (dk_at dksX0_fault_0 11 rfl rfl)
theorem dX0_fault_12 : decode cX0_fault 12 = .ok (.iconst 1, 1) := dk_4 (dk_at dksX0_fault_0 12 rfl rfl)
theorem dX0_fault_13 : decode cX0_fault 13 = .ok (.if_icmp .ne 10, 3) := dk_160 0 10 (dk_at dksX0_fault_0 13 rfl rfl)
theorem dX0_fault_16 : decode cX0_fault 16 = .ok (.aload_n 0, 1) := dk_42 (dk_at dksX0_fault_0 16 rfl rfl)
theorem dX0_fault_17 : decode cX0_fault 17 = .ok (.getfield 49, 3) := dk_180 0 49 (dk_at dksX0_fault_0 17 rfl rfl)
theorem dX0_fault_20 : decode cX0_fault 20 = .ok (.goto 4, 3) := dk_167 0 4 (dk_at dksX0_fault_0 20 rfl rfl)
theorem dX0_fault_23 : decode cX0_fault 23 = .ok (.iconst (-1), 1) := dk_2 (dk_at dksX0_fault_0 23 rfl rfl)
theorem dX0_fault_24 : decode cX0_fault 24 = .ok (.ireturn, 1) := dk_172 (dk_at dksX0_fault_1 0 rfl rfl)
abbrev cX0_many : ByteArray := prog_1_method_27_code
def dkwX0_many_8 : List UInt8 := [128, 61, 132, 3, 1, 167, 255, 229, 42, 28, 182, 0, 235, 172, 42, 8, 182, 0, 171, 172]
abbrev dktX0_many_8 : List UInt8 := dkwX0_many_8 ++ []
def dkwX0_many_7 : List UInt8 := [3, 62, 29, 7, 162, 0, 28, 28, 42, 180, 0, 41, 29, 51, 153, 0, 9, 4, 29, 120, 167, 0, 4, 3]
abbrev dktX0_many_7 : List UInt8 := dkwX0_many_7 ++ dktX0_many_8
def dkwX0_many_6 : List UInt8 := [132, 5, 1, 167, 255, 215, 132, 4, 1, 167, 255, 194, 132, 3, 1, 167, 255, 172, 42, 28, 182, 0, 235, 172]
abbrev dktX0_many_6 : List UInt8 := dkwX0_many_6 ++ dktX0_many_7
def dkwX0_many_5 : List UInt8 := [180, 0, 30, 180, 1, 0, 29, 50, 21, 4, 50, 21, 5, 46, 154, 0, 7, 3, 167, 0, 4, 4, 96, 61]
abbrev dktX0_many_5 : List UInt8 := dkwX0_many_5 ++ dktX0_many_6
def dkwX0_many_4 : List UInt8 := [180, 0, 196, 162, 0, 56, 3, 54, 5, 21, 5, 42, 180, 0, 30, 180, 0, 196, 162, 0, 35, 28, 42]
abbrev dktX0_many_4 : List UInt8 := dkwX0_many_4 ++ dktX0_many_5
def dkwX0_many_3 : List UInt8 := [3, 62, 29, 42, 180, 0, 30, 180, 0, 196, 162, 0, 79, 29, 4, 96, 54, 4, 21, 4, 42, 180, 0, 30]
abbrev dktX0_many_3 : List UInt8 := dkwX0_many_3 ++ dktX0_many_4
def dkwX0_many_2 : List UInt8 := [42, 42, 180, 0, 30, 180, 0, 253, 182, 0, 235, 172, 42, 42, 180, 0, 30, 180, 0, 196, 182, 0, 235, 172]
abbrev dktX0_many_2 : List UInt8 := dkwX0_many_2 ++ dktX0_many_3
def dkwX0_many_1 : List UInt8 := [170, 0, 0, 0, 186, 0, 0, 0, 0, 0, 0, 0, 3, 0, 0, 0, 29, 0, 0, 0, 41, 0, 0, 0, 53, 0, 0, 0, 148]
abbrev dktX0_many_1 : List UInt8 := dkwX0_many_1 ++ dktX0_many_2
def dkwX0_many_0 : List UInt8 := [3, 61, 27]
abbrev dktX0_many_0 : List UInt8 := dkwX0_many_0 ++ dktX0_many_1
theorem dksX0_many_0 : cX0_many.data.toList.drop 0 = dktX0_many_0 := by decide +kernel
theorem dksX0_many_1 : cX0_many.data.toList.drop 3 = dktX0_many_1 := dk_seg dksX0_many_0 3 rfl rfl
theorem dksX0_many_2 : cX0_many.data.toList.drop 32 = dktX0_many_2 := dk_seg dksX0_many_1 29 rfl rfl
theorem dksX0_many_3 : cX0_many.data.toList.drop 56 = dktX0_many_3 := dk_seg dksX0_many_2 24 rfl rfl
theorem dksX0_many_4 : cX0_many.data.toList.drop 80 = dktX0_many_4 := dk_seg dksX0_many_3 24 rfl rfl
theorem dksX0_many_5 : cX0_many.data.toList.drop 103 = dktX0_many_5 := dk_seg dksX0_many_4 23 rfl rfl
theorem dksX0_many_6 : cX0_many.data.toList.drop 127 = dktX0_many_6 := dk_seg dksX0_many_5 24 rfl rfl
theorem dksX0_many_7 : cX0_many.data.toList.drop 151 = dktX0_many_7 := dk_seg dksX0_many_6 24 rfl rfl
theorem dksX0_many_8 : cX0_many.data.toList.drop 175 = dktX0_many_8 := dk_seg dksX0_many_7 24 rfl rfl
theorem dX0_many_0 : decode cX0_many 0 = .ok (.iconst 0, 1) := dk_3 (dk_at dksX0_many_0 0 rfl rfl)
theorem dX0_many_1 : decode cX0_many 1 = .ok (.istore_n 2, 1) := dk_61 (dk_at dksX0_many_0 1 rfl rfl)
theorem dX0_many_2 : decode cX0_many 2 = .ok (.iload_n 1, 1) := dk_27 (dk_at dksX0_many_0 2 rfl rfl)
theorem dX0_many_3 : decode cX0_many 3 = .ok (.tableswitch 186 0 3 #[29, 41, 53, 148], 29) := by decide +kernel
theorem dX0_many_32 : decode cX0_many 32 = .ok (.aload_n 0, 1) := dk_42 (dk_at dksX0_many_2 0 rfl rfl)
theorem dX0_many_33 : decode cX0_many 33 = .ok (.aload_n 0, 1) := dk_42 (dk_at dksX0_many_2 1 rfl rfl)
theorem dX0_many_34 : decode cX0_many 34 = .ok (.getfield 30, 3) := dk_180 0 30 (dk_at dksX0_many_2 2 rfl rfl)
theorem dX0_many_37 : decode cX0_many 37 = .ok (.getfield 253, 3) := dk_180 0 253 (dk_at dksX0_many_2 5 rfl rfl)
theorem dX0_many_40 : decode cX0_many 40 = .ok (.invokevirtual 235, 3) := dk_182 0 235 (dk_at dksX0_many_2 8 rfl rfl)
theorem dX0_many_43 : decode cX0_many 43 = .ok (.ireturn, 1) := dk_172 (dk_at dksX0_many_2 11 rfl rfl)
theorem dX0_many_44 : decode cX0_many 44 = .ok (.aload_n 0, 1) := dk_42 (dk_at dksX0_many_2 12 rfl rfl)
theorem dX0_many_45 : decode cX0_many 45 = .ok (.aload_n 0, 1) := dk_42 (dk_at dksX0_many_2 13 rfl rfl)
theorem dX0_many_46 : decode cX0_many 46 = .ok (.getfield 30, 3) := dk_180 0 30 (dk_at dksX0_many_2 14 rfl rfl)
theorem dX0_many_49 : decode cX0_many 49 = .ok (.getfield 196, 3) := dk_180 0 196 (dk_at dksX0_many_2 17 rfl rfl)
theorem dX0_many_52 : decode cX0_many 52 = .ok (.invokevirtual 235, 3) := dk_182 0 235 (dk_at dksX0_many_2 20 rfl rfl)
theorem dX0_many_55 : decode cX0_many 55 = .ok (.ireturn, 1) := dk_172 (dk_at dksX0_many_2 23 rfl rfl)
theorem dX0_many_56 : decode cX0_many 56 = .ok (.iconst 0, 1) := dk_3 (dk_at dksX0_many_3 0 rfl rfl)
theorem dX0_many_57 : decode cX0_many 57 = .ok (.istore_n 3, 1) := dk_62 (dk_at dksX0_many_3 1 rfl rfl)
theorem dX0_many_58 : decode cX0_many 58 = .ok (.iload_n 3, 1) := dk_29 (dk_at dksX0_many_3 2 rfl rfl)
theorem dX0_many_59 : decode cX0_many 59 = .ok (.aload_n 0, 1) := dk_42 (dk_at dksX0_many_3 3 rfl rfl)
theorem dX0_many_60 : decode cX0_many 60 = .ok (.getfield 30, 3) := dk_180 0 30 (dk_at dksX0_many_3 4 rfl rfl)
theorem dX0_many_63 : decode cX0_many 63 = .ok (.getfield 196, 3) := dk_180 0 196 (dk_at dksX0_many_3 7 rfl rfl)
theorem dX0_many_66 : decode cX0_many 66 = .ok (.if_icmp .ge 79, 3) := dk_162 0 79 (dk_at dksX0_many_3 10 rfl rfl)
theorem dX0_many_69 : decode cX0_many 69 = .ok (.iload_n 3, 1) := dk_29 (dk_at dksX0_many_3 13 rfl rfl)
theorem dX0_many_70 : decode cX0_many 70 = .ok (.iconst 1, 1) := dk_4 (dk_at dksX0_many_3 14 rfl rfl)
theorem dX0_many_71 : decode cX0_many 71 = .ok (.iadd, 1) := dk_96 (dk_at dksX0_many_3 15 rfl rfl)
theorem dX0_many_72 : decode cX0_many 72 = .ok (.istore 4, 2) := dk_54 4 (dk_at dksX0_many_3 16 rfl rfl)
theorem dX0_many_74 : decode cX0_many 74 = .ok (.iload 4, 2) := dk_21 4 (dk_at dksX0_many_3 18 rfl rfl)
theorem dX0_many_76 : decode cX0_many 76 = .ok (.aload_n 0, 1) := dk_42 (dk_at dksX0_many_3 20 rfl rfl)
theorem dX0_many_77 : decode cX0_many 77 = .ok (.getfield 30, 3) := dk_180 0 30 (dk_at dksX0_many_3 21 rfl rfl)
theorem dX0_many_80 : decode cX0_many 80 = .ok (.getfield 196, 3) := dk_180 0 196 (dk_at dksX0_many_4 0 rfl rfl)
theorem dX0_many_83 : decode cX0_many 83 = .ok (.if_icmp .ge 56, 3) := dk_162 0 56 (dk_at dksX0_many_4 3 rfl rfl)
theorem dX0_many_86 : decode cX0_many 86 = .ok (.iconst 0, 1) := dk_3 (dk_at dksX0_many_4 6 rfl rfl)
theorem dX0_many_87 : decode cX0_many 87 = .ok (.istore 5, 2) := dk_54 5 (dk_at dksX0_many_4 7 rfl rfl)
theorem dX0_many_89 : decode cX0_many 89 = .ok (.iload 5, 2) := dk_21 5 (dk_at dksX0_many_4 9 rfl rfl)
theorem dX0_many_91 : decode cX0_many 91 = .ok (.aload_n 0, 1) := dk_42 (dk_at dksX0_many_4 11 rfl rfl)
theorem dX0_many_92 : decode cX0_many 92 = .ok (.getfield 30, 3) := dk_180 0 30 (dk_at dksX0_many_4 12 rfl rfl)
theorem dX0_many_95 : decode cX0_many 95 = .ok (.getfield 196, 3) := dk_180 0 196 (dk_at dksX0_many_4 15 rfl rfl)
theorem dX0_many_98 : decode cX0_many 98 = .ok (.if_icmp .ge 35, 3) := dk_162 0 35 (dk_at dksX0_many_4 18 rfl rfl)
theorem dX0_many_101 : decode cX0_many 101 = .ok (.iload_n 2, 1) := dk_28 (dk_at dksX0_many_4 21 rfl rfl)
theorem dX0_many_102 : decode cX0_many 102 = .ok (.aload_n 0, 1) := dk_42 (dk_at dksX0_many_4 22 rfl rfl)
theorem dX0_many_103 : decode cX0_many 103 = .ok (.getfield 30, 3) := dk_180 0 30 (dk_at dksX0_many_5 0 rfl rfl)
theorem dX0_many_106 : decode cX0_many 106 = .ok (.getfield 256, 3) := dk_180 1 0 (dk_at dksX0_many_5 3 rfl rfl)
theorem dX0_many_109 : decode cX0_many 109 = .ok (.iload_n 3, 1) := dk_29 (dk_at dksX0_many_5 6 rfl rfl)
theorem dX0_many_110 : decode cX0_many 110 = .ok (.aaload, 1) := dk_50 (dk_at dksX0_many_5 7 rfl rfl)
theorem dX0_many_111 : decode cX0_many 111 = .ok (.iload 4, 2) := dk_21 4 (dk_at dksX0_many_5 8 rfl rfl)
theorem dX0_many_113 : decode cX0_many 113 = .ok (.aaload, 1) := dk_50 (dk_at dksX0_many_5 10 rfl rfl)
theorem dX0_many_114 : decode cX0_many 114 = .ok (.iload 5, 2) := dk_21 5 (dk_at dksX0_many_5 11 rfl rfl)
theorem dX0_many_116 : decode cX0_many 116 = .ok (.iaload, 1) := dk_46 (dk_at dksX0_many_5 13 rfl rfl)
theorem dX0_many_117 : decode cX0_many 117 = .ok (.ifCond .ne 7, 3) := dk_154 0 7 (dk_at dksX0_many_5 14 rfl rfl)
theorem dX0_many_120 : decode cX0_many 120 = .ok (.iconst 0, 1) := dk_3 (dk_at dksX0_many_5 17 rfl rfl)
theorem dX0_many_121 : decode cX0_many 121 = .ok (.goto 4, 3) := dk_167 0 4 (dk_at dksX0_many_5 18 rfl rfl)
theorem dX0_many_124 : decode cX0_many 124 = .ok (.iconst 1, 1) := dk_4 (dk_at dksX0_many_5 21 rfl rfl)
theorem dX0_many_125 : decode cX0_many 125 = .ok (.iadd, 1) := dk_96 (dk_at dksX0_many_5 22 rfl rfl)
theorem dX0_many_126 : decode cX0_many 126 = .ok (.istore_n 2, 1) := dk_61 (dk_at dksX0_many_5 23 rfl rfl)
theorem dX0_many_127 : decode cX0_many 127 = .ok (.iinc 5 1, 3) := dk_132 5 1 (dk_at dksX0_many_6 0 rfl rfl)
theorem dX0_many_130 : decode cX0_many 130 = .ok (.goto (-41), 3) := dk_167 255 215 (dk_at dksX0_many_6 3 rfl rfl)
theorem dX0_many_133 : decode cX0_many 133 = .ok (.iinc 4 1, 3) := dk_132 4 1 (dk_at dksX0_many_6 6 rfl rfl)
theorem dX0_many_136 : decode cX0_many 136 = .ok (.goto (-62), 3) := dk_167 255 194 (dk_at dksX0_many_6 9 rfl rfl)
theorem dX0_many_139 : decode cX0_many 139 = .ok (.iinc 3 1, 3) := dk_132 3 1 (dk_at dksX0_many_6 12 rfl rfl)
theorem dX0_many_142 : decode cX0_many 142 = .ok (.goto (-84), 3) := dk_167 255 172 (dk_at dksX0_many_6 15 rfl rfl)
theorem dX0_many_145 : decode cX0_many 145 = .ok (.aload_n 0, 1) := dk_42 (dk_at dksX0_many_6 18 rfl rfl)
theorem dX0_many_146 : decode cX0_many 146 = .ok (.iload_n 2, 1) := dk_28 (dk_at dksX0_many_6 19 rfl rfl)
theorem dX0_many_147 : decode cX0_many 147 = .ok (.invokevirtual 235, 3) := dk_182 0 235 (dk_at dksX0_many_6 20 rfl rfl)
theorem dX0_many_150 : decode cX0_many 150 = .ok (.ireturn, 1) := dk_172 (dk_at dksX0_many_6 23 rfl rfl)
theorem dX0_many_151 : decode cX0_many 151 = .ok (.iconst 0, 1) := dk_3 (dk_at dksX0_many_7 0 rfl rfl)
theorem dX0_many_152 : decode cX0_many 152 = .ok (.istore_n 3, 1) := dk_62 (dk_at dksX0_many_7 1 rfl rfl)
theorem dX0_many_153 : decode cX0_many 153 = .ok (.iload_n 3, 1) := dk_29 (dk_at dksX0_many_7 2 rfl rfl)
theorem dX0_many_154 : decode cX0_many 154 = .ok (.iconst 4, 1) := dk_7 (dk_at dksX0_many_7 3 rfl rfl)
theorem dX0_many_155 : decode cX0_many 155 = .ok (.if_icmp .ge 28, 3) := dk_162 0 28 (dk_at dksX0_many_7 4 rfl rfl)
theorem dX0_many_158 : decode cX0_many 158 = .ok (.iload_n 2, 1) := dk_28 (dk_at dksX0_many_7 7 rfl rfl)
theorem dX0_many_159 : decode cX0_many 159 = .ok (.aload_n 0, 1) := dk_42 (dk_at dksX0_many_7 8 rfl rfl)
theorem dX0_many_160 : decode cX0_many 160 = .ok (.getfield 41, 3) := dk_180 0 41 (dk_at dksX0_many_7 9 rfl rfl)
theorem dX0_many_163 : decode cX0_many 163 = .ok (.iload_n 3, 1) := dk_29 (dk_at dksX0_many_7 12 rfl rfl)
theorem dX0_many_164 : decode cX0_many 164 = .ok (.baload, 1) := dk_51 (dk_at dksX0_many_7 13 rfl rfl)
theorem dX0_many_165 : decode cX0_many 165 = .ok (.ifCond .eq 9, 3) := dk_153 0 9 (dk_at dksX0_many_7 14 rfl rfl)
theorem dX0_many_168 : decode cX0_many 168 = .ok (.iconst 1, 1) := dk_4 (dk_at dksX0_many_7 17 rfl rfl)
theorem dX0_many_169 : decode cX0_many 169 = .ok (.iload_n 3, 1) := dk_29 (dk_at dksX0_many_7 18 rfl rfl)
theorem dX0_many_170 : decode cX0_many 170 = .ok (.ishl, 1) := dk_120 (dk_at dksX0_many_7 19 rfl rfl)
theorem dX0_many_171 : decode cX0_many 171 = .ok (.goto 4, 3) := dk_167 0 4 (dk_at dksX0_many_7 20 rfl rfl)
theorem dX0_many_174 : decode cX0_many 174 = .ok (.iconst 0, 1) := dk_3 (dk_at dksX0_many_7 23 rfl rfl)
theorem dX0_many_175 : decode cX0_many 175 = .ok (.ior, 1) := dk_128 (dk_at dksX0_many_8 0 rfl rfl)
theorem dX0_many_176 : decode cX0_many 176 = .ok (.istore_n 2, 1) := dk_61 (dk_at dksX0_many_8 1 rfl rfl)
theorem dX0_many_177 : decode cX0_many 177 = .ok (.iinc 3 1, 3) := dk_132 3 1 (dk_at dksX0_many_8 2 rfl rfl)
theorem dX0_many_180 : decode cX0_many 180 = .ok (.goto (-27), 3) := dk_167 255 229 (dk_at dksX0_many_8 5 rfl rfl)
theorem dX0_many_183 : decode cX0_many 183 = .ok (.aload_n 0, 1) := dk_42 (dk_at dksX0_many_8 8 rfl rfl)
theorem dX0_many_184 : decode cX0_many 184 = .ok (.iload_n 2, 1) := dk_28 (dk_at dksX0_many_8 9 rfl rfl)
theorem dX0_many_185 : decode cX0_many 185 = .ok (.invokevirtual 235, 3) := dk_182 0 235 (dk_at dksX0_many_8 10 rfl rfl)
theorem dX0_many_188 : decode cX0_many 188 = .ok (.ireturn, 1) := dk_172 (dk_at dksX0_many_8 13 rfl rfl)
theorem dX0_many_189 : decode cX0_many 189 = .ok (.aload_n 0, 1) := dk_42 (dk_at dksX0_many_8 14 rfl rfl)
theorem dX0_many_190 : decode cX0_many 190 = .ok (.iconst 5, 1) := dk_8 (dk_at dksX0_many_8 15 rfl rfl)
theorem dX0_many_191 : decode cX0_many 191 = .ok (.invokevirtual 171, 3) := dk_182 0 171 (dk_at dksX0_many_8 16 rfl rfl)
theorem dX0_many_194 : decode cX0_many 194 = .ok (.ireturn, 1) := dk_172 (dk_at dksX0_many_8 19 rfl rfl)
abbrev cX0_constant : ByteArray := prog_1_method_28_code
def dkwX0_constant_2 : List UInt8 := [182, 0, 171, 172]
abbrev dktX0_constant_2 : List UInt8 := dkwX0_constant_2 ++ []
def dkwX0_constant_1 : List UInt8 := [42, 42, 180, 0, 30, 180, 1, 0, 27, 50, 28, 50, 29, 46, 182, 0, 235, 167, 0, 8, 42, 5]
abbrev dktX0_constant_1 : List UInt8 := dkwX0_constant_1 ++ dktX0_constant_2
def dkwX0_constant_0 : List UInt8 := [42, 27, 182, 1, 4, 153, 0, 39, 42, 28, 182, 1, 4, 153, 0, 31, 42, 29, 182, 1, 4, 153, 0, 23]
abbrev dktX0_constant_0 : List UInt8 := dkwX0_constant_0 ++ dktX0_constant_1
theorem dksX0_constant_0 : cX0_constant.data.toList.drop 0 = dktX0_constant_0 := by decide +kernel
theorem dksX0_constant_1 : cX0_constant.data.toList.drop 24 = dktX0_constant_1 := dk_seg dksX0_constant_0 24 rfl rfl
theorem dksX0_constant_2 : cX0_constant.data.toList.drop 46 = dktX0_constant_2 := dk_seg dksX0_constant_1 22 rfl rfl
theorem dX0_constant_0 : decode cX0_constant 0 = .ok (.aload_n 0, 1) := dk_42 (dk_at dksX0_constant_0 0 rfl rfl)
theorem dX0_constant_1 : decode cX0_constant 1 = .ok (.iload_n 1, 1) := dk_27 (dk_at dksX0_constant_0 1 rfl rfl)
theorem dX0_constant_2 : decode cX0_constant 2 = .ok (.invokevirtual 260, 3) := dk_182 1 4 (dk_at dksX0_constant_0 2 rfl rfl)
theorem dX0_constant_5 : decode cX0_constant 5 = .ok (.ifCond .eq 39, 3) := dk_153 0 39 (dk_at dksX0_constant_0 5 rfl rfl)
theorem dX0_constant_8 : decode cX0_constant 8 = .ok (.aload_n 0, 1) := dk_42 (dk_at dksX0_constant_0 8 rfl rfl)
theorem dX0_constant_9 : decode cX0_constant 9 = .ok (.iload_n 2, 1) := dk_28 (dk_at dksX0_constant_0 9 rfl rfl)
theorem dX0_constant_10 : decode cX0_constant 10 = .ok (.invokevirtual 260, 3) := dk_182 1 4 (dk_at dksX0_constant_0 10 rfl rfl)
theorem dX0_constant_13 : decode cX0_constant 13 = .ok (.ifCond .eq 31, 3) := dk_153 0 31 (dk_at dksX0_constant_0 13 rfl rfl)
theorem dX0_constant_16 : decode cX0_constant 16 = .ok (.aload_n 0, 1) := dk_42 (dk_at dksX0_constant_0 16 rfl rfl)
theorem dX0_constant_17 : decode cX0_constant 17 = .ok (.iload_n 3, 1) := dk_29 (dk_at dksX0_constant_0 17 rfl rfl)
theorem dX0_constant_18 : decode cX0_constant 18 = .ok (.invokevirtual 260, 3) := dk_182 1 4 (dk_at dksX0_constant_0 18 rfl rfl)
theorem dX0_constant_21 : decode cX0_constant 21 = .ok (.ifCond .eq 23, 3) := dk_153 0 23 (dk_at dksX0_constant_0 21 rfl rfl)
theorem dX0_constant_24 : decode cX0_constant 24 = .ok (.aload_n 0, 1) := dk_42 (dk_at dksX0_constant_1 0 rfl rfl)
theorem dX0_constant_25 : decode cX0_constant 25 = .ok (.aload_n 0, 1) := dk_42 (dk_at dksX0_constant_1 1 rfl rfl)
theorem dX0_constant_26 : decode cX0_constant 26 = .ok (.getfield 30, 3) := dk_180 0 30 (dk_at dksX0_constant_1 2 rfl rfl)
theorem dX0_constant_29 : decode cX0_constant 29 = .ok (.getfield 256, 3) := dk_180 1 0 (dk_at dksX0_constant_1 5 rfl rfl)
theorem dX0_constant_32 : decode cX0_constant 32 = .ok (.iload_n 1, 1) := dk_27 (dk_at dksX0_constant_1 8 rfl rfl)
theorem dX0_constant_33 : decode cX0_constant 33 = .ok (.aaload, 1) := dk_50 (dk_at dksX0_constant_1 9 rfl rfl)
theorem dX0_constant_34 : decode cX0_constant 34 = .ok (.iload_n 2, 1) := dk_28 (dk_at dksX0_constant_1 10 rfl rfl)
theorem dX0_constant_35 : decode cX0_constant 35 = .ok (.aaload, 1) := dk_50 (dk_at dksX0_constant_1 11 rfl rfl)
theorem dX0_constant_36 : decode cX0_constant 36 = .ok (.iload_n 3, 1) := dk_29 (dk_at dksX0_constant_1 12 rfl rfl)
theorem dX0_constant_37 : decode cX0_constant 37 = .ok (.iaload, 1) := dk_46 (dk_at dksX0_constant_1 13 rfl rfl)
theorem dX0_constant_38 : decode cX0_constant 38 = .ok (.invokevirtual 235, 3) := dk_182 0 235 (dk_at dksX0_constant_1 14 rfl rfl)
theorem dX0_constant_41 : decode cX0_constant 41 = .ok (.goto 8, 3) := dk_167 0 8 (dk_at dksX0_constant_1 17 rfl rfl)
theorem dX0_constant_44 : decode cX0_constant 44 = .ok (.aload_n 0, 1) := dk_42 (dk_at dksX0_constant_1 20 rfl rfl)
theorem dX0_constant_45 : decode cX0_constant 45 = .ok (.iconst 2, 1) := dk_5 (dk_at dksX0_constant_1 21 rfl rfl)
theorem dX0_constant_46 : decode cX0_constant 46 = .ok (.invokevirtual 171, 3) := dk_182 0 171 (dk_at dksX0_constant_2 0 rfl rfl)
theorem dX0_constant_49 : decode cX0_constant 49 = .ok (.ireturn, 1) := dk_172 (dk_at dksX0_constant_2 3 rfl rfl)
abbrev cX0_isBase : ByteArray := prog_1_method_17_code
def dkwX0_isBase_0 : List UInt8 := [27, 155, 0, 18, 27, 42, 180, 0, 30, 180, 0, 196, 162, 0, 7, 4, 167, 0, 4, 3, 172]
abbrev dktX0_isBase_0 : List UInt8 := dkwX0_isBase_0 ++ []
theorem dksX0_isBase_0 : cX0_isBase.data.toList.drop 0 = dktX0_isBase_0 := by decide +kernel
theorem dX0_isBase_0 : decode cX0_isBase 0 = .ok (.iload_n 1, 1) := dk_27 (dk_at dksX0_isBase_0 0 rfl rfl)
theorem dX0_isBase_1 : decode cX0_isBase 1 = .ok (.ifCond .lt 18, 3) := dk_155 0 18 (dk_at dksX0_isBase_0 1 rfl rfl)
theorem dX0_isBase_4 : decode cX0_isBase 4 = .ok (.iload_n 1, 1) := dk_27 (dk_at dksX0_isBase_0 4 rfl rfl)
theorem dX0_isBase_5 : decode cX0_isBase 5 = .ok (.aload_n 0, 1) := dk_42 (dk_at dksX0_isBase_0 5 rfl rfl)
theorem dX0_isBase_6 : decode cX0_isBase 6 = .ok (.getfield 30, 3) := dk_180 0 30 (dk_at dksX0_isBase_0 6 rfl rfl)
theorem dX0_isBase_9 : decode cX0_isBase 9 = .ok (.getfield 196, 3) := dk_180 0 196 (dk_at dksX0_isBase_0 9 rfl rfl)
theorem dX0_isBase_12 : decode cX0_isBase 12 = .ok (.if_icmp .ge 7, 3) := dk_162 0 7 (dk_at dksX0_isBase_0 12 rfl rfl)
theorem dX0_isBase_15 : decode cX0_isBase 15 = .ok (.iconst 1, 1) := dk_4 (dk_at dksX0_isBase_0 15 rfl rfl)
theorem dX0_isBase_16 : decode cX0_isBase 16 = .ok (.goto 4, 3) := dk_167 0 4 (dk_at dksX0_isBase_0 16 rfl rfl)
theorem dX0_isBase_19 : decode cX0_isBase 19 = .ok (.iconst 0, 1) := dk_3 (dk_at dksX0_isBase_0 19 rfl rfl)
theorem dX0_isBase_20 : decode cX0_isBase 20 = .ok (.ireturn, 1) := dk_172 (dk_at dksX0_isBase_0 20 rfl rfl)
abbrev cX0_put : ByteArray := prog_1_method_29_code
def dkwX0_put_3 : List UInt8 := [42, 3, 182, 0, 150, 172]
abbrev dktX0_put_3 : List UInt8 := dkwX0_put_3 ++ []
def dkwX0_put_2 : List UInt8 := [180, 0, 253, 161, 0, 9, 42, 8, 182, 0, 150, 172, 42, 180, 0, 30, 27, 28, 29, 21, 4, 182, 1, 7]
abbrev dktX0_put_2 : List UInt8 := dkwX0_put_2 ++ dktX0_put_3
def dkwX0_put_1 : List UInt8 := [42, 5, 182, 0, 150, 172, 27, 28, 162, 0, 20, 21, 4, 155, 0, 15, 21, 4, 42, 180, 0, 30]
abbrev dktX0_put_1 : List UInt8 := dkwX0_put_1 ++ dktX0_put_2
def dkwX0_put_0 : List UInt8 := [42, 27, 182, 1, 4, 153, 0, 19, 42, 28, 182, 1, 4, 153, 0, 11, 42, 29, 182, 1, 4, 154, 0, 9]
abbrev dktX0_put_0 : List UInt8 := dkwX0_put_0 ++ dktX0_put_1
theorem dksX0_put_0 : cX0_put.data.toList.drop 0 = dktX0_put_0 := by decide +kernel
theorem dksX0_put_1 : cX0_put.data.toList.drop 24 = dktX0_put_1 := dk_seg dksX0_put_0 24 rfl rfl
theorem dksX0_put_2 : cX0_put.data.toList.drop 46 = dktX0_put_2 := dk_seg dksX0_put_1 22 rfl rfl
theorem dksX0_put_3 : cX0_put.data.toList.drop 70 = dktX0_put_3 := dk_seg dksX0_put_2 24 rfl rfl
theorem dX0_put_0 : decode cX0_put 0 = .ok (.aload_n 0, 1) := dk_42 (dk_at dksX0_put_0 0 rfl rfl)
theorem dX0_put_1 : decode cX0_put 1 = .ok (.iload_n 1, 1) := dk_27 (dk_at dksX0_put_0 1 rfl rfl)
theorem dX0_put_2 : decode cX0_put 2 = .ok (.invokevirtual 260, 3) := dk_182 1 4 (dk_at dksX0_put_0 2 rfl rfl)
theorem dX0_put_5 : decode cX0_put 5 = .ok (.ifCond .eq 19, 3) := dk_153 0 19 (dk_at dksX0_put_0 5 rfl rfl)
theorem dX0_put_8 : decode cX0_put 8 = .ok (.aload_n 0, 1) := dk_42 (dk_at dksX0_put_0 8 rfl rfl)
theorem dX0_put_9 : decode cX0_put 9 = .ok (.iload_n 2, 1) := dk_28 (dk_at dksX0_put_0 9 rfl rfl)
theorem dX0_put_10 : decode cX0_put 10 = .ok (.invokevirtual 260, 3) := dk_182 1 4 (dk_at dksX0_put_0 10 rfl rfl)
theorem dX0_put_13 : decode cX0_put 13 = .ok (.ifCond .eq 11, 3) := dk_153 0 11 (dk_at dksX0_put_0 13 rfl rfl)
theorem dX0_put_16 : decode cX0_put 16 = .ok (.aload_n 0, 1) := dk_42 (dk_at dksX0_put_0 16 rfl rfl)
theorem dX0_put_17 : decode cX0_put 17 = .ok (.iload_n 3, 1) := dk_29 (dk_at dksX0_put_0 17 rfl rfl)
theorem dX0_put_18 : decode cX0_put 18 = .ok (.invokevirtual 260, 3) := dk_182 1 4 (dk_at dksX0_put_0 18 rfl rfl)
theorem dX0_put_21 : decode cX0_put 21 = .ok (.ifCond .ne 9, 3) := dk_154 0 9 (dk_at dksX0_put_0 21 rfl rfl)
theorem dX0_put_24 : decode cX0_put 24 = .ok (.aload_n 0, 1) := dk_42 (dk_at dksX0_put_1 0 rfl rfl)
theorem dX0_put_25 : decode cX0_put 25 = .ok (.iconst 2, 1) := dk_5 (dk_at dksX0_put_1 1 rfl rfl)
theorem dX0_put_26 : decode cX0_put 26 = .ok (.invokevirtual 150, 3) := dk_182 0 150 (dk_at dksX0_put_1 2 rfl rfl)
theorem dX0_put_29 : decode cX0_put 29 = .ok (.ireturn, 1) := dk_172 (dk_at dksX0_put_1 5 rfl rfl)
theorem dX0_put_30 : decode cX0_put 30 = .ok (.iload_n 1, 1) := dk_27 (dk_at dksX0_put_1 6 rfl rfl)
theorem dX0_put_31 : decode cX0_put 31 = .ok (.iload_n 2, 1) := dk_28 (dk_at dksX0_put_1 7 rfl rfl)
theorem dX0_put_32 : decode cX0_put 32 = .ok (.if_icmp .ge 20, 3) := dk_162 0 20 (dk_at dksX0_put_1 8 rfl rfl)
theorem dX0_put_35 : decode cX0_put 35 = .ok (.iload 4, 2) := dk_21 4 (dk_at dksX0_put_1 11 rfl rfl)
theorem dX0_put_37 : decode cX0_put 37 = .ok (.ifCond .lt 15, 3) := dk_155 0 15 (dk_at dksX0_put_1 13 rfl rfl)
theorem dX0_put_40 : decode cX0_put 40 = .ok (.iload 4, 2) := dk_21 4 (dk_at dksX0_put_1 16 rfl rfl)
theorem dX0_put_42 : decode cX0_put 42 = .ok (.aload_n 0, 1) := dk_42 (dk_at dksX0_put_1 18 rfl rfl)
theorem dX0_put_43 : decode cX0_put 43 = .ok (.getfield 30, 3) := dk_180 0 30 (dk_at dksX0_put_1 19 rfl rfl)
theorem dX0_put_46 : decode cX0_put 46 = .ok (.getfield 253, 3) := dk_180 0 253 (dk_at dksX0_put_2 0 rfl rfl)
theorem dX0_put_49 : decode cX0_put 49 = .ok (.if_icmp .lt 9, 3) := dk_161 0 9 (dk_at dksX0_put_2 3 rfl rfl)
theorem dX0_put_52 : decode cX0_put 52 = .ok (.aload_n 0, 1) := dk_42 (dk_at dksX0_put_2 6 rfl rfl)
theorem dX0_put_53 : decode cX0_put 53 = .ok (.iconst 5, 1) := dk_8 (dk_at dksX0_put_2 7 rfl rfl)
theorem dX0_put_54 : decode cX0_put 54 = .ok (.invokevirtual 150, 3) := dk_182 0 150 (dk_at dksX0_put_2 8 rfl rfl)
theorem dX0_put_57 : decode cX0_put 57 = .ok (.ireturn, 1) := dk_172 (dk_at dksX0_put_2 11 rfl rfl)
theorem dX0_put_58 : decode cX0_put 58 = .ok (.aload_n 0, 1) := dk_42 (dk_at dksX0_put_2 12 rfl rfl)
theorem dX0_put_59 : decode cX0_put 59 = .ok (.getfield 30, 3) := dk_180 0 30 (dk_at dksX0_put_2 13 rfl rfl)
theorem dX0_put_62 : decode cX0_put 62 = .ok (.iload_n 1, 1) := dk_27 (dk_at dksX0_put_2 16 rfl rfl)
theorem dX0_put_63 : decode cX0_put 63 = .ok (.iload_n 2, 1) := dk_28 (dk_at dksX0_put_2 17 rfl rfl)
theorem dX0_put_64 : decode cX0_put 64 = .ok (.iload_n 3, 1) := dk_29 (dk_at dksX0_put_2 18 rfl rfl)
theorem dX0_put_65 : decode cX0_put 65 = .ok (.iload 4, 2) := dk_21 4 (dk_at dksX0_put_2 19 rfl rfl)
theorem dX0_put_67 : decode cX0_put 67 = .ok (.invokevirtual 263, 3) := dk_182 1 7 (dk_at dksX0_put_2 21 rfl rfl)
theorem dX0_put_70 : decode cX0_put 70 = .ok (.aload_n 0, 1) := dk_42 (dk_at dksX0_put_3 0 rfl rfl)
theorem dX0_put_71 : decode cX0_put 71 = .ok (.iconst 0, 1) := dk_3 (dk_at dksX0_put_3 1 rfl rfl)
theorem dX0_put_72 : decode cX0_put 72 = .ok (.invokevirtual 150, 3) := dk_182 0 150 (dk_at dksX0_put_3 2 rfl rfl)
theorem dX0_put_75 : decode cX0_put 75 = .ok (.ireturn, 1) := dk_172 (dk_at dksX0_put_3 5 rfl rfl)
abbrev cX0_bracket : ByteArray := prog_1_method_30_code
def dkwX0_bracket_3 : List UInt8 := [42, 180, 0, 63, 182, 1, 22, 182, 0, 235, 172]
abbrev dktX0_bracket_3 : List UInt8 := dkwX0_bracket_3 ++ []
def dkwX0_bracket_2 : List UInt8 := [42, 180, 0, 30, 42, 180, 0, 56, 42, 180, 0, 60, 42, 180, 0, 63, 182, 1, 18, 42, 42, 180, 0, 30]
abbrev dktX0_bracket_2 : List UInt8 := dkwX0_bracket_2 ++ dktX0_bracket_3
def dkwX0_bracket_1 : List UInt8 := [42, 180, 0, 30, 27, 42, 180, 0, 56, 182, 1, 14, 42, 180, 0, 30, 28, 42, 180, 0, 60, 182, 1, 14]
abbrev dktX0_bracket_1 : List UInt8 := dkwX0_bracket_1 ++ dktX0_bracket_2
def dkwX0_bracket_0 : List UInt8 := [42, 27, 133, 182, 1, 10, 153, 0, 12, 42, 28, 133, 182, 1, 10, 154, 0, 9, 42, 5, 182, 0, 171, 172]
abbrev dktX0_bracket_0 : List UInt8 := dkwX0_bracket_0 ++ dktX0_bracket_1
theorem dksX0_bracket_0 : cX0_bracket.data.toList.drop 0 = dktX0_bracket_0 := by decide +kernel
theorem dksX0_bracket_1 : cX0_bracket.data.toList.drop 24 = dktX0_bracket_1 := dk_seg dksX0_bracket_0 24 rfl rfl
theorem dksX0_bracket_2 : cX0_bracket.data.toList.drop 48 = dktX0_bracket_2 := dk_seg dksX0_bracket_1 24 rfl rfl
theorem dksX0_bracket_3 : cX0_bracket.data.toList.drop 72 = dktX0_bracket_3 := dk_seg dksX0_bracket_2 24 rfl rfl
theorem dX0_bracket_0 : decode cX0_bracket 0 = .ok (.aload_n 0, 1) := dk_42 (dk_at dksX0_bracket_0 0 rfl rfl)
theorem dX0_bracket_1 : decode cX0_bracket 1 = .ok (.iload_n 1, 1) := dk_27 (dk_at dksX0_bracket_0 1 rfl rfl)
theorem dX0_bracket_2 : decode cX0_bracket 2 = .ok (.i2l, 1) := dk_133 (dk_at dksX0_bracket_0 2 rfl rfl)
theorem dX0_bracket_3 : decode cX0_bracket 3 = .ok (.invokevirtual 266, 3) := dk_182 1 10 (dk_at dksX0_bracket_0 3 rfl rfl)
theorem dX0_bracket_6 : decode cX0_bracket 6 = .ok (.ifCond .eq 12, 3) := dk_153 0 12 (dk_at dksX0_bracket_0 6 rfl rfl)
theorem dX0_bracket_9 : decode cX0_bracket 9 = .ok (.aload_n 0, 1) := dk_42 (dk_at dksX0_bracket_0 9 rfl rfl)
theorem dX0_bracket_10 : decode cX0_bracket 10 = .ok (.iload_n 2, 1) := dk_28 (dk_at dksX0_bracket_0 10 rfl rfl)
theorem dX0_bracket_11 : decode cX0_bracket 11 = .ok (.i2l, 1) := dk_133 (dk_at dksX0_bracket_0 11 rfl rfl)
theorem dX0_bracket_12 : decode cX0_bracket 12 = .ok (.invokevirtual 266, 3) := dk_182 1 10 (dk_at dksX0_bracket_0 12 rfl rfl)
theorem dX0_bracket_15 : decode cX0_bracket 15 = .ok (.ifCond .ne 9, 3) := dk_154 0 9 (dk_at dksX0_bracket_0 15 rfl rfl)
theorem dX0_bracket_18 : decode cX0_bracket 18 = .ok (.aload_n 0, 1) := dk_42 (dk_at dksX0_bracket_0 18 rfl rfl)
theorem dX0_bracket_19 : decode cX0_bracket 19 = .ok (.iconst 2, 1) := dk_5 (dk_at dksX0_bracket_0 19 rfl rfl)
theorem dX0_bracket_20 : decode cX0_bracket 20 = .ok (.invokevirtual 171, 3) := dk_182 0 171 (dk_at dksX0_bracket_0 20 rfl rfl)
theorem dX0_bracket_23 : decode cX0_bracket 23 = .ok (.ireturn, 1) := dk_172 (dk_at dksX0_bracket_0 23 rfl rfl)
theorem dX0_bracket_24 : decode cX0_bracket 24 = .ok (.aload_n 0, 1) := dk_42 (dk_at dksX0_bracket_1 0 rfl rfl)
theorem dX0_bracket_25 : decode cX0_bracket 25 = .ok (.getfield 30, 3) := dk_180 0 30 (dk_at dksX0_bracket_1 1 rfl rfl)
theorem dX0_bracket_28 : decode cX0_bracket 28 = .ok (.iload_n 1, 1) := dk_27 (dk_at dksX0_bracket_1 4 rfl rfl)
theorem dX0_bracket_29 : decode cX0_bracket 29 = .ok (.aload_n 0, 1) := dk_42 (dk_at dksX0_bracket_1 5 rfl rfl)
theorem dX0_bracket_30 : decode cX0_bracket 30 = .ok (.getfield 56, 3) := dk_180 0 56 (dk_at dksX0_bracket_1 6 rfl rfl)
theorem dX0_bracket_33 : decode cX0_bracket 33 = .ok (.invokevirtual 270, 3) := dk_182 1 14 (dk_at dksX0_bracket_1 9 rfl rfl)
theorem dX0_bracket_36 : decode cX0_bracket 36 = .ok (.aload_n 0, 1) := dk_42 (dk_at dksX0_bracket_1 12 rfl rfl)
theorem dX0_bracket_37 : decode cX0_bracket 37 = .ok (.getfield 30, 3) := dk_180 0 30 (dk_at dksX0_bracket_1 13 rfl rfl)
theorem dX0_bracket_40 : decode cX0_bracket 40 = .ok (.iload_n 2, 1) := dk_28 (dk_at dksX0_bracket_1 16 rfl rfl)
theorem dX0_bracket_41 : decode cX0_bracket 41 = .ok (.aload_n 0, 1) := dk_42 (dk_at dksX0_bracket_1 17 rfl rfl)
theorem dX0_bracket_42 : decode cX0_bracket 42 = .ok (.getfield 60, 3) := dk_180 0 60 (dk_at dksX0_bracket_1 18 rfl rfl)
theorem dX0_bracket_45 : decode cX0_bracket 45 = .ok (.invokevirtual 270, 3) := dk_182 1 14 (dk_at dksX0_bracket_1 21 rfl rfl)
theorem dX0_bracket_48 : decode cX0_bracket 48 = .ok (.aload_n 0, 1) := dk_42 (dk_at dksX0_bracket_2 0 rfl rfl)
theorem dX0_bracket_49 : decode cX0_bracket 49 = .ok (.getfield 30, 3) := dk_180 0 30 (dk_at dksX0_bracket_2 1 rfl rfl)
theorem dX0_bracket_52 : decode cX0_bracket 52 = .ok (.aload_n 0, 1) := dk_42 (dk_at dksX0_bracket_2 4 rfl rfl)
theorem dX0_bracket_53 : decode cX0_bracket 53 = .ok (.getfield 56, 3) := dk_180 0 56 (dk_at dksX0_bracket_2 5 rfl rfl)
theorem dX0_bracket_56 : decode cX0_bracket 56 = .ok (.aload_n 0, 1) := dk_42 (dk_at dksX0_bracket_2 8 rfl rfl)
theorem dX0_bracket_57 : decode cX0_bracket 57 = .ok (.getfield 60, 3) := dk_180 0 60 (dk_at dksX0_bracket_2 9 rfl rfl)
theorem dX0_bracket_60 : decode cX0_bracket 60 = .ok (.aload_n 0, 1) := dk_42 (dk_at dksX0_bracket_2 12 rfl rfl)
theorem dX0_bracket_61 : decode cX0_bracket 61 = .ok (.getfield 63, 3) := dk_180 0 63 (dk_at dksX0_bracket_2 13 rfl rfl)
theorem dX0_bracket_64 : decode cX0_bracket 64 = .ok (.invokevirtual 274, 3) := dk_182 1 18 (dk_at dksX0_bracket_2 16 rfl rfl)
theorem dX0_bracket_67 : decode cX0_bracket 67 = .ok (.aload_n 0, 1) := dk_42 (dk_at dksX0_bracket_2 19 rfl rfl)
theorem dX0_bracket_68 : decode cX0_bracket 68 = .ok (.aload_n 0, 1) := dk_42 (dk_at dksX0_bracket_2 20 rfl rfl)
theorem dX0_bracket_69 : decode cX0_bracket 69 = .ok (.getfield 30, 3) := dk_180 0 30 (dk_at dksX0_bracket_2 21 rfl rfl)
theorem dX0_bracket_72 : decode cX0_bracket 72 = .ok (.aload_n 0, 1) := dk_42 (dk_at dksX0_bracket_3 0 rfl rfl)
theorem dX0_bracket_73 : decode cX0_bracket 73 = .ok (.getfield 63, 3) := dk_180 0 63 (dk_at dksX0_bracket_3 1 rfl rfl)
theorem dX0_bracket_76 : decode cX0_bracket 76 = .ok (.invokevirtual 278, 3) := dk_182 1 22 (dk_at dksX0_bracket_3 4 rfl rfl)
theorem dX0_bracket_79 : decode cX0_bracket 79 = .ok (.invokevirtual 235, 3) := dk_182 0 235 (dk_at dksX0_bracket_3 7 rfl rfl)
theorem dX0_bracket_82 : decode cX0_bracket 82 = .ok (.ireturn, 1) := dk_172 (dk_at dksX0_bracket_3 10 rfl rfl)
abbrev cX0_isVector : ByteArray := prog_1_method_18_code
def dkwX0_isVector_1 : List UInt8 := [172]
abbrev dktX0_isVector_1 : List UInt8 := dkwX0_isVector_1 ++ []
def dkwX0_isVector_0 : List UInt8 := [31, 9, 148, 155, 0, 20, 31, 42, 180, 0, 30, 182, 0, 199, 133, 148, 156, 0, 7, 4, 167, 0, 4, 3]
abbrev dktX0_isVector_0 : List UInt8 := dkwX0_isVector_0 ++ dktX0_isVector_1
theorem dksX0_isVector_0 : cX0_isVector.data.toList.drop 0 = dktX0_isVector_0 := by decide +kernel
theorem dksX0_isVector_1 : cX0_isVector.data.toList.drop 24 = dktX0_isVector_1 := dk_seg dksX0_isVector_0 24 rfl rfl
theorem dX0_isVector_0 : decode cX0_isVector 0 = .ok (.lload_n 1, 1) := dk_31 (dk_at dksX0_isVector_0 0 rfl rfl)
theorem dX0_isVector_1 : decode cX0_isVector 1 = .ok (.lconst 0, 1) := dk_9 (dk_at dksX0_isVector_0 1 rfl rfl)
theorem dX0_isVector_2 : decode cX0_isVector 2 = .ok (.lcmp, 1) := dk_148 (dk_at dksX0_isVector_0 2 rfl rfl)
theorem dX0_isVector_3 : decode cX0_isVector 3 = .ok (.ifCond .lt 20, 3) := dk_155 0 20 (dk_at dksX0_isVector_0 3 rfl rfl)
theorem dX0_isVector_6 : decode cX0_isVector 6 = .ok (.lload_n 1, 1) := dk_31 (dk_at dksX0_isVector_0 6 rfl rfl)
theorem dX0_isVector_7 : decode cX0_isVector 7 = .ok (.aload_n 0, 1) := dk_42 (dk_at dksX0_isVector_0 7 rfl rfl)
theorem dX0_isVector_8 : decode cX0_isVector 8 = .ok (.getfield 30, 3) := dk_180 0 30 (dk_at dksX0_isVector_0 8 rfl rfl)
theorem dX0_isVector_11 : decode cX0_isVector 11 = .ok (.invokevirtual 199, 3) := dk_182 0 199 (dk_at dksX0_isVector_0 11 rfl rfl)
theorem dX0_isVector_14 : decode cX0_isVector 14 = .ok (.i2l, 1) := dk_133 (dk_at dksX0_isVector_0 14 rfl rfl)
theorem dX0_isVector_15 : decode cX0_isVector 15 = .ok (.lcmp, 1) := dk_148 (dk_at dksX0_isVector_0 15 rfl rfl)
theorem dX0_isVector_16 : decode cX0_isVector 16 = .ok (.ifCond .ge 7, 3) := dk_156 0 7 (dk_at dksX0_isVector_0 16 rfl rfl)
theorem dX0_isVector_19 : decode cX0_isVector 19 = .ok (.iconst 1, 1) := dk_4 (dk_at dksX0_isVector_0 19 rfl rfl)
theorem dX0_isVector_20 : decode cX0_isVector 20 = .ok (.goto 4, 3) := dk_167 0 4 (dk_at dksX0_isVector_0 20 rfl rfl)
theorem dX0_isVector_23 : decode cX0_isVector 23 = .ok (.iconst 0, 1) := dk_3 (dk_at dksX0_isVector_0 23 rfl rfl)
theorem dX0_isVector_24 : decode cX0_isVector 24 = .ok (.ireturn, 1) := dk_172 (dk_at dksX0_isVector_1 0 rfl rfl)
abbrev cX0_lawful : ByteArray := prog_1_method_33_code
def dkwX0_lawful_0 : List UInt8 := [42, 42, 42, 180, 0, 30, 182, 1, 33, 153, 0, 7, 4, 167, 0, 4, 3, 182, 0, 235, 172]
abbrev dktX0_lawful_0 : List UInt8 := dkwX0_lawful_0 ++ []
theorem dksX0_lawful_0 : cX0_lawful.data.toList.drop 0 = dktX0_lawful_0 := by decide +kernel
theorem dX0_lawful_0 : decode cX0_lawful 0 = .ok (.aload_n 0, 1) := dk_42 (dk_at dksX0_lawful_0 0 rfl rfl)
theorem dX0_lawful_1 : decode cX0_lawful 1 = .ok (.aload_n 0, 1) := dk_42 (dk_at dksX0_lawful_0 1 rfl rfl)
theorem dX0_lawful_2 : decode cX0_lawful 2 = .ok (.aload_n 0, 1) := dk_42 (dk_at dksX0_lawful_0 2 rfl rfl)
theorem dX0_lawful_3 : decode cX0_lawful 3 = .ok (.getfield 30, 3) := dk_180 0 30 (dk_at dksX0_lawful_0 3 rfl rfl)
theorem dX0_lawful_6 : decode cX0_lawful 6 = .ok (.invokevirtual 289, 3) := dk_182 1 33 (dk_at dksX0_lawful_0 6 rfl rfl)
theorem dX0_lawful_9 : decode cX0_lawful 9 = .ok (.ifCond .eq 7, 3) := dk_153 0 7 (dk_at dksX0_lawful_0 9 rfl rfl)
theorem dX0_lawful_12 : decode cX0_lawful 12 = .ok (.iconst 1, 1) := dk_4 (dk_at dksX0_lawful_0 12 rfl rfl)
theorem dX0_lawful_13 : decode cX0_lawful 13 = .ok (.goto 4, 3) := dk_167 0 4 (dk_at dksX0_lawful_0 13 rfl rfl)
theorem dX0_lawful_16 : decode cX0_lawful 16 = .ok (.iconst 0, 1) := dk_3 (dk_at dksX0_lawful_0 16 rfl rfl)
theorem dX0_lawful_17 : decode cX0_lawful 17 = .ok (.invokevirtual 235, 3) := dk_182 0 235 (dk_at dksX0_lawful_0 17 rfl rfl)
theorem dX0_lawful_20 : decode cX0_lawful 20 = .ok (.ireturn, 1) := dk_172 (dk_at dksX0_lawful_0 20 rfl rfl)
abbrev cX0_isLawful : ByteArray := prog_1_method_32_code
def dkwX0_isLawful_3 : List UInt8 := [79, 3, 172, 132, 4, 1, 167, 255, 206, 132, 3, 1, 167, 255, 187, 132, 2, 1, 167, 255, 169, 4, 172]
abbrev dktX0_isLawful_3 : List UInt8 := dkwX0_isLawful_3 ++ []
def dkwX0_isLawful_2 : List UInt8 := [167, 0, 27, 42, 180, 0, 69, 3, 28, 79, 42, 180, 0, 69, 4, 29, 79, 42, 180, 0, 69, 5, 21, 4]
abbrev dktX0_isLawful_2 : List UInt8 := dkwX0_isLawful_2 ++ dktX0_isLawful_3
def dkwX0_isLawful_1 : List UInt8 := [96, 54, 4, 21, 4, 43, 180, 0, 196, 162, 0, 47, 43, 28, 29, 21, 4, 184, 1, 29, 153, 0, 6]
abbrev dktX0_isLawful_1 : List UInt8 := dkwX0_isLawful_1 ++ dktX0_isLawful_2
def dkwX0_isLawful_0 : List UInt8 := [3, 61, 28, 43, 180, 0, 196, 162, 0, 85, 28, 4, 96, 62, 29, 43, 180, 0, 196, 162, 0, 67, 29, 4]
abbrev dktX0_isLawful_0 : List UInt8 := dkwX0_isLawful_0 ++ dktX0_isLawful_1
theorem dksX0_isLawful_0 : cX0_isLawful.data.toList.drop 0 = dktX0_isLawful_0 := by decide +kernel
theorem dksX0_isLawful_1 : cX0_isLawful.data.toList.drop 24 = dktX0_isLawful_1 := dk_seg dksX0_isLawful_0 24 rfl rfl
theorem dksX0_isLawful_2 : cX0_isLawful.data.toList.drop 47 = dktX0_isLawful_2 := dk_seg dksX0_isLawful_1 23 rfl rfl
theorem dksX0_isLawful_3 : cX0_isLawful.data.toList.drop 71 = dktX0_isLawful_3 := dk_seg dksX0_isLawful_2 24 rfl rfl
theorem dX0_isLawful_0 : decode cX0_isLawful 0 = .ok (.iconst 0, 1) := dk_3 (dk_at dksX0_isLawful_0 0 rfl rfl)
theorem dX0_isLawful_1 : decode cX0_isLawful 1 = .ok (.istore_n 2, 1) := dk_61 (dk_at dksX0_isLawful_0 1 rfl rfl)
theorem dX0_isLawful_2 : decode cX0_isLawful 2 = .ok (.iload_n 2, 1) := dk_28 (dk_at dksX0_isLawful_0 2 rfl rfl)
theorem dX0_isLawful_3 : decode cX0_isLawful 3 = .ok (.aload_n 1, 1) := dk_43 (dk_at dksX0_isLawful_0 3 rfl rfl)
theorem dX0_isLawful_4 : decode cX0_isLawful 4 = .ok (.getfield 196, 3) := dk_180 0 196 (dk_at dksX0_isLawful_0 4 rfl rfl)
theorem dX0_isLawful_7 : decode cX0_isLawful 7 = .ok (.if_icmp .ge 85, 3) := dk_162 0 85 (dk_at dksX0_isLawful_0 7 rfl rfl)
theorem dX0_isLawful_10 : decode cX0_isLawful 10 = .ok (.iload_n 2, 1) := dk_28 (dk_at dksX0_isLawful_0 10 rfl rfl)
theorem dX0_isLawful_11 : decode cX0_isLawful 11 = .ok (.iconst 1, 1) := dk_4 (dk_at dksX0_isLawful_0 11 rfl rfl)
theorem dX0_isLawful_12 : decode cX0_isLawful 12 = .ok (.iadd, 1) := dk_96 (dk_at dksX0_isLawful_0 12 rfl rfl)
theorem dX0_isLawful_13 : decode cX0_isLawful 13 = .ok (.istore_n 3, 1) := dk_62 (dk_at dksX0_isLawful_0 13 rfl rfl)
theorem dX0_isLawful_14 : decode cX0_isLawful 14 = .ok (.iload_n 3, 1) := dk_29 (dk_at dksX0_isLawful_0 14 rfl rfl)
theorem dX0_isLawful_15 : decode cX0_isLawful 15 = .ok (.aload_n 1, 1) := dk_43 (dk_at dksX0_isLawful_0 15 rfl rfl)
theorem dX0_isLawful_16 : decode cX0_isLawful 16 = .ok (.getfield 196, 3) := dk_180 0 196 (dk_at dksX0_isLawful_0 16 rfl rfl)
theorem dX0_isLawful_19 : decode cX0_isLawful 19 = .ok (.if_icmp .ge 67, 3) := dk_162 0 67 (dk_at dksX0_isLawful_0 19 rfl rfl)
theorem dX0_isLawful_22 : decode cX0_isLawful 22 = .ok (.iload_n 3, 1) := dk_29 (dk_at dksX0_isLawful_0 22 rfl rfl)
theorem dX0_isLawful_23 : decode cX0_isLawful 23 = .ok (.iconst 1, 1) := dk_4 (dk_at dksX0_isLawful_0 23 rfl rfl)
theorem dX0_isLawful_24 : decode cX0_isLawful 24 = .ok (.iadd, 1) := dk_96 (dk_at dksX0_isLawful_1 0 rfl rfl)
theorem dX0_isLawful_25 : decode cX0_isLawful 25 = .ok (.istore 4, 2) := dk_54 4 (dk_at dksX0_isLawful_1 1 rfl rfl)
theorem dX0_isLawful_27 : decode cX0_isLawful 27 = .ok (.iload 4, 2) := dk_21 4 (dk_at dksX0_isLawful_1 3 rfl rfl)
theorem dX0_isLawful_29 : decode cX0_isLawful 29 = .ok (.aload_n 1, 1) := dk_43 (dk_at dksX0_isLawful_1 5 rfl rfl)
theorem dX0_isLawful_30 : decode cX0_isLawful 30 = .ok (.getfield 196, 3) := dk_180 0 196 (dk_at dksX0_isLawful_1 6 rfl rfl)
theorem dX0_isLawful_33 : decode cX0_isLawful 33 = .ok (.if_icmp .ge 47, 3) := dk_162 0 47 (dk_at dksX0_isLawful_1 9 rfl rfl)
theorem dX0_isLawful_36 : decode cX0_isLawful 36 = .ok (.aload_n 1, 1) := dk_43 (dk_at dksX0_isLawful_1 12 rfl rfl)
theorem dX0_isLawful_37 : decode cX0_isLawful 37 = .ok (.iload_n 2, 1) := dk_28 (dk_at dksX0_isLawful_1 13 rfl rfl)
theorem dX0_isLawful_38 : decode cX0_isLawful 38 = .ok (.iload_n 3, 1) := dk_29 (dk_at dksX0_isLawful_1 14 rfl rfl)
theorem dX0_isLawful_39 : decode cX0_isLawful 39 = .ok (.iload 4, 2) := dk_21 4 (dk_at dksX0_isLawful_1 15 rfl rfl)
theorem dX0_isLawful_41 : decode cX0_isLawful 41 = .ok (.invokestatic 285, 3) := dk_184 1 29 (dk_at dksX0_isLawful_1 17 rfl rfl)
theorem dX0_isLawful_44 : decode cX0_isLawful 44 = .ok (.ifCond .eq 6, 3) := dk_153 0 6 (dk_at dksX0_isLawful_1 20 rfl rfl)
theorem dX0_isLawful_47 : decode cX0_isLawful 47 = .ok (.goto 27, 3) := dk_167 0 27 (dk_at dksX0_isLawful_2 0 rfl rfl)
theorem dX0_isLawful_50 : decode cX0_isLawful 50 = .ok (.aload_n 0, 1) := dk_42 (dk_at dksX0_isLawful_2 3 rfl rfl)
theorem dX0_isLawful_51 : decode cX0_isLawful 51 = .ok (.getfield 69, 3) := dk_180 0 69 (dk_at dksX0_isLawful_2 4 rfl rfl)
theorem dX0_isLawful_54 : decode cX0_isLawful 54 = .ok (.iconst 0, 1) := dk_3 (dk_at dksX0_isLawful_2 7 rfl rfl)
theorem dX0_isLawful_55 : decode cX0_isLawful 55 = .ok (.iload_n 2, 1) := dk_28 (dk_at dksX0_isLawful_2 8 rfl rfl)
theorem dX0_isLawful_56 : decode cX0_isLawful 56 = .ok (.iastore, 1) := dk_79 (dk_at dksX0_isLawful_2 9 rfl rfl)
theorem dX0_isLawful_57 : decode cX0_isLawful 57 = .ok (.aload_n 0, 1) := dk_42 (dk_at dksX0_isLawful_2 10 rfl rfl)
theorem dX0_isLawful_58 : decode cX0_isLawful 58 = .ok (.getfield 69, 3) := dk_180 0 69 (dk_at dksX0_isLawful_2 11 rfl rfl)
theorem dX0_isLawful_61 : decode cX0_isLawful 61 = .ok (.iconst 1, 1) := dk_4 (dk_at dksX0_isLawful_2 14 rfl rfl)
theorem dX0_isLawful_62 : decode cX0_isLawful 62 = .ok (.iload_n 3, 1) := dk_29 (dk_at dksX0_isLawful_2 15 rfl rfl)
theorem dX0_isLawful_63 : decode cX0_isLawful 63 = .ok (.iastore, 1) := dk_79 (dk_at dksX0_isLawful_2 16 rfl rfl)
theorem dX0_isLawful_64 : decode cX0_isLawful 64 = .ok (.aload_n 0, 1) := dk_42 (dk_at dksX0_isLawful_2 17 rfl rfl)
theorem dX0_isLawful_65 : decode cX0_isLawful 65 = .ok (.getfield 69, 3) := dk_180 0 69 (dk_at dksX0_isLawful_2 18 rfl rfl)
theorem dX0_isLawful_68 : decode cX0_isLawful 68 = .ok (.iconst 2, 1) := dk_5 (dk_at dksX0_isLawful_2 21 rfl rfl)
theorem dX0_isLawful_69 : decode cX0_isLawful 69 = .ok (.iload 4, 2) := dk_21 4 (dk_at dksX0_isLawful_2 22 rfl rfl)
theorem dX0_isLawful_71 : decode cX0_isLawful 71 = .ok (.iastore, 1) := dk_79 (dk_at dksX0_isLawful_3 0 rfl rfl)
theorem dX0_isLawful_72 : decode cX0_isLawful 72 = .ok (.iconst 0, 1) := dk_3 (dk_at dksX0_isLawful_3 1 rfl rfl)
theorem dX0_isLawful_73 : decode cX0_isLawful 73 = .ok (.ireturn, 1) := dk_172 (dk_at dksX0_isLawful_3 2 rfl rfl)
theorem dX0_isLawful_74 : decode cX0_isLawful 74 = .ok (.iinc 4 1, 3) := dk_132 4 1 (dk_at dksX0_isLawful_3 3 rfl rfl)
theorem dX0_isLawful_77 : decode cX0_isLawful 77 = .ok (.goto (-50), 3) := dk_167 255 206 (dk_at dksX0_isLawful_3 6 rfl rfl)
theorem dX0_isLawful_80 : decode cX0_isLawful 80 = .ok (.iinc 3 1, 3) := dk_132 3 1 (dk_at dksX0_isLawful_3 9 rfl rfl)
theorem dX0_isLawful_83 : decode cX0_isLawful 83 = .ok (.goto (-69), 3) := dk_167 255 187 (dk_at dksX0_isLawful_3 12 rfl rfl)
theorem dX0_isLawful_86 : decode cX0_isLawful 86 = .ok (.iinc 2 1, 3) := dk_132 2 1 (dk_at dksX0_isLawful_3 15 rfl rfl)
theorem dX0_isLawful_89 : decode cX0_isLawful 89 = .ok (.goto (-87), 3) := dk_167 255 169 (dk_at dksX0_isLawful_3 18 rfl rfl)
theorem dX0_isLawful_92 : decode cX0_isLawful 92 = .ok (.iconst 1, 1) := dk_4 (dk_at dksX0_isLawful_3 21 rfl rfl)
theorem dX0_isLawful_93 : decode cX0_isLawful 93 = .ok (.ireturn, 1) := dk_172 (dk_at dksX0_isLawful_3 22 rfl rfl)
abbrev cX0_keepsLaw : ByteArray := prog_1_method_31_code
def dkwX0_keepsLaw_5 : List UInt8 := [153, 0, 5, 3, 172, 132, 4, 1, 167, 255, 133, 4, 172]
abbrev dktX0_keepsLaw_5 : List UInt8 := dkwX0_keepsLaw_5 ++ []
def dkwX0_keepsLaw_4 : List UInt8 := [21, 6, 50, 21, 4, 46, 104, 96, 96, 54, 5, 132, 6, 1, 167, 255, 165, 42, 21, 5, 182, 1, 26]
abbrev dktX0_keepsLaw_4 : List UInt8 := dkwX0_keepsLaw_4 ++ dktX0_keepsLaw_5
def dkwX0_keepsLaw_3 : List UInt8 := [50, 21, 4, 46, 104, 96, 42, 180, 1, 0, 27, 50, 28, 50, 21, 6, 46, 42, 180, 1, 0, 29, 50]
abbrev dktX0_keepsLaw_3 : List UInt8 := dkwX0_keepsLaw_3 ++ dktX0_keepsLaw_4
def dkwX0_keepsLaw_2 : List UInt8 := [50, 21, 4, 46, 104, 42, 180, 1, 0, 29, 50, 27, 50, 21, 6, 46, 42, 180, 1, 0, 28, 50, 21, 6]
abbrev dktX0_keepsLaw_2 : List UInt8 := dkwX0_keepsLaw_2 ++ dktX0_keepsLaw_3
def dkwX0_keepsLaw_1 : List UInt8 := [162, 0, 88, 21, 5, 42, 180, 1, 0, 28, 50, 29, 50, 21, 6, 46, 42, 180, 1, 0, 27, 50, 21, 6]
abbrev dktX0_keepsLaw_1 : List UInt8 := dkwX0_keepsLaw_1 ++ dktX0_keepsLaw_2
def dkwX0_keepsLaw_0 : List UInt8 := [3, 54, 4, 21, 4, 42, 180, 0, 196, 162, 0, 120, 3, 54, 5, 3, 54, 6, 21, 6, 42, 180, 0, 196]
abbrev dktX0_keepsLaw_0 : List UInt8 := dkwX0_keepsLaw_0 ++ dktX0_keepsLaw_1
theorem dksX0_keepsLaw_0 : cX0_keepsLaw.data.toList.drop 0 = dktX0_keepsLaw_0 := by decide +kernel
theorem dksX0_keepsLaw_1 : cX0_keepsLaw.data.toList.drop 24 = dktX0_keepsLaw_1 := dk_seg dksX0_keepsLaw_0 24 rfl rfl
theorem dksX0_keepsLaw_2 : cX0_keepsLaw.data.toList.drop 48 = dktX0_keepsLaw_2 := dk_seg dksX0_keepsLaw_1 24 rfl rfl
theorem dksX0_keepsLaw_3 : cX0_keepsLaw.data.toList.drop 72 = dktX0_keepsLaw_3 := dk_seg dksX0_keepsLaw_2 24 rfl rfl
theorem dksX0_keepsLaw_4 : cX0_keepsLaw.data.toList.drop 95 = dktX0_keepsLaw_4 := dk_seg dksX0_keepsLaw_3 23 rfl rfl
theorem dksX0_keepsLaw_5 : cX0_keepsLaw.data.toList.drop 118 = dktX0_keepsLaw_5 := dk_seg dksX0_keepsLaw_4 23 rfl rfl
theorem dX0_keepsLaw_0 : decode cX0_keepsLaw 0 = .ok (.iconst 0, 1) := dk_3 (dk_at dksX0_keepsLaw_0 0 rfl rfl)
theorem dX0_keepsLaw_1 : decode cX0_keepsLaw 1 = .ok (.istore 4, 2) := dk_54 4 (dk_at dksX0_keepsLaw_0 1 rfl rfl)
theorem dX0_keepsLaw_3 : decode cX0_keepsLaw 3 = .ok (.iload 4, 2) := dk_21 4 (dk_at dksX0_keepsLaw_0 3 rfl rfl)
theorem dX0_keepsLaw_5 : decode cX0_keepsLaw 5 = .ok (.aload_n 0, 1) := dk_42 (dk_at dksX0_keepsLaw_0 5 rfl rfl)
theorem dX0_keepsLaw_6 : decode cX0_keepsLaw 6 = .ok (.getfield 196, 3) := dk_180 0 196 (dk_at dksX0_keepsLaw_0 6 rfl rfl)
theorem dX0_keepsLaw_9 : decode cX0_keepsLaw 9 = .ok (.if_icmp .ge 120, 3) := dk_162 0 120 (dk_at dksX0_keepsLaw_0 9 rfl rfl)
theorem dX0_keepsLaw_12 : decode cX0_keepsLaw 12 = .ok (.iconst 0, 1) := dk_3 (dk_at dksX0_keepsLaw_0 12 rfl rfl)
theorem dX0_keepsLaw_13 : decode cX0_keepsLaw 13 = .ok (.istore 5, 2) := dk_54 5 (dk_at dksX0_keepsLaw_0 13 rfl rfl)
theorem dX0_keepsLaw_15 : decode cX0_keepsLaw 15 = .ok (.iconst 0, 1) := dk_3 (dk_at dksX0_keepsLaw_0 15 rfl rfl)
theorem dX0_keepsLaw_16 : decode cX0_keepsLaw 16 = .ok (.istore 6, 2) := dk_54 6 (dk_at dksX0_keepsLaw_0 16 rfl rfl)
theorem dX0_keepsLaw_18 : decode cX0_keepsLaw 18 = .ok (.iload 6, 2) := dk_21 6 (dk_at dksX0_keepsLaw_0 18 rfl rfl)
theorem dX0_keepsLaw_20 : decode cX0_keepsLaw 20 = .ok (.aload_n 0, 1) := dk_42 (dk_at dksX0_keepsLaw_0 20 rfl rfl)
theorem dX0_keepsLaw_21 : decode cX0_keepsLaw 21 = .ok (.getfield 196, 3) := dk_180 0 196 (dk_at dksX0_keepsLaw_0 21 rfl rfl)
theorem dX0_keepsLaw_24 : decode cX0_keepsLaw 24 = .ok (.if_icmp .ge 88, 3) := dk_162 0 88 (dk_at dksX0_keepsLaw_1 0 rfl rfl)
theorem dX0_keepsLaw_27 : decode cX0_keepsLaw 27 = .ok (.iload 5, 2) := dk_21 5 (dk_at dksX0_keepsLaw_1 3 rfl rfl)
theorem dX0_keepsLaw_29 : decode cX0_keepsLaw 29 = .ok (.aload_n 0, 1) := dk_42 (dk_at dksX0_keepsLaw_1 5 rfl rfl)
theorem dX0_keepsLaw_30 : decode cX0_keepsLaw 30 = .ok (.getfield 256, 3) := dk_180 1 0 (dk_at dksX0_keepsLaw_1 6 rfl rfl)
theorem dX0_keepsLaw_33 : decode cX0_keepsLaw 33 = .ok (.iload_n 2, 1) := dk_28 (dk_at dksX0_keepsLaw_1 9 rfl rfl)
theorem dX0_keepsLaw_34 : decode cX0_keepsLaw 34 = .ok (.aaload, 1) := dk_50 (dk_at dksX0_keepsLaw_1 10 rfl rfl)
theorem dX0_keepsLaw_35 : decode cX0_keepsLaw 35 = .ok (.iload_n 3, 1) := dk_29 (dk_at dksX0_keepsLaw_1 11 rfl rfl)
theorem dX0_keepsLaw_36 : decode cX0_keepsLaw 36 = .ok (.aaload, 1) := dk_50 (dk_at dksX0_keepsLaw_1 12 rfl rfl)
theorem dX0_keepsLaw_37 : decode cX0_keepsLaw 37 = .ok (.iload 6, 2) := dk_21 6 (dk_at dksX0_keepsLaw_1 13 rfl rfl)
theorem dX0_keepsLaw_39 : decode cX0_keepsLaw 39 = .ok (.iaload, 1) := dk_46 (dk_at dksX0_keepsLaw_1 15 rfl rfl)
theorem dX0_keepsLaw_40 : decode cX0_keepsLaw 40 = .ok (.aload_n 0, 1) := dk_42 (dk_at dksX0_keepsLaw_1 16 rfl rfl)
theorem dX0_keepsLaw_41 : decode cX0_keepsLaw 41 = .ok (.getfield 256, 3) := dk_180 1 0 (dk_at dksX0_keepsLaw_1 17 rfl rfl)
theorem dX0_keepsLaw_44 : decode cX0_keepsLaw 44 = .ok (.iload_n 1, 1) := dk_27 (dk_at dksX0_keepsLaw_1 20 rfl rfl)
theorem dX0_keepsLaw_45 : decode cX0_keepsLaw 45 = .ok (.aaload, 1) := dk_50 (dk_at dksX0_keepsLaw_1 21 rfl rfl)
theorem dX0_keepsLaw_46 : decode cX0_keepsLaw 46 = .ok (.iload 6, 2) := dk_21 6 (dk_at dksX0_keepsLaw_1 22 rfl rfl)
theorem dX0_keepsLaw_48 : decode cX0_keepsLaw 48 = .ok (.aaload, 1) := dk_50 (dk_at dksX0_keepsLaw_2 0 rfl rfl)
theorem dX0_keepsLaw_49 : decode cX0_keepsLaw 49 = .ok (.iload 4, 2) := dk_21 4 (dk_at dksX0_keepsLaw_2 1 rfl rfl)
theorem dX0_keepsLaw_51 : decode cX0_keepsLaw 51 = .ok (.iaload, 1) := dk_46 (dk_at dksX0_keepsLaw_2 3 rfl rfl)
theorem dX0_keepsLaw_52 : decode cX0_keepsLaw 52 = .ok (.imul, 1) := dk_104 (dk_at dksX0_keepsLaw_2 4 rfl rfl)
theorem dX0_keepsLaw_53 : decode cX0_keepsLaw 53 = .ok (.aload_n 0, 1) := dk_42 (dk_at dksX0_keepsLaw_2 5 rfl rfl)
theorem dX0_keepsLaw_54 : decode cX0_keepsLaw 54 = .ok (.getfield 256, 3) := dk_180 1 0 (dk_at dksX0_keepsLaw_2 6 rfl rfl)
theorem dX0_keepsLaw_57 : decode cX0_keepsLaw 57 = .ok (.iload_n 3, 1) := dk_29 (dk_at dksX0_keepsLaw_2 9 rfl rfl)
theorem dX0_keepsLaw_58 : decode cX0_keepsLaw 58 = .ok (.aaload, 1) := dk_50 (dk_at dksX0_keepsLaw_2 10 rfl rfl)
theorem dX0_keepsLaw_59 : decode cX0_keepsLaw 59 = .ok (.iload_n 1, 1) := dk_27 (dk_at dksX0_keepsLaw_2 11 rfl rfl)
theorem dX0_keepsLaw_60 : decode cX0_keepsLaw 60 = .ok (.aaload, 1) := dk_50 (dk_at dksX0_keepsLaw_2 12 rfl rfl)
theorem dX0_keepsLaw_61 : decode cX0_keepsLaw 61 = .ok (.iload 6, 2) := dk_21 6 (dk_at dksX0_keepsLaw_2 13 rfl rfl)
theorem dX0_keepsLaw_63 : decode cX0_keepsLaw 63 = .ok (.iaload, 1) := dk_46 (dk_at dksX0_keepsLaw_2 15 rfl rfl)
theorem dX0_keepsLaw_64 : decode cX0_keepsLaw 64 = .ok (.aload_n 0, 1) := dk_42 (dk_at dksX0_keepsLaw_2 16 rfl rfl)
theorem dX0_keepsLaw_65 : decode cX0_keepsLaw 65 = .ok (.getfield 256, 3) := dk_180 1 0 (dk_at dksX0_keepsLaw_2 17 rfl rfl)
theorem dX0_keepsLaw_68 : decode cX0_keepsLaw 68 = .ok (.iload_n 2, 1) := dk_28 (dk_at dksX0_keepsLaw_2 20 rfl rfl)
theorem dX0_keepsLaw_69 : decode cX0_keepsLaw 69 = .ok (.aaload, 1) := dk_50 (dk_at dksX0_keepsLaw_2 21 rfl rfl)
theorem dX0_keepsLaw_70 : decode cX0_keepsLaw 70 = .ok (.iload 6, 2) := dk_21 6 (dk_at dksX0_keepsLaw_2 22 rfl rfl)
theorem dX0_keepsLaw_72 : decode cX0_keepsLaw 72 = .ok (.aaload, 1) := dk_50 (dk_at dksX0_keepsLaw_3 0 rfl rfl)
theorem dX0_keepsLaw_73 : decode cX0_keepsLaw 73 = .ok (.iload 4, 2) := dk_21 4 (dk_at dksX0_keepsLaw_3 1 rfl rfl)
theorem dX0_keepsLaw_75 : decode cX0_keepsLaw 75 = .ok (.iaload, 1) := dk_46 (dk_at dksX0_keepsLaw_3 3 rfl rfl)
theorem dX0_keepsLaw_76 : decode cX0_keepsLaw 76 = .ok (.imul, 1) := dk_104 (dk_at dksX0_keepsLaw_3 4 rfl rfl)
theorem dX0_keepsLaw_77 : decode cX0_keepsLaw 77 = .ok (.iadd, 1) := dk_96 (dk_at dksX0_keepsLaw_3 5 rfl rfl)
theorem dX0_keepsLaw_78 : decode cX0_keepsLaw 78 = .ok (.aload_n 0, 1) := dk_42 (dk_at dksX0_keepsLaw_3 6 rfl rfl)
theorem dX0_keepsLaw_79 : decode cX0_keepsLaw 79 = .ok (.getfield 256, 3) := dk_180 1 0 (dk_at dksX0_keepsLaw_3 7 rfl rfl)
theorem dX0_keepsLaw_82 : decode cX0_keepsLaw 82 = .ok (.iload_n 1, 1) := dk_27 (dk_at dksX0_keepsLaw_3 10 rfl rfl)
theorem dX0_keepsLaw_83 : decode cX0_keepsLaw 83 = .ok (.aaload, 1) := dk_50 (dk_at dksX0_keepsLaw_3 11 rfl rfl)
theorem dX0_keepsLaw_84 : decode cX0_keepsLaw 84 = .ok (.iload_n 2, 1) := dk_28 (dk_at dksX0_keepsLaw_3 12 rfl rfl)
theorem dX0_keepsLaw_85 : decode cX0_keepsLaw 85 = .ok (.aaload, 1) := dk_50 (dk_at dksX0_keepsLaw_3 13 rfl rfl)
theorem dX0_keepsLaw_86 : decode cX0_keepsLaw 86 = .ok (.iload 6, 2) := dk_21 6 (dk_at dksX0_keepsLaw_3 14 rfl rfl)
theorem dX0_keepsLaw_88 : decode cX0_keepsLaw 88 = .ok (.iaload, 1) := dk_46 (dk_at dksX0_keepsLaw_3 16 rfl rfl)
theorem dX0_keepsLaw_89 : decode cX0_keepsLaw 89 = .ok (.aload_n 0, 1) := dk_42 (dk_at dksX0_keepsLaw_3 17 rfl rfl)
theorem dX0_keepsLaw_90 : decode cX0_keepsLaw 90 = .ok (.getfield 256, 3) := dk_180 1 0 (dk_at dksX0_keepsLaw_3 18 rfl rfl)
theorem dX0_keepsLaw_93 : decode cX0_keepsLaw 93 = .ok (.iload_n 3, 1) := dk_29 (dk_at dksX0_keepsLaw_3 21 rfl rfl)
theorem dX0_keepsLaw_94 : decode cX0_keepsLaw 94 = .ok (.aaload, 1) := dk_50 (dk_at dksX0_keepsLaw_3 22 rfl rfl)
theorem dX0_keepsLaw_95 : decode cX0_keepsLaw 95 = .ok (.iload 6, 2) := dk_21 6 (dk_at dksX0_keepsLaw_4 0 rfl rfl)
theorem dX0_keepsLaw_97 : decode cX0_keepsLaw 97 = .ok (.aaload, 1) := dk_50 (dk_at dksX0_keepsLaw_4 2 rfl rfl)
theorem dX0_keepsLaw_98 : decode cX0_keepsLaw 98 = .ok (.iload 4, 2) := dk_21 4 (dk_at dksX0_keepsLaw_4 3 rfl rfl)
theorem dX0_keepsLaw_100 : decode cX0_keepsLaw 100 = .ok (.iaload, 1) := dk_46 (dk_at dksX0_keepsLaw_4 5 rfl rfl)
theorem dX0_keepsLaw_101 : decode cX0_keepsLaw 101 = .ok (.imul, 1) := dk_104 (dk_at dksX0_keepsLaw_4 6 rfl rfl)
theorem dX0_keepsLaw_102 : decode cX0_keepsLaw 102 = .ok (.iadd, 1) := dk_96 (dk_at dksX0_keepsLaw_4 7 rfl rfl)
theorem dX0_keepsLaw_103 : decode cX0_keepsLaw 103 = .ok (.iadd, 1) := dk_96 (dk_at dksX0_keepsLaw_4 8 rfl rfl)
theorem dX0_keepsLaw_104 : decode cX0_keepsLaw 104 = .ok (.istore 5, 2) := dk_54 5 (dk_at dksX0_keepsLaw_4 9 rfl rfl)
theorem dX0_keepsLaw_106 : decode cX0_keepsLaw 106 = .ok (.iinc 6 1, 3) := dk_132 6 1 (dk_at dksX0_keepsLaw_4 11 rfl rfl)
theorem dX0_keepsLaw_109 : decode cX0_keepsLaw 109 = .ok (.goto (-91), 3) := dk_167 255 165 (dk_at dksX0_keepsLaw_4 14 rfl rfl)
theorem dX0_keepsLaw_112 : decode cX0_keepsLaw 112 = .ok (.aload_n 0, 1) := dk_42 (dk_at dksX0_keepsLaw_4 17 rfl rfl)
theorem dX0_keepsLaw_113 : decode cX0_keepsLaw 113 = .ok (.iload 5, 2) := dk_21 5 (dk_at dksX0_keepsLaw_4 18 rfl rfl)
theorem dX0_keepsLaw_115 : decode cX0_keepsLaw 115 = .ok (.invokevirtual 282, 3) := dk_182 1 26 (dk_at dksX0_keepsLaw_4 20 rfl rfl)
theorem dX0_keepsLaw_118 : decode cX0_keepsLaw 118 = .ok (.ifCond .eq 5, 3) := dk_153 0 5 (dk_at dksX0_keepsLaw_5 0 rfl rfl)
theorem dX0_keepsLaw_121 : decode cX0_keepsLaw 121 = .ok (.iconst 0, 1) := dk_3 (dk_at dksX0_keepsLaw_5 3 rfl rfl)
theorem dX0_keepsLaw_122 : decode cX0_keepsLaw 122 = .ok (.ireturn, 1) := dk_172 (dk_at dksX0_keepsLaw_5 4 rfl rfl)
theorem dX0_keepsLaw_123 : decode cX0_keepsLaw 123 = .ok (.iinc 4 1, 3) := dk_132 4 1 (dk_at dksX0_keepsLaw_5 5 rfl rfl)
theorem dX0_keepsLaw_126 : decode cX0_keepsLaw 126 = .ok (.goto (-123), 3) := dk_167 255 133 (dk_at dksX0_keepsLaw_5 8 rfl rfl)
theorem dX0_keepsLaw_129 : decode cX0_keepsLaw 129 = .ok (.iconst 1, 1) := dk_4 (dk_at dksX0_keepsLaw_5 11 rfl rfl)
theorem dX0_keepsLaw_130 : decode cX0_keepsLaw 130 = .ok (.ireturn, 1) := dk_172 (dk_at dksX0_keepsLaw_5 12 rfl rfl)
abbrev cX0_failing : ByteArray := prog_1_method_34_code
def dkwX0_failing_1 : List UInt8 := [153, 0, 12, 42, 16, 8, 182, 0, 171, 167, 0, 13, 42, 42, 180, 0, 69, 27, 46, 182, 0, 235, 172]
abbrev dktX0_failing_1 : List UInt8 := dkwX0_failing_1 ++ []
def dkwX0_failing_0 : List UInt8 := [27, 155, 0, 8, 27, 5, 164, 0, 9, 42, 8, 182, 0, 171, 172, 42, 42, 180, 0, 30, 182, 1, 33]
abbrev dktX0_failing_0 : List UInt8 := dkwX0_failing_0 ++ dktX0_failing_1
theorem dksX0_failing_0 : cX0_failing.data.toList.drop 0 = dktX0_failing_0 := by decide +kernel
theorem dksX0_failing_1 : cX0_failing.data.toList.drop 23 = dktX0_failing_1 := dk_seg dksX0_failing_0 23 rfl rfl
theorem dX0_failing_0 : decode cX0_failing 0 = .ok (.iload_n 1, 1) := dk_27 (dk_at dksX0_failing_0 0 rfl rfl)
theorem dX0_failing_1 : decode cX0_failing 1 = .ok (.ifCond .lt 8, 3) := dk_155 0 8 (dk_at dksX0_failing_0 1 rfl rfl)
theorem dX0_failing_4 : decode cX0_failing 4 = .ok (.iload_n 1, 1) := dk_27 (dk_at dksX0_failing_0 4 rfl rfl)
theorem dX0_failing_5 : decode cX0_failing 5 = .ok (.iconst 2, 1) := dk_5 (dk_at dksX0_failing_0 5 rfl rfl)
theorem dX0_failing_6 : decode cX0_failing 6 = .ok (.if_icmp .le 9, 3) := dk_164 0 9 (dk_at dksX0_failing_0 6 rfl rfl)
theorem dX0_failing_9 : decode cX0_failing 9 = .ok (.aload_n 0, 1) := dk_42 (dk_at dksX0_failing_0 9 rfl rfl)
theorem dX0_failing_10 : decode cX0_failing 10 = .ok (.iconst 5, 1) := dk_8 (dk_at dksX0_failing_0 10 rfl rfl)
theorem dX0_failing_11 : decode cX0_failing 11 = .ok (.invokevirtual 171, 3) := dk_182 0 171 (dk_at dksX0_failing_0 11 rfl rfl)
theorem dX0_failing_14 : decode cX0_failing 14 = .ok (.ireturn, 1) := dk_172 (dk_at dksX0_failing_0 14 rfl rfl)
theorem dX0_failing_15 : decode cX0_failing 15 = .ok (.aload_n 0, 1) := dk_42 (dk_at dksX0_failing_0 15 rfl rfl)
theorem dX0_failing_16 : decode cX0_failing 16 = .ok (.aload_n 0, 1) := dk_42 (dk_at dksX0_failing_0 16 rfl rfl)
theorem dX0_failing_17 : decode cX0_failing 17 = .ok (.getfield 30, 3) := dk_180 0 30 (dk_at dksX0_failing_0 17 rfl rfl)
theorem dX0_failing_20 : decode cX0_failing 20 = .ok (.invokevirtual 289, 3) := dk_182 1 33 (dk_at dksX0_failing_0 20 rfl rfl)
theorem dX0_failing_23 : decode cX0_failing 23 = .ok (.ifCond .eq 12, 3) := dk_153 0 12 (dk_at dksX0_failing_1 0 rfl rfl)
theorem dX0_failing_26 : decode cX0_failing 26 = .ok (.aload_n 0, 1) := dk_42 (dk_at dksX0_failing_1 3 rfl rfl)
theorem dX0_failing_27 : decode cX0_failing 27 = .ok (.bipush 8, 2) := dk_16 8 (dk_at dksX0_failing_1 4 rfl rfl)
theorem dX0_failing_29 : decode cX0_failing 29 = .ok (.invokevirtual 171, 3) := dk_182 0 171 (dk_at dksX0_failing_1 6 rfl rfl)
theorem dX0_failing_32 : decode cX0_failing 32 = .ok (.goto 13, 3) := dk_167 0 13 (dk_at dksX0_failing_1 9 rfl rfl)
theorem dX0_failing_35 : decode cX0_failing 35 = .ok (.aload_n 0, 1) := dk_42 (dk_at dksX0_failing_1 12 rfl rfl)
theorem dX0_failing_36 : decode cX0_failing 36 = .ok (.aload_n 0, 1) := dk_42 (dk_at dksX0_failing_1 13 rfl rfl)
theorem dX0_failing_37 : decode cX0_failing 37 = .ok (.getfield 69, 3) := dk_180 0 69 (dk_at dksX0_failing_1 14 rfl rfl)
theorem dX0_failing_40 : decode cX0_failing 40 = .ok (.iload_n 1, 1) := dk_27 (dk_at dksX0_failing_1 17 rfl rfl)
theorem dX0_failing_41 : decode cX0_failing 41 = .ok (.iaload, 1) := dk_46 (dk_at dksX0_failing_1 18 rfl rfl)
theorem dX0_failing_42 : decode cX0_failing 42 = .ok (.invokevirtual 235, 3) := dk_182 0 235 (dk_at dksX0_failing_1 19 rfl rfl)
theorem dX0_failing_45 : decode cX0_failing 45 = .ok (.ireturn, 1) := dk_172 (dk_at dksX0_failing_1 22 rfl rfl)
abbrev cX0_keep : ByteArray := prog_1_method_36_code
def dkwX0_keep_0 : List UInt8 := [27, 184, 1, 37, 154, 0, 9, 42, 5, 182, 0, 150, 172, 42, 27, 182, 1, 40, 42, 3, 182, 0, 150, 172]
abbrev dktX0_keep_0 : List UInt8 := dkwX0_keep_0 ++ []
theorem dksX0_keep_0 : cX0_keep.data.toList.drop 0 = dktX0_keep_0 := by decide +kernel
theorem dX0_keep_0 : decode cX0_keep 0 = .ok (.iload_n 1, 1) := dk_27 (dk_at dksX0_keep_0 0 rfl rfl)
theorem dX0_keep_1 : decode cX0_keep 1 = .ok (.invokestatic 293, 3) := dk_184 1 37 (dk_at dksX0_keep_0 1 rfl rfl)
theorem dX0_keep_4 : decode cX0_keep 4 = .ok (.ifCond .ne 9, 3) := dk_154 0 9 (dk_at dksX0_keep_0 4 rfl rfl)
theorem dX0_keep_7 : decode cX0_keep 7 = .ok (.aload_n 0, 1) := dk_42 (dk_at dksX0_keep_0 7 rfl rfl)
theorem dX0_keep_8 : decode cX0_keep 8 = .ok (.iconst 2, 1) := dk_5 (dk_at dksX0_keep_0 8 rfl rfl)
theorem dX0_keep_9 : decode cX0_keep 9 = .ok (.invokevirtual 150, 3) := dk_182 0 150 (dk_at dksX0_keep_0 9 rfl rfl)
theorem dX0_keep_12 : decode cX0_keep 12 = .ok (.ireturn, 1) := dk_172 (dk_at dksX0_keep_0 12 rfl rfl)
theorem dX0_keep_13 : decode cX0_keep 13 = .ok (.aload_n 0, 1) := dk_42 (dk_at dksX0_keep_0 13 rfl rfl)
theorem dX0_keep_14 : decode cX0_keep 14 = .ok (.iload_n 1, 1) := dk_27 (dk_at dksX0_keep_0 14 rfl rfl)
theorem dX0_keep_15 : decode cX0_keep 15 = .ok (.invokevirtual 296, 3) := dk_182 1 40 (dk_at dksX0_keep_0 15 rfl rfl)
theorem dX0_keep_18 : decode cX0_keep 18 = .ok (.aload_n 0, 1) := dk_42 (dk_at dksX0_keep_0 18 rfl rfl)
theorem dX0_keep_19 : decode cX0_keep 19 = .ok (.iconst 0, 1) := dk_3 (dk_at dksX0_keep_0 19 rfl rfl)
theorem dX0_keep_20 : decode cX0_keep 20 = .ok (.invokevirtual 150, 3) := dk_182 0 150 (dk_at dksX0_keep_0 20 rfl rfl)
theorem dX0_keep_23 : decode cX0_keep 23 = .ok (.ireturn, 1) := dk_172 (dk_at dksX0_keep_0 23 rfl rfl)
abbrev cX0_isShelf : ByteArray := prog_1_method_19_code
def dkwX0_isShelf_0 : List UInt8 := [26, 155, 0, 12, 26, 7, 162, 0, 7, 4, 167, 0, 4, 3, 172]
abbrev dktX0_isShelf_0 : List UInt8 := dkwX0_isShelf_0 ++ []
theorem dksX0_isShelf_0 : cX0_isShelf.data.toList.drop 0 = dktX0_isShelf_0 := by decide +kernel
theorem dX0_isShelf_0 : decode cX0_isShelf 0 = .ok (.iload_n 0, 1) := dk_26 (dk_at dksX0_isShelf_0 0 rfl rfl)
theorem dX0_isShelf_1 : decode cX0_isShelf 1 = .ok (.ifCond .lt 12, 3) := dk_155 0 12 (dk_at dksX0_isShelf_0 1 rfl rfl)
theorem dX0_isShelf_4 : decode cX0_isShelf 4 = .ok (.iload_n 0, 1) := dk_26 (dk_at dksX0_isShelf_0 4 rfl rfl)
theorem dX0_isShelf_5 : decode cX0_isShelf 5 = .ok (.iconst 4, 1) := dk_7 (dk_at dksX0_isShelf_0 5 rfl rfl)
theorem dX0_isShelf_6 : decode cX0_isShelf 6 = .ok (.if_icmp .ge 7, 3) := dk_162 0 7 (dk_at dksX0_isShelf_0 6 rfl rfl)
theorem dX0_isShelf_9 : decode cX0_isShelf 9 = .ok (.iconst 1, 1) := dk_4 (dk_at dksX0_isShelf_0 9 rfl rfl)
theorem dX0_isShelf_10 : decode cX0_isShelf 10 = .ok (.goto 4, 3) := dk_167 0 4 (dk_at dksX0_isShelf_0 10 rfl rfl)
theorem dX0_isShelf_13 : decode cX0_isShelf 13 = .ok (.iconst 0, 1) := dk_3 (dk_at dksX0_isShelf_0 13 rfl rfl)
theorem dX0_isShelf_14 : decode cX0_isShelf 14 = .ok (.ireturn, 1) := dk_172 (dk_at dksX0_isShelf_0 14 rfl rfl)
abbrev cX0_keeps : ByteArray := prog_1_method_35_code
def dkwX0_keeps_0 : List UInt8 := [42, 180, 0, 37, 27, 50, 42, 180, 0, 30, 182, 0, 231, 42, 180, 0, 41, 27, 4, 84, 177]
abbrev dktX0_keeps_0 : List UInt8 := dkwX0_keeps_0 ++ []
theorem dksX0_keeps_0 : cX0_keeps.data.toList.drop 0 = dktX0_keeps_0 := by decide +kernel
theorem dX0_keeps_0 : decode cX0_keeps 0 = .ok (.aload_n 0, 1) := dk_42 (dk_at dksX0_keeps_0 0 rfl rfl)
theorem dX0_keeps_1 : decode cX0_keeps 1 = .ok (.getfield 37, 3) := dk_180 0 37 (dk_at dksX0_keeps_0 1 rfl rfl)
theorem dX0_keeps_4 : decode cX0_keeps 4 = .ok (.iload_n 1, 1) := dk_27 (dk_at dksX0_keeps_0 4 rfl rfl)
theorem dX0_keeps_5 : decode cX0_keeps 5 = .ok (.aaload, 1) := dk_50 (dk_at dksX0_keeps_0 5 rfl rfl)
theorem dX0_keeps_6 : decode cX0_keeps 6 = .ok (.aload_n 0, 1) := dk_42 (dk_at dksX0_keeps_0 6 rfl rfl)
theorem dX0_keeps_7 : decode cX0_keeps 7 = .ok (.getfield 30, 3) := dk_180 0 30 (dk_at dksX0_keeps_0 7 rfl rfl)
theorem dX0_keeps_10 : decode cX0_keeps 10 = .ok (.invokevirtual 231, 3) := dk_182 0 231 (dk_at dksX0_keeps_0 10 rfl rfl)
theorem dX0_keeps_13 : decode cX0_keeps 13 = .ok (.aload_n 0, 1) := dk_42 (dk_at dksX0_keeps_0 13 rfl rfl)
theorem dX0_keeps_14 : decode cX0_keeps 14 = .ok (.getfield 41, 3) := dk_180 0 41 (dk_at dksX0_keeps_0 14 rfl rfl)
theorem dX0_keeps_17 : decode cX0_keeps 17 = .ok (.iload_n 1, 1) := dk_27 (dk_at dksX0_keeps_0 17 rfl rfl)
theorem dX0_keeps_18 : decode cX0_keeps 18 = .ok (.iconst 1, 1) := dk_4 (dk_at dksX0_keeps_0 18 rfl rfl)
theorem dX0_keeps_19 : decode cX0_keeps 19 = .ok (.bastore, 1) := dk_84 (dk_at dksX0_keeps_0 19 rfl rfl)
theorem dX0_keeps_20 : decode cX0_keeps 20 = .ok (.return_, 1) := dk_177 (dk_at dksX0_keeps_0 20 rfl rfl)
abbrev cX0_take : ByteArray := prog_1_method_38_code
def dkwX0_take_1 : List UInt8 := [28, 182, 0, 150, 172]
abbrev dktX0_take_1 : List UInt8 := dkwX0_take_1 ++ []
def dkwX0_take_0 : List UInt8 := [42, 27, 182, 1, 43, 61, 28, 154, 0, 16, 42, 180, 0, 30, 42, 180, 0, 37, 27, 50, 182, 0, 231, 42]
abbrev dktX0_take_0 : List UInt8 := dkwX0_take_0 ++ dktX0_take_1
theorem dksX0_take_0 : cX0_take.data.toList.drop 0 = dktX0_take_0 := by decide +kernel
theorem dksX0_take_1 : cX0_take.data.toList.drop 24 = dktX0_take_1 := dk_seg dksX0_take_0 24 rfl rfl
theorem dX0_take_0 : decode cX0_take 0 = .ok (.aload_n 0, 1) := dk_42 (dk_at dksX0_take_0 0 rfl rfl)
theorem dX0_take_1 : decode cX0_take 1 = .ok (.iload_n 1, 1) := dk_27 (dk_at dksX0_take_0 1 rfl rfl)
theorem dX0_take_2 : decode cX0_take 2 = .ok (.invokevirtual 299, 3) := dk_182 1 43 (dk_at dksX0_take_0 2 rfl rfl)
theorem dX0_take_5 : decode cX0_take 5 = .ok (.istore_n 2, 1) := dk_61 (dk_at dksX0_take_0 5 rfl rfl)
theorem dX0_take_6 : decode cX0_take 6 = .ok (.iload_n 2, 1) := dk_28 (dk_at dksX0_take_0 6 rfl rfl)
theorem dX0_take_7 : decode cX0_take 7 = .ok (.ifCond .ne 16, 3) := dk_154 0 16 (dk_at dksX0_take_0 7 rfl rfl)
theorem dX0_take_10 : decode cX0_take 10 = .ok (.aload_n 0, 1) := dk_42 (dk_at dksX0_take_0 10 rfl rfl)
theorem dX0_take_11 : decode cX0_take 11 = .ok (.getfield 30, 3) := dk_180 0 30 (dk_at dksX0_take_0 11 rfl rfl)
theorem dX0_take_14 : decode cX0_take 14 = .ok (.aload_n 0, 1) := dk_42 (dk_at dksX0_take_0 14 rfl rfl)
theorem dX0_take_15 : decode cX0_take 15 = .ok (.getfield 37, 3) := dk_180 0 37 (dk_at dksX0_take_0 15 rfl rfl)
theorem dX0_take_18 : decode cX0_take 18 = .ok (.iload_n 1, 1) := dk_27 (dk_at dksX0_take_0 18 rfl rfl)
theorem dX0_take_19 : decode cX0_take 19 = .ok (.aaload, 1) := dk_50 (dk_at dksX0_take_0 19 rfl rfl)
theorem dX0_take_20 : decode cX0_take 20 = .ok (.invokevirtual 231, 3) := dk_182 0 231 (dk_at dksX0_take_0 20 rfl rfl)
theorem dX0_take_23 : decode cX0_take 23 = .ok (.aload_n 0, 1) := dk_42 (dk_at dksX0_take_0 23 rfl rfl)
theorem dX0_take_24 : decode cX0_take 24 = .ok (.iload_n 2, 1) := dk_28 (dk_at dksX0_take_1 0 rfl rfl)
theorem dX0_take_25 : decode cX0_take 25 = .ok (.invokevirtual 150, 3) := dk_182 0 150 (dk_at dksX0_take_1 1 rfl rfl)
theorem dX0_take_28 : decode cX0_take 28 = .ok (.ireturn, 1) := dk_172 (dk_at dksX0_take_1 4 rfl rfl)
abbrev cX0_noShelf : ByteArray := prog_1_method_37_code
def dkwX0_noShelf_1 : List UInt8 := [16, 8, 172]
abbrev dktX0_noShelf_1 : List UInt8 := dkwX0_noShelf_1 ++ []
def dkwX0_noShelf_0 : List UInt8 := [27, 184, 1, 37, 154, 0, 7, 5, 167, 0, 18, 42, 180, 0, 41, 27, 51, 153, 0, 7, 3, 167, 0, 5]
abbrev dktX0_noShelf_0 : List UInt8 := dkwX0_noShelf_0 ++ dktX0_noShelf_1
theorem dksX0_noShelf_0 : cX0_noShelf.data.toList.drop 0 = dktX0_noShelf_0 := by decide +kernel
theorem dksX0_noShelf_1 : cX0_noShelf.data.toList.drop 24 = dktX0_noShelf_1 := dk_seg dksX0_noShelf_0 24 rfl rfl
theorem dX0_noShelf_0 : decode cX0_noShelf 0 = .ok (.iload_n 1, 1) := dk_27 (dk_at dksX0_noShelf_0 0 rfl rfl)
theorem dX0_noShelf_1 : decode cX0_noShelf 1 = .ok (.invokestatic 293, 3) := dk_184 1 37 (dk_at dksX0_noShelf_0 1 rfl rfl)
theorem dX0_noShelf_4 : decode cX0_noShelf 4 = .ok (.ifCond .ne 7, 3) := dk_154 0 7 (dk_at dksX0_noShelf_0 4 rfl rfl)
theorem dX0_noShelf_7 : decode cX0_noShelf 7 = .ok (.iconst 2, 1) := dk_5 (dk_at dksX0_noShelf_0 7 rfl rfl)
theorem dX0_noShelf_8 : decode cX0_noShelf 8 = .ok (.goto 18, 3) := dk_167 0 18 (dk_at dksX0_noShelf_0 8 rfl rfl)
theorem dX0_noShelf_11 : decode cX0_noShelf 11 = .ok (.aload_n 0, 1) := dk_42 (dk_at dksX0_noShelf_0 11 rfl rfl)
theorem dX0_noShelf_12 : decode cX0_noShelf 12 = .ok (.getfield 41, 3) := dk_180 0 41 (dk_at dksX0_noShelf_0 12 rfl rfl)
theorem dX0_noShelf_15 : decode cX0_noShelf 15 = .ok (.iload_n 1, 1) := dk_27 (dk_at dksX0_noShelf_0 15 rfl rfl)
theorem dX0_noShelf_16 : decode cX0_noShelf 16 = .ok (.baload, 1) := dk_51 (dk_at dksX0_noShelf_0 16 rfl rfl)
theorem dX0_noShelf_17 : decode cX0_noShelf 17 = .ok (.ifCond .eq 7, 3) := dk_153 0 7 (dk_at dksX0_noShelf_0 17 rfl rfl)
theorem dX0_noShelf_20 : decode cX0_noShelf 20 = .ok (.iconst 0, 1) := dk_3 (dk_at dksX0_noShelf_0 20 rfl rfl)
theorem dX0_noShelf_21 : decode cX0_noShelf 21 = .ok (.goto 5, 3) := dk_167 0 5 (dk_at dksX0_noShelf_0 21 rfl rfl)
theorem dX0_noShelf_24 : decode cX0_noShelf 24 = .ok (.bipush 8, 2) := dk_16 8 (dk_at dksX0_noShelf_1 0 rfl rfl)
theorem dX0_noShelf_26 : decode cX0_noShelf 26 = .ok (.ireturn, 1) := dk_172 (dk_at dksX0_noShelf_1 2 rfl rfl)
abbrev cX0_span : ByteArray := prog_1_method_43_code
def dkwX0_span_3 : List UInt8 := [160, 0, 7, 4, 167, 0, 4, 3, 182, 1, 76, 42, 42, 180, 0, 75, 180, 1, 46, 182, 0, 235, 172]
abbrev dktX0_span_3 : List UInt8 := dkwX0_span_3 ++ []
def dkwX0_span_2 : List UInt8 := [180, 0, 75, 27, 28, 182, 1, 72, 29, 158, 0, 25, 42, 42, 180, 0, 30, 42, 180, 0, 75, 29, 5]
abbrev dktX0_span_2 : List UInt8 := dkwX0_span_2 ++ dktX0_span_3
def dkwX0_span_1 : List UInt8 := [4, 167, 0, 4, 3, 182, 1, 68, 54, 4, 21, 4, 158, 0, 10, 42, 21, 4, 182, 0, 171, 172, 42, 42]
abbrev dktX0_span_1 : List UInt8 := dkwX0_span_1 ++ dktX0_span_2
def dkwX0_span_0 : List UInt8 := [42, 27, 28, 28, 133, 9, 20, 1, 62, 184, 1, 64, 153, 0, 16, 29, 155, 0, 12, 29, 5, 163, 0, 7]
abbrev dktX0_span_0 : List UInt8 := dkwX0_span_0 ++ dktX0_span_1
theorem dksX0_span_0 : cX0_span.data.toList.drop 0 = dktX0_span_0 := by decide +kernel
theorem dksX0_span_1 : cX0_span.data.toList.drop 24 = dktX0_span_1 := dk_seg dksX0_span_0 24 rfl rfl
theorem dksX0_span_2 : cX0_span.data.toList.drop 48 = dktX0_span_2 := dk_seg dksX0_span_1 24 rfl rfl
theorem dksX0_span_3 : cX0_span.data.toList.drop 71 = dktX0_span_3 := dk_seg dksX0_span_2 23 rfl rfl
theorem dX0_span_0 : decode cX0_span 0 = .ok (.aload_n 0, 1) := dk_42 (dk_at dksX0_span_0 0 rfl rfl)
theorem dX0_span_1 : decode cX0_span 1 = .ok (.iload_n 1, 1) := dk_27 (dk_at dksX0_span_0 1 rfl rfl)
theorem dX0_span_2 : decode cX0_span 2 = .ok (.iload_n 2, 1) := dk_28 (dk_at dksX0_span_0 2 rfl rfl)
theorem dX0_span_3 : decode cX0_span 3 = .ok (.iload_n 2, 1) := dk_28 (dk_at dksX0_span_0 3 rfl rfl)
theorem dX0_span_4 : decode cX0_span 4 = .ok (.i2l, 1) := dk_133 (dk_at dksX0_span_0 4 rfl rfl)
theorem dX0_span_5 : decode cX0_span 5 = .ok (.lconst 0, 1) := dk_9 (dk_at dksX0_span_0 5 rfl rfl)
theorem dX0_span_6 : decode cX0_span 6 = .ok (.ldc2_w 318, 3) := dk_20 1 62 (dk_at dksX0_span_0 6 rfl rfl)
theorem dX0_span_9 : decode cX0_span 9 = .ok (.invokestatic 320, 3) := dk_184 1 64 (dk_at dksX0_span_0 9 rfl rfl)
theorem dX0_span_12 : decode cX0_span 12 = .ok (.ifCond .eq 16, 3) := dk_153 0 16 (dk_at dksX0_span_0 12 rfl rfl)
theorem dX0_span_15 : decode cX0_span 15 = .ok (.iload_n 3, 1) := dk_29 (dk_at dksX0_span_0 15 rfl rfl)
theorem dX0_span_16 : decode cX0_span 16 = .ok (.ifCond .lt 12, 3) := dk_155 0 12 (dk_at dksX0_span_0 16 rfl rfl)
theorem dX0_span_19 : decode cX0_span 19 = .ok (.iload_n 3, 1) := dk_29 (dk_at dksX0_span_0 19 rfl rfl)
theorem dX0_span_20 : decode cX0_span 20 = .ok (.iconst 2, 1) := dk_5 (dk_at dksX0_span_0 20 rfl rfl)
theorem dX0_span_21 : decode cX0_span 21 = .ok (.if_icmp .gt 7, 3) := dk_163 0 7 (dk_at dksX0_span_0 21 rfl rfl)
theorem dX0_span_24 : decode cX0_span 24 = .ok (.iconst 1, 1) := dk_4 (dk_at dksX0_span_1 0 rfl rfl)
theorem dX0_span_25 : decode cX0_span 25 = .ok (.goto 4, 3) := dk_167 0 4 (dk_at dksX0_span_1 1 rfl rfl)
theorem dX0_span_28 : decode cX0_span 28 = .ok (.iconst 0, 1) := dk_3 (dk_at dksX0_span_1 4 rfl rfl)
theorem dX0_span_29 : decode cX0_span 29 = .ok (.invokevirtual 324, 3) := dk_182 1 68 (dk_at dksX0_span_1 5 rfl rfl)
theorem dX0_span_32 : decode cX0_span 32 = .ok (.istore 4, 2) := dk_54 4 (dk_at dksX0_span_1 8 rfl rfl)
theorem dX0_span_34 : decode cX0_span 34 = .ok (.iload 4, 2) := dk_21 4 (dk_at dksX0_span_1 10 rfl rfl)
theorem dX0_span_36 : decode cX0_span 36 = .ok (.ifCond .le 10, 3) := dk_158 0 10 (dk_at dksX0_span_1 12 rfl rfl)
theorem dX0_span_39 : decode cX0_span 39 = .ok (.aload_n 0, 1) := dk_42 (dk_at dksX0_span_1 15 rfl rfl)
theorem dX0_span_40 : decode cX0_span 40 = .ok (.iload 4, 2) := dk_21 4 (dk_at dksX0_span_1 16 rfl rfl)
theorem dX0_span_42 : decode cX0_span 42 = .ok (.invokevirtual 171, 3) := dk_182 0 171 (dk_at dksX0_span_1 18 rfl rfl)
theorem dX0_span_45 : decode cX0_span 45 = .ok (.ireturn, 1) := dk_172 (dk_at dksX0_span_1 21 rfl rfl)
theorem dX0_span_46 : decode cX0_span 46 = .ok (.aload_n 0, 1) := dk_42 (dk_at dksX0_span_1 22 rfl rfl)
theorem dX0_span_47 : decode cX0_span 47 = .ok (.aload_n 0, 1) := dk_42 (dk_at dksX0_span_1 23 rfl rfl)
theorem dX0_span_48 : decode cX0_span 48 = .ok (.getfield 75, 3) := dk_180 0 75 (dk_at dksX0_span_2 0 rfl rfl)
theorem dX0_span_51 : decode cX0_span 51 = .ok (.iload_n 1, 1) := dk_27 (dk_at dksX0_span_2 3 rfl rfl)
theorem dX0_span_52 : decode cX0_span 52 = .ok (.iload_n 2, 1) := dk_28 (dk_at dksX0_span_2 4 rfl rfl)
theorem dX0_span_53 : decode cX0_span 53 = .ok (.invokevirtual 328, 3) := dk_182 1 72 (dk_at dksX0_span_2 5 rfl rfl)
theorem dX0_span_56 : decode cX0_span 56 = .ok (.iload_n 3, 1) := dk_29 (dk_at dksX0_span_2 8 rfl rfl)
theorem dX0_span_57 : decode cX0_span 57 = .ok (.ifCond .le 25, 3) := dk_158 0 25 (dk_at dksX0_span_2 9 rfl rfl)
theorem dX0_span_60 : decode cX0_span 60 = .ok (.aload_n 0, 1) := dk_42 (dk_at dksX0_span_2 12 rfl rfl)
theorem dX0_span_61 : decode cX0_span 61 = .ok (.aload_n 0, 1) := dk_42 (dk_at dksX0_span_2 13 rfl rfl)
theorem dX0_span_62 : decode cX0_span 62 = .ok (.getfield 30, 3) := dk_180 0 30 (dk_at dksX0_span_2 14 rfl rfl)
theorem dX0_span_65 : decode cX0_span 65 = .ok (.aload_n 0, 1) := dk_42 (dk_at dksX0_span_2 17 rfl rfl)
theorem dX0_span_66 : decode cX0_span 66 = .ok (.getfield 75, 3) := dk_180 0 75 (dk_at dksX0_span_2 18 rfl rfl)
theorem dX0_span_69 : decode cX0_span 69 = .ok (.iload_n 3, 1) := dk_29 (dk_at dksX0_span_2 21 rfl rfl)
theorem dX0_span_70 : decode cX0_span 70 = .ok (.iconst 2, 1) := dk_5 (dk_at dksX0_span_2 22 rfl rfl)
theorem dX0_span_71 : decode cX0_span 71 = .ok (.if_icmp .ne 7, 3) := dk_160 0 7 (dk_at dksX0_span_3 0 rfl rfl)
theorem dX0_span_74 : decode cX0_span 74 = .ok (.iconst 1, 1) := dk_4 (dk_at dksX0_span_3 3 rfl rfl)
theorem dX0_span_75 : decode cX0_span 75 = .ok (.goto 4, 3) := dk_167 0 4 (dk_at dksX0_span_3 4 rfl rfl)
theorem dX0_span_78 : decode cX0_span 78 = .ok (.iconst 0, 1) := dk_3 (dk_at dksX0_span_3 7 rfl rfl)
theorem dX0_span_79 : decode cX0_span 79 = .ok (.invokevirtual 332, 3) := dk_182 1 76 (dk_at dksX0_span_3 8 rfl rfl)
theorem dX0_span_82 : decode cX0_span 82 = .ok (.aload_n 0, 1) := dk_42 (dk_at dksX0_span_3 11 rfl rfl)
theorem dX0_span_83 : decode cX0_span 83 = .ok (.aload_n 0, 1) := dk_42 (dk_at dksX0_span_3 12 rfl rfl)
theorem dX0_span_84 : decode cX0_span 84 = .ok (.getfield 75, 3) := dk_180 0 75 (dk_at dksX0_span_3 13 rfl rfl)
theorem dX0_span_87 : decode cX0_span 87 = .ok (.getfield 302, 3) := dk_180 1 46 (dk_at dksX0_span_3 16 rfl rfl)
theorem dX0_span_90 : decode cX0_span 90 = .ok (.invokevirtual 235, 3) := dk_182 0 235 (dk_at dksX0_span_3 19 rfl rfl)
theorem dX0_span_93 : decode cX0_span 93 = .ok (.ireturn, 1) := dk_172 (dk_at dksX0_span_3 22 rfl rfl)
abbrev cX0_isFrom : ByteArray := prog_1_method_16_code
def dkwX0_isFrom_0 : List UInt8 := [30, 32, 148, 155, 0, 14, 30, 22, 4, 148, 157, 0, 7, 4, 167, 0, 4, 3, 172]
abbrev dktX0_isFrom_0 : List UInt8 := dkwX0_isFrom_0 ++ []
theorem dksX0_isFrom_0 : cX0_isFrom.data.toList.drop 0 = dktX0_isFrom_0 := by decide +kernel
theorem dX0_isFrom_0 : decode cX0_isFrom 0 = .ok (.lload_n 0, 1) := dk_30 (dk_at dksX0_isFrom_0 0 rfl rfl)
theorem dX0_isFrom_1 : decode cX0_isFrom 1 = .ok (.lload_n 2, 1) := dk_32 (dk_at dksX0_isFrom_0 1 rfl rfl)
theorem dX0_isFrom_2 : decode cX0_isFrom 2 = .ok (.lcmp, 1) := dk_148 (dk_at dksX0_isFrom_0 2 rfl rfl)
theorem dX0_isFrom_3 : decode cX0_isFrom 3 = .ok (.ifCond .lt 14, 3) := dk_155 0 14 (dk_at dksX0_isFrom_0 3 rfl rfl)
theorem dX0_isFrom_6 : decode cX0_isFrom 6 = .ok (.lload_n 0, 1) := dk_30 (dk_at dksX0_isFrom_0 6 rfl rfl)
theorem dX0_isFrom_7 : decode cX0_isFrom 7 = .ok (.lload 4, 2) := dk_22 4 (dk_at dksX0_isFrom_0 7 rfl rfl)
theorem dX0_isFrom_9 : decode cX0_isFrom 9 = .ok (.lcmp, 1) := dk_148 (dk_at dksX0_isFrom_0 9 rfl rfl)
theorem dX0_isFrom_10 : decode cX0_isFrom 10 = .ok (.ifCond .gt 7, 3) := dk_157 0 7 (dk_at dksX0_isFrom_0 10 rfl rfl)
theorem dX0_isFrom_13 : decode cX0_isFrom 13 = .ok (.iconst 1, 1) := dk_4 (dk_at dksX0_isFrom_0 13 rfl rfl)
theorem dX0_isFrom_14 : decode cX0_isFrom 14 = .ok (.goto 4, 3) := dk_167 0 4 (dk_at dksX0_isFrom_0 14 rfl rfl)
theorem dX0_isFrom_17 : decode cX0_isFrom 17 = .ok (.iconst 0, 1) := dk_3 (dk_at dksX0_isFrom_0 17 rfl rfl)
theorem dX0_isFrom_18 : decode cX0_isFrom 18 = .ok (.ireturn, 1) := dk_172 (dk_at dksX0_isFrom_0 18 rfl rfl)
abbrev cX0_wrongRow : ByteArray := prog_1_method_41_code
def dkwX0_wrongRow_3 : List UInt8 := [132, 5, 1, 167, 255, 231, 3, 172]
abbrev dktX0_wrongRow_3 : List UInt8 := dkwX0_wrongRow_3 ++ []
def dkwX0_wrongRow_2 : List UInt8 := [54, 5, 21, 5, 28, 162, 0, 25, 42, 25, 4, 21, 5, 182, 0, 175, 182, 1, 10, 154, 0, 5, 8, 172]
abbrev dktX0_wrongRow_2 : List UInt8 := dkwX0_wrongRow_2 ++ dktX0_wrongRow_3
def dkwX0_wrongRow_1 : List UInt8 := [199, 0, 5, 6, 172, 29, 154, 0, 5, 8, 172, 25, 4, 182, 1, 60, 28, 162, 0, 5, 7, 172, 3]
abbrev dktX0_wrongRow_1 : List UInt8 := dkwX0_wrongRow_1 ++ dktX0_wrongRow_2
def dkwX0_wrongRow_0 : List UInt8 := [27, 184, 0, 154, 154, 0, 5, 4, 172, 42, 180, 0, 11, 27, 50, 58, 4, 25, 4, 180, 0, 181]
abbrev dktX0_wrongRow_0 : List UInt8 := dkwX0_wrongRow_0 ++ dktX0_wrongRow_1
theorem dksX0_wrongRow_0 : cX0_wrongRow.data.toList.drop 0 = dktX0_wrongRow_0 := by decide +kernel
theorem dksX0_wrongRow_1 : cX0_wrongRow.data.toList.drop 22 = dktX0_wrongRow_1 := dk_seg dksX0_wrongRow_0 22 rfl rfl
theorem dksX0_wrongRow_2 : cX0_wrongRow.data.toList.drop 45 = dktX0_wrongRow_2 := dk_seg dksX0_wrongRow_1 23 rfl rfl
theorem dksX0_wrongRow_3 : cX0_wrongRow.data.toList.drop 69 = dktX0_wrongRow_3 := dk_seg dksX0_wrongRow_2 24 rfl rfl
theorem dX0_wrongRow_0 : decode cX0_wrongRow 0 = .ok (.iload_n 1, 1) := dk_27 (dk_at dksX0_wrongRow_0 0 rfl rfl)
theorem dX0_wrongRow_1 : decode cX0_wrongRow 1 = .ok (.invokestatic 154, 3) := dk_184 0 154 (dk_at dksX0_wrongRow_0 1 rfl rfl)
theorem dX0_wrongRow_4 : decode cX0_wrongRow 4 = .ok (.ifCond .ne 5, 3) := dk_154 0 5 (dk_at dksX0_wrongRow_0 4 rfl rfl)
theorem dX0_wrongRow_7 : decode cX0_wrongRow 7 = .ok (.iconst 1, 1) := dk_4 (dk_at dksX0_wrongRow_0 7 rfl rfl)
theorem dX0_wrongRow_8 : decode cX0_wrongRow 8 = .ok (.ireturn, 1) := dk_172 (dk_at dksX0_wrongRow_0 8 rfl rfl)
theorem dX0_wrongRow_9 : decode cX0_wrongRow 9 = .ok (.aload_n 0, 1) := dk_42 (dk_at dksX0_wrongRow_0 9 rfl rfl)
theorem dX0_wrongRow_10 : decode cX0_wrongRow 10 = .ok (.getfield 11, 3) := dk_180 0 11 (dk_at dksX0_wrongRow_0 10 rfl rfl)
theorem dX0_wrongRow_13 : decode cX0_wrongRow 13 = .ok (.iload_n 1, 1) := dk_27 (dk_at dksX0_wrongRow_0 13 rfl rfl)
theorem dX0_wrongRow_14 : decode cX0_wrongRow 14 = .ok (.aaload, 1) := dk_50 (dk_at dksX0_wrongRow_0 14 rfl rfl)
theorem dX0_wrongRow_15 : decode cX0_wrongRow 15 = .ok (.astore 4, 2) := dk_58 4 (dk_at dksX0_wrongRow_0 15 rfl rfl)
theorem dX0_wrongRow_17 : decode cX0_wrongRow 17 = .ok (.aload 4, 2) := dk_25 4 (dk_at dksX0_wrongRow_0 17 rfl rfl)
theorem dX0_wrongRow_19 : decode cX0_wrongRow 19 = .ok (.getfield 181, 3) := dk_180 0 181 (dk_at dksX0_wrongRow_0 19 rfl rfl)
theorem dX0_wrongRow_22 : decode cX0_wrongRow 22 = .ok (.ifnonnull 5, 3) := dk_199 0 5 (dk_at dksX0_wrongRow_1 0 rfl rfl)
theorem dX0_wrongRow_25 : decode cX0_wrongRow 25 = .ok (.iconst 3, 1) := dk_6 (dk_at dksX0_wrongRow_1 3 rfl rfl)
theorem dX0_wrongRow_26 : decode cX0_wrongRow 26 = .ok (.ireturn, 1) := dk_172 (dk_at dksX0_wrongRow_1 4 rfl rfl)
theorem dX0_wrongRow_27 : decode cX0_wrongRow 27 = .ok (.iload_n 3, 1) := dk_29 (dk_at dksX0_wrongRow_1 5 rfl rfl)
theorem dX0_wrongRow_28 : decode cX0_wrongRow 28 = .ok (.ifCond .ne 5, 3) := dk_154 0 5 (dk_at dksX0_wrongRow_1 6 rfl rfl)
theorem dX0_wrongRow_31 : decode cX0_wrongRow 31 = .ok (.iconst 5, 1) := dk_8 (dk_at dksX0_wrongRow_1 9 rfl rfl)
theorem dX0_wrongRow_32 : decode cX0_wrongRow 32 = .ok (.ireturn, 1) := dk_172 (dk_at dksX0_wrongRow_1 10 rfl rfl)
theorem dX0_wrongRow_33 : decode cX0_wrongRow 33 = .ok (.aload 4, 2) := dk_25 4 (dk_at dksX0_wrongRow_1 11 rfl rfl)
theorem dX0_wrongRow_35 : decode cX0_wrongRow 35 = .ok (.invokevirtual 316, 3) := dk_182 1 60 (dk_at dksX0_wrongRow_1 13 rfl rfl)
theorem dX0_wrongRow_38 : decode cX0_wrongRow 38 = .ok (.iload_n 2, 1) := dk_28 (dk_at dksX0_wrongRow_1 16 rfl rfl)
theorem dX0_wrongRow_39 : decode cX0_wrongRow 39 = .ok (.if_icmp .ge 5, 3) := dk_162 0 5 (dk_at dksX0_wrongRow_1 17 rfl rfl)
theorem dX0_wrongRow_42 : decode cX0_wrongRow 42 = .ok (.iconst 4, 1) := dk_7 (dk_at dksX0_wrongRow_1 20 rfl rfl)
theorem dX0_wrongRow_43 : decode cX0_wrongRow 43 = .ok (.ireturn, 1) := dk_172 (dk_at dksX0_wrongRow_1 21 rfl rfl)
theorem dX0_wrongRow_44 : decode cX0_wrongRow 44 = .ok (.iconst 0, 1) := dk_3 (dk_at dksX0_wrongRow_1 22 rfl rfl)
theorem dX0_wrongRow_45 : decode cX0_wrongRow 45 = .ok (.istore 5, 2) := dk_54 5 (dk_at dksX0_wrongRow_2 0 rfl rfl)
theorem dX0_wrongRow_47 : decode cX0_wrongRow 47 = .ok (.iload 5, 2) := dk_21 5 (dk_at dksX0_wrongRow_2 2 rfl rfl)
theorem dX0_wrongRow_49 : decode cX0_wrongRow 49 = .ok (.iload_n 2, 1) := dk_28 (dk_at dksX0_wrongRow_2 4 rfl rfl)
theorem dX0_wrongRow_50 : decode cX0_wrongRow 50 = .ok (.if_icmp .ge 25, 3) := dk_162 0 25 (dk_at dksX0_wrongRow_2 5 rfl rfl)
theorem dX0_wrongRow_53 : decode cX0_wrongRow 53 = .ok (.aload_n 0, 1) := dk_42 (dk_at dksX0_wrongRow_2 8 rfl rfl)
theorem dX0_wrongRow_54 : decode cX0_wrongRow 54 = .ok (.aload 4, 2) := dk_25 4 (dk_at dksX0_wrongRow_2 9 rfl rfl)
theorem dX0_wrongRow_56 : decode cX0_wrongRow 56 = .ok (.iload 5, 2) := dk_21 5 (dk_at dksX0_wrongRow_2 11 rfl rfl)
theorem dX0_wrongRow_58 : decode cX0_wrongRow 58 = .ok (.invokevirtual 175, 3) := dk_182 0 175 (dk_at dksX0_wrongRow_2 13 rfl rfl)
theorem dX0_wrongRow_61 : decode cX0_wrongRow 61 = .ok (.invokevirtual 266, 3) := dk_182 1 10 (dk_at dksX0_wrongRow_2 16 rfl rfl)
theorem dX0_wrongRow_64 : decode cX0_wrongRow 64 = .ok (.ifCond .ne 5, 3) := dk_154 0 5 (dk_at dksX0_wrongRow_2 19 rfl rfl)
theorem dX0_wrongRow_67 : decode cX0_wrongRow 67 = .ok (.iconst 5, 1) := dk_8 (dk_at dksX0_wrongRow_2 22 rfl rfl)
theorem dX0_wrongRow_68 : decode cX0_wrongRow 68 = .ok (.ireturn, 1) := dk_172 (dk_at dksX0_wrongRow_2 23 rfl rfl)
theorem dX0_wrongRow_69 : decode cX0_wrongRow 69 = .ok (.iinc 5 1, 3) := dk_132 5 1 (dk_at dksX0_wrongRow_3 0 rfl rfl)
theorem dX0_wrongRow_72 : decode cX0_wrongRow 72 = .ok (.goto (-25), 3) := dk_167 255 231 (dk_at dksX0_wrongRow_3 3 rfl rfl)
theorem dX0_wrongRow_75 : decode cX0_wrongRow 75 = .ok (.iconst 0, 1) := dk_3 (dk_at dksX0_wrongRow_3 6 rfl rfl)
theorem dX0_wrongRow_76 : decode cX0_wrongRow 76 = .ok (.ireturn, 1) := dk_172 (dk_at dksX0_wrongRow_3 7 rfl rfl)
abbrev cX0_spans : ByteArray := prog_1_method_42_code
def dkwX0_spans_2 : List UInt8 := [182, 1, 50, 87, 132, 4, 1, 167, 255, 211, 177]
abbrev dktX0_spans_2 : List UInt8 := dkwX0_spans_2 ++ []
def dkwX0_spans_1 : List UInt8 := [21, 4, 182, 0, 175, 136, 42, 180, 0, 63, 182, 1, 14, 43, 42, 180, 0, 30, 42, 180, 0, 63]
abbrev dktX0_spans_1 : List UInt8 := dkwX0_spans_1 ++ dktX0_spans_2
def dkwX0_spans_0 : List UInt8 := [43, 3, 181, 1, 46, 3, 54, 4, 21, 4, 29, 162, 0, 45, 42, 180, 0, 30, 42, 180, 0, 11, 28, 50]
abbrev dktX0_spans_0 : List UInt8 := dkwX0_spans_0 ++ dktX0_spans_1
theorem dksX0_spans_0 : cX0_spans.data.toList.drop 0 = dktX0_spans_0 := by decide +kernel
theorem dksX0_spans_1 : cX0_spans.data.toList.drop 24 = dktX0_spans_1 := dk_seg dksX0_spans_0 24 rfl rfl
theorem dksX0_spans_2 : cX0_spans.data.toList.drop 46 = dktX0_spans_2 := dk_seg dksX0_spans_1 22 rfl rfl
theorem dX0_spans_0 : decode cX0_spans 0 = .ok (.aload_n 1, 1) := dk_43 (dk_at dksX0_spans_0 0 rfl rfl)
theorem dX0_spans_1 : decode cX0_spans 1 = .ok (.iconst 0, 1) := dk_3 (dk_at dksX0_spans_0 1 rfl rfl)
theorem dX0_spans_2 : decode cX0_spans 2 = .ok (.putfield 302, 3) := dk_181 1 46 (dk_at dksX0_spans_0 2 rfl rfl)
theorem dX0_spans_5 : decode cX0_spans 5 = .ok (.iconst 0, 1) := dk_3 (dk_at dksX0_spans_0 5 rfl rfl)
theorem dX0_spans_6 : decode cX0_spans 6 = .ok (.istore 4, 2) := dk_54 4 (dk_at dksX0_spans_0 6 rfl rfl)
theorem dX0_spans_8 : decode cX0_spans 8 = .ok (.iload 4, 2) := dk_21 4 (dk_at dksX0_spans_0 8 rfl rfl)
theorem dX0_spans_10 : decode cX0_spans 10 = .ok (.iload_n 3, 1) := dk_29 (dk_at dksX0_spans_0 10 rfl rfl)
theorem dX0_spans_11 : decode cX0_spans 11 = .ok (.if_icmp .ge 45, 3) := dk_162 0 45 (dk_at dksX0_spans_0 11 rfl rfl)
theorem dX0_spans_14 : decode cX0_spans 14 = .ok (.aload_n 0, 1) := dk_42 (dk_at dksX0_spans_0 14 rfl rfl)
theorem dX0_spans_15 : decode cX0_spans 15 = .ok (.getfield 30, 3) := dk_180 0 30 (dk_at dksX0_spans_0 15 rfl rfl)
theorem dX0_spans_18 : decode cX0_spans 18 = .ok (.aload_n 0, 1) := dk_42 (dk_at dksX0_spans_0 18 rfl rfl)
theorem dX0_spans_19 : decode cX0_spans 19 = .ok (.getfield 11, 3) := dk_180 0 11 (dk_at dksX0_spans_0 19 rfl rfl)
theorem dX0_spans_22 : decode cX0_spans 22 = .ok (.iload_n 2, 1) := dk_28 (dk_at dksX0_spans_0 22 rfl rfl)
theorem dX0_spans_23 : decode cX0_spans 23 = .ok (.aaload, 1) := dk_50 (dk_at dksX0_spans_0 23 rfl rfl)
theorem dX0_spans_24 : decode cX0_spans 24 = .ok (.iload 4, 2) := dk_21 4 (dk_at dksX0_spans_1 0 rfl rfl)
theorem dX0_spans_26 : decode cX0_spans 26 = .ok (.invokevirtual 175, 3) := dk_182 0 175 (dk_at dksX0_spans_1 2 rfl rfl)
theorem dX0_spans_29 : decode cX0_spans 29 = .ok (.l2i, 1) := dk_136 (dk_at dksX0_spans_1 5 rfl rfl)
theorem dX0_spans_30 : decode cX0_spans 30 = .ok (.aload_n 0, 1) := dk_42 (dk_at dksX0_spans_1 6 rfl rfl)
theorem dX0_spans_31 : decode cX0_spans 31 = .ok (.getfield 63, 3) := dk_180 0 63 (dk_at dksX0_spans_1 7 rfl rfl)
theorem dX0_spans_34 : decode cX0_spans 34 = .ok (.invokevirtual 270, 3) := dk_182 1 14 (dk_at dksX0_spans_1 10 rfl rfl)
theorem dX0_spans_37 : decode cX0_spans 37 = .ok (.aload_n 1, 1) := dk_43 (dk_at dksX0_spans_1 13 rfl rfl)
theorem dX0_spans_38 : decode cX0_spans 38 = .ok (.aload_n 0, 1) := dk_42 (dk_at dksX0_spans_1 14 rfl rfl)
theorem dX0_spans_39 : decode cX0_spans 39 = .ok (.getfield 30, 3) := dk_180 0 30 (dk_at dksX0_spans_1 15 rfl rfl)
theorem dX0_spans_42 : decode cX0_spans 42 = .ok (.aload_n 0, 1) := dk_42 (dk_at dksX0_spans_1 18 rfl rfl)
theorem dX0_spans_43 : decode cX0_spans 43 = .ok (.getfield 63, 3) := dk_180 0 63 (dk_at dksX0_spans_1 19 rfl rfl)
theorem dX0_spans_46 : decode cX0_spans 46 = .ok (.invokevirtual 306, 3) := dk_182 1 50 (dk_at dksX0_spans_2 0 rfl rfl)
theorem dX0_spans_49 : decode cX0_spans 49 = .ok (.pop, 1) := dk_87 (dk_at dksX0_spans_2 3 rfl rfl)
theorem dX0_spans_50 : decode cX0_spans 50 = .ok (.iinc 4 1, 3) := dk_132 4 1 (dk_at dksX0_spans_2 4 rfl rfl)
theorem dX0_spans_53 : decode cX0_spans 53 = .ok (.goto (-45), 3) := dk_167 255 211 (dk_at dksX0_spans_2 7 rfl rfl)
theorem dX0_spans_56 : decode cX0_spans 56 = .ok (.return_, 1) := dk_177 (dk_at dksX0_spans_2 10 rfl rfl)
abbrev cX0_closes : ByteArray := prog_1_method_40_code
def dkwX0_closes_4 : List UInt8 := [167, 0, 4, 3, 54, 4, 132, 5, 1, 167, 255, 197, 167, 255, 161, 177]
abbrev dktX0_closes_4 : List UInt8 := dkwX0_closes_4 ++ []
def dkwX0_closes_3 : List UInt8 := [3, 8, 184, 0, 188, 44, 43, 42, 180, 0, 63, 182, 1, 50, 154, 0, 8, 21, 4, 153, 0, 7, 4]
abbrev dktX0_closes_3 : List UInt8 := dkwX0_closes_3 ++ dktX0_closes_4
def dkwX0_closes_2 : List UInt8 := [180, 0, 82, 180, 1, 46, 162, 0, 53, 42, 180, 0, 82, 180, 1, 49, 21, 5, 50, 3, 42, 180, 0, 63]
abbrev dktX0_closes_2 : List UInt8 := dkwX0_closes_2 ++ dktX0_closes_3
def dkwX0_closes_1 : List UInt8 := [180, 0, 85, 167, 0, 4, 44, 42, 180, 0, 82, 182, 1, 56, 3, 54, 4, 3, 54, 5, 21, 5, 42]
abbrev dktX0_closes_1 : List UInt8 := dkwX0_closes_1 ++ dktX0_closes_2
def dkwX0_closes_0 : List UInt8 := [42, 180, 0, 85, 43, 182, 1, 54, 4, 54, 4, 21, 4, 153, 0, 96, 42, 43, 44, 29, 153, 0, 10, 42]
abbrev dktX0_closes_0 : List UInt8 := dkwX0_closes_0 ++ dktX0_closes_1
theorem dksX0_closes_0 : cX0_closes.data.toList.drop 0 = dktX0_closes_0 := by decide +kernel
theorem dksX0_closes_1 : cX0_closes.data.toList.drop 24 = dktX0_closes_1 := dk_seg dksX0_closes_0 24 rfl rfl
theorem dksX0_closes_2 : cX0_closes.data.toList.drop 47 = dktX0_closes_2 := dk_seg dksX0_closes_1 23 rfl rfl
theorem dksX0_closes_3 : cX0_closes.data.toList.drop 71 = dktX0_closes_3 := dk_seg dksX0_closes_2 24 rfl rfl
theorem dksX0_closes_4 : cX0_closes.data.toList.drop 94 = dktX0_closes_4 := dk_seg dksX0_closes_3 23 rfl rfl
theorem dX0_closes_0 : decode cX0_closes 0 = .ok (.aload_n 0, 1) := dk_42 (dk_at dksX0_closes_0 0 rfl rfl)
theorem dX0_closes_1 : decode cX0_closes 1 = .ok (.getfield 85, 3) := dk_180 0 85 (dk_at dksX0_closes_0 1 rfl rfl)
theorem dX0_closes_4 : decode cX0_closes 4 = .ok (.aload_n 1, 1) := dk_43 (dk_at dksX0_closes_0 4 rfl rfl)
theorem dX0_closes_5 : decode cX0_closes 5 = .ok (.invokevirtual 310, 3) := dk_182 1 54 (dk_at dksX0_closes_0 5 rfl rfl)
theorem dX0_closes_8 : decode cX0_closes 8 = .ok (.iconst 1, 1) := dk_4 (dk_at dksX0_closes_0 8 rfl rfl)
theorem dX0_closes_9 : decode cX0_closes 9 = .ok (.istore 4, 2) := dk_54 4 (dk_at dksX0_closes_0 9 rfl rfl)
theorem dX0_closes_11 : decode cX0_closes 11 = .ok (.iload 4, 2) := dk_21 4 (dk_at dksX0_closes_0 11 rfl rfl)
theorem dX0_closes_13 : decode cX0_closes 13 = .ok (.ifCond .eq 96, 3) := dk_153 0 96 (dk_at dksX0_closes_0 13 rfl rfl)
theorem dX0_closes_16 : decode cX0_closes 16 = .ok (.aload_n 0, 1) := dk_42 (dk_at dksX0_closes_0 16 rfl rfl)
theorem dX0_closes_17 : decode cX0_closes 17 = .ok (.aload_n 1, 1) := dk_43 (dk_at dksX0_closes_0 17 rfl rfl)
theorem dX0_closes_18 : decode cX0_closes 18 = .ok (.aload_n 2, 1) := dk_44 (dk_at dksX0_closes_0 18 rfl rfl)
theorem dX0_closes_19 : decode cX0_closes 19 = .ok (.iload_n 3, 1) := dk_29 (dk_at dksX0_closes_0 19 rfl rfl)
theorem dX0_closes_20 : decode cX0_closes 20 = .ok (.ifCond .eq 10, 3) := dk_153 0 10 (dk_at dksX0_closes_0 20 rfl rfl)
theorem dX0_closes_23 : decode cX0_closes 23 = .ok (.aload_n 0, 1) := dk_42 (dk_at dksX0_closes_0 23 rfl rfl)
theorem dX0_closes_24 : decode cX0_closes 24 = .ok (.getfield 85, 3) := dk_180 0 85 (dk_at dksX0_closes_1 0 rfl rfl)
theorem dX0_closes_27 : decode cX0_closes 27 = .ok (.goto 4, 3) := dk_167 0 4 (dk_at dksX0_closes_1 3 rfl rfl)
theorem dX0_closes_30 : decode cX0_closes 30 = .ok (.aload_n 2, 1) := dk_44 (dk_at dksX0_closes_1 6 rfl rfl)
theorem dX0_closes_31 : decode cX0_closes 31 = .ok (.aload_n 0, 1) := dk_42 (dk_at dksX0_closes_1 7 rfl rfl)
theorem dX0_closes_32 : decode cX0_closes 32 = .ok (.getfield 82, 3) := dk_180 0 82 (dk_at dksX0_closes_1 8 rfl rfl)
theorem dX0_closes_35 : decode cX0_closes 35 = .ok (.invokevirtual 312, 3) := dk_182 1 56 (dk_at dksX0_closes_1 11 rfl rfl)
theorem dX0_closes_38 : decode cX0_closes 38 = .ok (.iconst 0, 1) := dk_3 (dk_at dksX0_closes_1 14 rfl rfl)
theorem dX0_closes_39 : decode cX0_closes 39 = .ok (.istore 4, 2) := dk_54 4 (dk_at dksX0_closes_1 15 rfl rfl)
theorem dX0_closes_41 : decode cX0_closes 41 = .ok (.iconst 0, 1) := dk_3 (dk_at dksX0_closes_1 17 rfl rfl)
theorem dX0_closes_42 : decode cX0_closes 42 = .ok (.istore 5, 2) := dk_54 5 (dk_at dksX0_closes_1 18 rfl rfl)
theorem dX0_closes_44 : decode cX0_closes 44 = .ok (.iload 5, 2) := dk_21 5 (dk_at dksX0_closes_1 20 rfl rfl)
theorem dX0_closes_46 : decode cX0_closes 46 = .ok (.aload_n 0, 1) := dk_42 (dk_at dksX0_closes_1 22 rfl rfl)
theorem dX0_closes_47 : decode cX0_closes 47 = .ok (.getfield 82, 3) := dk_180 0 82 (dk_at dksX0_closes_2 0 rfl rfl)
theorem dX0_closes_50 : decode cX0_closes 50 = .ok (.getfield 302, 3) := dk_180 1 46 (dk_at dksX0_closes_2 3 rfl rfl)
theorem dX0_closes_53 : decode cX0_closes 53 = .ok (.if_icmp .ge 53, 3) := dk_162 0 53 (dk_at dksX0_closes_2 6 rfl rfl)
theorem dX0_closes_56 : decode cX0_closes 56 = .ok (.aload_n 0, 1) := dk_42 (dk_at dksX0_closes_2 9 rfl rfl)
theorem dX0_closes_57 : decode cX0_closes 57 = .ok (.getfield 82, 3) := dk_180 0 82 (dk_at dksX0_closes_2 10 rfl rfl)
theorem dX0_closes_60 : decode cX0_closes 60 = .ok (.getfield 305, 3) := dk_180 1 49 (dk_at dksX0_closes_2 13 rfl rfl)
theorem dX0_closes_63 : decode cX0_closes 63 = .ok (.iload 5, 2) := dk_21 5 (dk_at dksX0_closes_2 16 rfl rfl)
theorem dX0_closes_65 : decode cX0_closes 65 = .ok (.aaload, 1) := dk_50 (dk_at dksX0_closes_2 18 rfl rfl)
theorem dX0_closes_66 : decode cX0_closes 66 = .ok (.iconst 0, 1) := dk_3 (dk_at dksX0_closes_2 19 rfl rfl)
theorem dX0_closes_67 : decode cX0_closes 67 = .ok (.aload_n 0, 1) := dk_42 (dk_at dksX0_closes_2 20 rfl rfl)
theorem dX0_closes_68 : decode cX0_closes 68 = .ok (.getfield 63, 3) := dk_180 0 63 (dk_at dksX0_closes_2 21 rfl rfl)
theorem dX0_closes_71 : decode cX0_closes 71 = .ok (.iconst 0, 1) := dk_3 (dk_at dksX0_closes_3 0 rfl rfl)
theorem dX0_closes_72 : decode cX0_closes 72 = .ok (.iconst 5, 1) := dk_8 (dk_at dksX0_closes_3 1 rfl rfl)
theorem dX0_closes_73 : decode cX0_closes 73 = .ok (.invokestatic 188, 3) := dk_184 0 188 (dk_at dksX0_closes_3 2 rfl rfl)
theorem dX0_closes_76 : decode cX0_closes 76 = .ok (.aload_n 2, 1) := dk_44 (dk_at dksX0_closes_3 5 rfl rfl)
theorem dX0_closes_77 : decode cX0_closes 77 = .ok (.aload_n 1, 1) := dk_43 (dk_at dksX0_closes_3 6 rfl rfl)
theorem dX0_closes_78 : decode cX0_closes 78 = .ok (.aload_n 0, 1) := dk_42 (dk_at dksX0_closes_3 7 rfl rfl)
theorem dX0_closes_79 : decode cX0_closes 79 = .ok (.getfield 63, 3) := dk_180 0 63 (dk_at dksX0_closes_3 8 rfl rfl)
theorem dX0_closes_82 : decode cX0_closes 82 = .ok (.invokevirtual 306, 3) := dk_182 1 50 (dk_at dksX0_closes_3 11 rfl rfl)
theorem dX0_closes_85 : decode cX0_closes 85 = .ok (.ifCond .ne 8, 3) := dk_154 0 8 (dk_at dksX0_closes_3 14 rfl rfl)
theorem dX0_closes_88 : decode cX0_closes 88 = .ok (.iload 4, 2) := dk_21 4 (dk_at dksX0_closes_3 17 rfl rfl)
theorem dX0_closes_90 : decode cX0_closes 90 = .ok (.ifCond .eq 7, 3) := dk_153 0 7 (dk_at dksX0_closes_3 19 rfl rfl)
theorem dX0_closes_93 : decode cX0_closes 93 = .ok (.iconst 1, 1) := dk_4 (dk_at dksX0_closes_3 22 rfl rfl)
theorem dX0_closes_94 : decode cX0_closes 94 = .ok (.goto 4, 3) := dk_167 0 4 (dk_at dksX0_closes_4 0 rfl rfl)
theorem dX0_closes_97 : decode cX0_closes 97 = .ok (.iconst 0, 1) := dk_3 (dk_at dksX0_closes_4 3 rfl rfl)
theorem dX0_closes_98 : decode cX0_closes 98 = .ok (.istore 4, 2) := dk_54 4 (dk_at dksX0_closes_4 4 rfl rfl)
theorem dX0_closes_100 : decode cX0_closes 100 = .ok (.iinc 5 1, 3) := dk_132 5 1 (dk_at dksX0_closes_4 6 rfl rfl)
theorem dX0_closes_103 : decode cX0_closes 103 = .ok (.goto (-59), 3) := dk_167 255 197 (dk_at dksX0_closes_4 9 rfl rfl)
theorem dX0_closes_106 : decode cX0_closes 106 = .ok (.goto (-95), 3) := dk_167 255 161 (dk_at dksX0_closes_4 12 rfl rfl)
theorem dX0_closes_109 : decode cX0_closes 109 = .ok (.return_, 1) := dk_177 (dk_at dksX0_closes_4 15 rfl rfl)
abbrev cX0_brackets : ByteArray := prog_1_method_39_code
def dkwX0_brackets_3 : List UInt8 := [132, 5, 1, 167, 255, 193, 177]
abbrev dktX0_brackets_3 : List UInt8 := dkwX0_brackets_3 ++ []
def dkwX0_brackets_2 : List UInt8 := [180, 0, 63, 182, 1, 18, 25, 4, 43, 42, 180, 0, 63, 182, 1, 50, 87, 132, 6, 1, 167, 255, 211]
abbrev dktX0_brackets_2 : List UInt8 := dkwX0_brackets_2 ++ dktX0_brackets_3
def dkwX0_brackets_1 : List UInt8 := [180, 1, 46, 162, 0, 42, 43, 44, 180, 1, 49, 21, 5, 50, 45, 180, 1, 49, 21, 6, 50, 42]
abbrev dktX0_brackets_1 : List UInt8 := dkwX0_brackets_1 ++ dktX0_brackets_2
def dkwX0_brackets_0 : List UInt8 := [25, 4, 3, 181, 1, 46, 3, 54, 5, 21, 5, 44, 180, 1, 46, 162, 0, 60, 3, 54, 6, 21, 6, 45]
abbrev dktX0_brackets_0 : List UInt8 := dkwX0_brackets_0 ++ dktX0_brackets_1
theorem dksX0_brackets_0 : cX0_brackets.data.toList.drop 0 = dktX0_brackets_0 := by decide +kernel
theorem dksX0_brackets_1 : cX0_brackets.data.toList.drop 24 = dktX0_brackets_1 := dk_seg dksX0_brackets_0 24 rfl rfl
theorem dksX0_brackets_2 : cX0_brackets.data.toList.drop 46 = dktX0_brackets_2 := dk_seg dksX0_brackets_1 22 rfl rfl
theorem dksX0_brackets_3 : cX0_brackets.data.toList.drop 69 = dktX0_brackets_3 := dk_seg dksX0_brackets_2 23 rfl rfl
theorem dX0_brackets_0 : decode cX0_brackets 0 = .ok (.aload 4, 2) := dk_25 4 (dk_at dksX0_brackets_0 0 rfl rfl)
theorem dX0_brackets_2 : decode cX0_brackets 2 = .ok (.iconst 0, 1) := dk_3 (dk_at dksX0_brackets_0 2 rfl rfl)
theorem dX0_brackets_3 : decode cX0_brackets 3 = .ok (.putfield 302, 3) := dk_181 1 46 (dk_at dksX0_brackets_0 3 rfl rfl)
theorem dX0_brackets_6 : decode cX0_brackets 6 = .ok (.iconst 0, 1) := dk_3 (dk_at dksX0_brackets_0 6 rfl rfl)
theorem dX0_brackets_7 : decode cX0_brackets 7 = .ok (.istore 5, 2) := dk_54 5 (dk_at dksX0_brackets_0 7 rfl rfl)
theorem dX0_brackets_9 : decode cX0_brackets 9 = .ok (.iload 5, 2) := dk_21 5 (dk_at dksX0_brackets_0 9 rfl rfl)
theorem dX0_brackets_11 : decode cX0_brackets 11 = .ok (.aload_n 2, 1) := dk_44 (dk_at dksX0_brackets_0 11 rfl rfl)
theorem dX0_brackets_12 : decode cX0_brackets 12 = .ok (.getfield 302, 3) := dk_180 1 46 (dk_at dksX0_brackets_0 12 rfl rfl)
theorem dX0_brackets_15 : decode cX0_brackets 15 = .ok (.if_icmp .ge 60, 3) := dk_162 0 60 (dk_at dksX0_brackets_0 15 rfl rfl)
theorem dX0_brackets_18 : decode cX0_brackets 18 = .ok (.iconst 0, 1) := dk_3 (dk_at dksX0_brackets_0 18 rfl rfl)
theorem dX0_brackets_19 : decode cX0_brackets 19 = .ok (.istore 6, 2) := dk_54 6 (dk_at dksX0_brackets_0 19 rfl rfl)
theorem dX0_brackets_21 : decode cX0_brackets 21 = .ok (.iload 6, 2) := dk_21 6 (dk_at dksX0_brackets_0 21 rfl rfl)
theorem dX0_brackets_23 : decode cX0_brackets 23 = .ok (.aload_n 3, 1) := dk_45 (dk_at dksX0_brackets_0 23 rfl rfl)
theorem dX0_brackets_24 : decode cX0_brackets 24 = .ok (.getfield 302, 3) := dk_180 1 46 (dk_at dksX0_brackets_1 0 rfl rfl)
theorem dX0_brackets_27 : decode cX0_brackets 27 = .ok (.if_icmp .ge 42, 3) := dk_162 0 42 (dk_at dksX0_brackets_1 3 rfl rfl)
theorem dX0_brackets_30 : decode cX0_brackets 30 = .ok (.aload_n 1, 1) := dk_43 (dk_at dksX0_brackets_1 6 rfl rfl)
theorem dX0_brackets_31 : decode cX0_brackets 31 = .ok (.aload_n 2, 1) := dk_44 (dk_at dksX0_brackets_1 7 rfl rfl)
theorem dX0_brackets_32 : decode cX0_brackets 32 = .ok (.getfield 305, 3) := dk_180 1 49 (dk_at dksX0_brackets_1 8 rfl rfl)
theorem dX0_brackets_35 : decode cX0_brackets 35 = .ok (.iload 5, 2) := dk_21 5 (dk_at dksX0_brackets_1 11 rfl rfl)
theorem dX0_brackets_37 : decode cX0_brackets 37 = .ok (.aaload, 1) := dk_50 (dk_at dksX0_brackets_1 13 rfl rfl)
theorem dX0_brackets_38 : decode cX0_brackets 38 = .ok (.aload_n 3, 1) := dk_45 (dk_at dksX0_brackets_1 14 rfl rfl)
theorem dX0_brackets_39 : decode cX0_brackets 39 = .ok (.getfield 305, 3) := dk_180 1 49 (dk_at dksX0_brackets_1 15 rfl rfl)
theorem dX0_brackets_42 : decode cX0_brackets 42 = .ok (.iload 6, 2) := dk_21 6 (dk_at dksX0_brackets_1 18 rfl rfl)
theorem dX0_brackets_44 : decode cX0_brackets 44 = .ok (.aaload, 1) := dk_50 (dk_at dksX0_brackets_1 20 rfl rfl)
theorem dX0_brackets_45 : decode cX0_brackets 45 = .ok (.aload_n 0, 1) := dk_42 (dk_at dksX0_brackets_1 21 rfl rfl)
theorem dX0_brackets_46 : decode cX0_brackets 46 = .ok (.getfield 63, 3) := dk_180 0 63 (dk_at dksX0_brackets_2 0 rfl rfl)
theorem dX0_brackets_49 : decode cX0_brackets 49 = .ok (.invokevirtual 274, 3) := dk_182 1 18 (dk_at dksX0_brackets_2 3 rfl rfl)
theorem dX0_brackets_52 : decode cX0_brackets 52 = .ok (.aload 4, 2) := dk_25 4 (dk_at dksX0_brackets_2 6 rfl rfl)
theorem dX0_brackets_54 : decode cX0_brackets 54 = .ok (.aload_n 1, 1) := dk_43 (dk_at dksX0_brackets_2 8 rfl rfl)
theorem dX0_brackets_55 : decode cX0_brackets 55 = .ok (.aload_n 0, 1) := dk_42 (dk_at dksX0_brackets_2 9 rfl rfl)
theorem dX0_brackets_56 : decode cX0_brackets 56 = .ok (.getfield 63, 3) := dk_180 0 63 (dk_at dksX0_brackets_2 10 rfl rfl)
theorem dX0_brackets_59 : decode cX0_brackets 59 = .ok (.invokevirtual 306, 3) := dk_182 1 50 (dk_at dksX0_brackets_2 13 rfl rfl)
theorem dX0_brackets_62 : decode cX0_brackets 62 = .ok (.pop, 1) := dk_87 (dk_at dksX0_brackets_2 16 rfl rfl)
theorem dX0_brackets_63 : decode cX0_brackets 63 = .ok (.iinc 6 1, 3) := dk_132 6 1 (dk_at dksX0_brackets_2 17 rfl rfl)
theorem dX0_brackets_66 : decode cX0_brackets 66 = .ok (.goto (-45), 3) := dk_167 255 211 (dk_at dksX0_brackets_2 20 rfl rfl)
theorem dX0_brackets_69 : decode cX0_brackets 69 = .ok (.iinc 5 1, 3) := dk_132 5 1 (dk_at dksX0_brackets_3 0 rfl rfl)
theorem dX0_brackets_72 : decode cX0_brackets 72 = .ok (.goto (-63), 3) := dk_167 255 193 (dk_at dksX0_brackets_3 3 rfl rfl)
theorem dX0_brackets_75 : decode cX0_brackets 75 = .ok (.return_, 1) := dk_177 (dk_at dksX0_brackets_3 6 rfl rfl)
abbrev cX0_derived : ByteArray := prog_1_method_47_code
def dkwX0_derived_1 : List UInt8 := [182, 0, 235, 167, 0, 8, 42, 8, 182, 0, 171, 172]
abbrev dktX0_derived_1 : List UInt8 := dkwX0_derived_1 ++ []
def dkwX0_derived_0 : List UInt8 := [27, 133, 9, 20, 1, 87, 184, 1, 64, 153, 0, 19, 42, 42, 42, 180, 0, 30, 27, 182, 1, 89]
abbrev dktX0_derived_0 : List UInt8 := dkwX0_derived_0 ++ dktX0_derived_1
theorem dksX0_derived_0 : cX0_derived.data.toList.drop 0 = dktX0_derived_0 := by decide +kernel
theorem dksX0_derived_1 : cX0_derived.data.toList.drop 22 = dktX0_derived_1 := dk_seg dksX0_derived_0 22 rfl rfl
theorem dX0_derived_0 : decode cX0_derived 0 = .ok (.iload_n 1, 1) := dk_27 (dk_at dksX0_derived_0 0 rfl rfl)
theorem dX0_derived_1 : decode cX0_derived 1 = .ok (.i2l, 1) := dk_133 (dk_at dksX0_derived_0 1 rfl rfl)
theorem dX0_derived_2 : decode cX0_derived 2 = .ok (.lconst 0, 1) := dk_9 (dk_at dksX0_derived_0 2 rfl rfl)
theorem dX0_derived_3 : decode cX0_derived 3 = .ok (.ldc2_w 343, 3) := dk_20 1 87 (dk_at dksX0_derived_0 3 rfl rfl)
theorem dX0_derived_6 : decode cX0_derived 6 = .ok (.invokestatic 320, 3) := dk_184 1 64 (dk_at dksX0_derived_0 6 rfl rfl)
theorem dX0_derived_9 : decode cX0_derived 9 = .ok (.ifCond .eq 19, 3) := dk_153 0 19 (dk_at dksX0_derived_0 9 rfl rfl)
theorem dX0_derived_12 : decode cX0_derived 12 = .ok (.aload_n 0, 1) := dk_42 (dk_at dksX0_derived_0 12 rfl rfl)
theorem dX0_derived_13 : decode cX0_derived 13 = .ok (.aload_n 0, 1) := dk_42 (dk_at dksX0_derived_0 13 rfl rfl)
theorem dX0_derived_14 : decode cX0_derived 14 = .ok (.aload_n 0, 1) := dk_42 (dk_at dksX0_derived_0 14 rfl rfl)
theorem dX0_derived_15 : decode cX0_derived 15 = .ok (.getfield 30, 3) := dk_180 0 30 (dk_at dksX0_derived_0 15 rfl rfl)
theorem dX0_derived_18 : decode cX0_derived 18 = .ok (.iload_n 1, 1) := dk_27 (dk_at dksX0_derived_0 18 rfl rfl)
theorem dX0_derived_19 : decode cX0_derived 19 = .ok (.invokevirtual 345, 3) := dk_182 1 89 (dk_at dksX0_derived_0 19 rfl rfl)
theorem dX0_derived_22 : decode cX0_derived 22 = .ok (.invokevirtual 235, 3) := dk_182 0 235 (dk_at dksX0_derived_1 0 rfl rfl)
theorem dX0_derived_25 : decode cX0_derived 25 = .ok (.goto 8, 3) := dk_167 0 8 (dk_at dksX0_derived_1 3 rfl rfl)
theorem dX0_derived_28 : decode cX0_derived 28 = .ok (.aload_n 0, 1) := dk_42 (dk_at dksX0_derived_1 6 rfl rfl)
theorem dX0_derived_29 : decode cX0_derived 29 = .ok (.iconst 5, 1) := dk_8 (dk_at dksX0_derived_1 7 rfl rfl)
theorem dX0_derived_30 : decode cX0_derived 30 = .ok (.invokevirtual 171, 3) := dk_182 0 171 (dk_at dksX0_derived_1 8 rfl rfl)
theorem dX0_derived_33 : decode cX0_derived 33 = .ok (.ireturn, 1) := dk_172 (dk_at dksX0_derived_1 11 rfl rfl)
abbrev cX0_derivedOf : ByteArray := prog_1_method_45_code
def dkwX0_derivedOf_0 : List UInt8 := [42, 180, 0, 88, 43, 182, 1, 54, 42, 43, 42, 180, 0, 88, 28, 4, 182, 1, 83, 172]
abbrev dktX0_derivedOf_0 : List UInt8 := dkwX0_derivedOf_0 ++ []
theorem dksX0_derivedOf_0 : cX0_derivedOf.data.toList.drop 0 = dktX0_derivedOf_0 := by decide +kernel
theorem dX0_derivedOf_0 : decode cX0_derivedOf 0 = .ok (.aload_n 0, 1) := dk_42 (dk_at dksX0_derivedOf_0 0 rfl rfl)
theorem dX0_derivedOf_1 : decode cX0_derivedOf 1 = .ok (.getfield 88, 3) := dk_180 0 88 (dk_at dksX0_derivedOf_0 1 rfl rfl)
theorem dX0_derivedOf_4 : decode cX0_derivedOf 4 = .ok (.aload_n 1, 1) := dk_43 (dk_at dksX0_derivedOf_0 4 rfl rfl)
theorem dX0_derivedOf_5 : decode cX0_derivedOf 5 = .ok (.invokevirtual 310, 3) := dk_182 1 54 (dk_at dksX0_derivedOf_0 5 rfl rfl)
theorem dX0_derivedOf_8 : decode cX0_derivedOf 8 = .ok (.aload_n 0, 1) := dk_42 (dk_at dksX0_derivedOf_0 8 rfl rfl)
theorem dX0_derivedOf_9 : decode cX0_derivedOf 9 = .ok (.aload_n 1, 1) := dk_43 (dk_at dksX0_derivedOf_0 9 rfl rfl)
theorem dX0_derivedOf_10 : decode cX0_derivedOf 10 = .ok (.aload_n 0, 1) := dk_42 (dk_at dksX0_derivedOf_0 10 rfl rfl)
theorem dX0_derivedOf_11 : decode cX0_derivedOf 11 = .ok (.getfield 88, 3) := dk_180 0 88 (dk_at dksX0_derivedOf_0 11 rfl rfl)
theorem dX0_derivedOf_14 : decode cX0_derivedOf 14 = .ok (.iload_n 2, 1) := dk_28 (dk_at dksX0_derivedOf_0 14 rfl rfl)
theorem dX0_derivedOf_15 : decode cX0_derivedOf 15 = .ok (.iconst 1, 1) := dk_4 (dk_at dksX0_derivedOf_0 15 rfl rfl)
theorem dX0_derivedOf_16 : decode cX0_derivedOf 16 = .ok (.invokevirtual 339, 3) := dk_182 1 83 (dk_at dksX0_derivedOf_0 16 rfl rfl)
theorem dX0_derivedOf_19 : decode cX0_derivedOf 19 = .ok (.ireturn, 1) := dk_172 (dk_at dksX0_derivedOf_0 19 rfl rfl)
abbrev cX0_series : ByteArray := prog_1_method_44_code
def dkwX0_series_3 : List UInt8 := [180, 0, 75, 180, 1, 46, 172]
abbrev dktX0_series_3 : List UInt8 := dkwX0_series_3 ++ []
def dkwX0_series_2 : List UInt8 := [180, 0, 79, 182, 1, 56, 42, 180, 0, 75, 42, 180, 0, 79, 182, 1, 80, 132, 5, 1, 167, 255, 200, 42]
abbrev dktX0_series_2 : List UInt8 := dkwX0_series_2 ++ dktX0_series_3
def dkwX0_series_1 : List UInt8 := [158, 0, 46, 42, 43, 21, 4, 153, 0, 10, 42, 180, 0, 75, 167, 0, 4, 44, 42, 180, 0, 75, 42]
abbrev dktX0_series_1 : List UInt8 := dkwX0_series_1 ++ dktX0_series_2
def dkwX0_series_0 : List UInt8 := [42, 180, 0, 75, 44, 182, 1, 80, 3, 54, 5, 21, 5, 29, 162, 0, 56, 42, 180, 0, 75, 180, 1, 46]
abbrev dktX0_series_0 : List UInt8 := dkwX0_series_0 ++ dktX0_series_1
theorem dksX0_series_0 : cX0_series.data.toList.drop 0 = dktX0_series_0 := by decide +kernel
theorem dksX0_series_1 : cX0_series.data.toList.drop 24 = dktX0_series_1 := dk_seg dksX0_series_0 24 rfl rfl
theorem dksX0_series_2 : cX0_series.data.toList.drop 47 = dktX0_series_2 := dk_seg dksX0_series_1 23 rfl rfl
theorem dksX0_series_3 : cX0_series.data.toList.drop 71 = dktX0_series_3 := dk_seg dksX0_series_2 24 rfl rfl
theorem dX0_series_0 : decode cX0_series 0 = .ok (.aload_n 0, 1) := dk_42 (dk_at dksX0_series_0 0 rfl rfl)
theorem dX0_series_1 : decode cX0_series 1 = .ok (.getfield 75, 3) := dk_180 0 75 (dk_at dksX0_series_0 1 rfl rfl)
theorem dX0_series_4 : decode cX0_series 4 = .ok (.aload_n 2, 1) := dk_44 (dk_at dksX0_series_0 4 rfl rfl)
theorem dX0_series_5 : decode cX0_series 5 = .ok (.invokevirtual 336, 3) := dk_182 1 80 (dk_at dksX0_series_0 5 rfl rfl)
theorem dX0_series_8 : decode cX0_series 8 = .ok (.iconst 0, 1) := dk_3 (dk_at dksX0_series_0 8 rfl rfl)
theorem dX0_series_9 : decode cX0_series 9 = .ok (.istore 5, 2) := dk_54 5 (dk_at dksX0_series_0 9 rfl rfl)
theorem dX0_series_11 : decode cX0_series 11 = .ok (.iload 5, 2) := dk_21 5 (dk_at dksX0_series_0 11 rfl rfl)
theorem dX0_series_13 : decode cX0_series 13 = .ok (.iload_n 3, 1) := dk_29 (dk_at dksX0_series_0 13 rfl rfl)
theorem dX0_series_14 : decode cX0_series 14 = .ok (.if_icmp .ge 56, 3) := dk_162 0 56 (dk_at dksX0_series_0 14 rfl rfl)
theorem dX0_series_17 : decode cX0_series 17 = .ok (.aload_n 0, 1) := dk_42 (dk_at dksX0_series_0 17 rfl rfl)
theorem dX0_series_18 : decode cX0_series 18 = .ok (.getfield 75, 3) := dk_180 0 75 (dk_at dksX0_series_0 18 rfl rfl)
theorem dX0_series_21 : decode cX0_series 21 = .ok (.getfield 302, 3) := dk_180 1 46 (dk_at dksX0_series_0 21 rfl rfl)
theorem dX0_series_24 : decode cX0_series 24 = .ok (.ifCond .le 46, 3) := dk_158 0 46 (dk_at dksX0_series_1 0 rfl rfl)
theorem dX0_series_27 : decode cX0_series 27 = .ok (.aload_n 0, 1) := dk_42 (dk_at dksX0_series_1 3 rfl rfl)
theorem dX0_series_28 : decode cX0_series 28 = .ok (.aload_n 1, 1) := dk_43 (dk_at dksX0_series_1 4 rfl rfl)
theorem dX0_series_29 : decode cX0_series 29 = .ok (.iload 4, 2) := dk_21 4 (dk_at dksX0_series_1 5 rfl rfl)
theorem dX0_series_31 : decode cX0_series 31 = .ok (.ifCond .eq 10, 3) := dk_153 0 10 (dk_at dksX0_series_1 7 rfl rfl)
theorem dX0_series_34 : decode cX0_series 34 = .ok (.aload_n 0, 1) := dk_42 (dk_at dksX0_series_1 10 rfl rfl)
theorem dX0_series_35 : decode cX0_series 35 = .ok (.getfield 75, 3) := dk_180 0 75 (dk_at dksX0_series_1 11 rfl rfl)
theorem dX0_series_38 : decode cX0_series 38 = .ok (.goto 4, 3) := dk_167 0 4 (dk_at dksX0_series_1 14 rfl rfl)
theorem dX0_series_41 : decode cX0_series 41 = .ok (.aload_n 2, 1) := dk_44 (dk_at dksX0_series_1 17 rfl rfl)
theorem dX0_series_42 : decode cX0_series 42 = .ok (.aload_n 0, 1) := dk_42 (dk_at dksX0_series_1 18 rfl rfl)
theorem dX0_series_43 : decode cX0_series 43 = .ok (.getfield 75, 3) := dk_180 0 75 (dk_at dksX0_series_1 19 rfl rfl)
theorem dX0_series_46 : decode cX0_series 46 = .ok (.aload_n 0, 1) := dk_42 (dk_at dksX0_series_1 22 rfl rfl)
theorem dX0_series_47 : decode cX0_series 47 = .ok (.getfield 79, 3) := dk_180 0 79 (dk_at dksX0_series_2 0 rfl rfl)
theorem dX0_series_50 : decode cX0_series 50 = .ok (.invokevirtual 312, 3) := dk_182 1 56 (dk_at dksX0_series_2 3 rfl rfl)
theorem dX0_series_53 : decode cX0_series 53 = .ok (.aload_n 0, 1) := dk_42 (dk_at dksX0_series_2 6 rfl rfl)
theorem dX0_series_54 : decode cX0_series 54 = .ok (.getfield 75, 3) := dk_180 0 75 (dk_at dksX0_series_2 7 rfl rfl)
theorem dX0_series_57 : decode cX0_series 57 = .ok (.aload_n 0, 1) := dk_42 (dk_at dksX0_series_2 10 rfl rfl)
theorem dX0_series_58 : decode cX0_series 58 = .ok (.getfield 79, 3) := dk_180 0 79 (dk_at dksX0_series_2 11 rfl rfl)
theorem dX0_series_61 : decode cX0_series 61 = .ok (.invokevirtual 336, 3) := dk_182 1 80 (dk_at dksX0_series_2 14 rfl rfl)
theorem dX0_series_64 : decode cX0_series 64 = .ok (.iinc 5 1, 3) := dk_132 5 1 (dk_at dksX0_series_2 17 rfl rfl)
theorem dX0_series_67 : decode cX0_series 67 = .ok (.goto (-56), 3) := dk_167 255 200 (dk_at dksX0_series_2 20 rfl rfl)
theorem dX0_series_70 : decode cX0_series 70 = .ok (.aload_n 0, 1) := dk_42 (dk_at dksX0_series_2 23 rfl rfl)
theorem dX0_series_71 : decode cX0_series 71 = .ok (.getfield 75, 3) := dk_180 0 75 (dk_at dksX0_series_3 0 rfl rfl)
theorem dX0_series_74 : decode cX0_series 74 = .ok (.getfield 302, 3) := dk_180 1 46 (dk_at dksX0_series_3 3 rfl rfl)
theorem dX0_series_77 : decode cX0_series 77 = .ok (.ireturn, 1) := dk_172 (dk_at dksX0_series_3 6 rfl rfl)
abbrev cX0_lower : ByteArray := prog_1_method_48_code
def dkwX0_lower_1 : List UInt8 := [182, 0, 235, 167, 0, 8, 42, 8, 182, 0, 171, 172]
abbrev dktX0_lower_1 : List UInt8 := dkwX0_lower_1 ++ []
def dkwX0_lower_0 : List UInt8 := [27, 133, 9, 20, 1, 87, 184, 1, 64, 153, 0, 19, 42, 42, 42, 180, 0, 30, 27, 182, 1, 93]
abbrev dktX0_lower_0 : List UInt8 := dkwX0_lower_0 ++ dktX0_lower_1
theorem dksX0_lower_0 : cX0_lower.data.toList.drop 0 = dktX0_lower_0 := by decide +kernel
theorem dksX0_lower_1 : cX0_lower.data.toList.drop 22 = dktX0_lower_1 := dk_seg dksX0_lower_0 22 rfl rfl
theorem dX0_lower_0 : decode cX0_lower 0 = .ok (.iload_n 1, 1) := dk_27 (dk_at dksX0_lower_0 0 rfl rfl)
theorem dX0_lower_1 : decode cX0_lower 1 = .ok (.i2l, 1) := dk_133 (dk_at dksX0_lower_0 1 rfl rfl)
theorem dX0_lower_2 : decode cX0_lower 2 = .ok (.lconst 0, 1) := dk_9 (dk_at dksX0_lower_0 2 rfl rfl)
theorem dX0_lower_3 : decode cX0_lower 3 = .ok (.ldc2_w 343, 3) := dk_20 1 87 (dk_at dksX0_lower_0 3 rfl rfl)
theorem dX0_lower_6 : decode cX0_lower 6 = .ok (.invokestatic 320, 3) := dk_184 1 64 (dk_at dksX0_lower_0 6 rfl rfl)
theorem dX0_lower_9 : decode cX0_lower 9 = .ok (.ifCond .eq 19, 3) := dk_153 0 19 (dk_at dksX0_lower_0 9 rfl rfl)
theorem dX0_lower_12 : decode cX0_lower 12 = .ok (.aload_n 0, 1) := dk_42 (dk_at dksX0_lower_0 12 rfl rfl)
theorem dX0_lower_13 : decode cX0_lower 13 = .ok (.aload_n 0, 1) := dk_42 (dk_at dksX0_lower_0 13 rfl rfl)
theorem dX0_lower_14 : decode cX0_lower 14 = .ok (.aload_n 0, 1) := dk_42 (dk_at dksX0_lower_0 14 rfl rfl)
theorem dX0_lower_15 : decode cX0_lower 15 = .ok (.getfield 30, 3) := dk_180 0 30 (dk_at dksX0_lower_0 15 rfl rfl)
theorem dX0_lower_18 : decode cX0_lower 18 = .ok (.iload_n 1, 1) := dk_27 (dk_at dksX0_lower_0 18 rfl rfl)
theorem dX0_lower_19 : decode cX0_lower 19 = .ok (.invokevirtual 349, 3) := dk_182 1 93 (dk_at dksX0_lower_0 19 rfl rfl)
theorem dX0_lower_22 : decode cX0_lower 22 = .ok (.invokevirtual 235, 3) := dk_182 0 235 (dk_at dksX0_lower_1 0 rfl rfl)
theorem dX0_lower_25 : decode cX0_lower 25 = .ok (.goto 8, 3) := dk_167 0 8 (dk_at dksX0_lower_1 3 rfl rfl)
theorem dX0_lower_28 : decode cX0_lower 28 = .ok (.aload_n 0, 1) := dk_42 (dk_at dksX0_lower_1 6 rfl rfl)
theorem dX0_lower_29 : decode cX0_lower 29 = .ok (.iconst 5, 1) := dk_8 (dk_at dksX0_lower_1 7 rfl rfl)
theorem dX0_lower_30 : decode cX0_lower 30 = .ok (.invokevirtual 171, 3) := dk_182 0 171 (dk_at dksX0_lower_1 8 rfl rfl)
theorem dX0_lower_33 : decode cX0_lower 33 = .ok (.ireturn, 1) := dk_172 (dk_at dksX0_lower_1 11 rfl rfl)
abbrev cX0_lowerOf : ByteArray := prog_1_method_46_code
def dkwX0_lowerOf_0 : List UInt8 := [42, 180, 0, 88, 43, 182, 1, 54, 42, 43, 42, 180, 0, 88, 28, 3, 182, 1, 83, 172]
abbrev dktX0_lowerOf_0 : List UInt8 := dkwX0_lowerOf_0 ++ []
theorem dksX0_lowerOf_0 : cX0_lowerOf.data.toList.drop 0 = dktX0_lowerOf_0 := by decide +kernel
theorem dX0_lowerOf_0 : decode cX0_lowerOf 0 = .ok (.aload_n 0, 1) := dk_42 (dk_at dksX0_lowerOf_0 0 rfl rfl)
theorem dX0_lowerOf_1 : decode cX0_lowerOf 1 = .ok (.getfield 88, 3) := dk_180 0 88 (dk_at dksX0_lowerOf_0 1 rfl rfl)
theorem dX0_lowerOf_4 : decode cX0_lowerOf 4 = .ok (.aload_n 1, 1) := dk_43 (dk_at dksX0_lowerOf_0 4 rfl rfl)
theorem dX0_lowerOf_5 : decode cX0_lowerOf 5 = .ok (.invokevirtual 310, 3) := dk_182 1 54 (dk_at dksX0_lowerOf_0 5 rfl rfl)
theorem dX0_lowerOf_8 : decode cX0_lowerOf 8 = .ok (.aload_n 0, 1) := dk_42 (dk_at dksX0_lowerOf_0 8 rfl rfl)
theorem dX0_lowerOf_9 : decode cX0_lowerOf 9 = .ok (.aload_n 1, 1) := dk_43 (dk_at dksX0_lowerOf_0 9 rfl rfl)
theorem dX0_lowerOf_10 : decode cX0_lowerOf 10 = .ok (.aload_n 0, 1) := dk_42 (dk_at dksX0_lowerOf_0 10 rfl rfl)
theorem dX0_lowerOf_11 : decode cX0_lowerOf 11 = .ok (.getfield 88, 3) := dk_180 0 88 (dk_at dksX0_lowerOf_0 11 rfl rfl)
theorem dX0_lowerOf_14 : decode cX0_lowerOf 14 = .ok (.iload_n 2, 1) := dk_28 (dk_at dksX0_lowerOf_0 14 rfl rfl)
theorem dX0_lowerOf_15 : decode cX0_lowerOf 15 = .ok (.iconst 0, 1) := dk_3 (dk_at dksX0_lowerOf_0 15 rfl rfl)
theorem dX0_lowerOf_16 : decode cX0_lowerOf 16 = .ok (.invokevirtual 339, 3) := dk_182 1 83 (dk_at dksX0_lowerOf_0 16 rfl rfl)
theorem dX0_lowerOf_19 : decode cX0_lowerOf 19 = .ok (.ireturn, 1) := dk_172 (dk_at dksX0_lowerOf_0 19 rfl rfl)
abbrev cX0_centre : ByteArray := prog_1_method_51_code
def dkwX0_centre_0 : List UInt8 := [42, 42, 42, 180, 0, 30, 182, 1, 103, 182, 0, 235, 172]
abbrev dktX0_centre_0 : List UInt8 := dkwX0_centre_0 ++ []
theorem dksX0_centre_0 : cX0_centre.data.toList.drop 0 = dktX0_centre_0 := by decide +kernel
theorem dX0_centre_0 : decode cX0_centre 0 = .ok (.aload_n 0, 1) := dk_42 (dk_at dksX0_centre_0 0 rfl rfl)
theorem dX0_centre_1 : decode cX0_centre 1 = .ok (.aload_n 0, 1) := dk_42 (dk_at dksX0_centre_0 1 rfl rfl)
theorem dX0_centre_2 : decode cX0_centre 2 = .ok (.aload_n 0, 1) := dk_42 (dk_at dksX0_centre_0 2 rfl rfl)
theorem dX0_centre_3 : decode cX0_centre 3 = .ok (.getfield 30, 3) := dk_180 0 30 (dk_at dksX0_centre_0 3 rfl rfl)
theorem dX0_centre_6 : decode cX0_centre 6 = .ok (.invokevirtual 359, 3) := dk_182 1 103 (dk_at dksX0_centre_0 6 rfl rfl)
theorem dX0_centre_9 : decode cX0_centre 9 = .ok (.invokevirtual 235, 3) := dk_182 0 235 (dk_at dksX0_centre_0 9 rfl rfl)
theorem dX0_centre_12 : decode cX0_centre 12 = .ok (.ireturn, 1) := dk_172 (dk_at dksX0_centre_0 12 rfl rfl)
abbrev cX0_centreOf : ByteArray := prog_1_method_50_code
def dkwX0_centreOf_4 : List UInt8 := [180, 0, 196, 104, 182, 1, 99, 100, 172]
abbrev dktX0_centreOf_4 : List UInt8 := dkwX0_centreOf_4 ++ []
def dkwX0_centreOf_3 : List UInt8 := [132, 2, 1, 167, 255, 201, 43, 180, 0, 196, 43, 42, 180, 0, 93, 43, 180, 0, 196, 43, 180, 0, 196, 43]
abbrev dktX0_centreOf_3 : List UInt8 := dkwX0_centreOf_3 ++ dktX0_centreOf_4
def dkwX0_centreOf_2 : List UInt8 := [180, 0, 93, 28, 50, 29, 43, 180, 0, 196, 104, 43, 180, 0, 196, 184, 0, 188, 132, 3, 1, 167, 255, 217]
abbrev dktX0_centreOf_2 : List UInt8 := dkwX0_centreOf_2 ++ dktX0_centreOf_3
def dkwX0_centreOf_1 : List UInt8 := [162, 0, 53, 3, 62, 29, 43, 180, 0, 196, 162, 0, 37, 43, 180, 1, 0, 28, 50, 29, 50, 3, 42]
abbrev dktX0_centreOf_1 : List UInt8 := dkwX0_centreOf_1 ++ dktX0_centreOf_2
def dkwX0_centreOf_0 : List UInt8 := [42, 43, 180, 0, 196, 43, 180, 0, 196, 43, 180, 0, 196, 104, 182, 1, 96, 3, 61, 28, 43, 180, 0, 196]
abbrev dktX0_centreOf_0 : List UInt8 := dkwX0_centreOf_0 ++ dktX0_centreOf_1
theorem dksX0_centreOf_0 : cX0_centreOf.data.toList.drop 0 = dktX0_centreOf_0 := by decide +kernel
theorem dksX0_centreOf_1 : cX0_centreOf.data.toList.drop 24 = dktX0_centreOf_1 := dk_seg dksX0_centreOf_0 24 rfl rfl
theorem dksX0_centreOf_2 : cX0_centreOf.data.toList.drop 47 = dktX0_centreOf_2 := dk_seg dksX0_centreOf_1 23 rfl rfl
theorem dksX0_centreOf_3 : cX0_centreOf.data.toList.drop 71 = dktX0_centreOf_3 := dk_seg dksX0_centreOf_2 24 rfl rfl
theorem dksX0_centreOf_4 : cX0_centreOf.data.toList.drop 95 = dktX0_centreOf_4 := dk_seg dksX0_centreOf_3 24 rfl rfl
theorem dX0_centreOf_0 : decode cX0_centreOf 0 = .ok (.aload_n 0, 1) := dk_42 (dk_at dksX0_centreOf_0 0 rfl rfl)
theorem dX0_centreOf_1 : decode cX0_centreOf 1 = .ok (.aload_n 1, 1) := dk_43 (dk_at dksX0_centreOf_0 1 rfl rfl)
theorem dX0_centreOf_2 : decode cX0_centreOf 2 = .ok (.getfield 196, 3) := dk_180 0 196 (dk_at dksX0_centreOf_0 2 rfl rfl)
theorem dX0_centreOf_5 : decode cX0_centreOf 5 = .ok (.aload_n 1, 1) := dk_43 (dk_at dksX0_centreOf_0 5 rfl rfl)
theorem dX0_centreOf_6 : decode cX0_centreOf 6 = .ok (.getfield 196, 3) := dk_180 0 196 (dk_at dksX0_centreOf_0 6 rfl rfl)
theorem dX0_centreOf_9 : decode cX0_centreOf 9 = .ok (.aload_n 1, 1) := dk_43 (dk_at dksX0_centreOf_0 9 rfl rfl)
theorem dX0_centreOf_10 : decode cX0_centreOf 10 = .ok (.getfield 196, 3) := dk_180 0 196 (dk_at dksX0_centreOf_0 10 rfl rfl)
theorem dX0_centreOf_13 : decode cX0_centreOf 13 = .ok (.imul, 1) := dk_104 (dk_at dksX0_centreOf_0 13 rfl rfl)
theorem dX0_centreOf_14 : decode cX0_centreOf 14 = .ok (.invokevirtual 352, 3) := dk_182 1 96 (dk_at dksX0_centreOf_0 14 rfl rfl)
theorem dX0_centreOf_17 : decode cX0_centreOf 17 = .ok (.iconst 0, 1) := dk_3 (dk_at dksX0_centreOf_0 17 rfl rfl)
theorem dX0_centreOf_18 : decode cX0_centreOf 18 = .ok (.istore_n 2, 1) := dk_61 (dk_at dksX0_centreOf_0 18 rfl rfl)
theorem dX0_centreOf_19 : decode cX0_centreOf 19 = .ok (.iload_n 2, 1) := dk_28 (dk_at dksX0_centreOf_0 19 rfl rfl)
theorem dX0_centreOf_20 : decode cX0_centreOf 20 = .ok (.aload_n 1, 1) := dk_43 (dk_at dksX0_centreOf_0 20 rfl rfl)
theorem dX0_centreOf_21 : decode cX0_centreOf 21 = .ok (.getfield 196, 3) := dk_180 0 196 (dk_at dksX0_centreOf_0 21 rfl rfl)
theorem dX0_centreOf_24 : decode cX0_centreOf 24 = .ok (.if_icmp .ge 53, 3) := dk_162 0 53 (dk_at dksX0_centreOf_1 0 rfl rfl)
theorem dX0_centreOf_27 : decode cX0_centreOf 27 = .ok (.iconst 0, 1) := dk_3 (dk_at dksX0_centreOf_1 3 rfl rfl)
theorem dX0_centreOf_28 : decode cX0_centreOf 28 = .ok (.istore_n 3, 1) := dk_62 (dk_at dksX0_centreOf_1 4 rfl rfl)
theorem dX0_centreOf_29 : decode cX0_centreOf 29 = .ok (.iload_n 3, 1) := dk_29 (dk_at dksX0_centreOf_1 5 rfl rfl)
theorem dX0_centreOf_30 : decode cX0_centreOf 30 = .ok (.aload_n 1, 1) := dk_43 (dk_at dksX0_centreOf_1 6 rfl rfl)
theorem dX0_centreOf_31 : decode cX0_centreOf 31 = .ok (.getfield 196, 3) := dk_180 0 196 (dk_at dksX0_centreOf_1 7 rfl rfl)
theorem dX0_centreOf_34 : decode cX0_centreOf 34 = .ok (.if_icmp .ge 37, 3) := dk_162 0 37 (dk_at dksX0_centreOf_1 10 rfl rfl)
theorem dX0_centreOf_37 : decode cX0_centreOf 37 = .ok (.aload_n 1, 1) := dk_43 (dk_at dksX0_centreOf_1 13 rfl rfl)
theorem dX0_centreOf_38 : decode cX0_centreOf 38 = .ok (.getfield 256, 3) := dk_180 1 0 (dk_at dksX0_centreOf_1 14 rfl rfl)
theorem dX0_centreOf_41 : decode cX0_centreOf 41 = .ok (.iload_n 2, 1) := dk_28 (dk_at dksX0_centreOf_1 17 rfl rfl)
theorem dX0_centreOf_42 : decode cX0_centreOf 42 = .ok (.aaload, 1) := dk_50 (dk_at dksX0_centreOf_1 18 rfl rfl)
theorem dX0_centreOf_43 : decode cX0_centreOf 43 = .ok (.iload_n 3, 1) := dk_29 (dk_at dksX0_centreOf_1 19 rfl rfl)
theorem dX0_centreOf_44 : decode cX0_centreOf 44 = .ok (.aaload, 1) := dk_50 (dk_at dksX0_centreOf_1 20 rfl rfl)
theorem dX0_centreOf_45 : decode cX0_centreOf 45 = .ok (.iconst 0, 1) := dk_3 (dk_at dksX0_centreOf_1 21 rfl rfl)
theorem dX0_centreOf_46 : decode cX0_centreOf 46 = .ok (.aload_n 0, 1) := dk_42 (dk_at dksX0_centreOf_1 22 rfl rfl)
theorem dX0_centreOf_47 : decode cX0_centreOf 47 = .ok (.getfield 93, 3) := dk_180 0 93 (dk_at dksX0_centreOf_2 0 rfl rfl)
theorem dX0_centreOf_50 : decode cX0_centreOf 50 = .ok (.iload_n 2, 1) := dk_28 (dk_at dksX0_centreOf_2 3 rfl rfl)
theorem dX0_centreOf_51 : decode cX0_centreOf 51 = .ok (.aaload, 1) := dk_50 (dk_at dksX0_centreOf_2 4 rfl rfl)
theorem dX0_centreOf_52 : decode cX0_centreOf 52 = .ok (.iload_n 3, 1) := dk_29 (dk_at dksX0_centreOf_2 5 rfl rfl)
theorem dX0_centreOf_53 : decode cX0_centreOf 53 = .ok (.aload_n 1, 1) := dk_43 (dk_at dksX0_centreOf_2 6 rfl rfl)
theorem dX0_centreOf_54 : decode cX0_centreOf 54 = .ok (.getfield 196, 3) := dk_180 0 196 (dk_at dksX0_centreOf_2 7 rfl rfl)
theorem dX0_centreOf_57 : decode cX0_centreOf 57 = .ok (.imul, 1) := dk_104 (dk_at dksX0_centreOf_2 10 rfl rfl)
theorem dX0_centreOf_58 : decode cX0_centreOf 58 = .ok (.aload_n 1, 1) := dk_43 (dk_at dksX0_centreOf_2 11 rfl rfl)
theorem dX0_centreOf_59 : decode cX0_centreOf 59 = .ok (.getfield 196, 3) := dk_180 0 196 (dk_at dksX0_centreOf_2 12 rfl rfl)
theorem dX0_centreOf_62 : decode cX0_centreOf 62 = .ok (.invokestatic 188, 3) := dk_184 0 188 (dk_at dksX0_centreOf_2 15 rfl rfl)
theorem dX0_centreOf_65 : decode cX0_centreOf 65 = .ok (.iinc 3 1, 3) := dk_132 3 1 (dk_at dksX0_centreOf_2 18 rfl rfl)
theorem dX0_centreOf_68 : decode cX0_centreOf 68 = .ok (.goto (-39), 3) := dk_167 255 217 (dk_at dksX0_centreOf_2 21 rfl rfl)
theorem dX0_centreOf_71 : decode cX0_centreOf 71 = .ok (.iinc 2 1, 3) := dk_132 2 1 (dk_at dksX0_centreOf_3 0 rfl rfl)
theorem dX0_centreOf_74 : decode cX0_centreOf 74 = .ok (.goto (-55), 3) := dk_167 255 201 (dk_at dksX0_centreOf_3 3 rfl rfl)
theorem dX0_centreOf_77 : decode cX0_centreOf 77 = .ok (.aload_n 1, 1) := dk_43 (dk_at dksX0_centreOf_3 6 rfl rfl)
theorem dX0_centreOf_78 : decode cX0_centreOf 78 = .ok (.getfield 196, 3) := dk_180 0 196 (dk_at dksX0_centreOf_3 7 rfl rfl)
theorem dX0_centreOf_81 : decode cX0_centreOf 81 = .ok (.aload_n 1, 1) := dk_43 (dk_at dksX0_centreOf_3 10 rfl rfl)
theorem dX0_centreOf_82 : decode cX0_centreOf 82 = .ok (.aload_n 0, 1) := dk_42 (dk_at dksX0_centreOf_3 11 rfl rfl)
theorem dX0_centreOf_83 : decode cX0_centreOf 83 = .ok (.getfield 93, 3) := dk_180 0 93 (dk_at dksX0_centreOf_3 12 rfl rfl)
theorem dX0_centreOf_86 : decode cX0_centreOf 86 = .ok (.aload_n 1, 1) := dk_43 (dk_at dksX0_centreOf_3 15 rfl rfl)
theorem dX0_centreOf_87 : decode cX0_centreOf 87 = .ok (.getfield 196, 3) := dk_180 0 196 (dk_at dksX0_centreOf_3 16 rfl rfl)
theorem dX0_centreOf_90 : decode cX0_centreOf 90 = .ok (.aload_n 1, 1) := dk_43 (dk_at dksX0_centreOf_3 19 rfl rfl)
theorem dX0_centreOf_91 : decode cX0_centreOf 91 = .ok (.getfield 196, 3) := dk_180 0 196 (dk_at dksX0_centreOf_3 20 rfl rfl)
theorem dX0_centreOf_94 : decode cX0_centreOf 94 = .ok (.aload_n 1, 1) := dk_43 (dk_at dksX0_centreOf_3 23 rfl rfl)
theorem dX0_centreOf_95 : decode cX0_centreOf 95 = .ok (.getfield 196, 3) := dk_180 0 196 (dk_at dksX0_centreOf_4 0 rfl rfl)
theorem dX0_centreOf_98 : decode cX0_centreOf 98 = .ok (.imul, 1) := dk_104 (dk_at dksX0_centreOf_4 3 rfl rfl)
theorem dX0_centreOf_99 : decode cX0_centreOf 99 = .ok (.invokevirtual 355, 3) := dk_182 1 99 (dk_at dksX0_centreOf_4 4 rfl rfl)
theorem dX0_centreOf_102 : decode cX0_centreOf 102 = .ok (.isub, 1) := dk_100 (dk_at dksX0_centreOf_4 7 rfl rfl)
theorem dX0_centreOf_103 : decode cX0_centreOf 103 = .ok (.ireturn, 1) := dk_172 (dk_at dksX0_centreOf_4 8 rfl rfl)
abbrev cX0_clearRows : ByteArray := prog_1_method_49_code
def dkwX0_clearRows_1 : List UInt8 := [3, 79, 132, 4, 1, 167, 255, 237, 132, 3, 1, 167, 255, 223, 177]
abbrev dktX0_clearRows_1 : List UInt8 := dkwX0_clearRows_1 ++ []
def dkwX0_clearRows_0 : List UInt8 := [3, 62, 29, 27, 162, 0, 34, 3, 54, 4, 21, 4, 28, 162, 0, 19, 42, 180, 0, 93, 29, 50, 21, 4]
abbrev dktX0_clearRows_0 : List UInt8 := dkwX0_clearRows_0 ++ dktX0_clearRows_1
theorem dksX0_clearRows_0 : cX0_clearRows.data.toList.drop 0 = dktX0_clearRows_0 := by decide +kernel
theorem dksX0_clearRows_1 : cX0_clearRows.data.toList.drop 24 = dktX0_clearRows_1 := dk_seg dksX0_clearRows_0 24 rfl rfl
theorem dX0_clearRows_0 : decode cX0_clearRows 0 = .ok (.iconst 0, 1) := dk_3 (dk_at dksX0_clearRows_0 0 rfl rfl)
theorem dX0_clearRows_1 : decode cX0_clearRows 1 = .ok (.istore_n 3, 1) := dk_62 (dk_at dksX0_clearRows_0 1 rfl rfl)
theorem dX0_clearRows_2 : decode cX0_clearRows 2 = .ok (.iload_n 3, 1) := dk_29 (dk_at dksX0_clearRows_0 2 rfl rfl)
theorem dX0_clearRows_3 : decode cX0_clearRows 3 = .ok (.iload_n 1, 1) := dk_27 (dk_at dksX0_clearRows_0 3 rfl rfl)
theorem dX0_clearRows_4 : decode cX0_clearRows 4 = .ok (.if_icmp .ge 34, 3) := dk_162 0 34 (dk_at dksX0_clearRows_0 4 rfl rfl)
theorem dX0_clearRows_7 : decode cX0_clearRows 7 = .ok (.iconst 0, 1) := dk_3 (dk_at dksX0_clearRows_0 7 rfl rfl)
theorem dX0_clearRows_8 : decode cX0_clearRows 8 = .ok (.istore 4, 2) := dk_54 4 (dk_at dksX0_clearRows_0 8 rfl rfl)
theorem dX0_clearRows_10 : decode cX0_clearRows 10 = .ok (.iload 4, 2) := dk_21 4 (dk_at dksX0_clearRows_0 10 rfl rfl)
theorem dX0_clearRows_12 : decode cX0_clearRows 12 = .ok (.iload_n 2, 1) := dk_28 (dk_at dksX0_clearRows_0 12 rfl rfl)
theorem dX0_clearRows_13 : decode cX0_clearRows 13 = .ok (.if_icmp .ge 19, 3) := dk_162 0 19 (dk_at dksX0_clearRows_0 13 rfl rfl)
theorem dX0_clearRows_16 : decode cX0_clearRows 16 = .ok (.aload_n 0, 1) := dk_42 (dk_at dksX0_clearRows_0 16 rfl rfl)
theorem dX0_clearRows_17 : decode cX0_clearRows 17 = .ok (.getfield 93, 3) := dk_180 0 93 (dk_at dksX0_clearRows_0 17 rfl rfl)
theorem dX0_clearRows_20 : decode cX0_clearRows 20 = .ok (.iload_n 3, 1) := dk_29 (dk_at dksX0_clearRows_0 20 rfl rfl)
theorem dX0_clearRows_21 : decode cX0_clearRows 21 = .ok (.aaload, 1) := dk_50 (dk_at dksX0_clearRows_0 21 rfl rfl)
theorem dX0_clearRows_22 : decode cX0_clearRows 22 = .ok (.iload 4, 2) := dk_21 4 (dk_at dksX0_clearRows_0 22 rfl rfl)
theorem dX0_clearRows_24 : decode cX0_clearRows 24 = .ok (.iconst 0, 1) := dk_3 (dk_at dksX0_clearRows_1 0 rfl rfl)
theorem dX0_clearRows_25 : decode cX0_clearRows 25 = .ok (.iastore, 1) := dk_79 (dk_at dksX0_clearRows_1 1 rfl rfl)
theorem dX0_clearRows_26 : decode cX0_clearRows 26 = .ok (.iinc 4 1, 3) := dk_132 4 1 (dk_at dksX0_clearRows_1 2 rfl rfl)
theorem dX0_clearRows_29 : decode cX0_clearRows 29 = .ok (.goto (-19), 3) := dk_167 255 237 (dk_at dksX0_clearRows_1 5 rfl rfl)
theorem dX0_clearRows_32 : decode cX0_clearRows 32 = .ok (.iinc 3 1, 3) := dk_132 3 1 (dk_at dksX0_clearRows_1 8 rfl rfl)
theorem dX0_clearRows_35 : decode cX0_clearRows 35 = .ok (.goto (-33), 3) := dk_167 255 223 (dk_at dksX0_clearRows_1 11 rfl rfl)
theorem dX0_clearRows_38 : decode cX0_clearRows 38 = .ok (.return_, 1) := dk_177 (dk_at dksX0_clearRows_1 14 rfl rfl)
abbrev cX0_centralizer : ByteArray := prog_1_method_53_code
def dkwX0_centralizer_1 : List UInt8 := [182, 1, 107, 100, 182, 0, 235, 167, 0, 8, 42, 5, 182, 0, 171, 172]
abbrev dktX0_centralizer_1 : List UInt8 := dkwX0_centralizer_1 ++ []
def dkwX0_centralizer_0 : List UInt8 := [42, 27, 133, 182, 1, 10, 153, 0, 27, 42, 42, 180, 0, 30, 180, 0, 196, 42, 42, 180, 0, 30, 27]
abbrev dktX0_centralizer_0 : List UInt8 := dkwX0_centralizer_0 ++ dktX0_centralizer_1
theorem dksX0_centralizer_0 : cX0_centralizer.data.toList.drop 0 = dktX0_centralizer_0 := by decide +kernel
theorem dksX0_centralizer_1 : cX0_centralizer.data.toList.drop 23 = dktX0_centralizer_1 := dk_seg dksX0_centralizer_0 23 rfl rfl
theorem dX0_centralizer_0 : decode cX0_centralizer 0 = .ok (.aload_n 0, 1) := dk_42 (dk_at dksX0_centralizer_0 0 rfl rfl)
theorem dX0_centralizer_1 : decode cX0_centralizer 1 = .ok (.iload_n 1, 1) := dk_27 (dk_at dksX0_centralizer_0 1 rfl rfl)
theorem dX0_centralizer_2 : decode cX0_centralizer 2 = .ok (.i2l, 1) := dk_133 (dk_at dksX0_centralizer_0 2 rfl rfl)
theorem dX0_centralizer_3 : decode cX0_centralizer 3 = .ok (.invokevirtual 266, 3) := dk_182 1 10 (dk_at dksX0_centralizer_0 3 rfl rfl)
theorem dX0_centralizer_6 : decode cX0_centralizer 6 = .ok (.ifCond .eq 27, 3) := dk_153 0 27 (dk_at dksX0_centralizer_0 6 rfl rfl)
theorem dX0_centralizer_9 : decode cX0_centralizer 9 = .ok (.aload_n 0, 1) := dk_42 (dk_at dksX0_centralizer_0 9 rfl rfl)
theorem dX0_centralizer_10 : decode cX0_centralizer 10 = .ok (.aload_n 0, 1) := dk_42 (dk_at dksX0_centralizer_0 10 rfl rfl)
theorem dX0_centralizer_11 : decode cX0_centralizer 11 = .ok (.getfield 30, 3) := dk_180 0 30 (dk_at dksX0_centralizer_0 11 rfl rfl)
theorem dX0_centralizer_14 : decode cX0_centralizer 14 = .ok (.getfield 196, 3) := dk_180 0 196 (dk_at dksX0_centralizer_0 14 rfl rfl)
theorem dX0_centralizer_17 : decode cX0_centralizer 17 = .ok (.aload_n 0, 1) := dk_42 (dk_at dksX0_centralizer_0 17 rfl rfl)
theorem dX0_centralizer_18 : decode cX0_centralizer 18 = .ok (.aload_n 0, 1) := dk_42 (dk_at dksX0_centralizer_0 18 rfl rfl)
theorem dX0_centralizer_19 : decode cX0_centralizer 19 = .ok (.getfield 30, 3) := dk_180 0 30 (dk_at dksX0_centralizer_0 19 rfl rfl)
theorem dX0_centralizer_22 : decode cX0_centralizer 22 = .ok (.iload_n 1, 1) := dk_27 (dk_at dksX0_centralizer_0 22 rfl rfl)
theorem dX0_centralizer_23 : decode cX0_centralizer 23 = .ok (.invokevirtual 363, 3) := dk_182 1 107 (dk_at dksX0_centralizer_1 0 rfl rfl)
theorem dX0_centralizer_26 : decode cX0_centralizer 26 = .ok (.isub, 1) := dk_100 (dk_at dksX0_centralizer_1 3 rfl rfl)
theorem dX0_centralizer_27 : decode cX0_centralizer 27 = .ok (.invokevirtual 235, 3) := dk_182 0 235 (dk_at dksX0_centralizer_1 4 rfl rfl)
theorem dX0_centralizer_30 : decode cX0_centralizer 30 = .ok (.goto 8, 3) := dk_167 0 8 (dk_at dksX0_centralizer_1 7 rfl rfl)
theorem dX0_centralizer_33 : decode cX0_centralizer 33 = .ok (.aload_n 0, 1) := dk_42 (dk_at dksX0_centralizer_1 10 rfl rfl)
theorem dX0_centralizer_34 : decode cX0_centralizer 34 = .ok (.iconst 2, 1) := dk_5 (dk_at dksX0_centralizer_1 11 rfl rfl)
theorem dX0_centralizer_35 : decode cX0_centralizer 35 = .ok (.invokevirtual 171, 3) := dk_182 0 171 (dk_at dksX0_centralizer_1 12 rfl rfl)
theorem dX0_centralizer_38 : decode cX0_centralizer 38 = .ok (.ireturn, 1) := dk_172 (dk_at dksX0_centralizer_1 15 rfl rfl)
abbrev cX0_rankOf : ByteArray := prog_1_method_52_code
def dkwX0_rankOf_3 : List UInt8 := [132, 3, 1, 167, 255, 194, 43, 42, 180, 0, 93, 43, 180, 0, 196, 43, 180, 0, 196, 182, 1, 99, 172]
abbrev dktX0_rankOf_3 : List UInt8 := dkwX0_rankOf_3 ++ []
def dkwX0_rankOf_2 : List UInt8 := [132, 4, 1, 167, 255, 229, 43, 42, 180, 0, 56, 42, 180, 0, 60, 42, 180, 0, 93, 29, 50, 182, 1, 18]
abbrev dktX0_rankOf_2 : List UInt8 := dkwX0_rankOf_2 ++ dktX0_rankOf_3
def dkwX0_rankOf_1 : List UInt8 := [8, 162, 0, 27, 42, 180, 0, 60, 21, 4, 21, 4, 29, 160, 0, 7, 4, 167, 0, 4, 3, 79]
abbrev dktX0_rankOf_1 : List UInt8 := dkwX0_rankOf_1 ++ dktX0_rankOf_2
def dkwX0_rankOf_0 : List UInt8 := [43, 28, 42, 180, 0, 56, 182, 1, 14, 3, 62, 29, 43, 180, 0, 196, 162, 0, 60, 3, 54, 4, 21, 4]
abbrev dktX0_rankOf_0 : List UInt8 := dkwX0_rankOf_0 ++ dktX0_rankOf_1
theorem dksX0_rankOf_0 : cX0_rankOf.data.toList.drop 0 = dktX0_rankOf_0 := by decide +kernel
theorem dksX0_rankOf_1 : cX0_rankOf.data.toList.drop 24 = dktX0_rankOf_1 := dk_seg dksX0_rankOf_0 24 rfl rfl
theorem dksX0_rankOf_2 : cX0_rankOf.data.toList.drop 46 = dktX0_rankOf_2 := dk_seg dksX0_rankOf_1 22 rfl rfl
theorem dksX0_rankOf_3 : cX0_rankOf.data.toList.drop 70 = dktX0_rankOf_3 := dk_seg dksX0_rankOf_2 24 rfl rfl
theorem dX0_rankOf_0 : decode cX0_rankOf 0 = .ok (.aload_n 1, 1) := dk_43 (dk_at dksX0_rankOf_0 0 rfl rfl)
theorem dX0_rankOf_1 : decode cX0_rankOf 1 = .ok (.iload_n 2, 1) := dk_28 (dk_at dksX0_rankOf_0 1 rfl rfl)
theorem dX0_rankOf_2 : decode cX0_rankOf 2 = .ok (.aload_n 0, 1) := dk_42 (dk_at dksX0_rankOf_0 2 rfl rfl)
theorem dX0_rankOf_3 : decode cX0_rankOf 3 = .ok (.getfield 56, 3) := dk_180 0 56 (dk_at dksX0_rankOf_0 3 rfl rfl)
theorem dX0_rankOf_6 : decode cX0_rankOf 6 = .ok (.invokevirtual 270, 3) := dk_182 1 14 (dk_at dksX0_rankOf_0 6 rfl rfl)
theorem dX0_rankOf_9 : decode cX0_rankOf 9 = .ok (.iconst 0, 1) := dk_3 (dk_at dksX0_rankOf_0 9 rfl rfl)
theorem dX0_rankOf_10 : decode cX0_rankOf 10 = .ok (.istore_n 3, 1) := dk_62 (dk_at dksX0_rankOf_0 10 rfl rfl)
theorem dX0_rankOf_11 : decode cX0_rankOf 11 = .ok (.iload_n 3, 1) := dk_29 (dk_at dksX0_rankOf_0 11 rfl rfl)
theorem dX0_rankOf_12 : decode cX0_rankOf 12 = .ok (.aload_n 1, 1) := dk_43 (dk_at dksX0_rankOf_0 12 rfl rfl)
theorem dX0_rankOf_13 : decode cX0_rankOf 13 = .ok (.getfield 196, 3) := dk_180 0 196 (dk_at dksX0_rankOf_0 13 rfl rfl)
theorem dX0_rankOf_16 : decode cX0_rankOf 16 = .ok (.if_icmp .ge 60, 3) := dk_162 0 60 (dk_at dksX0_rankOf_0 16 rfl rfl)
theorem dX0_rankOf_19 : decode cX0_rankOf 19 = .ok (.iconst 0, 1) := dk_3 (dk_at dksX0_rankOf_0 19 rfl rfl)
theorem dX0_rankOf_20 : decode cX0_rankOf 20 = .ok (.istore 4, 2) := dk_54 4 (dk_at dksX0_rankOf_0 20 rfl rfl)
theorem dX0_rankOf_22 : decode cX0_rankOf 22 = .ok (.iload 4, 2) := dk_21 4 (dk_at dksX0_rankOf_0 22 rfl rfl)
theorem dX0_rankOf_24 : decode cX0_rankOf 24 = .ok (.iconst 5, 1) := dk_8 (dk_at dksX0_rankOf_1 0 rfl rfl)
theorem dX0_rankOf_25 : decode cX0_rankOf 25 = .ok (.if_icmp .ge 27, 3) := dk_162 0 27 (dk_at dksX0_rankOf_1 1 rfl rfl)
theorem dX0_rankOf_28 : decode cX0_rankOf 28 = .ok (.aload_n 0, 1) := dk_42 (dk_at dksX0_rankOf_1 4 rfl rfl)
theorem dX0_rankOf_29 : decode cX0_rankOf 29 = .ok (.getfield 60, 3) := dk_180 0 60 (dk_at dksX0_rankOf_1 5 rfl rfl)
theorem dX0_rankOf_32 : decode cX0_rankOf 32 = .ok (.iload 4, 2) := dk_21 4 (dk_at dksX0_rankOf_1 8 rfl rfl)
theorem dX0_rankOf_34 : decode cX0_rankOf 34 = .ok (.iload 4, 2) := dk_21 4 (dk_at dksX0_rankOf_1 10 rfl rfl)
theorem dX0_rankOf_36 : decode cX0_rankOf 36 = .ok (.iload_n 3, 1) := dk_29 (dk_at dksX0_rankOf_1 12 rfl rfl)
theorem dX0_rankOf_37 : decode cX0_rankOf 37 = .ok (.if_icmp .ne 7, 3) := dk_160 0 7 (dk_at dksX0_rankOf_1 13 rfl rfl)
theorem dX0_rankOf_40 : decode cX0_rankOf 40 = .ok (.iconst 1, 1) := dk_4 (dk_at dksX0_rankOf_1 16 rfl rfl)
theorem dX0_rankOf_41 : decode cX0_rankOf 41 = .ok (.goto 4, 3) := dk_167 0 4 (dk_at dksX0_rankOf_1 17 rfl rfl)
theorem dX0_rankOf_44 : decode cX0_rankOf 44 = .ok (.iconst 0, 1) := dk_3 (dk_at dksX0_rankOf_1 20 rfl rfl)
theorem dX0_rankOf_45 : decode cX0_rankOf 45 = .ok (.iastore, 1) := dk_79 (dk_at dksX0_rankOf_1 21 rfl rfl)
theorem dX0_rankOf_46 : decode cX0_rankOf 46 = .ok (.iinc 4 1, 3) := dk_132 4 1 (dk_at dksX0_rankOf_2 0 rfl rfl)
theorem dX0_rankOf_49 : decode cX0_rankOf 49 = .ok (.goto (-27), 3) := dk_167 255 229 (dk_at dksX0_rankOf_2 3 rfl rfl)
theorem dX0_rankOf_52 : decode cX0_rankOf 52 = .ok (.aload_n 1, 1) := dk_43 (dk_at dksX0_rankOf_2 6 rfl rfl)
theorem dX0_rankOf_53 : decode cX0_rankOf 53 = .ok (.aload_n 0, 1) := dk_42 (dk_at dksX0_rankOf_2 7 rfl rfl)
theorem dX0_rankOf_54 : decode cX0_rankOf 54 = .ok (.getfield 56, 3) := dk_180 0 56 (dk_at dksX0_rankOf_2 8 rfl rfl)
theorem dX0_rankOf_57 : decode cX0_rankOf 57 = .ok (.aload_n 0, 1) := dk_42 (dk_at dksX0_rankOf_2 11 rfl rfl)
theorem dX0_rankOf_58 : decode cX0_rankOf 58 = .ok (.getfield 60, 3) := dk_180 0 60 (dk_at dksX0_rankOf_2 12 rfl rfl)
theorem dX0_rankOf_61 : decode cX0_rankOf 61 = .ok (.aload_n 0, 1) := dk_42 (dk_at dksX0_rankOf_2 15 rfl rfl)
theorem dX0_rankOf_62 : decode cX0_rankOf 62 = .ok (.getfield 93, 3) := dk_180 0 93 (dk_at dksX0_rankOf_2 16 rfl rfl)
theorem dX0_rankOf_65 : decode cX0_rankOf 65 = .ok (.iload_n 3, 1) := dk_29 (dk_at dksX0_rankOf_2 19 rfl rfl)
theorem dX0_rankOf_66 : decode cX0_rankOf 66 = .ok (.aaload, 1) := dk_50 (dk_at dksX0_rankOf_2 20 rfl rfl)
theorem dX0_rankOf_67 : decode cX0_rankOf 67 = .ok (.invokevirtual 274, 3) := dk_182 1 18 (dk_at dksX0_rankOf_2 21 rfl rfl)
theorem dX0_rankOf_70 : decode cX0_rankOf 70 = .ok (.iinc 3 1, 3) := dk_132 3 1 (dk_at dksX0_rankOf_3 0 rfl rfl)
theorem dX0_rankOf_73 : decode cX0_rankOf 73 = .ok (.goto (-62), 3) := dk_167 255 194 (dk_at dksX0_rankOf_3 3 rfl rfl)
theorem dX0_rankOf_76 : decode cX0_rankOf 76 = .ok (.aload_n 1, 1) := dk_43 (dk_at dksX0_rankOf_3 6 rfl rfl)
theorem dX0_rankOf_77 : decode cX0_rankOf 77 = .ok (.aload_n 0, 1) := dk_42 (dk_at dksX0_rankOf_3 7 rfl rfl)
theorem dX0_rankOf_78 : decode cX0_rankOf 78 = .ok (.getfield 93, 3) := dk_180 0 93 (dk_at dksX0_rankOf_3 8 rfl rfl)
theorem dX0_rankOf_81 : decode cX0_rankOf 81 = .ok (.aload_n 1, 1) := dk_43 (dk_at dksX0_rankOf_3 11 rfl rfl)
theorem dX0_rankOf_82 : decode cX0_rankOf 82 = .ok (.getfield 196, 3) := dk_180 0 196 (dk_at dksX0_rankOf_3 12 rfl rfl)
theorem dX0_rankOf_85 : decode cX0_rankOf 85 = .ok (.aload_n 1, 1) := dk_43 (dk_at dksX0_rankOf_3 15 rfl rfl)
theorem dX0_rankOf_86 : decode cX0_rankOf 86 = .ok (.getfield 196, 3) := dk_180 0 196 (dk_at dksX0_rankOf_3 16 rfl rfl)
theorem dX0_rankOf_89 : decode cX0_rankOf 89 = .ok (.invokevirtual 355, 3) := dk_182 1 99 (dk_at dksX0_rankOf_3 19 rfl rfl)
theorem dX0_rankOf_92 : decode cX0_rankOf 92 = .ok (.ireturn, 1) := dk_172 (dk_at dksX0_rankOf_3 22 rfl rfl)
abbrev cX0_rank : ByteArray := prog_1_method_54_code
def dkwX0_rank_1 : List UInt8 := [167, 0, 8, 42, 5, 182, 0, 171, 172]
abbrev dktX0_rank_1 : List UInt8 := dkwX0_rank_1 ++ []
def dkwX0_rank_0 : List UInt8 := [42, 27, 133, 182, 1, 10, 153, 0, 19, 42, 42, 42, 180, 0, 30, 27, 182, 1, 107, 182, 0, 235]
abbrev dktX0_rank_0 : List UInt8 := dkwX0_rank_0 ++ dktX0_rank_1
theorem dksX0_rank_0 : cX0_rank.data.toList.drop 0 = dktX0_rank_0 := by decide +kernel
theorem dksX0_rank_1 : cX0_rank.data.toList.drop 22 = dktX0_rank_1 := dk_seg dksX0_rank_0 22 rfl rfl
theorem dX0_rank_0 : decode cX0_rank 0 = .ok (.aload_n 0, 1) := dk_42 (dk_at dksX0_rank_0 0 rfl rfl)
theorem dX0_rank_1 : decode cX0_rank 1 = .ok (.iload_n 1, 1) := dk_27 (dk_at dksX0_rank_0 1 rfl rfl)
theorem dX0_rank_2 : decode cX0_rank 2 = .ok (.i2l, 1) := dk_133 (dk_at dksX0_rank_0 2 rfl rfl)
theorem dX0_rank_3 : decode cX0_rank 3 = .ok (.invokevirtual 266, 3) := dk_182 1 10 (dk_at dksX0_rank_0 3 rfl rfl)
theorem dX0_rank_6 : decode cX0_rank 6 = .ok (.ifCond .eq 19, 3) := dk_153 0 19 (dk_at dksX0_rank_0 6 rfl rfl)
theorem dX0_rank_9 : decode cX0_rank 9 = .ok (.aload_n 0, 1) := dk_42 (dk_at dksX0_rank_0 9 rfl rfl)
theorem dX0_rank_10 : decode cX0_rank 10 = .ok (.aload_n 0, 1) := dk_42 (dk_at dksX0_rank_0 10 rfl rfl)
theorem dX0_rank_11 : decode cX0_rank 11 = .ok (.aload_n 0, 1) := dk_42 (dk_at dksX0_rank_0 11 rfl rfl)
theorem dX0_rank_12 : decode cX0_rank 12 = .ok (.getfield 30, 3) := dk_180 0 30 (dk_at dksX0_rank_0 12 rfl rfl)
theorem dX0_rank_15 : decode cX0_rank 15 = .ok (.iload_n 1, 1) := dk_27 (dk_at dksX0_rank_0 15 rfl rfl)
theorem dX0_rank_16 : decode cX0_rank 16 = .ok (.invokevirtual 363, 3) := dk_182 1 107 (dk_at dksX0_rank_0 16 rfl rfl)
theorem dX0_rank_19 : decode cX0_rank 19 = .ok (.invokevirtual 235, 3) := dk_182 0 235 (dk_at dksX0_rank_0 19 rfl rfl)
theorem dX0_rank_22 : decode cX0_rank 22 = .ok (.goto 8, 3) := dk_167 0 8 (dk_at dksX0_rank_1 0 rfl rfl)
theorem dX0_rank_25 : decode cX0_rank 25 = .ok (.aload_n 0, 1) := dk_42 (dk_at dksX0_rank_1 3 rfl rfl)
theorem dX0_rank_26 : decode cX0_rank 26 = .ok (.iconst 2, 1) := dk_5 (dk_at dksX0_rank_1 4 rfl rfl)
theorem dX0_rank_27 : decode cX0_rank 27 = .ok (.invokevirtual 171, 3) := dk_182 0 171 (dk_at dksX0_rank_1 5 rfl rfl)
theorem dX0_rank_30 : decode cX0_rank 30 = .ok (.ireturn, 1) := dk_172 (dk_at dksX0_rank_1 8 rfl rfl)
abbrev cX0_power : ByteArray := prog_1_method_55_code
def dkwX0_power_8 : List UInt8 := [153, 0, 9, 42, 28, 182, 0, 235, 172, 132, 2, 1, 167, 255, 129, 42, 16, 8, 182, 0, 171, 172]
abbrev dktX0_power_8 : List UInt8 := dkwX0_power_8 ++ []
def dkwX0_power_7 : List UInt8 := [154, 0, 7, 4, 167, 0, 4, 3, 62, 132, 5, 1, 167, 255, 221, 132, 4, 1, 167, 255, 161, 29]
abbrev dktX0_power_7 : List UInt8 := dkwX0_power_7 ++ dktX0_power_8
def dkwX0_power_6 : List UInt8 := [21, 5, 42, 180, 0, 30, 180, 0, 196, 162, 0, 29, 29, 153, 0, 17, 42, 180, 0, 63, 21, 5, 46]
abbrev dktX0_power_6 : List UInt8 := dkwX0_power_6 ++ dktX0_power_7
def dkwX0_power_5 : List UInt8 := [182, 1, 18, 42, 180, 0, 63, 3, 42, 180, 0, 93, 21, 4, 50, 3, 8, 184, 0, 188, 3, 54, 5]
abbrev dktX0_power_5 : List UInt8 := dkwX0_power_5 ++ dktX0_power_6
def dkwX0_power_4 : List UInt8 := [162, 0, 89, 42, 180, 0, 30, 42, 180, 0, 56, 42, 180, 0, 93, 21, 4, 50, 42, 180, 0, 63]
abbrev dktX0_power_4 : List UInt8 := dkwX0_power_4 ++ dktX0_power_5
def dkwX0_power_3 : List UInt8 := [42, 180, 0, 30, 180, 0, 196, 163, 0, 122, 4, 62, 3, 54, 4, 21, 4, 42, 180, 0, 30, 180, 0, 196]
abbrev dktX0_power_3 : List UInt8 := dkwX0_power_3 ++ dktX0_power_4
def dkwX0_power_2 : List UInt8 := [180, 0, 196, 162, 0, 18, 42, 180, 0, 93, 28, 50, 28, 4, 79, 132, 2, 1, 167, 255, 233, 4, 61, 28]
abbrev dktX0_power_2 : List UInt8 := dkwX0_power_2 ++ dktX0_power_3
def dkwX0_power_1 : List UInt8 := [182, 1, 14, 42, 42, 180, 0, 30, 180, 0, 196, 8, 182, 1, 96, 3, 61, 28, 42, 180, 0, 30]
abbrev dktX0_power_1 : List UInt8 := dkwX0_power_1 ++ dktX0_power_2
def dkwX0_power_0 : List UInt8 := [42, 27, 133, 182, 1, 10, 154, 0, 9, 42, 5, 182, 0, 171, 172, 42, 180, 0, 30, 27, 42, 180, 0, 56]
abbrev dktX0_power_0 : List UInt8 := dkwX0_power_0 ++ dktX0_power_1
theorem dksX0_power_0 : cX0_power.data.toList.drop 0 = dktX0_power_0 := by decide +kernel
theorem dksX0_power_1 : cX0_power.data.toList.drop 24 = dktX0_power_1 := dk_seg dksX0_power_0 24 rfl rfl
theorem dksX0_power_2 : cX0_power.data.toList.drop 46 = dktX0_power_2 := dk_seg dksX0_power_1 22 rfl rfl
theorem dksX0_power_3 : cX0_power.data.toList.drop 70 = dktX0_power_3 := dk_seg dksX0_power_2 24 rfl rfl
theorem dksX0_power_4 : cX0_power.data.toList.drop 94 = dktX0_power_4 := dk_seg dksX0_power_3 24 rfl rfl
theorem dksX0_power_5 : cX0_power.data.toList.drop 116 = dktX0_power_5 := dk_seg dksX0_power_4 22 rfl rfl
theorem dksX0_power_6 : cX0_power.data.toList.drop 139 = dktX0_power_6 := dk_seg dksX0_power_5 23 rfl rfl
theorem dksX0_power_7 : cX0_power.data.toList.drop 162 = dktX0_power_7 := dk_seg dksX0_power_6 23 rfl rfl
theorem dksX0_power_8 : cX0_power.data.toList.drop 184 = dktX0_power_8 := dk_seg dksX0_power_7 22 rfl rfl
theorem dX0_power_0 : decode cX0_power 0 = .ok (.aload_n 0, 1) := dk_42 (dk_at dksX0_power_0 0 rfl rfl)
theorem dX0_power_1 : decode cX0_power 1 = .ok (.iload_n 1, 1) := dk_27 (dk_at dksX0_power_0 1 rfl rfl)
theorem dX0_power_2 : decode cX0_power 2 = .ok (.i2l, 1) := dk_133 (dk_at dksX0_power_0 2 rfl rfl)
theorem dX0_power_3 : decode cX0_power 3 = .ok (.invokevirtual 266, 3) := dk_182 1 10 (dk_at dksX0_power_0 3 rfl rfl)
theorem dX0_power_6 : decode cX0_power 6 = .ok (.ifCond .ne 9, 3) := dk_154 0 9 (dk_at dksX0_power_0 6 rfl rfl)
theorem dX0_power_9 : decode cX0_power 9 = .ok (.aload_n 0, 1) := dk_42 (dk_at dksX0_power_0 9 rfl rfl)
theorem dX0_power_10 : decode cX0_power 10 = .ok (.iconst 2, 1) := dk_5 (dk_at dksX0_power_0 10 rfl rfl)
theorem dX0_power_11 : decode cX0_power 11 = .ok (.invokevirtual 171, 3) := dk_182 0 171 (dk_at dksX0_power_0 11 rfl rfl)
theorem dX0_power_14 : decode cX0_power 14 = .ok (.ireturn, 1) := dk_172 (dk_at dksX0_power_0 14 rfl rfl)
theorem dX0_power_15 : decode cX0_power 15 = .ok (.aload_n 0, 1) := dk_42 (dk_at dksX0_power_0 15 rfl rfl)
theorem dX0_power_16 : decode cX0_power 16 = .ok (.getfield 30, 3) := dk_180 0 30 (dk_at dksX0_power_0 16 rfl rfl)
theorem dX0_power_19 : decode cX0_power 19 = .ok (.iload_n 1, 1) := dk_27 (dk_at dksX0_power_0 19 rfl rfl)
theorem dX0_power_20 : decode cX0_power 20 = .ok (.aload_n 0, 1) := dk_42 (dk_at dksX0_power_0 20 rfl rfl)
theorem dX0_power_21 : decode cX0_power 21 = .ok (.getfield 56, 3) := dk_180 0 56 (dk_at dksX0_power_0 21 rfl rfl)
theorem dX0_power_24 : decode cX0_power 24 = .ok (.invokevirtual 270, 3) := dk_182 1 14 (dk_at dksX0_power_1 0 rfl rfl)
theorem dX0_power_27 : decode cX0_power 27 = .ok (.aload_n 0, 1) := dk_42 (dk_at dksX0_power_1 3 rfl rfl)
theorem dX0_power_28 : decode cX0_power 28 = .ok (.aload_n 0, 1) := dk_42 (dk_at dksX0_power_1 4 rfl rfl)
theorem dX0_power_29 : decode cX0_power 29 = .ok (.getfield 30, 3) := dk_180 0 30 (dk_at dksX0_power_1 5 rfl rfl)
theorem dX0_power_32 : decode cX0_power 32 = .ok (.getfield 196, 3) := dk_180 0 196 (dk_at dksX0_power_1 8 rfl rfl)
theorem dX0_power_35 : decode cX0_power 35 = .ok (.iconst 5, 1) := dk_8 (dk_at dksX0_power_1 11 rfl rfl)
theorem dX0_power_36 : decode cX0_power 36 = .ok (.invokevirtual 352, 3) := dk_182 1 96 (dk_at dksX0_power_1 12 rfl rfl)
theorem dX0_power_39 : decode cX0_power 39 = .ok (.iconst 0, 1) := dk_3 (dk_at dksX0_power_1 15 rfl rfl)
theorem dX0_power_40 : decode cX0_power 40 = .ok (.istore_n 2, 1) := dk_61 (dk_at dksX0_power_1 16 rfl rfl)
theorem dX0_power_41 : decode cX0_power 41 = .ok (.iload_n 2, 1) := dk_28 (dk_at dksX0_power_1 17 rfl rfl)
theorem dX0_power_42 : decode cX0_power 42 = .ok (.aload_n 0, 1) := dk_42 (dk_at dksX0_power_1 18 rfl rfl)
theorem dX0_power_43 : decode cX0_power 43 = .ok (.getfield 30, 3) := dk_180 0 30 (dk_at dksX0_power_1 19 rfl rfl)
theorem dX0_power_46 : decode cX0_power 46 = .ok (.getfield 196, 3) := dk_180 0 196 (dk_at dksX0_power_2 0 rfl rfl)
theorem dX0_power_49 : decode cX0_power 49 = .ok (.if_icmp .ge 18, 3) := dk_162 0 18 (dk_at dksX0_power_2 3 rfl rfl)
theorem dX0_power_52 : decode cX0_power 52 = .ok (.aload_n 0, 1) := dk_42 (dk_at dksX0_power_2 6 rfl rfl)
theorem dX0_power_53 : decode cX0_power 53 = .ok (.getfield 93, 3) := dk_180 0 93 (dk_at dksX0_power_2 7 rfl rfl)
theorem dX0_power_56 : decode cX0_power 56 = .ok (.iload_n 2, 1) := dk_28 (dk_at dksX0_power_2 10 rfl rfl)
theorem dX0_power_57 : decode cX0_power 57 = .ok (.aaload, 1) := dk_50 (dk_at dksX0_power_2 11 rfl rfl)
theorem dX0_power_58 : decode cX0_power 58 = .ok (.iload_n 2, 1) := dk_28 (dk_at dksX0_power_2 12 rfl rfl)
theorem dX0_power_59 : decode cX0_power 59 = .ok (.iconst 1, 1) := dk_4 (dk_at dksX0_power_2 13 rfl rfl)
theorem dX0_power_60 : decode cX0_power 60 = .ok (.iastore, 1) := dk_79 (dk_at dksX0_power_2 14 rfl rfl)
theorem dX0_power_61 : decode cX0_power 61 = .ok (.iinc 2 1, 3) := dk_132 2 1 (dk_at dksX0_power_2 15 rfl rfl)
theorem dX0_power_64 : decode cX0_power 64 = .ok (.goto (-23), 3) := dk_167 255 233 (dk_at dksX0_power_2 18 rfl rfl)
theorem dX0_power_67 : decode cX0_power 67 = .ok (.iconst 1, 1) := dk_4 (dk_at dksX0_power_2 21 rfl rfl)
theorem dX0_power_68 : decode cX0_power 68 = .ok (.istore_n 2, 1) := dk_61 (dk_at dksX0_power_2 22 rfl rfl)
theorem dX0_power_69 : decode cX0_power 69 = .ok (.iload_n 2, 1) := dk_28 (dk_at dksX0_power_2 23 rfl rfl)
theorem dX0_power_70 : decode cX0_power 70 = .ok (.aload_n 0, 1) := dk_42 (dk_at dksX0_power_3 0 rfl rfl)
theorem dX0_power_71 : decode cX0_power 71 = .ok (.getfield 30, 3) := dk_180 0 30 (dk_at dksX0_power_3 1 rfl rfl)
theorem dX0_power_74 : decode cX0_power 74 = .ok (.getfield 196, 3) := dk_180 0 196 (dk_at dksX0_power_3 4 rfl rfl)
theorem dX0_power_77 : decode cX0_power 77 = .ok (.if_icmp .gt 122, 3) := dk_163 0 122 (dk_at dksX0_power_3 7 rfl rfl)
theorem dX0_power_80 : decode cX0_power 80 = .ok (.iconst 1, 1) := dk_4 (dk_at dksX0_power_3 10 rfl rfl)
theorem dX0_power_81 : decode cX0_power 81 = .ok (.istore_n 3, 1) := dk_62 (dk_at dksX0_power_3 11 rfl rfl)
theorem dX0_power_82 : decode cX0_power 82 = .ok (.iconst 0, 1) := dk_3 (dk_at dksX0_power_3 12 rfl rfl)
theorem dX0_power_83 : decode cX0_power 83 = .ok (.istore 4, 2) := dk_54 4 (dk_at dksX0_power_3 13 rfl rfl)
theorem dX0_power_85 : decode cX0_power 85 = .ok (.iload 4, 2) := dk_21 4 (dk_at dksX0_power_3 15 rfl rfl)
theorem dX0_power_87 : decode cX0_power 87 = .ok (.aload_n 0, 1) := dk_42 (dk_at dksX0_power_3 17 rfl rfl)
theorem dX0_power_88 : decode cX0_power 88 = .ok (.getfield 30, 3) := dk_180 0 30 (dk_at dksX0_power_3 18 rfl rfl)
theorem dX0_power_91 : decode cX0_power 91 = .ok (.getfield 196, 3) := dk_180 0 196 (dk_at dksX0_power_3 21 rfl rfl)
theorem dX0_power_94 : decode cX0_power 94 = .ok (.if_icmp .ge 89, 3) := dk_162 0 89 (dk_at dksX0_power_4 0 rfl rfl)
theorem dX0_power_97 : decode cX0_power 97 = .ok (.aload_n 0, 1) := dk_42 (dk_at dksX0_power_4 3 rfl rfl)
theorem dX0_power_98 : decode cX0_power 98 = .ok (.getfield 30, 3) := dk_180 0 30 (dk_at dksX0_power_4 4 rfl rfl)
theorem dX0_power_101 : decode cX0_power 101 = .ok (.aload_n 0, 1) := dk_42 (dk_at dksX0_power_4 7 rfl rfl)
theorem dX0_power_102 : decode cX0_power 102 = .ok (.getfield 56, 3) := dk_180 0 56 (dk_at dksX0_power_4 8 rfl rfl)
theorem dX0_power_105 : decode cX0_power 105 = .ok (.aload_n 0, 1) := dk_42 (dk_at dksX0_power_4 11 rfl rfl)
theorem dX0_power_106 : decode cX0_power 106 = .ok (.getfield 93, 3) := dk_180 0 93 (dk_at dksX0_power_4 12 rfl rfl)
theorem dX0_power_109 : decode cX0_power 109 = .ok (.iload 4, 2) := dk_21 4 (dk_at dksX0_power_4 15 rfl rfl)
theorem dX0_power_111 : decode cX0_power 111 = .ok (.aaload, 1) := dk_50 (dk_at dksX0_power_4 17 rfl rfl)
theorem dX0_power_112 : decode cX0_power 112 = .ok (.aload_n 0, 1) := dk_42 (dk_at dksX0_power_4 18 rfl rfl)
theorem dX0_power_113 : decode cX0_power 113 = .ok (.getfield 63, 3) := dk_180 0 63 (dk_at dksX0_power_4 19 rfl rfl)
theorem dX0_power_116 : decode cX0_power 116 = .ok (.invokevirtual 274, 3) := dk_182 1 18 (dk_at dksX0_power_5 0 rfl rfl)
theorem dX0_power_119 : decode cX0_power 119 = .ok (.aload_n 0, 1) := dk_42 (dk_at dksX0_power_5 3 rfl rfl)
theorem dX0_power_120 : decode cX0_power 120 = .ok (.getfield 63, 3) := dk_180 0 63 (dk_at dksX0_power_5 4 rfl rfl)
theorem dX0_power_123 : decode cX0_power 123 = .ok (.iconst 0, 1) := dk_3 (dk_at dksX0_power_5 7 rfl rfl)
theorem dX0_power_124 : decode cX0_power 124 = .ok (.aload_n 0, 1) := dk_42 (dk_at dksX0_power_5 8 rfl rfl)
theorem dX0_power_125 : decode cX0_power 125 = .ok (.getfield 93, 3) := dk_180 0 93 (dk_at dksX0_power_5 9 rfl rfl)
theorem dX0_power_128 : decode cX0_power 128 = .ok (.iload 4, 2) := dk_21 4 (dk_at dksX0_power_5 12 rfl rfl)
theorem dX0_power_130 : decode cX0_power 130 = .ok (.aaload, 1) := dk_50 (dk_at dksX0_power_5 14 rfl rfl)
theorem dX0_power_131 : decode cX0_power 131 = .ok (.iconst 0, 1) := dk_3 (dk_at dksX0_power_5 15 rfl rfl)
theorem dX0_power_132 : decode cX0_power 132 = .ok (.iconst 5, 1) := dk_8 (dk_at dksX0_power_5 16 rfl rfl)
theorem dX0_power_133 : decode cX0_power 133 = .ok (.invokestatic 188, 3) := dk_184 0 188 (dk_at dksX0_power_5 17 rfl rfl)
theorem dX0_power_136 : decode cX0_power 136 = .ok (.iconst 0, 1) := dk_3 (dk_at dksX0_power_5 20 rfl rfl)
theorem dX0_power_137 : decode cX0_power 137 = .ok (.istore 5, 2) := dk_54 5 (dk_at dksX0_power_5 21 rfl rfl)
theorem dX0_power_139 : decode cX0_power 139 = .ok (.iload 5, 2) := dk_21 5 (dk_at dksX0_power_6 0 rfl rfl)
theorem dX0_power_141 : decode cX0_power 141 = .ok (.aload_n 0, 1) := dk_42 (dk_at dksX0_power_6 2 rfl rfl)
theorem dX0_power_142 : decode cX0_power 142 = .ok (.getfield 30, 3) := dk_180 0 30 (dk_at dksX0_power_6 3 rfl rfl)
theorem dX0_power_145 : decode cX0_power 145 = .ok (.getfield 196, 3) := dk_180 0 196 (dk_at dksX0_power_6 6 rfl rfl)
theorem dX0_power_148 : decode cX0_power 148 = .ok (.if_icmp .ge 29, 3) := dk_162 0 29 (dk_at dksX0_power_6 9 rfl rfl)
theorem dX0_power_151 : decode cX0_power 151 = .ok (.iload_n 3, 1) := dk_29 (dk_at dksX0_power_6 12 rfl rfl)
theorem dX0_power_152 : decode cX0_power 152 = .ok (.ifCond .eq 17, 3) := dk_153 0 17 (dk_at dksX0_power_6 13 rfl rfl)
theorem dX0_power_155 : decode cX0_power 155 = .ok (.aload_n 0, 1) := dk_42 (dk_at dksX0_power_6 16 rfl rfl)
theorem dX0_power_156 : decode cX0_power 156 = .ok (.getfield 63, 3) := dk_180 0 63 (dk_at dksX0_power_6 17 rfl rfl)
theorem dX0_power_159 : decode cX0_power 159 = .ok (.iload 5, 2) := dk_21 5 (dk_at dksX0_power_6 20 rfl rfl)
theorem dX0_power_161 : decode cX0_power 161 = .ok (.iaload, 1) := dk_46 (dk_at dksX0_power_6 22 rfl rfl)
theorem dX0_power_162 : decode cX0_power 162 = .ok (.ifCond .ne 7, 3) := dk_154 0 7 (dk_at dksX0_power_7 0 rfl rfl)
theorem dX0_power_165 : decode cX0_power 165 = .ok (.iconst 1, 1) := dk_4 (dk_at dksX0_power_7 3 rfl rfl)
theorem dX0_power_166 : decode cX0_power 166 = .ok (.goto 4, 3) := dk_167 0 4 (dk_at dksX0_power_7 4 rfl rfl)
theorem dX0_power_169 : decode cX0_power 169 = .ok (.iconst 0, 1) := dk_3 (dk_at dksX0_power_7 7 rfl rfl)
theorem dX0_power_170 : decode cX0_power 170 = .ok (.istore_n 3, 1) := dk_62 (dk_at dksX0_power_7 8 rfl rfl)
theorem dX0_power_171 : decode cX0_power 171 = .ok (.iinc 5 1, 3) := dk_132 5 1 (dk_at dksX0_power_7 9 rfl rfl)
theorem dX0_power_174 : decode cX0_power 174 = .ok (.goto (-35), 3) := dk_167 255 221 (dk_at dksX0_power_7 12 rfl rfl)
theorem dX0_power_177 : decode cX0_power 177 = .ok (.iinc 4 1, 3) := dk_132 4 1 (dk_at dksX0_power_7 15 rfl rfl)
theorem dX0_power_180 : decode cX0_power 180 = .ok (.goto (-95), 3) := dk_167 255 161 (dk_at dksX0_power_7 18 rfl rfl)
theorem dX0_power_183 : decode cX0_power 183 = .ok (.iload_n 3, 1) := dk_29 (dk_at dksX0_power_7 21 rfl rfl)
theorem dX0_power_184 : decode cX0_power 184 = .ok (.ifCond .eq 9, 3) := dk_153 0 9 (dk_at dksX0_power_8 0 rfl rfl)
theorem dX0_power_187 : decode cX0_power 187 = .ok (.aload_n 0, 1) := dk_42 (dk_at dksX0_power_8 3 rfl rfl)
theorem dX0_power_188 : decode cX0_power 188 = .ok (.iload_n 2, 1) := dk_28 (dk_at dksX0_power_8 4 rfl rfl)
theorem dX0_power_189 : decode cX0_power 189 = .ok (.invokevirtual 235, 3) := dk_182 0 235 (dk_at dksX0_power_8 5 rfl rfl)
theorem dX0_power_192 : decode cX0_power 192 = .ok (.ireturn, 1) := dk_172 (dk_at dksX0_power_8 8 rfl rfl)
theorem dX0_power_193 : decode cX0_power 193 = .ok (.iinc 2 1, 3) := dk_132 2 1 (dk_at dksX0_power_8 9 rfl rfl)
theorem dX0_power_196 : decode cX0_power 196 = .ok (.goto (-127), 3) := dk_167 255 129 (dk_at dksX0_power_8 12 rfl rfl)
theorem dX0_power_199 : decode cX0_power 199 = .ok (.aload_n 0, 1) := dk_42 (dk_at dksX0_power_8 15 rfl rfl)
theorem dX0_power_200 : decode cX0_power 200 = .ok (.bipush 8, 2) := dk_16 8 (dk_at dksX0_power_8 16 rfl rfl)
theorem dX0_power_202 : decode cX0_power 202 = .ok (.invokevirtual 171, 3) := dk_182 0 171 (dk_at dksX0_power_8 18 rfl rfl)
theorem dX0_power_205 : decode cX0_power 205 = .ok (.ireturn, 1) := dk_172 (dk_at dksX0_power_8 21 rfl rfl)
abbrev cX0_is : ByteArray := prog_1_method_67_code
def dkwX0_is_7 : List UInt8 := [182, 0, 171, 172, 42, 28, 153, 0, 7, 4, 167, 0, 4, 3, 182, 0, 235, 172]
abbrev dktX0_is_7 : List UInt8 := dkwX0_is_7 ++ []
def dkwX0_is_6 : List UInt8 := [180, 0, 30, 182, 1, 157, 61, 167, 0, 21, 42, 42, 180, 0, 30, 182, 1, 160, 61, 167, 0, 9, 42, 8]
abbrev dktX0_is_6 : List UInt8 := dkwX0_is_6 ++ dktX0_is_7
def dkwX0_is_5 : List UInt8 := [182, 1, 89, 42, 180, 0, 30, 180, 0, 196, 160, 0, 7, 4, 167, 0, 4, 3, 61, 167, 0, 33, 42, 42]
abbrev dktX0_is_5 : List UInt8 := dkwX0_is_5 ++ dktX0_is_6
def dkwX0_is_4 : List UInt8 := [8, 182, 1, 89, 154, 0, 7, 4, 167, 0, 4, 3, 61, 167, 0, 61, 42, 42, 180, 0, 30, 4]
abbrev dktX0_is_4 : List UInt8 := dkwX0_is_4 ++ dktX0_is_5
def dkwX0_is_3 : List UInt8 := [180, 0, 30, 8, 182, 1, 93, 154, 0, 7, 4, 167, 0, 4, 3, 61, 167, 0, 82, 42, 42, 180, 0, 30]
abbrev dktX0_is_3 : List UInt8 := dkwX0_is_3 ++ dktX0_is_4
def dkwX0_is_2 : List UInt8 := [42, 42, 180, 0, 30, 4, 182, 1, 89, 154, 0, 7, 4, 167, 0, 4, 3, 61, 167, 0, 103, 42, 42]
abbrev dktX0_is_2 : List UInt8 := dkwX0_is_2 ++ dktX0_is_3
def dkwX0_is_1 : List UInt8 := [170, 0, 0, 0, 0, 0, 154, 0, 0, 0, 0, 0, 0, 0, 5, 0, 0, 0, 39, 0, 0, 0, 60, 0, 0, 0, 81, 0, 0, 0, 102, 0, 0, 0, 130, 0, 0, 0, 142]
abbrev dktX0_is_1 : List UInt8 := dkwX0_is_1 ++ dktX0_is_2
def dkwX0_is_0 : List UInt8 := [27]
abbrev dktX0_is_0 : List UInt8 := dkwX0_is_0 ++ dktX0_is_1
theorem dksX0_is_0 : cX0_is.data.toList.drop 0 = dktX0_is_0 := by decide +kernel
theorem dksX0_is_1 : cX0_is.data.toList.drop 1 = dktX0_is_1 := dk_seg dksX0_is_0 1 rfl rfl
theorem dksX0_is_2 : cX0_is.data.toList.drop 40 = dktX0_is_2 := dk_seg dksX0_is_1 39 rfl rfl
theorem dksX0_is_3 : cX0_is.data.toList.drop 63 = dktX0_is_3 := dk_seg dksX0_is_2 23 rfl rfl
theorem dksX0_is_4 : cX0_is.data.toList.drop 87 = dktX0_is_4 := dk_seg dksX0_is_3 24 rfl rfl
theorem dksX0_is_5 : cX0_is.data.toList.drop 109 = dktX0_is_5 := dk_seg dksX0_is_4 22 rfl rfl
theorem dksX0_is_6 : cX0_is.data.toList.drop 133 = dktX0_is_6 := dk_seg dksX0_is_5 24 rfl rfl
theorem dksX0_is_7 : cX0_is.data.toList.drop 157 = dktX0_is_7 := dk_seg dksX0_is_6 24 rfl rfl
theorem dX0_is_0 : decode cX0_is 0 = .ok (.iload_n 1, 1) := dk_27 (dk_at dksX0_is_0 0 rfl rfl)
theorem dX0_is_1 : decode cX0_is 1 = .ok (.tableswitch 154 0 5 #[39, 60, 81, 102, 130, 142], 39) := by decide +kernel
theorem dX0_is_40 : decode cX0_is 40 = .ok (.aload_n 0, 1) := dk_42 (dk_at dksX0_is_2 0 rfl rfl)
theorem dX0_is_41 : decode cX0_is 41 = .ok (.aload_n 0, 1) := dk_42 (dk_at dksX0_is_2 1 rfl rfl)
theorem dX0_is_42 : decode cX0_is 42 = .ok (.getfield 30, 3) := dk_180 0 30 (dk_at dksX0_is_2 2 rfl rfl)
theorem dX0_is_45 : decode cX0_is 45 = .ok (.iconst 1, 1) := dk_4 (dk_at dksX0_is_2 5 rfl rfl)
theorem dX0_is_46 : decode cX0_is 46 = .ok (.invokevirtual 345, 3) := dk_182 1 89 (dk_at dksX0_is_2 6 rfl rfl)
theorem dX0_is_49 : decode cX0_is 49 = .ok (.ifCond .ne 7, 3) := dk_154 0 7 (dk_at dksX0_is_2 9 rfl rfl)
theorem dX0_is_52 : decode cX0_is 52 = .ok (.iconst 1, 1) := dk_4 (dk_at dksX0_is_2 12 rfl rfl)
theorem dX0_is_53 : decode cX0_is 53 = .ok (.goto 4, 3) := dk_167 0 4 (dk_at dksX0_is_2 13 rfl rfl)
theorem dX0_is_56 : decode cX0_is 56 = .ok (.iconst 0, 1) := dk_3 (dk_at dksX0_is_2 16 rfl rfl)
theorem dX0_is_57 : decode cX0_is 57 = .ok (.istore_n 2, 1) := dk_61 (dk_at dksX0_is_2 17 rfl rfl)
theorem dX0_is_58 : decode cX0_is 58 = .ok (.goto 103, 3) := dk_167 0 103 (dk_at dksX0_is_2 18 rfl rfl)
theorem dX0_is_61 : decode cX0_is 61 = .ok (.aload_n 0, 1) := dk_42 (dk_at dksX0_is_2 21 rfl rfl)
theorem dX0_is_62 : decode cX0_is 62 = .ok (.aload_n 0, 1) := dk_42 (dk_at dksX0_is_2 22 rfl rfl)
theorem dX0_is_63 : decode cX0_is 63 = .ok (.getfield 30, 3) := dk_180 0 30 (dk_at dksX0_is_3 0 rfl rfl)
theorem dX0_is_66 : decode cX0_is 66 = .ok (.iconst 5, 1) := dk_8 (dk_at dksX0_is_3 3 rfl rfl)
theorem dX0_is_67 : decode cX0_is 67 = .ok (.invokevirtual 349, 3) := dk_182 1 93 (dk_at dksX0_is_3 4 rfl rfl)
theorem dX0_is_70 : decode cX0_is 70 = .ok (.ifCond .ne 7, 3) := dk_154 0 7 (dk_at dksX0_is_3 7 rfl rfl)
theorem dX0_is_73 : decode cX0_is 73 = .ok (.iconst 1, 1) := dk_4 (dk_at dksX0_is_3 10 rfl rfl)
theorem dX0_is_74 : decode cX0_is 74 = .ok (.goto 4, 3) := dk_167 0 4 (dk_at dksX0_is_3 11 rfl rfl)
theorem dX0_is_77 : decode cX0_is 77 = .ok (.iconst 0, 1) := dk_3 (dk_at dksX0_is_3 14 rfl rfl)
theorem dX0_is_78 : decode cX0_is 78 = .ok (.istore_n 2, 1) := dk_61 (dk_at dksX0_is_3 15 rfl rfl)
theorem dX0_is_79 : decode cX0_is 79 = .ok (.goto 82, 3) := dk_167 0 82 (dk_at dksX0_is_3 16 rfl rfl)
theorem dX0_is_82 : decode cX0_is 82 = .ok (.aload_n 0, 1) := dk_42 (dk_at dksX0_is_3 19 rfl rfl)
theorem dX0_is_83 : decode cX0_is 83 = .ok (.aload_n 0, 1) := dk_42 (dk_at dksX0_is_3 20 rfl rfl)
theorem dX0_is_84 : decode cX0_is 84 = .ok (.getfield 30, 3) := dk_180 0 30 (dk_at dksX0_is_3 21 rfl rfl)
theorem dX0_is_87 : decode cX0_is 87 = .ok (.iconst 5, 1) := dk_8 (dk_at dksX0_is_4 0 rfl rfl)
theorem dX0_is_88 : decode cX0_is 88 = .ok (.invokevirtual 345, 3) := dk_182 1 89 (dk_at dksX0_is_4 1 rfl rfl)
theorem dX0_is_91 : decode cX0_is 91 = .ok (.ifCond .ne 7, 3) := dk_154 0 7 (dk_at dksX0_is_4 4 rfl rfl)
theorem dX0_is_94 : decode cX0_is 94 = .ok (.iconst 1, 1) := dk_4 (dk_at dksX0_is_4 7 rfl rfl)
theorem dX0_is_95 : decode cX0_is 95 = .ok (.goto 4, 3) := dk_167 0 4 (dk_at dksX0_is_4 8 rfl rfl)
theorem dX0_is_98 : decode cX0_is 98 = .ok (.iconst 0, 1) := dk_3 (dk_at dksX0_is_4 11 rfl rfl)
theorem dX0_is_99 : decode cX0_is 99 = .ok (.istore_n 2, 1) := dk_61 (dk_at dksX0_is_4 12 rfl rfl)
theorem dX0_is_100 : decode cX0_is 100 = .ok (.goto 61, 3) := dk_167 0 61 (dk_at dksX0_is_4 13 rfl rfl)
theorem dX0_is_103 : decode cX0_is 103 = .ok (.aload_n 0, 1) := dk_42 (dk_at dksX0_is_4 16 rfl rfl)
theorem dX0_is_104 : decode cX0_is 104 = .ok (.aload_n 0, 1) := dk_42 (dk_at dksX0_is_4 17 rfl rfl)
theorem dX0_is_105 : decode cX0_is 105 = .ok (.getfield 30, 3) := dk_180 0 30 (dk_at dksX0_is_4 18 rfl rfl)
theorem dX0_is_108 : decode cX0_is 108 = .ok (.iconst 1, 1) := dk_4 (dk_at dksX0_is_4 21 rfl rfl)
theorem dX0_is_109 : decode cX0_is 109 = .ok (.invokevirtual 345, 3) := dk_182 1 89 (dk_at dksX0_is_5 0 rfl rfl)
theorem dX0_is_112 : decode cX0_is 112 = .ok (.aload_n 0, 1) := dk_42 (dk_at dksX0_is_5 3 rfl rfl)
theorem dX0_is_113 : decode cX0_is 113 = .ok (.getfield 30, 3) := dk_180 0 30 (dk_at dksX0_is_5 4 rfl rfl)
theorem dX0_is_116 : decode cX0_is 116 = .ok (.getfield 196, 3) := dk_180 0 196 (dk_at dksX0_is_5 7 rfl rfl)
theorem dX0_is_119 : decode cX0_is 119 = .ok (.if_icmp .ne 7, 3) := dk_160 0 7 (dk_at dksX0_is_5 10 rfl rfl)
theorem dX0_is_122 : decode cX0_is 122 = .ok (.iconst 1, 1) := dk_4 (dk_at dksX0_is_5 13 rfl rfl)
theorem dX0_is_123 : decode cX0_is 123 = .ok (.goto 4, 3) := dk_167 0 4 (dk_at dksX0_is_5 14 rfl rfl)
theorem dX0_is_126 : decode cX0_is 126 = .ok (.iconst 0, 1) := dk_3 (dk_at dksX0_is_5 17 rfl rfl)
theorem dX0_is_127 : decode cX0_is 127 = .ok (.istore_n 2, 1) := dk_61 (dk_at dksX0_is_5 18 rfl rfl)
theorem dX0_is_128 : decode cX0_is 128 = .ok (.goto 33, 3) := dk_167 0 33 (dk_at dksX0_is_5 19 rfl rfl)
theorem dX0_is_131 : decode cX0_is 131 = .ok (.aload_n 0, 1) := dk_42 (dk_at dksX0_is_5 22 rfl rfl)
theorem dX0_is_132 : decode cX0_is 132 = .ok (.aload_n 0, 1) := dk_42 (dk_at dksX0_is_5 23 rfl rfl)
theorem dX0_is_133 : decode cX0_is 133 = .ok (.getfield 30, 3) := dk_180 0 30 (dk_at dksX0_is_6 0 rfl rfl)
theorem dX0_is_136 : decode cX0_is 136 = .ok (.invokevirtual 413, 3) := dk_182 1 157 (dk_at dksX0_is_6 3 rfl rfl)
theorem dX0_is_139 : decode cX0_is 139 = .ok (.istore_n 2, 1) := dk_61 (dk_at dksX0_is_6 6 rfl rfl)
theorem dX0_is_140 : decode cX0_is 140 = .ok (.goto 21, 3) := dk_167 0 21 (dk_at dksX0_is_6 7 rfl rfl)
theorem dX0_is_143 : decode cX0_is 143 = .ok (.aload_n 0, 1) := dk_42 (dk_at dksX0_is_6 10 rfl rfl)
theorem dX0_is_144 : decode cX0_is 144 = .ok (.aload_n 0, 1) := dk_42 (dk_at dksX0_is_6 11 rfl rfl)
theorem dX0_is_145 : decode cX0_is 145 = .ok (.getfield 30, 3) := dk_180 0 30 (dk_at dksX0_is_6 12 rfl rfl)
theorem dX0_is_148 : decode cX0_is 148 = .ok (.invokevirtual 416, 3) := dk_182 1 160 (dk_at dksX0_is_6 15 rfl rfl)
theorem dX0_is_151 : decode cX0_is 151 = .ok (.istore_n 2, 1) := dk_61 (dk_at dksX0_is_6 18 rfl rfl)
theorem dX0_is_152 : decode cX0_is 152 = .ok (.goto 9, 3) := dk_167 0 9 (dk_at dksX0_is_6 19 rfl rfl)
theorem dX0_is_155 : decode cX0_is 155 = .ok (.aload_n 0, 1) := dk_42 (dk_at dksX0_is_6 22 rfl rfl)
theorem dX0_is_156 : decode cX0_is 156 = .ok (.iconst 5, 1) := dk_8 (dk_at dksX0_is_6 23 rfl rfl)
theorem dX0_is_157 : decode cX0_is 157 = .ok (.invokevirtual 171, 3) := dk_182 0 171 (dk_at dksX0_is_7 0 rfl rfl)
theorem dX0_is_160 : decode cX0_is 160 = .ok (.ireturn, 1) := dk_172 (dk_at dksX0_is_7 3 rfl rfl)
theorem dX0_is_161 : decode cX0_is 161 = .ok (.aload_n 0, 1) := dk_42 (dk_at dksX0_is_7 4 rfl rfl)
theorem dX0_is_162 : decode cX0_is 162 = .ok (.iload_n 2, 1) := dk_28 (dk_at dksX0_is_7 5 rfl rfl)
theorem dX0_is_163 : decode cX0_is 163 = .ok (.ifCond .eq 7, 3) := dk_153 0 7 (dk_at dksX0_is_7 6 rfl rfl)
theorem dX0_is_166 : decode cX0_is 166 = .ok (.iconst 1, 1) := dk_4 (dk_at dksX0_is_7 9 rfl rfl)
theorem dX0_is_167 : decode cX0_is 167 = .ok (.goto 4, 3) := dk_167 0 4 (dk_at dksX0_is_7 10 rfl rfl)
theorem dX0_is_170 : decode cX0_is 170 = .ok (.iconst 0, 1) := dk_3 (dk_at dksX0_is_7 13 rfl rfl)
theorem dX0_is_171 : decode cX0_is 171 = .ok (.invokevirtual 235, 3) := dk_182 0 235 (dk_at dksX0_is_7 14 rfl rfl)
theorem dX0_is_174 : decode cX0_is 174 = .ok (.ireturn, 1) := dk_172 (dk_at dksX0_is_7 17 rfl rfl)
abbrev cX0_isSimple : ByteArray := prog_1_method_65_code
def dkwX0_isSimple_1 : List UInt8 := [4, 182, 1, 154, 158, 0, 5, 3, 172, 132, 2, 1, 167, 255, 233, 4, 172]
abbrev dktX0_isSimple_1 : List UInt8 := dkwX0_isSimple_1 ++ []
def dkwX0_isSimple_0 : List UInt8 := [42, 43, 4, 182, 1, 89, 154, 0, 5, 3, 172, 4, 61, 28, 43, 180, 0, 196, 162, 0, 21, 42, 43, 28]
abbrev dktX0_isSimple_0 : List UInt8 := dkwX0_isSimple_0 ++ dktX0_isSimple_1
theorem dksX0_isSimple_0 : cX0_isSimple.data.toList.drop 0 = dktX0_isSimple_0 := by decide +kernel
theorem dksX0_isSimple_1 : cX0_isSimple.data.toList.drop 24 = dktX0_isSimple_1 := dk_seg dksX0_isSimple_0 24 rfl rfl
theorem dX0_isSimple_0 : decode cX0_isSimple 0 = .ok (.aload_n 0, 1) := dk_42 (dk_at dksX0_isSimple_0 0 rfl rfl)
theorem dX0_isSimple_1 : decode cX0_isSimple 1 = .ok (.aload_n 1, 1) := dk_43 (dk_at dksX0_isSimple_0 1 rfl rfl)
theorem dX0_isSimple_2 : decode cX0_isSimple 2 = .ok (.iconst 1, 1) := dk_4 (dk_at dksX0_isSimple_0 2 rfl rfl)
theorem dX0_isSimple_3 : decode cX0_isSimple 3 = .ok (.invokevirtual 345, 3) := dk_182 1 89 (dk_at dksX0_isSimple_0 3 rfl rfl)
theorem dX0_isSimple_6 : decode cX0_isSimple 6 = .ok (.ifCond .ne 5, 3) := dk_154 0 5 (dk_at dksX0_isSimple_0 6 rfl rfl)
theorem dX0_isSimple_9 : decode cX0_isSimple 9 = .ok (.iconst 0, 1) := dk_3 (dk_at dksX0_isSimple_0 9 rfl rfl)
theorem dX0_isSimple_10 : decode cX0_isSimple 10 = .ok (.ireturn, 1) := dk_172 (dk_at dksX0_isSimple_0 10 rfl rfl)
theorem dX0_isSimple_11 : decode cX0_isSimple 11 = .ok (.iconst 1, 1) := dk_4 (dk_at dksX0_isSimple_0 11 rfl rfl)
theorem dX0_isSimple_12 : decode cX0_isSimple 12 = .ok (.istore_n 2, 1) := dk_61 (dk_at dksX0_isSimple_0 12 rfl rfl)
theorem dX0_isSimple_13 : decode cX0_isSimple 13 = .ok (.iload_n 2, 1) := dk_28 (dk_at dksX0_isSimple_0 13 rfl rfl)
theorem dX0_isSimple_14 : decode cX0_isSimple 14 = .ok (.aload_n 1, 1) := dk_43 (dk_at dksX0_isSimple_0 14 rfl rfl)
theorem dX0_isSimple_15 : decode cX0_isSimple 15 = .ok (.getfield 196, 3) := dk_180 0 196 (dk_at dksX0_isSimple_0 15 rfl rfl)
theorem dX0_isSimple_18 : decode cX0_isSimple 18 = .ok (.if_icmp .ge 21, 3) := dk_162 0 21 (dk_at dksX0_isSimple_0 18 rfl rfl)
theorem dX0_isSimple_21 : decode cX0_isSimple 21 = .ok (.aload_n 0, 1) := dk_42 (dk_at dksX0_isSimple_0 21 rfl rfl)
theorem dX0_isSimple_22 : decode cX0_isSimple 22 = .ok (.aload_n 1, 1) := dk_43 (dk_at dksX0_isSimple_0 22 rfl rfl)
theorem dX0_isSimple_23 : decode cX0_isSimple 23 = .ok (.iload_n 2, 1) := dk_28 (dk_at dksX0_isSimple_0 23 rfl rfl)
theorem dX0_isSimple_24 : decode cX0_isSimple 24 = .ok (.iconst 1, 1) := dk_4 (dk_at dksX0_isSimple_1 0 rfl rfl)
theorem dX0_isSimple_25 : decode cX0_isSimple 25 = .ok (.invokevirtual 410, 3) := dk_182 1 154 (dk_at dksX0_isSimple_1 1 rfl rfl)
theorem dX0_isSimple_28 : decode cX0_isSimple 28 = .ok (.ifCond .le 5, 3) := dk_158 0 5 (dk_at dksX0_isSimple_1 4 rfl rfl)
theorem dX0_isSimple_31 : decode cX0_isSimple 31 = .ok (.iconst 0, 1) := dk_3 (dk_at dksX0_isSimple_1 7 rfl rfl)
theorem dX0_isSimple_32 : decode cX0_isSimple 32 = .ok (.ireturn, 1) := dk_172 (dk_at dksX0_isSimple_1 8 rfl rfl)
theorem dX0_isSimple_33 : decode cX0_isSimple 33 = .ok (.iinc 2 1, 3) := dk_132 2 1 (dk_at dksX0_isSimple_1 9 rfl rfl)
theorem dX0_isSimple_36 : decode cX0_isSimple 36 = .ok (.goto (-23), 3) := dk_167 255 233 (dk_at dksX0_isSimple_1 12 rfl rfl)
theorem dX0_isSimple_39 : decode cX0_isSimple 39 = .ok (.iconst 1, 1) := dk_4 (dk_at dksX0_isSimple_1 15 rfl rfl)
theorem dX0_isSimple_40 : decode cX0_isSimple 40 = .ok (.ireturn, 1) := dk_172 (dk_at dksX0_isSimple_1 16 rfl rfl)
abbrev cX0_count : ByteArray := prog_1_method_63_code
def dkwX0_count_2 : List UInt8 := [172]
abbrev dktX0_count_2 : List UInt8 := dkwX0_count_2 ++ []
def dkwX0_count_1 : List UInt8 := [160, 0, 16, 21, 4, 42, 43, 21, 5, 29, 182, 1, 143, 96, 54, 4, 132, 5, 1, 167, 255, 220, 21, 4]
abbrev dktX0_count_1 : List UInt8 := dkwX0_count_1 ++ dktX0_count_2
def dkwX0_count_0 : List UInt8 := [3, 54, 4, 3, 54, 5, 21, 5, 4, 43, 180, 0, 196, 120, 162, 0, 31, 21, 5, 184, 1, 138, 28]
abbrev dktX0_count_0 : List UInt8 := dkwX0_count_0 ++ dktX0_count_1
theorem dksX0_count_0 : cX0_count.data.toList.drop 0 = dktX0_count_0 := by decide +kernel
theorem dksX0_count_1 : cX0_count.data.toList.drop 23 = dktX0_count_1 := dk_seg dksX0_count_0 23 rfl rfl
theorem dksX0_count_2 : cX0_count.data.toList.drop 47 = dktX0_count_2 := dk_seg dksX0_count_1 24 rfl rfl
theorem dX0_count_0 : decode cX0_count 0 = .ok (.iconst 0, 1) := dk_3 (dk_at dksX0_count_0 0 rfl rfl)
theorem dX0_count_1 : decode cX0_count 1 = .ok (.istore 4, 2) := dk_54 4 (dk_at dksX0_count_0 1 rfl rfl)
theorem dX0_count_3 : decode cX0_count 3 = .ok (.iconst 0, 1) := dk_3 (dk_at dksX0_count_0 3 rfl rfl)
theorem dX0_count_4 : decode cX0_count 4 = .ok (.istore 5, 2) := dk_54 5 (dk_at dksX0_count_0 4 rfl rfl)
theorem dX0_count_6 : decode cX0_count 6 = .ok (.iload 5, 2) := dk_21 5 (dk_at dksX0_count_0 6 rfl rfl)
theorem dX0_count_8 : decode cX0_count 8 = .ok (.iconst 1, 1) := dk_4 (dk_at dksX0_count_0 8 rfl rfl)
theorem dX0_count_9 : decode cX0_count 9 = .ok (.aload_n 1, 1) := dk_43 (dk_at dksX0_count_0 9 rfl rfl)
theorem dX0_count_10 : decode cX0_count 10 = .ok (.getfield 196, 3) := dk_180 0 196 (dk_at dksX0_count_0 10 rfl rfl)
theorem dX0_count_13 : decode cX0_count 13 = .ok (.ishl, 1) := dk_120 (dk_at dksX0_count_0 13 rfl rfl)
theorem dX0_count_14 : decode cX0_count 14 = .ok (.if_icmp .ge 31, 3) := dk_162 0 31 (dk_at dksX0_count_0 14 rfl rfl)
theorem dX0_count_17 : decode cX0_count 17 = .ok (.iload 5, 2) := dk_21 5 (dk_at dksX0_count_0 17 rfl rfl)
theorem dX0_count_19 : decode cX0_count 19 = .ok (.invokestatic 394, 3) := dk_184 1 138 (dk_at dksX0_count_0 19 rfl rfl)
theorem dX0_count_22 : decode cX0_count 22 = .ok (.iload_n 2, 1) := dk_28 (dk_at dksX0_count_0 22 rfl rfl)
theorem dX0_count_23 : decode cX0_count 23 = .ok (.if_icmp .ne 16, 3) := dk_160 0 16 (dk_at dksX0_count_1 0 rfl rfl)
theorem dX0_count_26 : decode cX0_count 26 = .ok (.iload 4, 2) := dk_21 4 (dk_at dksX0_count_1 3 rfl rfl)
theorem dX0_count_28 : decode cX0_count 28 = .ok (.aload_n 0, 1) := dk_42 (dk_at dksX0_count_1 5 rfl rfl)
theorem dX0_count_29 : decode cX0_count 29 = .ok (.aload_n 1, 1) := dk_43 (dk_at dksX0_count_1 6 rfl rfl)
theorem dX0_count_30 : decode cX0_count 30 = .ok (.iload 5, 2) := dk_21 5 (dk_at dksX0_count_1 7 rfl rfl)
theorem dX0_count_32 : decode cX0_count 32 = .ok (.iload_n 3, 1) := dk_29 (dk_at dksX0_count_1 9 rfl rfl)
theorem dX0_count_33 : decode cX0_count 33 = .ok (.invokevirtual 399, 3) := dk_182 1 143 (dk_at dksX0_count_1 10 rfl rfl)
theorem dX0_count_36 : decode cX0_count 36 = .ok (.iadd, 1) := dk_96 (dk_at dksX0_count_1 13 rfl rfl)
theorem dX0_count_37 : decode cX0_count 37 = .ok (.istore 4, 2) := dk_54 4 (dk_at dksX0_count_1 14 rfl rfl)
theorem dX0_count_39 : decode cX0_count 39 = .ok (.iinc 5 1, 3) := dk_132 5 1 (dk_at dksX0_count_1 16 rfl rfl)
theorem dX0_count_42 : decode cX0_count 42 = .ok (.goto (-36), 3) := dk_167 255 220 (dk_at dksX0_count_1 19 rfl rfl)
theorem dX0_count_45 : decode cX0_count 45 = .ok (.iload 4, 2) := dk_21 4 (dk_at dksX0_count_1 22 rfl rfl)
theorem dX0_count_47 : decode cX0_count 47 = .ok (.ireturn, 1) := dk_172 (dk_at dksX0_count_2 0 rfl rfl)
abbrev cX0_countBy : ByteArray := prog_1_method_64_code
def dkwX0_countBy_13 : List UInt8 := [167, 255, 164, 21, 6, 172]
abbrev dktX0_countBy_13 : List UInt8 := dkwX0_countBy_13 ++ []
def dkwX0_countBy_12 : List UInt8 := [43, 42, 180, 0, 96, 29, 182, 1, 150, 153, 0, 7, 4, 167, 0, 4, 3, 96, 54, 6, 132, 7, 1]
abbrev dktX0_countBy_12 : List UInt8 := dkwX0_countBy_12 ++ dktX0_countBy_13
def dkwX0_countBy_11 : List UInt8 := [43, 180, 0, 253, 112, 79, 21, 8, 43, 180, 0, 253, 108, 54, 8, 132, 9, 1, 167, 255, 207, 21, 6, 42]
abbrev dktX0_countBy_11 : List UInt8 := dkwX0_countBy_11 ++ dktX0_countBy_12
def dkwX0_countBy_10 : List UInt8 := [42, 180, 0, 96, 180, 1, 49, 42, 180, 0, 99, 21, 9, 46, 50, 42, 180, 0, 102, 21, 9, 46, 21, 8]
abbrev dktX0_countBy_10 : List UInt8 := dkwX0_countBy_10 ++ dktX0_countBy_11
def dkwX0_countBy_9 : List UInt8 := [3, 54, 7, 21, 7, 21, 5, 162, 0, 91, 21, 7, 54, 8, 3, 54, 9, 21, 9, 21, 4, 162, 0, 48]
abbrev dktX0_countBy_9 : List UInt8 := dkwX0_countBy_9 ++ dktX0_countBy_10
def dkwX0_countBy_8 : List UInt8 := [21, 5, 43, 180, 0, 253, 104, 54, 5, 132, 7, 1, 167, 255, 201, 132, 6, 1, 167, 255, 169, 3, 54, 6]
abbrev dktX0_countBy_8 : List UInt8 := dkwX0_countBy_8 ++ dktX0_countBy_9
def dkwX0_countBy_7 : List UInt8 := [167, 0, 33, 42, 180, 0, 99, 21, 4, 21, 6, 79, 42, 180, 0, 102, 21, 4, 21, 7, 79, 132, 4, 1]
abbrev dktX0_countBy_7 : List UInt8 := dkwX0_countBy_7 ++ dktX0_countBy_8
def dkwX0_countBy_6 : List UInt8 := [46, 4, 96, 54, 7, 21, 7, 43, 180, 0, 196, 162, 0, 52, 28, 21, 7, 122, 4, 126, 4, 160, 0, 6]
abbrev dktX0_countBy_6 : List UInt8 := dkwX0_countBy_6 ++ dktX0_countBy_7
def dkwX0_countBy_5 : List UInt8 := [3, 54, 6, 21, 6, 42, 180, 0, 96, 180, 1, 46, 162, 0, 81, 42, 180, 0, 96, 180, 1, 147, 21, 6]
abbrev dktX0_countBy_5 : List UInt8 := dkwX0_countBy_5 ++ dktX0_countBy_6
def dkwX0_countBy_4 : List UInt8 := [180, 0, 96, 89, 180, 1, 46, 4, 96, 181, 1, 46, 132, 4, 1, 167, 255, 157, 3, 54, 4, 4, 54, 5]
abbrev dktX0_countBy_4 : List UInt8 := dkwX0_countBy_4 ++ dktX0_countBy_5
def dkwX0_countBy_3 : List UInt8 := [132, 5, 1, 167, 255, 217, 42, 180, 0, 96, 180, 1, 147, 42, 180, 0, 96, 180, 1, 46, 21, 4, 79, 42]
abbrev dktX0_countBy_3 : List UInt8 := dkwX0_countBy_3 ++ dktX0_countBy_4
def dkwX0_countBy_2 : List UInt8 := [42, 180, 0, 96, 180, 1, 46, 50, 21, 5, 21, 5, 21, 4, 160, 0, 7, 4, 167, 0, 4, 3, 79]
abbrev dktX0_countBy_2 : List UInt8 := dkwX0_countBy_2 ++ dktX0_countBy_3
def dkwX0_countBy_1 : List UInt8 := [4, 126, 154, 0, 6, 167, 0, 78, 3, 54, 5, 21, 5, 8, 162, 0, 39, 42, 180, 0, 96, 180, 1, 49]
abbrev dktX0_countBy_1 : List UInt8 := dkwX0_countBy_1 ++ dktX0_countBy_2
def dkwX0_countBy_0 : List UInt8 := [42, 180, 0, 96, 3, 181, 1, 46, 3, 54, 4, 21, 4, 43, 180, 0, 196, 162, 0, 96, 28, 21, 4, 122]
abbrev dktX0_countBy_0 : List UInt8 := dkwX0_countBy_0 ++ dktX0_countBy_1
theorem dksX0_countBy_0 : cX0_countBy.data.toList.drop 0 = dktX0_countBy_0 := by decide +kernel
theorem dksX0_countBy_1 : cX0_countBy.data.toList.drop 24 = dktX0_countBy_1 := dk_seg dksX0_countBy_0 24 rfl rfl
theorem dksX0_countBy_2 : cX0_countBy.data.toList.drop 48 = dktX0_countBy_2 := dk_seg dksX0_countBy_1 24 rfl rfl
theorem dksX0_countBy_3 : cX0_countBy.data.toList.drop 71 = dktX0_countBy_3 := dk_seg dksX0_countBy_2 23 rfl rfl
theorem dksX0_countBy_4 : cX0_countBy.data.toList.drop 95 = dktX0_countBy_4 := dk_seg dksX0_countBy_3 24 rfl rfl
theorem dksX0_countBy_5 : cX0_countBy.data.toList.drop 119 = dktX0_countBy_5 := dk_seg dksX0_countBy_4 24 rfl rfl
theorem dksX0_countBy_6 : cX0_countBy.data.toList.drop 143 = dktX0_countBy_6 := dk_seg dksX0_countBy_5 24 rfl rfl
theorem dksX0_countBy_7 : cX0_countBy.data.toList.drop 167 = dktX0_countBy_7 := dk_seg dksX0_countBy_6 24 rfl rfl
theorem dksX0_countBy_8 : cX0_countBy.data.toList.drop 191 = dktX0_countBy_8 := dk_seg dksX0_countBy_7 24 rfl rfl
theorem dksX0_countBy_9 : cX0_countBy.data.toList.drop 215 = dktX0_countBy_9 := dk_seg dksX0_countBy_8 24 rfl rfl
theorem dksX0_countBy_10 : cX0_countBy.data.toList.drop 239 = dktX0_countBy_10 := dk_seg dksX0_countBy_9 24 rfl rfl
theorem dksX0_countBy_11 : cX0_countBy.data.toList.drop 263 = dktX0_countBy_11 := dk_seg dksX0_countBy_10 24 rfl rfl
theorem dksX0_countBy_12 : cX0_countBy.data.toList.drop 287 = dktX0_countBy_12 := dk_seg dksX0_countBy_11 24 rfl rfl
theorem dksX0_countBy_13 : cX0_countBy.data.toList.drop 310 = dktX0_countBy_13 := dk_seg dksX0_countBy_12 23 rfl rfl
theorem dX0_countBy_0 : decode cX0_countBy 0 = .ok (.aload_n 0, 1) := dk_42 (dk_at dksX0_countBy_0 0 rfl rfl)
theorem dX0_countBy_1 : decode cX0_countBy 1 = .ok (.getfield 96, 3) := dk_180 0 96 (dk_at dksX0_countBy_0 1 rfl rfl)
theorem dX0_countBy_4 : decode cX0_countBy 4 = .ok (.iconst 0, 1) := dk_3 (dk_at dksX0_countBy_0 4 rfl rfl)
theorem dX0_countBy_5 : decode cX0_countBy 5 = .ok (.putfield 302, 3) := dk_181 1 46 (dk_at dksX0_countBy_0 5 rfl rfl)
theorem dX0_countBy_8 : decode cX0_countBy 8 = .ok (.iconst 0, 1) := dk_3 (dk_at dksX0_countBy_0 8 rfl rfl)
theorem dX0_countBy_9 : decode cX0_countBy 9 = .ok (.istore 4, 2) := dk_54 4 (dk_at dksX0_countBy_0 9 rfl rfl)
theorem dX0_countBy_11 : decode cX0_countBy 11 = .ok (.iload 4, 2) := dk_21 4 (dk_at dksX0_countBy_0 11 rfl rfl)
theorem dX0_countBy_13 : decode cX0_countBy 13 = .ok (.aload_n 1, 1) := dk_43 (dk_at dksX0_countBy_0 13 rfl rfl)
theorem dX0_countBy_14 : decode cX0_countBy 14 = .ok (.getfield 196, 3) := dk_180 0 196 (dk_at dksX0_countBy_0 14 rfl rfl)
theorem dX0_countBy_17 : decode cX0_countBy 17 = .ok (.if_icmp .ge 96, 3) := dk_162 0 96 (dk_at dksX0_countBy_0 17 rfl rfl)
theorem dX0_countBy_20 : decode cX0_countBy 20 = .ok (.iload_n 2, 1) := dk_28 (dk_at dksX0_countBy_0 20 rfl rfl)
theorem dX0_countBy_21 : decode cX0_countBy 21 = .ok (.iload 4, 2) := dk_21 4 (dk_at dksX0_countBy_0 21 rfl rfl)
theorem dX0_countBy_23 : decode cX0_countBy 23 = .ok (.ishr, 1) := dk_122 (dk_at dksX0_countBy_0 23 rfl rfl)
theorem dX0_countBy_24 : decode cX0_countBy 24 = .ok (.iconst 1, 1) := dk_4 (dk_at dksX0_countBy_1 0 rfl rfl)
theorem dX0_countBy_25 : decode cX0_countBy 25 = .ok (.iand, 1) := dk_126 (dk_at dksX0_countBy_1 1 rfl rfl)
theorem dX0_countBy_26 : decode cX0_countBy 26 = .ok (.ifCond .ne 6, 3) := dk_154 0 6 (dk_at dksX0_countBy_1 2 rfl rfl)
theorem dX0_countBy_29 : decode cX0_countBy 29 = .ok (.goto 78, 3) := dk_167 0 78 (dk_at dksX0_countBy_1 5 rfl rfl)
theorem dX0_countBy_32 : decode cX0_countBy 32 = .ok (.iconst 0, 1) := dk_3 (dk_at dksX0_countBy_1 8 rfl rfl)
theorem dX0_countBy_33 : decode cX0_countBy 33 = .ok (.istore 5, 2) := dk_54 5 (dk_at dksX0_countBy_1 9 rfl rfl)
theorem dX0_countBy_35 : decode cX0_countBy 35 = .ok (.iload 5, 2) := dk_21 5 (dk_at dksX0_countBy_1 11 rfl rfl)
theorem dX0_countBy_37 : decode cX0_countBy 37 = .ok (.iconst 5, 1) := dk_8 (dk_at dksX0_countBy_1 13 rfl rfl)
theorem dX0_countBy_38 : decode cX0_countBy 38 = .ok (.if_icmp .ge 39, 3) := dk_162 0 39 (dk_at dksX0_countBy_1 14 rfl rfl)
theorem dX0_countBy_41 : decode cX0_countBy 41 = .ok (.aload_n 0, 1) := dk_42 (dk_at dksX0_countBy_1 17 rfl rfl)
theorem dX0_countBy_42 : decode cX0_countBy 42 = .ok (.getfield 96, 3) := dk_180 0 96 (dk_at dksX0_countBy_1 18 rfl rfl)
theorem dX0_countBy_45 : decode cX0_countBy 45 = .ok (.getfield 305, 3) := dk_180 1 49 (dk_at dksX0_countBy_1 21 rfl rfl)
theorem dX0_countBy_48 : decode cX0_countBy 48 = .ok (.aload_n 0, 1) := dk_42 (dk_at dksX0_countBy_2 0 rfl rfl)
theorem dX0_countBy_49 : decode cX0_countBy 49 = .ok (.getfield 96, 3) := dk_180 0 96 (dk_at dksX0_countBy_2 1 rfl rfl)
theorem dX0_countBy_52 : decode cX0_countBy 52 = .ok (.getfield 302, 3) := dk_180 1 46 (dk_at dksX0_countBy_2 4 rfl rfl)
theorem dX0_countBy_55 : decode cX0_countBy 55 = .ok (.aaload, 1) := dk_50 (dk_at dksX0_countBy_2 7 rfl rfl)
theorem dX0_countBy_56 : decode cX0_countBy 56 = .ok (.iload 5, 2) := dk_21 5 (dk_at dksX0_countBy_2 8 rfl rfl)
theorem dX0_countBy_58 : decode cX0_countBy 58 = .ok (.iload 5, 2) := dk_21 5 (dk_at dksX0_countBy_2 10 rfl rfl)
theorem dX0_countBy_60 : decode cX0_countBy 60 = .ok (.iload 4, 2) := dk_21 4 (dk_at dksX0_countBy_2 12 rfl rfl)
theorem dX0_countBy_62 : decode cX0_countBy 62 = .ok (.if_icmp .ne 7, 3) := dk_160 0 7 (dk_at dksX0_countBy_2 14 rfl rfl)
theorem dX0_countBy_65 : decode cX0_countBy 65 = .ok (.iconst 1, 1) := dk_4 (dk_at dksX0_countBy_2 17 rfl rfl)
theorem dX0_countBy_66 : decode cX0_countBy 66 = .ok (.goto 4, 3) := dk_167 0 4 (dk_at dksX0_countBy_2 18 rfl rfl)
theorem dX0_countBy_69 : decode cX0_countBy 69 = .ok (.iconst 0, 1) := dk_3 (dk_at dksX0_countBy_2 21 rfl rfl)
theorem dX0_countBy_70 : decode cX0_countBy 70 = .ok (.iastore, 1) := dk_79 (dk_at dksX0_countBy_2 22 rfl rfl)
theorem dX0_countBy_71 : decode cX0_countBy 71 = .ok (.iinc 5 1, 3) := dk_132 5 1 (dk_at dksX0_countBy_3 0 rfl rfl)
theorem dX0_countBy_74 : decode cX0_countBy 74 = .ok (.goto (-39), 3) := dk_167 255 217 (dk_at dksX0_countBy_3 3 rfl rfl)
theorem dX0_countBy_77 : decode cX0_countBy 77 = .ok (.aload_n 0, 1) := dk_42 (dk_at dksX0_countBy_3 6 rfl rfl)
theorem dX0_countBy_78 : decode cX0_countBy 78 = .ok (.getfield 96, 3) := dk_180 0 96 (dk_at dksX0_countBy_3 7 rfl rfl)
theorem dX0_countBy_81 : decode cX0_countBy 81 = .ok (.getfield 403, 3) := dk_180 1 147 (dk_at dksX0_countBy_3 10 rfl rfl)
theorem dX0_countBy_84 : decode cX0_countBy 84 = .ok (.aload_n 0, 1) := dk_42 (dk_at dksX0_countBy_3 13 rfl rfl)
theorem dX0_countBy_85 : decode cX0_countBy 85 = .ok (.getfield 96, 3) := dk_180 0 96 (dk_at dksX0_countBy_3 14 rfl rfl)
theorem dX0_countBy_88 : decode cX0_countBy 88 = .ok (.getfield 302, 3) := dk_180 1 46 (dk_at dksX0_countBy_3 17 rfl rfl)
theorem dX0_countBy_91 : decode cX0_countBy 91 = .ok (.iload 4, 2) := dk_21 4 (dk_at dksX0_countBy_3 20 rfl rfl)
theorem dX0_countBy_93 : decode cX0_countBy 93 = .ok (.iastore, 1) := dk_79 (dk_at dksX0_countBy_3 22 rfl rfl)
theorem dX0_countBy_94 : decode cX0_countBy 94 = .ok (.aload_n 0, 1) := dk_42 (dk_at dksX0_countBy_3 23 rfl rfl)
theorem dX0_countBy_95 : decode cX0_countBy 95 = .ok (.getfield 96, 3) := dk_180 0 96 (dk_at dksX0_countBy_4 0 rfl rfl)
theorem dX0_countBy_98 : decode cX0_countBy 98 = .ok (.dup, 1) := dk_89 (dk_at dksX0_countBy_4 3 rfl rfl)
theorem dX0_countBy_99 : decode cX0_countBy 99 = .ok (.getfield 302, 3) := dk_180 1 46 (dk_at dksX0_countBy_4 4 rfl rfl)
theorem dX0_countBy_102 : decode cX0_countBy 102 = .ok (.iconst 1, 1) := dk_4 (dk_at dksX0_countBy_4 7 rfl rfl)
theorem dX0_countBy_103 : decode cX0_countBy 103 = .ok (.iadd, 1) := dk_96 (dk_at dksX0_countBy_4 8 rfl rfl)
theorem dX0_countBy_104 : decode cX0_countBy 104 = .ok (.putfield 302, 3) := dk_181 1 46 (dk_at dksX0_countBy_4 9 rfl rfl)
theorem dX0_countBy_107 : decode cX0_countBy 107 = .ok (.iinc 4 1, 3) := dk_132 4 1 (dk_at dksX0_countBy_4 12 rfl rfl)
theorem dX0_countBy_110 : decode cX0_countBy 110 = .ok (.goto (-99), 3) := dk_167 255 157 (dk_at dksX0_countBy_4 15 rfl rfl)
theorem dX0_countBy_113 : decode cX0_countBy 113 = .ok (.iconst 0, 1) := dk_3 (dk_at dksX0_countBy_4 18 rfl rfl)
theorem dX0_countBy_114 : decode cX0_countBy 114 = .ok (.istore 4, 2) := dk_54 4 (dk_at dksX0_countBy_4 19 rfl rfl)
theorem dX0_countBy_116 : decode cX0_countBy 116 = .ok (.iconst 1, 1) := dk_4 (dk_at dksX0_countBy_4 21 rfl rfl)
theorem dX0_countBy_117 : decode cX0_countBy 117 = .ok (.istore 5, 2) := dk_54 5 (dk_at dksX0_countBy_4 22 rfl rfl)
theorem dX0_countBy_119 : decode cX0_countBy 119 = .ok (.iconst 0, 1) := dk_3 (dk_at dksX0_countBy_5 0 rfl rfl)
theorem dX0_countBy_120 : decode cX0_countBy 120 = .ok (.istore 6, 2) := dk_54 6 (dk_at dksX0_countBy_5 1 rfl rfl)
theorem dX0_countBy_122 : decode cX0_countBy 122 = .ok (.iload 6, 2) := dk_21 6 (dk_at dksX0_countBy_5 3 rfl rfl)
theorem dX0_countBy_124 : decode cX0_countBy 124 = .ok (.aload_n 0, 1) := dk_42 (dk_at dksX0_countBy_5 5 rfl rfl)
theorem dX0_countBy_125 : decode cX0_countBy 125 = .ok (.getfield 96, 3) := dk_180 0 96 (dk_at dksX0_countBy_5 6 rfl rfl)
theorem dX0_countBy_128 : decode cX0_countBy 128 = .ok (.getfield 302, 3) := dk_180 1 46 (dk_at dksX0_countBy_5 9 rfl rfl)
theorem dX0_countBy_131 : decode cX0_countBy 131 = .ok (.if_icmp .ge 81, 3) := dk_162 0 81 (dk_at dksX0_countBy_5 12 rfl rfl)
theorem dX0_countBy_134 : decode cX0_countBy 134 = .ok (.aload_n 0, 1) := dk_42 (dk_at dksX0_countBy_5 15 rfl rfl)
theorem dX0_countBy_135 : decode cX0_countBy 135 = .ok (.getfield 96, 3) := dk_180 0 96 (dk_at dksX0_countBy_5 16 rfl rfl)
theorem dX0_countBy_138 : decode cX0_countBy 138 = .ok (.getfield 403, 3) := dk_180 1 147 (dk_at dksX0_countBy_5 19 rfl rfl)
theorem dX0_countBy_141 : decode cX0_countBy 141 = .ok (.iload 6, 2) := dk_21 6 (dk_at dksX0_countBy_5 22 rfl rfl)
theorem dX0_countBy_143 : decode cX0_countBy 143 = .ok (.iaload, 1) := dk_46 (dk_at dksX0_countBy_6 0 rfl rfl)
theorem dX0_countBy_144 : decode cX0_countBy 144 = .ok (.iconst 1, 1) := dk_4 (dk_at dksX0_countBy_6 1 rfl rfl)
theorem dX0_countBy_145 : decode cX0_countBy 145 = .ok (.iadd, 1) := dk_96 (dk_at dksX0_countBy_6 2 rfl rfl)
theorem dX0_countBy_146 : decode cX0_countBy 146 = .ok (.istore 7, 2) := dk_54 7 (dk_at dksX0_countBy_6 3 rfl rfl)
theorem dX0_countBy_148 : decode cX0_countBy 148 = .ok (.iload 7, 2) := dk_21 7 (dk_at dksX0_countBy_6 5 rfl rfl)
theorem dX0_countBy_150 : decode cX0_countBy 150 = .ok (.aload_n 1, 1) := dk_43 (dk_at dksX0_countBy_6 7 rfl rfl)
theorem dX0_countBy_151 : decode cX0_countBy 151 = .ok (.getfield 196, 3) := dk_180 0 196 (dk_at dksX0_countBy_6 8 rfl rfl)
theorem dX0_countBy_154 : decode cX0_countBy 154 = .ok (.if_icmp .ge 52, 3) := dk_162 0 52 (dk_at dksX0_countBy_6 11 rfl rfl)
theorem dX0_countBy_157 : decode cX0_countBy 157 = .ok (.iload_n 2, 1) := dk_28 (dk_at dksX0_countBy_6 14 rfl rfl)
theorem dX0_countBy_158 : decode cX0_countBy 158 = .ok (.iload 7, 2) := dk_21 7 (dk_at dksX0_countBy_6 15 rfl rfl)
theorem dX0_countBy_160 : decode cX0_countBy 160 = .ok (.ishr, 1) := dk_122 (dk_at dksX0_countBy_6 17 rfl rfl)
theorem dX0_countBy_161 : decode cX0_countBy 161 = .ok (.iconst 1, 1) := dk_4 (dk_at dksX0_countBy_6 18 rfl rfl)
theorem dX0_countBy_162 : decode cX0_countBy 162 = .ok (.iand, 1) := dk_126 (dk_at dksX0_countBy_6 19 rfl rfl)
theorem dX0_countBy_163 : decode cX0_countBy 163 = .ok (.iconst 1, 1) := dk_4 (dk_at dksX0_countBy_6 20 rfl rfl)
theorem dX0_countBy_164 : decode cX0_countBy 164 = .ok (.if_icmp .ne 6, 3) := dk_160 0 6 (dk_at dksX0_countBy_6 21 rfl rfl)
theorem dX0_countBy_167 : decode cX0_countBy 167 = .ok (.goto 33, 3) := dk_167 0 33 (dk_at dksX0_countBy_7 0 rfl rfl)
theorem dX0_countBy_170 : decode cX0_countBy 170 = .ok (.aload_n 0, 1) := dk_42 (dk_at dksX0_countBy_7 3 rfl rfl)
theorem dX0_countBy_171 : decode cX0_countBy 171 = .ok (.getfield 99, 3) := dk_180 0 99 (dk_at dksX0_countBy_7 4 rfl rfl)
theorem dX0_countBy_174 : decode cX0_countBy 174 = .ok (.iload 4, 2) := dk_21 4 (dk_at dksX0_countBy_7 7 rfl rfl)
theorem dX0_countBy_176 : decode cX0_countBy 176 = .ok (.iload 6, 2) := dk_21 6 (dk_at dksX0_countBy_7 9 rfl rfl)
theorem dX0_countBy_178 : decode cX0_countBy 178 = .ok (.iastore, 1) := dk_79 (dk_at dksX0_countBy_7 11 rfl rfl)
theorem dX0_countBy_179 : decode cX0_countBy 179 = .ok (.aload_n 0, 1) := dk_42 (dk_at dksX0_countBy_7 12 rfl rfl)
theorem dX0_countBy_180 : decode cX0_countBy 180 = .ok (.getfield 102, 3) := dk_180 0 102 (dk_at dksX0_countBy_7 13 rfl rfl)
theorem dX0_countBy_183 : decode cX0_countBy 183 = .ok (.iload 4, 2) := dk_21 4 (dk_at dksX0_countBy_7 16 rfl rfl)
theorem dX0_countBy_185 : decode cX0_countBy 185 = .ok (.iload 7, 2) := dk_21 7 (dk_at dksX0_countBy_7 18 rfl rfl)
theorem dX0_countBy_187 : decode cX0_countBy 187 = .ok (.iastore, 1) := dk_79 (dk_at dksX0_countBy_7 20 rfl rfl)
theorem dX0_countBy_188 : decode cX0_countBy 188 = .ok (.iinc 4 1, 3) := dk_132 4 1 (dk_at dksX0_countBy_7 21 rfl rfl)
theorem dX0_countBy_191 : decode cX0_countBy 191 = .ok (.iload 5, 2) := dk_21 5 (dk_at dksX0_countBy_8 0 rfl rfl)
theorem dX0_countBy_193 : decode cX0_countBy 193 = .ok (.aload_n 1, 1) := dk_43 (dk_at dksX0_countBy_8 2 rfl rfl)
theorem dX0_countBy_194 : decode cX0_countBy 194 = .ok (.getfield 253, 3) := dk_180 0 253 (dk_at dksX0_countBy_8 3 rfl rfl)
theorem dX0_countBy_197 : decode cX0_countBy 197 = .ok (.imul, 1) := dk_104 (dk_at dksX0_countBy_8 6 rfl rfl)
theorem dX0_countBy_198 : decode cX0_countBy 198 = .ok (.istore 5, 2) := dk_54 5 (dk_at dksX0_countBy_8 7 rfl rfl)
theorem dX0_countBy_200 : decode cX0_countBy 200 = .ok (.iinc 7 1, 3) := dk_132 7 1 (dk_at dksX0_countBy_8 9 rfl rfl)
theorem dX0_countBy_203 : decode cX0_countBy 203 = .ok (.goto (-55), 3) := dk_167 255 201 (dk_at dksX0_countBy_8 12 rfl rfl)
theorem dX0_countBy_206 : decode cX0_countBy 206 = .ok (.iinc 6 1, 3) := dk_132 6 1 (dk_at dksX0_countBy_8 15 rfl rfl)
theorem dX0_countBy_209 : decode cX0_countBy 209 = .ok (.goto (-87), 3) := dk_167 255 169 (dk_at dksX0_countBy_8 18 rfl rfl)
theorem dX0_countBy_212 : decode cX0_countBy 212 = .ok (.iconst 0, 1) := dk_3 (dk_at dksX0_countBy_8 21 rfl rfl)
theorem dX0_countBy_213 : decode cX0_countBy 213 = .ok (.istore 6, 2) := dk_54 6 (dk_at dksX0_countBy_8 22 rfl rfl)
theorem dX0_countBy_215 : decode cX0_countBy 215 = .ok (.iconst 0, 1) := dk_3 (dk_at dksX0_countBy_9 0 rfl rfl)
theorem dX0_countBy_216 : decode cX0_countBy 216 = .ok (.istore 7, 2) := dk_54 7 (dk_at dksX0_countBy_9 1 rfl rfl)
theorem dX0_countBy_218 : decode cX0_countBy 218 = .ok (.iload 7, 2) := dk_21 7 (dk_at dksX0_countBy_9 3 rfl rfl)
theorem dX0_countBy_220 : decode cX0_countBy 220 = .ok (.iload 5, 2) := dk_21 5 (dk_at dksX0_countBy_9 5 rfl rfl)
theorem dX0_countBy_222 : decode cX0_countBy 222 = .ok (.if_icmp .ge 91, 3) := dk_162 0 91 (dk_at dksX0_countBy_9 7 rfl rfl)
theorem dX0_countBy_225 : decode cX0_countBy 225 = .ok (.iload 7, 2) := dk_21 7 (dk_at dksX0_countBy_9 10 rfl rfl)
theorem dX0_countBy_227 : decode cX0_countBy 227 = .ok (.istore 8, 2) := dk_54 8 (dk_at dksX0_countBy_9 12 rfl rfl)
theorem dX0_countBy_229 : decode cX0_countBy 229 = .ok (.iconst 0, 1) := dk_3 (dk_at dksX0_countBy_9 14 rfl rfl)
theorem dX0_countBy_230 : decode cX0_countBy 230 = .ok (.istore 9, 2) := dk_54 9 (dk_at dksX0_countBy_9 15 rfl rfl)
theorem dX0_countBy_232 : decode cX0_countBy 232 = .ok (.iload 9, 2) := dk_21 9 (dk_at dksX0_countBy_9 17 rfl rfl)
theorem dX0_countBy_234 : decode cX0_countBy 234 = .ok (.iload 4, 2) := dk_21 4 (dk_at dksX0_countBy_9 19 rfl rfl)
theorem dX0_countBy_236 : decode cX0_countBy 236 = .ok (.if_icmp .ge 48, 3) := dk_162 0 48 (dk_at dksX0_countBy_9 21 rfl rfl)
theorem dX0_countBy_239 : decode cX0_countBy 239 = .ok (.aload_n 0, 1) := dk_42 (dk_at dksX0_countBy_10 0 rfl rfl)
theorem dX0_countBy_240 : decode cX0_countBy 240 = .ok (.getfield 96, 3) := dk_180 0 96 (dk_at dksX0_countBy_10 1 rfl rfl)
theorem dX0_countBy_243 : decode cX0_countBy 243 = .ok (.getfield 305, 3) := dk_180 1 49 (dk_at dksX0_countBy_10 4 rfl rfl)
theorem dX0_countBy_246 : decode cX0_countBy 246 = .ok (.aload_n 0, 1) := dk_42 (dk_at dksX0_countBy_10 7 rfl rfl)
theorem dX0_countBy_247 : decode cX0_countBy 247 = .ok (.getfield 99, 3) := dk_180 0 99 (dk_at dksX0_countBy_10 8 rfl rfl)
theorem dX0_countBy_250 : decode cX0_countBy 250 = .ok (.iload 9, 2) := dk_21 9 (dk_at dksX0_countBy_10 11 rfl rfl)
theorem dX0_countBy_252 : decode cX0_countBy 252 = .ok (.iaload, 1) := dk_46 (dk_at dksX0_countBy_10 13 rfl rfl)
theorem dX0_countBy_253 : decode cX0_countBy 253 = .ok (.aaload, 1) := dk_50 (dk_at dksX0_countBy_10 14 rfl rfl)
theorem dX0_countBy_254 : decode cX0_countBy 254 = .ok (.aload_n 0, 1) := dk_42 (dk_at dksX0_countBy_10 15 rfl rfl)
theorem dX0_countBy_255 : decode cX0_countBy 255 = .ok (.getfield 102, 3) := dk_180 0 102 (dk_at dksX0_countBy_10 16 rfl rfl)
theorem dX0_countBy_258 : decode cX0_countBy 258 = .ok (.iload 9, 2) := dk_21 9 (dk_at dksX0_countBy_10 19 rfl rfl)
theorem dX0_countBy_260 : decode cX0_countBy 260 = .ok (.iaload, 1) := dk_46 (dk_at dksX0_countBy_10 21 rfl rfl)
theorem dX0_countBy_261 : decode cX0_countBy 261 = .ok (.iload 8, 2) := dk_21 8 (dk_at dksX0_countBy_10 22 rfl rfl)
theorem dX0_countBy_263 : decode cX0_countBy 263 = .ok (.aload_n 1, 1) := dk_43 (dk_at dksX0_countBy_11 0 rfl rfl)
theorem dX0_countBy_264 : decode cX0_countBy 264 = .ok (.getfield 253, 3) := dk_180 0 253 (dk_at dksX0_countBy_11 1 rfl rfl)
theorem dX0_countBy_267 : decode cX0_countBy 267 = .ok (.irem, 1) := dk_112 (dk_at dksX0_countBy_11 4 rfl rfl)
theorem dX0_countBy_268 : decode cX0_countBy 268 = .ok (.iastore, 1) := dk_79 (dk_at dksX0_countBy_11 5 rfl rfl)
theorem dX0_countBy_269 : decode cX0_countBy 269 = .ok (.iload 8, 2) := dk_21 8 (dk_at dksX0_countBy_11 6 rfl rfl)
theorem dX0_countBy_271 : decode cX0_countBy 271 = .ok (.aload_n 1, 1) := dk_43 (dk_at dksX0_countBy_11 8 rfl rfl)
theorem dX0_countBy_272 : decode cX0_countBy 272 = .ok (.getfield 253, 3) := dk_180 0 253 (dk_at dksX0_countBy_11 9 rfl rfl)
theorem dX0_countBy_275 : decode cX0_countBy 275 = .ok (.idiv, 1) := dk_108 (dk_at dksX0_countBy_11 12 rfl rfl)
theorem dX0_countBy_276 : decode cX0_countBy 276 = .ok (.istore 8, 2) := dk_54 8 (dk_at dksX0_countBy_11 13 rfl rfl)
theorem dX0_countBy_278 : decode cX0_countBy 278 = .ok (.iinc 9 1, 3) := dk_132 9 1 (dk_at dksX0_countBy_11 15 rfl rfl)
theorem dX0_countBy_281 : decode cX0_countBy 281 = .ok (.goto (-49), 3) := dk_167 255 207 (dk_at dksX0_countBy_11 18 rfl rfl)
theorem dX0_countBy_284 : decode cX0_countBy 284 = .ok (.iload 6, 2) := dk_21 6 (dk_at dksX0_countBy_11 21 rfl rfl)
theorem dX0_countBy_286 : decode cX0_countBy 286 = .ok (.aload_n 0, 1) := dk_42 (dk_at dksX0_countBy_11 23 rfl rfl)
theorem dX0_countBy_287 : decode cX0_countBy 287 = .ok (.aload_n 1, 1) := dk_43 (dk_at dksX0_countBy_12 0 rfl rfl)
theorem dX0_countBy_288 : decode cX0_countBy 288 = .ok (.aload_n 0, 1) := dk_42 (dk_at dksX0_countBy_12 1 rfl rfl)
theorem dX0_countBy_289 : decode cX0_countBy 289 = .ok (.getfield 96, 3) := dk_180 0 96 (dk_at dksX0_countBy_12 2 rfl rfl)
theorem dX0_countBy_292 : decode cX0_countBy 292 = .ok (.iload_n 3, 1) := dk_29 (dk_at dksX0_countBy_12 5 rfl rfl)
theorem dX0_countBy_293 : decode cX0_countBy 293 = .ok (.invokevirtual 406, 3) := dk_182 1 150 (dk_at dksX0_countBy_12 6 rfl rfl)
theorem dX0_countBy_296 : decode cX0_countBy 296 = .ok (.ifCond .eq 7, 3) := dk_153 0 7 (dk_at dksX0_countBy_12 9 rfl rfl)
theorem dX0_countBy_299 : decode cX0_countBy 299 = .ok (.iconst 1, 1) := dk_4 (dk_at dksX0_countBy_12 12 rfl rfl)
theorem dX0_countBy_300 : decode cX0_countBy 300 = .ok (.goto 4, 3) := dk_167 0 4 (dk_at dksX0_countBy_12 13 rfl rfl)
theorem dX0_countBy_303 : decode cX0_countBy 303 = .ok (.iconst 0, 1) := dk_3 (dk_at dksX0_countBy_12 16 rfl rfl)
theorem dX0_countBy_304 : decode cX0_countBy 304 = .ok (.iadd, 1) := dk_96 (dk_at dksX0_countBy_12 17 rfl rfl)
theorem dX0_countBy_305 : decode cX0_countBy 305 = .ok (.istore 6, 2) := dk_54 6 (dk_at dksX0_countBy_12 18 rfl rfl)
theorem dX0_countBy_307 : decode cX0_countBy 307 = .ok (.iinc 7 1, 3) := dk_132 7 1 (dk_at dksX0_countBy_12 20 rfl rfl)
theorem dX0_countBy_310 : decode cX0_countBy 310 = .ok (.goto (-92), 3) := dk_167 255 164 (dk_at dksX0_countBy_13 0 rfl rfl)
theorem dX0_countBy_313 : decode cX0_countBy 313 = .ok (.iload 6, 2) := dk_21 6 (dk_at dksX0_countBy_13 3 rfl rfl)
theorem dX0_countBy_315 : decode cX0_countBy 315 = .ok (.ireturn, 1) := dk_172 (dk_at dksX0_countBy_13 5 rfl rfl)
abbrev cX0_isKind : ByteArray := prog_1_method_62_code
def dkwX0_isKind_6 : List UInt8 := [182, 1, 128, 153, 0, 7, 4, 167, 0, 4, 3, 172, 4, 172]
abbrev dktX0_isKind_6 : List UInt8 := dkwX0_isKind_6 ++ []
def dkwX0_isKind_5 : List UInt8 := [182, 1, 135, 153, 0, 7, 4, 167, 0, 4, 3, 172, 42, 43, 44, 182, 1, 122, 153, 0, 16, 42, 43, 44]
abbrev dktX0_isKind_5 : List UInt8 := dkwX0_isKind_5 ++ dktX0_isKind_6
def dkwX0_isKind_4 : List UInt8 := [180, 1, 46, 160, 0, 7, 4, 167, 0, 4, 3, 172, 42, 43, 44, 182, 1, 122, 153, 0, 16, 42, 43, 44]
abbrev dktX0_isKind_4 : List UInt8 := dkwX0_isKind_4 ++ dktX0_isKind_5
def dkwX0_isKind_3 : List UInt8 := [182, 1, 118, 153, 0, 29, 42, 43, 44, 182, 1, 128, 153, 0, 20, 42, 43, 44, 182, 1, 131, 44]
abbrev dktX0_isKind_3 : List UInt8 := dkwX0_isKind_3 ++ dktX0_isKind_4
def dkwX0_isKind_2 : List UInt8 := [42, 43, 44, 182, 1, 118, 172, 42, 43, 44, 182, 1, 122, 172, 42, 43, 44, 182, 1, 125, 172, 42, 43, 44]
abbrev dktX0_isKind_2 : List UInt8 := dkwX0_isKind_2 ++ dktX0_isKind_3
def dkwX0_isKind_1 : List UInt8 := [170, 0, 0, 0, 0, 0, 145, 0, 0, 0, 0, 0, 0, 0, 5, 0, 0, 0, 39, 0, 0, 0, 46, 0, 0, 0, 53, 0, 0, 0, 60, 0, 0, 0, 97, 0, 0, 0, 121]
abbrev dktX0_isKind_1 : List UInt8 := dkwX0_isKind_1 ++ dktX0_isKind_2
def dkwX0_isKind_0 : List UInt8 := [29]
abbrev dktX0_isKind_0 : List UInt8 := dkwX0_isKind_0 ++ dktX0_isKind_1
theorem dksX0_isKind_0 : cX0_isKind.data.toList.drop 0 = dktX0_isKind_0 := by decide +kernel
theorem dksX0_isKind_1 : cX0_isKind.data.toList.drop 1 = dktX0_isKind_1 := dk_seg dksX0_isKind_0 1 rfl rfl
theorem dksX0_isKind_2 : cX0_isKind.data.toList.drop 40 = dktX0_isKind_2 := dk_seg dksX0_isKind_1 39 rfl rfl
theorem dksX0_isKind_3 : cX0_isKind.data.toList.drop 64 = dktX0_isKind_3 := dk_seg dksX0_isKind_2 24 rfl rfl
theorem dksX0_isKind_4 : cX0_isKind.data.toList.drop 86 = dktX0_isKind_4 := dk_seg dksX0_isKind_3 22 rfl rfl
theorem dksX0_isKind_5 : cX0_isKind.data.toList.drop 110 = dktX0_isKind_5 := dk_seg dksX0_isKind_4 24 rfl rfl
theorem dksX0_isKind_6 : cX0_isKind.data.toList.drop 134 = dktX0_isKind_6 := dk_seg dksX0_isKind_5 24 rfl rfl
theorem dX0_isKind_0 : decode cX0_isKind 0 = .ok (.iload_n 3, 1) := dk_29 (dk_at dksX0_isKind_0 0 rfl rfl)
theorem dX0_isKind_1 : decode cX0_isKind 1 = .ok (.tableswitch 145 0 5 #[39, 46, 53, 60, 97, 121], 39) := by decide +kernel
theorem dX0_isKind_40 : decode cX0_isKind 40 = .ok (.aload_n 0, 1) := dk_42 (dk_at dksX0_isKind_2 0 rfl rfl)
theorem dX0_isKind_41 : decode cX0_isKind 41 = .ok (.aload_n 1, 1) := dk_43 (dk_at dksX0_isKind_2 1 rfl rfl)
theorem dX0_isKind_42 : decode cX0_isKind 42 = .ok (.aload_n 2, 1) := dk_44 (dk_at dksX0_isKind_2 2 rfl rfl)
theorem dX0_isKind_43 : decode cX0_isKind 43 = .ok (.invokevirtual 374, 3) := dk_182 1 118 (dk_at dksX0_isKind_2 3 rfl rfl)
theorem dX0_isKind_46 : decode cX0_isKind 46 = .ok (.ireturn, 1) := dk_172 (dk_at dksX0_isKind_2 6 rfl rfl)
theorem dX0_isKind_47 : decode cX0_isKind 47 = .ok (.aload_n 0, 1) := dk_42 (dk_at dksX0_isKind_2 7 rfl rfl)
theorem dX0_isKind_48 : decode cX0_isKind 48 = .ok (.aload_n 1, 1) := dk_43 (dk_at dksX0_isKind_2 8 rfl rfl)
theorem dX0_isKind_49 : decode cX0_isKind 49 = .ok (.aload_n 2, 1) := dk_44 (dk_at dksX0_isKind_2 9 rfl rfl)
theorem dX0_isKind_50 : decode cX0_isKind 50 = .ok (.invokevirtual 378, 3) := dk_182 1 122 (dk_at dksX0_isKind_2 10 rfl rfl)
theorem dX0_isKind_53 : decode cX0_isKind 53 = .ok (.ireturn, 1) := dk_172 (dk_at dksX0_isKind_2 13 rfl rfl)
theorem dX0_isKind_54 : decode cX0_isKind 54 = .ok (.aload_n 0, 1) := dk_42 (dk_at dksX0_isKind_2 14 rfl rfl)
theorem dX0_isKind_55 : decode cX0_isKind 55 = .ok (.aload_n 1, 1) := dk_43 (dk_at dksX0_isKind_2 15 rfl rfl)
theorem dX0_isKind_56 : decode cX0_isKind 56 = .ok (.aload_n 2, 1) := dk_44 (dk_at dksX0_isKind_2 16 rfl rfl)
theorem dX0_isKind_57 : decode cX0_isKind 57 = .ok (.invokevirtual 381, 3) := dk_182 1 125 (dk_at dksX0_isKind_2 17 rfl rfl)
theorem dX0_isKind_60 : decode cX0_isKind 60 = .ok (.ireturn, 1) := dk_172 (dk_at dksX0_isKind_2 20 rfl rfl)
theorem dX0_isKind_61 : decode cX0_isKind 61 = .ok (.aload_n 0, 1) := dk_42 (dk_at dksX0_isKind_2 21 rfl rfl)
theorem dX0_isKind_62 : decode cX0_isKind 62 = .ok (.aload_n 1, 1) := dk_43 (dk_at dksX0_isKind_2 22 rfl rfl)
theorem dX0_isKind_63 : decode cX0_isKind 63 = .ok (.aload_n 2, 1) := dk_44 (dk_at dksX0_isKind_2 23 rfl rfl)
theorem dX0_isKind_64 : decode cX0_isKind 64 = .ok (.invokevirtual 374, 3) := dk_182 1 118 (dk_at dksX0_isKind_3 0 rfl rfl)
theorem dX0_isKind_67 : decode cX0_isKind 67 = .ok (.ifCond .eq 29, 3) := dk_153 0 29 (dk_at dksX0_isKind_3 3 rfl rfl)
theorem dX0_isKind_70 : decode cX0_isKind 70 = .ok (.aload_n 0, 1) := dk_42 (dk_at dksX0_isKind_3 6 rfl rfl)
theorem dX0_isKind_71 : decode cX0_isKind 71 = .ok (.aload_n 1, 1) := dk_43 (dk_at dksX0_isKind_3 7 rfl rfl)
theorem dX0_isKind_72 : decode cX0_isKind 72 = .ok (.aload_n 2, 1) := dk_44 (dk_at dksX0_isKind_3 8 rfl rfl)
theorem dX0_isKind_73 : decode cX0_isKind 73 = .ok (.invokevirtual 384, 3) := dk_182 1 128 (dk_at dksX0_isKind_3 9 rfl rfl)
theorem dX0_isKind_76 : decode cX0_isKind 76 = .ok (.ifCond .eq 20, 3) := dk_153 0 20 (dk_at dksX0_isKind_3 12 rfl rfl)
theorem dX0_isKind_79 : decode cX0_isKind 79 = .ok (.aload_n 0, 1) := dk_42 (dk_at dksX0_isKind_3 15 rfl rfl)
theorem dX0_isKind_80 : decode cX0_isKind 80 = .ok (.aload_n 1, 1) := dk_43 (dk_at dksX0_isKind_3 16 rfl rfl)
theorem dX0_isKind_81 : decode cX0_isKind 81 = .ok (.aload_n 2, 1) := dk_44 (dk_at dksX0_isKind_3 17 rfl rfl)
theorem dX0_isKind_82 : decode cX0_isKind 82 = .ok (.invokevirtual 387, 3) := dk_182 1 131 (dk_at dksX0_isKind_3 18 rfl rfl)
theorem dX0_isKind_85 : decode cX0_isKind 85 = .ok (.aload_n 2, 1) := dk_44 (dk_at dksX0_isKind_3 21 rfl rfl)
theorem dX0_isKind_86 : decode cX0_isKind 86 = .ok (.getfield 302, 3) := dk_180 1 46 (dk_at dksX0_isKind_4 0 rfl rfl)
theorem dX0_isKind_89 : decode cX0_isKind 89 = .ok (.if_icmp .ne 7, 3) := dk_160 0 7 (dk_at dksX0_isKind_4 3 rfl rfl)
theorem dX0_isKind_92 : decode cX0_isKind 92 = .ok (.iconst 1, 1) := dk_4 (dk_at dksX0_isKind_4 6 rfl rfl)
theorem dX0_isKind_93 : decode cX0_isKind 93 = .ok (.goto 4, 3) := dk_167 0 4 (dk_at dksX0_isKind_4 7 rfl rfl)
theorem dX0_isKind_96 : decode cX0_isKind 96 = .ok (.iconst 0, 1) := dk_3 (dk_at dksX0_isKind_4 10 rfl rfl)
theorem dX0_isKind_97 : decode cX0_isKind 97 = .ok (.ireturn, 1) := dk_172 (dk_at dksX0_isKind_4 11 rfl rfl)
theorem dX0_isKind_98 : decode cX0_isKind 98 = .ok (.aload_n 0, 1) := dk_42 (dk_at dksX0_isKind_4 12 rfl rfl)
theorem dX0_isKind_99 : decode cX0_isKind 99 = .ok (.aload_n 1, 1) := dk_43 (dk_at dksX0_isKind_4 13 rfl rfl)
theorem dX0_isKind_100 : decode cX0_isKind 100 = .ok (.aload_n 2, 1) := dk_44 (dk_at dksX0_isKind_4 14 rfl rfl)
theorem dX0_isKind_101 : decode cX0_isKind 101 = .ok (.invokevirtual 378, 3) := dk_182 1 122 (dk_at dksX0_isKind_4 15 rfl rfl)
theorem dX0_isKind_104 : decode cX0_isKind 104 = .ok (.ifCond .eq 16, 3) := dk_153 0 16 (dk_at dksX0_isKind_4 18 rfl rfl)
theorem dX0_isKind_107 : decode cX0_isKind 107 = .ok (.aload_n 0, 1) := dk_42 (dk_at dksX0_isKind_4 21 rfl rfl)
theorem dX0_isKind_108 : decode cX0_isKind 108 = .ok (.aload_n 1, 1) := dk_43 (dk_at dksX0_isKind_4 22 rfl rfl)
theorem dX0_isKind_109 : decode cX0_isKind 109 = .ok (.aload_n 2, 1) := dk_44 (dk_at dksX0_isKind_4 23 rfl rfl)
theorem dX0_isKind_110 : decode cX0_isKind 110 = .ok (.invokevirtual 391, 3) := dk_182 1 135 (dk_at dksX0_isKind_5 0 rfl rfl)
theorem dX0_isKind_113 : decode cX0_isKind 113 = .ok (.ifCond .eq 7, 3) := dk_153 0 7 (dk_at dksX0_isKind_5 3 rfl rfl)
theorem dX0_isKind_116 : decode cX0_isKind 116 = .ok (.iconst 1, 1) := dk_4 (dk_at dksX0_isKind_5 6 rfl rfl)
theorem dX0_isKind_117 : decode cX0_isKind 117 = .ok (.goto 4, 3) := dk_167 0 4 (dk_at dksX0_isKind_5 7 rfl rfl)
theorem dX0_isKind_120 : decode cX0_isKind 120 = .ok (.iconst 0, 1) := dk_3 (dk_at dksX0_isKind_5 10 rfl rfl)
theorem dX0_isKind_121 : decode cX0_isKind 121 = .ok (.ireturn, 1) := dk_172 (dk_at dksX0_isKind_5 11 rfl rfl)
theorem dX0_isKind_122 : decode cX0_isKind 122 = .ok (.aload_n 0, 1) := dk_42 (dk_at dksX0_isKind_5 12 rfl rfl)
theorem dX0_isKind_123 : decode cX0_isKind 123 = .ok (.aload_n 1, 1) := dk_43 (dk_at dksX0_isKind_5 13 rfl rfl)
theorem dX0_isKind_124 : decode cX0_isKind 124 = .ok (.aload_n 2, 1) := dk_44 (dk_at dksX0_isKind_5 14 rfl rfl)
theorem dX0_isKind_125 : decode cX0_isKind 125 = .ok (.invokevirtual 378, 3) := dk_182 1 122 (dk_at dksX0_isKind_5 15 rfl rfl)
theorem dX0_isKind_128 : decode cX0_isKind 128 = .ok (.ifCond .eq 16, 3) := dk_153 0 16 (dk_at dksX0_isKind_5 18 rfl rfl)
theorem dX0_isKind_131 : decode cX0_isKind 131 = .ok (.aload_n 0, 1) := dk_42 (dk_at dksX0_isKind_5 21 rfl rfl)
theorem dX0_isKind_132 : decode cX0_isKind 132 = .ok (.aload_n 1, 1) := dk_43 (dk_at dksX0_isKind_5 22 rfl rfl)
theorem dX0_isKind_133 : decode cX0_isKind 133 = .ok (.aload_n 2, 1) := dk_44 (dk_at dksX0_isKind_5 23 rfl rfl)
theorem dX0_isKind_134 : decode cX0_isKind 134 = .ok (.invokevirtual 384, 3) := dk_182 1 128 (dk_at dksX0_isKind_6 0 rfl rfl)
theorem dX0_isKind_137 : decode cX0_isKind 137 = .ok (.ifCond .eq 7, 3) := dk_153 0 7 (dk_at dksX0_isKind_6 3 rfl rfl)
theorem dX0_isKind_140 : decode cX0_isKind 140 = .ok (.iconst 1, 1) := dk_4 (dk_at dksX0_isKind_6 6 rfl rfl)
theorem dX0_isKind_141 : decode cX0_isKind 141 = .ok (.goto 4, 3) := dk_167 0 4 (dk_at dksX0_isKind_6 7 rfl rfl)
theorem dX0_isKind_144 : decode cX0_isKind 144 = .ok (.iconst 0, 1) := dk_3 (dk_at dksX0_isKind_6 10 rfl rfl)
theorem dX0_isKind_145 : decode cX0_isKind 145 = .ok (.ireturn, 1) := dk_172 (dk_at dksX0_isKind_6 11 rfl rfl)
theorem dX0_isKind_146 : decode cX0_isKind 146 = .ok (.iconst 1, 1) := dk_4 (dk_at dksX0_isKind_6 12 rfl rfl)
theorem dX0_isKind_147 : decode cX0_isKind 147 = .ok (.ireturn, 1) := dk_172 (dk_at dksX0_isKind_6 13 rfl rfl)
abbrev cX0_isPart : ByteArray := prog_1_method_56_code
def dkwX0_isPart_3 : List UInt8 := [172]
abbrev dktX0_isPart_3 : List UInt8 := dkwX0_isPart_3 ++ []
def dkwX0_isPart_2 : List UInt8 := [180, 0, 66, 182, 1, 110, 154, 0, 5, 3, 172, 132, 4, 1, 167, 255, 208, 132, 3, 1, 167, 255, 191, 4]
abbrev dktX0_isPart_2 : List UInt8 := dkwX0_isPart_2 ++ dktX0_isPart_3
def dkwX0_isPart_1 : List UInt8 := [29, 50, 44, 180, 1, 49, 21, 4, 50, 42, 180, 0, 63, 182, 1, 18, 44, 43, 42, 180, 0, 63, 42]
abbrev dktX0_isPart_1 : List UInt8 := dkwX0_isPart_1 ++ dktX0_isPart_2
def dkwX0_isPart_0 : List UInt8 := [3, 62, 29, 44, 180, 1, 46, 162, 0, 63, 3, 54, 4, 21, 4, 29, 162, 0, 48, 43, 44, 180, 1, 49]
abbrev dktX0_isPart_0 : List UInt8 := dkwX0_isPart_0 ++ dktX0_isPart_1
theorem dksX0_isPart_0 : cX0_isPart.data.toList.drop 0 = dktX0_isPart_0 := by decide +kernel
theorem dksX0_isPart_1 : cX0_isPart.data.toList.drop 24 = dktX0_isPart_1 := dk_seg dksX0_isPart_0 24 rfl rfl
theorem dksX0_isPart_2 : cX0_isPart.data.toList.drop 47 = dktX0_isPart_2 := dk_seg dksX0_isPart_1 23 rfl rfl
theorem dksX0_isPart_3 : cX0_isPart.data.toList.drop 71 = dktX0_isPart_3 := dk_seg dksX0_isPart_2 24 rfl rfl
theorem dX0_isPart_0 : decode cX0_isPart 0 = .ok (.iconst 0, 1) := dk_3 (dk_at dksX0_isPart_0 0 rfl rfl)
theorem dX0_isPart_1 : decode cX0_isPart 1 = .ok (.istore_n 3, 1) := dk_62 (dk_at dksX0_isPart_0 1 rfl rfl)
theorem dX0_isPart_2 : decode cX0_isPart 2 = .ok (.iload_n 3, 1) := dk_29 (dk_at dksX0_isPart_0 2 rfl rfl)
theorem dX0_isPart_3 : decode cX0_isPart 3 = .ok (.aload_n 2, 1) := dk_44 (dk_at dksX0_isPart_0 3 rfl rfl)
theorem dX0_isPart_4 : decode cX0_isPart 4 = .ok (.getfield 302, 3) := dk_180 1 46 (dk_at dksX0_isPart_0 4 rfl rfl)
theorem dX0_isPart_7 : decode cX0_isPart 7 = .ok (.if_icmp .ge 63, 3) := dk_162 0 63 (dk_at dksX0_isPart_0 7 rfl rfl)
theorem dX0_isPart_10 : decode cX0_isPart 10 = .ok (.iconst 0, 1) := dk_3 (dk_at dksX0_isPart_0 10 rfl rfl)
theorem dX0_isPart_11 : decode cX0_isPart 11 = .ok (.istore 4, 2) := dk_54 4 (dk_at dksX0_isPart_0 11 rfl rfl)
theorem dX0_isPart_13 : decode cX0_isPart 13 = .ok (.iload 4, 2) := dk_21 4 (dk_at dksX0_isPart_0 13 rfl rfl)
theorem dX0_isPart_15 : decode cX0_isPart 15 = .ok (.iload_n 3, 1) := dk_29 (dk_at dksX0_isPart_0 15 rfl rfl)
theorem dX0_isPart_16 : decode cX0_isPart 16 = .ok (.if_icmp .ge 48, 3) := dk_162 0 48 (dk_at dksX0_isPart_0 16 rfl rfl)
theorem dX0_isPart_19 : decode cX0_isPart 19 = .ok (.aload_n 1, 1) := dk_43 (dk_at dksX0_isPart_0 19 rfl rfl)
theorem dX0_isPart_20 : decode cX0_isPart 20 = .ok (.aload_n 2, 1) := dk_44 (dk_at dksX0_isPart_0 20 rfl rfl)
theorem dX0_isPart_21 : decode cX0_isPart 21 = .ok (.getfield 305, 3) := dk_180 1 49 (dk_at dksX0_isPart_0 21 rfl rfl)
theorem dX0_isPart_24 : decode cX0_isPart 24 = .ok (.iload_n 3, 1) := dk_29 (dk_at dksX0_isPart_1 0 rfl rfl)
theorem dX0_isPart_25 : decode cX0_isPart 25 = .ok (.aaload, 1) := dk_50 (dk_at dksX0_isPart_1 1 rfl rfl)
theorem dX0_isPart_26 : decode cX0_isPart 26 = .ok (.aload_n 2, 1) := dk_44 (dk_at dksX0_isPart_1 2 rfl rfl)
theorem dX0_isPart_27 : decode cX0_isPart 27 = .ok (.getfield 305, 3) := dk_180 1 49 (dk_at dksX0_isPart_1 3 rfl rfl)
theorem dX0_isPart_30 : decode cX0_isPart 30 = .ok (.iload 4, 2) := dk_21 4 (dk_at dksX0_isPart_1 6 rfl rfl)
theorem dX0_isPart_32 : decode cX0_isPart 32 = .ok (.aaload, 1) := dk_50 (dk_at dksX0_isPart_1 8 rfl rfl)
theorem dX0_isPart_33 : decode cX0_isPart 33 = .ok (.aload_n 0, 1) := dk_42 (dk_at dksX0_isPart_1 9 rfl rfl)
theorem dX0_isPart_34 : decode cX0_isPart 34 = .ok (.getfield 63, 3) := dk_180 0 63 (dk_at dksX0_isPart_1 10 rfl rfl)
theorem dX0_isPart_37 : decode cX0_isPart 37 = .ok (.invokevirtual 274, 3) := dk_182 1 18 (dk_at dksX0_isPart_1 13 rfl rfl)
theorem dX0_isPart_40 : decode cX0_isPart 40 = .ok (.aload_n 2, 1) := dk_44 (dk_at dksX0_isPart_1 16 rfl rfl)
theorem dX0_isPart_41 : decode cX0_isPart 41 = .ok (.aload_n 1, 1) := dk_43 (dk_at dksX0_isPart_1 17 rfl rfl)
theorem dX0_isPart_42 : decode cX0_isPart 42 = .ok (.aload_n 0, 1) := dk_42 (dk_at dksX0_isPart_1 18 rfl rfl)
theorem dX0_isPart_43 : decode cX0_isPart 43 = .ok (.getfield 63, 3) := dk_180 0 63 (dk_at dksX0_isPart_1 19 rfl rfl)
theorem dX0_isPart_46 : decode cX0_isPart 46 = .ok (.aload_n 0, 1) := dk_42 (dk_at dksX0_isPart_1 22 rfl rfl)
theorem dX0_isPart_47 : decode cX0_isPart 47 = .ok (.getfield 66, 3) := dk_180 0 66 (dk_at dksX0_isPart_2 0 rfl rfl)
theorem dX0_isPart_50 : decode cX0_isPart 50 = .ok (.invokevirtual 366, 3) := dk_182 1 110 (dk_at dksX0_isPart_2 3 rfl rfl)
theorem dX0_isPart_53 : decode cX0_isPart 53 = .ok (.ifCond .ne 5, 3) := dk_154 0 5 (dk_at dksX0_isPart_2 6 rfl rfl)
theorem dX0_isPart_56 : decode cX0_isPart 56 = .ok (.iconst 0, 1) := dk_3 (dk_at dksX0_isPart_2 9 rfl rfl)
theorem dX0_isPart_57 : decode cX0_isPart 57 = .ok (.ireturn, 1) := dk_172 (dk_at dksX0_isPart_2 10 rfl rfl)
theorem dX0_isPart_58 : decode cX0_isPart 58 = .ok (.iinc 4 1, 3) := dk_132 4 1 (dk_at dksX0_isPart_2 11 rfl rfl)
theorem dX0_isPart_61 : decode cX0_isPart 61 = .ok (.goto (-48), 3) := dk_167 255 208 (dk_at dksX0_isPart_2 14 rfl rfl)
theorem dX0_isPart_64 : decode cX0_isPart 64 = .ok (.iinc 3 1, 3) := dk_132 3 1 (dk_at dksX0_isPart_2 17 rfl rfl)
theorem dX0_isPart_67 : decode cX0_isPart 67 = .ok (.goto (-65), 3) := dk_167 255 191 (dk_at dksX0_isPart_2 20 rfl rfl)
theorem dX0_isPart_70 : decode cX0_isPart 70 = .ok (.iconst 1, 1) := dk_4 (dk_at dksX0_isPart_2 23 rfl rfl)
theorem dX0_isPart_71 : decode cX0_isPart 71 = .ok (.ireturn, 1) := dk_172 (dk_at dksX0_isPart_3 0 rfl rfl)
abbrev cX0_isIdeal : ByteArray := prog_1_method_57_code
def dkwX0_isIdeal_4 : List UInt8 := [132, 4, 1, 167, 255, 174, 132, 3, 1, 167, 255, 157, 4, 172]
abbrev dktX0_isIdeal_4 : List UInt8 := dkwX0_isIdeal_4 ++ []
def dkwX0_isIdeal_3 : List UInt8 := [180, 0, 63, 182, 1, 18, 44, 43, 42, 180, 0, 63, 42, 180, 0, 66, 182, 1, 110, 154, 0, 5, 3, 172]
abbrev dktX0_isIdeal_3 : List UInt8 := dkwX0_isIdeal_3 ++ dktX0_isIdeal_4
def dkwX0_isIdeal_2 : List UInt8 := [167, 0, 4, 3, 79, 132, 5, 1, 167, 255, 228, 43, 44, 180, 1, 49, 29, 50, 42, 180, 0, 60, 42]
abbrev dktX0_isIdeal_2 : List UInt8 := dkwX0_isIdeal_2 ++ dktX0_isIdeal_3
def dkwX0_isIdeal_1 : List UInt8 := [54, 5, 21, 5, 8, 162, 0, 28, 42, 180, 0, 60, 21, 5, 21, 5, 21, 4, 160, 0, 7, 4]
abbrev dktX0_isIdeal_1 : List UInt8 := dkwX0_isIdeal_1 ++ dktX0_isIdeal_2
def dkwX0_isIdeal_0 : List UInt8 := [3, 62, 29, 44, 180, 1, 46, 162, 0, 97, 3, 54, 4, 21, 4, 43, 180, 0, 196, 162, 0, 79, 3]
abbrev dktX0_isIdeal_0 : List UInt8 := dkwX0_isIdeal_0 ++ dktX0_isIdeal_1
theorem dksX0_isIdeal_0 : cX0_isIdeal.data.toList.drop 0 = dktX0_isIdeal_0 := by decide +kernel
theorem dksX0_isIdeal_1 : cX0_isIdeal.data.toList.drop 23 = dktX0_isIdeal_1 := dk_seg dksX0_isIdeal_0 23 rfl rfl
theorem dksX0_isIdeal_2 : cX0_isIdeal.data.toList.drop 45 = dktX0_isIdeal_2 := dk_seg dksX0_isIdeal_1 22 rfl rfl
theorem dksX0_isIdeal_3 : cX0_isIdeal.data.toList.drop 68 = dktX0_isIdeal_3 := dk_seg dksX0_isIdeal_2 23 rfl rfl
theorem dksX0_isIdeal_4 : cX0_isIdeal.data.toList.drop 92 = dktX0_isIdeal_4 := dk_seg dksX0_isIdeal_3 24 rfl rfl
theorem dX0_isIdeal_0 : decode cX0_isIdeal 0 = .ok (.iconst 0, 1) := dk_3 (dk_at dksX0_isIdeal_0 0 rfl rfl)
theorem dX0_isIdeal_1 : decode cX0_isIdeal 1 = .ok (.istore_n 3, 1) := dk_62 (dk_at dksX0_isIdeal_0 1 rfl rfl)
theorem dX0_isIdeal_2 : decode cX0_isIdeal 2 = .ok (.iload_n 3, 1) := dk_29 (dk_at dksX0_isIdeal_0 2 rfl rfl)
theorem dX0_isIdeal_3 : decode cX0_isIdeal 3 = .ok (.aload_n 2, 1) := dk_44 (dk_at dksX0_isIdeal_0 3 rfl rfl)
theorem dX0_isIdeal_4 : decode cX0_isIdeal 4 = .ok (.getfield 302, 3) := dk_180 1 46 (dk_at dksX0_isIdeal_0 4 rfl rfl)
theorem dX0_isIdeal_7 : decode cX0_isIdeal 7 = .ok (.if_icmp .ge 97, 3) := dk_162 0 97 (dk_at dksX0_isIdeal_0 7 rfl rfl)
theorem dX0_isIdeal_10 : decode cX0_isIdeal 10 = .ok (.iconst 0, 1) := dk_3 (dk_at dksX0_isIdeal_0 10 rfl rfl)
theorem dX0_isIdeal_11 : decode cX0_isIdeal 11 = .ok (.istore 4, 2) := dk_54 4 (dk_at dksX0_isIdeal_0 11 rfl rfl)
theorem dX0_isIdeal_13 : decode cX0_isIdeal 13 = .ok (.iload 4, 2) := dk_21 4 (dk_at dksX0_isIdeal_0 13 rfl rfl)
theorem dX0_isIdeal_15 : decode cX0_isIdeal 15 = .ok (.aload_n 1, 1) := dk_43 (dk_at dksX0_isIdeal_0 15 rfl rfl)
theorem dX0_isIdeal_16 : decode cX0_isIdeal 16 = .ok (.getfield 196, 3) := dk_180 0 196 (dk_at dksX0_isIdeal_0 16 rfl rfl)
theorem dX0_isIdeal_19 : decode cX0_isIdeal 19 = .ok (.if_icmp .ge 79, 3) := dk_162 0 79 (dk_at dksX0_isIdeal_0 19 rfl rfl)
theorem dX0_isIdeal_22 : decode cX0_isIdeal 22 = .ok (.iconst 0, 1) := dk_3 (dk_at dksX0_isIdeal_0 22 rfl rfl)
theorem dX0_isIdeal_23 : decode cX0_isIdeal 23 = .ok (.istore 5, 2) := dk_54 5 (dk_at dksX0_isIdeal_1 0 rfl rfl)
theorem dX0_isIdeal_25 : decode cX0_isIdeal 25 = .ok (.iload 5, 2) := dk_21 5 (dk_at dksX0_isIdeal_1 2 rfl rfl)
theorem dX0_isIdeal_27 : decode cX0_isIdeal 27 = .ok (.iconst 5, 1) := dk_8 (dk_at dksX0_isIdeal_1 4 rfl rfl)
theorem dX0_isIdeal_28 : decode cX0_isIdeal 28 = .ok (.if_icmp .ge 28, 3) := dk_162 0 28 (dk_at dksX0_isIdeal_1 5 rfl rfl)
theorem dX0_isIdeal_31 : decode cX0_isIdeal 31 = .ok (.aload_n 0, 1) := dk_42 (dk_at dksX0_isIdeal_1 8 rfl rfl)
theorem dX0_isIdeal_32 : decode cX0_isIdeal 32 = .ok (.getfield 60, 3) := dk_180 0 60 (dk_at dksX0_isIdeal_1 9 rfl rfl)
theorem dX0_isIdeal_35 : decode cX0_isIdeal 35 = .ok (.iload 5, 2) := dk_21 5 (dk_at dksX0_isIdeal_1 12 rfl rfl)
theorem dX0_isIdeal_37 : decode cX0_isIdeal 37 = .ok (.iload 5, 2) := dk_21 5 (dk_at dksX0_isIdeal_1 14 rfl rfl)
theorem dX0_isIdeal_39 : decode cX0_isIdeal 39 = .ok (.iload 4, 2) := dk_21 4 (dk_at dksX0_isIdeal_1 16 rfl rfl)
theorem dX0_isIdeal_41 : decode cX0_isIdeal 41 = .ok (.if_icmp .ne 7, 3) := dk_160 0 7 (dk_at dksX0_isIdeal_1 18 rfl rfl)
theorem dX0_isIdeal_44 : decode cX0_isIdeal 44 = .ok (.iconst 1, 1) := dk_4 (dk_at dksX0_isIdeal_1 21 rfl rfl)
theorem dX0_isIdeal_45 : decode cX0_isIdeal 45 = .ok (.goto 4, 3) := dk_167 0 4 (dk_at dksX0_isIdeal_2 0 rfl rfl)
theorem dX0_isIdeal_48 : decode cX0_isIdeal 48 = .ok (.iconst 0, 1) := dk_3 (dk_at dksX0_isIdeal_2 3 rfl rfl)
theorem dX0_isIdeal_49 : decode cX0_isIdeal 49 = .ok (.iastore, 1) := dk_79 (dk_at dksX0_isIdeal_2 4 rfl rfl)
theorem dX0_isIdeal_50 : decode cX0_isIdeal 50 = .ok (.iinc 5 1, 3) := dk_132 5 1 (dk_at dksX0_isIdeal_2 5 rfl rfl)
theorem dX0_isIdeal_53 : decode cX0_isIdeal 53 = .ok (.goto (-28), 3) := dk_167 255 228 (dk_at dksX0_isIdeal_2 8 rfl rfl)
theorem dX0_isIdeal_56 : decode cX0_isIdeal 56 = .ok (.aload_n 1, 1) := dk_43 (dk_at dksX0_isIdeal_2 11 rfl rfl)
theorem dX0_isIdeal_57 : decode cX0_isIdeal 57 = .ok (.aload_n 2, 1) := dk_44 (dk_at dksX0_isIdeal_2 12 rfl rfl)
theorem dX0_isIdeal_58 : decode cX0_isIdeal 58 = .ok (.getfield 305, 3) := dk_180 1 49 (dk_at dksX0_isIdeal_2 13 rfl rfl)
theorem dX0_isIdeal_61 : decode cX0_isIdeal 61 = .ok (.iload_n 3, 1) := dk_29 (dk_at dksX0_isIdeal_2 16 rfl rfl)
theorem dX0_isIdeal_62 : decode cX0_isIdeal 62 = .ok (.aaload, 1) := dk_50 (dk_at dksX0_isIdeal_2 17 rfl rfl)
theorem dX0_isIdeal_63 : decode cX0_isIdeal 63 = .ok (.aload_n 0, 1) := dk_42 (dk_at dksX0_isIdeal_2 18 rfl rfl)
theorem dX0_isIdeal_64 : decode cX0_isIdeal 64 = .ok (.getfield 60, 3) := dk_180 0 60 (dk_at dksX0_isIdeal_2 19 rfl rfl)
theorem dX0_isIdeal_67 : decode cX0_isIdeal 67 = .ok (.aload_n 0, 1) := dk_42 (dk_at dksX0_isIdeal_2 22 rfl rfl)
theorem dX0_isIdeal_68 : decode cX0_isIdeal 68 = .ok (.getfield 63, 3) := dk_180 0 63 (dk_at dksX0_isIdeal_3 0 rfl rfl)
theorem dX0_isIdeal_71 : decode cX0_isIdeal 71 = .ok (.invokevirtual 274, 3) := dk_182 1 18 (dk_at dksX0_isIdeal_3 3 rfl rfl)
theorem dX0_isIdeal_74 : decode cX0_isIdeal 74 = .ok (.aload_n 2, 1) := dk_44 (dk_at dksX0_isIdeal_3 6 rfl rfl)
theorem dX0_isIdeal_75 : decode cX0_isIdeal 75 = .ok (.aload_n 1, 1) := dk_43 (dk_at dksX0_isIdeal_3 7 rfl rfl)
theorem dX0_isIdeal_76 : decode cX0_isIdeal 76 = .ok (.aload_n 0, 1) := dk_42 (dk_at dksX0_isIdeal_3 8 rfl rfl)
theorem dX0_isIdeal_77 : decode cX0_isIdeal 77 = .ok (.getfield 63, 3) := dk_180 0 63 (dk_at dksX0_isIdeal_3 9 rfl rfl)
theorem dX0_isIdeal_80 : decode cX0_isIdeal 80 = .ok (.aload_n 0, 1) := dk_42 (dk_at dksX0_isIdeal_3 12 rfl rfl)
theorem dX0_isIdeal_81 : decode cX0_isIdeal 81 = .ok (.getfield 66, 3) := dk_180 0 66 (dk_at dksX0_isIdeal_3 13 rfl rfl)
theorem dX0_isIdeal_84 : decode cX0_isIdeal 84 = .ok (.invokevirtual 366, 3) := dk_182 1 110 (dk_at dksX0_isIdeal_3 16 rfl rfl)
theorem dX0_isIdeal_87 : decode cX0_isIdeal 87 = .ok (.ifCond .ne 5, 3) := dk_154 0 5 (dk_at dksX0_isIdeal_3 19 rfl rfl)
theorem dX0_isIdeal_90 : decode cX0_isIdeal 90 = .ok (.iconst 0, 1) := dk_3 (dk_at dksX0_isIdeal_3 22 rfl rfl)
theorem dX0_isIdeal_91 : decode cX0_isIdeal 91 = .ok (.ireturn, 1) := dk_172 (dk_at dksX0_isIdeal_3 23 rfl rfl)
theorem dX0_isIdeal_92 : decode cX0_isIdeal 92 = .ok (.iinc 4 1, 3) := dk_132 4 1 (dk_at dksX0_isIdeal_4 0 rfl rfl)
theorem dX0_isIdeal_95 : decode cX0_isIdeal 95 = .ok (.goto (-82), 3) := dk_167 255 174 (dk_at dksX0_isIdeal_4 3 rfl rfl)
theorem dX0_isIdeal_98 : decode cX0_isIdeal 98 = .ok (.iinc 3 1, 3) := dk_132 3 1 (dk_at dksX0_isIdeal_4 6 rfl rfl)
theorem dX0_isIdeal_101 : decode cX0_isIdeal 101 = .ok (.goto (-99), 3) := dk_167 255 157 (dk_at dksX0_isIdeal_4 9 rfl rfl)
theorem dX0_isIdeal_104 : decode cX0_isIdeal 104 = .ok (.iconst 1, 1) := dk_4 (dk_at dksX0_isIdeal_4 12 rfl rfl)
theorem dX0_isIdeal_105 : decode cX0_isIdeal 105 = .ok (.ireturn, 1) := dk_172 (dk_at dksX0_isIdeal_4 13 rfl rfl)
abbrev cX0_isAbelian : ByteArray := prog_1_method_58_code
def dkwX0_isAbelian_1 : List UInt8 := [167, 0, 4, 3, 172]
abbrev dktX0_isAbelian_1 : List UInt8 := dkwX0_isAbelian_1 ++ []
def dkwX0_isAbelian_0 : List UInt8 := [42, 43, 44, 44, 42, 180, 0, 82, 182, 1, 56, 42, 180, 0, 82, 180, 1, 46, 154, 0, 7, 4]
abbrev dktX0_isAbelian_0 : List UInt8 := dkwX0_isAbelian_0 ++ dktX0_isAbelian_1
theorem dksX0_isAbelian_0 : cX0_isAbelian.data.toList.drop 0 = dktX0_isAbelian_0 := by decide +kernel
theorem dksX0_isAbelian_1 : cX0_isAbelian.data.toList.drop 22 = dktX0_isAbelian_1 := dk_seg dksX0_isAbelian_0 22 rfl rfl
theorem dX0_isAbelian_0 : decode cX0_isAbelian 0 = .ok (.aload_n 0, 1) := dk_42 (dk_at dksX0_isAbelian_0 0 rfl rfl)
theorem dX0_isAbelian_1 : decode cX0_isAbelian 1 = .ok (.aload_n 1, 1) := dk_43 (dk_at dksX0_isAbelian_0 1 rfl rfl)
theorem dX0_isAbelian_2 : decode cX0_isAbelian 2 = .ok (.aload_n 2, 1) := dk_44 (dk_at dksX0_isAbelian_0 2 rfl rfl)
theorem dX0_isAbelian_3 : decode cX0_isAbelian 3 = .ok (.aload_n 2, 1) := dk_44 (dk_at dksX0_isAbelian_0 3 rfl rfl)
theorem dX0_isAbelian_4 : decode cX0_isAbelian 4 = .ok (.aload_n 0, 1) := dk_42 (dk_at dksX0_isAbelian_0 4 rfl rfl)
theorem dX0_isAbelian_5 : decode cX0_isAbelian 5 = .ok (.getfield 82, 3) := dk_180 0 82 (dk_at dksX0_isAbelian_0 5 rfl rfl)
theorem dX0_isAbelian_8 : decode cX0_isAbelian 8 = .ok (.invokevirtual 312, 3) := dk_182 1 56 (dk_at dksX0_isAbelian_0 8 rfl rfl)
theorem dX0_isAbelian_11 : decode cX0_isAbelian 11 = .ok (.aload_n 0, 1) := dk_42 (dk_at dksX0_isAbelian_0 11 rfl rfl)
theorem dX0_isAbelian_12 : decode cX0_isAbelian 12 = .ok (.getfield 82, 3) := dk_180 0 82 (dk_at dksX0_isAbelian_0 12 rfl rfl)
theorem dX0_isAbelian_15 : decode cX0_isAbelian 15 = .ok (.getfield 302, 3) := dk_180 1 46 (dk_at dksX0_isAbelian_0 15 rfl rfl)
theorem dX0_isAbelian_18 : decode cX0_isAbelian 18 = .ok (.ifCond .ne 7, 3) := dk_154 0 7 (dk_at dksX0_isAbelian_0 18 rfl rfl)
theorem dX0_isAbelian_21 : decode cX0_isAbelian 21 = .ok (.iconst 1, 1) := dk_4 (dk_at dksX0_isAbelian_0 21 rfl rfl)
theorem dX0_isAbelian_22 : decode cX0_isAbelian 22 = .ok (.goto 4, 3) := dk_167 0 4 (dk_at dksX0_isAbelian_1 0 rfl rfl)
theorem dX0_isAbelian_25 : decode cX0_isAbelian 25 = .ok (.iconst 0, 1) := dk_3 (dk_at dksX0_isAbelian_1 3 rfl rfl)
theorem dX0_isAbelian_26 : decode cX0_isAbelian 26 = .ok (.ireturn, 1) := dk_172 (dk_at dksX0_isAbelian_1 4 rfl rfl)
abbrev cX0_isNilpotent : ByteArray := prog_1_method_59_code
def dkwX0_isNilpotent_0 : List UInt8 := [42, 43, 44, 8, 3, 182, 1, 83, 154, 0, 7, 4, 167, 0, 4, 3, 172]
abbrev dktX0_isNilpotent_0 : List UInt8 := dkwX0_isNilpotent_0 ++ []
theorem dksX0_isNilpotent_0 : cX0_isNilpotent.data.toList.drop 0 = dktX0_isNilpotent_0 := by decide +kernel
theorem dX0_isNilpotent_0 : decode cX0_isNilpotent 0 = .ok (.aload_n 0, 1) := dk_42 (dk_at dksX0_isNilpotent_0 0 rfl rfl)
theorem dX0_isNilpotent_1 : decode cX0_isNilpotent 1 = .ok (.aload_n 1, 1) := dk_43 (dk_at dksX0_isNilpotent_0 1 rfl rfl)
theorem dX0_isNilpotent_2 : decode cX0_isNilpotent 2 = .ok (.aload_n 2, 1) := dk_44 (dk_at dksX0_isNilpotent_0 2 rfl rfl)
theorem dX0_isNilpotent_3 : decode cX0_isNilpotent 3 = .ok (.iconst 5, 1) := dk_8 (dk_at dksX0_isNilpotent_0 3 rfl rfl)
theorem dX0_isNilpotent_4 : decode cX0_isNilpotent 4 = .ok (.iconst 0, 1) := dk_3 (dk_at dksX0_isNilpotent_0 4 rfl rfl)
theorem dX0_isNilpotent_5 : decode cX0_isNilpotent 5 = .ok (.invokevirtual 339, 3) := dk_182 1 83 (dk_at dksX0_isNilpotent_0 5 rfl rfl)
theorem dX0_isNilpotent_8 : decode cX0_isNilpotent 8 = .ok (.ifCond .ne 7, 3) := dk_154 0 7 (dk_at dksX0_isNilpotent_0 8 rfl rfl)
theorem dX0_isNilpotent_11 : decode cX0_isNilpotent 11 = .ok (.iconst 1, 1) := dk_4 (dk_at dksX0_isNilpotent_0 11 rfl rfl)
theorem dX0_isNilpotent_12 : decode cX0_isNilpotent 12 = .ok (.goto 4, 3) := dk_167 0 4 (dk_at dksX0_isNilpotent_0 12 rfl rfl)
theorem dX0_isNilpotent_15 : decode cX0_isNilpotent 15 = .ok (.iconst 0, 1) := dk_3 (dk_at dksX0_isNilpotent_0 15 rfl rfl)
theorem dX0_isNilpotent_16 : decode cX0_isNilpotent 16 = .ok (.ireturn, 1) := dk_172 (dk_at dksX0_isNilpotent_0 16 rfl rfl)
abbrev cX0_normalizer : ByteArray := prog_1_method_61_code
def dkwX0_normalizer_6 : List UInt8 := [100, 172]
abbrev dktX0_normalizer_6 : List UInt8 := dkwX0_normalizer_6 ++ []
def dkwX0_normalizer_5 : List UInt8 := [132, 3, 1, 167, 255, 147, 43, 180, 0, 196, 43, 42, 180, 0, 93, 43, 180, 0, 196, 16, 25, 182, 1, 99]
abbrev dktX0_normalizer_5 : List UInt8 := dkwX0_normalizer_5 ++ dktX0_normalizer_6
def dkwX0_normalizer_4 : List UInt8 := [180, 0, 63, 3, 42, 180, 0, 93, 29, 50, 8, 21, 4, 104, 8, 184, 0, 188, 132, 4, 1, 167, 255, 164]
abbrev dktX0_normalizer_4 : List UInt8 := dkwX0_normalizer_4 ++ dktX0_normalizer_5
def dkwX0_normalizer_3 : List UInt8 := [180, 1, 49, 21, 4, 50, 42, 180, 0, 63, 182, 1, 18, 44, 43, 42, 180, 0, 63, 182, 1, 114, 42]
abbrev dktX0_normalizer_3 : List UInt8 := dkwX0_normalizer_3 ++ dktX0_normalizer_4
def dkwX0_normalizer_2 : List UInt8 := [21, 5, 29, 160, 0, 7, 4, 167, 0, 4, 3, 79, 132, 5, 1, 167, 255, 229, 43, 42, 180, 0, 60, 44]
abbrev dktX0_normalizer_2 : List UInt8 := dkwX0_normalizer_2 ++ dktX0_normalizer_3
def dkwX0_normalizer_1 : List UInt8 := [21, 4, 44, 180, 1, 46, 162, 0, 89, 3, 54, 5, 21, 5, 8, 162, 0, 27, 42, 180, 0, 60, 21, 5]
abbrev dktX0_normalizer_1 : List UInt8 := dkwX0_normalizer_1 ++ dktX0_normalizer_2
def dkwX0_normalizer_0 : List UInt8 := [42, 43, 180, 0, 196, 16, 25, 182, 1, 96, 3, 62, 29, 43, 180, 0, 196, 162, 0, 107, 3, 54, 4]
abbrev dktX0_normalizer_0 : List UInt8 := dkwX0_normalizer_0 ++ dktX0_normalizer_1
theorem dksX0_normalizer_0 : cX0_normalizer.data.toList.drop 0 = dktX0_normalizer_0 := by decide +kernel
theorem dksX0_normalizer_1 : cX0_normalizer.data.toList.drop 23 = dktX0_normalizer_1 := dk_seg dksX0_normalizer_0 23 rfl rfl
theorem dksX0_normalizer_2 : cX0_normalizer.data.toList.drop 47 = dktX0_normalizer_2 := dk_seg dksX0_normalizer_1 24 rfl rfl
theorem dksX0_normalizer_3 : cX0_normalizer.data.toList.drop 71 = dktX0_normalizer_3 := dk_seg dksX0_normalizer_2 24 rfl rfl
theorem dksX0_normalizer_4 : cX0_normalizer.data.toList.drop 94 = dktX0_normalizer_4 := dk_seg dksX0_normalizer_3 23 rfl rfl
theorem dksX0_normalizer_5 : cX0_normalizer.data.toList.drop 118 = dktX0_normalizer_5 := dk_seg dksX0_normalizer_4 24 rfl rfl
theorem dksX0_normalizer_6 : cX0_normalizer.data.toList.drop 142 = dktX0_normalizer_6 := dk_seg dksX0_normalizer_5 24 rfl rfl
theorem dX0_normalizer_0 : decode cX0_normalizer 0 = .ok (.aload_n 0, 1) := dk_42 (dk_at dksX0_normalizer_0 0 rfl rfl)
theorem dX0_normalizer_1 : decode cX0_normalizer 1 = .ok (.aload_n 1, 1) := dk_43 (dk_at dksX0_normalizer_0 1 rfl rfl)
theorem dX0_normalizer_2 : decode cX0_normalizer 2 = .ok (.getfield 196, 3) := dk_180 0 196 (dk_at dksX0_normalizer_0 2 rfl rfl)
theorem dX0_normalizer_5 : decode cX0_normalizer 5 = .ok (.bipush 25, 2) := dk_16 25 (dk_at dksX0_normalizer_0 5 rfl rfl)
theorem dX0_normalizer_7 : decode cX0_normalizer 7 = .ok (.invokevirtual 352, 3) := dk_182 1 96 (dk_at dksX0_normalizer_0 7 rfl rfl)
theorem dX0_normalizer_10 : decode cX0_normalizer 10 = .ok (.iconst 0, 1) := dk_3 (dk_at dksX0_normalizer_0 10 rfl rfl)
theorem dX0_normalizer_11 : decode cX0_normalizer 11 = .ok (.istore_n 3, 1) := dk_62 (dk_at dksX0_normalizer_0 11 rfl rfl)
theorem dX0_normalizer_12 : decode cX0_normalizer 12 = .ok (.iload_n 3, 1) := dk_29 (dk_at dksX0_normalizer_0 12 rfl rfl)
theorem dX0_normalizer_13 : decode cX0_normalizer 13 = .ok (.aload_n 1, 1) := dk_43 (dk_at dksX0_normalizer_0 13 rfl rfl)
theorem dX0_normalizer_14 : decode cX0_normalizer 14 = .ok (.getfield 196, 3) := dk_180 0 196 (dk_at dksX0_normalizer_0 14 rfl rfl)
theorem dX0_normalizer_17 : decode cX0_normalizer 17 = .ok (.if_icmp .ge 107, 3) := dk_162 0 107 (dk_at dksX0_normalizer_0 17 rfl rfl)
theorem dX0_normalizer_20 : decode cX0_normalizer 20 = .ok (.iconst 0, 1) := dk_3 (dk_at dksX0_normalizer_0 20 rfl rfl)
theorem dX0_normalizer_21 : decode cX0_normalizer 21 = .ok (.istore 4, 2) := dk_54 4 (dk_at dksX0_normalizer_0 21 rfl rfl)
theorem dX0_normalizer_23 : decode cX0_normalizer 23 = .ok (.iload 4, 2) := dk_21 4 (dk_at dksX0_normalizer_1 0 rfl rfl)
theorem dX0_normalizer_25 : decode cX0_normalizer 25 = .ok (.aload_n 2, 1) := dk_44 (dk_at dksX0_normalizer_1 2 rfl rfl)
theorem dX0_normalizer_26 : decode cX0_normalizer 26 = .ok (.getfield 302, 3) := dk_180 1 46 (dk_at dksX0_normalizer_1 3 rfl rfl)
theorem dX0_normalizer_29 : decode cX0_normalizer 29 = .ok (.if_icmp .ge 89, 3) := dk_162 0 89 (dk_at dksX0_normalizer_1 6 rfl rfl)
theorem dX0_normalizer_32 : decode cX0_normalizer 32 = .ok (.iconst 0, 1) := dk_3 (dk_at dksX0_normalizer_1 9 rfl rfl)
theorem dX0_normalizer_33 : decode cX0_normalizer 33 = .ok (.istore 5, 2) := dk_54 5 (dk_at dksX0_normalizer_1 10 rfl rfl)
theorem dX0_normalizer_35 : decode cX0_normalizer 35 = .ok (.iload 5, 2) := dk_21 5 (dk_at dksX0_normalizer_1 12 rfl rfl)
theorem dX0_normalizer_37 : decode cX0_normalizer 37 = .ok (.iconst 5, 1) := dk_8 (dk_at dksX0_normalizer_1 14 rfl rfl)
theorem dX0_normalizer_38 : decode cX0_normalizer 38 = .ok (.if_icmp .ge 27, 3) := dk_162 0 27 (dk_at dksX0_normalizer_1 15 rfl rfl)
theorem dX0_normalizer_41 : decode cX0_normalizer 41 = .ok (.aload_n 0, 1) := dk_42 (dk_at dksX0_normalizer_1 18 rfl rfl)
theorem dX0_normalizer_42 : decode cX0_normalizer 42 = .ok (.getfield 60, 3) := dk_180 0 60 (dk_at dksX0_normalizer_1 19 rfl rfl)
theorem dX0_normalizer_45 : decode cX0_normalizer 45 = .ok (.iload 5, 2) := dk_21 5 (dk_at dksX0_normalizer_1 22 rfl rfl)
theorem dX0_normalizer_47 : decode cX0_normalizer 47 = .ok (.iload 5, 2) := dk_21 5 (dk_at dksX0_normalizer_2 0 rfl rfl)
theorem dX0_normalizer_49 : decode cX0_normalizer 49 = .ok (.iload_n 3, 1) := dk_29 (dk_at dksX0_normalizer_2 2 rfl rfl)
theorem dX0_normalizer_50 : decode cX0_normalizer 50 = .ok (.if_icmp .ne 7, 3) := dk_160 0 7 (dk_at dksX0_normalizer_2 3 rfl rfl)
theorem dX0_normalizer_53 : decode cX0_normalizer 53 = .ok (.iconst 1, 1) := dk_4 (dk_at dksX0_normalizer_2 6 rfl rfl)
theorem dX0_normalizer_54 : decode cX0_normalizer 54 = .ok (.goto 4, 3) := dk_167 0 4 (dk_at dksX0_normalizer_2 7 rfl rfl)
theorem dX0_normalizer_57 : decode cX0_normalizer 57 = .ok (.iconst 0, 1) := dk_3 (dk_at dksX0_normalizer_2 10 rfl rfl)
theorem dX0_normalizer_58 : decode cX0_normalizer 58 = .ok (.iastore, 1) := dk_79 (dk_at dksX0_normalizer_2 11 rfl rfl)
theorem dX0_normalizer_59 : decode cX0_normalizer 59 = .ok (.iinc 5 1, 3) := dk_132 5 1 (dk_at dksX0_normalizer_2 12 rfl rfl)
theorem dX0_normalizer_62 : decode cX0_normalizer 62 = .ok (.goto (-27), 3) := dk_167 255 229 (dk_at dksX0_normalizer_2 15 rfl rfl)
theorem dX0_normalizer_65 : decode cX0_normalizer 65 = .ok (.aload_n 1, 1) := dk_43 (dk_at dksX0_normalizer_2 18 rfl rfl)
theorem dX0_normalizer_66 : decode cX0_normalizer 66 = .ok (.aload_n 0, 1) := dk_42 (dk_at dksX0_normalizer_2 19 rfl rfl)
theorem dX0_normalizer_67 : decode cX0_normalizer 67 = .ok (.getfield 60, 3) := dk_180 0 60 (dk_at dksX0_normalizer_2 20 rfl rfl)
theorem dX0_normalizer_70 : decode cX0_normalizer 70 = .ok (.aload_n 2, 1) := dk_44 (dk_at dksX0_normalizer_2 23 rfl rfl)
theorem dX0_normalizer_71 : decode cX0_normalizer 71 = .ok (.getfield 305, 3) := dk_180 1 49 (dk_at dksX0_normalizer_3 0 rfl rfl)
theorem dX0_normalizer_74 : decode cX0_normalizer 74 = .ok (.iload 4, 2) := dk_21 4 (dk_at dksX0_normalizer_3 3 rfl rfl)
theorem dX0_normalizer_76 : decode cX0_normalizer 76 = .ok (.aaload, 1) := dk_50 (dk_at dksX0_normalizer_3 5 rfl rfl)
theorem dX0_normalizer_77 : decode cX0_normalizer 77 = .ok (.aload_n 0, 1) := dk_42 (dk_at dksX0_normalizer_3 6 rfl rfl)
theorem dX0_normalizer_78 : decode cX0_normalizer 78 = .ok (.getfield 63, 3) := dk_180 0 63 (dk_at dksX0_normalizer_3 7 rfl rfl)
theorem dX0_normalizer_81 : decode cX0_normalizer 81 = .ok (.invokevirtual 274, 3) := dk_182 1 18 (dk_at dksX0_normalizer_3 10 rfl rfl)
theorem dX0_normalizer_84 : decode cX0_normalizer 84 = .ok (.aload_n 2, 1) := dk_44 (dk_at dksX0_normalizer_3 13 rfl rfl)
theorem dX0_normalizer_85 : decode cX0_normalizer 85 = .ok (.aload_n 1, 1) := dk_43 (dk_at dksX0_normalizer_3 14 rfl rfl)
theorem dX0_normalizer_86 : decode cX0_normalizer 86 = .ok (.aload_n 0, 1) := dk_42 (dk_at dksX0_normalizer_3 15 rfl rfl)
theorem dX0_normalizer_87 : decode cX0_normalizer 87 = .ok (.getfield 63, 3) := dk_180 0 63 (dk_at dksX0_normalizer_3 16 rfl rfl)
theorem dX0_normalizer_90 : decode cX0_normalizer 90 = .ok (.invokevirtual 370, 3) := dk_182 1 114 (dk_at dksX0_normalizer_3 19 rfl rfl)
theorem dX0_normalizer_93 : decode cX0_normalizer 93 = .ok (.aload_n 0, 1) := dk_42 (dk_at dksX0_normalizer_3 22 rfl rfl)
theorem dX0_normalizer_94 : decode cX0_normalizer 94 = .ok (.getfield 63, 3) := dk_180 0 63 (dk_at dksX0_normalizer_4 0 rfl rfl)
theorem dX0_normalizer_97 : decode cX0_normalizer 97 = .ok (.iconst 0, 1) := dk_3 (dk_at dksX0_normalizer_4 3 rfl rfl)
theorem dX0_normalizer_98 : decode cX0_normalizer 98 = .ok (.aload_n 0, 1) := dk_42 (dk_at dksX0_normalizer_4 4 rfl rfl)
theorem dX0_normalizer_99 : decode cX0_normalizer 99 = .ok (.getfield 93, 3) := dk_180 0 93 (dk_at dksX0_normalizer_4 5 rfl rfl)
theorem dX0_normalizer_102 : decode cX0_normalizer 102 = .ok (.iload_n 3, 1) := dk_29 (dk_at dksX0_normalizer_4 8 rfl rfl)
theorem dX0_normalizer_103 : decode cX0_normalizer 103 = .ok (.aaload, 1) := dk_50 (dk_at dksX0_normalizer_4 9 rfl rfl)
theorem dX0_normalizer_104 : decode cX0_normalizer 104 = .ok (.iconst 5, 1) := dk_8 (dk_at dksX0_normalizer_4 10 rfl rfl)
theorem dX0_normalizer_105 : decode cX0_normalizer 105 = .ok (.iload 4, 2) := dk_21 4 (dk_at dksX0_normalizer_4 11 rfl rfl)
theorem dX0_normalizer_107 : decode cX0_normalizer 107 = .ok (.imul, 1) := dk_104 (dk_at dksX0_normalizer_4 13 rfl rfl)
theorem dX0_normalizer_108 : decode cX0_normalizer 108 = .ok (.iconst 5, 1) := dk_8 (dk_at dksX0_normalizer_4 14 rfl rfl)
theorem dX0_normalizer_109 : decode cX0_normalizer 109 = .ok (.invokestatic 188, 3) := dk_184 0 188 (dk_at dksX0_normalizer_4 15 rfl rfl)
theorem dX0_normalizer_112 : decode cX0_normalizer 112 = .ok (.iinc 4 1, 3) := dk_132 4 1 (dk_at dksX0_normalizer_4 18 rfl rfl)
theorem dX0_normalizer_115 : decode cX0_normalizer 115 = .ok (.goto (-92), 3) := dk_167 255 164 (dk_at dksX0_normalizer_4 21 rfl rfl)
theorem dX0_normalizer_118 : decode cX0_normalizer 118 = .ok (.iinc 3 1, 3) := dk_132 3 1 (dk_at dksX0_normalizer_5 0 rfl rfl)
theorem dX0_normalizer_121 : decode cX0_normalizer 121 = .ok (.goto (-109), 3) := dk_167 255 147 (dk_at dksX0_normalizer_5 3 rfl rfl)
theorem dX0_normalizer_124 : decode cX0_normalizer 124 = .ok (.aload_n 1, 1) := dk_43 (dk_at dksX0_normalizer_5 6 rfl rfl)
theorem dX0_normalizer_125 : decode cX0_normalizer 125 = .ok (.getfield 196, 3) := dk_180 0 196 (dk_at dksX0_normalizer_5 7 rfl rfl)
theorem dX0_normalizer_128 : decode cX0_normalizer 128 = .ok (.aload_n 1, 1) := dk_43 (dk_at dksX0_normalizer_5 10 rfl rfl)
theorem dX0_normalizer_129 : decode cX0_normalizer 129 = .ok (.aload_n 0, 1) := dk_42 (dk_at dksX0_normalizer_5 11 rfl rfl)
theorem dX0_normalizer_130 : decode cX0_normalizer 130 = .ok (.getfield 93, 3) := dk_180 0 93 (dk_at dksX0_normalizer_5 12 rfl rfl)
theorem dX0_normalizer_133 : decode cX0_normalizer 133 = .ok (.aload_n 1, 1) := dk_43 (dk_at dksX0_normalizer_5 15 rfl rfl)
theorem dX0_normalizer_134 : decode cX0_normalizer 134 = .ok (.getfield 196, 3) := dk_180 0 196 (dk_at dksX0_normalizer_5 16 rfl rfl)
theorem dX0_normalizer_137 : decode cX0_normalizer 137 = .ok (.bipush 25, 2) := dk_16 25 (dk_at dksX0_normalizer_5 19 rfl rfl)
theorem dX0_normalizer_139 : decode cX0_normalizer 139 = .ok (.invokevirtual 355, 3) := dk_182 1 99 (dk_at dksX0_normalizer_5 21 rfl rfl)
theorem dX0_normalizer_142 : decode cX0_normalizer 142 = .ok (.isub, 1) := dk_100 (dk_at dksX0_normalizer_6 0 rfl rfl)
theorem dX0_normalizer_143 : decode cX0_normalizer 143 = .ok (.ireturn, 1) := dk_172 (dk_at dksX0_normalizer_6 1 rfl rfl)
abbrev cX0_isSolvable : ByteArray := prog_1_method_60_code
def dkwX0_isSolvable_0 : List UInt8 := [42, 43, 44, 8, 4, 182, 1, 83, 154, 0, 7, 4, 167, 0, 4, 3, 172]
abbrev dktX0_isSolvable_0 : List UInt8 := dkwX0_isSolvable_0 ++ []
theorem dksX0_isSolvable_0 : cX0_isSolvable.data.toList.drop 0 = dktX0_isSolvable_0 := by decide +kernel
theorem dX0_isSolvable_0 : decode cX0_isSolvable 0 = .ok (.aload_n 0, 1) := dk_42 (dk_at dksX0_isSolvable_0 0 rfl rfl)
theorem dX0_isSolvable_1 : decode cX0_isSolvable 1 = .ok (.aload_n 1, 1) := dk_43 (dk_at dksX0_isSolvable_0 1 rfl rfl)
theorem dX0_isSolvable_2 : decode cX0_isSolvable 2 = .ok (.aload_n 2, 1) := dk_44 (dk_at dksX0_isSolvable_0 2 rfl rfl)
theorem dX0_isSolvable_3 : decode cX0_isSolvable 3 = .ok (.iconst 5, 1) := dk_8 (dk_at dksX0_isSolvable_0 3 rfl rfl)
theorem dX0_isSolvable_4 : decode cX0_isSolvable 4 = .ok (.iconst 1, 1) := dk_4 (dk_at dksX0_isSolvable_0 4 rfl rfl)
theorem dX0_isSolvable_5 : decode cX0_isSolvable 5 = .ok (.invokevirtual 339, 3) := dk_182 1 83 (dk_at dksX0_isSolvable_0 5 rfl rfl)
theorem dX0_isSolvable_8 : decode cX0_isSolvable 8 = .ok (.ifCond .ne 7, 3) := dk_154 0 7 (dk_at dksX0_isSolvable_0 8 rfl rfl)
theorem dX0_isSolvable_11 : decode cX0_isSolvable 11 = .ok (.iconst 1, 1) := dk_4 (dk_at dksX0_isSolvable_0 11 rfl rfl)
theorem dX0_isSolvable_12 : decode cX0_isSolvable 12 = .ok (.goto 4, 3) := dk_167 0 4 (dk_at dksX0_isSolvable_0 12 rfl rfl)
theorem dX0_isSolvable_15 : decode cX0_isSolvable 15 = .ok (.iconst 0, 1) := dk_3 (dk_at dksX0_isSolvable_0 15 rfl rfl)
theorem dX0_isSolvable_16 : decode cX0_isSolvable 16 = .ok (.ireturn, 1) := dk_172 (dk_at dksX0_isSolvable_0 16 rfl rfl)
abbrev cX0_isUnimodular : ByteArray := prog_1_method_66_code
def dkwX0_isUnimodular_2 : List UInt8 := [182, 1, 26, 153, 0, 5, 3, 172, 132, 2, 1, 167, 255, 200, 4, 172]
abbrev dktX0_isUnimodular_2 : List UInt8 := dkwX0_isUnimodular_2 ++ []
def dkwX0_isUnimodular_1 : List UInt8 := [29, 43, 180, 1, 0, 28, 50, 21, 4, 50, 21, 4, 46, 96, 62, 132, 4, 1, 167, 255, 229, 43, 29]
abbrev dktX0_isUnimodular_1 : List UInt8 := dkwX0_isUnimodular_1 ++ dktX0_isUnimodular_2
def dkwX0_isUnimodular_0 : List UInt8 := [3, 61, 28, 43, 180, 0, 196, 162, 0, 54, 3, 62, 3, 54, 4, 21, 4, 43, 180, 0, 196, 162, 0, 24]
abbrev dktX0_isUnimodular_0 : List UInt8 := dkwX0_isUnimodular_0 ++ dktX0_isUnimodular_1
theorem dksX0_isUnimodular_0 : cX0_isUnimodular.data.toList.drop 0 = dktX0_isUnimodular_0 := by decide +kernel
theorem dksX0_isUnimodular_1 : cX0_isUnimodular.data.toList.drop 24 = dktX0_isUnimodular_1 := dk_seg dksX0_isUnimodular_0 24 rfl rfl
theorem dksX0_isUnimodular_2 : cX0_isUnimodular.data.toList.drop 47 = dktX0_isUnimodular_2 := dk_seg dksX0_isUnimodular_1 23 rfl rfl
theorem dX0_isUnimodular_0 : decode cX0_isUnimodular 0 = .ok (.iconst 0, 1) := dk_3 (dk_at dksX0_isUnimodular_0 0 rfl rfl)
theorem dX0_isUnimodular_1 : decode cX0_isUnimodular 1 = .ok (.istore_n 2, 1) := dk_61 (dk_at dksX0_isUnimodular_0 1 rfl rfl)
theorem dX0_isUnimodular_2 : decode cX0_isUnimodular 2 = .ok (.iload_n 2, 1) := dk_28 (dk_at dksX0_isUnimodular_0 2 rfl rfl)
theorem dX0_isUnimodular_3 : decode cX0_isUnimodular 3 = .ok (.aload_n 1, 1) := dk_43 (dk_at dksX0_isUnimodular_0 3 rfl rfl)
theorem dX0_isUnimodular_4 : decode cX0_isUnimodular 4 = .ok (.getfield 196, 3) := dk_180 0 196 (dk_at dksX0_isUnimodular_0 4 rfl rfl)
theorem dX0_isUnimodular_7 : decode cX0_isUnimodular 7 = .ok (.if_icmp .ge 54, 3) := dk_162 0 54 (dk_at dksX0_isUnimodular_0 7 rfl rfl)
theorem dX0_isUnimodular_10 : decode cX0_isUnimodular 10 = .ok (.iconst 0, 1) := dk_3 (dk_at dksX0_isUnimodular_0 10 rfl rfl)
theorem dX0_isUnimodular_11 : decode cX0_isUnimodular 11 = .ok (.istore_n 3, 1) := dk_62 (dk_at dksX0_isUnimodular_0 11 rfl rfl)
theorem dX0_isUnimodular_12 : decode cX0_isUnimodular 12 = .ok (.iconst 0, 1) := dk_3 (dk_at dksX0_isUnimodular_0 12 rfl rfl)
theorem dX0_isUnimodular_13 : decode cX0_isUnimodular 13 = .ok (.istore 4, 2) := dk_54 4 (dk_at dksX0_isUnimodular_0 13 rfl rfl)
theorem dX0_isUnimodular_15 : decode cX0_isUnimodular 15 = .ok (.iload 4, 2) := dk_21 4 (dk_at dksX0_isUnimodular_0 15 rfl rfl)
theorem dX0_isUnimodular_17 : decode cX0_isUnimodular 17 = .ok (.aload_n 1, 1) := dk_43 (dk_at dksX0_isUnimodular_0 17 rfl rfl)
theorem dX0_isUnimodular_18 : decode cX0_isUnimodular 18 = .ok (.getfield 196, 3) := dk_180 0 196 (dk_at dksX0_isUnimodular_0 18 rfl rfl)
theorem dX0_isUnimodular_21 : decode cX0_isUnimodular 21 = .ok (.if_icmp .ge 24, 3) := dk_162 0 24 (dk_at dksX0_isUnimodular_0 21 rfl rfl)
theorem dX0_isUnimodular_24 : decode cX0_isUnimodular 24 = .ok (.iload_n 3, 1) := dk_29 (dk_at dksX0_isUnimodular_1 0 rfl rfl)
theorem dX0_isUnimodular_25 : decode cX0_isUnimodular 25 = .ok (.aload_n 1, 1) := dk_43 (dk_at dksX0_isUnimodular_1 1 rfl rfl)
theorem dX0_isUnimodular_26 : decode cX0_isUnimodular 26 = .ok (.getfield 256, 3) := dk_180 1 0 (dk_at dksX0_isUnimodular_1 2 rfl rfl)
theorem dX0_isUnimodular_29 : decode cX0_isUnimodular 29 = .ok (.iload_n 2, 1) := dk_28 (dk_at dksX0_isUnimodular_1 5 rfl rfl)
theorem dX0_isUnimodular_30 : decode cX0_isUnimodular 30 = .ok (.aaload, 1) := dk_50 (dk_at dksX0_isUnimodular_1 6 rfl rfl)
theorem dX0_isUnimodular_31 : decode cX0_isUnimodular 31 = .ok (.iload 4, 2) := dk_21 4 (dk_at dksX0_isUnimodular_1 7 rfl rfl)
theorem dX0_isUnimodular_33 : decode cX0_isUnimodular 33 = .ok (.aaload, 1) := dk_50 (dk_at dksX0_isUnimodular_1 9 rfl rfl)
theorem dX0_isUnimodular_34 : decode cX0_isUnimodular 34 = .ok (.iload 4, 2) := dk_21 4 (dk_at dksX0_isUnimodular_1 10 rfl rfl)
theorem dX0_isUnimodular_36 : decode cX0_isUnimodular 36 = .ok (.iaload, 1) := dk_46 (dk_at dksX0_isUnimodular_1 12 rfl rfl)
theorem dX0_isUnimodular_37 : decode cX0_isUnimodular 37 = .ok (.iadd, 1) := dk_96 (dk_at dksX0_isUnimodular_1 13 rfl rfl)
theorem dX0_isUnimodular_38 : decode cX0_isUnimodular 38 = .ok (.istore_n 3, 1) := dk_62 (dk_at dksX0_isUnimodular_1 14 rfl rfl)
theorem dX0_isUnimodular_39 : decode cX0_isUnimodular 39 = .ok (.iinc 4 1, 3) := dk_132 4 1 (dk_at dksX0_isUnimodular_1 15 rfl rfl)
theorem dX0_isUnimodular_42 : decode cX0_isUnimodular 42 = .ok (.goto (-27), 3) := dk_167 255 229 (dk_at dksX0_isUnimodular_1 18 rfl rfl)
theorem dX0_isUnimodular_45 : decode cX0_isUnimodular 45 = .ok (.aload_n 1, 1) := dk_43 (dk_at dksX0_isUnimodular_1 21 rfl rfl)
theorem dX0_isUnimodular_46 : decode cX0_isUnimodular 46 = .ok (.iload_n 3, 1) := dk_29 (dk_at dksX0_isUnimodular_1 22 rfl rfl)
theorem dX0_isUnimodular_47 : decode cX0_isUnimodular 47 = .ok (.invokevirtual 282, 3) := dk_182 1 26 (dk_at dksX0_isUnimodular_2 0 rfl rfl)
theorem dX0_isUnimodular_50 : decode cX0_isUnimodular 50 = .ok (.ifCond .eq 5, 3) := dk_153 0 5 (dk_at dksX0_isUnimodular_2 3 rfl rfl)
theorem dX0_isUnimodular_53 : decode cX0_isUnimodular 53 = .ok (.iconst 0, 1) := dk_3 (dk_at dksX0_isUnimodular_2 6 rfl rfl)
theorem dX0_isUnimodular_54 : decode cX0_isUnimodular 54 = .ok (.ireturn, 1) := dk_172 (dk_at dksX0_isUnimodular_2 7 rfl rfl)
theorem dX0_isUnimodular_55 : decode cX0_isUnimodular 55 = .ok (.iinc 2 1, 3) := dk_132 2 1 (dk_at dksX0_isUnimodular_2 8 rfl rfl)
theorem dX0_isUnimodular_58 : decode cX0_isUnimodular 58 = .ok (.goto (-56), 3) := dk_167 255 200 (dk_at dksX0_isUnimodular_2 11 rfl rfl)
theorem dX0_isUnimodular_61 : decode cX0_isUnimodular 61 = .ok (.iconst 1, 1) := dk_4 (dk_at dksX0_isUnimodular_2 14 rfl rfl)
theorem dX0_isUnimodular_62 : decode cX0_isUnimodular 62 = .ok (.ireturn, 1) := dk_172 (dk_at dksX0_isUnimodular_2 15 rfl rfl)
abbrev cX0_radical : ByteArray := prog_1_method_68_code
def dkwX0_radical_2 : List UInt8 := [167, 255, 232, 42, 28, 182, 0, 235, 172]
abbrev dktX0_radical_2 : List UInt8 := dkwX0_radical_2 ++ []
def dkwX0_radical_1 : List UInt8 := [42, 180, 0, 30, 28, 27, 154, 0, 7, 7, 167, 0, 4, 8, 182, 1, 154, 154, 0, 9, 132, 2, 255]
abbrev dktX0_radical_1 : List UInt8 := dkwX0_radical_1 ++ dktX0_radical_2
def dkwX0_radical_0 : List UInt8 := [27, 155, 0, 8, 27, 4, 164, 0, 9, 42, 8, 182, 0, 171, 172, 42, 180, 0, 30, 180, 0, 196, 61, 42]
abbrev dktX0_radical_0 : List UInt8 := dkwX0_radical_0 ++ dktX0_radical_1
theorem dksX0_radical_0 : cX0_radical.data.toList.drop 0 = dktX0_radical_0 := by decide +kernel
theorem dksX0_radical_1 : cX0_radical.data.toList.drop 24 = dktX0_radical_1 := dk_seg dksX0_radical_0 24 rfl rfl
theorem dksX0_radical_2 : cX0_radical.data.toList.drop 47 = dktX0_radical_2 := dk_seg dksX0_radical_1 23 rfl rfl
theorem dX0_radical_0 : decode cX0_radical 0 = .ok (.iload_n 1, 1) := dk_27 (dk_at dksX0_radical_0 0 rfl rfl)
theorem dX0_radical_1 : decode cX0_radical 1 = .ok (.ifCond .lt 8, 3) := dk_155 0 8 (dk_at dksX0_radical_0 1 rfl rfl)
theorem dX0_radical_4 : decode cX0_radical 4 = .ok (.iload_n 1, 1) := dk_27 (dk_at dksX0_radical_0 4 rfl rfl)
theorem dX0_radical_5 : decode cX0_radical 5 = .ok (.iconst 1, 1) := dk_4 (dk_at dksX0_radical_0 5 rfl rfl)
theorem dX0_radical_6 : decode cX0_radical 6 = .ok (.if_icmp .le 9, 3) := dk_164 0 9 (dk_at dksX0_radical_0 6 rfl rfl)
theorem dX0_radical_9 : decode cX0_radical 9 = .ok (.aload_n 0, 1) := dk_42 (dk_at dksX0_radical_0 9 rfl rfl)
theorem dX0_radical_10 : decode cX0_radical 10 = .ok (.iconst 5, 1) := dk_8 (dk_at dksX0_radical_0 10 rfl rfl)
theorem dX0_radical_11 : decode cX0_radical 11 = .ok (.invokevirtual 171, 3) := dk_182 0 171 (dk_at dksX0_radical_0 11 rfl rfl)
theorem dX0_radical_14 : decode cX0_radical 14 = .ok (.ireturn, 1) := dk_172 (dk_at dksX0_radical_0 14 rfl rfl)
theorem dX0_radical_15 : decode cX0_radical 15 = .ok (.aload_n 0, 1) := dk_42 (dk_at dksX0_radical_0 15 rfl rfl)
theorem dX0_radical_16 : decode cX0_radical 16 = .ok (.getfield 30, 3) := dk_180 0 30 (dk_at dksX0_radical_0 16 rfl rfl)
theorem dX0_radical_19 : decode cX0_radical 19 = .ok (.getfield 196, 3) := dk_180 0 196 (dk_at dksX0_radical_0 19 rfl rfl)
theorem dX0_radical_22 : decode cX0_radical 22 = .ok (.istore_n 2, 1) := dk_61 (dk_at dksX0_radical_0 22 rfl rfl)
theorem dX0_radical_23 : decode cX0_radical 23 = .ok (.aload_n 0, 1) := dk_42 (dk_at dksX0_radical_0 23 rfl rfl)
theorem dX0_radical_24 : decode cX0_radical 24 = .ok (.aload_n 0, 1) := dk_42 (dk_at dksX0_radical_1 0 rfl rfl)
theorem dX0_radical_25 : decode cX0_radical 25 = .ok (.getfield 30, 3) := dk_180 0 30 (dk_at dksX0_radical_1 1 rfl rfl)
theorem dX0_radical_28 : decode cX0_radical 28 = .ok (.iload_n 2, 1) := dk_28 (dk_at dksX0_radical_1 4 rfl rfl)
theorem dX0_radical_29 : decode cX0_radical 29 = .ok (.iload_n 1, 1) := dk_27 (dk_at dksX0_radical_1 5 rfl rfl)
theorem dX0_radical_30 : decode cX0_radical 30 = .ok (.ifCond .ne 7, 3) := dk_154 0 7 (dk_at dksX0_radical_1 6 rfl rfl)
theorem dX0_radical_33 : decode cX0_radical 33 = .ok (.iconst 4, 1) := dk_7 (dk_at dksX0_radical_1 9 rfl rfl)
theorem dX0_radical_34 : decode cX0_radical 34 = .ok (.goto 4, 3) := dk_167 0 4 (dk_at dksX0_radical_1 10 rfl rfl)
theorem dX0_radical_37 : decode cX0_radical 37 = .ok (.iconst 5, 1) := dk_8 (dk_at dksX0_radical_1 13 rfl rfl)
theorem dX0_radical_38 : decode cX0_radical 38 = .ok (.invokevirtual 410, 3) := dk_182 1 154 (dk_at dksX0_radical_1 14 rfl rfl)
theorem dX0_radical_41 : decode cX0_radical 41 = .ok (.ifCond .ne 9, 3) := dk_154 0 9 (dk_at dksX0_radical_1 17 rfl rfl)
theorem dX0_radical_44 : decode cX0_radical 44 = .ok (.iinc 2 (-1), 3) := dk_132 2 255 (dk_at dksX0_radical_1 20 rfl rfl)
theorem dX0_radical_47 : decode cX0_radical 47 = .ok (.goto (-24), 3) := dk_167 255 232 (dk_at dksX0_radical_2 0 rfl rfl)
theorem dX0_radical_50 : decode cX0_radical 50 = .ok (.aload_n 0, 1) := dk_42 (dk_at dksX0_radical_2 3 rfl rfl)
theorem dX0_radical_51 : decode cX0_radical 51 = .ok (.iload_n 2, 1) := dk_28 (dk_at dksX0_radical_2 4 rfl rfl)
theorem dX0_radical_52 : decode cX0_radical 52 = .ok (.invokevirtual 235, 3) := dk_182 0 235 (dk_at dksX0_radical_2 5 rfl rfl)
theorem dX0_radical_55 : decode cX0_radical 55 = .ok (.ireturn, 1) := dk_172 (dk_at dksX0_radical_2 8 rfl rfl)
abbrev cX0_parts : ByteArray := prog_1_method_69_code
def dkwX0_parts_2 : List UInt8 := [182, 0, 171, 172]
abbrev dktX0_parts_2 : List UInt8 := dkwX0_parts_2 ++ []
def dkwX0_parts_1 : List UInt8 := [163, 0, 20, 42, 42, 42, 180, 0, 30, 27, 28, 182, 1, 154, 182, 0, 235, 167, 0, 8, 42, 8]
abbrev dktX0_parts_1 : List UInt8 := dkwX0_parts_1 ++ dktX0_parts_2
def dkwX0_parts_0 : List UInt8 := [27, 133, 9, 42, 180, 0, 30, 180, 0, 196, 133, 184, 1, 64, 153, 0, 29, 28, 155, 0, 25, 28, 6]
abbrev dktX0_parts_0 : List UInt8 := dkwX0_parts_0 ++ dktX0_parts_1
theorem dksX0_parts_0 : cX0_parts.data.toList.drop 0 = dktX0_parts_0 := by decide +kernel
theorem dksX0_parts_1 : cX0_parts.data.toList.drop 23 = dktX0_parts_1 := dk_seg dksX0_parts_0 23 rfl rfl
theorem dksX0_parts_2 : cX0_parts.data.toList.drop 45 = dktX0_parts_2 := dk_seg dksX0_parts_1 22 rfl rfl
theorem dX0_parts_0 : decode cX0_parts 0 = .ok (.iload_n 1, 1) := dk_27 (dk_at dksX0_parts_0 0 rfl rfl)
theorem dX0_parts_1 : decode cX0_parts 1 = .ok (.i2l, 1) := dk_133 (dk_at dksX0_parts_0 1 rfl rfl)
theorem dX0_parts_2 : decode cX0_parts 2 = .ok (.lconst 0, 1) := dk_9 (dk_at dksX0_parts_0 2 rfl rfl)
theorem dX0_parts_3 : decode cX0_parts 3 = .ok (.aload_n 0, 1) := dk_42 (dk_at dksX0_parts_0 3 rfl rfl)
theorem dX0_parts_4 : decode cX0_parts 4 = .ok (.getfield 30, 3) := dk_180 0 30 (dk_at dksX0_parts_0 4 rfl rfl)
theorem dX0_parts_7 : decode cX0_parts 7 = .ok (.getfield 196, 3) := dk_180 0 196 (dk_at dksX0_parts_0 7 rfl rfl)
theorem dX0_parts_10 : decode cX0_parts 10 = .ok (.i2l, 1) := dk_133 (dk_at dksX0_parts_0 10 rfl rfl)
theorem dX0_parts_11 : decode cX0_parts 11 = .ok (.invokestatic 320, 3) := dk_184 1 64 (dk_at dksX0_parts_0 11 rfl rfl)
theorem dX0_parts_14 : decode cX0_parts 14 = .ok (.ifCond .eq 29, 3) := dk_153 0 29 (dk_at dksX0_parts_0 14 rfl rfl)
theorem dX0_parts_17 : decode cX0_parts 17 = .ok (.iload_n 2, 1) := dk_28 (dk_at dksX0_parts_0 17 rfl rfl)
theorem dX0_parts_18 : decode cX0_parts 18 = .ok (.ifCond .lt 25, 3) := dk_155 0 25 (dk_at dksX0_parts_0 18 rfl rfl)
theorem dX0_parts_21 : decode cX0_parts 21 = .ok (.iload_n 2, 1) := dk_28 (dk_at dksX0_parts_0 21 rfl rfl)
theorem dX0_parts_22 : decode cX0_parts 22 = .ok (.iconst 3, 1) := dk_6 (dk_at dksX0_parts_0 22 rfl rfl)
theorem dX0_parts_23 : decode cX0_parts 23 = .ok (.if_icmp .gt 20, 3) := dk_163 0 20 (dk_at dksX0_parts_1 0 rfl rfl)
theorem dX0_parts_26 : decode cX0_parts 26 = .ok (.aload_n 0, 1) := dk_42 (dk_at dksX0_parts_1 3 rfl rfl)
theorem dX0_parts_27 : decode cX0_parts 27 = .ok (.aload_n 0, 1) := dk_42 (dk_at dksX0_parts_1 4 rfl rfl)
theorem dX0_parts_28 : decode cX0_parts 28 = .ok (.aload_n 0, 1) := dk_42 (dk_at dksX0_parts_1 5 rfl rfl)
theorem dX0_parts_29 : decode cX0_parts 29 = .ok (.getfield 30, 3) := dk_180 0 30 (dk_at dksX0_parts_1 6 rfl rfl)
theorem dX0_parts_32 : decode cX0_parts 32 = .ok (.iload_n 1, 1) := dk_27 (dk_at dksX0_parts_1 9 rfl rfl)
theorem dX0_parts_33 : decode cX0_parts 33 = .ok (.iload_n 2, 1) := dk_28 (dk_at dksX0_parts_1 10 rfl rfl)
theorem dX0_parts_34 : decode cX0_parts 34 = .ok (.invokevirtual 410, 3) := dk_182 1 154 (dk_at dksX0_parts_1 11 rfl rfl)
theorem dX0_parts_37 : decode cX0_parts 37 = .ok (.invokevirtual 235, 3) := dk_182 0 235 (dk_at dksX0_parts_1 14 rfl rfl)
theorem dX0_parts_40 : decode cX0_parts 40 = .ok (.goto 8, 3) := dk_167 0 8 (dk_at dksX0_parts_1 17 rfl rfl)
theorem dX0_parts_43 : decode cX0_parts 43 = .ok (.aload_n 0, 1) := dk_42 (dk_at dksX0_parts_1 20 rfl rfl)
theorem dX0_parts_44 : decode cX0_parts 44 = .ok (.iconst 5, 1) := dk_8 (dk_at dksX0_parts_1 21 rfl rfl)
theorem dX0_parts_45 : decode cX0_parts 45 = .ok (.invokevirtual 171, 3) := dk_182 0 171 (dk_at dksX0_parts_2 0 rfl rfl)
theorem dX0_parts_48 : decode cX0_parts 48 = .ok (.ireturn, 1) := dk_172 (dk_at dksX0_parts_2 3 rfl rfl)
abbrev cX0_share : ByteArray := prog_1_method_70_code
def dkwX0_share_2 : List UInt8 := [167, 255, 215, 42, 27, 133, 28, 133, 182, 1, 163, 172]
abbrev dktX0_share_2 : List UInt8 := dkwX0_share_2 ++ []
def dkwX0_share_1 : List UInt8 := [3, 182, 1, 154, 96, 60, 28, 42, 42, 180, 0, 30, 29, 16, 6, 182, 1, 154, 96, 61, 132, 3, 1]
abbrev dktX0_share_1 : List UInt8 := dkwX0_share_1 ++ dktX0_share_2
def dkwX0_share_0 : List UInt8 := [3, 60, 3, 61, 3, 62, 29, 42, 180, 0, 30, 180, 0, 196, 163, 0, 36, 27, 42, 42, 180, 0, 30, 29]
abbrev dktX0_share_0 : List UInt8 := dkwX0_share_0 ++ dktX0_share_1
theorem dksX0_share_0 : cX0_share.data.toList.drop 0 = dktX0_share_0 := by decide +kernel
theorem dksX0_share_1 : cX0_share.data.toList.drop 24 = dktX0_share_1 := dk_seg dksX0_share_0 24 rfl rfl
theorem dksX0_share_2 : cX0_share.data.toList.drop 47 = dktX0_share_2 := dk_seg dksX0_share_1 23 rfl rfl
theorem dX0_share_0 : decode cX0_share 0 = .ok (.iconst 0, 1) := dk_3 (dk_at dksX0_share_0 0 rfl rfl)
theorem dX0_share_1 : decode cX0_share 1 = .ok (.istore_n 1, 1) := dk_60 (dk_at dksX0_share_0 1 rfl rfl)
theorem dX0_share_2 : decode cX0_share 2 = .ok (.iconst 0, 1) := dk_3 (dk_at dksX0_share_0 2 rfl rfl)
theorem dX0_share_3 : decode cX0_share 3 = .ok (.istore_n 2, 1) := dk_61 (dk_at dksX0_share_0 3 rfl rfl)
theorem dX0_share_4 : decode cX0_share 4 = .ok (.iconst 0, 1) := dk_3 (dk_at dksX0_share_0 4 rfl rfl)
theorem dX0_share_5 : decode cX0_share 5 = .ok (.istore_n 3, 1) := dk_62 (dk_at dksX0_share_0 5 rfl rfl)
theorem dX0_share_6 : decode cX0_share 6 = .ok (.iload_n 3, 1) := dk_29 (dk_at dksX0_share_0 6 rfl rfl)
theorem dX0_share_7 : decode cX0_share 7 = .ok (.aload_n 0, 1) := dk_42 (dk_at dksX0_share_0 7 rfl rfl)
theorem dX0_share_8 : decode cX0_share 8 = .ok (.getfield 30, 3) := dk_180 0 30 (dk_at dksX0_share_0 8 rfl rfl)
theorem dX0_share_11 : decode cX0_share 11 = .ok (.getfield 196, 3) := dk_180 0 196 (dk_at dksX0_share_0 11 rfl rfl)
theorem dX0_share_14 : decode cX0_share 14 = .ok (.if_icmp .gt 36, 3) := dk_163 0 36 (dk_at dksX0_share_0 14 rfl rfl)
theorem dX0_share_17 : decode cX0_share 17 = .ok (.iload_n 1, 1) := dk_27 (dk_at dksX0_share_0 17 rfl rfl)
theorem dX0_share_18 : decode cX0_share 18 = .ok (.aload_n 0, 1) := dk_42 (dk_at dksX0_share_0 18 rfl rfl)
theorem dX0_share_19 : decode cX0_share 19 = .ok (.aload_n 0, 1) := dk_42 (dk_at dksX0_share_0 19 rfl rfl)
theorem dX0_share_20 : decode cX0_share 20 = .ok (.getfield 30, 3) := dk_180 0 30 (dk_at dksX0_share_0 20 rfl rfl)
theorem dX0_share_23 : decode cX0_share 23 = .ok (.iload_n 3, 1) := dk_29 (dk_at dksX0_share_0 23 rfl rfl)
theorem dX0_share_24 : decode cX0_share 24 = .ok (.iconst 0, 1) := dk_3 (dk_at dksX0_share_1 0 rfl rfl)
theorem dX0_share_25 : decode cX0_share 25 = .ok (.invokevirtual 410, 3) := dk_182 1 154 (dk_at dksX0_share_1 1 rfl rfl)
theorem dX0_share_28 : decode cX0_share 28 = .ok (.iadd, 1) := dk_96 (dk_at dksX0_share_1 4 rfl rfl)
theorem dX0_share_29 : decode cX0_share 29 = .ok (.istore_n 1, 1) := dk_60 (dk_at dksX0_share_1 5 rfl rfl)
theorem dX0_share_30 : decode cX0_share 30 = .ok (.iload_n 2, 1) := dk_28 (dk_at dksX0_share_1 6 rfl rfl)
theorem dX0_share_31 : decode cX0_share 31 = .ok (.aload_n 0, 1) := dk_42 (dk_at dksX0_share_1 7 rfl rfl)
theorem dX0_share_32 : decode cX0_share 32 = .ok (.aload_n 0, 1) := dk_42 (dk_at dksX0_share_1 8 rfl rfl)
theorem dX0_share_33 : decode cX0_share 33 = .ok (.getfield 30, 3) := dk_180 0 30 (dk_at dksX0_share_1 9 rfl rfl)
theorem dX0_share_36 : decode cX0_share 36 = .ok (.iload_n 3, 1) := dk_29 (dk_at dksX0_share_1 12 rfl rfl)
theorem dX0_share_37 : decode cX0_share 37 = .ok (.bipush 6, 2) := dk_16 6 (dk_at dksX0_share_1 13 rfl rfl)
theorem dX0_share_39 : decode cX0_share 39 = .ok (.invokevirtual 410, 3) := dk_182 1 154 (dk_at dksX0_share_1 15 rfl rfl)
theorem dX0_share_42 : decode cX0_share 42 = .ok (.iadd, 1) := dk_96 (dk_at dksX0_share_1 18 rfl rfl)
theorem dX0_share_43 : decode cX0_share 43 = .ok (.istore_n 2, 1) := dk_61 (dk_at dksX0_share_1 19 rfl rfl)
theorem dX0_share_44 : decode cX0_share 44 = .ok (.iinc 3 1, 3) := dk_132 3 1 (dk_at dksX0_share_1 20 rfl rfl)
theorem dX0_share_47 : decode cX0_share 47 = .ok (.goto (-41), 3) := dk_167 255 215 (dk_at dksX0_share_2 0 rfl rfl)
theorem dX0_share_50 : decode cX0_share 50 = .ok (.aload_n 0, 1) := dk_42 (dk_at dksX0_share_2 3 rfl rfl)
theorem dX0_share_51 : decode cX0_share 51 = .ok (.iload_n 1, 1) := dk_27 (dk_at dksX0_share_2 4 rfl rfl)
theorem dX0_share_52 : decode cX0_share 52 = .ok (.i2l, 1) := dk_133 (dk_at dksX0_share_2 5 rfl rfl)
theorem dX0_share_53 : decode cX0_share 53 = .ok (.iload_n 2, 1) := dk_28 (dk_at dksX0_share_2 6 rfl rfl)
theorem dX0_share_54 : decode cX0_share 54 = .ok (.i2l, 1) := dk_133 (dk_at dksX0_share_2 7 rfl rfl)
theorem dX0_share_55 : decode cX0_share 55 = .ok (.invokevirtual 419, 3) := dk_182 1 163 (dk_at dksX0_share_2 8 rfl rfl)
theorem dX0_share_58 : decode cX0_share 58 = .ok (.ireturn, 1) := dk_172 (dk_at dksX0_share_2 11 rfl rfl)
abbrev cX0_tell : ByteArray := prog_1_method_10_code
def dkwX0_tell_2 : List UInt8 := [3, 182, 0, 150, 172]
abbrev dktX0_tell_2 : List UInt8 := dkwX0_tell_2 ++ []
def dkwX0_tell_1 : List UInt8 := [22, 9, 55, 7, 167, 255, 234, 42, 31, 22, 5, 109, 181, 0, 147, 42, 33, 22, 5, 109, 181, 0, 52, 42]
abbrev dktX0_tell_1 : List UInt8 := dkwX0_tell_1 ++ dktX0_tell_2
def dkwX0_tell_0 : List UInt8 := [31, 55, 5, 33, 55, 7, 22, 7, 9, 148, 153, 0, 21, 22, 5, 22, 7, 113, 55, 9, 22, 7, 55, 5]
abbrev dktX0_tell_0 : List UInt8 := dkwX0_tell_0 ++ dktX0_tell_1
theorem dksX0_tell_0 : cX0_tell.data.toList.drop 0 = dktX0_tell_0 := by decide +kernel
theorem dksX0_tell_1 : cX0_tell.data.toList.drop 24 = dktX0_tell_1 := dk_seg dksX0_tell_0 24 rfl rfl
theorem dksX0_tell_2 : cX0_tell.data.toList.drop 48 = dktX0_tell_2 := dk_seg dksX0_tell_1 24 rfl rfl
theorem dX0_tell_0 : decode cX0_tell 0 = .ok (.lload_n 1, 1) := dk_31 (dk_at dksX0_tell_0 0 rfl rfl)
theorem dX0_tell_1 : decode cX0_tell 1 = .ok (.lstore 5, 2) := dk_55 5 (dk_at dksX0_tell_0 1 rfl rfl)
theorem dX0_tell_3 : decode cX0_tell 3 = .ok (.lload_n 3, 1) := dk_33 (dk_at dksX0_tell_0 3 rfl rfl)
theorem dX0_tell_4 : decode cX0_tell 4 = .ok (.lstore 7, 2) := dk_55 7 (dk_at dksX0_tell_0 4 rfl rfl)
theorem dX0_tell_6 : decode cX0_tell 6 = .ok (.lload 7, 2) := dk_22 7 (dk_at dksX0_tell_0 6 rfl rfl)
theorem dX0_tell_8 : decode cX0_tell 8 = .ok (.lconst 0, 1) := dk_9 (dk_at dksX0_tell_0 8 rfl rfl)
theorem dX0_tell_9 : decode cX0_tell 9 = .ok (.lcmp, 1) := dk_148 (dk_at dksX0_tell_0 9 rfl rfl)
theorem dX0_tell_10 : decode cX0_tell 10 = .ok (.ifCond .eq 21, 3) := dk_153 0 21 (dk_at dksX0_tell_0 10 rfl rfl)
theorem dX0_tell_13 : decode cX0_tell 13 = .ok (.lload 5, 2) := dk_22 5 (dk_at dksX0_tell_0 13 rfl rfl)
theorem dX0_tell_15 : decode cX0_tell 15 = .ok (.lload 7, 2) := dk_22 7 (dk_at dksX0_tell_0 15 rfl rfl)
theorem dX0_tell_17 : decode cX0_tell 17 = .ok (.lrem, 1) := dk_113 (dk_at dksX0_tell_0 17 rfl rfl)
theorem dX0_tell_18 : decode cX0_tell 18 = .ok (.lstore 9, 2) := dk_55 9 (dk_at dksX0_tell_0 18 rfl rfl)
theorem dX0_tell_20 : decode cX0_tell 20 = .ok (.lload 7, 2) := dk_22 7 (dk_at dksX0_tell_0 20 rfl rfl)
theorem dX0_tell_22 : decode cX0_tell 22 = .ok (.lstore 5, 2) := dk_55 5 (dk_at dksX0_tell_0 22 rfl rfl)
theorem dX0_tell_24 : decode cX0_tell 24 = .ok (.lload 9, 2) := dk_22 9 (dk_at dksX0_tell_1 0 rfl rfl)
theorem dX0_tell_26 : decode cX0_tell 26 = .ok (.lstore 7, 2) := dk_55 7 (dk_at dksX0_tell_1 2 rfl rfl)
theorem dX0_tell_28 : decode cX0_tell 28 = .ok (.goto (-22), 3) := dk_167 255 234 (dk_at dksX0_tell_1 4 rfl rfl)
theorem dX0_tell_31 : decode cX0_tell 31 = .ok (.aload_n 0, 1) := dk_42 (dk_at dksX0_tell_1 7 rfl rfl)
theorem dX0_tell_32 : decode cX0_tell 32 = .ok (.lload_n 1, 1) := dk_31 (dk_at dksX0_tell_1 8 rfl rfl)
theorem dX0_tell_33 : decode cX0_tell 33 = .ok (.lload 5, 2) := dk_22 5 (dk_at dksX0_tell_1 9 rfl rfl)
theorem dX0_tell_35 : decode cX0_tell 35 = .ok (.ldiv, 1) := dk_109 (dk_at dksX0_tell_1 11 rfl rfl)
theorem dX0_tell_36 : decode cX0_tell 36 = .ok (.putfield 147, 3) := dk_181 0 147 (dk_at dksX0_tell_1 12 rfl rfl)
theorem dX0_tell_39 : decode cX0_tell 39 = .ok (.aload_n 0, 1) := dk_42 (dk_at dksX0_tell_1 15 rfl rfl)
theorem dX0_tell_40 : decode cX0_tell 40 = .ok (.lload_n 3, 1) := dk_33 (dk_at dksX0_tell_1 16 rfl rfl)
theorem dX0_tell_41 : decode cX0_tell 41 = .ok (.lload 5, 2) := dk_22 5 (dk_at dksX0_tell_1 17 rfl rfl)
theorem dX0_tell_43 : decode cX0_tell 43 = .ok (.ldiv, 1) := dk_109 (dk_at dksX0_tell_1 19 rfl rfl)
theorem dX0_tell_44 : decode cX0_tell 44 = .ok (.putfield 52, 3) := dk_181 0 52 (dk_at dksX0_tell_1 20 rfl rfl)
theorem dX0_tell_47 : decode cX0_tell 47 = .ok (.aload_n 0, 1) := dk_42 (dk_at dksX0_tell_1 23 rfl rfl)
theorem dX0_tell_48 : decode cX0_tell 48 = .ok (.iconst 0, 1) := dk_3 (dk_at dksX0_tell_2 0 rfl rfl)
theorem dX0_tell_49 : decode cX0_tell 49 = .ok (.invokevirtual 150, 3) := dk_182 0 150 (dk_at dksX0_tell_2 1 rfl rfl)
theorem dX0_tell_52 : decode cX0_tell 52 = .ok (.ireturn, 1) := dk_172 (dk_at dksX0_tell_2 4 rfl rfl)
abbrev cX0_derivations : ByteArray := prog_1_method_72_code
def dkwX0_derivations_2 : List UInt8 := [182, 1, 167, 27, 5, 160, 0, 7, 28, 167, 0, 4, 3, 100, 182, 0, 235, 172]
abbrev dktX0_derivations_2 : List UInt8 := dkwX0_derivations_2 ++ []
def dkwX0_derivations_1 : List UInt8 := [180, 0, 30, 182, 1, 103, 100, 61, 42, 27, 4, 160, 0, 7, 28, 167, 0, 22, 42, 42, 180, 0, 30]
abbrev dktX0_derivations_1 : List UInt8 := dkwX0_derivations_1 ++ dktX0_derivations_2
def dkwX0_derivations_0 : List UInt8 := [27, 155, 0, 8, 27, 5, 164, 0, 9, 42, 8, 182, 0, 171, 172, 42, 180, 0, 30, 180, 0, 196, 42, 42]
abbrev dktX0_derivations_0 : List UInt8 := dkwX0_derivations_0 ++ dktX0_derivations_1
theorem dksX0_derivations_0 : cX0_derivations.data.toList.drop 0 = dktX0_derivations_0 := by decide +kernel
theorem dksX0_derivations_1 : cX0_derivations.data.toList.drop 24 = dktX0_derivations_1 := dk_seg dksX0_derivations_0 24 rfl rfl
theorem dksX0_derivations_2 : cX0_derivations.data.toList.drop 47 = dktX0_derivations_2 := dk_seg dksX0_derivations_1 23 rfl rfl
theorem dX0_derivations_0 : decode cX0_derivations 0 = .ok (.iload_n 1, 1) := dk_27 (dk_at dksX0_derivations_0 0 rfl rfl)
theorem dX0_derivations_1 : decode cX0_derivations 1 = .ok (.ifCond .lt 8, 3) := dk_155 0 8 (dk_at dksX0_derivations_0 1 rfl rfl)
theorem dX0_derivations_4 : decode cX0_derivations 4 = .ok (.iload_n 1, 1) := dk_27 (dk_at dksX0_derivations_0 4 rfl rfl)
theorem dX0_derivations_5 : decode cX0_derivations 5 = .ok (.iconst 2, 1) := dk_5 (dk_at dksX0_derivations_0 5 rfl rfl)
theorem dX0_derivations_6 : decode cX0_derivations 6 = .ok (.if_icmp .le 9, 3) := dk_164 0 9 (dk_at dksX0_derivations_0 6 rfl rfl)
theorem dX0_derivations_9 : decode cX0_derivations 9 = .ok (.aload_n 0, 1) := dk_42 (dk_at dksX0_derivations_0 9 rfl rfl)
theorem dX0_derivations_10 : decode cX0_derivations 10 = .ok (.iconst 5, 1) := dk_8 (dk_at dksX0_derivations_0 10 rfl rfl)
theorem dX0_derivations_11 : decode cX0_derivations 11 = .ok (.invokevirtual 171, 3) := dk_182 0 171 (dk_at dksX0_derivations_0 11 rfl rfl)
theorem dX0_derivations_14 : decode cX0_derivations 14 = .ok (.ireturn, 1) := dk_172 (dk_at dksX0_derivations_0 14 rfl rfl)
theorem dX0_derivations_15 : decode cX0_derivations 15 = .ok (.aload_n 0, 1) := dk_42 (dk_at dksX0_derivations_0 15 rfl rfl)
theorem dX0_derivations_16 : decode cX0_derivations 16 = .ok (.getfield 30, 3) := dk_180 0 30 (dk_at dksX0_derivations_0 16 rfl rfl)
theorem dX0_derivations_19 : decode cX0_derivations 19 = .ok (.getfield 196, 3) := dk_180 0 196 (dk_at dksX0_derivations_0 19 rfl rfl)
theorem dX0_derivations_22 : decode cX0_derivations 22 = .ok (.aload_n 0, 1) := dk_42 (dk_at dksX0_derivations_0 22 rfl rfl)
theorem dX0_derivations_23 : decode cX0_derivations 23 = .ok (.aload_n 0, 1) := dk_42 (dk_at dksX0_derivations_0 23 rfl rfl)
theorem dX0_derivations_24 : decode cX0_derivations 24 = .ok (.getfield 30, 3) := dk_180 0 30 (dk_at dksX0_derivations_1 0 rfl rfl)
theorem dX0_derivations_27 : decode cX0_derivations 27 = .ok (.invokevirtual 359, 3) := dk_182 1 103 (dk_at dksX0_derivations_1 3 rfl rfl)
theorem dX0_derivations_30 : decode cX0_derivations 30 = .ok (.isub, 1) := dk_100 (dk_at dksX0_derivations_1 6 rfl rfl)
theorem dX0_derivations_31 : decode cX0_derivations 31 = .ok (.istore_n 2, 1) := dk_61 (dk_at dksX0_derivations_1 7 rfl rfl)
theorem dX0_derivations_32 : decode cX0_derivations 32 = .ok (.aload_n 0, 1) := dk_42 (dk_at dksX0_derivations_1 8 rfl rfl)
theorem dX0_derivations_33 : decode cX0_derivations 33 = .ok (.iload_n 1, 1) := dk_27 (dk_at dksX0_derivations_1 9 rfl rfl)
theorem dX0_derivations_34 : decode cX0_derivations 34 = .ok (.iconst 1, 1) := dk_4 (dk_at dksX0_derivations_1 10 rfl rfl)
theorem dX0_derivations_35 : decode cX0_derivations 35 = .ok (.if_icmp .ne 7, 3) := dk_160 0 7 (dk_at dksX0_derivations_1 11 rfl rfl)
theorem dX0_derivations_38 : decode cX0_derivations 38 = .ok (.iload_n 2, 1) := dk_28 (dk_at dksX0_derivations_1 14 rfl rfl)
theorem dX0_derivations_39 : decode cX0_derivations 39 = .ok (.goto 22, 3) := dk_167 0 22 (dk_at dksX0_derivations_1 15 rfl rfl)
theorem dX0_derivations_42 : decode cX0_derivations 42 = .ok (.aload_n 0, 1) := dk_42 (dk_at dksX0_derivations_1 18 rfl rfl)
theorem dX0_derivations_43 : decode cX0_derivations 43 = .ok (.aload_n 0, 1) := dk_42 (dk_at dksX0_derivations_1 19 rfl rfl)
theorem dX0_derivations_44 : decode cX0_derivations 44 = .ok (.getfield 30, 3) := dk_180 0 30 (dk_at dksX0_derivations_1 20 rfl rfl)
theorem dX0_derivations_47 : decode cX0_derivations 47 = .ok (.invokevirtual 423, 3) := dk_182 1 167 (dk_at dksX0_derivations_2 0 rfl rfl)
theorem dX0_derivations_50 : decode cX0_derivations 50 = .ok (.iload_n 1, 1) := dk_27 (dk_at dksX0_derivations_2 3 rfl rfl)
theorem dX0_derivations_51 : decode cX0_derivations 51 = .ok (.iconst 2, 1) := dk_5 (dk_at dksX0_derivations_2 4 rfl rfl)
theorem dX0_derivations_52 : decode cX0_derivations 52 = .ok (.if_icmp .ne 7, 3) := dk_160 0 7 (dk_at dksX0_derivations_2 5 rfl rfl)
theorem dX0_derivations_55 : decode cX0_derivations 55 = .ok (.iload_n 2, 1) := dk_28 (dk_at dksX0_derivations_2 8 rfl rfl)
theorem dX0_derivations_56 : decode cX0_derivations 56 = .ok (.goto 4, 3) := dk_167 0 4 (dk_at dksX0_derivations_2 9 rfl rfl)
theorem dX0_derivations_59 : decode cX0_derivations 59 = .ok (.iconst 0, 1) := dk_3 (dk_at dksX0_derivations_2 12 rfl rfl)
theorem dX0_derivations_60 : decode cX0_derivations 60 = .ok (.isub, 1) := dk_100 (dk_at dksX0_derivations_2 13 rfl rfl)
theorem dX0_derivations_61 : decode cX0_derivations 61 = .ok (.invokevirtual 235, 3) := dk_182 0 235 (dk_at dksX0_derivations_2 14 rfl rfl)
theorem dX0_derivations_64 : decode cX0_derivations 64 = .ok (.ireturn, 1) := dk_172 (dk_at dksX0_derivations_2 17 rfl rfl)
abbrev cX0_derivationsOf : ByteArray := prog_1_method_71_code
def dkwX0_derivationsOf_10 : List UInt8 := [43, 42, 180, 0, 93, 29, 28, 28, 104, 182, 1, 99, 100, 172]
abbrev dktX0_derivationsOf_10 : List UInt8 := dkwX0_derivationsOf_10 ++ []
def dkwX0_derivationsOf_9 : List UInt8 := [132, 4, 1, 132, 7, 1, 167, 255, 85, 132, 6, 1, 167, 255, 70, 132, 5, 1, 167, 255, 52, 28, 28, 104]
abbrev dktX0_derivationsOf_9 : List UInt8 := dkwX0_derivationsOf_9 ++ dktX0_derivationsOf_10
def dkwX0_derivationsOf_8 : List UInt8 := [180, 1, 0, 21, 5, 50, 21, 8, 50, 21, 7, 46, 100, 182, 1, 26, 79, 132, 8, 1, 167, 255, 103]
abbrev dktX0_derivationsOf_8 : List UInt8 := dkwX0_derivationsOf_8 ++ dktX0_derivationsOf_9
def dkwX0_derivationsOf_7 : List UInt8 := [28, 21, 6, 104, 21, 8, 96, 43, 42, 180, 0, 93, 21, 4, 50, 28, 21, 6, 104, 21, 8, 96, 46, 43]
abbrev dktX0_derivationsOf_7 : List UInt8 := dkwX0_derivationsOf_7 ++ dktX0_derivationsOf_8
def dkwX0_derivationsOf_6 : List UInt8 := [180, 1, 0, 21, 8, 50, 21, 6, 50, 21, 7, 46, 100, 182, 1, 26, 79, 42, 180, 0, 93, 21, 4, 50]
abbrev dktX0_derivationsOf_6 : List UInt8 := dkwX0_derivationsOf_6 ++ dktX0_derivationsOf_7
def dkwX0_derivationsOf_5 : List UInt8 := [28, 21, 5, 104, 21, 8, 96, 43, 42, 180, 0, 93, 21, 4, 50, 28, 21, 5, 104, 21, 8, 96, 46, 43]
abbrev dktX0_derivationsOf_5 : List UInt8 := dkwX0_derivationsOf_5 ++ dktX0_derivationsOf_6
def dkwX0_derivationsOf_4 : List UInt8 := [180, 1, 0, 21, 5, 50, 21, 6, 50, 21, 8, 46, 96, 182, 1, 26, 79, 42, 180, 0, 93, 21, 4, 50]
abbrev dktX0_derivationsOf_4 : List UInt8 := dkwX0_derivationsOf_4 ++ dktX0_derivationsOf_5
def dkwX0_derivationsOf_3 : List UInt8 := [28, 21, 8, 104, 21, 7, 96, 43, 42, 180, 0, 93, 21, 4, 50, 28, 21, 8, 104, 21, 7, 96, 46, 43]
abbrev dktX0_derivationsOf_3 : List UInt8 := dkwX0_derivationsOf_3 ++ dktX0_derivationsOf_4
def dkwX0_derivationsOf_2 : List UInt8 := [54, 7, 21, 7, 28, 162, 0, 171, 3, 54, 8, 21, 8, 28, 162, 0, 153, 42, 180, 0, 93, 21, 4, 50]
abbrev dktX0_derivationsOf_2 : List UInt8 := dkwX0_derivationsOf_2 ++ dktX0_derivationsOf_3
def dkwX0_derivationsOf_1 : List UInt8 := [54, 4, 3, 54, 5, 21, 5, 28, 162, 0, 204, 21, 5, 4, 96, 54, 6, 21, 6, 28, 162, 0, 186, 3]
abbrev dktX0_derivationsOf_1 : List UInt8 := dkwX0_derivationsOf_1 ++ dktX0_derivationsOf_2
def dkwX0_derivationsOf_0 : List UInt8 := [43, 180, 0, 196, 61, 28, 28, 104, 28, 4, 100, 104, 5, 108, 62, 42, 29, 28, 28, 104, 182, 1, 96, 3]
abbrev dktX0_derivationsOf_0 : List UInt8 := dkwX0_derivationsOf_0 ++ dktX0_derivationsOf_1
theorem dksX0_derivationsOf_0 : cX0_derivationsOf.data.toList.drop 0 = dktX0_derivationsOf_0 := by decide +kernel
theorem dksX0_derivationsOf_1 : cX0_derivationsOf.data.toList.drop 24 = dktX0_derivationsOf_1 := dk_seg dksX0_derivationsOf_0 24 rfl rfl
theorem dksX0_derivationsOf_2 : cX0_derivationsOf.data.toList.drop 48 = dktX0_derivationsOf_2 := dk_seg dksX0_derivationsOf_1 24 rfl rfl
theorem dksX0_derivationsOf_3 : cX0_derivationsOf.data.toList.drop 72 = dktX0_derivationsOf_3 := dk_seg dksX0_derivationsOf_2 24 rfl rfl
theorem dksX0_derivationsOf_4 : cX0_derivationsOf.data.toList.drop 96 = dktX0_derivationsOf_4 := dk_seg dksX0_derivationsOf_3 24 rfl rfl
theorem dksX0_derivationsOf_5 : cX0_derivationsOf.data.toList.drop 120 = dktX0_derivationsOf_5 := dk_seg dksX0_derivationsOf_4 24 rfl rfl
theorem dksX0_derivationsOf_6 : cX0_derivationsOf.data.toList.drop 144 = dktX0_derivationsOf_6 := dk_seg dksX0_derivationsOf_5 24 rfl rfl
theorem dksX0_derivationsOf_7 : cX0_derivationsOf.data.toList.drop 168 = dktX0_derivationsOf_7 := dk_seg dksX0_derivationsOf_6 24 rfl rfl
theorem dksX0_derivationsOf_8 : cX0_derivationsOf.data.toList.drop 192 = dktX0_derivationsOf_8 := dk_seg dksX0_derivationsOf_7 24 rfl rfl
theorem dksX0_derivationsOf_9 : cX0_derivationsOf.data.toList.drop 215 = dktX0_derivationsOf_9 := dk_seg dksX0_derivationsOf_8 23 rfl rfl
theorem dksX0_derivationsOf_10 : cX0_derivationsOf.data.toList.drop 239 = dktX0_derivationsOf_10 := dk_seg dksX0_derivationsOf_9 24 rfl rfl
theorem dX0_derivationsOf_0 : decode cX0_derivationsOf 0 = .ok (.aload_n 1, 1) := dk_43 (dk_at dksX0_derivationsOf_0 0 rfl rfl)
theorem dX0_derivationsOf_1 : decode cX0_derivationsOf 1 = .ok (.getfield 196, 3) := dk_180 0 196 (dk_at dksX0_derivationsOf_0 1 rfl rfl)
theorem dX0_derivationsOf_4 : decode cX0_derivationsOf 4 = .ok (.istore_n 2, 1) := dk_61 (dk_at dksX0_derivationsOf_0 4 rfl rfl)
theorem dX0_derivationsOf_5 : decode cX0_derivationsOf 5 = .ok (.iload_n 2, 1) := dk_28 (dk_at dksX0_derivationsOf_0 5 rfl rfl)
theorem dX0_derivationsOf_6 : decode cX0_derivationsOf 6 = .ok (.iload_n 2, 1) := dk_28 (dk_at dksX0_derivationsOf_0 6 rfl rfl)
theorem dX0_derivationsOf_7 : decode cX0_derivationsOf 7 = .ok (.imul, 1) := dk_104 (dk_at dksX0_derivationsOf_0 7 rfl rfl)
theorem dX0_derivationsOf_8 : decode cX0_derivationsOf 8 = .ok (.iload_n 2, 1) := dk_28 (dk_at dksX0_derivationsOf_0 8 rfl rfl)
theorem dX0_derivationsOf_9 : decode cX0_derivationsOf 9 = .ok (.iconst 1, 1) := dk_4 (dk_at dksX0_derivationsOf_0 9 rfl rfl)
theorem dX0_derivationsOf_10 : decode cX0_derivationsOf 10 = .ok (.isub, 1) := dk_100 (dk_at dksX0_derivationsOf_0 10 rfl rfl)
theorem dX0_derivationsOf_11 : decode cX0_derivationsOf 11 = .ok (.imul, 1) := dk_104 (dk_at dksX0_derivationsOf_0 11 rfl rfl)
theorem dX0_derivationsOf_12 : decode cX0_derivationsOf 12 = .ok (.iconst 2, 1) := dk_5 (dk_at dksX0_derivationsOf_0 12 rfl rfl)
theorem dX0_derivationsOf_13 : decode cX0_derivationsOf 13 = .ok (.idiv, 1) := dk_108 (dk_at dksX0_derivationsOf_0 13 rfl rfl)
theorem dX0_derivationsOf_14 : decode cX0_derivationsOf 14 = .ok (.istore_n 3, 1) := dk_62 (dk_at dksX0_derivationsOf_0 14 rfl rfl)
theorem dX0_derivationsOf_15 : decode cX0_derivationsOf 15 = .ok (.aload_n 0, 1) := dk_42 (dk_at dksX0_derivationsOf_0 15 rfl rfl)
theorem dX0_derivationsOf_16 : decode cX0_derivationsOf 16 = .ok (.iload_n 3, 1) := dk_29 (dk_at dksX0_derivationsOf_0 16 rfl rfl)
theorem dX0_derivationsOf_17 : decode cX0_derivationsOf 17 = .ok (.iload_n 2, 1) := dk_28 (dk_at dksX0_derivationsOf_0 17 rfl rfl)
theorem dX0_derivationsOf_18 : decode cX0_derivationsOf 18 = .ok (.iload_n 2, 1) := dk_28 (dk_at dksX0_derivationsOf_0 18 rfl rfl)
theorem dX0_derivationsOf_19 : decode cX0_derivationsOf 19 = .ok (.imul, 1) := dk_104 (dk_at dksX0_derivationsOf_0 19 rfl rfl)
theorem dX0_derivationsOf_20 : decode cX0_derivationsOf 20 = .ok (.invokevirtual 352, 3) := dk_182 1 96 (dk_at dksX0_derivationsOf_0 20 rfl rfl)
theorem dX0_derivationsOf_23 : decode cX0_derivationsOf 23 = .ok (.iconst 0, 1) := dk_3 (dk_at dksX0_derivationsOf_0 23 rfl rfl)
theorem dX0_derivationsOf_24 : decode cX0_derivationsOf 24 = .ok (.istore 4, 2) := dk_54 4 (dk_at dksX0_derivationsOf_1 0 rfl rfl)
theorem dX0_derivationsOf_26 : decode cX0_derivationsOf 26 = .ok (.iconst 0, 1) := dk_3 (dk_at dksX0_derivationsOf_1 2 rfl rfl)
theorem dX0_derivationsOf_27 : decode cX0_derivationsOf 27 = .ok (.istore 5, 2) := dk_54 5 (dk_at dksX0_derivationsOf_1 3 rfl rfl)
theorem dX0_derivationsOf_29 : decode cX0_derivationsOf 29 = .ok (.iload 5, 2) := dk_21 5 (dk_at dksX0_derivationsOf_1 5 rfl rfl)
theorem dX0_derivationsOf_31 : decode cX0_derivationsOf 31 = .ok (.iload_n 2, 1) := dk_28 (dk_at dksX0_derivationsOf_1 7 rfl rfl)
theorem dX0_derivationsOf_32 : decode cX0_derivationsOf 32 = .ok (.if_icmp .ge 204, 3) := dk_162 0 204 (dk_at dksX0_derivationsOf_1 8 rfl rfl)
theorem dX0_derivationsOf_35 : decode cX0_derivationsOf 35 = .ok (.iload 5, 2) := dk_21 5 (dk_at dksX0_derivationsOf_1 11 rfl rfl)
theorem dX0_derivationsOf_37 : decode cX0_derivationsOf 37 = .ok (.iconst 1, 1) := dk_4 (dk_at dksX0_derivationsOf_1 13 rfl rfl)
theorem dX0_derivationsOf_38 : decode cX0_derivationsOf 38 = .ok (.iadd, 1) := dk_96 (dk_at dksX0_derivationsOf_1 14 rfl rfl)
theorem dX0_derivationsOf_39 : decode cX0_derivationsOf 39 = .ok (.istore 6, 2) := dk_54 6 (dk_at dksX0_derivationsOf_1 15 rfl rfl)
theorem dX0_derivationsOf_41 : decode cX0_derivationsOf 41 = .ok (.iload 6, 2) := dk_21 6 (dk_at dksX0_derivationsOf_1 17 rfl rfl)
theorem dX0_derivationsOf_43 : decode cX0_derivationsOf 43 = .ok (.iload_n 2, 1) := dk_28 (dk_at dksX0_derivationsOf_1 19 rfl rfl)
theorem dX0_derivationsOf_44 : decode cX0_derivationsOf 44 = .ok (.if_icmp .ge 186, 3) := dk_162 0 186 (dk_at dksX0_derivationsOf_1 20 rfl rfl)
theorem dX0_derivationsOf_47 : decode cX0_derivationsOf 47 = .ok (.iconst 0, 1) := dk_3 (dk_at dksX0_derivationsOf_1 23 rfl rfl)
theorem dX0_derivationsOf_48 : decode cX0_derivationsOf 48 = .ok (.istore 7, 2) := dk_54 7 (dk_at dksX0_derivationsOf_2 0 rfl rfl)
theorem dX0_derivationsOf_50 : decode cX0_derivationsOf 50 = .ok (.iload 7, 2) := dk_21 7 (dk_at dksX0_derivationsOf_2 2 rfl rfl)
theorem dX0_derivationsOf_52 : decode cX0_derivationsOf 52 = .ok (.iload_n 2, 1) := dk_28 (dk_at dksX0_derivationsOf_2 4 rfl rfl)
theorem dX0_derivationsOf_53 : decode cX0_derivationsOf 53 = .ok (.if_icmp .ge 171, 3) := dk_162 0 171 (dk_at dksX0_derivationsOf_2 5 rfl rfl)
theorem dX0_derivationsOf_56 : decode cX0_derivationsOf 56 = .ok (.iconst 0, 1) := dk_3 (dk_at dksX0_derivationsOf_2 8 rfl rfl)
theorem dX0_derivationsOf_57 : decode cX0_derivationsOf 57 = .ok (.istore 8, 2) := dk_54 8 (dk_at dksX0_derivationsOf_2 9 rfl rfl)
theorem dX0_derivationsOf_59 : decode cX0_derivationsOf 59 = .ok (.iload 8, 2) := dk_21 8 (dk_at dksX0_derivationsOf_2 11 rfl rfl)
theorem dX0_derivationsOf_61 : decode cX0_derivationsOf 61 = .ok (.iload_n 2, 1) := dk_28 (dk_at dksX0_derivationsOf_2 13 rfl rfl)
theorem dX0_derivationsOf_62 : decode cX0_derivationsOf 62 = .ok (.if_icmp .ge 153, 3) := dk_162 0 153 (dk_at dksX0_derivationsOf_2 14 rfl rfl)
theorem dX0_derivationsOf_65 : decode cX0_derivationsOf 65 = .ok (.aload_n 0, 1) := dk_42 (dk_at dksX0_derivationsOf_2 17 rfl rfl)
theorem dX0_derivationsOf_66 : decode cX0_derivationsOf 66 = .ok (.getfield 93, 3) := dk_180 0 93 (dk_at dksX0_derivationsOf_2 18 rfl rfl)
theorem dX0_derivationsOf_69 : decode cX0_derivationsOf 69 = .ok (.iload 4, 2) := dk_21 4 (dk_at dksX0_derivationsOf_2 21 rfl rfl)
theorem dX0_derivationsOf_71 : decode cX0_derivationsOf 71 = .ok (.aaload, 1) := dk_50 (dk_at dksX0_derivationsOf_2 23 rfl rfl)
theorem dX0_derivationsOf_72 : decode cX0_derivationsOf 72 = .ok (.iload_n 2, 1) := dk_28 (dk_at dksX0_derivationsOf_3 0 rfl rfl)
theorem dX0_derivationsOf_73 : decode cX0_derivationsOf 73 = .ok (.iload 8, 2) := dk_21 8 (dk_at dksX0_derivationsOf_3 1 rfl rfl)
theorem dX0_derivationsOf_75 : decode cX0_derivationsOf 75 = .ok (.imul, 1) := dk_104 (dk_at dksX0_derivationsOf_3 3 rfl rfl)
theorem dX0_derivationsOf_76 : decode cX0_derivationsOf 76 = .ok (.iload 7, 2) := dk_21 7 (dk_at dksX0_derivationsOf_3 4 rfl rfl)
theorem dX0_derivationsOf_78 : decode cX0_derivationsOf 78 = .ok (.iadd, 1) := dk_96 (dk_at dksX0_derivationsOf_3 6 rfl rfl)
theorem dX0_derivationsOf_79 : decode cX0_derivationsOf 79 = .ok (.aload_n 1, 1) := dk_43 (dk_at dksX0_derivationsOf_3 7 rfl rfl)
theorem dX0_derivationsOf_80 : decode cX0_derivationsOf 80 = .ok (.aload_n 0, 1) := dk_42 (dk_at dksX0_derivationsOf_3 8 rfl rfl)
theorem dX0_derivationsOf_81 : decode cX0_derivationsOf 81 = .ok (.getfield 93, 3) := dk_180 0 93 (dk_at dksX0_derivationsOf_3 9 rfl rfl)
theorem dX0_derivationsOf_84 : decode cX0_derivationsOf 84 = .ok (.iload 4, 2) := dk_21 4 (dk_at dksX0_derivationsOf_3 12 rfl rfl)
theorem dX0_derivationsOf_86 : decode cX0_derivationsOf 86 = .ok (.aaload, 1) := dk_50 (dk_at dksX0_derivationsOf_3 14 rfl rfl)
theorem dX0_derivationsOf_87 : decode cX0_derivationsOf 87 = .ok (.iload_n 2, 1) := dk_28 (dk_at dksX0_derivationsOf_3 15 rfl rfl)
theorem dX0_derivationsOf_88 : decode cX0_derivationsOf 88 = .ok (.iload 8, 2) := dk_21 8 (dk_at dksX0_derivationsOf_3 16 rfl rfl)
theorem dX0_derivationsOf_90 : decode cX0_derivationsOf 90 = .ok (.imul, 1) := dk_104 (dk_at dksX0_derivationsOf_3 18 rfl rfl)
theorem dX0_derivationsOf_91 : decode cX0_derivationsOf 91 = .ok (.iload 7, 2) := dk_21 7 (dk_at dksX0_derivationsOf_3 19 rfl rfl)
theorem dX0_derivationsOf_93 : decode cX0_derivationsOf 93 = .ok (.iadd, 1) := dk_96 (dk_at dksX0_derivationsOf_3 21 rfl rfl)
theorem dX0_derivationsOf_94 : decode cX0_derivationsOf 94 = .ok (.iaload, 1) := dk_46 (dk_at dksX0_derivationsOf_3 22 rfl rfl)
theorem dX0_derivationsOf_95 : decode cX0_derivationsOf 95 = .ok (.aload_n 1, 1) := dk_43 (dk_at dksX0_derivationsOf_3 23 rfl rfl)
theorem dX0_derivationsOf_96 : decode cX0_derivationsOf 96 = .ok (.getfield 256, 3) := dk_180 1 0 (dk_at dksX0_derivationsOf_4 0 rfl rfl)
theorem dX0_derivationsOf_99 : decode cX0_derivationsOf 99 = .ok (.iload 5, 2) := dk_21 5 (dk_at dksX0_derivationsOf_4 3 rfl rfl)
theorem dX0_derivationsOf_101 : decode cX0_derivationsOf 101 = .ok (.aaload, 1) := dk_50 (dk_at dksX0_derivationsOf_4 5 rfl rfl)
theorem dX0_derivationsOf_102 : decode cX0_derivationsOf 102 = .ok (.iload 6, 2) := dk_21 6 (dk_at dksX0_derivationsOf_4 6 rfl rfl)
theorem dX0_derivationsOf_104 : decode cX0_derivationsOf 104 = .ok (.aaload, 1) := dk_50 (dk_at dksX0_derivationsOf_4 8 rfl rfl)
theorem dX0_derivationsOf_105 : decode cX0_derivationsOf 105 = .ok (.iload 8, 2) := dk_21 8 (dk_at dksX0_derivationsOf_4 9 rfl rfl)
theorem dX0_derivationsOf_107 : decode cX0_derivationsOf 107 = .ok (.iaload, 1) := dk_46 (dk_at dksX0_derivationsOf_4 11 rfl rfl)
theorem dX0_derivationsOf_108 : decode cX0_derivationsOf 108 = .ok (.iadd, 1) := dk_96 (dk_at dksX0_derivationsOf_4 12 rfl rfl)
theorem dX0_derivationsOf_109 : decode cX0_derivationsOf 109 = .ok (.invokevirtual 282, 3) := dk_182 1 26 (dk_at dksX0_derivationsOf_4 13 rfl rfl)
theorem dX0_derivationsOf_112 : decode cX0_derivationsOf 112 = .ok (.iastore, 1) := dk_79 (dk_at dksX0_derivationsOf_4 16 rfl rfl)
theorem dX0_derivationsOf_113 : decode cX0_derivationsOf 113 = .ok (.aload_n 0, 1) := dk_42 (dk_at dksX0_derivationsOf_4 17 rfl rfl)
theorem dX0_derivationsOf_114 : decode cX0_derivationsOf 114 = .ok (.getfield 93, 3) := dk_180 0 93 (dk_at dksX0_derivationsOf_4 18 rfl rfl)
theorem dX0_derivationsOf_117 : decode cX0_derivationsOf 117 = .ok (.iload 4, 2) := dk_21 4 (dk_at dksX0_derivationsOf_4 21 rfl rfl)
theorem dX0_derivationsOf_119 : decode cX0_derivationsOf 119 = .ok (.aaload, 1) := dk_50 (dk_at dksX0_derivationsOf_4 23 rfl rfl)
theorem dX0_derivationsOf_120 : decode cX0_derivationsOf 120 = .ok (.iload_n 2, 1) := dk_28 (dk_at dksX0_derivationsOf_5 0 rfl rfl)
theorem dX0_derivationsOf_121 : decode cX0_derivationsOf 121 = .ok (.iload 5, 2) := dk_21 5 (dk_at dksX0_derivationsOf_5 1 rfl rfl)
theorem dX0_derivationsOf_123 : decode cX0_derivationsOf 123 = .ok (.imul, 1) := dk_104 (dk_at dksX0_derivationsOf_5 3 rfl rfl)
theorem dX0_derivationsOf_124 : decode cX0_derivationsOf 124 = .ok (.iload 8, 2) := dk_21 8 (dk_at dksX0_derivationsOf_5 4 rfl rfl)
theorem dX0_derivationsOf_126 : decode cX0_derivationsOf 126 = .ok (.iadd, 1) := dk_96 (dk_at dksX0_derivationsOf_5 6 rfl rfl)
theorem dX0_derivationsOf_127 : decode cX0_derivationsOf 127 = .ok (.aload_n 1, 1) := dk_43 (dk_at dksX0_derivationsOf_5 7 rfl rfl)
theorem dX0_derivationsOf_128 : decode cX0_derivationsOf 128 = .ok (.aload_n 0, 1) := dk_42 (dk_at dksX0_derivationsOf_5 8 rfl rfl)
theorem dX0_derivationsOf_129 : decode cX0_derivationsOf 129 = .ok (.getfield 93, 3) := dk_180 0 93 (dk_at dksX0_derivationsOf_5 9 rfl rfl)
theorem dX0_derivationsOf_132 : decode cX0_derivationsOf 132 = .ok (.iload 4, 2) := dk_21 4 (dk_at dksX0_derivationsOf_5 12 rfl rfl)
theorem dX0_derivationsOf_134 : decode cX0_derivationsOf 134 = .ok (.aaload, 1) := dk_50 (dk_at dksX0_derivationsOf_5 14 rfl rfl)
theorem dX0_derivationsOf_135 : decode cX0_derivationsOf 135 = .ok (.iload_n 2, 1) := dk_28 (dk_at dksX0_derivationsOf_5 15 rfl rfl)
theorem dX0_derivationsOf_136 : decode cX0_derivationsOf 136 = .ok (.iload 5, 2) := dk_21 5 (dk_at dksX0_derivationsOf_5 16 rfl rfl)
theorem dX0_derivationsOf_138 : decode cX0_derivationsOf 138 = .ok (.imul, 1) := dk_104 (dk_at dksX0_derivationsOf_5 18 rfl rfl)
theorem dX0_derivationsOf_139 : decode cX0_derivationsOf 139 = .ok (.iload 8, 2) := dk_21 8 (dk_at dksX0_derivationsOf_5 19 rfl rfl)
theorem dX0_derivationsOf_141 : decode cX0_derivationsOf 141 = .ok (.iadd, 1) := dk_96 (dk_at dksX0_derivationsOf_5 21 rfl rfl)
theorem dX0_derivationsOf_142 : decode cX0_derivationsOf 142 = .ok (.iaload, 1) := dk_46 (dk_at dksX0_derivationsOf_5 22 rfl rfl)
theorem dX0_derivationsOf_143 : decode cX0_derivationsOf 143 = .ok (.aload_n 1, 1) := dk_43 (dk_at dksX0_derivationsOf_5 23 rfl rfl)
theorem dX0_derivationsOf_144 : decode cX0_derivationsOf 144 = .ok (.getfield 256, 3) := dk_180 1 0 (dk_at dksX0_derivationsOf_6 0 rfl rfl)
theorem dX0_derivationsOf_147 : decode cX0_derivationsOf 147 = .ok (.iload 8, 2) := dk_21 8 (dk_at dksX0_derivationsOf_6 3 rfl rfl)
theorem dX0_derivationsOf_149 : decode cX0_derivationsOf 149 = .ok (.aaload, 1) := dk_50 (dk_at dksX0_derivationsOf_6 5 rfl rfl)
theorem dX0_derivationsOf_150 : decode cX0_derivationsOf 150 = .ok (.iload 6, 2) := dk_21 6 (dk_at dksX0_derivationsOf_6 6 rfl rfl)
theorem dX0_derivationsOf_152 : decode cX0_derivationsOf 152 = .ok (.aaload, 1) := dk_50 (dk_at dksX0_derivationsOf_6 8 rfl rfl)
theorem dX0_derivationsOf_153 : decode cX0_derivationsOf 153 = .ok (.iload 7, 2) := dk_21 7 (dk_at dksX0_derivationsOf_6 9 rfl rfl)
theorem dX0_derivationsOf_155 : decode cX0_derivationsOf 155 = .ok (.iaload, 1) := dk_46 (dk_at dksX0_derivationsOf_6 11 rfl rfl)
theorem dX0_derivationsOf_156 : decode cX0_derivationsOf 156 = .ok (.isub, 1) := dk_100 (dk_at dksX0_derivationsOf_6 12 rfl rfl)
theorem dX0_derivationsOf_157 : decode cX0_derivationsOf 157 = .ok (.invokevirtual 282, 3) := dk_182 1 26 (dk_at dksX0_derivationsOf_6 13 rfl rfl)
theorem dX0_derivationsOf_160 : decode cX0_derivationsOf 160 = .ok (.iastore, 1) := dk_79 (dk_at dksX0_derivationsOf_6 16 rfl rfl)
theorem dX0_derivationsOf_161 : decode cX0_derivationsOf 161 = .ok (.aload_n 0, 1) := dk_42 (dk_at dksX0_derivationsOf_6 17 rfl rfl)
theorem dX0_derivationsOf_162 : decode cX0_derivationsOf 162 = .ok (.getfield 93, 3) := dk_180 0 93 (dk_at dksX0_derivationsOf_6 18 rfl rfl)
theorem dX0_derivationsOf_165 : decode cX0_derivationsOf 165 = .ok (.iload 4, 2) := dk_21 4 (dk_at dksX0_derivationsOf_6 21 rfl rfl)
theorem dX0_derivationsOf_167 : decode cX0_derivationsOf 167 = .ok (.aaload, 1) := dk_50 (dk_at dksX0_derivationsOf_6 23 rfl rfl)
theorem dX0_derivationsOf_168 : decode cX0_derivationsOf 168 = .ok (.iload_n 2, 1) := dk_28 (dk_at dksX0_derivationsOf_7 0 rfl rfl)
theorem dX0_derivationsOf_169 : decode cX0_derivationsOf 169 = .ok (.iload 6, 2) := dk_21 6 (dk_at dksX0_derivationsOf_7 1 rfl rfl)
theorem dX0_derivationsOf_171 : decode cX0_derivationsOf 171 = .ok (.imul, 1) := dk_104 (dk_at dksX0_derivationsOf_7 3 rfl rfl)
theorem dX0_derivationsOf_172 : decode cX0_derivationsOf 172 = .ok (.iload 8, 2) := dk_21 8 (dk_at dksX0_derivationsOf_7 4 rfl rfl)
theorem dX0_derivationsOf_174 : decode cX0_derivationsOf 174 = .ok (.iadd, 1) := dk_96 (dk_at dksX0_derivationsOf_7 6 rfl rfl)
theorem dX0_derivationsOf_175 : decode cX0_derivationsOf 175 = .ok (.aload_n 1, 1) := dk_43 (dk_at dksX0_derivationsOf_7 7 rfl rfl)
theorem dX0_derivationsOf_176 : decode cX0_derivationsOf 176 = .ok (.aload_n 0, 1) := dk_42 (dk_at dksX0_derivationsOf_7 8 rfl rfl)
theorem dX0_derivationsOf_177 : decode cX0_derivationsOf 177 = .ok (.getfield 93, 3) := dk_180 0 93 (dk_at dksX0_derivationsOf_7 9 rfl rfl)
theorem dX0_derivationsOf_180 : decode cX0_derivationsOf 180 = .ok (.iload 4, 2) := dk_21 4 (dk_at dksX0_derivationsOf_7 12 rfl rfl)
theorem dX0_derivationsOf_182 : decode cX0_derivationsOf 182 = .ok (.aaload, 1) := dk_50 (dk_at dksX0_derivationsOf_7 14 rfl rfl)
theorem dX0_derivationsOf_183 : decode cX0_derivationsOf 183 = .ok (.iload_n 2, 1) := dk_28 (dk_at dksX0_derivationsOf_7 15 rfl rfl)
theorem dX0_derivationsOf_184 : decode cX0_derivationsOf 184 = .ok (.iload 6, 2) := dk_21 6 (dk_at dksX0_derivationsOf_7 16 rfl rfl)
theorem dX0_derivationsOf_186 : decode cX0_derivationsOf 186 = .ok (.imul, 1) := dk_104 (dk_at dksX0_derivationsOf_7 18 rfl rfl)
theorem dX0_derivationsOf_187 : decode cX0_derivationsOf 187 = .ok (.iload 8, 2) := dk_21 8 (dk_at dksX0_derivationsOf_7 19 rfl rfl)
theorem dX0_derivationsOf_189 : decode cX0_derivationsOf 189 = .ok (.iadd, 1) := dk_96 (dk_at dksX0_derivationsOf_7 21 rfl rfl)
theorem dX0_derivationsOf_190 : decode cX0_derivationsOf 190 = .ok (.iaload, 1) := dk_46 (dk_at dksX0_derivationsOf_7 22 rfl rfl)
theorem dX0_derivationsOf_191 : decode cX0_derivationsOf 191 = .ok (.aload_n 1, 1) := dk_43 (dk_at dksX0_derivationsOf_7 23 rfl rfl)
theorem dX0_derivationsOf_192 : decode cX0_derivationsOf 192 = .ok (.getfield 256, 3) := dk_180 1 0 (dk_at dksX0_derivationsOf_8 0 rfl rfl)
theorem dX0_derivationsOf_195 : decode cX0_derivationsOf 195 = .ok (.iload 5, 2) := dk_21 5 (dk_at dksX0_derivationsOf_8 3 rfl rfl)
theorem dX0_derivationsOf_197 : decode cX0_derivationsOf 197 = .ok (.aaload, 1) := dk_50 (dk_at dksX0_derivationsOf_8 5 rfl rfl)
theorem dX0_derivationsOf_198 : decode cX0_derivationsOf 198 = .ok (.iload 8, 2) := dk_21 8 (dk_at dksX0_derivationsOf_8 6 rfl rfl)
theorem dX0_derivationsOf_200 : decode cX0_derivationsOf 200 = .ok (.aaload, 1) := dk_50 (dk_at dksX0_derivationsOf_8 8 rfl rfl)
theorem dX0_derivationsOf_201 : decode cX0_derivationsOf 201 = .ok (.iload 7, 2) := dk_21 7 (dk_at dksX0_derivationsOf_8 9 rfl rfl)
theorem dX0_derivationsOf_203 : decode cX0_derivationsOf 203 = .ok (.iaload, 1) := dk_46 (dk_at dksX0_derivationsOf_8 11 rfl rfl)
theorem dX0_derivationsOf_204 : decode cX0_derivationsOf 204 = .ok (.isub, 1) := dk_100 (dk_at dksX0_derivationsOf_8 12 rfl rfl)
theorem dX0_derivationsOf_205 : decode cX0_derivationsOf 205 = .ok (.invokevirtual 282, 3) := dk_182 1 26 (dk_at dksX0_derivationsOf_8 13 rfl rfl)
theorem dX0_derivationsOf_208 : decode cX0_derivationsOf 208 = .ok (.iastore, 1) := dk_79 (dk_at dksX0_derivationsOf_8 16 rfl rfl)
theorem dX0_derivationsOf_209 : decode cX0_derivationsOf 209 = .ok (.iinc 8 1, 3) := dk_132 8 1 (dk_at dksX0_derivationsOf_8 17 rfl rfl)
theorem dX0_derivationsOf_212 : decode cX0_derivationsOf 212 = .ok (.goto (-153), 3) := dk_167 255 103 (dk_at dksX0_derivationsOf_8 20 rfl rfl)
theorem dX0_derivationsOf_215 : decode cX0_derivationsOf 215 = .ok (.iinc 4 1, 3) := dk_132 4 1 (dk_at dksX0_derivationsOf_9 0 rfl rfl)
theorem dX0_derivationsOf_218 : decode cX0_derivationsOf 218 = .ok (.iinc 7 1, 3) := dk_132 7 1 (dk_at dksX0_derivationsOf_9 3 rfl rfl)
theorem dX0_derivationsOf_221 : decode cX0_derivationsOf 221 = .ok (.goto (-171), 3) := dk_167 255 85 (dk_at dksX0_derivationsOf_9 6 rfl rfl)
theorem dX0_derivationsOf_224 : decode cX0_derivationsOf 224 = .ok (.iinc 6 1, 3) := dk_132 6 1 (dk_at dksX0_derivationsOf_9 9 rfl rfl)
theorem dX0_derivationsOf_227 : decode cX0_derivationsOf 227 = .ok (.goto (-186), 3) := dk_167 255 70 (dk_at dksX0_derivationsOf_9 12 rfl rfl)
theorem dX0_derivationsOf_230 : decode cX0_derivationsOf 230 = .ok (.iinc 5 1, 3) := dk_132 5 1 (dk_at dksX0_derivationsOf_9 15 rfl rfl)
theorem dX0_derivationsOf_233 : decode cX0_derivationsOf 233 = .ok (.goto (-204), 3) := dk_167 255 52 (dk_at dksX0_derivationsOf_9 18 rfl rfl)
theorem dX0_derivationsOf_236 : decode cX0_derivationsOf 236 = .ok (.iload_n 2, 1) := dk_28 (dk_at dksX0_derivationsOf_9 21 rfl rfl)
theorem dX0_derivationsOf_237 : decode cX0_derivationsOf 237 = .ok (.iload_n 2, 1) := dk_28 (dk_at dksX0_derivationsOf_9 22 rfl rfl)
theorem dX0_derivationsOf_238 : decode cX0_derivationsOf 238 = .ok (.imul, 1) := dk_104 (dk_at dksX0_derivationsOf_9 23 rfl rfl)
theorem dX0_derivationsOf_239 : decode cX0_derivationsOf 239 = .ok (.aload_n 1, 1) := dk_43 (dk_at dksX0_derivationsOf_10 0 rfl rfl)
theorem dX0_derivationsOf_240 : decode cX0_derivationsOf 240 = .ok (.aload_n 0, 1) := dk_42 (dk_at dksX0_derivationsOf_10 1 rfl rfl)
theorem dX0_derivationsOf_241 : decode cX0_derivationsOf 241 = .ok (.getfield 93, 3) := dk_180 0 93 (dk_at dksX0_derivationsOf_10 2 rfl rfl)
theorem dX0_derivationsOf_244 : decode cX0_derivationsOf 244 = .ok (.iload_n 3, 1) := dk_29 (dk_at dksX0_derivationsOf_10 5 rfl rfl)
theorem dX0_derivationsOf_245 : decode cX0_derivationsOf 245 = .ok (.iload_n 2, 1) := dk_28 (dk_at dksX0_derivationsOf_10 6 rfl rfl)
theorem dX0_derivationsOf_246 : decode cX0_derivationsOf 246 = .ok (.iload_n 2, 1) := dk_28 (dk_at dksX0_derivationsOf_10 7 rfl rfl)
theorem dX0_derivationsOf_247 : decode cX0_derivationsOf 247 = .ok (.imul, 1) := dk_104 (dk_at dksX0_derivationsOf_10 8 rfl rfl)
theorem dX0_derivationsOf_248 : decode cX0_derivationsOf 248 = .ok (.invokevirtual 355, 3) := dk_182 1 99 (dk_at dksX0_derivationsOf_10 9 rfl rfl)
theorem dX0_derivationsOf_251 : decode cX0_derivationsOf 251 = .ok (.isub, 1) := dk_100 (dk_at dksX0_derivationsOf_10 12 rfl rfl)
theorem dX0_derivationsOf_252 : decode cX0_derivationsOf 252 = .ok (.ireturn, 1) := dk_172 (dk_at dksX0_derivationsOf_10 13 rfl rfl)
abbrev cX0_form : ByteArray := prog_1_method_74_code
def dkwX0_form_0 : List UInt8 := [42, 42, 42, 180, 0, 30, 182, 1, 170, 182, 0, 235, 172]
abbrev dktX0_form_0 : List UInt8 := dkwX0_form_0 ++ []
theorem dksX0_form_0 : cX0_form.data.toList.drop 0 = dktX0_form_0 := by decide +kernel
theorem dX0_form_0 : decode cX0_form 0 = .ok (.aload_n 0, 1) := dk_42 (dk_at dksX0_form_0 0 rfl rfl)
theorem dX0_form_1 : decode cX0_form 1 = .ok (.aload_n 0, 1) := dk_42 (dk_at dksX0_form_0 1 rfl rfl)
theorem dX0_form_2 : decode cX0_form 2 = .ok (.aload_n 0, 1) := dk_42 (dk_at dksX0_form_0 2 rfl rfl)
theorem dX0_form_3 : decode cX0_form 3 = .ok (.getfield 30, 3) := dk_180 0 30 (dk_at dksX0_form_0 3 rfl rfl)
theorem dX0_form_6 : decode cX0_form 6 = .ok (.invokevirtual 426, 3) := dk_182 1 170 (dk_at dksX0_form_0 6 rfl rfl)
theorem dX0_form_9 : decode cX0_form 9 = .ok (.invokevirtual 235, 3) := dk_182 0 235 (dk_at dksX0_form_0 9 rfl rfl)
theorem dX0_form_12 : decode cX0_form 12 = .ok (.ireturn, 1) := dk_172 (dk_at dksX0_form_0 12 rfl rfl)
abbrev cX0_formOf : ByteArray := prog_1_method_73_code
def dkwX0_formOf_5 : List UInt8 := [180, 0, 93, 28, 28, 182, 1, 99, 172]
abbrev dktX0_formOf_5 : List UInt8 := dkwX0_formOf_5 ++ []
def dkwX0_formOf_4 : List UInt8 := [50, 21, 4, 43, 21, 5, 182, 1, 26, 79, 132, 4, 1, 167, 255, 168, 132, 3, 1, 167, 255, 154, 43, 42]
abbrev dktX0_formOf_4 : List UInt8 := dkwX0_formOf_4 ++ dktX0_formOf_5
def dkwX0_formOf_3 : List UInt8 := [21, 7, 46, 104, 96, 54, 5, 132, 7, 1, 167, 255, 216, 132, 6, 1, 167, 255, 201, 42, 180, 0, 93, 29]
abbrev dktX0_formOf_3 : List UInt8 := dkwX0_formOf_3 ++ dktX0_formOf_4
def dkwX0_formOf_2 : List UInt8 := [21, 5, 43, 180, 1, 0, 29, 50, 21, 7, 50, 21, 6, 46, 43, 180, 1, 0, 21, 4, 50, 21, 6, 50]
abbrev dktX0_formOf_2 : List UInt8 := dkwX0_formOf_2 ++ dktX0_formOf_3
def dkwX0_formOf_1 : List UInt8 := [162, 0, 88, 3, 54, 5, 3, 54, 6, 21, 6, 28, 162, 0, 55, 3, 54, 7, 21, 7, 28, 162, 0, 40]
abbrev dktX0_formOf_1 : List UInt8 := dkwX0_formOf_1 ++ dktX0_formOf_2
def dkwX0_formOf_0 : List UInt8 := [43, 180, 0, 196, 61, 42, 28, 28, 182, 1, 96, 3, 62, 29, 28, 162, 0, 103, 3, 54, 4, 21, 4, 28]
abbrev dktX0_formOf_0 : List UInt8 := dkwX0_formOf_0 ++ dktX0_formOf_1
theorem dksX0_formOf_0 : cX0_formOf.data.toList.drop 0 = dktX0_formOf_0 := by decide +kernel
theorem dksX0_formOf_1 : cX0_formOf.data.toList.drop 24 = dktX0_formOf_1 := dk_seg dksX0_formOf_0 24 rfl rfl
theorem dksX0_formOf_2 : cX0_formOf.data.toList.drop 48 = dktX0_formOf_2 := dk_seg dksX0_formOf_1 24 rfl rfl
theorem dksX0_formOf_3 : cX0_formOf.data.toList.drop 72 = dktX0_formOf_3 := dk_seg dksX0_formOf_2 24 rfl rfl
theorem dksX0_formOf_4 : cX0_formOf.data.toList.drop 96 = dktX0_formOf_4 := dk_seg dksX0_formOf_3 24 rfl rfl
theorem dksX0_formOf_5 : cX0_formOf.data.toList.drop 120 = dktX0_formOf_5 := dk_seg dksX0_formOf_4 24 rfl rfl
theorem dX0_formOf_0 : decode cX0_formOf 0 = .ok (.aload_n 1, 1) := dk_43 (dk_at dksX0_formOf_0 0 rfl rfl)
theorem dX0_formOf_1 : decode cX0_formOf 1 = .ok (.getfield 196, 3) := dk_180 0 196 (dk_at dksX0_formOf_0 1 rfl rfl)
theorem dX0_formOf_4 : decode cX0_formOf 4 = .ok (.istore_n 2, 1) := dk_61 (dk_at dksX0_formOf_0 4 rfl rfl)
theorem dX0_formOf_5 : decode cX0_formOf 5 = .ok (.aload_n 0, 1) := dk_42 (dk_at dksX0_formOf_0 5 rfl rfl)
theorem dX0_formOf_6 : decode cX0_formOf 6 = .ok (.iload_n 2, 1) := dk_28 (dk_at dksX0_formOf_0 6 rfl rfl)
theorem dX0_formOf_7 : decode cX0_formOf 7 = .ok (.iload_n 2, 1) := dk_28 (dk_at dksX0_formOf_0 7 rfl rfl)
theorem dX0_formOf_8 : decode cX0_formOf 8 = .ok (.invokevirtual 352, 3) := dk_182 1 96 (dk_at dksX0_formOf_0 8 rfl rfl)
theorem dX0_formOf_11 : decode cX0_formOf 11 = .ok (.iconst 0, 1) := dk_3 (dk_at dksX0_formOf_0 11 rfl rfl)
theorem dX0_formOf_12 : decode cX0_formOf 12 = .ok (.istore_n 3, 1) := dk_62 (dk_at dksX0_formOf_0 12 rfl rfl)
theorem dX0_formOf_13 : decode cX0_formOf 13 = .ok (.iload_n 3, 1) := dk_29 (dk_at dksX0_formOf_0 13 rfl rfl)
theorem dX0_formOf_14 : decode cX0_formOf 14 = .ok (.iload_n 2, 1) := dk_28 (dk_at dksX0_formOf_0 14 rfl rfl)
theorem dX0_formOf_15 : decode cX0_formOf 15 = .ok (.if_icmp .ge 103, 3) := dk_162 0 103 (dk_at dksX0_formOf_0 15 rfl rfl)
theorem dX0_formOf_18 : decode cX0_formOf 18 = .ok (.iconst 0, 1) := dk_3 (dk_at dksX0_formOf_0 18 rfl rfl)
theorem dX0_formOf_19 : decode cX0_formOf 19 = .ok (.istore 4, 2) := dk_54 4 (dk_at dksX0_formOf_0 19 rfl rfl)
theorem dX0_formOf_21 : decode cX0_formOf 21 = .ok (.iload 4, 2) := dk_21 4 (dk_at dksX0_formOf_0 21 rfl rfl)
theorem dX0_formOf_23 : decode cX0_formOf 23 = .ok (.iload_n 2, 1) := dk_28 (dk_at dksX0_formOf_0 23 rfl rfl)
theorem dX0_formOf_24 : decode cX0_formOf 24 = .ok (.if_icmp .ge 88, 3) := dk_162 0 88 (dk_at dksX0_formOf_1 0 rfl rfl)
theorem dX0_formOf_27 : decode cX0_formOf 27 = .ok (.iconst 0, 1) := dk_3 (dk_at dksX0_formOf_1 3 rfl rfl)
theorem dX0_formOf_28 : decode cX0_formOf 28 = .ok (.istore 5, 2) := dk_54 5 (dk_at dksX0_formOf_1 4 rfl rfl)
theorem dX0_formOf_30 : decode cX0_formOf 30 = .ok (.iconst 0, 1) := dk_3 (dk_at dksX0_formOf_1 6 rfl rfl)
theorem dX0_formOf_31 : decode cX0_formOf 31 = .ok (.istore 6, 2) := dk_54 6 (dk_at dksX0_formOf_1 7 rfl rfl)
theorem dX0_formOf_33 : decode cX0_formOf 33 = .ok (.iload 6, 2) := dk_21 6 (dk_at dksX0_formOf_1 9 rfl rfl)
theorem dX0_formOf_35 : decode cX0_formOf 35 = .ok (.iload_n 2, 1) := dk_28 (dk_at dksX0_formOf_1 11 rfl rfl)
theorem dX0_formOf_36 : decode cX0_formOf 36 = .ok (.if_icmp .ge 55, 3) := dk_162 0 55 (dk_at dksX0_formOf_1 12 rfl rfl)
theorem dX0_formOf_39 : decode cX0_formOf 39 = .ok (.iconst 0, 1) := dk_3 (dk_at dksX0_formOf_1 15 rfl rfl)
theorem dX0_formOf_40 : decode cX0_formOf 40 = .ok (.istore 7, 2) := dk_54 7 (dk_at dksX0_formOf_1 16 rfl rfl)
theorem dX0_formOf_42 : decode cX0_formOf 42 = .ok (.iload 7, 2) := dk_21 7 (dk_at dksX0_formOf_1 18 rfl rfl)
theorem dX0_formOf_44 : decode cX0_formOf 44 = .ok (.iload_n 2, 1) := dk_28 (dk_at dksX0_formOf_1 20 rfl rfl)
theorem dX0_formOf_45 : decode cX0_formOf 45 = .ok (.if_icmp .ge 40, 3) := dk_162 0 40 (dk_at dksX0_formOf_1 21 rfl rfl)
theorem dX0_formOf_48 : decode cX0_formOf 48 = .ok (.iload 5, 2) := dk_21 5 (dk_at dksX0_formOf_2 0 rfl rfl)
theorem dX0_formOf_50 : decode cX0_formOf 50 = .ok (.aload_n 1, 1) := dk_43 (dk_at dksX0_formOf_2 2 rfl rfl)
theorem dX0_formOf_51 : decode cX0_formOf 51 = .ok (.getfield 256, 3) := dk_180 1 0 (dk_at dksX0_formOf_2 3 rfl rfl)
theorem dX0_formOf_54 : decode cX0_formOf 54 = .ok (.iload_n 3, 1) := dk_29 (dk_at dksX0_formOf_2 6 rfl rfl)
theorem dX0_formOf_55 : decode cX0_formOf 55 = .ok (.aaload, 1) := dk_50 (dk_at dksX0_formOf_2 7 rfl rfl)
theorem dX0_formOf_56 : decode cX0_formOf 56 = .ok (.iload 7, 2) := dk_21 7 (dk_at dksX0_formOf_2 8 rfl rfl)
theorem dX0_formOf_58 : decode cX0_formOf 58 = .ok (.aaload, 1) := dk_50 (dk_at dksX0_formOf_2 10 rfl rfl)
theorem dX0_formOf_59 : decode cX0_formOf 59 = .ok (.iload 6, 2) := dk_21 6 (dk_at dksX0_formOf_2 11 rfl rfl)
theorem dX0_formOf_61 : decode cX0_formOf 61 = .ok (.iaload, 1) := dk_46 (dk_at dksX0_formOf_2 13 rfl rfl)
theorem dX0_formOf_62 : decode cX0_formOf 62 = .ok (.aload_n 1, 1) := dk_43 (dk_at dksX0_formOf_2 14 rfl rfl)
theorem dX0_formOf_63 : decode cX0_formOf 63 = .ok (.getfield 256, 3) := dk_180 1 0 (dk_at dksX0_formOf_2 15 rfl rfl)
theorem dX0_formOf_66 : decode cX0_formOf 66 = .ok (.iload 4, 2) := dk_21 4 (dk_at dksX0_formOf_2 18 rfl rfl)
theorem dX0_formOf_68 : decode cX0_formOf 68 = .ok (.aaload, 1) := dk_50 (dk_at dksX0_formOf_2 20 rfl rfl)
theorem dX0_formOf_69 : decode cX0_formOf 69 = .ok (.iload 6, 2) := dk_21 6 (dk_at dksX0_formOf_2 21 rfl rfl)
theorem dX0_formOf_71 : decode cX0_formOf 71 = .ok (.aaload, 1) := dk_50 (dk_at dksX0_formOf_2 23 rfl rfl)
theorem dX0_formOf_72 : decode cX0_formOf 72 = .ok (.iload 7, 2) := dk_21 7 (dk_at dksX0_formOf_3 0 rfl rfl)
theorem dX0_formOf_74 : decode cX0_formOf 74 = .ok (.iaload, 1) := dk_46 (dk_at dksX0_formOf_3 2 rfl rfl)
theorem dX0_formOf_75 : decode cX0_formOf 75 = .ok (.imul, 1) := dk_104 (dk_at dksX0_formOf_3 3 rfl rfl)
theorem dX0_formOf_76 : decode cX0_formOf 76 = .ok (.iadd, 1) := dk_96 (dk_at dksX0_formOf_3 4 rfl rfl)
theorem dX0_formOf_77 : decode cX0_formOf 77 = .ok (.istore 5, 2) := dk_54 5 (dk_at dksX0_formOf_3 5 rfl rfl)
theorem dX0_formOf_79 : decode cX0_formOf 79 = .ok (.iinc 7 1, 3) := dk_132 7 1 (dk_at dksX0_formOf_3 7 rfl rfl)
theorem dX0_formOf_82 : decode cX0_formOf 82 = .ok (.goto (-40), 3) := dk_167 255 216 (dk_at dksX0_formOf_3 10 rfl rfl)
theorem dX0_formOf_85 : decode cX0_formOf 85 = .ok (.iinc 6 1, 3) := dk_132 6 1 (dk_at dksX0_formOf_3 13 rfl rfl)
theorem dX0_formOf_88 : decode cX0_formOf 88 = .ok (.goto (-55), 3) := dk_167 255 201 (dk_at dksX0_formOf_3 16 rfl rfl)
theorem dX0_formOf_91 : decode cX0_formOf 91 = .ok (.aload_n 0, 1) := dk_42 (dk_at dksX0_formOf_3 19 rfl rfl)
theorem dX0_formOf_92 : decode cX0_formOf 92 = .ok (.getfield 93, 3) := dk_180 0 93 (dk_at dksX0_formOf_3 20 rfl rfl)
theorem dX0_formOf_95 : decode cX0_formOf 95 = .ok (.iload_n 3, 1) := dk_29 (dk_at dksX0_formOf_3 23 rfl rfl)
theorem dX0_formOf_96 : decode cX0_formOf 96 = .ok (.aaload, 1) := dk_50 (dk_at dksX0_formOf_4 0 rfl rfl)
theorem dX0_formOf_97 : decode cX0_formOf 97 = .ok (.iload 4, 2) := dk_21 4 (dk_at dksX0_formOf_4 1 rfl rfl)
theorem dX0_formOf_99 : decode cX0_formOf 99 = .ok (.aload_n 1, 1) := dk_43 (dk_at dksX0_formOf_4 3 rfl rfl)
theorem dX0_formOf_100 : decode cX0_formOf 100 = .ok (.iload 5, 2) := dk_21 5 (dk_at dksX0_formOf_4 4 rfl rfl)
theorem dX0_formOf_102 : decode cX0_formOf 102 = .ok (.invokevirtual 282, 3) := dk_182 1 26 (dk_at dksX0_formOf_4 6 rfl rfl)
theorem dX0_formOf_105 : decode cX0_formOf 105 = .ok (.iastore, 1) := dk_79 (dk_at dksX0_formOf_4 9 rfl rfl)
theorem dX0_formOf_106 : decode cX0_formOf 106 = .ok (.iinc 4 1, 3) := dk_132 4 1 (dk_at dksX0_formOf_4 10 rfl rfl)
theorem dX0_formOf_109 : decode cX0_formOf 109 = .ok (.goto (-88), 3) := dk_167 255 168 (dk_at dksX0_formOf_4 13 rfl rfl)
theorem dX0_formOf_112 : decode cX0_formOf 112 = .ok (.iinc 3 1, 3) := dk_132 3 1 (dk_at dksX0_formOf_4 16 rfl rfl)
theorem dX0_formOf_115 : decode cX0_formOf 115 = .ok (.goto (-102), 3) := dk_167 255 154 (dk_at dksX0_formOf_4 19 rfl rfl)
theorem dX0_formOf_118 : decode cX0_formOf 118 = .ok (.aload_n 1, 1) := dk_43 (dk_at dksX0_formOf_4 22 rfl rfl)
theorem dX0_formOf_119 : decode cX0_formOf 119 = .ok (.aload_n 0, 1) := dk_42 (dk_at dksX0_formOf_4 23 rfl rfl)
theorem dX0_formOf_120 : decode cX0_formOf 120 = .ok (.getfield 93, 3) := dk_180 0 93 (dk_at dksX0_formOf_5 0 rfl rfl)
theorem dX0_formOf_123 : decode cX0_formOf 123 = .ok (.iload_n 2, 1) := dk_28 (dk_at dksX0_formOf_5 3 rfl rfl)
theorem dX0_formOf_124 : decode cX0_formOf 124 = .ok (.iload_n 2, 1) := dk_28 (dk_at dksX0_formOf_5 4 rfl rfl)
theorem dX0_formOf_125 : decode cX0_formOf 125 = .ok (.invokevirtual 355, 3) := dk_182 1 99 (dk_at dksX0_formOf_5 5 rfl rfl)
theorem dX0_formOf_128 : decode cX0_formOf 128 = .ok (.ireturn, 1) := dk_172 (dk_at dksX0_formOf_5 8 rfl rfl)
abbrev cX0_classes : ByteArray := prog_1_method_79_code
def dkwX0_classes_2 : List UInt8 := [167, 0, 9, 42, 16, 9, 182, 0, 171, 172]
abbrev dktX0_classes_2 : List UInt8 := dkwX0_classes_2 ++ []
def dkwX0_classes_1 : List UInt8 := [42, 180, 0, 30, 182, 1, 33, 153, 0, 19, 42, 42, 42, 180, 0, 30, 27, 182, 1, 183, 182, 0, 235]
abbrev dktX0_classes_1 : List UInt8 := dkwX0_classes_1 ++ dktX0_classes_2
def dkwX0_classes_0 : List UInt8 := [27, 133, 9, 42, 180, 0, 30, 180, 0, 196, 133, 184, 1, 64, 154, 0, 9, 42, 8, 182, 0, 171, 172, 42]
abbrev dktX0_classes_0 : List UInt8 := dkwX0_classes_0 ++ dktX0_classes_1
theorem dksX0_classes_0 : cX0_classes.data.toList.drop 0 = dktX0_classes_0 := by decide +kernel
theorem dksX0_classes_1 : cX0_classes.data.toList.drop 24 = dktX0_classes_1 := dk_seg dksX0_classes_0 24 rfl rfl
theorem dksX0_classes_2 : cX0_classes.data.toList.drop 47 = dktX0_classes_2 := dk_seg dksX0_classes_1 23 rfl rfl
theorem dX0_classes_0 : decode cX0_classes 0 = .ok (.iload_n 1, 1) := dk_27 (dk_at dksX0_classes_0 0 rfl rfl)
theorem dX0_classes_1 : decode cX0_classes 1 = .ok (.i2l, 1) := dk_133 (dk_at dksX0_classes_0 1 rfl rfl)
theorem dX0_classes_2 : decode cX0_classes 2 = .ok (.lconst 0, 1) := dk_9 (dk_at dksX0_classes_0 2 rfl rfl)
theorem dX0_classes_3 : decode cX0_classes 3 = .ok (.aload_n 0, 1) := dk_42 (dk_at dksX0_classes_0 3 rfl rfl)
theorem dX0_classes_4 : decode cX0_classes 4 = .ok (.getfield 30, 3) := dk_180 0 30 (dk_at dksX0_classes_0 4 rfl rfl)
theorem dX0_classes_7 : decode cX0_classes 7 = .ok (.getfield 196, 3) := dk_180 0 196 (dk_at dksX0_classes_0 7 rfl rfl)
theorem dX0_classes_10 : decode cX0_classes 10 = .ok (.i2l, 1) := dk_133 (dk_at dksX0_classes_0 10 rfl rfl)
theorem dX0_classes_11 : decode cX0_classes 11 = .ok (.invokestatic 320, 3) := dk_184 1 64 (dk_at dksX0_classes_0 11 rfl rfl)
theorem dX0_classes_14 : decode cX0_classes 14 = .ok (.ifCond .ne 9, 3) := dk_154 0 9 (dk_at dksX0_classes_0 14 rfl rfl)
theorem dX0_classes_17 : decode cX0_classes 17 = .ok (.aload_n 0, 1) := dk_42 (dk_at dksX0_classes_0 17 rfl rfl)
theorem dX0_classes_18 : decode cX0_classes 18 = .ok (.iconst 5, 1) := dk_8 (dk_at dksX0_classes_0 18 rfl rfl)
theorem dX0_classes_19 : decode cX0_classes 19 = .ok (.invokevirtual 171, 3) := dk_182 0 171 (dk_at dksX0_classes_0 19 rfl rfl)
theorem dX0_classes_22 : decode cX0_classes 22 = .ok (.ireturn, 1) := dk_172 (dk_at dksX0_classes_0 22 rfl rfl)
theorem dX0_classes_23 : decode cX0_classes 23 = .ok (.aload_n 0, 1) := dk_42 (dk_at dksX0_classes_0 23 rfl rfl)
theorem dX0_classes_24 : decode cX0_classes 24 = .ok (.aload_n 0, 1) := dk_42 (dk_at dksX0_classes_1 0 rfl rfl)
theorem dX0_classes_25 : decode cX0_classes 25 = .ok (.getfield 30, 3) := dk_180 0 30 (dk_at dksX0_classes_1 1 rfl rfl)
theorem dX0_classes_28 : decode cX0_classes 28 = .ok (.invokevirtual 289, 3) := dk_182 1 33 (dk_at dksX0_classes_1 4 rfl rfl)
theorem dX0_classes_31 : decode cX0_classes 31 = .ok (.ifCond .eq 19, 3) := dk_153 0 19 (dk_at dksX0_classes_1 7 rfl rfl)
theorem dX0_classes_34 : decode cX0_classes 34 = .ok (.aload_n 0, 1) := dk_42 (dk_at dksX0_classes_1 10 rfl rfl)
theorem dX0_classes_35 : decode cX0_classes 35 = .ok (.aload_n 0, 1) := dk_42 (dk_at dksX0_classes_1 11 rfl rfl)
theorem dX0_classes_36 : decode cX0_classes 36 = .ok (.aload_n 0, 1) := dk_42 (dk_at dksX0_classes_1 12 rfl rfl)
theorem dX0_classes_37 : decode cX0_classes 37 = .ok (.getfield 30, 3) := dk_180 0 30 (dk_at dksX0_classes_1 13 rfl rfl)
theorem dX0_classes_40 : decode cX0_classes 40 = .ok (.iload_n 1, 1) := dk_27 (dk_at dksX0_classes_1 16 rfl rfl)
theorem dX0_classes_41 : decode cX0_classes 41 = .ok (.invokevirtual 439, 3) := dk_182 1 183 (dk_at dksX0_classes_1 17 rfl rfl)
theorem dX0_classes_44 : decode cX0_classes 44 = .ok (.invokevirtual 235, 3) := dk_182 0 235 (dk_at dksX0_classes_1 20 rfl rfl)
theorem dX0_classes_47 : decode cX0_classes 47 = .ok (.goto 9, 3) := dk_167 0 9 (dk_at dksX0_classes_2 0 rfl rfl)
theorem dX0_classes_50 : decode cX0_classes 50 = .ok (.aload_n 0, 1) := dk_42 (dk_at dksX0_classes_2 3 rfl rfl)
theorem dX0_classes_51 : decode cX0_classes 51 = .ok (.bipush 9, 2) := dk_16 9 (dk_at dksX0_classes_2 4 rfl rfl)
theorem dX0_classes_53 : decode cX0_classes 53 = .ok (.invokevirtual 171, 3) := dk_182 0 171 (dk_at dksX0_classes_2 6 rfl rfl)
theorem dX0_classes_56 : decode cX0_classes 56 = .ok (.ireturn, 1) := dk_172 (dk_at dksX0_classes_2 9 rfl rfl)
abbrev cX0_classesOf : ByteArray := prog_1_method_78_code
def dkwX0_classesOf_2 : List UInt8 := [42, 43, 28, 4, 100, 182, 1, 180, 100, 172]
abbrev dktX0_classesOf_2 : List UInt8 := dkwX0_classesOf_2 ++ []
def dkwX0_classesOf_1 : List UInt8 := [160, 0, 7, 4, 167, 0, 4, 3, 96, 62, 132, 4, 1, 167, 255, 225, 29, 42, 43, 28, 182, 1, 180, 100]
abbrev dktX0_classesOf_1 : List UInt8 := dkwX0_classesOf_1 ++ dktX0_classesOf_2
def dkwX0_classesOf_0 : List UInt8 := [3, 62, 3, 54, 4, 21, 4, 4, 43, 180, 0, 196, 120, 162, 0, 26, 29, 21, 4, 184, 1, 138, 28]
abbrev dktX0_classesOf_0 : List UInt8 := dkwX0_classesOf_0 ++ dktX0_classesOf_1
theorem dksX0_classesOf_0 : cX0_classesOf.data.toList.drop 0 = dktX0_classesOf_0 := by decide +kernel
theorem dksX0_classesOf_1 : cX0_classesOf.data.toList.drop 23 = dktX0_classesOf_1 := dk_seg dksX0_classesOf_0 23 rfl rfl
theorem dksX0_classesOf_2 : cX0_classesOf.data.toList.drop 47 = dktX0_classesOf_2 := dk_seg dksX0_classesOf_1 24 rfl rfl
theorem dX0_classesOf_0 : decode cX0_classesOf 0 = .ok (.iconst 0, 1) := dk_3 (dk_at dksX0_classesOf_0 0 rfl rfl)
theorem dX0_classesOf_1 : decode cX0_classesOf 1 = .ok (.istore_n 3, 1) := dk_62 (dk_at dksX0_classesOf_0 1 rfl rfl)
theorem dX0_classesOf_2 : decode cX0_classesOf 2 = .ok (.iconst 0, 1) := dk_3 (dk_at dksX0_classesOf_0 2 rfl rfl)
theorem dX0_classesOf_3 : decode cX0_classesOf 3 = .ok (.istore 4, 2) := dk_54 4 (dk_at dksX0_classesOf_0 3 rfl rfl)
theorem dX0_classesOf_5 : decode cX0_classesOf 5 = .ok (.iload 4, 2) := dk_21 4 (dk_at dksX0_classesOf_0 5 rfl rfl)
theorem dX0_classesOf_7 : decode cX0_classesOf 7 = .ok (.iconst 1, 1) := dk_4 (dk_at dksX0_classesOf_0 7 rfl rfl)
theorem dX0_classesOf_8 : decode cX0_classesOf 8 = .ok (.aload_n 1, 1) := dk_43 (dk_at dksX0_classesOf_0 8 rfl rfl)
theorem dX0_classesOf_9 : decode cX0_classesOf 9 = .ok (.getfield 196, 3) := dk_180 0 196 (dk_at dksX0_classesOf_0 9 rfl rfl)
theorem dX0_classesOf_12 : decode cX0_classesOf 12 = .ok (.ishl, 1) := dk_120 (dk_at dksX0_classesOf_0 12 rfl rfl)
theorem dX0_classesOf_13 : decode cX0_classesOf 13 = .ok (.if_icmp .ge 26, 3) := dk_162 0 26 (dk_at dksX0_classesOf_0 13 rfl rfl)
theorem dX0_classesOf_16 : decode cX0_classesOf 16 = .ok (.iload_n 3, 1) := dk_29 (dk_at dksX0_classesOf_0 16 rfl rfl)
theorem dX0_classesOf_17 : decode cX0_classesOf 17 = .ok (.iload 4, 2) := dk_21 4 (dk_at dksX0_classesOf_0 17 rfl rfl)
theorem dX0_classesOf_19 : decode cX0_classesOf 19 = .ok (.invokestatic 394, 3) := dk_184 1 138 (dk_at dksX0_classesOf_0 19 rfl rfl)
theorem dX0_classesOf_22 : decode cX0_classesOf 22 = .ok (.iload_n 2, 1) := dk_28 (dk_at dksX0_classesOf_0 22 rfl rfl)
theorem dX0_classesOf_23 : decode cX0_classesOf 23 = .ok (.if_icmp .ne 7, 3) := dk_160 0 7 (dk_at dksX0_classesOf_1 0 rfl rfl)
theorem dX0_classesOf_26 : decode cX0_classesOf 26 = .ok (.iconst 1, 1) := dk_4 (dk_at dksX0_classesOf_1 3 rfl rfl)
theorem dX0_classesOf_27 : decode cX0_classesOf 27 = .ok (.goto 4, 3) := dk_167 0 4 (dk_at dksX0_classesOf_1 4 rfl rfl)
theorem dX0_classesOf_30 : decode cX0_classesOf 30 = .ok (.iconst 0, 1) := dk_3 (dk_at dksX0_classesOf_1 7 rfl rfl)
theorem dX0_classesOf_31 : decode cX0_classesOf 31 = .ok (.iadd, 1) := dk_96 (dk_at dksX0_classesOf_1 8 rfl rfl)
theorem dX0_classesOf_32 : decode cX0_classesOf 32 = .ok (.istore_n 3, 1) := dk_62 (dk_at dksX0_classesOf_1 9 rfl rfl)
theorem dX0_classesOf_33 : decode cX0_classesOf 33 = .ok (.iinc 4 1, 3) := dk_132 4 1 (dk_at dksX0_classesOf_1 10 rfl rfl)
theorem dX0_classesOf_36 : decode cX0_classesOf 36 = .ok (.goto (-31), 3) := dk_167 255 225 (dk_at dksX0_classesOf_1 13 rfl rfl)
theorem dX0_classesOf_39 : decode cX0_classesOf 39 = .ok (.iload_n 3, 1) := dk_29 (dk_at dksX0_classesOf_1 16 rfl rfl)
theorem dX0_classesOf_40 : decode cX0_classesOf 40 = .ok (.aload_n 0, 1) := dk_42 (dk_at dksX0_classesOf_1 17 rfl rfl)
theorem dX0_classesOf_41 : decode cX0_classesOf 41 = .ok (.aload_n 1, 1) := dk_43 (dk_at dksX0_classesOf_1 18 rfl rfl)
theorem dX0_classesOf_42 : decode cX0_classesOf 42 = .ok (.iload_n 2, 1) := dk_28 (dk_at dksX0_classesOf_1 19 rfl rfl)
theorem dX0_classesOf_43 : decode cX0_classesOf 43 = .ok (.invokevirtual 436, 3) := dk_182 1 180 (dk_at dksX0_classesOf_1 20 rfl rfl)
theorem dX0_classesOf_46 : decode cX0_classesOf 46 = .ok (.isub, 1) := dk_100 (dk_at dksX0_classesOf_1 23 rfl rfl)
theorem dX0_classesOf_47 : decode cX0_classesOf 47 = .ok (.aload_n 0, 1) := dk_42 (dk_at dksX0_classesOf_2 0 rfl rfl)
theorem dX0_classesOf_48 : decode cX0_classesOf 48 = .ok (.aload_n 1, 1) := dk_43 (dk_at dksX0_classesOf_2 1 rfl rfl)
theorem dX0_classesOf_49 : decode cX0_classesOf 49 = .ok (.iload_n 2, 1) := dk_28 (dk_at dksX0_classesOf_2 2 rfl rfl)
theorem dX0_classesOf_50 : decode cX0_classesOf 50 = .ok (.iconst 1, 1) := dk_4 (dk_at dksX0_classesOf_2 3 rfl rfl)
theorem dX0_classesOf_51 : decode cX0_classesOf 51 = .ok (.isub, 1) := dk_100 (dk_at dksX0_classesOf_2 4 rfl rfl)
theorem dX0_classesOf_52 : decode cX0_classesOf 52 = .ok (.invokevirtual 436, 3) := dk_182 1 180 (dk_at dksX0_classesOf_2 5 rfl rfl)
theorem dX0_classesOf_55 : decode cX0_classesOf 55 = .ok (.isub, 1) := dk_100 (dk_at dksX0_classesOf_2 8 rfl rfl)
theorem dX0_classesOf_56 : decode cX0_classesOf 56 = .ok (.ireturn, 1) := dk_172 (dk_at dksX0_classesOf_2 9 rfl rfl)
abbrev cX0_rankOfD : ByteArray := prog_1_method_75_code
def dkwX0_rankOfD_4 : List UInt8 := [180, 0, 93, 29, 16, 16, 182, 1, 99, 172]
abbrev dktX0_rankOfD_4 : List UInt8 := dkwX0_rankOfD_4 ++ []
def dkwX0_rankOfD_3 : List UInt8 := [21, 4, 42, 180, 0, 93, 29, 50, 184, 1, 173, 132, 3, 1, 132, 4, 1, 167, 255, 187, 43, 42]
abbrev dktX0_rankOfD_3 : List UInt8 := dkwX0_rankOfD_3 ++ dktX0_rankOfD_4
def dkwX0_rankOfD_2 : List UInt8 := [21, 5, 16, 16, 162, 0, 19, 42, 180, 0, 93, 29, 50, 21, 5, 3, 79, 132, 5, 1, 167, 255, 236, 43]
abbrev dktX0_rankOfD_2 : List UInt8 := dkwX0_rankOfD_2 ++ dktX0_rankOfD_3
def dkwX0_rankOfD_1 : List UInt8 := [180, 0, 196, 120, 162, 0, 64, 21, 4, 184, 1, 138, 28, 4, 96, 159, 0, 6, 167, 0, 44, 3, 54, 5]
abbrev dktX0_rankOfD_1 : List UInt8 := dkwX0_rankOfD_1 ++ dktX0_rankOfD_2
def dkwX0_rankOfD_0 : List UInt8 := [28, 155, 0, 11, 28, 43, 180, 0, 196, 161, 0, 5, 3, 172, 3, 62, 3, 54, 4, 21, 4, 4, 43]
abbrev dktX0_rankOfD_0 : List UInt8 := dkwX0_rankOfD_0 ++ dktX0_rankOfD_1
theorem dksX0_rankOfD_0 : cX0_rankOfD.data.toList.drop 0 = dktX0_rankOfD_0 := by decide +kernel
theorem dksX0_rankOfD_1 : cX0_rankOfD.data.toList.drop 23 = dktX0_rankOfD_1 := dk_seg dksX0_rankOfD_0 23 rfl rfl
theorem dksX0_rankOfD_2 : cX0_rankOfD.data.toList.drop 47 = dktX0_rankOfD_2 := dk_seg dksX0_rankOfD_1 24 rfl rfl
theorem dksX0_rankOfD_3 : cX0_rankOfD.data.toList.drop 71 = dktX0_rankOfD_3 := dk_seg dksX0_rankOfD_2 24 rfl rfl
theorem dksX0_rankOfD_4 : cX0_rankOfD.data.toList.drop 93 = dktX0_rankOfD_4 := dk_seg dksX0_rankOfD_3 22 rfl rfl
theorem dX0_rankOfD_0 : decode cX0_rankOfD 0 = .ok (.iload_n 2, 1) := dk_28 (dk_at dksX0_rankOfD_0 0 rfl rfl)
theorem dX0_rankOfD_1 : decode cX0_rankOfD 1 = .ok (.ifCond .lt 11, 3) := dk_155 0 11 (dk_at dksX0_rankOfD_0 1 rfl rfl)
theorem dX0_rankOfD_4 : decode cX0_rankOfD 4 = .ok (.iload_n 2, 1) := dk_28 (dk_at dksX0_rankOfD_0 4 rfl rfl)
theorem dX0_rankOfD_5 : decode cX0_rankOfD 5 = .ok (.aload_n 1, 1) := dk_43 (dk_at dksX0_rankOfD_0 5 rfl rfl)
theorem dX0_rankOfD_6 : decode cX0_rankOfD 6 = .ok (.getfield 196, 3) := dk_180 0 196 (dk_at dksX0_rankOfD_0 6 rfl rfl)
theorem dX0_rankOfD_9 : decode cX0_rankOfD 9 = .ok (.if_icmp .lt 5, 3) := dk_161 0 5 (dk_at dksX0_rankOfD_0 9 rfl rfl)
theorem dX0_rankOfD_12 : decode cX0_rankOfD 12 = .ok (.iconst 0, 1) := dk_3 (dk_at dksX0_rankOfD_0 12 rfl rfl)
theorem dX0_rankOfD_13 : decode cX0_rankOfD 13 = .ok (.ireturn, 1) := dk_172 (dk_at dksX0_rankOfD_0 13 rfl rfl)
theorem dX0_rankOfD_14 : decode cX0_rankOfD 14 = .ok (.iconst 0, 1) := dk_3 (dk_at dksX0_rankOfD_0 14 rfl rfl)
theorem dX0_rankOfD_15 : decode cX0_rankOfD 15 = .ok (.istore_n 3, 1) := dk_62 (dk_at dksX0_rankOfD_0 15 rfl rfl)
theorem dX0_rankOfD_16 : decode cX0_rankOfD 16 = .ok (.iconst 0, 1) := dk_3 (dk_at dksX0_rankOfD_0 16 rfl rfl)
theorem dX0_rankOfD_17 : decode cX0_rankOfD 17 = .ok (.istore 4, 2) := dk_54 4 (dk_at dksX0_rankOfD_0 17 rfl rfl)
theorem dX0_rankOfD_19 : decode cX0_rankOfD 19 = .ok (.iload 4, 2) := dk_21 4 (dk_at dksX0_rankOfD_0 19 rfl rfl)
theorem dX0_rankOfD_21 : decode cX0_rankOfD 21 = .ok (.iconst 1, 1) := dk_4 (dk_at dksX0_rankOfD_0 21 rfl rfl)
theorem dX0_rankOfD_22 : decode cX0_rankOfD 22 = .ok (.aload_n 1, 1) := dk_43 (dk_at dksX0_rankOfD_0 22 rfl rfl)
theorem dX0_rankOfD_23 : decode cX0_rankOfD 23 = .ok (.getfield 196, 3) := dk_180 0 196 (dk_at dksX0_rankOfD_1 0 rfl rfl)
theorem dX0_rankOfD_26 : decode cX0_rankOfD 26 = .ok (.ishl, 1) := dk_120 (dk_at dksX0_rankOfD_1 3 rfl rfl)
theorem dX0_rankOfD_27 : decode cX0_rankOfD 27 = .ok (.if_icmp .ge 64, 3) := dk_162 0 64 (dk_at dksX0_rankOfD_1 4 rfl rfl)
theorem dX0_rankOfD_30 : decode cX0_rankOfD 30 = .ok (.iload 4, 2) := dk_21 4 (dk_at dksX0_rankOfD_1 7 rfl rfl)
theorem dX0_rankOfD_32 : decode cX0_rankOfD 32 = .ok (.invokestatic 394, 3) := dk_184 1 138 (dk_at dksX0_rankOfD_1 9 rfl rfl)
theorem dX0_rankOfD_35 : decode cX0_rankOfD 35 = .ok (.iload_n 2, 1) := dk_28 (dk_at dksX0_rankOfD_1 12 rfl rfl)
theorem dX0_rankOfD_36 : decode cX0_rankOfD 36 = .ok (.iconst 1, 1) := dk_4 (dk_at dksX0_rankOfD_1 13 rfl rfl)
theorem dX0_rankOfD_37 : decode cX0_rankOfD 37 = .ok (.iadd, 1) := dk_96 (dk_at dksX0_rankOfD_1 14 rfl rfl)
theorem dX0_rankOfD_38 : decode cX0_rankOfD 38 = .ok (.if_icmp .eq 6, 3) := dk_159 0 6 (dk_at dksX0_rankOfD_1 15 rfl rfl)
theorem dX0_rankOfD_41 : decode cX0_rankOfD 41 = .ok (.goto 44, 3) := dk_167 0 44 (dk_at dksX0_rankOfD_1 18 rfl rfl)
theorem dX0_rankOfD_44 : decode cX0_rankOfD 44 = .ok (.iconst 0, 1) := dk_3 (dk_at dksX0_rankOfD_1 21 rfl rfl)
theorem dX0_rankOfD_45 : decode cX0_rankOfD 45 = .ok (.istore 5, 2) := dk_54 5 (dk_at dksX0_rankOfD_1 22 rfl rfl)
theorem dX0_rankOfD_47 : decode cX0_rankOfD 47 = .ok (.iload 5, 2) := dk_21 5 (dk_at dksX0_rankOfD_2 0 rfl rfl)
theorem dX0_rankOfD_49 : decode cX0_rankOfD 49 = .ok (.bipush 16, 2) := dk_16 16 (dk_at dksX0_rankOfD_2 2 rfl rfl)
theorem dX0_rankOfD_51 : decode cX0_rankOfD 51 = .ok (.if_icmp .ge 19, 3) := dk_162 0 19 (dk_at dksX0_rankOfD_2 4 rfl rfl)
theorem dX0_rankOfD_54 : decode cX0_rankOfD 54 = .ok (.aload_n 0, 1) := dk_42 (dk_at dksX0_rankOfD_2 7 rfl rfl)
theorem dX0_rankOfD_55 : decode cX0_rankOfD 55 = .ok (.getfield 93, 3) := dk_180 0 93 (dk_at dksX0_rankOfD_2 8 rfl rfl)
theorem dX0_rankOfD_58 : decode cX0_rankOfD 58 = .ok (.iload_n 3, 1) := dk_29 (dk_at dksX0_rankOfD_2 11 rfl rfl)
theorem dX0_rankOfD_59 : decode cX0_rankOfD 59 = .ok (.aaload, 1) := dk_50 (dk_at dksX0_rankOfD_2 12 rfl rfl)
theorem dX0_rankOfD_60 : decode cX0_rankOfD 60 = .ok (.iload 5, 2) := dk_21 5 (dk_at dksX0_rankOfD_2 13 rfl rfl)
theorem dX0_rankOfD_62 : decode cX0_rankOfD 62 = .ok (.iconst 0, 1) := dk_3 (dk_at dksX0_rankOfD_2 15 rfl rfl)
theorem dX0_rankOfD_63 : decode cX0_rankOfD 63 = .ok (.iastore, 1) := dk_79 (dk_at dksX0_rankOfD_2 16 rfl rfl)
theorem dX0_rankOfD_64 : decode cX0_rankOfD 64 = .ok (.iinc 5 1, 3) := dk_132 5 1 (dk_at dksX0_rankOfD_2 17 rfl rfl)
theorem dX0_rankOfD_67 : decode cX0_rankOfD 67 = .ok (.goto (-20), 3) := dk_167 255 236 (dk_at dksX0_rankOfD_2 20 rfl rfl)
theorem dX0_rankOfD_70 : decode cX0_rankOfD 70 = .ok (.aload_n 1, 1) := dk_43 (dk_at dksX0_rankOfD_2 23 rfl rfl)
theorem dX0_rankOfD_71 : decode cX0_rankOfD 71 = .ok (.iload 4, 2) := dk_21 4 (dk_at dksX0_rankOfD_3 0 rfl rfl)
theorem dX0_rankOfD_73 : decode cX0_rankOfD 73 = .ok (.aload_n 0, 1) := dk_42 (dk_at dksX0_rankOfD_3 2 rfl rfl)
theorem dX0_rankOfD_74 : decode cX0_rankOfD 74 = .ok (.getfield 93, 3) := dk_180 0 93 (dk_at dksX0_rankOfD_3 3 rfl rfl)
theorem dX0_rankOfD_77 : decode cX0_rankOfD 77 = .ok (.iload_n 3, 1) := dk_29 (dk_at dksX0_rankOfD_3 6 rfl rfl)
theorem dX0_rankOfD_78 : decode cX0_rankOfD 78 = .ok (.aaload, 1) := dk_50 (dk_at dksX0_rankOfD_3 7 rfl rfl)
theorem dX0_rankOfD_79 : decode cX0_rankOfD 79 = .ok (.invokestatic 429, 3) := dk_184 1 173 (dk_at dksX0_rankOfD_3 8 rfl rfl)
theorem dX0_rankOfD_82 : decode cX0_rankOfD 82 = .ok (.iinc 3 1, 3) := dk_132 3 1 (dk_at dksX0_rankOfD_3 11 rfl rfl)
theorem dX0_rankOfD_85 : decode cX0_rankOfD 85 = .ok (.iinc 4 1, 3) := dk_132 4 1 (dk_at dksX0_rankOfD_3 14 rfl rfl)
theorem dX0_rankOfD_88 : decode cX0_rankOfD 88 = .ok (.goto (-69), 3) := dk_167 255 187 (dk_at dksX0_rankOfD_3 17 rfl rfl)
theorem dX0_rankOfD_91 : decode cX0_rankOfD 91 = .ok (.aload_n 1, 1) := dk_43 (dk_at dksX0_rankOfD_3 20 rfl rfl)
theorem dX0_rankOfD_92 : decode cX0_rankOfD 92 = .ok (.aload_n 0, 1) := dk_42 (dk_at dksX0_rankOfD_3 21 rfl rfl)
theorem dX0_rankOfD_93 : decode cX0_rankOfD 93 = .ok (.getfield 93, 3) := dk_180 0 93 (dk_at dksX0_rankOfD_4 0 rfl rfl)
theorem dX0_rankOfD_96 : decode cX0_rankOfD 96 = .ok (.iload_n 3, 1) := dk_29 (dk_at dksX0_rankOfD_4 3 rfl rfl)
theorem dX0_rankOfD_97 : decode cX0_rankOfD 97 = .ok (.bipush 16, 2) := dk_16 16 (dk_at dksX0_rankOfD_4 4 rfl rfl)
theorem dX0_rankOfD_99 : decode cX0_rankOfD 99 = .ok (.invokevirtual 355, 3) := dk_182 1 99 (dk_at dksX0_rankOfD_4 6 rfl rfl)
theorem dX0_rankOfD_102 : decode cX0_rankOfD 102 = .ok (.ireturn, 1) := dk_172 (dk_at dksX0_rankOfD_4 9 rfl rfl)
abbrev cX0_tellsOf : ByteArray := prog_1_method_77_code
def dkwX0_tellsOf_8 : List UInt8 := [167, 255, 144, 132, 5, 1, 132, 6, 1, 167, 255, 96, 132, 3, 1, 132, 4, 1, 167, 255, 55, 177]
abbrev dktX0_tellsOf_8 : List UInt8 := dkwX0_tellsOf_8 ++ []
def dkwX0_tellsOf_7 : List UInt8 := [2, 42, 180, 1, 0, 21, 4, 50, 21, 6, 50, 21, 8, 46, 104, 96, 182, 1, 26, 79, 132, 8, 1]
abbrev dktX0_tellsOf_7 : List UInt8 := dkwX0_tellsOf_7 ++ dktX0_tellsOf_8
def dkwX0_tellsOf_6 : List UInt8 := [184, 1, 177, 54, 10, 44, 21, 10, 42, 44, 21, 10, 46, 21, 9, 5, 112, 154, 0, 7, 4, 167, 0, 4]
abbrev dktX0_tellsOf_6 : List UInt8 := dkwX0_tellsOf_6 ++ dktX0_tellsOf_7
def dkwX0_tellsOf_5 : List UInt8 := [21, 7, 4, 21, 8, 120, 4, 100, 126, 184, 1, 138, 96, 54, 9, 21, 7, 4, 21, 8, 120, 128]
abbrev dktX0_tellsOf_5 : List UInt8 := dkwX0_tellsOf_5 ++ dktX0_tellsOf_6
def dkwX0_tellsOf_4 : List UInt8 := [21, 8, 46, 153, 0, 87, 21, 7, 21, 8, 122, 4, 126, 4, 160, 0, 6, 167, 0, 73, 29, 21, 5, 96]
abbrev dktX0_tellsOf_4 : List UInt8 := dkwX0_tellsOf_4 ++ dktX0_tellsOf_5
def dkwX0_tellsOf_3 : List UInt8 := [54, 7, 3, 54, 8, 21, 8, 42, 180, 0, 196, 162, 0, 109, 42, 180, 1, 0, 21, 4, 50, 21, 6, 50]
abbrev dktX0_tellsOf_3 : List UInt8 := dkwX0_tellsOf_3 ++ dktX0_tellsOf_4
def dkwX0_tellsOf_2 : List UInt8 := [21, 6, 122, 4, 126, 154, 0, 6, 167, 0, 139, 27, 4, 21, 4, 120, 4, 21, 6, 120, 128, 2, 130, 126]
abbrev dktX0_tellsOf_2 : List UInt8 := dkwX0_tellsOf_2 ++ dktX0_tellsOf_3
def dkwX0_tellsOf_1 : List UInt8 := [167, 0, 180, 29, 4, 96, 54, 5, 21, 4, 4, 96, 54, 6, 21, 6, 42, 180, 0, 196, 162, 0, 157, 27]
abbrev dktX0_tellsOf_1 : List UInt8 := dkwX0_tellsOf_1 ++ dktX0_tellsOf_2
def dkwX0_tellsOf_0 : List UInt8 := [3, 62, 3, 54, 4, 21, 4, 42, 180, 0, 196, 162, 0, 198, 27, 21, 4, 122, 4, 126, 154, 0, 6]
abbrev dktX0_tellsOf_0 : List UInt8 := dkwX0_tellsOf_0 ++ dktX0_tellsOf_1
theorem dksX0_tellsOf_0 : cX0_tellsOf.data.toList.drop 0 = dktX0_tellsOf_0 := by decide +kernel
theorem dksX0_tellsOf_1 : cX0_tellsOf.data.toList.drop 23 = dktX0_tellsOf_1 := dk_seg dksX0_tellsOf_0 23 rfl rfl
theorem dksX0_tellsOf_2 : cX0_tellsOf.data.toList.drop 47 = dktX0_tellsOf_2 := dk_seg dksX0_tellsOf_1 24 rfl rfl
theorem dksX0_tellsOf_3 : cX0_tellsOf.data.toList.drop 71 = dktX0_tellsOf_3 := dk_seg dksX0_tellsOf_2 24 rfl rfl
theorem dksX0_tellsOf_4 : cX0_tellsOf.data.toList.drop 95 = dktX0_tellsOf_4 := dk_seg dksX0_tellsOf_3 24 rfl rfl
theorem dksX0_tellsOf_5 : cX0_tellsOf.data.toList.drop 119 = dktX0_tellsOf_5 := dk_seg dksX0_tellsOf_4 24 rfl rfl
theorem dksX0_tellsOf_6 : cX0_tellsOf.data.toList.drop 141 = dktX0_tellsOf_6 := dk_seg dksX0_tellsOf_5 22 rfl rfl
theorem dksX0_tellsOf_7 : cX0_tellsOf.data.toList.drop 165 = dktX0_tellsOf_7 := dk_seg dksX0_tellsOf_6 24 rfl rfl
theorem dksX0_tellsOf_8 : cX0_tellsOf.data.toList.drop 188 = dktX0_tellsOf_8 := dk_seg dksX0_tellsOf_7 23 rfl rfl
theorem dX0_tellsOf_0 : decode cX0_tellsOf 0 = .ok (.iconst 0, 1) := dk_3 (dk_at dksX0_tellsOf_0 0 rfl rfl)
theorem dX0_tellsOf_1 : decode cX0_tellsOf 1 = .ok (.istore_n 3, 1) := dk_62 (dk_at dksX0_tellsOf_0 1 rfl rfl)
theorem dX0_tellsOf_2 : decode cX0_tellsOf 2 = .ok (.iconst 0, 1) := dk_3 (dk_at dksX0_tellsOf_0 2 rfl rfl)
theorem dX0_tellsOf_3 : decode cX0_tellsOf 3 = .ok (.istore 4, 2) := dk_54 4 (dk_at dksX0_tellsOf_0 3 rfl rfl)
theorem dX0_tellsOf_5 : decode cX0_tellsOf 5 = .ok (.iload 4, 2) := dk_21 4 (dk_at dksX0_tellsOf_0 5 rfl rfl)
theorem dX0_tellsOf_7 : decode cX0_tellsOf 7 = .ok (.aload_n 0, 1) := dk_42 (dk_at dksX0_tellsOf_0 7 rfl rfl)
theorem dX0_tellsOf_8 : decode cX0_tellsOf 8 = .ok (.getfield 196, 3) := dk_180 0 196 (dk_at dksX0_tellsOf_0 8 rfl rfl)
theorem dX0_tellsOf_11 : decode cX0_tellsOf 11 = .ok (.if_icmp .ge 198, 3) := dk_162 0 198 (dk_at dksX0_tellsOf_0 11 rfl rfl)
theorem dX0_tellsOf_14 : decode cX0_tellsOf 14 = .ok (.iload_n 1, 1) := dk_27 (dk_at dksX0_tellsOf_0 14 rfl rfl)
theorem dX0_tellsOf_15 : decode cX0_tellsOf 15 = .ok (.iload 4, 2) := dk_21 4 (dk_at dksX0_tellsOf_0 15 rfl rfl)
theorem dX0_tellsOf_17 : decode cX0_tellsOf 17 = .ok (.ishr, 1) := dk_122 (dk_at dksX0_tellsOf_0 17 rfl rfl)
theorem dX0_tellsOf_18 : decode cX0_tellsOf 18 = .ok (.iconst 1, 1) := dk_4 (dk_at dksX0_tellsOf_0 18 rfl rfl)
theorem dX0_tellsOf_19 : decode cX0_tellsOf 19 = .ok (.iand, 1) := dk_126 (dk_at dksX0_tellsOf_0 19 rfl rfl)
theorem dX0_tellsOf_20 : decode cX0_tellsOf 20 = .ok (.ifCond .ne 6, 3) := dk_154 0 6 (dk_at dksX0_tellsOf_0 20 rfl rfl)
theorem dX0_tellsOf_23 : decode cX0_tellsOf 23 = .ok (.goto 180, 3) := dk_167 0 180 (dk_at dksX0_tellsOf_1 0 rfl rfl)
theorem dX0_tellsOf_26 : decode cX0_tellsOf 26 = .ok (.iload_n 3, 1) := dk_29 (dk_at dksX0_tellsOf_1 3 rfl rfl)
theorem dX0_tellsOf_27 : decode cX0_tellsOf 27 = .ok (.iconst 1, 1) := dk_4 (dk_at dksX0_tellsOf_1 4 rfl rfl)
theorem dX0_tellsOf_28 : decode cX0_tellsOf 28 = .ok (.iadd, 1) := dk_96 (dk_at dksX0_tellsOf_1 5 rfl rfl)
theorem dX0_tellsOf_29 : decode cX0_tellsOf 29 = .ok (.istore 5, 2) := dk_54 5 (dk_at dksX0_tellsOf_1 6 rfl rfl)
theorem dX0_tellsOf_31 : decode cX0_tellsOf 31 = .ok (.iload 4, 2) := dk_21 4 (dk_at dksX0_tellsOf_1 8 rfl rfl)
theorem dX0_tellsOf_33 : decode cX0_tellsOf 33 = .ok (.iconst 1, 1) := dk_4 (dk_at dksX0_tellsOf_1 10 rfl rfl)
theorem dX0_tellsOf_34 : decode cX0_tellsOf 34 = .ok (.iadd, 1) := dk_96 (dk_at dksX0_tellsOf_1 11 rfl rfl)
theorem dX0_tellsOf_35 : decode cX0_tellsOf 35 = .ok (.istore 6, 2) := dk_54 6 (dk_at dksX0_tellsOf_1 12 rfl rfl)
theorem dX0_tellsOf_37 : decode cX0_tellsOf 37 = .ok (.iload 6, 2) := dk_21 6 (dk_at dksX0_tellsOf_1 14 rfl rfl)
theorem dX0_tellsOf_39 : decode cX0_tellsOf 39 = .ok (.aload_n 0, 1) := dk_42 (dk_at dksX0_tellsOf_1 16 rfl rfl)
theorem dX0_tellsOf_40 : decode cX0_tellsOf 40 = .ok (.getfield 196, 3) := dk_180 0 196 (dk_at dksX0_tellsOf_1 17 rfl rfl)
theorem dX0_tellsOf_43 : decode cX0_tellsOf 43 = .ok (.if_icmp .ge 157, 3) := dk_162 0 157 (dk_at dksX0_tellsOf_1 20 rfl rfl)
theorem dX0_tellsOf_46 : decode cX0_tellsOf 46 = .ok (.iload_n 1, 1) := dk_27 (dk_at dksX0_tellsOf_1 23 rfl rfl)
theorem dX0_tellsOf_47 : decode cX0_tellsOf 47 = .ok (.iload 6, 2) := dk_21 6 (dk_at dksX0_tellsOf_2 0 rfl rfl)
theorem dX0_tellsOf_49 : decode cX0_tellsOf 49 = .ok (.ishr, 1) := dk_122 (dk_at dksX0_tellsOf_2 2 rfl rfl)
theorem dX0_tellsOf_50 : decode cX0_tellsOf 50 = .ok (.iconst 1, 1) := dk_4 (dk_at dksX0_tellsOf_2 3 rfl rfl)
theorem dX0_tellsOf_51 : decode cX0_tellsOf 51 = .ok (.iand, 1) := dk_126 (dk_at dksX0_tellsOf_2 4 rfl rfl)
theorem dX0_tellsOf_52 : decode cX0_tellsOf 52 = .ok (.ifCond .ne 6, 3) := dk_154 0 6 (dk_at dksX0_tellsOf_2 5 rfl rfl)
theorem dX0_tellsOf_55 : decode cX0_tellsOf 55 = .ok (.goto 139, 3) := dk_167 0 139 (dk_at dksX0_tellsOf_2 8 rfl rfl)
theorem dX0_tellsOf_58 : decode cX0_tellsOf 58 = .ok (.iload_n 1, 1) := dk_27 (dk_at dksX0_tellsOf_2 11 rfl rfl)
theorem dX0_tellsOf_59 : decode cX0_tellsOf 59 = .ok (.iconst 1, 1) := dk_4 (dk_at dksX0_tellsOf_2 12 rfl rfl)
theorem dX0_tellsOf_60 : decode cX0_tellsOf 60 = .ok (.iload 4, 2) := dk_21 4 (dk_at dksX0_tellsOf_2 13 rfl rfl)
theorem dX0_tellsOf_62 : decode cX0_tellsOf 62 = .ok (.ishl, 1) := dk_120 (dk_at dksX0_tellsOf_2 15 rfl rfl)
theorem dX0_tellsOf_63 : decode cX0_tellsOf 63 = .ok (.iconst 1, 1) := dk_4 (dk_at dksX0_tellsOf_2 16 rfl rfl)
theorem dX0_tellsOf_64 : decode cX0_tellsOf 64 = .ok (.iload 6, 2) := dk_21 6 (dk_at dksX0_tellsOf_2 17 rfl rfl)
theorem dX0_tellsOf_66 : decode cX0_tellsOf 66 = .ok (.ishl, 1) := dk_120 (dk_at dksX0_tellsOf_2 19 rfl rfl)
theorem dX0_tellsOf_67 : decode cX0_tellsOf 67 = .ok (.ior, 1) := dk_128 (dk_at dksX0_tellsOf_2 20 rfl rfl)
theorem dX0_tellsOf_68 : decode cX0_tellsOf 68 = .ok (.iconst (-1), 1) := dk_2 (dk_at dksX0_tellsOf_2 21 rfl rfl)
theorem dX0_tellsOf_69 : decode cX0_tellsOf 69 = .ok (.ixor, 1) := dk_130 (dk_at dksX0_tellsOf_2 22 rfl rfl)
theorem dX0_tellsOf_70 : decode cX0_tellsOf 70 = .ok (.iand, 1) := dk_126 (dk_at dksX0_tellsOf_2 23 rfl rfl)
theorem dX0_tellsOf_71 : decode cX0_tellsOf 71 = .ok (.istore 7, 2) := dk_54 7 (dk_at dksX0_tellsOf_3 0 rfl rfl)
theorem dX0_tellsOf_73 : decode cX0_tellsOf 73 = .ok (.iconst 0, 1) := dk_3 (dk_at dksX0_tellsOf_3 2 rfl rfl)
theorem dX0_tellsOf_74 : decode cX0_tellsOf 74 = .ok (.istore 8, 2) := dk_54 8 (dk_at dksX0_tellsOf_3 3 rfl rfl)
theorem dX0_tellsOf_76 : decode cX0_tellsOf 76 = .ok (.iload 8, 2) := dk_21 8 (dk_at dksX0_tellsOf_3 5 rfl rfl)
theorem dX0_tellsOf_78 : decode cX0_tellsOf 78 = .ok (.aload_n 0, 1) := dk_42 (dk_at dksX0_tellsOf_3 7 rfl rfl)
theorem dX0_tellsOf_79 : decode cX0_tellsOf 79 = .ok (.getfield 196, 3) := dk_180 0 196 (dk_at dksX0_tellsOf_3 8 rfl rfl)
theorem dX0_tellsOf_82 : decode cX0_tellsOf 82 = .ok (.if_icmp .ge 109, 3) := dk_162 0 109 (dk_at dksX0_tellsOf_3 11 rfl rfl)
theorem dX0_tellsOf_85 : decode cX0_tellsOf 85 = .ok (.aload_n 0, 1) := dk_42 (dk_at dksX0_tellsOf_3 14 rfl rfl)
theorem dX0_tellsOf_86 : decode cX0_tellsOf 86 = .ok (.getfield 256, 3) := dk_180 1 0 (dk_at dksX0_tellsOf_3 15 rfl rfl)
theorem dX0_tellsOf_89 : decode cX0_tellsOf 89 = .ok (.iload 4, 2) := dk_21 4 (dk_at dksX0_tellsOf_3 18 rfl rfl)
theorem dX0_tellsOf_91 : decode cX0_tellsOf 91 = .ok (.aaload, 1) := dk_50 (dk_at dksX0_tellsOf_3 20 rfl rfl)
theorem dX0_tellsOf_92 : decode cX0_tellsOf 92 = .ok (.iload 6, 2) := dk_21 6 (dk_at dksX0_tellsOf_3 21 rfl rfl)
theorem dX0_tellsOf_94 : decode cX0_tellsOf 94 = .ok (.aaload, 1) := dk_50 (dk_at dksX0_tellsOf_3 23 rfl rfl)
theorem dX0_tellsOf_95 : decode cX0_tellsOf 95 = .ok (.iload 8, 2) := dk_21 8 (dk_at dksX0_tellsOf_4 0 rfl rfl)
theorem dX0_tellsOf_97 : decode cX0_tellsOf 97 = .ok (.iaload, 1) := dk_46 (dk_at dksX0_tellsOf_4 2 rfl rfl)
theorem dX0_tellsOf_98 : decode cX0_tellsOf 98 = .ok (.ifCond .eq 87, 3) := dk_153 0 87 (dk_at dksX0_tellsOf_4 3 rfl rfl)
theorem dX0_tellsOf_101 : decode cX0_tellsOf 101 = .ok (.iload 7, 2) := dk_21 7 (dk_at dksX0_tellsOf_4 6 rfl rfl)
theorem dX0_tellsOf_103 : decode cX0_tellsOf 103 = .ok (.iload 8, 2) := dk_21 8 (dk_at dksX0_tellsOf_4 8 rfl rfl)
theorem dX0_tellsOf_105 : decode cX0_tellsOf 105 = .ok (.ishr, 1) := dk_122 (dk_at dksX0_tellsOf_4 10 rfl rfl)
theorem dX0_tellsOf_106 : decode cX0_tellsOf 106 = .ok (.iconst 1, 1) := dk_4 (dk_at dksX0_tellsOf_4 11 rfl rfl)
theorem dX0_tellsOf_107 : decode cX0_tellsOf 107 = .ok (.iand, 1) := dk_126 (dk_at dksX0_tellsOf_4 12 rfl rfl)
theorem dX0_tellsOf_108 : decode cX0_tellsOf 108 = .ok (.iconst 1, 1) := dk_4 (dk_at dksX0_tellsOf_4 13 rfl rfl)
theorem dX0_tellsOf_109 : decode cX0_tellsOf 109 = .ok (.if_icmp .ne 6, 3) := dk_160 0 6 (dk_at dksX0_tellsOf_4 14 rfl rfl)
theorem dX0_tellsOf_112 : decode cX0_tellsOf 112 = .ok (.goto 73, 3) := dk_167 0 73 (dk_at dksX0_tellsOf_4 17 rfl rfl)
theorem dX0_tellsOf_115 : decode cX0_tellsOf 115 = .ok (.iload_n 3, 1) := dk_29 (dk_at dksX0_tellsOf_4 20 rfl rfl)
theorem dX0_tellsOf_116 : decode cX0_tellsOf 116 = .ok (.iload 5, 2) := dk_21 5 (dk_at dksX0_tellsOf_4 21 rfl rfl)
theorem dX0_tellsOf_118 : decode cX0_tellsOf 118 = .ok (.iadd, 1) := dk_96 (dk_at dksX0_tellsOf_4 23 rfl rfl)
theorem dX0_tellsOf_119 : decode cX0_tellsOf 119 = .ok (.iload 7, 2) := dk_21 7 (dk_at dksX0_tellsOf_5 0 rfl rfl)
theorem dX0_tellsOf_121 : decode cX0_tellsOf 121 = .ok (.iconst 1, 1) := dk_4 (dk_at dksX0_tellsOf_5 2 rfl rfl)
theorem dX0_tellsOf_122 : decode cX0_tellsOf 122 = .ok (.iload 8, 2) := dk_21 8 (dk_at dksX0_tellsOf_5 3 rfl rfl)
theorem dX0_tellsOf_124 : decode cX0_tellsOf 124 = .ok (.ishl, 1) := dk_120 (dk_at dksX0_tellsOf_5 5 rfl rfl)
theorem dX0_tellsOf_125 : decode cX0_tellsOf 125 = .ok (.iconst 1, 1) := dk_4 (dk_at dksX0_tellsOf_5 6 rfl rfl)
theorem dX0_tellsOf_126 : decode cX0_tellsOf 126 = .ok (.isub, 1) := dk_100 (dk_at dksX0_tellsOf_5 7 rfl rfl)
theorem dX0_tellsOf_127 : decode cX0_tellsOf 127 = .ok (.iand, 1) := dk_126 (dk_at dksX0_tellsOf_5 8 rfl rfl)
theorem dX0_tellsOf_128 : decode cX0_tellsOf 128 = .ok (.invokestatic 394, 3) := dk_184 1 138 (dk_at dksX0_tellsOf_5 9 rfl rfl)
theorem dX0_tellsOf_131 : decode cX0_tellsOf 131 = .ok (.iadd, 1) := dk_96 (dk_at dksX0_tellsOf_5 12 rfl rfl)
theorem dX0_tellsOf_132 : decode cX0_tellsOf 132 = .ok (.istore 9, 2) := dk_54 9 (dk_at dksX0_tellsOf_5 13 rfl rfl)
theorem dX0_tellsOf_134 : decode cX0_tellsOf 134 = .ok (.iload 7, 2) := dk_21 7 (dk_at dksX0_tellsOf_5 15 rfl rfl)
theorem dX0_tellsOf_136 : decode cX0_tellsOf 136 = .ok (.iconst 1, 1) := dk_4 (dk_at dksX0_tellsOf_5 17 rfl rfl)
theorem dX0_tellsOf_137 : decode cX0_tellsOf 137 = .ok (.iload 8, 2) := dk_21 8 (dk_at dksX0_tellsOf_5 18 rfl rfl)
theorem dX0_tellsOf_139 : decode cX0_tellsOf 139 = .ok (.ishl, 1) := dk_120 (dk_at dksX0_tellsOf_5 20 rfl rfl)
theorem dX0_tellsOf_140 : decode cX0_tellsOf 140 = .ok (.ior, 1) := dk_128 (dk_at dksX0_tellsOf_5 21 rfl rfl)
theorem dX0_tellsOf_141 : decode cX0_tellsOf 141 = .ok (.invokestatic 433, 3) := dk_184 1 177 (dk_at dksX0_tellsOf_6 0 rfl rfl)
theorem dX0_tellsOf_144 : decode cX0_tellsOf 144 = .ok (.istore 10, 2) := dk_54 10 (dk_at dksX0_tellsOf_6 3 rfl rfl)
theorem dX0_tellsOf_146 : decode cX0_tellsOf 146 = .ok (.aload_n 2, 1) := dk_44 (dk_at dksX0_tellsOf_6 5 rfl rfl)
theorem dX0_tellsOf_147 : decode cX0_tellsOf 147 = .ok (.iload 10, 2) := dk_21 10 (dk_at dksX0_tellsOf_6 6 rfl rfl)
theorem dX0_tellsOf_149 : decode cX0_tellsOf 149 = .ok (.aload_n 0, 1) := dk_42 (dk_at dksX0_tellsOf_6 8 rfl rfl)
theorem dX0_tellsOf_150 : decode cX0_tellsOf 150 = .ok (.aload_n 2, 1) := dk_44 (dk_at dksX0_tellsOf_6 9 rfl rfl)
theorem dX0_tellsOf_151 : decode cX0_tellsOf 151 = .ok (.iload 10, 2) := dk_21 10 (dk_at dksX0_tellsOf_6 10 rfl rfl)
theorem dX0_tellsOf_153 : decode cX0_tellsOf 153 = .ok (.iaload, 1) := dk_46 (dk_at dksX0_tellsOf_6 12 rfl rfl)
theorem dX0_tellsOf_154 : decode cX0_tellsOf 154 = .ok (.iload 9, 2) := dk_21 9 (dk_at dksX0_tellsOf_6 13 rfl rfl)
theorem dX0_tellsOf_156 : decode cX0_tellsOf 156 = .ok (.iconst 2, 1) := dk_5 (dk_at dksX0_tellsOf_6 15 rfl rfl)
theorem dX0_tellsOf_157 : decode cX0_tellsOf 157 = .ok (.irem, 1) := dk_112 (dk_at dksX0_tellsOf_6 16 rfl rfl)
theorem dX0_tellsOf_158 : decode cX0_tellsOf 158 = .ok (.ifCond .ne 7, 3) := dk_154 0 7 (dk_at dksX0_tellsOf_6 17 rfl rfl)
theorem dX0_tellsOf_161 : decode cX0_tellsOf 161 = .ok (.iconst 1, 1) := dk_4 (dk_at dksX0_tellsOf_6 20 rfl rfl)
theorem dX0_tellsOf_162 : decode cX0_tellsOf 162 = .ok (.goto 4, 3) := dk_167 0 4 (dk_at dksX0_tellsOf_6 21 rfl rfl)
theorem dX0_tellsOf_165 : decode cX0_tellsOf 165 = .ok (.iconst (-1), 1) := dk_2 (dk_at dksX0_tellsOf_7 0 rfl rfl)
theorem dX0_tellsOf_166 : decode cX0_tellsOf 166 = .ok (.aload_n 0, 1) := dk_42 (dk_at dksX0_tellsOf_7 1 rfl rfl)
theorem dX0_tellsOf_167 : decode cX0_tellsOf 167 = .ok (.getfield 256, 3) := dk_180 1 0 (dk_at dksX0_tellsOf_7 2 rfl rfl)
theorem dX0_tellsOf_170 : decode cX0_tellsOf 170 = .ok (.iload 4, 2) := dk_21 4 (dk_at dksX0_tellsOf_7 5 rfl rfl)
theorem dX0_tellsOf_172 : decode cX0_tellsOf 172 = .ok (.aaload, 1) := dk_50 (dk_at dksX0_tellsOf_7 7 rfl rfl)
theorem dX0_tellsOf_173 : decode cX0_tellsOf 173 = .ok (.iload 6, 2) := dk_21 6 (dk_at dksX0_tellsOf_7 8 rfl rfl)
theorem dX0_tellsOf_175 : decode cX0_tellsOf 175 = .ok (.aaload, 1) := dk_50 (dk_at dksX0_tellsOf_7 10 rfl rfl)
theorem dX0_tellsOf_176 : decode cX0_tellsOf 176 = .ok (.iload 8, 2) := dk_21 8 (dk_at dksX0_tellsOf_7 11 rfl rfl)
theorem dX0_tellsOf_178 : decode cX0_tellsOf 178 = .ok (.iaload, 1) := dk_46 (dk_at dksX0_tellsOf_7 13 rfl rfl)
theorem dX0_tellsOf_179 : decode cX0_tellsOf 179 = .ok (.imul, 1) := dk_104 (dk_at dksX0_tellsOf_7 14 rfl rfl)
theorem dX0_tellsOf_180 : decode cX0_tellsOf 180 = .ok (.iadd, 1) := dk_96 (dk_at dksX0_tellsOf_7 15 rfl rfl)
theorem dX0_tellsOf_181 : decode cX0_tellsOf 181 = .ok (.invokevirtual 282, 3) := dk_182 1 26 (dk_at dksX0_tellsOf_7 16 rfl rfl)
theorem dX0_tellsOf_184 : decode cX0_tellsOf 184 = .ok (.iastore, 1) := dk_79 (dk_at dksX0_tellsOf_7 19 rfl rfl)
theorem dX0_tellsOf_185 : decode cX0_tellsOf 185 = .ok (.iinc 8 1, 3) := dk_132 8 1 (dk_at dksX0_tellsOf_7 20 rfl rfl)
theorem dX0_tellsOf_188 : decode cX0_tellsOf 188 = .ok (.goto (-112), 3) := dk_167 255 144 (dk_at dksX0_tellsOf_8 0 rfl rfl)
theorem dX0_tellsOf_191 : decode cX0_tellsOf 191 = .ok (.iinc 5 1, 3) := dk_132 5 1 (dk_at dksX0_tellsOf_8 3 rfl rfl)
theorem dX0_tellsOf_194 : decode cX0_tellsOf 194 = .ok (.iinc 6 1, 3) := dk_132 6 1 (dk_at dksX0_tellsOf_8 6 rfl rfl)
theorem dX0_tellsOf_197 : decode cX0_tellsOf 197 = .ok (.goto (-160), 3) := dk_167 255 96 (dk_at dksX0_tellsOf_8 9 rfl rfl)
theorem dX0_tellsOf_200 : decode cX0_tellsOf 200 = .ok (.iinc 3 1, 3) := dk_132 3 1 (dk_at dksX0_tellsOf_8 12 rfl rfl)
theorem dX0_tellsOf_203 : decode cX0_tellsOf 203 = .ok (.iinc 4 1, 3) := dk_132 4 1 (dk_at dksX0_tellsOf_8 15 rfl rfl)
theorem dX0_tellsOf_206 : decode cX0_tellsOf 206 = .ok (.goto (-201), 3) := dk_167 255 55 (dk_at dksX0_tellsOf_8 18 rfl rfl)
theorem dX0_tellsOf_209 : decode cX0_tellsOf 209 = .ok (.return_, 1) := dk_177 (dk_at dksX0_tellsOf_8 21 rfl rfl)
abbrev cX0_numberOf : ByteArray := prog_1_method_76_code
def dkwX0_numberOf_1 : List UInt8 := [167, 0, 4, 3, 96, 60, 132, 2, 1, 167, 255, 229, 27, 172]
abbrev dktX0_numberOf_1 : List UInt8 := dkwX0_numberOf_1 ++ []
def dkwX0_numberOf_0 : List UInt8 := [3, 60, 3, 61, 28, 26, 162, 0, 28, 27, 28, 184, 1, 138, 26, 184, 1, 138, 160, 0, 7, 4]
abbrev dktX0_numberOf_0 : List UInt8 := dkwX0_numberOf_0 ++ dktX0_numberOf_1
theorem dksX0_numberOf_0 : cX0_numberOf.data.toList.drop 0 = dktX0_numberOf_0 := by decide +kernel
theorem dksX0_numberOf_1 : cX0_numberOf.data.toList.drop 22 = dktX0_numberOf_1 := dk_seg dksX0_numberOf_0 22 rfl rfl
theorem dX0_numberOf_0 : decode cX0_numberOf 0 = .ok (.iconst 0, 1) := dk_3 (dk_at dksX0_numberOf_0 0 rfl rfl)
theorem dX0_numberOf_1 : decode cX0_numberOf 1 = .ok (.istore_n 1, 1) := dk_60 (dk_at dksX0_numberOf_0 1 rfl rfl)
theorem dX0_numberOf_2 : decode cX0_numberOf 2 = .ok (.iconst 0, 1) := dk_3 (dk_at dksX0_numberOf_0 2 rfl rfl)
theorem dX0_numberOf_3 : decode cX0_numberOf 3 = .ok (.istore_n 2, 1) := dk_61 (dk_at dksX0_numberOf_0 3 rfl rfl)
theorem dX0_numberOf_4 : decode cX0_numberOf 4 = .ok (.iload_n 2, 1) := dk_28 (dk_at dksX0_numberOf_0 4 rfl rfl)
theorem dX0_numberOf_5 : decode cX0_numberOf 5 = .ok (.iload_n 0, 1) := dk_26 (dk_at dksX0_numberOf_0 5 rfl rfl)
theorem dX0_numberOf_6 : decode cX0_numberOf 6 = .ok (.if_icmp .ge 28, 3) := dk_162 0 28 (dk_at dksX0_numberOf_0 6 rfl rfl)
theorem dX0_numberOf_9 : decode cX0_numberOf 9 = .ok (.iload_n 1, 1) := dk_27 (dk_at dksX0_numberOf_0 9 rfl rfl)
theorem dX0_numberOf_10 : decode cX0_numberOf 10 = .ok (.iload_n 2, 1) := dk_28 (dk_at dksX0_numberOf_0 10 rfl rfl)
theorem dX0_numberOf_11 : decode cX0_numberOf 11 = .ok (.invokestatic 394, 3) := dk_184 1 138 (dk_at dksX0_numberOf_0 11 rfl rfl)
theorem dX0_numberOf_14 : decode cX0_numberOf 14 = .ok (.iload_n 0, 1) := dk_26 (dk_at dksX0_numberOf_0 14 rfl rfl)
theorem dX0_numberOf_15 : decode cX0_numberOf 15 = .ok (.invokestatic 394, 3) := dk_184 1 138 (dk_at dksX0_numberOf_0 15 rfl rfl)
theorem dX0_numberOf_18 : decode cX0_numberOf 18 = .ok (.if_icmp .ne 7, 3) := dk_160 0 7 (dk_at dksX0_numberOf_0 18 rfl rfl)
theorem dX0_numberOf_21 : decode cX0_numberOf 21 = .ok (.iconst 1, 1) := dk_4 (dk_at dksX0_numberOf_0 21 rfl rfl)
theorem dX0_numberOf_22 : decode cX0_numberOf 22 = .ok (.goto 4, 3) := dk_167 0 4 (dk_at dksX0_numberOf_1 0 rfl rfl)
theorem dX0_numberOf_25 : decode cX0_numberOf 25 = .ok (.iconst 0, 1) := dk_3 (dk_at dksX0_numberOf_1 3 rfl rfl)
theorem dX0_numberOf_26 : decode cX0_numberOf 26 = .ok (.iadd, 1) := dk_96 (dk_at dksX0_numberOf_1 4 rfl rfl)
theorem dX0_numberOf_27 : decode cX0_numberOf 27 = .ok (.istore_n 1, 1) := dk_60 (dk_at dksX0_numberOf_1 5 rfl rfl)
theorem dX0_numberOf_28 : decode cX0_numberOf 28 = .ok (.iinc 2 1, 3) := dk_132 2 1 (dk_at dksX0_numberOf_1 6 rfl rfl)
theorem dX0_numberOf_31 : decode cX0_numberOf 31 = .ok (.goto (-27), 3) := dk_167 255 229 (dk_at dksX0_numberOf_1 9 rfl rfl)
theorem dX0_numberOf_34 : decode cX0_numberOf 34 = .ok (.iload_n 1, 1) := dk_27 (dk_at dksX0_numberOf_1 12 rfl rfl)
theorem dX0_numberOf_35 : decode cX0_numberOf 35 = .ok (.ireturn, 1) := dk_172 (dk_at dksX0_numberOf_1 13 rfl rfl)
abbrev cX0_commuting : ByteArray := prog_1_method_81_code
def dkwX0_commuting_0 : List UInt8 := [42, 42, 42, 180, 0, 30, 182, 1, 186, 182, 0, 235, 172]
abbrev dktX0_commuting_0 : List UInt8 := dkwX0_commuting_0 ++ []
theorem dksX0_commuting_0 : cX0_commuting.data.toList.drop 0 = dktX0_commuting_0 := by decide +kernel
theorem dX0_commuting_0 : decode cX0_commuting 0 = .ok (.aload_n 0, 1) := dk_42 (dk_at dksX0_commuting_0 0 rfl rfl)
theorem dX0_commuting_1 : decode cX0_commuting 1 = .ok (.aload_n 0, 1) := dk_42 (dk_at dksX0_commuting_0 1 rfl rfl)
theorem dX0_commuting_2 : decode cX0_commuting 2 = .ok (.aload_n 0, 1) := dk_42 (dk_at dksX0_commuting_0 2 rfl rfl)
theorem dX0_commuting_3 : decode cX0_commuting 3 = .ok (.getfield 30, 3) := dk_180 0 30 (dk_at dksX0_commuting_0 3 rfl rfl)
theorem dX0_commuting_6 : decode cX0_commuting 6 = .ok (.invokevirtual 442, 3) := dk_182 1 186 (dk_at dksX0_commuting_0 6 rfl rfl)
theorem dX0_commuting_9 : decode cX0_commuting 9 = .ok (.invokevirtual 235, 3) := dk_182 0 235 (dk_at dksX0_commuting_0 9 rfl rfl)
theorem dX0_commuting_12 : decode cX0_commuting 12 = .ok (.ireturn, 1) := dk_172 (dk_at dksX0_commuting_0 12 rfl rfl)
abbrev cX0_commutingOf : ByteArray := prog_1_method_80_code
def dkwX0_commutingOf_2 : List UInt8 := [21, 4, 96, 61, 132, 3, 1, 167, 255, 206, 28, 172]
abbrev dktX0_commutingOf_2 : List UInt8 := dkwX0_commutingOf_2 ++ []
def dkwX0_commutingOf_1 : List UInt8 := [54, 5, 21, 5, 158, 0, 18, 21, 4, 43, 180, 0, 253, 108, 54, 4, 132, 5, 255, 167, 255, 239, 28]
abbrev dktX0_commutingOf_1 : List UInt8 := dkwX0_commutingOf_1 ++ dktX0_commutingOf_2
def dkwX0_commutingOf_0 : List UInt8 := [3, 61, 3, 62, 29, 43, 182, 0, 199, 162, 0, 48, 43, 182, 0, 199, 54, 4, 42, 43, 29, 182, 1, 107]
abbrev dktX0_commutingOf_0 : List UInt8 := dkwX0_commutingOf_0 ++ dktX0_commutingOf_1
theorem dksX0_commutingOf_0 : cX0_commutingOf.data.toList.drop 0 = dktX0_commutingOf_0 := by decide +kernel
theorem dksX0_commutingOf_1 : cX0_commutingOf.data.toList.drop 24 = dktX0_commutingOf_1 := dk_seg dksX0_commutingOf_0 24 rfl rfl
theorem dksX0_commutingOf_2 : cX0_commutingOf.data.toList.drop 47 = dktX0_commutingOf_2 := dk_seg dksX0_commutingOf_1 23 rfl rfl
theorem dX0_commutingOf_0 : decode cX0_commutingOf 0 = .ok (.iconst 0, 1) := dk_3 (dk_at dksX0_commutingOf_0 0 rfl rfl)
theorem dX0_commutingOf_1 : decode cX0_commutingOf 1 = .ok (.istore_n 2, 1) := dk_61 (dk_at dksX0_commutingOf_0 1 rfl rfl)
theorem dX0_commutingOf_2 : decode cX0_commutingOf 2 = .ok (.iconst 0, 1) := dk_3 (dk_at dksX0_commutingOf_0 2 rfl rfl)
theorem dX0_commutingOf_3 : decode cX0_commutingOf 3 = .ok (.istore_n 3, 1) := dk_62 (dk_at dksX0_commutingOf_0 3 rfl rfl)
theorem dX0_commutingOf_4 : decode cX0_commutingOf 4 = .ok (.iload_n 3, 1) := dk_29 (dk_at dksX0_commutingOf_0 4 rfl rfl)
theorem dX0_commutingOf_5 : decode cX0_commutingOf 5 = .ok (.aload_n 1, 1) := dk_43 (dk_at dksX0_commutingOf_0 5 rfl rfl)
theorem dX0_commutingOf_6 : decode cX0_commutingOf 6 = .ok (.invokevirtual 199, 3) := dk_182 0 199 (dk_at dksX0_commutingOf_0 6 rfl rfl)
theorem dX0_commutingOf_9 : decode cX0_commutingOf 9 = .ok (.if_icmp .ge 48, 3) := dk_162 0 48 (dk_at dksX0_commutingOf_0 9 rfl rfl)
theorem dX0_commutingOf_12 : decode cX0_commutingOf 12 = .ok (.aload_n 1, 1) := dk_43 (dk_at dksX0_commutingOf_0 12 rfl rfl)
theorem dX0_commutingOf_13 : decode cX0_commutingOf 13 = .ok (.invokevirtual 199, 3) := dk_182 0 199 (dk_at dksX0_commutingOf_0 13 rfl rfl)
theorem dX0_commutingOf_16 : decode cX0_commutingOf 16 = .ok (.istore 4, 2) := dk_54 4 (dk_at dksX0_commutingOf_0 16 rfl rfl)
theorem dX0_commutingOf_18 : decode cX0_commutingOf 18 = .ok (.aload_n 0, 1) := dk_42 (dk_at dksX0_commutingOf_0 18 rfl rfl)
theorem dX0_commutingOf_19 : decode cX0_commutingOf 19 = .ok (.aload_n 1, 1) := dk_43 (dk_at dksX0_commutingOf_0 19 rfl rfl)
theorem dX0_commutingOf_20 : decode cX0_commutingOf 20 = .ok (.iload_n 3, 1) := dk_29 (dk_at dksX0_commutingOf_0 20 rfl rfl)
theorem dX0_commutingOf_21 : decode cX0_commutingOf 21 = .ok (.invokevirtual 363, 3) := dk_182 1 107 (dk_at dksX0_commutingOf_0 21 rfl rfl)
theorem dX0_commutingOf_24 : decode cX0_commutingOf 24 = .ok (.istore 5, 2) := dk_54 5 (dk_at dksX0_commutingOf_1 0 rfl rfl)
theorem dX0_commutingOf_26 : decode cX0_commutingOf 26 = .ok (.iload 5, 2) := dk_21 5 (dk_at dksX0_commutingOf_1 2 rfl rfl)
theorem dX0_commutingOf_28 : decode cX0_commutingOf 28 = .ok (.ifCond .le 18, 3) := dk_158 0 18 (dk_at dksX0_commutingOf_1 4 rfl rfl)
theorem dX0_commutingOf_31 : decode cX0_commutingOf 31 = .ok (.iload 4, 2) := dk_21 4 (dk_at dksX0_commutingOf_1 7 rfl rfl)
theorem dX0_commutingOf_33 : decode cX0_commutingOf 33 = .ok (.aload_n 1, 1) := dk_43 (dk_at dksX0_commutingOf_1 9 rfl rfl)
theorem dX0_commutingOf_34 : decode cX0_commutingOf 34 = .ok (.getfield 253, 3) := dk_180 0 253 (dk_at dksX0_commutingOf_1 10 rfl rfl)
theorem dX0_commutingOf_37 : decode cX0_commutingOf 37 = .ok (.idiv, 1) := dk_108 (dk_at dksX0_commutingOf_1 13 rfl rfl)
theorem dX0_commutingOf_38 : decode cX0_commutingOf 38 = .ok (.istore 4, 2) := dk_54 4 (dk_at dksX0_commutingOf_1 14 rfl rfl)
theorem dX0_commutingOf_40 : decode cX0_commutingOf 40 = .ok (.iinc 5 (-1), 3) := dk_132 5 255 (dk_at dksX0_commutingOf_1 16 rfl rfl)
theorem dX0_commutingOf_43 : decode cX0_commutingOf 43 = .ok (.goto (-17), 3) := dk_167 255 239 (dk_at dksX0_commutingOf_1 19 rfl rfl)
theorem dX0_commutingOf_46 : decode cX0_commutingOf 46 = .ok (.iload_n 2, 1) := dk_28 (dk_at dksX0_commutingOf_1 22 rfl rfl)
theorem dX0_commutingOf_47 : decode cX0_commutingOf 47 = .ok (.iload 4, 2) := dk_21 4 (dk_at dksX0_commutingOf_2 0 rfl rfl)
theorem dX0_commutingOf_49 : decode cX0_commutingOf 49 = .ok (.iadd, 1) := dk_96 (dk_at dksX0_commutingOf_2 2 rfl rfl)
theorem dX0_commutingOf_50 : decode cX0_commutingOf 50 = .ok (.istore_n 2, 1) := dk_61 (dk_at dksX0_commutingOf_2 3 rfl rfl)
theorem dX0_commutingOf_51 : decode cX0_commutingOf 51 = .ok (.iinc 3 1, 3) := dk_132 3 1 (dk_at dksX0_commutingOf_2 4 rfl rfl)
theorem dX0_commutingOf_54 : decode cX0_commutingOf 54 = .ok (.goto (-50), 3) := dk_167 255 206 (dk_at dksX0_commutingOf_2 7 rfl rfl)
theorem dX0_commutingOf_57 : decode cX0_commutingOf 57 = .ok (.iload_n 2, 1) := dk_28 (dk_at dksX0_commutingOf_2 10 rfl rfl)
theorem dX0_commutingOf_58 : decode cX0_commutingOf 58 = .ok (.ireturn, 1) := dk_172 (dk_at dksX0_commutingOf_2 11 rfl rfl)
abbrev cX0_maps : ByteArray := prog_1_method_86_code
def dkwX0_maps_1 : List UInt8 := [180, 1, 192, 153, 0, 12, 42, 16, 9, 182, 0, 171, 167, 0, 8, 42, 27, 182, 0, 235, 172]
abbrev dktX0_maps_1 : List UInt8 := dkwX0_maps_1 ++ []
def dkwX0_maps_0 : List UInt8 := [42, 42, 180, 0, 30, 42, 180, 0, 30, 3, 182, 1, 211, 60, 42, 42, 180, 1, 196, 181, 0, 112, 42]
abbrev dktX0_maps_0 : List UInt8 := dkwX0_maps_0 ++ dktX0_maps_1
theorem dksX0_maps_0 : cX0_maps.data.toList.drop 0 = dktX0_maps_0 := by decide +kernel
theorem dksX0_maps_1 : cX0_maps.data.toList.drop 23 = dktX0_maps_1 := dk_seg dksX0_maps_0 23 rfl rfl
theorem dX0_maps_0 : decode cX0_maps 0 = .ok (.aload_n 0, 1) := dk_42 (dk_at dksX0_maps_0 0 rfl rfl)
theorem dX0_maps_1 : decode cX0_maps 1 = .ok (.aload_n 0, 1) := dk_42 (dk_at dksX0_maps_0 1 rfl rfl)
theorem dX0_maps_2 : decode cX0_maps 2 = .ok (.getfield 30, 3) := dk_180 0 30 (dk_at dksX0_maps_0 2 rfl rfl)
theorem dX0_maps_5 : decode cX0_maps 5 = .ok (.aload_n 0, 1) := dk_42 (dk_at dksX0_maps_0 5 rfl rfl)
theorem dX0_maps_6 : decode cX0_maps 6 = .ok (.getfield 30, 3) := dk_180 0 30 (dk_at dksX0_maps_0 6 rfl rfl)
theorem dX0_maps_9 : decode cX0_maps 9 = .ok (.iconst 0, 1) := dk_3 (dk_at dksX0_maps_0 9 rfl rfl)
theorem dX0_maps_10 : decode cX0_maps 10 = .ok (.invokevirtual 467, 3) := dk_182 1 211 (dk_at dksX0_maps_0 10 rfl rfl)
theorem dX0_maps_13 : decode cX0_maps 13 = .ok (.istore_n 1, 1) := dk_60 (dk_at dksX0_maps_0 13 rfl rfl)
theorem dX0_maps_14 : decode cX0_maps 14 = .ok (.aload_n 0, 1) := dk_42 (dk_at dksX0_maps_0 14 rfl rfl)
theorem dX0_maps_15 : decode cX0_maps 15 = .ok (.aload_n 0, 1) := dk_42 (dk_at dksX0_maps_0 15 rfl rfl)
theorem dX0_maps_16 : decode cX0_maps 16 = .ok (.getfield 452, 3) := dk_180 1 196 (dk_at dksX0_maps_0 16 rfl rfl)
theorem dX0_maps_19 : decode cX0_maps 19 = .ok (.putfield 112, 3) := dk_181 0 112 (dk_at dksX0_maps_0 19 rfl rfl)
theorem dX0_maps_22 : decode cX0_maps 22 = .ok (.aload_n 0, 1) := dk_42 (dk_at dksX0_maps_0 22 rfl rfl)
theorem dX0_maps_23 : decode cX0_maps 23 = .ok (.getfield 448, 3) := dk_180 1 192 (dk_at dksX0_maps_1 0 rfl rfl)
theorem dX0_maps_26 : decode cX0_maps 26 = .ok (.ifCond .eq 12, 3) := dk_153 0 12 (dk_at dksX0_maps_1 3 rfl rfl)
theorem dX0_maps_29 : decode cX0_maps 29 = .ok (.aload_n 0, 1) := dk_42 (dk_at dksX0_maps_1 6 rfl rfl)
theorem dX0_maps_30 : decode cX0_maps 30 = .ok (.bipush 9, 2) := dk_16 9 (dk_at dksX0_maps_1 7 rfl rfl)
theorem dX0_maps_32 : decode cX0_maps 32 = .ok (.invokevirtual 171, 3) := dk_182 0 171 (dk_at dksX0_maps_1 9 rfl rfl)
theorem dX0_maps_35 : decode cX0_maps 35 = .ok (.goto 8, 3) := dk_167 0 8 (dk_at dksX0_maps_1 12 rfl rfl)
theorem dX0_maps_38 : decode cX0_maps 38 = .ok (.aload_n 0, 1) := dk_42 (dk_at dksX0_maps_1 15 rfl rfl)
theorem dX0_maps_39 : decode cX0_maps 39 = .ok (.iload_n 1, 1) := dk_27 (dk_at dksX0_maps_1 16 rfl rfl)
theorem dX0_maps_40 : decode cX0_maps 40 = .ok (.invokevirtual 235, 3) := dk_182 0 235 (dk_at dksX0_maps_1 17 rfl rfl)
theorem dX0_maps_43 : decode cX0_maps 43 = .ok (.ireturn, 1) := dk_172 (dk_at dksX0_maps_1 20 rfl rfl)
abbrev cX0_maps_2 : ByteArray := prog_1_method_84_code
def dkwX0_maps_2_1 : List UInt8 := [172, 42, 180, 0, 108, 3, 50, 3, 181, 1, 46, 42, 43, 44, 3, 29, 182, 1, 204, 42, 180, 1, 189, 172]
abbrev dktX0_maps_2_1 : List UInt8 := dkwX0_maps_2_1 ++ []
def dkwX0_maps_2_0 : List UInt8 := [42, 3, 181, 1, 196, 42, 3, 181, 1, 189, 42, 3, 181, 1, 192, 43, 44, 182, 1, 208, 154, 0, 5, 3]
abbrev dktX0_maps_2_0 : List UInt8 := dkwX0_maps_2_0 ++ dktX0_maps_2_1
theorem dksX0_maps_2_0 : cX0_maps_2.data.toList.drop 0 = dktX0_maps_2_0 := by decide +kernel
theorem dksX0_maps_2_1 : cX0_maps_2.data.toList.drop 24 = dktX0_maps_2_1 := dk_seg dksX0_maps_2_0 24 rfl rfl
theorem dX0_maps_2_0 : decode cX0_maps_2 0 = .ok (.aload_n 0, 1) := dk_42 (dk_at dksX0_maps_2_0 0 rfl rfl)
theorem dX0_maps_2_1 : decode cX0_maps_2 1 = .ok (.iconst 0, 1) := dk_3 (dk_at dksX0_maps_2_0 1 rfl rfl)
theorem dX0_maps_2_2 : decode cX0_maps_2 2 = .ok (.putfield 452, 3) := dk_181 1 196 (dk_at dksX0_maps_2_0 2 rfl rfl)
theorem dX0_maps_2_5 : decode cX0_maps_2 5 = .ok (.aload_n 0, 1) := dk_42 (dk_at dksX0_maps_2_0 5 rfl rfl)
theorem dX0_maps_2_6 : decode cX0_maps_2 6 = .ok (.iconst 0, 1) := dk_3 (dk_at dksX0_maps_2_0 6 rfl rfl)
theorem dX0_maps_2_7 : decode cX0_maps_2 7 = .ok (.putfield 445, 3) := dk_181 1 189 (dk_at dksX0_maps_2_0 7 rfl rfl)
theorem dX0_maps_2_10 : decode cX0_maps_2 10 = .ok (.aload_n 0, 1) := dk_42 (dk_at dksX0_maps_2_0 10 rfl rfl)
theorem dX0_maps_2_11 : decode cX0_maps_2 11 = .ok (.iconst 0, 1) := dk_3 (dk_at dksX0_maps_2_0 11 rfl rfl)
theorem dX0_maps_2_12 : decode cX0_maps_2 12 = .ok (.putfield 448, 3) := dk_181 1 192 (dk_at dksX0_maps_2_0 12 rfl rfl)
theorem dX0_maps_2_15 : decode cX0_maps_2 15 = .ok (.aload_n 1, 1) := dk_43 (dk_at dksX0_maps_2_0 15 rfl rfl)
theorem dX0_maps_2_16 : decode cX0_maps_2 16 = .ok (.aload_n 2, 1) := dk_44 (dk_at dksX0_maps_2_0 16 rfl rfl)
theorem dX0_maps_2_17 : decode cX0_maps_2 17 = .ok (.invokevirtual 464, 3) := dk_182 1 208 (dk_at dksX0_maps_2_0 17 rfl rfl)
theorem dX0_maps_2_20 : decode cX0_maps_2 20 = .ok (.ifCond .ne 5, 3) := dk_154 0 5 (dk_at dksX0_maps_2_0 20 rfl rfl)
theorem dX0_maps_2_23 : decode cX0_maps_2 23 = .ok (.iconst 0, 1) := dk_3 (dk_at dksX0_maps_2_0 23 rfl rfl)
theorem dX0_maps_2_24 : decode cX0_maps_2 24 = .ok (.ireturn, 1) := dk_172 (dk_at dksX0_maps_2_1 0 rfl rfl)
theorem dX0_maps_2_25 : decode cX0_maps_2 25 = .ok (.aload_n 0, 1) := dk_42 (dk_at dksX0_maps_2_1 1 rfl rfl)
theorem dX0_maps_2_26 : decode cX0_maps_2 26 = .ok (.getfield 108, 3) := dk_180 0 108 (dk_at dksX0_maps_2_1 2 rfl rfl)
theorem dX0_maps_2_29 : decode cX0_maps_2 29 = .ok (.iconst 0, 1) := dk_3 (dk_at dksX0_maps_2_1 5 rfl rfl)
theorem dX0_maps_2_30 : decode cX0_maps_2 30 = .ok (.aaload, 1) := dk_50 (dk_at dksX0_maps_2_1 6 rfl rfl)
theorem dX0_maps_2_31 : decode cX0_maps_2 31 = .ok (.iconst 0, 1) := dk_3 (dk_at dksX0_maps_2_1 7 rfl rfl)
theorem dX0_maps_2_32 : decode cX0_maps_2 32 = .ok (.putfield 302, 3) := dk_181 1 46 (dk_at dksX0_maps_2_1 8 rfl rfl)
theorem dX0_maps_2_35 : decode cX0_maps_2 35 = .ok (.aload_n 0, 1) := dk_42 (dk_at dksX0_maps_2_1 11 rfl rfl)
theorem dX0_maps_2_36 : decode cX0_maps_2 36 = .ok (.aload_n 1, 1) := dk_43 (dk_at dksX0_maps_2_1 12 rfl rfl)
theorem dX0_maps_2_37 : decode cX0_maps_2 37 = .ok (.aload_n 2, 1) := dk_44 (dk_at dksX0_maps_2_1 13 rfl rfl)
theorem dX0_maps_2_38 : decode cX0_maps_2 38 = .ok (.iconst 0, 1) := dk_3 (dk_at dksX0_maps_2_1 14 rfl rfl)
theorem dX0_maps_2_39 : decode cX0_maps_2 39 = .ok (.iload_n 3, 1) := dk_29 (dk_at dksX0_maps_2_1 15 rfl rfl)
theorem dX0_maps_2_40 : decode cX0_maps_2 40 = .ok (.invokevirtual 460, 3) := dk_182 1 204 (dk_at dksX0_maps_2_1 16 rfl rfl)
theorem dX0_maps_2_43 : decode cX0_maps_2 43 = .ok (.aload_n 0, 1) := dk_42 (dk_at dksX0_maps_2_1 19 rfl rfl)
theorem dX0_maps_2_44 : decode cX0_maps_2 44 = .ok (.getfield 445, 3) := dk_180 1 189 (dk_at dksX0_maps_2_1 20 rfl rfl)
theorem dX0_maps_2_47 : decode cX0_maps_2 47 = .ok (.ireturn, 1) := dk_172 (dk_at dksX0_maps_2_1 23 rfl rfl)
abbrev cX0_seeks : ByteArray := prog_1_method_83_code
def dkwX0_seeks_7 : List UInt8 := [167, 255, 114, 177]
abbrev dktX0_seeks_7 : List UInt8 := dkwX0_seeks_7 ++ []
def dkwX0_seeks_6 : List UInt8 := [44, 29, 182, 1, 200, 153, 0, 14, 42, 43, 44, 29, 4, 96, 21, 4, 182, 1, 204, 132, 5, 1]
abbrev dktX0_seeks_6 : List UInt8 := dkwX0_seeks_6 ++ dktX0_seeks_7
def dkwX0_seeks_5 : List UInt8 := [182, 1, 80, 42, 180, 0, 108, 29, 4, 96, 50, 44, 42, 180, 0, 66, 182, 1, 50, 153, 0, 24, 42, 43]
abbrev dktX0_seeks_5 : List UInt8 := dkwX0_seeks_5 ++ dktX0_seeks_6
def dkwX0_seeks_4 : List UInt8 := [42, 180, 0, 66, 3, 8, 184, 0, 188, 42, 180, 0, 108, 29, 4, 96, 50, 42, 180, 0, 108, 29, 50]
abbrev dktX0_seeks_4 : List UInt8 := dkwX0_seeks_4 ++ dktX0_seeks_5
def dkwX0_seeks_3 : List UInt8 := [4, 96, 181, 1, 196, 44, 21, 5, 42, 180, 0, 105, 29, 50, 182, 1, 14, 42, 180, 0, 105, 29, 50, 3]
abbrev dktX0_seeks_3 : List UInt8 := dkwX0_seeks_3 ++ dktX0_seeks_4
def dkwX0_seeks_2 : List UInt8 := [157, 0, 120, 42, 180, 1, 196, 19, 1, 199, 160, 0, 9, 42, 4, 181, 1, 192, 177, 42, 89, 180, 1, 196]
abbrev dktX0_seeks_2 : List UInt8 := dkwX0_seeks_2 ++ dktX0_seeks_3
def dkwX0_seeks_1 : List UInt8 := [44, 182, 0, 199, 162, 0, 139, 42, 180, 1, 192, 154, 0, 132, 21, 4, 153, 0, 10, 42, 180, 1, 189]
abbrev dktX0_seeks_1 : List UInt8 := dkwX0_seeks_1 ++ dktX0_seeks_2
def dkwX0_seeks_0 : List UInt8 := [29, 43, 180, 0, 196, 160, 0, 14, 42, 89, 180, 1, 189, 4, 96, 181, 1, 189, 177, 4, 54, 5, 21, 5]
abbrev dktX0_seeks_0 : List UInt8 := dkwX0_seeks_0 ++ dktX0_seeks_1
theorem dksX0_seeks_0 : cX0_seeks.data.toList.drop 0 = dktX0_seeks_0 := by decide +kernel
theorem dksX0_seeks_1 : cX0_seeks.data.toList.drop 24 = dktX0_seeks_1 := dk_seg dksX0_seeks_0 24 rfl rfl
theorem dksX0_seeks_2 : cX0_seeks.data.toList.drop 47 = dktX0_seeks_2 := dk_seg dksX0_seeks_1 23 rfl rfl
theorem dksX0_seeks_3 : cX0_seeks.data.toList.drop 71 = dktX0_seeks_3 := dk_seg dksX0_seeks_2 24 rfl rfl
theorem dksX0_seeks_4 : cX0_seeks.data.toList.drop 95 = dktX0_seeks_4 := dk_seg dksX0_seeks_3 24 rfl rfl
theorem dksX0_seeks_5 : cX0_seeks.data.toList.drop 118 = dktX0_seeks_5 := dk_seg dksX0_seeks_4 23 rfl rfl
theorem dksX0_seeks_6 : cX0_seeks.data.toList.drop 142 = dktX0_seeks_6 := dk_seg dksX0_seeks_5 24 rfl rfl
theorem dksX0_seeks_7 : cX0_seeks.data.toList.drop 164 = dktX0_seeks_7 := dk_seg dksX0_seeks_6 22 rfl rfl
theorem dX0_seeks_0 : decode cX0_seeks 0 = .ok (.iload_n 3, 1) := dk_29 (dk_at dksX0_seeks_0 0 rfl rfl)
theorem dX0_seeks_1 : decode cX0_seeks 1 = .ok (.aload_n 1, 1) := dk_43 (dk_at dksX0_seeks_0 1 rfl rfl)
theorem dX0_seeks_2 : decode cX0_seeks 2 = .ok (.getfield 196, 3) := dk_180 0 196 (dk_at dksX0_seeks_0 2 rfl rfl)
theorem dX0_seeks_5 : decode cX0_seeks 5 = .ok (.if_icmp .ne 14, 3) := dk_160 0 14 (dk_at dksX0_seeks_0 5 rfl rfl)
theorem dX0_seeks_8 : decode cX0_seeks 8 = .ok (.aload_n 0, 1) := dk_42 (dk_at dksX0_seeks_0 8 rfl rfl)
theorem dX0_seeks_9 : decode cX0_seeks 9 = .ok (.dup, 1) := dk_89 (dk_at dksX0_seeks_0 9 rfl rfl)
theorem dX0_seeks_10 : decode cX0_seeks 10 = .ok (.getfield 445, 3) := dk_180 1 189 (dk_at dksX0_seeks_0 10 rfl rfl)
theorem dX0_seeks_13 : decode cX0_seeks 13 = .ok (.iconst 1, 1) := dk_4 (dk_at dksX0_seeks_0 13 rfl rfl)
theorem dX0_seeks_14 : decode cX0_seeks 14 = .ok (.iadd, 1) := dk_96 (dk_at dksX0_seeks_0 14 rfl rfl)
theorem dX0_seeks_15 : decode cX0_seeks 15 = .ok (.putfield 445, 3) := dk_181 1 189 (dk_at dksX0_seeks_0 15 rfl rfl)
theorem dX0_seeks_18 : decode cX0_seeks 18 = .ok (.return_, 1) := dk_177 (dk_at dksX0_seeks_0 18 rfl rfl)
theorem dX0_seeks_19 : decode cX0_seeks 19 = .ok (.iconst 1, 1) := dk_4 (dk_at dksX0_seeks_0 19 rfl rfl)
theorem dX0_seeks_20 : decode cX0_seeks 20 = .ok (.istore 5, 2) := dk_54 5 (dk_at dksX0_seeks_0 20 rfl rfl)
theorem dX0_seeks_22 : decode cX0_seeks 22 = .ok (.iload 5, 2) := dk_21 5 (dk_at dksX0_seeks_0 22 rfl rfl)
theorem dX0_seeks_24 : decode cX0_seeks 24 = .ok (.aload_n 2, 1) := dk_44 (dk_at dksX0_seeks_1 0 rfl rfl)
theorem dX0_seeks_25 : decode cX0_seeks 25 = .ok (.invokevirtual 199, 3) := dk_182 0 199 (dk_at dksX0_seeks_1 1 rfl rfl)
theorem dX0_seeks_28 : decode cX0_seeks 28 = .ok (.if_icmp .ge 139, 3) := dk_162 0 139 (dk_at dksX0_seeks_1 4 rfl rfl)
theorem dX0_seeks_31 : decode cX0_seeks 31 = .ok (.aload_n 0, 1) := dk_42 (dk_at dksX0_seeks_1 7 rfl rfl)
theorem dX0_seeks_32 : decode cX0_seeks 32 = .ok (.getfield 448, 3) := dk_180 1 192 (dk_at dksX0_seeks_1 8 rfl rfl)
theorem dX0_seeks_35 : decode cX0_seeks 35 = .ok (.ifCond .ne 132, 3) := dk_154 0 132 (dk_at dksX0_seeks_1 11 rfl rfl)
theorem dX0_seeks_38 : decode cX0_seeks 38 = .ok (.iload 4, 2) := dk_21 4 (dk_at dksX0_seeks_1 14 rfl rfl)
theorem dX0_seeks_40 : decode cX0_seeks 40 = .ok (.ifCond .eq 10, 3) := dk_153 0 10 (dk_at dksX0_seeks_1 16 rfl rfl)
theorem dX0_seeks_43 : decode cX0_seeks 43 = .ok (.aload_n 0, 1) := dk_42 (dk_at dksX0_seeks_1 19 rfl rfl)
theorem dX0_seeks_44 : decode cX0_seeks 44 = .ok (.getfield 445, 3) := dk_180 1 189 (dk_at dksX0_seeks_1 20 rfl rfl)
theorem dX0_seeks_47 : decode cX0_seeks 47 = .ok (.ifCond .gt 120, 3) := dk_157 0 120 (dk_at dksX0_seeks_2 0 rfl rfl)
theorem dX0_seeks_50 : decode cX0_seeks 50 = .ok (.aload_n 0, 1) := dk_42 (dk_at dksX0_seeks_2 3 rfl rfl)
theorem dX0_seeks_51 : decode cX0_seeks 51 = .ok (.getfield 452, 3) := dk_180 1 196 (dk_at dksX0_seeks_2 4 rfl rfl)
theorem dX0_seeks_54 : decode cX0_seeks 54 = .ok (.ldc_w 455, 3) := dk_19 1 199 (dk_at dksX0_seeks_2 7 rfl rfl)
theorem dX0_seeks_57 : decode cX0_seeks 57 = .ok (.if_icmp .ne 9, 3) := dk_160 0 9 (dk_at dksX0_seeks_2 10 rfl rfl)
theorem dX0_seeks_60 : decode cX0_seeks 60 = .ok (.aload_n 0, 1) := dk_42 (dk_at dksX0_seeks_2 13 rfl rfl)
theorem dX0_seeks_61 : decode cX0_seeks 61 = .ok (.iconst 1, 1) := dk_4 (dk_at dksX0_seeks_2 14 rfl rfl)
theorem dX0_seeks_62 : decode cX0_seeks 62 = .ok (.putfield 448, 3) := dk_181 1 192 (dk_at dksX0_seeks_2 15 rfl rfl)
theorem dX0_seeks_65 : decode cX0_seeks 65 = .ok (.return_, 1) := dk_177 (dk_at dksX0_seeks_2 18 rfl rfl)
theorem dX0_seeks_66 : decode cX0_seeks 66 = .ok (.aload_n 0, 1) := dk_42 (dk_at dksX0_seeks_2 19 rfl rfl)
theorem dX0_seeks_67 : decode cX0_seeks 67 = .ok (.dup, 1) := dk_89 (dk_at dksX0_seeks_2 20 rfl rfl)
theorem dX0_seeks_68 : decode cX0_seeks 68 = .ok (.getfield 452, 3) := dk_180 1 196 (dk_at dksX0_seeks_2 21 rfl rfl)
theorem dX0_seeks_71 : decode cX0_seeks 71 = .ok (.iconst 1, 1) := dk_4 (dk_at dksX0_seeks_3 0 rfl rfl)
theorem dX0_seeks_72 : decode cX0_seeks 72 = .ok (.iadd, 1) := dk_96 (dk_at dksX0_seeks_3 1 rfl rfl)
theorem dX0_seeks_73 : decode cX0_seeks 73 = .ok (.putfield 452, 3) := dk_181 1 196 (dk_at dksX0_seeks_3 2 rfl rfl)
theorem dX0_seeks_76 : decode cX0_seeks 76 = .ok (.aload_n 2, 1) := dk_44 (dk_at dksX0_seeks_3 5 rfl rfl)
theorem dX0_seeks_77 : decode cX0_seeks 77 = .ok (.iload 5, 2) := dk_21 5 (dk_at dksX0_seeks_3 6 rfl rfl)
theorem dX0_seeks_79 : decode cX0_seeks 79 = .ok (.aload_n 0, 1) := dk_42 (dk_at dksX0_seeks_3 8 rfl rfl)
theorem dX0_seeks_80 : decode cX0_seeks 80 = .ok (.getfield 105, 3) := dk_180 0 105 (dk_at dksX0_seeks_3 9 rfl rfl)
theorem dX0_seeks_83 : decode cX0_seeks 83 = .ok (.iload_n 3, 1) := dk_29 (dk_at dksX0_seeks_3 12 rfl rfl)
theorem dX0_seeks_84 : decode cX0_seeks 84 = .ok (.aaload, 1) := dk_50 (dk_at dksX0_seeks_3 13 rfl rfl)
theorem dX0_seeks_85 : decode cX0_seeks 85 = .ok (.invokevirtual 270, 3) := dk_182 1 14 (dk_at dksX0_seeks_3 14 rfl rfl)
theorem dX0_seeks_88 : decode cX0_seeks 88 = .ok (.aload_n 0, 1) := dk_42 (dk_at dksX0_seeks_3 17 rfl rfl)
theorem dX0_seeks_89 : decode cX0_seeks 89 = .ok (.getfield 105, 3) := dk_180 0 105 (dk_at dksX0_seeks_3 18 rfl rfl)
theorem dX0_seeks_92 : decode cX0_seeks 92 = .ok (.iload_n 3, 1) := dk_29 (dk_at dksX0_seeks_3 21 rfl rfl)
theorem dX0_seeks_93 : decode cX0_seeks 93 = .ok (.aaload, 1) := dk_50 (dk_at dksX0_seeks_3 22 rfl rfl)
theorem dX0_seeks_94 : decode cX0_seeks 94 = .ok (.iconst 0, 1) := dk_3 (dk_at dksX0_seeks_3 23 rfl rfl)
theorem dX0_seeks_95 : decode cX0_seeks 95 = .ok (.aload_n 0, 1) := dk_42 (dk_at dksX0_seeks_4 0 rfl rfl)
theorem dX0_seeks_96 : decode cX0_seeks 96 = .ok (.getfield 66, 3) := dk_180 0 66 (dk_at dksX0_seeks_4 1 rfl rfl)
theorem dX0_seeks_99 : decode cX0_seeks 99 = .ok (.iconst 0, 1) := dk_3 (dk_at dksX0_seeks_4 4 rfl rfl)
theorem dX0_seeks_100 : decode cX0_seeks 100 = .ok (.iconst 5, 1) := dk_8 (dk_at dksX0_seeks_4 5 rfl rfl)
theorem dX0_seeks_101 : decode cX0_seeks 101 = .ok (.invokestatic 188, 3) := dk_184 0 188 (dk_at dksX0_seeks_4 6 rfl rfl)
theorem dX0_seeks_104 : decode cX0_seeks 104 = .ok (.aload_n 0, 1) := dk_42 (dk_at dksX0_seeks_4 9 rfl rfl)
theorem dX0_seeks_105 : decode cX0_seeks 105 = .ok (.getfield 108, 3) := dk_180 0 108 (dk_at dksX0_seeks_4 10 rfl rfl)
theorem dX0_seeks_108 : decode cX0_seeks 108 = .ok (.iload_n 3, 1) := dk_29 (dk_at dksX0_seeks_4 13 rfl rfl)
theorem dX0_seeks_109 : decode cX0_seeks 109 = .ok (.iconst 1, 1) := dk_4 (dk_at dksX0_seeks_4 14 rfl rfl)
theorem dX0_seeks_110 : decode cX0_seeks 110 = .ok (.iadd, 1) := dk_96 (dk_at dksX0_seeks_4 15 rfl rfl)
theorem dX0_seeks_111 : decode cX0_seeks 111 = .ok (.aaload, 1) := dk_50 (dk_at dksX0_seeks_4 16 rfl rfl)
theorem dX0_seeks_112 : decode cX0_seeks 112 = .ok (.aload_n 0, 1) := dk_42 (dk_at dksX0_seeks_4 17 rfl rfl)
theorem dX0_seeks_113 : decode cX0_seeks 113 = .ok (.getfield 108, 3) := dk_180 0 108 (dk_at dksX0_seeks_4 18 rfl rfl)
theorem dX0_seeks_116 : decode cX0_seeks 116 = .ok (.iload_n 3, 1) := dk_29 (dk_at dksX0_seeks_4 21 rfl rfl)
theorem dX0_seeks_117 : decode cX0_seeks 117 = .ok (.aaload, 1) := dk_50 (dk_at dksX0_seeks_4 22 rfl rfl)
theorem dX0_seeks_118 : decode cX0_seeks 118 = .ok (.invokevirtual 336, 3) := dk_182 1 80 (dk_at dksX0_seeks_5 0 rfl rfl)
theorem dX0_seeks_121 : decode cX0_seeks 121 = .ok (.aload_n 0, 1) := dk_42 (dk_at dksX0_seeks_5 3 rfl rfl)
theorem dX0_seeks_122 : decode cX0_seeks 122 = .ok (.getfield 108, 3) := dk_180 0 108 (dk_at dksX0_seeks_5 4 rfl rfl)
theorem dX0_seeks_125 : decode cX0_seeks 125 = .ok (.iload_n 3, 1) := dk_29 (dk_at dksX0_seeks_5 7 rfl rfl)
theorem dX0_seeks_126 : decode cX0_seeks 126 = .ok (.iconst 1, 1) := dk_4 (dk_at dksX0_seeks_5 8 rfl rfl)
theorem dX0_seeks_127 : decode cX0_seeks 127 = .ok (.iadd, 1) := dk_96 (dk_at dksX0_seeks_5 9 rfl rfl)
theorem dX0_seeks_128 : decode cX0_seeks 128 = .ok (.aaload, 1) := dk_50 (dk_at dksX0_seeks_5 10 rfl rfl)
theorem dX0_seeks_129 : decode cX0_seeks 129 = .ok (.aload_n 2, 1) := dk_44 (dk_at dksX0_seeks_5 11 rfl rfl)
theorem dX0_seeks_130 : decode cX0_seeks 130 = .ok (.aload_n 0, 1) := dk_42 (dk_at dksX0_seeks_5 12 rfl rfl)
theorem dX0_seeks_131 : decode cX0_seeks 131 = .ok (.getfield 66, 3) := dk_180 0 66 (dk_at dksX0_seeks_5 13 rfl rfl)
theorem dX0_seeks_134 : decode cX0_seeks 134 = .ok (.invokevirtual 306, 3) := dk_182 1 50 (dk_at dksX0_seeks_5 16 rfl rfl)
theorem dX0_seeks_137 : decode cX0_seeks 137 = .ok (.ifCond .eq 24, 3) := dk_153 0 24 (dk_at dksX0_seeks_5 19 rfl rfl)
theorem dX0_seeks_140 : decode cX0_seeks 140 = .ok (.aload_n 0, 1) := dk_42 (dk_at dksX0_seeks_5 22 rfl rfl)
theorem dX0_seeks_141 : decode cX0_seeks 141 = .ok (.aload_n 1, 1) := dk_43 (dk_at dksX0_seeks_5 23 rfl rfl)
theorem dX0_seeks_142 : decode cX0_seeks 142 = .ok (.aload_n 2, 1) := dk_44 (dk_at dksX0_seeks_6 0 rfl rfl)
theorem dX0_seeks_143 : decode cX0_seeks 143 = .ok (.iload_n 3, 1) := dk_29 (dk_at dksX0_seeks_6 1 rfl rfl)
theorem dX0_seeks_144 : decode cX0_seeks 144 = .ok (.invokevirtual 456, 3) := dk_182 1 200 (dk_at dksX0_seeks_6 2 rfl rfl)
theorem dX0_seeks_147 : decode cX0_seeks 147 = .ok (.ifCond .eq 14, 3) := dk_153 0 14 (dk_at dksX0_seeks_6 5 rfl rfl)
theorem dX0_seeks_150 : decode cX0_seeks 150 = .ok (.aload_n 0, 1) := dk_42 (dk_at dksX0_seeks_6 8 rfl rfl)
theorem dX0_seeks_151 : decode cX0_seeks 151 = .ok (.aload_n 1, 1) := dk_43 (dk_at dksX0_seeks_6 9 rfl rfl)
theorem dX0_seeks_152 : decode cX0_seeks 152 = .ok (.aload_n 2, 1) := dk_44 (dk_at dksX0_seeks_6 10 rfl rfl)
theorem dX0_seeks_153 : decode cX0_seeks 153 = .ok (.iload_n 3, 1) := dk_29 (dk_at dksX0_seeks_6 11 rfl rfl)
theorem dX0_seeks_154 : decode cX0_seeks 154 = .ok (.iconst 1, 1) := dk_4 (dk_at dksX0_seeks_6 12 rfl rfl)
theorem dX0_seeks_155 : decode cX0_seeks 155 = .ok (.iadd, 1) := dk_96 (dk_at dksX0_seeks_6 13 rfl rfl)
theorem dX0_seeks_156 : decode cX0_seeks 156 = .ok (.iload 4, 2) := dk_21 4 (dk_at dksX0_seeks_6 14 rfl rfl)
theorem dX0_seeks_158 : decode cX0_seeks 158 = .ok (.invokevirtual 460, 3) := dk_182 1 204 (dk_at dksX0_seeks_6 16 rfl rfl)
theorem dX0_seeks_161 : decode cX0_seeks 161 = .ok (.iinc 5 1, 3) := dk_132 5 1 (dk_at dksX0_seeks_6 19 rfl rfl)
theorem dX0_seeks_164 : decode cX0_seeks 164 = .ok (.goto (-142), 3) := dk_167 255 114 (dk_at dksX0_seeks_7 0 rfl rfl)
theorem dX0_seeks_167 : decode cX0_seeks 167 = .ok (.return_, 1) := dk_177 (dk_at dksX0_seeks_7 3 rfl rfl)
abbrev cX0_fits : ByteArray := prog_1_method_82_code
def dkwX0_fits_8 : List UInt8 := [132, 5, 1, 167, 255, 83, 132, 4, 1, 167, 255, 65, 4, 172]
abbrev dktX0_fits_8 : List UInt8 := dkwX0_fits_8 ++ []
def dkwX0_fits_7 : List UInt8 := [21, 8, 182, 1, 26, 42, 180, 0, 63, 21, 7, 46, 159, 0, 5, 3, 172, 132, 7, 1, 167, 255, 179]
abbrev dktX0_fits_7 : List UInt8 := dkwX0_fits_7 ++ dktX0_fits_8
def dkwX0_fits_6 : List UInt8 := [21, 9, 46, 42, 180, 0, 105, 21, 9, 50, 21, 7, 46, 104, 96, 54, 8, 132, 9, 1, 167, 255, 218, 44]
abbrev dktX0_fits_6 : List UInt8 := dkwX0_fits_6 ++ dktX0_fits_7
def dkwX0_fits_5 : List UInt8 := [54, 8, 3, 54, 9, 21, 9, 29, 163, 0, 38, 21, 8, 43, 180, 1, 0, 21, 4, 50, 21, 5, 50]
abbrev dktX0_fits_5 : List UInt8 := dkwX0_fits_5 ++ dktX0_fits_6
def dkwX0_fits_4 : List UInt8 := [21, 5, 50, 42, 180, 0, 63, 182, 1, 18, 3, 54, 7, 21, 7, 43, 180, 0, 196, 162, 0, 74, 3]
abbrev dktX0_fits_4 : List UInt8 := dkwX0_fits_4 ++ dktX0_fits_5
def dkwX0_fits_3 : List UInt8 := [167, 255, 216, 21, 6, 154, 0, 6, 167, 0, 108, 44, 42, 180, 0, 105, 21, 4, 50, 42, 180, 0, 105]
abbrev dktX0_fits_3 : List UInt8 := dkwX0_fits_3 ++ dktX0_fits_4
def dkwX0_fits_2 : List UInt8 := [21, 4, 50, 21, 5, 50, 21, 7, 46, 154, 0, 7, 4, 167, 0, 4, 3, 54, 6, 132, 7, 1]
abbrev dktX0_fits_2 : List UInt8 := dkwX0_fits_2 ++ dktX0_fits_3
def dkwX0_fits_1 : List UInt8 := [29, 4, 96, 54, 7, 21, 7, 43, 180, 0, 196, 162, 0, 37, 21, 6, 153, 0, 23, 43, 180, 1, 0]
abbrev dktX0_fits_1 : List UInt8 := dkwX0_fits_1 ++ dktX0_fits_2
def dkwX0_fits_0 : List UInt8 := [3, 54, 4, 21, 4, 29, 162, 0, 191, 21, 4, 4, 96, 54, 5, 21, 5, 29, 163, 0, 173, 4, 54, 6]
abbrev dktX0_fits_0 : List UInt8 := dkwX0_fits_0 ++ dktX0_fits_1
theorem dksX0_fits_0 : cX0_fits.data.toList.drop 0 = dktX0_fits_0 := by decide +kernel
theorem dksX0_fits_1 : cX0_fits.data.toList.drop 24 = dktX0_fits_1 := dk_seg dksX0_fits_0 24 rfl rfl
theorem dksX0_fits_2 : cX0_fits.data.toList.drop 47 = dktX0_fits_2 := dk_seg dksX0_fits_1 23 rfl rfl
theorem dksX0_fits_3 : cX0_fits.data.toList.drop 69 = dktX0_fits_3 := dk_seg dksX0_fits_2 22 rfl rfl
theorem dksX0_fits_4 : cX0_fits.data.toList.drop 92 = dktX0_fits_4 := dk_seg dksX0_fits_3 23 rfl rfl
theorem dksX0_fits_5 : cX0_fits.data.toList.drop 115 = dktX0_fits_5 := dk_seg dksX0_fits_4 23 rfl rfl
theorem dksX0_fits_6 : cX0_fits.data.toList.drop 138 = dktX0_fits_6 := dk_seg dksX0_fits_5 23 rfl rfl
theorem dksX0_fits_7 : cX0_fits.data.toList.drop 162 = dktX0_fits_7 := dk_seg dksX0_fits_6 24 rfl rfl
theorem dksX0_fits_8 : cX0_fits.data.toList.drop 185 = dktX0_fits_8 := dk_seg dksX0_fits_7 23 rfl rfl
theorem dX0_fits_0 : decode cX0_fits 0 = .ok (.iconst 0, 1) := dk_3 (dk_at dksX0_fits_0 0 rfl rfl)
theorem dX0_fits_1 : decode cX0_fits 1 = .ok (.istore 4, 2) := dk_54 4 (dk_at dksX0_fits_0 1 rfl rfl)
theorem dX0_fits_3 : decode cX0_fits 3 = .ok (.iload 4, 2) := dk_21 4 (dk_at dksX0_fits_0 3 rfl rfl)
theorem dX0_fits_5 : decode cX0_fits 5 = .ok (.iload_n 3, 1) := dk_29 (dk_at dksX0_fits_0 5 rfl rfl)
theorem dX0_fits_6 : decode cX0_fits 6 = .ok (.if_icmp .ge 191, 3) := dk_162 0 191 (dk_at dksX0_fits_0 6 rfl rfl)
theorem dX0_fits_9 : decode cX0_fits 9 = .ok (.iload 4, 2) := dk_21 4 (dk_at dksX0_fits_0 9 rfl rfl)
theorem dX0_fits_11 : decode cX0_fits 11 = .ok (.iconst 1, 1) := dk_4 (dk_at dksX0_fits_0 11 rfl rfl)
theorem dX0_fits_12 : decode cX0_fits 12 = .ok (.iadd, 1) := dk_96 (dk_at dksX0_fits_0 12 rfl rfl)
theorem dX0_fits_13 : decode cX0_fits 13 = .ok (.istore 5, 2) := dk_54 5 (dk_at dksX0_fits_0 13 rfl rfl)
theorem dX0_fits_15 : decode cX0_fits 15 = .ok (.iload 5, 2) := dk_21 5 (dk_at dksX0_fits_0 15 rfl rfl)
theorem dX0_fits_17 : decode cX0_fits 17 = .ok (.iload_n 3, 1) := dk_29 (dk_at dksX0_fits_0 17 rfl rfl)
theorem dX0_fits_18 : decode cX0_fits 18 = .ok (.if_icmp .gt 173, 3) := dk_163 0 173 (dk_at dksX0_fits_0 18 rfl rfl)
theorem dX0_fits_21 : decode cX0_fits 21 = .ok (.iconst 1, 1) := dk_4 (dk_at dksX0_fits_0 21 rfl rfl)
theorem dX0_fits_22 : decode cX0_fits 22 = .ok (.istore 6, 2) := dk_54 6 (dk_at dksX0_fits_0 22 rfl rfl)
theorem dX0_fits_24 : decode cX0_fits 24 = .ok (.iload_n 3, 1) := dk_29 (dk_at dksX0_fits_1 0 rfl rfl)
theorem dX0_fits_25 : decode cX0_fits 25 = .ok (.iconst 1, 1) := dk_4 (dk_at dksX0_fits_1 1 rfl rfl)
theorem dX0_fits_26 : decode cX0_fits 26 = .ok (.iadd, 1) := dk_96 (dk_at dksX0_fits_1 2 rfl rfl)
theorem dX0_fits_27 : decode cX0_fits 27 = .ok (.istore 7, 2) := dk_54 7 (dk_at dksX0_fits_1 3 rfl rfl)
theorem dX0_fits_29 : decode cX0_fits 29 = .ok (.iload 7, 2) := dk_21 7 (dk_at dksX0_fits_1 5 rfl rfl)
theorem dX0_fits_31 : decode cX0_fits 31 = .ok (.aload_n 1, 1) := dk_43 (dk_at dksX0_fits_1 7 rfl rfl)
theorem dX0_fits_32 : decode cX0_fits 32 = .ok (.getfield 196, 3) := dk_180 0 196 (dk_at dksX0_fits_1 8 rfl rfl)
theorem dX0_fits_35 : decode cX0_fits 35 = .ok (.if_icmp .ge 37, 3) := dk_162 0 37 (dk_at dksX0_fits_1 11 rfl rfl)
theorem dX0_fits_38 : decode cX0_fits 38 = .ok (.iload 6, 2) := dk_21 6 (dk_at dksX0_fits_1 14 rfl rfl)
theorem dX0_fits_40 : decode cX0_fits 40 = .ok (.ifCond .eq 23, 3) := dk_153 0 23 (dk_at dksX0_fits_1 16 rfl rfl)
theorem dX0_fits_43 : decode cX0_fits 43 = .ok (.aload_n 1, 1) := dk_43 (dk_at dksX0_fits_1 19 rfl rfl)
theorem dX0_fits_44 : decode cX0_fits 44 = .ok (.getfield 256, 3) := dk_180 1 0 (dk_at dksX0_fits_1 20 rfl rfl)
theorem dX0_fits_47 : decode cX0_fits 47 = .ok (.iload 4, 2) := dk_21 4 (dk_at dksX0_fits_2 0 rfl rfl)
theorem dX0_fits_49 : decode cX0_fits 49 = .ok (.aaload, 1) := dk_50 (dk_at dksX0_fits_2 2 rfl rfl)
theorem dX0_fits_50 : decode cX0_fits 50 = .ok (.iload 5, 2) := dk_21 5 (dk_at dksX0_fits_2 3 rfl rfl)
theorem dX0_fits_52 : decode cX0_fits 52 = .ok (.aaload, 1) := dk_50 (dk_at dksX0_fits_2 5 rfl rfl)
theorem dX0_fits_53 : decode cX0_fits 53 = .ok (.iload 7, 2) := dk_21 7 (dk_at dksX0_fits_2 6 rfl rfl)
theorem dX0_fits_55 : decode cX0_fits 55 = .ok (.iaload, 1) := dk_46 (dk_at dksX0_fits_2 8 rfl rfl)
theorem dX0_fits_56 : decode cX0_fits 56 = .ok (.ifCond .ne 7, 3) := dk_154 0 7 (dk_at dksX0_fits_2 9 rfl rfl)
theorem dX0_fits_59 : decode cX0_fits 59 = .ok (.iconst 1, 1) := dk_4 (dk_at dksX0_fits_2 12 rfl rfl)
theorem dX0_fits_60 : decode cX0_fits 60 = .ok (.goto 4, 3) := dk_167 0 4 (dk_at dksX0_fits_2 13 rfl rfl)
theorem dX0_fits_63 : decode cX0_fits 63 = .ok (.iconst 0, 1) := dk_3 (dk_at dksX0_fits_2 16 rfl rfl)
theorem dX0_fits_64 : decode cX0_fits 64 = .ok (.istore 6, 2) := dk_54 6 (dk_at dksX0_fits_2 17 rfl rfl)
theorem dX0_fits_66 : decode cX0_fits 66 = .ok (.iinc 7 1, 3) := dk_132 7 1 (dk_at dksX0_fits_2 19 rfl rfl)
theorem dX0_fits_69 : decode cX0_fits 69 = .ok (.goto (-40), 3) := dk_167 255 216 (dk_at dksX0_fits_3 0 rfl rfl)
theorem dX0_fits_72 : decode cX0_fits 72 = .ok (.iload 6, 2) := dk_21 6 (dk_at dksX0_fits_3 3 rfl rfl)
theorem dX0_fits_74 : decode cX0_fits 74 = .ok (.ifCond .ne 6, 3) := dk_154 0 6 (dk_at dksX0_fits_3 5 rfl rfl)
theorem dX0_fits_77 : decode cX0_fits 77 = .ok (.goto 108, 3) := dk_167 0 108 (dk_at dksX0_fits_3 8 rfl rfl)
theorem dX0_fits_80 : decode cX0_fits 80 = .ok (.aload_n 2, 1) := dk_44 (dk_at dksX0_fits_3 11 rfl rfl)
theorem dX0_fits_81 : decode cX0_fits 81 = .ok (.aload_n 0, 1) := dk_42 (dk_at dksX0_fits_3 12 rfl rfl)
theorem dX0_fits_82 : decode cX0_fits 82 = .ok (.getfield 105, 3) := dk_180 0 105 (dk_at dksX0_fits_3 13 rfl rfl)
theorem dX0_fits_85 : decode cX0_fits 85 = .ok (.iload 4, 2) := dk_21 4 (dk_at dksX0_fits_3 16 rfl rfl)
theorem dX0_fits_87 : decode cX0_fits 87 = .ok (.aaload, 1) := dk_50 (dk_at dksX0_fits_3 18 rfl rfl)
theorem dX0_fits_88 : decode cX0_fits 88 = .ok (.aload_n 0, 1) := dk_42 (dk_at dksX0_fits_3 19 rfl rfl)
theorem dX0_fits_89 : decode cX0_fits 89 = .ok (.getfield 105, 3) := dk_180 0 105 (dk_at dksX0_fits_3 20 rfl rfl)
theorem dX0_fits_92 : decode cX0_fits 92 = .ok (.iload 5, 2) := dk_21 5 (dk_at dksX0_fits_4 0 rfl rfl)
theorem dX0_fits_94 : decode cX0_fits 94 = .ok (.aaload, 1) := dk_50 (dk_at dksX0_fits_4 2 rfl rfl)
theorem dX0_fits_95 : decode cX0_fits 95 = .ok (.aload_n 0, 1) := dk_42 (dk_at dksX0_fits_4 3 rfl rfl)
theorem dX0_fits_96 : decode cX0_fits 96 = .ok (.getfield 63, 3) := dk_180 0 63 (dk_at dksX0_fits_4 4 rfl rfl)
theorem dX0_fits_99 : decode cX0_fits 99 = .ok (.invokevirtual 274, 3) := dk_182 1 18 (dk_at dksX0_fits_4 7 rfl rfl)
theorem dX0_fits_102 : decode cX0_fits 102 = .ok (.iconst 0, 1) := dk_3 (dk_at dksX0_fits_4 10 rfl rfl)
theorem dX0_fits_103 : decode cX0_fits 103 = .ok (.istore 7, 2) := dk_54 7 (dk_at dksX0_fits_4 11 rfl rfl)
theorem dX0_fits_105 : decode cX0_fits 105 = .ok (.iload 7, 2) := dk_21 7 (dk_at dksX0_fits_4 13 rfl rfl)
theorem dX0_fits_107 : decode cX0_fits 107 = .ok (.aload_n 1, 1) := dk_43 (dk_at dksX0_fits_4 15 rfl rfl)
theorem dX0_fits_108 : decode cX0_fits 108 = .ok (.getfield 196, 3) := dk_180 0 196 (dk_at dksX0_fits_4 16 rfl rfl)
theorem dX0_fits_111 : decode cX0_fits 111 = .ok (.if_icmp .ge 74, 3) := dk_162 0 74 (dk_at dksX0_fits_4 19 rfl rfl)
theorem dX0_fits_114 : decode cX0_fits 114 = .ok (.iconst 0, 1) := dk_3 (dk_at dksX0_fits_4 22 rfl rfl)
theorem dX0_fits_115 : decode cX0_fits 115 = .ok (.istore 8, 2) := dk_54 8 (dk_at dksX0_fits_5 0 rfl rfl)
theorem dX0_fits_117 : decode cX0_fits 117 = .ok (.iconst 0, 1) := dk_3 (dk_at dksX0_fits_5 2 rfl rfl)
theorem dX0_fits_118 : decode cX0_fits 118 = .ok (.istore 9, 2) := dk_54 9 (dk_at dksX0_fits_5 3 rfl rfl)
theorem dX0_fits_120 : decode cX0_fits 120 = .ok (.iload 9, 2) := dk_21 9 (dk_at dksX0_fits_5 5 rfl rfl)
theorem dX0_fits_122 : decode cX0_fits 122 = .ok (.iload_n 3, 1) := dk_29 (dk_at dksX0_fits_5 7 rfl rfl)
theorem dX0_fits_123 : decode cX0_fits 123 = .ok (.if_icmp .gt 38, 3) := dk_163 0 38 (dk_at dksX0_fits_5 8 rfl rfl)
theorem dX0_fits_126 : decode cX0_fits 126 = .ok (.iload 8, 2) := dk_21 8 (dk_at dksX0_fits_5 11 rfl rfl)
theorem dX0_fits_128 : decode cX0_fits 128 = .ok (.aload_n 1, 1) := dk_43 (dk_at dksX0_fits_5 13 rfl rfl)
theorem dX0_fits_129 : decode cX0_fits 129 = .ok (.getfield 256, 3) := dk_180 1 0 (dk_at dksX0_fits_5 14 rfl rfl)
theorem dX0_fits_132 : decode cX0_fits 132 = .ok (.iload 4, 2) := dk_21 4 (dk_at dksX0_fits_5 17 rfl rfl)
theorem dX0_fits_134 : decode cX0_fits 134 = .ok (.aaload, 1) := dk_50 (dk_at dksX0_fits_5 19 rfl rfl)
theorem dX0_fits_135 : decode cX0_fits 135 = .ok (.iload 5, 2) := dk_21 5 (dk_at dksX0_fits_5 20 rfl rfl)
theorem dX0_fits_137 : decode cX0_fits 137 = .ok (.aaload, 1) := dk_50 (dk_at dksX0_fits_5 22 rfl rfl)
theorem dX0_fits_138 : decode cX0_fits 138 = .ok (.iload 9, 2) := dk_21 9 (dk_at dksX0_fits_6 0 rfl rfl)
theorem dX0_fits_140 : decode cX0_fits 140 = .ok (.iaload, 1) := dk_46 (dk_at dksX0_fits_6 2 rfl rfl)
theorem dX0_fits_141 : decode cX0_fits 141 = .ok (.aload_n 0, 1) := dk_42 (dk_at dksX0_fits_6 3 rfl rfl)
theorem dX0_fits_142 : decode cX0_fits 142 = .ok (.getfield 105, 3) := dk_180 0 105 (dk_at dksX0_fits_6 4 rfl rfl)
theorem dX0_fits_145 : decode cX0_fits 145 = .ok (.iload 9, 2) := dk_21 9 (dk_at dksX0_fits_6 7 rfl rfl)
theorem dX0_fits_147 : decode cX0_fits 147 = .ok (.aaload, 1) := dk_50 (dk_at dksX0_fits_6 9 rfl rfl)
theorem dX0_fits_148 : decode cX0_fits 148 = .ok (.iload 7, 2) := dk_21 7 (dk_at dksX0_fits_6 10 rfl rfl)
theorem dX0_fits_150 : decode cX0_fits 150 = .ok (.iaload, 1) := dk_46 (dk_at dksX0_fits_6 12 rfl rfl)
theorem dX0_fits_151 : decode cX0_fits 151 = .ok (.imul, 1) := dk_104 (dk_at dksX0_fits_6 13 rfl rfl)
theorem dX0_fits_152 : decode cX0_fits 152 = .ok (.iadd, 1) := dk_96 (dk_at dksX0_fits_6 14 rfl rfl)
theorem dX0_fits_153 : decode cX0_fits 153 = .ok (.istore 8, 2) := dk_54 8 (dk_at dksX0_fits_6 15 rfl rfl)
theorem dX0_fits_155 : decode cX0_fits 155 = .ok (.iinc 9 1, 3) := dk_132 9 1 (dk_at dksX0_fits_6 17 rfl rfl)
theorem dX0_fits_158 : decode cX0_fits 158 = .ok (.goto (-38), 3) := dk_167 255 218 (dk_at dksX0_fits_6 20 rfl rfl)
theorem dX0_fits_161 : decode cX0_fits 161 = .ok (.aload_n 2, 1) := dk_44 (dk_at dksX0_fits_6 23 rfl rfl)
theorem dX0_fits_162 : decode cX0_fits 162 = .ok (.iload 8, 2) := dk_21 8 (dk_at dksX0_fits_7 0 rfl rfl)
theorem dX0_fits_164 : decode cX0_fits 164 = .ok (.invokevirtual 282, 3) := dk_182 1 26 (dk_at dksX0_fits_7 2 rfl rfl)
theorem dX0_fits_167 : decode cX0_fits 167 = .ok (.aload_n 0, 1) := dk_42 (dk_at dksX0_fits_7 5 rfl rfl)
theorem dX0_fits_168 : decode cX0_fits 168 = .ok (.getfield 63, 3) := dk_180 0 63 (dk_at dksX0_fits_7 6 rfl rfl)
theorem dX0_fits_171 : decode cX0_fits 171 = .ok (.iload 7, 2) := dk_21 7 (dk_at dksX0_fits_7 9 rfl rfl)
theorem dX0_fits_173 : decode cX0_fits 173 = .ok (.iaload, 1) := dk_46 (dk_at dksX0_fits_7 11 rfl rfl)
theorem dX0_fits_174 : decode cX0_fits 174 = .ok (.if_icmp .eq 5, 3) := dk_159 0 5 (dk_at dksX0_fits_7 12 rfl rfl)
theorem dX0_fits_177 : decode cX0_fits 177 = .ok (.iconst 0, 1) := dk_3 (dk_at dksX0_fits_7 15 rfl rfl)
theorem dX0_fits_178 : decode cX0_fits 178 = .ok (.ireturn, 1) := dk_172 (dk_at dksX0_fits_7 16 rfl rfl)
theorem dX0_fits_179 : decode cX0_fits 179 = .ok (.iinc 7 1, 3) := dk_132 7 1 (dk_at dksX0_fits_7 17 rfl rfl)
theorem dX0_fits_182 : decode cX0_fits 182 = .ok (.goto (-77), 3) := dk_167 255 179 (dk_at dksX0_fits_7 20 rfl rfl)
theorem dX0_fits_185 : decode cX0_fits 185 = .ok (.iinc 5 1, 3) := dk_132 5 1 (dk_at dksX0_fits_8 0 rfl rfl)
theorem dX0_fits_188 : decode cX0_fits 188 = .ok (.goto (-173), 3) := dk_167 255 83 (dk_at dksX0_fits_8 3 rfl rfl)
theorem dX0_fits_191 : decode cX0_fits 191 = .ok (.iinc 4 1, 3) := dk_132 4 1 (dk_at dksX0_fits_8 6 rfl rfl)
theorem dX0_fits_194 : decode cX0_fits 194 = .ok (.goto (-191), 3) := dk_167 255 65 (dk_at dksX0_fits_8 9 rfl rfl)
theorem dX0_fits_197 : decode cX0_fits 197 = .ok (.iconst 1, 1) := dk_4 (dk_at dksX0_fits_8 12 rfl rfl)
theorem dX0_fits_198 : decode cX0_fits 198 = .ok (.ireturn, 1) := dk_172 (dk_at dksX0_fits_8 13 rfl rfl)
abbrev cX0_sameAs : ByteArray := prog_1_method_87_code
def dkwX0_sameAs_1 : List UInt8 := [42, 180, 0, 37, 27, 50, 4, 182, 1, 211, 182, 1, 215, 172]
abbrev dktX0_sameAs_1 : List UInt8 := dkwX0_sameAs_1 ++ []
def dkwX0_sameAs_0 : List UInt8 := [42, 27, 182, 1, 43, 61, 28, 158, 0, 11, 42, 28, 182, 0, 171, 167, 0, 22, 42, 42, 42, 180, 0, 30]
abbrev dktX0_sameAs_0 : List UInt8 := dkwX0_sameAs_0 ++ dktX0_sameAs_1
theorem dksX0_sameAs_0 : cX0_sameAs.data.toList.drop 0 = dktX0_sameAs_0 := by decide +kernel
theorem dksX0_sameAs_1 : cX0_sameAs.data.toList.drop 24 = dktX0_sameAs_1 := dk_seg dksX0_sameAs_0 24 rfl rfl
theorem dX0_sameAs_0 : decode cX0_sameAs 0 = .ok (.aload_n 0, 1) := dk_42 (dk_at dksX0_sameAs_0 0 rfl rfl)
theorem dX0_sameAs_1 : decode cX0_sameAs 1 = .ok (.iload_n 1, 1) := dk_27 (dk_at dksX0_sameAs_0 1 rfl rfl)
theorem dX0_sameAs_2 : decode cX0_sameAs 2 = .ok (.invokevirtual 299, 3) := dk_182 1 43 (dk_at dksX0_sameAs_0 2 rfl rfl)
theorem dX0_sameAs_5 : decode cX0_sameAs 5 = .ok (.istore_n 2, 1) := dk_61 (dk_at dksX0_sameAs_0 5 rfl rfl)
theorem dX0_sameAs_6 : decode cX0_sameAs 6 = .ok (.iload_n 2, 1) := dk_28 (dk_at dksX0_sameAs_0 6 rfl rfl)
theorem dX0_sameAs_7 : decode cX0_sameAs 7 = .ok (.ifCond .le 11, 3) := dk_158 0 11 (dk_at dksX0_sameAs_0 7 rfl rfl)
theorem dX0_sameAs_10 : decode cX0_sameAs 10 = .ok (.aload_n 0, 1) := dk_42 (dk_at dksX0_sameAs_0 10 rfl rfl)
theorem dX0_sameAs_11 : decode cX0_sameAs 11 = .ok (.iload_n 2, 1) := dk_28 (dk_at dksX0_sameAs_0 11 rfl rfl)
theorem dX0_sameAs_12 : decode cX0_sameAs 12 = .ok (.invokevirtual 171, 3) := dk_182 0 171 (dk_at dksX0_sameAs_0 12 rfl rfl)
theorem dX0_sameAs_15 : decode cX0_sameAs 15 = .ok (.goto 22, 3) := dk_167 0 22 (dk_at dksX0_sameAs_0 15 rfl rfl)
theorem dX0_sameAs_18 : decode cX0_sameAs 18 = .ok (.aload_n 0, 1) := dk_42 (dk_at dksX0_sameAs_0 18 rfl rfl)
theorem dX0_sameAs_19 : decode cX0_sameAs 19 = .ok (.aload_n 0, 1) := dk_42 (dk_at dksX0_sameAs_0 19 rfl rfl)
theorem dX0_sameAs_20 : decode cX0_sameAs 20 = .ok (.aload_n 0, 1) := dk_42 (dk_at dksX0_sameAs_0 20 rfl rfl)
theorem dX0_sameAs_21 : decode cX0_sameAs 21 = .ok (.getfield 30, 3) := dk_180 0 30 (dk_at dksX0_sameAs_0 21 rfl rfl)
theorem dX0_sameAs_24 : decode cX0_sameAs 24 = .ok (.aload_n 0, 1) := dk_42 (dk_at dksX0_sameAs_1 0 rfl rfl)
theorem dX0_sameAs_25 : decode cX0_sameAs 25 = .ok (.getfield 37, 3) := dk_180 0 37 (dk_at dksX0_sameAs_1 1 rfl rfl)
theorem dX0_sameAs_28 : decode cX0_sameAs 28 = .ok (.iload_n 1, 1) := dk_27 (dk_at dksX0_sameAs_1 4 rfl rfl)
theorem dX0_sameAs_29 : decode cX0_sameAs 29 = .ok (.aaload, 1) := dk_50 (dk_at dksX0_sameAs_1 5 rfl rfl)
theorem dX0_sameAs_30 : decode cX0_sameAs 30 = .ok (.iconst 1, 1) := dk_4 (dk_at dksX0_sameAs_1 6 rfl rfl)
theorem dX0_sameAs_31 : decode cX0_sameAs 31 = .ok (.invokevirtual 467, 3) := dk_182 1 211 (dk_at dksX0_sameAs_1 7 rfl rfl)
theorem dX0_sameAs_34 : decode cX0_sameAs 34 = .ok (.invokevirtual 471, 3) := dk_182 1 215 (dk_at dksX0_sameAs_1 10 rfl rfl)
theorem dX0_sameAs_37 : decode cX0_sameAs 37 = .ok (.ireturn, 1) := dk_172 (dk_at dksX0_sameAs_1 13 rfl rfl)
abbrev cX0_orSpent : ByteArray := prog_1_method_85_code
def dkwX0_orSpent_1 : List UInt8 := [182, 0, 171, 167, 0, 8, 42, 27, 182, 0, 235, 172]
abbrev dktX0_orSpent_1 : List UInt8 := dkwX0_orSpent_1 ++ []
def dkwX0_orSpent_0 : List UInt8 := [42, 42, 180, 1, 196, 181, 0, 112, 42, 180, 1, 192, 153, 0, 17, 27, 4, 159, 0, 12, 42, 16, 9]
abbrev dktX0_orSpent_0 : List UInt8 := dkwX0_orSpent_0 ++ dktX0_orSpent_1
theorem dksX0_orSpent_0 : cX0_orSpent.data.toList.drop 0 = dktX0_orSpent_0 := by decide +kernel
theorem dksX0_orSpent_1 : cX0_orSpent.data.toList.drop 23 = dktX0_orSpent_1 := dk_seg dksX0_orSpent_0 23 rfl rfl
theorem dX0_orSpent_0 : decode cX0_orSpent 0 = .ok (.aload_n 0, 1) := dk_42 (dk_at dksX0_orSpent_0 0 rfl rfl)
theorem dX0_orSpent_1 : decode cX0_orSpent 1 = .ok (.aload_n 0, 1) := dk_42 (dk_at dksX0_orSpent_0 1 rfl rfl)
theorem dX0_orSpent_2 : decode cX0_orSpent 2 = .ok (.getfield 452, 3) := dk_180 1 196 (dk_at dksX0_orSpent_0 2 rfl rfl)
theorem dX0_orSpent_5 : decode cX0_orSpent 5 = .ok (.putfield 112, 3) := dk_181 0 112 (dk_at dksX0_orSpent_0 5 rfl rfl)
theorem dX0_orSpent_8 : decode cX0_orSpent 8 = .ok (.aload_n 0, 1) := dk_42 (dk_at dksX0_orSpent_0 8 rfl rfl)
theorem dX0_orSpent_9 : decode cX0_orSpent 9 = .ok (.getfield 448, 3) := dk_180 1 192 (dk_at dksX0_orSpent_0 9 rfl rfl)
theorem dX0_orSpent_12 : decode cX0_orSpent 12 = .ok (.ifCond .eq 17, 3) := dk_153 0 17 (dk_at dksX0_orSpent_0 12 rfl rfl)
theorem dX0_orSpent_15 : decode cX0_orSpent 15 = .ok (.iload_n 1, 1) := dk_27 (dk_at dksX0_orSpent_0 15 rfl rfl)
theorem dX0_orSpent_16 : decode cX0_orSpent 16 = .ok (.iconst 1, 1) := dk_4 (dk_at dksX0_orSpent_0 16 rfl rfl)
theorem dX0_orSpent_17 : decode cX0_orSpent 17 = .ok (.if_icmp .eq 12, 3) := dk_159 0 12 (dk_at dksX0_orSpent_0 17 rfl rfl)
theorem dX0_orSpent_20 : decode cX0_orSpent 20 = .ok (.aload_n 0, 1) := dk_42 (dk_at dksX0_orSpent_0 20 rfl rfl)
theorem dX0_orSpent_21 : decode cX0_orSpent 21 = .ok (.bipush 9, 2) := dk_16 9 (dk_at dksX0_orSpent_0 21 rfl rfl)
theorem dX0_orSpent_23 : decode cX0_orSpent 23 = .ok (.invokevirtual 171, 3) := dk_182 0 171 (dk_at dksX0_orSpent_1 0 rfl rfl)
theorem dX0_orSpent_26 : decode cX0_orSpent 26 = .ok (.goto 8, 3) := dk_167 0 8 (dk_at dksX0_orSpent_1 3 rfl rfl)
theorem dX0_orSpent_29 : decode cX0_orSpent 29 = .ok (.aload_n 0, 1) := dk_42 (dk_at dksX0_orSpent_1 6 rfl rfl)
theorem dX0_orSpent_30 : decode cX0_orSpent 30 = .ok (.iload_n 1, 1) := dk_27 (dk_at dksX0_orSpent_1 7 rfl rfl)
theorem dX0_orSpent_31 : decode cX0_orSpent 31 = .ok (.invokevirtual 235, 3) := dk_182 0 235 (dk_at dksX0_orSpent_1 8 rfl rfl)
theorem dX0_orSpent_34 : decode cX0_orSpent 34 = .ok (.ireturn, 1) := dk_172 (dk_at dksX0_orSpent_1 11 rfl rfl)
abbrev cX0_tries : ByteArray := prog_1_method_88_code
def dkwX0_tries_1 : List UInt8 := [182, 0, 235, 172]
abbrev dktX0_tries_1 : List UInt8 := dkwX0_tries_1 ++ []
def dkwX0_tries_0 : List UInt8 := [42, 180, 0, 112, 2, 160, 0, 12, 42, 16, 8, 182, 0, 171, 167, 0, 11, 42, 42, 180, 0, 112]
abbrev dktX0_tries_0 : List UInt8 := dkwX0_tries_0 ++ dktX0_tries_1
theorem dksX0_tries_0 : cX0_tries.data.toList.drop 0 = dktX0_tries_0 := by decide +kernel
theorem dksX0_tries_1 : cX0_tries.data.toList.drop 22 = dktX0_tries_1 := dk_seg dksX0_tries_0 22 rfl rfl
theorem dX0_tries_0 : decode cX0_tries 0 = .ok (.aload_n 0, 1) := dk_42 (dk_at dksX0_tries_0 0 rfl rfl)
theorem dX0_tries_1 : decode cX0_tries 1 = .ok (.getfield 112, 3) := dk_180 0 112 (dk_at dksX0_tries_0 1 rfl rfl)
theorem dX0_tries_4 : decode cX0_tries 4 = .ok (.iconst (-1), 1) := dk_2 (dk_at dksX0_tries_0 4 rfl rfl)
theorem dX0_tries_5 : decode cX0_tries 5 = .ok (.if_icmp .ne 12, 3) := dk_160 0 12 (dk_at dksX0_tries_0 5 rfl rfl)
theorem dX0_tries_8 : decode cX0_tries 8 = .ok (.aload_n 0, 1) := dk_42 (dk_at dksX0_tries_0 8 rfl rfl)
theorem dX0_tries_9 : decode cX0_tries 9 = .ok (.bipush 8, 2) := dk_16 8 (dk_at dksX0_tries_0 9 rfl rfl)
theorem dX0_tries_11 : decode cX0_tries 11 = .ok (.invokevirtual 171, 3) := dk_182 0 171 (dk_at dksX0_tries_0 11 rfl rfl)
theorem dX0_tries_14 : decode cX0_tries 14 = .ok (.goto 11, 3) := dk_167 0 11 (dk_at dksX0_tries_0 14 rfl rfl)
theorem dX0_tries_17 : decode cX0_tries 17 = .ok (.aload_n 0, 1) := dk_42 (dk_at dksX0_tries_0 17 rfl rfl)
theorem dX0_tries_18 : decode cX0_tries 18 = .ok (.aload_n 0, 1) := dk_42 (dk_at dksX0_tries_0 18 rfl rfl)
theorem dX0_tries_19 : decode cX0_tries 19 = .ok (.getfield 112, 3) := dk_180 0 112 (dk_at dksX0_tries_0 19 rfl rfl)
theorem dX0_tries_22 : decode cX0_tries 22 = .ok (.invokevirtual 235, 3) := dk_182 0 235 (dk_at dksX0_tries_1 0 rfl rfl)
theorem dX0_tries_25 : decode cX0_tries 25 = .ok (.ireturn, 1) := dk_172 (dk_at dksX0_tries_1 3 rfl rfl)
abbrev cX0_parted : ByteArray := prog_1_method_90_code
def dkwX0_parted_2 : List UInt8 := [29, 182, 0, 235, 172, 132, 3, 1, 167, 255, 218, 42, 16, 8, 182, 0, 171, 172]
abbrev dktX0_parted_2 : List UInt8 := dkwX0_parted_2 ++ []
def dkwX0_parted_1 : List UInt8 := [42, 42, 180, 0, 30, 29, 182, 1, 218, 42, 42, 180, 0, 37, 27, 50, 29, 182, 1, 218, 159, 0, 9, 42]
abbrev dktX0_parted_1 : List UInt8 := dkwX0_parted_1 ++ dktX0_parted_2
def dkwX0_parted_0 : List UInt8 := [42, 27, 182, 1, 43, 61, 28, 158, 0, 9, 42, 28, 182, 0, 171, 172, 3, 62, 29, 16, 9, 162, 0, 38]
abbrev dktX0_parted_0 : List UInt8 := dkwX0_parted_0 ++ dktX0_parted_1
theorem dksX0_parted_0 : cX0_parted.data.toList.drop 0 = dktX0_parted_0 := by decide +kernel
theorem dksX0_parted_1 : cX0_parted.data.toList.drop 24 = dktX0_parted_1 := dk_seg dksX0_parted_0 24 rfl rfl
theorem dksX0_parted_2 : cX0_parted.data.toList.drop 48 = dktX0_parted_2 := dk_seg dksX0_parted_1 24 rfl rfl
theorem dX0_parted_0 : decode cX0_parted 0 = .ok (.aload_n 0, 1) := dk_42 (dk_at dksX0_parted_0 0 rfl rfl)
theorem dX0_parted_1 : decode cX0_parted 1 = .ok (.iload_n 1, 1) := dk_27 (dk_at dksX0_parted_0 1 rfl rfl)
theorem dX0_parted_2 : decode cX0_parted 2 = .ok (.invokevirtual 299, 3) := dk_182 1 43 (dk_at dksX0_parted_0 2 rfl rfl)
theorem dX0_parted_5 : decode cX0_parted 5 = .ok (.istore_n 2, 1) := dk_61 (dk_at dksX0_parted_0 5 rfl rfl)
theorem dX0_parted_6 : decode cX0_parted 6 = .ok (.iload_n 2, 1) := dk_28 (dk_at dksX0_parted_0 6 rfl rfl)
theorem dX0_parted_7 : decode cX0_parted 7 = .ok (.ifCond .le 9, 3) := dk_158 0 9 (dk_at dksX0_parted_0 7 rfl rfl)
theorem dX0_parted_10 : decode cX0_parted 10 = .ok (.aload_n 0, 1) := dk_42 (dk_at dksX0_parted_0 10 rfl rfl)
theorem dX0_parted_11 : decode cX0_parted 11 = .ok (.iload_n 2, 1) := dk_28 (dk_at dksX0_parted_0 11 rfl rfl)
theorem dX0_parted_12 : decode cX0_parted 12 = .ok (.invokevirtual 171, 3) := dk_182 0 171 (dk_at dksX0_parted_0 12 rfl rfl)
theorem dX0_parted_15 : decode cX0_parted 15 = .ok (.ireturn, 1) := dk_172 (dk_at dksX0_parted_0 15 rfl rfl)
theorem dX0_parted_16 : decode cX0_parted 16 = .ok (.iconst 0, 1) := dk_3 (dk_at dksX0_parted_0 16 rfl rfl)
theorem dX0_parted_17 : decode cX0_parted 17 = .ok (.istore_n 3, 1) := dk_62 (dk_at dksX0_parted_0 17 rfl rfl)
theorem dX0_parted_18 : decode cX0_parted 18 = .ok (.iload_n 3, 1) := dk_29 (dk_at dksX0_parted_0 18 rfl rfl)
theorem dX0_parted_19 : decode cX0_parted 19 = .ok (.bipush 9, 2) := dk_16 9 (dk_at dksX0_parted_0 19 rfl rfl)
theorem dX0_parted_21 : decode cX0_parted 21 = .ok (.if_icmp .ge 38, 3) := dk_162 0 38 (dk_at dksX0_parted_0 21 rfl rfl)
theorem dX0_parted_24 : decode cX0_parted 24 = .ok (.aload_n 0, 1) := dk_42 (dk_at dksX0_parted_1 0 rfl rfl)
theorem dX0_parted_25 : decode cX0_parted 25 = .ok (.aload_n 0, 1) := dk_42 (dk_at dksX0_parted_1 1 rfl rfl)
theorem dX0_parted_26 : decode cX0_parted 26 = .ok (.getfield 30, 3) := dk_180 0 30 (dk_at dksX0_parted_1 2 rfl rfl)
theorem dX0_parted_29 : decode cX0_parted 29 = .ok (.iload_n 3, 1) := dk_29 (dk_at dksX0_parted_1 5 rfl rfl)
theorem dX0_parted_30 : decode cX0_parted 30 = .ok (.invokevirtual 474, 3) := dk_182 1 218 (dk_at dksX0_parted_1 6 rfl rfl)
theorem dX0_parted_33 : decode cX0_parted 33 = .ok (.aload_n 0, 1) := dk_42 (dk_at dksX0_parted_1 9 rfl rfl)
theorem dX0_parted_34 : decode cX0_parted 34 = .ok (.aload_n 0, 1) := dk_42 (dk_at dksX0_parted_1 10 rfl rfl)
theorem dX0_parted_35 : decode cX0_parted 35 = .ok (.getfield 37, 3) := dk_180 0 37 (dk_at dksX0_parted_1 11 rfl rfl)
theorem dX0_parted_38 : decode cX0_parted 38 = .ok (.iload_n 1, 1) := dk_27 (dk_at dksX0_parted_1 14 rfl rfl)
theorem dX0_parted_39 : decode cX0_parted 39 = .ok (.aaload, 1) := dk_50 (dk_at dksX0_parted_1 15 rfl rfl)
theorem dX0_parted_40 : decode cX0_parted 40 = .ok (.iload_n 3, 1) := dk_29 (dk_at dksX0_parted_1 16 rfl rfl)
theorem dX0_parted_41 : decode cX0_parted 41 = .ok (.invokevirtual 474, 3) := dk_182 1 218 (dk_at dksX0_parted_1 17 rfl rfl)
theorem dX0_parted_44 : decode cX0_parted 44 = .ok (.if_icmp .eq 9, 3) := dk_159 0 9 (dk_at dksX0_parted_1 20 rfl rfl)
theorem dX0_parted_47 : decode cX0_parted 47 = .ok (.aload_n 0, 1) := dk_42 (dk_at dksX0_parted_1 23 rfl rfl)
theorem dX0_parted_48 : decode cX0_parted 48 = .ok (.iload_n 3, 1) := dk_29 (dk_at dksX0_parted_2 0 rfl rfl)
theorem dX0_parted_49 : decode cX0_parted 49 = .ok (.invokevirtual 235, 3) := dk_182 0 235 (dk_at dksX0_parted_2 1 rfl rfl)
theorem dX0_parted_52 : decode cX0_parted 52 = .ok (.ireturn, 1) := dk_172 (dk_at dksX0_parted_2 4 rfl rfl)
theorem dX0_parted_53 : decode cX0_parted 53 = .ok (.iinc 3 1, 3) := dk_132 3 1 (dk_at dksX0_parted_2 5 rfl rfl)
theorem dX0_parted_56 : decode cX0_parted 56 = .ok (.goto (-38), 3) := dk_167 255 218 (dk_at dksX0_parted_2 8 rfl rfl)
theorem dX0_parted_59 : decode cX0_parted 59 = .ok (.aload_n 0, 1) := dk_42 (dk_at dksX0_parted_2 11 rfl rfl)
theorem dX0_parted_60 : decode cX0_parted 60 = .ok (.bipush 8, 2) := dk_16 8 (dk_at dksX0_parted_2 12 rfl rfl)
theorem dX0_parted_62 : decode cX0_parted 62 = .ok (.invokevirtual 171, 3) := dk_182 0 171 (dk_at dksX0_parted_2 14 rfl rfl)
theorem dX0_parted_65 : decode cX0_parted 65 = .ok (.ireturn, 1) := dk_172 (dk_at dksX0_parted_2 17 rfl rfl)
abbrev cX0_invariant : ByteArray := prog_1_method_89_code
def dkwX0_invariant_4 : List UInt8 := [43, 182, 1, 170, 172, 42, 43, 5, 182, 1, 183, 172, 42, 43, 182, 1, 186, 172]
abbrev dktX0_invariant_4 : List UInt8 := dkwX0_invariant_4 ++ []
def dkwX0_invariant_3 : List UInt8 := [182, 1, 89, 172, 42, 43, 5, 182, 1, 93, 172, 42, 43, 182, 1, 103, 172, 42, 43, 182, 1, 167, 172, 42]
abbrev dktX0_invariant_3 : List UInt8 := dkwX0_invariant_3 ++ dktX0_invariant_4
def dkwX0_invariant_2 : List UInt8 := [16, 10, 43, 180, 0, 253, 104, 43, 180, 0, 196, 96, 172, 42, 43, 4, 182, 1, 89, 172, 42, 43, 5]
abbrev dktX0_invariant_2 : List UInt8 := dkwX0_invariant_2 ++ dktX0_invariant_3
def dkwX0_invariant_1 : List UInt8 := [170, 0, 0, 0, 0, 0, 106, 0, 0, 0, 0, 0, 0, 0, 7, 0, 0, 0, 47, 0, 0, 0, 60, 0, 0, 0, 67, 0, 0, 0, 74, 0, 0, 0, 81, 0, 0, 0, 87, 0, 0, 0, 93, 0, 0, 0, 99]
abbrev dktX0_invariant_1 : List UInt8 := dkwX0_invariant_1 ++ dktX0_invariant_2
def dkwX0_invariant_0 : List UInt8 := [28]
abbrev dktX0_invariant_0 : List UInt8 := dkwX0_invariant_0 ++ dktX0_invariant_1
theorem dksX0_invariant_0 : cX0_invariant.data.toList.drop 0 = dktX0_invariant_0 := by decide +kernel
theorem dksX0_invariant_1 : cX0_invariant.data.toList.drop 1 = dktX0_invariant_1 := dk_seg dksX0_invariant_0 1 rfl rfl
theorem dksX0_invariant_2 : cX0_invariant.data.toList.drop 48 = dktX0_invariant_2 := dk_seg dksX0_invariant_1 47 rfl rfl
theorem dksX0_invariant_3 : cX0_invariant.data.toList.drop 71 = dktX0_invariant_3 := dk_seg dksX0_invariant_2 23 rfl rfl
theorem dksX0_invariant_4 : cX0_invariant.data.toList.drop 95 = dktX0_invariant_4 := dk_seg dksX0_invariant_3 24 rfl rfl
theorem dX0_invariant_0 : decode cX0_invariant 0 = .ok (.iload_n 2, 1) := dk_28 (dk_at dksX0_invariant_0 0 rfl rfl)
theorem dX0_invariant_1 : decode cX0_invariant 1 = .ok (.tableswitch 106 0 7 #[47, 60, 67, 74, 81, 87, 93, 99], 47) := by decide +kernel
theorem dX0_invariant_48 : decode cX0_invariant 48 = .ok (.bipush 10, 2) := dk_16 10 (dk_at dksX0_invariant_2 0 rfl rfl)
theorem dX0_invariant_50 : decode cX0_invariant 50 = .ok (.aload_n 1, 1) := dk_43 (dk_at dksX0_invariant_2 2 rfl rfl)
theorem dX0_invariant_51 : decode cX0_invariant 51 = .ok (.getfield 253, 3) := dk_180 0 253 (dk_at dksX0_invariant_2 3 rfl rfl)
theorem dX0_invariant_54 : decode cX0_invariant 54 = .ok (.imul, 1) := dk_104 (dk_at dksX0_invariant_2 6 rfl rfl)
theorem dX0_invariant_55 : decode cX0_invariant 55 = .ok (.aload_n 1, 1) := dk_43 (dk_at dksX0_invariant_2 7 rfl rfl)
theorem dX0_invariant_56 : decode cX0_invariant 56 = .ok (.getfield 196, 3) := dk_180 0 196 (dk_at dksX0_invariant_2 8 rfl rfl)
theorem dX0_invariant_59 : decode cX0_invariant 59 = .ok (.iadd, 1) := dk_96 (dk_at dksX0_invariant_2 11 rfl rfl)
theorem dX0_invariant_60 : decode cX0_invariant 60 = .ok (.ireturn, 1) := dk_172 (dk_at dksX0_invariant_2 12 rfl rfl)
theorem dX0_invariant_61 : decode cX0_invariant 61 = .ok (.aload_n 0, 1) := dk_42 (dk_at dksX0_invariant_2 13 rfl rfl)
theorem dX0_invariant_62 : decode cX0_invariant 62 = .ok (.aload_n 1, 1) := dk_43 (dk_at dksX0_invariant_2 14 rfl rfl)
theorem dX0_invariant_63 : decode cX0_invariant 63 = .ok (.iconst 1, 1) := dk_4 (dk_at dksX0_invariant_2 15 rfl rfl)
theorem dX0_invariant_64 : decode cX0_invariant 64 = .ok (.invokevirtual 345, 3) := dk_182 1 89 (dk_at dksX0_invariant_2 16 rfl rfl)
theorem dX0_invariant_67 : decode cX0_invariant 67 = .ok (.ireturn, 1) := dk_172 (dk_at dksX0_invariant_2 19 rfl rfl)
theorem dX0_invariant_68 : decode cX0_invariant 68 = .ok (.aload_n 0, 1) := dk_42 (dk_at dksX0_invariant_2 20 rfl rfl)
theorem dX0_invariant_69 : decode cX0_invariant 69 = .ok (.aload_n 1, 1) := dk_43 (dk_at dksX0_invariant_2 21 rfl rfl)
theorem dX0_invariant_70 : decode cX0_invariant 70 = .ok (.iconst 2, 1) := dk_5 (dk_at dksX0_invariant_2 22 rfl rfl)
theorem dX0_invariant_71 : decode cX0_invariant 71 = .ok (.invokevirtual 345, 3) := dk_182 1 89 (dk_at dksX0_invariant_3 0 rfl rfl)
theorem dX0_invariant_74 : decode cX0_invariant 74 = .ok (.ireturn, 1) := dk_172 (dk_at dksX0_invariant_3 3 rfl rfl)
theorem dX0_invariant_75 : decode cX0_invariant 75 = .ok (.aload_n 0, 1) := dk_42 (dk_at dksX0_invariant_3 4 rfl rfl)
theorem dX0_invariant_76 : decode cX0_invariant 76 = .ok (.aload_n 1, 1) := dk_43 (dk_at dksX0_invariant_3 5 rfl rfl)
theorem dX0_invariant_77 : decode cX0_invariant 77 = .ok (.iconst 2, 1) := dk_5 (dk_at dksX0_invariant_3 6 rfl rfl)
theorem dX0_invariant_78 : decode cX0_invariant 78 = .ok (.invokevirtual 349, 3) := dk_182 1 93 (dk_at dksX0_invariant_3 7 rfl rfl)
theorem dX0_invariant_81 : decode cX0_invariant 81 = .ok (.ireturn, 1) := dk_172 (dk_at dksX0_invariant_3 10 rfl rfl)
theorem dX0_invariant_82 : decode cX0_invariant 82 = .ok (.aload_n 0, 1) := dk_42 (dk_at dksX0_invariant_3 11 rfl rfl)
theorem dX0_invariant_83 : decode cX0_invariant 83 = .ok (.aload_n 1, 1) := dk_43 (dk_at dksX0_invariant_3 12 rfl rfl)
theorem dX0_invariant_84 : decode cX0_invariant 84 = .ok (.invokevirtual 359, 3) := dk_182 1 103 (dk_at dksX0_invariant_3 13 rfl rfl)
theorem dX0_invariant_87 : decode cX0_invariant 87 = .ok (.ireturn, 1) := dk_172 (dk_at dksX0_invariant_3 16 rfl rfl)
theorem dX0_invariant_88 : decode cX0_invariant 88 = .ok (.aload_n 0, 1) := dk_42 (dk_at dksX0_invariant_3 17 rfl rfl)
theorem dX0_invariant_89 : decode cX0_invariant 89 = .ok (.aload_n 1, 1) := dk_43 (dk_at dksX0_invariant_3 18 rfl rfl)
theorem dX0_invariant_90 : decode cX0_invariant 90 = .ok (.invokevirtual 423, 3) := dk_182 1 167 (dk_at dksX0_invariant_3 19 rfl rfl)
theorem dX0_invariant_93 : decode cX0_invariant 93 = .ok (.ireturn, 1) := dk_172 (dk_at dksX0_invariant_3 22 rfl rfl)
theorem dX0_invariant_94 : decode cX0_invariant 94 = .ok (.aload_n 0, 1) := dk_42 (dk_at dksX0_invariant_3 23 rfl rfl)
theorem dX0_invariant_95 : decode cX0_invariant 95 = .ok (.aload_n 1, 1) := dk_43 (dk_at dksX0_invariant_4 0 rfl rfl)
theorem dX0_invariant_96 : decode cX0_invariant 96 = .ok (.invokevirtual 426, 3) := dk_182 1 170 (dk_at dksX0_invariant_4 1 rfl rfl)
theorem dX0_invariant_99 : decode cX0_invariant 99 = .ok (.ireturn, 1) := dk_172 (dk_at dksX0_invariant_4 4 rfl rfl)
theorem dX0_invariant_100 : decode cX0_invariant 100 = .ok (.aload_n 0, 1) := dk_42 (dk_at dksX0_invariant_4 5 rfl rfl)
theorem dX0_invariant_101 : decode cX0_invariant 101 = .ok (.aload_n 1, 1) := dk_43 (dk_at dksX0_invariant_4 6 rfl rfl)
theorem dX0_invariant_102 : decode cX0_invariant 102 = .ok (.iconst 2, 1) := dk_5 (dk_at dksX0_invariant_4 7 rfl rfl)
theorem dX0_invariant_103 : decode cX0_invariant 103 = .ok (.invokevirtual 439, 3) := dk_182 1 183 (dk_at dksX0_invariant_4 8 rfl rfl)
theorem dX0_invariant_106 : decode cX0_invariant 106 = .ok (.ireturn, 1) := dk_172 (dk_at dksX0_invariant_4 11 rfl rfl)
theorem dX0_invariant_107 : decode cX0_invariant 107 = .ok (.aload_n 0, 1) := dk_42 (dk_at dksX0_invariant_4 12 rfl rfl)
theorem dX0_invariant_108 : decode cX0_invariant 108 = .ok (.aload_n 1, 1) := dk_43 (dk_at dksX0_invariant_4 13 rfl rfl)
theorem dX0_invariant_109 : decode cX0_invariant 109 = .ok (.invokevirtual 442, 3) := dk_182 1 186 (dk_at dksX0_invariant_4 14 rfl rfl)
theorem dX0_invariant_112 : decode cX0_invariant 112 = .ok (.ireturn, 1) := dk_172 (dk_at dksX0_invariant_4 17 rfl rfl)
abbrev cX0_change : ByteArray := prog_1_method_95_code
def dkwX0_change_5 : List UInt8 := [182, 0, 150, 172]
abbrev dktX0_change_5 : List UInt8 := dkwX0_change_5 ++ []
def dkwX0_change_4 : List UInt8 := [132, 4, 1, 167, 255, 205, 42, 42, 42, 180, 0, 30, 182, 1, 234, 153, 0, 7, 3, 167, 0, 5, 16, 9]
abbrev dktX0_change_4 : List UInt8 := dkwX0_change_4 ++ dktX0_change_5
def dkwX0_change_3 : List UInt8 := [180, 0, 11, 27, 50, 28, 21, 4, 104, 21, 5, 96, 182, 0, 175, 136, 79, 132, 5, 1, 167, 255, 220]
abbrev dktX0_change_3 : List UInt8 := dkwX0_change_3 ++ dktX0_change_4
def dkwX0_change_2 : List UInt8 := [162, 0, 51, 3, 54, 5, 21, 5, 28, 162, 0, 36, 42, 180, 0, 115, 21, 4, 50, 21, 5, 42]
abbrev dktX0_change_2 : List UInt8 := dkwX0_change_2 ++ dktX0_change_3
def dkwX0_change_1 : List UInt8 := [182, 1, 227, 62, 29, 158, 0, 9, 42, 29, 182, 0, 150, 172, 42, 182, 1, 231, 3, 54, 4, 21, 4, 28]
abbrev dktX0_change_1 : List UInt8 := dkwX0_change_1 ++ dktX0_change_2
def dkwX0_change_0 : List UInt8 := [42, 180, 0, 30, 180, 0, 196, 61, 42, 27, 28, 28, 104, 3, 42, 180, 0, 30, 180, 0, 253, 4, 100]
abbrev dktX0_change_0 : List UInt8 := dkwX0_change_0 ++ dktX0_change_1
theorem dksX0_change_0 : cX0_change.data.toList.drop 0 = dktX0_change_0 := by decide +kernel
theorem dksX0_change_1 : cX0_change.data.toList.drop 23 = dktX0_change_1 := dk_seg dksX0_change_0 23 rfl rfl
theorem dksX0_change_2 : cX0_change.data.toList.drop 47 = dktX0_change_2 := dk_seg dksX0_change_1 24 rfl rfl
theorem dksX0_change_3 : cX0_change.data.toList.drop 69 = dktX0_change_3 := dk_seg dksX0_change_2 22 rfl rfl
theorem dksX0_change_4 : cX0_change.data.toList.drop 92 = dktX0_change_4 := dk_seg dksX0_change_3 23 rfl rfl
theorem dksX0_change_5 : cX0_change.data.toList.drop 116 = dktX0_change_5 := dk_seg dksX0_change_4 24 rfl rfl
theorem dX0_change_0 : decode cX0_change 0 = .ok (.aload_n 0, 1) := dk_42 (dk_at dksX0_change_0 0 rfl rfl)
theorem dX0_change_1 : decode cX0_change 1 = .ok (.getfield 30, 3) := dk_180 0 30 (dk_at dksX0_change_0 1 rfl rfl)
theorem dX0_change_4 : decode cX0_change 4 = .ok (.getfield 196, 3) := dk_180 0 196 (dk_at dksX0_change_0 4 rfl rfl)
theorem dX0_change_7 : decode cX0_change 7 = .ok (.istore_n 2, 1) := dk_61 (dk_at dksX0_change_0 7 rfl rfl)
theorem dX0_change_8 : decode cX0_change 8 = .ok (.aload_n 0, 1) := dk_42 (dk_at dksX0_change_0 8 rfl rfl)
theorem dX0_change_9 : decode cX0_change 9 = .ok (.iload_n 1, 1) := dk_27 (dk_at dksX0_change_0 9 rfl rfl)
theorem dX0_change_10 : decode cX0_change 10 = .ok (.iload_n 2, 1) := dk_28 (dk_at dksX0_change_0 10 rfl rfl)
theorem dX0_change_11 : decode cX0_change 11 = .ok (.iload_n 2, 1) := dk_28 (dk_at dksX0_change_0 11 rfl rfl)
theorem dX0_change_12 : decode cX0_change 12 = .ok (.imul, 1) := dk_104 (dk_at dksX0_change_0 12 rfl rfl)
theorem dX0_change_13 : decode cX0_change 13 = .ok (.iconst 0, 1) := dk_3 (dk_at dksX0_change_0 13 rfl rfl)
theorem dX0_change_14 : decode cX0_change 14 = .ok (.aload_n 0, 1) := dk_42 (dk_at dksX0_change_0 14 rfl rfl)
theorem dX0_change_15 : decode cX0_change 15 = .ok (.getfield 30, 3) := dk_180 0 30 (dk_at dksX0_change_0 15 rfl rfl)
theorem dX0_change_18 : decode cX0_change 18 = .ok (.getfield 253, 3) := dk_180 0 253 (dk_at dksX0_change_0 18 rfl rfl)
theorem dX0_change_21 : decode cX0_change 21 = .ok (.iconst 1, 1) := dk_4 (dk_at dksX0_change_0 21 rfl rfl)
theorem dX0_change_22 : decode cX0_change 22 = .ok (.isub, 1) := dk_100 (dk_at dksX0_change_0 22 rfl rfl)
theorem dX0_change_23 : decode cX0_change 23 = .ok (.invokevirtual 483, 3) := dk_182 1 227 (dk_at dksX0_change_1 0 rfl rfl)
theorem dX0_change_26 : decode cX0_change 26 = .ok (.istore_n 3, 1) := dk_62 (dk_at dksX0_change_1 3 rfl rfl)
theorem dX0_change_27 : decode cX0_change 27 = .ok (.iload_n 3, 1) := dk_29 (dk_at dksX0_change_1 4 rfl rfl)
theorem dX0_change_28 : decode cX0_change 28 = .ok (.ifCond .le 9, 3) := dk_158 0 9 (dk_at dksX0_change_1 5 rfl rfl)
theorem dX0_change_31 : decode cX0_change 31 = .ok (.aload_n 0, 1) := dk_42 (dk_at dksX0_change_1 8 rfl rfl)
theorem dX0_change_32 : decode cX0_change 32 = .ok (.iload_n 3, 1) := dk_29 (dk_at dksX0_change_1 9 rfl rfl)
theorem dX0_change_33 : decode cX0_change 33 = .ok (.invokevirtual 150, 3) := dk_182 0 150 (dk_at dksX0_change_1 10 rfl rfl)
theorem dX0_change_36 : decode cX0_change 36 = .ok (.ireturn, 1) := dk_172 (dk_at dksX0_change_1 13 rfl rfl)
theorem dX0_change_37 : decode cX0_change 37 = .ok (.aload_n 0, 1) := dk_42 (dk_at dksX0_change_1 14 rfl rfl)
theorem dX0_change_38 : decode cX0_change 38 = .ok (.invokevirtual 487, 3) := dk_182 1 231 (dk_at dksX0_change_1 15 rfl rfl)
theorem dX0_change_41 : decode cX0_change 41 = .ok (.iconst 0, 1) := dk_3 (dk_at dksX0_change_1 18 rfl rfl)
theorem dX0_change_42 : decode cX0_change 42 = .ok (.istore 4, 2) := dk_54 4 (dk_at dksX0_change_1 19 rfl rfl)
theorem dX0_change_44 : decode cX0_change 44 = .ok (.iload 4, 2) := dk_21 4 (dk_at dksX0_change_1 21 rfl rfl)
theorem dX0_change_46 : decode cX0_change 46 = .ok (.iload_n 2, 1) := dk_28 (dk_at dksX0_change_1 23 rfl rfl)
theorem dX0_change_47 : decode cX0_change 47 = .ok (.if_icmp .ge 51, 3) := dk_162 0 51 (dk_at dksX0_change_2 0 rfl rfl)
theorem dX0_change_50 : decode cX0_change 50 = .ok (.iconst 0, 1) := dk_3 (dk_at dksX0_change_2 3 rfl rfl)
theorem dX0_change_51 : decode cX0_change 51 = .ok (.istore 5, 2) := dk_54 5 (dk_at dksX0_change_2 4 rfl rfl)
theorem dX0_change_53 : decode cX0_change 53 = .ok (.iload 5, 2) := dk_21 5 (dk_at dksX0_change_2 6 rfl rfl)
theorem dX0_change_55 : decode cX0_change 55 = .ok (.iload_n 2, 1) := dk_28 (dk_at dksX0_change_2 8 rfl rfl)
theorem dX0_change_56 : decode cX0_change 56 = .ok (.if_icmp .ge 36, 3) := dk_162 0 36 (dk_at dksX0_change_2 9 rfl rfl)
theorem dX0_change_59 : decode cX0_change 59 = .ok (.aload_n 0, 1) := dk_42 (dk_at dksX0_change_2 12 rfl rfl)
theorem dX0_change_60 : decode cX0_change 60 = .ok (.getfield 115, 3) := dk_180 0 115 (dk_at dksX0_change_2 13 rfl rfl)
theorem dX0_change_63 : decode cX0_change 63 = .ok (.iload 4, 2) := dk_21 4 (dk_at dksX0_change_2 16 rfl rfl)
theorem dX0_change_65 : decode cX0_change 65 = .ok (.aaload, 1) := dk_50 (dk_at dksX0_change_2 18 rfl rfl)
theorem dX0_change_66 : decode cX0_change 66 = .ok (.iload 5, 2) := dk_21 5 (dk_at dksX0_change_2 19 rfl rfl)
theorem dX0_change_68 : decode cX0_change 68 = .ok (.aload_n 0, 1) := dk_42 (dk_at dksX0_change_2 21 rfl rfl)
theorem dX0_change_69 : decode cX0_change 69 = .ok (.getfield 11, 3) := dk_180 0 11 (dk_at dksX0_change_3 0 rfl rfl)
theorem dX0_change_72 : decode cX0_change 72 = .ok (.iload_n 1, 1) := dk_27 (dk_at dksX0_change_3 3 rfl rfl)
theorem dX0_change_73 : decode cX0_change 73 = .ok (.aaload, 1) := dk_50 (dk_at dksX0_change_3 4 rfl rfl)
theorem dX0_change_74 : decode cX0_change 74 = .ok (.iload_n 2, 1) := dk_28 (dk_at dksX0_change_3 5 rfl rfl)
theorem dX0_change_75 : decode cX0_change 75 = .ok (.iload 4, 2) := dk_21 4 (dk_at dksX0_change_3 6 rfl rfl)
theorem dX0_change_77 : decode cX0_change 77 = .ok (.imul, 1) := dk_104 (dk_at dksX0_change_3 8 rfl rfl)
theorem dX0_change_78 : decode cX0_change 78 = .ok (.iload 5, 2) := dk_21 5 (dk_at dksX0_change_3 9 rfl rfl)
theorem dX0_change_80 : decode cX0_change 80 = .ok (.iadd, 1) := dk_96 (dk_at dksX0_change_3 11 rfl rfl)
theorem dX0_change_81 : decode cX0_change 81 = .ok (.invokevirtual 175, 3) := dk_182 0 175 (dk_at dksX0_change_3 12 rfl rfl)
theorem dX0_change_84 : decode cX0_change 84 = .ok (.l2i, 1) := dk_136 (dk_at dksX0_change_3 15 rfl rfl)
theorem dX0_change_85 : decode cX0_change 85 = .ok (.iastore, 1) := dk_79 (dk_at dksX0_change_3 16 rfl rfl)
theorem dX0_change_86 : decode cX0_change 86 = .ok (.iinc 5 1, 3) := dk_132 5 1 (dk_at dksX0_change_3 17 rfl rfl)
theorem dX0_change_89 : decode cX0_change 89 = .ok (.goto (-36), 3) := dk_167 255 220 (dk_at dksX0_change_3 20 rfl rfl)
theorem dX0_change_92 : decode cX0_change 92 = .ok (.iinc 4 1, 3) := dk_132 4 1 (dk_at dksX0_change_4 0 rfl rfl)
theorem dX0_change_95 : decode cX0_change 95 = .ok (.goto (-51), 3) := dk_167 255 205 (dk_at dksX0_change_4 3 rfl rfl)
theorem dX0_change_98 : decode cX0_change 98 = .ok (.aload_n 0, 1) := dk_42 (dk_at dksX0_change_4 6 rfl rfl)
theorem dX0_change_99 : decode cX0_change 99 = .ok (.aload_n 0, 1) := dk_42 (dk_at dksX0_change_4 7 rfl rfl)
theorem dX0_change_100 : decode cX0_change 100 = .ok (.aload_n 0, 1) := dk_42 (dk_at dksX0_change_4 8 rfl rfl)
theorem dX0_change_101 : decode cX0_change 101 = .ok (.getfield 30, 3) := dk_180 0 30 (dk_at dksX0_change_4 9 rfl rfl)
theorem dX0_change_104 : decode cX0_change 104 = .ok (.invokevirtual 490, 3) := dk_182 1 234 (dk_at dksX0_change_4 12 rfl rfl)
theorem dX0_change_107 : decode cX0_change 107 = .ok (.ifCond .eq 7, 3) := dk_153 0 7 (dk_at dksX0_change_4 15 rfl rfl)
theorem dX0_change_110 : decode cX0_change 110 = .ok (.iconst 0, 1) := dk_3 (dk_at dksX0_change_4 18 rfl rfl)
theorem dX0_change_111 : decode cX0_change 111 = .ok (.goto 5, 3) := dk_167 0 5 (dk_at dksX0_change_4 19 rfl rfl)
theorem dX0_change_114 : decode cX0_change 114 = .ok (.bipush 9, 2) := dk_16 9 (dk_at dksX0_change_4 22 rfl rfl)
theorem dX0_change_116 : decode cX0_change 116 = .ok (.invokevirtual 150, 3) := dk_182 0 150 (dk_at dksX0_change_5 0 rfl rfl)
theorem dX0_change_119 : decode cX0_change 119 = .ok (.ireturn, 1) := dk_172 (dk_at dksX0_change_5 3 rfl rfl)
abbrev cX0_wrongNumbers : ByteArray := prog_1_method_93_code
def dkwX0_wrongNumbers_3 : List UInt8 := [132, 6, 1, 167, 255, 227, 3, 172]
abbrev dktX0_wrongNumbers_3 : List UInt8 := dkwX0_wrongNumbers_3 ++ []
def dkwX0_wrongNumbers_2 : List UInt8 := [162, 0, 29, 25, 5, 21, 6, 182, 0, 175, 29, 133, 21, 4, 133, 184, 1, 64, 154, 0, 5, 8, 172]
abbrev dktX0_wrongNumbers_2 : List UInt8 := dkwX0_wrongNumbers_2 ++ dktX0_wrongNumbers_3
def dkwX0_wrongNumbers_1 : List UInt8 := [199, 0, 5, 6, 172, 25, 5, 182, 1, 60, 28, 162, 0, 5, 7, 172, 3, 54, 6, 21, 6, 28]
abbrev dktX0_wrongNumbers_1 : List UInt8 := dkwX0_wrongNumbers_1 ++ dktX0_wrongNumbers_2
def dkwX0_wrongNumbers_0 : List UInt8 := [27, 184, 0, 154, 154, 0, 5, 4, 172, 42, 180, 0, 11, 27, 50, 58, 5, 25, 5, 180, 0, 181]
abbrev dktX0_wrongNumbers_0 : List UInt8 := dkwX0_wrongNumbers_0 ++ dktX0_wrongNumbers_1
theorem dksX0_wrongNumbers_0 : cX0_wrongNumbers.data.toList.drop 0 = dktX0_wrongNumbers_0 := by decide +kernel
theorem dksX0_wrongNumbers_1 : cX0_wrongNumbers.data.toList.drop 22 = dktX0_wrongNumbers_1 := dk_seg dksX0_wrongNumbers_0 22 rfl rfl
theorem dksX0_wrongNumbers_2 : cX0_wrongNumbers.data.toList.drop 44 = dktX0_wrongNumbers_2 := dk_seg dksX0_wrongNumbers_1 22 rfl rfl
theorem dksX0_wrongNumbers_3 : cX0_wrongNumbers.data.toList.drop 67 = dktX0_wrongNumbers_3 := dk_seg dksX0_wrongNumbers_2 23 rfl rfl
theorem dX0_wrongNumbers_0 : decode cX0_wrongNumbers 0 = .ok (.iload_n 1, 1) := dk_27 (dk_at dksX0_wrongNumbers_0 0 rfl rfl)
theorem dX0_wrongNumbers_1 : decode cX0_wrongNumbers 1 = .ok (.invokestatic 154, 3) := dk_184 0 154 (dk_at dksX0_wrongNumbers_0 1 rfl rfl)
theorem dX0_wrongNumbers_4 : decode cX0_wrongNumbers 4 = .ok (.ifCond .ne 5, 3) := dk_154 0 5 (dk_at dksX0_wrongNumbers_0 4 rfl rfl)
theorem dX0_wrongNumbers_7 : decode cX0_wrongNumbers 7 = .ok (.iconst 1, 1) := dk_4 (dk_at dksX0_wrongNumbers_0 7 rfl rfl)
theorem dX0_wrongNumbers_8 : decode cX0_wrongNumbers 8 = .ok (.ireturn, 1) := dk_172 (dk_at dksX0_wrongNumbers_0 8 rfl rfl)
theorem dX0_wrongNumbers_9 : decode cX0_wrongNumbers 9 = .ok (.aload_n 0, 1) := dk_42 (dk_at dksX0_wrongNumbers_0 9 rfl rfl)
theorem dX0_wrongNumbers_10 : decode cX0_wrongNumbers 10 = .ok (.getfield 11, 3) := dk_180 0 11 (dk_at dksX0_wrongNumbers_0 10 rfl rfl)
theorem dX0_wrongNumbers_13 : decode cX0_wrongNumbers 13 = .ok (.iload_n 1, 1) := dk_27 (dk_at dksX0_wrongNumbers_0 13 rfl rfl)
theorem dX0_wrongNumbers_14 : decode cX0_wrongNumbers 14 = .ok (.aaload, 1) := dk_50 (dk_at dksX0_wrongNumbers_0 14 rfl rfl)
theorem dX0_wrongNumbers_15 : decode cX0_wrongNumbers 15 = .ok (.astore 5, 2) := dk_58 5 (dk_at dksX0_wrongNumbers_0 15 rfl rfl)
theorem dX0_wrongNumbers_17 : decode cX0_wrongNumbers 17 = .ok (.aload 5, 2) := dk_25 5 (dk_at dksX0_wrongNumbers_0 17 rfl rfl)
theorem dX0_wrongNumbers_19 : decode cX0_wrongNumbers 19 = .ok (.getfield 181, 3) := dk_180 0 181 (dk_at dksX0_wrongNumbers_0 19 rfl rfl)
theorem dX0_wrongNumbers_22 : decode cX0_wrongNumbers 22 = .ok (.ifnonnull 5, 3) := dk_199 0 5 (dk_at dksX0_wrongNumbers_1 0 rfl rfl)
theorem dX0_wrongNumbers_25 : decode cX0_wrongNumbers 25 = .ok (.iconst 3, 1) := dk_6 (dk_at dksX0_wrongNumbers_1 3 rfl rfl)
theorem dX0_wrongNumbers_26 : decode cX0_wrongNumbers 26 = .ok (.ireturn, 1) := dk_172 (dk_at dksX0_wrongNumbers_1 4 rfl rfl)
theorem dX0_wrongNumbers_27 : decode cX0_wrongNumbers 27 = .ok (.aload 5, 2) := dk_25 5 (dk_at dksX0_wrongNumbers_1 5 rfl rfl)
theorem dX0_wrongNumbers_29 : decode cX0_wrongNumbers 29 = .ok (.invokevirtual 316, 3) := dk_182 1 60 (dk_at dksX0_wrongNumbers_1 7 rfl rfl)
theorem dX0_wrongNumbers_32 : decode cX0_wrongNumbers 32 = .ok (.iload_n 2, 1) := dk_28 (dk_at dksX0_wrongNumbers_1 10 rfl rfl)
theorem dX0_wrongNumbers_33 : decode cX0_wrongNumbers 33 = .ok (.if_icmp .ge 5, 3) := dk_162 0 5 (dk_at dksX0_wrongNumbers_1 11 rfl rfl)
theorem dX0_wrongNumbers_36 : decode cX0_wrongNumbers 36 = .ok (.iconst 4, 1) := dk_7 (dk_at dksX0_wrongNumbers_1 14 rfl rfl)
theorem dX0_wrongNumbers_37 : decode cX0_wrongNumbers 37 = .ok (.ireturn, 1) := dk_172 (dk_at dksX0_wrongNumbers_1 15 rfl rfl)
theorem dX0_wrongNumbers_38 : decode cX0_wrongNumbers 38 = .ok (.iconst 0, 1) := dk_3 (dk_at dksX0_wrongNumbers_1 16 rfl rfl)
theorem dX0_wrongNumbers_39 : decode cX0_wrongNumbers 39 = .ok (.istore 6, 2) := dk_54 6 (dk_at dksX0_wrongNumbers_1 17 rfl rfl)
theorem dX0_wrongNumbers_41 : decode cX0_wrongNumbers 41 = .ok (.iload 6, 2) := dk_21 6 (dk_at dksX0_wrongNumbers_1 19 rfl rfl)
theorem dX0_wrongNumbers_43 : decode cX0_wrongNumbers 43 = .ok (.iload_n 2, 1) := dk_28 (dk_at dksX0_wrongNumbers_1 21 rfl rfl)
theorem dX0_wrongNumbers_44 : decode cX0_wrongNumbers 44 = .ok (.if_icmp .ge 29, 3) := dk_162 0 29 (dk_at dksX0_wrongNumbers_2 0 rfl rfl)
theorem dX0_wrongNumbers_47 : decode cX0_wrongNumbers 47 = .ok (.aload 5, 2) := dk_25 5 (dk_at dksX0_wrongNumbers_2 3 rfl rfl)
theorem dX0_wrongNumbers_49 : decode cX0_wrongNumbers 49 = .ok (.iload 6, 2) := dk_21 6 (dk_at dksX0_wrongNumbers_2 5 rfl rfl)
theorem dX0_wrongNumbers_51 : decode cX0_wrongNumbers 51 = .ok (.invokevirtual 175, 3) := dk_182 0 175 (dk_at dksX0_wrongNumbers_2 7 rfl rfl)
theorem dX0_wrongNumbers_54 : decode cX0_wrongNumbers 54 = .ok (.iload_n 3, 1) := dk_29 (dk_at dksX0_wrongNumbers_2 10 rfl rfl)
theorem dX0_wrongNumbers_55 : decode cX0_wrongNumbers 55 = .ok (.i2l, 1) := dk_133 (dk_at dksX0_wrongNumbers_2 11 rfl rfl)
theorem dX0_wrongNumbers_56 : decode cX0_wrongNumbers 56 = .ok (.iload 4, 2) := dk_21 4 (dk_at dksX0_wrongNumbers_2 12 rfl rfl)
theorem dX0_wrongNumbers_58 : decode cX0_wrongNumbers 58 = .ok (.i2l, 1) := dk_133 (dk_at dksX0_wrongNumbers_2 14 rfl rfl)
theorem dX0_wrongNumbers_59 : decode cX0_wrongNumbers 59 = .ok (.invokestatic 320, 3) := dk_184 1 64 (dk_at dksX0_wrongNumbers_2 15 rfl rfl)
theorem dX0_wrongNumbers_62 : decode cX0_wrongNumbers 62 = .ok (.ifCond .ne 5, 3) := dk_154 0 5 (dk_at dksX0_wrongNumbers_2 18 rfl rfl)
theorem dX0_wrongNumbers_65 : decode cX0_wrongNumbers 65 = .ok (.iconst 5, 1) := dk_8 (dk_at dksX0_wrongNumbers_2 21 rfl rfl)
theorem dX0_wrongNumbers_66 : decode cX0_wrongNumbers 66 = .ok (.ireturn, 1) := dk_172 (dk_at dksX0_wrongNumbers_2 22 rfl rfl)
theorem dX0_wrongNumbers_67 : decode cX0_wrongNumbers 67 = .ok (.iinc 6 1, 3) := dk_132 6 1 (dk_at dksX0_wrongNumbers_3 0 rfl rfl)
theorem dX0_wrongNumbers_70 : decode cX0_wrongNumbers 70 = .ok (.goto (-29), 3) := dk_167 255 227 (dk_at dksX0_wrongNumbers_3 3 rfl rfl)
theorem dX0_wrongNumbers_73 : decode cX0_wrongNumbers 73 = .ok (.iconst 0, 1) := dk_3 (dk_at dksX0_wrongNumbers_3 6 rfl rfl)
theorem dX0_wrongNumbers_74 : decode cX0_wrongNumbers 74 = .ok (.ireturn, 1) := dk_172 (dk_at dksX0_wrongNumbers_3 7 rfl rfl)
abbrev cX0_same : ByteArray := prog_1_method_94_code
def dkwX0_same_1 : List UInt8 := [160, 0, 7, 4, 167, 0, 4, 3, 79, 132, 2, 1, 167, 255, 230, 132, 1, 1, 167, 255, 217, 177]
abbrev dktX0_same_1 : List UInt8 := dkwX0_same_1 ++ []
def dkwX0_same_0 : List UInt8 := [3, 60, 27, 8, 162, 0, 40, 3, 61, 28, 8, 162, 0, 27, 42, 180, 0, 115, 27, 50, 28, 27, 28]
abbrev dktX0_same_0 : List UInt8 := dkwX0_same_0 ++ dktX0_same_1
theorem dksX0_same_0 : cX0_same.data.toList.drop 0 = dktX0_same_0 := by decide +kernel
theorem dksX0_same_1 : cX0_same.data.toList.drop 23 = dktX0_same_1 := dk_seg dksX0_same_0 23 rfl rfl
theorem dX0_same_0 : decode cX0_same 0 = .ok (.iconst 0, 1) := dk_3 (dk_at dksX0_same_0 0 rfl rfl)
theorem dX0_same_1 : decode cX0_same 1 = .ok (.istore_n 1, 1) := dk_60 (dk_at dksX0_same_0 1 rfl rfl)
theorem dX0_same_2 : decode cX0_same 2 = .ok (.iload_n 1, 1) := dk_27 (dk_at dksX0_same_0 2 rfl rfl)
theorem dX0_same_3 : decode cX0_same 3 = .ok (.iconst 5, 1) := dk_8 (dk_at dksX0_same_0 3 rfl rfl)
theorem dX0_same_4 : decode cX0_same 4 = .ok (.if_icmp .ge 40, 3) := dk_162 0 40 (dk_at dksX0_same_0 4 rfl rfl)
theorem dX0_same_7 : decode cX0_same 7 = .ok (.iconst 0, 1) := dk_3 (dk_at dksX0_same_0 7 rfl rfl)
theorem dX0_same_8 : decode cX0_same 8 = .ok (.istore_n 2, 1) := dk_61 (dk_at dksX0_same_0 8 rfl rfl)
theorem dX0_same_9 : decode cX0_same 9 = .ok (.iload_n 2, 1) := dk_28 (dk_at dksX0_same_0 9 rfl rfl)
theorem dX0_same_10 : decode cX0_same 10 = .ok (.iconst 5, 1) := dk_8 (dk_at dksX0_same_0 10 rfl rfl)
theorem dX0_same_11 : decode cX0_same 11 = .ok (.if_icmp .ge 27, 3) := dk_162 0 27 (dk_at dksX0_same_0 11 rfl rfl)
theorem dX0_same_14 : decode cX0_same 14 = .ok (.aload_n 0, 1) := dk_42 (dk_at dksX0_same_0 14 rfl rfl)
theorem dX0_same_15 : decode cX0_same 15 = .ok (.getfield 115, 3) := dk_180 0 115 (dk_at dksX0_same_0 15 rfl rfl)
theorem dX0_same_18 : decode cX0_same 18 = .ok (.iload_n 1, 1) := dk_27 (dk_at dksX0_same_0 18 rfl rfl)
theorem dX0_same_19 : decode cX0_same 19 = .ok (.aaload, 1) := dk_50 (dk_at dksX0_same_0 19 rfl rfl)
theorem dX0_same_20 : decode cX0_same 20 = .ok (.iload_n 2, 1) := dk_28 (dk_at dksX0_same_0 20 rfl rfl)
theorem dX0_same_21 : decode cX0_same 21 = .ok (.iload_n 1, 1) := dk_27 (dk_at dksX0_same_0 21 rfl rfl)
theorem dX0_same_22 : decode cX0_same 22 = .ok (.iload_n 2, 1) := dk_28 (dk_at dksX0_same_0 22 rfl rfl)
theorem dX0_same_23 : decode cX0_same 23 = .ok (.if_icmp .ne 7, 3) := dk_160 0 7 (dk_at dksX0_same_1 0 rfl rfl)
theorem dX0_same_26 : decode cX0_same 26 = .ok (.iconst 1, 1) := dk_4 (dk_at dksX0_same_1 3 rfl rfl)
theorem dX0_same_27 : decode cX0_same 27 = .ok (.goto 4, 3) := dk_167 0 4 (dk_at dksX0_same_1 4 rfl rfl)
theorem dX0_same_30 : decode cX0_same 30 = .ok (.iconst 0, 1) := dk_3 (dk_at dksX0_same_1 7 rfl rfl)
theorem dX0_same_31 : decode cX0_same 31 = .ok (.iastore, 1) := dk_79 (dk_at dksX0_same_1 8 rfl rfl)
theorem dX0_same_32 : decode cX0_same 32 = .ok (.iinc 2 1, 3) := dk_132 2 1 (dk_at dksX0_same_1 9 rfl rfl)
theorem dX0_same_35 : decode cX0_same 35 = .ok (.goto (-26), 3) := dk_167 255 230 (dk_at dksX0_same_1 12 rfl rfl)
theorem dX0_same_38 : decode cX0_same 38 = .ok (.iinc 1 1, 3) := dk_132 1 1 (dk_at dksX0_same_1 15 rfl rfl)
theorem dX0_same_41 : decode cX0_same 41 = .ok (.goto (-39), 3) := dk_167 255 217 (dk_at dksX0_same_1 18 rfl rfl)
theorem dX0_same_44 : decode cX0_same 44 = .ok (.return_, 1) := dk_177 (dk_at dksX0_same_1 21 rfl rfl)
abbrev cX0_changes : ByteArray := prog_1_method_92_code
def dkwX0_changes_6 : List UInt8 := [167, 255, 140, 4, 172]
abbrev dktX0_changes_6 : List UInt8 := dkwX0_changes_6 ++ []
def dkwX0_changes_5 : List UInt8 := [21, 4, 21, 5, 21, 6, 182, 1, 7, 132, 5, 1, 167, 255, 195, 132, 4, 1, 167, 255, 156, 132, 3, 1]
abbrev dktX0_changes_5 : List UInt8 := dkwX0_changes_5 ++ dktX0_changes_6
def dkwX0_changes_4 : List UInt8 := [46, 42, 180, 0, 118, 21, 7, 50, 21, 5, 46, 104, 96, 54, 6, 132, 7, 1, 167, 255, 224, 43, 29]
abbrev dktX0_changes_4 : List UInt8 := dkwX0_changes_4 ++ dktX0_changes_5
def dkwX0_changes_3 : List UInt8 := [28, 162, 0, 61, 3, 54, 6, 3, 54, 7, 21, 7, 28, 162, 0, 32, 21, 6, 42, 180, 0, 63, 21, 7]
abbrev dktX0_changes_3 : List UInt8 := dkwX0_changes_3 ++ dktX0_changes_4
def dkwX0_changes_2 : List UInt8 := [180, 0, 115, 29, 50, 42, 180, 0, 115, 21, 4, 50, 42, 180, 0, 63, 182, 1, 18, 3, 54, 5, 21, 5]
abbrev dktX0_changes_2 : List UInt8 := dkwX0_changes_2 ++ dktX0_changes_3
def dkwX0_changes_1 : List UInt8 := [62, 29, 28, 162, 0, 117, 29, 4, 96, 54, 4, 21, 4, 28, 162, 0, 100, 42, 180, 0, 34, 42]
abbrev dktX0_changes_1 : List UInt8 := dkwX0_changes_1 ++ dktX0_changes_2
def dkwX0_changes_0 : List UInt8 := [42, 43, 182, 1, 224, 154, 0, 5, 3, 172, 43, 180, 0, 196, 61, 42, 180, 0, 34, 43, 182, 0, 231, 3]
abbrev dktX0_changes_0 : List UInt8 := dkwX0_changes_0 ++ dktX0_changes_1
theorem dksX0_changes_0 : cX0_changes.data.toList.drop 0 = dktX0_changes_0 := by decide +kernel
theorem dksX0_changes_1 : cX0_changes.data.toList.drop 24 = dktX0_changes_1 := dk_seg dksX0_changes_0 24 rfl rfl
theorem dksX0_changes_2 : cX0_changes.data.toList.drop 46 = dktX0_changes_2 := dk_seg dksX0_changes_1 22 rfl rfl
theorem dksX0_changes_3 : cX0_changes.data.toList.drop 70 = dktX0_changes_3 := dk_seg dksX0_changes_2 24 rfl rfl
theorem dksX0_changes_4 : cX0_changes.data.toList.drop 94 = dktX0_changes_4 := dk_seg dksX0_changes_3 24 rfl rfl
theorem dksX0_changes_5 : cX0_changes.data.toList.drop 117 = dktX0_changes_5 := dk_seg dksX0_changes_4 23 rfl rfl
theorem dksX0_changes_6 : cX0_changes.data.toList.drop 141 = dktX0_changes_6 := dk_seg dksX0_changes_5 24 rfl rfl
theorem dX0_changes_0 : decode cX0_changes 0 = .ok (.aload_n 0, 1) := dk_42 (dk_at dksX0_changes_0 0 rfl rfl)
theorem dX0_changes_1 : decode cX0_changes 1 = .ok (.aload_n 1, 1) := dk_43 (dk_at dksX0_changes_0 1 rfl rfl)
theorem dX0_changes_2 : decode cX0_changes 2 = .ok (.invokevirtual 480, 3) := dk_182 1 224 (dk_at dksX0_changes_0 2 rfl rfl)
theorem dX0_changes_5 : decode cX0_changes 5 = .ok (.ifCond .ne 5, 3) := dk_154 0 5 (dk_at dksX0_changes_0 5 rfl rfl)
theorem dX0_changes_8 : decode cX0_changes 8 = .ok (.iconst 0, 1) := dk_3 (dk_at dksX0_changes_0 8 rfl rfl)
theorem dX0_changes_9 : decode cX0_changes 9 = .ok (.ireturn, 1) := dk_172 (dk_at dksX0_changes_0 9 rfl rfl)
theorem dX0_changes_10 : decode cX0_changes 10 = .ok (.aload_n 1, 1) := dk_43 (dk_at dksX0_changes_0 10 rfl rfl)
theorem dX0_changes_11 : decode cX0_changes 11 = .ok (.getfield 196, 3) := dk_180 0 196 (dk_at dksX0_changes_0 11 rfl rfl)
theorem dX0_changes_14 : decode cX0_changes 14 = .ok (.istore_n 2, 1) := dk_61 (dk_at dksX0_changes_0 14 rfl rfl)
theorem dX0_changes_15 : decode cX0_changes 15 = .ok (.aload_n 0, 1) := dk_42 (dk_at dksX0_changes_0 15 rfl rfl)
theorem dX0_changes_16 : decode cX0_changes 16 = .ok (.getfield 34, 3) := dk_180 0 34 (dk_at dksX0_changes_0 16 rfl rfl)
theorem dX0_changes_19 : decode cX0_changes 19 = .ok (.aload_n 1, 1) := dk_43 (dk_at dksX0_changes_0 19 rfl rfl)
theorem dX0_changes_20 : decode cX0_changes 20 = .ok (.invokevirtual 231, 3) := dk_182 0 231 (dk_at dksX0_changes_0 20 rfl rfl)
theorem dX0_changes_23 : decode cX0_changes 23 = .ok (.iconst 0, 1) := dk_3 (dk_at dksX0_changes_0 23 rfl rfl)
theorem dX0_changes_24 : decode cX0_changes 24 = .ok (.istore_n 3, 1) := dk_62 (dk_at dksX0_changes_1 0 rfl rfl)
theorem dX0_changes_25 : decode cX0_changes 25 = .ok (.iload_n 3, 1) := dk_29 (dk_at dksX0_changes_1 1 rfl rfl)
theorem dX0_changes_26 : decode cX0_changes 26 = .ok (.iload_n 2, 1) := dk_28 (dk_at dksX0_changes_1 2 rfl rfl)
theorem dX0_changes_27 : decode cX0_changes 27 = .ok (.if_icmp .ge 117, 3) := dk_162 0 117 (dk_at dksX0_changes_1 3 rfl rfl)
theorem dX0_changes_30 : decode cX0_changes 30 = .ok (.iload_n 3, 1) := dk_29 (dk_at dksX0_changes_1 6 rfl rfl)
theorem dX0_changes_31 : decode cX0_changes 31 = .ok (.iconst 1, 1) := dk_4 (dk_at dksX0_changes_1 7 rfl rfl)
theorem dX0_changes_32 : decode cX0_changes 32 = .ok (.iadd, 1) := dk_96 (dk_at dksX0_changes_1 8 rfl rfl)
theorem dX0_changes_33 : decode cX0_changes 33 = .ok (.istore 4, 2) := dk_54 4 (dk_at dksX0_changes_1 9 rfl rfl)
theorem dX0_changes_35 : decode cX0_changes 35 = .ok (.iload 4, 2) := dk_21 4 (dk_at dksX0_changes_1 11 rfl rfl)
theorem dX0_changes_37 : decode cX0_changes 37 = .ok (.iload_n 2, 1) := dk_28 (dk_at dksX0_changes_1 13 rfl rfl)
theorem dX0_changes_38 : decode cX0_changes 38 = .ok (.if_icmp .ge 100, 3) := dk_162 0 100 (dk_at dksX0_changes_1 14 rfl rfl)
theorem dX0_changes_41 : decode cX0_changes 41 = .ok (.aload_n 0, 1) := dk_42 (dk_at dksX0_changes_1 17 rfl rfl)
theorem dX0_changes_42 : decode cX0_changes 42 = .ok (.getfield 34, 3) := dk_180 0 34 (dk_at dksX0_changes_1 18 rfl rfl)
theorem dX0_changes_45 : decode cX0_changes 45 = .ok (.aload_n 0, 1) := dk_42 (dk_at dksX0_changes_1 21 rfl rfl)
theorem dX0_changes_46 : decode cX0_changes 46 = .ok (.getfield 115, 3) := dk_180 0 115 (dk_at dksX0_changes_2 0 rfl rfl)
theorem dX0_changes_49 : decode cX0_changes 49 = .ok (.iload_n 3, 1) := dk_29 (dk_at dksX0_changes_2 3 rfl rfl)
theorem dX0_changes_50 : decode cX0_changes 50 = .ok (.aaload, 1) := dk_50 (dk_at dksX0_changes_2 4 rfl rfl)
theorem dX0_changes_51 : decode cX0_changes 51 = .ok (.aload_n 0, 1) := dk_42 (dk_at dksX0_changes_2 5 rfl rfl)
theorem dX0_changes_52 : decode cX0_changes 52 = .ok (.getfield 115, 3) := dk_180 0 115 (dk_at dksX0_changes_2 6 rfl rfl)
theorem dX0_changes_55 : decode cX0_changes 55 = .ok (.iload 4, 2) := dk_21 4 (dk_at dksX0_changes_2 9 rfl rfl)
theorem dX0_changes_57 : decode cX0_changes 57 = .ok (.aaload, 1) := dk_50 (dk_at dksX0_changes_2 11 rfl rfl)
theorem dX0_changes_58 : decode cX0_changes 58 = .ok (.aload_n 0, 1) := dk_42 (dk_at dksX0_changes_2 12 rfl rfl)
theorem dX0_changes_59 : decode cX0_changes 59 = .ok (.getfield 63, 3) := dk_180 0 63 (dk_at dksX0_changes_2 13 rfl rfl)
theorem dX0_changes_62 : decode cX0_changes 62 = .ok (.invokevirtual 274, 3) := dk_182 1 18 (dk_at dksX0_changes_2 16 rfl rfl)
theorem dX0_changes_65 : decode cX0_changes 65 = .ok (.iconst 0, 1) := dk_3 (dk_at dksX0_changes_2 19 rfl rfl)
theorem dX0_changes_66 : decode cX0_changes 66 = .ok (.istore 5, 2) := dk_54 5 (dk_at dksX0_changes_2 20 rfl rfl)
theorem dX0_changes_68 : decode cX0_changes 68 = .ok (.iload 5, 2) := dk_21 5 (dk_at dksX0_changes_2 22 rfl rfl)
theorem dX0_changes_70 : decode cX0_changes 70 = .ok (.iload_n 2, 1) := dk_28 (dk_at dksX0_changes_3 0 rfl rfl)
theorem dX0_changes_71 : decode cX0_changes 71 = .ok (.if_icmp .ge 61, 3) := dk_162 0 61 (dk_at dksX0_changes_3 1 rfl rfl)
theorem dX0_changes_74 : decode cX0_changes 74 = .ok (.iconst 0, 1) := dk_3 (dk_at dksX0_changes_3 4 rfl rfl)
theorem dX0_changes_75 : decode cX0_changes 75 = .ok (.istore 6, 2) := dk_54 6 (dk_at dksX0_changes_3 5 rfl rfl)
theorem dX0_changes_77 : decode cX0_changes 77 = .ok (.iconst 0, 1) := dk_3 (dk_at dksX0_changes_3 7 rfl rfl)
theorem dX0_changes_78 : decode cX0_changes 78 = .ok (.istore 7, 2) := dk_54 7 (dk_at dksX0_changes_3 8 rfl rfl)
theorem dX0_changes_80 : decode cX0_changes 80 = .ok (.iload 7, 2) := dk_21 7 (dk_at dksX0_changes_3 10 rfl rfl)
theorem dX0_changes_82 : decode cX0_changes 82 = .ok (.iload_n 2, 1) := dk_28 (dk_at dksX0_changes_3 12 rfl rfl)
theorem dX0_changes_83 : decode cX0_changes 83 = .ok (.if_icmp .ge 32, 3) := dk_162 0 32 (dk_at dksX0_changes_3 13 rfl rfl)
theorem dX0_changes_86 : decode cX0_changes 86 = .ok (.iload 6, 2) := dk_21 6 (dk_at dksX0_changes_3 16 rfl rfl)
theorem dX0_changes_88 : decode cX0_changes 88 = .ok (.aload_n 0, 1) := dk_42 (dk_at dksX0_changes_3 18 rfl rfl)
theorem dX0_changes_89 : decode cX0_changes 89 = .ok (.getfield 63, 3) := dk_180 0 63 (dk_at dksX0_changes_3 19 rfl rfl)
theorem dX0_changes_92 : decode cX0_changes 92 = .ok (.iload 7, 2) := dk_21 7 (dk_at dksX0_changes_3 22 rfl rfl)
theorem dX0_changes_94 : decode cX0_changes 94 = .ok (.iaload, 1) := dk_46 (dk_at dksX0_changes_4 0 rfl rfl)
theorem dX0_changes_95 : decode cX0_changes 95 = .ok (.aload_n 0, 1) := dk_42 (dk_at dksX0_changes_4 1 rfl rfl)
theorem dX0_changes_96 : decode cX0_changes 96 = .ok (.getfield 118, 3) := dk_180 0 118 (dk_at dksX0_changes_4 2 rfl rfl)
theorem dX0_changes_99 : decode cX0_changes 99 = .ok (.iload 7, 2) := dk_21 7 (dk_at dksX0_changes_4 5 rfl rfl)
theorem dX0_changes_101 : decode cX0_changes 101 = .ok (.aaload, 1) := dk_50 (dk_at dksX0_changes_4 7 rfl rfl)
theorem dX0_changes_102 : decode cX0_changes 102 = .ok (.iload 5, 2) := dk_21 5 (dk_at dksX0_changes_4 8 rfl rfl)
theorem dX0_changes_104 : decode cX0_changes 104 = .ok (.iaload, 1) := dk_46 (dk_at dksX0_changes_4 10 rfl rfl)
theorem dX0_changes_105 : decode cX0_changes 105 = .ok (.imul, 1) := dk_104 (dk_at dksX0_changes_4 11 rfl rfl)
theorem dX0_changes_106 : decode cX0_changes 106 = .ok (.iadd, 1) := dk_96 (dk_at dksX0_changes_4 12 rfl rfl)
theorem dX0_changes_107 : decode cX0_changes 107 = .ok (.istore 6, 2) := dk_54 6 (dk_at dksX0_changes_4 13 rfl rfl)
theorem dX0_changes_109 : decode cX0_changes 109 = .ok (.iinc 7 1, 3) := dk_132 7 1 (dk_at dksX0_changes_4 15 rfl rfl)
theorem dX0_changes_112 : decode cX0_changes 112 = .ok (.goto (-32), 3) := dk_167 255 224 (dk_at dksX0_changes_4 18 rfl rfl)
theorem dX0_changes_115 : decode cX0_changes 115 = .ok (.aload_n 1, 1) := dk_43 (dk_at dksX0_changes_4 21 rfl rfl)
theorem dX0_changes_116 : decode cX0_changes 116 = .ok (.iload_n 3, 1) := dk_29 (dk_at dksX0_changes_4 22 rfl rfl)
theorem dX0_changes_117 : decode cX0_changes 117 = .ok (.iload 4, 2) := dk_21 4 (dk_at dksX0_changes_5 0 rfl rfl)
theorem dX0_changes_119 : decode cX0_changes 119 = .ok (.iload 5, 2) := dk_21 5 (dk_at dksX0_changes_5 2 rfl rfl)
theorem dX0_changes_121 : decode cX0_changes 121 = .ok (.iload 6, 2) := dk_21 6 (dk_at dksX0_changes_5 4 rfl rfl)
theorem dX0_changes_123 : decode cX0_changes 123 = .ok (.invokevirtual 263, 3) := dk_182 1 7 (dk_at dksX0_changes_5 6 rfl rfl)
theorem dX0_changes_126 : decode cX0_changes 126 = .ok (.iinc 5 1, 3) := dk_132 5 1 (dk_at dksX0_changes_5 9 rfl rfl)
theorem dX0_changes_129 : decode cX0_changes 129 = .ok (.goto (-61), 3) := dk_167 255 195 (dk_at dksX0_changes_5 12 rfl rfl)
theorem dX0_changes_132 : decode cX0_changes 132 = .ok (.iinc 4 1, 3) := dk_132 4 1 (dk_at dksX0_changes_5 15 rfl rfl)
theorem dX0_changes_135 : decode cX0_changes 135 = .ok (.goto (-100), 3) := dk_167 255 156 (dk_at dksX0_changes_5 18 rfl rfl)
theorem dX0_changes_138 : decode cX0_changes 138 = .ok (.iinc 3 1, 3) := dk_132 3 1 (dk_at dksX0_changes_5 21 rfl rfl)
theorem dX0_changes_141 : decode cX0_changes 141 = .ok (.goto (-116), 3) := dk_167 255 140 (dk_at dksX0_changes_6 0 rfl rfl)
theorem dX0_changes_144 : decode cX0_changes 144 = .ok (.iconst 1, 1) := dk_4 (dk_at dksX0_changes_6 3 rfl rfl)
theorem dX0_changes_145 : decode cX0_changes 145 = .ok (.ireturn, 1) := dk_172 (dk_at dksX0_changes_6 4 rfl rfl)
abbrev cX0_turnsBack : ByteArray := prog_1_method_91_code
def dkwX0_turnsBack_13 : List UInt8 := [50, 28, 42, 180, 0, 118, 29, 50, 3, 28, 184, 0, 188, 132, 3, 1, 167, 255, 230, 4, 172]
abbrev dktX0_turnsBack_13 : List UInt8 := dkwX0_turnsBack_13 ++ []
def dkwX0_turnsBack_12 : List UInt8 := [132, 7, 1, 167, 255, 171, 132, 3, 1, 167, 255, 47, 3, 62, 29, 28, 162, 0, 27, 42, 180, 0, 121, 29]
abbrev dktX0_turnsBack_12 : List UInt8 := dkwX0_turnsBack_12 ++ dktX0_turnsBack_13
def dkwX0_turnsBack_11 : List UInt8 := [50, 21, 9, 46, 21, 8, 25, 5, 21, 9, 46, 104, 100, 182, 1, 26, 79, 132, 9, 1, 167, 255, 207]
abbrev dktX0_turnsBack_11 : List UInt8 := dkwX0_turnsBack_11 ++ dktX0_turnsBack_12
def dkwX0_turnsBack_10 : List UInt8 := [162, 0, 47, 21, 8, 153, 0, 42, 42, 180, 0, 121, 21, 7, 50, 21, 9, 43, 42, 180, 0, 121, 21, 7]
abbrev dktX0_turnsBack_10 : List UInt8 := dkwX0_turnsBack_10 ++ dktX0_turnsBack_11
def dkwX0_turnsBack_9 : List UInt8 := [167, 0, 12, 42, 180, 0, 121, 21, 7, 50, 29, 46, 54, 8, 3, 54, 9, 21, 9, 5, 28, 104]
abbrev dktX0_turnsBack_9 : List UInt8 := dkwX0_turnsBack_9 ++ dktX0_turnsBack_10
def dkwX0_turnsBack_8 : List UInt8 := [132, 7, 1, 167, 255, 227, 3, 54, 7, 21, 7, 28, 162, 0, 85, 21, 7, 29, 160, 0, 7, 3]
abbrev dktX0_turnsBack_8 : List UInt8 := dkwX0_turnsBack_8 ++ dktX0_turnsBack_9
def dkwX0_turnsBack_7 : List UInt8 := [104, 162, 0, 27, 25, 5, 21, 7, 25, 5, 21, 7, 46, 21, 6, 104, 43, 180, 0, 253, 112, 79]
abbrev dktX0_turnsBack_7 : List UInt8 := dkwX0_turnsBack_7 ++ dktX0_turnsBack_8
def dkwX0_turnsBack_6 : List UInt8 := [180, 0, 121, 29, 25, 5, 83, 43, 25, 5, 29, 46, 182, 1, 221, 54, 6, 3, 54, 7, 21, 7, 5, 28]
abbrev dktX0_turnsBack_6 : List UInt8 := dkwX0_turnsBack_6 ++ dktX0_turnsBack_7
def dkwX0_turnsBack_5 : List UInt8 := [180, 0, 121, 21, 4, 50, 58, 5, 42, 180, 0, 121, 21, 4, 42, 180, 0, 121, 29, 50, 83, 42]
abbrev dktX0_turnsBack_5 : List UInt8 := dkwX0_turnsBack_5 ++ dktX0_turnsBack_6
def dkwX0_turnsBack_4 : List UInt8 := [21, 4, 50, 29, 46, 154, 0, 9, 132, 4, 1, 167, 255, 235, 21, 4, 28, 160, 0, 5, 3, 172, 42]
abbrev dktX0_turnsBack_4 : List UInt8 := dkwX0_turnsBack_4 ++ dktX0_turnsBack_5
def dkwX0_turnsBack_3 : List UInt8 := [167, 255, 193, 3, 62, 29, 28, 162, 0, 210, 29, 54, 4, 21, 4, 28, 162, 0, 21, 42, 180, 0, 121]
abbrev dktX0_turnsBack_3 : List UInt8 := dkwX0_turnsBack_3 ++ dktX0_turnsBack_4
def dkwX0_turnsBack_2 : List UInt8 := [180, 0, 121, 29, 50, 3, 28, 184, 0, 188, 42, 180, 0, 121, 29, 50, 28, 29, 96, 4, 79, 132, 3, 1]
abbrev dktX0_turnsBack_2 : List UInt8 := dkwX0_turnsBack_2 ++ dktX0_turnsBack_3
def dkwX0_turnsBack_1 : List UInt8 := [180, 0, 121, 29, 50, 21, 4, 3, 79, 132, 4, 1, 167, 255, 236, 42, 180, 0, 115, 29, 50, 3, 42]
abbrev dktX0_turnsBack_1 : List UInt8 := dkwX0_turnsBack_1 ++ dktX0_turnsBack_2
def dkwX0_turnsBack_0 : List UInt8 := [43, 180, 0, 196, 61, 3, 62, 29, 28, 162, 0, 64, 3, 54, 4, 21, 4, 16, 10, 162, 0, 19, 42]
abbrev dktX0_turnsBack_0 : List UInt8 := dkwX0_turnsBack_0 ++ dktX0_turnsBack_1
theorem dksX0_turnsBack_0 : cX0_turnsBack.data.toList.drop 0 = dktX0_turnsBack_0 := by decide +kernel
theorem dksX0_turnsBack_1 : cX0_turnsBack.data.toList.drop 23 = dktX0_turnsBack_1 := dk_seg dksX0_turnsBack_0 23 rfl rfl
theorem dksX0_turnsBack_2 : cX0_turnsBack.data.toList.drop 46 = dktX0_turnsBack_2 := dk_seg dksX0_turnsBack_1 23 rfl rfl
theorem dksX0_turnsBack_3 : cX0_turnsBack.data.toList.drop 70 = dktX0_turnsBack_3 := dk_seg dksX0_turnsBack_2 24 rfl rfl
theorem dksX0_turnsBack_4 : cX0_turnsBack.data.toList.drop 93 = dktX0_turnsBack_4 := dk_seg dksX0_turnsBack_3 23 rfl rfl
theorem dksX0_turnsBack_5 : cX0_turnsBack.data.toList.drop 116 = dktX0_turnsBack_5 := dk_seg dksX0_turnsBack_4 23 rfl rfl
theorem dksX0_turnsBack_6 : cX0_turnsBack.data.toList.drop 138 = dktX0_turnsBack_6 := dk_seg dksX0_turnsBack_5 22 rfl rfl
theorem dksX0_turnsBack_7 : cX0_turnsBack.data.toList.drop 162 = dktX0_turnsBack_7 := dk_seg dksX0_turnsBack_6 24 rfl rfl
theorem dksX0_turnsBack_8 : cX0_turnsBack.data.toList.drop 184 = dktX0_turnsBack_8 := dk_seg dksX0_turnsBack_7 22 rfl rfl
theorem dksX0_turnsBack_9 : cX0_turnsBack.data.toList.drop 206 = dktX0_turnsBack_9 := dk_seg dksX0_turnsBack_8 22 rfl rfl
theorem dksX0_turnsBack_10 : cX0_turnsBack.data.toList.drop 228 = dktX0_turnsBack_10 := dk_seg dksX0_turnsBack_9 22 rfl rfl
theorem dksX0_turnsBack_11 : cX0_turnsBack.data.toList.drop 252 = dktX0_turnsBack_11 := dk_seg dksX0_turnsBack_10 24 rfl rfl
theorem dksX0_turnsBack_12 : cX0_turnsBack.data.toList.drop 275 = dktX0_turnsBack_12 := dk_seg dksX0_turnsBack_11 23 rfl rfl
theorem dksX0_turnsBack_13 : cX0_turnsBack.data.toList.drop 299 = dktX0_turnsBack_13 := dk_seg dksX0_turnsBack_12 24 rfl rfl
theorem dX0_turnsBack_0 : decode cX0_turnsBack 0 = .ok (.aload_n 1, 1) := dk_43 (dk_at dksX0_turnsBack_0 0 rfl rfl)
theorem dX0_turnsBack_1 : decode cX0_turnsBack 1 = .ok (.getfield 196, 3) := dk_180 0 196 (dk_at dksX0_turnsBack_0 1 rfl rfl)
theorem dX0_turnsBack_4 : decode cX0_turnsBack 4 = .ok (.istore_n 2, 1) := dk_61 (dk_at dksX0_turnsBack_0 4 rfl rfl)
theorem dX0_turnsBack_5 : decode cX0_turnsBack 5 = .ok (.iconst 0, 1) := dk_3 (dk_at dksX0_turnsBack_0 5 rfl rfl)
theorem dX0_turnsBack_6 : decode cX0_turnsBack 6 = .ok (.istore_n 3, 1) := dk_62 (dk_at dksX0_turnsBack_0 6 rfl rfl)
theorem dX0_turnsBack_7 : decode cX0_turnsBack 7 = .ok (.iload_n 3, 1) := dk_29 (dk_at dksX0_turnsBack_0 7 rfl rfl)
theorem dX0_turnsBack_8 : decode cX0_turnsBack 8 = .ok (.iload_n 2, 1) := dk_28 (dk_at dksX0_turnsBack_0 8 rfl rfl)
theorem dX0_turnsBack_9 : decode cX0_turnsBack 9 = .ok (.if_icmp .ge 64, 3) := dk_162 0 64 (dk_at dksX0_turnsBack_0 9 rfl rfl)
theorem dX0_turnsBack_12 : decode cX0_turnsBack 12 = .ok (.iconst 0, 1) := dk_3 (dk_at dksX0_turnsBack_0 12 rfl rfl)
theorem dX0_turnsBack_13 : decode cX0_turnsBack 13 = .ok (.istore 4, 2) := dk_54 4 (dk_at dksX0_turnsBack_0 13 rfl rfl)
theorem dX0_turnsBack_15 : decode cX0_turnsBack 15 = .ok (.iload 4, 2) := dk_21 4 (dk_at dksX0_turnsBack_0 15 rfl rfl)
theorem dX0_turnsBack_17 : decode cX0_turnsBack 17 = .ok (.bipush 10, 2) := dk_16 10 (dk_at dksX0_turnsBack_0 17 rfl rfl)
theorem dX0_turnsBack_19 : decode cX0_turnsBack 19 = .ok (.if_icmp .ge 19, 3) := dk_162 0 19 (dk_at dksX0_turnsBack_0 19 rfl rfl)
theorem dX0_turnsBack_22 : decode cX0_turnsBack 22 = .ok (.aload_n 0, 1) := dk_42 (dk_at dksX0_turnsBack_0 22 rfl rfl)
theorem dX0_turnsBack_23 : decode cX0_turnsBack 23 = .ok (.getfield 121, 3) := dk_180 0 121 (dk_at dksX0_turnsBack_1 0 rfl rfl)
theorem dX0_turnsBack_26 : decode cX0_turnsBack 26 = .ok (.iload_n 3, 1) := dk_29 (dk_at dksX0_turnsBack_1 3 rfl rfl)
theorem dX0_turnsBack_27 : decode cX0_turnsBack 27 = .ok (.aaload, 1) := dk_50 (dk_at dksX0_turnsBack_1 4 rfl rfl)
theorem dX0_turnsBack_28 : decode cX0_turnsBack 28 = .ok (.iload 4, 2) := dk_21 4 (dk_at dksX0_turnsBack_1 5 rfl rfl)
theorem dX0_turnsBack_30 : decode cX0_turnsBack 30 = .ok (.iconst 0, 1) := dk_3 (dk_at dksX0_turnsBack_1 7 rfl rfl)
theorem dX0_turnsBack_31 : decode cX0_turnsBack 31 = .ok (.iastore, 1) := dk_79 (dk_at dksX0_turnsBack_1 8 rfl rfl)
theorem dX0_turnsBack_32 : decode cX0_turnsBack 32 = .ok (.iinc 4 1, 3) := dk_132 4 1 (dk_at dksX0_turnsBack_1 9 rfl rfl)
theorem dX0_turnsBack_35 : decode cX0_turnsBack 35 = .ok (.goto (-20), 3) := dk_167 255 236 (dk_at dksX0_turnsBack_1 12 rfl rfl)
theorem dX0_turnsBack_38 : decode cX0_turnsBack 38 = .ok (.aload_n 0, 1) := dk_42 (dk_at dksX0_turnsBack_1 15 rfl rfl)
theorem dX0_turnsBack_39 : decode cX0_turnsBack 39 = .ok (.getfield 115, 3) := dk_180 0 115 (dk_at dksX0_turnsBack_1 16 rfl rfl)
theorem dX0_turnsBack_42 : decode cX0_turnsBack 42 = .ok (.iload_n 3, 1) := dk_29 (dk_at dksX0_turnsBack_1 19 rfl rfl)
theorem dX0_turnsBack_43 : decode cX0_turnsBack 43 = .ok (.aaload, 1) := dk_50 (dk_at dksX0_turnsBack_1 20 rfl rfl)
theorem dX0_turnsBack_44 : decode cX0_turnsBack 44 = .ok (.iconst 0, 1) := dk_3 (dk_at dksX0_turnsBack_1 21 rfl rfl)
theorem dX0_turnsBack_45 : decode cX0_turnsBack 45 = .ok (.aload_n 0, 1) := dk_42 (dk_at dksX0_turnsBack_1 22 rfl rfl)
theorem dX0_turnsBack_46 : decode cX0_turnsBack 46 = .ok (.getfield 121, 3) := dk_180 0 121 (dk_at dksX0_turnsBack_2 0 rfl rfl)
theorem dX0_turnsBack_49 : decode cX0_turnsBack 49 = .ok (.iload_n 3, 1) := dk_29 (dk_at dksX0_turnsBack_2 3 rfl rfl)
theorem dX0_turnsBack_50 : decode cX0_turnsBack 50 = .ok (.aaload, 1) := dk_50 (dk_at dksX0_turnsBack_2 4 rfl rfl)
theorem dX0_turnsBack_51 : decode cX0_turnsBack 51 = .ok (.iconst 0, 1) := dk_3 (dk_at dksX0_turnsBack_2 5 rfl rfl)
theorem dX0_turnsBack_52 : decode cX0_turnsBack 52 = .ok (.iload_n 2, 1) := dk_28 (dk_at dksX0_turnsBack_2 6 rfl rfl)
theorem dX0_turnsBack_53 : decode cX0_turnsBack 53 = .ok (.invokestatic 188, 3) := dk_184 0 188 (dk_at dksX0_turnsBack_2 7 rfl rfl)
theorem dX0_turnsBack_56 : decode cX0_turnsBack 56 = .ok (.aload_n 0, 1) := dk_42 (dk_at dksX0_turnsBack_2 10 rfl rfl)
theorem dX0_turnsBack_57 : decode cX0_turnsBack 57 = .ok (.getfield 121, 3) := dk_180 0 121 (dk_at dksX0_turnsBack_2 11 rfl rfl)
theorem dX0_turnsBack_60 : decode cX0_turnsBack 60 = .ok (.iload_n 3, 1) := dk_29 (dk_at dksX0_turnsBack_2 14 rfl rfl)
theorem dX0_turnsBack_61 : decode cX0_turnsBack 61 = .ok (.aaload, 1) := dk_50 (dk_at dksX0_turnsBack_2 15 rfl rfl)
theorem dX0_turnsBack_62 : decode cX0_turnsBack 62 = .ok (.iload_n 2, 1) := dk_28 (dk_at dksX0_turnsBack_2 16 rfl rfl)
theorem dX0_turnsBack_63 : decode cX0_turnsBack 63 = .ok (.iload_n 3, 1) := dk_29 (dk_at dksX0_turnsBack_2 17 rfl rfl)
theorem dX0_turnsBack_64 : decode cX0_turnsBack 64 = .ok (.iadd, 1) := dk_96 (dk_at dksX0_turnsBack_2 18 rfl rfl)
theorem dX0_turnsBack_65 : decode cX0_turnsBack 65 = .ok (.iconst 1, 1) := dk_4 (dk_at dksX0_turnsBack_2 19 rfl rfl)
theorem dX0_turnsBack_66 : decode cX0_turnsBack 66 = .ok (.iastore, 1) := dk_79 (dk_at dksX0_turnsBack_2 20 rfl rfl)
theorem dX0_turnsBack_67 : decode cX0_turnsBack 67 = .ok (.iinc 3 1, 3) := dk_132 3 1 (dk_at dksX0_turnsBack_2 21 rfl rfl)
theorem dX0_turnsBack_70 : decode cX0_turnsBack 70 = .ok (.goto (-63), 3) := dk_167 255 193 (dk_at dksX0_turnsBack_3 0 rfl rfl)
theorem dX0_turnsBack_73 : decode cX0_turnsBack 73 = .ok (.iconst 0, 1) := dk_3 (dk_at dksX0_turnsBack_3 3 rfl rfl)
theorem dX0_turnsBack_74 : decode cX0_turnsBack 74 = .ok (.istore_n 3, 1) := dk_62 (dk_at dksX0_turnsBack_3 4 rfl rfl)
theorem dX0_turnsBack_75 : decode cX0_turnsBack 75 = .ok (.iload_n 3, 1) := dk_29 (dk_at dksX0_turnsBack_3 5 rfl rfl)
theorem dX0_turnsBack_76 : decode cX0_turnsBack 76 = .ok (.iload_n 2, 1) := dk_28 (dk_at dksX0_turnsBack_3 6 rfl rfl)
theorem dX0_turnsBack_77 : decode cX0_turnsBack 77 = .ok (.if_icmp .ge 210, 3) := dk_162 0 210 (dk_at dksX0_turnsBack_3 7 rfl rfl)
theorem dX0_turnsBack_80 : decode cX0_turnsBack 80 = .ok (.iload_n 3, 1) := dk_29 (dk_at dksX0_turnsBack_3 10 rfl rfl)
theorem dX0_turnsBack_81 : decode cX0_turnsBack 81 = .ok (.istore 4, 2) := dk_54 4 (dk_at dksX0_turnsBack_3 11 rfl rfl)
theorem dX0_turnsBack_83 : decode cX0_turnsBack 83 = .ok (.iload 4, 2) := dk_21 4 (dk_at dksX0_turnsBack_3 13 rfl rfl)
theorem dX0_turnsBack_85 : decode cX0_turnsBack 85 = .ok (.iload_n 2, 1) := dk_28 (dk_at dksX0_turnsBack_3 15 rfl rfl)
theorem dX0_turnsBack_86 : decode cX0_turnsBack 86 = .ok (.if_icmp .ge 21, 3) := dk_162 0 21 (dk_at dksX0_turnsBack_3 16 rfl rfl)
theorem dX0_turnsBack_89 : decode cX0_turnsBack 89 = .ok (.aload_n 0, 1) := dk_42 (dk_at dksX0_turnsBack_3 19 rfl rfl)
theorem dX0_turnsBack_90 : decode cX0_turnsBack 90 = .ok (.getfield 121, 3) := dk_180 0 121 (dk_at dksX0_turnsBack_3 20 rfl rfl)
theorem dX0_turnsBack_93 : decode cX0_turnsBack 93 = .ok (.iload 4, 2) := dk_21 4 (dk_at dksX0_turnsBack_4 0 rfl rfl)
theorem dX0_turnsBack_95 : decode cX0_turnsBack 95 = .ok (.aaload, 1) := dk_50 (dk_at dksX0_turnsBack_4 2 rfl rfl)
theorem dX0_turnsBack_96 : decode cX0_turnsBack 96 = .ok (.iload_n 3, 1) := dk_29 (dk_at dksX0_turnsBack_4 3 rfl rfl)
theorem dX0_turnsBack_97 : decode cX0_turnsBack 97 = .ok (.iaload, 1) := dk_46 (dk_at dksX0_turnsBack_4 4 rfl rfl)
theorem dX0_turnsBack_98 : decode cX0_turnsBack 98 = .ok (.ifCond .ne 9, 3) := dk_154 0 9 (dk_at dksX0_turnsBack_4 5 rfl rfl)
theorem dX0_turnsBack_101 : decode cX0_turnsBack 101 = .ok (.iinc 4 1, 3) := dk_132 4 1 (dk_at dksX0_turnsBack_4 8 rfl rfl)
theorem dX0_turnsBack_104 : decode cX0_turnsBack 104 = .ok (.goto (-21), 3) := dk_167 255 235 (dk_at dksX0_turnsBack_4 11 rfl rfl)
theorem dX0_turnsBack_107 : decode cX0_turnsBack 107 = .ok (.iload 4, 2) := dk_21 4 (dk_at dksX0_turnsBack_4 14 rfl rfl)
theorem dX0_turnsBack_109 : decode cX0_turnsBack 109 = .ok (.iload_n 2, 1) := dk_28 (dk_at dksX0_turnsBack_4 16 rfl rfl)
theorem dX0_turnsBack_110 : decode cX0_turnsBack 110 = .ok (.if_icmp .ne 5, 3) := dk_160 0 5 (dk_at dksX0_turnsBack_4 17 rfl rfl)
theorem dX0_turnsBack_113 : decode cX0_turnsBack 113 = .ok (.iconst 0, 1) := dk_3 (dk_at dksX0_turnsBack_4 20 rfl rfl)
theorem dX0_turnsBack_114 : decode cX0_turnsBack 114 = .ok (.ireturn, 1) := dk_172 (dk_at dksX0_turnsBack_4 21 rfl rfl)
theorem dX0_turnsBack_115 : decode cX0_turnsBack 115 = .ok (.aload_n 0, 1) := dk_42 (dk_at dksX0_turnsBack_4 22 rfl rfl)
theorem dX0_turnsBack_116 : decode cX0_turnsBack 116 = .ok (.getfield 121, 3) := dk_180 0 121 (dk_at dksX0_turnsBack_5 0 rfl rfl)
theorem dX0_turnsBack_119 : decode cX0_turnsBack 119 = .ok (.iload 4, 2) := dk_21 4 (dk_at dksX0_turnsBack_5 3 rfl rfl)
theorem dX0_turnsBack_121 : decode cX0_turnsBack 121 = .ok (.aaload, 1) := dk_50 (dk_at dksX0_turnsBack_5 5 rfl rfl)
theorem dX0_turnsBack_122 : decode cX0_turnsBack 122 = .ok (.astore 5, 2) := dk_58 5 (dk_at dksX0_turnsBack_5 6 rfl rfl)
theorem dX0_turnsBack_124 : decode cX0_turnsBack 124 = .ok (.aload_n 0, 1) := dk_42 (dk_at dksX0_turnsBack_5 8 rfl rfl)
theorem dX0_turnsBack_125 : decode cX0_turnsBack 125 = .ok (.getfield 121, 3) := dk_180 0 121 (dk_at dksX0_turnsBack_5 9 rfl rfl)
theorem dX0_turnsBack_128 : decode cX0_turnsBack 128 = .ok (.iload 4, 2) := dk_21 4 (dk_at dksX0_turnsBack_5 12 rfl rfl)
theorem dX0_turnsBack_130 : decode cX0_turnsBack 130 = .ok (.aload_n 0, 1) := dk_42 (dk_at dksX0_turnsBack_5 14 rfl rfl)
theorem dX0_turnsBack_131 : decode cX0_turnsBack 131 = .ok (.getfield 121, 3) := dk_180 0 121 (dk_at dksX0_turnsBack_5 15 rfl rfl)
theorem dX0_turnsBack_134 : decode cX0_turnsBack 134 = .ok (.iload_n 3, 1) := dk_29 (dk_at dksX0_turnsBack_5 18 rfl rfl)
theorem dX0_turnsBack_135 : decode cX0_turnsBack 135 = .ok (.aaload, 1) := dk_50 (dk_at dksX0_turnsBack_5 19 rfl rfl)
theorem dX0_turnsBack_136 : decode cX0_turnsBack 136 = .ok (.aastore, 1) := dk_83 (dk_at dksX0_turnsBack_5 20 rfl rfl)
theorem dX0_turnsBack_137 : decode cX0_turnsBack 137 = .ok (.aload_n 0, 1) := dk_42 (dk_at dksX0_turnsBack_5 21 rfl rfl)
theorem dX0_turnsBack_138 : decode cX0_turnsBack 138 = .ok (.getfield 121, 3) := dk_180 0 121 (dk_at dksX0_turnsBack_6 0 rfl rfl)
theorem dX0_turnsBack_141 : decode cX0_turnsBack 141 = .ok (.iload_n 3, 1) := dk_29 (dk_at dksX0_turnsBack_6 3 rfl rfl)
theorem dX0_turnsBack_142 : decode cX0_turnsBack 142 = .ok (.aload 5, 2) := dk_25 5 (dk_at dksX0_turnsBack_6 4 rfl rfl)
theorem dX0_turnsBack_144 : decode cX0_turnsBack 144 = .ok (.aastore, 1) := dk_83 (dk_at dksX0_turnsBack_6 6 rfl rfl)
theorem dX0_turnsBack_145 : decode cX0_turnsBack 145 = .ok (.aload_n 1, 1) := dk_43 (dk_at dksX0_turnsBack_6 7 rfl rfl)
theorem dX0_turnsBack_146 : decode cX0_turnsBack 146 = .ok (.aload 5, 2) := dk_25 5 (dk_at dksX0_turnsBack_6 8 rfl rfl)
theorem dX0_turnsBack_148 : decode cX0_turnsBack 148 = .ok (.iload_n 3, 1) := dk_29 (dk_at dksX0_turnsBack_6 10 rfl rfl)
theorem dX0_turnsBack_149 : decode cX0_turnsBack 149 = .ok (.iaload, 1) := dk_46 (dk_at dksX0_turnsBack_6 11 rfl rfl)
theorem dX0_turnsBack_150 : decode cX0_turnsBack 150 = .ok (.invokevirtual 477, 3) := dk_182 1 221 (dk_at dksX0_turnsBack_6 12 rfl rfl)
theorem dX0_turnsBack_153 : decode cX0_turnsBack 153 = .ok (.istore 6, 2) := dk_54 6 (dk_at dksX0_turnsBack_6 15 rfl rfl)
theorem dX0_turnsBack_155 : decode cX0_turnsBack 155 = .ok (.iconst 0, 1) := dk_3 (dk_at dksX0_turnsBack_6 17 rfl rfl)
theorem dX0_turnsBack_156 : decode cX0_turnsBack 156 = .ok (.istore 7, 2) := dk_54 7 (dk_at dksX0_turnsBack_6 18 rfl rfl)
theorem dX0_turnsBack_158 : decode cX0_turnsBack 158 = .ok (.iload 7, 2) := dk_21 7 (dk_at dksX0_turnsBack_6 20 rfl rfl)
theorem dX0_turnsBack_160 : decode cX0_turnsBack 160 = .ok (.iconst 2, 1) := dk_5 (dk_at dksX0_turnsBack_6 22 rfl rfl)
theorem dX0_turnsBack_161 : decode cX0_turnsBack 161 = .ok (.iload_n 2, 1) := dk_28 (dk_at dksX0_turnsBack_6 23 rfl rfl)
theorem dX0_turnsBack_162 : decode cX0_turnsBack 162 = .ok (.imul, 1) := dk_104 (dk_at dksX0_turnsBack_7 0 rfl rfl)
theorem dX0_turnsBack_163 : decode cX0_turnsBack 163 = .ok (.if_icmp .ge 27, 3) := dk_162 0 27 (dk_at dksX0_turnsBack_7 1 rfl rfl)
theorem dX0_turnsBack_166 : decode cX0_turnsBack 166 = .ok (.aload 5, 2) := dk_25 5 (dk_at dksX0_turnsBack_7 4 rfl rfl)
theorem dX0_turnsBack_168 : decode cX0_turnsBack 168 = .ok (.iload 7, 2) := dk_21 7 (dk_at dksX0_turnsBack_7 6 rfl rfl)
theorem dX0_turnsBack_170 : decode cX0_turnsBack 170 = .ok (.aload 5, 2) := dk_25 5 (dk_at dksX0_turnsBack_7 8 rfl rfl)
theorem dX0_turnsBack_172 : decode cX0_turnsBack 172 = .ok (.iload 7, 2) := dk_21 7 (dk_at dksX0_turnsBack_7 10 rfl rfl)
theorem dX0_turnsBack_174 : decode cX0_turnsBack 174 = .ok (.iaload, 1) := dk_46 (dk_at dksX0_turnsBack_7 12 rfl rfl)
theorem dX0_turnsBack_175 : decode cX0_turnsBack 175 = .ok (.iload 6, 2) := dk_21 6 (dk_at dksX0_turnsBack_7 13 rfl rfl)
theorem dX0_turnsBack_177 : decode cX0_turnsBack 177 = .ok (.imul, 1) := dk_104 (dk_at dksX0_turnsBack_7 15 rfl rfl)
theorem dX0_turnsBack_178 : decode cX0_turnsBack 178 = .ok (.aload_n 1, 1) := dk_43 (dk_at dksX0_turnsBack_7 16 rfl rfl)
theorem dX0_turnsBack_179 : decode cX0_turnsBack 179 = .ok (.getfield 253, 3) := dk_180 0 253 (dk_at dksX0_turnsBack_7 17 rfl rfl)
theorem dX0_turnsBack_182 : decode cX0_turnsBack 182 = .ok (.irem, 1) := dk_112 (dk_at dksX0_turnsBack_7 20 rfl rfl)
theorem dX0_turnsBack_183 : decode cX0_turnsBack 183 = .ok (.iastore, 1) := dk_79 (dk_at dksX0_turnsBack_7 21 rfl rfl)
theorem dX0_turnsBack_184 : decode cX0_turnsBack 184 = .ok (.iinc 7 1, 3) := dk_132 7 1 (dk_at dksX0_turnsBack_8 0 rfl rfl)
theorem dX0_turnsBack_187 : decode cX0_turnsBack 187 = .ok (.goto (-29), 3) := dk_167 255 227 (dk_at dksX0_turnsBack_8 3 rfl rfl)
theorem dX0_turnsBack_190 : decode cX0_turnsBack 190 = .ok (.iconst 0, 1) := dk_3 (dk_at dksX0_turnsBack_8 6 rfl rfl)
theorem dX0_turnsBack_191 : decode cX0_turnsBack 191 = .ok (.istore 7, 2) := dk_54 7 (dk_at dksX0_turnsBack_8 7 rfl rfl)
theorem dX0_turnsBack_193 : decode cX0_turnsBack 193 = .ok (.iload 7, 2) := dk_21 7 (dk_at dksX0_turnsBack_8 9 rfl rfl)
theorem dX0_turnsBack_195 : decode cX0_turnsBack 195 = .ok (.iload_n 2, 1) := dk_28 (dk_at dksX0_turnsBack_8 11 rfl rfl)
theorem dX0_turnsBack_196 : decode cX0_turnsBack 196 = .ok (.if_icmp .ge 85, 3) := dk_162 0 85 (dk_at dksX0_turnsBack_8 12 rfl rfl)
theorem dX0_turnsBack_199 : decode cX0_turnsBack 199 = .ok (.iload 7, 2) := dk_21 7 (dk_at dksX0_turnsBack_8 15 rfl rfl)
theorem dX0_turnsBack_201 : decode cX0_turnsBack 201 = .ok (.iload_n 3, 1) := dk_29 (dk_at dksX0_turnsBack_8 17 rfl rfl)
theorem dX0_turnsBack_202 : decode cX0_turnsBack 202 = .ok (.if_icmp .ne 7, 3) := dk_160 0 7 (dk_at dksX0_turnsBack_8 18 rfl rfl)
theorem dX0_turnsBack_205 : decode cX0_turnsBack 205 = .ok (.iconst 0, 1) := dk_3 (dk_at dksX0_turnsBack_8 21 rfl rfl)
theorem dX0_turnsBack_206 : decode cX0_turnsBack 206 = .ok (.goto 12, 3) := dk_167 0 12 (dk_at dksX0_turnsBack_9 0 rfl rfl)
theorem dX0_turnsBack_209 : decode cX0_turnsBack 209 = .ok (.aload_n 0, 1) := dk_42 (dk_at dksX0_turnsBack_9 3 rfl rfl)
theorem dX0_turnsBack_210 : decode cX0_turnsBack 210 = .ok (.getfield 121, 3) := dk_180 0 121 (dk_at dksX0_turnsBack_9 4 rfl rfl)
theorem dX0_turnsBack_213 : decode cX0_turnsBack 213 = .ok (.iload 7, 2) := dk_21 7 (dk_at dksX0_turnsBack_9 7 rfl rfl)
theorem dX0_turnsBack_215 : decode cX0_turnsBack 215 = .ok (.aaload, 1) := dk_50 (dk_at dksX0_turnsBack_9 9 rfl rfl)
theorem dX0_turnsBack_216 : decode cX0_turnsBack 216 = .ok (.iload_n 3, 1) := dk_29 (dk_at dksX0_turnsBack_9 10 rfl rfl)
theorem dX0_turnsBack_217 : decode cX0_turnsBack 217 = .ok (.iaload, 1) := dk_46 (dk_at dksX0_turnsBack_9 11 rfl rfl)
theorem dX0_turnsBack_218 : decode cX0_turnsBack 218 = .ok (.istore 8, 2) := dk_54 8 (dk_at dksX0_turnsBack_9 12 rfl rfl)
theorem dX0_turnsBack_220 : decode cX0_turnsBack 220 = .ok (.iconst 0, 1) := dk_3 (dk_at dksX0_turnsBack_9 14 rfl rfl)
theorem dX0_turnsBack_221 : decode cX0_turnsBack 221 = .ok (.istore 9, 2) := dk_54 9 (dk_at dksX0_turnsBack_9 15 rfl rfl)
theorem dX0_turnsBack_223 : decode cX0_turnsBack 223 = .ok (.iload 9, 2) := dk_21 9 (dk_at dksX0_turnsBack_9 17 rfl rfl)
theorem dX0_turnsBack_225 : decode cX0_turnsBack 225 = .ok (.iconst 2, 1) := dk_5 (dk_at dksX0_turnsBack_9 19 rfl rfl)
theorem dX0_turnsBack_226 : decode cX0_turnsBack 226 = .ok (.iload_n 2, 1) := dk_28 (dk_at dksX0_turnsBack_9 20 rfl rfl)
theorem dX0_turnsBack_227 : decode cX0_turnsBack 227 = .ok (.imul, 1) := dk_104 (dk_at dksX0_turnsBack_9 21 rfl rfl)
theorem dX0_turnsBack_228 : decode cX0_turnsBack 228 = .ok (.if_icmp .ge 47, 3) := dk_162 0 47 (dk_at dksX0_turnsBack_10 0 rfl rfl)
theorem dX0_turnsBack_231 : decode cX0_turnsBack 231 = .ok (.iload 8, 2) := dk_21 8 (dk_at dksX0_turnsBack_10 3 rfl rfl)
theorem dX0_turnsBack_233 : decode cX0_turnsBack 233 = .ok (.ifCond .eq 42, 3) := dk_153 0 42 (dk_at dksX0_turnsBack_10 5 rfl rfl)
theorem dX0_turnsBack_236 : decode cX0_turnsBack 236 = .ok (.aload_n 0, 1) := dk_42 (dk_at dksX0_turnsBack_10 8 rfl rfl)
theorem dX0_turnsBack_237 : decode cX0_turnsBack 237 = .ok (.getfield 121, 3) := dk_180 0 121 (dk_at dksX0_turnsBack_10 9 rfl rfl)
theorem dX0_turnsBack_240 : decode cX0_turnsBack 240 = .ok (.iload 7, 2) := dk_21 7 (dk_at dksX0_turnsBack_10 12 rfl rfl)
theorem dX0_turnsBack_242 : decode cX0_turnsBack 242 = .ok (.aaload, 1) := dk_50 (dk_at dksX0_turnsBack_10 14 rfl rfl)
theorem dX0_turnsBack_243 : decode cX0_turnsBack 243 = .ok (.iload 9, 2) := dk_21 9 (dk_at dksX0_turnsBack_10 15 rfl rfl)
theorem dX0_turnsBack_245 : decode cX0_turnsBack 245 = .ok (.aload_n 1, 1) := dk_43 (dk_at dksX0_turnsBack_10 17 rfl rfl)
theorem dX0_turnsBack_246 : decode cX0_turnsBack 246 = .ok (.aload_n 0, 1) := dk_42 (dk_at dksX0_turnsBack_10 18 rfl rfl)
theorem dX0_turnsBack_247 : decode cX0_turnsBack 247 = .ok (.getfield 121, 3) := dk_180 0 121 (dk_at dksX0_turnsBack_10 19 rfl rfl)
theorem dX0_turnsBack_250 : decode cX0_turnsBack 250 = .ok (.iload 7, 2) := dk_21 7 (dk_at dksX0_turnsBack_10 22 rfl rfl)
theorem dX0_turnsBack_252 : decode cX0_turnsBack 252 = .ok (.aaload, 1) := dk_50 (dk_at dksX0_turnsBack_11 0 rfl rfl)
theorem dX0_turnsBack_253 : decode cX0_turnsBack 253 = .ok (.iload 9, 2) := dk_21 9 (dk_at dksX0_turnsBack_11 1 rfl rfl)
theorem dX0_turnsBack_255 : decode cX0_turnsBack 255 = .ok (.iaload, 1) := dk_46 (dk_at dksX0_turnsBack_11 3 rfl rfl)
theorem dX0_turnsBack_256 : decode cX0_turnsBack 256 = .ok (.iload 8, 2) := dk_21 8 (dk_at dksX0_turnsBack_11 4 rfl rfl)
theorem dX0_turnsBack_258 : decode cX0_turnsBack 258 = .ok (.aload 5, 2) := dk_25 5 (dk_at dksX0_turnsBack_11 6 rfl rfl)
theorem dX0_turnsBack_260 : decode cX0_turnsBack 260 = .ok (.iload 9, 2) := dk_21 9 (dk_at dksX0_turnsBack_11 8 rfl rfl)
theorem dX0_turnsBack_262 : decode cX0_turnsBack 262 = .ok (.iaload, 1) := dk_46 (dk_at dksX0_turnsBack_11 10 rfl rfl)
theorem dX0_turnsBack_263 : decode cX0_turnsBack 263 = .ok (.imul, 1) := dk_104 (dk_at dksX0_turnsBack_11 11 rfl rfl)
theorem dX0_turnsBack_264 : decode cX0_turnsBack 264 = .ok (.isub, 1) := dk_100 (dk_at dksX0_turnsBack_11 12 rfl rfl)
theorem dX0_turnsBack_265 : decode cX0_turnsBack 265 = .ok (.invokevirtual 282, 3) := dk_182 1 26 (dk_at dksX0_turnsBack_11 13 rfl rfl)
theorem dX0_turnsBack_268 : decode cX0_turnsBack 268 = .ok (.iastore, 1) := dk_79 (dk_at dksX0_turnsBack_11 16 rfl rfl)
theorem dX0_turnsBack_269 : decode cX0_turnsBack 269 = .ok (.iinc 9 1, 3) := dk_132 9 1 (dk_at dksX0_turnsBack_11 17 rfl rfl)
theorem dX0_turnsBack_272 : decode cX0_turnsBack 272 = .ok (.goto (-49), 3) := dk_167 255 207 (dk_at dksX0_turnsBack_11 20 rfl rfl)
theorem dX0_turnsBack_275 : decode cX0_turnsBack 275 = .ok (.iinc 7 1, 3) := dk_132 7 1 (dk_at dksX0_turnsBack_12 0 rfl rfl)
theorem dX0_turnsBack_278 : decode cX0_turnsBack 278 = .ok (.goto (-85), 3) := dk_167 255 171 (dk_at dksX0_turnsBack_12 3 rfl rfl)
theorem dX0_turnsBack_281 : decode cX0_turnsBack 281 = .ok (.iinc 3 1, 3) := dk_132 3 1 (dk_at dksX0_turnsBack_12 6 rfl rfl)
theorem dX0_turnsBack_284 : decode cX0_turnsBack 284 = .ok (.goto (-209), 3) := dk_167 255 47 (dk_at dksX0_turnsBack_12 9 rfl rfl)
theorem dX0_turnsBack_287 : decode cX0_turnsBack 287 = .ok (.iconst 0, 1) := dk_3 (dk_at dksX0_turnsBack_12 12 rfl rfl)
theorem dX0_turnsBack_288 : decode cX0_turnsBack 288 = .ok (.istore_n 3, 1) := dk_62 (dk_at dksX0_turnsBack_12 13 rfl rfl)
theorem dX0_turnsBack_289 : decode cX0_turnsBack 289 = .ok (.iload_n 3, 1) := dk_29 (dk_at dksX0_turnsBack_12 14 rfl rfl)
theorem dX0_turnsBack_290 : decode cX0_turnsBack 290 = .ok (.iload_n 2, 1) := dk_28 (dk_at dksX0_turnsBack_12 15 rfl rfl)
theorem dX0_turnsBack_291 : decode cX0_turnsBack 291 = .ok (.if_icmp .ge 27, 3) := dk_162 0 27 (dk_at dksX0_turnsBack_12 16 rfl rfl)
theorem dX0_turnsBack_294 : decode cX0_turnsBack 294 = .ok (.aload_n 0, 1) := dk_42 (dk_at dksX0_turnsBack_12 19 rfl rfl)
theorem dX0_turnsBack_295 : decode cX0_turnsBack 295 = .ok (.getfield 121, 3) := dk_180 0 121 (dk_at dksX0_turnsBack_12 20 rfl rfl)
theorem dX0_turnsBack_298 : decode cX0_turnsBack 298 = .ok (.iload_n 3, 1) := dk_29 (dk_at dksX0_turnsBack_12 23 rfl rfl)
theorem dX0_turnsBack_299 : decode cX0_turnsBack 299 = .ok (.aaload, 1) := dk_50 (dk_at dksX0_turnsBack_13 0 rfl rfl)
theorem dX0_turnsBack_300 : decode cX0_turnsBack 300 = .ok (.iload_n 2, 1) := dk_28 (dk_at dksX0_turnsBack_13 1 rfl rfl)
theorem dX0_turnsBack_301 : decode cX0_turnsBack 301 = .ok (.aload_n 0, 1) := dk_42 (dk_at dksX0_turnsBack_13 2 rfl rfl)
theorem dX0_turnsBack_302 : decode cX0_turnsBack 302 = .ok (.getfield 118, 3) := dk_180 0 118 (dk_at dksX0_turnsBack_13 3 rfl rfl)
theorem dX0_turnsBack_305 : decode cX0_turnsBack 305 = .ok (.iload_n 3, 1) := dk_29 (dk_at dksX0_turnsBack_13 6 rfl rfl)
theorem dX0_turnsBack_306 : decode cX0_turnsBack 306 = .ok (.aaload, 1) := dk_50 (dk_at dksX0_turnsBack_13 7 rfl rfl)
theorem dX0_turnsBack_307 : decode cX0_turnsBack 307 = .ok (.iconst 0, 1) := dk_3 (dk_at dksX0_turnsBack_13 8 rfl rfl)
theorem dX0_turnsBack_308 : decode cX0_turnsBack 308 = .ok (.iload_n 2, 1) := dk_28 (dk_at dksX0_turnsBack_13 9 rfl rfl)
theorem dX0_turnsBack_309 : decode cX0_turnsBack 309 = .ok (.invokestatic 188, 3) := dk_184 0 188 (dk_at dksX0_turnsBack_13 10 rfl rfl)
theorem dX0_turnsBack_312 : decode cX0_turnsBack 312 = .ok (.iinc 3 1, 3) := dk_132 3 1 (dk_at dksX0_turnsBack_13 13 rfl rfl)
theorem dX0_turnsBack_315 : decode cX0_turnsBack 315 = .ok (.goto (-26), 3) := dk_167 255 230 (dk_at dksX0_turnsBack_13 16 rfl rfl)
theorem dX0_turnsBack_318 : decode cX0_turnsBack 318 = .ok (.iconst 1, 1) := dk_4 (dk_at dksX0_turnsBack_13 19 rfl rfl)
theorem dX0_turnsBack_319 : decode cX0_turnsBack 319 = .ok (.ireturn, 1) := dk_172 (dk_at dksX0_turnsBack_13 20 rfl rfl)
abbrev cX0_squeeze : ByteArray := prog_1_method_96_code
def dkwX0_squeeze_9 : List UInt8 := [132, 6, 1, 167, 255, 192, 132, 5, 1, 167, 255, 174, 42, 3, 182, 0, 150, 172]
abbrev dktX0_squeeze_9 : List UInt8 := dkwX0_squeeze_9 ++ []
def dkwX0_squeeze_8 : List UInt8 := [158, 0, 17, 42, 180, 0, 30, 21, 5, 21, 6, 21, 7, 3, 182, 1, 7, 132, 7, 1, 167, 255, 207]
abbrev dktX0_squeeze_8 : List UInt8 := dkwX0_squeeze_8 ++ dktX0_squeeze_9
def dkwX0_squeeze_7 : List UInt8 := [25, 4, 21, 5, 182, 0, 175, 25, 4, 21, 6, 182, 0, 175, 97, 25, 4, 21, 7, 182, 0, 175, 148]
abbrev dktX0_squeeze_7 : List UInt8 := dkwX0_squeeze_7 ++ dktX0_squeeze_8
def dkwX0_squeeze_6 : List UInt8 := [162, 0, 82, 21, 5, 4, 96, 54, 6, 21, 6, 28, 162, 0, 64, 3, 54, 7, 21, 7, 28, 162, 0, 49]
abbrev dktX0_squeeze_6 : List UInt8 := dkwX0_squeeze_6 ++ dktX0_squeeze_7
def dkwX0_squeeze_5 : List UInt8 := [132, 7, 1, 167, 255, 195, 132, 6, 1, 167, 255, 180, 132, 5, 1, 167, 255, 162, 3, 54, 5, 21, 5, 28]
abbrev dktX0_squeeze_5 : List UInt8 := dkwX0_squeeze_5 ++ dktX0_squeeze_6
def dkwX0_squeeze_4 : List UInt8 := [21, 6, 182, 0, 175, 97, 25, 4, 21, 7, 182, 0, 175, 148, 156, 0, 10, 42, 16, 9, 182, 0, 150, 172]
abbrev dktX0_squeeze_4 : List UInt8 := dkwX0_squeeze_4 ++ dktX0_squeeze_5
def dkwX0_squeeze_3 : List UInt8 := [180, 1, 0, 21, 5, 50, 21, 6, 50, 21, 7, 46, 153, 0, 36, 25, 4, 21, 5, 182, 0, 175, 25, 4]
abbrev dktX0_squeeze_3 : List UInt8 := dkwX0_squeeze_3 ++ dktX0_squeeze_4
def dkwX0_squeeze_2 : List UInt8 := [4, 96, 54, 6, 21, 6, 28, 162, 0, 76, 3, 54, 7, 21, 7, 28, 162, 0, 61, 42, 180, 0, 30]
abbrev dktX0_squeeze_2 : List UInt8 := dkwX0_squeeze_2 ++ dktX0_squeeze_3
def dkwX0_squeeze_1 : List UInt8 := [29, 182, 0, 150, 172, 42, 180, 0, 11, 27, 50, 58, 4, 3, 54, 5, 21, 5, 28, 162, 0, 94, 21, 5]
abbrev dktX0_squeeze_1 : List UInt8 := dkwX0_squeeze_1 ++ dktX0_squeeze_2
def dkwX0_squeeze_0 : List UInt8 := [42, 180, 0, 30, 180, 0, 196, 61, 42, 27, 28, 16, 236, 16, 20, 182, 1, 227, 62, 29, 158, 0, 9, 42]
abbrev dktX0_squeeze_0 : List UInt8 := dkwX0_squeeze_0 ++ dktX0_squeeze_1
theorem dksX0_squeeze_0 : cX0_squeeze.data.toList.drop 0 = dktX0_squeeze_0 := by decide +kernel
theorem dksX0_squeeze_1 : cX0_squeeze.data.toList.drop 24 = dktX0_squeeze_1 := dk_seg dksX0_squeeze_0 24 rfl rfl
theorem dksX0_squeeze_2 : cX0_squeeze.data.toList.drop 48 = dktX0_squeeze_2 := dk_seg dksX0_squeeze_1 24 rfl rfl
theorem dksX0_squeeze_3 : cX0_squeeze.data.toList.drop 71 = dktX0_squeeze_3 := dk_seg dksX0_squeeze_2 23 rfl rfl
theorem dksX0_squeeze_4 : cX0_squeeze.data.toList.drop 95 = dktX0_squeeze_4 := dk_seg dksX0_squeeze_3 24 rfl rfl
theorem dksX0_squeeze_5 : cX0_squeeze.data.toList.drop 119 = dktX0_squeeze_5 := dk_seg dksX0_squeeze_4 24 rfl rfl
theorem dksX0_squeeze_6 : cX0_squeeze.data.toList.drop 143 = dktX0_squeeze_6 := dk_seg dksX0_squeeze_5 24 rfl rfl
theorem dksX0_squeeze_7 : cX0_squeeze.data.toList.drop 167 = dktX0_squeeze_7 := dk_seg dksX0_squeeze_6 24 rfl rfl
theorem dksX0_squeeze_8 : cX0_squeeze.data.toList.drop 190 = dktX0_squeeze_8 := dk_seg dksX0_squeeze_7 23 rfl rfl
theorem dksX0_squeeze_9 : cX0_squeeze.data.toList.drop 213 = dktX0_squeeze_9 := dk_seg dksX0_squeeze_8 23 rfl rfl
theorem dX0_squeeze_0 : decode cX0_squeeze 0 = .ok (.aload_n 0, 1) := dk_42 (dk_at dksX0_squeeze_0 0 rfl rfl)
theorem dX0_squeeze_1 : decode cX0_squeeze 1 = .ok (.getfield 30, 3) := dk_180 0 30 (dk_at dksX0_squeeze_0 1 rfl rfl)
theorem dX0_squeeze_4 : decode cX0_squeeze 4 = .ok (.getfield 196, 3) := dk_180 0 196 (dk_at dksX0_squeeze_0 4 rfl rfl)
theorem dX0_squeeze_7 : decode cX0_squeeze 7 = .ok (.istore_n 2, 1) := dk_61 (dk_at dksX0_squeeze_0 7 rfl rfl)
theorem dX0_squeeze_8 : decode cX0_squeeze 8 = .ok (.aload_n 0, 1) := dk_42 (dk_at dksX0_squeeze_0 8 rfl rfl)
theorem dX0_squeeze_9 : decode cX0_squeeze 9 = .ok (.iload_n 1, 1) := dk_27 (dk_at dksX0_squeeze_0 9 rfl rfl)
theorem dX0_squeeze_10 : decode cX0_squeeze 10 = .ok (.iload_n 2, 1) := dk_28 (dk_at dksX0_squeeze_0 10 rfl rfl)
theorem dX0_squeeze_11 : decode cX0_squeeze 11 = .ok (.bipush (-20), 2) := dk_16 236 (dk_at dksX0_squeeze_0 11 rfl rfl)
theorem dX0_squeeze_13 : decode cX0_squeeze 13 = .ok (.bipush 20, 2) := dk_16 20 (dk_at dksX0_squeeze_0 13 rfl rfl)
theorem dX0_squeeze_15 : decode cX0_squeeze 15 = .ok (.invokevirtual 483, 3) := dk_182 1 227 (dk_at dksX0_squeeze_0 15 rfl rfl)
theorem dX0_squeeze_18 : decode cX0_squeeze 18 = .ok (.istore_n 3, 1) := dk_62 (dk_at dksX0_squeeze_0 18 rfl rfl)
theorem dX0_squeeze_19 : decode cX0_squeeze 19 = .ok (.iload_n 3, 1) := dk_29 (dk_at dksX0_squeeze_0 19 rfl rfl)
theorem dX0_squeeze_20 : decode cX0_squeeze 20 = .ok (.ifCond .le 9, 3) := dk_158 0 9 (dk_at dksX0_squeeze_0 20 rfl rfl)
theorem dX0_squeeze_23 : decode cX0_squeeze 23 = .ok (.aload_n 0, 1) := dk_42 (dk_at dksX0_squeeze_0 23 rfl rfl)
theorem dX0_squeeze_24 : decode cX0_squeeze 24 = .ok (.iload_n 3, 1) := dk_29 (dk_at dksX0_squeeze_1 0 rfl rfl)
theorem dX0_squeeze_25 : decode cX0_squeeze 25 = .ok (.invokevirtual 150, 3) := dk_182 0 150 (dk_at dksX0_squeeze_1 1 rfl rfl)
theorem dX0_squeeze_28 : decode cX0_squeeze 28 = .ok (.ireturn, 1) := dk_172 (dk_at dksX0_squeeze_1 4 rfl rfl)
theorem dX0_squeeze_29 : decode cX0_squeeze 29 = .ok (.aload_n 0, 1) := dk_42 (dk_at dksX0_squeeze_1 5 rfl rfl)
theorem dX0_squeeze_30 : decode cX0_squeeze 30 = .ok (.getfield 11, 3) := dk_180 0 11 (dk_at dksX0_squeeze_1 6 rfl rfl)
theorem dX0_squeeze_33 : decode cX0_squeeze 33 = .ok (.iload_n 1, 1) := dk_27 (dk_at dksX0_squeeze_1 9 rfl rfl)
theorem dX0_squeeze_34 : decode cX0_squeeze 34 = .ok (.aaload, 1) := dk_50 (dk_at dksX0_squeeze_1 10 rfl rfl)
theorem dX0_squeeze_35 : decode cX0_squeeze 35 = .ok (.astore 4, 2) := dk_58 4 (dk_at dksX0_squeeze_1 11 rfl rfl)
theorem dX0_squeeze_37 : decode cX0_squeeze 37 = .ok (.iconst 0, 1) := dk_3 (dk_at dksX0_squeeze_1 13 rfl rfl)
theorem dX0_squeeze_38 : decode cX0_squeeze 38 = .ok (.istore 5, 2) := dk_54 5 (dk_at dksX0_squeeze_1 14 rfl rfl)
theorem dX0_squeeze_40 : decode cX0_squeeze 40 = .ok (.iload 5, 2) := dk_21 5 (dk_at dksX0_squeeze_1 16 rfl rfl)
theorem dX0_squeeze_42 : decode cX0_squeeze 42 = .ok (.iload_n 2, 1) := dk_28 (dk_at dksX0_squeeze_1 18 rfl rfl)
theorem dX0_squeeze_43 : decode cX0_squeeze 43 = .ok (.if_icmp .ge 94, 3) := dk_162 0 94 (dk_at dksX0_squeeze_1 19 rfl rfl)
theorem dX0_squeeze_46 : decode cX0_squeeze 46 = .ok (.iload 5, 2) := dk_21 5 (dk_at dksX0_squeeze_1 22 rfl rfl)
theorem dX0_squeeze_48 : decode cX0_squeeze 48 = .ok (.iconst 1, 1) := dk_4 (dk_at dksX0_squeeze_2 0 rfl rfl)
theorem dX0_squeeze_49 : decode cX0_squeeze 49 = .ok (.iadd, 1) := dk_96 (dk_at dksX0_squeeze_2 1 rfl rfl)
theorem dX0_squeeze_50 : decode cX0_squeeze 50 = .ok (.istore 6, 2) := dk_54 6 (dk_at dksX0_squeeze_2 2 rfl rfl)
theorem dX0_squeeze_52 : decode cX0_squeeze 52 = .ok (.iload 6, 2) := dk_21 6 (dk_at dksX0_squeeze_2 4 rfl rfl)
theorem dX0_squeeze_54 : decode cX0_squeeze 54 = .ok (.iload_n 2, 1) := dk_28 (dk_at dksX0_squeeze_2 6 rfl rfl)
theorem dX0_squeeze_55 : decode cX0_squeeze 55 = .ok (.if_icmp .ge 76, 3) := dk_162 0 76 (dk_at dksX0_squeeze_2 7 rfl rfl)
theorem dX0_squeeze_58 : decode cX0_squeeze 58 = .ok (.iconst 0, 1) := dk_3 (dk_at dksX0_squeeze_2 10 rfl rfl)
theorem dX0_squeeze_59 : decode cX0_squeeze 59 = .ok (.istore 7, 2) := dk_54 7 (dk_at dksX0_squeeze_2 11 rfl rfl)
theorem dX0_squeeze_61 : decode cX0_squeeze 61 = .ok (.iload 7, 2) := dk_21 7 (dk_at dksX0_squeeze_2 13 rfl rfl)
theorem dX0_squeeze_63 : decode cX0_squeeze 63 = .ok (.iload_n 2, 1) := dk_28 (dk_at dksX0_squeeze_2 15 rfl rfl)
theorem dX0_squeeze_64 : decode cX0_squeeze 64 = .ok (.if_icmp .ge 61, 3) := dk_162 0 61 (dk_at dksX0_squeeze_2 16 rfl rfl)
theorem dX0_squeeze_67 : decode cX0_squeeze 67 = .ok (.aload_n 0, 1) := dk_42 (dk_at dksX0_squeeze_2 19 rfl rfl)
theorem dX0_squeeze_68 : decode cX0_squeeze 68 = .ok (.getfield 30, 3) := dk_180 0 30 (dk_at dksX0_squeeze_2 20 rfl rfl)
theorem dX0_squeeze_71 : decode cX0_squeeze 71 = .ok (.getfield 256, 3) := dk_180 1 0 (dk_at dksX0_squeeze_3 0 rfl rfl)
theorem dX0_squeeze_74 : decode cX0_squeeze 74 = .ok (.iload 5, 2) := dk_21 5 (dk_at dksX0_squeeze_3 3 rfl rfl)
theorem dX0_squeeze_76 : decode cX0_squeeze 76 = .ok (.aaload, 1) := dk_50 (dk_at dksX0_squeeze_3 5 rfl rfl)
theorem dX0_squeeze_77 : decode cX0_squeeze 77 = .ok (.iload 6, 2) := dk_21 6 (dk_at dksX0_squeeze_3 6 rfl rfl)
theorem dX0_squeeze_79 : decode cX0_squeeze 79 = .ok (.aaload, 1) := dk_50 (dk_at dksX0_squeeze_3 8 rfl rfl)
theorem dX0_squeeze_80 : decode cX0_squeeze 80 = .ok (.iload 7, 2) := dk_21 7 (dk_at dksX0_squeeze_3 9 rfl rfl)
theorem dX0_squeeze_82 : decode cX0_squeeze 82 = .ok (.iaload, 1) := dk_46 (dk_at dksX0_squeeze_3 11 rfl rfl)
theorem dX0_squeeze_83 : decode cX0_squeeze 83 = .ok (.ifCond .eq 36, 3) := dk_153 0 36 (dk_at dksX0_squeeze_3 12 rfl rfl)
theorem dX0_squeeze_86 : decode cX0_squeeze 86 = .ok (.aload 4, 2) := dk_25 4 (dk_at dksX0_squeeze_3 15 rfl rfl)
theorem dX0_squeeze_88 : decode cX0_squeeze 88 = .ok (.iload 5, 2) := dk_21 5 (dk_at dksX0_squeeze_3 17 rfl rfl)
theorem dX0_squeeze_90 : decode cX0_squeeze 90 = .ok (.invokevirtual 175, 3) := dk_182 0 175 (dk_at dksX0_squeeze_3 19 rfl rfl)
theorem dX0_squeeze_93 : decode cX0_squeeze 93 = .ok (.aload 4, 2) := dk_25 4 (dk_at dksX0_squeeze_3 22 rfl rfl)
theorem dX0_squeeze_95 : decode cX0_squeeze 95 = .ok (.iload 6, 2) := dk_21 6 (dk_at dksX0_squeeze_4 0 rfl rfl)
theorem dX0_squeeze_97 : decode cX0_squeeze 97 = .ok (.invokevirtual 175, 3) := dk_182 0 175 (dk_at dksX0_squeeze_4 2 rfl rfl)
theorem dX0_squeeze_100 : decode cX0_squeeze 100 = .ok (.ladd, 1) := dk_97 (dk_at dksX0_squeeze_4 5 rfl rfl)
theorem dX0_squeeze_101 : decode cX0_squeeze 101 = .ok (.aload 4, 2) := dk_25 4 (dk_at dksX0_squeeze_4 6 rfl rfl)
theorem dX0_squeeze_103 : decode cX0_squeeze 103 = .ok (.iload 7, 2) := dk_21 7 (dk_at dksX0_squeeze_4 8 rfl rfl)
theorem dX0_squeeze_105 : decode cX0_squeeze 105 = .ok (.invokevirtual 175, 3) := dk_182 0 175 (dk_at dksX0_squeeze_4 10 rfl rfl)
theorem dX0_squeeze_108 : decode cX0_squeeze 108 = .ok (.lcmp, 1) := dk_148 (dk_at dksX0_squeeze_4 13 rfl rfl)
theorem dX0_squeeze_109 : decode cX0_squeeze 109 = .ok (.ifCond .ge 10, 3) := dk_156 0 10 (dk_at dksX0_squeeze_4 14 rfl rfl)
theorem dX0_squeeze_112 : decode cX0_squeeze 112 = .ok (.aload_n 0, 1) := dk_42 (dk_at dksX0_squeeze_4 17 rfl rfl)
theorem dX0_squeeze_113 : decode cX0_squeeze 113 = .ok (.bipush 9, 2) := dk_16 9 (dk_at dksX0_squeeze_4 18 rfl rfl)
theorem dX0_squeeze_115 : decode cX0_squeeze 115 = .ok (.invokevirtual 150, 3) := dk_182 0 150 (dk_at dksX0_squeeze_4 20 rfl rfl)
theorem dX0_squeeze_118 : decode cX0_squeeze 118 = .ok (.ireturn, 1) := dk_172 (dk_at dksX0_squeeze_4 23 rfl rfl)
theorem dX0_squeeze_119 : decode cX0_squeeze 119 = .ok (.iinc 7 1, 3) := dk_132 7 1 (dk_at dksX0_squeeze_5 0 rfl rfl)
theorem dX0_squeeze_122 : decode cX0_squeeze 122 = .ok (.goto (-61), 3) := dk_167 255 195 (dk_at dksX0_squeeze_5 3 rfl rfl)
theorem dX0_squeeze_125 : decode cX0_squeeze 125 = .ok (.iinc 6 1, 3) := dk_132 6 1 (dk_at dksX0_squeeze_5 6 rfl rfl)
theorem dX0_squeeze_128 : decode cX0_squeeze 128 = .ok (.goto (-76), 3) := dk_167 255 180 (dk_at dksX0_squeeze_5 9 rfl rfl)
theorem dX0_squeeze_131 : decode cX0_squeeze 131 = .ok (.iinc 5 1, 3) := dk_132 5 1 (dk_at dksX0_squeeze_5 12 rfl rfl)
theorem dX0_squeeze_134 : decode cX0_squeeze 134 = .ok (.goto (-94), 3) := dk_167 255 162 (dk_at dksX0_squeeze_5 15 rfl rfl)
theorem dX0_squeeze_137 : decode cX0_squeeze 137 = .ok (.iconst 0, 1) := dk_3 (dk_at dksX0_squeeze_5 18 rfl rfl)
theorem dX0_squeeze_138 : decode cX0_squeeze 138 = .ok (.istore 5, 2) := dk_54 5 (dk_at dksX0_squeeze_5 19 rfl rfl)
theorem dX0_squeeze_140 : decode cX0_squeeze 140 = .ok (.iload 5, 2) := dk_21 5 (dk_at dksX0_squeeze_5 21 rfl rfl)
theorem dX0_squeeze_142 : decode cX0_squeeze 142 = .ok (.iload_n 2, 1) := dk_28 (dk_at dksX0_squeeze_5 23 rfl rfl)
theorem dX0_squeeze_143 : decode cX0_squeeze 143 = .ok (.if_icmp .ge 82, 3) := dk_162 0 82 (dk_at dksX0_squeeze_6 0 rfl rfl)
theorem dX0_squeeze_146 : decode cX0_squeeze 146 = .ok (.iload 5, 2) := dk_21 5 (dk_at dksX0_squeeze_6 3 rfl rfl)
theorem dX0_squeeze_148 : decode cX0_squeeze 148 = .ok (.iconst 1, 1) := dk_4 (dk_at dksX0_squeeze_6 5 rfl rfl)
theorem dX0_squeeze_149 : decode cX0_squeeze 149 = .ok (.iadd, 1) := dk_96 (dk_at dksX0_squeeze_6 6 rfl rfl)
theorem dX0_squeeze_150 : decode cX0_squeeze 150 = .ok (.istore 6, 2) := dk_54 6 (dk_at dksX0_squeeze_6 7 rfl rfl)
theorem dX0_squeeze_152 : decode cX0_squeeze 152 = .ok (.iload 6, 2) := dk_21 6 (dk_at dksX0_squeeze_6 9 rfl rfl)
theorem dX0_squeeze_154 : decode cX0_squeeze 154 = .ok (.iload_n 2, 1) := dk_28 (dk_at dksX0_squeeze_6 11 rfl rfl)
theorem dX0_squeeze_155 : decode cX0_squeeze 155 = .ok (.if_icmp .ge 64, 3) := dk_162 0 64 (dk_at dksX0_squeeze_6 12 rfl rfl)
theorem dX0_squeeze_158 : decode cX0_squeeze 158 = .ok (.iconst 0, 1) := dk_3 (dk_at dksX0_squeeze_6 15 rfl rfl)
theorem dX0_squeeze_159 : decode cX0_squeeze 159 = .ok (.istore 7, 2) := dk_54 7 (dk_at dksX0_squeeze_6 16 rfl rfl)
theorem dX0_squeeze_161 : decode cX0_squeeze 161 = .ok (.iload 7, 2) := dk_21 7 (dk_at dksX0_squeeze_6 18 rfl rfl)
theorem dX0_squeeze_163 : decode cX0_squeeze 163 = .ok (.iload_n 2, 1) := dk_28 (dk_at dksX0_squeeze_6 20 rfl rfl)
theorem dX0_squeeze_164 : decode cX0_squeeze 164 = .ok (.if_icmp .ge 49, 3) := dk_162 0 49 (dk_at dksX0_squeeze_6 21 rfl rfl)
theorem dX0_squeeze_167 : decode cX0_squeeze 167 = .ok (.aload 4, 2) := dk_25 4 (dk_at dksX0_squeeze_7 0 rfl rfl)
theorem dX0_squeeze_169 : decode cX0_squeeze 169 = .ok (.iload 5, 2) := dk_21 5 (dk_at dksX0_squeeze_7 2 rfl rfl)
theorem dX0_squeeze_171 : decode cX0_squeeze 171 = .ok (.invokevirtual 175, 3) := dk_182 0 175 (dk_at dksX0_squeeze_7 4 rfl rfl)
theorem dX0_squeeze_174 : decode cX0_squeeze 174 = .ok (.aload 4, 2) := dk_25 4 (dk_at dksX0_squeeze_7 7 rfl rfl)
theorem dX0_squeeze_176 : decode cX0_squeeze 176 = .ok (.iload 6, 2) := dk_21 6 (dk_at dksX0_squeeze_7 9 rfl rfl)
theorem dX0_squeeze_178 : decode cX0_squeeze 178 = .ok (.invokevirtual 175, 3) := dk_182 0 175 (dk_at dksX0_squeeze_7 11 rfl rfl)
theorem dX0_squeeze_181 : decode cX0_squeeze 181 = .ok (.ladd, 1) := dk_97 (dk_at dksX0_squeeze_7 14 rfl rfl)
theorem dX0_squeeze_182 : decode cX0_squeeze 182 = .ok (.aload 4, 2) := dk_25 4 (dk_at dksX0_squeeze_7 15 rfl rfl)
theorem dX0_squeeze_184 : decode cX0_squeeze 184 = .ok (.iload 7, 2) := dk_21 7 (dk_at dksX0_squeeze_7 17 rfl rfl)
theorem dX0_squeeze_186 : decode cX0_squeeze 186 = .ok (.invokevirtual 175, 3) := dk_182 0 175 (dk_at dksX0_squeeze_7 19 rfl rfl)
theorem dX0_squeeze_189 : decode cX0_squeeze 189 = .ok (.lcmp, 1) := dk_148 (dk_at dksX0_squeeze_7 22 rfl rfl)
theorem dX0_squeeze_190 : decode cX0_squeeze 190 = .ok (.ifCond .le 17, 3) := dk_158 0 17 (dk_at dksX0_squeeze_8 0 rfl rfl)
theorem dX0_squeeze_193 : decode cX0_squeeze 193 = .ok (.aload_n 0, 1) := dk_42 (dk_at dksX0_squeeze_8 3 rfl rfl)
theorem dX0_squeeze_194 : decode cX0_squeeze 194 = .ok (.getfield 30, 3) := dk_180 0 30 (dk_at dksX0_squeeze_8 4 rfl rfl)
theorem dX0_squeeze_197 : decode cX0_squeeze 197 = .ok (.iload 5, 2) := dk_21 5 (dk_at dksX0_squeeze_8 7 rfl rfl)
theorem dX0_squeeze_199 : decode cX0_squeeze 199 = .ok (.iload 6, 2) := dk_21 6 (dk_at dksX0_squeeze_8 9 rfl rfl)
theorem dX0_squeeze_201 : decode cX0_squeeze 201 = .ok (.iload 7, 2) := dk_21 7 (dk_at dksX0_squeeze_8 11 rfl rfl)
theorem dX0_squeeze_203 : decode cX0_squeeze 203 = .ok (.iconst 0, 1) := dk_3 (dk_at dksX0_squeeze_8 13 rfl rfl)
theorem dX0_squeeze_204 : decode cX0_squeeze 204 = .ok (.invokevirtual 263, 3) := dk_182 1 7 (dk_at dksX0_squeeze_8 14 rfl rfl)
theorem dX0_squeeze_207 : decode cX0_squeeze 207 = .ok (.iinc 7 1, 3) := dk_132 7 1 (dk_at dksX0_squeeze_8 17 rfl rfl)
theorem dX0_squeeze_210 : decode cX0_squeeze 210 = .ok (.goto (-49), 3) := dk_167 255 207 (dk_at dksX0_squeeze_8 20 rfl rfl)
theorem dX0_squeeze_213 : decode cX0_squeeze 213 = .ok (.iinc 6 1, 3) := dk_132 6 1 (dk_at dksX0_squeeze_9 0 rfl rfl)
theorem dX0_squeeze_216 : decode cX0_squeeze 216 = .ok (.goto (-64), 3) := dk_167 255 192 (dk_at dksX0_squeeze_9 3 rfl rfl)
theorem dX0_squeeze_219 : decode cX0_squeeze 219 = .ok (.iinc 5 1, 3) := dk_132 5 1 (dk_at dksX0_squeeze_9 6 rfl rfl)
theorem dX0_squeeze_222 : decode cX0_squeeze 222 = .ok (.goto (-82), 3) := dk_167 255 174 (dk_at dksX0_squeeze_9 9 rfl rfl)
theorem dX0_squeeze_225 : decode cX0_squeeze 225 = .ok (.aload_n 0, 1) := dk_42 (dk_at dksX0_squeeze_9 12 rfl rfl)
theorem dX0_squeeze_226 : decode cX0_squeeze 226 = .ok (.iconst 0, 1) := dk_3 (dk_at dksX0_squeeze_9 13 rfl rfl)
theorem dX0_squeeze_227 : decode cX0_squeeze 227 = .ok (.invokevirtual 150, 3) := dk_182 0 150 (dk_at dksX0_squeeze_9 14 rfl rfl)
theorem dX0_squeeze_230 : decode cX0_squeeze 230 = .ok (.ireturn, 1) := dk_172 (dk_at dksX0_squeeze_9 17 rfl rfl)
abbrev cX0_barred : ByteArray := prog_1_method_97_code
def dkwX0_barred_4 : List UInt8 := [182, 1, 103, 42, 42, 180, 0, 30, 182, 1, 103, 162, 0, 7, 6, 167, 0, 4, 3, 182, 0, 235, 172]
abbrev dktX0_barred_4 : List UInt8 := dkwX0_barred_4 ++ []
def dkwX0_barred_3 : List UInt8 := [182, 1, 89, 42, 42, 180, 0, 30, 4, 182, 1, 89, 164, 0, 9, 42, 5, 182, 0, 235, 172, 42, 42, 45]
abbrev dktX0_barred_3 : List UInt8 := dkwX0_barred_3 ++ dktX0_barred_4
def dkwX0_barred_2 : List UInt8 := [182, 1, 167, 42, 42, 180, 0, 30, 182, 1, 167, 162, 0, 9, 42, 4, 182, 0, 235, 172, 42, 45, 4]
abbrev dktX0_barred_2 : List UInt8 := dkwX0_barred_2 ++ dktX0_barred_3
def dkwX0_barred_1 : List UInt8 := [154, 0, 5, 8, 61, 28, 158, 0, 9, 42, 28, 182, 0, 171, 172, 42, 180, 0, 37, 27, 50, 78, 42, 45]
abbrev dktX0_barred_1 : List UInt8 := dkwX0_barred_1 ++ dktX0_barred_2
def dkwX0_barred_0 : List UInt8 := [42, 27, 182, 1, 43, 61, 28, 154, 0, 21, 42, 180, 0, 30, 42, 180, 0, 37, 27, 50, 182, 1, 208]
abbrev dktX0_barred_0 : List UInt8 := dkwX0_barred_0 ++ dktX0_barred_1
theorem dksX0_barred_0 : cX0_barred.data.toList.drop 0 = dktX0_barred_0 := by decide +kernel
theorem dksX0_barred_1 : cX0_barred.data.toList.drop 23 = dktX0_barred_1 := dk_seg dksX0_barred_0 23 rfl rfl
theorem dksX0_barred_2 : cX0_barred.data.toList.drop 47 = dktX0_barred_2 := dk_seg dksX0_barred_1 24 rfl rfl
theorem dksX0_barred_3 : cX0_barred.data.toList.drop 70 = dktX0_barred_3 := dk_seg dksX0_barred_2 23 rfl rfl
theorem dksX0_barred_4 : cX0_barred.data.toList.drop 94 = dktX0_barred_4 := dk_seg dksX0_barred_3 24 rfl rfl
theorem dX0_barred_0 : decode cX0_barred 0 = .ok (.aload_n 0, 1) := dk_42 (dk_at dksX0_barred_0 0 rfl rfl)
theorem dX0_barred_1 : decode cX0_barred 1 = .ok (.iload_n 1, 1) := dk_27 (dk_at dksX0_barred_0 1 rfl rfl)
theorem dX0_barred_2 : decode cX0_barred 2 = .ok (.invokevirtual 299, 3) := dk_182 1 43 (dk_at dksX0_barred_0 2 rfl rfl)
theorem dX0_barred_5 : decode cX0_barred 5 = .ok (.istore_n 2, 1) := dk_61 (dk_at dksX0_barred_0 5 rfl rfl)
theorem dX0_barred_6 : decode cX0_barred 6 = .ok (.iload_n 2, 1) := dk_28 (dk_at dksX0_barred_0 6 rfl rfl)
theorem dX0_barred_7 : decode cX0_barred 7 = .ok (.ifCond .ne 21, 3) := dk_154 0 21 (dk_at dksX0_barred_0 7 rfl rfl)
theorem dX0_barred_10 : decode cX0_barred 10 = .ok (.aload_n 0, 1) := dk_42 (dk_at dksX0_barred_0 10 rfl rfl)
theorem dX0_barred_11 : decode cX0_barred 11 = .ok (.getfield 30, 3) := dk_180 0 30 (dk_at dksX0_barred_0 11 rfl rfl)
theorem dX0_barred_14 : decode cX0_barred 14 = .ok (.aload_n 0, 1) := dk_42 (dk_at dksX0_barred_0 14 rfl rfl)
theorem dX0_barred_15 : decode cX0_barred 15 = .ok (.getfield 37, 3) := dk_180 0 37 (dk_at dksX0_barred_0 15 rfl rfl)
theorem dX0_barred_18 : decode cX0_barred 18 = .ok (.iload_n 1, 1) := dk_27 (dk_at dksX0_barred_0 18 rfl rfl)
theorem dX0_barred_19 : decode cX0_barred 19 = .ok (.aaload, 1) := dk_50 (dk_at dksX0_barred_0 19 rfl rfl)
theorem dX0_barred_20 : decode cX0_barred 20 = .ok (.invokevirtual 464, 3) := dk_182 1 208 (dk_at dksX0_barred_0 20 rfl rfl)
theorem dX0_barred_23 : decode cX0_barred 23 = .ok (.ifCond .ne 5, 3) := dk_154 0 5 (dk_at dksX0_barred_1 0 rfl rfl)
theorem dX0_barred_26 : decode cX0_barred 26 = .ok (.iconst 5, 1) := dk_8 (dk_at dksX0_barred_1 3 rfl rfl)
theorem dX0_barred_27 : decode cX0_barred 27 = .ok (.istore_n 2, 1) := dk_61 (dk_at dksX0_barred_1 4 rfl rfl)
theorem dX0_barred_28 : decode cX0_barred 28 = .ok (.iload_n 2, 1) := dk_28 (dk_at dksX0_barred_1 5 rfl rfl)
theorem dX0_barred_29 : decode cX0_barred 29 = .ok (.ifCond .le 9, 3) := dk_158 0 9 (dk_at dksX0_barred_1 6 rfl rfl)
theorem dX0_barred_32 : decode cX0_barred 32 = .ok (.aload_n 0, 1) := dk_42 (dk_at dksX0_barred_1 9 rfl rfl)
theorem dX0_barred_33 : decode cX0_barred 33 = .ok (.iload_n 2, 1) := dk_28 (dk_at dksX0_barred_1 10 rfl rfl)
theorem dX0_barred_34 : decode cX0_barred 34 = .ok (.invokevirtual 171, 3) := dk_182 0 171 (dk_at dksX0_barred_1 11 rfl rfl)
theorem dX0_barred_37 : decode cX0_barred 37 = .ok (.ireturn, 1) := dk_172 (dk_at dksX0_barred_1 14 rfl rfl)
theorem dX0_barred_38 : decode cX0_barred 38 = .ok (.aload_n 0, 1) := dk_42 (dk_at dksX0_barred_1 15 rfl rfl)
theorem dX0_barred_39 : decode cX0_barred 39 = .ok (.getfield 37, 3) := dk_180 0 37 (dk_at dksX0_barred_1 16 rfl rfl)
theorem dX0_barred_42 : decode cX0_barred 42 = .ok (.iload_n 1, 1) := dk_27 (dk_at dksX0_barred_1 19 rfl rfl)
theorem dX0_barred_43 : decode cX0_barred 43 = .ok (.aaload, 1) := dk_50 (dk_at dksX0_barred_1 20 rfl rfl)
theorem dX0_barred_44 : decode cX0_barred 44 = .ok (.astore_n 3, 1) := dk_78 (dk_at dksX0_barred_1 21 rfl rfl)
theorem dX0_barred_45 : decode cX0_barred 45 = .ok (.aload_n 0, 1) := dk_42 (dk_at dksX0_barred_1 22 rfl rfl)
theorem dX0_barred_46 : decode cX0_barred 46 = .ok (.aload_n 3, 1) := dk_45 (dk_at dksX0_barred_1 23 rfl rfl)
theorem dX0_barred_47 : decode cX0_barred 47 = .ok (.invokevirtual 423, 3) := dk_182 1 167 (dk_at dksX0_barred_2 0 rfl rfl)
theorem dX0_barred_50 : decode cX0_barred 50 = .ok (.aload_n 0, 1) := dk_42 (dk_at dksX0_barred_2 3 rfl rfl)
theorem dX0_barred_51 : decode cX0_barred 51 = .ok (.aload_n 0, 1) := dk_42 (dk_at dksX0_barred_2 4 rfl rfl)
theorem dX0_barred_52 : decode cX0_barred 52 = .ok (.getfield 30, 3) := dk_180 0 30 (dk_at dksX0_barred_2 5 rfl rfl)
theorem dX0_barred_55 : decode cX0_barred 55 = .ok (.invokevirtual 423, 3) := dk_182 1 167 (dk_at dksX0_barred_2 8 rfl rfl)
theorem dX0_barred_58 : decode cX0_barred 58 = .ok (.if_icmp .ge 9, 3) := dk_162 0 9 (dk_at dksX0_barred_2 11 rfl rfl)
theorem dX0_barred_61 : decode cX0_barred 61 = .ok (.aload_n 0, 1) := dk_42 (dk_at dksX0_barred_2 14 rfl rfl)
theorem dX0_barred_62 : decode cX0_barred 62 = .ok (.iconst 1, 1) := dk_4 (dk_at dksX0_barred_2 15 rfl rfl)
theorem dX0_barred_63 : decode cX0_barred 63 = .ok (.invokevirtual 235, 3) := dk_182 0 235 (dk_at dksX0_barred_2 16 rfl rfl)
theorem dX0_barred_66 : decode cX0_barred 66 = .ok (.ireturn, 1) := dk_172 (dk_at dksX0_barred_2 19 rfl rfl)
theorem dX0_barred_67 : decode cX0_barred 67 = .ok (.aload_n 0, 1) := dk_42 (dk_at dksX0_barred_2 20 rfl rfl)
theorem dX0_barred_68 : decode cX0_barred 68 = .ok (.aload_n 3, 1) := dk_45 (dk_at dksX0_barred_2 21 rfl rfl)
theorem dX0_barred_69 : decode cX0_barred 69 = .ok (.iconst 1, 1) := dk_4 (dk_at dksX0_barred_2 22 rfl rfl)
theorem dX0_barred_70 : decode cX0_barred 70 = .ok (.invokevirtual 345, 3) := dk_182 1 89 (dk_at dksX0_barred_3 0 rfl rfl)
theorem dX0_barred_73 : decode cX0_barred 73 = .ok (.aload_n 0, 1) := dk_42 (dk_at dksX0_barred_3 3 rfl rfl)
theorem dX0_barred_74 : decode cX0_barred 74 = .ok (.aload_n 0, 1) := dk_42 (dk_at dksX0_barred_3 4 rfl rfl)
theorem dX0_barred_75 : decode cX0_barred 75 = .ok (.getfield 30, 3) := dk_180 0 30 (dk_at dksX0_barred_3 5 rfl rfl)
theorem dX0_barred_78 : decode cX0_barred 78 = .ok (.iconst 1, 1) := dk_4 (dk_at dksX0_barred_3 8 rfl rfl)
theorem dX0_barred_79 : decode cX0_barred 79 = .ok (.invokevirtual 345, 3) := dk_182 1 89 (dk_at dksX0_barred_3 9 rfl rfl)
theorem dX0_barred_82 : decode cX0_barred 82 = .ok (.if_icmp .le 9, 3) := dk_164 0 9 (dk_at dksX0_barred_3 12 rfl rfl)
theorem dX0_barred_85 : decode cX0_barred 85 = .ok (.aload_n 0, 1) := dk_42 (dk_at dksX0_barred_3 15 rfl rfl)
theorem dX0_barred_86 : decode cX0_barred 86 = .ok (.iconst 2, 1) := dk_5 (dk_at dksX0_barred_3 16 rfl rfl)
theorem dX0_barred_87 : decode cX0_barred 87 = .ok (.invokevirtual 235, 3) := dk_182 0 235 (dk_at dksX0_barred_3 17 rfl rfl)
theorem dX0_barred_90 : decode cX0_barred 90 = .ok (.ireturn, 1) := dk_172 (dk_at dksX0_barred_3 20 rfl rfl)
theorem dX0_barred_91 : decode cX0_barred 91 = .ok (.aload_n 0, 1) := dk_42 (dk_at dksX0_barred_3 21 rfl rfl)
theorem dX0_barred_92 : decode cX0_barred 92 = .ok (.aload_n 0, 1) := dk_42 (dk_at dksX0_barred_3 22 rfl rfl)
theorem dX0_barred_93 : decode cX0_barred 93 = .ok (.aload_n 3, 1) := dk_45 (dk_at dksX0_barred_3 23 rfl rfl)
theorem dX0_barred_94 : decode cX0_barred 94 = .ok (.invokevirtual 359, 3) := dk_182 1 103 (dk_at dksX0_barred_4 0 rfl rfl)
theorem dX0_barred_97 : decode cX0_barred 97 = .ok (.aload_n 0, 1) := dk_42 (dk_at dksX0_barred_4 3 rfl rfl)
theorem dX0_barred_98 : decode cX0_barred 98 = .ok (.aload_n 0, 1) := dk_42 (dk_at dksX0_barred_4 4 rfl rfl)
theorem dX0_barred_99 : decode cX0_barred 99 = .ok (.getfield 30, 3) := dk_180 0 30 (dk_at dksX0_barred_4 5 rfl rfl)
theorem dX0_barred_102 : decode cX0_barred 102 = .ok (.invokevirtual 359, 3) := dk_182 1 103 (dk_at dksX0_barred_4 8 rfl rfl)
theorem dX0_barred_105 : decode cX0_barred 105 = .ok (.if_icmp .ge 7, 3) := dk_162 0 7 (dk_at dksX0_barred_4 11 rfl rfl)
theorem dX0_barred_108 : decode cX0_barred 108 = .ok (.iconst 3, 1) := dk_6 (dk_at dksX0_barred_4 14 rfl rfl)
theorem dX0_barred_109 : decode cX0_barred 109 = .ok (.goto 4, 3) := dk_167 0 4 (dk_at dksX0_barred_4 15 rfl rfl)
theorem dX0_barred_112 : decode cX0_barred 112 = .ok (.iconst 0, 1) := dk_3 (dk_at dksX0_barred_4 18 rfl rfl)
theorem dX0_barred_113 : decode cX0_barred 113 = .ok (.invokevirtual 235, 3) := dk_182 0 235 (dk_at dksX0_barred_4 19 rfl rfl)
theorem dX0_barred_116 : decode cX0_barred 116 = .ok (.ireturn, 1) := dk_172 (dk_at dksX0_barred_4 22 rfl rfl)
abbrev cX0_cocycle : ByteArray := prog_1_method_101_code
def dkwX0_cocycle_2 : List UInt8 := [182, 0, 235, 172]
abbrev dktX0_cocycle_2 : List UInt8 := dkwX0_cocycle_2 ++ []
def dkwX0_cocycle_1 : List UInt8 := [42, 28, 182, 0, 171, 172, 42, 27, 182, 1, 240, 42, 42, 182, 1, 243, 153, 0, 7, 4, 167, 0, 4, 3]
abbrev dktX0_cocycle_1 : List UInt8 := dkwX0_cocycle_1 ++ dktX0_cocycle_2
def dkwX0_cocycle_0 : List UInt8 := [42, 27, 42, 182, 1, 237, 3, 42, 180, 0, 30, 180, 0, 253, 4, 100, 182, 1, 227, 61, 28, 158, 0, 9]
abbrev dktX0_cocycle_0 : List UInt8 := dkwX0_cocycle_0 ++ dktX0_cocycle_1
theorem dksX0_cocycle_0 : cX0_cocycle.data.toList.drop 0 = dktX0_cocycle_0 := by decide +kernel
theorem dksX0_cocycle_1 : cX0_cocycle.data.toList.drop 24 = dktX0_cocycle_1 := dk_seg dksX0_cocycle_0 24 rfl rfl
theorem dksX0_cocycle_2 : cX0_cocycle.data.toList.drop 48 = dktX0_cocycle_2 := dk_seg dksX0_cocycle_1 24 rfl rfl
theorem dX0_cocycle_0 : decode cX0_cocycle 0 = .ok (.aload_n 0, 1) := dk_42 (dk_at dksX0_cocycle_0 0 rfl rfl)
theorem dX0_cocycle_1 : decode cX0_cocycle 1 = .ok (.iload_n 1, 1) := dk_27 (dk_at dksX0_cocycle_0 1 rfl rfl)
theorem dX0_cocycle_2 : decode cX0_cocycle 2 = .ok (.aload_n 0, 1) := dk_42 (dk_at dksX0_cocycle_0 2 rfl rfl)
theorem dX0_cocycle_3 : decode cX0_cocycle 3 = .ok (.invokevirtual 493, 3) := dk_182 1 237 (dk_at dksX0_cocycle_0 3 rfl rfl)
theorem dX0_cocycle_6 : decode cX0_cocycle 6 = .ok (.iconst 0, 1) := dk_3 (dk_at dksX0_cocycle_0 6 rfl rfl)
theorem dX0_cocycle_7 : decode cX0_cocycle 7 = .ok (.aload_n 0, 1) := dk_42 (dk_at dksX0_cocycle_0 7 rfl rfl)
theorem dX0_cocycle_8 : decode cX0_cocycle 8 = .ok (.getfield 30, 3) := dk_180 0 30 (dk_at dksX0_cocycle_0 8 rfl rfl)
theorem dX0_cocycle_11 : decode cX0_cocycle 11 = .ok (.getfield 253, 3) := dk_180 0 253 (dk_at dksX0_cocycle_0 11 rfl rfl)
theorem dX0_cocycle_14 : decode cX0_cocycle 14 = .ok (.iconst 1, 1) := dk_4 (dk_at dksX0_cocycle_0 14 rfl rfl)
theorem dX0_cocycle_15 : decode cX0_cocycle 15 = .ok (.isub, 1) := dk_100 (dk_at dksX0_cocycle_0 15 rfl rfl)
theorem dX0_cocycle_16 : decode cX0_cocycle 16 = .ok (.invokevirtual 483, 3) := dk_182 1 227 (dk_at dksX0_cocycle_0 16 rfl rfl)
theorem dX0_cocycle_19 : decode cX0_cocycle 19 = .ok (.istore_n 2, 1) := dk_61 (dk_at dksX0_cocycle_0 19 rfl rfl)
theorem dX0_cocycle_20 : decode cX0_cocycle 20 = .ok (.iload_n 2, 1) := dk_28 (dk_at dksX0_cocycle_0 20 rfl rfl)
theorem dX0_cocycle_21 : decode cX0_cocycle 21 = .ok (.ifCond .le 9, 3) := dk_158 0 9 (dk_at dksX0_cocycle_0 21 rfl rfl)
theorem dX0_cocycle_24 : decode cX0_cocycle 24 = .ok (.aload_n 0, 1) := dk_42 (dk_at dksX0_cocycle_1 0 rfl rfl)
theorem dX0_cocycle_25 : decode cX0_cocycle 25 = .ok (.iload_n 2, 1) := dk_28 (dk_at dksX0_cocycle_1 1 rfl rfl)
theorem dX0_cocycle_26 : decode cX0_cocycle 26 = .ok (.invokevirtual 171, 3) := dk_182 0 171 (dk_at dksX0_cocycle_1 2 rfl rfl)
theorem dX0_cocycle_29 : decode cX0_cocycle 29 = .ok (.ireturn, 1) := dk_172 (dk_at dksX0_cocycle_1 5 rfl rfl)
theorem dX0_cocycle_30 : decode cX0_cocycle 30 = .ok (.aload_n 0, 1) := dk_42 (dk_at dksX0_cocycle_1 6 rfl rfl)
theorem dX0_cocycle_31 : decode cX0_cocycle 31 = .ok (.iload_n 1, 1) := dk_27 (dk_at dksX0_cocycle_1 7 rfl rfl)
theorem dX0_cocycle_32 : decode cX0_cocycle 32 = .ok (.invokevirtual 496, 3) := dk_182 1 240 (dk_at dksX0_cocycle_1 8 rfl rfl)
theorem dX0_cocycle_35 : decode cX0_cocycle 35 = .ok (.aload_n 0, 1) := dk_42 (dk_at dksX0_cocycle_1 11 rfl rfl)
theorem dX0_cocycle_36 : decode cX0_cocycle 36 = .ok (.aload_n 0, 1) := dk_42 (dk_at dksX0_cocycle_1 12 rfl rfl)
theorem dX0_cocycle_37 : decode cX0_cocycle 37 = .ok (.invokevirtual 499, 3) := dk_182 1 243 (dk_at dksX0_cocycle_1 13 rfl rfl)
theorem dX0_cocycle_40 : decode cX0_cocycle 40 = .ok (.ifCond .eq 7, 3) := dk_153 0 7 (dk_at dksX0_cocycle_1 16 rfl rfl)
theorem dX0_cocycle_43 : decode cX0_cocycle 43 = .ok (.iconst 1, 1) := dk_4 (dk_at dksX0_cocycle_1 19 rfl rfl)
theorem dX0_cocycle_44 : decode cX0_cocycle 44 = .ok (.goto 4, 3) := dk_167 0 4 (dk_at dksX0_cocycle_1 20 rfl rfl)
theorem dX0_cocycle_47 : decode cX0_cocycle 47 = .ok (.iconst 0, 1) := dk_3 (dk_at dksX0_cocycle_1 23 rfl rfl)
theorem dX0_cocycle_48 : decode cX0_cocycle 48 = .ok (.invokevirtual 235, 3) := dk_182 0 235 (dk_at dksX0_cocycle_2 0 rfl rfl)
theorem dX0_cocycle_51 : decode cX0_cocycle 51 = .ok (.ireturn, 1) := dk_172 (dk_at dksX0_cocycle_2 3 rfl rfl)
abbrev cX0_couples : ByteArray := prog_1_method_98_code
def dkwX0_couples_0 : List UInt8 := [42, 180, 0, 30, 180, 0, 196, 42, 180, 0, 30, 180, 0, 196, 4, 100, 104, 5, 108, 172]
abbrev dktX0_couples_0 : List UInt8 := dkwX0_couples_0 ++ []
theorem dksX0_couples_0 : cX0_couples.data.toList.drop 0 = dktX0_couples_0 := by decide +kernel
theorem dX0_couples_0 : decode cX0_couples 0 = .ok (.aload_n 0, 1) := dk_42 (dk_at dksX0_couples_0 0 rfl rfl)
theorem dX0_couples_1 : decode cX0_couples 1 = .ok (.getfield 30, 3) := dk_180 0 30 (dk_at dksX0_couples_0 1 rfl rfl)
theorem dX0_couples_4 : decode cX0_couples 4 = .ok (.getfield 196, 3) := dk_180 0 196 (dk_at dksX0_couples_0 4 rfl rfl)
theorem dX0_couples_7 : decode cX0_couples 7 = .ok (.aload_n 0, 1) := dk_42 (dk_at dksX0_couples_0 7 rfl rfl)
theorem dX0_couples_8 : decode cX0_couples 8 = .ok (.getfield 30, 3) := dk_180 0 30 (dk_at dksX0_couples_0 8 rfl rfl)
theorem dX0_couples_11 : decode cX0_couples 11 = .ok (.getfield 196, 3) := dk_180 0 196 (dk_at dksX0_couples_0 11 rfl rfl)
theorem dX0_couples_14 : decode cX0_couples 14 = .ok (.iconst 1, 1) := dk_4 (dk_at dksX0_couples_0 14 rfl rfl)
theorem dX0_couples_15 : decode cX0_couples 15 = .ok (.isub, 1) := dk_100 (dk_at dksX0_couples_0 15 rfl rfl)
theorem dX0_couples_16 : decode cX0_couples 16 = .ok (.imul, 1) := dk_104 (dk_at dksX0_couples_0 16 rfl rfl)
theorem dX0_couples_17 : decode cX0_couples 17 = .ok (.iconst 2, 1) := dk_5 (dk_at dksX0_couples_0 17 rfl rfl)
theorem dX0_couples_18 : decode cX0_couples 18 = .ok (.idiv, 1) := dk_108 (dk_at dksX0_couples_0 18 rfl rfl)
theorem dX0_couples_19 : decode cX0_couples 19 = .ok (.ireturn, 1) := dk_172 (dk_at dksX0_couples_0 19 rfl rfl)
abbrev cX0_reads : ByteArray := prog_1_method_99_code
def dkwX0_reads_4 : List UInt8 := [3, 79, 132, 3, 1, 167, 255, 161, 177]
abbrev dktX0_reads_4 : List UInt8 := dkwX0_reads_4 ++ []
def dkwX0_reads_3 : List UInt8 := [21, 4, 46, 116, 182, 1, 26, 79, 132, 2, 1, 132, 4, 1, 167, 255, 192, 42, 180, 0, 124, 29, 50, 29]
abbrev dktX0_reads_3 : List UInt8 := dkwX0_reads_3 ++ dktX0_reads_4
def dkwX0_reads_2 : List UInt8 := [182, 0, 175, 136, 79, 42, 180, 0, 124, 21, 4, 50, 29, 42, 180, 0, 30, 42, 180, 0, 124, 29, 50]
abbrev dktX0_reads_2 : List UInt8 := dkwX0_reads_2 ++ dktX0_reads_3
def dkwX0_reads_1 : List UInt8 := [180, 0, 30, 180, 0, 196, 162, 0, 58, 42, 180, 0, 124, 29, 50, 21, 4, 42, 180, 0, 11, 27, 50, 28]
abbrev dktX0_reads_1 : List UInt8 := dkwX0_reads_1 ++ dktX0_reads_2
def dkwX0_reads_0 : List UInt8 := [3, 61, 3, 62, 29, 42, 180, 0, 30, 180, 0, 196, 162, 0, 90, 29, 4, 96, 54, 4, 21, 4, 42]
abbrev dktX0_reads_0 : List UInt8 := dkwX0_reads_0 ++ dktX0_reads_1
theorem dksX0_reads_0 : cX0_reads.data.toList.drop 0 = dktX0_reads_0 := by decide +kernel
theorem dksX0_reads_1 : cX0_reads.data.toList.drop 23 = dktX0_reads_1 := dk_seg dksX0_reads_0 23 rfl rfl
theorem dksX0_reads_2 : cX0_reads.data.toList.drop 47 = dktX0_reads_2 := dk_seg dksX0_reads_1 24 rfl rfl
theorem dksX0_reads_3 : cX0_reads.data.toList.drop 70 = dktX0_reads_3 := dk_seg dksX0_reads_2 23 rfl rfl
theorem dksX0_reads_4 : cX0_reads.data.toList.drop 94 = dktX0_reads_4 := dk_seg dksX0_reads_3 24 rfl rfl
theorem dX0_reads_0 : decode cX0_reads 0 = .ok (.iconst 0, 1) := dk_3 (dk_at dksX0_reads_0 0 rfl rfl)
theorem dX0_reads_1 : decode cX0_reads 1 = .ok (.istore_n 2, 1) := dk_61 (dk_at dksX0_reads_0 1 rfl rfl)
theorem dX0_reads_2 : decode cX0_reads 2 = .ok (.iconst 0, 1) := dk_3 (dk_at dksX0_reads_0 2 rfl rfl)
theorem dX0_reads_3 : decode cX0_reads 3 = .ok (.istore_n 3, 1) := dk_62 (dk_at dksX0_reads_0 3 rfl rfl)
theorem dX0_reads_4 : decode cX0_reads 4 = .ok (.iload_n 3, 1) := dk_29 (dk_at dksX0_reads_0 4 rfl rfl)
theorem dX0_reads_5 : decode cX0_reads 5 = .ok (.aload_n 0, 1) := dk_42 (dk_at dksX0_reads_0 5 rfl rfl)
theorem dX0_reads_6 : decode cX0_reads 6 = .ok (.getfield 30, 3) := dk_180 0 30 (dk_at dksX0_reads_0 6 rfl rfl)
theorem dX0_reads_9 : decode cX0_reads 9 = .ok (.getfield 196, 3) := dk_180 0 196 (dk_at dksX0_reads_0 9 rfl rfl)
theorem dX0_reads_12 : decode cX0_reads 12 = .ok (.if_icmp .ge 90, 3) := dk_162 0 90 (dk_at dksX0_reads_0 12 rfl rfl)
theorem dX0_reads_15 : decode cX0_reads 15 = .ok (.iload_n 3, 1) := dk_29 (dk_at dksX0_reads_0 15 rfl rfl)
theorem dX0_reads_16 : decode cX0_reads 16 = .ok (.iconst 1, 1) := dk_4 (dk_at dksX0_reads_0 16 rfl rfl)
theorem dX0_reads_17 : decode cX0_reads 17 = .ok (.iadd, 1) := dk_96 (dk_at dksX0_reads_0 17 rfl rfl)
theorem dX0_reads_18 : decode cX0_reads 18 = .ok (.istore 4, 2) := dk_54 4 (dk_at dksX0_reads_0 18 rfl rfl)
theorem dX0_reads_20 : decode cX0_reads 20 = .ok (.iload 4, 2) := dk_21 4 (dk_at dksX0_reads_0 20 rfl rfl)
theorem dX0_reads_22 : decode cX0_reads 22 = .ok (.aload_n 0, 1) := dk_42 (dk_at dksX0_reads_0 22 rfl rfl)
theorem dX0_reads_23 : decode cX0_reads 23 = .ok (.getfield 30, 3) := dk_180 0 30 (dk_at dksX0_reads_1 0 rfl rfl)
theorem dX0_reads_26 : decode cX0_reads 26 = .ok (.getfield 196, 3) := dk_180 0 196 (dk_at dksX0_reads_1 3 rfl rfl)
theorem dX0_reads_29 : decode cX0_reads 29 = .ok (.if_icmp .ge 58, 3) := dk_162 0 58 (dk_at dksX0_reads_1 6 rfl rfl)
theorem dX0_reads_32 : decode cX0_reads 32 = .ok (.aload_n 0, 1) := dk_42 (dk_at dksX0_reads_1 9 rfl rfl)
theorem dX0_reads_33 : decode cX0_reads 33 = .ok (.getfield 124, 3) := dk_180 0 124 (dk_at dksX0_reads_1 10 rfl rfl)
theorem dX0_reads_36 : decode cX0_reads 36 = .ok (.iload_n 3, 1) := dk_29 (dk_at dksX0_reads_1 13 rfl rfl)
theorem dX0_reads_37 : decode cX0_reads 37 = .ok (.aaload, 1) := dk_50 (dk_at dksX0_reads_1 14 rfl rfl)
theorem dX0_reads_38 : decode cX0_reads 38 = .ok (.iload 4, 2) := dk_21 4 (dk_at dksX0_reads_1 15 rfl rfl)
theorem dX0_reads_40 : decode cX0_reads 40 = .ok (.aload_n 0, 1) := dk_42 (dk_at dksX0_reads_1 17 rfl rfl)
theorem dX0_reads_41 : decode cX0_reads 41 = .ok (.getfield 11, 3) := dk_180 0 11 (dk_at dksX0_reads_1 18 rfl rfl)
theorem dX0_reads_44 : decode cX0_reads 44 = .ok (.iload_n 1, 1) := dk_27 (dk_at dksX0_reads_1 21 rfl rfl)
theorem dX0_reads_45 : decode cX0_reads 45 = .ok (.aaload, 1) := dk_50 (dk_at dksX0_reads_1 22 rfl rfl)
theorem dX0_reads_46 : decode cX0_reads 46 = .ok (.iload_n 2, 1) := dk_28 (dk_at dksX0_reads_1 23 rfl rfl)
theorem dX0_reads_47 : decode cX0_reads 47 = .ok (.invokevirtual 175, 3) := dk_182 0 175 (dk_at dksX0_reads_2 0 rfl rfl)
theorem dX0_reads_50 : decode cX0_reads 50 = .ok (.l2i, 1) := dk_136 (dk_at dksX0_reads_2 3 rfl rfl)
theorem dX0_reads_51 : decode cX0_reads 51 = .ok (.iastore, 1) := dk_79 (dk_at dksX0_reads_2 4 rfl rfl)
theorem dX0_reads_52 : decode cX0_reads 52 = .ok (.aload_n 0, 1) := dk_42 (dk_at dksX0_reads_2 5 rfl rfl)
theorem dX0_reads_53 : decode cX0_reads 53 = .ok (.getfield 124, 3) := dk_180 0 124 (dk_at dksX0_reads_2 6 rfl rfl)
theorem dX0_reads_56 : decode cX0_reads 56 = .ok (.iload 4, 2) := dk_21 4 (dk_at dksX0_reads_2 9 rfl rfl)
theorem dX0_reads_58 : decode cX0_reads 58 = .ok (.aaload, 1) := dk_50 (dk_at dksX0_reads_2 11 rfl rfl)
theorem dX0_reads_59 : decode cX0_reads 59 = .ok (.iload_n 3, 1) := dk_29 (dk_at dksX0_reads_2 12 rfl rfl)
theorem dX0_reads_60 : decode cX0_reads 60 = .ok (.aload_n 0, 1) := dk_42 (dk_at dksX0_reads_2 13 rfl rfl)
theorem dX0_reads_61 : decode cX0_reads 61 = .ok (.getfield 30, 3) := dk_180 0 30 (dk_at dksX0_reads_2 14 rfl rfl)
theorem dX0_reads_64 : decode cX0_reads 64 = .ok (.aload_n 0, 1) := dk_42 (dk_at dksX0_reads_2 17 rfl rfl)
theorem dX0_reads_65 : decode cX0_reads 65 = .ok (.getfield 124, 3) := dk_180 0 124 (dk_at dksX0_reads_2 18 rfl rfl)
theorem dX0_reads_68 : decode cX0_reads 68 = .ok (.iload_n 3, 1) := dk_29 (dk_at dksX0_reads_2 21 rfl rfl)
theorem dX0_reads_69 : decode cX0_reads 69 = .ok (.aaload, 1) := dk_50 (dk_at dksX0_reads_2 22 rfl rfl)
theorem dX0_reads_70 : decode cX0_reads 70 = .ok (.iload 4, 2) := dk_21 4 (dk_at dksX0_reads_3 0 rfl rfl)
theorem dX0_reads_72 : decode cX0_reads 72 = .ok (.iaload, 1) := dk_46 (dk_at dksX0_reads_3 2 rfl rfl)
theorem dX0_reads_73 : decode cX0_reads 73 = .ok (.ineg, 1) := dk_116 (dk_at dksX0_reads_3 3 rfl rfl)
theorem dX0_reads_74 : decode cX0_reads 74 = .ok (.invokevirtual 282, 3) := dk_182 1 26 (dk_at dksX0_reads_3 4 rfl rfl)
theorem dX0_reads_77 : decode cX0_reads 77 = .ok (.iastore, 1) := dk_79 (dk_at dksX0_reads_3 7 rfl rfl)
theorem dX0_reads_78 : decode cX0_reads 78 = .ok (.iinc 2 1, 3) := dk_132 2 1 (dk_at dksX0_reads_3 8 rfl rfl)
theorem dX0_reads_81 : decode cX0_reads 81 = .ok (.iinc 4 1, 3) := dk_132 4 1 (dk_at dksX0_reads_3 11 rfl rfl)
theorem dX0_reads_84 : decode cX0_reads 84 = .ok (.goto (-64), 3) := dk_167 255 192 (dk_at dksX0_reads_3 14 rfl rfl)
theorem dX0_reads_87 : decode cX0_reads 87 = .ok (.aload_n 0, 1) := dk_42 (dk_at dksX0_reads_3 17 rfl rfl)
theorem dX0_reads_88 : decode cX0_reads 88 = .ok (.getfield 124, 3) := dk_180 0 124 (dk_at dksX0_reads_3 18 rfl rfl)
theorem dX0_reads_91 : decode cX0_reads 91 = .ok (.iload_n 3, 1) := dk_29 (dk_at dksX0_reads_3 21 rfl rfl)
theorem dX0_reads_92 : decode cX0_reads 92 = .ok (.aaload, 1) := dk_50 (dk_at dksX0_reads_3 22 rfl rfl)
theorem dX0_reads_93 : decode cX0_reads 93 = .ok (.iload_n 3, 1) := dk_29 (dk_at dksX0_reads_3 23 rfl rfl)
theorem dX0_reads_94 : decode cX0_reads 94 = .ok (.iconst 0, 1) := dk_3 (dk_at dksX0_reads_4 0 rfl rfl)
theorem dX0_reads_95 : decode cX0_reads 95 = .ok (.iastore, 1) := dk_79 (dk_at dksX0_reads_4 1 rfl rfl)
theorem dX0_reads_96 : decode cX0_reads 96 = .ok (.iinc 3 1, 3) := dk_132 3 1 (dk_at dksX0_reads_4 2 rfl rfl)
theorem dX0_reads_99 : decode cX0_reads 99 = .ok (.goto (-95), 3) := dk_167 255 161 (dk_at dksX0_reads_4 5 rfl rfl)
theorem dX0_reads_102 : decode cX0_reads 102 = .ok (.return_, 1) := dk_177 (dk_at dksX0_reads_4 8 rfl rfl)
abbrev cX0_isClosed : ByteArray := prog_1_method_100_code
def dkwX0_isClosed_7 : List UInt8 := [167, 255, 102, 4, 172]
abbrev dktX0_isClosed_7 : List UInt8 := dkwX0_isClosed_7 ++ []
def dkwX0_isClosed_6 : List UInt8 := [182, 1, 26, 153, 0, 5, 3, 172, 132, 4, 1, 167, 255, 133, 132, 3, 1, 167, 255, 117, 132, 2, 1]
abbrev dktX0_isClosed_6 : List UInt8 := dkwX0_isClosed_6 ++ dktX0_isClosed_7
def dkwX0_isClosed_5 : List UInt8 := [21, 6, 50, 28, 46, 104, 100, 96, 54, 5, 132, 6, 1, 167, 255, 165, 42, 180, 0, 30, 21, 5]
abbrev dktX0_isClosed_5 : List UInt8 := dkwX0_isClosed_5 ++ dktX0_isClosed_6
def dkwX0_isClosed_4 : List UInt8 := [21, 4, 46, 104, 100, 42, 180, 0, 30, 180, 1, 0, 29, 50, 21, 4, 50, 21, 6, 46, 42, 180, 0, 124]
abbrev dktX0_isClosed_4 : List UInt8 := dkwX0_isClosed_4 ++ dktX0_isClosed_5
def dkwX0_isClosed_3 : List UInt8 := [29, 46, 104, 42, 180, 0, 30, 180, 1, 0, 28, 50, 29, 50, 21, 6, 46, 42, 180, 0, 124, 21, 6, 50]
abbrev dktX0_isClosed_3 : List UInt8 := dkwX0_isClosed_3 ++ dktX0_isClosed_4
def dkwX0_isClosed_2 : List UInt8 := [21, 5, 42, 180, 0, 30, 180, 1, 0, 28, 50, 21, 4, 50, 21, 6, 46, 42, 180, 0, 124, 21, 6, 50]
abbrev dktX0_isClosed_2 : List UInt8 := dkwX0_isClosed_2 ++ dktX0_isClosed_3
def dkwX0_isClosed_1 : List UInt8 := [29, 4, 96, 54, 4, 21, 4, 27, 162, 0, 123, 3, 54, 5, 3, 54, 6, 21, 6, 27, 162, 0, 91]
abbrev dktX0_isClosed_1 : List UInt8 := dkwX0_isClosed_1 ++ dktX0_isClosed_2
def dkwX0_isClosed_0 : List UInt8 := [42, 180, 0, 30, 180, 0, 196, 60, 3, 61, 28, 27, 162, 0, 155, 28, 4, 96, 62, 29, 27, 162, 0, 140]
abbrev dktX0_isClosed_0 : List UInt8 := dkwX0_isClosed_0 ++ dktX0_isClosed_1
theorem dksX0_isClosed_0 : cX0_isClosed.data.toList.drop 0 = dktX0_isClosed_0 := by decide +kernel
theorem dksX0_isClosed_1 : cX0_isClosed.data.toList.drop 24 = dktX0_isClosed_1 := dk_seg dksX0_isClosed_0 24 rfl rfl
theorem dksX0_isClosed_2 : cX0_isClosed.data.toList.drop 47 = dktX0_isClosed_2 := dk_seg dksX0_isClosed_1 23 rfl rfl
theorem dksX0_isClosed_3 : cX0_isClosed.data.toList.drop 71 = dktX0_isClosed_3 := dk_seg dksX0_isClosed_2 24 rfl rfl
theorem dksX0_isClosed_4 : cX0_isClosed.data.toList.drop 95 = dktX0_isClosed_4 := dk_seg dksX0_isClosed_3 24 rfl rfl
theorem dksX0_isClosed_5 : cX0_isClosed.data.toList.drop 119 = dktX0_isClosed_5 := dk_seg dksX0_isClosed_4 24 rfl rfl
theorem dksX0_isClosed_6 : cX0_isClosed.data.toList.drop 141 = dktX0_isClosed_6 := dk_seg dksX0_isClosed_5 22 rfl rfl
theorem dksX0_isClosed_7 : cX0_isClosed.data.toList.drop 164 = dktX0_isClosed_7 := dk_seg dksX0_isClosed_6 23 rfl rfl
theorem dX0_isClosed_0 : decode cX0_isClosed 0 = .ok (.aload_n 0, 1) := dk_42 (dk_at dksX0_isClosed_0 0 rfl rfl)
theorem dX0_isClosed_1 : decode cX0_isClosed 1 = .ok (.getfield 30, 3) := dk_180 0 30 (dk_at dksX0_isClosed_0 1 rfl rfl)
theorem dX0_isClosed_4 : decode cX0_isClosed 4 = .ok (.getfield 196, 3) := dk_180 0 196 (dk_at dksX0_isClosed_0 4 rfl rfl)
theorem dX0_isClosed_7 : decode cX0_isClosed 7 = .ok (.istore_n 1, 1) := dk_60 (dk_at dksX0_isClosed_0 7 rfl rfl)
theorem dX0_isClosed_8 : decode cX0_isClosed 8 = .ok (.iconst 0, 1) := dk_3 (dk_at dksX0_isClosed_0 8 rfl rfl)
theorem dX0_isClosed_9 : decode cX0_isClosed 9 = .ok (.istore_n 2, 1) := dk_61 (dk_at dksX0_isClosed_0 9 rfl rfl)
theorem dX0_isClosed_10 : decode cX0_isClosed 10 = .ok (.iload_n 2, 1) := dk_28 (dk_at dksX0_isClosed_0 10 rfl rfl)
theorem dX0_isClosed_11 : decode cX0_isClosed 11 = .ok (.iload_n 1, 1) := dk_27 (dk_at dksX0_isClosed_0 11 rfl rfl)
theorem dX0_isClosed_12 : decode cX0_isClosed 12 = .ok (.if_icmp .ge 155, 3) := dk_162 0 155 (dk_at dksX0_isClosed_0 12 rfl rfl)
theorem dX0_isClosed_15 : decode cX0_isClosed 15 = .ok (.iload_n 2, 1) := dk_28 (dk_at dksX0_isClosed_0 15 rfl rfl)
theorem dX0_isClosed_16 : decode cX0_isClosed 16 = .ok (.iconst 1, 1) := dk_4 (dk_at dksX0_isClosed_0 16 rfl rfl)
theorem dX0_isClosed_17 : decode cX0_isClosed 17 = .ok (.iadd, 1) := dk_96 (dk_at dksX0_isClosed_0 17 rfl rfl)
theorem dX0_isClosed_18 : decode cX0_isClosed 18 = .ok (.istore_n 3, 1) := dk_62 (dk_at dksX0_isClosed_0 18 rfl rfl)
theorem dX0_isClosed_19 : decode cX0_isClosed 19 = .ok (.iload_n 3, 1) := dk_29 (dk_at dksX0_isClosed_0 19 rfl rfl)
theorem dX0_isClosed_20 : decode cX0_isClosed 20 = .ok (.iload_n 1, 1) := dk_27 (dk_at dksX0_isClosed_0 20 rfl rfl)
theorem dX0_isClosed_21 : decode cX0_isClosed 21 = .ok (.if_icmp .ge 140, 3) := dk_162 0 140 (dk_at dksX0_isClosed_0 21 rfl rfl)
theorem dX0_isClosed_24 : decode cX0_isClosed 24 = .ok (.iload_n 3, 1) := dk_29 (dk_at dksX0_isClosed_1 0 rfl rfl)
theorem dX0_isClosed_25 : decode cX0_isClosed 25 = .ok (.iconst 1, 1) := dk_4 (dk_at dksX0_isClosed_1 1 rfl rfl)
theorem dX0_isClosed_26 : decode cX0_isClosed 26 = .ok (.iadd, 1) := dk_96 (dk_at dksX0_isClosed_1 2 rfl rfl)
theorem dX0_isClosed_27 : decode cX0_isClosed 27 = .ok (.istore 4, 2) := dk_54 4 (dk_at dksX0_isClosed_1 3 rfl rfl)
theorem dX0_isClosed_29 : decode cX0_isClosed 29 = .ok (.iload 4, 2) := dk_21 4 (dk_at dksX0_isClosed_1 5 rfl rfl)
theorem dX0_isClosed_31 : decode cX0_isClosed 31 = .ok (.iload_n 1, 1) := dk_27 (dk_at dksX0_isClosed_1 7 rfl rfl)
theorem dX0_isClosed_32 : decode cX0_isClosed 32 = .ok (.if_icmp .ge 123, 3) := dk_162 0 123 (dk_at dksX0_isClosed_1 8 rfl rfl)
theorem dX0_isClosed_35 : decode cX0_isClosed 35 = .ok (.iconst 0, 1) := dk_3 (dk_at dksX0_isClosed_1 11 rfl rfl)
theorem dX0_isClosed_36 : decode cX0_isClosed 36 = .ok (.istore 5, 2) := dk_54 5 (dk_at dksX0_isClosed_1 12 rfl rfl)
theorem dX0_isClosed_38 : decode cX0_isClosed 38 = .ok (.iconst 0, 1) := dk_3 (dk_at dksX0_isClosed_1 14 rfl rfl)
theorem dX0_isClosed_39 : decode cX0_isClosed 39 = .ok (.istore 6, 2) := dk_54 6 (dk_at dksX0_isClosed_1 15 rfl rfl)
theorem dX0_isClosed_41 : decode cX0_isClosed 41 = .ok (.iload 6, 2) := dk_21 6 (dk_at dksX0_isClosed_1 17 rfl rfl)
theorem dX0_isClosed_43 : decode cX0_isClosed 43 = .ok (.iload_n 1, 1) := dk_27 (dk_at dksX0_isClosed_1 19 rfl rfl)
theorem dX0_isClosed_44 : decode cX0_isClosed 44 = .ok (.if_icmp .ge 91, 3) := dk_162 0 91 (dk_at dksX0_isClosed_1 20 rfl rfl)
theorem dX0_isClosed_47 : decode cX0_isClosed 47 = .ok (.iload 5, 2) := dk_21 5 (dk_at dksX0_isClosed_2 0 rfl rfl)
theorem dX0_isClosed_49 : decode cX0_isClosed 49 = .ok (.aload_n 0, 1) := dk_42 (dk_at dksX0_isClosed_2 2 rfl rfl)
theorem dX0_isClosed_50 : decode cX0_isClosed 50 = .ok (.getfield 30, 3) := dk_180 0 30 (dk_at dksX0_isClosed_2 3 rfl rfl)
theorem dX0_isClosed_53 : decode cX0_isClosed 53 = .ok (.getfield 256, 3) := dk_180 1 0 (dk_at dksX0_isClosed_2 6 rfl rfl)
theorem dX0_isClosed_56 : decode cX0_isClosed 56 = .ok (.iload_n 2, 1) := dk_28 (dk_at dksX0_isClosed_2 9 rfl rfl)
theorem dX0_isClosed_57 : decode cX0_isClosed 57 = .ok (.aaload, 1) := dk_50 (dk_at dksX0_isClosed_2 10 rfl rfl)
theorem dX0_isClosed_58 : decode cX0_isClosed 58 = .ok (.iload 4, 2) := dk_21 4 (dk_at dksX0_isClosed_2 11 rfl rfl)
theorem dX0_isClosed_60 : decode cX0_isClosed 60 = .ok (.aaload, 1) := dk_50 (dk_at dksX0_isClosed_2 13 rfl rfl)
theorem dX0_isClosed_61 : decode cX0_isClosed 61 = .ok (.iload 6, 2) := dk_21 6 (dk_at dksX0_isClosed_2 14 rfl rfl)
theorem dX0_isClosed_63 : decode cX0_isClosed 63 = .ok (.iaload, 1) := dk_46 (dk_at dksX0_isClosed_2 16 rfl rfl)
theorem dX0_isClosed_64 : decode cX0_isClosed 64 = .ok (.aload_n 0, 1) := dk_42 (dk_at dksX0_isClosed_2 17 rfl rfl)
theorem dX0_isClosed_65 : decode cX0_isClosed 65 = .ok (.getfield 124, 3) := dk_180 0 124 (dk_at dksX0_isClosed_2 18 rfl rfl)
theorem dX0_isClosed_68 : decode cX0_isClosed 68 = .ok (.iload 6, 2) := dk_21 6 (dk_at dksX0_isClosed_2 21 rfl rfl)
theorem dX0_isClosed_70 : decode cX0_isClosed 70 = .ok (.aaload, 1) := dk_50 (dk_at dksX0_isClosed_2 23 rfl rfl)
theorem dX0_isClosed_71 : decode cX0_isClosed 71 = .ok (.iload_n 3, 1) := dk_29 (dk_at dksX0_isClosed_3 0 rfl rfl)
theorem dX0_isClosed_72 : decode cX0_isClosed 72 = .ok (.iaload, 1) := dk_46 (dk_at dksX0_isClosed_3 1 rfl rfl)
theorem dX0_isClosed_73 : decode cX0_isClosed 73 = .ok (.imul, 1) := dk_104 (dk_at dksX0_isClosed_3 2 rfl rfl)
theorem dX0_isClosed_74 : decode cX0_isClosed 74 = .ok (.aload_n 0, 1) := dk_42 (dk_at dksX0_isClosed_3 3 rfl rfl)
theorem dX0_isClosed_75 : decode cX0_isClosed 75 = .ok (.getfield 30, 3) := dk_180 0 30 (dk_at dksX0_isClosed_3 4 rfl rfl)
theorem dX0_isClosed_78 : decode cX0_isClosed 78 = .ok (.getfield 256, 3) := dk_180 1 0 (dk_at dksX0_isClosed_3 7 rfl rfl)
theorem dX0_isClosed_81 : decode cX0_isClosed 81 = .ok (.iload_n 2, 1) := dk_28 (dk_at dksX0_isClosed_3 10 rfl rfl)
theorem dX0_isClosed_82 : decode cX0_isClosed 82 = .ok (.aaload, 1) := dk_50 (dk_at dksX0_isClosed_3 11 rfl rfl)
theorem dX0_isClosed_83 : decode cX0_isClosed 83 = .ok (.iload_n 3, 1) := dk_29 (dk_at dksX0_isClosed_3 12 rfl rfl)
theorem dX0_isClosed_84 : decode cX0_isClosed 84 = .ok (.aaload, 1) := dk_50 (dk_at dksX0_isClosed_3 13 rfl rfl)
theorem dX0_isClosed_85 : decode cX0_isClosed 85 = .ok (.iload 6, 2) := dk_21 6 (dk_at dksX0_isClosed_3 14 rfl rfl)
theorem dX0_isClosed_87 : decode cX0_isClosed 87 = .ok (.iaload, 1) := dk_46 (dk_at dksX0_isClosed_3 16 rfl rfl)
theorem dX0_isClosed_88 : decode cX0_isClosed 88 = .ok (.aload_n 0, 1) := dk_42 (dk_at dksX0_isClosed_3 17 rfl rfl)
theorem dX0_isClosed_89 : decode cX0_isClosed 89 = .ok (.getfield 124, 3) := dk_180 0 124 (dk_at dksX0_isClosed_3 18 rfl rfl)
theorem dX0_isClosed_92 : decode cX0_isClosed 92 = .ok (.iload 6, 2) := dk_21 6 (dk_at dksX0_isClosed_3 21 rfl rfl)
theorem dX0_isClosed_94 : decode cX0_isClosed 94 = .ok (.aaload, 1) := dk_50 (dk_at dksX0_isClosed_3 23 rfl rfl)
theorem dX0_isClosed_95 : decode cX0_isClosed 95 = .ok (.iload 4, 2) := dk_21 4 (dk_at dksX0_isClosed_4 0 rfl rfl)
theorem dX0_isClosed_97 : decode cX0_isClosed 97 = .ok (.iaload, 1) := dk_46 (dk_at dksX0_isClosed_4 2 rfl rfl)
theorem dX0_isClosed_98 : decode cX0_isClosed 98 = .ok (.imul, 1) := dk_104 (dk_at dksX0_isClosed_4 3 rfl rfl)
theorem dX0_isClosed_99 : decode cX0_isClosed 99 = .ok (.isub, 1) := dk_100 (dk_at dksX0_isClosed_4 4 rfl rfl)
theorem dX0_isClosed_100 : decode cX0_isClosed 100 = .ok (.aload_n 0, 1) := dk_42 (dk_at dksX0_isClosed_4 5 rfl rfl)
theorem dX0_isClosed_101 : decode cX0_isClosed 101 = .ok (.getfield 30, 3) := dk_180 0 30 (dk_at dksX0_isClosed_4 6 rfl rfl)
theorem dX0_isClosed_104 : decode cX0_isClosed 104 = .ok (.getfield 256, 3) := dk_180 1 0 (dk_at dksX0_isClosed_4 9 rfl rfl)
theorem dX0_isClosed_107 : decode cX0_isClosed 107 = .ok (.iload_n 3, 1) := dk_29 (dk_at dksX0_isClosed_4 12 rfl rfl)
theorem dX0_isClosed_108 : decode cX0_isClosed 108 = .ok (.aaload, 1) := dk_50 (dk_at dksX0_isClosed_4 13 rfl rfl)
theorem dX0_isClosed_109 : decode cX0_isClosed 109 = .ok (.iload 4, 2) := dk_21 4 (dk_at dksX0_isClosed_4 14 rfl rfl)
theorem dX0_isClosed_111 : decode cX0_isClosed 111 = .ok (.aaload, 1) := dk_50 (dk_at dksX0_isClosed_4 16 rfl rfl)
theorem dX0_isClosed_112 : decode cX0_isClosed 112 = .ok (.iload 6, 2) := dk_21 6 (dk_at dksX0_isClosed_4 17 rfl rfl)
theorem dX0_isClosed_114 : decode cX0_isClosed 114 = .ok (.iaload, 1) := dk_46 (dk_at dksX0_isClosed_4 19 rfl rfl)
theorem dX0_isClosed_115 : decode cX0_isClosed 115 = .ok (.aload_n 0, 1) := dk_42 (dk_at dksX0_isClosed_4 20 rfl rfl)
theorem dX0_isClosed_116 : decode cX0_isClosed 116 = .ok (.getfield 124, 3) := dk_180 0 124 (dk_at dksX0_isClosed_4 21 rfl rfl)
theorem dX0_isClosed_119 : decode cX0_isClosed 119 = .ok (.iload 6, 2) := dk_21 6 (dk_at dksX0_isClosed_5 0 rfl rfl)
theorem dX0_isClosed_121 : decode cX0_isClosed 121 = .ok (.aaload, 1) := dk_50 (dk_at dksX0_isClosed_5 2 rfl rfl)
theorem dX0_isClosed_122 : decode cX0_isClosed 122 = .ok (.iload_n 2, 1) := dk_28 (dk_at dksX0_isClosed_5 3 rfl rfl)
theorem dX0_isClosed_123 : decode cX0_isClosed 123 = .ok (.iaload, 1) := dk_46 (dk_at dksX0_isClosed_5 4 rfl rfl)
theorem dX0_isClosed_124 : decode cX0_isClosed 124 = .ok (.imul, 1) := dk_104 (dk_at dksX0_isClosed_5 5 rfl rfl)
theorem dX0_isClosed_125 : decode cX0_isClosed 125 = .ok (.isub, 1) := dk_100 (dk_at dksX0_isClosed_5 6 rfl rfl)
theorem dX0_isClosed_126 : decode cX0_isClosed 126 = .ok (.iadd, 1) := dk_96 (dk_at dksX0_isClosed_5 7 rfl rfl)
theorem dX0_isClosed_127 : decode cX0_isClosed 127 = .ok (.istore 5, 2) := dk_54 5 (dk_at dksX0_isClosed_5 8 rfl rfl)
theorem dX0_isClosed_129 : decode cX0_isClosed 129 = .ok (.iinc 6 1, 3) := dk_132 6 1 (dk_at dksX0_isClosed_5 10 rfl rfl)
theorem dX0_isClosed_132 : decode cX0_isClosed 132 = .ok (.goto (-91), 3) := dk_167 255 165 (dk_at dksX0_isClosed_5 13 rfl rfl)
theorem dX0_isClosed_135 : decode cX0_isClosed 135 = .ok (.aload_n 0, 1) := dk_42 (dk_at dksX0_isClosed_5 16 rfl rfl)
theorem dX0_isClosed_136 : decode cX0_isClosed 136 = .ok (.getfield 30, 3) := dk_180 0 30 (dk_at dksX0_isClosed_5 17 rfl rfl)
theorem dX0_isClosed_139 : decode cX0_isClosed 139 = .ok (.iload 5, 2) := dk_21 5 (dk_at dksX0_isClosed_5 20 rfl rfl)
theorem dX0_isClosed_141 : decode cX0_isClosed 141 = .ok (.invokevirtual 282, 3) := dk_182 1 26 (dk_at dksX0_isClosed_6 0 rfl rfl)
theorem dX0_isClosed_144 : decode cX0_isClosed 144 = .ok (.ifCond .eq 5, 3) := dk_153 0 5 (dk_at dksX0_isClosed_6 3 rfl rfl)
theorem dX0_isClosed_147 : decode cX0_isClosed 147 = .ok (.iconst 0, 1) := dk_3 (dk_at dksX0_isClosed_6 6 rfl rfl)
theorem dX0_isClosed_148 : decode cX0_isClosed 148 = .ok (.ireturn, 1) := dk_172 (dk_at dksX0_isClosed_6 7 rfl rfl)
theorem dX0_isClosed_149 : decode cX0_isClosed 149 = .ok (.iinc 4 1, 3) := dk_132 4 1 (dk_at dksX0_isClosed_6 8 rfl rfl)
theorem dX0_isClosed_152 : decode cX0_isClosed 152 = .ok (.goto (-123), 3) := dk_167 255 133 (dk_at dksX0_isClosed_6 11 rfl rfl)
theorem dX0_isClosed_155 : decode cX0_isClosed 155 = .ok (.iinc 3 1, 3) := dk_132 3 1 (dk_at dksX0_isClosed_6 14 rfl rfl)
theorem dX0_isClosed_158 : decode cX0_isClosed 158 = .ok (.goto (-139), 3) := dk_167 255 117 (dk_at dksX0_isClosed_6 17 rfl rfl)
theorem dX0_isClosed_161 : decode cX0_isClosed 161 = .ok (.iinc 2 1, 3) := dk_132 2 1 (dk_at dksX0_isClosed_6 20 rfl rfl)
theorem dX0_isClosed_164 : decode cX0_isClosed 164 = .ok (.goto (-154), 3) := dk_167 255 102 (dk_at dksX0_isClosed_7 0 rfl rfl)
theorem dX0_isClosed_167 : decode cX0_isClosed 167 = .ok (.iconst 1, 1) := dk_4 (dk_at dksX0_isClosed_7 3 rfl rfl)
theorem dX0_isClosed_168 : decode cX0_isClosed 168 = .ok (.ireturn, 1) := dk_172 (dk_at dksX0_isClosed_7 4 rfl rfl)
abbrev cX0_grow : ByteArray := prog_1_method_102_code
def dkwX0_grow_6 : List UInt8 := [132, 5, 1, 167, 255, 225, 132, 4, 1, 167, 255, 207, 42, 42, 180, 0, 30, 180, 0, 196, 182, 0, 235, 172]
abbrev dktX0_grow_6 : List UInt8 := dkwX0_grow_6 ++ []
def dkwX0_grow_5 : List UInt8 := [42, 180, 0, 30, 21, 4, 21, 5, 29, 42, 180, 0, 124, 21, 4, 50, 21, 5, 46, 182, 1, 7]
abbrev dktX0_grow_5 : List UInt8 := dkwX0_grow_5 ++ dktX0_grow_6
def dkwX0_grow_4 : List UInt8 := [181, 0, 196, 3, 54, 4, 21, 4, 29, 162, 0, 49, 21, 4, 4, 96, 54, 5, 21, 5, 29, 162, 0, 31]
abbrev dktX0_grow_4 : List UInt8 := dkwX0_grow_4 ++ dktX0_grow_5
def dkwX0_grow_3 : List UInt8 := [16, 9, 182, 0, 171, 172, 42, 180, 0, 30, 180, 0, 196, 62, 42, 180, 0, 30, 89, 180, 0, 196, 4, 96]
abbrev dktX0_grow_3 : List UInt8 := dkwX0_grow_3 ++ dktX0_grow_4
def dkwX0_grow_2 : List UInt8 := [28, 158, 0, 9, 42, 28, 182, 0, 171, 172, 42, 27, 182, 1, 240, 42, 182, 1, 243, 154, 0, 10, 42]
abbrev dktX0_grow_2 : List UInt8 := dkwX0_grow_2 ++ dktX0_grow_3
def dkwX0_grow_1 : List UInt8 := [182, 0, 171, 172, 42, 27, 42, 182, 1, 237, 3, 42, 180, 0, 30, 180, 0, 253, 4, 100, 182, 1, 227, 61]
abbrev dktX0_grow_1 : List UInt8 := dkwX0_grow_1 ++ dktX0_grow_2
def dkwX0_grow_0 : List UInt8 := [42, 180, 0, 30, 180, 0, 196, 42, 180, 0, 30, 180, 0, 253, 184, 1, 247, 160, 0, 10, 42, 16, 7]
abbrev dktX0_grow_0 : List UInt8 := dkwX0_grow_0 ++ dktX0_grow_1
theorem dksX0_grow_0 : cX0_grow.data.toList.drop 0 = dktX0_grow_0 := by decide +kernel
theorem dksX0_grow_1 : cX0_grow.data.toList.drop 23 = dktX0_grow_1 := dk_seg dksX0_grow_0 23 rfl rfl
theorem dksX0_grow_2 : cX0_grow.data.toList.drop 47 = dktX0_grow_2 := dk_seg dksX0_grow_1 24 rfl rfl
theorem dksX0_grow_3 : cX0_grow.data.toList.drop 70 = dktX0_grow_3 := dk_seg dksX0_grow_2 23 rfl rfl
theorem dksX0_grow_4 : cX0_grow.data.toList.drop 94 = dktX0_grow_4 := dk_seg dksX0_grow_3 24 rfl rfl
theorem dksX0_grow_5 : cX0_grow.data.toList.drop 118 = dktX0_grow_5 := dk_seg dksX0_grow_4 24 rfl rfl
theorem dksX0_grow_6 : cX0_grow.data.toList.drop 140 = dktX0_grow_6 := dk_seg dksX0_grow_5 22 rfl rfl
theorem dX0_grow_0 : decode cX0_grow 0 = .ok (.aload_n 0, 1) := dk_42 (dk_at dksX0_grow_0 0 rfl rfl)
theorem dX0_grow_1 : decode cX0_grow 1 = .ok (.getfield 30, 3) := dk_180 0 30 (dk_at dksX0_grow_0 1 rfl rfl)
theorem dX0_grow_4 : decode cX0_grow 4 = .ok (.getfield 196, 3) := dk_180 0 196 (dk_at dksX0_grow_0 4 rfl rfl)
theorem dX0_grow_7 : decode cX0_grow 7 = .ok (.aload_n 0, 1) := dk_42 (dk_at dksX0_grow_0 7 rfl rfl)
theorem dX0_grow_8 : decode cX0_grow 8 = .ok (.getfield 30, 3) := dk_180 0 30 (dk_at dksX0_grow_0 8 rfl rfl)
theorem dX0_grow_11 : decode cX0_grow 11 = .ok (.getfield 253, 3) := dk_180 0 253 (dk_at dksX0_grow_0 11 rfl rfl)
theorem dX0_grow_14 : decode cX0_grow 14 = .ok (.invokestatic 503, 3) := dk_184 1 247 (dk_at dksX0_grow_0 14 rfl rfl)
theorem dX0_grow_17 : decode cX0_grow 17 = .ok (.if_icmp .ne 10, 3) := dk_160 0 10 (dk_at dksX0_grow_0 17 rfl rfl)
theorem dX0_grow_20 : decode cX0_grow 20 = .ok (.aload_n 0, 1) := dk_42 (dk_at dksX0_grow_0 20 rfl rfl)
theorem dX0_grow_21 : decode cX0_grow 21 = .ok (.bipush 7, 2) := dk_16 7 (dk_at dksX0_grow_0 21 rfl rfl)
theorem dX0_grow_23 : decode cX0_grow 23 = .ok (.invokevirtual 171, 3) := dk_182 0 171 (dk_at dksX0_grow_1 0 rfl rfl)
theorem dX0_grow_26 : decode cX0_grow 26 = .ok (.ireturn, 1) := dk_172 (dk_at dksX0_grow_1 3 rfl rfl)
theorem dX0_grow_27 : decode cX0_grow 27 = .ok (.aload_n 0, 1) := dk_42 (dk_at dksX0_grow_1 4 rfl rfl)
theorem dX0_grow_28 : decode cX0_grow 28 = .ok (.iload_n 1, 1) := dk_27 (dk_at dksX0_grow_1 5 rfl rfl)
theorem dX0_grow_29 : decode cX0_grow 29 = .ok (.aload_n 0, 1) := dk_42 (dk_at dksX0_grow_1 6 rfl rfl)
theorem dX0_grow_30 : decode cX0_grow 30 = .ok (.invokevirtual 493, 3) := dk_182 1 237 (dk_at dksX0_grow_1 7 rfl rfl)
theorem dX0_grow_33 : decode cX0_grow 33 = .ok (.iconst 0, 1) := dk_3 (dk_at dksX0_grow_1 10 rfl rfl)
theorem dX0_grow_34 : decode cX0_grow 34 = .ok (.aload_n 0, 1) := dk_42 (dk_at dksX0_grow_1 11 rfl rfl)
theorem dX0_grow_35 : decode cX0_grow 35 = .ok (.getfield 30, 3) := dk_180 0 30 (dk_at dksX0_grow_1 12 rfl rfl)
theorem dX0_grow_38 : decode cX0_grow 38 = .ok (.getfield 253, 3) := dk_180 0 253 (dk_at dksX0_grow_1 15 rfl rfl)
theorem dX0_grow_41 : decode cX0_grow 41 = .ok (.iconst 1, 1) := dk_4 (dk_at dksX0_grow_1 18 rfl rfl)
theorem dX0_grow_42 : decode cX0_grow 42 = .ok (.isub, 1) := dk_100 (dk_at dksX0_grow_1 19 rfl rfl)
theorem dX0_grow_43 : decode cX0_grow 43 = .ok (.invokevirtual 483, 3) := dk_182 1 227 (dk_at dksX0_grow_1 20 rfl rfl)
theorem dX0_grow_46 : decode cX0_grow 46 = .ok (.istore_n 2, 1) := dk_61 (dk_at dksX0_grow_1 23 rfl rfl)
theorem dX0_grow_47 : decode cX0_grow 47 = .ok (.iload_n 2, 1) := dk_28 (dk_at dksX0_grow_2 0 rfl rfl)
theorem dX0_grow_48 : decode cX0_grow 48 = .ok (.ifCond .le 9, 3) := dk_158 0 9 (dk_at dksX0_grow_2 1 rfl rfl)
theorem dX0_grow_51 : decode cX0_grow 51 = .ok (.aload_n 0, 1) := dk_42 (dk_at dksX0_grow_2 4 rfl rfl)
theorem dX0_grow_52 : decode cX0_grow 52 = .ok (.iload_n 2, 1) := dk_28 (dk_at dksX0_grow_2 5 rfl rfl)
theorem dX0_grow_53 : decode cX0_grow 53 = .ok (.invokevirtual 171, 3) := dk_182 0 171 (dk_at dksX0_grow_2 6 rfl rfl)
theorem dX0_grow_56 : decode cX0_grow 56 = .ok (.ireturn, 1) := dk_172 (dk_at dksX0_grow_2 9 rfl rfl)
theorem dX0_grow_57 : decode cX0_grow 57 = .ok (.aload_n 0, 1) := dk_42 (dk_at dksX0_grow_2 10 rfl rfl)
theorem dX0_grow_58 : decode cX0_grow 58 = .ok (.iload_n 1, 1) := dk_27 (dk_at dksX0_grow_2 11 rfl rfl)
theorem dX0_grow_59 : decode cX0_grow 59 = .ok (.invokevirtual 496, 3) := dk_182 1 240 (dk_at dksX0_grow_2 12 rfl rfl)
theorem dX0_grow_62 : decode cX0_grow 62 = .ok (.aload_n 0, 1) := dk_42 (dk_at dksX0_grow_2 15 rfl rfl)
theorem dX0_grow_63 : decode cX0_grow 63 = .ok (.invokevirtual 499, 3) := dk_182 1 243 (dk_at dksX0_grow_2 16 rfl rfl)
theorem dX0_grow_66 : decode cX0_grow 66 = .ok (.ifCond .ne 10, 3) := dk_154 0 10 (dk_at dksX0_grow_2 19 rfl rfl)
theorem dX0_grow_69 : decode cX0_grow 69 = .ok (.aload_n 0, 1) := dk_42 (dk_at dksX0_grow_2 22 rfl rfl)
theorem dX0_grow_70 : decode cX0_grow 70 = .ok (.bipush 9, 2) := dk_16 9 (dk_at dksX0_grow_3 0 rfl rfl)
theorem dX0_grow_72 : decode cX0_grow 72 = .ok (.invokevirtual 171, 3) := dk_182 0 171 (dk_at dksX0_grow_3 2 rfl rfl)
theorem dX0_grow_75 : decode cX0_grow 75 = .ok (.ireturn, 1) := dk_172 (dk_at dksX0_grow_3 5 rfl rfl)
theorem dX0_grow_76 : decode cX0_grow 76 = .ok (.aload_n 0, 1) := dk_42 (dk_at dksX0_grow_3 6 rfl rfl)
theorem dX0_grow_77 : decode cX0_grow 77 = .ok (.getfield 30, 3) := dk_180 0 30 (dk_at dksX0_grow_3 7 rfl rfl)
theorem dX0_grow_80 : decode cX0_grow 80 = .ok (.getfield 196, 3) := dk_180 0 196 (dk_at dksX0_grow_3 10 rfl rfl)
theorem dX0_grow_83 : decode cX0_grow 83 = .ok (.istore_n 3, 1) := dk_62 (dk_at dksX0_grow_3 13 rfl rfl)
theorem dX0_grow_84 : decode cX0_grow 84 = .ok (.aload_n 0, 1) := dk_42 (dk_at dksX0_grow_3 14 rfl rfl)
theorem dX0_grow_85 : decode cX0_grow 85 = .ok (.getfield 30, 3) := dk_180 0 30 (dk_at dksX0_grow_3 15 rfl rfl)
theorem dX0_grow_88 : decode cX0_grow 88 = .ok (.dup, 1) := dk_89 (dk_at dksX0_grow_3 18 rfl rfl)
theorem dX0_grow_89 : decode cX0_grow 89 = .ok (.getfield 196, 3) := dk_180 0 196 (dk_at dksX0_grow_3 19 rfl rfl)
theorem dX0_grow_92 : decode cX0_grow 92 = .ok (.iconst 1, 1) := dk_4 (dk_at dksX0_grow_3 22 rfl rfl)
theorem dX0_grow_93 : decode cX0_grow 93 = .ok (.iadd, 1) := dk_96 (dk_at dksX0_grow_3 23 rfl rfl)
theorem dX0_grow_94 : decode cX0_grow 94 = .ok (.putfield 196, 3) := dk_181 0 196 (dk_at dksX0_grow_4 0 rfl rfl)
theorem dX0_grow_97 : decode cX0_grow 97 = .ok (.iconst 0, 1) := dk_3 (dk_at dksX0_grow_4 3 rfl rfl)
theorem dX0_grow_98 : decode cX0_grow 98 = .ok (.istore 4, 2) := dk_54 4 (dk_at dksX0_grow_4 4 rfl rfl)
theorem dX0_grow_100 : decode cX0_grow 100 = .ok (.iload 4, 2) := dk_21 4 (dk_at dksX0_grow_4 6 rfl rfl)
theorem dX0_grow_102 : decode cX0_grow 102 = .ok (.iload_n 3, 1) := dk_29 (dk_at dksX0_grow_4 8 rfl rfl)
theorem dX0_grow_103 : decode cX0_grow 103 = .ok (.if_icmp .ge 49, 3) := dk_162 0 49 (dk_at dksX0_grow_4 9 rfl rfl)
theorem dX0_grow_106 : decode cX0_grow 106 = .ok (.iload 4, 2) := dk_21 4 (dk_at dksX0_grow_4 12 rfl rfl)
theorem dX0_grow_108 : decode cX0_grow 108 = .ok (.iconst 1, 1) := dk_4 (dk_at dksX0_grow_4 14 rfl rfl)
theorem dX0_grow_109 : decode cX0_grow 109 = .ok (.iadd, 1) := dk_96 (dk_at dksX0_grow_4 15 rfl rfl)
theorem dX0_grow_110 : decode cX0_grow 110 = .ok (.istore 5, 2) := dk_54 5 (dk_at dksX0_grow_4 16 rfl rfl)
theorem dX0_grow_112 : decode cX0_grow 112 = .ok (.iload 5, 2) := dk_21 5 (dk_at dksX0_grow_4 18 rfl rfl)
theorem dX0_grow_114 : decode cX0_grow 114 = .ok (.iload_n 3, 1) := dk_29 (dk_at dksX0_grow_4 20 rfl rfl)
theorem dX0_grow_115 : decode cX0_grow 115 = .ok (.if_icmp .ge 31, 3) := dk_162 0 31 (dk_at dksX0_grow_4 21 rfl rfl)
theorem dX0_grow_118 : decode cX0_grow 118 = .ok (.aload_n 0, 1) := dk_42 (dk_at dksX0_grow_5 0 rfl rfl)
theorem dX0_grow_119 : decode cX0_grow 119 = .ok (.getfield 30, 3) := dk_180 0 30 (dk_at dksX0_grow_5 1 rfl rfl)
theorem dX0_grow_122 : decode cX0_grow 122 = .ok (.iload 4, 2) := dk_21 4 (dk_at dksX0_grow_5 4 rfl rfl)
theorem dX0_grow_124 : decode cX0_grow 124 = .ok (.iload 5, 2) := dk_21 5 (dk_at dksX0_grow_5 6 rfl rfl)
theorem dX0_grow_126 : decode cX0_grow 126 = .ok (.iload_n 3, 1) := dk_29 (dk_at dksX0_grow_5 8 rfl rfl)
theorem dX0_grow_127 : decode cX0_grow 127 = .ok (.aload_n 0, 1) := dk_42 (dk_at dksX0_grow_5 9 rfl rfl)
theorem dX0_grow_128 : decode cX0_grow 128 = .ok (.getfield 124, 3) := dk_180 0 124 (dk_at dksX0_grow_5 10 rfl rfl)
theorem dX0_grow_131 : decode cX0_grow 131 = .ok (.iload 4, 2) := dk_21 4 (dk_at dksX0_grow_5 13 rfl rfl)
theorem dX0_grow_133 : decode cX0_grow 133 = .ok (.aaload, 1) := dk_50 (dk_at dksX0_grow_5 15 rfl rfl)
theorem dX0_grow_134 : decode cX0_grow 134 = .ok (.iload 5, 2) := dk_21 5 (dk_at dksX0_grow_5 16 rfl rfl)
theorem dX0_grow_136 : decode cX0_grow 136 = .ok (.iaload, 1) := dk_46 (dk_at dksX0_grow_5 18 rfl rfl)
theorem dX0_grow_137 : decode cX0_grow 137 = .ok (.invokevirtual 263, 3) := dk_182 1 7 (dk_at dksX0_grow_5 19 rfl rfl)
theorem dX0_grow_140 : decode cX0_grow 140 = .ok (.iinc 5 1, 3) := dk_132 5 1 (dk_at dksX0_grow_6 0 rfl rfl)
theorem dX0_grow_143 : decode cX0_grow 143 = .ok (.goto (-31), 3) := dk_167 255 225 (dk_at dksX0_grow_6 3 rfl rfl)
theorem dX0_grow_146 : decode cX0_grow 146 = .ok (.iinc 4 1, 3) := dk_132 4 1 (dk_at dksX0_grow_6 6 rfl rfl)
theorem dX0_grow_149 : decode cX0_grow 149 = .ok (.goto (-49), 3) := dk_167 255 207 (dk_at dksX0_grow_6 9 rfl rfl)
theorem dX0_grow_152 : decode cX0_grow 152 = .ok (.aload_n 0, 1) := dk_42 (dk_at dksX0_grow_6 12 rfl rfl)
theorem dX0_grow_153 : decode cX0_grow 153 = .ok (.aload_n 0, 1) := dk_42 (dk_at dksX0_grow_6 13 rfl rfl)
theorem dX0_grow_154 : decode cX0_grow 154 = .ok (.getfield 30, 3) := dk_180 0 30 (dk_at dksX0_grow_6 14 rfl rfl)
theorem dX0_grow_157 : decode cX0_grow 157 = .ok (.getfield 196, 3) := dk_180 0 196 (dk_at dksX0_grow_6 17 rfl rfl)
theorem dX0_grow_160 : decode cX0_grow 160 = .ok (.invokevirtual 235, 3) := dk_182 0 235 (dk_at dksX0_grow_6 20 rfl rfl)
theorem dX0_grow_163 : decode cX0_grow 163 = .ok (.ireturn, 1) := dk_172 (dk_at dksX0_grow_6 23 rfl rfl)
abbrev cX0_sum : ByteArray := prog_1_method_105_code
def dkwX0_sum_1 : List UInt8 := [182, 1, 253, 42, 42, 180, 0, 30, 180, 0, 196, 182, 0, 235, 172]
abbrev dktX0_sum_1 : List UInt8 := dkwX0_sum_1 ++ []
def dkwX0_sum_0 : List UInt8 := [42, 27, 182, 1, 250, 61, 28, 158, 0, 9, 42, 28, 182, 0, 171, 172, 42, 42, 180, 0, 37, 27, 50]
abbrev dktX0_sum_0 : List UInt8 := dkwX0_sum_0 ++ dktX0_sum_1
theorem dksX0_sum_0 : cX0_sum.data.toList.drop 0 = dktX0_sum_0 := by decide +kernel
theorem dksX0_sum_1 : cX0_sum.data.toList.drop 23 = dktX0_sum_1 := dk_seg dksX0_sum_0 23 rfl rfl
theorem dX0_sum_0 : decode cX0_sum 0 = .ok (.aload_n 0, 1) := dk_42 (dk_at dksX0_sum_0 0 rfl rfl)
theorem dX0_sum_1 : decode cX0_sum 1 = .ok (.iload_n 1, 1) := dk_27 (dk_at dksX0_sum_0 1 rfl rfl)
theorem dX0_sum_2 : decode cX0_sum 2 = .ok (.invokevirtual 506, 3) := dk_182 1 250 (dk_at dksX0_sum_0 2 rfl rfl)
theorem dX0_sum_5 : decode cX0_sum 5 = .ok (.istore_n 2, 1) := dk_61 (dk_at dksX0_sum_0 5 rfl rfl)
theorem dX0_sum_6 : decode cX0_sum 6 = .ok (.iload_n 2, 1) := dk_28 (dk_at dksX0_sum_0 6 rfl rfl)
theorem dX0_sum_7 : decode cX0_sum 7 = .ok (.ifCond .le 9, 3) := dk_158 0 9 (dk_at dksX0_sum_0 7 rfl rfl)
theorem dX0_sum_10 : decode cX0_sum 10 = .ok (.aload_n 0, 1) := dk_42 (dk_at dksX0_sum_0 10 rfl rfl)
theorem dX0_sum_11 : decode cX0_sum 11 = .ok (.iload_n 2, 1) := dk_28 (dk_at dksX0_sum_0 11 rfl rfl)
theorem dX0_sum_12 : decode cX0_sum 12 = .ok (.invokevirtual 171, 3) := dk_182 0 171 (dk_at dksX0_sum_0 12 rfl rfl)
theorem dX0_sum_15 : decode cX0_sum 15 = .ok (.ireturn, 1) := dk_172 (dk_at dksX0_sum_0 15 rfl rfl)
theorem dX0_sum_16 : decode cX0_sum 16 = .ok (.aload_n 0, 1) := dk_42 (dk_at dksX0_sum_0 16 rfl rfl)
theorem dX0_sum_17 : decode cX0_sum 17 = .ok (.aload_n 0, 1) := dk_42 (dk_at dksX0_sum_0 17 rfl rfl)
theorem dX0_sum_18 : decode cX0_sum 18 = .ok (.getfield 37, 3) := dk_180 0 37 (dk_at dksX0_sum_0 18 rfl rfl)
theorem dX0_sum_21 : decode cX0_sum 21 = .ok (.iload_n 1, 1) := dk_27 (dk_at dksX0_sum_0 21 rfl rfl)
theorem dX0_sum_22 : decode cX0_sum 22 = .ok (.aaload, 1) := dk_50 (dk_at dksX0_sum_0 22 rfl rfl)
theorem dX0_sum_23 : decode cX0_sum 23 = .ok (.invokevirtual 509, 3) := dk_182 1 253 (dk_at dksX0_sum_1 0 rfl rfl)
theorem dX0_sum_26 : decode cX0_sum 26 = .ok (.aload_n 0, 1) := dk_42 (dk_at dksX0_sum_1 3 rfl rfl)
theorem dX0_sum_27 : decode cX0_sum 27 = .ok (.aload_n 0, 1) := dk_42 (dk_at dksX0_sum_1 4 rfl rfl)
theorem dX0_sum_28 : decode cX0_sum 28 = .ok (.getfield 30, 3) := dk_180 0 30 (dk_at dksX0_sum_1 5 rfl rfl)
theorem dX0_sum_31 : decode cX0_sum 31 = .ok (.getfield 196, 3) := dk_180 0 196 (dk_at dksX0_sum_1 8 rfl rfl)
theorem dX0_sum_34 : decode cX0_sum 34 = .ok (.invokevirtual 235, 3) := dk_182 0 235 (dk_at dksX0_sum_1 11 rfl rfl)
theorem dX0_sum_37 : decode cX0_sum 37 = .ok (.ireturn, 1) := dk_172 (dk_at dksX0_sum_1 14 rfl rfl)
abbrev cX0_wrongSum : ByteArray := prog_1_method_103_code
def dkwX0_wrongSum_3 : List UInt8 := [3, 172]
abbrev dktX0_wrongSum_3 : List UInt8 := dkwX0_wrongSum_3 ++ []
def dkwX0_wrongSum_2 : List UInt8 := [27, 50, 180, 0, 196, 96, 42, 180, 0, 30, 180, 0, 253, 184, 1, 247, 164, 0, 8, 16, 7, 167, 0, 4]
abbrev dktX0_wrongSum_2 : List UInt8 := dkwX0_wrongSum_2 ++ dktX0_wrongSum_3
def dkwX0_wrongSum_1 : List UInt8 := [180, 0, 30, 180, 0, 253, 159, 0, 7, 8, 167, 0, 39, 42, 180, 0, 30, 180, 0, 196, 42, 180, 0, 37]
abbrev dktX0_wrongSum_1 : List UInt8 := dkwX0_wrongSum_1 ++ dktX0_wrongSum_2
def dkwX0_wrongSum_0 : List UInt8 := [42, 27, 182, 1, 43, 61, 28, 158, 0, 5, 28, 172, 42, 180, 0, 37, 27, 50, 180, 0, 253, 42]
abbrev dktX0_wrongSum_0 : List UInt8 := dkwX0_wrongSum_0 ++ dktX0_wrongSum_1
theorem dksX0_wrongSum_0 : cX0_wrongSum.data.toList.drop 0 = dktX0_wrongSum_0 := by decide +kernel
theorem dksX0_wrongSum_1 : cX0_wrongSum.data.toList.drop 22 = dktX0_wrongSum_1 := dk_seg dksX0_wrongSum_0 22 rfl rfl
theorem dksX0_wrongSum_2 : cX0_wrongSum.data.toList.drop 46 = dktX0_wrongSum_2 := dk_seg dksX0_wrongSum_1 24 rfl rfl
theorem dksX0_wrongSum_3 : cX0_wrongSum.data.toList.drop 70 = dktX0_wrongSum_3 := dk_seg dksX0_wrongSum_2 24 rfl rfl
theorem dX0_wrongSum_0 : decode cX0_wrongSum 0 = .ok (.aload_n 0, 1) := dk_42 (dk_at dksX0_wrongSum_0 0 rfl rfl)
theorem dX0_wrongSum_1 : decode cX0_wrongSum 1 = .ok (.iload_n 1, 1) := dk_27 (dk_at dksX0_wrongSum_0 1 rfl rfl)
theorem dX0_wrongSum_2 : decode cX0_wrongSum 2 = .ok (.invokevirtual 299, 3) := dk_182 1 43 (dk_at dksX0_wrongSum_0 2 rfl rfl)
theorem dX0_wrongSum_5 : decode cX0_wrongSum 5 = .ok (.istore_n 2, 1) := dk_61 (dk_at dksX0_wrongSum_0 5 rfl rfl)
theorem dX0_wrongSum_6 : decode cX0_wrongSum 6 = .ok (.iload_n 2, 1) := dk_28 (dk_at dksX0_wrongSum_0 6 rfl rfl)
theorem dX0_wrongSum_7 : decode cX0_wrongSum 7 = .ok (.ifCond .le 5, 3) := dk_158 0 5 (dk_at dksX0_wrongSum_0 7 rfl rfl)
theorem dX0_wrongSum_10 : decode cX0_wrongSum 10 = .ok (.iload_n 2, 1) := dk_28 (dk_at dksX0_wrongSum_0 10 rfl rfl)
theorem dX0_wrongSum_11 : decode cX0_wrongSum 11 = .ok (.ireturn, 1) := dk_172 (dk_at dksX0_wrongSum_0 11 rfl rfl)
theorem dX0_wrongSum_12 : decode cX0_wrongSum 12 = .ok (.aload_n 0, 1) := dk_42 (dk_at dksX0_wrongSum_0 12 rfl rfl)
theorem dX0_wrongSum_13 : decode cX0_wrongSum 13 = .ok (.getfield 37, 3) := dk_180 0 37 (dk_at dksX0_wrongSum_0 13 rfl rfl)
theorem dX0_wrongSum_16 : decode cX0_wrongSum 16 = .ok (.iload_n 1, 1) := dk_27 (dk_at dksX0_wrongSum_0 16 rfl rfl)
theorem dX0_wrongSum_17 : decode cX0_wrongSum 17 = .ok (.aaload, 1) := dk_50 (dk_at dksX0_wrongSum_0 17 rfl rfl)
theorem dX0_wrongSum_18 : decode cX0_wrongSum 18 = .ok (.getfield 253, 3) := dk_180 0 253 (dk_at dksX0_wrongSum_0 18 rfl rfl)
theorem dX0_wrongSum_21 : decode cX0_wrongSum 21 = .ok (.aload_n 0, 1) := dk_42 (dk_at dksX0_wrongSum_0 21 rfl rfl)
theorem dX0_wrongSum_22 : decode cX0_wrongSum 22 = .ok (.getfield 30, 3) := dk_180 0 30 (dk_at dksX0_wrongSum_1 0 rfl rfl)
theorem dX0_wrongSum_25 : decode cX0_wrongSum 25 = .ok (.getfield 253, 3) := dk_180 0 253 (dk_at dksX0_wrongSum_1 3 rfl rfl)
theorem dX0_wrongSum_28 : decode cX0_wrongSum 28 = .ok (.if_icmp .eq 7, 3) := dk_159 0 7 (dk_at dksX0_wrongSum_1 6 rfl rfl)
theorem dX0_wrongSum_31 : decode cX0_wrongSum 31 = .ok (.iconst 5, 1) := dk_8 (dk_at dksX0_wrongSum_1 9 rfl rfl)
theorem dX0_wrongSum_32 : decode cX0_wrongSum 32 = .ok (.goto 39, 3) := dk_167 0 39 (dk_at dksX0_wrongSum_1 10 rfl rfl)
theorem dX0_wrongSum_35 : decode cX0_wrongSum 35 = .ok (.aload_n 0, 1) := dk_42 (dk_at dksX0_wrongSum_1 13 rfl rfl)
theorem dX0_wrongSum_36 : decode cX0_wrongSum 36 = .ok (.getfield 30, 3) := dk_180 0 30 (dk_at dksX0_wrongSum_1 14 rfl rfl)
theorem dX0_wrongSum_39 : decode cX0_wrongSum 39 = .ok (.getfield 196, 3) := dk_180 0 196 (dk_at dksX0_wrongSum_1 17 rfl rfl)
theorem dX0_wrongSum_42 : decode cX0_wrongSum 42 = .ok (.aload_n 0, 1) := dk_42 (dk_at dksX0_wrongSum_1 20 rfl rfl)
theorem dX0_wrongSum_43 : decode cX0_wrongSum 43 = .ok (.getfield 37, 3) := dk_180 0 37 (dk_at dksX0_wrongSum_1 21 rfl rfl)
theorem dX0_wrongSum_46 : decode cX0_wrongSum 46 = .ok (.iload_n 1, 1) := dk_27 (dk_at dksX0_wrongSum_2 0 rfl rfl)
theorem dX0_wrongSum_47 : decode cX0_wrongSum 47 = .ok (.aaload, 1) := dk_50 (dk_at dksX0_wrongSum_2 1 rfl rfl)
theorem dX0_wrongSum_48 : decode cX0_wrongSum 48 = .ok (.getfield 196, 3) := dk_180 0 196 (dk_at dksX0_wrongSum_2 2 rfl rfl)
theorem dX0_wrongSum_51 : decode cX0_wrongSum 51 = .ok (.iadd, 1) := dk_96 (dk_at dksX0_wrongSum_2 5 rfl rfl)
theorem dX0_wrongSum_52 : decode cX0_wrongSum 52 = .ok (.aload_n 0, 1) := dk_42 (dk_at dksX0_wrongSum_2 6 rfl rfl)
theorem dX0_wrongSum_53 : decode cX0_wrongSum 53 = .ok (.getfield 30, 3) := dk_180 0 30 (dk_at dksX0_wrongSum_2 7 rfl rfl)
theorem dX0_wrongSum_56 : decode cX0_wrongSum 56 = .ok (.getfield 253, 3) := dk_180 0 253 (dk_at dksX0_wrongSum_2 10 rfl rfl)
theorem dX0_wrongSum_59 : decode cX0_wrongSum 59 = .ok (.invokestatic 503, 3) := dk_184 1 247 (dk_at dksX0_wrongSum_2 13 rfl rfl)
theorem dX0_wrongSum_62 : decode cX0_wrongSum 62 = .ok (.if_icmp .le 8, 3) := dk_164 0 8 (dk_at dksX0_wrongSum_2 16 rfl rfl)
theorem dX0_wrongSum_65 : decode cX0_wrongSum 65 = .ok (.bipush 7, 2) := dk_16 7 (dk_at dksX0_wrongSum_2 19 rfl rfl)
theorem dX0_wrongSum_67 : decode cX0_wrongSum 67 = .ok (.goto 4, 3) := dk_167 0 4 (dk_at dksX0_wrongSum_2 21 rfl rfl)
theorem dX0_wrongSum_70 : decode cX0_wrongSum 70 = .ok (.iconst 0, 1) := dk_3 (dk_at dksX0_wrongSum_3 0 rfl rfl)
theorem dX0_wrongSum_71 : decode cX0_wrongSum 71 = .ok (.ireturn, 1) := dk_172 (dk_at dksX0_wrongSum_3 1 rfl rfl)
abbrev cX0_sums : ByteArray := prog_1_method_104_code
def dkwX0_sums_5 : List UInt8 := [132, 4, 1, 167, 255, 187, 132, 3, 1, 167, 255, 165, 177]
abbrev dktX0_sums_5 : List UInt8 := dkwX0_sums_5 ++ []
def dkwX0_sums_4 : List UInt8 := [42, 180, 0, 34, 180, 1, 0, 29, 50, 21, 4, 50, 21, 5, 46, 182, 1, 7, 132, 5, 1, 167, 255, 208]
abbrev dktX0_sums_4 : List UInt8 := dkwX0_sums_4 ++ dktX0_sums_5
def dkwX0_sums_3 : List UInt8 := [180, 0, 34, 180, 0, 196, 162, 0, 42, 42, 180, 0, 30, 28, 29, 96, 28, 21, 4, 96, 28, 21, 5, 96]
abbrev dktX0_sums_3 : List UInt8 := dkwX0_sums_3 ++ dktX0_sums_4
def dkwX0_sums_2 : List UInt8 := [29, 4, 96, 54, 4, 21, 4, 42, 180, 0, 34, 180, 0, 196, 162, 0, 63, 3, 54, 5, 21, 5, 42]
abbrev dktX0_sums_2 : List UInt8 := dkwX0_sums_2 ++ dktX0_sums_3
def dkwX0_sums_1 : List UInt8 := [42, 180, 0, 34, 180, 0, 196, 96, 181, 0, 196, 3, 62, 29, 42, 180, 0, 34, 180, 0, 196, 162, 0, 86]
abbrev dktX0_sums_1 : List UInt8 := dkwX0_sums_1 ++ dktX0_sums_2
def dkwX0_sums_0 : List UInt8 := [42, 180, 0, 30, 180, 0, 196, 61, 42, 180, 0, 34, 43, 182, 0, 231, 42, 180, 0, 30, 89, 180, 0, 196]
abbrev dktX0_sums_0 : List UInt8 := dkwX0_sums_0 ++ dktX0_sums_1
theorem dksX0_sums_0 : cX0_sums.data.toList.drop 0 = dktX0_sums_0 := by decide +kernel
theorem dksX0_sums_1 : cX0_sums.data.toList.drop 24 = dktX0_sums_1 := dk_seg dksX0_sums_0 24 rfl rfl
theorem dksX0_sums_2 : cX0_sums.data.toList.drop 48 = dktX0_sums_2 := dk_seg dksX0_sums_1 24 rfl rfl
theorem dksX0_sums_3 : cX0_sums.data.toList.drop 71 = dktX0_sums_3 := dk_seg dksX0_sums_2 23 rfl rfl
theorem dksX0_sums_4 : cX0_sums.data.toList.drop 95 = dktX0_sums_4 := dk_seg dksX0_sums_3 24 rfl rfl
theorem dksX0_sums_5 : cX0_sums.data.toList.drop 119 = dktX0_sums_5 := dk_seg dksX0_sums_4 24 rfl rfl
theorem dX0_sums_0 : decode cX0_sums 0 = .ok (.aload_n 0, 1) := dk_42 (dk_at dksX0_sums_0 0 rfl rfl)
theorem dX0_sums_1 : decode cX0_sums 1 = .ok (.getfield 30, 3) := dk_180 0 30 (dk_at dksX0_sums_0 1 rfl rfl)
theorem dX0_sums_4 : decode cX0_sums 4 = .ok (.getfield 196, 3) := dk_180 0 196 (dk_at dksX0_sums_0 4 rfl rfl)
theorem dX0_sums_7 : decode cX0_sums 7 = .ok (.istore_n 2, 1) := dk_61 (dk_at dksX0_sums_0 7 rfl rfl)
theorem dX0_sums_8 : decode cX0_sums 8 = .ok (.aload_n 0, 1) := dk_42 (dk_at dksX0_sums_0 8 rfl rfl)
theorem dX0_sums_9 : decode cX0_sums 9 = .ok (.getfield 34, 3) := dk_180 0 34 (dk_at dksX0_sums_0 9 rfl rfl)
theorem dX0_sums_12 : decode cX0_sums 12 = .ok (.aload_n 1, 1) := dk_43 (dk_at dksX0_sums_0 12 rfl rfl)
theorem dX0_sums_13 : decode cX0_sums 13 = .ok (.invokevirtual 231, 3) := dk_182 0 231 (dk_at dksX0_sums_0 13 rfl rfl)
theorem dX0_sums_16 : decode cX0_sums 16 = .ok (.aload_n 0, 1) := dk_42 (dk_at dksX0_sums_0 16 rfl rfl)
theorem dX0_sums_17 : decode cX0_sums 17 = .ok (.getfield 30, 3) := dk_180 0 30 (dk_at dksX0_sums_0 17 rfl rfl)
theorem dX0_sums_20 : decode cX0_sums 20 = .ok (.dup, 1) := dk_89 (dk_at dksX0_sums_0 20 rfl rfl)
theorem dX0_sums_21 : decode cX0_sums 21 = .ok (.getfield 196, 3) := dk_180 0 196 (dk_at dksX0_sums_0 21 rfl rfl)
theorem dX0_sums_24 : decode cX0_sums 24 = .ok (.aload_n 0, 1) := dk_42 (dk_at dksX0_sums_1 0 rfl rfl)
theorem dX0_sums_25 : decode cX0_sums 25 = .ok (.getfield 34, 3) := dk_180 0 34 (dk_at dksX0_sums_1 1 rfl rfl)
theorem dX0_sums_28 : decode cX0_sums 28 = .ok (.getfield 196, 3) := dk_180 0 196 (dk_at dksX0_sums_1 4 rfl rfl)
theorem dX0_sums_31 : decode cX0_sums 31 = .ok (.iadd, 1) := dk_96 (dk_at dksX0_sums_1 7 rfl rfl)
theorem dX0_sums_32 : decode cX0_sums 32 = .ok (.putfield 196, 3) := dk_181 0 196 (dk_at dksX0_sums_1 8 rfl rfl)
theorem dX0_sums_35 : decode cX0_sums 35 = .ok (.iconst 0, 1) := dk_3 (dk_at dksX0_sums_1 11 rfl rfl)
theorem dX0_sums_36 : decode cX0_sums 36 = .ok (.istore_n 3, 1) := dk_62 (dk_at dksX0_sums_1 12 rfl rfl)
theorem dX0_sums_37 : decode cX0_sums 37 = .ok (.iload_n 3, 1) := dk_29 (dk_at dksX0_sums_1 13 rfl rfl)
theorem dX0_sums_38 : decode cX0_sums 38 = .ok (.aload_n 0, 1) := dk_42 (dk_at dksX0_sums_1 14 rfl rfl)
theorem dX0_sums_39 : decode cX0_sums 39 = .ok (.getfield 34, 3) := dk_180 0 34 (dk_at dksX0_sums_1 15 rfl rfl)
theorem dX0_sums_42 : decode cX0_sums 42 = .ok (.getfield 196, 3) := dk_180 0 196 (dk_at dksX0_sums_1 18 rfl rfl)
theorem dX0_sums_45 : decode cX0_sums 45 = .ok (.if_icmp .ge 86, 3) := dk_162 0 86 (dk_at dksX0_sums_1 21 rfl rfl)
theorem dX0_sums_48 : decode cX0_sums 48 = .ok (.iload_n 3, 1) := dk_29 (dk_at dksX0_sums_2 0 rfl rfl)
theorem dX0_sums_49 : decode cX0_sums 49 = .ok (.iconst 1, 1) := dk_4 (dk_at dksX0_sums_2 1 rfl rfl)
theorem dX0_sums_50 : decode cX0_sums 50 = .ok (.iadd, 1) := dk_96 (dk_at dksX0_sums_2 2 rfl rfl)
theorem dX0_sums_51 : decode cX0_sums 51 = .ok (.istore 4, 2) := dk_54 4 (dk_at dksX0_sums_2 3 rfl rfl)
theorem dX0_sums_53 : decode cX0_sums 53 = .ok (.iload 4, 2) := dk_21 4 (dk_at dksX0_sums_2 5 rfl rfl)
theorem dX0_sums_55 : decode cX0_sums 55 = .ok (.aload_n 0, 1) := dk_42 (dk_at dksX0_sums_2 7 rfl rfl)
theorem dX0_sums_56 : decode cX0_sums 56 = .ok (.getfield 34, 3) := dk_180 0 34 (dk_at dksX0_sums_2 8 rfl rfl)
theorem dX0_sums_59 : decode cX0_sums 59 = .ok (.getfield 196, 3) := dk_180 0 196 (dk_at dksX0_sums_2 11 rfl rfl)
theorem dX0_sums_62 : decode cX0_sums 62 = .ok (.if_icmp .ge 63, 3) := dk_162 0 63 (dk_at dksX0_sums_2 14 rfl rfl)
theorem dX0_sums_65 : decode cX0_sums 65 = .ok (.iconst 0, 1) := dk_3 (dk_at dksX0_sums_2 17 rfl rfl)
theorem dX0_sums_66 : decode cX0_sums 66 = .ok (.istore 5, 2) := dk_54 5 (dk_at dksX0_sums_2 18 rfl rfl)
theorem dX0_sums_68 : decode cX0_sums 68 = .ok (.iload 5, 2) := dk_21 5 (dk_at dksX0_sums_2 20 rfl rfl)
theorem dX0_sums_70 : decode cX0_sums 70 = .ok (.aload_n 0, 1) := dk_42 (dk_at dksX0_sums_2 22 rfl rfl)
theorem dX0_sums_71 : decode cX0_sums 71 = .ok (.getfield 34, 3) := dk_180 0 34 (dk_at dksX0_sums_3 0 rfl rfl)
theorem dX0_sums_74 : decode cX0_sums 74 = .ok (.getfield 196, 3) := dk_180 0 196 (dk_at dksX0_sums_3 3 rfl rfl)
theorem dX0_sums_77 : decode cX0_sums 77 = .ok (.if_icmp .ge 42, 3) := dk_162 0 42 (dk_at dksX0_sums_3 6 rfl rfl)
theorem dX0_sums_80 : decode cX0_sums 80 = .ok (.aload_n 0, 1) := dk_42 (dk_at dksX0_sums_3 9 rfl rfl)
theorem dX0_sums_81 : decode cX0_sums 81 = .ok (.getfield 30, 3) := dk_180 0 30 (dk_at dksX0_sums_3 10 rfl rfl)
theorem dX0_sums_84 : decode cX0_sums 84 = .ok (.iload_n 2, 1) := dk_28 (dk_at dksX0_sums_3 13 rfl rfl)
theorem dX0_sums_85 : decode cX0_sums 85 = .ok (.iload_n 3, 1) := dk_29 (dk_at dksX0_sums_3 14 rfl rfl)
theorem dX0_sums_86 : decode cX0_sums 86 = .ok (.iadd, 1) := dk_96 (dk_at dksX0_sums_3 15 rfl rfl)
theorem dX0_sums_87 : decode cX0_sums 87 = .ok (.iload_n 2, 1) := dk_28 (dk_at dksX0_sums_3 16 rfl rfl)
theorem dX0_sums_88 : decode cX0_sums 88 = .ok (.iload 4, 2) := dk_21 4 (dk_at dksX0_sums_3 17 rfl rfl)
theorem dX0_sums_90 : decode cX0_sums 90 = .ok (.iadd, 1) := dk_96 (dk_at dksX0_sums_3 19 rfl rfl)
theorem dX0_sums_91 : decode cX0_sums 91 = .ok (.iload_n 2, 1) := dk_28 (dk_at dksX0_sums_3 20 rfl rfl)
theorem dX0_sums_92 : decode cX0_sums 92 = .ok (.iload 5, 2) := dk_21 5 (dk_at dksX0_sums_3 21 rfl rfl)
theorem dX0_sums_94 : decode cX0_sums 94 = .ok (.iadd, 1) := dk_96 (dk_at dksX0_sums_3 23 rfl rfl)
theorem dX0_sums_95 : decode cX0_sums 95 = .ok (.aload_n 0, 1) := dk_42 (dk_at dksX0_sums_4 0 rfl rfl)
theorem dX0_sums_96 : decode cX0_sums 96 = .ok (.getfield 34, 3) := dk_180 0 34 (dk_at dksX0_sums_4 1 rfl rfl)
theorem dX0_sums_99 : decode cX0_sums 99 = .ok (.getfield 256, 3) := dk_180 1 0 (dk_at dksX0_sums_4 4 rfl rfl)
theorem dX0_sums_102 : decode cX0_sums 102 = .ok (.iload_n 3, 1) := dk_29 (dk_at dksX0_sums_4 7 rfl rfl)
theorem dX0_sums_103 : decode cX0_sums 103 = .ok (.aaload, 1) := dk_50 (dk_at dksX0_sums_4 8 rfl rfl)
theorem dX0_sums_104 : decode cX0_sums 104 = .ok (.iload 4, 2) := dk_21 4 (dk_at dksX0_sums_4 9 rfl rfl)
theorem dX0_sums_106 : decode cX0_sums 106 = .ok (.aaload, 1) := dk_50 (dk_at dksX0_sums_4 11 rfl rfl)
theorem dX0_sums_107 : decode cX0_sums 107 = .ok (.iload 5, 2) := dk_21 5 (dk_at dksX0_sums_4 12 rfl rfl)
theorem dX0_sums_109 : decode cX0_sums 109 = .ok (.iaload, 1) := dk_46 (dk_at dksX0_sums_4 14 rfl rfl)
theorem dX0_sums_110 : decode cX0_sums 110 = .ok (.invokevirtual 263, 3) := dk_182 1 7 (dk_at dksX0_sums_4 15 rfl rfl)
theorem dX0_sums_113 : decode cX0_sums 113 = .ok (.iinc 5 1, 3) := dk_132 5 1 (dk_at dksX0_sums_4 18 rfl rfl)
theorem dX0_sums_116 : decode cX0_sums 116 = .ok (.goto (-48), 3) := dk_167 255 208 (dk_at dksX0_sums_4 21 rfl rfl)
theorem dX0_sums_119 : decode cX0_sums 119 = .ok (.iinc 4 1, 3) := dk_132 4 1 (dk_at dksX0_sums_5 0 rfl rfl)
theorem dX0_sums_122 : decode cX0_sums 122 = .ok (.goto (-69), 3) := dk_167 255 187 (dk_at dksX0_sums_5 3 rfl rfl)
theorem dX0_sums_125 : decode cX0_sums 125 = .ok (.iinc 3 1, 3) := dk_132 3 1 (dk_at dksX0_sums_5 6 rfl rfl)
theorem dX0_sums_128 : decode cX0_sums 128 = .ok (.goto (-91), 3) := dk_167 255 165 (dk_at dksX0_sums_5 9 rfl rfl)
theorem dX0_sums_131 : decode cX0_sums 131 = .ok (.return_, 1) := dk_177 (dk_at dksX0_sums_5 12 rfl rfl)
abbrev cX0_rest : ByteArray := prog_1_method_106_code
def dkwX0_rest_12 : List UInt8 := [132, 5, 1, 167, 255, 138, 42, 21, 4, 182, 0, 235, 172]
abbrev dktX0_rest_12 : List UInt8 := dkwX0_rest_12 ++ []
def dkwX0_rest_11 : List UInt8 := [180, 0, 127, 21, 7, 46, 46, 182, 1, 7, 132, 7, 1, 167, 255, 221, 132, 6, 1, 167, 255, 157]
abbrev dktX0_rest_11 : List UInt8 := dkwX0_rest_11 ++ dktX0_rest_12
def dkwX0_rest_10 : List UInt8 := [21, 7, 21, 4, 162, 0, 34, 42, 180, 0, 30, 21, 5, 21, 6, 21, 7, 42, 180, 0, 63, 42]
abbrev dktX0_rest_10 : List UInt8 := dkwX0_rest_10 ++ dktX0_rest_11
def dkwX0_rest_9 : List UInt8 := [3, 8, 184, 0, 188, 42, 180, 0, 96, 42, 180, 0, 34, 42, 180, 0, 63, 182, 1, 114, 3, 54, 7]
abbrev dktX0_rest_9 : List UInt8 := dkwX0_rest_9 ++ dktX0_rest_10
def dkwX0_rest_8 : List UInt8 := [180, 1, 0, 42, 180, 0, 127, 21, 5, 46, 50, 42, 180, 0, 127, 21, 6, 46, 50, 3, 42, 180, 0, 63]
abbrev dktX0_rest_8 : List UInt8 := dkwX0_rest_8 ++ dktX0_rest_9
def dkwX0_rest_7 : List UInt8 := [21, 4, 162, 0, 117, 21, 5, 4, 96, 54, 6, 21, 6, 21, 4, 162, 0, 98, 42, 180, 0, 34]
abbrev dktX0_rest_7 : List UInt8 := dkwX0_rest_7 ++ dktX0_rest_8
def dkwX0_rest_6 : List UInt8 := [167, 255, 207, 42, 180, 0, 30, 182, 2, 2, 42, 180, 0, 30, 21, 4, 181, 0, 196, 3, 54, 5, 21, 5]
abbrev dktX0_rest_6 : List UInt8 := dkwX0_rest_6 ++ dktX0_rest_7
def dkwX0_rest_5 : List UInt8 := [182, 2, 0, 153, 0, 6, 167, 0, 15, 42, 180, 0, 127, 21, 4, 21, 5, 79, 132, 4, 1, 132, 5, 1]
abbrev dktX0_rest_5 : List UInt8 := dkwX0_rest_5 ++ dktX0_rest_6
def dkwX0_rest_4 : List UInt8 := [180, 0, 34, 180, 0, 196, 162, 0, 43, 42, 180, 0, 96, 180, 1, 46, 158, 0, 15, 42, 21, 5]
abbrev dktX0_rest_4 : List UInt8 := dkwX0_rest_4 ++ dktX0_rest_5
def dkwX0_rest_3 : List UInt8 := [182, 0, 171, 172, 42, 180, 0, 34, 42, 180, 0, 30, 182, 0, 231, 3, 54, 4, 3, 54, 5, 21, 5, 42]
abbrev dktX0_rest_3 : List UInt8 := dkwX0_rest_3 ++ dktX0_rest_4
def dkwX0_rest_2 : List UInt8 := [182, 1, 76, 42, 180, 0, 96, 180, 1, 46, 42, 180, 0, 30, 180, 0, 196, 160, 0, 10, 42, 16, 9]
abbrev dktX0_rest_2 : List UInt8 := dkwX0_rest_2 ++ dktX0_rest_3
def dkwX0_rest_1 : List UInt8 := [182, 0, 171, 172, 42, 42, 180, 0, 96, 27, 28, 182, 1, 72, 42, 42, 180, 0, 30, 42, 180, 0, 96, 4]
abbrev dktX0_rest_1 : List UInt8 := dkwX0_rest_1 ++ dktX0_rest_2
def dkwX0_rest_0 : List UInt8 := [42, 27, 28, 28, 133, 10, 20, 1, 62, 184, 1, 64, 182, 1, 68, 62, 29, 158, 0, 9, 42, 29]
abbrev dktX0_rest_0 : List UInt8 := dkwX0_rest_0 ++ dktX0_rest_1
theorem dksX0_rest_0 : cX0_rest.data.toList.drop 0 = dktX0_rest_0 := by decide +kernel
theorem dksX0_rest_1 : cX0_rest.data.toList.drop 22 = dktX0_rest_1 := dk_seg dksX0_rest_0 22 rfl rfl
theorem dksX0_rest_2 : cX0_rest.data.toList.drop 46 = dktX0_rest_2 := dk_seg dksX0_rest_1 24 rfl rfl
theorem dksX0_rest_3 : cX0_rest.data.toList.drop 69 = dktX0_rest_3 := dk_seg dksX0_rest_2 23 rfl rfl
theorem dksX0_rest_4 : cX0_rest.data.toList.drop 93 = dktX0_rest_4 := dk_seg dksX0_rest_3 24 rfl rfl
theorem dksX0_rest_5 : cX0_rest.data.toList.drop 115 = dktX0_rest_5 := dk_seg dksX0_rest_4 22 rfl rfl
theorem dksX0_rest_6 : cX0_rest.data.toList.drop 139 = dktX0_rest_6 := dk_seg dksX0_rest_5 24 rfl rfl
theorem dksX0_rest_7 : cX0_rest.data.toList.drop 163 = dktX0_rest_7 := dk_seg dksX0_rest_6 24 rfl rfl
theorem dksX0_rest_8 : cX0_rest.data.toList.drop 185 = dktX0_rest_8 := dk_seg dksX0_rest_7 22 rfl rfl
theorem dksX0_rest_9 : cX0_rest.data.toList.drop 209 = dktX0_rest_9 := dk_seg dksX0_rest_8 24 rfl rfl
theorem dksX0_rest_10 : cX0_rest.data.toList.drop 232 = dktX0_rest_10 := dk_seg dksX0_rest_9 23 rfl rfl
theorem dksX0_rest_11 : cX0_rest.data.toList.drop 254 = dktX0_rest_11 := dk_seg dksX0_rest_10 22 rfl rfl
theorem dksX0_rest_12 : cX0_rest.data.toList.drop 276 = dktX0_rest_12 := dk_seg dksX0_rest_11 22 rfl rfl
theorem dX0_rest_0 : decode cX0_rest 0 = .ok (.aload_n 0, 1) := dk_42 (dk_at dksX0_rest_0 0 rfl rfl)
theorem dX0_rest_1 : decode cX0_rest 1 = .ok (.iload_n 1, 1) := dk_27 (dk_at dksX0_rest_0 1 rfl rfl)
theorem dX0_rest_2 : decode cX0_rest 2 = .ok (.iload_n 2, 1) := dk_28 (dk_at dksX0_rest_0 2 rfl rfl)
theorem dX0_rest_3 : decode cX0_rest 3 = .ok (.iload_n 2, 1) := dk_28 (dk_at dksX0_rest_0 3 rfl rfl)
theorem dX0_rest_4 : decode cX0_rest 4 = .ok (.i2l, 1) := dk_133 (dk_at dksX0_rest_0 4 rfl rfl)
theorem dX0_rest_5 : decode cX0_rest 5 = .ok (.lconst 1, 1) := dk_10 (dk_at dksX0_rest_0 5 rfl rfl)
theorem dX0_rest_6 : decode cX0_rest 6 = .ok (.ldc2_w 318, 3) := dk_20 1 62 (dk_at dksX0_rest_0 6 rfl rfl)
theorem dX0_rest_9 : decode cX0_rest 9 = .ok (.invokestatic 320, 3) := dk_184 1 64 (dk_at dksX0_rest_0 9 rfl rfl)
theorem dX0_rest_12 : decode cX0_rest 12 = .ok (.invokevirtual 324, 3) := dk_182 1 68 (dk_at dksX0_rest_0 12 rfl rfl)
theorem dX0_rest_15 : decode cX0_rest 15 = .ok (.istore_n 3, 1) := dk_62 (dk_at dksX0_rest_0 15 rfl rfl)
theorem dX0_rest_16 : decode cX0_rest 16 = .ok (.iload_n 3, 1) := dk_29 (dk_at dksX0_rest_0 16 rfl rfl)
theorem dX0_rest_17 : decode cX0_rest 17 = .ok (.ifCond .le 9, 3) := dk_158 0 9 (dk_at dksX0_rest_0 17 rfl rfl)
theorem dX0_rest_20 : decode cX0_rest 20 = .ok (.aload_n 0, 1) := dk_42 (dk_at dksX0_rest_0 20 rfl rfl)
theorem dX0_rest_21 : decode cX0_rest 21 = .ok (.iload_n 3, 1) := dk_29 (dk_at dksX0_rest_0 21 rfl rfl)
theorem dX0_rest_22 : decode cX0_rest 22 = .ok (.invokevirtual 171, 3) := dk_182 0 171 (dk_at dksX0_rest_1 0 rfl rfl)
theorem dX0_rest_25 : decode cX0_rest 25 = .ok (.ireturn, 1) := dk_172 (dk_at dksX0_rest_1 3 rfl rfl)
theorem dX0_rest_26 : decode cX0_rest 26 = .ok (.aload_n 0, 1) := dk_42 (dk_at dksX0_rest_1 4 rfl rfl)
theorem dX0_rest_27 : decode cX0_rest 27 = .ok (.aload_n 0, 1) := dk_42 (dk_at dksX0_rest_1 5 rfl rfl)
theorem dX0_rest_28 : decode cX0_rest 28 = .ok (.getfield 96, 3) := dk_180 0 96 (dk_at dksX0_rest_1 6 rfl rfl)
theorem dX0_rest_31 : decode cX0_rest 31 = .ok (.iload_n 1, 1) := dk_27 (dk_at dksX0_rest_1 9 rfl rfl)
theorem dX0_rest_32 : decode cX0_rest 32 = .ok (.iload_n 2, 1) := dk_28 (dk_at dksX0_rest_1 10 rfl rfl)
theorem dX0_rest_33 : decode cX0_rest 33 = .ok (.invokevirtual 328, 3) := dk_182 1 72 (dk_at dksX0_rest_1 11 rfl rfl)
theorem dX0_rest_36 : decode cX0_rest 36 = .ok (.aload_n 0, 1) := dk_42 (dk_at dksX0_rest_1 14 rfl rfl)
theorem dX0_rest_37 : decode cX0_rest 37 = .ok (.aload_n 0, 1) := dk_42 (dk_at dksX0_rest_1 15 rfl rfl)
theorem dX0_rest_38 : decode cX0_rest 38 = .ok (.getfield 30, 3) := dk_180 0 30 (dk_at dksX0_rest_1 16 rfl rfl)
theorem dX0_rest_41 : decode cX0_rest 41 = .ok (.aload_n 0, 1) := dk_42 (dk_at dksX0_rest_1 19 rfl rfl)
theorem dX0_rest_42 : decode cX0_rest 42 = .ok (.getfield 96, 3) := dk_180 0 96 (dk_at dksX0_rest_1 20 rfl rfl)
theorem dX0_rest_45 : decode cX0_rest 45 = .ok (.iconst 1, 1) := dk_4 (dk_at dksX0_rest_1 23 rfl rfl)
theorem dX0_rest_46 : decode cX0_rest 46 = .ok (.invokevirtual 332, 3) := dk_182 1 76 (dk_at dksX0_rest_2 0 rfl rfl)
theorem dX0_rest_49 : decode cX0_rest 49 = .ok (.aload_n 0, 1) := dk_42 (dk_at dksX0_rest_2 3 rfl rfl)
theorem dX0_rest_50 : decode cX0_rest 50 = .ok (.getfield 96, 3) := dk_180 0 96 (dk_at dksX0_rest_2 4 rfl rfl)
theorem dX0_rest_53 : decode cX0_rest 53 = .ok (.getfield 302, 3) := dk_180 1 46 (dk_at dksX0_rest_2 7 rfl rfl)
theorem dX0_rest_56 : decode cX0_rest 56 = .ok (.aload_n 0, 1) := dk_42 (dk_at dksX0_rest_2 10 rfl rfl)
theorem dX0_rest_57 : decode cX0_rest 57 = .ok (.getfield 30, 3) := dk_180 0 30 (dk_at dksX0_rest_2 11 rfl rfl)
theorem dX0_rest_60 : decode cX0_rest 60 = .ok (.getfield 196, 3) := dk_180 0 196 (dk_at dksX0_rest_2 14 rfl rfl)
theorem dX0_rest_63 : decode cX0_rest 63 = .ok (.if_icmp .ne 10, 3) := dk_160 0 10 (dk_at dksX0_rest_2 17 rfl rfl)
theorem dX0_rest_66 : decode cX0_rest 66 = .ok (.aload_n 0, 1) := dk_42 (dk_at dksX0_rest_2 20 rfl rfl)
theorem dX0_rest_67 : decode cX0_rest 67 = .ok (.bipush 9, 2) := dk_16 9 (dk_at dksX0_rest_2 21 rfl rfl)
theorem dX0_rest_69 : decode cX0_rest 69 = .ok (.invokevirtual 171, 3) := dk_182 0 171 (dk_at dksX0_rest_3 0 rfl rfl)
theorem dX0_rest_72 : decode cX0_rest 72 = .ok (.ireturn, 1) := dk_172 (dk_at dksX0_rest_3 3 rfl rfl)
theorem dX0_rest_73 : decode cX0_rest 73 = .ok (.aload_n 0, 1) := dk_42 (dk_at dksX0_rest_3 4 rfl rfl)
theorem dX0_rest_74 : decode cX0_rest 74 = .ok (.getfield 34, 3) := dk_180 0 34 (dk_at dksX0_rest_3 5 rfl rfl)
theorem dX0_rest_77 : decode cX0_rest 77 = .ok (.aload_n 0, 1) := dk_42 (dk_at dksX0_rest_3 8 rfl rfl)
theorem dX0_rest_78 : decode cX0_rest 78 = .ok (.getfield 30, 3) := dk_180 0 30 (dk_at dksX0_rest_3 9 rfl rfl)
theorem dX0_rest_81 : decode cX0_rest 81 = .ok (.invokevirtual 231, 3) := dk_182 0 231 (dk_at dksX0_rest_3 12 rfl rfl)
theorem dX0_rest_84 : decode cX0_rest 84 = .ok (.iconst 0, 1) := dk_3 (dk_at dksX0_rest_3 15 rfl rfl)
theorem dX0_rest_85 : decode cX0_rest 85 = .ok (.istore 4, 2) := dk_54 4 (dk_at dksX0_rest_3 16 rfl rfl)
theorem dX0_rest_87 : decode cX0_rest 87 = .ok (.iconst 0, 1) := dk_3 (dk_at dksX0_rest_3 18 rfl rfl)
theorem dX0_rest_88 : decode cX0_rest 88 = .ok (.istore 5, 2) := dk_54 5 (dk_at dksX0_rest_3 19 rfl rfl)
theorem dX0_rest_90 : decode cX0_rest 90 = .ok (.iload 5, 2) := dk_21 5 (dk_at dksX0_rest_3 21 rfl rfl)
theorem dX0_rest_92 : decode cX0_rest 92 = .ok (.aload_n 0, 1) := dk_42 (dk_at dksX0_rest_3 23 rfl rfl)
theorem dX0_rest_93 : decode cX0_rest 93 = .ok (.getfield 34, 3) := dk_180 0 34 (dk_at dksX0_rest_4 0 rfl rfl)
theorem dX0_rest_96 : decode cX0_rest 96 = .ok (.getfield 196, 3) := dk_180 0 196 (dk_at dksX0_rest_4 3 rfl rfl)
theorem dX0_rest_99 : decode cX0_rest 99 = .ok (.if_icmp .ge 43, 3) := dk_162 0 43 (dk_at dksX0_rest_4 6 rfl rfl)
theorem dX0_rest_102 : decode cX0_rest 102 = .ok (.aload_n 0, 1) := dk_42 (dk_at dksX0_rest_4 9 rfl rfl)
theorem dX0_rest_103 : decode cX0_rest 103 = .ok (.getfield 96, 3) := dk_180 0 96 (dk_at dksX0_rest_4 10 rfl rfl)
theorem dX0_rest_106 : decode cX0_rest 106 = .ok (.getfield 302, 3) := dk_180 1 46 (dk_at dksX0_rest_4 13 rfl rfl)
theorem dX0_rest_109 : decode cX0_rest 109 = .ok (.ifCond .le 15, 3) := dk_158 0 15 (dk_at dksX0_rest_4 16 rfl rfl)
theorem dX0_rest_112 : decode cX0_rest 112 = .ok (.aload_n 0, 1) := dk_42 (dk_at dksX0_rest_4 19 rfl rfl)
theorem dX0_rest_113 : decode cX0_rest 113 = .ok (.iload 5, 2) := dk_21 5 (dk_at dksX0_rest_4 20 rfl rfl)
theorem dX0_rest_115 : decode cX0_rest 115 = .ok (.invokevirtual 512, 3) := dk_182 2 0 (dk_at dksX0_rest_5 0 rfl rfl)
theorem dX0_rest_118 : decode cX0_rest 118 = .ok (.ifCond .eq 6, 3) := dk_153 0 6 (dk_at dksX0_rest_5 3 rfl rfl)
theorem dX0_rest_121 : decode cX0_rest 121 = .ok (.goto 15, 3) := dk_167 0 15 (dk_at dksX0_rest_5 6 rfl rfl)
theorem dX0_rest_124 : decode cX0_rest 124 = .ok (.aload_n 0, 1) := dk_42 (dk_at dksX0_rest_5 9 rfl rfl)
theorem dX0_rest_125 : decode cX0_rest 125 = .ok (.getfield 127, 3) := dk_180 0 127 (dk_at dksX0_rest_5 10 rfl rfl)
theorem dX0_rest_128 : decode cX0_rest 128 = .ok (.iload 4, 2) := dk_21 4 (dk_at dksX0_rest_5 13 rfl rfl)
theorem dX0_rest_130 : decode cX0_rest 130 = .ok (.iload 5, 2) := dk_21 5 (dk_at dksX0_rest_5 15 rfl rfl)
theorem dX0_rest_132 : decode cX0_rest 132 = .ok (.iastore, 1) := dk_79 (dk_at dksX0_rest_5 17 rfl rfl)
theorem dX0_rest_133 : decode cX0_rest 133 = .ok (.iinc 4 1, 3) := dk_132 4 1 (dk_at dksX0_rest_5 18 rfl rfl)
theorem dX0_rest_136 : decode cX0_rest 136 = .ok (.iinc 5 1, 3) := dk_132 5 1 (dk_at dksX0_rest_5 21 rfl rfl)
theorem dX0_rest_139 : decode cX0_rest 139 = .ok (.goto (-49), 3) := dk_167 255 207 (dk_at dksX0_rest_6 0 rfl rfl)
theorem dX0_rest_142 : decode cX0_rest 142 = .ok (.aload_n 0, 1) := dk_42 (dk_at dksX0_rest_6 3 rfl rfl)
theorem dX0_rest_143 : decode cX0_rest 143 = .ok (.getfield 30, 3) := dk_180 0 30 (dk_at dksX0_rest_6 4 rfl rfl)
theorem dX0_rest_146 : decode cX0_rest 146 = .ok (.invokevirtual 514, 3) := dk_182 2 2 (dk_at dksX0_rest_6 7 rfl rfl)
theorem dX0_rest_149 : decode cX0_rest 149 = .ok (.aload_n 0, 1) := dk_42 (dk_at dksX0_rest_6 10 rfl rfl)
theorem dX0_rest_150 : decode cX0_rest 150 = .ok (.getfield 30, 3) := dk_180 0 30 (dk_at dksX0_rest_6 11 rfl rfl)
theorem dX0_rest_153 : decode cX0_rest 153 = .ok (.iload 4, 2) := dk_21 4 (dk_at dksX0_rest_6 14 rfl rfl)
theorem dX0_rest_155 : decode cX0_rest 155 = .ok (.putfield 196, 3) := dk_181 0 196 (dk_at dksX0_rest_6 16 rfl rfl)
theorem dX0_rest_158 : decode cX0_rest 158 = .ok (.iconst 0, 1) := dk_3 (dk_at dksX0_rest_6 19 rfl rfl)
theorem dX0_rest_159 : decode cX0_rest 159 = .ok (.istore 5, 2) := dk_54 5 (dk_at dksX0_rest_6 20 rfl rfl)
theorem dX0_rest_161 : decode cX0_rest 161 = .ok (.iload 5, 2) := dk_21 5 (dk_at dksX0_rest_6 22 rfl rfl)
theorem dX0_rest_163 : decode cX0_rest 163 = .ok (.iload 4, 2) := dk_21 4 (dk_at dksX0_rest_7 0 rfl rfl)
theorem dX0_rest_165 : decode cX0_rest 165 = .ok (.if_icmp .ge 117, 3) := dk_162 0 117 (dk_at dksX0_rest_7 2 rfl rfl)
theorem dX0_rest_168 : decode cX0_rest 168 = .ok (.iload 5, 2) := dk_21 5 (dk_at dksX0_rest_7 5 rfl rfl)
theorem dX0_rest_170 : decode cX0_rest 170 = .ok (.iconst 1, 1) := dk_4 (dk_at dksX0_rest_7 7 rfl rfl)
theorem dX0_rest_171 : decode cX0_rest 171 = .ok (.iadd, 1) := dk_96 (dk_at dksX0_rest_7 8 rfl rfl)
theorem dX0_rest_172 : decode cX0_rest 172 = .ok (.istore 6, 2) := dk_54 6 (dk_at dksX0_rest_7 9 rfl rfl)
theorem dX0_rest_174 : decode cX0_rest 174 = .ok (.iload 6, 2) := dk_21 6 (dk_at dksX0_rest_7 11 rfl rfl)
theorem dX0_rest_176 : decode cX0_rest 176 = .ok (.iload 4, 2) := dk_21 4 (dk_at dksX0_rest_7 13 rfl rfl)
theorem dX0_rest_178 : decode cX0_rest 178 = .ok (.if_icmp .ge 98, 3) := dk_162 0 98 (dk_at dksX0_rest_7 15 rfl rfl)
theorem dX0_rest_181 : decode cX0_rest 181 = .ok (.aload_n 0, 1) := dk_42 (dk_at dksX0_rest_7 18 rfl rfl)
theorem dX0_rest_182 : decode cX0_rest 182 = .ok (.getfield 34, 3) := dk_180 0 34 (dk_at dksX0_rest_7 19 rfl rfl)
theorem dX0_rest_185 : decode cX0_rest 185 = .ok (.getfield 256, 3) := dk_180 1 0 (dk_at dksX0_rest_8 0 rfl rfl)
theorem dX0_rest_188 : decode cX0_rest 188 = .ok (.aload_n 0, 1) := dk_42 (dk_at dksX0_rest_8 3 rfl rfl)
theorem dX0_rest_189 : decode cX0_rest 189 = .ok (.getfield 127, 3) := dk_180 0 127 (dk_at dksX0_rest_8 4 rfl rfl)
theorem dX0_rest_192 : decode cX0_rest 192 = .ok (.iload 5, 2) := dk_21 5 (dk_at dksX0_rest_8 7 rfl rfl)
theorem dX0_rest_194 : decode cX0_rest 194 = .ok (.iaload, 1) := dk_46 (dk_at dksX0_rest_8 9 rfl rfl)
theorem dX0_rest_195 : decode cX0_rest 195 = .ok (.aaload, 1) := dk_50 (dk_at dksX0_rest_8 10 rfl rfl)
theorem dX0_rest_196 : decode cX0_rest 196 = .ok (.aload_n 0, 1) := dk_42 (dk_at dksX0_rest_8 11 rfl rfl)
theorem dX0_rest_197 : decode cX0_rest 197 = .ok (.getfield 127, 3) := dk_180 0 127 (dk_at dksX0_rest_8 12 rfl rfl)
theorem dX0_rest_200 : decode cX0_rest 200 = .ok (.iload 6, 2) := dk_21 6 (dk_at dksX0_rest_8 15 rfl rfl)
theorem dX0_rest_202 : decode cX0_rest 202 = .ok (.iaload, 1) := dk_46 (dk_at dksX0_rest_8 17 rfl rfl)
theorem dX0_rest_203 : decode cX0_rest 203 = .ok (.aaload, 1) := dk_50 (dk_at dksX0_rest_8 18 rfl rfl)
theorem dX0_rest_204 : decode cX0_rest 204 = .ok (.iconst 0, 1) := dk_3 (dk_at dksX0_rest_8 19 rfl rfl)
theorem dX0_rest_205 : decode cX0_rest 205 = .ok (.aload_n 0, 1) := dk_42 (dk_at dksX0_rest_8 20 rfl rfl)
theorem dX0_rest_206 : decode cX0_rest 206 = .ok (.getfield 63, 3) := dk_180 0 63 (dk_at dksX0_rest_8 21 rfl rfl)
theorem dX0_rest_209 : decode cX0_rest 209 = .ok (.iconst 0, 1) := dk_3 (dk_at dksX0_rest_9 0 rfl rfl)
theorem dX0_rest_210 : decode cX0_rest 210 = .ok (.iconst 5, 1) := dk_8 (dk_at dksX0_rest_9 1 rfl rfl)
theorem dX0_rest_211 : decode cX0_rest 211 = .ok (.invokestatic 188, 3) := dk_184 0 188 (dk_at dksX0_rest_9 2 rfl rfl)
theorem dX0_rest_214 : decode cX0_rest 214 = .ok (.aload_n 0, 1) := dk_42 (dk_at dksX0_rest_9 5 rfl rfl)
theorem dX0_rest_215 : decode cX0_rest 215 = .ok (.getfield 96, 3) := dk_180 0 96 (dk_at dksX0_rest_9 6 rfl rfl)
theorem dX0_rest_218 : decode cX0_rest 218 = .ok (.aload_n 0, 1) := dk_42 (dk_at dksX0_rest_9 9 rfl rfl)
theorem dX0_rest_219 : decode cX0_rest 219 = .ok (.getfield 34, 3) := dk_180 0 34 (dk_at dksX0_rest_9 10 rfl rfl)
theorem dX0_rest_222 : decode cX0_rest 222 = .ok (.aload_n 0, 1) := dk_42 (dk_at dksX0_rest_9 13 rfl rfl)
theorem dX0_rest_223 : decode cX0_rest 223 = .ok (.getfield 63, 3) := dk_180 0 63 (dk_at dksX0_rest_9 14 rfl rfl)
theorem dX0_rest_226 : decode cX0_rest 226 = .ok (.invokevirtual 370, 3) := dk_182 1 114 (dk_at dksX0_rest_9 17 rfl rfl)
theorem dX0_rest_229 : decode cX0_rest 229 = .ok (.iconst 0, 1) := dk_3 (dk_at dksX0_rest_9 20 rfl rfl)
theorem dX0_rest_230 : decode cX0_rest 230 = .ok (.istore 7, 2) := dk_54 7 (dk_at dksX0_rest_9 21 rfl rfl)
theorem dX0_rest_232 : decode cX0_rest 232 = .ok (.iload 7, 2) := dk_21 7 (dk_at dksX0_rest_10 0 rfl rfl)
theorem dX0_rest_234 : decode cX0_rest 234 = .ok (.iload 4, 2) := dk_21 4 (dk_at dksX0_rest_10 2 rfl rfl)
theorem dX0_rest_236 : decode cX0_rest 236 = .ok (.if_icmp .ge 34, 3) := dk_162 0 34 (dk_at dksX0_rest_10 4 rfl rfl)
theorem dX0_rest_239 : decode cX0_rest 239 = .ok (.aload_n 0, 1) := dk_42 (dk_at dksX0_rest_10 7 rfl rfl)
theorem dX0_rest_240 : decode cX0_rest 240 = .ok (.getfield 30, 3) := dk_180 0 30 (dk_at dksX0_rest_10 8 rfl rfl)
theorem dX0_rest_243 : decode cX0_rest 243 = .ok (.iload 5, 2) := dk_21 5 (dk_at dksX0_rest_10 11 rfl rfl)
theorem dX0_rest_245 : decode cX0_rest 245 = .ok (.iload 6, 2) := dk_21 6 (dk_at dksX0_rest_10 13 rfl rfl)
theorem dX0_rest_247 : decode cX0_rest 247 = .ok (.iload 7, 2) := dk_21 7 (dk_at dksX0_rest_10 15 rfl rfl)
theorem dX0_rest_249 : decode cX0_rest 249 = .ok (.aload_n 0, 1) := dk_42 (dk_at dksX0_rest_10 17 rfl rfl)
theorem dX0_rest_250 : decode cX0_rest 250 = .ok (.getfield 63, 3) := dk_180 0 63 (dk_at dksX0_rest_10 18 rfl rfl)
theorem dX0_rest_253 : decode cX0_rest 253 = .ok (.aload_n 0, 1) := dk_42 (dk_at dksX0_rest_10 21 rfl rfl)
theorem dX0_rest_254 : decode cX0_rest 254 = .ok (.getfield 127, 3) := dk_180 0 127 (dk_at dksX0_rest_11 0 rfl rfl)
theorem dX0_rest_257 : decode cX0_rest 257 = .ok (.iload 7, 2) := dk_21 7 (dk_at dksX0_rest_11 3 rfl rfl)
theorem dX0_rest_259 : decode cX0_rest 259 = .ok (.iaload, 1) := dk_46 (dk_at dksX0_rest_11 5 rfl rfl)
theorem dX0_rest_260 : decode cX0_rest 260 = .ok (.iaload, 1) := dk_46 (dk_at dksX0_rest_11 6 rfl rfl)
theorem dX0_rest_261 : decode cX0_rest 261 = .ok (.invokevirtual 263, 3) := dk_182 1 7 (dk_at dksX0_rest_11 7 rfl rfl)
theorem dX0_rest_264 : decode cX0_rest 264 = .ok (.iinc 7 1, 3) := dk_132 7 1 (dk_at dksX0_rest_11 10 rfl rfl)
theorem dX0_rest_267 : decode cX0_rest 267 = .ok (.goto (-35), 3) := dk_167 255 221 (dk_at dksX0_rest_11 13 rfl rfl)
theorem dX0_rest_270 : decode cX0_rest 270 = .ok (.iinc 6 1, 3) := dk_132 6 1 (dk_at dksX0_rest_11 16 rfl rfl)
theorem dX0_rest_273 : decode cX0_rest 273 = .ok (.goto (-99), 3) := dk_167 255 157 (dk_at dksX0_rest_11 19 rfl rfl)
theorem dX0_rest_276 : decode cX0_rest 276 = .ok (.iinc 5 1, 3) := dk_132 5 1 (dk_at dksX0_rest_12 0 rfl rfl)
theorem dX0_rest_279 : decode cX0_rest 279 = .ok (.goto (-118), 3) := dk_167 255 138 (dk_at dksX0_rest_12 3 rfl rfl)
theorem dX0_rest_282 : decode cX0_rest 282 = .ok (.aload_n 0, 1) := dk_42 (dk_at dksX0_rest_12 6 rfl rfl)
theorem dX0_rest_283 : decode cX0_rest 283 = .ok (.iload 4, 2) := dk_21 4 (dk_at dksX0_rest_12 7 rfl rfl)
theorem dX0_rest_285 : decode cX0_rest 285 = .ok (.invokevirtual 235, 3) := dk_182 0 235 (dk_at dksX0_rest_12 9 rfl rfl)
theorem dX0_rest_288 : decode cX0_rest 288 = .ok (.ireturn, 1) := dk_172 (dk_at dksX0_rest_12 12 rfl rfl)
abbrev cX0_leads : ByteArray := prog_1_method_107_code
def dkwX0_leads_1 : List UInt8 := [160, 0, 5, 4, 172, 132, 2, 1, 167, 255, 227, 3, 172]
abbrev dktX0_leads_1 : List UInt8 := dkwX0_leads_1 ++ []
def dkwX0_leads_0 : List UInt8 := [3, 61, 28, 42, 180, 0, 96, 180, 1, 46, 162, 0, 24, 42, 180, 0, 96, 180, 1, 147, 28, 46, 27]
abbrev dktX0_leads_0 : List UInt8 := dkwX0_leads_0 ++ dktX0_leads_1
theorem dksX0_leads_0 : cX0_leads.data.toList.drop 0 = dktX0_leads_0 := by decide +kernel
theorem dksX0_leads_1 : cX0_leads.data.toList.drop 23 = dktX0_leads_1 := dk_seg dksX0_leads_0 23 rfl rfl
theorem dX0_leads_0 : decode cX0_leads 0 = .ok (.iconst 0, 1) := dk_3 (dk_at dksX0_leads_0 0 rfl rfl)
theorem dX0_leads_1 : decode cX0_leads 1 = .ok (.istore_n 2, 1) := dk_61 (dk_at dksX0_leads_0 1 rfl rfl)
theorem dX0_leads_2 : decode cX0_leads 2 = .ok (.iload_n 2, 1) := dk_28 (dk_at dksX0_leads_0 2 rfl rfl)
theorem dX0_leads_3 : decode cX0_leads 3 = .ok (.aload_n 0, 1) := dk_42 (dk_at dksX0_leads_0 3 rfl rfl)
theorem dX0_leads_4 : decode cX0_leads 4 = .ok (.getfield 96, 3) := dk_180 0 96 (dk_at dksX0_leads_0 4 rfl rfl)
theorem dX0_leads_7 : decode cX0_leads 7 = .ok (.getfield 302, 3) := dk_180 1 46 (dk_at dksX0_leads_0 7 rfl rfl)
theorem dX0_leads_10 : decode cX0_leads 10 = .ok (.if_icmp .ge 24, 3) := dk_162 0 24 (dk_at dksX0_leads_0 10 rfl rfl)
theorem dX0_leads_13 : decode cX0_leads 13 = .ok (.aload_n 0, 1) := dk_42 (dk_at dksX0_leads_0 13 rfl rfl)
theorem dX0_leads_14 : decode cX0_leads 14 = .ok (.getfield 96, 3) := dk_180 0 96 (dk_at dksX0_leads_0 14 rfl rfl)
theorem dX0_leads_17 : decode cX0_leads 17 = .ok (.getfield 403, 3) := dk_180 1 147 (dk_at dksX0_leads_0 17 rfl rfl)
theorem dX0_leads_20 : decode cX0_leads 20 = .ok (.iload_n 2, 1) := dk_28 (dk_at dksX0_leads_0 20 rfl rfl)
theorem dX0_leads_21 : decode cX0_leads 21 = .ok (.iaload, 1) := dk_46 (dk_at dksX0_leads_0 21 rfl rfl)
theorem dX0_leads_22 : decode cX0_leads 22 = .ok (.iload_n 1, 1) := dk_27 (dk_at dksX0_leads_0 22 rfl rfl)
theorem dX0_leads_23 : decode cX0_leads 23 = .ok (.if_icmp .ne 5, 3) := dk_160 0 5 (dk_at dksX0_leads_1 0 rfl rfl)
theorem dX0_leads_26 : decode cX0_leads 26 = .ok (.iconst 1, 1) := dk_4 (dk_at dksX0_leads_1 3 rfl rfl)
theorem dX0_leads_27 : decode cX0_leads 27 = .ok (.ireturn, 1) := dk_172 (dk_at dksX0_leads_1 4 rfl rfl)
theorem dX0_leads_28 : decode cX0_leads 28 = .ok (.iinc 2 1, 3) := dk_132 2 1 (dk_at dksX0_leads_1 5 rfl rfl)
theorem dX0_leads_31 : decode cX0_leads 31 = .ok (.goto (-29), 3) := dk_167 255 227 (dk_at dksX0_leads_1 8 rfl rfl)
theorem dX0_leads_34 : decode cX0_leads 34 = .ok (.iconst 0, 1) := dk_3 (dk_at dksX0_leads_1 11 rfl rfl)
theorem dX0_leads_35 : decode cX0_leads 35 = .ok (.ireturn, 1) := dk_172 (dk_at dksX0_leads_1 12 rfl rfl)
abbrev cX0_takeOut : ByteArray := prog_1_method_108_code
def dkwX0_takeOut_9 : List UInt8 := [167, 255, 152, 42, 21, 4, 182, 0, 235, 172]
abbrev dktX0_takeOut_9 : List UInt8 := dkwX0_takeOut_9 ++ []
def dkwX0_takeOut_8 : List UInt8 := [21, 7, 46, 46, 182, 1, 7, 132, 7, 1, 167, 255, 218, 132, 6, 1, 167, 255, 171, 132, 5, 1]
abbrev dktX0_takeOut_8 : List UInt8 := dkwX0_takeOut_8 ++ dktX0_takeOut_9
def dkwX0_takeOut_7 : List UInt8 := [162, 0, 37, 42, 180, 0, 30, 21, 5, 21, 6, 21, 7, 42, 180, 0, 63, 42, 180, 0, 96, 180, 1, 147]
abbrev dktX0_takeOut_7 : List UInt8 := dkwX0_takeOut_7 ++ dktX0_takeOut_8
def dkwX0_takeOut_6 : List UInt8 := [180, 0, 96, 180, 1, 49, 21, 6, 50, 42, 180, 0, 63, 182, 1, 18, 3, 54, 7, 21, 7, 21, 4]
abbrev dktX0_takeOut_6 : List UInt8 := dkwX0_takeOut_6 ++ dktX0_takeOut_7
def dkwX0_takeOut_5 : List UInt8 := [21, 6, 21, 4, 162, 0, 84, 42, 180, 0, 34, 42, 180, 0, 96, 180, 1, 49, 21, 5, 50, 42]
abbrev dktX0_takeOut_5 : List UInt8 := dkwX0_takeOut_5 ++ dktX0_takeOut_6
def dkwX0_takeOut_4 : List UInt8 := [180, 0, 30, 21, 4, 181, 0, 196, 3, 54, 5, 21, 5, 21, 4, 162, 0, 103, 21, 5, 4, 96, 54, 6]
abbrev dktX0_takeOut_4 : List UInt8 := dkwX0_takeOut_4 ++ dktX0_takeOut_5
def dkwX0_takeOut_3 : List UInt8 := [42, 180, 0, 30, 182, 0, 231, 42, 180, 0, 96, 180, 1, 46, 54, 4, 42, 180, 0, 30, 182, 2, 2, 42]
abbrev dktX0_takeOut_3 : List UInt8 := dkwX0_takeOut_3 ++ dktX0_takeOut_4
def dkwX0_takeOut_2 : List UInt8 := [182, 1, 76, 42, 180, 0, 96, 180, 1, 46, 154, 0, 10, 42, 16, 9, 182, 0, 171, 172, 42, 180, 0, 34]
abbrev dktX0_takeOut_2 : List UInt8 := dkwX0_takeOut_2 ++ dktX0_takeOut_3
def dkwX0_takeOut_1 : List UInt8 := [182, 0, 171, 172, 42, 42, 180, 0, 96, 27, 28, 182, 1, 72, 42, 42, 180, 0, 30, 42, 180, 0, 96, 3]
abbrev dktX0_takeOut_1 : List UInt8 := dkwX0_takeOut_1 ++ dktX0_takeOut_2
def dkwX0_takeOut_0 : List UInt8 := [42, 27, 28, 28, 133, 10, 20, 1, 62, 184, 1, 64, 182, 1, 68, 62, 29, 158, 0, 9, 42, 29]
abbrev dktX0_takeOut_0 : List UInt8 := dkwX0_takeOut_0 ++ dktX0_takeOut_1
theorem dksX0_takeOut_0 : cX0_takeOut.data.toList.drop 0 = dktX0_takeOut_0 := by decide +kernel
theorem dksX0_takeOut_1 : cX0_takeOut.data.toList.drop 22 = dktX0_takeOut_1 := dk_seg dksX0_takeOut_0 22 rfl rfl
theorem dksX0_takeOut_2 : cX0_takeOut.data.toList.drop 46 = dktX0_takeOut_2 := dk_seg dksX0_takeOut_1 24 rfl rfl
theorem dksX0_takeOut_3 : cX0_takeOut.data.toList.drop 70 = dktX0_takeOut_3 := dk_seg dksX0_takeOut_2 24 rfl rfl
theorem dksX0_takeOut_4 : cX0_takeOut.data.toList.drop 94 = dktX0_takeOut_4 := dk_seg dksX0_takeOut_3 24 rfl rfl
theorem dksX0_takeOut_5 : cX0_takeOut.data.toList.drop 118 = dktX0_takeOut_5 := dk_seg dksX0_takeOut_4 24 rfl rfl
theorem dksX0_takeOut_6 : cX0_takeOut.data.toList.drop 140 = dktX0_takeOut_6 := dk_seg dksX0_takeOut_5 22 rfl rfl
theorem dksX0_takeOut_7 : cX0_takeOut.data.toList.drop 163 = dktX0_takeOut_7 := dk_seg dksX0_takeOut_6 23 rfl rfl
theorem dksX0_takeOut_8 : cX0_takeOut.data.toList.drop 187 = dktX0_takeOut_8 := dk_seg dksX0_takeOut_7 24 rfl rfl
theorem dksX0_takeOut_9 : cX0_takeOut.data.toList.drop 209 = dktX0_takeOut_9 := dk_seg dksX0_takeOut_8 22 rfl rfl
theorem dX0_takeOut_0 : decode cX0_takeOut 0 = .ok (.aload_n 0, 1) := dk_42 (dk_at dksX0_takeOut_0 0 rfl rfl)
theorem dX0_takeOut_1 : decode cX0_takeOut 1 = .ok (.iload_n 1, 1) := dk_27 (dk_at dksX0_takeOut_0 1 rfl rfl)
theorem dX0_takeOut_2 : decode cX0_takeOut 2 = .ok (.iload_n 2, 1) := dk_28 (dk_at dksX0_takeOut_0 2 rfl rfl)
theorem dX0_takeOut_3 : decode cX0_takeOut 3 = .ok (.iload_n 2, 1) := dk_28 (dk_at dksX0_takeOut_0 3 rfl rfl)
theorem dX0_takeOut_4 : decode cX0_takeOut 4 = .ok (.i2l, 1) := dk_133 (dk_at dksX0_takeOut_0 4 rfl rfl)
theorem dX0_takeOut_5 : decode cX0_takeOut 5 = .ok (.lconst 1, 1) := dk_10 (dk_at dksX0_takeOut_0 5 rfl rfl)
theorem dX0_takeOut_6 : decode cX0_takeOut 6 = .ok (.ldc2_w 318, 3) := dk_20 1 62 (dk_at dksX0_takeOut_0 6 rfl rfl)
theorem dX0_takeOut_9 : decode cX0_takeOut 9 = .ok (.invokestatic 320, 3) := dk_184 1 64 (dk_at dksX0_takeOut_0 9 rfl rfl)
theorem dX0_takeOut_12 : decode cX0_takeOut 12 = .ok (.invokevirtual 324, 3) := dk_182 1 68 (dk_at dksX0_takeOut_0 12 rfl rfl)
theorem dX0_takeOut_15 : decode cX0_takeOut 15 = .ok (.istore_n 3, 1) := dk_62 (dk_at dksX0_takeOut_0 15 rfl rfl)
theorem dX0_takeOut_16 : decode cX0_takeOut 16 = .ok (.iload_n 3, 1) := dk_29 (dk_at dksX0_takeOut_0 16 rfl rfl)
theorem dX0_takeOut_17 : decode cX0_takeOut 17 = .ok (.ifCond .le 9, 3) := dk_158 0 9 (dk_at dksX0_takeOut_0 17 rfl rfl)
theorem dX0_takeOut_20 : decode cX0_takeOut 20 = .ok (.aload_n 0, 1) := dk_42 (dk_at dksX0_takeOut_0 20 rfl rfl)
theorem dX0_takeOut_21 : decode cX0_takeOut 21 = .ok (.iload_n 3, 1) := dk_29 (dk_at dksX0_takeOut_0 21 rfl rfl)
theorem dX0_takeOut_22 : decode cX0_takeOut 22 = .ok (.invokevirtual 171, 3) := dk_182 0 171 (dk_at dksX0_takeOut_1 0 rfl rfl)
theorem dX0_takeOut_25 : decode cX0_takeOut 25 = .ok (.ireturn, 1) := dk_172 (dk_at dksX0_takeOut_1 3 rfl rfl)
theorem dX0_takeOut_26 : decode cX0_takeOut 26 = .ok (.aload_n 0, 1) := dk_42 (dk_at dksX0_takeOut_1 4 rfl rfl)
theorem dX0_takeOut_27 : decode cX0_takeOut 27 = .ok (.aload_n 0, 1) := dk_42 (dk_at dksX0_takeOut_1 5 rfl rfl)
theorem dX0_takeOut_28 : decode cX0_takeOut 28 = .ok (.getfield 96, 3) := dk_180 0 96 (dk_at dksX0_takeOut_1 6 rfl rfl)
theorem dX0_takeOut_31 : decode cX0_takeOut 31 = .ok (.iload_n 1, 1) := dk_27 (dk_at dksX0_takeOut_1 9 rfl rfl)
theorem dX0_takeOut_32 : decode cX0_takeOut 32 = .ok (.iload_n 2, 1) := dk_28 (dk_at dksX0_takeOut_1 10 rfl rfl)
theorem dX0_takeOut_33 : decode cX0_takeOut 33 = .ok (.invokevirtual 328, 3) := dk_182 1 72 (dk_at dksX0_takeOut_1 11 rfl rfl)
theorem dX0_takeOut_36 : decode cX0_takeOut 36 = .ok (.aload_n 0, 1) := dk_42 (dk_at dksX0_takeOut_1 14 rfl rfl)
theorem dX0_takeOut_37 : decode cX0_takeOut 37 = .ok (.aload_n 0, 1) := dk_42 (dk_at dksX0_takeOut_1 15 rfl rfl)
theorem dX0_takeOut_38 : decode cX0_takeOut 38 = .ok (.getfield 30, 3) := dk_180 0 30 (dk_at dksX0_takeOut_1 16 rfl rfl)
theorem dX0_takeOut_41 : decode cX0_takeOut 41 = .ok (.aload_n 0, 1) := dk_42 (dk_at dksX0_takeOut_1 19 rfl rfl)
theorem dX0_takeOut_42 : decode cX0_takeOut 42 = .ok (.getfield 96, 3) := dk_180 0 96 (dk_at dksX0_takeOut_1 20 rfl rfl)
theorem dX0_takeOut_45 : decode cX0_takeOut 45 = .ok (.iconst 0, 1) := dk_3 (dk_at dksX0_takeOut_1 23 rfl rfl)
theorem dX0_takeOut_46 : decode cX0_takeOut 46 = .ok (.invokevirtual 332, 3) := dk_182 1 76 (dk_at dksX0_takeOut_2 0 rfl rfl)
theorem dX0_takeOut_49 : decode cX0_takeOut 49 = .ok (.aload_n 0, 1) := dk_42 (dk_at dksX0_takeOut_2 3 rfl rfl)
theorem dX0_takeOut_50 : decode cX0_takeOut 50 = .ok (.getfield 96, 3) := dk_180 0 96 (dk_at dksX0_takeOut_2 4 rfl rfl)
theorem dX0_takeOut_53 : decode cX0_takeOut 53 = .ok (.getfield 302, 3) := dk_180 1 46 (dk_at dksX0_takeOut_2 7 rfl rfl)
theorem dX0_takeOut_56 : decode cX0_takeOut 56 = .ok (.ifCond .ne 10, 3) := dk_154 0 10 (dk_at dksX0_takeOut_2 10 rfl rfl)
theorem dX0_takeOut_59 : decode cX0_takeOut 59 = .ok (.aload_n 0, 1) := dk_42 (dk_at dksX0_takeOut_2 13 rfl rfl)
theorem dX0_takeOut_60 : decode cX0_takeOut 60 = .ok (.bipush 9, 2) := dk_16 9 (dk_at dksX0_takeOut_2 14 rfl rfl)
theorem dX0_takeOut_62 : decode cX0_takeOut 62 = .ok (.invokevirtual 171, 3) := dk_182 0 171 (dk_at dksX0_takeOut_2 16 rfl rfl)
theorem dX0_takeOut_65 : decode cX0_takeOut 65 = .ok (.ireturn, 1) := dk_172 (dk_at dksX0_takeOut_2 19 rfl rfl)
theorem dX0_takeOut_66 : decode cX0_takeOut 66 = .ok (.aload_n 0, 1) := dk_42 (dk_at dksX0_takeOut_2 20 rfl rfl)
theorem dX0_takeOut_67 : decode cX0_takeOut 67 = .ok (.getfield 34, 3) := dk_180 0 34 (dk_at dksX0_takeOut_2 21 rfl rfl)
theorem dX0_takeOut_70 : decode cX0_takeOut 70 = .ok (.aload_n 0, 1) := dk_42 (dk_at dksX0_takeOut_3 0 rfl rfl)
theorem dX0_takeOut_71 : decode cX0_takeOut 71 = .ok (.getfield 30, 3) := dk_180 0 30 (dk_at dksX0_takeOut_3 1 rfl rfl)
theorem dX0_takeOut_74 : decode cX0_takeOut 74 = .ok (.invokevirtual 231, 3) := dk_182 0 231 (dk_at dksX0_takeOut_3 4 rfl rfl)
theorem dX0_takeOut_77 : decode cX0_takeOut 77 = .ok (.aload_n 0, 1) := dk_42 (dk_at dksX0_takeOut_3 7 rfl rfl)
theorem dX0_takeOut_78 : decode cX0_takeOut 78 = .ok (.getfield 96, 3) := dk_180 0 96 (dk_at dksX0_takeOut_3 8 rfl rfl)
theorem dX0_takeOut_81 : decode cX0_takeOut 81 = .ok (.getfield 302, 3) := dk_180 1 46 (dk_at dksX0_takeOut_3 11 rfl rfl)
theorem dX0_takeOut_84 : decode cX0_takeOut 84 = .ok (.istore 4, 2) := dk_54 4 (dk_at dksX0_takeOut_3 14 rfl rfl)
theorem dX0_takeOut_86 : decode cX0_takeOut 86 = .ok (.aload_n 0, 1) := dk_42 (dk_at dksX0_takeOut_3 16 rfl rfl)
theorem dX0_takeOut_87 : decode cX0_takeOut 87 = .ok (.getfield 30, 3) := dk_180 0 30 (dk_at dksX0_takeOut_3 17 rfl rfl)
theorem dX0_takeOut_90 : decode cX0_takeOut 90 = .ok (.invokevirtual 514, 3) := dk_182 2 2 (dk_at dksX0_takeOut_3 20 rfl rfl)
theorem dX0_takeOut_93 : decode cX0_takeOut 93 = .ok (.aload_n 0, 1) := dk_42 (dk_at dksX0_takeOut_3 23 rfl rfl)
theorem dX0_takeOut_94 : decode cX0_takeOut 94 = .ok (.getfield 30, 3) := dk_180 0 30 (dk_at dksX0_takeOut_4 0 rfl rfl)
theorem dX0_takeOut_97 : decode cX0_takeOut 97 = .ok (.iload 4, 2) := dk_21 4 (dk_at dksX0_takeOut_4 3 rfl rfl)
theorem dX0_takeOut_99 : decode cX0_takeOut 99 = .ok (.putfield 196, 3) := dk_181 0 196 (dk_at dksX0_takeOut_4 5 rfl rfl)
theorem dX0_takeOut_102 : decode cX0_takeOut 102 = .ok (.iconst 0, 1) := dk_3 (dk_at dksX0_takeOut_4 8 rfl rfl)
theorem dX0_takeOut_103 : decode cX0_takeOut 103 = .ok (.istore 5, 2) := dk_54 5 (dk_at dksX0_takeOut_4 9 rfl rfl)
theorem dX0_takeOut_105 : decode cX0_takeOut 105 = .ok (.iload 5, 2) := dk_21 5 (dk_at dksX0_takeOut_4 11 rfl rfl)
theorem dX0_takeOut_107 : decode cX0_takeOut 107 = .ok (.iload 4, 2) := dk_21 4 (dk_at dksX0_takeOut_4 13 rfl rfl)
theorem dX0_takeOut_109 : decode cX0_takeOut 109 = .ok (.if_icmp .ge 103, 3) := dk_162 0 103 (dk_at dksX0_takeOut_4 15 rfl rfl)
theorem dX0_takeOut_112 : decode cX0_takeOut 112 = .ok (.iload 5, 2) := dk_21 5 (dk_at dksX0_takeOut_4 18 rfl rfl)
theorem dX0_takeOut_114 : decode cX0_takeOut 114 = .ok (.iconst 1, 1) := dk_4 (dk_at dksX0_takeOut_4 20 rfl rfl)
theorem dX0_takeOut_115 : decode cX0_takeOut 115 = .ok (.iadd, 1) := dk_96 (dk_at dksX0_takeOut_4 21 rfl rfl)
theorem dX0_takeOut_116 : decode cX0_takeOut 116 = .ok (.istore 6, 2) := dk_54 6 (dk_at dksX0_takeOut_4 22 rfl rfl)
theorem dX0_takeOut_118 : decode cX0_takeOut 118 = .ok (.iload 6, 2) := dk_21 6 (dk_at dksX0_takeOut_5 0 rfl rfl)
theorem dX0_takeOut_120 : decode cX0_takeOut 120 = .ok (.iload 4, 2) := dk_21 4 (dk_at dksX0_takeOut_5 2 rfl rfl)
theorem dX0_takeOut_122 : decode cX0_takeOut 122 = .ok (.if_icmp .ge 84, 3) := dk_162 0 84 (dk_at dksX0_takeOut_5 4 rfl rfl)
theorem dX0_takeOut_125 : decode cX0_takeOut 125 = .ok (.aload_n 0, 1) := dk_42 (dk_at dksX0_takeOut_5 7 rfl rfl)
theorem dX0_takeOut_126 : decode cX0_takeOut 126 = .ok (.getfield 34, 3) := dk_180 0 34 (dk_at dksX0_takeOut_5 8 rfl rfl)
theorem dX0_takeOut_129 : decode cX0_takeOut 129 = .ok (.aload_n 0, 1) := dk_42 (dk_at dksX0_takeOut_5 11 rfl rfl)
theorem dX0_takeOut_130 : decode cX0_takeOut 130 = .ok (.getfield 96, 3) := dk_180 0 96 (dk_at dksX0_takeOut_5 12 rfl rfl)
theorem dX0_takeOut_133 : decode cX0_takeOut 133 = .ok (.getfield 305, 3) := dk_180 1 49 (dk_at dksX0_takeOut_5 15 rfl rfl)
theorem dX0_takeOut_136 : decode cX0_takeOut 136 = .ok (.iload 5, 2) := dk_21 5 (dk_at dksX0_takeOut_5 18 rfl rfl)
theorem dX0_takeOut_138 : decode cX0_takeOut 138 = .ok (.aaload, 1) := dk_50 (dk_at dksX0_takeOut_5 20 rfl rfl)
theorem dX0_takeOut_139 : decode cX0_takeOut 139 = .ok (.aload_n 0, 1) := dk_42 (dk_at dksX0_takeOut_5 21 rfl rfl)
theorem dX0_takeOut_140 : decode cX0_takeOut 140 = .ok (.getfield 96, 3) := dk_180 0 96 (dk_at dksX0_takeOut_6 0 rfl rfl)
theorem dX0_takeOut_143 : decode cX0_takeOut 143 = .ok (.getfield 305, 3) := dk_180 1 49 (dk_at dksX0_takeOut_6 3 rfl rfl)
theorem dX0_takeOut_146 : decode cX0_takeOut 146 = .ok (.iload 6, 2) := dk_21 6 (dk_at dksX0_takeOut_6 6 rfl rfl)
theorem dX0_takeOut_148 : decode cX0_takeOut 148 = .ok (.aaload, 1) := dk_50 (dk_at dksX0_takeOut_6 8 rfl rfl)
theorem dX0_takeOut_149 : decode cX0_takeOut 149 = .ok (.aload_n 0, 1) := dk_42 (dk_at dksX0_takeOut_6 9 rfl rfl)
theorem dX0_takeOut_150 : decode cX0_takeOut 150 = .ok (.getfield 63, 3) := dk_180 0 63 (dk_at dksX0_takeOut_6 10 rfl rfl)
theorem dX0_takeOut_153 : decode cX0_takeOut 153 = .ok (.invokevirtual 274, 3) := dk_182 1 18 (dk_at dksX0_takeOut_6 13 rfl rfl)
theorem dX0_takeOut_156 : decode cX0_takeOut 156 = .ok (.iconst 0, 1) := dk_3 (dk_at dksX0_takeOut_6 16 rfl rfl)
theorem dX0_takeOut_157 : decode cX0_takeOut 157 = .ok (.istore 7, 2) := dk_54 7 (dk_at dksX0_takeOut_6 17 rfl rfl)
theorem dX0_takeOut_159 : decode cX0_takeOut 159 = .ok (.iload 7, 2) := dk_21 7 (dk_at dksX0_takeOut_6 19 rfl rfl)
theorem dX0_takeOut_161 : decode cX0_takeOut 161 = .ok (.iload 4, 2) := dk_21 4 (dk_at dksX0_takeOut_6 21 rfl rfl)
theorem dX0_takeOut_163 : decode cX0_takeOut 163 = .ok (.if_icmp .ge 37, 3) := dk_162 0 37 (dk_at dksX0_takeOut_7 0 rfl rfl)
theorem dX0_takeOut_166 : decode cX0_takeOut 166 = .ok (.aload_n 0, 1) := dk_42 (dk_at dksX0_takeOut_7 3 rfl rfl)
theorem dX0_takeOut_167 : decode cX0_takeOut 167 = .ok (.getfield 30, 3) := dk_180 0 30 (dk_at dksX0_takeOut_7 4 rfl rfl)
theorem dX0_takeOut_170 : decode cX0_takeOut 170 = .ok (.iload 5, 2) := dk_21 5 (dk_at dksX0_takeOut_7 7 rfl rfl)
theorem dX0_takeOut_172 : decode cX0_takeOut 172 = .ok (.iload 6, 2) := dk_21 6 (dk_at dksX0_takeOut_7 9 rfl rfl)
theorem dX0_takeOut_174 : decode cX0_takeOut 174 = .ok (.iload 7, 2) := dk_21 7 (dk_at dksX0_takeOut_7 11 rfl rfl)
theorem dX0_takeOut_176 : decode cX0_takeOut 176 = .ok (.aload_n 0, 1) := dk_42 (dk_at dksX0_takeOut_7 13 rfl rfl)
theorem dX0_takeOut_177 : decode cX0_takeOut 177 = .ok (.getfield 63, 3) := dk_180 0 63 (dk_at dksX0_takeOut_7 14 rfl rfl)
theorem dX0_takeOut_180 : decode cX0_takeOut 180 = .ok (.aload_n 0, 1) := dk_42 (dk_at dksX0_takeOut_7 17 rfl rfl)
theorem dX0_takeOut_181 : decode cX0_takeOut 181 = .ok (.getfield 96, 3) := dk_180 0 96 (dk_at dksX0_takeOut_7 18 rfl rfl)
theorem dX0_takeOut_184 : decode cX0_takeOut 184 = .ok (.getfield 403, 3) := dk_180 1 147 (dk_at dksX0_takeOut_7 21 rfl rfl)
theorem dX0_takeOut_187 : decode cX0_takeOut 187 = .ok (.iload 7, 2) := dk_21 7 (dk_at dksX0_takeOut_8 0 rfl rfl)
theorem dX0_takeOut_189 : decode cX0_takeOut 189 = .ok (.iaload, 1) := dk_46 (dk_at dksX0_takeOut_8 2 rfl rfl)
theorem dX0_takeOut_190 : decode cX0_takeOut 190 = .ok (.iaload, 1) := dk_46 (dk_at dksX0_takeOut_8 3 rfl rfl)
theorem dX0_takeOut_191 : decode cX0_takeOut 191 = .ok (.invokevirtual 263, 3) := dk_182 1 7 (dk_at dksX0_takeOut_8 4 rfl rfl)
theorem dX0_takeOut_194 : decode cX0_takeOut 194 = .ok (.iinc 7 1, 3) := dk_132 7 1 (dk_at dksX0_takeOut_8 7 rfl rfl)
theorem dX0_takeOut_197 : decode cX0_takeOut 197 = .ok (.goto (-38), 3) := dk_167 255 218 (dk_at dksX0_takeOut_8 10 rfl rfl)
theorem dX0_takeOut_200 : decode cX0_takeOut 200 = .ok (.iinc 6 1, 3) := dk_132 6 1 (dk_at dksX0_takeOut_8 13 rfl rfl)
theorem dX0_takeOut_203 : decode cX0_takeOut 203 = .ok (.goto (-85), 3) := dk_167 255 171 (dk_at dksX0_takeOut_8 16 rfl rfl)
theorem dX0_takeOut_206 : decode cX0_takeOut 206 = .ok (.iinc 5 1, 3) := dk_132 5 1 (dk_at dksX0_takeOut_8 19 rfl rfl)
theorem dX0_takeOut_209 : decode cX0_takeOut 209 = .ok (.goto (-104), 3) := dk_167 255 152 (dk_at dksX0_takeOut_9 0 rfl rfl)
theorem dX0_takeOut_212 : decode cX0_takeOut 212 = .ok (.aload_n 0, 1) := dk_42 (dk_at dksX0_takeOut_9 3 rfl rfl)
theorem dX0_takeOut_213 : decode cX0_takeOut 213 = .ok (.iload 4, 2) := dk_21 4 (dk_at dksX0_takeOut_9 4 rfl rfl)
theorem dX0_takeOut_215 : decode cX0_takeOut 215 = .ok (.invokevirtual 235, 3) := dk_182 0 235 (dk_at dksX0_takeOut_9 6 rfl rfl)
theorem dX0_takeOut_218 : decode cX0_takeOut 218 = .ok (.ireturn, 1) := dk_172 (dk_at dksX0_takeOut_9 9 rfl rfl)
abbrev cX0_tables : ByteArray := prog_1_method_109_code
def dkwX0_tables_14 : List UInt8 := [172]
abbrev dktX0_tables_14 : List UInt8 := dkwX0_tables_14 ++ []
def dkwX0_tables_13 : List UInt8 := [132, 7, 1, 132, 8, 1, 167, 255, 70, 42, 29, 154, 0, 8, 21, 6, 167, 0, 5, 21, 7, 182, 0, 235]
abbrev dktX0_tables_13 : List UInt8 := dkwX0_tables_13 ++ dktX0_tables_14
def dkwX0_tables_12 : List UInt8 := [154, 0, 27, 29, 154, 0, 6, 167, 0, 20, 42, 180, 0, 133, 21, 7, 50, 42, 180, 0, 130, 182, 0, 231]
abbrev dktX0_tables_12 : List UInt8 := dkwX0_tables_12 ++ dktX0_tables_13
def dkwX0_tables_11 : List UInt8 := [50, 4, 182, 1, 211, 158, 0, 7, 4, 167, 0, 4, 3, 54, 10, 132, 11, 1, 167, 255, 210, 21, 10]
abbrev dktX0_tables_11 : List UInt8 := dkwX0_tables_11 ++ dktX0_tables_12
def dkwX0_tables_10 : List UInt8 := [162, 0, 45, 21, 10, 154, 0, 40, 29, 4, 160, 0, 35, 42, 42, 180, 0, 130, 42, 180, 0, 133, 21, 11]
abbrev dktX0_tables_10 : List UInt8 := dkwX0_tables_10 ++ dktX0_tables_11
def dkwX0_tables_9 : List UInt8 := [182, 1, 33, 154, 0, 6, 167, 0, 90, 132, 6, 1, 3, 54, 10, 3, 54, 11, 21, 11, 21, 7]
abbrev dktX0_tables_9 : List UInt8 := dkwX0_tables_9 ++ dktX0_tables_10
def dkwX0_tables_8 : List UInt8 := [132, 12, 1, 167, 255, 224, 132, 11, 1, 167, 255, 209, 132, 10, 1, 167, 255, 191, 42, 42, 180, 0, 130]
abbrev dktX0_tables_8 : List UInt8 := dkwX0_tables_8 ++ dktX0_tables_9
def dkwX0_tables_7 : List UInt8 := [42, 180, 0, 130, 21, 10, 21, 11, 21, 12, 21, 9, 27, 112, 182, 1, 7, 21, 9, 27, 108, 54, 9]
abbrev dktX0_tables_7 : List UInt8 := dkwX0_tables_7 ++ dktX0_tables_8
def dkwX0_tables_6 : List UInt8 := [162, 0, 65, 21, 10, 4, 96, 54, 11, 21, 11, 28, 162, 0, 47, 3, 54, 12, 21, 12, 28, 162, 0, 32]
abbrev dktX0_tables_6 : List UInt8 := dkwX0_tables_6 ++ dktX0_tables_7
def dkwX0_tables_5 : List UInt8 := [54, 7, 3, 54, 8, 21, 8, 21, 5, 162, 0, 185, 21, 8, 54, 9, 3, 54, 10, 21, 10, 28]
abbrev dktX0_tables_5 : List UInt8 := dkwX0_tables_5 ++ dktX0_tables_6
def dkwX0_tables_4 : List UInt8 := [54, 6, 21, 6, 158, 0, 15, 21, 5, 27, 104, 54, 5, 132, 6, 255, 167, 255, 242, 3, 54, 6, 3]
abbrev dktX0_tables_4 : List UInt8 := dkwX0_tables_4 ++ dktX0_tables_5
def dkwX0_tables_3 : List UInt8 := [27, 181, 0, 253, 42, 180, 0, 130, 28, 181, 0, 196, 4, 54, 5, 28, 28, 104, 28, 4, 100, 104, 5, 108]
abbrev dktX0_tables_3 : List UInt8 := dkwX0_tables_3 ++ dktX0_tables_4
def dkwX0_tables_2 : List UInt8 := [54, 4, 21, 4, 154, 0, 9, 42, 8, 182, 0, 171, 172, 42, 180, 0, 130, 182, 2, 2, 42, 180, 0, 130]
abbrev dktX0_tables_2 : List UInt8 := dkwX0_tables_2 ++ dktX0_tables_3
def dkwX0_tables_1 : List UInt8 := [20, 2, 7, 184, 1, 64, 153, 0, 16, 29, 155, 0, 12, 29, 4, 163, 0, 7, 4, 167, 0, 4, 3]
abbrev dktX0_tables_1 : List UInt8 := dkwX0_tables_1 ++ dktX0_tables_2
def dkwX0_tables_0 : List UInt8 := [27, 5, 159, 0, 8, 27, 6, 160, 0, 39, 28, 133, 10, 27, 5, 160, 0, 9, 20, 2, 5, 167, 0, 6]
abbrev dktX0_tables_0 : List UInt8 := dkwX0_tables_0 ++ dktX0_tables_1
theorem dksX0_tables_0 : cX0_tables.data.toList.drop 0 = dktX0_tables_0 := by decide +kernel
theorem dksX0_tables_1 : cX0_tables.data.toList.drop 24 = dktX0_tables_1 := dk_seg dksX0_tables_0 24 rfl rfl
theorem dksX0_tables_2 : cX0_tables.data.toList.drop 47 = dktX0_tables_2 := dk_seg dksX0_tables_1 23 rfl rfl
theorem dksX0_tables_3 : cX0_tables.data.toList.drop 71 = dktX0_tables_3 := dk_seg dksX0_tables_2 24 rfl rfl
theorem dksX0_tables_4 : cX0_tables.data.toList.drop 95 = dktX0_tables_4 := dk_seg dksX0_tables_3 24 rfl rfl
theorem dksX0_tables_5 : cX0_tables.data.toList.drop 118 = dktX0_tables_5 := dk_seg dksX0_tables_4 23 rfl rfl
theorem dksX0_tables_6 : cX0_tables.data.toList.drop 140 = dktX0_tables_6 := dk_seg dksX0_tables_5 22 rfl rfl
theorem dksX0_tables_7 : cX0_tables.data.toList.drop 164 = dktX0_tables_7 := dk_seg dksX0_tables_6 24 rfl rfl
theorem dksX0_tables_8 : cX0_tables.data.toList.drop 187 = dktX0_tables_8 := dk_seg dksX0_tables_7 23 rfl rfl
theorem dksX0_tables_9 : cX0_tables.data.toList.drop 210 = dktX0_tables_9 := dk_seg dksX0_tables_8 23 rfl rfl
theorem dksX0_tables_10 : cX0_tables.data.toList.drop 232 = dktX0_tables_10 := dk_seg dksX0_tables_9 22 rfl rfl
theorem dksX0_tables_11 : cX0_tables.data.toList.drop 256 = dktX0_tables_11 := dk_seg dksX0_tables_10 24 rfl rfl
theorem dksX0_tables_12 : cX0_tables.data.toList.drop 279 = dktX0_tables_12 := dk_seg dksX0_tables_11 23 rfl rfl
theorem dksX0_tables_13 : cX0_tables.data.toList.drop 303 = dktX0_tables_13 := dk_seg dksX0_tables_12 24 rfl rfl
theorem dksX0_tables_14 : cX0_tables.data.toList.drop 327 = dktX0_tables_14 := dk_seg dksX0_tables_13 24 rfl rfl
theorem dX0_tables_0 : decode cX0_tables 0 = .ok (.iload_n 1, 1) := dk_27 (dk_at dksX0_tables_0 0 rfl rfl)
theorem dX0_tables_1 : decode cX0_tables 1 = .ok (.iconst 2, 1) := dk_5 (dk_at dksX0_tables_0 1 rfl rfl)
theorem dX0_tables_2 : decode cX0_tables 2 = .ok (.if_icmp .eq 8, 3) := dk_159 0 8 (dk_at dksX0_tables_0 2 rfl rfl)
theorem dX0_tables_5 : decode cX0_tables 5 = .ok (.iload_n 1, 1) := dk_27 (dk_at dksX0_tables_0 5 rfl rfl)
theorem dX0_tables_6 : decode cX0_tables 6 = .ok (.iconst 3, 1) := dk_6 (dk_at dksX0_tables_0 6 rfl rfl)
theorem dX0_tables_7 : decode cX0_tables 7 = .ok (.if_icmp .ne 39, 3) := dk_160 0 39 (dk_at dksX0_tables_0 7 rfl rfl)
theorem dX0_tables_10 : decode cX0_tables 10 = .ok (.iload_n 2, 1) := dk_28 (dk_at dksX0_tables_0 10 rfl rfl)
theorem dX0_tables_11 : decode cX0_tables 11 = .ok (.i2l, 1) := dk_133 (dk_at dksX0_tables_0 11 rfl rfl)
theorem dX0_tables_12 : decode cX0_tables 12 = .ok (.lconst 1, 1) := dk_10 (dk_at dksX0_tables_0 12 rfl rfl)
theorem dX0_tables_13 : decode cX0_tables 13 = .ok (.iload_n 1, 1) := dk_27 (dk_at dksX0_tables_0 13 rfl rfl)
theorem dX0_tables_14 : decode cX0_tables 14 = .ok (.iconst 2, 1) := dk_5 (dk_at dksX0_tables_0 14 rfl rfl)
theorem dX0_tables_15 : decode cX0_tables 15 = .ok (.if_icmp .ne 9, 3) := dk_160 0 9 (dk_at dksX0_tables_0 15 rfl rfl)
theorem dX0_tables_18 : decode cX0_tables 18 = .ok (.ldc2_w 517, 3) := dk_20 2 5 (dk_at dksX0_tables_0 18 rfl rfl)
theorem dX0_tables_21 : decode cX0_tables 21 = .ok (.goto 6, 3) := dk_167 0 6 (dk_at dksX0_tables_0 21 rfl rfl)
theorem dX0_tables_24 : decode cX0_tables 24 = .ok (.ldc2_w 519, 3) := dk_20 2 7 (dk_at dksX0_tables_1 0 rfl rfl)
theorem dX0_tables_27 : decode cX0_tables 27 = .ok (.invokestatic 320, 3) := dk_184 1 64 (dk_at dksX0_tables_1 3 rfl rfl)
theorem dX0_tables_30 : decode cX0_tables 30 = .ok (.ifCond .eq 16, 3) := dk_153 0 16 (dk_at dksX0_tables_1 6 rfl rfl)
theorem dX0_tables_33 : decode cX0_tables 33 = .ok (.iload_n 3, 1) := dk_29 (dk_at dksX0_tables_1 9 rfl rfl)
theorem dX0_tables_34 : decode cX0_tables 34 = .ok (.ifCond .lt 12, 3) := dk_155 0 12 (dk_at dksX0_tables_1 10 rfl rfl)
theorem dX0_tables_37 : decode cX0_tables 37 = .ok (.iload_n 3, 1) := dk_29 (dk_at dksX0_tables_1 13 rfl rfl)
theorem dX0_tables_38 : decode cX0_tables 38 = .ok (.iconst 1, 1) := dk_4 (dk_at dksX0_tables_1 14 rfl rfl)
theorem dX0_tables_39 : decode cX0_tables 39 = .ok (.if_icmp .gt 7, 3) := dk_163 0 7 (dk_at dksX0_tables_1 15 rfl rfl)
theorem dX0_tables_42 : decode cX0_tables 42 = .ok (.iconst 1, 1) := dk_4 (dk_at dksX0_tables_1 18 rfl rfl)
theorem dX0_tables_43 : decode cX0_tables 43 = .ok (.goto 4, 3) := dk_167 0 4 (dk_at dksX0_tables_1 19 rfl rfl)
theorem dX0_tables_46 : decode cX0_tables 46 = .ok (.iconst 0, 1) := dk_3 (dk_at dksX0_tables_1 22 rfl rfl)
theorem dX0_tables_47 : decode cX0_tables 47 = .ok (.istore 4, 2) := dk_54 4 (dk_at dksX0_tables_2 0 rfl rfl)
theorem dX0_tables_49 : decode cX0_tables 49 = .ok (.iload 4, 2) := dk_21 4 (dk_at dksX0_tables_2 2 rfl rfl)
theorem dX0_tables_51 : decode cX0_tables 51 = .ok (.ifCond .ne 9, 3) := dk_154 0 9 (dk_at dksX0_tables_2 4 rfl rfl)
theorem dX0_tables_54 : decode cX0_tables 54 = .ok (.aload_n 0, 1) := dk_42 (dk_at dksX0_tables_2 7 rfl rfl)
theorem dX0_tables_55 : decode cX0_tables 55 = .ok (.iconst 5, 1) := dk_8 (dk_at dksX0_tables_2 8 rfl rfl)
theorem dX0_tables_56 : decode cX0_tables 56 = .ok (.invokevirtual 171, 3) := dk_182 0 171 (dk_at dksX0_tables_2 9 rfl rfl)
theorem dX0_tables_59 : decode cX0_tables 59 = .ok (.ireturn, 1) := dk_172 (dk_at dksX0_tables_2 12 rfl rfl)
theorem dX0_tables_60 : decode cX0_tables 60 = .ok (.aload_n 0, 1) := dk_42 (dk_at dksX0_tables_2 13 rfl rfl)
theorem dX0_tables_61 : decode cX0_tables 61 = .ok (.getfield 130, 3) := dk_180 0 130 (dk_at dksX0_tables_2 14 rfl rfl)
theorem dX0_tables_64 : decode cX0_tables 64 = .ok (.invokevirtual 514, 3) := dk_182 2 2 (dk_at dksX0_tables_2 17 rfl rfl)
theorem dX0_tables_67 : decode cX0_tables 67 = .ok (.aload_n 0, 1) := dk_42 (dk_at dksX0_tables_2 20 rfl rfl)
theorem dX0_tables_68 : decode cX0_tables 68 = .ok (.getfield 130, 3) := dk_180 0 130 (dk_at dksX0_tables_2 21 rfl rfl)
theorem dX0_tables_71 : decode cX0_tables 71 = .ok (.iload_n 1, 1) := dk_27 (dk_at dksX0_tables_3 0 rfl rfl)
theorem dX0_tables_72 : decode cX0_tables 72 = .ok (.putfield 253, 3) := dk_181 0 253 (dk_at dksX0_tables_3 1 rfl rfl)
theorem dX0_tables_75 : decode cX0_tables 75 = .ok (.aload_n 0, 1) := dk_42 (dk_at dksX0_tables_3 4 rfl rfl)
theorem dX0_tables_76 : decode cX0_tables 76 = .ok (.getfield 130, 3) := dk_180 0 130 (dk_at dksX0_tables_3 5 rfl rfl)
theorem dX0_tables_79 : decode cX0_tables 79 = .ok (.iload_n 2, 1) := dk_28 (dk_at dksX0_tables_3 8 rfl rfl)
theorem dX0_tables_80 : decode cX0_tables 80 = .ok (.putfield 196, 3) := dk_181 0 196 (dk_at dksX0_tables_3 9 rfl rfl)
theorem dX0_tables_83 : decode cX0_tables 83 = .ok (.iconst 1, 1) := dk_4 (dk_at dksX0_tables_3 12 rfl rfl)
theorem dX0_tables_84 : decode cX0_tables 84 = .ok (.istore 5, 2) := dk_54 5 (dk_at dksX0_tables_3 13 rfl rfl)
theorem dX0_tables_86 : decode cX0_tables 86 = .ok (.iload_n 2, 1) := dk_28 (dk_at dksX0_tables_3 15 rfl rfl)
theorem dX0_tables_87 : decode cX0_tables 87 = .ok (.iload_n 2, 1) := dk_28 (dk_at dksX0_tables_3 16 rfl rfl)
theorem dX0_tables_88 : decode cX0_tables 88 = .ok (.imul, 1) := dk_104 (dk_at dksX0_tables_3 17 rfl rfl)
theorem dX0_tables_89 : decode cX0_tables 89 = .ok (.iload_n 2, 1) := dk_28 (dk_at dksX0_tables_3 18 rfl rfl)
theorem dX0_tables_90 : decode cX0_tables 90 = .ok (.iconst 1, 1) := dk_4 (dk_at dksX0_tables_3 19 rfl rfl)
theorem dX0_tables_91 : decode cX0_tables 91 = .ok (.isub, 1) := dk_100 (dk_at dksX0_tables_3 20 rfl rfl)
theorem dX0_tables_92 : decode cX0_tables 92 = .ok (.imul, 1) := dk_104 (dk_at dksX0_tables_3 21 rfl rfl)
theorem dX0_tables_93 : decode cX0_tables 93 = .ok (.iconst 2, 1) := dk_5 (dk_at dksX0_tables_3 22 rfl rfl)
theorem dX0_tables_94 : decode cX0_tables 94 = .ok (.idiv, 1) := dk_108 (dk_at dksX0_tables_3 23 rfl rfl)
theorem dX0_tables_95 : decode cX0_tables 95 = .ok (.istore 6, 2) := dk_54 6 (dk_at dksX0_tables_4 0 rfl rfl)
theorem dX0_tables_97 : decode cX0_tables 97 = .ok (.iload 6, 2) := dk_21 6 (dk_at dksX0_tables_4 2 rfl rfl)
theorem dX0_tables_99 : decode cX0_tables 99 = .ok (.ifCond .le 15, 3) := dk_158 0 15 (dk_at dksX0_tables_4 4 rfl rfl)
theorem dX0_tables_102 : decode cX0_tables 102 = .ok (.iload 5, 2) := dk_21 5 (dk_at dksX0_tables_4 7 rfl rfl)
theorem dX0_tables_104 : decode cX0_tables 104 = .ok (.iload_n 1, 1) := dk_27 (dk_at dksX0_tables_4 9 rfl rfl)
theorem dX0_tables_105 : decode cX0_tables 105 = .ok (.imul, 1) := dk_104 (dk_at dksX0_tables_4 10 rfl rfl)
theorem dX0_tables_106 : decode cX0_tables 106 = .ok (.istore 5, 2) := dk_54 5 (dk_at dksX0_tables_4 11 rfl rfl)
theorem dX0_tables_108 : decode cX0_tables 108 = .ok (.iinc 6 (-1), 3) := dk_132 6 255 (dk_at dksX0_tables_4 13 rfl rfl)
theorem dX0_tables_111 : decode cX0_tables 111 = .ok (.goto (-14), 3) := dk_167 255 242 (dk_at dksX0_tables_4 16 rfl rfl)
theorem dX0_tables_114 : decode cX0_tables 114 = .ok (.iconst 0, 1) := dk_3 (dk_at dksX0_tables_4 19 rfl rfl)
theorem dX0_tables_115 : decode cX0_tables 115 = .ok (.istore 6, 2) := dk_54 6 (dk_at dksX0_tables_4 20 rfl rfl)
theorem dX0_tables_117 : decode cX0_tables 117 = .ok (.iconst 0, 1) := dk_3 (dk_at dksX0_tables_4 22 rfl rfl)
theorem dX0_tables_118 : decode cX0_tables 118 = .ok (.istore 7, 2) := dk_54 7 (dk_at dksX0_tables_5 0 rfl rfl)
theorem dX0_tables_120 : decode cX0_tables 120 = .ok (.iconst 0, 1) := dk_3 (dk_at dksX0_tables_5 2 rfl rfl)
theorem dX0_tables_121 : decode cX0_tables 121 = .ok (.istore 8, 2) := dk_54 8 (dk_at dksX0_tables_5 3 rfl rfl)
theorem dX0_tables_123 : decode cX0_tables 123 = .ok (.iload 8, 2) := dk_21 8 (dk_at dksX0_tables_5 5 rfl rfl)
theorem dX0_tables_125 : decode cX0_tables 125 = .ok (.iload 5, 2) := dk_21 5 (dk_at dksX0_tables_5 7 rfl rfl)
theorem dX0_tables_127 : decode cX0_tables 127 = .ok (.if_icmp .ge 185, 3) := dk_162 0 185 (dk_at dksX0_tables_5 9 rfl rfl)
theorem dX0_tables_130 : decode cX0_tables 130 = .ok (.iload 8, 2) := dk_21 8 (dk_at dksX0_tables_5 12 rfl rfl)
theorem dX0_tables_132 : decode cX0_tables 132 = .ok (.istore 9, 2) := dk_54 9 (dk_at dksX0_tables_5 14 rfl rfl)
theorem dX0_tables_134 : decode cX0_tables 134 = .ok (.iconst 0, 1) := dk_3 (dk_at dksX0_tables_5 16 rfl rfl)
theorem dX0_tables_135 : decode cX0_tables 135 = .ok (.istore 10, 2) := dk_54 10 (dk_at dksX0_tables_5 17 rfl rfl)
theorem dX0_tables_137 : decode cX0_tables 137 = .ok (.iload 10, 2) := dk_21 10 (dk_at dksX0_tables_5 19 rfl rfl)
theorem dX0_tables_139 : decode cX0_tables 139 = .ok (.iload_n 2, 1) := dk_28 (dk_at dksX0_tables_5 21 rfl rfl)
theorem dX0_tables_140 : decode cX0_tables 140 = .ok (.if_icmp .ge 65, 3) := dk_162 0 65 (dk_at dksX0_tables_6 0 rfl rfl)
theorem dX0_tables_143 : decode cX0_tables 143 = .ok (.iload 10, 2) := dk_21 10 (dk_at dksX0_tables_6 3 rfl rfl)
theorem dX0_tables_145 : decode cX0_tables 145 = .ok (.iconst 1, 1) := dk_4 (dk_at dksX0_tables_6 5 rfl rfl)
theorem dX0_tables_146 : decode cX0_tables 146 = .ok (.iadd, 1) := dk_96 (dk_at dksX0_tables_6 6 rfl rfl)
theorem dX0_tables_147 : decode cX0_tables 147 = .ok (.istore 11, 2) := dk_54 11 (dk_at dksX0_tables_6 7 rfl rfl)
theorem dX0_tables_149 : decode cX0_tables 149 = .ok (.iload 11, 2) := dk_21 11 (dk_at dksX0_tables_6 9 rfl rfl)
theorem dX0_tables_151 : decode cX0_tables 151 = .ok (.iload_n 2, 1) := dk_28 (dk_at dksX0_tables_6 11 rfl rfl)
theorem dX0_tables_152 : decode cX0_tables 152 = .ok (.if_icmp .ge 47, 3) := dk_162 0 47 (dk_at dksX0_tables_6 12 rfl rfl)
theorem dX0_tables_155 : decode cX0_tables 155 = .ok (.iconst 0, 1) := dk_3 (dk_at dksX0_tables_6 15 rfl rfl)
theorem dX0_tables_156 : decode cX0_tables 156 = .ok (.istore 12, 2) := dk_54 12 (dk_at dksX0_tables_6 16 rfl rfl)
theorem dX0_tables_158 : decode cX0_tables 158 = .ok (.iload 12, 2) := dk_21 12 (dk_at dksX0_tables_6 18 rfl rfl)
theorem dX0_tables_160 : decode cX0_tables 160 = .ok (.iload_n 2, 1) := dk_28 (dk_at dksX0_tables_6 20 rfl rfl)
theorem dX0_tables_161 : decode cX0_tables 161 = .ok (.if_icmp .ge 32, 3) := dk_162 0 32 (dk_at dksX0_tables_6 21 rfl rfl)
theorem dX0_tables_164 : decode cX0_tables 164 = .ok (.aload_n 0, 1) := dk_42 (dk_at dksX0_tables_7 0 rfl rfl)
theorem dX0_tables_165 : decode cX0_tables 165 = .ok (.getfield 130, 3) := dk_180 0 130 (dk_at dksX0_tables_7 1 rfl rfl)
theorem dX0_tables_168 : decode cX0_tables 168 = .ok (.iload 10, 2) := dk_21 10 (dk_at dksX0_tables_7 4 rfl rfl)
theorem dX0_tables_170 : decode cX0_tables 170 = .ok (.iload 11, 2) := dk_21 11 (dk_at dksX0_tables_7 6 rfl rfl)
theorem dX0_tables_172 : decode cX0_tables 172 = .ok (.iload 12, 2) := dk_21 12 (dk_at dksX0_tables_7 8 rfl rfl)
theorem dX0_tables_174 : decode cX0_tables 174 = .ok (.iload 9, 2) := dk_21 9 (dk_at dksX0_tables_7 10 rfl rfl)
theorem dX0_tables_176 : decode cX0_tables 176 = .ok (.iload_n 1, 1) := dk_27 (dk_at dksX0_tables_7 12 rfl rfl)
theorem dX0_tables_177 : decode cX0_tables 177 = .ok (.irem, 1) := dk_112 (dk_at dksX0_tables_7 13 rfl rfl)
theorem dX0_tables_178 : decode cX0_tables 178 = .ok (.invokevirtual 263, 3) := dk_182 1 7 (dk_at dksX0_tables_7 14 rfl rfl)
theorem dX0_tables_181 : decode cX0_tables 181 = .ok (.iload 9, 2) := dk_21 9 (dk_at dksX0_tables_7 17 rfl rfl)
theorem dX0_tables_183 : decode cX0_tables 183 = .ok (.iload_n 1, 1) := dk_27 (dk_at dksX0_tables_7 19 rfl rfl)
theorem dX0_tables_184 : decode cX0_tables 184 = .ok (.idiv, 1) := dk_108 (dk_at dksX0_tables_7 20 rfl rfl)
theorem dX0_tables_185 : decode cX0_tables 185 = .ok (.istore 9, 2) := dk_54 9 (dk_at dksX0_tables_7 21 rfl rfl)
theorem dX0_tables_187 : decode cX0_tables 187 = .ok (.iinc 12 1, 3) := dk_132 12 1 (dk_at dksX0_tables_8 0 rfl rfl)
theorem dX0_tables_190 : decode cX0_tables 190 = .ok (.goto (-32), 3) := dk_167 255 224 (dk_at dksX0_tables_8 3 rfl rfl)
theorem dX0_tables_193 : decode cX0_tables 193 = .ok (.iinc 11 1, 3) := dk_132 11 1 (dk_at dksX0_tables_8 6 rfl rfl)
theorem dX0_tables_196 : decode cX0_tables 196 = .ok (.goto (-47), 3) := dk_167 255 209 (dk_at dksX0_tables_8 9 rfl rfl)
theorem dX0_tables_199 : decode cX0_tables 199 = .ok (.iinc 10 1, 3) := dk_132 10 1 (dk_at dksX0_tables_8 12 rfl rfl)
theorem dX0_tables_202 : decode cX0_tables 202 = .ok (.goto (-65), 3) := dk_167 255 191 (dk_at dksX0_tables_8 15 rfl rfl)
theorem dX0_tables_205 : decode cX0_tables 205 = .ok (.aload_n 0, 1) := dk_42 (dk_at dksX0_tables_8 18 rfl rfl)
theorem dX0_tables_206 : decode cX0_tables 206 = .ok (.aload_n 0, 1) := dk_42 (dk_at dksX0_tables_8 19 rfl rfl)
theorem dX0_tables_207 : decode cX0_tables 207 = .ok (.getfield 130, 3) := dk_180 0 130 (dk_at dksX0_tables_8 20 rfl rfl)
theorem dX0_tables_210 : decode cX0_tables 210 = .ok (.invokevirtual 289, 3) := dk_182 1 33 (dk_at dksX0_tables_9 0 rfl rfl)
theorem dX0_tables_213 : decode cX0_tables 213 = .ok (.ifCond .ne 6, 3) := dk_154 0 6 (dk_at dksX0_tables_9 3 rfl rfl)
theorem dX0_tables_216 : decode cX0_tables 216 = .ok (.goto 90, 3) := dk_167 0 90 (dk_at dksX0_tables_9 6 rfl rfl)
theorem dX0_tables_219 : decode cX0_tables 219 = .ok (.iinc 6 1, 3) := dk_132 6 1 (dk_at dksX0_tables_9 9 rfl rfl)
theorem dX0_tables_222 : decode cX0_tables 222 = .ok (.iconst 0, 1) := dk_3 (dk_at dksX0_tables_9 12 rfl rfl)
theorem dX0_tables_223 : decode cX0_tables 223 = .ok (.istore 10, 2) := dk_54 10 (dk_at dksX0_tables_9 13 rfl rfl)
theorem dX0_tables_225 : decode cX0_tables 225 = .ok (.iconst 0, 1) := dk_3 (dk_at dksX0_tables_9 15 rfl rfl)
theorem dX0_tables_226 : decode cX0_tables 226 = .ok (.istore 11, 2) := dk_54 11 (dk_at dksX0_tables_9 16 rfl rfl)
theorem dX0_tables_228 : decode cX0_tables 228 = .ok (.iload 11, 2) := dk_21 11 (dk_at dksX0_tables_9 18 rfl rfl)
theorem dX0_tables_230 : decode cX0_tables 230 = .ok (.iload 7, 2) := dk_21 7 (dk_at dksX0_tables_9 20 rfl rfl)
theorem dX0_tables_232 : decode cX0_tables 232 = .ok (.if_icmp .ge 45, 3) := dk_162 0 45 (dk_at dksX0_tables_10 0 rfl rfl)
theorem dX0_tables_235 : decode cX0_tables 235 = .ok (.iload 10, 2) := dk_21 10 (dk_at dksX0_tables_10 3 rfl rfl)
theorem dX0_tables_237 : decode cX0_tables 237 = .ok (.ifCond .ne 40, 3) := dk_154 0 40 (dk_at dksX0_tables_10 5 rfl rfl)
theorem dX0_tables_240 : decode cX0_tables 240 = .ok (.iload_n 3, 1) := dk_29 (dk_at dksX0_tables_10 8 rfl rfl)
theorem dX0_tables_241 : decode cX0_tables 241 = .ok (.iconst 1, 1) := dk_4 (dk_at dksX0_tables_10 9 rfl rfl)
theorem dX0_tables_242 : decode cX0_tables 242 = .ok (.if_icmp .ne 35, 3) := dk_160 0 35 (dk_at dksX0_tables_10 10 rfl rfl)
theorem dX0_tables_245 : decode cX0_tables 245 = .ok (.aload_n 0, 1) := dk_42 (dk_at dksX0_tables_10 13 rfl rfl)
theorem dX0_tables_246 : decode cX0_tables 246 = .ok (.aload_n 0, 1) := dk_42 (dk_at dksX0_tables_10 14 rfl rfl)
theorem dX0_tables_247 : decode cX0_tables 247 = .ok (.getfield 130, 3) := dk_180 0 130 (dk_at dksX0_tables_10 15 rfl rfl)
theorem dX0_tables_250 : decode cX0_tables 250 = .ok (.aload_n 0, 1) := dk_42 (dk_at dksX0_tables_10 18 rfl rfl)
theorem dX0_tables_251 : decode cX0_tables 251 = .ok (.getfield 133, 3) := dk_180 0 133 (dk_at dksX0_tables_10 19 rfl rfl)
theorem dX0_tables_254 : decode cX0_tables 254 = .ok (.iload 11, 2) := dk_21 11 (dk_at dksX0_tables_10 22 rfl rfl)
theorem dX0_tables_256 : decode cX0_tables 256 = .ok (.aaload, 1) := dk_50 (dk_at dksX0_tables_11 0 rfl rfl)
theorem dX0_tables_257 : decode cX0_tables 257 = .ok (.iconst 1, 1) := dk_4 (dk_at dksX0_tables_11 1 rfl rfl)
theorem dX0_tables_258 : decode cX0_tables 258 = .ok (.invokevirtual 467, 3) := dk_182 1 211 (dk_at dksX0_tables_11 2 rfl rfl)
theorem dX0_tables_261 : decode cX0_tables 261 = .ok (.ifCond .le 7, 3) := dk_158 0 7 (dk_at dksX0_tables_11 5 rfl rfl)
theorem dX0_tables_264 : decode cX0_tables 264 = .ok (.iconst 1, 1) := dk_4 (dk_at dksX0_tables_11 8 rfl rfl)
theorem dX0_tables_265 : decode cX0_tables 265 = .ok (.goto 4, 3) := dk_167 0 4 (dk_at dksX0_tables_11 9 rfl rfl)
theorem dX0_tables_268 : decode cX0_tables 268 = .ok (.iconst 0, 1) := dk_3 (dk_at dksX0_tables_11 12 rfl rfl)
theorem dX0_tables_269 : decode cX0_tables 269 = .ok (.istore 10, 2) := dk_54 10 (dk_at dksX0_tables_11 13 rfl rfl)
theorem dX0_tables_271 : decode cX0_tables 271 = .ok (.iinc 11 1, 3) := dk_132 11 1 (dk_at dksX0_tables_11 15 rfl rfl)
theorem dX0_tables_274 : decode cX0_tables 274 = .ok (.goto (-46), 3) := dk_167 255 210 (dk_at dksX0_tables_11 18 rfl rfl)
theorem dX0_tables_277 : decode cX0_tables 277 = .ok (.iload 10, 2) := dk_21 10 (dk_at dksX0_tables_11 21 rfl rfl)
theorem dX0_tables_279 : decode cX0_tables 279 = .ok (.ifCond .ne 27, 3) := dk_154 0 27 (dk_at dksX0_tables_12 0 rfl rfl)
theorem dX0_tables_282 : decode cX0_tables 282 = .ok (.iload_n 3, 1) := dk_29 (dk_at dksX0_tables_12 3 rfl rfl)
theorem dX0_tables_283 : decode cX0_tables 283 = .ok (.ifCond .ne 6, 3) := dk_154 0 6 (dk_at dksX0_tables_12 4 rfl rfl)
theorem dX0_tables_286 : decode cX0_tables 286 = .ok (.goto 20, 3) := dk_167 0 20 (dk_at dksX0_tables_12 7 rfl rfl)
theorem dX0_tables_289 : decode cX0_tables 289 = .ok (.aload_n 0, 1) := dk_42 (dk_at dksX0_tables_12 10 rfl rfl)
theorem dX0_tables_290 : decode cX0_tables 290 = .ok (.getfield 133, 3) := dk_180 0 133 (dk_at dksX0_tables_12 11 rfl rfl)
theorem dX0_tables_293 : decode cX0_tables 293 = .ok (.iload 7, 2) := dk_21 7 (dk_at dksX0_tables_12 14 rfl rfl)
theorem dX0_tables_295 : decode cX0_tables 295 = .ok (.aaload, 1) := dk_50 (dk_at dksX0_tables_12 16 rfl rfl)
theorem dX0_tables_296 : decode cX0_tables 296 = .ok (.aload_n 0, 1) := dk_42 (dk_at dksX0_tables_12 17 rfl rfl)
theorem dX0_tables_297 : decode cX0_tables 297 = .ok (.getfield 130, 3) := dk_180 0 130 (dk_at dksX0_tables_12 18 rfl rfl)
theorem dX0_tables_300 : decode cX0_tables 300 = .ok (.invokevirtual 231, 3) := dk_182 0 231 (dk_at dksX0_tables_12 21 rfl rfl)
theorem dX0_tables_303 : decode cX0_tables 303 = .ok (.iinc 7 1, 3) := dk_132 7 1 (dk_at dksX0_tables_13 0 rfl rfl)
theorem dX0_tables_306 : decode cX0_tables 306 = .ok (.iinc 8 1, 3) := dk_132 8 1 (dk_at dksX0_tables_13 3 rfl rfl)
theorem dX0_tables_309 : decode cX0_tables 309 = .ok (.goto (-186), 3) := dk_167 255 70 (dk_at dksX0_tables_13 6 rfl rfl)
theorem dX0_tables_312 : decode cX0_tables 312 = .ok (.aload_n 0, 1) := dk_42 (dk_at dksX0_tables_13 9 rfl rfl)
theorem dX0_tables_313 : decode cX0_tables 313 = .ok (.iload_n 3, 1) := dk_29 (dk_at dksX0_tables_13 10 rfl rfl)
theorem dX0_tables_314 : decode cX0_tables 314 = .ok (.ifCond .ne 8, 3) := dk_154 0 8 (dk_at dksX0_tables_13 11 rfl rfl)
theorem dX0_tables_317 : decode cX0_tables 317 = .ok (.iload 6, 2) := dk_21 6 (dk_at dksX0_tables_13 14 rfl rfl)
theorem dX0_tables_319 : decode cX0_tables 319 = .ok (.goto 5, 3) := dk_167 0 5 (dk_at dksX0_tables_13 16 rfl rfl)
theorem dX0_tables_322 : decode cX0_tables 322 = .ok (.iload 7, 2) := dk_21 7 (dk_at dksX0_tables_13 19 rfl rfl)
theorem dX0_tables_324 : decode cX0_tables 324 = .ok (.invokevirtual 235, 3) := dk_182 0 235 (dk_at dksX0_tables_13 21 rfl rfl)
theorem dX0_tables_327 : decode cX0_tables 327 = .ok (.ireturn, 1) := dk_172 (dk_at dksX0_tables_14 0 rfl rfl)
abbrev cX0_run : ByteArray := prog_1_method_114_code
def dkwX0_run_8 : List UInt8 := [42, 42, 180, 2, 37, 182, 0, 235, 172]
abbrev dktX0_run_8 : List UInt8 := dkwX0_run_8 ++ []
def dkwX0_run_7 : List UInt8 := [167, 255, 121, 42, 42, 180, 2, 34, 181, 2, 52, 42, 42, 180, 2, 40, 181, 2, 55, 42, 4, 181, 2, 58]
abbrev dktX0_run_7 : List UInt8 := dkwX0_run_7 ++ dktX0_run_8
def dkwX0_run_6 : List UInt8 := [44, 182, 2, 47, 154, 0, 12, 44, 180, 2, 28, 4, 96, 167, 0, 6, 27, 4, 96, 182, 2, 49, 60]
abbrev dktX0_run_6 : List UInt8 := dkwX0_run_6 ++ dktX0_run_7
def dkwX0_run_5 : List UInt8 := [16, 13, 160, 0, 11, 44, 44, 180, 2, 14, 181, 2, 31, 42, 44, 180, 2, 25, 16, 12, 160, 0, 20, 42]
abbrev dktX0_run_5 : List UInt8 := dkwX0_run_5 ++ dktX0_run_6
def dkwX0_run_4 : List UInt8 := [180, 2, 34, 42, 44, 182, 2, 43, 153, 0, 7, 3, 167, 0, 4, 4, 96, 181, 2, 34, 44, 180, 2, 25]
abbrev dktX0_run_4 : List UInt8 := dkwX0_run_4 ++ dktX0_run_5
def dkwX0_run_3 : List UInt8 := [42, 89, 180, 2, 37, 4, 96, 181, 2, 37, 44, 180, 2, 25, 16, 14, 160, 0, 6, 167, 0, 79, 42, 89]
abbrev dktX0_run_3 : List UInt8 := dkwX0_run_3 ++ dktX0_run_4
def dkwX0_run_2 : List UInt8 := [180, 2, 37, 17, 1, 44, 160, 0, 11, 42, 4, 181, 2, 40, 167, 255, 226, 42, 180, 0, 242, 27, 50, 77]
abbrev dktX0_run_2 : List UInt8 := dkwX0_run_2 ++ dktX0_run_3
def dkwX0_run_1 : List UInt8 := [42, 3, 181, 2, 40, 3, 60, 27, 42, 180, 0, 249, 162, 0, 133, 42, 180, 2, 40, 154, 0, 126, 42]
abbrev dktX0_run_1 : List UInt8 := dkwX0_run_1 ++ dktX0_run_2
def dkwX0_run_0 : List UInt8 := [42, 180, 0, 242, 199, 0, 10, 42, 16, 8, 182, 0, 171, 172, 42, 3, 181, 2, 34, 42, 3, 181, 2, 37]
abbrev dktX0_run_0 : List UInt8 := dkwX0_run_0 ++ dktX0_run_1
theorem dksX0_run_0 : cX0_run.data.toList.drop 0 = dktX0_run_0 := by decide +kernel
theorem dksX0_run_1 : cX0_run.data.toList.drop 24 = dktX0_run_1 := dk_seg dksX0_run_0 24 rfl rfl
theorem dksX0_run_2 : cX0_run.data.toList.drop 47 = dktX0_run_2 := dk_seg dksX0_run_1 23 rfl rfl
theorem dksX0_run_3 : cX0_run.data.toList.drop 71 = dktX0_run_3 := dk_seg dksX0_run_2 24 rfl rfl
theorem dksX0_run_4 : cX0_run.data.toList.drop 95 = dktX0_run_4 := dk_seg dksX0_run_3 24 rfl rfl
theorem dksX0_run_5 : cX0_run.data.toList.drop 119 = dktX0_run_5 := dk_seg dksX0_run_4 24 rfl rfl
theorem dksX0_run_6 : cX0_run.data.toList.drop 143 = dktX0_run_6 := dk_seg dksX0_run_5 24 rfl rfl
theorem dksX0_run_7 : cX0_run.data.toList.drop 166 = dktX0_run_7 := dk_seg dksX0_run_6 23 rfl rfl
theorem dksX0_run_8 : cX0_run.data.toList.drop 190 = dktX0_run_8 := dk_seg dksX0_run_7 24 rfl rfl
theorem dX0_run_0 : decode cX0_run 0 = .ok (.aload_n 0, 1) := dk_42 (dk_at dksX0_run_0 0 rfl rfl)
theorem dX0_run_1 : decode cX0_run 1 = .ok (.getfield 242, 3) := dk_180 0 242 (dk_at dksX0_run_0 1 rfl rfl)
theorem dX0_run_4 : decode cX0_run 4 = .ok (.ifnonnull 10, 3) := dk_199 0 10 (dk_at dksX0_run_0 4 rfl rfl)
theorem dX0_run_7 : decode cX0_run 7 = .ok (.aload_n 0, 1) := dk_42 (dk_at dksX0_run_0 7 rfl rfl)
theorem dX0_run_8 : decode cX0_run 8 = .ok (.bipush 8, 2) := dk_16 8 (dk_at dksX0_run_0 8 rfl rfl)
theorem dX0_run_10 : decode cX0_run 10 = .ok (.invokevirtual 171, 3) := dk_182 0 171 (dk_at dksX0_run_0 10 rfl rfl)
theorem dX0_run_13 : decode cX0_run 13 = .ok (.ireturn, 1) := dk_172 (dk_at dksX0_run_0 13 rfl rfl)
theorem dX0_run_14 : decode cX0_run 14 = .ok (.aload_n 0, 1) := dk_42 (dk_at dksX0_run_0 14 rfl rfl)
theorem dX0_run_15 : decode cX0_run 15 = .ok (.iconst 0, 1) := dk_3 (dk_at dksX0_run_0 15 rfl rfl)
theorem dX0_run_16 : decode cX0_run 16 = .ok (.putfield 546, 3) := dk_181 2 34 (dk_at dksX0_run_0 16 rfl rfl)
theorem dX0_run_19 : decode cX0_run 19 = .ok (.aload_n 0, 1) := dk_42 (dk_at dksX0_run_0 19 rfl rfl)
theorem dX0_run_20 : decode cX0_run 20 = .ok (.iconst 0, 1) := dk_3 (dk_at dksX0_run_0 20 rfl rfl)
theorem dX0_run_21 : decode cX0_run 21 = .ok (.putfield 549, 3) := dk_181 2 37 (dk_at dksX0_run_0 21 rfl rfl)
theorem dX0_run_24 : decode cX0_run 24 = .ok (.aload_n 0, 1) := dk_42 (dk_at dksX0_run_1 0 rfl rfl)
theorem dX0_run_25 : decode cX0_run 25 = .ok (.iconst 0, 1) := dk_3 (dk_at dksX0_run_1 1 rfl rfl)
theorem dX0_run_26 : decode cX0_run 26 = .ok (.putfield 552, 3) := dk_181 2 40 (dk_at dksX0_run_1 2 rfl rfl)
theorem dX0_run_29 : decode cX0_run 29 = .ok (.iconst 0, 1) := dk_3 (dk_at dksX0_run_1 5 rfl rfl)
theorem dX0_run_30 : decode cX0_run 30 = .ok (.istore_n 1, 1) := dk_60 (dk_at dksX0_run_1 6 rfl rfl)
theorem dX0_run_31 : decode cX0_run 31 = .ok (.iload_n 1, 1) := dk_27 (dk_at dksX0_run_1 7 rfl rfl)
theorem dX0_run_32 : decode cX0_run 32 = .ok (.aload_n 0, 1) := dk_42 (dk_at dksX0_run_1 8 rfl rfl)
theorem dX0_run_33 : decode cX0_run 33 = .ok (.getfield 249, 3) := dk_180 0 249 (dk_at dksX0_run_1 9 rfl rfl)
theorem dX0_run_36 : decode cX0_run 36 = .ok (.if_icmp .ge 133, 3) := dk_162 0 133 (dk_at dksX0_run_1 12 rfl rfl)
theorem dX0_run_39 : decode cX0_run 39 = .ok (.aload_n 0, 1) := dk_42 (dk_at dksX0_run_1 15 rfl rfl)
theorem dX0_run_40 : decode cX0_run 40 = .ok (.getfield 552, 3) := dk_180 2 40 (dk_at dksX0_run_1 16 rfl rfl)
theorem dX0_run_43 : decode cX0_run 43 = .ok (.ifCond .ne 126, 3) := dk_154 0 126 (dk_at dksX0_run_1 19 rfl rfl)
theorem dX0_run_46 : decode cX0_run 46 = .ok (.aload_n 0, 1) := dk_42 (dk_at dksX0_run_1 22 rfl rfl)
theorem dX0_run_47 : decode cX0_run 47 = .ok (.getfield 549, 3) := dk_180 2 37 (dk_at dksX0_run_2 0 rfl rfl)
theorem dX0_run_50 : decode cX0_run 50 = .ok (.sipush 300, 3) := dk_17 1 44 (dk_at dksX0_run_2 3 rfl rfl)
theorem dX0_run_53 : decode cX0_run 53 = .ok (.if_icmp .ne 11, 3) := dk_160 0 11 (dk_at dksX0_run_2 6 rfl rfl)
theorem dX0_run_56 : decode cX0_run 56 = .ok (.aload_n 0, 1) := dk_42 (dk_at dksX0_run_2 9 rfl rfl)
theorem dX0_run_57 : decode cX0_run 57 = .ok (.iconst 1, 1) := dk_4 (dk_at dksX0_run_2 10 rfl rfl)
theorem dX0_run_58 : decode cX0_run 58 = .ok (.putfield 552, 3) := dk_181 2 40 (dk_at dksX0_run_2 11 rfl rfl)
theorem dX0_run_61 : decode cX0_run 61 = .ok (.goto (-30), 3) := dk_167 255 226 (dk_at dksX0_run_2 14 rfl rfl)
theorem dX0_run_64 : decode cX0_run 64 = .ok (.aload_n 0, 1) := dk_42 (dk_at dksX0_run_2 17 rfl rfl)
theorem dX0_run_65 : decode cX0_run 65 = .ok (.getfield 242, 3) := dk_180 0 242 (dk_at dksX0_run_2 18 rfl rfl)
theorem dX0_run_68 : decode cX0_run 68 = .ok (.iload_n 1, 1) := dk_27 (dk_at dksX0_run_2 21 rfl rfl)
theorem dX0_run_69 : decode cX0_run 69 = .ok (.aaload, 1) := dk_50 (dk_at dksX0_run_2 22 rfl rfl)
theorem dX0_run_70 : decode cX0_run 70 = .ok (.astore_n 2, 1) := dk_77 (dk_at dksX0_run_2 23 rfl rfl)
theorem dX0_run_71 : decode cX0_run 71 = .ok (.aload_n 0, 1) := dk_42 (dk_at dksX0_run_3 0 rfl rfl)
theorem dX0_run_72 : decode cX0_run 72 = .ok (.dup, 1) := dk_89 (dk_at dksX0_run_3 1 rfl rfl)
theorem dX0_run_73 : decode cX0_run 73 = .ok (.getfield 549, 3) := dk_180 2 37 (dk_at dksX0_run_3 2 rfl rfl)
theorem dX0_run_76 : decode cX0_run 76 = .ok (.iconst 1, 1) := dk_4 (dk_at dksX0_run_3 5 rfl rfl)
theorem dX0_run_77 : decode cX0_run 77 = .ok (.iadd, 1) := dk_96 (dk_at dksX0_run_3 6 rfl rfl)
theorem dX0_run_78 : decode cX0_run 78 = .ok (.putfield 549, 3) := dk_181 2 37 (dk_at dksX0_run_3 7 rfl rfl)
theorem dX0_run_81 : decode cX0_run 81 = .ok (.aload_n 2, 1) := dk_44 (dk_at dksX0_run_3 10 rfl rfl)
theorem dX0_run_82 : decode cX0_run 82 = .ok (.getfield 537, 3) := dk_180 2 25 (dk_at dksX0_run_3 11 rfl rfl)
theorem dX0_run_85 : decode cX0_run 85 = .ok (.bipush 14, 2) := dk_16 14 (dk_at dksX0_run_3 14 rfl rfl)
theorem dX0_run_87 : decode cX0_run 87 = .ok (.if_icmp .ne 6, 3) := dk_160 0 6 (dk_at dksX0_run_3 16 rfl rfl)
theorem dX0_run_90 : decode cX0_run 90 = .ok (.goto 79, 3) := dk_167 0 79 (dk_at dksX0_run_3 19 rfl rfl)
theorem dX0_run_93 : decode cX0_run 93 = .ok (.aload_n 0, 1) := dk_42 (dk_at dksX0_run_3 22 rfl rfl)
theorem dX0_run_94 : decode cX0_run 94 = .ok (.dup, 1) := dk_89 (dk_at dksX0_run_3 23 rfl rfl)
theorem dX0_run_95 : decode cX0_run 95 = .ok (.getfield 546, 3) := dk_180 2 34 (dk_at dksX0_run_4 0 rfl rfl)
theorem dX0_run_98 : decode cX0_run 98 = .ok (.aload_n 0, 1) := dk_42 (dk_at dksX0_run_4 3 rfl rfl)
theorem dX0_run_99 : decode cX0_run 99 = .ok (.aload_n 2, 1) := dk_44 (dk_at dksX0_run_4 4 rfl rfl)
theorem dX0_run_100 : decode cX0_run 100 = .ok (.invokevirtual 555, 3) := dk_182 2 43 (dk_at dksX0_run_4 5 rfl rfl)
theorem dX0_run_103 : decode cX0_run 103 = .ok (.ifCond .eq 7, 3) := dk_153 0 7 (dk_at dksX0_run_4 8 rfl rfl)
theorem dX0_run_106 : decode cX0_run 106 = .ok (.iconst 0, 1) := dk_3 (dk_at dksX0_run_4 11 rfl rfl)
theorem dX0_run_107 : decode cX0_run 107 = .ok (.goto 4, 3) := dk_167 0 4 (dk_at dksX0_run_4 12 rfl rfl)
theorem dX0_run_110 : decode cX0_run 110 = .ok (.iconst 1, 1) := dk_4 (dk_at dksX0_run_4 15 rfl rfl)
theorem dX0_run_111 : decode cX0_run 111 = .ok (.iadd, 1) := dk_96 (dk_at dksX0_run_4 16 rfl rfl)
theorem dX0_run_112 : decode cX0_run 112 = .ok (.putfield 546, 3) := dk_181 2 34 (dk_at dksX0_run_4 17 rfl rfl)
theorem dX0_run_115 : decode cX0_run 115 = .ok (.aload_n 2, 1) := dk_44 (dk_at dksX0_run_4 20 rfl rfl)
theorem dX0_run_116 : decode cX0_run 116 = .ok (.getfield 537, 3) := dk_180 2 25 (dk_at dksX0_run_4 21 rfl rfl)
theorem dX0_run_119 : decode cX0_run 119 = .ok (.bipush 13, 2) := dk_16 13 (dk_at dksX0_run_5 0 rfl rfl)
theorem dX0_run_121 : decode cX0_run 121 = .ok (.if_icmp .ne 11, 3) := dk_160 0 11 (dk_at dksX0_run_5 2 rfl rfl)
theorem dX0_run_124 : decode cX0_run 124 = .ok (.aload_n 2, 1) := dk_44 (dk_at dksX0_run_5 5 rfl rfl)
theorem dX0_run_125 : decode cX0_run 125 = .ok (.aload_n 2, 1) := dk_44 (dk_at dksX0_run_5 6 rfl rfl)
theorem dX0_run_126 : decode cX0_run 126 = .ok (.getfield 526, 3) := dk_180 2 14 (dk_at dksX0_run_5 7 rfl rfl)
theorem dX0_run_129 : decode cX0_run 129 = .ok (.putfield 543, 3) := dk_181 2 31 (dk_at dksX0_run_5 10 rfl rfl)
theorem dX0_run_132 : decode cX0_run 132 = .ok (.aload_n 0, 1) := dk_42 (dk_at dksX0_run_5 13 rfl rfl)
theorem dX0_run_133 : decode cX0_run 133 = .ok (.aload_n 2, 1) := dk_44 (dk_at dksX0_run_5 14 rfl rfl)
theorem dX0_run_134 : decode cX0_run 134 = .ok (.getfield 537, 3) := dk_180 2 25 (dk_at dksX0_run_5 15 rfl rfl)
theorem dX0_run_137 : decode cX0_run 137 = .ok (.bipush 12, 2) := dk_16 12 (dk_at dksX0_run_5 18 rfl rfl)
theorem dX0_run_139 : decode cX0_run 139 = .ok (.if_icmp .ne 20, 3) := dk_160 0 20 (dk_at dksX0_run_5 20 rfl rfl)
theorem dX0_run_142 : decode cX0_run 142 = .ok (.aload_n 0, 1) := dk_42 (dk_at dksX0_run_5 23 rfl rfl)
theorem dX0_run_143 : decode cX0_run 143 = .ok (.aload_n 2, 1) := dk_44 (dk_at dksX0_run_6 0 rfl rfl)
theorem dX0_run_144 : decode cX0_run 144 = .ok (.invokevirtual 559, 3) := dk_182 2 47 (dk_at dksX0_run_6 1 rfl rfl)
theorem dX0_run_147 : decode cX0_run 147 = .ok (.ifCond .ne 12, 3) := dk_154 0 12 (dk_at dksX0_run_6 4 rfl rfl)
theorem dX0_run_150 : decode cX0_run 150 = .ok (.aload_n 2, 1) := dk_44 (dk_at dksX0_run_6 7 rfl rfl)
theorem dX0_run_151 : decode cX0_run 151 = .ok (.getfield 540, 3) := dk_180 2 28 (dk_at dksX0_run_6 8 rfl rfl)
theorem dX0_run_154 : decode cX0_run 154 = .ok (.iconst 1, 1) := dk_4 (dk_at dksX0_run_6 11 rfl rfl)
theorem dX0_run_155 : decode cX0_run 155 = .ok (.iadd, 1) := dk_96 (dk_at dksX0_run_6 12 rfl rfl)
theorem dX0_run_156 : decode cX0_run 156 = .ok (.goto 6, 3) := dk_167 0 6 (dk_at dksX0_run_6 13 rfl rfl)
theorem dX0_run_159 : decode cX0_run 159 = .ok (.iload_n 1, 1) := dk_27 (dk_at dksX0_run_6 16 rfl rfl)
theorem dX0_run_160 : decode cX0_run 160 = .ok (.iconst 1, 1) := dk_4 (dk_at dksX0_run_6 17 rfl rfl)
theorem dX0_run_161 : decode cX0_run 161 = .ok (.iadd, 1) := dk_96 (dk_at dksX0_run_6 18 rfl rfl)
theorem dX0_run_162 : decode cX0_run 162 = .ok (.invokevirtual 561, 3) := dk_182 2 49 (dk_at dksX0_run_6 19 rfl rfl)
theorem dX0_run_165 : decode cX0_run 165 = .ok (.istore_n 1, 1) := dk_60 (dk_at dksX0_run_6 22 rfl rfl)
theorem dX0_run_166 : decode cX0_run 166 = .ok (.goto (-135), 3) := dk_167 255 121 (dk_at dksX0_run_7 0 rfl rfl)
theorem dX0_run_169 : decode cX0_run 169 = .ok (.aload_n 0, 1) := dk_42 (dk_at dksX0_run_7 3 rfl rfl)
theorem dX0_run_170 : decode cX0_run 170 = .ok (.aload_n 0, 1) := dk_42 (dk_at dksX0_run_7 4 rfl rfl)
theorem dX0_run_171 : decode cX0_run 171 = .ok (.getfield 546, 3) := dk_180 2 34 (dk_at dksX0_run_7 5 rfl rfl)
theorem dX0_run_174 : decode cX0_run 174 = .ok (.putfield 564, 3) := dk_181 2 52 (dk_at dksX0_run_7 8 rfl rfl)
theorem dX0_run_177 : decode cX0_run 177 = .ok (.aload_n 0, 1) := dk_42 (dk_at dksX0_run_7 11 rfl rfl)
theorem dX0_run_178 : decode cX0_run 178 = .ok (.aload_n 0, 1) := dk_42 (dk_at dksX0_run_7 12 rfl rfl)
theorem dX0_run_179 : decode cX0_run 179 = .ok (.getfield 552, 3) := dk_180 2 40 (dk_at dksX0_run_7 13 rfl rfl)
theorem dX0_run_182 : decode cX0_run 182 = .ok (.putfield 567, 3) := dk_181 2 55 (dk_at dksX0_run_7 16 rfl rfl)
theorem dX0_run_185 : decode cX0_run 185 = .ok (.aload_n 0, 1) := dk_42 (dk_at dksX0_run_7 19 rfl rfl)
theorem dX0_run_186 : decode cX0_run 186 = .ok (.iconst 1, 1) := dk_4 (dk_at dksX0_run_7 20 rfl rfl)
theorem dX0_run_187 : decode cX0_run 187 = .ok (.putfield 570, 3) := dk_181 2 58 (dk_at dksX0_run_7 21 rfl rfl)
theorem dX0_run_190 : decode cX0_run 190 = .ok (.aload_n 0, 1) := dk_42 (dk_at dksX0_run_8 0 rfl rfl)
theorem dX0_run_191 : decode cX0_run 191 = .ok (.aload_n 0, 1) := dk_42 (dk_at dksX0_run_8 1 rfl rfl)
theorem dX0_run_192 : decode cX0_run 192 = .ok (.getfield 549, 3) := dk_180 2 37 (dk_at dksX0_run_8 2 rfl rfl)
theorem dX0_run_195 : decode cX0_run 195 = .ok (.invokevirtual 235, 3) := dk_182 0 235 (dk_at dksX0_run_8 5 rfl rfl)
theorem dX0_run_198 : decode cX0_run 198 = .ok (.ireturn, 1) := dk_172 (dk_at dksX0_run_8 8 rfl rfl)
abbrev cX0_does : ByteArray := prog_1_method_112_code
def dkwX0_does_15 : List UInt8 := [180, 0, 37, 43, 180, 2, 20, 50, 182, 1, 253, 4, 172, 4, 172]
abbrev dktX0_does_15 : List UInt8 := dkwX0_does_15 ++ []
def dkwX0_does_14 : List UInt8 := [180, 2, 20, 50, 182, 0, 231, 4, 172, 42, 43, 180, 2, 20, 182, 1, 250, 158, 0, 5, 3, 172, 42, 42]
abbrev dktX0_does_14 : List UInt8 := dkwX0_does_14 ++ dktX0_does_15
def dkwX0_does_13 : List UInt8 := [42, 180, 0, 41, 43, 180, 2, 20, 51, 154, 0, 5, 3, 172, 42, 180, 0, 30, 42, 180, 0, 37, 43]
abbrev dktX0_does_13 : List UInt8 := dkwX0_does_13 ++ dktX0_does_14
def dkwX0_does_12 : List UInt8 := [180, 0, 253, 112, 79, 42, 42, 180, 0, 30, 182, 1, 234, 172, 42, 43, 180, 2, 20, 182, 1, 40, 4, 172]
abbrev dktX0_does_12 : List UInt8 := dkwX0_does_12 ++ dktX0_does_13
def dkwX0_does_11 : List UInt8 := [182, 1, 231, 42, 180, 0, 115, 43, 180, 2, 26, 50, 43, 180, 2, 20, 43, 180, 2, 14, 42, 180, 0, 30]
abbrev dktX0_does_11 : List UInt8 := dkwX0_does_11 ++ dktX0_does_12
def dkwX0_does_10 : List UInt8 := [180, 2, 26, 182, 1, 4, 153, 0, 14, 43, 180, 2, 20, 43, 180, 2, 26, 160, 0, 5, 3, 172, 42]
abbrev dktX0_does_10 : List UInt8 := dkwX0_does_10 ++ dktX0_does_11
def dkwX0_does_9 : List UInt8 := [112, 79, 42, 42, 180, 0, 30, 182, 1, 234, 172, 42, 43, 180, 2, 20, 182, 1, 4, 153, 0, 25, 42, 43]
abbrev dktX0_does_9 : List UInt8 := dkwX0_does_9 ++ dktX0_does_10
def dkwX0_does_8 : List UInt8 := [42, 180, 0, 115, 43, 180, 2, 20, 50, 43, 180, 2, 20, 43, 180, 2, 14, 42, 180, 0, 30, 180, 0, 253]
abbrev dktX0_does_8 : List UInt8 := dkwX0_does_8 ++ dktX0_does_9
def dkwX0_does_7 : List UInt8 := [153, 0, 18, 43, 180, 2, 14, 42, 180, 0, 30, 180, 0, 253, 112, 154, 0, 5, 3, 172, 42, 182, 1, 231]
abbrev dktX0_does_7 : List UInt8 := dkwX0_does_7 ++ dktX0_does_8
def dkwX0_does_6 : List UInt8 := [180, 2, 20, 4, 79, 42, 42, 180, 0, 30, 182, 1, 234, 172, 42, 43, 180, 2, 20, 182, 1, 4]
abbrev dktX0_does_6 : List UInt8 := dkwX0_does_6 ++ dktX0_does_7
def dkwX0_does_5 : List UInt8 := [180, 0, 115, 43, 180, 2, 20, 50, 43, 180, 2, 26, 4, 79, 42, 180, 0, 115, 43, 180, 2, 26, 50, 43]
abbrev dktX0_does_5 : List UInt8 := dkwX0_does_5 ++ dktX0_does_6
def dkwX0_does_4 : List UInt8 := [50, 43, 180, 2, 20, 3, 79, 42, 180, 0, 115, 43, 180, 2, 26, 50, 43, 180, 2, 26, 3, 79, 42]
abbrev dktX0_does_4 : List UInt8 := dkwX0_does_4 ++ dktX0_does_5
def dkwX0_does_3 : List UInt8 := [180, 2, 20, 43, 180, 2, 26, 160, 0, 5, 3, 172, 42, 182, 1, 231, 42, 180, 0, 115, 43, 180, 2, 20]
abbrev dktX0_does_3 : List UInt8 := dkwX0_does_3 ++ dktX0_does_4
def dkwX0_does_2 : List UInt8 := [42, 43, 180, 2, 20, 182, 1, 4, 153, 0, 25, 42, 43, 180, 2, 26, 182, 1, 4, 153, 0, 14, 43]
abbrev dktX0_does_2 : List UInt8 := dkwX0_does_2 ++ dktX0_does_3
def dkwX0_does_1 : List UInt8 := [170, 0, 0, 0, 0, 0, 1, 103, 0, 0, 0, 6, 0, 0, 0, 11, 0, 0, 0, 40, 0, 0, 0, 148, 0, 0, 0, 215, 0, 0, 1, 33, 0, 0, 1, 43, 0, 0, 1, 75]
abbrev dktX0_does_1 : List UInt8 := dkwX0_does_1 ++ dktX0_does_2
def dkwX0_does_0 : List UInt8 := [43, 180, 2, 25]
abbrev dktX0_does_0 : List UInt8 := dkwX0_does_0 ++ dktX0_does_1
theorem dksX0_does_0 : cX0_does.data.toList.drop 0 = dktX0_does_0 := by decide +kernel
theorem dksX0_does_1 : cX0_does.data.toList.drop 4 = dktX0_does_1 := dk_seg dksX0_does_0 4 rfl rfl
theorem dksX0_does_2 : cX0_does.data.toList.drop 44 = dktX0_does_2 := dk_seg dksX0_does_1 40 rfl rfl
theorem dksX0_does_3 : cX0_does.data.toList.drop 67 = dktX0_does_3 := dk_seg dksX0_does_2 23 rfl rfl
theorem dksX0_does_4 : cX0_does.data.toList.drop 91 = dktX0_does_4 := dk_seg dksX0_does_3 24 rfl rfl
theorem dksX0_does_5 : cX0_does.data.toList.drop 114 = dktX0_does_5 := dk_seg dksX0_does_4 23 rfl rfl
theorem dksX0_does_6 : cX0_does.data.toList.drop 138 = dktX0_does_6 := dk_seg dksX0_does_5 24 rfl rfl
theorem dksX0_does_7 : cX0_does.data.toList.drop 160 = dktX0_does_7 := dk_seg dksX0_does_6 22 rfl rfl
theorem dksX0_does_8 : cX0_does.data.toList.drop 184 = dktX0_does_8 := dk_seg dksX0_does_7 24 rfl rfl
theorem dksX0_does_9 : cX0_does.data.toList.drop 208 = dktX0_does_9 := dk_seg dksX0_does_8 24 rfl rfl
theorem dksX0_does_10 : cX0_does.data.toList.drop 232 = dktX0_does_10 := dk_seg dksX0_does_9 24 rfl rfl
theorem dksX0_does_11 : cX0_does.data.toList.drop 255 = dktX0_does_11 := dk_seg dksX0_does_10 23 rfl rfl
theorem dksX0_does_12 : cX0_does.data.toList.drop 279 = dktX0_does_12 := dk_seg dksX0_does_11 24 rfl rfl
theorem dksX0_does_13 : cX0_does.data.toList.drop 303 = dktX0_does_13 := dk_seg dksX0_does_12 24 rfl rfl
theorem dksX0_does_14 : cX0_does.data.toList.drop 326 = dktX0_does_14 := dk_seg dksX0_does_13 23 rfl rfl
theorem dksX0_does_15 : cX0_does.data.toList.drop 350 = dktX0_does_15 := dk_seg dksX0_does_14 24 rfl rfl
theorem dX0_does_0 : decode cX0_does 0 = .ok (.aload_n 1, 1) := dk_43 (dk_at dksX0_does_0 0 rfl rfl)
theorem dX0_does_1 : decode cX0_does 1 = .ok (.getfield 537, 3) := dk_180 2 25 (dk_at dksX0_does_0 1 rfl rfl)
theorem dX0_does_4 : decode cX0_does 4 = .ok (.tableswitch 359 6 11 #[40, 148, 215, 289, 299, 331], 40) := by decide +kernel
theorem dX0_does_44 : decode cX0_does 44 = .ok (.aload_n 0, 1) := dk_42 (dk_at dksX0_does_2 0 rfl rfl)
theorem dX0_does_45 : decode cX0_does 45 = .ok (.aload_n 1, 1) := dk_43 (dk_at dksX0_does_2 1 rfl rfl)
theorem dX0_does_46 : decode cX0_does 46 = .ok (.getfield 532, 3) := dk_180 2 20 (dk_at dksX0_does_2 2 rfl rfl)
theorem dX0_does_49 : decode cX0_does 49 = .ok (.invokevirtual 260, 3) := dk_182 1 4 (dk_at dksX0_does_2 5 rfl rfl)
theorem dX0_does_52 : decode cX0_does 52 = .ok (.ifCond .eq 25, 3) := dk_153 0 25 (dk_at dksX0_does_2 8 rfl rfl)
theorem dX0_does_55 : decode cX0_does 55 = .ok (.aload_n 0, 1) := dk_42 (dk_at dksX0_does_2 11 rfl rfl)
theorem dX0_does_56 : decode cX0_does 56 = .ok (.aload_n 1, 1) := dk_43 (dk_at dksX0_does_2 12 rfl rfl)
theorem dX0_does_57 : decode cX0_does 57 = .ok (.getfield 538, 3) := dk_180 2 26 (dk_at dksX0_does_2 13 rfl rfl)
theorem dX0_does_60 : decode cX0_does 60 = .ok (.invokevirtual 260, 3) := dk_182 1 4 (dk_at dksX0_does_2 16 rfl rfl)
theorem dX0_does_63 : decode cX0_does 63 = .ok (.ifCond .eq 14, 3) := dk_153 0 14 (dk_at dksX0_does_2 19 rfl rfl)
theorem dX0_does_66 : decode cX0_does 66 = .ok (.aload_n 1, 1) := dk_43 (dk_at dksX0_does_2 22 rfl rfl)
theorem dX0_does_67 : decode cX0_does 67 = .ok (.getfield 532, 3) := dk_180 2 20 (dk_at dksX0_does_3 0 rfl rfl)
theorem dX0_does_70 : decode cX0_does 70 = .ok (.aload_n 1, 1) := dk_43 (dk_at dksX0_does_3 3 rfl rfl)
theorem dX0_does_71 : decode cX0_does 71 = .ok (.getfield 538, 3) := dk_180 2 26 (dk_at dksX0_does_3 4 rfl rfl)
theorem dX0_does_74 : decode cX0_does 74 = .ok (.if_icmp .ne 5, 3) := dk_160 0 5 (dk_at dksX0_does_3 7 rfl rfl)
theorem dX0_does_77 : decode cX0_does 77 = .ok (.iconst 0, 1) := dk_3 (dk_at dksX0_does_3 10 rfl rfl)
theorem dX0_does_78 : decode cX0_does 78 = .ok (.ireturn, 1) := dk_172 (dk_at dksX0_does_3 11 rfl rfl)
theorem dX0_does_79 : decode cX0_does 79 = .ok (.aload_n 0, 1) := dk_42 (dk_at dksX0_does_3 12 rfl rfl)
theorem dX0_does_80 : decode cX0_does 80 = .ok (.invokevirtual 487, 3) := dk_182 1 231 (dk_at dksX0_does_3 13 rfl rfl)
theorem dX0_does_83 : decode cX0_does 83 = .ok (.aload_n 0, 1) := dk_42 (dk_at dksX0_does_3 16 rfl rfl)
theorem dX0_does_84 : decode cX0_does 84 = .ok (.getfield 115, 3) := dk_180 0 115 (dk_at dksX0_does_3 17 rfl rfl)
theorem dX0_does_87 : decode cX0_does 87 = .ok (.aload_n 1, 1) := dk_43 (dk_at dksX0_does_3 20 rfl rfl)
theorem dX0_does_88 : decode cX0_does 88 = .ok (.getfield 532, 3) := dk_180 2 20 (dk_at dksX0_does_3 21 rfl rfl)
theorem dX0_does_91 : decode cX0_does 91 = .ok (.aaload, 1) := dk_50 (dk_at dksX0_does_4 0 rfl rfl)
theorem dX0_does_92 : decode cX0_does 92 = .ok (.aload_n 1, 1) := dk_43 (dk_at dksX0_does_4 1 rfl rfl)
theorem dX0_does_93 : decode cX0_does 93 = .ok (.getfield 532, 3) := dk_180 2 20 (dk_at dksX0_does_4 2 rfl rfl)
theorem dX0_does_96 : decode cX0_does 96 = .ok (.iconst 0, 1) := dk_3 (dk_at dksX0_does_4 5 rfl rfl)
theorem dX0_does_97 : decode cX0_does 97 = .ok (.iastore, 1) := dk_79 (dk_at dksX0_does_4 6 rfl rfl)
theorem dX0_does_98 : decode cX0_does 98 = .ok (.aload_n 0, 1) := dk_42 (dk_at dksX0_does_4 7 rfl rfl)
theorem dX0_does_99 : decode cX0_does 99 = .ok (.getfield 115, 3) := dk_180 0 115 (dk_at dksX0_does_4 8 rfl rfl)
theorem dX0_does_102 : decode cX0_does 102 = .ok (.aload_n 1, 1) := dk_43 (dk_at dksX0_does_4 11 rfl rfl)
theorem dX0_does_103 : decode cX0_does 103 = .ok (.getfield 538, 3) := dk_180 2 26 (dk_at dksX0_does_4 12 rfl rfl)
theorem dX0_does_106 : decode cX0_does 106 = .ok (.aaload, 1) := dk_50 (dk_at dksX0_does_4 15 rfl rfl)
theorem dX0_does_107 : decode cX0_does 107 = .ok (.aload_n 1, 1) := dk_43 (dk_at dksX0_does_4 16 rfl rfl)
theorem dX0_does_108 : decode cX0_does 108 = .ok (.getfield 538, 3) := dk_180 2 26 (dk_at dksX0_does_4 17 rfl rfl)
theorem dX0_does_111 : decode cX0_does 111 = .ok (.iconst 0, 1) := dk_3 (dk_at dksX0_does_4 20 rfl rfl)
theorem dX0_does_112 : decode cX0_does 112 = .ok (.iastore, 1) := dk_79 (dk_at dksX0_does_4 21 rfl rfl)
theorem dX0_does_113 : decode cX0_does 113 = .ok (.aload_n 0, 1) := dk_42 (dk_at dksX0_does_4 22 rfl rfl)
theorem dX0_does_114 : decode cX0_does 114 = .ok (.getfield 115, 3) := dk_180 0 115 (dk_at dksX0_does_5 0 rfl rfl)
theorem dX0_does_117 : decode cX0_does 117 = .ok (.aload_n 1, 1) := dk_43 (dk_at dksX0_does_5 3 rfl rfl)
theorem dX0_does_118 : decode cX0_does 118 = .ok (.getfield 532, 3) := dk_180 2 20 (dk_at dksX0_does_5 4 rfl rfl)
theorem dX0_does_121 : decode cX0_does 121 = .ok (.aaload, 1) := dk_50 (dk_at dksX0_does_5 7 rfl rfl)
theorem dX0_does_122 : decode cX0_does 122 = .ok (.aload_n 1, 1) := dk_43 (dk_at dksX0_does_5 8 rfl rfl)
theorem dX0_does_123 : decode cX0_does 123 = .ok (.getfield 538, 3) := dk_180 2 26 (dk_at dksX0_does_5 9 rfl rfl)
theorem dX0_does_126 : decode cX0_does 126 = .ok (.iconst 1, 1) := dk_4 (dk_at dksX0_does_5 12 rfl rfl)
theorem dX0_does_127 : decode cX0_does 127 = .ok (.iastore, 1) := dk_79 (dk_at dksX0_does_5 13 rfl rfl)
theorem dX0_does_128 : decode cX0_does 128 = .ok (.aload_n 0, 1) := dk_42 (dk_at dksX0_does_5 14 rfl rfl)
theorem dX0_does_129 : decode cX0_does 129 = .ok (.getfield 115, 3) := dk_180 0 115 (dk_at dksX0_does_5 15 rfl rfl)
theorem dX0_does_132 : decode cX0_does 132 = .ok (.aload_n 1, 1) := dk_43 (dk_at dksX0_does_5 18 rfl rfl)
theorem dX0_does_133 : decode cX0_does 133 = .ok (.getfield 538, 3) := dk_180 2 26 (dk_at dksX0_does_5 19 rfl rfl)
theorem dX0_does_136 : decode cX0_does 136 = .ok (.aaload, 1) := dk_50 (dk_at dksX0_does_5 22 rfl rfl)
theorem dX0_does_137 : decode cX0_does 137 = .ok (.aload_n 1, 1) := dk_43 (dk_at dksX0_does_5 23 rfl rfl)
theorem dX0_does_138 : decode cX0_does 138 = .ok (.getfield 532, 3) := dk_180 2 20 (dk_at dksX0_does_6 0 rfl rfl)
theorem dX0_does_141 : decode cX0_does 141 = .ok (.iconst 1, 1) := dk_4 (dk_at dksX0_does_6 3 rfl rfl)
theorem dX0_does_142 : decode cX0_does 142 = .ok (.iastore, 1) := dk_79 (dk_at dksX0_does_6 4 rfl rfl)
theorem dX0_does_143 : decode cX0_does 143 = .ok (.aload_n 0, 1) := dk_42 (dk_at dksX0_does_6 5 rfl rfl)
theorem dX0_does_144 : decode cX0_does 144 = .ok (.aload_n 0, 1) := dk_42 (dk_at dksX0_does_6 6 rfl rfl)
theorem dX0_does_145 : decode cX0_does 145 = .ok (.getfield 30, 3) := dk_180 0 30 (dk_at dksX0_does_6 7 rfl rfl)
theorem dX0_does_148 : decode cX0_does 148 = .ok (.invokevirtual 490, 3) := dk_182 1 234 (dk_at dksX0_does_6 10 rfl rfl)
theorem dX0_does_151 : decode cX0_does 151 = .ok (.ireturn, 1) := dk_172 (dk_at dksX0_does_6 13 rfl rfl)
theorem dX0_does_152 : decode cX0_does 152 = .ok (.aload_n 0, 1) := dk_42 (dk_at dksX0_does_6 14 rfl rfl)
theorem dX0_does_153 : decode cX0_does 153 = .ok (.aload_n 1, 1) := dk_43 (dk_at dksX0_does_6 15 rfl rfl)
theorem dX0_does_154 : decode cX0_does 154 = .ok (.getfield 532, 3) := dk_180 2 20 (dk_at dksX0_does_6 16 rfl rfl)
theorem dX0_does_157 : decode cX0_does 157 = .ok (.invokevirtual 260, 3) := dk_182 1 4 (dk_at dksX0_does_6 19 rfl rfl)
theorem dX0_does_160 : decode cX0_does 160 = .ok (.ifCond .eq 18, 3) := dk_153 0 18 (dk_at dksX0_does_7 0 rfl rfl)
theorem dX0_does_163 : decode cX0_does 163 = .ok (.aload_n 1, 1) := dk_43 (dk_at dksX0_does_7 3 rfl rfl)
theorem dX0_does_164 : decode cX0_does 164 = .ok (.getfield 526, 3) := dk_180 2 14 (dk_at dksX0_does_7 4 rfl rfl)
theorem dX0_does_167 : decode cX0_does 167 = .ok (.aload_n 0, 1) := dk_42 (dk_at dksX0_does_7 7 rfl rfl)
theorem dX0_does_168 : decode cX0_does 168 = .ok (.getfield 30, 3) := dk_180 0 30 (dk_at dksX0_does_7 8 rfl rfl)
theorem dX0_does_171 : decode cX0_does 171 = .ok (.getfield 253, 3) := dk_180 0 253 (dk_at dksX0_does_7 11 rfl rfl)
theorem dX0_does_174 : decode cX0_does 174 = .ok (.irem, 1) := dk_112 (dk_at dksX0_does_7 14 rfl rfl)
theorem dX0_does_175 : decode cX0_does 175 = .ok (.ifCond .ne 5, 3) := dk_154 0 5 (dk_at dksX0_does_7 15 rfl rfl)
theorem dX0_does_178 : decode cX0_does 178 = .ok (.iconst 0, 1) := dk_3 (dk_at dksX0_does_7 18 rfl rfl)
theorem dX0_does_179 : decode cX0_does 179 = .ok (.ireturn, 1) := dk_172 (dk_at dksX0_does_7 19 rfl rfl)
theorem dX0_does_180 : decode cX0_does 180 = .ok (.aload_n 0, 1) := dk_42 (dk_at dksX0_does_7 20 rfl rfl)
theorem dX0_does_181 : decode cX0_does 181 = .ok (.invokevirtual 487, 3) := dk_182 1 231 (dk_at dksX0_does_7 21 rfl rfl)
theorem dX0_does_184 : decode cX0_does 184 = .ok (.aload_n 0, 1) := dk_42 (dk_at dksX0_does_8 0 rfl rfl)
theorem dX0_does_185 : decode cX0_does 185 = .ok (.getfield 115, 3) := dk_180 0 115 (dk_at dksX0_does_8 1 rfl rfl)
theorem dX0_does_188 : decode cX0_does 188 = .ok (.aload_n 1, 1) := dk_43 (dk_at dksX0_does_8 4 rfl rfl)
theorem dX0_does_189 : decode cX0_does 189 = .ok (.getfield 532, 3) := dk_180 2 20 (dk_at dksX0_does_8 5 rfl rfl)
theorem dX0_does_192 : decode cX0_does 192 = .ok (.aaload, 1) := dk_50 (dk_at dksX0_does_8 8 rfl rfl)
theorem dX0_does_193 : decode cX0_does 193 = .ok (.aload_n 1, 1) := dk_43 (dk_at dksX0_does_8 9 rfl rfl)
theorem dX0_does_194 : decode cX0_does 194 = .ok (.getfield 532, 3) := dk_180 2 20 (dk_at dksX0_does_8 10 rfl rfl)
theorem dX0_does_197 : decode cX0_does 197 = .ok (.aload_n 1, 1) := dk_43 (dk_at dksX0_does_8 13 rfl rfl)
theorem dX0_does_198 : decode cX0_does 198 = .ok (.getfield 526, 3) := dk_180 2 14 (dk_at dksX0_does_8 14 rfl rfl)
theorem dX0_does_201 : decode cX0_does 201 = .ok (.aload_n 0, 1) := dk_42 (dk_at dksX0_does_8 17 rfl rfl)
theorem dX0_does_202 : decode cX0_does 202 = .ok (.getfield 30, 3) := dk_180 0 30 (dk_at dksX0_does_8 18 rfl rfl)
theorem dX0_does_205 : decode cX0_does 205 = .ok (.getfield 253, 3) := dk_180 0 253 (dk_at dksX0_does_8 21 rfl rfl)
theorem dX0_does_208 : decode cX0_does 208 = .ok (.irem, 1) := dk_112 (dk_at dksX0_does_9 0 rfl rfl)
theorem dX0_does_209 : decode cX0_does 209 = .ok (.iastore, 1) := dk_79 (dk_at dksX0_does_9 1 rfl rfl)
theorem dX0_does_210 : decode cX0_does 210 = .ok (.aload_n 0, 1) := dk_42 (dk_at dksX0_does_9 2 rfl rfl)
theorem dX0_does_211 : decode cX0_does 211 = .ok (.aload_n 0, 1) := dk_42 (dk_at dksX0_does_9 3 rfl rfl)
theorem dX0_does_212 : decode cX0_does 212 = .ok (.getfield 30, 3) := dk_180 0 30 (dk_at dksX0_does_9 4 rfl rfl)
theorem dX0_does_215 : decode cX0_does 215 = .ok (.invokevirtual 490, 3) := dk_182 1 234 (dk_at dksX0_does_9 7 rfl rfl)
theorem dX0_does_218 : decode cX0_does 218 = .ok (.ireturn, 1) := dk_172 (dk_at dksX0_does_9 10 rfl rfl)
theorem dX0_does_219 : decode cX0_does 219 = .ok (.aload_n 0, 1) := dk_42 (dk_at dksX0_does_9 11 rfl rfl)
theorem dX0_does_220 : decode cX0_does 220 = .ok (.aload_n 1, 1) := dk_43 (dk_at dksX0_does_9 12 rfl rfl)
theorem dX0_does_221 : decode cX0_does 221 = .ok (.getfield 532, 3) := dk_180 2 20 (dk_at dksX0_does_9 13 rfl rfl)
theorem dX0_does_224 : decode cX0_does 224 = .ok (.invokevirtual 260, 3) := dk_182 1 4 (dk_at dksX0_does_9 16 rfl rfl)
theorem dX0_does_227 : decode cX0_does 227 = .ok (.ifCond .eq 25, 3) := dk_153 0 25 (dk_at dksX0_does_9 19 rfl rfl)
theorem dX0_does_230 : decode cX0_does 230 = .ok (.aload_n 0, 1) := dk_42 (dk_at dksX0_does_9 22 rfl rfl)
theorem dX0_does_231 : decode cX0_does 231 = .ok (.aload_n 1, 1) := dk_43 (dk_at dksX0_does_9 23 rfl rfl)
theorem dX0_does_232 : decode cX0_does 232 = .ok (.getfield 538, 3) := dk_180 2 26 (dk_at dksX0_does_10 0 rfl rfl)
theorem dX0_does_235 : decode cX0_does 235 = .ok (.invokevirtual 260, 3) := dk_182 1 4 (dk_at dksX0_does_10 3 rfl rfl)
theorem dX0_does_238 : decode cX0_does 238 = .ok (.ifCond .eq 14, 3) := dk_153 0 14 (dk_at dksX0_does_10 6 rfl rfl)
theorem dX0_does_241 : decode cX0_does 241 = .ok (.aload_n 1, 1) := dk_43 (dk_at dksX0_does_10 9 rfl rfl)
theorem dX0_does_242 : decode cX0_does 242 = .ok (.getfield 532, 3) := dk_180 2 20 (dk_at dksX0_does_10 10 rfl rfl)
theorem dX0_does_245 : decode cX0_does 245 = .ok (.aload_n 1, 1) := dk_43 (dk_at dksX0_does_10 13 rfl rfl)
theorem dX0_does_246 : decode cX0_does 246 = .ok (.getfield 538, 3) := dk_180 2 26 (dk_at dksX0_does_10 14 rfl rfl)
theorem dX0_does_249 : decode cX0_does 249 = .ok (.if_icmp .ne 5, 3) := dk_160 0 5 (dk_at dksX0_does_10 17 rfl rfl)
theorem dX0_does_252 : decode cX0_does 252 = .ok (.iconst 0, 1) := dk_3 (dk_at dksX0_does_10 20 rfl rfl)
theorem dX0_does_253 : decode cX0_does 253 = .ok (.ireturn, 1) := dk_172 (dk_at dksX0_does_10 21 rfl rfl)
theorem dX0_does_254 : decode cX0_does 254 = .ok (.aload_n 0, 1) := dk_42 (dk_at dksX0_does_10 22 rfl rfl)
theorem dX0_does_255 : decode cX0_does 255 = .ok (.invokevirtual 487, 3) := dk_182 1 231 (dk_at dksX0_does_11 0 rfl rfl)
theorem dX0_does_258 : decode cX0_does 258 = .ok (.aload_n 0, 1) := dk_42 (dk_at dksX0_does_11 3 rfl rfl)
theorem dX0_does_259 : decode cX0_does 259 = .ok (.getfield 115, 3) := dk_180 0 115 (dk_at dksX0_does_11 4 rfl rfl)
theorem dX0_does_262 : decode cX0_does 262 = .ok (.aload_n 1, 1) := dk_43 (dk_at dksX0_does_11 7 rfl rfl)
theorem dX0_does_263 : decode cX0_does 263 = .ok (.getfield 538, 3) := dk_180 2 26 (dk_at dksX0_does_11 8 rfl rfl)
theorem dX0_does_266 : decode cX0_does 266 = .ok (.aaload, 1) := dk_50 (dk_at dksX0_does_11 11 rfl rfl)
theorem dX0_does_267 : decode cX0_does 267 = .ok (.aload_n 1, 1) := dk_43 (dk_at dksX0_does_11 12 rfl rfl)
theorem dX0_does_268 : decode cX0_does 268 = .ok (.getfield 532, 3) := dk_180 2 20 (dk_at dksX0_does_11 13 rfl rfl)
theorem dX0_does_271 : decode cX0_does 271 = .ok (.aload_n 1, 1) := dk_43 (dk_at dksX0_does_11 16 rfl rfl)
theorem dX0_does_272 : decode cX0_does 272 = .ok (.getfield 526, 3) := dk_180 2 14 (dk_at dksX0_does_11 17 rfl rfl)
theorem dX0_does_275 : decode cX0_does 275 = .ok (.aload_n 0, 1) := dk_42 (dk_at dksX0_does_11 20 rfl rfl)
theorem dX0_does_276 : decode cX0_does 276 = .ok (.getfield 30, 3) := dk_180 0 30 (dk_at dksX0_does_11 21 rfl rfl)
theorem dX0_does_279 : decode cX0_does 279 = .ok (.getfield 253, 3) := dk_180 0 253 (dk_at dksX0_does_12 0 rfl rfl)
theorem dX0_does_282 : decode cX0_does 282 = .ok (.irem, 1) := dk_112 (dk_at dksX0_does_12 3 rfl rfl)
theorem dX0_does_283 : decode cX0_does 283 = .ok (.iastore, 1) := dk_79 (dk_at dksX0_does_12 4 rfl rfl)
theorem dX0_does_284 : decode cX0_does 284 = .ok (.aload_n 0, 1) := dk_42 (dk_at dksX0_does_12 5 rfl rfl)
theorem dX0_does_285 : decode cX0_does 285 = .ok (.aload_n 0, 1) := dk_42 (dk_at dksX0_does_12 6 rfl rfl)
theorem dX0_does_286 : decode cX0_does 286 = .ok (.getfield 30, 3) := dk_180 0 30 (dk_at dksX0_does_12 7 rfl rfl)
theorem dX0_does_289 : decode cX0_does 289 = .ok (.invokevirtual 490, 3) := dk_182 1 234 (dk_at dksX0_does_12 10 rfl rfl)
theorem dX0_does_292 : decode cX0_does 292 = .ok (.ireturn, 1) := dk_172 (dk_at dksX0_does_12 13 rfl rfl)
theorem dX0_does_293 : decode cX0_does 293 = .ok (.aload_n 0, 1) := dk_42 (dk_at dksX0_does_12 14 rfl rfl)
theorem dX0_does_294 : decode cX0_does 294 = .ok (.aload_n 1, 1) := dk_43 (dk_at dksX0_does_12 15 rfl rfl)
theorem dX0_does_295 : decode cX0_does 295 = .ok (.getfield 532, 3) := dk_180 2 20 (dk_at dksX0_does_12 16 rfl rfl)
theorem dX0_does_298 : decode cX0_does 298 = .ok (.invokevirtual 296, 3) := dk_182 1 40 (dk_at dksX0_does_12 19 rfl rfl)
theorem dX0_does_301 : decode cX0_does 301 = .ok (.iconst 1, 1) := dk_4 (dk_at dksX0_does_12 22 rfl rfl)
theorem dX0_does_302 : decode cX0_does 302 = .ok (.ireturn, 1) := dk_172 (dk_at dksX0_does_12 23 rfl rfl)
theorem dX0_does_303 : decode cX0_does 303 = .ok (.aload_n 0, 1) := dk_42 (dk_at dksX0_does_13 0 rfl rfl)
theorem dX0_does_304 : decode cX0_does 304 = .ok (.getfield 41, 3) := dk_180 0 41 (dk_at dksX0_does_13 1 rfl rfl)
theorem dX0_does_307 : decode cX0_does 307 = .ok (.aload_n 1, 1) := dk_43 (dk_at dksX0_does_13 4 rfl rfl)
theorem dX0_does_308 : decode cX0_does 308 = .ok (.getfield 532, 3) := dk_180 2 20 (dk_at dksX0_does_13 5 rfl rfl)
theorem dX0_does_311 : decode cX0_does 311 = .ok (.baload, 1) := dk_51 (dk_at dksX0_does_13 8 rfl rfl)
theorem dX0_does_312 : decode cX0_does 312 = .ok (.ifCond .ne 5, 3) := dk_154 0 5 (dk_at dksX0_does_13 9 rfl rfl)
theorem dX0_does_315 : decode cX0_does 315 = .ok (.iconst 0, 1) := dk_3 (dk_at dksX0_does_13 12 rfl rfl)
theorem dX0_does_316 : decode cX0_does 316 = .ok (.ireturn, 1) := dk_172 (dk_at dksX0_does_13 13 rfl rfl)
theorem dX0_does_317 : decode cX0_does 317 = .ok (.aload_n 0, 1) := dk_42 (dk_at dksX0_does_13 14 rfl rfl)
theorem dX0_does_318 : decode cX0_does 318 = .ok (.getfield 30, 3) := dk_180 0 30 (dk_at dksX0_does_13 15 rfl rfl)
theorem dX0_does_321 : decode cX0_does 321 = .ok (.aload_n 0, 1) := dk_42 (dk_at dksX0_does_13 18 rfl rfl)
theorem dX0_does_322 : decode cX0_does 322 = .ok (.getfield 37, 3) := dk_180 0 37 (dk_at dksX0_does_13 19 rfl rfl)
theorem dX0_does_325 : decode cX0_does 325 = .ok (.aload_n 1, 1) := dk_43 (dk_at dksX0_does_13 22 rfl rfl)
theorem dX0_does_326 : decode cX0_does 326 = .ok (.getfield 532, 3) := dk_180 2 20 (dk_at dksX0_does_14 0 rfl rfl)
theorem dX0_does_329 : decode cX0_does 329 = .ok (.aaload, 1) := dk_50 (dk_at dksX0_does_14 3 rfl rfl)
theorem dX0_does_330 : decode cX0_does 330 = .ok (.invokevirtual 231, 3) := dk_182 0 231 (dk_at dksX0_does_14 4 rfl rfl)
theorem dX0_does_333 : decode cX0_does 333 = .ok (.iconst 1, 1) := dk_4 (dk_at dksX0_does_14 7 rfl rfl)
theorem dX0_does_334 : decode cX0_does 334 = .ok (.ireturn, 1) := dk_172 (dk_at dksX0_does_14 8 rfl rfl)
theorem dX0_does_335 : decode cX0_does 335 = .ok (.aload_n 0, 1) := dk_42 (dk_at dksX0_does_14 9 rfl rfl)
theorem dX0_does_336 : decode cX0_does 336 = .ok (.aload_n 1, 1) := dk_43 (dk_at dksX0_does_14 10 rfl rfl)
theorem dX0_does_337 : decode cX0_does 337 = .ok (.getfield 532, 3) := dk_180 2 20 (dk_at dksX0_does_14 11 rfl rfl)
theorem dX0_does_340 : decode cX0_does 340 = .ok (.invokevirtual 506, 3) := dk_182 1 250 (dk_at dksX0_does_14 14 rfl rfl)
theorem dX0_does_343 : decode cX0_does 343 = .ok (.ifCond .le 5, 3) := dk_158 0 5 (dk_at dksX0_does_14 17 rfl rfl)
theorem dX0_does_346 : decode cX0_does 346 = .ok (.iconst 0, 1) := dk_3 (dk_at dksX0_does_14 20 rfl rfl)
theorem dX0_does_347 : decode cX0_does 347 = .ok (.ireturn, 1) := dk_172 (dk_at dksX0_does_14 21 rfl rfl)
theorem dX0_does_348 : decode cX0_does 348 = .ok (.aload_n 0, 1) := dk_42 (dk_at dksX0_does_14 22 rfl rfl)
theorem dX0_does_349 : decode cX0_does 349 = .ok (.aload_n 0, 1) := dk_42 (dk_at dksX0_does_14 23 rfl rfl)
theorem dX0_does_350 : decode cX0_does 350 = .ok (.getfield 37, 3) := dk_180 0 37 (dk_at dksX0_does_15 0 rfl rfl)
theorem dX0_does_353 : decode cX0_does 353 = .ok (.aload_n 1, 1) := dk_43 (dk_at dksX0_does_15 3 rfl rfl)
theorem dX0_does_354 : decode cX0_does 354 = .ok (.getfield 532, 3) := dk_180 2 20 (dk_at dksX0_does_15 4 rfl rfl)
theorem dX0_does_357 : decode cX0_does 357 = .ok (.aaload, 1) := dk_50 (dk_at dksX0_does_15 7 rfl rfl)
theorem dX0_does_358 : decode cX0_does 358 = .ok (.invokevirtual 509, 3) := dk_182 1 253 (dk_at dksX0_does_15 8 rfl rfl)
theorem dX0_does_361 : decode cX0_does 361 = .ok (.iconst 1, 1) := dk_4 (dk_at dksX0_does_15 11 rfl rfl)
theorem dX0_does_362 : decode cX0_does 362 = .ok (.ireturn, 1) := dk_172 (dk_at dksX0_does_15 12 rfl rfl)
theorem dX0_does_363 : decode cX0_does 363 = .ok (.iconst 1, 1) := dk_4 (dk_at dksX0_does_15 13 rfl rfl)
theorem dX0_does_364 : decode cX0_does 364 = .ok (.ireturn, 1) := dk_172 (dk_at dksX0_does_15 14 rfl rfl)
abbrev cX0_holds : ByteArray := prog_1_method_111_code
def dkwX0_holds_7 : List UInt8 := [180, 2, 20, 50, 4, 182, 1, 211, 158, 0, 7, 4, 167, 0, 4, 3, 172]
abbrev dktX0_holds_7 : List UInt8 := dkwX0_holds_7 ++ []
def dkwX0_holds_6 : List UInt8 := [42, 180, 0, 41, 43, 180, 2, 20, 51, 153, 0, 28, 42, 42, 180, 0, 30, 42, 180, 0, 37, 43]
abbrev dktX0_holds_6 : List UInt8 := dkwX0_holds_6 ++ dktX0_holds_7
def dkwX0_holds_5 : List UInt8 := [43, 180, 2, 20, 182, 1, 89, 182, 2, 22, 172, 42, 43, 42, 180, 0, 30, 180, 0, 196, 182, 2, 22, 172]
abbrev dktX0_holds_5 : List UInt8 := dkwX0_holds_5 ++ dktX0_holds_6
def dkwX0_holds_4 : List UInt8 := [42, 180, 0, 30, 8, 182, 1, 89, 154, 0, 7, 4, 167, 0, 4, 3, 172, 42, 43, 42, 42, 180, 0, 30]
abbrev dktX0_holds_4 : List UInt8 := dkwX0_holds_4 ++ dktX0_holds_5
def dkwX0_holds_3 : List UInt8 := [167, 0, 4, 3, 172, 42, 42, 180, 0, 30, 8, 182, 1, 93, 154, 0, 7, 4, 167, 0, 4, 3, 172, 42]
abbrev dktX0_holds_3 : List UInt8 := dkwX0_holds_3 ++ dktX0_holds_4
def dkwX0_holds_2 : List UInt8 := [42, 42, 180, 0, 30, 182, 1, 33, 172, 42, 42, 180, 0, 30, 4, 182, 1, 89, 154, 0, 7, 4]
abbrev dktX0_holds_2 : List UInt8 := dkwX0_holds_2 ++ dktX0_holds_3
def dkwX0_holds_1 : List UInt8 := [171, 0, 0, 0, 0, 0, 0, 154, 0, 0, 0, 6, 0, 0, 0, 1, 0, 0, 0, 141, 0, 0, 0, 18, 0, 0, 0, 60, 0, 0, 0, 19, 0, 0, 0, 69, 0, 0, 0, 20, 0, 0, 0, 87, 0, 0, 0, 21, 0, 0, 0, 105, 0, 0, 0, 22, 0, 0, 0, 123]
abbrev dktX0_holds_1 : List UInt8 := dkwX0_holds_1 ++ dktX0_holds_2
def dkwX0_holds_0 : List UInt8 := [43, 180, 2, 17]
abbrev dktX0_holds_0 : List UInt8 := dkwX0_holds_0 ++ dktX0_holds_1
theorem dksX0_holds_0 : cX0_holds.data.toList.drop 0 = dktX0_holds_0 := by decide +kernel
theorem dksX0_holds_1 : cX0_holds.data.toList.drop 4 = dktX0_holds_1 := dk_seg dksX0_holds_0 4 rfl rfl
theorem dksX0_holds_2 : cX0_holds.data.toList.drop 64 = dktX0_holds_2 := dk_seg dksX0_holds_1 60 rfl rfl
theorem dksX0_holds_3 : cX0_holds.data.toList.drop 86 = dktX0_holds_3 := dk_seg dksX0_holds_2 22 rfl rfl
theorem dksX0_holds_4 : cX0_holds.data.toList.drop 110 = dktX0_holds_4 := dk_seg dksX0_holds_3 24 rfl rfl
theorem dksX0_holds_5 : cX0_holds.data.toList.drop 134 = dktX0_holds_5 := dk_seg dksX0_holds_4 24 rfl rfl
theorem dksX0_holds_6 : cX0_holds.data.toList.drop 158 = dktX0_holds_6 := dk_seg dksX0_holds_5 24 rfl rfl
theorem dksX0_holds_7 : cX0_holds.data.toList.drop 180 = dktX0_holds_7 := dk_seg dksX0_holds_6 22 rfl rfl
theorem dX0_holds_0 : decode cX0_holds 0 = .ok (.aload_n 1, 1) := dk_43 (dk_at dksX0_holds_0 0 rfl rfl)
theorem dX0_holds_1 : decode cX0_holds 1 = .ok (.getfield 529, 3) := dk_180 2 17 (dk_at dksX0_holds_0 1 rfl rfl)
theorem dX0_holds_4 : decode cX0_holds 4 = .ok (.lookupswitch 154 #[(1, 141), (18, 60), (19, 69), (20, 87), (21, 105), (22, 123)], 60) := by decide +kernel
theorem dX0_holds_64 : decode cX0_holds 64 = .ok (.aload_n 0, 1) := dk_42 (dk_at dksX0_holds_2 0 rfl rfl)
theorem dX0_holds_65 : decode cX0_holds 65 = .ok (.aload_n 0, 1) := dk_42 (dk_at dksX0_holds_2 1 rfl rfl)
theorem dX0_holds_66 : decode cX0_holds 66 = .ok (.getfield 30, 3) := dk_180 0 30 (dk_at dksX0_holds_2 2 rfl rfl)
theorem dX0_holds_69 : decode cX0_holds 69 = .ok (.invokevirtual 289, 3) := dk_182 1 33 (dk_at dksX0_holds_2 5 rfl rfl)
theorem dX0_holds_72 : decode cX0_holds 72 = .ok (.ireturn, 1) := dk_172 (dk_at dksX0_holds_2 8 rfl rfl)
theorem dX0_holds_73 : decode cX0_holds 73 = .ok (.aload_n 0, 1) := dk_42 (dk_at dksX0_holds_2 9 rfl rfl)
theorem dX0_holds_74 : decode cX0_holds 74 = .ok (.aload_n 0, 1) := dk_42 (dk_at dksX0_holds_2 10 rfl rfl)
theorem dX0_holds_75 : decode cX0_holds 75 = .ok (.getfield 30, 3) := dk_180 0 30 (dk_at dksX0_holds_2 11 rfl rfl)
theorem dX0_holds_78 : decode cX0_holds 78 = .ok (.iconst 1, 1) := dk_4 (dk_at dksX0_holds_2 14 rfl rfl)
theorem dX0_holds_79 : decode cX0_holds 79 = .ok (.invokevirtual 345, 3) := dk_182 1 89 (dk_at dksX0_holds_2 15 rfl rfl)
theorem dX0_holds_82 : decode cX0_holds 82 = .ok (.ifCond .ne 7, 3) := dk_154 0 7 (dk_at dksX0_holds_2 18 rfl rfl)
theorem dX0_holds_85 : decode cX0_holds 85 = .ok (.iconst 1, 1) := dk_4 (dk_at dksX0_holds_2 21 rfl rfl)
theorem dX0_holds_86 : decode cX0_holds 86 = .ok (.goto 4, 3) := dk_167 0 4 (dk_at dksX0_holds_3 0 rfl rfl)
theorem dX0_holds_89 : decode cX0_holds 89 = .ok (.iconst 0, 1) := dk_3 (dk_at dksX0_holds_3 3 rfl rfl)
theorem dX0_holds_90 : decode cX0_holds 90 = .ok (.ireturn, 1) := dk_172 (dk_at dksX0_holds_3 4 rfl rfl)
theorem dX0_holds_91 : decode cX0_holds 91 = .ok (.aload_n 0, 1) := dk_42 (dk_at dksX0_holds_3 5 rfl rfl)
theorem dX0_holds_92 : decode cX0_holds 92 = .ok (.aload_n 0, 1) := dk_42 (dk_at dksX0_holds_3 6 rfl rfl)
theorem dX0_holds_93 : decode cX0_holds 93 = .ok (.getfield 30, 3) := dk_180 0 30 (dk_at dksX0_holds_3 7 rfl rfl)
theorem dX0_holds_96 : decode cX0_holds 96 = .ok (.iconst 5, 1) := dk_8 (dk_at dksX0_holds_3 10 rfl rfl)
theorem dX0_holds_97 : decode cX0_holds 97 = .ok (.invokevirtual 349, 3) := dk_182 1 93 (dk_at dksX0_holds_3 11 rfl rfl)
theorem dX0_holds_100 : decode cX0_holds 100 = .ok (.ifCond .ne 7, 3) := dk_154 0 7 (dk_at dksX0_holds_3 14 rfl rfl)
theorem dX0_holds_103 : decode cX0_holds 103 = .ok (.iconst 1, 1) := dk_4 (dk_at dksX0_holds_3 17 rfl rfl)
theorem dX0_holds_104 : decode cX0_holds 104 = .ok (.goto 4, 3) := dk_167 0 4 (dk_at dksX0_holds_3 18 rfl rfl)
theorem dX0_holds_107 : decode cX0_holds 107 = .ok (.iconst 0, 1) := dk_3 (dk_at dksX0_holds_3 21 rfl rfl)
theorem dX0_holds_108 : decode cX0_holds 108 = .ok (.ireturn, 1) := dk_172 (dk_at dksX0_holds_3 22 rfl rfl)
theorem dX0_holds_109 : decode cX0_holds 109 = .ok (.aload_n 0, 1) := dk_42 (dk_at dksX0_holds_3 23 rfl rfl)
theorem dX0_holds_110 : decode cX0_holds 110 = .ok (.aload_n 0, 1) := dk_42 (dk_at dksX0_holds_4 0 rfl rfl)
theorem dX0_holds_111 : decode cX0_holds 111 = .ok (.getfield 30, 3) := dk_180 0 30 (dk_at dksX0_holds_4 1 rfl rfl)
theorem dX0_holds_114 : decode cX0_holds 114 = .ok (.iconst 5, 1) := dk_8 (dk_at dksX0_holds_4 4 rfl rfl)
theorem dX0_holds_115 : decode cX0_holds 115 = .ok (.invokevirtual 345, 3) := dk_182 1 89 (dk_at dksX0_holds_4 5 rfl rfl)
theorem dX0_holds_118 : decode cX0_holds 118 = .ok (.ifCond .ne 7, 3) := dk_154 0 7 (dk_at dksX0_holds_4 8 rfl rfl)
theorem dX0_holds_121 : decode cX0_holds 121 = .ok (.iconst 1, 1) := dk_4 (dk_at dksX0_holds_4 11 rfl rfl)
theorem dX0_holds_122 : decode cX0_holds 122 = .ok (.goto 4, 3) := dk_167 0 4 (dk_at dksX0_holds_4 12 rfl rfl)
theorem dX0_holds_125 : decode cX0_holds 125 = .ok (.iconst 0, 1) := dk_3 (dk_at dksX0_holds_4 15 rfl rfl)
theorem dX0_holds_126 : decode cX0_holds 126 = .ok (.ireturn, 1) := dk_172 (dk_at dksX0_holds_4 16 rfl rfl)
theorem dX0_holds_127 : decode cX0_holds 127 = .ok (.aload_n 0, 1) := dk_42 (dk_at dksX0_holds_4 17 rfl rfl)
theorem dX0_holds_128 : decode cX0_holds 128 = .ok (.aload_n 1, 1) := dk_43 (dk_at dksX0_holds_4 18 rfl rfl)
theorem dX0_holds_129 : decode cX0_holds 129 = .ok (.aload_n 0, 1) := dk_42 (dk_at dksX0_holds_4 19 rfl rfl)
theorem dX0_holds_130 : decode cX0_holds 130 = .ok (.aload_n 0, 1) := dk_42 (dk_at dksX0_holds_4 20 rfl rfl)
theorem dX0_holds_131 : decode cX0_holds 131 = .ok (.getfield 30, 3) := dk_180 0 30 (dk_at dksX0_holds_4 21 rfl rfl)
theorem dX0_holds_134 : decode cX0_holds 134 = .ok (.aload_n 1, 1) := dk_43 (dk_at dksX0_holds_5 0 rfl rfl)
theorem dX0_holds_135 : decode cX0_holds 135 = .ok (.getfield 532, 3) := dk_180 2 20 (dk_at dksX0_holds_5 1 rfl rfl)
theorem dX0_holds_138 : decode cX0_holds 138 = .ok (.invokevirtual 345, 3) := dk_182 1 89 (dk_at dksX0_holds_5 4 rfl rfl)
theorem dX0_holds_141 : decode cX0_holds 141 = .ok (.invokevirtual 534, 3) := dk_182 2 22 (dk_at dksX0_holds_5 7 rfl rfl)
theorem dX0_holds_144 : decode cX0_holds 144 = .ok (.ireturn, 1) := dk_172 (dk_at dksX0_holds_5 10 rfl rfl)
theorem dX0_holds_145 : decode cX0_holds 145 = .ok (.aload_n 0, 1) := dk_42 (dk_at dksX0_holds_5 11 rfl rfl)
theorem dX0_holds_146 : decode cX0_holds 146 = .ok (.aload_n 1, 1) := dk_43 (dk_at dksX0_holds_5 12 rfl rfl)
theorem dX0_holds_147 : decode cX0_holds 147 = .ok (.aload_n 0, 1) := dk_42 (dk_at dksX0_holds_5 13 rfl rfl)
theorem dX0_holds_148 : decode cX0_holds 148 = .ok (.getfield 30, 3) := dk_180 0 30 (dk_at dksX0_holds_5 14 rfl rfl)
theorem dX0_holds_151 : decode cX0_holds 151 = .ok (.getfield 196, 3) := dk_180 0 196 (dk_at dksX0_holds_5 17 rfl rfl)
theorem dX0_holds_154 : decode cX0_holds 154 = .ok (.invokevirtual 534, 3) := dk_182 2 22 (dk_at dksX0_holds_5 20 rfl rfl)
theorem dX0_holds_157 : decode cX0_holds 157 = .ok (.ireturn, 1) := dk_172 (dk_at dksX0_holds_5 23 rfl rfl)
theorem dX0_holds_158 : decode cX0_holds 158 = .ok (.aload_n 0, 1) := dk_42 (dk_at dksX0_holds_6 0 rfl rfl)
theorem dX0_holds_159 : decode cX0_holds 159 = .ok (.getfield 41, 3) := dk_180 0 41 (dk_at dksX0_holds_6 1 rfl rfl)
theorem dX0_holds_162 : decode cX0_holds 162 = .ok (.aload_n 1, 1) := dk_43 (dk_at dksX0_holds_6 4 rfl rfl)
theorem dX0_holds_163 : decode cX0_holds 163 = .ok (.getfield 532, 3) := dk_180 2 20 (dk_at dksX0_holds_6 5 rfl rfl)
theorem dX0_holds_166 : decode cX0_holds 166 = .ok (.baload, 1) := dk_51 (dk_at dksX0_holds_6 8 rfl rfl)
theorem dX0_holds_167 : decode cX0_holds 167 = .ok (.ifCond .eq 28, 3) := dk_153 0 28 (dk_at dksX0_holds_6 9 rfl rfl)
theorem dX0_holds_170 : decode cX0_holds 170 = .ok (.aload_n 0, 1) := dk_42 (dk_at dksX0_holds_6 12 rfl rfl)
theorem dX0_holds_171 : decode cX0_holds 171 = .ok (.aload_n 0, 1) := dk_42 (dk_at dksX0_holds_6 13 rfl rfl)
theorem dX0_holds_172 : decode cX0_holds 172 = .ok (.getfield 30, 3) := dk_180 0 30 (dk_at dksX0_holds_6 14 rfl rfl)
theorem dX0_holds_175 : decode cX0_holds 175 = .ok (.aload_n 0, 1) := dk_42 (dk_at dksX0_holds_6 17 rfl rfl)
theorem dX0_holds_176 : decode cX0_holds 176 = .ok (.getfield 37, 3) := dk_180 0 37 (dk_at dksX0_holds_6 18 rfl rfl)
theorem dX0_holds_179 : decode cX0_holds 179 = .ok (.aload_n 1, 1) := dk_43 (dk_at dksX0_holds_6 21 rfl rfl)
theorem dX0_holds_180 : decode cX0_holds 180 = .ok (.getfield 532, 3) := dk_180 2 20 (dk_at dksX0_holds_7 0 rfl rfl)
theorem dX0_holds_183 : decode cX0_holds 183 = .ok (.aaload, 1) := dk_50 (dk_at dksX0_holds_7 3 rfl rfl)
theorem dX0_holds_184 : decode cX0_holds 184 = .ok (.iconst 1, 1) := dk_4 (dk_at dksX0_holds_7 4 rfl rfl)
theorem dX0_holds_185 : decode cX0_holds 185 = .ok (.invokevirtual 467, 3) := dk_182 1 211 (dk_at dksX0_holds_7 5 rfl rfl)
theorem dX0_holds_188 : decode cX0_holds 188 = .ok (.ifCond .le 7, 3) := dk_158 0 7 (dk_at dksX0_holds_7 8 rfl rfl)
theorem dX0_holds_191 : decode cX0_holds 191 = .ok (.iconst 1, 1) := dk_4 (dk_at dksX0_holds_7 11 rfl rfl)
theorem dX0_holds_192 : decode cX0_holds 192 = .ok (.goto 4, 3) := dk_167 0 4 (dk_at dksX0_holds_7 12 rfl rfl)
theorem dX0_holds_195 : decode cX0_holds 195 = .ok (.iconst 0, 1) := dk_3 (dk_at dksX0_holds_7 15 rfl rfl)
theorem dX0_holds_196 : decode cX0_holds 196 = .ok (.ireturn, 1) := dk_172 (dk_at dksX0_holds_7 16 rfl rfl)
abbrev cX0_compares : ByteArray := prog_1_method_110_code
def dkwX0_compares_2 : List UInt8 := [3, 167, 0, 16, 28, 43, 180, 2, 14, 160, 0, 7, 4, 167, 0, 4, 3, 172]
abbrev dktX0_compares_2 : List UInt8 := dkwX0_compares_2 ++ []
def dkwX0_compares_1 : List UInt8 := [167, 0, 41, 43, 180, 2, 9, 16, 62, 160, 0, 19, 28, 43, 180, 2, 14, 164, 0, 7, 4, 167, 0, 20]
abbrev dktX0_compares_1 : List UInt8 := dkwX0_compares_1 ++ dktX0_compares_2
def dkwX0_compares_0 : List UInt8 := [43, 180, 2, 9, 16, 60, 160, 0, 19, 28, 43, 180, 2, 14, 162, 0, 7, 4, 167, 0, 45, 3]
abbrev dktX0_compares_0 : List UInt8 := dkwX0_compares_0 ++ dktX0_compares_1
theorem dksX0_compares_0 : cX0_compares.data.toList.drop 0 = dktX0_compares_0 := by decide +kernel
theorem dksX0_compares_1 : cX0_compares.data.toList.drop 22 = dktX0_compares_1 := dk_seg dksX0_compares_0 22 rfl rfl
theorem dksX0_compares_2 : cX0_compares.data.toList.drop 46 = dktX0_compares_2 := dk_seg dksX0_compares_1 24 rfl rfl
theorem dX0_compares_0 : decode cX0_compares 0 = .ok (.aload_n 1, 1) := dk_43 (dk_at dksX0_compares_0 0 rfl rfl)
theorem dX0_compares_1 : decode cX0_compares 1 = .ok (.getfield 521, 3) := dk_180 2 9 (dk_at dksX0_compares_0 1 rfl rfl)
theorem dX0_compares_4 : decode cX0_compares 4 = .ok (.bipush 60, 2) := dk_16 60 (dk_at dksX0_compares_0 4 rfl rfl)
theorem dX0_compares_6 : decode cX0_compares 6 = .ok (.if_icmp .ne 19, 3) := dk_160 0 19 (dk_at dksX0_compares_0 6 rfl rfl)
theorem dX0_compares_9 : decode cX0_compares 9 = .ok (.iload_n 2, 1) := dk_28 (dk_at dksX0_compares_0 9 rfl rfl)
theorem dX0_compares_10 : decode cX0_compares 10 = .ok (.aload_n 1, 1) := dk_43 (dk_at dksX0_compares_0 10 rfl rfl)
theorem dX0_compares_11 : decode cX0_compares 11 = .ok (.getfield 526, 3) := dk_180 2 14 (dk_at dksX0_compares_0 11 rfl rfl)
theorem dX0_compares_14 : decode cX0_compares 14 = .ok (.if_icmp .ge 7, 3) := dk_162 0 7 (dk_at dksX0_compares_0 14 rfl rfl)
theorem dX0_compares_17 : decode cX0_compares 17 = .ok (.iconst 1, 1) := dk_4 (dk_at dksX0_compares_0 17 rfl rfl)
theorem dX0_compares_18 : decode cX0_compares 18 = .ok (.goto 45, 3) := dk_167 0 45 (dk_at dksX0_compares_0 18 rfl rfl)
theorem dX0_compares_21 : decode cX0_compares 21 = .ok (.iconst 0, 1) := dk_3 (dk_at dksX0_compares_0 21 rfl rfl)
theorem dX0_compares_22 : decode cX0_compares 22 = .ok (.goto 41, 3) := dk_167 0 41 (dk_at dksX0_compares_1 0 rfl rfl)
theorem dX0_compares_25 : decode cX0_compares 25 = .ok (.aload_n 1, 1) := dk_43 (dk_at dksX0_compares_1 3 rfl rfl)
theorem dX0_compares_26 : decode cX0_compares 26 = .ok (.getfield 521, 3) := dk_180 2 9 (dk_at dksX0_compares_1 4 rfl rfl)
theorem dX0_compares_29 : decode cX0_compares 29 = .ok (.bipush 62, 2) := dk_16 62 (dk_at dksX0_compares_1 7 rfl rfl)
theorem dX0_compares_31 : decode cX0_compares 31 = .ok (.if_icmp .ne 19, 3) := dk_160 0 19 (dk_at dksX0_compares_1 9 rfl rfl)
theorem dX0_compares_34 : decode cX0_compares 34 = .ok (.iload_n 2, 1) := dk_28 (dk_at dksX0_compares_1 12 rfl rfl)
theorem dX0_compares_35 : decode cX0_compares 35 = .ok (.aload_n 1, 1) := dk_43 (dk_at dksX0_compares_1 13 rfl rfl)
theorem dX0_compares_36 : decode cX0_compares 36 = .ok (.getfield 526, 3) := dk_180 2 14 (dk_at dksX0_compares_1 14 rfl rfl)
theorem dX0_compares_39 : decode cX0_compares 39 = .ok (.if_icmp .le 7, 3) := dk_164 0 7 (dk_at dksX0_compares_1 17 rfl rfl)
theorem dX0_compares_42 : decode cX0_compares 42 = .ok (.iconst 1, 1) := dk_4 (dk_at dksX0_compares_1 20 rfl rfl)
theorem dX0_compares_43 : decode cX0_compares 43 = .ok (.goto 20, 3) := dk_167 0 20 (dk_at dksX0_compares_1 21 rfl rfl)
theorem dX0_compares_46 : decode cX0_compares 46 = .ok (.iconst 0, 1) := dk_3 (dk_at dksX0_compares_2 0 rfl rfl)
theorem dX0_compares_47 : decode cX0_compares 47 = .ok (.goto 16, 3) := dk_167 0 16 (dk_at dksX0_compares_2 1 rfl rfl)
theorem dX0_compares_50 : decode cX0_compares 50 = .ok (.iload_n 2, 1) := dk_28 (dk_at dksX0_compares_2 4 rfl rfl)
theorem dX0_compares_51 : decode cX0_compares 51 = .ok (.aload_n 1, 1) := dk_43 (dk_at dksX0_compares_2 5 rfl rfl)
theorem dX0_compares_52 : decode cX0_compares 52 = .ok (.getfield 526, 3) := dk_180 2 14 (dk_at dksX0_compares_2 6 rfl rfl)
theorem dX0_compares_55 : decode cX0_compares 55 = .ok (.if_icmp .ne 7, 3) := dk_160 0 7 (dk_at dksX0_compares_2 9 rfl rfl)
theorem dX0_compares_58 : decode cX0_compares 58 = .ok (.iconst 1, 1) := dk_4 (dk_at dksX0_compares_2 12 rfl rfl)
theorem dX0_compares_59 : decode cX0_compares 59 = .ok (.goto 4, 3) := dk_167 0 4 (dk_at dksX0_compares_2 13 rfl rfl)
theorem dX0_compares_62 : decode cX0_compares 62 = .ok (.iconst 0, 1) := dk_3 (dk_at dksX0_compares_2 16 rfl rfl)
theorem dX0_compares_63 : decode cX0_compares 63 = .ok (.ireturn, 1) := dk_172 (dk_at dksX0_compares_2 17 rfl rfl)
abbrev cX0_behindEnds : ByteArray := prog_1_method_113_code
def dkwX0_behindEnds_4 : List UInt8 := [96, 61, 167, 255, 160, 28, 172]
abbrev dktX0_behindEnds_4 : List UInt8 := dkwX0_behindEnds_4 ++ []
def dkwX0_behindEnds_3 : List UInt8 := [3, 54, 4, 21, 4, 153, 0, 17, 42, 180, 0, 242, 28, 50, 180, 2, 28, 4, 96, 167, 0, 6, 28, 4]
abbrev dktX0_behindEnds_3 : List UInt8 := dkwX0_behindEnds_3 ++ dktX0_behindEnds_4
def dkwX0_behindEnds_2 : List UInt8 := [160, 0, 27, 45, 89, 180, 2, 31, 4, 100, 181, 2, 31, 45, 180, 2, 31, 158, 0, 7, 4, 167, 0, 4]
abbrev dktX0_behindEnds_2 : List UInt8 := dkwX0_behindEnds_2 ++ dktX0_behindEnds_3
def dkwX0_behindEnds_1 : List UInt8 := [42, 180, 0, 242, 42, 180, 0, 242, 28, 50, 180, 2, 28, 50, 78, 3, 54, 4, 45, 180, 2, 25, 16, 13]
abbrev dktX0_behindEnds_1 : List UInt8 := dkwX0_behindEnds_1 ++ dktX0_behindEnds_2
def dkwX0_behindEnds_0 : List UInt8 := [27, 61, 28, 42, 180, 0, 249, 162, 0, 94, 42, 180, 0, 242, 28, 50, 180, 2, 25, 16, 15, 160, 0, 80]
abbrev dktX0_behindEnds_0 : List UInt8 := dkwX0_behindEnds_0 ++ dktX0_behindEnds_1
theorem dksX0_behindEnds_0 : cX0_behindEnds.data.toList.drop 0 = dktX0_behindEnds_0 := by decide +kernel
theorem dksX0_behindEnds_1 : cX0_behindEnds.data.toList.drop 24 = dktX0_behindEnds_1 := dk_seg dksX0_behindEnds_0 24 rfl rfl
theorem dksX0_behindEnds_2 : cX0_behindEnds.data.toList.drop 48 = dktX0_behindEnds_2 := dk_seg dksX0_behindEnds_1 24 rfl rfl
theorem dksX0_behindEnds_3 : cX0_behindEnds.data.toList.drop 72 = dktX0_behindEnds_3 := dk_seg dksX0_behindEnds_2 24 rfl rfl
theorem dksX0_behindEnds_4 : cX0_behindEnds.data.toList.drop 96 = dktX0_behindEnds_4 := dk_seg dksX0_behindEnds_3 24 rfl rfl
theorem dX0_behindEnds_0 : decode cX0_behindEnds 0 = .ok (.iload_n 1, 1) := dk_27 (dk_at dksX0_behindEnds_0 0 rfl rfl)
theorem dX0_behindEnds_1 : decode cX0_behindEnds 1 = .ok (.istore_n 2, 1) := dk_61 (dk_at dksX0_behindEnds_0 1 rfl rfl)
theorem dX0_behindEnds_2 : decode cX0_behindEnds 2 = .ok (.iload_n 2, 1) := dk_28 (dk_at dksX0_behindEnds_0 2 rfl rfl)
theorem dX0_behindEnds_3 : decode cX0_behindEnds 3 = .ok (.aload_n 0, 1) := dk_42 (dk_at dksX0_behindEnds_0 3 rfl rfl)
theorem dX0_behindEnds_4 : decode cX0_behindEnds 4 = .ok (.getfield 249, 3) := dk_180 0 249 (dk_at dksX0_behindEnds_0 4 rfl rfl)
theorem dX0_behindEnds_7 : decode cX0_behindEnds 7 = .ok (.if_icmp .ge 94, 3) := dk_162 0 94 (dk_at dksX0_behindEnds_0 7 rfl rfl)
theorem dX0_behindEnds_10 : decode cX0_behindEnds 10 = .ok (.aload_n 0, 1) := dk_42 (dk_at dksX0_behindEnds_0 10 rfl rfl)
theorem dX0_behindEnds_11 : decode cX0_behindEnds 11 = .ok (.getfield 242, 3) := dk_180 0 242 (dk_at dksX0_behindEnds_0 11 rfl rfl)
theorem dX0_behindEnds_14 : decode cX0_behindEnds 14 = .ok (.iload_n 2, 1) := dk_28 (dk_at dksX0_behindEnds_0 14 rfl rfl)
theorem dX0_behindEnds_15 : decode cX0_behindEnds 15 = .ok (.aaload, 1) := dk_50 (dk_at dksX0_behindEnds_0 15 rfl rfl)
theorem dX0_behindEnds_16 : decode cX0_behindEnds 16 = .ok (.getfield 537, 3) := dk_180 2 25 (dk_at dksX0_behindEnds_0 16 rfl rfl)
theorem dX0_behindEnds_19 : decode cX0_behindEnds 19 = .ok (.bipush 15, 2) := dk_16 15 (dk_at dksX0_behindEnds_0 19 rfl rfl)
theorem dX0_behindEnds_21 : decode cX0_behindEnds 21 = .ok (.if_icmp .ne 80, 3) := dk_160 0 80 (dk_at dksX0_behindEnds_0 21 rfl rfl)
theorem dX0_behindEnds_24 : decode cX0_behindEnds 24 = .ok (.aload_n 0, 1) := dk_42 (dk_at dksX0_behindEnds_1 0 rfl rfl)
theorem dX0_behindEnds_25 : decode cX0_behindEnds 25 = .ok (.getfield 242, 3) := dk_180 0 242 (dk_at dksX0_behindEnds_1 1 rfl rfl)
theorem dX0_behindEnds_28 : decode cX0_behindEnds 28 = .ok (.aload_n 0, 1) := dk_42 (dk_at dksX0_behindEnds_1 4 rfl rfl)
theorem dX0_behindEnds_29 : decode cX0_behindEnds 29 = .ok (.getfield 242, 3) := dk_180 0 242 (dk_at dksX0_behindEnds_1 5 rfl rfl)
theorem dX0_behindEnds_32 : decode cX0_behindEnds 32 = .ok (.iload_n 2, 1) := dk_28 (dk_at dksX0_behindEnds_1 8 rfl rfl)
theorem dX0_behindEnds_33 : decode cX0_behindEnds 33 = .ok (.aaload, 1) := dk_50 (dk_at dksX0_behindEnds_1 9 rfl rfl)
theorem dX0_behindEnds_34 : decode cX0_behindEnds 34 = .ok (.getfield 540, 3) := dk_180 2 28 (dk_at dksX0_behindEnds_1 10 rfl rfl)
theorem dX0_behindEnds_37 : decode cX0_behindEnds 37 = .ok (.aaload, 1) := dk_50 (dk_at dksX0_behindEnds_1 13 rfl rfl)
theorem dX0_behindEnds_38 : decode cX0_behindEnds 38 = .ok (.astore_n 3, 1) := dk_78 (dk_at dksX0_behindEnds_1 14 rfl rfl)
theorem dX0_behindEnds_39 : decode cX0_behindEnds 39 = .ok (.iconst 0, 1) := dk_3 (dk_at dksX0_behindEnds_1 15 rfl rfl)
theorem dX0_behindEnds_40 : decode cX0_behindEnds 40 = .ok (.istore 4, 2) := dk_54 4 (dk_at dksX0_behindEnds_1 16 rfl rfl)
theorem dX0_behindEnds_42 : decode cX0_behindEnds 42 = .ok (.aload_n 3, 1) := dk_45 (dk_at dksX0_behindEnds_1 18 rfl rfl)
theorem dX0_behindEnds_43 : decode cX0_behindEnds 43 = .ok (.getfield 537, 3) := dk_180 2 25 (dk_at dksX0_behindEnds_1 19 rfl rfl)
theorem dX0_behindEnds_46 : decode cX0_behindEnds 46 = .ok (.bipush 13, 2) := dk_16 13 (dk_at dksX0_behindEnds_1 22 rfl rfl)
theorem dX0_behindEnds_48 : decode cX0_behindEnds 48 = .ok (.if_icmp .ne 27, 3) := dk_160 0 27 (dk_at dksX0_behindEnds_2 0 rfl rfl)
theorem dX0_behindEnds_51 : decode cX0_behindEnds 51 = .ok (.aload_n 3, 1) := dk_45 (dk_at dksX0_behindEnds_2 3 rfl rfl)
theorem dX0_behindEnds_52 : decode cX0_behindEnds 52 = .ok (.dup, 1) := dk_89 (dk_at dksX0_behindEnds_2 4 rfl rfl)
theorem dX0_behindEnds_53 : decode cX0_behindEnds 53 = .ok (.getfield 543, 3) := dk_180 2 31 (dk_at dksX0_behindEnds_2 5 rfl rfl)
theorem dX0_behindEnds_56 : decode cX0_behindEnds 56 = .ok (.iconst 1, 1) := dk_4 (dk_at dksX0_behindEnds_2 8 rfl rfl)
theorem dX0_behindEnds_57 : decode cX0_behindEnds 57 = .ok (.isub, 1) := dk_100 (dk_at dksX0_behindEnds_2 9 rfl rfl)
theorem dX0_behindEnds_58 : decode cX0_behindEnds 58 = .ok (.putfield 543, 3) := dk_181 2 31 (dk_at dksX0_behindEnds_2 10 rfl rfl)
theorem dX0_behindEnds_61 : decode cX0_behindEnds 61 = .ok (.aload_n 3, 1) := dk_45 (dk_at dksX0_behindEnds_2 13 rfl rfl)
theorem dX0_behindEnds_62 : decode cX0_behindEnds 62 = .ok (.getfield 543, 3) := dk_180 2 31 (dk_at dksX0_behindEnds_2 14 rfl rfl)
theorem dX0_behindEnds_65 : decode cX0_behindEnds 65 = .ok (.ifCond .le 7, 3) := dk_158 0 7 (dk_at dksX0_behindEnds_2 17 rfl rfl)
theorem dX0_behindEnds_68 : decode cX0_behindEnds 68 = .ok (.iconst 1, 1) := dk_4 (dk_at dksX0_behindEnds_2 20 rfl rfl)
theorem dX0_behindEnds_69 : decode cX0_behindEnds 69 = .ok (.goto 4, 3) := dk_167 0 4 (dk_at dksX0_behindEnds_2 21 rfl rfl)
theorem dX0_behindEnds_72 : decode cX0_behindEnds 72 = .ok (.iconst 0, 1) := dk_3 (dk_at dksX0_behindEnds_3 0 rfl rfl)
theorem dX0_behindEnds_73 : decode cX0_behindEnds 73 = .ok (.istore 4, 2) := dk_54 4 (dk_at dksX0_behindEnds_3 1 rfl rfl)
theorem dX0_behindEnds_75 : decode cX0_behindEnds 75 = .ok (.iload 4, 2) := dk_21 4 (dk_at dksX0_behindEnds_3 3 rfl rfl)
theorem dX0_behindEnds_77 : decode cX0_behindEnds 77 = .ok (.ifCond .eq 17, 3) := dk_153 0 17 (dk_at dksX0_behindEnds_3 5 rfl rfl)
theorem dX0_behindEnds_80 : decode cX0_behindEnds 80 = .ok (.aload_n 0, 1) := dk_42 (dk_at dksX0_behindEnds_3 8 rfl rfl)
theorem dX0_behindEnds_81 : decode cX0_behindEnds 81 = .ok (.getfield 242, 3) := dk_180 0 242 (dk_at dksX0_behindEnds_3 9 rfl rfl)
theorem dX0_behindEnds_84 : decode cX0_behindEnds 84 = .ok (.iload_n 2, 1) := dk_28 (dk_at dksX0_behindEnds_3 12 rfl rfl)
theorem dX0_behindEnds_85 : decode cX0_behindEnds 85 = .ok (.aaload, 1) := dk_50 (dk_at dksX0_behindEnds_3 13 rfl rfl)
theorem dX0_behindEnds_86 : decode cX0_behindEnds 86 = .ok (.getfield 540, 3) := dk_180 2 28 (dk_at dksX0_behindEnds_3 14 rfl rfl)
theorem dX0_behindEnds_89 : decode cX0_behindEnds 89 = .ok (.iconst 1, 1) := dk_4 (dk_at dksX0_behindEnds_3 17 rfl rfl)
theorem dX0_behindEnds_90 : decode cX0_behindEnds 90 = .ok (.iadd, 1) := dk_96 (dk_at dksX0_behindEnds_3 18 rfl rfl)
theorem dX0_behindEnds_91 : decode cX0_behindEnds 91 = .ok (.goto 6, 3) := dk_167 0 6 (dk_at dksX0_behindEnds_3 19 rfl rfl)
theorem dX0_behindEnds_94 : decode cX0_behindEnds 94 = .ok (.iload_n 2, 1) := dk_28 (dk_at dksX0_behindEnds_3 22 rfl rfl)
theorem dX0_behindEnds_95 : decode cX0_behindEnds 95 = .ok (.iconst 1, 1) := dk_4 (dk_at dksX0_behindEnds_3 23 rfl rfl)
theorem dX0_behindEnds_96 : decode cX0_behindEnds 96 = .ok (.iadd, 1) := dk_96 (dk_at dksX0_behindEnds_4 0 rfl rfl)
theorem dX0_behindEnds_97 : decode cX0_behindEnds 97 = .ok (.istore_n 2, 1) := dk_61 (dk_at dksX0_behindEnds_4 1 rfl rfl)
theorem dX0_behindEnds_98 : decode cX0_behindEnds 98 = .ok (.goto (-96), 3) := dk_167 255 160 (dk_at dksX0_behindEnds_4 2 rfl rfl)
theorem dX0_behindEnds_101 : decode cX0_behindEnds 101 = .ok (.iload_n 2, 1) := dk_28 (dk_at dksX0_behindEnds_4 5 rfl rfl)
theorem dX0_behindEnds_102 : decode cX0_behindEnds 102 = .ok (.ireturn, 1) := dk_172 (dk_at dksX0_behindEnds_4 6 rfl rfl)
abbrev cX0_ran : ByteArray := prog_1_method_115_code
def dkwX0_ran_2 : List UInt8 := [182, 0, 171, 172]
abbrev dktX0_ran_2 : List UInt8 := dkwX0_ran_2 ++ []
def dkwX0_ran_1 : List UInt8 := [154, 0, 10, 42, 180, 2, 52, 167, 0, 7, 42, 180, 2, 55, 182, 0, 235, 167, 0, 9, 42, 16, 8]
abbrev dktX0_ran_1 : List UInt8 := dkwX0_ran_1 ++ dktX0_ran_2
def dkwX0_ran_0 : List UInt8 := [27, 155, 0, 8, 27, 4, 164, 0, 9, 42, 8, 182, 0, 171, 172, 42, 180, 2, 58, 153, 0, 25, 42, 27]
abbrev dktX0_ran_0 : List UInt8 := dkwX0_ran_0 ++ dktX0_ran_1
theorem dksX0_ran_0 : cX0_ran.data.toList.drop 0 = dktX0_ran_0 := by decide +kernel
theorem dksX0_ran_1 : cX0_ran.data.toList.drop 24 = dktX0_ran_1 := dk_seg dksX0_ran_0 24 rfl rfl
theorem dksX0_ran_2 : cX0_ran.data.toList.drop 47 = dktX0_ran_2 := dk_seg dksX0_ran_1 23 rfl rfl
theorem dX0_ran_0 : decode cX0_ran 0 = .ok (.iload_n 1, 1) := dk_27 (dk_at dksX0_ran_0 0 rfl rfl)
theorem dX0_ran_1 : decode cX0_ran 1 = .ok (.ifCond .lt 8, 3) := dk_155 0 8 (dk_at dksX0_ran_0 1 rfl rfl)
theorem dX0_ran_4 : decode cX0_ran 4 = .ok (.iload_n 1, 1) := dk_27 (dk_at dksX0_ran_0 4 rfl rfl)
theorem dX0_ran_5 : decode cX0_ran 5 = .ok (.iconst 1, 1) := dk_4 (dk_at dksX0_ran_0 5 rfl rfl)
theorem dX0_ran_6 : decode cX0_ran 6 = .ok (.if_icmp .le 9, 3) := dk_164 0 9 (dk_at dksX0_ran_0 6 rfl rfl)
theorem dX0_ran_9 : decode cX0_ran 9 = .ok (.aload_n 0, 1) := dk_42 (dk_at dksX0_ran_0 9 rfl rfl)
theorem dX0_ran_10 : decode cX0_ran 10 = .ok (.iconst 5, 1) := dk_8 (dk_at dksX0_ran_0 10 rfl rfl)
theorem dX0_ran_11 : decode cX0_ran 11 = .ok (.invokevirtual 171, 3) := dk_182 0 171 (dk_at dksX0_ran_0 11 rfl rfl)
theorem dX0_ran_14 : decode cX0_ran 14 = .ok (.ireturn, 1) := dk_172 (dk_at dksX0_ran_0 14 rfl rfl)
theorem dX0_ran_15 : decode cX0_ran 15 = .ok (.aload_n 0, 1) := dk_42 (dk_at dksX0_ran_0 15 rfl rfl)
theorem dX0_ran_16 : decode cX0_ran 16 = .ok (.getfield 570, 3) := dk_180 2 58 (dk_at dksX0_ran_0 16 rfl rfl)
theorem dX0_ran_19 : decode cX0_ran 19 = .ok (.ifCond .eq 25, 3) := dk_153 0 25 (dk_at dksX0_ran_0 19 rfl rfl)
theorem dX0_ran_22 : decode cX0_ran 22 = .ok (.aload_n 0, 1) := dk_42 (dk_at dksX0_ran_0 22 rfl rfl)
theorem dX0_ran_23 : decode cX0_ran 23 = .ok (.iload_n 1, 1) := dk_27 (dk_at dksX0_ran_0 23 rfl rfl)
theorem dX0_ran_24 : decode cX0_ran 24 = .ok (.ifCond .ne 10, 3) := dk_154 0 10 (dk_at dksX0_ran_1 0 rfl rfl)
theorem dX0_ran_27 : decode cX0_ran 27 = .ok (.aload_n 0, 1) := dk_42 (dk_at dksX0_ran_1 3 rfl rfl)
theorem dX0_ran_28 : decode cX0_ran 28 = .ok (.getfield 564, 3) := dk_180 2 52 (dk_at dksX0_ran_1 4 rfl rfl)
theorem dX0_ran_31 : decode cX0_ran 31 = .ok (.goto 7, 3) := dk_167 0 7 (dk_at dksX0_ran_1 7 rfl rfl)
theorem dX0_ran_34 : decode cX0_ran 34 = .ok (.aload_n 0, 1) := dk_42 (dk_at dksX0_ran_1 10 rfl rfl)
theorem dX0_ran_35 : decode cX0_ran 35 = .ok (.getfield 567, 3) := dk_180 2 55 (dk_at dksX0_ran_1 11 rfl rfl)
theorem dX0_ran_38 : decode cX0_ran 38 = .ok (.invokevirtual 235, 3) := dk_182 0 235 (dk_at dksX0_ran_1 14 rfl rfl)
theorem dX0_ran_41 : decode cX0_ran 41 = .ok (.goto 9, 3) := dk_167 0 9 (dk_at dksX0_ran_1 17 rfl rfl)
theorem dX0_ran_44 : decode cX0_ran 44 = .ok (.aload_n 0, 1) := dk_42 (dk_at dksX0_ran_1 20 rfl rfl)
theorem dX0_ran_45 : decode cX0_ran 45 = .ok (.bipush 8, 2) := dk_16 8 (dk_at dksX0_ran_1 21 rfl rfl)
theorem dX0_ran_47 : decode cX0_ran 47 = .ok (.invokevirtual 171, 3) := dk_182 0 171 (dk_at dksX0_ran_2 0 rfl rfl)
theorem dX0_ran_50 : decode cX0_ran 50 = .ok (.ireturn, 1) := dk_172 (dk_at dksX0_ran_2 3 rfl rfl)
abbrev cX0_mark : ByteArray := prog_1_method_116_code
def dkwX0_mark_4 : List UInt8 := [42, 89, 180, 2, 61, 4, 96, 181, 2, 61, 42, 42, 180, 2, 61, 182, 0, 235, 172]
abbrev dktX0_mark_4 : List UInt8 := dkwX0_mark_4 ++ []
def dkwX0_mark_3 : List UInt8 := [180, 2, 66, 3, 7, 184, 0, 188, 43, 42, 180, 0, 242, 181, 2, 67, 43, 42, 180, 0, 249, 181, 2, 68]
abbrev dktX0_mark_3 : List UInt8 := dkwX0_mark_3 ++ dktX0_mark_4
def dkwX0_mark_2 : List UInt8 := [50, 42, 180, 0, 37, 28, 50, 182, 0, 231, 132, 2, 1, 167, 255, 233, 42, 180, 0, 41, 3, 43]
abbrev dktX0_mark_2 : List UInt8 := dkwX0_mark_2 ++ dktX0_mark_3
def dkwX0_mark_1 : List UInt8 := [76, 43, 180, 2, 64, 42, 180, 0, 30, 182, 0, 231, 3, 61, 28, 7, 162, 0, 24, 43, 180, 2, 65, 28]
abbrev dktX0_mark_1 : List UInt8 := dkwX0_mark_1 ++ dktX0_mark_2
def dkwX0_mark_0 : List UInt8 := [42, 180, 2, 61, 6, 160, 0, 10, 42, 16, 7, 182, 0, 171, 172, 42, 180, 0, 138, 42, 180, 2, 61, 50]
abbrev dktX0_mark_0 : List UInt8 := dkwX0_mark_0 ++ dktX0_mark_1
theorem dksX0_mark_0 : cX0_mark.data.toList.drop 0 = dktX0_mark_0 := by decide +kernel
theorem dksX0_mark_1 : cX0_mark.data.toList.drop 24 = dktX0_mark_1 := dk_seg dksX0_mark_0 24 rfl rfl
theorem dksX0_mark_2 : cX0_mark.data.toList.drop 48 = dktX0_mark_2 := dk_seg dksX0_mark_1 24 rfl rfl
theorem dksX0_mark_3 : cX0_mark.data.toList.drop 70 = dktX0_mark_3 := dk_seg dksX0_mark_2 22 rfl rfl
theorem dksX0_mark_4 : cX0_mark.data.toList.drop 94 = dktX0_mark_4 := dk_seg dksX0_mark_3 24 rfl rfl
theorem dX0_mark_0 : decode cX0_mark 0 = .ok (.aload_n 0, 1) := dk_42 (dk_at dksX0_mark_0 0 rfl rfl)
theorem dX0_mark_1 : decode cX0_mark 1 = .ok (.getfield 573, 3) := dk_180 2 61 (dk_at dksX0_mark_0 1 rfl rfl)
theorem dX0_mark_4 : decode cX0_mark 4 = .ok (.iconst 3, 1) := dk_6 (dk_at dksX0_mark_0 4 rfl rfl)
theorem dX0_mark_5 : decode cX0_mark 5 = .ok (.if_icmp .ne 10, 3) := dk_160 0 10 (dk_at dksX0_mark_0 5 rfl rfl)
theorem dX0_mark_8 : decode cX0_mark 8 = .ok (.aload_n 0, 1) := dk_42 (dk_at dksX0_mark_0 8 rfl rfl)
theorem dX0_mark_9 : decode cX0_mark 9 = .ok (.bipush 7, 2) := dk_16 7 (dk_at dksX0_mark_0 9 rfl rfl)
theorem dX0_mark_11 : decode cX0_mark 11 = .ok (.invokevirtual 171, 3) := dk_182 0 171 (dk_at dksX0_mark_0 11 rfl rfl)
theorem dX0_mark_14 : decode cX0_mark 14 = .ok (.ireturn, 1) := dk_172 (dk_at dksX0_mark_0 14 rfl rfl)
theorem dX0_mark_15 : decode cX0_mark 15 = .ok (.aload_n 0, 1) := dk_42 (dk_at dksX0_mark_0 15 rfl rfl)
theorem dX0_mark_16 : decode cX0_mark 16 = .ok (.getfield 138, 3) := dk_180 0 138 (dk_at dksX0_mark_0 16 rfl rfl)
theorem dX0_mark_19 : decode cX0_mark 19 = .ok (.aload_n 0, 1) := dk_42 (dk_at dksX0_mark_0 19 rfl rfl)
theorem dX0_mark_20 : decode cX0_mark 20 = .ok (.getfield 573, 3) := dk_180 2 61 (dk_at dksX0_mark_0 20 rfl rfl)
theorem dX0_mark_23 : decode cX0_mark 23 = .ok (.aaload, 1) := dk_50 (dk_at dksX0_mark_0 23 rfl rfl)
theorem dX0_mark_24 : decode cX0_mark 24 = .ok (.astore_n 1, 1) := dk_76 (dk_at dksX0_mark_1 0 rfl rfl)
theorem dX0_mark_25 : decode cX0_mark 25 = .ok (.aload_n 1, 1) := dk_43 (dk_at dksX0_mark_1 1 rfl rfl)
theorem dX0_mark_26 : decode cX0_mark 26 = .ok (.getfield 576, 3) := dk_180 2 64 (dk_at dksX0_mark_1 2 rfl rfl)
theorem dX0_mark_29 : decode cX0_mark 29 = .ok (.aload_n 0, 1) := dk_42 (dk_at dksX0_mark_1 5 rfl rfl)
theorem dX0_mark_30 : decode cX0_mark 30 = .ok (.getfield 30, 3) := dk_180 0 30 (dk_at dksX0_mark_1 6 rfl rfl)
theorem dX0_mark_33 : decode cX0_mark 33 = .ok (.invokevirtual 231, 3) := dk_182 0 231 (dk_at dksX0_mark_1 9 rfl rfl)
theorem dX0_mark_36 : decode cX0_mark 36 = .ok (.iconst 0, 1) := dk_3 (dk_at dksX0_mark_1 12 rfl rfl)
theorem dX0_mark_37 : decode cX0_mark 37 = .ok (.istore_n 2, 1) := dk_61 (dk_at dksX0_mark_1 13 rfl rfl)
theorem dX0_mark_38 : decode cX0_mark 38 = .ok (.iload_n 2, 1) := dk_28 (dk_at dksX0_mark_1 14 rfl rfl)
theorem dX0_mark_39 : decode cX0_mark 39 = .ok (.iconst 4, 1) := dk_7 (dk_at dksX0_mark_1 15 rfl rfl)
theorem dX0_mark_40 : decode cX0_mark 40 = .ok (.if_icmp .ge 24, 3) := dk_162 0 24 (dk_at dksX0_mark_1 16 rfl rfl)
theorem dX0_mark_43 : decode cX0_mark 43 = .ok (.aload_n 1, 1) := dk_43 (dk_at dksX0_mark_1 19 rfl rfl)
theorem dX0_mark_44 : decode cX0_mark 44 = .ok (.getfield 577, 3) := dk_180 2 65 (dk_at dksX0_mark_1 20 rfl rfl)
theorem dX0_mark_47 : decode cX0_mark 47 = .ok (.iload_n 2, 1) := dk_28 (dk_at dksX0_mark_1 23 rfl rfl)
theorem dX0_mark_48 : decode cX0_mark 48 = .ok (.aaload, 1) := dk_50 (dk_at dksX0_mark_2 0 rfl rfl)
theorem dX0_mark_49 : decode cX0_mark 49 = .ok (.aload_n 0, 1) := dk_42 (dk_at dksX0_mark_2 1 rfl rfl)
theorem dX0_mark_50 : decode cX0_mark 50 = .ok (.getfield 37, 3) := dk_180 0 37 (dk_at dksX0_mark_2 2 rfl rfl)
theorem dX0_mark_53 : decode cX0_mark 53 = .ok (.iload_n 2, 1) := dk_28 (dk_at dksX0_mark_2 5 rfl rfl)
theorem dX0_mark_54 : decode cX0_mark 54 = .ok (.aaload, 1) := dk_50 (dk_at dksX0_mark_2 6 rfl rfl)
theorem dX0_mark_55 : decode cX0_mark 55 = .ok (.invokevirtual 231, 3) := dk_182 0 231 (dk_at dksX0_mark_2 7 rfl rfl)
theorem dX0_mark_58 : decode cX0_mark 58 = .ok (.iinc 2 1, 3) := dk_132 2 1 (dk_at dksX0_mark_2 10 rfl rfl)
theorem dX0_mark_61 : decode cX0_mark 61 = .ok (.goto (-23), 3) := dk_167 255 233 (dk_at dksX0_mark_2 13 rfl rfl)
theorem dX0_mark_64 : decode cX0_mark 64 = .ok (.aload_n 0, 1) := dk_42 (dk_at dksX0_mark_2 16 rfl rfl)
theorem dX0_mark_65 : decode cX0_mark 65 = .ok (.getfield 41, 3) := dk_180 0 41 (dk_at dksX0_mark_2 17 rfl rfl)
theorem dX0_mark_68 : decode cX0_mark 68 = .ok (.iconst 0, 1) := dk_3 (dk_at dksX0_mark_2 20 rfl rfl)
theorem dX0_mark_69 : decode cX0_mark 69 = .ok (.aload_n 1, 1) := dk_43 (dk_at dksX0_mark_2 21 rfl rfl)
theorem dX0_mark_70 : decode cX0_mark 70 = .ok (.getfield 578, 3) := dk_180 2 66 (dk_at dksX0_mark_3 0 rfl rfl)
theorem dX0_mark_73 : decode cX0_mark 73 = .ok (.iconst 0, 1) := dk_3 (dk_at dksX0_mark_3 3 rfl rfl)
theorem dX0_mark_74 : decode cX0_mark 74 = .ok (.iconst 4, 1) := dk_7 (dk_at dksX0_mark_3 4 rfl rfl)
theorem dX0_mark_75 : decode cX0_mark 75 = .ok (.invokestatic 188, 3) := dk_184 0 188 (dk_at dksX0_mark_3 5 rfl rfl)
theorem dX0_mark_78 : decode cX0_mark 78 = .ok (.aload_n 1, 1) := dk_43 (dk_at dksX0_mark_3 8 rfl rfl)
theorem dX0_mark_79 : decode cX0_mark 79 = .ok (.aload_n 0, 1) := dk_42 (dk_at dksX0_mark_3 9 rfl rfl)
theorem dX0_mark_80 : decode cX0_mark 80 = .ok (.getfield 242, 3) := dk_180 0 242 (dk_at dksX0_mark_3 10 rfl rfl)
theorem dX0_mark_83 : decode cX0_mark 83 = .ok (.putfield 579, 3) := dk_181 2 67 (dk_at dksX0_mark_3 13 rfl rfl)
theorem dX0_mark_86 : decode cX0_mark 86 = .ok (.aload_n 1, 1) := dk_43 (dk_at dksX0_mark_3 16 rfl rfl)
theorem dX0_mark_87 : decode cX0_mark 87 = .ok (.aload_n 0, 1) := dk_42 (dk_at dksX0_mark_3 17 rfl rfl)
theorem dX0_mark_88 : decode cX0_mark 88 = .ok (.getfield 249, 3) := dk_180 0 249 (dk_at dksX0_mark_3 18 rfl rfl)
theorem dX0_mark_91 : decode cX0_mark 91 = .ok (.putfield 580, 3) := dk_181 2 68 (dk_at dksX0_mark_3 21 rfl rfl)
theorem dX0_mark_94 : decode cX0_mark 94 = .ok (.aload_n 0, 1) := dk_42 (dk_at dksX0_mark_4 0 rfl rfl)
theorem dX0_mark_95 : decode cX0_mark 95 = .ok (.dup, 1) := dk_89 (dk_at dksX0_mark_4 1 rfl rfl)
theorem dX0_mark_96 : decode cX0_mark 96 = .ok (.getfield 573, 3) := dk_180 2 61 (dk_at dksX0_mark_4 2 rfl rfl)
theorem dX0_mark_99 : decode cX0_mark 99 = .ok (.iconst 1, 1) := dk_4 (dk_at dksX0_mark_4 5 rfl rfl)
theorem dX0_mark_100 : decode cX0_mark 100 = .ok (.iadd, 1) := dk_96 (dk_at dksX0_mark_4 6 rfl rfl)
theorem dX0_mark_101 : decode cX0_mark 101 = .ok (.putfield 573, 3) := dk_181 2 61 (dk_at dksX0_mark_4 7 rfl rfl)
theorem dX0_mark_104 : decode cX0_mark 104 = .ok (.aload_n 0, 1) := dk_42 (dk_at dksX0_mark_4 10 rfl rfl)
theorem dX0_mark_105 : decode cX0_mark 105 = .ok (.aload_n 0, 1) := dk_42 (dk_at dksX0_mark_4 11 rfl rfl)
theorem dX0_mark_106 : decode cX0_mark 106 = .ok (.getfield 573, 3) := dk_180 2 61 (dk_at dksX0_mark_4 12 rfl rfl)
theorem dX0_mark_109 : decode cX0_mark 109 = .ok (.invokevirtual 235, 3) := dk_182 0 235 (dk_at dksX0_mark_4 15 rfl rfl)
theorem dX0_mark_112 : decode cX0_mark 112 = .ok (.ireturn, 1) := dk_172 (dk_at dksX0_mark_4 18 rfl rfl)
abbrev cX0_back : ByteArray := prog_1_method_117_code
def dkwX0_back_4 : List UInt8 := [181, 0, 242, 42, 43, 180, 2, 68, 181, 0, 249, 42, 42, 180, 2, 61, 182, 0, 235, 172]
abbrev dktX0_back_4 : List UInt8 := dkwX0_back_4 ++ []
def dkwX0_back_3 : List UInt8 := [167, 255, 233, 43, 180, 2, 66, 3, 42, 180, 0, 41, 3, 7, 184, 0, 188, 42, 43, 180, 2, 67]
abbrev dktX0_back_3 : List UInt8 := dkwX0_back_3 ++ dktX0_back_4
def dkwX0_back_2 : List UInt8 := [7, 162, 0, 24, 42, 180, 0, 37, 28, 50, 43, 180, 2, 65, 28, 50, 182, 0, 231, 132, 2, 1]
abbrev dktX0_back_2 : List UInt8 := dkwX0_back_2 ++ dktX0_back_3
def dkwX0_back_1 : List UInt8 := [42, 180, 0, 138, 42, 180, 2, 61, 50, 76, 42, 180, 0, 30, 43, 180, 2, 64, 182, 0, 231, 3, 61, 28]
abbrev dktX0_back_1 : List UInt8 := dkwX0_back_1 ++ dktX0_back_2
def dkwX0_back_0 : List UInt8 := [42, 180, 2, 61, 154, 0, 10, 42, 16, 8, 182, 0, 171, 172, 42, 89, 180, 2, 61, 4, 100, 181, 2, 61]
abbrev dktX0_back_0 : List UInt8 := dkwX0_back_0 ++ dktX0_back_1
theorem dksX0_back_0 : cX0_back.data.toList.drop 0 = dktX0_back_0 := by decide +kernel
theorem dksX0_back_1 : cX0_back.data.toList.drop 24 = dktX0_back_1 := dk_seg dksX0_back_0 24 rfl rfl
theorem dksX0_back_2 : cX0_back.data.toList.drop 48 = dktX0_back_2 := dk_seg dksX0_back_1 24 rfl rfl
theorem dksX0_back_3 : cX0_back.data.toList.drop 70 = dktX0_back_3 := dk_seg dksX0_back_2 22 rfl rfl
theorem dksX0_back_4 : cX0_back.data.toList.drop 92 = dktX0_back_4 := dk_seg dksX0_back_3 22 rfl rfl
theorem dX0_back_0 : decode cX0_back 0 = .ok (.aload_n 0, 1) := dk_42 (dk_at dksX0_back_0 0 rfl rfl)
theorem dX0_back_1 : decode cX0_back 1 = .ok (.getfield 573, 3) := dk_180 2 61 (dk_at dksX0_back_0 1 rfl rfl)
theorem dX0_back_4 : decode cX0_back 4 = .ok (.ifCond .ne 10, 3) := dk_154 0 10 (dk_at dksX0_back_0 4 rfl rfl)
theorem dX0_back_7 : decode cX0_back 7 = .ok (.aload_n 0, 1) := dk_42 (dk_at dksX0_back_0 7 rfl rfl)
theorem dX0_back_8 : decode cX0_back 8 = .ok (.bipush 8, 2) := dk_16 8 (dk_at dksX0_back_0 8 rfl rfl)
theorem dX0_back_10 : decode cX0_back 10 = .ok (.invokevirtual 171, 3) := dk_182 0 171 (dk_at dksX0_back_0 10 rfl rfl)
theorem dX0_back_13 : decode cX0_back 13 = .ok (.ireturn, 1) := dk_172 (dk_at dksX0_back_0 13 rfl rfl)
theorem dX0_back_14 : decode cX0_back 14 = .ok (.aload_n 0, 1) := dk_42 (dk_at dksX0_back_0 14 rfl rfl)
theorem dX0_back_15 : decode cX0_back 15 = .ok (.dup, 1) := dk_89 (dk_at dksX0_back_0 15 rfl rfl)
theorem dX0_back_16 : decode cX0_back 16 = .ok (.getfield 573, 3) := dk_180 2 61 (dk_at dksX0_back_0 16 rfl rfl)
theorem dX0_back_19 : decode cX0_back 19 = .ok (.iconst 1, 1) := dk_4 (dk_at dksX0_back_0 19 rfl rfl)
theorem dX0_back_20 : decode cX0_back 20 = .ok (.isub, 1) := dk_100 (dk_at dksX0_back_0 20 rfl rfl)
theorem dX0_back_21 : decode cX0_back 21 = .ok (.putfield 573, 3) := dk_181 2 61 (dk_at dksX0_back_0 21 rfl rfl)
theorem dX0_back_24 : decode cX0_back 24 = .ok (.aload_n 0, 1) := dk_42 (dk_at dksX0_back_1 0 rfl rfl)
theorem dX0_back_25 : decode cX0_back 25 = .ok (.getfield 138, 3) := dk_180 0 138 (dk_at dksX0_back_1 1 rfl rfl)
theorem dX0_back_28 : decode cX0_back 28 = .ok (.aload_n 0, 1) := dk_42 (dk_at dksX0_back_1 4 rfl rfl)
theorem dX0_back_29 : decode cX0_back 29 = .ok (.getfield 573, 3) := dk_180 2 61 (dk_at dksX0_back_1 5 rfl rfl)
theorem dX0_back_32 : decode cX0_back 32 = .ok (.aaload, 1) := dk_50 (dk_at dksX0_back_1 8 rfl rfl)
theorem dX0_back_33 : decode cX0_back 33 = .ok (.astore_n 1, 1) := dk_76 (dk_at dksX0_back_1 9 rfl rfl)
theorem dX0_back_34 : decode cX0_back 34 = .ok (.aload_n 0, 1) := dk_42 (dk_at dksX0_back_1 10 rfl rfl)
theorem dX0_back_35 : decode cX0_back 35 = .ok (.getfield 30, 3) := dk_180 0 30 (dk_at dksX0_back_1 11 rfl rfl)
theorem dX0_back_38 : decode cX0_back 38 = .ok (.aload_n 1, 1) := dk_43 (dk_at dksX0_back_1 14 rfl rfl)
theorem dX0_back_39 : decode cX0_back 39 = .ok (.getfield 576, 3) := dk_180 2 64 (dk_at dksX0_back_1 15 rfl rfl)
theorem dX0_back_42 : decode cX0_back 42 = .ok (.invokevirtual 231, 3) := dk_182 0 231 (dk_at dksX0_back_1 18 rfl rfl)
theorem dX0_back_45 : decode cX0_back 45 = .ok (.iconst 0, 1) := dk_3 (dk_at dksX0_back_1 21 rfl rfl)
theorem dX0_back_46 : decode cX0_back 46 = .ok (.istore_n 2, 1) := dk_61 (dk_at dksX0_back_1 22 rfl rfl)
theorem dX0_back_47 : decode cX0_back 47 = .ok (.iload_n 2, 1) := dk_28 (dk_at dksX0_back_1 23 rfl rfl)
theorem dX0_back_48 : decode cX0_back 48 = .ok (.iconst 4, 1) := dk_7 (dk_at dksX0_back_2 0 rfl rfl)
theorem dX0_back_49 : decode cX0_back 49 = .ok (.if_icmp .ge 24, 3) := dk_162 0 24 (dk_at dksX0_back_2 1 rfl rfl)
theorem dX0_back_52 : decode cX0_back 52 = .ok (.aload_n 0, 1) := dk_42 (dk_at dksX0_back_2 4 rfl rfl)
theorem dX0_back_53 : decode cX0_back 53 = .ok (.getfield 37, 3) := dk_180 0 37 (dk_at dksX0_back_2 5 rfl rfl)
theorem dX0_back_56 : decode cX0_back 56 = .ok (.iload_n 2, 1) := dk_28 (dk_at dksX0_back_2 8 rfl rfl)
theorem dX0_back_57 : decode cX0_back 57 = .ok (.aaload, 1) := dk_50 (dk_at dksX0_back_2 9 rfl rfl)
theorem dX0_back_58 : decode cX0_back 58 = .ok (.aload_n 1, 1) := dk_43 (dk_at dksX0_back_2 10 rfl rfl)
theorem dX0_back_59 : decode cX0_back 59 = .ok (.getfield 577, 3) := dk_180 2 65 (dk_at dksX0_back_2 11 rfl rfl)
theorem dX0_back_62 : decode cX0_back 62 = .ok (.iload_n 2, 1) := dk_28 (dk_at dksX0_back_2 14 rfl rfl)
theorem dX0_back_63 : decode cX0_back 63 = .ok (.aaload, 1) := dk_50 (dk_at dksX0_back_2 15 rfl rfl)
theorem dX0_back_64 : decode cX0_back 64 = .ok (.invokevirtual 231, 3) := dk_182 0 231 (dk_at dksX0_back_2 16 rfl rfl)
theorem dX0_back_67 : decode cX0_back 67 = .ok (.iinc 2 1, 3) := dk_132 2 1 (dk_at dksX0_back_2 19 rfl rfl)
theorem dX0_back_70 : decode cX0_back 70 = .ok (.goto (-23), 3) := dk_167 255 233 (dk_at dksX0_back_3 0 rfl rfl)
theorem dX0_back_73 : decode cX0_back 73 = .ok (.aload_n 1, 1) := dk_43 (dk_at dksX0_back_3 3 rfl rfl)
theorem dX0_back_74 : decode cX0_back 74 = .ok (.getfield 578, 3) := dk_180 2 66 (dk_at dksX0_back_3 4 rfl rfl)
theorem dX0_back_77 : decode cX0_back 77 = .ok (.iconst 0, 1) := dk_3 (dk_at dksX0_back_3 7 rfl rfl)
theorem dX0_back_78 : decode cX0_back 78 = .ok (.aload_n 0, 1) := dk_42 (dk_at dksX0_back_3 8 rfl rfl)
theorem dX0_back_79 : decode cX0_back 79 = .ok (.getfield 41, 3) := dk_180 0 41 (dk_at dksX0_back_3 9 rfl rfl)
theorem dX0_back_82 : decode cX0_back 82 = .ok (.iconst 0, 1) := dk_3 (dk_at dksX0_back_3 12 rfl rfl)
theorem dX0_back_83 : decode cX0_back 83 = .ok (.iconst 4, 1) := dk_7 (dk_at dksX0_back_3 13 rfl rfl)
theorem dX0_back_84 : decode cX0_back 84 = .ok (.invokestatic 188, 3) := dk_184 0 188 (dk_at dksX0_back_3 14 rfl rfl)
theorem dX0_back_87 : decode cX0_back 87 = .ok (.aload_n 0, 1) := dk_42 (dk_at dksX0_back_3 17 rfl rfl)
theorem dX0_back_88 : decode cX0_back 88 = .ok (.aload_n 1, 1) := dk_43 (dk_at dksX0_back_3 18 rfl rfl)
theorem dX0_back_89 : decode cX0_back 89 = .ok (.getfield 579, 3) := dk_180 2 67 (dk_at dksX0_back_3 19 rfl rfl)
theorem dX0_back_92 : decode cX0_back 92 = .ok (.putfield 242, 3) := dk_181 0 242 (dk_at dksX0_back_4 0 rfl rfl)
theorem dX0_back_95 : decode cX0_back 95 = .ok (.aload_n 0, 1) := dk_42 (dk_at dksX0_back_4 3 rfl rfl)
theorem dX0_back_96 : decode cX0_back 96 = .ok (.aload_n 1, 1) := dk_43 (dk_at dksX0_back_4 4 rfl rfl)
theorem dX0_back_97 : decode cX0_back 97 = .ok (.getfield 580, 3) := dk_180 2 68 (dk_at dksX0_back_4 5 rfl rfl)
theorem dX0_back_100 : decode cX0_back 100 = .ok (.putfield 249, 3) := dk_181 0 249 (dk_at dksX0_back_4 8 rfl rfl)
theorem dX0_back_103 : decode cX0_back 103 = .ok (.aload_n 0, 1) := dk_42 (dk_at dksX0_back_4 11 rfl rfl)
theorem dX0_back_104 : decode cX0_back 104 = .ok (.aload_n 0, 1) := dk_42 (dk_at dksX0_back_4 12 rfl rfl)
theorem dX0_back_105 : decode cX0_back 105 = .ok (.getfield 573, 3) := dk_180 2 61 (dk_at dksX0_back_4 13 rfl rfl)
theorem dX0_back_108 : decode cX0_back 108 = .ok (.invokevirtual 235, 3) := dk_182 0 235 (dk_at dksX0_back_4 16 rfl rfl)
theorem dX0_back_111 : decode cX0_back 111 = .ok (.ireturn, 1) := dk_172 (dk_at dksX0_back_4 19 rfl rfl)
