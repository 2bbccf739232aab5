/-! code rows: X1 (rows of claim/names) -/
set_option maxRecDepth 100000
abbrev cX1_init : ByteArray := prog_4_method_1_code
def dkwX1_init_1 : List UInt8 := [181, 0, 22, 177]
abbrev dktX1_init_1 : List UInt8 := dkwX1_init_1 ++ []
def dkwX1_init_0 : List UInt8 := [42, 183, 0, 3, 42, 43, 181, 0, 9, 42, 44, 181, 0, 15, 42, 45, 181, 0, 19, 42, 25, 4]
abbrev dktX1_init_0 : List UInt8 := dkwX1_init_0 ++ dktX1_init_1
theorem dksX1_init_0 : cX1_init.data.toList.drop 0 = dktX1_init_0 := by decide +kernel
theorem dksX1_init_1 : cX1_init.data.toList.drop 22 = dktX1_init_1 := dk_seg dksX1_init_0 22 rfl rfl
theorem dX1_init_0 : decode cX1_init 0 = .ok (.aload_n 0, 1) := dk_42 (dk_at dksX1_init_0 0 rfl rfl)
theorem dX1_init_1 : decode cX1_init 1 = .ok (.invokespecial 3, 3) := dk_183 0 3 (dk_at dksX1_init_0 1 rfl rfl)
theorem dX1_init_4 : decode cX1_init 4 = .ok (.aload_n 0, 1) := dk_42 (dk_at dksX1_init_0 4 rfl rfl)
theorem dX1_init_5 : decode cX1_init 5 = .ok (.aload_n 1, 1) := dk_43 (dk_at dksX1_init_0 5 rfl rfl)
theorem dX1_init_6 : decode cX1_init 6 = .ok (.putfield 9, 3) := dk_181 0 9 (dk_at dksX1_init_0 6 rfl rfl)
theorem dX1_init_9 : decode cX1_init 9 = .ok (.aload_n 0, 1) := dk_42 (dk_at dksX1_init_0 9 rfl rfl)
theorem dX1_init_10 : decode cX1_init 10 = .ok (.aload_n 2, 1) := dk_44 (dk_at dksX1_init_0 10 rfl rfl)
theorem dX1_init_11 : decode cX1_init 11 = .ok (.putfield 15, 3) := dk_181 0 15 (dk_at dksX1_init_0 11 rfl rfl)
theorem dX1_init_14 : decode cX1_init 14 = .ok (.aload_n 0, 1) := dk_42 (dk_at dksX1_init_0 14 rfl rfl)
theorem dX1_init_15 : decode cX1_init 15 = .ok (.aload_n 3, 1) := dk_45 (dk_at dksX1_init_0 15 rfl rfl)
theorem dX1_init_16 : decode cX1_init 16 = .ok (.putfield 19, 3) := dk_181 0 19 (dk_at dksX1_init_0 16 rfl rfl)
theorem dX1_init_19 : decode cX1_init 19 = .ok (.aload_n 0, 1) := dk_42 (dk_at dksX1_init_0 19 rfl rfl)
theorem dX1_init_20 : decode cX1_init 20 = .ok (.aload 4, 2) := dk_25 4 (dk_at dksX1_init_0 20 rfl rfl)
theorem dX1_init_22 : decode cX1_init 22 = .ok (.putfield 22, 3) := dk_181 0 22 (dk_at dksX1_init_1 0 rfl rfl)
theorem dX1_init_25 : decode cX1_init 25 = .ok (.return_, 1) := dk_177 (dk_at dksX1_init_1 3 rfl rfl)
abbrev cX1_begin : ByteArray := prog_4_method_2_code
def dkwX1_begin_0 : List UInt8 := [42, 27, 181, 0, 26, 42, 3, 181, 0, 30, 42, 182, 0, 33, 177]
abbrev dktX1_begin_0 : List UInt8 := dkwX1_begin_0 ++ []
theorem dksX1_begin_0 : cX1_begin.data.toList.drop 0 = dktX1_begin_0 := by decide +kernel
theorem dX1_begin_0 : decode cX1_begin 0 = .ok (.aload_n 0, 1) := dk_42 (dk_at dksX1_begin_0 0 rfl rfl)
theorem dX1_begin_1 : decode cX1_begin 1 = .ok (.iload_n 1, 1) := dk_27 (dk_at dksX1_begin_0 1 rfl rfl)
theorem dX1_begin_2 : decode cX1_begin 2 = .ok (.putfield 26, 3) := dk_181 0 26 (dk_at dksX1_begin_0 2 rfl rfl)
theorem dX1_begin_5 : decode cX1_begin 5 = .ok (.aload_n 0, 1) := dk_42 (dk_at dksX1_begin_0 5 rfl rfl)
theorem dX1_begin_6 : decode cX1_begin 6 = .ok (.iconst 0, 1) := dk_3 (dk_at dksX1_begin_0 6 rfl rfl)
theorem dX1_begin_7 : decode cX1_begin 7 = .ok (.putfield 30, 3) := dk_181 0 30 (dk_at dksX1_begin_0 7 rfl rfl)
theorem dX1_begin_10 : decode cX1_begin 10 = .ok (.aload_n 0, 1) := dk_42 (dk_at dksX1_begin_0 10 rfl rfl)
theorem dX1_begin_11 : decode cX1_begin 11 = .ok (.invokevirtual 33, 3) := dk_182 0 33 (dk_at dksX1_begin_0 11 rfl rfl)
theorem dX1_begin_14 : decode cX1_begin 14 = .ok (.return_, 1) := dk_177 (dk_at dksX1_begin_0 14 rfl rfl)
abbrev cX1_next : ByteArray := prog_4_method_7_code
def dkwX1_next_10 : List UInt8 := [181, 0, 56, 177]
abbrev dktX1_next_10 : List UInt8 := dkwX1_next_10 ++ []
def dkwX1_next_9 : List UInt8 := [89, 180, 0, 30, 4, 96, 181, 0, 30, 42, 42, 27, 182, 0, 73, 153, 0, 7, 7, 167, 0, 4, 4]
abbrev dktX1_next_9 : List UInt8 := dkwX1_next_9 ++ dktX1_next_10
def dkwX1_next_8 : List UInt8 := [180, 0, 30, 42, 180, 0, 50, 100, 7, 164, 0, 7, 4, 167, 0, 4, 6, 181, 0, 56, 167, 0, 30, 42]
abbrev dktX1_next_8 : List UInt8 := dkwX1_next_8 ++ dktX1_next_9
def dkwX1_next_7 : List UInt8 := [100, 184, 0, 67, 181, 0, 53, 42, 89, 180, 0, 30, 4, 96, 181, 0, 30, 167, 255, 204, 42, 42]
abbrev dktX1_next_7 : List UInt8 := dkwX1_next_7 ++ dktX1_next_8
def dkwX1_next_6 : List UInt8 := [153, 0, 44, 42, 18, 66, 16, 10, 42, 180, 0, 53, 104, 42, 42, 180, 0, 30, 182, 0, 46, 96, 16, 48]
abbrev dktX1_next_6 : List UInt8 := dkwX1_next_6 ++ dktX1_next_7
def dkwX1_next_5 : List UInt8 := [184, 0, 63, 153, 0, 88, 42, 3, 181, 0, 53, 42, 42, 180, 0, 30, 182, 0, 46, 184, 0, 63]
abbrev dktX1_next_5 : List UInt8 := dkwX1_next_5 ++ dktX1_next_6
def dkwX1_next_4 : List UInt8 := [42, 89, 180, 0, 30, 4, 96, 181, 0, 30, 167, 255, 232, 42, 5, 181, 0, 56, 167, 0, 122, 27]
abbrev dktX1_next_4 : List UInt8 := dkwX1_next_4 ++ dktX1_next_5
def dkwX1_next_3 : List UInt8 := [167, 0, 164, 27, 184, 0, 59, 153, 0, 38, 42, 42, 180, 0, 30, 182, 0, 46, 184, 0, 59, 153, 0, 16]
abbrev dktX1_next_3 : List UInt8 := dkwX1_next_3 ++ dktX1_next_4
def dkwX1_next_2 : List UInt8 := [42, 42, 180, 0, 30, 182, 0, 46, 60, 42, 27, 181, 0, 53, 27, 2, 160, 0, 11, 42, 3, 181, 0, 56]
abbrev dktX1_next_2 : List UInt8 := dkwX1_next_2 ++ dktX1_next_3
def dkwX1_next_1 : List UInt8 := [160, 0, 16, 42, 89, 180, 0, 30, 4, 96, 181, 0, 30, 167, 255, 220, 42, 42, 180, 0, 30, 181, 0, 50]
abbrev dktX1_next_1 : List UInt8 := dkwX1_next_1 ++ dktX1_next_2
def dkwX1_next_0 : List UInt8 := [42, 42, 180, 0, 30, 182, 0, 46, 16, 32, 159, 0, 16, 42, 42, 180, 0, 30, 182, 0, 46, 16, 10]
abbrev dktX1_next_0 : List UInt8 := dkwX1_next_0 ++ dktX1_next_1
theorem dksX1_next_0 : cX1_next.data.toList.drop 0 = dktX1_next_0 := by decide +kernel
theorem dksX1_next_1 : cX1_next.data.toList.drop 23 = dktX1_next_1 := dk_seg dksX1_next_0 23 rfl rfl
theorem dksX1_next_2 : cX1_next.data.toList.drop 47 = dktX1_next_2 := dk_seg dksX1_next_1 24 rfl rfl
theorem dksX1_next_3 : cX1_next.data.toList.drop 71 = dktX1_next_3 := dk_seg dksX1_next_2 24 rfl rfl
theorem dksX1_next_4 : cX1_next.data.toList.drop 95 = dktX1_next_4 := dk_seg dksX1_next_3 24 rfl rfl
theorem dksX1_next_5 : cX1_next.data.toList.drop 117 = dktX1_next_5 := dk_seg dksX1_next_4 22 rfl rfl
theorem dksX1_next_6 : cX1_next.data.toList.drop 139 = dktX1_next_6 := dk_seg dksX1_next_5 22 rfl rfl
theorem dksX1_next_7 : cX1_next.data.toList.drop 163 = dktX1_next_7 := dk_seg dksX1_next_6 24 rfl rfl
theorem dksX1_next_8 : cX1_next.data.toList.drop 185 = dktX1_next_8 := dk_seg dksX1_next_7 22 rfl rfl
theorem dksX1_next_9 : cX1_next.data.toList.drop 209 = dktX1_next_9 := dk_seg dksX1_next_8 24 rfl rfl
theorem dksX1_next_10 : cX1_next.data.toList.drop 232 = dktX1_next_10 := dk_seg dksX1_next_9 23 rfl rfl
theorem dX1_next_0 : decode cX1_next 0 = .ok (.aload_n 0, 1) := dk_42 (dk_at dksX1_next_0 0 rfl rfl)
theorem dX1_next_1 : decode cX1_next 1 = .ok (.aload_n 0, 1) := dk_42 (dk_at dksX1_next_0 1 rfl rfl)
theorem dX1_next_2 : decode cX1_next 2 = .ok (.getfield 30, 3) := dk_180 0 30 (dk_at dksX1_next_0 2 rfl rfl)
theorem dX1_next_5 : decode cX1_next 5 = .ok (.invokevirtual 46, 3) := dk_182 0 46 (dk_at dksX1_next_0 5 rfl rfl)
theorem dX1_next_8 : decode cX1_next 8 = .ok (.bipush 32, 2) := dk_16 32 (dk_at dksX1_next_0 8 rfl rfl)
theorem dX1_next_10 : decode cX1_next 10 = .ok (.if_icmp .eq 16, 3) := dk_159 0 16 (dk_at dksX1_next_0 10 rfl rfl)
theorem dX1_next_13 : decode cX1_next 13 = .ok (.aload_n 0, 1) := dk_42 (dk_at dksX1_next_0 13 rfl rfl)
theorem dX1_next_14 : decode cX1_next 14 = .ok (.aload_n 0, 1) := dk_42 (dk_at dksX1_next_0 14 rfl rfl)
theorem dX1_next_15 : decode cX1_next 15 = .ok (.getfield 30, 3) := dk_180 0 30 (dk_at dksX1_next_0 15 rfl rfl)
theorem dX1_next_18 : decode cX1_next 18 = .ok (.invokevirtual 46, 3) := dk_182 0 46 (dk_at dksX1_next_0 18 rfl rfl)
theorem dX1_next_21 : decode cX1_next 21 = .ok (.bipush 10, 2) := dk_16 10 (dk_at dksX1_next_0 21 rfl rfl)
theorem dX1_next_23 : decode cX1_next 23 = .ok (.if_icmp .ne 16, 3) := dk_160 0 16 (dk_at dksX1_next_1 0 rfl rfl)
theorem dX1_next_26 : decode cX1_next 26 = .ok (.aload_n 0, 1) := dk_42 (dk_at dksX1_next_1 3 rfl rfl)
theorem dX1_next_27 : decode cX1_next 27 = .ok (.dup, 1) := dk_89 (dk_at dksX1_next_1 4 rfl rfl)
theorem dX1_next_28 : decode cX1_next 28 = .ok (.getfield 30, 3) := dk_180 0 30 (dk_at dksX1_next_1 5 rfl rfl)
theorem dX1_next_31 : decode cX1_next 31 = .ok (.iconst 1, 1) := dk_4 (dk_at dksX1_next_1 8 rfl rfl)
theorem dX1_next_32 : decode cX1_next 32 = .ok (.iadd, 1) := dk_96 (dk_at dksX1_next_1 9 rfl rfl)
theorem dX1_next_33 : decode cX1_next 33 = .ok (.putfield 30, 3) := dk_181 0 30 (dk_at dksX1_next_1 10 rfl rfl)
theorem dX1_next_36 : decode cX1_next 36 = .ok (.goto (-36), 3) := dk_167 255 220 (dk_at dksX1_next_1 13 rfl rfl)
theorem dX1_next_39 : decode cX1_next 39 = .ok (.aload_n 0, 1) := dk_42 (dk_at dksX1_next_1 16 rfl rfl)
theorem dX1_next_40 : decode cX1_next 40 = .ok (.aload_n 0, 1) := dk_42 (dk_at dksX1_next_1 17 rfl rfl)
theorem dX1_next_41 : decode cX1_next 41 = .ok (.getfield 30, 3) := dk_180 0 30 (dk_at dksX1_next_1 18 rfl rfl)
theorem dX1_next_44 : decode cX1_next 44 = .ok (.putfield 50, 3) := dk_181 0 50 (dk_at dksX1_next_1 21 rfl rfl)
theorem dX1_next_47 : decode cX1_next 47 = .ok (.aload_n 0, 1) := dk_42 (dk_at dksX1_next_2 0 rfl rfl)
theorem dX1_next_48 : decode cX1_next 48 = .ok (.aload_n 0, 1) := dk_42 (dk_at dksX1_next_2 1 rfl rfl)
theorem dX1_next_49 : decode cX1_next 49 = .ok (.getfield 30, 3) := dk_180 0 30 (dk_at dksX1_next_2 2 rfl rfl)
theorem dX1_next_52 : decode cX1_next 52 = .ok (.invokevirtual 46, 3) := dk_182 0 46 (dk_at dksX1_next_2 5 rfl rfl)
theorem dX1_next_55 : decode cX1_next 55 = .ok (.istore_n 1, 1) := dk_60 (dk_at dksX1_next_2 8 rfl rfl)
theorem dX1_next_56 : decode cX1_next 56 = .ok (.aload_n 0, 1) := dk_42 (dk_at dksX1_next_2 9 rfl rfl)
theorem dX1_next_57 : decode cX1_next 57 = .ok (.iload_n 1, 1) := dk_27 (dk_at dksX1_next_2 10 rfl rfl)
theorem dX1_next_58 : decode cX1_next 58 = .ok (.putfield 53, 3) := dk_181 0 53 (dk_at dksX1_next_2 11 rfl rfl)
theorem dX1_next_61 : decode cX1_next 61 = .ok (.iload_n 1, 1) := dk_27 (dk_at dksX1_next_2 14 rfl rfl)
theorem dX1_next_62 : decode cX1_next 62 = .ok (.iconst (-1), 1) := dk_2 (dk_at dksX1_next_2 15 rfl rfl)
theorem dX1_next_63 : decode cX1_next 63 = .ok (.if_icmp .ne 11, 3) := dk_160 0 11 (dk_at dksX1_next_2 16 rfl rfl)
theorem dX1_next_66 : decode cX1_next 66 = .ok (.aload_n 0, 1) := dk_42 (dk_at dksX1_next_2 19 rfl rfl)
theorem dX1_next_67 : decode cX1_next 67 = .ok (.iconst 0, 1) := dk_3 (dk_at dksX1_next_2 20 rfl rfl)
theorem dX1_next_68 : decode cX1_next 68 = .ok (.putfield 56, 3) := dk_181 0 56 (dk_at dksX1_next_2 21 rfl rfl)
theorem dX1_next_71 : decode cX1_next 71 = .ok (.goto 164, 3) := dk_167 0 164 (dk_at dksX1_next_3 0 rfl rfl)
theorem dX1_next_74 : decode cX1_next 74 = .ok (.iload_n 1, 1) := dk_27 (dk_at dksX1_next_3 3 rfl rfl)
theorem dX1_next_75 : decode cX1_next 75 = .ok (.invokestatic 59, 3) := dk_184 0 59 (dk_at dksX1_next_3 4 rfl rfl)
theorem dX1_next_78 : decode cX1_next 78 = .ok (.ifCond .eq 38, 3) := dk_153 0 38 (dk_at dksX1_next_3 7 rfl rfl)
theorem dX1_next_81 : decode cX1_next 81 = .ok (.aload_n 0, 1) := dk_42 (dk_at dksX1_next_3 10 rfl rfl)
theorem dX1_next_82 : decode cX1_next 82 = .ok (.aload_n 0, 1) := dk_42 (dk_at dksX1_next_3 11 rfl rfl)
theorem dX1_next_83 : decode cX1_next 83 = .ok (.getfield 30, 3) := dk_180 0 30 (dk_at dksX1_next_3 12 rfl rfl)
theorem dX1_next_86 : decode cX1_next 86 = .ok (.invokevirtual 46, 3) := dk_182 0 46 (dk_at dksX1_next_3 15 rfl rfl)
theorem dX1_next_89 : decode cX1_next 89 = .ok (.invokestatic 59, 3) := dk_184 0 59 (dk_at dksX1_next_3 18 rfl rfl)
theorem dX1_next_92 : decode cX1_next 92 = .ok (.ifCond .eq 16, 3) := dk_153 0 16 (dk_at dksX1_next_3 21 rfl rfl)
theorem dX1_next_95 : decode cX1_next 95 = .ok (.aload_n 0, 1) := dk_42 (dk_at dksX1_next_4 0 rfl rfl)
theorem dX1_next_96 : decode cX1_next 96 = .ok (.dup, 1) := dk_89 (dk_at dksX1_next_4 1 rfl rfl)
theorem dX1_next_97 : decode cX1_next 97 = .ok (.getfield 30, 3) := dk_180 0 30 (dk_at dksX1_next_4 2 rfl rfl)
theorem dX1_next_100 : decode cX1_next 100 = .ok (.iconst 1, 1) := dk_4 (dk_at dksX1_next_4 5 rfl rfl)
theorem dX1_next_101 : decode cX1_next 101 = .ok (.iadd, 1) := dk_96 (dk_at dksX1_next_4 6 rfl rfl)
theorem dX1_next_102 : decode cX1_next 102 = .ok (.putfield 30, 3) := dk_181 0 30 (dk_at dksX1_next_4 7 rfl rfl)
theorem dX1_next_105 : decode cX1_next 105 = .ok (.goto (-24), 3) := dk_167 255 232 (dk_at dksX1_next_4 10 rfl rfl)
theorem dX1_next_108 : decode cX1_next 108 = .ok (.aload_n 0, 1) := dk_42 (dk_at dksX1_next_4 13 rfl rfl)
theorem dX1_next_109 : decode cX1_next 109 = .ok (.iconst 2, 1) := dk_5 (dk_at dksX1_next_4 14 rfl rfl)
theorem dX1_next_110 : decode cX1_next 110 = .ok (.putfield 56, 3) := dk_181 0 56 (dk_at dksX1_next_4 15 rfl rfl)
theorem dX1_next_113 : decode cX1_next 113 = .ok (.goto 122, 3) := dk_167 0 122 (dk_at dksX1_next_4 18 rfl rfl)
theorem dX1_next_116 : decode cX1_next 116 = .ok (.iload_n 1, 1) := dk_27 (dk_at dksX1_next_4 21 rfl rfl)
theorem dX1_next_117 : decode cX1_next 117 = .ok (.invokestatic 63, 3) := dk_184 0 63 (dk_at dksX1_next_5 0 rfl rfl)
theorem dX1_next_120 : decode cX1_next 120 = .ok (.ifCond .eq 88, 3) := dk_153 0 88 (dk_at dksX1_next_5 3 rfl rfl)
theorem dX1_next_123 : decode cX1_next 123 = .ok (.aload_n 0, 1) := dk_42 (dk_at dksX1_next_5 6 rfl rfl)
theorem dX1_next_124 : decode cX1_next 124 = .ok (.iconst 0, 1) := dk_3 (dk_at dksX1_next_5 7 rfl rfl)
theorem dX1_next_125 : decode cX1_next 125 = .ok (.putfield 53, 3) := dk_181 0 53 (dk_at dksX1_next_5 8 rfl rfl)
theorem dX1_next_128 : decode cX1_next 128 = .ok (.aload_n 0, 1) := dk_42 (dk_at dksX1_next_5 11 rfl rfl)
theorem dX1_next_129 : decode cX1_next 129 = .ok (.aload_n 0, 1) := dk_42 (dk_at dksX1_next_5 12 rfl rfl)
theorem dX1_next_130 : decode cX1_next 130 = .ok (.getfield 30, 3) := dk_180 0 30 (dk_at dksX1_next_5 13 rfl rfl)
theorem dX1_next_133 : decode cX1_next 133 = .ok (.invokevirtual 46, 3) := dk_182 0 46 (dk_at dksX1_next_5 16 rfl rfl)
theorem dX1_next_136 : decode cX1_next 136 = .ok (.invokestatic 63, 3) := dk_184 0 63 (dk_at dksX1_next_5 19 rfl rfl)
theorem dX1_next_139 : decode cX1_next 139 = .ok (.ifCond .eq 44, 3) := dk_153 0 44 (dk_at dksX1_next_6 0 rfl rfl)
theorem dX1_next_142 : decode cX1_next 142 = .ok (.aload_n 0, 1) := dk_42 (dk_at dksX1_next_6 3 rfl rfl)
theorem dX1_next_143 : decode cX1_next 143 = .ok (.ldc 66, 2) := dk_18 66 (dk_at dksX1_next_6 4 rfl rfl)
theorem dX1_next_145 : decode cX1_next 145 = .ok (.bipush 10, 2) := dk_16 10 (dk_at dksX1_next_6 6 rfl rfl)
theorem dX1_next_147 : decode cX1_next 147 = .ok (.aload_n 0, 1) := dk_42 (dk_at dksX1_next_6 8 rfl rfl)
theorem dX1_next_148 : decode cX1_next 148 = .ok (.getfield 53, 3) := dk_180 0 53 (dk_at dksX1_next_6 9 rfl rfl)
theorem dX1_next_151 : decode cX1_next 151 = .ok (.imul, 1) := dk_104 (dk_at dksX1_next_6 12 rfl rfl)
theorem dX1_next_152 : decode cX1_next 152 = .ok (.aload_n 0, 1) := dk_42 (dk_at dksX1_next_6 13 rfl rfl)
theorem dX1_next_153 : decode cX1_next 153 = .ok (.aload_n 0, 1) := dk_42 (dk_at dksX1_next_6 14 rfl rfl)
theorem dX1_next_154 : decode cX1_next 154 = .ok (.getfield 30, 3) := dk_180 0 30 (dk_at dksX1_next_6 15 rfl rfl)
theorem dX1_next_157 : decode cX1_next 157 = .ok (.invokevirtual 46, 3) := dk_182 0 46 (dk_at dksX1_next_6 18 rfl rfl)
theorem dX1_next_160 : decode cX1_next 160 = .ok (.iadd, 1) := dk_96 (dk_at dksX1_next_6 21 rfl rfl)
theorem dX1_next_161 : decode cX1_next 161 = .ok (.bipush 48, 2) := dk_16 48 (dk_at dksX1_next_6 22 rfl rfl)
theorem dX1_next_163 : decode cX1_next 163 = .ok (.isub, 1) := dk_100 (dk_at dksX1_next_7 0 rfl rfl)
theorem dX1_next_164 : decode cX1_next 164 = .ok (.invokestatic 67, 3) := dk_184 0 67 (dk_at dksX1_next_7 1 rfl rfl)
theorem dX1_next_167 : decode cX1_next 167 = .ok (.putfield 53, 3) := dk_181 0 53 (dk_at dksX1_next_7 4 rfl rfl)
theorem dX1_next_170 : decode cX1_next 170 = .ok (.aload_n 0, 1) := dk_42 (dk_at dksX1_next_7 7 rfl rfl)
theorem dX1_next_171 : decode cX1_next 171 = .ok (.dup, 1) := dk_89 (dk_at dksX1_next_7 8 rfl rfl)
theorem dX1_next_172 : decode cX1_next 172 = .ok (.getfield 30, 3) := dk_180 0 30 (dk_at dksX1_next_7 9 rfl rfl)
theorem dX1_next_175 : decode cX1_next 175 = .ok (.iconst 1, 1) := dk_4 (dk_at dksX1_next_7 12 rfl rfl)
theorem dX1_next_176 : decode cX1_next 176 = .ok (.iadd, 1) := dk_96 (dk_at dksX1_next_7 13 rfl rfl)
theorem dX1_next_177 : decode cX1_next 177 = .ok (.putfield 30, 3) := dk_181 0 30 (dk_at dksX1_next_7 14 rfl rfl)
theorem dX1_next_180 : decode cX1_next 180 = .ok (.goto (-52), 3) := dk_167 255 204 (dk_at dksX1_next_7 17 rfl rfl)
theorem dX1_next_183 : decode cX1_next 183 = .ok (.aload_n 0, 1) := dk_42 (dk_at dksX1_next_7 20 rfl rfl)
theorem dX1_next_184 : decode cX1_next 184 = .ok (.aload_n 0, 1) := dk_42 (dk_at dksX1_next_7 21 rfl rfl)
theorem dX1_next_185 : decode cX1_next 185 = .ok (.getfield 30, 3) := dk_180 0 30 (dk_at dksX1_next_8 0 rfl rfl)
theorem dX1_next_188 : decode cX1_next 188 = .ok (.aload_n 0, 1) := dk_42 (dk_at dksX1_next_8 3 rfl rfl)
theorem dX1_next_189 : decode cX1_next 189 = .ok (.getfield 50, 3) := dk_180 0 50 (dk_at dksX1_next_8 4 rfl rfl)
theorem dX1_next_192 : decode cX1_next 192 = .ok (.isub, 1) := dk_100 (dk_at dksX1_next_8 7 rfl rfl)
theorem dX1_next_193 : decode cX1_next 193 = .ok (.iconst 4, 1) := dk_7 (dk_at dksX1_next_8 8 rfl rfl)
theorem dX1_next_194 : decode cX1_next 194 = .ok (.if_icmp .le 7, 3) := dk_164 0 7 (dk_at dksX1_next_8 9 rfl rfl)
theorem dX1_next_197 : decode cX1_next 197 = .ok (.iconst 1, 1) := dk_4 (dk_at dksX1_next_8 12 rfl rfl)
theorem dX1_next_198 : decode cX1_next 198 = .ok (.goto 4, 3) := dk_167 0 4 (dk_at dksX1_next_8 13 rfl rfl)
theorem dX1_next_201 : decode cX1_next 201 = .ok (.iconst 3, 1) := dk_6 (dk_at dksX1_next_8 16 rfl rfl)
theorem dX1_next_202 : decode cX1_next 202 = .ok (.putfield 56, 3) := dk_181 0 56 (dk_at dksX1_next_8 17 rfl rfl)
theorem dX1_next_205 : decode cX1_next 205 = .ok (.goto 30, 3) := dk_167 0 30 (dk_at dksX1_next_8 20 rfl rfl)
theorem dX1_next_208 : decode cX1_next 208 = .ok (.aload_n 0, 1) := dk_42 (dk_at dksX1_next_8 23 rfl rfl)
theorem dX1_next_209 : decode cX1_next 209 = .ok (.dup, 1) := dk_89 (dk_at dksX1_next_9 0 rfl rfl)
theorem dX1_next_210 : decode cX1_next 210 = .ok (.getfield 30, 3) := dk_180 0 30 (dk_at dksX1_next_9 1 rfl rfl)
theorem dX1_next_213 : decode cX1_next 213 = .ok (.iconst 1, 1) := dk_4 (dk_at dksX1_next_9 4 rfl rfl)
theorem dX1_next_214 : decode cX1_next 214 = .ok (.iadd, 1) := dk_96 (dk_at dksX1_next_9 5 rfl rfl)
theorem dX1_next_215 : decode cX1_next 215 = .ok (.putfield 30, 3) := dk_181 0 30 (dk_at dksX1_next_9 6 rfl rfl)
theorem dX1_next_218 : decode cX1_next 218 = .ok (.aload_n 0, 1) := dk_42 (dk_at dksX1_next_9 9 rfl rfl)
theorem dX1_next_219 : decode cX1_next 219 = .ok (.aload_n 0, 1) := dk_42 (dk_at dksX1_next_9 10 rfl rfl)
theorem dX1_next_220 : decode cX1_next 220 = .ok (.iload_n 1, 1) := dk_27 (dk_at dksX1_next_9 11 rfl rfl)
theorem dX1_next_221 : decode cX1_next 221 = .ok (.invokevirtual 73, 3) := dk_182 0 73 (dk_at dksX1_next_9 12 rfl rfl)
theorem dX1_next_224 : decode cX1_next 224 = .ok (.ifCond .eq 7, 3) := dk_153 0 7 (dk_at dksX1_next_9 15 rfl rfl)
theorem dX1_next_227 : decode cX1_next 227 = .ok (.iconst 4, 1) := dk_7 (dk_at dksX1_next_9 18 rfl rfl)
theorem dX1_next_228 : decode cX1_next 228 = .ok (.goto 4, 3) := dk_167 0 4 (dk_at dksX1_next_9 19 rfl rfl)
theorem dX1_next_231 : decode cX1_next 231 = .ok (.iconst 1, 1) := dk_4 (dk_at dksX1_next_9 22 rfl rfl)
theorem dX1_next_232 : decode cX1_next 232 = .ok (.putfield 56, 3) := dk_181 0 56 (dk_at dksX1_next_10 0 rfl rfl)
theorem dX1_next_235 : decode cX1_next 235 = .ok (.return_, 1) := dk_177 (dk_at dksX1_next_10 3 rfl rfl)
abbrev cX1_at : ByteArray := prog_4_method_3_code
def dkwX1_at_0 : List UInt8 := [27, 42, 180, 0, 26, 162, 0, 16, 42, 180, 0, 9, 27, 51, 17, 0, 255, 126, 167, 0, 4, 2, 172]
abbrev dktX1_at_0 : List UInt8 := dkwX1_at_0 ++ []
theorem dksX1_at_0 : cX1_at.data.toList.drop 0 = dktX1_at_0 := by decide +kernel
theorem dX1_at_0 : decode cX1_at 0 = .ok (.iload_n 1, 1) := dk_27 (dk_at dksX1_at_0 0 rfl rfl)
theorem dX1_at_1 : decode cX1_at 1 = .ok (.aload_n 0, 1) := dk_42 (dk_at dksX1_at_0 1 rfl rfl)
theorem dX1_at_2 : decode cX1_at 2 = .ok (.getfield 26, 3) := dk_180 0 26 (dk_at dksX1_at_0 2 rfl rfl)
theorem dX1_at_5 : decode cX1_at 5 = .ok (.if_icmp .ge 16, 3) := dk_162 0 16 (dk_at dksX1_at_0 5 rfl rfl)
theorem dX1_at_8 : decode cX1_at 8 = .ok (.aload_n 0, 1) := dk_42 (dk_at dksX1_at_0 8 rfl rfl)
theorem dX1_at_9 : decode cX1_at 9 = .ok (.getfield 9, 3) := dk_180 0 9 (dk_at dksX1_at_0 9 rfl rfl)
theorem dX1_at_12 : decode cX1_at 12 = .ok (.iload_n 1, 1) := dk_27 (dk_at dksX1_at_0 12 rfl rfl)
theorem dX1_at_13 : decode cX1_at 13 = .ok (.baload, 1) := dk_51 (dk_at dksX1_at_0 13 rfl rfl)
theorem dX1_at_14 : decode cX1_at 14 = .ok (.sipush 255, 3) := dk_17 0 255 (dk_at dksX1_at_0 14 rfl rfl)
theorem dX1_at_17 : decode cX1_at 17 = .ok (.iand, 1) := dk_126 (dk_at dksX1_at_0 17 rfl rfl)
theorem dX1_at_18 : decode cX1_at 18 = .ok (.goto 4, 3) := dk_167 0 4 (dk_at dksX1_at_0 18 rfl rfl)
theorem dX1_at_21 : decode cX1_at 21 = .ok (.iconst (-1), 1) := dk_2 (dk_at dksX1_at_0 21 rfl rfl)
theorem dX1_at_22 : decode cX1_at 22 = .ok (.ireturn, 1) := dk_172 (dk_at dksX1_at_0 22 rfl rfl)
abbrev cX1_isSmall : ByteArray := prog_4_method_5_code
def dkwX1_isSmall_0 : List UInt8 := [26, 16, 97, 161, 0, 13, 26, 16, 122, 163, 0, 7, 4, 167, 0, 4, 3, 172]
abbrev dktX1_isSmall_0 : List UInt8 := dkwX1_isSmall_0 ++ []
theorem dksX1_isSmall_0 : cX1_isSmall.data.toList.drop 0 = dktX1_isSmall_0 := by decide +kernel
theorem dX1_isSmall_0 : decode cX1_isSmall 0 = .ok (.iload_n 0, 1) := dk_26 (dk_at dksX1_isSmall_0 0 rfl rfl)
theorem dX1_isSmall_1 : decode cX1_isSmall 1 = .ok (.bipush 97, 2) := dk_16 97 (dk_at dksX1_isSmall_0 1 rfl rfl)
theorem dX1_isSmall_3 : decode cX1_isSmall 3 = .ok (.if_icmp .lt 13, 3) := dk_161 0 13 (dk_at dksX1_isSmall_0 3 rfl rfl)
theorem dX1_isSmall_6 : decode cX1_isSmall 6 = .ok (.iload_n 0, 1) := dk_26 (dk_at dksX1_isSmall_0 6 rfl rfl)
theorem dX1_isSmall_7 : decode cX1_isSmall 7 = .ok (.bipush 122, 2) := dk_16 122 (dk_at dksX1_isSmall_0 7 rfl rfl)
theorem dX1_isSmall_9 : decode cX1_isSmall 9 = .ok (.if_icmp .gt 7, 3) := dk_163 0 7 (dk_at dksX1_isSmall_0 9 rfl rfl)
theorem dX1_isSmall_12 : decode cX1_isSmall 12 = .ok (.iconst 1, 1) := dk_4 (dk_at dksX1_isSmall_0 12 rfl rfl)
theorem dX1_isSmall_13 : decode cX1_isSmall 13 = .ok (.goto 4, 3) := dk_167 0 4 (dk_at dksX1_isSmall_0 13 rfl rfl)
theorem dX1_isSmall_16 : decode cX1_isSmall 16 = .ok (.iconst 0, 1) := dk_3 (dk_at dksX1_isSmall_0 16 rfl rfl)
theorem dX1_isSmall_17 : decode cX1_isSmall 17 = .ok (.ireturn, 1) := dk_172 (dk_at dksX1_isSmall_0 17 rfl rfl)
abbrev cX1_isDigit : ByteArray := prog_4_method_4_code
def dkwX1_isDigit_0 : List UInt8 := [26, 16, 48, 161, 0, 13, 26, 16, 57, 163, 0, 7, 4, 167, 0, 4, 3, 172]
abbrev dktX1_isDigit_0 : List UInt8 := dkwX1_isDigit_0 ++ []
theorem dksX1_isDigit_0 : cX1_isDigit.data.toList.drop 0 = dktX1_isDigit_0 := by decide +kernel
theorem dX1_isDigit_0 : decode cX1_isDigit 0 = .ok (.iload_n 0, 1) := dk_26 (dk_at dksX1_isDigit_0 0 rfl rfl)
theorem dX1_isDigit_1 : decode cX1_isDigit 1 = .ok (.bipush 48, 2) := dk_16 48 (dk_at dksX1_isDigit_0 1 rfl rfl)
theorem dX1_isDigit_3 : decode cX1_isDigit 3 = .ok (.if_icmp .lt 13, 3) := dk_161 0 13 (dk_at dksX1_isDigit_0 3 rfl rfl)
theorem dX1_isDigit_6 : decode cX1_isDigit 6 = .ok (.iload_n 0, 1) := dk_26 (dk_at dksX1_isDigit_0 6 rfl rfl)
theorem dX1_isDigit_7 : decode cX1_isDigit 7 = .ok (.bipush 57, 2) := dk_16 57 (dk_at dksX1_isDigit_0 7 rfl rfl)
theorem dX1_isDigit_9 : decode cX1_isDigit 9 = .ok (.if_icmp .gt 7, 3) := dk_163 0 7 (dk_at dksX1_isDigit_0 9 rfl rfl)
theorem dX1_isDigit_12 : decode cX1_isDigit 12 = .ok (.iconst 1, 1) := dk_4 (dk_at dksX1_isDigit_0 12 rfl rfl)
theorem dX1_isDigit_13 : decode cX1_isDigit 13 = .ok (.goto 4, 3) := dk_167 0 4 (dk_at dksX1_isDigit_0 13 rfl rfl)
theorem dX1_isDigit_16 : decode cX1_isDigit 16 = .ok (.iconst 0, 1) := dk_3 (dk_at dksX1_isDigit_0 16 rfl rfl)
theorem dX1_isDigit_17 : decode cX1_isDigit 17 = .ok (.ireturn, 1) := dk_172 (dk_at dksX1_isDigit_0 17 rfl rfl)
abbrev cX1_isSign : ByteArray := prog_4_method_6_code
def dkwX1_isSign_1 : List UInt8 := [160, 0, 5, 4, 172, 132, 2, 1, 167, 255, 228, 3, 172]
abbrev dktX1_isSign_1 : List UInt8 := dkwX1_isSign_1 ++ []
def dkwX1_isSign_0 : List UInt8 := [3, 61, 28, 42, 180, 0, 19, 182, 0, 36, 162, 0, 23, 42, 180, 0, 19, 28, 182, 0, 42, 27]
abbrev dktX1_isSign_0 : List UInt8 := dkwX1_isSign_0 ++ dktX1_isSign_1
theorem dksX1_isSign_0 : cX1_isSign.data.toList.drop 0 = dktX1_isSign_0 := by decide +kernel
theorem dksX1_isSign_1 : cX1_isSign.data.toList.drop 22 = dktX1_isSign_1 := dk_seg dksX1_isSign_0 22 rfl rfl
theorem dX1_isSign_0 : decode cX1_isSign 0 = .ok (.iconst 0, 1) := dk_3 (dk_at dksX1_isSign_0 0 rfl rfl)
theorem dX1_isSign_1 : decode cX1_isSign 1 = .ok (.istore_n 2, 1) := dk_61 (dk_at dksX1_isSign_0 1 rfl rfl)
theorem dX1_isSign_2 : decode cX1_isSign 2 = .ok (.iload_n 2, 1) := dk_28 (dk_at dksX1_isSign_0 2 rfl rfl)
theorem dX1_isSign_3 : decode cX1_isSign 3 = .ok (.aload_n 0, 1) := dk_42 (dk_at dksX1_isSign_0 3 rfl rfl)
theorem dX1_isSign_4 : decode cX1_isSign 4 = .ok (.getfield 19, 3) := dk_180 0 19 (dk_at dksX1_isSign_0 4 rfl rfl)
theorem dX1_isSign_7 : decode cX1_isSign 7 = .ok (.invokevirtual 36, 3) := dk_182 0 36 (dk_at dksX1_isSign_0 7 rfl rfl)
theorem dX1_isSign_10 : decode cX1_isSign 10 = .ok (.if_icmp .ge 23, 3) := dk_162 0 23 (dk_at dksX1_isSign_0 10 rfl rfl)
theorem dX1_isSign_13 : decode cX1_isSign 13 = .ok (.aload_n 0, 1) := dk_42 (dk_at dksX1_isSign_0 13 rfl rfl)
theorem dX1_isSign_14 : decode cX1_isSign 14 = .ok (.getfield 19, 3) := dk_180 0 19 (dk_at dksX1_isSign_0 14 rfl rfl)
theorem dX1_isSign_17 : decode cX1_isSign 17 = .ok (.iload_n 2, 1) := dk_28 (dk_at dksX1_isSign_0 17 rfl rfl)
theorem dX1_isSign_18 : decode cX1_isSign 18 = .ok (.invokevirtual 42, 3) := dk_182 0 42 (dk_at dksX1_isSign_0 18 rfl rfl)
theorem dX1_isSign_21 : decode cX1_isSign 21 = .ok (.iload_n 1, 1) := dk_27 (dk_at dksX1_isSign_0 21 rfl rfl)
theorem dX1_isSign_22 : decode cX1_isSign 22 = .ok (.if_icmp .ne 5, 3) := dk_160 0 5 (dk_at dksX1_isSign_1 0 rfl rfl)
theorem dX1_isSign_25 : decode cX1_isSign 25 = .ok (.iconst 1, 1) := dk_4 (dk_at dksX1_isSign_1 3 rfl rfl)
theorem dX1_isSign_26 : decode cX1_isSign 26 = .ok (.ireturn, 1) := dk_172 (dk_at dksX1_isSign_1 4 rfl rfl)
theorem dX1_isSign_27 : decode cX1_isSign 27 = .ok (.iinc 2 1, 3) := dk_132 2 1 (dk_at dksX1_isSign_1 5 rfl rfl)
theorem dX1_isSign_30 : decode cX1_isSign 30 = .ok (.goto (-28), 3) := dk_167 255 228 (dk_at dksX1_isSign_1 8 rfl rfl)
theorem dX1_isSign_33 : decode cX1_isSign 33 = .ok (.iconst 0, 1) := dk_3 (dk_at dksX1_isSign_1 11 rfl rfl)
theorem dX1_isSign_34 : decode cX1_isSign 34 = .ok (.ireturn, 1) := dk_172 (dk_at dksX1_isSign_1 12 rfl rfl)
abbrev cX1_key : ByteArray := prog_4_method_10_code
def dkwX1_key_0 : List UInt8 := [42, 42, 180, 0, 15, 182, 0, 86, 172]
abbrev dktX1_key_0 : List UInt8 := dkwX1_key_0 ++ []
theorem dksX1_key_0 : cX1_key.data.toList.drop 0 = dktX1_key_0 := by decide +kernel
theorem dX1_key_0 : decode cX1_key 0 = .ok (.aload_n 0, 1) := dk_42 (dk_at dksX1_key_0 0 rfl rfl)
theorem dX1_key_1 : decode cX1_key 1 = .ok (.aload_n 0, 1) := dk_42 (dk_at dksX1_key_0 1 rfl rfl)
theorem dX1_key_2 : decode cX1_key 2 = .ok (.getfield 15, 3) := dk_180 0 15 (dk_at dksX1_key_0 2 rfl rfl)
theorem dX1_key_5 : decode cX1_key 5 = .ok (.invokevirtual 86, 3) := dk_182 0 86 (dk_at dksX1_key_0 5 rfl rfl)
theorem dX1_key_8 : decode cX1_key 8 = .ok (.ireturn, 1) := dk_172 (dk_at dksX1_key_0 8 rfl rfl)
abbrev cX1_in : ByteArray := prog_4_method_11_code
def dkwX1_in_2 : List UInt8 := [182, 0, 90, 153, 0, 5, 28, 172, 132, 2, 1, 21, 4, 4, 96, 62, 167, 255, 207, 2, 172]
abbrev dktX1_in_2 : List UInt8 := dkwX1_in_2 ++ []
def dkwX1_in_1 : List UInt8 := [54, 4, 43, 21, 4, 182, 0, 42, 16, 32, 159, 0, 9, 132, 4, 1, 167, 255, 242, 42, 43, 29, 21, 4]
abbrev dktX1_in_1 : List UInt8 := dkwX1_in_1 ++ dktX1_in_2
def dkwX1_in_0 : List UInt8 := [42, 180, 0, 56, 5, 159, 0, 5, 2, 172, 3, 61, 4, 62, 29, 43, 182, 0, 36, 162, 0, 47, 29]
abbrev dktX1_in_0 : List UInt8 := dkwX1_in_0 ++ dktX1_in_1
theorem dksX1_in_0 : cX1_in.data.toList.drop 0 = dktX1_in_0 := by decide +kernel
theorem dksX1_in_1 : cX1_in.data.toList.drop 23 = dktX1_in_1 := dk_seg dksX1_in_0 23 rfl rfl
theorem dksX1_in_2 : cX1_in.data.toList.drop 47 = dktX1_in_2 := dk_seg dksX1_in_1 24 rfl rfl
theorem dX1_in_0 : decode cX1_in 0 = .ok (.aload_n 0, 1) := dk_42 (dk_at dksX1_in_0 0 rfl rfl)
theorem dX1_in_1 : decode cX1_in 1 = .ok (.getfield 56, 3) := dk_180 0 56 (dk_at dksX1_in_0 1 rfl rfl)
theorem dX1_in_4 : decode cX1_in 4 = .ok (.iconst 2, 1) := dk_5 (dk_at dksX1_in_0 4 rfl rfl)
theorem dX1_in_5 : decode cX1_in 5 = .ok (.if_icmp .eq 5, 3) := dk_159 0 5 (dk_at dksX1_in_0 5 rfl rfl)
theorem dX1_in_8 : decode cX1_in 8 = .ok (.iconst (-1), 1) := dk_2 (dk_at dksX1_in_0 8 rfl rfl)
theorem dX1_in_9 : decode cX1_in 9 = .ok (.ireturn, 1) := dk_172 (dk_at dksX1_in_0 9 rfl rfl)
theorem dX1_in_10 : decode cX1_in 10 = .ok (.iconst 0, 1) := dk_3 (dk_at dksX1_in_0 10 rfl rfl)
theorem dX1_in_11 : decode cX1_in 11 = .ok (.istore_n 2, 1) := dk_61 (dk_at dksX1_in_0 11 rfl rfl)
theorem dX1_in_12 : decode cX1_in 12 = .ok (.iconst 1, 1) := dk_4 (dk_at dksX1_in_0 12 rfl rfl)
theorem dX1_in_13 : decode cX1_in 13 = .ok (.istore_n 3, 1) := dk_62 (dk_at dksX1_in_0 13 rfl rfl)
theorem dX1_in_14 : decode cX1_in 14 = .ok (.iload_n 3, 1) := dk_29 (dk_at dksX1_in_0 14 rfl rfl)
theorem dX1_in_15 : decode cX1_in 15 = .ok (.aload_n 1, 1) := dk_43 (dk_at dksX1_in_0 15 rfl rfl)
theorem dX1_in_16 : decode cX1_in 16 = .ok (.invokevirtual 36, 3) := dk_182 0 36 (dk_at dksX1_in_0 16 rfl rfl)
theorem dX1_in_19 : decode cX1_in 19 = .ok (.if_icmp .ge 47, 3) := dk_162 0 47 (dk_at dksX1_in_0 19 rfl rfl)
theorem dX1_in_22 : decode cX1_in 22 = .ok (.iload_n 3, 1) := dk_29 (dk_at dksX1_in_0 22 rfl rfl)
theorem dX1_in_23 : decode cX1_in 23 = .ok (.istore 4, 2) := dk_54 4 (dk_at dksX1_in_1 0 rfl rfl)
theorem dX1_in_25 : decode cX1_in 25 = .ok (.aload_n 1, 1) := dk_43 (dk_at dksX1_in_1 2 rfl rfl)
theorem dX1_in_26 : decode cX1_in 26 = .ok (.iload 4, 2) := dk_21 4 (dk_at dksX1_in_1 3 rfl rfl)
theorem dX1_in_28 : decode cX1_in 28 = .ok (.invokevirtual 42, 3) := dk_182 0 42 (dk_at dksX1_in_1 5 rfl rfl)
theorem dX1_in_31 : decode cX1_in 31 = .ok (.bipush 32, 2) := dk_16 32 (dk_at dksX1_in_1 8 rfl rfl)
theorem dX1_in_33 : decode cX1_in 33 = .ok (.if_icmp .eq 9, 3) := dk_159 0 9 (dk_at dksX1_in_1 10 rfl rfl)
theorem dX1_in_36 : decode cX1_in 36 = .ok (.iinc 4 1, 3) := dk_132 4 1 (dk_at dksX1_in_1 13 rfl rfl)
theorem dX1_in_39 : decode cX1_in 39 = .ok (.goto (-14), 3) := dk_167 255 242 (dk_at dksX1_in_1 16 rfl rfl)
theorem dX1_in_42 : decode cX1_in 42 = .ok (.aload_n 0, 1) := dk_42 (dk_at dksX1_in_1 19 rfl rfl)
theorem dX1_in_43 : decode cX1_in 43 = .ok (.aload_n 1, 1) := dk_43 (dk_at dksX1_in_1 20 rfl rfl)
theorem dX1_in_44 : decode cX1_in 44 = .ok (.iload_n 3, 1) := dk_29 (dk_at dksX1_in_1 21 rfl rfl)
theorem dX1_in_45 : decode cX1_in 45 = .ok (.iload 4, 2) := dk_21 4 (dk_at dksX1_in_1 22 rfl rfl)
theorem dX1_in_47 : decode cX1_in 47 = .ok (.invokevirtual 90, 3) := dk_182 0 90 (dk_at dksX1_in_2 0 rfl rfl)
theorem dX1_in_50 : decode cX1_in 50 = .ok (.ifCond .eq 5, 3) := dk_153 0 5 (dk_at dksX1_in_2 3 rfl rfl)
theorem dX1_in_53 : decode cX1_in 53 = .ok (.iload_n 2, 1) := dk_28 (dk_at dksX1_in_2 6 rfl rfl)
theorem dX1_in_54 : decode cX1_in 54 = .ok (.ireturn, 1) := dk_172 (dk_at dksX1_in_2 7 rfl rfl)
theorem dX1_in_55 : decode cX1_in 55 = .ok (.iinc 2 1, 3) := dk_132 2 1 (dk_at dksX1_in_2 8 rfl rfl)
theorem dX1_in_58 : decode cX1_in 58 = .ok (.iload 4, 2) := dk_21 4 (dk_at dksX1_in_2 11 rfl rfl)
theorem dX1_in_60 : decode cX1_in 60 = .ok (.iconst 1, 1) := dk_4 (dk_at dksX1_in_2 13 rfl rfl)
theorem dX1_in_61 : decode cX1_in 61 = .ok (.iadd, 1) := dk_96 (dk_at dksX1_in_2 14 rfl rfl)
theorem dX1_in_62 : decode cX1_in 62 = .ok (.istore_n 3, 1) := dk_62 (dk_at dksX1_in_2 15 rfl rfl)
theorem dX1_in_63 : decode cX1_in 63 = .ok (.goto (-49), 3) := dk_167 255 207 (dk_at dksX1_in_2 16 rfl rfl)
theorem dX1_in_66 : decode cX1_in 66 = .ok (.iconst (-1), 1) := dk_2 (dk_at dksX1_in_2 19 rfl rfl)
theorem dX1_in_67 : decode cX1_in 67 = .ok (.ireturn, 1) := dk_172 (dk_at dksX1_in_2 20 rfl rfl)
abbrev cX1_isWord : ByteArray := prog_4_method_12_code
def dkwX1_isWord_2 : List UInt8 := [159, 0, 5, 3, 172, 132, 4, 1, 167, 255, 223, 4, 172]
abbrev dktX1_isWord_2 : List UInt8 := dkwX1_isWord_2 ++ []
def dkwX1_isWord_1 : List UInt8 := [162, 0, 33, 43, 21, 4, 182, 0, 42, 42, 42, 180, 0, 50, 21, 4, 96, 28, 100, 182, 0, 46]
abbrev dktX1_isWord_1 : List UInt8 := dkwX1_isWord_1 ++ dktX1_isWord_2
def dkwX1_isWord_0 : List UInt8 := [29, 28, 100, 42, 180, 0, 30, 42, 180, 0, 50, 100, 159, 0, 5, 3, 172, 28, 54, 4, 21, 4, 29]
abbrev dktX1_isWord_0 : List UInt8 := dkwX1_isWord_0 ++ dktX1_isWord_1
theorem dksX1_isWord_0 : cX1_isWord.data.toList.drop 0 = dktX1_isWord_0 := by decide +kernel
theorem dksX1_isWord_1 : cX1_isWord.data.toList.drop 23 = dktX1_isWord_1 := dk_seg dksX1_isWord_0 23 rfl rfl
theorem dksX1_isWord_2 : cX1_isWord.data.toList.drop 45 = dktX1_isWord_2 := dk_seg dksX1_isWord_1 22 rfl rfl
theorem dX1_isWord_0 : decode cX1_isWord 0 = .ok (.iload_n 3, 1) := dk_29 (dk_at dksX1_isWord_0 0 rfl rfl)
theorem dX1_isWord_1 : decode cX1_isWord 1 = .ok (.iload_n 2, 1) := dk_28 (dk_at dksX1_isWord_0 1 rfl rfl)
theorem dX1_isWord_2 : decode cX1_isWord 2 = .ok (.isub, 1) := dk_100 (dk_at dksX1_isWord_0 2 rfl rfl)
theorem dX1_isWord_3 : decode cX1_isWord 3 = .ok (.aload_n 0, 1) := dk_42 (dk_at dksX1_isWord_0 3 rfl rfl)
theorem dX1_isWord_4 : decode cX1_isWord 4 = .ok (.getfield 30, 3) := dk_180 0 30 (dk_at dksX1_isWord_0 4 rfl rfl)
theorem dX1_isWord_7 : decode cX1_isWord 7 = .ok (.aload_n 0, 1) := dk_42 (dk_at dksX1_isWord_0 7 rfl rfl)
theorem dX1_isWord_8 : decode cX1_isWord 8 = .ok (.getfield 50, 3) := dk_180 0 50 (dk_at dksX1_isWord_0 8 rfl rfl)
theorem dX1_isWord_11 : decode cX1_isWord 11 = .ok (.isub, 1) := dk_100 (dk_at dksX1_isWord_0 11 rfl rfl)
theorem dX1_isWord_12 : decode cX1_isWord 12 = .ok (.if_icmp .eq 5, 3) := dk_159 0 5 (dk_at dksX1_isWord_0 12 rfl rfl)
theorem dX1_isWord_15 : decode cX1_isWord 15 = .ok (.iconst 0, 1) := dk_3 (dk_at dksX1_isWord_0 15 rfl rfl)
theorem dX1_isWord_16 : decode cX1_isWord 16 = .ok (.ireturn, 1) := dk_172 (dk_at dksX1_isWord_0 16 rfl rfl)
theorem dX1_isWord_17 : decode cX1_isWord 17 = .ok (.iload_n 2, 1) := dk_28 (dk_at dksX1_isWord_0 17 rfl rfl)
theorem dX1_isWord_18 : decode cX1_isWord 18 = .ok (.istore 4, 2) := dk_54 4 (dk_at dksX1_isWord_0 18 rfl rfl)
theorem dX1_isWord_20 : decode cX1_isWord 20 = .ok (.iload 4, 2) := dk_21 4 (dk_at dksX1_isWord_0 20 rfl rfl)
theorem dX1_isWord_22 : decode cX1_isWord 22 = .ok (.iload_n 3, 1) := dk_29 (dk_at dksX1_isWord_0 22 rfl rfl)
theorem dX1_isWord_23 : decode cX1_isWord 23 = .ok (.if_icmp .ge 33, 3) := dk_162 0 33 (dk_at dksX1_isWord_1 0 rfl rfl)
theorem dX1_isWord_26 : decode cX1_isWord 26 = .ok (.aload_n 1, 1) := dk_43 (dk_at dksX1_isWord_1 3 rfl rfl)
theorem dX1_isWord_27 : decode cX1_isWord 27 = .ok (.iload 4, 2) := dk_21 4 (dk_at dksX1_isWord_1 4 rfl rfl)
theorem dX1_isWord_29 : decode cX1_isWord 29 = .ok (.invokevirtual 42, 3) := dk_182 0 42 (dk_at dksX1_isWord_1 6 rfl rfl)
theorem dX1_isWord_32 : decode cX1_isWord 32 = .ok (.aload_n 0, 1) := dk_42 (dk_at dksX1_isWord_1 9 rfl rfl)
theorem dX1_isWord_33 : decode cX1_isWord 33 = .ok (.aload_n 0, 1) := dk_42 (dk_at dksX1_isWord_1 10 rfl rfl)
theorem dX1_isWord_34 : decode cX1_isWord 34 = .ok (.getfield 50, 3) := dk_180 0 50 (dk_at dksX1_isWord_1 11 rfl rfl)
theorem dX1_isWord_37 : decode cX1_isWord 37 = .ok (.iload 4, 2) := dk_21 4 (dk_at dksX1_isWord_1 14 rfl rfl)
theorem dX1_isWord_39 : decode cX1_isWord 39 = .ok (.iadd, 1) := dk_96 (dk_at dksX1_isWord_1 16 rfl rfl)
theorem dX1_isWord_40 : decode cX1_isWord 40 = .ok (.iload_n 2, 1) := dk_28 (dk_at dksX1_isWord_1 17 rfl rfl)
theorem dX1_isWord_41 : decode cX1_isWord 41 = .ok (.isub, 1) := dk_100 (dk_at dksX1_isWord_1 18 rfl rfl)
theorem dX1_isWord_42 : decode cX1_isWord 42 = .ok (.invokevirtual 46, 3) := dk_182 0 46 (dk_at dksX1_isWord_1 19 rfl rfl)
theorem dX1_isWord_45 : decode cX1_isWord 45 = .ok (.if_icmp .eq 5, 3) := dk_159 0 5 (dk_at dksX1_isWord_2 0 rfl rfl)
theorem dX1_isWord_48 : decode cX1_isWord 48 = .ok (.iconst 0, 1) := dk_3 (dk_at dksX1_isWord_2 3 rfl rfl)
theorem dX1_isWord_49 : decode cX1_isWord 49 = .ok (.ireturn, 1) := dk_172 (dk_at dksX1_isWord_2 4 rfl rfl)
theorem dX1_isWord_50 : decode cX1_isWord 50 = .ok (.iinc 4 1, 3) := dk_132 4 1 (dk_at dksX1_isWord_2 5 rfl rfl)
theorem dX1_isWord_53 : decode cX1_isWord 53 = .ok (.goto (-33), 3) := dk_167 255 223 (dk_at dksX1_isWord_2 8 rfl rfl)
theorem dX1_isWord_56 : decode cX1_isWord 56 = .ok (.iconst 1, 1) := dk_4 (dk_at dksX1_isWord_2 11 rfl rfl)
theorem dX1_isWord_57 : decode cX1_isWord 57 = .ok (.ireturn, 1) := dk_172 (dk_at dksX1_isWord_2 12 rfl rfl)
abbrev cX1_need : ByteArray := prog_4_method_9_code
def dkwX1_need_0 : List UInt8 := [27, 154, 0, 9, 42, 5, 182, 0, 82, 191, 177]
abbrev dktX1_need_0 : List UInt8 := dkwX1_need_0 ++ []
theorem dksX1_need_0 : cX1_need.data.toList.drop 0 = dktX1_need_0 := by decide +kernel
theorem dX1_need_0 : decode cX1_need 0 = .ok (.iload_n 1, 1) := dk_27 (dk_at dksX1_need_0 0 rfl rfl)
theorem dX1_need_1 : decode cX1_need 1 = .ok (.ifCond .ne 9, 3) := dk_154 0 9 (dk_at dksX1_need_0 1 rfl rfl)
theorem dX1_need_4 : decode cX1_need 4 = .ok (.aload_n 0, 1) := dk_42 (dk_at dksX1_need_0 4 rfl rfl)
theorem dX1_need_5 : decode cX1_need 5 = .ok (.iconst 2, 1) := dk_5 (dk_at dksX1_need_0 5 rfl rfl)
theorem dX1_need_6 : decode cX1_need 6 = .ok (.invokevirtual 82, 3) := dk_182 0 82 (dk_at dksX1_need_0 6 rfl rfl)
theorem dX1_need_9 : decode cX1_need 9 = .ok (.athrow, 1) := dk_191 (dk_at dksX1_need_0 9 rfl rfl)
theorem dX1_need_10 : decode cX1_need 10 = .ok (.return_, 1) := dk_177 (dk_at dksX1_need_0 10 rfl rfl)
abbrev cX1_fail : ByteArray := prog_4_method_8_code
def dkwX1_fail_1 : List UInt8 := [176]
abbrev dktX1_fail_1 : List UInt8 := dkwX1_fail_1 ++ []
def dkwX1_fail_0 : List UInt8 := [42, 180, 0, 22, 42, 180, 0, 56, 4, 160, 0, 7, 4, 167, 0, 4, 27, 42, 180, 0, 50, 182, 0, 76]
abbrev dktX1_fail_0 : List UInt8 := dkwX1_fail_0 ++ dktX1_fail_1
theorem dksX1_fail_0 : cX1_fail.data.toList.drop 0 = dktX1_fail_0 := by decide +kernel
theorem dksX1_fail_1 : cX1_fail.data.toList.drop 24 = dktX1_fail_1 := dk_seg dksX1_fail_0 24 rfl rfl
theorem dX1_fail_0 : decode cX1_fail 0 = .ok (.aload_n 0, 1) := dk_42 (dk_at dksX1_fail_0 0 rfl rfl)
theorem dX1_fail_1 : decode cX1_fail 1 = .ok (.getfield 22, 3) := dk_180 0 22 (dk_at dksX1_fail_0 1 rfl rfl)
theorem dX1_fail_4 : decode cX1_fail 4 = .ok (.aload_n 0, 1) := dk_42 (dk_at dksX1_fail_0 4 rfl rfl)
theorem dX1_fail_5 : decode cX1_fail 5 = .ok (.getfield 56, 3) := dk_180 0 56 (dk_at dksX1_fail_0 5 rfl rfl)
theorem dX1_fail_8 : decode cX1_fail 8 = .ok (.iconst 1, 1) := dk_4 (dk_at dksX1_fail_0 8 rfl rfl)
theorem dX1_fail_9 : decode cX1_fail 9 = .ok (.if_icmp .ne 7, 3) := dk_160 0 7 (dk_at dksX1_fail_0 9 rfl rfl)
theorem dX1_fail_12 : decode cX1_fail 12 = .ok (.iconst 1, 1) := dk_4 (dk_at dksX1_fail_0 12 rfl rfl)
theorem dX1_fail_13 : decode cX1_fail 13 = .ok (.goto 4, 3) := dk_167 0 4 (dk_at dksX1_fail_0 13 rfl rfl)
theorem dX1_fail_16 : decode cX1_fail 16 = .ok (.iload_n 1, 1) := dk_27 (dk_at dksX1_fail_0 16 rfl rfl)
theorem dX1_fail_17 : decode cX1_fail 17 = .ok (.aload_n 0, 1) := dk_42 (dk_at dksX1_fail_0 17 rfl rfl)
theorem dX1_fail_18 : decode cX1_fail 18 = .ok (.getfield 50, 3) := dk_180 0 50 (dk_at dksX1_fail_0 18 rfl rfl)
theorem dX1_fail_21 : decode cX1_fail 21 = .ok (.invokevirtual 76, 3) := dk_182 0 76 (dk_at dksX1_fail_0 21 rfl rfl)
theorem dX1_fail_24 : decode cX1_fail 24 = .ok (.areturn, 1) := dk_176 (dk_at dksX1_fail_1 0 rfl rfl)
abbrev cX1_number : ByteArray := prog_4_method_14_code
def dkwX1_number_1 : List UInt8 := [161, 0, 11, 42, 180, 0, 53, 28, 164, 0, 9, 42, 7, 182, 0, 82, 191, 42, 180, 0, 53, 172]
abbrev dktX1_number_1 : List UInt8 := dkwX1_number_1 ++ []
def dkwX1_number_0 : List UInt8 := [42, 42, 180, 0, 56, 6, 160, 0, 7, 4, 167, 0, 4, 3, 182, 0, 94, 42, 180, 0, 53, 27]
abbrev dktX1_number_0 : List UInt8 := dkwX1_number_0 ++ dktX1_number_1
theorem dksX1_number_0 : cX1_number.data.toList.drop 0 = dktX1_number_0 := by decide +kernel
theorem dksX1_number_1 : cX1_number.data.toList.drop 22 = dktX1_number_1 := dk_seg dksX1_number_0 22 rfl rfl
theorem dX1_number_0 : decode cX1_number 0 = .ok (.aload_n 0, 1) := dk_42 (dk_at dksX1_number_0 0 rfl rfl)
theorem dX1_number_1 : decode cX1_number 1 = .ok (.aload_n 0, 1) := dk_42 (dk_at dksX1_number_0 1 rfl rfl)
theorem dX1_number_2 : decode cX1_number 2 = .ok (.getfield 56, 3) := dk_180 0 56 (dk_at dksX1_number_0 2 rfl rfl)
theorem dX1_number_5 : decode cX1_number 5 = .ok (.iconst 3, 1) := dk_6 (dk_at dksX1_number_0 5 rfl rfl)
theorem dX1_number_6 : decode cX1_number 6 = .ok (.if_icmp .ne 7, 3) := dk_160 0 7 (dk_at dksX1_number_0 6 rfl rfl)
theorem dX1_number_9 : decode cX1_number 9 = .ok (.iconst 1, 1) := dk_4 (dk_at dksX1_number_0 9 rfl rfl)
theorem dX1_number_10 : decode cX1_number 10 = .ok (.goto 4, 3) := dk_167 0 4 (dk_at dksX1_number_0 10 rfl rfl)
theorem dX1_number_13 : decode cX1_number 13 = .ok (.iconst 0, 1) := dk_3 (dk_at dksX1_number_0 13 rfl rfl)
theorem dX1_number_14 : decode cX1_number 14 = .ok (.invokevirtual 94, 3) := dk_182 0 94 (dk_at dksX1_number_0 14 rfl rfl)
theorem dX1_number_17 : decode cX1_number 17 = .ok (.aload_n 0, 1) := dk_42 (dk_at dksX1_number_0 17 rfl rfl)
theorem dX1_number_18 : decode cX1_number 18 = .ok (.getfield 53, 3) := dk_180 0 53 (dk_at dksX1_number_0 18 rfl rfl)
theorem dX1_number_21 : decode cX1_number 21 = .ok (.iload_n 1, 1) := dk_27 (dk_at dksX1_number_0 21 rfl rfl)
theorem dX1_number_22 : decode cX1_number 22 = .ok (.if_icmp .lt 11, 3) := dk_161 0 11 (dk_at dksX1_number_1 0 rfl rfl)
theorem dX1_number_25 : decode cX1_number 25 = .ok (.aload_n 0, 1) := dk_42 (dk_at dksX1_number_1 3 rfl rfl)
theorem dX1_number_26 : decode cX1_number 26 = .ok (.getfield 53, 3) := dk_180 0 53 (dk_at dksX1_number_1 4 rfl rfl)
theorem dX1_number_29 : decode cX1_number 29 = .ok (.iload_n 2, 1) := dk_28 (dk_at dksX1_number_1 7 rfl rfl)
theorem dX1_number_30 : decode cX1_number 30 = .ok (.if_icmp .le 9, 3) := dk_164 0 9 (dk_at dksX1_number_1 8 rfl rfl)
theorem dX1_number_33 : decode cX1_number 33 = .ok (.aload_n 0, 1) := dk_42 (dk_at dksX1_number_1 11 rfl rfl)
theorem dX1_number_34 : decode cX1_number 34 = .ok (.iconst 4, 1) := dk_7 (dk_at dksX1_number_1 12 rfl rfl)
theorem dX1_number_35 : decode cX1_number 35 = .ok (.invokevirtual 82, 3) := dk_182 0 82 (dk_at dksX1_number_1 13 rfl rfl)
theorem dX1_number_38 : decode cX1_number 38 = .ok (.athrow, 1) := dk_191 (dk_at dksX1_number_1 16 rfl rfl)
theorem dX1_number_39 : decode cX1_number 39 = .ok (.aload_n 0, 1) := dk_42 (dk_at dksX1_number_1 17 rfl rfl)
theorem dX1_number_40 : decode cX1_number 40 = .ok (.getfield 53, 3) := dk_180 0 53 (dk_at dksX1_number_1 18 rfl rfl)
theorem dX1_number_43 : decode cX1_number 43 = .ok (.ireturn, 1) := dk_172 (dk_at dksX1_number_1 21 rfl rfl)
abbrev cX1_closes : ByteArray := prog_4_method_16_code
def dkwX1_closes_0 : List UInt8 := [42, 42, 16, 59, 182, 0, 101, 182, 0, 94, 42, 182, 0, 33, 177]
abbrev dktX1_closes_0 : List UInt8 := dkwX1_closes_0 ++ []
theorem dksX1_closes_0 : cX1_closes.data.toList.drop 0 = dktX1_closes_0 := by decide +kernel
theorem dX1_closes_0 : decode cX1_closes 0 = .ok (.aload_n 0, 1) := dk_42 (dk_at dksX1_closes_0 0 rfl rfl)
theorem dX1_closes_1 : decode cX1_closes 1 = .ok (.aload_n 0, 1) := dk_42 (dk_at dksX1_closes_0 1 rfl rfl)
theorem dX1_closes_2 : decode cX1_closes 2 = .ok (.bipush 59, 2) := dk_16 59 (dk_at dksX1_closes_0 2 rfl rfl)
theorem dX1_closes_4 : decode cX1_closes 4 = .ok (.invokevirtual 101, 3) := dk_182 0 101 (dk_at dksX1_closes_0 4 rfl rfl)
theorem dX1_closes_7 : decode cX1_closes 7 = .ok (.invokevirtual 94, 3) := dk_182 0 94 (dk_at dksX1_closes_0 7 rfl rfl)
theorem dX1_closes_10 : decode cX1_closes 10 = .ok (.aload_n 0, 1) := dk_42 (dk_at dksX1_closes_0 10 rfl rfl)
theorem dX1_closes_11 : decode cX1_closes 11 = .ok (.invokevirtual 33, 3) := dk_182 0 33 (dk_at dksX1_closes_0 11 rfl rfl)
theorem dX1_closes_14 : decode cX1_closes 14 = .ok (.return_, 1) := dk_177 (dk_at dksX1_closes_0 14 rfl rfl)
abbrev cX1_is : ByteArray := prog_4_method_13_code
def dkwX1_is_0 : List UInt8 := [42, 180, 0, 56, 7, 160, 0, 15, 42, 180, 0, 53, 27, 160, 0, 7, 4, 167, 0, 4, 3, 172]
abbrev dktX1_is_0 : List UInt8 := dkwX1_is_0 ++ []
theorem dksX1_is_0 : cX1_is.data.toList.drop 0 = dktX1_is_0 := by decide +kernel
theorem dX1_is_0 : decode cX1_is 0 = .ok (.aload_n 0, 1) := dk_42 (dk_at dksX1_is_0 0 rfl rfl)
theorem dX1_is_1 : decode cX1_is 1 = .ok (.getfield 56, 3) := dk_180 0 56 (dk_at dksX1_is_0 1 rfl rfl)
theorem dX1_is_4 : decode cX1_is 4 = .ok (.iconst 4, 1) := dk_7 (dk_at dksX1_is_0 4 rfl rfl)
theorem dX1_is_5 : decode cX1_is 5 = .ok (.if_icmp .ne 15, 3) := dk_160 0 15 (dk_at dksX1_is_0 5 rfl rfl)
theorem dX1_is_8 : decode cX1_is 8 = .ok (.aload_n 0, 1) := dk_42 (dk_at dksX1_is_0 8 rfl rfl)
theorem dX1_is_9 : decode cX1_is 9 = .ok (.getfield 53, 3) := dk_180 0 53 (dk_at dksX1_is_0 9 rfl rfl)
theorem dX1_is_12 : decode cX1_is 12 = .ok (.iload_n 1, 1) := dk_27 (dk_at dksX1_is_0 12 rfl rfl)
theorem dX1_is_13 : decode cX1_is 13 = .ok (.if_icmp .ne 7, 3) := dk_160 0 7 (dk_at dksX1_is_0 13 rfl rfl)
theorem dX1_is_16 : decode cX1_is 16 = .ok (.iconst 1, 1) := dk_4 (dk_at dksX1_is_0 16 rfl rfl)
theorem dX1_is_17 : decode cX1_is 17 = .ok (.goto 4, 3) := dk_167 0 4 (dk_at dksX1_is_0 17 rfl rfl)
theorem dX1_is_20 : decode cX1_is 20 = .ok (.iconst 0, 1) := dk_3 (dk_at dksX1_is_0 20 rfl rfl)
theorem dX1_is_21 : decode cX1_is 21 = .ok (.ireturn, 1) := dk_172 (dk_at dksX1_is_0 21 rfl rfl)
abbrev cX1_passed : ByteArray := prog_4_method_15_code
def dkwX1_passed_0 : List UInt8 := [42, 27, 28, 182, 0, 98, 62, 42, 182, 0, 33, 29, 172]
abbrev dktX1_passed_0 : List UInt8 := dkwX1_passed_0 ++ []
theorem dksX1_passed_0 : cX1_passed.data.toList.drop 0 = dktX1_passed_0 := by decide +kernel
theorem dX1_passed_0 : decode cX1_passed 0 = .ok (.aload_n 0, 1) := dk_42 (dk_at dksX1_passed_0 0 rfl rfl)
theorem dX1_passed_1 : decode cX1_passed 1 = .ok (.iload_n 1, 1) := dk_27 (dk_at dksX1_passed_0 1 rfl rfl)
theorem dX1_passed_2 : decode cX1_passed 2 = .ok (.iload_n 2, 1) := dk_28 (dk_at dksX1_passed_0 2 rfl rfl)
theorem dX1_passed_3 : decode cX1_passed 3 = .ok (.invokevirtual 98, 3) := dk_182 0 98 (dk_at dksX1_passed_0 3 rfl rfl)
theorem dX1_passed_6 : decode cX1_passed 6 = .ok (.istore_n 3, 1) := dk_62 (dk_at dksX1_passed_0 6 rfl rfl)
theorem dX1_passed_7 : decode cX1_passed 7 = .ok (.aload_n 0, 1) := dk_42 (dk_at dksX1_passed_0 7 rfl rfl)
theorem dX1_passed_8 : decode cX1_passed 8 = .ok (.invokevirtual 33, 3) := dk_182 0 33 (dk_at dksX1_passed_0 8 rfl rfl)
theorem dX1_passed_11 : decode cX1_passed 11 = .ok (.iload_n 3, 1) := dk_29 (dk_at dksX1_passed_0 11 rfl rfl)
theorem dX1_passed_12 : decode cX1_passed 12 = .ok (.ireturn, 1) := dk_172 (dk_at dksX1_passed_0 12 rfl rfl)
/-! code rows: X2 (rows of claim/names) -/
set_option maxRecDepth 100000
abbrev cX2_init : ByteArray := prog_3_method_1_code
def dkwX2_init_0 : List UInt8 := [42, 17, 2, 88, 188, 8, 18, 3, 18, 5, 43, 183, 0, 7, 42, 6, 188, 10, 181, 0, 13, 177]
abbrev dktX2_init_0 : List UInt8 := dkwX2_init_0 ++ []
theorem dksX2_init_0 : cX2_init.data.toList.drop 0 = dktX2_init_0 := by decide +kernel
theorem dX2_init_0 : decode cX2_init 0 = .ok (.aload_n 0, 1) := dk_42 (dk_at dksX2_init_0 0 rfl rfl)
theorem dX2_init_1 : decode cX2_init 1 = .ok (.sipush 600, 3) := dk_17 2 88 (dk_at dksX2_init_0 1 rfl rfl)
theorem dX2_init_4 : decode cX2_init 4 = .ok (.newarray .byte, 2) := dk_188_8 (dk_at dksX2_init_0 4 rfl rfl)
theorem dX2_init_6 : decode cX2_init 6 = .ok (.ldc 3, 2) := dk_18 3 (dk_at dksX2_init_0 6 rfl rfl)
theorem dX2_init_8 : decode cX2_init 8 = .ok (.ldc 5, 2) := dk_18 5 (dk_at dksX2_init_0 8 rfl rfl)
theorem dX2_init_10 : decode cX2_init 10 = .ok (.aload_n 1, 1) := dk_43 (dk_at dksX2_init_0 10 rfl rfl)
theorem dX2_init_11 : decode cX2_init 11 = .ok (.invokespecial 7, 3) := dk_183 0 7 (dk_at dksX2_init_0 11 rfl rfl)
theorem dX2_init_14 : decode cX2_init 14 = .ok (.aload_n 0, 1) := dk_42 (dk_at dksX2_init_0 14 rfl rfl)
theorem dX2_init_15 : decode cX2_init 15 = .ok (.iconst 3, 1) := dk_6 (dk_at dksX2_init_0 15 rfl rfl)
theorem dX2_init_16 : decode cX2_init 16 = .ok (.newarray .int, 2) := dk_188_10 (dk_at dksX2_init_0 16 rfl rfl)
theorem dX2_init_18 : decode cX2_init 18 = .ok (.putfield 13, 3) := dk_181 0 13 (dk_at dksX2_init_0 18 rfl rfl)
theorem dX2_init_21 : decode cX2_init 21 = .ok (.return_, 1) := dk_177 (dk_at dksX2_init_0 21 rfl rfl)
abbrev cX2_world : ByteArray := prog_3_method_3_code
def dkwX2_world_7 : List UInt8 := [182, 0, 75, 42, 182, 0, 59, 167, 255, 160, 177]
abbrev dktX2_world_7 : List UInt8 := dkwX2_world_7 ++ []
def dkwX2_world_6 : List UInt8 := [21, 4, 104, 21, 5, 96, 120, 128, 62, 42, 182, 0, 27, 42, 6, 182, 0, 40, 42, 44, 21, 4, 21, 5]
abbrev dktX2_world_6 : List UInt8 := dkwX2_world_6 ++ dktX2_world_7
def dkwX2_world_5 : List UInt8 := [8, 21, 4, 104, 21, 5, 96, 122, 4, 126, 4, 160, 0, 9, 42, 8, 182, 0, 55, 191, 29, 4, 8]
abbrev dktX2_world_5 : List UInt8 := dkwX2_world_5 ++ dktX2_world_6
def dkwX2_world_4 : List UInt8 := [4, 100, 182, 0, 66, 54, 4, 42, 21, 4, 4, 96, 44, 180, 0, 69, 4, 100, 182, 0, 43, 54, 5, 29]
abbrev dktX2_world_4 : List UInt8 := dkwX2_world_4 ++ dktX2_world_5
def dkwX2_world_3 : List UInt8 := [42, 182, 0, 59, 3, 62, 42, 180, 0, 72, 153, 0, 95, 42, 5, 182, 0, 40, 42, 3, 44, 180, 0, 69]
abbrev dktX2_world_3 : List UInt8 := dkwX2_world_3 ++ dktX2_world_4
def dkwX2_world_2 : List UInt8 := [182, 0, 59, 42, 4, 182, 0, 40, 44, 42, 4, 44, 180, 0, 47, 184, 0, 62, 182, 0, 66, 181, 0, 69]
abbrev dktX2_world_2 : List UInt8 := dkwX2_world_2 ++ dktX2_world_3
def dkwX2_world_1 : List UInt8 := [181, 0, 47, 44, 180, 0, 47, 184, 0, 51, 154, 0, 9, 42, 7, 182, 0, 55, 191, 42, 182, 0, 27, 42]
abbrev dktX2_world_1 : List UInt8 := dkwX2_world_1 ++ dktX2_world_2
def dkwX2_world_0 : List UInt8 := [42, 27, 182, 0, 31, 44, 182, 0, 35, 42, 3, 182, 0, 40, 44, 42, 5, 16, 7, 182, 0, 43]
abbrev dktX2_world_0 : List UInt8 := dkwX2_world_0 ++ dktX2_world_1
theorem dksX2_world_0 : cX2_world.data.toList.drop 0 = dktX2_world_0 := by decide +kernel
theorem dksX2_world_1 : cX2_world.data.toList.drop 22 = dktX2_world_1 := dk_seg dksX2_world_0 22 rfl rfl
theorem dksX2_world_2 : cX2_world.data.toList.drop 46 = dktX2_world_2 := dk_seg dksX2_world_1 24 rfl rfl
theorem dksX2_world_3 : cX2_world.data.toList.drop 70 = dktX2_world_3 := dk_seg dksX2_world_2 24 rfl rfl
theorem dksX2_world_4 : cX2_world.data.toList.drop 94 = dktX2_world_4 := dk_seg dksX2_world_3 24 rfl rfl
theorem dksX2_world_5 : cX2_world.data.toList.drop 118 = dktX2_world_5 := dk_seg dksX2_world_4 24 rfl rfl
theorem dksX2_world_6 : cX2_world.data.toList.drop 141 = dktX2_world_6 := dk_seg dksX2_world_5 23 rfl rfl
theorem dksX2_world_7 : cX2_world.data.toList.drop 165 = dktX2_world_7 := dk_seg dksX2_world_6 24 rfl rfl
theorem dX2_world_0 : decode cX2_world 0 = .ok (.aload_n 0, 1) := dk_42 (dk_at dksX2_world_0 0 rfl rfl)
theorem dX2_world_1 : decode cX2_world 1 = .ok (.iload_n 1, 1) := dk_27 (dk_at dksX2_world_0 1 rfl rfl)
theorem dX2_world_2 : decode cX2_world 2 = .ok (.invokevirtual 31, 3) := dk_182 0 31 (dk_at dksX2_world_0 2 rfl rfl)
theorem dX2_world_5 : decode cX2_world 5 = .ok (.aload_n 2, 1) := dk_44 (dk_at dksX2_world_0 5 rfl rfl)
theorem dX2_world_6 : decode cX2_world 6 = .ok (.invokevirtual 35, 3) := dk_182 0 35 (dk_at dksX2_world_0 6 rfl rfl)
theorem dX2_world_9 : decode cX2_world 9 = .ok (.aload_n 0, 1) := dk_42 (dk_at dksX2_world_0 9 rfl rfl)
theorem dX2_world_10 : decode cX2_world 10 = .ok (.iconst 0, 1) := dk_3 (dk_at dksX2_world_0 10 rfl rfl)
theorem dX2_world_11 : decode cX2_world 11 = .ok (.invokevirtual 40, 3) := dk_182 0 40 (dk_at dksX2_world_0 11 rfl rfl)
theorem dX2_world_14 : decode cX2_world 14 = .ok (.aload_n 2, 1) := dk_44 (dk_at dksX2_world_0 14 rfl rfl)
theorem dX2_world_15 : decode cX2_world 15 = .ok (.aload_n 0, 1) := dk_42 (dk_at dksX2_world_0 15 rfl rfl)
theorem dX2_world_16 : decode cX2_world 16 = .ok (.iconst 2, 1) := dk_5 (dk_at dksX2_world_0 16 rfl rfl)
theorem dX2_world_17 : decode cX2_world 17 = .ok (.bipush 7, 2) := dk_16 7 (dk_at dksX2_world_0 17 rfl rfl)
theorem dX2_world_19 : decode cX2_world 19 = .ok (.invokevirtual 43, 3) := dk_182 0 43 (dk_at dksX2_world_0 19 rfl rfl)
theorem dX2_world_22 : decode cX2_world 22 = .ok (.putfield 47, 3) := dk_181 0 47 (dk_at dksX2_world_1 0 rfl rfl)
theorem dX2_world_25 : decode cX2_world 25 = .ok (.aload_n 2, 1) := dk_44 (dk_at dksX2_world_1 3 rfl rfl)
theorem dX2_world_26 : decode cX2_world 26 = .ok (.getfield 47, 3) := dk_180 0 47 (dk_at dksX2_world_1 4 rfl rfl)
theorem dX2_world_29 : decode cX2_world 29 = .ok (.invokestatic 51, 3) := dk_184 0 51 (dk_at dksX2_world_1 7 rfl rfl)
theorem dX2_world_32 : decode cX2_world 32 = .ok (.ifCond .ne 9, 3) := dk_154 0 9 (dk_at dksX2_world_1 10 rfl rfl)
theorem dX2_world_35 : decode cX2_world 35 = .ok (.aload_n 0, 1) := dk_42 (dk_at dksX2_world_1 13 rfl rfl)
theorem dX2_world_36 : decode cX2_world 36 = .ok (.iconst 4, 1) := dk_7 (dk_at dksX2_world_1 14 rfl rfl)
theorem dX2_world_37 : decode cX2_world 37 = .ok (.invokevirtual 55, 3) := dk_182 0 55 (dk_at dksX2_world_1 15 rfl rfl)
theorem dX2_world_40 : decode cX2_world 40 = .ok (.athrow, 1) := dk_191 (dk_at dksX2_world_1 18 rfl rfl)
theorem dX2_world_41 : decode cX2_world 41 = .ok (.aload_n 0, 1) := dk_42 (dk_at dksX2_world_1 19 rfl rfl)
theorem dX2_world_42 : decode cX2_world 42 = .ok (.invokevirtual 27, 3) := dk_182 0 27 (dk_at dksX2_world_1 20 rfl rfl)
theorem dX2_world_45 : decode cX2_world 45 = .ok (.aload_n 0, 1) := dk_42 (dk_at dksX2_world_1 23 rfl rfl)
theorem dX2_world_46 : decode cX2_world 46 = .ok (.invokevirtual 59, 3) := dk_182 0 59 (dk_at dksX2_world_2 0 rfl rfl)
theorem dX2_world_49 : decode cX2_world 49 = .ok (.aload_n 0, 1) := dk_42 (dk_at dksX2_world_2 3 rfl rfl)
theorem dX2_world_50 : decode cX2_world 50 = .ok (.iconst 1, 1) := dk_4 (dk_at dksX2_world_2 4 rfl rfl)
theorem dX2_world_51 : decode cX2_world 51 = .ok (.invokevirtual 40, 3) := dk_182 0 40 (dk_at dksX2_world_2 5 rfl rfl)
theorem dX2_world_54 : decode cX2_world 54 = .ok (.aload_n 2, 1) := dk_44 (dk_at dksX2_world_2 8 rfl rfl)
theorem dX2_world_55 : decode cX2_world 55 = .ok (.aload_n 0, 1) := dk_42 (dk_at dksX2_world_2 9 rfl rfl)
theorem dX2_world_56 : decode cX2_world 56 = .ok (.iconst 1, 1) := dk_4 (dk_at dksX2_world_2 10 rfl rfl)
theorem dX2_world_57 : decode cX2_world 57 = .ok (.aload_n 2, 1) := dk_44 (dk_at dksX2_world_2 11 rfl rfl)
theorem dX2_world_58 : decode cX2_world 58 = .ok (.getfield 47, 3) := dk_180 0 47 (dk_at dksX2_world_2 12 rfl rfl)
theorem dX2_world_61 : decode cX2_world 61 = .ok (.invokestatic 62, 3) := dk_184 0 62 (dk_at dksX2_world_2 15 rfl rfl)
theorem dX2_world_64 : decode cX2_world 64 = .ok (.invokevirtual 66, 3) := dk_182 0 66 (dk_at dksX2_world_2 18 rfl rfl)
theorem dX2_world_67 : decode cX2_world 67 = .ok (.putfield 69, 3) := dk_181 0 69 (dk_at dksX2_world_2 21 rfl rfl)
theorem dX2_world_70 : decode cX2_world 70 = .ok (.aload_n 0, 1) := dk_42 (dk_at dksX2_world_3 0 rfl rfl)
theorem dX2_world_71 : decode cX2_world 71 = .ok (.invokevirtual 59, 3) := dk_182 0 59 (dk_at dksX2_world_3 1 rfl rfl)
theorem dX2_world_74 : decode cX2_world 74 = .ok (.iconst 0, 1) := dk_3 (dk_at dksX2_world_3 4 rfl rfl)
theorem dX2_world_75 : decode cX2_world 75 = .ok (.istore_n 3, 1) := dk_62 (dk_at dksX2_world_3 5 rfl rfl)
theorem dX2_world_76 : decode cX2_world 76 = .ok (.aload_n 0, 1) := dk_42 (dk_at dksX2_world_3 6 rfl rfl)
theorem dX2_world_77 : decode cX2_world 77 = .ok (.getfield 72, 3) := dk_180 0 72 (dk_at dksX2_world_3 7 rfl rfl)
theorem dX2_world_80 : decode cX2_world 80 = .ok (.ifCond .eq 95, 3) := dk_153 0 95 (dk_at dksX2_world_3 10 rfl rfl)
theorem dX2_world_83 : decode cX2_world 83 = .ok (.aload_n 0, 1) := dk_42 (dk_at dksX2_world_3 13 rfl rfl)
theorem dX2_world_84 : decode cX2_world 84 = .ok (.iconst 2, 1) := dk_5 (dk_at dksX2_world_3 14 rfl rfl)
theorem dX2_world_85 : decode cX2_world 85 = .ok (.invokevirtual 40, 3) := dk_182 0 40 (dk_at dksX2_world_3 15 rfl rfl)
theorem dX2_world_88 : decode cX2_world 88 = .ok (.aload_n 0, 1) := dk_42 (dk_at dksX2_world_3 18 rfl rfl)
theorem dX2_world_89 : decode cX2_world 89 = .ok (.iconst 0, 1) := dk_3 (dk_at dksX2_world_3 19 rfl rfl)
theorem dX2_world_90 : decode cX2_world 90 = .ok (.aload_n 2, 1) := dk_44 (dk_at dksX2_world_3 20 rfl rfl)
theorem dX2_world_91 : decode cX2_world 91 = .ok (.getfield 69, 3) := dk_180 0 69 (dk_at dksX2_world_3 21 rfl rfl)
theorem dX2_world_94 : decode cX2_world 94 = .ok (.iconst 1, 1) := dk_4 (dk_at dksX2_world_4 0 rfl rfl)
theorem dX2_world_95 : decode cX2_world 95 = .ok (.isub, 1) := dk_100 (dk_at dksX2_world_4 1 rfl rfl)
theorem dX2_world_96 : decode cX2_world 96 = .ok (.invokevirtual 66, 3) := dk_182 0 66 (dk_at dksX2_world_4 2 rfl rfl)
theorem dX2_world_99 : decode cX2_world 99 = .ok (.istore 4, 2) := dk_54 4 (dk_at dksX2_world_4 5 rfl rfl)
theorem dX2_world_101 : decode cX2_world 101 = .ok (.aload_n 0, 1) := dk_42 (dk_at dksX2_world_4 7 rfl rfl)
theorem dX2_world_102 : decode cX2_world 102 = .ok (.iload 4, 2) := dk_21 4 (dk_at dksX2_world_4 8 rfl rfl)
theorem dX2_world_104 : decode cX2_world 104 = .ok (.iconst 1, 1) := dk_4 (dk_at dksX2_world_4 10 rfl rfl)
theorem dX2_world_105 : decode cX2_world 105 = .ok (.iadd, 1) := dk_96 (dk_at dksX2_world_4 11 rfl rfl)
theorem dX2_world_106 : decode cX2_world 106 = .ok (.aload_n 2, 1) := dk_44 (dk_at dksX2_world_4 12 rfl rfl)
theorem dX2_world_107 : decode cX2_world 107 = .ok (.getfield 69, 3) := dk_180 0 69 (dk_at dksX2_world_4 13 rfl rfl)
theorem dX2_world_110 : decode cX2_world 110 = .ok (.iconst 1, 1) := dk_4 (dk_at dksX2_world_4 16 rfl rfl)
theorem dX2_world_111 : decode cX2_world 111 = .ok (.isub, 1) := dk_100 (dk_at dksX2_world_4 17 rfl rfl)
theorem dX2_world_112 : decode cX2_world 112 = .ok (.invokevirtual 43, 3) := dk_182 0 43 (dk_at dksX2_world_4 18 rfl rfl)
theorem dX2_world_115 : decode cX2_world 115 = .ok (.istore 5, 2) := dk_54 5 (dk_at dksX2_world_4 21 rfl rfl)
theorem dX2_world_117 : decode cX2_world 117 = .ok (.iload_n 3, 1) := dk_29 (dk_at dksX2_world_4 23 rfl rfl)
theorem dX2_world_118 : decode cX2_world 118 = .ok (.iconst 5, 1) := dk_8 (dk_at dksX2_world_5 0 rfl rfl)
theorem dX2_world_119 : decode cX2_world 119 = .ok (.iload 4, 2) := dk_21 4 (dk_at dksX2_world_5 1 rfl rfl)
theorem dX2_world_121 : decode cX2_world 121 = .ok (.imul, 1) := dk_104 (dk_at dksX2_world_5 3 rfl rfl)
theorem dX2_world_122 : decode cX2_world 122 = .ok (.iload 5, 2) := dk_21 5 (dk_at dksX2_world_5 4 rfl rfl)
theorem dX2_world_124 : decode cX2_world 124 = .ok (.iadd, 1) := dk_96 (dk_at dksX2_world_5 6 rfl rfl)
theorem dX2_world_125 : decode cX2_world 125 = .ok (.ishr, 1) := dk_122 (dk_at dksX2_world_5 7 rfl rfl)
theorem dX2_world_126 : decode cX2_world 126 = .ok (.iconst 1, 1) := dk_4 (dk_at dksX2_world_5 8 rfl rfl)
theorem dX2_world_127 : decode cX2_world 127 = .ok (.iand, 1) := dk_126 (dk_at dksX2_world_5 9 rfl rfl)
theorem dX2_world_128 : decode cX2_world 128 = .ok (.iconst 1, 1) := dk_4 (dk_at dksX2_world_5 10 rfl rfl)
theorem dX2_world_129 : decode cX2_world 129 = .ok (.if_icmp .ne 9, 3) := dk_160 0 9 (dk_at dksX2_world_5 11 rfl rfl)
theorem dX2_world_132 : decode cX2_world 132 = .ok (.aload_n 0, 1) := dk_42 (dk_at dksX2_world_5 14 rfl rfl)
theorem dX2_world_133 : decode cX2_world 133 = .ok (.iconst 5, 1) := dk_8 (dk_at dksX2_world_5 15 rfl rfl)
theorem dX2_world_134 : decode cX2_world 134 = .ok (.invokevirtual 55, 3) := dk_182 0 55 (dk_at dksX2_world_5 16 rfl rfl)
theorem dX2_world_137 : decode cX2_world 137 = .ok (.athrow, 1) := dk_191 (dk_at dksX2_world_5 19 rfl rfl)
theorem dX2_world_138 : decode cX2_world 138 = .ok (.iload_n 3, 1) := dk_29 (dk_at dksX2_world_5 20 rfl rfl)
theorem dX2_world_139 : decode cX2_world 139 = .ok (.iconst 1, 1) := dk_4 (dk_at dksX2_world_5 21 rfl rfl)
theorem dX2_world_140 : decode cX2_world 140 = .ok (.iconst 5, 1) := dk_8 (dk_at dksX2_world_5 22 rfl rfl)
theorem dX2_world_141 : decode cX2_world 141 = .ok (.iload 4, 2) := dk_21 4 (dk_at dksX2_world_6 0 rfl rfl)
theorem dX2_world_143 : decode cX2_world 143 = .ok (.imul, 1) := dk_104 (dk_at dksX2_world_6 2 rfl rfl)
theorem dX2_world_144 : decode cX2_world 144 = .ok (.iload 5, 2) := dk_21 5 (dk_at dksX2_world_6 3 rfl rfl)
theorem dX2_world_146 : decode cX2_world 146 = .ok (.iadd, 1) := dk_96 (dk_at dksX2_world_6 5 rfl rfl)
theorem dX2_world_147 : decode cX2_world 147 = .ok (.ishl, 1) := dk_120 (dk_at dksX2_world_6 6 rfl rfl)
theorem dX2_world_148 : decode cX2_world 148 = .ok (.ior, 1) := dk_128 (dk_at dksX2_world_6 7 rfl rfl)
theorem dX2_world_149 : decode cX2_world 149 = .ok (.istore_n 3, 1) := dk_62 (dk_at dksX2_world_6 8 rfl rfl)
theorem dX2_world_150 : decode cX2_world 150 = .ok (.aload_n 0, 1) := dk_42 (dk_at dksX2_world_6 9 rfl rfl)
theorem dX2_world_151 : decode cX2_world 151 = .ok (.invokevirtual 27, 3) := dk_182 0 27 (dk_at dksX2_world_6 10 rfl rfl)
theorem dX2_world_154 : decode cX2_world 154 = .ok (.aload_n 0, 1) := dk_42 (dk_at dksX2_world_6 13 rfl rfl)
theorem dX2_world_155 : decode cX2_world 155 = .ok (.iconst 3, 1) := dk_6 (dk_at dksX2_world_6 14 rfl rfl)
theorem dX2_world_156 : decode cX2_world 156 = .ok (.invokevirtual 40, 3) := dk_182 0 40 (dk_at dksX2_world_6 15 rfl rfl)
theorem dX2_world_159 : decode cX2_world 159 = .ok (.aload_n 0, 1) := dk_42 (dk_at dksX2_world_6 18 rfl rfl)
theorem dX2_world_160 : decode cX2_world 160 = .ok (.aload_n 2, 1) := dk_44 (dk_at dksX2_world_6 19 rfl rfl)
theorem dX2_world_161 : decode cX2_world 161 = .ok (.iload 4, 2) := dk_21 4 (dk_at dksX2_world_6 20 rfl rfl)
theorem dX2_world_163 : decode cX2_world 163 = .ok (.iload 5, 2) := dk_21 5 (dk_at dksX2_world_6 22 rfl rfl)
theorem dX2_world_165 : decode cX2_world 165 = .ok (.invokevirtual 75, 3) := dk_182 0 75 (dk_at dksX2_world_7 0 rfl rfl)
theorem dX2_world_168 : decode cX2_world 168 = .ok (.aload_n 0, 1) := dk_42 (dk_at dksX2_world_7 3 rfl rfl)
theorem dX2_world_169 : decode cX2_world 169 = .ok (.invokevirtual 59, 3) := dk_182 0 59 (dk_at dksX2_world_7 4 rfl rfl)
theorem dX2_world_172 : decode cX2_world 172 = .ok (.goto (-96), 3) := dk_167 255 160 (dk_at dksX2_world_7 7 rfl rfl)
theorem dX2_world_175 : decode cX2_world 175 = .ok (.return_, 1) := dk_177 (dk_at dksX2_world_7 10 rfl rfl)
abbrev cX2_word : ByteArray := prog_3_method_2_code
def dkwX2_word_0 : List UInt8 := [42, 42, 182, 0, 19, 27, 160, 0, 7, 4, 167, 0, 4, 3, 182, 0, 23, 42, 182, 0, 27, 177]
abbrev dktX2_word_0 : List UInt8 := dkwX2_word_0 ++ []
theorem dksX2_word_0 : cX2_word.data.toList.drop 0 = dktX2_word_0 := by decide +kernel
theorem dX2_word_0 : decode cX2_word 0 = .ok (.aload_n 0, 1) := dk_42 (dk_at dksX2_word_0 0 rfl rfl)
theorem dX2_word_1 : decode cX2_word 1 = .ok (.aload_n 0, 1) := dk_42 (dk_at dksX2_word_0 1 rfl rfl)
theorem dX2_word_2 : decode cX2_word 2 = .ok (.invokevirtual 19, 3) := dk_182 0 19 (dk_at dksX2_word_0 2 rfl rfl)
theorem dX2_word_5 : decode cX2_word 5 = .ok (.iload_n 1, 1) := dk_27 (dk_at dksX2_word_0 5 rfl rfl)
theorem dX2_word_6 : decode cX2_word 6 = .ok (.if_icmp .ne 7, 3) := dk_160 0 7 (dk_at dksX2_word_0 6 rfl rfl)
theorem dX2_word_9 : decode cX2_word 9 = .ok (.iconst 1, 1) := dk_4 (dk_at dksX2_word_0 9 rfl rfl)
theorem dX2_word_10 : decode cX2_word 10 = .ok (.goto 4, 3) := dk_167 0 4 (dk_at dksX2_word_0 10 rfl rfl)
theorem dX2_word_13 : decode cX2_word 13 = .ok (.iconst 0, 1) := dk_3 (dk_at dksX2_word_0 13 rfl rfl)
theorem dX2_word_14 : decode cX2_word 14 = .ok (.invokevirtual 23, 3) := dk_182 0 23 (dk_at dksX2_word_0 14 rfl rfl)
theorem dX2_word_17 : decode cX2_word 17 = .ok (.aload_n 0, 1) := dk_42 (dk_at dksX2_word_0 17 rfl rfl)
theorem dX2_word_18 : decode cX2_word 18 = .ok (.invokevirtual 27, 3) := dk_182 0 27 (dk_at dksX2_word_0 18 rfl rfl)
theorem dX2_word_21 : decode cX2_word 21 = .ok (.return_, 1) := dk_177 (dk_at dksX2_word_0 21 rfl rfl)
abbrev cX2_terms : ByteArray := prog_3_method_4_code
def dkwX2_terms_5 : List UInt8 := [182, 0, 19, 7, 159, 255, 137, 177]
abbrev dktX2_terms_5 : List UInt8 := dkwX2_terms_5 ++ []
def dkwX2_terms_4 : List UInt8 := [21, 6, 116, 167, 0, 5, 21, 6, 182, 0, 79, 42, 182, 0, 27, 42, 180, 0, 72, 6, 159, 255, 145, 42]
abbrev dktX2_terms_4 : List UInt8 := dkwX2_terms_4 ++ dktX2_terms_5
def dkwX2_terms_3 : List UInt8 := [182, 0, 55, 191, 21, 4, 4, 21, 7, 120, 128, 54, 4, 43, 28, 29, 21, 7, 21, 5, 153, 0, 9]
abbrev dktX2_terms_3 : List UInt8 := dkwX2_terms_3 ++ dktX2_terms_4
def dkwX2_terms_2 : List UInt8 := [180, 0, 69, 4, 100, 182, 0, 43, 54, 7, 21, 4, 21, 7, 122, 4, 126, 4, 160, 0, 9, 42, 8]
abbrev dktX2_terms_2 : List UInt8 := dkwX2_terms_2 ++ dktX2_terms_3
def dkwX2_terms_1 : List UInt8 := [182, 0, 27, 42, 4, 43, 180, 0, 47, 4, 100, 182, 0, 66, 54, 6, 42, 8, 182, 0, 40, 42, 3, 43]
abbrev dktX2_terms_1 : List UInt8 := dkwX2_terms_1 ++ dktX2_terms_2
def dkwX2_terms_0 : List UInt8 := [3, 54, 4, 42, 182, 0, 19, 7, 160, 0, 7, 4, 167, 0, 4, 3, 54, 5, 21, 5, 153, 0, 7, 42]
abbrev dktX2_terms_0 : List UInt8 := dkwX2_terms_0 ++ dktX2_terms_1
theorem dksX2_terms_0 : cX2_terms.data.toList.drop 0 = dktX2_terms_0 := by decide +kernel
theorem dksX2_terms_1 : cX2_terms.data.toList.drop 24 = dktX2_terms_1 := dk_seg dksX2_terms_0 24 rfl rfl
theorem dksX2_terms_2 : cX2_terms.data.toList.drop 48 = dktX2_terms_2 := dk_seg dksX2_terms_1 24 rfl rfl
theorem dksX2_terms_3 : cX2_terms.data.toList.drop 71 = dktX2_terms_3 := dk_seg dksX2_terms_2 23 rfl rfl
theorem dksX2_terms_4 : cX2_terms.data.toList.drop 94 = dktX2_terms_4 := dk_seg dksX2_terms_3 23 rfl rfl
theorem dksX2_terms_5 : cX2_terms.data.toList.drop 118 = dktX2_terms_5 := dk_seg dksX2_terms_4 24 rfl rfl
theorem dX2_terms_0 : decode cX2_terms 0 = .ok (.iconst 0, 1) := dk_3 (dk_at dksX2_terms_0 0 rfl rfl)
theorem dX2_terms_1 : decode cX2_terms 1 = .ok (.istore 4, 2) := dk_54 4 (dk_at dksX2_terms_0 1 rfl rfl)
theorem dX2_terms_3 : decode cX2_terms 3 = .ok (.aload_n 0, 1) := dk_42 (dk_at dksX2_terms_0 3 rfl rfl)
theorem dX2_terms_4 : decode cX2_terms 4 = .ok (.invokevirtual 19, 3) := dk_182 0 19 (dk_at dksX2_terms_0 4 rfl rfl)
theorem dX2_terms_7 : decode cX2_terms 7 = .ok (.iconst 4, 1) := dk_7 (dk_at dksX2_terms_0 7 rfl rfl)
theorem dX2_terms_8 : decode cX2_terms 8 = .ok (.if_icmp .ne 7, 3) := dk_160 0 7 (dk_at dksX2_terms_0 8 rfl rfl)
theorem dX2_terms_11 : decode cX2_terms 11 = .ok (.iconst 1, 1) := dk_4 (dk_at dksX2_terms_0 11 rfl rfl)
theorem dX2_terms_12 : decode cX2_terms 12 = .ok (.goto 4, 3) := dk_167 0 4 (dk_at dksX2_terms_0 12 rfl rfl)
theorem dX2_terms_15 : decode cX2_terms 15 = .ok (.iconst 0, 1) := dk_3 (dk_at dksX2_terms_0 15 rfl rfl)
theorem dX2_terms_16 : decode cX2_terms 16 = .ok (.istore 5, 2) := dk_54 5 (dk_at dksX2_terms_0 16 rfl rfl)
theorem dX2_terms_18 : decode cX2_terms 18 = .ok (.iload 5, 2) := dk_21 5 (dk_at dksX2_terms_0 18 rfl rfl)
theorem dX2_terms_20 : decode cX2_terms 20 = .ok (.ifCond .eq 7, 3) := dk_153 0 7 (dk_at dksX2_terms_0 20 rfl rfl)
theorem dX2_terms_23 : decode cX2_terms 23 = .ok (.aload_n 0, 1) := dk_42 (dk_at dksX2_terms_0 23 rfl rfl)
theorem dX2_terms_24 : decode cX2_terms 24 = .ok (.invokevirtual 27, 3) := dk_182 0 27 (dk_at dksX2_terms_1 0 rfl rfl)
theorem dX2_terms_27 : decode cX2_terms 27 = .ok (.aload_n 0, 1) := dk_42 (dk_at dksX2_terms_1 3 rfl rfl)
theorem dX2_terms_28 : decode cX2_terms 28 = .ok (.iconst 1, 1) := dk_4 (dk_at dksX2_terms_1 4 rfl rfl)
theorem dX2_terms_29 : decode cX2_terms 29 = .ok (.aload_n 1, 1) := dk_43 (dk_at dksX2_terms_1 5 rfl rfl)
theorem dX2_terms_30 : decode cX2_terms 30 = .ok (.getfield 47, 3) := dk_180 0 47 (dk_at dksX2_terms_1 6 rfl rfl)
theorem dX2_terms_33 : decode cX2_terms 33 = .ok (.iconst 1, 1) := dk_4 (dk_at dksX2_terms_1 9 rfl rfl)
theorem dX2_terms_34 : decode cX2_terms 34 = .ok (.isub, 1) := dk_100 (dk_at dksX2_terms_1 10 rfl rfl)
theorem dX2_terms_35 : decode cX2_terms 35 = .ok (.invokevirtual 66, 3) := dk_182 0 66 (dk_at dksX2_terms_1 11 rfl rfl)
theorem dX2_terms_38 : decode cX2_terms 38 = .ok (.istore 6, 2) := dk_54 6 (dk_at dksX2_terms_1 14 rfl rfl)
theorem dX2_terms_40 : decode cX2_terms 40 = .ok (.aload_n 0, 1) := dk_42 (dk_at dksX2_terms_1 16 rfl rfl)
theorem dX2_terms_41 : decode cX2_terms 41 = .ok (.iconst 5, 1) := dk_8 (dk_at dksX2_terms_1 17 rfl rfl)
theorem dX2_terms_42 : decode cX2_terms 42 = .ok (.invokevirtual 40, 3) := dk_182 0 40 (dk_at dksX2_terms_1 18 rfl rfl)
theorem dX2_terms_45 : decode cX2_terms 45 = .ok (.aload_n 0, 1) := dk_42 (dk_at dksX2_terms_1 21 rfl rfl)
theorem dX2_terms_46 : decode cX2_terms 46 = .ok (.iconst 0, 1) := dk_3 (dk_at dksX2_terms_1 22 rfl rfl)
theorem dX2_terms_47 : decode cX2_terms 47 = .ok (.aload_n 1, 1) := dk_43 (dk_at dksX2_terms_1 23 rfl rfl)
theorem dX2_terms_48 : decode cX2_terms 48 = .ok (.getfield 69, 3) := dk_180 0 69 (dk_at dksX2_terms_2 0 rfl rfl)
theorem dX2_terms_51 : decode cX2_terms 51 = .ok (.iconst 1, 1) := dk_4 (dk_at dksX2_terms_2 3 rfl rfl)
theorem dX2_terms_52 : decode cX2_terms 52 = .ok (.isub, 1) := dk_100 (dk_at dksX2_terms_2 4 rfl rfl)
theorem dX2_terms_53 : decode cX2_terms 53 = .ok (.invokevirtual 43, 3) := dk_182 0 43 (dk_at dksX2_terms_2 5 rfl rfl)
theorem dX2_terms_56 : decode cX2_terms 56 = .ok (.istore 7, 2) := dk_54 7 (dk_at dksX2_terms_2 8 rfl rfl)
theorem dX2_terms_58 : decode cX2_terms 58 = .ok (.iload 4, 2) := dk_21 4 (dk_at dksX2_terms_2 10 rfl rfl)
theorem dX2_terms_60 : decode cX2_terms 60 = .ok (.iload 7, 2) := dk_21 7 (dk_at dksX2_terms_2 12 rfl rfl)
theorem dX2_terms_62 : decode cX2_terms 62 = .ok (.ishr, 1) := dk_122 (dk_at dksX2_terms_2 14 rfl rfl)
theorem dX2_terms_63 : decode cX2_terms 63 = .ok (.iconst 1, 1) := dk_4 (dk_at dksX2_terms_2 15 rfl rfl)
theorem dX2_terms_64 : decode cX2_terms 64 = .ok (.iand, 1) := dk_126 (dk_at dksX2_terms_2 16 rfl rfl)
theorem dX2_terms_65 : decode cX2_terms 65 = .ok (.iconst 1, 1) := dk_4 (dk_at dksX2_terms_2 17 rfl rfl)
theorem dX2_terms_66 : decode cX2_terms 66 = .ok (.if_icmp .ne 9, 3) := dk_160 0 9 (dk_at dksX2_terms_2 18 rfl rfl)
theorem dX2_terms_69 : decode cX2_terms 69 = .ok (.aload_n 0, 1) := dk_42 (dk_at dksX2_terms_2 21 rfl rfl)
theorem dX2_terms_70 : decode cX2_terms 70 = .ok (.iconst 5, 1) := dk_8 (dk_at dksX2_terms_2 22 rfl rfl)
theorem dX2_terms_71 : decode cX2_terms 71 = .ok (.invokevirtual 55, 3) := dk_182 0 55 (dk_at dksX2_terms_3 0 rfl rfl)
theorem dX2_terms_74 : decode cX2_terms 74 = .ok (.athrow, 1) := dk_191 (dk_at dksX2_terms_3 3 rfl rfl)
theorem dX2_terms_75 : decode cX2_terms 75 = .ok (.iload 4, 2) := dk_21 4 (dk_at dksX2_terms_3 4 rfl rfl)
theorem dX2_terms_77 : decode cX2_terms 77 = .ok (.iconst 1, 1) := dk_4 (dk_at dksX2_terms_3 6 rfl rfl)
theorem dX2_terms_78 : decode cX2_terms 78 = .ok (.iload 7, 2) := dk_21 7 (dk_at dksX2_terms_3 7 rfl rfl)
theorem dX2_terms_80 : decode cX2_terms 80 = .ok (.ishl, 1) := dk_120 (dk_at dksX2_terms_3 9 rfl rfl)
theorem dX2_terms_81 : decode cX2_terms 81 = .ok (.ior, 1) := dk_128 (dk_at dksX2_terms_3 10 rfl rfl)
theorem dX2_terms_82 : decode cX2_terms 82 = .ok (.istore 4, 2) := dk_54 4 (dk_at dksX2_terms_3 11 rfl rfl)
theorem dX2_terms_84 : decode cX2_terms 84 = .ok (.aload_n 1, 1) := dk_43 (dk_at dksX2_terms_3 13 rfl rfl)
theorem dX2_terms_85 : decode cX2_terms 85 = .ok (.iload_n 2, 1) := dk_28 (dk_at dksX2_terms_3 14 rfl rfl)
theorem dX2_terms_86 : decode cX2_terms 86 = .ok (.iload_n 3, 1) := dk_29 (dk_at dksX2_terms_3 15 rfl rfl)
theorem dX2_terms_87 : decode cX2_terms 87 = .ok (.iload 7, 2) := dk_21 7 (dk_at dksX2_terms_3 16 rfl rfl)
theorem dX2_terms_89 : decode cX2_terms 89 = .ok (.iload 5, 2) := dk_21 5 (dk_at dksX2_terms_3 18 rfl rfl)
theorem dX2_terms_91 : decode cX2_terms 91 = .ok (.ifCond .eq 9, 3) := dk_153 0 9 (dk_at dksX2_terms_3 20 rfl rfl)
theorem dX2_terms_94 : decode cX2_terms 94 = .ok (.iload 6, 2) := dk_21 6 (dk_at dksX2_terms_4 0 rfl rfl)
theorem dX2_terms_96 : decode cX2_terms 96 = .ok (.ineg, 1) := dk_116 (dk_at dksX2_terms_4 2 rfl rfl)
theorem dX2_terms_97 : decode cX2_terms 97 = .ok (.goto 5, 3) := dk_167 0 5 (dk_at dksX2_terms_4 3 rfl rfl)
theorem dX2_terms_100 : decode cX2_terms 100 = .ok (.iload 6, 2) := dk_21 6 (dk_at dksX2_terms_4 6 rfl rfl)
theorem dX2_terms_102 : decode cX2_terms 102 = .ok (.invokevirtual 79, 3) := dk_182 0 79 (dk_at dksX2_terms_4 8 rfl rfl)
theorem dX2_terms_105 : decode cX2_terms 105 = .ok (.aload_n 0, 1) := dk_42 (dk_at dksX2_terms_4 11 rfl rfl)
theorem dX2_terms_106 : decode cX2_terms 106 = .ok (.invokevirtual 27, 3) := dk_182 0 27 (dk_at dksX2_terms_4 12 rfl rfl)
theorem dX2_terms_109 : decode cX2_terms 109 = .ok (.aload_n 0, 1) := dk_42 (dk_at dksX2_terms_4 15 rfl rfl)
theorem dX2_terms_110 : decode cX2_terms 110 = .ok (.getfield 72, 3) := dk_180 0 72 (dk_at dksX2_terms_4 16 rfl rfl)
theorem dX2_terms_113 : decode cX2_terms 113 = .ok (.iconst 3, 1) := dk_6 (dk_at dksX2_terms_4 19 rfl rfl)
theorem dX2_terms_114 : decode cX2_terms 114 = .ok (.if_icmp .eq (-111), 3) := dk_159 255 145 (dk_at dksX2_terms_4 20 rfl rfl)
theorem dX2_terms_117 : decode cX2_terms 117 = .ok (.aload_n 0, 1) := dk_42 (dk_at dksX2_terms_4 23 rfl rfl)
theorem dX2_terms_118 : decode cX2_terms 118 = .ok (.invokevirtual 19, 3) := dk_182 0 19 (dk_at dksX2_terms_5 0 rfl rfl)
theorem dX2_terms_121 : decode cX2_terms 121 = .ok (.iconst 4, 1) := dk_7 (dk_at dksX2_terms_5 3 rfl rfl)
theorem dX2_terms_122 : decode cX2_terms 122 = .ok (.if_icmp .eq (-119), 3) := dk_159 255 137 (dk_at dksX2_terms_5 4 rfl rfl)
theorem dX2_terms_125 : decode cX2_terms 125 = .ok (.return_, 1) := dk_177 (dk_at dksX2_terms_5 7 rfl rfl)
abbrev cX2_script : ByteArray := prog_3_method_5_code
def dkwX2_script_2 : List UInt8 := [154, 0, 7, 4, 167, 0, 4, 3, 182, 0, 23, 42, 180, 0, 85, 176]
abbrev dktX2_script_2 : List UInt8 := dkwX2_script_2 ++ []
def dkwX2_script_1 : List UInt8 := [42, 27, 182, 0, 31, 42, 180, 0, 72, 153, 0, 10, 42, 182, 0, 98, 167, 255, 245, 42, 42, 180, 0, 95]
abbrev dktX2_script_1 : List UInt8 := dkwX2_script_1 ++ dktX2_script_2
def dkwX2_script_0 : List UInt8 := [42, 16, 60, 189, 0, 83, 181, 0, 85, 42, 3, 181, 0, 89, 42, 3, 181, 0, 92, 42, 3, 181, 0, 95]
abbrev dktX2_script_0 : List UInt8 := dkwX2_script_0 ++ dktX2_script_1
theorem dksX2_script_0 : cX2_script.data.toList.drop 0 = dktX2_script_0 := by decide +kernel
theorem dksX2_script_1 : cX2_script.data.toList.drop 24 = dktX2_script_1 := dk_seg dksX2_script_0 24 rfl rfl
theorem dksX2_script_2 : cX2_script.data.toList.drop 48 = dktX2_script_2 := dk_seg dksX2_script_1 24 rfl rfl
theorem dX2_script_0 : decode cX2_script 0 = .ok (.aload_n 0, 1) := dk_42 (dk_at dksX2_script_0 0 rfl rfl)
theorem dX2_script_1 : decode cX2_script 1 = .ok (.bipush 60, 2) := dk_16 60 (dk_at dksX2_script_0 1 rfl rfl)
theorem dX2_script_3 : decode cX2_script 3 = .ok (.anewarray 83, 3) := dk_189 0 83 (dk_at dksX2_script_0 3 rfl rfl)
theorem dX2_script_6 : decode cX2_script 6 = .ok (.putfield 85, 3) := dk_181 0 85 (dk_at dksX2_script_0 6 rfl rfl)
theorem dX2_script_9 : decode cX2_script 9 = .ok (.aload_n 0, 1) := dk_42 (dk_at dksX2_script_0 9 rfl rfl)
theorem dX2_script_10 : decode cX2_script 10 = .ok (.iconst 0, 1) := dk_3 (dk_at dksX2_script_0 10 rfl rfl)
theorem dX2_script_11 : decode cX2_script 11 = .ok (.putfield 89, 3) := dk_181 0 89 (dk_at dksX2_script_0 11 rfl rfl)
theorem dX2_script_14 : decode cX2_script 14 = .ok (.aload_n 0, 1) := dk_42 (dk_at dksX2_script_0 14 rfl rfl)
theorem dX2_script_15 : decode cX2_script 15 = .ok (.iconst 0, 1) := dk_3 (dk_at dksX2_script_0 15 rfl rfl)
theorem dX2_script_16 : decode cX2_script 16 = .ok (.putfield 92, 3) := dk_181 0 92 (dk_at dksX2_script_0 16 rfl rfl)
theorem dX2_script_19 : decode cX2_script 19 = .ok (.aload_n 0, 1) := dk_42 (dk_at dksX2_script_0 19 rfl rfl)
theorem dX2_script_20 : decode cX2_script 20 = .ok (.iconst 0, 1) := dk_3 (dk_at dksX2_script_0 20 rfl rfl)
theorem dX2_script_21 : decode cX2_script 21 = .ok (.putfield 95, 3) := dk_181 0 95 (dk_at dksX2_script_0 21 rfl rfl)
theorem dX2_script_24 : decode cX2_script 24 = .ok (.aload_n 0, 1) := dk_42 (dk_at dksX2_script_1 0 rfl rfl)
theorem dX2_script_25 : decode cX2_script 25 = .ok (.iload_n 1, 1) := dk_27 (dk_at dksX2_script_1 1 rfl rfl)
theorem dX2_script_26 : decode cX2_script 26 = .ok (.invokevirtual 31, 3) := dk_182 0 31 (dk_at dksX2_script_1 2 rfl rfl)
theorem dX2_script_29 : decode cX2_script 29 = .ok (.aload_n 0, 1) := dk_42 (dk_at dksX2_script_1 5 rfl rfl)
theorem dX2_script_30 : decode cX2_script 30 = .ok (.getfield 72, 3) := dk_180 0 72 (dk_at dksX2_script_1 6 rfl rfl)
theorem dX2_script_33 : decode cX2_script 33 = .ok (.ifCond .eq 10, 3) := dk_153 0 10 (dk_at dksX2_script_1 9 rfl rfl)
theorem dX2_script_36 : decode cX2_script 36 = .ok (.aload_n 0, 1) := dk_42 (dk_at dksX2_script_1 12 rfl rfl)
theorem dX2_script_37 : decode cX2_script 37 = .ok (.invokevirtual 98, 3) := dk_182 0 98 (dk_at dksX2_script_1 13 rfl rfl)
theorem dX2_script_40 : decode cX2_script 40 = .ok (.goto (-11), 3) := dk_167 255 245 (dk_at dksX2_script_1 16 rfl rfl)
theorem dX2_script_43 : decode cX2_script 43 = .ok (.aload_n 0, 1) := dk_42 (dk_at dksX2_script_1 19 rfl rfl)
theorem dX2_script_44 : decode cX2_script 44 = .ok (.aload_n 0, 1) := dk_42 (dk_at dksX2_script_1 20 rfl rfl)
theorem dX2_script_45 : decode cX2_script 45 = .ok (.getfield 95, 3) := dk_180 0 95 (dk_at dksX2_script_1 21 rfl rfl)
theorem dX2_script_48 : decode cX2_script 48 = .ok (.ifCond .ne 7, 3) := dk_154 0 7 (dk_at dksX2_script_2 0 rfl rfl)
theorem dX2_script_51 : decode cX2_script 51 = .ok (.iconst 1, 1) := dk_4 (dk_at dksX2_script_2 3 rfl rfl)
theorem dX2_script_52 : decode cX2_script 52 = .ok (.goto 4, 3) := dk_167 0 4 (dk_at dksX2_script_2 4 rfl rfl)
theorem dX2_script_55 : decode cX2_script 55 = .ok (.iconst 0, 1) := dk_3 (dk_at dksX2_script_2 7 rfl rfl)
theorem dX2_script_56 : decode cX2_script 56 = .ok (.invokevirtual 23, 3) := dk_182 0 23 (dk_at dksX2_script_2 8 rfl rfl)
theorem dX2_script_59 : decode cX2_script 59 = .ok (.aload_n 0, 1) := dk_42 (dk_at dksX2_script_2 11 rfl rfl)
theorem dX2_script_60 : decode cX2_script 60 = .ok (.getfield 85, 3) := dk_180 0 85 (dk_at dksX2_script_2 12 rfl rfl)
theorem dX2_script_63 : decode cX2_script 63 = .ok (.areturn, 1) := dk_176 (dk_at dksX2_script_2 15 rfl rfl)
abbrev cX2_step : ByteArray := prog_3_method_8_code
def dkwX2_step_16 : List UInt8 := [42, 89, 180, 0, 89, 4, 96, 181, 0, 89, 177]
abbrev dktX2_step_16 : List UInt8 := dkwX2_step_16 ++ []
def dkwX2_step_15 : List UInt8 := [16, 15, 160, 0, 7, 3, 167, 0, 4, 4, 96, 181, 0, 92, 42, 180, 0, 85, 42, 180, 0, 89, 45, 83]
abbrev dktX2_step_15 : List UInt8 := dkwX2_step_15 ++ dktX2_step_16
def dkwX2_step_14 : List UInt8 := [180, 0, 95, 42, 180, 0, 89, 79, 42, 89, 180, 0, 95, 4, 96, 181, 0, 95, 42, 89, 180, 0, 92, 27]
abbrev dktX2_step_14 : List UInt8 := dkwX2_step_14 ++ dktX2_step_15
def dkwX2_step_13 : List UInt8 := [180, 0, 89, 181, 0, 128, 167, 0, 3, 42, 182, 0, 59, 28, 153, 0, 26, 42, 180, 0, 13, 42]
abbrev dktX2_step_13 : List UInt8 := dkwX2_step_13 ++ dktX2_step_14
def dkwX2_step_12 : List UInt8 := [45, 42, 180, 0, 13, 42, 180, 0, 95, 46, 181, 0, 128, 42, 180, 0, 85, 45, 180, 0, 128, 50, 42]
abbrev dktX2_step_12 : List UInt8 := dkwX2_step_12 ++ dktX2_step_13
def dkwX2_step_11 : List UInt8 := [181, 0, 110, 167, 0, 53, 42, 45, 182, 0, 126, 167, 0, 45, 42, 89, 180, 0, 95, 4, 100, 181, 0, 95]
abbrev dktX2_step_11 : List UInt8 := dkwX2_step_11 ++ dktX2_step_12
def dkwX2_step_10 : List UInt8 := [167, 0, 80, 45, 42, 3, 6, 182, 0, 66, 181, 0, 115, 167, 0, 67, 45, 42, 4, 16, 99, 182, 0, 66]
abbrev dktX2_step_10 : List UInt8 := dkwX2_step_10 ++ dktX2_step_11
def dkwX2_step_9 : List UInt8 := [3, 7, 182, 0, 66, 181, 0, 115, 42, 16, 17, 182, 0, 40, 45, 42, 3, 7, 182, 0, 66, 181, 0, 123]
abbrev dktX2_step_9 : List UInt8 := dkwX2_step_9 ++ dktX2_step_10
def dkwX2_step_8 : List UInt8 := [181, 0, 110, 167, 0, 125, 45, 42, 3, 16, 6, 182, 0, 66, 181, 0, 110, 42, 8, 182, 0, 40, 45, 42]
abbrev dktX2_step_8 : List UInt8 := dkwX2_step_8 ++ dktX2_step_9
def dkwX2_step_7 : List UInt8 := [42, 3, 7, 182, 0, 66, 181, 0, 115, 42, 16, 16, 182, 0, 40, 45, 42, 4, 16, 6, 182, 0, 66]
abbrev dktX2_step_7 : List UInt8 := dkwX2_step_7 ++ dktX2_step_8
def dkwX2_step_6 : List UInt8 := [45, 42, 3, 7, 182, 0, 66, 181, 0, 115, 45, 42, 3, 7, 182, 0, 66, 181, 0, 123, 167, 0, 155, 45]
abbrev dktX2_step_6 : List UInt8 := dkwX2_step_6 ++ dktX2_step_7
def dkwX2_step_5 : List UInt8 := [170, 0, 0, 0, 0, 0, 0, 231, 0, 0, 0, 6, 0, 0, 0, 15, 0, 0, 0, 56, 0, 0, 0, 79, 0, 0, 0, 109, 0, 0, 0, 154, 0, 0, 0, 154, 0, 0, 0, 154, 0, 0, 0, 181, 0, 0, 0, 167, 0, 0, 0, 231, 0, 0, 0, 189]
abbrev dktX2_step_5 : List UInt8 := dkwX2_step_5 ++ dktX2_step_6
def dkwX2_step_4 : List UInt8 := [16, 7, 182, 0, 55, 191, 187, 0, 83, 89, 27, 183, 0, 121, 78, 42, 182, 0, 27, 27]
abbrev dktX2_step_4 : List UInt8 := dkwX2_step_4 ++ dktX2_step_5
def dkwX2_step_3 : List UInt8 := [160, 0, 10, 42, 16, 6, 182, 0, 55, 191, 28, 153, 0, 18, 42, 180, 0, 95, 6, 160, 0, 10, 42]
abbrev dktX2_step_3 : List UInt8 := dkwX2_step_3 ++ dktX2_step_4
def dkwX2_step_2 : List UInt8 := [158, 0, 7, 4, 167, 0, 4, 3, 182, 0, 23, 27, 16, 15, 159, 0, 19, 42, 180, 0, 92, 16, 30]
abbrev dktX2_step_2 : List UInt8 := dkwX2_step_2 ++ dktX2_step_3
def dkwX2_step_1 : List UInt8 := [27, 16, 6, 161, 0, 9, 27, 16, 14, 164, 0, 16, 27, 16, 15, 160, 0, 14, 42, 180, 0, 95]
abbrev dktX2_step_1 : List UInt8 := dkwX2_step_1 ++ dktX2_step_2
def dkwX2_step_0 : List UInt8 := [42, 182, 0, 19, 60, 27, 16, 12, 159, 0, 9, 27, 16, 13, 160, 0, 7, 4, 167, 0, 4, 3, 61, 42]
abbrev dktX2_step_0 : List UInt8 := dkwX2_step_0 ++ dktX2_step_1
theorem dksX2_step_0 : cX2_step.data.toList.drop 0 = dktX2_step_0 := by decide +kernel
theorem dksX2_step_1 : cX2_step.data.toList.drop 24 = dktX2_step_1 := dk_seg dksX2_step_0 24 rfl rfl
theorem dksX2_step_2 : cX2_step.data.toList.drop 46 = dktX2_step_2 := dk_seg dksX2_step_1 22 rfl rfl
theorem dksX2_step_3 : cX2_step.data.toList.drop 69 = dktX2_step_3 := dk_seg dksX2_step_2 23 rfl rfl
theorem dksX2_step_4 : cX2_step.data.toList.drop 92 = dktX2_step_4 := dk_seg dksX2_step_3 23 rfl rfl
theorem dksX2_step_5 : cX2_step.data.toList.drop 112 = dktX2_step_5 := dk_seg dksX2_step_4 20 rfl rfl
theorem dksX2_step_6 : cX2_step.data.toList.drop 168 = dktX2_step_6 := dk_seg dksX2_step_5 56 rfl rfl
theorem dksX2_step_7 : cX2_step.data.toList.drop 192 = dktX2_step_7 := dk_seg dksX2_step_6 24 rfl rfl
theorem dksX2_step_8 : cX2_step.data.toList.drop 215 = dktX2_step_8 := dk_seg dksX2_step_7 23 rfl rfl
theorem dksX2_step_9 : cX2_step.data.toList.drop 239 = dktX2_step_9 := dk_seg dksX2_step_8 24 rfl rfl
theorem dksX2_step_10 : cX2_step.data.toList.drop 263 = dktX2_step_10 := dk_seg dksX2_step_9 24 rfl rfl
theorem dksX2_step_11 : cX2_step.data.toList.drop 287 = dktX2_step_11 := dk_seg dksX2_step_10 24 rfl rfl
theorem dksX2_step_12 : cX2_step.data.toList.drop 311 = dktX2_step_12 := dk_seg dksX2_step_11 24 rfl rfl
theorem dksX2_step_13 : cX2_step.data.toList.drop 334 = dktX2_step_13 := dk_seg dksX2_step_12 23 rfl rfl
theorem dksX2_step_14 : cX2_step.data.toList.drop 356 = dktX2_step_14 := dk_seg dksX2_step_13 22 rfl rfl
theorem dksX2_step_15 : cX2_step.data.toList.drop 380 = dktX2_step_15 := dk_seg dksX2_step_14 24 rfl rfl
theorem dksX2_step_16 : cX2_step.data.toList.drop 404 = dktX2_step_16 := dk_seg dksX2_step_15 24 rfl rfl
theorem dX2_step_0 : decode cX2_step 0 = .ok (.aload_n 0, 1) := dk_42 (dk_at dksX2_step_0 0 rfl rfl)
theorem dX2_step_1 : decode cX2_step 1 = .ok (.invokevirtual 19, 3) := dk_182 0 19 (dk_at dksX2_step_0 1 rfl rfl)
theorem dX2_step_4 : decode cX2_step 4 = .ok (.istore_n 1, 1) := dk_60 (dk_at dksX2_step_0 4 rfl rfl)
theorem dX2_step_5 : decode cX2_step 5 = .ok (.iload_n 1, 1) := dk_27 (dk_at dksX2_step_0 5 rfl rfl)
theorem dX2_step_6 : decode cX2_step 6 = .ok (.bipush 12, 2) := dk_16 12 (dk_at dksX2_step_0 6 rfl rfl)
theorem dX2_step_8 : decode cX2_step 8 = .ok (.if_icmp .eq 9, 3) := dk_159 0 9 (dk_at dksX2_step_0 8 rfl rfl)
theorem dX2_step_11 : decode cX2_step 11 = .ok (.iload_n 1, 1) := dk_27 (dk_at dksX2_step_0 11 rfl rfl)
theorem dX2_step_12 : decode cX2_step 12 = .ok (.bipush 13, 2) := dk_16 13 (dk_at dksX2_step_0 12 rfl rfl)
theorem dX2_step_14 : decode cX2_step 14 = .ok (.if_icmp .ne 7, 3) := dk_160 0 7 (dk_at dksX2_step_0 14 rfl rfl)
theorem dX2_step_17 : decode cX2_step 17 = .ok (.iconst 1, 1) := dk_4 (dk_at dksX2_step_0 17 rfl rfl)
theorem dX2_step_18 : decode cX2_step 18 = .ok (.goto 4, 3) := dk_167 0 4 (dk_at dksX2_step_0 18 rfl rfl)
theorem dX2_step_21 : decode cX2_step 21 = .ok (.iconst 0, 1) := dk_3 (dk_at dksX2_step_0 21 rfl rfl)
theorem dX2_step_22 : decode cX2_step 22 = .ok (.istore_n 2, 1) := dk_61 (dk_at dksX2_step_0 22 rfl rfl)
theorem dX2_step_23 : decode cX2_step 23 = .ok (.aload_n 0, 1) := dk_42 (dk_at dksX2_step_0 23 rfl rfl)
theorem dX2_step_24 : decode cX2_step 24 = .ok (.iload_n 1, 1) := dk_27 (dk_at dksX2_step_1 0 rfl rfl)
theorem dX2_step_25 : decode cX2_step 25 = .ok (.bipush 6, 2) := dk_16 6 (dk_at dksX2_step_1 1 rfl rfl)
theorem dX2_step_27 : decode cX2_step 27 = .ok (.if_icmp .lt 9, 3) := dk_161 0 9 (dk_at dksX2_step_1 3 rfl rfl)
theorem dX2_step_30 : decode cX2_step 30 = .ok (.iload_n 1, 1) := dk_27 (dk_at dksX2_step_1 6 rfl rfl)
theorem dX2_step_31 : decode cX2_step 31 = .ok (.bipush 14, 2) := dk_16 14 (dk_at dksX2_step_1 7 rfl rfl)
theorem dX2_step_33 : decode cX2_step 33 = .ok (.if_icmp .le 16, 3) := dk_164 0 16 (dk_at dksX2_step_1 9 rfl rfl)
theorem dX2_step_36 : decode cX2_step 36 = .ok (.iload_n 1, 1) := dk_27 (dk_at dksX2_step_1 12 rfl rfl)
theorem dX2_step_37 : decode cX2_step 37 = .ok (.bipush 15, 2) := dk_16 15 (dk_at dksX2_step_1 13 rfl rfl)
theorem dX2_step_39 : decode cX2_step 39 = .ok (.if_icmp .ne 14, 3) := dk_160 0 14 (dk_at dksX2_step_1 15 rfl rfl)
theorem dX2_step_42 : decode cX2_step 42 = .ok (.aload_n 0, 1) := dk_42 (dk_at dksX2_step_1 18 rfl rfl)
theorem dX2_step_43 : decode cX2_step 43 = .ok (.getfield 95, 3) := dk_180 0 95 (dk_at dksX2_step_1 19 rfl rfl)
theorem dX2_step_46 : decode cX2_step 46 = .ok (.ifCond .le 7, 3) := dk_158 0 7 (dk_at dksX2_step_2 0 rfl rfl)
theorem dX2_step_49 : decode cX2_step 49 = .ok (.iconst 1, 1) := dk_4 (dk_at dksX2_step_2 3 rfl rfl)
theorem dX2_step_50 : decode cX2_step 50 = .ok (.goto 4, 3) := dk_167 0 4 (dk_at dksX2_step_2 4 rfl rfl)
theorem dX2_step_53 : decode cX2_step 53 = .ok (.iconst 0, 1) := dk_3 (dk_at dksX2_step_2 7 rfl rfl)
theorem dX2_step_54 : decode cX2_step 54 = .ok (.invokevirtual 23, 3) := dk_182 0 23 (dk_at dksX2_step_2 8 rfl rfl)
theorem dX2_step_57 : decode cX2_step 57 = .ok (.iload_n 1, 1) := dk_27 (dk_at dksX2_step_2 11 rfl rfl)
theorem dX2_step_58 : decode cX2_step 58 = .ok (.bipush 15, 2) := dk_16 15 (dk_at dksX2_step_2 12 rfl rfl)
theorem dX2_step_60 : decode cX2_step 60 = .ok (.if_icmp .eq 19, 3) := dk_159 0 19 (dk_at dksX2_step_2 14 rfl rfl)
theorem dX2_step_63 : decode cX2_step 63 = .ok (.aload_n 0, 1) := dk_42 (dk_at dksX2_step_2 17 rfl rfl)
theorem dX2_step_64 : decode cX2_step 64 = .ok (.getfield 92, 3) := dk_180 0 92 (dk_at dksX2_step_2 18 rfl rfl)
theorem dX2_step_67 : decode cX2_step 67 = .ok (.bipush 30, 2) := dk_16 30 (dk_at dksX2_step_2 21 rfl rfl)
theorem dX2_step_69 : decode cX2_step 69 = .ok (.if_icmp .ne 10, 3) := dk_160 0 10 (dk_at dksX2_step_3 0 rfl rfl)
theorem dX2_step_72 : decode cX2_step 72 = .ok (.aload_n 0, 1) := dk_42 (dk_at dksX2_step_3 3 rfl rfl)
theorem dX2_step_73 : decode cX2_step 73 = .ok (.bipush 6, 2) := dk_16 6 (dk_at dksX2_step_3 4 rfl rfl)
theorem dX2_step_75 : decode cX2_step 75 = .ok (.invokevirtual 55, 3) := dk_182 0 55 (dk_at dksX2_step_3 6 rfl rfl)
theorem dX2_step_78 : decode cX2_step 78 = .ok (.athrow, 1) := dk_191 (dk_at dksX2_step_3 9 rfl rfl)
theorem dX2_step_79 : decode cX2_step 79 = .ok (.iload_n 2, 1) := dk_28 (dk_at dksX2_step_3 10 rfl rfl)
theorem dX2_step_80 : decode cX2_step 80 = .ok (.ifCond .eq 18, 3) := dk_153 0 18 (dk_at dksX2_step_3 11 rfl rfl)
theorem dX2_step_83 : decode cX2_step 83 = .ok (.aload_n 0, 1) := dk_42 (dk_at dksX2_step_3 14 rfl rfl)
theorem dX2_step_84 : decode cX2_step 84 = .ok (.getfield 95, 3) := dk_180 0 95 (dk_at dksX2_step_3 15 rfl rfl)
theorem dX2_step_87 : decode cX2_step 87 = .ok (.iconst 3, 1) := dk_6 (dk_at dksX2_step_3 18 rfl rfl)
theorem dX2_step_88 : decode cX2_step 88 = .ok (.if_icmp .ne 10, 3) := dk_160 0 10 (dk_at dksX2_step_3 19 rfl rfl)
theorem dX2_step_91 : decode cX2_step 91 = .ok (.aload_n 0, 1) := dk_42 (dk_at dksX2_step_3 22 rfl rfl)
theorem dX2_step_92 : decode cX2_step 92 = .ok (.bipush 7, 2) := dk_16 7 (dk_at dksX2_step_4 0 rfl rfl)
theorem dX2_step_94 : decode cX2_step 94 = .ok (.invokevirtual 55, 3) := dk_182 0 55 (dk_at dksX2_step_4 2 rfl rfl)
theorem dX2_step_97 : decode cX2_step 97 = .ok (.athrow, 1) := dk_191 (dk_at dksX2_step_4 5 rfl rfl)
theorem dX2_step_98 : decode cX2_step 98 = .ok (.new 83, 3) := dk_187 0 83 (dk_at dksX2_step_4 6 rfl rfl)
theorem dX2_step_101 : decode cX2_step 101 = .ok (.dup, 1) := dk_89 (dk_at dksX2_step_4 9 rfl rfl)
theorem dX2_step_102 : decode cX2_step 102 = .ok (.iload_n 1, 1) := dk_27 (dk_at dksX2_step_4 10 rfl rfl)
theorem dX2_step_103 : decode cX2_step 103 = .ok (.invokespecial 121, 3) := dk_183 0 121 (dk_at dksX2_step_4 11 rfl rfl)
theorem dX2_step_106 : decode cX2_step 106 = .ok (.astore_n 3, 1) := dk_78 (dk_at dksX2_step_4 14 rfl rfl)
theorem dX2_step_107 : decode cX2_step 107 = .ok (.aload_n 0, 1) := dk_42 (dk_at dksX2_step_4 15 rfl rfl)
theorem dX2_step_108 : decode cX2_step 108 = .ok (.invokevirtual 27, 3) := dk_182 0 27 (dk_at dksX2_step_4 16 rfl rfl)
theorem dX2_step_111 : decode cX2_step 111 = .ok (.iload_n 1, 1) := dk_27 (dk_at dksX2_step_4 19 rfl rfl)
theorem dX2_step_112 : decode cX2_step 112 = .ok (.tableswitch 231 6 15 #[56, 79, 109, 154, 154, 154, 181, 167, 231, 189], 56) := by decide +kernel
theorem dX2_step_168 : decode cX2_step 168 = .ok (.aload_n 3, 1) := dk_45 (dk_at dksX2_step_6 0 rfl rfl)
theorem dX2_step_169 : decode cX2_step 169 = .ok (.aload_n 0, 1) := dk_42 (dk_at dksX2_step_6 1 rfl rfl)
theorem dX2_step_170 : decode cX2_step 170 = .ok (.iconst 0, 1) := dk_3 (dk_at dksX2_step_6 2 rfl rfl)
theorem dX2_step_171 : decode cX2_step 171 = .ok (.iconst 4, 1) := dk_7 (dk_at dksX2_step_6 3 rfl rfl)
theorem dX2_step_172 : decode cX2_step 172 = .ok (.invokevirtual 66, 3) := dk_182 0 66 (dk_at dksX2_step_6 4 rfl rfl)
theorem dX2_step_175 : decode cX2_step 175 = .ok (.putfield 115, 3) := dk_181 0 115 (dk_at dksX2_step_6 7 rfl rfl)
theorem dX2_step_178 : decode cX2_step 178 = .ok (.aload_n 3, 1) := dk_45 (dk_at dksX2_step_6 10 rfl rfl)
theorem dX2_step_179 : decode cX2_step 179 = .ok (.aload_n 0, 1) := dk_42 (dk_at dksX2_step_6 11 rfl rfl)
theorem dX2_step_180 : decode cX2_step 180 = .ok (.iconst 0, 1) := dk_3 (dk_at dksX2_step_6 12 rfl rfl)
theorem dX2_step_181 : decode cX2_step 181 = .ok (.iconst 4, 1) := dk_7 (dk_at dksX2_step_6 13 rfl rfl)
theorem dX2_step_182 : decode cX2_step 182 = .ok (.invokevirtual 66, 3) := dk_182 0 66 (dk_at dksX2_step_6 14 rfl rfl)
theorem dX2_step_185 : decode cX2_step 185 = .ok (.putfield 123, 3) := dk_181 0 123 (dk_at dksX2_step_6 17 rfl rfl)
theorem dX2_step_188 : decode cX2_step 188 = .ok (.goto 155, 3) := dk_167 0 155 (dk_at dksX2_step_6 20 rfl rfl)
theorem dX2_step_191 : decode cX2_step 191 = .ok (.aload_n 3, 1) := dk_45 (dk_at dksX2_step_6 23 rfl rfl)
theorem dX2_step_192 : decode cX2_step 192 = .ok (.aload_n 0, 1) := dk_42 (dk_at dksX2_step_7 0 rfl rfl)
theorem dX2_step_193 : decode cX2_step 193 = .ok (.iconst 0, 1) := dk_3 (dk_at dksX2_step_7 1 rfl rfl)
theorem dX2_step_194 : decode cX2_step 194 = .ok (.iconst 4, 1) := dk_7 (dk_at dksX2_step_7 2 rfl rfl)
theorem dX2_step_195 : decode cX2_step 195 = .ok (.invokevirtual 66, 3) := dk_182 0 66 (dk_at dksX2_step_7 3 rfl rfl)
theorem dX2_step_198 : decode cX2_step 198 = .ok (.putfield 115, 3) := dk_181 0 115 (dk_at dksX2_step_7 6 rfl rfl)
theorem dX2_step_201 : decode cX2_step 201 = .ok (.aload_n 0, 1) := dk_42 (dk_at dksX2_step_7 9 rfl rfl)
theorem dX2_step_202 : decode cX2_step 202 = .ok (.bipush 16, 2) := dk_16 16 (dk_at dksX2_step_7 10 rfl rfl)
theorem dX2_step_204 : decode cX2_step 204 = .ok (.invokevirtual 40, 3) := dk_182 0 40 (dk_at dksX2_step_7 12 rfl rfl)
theorem dX2_step_207 : decode cX2_step 207 = .ok (.aload_n 3, 1) := dk_45 (dk_at dksX2_step_7 15 rfl rfl)
theorem dX2_step_208 : decode cX2_step 208 = .ok (.aload_n 0, 1) := dk_42 (dk_at dksX2_step_7 16 rfl rfl)
theorem dX2_step_209 : decode cX2_step 209 = .ok (.iconst 1, 1) := dk_4 (dk_at dksX2_step_7 17 rfl rfl)
theorem dX2_step_210 : decode cX2_step 210 = .ok (.bipush 6, 2) := dk_16 6 (dk_at dksX2_step_7 18 rfl rfl)
theorem dX2_step_212 : decode cX2_step 212 = .ok (.invokevirtual 66, 3) := dk_182 0 66 (dk_at dksX2_step_7 20 rfl rfl)
theorem dX2_step_215 : decode cX2_step 215 = .ok (.putfield 110, 3) := dk_181 0 110 (dk_at dksX2_step_8 0 rfl rfl)
theorem dX2_step_218 : decode cX2_step 218 = .ok (.goto 125, 3) := dk_167 0 125 (dk_at dksX2_step_8 3 rfl rfl)
theorem dX2_step_221 : decode cX2_step 221 = .ok (.aload_n 3, 1) := dk_45 (dk_at dksX2_step_8 6 rfl rfl)
theorem dX2_step_222 : decode cX2_step 222 = .ok (.aload_n 0, 1) := dk_42 (dk_at dksX2_step_8 7 rfl rfl)
theorem dX2_step_223 : decode cX2_step 223 = .ok (.iconst 0, 1) := dk_3 (dk_at dksX2_step_8 8 rfl rfl)
theorem dX2_step_224 : decode cX2_step 224 = .ok (.bipush 6, 2) := dk_16 6 (dk_at dksX2_step_8 9 rfl rfl)
theorem dX2_step_226 : decode cX2_step 226 = .ok (.invokevirtual 66, 3) := dk_182 0 66 (dk_at dksX2_step_8 11 rfl rfl)
theorem dX2_step_229 : decode cX2_step 229 = .ok (.putfield 110, 3) := dk_181 0 110 (dk_at dksX2_step_8 14 rfl rfl)
theorem dX2_step_232 : decode cX2_step 232 = .ok (.aload_n 0, 1) := dk_42 (dk_at dksX2_step_8 17 rfl rfl)
theorem dX2_step_233 : decode cX2_step 233 = .ok (.iconst 5, 1) := dk_8 (dk_at dksX2_step_8 18 rfl rfl)
theorem dX2_step_234 : decode cX2_step 234 = .ok (.invokevirtual 40, 3) := dk_182 0 40 (dk_at dksX2_step_8 19 rfl rfl)
theorem dX2_step_237 : decode cX2_step 237 = .ok (.aload_n 3, 1) := dk_45 (dk_at dksX2_step_8 22 rfl rfl)
theorem dX2_step_238 : decode cX2_step 238 = .ok (.aload_n 0, 1) := dk_42 (dk_at dksX2_step_8 23 rfl rfl)
theorem dX2_step_239 : decode cX2_step 239 = .ok (.iconst 0, 1) := dk_3 (dk_at dksX2_step_9 0 rfl rfl)
theorem dX2_step_240 : decode cX2_step 240 = .ok (.iconst 4, 1) := dk_7 (dk_at dksX2_step_9 1 rfl rfl)
theorem dX2_step_241 : decode cX2_step 241 = .ok (.invokevirtual 66, 3) := dk_182 0 66 (dk_at dksX2_step_9 2 rfl rfl)
theorem dX2_step_244 : decode cX2_step 244 = .ok (.putfield 115, 3) := dk_181 0 115 (dk_at dksX2_step_9 5 rfl rfl)
theorem dX2_step_247 : decode cX2_step 247 = .ok (.aload_n 0, 1) := dk_42 (dk_at dksX2_step_9 8 rfl rfl)
theorem dX2_step_248 : decode cX2_step 248 = .ok (.bipush 17, 2) := dk_16 17 (dk_at dksX2_step_9 9 rfl rfl)
theorem dX2_step_250 : decode cX2_step 250 = .ok (.invokevirtual 40, 3) := dk_182 0 40 (dk_at dksX2_step_9 11 rfl rfl)
theorem dX2_step_253 : decode cX2_step 253 = .ok (.aload_n 3, 1) := dk_45 (dk_at dksX2_step_9 14 rfl rfl)
theorem dX2_step_254 : decode cX2_step 254 = .ok (.aload_n 0, 1) := dk_42 (dk_at dksX2_step_9 15 rfl rfl)
theorem dX2_step_255 : decode cX2_step 255 = .ok (.iconst 0, 1) := dk_3 (dk_at dksX2_step_9 16 rfl rfl)
theorem dX2_step_256 : decode cX2_step 256 = .ok (.iconst 4, 1) := dk_7 (dk_at dksX2_step_9 17 rfl rfl)
theorem dX2_step_257 : decode cX2_step 257 = .ok (.invokevirtual 66, 3) := dk_182 0 66 (dk_at dksX2_step_9 18 rfl rfl)
theorem dX2_step_260 : decode cX2_step 260 = .ok (.putfield 123, 3) := dk_181 0 123 (dk_at dksX2_step_9 21 rfl rfl)
theorem dX2_step_263 : decode cX2_step 263 = .ok (.goto 80, 3) := dk_167 0 80 (dk_at dksX2_step_10 0 rfl rfl)
theorem dX2_step_266 : decode cX2_step 266 = .ok (.aload_n 3, 1) := dk_45 (dk_at dksX2_step_10 3 rfl rfl)
theorem dX2_step_267 : decode cX2_step 267 = .ok (.aload_n 0, 1) := dk_42 (dk_at dksX2_step_10 4 rfl rfl)
theorem dX2_step_268 : decode cX2_step 268 = .ok (.iconst 0, 1) := dk_3 (dk_at dksX2_step_10 5 rfl rfl)
theorem dX2_step_269 : decode cX2_step 269 = .ok (.iconst 3, 1) := dk_6 (dk_at dksX2_step_10 6 rfl rfl)
theorem dX2_step_270 : decode cX2_step 270 = .ok (.invokevirtual 66, 3) := dk_182 0 66 (dk_at dksX2_step_10 7 rfl rfl)
theorem dX2_step_273 : decode cX2_step 273 = .ok (.putfield 115, 3) := dk_181 0 115 (dk_at dksX2_step_10 10 rfl rfl)
theorem dX2_step_276 : decode cX2_step 276 = .ok (.goto 67, 3) := dk_167 0 67 (dk_at dksX2_step_10 13 rfl rfl)
theorem dX2_step_279 : decode cX2_step 279 = .ok (.aload_n 3, 1) := dk_45 (dk_at dksX2_step_10 16 rfl rfl)
theorem dX2_step_280 : decode cX2_step 280 = .ok (.aload_n 0, 1) := dk_42 (dk_at dksX2_step_10 17 rfl rfl)
theorem dX2_step_281 : decode cX2_step 281 = .ok (.iconst 1, 1) := dk_4 (dk_at dksX2_step_10 18 rfl rfl)
theorem dX2_step_282 : decode cX2_step 282 = .ok (.bipush 99, 2) := dk_16 99 (dk_at dksX2_step_10 19 rfl rfl)
theorem dX2_step_284 : decode cX2_step 284 = .ok (.invokevirtual 66, 3) := dk_182 0 66 (dk_at dksX2_step_10 21 rfl rfl)
theorem dX2_step_287 : decode cX2_step 287 = .ok (.putfield 110, 3) := dk_181 0 110 (dk_at dksX2_step_11 0 rfl rfl)
theorem dX2_step_290 : decode cX2_step 290 = .ok (.goto 53, 3) := dk_167 0 53 (dk_at dksX2_step_11 3 rfl rfl)
theorem dX2_step_293 : decode cX2_step 293 = .ok (.aload_n 0, 1) := dk_42 (dk_at dksX2_step_11 6 rfl rfl)
theorem dX2_step_294 : decode cX2_step 294 = .ok (.aload_n 3, 1) := dk_45 (dk_at dksX2_step_11 7 rfl rfl)
theorem dX2_step_295 : decode cX2_step 295 = .ok (.invokevirtual 126, 3) := dk_182 0 126 (dk_at dksX2_step_11 8 rfl rfl)
theorem dX2_step_298 : decode cX2_step 298 = .ok (.goto 45, 3) := dk_167 0 45 (dk_at dksX2_step_11 11 rfl rfl)
theorem dX2_step_301 : decode cX2_step 301 = .ok (.aload_n 0, 1) := dk_42 (dk_at dksX2_step_11 14 rfl rfl)
theorem dX2_step_302 : decode cX2_step 302 = .ok (.dup, 1) := dk_89 (dk_at dksX2_step_11 15 rfl rfl)
theorem dX2_step_303 : decode cX2_step 303 = .ok (.getfield 95, 3) := dk_180 0 95 (dk_at dksX2_step_11 16 rfl rfl)
theorem dX2_step_306 : decode cX2_step 306 = .ok (.iconst 1, 1) := dk_4 (dk_at dksX2_step_11 19 rfl rfl)
theorem dX2_step_307 : decode cX2_step 307 = .ok (.isub, 1) := dk_100 (dk_at dksX2_step_11 20 rfl rfl)
theorem dX2_step_308 : decode cX2_step 308 = .ok (.putfield 95, 3) := dk_181 0 95 (dk_at dksX2_step_11 21 rfl rfl)
theorem dX2_step_311 : decode cX2_step 311 = .ok (.aload_n 3, 1) := dk_45 (dk_at dksX2_step_12 0 rfl rfl)
theorem dX2_step_312 : decode cX2_step 312 = .ok (.aload_n 0, 1) := dk_42 (dk_at dksX2_step_12 1 rfl rfl)
theorem dX2_step_313 : decode cX2_step 313 = .ok (.getfield 13, 3) := dk_180 0 13 (dk_at dksX2_step_12 2 rfl rfl)
theorem dX2_step_316 : decode cX2_step 316 = .ok (.aload_n 0, 1) := dk_42 (dk_at dksX2_step_12 5 rfl rfl)
theorem dX2_step_317 : decode cX2_step 317 = .ok (.getfield 95, 3) := dk_180 0 95 (dk_at dksX2_step_12 6 rfl rfl)
theorem dX2_step_320 : decode cX2_step 320 = .ok (.iaload, 1) := dk_46 (dk_at dksX2_step_12 9 rfl rfl)
theorem dX2_step_321 : decode cX2_step 321 = .ok (.putfield 128, 3) := dk_181 0 128 (dk_at dksX2_step_12 10 rfl rfl)
theorem dX2_step_324 : decode cX2_step 324 = .ok (.aload_n 0, 1) := dk_42 (dk_at dksX2_step_12 13 rfl rfl)
theorem dX2_step_325 : decode cX2_step 325 = .ok (.getfield 85, 3) := dk_180 0 85 (dk_at dksX2_step_12 14 rfl rfl)
theorem dX2_step_328 : decode cX2_step 328 = .ok (.aload_n 3, 1) := dk_45 (dk_at dksX2_step_12 17 rfl rfl)
theorem dX2_step_329 : decode cX2_step 329 = .ok (.getfield 128, 3) := dk_180 0 128 (dk_at dksX2_step_12 18 rfl rfl)
theorem dX2_step_332 : decode cX2_step 332 = .ok (.aaload, 1) := dk_50 (dk_at dksX2_step_12 21 rfl rfl)
theorem dX2_step_333 : decode cX2_step 333 = .ok (.aload_n 0, 1) := dk_42 (dk_at dksX2_step_12 22 rfl rfl)
theorem dX2_step_334 : decode cX2_step 334 = .ok (.getfield 89, 3) := dk_180 0 89 (dk_at dksX2_step_13 0 rfl rfl)
theorem dX2_step_337 : decode cX2_step 337 = .ok (.putfield 128, 3) := dk_181 0 128 (dk_at dksX2_step_13 3 rfl rfl)
theorem dX2_step_340 : decode cX2_step 340 = .ok (.goto 3, 3) := dk_167 0 3 (dk_at dksX2_step_13 6 rfl rfl)
theorem dX2_step_343 : decode cX2_step 343 = .ok (.aload_n 0, 1) := dk_42 (dk_at dksX2_step_13 9 rfl rfl)
theorem dX2_step_344 : decode cX2_step 344 = .ok (.invokevirtual 59, 3) := dk_182 0 59 (dk_at dksX2_step_13 10 rfl rfl)
theorem dX2_step_347 : decode cX2_step 347 = .ok (.iload_n 2, 1) := dk_28 (dk_at dksX2_step_13 13 rfl rfl)
theorem dX2_step_348 : decode cX2_step 348 = .ok (.ifCond .eq 26, 3) := dk_153 0 26 (dk_at dksX2_step_13 14 rfl rfl)
theorem dX2_step_351 : decode cX2_step 351 = .ok (.aload_n 0, 1) := dk_42 (dk_at dksX2_step_13 17 rfl rfl)
theorem dX2_step_352 : decode cX2_step 352 = .ok (.getfield 13, 3) := dk_180 0 13 (dk_at dksX2_step_13 18 rfl rfl)
theorem dX2_step_355 : decode cX2_step 355 = .ok (.aload_n 0, 1) := dk_42 (dk_at dksX2_step_13 21 rfl rfl)
theorem dX2_step_356 : decode cX2_step 356 = .ok (.getfield 95, 3) := dk_180 0 95 (dk_at dksX2_step_14 0 rfl rfl)
theorem dX2_step_359 : decode cX2_step 359 = .ok (.aload_n 0, 1) := dk_42 (dk_at dksX2_step_14 3 rfl rfl)
theorem dX2_step_360 : decode cX2_step 360 = .ok (.getfield 89, 3) := dk_180 0 89 (dk_at dksX2_step_14 4 rfl rfl)
theorem dX2_step_363 : decode cX2_step 363 = .ok (.iastore, 1) := dk_79 (dk_at dksX2_step_14 7 rfl rfl)
theorem dX2_step_364 : decode cX2_step 364 = .ok (.aload_n 0, 1) := dk_42 (dk_at dksX2_step_14 8 rfl rfl)
theorem dX2_step_365 : decode cX2_step 365 = .ok (.dup, 1) := dk_89 (dk_at dksX2_step_14 9 rfl rfl)
theorem dX2_step_366 : decode cX2_step 366 = .ok (.getfield 95, 3) := dk_180 0 95 (dk_at dksX2_step_14 10 rfl rfl)
theorem dX2_step_369 : decode cX2_step 369 = .ok (.iconst 1, 1) := dk_4 (dk_at dksX2_step_14 13 rfl rfl)
theorem dX2_step_370 : decode cX2_step 370 = .ok (.iadd, 1) := dk_96 (dk_at dksX2_step_14 14 rfl rfl)
theorem dX2_step_371 : decode cX2_step 371 = .ok (.putfield 95, 3) := dk_181 0 95 (dk_at dksX2_step_14 15 rfl rfl)
theorem dX2_step_374 : decode cX2_step 374 = .ok (.aload_n 0, 1) := dk_42 (dk_at dksX2_step_14 18 rfl rfl)
theorem dX2_step_375 : decode cX2_step 375 = .ok (.dup, 1) := dk_89 (dk_at dksX2_step_14 19 rfl rfl)
theorem dX2_step_376 : decode cX2_step 376 = .ok (.getfield 92, 3) := dk_180 0 92 (dk_at dksX2_step_14 20 rfl rfl)
theorem dX2_step_379 : decode cX2_step 379 = .ok (.iload_n 1, 1) := dk_27 (dk_at dksX2_step_14 23 rfl rfl)
theorem dX2_step_380 : decode cX2_step 380 = .ok (.bipush 15, 2) := dk_16 15 (dk_at dksX2_step_15 0 rfl rfl)
theorem dX2_step_382 : decode cX2_step 382 = .ok (.if_icmp .ne 7, 3) := dk_160 0 7 (dk_at dksX2_step_15 2 rfl rfl)
theorem dX2_step_385 : decode cX2_step 385 = .ok (.iconst 0, 1) := dk_3 (dk_at dksX2_step_15 5 rfl rfl)
theorem dX2_step_386 : decode cX2_step 386 = .ok (.goto 4, 3) := dk_167 0 4 (dk_at dksX2_step_15 6 rfl rfl)
theorem dX2_step_389 : decode cX2_step 389 = .ok (.iconst 1, 1) := dk_4 (dk_at dksX2_step_15 9 rfl rfl)
theorem dX2_step_390 : decode cX2_step 390 = .ok (.iadd, 1) := dk_96 (dk_at dksX2_step_15 10 rfl rfl)
theorem dX2_step_391 : decode cX2_step 391 = .ok (.putfield 92, 3) := dk_181 0 92 (dk_at dksX2_step_15 11 rfl rfl)
theorem dX2_step_394 : decode cX2_step 394 = .ok (.aload_n 0, 1) := dk_42 (dk_at dksX2_step_15 14 rfl rfl)
theorem dX2_step_395 : decode cX2_step 395 = .ok (.getfield 85, 3) := dk_180 0 85 (dk_at dksX2_step_15 15 rfl rfl)
theorem dX2_step_398 : decode cX2_step 398 = .ok (.aload_n 0, 1) := dk_42 (dk_at dksX2_step_15 18 rfl rfl)
theorem dX2_step_399 : decode cX2_step 399 = .ok (.getfield 89, 3) := dk_180 0 89 (dk_at dksX2_step_15 19 rfl rfl)
theorem dX2_step_402 : decode cX2_step 402 = .ok (.aload_n 3, 1) := dk_45 (dk_at dksX2_step_15 22 rfl rfl)
theorem dX2_step_403 : decode cX2_step 403 = .ok (.aastore, 1) := dk_83 (dk_at dksX2_step_15 23 rfl rfl)
theorem dX2_step_404 : decode cX2_step 404 = .ok (.aload_n 0, 1) := dk_42 (dk_at dksX2_step_16 0 rfl rfl)
theorem dX2_step_405 : decode cX2_step 405 = .ok (.dup, 1) := dk_89 (dk_at dksX2_step_16 1 rfl rfl)
theorem dX2_step_406 : decode cX2_step 406 = .ok (.getfield 89, 3) := dk_180 0 89 (dk_at dksX2_step_16 2 rfl rfl)
theorem dX2_step_409 : decode cX2_step 409 = .ok (.iconst 1, 1) := dk_4 (dk_at dksX2_step_16 5 rfl rfl)
theorem dX2_step_410 : decode cX2_step 410 = .ok (.iadd, 1) := dk_96 (dk_at dksX2_step_16 6 rfl rfl)
theorem dX2_step_411 : decode cX2_step 411 = .ok (.putfield 89, 3) := dk_181 0 89 (dk_at dksX2_step_16 7 rfl rfl)
theorem dX2_step_414 : decode cX2_step 414 = .ok (.return_, 1) := dk_177 (dk_at dksX2_step_16 10 rfl rfl)
abbrev cX2_test : ByteArray := prog_3_method_7_code
def dkwX2_test_4 : List UInt8 := [160, 0, 13, 43, 42, 3, 6, 182, 0, 66, 181, 0, 115, 177]
abbrev dktX2_test_4 : List UInt8 := dkwX2_test_4 ++ []
def dkwX2_test_3 : List UInt8 := [159, 0, 11, 43, 180, 0, 112, 4, 160, 0, 8, 42, 43, 182, 0, 118, 43, 180, 0, 112, 16, 23]
abbrev dktX2_test_3 : List UInt8 := dkwX2_test_3 ++ dktX2_test_4
def dkwX2_test_2 : List UInt8 := [180, 0, 112, 16, 22, 160, 0, 13, 43, 42, 3, 8, 182, 0, 66, 181, 0, 115, 43, 180, 0, 112, 16, 22]
abbrev dktX2_test_2 : List UInt8 := dkwX2_test_2 ++ dktX2_test_3
def dkwX2_test_1 : List UInt8 := [164, 0, 11, 43, 180, 0, 112, 4, 160, 0, 7, 4, 167, 0, 4, 3, 182, 0, 23, 42, 182, 0, 27, 43]
abbrev dktX2_test_1 : List UInt8 := dkwX2_test_1 ++ dktX2_test_2
def dkwX2_test_0 : List UInt8 := [43, 42, 182, 0, 19, 181, 0, 112, 42, 43, 180, 0, 112, 16, 18, 161, 0, 12, 43, 180, 0, 112, 16, 23]
abbrev dktX2_test_0 : List UInt8 := dkwX2_test_0 ++ dktX2_test_1
theorem dksX2_test_0 : cX2_test.data.toList.drop 0 = dktX2_test_0 := by decide +kernel
theorem dksX2_test_1 : cX2_test.data.toList.drop 24 = dktX2_test_1 := dk_seg dksX2_test_0 24 rfl rfl
theorem dksX2_test_2 : cX2_test.data.toList.drop 48 = dktX2_test_2 := dk_seg dksX2_test_1 24 rfl rfl
theorem dksX2_test_3 : cX2_test.data.toList.drop 72 = dktX2_test_3 := dk_seg dksX2_test_2 24 rfl rfl
theorem dksX2_test_4 : cX2_test.data.toList.drop 94 = dktX2_test_4 := dk_seg dksX2_test_3 22 rfl rfl
theorem dX2_test_0 : decode cX2_test 0 = .ok (.aload_n 1, 1) := dk_43 (dk_at dksX2_test_0 0 rfl rfl)
theorem dX2_test_1 : decode cX2_test 1 = .ok (.aload_n 0, 1) := dk_42 (dk_at dksX2_test_0 1 rfl rfl)
theorem dX2_test_2 : decode cX2_test 2 = .ok (.invokevirtual 19, 3) := dk_182 0 19 (dk_at dksX2_test_0 2 rfl rfl)
theorem dX2_test_5 : decode cX2_test 5 = .ok (.putfield 112, 3) := dk_181 0 112 (dk_at dksX2_test_0 5 rfl rfl)
theorem dX2_test_8 : decode cX2_test 8 = .ok (.aload_n 0, 1) := dk_42 (dk_at dksX2_test_0 8 rfl rfl)
theorem dX2_test_9 : decode cX2_test 9 = .ok (.aload_n 1, 1) := dk_43 (dk_at dksX2_test_0 9 rfl rfl)
theorem dX2_test_10 : decode cX2_test 10 = .ok (.getfield 112, 3) := dk_180 0 112 (dk_at dksX2_test_0 10 rfl rfl)
theorem dX2_test_13 : decode cX2_test 13 = .ok (.bipush 18, 2) := dk_16 18 (dk_at dksX2_test_0 13 rfl rfl)
theorem dX2_test_15 : decode cX2_test 15 = .ok (.if_icmp .lt 12, 3) := dk_161 0 12 (dk_at dksX2_test_0 15 rfl rfl)
theorem dX2_test_18 : decode cX2_test 18 = .ok (.aload_n 1, 1) := dk_43 (dk_at dksX2_test_0 18 rfl rfl)
theorem dX2_test_19 : decode cX2_test 19 = .ok (.getfield 112, 3) := dk_180 0 112 (dk_at dksX2_test_0 19 rfl rfl)
theorem dX2_test_22 : decode cX2_test 22 = .ok (.bipush 23, 2) := dk_16 23 (dk_at dksX2_test_0 22 rfl rfl)
theorem dX2_test_24 : decode cX2_test 24 = .ok (.if_icmp .le 11, 3) := dk_164 0 11 (dk_at dksX2_test_1 0 rfl rfl)
theorem dX2_test_27 : decode cX2_test 27 = .ok (.aload_n 1, 1) := dk_43 (dk_at dksX2_test_1 3 rfl rfl)
theorem dX2_test_28 : decode cX2_test 28 = .ok (.getfield 112, 3) := dk_180 0 112 (dk_at dksX2_test_1 4 rfl rfl)
theorem dX2_test_31 : decode cX2_test 31 = .ok (.iconst 1, 1) := dk_4 (dk_at dksX2_test_1 7 rfl rfl)
theorem dX2_test_32 : decode cX2_test 32 = .ok (.if_icmp .ne 7, 3) := dk_160 0 7 (dk_at dksX2_test_1 8 rfl rfl)
theorem dX2_test_35 : decode cX2_test 35 = .ok (.iconst 1, 1) := dk_4 (dk_at dksX2_test_1 11 rfl rfl)
theorem dX2_test_36 : decode cX2_test 36 = .ok (.goto 4, 3) := dk_167 0 4 (dk_at dksX2_test_1 12 rfl rfl)
theorem dX2_test_39 : decode cX2_test 39 = .ok (.iconst 0, 1) := dk_3 (dk_at dksX2_test_1 15 rfl rfl)
theorem dX2_test_40 : decode cX2_test 40 = .ok (.invokevirtual 23, 3) := dk_182 0 23 (dk_at dksX2_test_1 16 rfl rfl)
theorem dX2_test_43 : decode cX2_test 43 = .ok (.aload_n 0, 1) := dk_42 (dk_at dksX2_test_1 19 rfl rfl)
theorem dX2_test_44 : decode cX2_test 44 = .ok (.invokevirtual 27, 3) := dk_182 0 27 (dk_at dksX2_test_1 20 rfl rfl)
theorem dX2_test_47 : decode cX2_test 47 = .ok (.aload_n 1, 1) := dk_43 (dk_at dksX2_test_1 23 rfl rfl)
theorem dX2_test_48 : decode cX2_test 48 = .ok (.getfield 112, 3) := dk_180 0 112 (dk_at dksX2_test_2 0 rfl rfl)
theorem dX2_test_51 : decode cX2_test 51 = .ok (.bipush 22, 2) := dk_16 22 (dk_at dksX2_test_2 3 rfl rfl)
theorem dX2_test_53 : decode cX2_test 53 = .ok (.if_icmp .ne 13, 3) := dk_160 0 13 (dk_at dksX2_test_2 5 rfl rfl)
theorem dX2_test_56 : decode cX2_test 56 = .ok (.aload_n 1, 1) := dk_43 (dk_at dksX2_test_2 8 rfl rfl)
theorem dX2_test_57 : decode cX2_test 57 = .ok (.aload_n 0, 1) := dk_42 (dk_at dksX2_test_2 9 rfl rfl)
theorem dX2_test_58 : decode cX2_test 58 = .ok (.iconst 0, 1) := dk_3 (dk_at dksX2_test_2 10 rfl rfl)
theorem dX2_test_59 : decode cX2_test 59 = .ok (.iconst 5, 1) := dk_8 (dk_at dksX2_test_2 11 rfl rfl)
theorem dX2_test_60 : decode cX2_test 60 = .ok (.invokevirtual 66, 3) := dk_182 0 66 (dk_at dksX2_test_2 12 rfl rfl)
theorem dX2_test_63 : decode cX2_test 63 = .ok (.putfield 115, 3) := dk_181 0 115 (dk_at dksX2_test_2 15 rfl rfl)
theorem dX2_test_66 : decode cX2_test 66 = .ok (.aload_n 1, 1) := dk_43 (dk_at dksX2_test_2 18 rfl rfl)
theorem dX2_test_67 : decode cX2_test 67 = .ok (.getfield 112, 3) := dk_180 0 112 (dk_at dksX2_test_2 19 rfl rfl)
theorem dX2_test_70 : decode cX2_test 70 = .ok (.bipush 22, 2) := dk_16 22 (dk_at dksX2_test_2 22 rfl rfl)
theorem dX2_test_72 : decode cX2_test 72 = .ok (.if_icmp .eq 11, 3) := dk_159 0 11 (dk_at dksX2_test_3 0 rfl rfl)
theorem dX2_test_75 : decode cX2_test 75 = .ok (.aload_n 1, 1) := dk_43 (dk_at dksX2_test_3 3 rfl rfl)
theorem dX2_test_76 : decode cX2_test 76 = .ok (.getfield 112, 3) := dk_180 0 112 (dk_at dksX2_test_3 4 rfl rfl)
theorem dX2_test_79 : decode cX2_test 79 = .ok (.iconst 1, 1) := dk_4 (dk_at dksX2_test_3 7 rfl rfl)
theorem dX2_test_80 : decode cX2_test 80 = .ok (.if_icmp .ne 8, 3) := dk_160 0 8 (dk_at dksX2_test_3 8 rfl rfl)
theorem dX2_test_83 : decode cX2_test 83 = .ok (.aload_n 0, 1) := dk_42 (dk_at dksX2_test_3 11 rfl rfl)
theorem dX2_test_84 : decode cX2_test 84 = .ok (.aload_n 1, 1) := dk_43 (dk_at dksX2_test_3 12 rfl rfl)
theorem dX2_test_85 : decode cX2_test 85 = .ok (.invokevirtual 118, 3) := dk_182 0 118 (dk_at dksX2_test_3 13 rfl rfl)
theorem dX2_test_88 : decode cX2_test 88 = .ok (.aload_n 1, 1) := dk_43 (dk_at dksX2_test_3 16 rfl rfl)
theorem dX2_test_89 : decode cX2_test 89 = .ok (.getfield 112, 3) := dk_180 0 112 (dk_at dksX2_test_3 17 rfl rfl)
theorem dX2_test_92 : decode cX2_test 92 = .ok (.bipush 23, 2) := dk_16 23 (dk_at dksX2_test_3 20 rfl rfl)
theorem dX2_test_94 : decode cX2_test 94 = .ok (.if_icmp .ne 13, 3) := dk_160 0 13 (dk_at dksX2_test_4 0 rfl rfl)
theorem dX2_test_97 : decode cX2_test 97 = .ok (.aload_n 1, 1) := dk_43 (dk_at dksX2_test_4 3 rfl rfl)
theorem dX2_test_98 : decode cX2_test 98 = .ok (.aload_n 0, 1) := dk_42 (dk_at dksX2_test_4 4 rfl rfl)
theorem dX2_test_99 : decode cX2_test 99 = .ok (.iconst 0, 1) := dk_3 (dk_at dksX2_test_4 5 rfl rfl)
theorem dX2_test_100 : decode cX2_test 100 = .ok (.iconst 3, 1) := dk_6 (dk_at dksX2_test_4 6 rfl rfl)
theorem dX2_test_101 : decode cX2_test 101 = .ok (.invokevirtual 66, 3) := dk_182 0 66 (dk_at dksX2_test_4 7 rfl rfl)
theorem dX2_test_104 : decode cX2_test 104 = .ok (.putfield 115, 3) := dk_181 0 115 (dk_at dksX2_test_4 10 rfl rfl)
theorem dX2_test_107 : decode cX2_test 107 = .ok (.return_, 1) := dk_177 (dk_at dksX2_test_4 13 rfl rfl)
abbrev cX2_compares : ByteArray := prog_3_method_6_code
def dkwX2_compares_2 : List UInt8 := [182, 0, 27, 43, 42, 3, 8, 182, 0, 66, 181, 0, 110, 177]
abbrev dktX2_compares_2 : List UInt8 := dkwX2_compares_2 ++ []
def dkwX2_compares_1 : List UInt8 := [182, 0, 101, 153, 0, 7, 4, 167, 0, 4, 3, 182, 0, 23, 43, 42, 180, 0, 104, 181, 0, 107, 42]
abbrev dktX2_compares_1 : List UInt8 := dkwX2_compares_1 ++ dktX2_compares_2
def dkwX2_compares_0 : List UInt8 := [42, 42, 16, 60, 182, 0, 101, 154, 0, 21, 42, 16, 62, 182, 0, 101, 154, 0, 12, 42, 16, 61]
abbrev dktX2_compares_0 : List UInt8 := dkwX2_compares_0 ++ dktX2_compares_1
theorem dksX2_compares_0 : cX2_compares.data.toList.drop 0 = dktX2_compares_0 := by decide +kernel
theorem dksX2_compares_1 : cX2_compares.data.toList.drop 22 = dktX2_compares_1 := dk_seg dksX2_compares_0 22 rfl rfl
theorem dksX2_compares_2 : cX2_compares.data.toList.drop 45 = dktX2_compares_2 := dk_seg dksX2_compares_1 23 rfl rfl
theorem dX2_compares_0 : decode cX2_compares 0 = .ok (.aload_n 0, 1) := dk_42 (dk_at dksX2_compares_0 0 rfl rfl)
theorem dX2_compares_1 : decode cX2_compares 1 = .ok (.aload_n 0, 1) := dk_42 (dk_at dksX2_compares_0 1 rfl rfl)
theorem dX2_compares_2 : decode cX2_compares 2 = .ok (.bipush 60, 2) := dk_16 60 (dk_at dksX2_compares_0 2 rfl rfl)
theorem dX2_compares_4 : decode cX2_compares 4 = .ok (.invokevirtual 101, 3) := dk_182 0 101 (dk_at dksX2_compares_0 4 rfl rfl)
theorem dX2_compares_7 : decode cX2_compares 7 = .ok (.ifCond .ne 21, 3) := dk_154 0 21 (dk_at dksX2_compares_0 7 rfl rfl)
theorem dX2_compares_10 : decode cX2_compares 10 = .ok (.aload_n 0, 1) := dk_42 (dk_at dksX2_compares_0 10 rfl rfl)
theorem dX2_compares_11 : decode cX2_compares 11 = .ok (.bipush 62, 2) := dk_16 62 (dk_at dksX2_compares_0 11 rfl rfl)
theorem dX2_compares_13 : decode cX2_compares 13 = .ok (.invokevirtual 101, 3) := dk_182 0 101 (dk_at dksX2_compares_0 13 rfl rfl)
theorem dX2_compares_16 : decode cX2_compares 16 = .ok (.ifCond .ne 12, 3) := dk_154 0 12 (dk_at dksX2_compares_0 16 rfl rfl)
theorem dX2_compares_19 : decode cX2_compares 19 = .ok (.aload_n 0, 1) := dk_42 (dk_at dksX2_compares_0 19 rfl rfl)
theorem dX2_compares_20 : decode cX2_compares 20 = .ok (.bipush 61, 2) := dk_16 61 (dk_at dksX2_compares_0 20 rfl rfl)
theorem dX2_compares_22 : decode cX2_compares 22 = .ok (.invokevirtual 101, 3) := dk_182 0 101 (dk_at dksX2_compares_1 0 rfl rfl)
theorem dX2_compares_25 : decode cX2_compares 25 = .ok (.ifCond .eq 7, 3) := dk_153 0 7 (dk_at dksX2_compares_1 3 rfl rfl)
theorem dX2_compares_28 : decode cX2_compares 28 = .ok (.iconst 1, 1) := dk_4 (dk_at dksX2_compares_1 6 rfl rfl)
theorem dX2_compares_29 : decode cX2_compares 29 = .ok (.goto 4, 3) := dk_167 0 4 (dk_at dksX2_compares_1 7 rfl rfl)
theorem dX2_compares_32 : decode cX2_compares 32 = .ok (.iconst 0, 1) := dk_3 (dk_at dksX2_compares_1 10 rfl rfl)
theorem dX2_compares_33 : decode cX2_compares 33 = .ok (.invokevirtual 23, 3) := dk_182 0 23 (dk_at dksX2_compares_1 11 rfl rfl)
theorem dX2_compares_36 : decode cX2_compares 36 = .ok (.aload_n 1, 1) := dk_43 (dk_at dksX2_compares_1 14 rfl rfl)
theorem dX2_compares_37 : decode cX2_compares 37 = .ok (.aload_n 0, 1) := dk_42 (dk_at dksX2_compares_1 15 rfl rfl)
theorem dX2_compares_38 : decode cX2_compares 38 = .ok (.getfield 104, 3) := dk_180 0 104 (dk_at dksX2_compares_1 16 rfl rfl)
theorem dX2_compares_41 : decode cX2_compares 41 = .ok (.putfield 107, 3) := dk_181 0 107 (dk_at dksX2_compares_1 19 rfl rfl)
theorem dX2_compares_44 : decode cX2_compares 44 = .ok (.aload_n 0, 1) := dk_42 (dk_at dksX2_compares_1 22 rfl rfl)
theorem dX2_compares_45 : decode cX2_compares 45 = .ok (.invokevirtual 27, 3) := dk_182 0 27 (dk_at dksX2_compares_2 0 rfl rfl)
theorem dX2_compares_48 : decode cX2_compares 48 = .ok (.aload_n 1, 1) := dk_43 (dk_at dksX2_compares_2 3 rfl rfl)
theorem dX2_compares_49 : decode cX2_compares 49 = .ok (.aload_n 0, 1) := dk_42 (dk_at dksX2_compares_2 4 rfl rfl)
theorem dX2_compares_50 : decode cX2_compares 50 = .ok (.iconst 0, 1) := dk_3 (dk_at dksX2_compares_2 5 rfl rfl)
theorem dX2_compares_51 : decode cX2_compares 51 = .ok (.iconst 5, 1) := dk_8 (dk_at dksX2_compares_2 6 rfl rfl)
theorem dX2_compares_52 : decode cX2_compares 52 = .ok (.invokevirtual 66, 3) := dk_182 0 66 (dk_at dksX2_compares_2 7 rfl rfl)
theorem dX2_compares_55 : decode cX2_compares 55 = .ok (.putfield 110, 3) := dk_181 0 110 (dk_at dksX2_compares_2 10 rfl rfl)
theorem dX2_compares_58 : decode cX2_compares 58 = .ok (.return_, 1) := dk_177 (dk_at dksX2_compares_2 13 rfl rfl)
/-! code rows: X3 (rows of claim/names) -/
set_option maxRecDepth 100000
abbrev cX3_init : ByteArray := prog_9_method_1_code
def dkwX3_init_0 : List UInt8 := [42, 1, 1, 3, 3, 183, 0, 1, 177]
abbrev dktX3_init_0 : List UInt8 := dkwX3_init_0 ++ []
theorem dksX3_init_0 : cX3_init.data.toList.drop 0 = dktX3_init_0 := by decide +kernel
theorem dX3_init_0 : decode cX3_init 0 = .ok (.aload_n 0, 1) := dk_42 (dk_at dksX3_init_0 0 rfl rfl)
theorem dX3_init_1 : decode cX3_init 1 = .ok (.aconst_null, 1) := dk_1 (dk_at dksX3_init_0 1 rfl rfl)
theorem dX3_init_2 : decode cX3_init 2 = .ok (.aconst_null, 1) := dk_1 (dk_at dksX3_init_0 2 rfl rfl)
theorem dX3_init_3 : decode cX3_init 3 = .ok (.iconst 0, 1) := dk_3 (dk_at dksX3_init_0 3 rfl rfl)
theorem dX3_init_4 : decode cX3_init 4 = .ok (.iconst 0, 1) := dk_3 (dk_at dksX3_init_0 4 rfl rfl)
theorem dX3_init_5 : decode cX3_init 5 = .ok (.invokespecial 1, 3) := dk_183 0 1 (dk_at dksX3_init_0 5 rfl rfl)
theorem dX3_init_8 : decode cX3_init 8 = .ok (.return_, 1) := dk_177 (dk_at dksX3_init_0 8 rfl rfl)
abbrev cX3_of : ByteArray := prog_9_method_2_code
def dkwX3_of_0 : List UInt8 := [42, 27, 181, 0, 7, 42, 28, 181, 0, 13, 42, 176]
abbrev dktX3_of_0 : List UInt8 := dkwX3_of_0 ++ []
theorem dksX3_of_0 : cX3_of.data.toList.drop 0 = dktX3_of_0 := by decide +kernel
theorem dX3_of_0 : decode cX3_of 0 = .ok (.aload_n 0, 1) := dk_42 (dk_at dksX3_of_0 0 rfl rfl)
theorem dX3_of_1 : decode cX3_of 1 = .ok (.iload_n 1, 1) := dk_27 (dk_at dksX3_of_0 1 rfl rfl)
theorem dX3_of_2 : decode cX3_of 2 = .ok (.putfield 7, 3) := dk_181 0 7 (dk_at dksX3_of_0 2 rfl rfl)
theorem dX3_of_5 : decode cX3_of 5 = .ok (.aload_n 0, 1) := dk_42 (dk_at dksX3_of_0 5 rfl rfl)
theorem dX3_of_6 : decode cX3_of 6 = .ok (.iload_n 2, 1) := dk_28 (dk_at dksX3_of_0 6 rfl rfl)
theorem dX3_of_7 : decode cX3_of 7 = .ok (.putfield 13, 3) := dk_181 0 13 (dk_at dksX3_of_0 7 rfl rfl)
theorem dX3_of_10 : decode cX3_of 10 = .ok (.aload_n 0, 1) := dk_42 (dk_at dksX3_of_0 10 rfl rfl)
theorem dX3_of_11 : decode cX3_of 11 = .ok (.areturn, 1) := dk_176 (dk_at dksX3_of_0 11 rfl rfl)
/-! code rows: X4 (rows of claim/names) -/
set_option maxRecDepth 100000
abbrev cX4_init : ByteArray := prog_8_method_1_code
def dkwX4_init_1 : List UInt8 := [181, 0, 20, 177]
abbrev dktX4_init_1 : List UInt8 := dkwX4_init_1 ++ []
def dkwX4_init_0 : List UInt8 := [42, 183, 0, 3, 42, 8, 8, 8, 197, 0, 9, 3, 181, 0, 11, 42, 5, 181, 0, 16, 42, 4]
abbrev dktX4_init_0 : List UInt8 := dkwX4_init_0 ++ dktX4_init_1
theorem dksX4_init_0 : cX4_init.data.toList.drop 0 = dktX4_init_0 := by decide +kernel
theorem dksX4_init_1 : cX4_init.data.toList.drop 22 = dktX4_init_1 := dk_seg dksX4_init_0 22 rfl rfl
theorem dX4_init_0 : decode cX4_init 0 = .ok (.aload_n 0, 1) := dk_42 (dk_at dksX4_init_0 0 rfl rfl)
theorem dX4_init_1 : decode cX4_init 1 = .ok (.invokespecial 3, 3) := dk_183 0 3 (dk_at dksX4_init_0 1 rfl rfl)
theorem dX4_init_4 : decode cX4_init 4 = .ok (.aload_n 0, 1) := dk_42 (dk_at dksX4_init_0 4 rfl rfl)
theorem dX4_init_5 : decode cX4_init 5 = .ok (.iconst 5, 1) := dk_8 (dk_at dksX4_init_0 5 rfl rfl)
theorem dX4_init_6 : decode cX4_init 6 = .ok (.iconst 5, 1) := dk_8 (dk_at dksX4_init_0 6 rfl rfl)
theorem dX4_init_7 : decode cX4_init 7 = .ok (.iconst 5, 1) := dk_8 (dk_at dksX4_init_0 7 rfl rfl)
theorem dX4_init_8 : decode cX4_init 8 = .ok (.multianewarray 9 3, 4) := by decide +kernel
theorem dX4_init_12 : decode cX4_init 12 = .ok (.putfield 11, 3) := dk_181 0 11 (dk_at dksX4_init_0 12 rfl rfl)
theorem dX4_init_15 : decode cX4_init 15 = .ok (.aload_n 0, 1) := dk_42 (dk_at dksX4_init_0 15 rfl rfl)
theorem dX4_init_16 : decode cX4_init 16 = .ok (.iconst 2, 1) := dk_5 (dk_at dksX4_init_0 16 rfl rfl)
theorem dX4_init_17 : decode cX4_init 17 = .ok (.putfield 16, 3) := dk_181 0 16 (dk_at dksX4_init_0 17 rfl rfl)
theorem dX4_init_20 : decode cX4_init 20 = .ok (.aload_n 0, 1) := dk_42 (dk_at dksX4_init_0 20 rfl rfl)
theorem dX4_init_21 : decode cX4_init 21 = .ok (.iconst 1, 1) := dk_4 (dk_at dksX4_init_0 21 rfl rfl)
theorem dX4_init_22 : decode cX4_init 22 = .ok (.putfield 20, 3) := dk_181 0 20 (dk_at dksX4_init_1 0 rfl rfl)
theorem dX4_init_25 : decode cX4_init 25 = .ok (.return_, 1) := dk_177 (dk_at dksX4_init_1 3 rfl rfl)
abbrev cX4_clear : ByteArray := prog_8_method_3_code
def dkwX4_clear_2 : List UInt8 := [132, 1, 1, 167, 255, 211, 177]
abbrev dktX4_clear_2 : List UInt8 := dkwX4_clear_2 ++ []
def dkwX4_clear_1 : List UInt8 := [180, 0, 11, 27, 50, 28, 50, 29, 3, 79, 132, 3, 1, 167, 255, 237, 132, 2, 1, 167, 255, 224]
abbrev dktX4_clear_1 : List UInt8 := dkwX4_clear_1 ++ dktX4_clear_2
def dkwX4_clear_0 : List UInt8 := [3, 60, 27, 8, 162, 0, 46, 3, 61, 28, 8, 162, 0, 33, 3, 62, 29, 8, 162, 0, 20, 42]
abbrev dktX4_clear_0 : List UInt8 := dkwX4_clear_0 ++ dktX4_clear_1
theorem dksX4_clear_0 : cX4_clear.data.toList.drop 0 = dktX4_clear_0 := by decide +kernel
theorem dksX4_clear_1 : cX4_clear.data.toList.drop 22 = dktX4_clear_1 := dk_seg dksX4_clear_0 22 rfl rfl
theorem dksX4_clear_2 : cX4_clear.data.toList.drop 44 = dktX4_clear_2 := dk_seg dksX4_clear_1 22 rfl rfl
theorem dX4_clear_0 : decode cX4_clear 0 = .ok (.iconst 0, 1) := dk_3 (dk_at dksX4_clear_0 0 rfl rfl)
theorem dX4_clear_1 : decode cX4_clear 1 = .ok (.istore_n 1, 1) := dk_60 (dk_at dksX4_clear_0 1 rfl rfl)
theorem dX4_clear_2 : decode cX4_clear 2 = .ok (.iload_n 1, 1) := dk_27 (dk_at dksX4_clear_0 2 rfl rfl)
theorem dX4_clear_3 : decode cX4_clear 3 = .ok (.iconst 5, 1) := dk_8 (dk_at dksX4_clear_0 3 rfl rfl)
theorem dX4_clear_4 : decode cX4_clear 4 = .ok (.if_icmp .ge 46, 3) := dk_162 0 46 (dk_at dksX4_clear_0 4 rfl rfl)
theorem dX4_clear_7 : decode cX4_clear 7 = .ok (.iconst 0, 1) := dk_3 (dk_at dksX4_clear_0 7 rfl rfl)
theorem dX4_clear_8 : decode cX4_clear 8 = .ok (.istore_n 2, 1) := dk_61 (dk_at dksX4_clear_0 8 rfl rfl)
theorem dX4_clear_9 : decode cX4_clear 9 = .ok (.iload_n 2, 1) := dk_28 (dk_at dksX4_clear_0 9 rfl rfl)
theorem dX4_clear_10 : decode cX4_clear 10 = .ok (.iconst 5, 1) := dk_8 (dk_at dksX4_clear_0 10 rfl rfl)
theorem dX4_clear_11 : decode cX4_clear 11 = .ok (.if_icmp .ge 33, 3) := dk_162 0 33 (dk_at dksX4_clear_0 11 rfl rfl)
theorem dX4_clear_14 : decode cX4_clear 14 = .ok (.iconst 0, 1) := dk_3 (dk_at dksX4_clear_0 14 rfl rfl)
theorem dX4_clear_15 : decode cX4_clear 15 = .ok (.istore_n 3, 1) := dk_62 (dk_at dksX4_clear_0 15 rfl rfl)
theorem dX4_clear_16 : decode cX4_clear 16 = .ok (.iload_n 3, 1) := dk_29 (dk_at dksX4_clear_0 16 rfl rfl)
theorem dX4_clear_17 : decode cX4_clear 17 = .ok (.iconst 5, 1) := dk_8 (dk_at dksX4_clear_0 17 rfl rfl)
theorem dX4_clear_18 : decode cX4_clear 18 = .ok (.if_icmp .ge 20, 3) := dk_162 0 20 (dk_at dksX4_clear_0 18 rfl rfl)
theorem dX4_clear_21 : decode cX4_clear 21 = .ok (.aload_n 0, 1) := dk_42 (dk_at dksX4_clear_0 21 rfl rfl)
theorem dX4_clear_22 : decode cX4_clear 22 = .ok (.getfield 11, 3) := dk_180 0 11 (dk_at dksX4_clear_1 0 rfl rfl)
theorem dX4_clear_25 : decode cX4_clear 25 = .ok (.iload_n 1, 1) := dk_27 (dk_at dksX4_clear_1 3 rfl rfl)
theorem dX4_clear_26 : decode cX4_clear 26 = .ok (.aaload, 1) := dk_50 (dk_at dksX4_clear_1 4 rfl rfl)
theorem dX4_clear_27 : decode cX4_clear 27 = .ok (.iload_n 2, 1) := dk_28 (dk_at dksX4_clear_1 5 rfl rfl)
theorem dX4_clear_28 : decode cX4_clear 28 = .ok (.aaload, 1) := dk_50 (dk_at dksX4_clear_1 6 rfl rfl)
theorem dX4_clear_29 : decode cX4_clear 29 = .ok (.iload_n 3, 1) := dk_29 (dk_at dksX4_clear_1 7 rfl rfl)
theorem dX4_clear_30 : decode cX4_clear 30 = .ok (.iconst 0, 1) := dk_3 (dk_at dksX4_clear_1 8 rfl rfl)
theorem dX4_clear_31 : decode cX4_clear 31 = .ok (.iastore, 1) := dk_79 (dk_at dksX4_clear_1 9 rfl rfl)
theorem dX4_clear_32 : decode cX4_clear 32 = .ok (.iinc 3 1, 3) := dk_132 3 1 (dk_at dksX4_clear_1 10 rfl rfl)
theorem dX4_clear_35 : decode cX4_clear 35 = .ok (.goto (-19), 3) := dk_167 255 237 (dk_at dksX4_clear_1 13 rfl rfl)
theorem dX4_clear_38 : decode cX4_clear 38 = .ok (.iinc 2 1, 3) := dk_132 2 1 (dk_at dksX4_clear_1 16 rfl rfl)
theorem dX4_clear_41 : decode cX4_clear 41 = .ok (.goto (-32), 3) := dk_167 255 224 (dk_at dksX4_clear_1 19 rfl rfl)
theorem dX4_clear_44 : decode cX4_clear 44 = .ok (.iinc 1 1, 3) := dk_132 1 1 (dk_at dksX4_clear_2 0 rfl rfl)
theorem dX4_clear_47 : decode cX4_clear 47 = .ok (.goto (-45), 3) := dk_167 255 211 (dk_at dksX4_clear_2 3 rfl rfl)
theorem dX4_clear_50 : decode cX4_clear 50 = .ok (.return_, 1) := dk_177 (dk_at dksX4_clear_2 6 rfl rfl)
abbrev cX4_set : ByteArray := prog_8_method_4_code
def dkwX4_set_1 : List UInt8 := [29, 42, 21, 4, 116, 182, 0, 29, 79, 177]
abbrev dktX4_set_1 : List UInt8 := dkwX4_set_1 ++ []
def dkwX4_set_0 : List UInt8 := [42, 180, 0, 11, 27, 50, 28, 50, 29, 42, 21, 4, 182, 0, 29, 79, 42, 180, 0, 11, 28, 50, 27, 50]
abbrev dktX4_set_0 : List UInt8 := dkwX4_set_0 ++ dktX4_set_1
theorem dksX4_set_0 : cX4_set.data.toList.drop 0 = dktX4_set_0 := by decide +kernel
theorem dksX4_set_1 : cX4_set.data.toList.drop 24 = dktX4_set_1 := dk_seg dksX4_set_0 24 rfl rfl
theorem dX4_set_0 : decode cX4_set 0 = .ok (.aload_n 0, 1) := dk_42 (dk_at dksX4_set_0 0 rfl rfl)
theorem dX4_set_1 : decode cX4_set 1 = .ok (.getfield 11, 3) := dk_180 0 11 (dk_at dksX4_set_0 1 rfl rfl)
theorem dX4_set_4 : decode cX4_set 4 = .ok (.iload_n 1, 1) := dk_27 (dk_at dksX4_set_0 4 rfl rfl)
theorem dX4_set_5 : decode cX4_set 5 = .ok (.aaload, 1) := dk_50 (dk_at dksX4_set_0 5 rfl rfl)
theorem dX4_set_6 : decode cX4_set 6 = .ok (.iload_n 2, 1) := dk_28 (dk_at dksX4_set_0 6 rfl rfl)
theorem dX4_set_7 : decode cX4_set 7 = .ok (.aaload, 1) := dk_50 (dk_at dksX4_set_0 7 rfl rfl)
theorem dX4_set_8 : decode cX4_set 8 = .ok (.iload_n 3, 1) := dk_29 (dk_at dksX4_set_0 8 rfl rfl)
theorem dX4_set_9 : decode cX4_set 9 = .ok (.aload_n 0, 1) := dk_42 (dk_at dksX4_set_0 9 rfl rfl)
theorem dX4_set_10 : decode cX4_set 10 = .ok (.iload 4, 2) := dk_21 4 (dk_at dksX4_set_0 10 rfl rfl)
theorem dX4_set_12 : decode cX4_set 12 = .ok (.invokevirtual 29, 3) := dk_182 0 29 (dk_at dksX4_set_0 12 rfl rfl)
theorem dX4_set_15 : decode cX4_set 15 = .ok (.iastore, 1) := dk_79 (dk_at dksX4_set_0 15 rfl rfl)
theorem dX4_set_16 : decode cX4_set 16 = .ok (.aload_n 0, 1) := dk_42 (dk_at dksX4_set_0 16 rfl rfl)
theorem dX4_set_17 : decode cX4_set 17 = .ok (.getfield 11, 3) := dk_180 0 11 (dk_at dksX4_set_0 17 rfl rfl)
theorem dX4_set_20 : decode cX4_set 20 = .ok (.iload_n 2, 1) := dk_28 (dk_at dksX4_set_0 20 rfl rfl)
theorem dX4_set_21 : decode cX4_set 21 = .ok (.aaload, 1) := dk_50 (dk_at dksX4_set_0 21 rfl rfl)
theorem dX4_set_22 : decode cX4_set 22 = .ok (.iload_n 1, 1) := dk_27 (dk_at dksX4_set_0 22 rfl rfl)
theorem dX4_set_23 : decode cX4_set 23 = .ok (.aaload, 1) := dk_50 (dk_at dksX4_set_0 23 rfl rfl)
theorem dX4_set_24 : decode cX4_set 24 = .ok (.iload_n 3, 1) := dk_29 (dk_at dksX4_set_1 0 rfl rfl)
theorem dX4_set_25 : decode cX4_set 25 = .ok (.aload_n 0, 1) := dk_42 (dk_at dksX4_set_1 1 rfl rfl)
theorem dX4_set_26 : decode cX4_set 26 = .ok (.iload 4, 2) := dk_21 4 (dk_at dksX4_set_1 2 rfl rfl)
theorem dX4_set_28 : decode cX4_set 28 = .ok (.ineg, 1) := dk_116 (dk_at dksX4_set_1 4 rfl rfl)
theorem dX4_set_29 : decode cX4_set 29 = .ok (.invokevirtual 29, 3) := dk_182 0 29 (dk_at dksX4_set_1 5 rfl rfl)
theorem dX4_set_32 : decode cX4_set 32 = .ok (.iastore, 1) := dk_79 (dk_at dksX4_set_1 8 rfl rfl)
theorem dX4_set_33 : decode cX4_set 33 = .ok (.return_, 1) := dk_177 (dk_at dksX4_set_1 9 rfl rfl)
abbrev cX4_by : ByteArray := prog_8_method_5_code
def dkwX4_by_0 : List UInt8 := [27, 42, 180, 0, 16, 184, 0, 33, 172]
abbrev dktX4_by_0 : List UInt8 := dkwX4_by_0 ++ []
theorem dksX4_by_0 : cX4_by.data.toList.drop 0 = dktX4_by_0 := by decide +kernel
theorem dX4_by_0 : decode cX4_by 0 = .ok (.iload_n 1, 1) := dk_27 (dk_at dksX4_by_0 0 rfl rfl)
theorem dX4_by_1 : decode cX4_by 1 = .ok (.aload_n 0, 1) := dk_42 (dk_at dksX4_by_0 1 rfl rfl)
theorem dX4_by_2 : decode cX4_by 2 = .ok (.getfield 16, 3) := dk_180 0 16 (dk_at dksX4_by_0 2 rfl rfl)
theorem dX4_by_5 : decode cX4_by 5 = .ok (.invokestatic 33, 3) := dk_184 0 33 (dk_at dksX4_by_0 5 rfl rfl)
theorem dX4_by_8 : decode cX4_by 8 = .ok (.ireturn, 1) := dk_172 (dk_at dksX4_by_0 8 rfl rfl)
abbrev cX4_copy : ByteArray := prog_8_method_2_code
def dkwX4_copy_2 : List UInt8 := [8, 184, 0, 23, 132, 3, 1, 167, 255, 226, 132, 2, 1, 167, 255, 213, 177]
abbrev dktX4_copy_2 : List UInt8 := dkwX4_copy_2 ++ []
def dkwX4_copy_1 : List UInt8 := [62, 29, 8, 162, 0, 31, 43, 180, 0, 11, 28, 50, 29, 50, 3, 42, 180, 0, 11, 28, 50, 29, 50, 3]
abbrev dktX4_copy_1 : List UInt8 := dkwX4_copy_1 ++ dktX4_copy_2
def dkwX4_copy_0 : List UInt8 := [42, 43, 180, 0, 16, 181, 0, 16, 42, 43, 180, 0, 20, 181, 0, 20, 3, 61, 28, 8, 162, 0, 44, 3]
abbrev dktX4_copy_0 : List UInt8 := dkwX4_copy_0 ++ dktX4_copy_1
theorem dksX4_copy_0 : cX4_copy.data.toList.drop 0 = dktX4_copy_0 := by decide +kernel
theorem dksX4_copy_1 : cX4_copy.data.toList.drop 24 = dktX4_copy_1 := dk_seg dksX4_copy_0 24 rfl rfl
theorem dksX4_copy_2 : cX4_copy.data.toList.drop 48 = dktX4_copy_2 := dk_seg dksX4_copy_1 24 rfl rfl
theorem dX4_copy_0 : decode cX4_copy 0 = .ok (.aload_n 0, 1) := dk_42 (dk_at dksX4_copy_0 0 rfl rfl)
theorem dX4_copy_1 : decode cX4_copy 1 = .ok (.aload_n 1, 1) := dk_43 (dk_at dksX4_copy_0 1 rfl rfl)
theorem dX4_copy_2 : decode cX4_copy 2 = .ok (.getfield 16, 3) := dk_180 0 16 (dk_at dksX4_copy_0 2 rfl rfl)
theorem dX4_copy_5 : decode cX4_copy 5 = .ok (.putfield 16, 3) := dk_181 0 16 (dk_at dksX4_copy_0 5 rfl rfl)
theorem dX4_copy_8 : decode cX4_copy 8 = .ok (.aload_n 0, 1) := dk_42 (dk_at dksX4_copy_0 8 rfl rfl)
theorem dX4_copy_9 : decode cX4_copy 9 = .ok (.aload_n 1, 1) := dk_43 (dk_at dksX4_copy_0 9 rfl rfl)
theorem dX4_copy_10 : decode cX4_copy 10 = .ok (.getfield 20, 3) := dk_180 0 20 (dk_at dksX4_copy_0 10 rfl rfl)
theorem dX4_copy_13 : decode cX4_copy 13 = .ok (.putfield 20, 3) := dk_181 0 20 (dk_at dksX4_copy_0 13 rfl rfl)
theorem dX4_copy_16 : decode cX4_copy 16 = .ok (.iconst 0, 1) := dk_3 (dk_at dksX4_copy_0 16 rfl rfl)
theorem dX4_copy_17 : decode cX4_copy 17 = .ok (.istore_n 2, 1) := dk_61 (dk_at dksX4_copy_0 17 rfl rfl)
theorem dX4_copy_18 : decode cX4_copy 18 = .ok (.iload_n 2, 1) := dk_28 (dk_at dksX4_copy_0 18 rfl rfl)
theorem dX4_copy_19 : decode cX4_copy 19 = .ok (.iconst 5, 1) := dk_8 (dk_at dksX4_copy_0 19 rfl rfl)
theorem dX4_copy_20 : decode cX4_copy 20 = .ok (.if_icmp .ge 44, 3) := dk_162 0 44 (dk_at dksX4_copy_0 20 rfl rfl)
theorem dX4_copy_23 : decode cX4_copy 23 = .ok (.iconst 0, 1) := dk_3 (dk_at dksX4_copy_0 23 rfl rfl)
theorem dX4_copy_24 : decode cX4_copy 24 = .ok (.istore_n 3, 1) := dk_62 (dk_at dksX4_copy_1 0 rfl rfl)
theorem dX4_copy_25 : decode cX4_copy 25 = .ok (.iload_n 3, 1) := dk_29 (dk_at dksX4_copy_1 1 rfl rfl)
theorem dX4_copy_26 : decode cX4_copy 26 = .ok (.iconst 5, 1) := dk_8 (dk_at dksX4_copy_1 2 rfl rfl)
theorem dX4_copy_27 : decode cX4_copy 27 = .ok (.if_icmp .ge 31, 3) := dk_162 0 31 (dk_at dksX4_copy_1 3 rfl rfl)
theorem dX4_copy_30 : decode cX4_copy 30 = .ok (.aload_n 1, 1) := dk_43 (dk_at dksX4_copy_1 6 rfl rfl)
theorem dX4_copy_31 : decode cX4_copy 31 = .ok (.getfield 11, 3) := dk_180 0 11 (dk_at dksX4_copy_1 7 rfl rfl)
theorem dX4_copy_34 : decode cX4_copy 34 = .ok (.iload_n 2, 1) := dk_28 (dk_at dksX4_copy_1 10 rfl rfl)
theorem dX4_copy_35 : decode cX4_copy 35 = .ok (.aaload, 1) := dk_50 (dk_at dksX4_copy_1 11 rfl rfl)
theorem dX4_copy_36 : decode cX4_copy 36 = .ok (.iload_n 3, 1) := dk_29 (dk_at dksX4_copy_1 12 rfl rfl)
theorem dX4_copy_37 : decode cX4_copy 37 = .ok (.aaload, 1) := dk_50 (dk_at dksX4_copy_1 13 rfl rfl)
theorem dX4_copy_38 : decode cX4_copy 38 = .ok (.iconst 0, 1) := dk_3 (dk_at dksX4_copy_1 14 rfl rfl)
theorem dX4_copy_39 : decode cX4_copy 39 = .ok (.aload_n 0, 1) := dk_42 (dk_at dksX4_copy_1 15 rfl rfl)
theorem dX4_copy_40 : decode cX4_copy 40 = .ok (.getfield 11, 3) := dk_180 0 11 (dk_at dksX4_copy_1 16 rfl rfl)
theorem dX4_copy_43 : decode cX4_copy 43 = .ok (.iload_n 2, 1) := dk_28 (dk_at dksX4_copy_1 19 rfl rfl)
theorem dX4_copy_44 : decode cX4_copy 44 = .ok (.aaload, 1) := dk_50 (dk_at dksX4_copy_1 20 rfl rfl)
theorem dX4_copy_45 : decode cX4_copy 45 = .ok (.iload_n 3, 1) := dk_29 (dk_at dksX4_copy_1 21 rfl rfl)
theorem dX4_copy_46 : decode cX4_copy 46 = .ok (.aaload, 1) := dk_50 (dk_at dksX4_copy_1 22 rfl rfl)
theorem dX4_copy_47 : decode cX4_copy 47 = .ok (.iconst 0, 1) := dk_3 (dk_at dksX4_copy_1 23 rfl rfl)
theorem dX4_copy_48 : decode cX4_copy 48 = .ok (.iconst 5, 1) := dk_8 (dk_at dksX4_copy_2 0 rfl rfl)
theorem dX4_copy_49 : decode cX4_copy 49 = .ok (.invokestatic 23, 3) := dk_184 0 23 (dk_at dksX4_copy_2 1 rfl rfl)
theorem dX4_copy_52 : decode cX4_copy 52 = .ok (.iinc 3 1, 3) := dk_132 3 1 (dk_at dksX4_copy_2 4 rfl rfl)
theorem dX4_copy_55 : decode cX4_copy 55 = .ok (.goto (-30), 3) := dk_167 255 226 (dk_at dksX4_copy_2 7 rfl rfl)
theorem dX4_copy_58 : decode cX4_copy 58 = .ok (.iinc 2 1, 3) := dk_132 2 1 (dk_at dksX4_copy_2 10 rfl rfl)
theorem dX4_copy_61 : decode cX4_copy 61 = .ok (.goto (-43), 3) := dk_167 255 213 (dk_at dksX4_copy_2 13 rfl rfl)
theorem dX4_copy_64 : decode cX4_copy 64 = .ok (.return_, 1) := dk_177 (dk_at dksX4_copy_2 16 rfl rfl)
abbrev cX4_vectors : ByteArray := prog_8_method_6_code
def dkwX4_vectors_1 : List UInt8 := [167, 255, 238, 27, 172]
abbrev dktX4_vectors_1 : List UInt8 := dkwX4_vectors_1 ++ []
def dkwX4_vectors_0 : List UInt8 := [4, 60, 3, 61, 28, 42, 180, 0, 20, 162, 0, 16, 27, 42, 180, 0, 16, 104, 60, 132, 2, 1]
abbrev dktX4_vectors_0 : List UInt8 := dkwX4_vectors_0 ++ dktX4_vectors_1
theorem dksX4_vectors_0 : cX4_vectors.data.toList.drop 0 = dktX4_vectors_0 := by decide +kernel
theorem dksX4_vectors_1 : cX4_vectors.data.toList.drop 22 = dktX4_vectors_1 := dk_seg dksX4_vectors_0 22 rfl rfl
theorem dX4_vectors_0 : decode cX4_vectors 0 = .ok (.iconst 1, 1) := dk_4 (dk_at dksX4_vectors_0 0 rfl rfl)
theorem dX4_vectors_1 : decode cX4_vectors 1 = .ok (.istore_n 1, 1) := dk_60 (dk_at dksX4_vectors_0 1 rfl rfl)
theorem dX4_vectors_2 : decode cX4_vectors 2 = .ok (.iconst 0, 1) := dk_3 (dk_at dksX4_vectors_0 2 rfl rfl)
theorem dX4_vectors_3 : decode cX4_vectors 3 = .ok (.istore_n 2, 1) := dk_61 (dk_at dksX4_vectors_0 3 rfl rfl)
theorem dX4_vectors_4 : decode cX4_vectors 4 = .ok (.iload_n 2, 1) := dk_28 (dk_at dksX4_vectors_0 4 rfl rfl)
theorem dX4_vectors_5 : decode cX4_vectors 5 = .ok (.aload_n 0, 1) := dk_42 (dk_at dksX4_vectors_0 5 rfl rfl)
theorem dX4_vectors_6 : decode cX4_vectors 6 = .ok (.getfield 20, 3) := dk_180 0 20 (dk_at dksX4_vectors_0 6 rfl rfl)
theorem dX4_vectors_9 : decode cX4_vectors 9 = .ok (.if_icmp .ge 16, 3) := dk_162 0 16 (dk_at dksX4_vectors_0 9 rfl rfl)
theorem dX4_vectors_12 : decode cX4_vectors 12 = .ok (.iload_n 1, 1) := dk_27 (dk_at dksX4_vectors_0 12 rfl rfl)
theorem dX4_vectors_13 : decode cX4_vectors 13 = .ok (.aload_n 0, 1) := dk_42 (dk_at dksX4_vectors_0 13 rfl rfl)
theorem dX4_vectors_14 : decode cX4_vectors 14 = .ok (.getfield 16, 3) := dk_180 0 16 (dk_at dksX4_vectors_0 14 rfl rfl)
theorem dX4_vectors_17 : decode cX4_vectors 17 = .ok (.imul, 1) := dk_104 (dk_at dksX4_vectors_0 17 rfl rfl)
theorem dX4_vectors_18 : decode cX4_vectors 18 = .ok (.istore_n 1, 1) := dk_60 (dk_at dksX4_vectors_0 18 rfl rfl)
theorem dX4_vectors_19 : decode cX4_vectors 19 = .ok (.iinc 2 1, 3) := dk_132 2 1 (dk_at dksX4_vectors_0 19 rfl rfl)
theorem dX4_vectors_22 : decode cX4_vectors 22 = .ok (.goto (-18), 3) := dk_167 255 238 (dk_at dksX4_vectors_1 0 rfl rfl)
theorem dX4_vectors_25 : decode cX4_vectors 25 = .ok (.iload_n 1, 1) := dk_27 (dk_at dksX4_vectors_1 3 rfl rfl)
theorem dX4_vectors_26 : decode cX4_vectors 26 = .ok (.ireturn, 1) := dk_172 (dk_at dksX4_vectors_1 4 rfl rfl)
abbrev cX4_parts : ByteArray := prog_8_method_8_code
def dkwX4_parts_1 : List UInt8 := [42, 180, 0, 16, 112, 167, 0, 4, 3, 79, 29, 42, 180, 0, 16, 108, 62, 132, 4, 1, 167, 255, 217, 177]
abbrev dktX4_parts_1 : List UInt8 := dkwX4_parts_1 ++ []
def dkwX4_parts_0 : List UInt8 := [27, 62, 3, 54, 4, 21, 4, 8, 162, 0, 39, 44, 21, 4, 21, 4, 42, 180, 0, 20, 162, 0, 12, 29]
abbrev dktX4_parts_0 : List UInt8 := dkwX4_parts_0 ++ dktX4_parts_1
theorem dksX4_parts_0 : cX4_parts.data.toList.drop 0 = dktX4_parts_0 := by decide +kernel
theorem dksX4_parts_1 : cX4_parts.data.toList.drop 24 = dktX4_parts_1 := dk_seg dksX4_parts_0 24 rfl rfl
theorem dX4_parts_0 : decode cX4_parts 0 = .ok (.iload_n 1, 1) := dk_27 (dk_at dksX4_parts_0 0 rfl rfl)
theorem dX4_parts_1 : decode cX4_parts 1 = .ok (.istore_n 3, 1) := dk_62 (dk_at dksX4_parts_0 1 rfl rfl)
theorem dX4_parts_2 : decode cX4_parts 2 = .ok (.iconst 0, 1) := dk_3 (dk_at dksX4_parts_0 2 rfl rfl)
theorem dX4_parts_3 : decode cX4_parts 3 = .ok (.istore 4, 2) := dk_54 4 (dk_at dksX4_parts_0 3 rfl rfl)
theorem dX4_parts_5 : decode cX4_parts 5 = .ok (.iload 4, 2) := dk_21 4 (dk_at dksX4_parts_0 5 rfl rfl)
theorem dX4_parts_7 : decode cX4_parts 7 = .ok (.iconst 5, 1) := dk_8 (dk_at dksX4_parts_0 7 rfl rfl)
theorem dX4_parts_8 : decode cX4_parts 8 = .ok (.if_icmp .ge 39, 3) := dk_162 0 39 (dk_at dksX4_parts_0 8 rfl rfl)
theorem dX4_parts_11 : decode cX4_parts 11 = .ok (.aload_n 2, 1) := dk_44 (dk_at dksX4_parts_0 11 rfl rfl)
theorem dX4_parts_12 : decode cX4_parts 12 = .ok (.iload 4, 2) := dk_21 4 (dk_at dksX4_parts_0 12 rfl rfl)
theorem dX4_parts_14 : decode cX4_parts 14 = .ok (.iload 4, 2) := dk_21 4 (dk_at dksX4_parts_0 14 rfl rfl)
theorem dX4_parts_16 : decode cX4_parts 16 = .ok (.aload_n 0, 1) := dk_42 (dk_at dksX4_parts_0 16 rfl rfl)
theorem dX4_parts_17 : decode cX4_parts 17 = .ok (.getfield 20, 3) := dk_180 0 20 (dk_at dksX4_parts_0 17 rfl rfl)
theorem dX4_parts_20 : decode cX4_parts 20 = .ok (.if_icmp .ge 12, 3) := dk_162 0 12 (dk_at dksX4_parts_0 20 rfl rfl)
theorem dX4_parts_23 : decode cX4_parts 23 = .ok (.iload_n 3, 1) := dk_29 (dk_at dksX4_parts_0 23 rfl rfl)
theorem dX4_parts_24 : decode cX4_parts 24 = .ok (.aload_n 0, 1) := dk_42 (dk_at dksX4_parts_1 0 rfl rfl)
theorem dX4_parts_25 : decode cX4_parts 25 = .ok (.getfield 16, 3) := dk_180 0 16 (dk_at dksX4_parts_1 1 rfl rfl)
theorem dX4_parts_28 : decode cX4_parts 28 = .ok (.irem, 1) := dk_112 (dk_at dksX4_parts_1 4 rfl rfl)
theorem dX4_parts_29 : decode cX4_parts 29 = .ok (.goto 4, 3) := dk_167 0 4 (dk_at dksX4_parts_1 5 rfl rfl)
theorem dX4_parts_32 : decode cX4_parts 32 = .ok (.iconst 0, 1) := dk_3 (dk_at dksX4_parts_1 8 rfl rfl)
theorem dX4_parts_33 : decode cX4_parts 33 = .ok (.iastore, 1) := dk_79 (dk_at dksX4_parts_1 9 rfl rfl)
theorem dX4_parts_34 : decode cX4_parts 34 = .ok (.iload_n 3, 1) := dk_29 (dk_at dksX4_parts_1 10 rfl rfl)
theorem dX4_parts_35 : decode cX4_parts 35 = .ok (.aload_n 0, 1) := dk_42 (dk_at dksX4_parts_1 11 rfl rfl)
theorem dX4_parts_36 : decode cX4_parts 36 = .ok (.getfield 16, 3) := dk_180 0 16 (dk_at dksX4_parts_1 12 rfl rfl)
theorem dX4_parts_39 : decode cX4_parts 39 = .ok (.idiv, 1) := dk_108 (dk_at dksX4_parts_1 15 rfl rfl)
theorem dX4_parts_40 : decode cX4_parts 40 = .ok (.istore_n 3, 1) := dk_62 (dk_at dksX4_parts_1 16 rfl rfl)
theorem dX4_parts_41 : decode cX4_parts 41 = .ok (.iinc 4 1, 3) := dk_132 4 1 (dk_at dksX4_parts_1 17 rfl rfl)
theorem dX4_parts_44 : decode cX4_parts 44 = .ok (.goto (-39), 3) := dk_167 255 217 (dk_at dksX4_parts_1 20 rfl rfl)
theorem dX4_parts_47 : decode cX4_parts 47 = .ok (.return_, 1) := dk_177 (dk_at dksX4_parts_1 23 rfl rfl)
abbrev cX4_bracket : ByteArray := prog_8_method_10_code
def dkwX4_bracket_4 : List UInt8 := [132, 4, 1, 167, 255, 163, 177]
abbrev dktX4_bracket_4 : List UInt8 := dkwX4_bracket_4 ++ []
def dkwX4_bracket_3 : List UInt8 := [132, 7, 1, 167, 255, 209, 132, 6, 1, 167, 255, 191, 45, 21, 4, 42, 21, 5, 182, 0, 29, 79]
abbrev dktX4_bracket_3 : List UInt8 := dkwX4_bracket_3 ++ dktX4_bracket_4
def dkwX4_bracket_2 : List UInt8 := [46, 44, 21, 7, 46, 104, 42, 180, 0, 11, 21, 6, 50, 21, 7, 50, 21, 4, 46, 104, 96, 54, 5]
abbrev dktX4_bracket_2 : List UInt8 := dkwX4_bracket_2 ++ dktX4_bracket_3
def dkwX4_bracket_1 : List UInt8 := [3, 54, 7, 21, 7, 42, 180, 0, 20, 162, 0, 44, 43, 21, 6, 46, 153, 0, 37, 21, 5, 43, 21, 6]
abbrev dktX4_bracket_1 : List UInt8 := dkwX4_bracket_1 ++ dktX4_bracket_2
def dkwX4_bracket_0 : List UInt8 := [3, 54, 4, 21, 4, 8, 162, 0, 93, 3, 54, 5, 3, 54, 6, 21, 6, 42, 180, 0, 20, 162, 0, 62]
abbrev dktX4_bracket_0 : List UInt8 := dkwX4_bracket_0 ++ dktX4_bracket_1
theorem dksX4_bracket_0 : cX4_bracket.data.toList.drop 0 = dktX4_bracket_0 := by decide +kernel
theorem dksX4_bracket_1 : cX4_bracket.data.toList.drop 24 = dktX4_bracket_1 := dk_seg dksX4_bracket_0 24 rfl rfl
theorem dksX4_bracket_2 : cX4_bracket.data.toList.drop 48 = dktX4_bracket_2 := dk_seg dksX4_bracket_1 24 rfl rfl
theorem dksX4_bracket_3 : cX4_bracket.data.toList.drop 71 = dktX4_bracket_3 := dk_seg dksX4_bracket_2 23 rfl rfl
theorem dksX4_bracket_4 : cX4_bracket.data.toList.drop 93 = dktX4_bracket_4 := dk_seg dksX4_bracket_3 22 rfl rfl
theorem dX4_bracket_0 : decode cX4_bracket 0 = .ok (.iconst 0, 1) := dk_3 (dk_at dksX4_bracket_0 0 rfl rfl)
theorem dX4_bracket_1 : decode cX4_bracket 1 = .ok (.istore 4, 2) := dk_54 4 (dk_at dksX4_bracket_0 1 rfl rfl)
theorem dX4_bracket_3 : decode cX4_bracket 3 = .ok (.iload 4, 2) := dk_21 4 (dk_at dksX4_bracket_0 3 rfl rfl)
theorem dX4_bracket_5 : decode cX4_bracket 5 = .ok (.iconst 5, 1) := dk_8 (dk_at dksX4_bracket_0 5 rfl rfl)
theorem dX4_bracket_6 : decode cX4_bracket 6 = .ok (.if_icmp .ge 93, 3) := dk_162 0 93 (dk_at dksX4_bracket_0 6 rfl rfl)
theorem dX4_bracket_9 : decode cX4_bracket 9 = .ok (.iconst 0, 1) := dk_3 (dk_at dksX4_bracket_0 9 rfl rfl)
theorem dX4_bracket_10 : decode cX4_bracket 10 = .ok (.istore 5, 2) := dk_54 5 (dk_at dksX4_bracket_0 10 rfl rfl)
theorem dX4_bracket_12 : decode cX4_bracket 12 = .ok (.iconst 0, 1) := dk_3 (dk_at dksX4_bracket_0 12 rfl rfl)
theorem dX4_bracket_13 : decode cX4_bracket 13 = .ok (.istore 6, 2) := dk_54 6 (dk_at dksX4_bracket_0 13 rfl rfl)
theorem dX4_bracket_15 : decode cX4_bracket 15 = .ok (.iload 6, 2) := dk_21 6 (dk_at dksX4_bracket_0 15 rfl rfl)
theorem dX4_bracket_17 : decode cX4_bracket 17 = .ok (.aload_n 0, 1) := dk_42 (dk_at dksX4_bracket_0 17 rfl rfl)
theorem dX4_bracket_18 : decode cX4_bracket 18 = .ok (.getfield 20, 3) := dk_180 0 20 (dk_at dksX4_bracket_0 18 rfl rfl)
theorem dX4_bracket_21 : decode cX4_bracket 21 = .ok (.if_icmp .ge 62, 3) := dk_162 0 62 (dk_at dksX4_bracket_0 21 rfl rfl)
theorem dX4_bracket_24 : decode cX4_bracket 24 = .ok (.iconst 0, 1) := dk_3 (dk_at dksX4_bracket_1 0 rfl rfl)
theorem dX4_bracket_25 : decode cX4_bracket 25 = .ok (.istore 7, 2) := dk_54 7 (dk_at dksX4_bracket_1 1 rfl rfl)
theorem dX4_bracket_27 : decode cX4_bracket 27 = .ok (.iload 7, 2) := dk_21 7 (dk_at dksX4_bracket_1 3 rfl rfl)
theorem dX4_bracket_29 : decode cX4_bracket 29 = .ok (.aload_n 0, 1) := dk_42 (dk_at dksX4_bracket_1 5 rfl rfl)
theorem dX4_bracket_30 : decode cX4_bracket 30 = .ok (.getfield 20, 3) := dk_180 0 20 (dk_at dksX4_bracket_1 6 rfl rfl)
theorem dX4_bracket_33 : decode cX4_bracket 33 = .ok (.if_icmp .ge 44, 3) := dk_162 0 44 (dk_at dksX4_bracket_1 9 rfl rfl)
theorem dX4_bracket_36 : decode cX4_bracket 36 = .ok (.aload_n 1, 1) := dk_43 (dk_at dksX4_bracket_1 12 rfl rfl)
theorem dX4_bracket_37 : decode cX4_bracket 37 = .ok (.iload 6, 2) := dk_21 6 (dk_at dksX4_bracket_1 13 rfl rfl)
theorem dX4_bracket_39 : decode cX4_bracket 39 = .ok (.iaload, 1) := dk_46 (dk_at dksX4_bracket_1 15 rfl rfl)
theorem dX4_bracket_40 : decode cX4_bracket 40 = .ok (.ifCond .eq 37, 3) := dk_153 0 37 (dk_at dksX4_bracket_1 16 rfl rfl)
theorem dX4_bracket_43 : decode cX4_bracket 43 = .ok (.iload 5, 2) := dk_21 5 (dk_at dksX4_bracket_1 19 rfl rfl)
theorem dX4_bracket_45 : decode cX4_bracket 45 = .ok (.aload_n 1, 1) := dk_43 (dk_at dksX4_bracket_1 21 rfl rfl)
theorem dX4_bracket_46 : decode cX4_bracket 46 = .ok (.iload 6, 2) := dk_21 6 (dk_at dksX4_bracket_1 22 rfl rfl)
theorem dX4_bracket_48 : decode cX4_bracket 48 = .ok (.iaload, 1) := dk_46 (dk_at dksX4_bracket_2 0 rfl rfl)
theorem dX4_bracket_49 : decode cX4_bracket 49 = .ok (.aload_n 2, 1) := dk_44 (dk_at dksX4_bracket_2 1 rfl rfl)
theorem dX4_bracket_50 : decode cX4_bracket 50 = .ok (.iload 7, 2) := dk_21 7 (dk_at dksX4_bracket_2 2 rfl rfl)
theorem dX4_bracket_52 : decode cX4_bracket 52 = .ok (.iaload, 1) := dk_46 (dk_at dksX4_bracket_2 4 rfl rfl)
theorem dX4_bracket_53 : decode cX4_bracket 53 = .ok (.imul, 1) := dk_104 (dk_at dksX4_bracket_2 5 rfl rfl)
theorem dX4_bracket_54 : decode cX4_bracket 54 = .ok (.aload_n 0, 1) := dk_42 (dk_at dksX4_bracket_2 6 rfl rfl)
theorem dX4_bracket_55 : decode cX4_bracket 55 = .ok (.getfield 11, 3) := dk_180 0 11 (dk_at dksX4_bracket_2 7 rfl rfl)
theorem dX4_bracket_58 : decode cX4_bracket 58 = .ok (.iload 6, 2) := dk_21 6 (dk_at dksX4_bracket_2 10 rfl rfl)
theorem dX4_bracket_60 : decode cX4_bracket 60 = .ok (.aaload, 1) := dk_50 (dk_at dksX4_bracket_2 12 rfl rfl)
theorem dX4_bracket_61 : decode cX4_bracket 61 = .ok (.iload 7, 2) := dk_21 7 (dk_at dksX4_bracket_2 13 rfl rfl)
theorem dX4_bracket_63 : decode cX4_bracket 63 = .ok (.aaload, 1) := dk_50 (dk_at dksX4_bracket_2 15 rfl rfl)
theorem dX4_bracket_64 : decode cX4_bracket 64 = .ok (.iload 4, 2) := dk_21 4 (dk_at dksX4_bracket_2 16 rfl rfl)
theorem dX4_bracket_66 : decode cX4_bracket 66 = .ok (.iaload, 1) := dk_46 (dk_at dksX4_bracket_2 18 rfl rfl)
theorem dX4_bracket_67 : decode cX4_bracket 67 = .ok (.imul, 1) := dk_104 (dk_at dksX4_bracket_2 19 rfl rfl)
theorem dX4_bracket_68 : decode cX4_bracket 68 = .ok (.iadd, 1) := dk_96 (dk_at dksX4_bracket_2 20 rfl rfl)
theorem dX4_bracket_69 : decode cX4_bracket 69 = .ok (.istore 5, 2) := dk_54 5 (dk_at dksX4_bracket_2 21 rfl rfl)
theorem dX4_bracket_71 : decode cX4_bracket 71 = .ok (.iinc 7 1, 3) := dk_132 7 1 (dk_at dksX4_bracket_3 0 rfl rfl)
theorem dX4_bracket_74 : decode cX4_bracket 74 = .ok (.goto (-47), 3) := dk_167 255 209 (dk_at dksX4_bracket_3 3 rfl rfl)
theorem dX4_bracket_77 : decode cX4_bracket 77 = .ok (.iinc 6 1, 3) := dk_132 6 1 (dk_at dksX4_bracket_3 6 rfl rfl)
theorem dX4_bracket_80 : decode cX4_bracket 80 = .ok (.goto (-65), 3) := dk_167 255 191 (dk_at dksX4_bracket_3 9 rfl rfl)
theorem dX4_bracket_83 : decode cX4_bracket 83 = .ok (.aload_n 3, 1) := dk_45 (dk_at dksX4_bracket_3 12 rfl rfl)
theorem dX4_bracket_84 : decode cX4_bracket 84 = .ok (.iload 4, 2) := dk_21 4 (dk_at dksX4_bracket_3 13 rfl rfl)
theorem dX4_bracket_86 : decode cX4_bracket 86 = .ok (.aload_n 0, 1) := dk_42 (dk_at dksX4_bracket_3 15 rfl rfl)
theorem dX4_bracket_87 : decode cX4_bracket 87 = .ok (.iload 5, 2) := dk_21 5 (dk_at dksX4_bracket_3 16 rfl rfl)
theorem dX4_bracket_89 : decode cX4_bracket 89 = .ok (.invokevirtual 29, 3) := dk_182 0 29 (dk_at dksX4_bracket_3 18 rfl rfl)
theorem dX4_bracket_92 : decode cX4_bracket 92 = .ok (.iastore, 1) := dk_79 (dk_at dksX4_bracket_3 21 rfl rfl)
theorem dX4_bracket_93 : decode cX4_bracket 93 = .ok (.iinc 4 1, 3) := dk_132 4 1 (dk_at dksX4_bracket_4 0 rfl rfl)
theorem dX4_bracket_96 : decode cX4_bracket 96 = .ok (.goto (-93), 3) := dk_167 255 163 (dk_at dksX4_bracket_4 3 rfl rfl)
theorem dX4_bracket_99 : decode cX4_bracket 99 = .ok (.return_, 1) := dk_177 (dk_at dksX4_bracket_4 6 rfl rfl)
abbrev cX4_vector : ByteArray := prog_8_method_9_code
def dkwX4_vector_1 : List UInt8 := [132, 3, 255, 167, 255, 238, 28, 172]
abbrev dktX4_vector_1 : List UInt8 := dkwX4_vector_1 ++ []
def dkwX4_vector_0 : List UInt8 := [3, 61, 42, 180, 0, 20, 4, 100, 62, 29, 155, 0, 20, 28, 42, 180, 0, 16, 104, 43, 29, 46, 96, 61]
abbrev dktX4_vector_0 : List UInt8 := dkwX4_vector_0 ++ dktX4_vector_1
theorem dksX4_vector_0 : cX4_vector.data.toList.drop 0 = dktX4_vector_0 := by decide +kernel
theorem dksX4_vector_1 : cX4_vector.data.toList.drop 24 = dktX4_vector_1 := dk_seg dksX4_vector_0 24 rfl rfl
theorem dX4_vector_0 : decode cX4_vector 0 = .ok (.iconst 0, 1) := dk_3 (dk_at dksX4_vector_0 0 rfl rfl)
theorem dX4_vector_1 : decode cX4_vector 1 = .ok (.istore_n 2, 1) := dk_61 (dk_at dksX4_vector_0 1 rfl rfl)
theorem dX4_vector_2 : decode cX4_vector 2 = .ok (.aload_n 0, 1) := dk_42 (dk_at dksX4_vector_0 2 rfl rfl)
theorem dX4_vector_3 : decode cX4_vector 3 = .ok (.getfield 20, 3) := dk_180 0 20 (dk_at dksX4_vector_0 3 rfl rfl)
theorem dX4_vector_6 : decode cX4_vector 6 = .ok (.iconst 1, 1) := dk_4 (dk_at dksX4_vector_0 6 rfl rfl)
theorem dX4_vector_7 : decode cX4_vector 7 = .ok (.isub, 1) := dk_100 (dk_at dksX4_vector_0 7 rfl rfl)
theorem dX4_vector_8 : decode cX4_vector 8 = .ok (.istore_n 3, 1) := dk_62 (dk_at dksX4_vector_0 8 rfl rfl)
theorem dX4_vector_9 : decode cX4_vector 9 = .ok (.iload_n 3, 1) := dk_29 (dk_at dksX4_vector_0 9 rfl rfl)
theorem dX4_vector_10 : decode cX4_vector 10 = .ok (.ifCond .lt 20, 3) := dk_155 0 20 (dk_at dksX4_vector_0 10 rfl rfl)
theorem dX4_vector_13 : decode cX4_vector 13 = .ok (.iload_n 2, 1) := dk_28 (dk_at dksX4_vector_0 13 rfl rfl)
theorem dX4_vector_14 : decode cX4_vector 14 = .ok (.aload_n 0, 1) := dk_42 (dk_at dksX4_vector_0 14 rfl rfl)
theorem dX4_vector_15 : decode cX4_vector 15 = .ok (.getfield 16, 3) := dk_180 0 16 (dk_at dksX4_vector_0 15 rfl rfl)
theorem dX4_vector_18 : decode cX4_vector 18 = .ok (.imul, 1) := dk_104 (dk_at dksX4_vector_0 18 rfl rfl)
theorem dX4_vector_19 : decode cX4_vector 19 = .ok (.aload_n 1, 1) := dk_43 (dk_at dksX4_vector_0 19 rfl rfl)
theorem dX4_vector_20 : decode cX4_vector 20 = .ok (.iload_n 3, 1) := dk_29 (dk_at dksX4_vector_0 20 rfl rfl)
theorem dX4_vector_21 : decode cX4_vector 21 = .ok (.iaload, 1) := dk_46 (dk_at dksX4_vector_0 21 rfl rfl)
theorem dX4_vector_22 : decode cX4_vector 22 = .ok (.iadd, 1) := dk_96 (dk_at dksX4_vector_0 22 rfl rfl)
theorem dX4_vector_23 : decode cX4_vector 23 = .ok (.istore_n 2, 1) := dk_61 (dk_at dksX4_vector_0 23 rfl rfl)
theorem dX4_vector_24 : decode cX4_vector 24 = .ok (.iinc 3 (-1), 3) := dk_132 3 255 (dk_at dksX4_vector_1 0 rfl rfl)
theorem dX4_vector_27 : decode cX4_vector 27 = .ok (.goto (-18), 3) := dk_167 255 238 (dk_at dksX4_vector_1 3 rfl rfl)
theorem dX4_vector_30 : decode cX4_vector 30 = .ok (.iload_n 2, 1) := dk_28 (dk_at dksX4_vector_1 6 rfl rfl)
theorem dX4_vector_31 : decode cX4_vector 31 = .ok (.ireturn, 1) := dk_172 (dk_at dksX4_vector_1 7 rfl rfl)
abbrev cX4_inverse : ByteArray := prog_8_method_7_code
def dkwX4_inverse_0 : List UInt8 := [4, 61, 28, 27, 104, 42, 180, 0, 16, 112, 4, 159, 0, 9, 132, 2, 1, 167, 255, 241, 28, 172]
abbrev dktX4_inverse_0 : List UInt8 := dkwX4_inverse_0 ++ []
theorem dksX4_inverse_0 : cX4_inverse.data.toList.drop 0 = dktX4_inverse_0 := by decide +kernel
theorem dX4_inverse_0 : decode cX4_inverse 0 = .ok (.iconst 1, 1) := dk_4 (dk_at dksX4_inverse_0 0 rfl rfl)
theorem dX4_inverse_1 : decode cX4_inverse 1 = .ok (.istore_n 2, 1) := dk_61 (dk_at dksX4_inverse_0 1 rfl rfl)
theorem dX4_inverse_2 : decode cX4_inverse 2 = .ok (.iload_n 2, 1) := dk_28 (dk_at dksX4_inverse_0 2 rfl rfl)
theorem dX4_inverse_3 : decode cX4_inverse 3 = .ok (.iload_n 1, 1) := dk_27 (dk_at dksX4_inverse_0 3 rfl rfl)
theorem dX4_inverse_4 : decode cX4_inverse 4 = .ok (.imul, 1) := dk_104 (dk_at dksX4_inverse_0 4 rfl rfl)
theorem dX4_inverse_5 : decode cX4_inverse 5 = .ok (.aload_n 0, 1) := dk_42 (dk_at dksX4_inverse_0 5 rfl rfl)
theorem dX4_inverse_6 : decode cX4_inverse 6 = .ok (.getfield 16, 3) := dk_180 0 16 (dk_at dksX4_inverse_0 6 rfl rfl)
theorem dX4_inverse_9 : decode cX4_inverse 9 = .ok (.irem, 1) := dk_112 (dk_at dksX4_inverse_0 9 rfl rfl)
theorem dX4_inverse_10 : decode cX4_inverse 10 = .ok (.iconst 1, 1) := dk_4 (dk_at dksX4_inverse_0 10 rfl rfl)
theorem dX4_inverse_11 : decode cX4_inverse 11 = .ok (.if_icmp .eq 9, 3) := dk_159 0 9 (dk_at dksX4_inverse_0 11 rfl rfl)
theorem dX4_inverse_14 : decode cX4_inverse 14 = .ok (.iinc 2 1, 3) := dk_132 2 1 (dk_at dksX4_inverse_0 14 rfl rfl)
theorem dX4_inverse_17 : decode cX4_inverse 17 = .ok (.goto (-15), 3) := dk_167 255 241 (dk_at dksX4_inverse_0 17 rfl rfl)
theorem dX4_inverse_20 : decode cX4_inverse 20 = .ok (.iload_n 2, 1) := dk_28 (dk_at dksX4_inverse_0 20 rfl rfl)
theorem dX4_inverse_21 : decode cX4_inverse 21 = .ok (.ireturn, 1) := dk_172 (dk_at dksX4_inverse_0 21 rfl rfl)
abbrev cX4_rank : ByteArray := prog_8_method_12_code
def dkwX4_rank_8 : List UInt8 := [132, 9, 1, 167, 255, 190, 132, 4, 1, 132, 5, 1, 167, 255, 63, 21, 4, 172]
abbrev dktX4_rank_8 : List UInt8 := dkwX4_rank_8 ++ []
def dkwX4_rank_7 : List UInt8 := [21, 11, 46, 21, 10, 25, 7, 21, 11, 46, 104, 100, 182, 0, 29, 79, 132, 11, 1, 167, 255, 215]
abbrev dktX4_rank_7 : List UInt8 := dkwX4_rank_7 ++ dktX4_rank_8
def dkwX4_rank_6 : List UInt8 := [54, 11, 21, 11, 29, 162, 0, 41, 21, 10, 153, 0, 36, 43, 21, 9, 50, 21, 11, 42, 43, 21, 9, 50]
abbrev dktX4_rank_6 : List UInt8 := dkwX4_rank_6 ++ dktX4_rank_7
def dkwX4_rank_5 : List UInt8 := [21, 4, 4, 96, 54, 9, 21, 9, 28, 162, 0, 66, 43, 21, 9, 50, 21, 5, 46, 54, 10, 21, 5]
abbrev dktX4_rank_5 : List UInt8 := dkwX4_rank_5 ++ dktX4_rank_6
def dkwX4_rank_4 : List UInt8 := [25, 7, 21, 9, 25, 7, 21, 9, 46, 21, 8, 104, 42, 180, 0, 16, 112, 79, 132, 9, 1, 167, 255, 229]
abbrev dktX4_rank_4 : List UInt8 := dkwX4_rank_4 ++ dktX4_rank_5
def dkwX4_rank_3 : List UInt8 := [25, 7, 83, 42, 25, 7, 21, 5, 46, 182, 0, 39, 54, 8, 21, 5, 54, 9, 21, 9, 29, 162, 0, 27]
abbrev dktX4_rank_3 : List UInt8 := dkwX4_rank_3 ++ dktX4_rank_4
def dkwX4_rank_2 : List UInt8 := [160, 0, 6, 167, 0, 146, 43, 21, 6, 50, 58, 7, 43, 21, 6, 43, 21, 4, 50, 83, 43, 21, 4]
abbrev dktX4_rank_2 : List UInt8 := dkwX4_rank_2 ++ dktX4_rank_3
def dkwX4_rank_1 : List UInt8 := [28, 162, 0, 19, 43, 21, 6, 50, 21, 5, 46, 154, 0, 9, 132, 6, 1, 167, 255, 237, 21, 6, 28]
abbrev dktX4_rank_1 : List UInt8 := dkwX4_rank_1 ++ dktX4_rank_2
def dkwX4_rank_0 : List UInt8 := [3, 54, 4, 3, 54, 5, 21, 5, 29, 162, 0, 193, 21, 4, 28, 162, 0, 187, 21, 4, 54, 6, 21, 6]
abbrev dktX4_rank_0 : List UInt8 := dkwX4_rank_0 ++ dktX4_rank_1
theorem dksX4_rank_0 : cX4_rank.data.toList.drop 0 = dktX4_rank_0 := by decide +kernel
theorem dksX4_rank_1 : cX4_rank.data.toList.drop 24 = dktX4_rank_1 := dk_seg dksX4_rank_0 24 rfl rfl
theorem dksX4_rank_2 : cX4_rank.data.toList.drop 47 = dktX4_rank_2 := dk_seg dksX4_rank_1 23 rfl rfl
theorem dksX4_rank_3 : cX4_rank.data.toList.drop 70 = dktX4_rank_3 := dk_seg dksX4_rank_2 23 rfl rfl
theorem dksX4_rank_4 : cX4_rank.data.toList.drop 94 = dktX4_rank_4 := dk_seg dksX4_rank_3 24 rfl rfl
theorem dksX4_rank_5 : cX4_rank.data.toList.drop 118 = dktX4_rank_5 := dk_seg dksX4_rank_4 24 rfl rfl
theorem dksX4_rank_6 : cX4_rank.data.toList.drop 141 = dktX4_rank_6 := dk_seg dksX4_rank_5 23 rfl rfl
theorem dksX4_rank_7 : cX4_rank.data.toList.drop 165 = dktX4_rank_7 := dk_seg dksX4_rank_6 24 rfl rfl
theorem dksX4_rank_8 : cX4_rank.data.toList.drop 187 = dktX4_rank_8 := dk_seg dksX4_rank_7 22 rfl rfl
theorem dX4_rank_0 : decode cX4_rank 0 = .ok (.iconst 0, 1) := dk_3 (dk_at dksX4_rank_0 0 rfl rfl)
theorem dX4_rank_1 : decode cX4_rank 1 = .ok (.istore 4, 2) := dk_54 4 (dk_at dksX4_rank_0 1 rfl rfl)
theorem dX4_rank_3 : decode cX4_rank 3 = .ok (.iconst 0, 1) := dk_3 (dk_at dksX4_rank_0 3 rfl rfl)
theorem dX4_rank_4 : decode cX4_rank 4 = .ok (.istore 5, 2) := dk_54 5 (dk_at dksX4_rank_0 4 rfl rfl)
theorem dX4_rank_6 : decode cX4_rank 6 = .ok (.iload 5, 2) := dk_21 5 (dk_at dksX4_rank_0 6 rfl rfl)
theorem dX4_rank_8 : decode cX4_rank 8 = .ok (.iload_n 3, 1) := dk_29 (dk_at dksX4_rank_0 8 rfl rfl)
theorem dX4_rank_9 : decode cX4_rank 9 = .ok (.if_icmp .ge 193, 3) := dk_162 0 193 (dk_at dksX4_rank_0 9 rfl rfl)
theorem dX4_rank_12 : decode cX4_rank 12 = .ok (.iload 4, 2) := dk_21 4 (dk_at dksX4_rank_0 12 rfl rfl)
theorem dX4_rank_14 : decode cX4_rank 14 = .ok (.iload_n 2, 1) := dk_28 (dk_at dksX4_rank_0 14 rfl rfl)
theorem dX4_rank_15 : decode cX4_rank 15 = .ok (.if_icmp .ge 187, 3) := dk_162 0 187 (dk_at dksX4_rank_0 15 rfl rfl)
theorem dX4_rank_18 : decode cX4_rank 18 = .ok (.iload 4, 2) := dk_21 4 (dk_at dksX4_rank_0 18 rfl rfl)
theorem dX4_rank_20 : decode cX4_rank 20 = .ok (.istore 6, 2) := dk_54 6 (dk_at dksX4_rank_0 20 rfl rfl)
theorem dX4_rank_22 : decode cX4_rank 22 = .ok (.iload 6, 2) := dk_21 6 (dk_at dksX4_rank_0 22 rfl rfl)
theorem dX4_rank_24 : decode cX4_rank 24 = .ok (.iload_n 2, 1) := dk_28 (dk_at dksX4_rank_1 0 rfl rfl)
theorem dX4_rank_25 : decode cX4_rank 25 = .ok (.if_icmp .ge 19, 3) := dk_162 0 19 (dk_at dksX4_rank_1 1 rfl rfl)
theorem dX4_rank_28 : decode cX4_rank 28 = .ok (.aload_n 1, 1) := dk_43 (dk_at dksX4_rank_1 4 rfl rfl)
theorem dX4_rank_29 : decode cX4_rank 29 = .ok (.iload 6, 2) := dk_21 6 (dk_at dksX4_rank_1 5 rfl rfl)
theorem dX4_rank_31 : decode cX4_rank 31 = .ok (.aaload, 1) := dk_50 (dk_at dksX4_rank_1 7 rfl rfl)
theorem dX4_rank_32 : decode cX4_rank 32 = .ok (.iload 5, 2) := dk_21 5 (dk_at dksX4_rank_1 8 rfl rfl)
theorem dX4_rank_34 : decode cX4_rank 34 = .ok (.iaload, 1) := dk_46 (dk_at dksX4_rank_1 10 rfl rfl)
theorem dX4_rank_35 : decode cX4_rank 35 = .ok (.ifCond .ne 9, 3) := dk_154 0 9 (dk_at dksX4_rank_1 11 rfl rfl)
theorem dX4_rank_38 : decode cX4_rank 38 = .ok (.iinc 6 1, 3) := dk_132 6 1 (dk_at dksX4_rank_1 14 rfl rfl)
theorem dX4_rank_41 : decode cX4_rank 41 = .ok (.goto (-19), 3) := dk_167 255 237 (dk_at dksX4_rank_1 17 rfl rfl)
theorem dX4_rank_44 : decode cX4_rank 44 = .ok (.iload 6, 2) := dk_21 6 (dk_at dksX4_rank_1 20 rfl rfl)
theorem dX4_rank_46 : decode cX4_rank 46 = .ok (.iload_n 2, 1) := dk_28 (dk_at dksX4_rank_1 22 rfl rfl)
theorem dX4_rank_47 : decode cX4_rank 47 = .ok (.if_icmp .ne 6, 3) := dk_160 0 6 (dk_at dksX4_rank_2 0 rfl rfl)
theorem dX4_rank_50 : decode cX4_rank 50 = .ok (.goto 146, 3) := dk_167 0 146 (dk_at dksX4_rank_2 3 rfl rfl)
theorem dX4_rank_53 : decode cX4_rank 53 = .ok (.aload_n 1, 1) := dk_43 (dk_at dksX4_rank_2 6 rfl rfl)
theorem dX4_rank_54 : decode cX4_rank 54 = .ok (.iload 6, 2) := dk_21 6 (dk_at dksX4_rank_2 7 rfl rfl)
theorem dX4_rank_56 : decode cX4_rank 56 = .ok (.aaload, 1) := dk_50 (dk_at dksX4_rank_2 9 rfl rfl)
theorem dX4_rank_57 : decode cX4_rank 57 = .ok (.astore 7, 2) := dk_58 7 (dk_at dksX4_rank_2 10 rfl rfl)
theorem dX4_rank_59 : decode cX4_rank 59 = .ok (.aload_n 1, 1) := dk_43 (dk_at dksX4_rank_2 12 rfl rfl)
theorem dX4_rank_60 : decode cX4_rank 60 = .ok (.iload 6, 2) := dk_21 6 (dk_at dksX4_rank_2 13 rfl rfl)
theorem dX4_rank_62 : decode cX4_rank 62 = .ok (.aload_n 1, 1) := dk_43 (dk_at dksX4_rank_2 15 rfl rfl)
theorem dX4_rank_63 : decode cX4_rank 63 = .ok (.iload 4, 2) := dk_21 4 (dk_at dksX4_rank_2 16 rfl rfl)
theorem dX4_rank_65 : decode cX4_rank 65 = .ok (.aaload, 1) := dk_50 (dk_at dksX4_rank_2 18 rfl rfl)
theorem dX4_rank_66 : decode cX4_rank 66 = .ok (.aastore, 1) := dk_83 (dk_at dksX4_rank_2 19 rfl rfl)
theorem dX4_rank_67 : decode cX4_rank 67 = .ok (.aload_n 1, 1) := dk_43 (dk_at dksX4_rank_2 20 rfl rfl)
theorem dX4_rank_68 : decode cX4_rank 68 = .ok (.iload 4, 2) := dk_21 4 (dk_at dksX4_rank_2 21 rfl rfl)
theorem dX4_rank_70 : decode cX4_rank 70 = .ok (.aload 7, 2) := dk_25 7 (dk_at dksX4_rank_3 0 rfl rfl)
theorem dX4_rank_72 : decode cX4_rank 72 = .ok (.aastore, 1) := dk_83 (dk_at dksX4_rank_3 2 rfl rfl)
theorem dX4_rank_73 : decode cX4_rank 73 = .ok (.aload_n 0, 1) := dk_42 (dk_at dksX4_rank_3 3 rfl rfl)
theorem dX4_rank_74 : decode cX4_rank 74 = .ok (.aload 7, 2) := dk_25 7 (dk_at dksX4_rank_3 4 rfl rfl)
theorem dX4_rank_76 : decode cX4_rank 76 = .ok (.iload 5, 2) := dk_21 5 (dk_at dksX4_rank_3 6 rfl rfl)
theorem dX4_rank_78 : decode cX4_rank 78 = .ok (.iaload, 1) := dk_46 (dk_at dksX4_rank_3 8 rfl rfl)
theorem dX4_rank_79 : decode cX4_rank 79 = .ok (.invokevirtual 39, 3) := dk_182 0 39 (dk_at dksX4_rank_3 9 rfl rfl)
theorem dX4_rank_82 : decode cX4_rank 82 = .ok (.istore 8, 2) := dk_54 8 (dk_at dksX4_rank_3 12 rfl rfl)
theorem dX4_rank_84 : decode cX4_rank 84 = .ok (.iload 5, 2) := dk_21 5 (dk_at dksX4_rank_3 14 rfl rfl)
theorem dX4_rank_86 : decode cX4_rank 86 = .ok (.istore 9, 2) := dk_54 9 (dk_at dksX4_rank_3 16 rfl rfl)
theorem dX4_rank_88 : decode cX4_rank 88 = .ok (.iload 9, 2) := dk_21 9 (dk_at dksX4_rank_3 18 rfl rfl)
theorem dX4_rank_90 : decode cX4_rank 90 = .ok (.iload_n 3, 1) := dk_29 (dk_at dksX4_rank_3 20 rfl rfl)
theorem dX4_rank_91 : decode cX4_rank 91 = .ok (.if_icmp .ge 27, 3) := dk_162 0 27 (dk_at dksX4_rank_3 21 rfl rfl)
theorem dX4_rank_94 : decode cX4_rank 94 = .ok (.aload 7, 2) := dk_25 7 (dk_at dksX4_rank_4 0 rfl rfl)
theorem dX4_rank_96 : decode cX4_rank 96 = .ok (.iload 9, 2) := dk_21 9 (dk_at dksX4_rank_4 2 rfl rfl)
theorem dX4_rank_98 : decode cX4_rank 98 = .ok (.aload 7, 2) := dk_25 7 (dk_at dksX4_rank_4 4 rfl rfl)
theorem dX4_rank_100 : decode cX4_rank 100 = .ok (.iload 9, 2) := dk_21 9 (dk_at dksX4_rank_4 6 rfl rfl)
theorem dX4_rank_102 : decode cX4_rank 102 = .ok (.iaload, 1) := dk_46 (dk_at dksX4_rank_4 8 rfl rfl)
theorem dX4_rank_103 : decode cX4_rank 103 = .ok (.iload 8, 2) := dk_21 8 (dk_at dksX4_rank_4 9 rfl rfl)
theorem dX4_rank_105 : decode cX4_rank 105 = .ok (.imul, 1) := dk_104 (dk_at dksX4_rank_4 11 rfl rfl)
theorem dX4_rank_106 : decode cX4_rank 106 = .ok (.aload_n 0, 1) := dk_42 (dk_at dksX4_rank_4 12 rfl rfl)
theorem dX4_rank_107 : decode cX4_rank 107 = .ok (.getfield 16, 3) := dk_180 0 16 (dk_at dksX4_rank_4 13 rfl rfl)
theorem dX4_rank_110 : decode cX4_rank 110 = .ok (.irem, 1) := dk_112 (dk_at dksX4_rank_4 16 rfl rfl)
theorem dX4_rank_111 : decode cX4_rank 111 = .ok (.iastore, 1) := dk_79 (dk_at dksX4_rank_4 17 rfl rfl)
theorem dX4_rank_112 : decode cX4_rank 112 = .ok (.iinc 9 1, 3) := dk_132 9 1 (dk_at dksX4_rank_4 18 rfl rfl)
theorem dX4_rank_115 : decode cX4_rank 115 = .ok (.goto (-27), 3) := dk_167 255 229 (dk_at dksX4_rank_4 21 rfl rfl)
theorem dX4_rank_118 : decode cX4_rank 118 = .ok (.iload 4, 2) := dk_21 4 (dk_at dksX4_rank_5 0 rfl rfl)
theorem dX4_rank_120 : decode cX4_rank 120 = .ok (.iconst 1, 1) := dk_4 (dk_at dksX4_rank_5 2 rfl rfl)
theorem dX4_rank_121 : decode cX4_rank 121 = .ok (.iadd, 1) := dk_96 (dk_at dksX4_rank_5 3 rfl rfl)
theorem dX4_rank_122 : decode cX4_rank 122 = .ok (.istore 9, 2) := dk_54 9 (dk_at dksX4_rank_5 4 rfl rfl)
theorem dX4_rank_124 : decode cX4_rank 124 = .ok (.iload 9, 2) := dk_21 9 (dk_at dksX4_rank_5 6 rfl rfl)
theorem dX4_rank_126 : decode cX4_rank 126 = .ok (.iload_n 2, 1) := dk_28 (dk_at dksX4_rank_5 8 rfl rfl)
theorem dX4_rank_127 : decode cX4_rank 127 = .ok (.if_icmp .ge 66, 3) := dk_162 0 66 (dk_at dksX4_rank_5 9 rfl rfl)
theorem dX4_rank_130 : decode cX4_rank 130 = .ok (.aload_n 1, 1) := dk_43 (dk_at dksX4_rank_5 12 rfl rfl)
theorem dX4_rank_131 : decode cX4_rank 131 = .ok (.iload 9, 2) := dk_21 9 (dk_at dksX4_rank_5 13 rfl rfl)
theorem dX4_rank_133 : decode cX4_rank 133 = .ok (.aaload, 1) := dk_50 (dk_at dksX4_rank_5 15 rfl rfl)
theorem dX4_rank_134 : decode cX4_rank 134 = .ok (.iload 5, 2) := dk_21 5 (dk_at dksX4_rank_5 16 rfl rfl)
theorem dX4_rank_136 : decode cX4_rank 136 = .ok (.iaload, 1) := dk_46 (dk_at dksX4_rank_5 18 rfl rfl)
theorem dX4_rank_137 : decode cX4_rank 137 = .ok (.istore 10, 2) := dk_54 10 (dk_at dksX4_rank_5 19 rfl rfl)
theorem dX4_rank_139 : decode cX4_rank 139 = .ok (.iload 5, 2) := dk_21 5 (dk_at dksX4_rank_5 21 rfl rfl)
theorem dX4_rank_141 : decode cX4_rank 141 = .ok (.istore 11, 2) := dk_54 11 (dk_at dksX4_rank_6 0 rfl rfl)
theorem dX4_rank_143 : decode cX4_rank 143 = .ok (.iload 11, 2) := dk_21 11 (dk_at dksX4_rank_6 2 rfl rfl)
theorem dX4_rank_145 : decode cX4_rank 145 = .ok (.iload_n 3, 1) := dk_29 (dk_at dksX4_rank_6 4 rfl rfl)
theorem dX4_rank_146 : decode cX4_rank 146 = .ok (.if_icmp .ge 41, 3) := dk_162 0 41 (dk_at dksX4_rank_6 5 rfl rfl)
theorem dX4_rank_149 : decode cX4_rank 149 = .ok (.iload 10, 2) := dk_21 10 (dk_at dksX4_rank_6 8 rfl rfl)
theorem dX4_rank_151 : decode cX4_rank 151 = .ok (.ifCond .eq 36, 3) := dk_153 0 36 (dk_at dksX4_rank_6 10 rfl rfl)
theorem dX4_rank_154 : decode cX4_rank 154 = .ok (.aload_n 1, 1) := dk_43 (dk_at dksX4_rank_6 13 rfl rfl)
theorem dX4_rank_155 : decode cX4_rank 155 = .ok (.iload 9, 2) := dk_21 9 (dk_at dksX4_rank_6 14 rfl rfl)
theorem dX4_rank_157 : decode cX4_rank 157 = .ok (.aaload, 1) := dk_50 (dk_at dksX4_rank_6 16 rfl rfl)
theorem dX4_rank_158 : decode cX4_rank 158 = .ok (.iload 11, 2) := dk_21 11 (dk_at dksX4_rank_6 17 rfl rfl)
theorem dX4_rank_160 : decode cX4_rank 160 = .ok (.aload_n 0, 1) := dk_42 (dk_at dksX4_rank_6 19 rfl rfl)
theorem dX4_rank_161 : decode cX4_rank 161 = .ok (.aload_n 1, 1) := dk_43 (dk_at dksX4_rank_6 20 rfl rfl)
theorem dX4_rank_162 : decode cX4_rank 162 = .ok (.iload 9, 2) := dk_21 9 (dk_at dksX4_rank_6 21 rfl rfl)
theorem dX4_rank_164 : decode cX4_rank 164 = .ok (.aaload, 1) := dk_50 (dk_at dksX4_rank_6 23 rfl rfl)
theorem dX4_rank_165 : decode cX4_rank 165 = .ok (.iload 11, 2) := dk_21 11 (dk_at dksX4_rank_7 0 rfl rfl)
theorem dX4_rank_167 : decode cX4_rank 167 = .ok (.iaload, 1) := dk_46 (dk_at dksX4_rank_7 2 rfl rfl)
theorem dX4_rank_168 : decode cX4_rank 168 = .ok (.iload 10, 2) := dk_21 10 (dk_at dksX4_rank_7 3 rfl rfl)
theorem dX4_rank_170 : decode cX4_rank 170 = .ok (.aload 7, 2) := dk_25 7 (dk_at dksX4_rank_7 5 rfl rfl)
theorem dX4_rank_172 : decode cX4_rank 172 = .ok (.iload 11, 2) := dk_21 11 (dk_at dksX4_rank_7 7 rfl rfl)
theorem dX4_rank_174 : decode cX4_rank 174 = .ok (.iaload, 1) := dk_46 (dk_at dksX4_rank_7 9 rfl rfl)
theorem dX4_rank_175 : decode cX4_rank 175 = .ok (.imul, 1) := dk_104 (dk_at dksX4_rank_7 10 rfl rfl)
theorem dX4_rank_176 : decode cX4_rank 176 = .ok (.isub, 1) := dk_100 (dk_at dksX4_rank_7 11 rfl rfl)
theorem dX4_rank_177 : decode cX4_rank 177 = .ok (.invokevirtual 29, 3) := dk_182 0 29 (dk_at dksX4_rank_7 12 rfl rfl)
theorem dX4_rank_180 : decode cX4_rank 180 = .ok (.iastore, 1) := dk_79 (dk_at dksX4_rank_7 15 rfl rfl)
theorem dX4_rank_181 : decode cX4_rank 181 = .ok (.iinc 11 1, 3) := dk_132 11 1 (dk_at dksX4_rank_7 16 rfl rfl)
theorem dX4_rank_184 : decode cX4_rank 184 = .ok (.goto (-41), 3) := dk_167 255 215 (dk_at dksX4_rank_7 19 rfl rfl)
theorem dX4_rank_187 : decode cX4_rank 187 = .ok (.iinc 9 1, 3) := dk_132 9 1 (dk_at dksX4_rank_8 0 rfl rfl)
theorem dX4_rank_190 : decode cX4_rank 190 = .ok (.goto (-66), 3) := dk_167 255 190 (dk_at dksX4_rank_8 3 rfl rfl)
theorem dX4_rank_193 : decode cX4_rank 193 = .ok (.iinc 4 1, 3) := dk_132 4 1 (dk_at dksX4_rank_8 6 rfl rfl)
theorem dX4_rank_196 : decode cX4_rank 196 = .ok (.iinc 5 1, 3) := dk_132 5 1 (dk_at dksX4_rank_8 9 rfl rfl)
theorem dX4_rank_199 : decode cX4_rank 199 = .ok (.goto (-193), 3) := dk_167 255 63 (dk_at dksX4_rank_8 12 rfl rfl)
theorem dX4_rank_202 : decode cX4_rank 202 = .ok (.iload 4, 2) := dk_21 4 (dk_at dksX4_rank_8 15 rfl rfl)
theorem dX4_rank_204 : decode cX4_rank 204 = .ok (.ireturn, 1) := dk_172 (dk_at dksX4_rank_8 17 rfl rfl)
abbrev cX4_isLike : ByteArray := prog_8_method_11_code
def dkwX4_isLike_1 : List UInt8 := [167, 0, 4, 3, 172]
abbrev dktX4_isLike_1 : List UInt8 := dkwX4_isLike_1 ++ []
def dkwX4_isLike_0 : List UInt8 := [42, 180, 0, 16, 43, 180, 0, 16, 160, 0, 18, 42, 180, 0, 20, 43, 180, 0, 20, 160, 0, 7, 4]
abbrev dktX4_isLike_0 : List UInt8 := dkwX4_isLike_0 ++ dktX4_isLike_1
theorem dksX4_isLike_0 : cX4_isLike.data.toList.drop 0 = dktX4_isLike_0 := by decide +kernel
theorem dksX4_isLike_1 : cX4_isLike.data.toList.drop 23 = dktX4_isLike_1 := dk_seg dksX4_isLike_0 23 rfl rfl
theorem dX4_isLike_0 : decode cX4_isLike 0 = .ok (.aload_n 0, 1) := dk_42 (dk_at dksX4_isLike_0 0 rfl rfl)
theorem dX4_isLike_1 : decode cX4_isLike 1 = .ok (.getfield 16, 3) := dk_180 0 16 (dk_at dksX4_isLike_0 1 rfl rfl)
theorem dX4_isLike_4 : decode cX4_isLike 4 = .ok (.aload_n 1, 1) := dk_43 (dk_at dksX4_isLike_0 4 rfl rfl)
theorem dX4_isLike_5 : decode cX4_isLike 5 = .ok (.getfield 16, 3) := dk_180 0 16 (dk_at dksX4_isLike_0 5 rfl rfl)
theorem dX4_isLike_8 : decode cX4_isLike 8 = .ok (.if_icmp .ne 18, 3) := dk_160 0 18 (dk_at dksX4_isLike_0 8 rfl rfl)
theorem dX4_isLike_11 : decode cX4_isLike 11 = .ok (.aload_n 0, 1) := dk_42 (dk_at dksX4_isLike_0 11 rfl rfl)
theorem dX4_isLike_12 : decode cX4_isLike 12 = .ok (.getfield 20, 3) := dk_180 0 20 (dk_at dksX4_isLike_0 12 rfl rfl)
theorem dX4_isLike_15 : decode cX4_isLike 15 = .ok (.aload_n 1, 1) := dk_43 (dk_at dksX4_isLike_0 15 rfl rfl)
theorem dX4_isLike_16 : decode cX4_isLike 16 = .ok (.getfield 20, 3) := dk_180 0 20 (dk_at dksX4_isLike_0 16 rfl rfl)
theorem dX4_isLike_19 : decode cX4_isLike 19 = .ok (.if_icmp .ne 7, 3) := dk_160 0 7 (dk_at dksX4_isLike_0 19 rfl rfl)
theorem dX4_isLike_22 : decode cX4_isLike 22 = .ok (.iconst 1, 1) := dk_4 (dk_at dksX4_isLike_0 22 rfl rfl)
theorem dX4_isLike_23 : decode cX4_isLike 23 = .ok (.goto 4, 3) := dk_167 0 4 (dk_at dksX4_isLike_1 0 rfl rfl)
theorem dX4_isLike_26 : decode cX4_isLike 26 = .ok (.iconst 0, 1) := dk_3 (dk_at dksX4_isLike_1 3 rfl rfl)
theorem dX4_isLike_27 : decode cX4_isLike 27 = .ok (.ireturn, 1) := dk_172 (dk_at dksX4_isLike_1 4 rfl rfl)
/-! code rows: X5 (rows of claim/names) -/
set_option maxRecDepth 100000
abbrev cX5_init : ByteArray := prog_5_method_1_code
def dkwX5_init_0 : List UInt8 := [42, 183, 0, 3, 42, 8, 8, 197, 0, 9, 2, 181, 0, 11, 42, 8, 188, 10, 181, 0, 16, 177]
abbrev dktX5_init_0 : List UInt8 := dkwX5_init_0 ++ []
theorem dksX5_init_0 : cX5_init.data.toList.drop 0 = dktX5_init_0 := by decide +kernel
theorem dX5_init_0 : decode cX5_init 0 = .ok (.aload_n 0, 1) := dk_42 (dk_at dksX5_init_0 0 rfl rfl)
theorem dX5_init_1 : decode cX5_init 1 = .ok (.invokespecial 3, 3) := dk_183 0 3 (dk_at dksX5_init_0 1 rfl rfl)
theorem dX5_init_4 : decode cX5_init 4 = .ok (.aload_n 0, 1) := dk_42 (dk_at dksX5_init_0 4 rfl rfl)
theorem dX5_init_5 : decode cX5_init 5 = .ok (.iconst 5, 1) := dk_8 (dk_at dksX5_init_0 5 rfl rfl)
theorem dX5_init_6 : decode cX5_init 6 = .ok (.iconst 5, 1) := dk_8 (dk_at dksX5_init_0 6 rfl rfl)
theorem dX5_init_7 : decode cX5_init 7 = .ok (.multianewarray 9 2, 4) := by decide +kernel
theorem dX5_init_11 : decode cX5_init 11 = .ok (.putfield 11, 3) := dk_181 0 11 (dk_at dksX5_init_0 11 rfl rfl)
theorem dX5_init_14 : decode cX5_init 14 = .ok (.aload_n 0, 1) := dk_42 (dk_at dksX5_init_0 14 rfl rfl)
theorem dX5_init_15 : decode cX5_init 15 = .ok (.iconst 5, 1) := dk_8 (dk_at dksX5_init_0 15 rfl rfl)
theorem dX5_init_16 : decode cX5_init 16 = .ok (.newarray .int, 2) := dk_188_10 (dk_at dksX5_init_0 16 rfl rfl)
theorem dX5_init_18 : decode cX5_init 18 = .ok (.putfield 16, 3) := dk_181 0 16 (dk_at dksX5_init_0 18 rfl rfl)
theorem dX5_init_21 : decode cX5_init 21 = .ok (.return_, 1) := dk_177 (dk_at dksX5_init_0 21 rfl rfl)
abbrev cX5_add : ByteArray := prog_5_method_4_code
def dkwX5_add_11 : List UInt8 := [79, 42, 89, 180, 0, 20, 4, 96, 181, 0, 20, 4, 172]
abbrev dktX5_add_11 : List UInt8 := dkwX5_add_11 ++ []
def dkwX5_add_10 : List UInt8 := [167, 255, 197, 44, 3, 42, 180, 0, 11, 21, 5, 50, 3, 8, 184, 0, 33, 42, 180, 0, 16, 21, 5, 29]
abbrev dktX5_add_10 : List UInt8 := dkwX5_add_10 ++ dktX5_add_11
def dkwX5_add_9 : List UInt8 := [184, 0, 33, 42, 180, 0, 16, 21, 5, 42, 180, 0, 16, 21, 5, 4, 100, 46, 79, 132, 5, 255]
abbrev dktX5_add_9 : List UInt8 := dkwX5_add_9 ++ dktX5_add_10
def dkwX5_add_8 : List UInt8 := [164, 0, 47, 42, 180, 0, 11, 21, 5, 4, 100, 50, 3, 42, 180, 0, 11, 21, 5, 50, 3, 8]
abbrev dktX5_add_8 : List UInt8 := dkwX5_add_8 ++ dktX5_add_9
def dkwX5_add_7 : List UInt8 := [167, 255, 178, 42, 180, 0, 20, 54, 5, 21, 5, 158, 0, 60, 42, 180, 0, 16, 21, 5, 4, 100, 46, 29]
abbrev dktX5_add_7 : List UInt8 := dkwX5_add_7 ++ dktX5_add_8
def dkwX5_add_6 : List UInt8 := [46, 21, 6, 44, 21, 7, 46, 104, 100, 182, 0, 29, 79, 132, 7, 1, 167, 255, 207, 132, 5, 1]
abbrev dktX5_add_6 : List UInt8 := dkwX5_add_6 ++ dktX5_add_7
def dkwX5_add_5 : List UInt8 := [21, 6, 153, 0, 41, 42, 180, 0, 11, 21, 5, 50, 21, 7, 43, 42, 180, 0, 11, 21, 5, 50, 21, 7]
abbrev dktX5_add_5 : List UInt8 := dkwX5_add_5 ++ dktX5_add_6
def dkwX5_add_4 : List UInt8 := [42, 180, 0, 11, 21, 5, 50, 29, 46, 54, 6, 3, 54, 7, 21, 7, 43, 180, 0, 24, 162, 0, 46]
abbrev dktX5_add_4 : List UInt8 := dkwX5_add_4 ++ dktX5_add_5
def dkwX5_add_3 : List UInt8 := [43, 180, 0, 46, 112, 79, 132, 5, 1, 167, 255, 228, 3, 54, 5, 21, 5, 42, 180, 0, 20, 162, 0, 75]
abbrev dktX5_add_3 : List UInt8 := dkwX5_add_3 ++ dktX5_add_4
def dkwX5_add_2 : List UInt8 := [54, 4, 3, 54, 5, 21, 5, 43, 180, 0, 24, 162, 0, 25, 44, 21, 5, 44, 21, 5, 46, 21, 4, 104]
abbrev dktX5_add_2 : List UInt8 := dkwX5_add_2 ++ dktX5_add_3
def dkwX5_add_1 : List UInt8 := [132, 3, 1, 167, 255, 239, 29, 43, 180, 0, 24, 160, 0, 5, 3, 172, 43, 44, 29, 46, 182, 0, 43]
abbrev dktX5_add_1 : List UInt8 := dkwX5_add_1 ++ dktX5_add_2
def dkwX5_add_0 : List UInt8 := [42, 43, 44, 182, 0, 39, 3, 62, 29, 43, 180, 0, 24, 162, 0, 15, 44, 29, 46, 154, 0, 9]
abbrev dktX5_add_0 : List UInt8 := dkwX5_add_0 ++ dktX5_add_1
theorem dksX5_add_0 : cX5_add.data.toList.drop 0 = dktX5_add_0 := by decide +kernel
theorem dksX5_add_1 : cX5_add.data.toList.drop 22 = dktX5_add_1 := dk_seg dksX5_add_0 22 rfl rfl
theorem dksX5_add_2 : cX5_add.data.toList.drop 45 = dktX5_add_2 := dk_seg dksX5_add_1 23 rfl rfl
theorem dksX5_add_3 : cX5_add.data.toList.drop 69 = dktX5_add_3 := dk_seg dksX5_add_2 24 rfl rfl
theorem dksX5_add_4 : cX5_add.data.toList.drop 93 = dktX5_add_4 := dk_seg dksX5_add_3 24 rfl rfl
theorem dksX5_add_5 : cX5_add.data.toList.drop 116 = dktX5_add_5 := dk_seg dksX5_add_4 23 rfl rfl
theorem dksX5_add_6 : cX5_add.data.toList.drop 140 = dktX5_add_6 := dk_seg dksX5_add_5 24 rfl rfl
theorem dksX5_add_7 : cX5_add.data.toList.drop 162 = dktX5_add_7 := dk_seg dksX5_add_6 22 rfl rfl
theorem dksX5_add_8 : cX5_add.data.toList.drop 186 = dktX5_add_8 := dk_seg dksX5_add_7 24 rfl rfl
theorem dksX5_add_9 : cX5_add.data.toList.drop 208 = dktX5_add_9 := dk_seg dksX5_add_8 22 rfl rfl
theorem dksX5_add_10 : cX5_add.data.toList.drop 230 = dktX5_add_10 := dk_seg dksX5_add_9 22 rfl rfl
theorem dksX5_add_11 : cX5_add.data.toList.drop 254 = dktX5_add_11 := dk_seg dksX5_add_10 24 rfl rfl
theorem dX5_add_0 : decode cX5_add 0 = .ok (.aload_n 0, 1) := dk_42 (dk_at dksX5_add_0 0 rfl rfl)
theorem dX5_add_1 : decode cX5_add 1 = .ok (.aload_n 1, 1) := dk_43 (dk_at dksX5_add_0 1 rfl rfl)
theorem dX5_add_2 : decode cX5_add 2 = .ok (.aload_n 2, 1) := dk_44 (dk_at dksX5_add_0 2 rfl rfl)
theorem dX5_add_3 : decode cX5_add 3 = .ok (.invokevirtual 39, 3) := dk_182 0 39 (dk_at dksX5_add_0 3 rfl rfl)
theorem dX5_add_6 : decode cX5_add 6 = .ok (.iconst 0, 1) := dk_3 (dk_at dksX5_add_0 6 rfl rfl)
theorem dX5_add_7 : decode cX5_add 7 = .ok (.istore_n 3, 1) := dk_62 (dk_at dksX5_add_0 7 rfl rfl)
theorem dX5_add_8 : decode cX5_add 8 = .ok (.iload_n 3, 1) := dk_29 (dk_at dksX5_add_0 8 rfl rfl)
theorem dX5_add_9 : decode cX5_add 9 = .ok (.aload_n 1, 1) := dk_43 (dk_at dksX5_add_0 9 rfl rfl)
theorem dX5_add_10 : decode cX5_add 10 = .ok (.getfield 24, 3) := dk_180 0 24 (dk_at dksX5_add_0 10 rfl rfl)
theorem dX5_add_13 : decode cX5_add 13 = .ok (.if_icmp .ge 15, 3) := dk_162 0 15 (dk_at dksX5_add_0 13 rfl rfl)
theorem dX5_add_16 : decode cX5_add 16 = .ok (.aload_n 2, 1) := dk_44 (dk_at dksX5_add_0 16 rfl rfl)
theorem dX5_add_17 : decode cX5_add 17 = .ok (.iload_n 3, 1) := dk_29 (dk_at dksX5_add_0 17 rfl rfl)
theorem dX5_add_18 : decode cX5_add 18 = .ok (.iaload, 1) := dk_46 (dk_at dksX5_add_0 18 rfl rfl)
theorem dX5_add_19 : decode cX5_add 19 = .ok (.ifCond .ne 9, 3) := dk_154 0 9 (dk_at dksX5_add_0 19 rfl rfl)
theorem dX5_add_22 : decode cX5_add 22 = .ok (.iinc 3 1, 3) := dk_132 3 1 (dk_at dksX5_add_1 0 rfl rfl)
theorem dX5_add_25 : decode cX5_add 25 = .ok (.goto (-17), 3) := dk_167 255 239 (dk_at dksX5_add_1 3 rfl rfl)
theorem dX5_add_28 : decode cX5_add 28 = .ok (.iload_n 3, 1) := dk_29 (dk_at dksX5_add_1 6 rfl rfl)
theorem dX5_add_29 : decode cX5_add 29 = .ok (.aload_n 1, 1) := dk_43 (dk_at dksX5_add_1 7 rfl rfl)
theorem dX5_add_30 : decode cX5_add 30 = .ok (.getfield 24, 3) := dk_180 0 24 (dk_at dksX5_add_1 8 rfl rfl)
theorem dX5_add_33 : decode cX5_add 33 = .ok (.if_icmp .ne 5, 3) := dk_160 0 5 (dk_at dksX5_add_1 11 rfl rfl)
theorem dX5_add_36 : decode cX5_add 36 = .ok (.iconst 0, 1) := dk_3 (dk_at dksX5_add_1 14 rfl rfl)
theorem dX5_add_37 : decode cX5_add 37 = .ok (.ireturn, 1) := dk_172 (dk_at dksX5_add_1 15 rfl rfl)
theorem dX5_add_38 : decode cX5_add 38 = .ok (.aload_n 1, 1) := dk_43 (dk_at dksX5_add_1 16 rfl rfl)
theorem dX5_add_39 : decode cX5_add 39 = .ok (.aload_n 2, 1) := dk_44 (dk_at dksX5_add_1 17 rfl rfl)
theorem dX5_add_40 : decode cX5_add 40 = .ok (.iload_n 3, 1) := dk_29 (dk_at dksX5_add_1 18 rfl rfl)
theorem dX5_add_41 : decode cX5_add 41 = .ok (.iaload, 1) := dk_46 (dk_at dksX5_add_1 19 rfl rfl)
theorem dX5_add_42 : decode cX5_add 42 = .ok (.invokevirtual 43, 3) := dk_182 0 43 (dk_at dksX5_add_1 20 rfl rfl)
theorem dX5_add_45 : decode cX5_add 45 = .ok (.istore 4, 2) := dk_54 4 (dk_at dksX5_add_2 0 rfl rfl)
theorem dX5_add_47 : decode cX5_add 47 = .ok (.iconst 0, 1) := dk_3 (dk_at dksX5_add_2 2 rfl rfl)
theorem dX5_add_48 : decode cX5_add 48 = .ok (.istore 5, 2) := dk_54 5 (dk_at dksX5_add_2 3 rfl rfl)
theorem dX5_add_50 : decode cX5_add 50 = .ok (.iload 5, 2) := dk_21 5 (dk_at dksX5_add_2 5 rfl rfl)
theorem dX5_add_52 : decode cX5_add 52 = .ok (.aload_n 1, 1) := dk_43 (dk_at dksX5_add_2 7 rfl rfl)
theorem dX5_add_53 : decode cX5_add 53 = .ok (.getfield 24, 3) := dk_180 0 24 (dk_at dksX5_add_2 8 rfl rfl)
theorem dX5_add_56 : decode cX5_add 56 = .ok (.if_icmp .ge 25, 3) := dk_162 0 25 (dk_at dksX5_add_2 11 rfl rfl)
theorem dX5_add_59 : decode cX5_add 59 = .ok (.aload_n 2, 1) := dk_44 (dk_at dksX5_add_2 14 rfl rfl)
theorem dX5_add_60 : decode cX5_add 60 = .ok (.iload 5, 2) := dk_21 5 (dk_at dksX5_add_2 15 rfl rfl)
theorem dX5_add_62 : decode cX5_add 62 = .ok (.aload_n 2, 1) := dk_44 (dk_at dksX5_add_2 17 rfl rfl)
theorem dX5_add_63 : decode cX5_add 63 = .ok (.iload 5, 2) := dk_21 5 (dk_at dksX5_add_2 18 rfl rfl)
theorem dX5_add_65 : decode cX5_add 65 = .ok (.iaload, 1) := dk_46 (dk_at dksX5_add_2 20 rfl rfl)
theorem dX5_add_66 : decode cX5_add 66 = .ok (.iload 4, 2) := dk_21 4 (dk_at dksX5_add_2 21 rfl rfl)
theorem dX5_add_68 : decode cX5_add 68 = .ok (.imul, 1) := dk_104 (dk_at dksX5_add_2 23 rfl rfl)
theorem dX5_add_69 : decode cX5_add 69 = .ok (.aload_n 1, 1) := dk_43 (dk_at dksX5_add_3 0 rfl rfl)
theorem dX5_add_70 : decode cX5_add 70 = .ok (.getfield 46, 3) := dk_180 0 46 (dk_at dksX5_add_3 1 rfl rfl)
theorem dX5_add_73 : decode cX5_add 73 = .ok (.irem, 1) := dk_112 (dk_at dksX5_add_3 4 rfl rfl)
theorem dX5_add_74 : decode cX5_add 74 = .ok (.iastore, 1) := dk_79 (dk_at dksX5_add_3 5 rfl rfl)
theorem dX5_add_75 : decode cX5_add 75 = .ok (.iinc 5 1, 3) := dk_132 5 1 (dk_at dksX5_add_3 6 rfl rfl)
theorem dX5_add_78 : decode cX5_add 78 = .ok (.goto (-28), 3) := dk_167 255 228 (dk_at dksX5_add_3 9 rfl rfl)
theorem dX5_add_81 : decode cX5_add 81 = .ok (.iconst 0, 1) := dk_3 (dk_at dksX5_add_3 12 rfl rfl)
theorem dX5_add_82 : decode cX5_add 82 = .ok (.istore 5, 2) := dk_54 5 (dk_at dksX5_add_3 13 rfl rfl)
theorem dX5_add_84 : decode cX5_add 84 = .ok (.iload 5, 2) := dk_21 5 (dk_at dksX5_add_3 15 rfl rfl)
theorem dX5_add_86 : decode cX5_add 86 = .ok (.aload_n 0, 1) := dk_42 (dk_at dksX5_add_3 17 rfl rfl)
theorem dX5_add_87 : decode cX5_add 87 = .ok (.getfield 20, 3) := dk_180 0 20 (dk_at dksX5_add_3 18 rfl rfl)
theorem dX5_add_90 : decode cX5_add 90 = .ok (.if_icmp .ge 75, 3) := dk_162 0 75 (dk_at dksX5_add_3 21 rfl rfl)
theorem dX5_add_93 : decode cX5_add 93 = .ok (.aload_n 0, 1) := dk_42 (dk_at dksX5_add_4 0 rfl rfl)
theorem dX5_add_94 : decode cX5_add 94 = .ok (.getfield 11, 3) := dk_180 0 11 (dk_at dksX5_add_4 1 rfl rfl)
theorem dX5_add_97 : decode cX5_add 97 = .ok (.iload 5, 2) := dk_21 5 (dk_at dksX5_add_4 4 rfl rfl)
theorem dX5_add_99 : decode cX5_add 99 = .ok (.aaload, 1) := dk_50 (dk_at dksX5_add_4 6 rfl rfl)
theorem dX5_add_100 : decode cX5_add 100 = .ok (.iload_n 3, 1) := dk_29 (dk_at dksX5_add_4 7 rfl rfl)
theorem dX5_add_101 : decode cX5_add 101 = .ok (.iaload, 1) := dk_46 (dk_at dksX5_add_4 8 rfl rfl)
theorem dX5_add_102 : decode cX5_add 102 = .ok (.istore 6, 2) := dk_54 6 (dk_at dksX5_add_4 9 rfl rfl)
theorem dX5_add_104 : decode cX5_add 104 = .ok (.iconst 0, 1) := dk_3 (dk_at dksX5_add_4 11 rfl rfl)
theorem dX5_add_105 : decode cX5_add 105 = .ok (.istore 7, 2) := dk_54 7 (dk_at dksX5_add_4 12 rfl rfl)
theorem dX5_add_107 : decode cX5_add 107 = .ok (.iload 7, 2) := dk_21 7 (dk_at dksX5_add_4 14 rfl rfl)
theorem dX5_add_109 : decode cX5_add 109 = .ok (.aload_n 1, 1) := dk_43 (dk_at dksX5_add_4 16 rfl rfl)
theorem dX5_add_110 : decode cX5_add 110 = .ok (.getfield 24, 3) := dk_180 0 24 (dk_at dksX5_add_4 17 rfl rfl)
theorem dX5_add_113 : decode cX5_add 113 = .ok (.if_icmp .ge 46, 3) := dk_162 0 46 (dk_at dksX5_add_4 20 rfl rfl)
theorem dX5_add_116 : decode cX5_add 116 = .ok (.iload 6, 2) := dk_21 6 (dk_at dksX5_add_5 0 rfl rfl)
theorem dX5_add_118 : decode cX5_add 118 = .ok (.ifCond .eq 41, 3) := dk_153 0 41 (dk_at dksX5_add_5 2 rfl rfl)
theorem dX5_add_121 : decode cX5_add 121 = .ok (.aload_n 0, 1) := dk_42 (dk_at dksX5_add_5 5 rfl rfl)
theorem dX5_add_122 : decode cX5_add 122 = .ok (.getfield 11, 3) := dk_180 0 11 (dk_at dksX5_add_5 6 rfl rfl)
theorem dX5_add_125 : decode cX5_add 125 = .ok (.iload 5, 2) := dk_21 5 (dk_at dksX5_add_5 9 rfl rfl)
theorem dX5_add_127 : decode cX5_add 127 = .ok (.aaload, 1) := dk_50 (dk_at dksX5_add_5 11 rfl rfl)
theorem dX5_add_128 : decode cX5_add 128 = .ok (.iload 7, 2) := dk_21 7 (dk_at dksX5_add_5 12 rfl rfl)
theorem dX5_add_130 : decode cX5_add 130 = .ok (.aload_n 1, 1) := dk_43 (dk_at dksX5_add_5 14 rfl rfl)
theorem dX5_add_131 : decode cX5_add 131 = .ok (.aload_n 0, 1) := dk_42 (dk_at dksX5_add_5 15 rfl rfl)
theorem dX5_add_132 : decode cX5_add 132 = .ok (.getfield 11, 3) := dk_180 0 11 (dk_at dksX5_add_5 16 rfl rfl)
theorem dX5_add_135 : decode cX5_add 135 = .ok (.iload 5, 2) := dk_21 5 (dk_at dksX5_add_5 19 rfl rfl)
theorem dX5_add_137 : decode cX5_add 137 = .ok (.aaload, 1) := dk_50 (dk_at dksX5_add_5 21 rfl rfl)
theorem dX5_add_138 : decode cX5_add 138 = .ok (.iload 7, 2) := dk_21 7 (dk_at dksX5_add_5 22 rfl rfl)
theorem dX5_add_140 : decode cX5_add 140 = .ok (.iaload, 1) := dk_46 (dk_at dksX5_add_6 0 rfl rfl)
theorem dX5_add_141 : decode cX5_add 141 = .ok (.iload 6, 2) := dk_21 6 (dk_at dksX5_add_6 1 rfl rfl)
theorem dX5_add_143 : decode cX5_add 143 = .ok (.aload_n 2, 1) := dk_44 (dk_at dksX5_add_6 3 rfl rfl)
theorem dX5_add_144 : decode cX5_add 144 = .ok (.iload 7, 2) := dk_21 7 (dk_at dksX5_add_6 4 rfl rfl)
theorem dX5_add_146 : decode cX5_add 146 = .ok (.iaload, 1) := dk_46 (dk_at dksX5_add_6 6 rfl rfl)
theorem dX5_add_147 : decode cX5_add 147 = .ok (.imul, 1) := dk_104 (dk_at dksX5_add_6 7 rfl rfl)
theorem dX5_add_148 : decode cX5_add 148 = .ok (.isub, 1) := dk_100 (dk_at dksX5_add_6 8 rfl rfl)
theorem dX5_add_149 : decode cX5_add 149 = .ok (.invokevirtual 29, 3) := dk_182 0 29 (dk_at dksX5_add_6 9 rfl rfl)
theorem dX5_add_152 : decode cX5_add 152 = .ok (.iastore, 1) := dk_79 (dk_at dksX5_add_6 12 rfl rfl)
theorem dX5_add_153 : decode cX5_add 153 = .ok (.iinc 7 1, 3) := dk_132 7 1 (dk_at dksX5_add_6 13 rfl rfl)
theorem dX5_add_156 : decode cX5_add 156 = .ok (.goto (-49), 3) := dk_167 255 207 (dk_at dksX5_add_6 16 rfl rfl)
theorem dX5_add_159 : decode cX5_add 159 = .ok (.iinc 5 1, 3) := dk_132 5 1 (dk_at dksX5_add_6 19 rfl rfl)
theorem dX5_add_162 : decode cX5_add 162 = .ok (.goto (-78), 3) := dk_167 255 178 (dk_at dksX5_add_7 0 rfl rfl)
theorem dX5_add_165 : decode cX5_add 165 = .ok (.aload_n 0, 1) := dk_42 (dk_at dksX5_add_7 3 rfl rfl)
theorem dX5_add_166 : decode cX5_add 166 = .ok (.getfield 20, 3) := dk_180 0 20 (dk_at dksX5_add_7 4 rfl rfl)
theorem dX5_add_169 : decode cX5_add 169 = .ok (.istore 5, 2) := dk_54 5 (dk_at dksX5_add_7 7 rfl rfl)
theorem dX5_add_171 : decode cX5_add 171 = .ok (.iload 5, 2) := dk_21 5 (dk_at dksX5_add_7 9 rfl rfl)
theorem dX5_add_173 : decode cX5_add 173 = .ok (.ifCond .le 60, 3) := dk_158 0 60 (dk_at dksX5_add_7 11 rfl rfl)
theorem dX5_add_176 : decode cX5_add 176 = .ok (.aload_n 0, 1) := dk_42 (dk_at dksX5_add_7 14 rfl rfl)
theorem dX5_add_177 : decode cX5_add 177 = .ok (.getfield 16, 3) := dk_180 0 16 (dk_at dksX5_add_7 15 rfl rfl)
theorem dX5_add_180 : decode cX5_add 180 = .ok (.iload 5, 2) := dk_21 5 (dk_at dksX5_add_7 18 rfl rfl)
theorem dX5_add_182 : decode cX5_add 182 = .ok (.iconst 1, 1) := dk_4 (dk_at dksX5_add_7 20 rfl rfl)
theorem dX5_add_183 : decode cX5_add 183 = .ok (.isub, 1) := dk_100 (dk_at dksX5_add_7 21 rfl rfl)
theorem dX5_add_184 : decode cX5_add 184 = .ok (.iaload, 1) := dk_46 (dk_at dksX5_add_7 22 rfl rfl)
theorem dX5_add_185 : decode cX5_add 185 = .ok (.iload_n 3, 1) := dk_29 (dk_at dksX5_add_7 23 rfl rfl)
theorem dX5_add_186 : decode cX5_add 186 = .ok (.if_icmp .le 47, 3) := dk_164 0 47 (dk_at dksX5_add_8 0 rfl rfl)
theorem dX5_add_189 : decode cX5_add 189 = .ok (.aload_n 0, 1) := dk_42 (dk_at dksX5_add_8 3 rfl rfl)
theorem dX5_add_190 : decode cX5_add 190 = .ok (.getfield 11, 3) := dk_180 0 11 (dk_at dksX5_add_8 4 rfl rfl)
theorem dX5_add_193 : decode cX5_add 193 = .ok (.iload 5, 2) := dk_21 5 (dk_at dksX5_add_8 7 rfl rfl)
theorem dX5_add_195 : decode cX5_add 195 = .ok (.iconst 1, 1) := dk_4 (dk_at dksX5_add_8 9 rfl rfl)
theorem dX5_add_196 : decode cX5_add 196 = .ok (.isub, 1) := dk_100 (dk_at dksX5_add_8 10 rfl rfl)
theorem dX5_add_197 : decode cX5_add 197 = .ok (.aaload, 1) := dk_50 (dk_at dksX5_add_8 11 rfl rfl)
theorem dX5_add_198 : decode cX5_add 198 = .ok (.iconst 0, 1) := dk_3 (dk_at dksX5_add_8 12 rfl rfl)
theorem dX5_add_199 : decode cX5_add 199 = .ok (.aload_n 0, 1) := dk_42 (dk_at dksX5_add_8 13 rfl rfl)
theorem dX5_add_200 : decode cX5_add 200 = .ok (.getfield 11, 3) := dk_180 0 11 (dk_at dksX5_add_8 14 rfl rfl)
theorem dX5_add_203 : decode cX5_add 203 = .ok (.iload 5, 2) := dk_21 5 (dk_at dksX5_add_8 17 rfl rfl)
theorem dX5_add_205 : decode cX5_add 205 = .ok (.aaload, 1) := dk_50 (dk_at dksX5_add_8 19 rfl rfl)
theorem dX5_add_206 : decode cX5_add 206 = .ok (.iconst 0, 1) := dk_3 (dk_at dksX5_add_8 20 rfl rfl)
theorem dX5_add_207 : decode cX5_add 207 = .ok (.iconst 5, 1) := dk_8 (dk_at dksX5_add_8 21 rfl rfl)
theorem dX5_add_208 : decode cX5_add 208 = .ok (.invokestatic 33, 3) := dk_184 0 33 (dk_at dksX5_add_9 0 rfl rfl)
theorem dX5_add_211 : decode cX5_add 211 = .ok (.aload_n 0, 1) := dk_42 (dk_at dksX5_add_9 3 rfl rfl)
theorem dX5_add_212 : decode cX5_add 212 = .ok (.getfield 16, 3) := dk_180 0 16 (dk_at dksX5_add_9 4 rfl rfl)
theorem dX5_add_215 : decode cX5_add 215 = .ok (.iload 5, 2) := dk_21 5 (dk_at dksX5_add_9 7 rfl rfl)
theorem dX5_add_217 : decode cX5_add 217 = .ok (.aload_n 0, 1) := dk_42 (dk_at dksX5_add_9 9 rfl rfl)
theorem dX5_add_218 : decode cX5_add 218 = .ok (.getfield 16, 3) := dk_180 0 16 (dk_at dksX5_add_9 10 rfl rfl)
theorem dX5_add_221 : decode cX5_add 221 = .ok (.iload 5, 2) := dk_21 5 (dk_at dksX5_add_9 13 rfl rfl)
theorem dX5_add_223 : decode cX5_add 223 = .ok (.iconst 1, 1) := dk_4 (dk_at dksX5_add_9 15 rfl rfl)
theorem dX5_add_224 : decode cX5_add 224 = .ok (.isub, 1) := dk_100 (dk_at dksX5_add_9 16 rfl rfl)
theorem dX5_add_225 : decode cX5_add 225 = .ok (.iaload, 1) := dk_46 (dk_at dksX5_add_9 17 rfl rfl)
theorem dX5_add_226 : decode cX5_add 226 = .ok (.iastore, 1) := dk_79 (dk_at dksX5_add_9 18 rfl rfl)
theorem dX5_add_227 : decode cX5_add 227 = .ok (.iinc 5 (-1), 3) := dk_132 5 255 (dk_at dksX5_add_9 19 rfl rfl)
theorem dX5_add_230 : decode cX5_add 230 = .ok (.goto (-59), 3) := dk_167 255 197 (dk_at dksX5_add_10 0 rfl rfl)
theorem dX5_add_233 : decode cX5_add 233 = .ok (.aload_n 2, 1) := dk_44 (dk_at dksX5_add_10 3 rfl rfl)
theorem dX5_add_234 : decode cX5_add 234 = .ok (.iconst 0, 1) := dk_3 (dk_at dksX5_add_10 4 rfl rfl)
theorem dX5_add_235 : decode cX5_add 235 = .ok (.aload_n 0, 1) := dk_42 (dk_at dksX5_add_10 5 rfl rfl)
theorem dX5_add_236 : decode cX5_add 236 = .ok (.getfield 11, 3) := dk_180 0 11 (dk_at dksX5_add_10 6 rfl rfl)
theorem dX5_add_239 : decode cX5_add 239 = .ok (.iload 5, 2) := dk_21 5 (dk_at dksX5_add_10 9 rfl rfl)
theorem dX5_add_241 : decode cX5_add 241 = .ok (.aaload, 1) := dk_50 (dk_at dksX5_add_10 11 rfl rfl)
theorem dX5_add_242 : decode cX5_add 242 = .ok (.iconst 0, 1) := dk_3 (dk_at dksX5_add_10 12 rfl rfl)
theorem dX5_add_243 : decode cX5_add 243 = .ok (.iconst 5, 1) := dk_8 (dk_at dksX5_add_10 13 rfl rfl)
theorem dX5_add_244 : decode cX5_add 244 = .ok (.invokestatic 33, 3) := dk_184 0 33 (dk_at dksX5_add_10 14 rfl rfl)
theorem dX5_add_247 : decode cX5_add 247 = .ok (.aload_n 0, 1) := dk_42 (dk_at dksX5_add_10 17 rfl rfl)
theorem dX5_add_248 : decode cX5_add 248 = .ok (.getfield 16, 3) := dk_180 0 16 (dk_at dksX5_add_10 18 rfl rfl)
theorem dX5_add_251 : decode cX5_add 251 = .ok (.iload 5, 2) := dk_21 5 (dk_at dksX5_add_10 21 rfl rfl)
theorem dX5_add_253 : decode cX5_add 253 = .ok (.iload_n 3, 1) := dk_29 (dk_at dksX5_add_10 23 rfl rfl)
theorem dX5_add_254 : decode cX5_add 254 = .ok (.iastore, 1) := dk_79 (dk_at dksX5_add_11 0 rfl rfl)
theorem dX5_add_255 : decode cX5_add 255 = .ok (.aload_n 0, 1) := dk_42 (dk_at dksX5_add_11 1 rfl rfl)
theorem dX5_add_256 : decode cX5_add 256 = .ok (.dup, 1) := dk_89 (dk_at dksX5_add_11 2 rfl rfl)
theorem dX5_add_257 : decode cX5_add 257 = .ok (.getfield 20, 3) := dk_180 0 20 (dk_at dksX5_add_11 3 rfl rfl)
theorem dX5_add_260 : decode cX5_add 260 = .ok (.iconst 1, 1) := dk_4 (dk_at dksX5_add_11 6 rfl rfl)
theorem dX5_add_261 : decode cX5_add 261 = .ok (.iadd, 1) := dk_96 (dk_at dksX5_add_11 7 rfl rfl)
theorem dX5_add_262 : decode cX5_add 262 = .ok (.putfield 20, 3) := dk_181 0 20 (dk_at dksX5_add_11 8 rfl rfl)
theorem dX5_add_265 : decode cX5_add 265 = .ok (.iconst 1, 1) := dk_4 (dk_at dksX5_add_11 11 rfl rfl)
theorem dX5_add_266 : decode cX5_add 266 = .ok (.ireturn, 1) := dk_172 (dk_at dksX5_add_11 12 rfl rfl)
abbrev cX5_reduce : ByteArray := prog_5_method_2_code
def dkwX5_reduce_3 : List UInt8 := [167, 255, 187, 177]
abbrev dktX5_reduce_3 : List UInt8 := dkwX5_reduce_3 ++ []
def dkwX5_reduce_2 : List UInt8 := [42, 180, 0, 11, 29, 50, 21, 5, 46, 104, 100, 182, 0, 29, 79, 132, 5, 1, 167, 255, 214, 132, 3, 1]
abbrev dktX5_reduce_2 : List UInt8 := dkwX5_reduce_2 ++ dktX5_reduce_3
def dkwX5_reduce_1 : List UInt8 := [21, 5, 43, 180, 0, 24, 162, 0, 39, 21, 4, 153, 0, 34, 44, 21, 5, 43, 44, 21, 5, 46, 21, 4]
abbrev dktX5_reduce_1 : List UInt8 := dkwX5_reduce_1 ++ dktX5_reduce_2
def dkwX5_reduce_0 : List UInt8 := [3, 62, 29, 42, 180, 0, 20, 162, 0, 67, 44, 42, 180, 0, 16, 29, 46, 46, 54, 4, 3, 54, 5]
abbrev dktX5_reduce_0 : List UInt8 := dkwX5_reduce_0 ++ dktX5_reduce_1
theorem dksX5_reduce_0 : cX5_reduce.data.toList.drop 0 = dktX5_reduce_0 := by decide +kernel
theorem dksX5_reduce_1 : cX5_reduce.data.toList.drop 23 = dktX5_reduce_1 := dk_seg dksX5_reduce_0 23 rfl rfl
theorem dksX5_reduce_2 : cX5_reduce.data.toList.drop 47 = dktX5_reduce_2 := dk_seg dksX5_reduce_1 24 rfl rfl
theorem dksX5_reduce_3 : cX5_reduce.data.toList.drop 71 = dktX5_reduce_3 := dk_seg dksX5_reduce_2 24 rfl rfl
theorem dX5_reduce_0 : decode cX5_reduce 0 = .ok (.iconst 0, 1) := dk_3 (dk_at dksX5_reduce_0 0 rfl rfl)
theorem dX5_reduce_1 : decode cX5_reduce 1 = .ok (.istore_n 3, 1) := dk_62 (dk_at dksX5_reduce_0 1 rfl rfl)
theorem dX5_reduce_2 : decode cX5_reduce 2 = .ok (.iload_n 3, 1) := dk_29 (dk_at dksX5_reduce_0 2 rfl rfl)
theorem dX5_reduce_3 : decode cX5_reduce 3 = .ok (.aload_n 0, 1) := dk_42 (dk_at dksX5_reduce_0 3 rfl rfl)
theorem dX5_reduce_4 : decode cX5_reduce 4 = .ok (.getfield 20, 3) := dk_180 0 20 (dk_at dksX5_reduce_0 4 rfl rfl)
theorem dX5_reduce_7 : decode cX5_reduce 7 = .ok (.if_icmp .ge 67, 3) := dk_162 0 67 (dk_at dksX5_reduce_0 7 rfl rfl)
theorem dX5_reduce_10 : decode cX5_reduce 10 = .ok (.aload_n 2, 1) := dk_44 (dk_at dksX5_reduce_0 10 rfl rfl)
theorem dX5_reduce_11 : decode cX5_reduce 11 = .ok (.aload_n 0, 1) := dk_42 (dk_at dksX5_reduce_0 11 rfl rfl)
theorem dX5_reduce_12 : decode cX5_reduce 12 = .ok (.getfield 16, 3) := dk_180 0 16 (dk_at dksX5_reduce_0 12 rfl rfl)
theorem dX5_reduce_15 : decode cX5_reduce 15 = .ok (.iload_n 3, 1) := dk_29 (dk_at dksX5_reduce_0 15 rfl rfl)
theorem dX5_reduce_16 : decode cX5_reduce 16 = .ok (.iaload, 1) := dk_46 (dk_at dksX5_reduce_0 16 rfl rfl)
theorem dX5_reduce_17 : decode cX5_reduce 17 = .ok (.iaload, 1) := dk_46 (dk_at dksX5_reduce_0 17 rfl rfl)
theorem dX5_reduce_18 : decode cX5_reduce 18 = .ok (.istore 4, 2) := dk_54 4 (dk_at dksX5_reduce_0 18 rfl rfl)
theorem dX5_reduce_20 : decode cX5_reduce 20 = .ok (.iconst 0, 1) := dk_3 (dk_at dksX5_reduce_0 20 rfl rfl)
theorem dX5_reduce_21 : decode cX5_reduce 21 = .ok (.istore 5, 2) := dk_54 5 (dk_at dksX5_reduce_0 21 rfl rfl)
theorem dX5_reduce_23 : decode cX5_reduce 23 = .ok (.iload 5, 2) := dk_21 5 (dk_at dksX5_reduce_1 0 rfl rfl)
theorem dX5_reduce_25 : decode cX5_reduce 25 = .ok (.aload_n 1, 1) := dk_43 (dk_at dksX5_reduce_1 2 rfl rfl)
theorem dX5_reduce_26 : decode cX5_reduce 26 = .ok (.getfield 24, 3) := dk_180 0 24 (dk_at dksX5_reduce_1 3 rfl rfl)
theorem dX5_reduce_29 : decode cX5_reduce 29 = .ok (.if_icmp .ge 39, 3) := dk_162 0 39 (dk_at dksX5_reduce_1 6 rfl rfl)
theorem dX5_reduce_32 : decode cX5_reduce 32 = .ok (.iload 4, 2) := dk_21 4 (dk_at dksX5_reduce_1 9 rfl rfl)
theorem dX5_reduce_34 : decode cX5_reduce 34 = .ok (.ifCond .eq 34, 3) := dk_153 0 34 (dk_at dksX5_reduce_1 11 rfl rfl)
theorem dX5_reduce_37 : decode cX5_reduce 37 = .ok (.aload_n 2, 1) := dk_44 (dk_at dksX5_reduce_1 14 rfl rfl)
theorem dX5_reduce_38 : decode cX5_reduce 38 = .ok (.iload 5, 2) := dk_21 5 (dk_at dksX5_reduce_1 15 rfl rfl)
theorem dX5_reduce_40 : decode cX5_reduce 40 = .ok (.aload_n 1, 1) := dk_43 (dk_at dksX5_reduce_1 17 rfl rfl)
theorem dX5_reduce_41 : decode cX5_reduce 41 = .ok (.aload_n 2, 1) := dk_44 (dk_at dksX5_reduce_1 18 rfl rfl)
theorem dX5_reduce_42 : decode cX5_reduce 42 = .ok (.iload 5, 2) := dk_21 5 (dk_at dksX5_reduce_1 19 rfl rfl)
theorem dX5_reduce_44 : decode cX5_reduce 44 = .ok (.iaload, 1) := dk_46 (dk_at dksX5_reduce_1 21 rfl rfl)
theorem dX5_reduce_45 : decode cX5_reduce 45 = .ok (.iload 4, 2) := dk_21 4 (dk_at dksX5_reduce_1 22 rfl rfl)
theorem dX5_reduce_47 : decode cX5_reduce 47 = .ok (.aload_n 0, 1) := dk_42 (dk_at dksX5_reduce_2 0 rfl rfl)
theorem dX5_reduce_48 : decode cX5_reduce 48 = .ok (.getfield 11, 3) := dk_180 0 11 (dk_at dksX5_reduce_2 1 rfl rfl)
theorem dX5_reduce_51 : decode cX5_reduce 51 = .ok (.iload_n 3, 1) := dk_29 (dk_at dksX5_reduce_2 4 rfl rfl)
theorem dX5_reduce_52 : decode cX5_reduce 52 = .ok (.aaload, 1) := dk_50 (dk_at dksX5_reduce_2 5 rfl rfl)
theorem dX5_reduce_53 : decode cX5_reduce 53 = .ok (.iload 5, 2) := dk_21 5 (dk_at dksX5_reduce_2 6 rfl rfl)
theorem dX5_reduce_55 : decode cX5_reduce 55 = .ok (.iaload, 1) := dk_46 (dk_at dksX5_reduce_2 8 rfl rfl)
theorem dX5_reduce_56 : decode cX5_reduce 56 = .ok (.imul, 1) := dk_104 (dk_at dksX5_reduce_2 9 rfl rfl)
theorem dX5_reduce_57 : decode cX5_reduce 57 = .ok (.isub, 1) := dk_100 (dk_at dksX5_reduce_2 10 rfl rfl)
theorem dX5_reduce_58 : decode cX5_reduce 58 = .ok (.invokevirtual 29, 3) := dk_182 0 29 (dk_at dksX5_reduce_2 11 rfl rfl)
theorem dX5_reduce_61 : decode cX5_reduce 61 = .ok (.iastore, 1) := dk_79 (dk_at dksX5_reduce_2 14 rfl rfl)
theorem dX5_reduce_62 : decode cX5_reduce 62 = .ok (.iinc 5 1, 3) := dk_132 5 1 (dk_at dksX5_reduce_2 15 rfl rfl)
theorem dX5_reduce_65 : decode cX5_reduce 65 = .ok (.goto (-42), 3) := dk_167 255 214 (dk_at dksX5_reduce_2 18 rfl rfl)
theorem dX5_reduce_68 : decode cX5_reduce 68 = .ok (.iinc 3 1, 3) := dk_132 3 1 (dk_at dksX5_reduce_2 21 rfl rfl)
theorem dX5_reduce_71 : decode cX5_reduce 71 = .ok (.goto (-69), 3) := dk_167 255 187 (dk_at dksX5_reduce_3 0 rfl rfl)
theorem dX5_reduce_74 : decode cX5_reduce 74 = .ok (.return_, 1) := dk_177 (dk_at dksX5_reduce_3 3 rfl rfl)
abbrev cX5_all : ByteArray := prog_5_method_6_code
def dkwX5_all_2 : List UInt8 := [167, 255, 230, 42, 180, 0, 16, 28, 28, 79, 132, 2, 1, 167, 255, 207, 177]
abbrev dktX5_all_2 : List UInt8 := dkwX5_all_2 ++ []
def dkwX5_all_1 : List UInt8 := [162, 0, 27, 42, 180, 0, 11, 28, 50, 29, 29, 28, 160, 0, 7, 4, 167, 0, 4, 3, 79, 132, 3, 1]
abbrev dktX5_all_1 : List UInt8 := dkwX5_all_1 ++ dktX5_all_2
def dkwX5_all_0 : List UInt8 := [42, 43, 180, 0, 24, 181, 0, 20, 3, 61, 28, 42, 180, 0, 20, 162, 0, 47, 3, 62, 29, 8]
abbrev dktX5_all_0 : List UInt8 := dkwX5_all_0 ++ dktX5_all_1
theorem dksX5_all_0 : cX5_all.data.toList.drop 0 = dktX5_all_0 := by decide +kernel
theorem dksX5_all_1 : cX5_all.data.toList.drop 22 = dktX5_all_1 := dk_seg dksX5_all_0 22 rfl rfl
theorem dksX5_all_2 : cX5_all.data.toList.drop 46 = dktX5_all_2 := dk_seg dksX5_all_1 24 rfl rfl
theorem dX5_all_0 : decode cX5_all 0 = .ok (.aload_n 0, 1) := dk_42 (dk_at dksX5_all_0 0 rfl rfl)
theorem dX5_all_1 : decode cX5_all 1 = .ok (.aload_n 1, 1) := dk_43 (dk_at dksX5_all_0 1 rfl rfl)
theorem dX5_all_2 : decode cX5_all 2 = .ok (.getfield 24, 3) := dk_180 0 24 (dk_at dksX5_all_0 2 rfl rfl)
theorem dX5_all_5 : decode cX5_all 5 = .ok (.putfield 20, 3) := dk_181 0 20 (dk_at dksX5_all_0 5 rfl rfl)
theorem dX5_all_8 : decode cX5_all 8 = .ok (.iconst 0, 1) := dk_3 (dk_at dksX5_all_0 8 rfl rfl)
theorem dX5_all_9 : decode cX5_all 9 = .ok (.istore_n 2, 1) := dk_61 (dk_at dksX5_all_0 9 rfl rfl)
theorem dX5_all_10 : decode cX5_all 10 = .ok (.iload_n 2, 1) := dk_28 (dk_at dksX5_all_0 10 rfl rfl)
theorem dX5_all_11 : decode cX5_all 11 = .ok (.aload_n 0, 1) := dk_42 (dk_at dksX5_all_0 11 rfl rfl)
theorem dX5_all_12 : decode cX5_all 12 = .ok (.getfield 20, 3) := dk_180 0 20 (dk_at dksX5_all_0 12 rfl rfl)
theorem dX5_all_15 : decode cX5_all 15 = .ok (.if_icmp .ge 47, 3) := dk_162 0 47 (dk_at dksX5_all_0 15 rfl rfl)
theorem dX5_all_18 : decode cX5_all 18 = .ok (.iconst 0, 1) := dk_3 (dk_at dksX5_all_0 18 rfl rfl)
theorem dX5_all_19 : decode cX5_all 19 = .ok (.istore_n 3, 1) := dk_62 (dk_at dksX5_all_0 19 rfl rfl)
theorem dX5_all_20 : decode cX5_all 20 = .ok (.iload_n 3, 1) := dk_29 (dk_at dksX5_all_0 20 rfl rfl)
theorem dX5_all_21 : decode cX5_all 21 = .ok (.iconst 5, 1) := dk_8 (dk_at dksX5_all_0 21 rfl rfl)
theorem dX5_all_22 : decode cX5_all 22 = .ok (.if_icmp .ge 27, 3) := dk_162 0 27 (dk_at dksX5_all_1 0 rfl rfl)
theorem dX5_all_25 : decode cX5_all 25 = .ok (.aload_n 0, 1) := dk_42 (dk_at dksX5_all_1 3 rfl rfl)
theorem dX5_all_26 : decode cX5_all 26 = .ok (.getfield 11, 3) := dk_180 0 11 (dk_at dksX5_all_1 4 rfl rfl)
theorem dX5_all_29 : decode cX5_all 29 = .ok (.iload_n 2, 1) := dk_28 (dk_at dksX5_all_1 7 rfl rfl)
theorem dX5_all_30 : decode cX5_all 30 = .ok (.aaload, 1) := dk_50 (dk_at dksX5_all_1 8 rfl rfl)
theorem dX5_all_31 : decode cX5_all 31 = .ok (.iload_n 3, 1) := dk_29 (dk_at dksX5_all_1 9 rfl rfl)
theorem dX5_all_32 : decode cX5_all 32 = .ok (.iload_n 3, 1) := dk_29 (dk_at dksX5_all_1 10 rfl rfl)
theorem dX5_all_33 : decode cX5_all 33 = .ok (.iload_n 2, 1) := dk_28 (dk_at dksX5_all_1 11 rfl rfl)
theorem dX5_all_34 : decode cX5_all 34 = .ok (.if_icmp .ne 7, 3) := dk_160 0 7 (dk_at dksX5_all_1 12 rfl rfl)
theorem dX5_all_37 : decode cX5_all 37 = .ok (.iconst 1, 1) := dk_4 (dk_at dksX5_all_1 15 rfl rfl)
theorem dX5_all_38 : decode cX5_all 38 = .ok (.goto 4, 3) := dk_167 0 4 (dk_at dksX5_all_1 16 rfl rfl)
theorem dX5_all_41 : decode cX5_all 41 = .ok (.iconst 0, 1) := dk_3 (dk_at dksX5_all_1 19 rfl rfl)
theorem dX5_all_42 : decode cX5_all 42 = .ok (.iastore, 1) := dk_79 (dk_at dksX5_all_1 20 rfl rfl)
theorem dX5_all_43 : decode cX5_all 43 = .ok (.iinc 3 1, 3) := dk_132 3 1 (dk_at dksX5_all_1 21 rfl rfl)
theorem dX5_all_46 : decode cX5_all 46 = .ok (.goto (-26), 3) := dk_167 255 230 (dk_at dksX5_all_2 0 rfl rfl)
theorem dX5_all_49 : decode cX5_all 49 = .ok (.aload_n 0, 1) := dk_42 (dk_at dksX5_all_2 3 rfl rfl)
theorem dX5_all_50 : decode cX5_all 50 = .ok (.getfield 16, 3) := dk_180 0 16 (dk_at dksX5_all_2 4 rfl rfl)
theorem dX5_all_53 : decode cX5_all 53 = .ok (.iload_n 2, 1) := dk_28 (dk_at dksX5_all_2 7 rfl rfl)
theorem dX5_all_54 : decode cX5_all 54 = .ok (.iload_n 2, 1) := dk_28 (dk_at dksX5_all_2 8 rfl rfl)
theorem dX5_all_55 : decode cX5_all 55 = .ok (.iastore, 1) := dk_79 (dk_at dksX5_all_2 9 rfl rfl)
theorem dX5_all_56 : decode cX5_all 56 = .ok (.iinc 2 1, 3) := dk_132 2 1 (dk_at dksX5_all_2 10 rfl rfl)
theorem dX5_all_59 : decode cX5_all 59 = .ok (.goto (-49), 3) := dk_167 255 207 (dk_at dksX5_all_2 13 rfl rfl)
theorem dX5_all_62 : decode cX5_all 62 = .ok (.return_, 1) := dk_177 (dk_at dksX5_all_2 16 rfl rfl)
abbrev cX5_copy : ByteArray := prog_5_method_5_code
def dkwX5_copy_2 : List UInt8 := [132, 2, 1, 167, 255, 215, 177]
abbrev dktX5_copy_2 : List UInt8 := dkwX5_copy_2 ++ []
def dkwX5_copy_1 : List UInt8 := [3, 42, 180, 0, 11, 28, 50, 3, 8, 184, 0, 33, 42, 180, 0, 16, 28, 43, 180, 0, 16, 28, 46, 79]
abbrev dktX5_copy_1 : List UInt8 := dkwX5_copy_1 ++ dktX5_copy_2
def dkwX5_copy_0 : List UInt8 := [42, 43, 180, 0, 20, 181, 0, 20, 3, 61, 28, 42, 180, 0, 20, 162, 0, 39, 43, 180, 0, 11, 28, 50]
abbrev dktX5_copy_0 : List UInt8 := dkwX5_copy_0 ++ dktX5_copy_1
theorem dksX5_copy_0 : cX5_copy.data.toList.drop 0 = dktX5_copy_0 := by decide +kernel
theorem dksX5_copy_1 : cX5_copy.data.toList.drop 24 = dktX5_copy_1 := dk_seg dksX5_copy_0 24 rfl rfl
theorem dksX5_copy_2 : cX5_copy.data.toList.drop 48 = dktX5_copy_2 := dk_seg dksX5_copy_1 24 rfl rfl
theorem dX5_copy_0 : decode cX5_copy 0 = .ok (.aload_n 0, 1) := dk_42 (dk_at dksX5_copy_0 0 rfl rfl)
theorem dX5_copy_1 : decode cX5_copy 1 = .ok (.aload_n 1, 1) := dk_43 (dk_at dksX5_copy_0 1 rfl rfl)
theorem dX5_copy_2 : decode cX5_copy 2 = .ok (.getfield 20, 3) := dk_180 0 20 (dk_at dksX5_copy_0 2 rfl rfl)
theorem dX5_copy_5 : decode cX5_copy 5 = .ok (.putfield 20, 3) := dk_181 0 20 (dk_at dksX5_copy_0 5 rfl rfl)
theorem dX5_copy_8 : decode cX5_copy 8 = .ok (.iconst 0, 1) := dk_3 (dk_at dksX5_copy_0 8 rfl rfl)
theorem dX5_copy_9 : decode cX5_copy 9 = .ok (.istore_n 2, 1) := dk_61 (dk_at dksX5_copy_0 9 rfl rfl)
theorem dX5_copy_10 : decode cX5_copy 10 = .ok (.iload_n 2, 1) := dk_28 (dk_at dksX5_copy_0 10 rfl rfl)
theorem dX5_copy_11 : decode cX5_copy 11 = .ok (.aload_n 0, 1) := dk_42 (dk_at dksX5_copy_0 11 rfl rfl)
theorem dX5_copy_12 : decode cX5_copy 12 = .ok (.getfield 20, 3) := dk_180 0 20 (dk_at dksX5_copy_0 12 rfl rfl)
theorem dX5_copy_15 : decode cX5_copy 15 = .ok (.if_icmp .ge 39, 3) := dk_162 0 39 (dk_at dksX5_copy_0 15 rfl rfl)
theorem dX5_copy_18 : decode cX5_copy 18 = .ok (.aload_n 1, 1) := dk_43 (dk_at dksX5_copy_0 18 rfl rfl)
theorem dX5_copy_19 : decode cX5_copy 19 = .ok (.getfield 11, 3) := dk_180 0 11 (dk_at dksX5_copy_0 19 rfl rfl)
theorem dX5_copy_22 : decode cX5_copy 22 = .ok (.iload_n 2, 1) := dk_28 (dk_at dksX5_copy_0 22 rfl rfl)
theorem dX5_copy_23 : decode cX5_copy 23 = .ok (.aaload, 1) := dk_50 (dk_at dksX5_copy_0 23 rfl rfl)
theorem dX5_copy_24 : decode cX5_copy 24 = .ok (.iconst 0, 1) := dk_3 (dk_at dksX5_copy_1 0 rfl rfl)
theorem dX5_copy_25 : decode cX5_copy 25 = .ok (.aload_n 0, 1) := dk_42 (dk_at dksX5_copy_1 1 rfl rfl)
theorem dX5_copy_26 : decode cX5_copy 26 = .ok (.getfield 11, 3) := dk_180 0 11 (dk_at dksX5_copy_1 2 rfl rfl)
theorem dX5_copy_29 : decode cX5_copy 29 = .ok (.iload_n 2, 1) := dk_28 (dk_at dksX5_copy_1 5 rfl rfl)
theorem dX5_copy_30 : decode cX5_copy 30 = .ok (.aaload, 1) := dk_50 (dk_at dksX5_copy_1 6 rfl rfl)
theorem dX5_copy_31 : decode cX5_copy 31 = .ok (.iconst 0, 1) := dk_3 (dk_at dksX5_copy_1 7 rfl rfl)
theorem dX5_copy_32 : decode cX5_copy 32 = .ok (.iconst 5, 1) := dk_8 (dk_at dksX5_copy_1 8 rfl rfl)
theorem dX5_copy_33 : decode cX5_copy 33 = .ok (.invokestatic 33, 3) := dk_184 0 33 (dk_at dksX5_copy_1 9 rfl rfl)
theorem dX5_copy_36 : decode cX5_copy 36 = .ok (.aload_n 0, 1) := dk_42 (dk_at dksX5_copy_1 12 rfl rfl)
theorem dX5_copy_37 : decode cX5_copy 37 = .ok (.getfield 16, 3) := dk_180 0 16 (dk_at dksX5_copy_1 13 rfl rfl)
theorem dX5_copy_40 : decode cX5_copy 40 = .ok (.iload_n 2, 1) := dk_28 (dk_at dksX5_copy_1 16 rfl rfl)
theorem dX5_copy_41 : decode cX5_copy 41 = .ok (.aload_n 1, 1) := dk_43 (dk_at dksX5_copy_1 17 rfl rfl)
theorem dX5_copy_42 : decode cX5_copy 42 = .ok (.getfield 16, 3) := dk_180 0 16 (dk_at dksX5_copy_1 18 rfl rfl)
theorem dX5_copy_45 : decode cX5_copy 45 = .ok (.iload_n 2, 1) := dk_28 (dk_at dksX5_copy_1 21 rfl rfl)
theorem dX5_copy_46 : decode cX5_copy 46 = .ok (.iaload, 1) := dk_46 (dk_at dksX5_copy_1 22 rfl rfl)
theorem dX5_copy_47 : decode cX5_copy 47 = .ok (.iastore, 1) := dk_79 (dk_at dksX5_copy_1 23 rfl rfl)
theorem dX5_copy_48 : decode cX5_copy 48 = .ok (.iinc 2 1, 3) := dk_132 2 1 (dk_at dksX5_copy_2 0 rfl rfl)
theorem dX5_copy_51 : decode cX5_copy 51 = .ok (.goto (-41), 3) := dk_167 255 215 (dk_at dksX5_copy_2 3 rfl rfl)
theorem dX5_copy_54 : decode cX5_copy 54 = .ok (.return_, 1) := dk_177 (dk_at dksX5_copy_2 6 rfl rfl)
abbrev cX5_holds : ByteArray := prog_5_method_3_code
def dkwX5_holds_1 : List UInt8 := [162, 0, 18, 45, 21, 4, 46, 153, 0, 5, 3, 172, 132, 4, 1, 167, 255, 235, 4, 172]
abbrev dktX5_holds_1 : List UInt8 := dkwX5_holds_1 ++ []
def dkwX5_holds_0 : List UInt8 := [44, 3, 45, 3, 8, 184, 0, 33, 42, 43, 45, 182, 0, 39, 3, 54, 4, 21, 4, 43, 180, 0, 24]
abbrev dktX5_holds_0 : List UInt8 := dkwX5_holds_0 ++ dktX5_holds_1
theorem dksX5_holds_0 : cX5_holds.data.toList.drop 0 = dktX5_holds_0 := by decide +kernel
theorem dksX5_holds_1 : cX5_holds.data.toList.drop 23 = dktX5_holds_1 := dk_seg dksX5_holds_0 23 rfl rfl
theorem dX5_holds_0 : decode cX5_holds 0 = .ok (.aload_n 2, 1) := dk_44 (dk_at dksX5_holds_0 0 rfl rfl)
theorem dX5_holds_1 : decode cX5_holds 1 = .ok (.iconst 0, 1) := dk_3 (dk_at dksX5_holds_0 1 rfl rfl)
theorem dX5_holds_2 : decode cX5_holds 2 = .ok (.aload_n 3, 1) := dk_45 (dk_at dksX5_holds_0 2 rfl rfl)
theorem dX5_holds_3 : decode cX5_holds 3 = .ok (.iconst 0, 1) := dk_3 (dk_at dksX5_holds_0 3 rfl rfl)
theorem dX5_holds_4 : decode cX5_holds 4 = .ok (.iconst 5, 1) := dk_8 (dk_at dksX5_holds_0 4 rfl rfl)
theorem dX5_holds_5 : decode cX5_holds 5 = .ok (.invokestatic 33, 3) := dk_184 0 33 (dk_at dksX5_holds_0 5 rfl rfl)
theorem dX5_holds_8 : decode cX5_holds 8 = .ok (.aload_n 0, 1) := dk_42 (dk_at dksX5_holds_0 8 rfl rfl)
theorem dX5_holds_9 : decode cX5_holds 9 = .ok (.aload_n 1, 1) := dk_43 (dk_at dksX5_holds_0 9 rfl rfl)
theorem dX5_holds_10 : decode cX5_holds 10 = .ok (.aload_n 3, 1) := dk_45 (dk_at dksX5_holds_0 10 rfl rfl)
theorem dX5_holds_11 : decode cX5_holds 11 = .ok (.invokevirtual 39, 3) := dk_182 0 39 (dk_at dksX5_holds_0 11 rfl rfl)
theorem dX5_holds_14 : decode cX5_holds 14 = .ok (.iconst 0, 1) := dk_3 (dk_at dksX5_holds_0 14 rfl rfl)
theorem dX5_holds_15 : decode cX5_holds 15 = .ok (.istore 4, 2) := dk_54 4 (dk_at dksX5_holds_0 15 rfl rfl)
theorem dX5_holds_17 : decode cX5_holds 17 = .ok (.iload 4, 2) := dk_21 4 (dk_at dksX5_holds_0 17 rfl rfl)
theorem dX5_holds_19 : decode cX5_holds 19 = .ok (.aload_n 1, 1) := dk_43 (dk_at dksX5_holds_0 19 rfl rfl)
theorem dX5_holds_20 : decode cX5_holds 20 = .ok (.getfield 24, 3) := dk_180 0 24 (dk_at dksX5_holds_0 20 rfl rfl)
theorem dX5_holds_23 : decode cX5_holds 23 = .ok (.if_icmp .ge 18, 3) := dk_162 0 18 (dk_at dksX5_holds_1 0 rfl rfl)
theorem dX5_holds_26 : decode cX5_holds 26 = .ok (.aload_n 3, 1) := dk_45 (dk_at dksX5_holds_1 3 rfl rfl)
theorem dX5_holds_27 : decode cX5_holds 27 = .ok (.iload 4, 2) := dk_21 4 (dk_at dksX5_holds_1 4 rfl rfl)
theorem dX5_holds_29 : decode cX5_holds 29 = .ok (.iaload, 1) := dk_46 (dk_at dksX5_holds_1 6 rfl rfl)
theorem dX5_holds_30 : decode cX5_holds 30 = .ok (.ifCond .eq 5, 3) := dk_153 0 5 (dk_at dksX5_holds_1 7 rfl rfl)
theorem dX5_holds_33 : decode cX5_holds 33 = .ok (.iconst 0, 1) := dk_3 (dk_at dksX5_holds_1 10 rfl rfl)
theorem dX5_holds_34 : decode cX5_holds 34 = .ok (.ireturn, 1) := dk_172 (dk_at dksX5_holds_1 11 rfl rfl)
theorem dX5_holds_35 : decode cX5_holds 35 = .ok (.iinc 4 1, 3) := dk_132 4 1 (dk_at dksX5_holds_1 12 rfl rfl)
theorem dX5_holds_38 : decode cX5_holds 38 = .ok (.goto (-21), 3) := dk_167 255 235 (dk_at dksX5_holds_1 15 rfl rfl)
theorem dX5_holds_41 : decode cX5_holds 41 = .ok (.iconst 1, 1) := dk_4 (dk_at dksX5_holds_1 18 rfl rfl)
theorem dX5_holds_42 : decode cX5_holds 42 = .ok (.ireturn, 1) := dk_172 (dk_at dksX5_holds_1 19 rfl rfl)
/-! code rows: X6 (rows of claim/names) -/
set_option maxRecDepth 100000
abbrev cX6_init : ByteArray := prog_7_method_1_code
theorem dX6_init_0 : decode cX6_init 0 = .ok (.aload_n 0, 1) := by decide +kernel
theorem dX6_init_1 : decode cX6_init 1 = .ok (.invokespecial 1, 3) := by decide +kernel
theorem dX6_init_4 : decode cX6_init 4 = .ok (.return_, 1) := by decide +kernel
abbrev cX6_make : ByteArray := prog_7_method_2_code
def dkwX6_make_1 : List UInt8 := [160, 0, 9, 28, 188, 10, 167, 0, 6, 28, 188, 11, 78, 42, 45, 181, 0, 7, 42, 27, 181, 0, 13, 177]
abbrev dktX6_make_1 : List UInt8 := dkwX6_make_1 ++ []
def dkwX6_make_0 : List UInt8 := [27, 154, 0, 9, 28, 188, 8, 167, 0, 28, 27, 4, 160, 0, 9, 28, 188, 9, 167, 0, 17, 27, 5]
abbrev dktX6_make_0 : List UInt8 := dkwX6_make_0 ++ dktX6_make_1
theorem dksX6_make_0 : cX6_make.data.toList.drop 0 = dktX6_make_0 := by decide +kernel
theorem dksX6_make_1 : cX6_make.data.toList.drop 23 = dktX6_make_1 := dk_seg dksX6_make_0 23 rfl rfl
theorem dX6_make_0 : decode cX6_make 0 = .ok (.iload_n 1, 1) := dk_27 (dk_at dksX6_make_0 0 rfl rfl)
theorem dX6_make_1 : decode cX6_make 1 = .ok (.ifCond .ne 9, 3) := dk_154 0 9 (dk_at dksX6_make_0 1 rfl rfl)
theorem dX6_make_4 : decode cX6_make 4 = .ok (.iload_n 2, 1) := dk_28 (dk_at dksX6_make_0 4 rfl rfl)
theorem dX6_make_5 : decode cX6_make 5 = .ok (.newarray .byte, 2) := dk_188_8 (dk_at dksX6_make_0 5 rfl rfl)
theorem dX6_make_7 : decode cX6_make 7 = .ok (.goto 28, 3) := dk_167 0 28 (dk_at dksX6_make_0 7 rfl rfl)
theorem dX6_make_10 : decode cX6_make 10 = .ok (.iload_n 1, 1) := dk_27 (dk_at dksX6_make_0 10 rfl rfl)
theorem dX6_make_11 : decode cX6_make 11 = .ok (.iconst 1, 1) := dk_4 (dk_at dksX6_make_0 11 rfl rfl)
theorem dX6_make_12 : decode cX6_make 12 = .ok (.if_icmp .ne 9, 3) := dk_160 0 9 (dk_at dksX6_make_0 12 rfl rfl)
theorem dX6_make_15 : decode cX6_make 15 = .ok (.iload_n 2, 1) := dk_28 (dk_at dksX6_make_0 15 rfl rfl)
theorem dX6_make_16 : decode cX6_make 16 = .ok (.newarray .short, 2) := dk_188_9 (dk_at dksX6_make_0 16 rfl rfl)
theorem dX6_make_18 : decode cX6_make 18 = .ok (.goto 17, 3) := dk_167 0 17 (dk_at dksX6_make_0 18 rfl rfl)
theorem dX6_make_21 : decode cX6_make 21 = .ok (.iload_n 1, 1) := dk_27 (dk_at dksX6_make_0 21 rfl rfl)
theorem dX6_make_22 : decode cX6_make 22 = .ok (.iconst 2, 1) := dk_5 (dk_at dksX6_make_0 22 rfl rfl)
theorem dX6_make_23 : decode cX6_make 23 = .ok (.if_icmp .ne 9, 3) := dk_160 0 9 (dk_at dksX6_make_1 0 rfl rfl)
theorem dX6_make_26 : decode cX6_make 26 = .ok (.iload_n 2, 1) := dk_28 (dk_at dksX6_make_1 3 rfl rfl)
theorem dX6_make_27 : decode cX6_make 27 = .ok (.newarray .int, 2) := dk_188_10 (dk_at dksX6_make_1 4 rfl rfl)
theorem dX6_make_29 : decode cX6_make 29 = .ok (.goto 6, 3) := dk_167 0 6 (dk_at dksX6_make_1 6 rfl rfl)
theorem dX6_make_32 : decode cX6_make 32 = .ok (.iload_n 2, 1) := dk_28 (dk_at dksX6_make_1 9 rfl rfl)
theorem dX6_make_33 : decode cX6_make 33 = .ok (.newarray .long, 2) := dk_188_11 (dk_at dksX6_make_1 10 rfl rfl)
theorem dX6_make_35 : decode cX6_make 35 = .ok (.astore_n 3, 1) := dk_78 (dk_at dksX6_make_1 12 rfl rfl)
theorem dX6_make_36 : decode cX6_make 36 = .ok (.aload_n 0, 1) := dk_42 (dk_at dksX6_make_1 13 rfl rfl)
theorem dX6_make_37 : decode cX6_make 37 = .ok (.aload_n 3, 1) := dk_45 (dk_at dksX6_make_1 14 rfl rfl)
theorem dX6_make_38 : decode cX6_make 38 = .ok (.putfield 7, 3) := dk_181 0 7 (dk_at dksX6_make_1 15 rfl rfl)
theorem dX6_make_41 : decode cX6_make 41 = .ok (.aload_n 0, 1) := dk_42 (dk_at dksX6_make_1 18 rfl rfl)
theorem dX6_make_42 : decode cX6_make 42 = .ok (.iload_n 1, 1) := dk_27 (dk_at dksX6_make_1 19 rfl rfl)
theorem dX6_make_43 : decode cX6_make 43 = .ok (.putfield 13, 3) := dk_181 0 13 (dk_at dksX6_make_1 20 rfl rfl)
theorem dX6_make_46 : decode cX6_make 46 = .ok (.return_, 1) := dk_177 (dk_at dksX6_make_1 23 rfl rfl)
abbrev cX6_set : ByteArray := prog_7_method_5_code
def dkwX6_set_3 : List UInt8 := [180, 0, 7, 192, 0, 23, 27, 32, 80, 177]
abbrev dktX6_set_3 : List UInt8 := dkwX6_set_3 ++ []
def dkwX6_set_2 : List UInt8 := [180, 0, 13, 5, 160, 0, 17, 42, 180, 0, 7, 192, 0, 21, 27, 32, 136, 79, 167, 0, 13, 42]
abbrev dktX6_set_2 : List UInt8 := dkwX6_set_2 ++ dktX6_set_3
def dkwX6_set_1 : List UInt8 := [180, 0, 13, 4, 160, 0, 18, 42, 180, 0, 7, 192, 0, 19, 27, 32, 136, 147, 86, 167, 0, 35, 42]
abbrev dktX6_set_1 : List UInt8 := dkwX6_set_1 ++ dktX6_set_2
def dkwX6_set_0 : List UInt8 := [42, 180, 0, 13, 154, 0, 18, 42, 180, 0, 7, 192, 0, 17, 27, 32, 136, 145, 84, 167, 0, 58, 42]
abbrev dktX6_set_0 : List UInt8 := dkwX6_set_0 ++ dktX6_set_1
theorem dksX6_set_0 : cX6_set.data.toList.drop 0 = dktX6_set_0 := by decide +kernel
theorem dksX6_set_1 : cX6_set.data.toList.drop 23 = dktX6_set_1 := dk_seg dksX6_set_0 23 rfl rfl
theorem dksX6_set_2 : cX6_set.data.toList.drop 46 = dktX6_set_2 := dk_seg dksX6_set_1 23 rfl rfl
theorem dksX6_set_3 : cX6_set.data.toList.drop 68 = dktX6_set_3 := dk_seg dksX6_set_2 22 rfl rfl
theorem dX6_set_0 : decode cX6_set 0 = .ok (.aload_n 0, 1) := dk_42 (dk_at dksX6_set_0 0 rfl rfl)
theorem dX6_set_1 : decode cX6_set 1 = .ok (.getfield 13, 3) := dk_180 0 13 (dk_at dksX6_set_0 1 rfl rfl)
theorem dX6_set_4 : decode cX6_set 4 = .ok (.ifCond .ne 18, 3) := dk_154 0 18 (dk_at dksX6_set_0 4 rfl rfl)
theorem dX6_set_7 : decode cX6_set 7 = .ok (.aload_n 0, 1) := dk_42 (dk_at dksX6_set_0 7 rfl rfl)
theorem dX6_set_8 : decode cX6_set 8 = .ok (.getfield 7, 3) := dk_180 0 7 (dk_at dksX6_set_0 8 rfl rfl)
theorem dX6_set_11 : decode cX6_set 11 = .ok (.checkcast 17, 3) := dk_192 0 17 (dk_at dksX6_set_0 11 rfl rfl)
theorem dX6_set_14 : decode cX6_set 14 = .ok (.iload_n 1, 1) := dk_27 (dk_at dksX6_set_0 14 rfl rfl)
theorem dX6_set_15 : decode cX6_set 15 = .ok (.lload_n 2, 1) := dk_32 (dk_at dksX6_set_0 15 rfl rfl)
theorem dX6_set_16 : decode cX6_set 16 = .ok (.l2i, 1) := dk_136 (dk_at dksX6_set_0 16 rfl rfl)
theorem dX6_set_17 : decode cX6_set 17 = .ok (.i2b, 1) := dk_145 (dk_at dksX6_set_0 17 rfl rfl)
theorem dX6_set_18 : decode cX6_set 18 = .ok (.bastore, 1) := dk_84 (dk_at dksX6_set_0 18 rfl rfl)
theorem dX6_set_19 : decode cX6_set 19 = .ok (.goto 58, 3) := dk_167 0 58 (dk_at dksX6_set_0 19 rfl rfl)
theorem dX6_set_22 : decode cX6_set 22 = .ok (.aload_n 0, 1) := dk_42 (dk_at dksX6_set_0 22 rfl rfl)
theorem dX6_set_23 : decode cX6_set 23 = .ok (.getfield 13, 3) := dk_180 0 13 (dk_at dksX6_set_1 0 rfl rfl)
theorem dX6_set_26 : decode cX6_set 26 = .ok (.iconst 1, 1) := dk_4 (dk_at dksX6_set_1 3 rfl rfl)
theorem dX6_set_27 : decode cX6_set 27 = .ok (.if_icmp .ne 18, 3) := dk_160 0 18 (dk_at dksX6_set_1 4 rfl rfl)
theorem dX6_set_30 : decode cX6_set 30 = .ok (.aload_n 0, 1) := dk_42 (dk_at dksX6_set_1 7 rfl rfl)
theorem dX6_set_31 : decode cX6_set 31 = .ok (.getfield 7, 3) := dk_180 0 7 (dk_at dksX6_set_1 8 rfl rfl)
theorem dX6_set_34 : decode cX6_set 34 = .ok (.checkcast 19, 3) := dk_192 0 19 (dk_at dksX6_set_1 11 rfl rfl)
theorem dX6_set_37 : decode cX6_set 37 = .ok (.iload_n 1, 1) := dk_27 (dk_at dksX6_set_1 14 rfl rfl)
theorem dX6_set_38 : decode cX6_set 38 = .ok (.lload_n 2, 1) := dk_32 (dk_at dksX6_set_1 15 rfl rfl)
theorem dX6_set_39 : decode cX6_set 39 = .ok (.l2i, 1) := dk_136 (dk_at dksX6_set_1 16 rfl rfl)
theorem dX6_set_40 : decode cX6_set 40 = .ok (.i2s, 1) := dk_147 (dk_at dksX6_set_1 17 rfl rfl)
theorem dX6_set_41 : decode cX6_set 41 = .ok (.sastore, 1) := dk_86 (dk_at dksX6_set_1 18 rfl rfl)
theorem dX6_set_42 : decode cX6_set 42 = .ok (.goto 35, 3) := dk_167 0 35 (dk_at dksX6_set_1 19 rfl rfl)
theorem dX6_set_45 : decode cX6_set 45 = .ok (.aload_n 0, 1) := dk_42 (dk_at dksX6_set_1 22 rfl rfl)
theorem dX6_set_46 : decode cX6_set 46 = .ok (.getfield 13, 3) := dk_180 0 13 (dk_at dksX6_set_2 0 rfl rfl)
theorem dX6_set_49 : decode cX6_set 49 = .ok (.iconst 2, 1) := dk_5 (dk_at dksX6_set_2 3 rfl rfl)
theorem dX6_set_50 : decode cX6_set 50 = .ok (.if_icmp .ne 17, 3) := dk_160 0 17 (dk_at dksX6_set_2 4 rfl rfl)
theorem dX6_set_53 : decode cX6_set 53 = .ok (.aload_n 0, 1) := dk_42 (dk_at dksX6_set_2 7 rfl rfl)
theorem dX6_set_54 : decode cX6_set 54 = .ok (.getfield 7, 3) := dk_180 0 7 (dk_at dksX6_set_2 8 rfl rfl)
theorem dX6_set_57 : decode cX6_set 57 = .ok (.checkcast 21, 3) := dk_192 0 21 (dk_at dksX6_set_2 11 rfl rfl)
theorem dX6_set_60 : decode cX6_set 60 = .ok (.iload_n 1, 1) := dk_27 (dk_at dksX6_set_2 14 rfl rfl)
theorem dX6_set_61 : decode cX6_set 61 = .ok (.lload_n 2, 1) := dk_32 (dk_at dksX6_set_2 15 rfl rfl)
theorem dX6_set_62 : decode cX6_set 62 = .ok (.l2i, 1) := dk_136 (dk_at dksX6_set_2 16 rfl rfl)
theorem dX6_set_63 : decode cX6_set 63 = .ok (.iastore, 1) := dk_79 (dk_at dksX6_set_2 17 rfl rfl)
theorem dX6_set_64 : decode cX6_set 64 = .ok (.goto 13, 3) := dk_167 0 13 (dk_at dksX6_set_2 18 rfl rfl)
theorem dX6_set_67 : decode cX6_set 67 = .ok (.aload_n 0, 1) := dk_42 (dk_at dksX6_set_2 21 rfl rfl)
theorem dX6_set_68 : decode cX6_set 68 = .ok (.getfield 7, 3) := dk_180 0 7 (dk_at dksX6_set_3 0 rfl rfl)
theorem dX6_set_71 : decode cX6_set 71 = .ok (.checkcast 23, 3) := dk_192 0 23 (dk_at dksX6_set_3 3 rfl rfl)
theorem dX6_set_74 : decode cX6_set 74 = .ok (.iload_n 1, 1) := dk_27 (dk_at dksX6_set_3 6 rfl rfl)
theorem dX6_set_75 : decode cX6_set 75 = .ok (.lload_n 2, 1) := dk_32 (dk_at dksX6_set_3 7 rfl rfl)
theorem dX6_set_76 : decode cX6_set 76 = .ok (.lastore, 1) := dk_80 (dk_at dksX6_set_3 8 rfl rfl)
theorem dX6_set_77 : decode cX6_set 77 = .ok (.return_, 1) := dk_177 (dk_at dksX6_set_3 9 rfl rfl)
abbrev cX6_get : ByteArray := prog_7_method_4_code
def dkwX6_get_3 : List UInt8 := [47, 173]
abbrev dktX6_get_3 : List UInt8 := dkwX6_get_3 ++ []
def dkwX6_get_2 : List UInt8 := [160, 0, 16, 42, 180, 0, 7, 192, 0, 21, 27, 46, 133, 167, 0, 12, 42, 180, 0, 7, 192, 0, 23, 27]
abbrev dktX6_get_2 : List UInt8 := dkwX6_get_2 ++ dktX6_get_3
def dkwX6_get_1 : List UInt8 := [4, 160, 0, 16, 42, 180, 0, 7, 192, 0, 19, 27, 53, 133, 167, 0, 33, 42, 180, 0, 13, 5]
abbrev dktX6_get_1 : List UInt8 := dkwX6_get_1 ++ dktX6_get_2
def dkwX6_get_0 : List UInt8 := [42, 180, 0, 13, 154, 0, 16, 42, 180, 0, 7, 192, 0, 17, 27, 51, 133, 167, 0, 54, 42, 180, 0, 13]
abbrev dktX6_get_0 : List UInt8 := dkwX6_get_0 ++ dktX6_get_1
theorem dksX6_get_0 : cX6_get.data.toList.drop 0 = dktX6_get_0 := by decide +kernel
theorem dksX6_get_1 : cX6_get.data.toList.drop 24 = dktX6_get_1 := dk_seg dksX6_get_0 24 rfl rfl
theorem dksX6_get_2 : cX6_get.data.toList.drop 46 = dktX6_get_2 := dk_seg dksX6_get_1 22 rfl rfl
theorem dksX6_get_3 : cX6_get.data.toList.drop 70 = dktX6_get_3 := dk_seg dksX6_get_2 24 rfl rfl
theorem dX6_get_0 : decode cX6_get 0 = .ok (.aload_n 0, 1) := dk_42 (dk_at dksX6_get_0 0 rfl rfl)
theorem dX6_get_1 : decode cX6_get 1 = .ok (.getfield 13, 3) := dk_180 0 13 (dk_at dksX6_get_0 1 rfl rfl)
theorem dX6_get_4 : decode cX6_get 4 = .ok (.ifCond .ne 16, 3) := dk_154 0 16 (dk_at dksX6_get_0 4 rfl rfl)
theorem dX6_get_7 : decode cX6_get 7 = .ok (.aload_n 0, 1) := dk_42 (dk_at dksX6_get_0 7 rfl rfl)
theorem dX6_get_8 : decode cX6_get 8 = .ok (.getfield 7, 3) := dk_180 0 7 (dk_at dksX6_get_0 8 rfl rfl)
theorem dX6_get_11 : decode cX6_get 11 = .ok (.checkcast 17, 3) := dk_192 0 17 (dk_at dksX6_get_0 11 rfl rfl)
theorem dX6_get_14 : decode cX6_get 14 = .ok (.iload_n 1, 1) := dk_27 (dk_at dksX6_get_0 14 rfl rfl)
theorem dX6_get_15 : decode cX6_get 15 = .ok (.baload, 1) := dk_51 (dk_at dksX6_get_0 15 rfl rfl)
theorem dX6_get_16 : decode cX6_get 16 = .ok (.i2l, 1) := dk_133 (dk_at dksX6_get_0 16 rfl rfl)
theorem dX6_get_17 : decode cX6_get 17 = .ok (.goto 54, 3) := dk_167 0 54 (dk_at dksX6_get_0 17 rfl rfl)
theorem dX6_get_20 : decode cX6_get 20 = .ok (.aload_n 0, 1) := dk_42 (dk_at dksX6_get_0 20 rfl rfl)
theorem dX6_get_21 : decode cX6_get 21 = .ok (.getfield 13, 3) := dk_180 0 13 (dk_at dksX6_get_0 21 rfl rfl)
theorem dX6_get_24 : decode cX6_get 24 = .ok (.iconst 1, 1) := dk_4 (dk_at dksX6_get_1 0 rfl rfl)
theorem dX6_get_25 : decode cX6_get 25 = .ok (.if_icmp .ne 16, 3) := dk_160 0 16 (dk_at dksX6_get_1 1 rfl rfl)
theorem dX6_get_28 : decode cX6_get 28 = .ok (.aload_n 0, 1) := dk_42 (dk_at dksX6_get_1 4 rfl rfl)
theorem dX6_get_29 : decode cX6_get 29 = .ok (.getfield 7, 3) := dk_180 0 7 (dk_at dksX6_get_1 5 rfl rfl)
theorem dX6_get_32 : decode cX6_get 32 = .ok (.checkcast 19, 3) := dk_192 0 19 (dk_at dksX6_get_1 8 rfl rfl)
theorem dX6_get_35 : decode cX6_get 35 = .ok (.iload_n 1, 1) := dk_27 (dk_at dksX6_get_1 11 rfl rfl)
theorem dX6_get_36 : decode cX6_get 36 = .ok (.saload, 1) := dk_53 (dk_at dksX6_get_1 12 rfl rfl)
theorem dX6_get_37 : decode cX6_get 37 = .ok (.i2l, 1) := dk_133 (dk_at dksX6_get_1 13 rfl rfl)
theorem dX6_get_38 : decode cX6_get 38 = .ok (.goto 33, 3) := dk_167 0 33 (dk_at dksX6_get_1 14 rfl rfl)
theorem dX6_get_41 : decode cX6_get 41 = .ok (.aload_n 0, 1) := dk_42 (dk_at dksX6_get_1 17 rfl rfl)
theorem dX6_get_42 : decode cX6_get 42 = .ok (.getfield 13, 3) := dk_180 0 13 (dk_at dksX6_get_1 18 rfl rfl)
theorem dX6_get_45 : decode cX6_get 45 = .ok (.iconst 2, 1) := dk_5 (dk_at dksX6_get_1 21 rfl rfl)
theorem dX6_get_46 : decode cX6_get 46 = .ok (.if_icmp .ne 16, 3) := dk_160 0 16 (dk_at dksX6_get_2 0 rfl rfl)
theorem dX6_get_49 : decode cX6_get 49 = .ok (.aload_n 0, 1) := dk_42 (dk_at dksX6_get_2 3 rfl rfl)
theorem dX6_get_50 : decode cX6_get 50 = .ok (.getfield 7, 3) := dk_180 0 7 (dk_at dksX6_get_2 4 rfl rfl)
theorem dX6_get_53 : decode cX6_get 53 = .ok (.checkcast 21, 3) := dk_192 0 21 (dk_at dksX6_get_2 7 rfl rfl)
theorem dX6_get_56 : decode cX6_get 56 = .ok (.iload_n 1, 1) := dk_27 (dk_at dksX6_get_2 10 rfl rfl)
theorem dX6_get_57 : decode cX6_get 57 = .ok (.iaload, 1) := dk_46 (dk_at dksX6_get_2 11 rfl rfl)
theorem dX6_get_58 : decode cX6_get 58 = .ok (.i2l, 1) := dk_133 (dk_at dksX6_get_2 12 rfl rfl)
theorem dX6_get_59 : decode cX6_get 59 = .ok (.goto 12, 3) := dk_167 0 12 (dk_at dksX6_get_2 13 rfl rfl)
theorem dX6_get_62 : decode cX6_get 62 = .ok (.aload_n 0, 1) := dk_42 (dk_at dksX6_get_2 16 rfl rfl)
theorem dX6_get_63 : decode cX6_get 63 = .ok (.getfield 7, 3) := dk_180 0 7 (dk_at dksX6_get_2 17 rfl rfl)
theorem dX6_get_66 : decode cX6_get 66 = .ok (.checkcast 23, 3) := dk_192 0 23 (dk_at dksX6_get_2 20 rfl rfl)
theorem dX6_get_69 : decode cX6_get 69 = .ok (.iload_n 1, 1) := dk_27 (dk_at dksX6_get_2 23 rfl rfl)
theorem dX6_get_70 : decode cX6_get 70 = .ok (.laload, 1) := dk_47 (dk_at dksX6_get_3 0 rfl rfl)
theorem dX6_get_71 : decode cX6_get 71 = .ok (.lreturn, 1) := dk_173 (dk_at dksX6_get_3 1 rfl rfl)
abbrev cX6_many : ByteArray := prog_7_method_3_code
def dkwX6_many_2 : List UInt8 := [180, 0, 7, 192, 0, 21, 190, 167, 0, 11, 42, 180, 0, 7, 192, 0, 23, 190, 172]
abbrev dktX6_many_2 : List UInt8 := dkwX6_many_2 ++ []
def dkwX6_many_1 : List UInt8 := [160, 0, 14, 42, 180, 0, 7, 192, 0, 19, 190, 167, 0, 30, 42, 180, 0, 13, 5, 160, 0, 14, 42]
abbrev dktX6_many_1 : List UInt8 := dkwX6_many_1 ++ dktX6_many_2
def dkwX6_many_0 : List UInt8 := [42, 180, 0, 13, 154, 0, 14, 42, 180, 0, 7, 192, 0, 17, 190, 167, 0, 49, 42, 180, 0, 13, 4]
abbrev dktX6_many_0 : List UInt8 := dkwX6_many_0 ++ dktX6_many_1
theorem dksX6_many_0 : cX6_many.data.toList.drop 0 = dktX6_many_0 := by decide +kernel
theorem dksX6_many_1 : cX6_many.data.toList.drop 23 = dktX6_many_1 := dk_seg dksX6_many_0 23 rfl rfl
theorem dksX6_many_2 : cX6_many.data.toList.drop 46 = dktX6_many_2 := dk_seg dksX6_many_1 23 rfl rfl
theorem dX6_many_0 : decode cX6_many 0 = .ok (.aload_n 0, 1) := dk_42 (dk_at dksX6_many_0 0 rfl rfl)
theorem dX6_many_1 : decode cX6_many 1 = .ok (.getfield 13, 3) := dk_180 0 13 (dk_at dksX6_many_0 1 rfl rfl)
theorem dX6_many_4 : decode cX6_many 4 = .ok (.ifCond .ne 14, 3) := dk_154 0 14 (dk_at dksX6_many_0 4 rfl rfl)
theorem dX6_many_7 : decode cX6_many 7 = .ok (.aload_n 0, 1) := dk_42 (dk_at dksX6_many_0 7 rfl rfl)
theorem dX6_many_8 : decode cX6_many 8 = .ok (.getfield 7, 3) := dk_180 0 7 (dk_at dksX6_many_0 8 rfl rfl)
theorem dX6_many_11 : decode cX6_many 11 = .ok (.checkcast 17, 3) := dk_192 0 17 (dk_at dksX6_many_0 11 rfl rfl)
theorem dX6_many_14 : decode cX6_many 14 = .ok (.arraylength, 1) := dk_190 (dk_at dksX6_many_0 14 rfl rfl)
theorem dX6_many_15 : decode cX6_many 15 = .ok (.goto 49, 3) := dk_167 0 49 (dk_at dksX6_many_0 15 rfl rfl)
theorem dX6_many_18 : decode cX6_many 18 = .ok (.aload_n 0, 1) := dk_42 (dk_at dksX6_many_0 18 rfl rfl)
theorem dX6_many_19 : decode cX6_many 19 = .ok (.getfield 13, 3) := dk_180 0 13 (dk_at dksX6_many_0 19 rfl rfl)
theorem dX6_many_22 : decode cX6_many 22 = .ok (.iconst 1, 1) := dk_4 (dk_at dksX6_many_0 22 rfl rfl)
theorem dX6_many_23 : decode cX6_many 23 = .ok (.if_icmp .ne 14, 3) := dk_160 0 14 (dk_at dksX6_many_1 0 rfl rfl)
theorem dX6_many_26 : decode cX6_many 26 = .ok (.aload_n 0, 1) := dk_42 (dk_at dksX6_many_1 3 rfl rfl)
theorem dX6_many_27 : decode cX6_many 27 = .ok (.getfield 7, 3) := dk_180 0 7 (dk_at dksX6_many_1 4 rfl rfl)
theorem dX6_many_30 : decode cX6_many 30 = .ok (.checkcast 19, 3) := dk_192 0 19 (dk_at dksX6_many_1 7 rfl rfl)
theorem dX6_many_33 : decode cX6_many 33 = .ok (.arraylength, 1) := dk_190 (dk_at dksX6_many_1 10 rfl rfl)
theorem dX6_many_34 : decode cX6_many 34 = .ok (.goto 30, 3) := dk_167 0 30 (dk_at dksX6_many_1 11 rfl rfl)
theorem dX6_many_37 : decode cX6_many 37 = .ok (.aload_n 0, 1) := dk_42 (dk_at dksX6_many_1 14 rfl rfl)
theorem dX6_many_38 : decode cX6_many 38 = .ok (.getfield 13, 3) := dk_180 0 13 (dk_at dksX6_many_1 15 rfl rfl)
theorem dX6_many_41 : decode cX6_many 41 = .ok (.iconst 2, 1) := dk_5 (dk_at dksX6_many_1 18 rfl rfl)
theorem dX6_many_42 : decode cX6_many 42 = .ok (.if_icmp .ne 14, 3) := dk_160 0 14 (dk_at dksX6_many_1 19 rfl rfl)
theorem dX6_many_45 : decode cX6_many 45 = .ok (.aload_n 0, 1) := dk_42 (dk_at dksX6_many_1 22 rfl rfl)
theorem dX6_many_46 : decode cX6_many 46 = .ok (.getfield 7, 3) := dk_180 0 7 (dk_at dksX6_many_2 0 rfl rfl)
theorem dX6_many_49 : decode cX6_many 49 = .ok (.checkcast 21, 3) := dk_192 0 21 (dk_at dksX6_many_2 3 rfl rfl)
theorem dX6_many_52 : decode cX6_many 52 = .ok (.arraylength, 1) := dk_190 (dk_at dksX6_many_2 6 rfl rfl)
theorem dX6_many_53 : decode cX6_many 53 = .ok (.goto 11, 3) := dk_167 0 11 (dk_at dksX6_many_2 7 rfl rfl)
theorem dX6_many_56 : decode cX6_many 56 = .ok (.aload_n 0, 1) := dk_42 (dk_at dksX6_many_2 10 rfl rfl)
theorem dX6_many_57 : decode cX6_many 57 = .ok (.getfield 7, 3) := dk_180 0 7 (dk_at dksX6_many_2 11 rfl rfl)
theorem dX6_many_60 : decode cX6_many 60 = .ok (.checkcast 23, 3) := dk_192 0 23 (dk_at dksX6_many_2 14 rfl rfl)
theorem dX6_many_63 : decode cX6_many 63 = .ok (.arraylength, 1) := dk_190 (dk_at dksX6_many_2 17 rfl rfl)
theorem dX6_many_64 : decode cX6_many 64 = .ok (.ireturn, 1) := dk_172 (dk_at dksX6_many_2 18 rfl rfl)
/-! code rows: X7 (rows of claim/names) -/
set_option maxRecDepth 100000
abbrev cX7_init : ByteArray := prog_2_method_1_code
def dkwX7_init_2 : List UInt8 := [183, 0, 11, 83, 132, 1, 1, 167, 255, 235, 177]
abbrev dktX7_init_2 : List UInt8 := dkwX7_init_2 ++ []
def dkwX7_init_1 : List UInt8 := [7, 188, 4, 181, 0, 22, 3, 60, 27, 7, 162, 0, 22, 42, 180, 0, 18, 27, 187, 0, 9, 89]
abbrev dktX7_init_1 : List UInt8 := dkwX7_init_1 ++ dktX7_init_2
def dkwX7_init_0 : List UInt8 := [42, 183, 0, 3, 42, 187, 0, 9, 89, 183, 0, 11, 181, 0, 12, 42, 7, 189, 0, 9, 181, 0, 18, 42]
abbrev dktX7_init_0 : List UInt8 := dkwX7_init_0 ++ dktX7_init_1
theorem dksX7_init_0 : cX7_init.data.toList.drop 0 = dktX7_init_0 := by decide +kernel
theorem dksX7_init_1 : cX7_init.data.toList.drop 24 = dktX7_init_1 := dk_seg dksX7_init_0 24 rfl rfl
theorem dksX7_init_2 : cX7_init.data.toList.drop 46 = dktX7_init_2 := dk_seg dksX7_init_1 22 rfl rfl
theorem dX7_init_0 : decode cX7_init 0 = .ok (.aload_n 0, 1) := dk_42 (dk_at dksX7_init_0 0 rfl rfl)
theorem dX7_init_1 : decode cX7_init 1 = .ok (.invokespecial 3, 3) := dk_183 0 3 (dk_at dksX7_init_0 1 rfl rfl)
theorem dX7_init_4 : decode cX7_init 4 = .ok (.aload_n 0, 1) := dk_42 (dk_at dksX7_init_0 4 rfl rfl)
theorem dX7_init_5 : decode cX7_init 5 = .ok (.new 9, 3) := dk_187 0 9 (dk_at dksX7_init_0 5 rfl rfl)
theorem dX7_init_8 : decode cX7_init 8 = .ok (.dup, 1) := dk_89 (dk_at dksX7_init_0 8 rfl rfl)
theorem dX7_init_9 : decode cX7_init 9 = .ok (.invokespecial 11, 3) := dk_183 0 11 (dk_at dksX7_init_0 9 rfl rfl)
theorem dX7_init_12 : decode cX7_init 12 = .ok (.putfield 12, 3) := dk_181 0 12 (dk_at dksX7_init_0 12 rfl rfl)
theorem dX7_init_15 : decode cX7_init 15 = .ok (.aload_n 0, 1) := dk_42 (dk_at dksX7_init_0 15 rfl rfl)
theorem dX7_init_16 : decode cX7_init 16 = .ok (.iconst 4, 1) := dk_7 (dk_at dksX7_init_0 16 rfl rfl)
theorem dX7_init_17 : decode cX7_init 17 = .ok (.anewarray 9, 3) := dk_189 0 9 (dk_at dksX7_init_0 17 rfl rfl)
theorem dX7_init_20 : decode cX7_init 20 = .ok (.putfield 18, 3) := dk_181 0 18 (dk_at dksX7_init_0 20 rfl rfl)
theorem dX7_init_23 : decode cX7_init 23 = .ok (.aload_n 0, 1) := dk_42 (dk_at dksX7_init_0 23 rfl rfl)
theorem dX7_init_24 : decode cX7_init 24 = .ok (.iconst 4, 1) := dk_7 (dk_at dksX7_init_1 0 rfl rfl)
theorem dX7_init_25 : decode cX7_init 25 = .ok (.newarray .boolean, 2) := dk_188_4 (dk_at dksX7_init_1 1 rfl rfl)
theorem dX7_init_27 : decode cX7_init 27 = .ok (.putfield 22, 3) := dk_181 0 22 (dk_at dksX7_init_1 3 rfl rfl)
theorem dX7_init_30 : decode cX7_init 30 = .ok (.iconst 0, 1) := dk_3 (dk_at dksX7_init_1 6 rfl rfl)
theorem dX7_init_31 : decode cX7_init 31 = .ok (.istore_n 1, 1) := dk_60 (dk_at dksX7_init_1 7 rfl rfl)
theorem dX7_init_32 : decode cX7_init 32 = .ok (.iload_n 1, 1) := dk_27 (dk_at dksX7_init_1 8 rfl rfl)
theorem dX7_init_33 : decode cX7_init 33 = .ok (.iconst 4, 1) := dk_7 (dk_at dksX7_init_1 9 rfl rfl)
theorem dX7_init_34 : decode cX7_init 34 = .ok (.if_icmp .ge 22, 3) := dk_162 0 22 (dk_at dksX7_init_1 10 rfl rfl)
theorem dX7_init_37 : decode cX7_init 37 = .ok (.aload_n 0, 1) := dk_42 (dk_at dksX7_init_1 13 rfl rfl)
theorem dX7_init_38 : decode cX7_init 38 = .ok (.getfield 18, 3) := dk_180 0 18 (dk_at dksX7_init_1 14 rfl rfl)
theorem dX7_init_41 : decode cX7_init 41 = .ok (.iload_n 1, 1) := dk_27 (dk_at dksX7_init_1 17 rfl rfl)
theorem dX7_init_42 : decode cX7_init 42 = .ok (.new 9, 3) := dk_187 0 9 (dk_at dksX7_init_1 18 rfl rfl)
theorem dX7_init_45 : decode cX7_init 45 = .ok (.dup, 1) := dk_89 (dk_at dksX7_init_1 21 rfl rfl)
theorem dX7_init_46 : decode cX7_init 46 = .ok (.invokespecial 11, 3) := dk_183 0 11 (dk_at dksX7_init_2 0 rfl rfl)
theorem dX7_init_49 : decode cX7_init 49 = .ok (.aastore, 1) := dk_83 (dk_at dksX7_init_2 3 rfl rfl)
theorem dX7_init_50 : decode cX7_init 50 = .ok (.iinc 1 1, 3) := dk_132 1 1 (dk_at dksX7_init_2 4 rfl rfl)
theorem dX7_init_53 : decode cX7_init 53 = .ok (.goto (-21), 3) := dk_167 255 235 (dk_at dksX7_init_2 7 rfl rfl)
theorem dX7_init_56 : decode cX7_init 56 = .ok (.return_, 1) := dk_177 (dk_at dksX7_init_2 10 rfl rfl)
/-! code rows: X9 (rows of claim/names) -/
set_option maxRecDepth 100000
abbrev cX9_init : ByteArray := prog_6_method_1_code
def dkwX9_init_0 : List UInt8 := [42, 183, 0, 1, 42, 27, 181, 0, 7, 177]
abbrev dktX9_init_0 : List UInt8 := dkwX9_init_0 ++ []
theorem dksX9_init_0 : cX9_init.data.toList.drop 0 = dktX9_init_0 := by decide +kernel
theorem dX9_init_0 : decode cX9_init 0 = .ok (.aload_n 0, 1) := dk_42 (dk_at dksX9_init_0 0 rfl rfl)
theorem dX9_init_1 : decode cX9_init 1 = .ok (.invokespecial 1, 3) := dk_183 0 1 (dk_at dksX9_init_0 1 rfl rfl)
theorem dX9_init_4 : decode cX9_init 4 = .ok (.aload_n 0, 1) := dk_42 (dk_at dksX9_init_0 4 rfl rfl)
theorem dX9_init_5 : decode cX9_init 5 = .ok (.iload_n 1, 1) := dk_27 (dk_at dksX9_init_0 5 rfl rfl)
theorem dX9_init_6 : decode cX9_init 6 = .ok (.putfield 7, 3) := dk_181 0 7 (dk_at dksX9_init_0 6 rfl rfl)
theorem dX9_init_9 : decode cX9_init 9 = .ok (.return_, 1) := dk_177 (dk_at dksX9_init_0 9 rfl rfl)
/-! code rows: J0 (rows of claim/names) -/
set_option maxRecDepth 100000
abbrev cJ0_init : ByteArray := prog_24_method_1_code
def dkwJ0_init_1 : List UInt8 := [182, 0, 27, 87, 177]
abbrev dktJ0_init_1 : List UInt8 := dkwJ0_init_1 ++ []
def dkwJ0_init_0 : List UInt8 := [42, 183, 0, 1, 42, 42, 181, 0, 7, 42, 178, 0, 13, 181, 0, 17, 42, 178, 0, 20, 181, 0, 24, 42]
abbrev dktJ0_init_0 : List UInt8 := dkwJ0_init_0 ++ dktJ0_init_1
theorem dksJ0_init_0 : cJ0_init.data.toList.drop 0 = dktJ0_init_0 := by decide +kernel
theorem dksJ0_init_1 : cJ0_init.data.toList.drop 24 = dktJ0_init_1 := dk_seg dksJ0_init_0 24 rfl rfl
theorem dJ0_init_0 : decode cJ0_init 0 = .ok (.aload_n 0, 1) := dk_42 (dk_at dksJ0_init_0 0 rfl rfl)
theorem dJ0_init_1 : decode cJ0_init 1 = .ok (.invokespecial 1, 3) := dk_183 0 1 (dk_at dksJ0_init_0 1 rfl rfl)
theorem dJ0_init_4 : decode cJ0_init 4 = .ok (.aload_n 0, 1) := dk_42 (dk_at dksJ0_init_0 4 rfl rfl)
theorem dJ0_init_5 : decode cJ0_init 5 = .ok (.aload_n 0, 1) := dk_42 (dk_at dksJ0_init_0 5 rfl rfl)
theorem dJ0_init_6 : decode cJ0_init 6 = .ok (.putfield 7, 3) := dk_181 0 7 (dk_at dksJ0_init_0 6 rfl rfl)
theorem dJ0_init_9 : decode cJ0_init 9 = .ok (.aload_n 0, 1) := dk_42 (dk_at dksJ0_init_0 9 rfl rfl)
theorem dJ0_init_10 : decode cJ0_init 10 = .ok (.getstatic 13, 3) := dk_178 0 13 (dk_at dksJ0_init_0 10 rfl rfl)
theorem dJ0_init_13 : decode cJ0_init 13 = .ok (.putfield 17, 3) := dk_181 0 17 (dk_at dksJ0_init_0 13 rfl rfl)
theorem dJ0_init_16 : decode cJ0_init 16 = .ok (.aload_n 0, 1) := dk_42 (dk_at dksJ0_init_0 16 rfl rfl)
theorem dJ0_init_17 : decode cJ0_init 17 = .ok (.getstatic 20, 3) := dk_178 0 20 (dk_at dksJ0_init_0 17 rfl rfl)
theorem dJ0_init_20 : decode cJ0_init 20 = .ok (.putfield 24, 3) := dk_181 0 24 (dk_at dksJ0_init_0 20 rfl rfl)
theorem dJ0_init_23 : decode cJ0_init 23 = .ok (.aload_n 0, 1) := dk_42 (dk_at dksJ0_init_0 23 rfl rfl)
theorem dJ0_init_24 : decode cJ0_init 24 = .ok (.invokevirtual 27, 3) := dk_182 0 27 (dk_at dksJ0_init_1 0 rfl rfl)
theorem dJ0_init_27 : decode cJ0_init 27 = .ok (.pop, 1) := dk_87 (dk_at dksJ0_init_1 3 rfl rfl)
theorem dJ0_init_28 : decode cJ0_init 28 = .ok (.return_, 1) := dk_177 (dk_at dksJ0_init_1 4 rfl rfl)
abbrev cJ0_init_2 : ByteArray := prog_24_method_5_code
def dkwJ0_init_2_2 : List UInt8 := [44, 181, 0, 7, 29, 154, 0, 8, 42, 1, 181, 0, 24, 177]
abbrev dktJ0_init_2_2 : List UInt8 := dkwJ0_init_2_2 ++ []
def dkwJ0_init_2_1 : List UInt8 := [21, 4, 153, 0, 11, 42, 182, 0, 27, 87, 167, 0, 8, 42, 1, 181, 0, 17, 42, 43, 181, 0, 31, 42]
abbrev dktJ0_init_2_1 : List UInt8 := dkwJ0_init_2_1 ++ dktJ0_init_2_2
def dkwJ0_init_2_0 : List UInt8 := [42, 183, 0, 1, 42, 42, 181, 0, 7, 42, 178, 0, 13, 181, 0, 17, 42, 178, 0, 20, 181, 0, 24]
abbrev dktJ0_init_2_0 : List UInt8 := dkwJ0_init_2_0 ++ dktJ0_init_2_1
theorem dksJ0_init_2_0 : cJ0_init_2.data.toList.drop 0 = dktJ0_init_2_0 := by decide +kernel
theorem dksJ0_init_2_1 : cJ0_init_2.data.toList.drop 23 = dktJ0_init_2_1 := dk_seg dksJ0_init_2_0 23 rfl rfl
theorem dksJ0_init_2_2 : cJ0_init_2.data.toList.drop 47 = dktJ0_init_2_2 := dk_seg dksJ0_init_2_1 24 rfl rfl
theorem dJ0_init_2_0 : decode cJ0_init_2 0 = .ok (.aload_n 0, 1) := dk_42 (dk_at dksJ0_init_2_0 0 rfl rfl)
theorem dJ0_init_2_1 : decode cJ0_init_2 1 = .ok (.invokespecial 1, 3) := dk_183 0 1 (dk_at dksJ0_init_2_0 1 rfl rfl)
theorem dJ0_init_2_4 : decode cJ0_init_2 4 = .ok (.aload_n 0, 1) := dk_42 (dk_at dksJ0_init_2_0 4 rfl rfl)
theorem dJ0_init_2_5 : decode cJ0_init_2 5 = .ok (.aload_n 0, 1) := dk_42 (dk_at dksJ0_init_2_0 5 rfl rfl)
theorem dJ0_init_2_6 : decode cJ0_init_2 6 = .ok (.putfield 7, 3) := dk_181 0 7 (dk_at dksJ0_init_2_0 6 rfl rfl)
theorem dJ0_init_2_9 : decode cJ0_init_2 9 = .ok (.aload_n 0, 1) := dk_42 (dk_at dksJ0_init_2_0 9 rfl rfl)
theorem dJ0_init_2_10 : decode cJ0_init_2 10 = .ok (.getstatic 13, 3) := dk_178 0 13 (dk_at dksJ0_init_2_0 10 rfl rfl)
theorem dJ0_init_2_13 : decode cJ0_init_2 13 = .ok (.putfield 17, 3) := dk_181 0 17 (dk_at dksJ0_init_2_0 13 rfl rfl)
theorem dJ0_init_2_16 : decode cJ0_init_2 16 = .ok (.aload_n 0, 1) := dk_42 (dk_at dksJ0_init_2_0 16 rfl rfl)
theorem dJ0_init_2_17 : decode cJ0_init_2 17 = .ok (.getstatic 20, 3) := dk_178 0 20 (dk_at dksJ0_init_2_0 17 rfl rfl)
theorem dJ0_init_2_20 : decode cJ0_init_2 20 = .ok (.putfield 24, 3) := dk_181 0 24 (dk_at dksJ0_init_2_0 20 rfl rfl)
theorem dJ0_init_2_23 : decode cJ0_init_2 23 = .ok (.iload 4, 2) := dk_21 4 (dk_at dksJ0_init_2_1 0 rfl rfl)
theorem dJ0_init_2_25 : decode cJ0_init_2 25 = .ok (.ifCond .eq 11, 3) := dk_153 0 11 (dk_at dksJ0_init_2_1 2 rfl rfl)
theorem dJ0_init_2_28 : decode cJ0_init_2 28 = .ok (.aload_n 0, 1) := dk_42 (dk_at dksJ0_init_2_1 5 rfl rfl)
theorem dJ0_init_2_29 : decode cJ0_init_2 29 = .ok (.invokevirtual 27, 3) := dk_182 0 27 (dk_at dksJ0_init_2_1 6 rfl rfl)
theorem dJ0_init_2_32 : decode cJ0_init_2 32 = .ok (.pop, 1) := dk_87 (dk_at dksJ0_init_2_1 9 rfl rfl)
theorem dJ0_init_2_33 : decode cJ0_init_2 33 = .ok (.goto 8, 3) := dk_167 0 8 (dk_at dksJ0_init_2_1 10 rfl rfl)
theorem dJ0_init_2_36 : decode cJ0_init_2 36 = .ok (.aload_n 0, 1) := dk_42 (dk_at dksJ0_init_2_1 13 rfl rfl)
theorem dJ0_init_2_37 : decode cJ0_init_2 37 = .ok (.aconst_null, 1) := dk_1 (dk_at dksJ0_init_2_1 14 rfl rfl)
theorem dJ0_init_2_38 : decode cJ0_init_2 38 = .ok (.putfield 17, 3) := dk_181 0 17 (dk_at dksJ0_init_2_1 15 rfl rfl)
theorem dJ0_init_2_41 : decode cJ0_init_2 41 = .ok (.aload_n 0, 1) := dk_42 (dk_at dksJ0_init_2_1 18 rfl rfl)
theorem dJ0_init_2_42 : decode cJ0_init_2 42 = .ok (.aload_n 1, 1) := dk_43 (dk_at dksJ0_init_2_1 19 rfl rfl)
theorem dJ0_init_2_43 : decode cJ0_init_2 43 = .ok (.putfield 31, 3) := dk_181 0 31 (dk_at dksJ0_init_2_1 20 rfl rfl)
theorem dJ0_init_2_46 : decode cJ0_init_2 46 = .ok (.aload_n 0, 1) := dk_42 (dk_at dksJ0_init_2_1 23 rfl rfl)
theorem dJ0_init_2_47 : decode cJ0_init_2 47 = .ok (.aload_n 2, 1) := dk_44 (dk_at dksJ0_init_2_2 0 rfl rfl)
theorem dJ0_init_2_48 : decode cJ0_init_2 48 = .ok (.putfield 7, 3) := dk_181 0 7 (dk_at dksJ0_init_2_2 1 rfl rfl)
theorem dJ0_init_2_51 : decode cJ0_init_2 51 = .ok (.iload_n 3, 1) := dk_29 (dk_at dksJ0_init_2_2 4 rfl rfl)
theorem dJ0_init_2_52 : decode cJ0_init_2 52 = .ok (.ifCond .ne 8, 3) := dk_154 0 8 (dk_at dksJ0_init_2_2 5 rfl rfl)
theorem dJ0_init_2_55 : decode cJ0_init_2 55 = .ok (.aload_n 0, 1) := dk_42 (dk_at dksJ0_init_2_2 8 rfl rfl)
theorem dJ0_init_2_56 : decode cJ0_init_2 56 = .ok (.aconst_null, 1) := dk_1 (dk_at dksJ0_init_2_2 9 rfl rfl)
theorem dJ0_init_2_57 : decode cJ0_init_2 57 = .ok (.putfield 24, 3) := dk_181 0 24 (dk_at dksJ0_init_2_2 10 rfl rfl)
theorem dJ0_init_2_60 : decode cJ0_init_2 60 = .ok (.return_, 1) := dk_177 (dk_at dksJ0_init_2_2 13 rfl rfl)
abbrev cJ0_init_3 : ByteArray := prog_24_method_2_code
def dkwJ0_init_3_1 : List UInt8 := [182, 0, 27, 87, 42, 43, 181, 0, 31, 177]
abbrev dktJ0_init_3_1 : List UInt8 := dkwJ0_init_3_1 ++ []
def dkwJ0_init_3_0 : List UInt8 := [42, 183, 0, 1, 42, 42, 181, 0, 7, 42, 178, 0, 13, 181, 0, 17, 42, 178, 0, 20, 181, 0, 24, 42]
abbrev dktJ0_init_3_0 : List UInt8 := dkwJ0_init_3_0 ++ dktJ0_init_3_1
theorem dksJ0_init_3_0 : cJ0_init_3.data.toList.drop 0 = dktJ0_init_3_0 := by decide +kernel
theorem dksJ0_init_3_1 : cJ0_init_3.data.toList.drop 24 = dktJ0_init_3_1 := dk_seg dksJ0_init_3_0 24 rfl rfl
theorem dJ0_init_3_0 : decode cJ0_init_3 0 = .ok (.aload_n 0, 1) := dk_42 (dk_at dksJ0_init_3_0 0 rfl rfl)
theorem dJ0_init_3_1 : decode cJ0_init_3 1 = .ok (.invokespecial 1, 3) := dk_183 0 1 (dk_at dksJ0_init_3_0 1 rfl rfl)
theorem dJ0_init_3_4 : decode cJ0_init_3 4 = .ok (.aload_n 0, 1) := dk_42 (dk_at dksJ0_init_3_0 4 rfl rfl)
theorem dJ0_init_3_5 : decode cJ0_init_3 5 = .ok (.aload_n 0, 1) := dk_42 (dk_at dksJ0_init_3_0 5 rfl rfl)
theorem dJ0_init_3_6 : decode cJ0_init_3 6 = .ok (.putfield 7, 3) := dk_181 0 7 (dk_at dksJ0_init_3_0 6 rfl rfl)
theorem dJ0_init_3_9 : decode cJ0_init_3 9 = .ok (.aload_n 0, 1) := dk_42 (dk_at dksJ0_init_3_0 9 rfl rfl)
theorem dJ0_init_3_10 : decode cJ0_init_3 10 = .ok (.getstatic 13, 3) := dk_178 0 13 (dk_at dksJ0_init_3_0 10 rfl rfl)
theorem dJ0_init_3_13 : decode cJ0_init_3 13 = .ok (.putfield 17, 3) := dk_181 0 17 (dk_at dksJ0_init_3_0 13 rfl rfl)
theorem dJ0_init_3_16 : decode cJ0_init_3 16 = .ok (.aload_n 0, 1) := dk_42 (dk_at dksJ0_init_3_0 16 rfl rfl)
theorem dJ0_init_3_17 : decode cJ0_init_3 17 = .ok (.getstatic 20, 3) := dk_178 0 20 (dk_at dksJ0_init_3_0 17 rfl rfl)
theorem dJ0_init_3_20 : decode cJ0_init_3 20 = .ok (.putfield 24, 3) := dk_181 0 24 (dk_at dksJ0_init_3_0 20 rfl rfl)
theorem dJ0_init_3_23 : decode cJ0_init_3 23 = .ok (.aload_n 0, 1) := dk_42 (dk_at dksJ0_init_3_0 23 rfl rfl)
theorem dJ0_init_3_24 : decode cJ0_init_3 24 = .ok (.invokevirtual 27, 3) := dk_182 0 27 (dk_at dksJ0_init_3_1 0 rfl rfl)
theorem dJ0_init_3_27 : decode cJ0_init_3 27 = .ok (.pop, 1) := dk_87 (dk_at dksJ0_init_3_1 3 rfl rfl)
theorem dJ0_init_3_28 : decode cJ0_init_3 28 = .ok (.aload_n 0, 1) := dk_42 (dk_at dksJ0_init_3_1 4 rfl rfl)
theorem dJ0_init_3_29 : decode cJ0_init_3 29 = .ok (.aload_n 1, 1) := dk_43 (dk_at dksJ0_init_3_1 5 rfl rfl)
theorem dJ0_init_3_30 : decode cJ0_init_3 30 = .ok (.putfield 31, 3) := dk_181 0 31 (dk_at dksJ0_init_3_1 6 rfl rfl)
theorem dJ0_init_3_33 : decode cJ0_init_3 33 = .ok (.return_, 1) := dk_177 (dk_at dksJ0_init_3_1 9 rfl rfl)
/-! code rows: J1 (rows of claim/names) -/
set_option maxRecDepth 100000
abbrev cJ1_init : ByteArray := prog_13_method_5_code
def dkwJ1_init_0 : List UInt8 := [42, 43, 44, 29, 21, 4, 183, 0, 16, 177]
abbrev dktJ1_init_0 : List UInt8 := dkwJ1_init_0 ++ []
theorem dksJ1_init_0 : cJ1_init.data.toList.drop 0 = dktJ1_init_0 := by decide +kernel
theorem dJ1_init_0 : decode cJ1_init 0 = .ok (.aload_n 0, 1) := dk_42 (dk_at dksJ1_init_0 0 rfl rfl)
theorem dJ1_init_1 : decode cJ1_init 1 = .ok (.aload_n 1, 1) := dk_43 (dk_at dksJ1_init_0 1 rfl rfl)
theorem dJ1_init_2 : decode cJ1_init 2 = .ok (.aload_n 2, 1) := dk_44 (dk_at dksJ1_init_0 2 rfl rfl)
theorem dJ1_init_3 : decode cJ1_init 3 = .ok (.iload_n 3, 1) := dk_29 (dk_at dksJ1_init_0 3 rfl rfl)
theorem dJ1_init_4 : decode cJ1_init 4 = .ok (.iload 4, 2) := dk_21 4 (dk_at dksJ1_init_0 4 rfl rfl)
theorem dJ1_init_6 : decode cJ1_init 6 = .ok (.invokespecial 16, 3) := dk_183 0 16 (dk_at dksJ1_init_0 6 rfl rfl)
theorem dJ1_init_9 : decode cJ1_init 9 = .ok (.return_, 1) := dk_177 (dk_at dksJ1_init_0 9 rfl rfl)
abbrev cJ1_init_2 : ByteArray := prog_13_method_2_code
def dkwJ1_init_2_0 : List UInt8 := [42, 43, 183, 0, 7, 177]
abbrev dktJ1_init_2_0 : List UInt8 := dkwJ1_init_2_0 ++ []
theorem dksJ1_init_2_0 : cJ1_init_2.data.toList.drop 0 = dktJ1_init_2_0 := by decide +kernel
theorem dJ1_init_2_0 : decode cJ1_init_2 0 = .ok (.aload_n 0, 1) := dk_42 (dk_at dksJ1_init_2_0 0 rfl rfl)
theorem dJ1_init_2_1 : decode cJ1_init_2 1 = .ok (.aload_n 1, 1) := dk_43 (dk_at dksJ1_init_2_0 1 rfl rfl)
theorem dJ1_init_2_2 : decode cJ1_init_2 2 = .ok (.invokespecial 7, 3) := dk_183 0 7 (dk_at dksJ1_init_2_0 2 rfl rfl)
theorem dJ1_init_2_5 : decode cJ1_init_2 5 = .ok (.return_, 1) := dk_177 (dk_at dksJ1_init_2_0 5 rfl rfl)
abbrev cJ1_init_3 : ByteArray := prog_13_method_1_code
theorem dJ1_init_3_0 : decode cJ1_init_3 0 = .ok (.aload_n 0, 1) := by decide +kernel
theorem dJ1_init_3_1 : decode cJ1_init_3 1 = .ok (.invokespecial 1, 3) := by decide +kernel
theorem dJ1_init_3_4 : decode cJ1_init_3 4 = .ok (.return_, 1) := by decide +kernel
/-! code rows: J2 (rows of claim/names) -/
set_option maxRecDepth 100000
abbrev cJ2_init : ByteArray := prog_19_method_5_code
def dkwJ2_init_0 : List UInt8 := [42, 43, 44, 29, 21, 4, 183, 0, 16, 177]
abbrev dktJ2_init_0 : List UInt8 := dkwJ2_init_0 ++ []
theorem dksJ2_init_0 : cJ2_init.data.toList.drop 0 = dktJ2_init_0 := by decide +kernel
theorem dJ2_init_0 : decode cJ2_init 0 = .ok (.aload_n 0, 1) := dk_42 (dk_at dksJ2_init_0 0 rfl rfl)
theorem dJ2_init_1 : decode cJ2_init 1 = .ok (.aload_n 1, 1) := dk_43 (dk_at dksJ2_init_0 1 rfl rfl)
theorem dJ2_init_2 : decode cJ2_init 2 = .ok (.aload_n 2, 1) := dk_44 (dk_at dksJ2_init_0 2 rfl rfl)
theorem dJ2_init_3 : decode cJ2_init 3 = .ok (.iload_n 3, 1) := dk_29 (dk_at dksJ2_init_0 3 rfl rfl)
theorem dJ2_init_4 : decode cJ2_init 4 = .ok (.iload 4, 2) := dk_21 4 (dk_at dksJ2_init_0 4 rfl rfl)
theorem dJ2_init_6 : decode cJ2_init 6 = .ok (.invokespecial 16, 3) := dk_183 0 16 (dk_at dksJ2_init_0 6 rfl rfl)
theorem dJ2_init_9 : decode cJ2_init 9 = .ok (.return_, 1) := dk_177 (dk_at dksJ2_init_0 9 rfl rfl)
abbrev cJ2_init_2 : ByteArray := prog_19_method_2_code
def dkwJ2_init_2_0 : List UInt8 := [42, 43, 183, 0, 7, 177]
abbrev dktJ2_init_2_0 : List UInt8 := dkwJ2_init_2_0 ++ []
theorem dksJ2_init_2_0 : cJ2_init_2.data.toList.drop 0 = dktJ2_init_2_0 := by decide +kernel
theorem dJ2_init_2_0 : decode cJ2_init_2 0 = .ok (.aload_n 0, 1) := dk_42 (dk_at dksJ2_init_2_0 0 rfl rfl)
theorem dJ2_init_2_1 : decode cJ2_init_2 1 = .ok (.aload_n 1, 1) := dk_43 (dk_at dksJ2_init_2_0 1 rfl rfl)
theorem dJ2_init_2_2 : decode cJ2_init_2 2 = .ok (.invokespecial 7, 3) := dk_183 0 7 (dk_at dksJ2_init_2_0 2 rfl rfl)
theorem dJ2_init_2_5 : decode cJ2_init_2 5 = .ok (.return_, 1) := dk_177 (dk_at dksJ2_init_2_0 5 rfl rfl)
abbrev cJ2_init_3 : ByteArray := prog_19_method_1_code
theorem dJ2_init_3_0 : decode cJ2_init_3 0 = .ok (.aload_n 0, 1) := by decide +kernel
theorem dJ2_init_3_1 : decode cJ2_init_3 1 = .ok (.invokespecial 1, 3) := by decide +kernel
theorem dJ2_init_3_4 : decode cJ2_init_3 4 = .ok (.return_, 1) := by decide +kernel
/-! code rows: J3 (rows of claim/names) -/
set_option maxRecDepth 100000
abbrev cJ3_init : ByteArray := prog_17_method_2_code
def dkwJ3_init_0 : List UInt8 := [42, 43, 183, 0, 7, 177]
abbrev dktJ3_init_0 : List UInt8 := dkwJ3_init_0 ++ []
theorem dksJ3_init_0 : cJ3_init.data.toList.drop 0 = dktJ3_init_0 := by decide +kernel
theorem dJ3_init_0 : decode cJ3_init 0 = .ok (.aload_n 0, 1) := dk_42 (dk_at dksJ3_init_0 0 rfl rfl)
theorem dJ3_init_1 : decode cJ3_init 1 = .ok (.aload_n 1, 1) := dk_43 (dk_at dksJ3_init_0 1 rfl rfl)
theorem dJ3_init_2 : decode cJ3_init 2 = .ok (.invokespecial 7, 3) := dk_183 0 7 (dk_at dksJ3_init_0 2 rfl rfl)
theorem dJ3_init_5 : decode cJ3_init 5 = .ok (.return_, 1) := dk_177 (dk_at dksJ3_init_0 5 rfl rfl)
/-! code rows: J4 (rows of claim/names) -/
set_option maxRecDepth 100000
abbrev cJ4_length : ByteArray := prog_20_method_54_code
def dkwJ4_length_0 : List UInt8 := [42, 180, 0, 9, 190, 42, 182, 1, 79, 122, 172]
abbrev dktJ4_length_0 : List UInt8 := dkwJ4_length_0 ++ []
theorem dksJ4_length_0 : cJ4_length.data.toList.drop 0 = dktJ4_length_0 := by decide +kernel
theorem dJ4_length_0 : decode cJ4_length 0 = .ok (.aload_n 0, 1) := dk_42 (dk_at dksJ4_length_0 0 rfl rfl)
theorem dJ4_length_1 : decode cJ4_length 1 = .ok (.getfield 9, 3) := dk_180 0 9 (dk_at dksJ4_length_0 1 rfl rfl)
theorem dJ4_length_4 : decode cJ4_length 4 = .ok (.arraylength, 1) := dk_190 (dk_at dksJ4_length_0 4 rfl rfl)
theorem dJ4_length_5 : decode cJ4_length 5 = .ok (.aload_n 0, 1) := dk_42 (dk_at dksJ4_length_0 5 rfl rfl)
theorem dJ4_length_6 : decode cJ4_length 6 = .ok (.invokevirtual 335, 3) := dk_182 1 79 (dk_at dksJ4_length_0 6 rfl rfl)
theorem dJ4_length_9 : decode cJ4_length 9 = .ok (.ishr, 1) := dk_122 (dk_at dksJ4_length_0 9 rfl rfl)
theorem dJ4_length_10 : decode cJ4_length 10 = .ok (.ireturn, 1) := dk_172 (dk_at dksJ4_length_0 10 rfl rfl)
abbrev cJ4_coder : ByteArray := prog_20_method_152_code
def dkwJ4_coder_0 : List UInt8 := [178, 0, 38, 153, 0, 10, 42, 180, 0, 15, 167, 0, 4, 4, 172]
abbrev dktJ4_coder_0 : List UInt8 := dkwJ4_coder_0 ++ []
theorem dksJ4_coder_0 : cJ4_coder.data.toList.drop 0 = dktJ4_coder_0 := by decide +kernel
theorem dJ4_coder_0 : decode cJ4_coder 0 = .ok (.getstatic 38, 3) := dk_178 0 38 (dk_at dksJ4_coder_0 0 rfl rfl)
theorem dJ4_coder_3 : decode cJ4_coder 3 = .ok (.ifCond .eq 10, 3) := dk_153 0 10 (dk_at dksJ4_coder_0 3 rfl rfl)
theorem dJ4_coder_6 : decode cJ4_coder 6 = .ok (.aload_n 0, 1) := dk_42 (dk_at dksJ4_coder_0 6 rfl rfl)
theorem dJ4_coder_7 : decode cJ4_coder 7 = .ok (.getfield 15, 3) := dk_180 0 15 (dk_at dksJ4_coder_0 7 rfl rfl)
theorem dJ4_coder_10 : decode cJ4_coder 10 = .ok (.goto 4, 3) := dk_167 0 4 (dk_at dksJ4_coder_0 10 rfl rfl)
theorem dJ4_coder_13 : decode cJ4_coder 13 = .ok (.iconst 1, 1) := dk_4 (dk_at dksJ4_coder_0 13 rfl rfl)
theorem dJ4_coder_14 : decode cJ4_coder 14 = .ok (.ireturn, 1) := dk_172 (dk_at dksJ4_coder_0 14 rfl rfl)
abbrev cJ4_charAt : ByteArray := prog_20_method_56_code
def dkwJ4_charAt_1 : List UInt8 := [172]
abbrev dktJ4_charAt_1 : List UInt8 := dkwJ4_charAt_1 ++ []
def dkwJ4_charAt_0 : List UInt8 := [42, 182, 1, 236, 153, 0, 12, 42, 180, 0, 9, 27, 184, 1, 239, 172, 42, 180, 0, 9, 27, 184, 1, 242]
abbrev dktJ4_charAt_0 : List UInt8 := dkwJ4_charAt_0 ++ dktJ4_charAt_1
theorem dksJ4_charAt_0 : cJ4_charAt.data.toList.drop 0 = dktJ4_charAt_0 := by decide +kernel
theorem dksJ4_charAt_1 : cJ4_charAt.data.toList.drop 24 = dktJ4_charAt_1 := dk_seg dksJ4_charAt_0 24 rfl rfl
theorem dJ4_charAt_0 : decode cJ4_charAt 0 = .ok (.aload_n 0, 1) := dk_42 (dk_at dksJ4_charAt_0 0 rfl rfl)
theorem dJ4_charAt_1 : decode cJ4_charAt 1 = .ok (.invokevirtual 492, 3) := dk_182 1 236 (dk_at dksJ4_charAt_0 1 rfl rfl)
theorem dJ4_charAt_4 : decode cJ4_charAt 4 = .ok (.ifCond .eq 12, 3) := dk_153 0 12 (dk_at dksJ4_charAt_0 4 rfl rfl)
theorem dJ4_charAt_7 : decode cJ4_charAt 7 = .ok (.aload_n 0, 1) := dk_42 (dk_at dksJ4_charAt_0 7 rfl rfl)
theorem dJ4_charAt_8 : decode cJ4_charAt 8 = .ok (.getfield 9, 3) := dk_180 0 9 (dk_at dksJ4_charAt_0 8 rfl rfl)
theorem dJ4_charAt_11 : decode cJ4_charAt 11 = .ok (.iload_n 1, 1) := dk_27 (dk_at dksJ4_charAt_0 11 rfl rfl)
theorem dJ4_charAt_12 : decode cJ4_charAt 12 = .ok (.invokestatic 495, 3) := dk_184 1 239 (dk_at dksJ4_charAt_0 12 rfl rfl)
theorem dJ4_charAt_15 : decode cJ4_charAt 15 = .ok (.ireturn, 1) := dk_172 (dk_at dksJ4_charAt_0 15 rfl rfl)
theorem dJ4_charAt_16 : decode cJ4_charAt 16 = .ok (.aload_n 0, 1) := dk_42 (dk_at dksJ4_charAt_0 16 rfl rfl)
theorem dJ4_charAt_17 : decode cJ4_charAt 17 = .ok (.getfield 9, 3) := dk_180 0 9 (dk_at dksJ4_charAt_0 17 rfl rfl)
theorem dJ4_charAt_20 : decode cJ4_charAt 20 = .ok (.iload_n 1, 1) := dk_27 (dk_at dksJ4_charAt_0 20 rfl rfl)
theorem dJ4_charAt_21 : decode cJ4_charAt 21 = .ok (.invokestatic 498, 3) := dk_184 1 242 (dk_at dksJ4_charAt_0 21 rfl rfl)
theorem dJ4_charAt_24 : decode cJ4_charAt 24 = .ok (.ireturn, 1) := dk_172 (dk_at dksJ4_charAt_1 0 rfl rfl)
abbrev cJ4_isLatin1 : ByteArray := prog_20_method_154_code
def dkwJ4_isLatin1_0 : List UInt8 := [178, 0, 38, 153, 0, 14, 42, 180, 0, 15, 154, 0, 7, 4, 167, 0, 4, 3, 172]
abbrev dktJ4_isLatin1_0 : List UInt8 := dkwJ4_isLatin1_0 ++ []
theorem dksJ4_isLatin1_0 : cJ4_isLatin1.data.toList.drop 0 = dktJ4_isLatin1_0 := by decide +kernel
theorem dJ4_isLatin1_0 : decode cJ4_isLatin1 0 = .ok (.getstatic 38, 3) := dk_178 0 38 (dk_at dksJ4_isLatin1_0 0 rfl rfl)
theorem dJ4_isLatin1_3 : decode cJ4_isLatin1 3 = .ok (.ifCond .eq 14, 3) := dk_153 0 14 (dk_at dksJ4_isLatin1_0 3 rfl rfl)
theorem dJ4_isLatin1_6 : decode cJ4_isLatin1 6 = .ok (.aload_n 0, 1) := dk_42 (dk_at dksJ4_isLatin1_0 6 rfl rfl)
theorem dJ4_isLatin1_7 : decode cJ4_isLatin1 7 = .ok (.getfield 15, 3) := dk_180 0 15 (dk_at dksJ4_isLatin1_0 7 rfl rfl)
theorem dJ4_isLatin1_10 : decode cJ4_isLatin1 10 = .ok (.ifCond .ne 7, 3) := dk_154 0 7 (dk_at dksJ4_isLatin1_0 10 rfl rfl)
theorem dJ4_isLatin1_13 : decode cJ4_isLatin1 13 = .ok (.iconst 1, 1) := dk_4 (dk_at dksJ4_isLatin1_0 13 rfl rfl)
theorem dJ4_isLatin1_14 : decode cJ4_isLatin1 14 = .ok (.goto 4, 3) := dk_167 0 4 (dk_at dksJ4_isLatin1_0 14 rfl rfl)
theorem dJ4_isLatin1_17 : decode cJ4_isLatin1 17 = .ok (.iconst 0, 1) := dk_3 (dk_at dksJ4_isLatin1_0 17 rfl rfl)
theorem dJ4_isLatin1_18 : decode cJ4_isLatin1 18 = .ok (.ireturn, 1) := dk_172 (dk_at dksJ4_isLatin1_0 18 rfl rfl)
abbrev cJ4_checkIndex : ByteArray := prog_20_method_155_code
def dkwJ4_checkIndex_0 : List UInt8 := [26, 27, 178, 4, 29, 184, 4, 35, 87, 177]
abbrev dktJ4_checkIndex_0 : List UInt8 := dkwJ4_checkIndex_0 ++ []
theorem dksJ4_checkIndex_0 : cJ4_checkIndex.data.toList.drop 0 = dktJ4_checkIndex_0 := by decide +kernel
theorem dJ4_checkIndex_0 : decode cJ4_checkIndex 0 = .ok (.iload_n 0, 1) := dk_26 (dk_at dksJ4_checkIndex_0 0 rfl rfl)
theorem dJ4_checkIndex_1 : decode cJ4_checkIndex 1 = .ok (.iload_n 1, 1) := dk_27 (dk_at dksJ4_checkIndex_0 1 rfl rfl)
theorem dJ4_checkIndex_2 : decode cJ4_checkIndex 2 = .ok (.getstatic 1053, 3) := dk_178 4 29 (dk_at dksJ4_checkIndex_0 2 rfl rfl)
theorem dJ4_checkIndex_5 : decode cJ4_checkIndex 5 = .ok (.invokestatic 1059, 3) := dk_184 4 35 (dk_at dksJ4_checkIndex_0 5 rfl rfl)
theorem dJ4_checkIndex_8 : decode cJ4_checkIndex 8 = .ok (.pop, 1) := dk_87 (dk_at dksJ4_checkIndex_0 8 rfl rfl)
theorem dJ4_checkIndex_9 : decode cJ4_checkIndex 9 = .ok (.return_, 1) := dk_177 (dk_at dksJ4_checkIndex_0 9 rfl rfl)
/-! code rows: J5 (rows of claim/names) -/
set_option maxRecDepth 100000
abbrev cJ5_init : ByteArray := prog_18_method_1_code
theorem dJ5_init_0 : decode cJ5_init 0 = .ok (.aload_n 0, 1) := by decide +kernel
theorem dJ5_init_1 : decode cJ5_init 1 = .ok (.invokespecial 1, 3) := by decide +kernel
theorem dJ5_init_4 : decode cJ5_init 4 = .ok (.return_, 1) := by decide +kernel
/-! code rows: J6 (rows of claim/names) -/
set_option maxRecDepth 100000
abbrev cJ6_init : ByteArray := prog_14_method_2_code
def dkwJ6_init_0 : List UInt8 := [42, 43, 183, 0, 7, 177]
abbrev dktJ6_init_0 : List UInt8 := dkwJ6_init_0 ++ []
theorem dksJ6_init_0 : cJ6_init.data.toList.drop 0 = dktJ6_init_0 := by decide +kernel
theorem dJ6_init_0 : decode cJ6_init 0 = .ok (.aload_n 0, 1) := dk_42 (dk_at dksJ6_init_0 0 rfl rfl)
theorem dJ6_init_1 : decode cJ6_init 1 = .ok (.aload_n 1, 1) := dk_43 (dk_at dksJ6_init_0 1 rfl rfl)
theorem dJ6_init_2 : decode cJ6_init 2 = .ok (.invokespecial 7, 3) := dk_183 0 7 (dk_at dksJ6_init_0 2 rfl rfl)
theorem dJ6_init_5 : decode cJ6_init 5 = .ok (.return_, 1) := dk_177 (dk_at dksJ6_init_0 5 rfl rfl)
/-! code rows: J7 (rows of claim/names) -/
set_option maxRecDepth 100000
abbrev cJ7_init : ByteArray := prog_12_method_2_code
def dkwJ7_init_0 : List UInt8 := [42, 43, 183, 0, 7, 177]
abbrev dktJ7_init_0 : List UInt8 := dkwJ7_init_0 ++ []
theorem dksJ7_init_0 : cJ7_init.data.toList.drop 0 = dktJ7_init_0 := by decide +kernel
theorem dJ7_init_0 : decode cJ7_init 0 = .ok (.aload_n 0, 1) := dk_42 (dk_at dksJ7_init_0 0 rfl rfl)
theorem dJ7_init_1 : decode cJ7_init 1 = .ok (.aload_n 1, 1) := dk_43 (dk_at dksJ7_init_0 1 rfl rfl)
theorem dJ7_init_2 : decode cJ7_init 2 = .ok (.invokespecial 7, 3) := dk_183 0 7 (dk_at dksJ7_init_0 2 rfl rfl)
theorem dJ7_init_5 : decode cJ7_init 5 = .ok (.return_, 1) := dk_177 (dk_at dksJ7_init_0 5 rfl rfl)
/-! code rows: J8 (rows of claim/names) -/
set_option maxRecDepth 100000
abbrev cJ8_min : ByteArray := prog_16_method_69_code
def dkwJ8_min_0 : List UInt8 := [26, 27, 163, 0, 7, 26, 167, 0, 4, 27, 172]
abbrev dktJ8_min_0 : List UInt8 := dkwJ8_min_0 ++ []
theorem dksJ8_min_0 : cJ8_min.data.toList.drop 0 = dktJ8_min_0 := by decide +kernel
theorem dJ8_min_0 : decode cJ8_min 0 = .ok (.iload_n 0, 1) := dk_26 (dk_at dksJ8_min_0 0 rfl rfl)
theorem dJ8_min_1 : decode cJ8_min 1 = .ok (.iload_n 1, 1) := dk_27 (dk_at dksJ8_min_0 1 rfl rfl)
theorem dJ8_min_2 : decode cJ8_min 2 = .ok (.if_icmp .gt 7, 3) := dk_163 0 7 (dk_at dksJ8_min_0 2 rfl rfl)
theorem dJ8_min_5 : decode cJ8_min 5 = .ok (.iload_n 0, 1) := dk_26 (dk_at dksJ8_min_0 5 rfl rfl)
theorem dJ8_min_6 : decode cJ8_min 6 = .ok (.goto 4, 3) := dk_167 0 4 (dk_at dksJ8_min_0 6 rfl rfl)
theorem dJ8_min_9 : decode cJ8_min 9 = .ok (.iload_n 1, 1) := dk_27 (dk_at dksJ8_min_0 9 rfl rfl)
theorem dJ8_min_10 : decode cJ8_min 10 = .ok (.ireturn, 1) := dk_172 (dk_at dksJ8_min_0 10 rfl rfl)
abbrev cJ8_floorMod : ByteArray := prog_16_method_50_code
def dkwJ8_floorMod_0 : List UInt8 := [26, 27, 112, 61, 26, 27, 130, 156, 0, 11, 28, 153, 0, 7, 28, 27, 96, 172, 28, 172]
abbrev dktJ8_floorMod_0 : List UInt8 := dkwJ8_floorMod_0 ++ []
theorem dksJ8_floorMod_0 : cJ8_floorMod.data.toList.drop 0 = dktJ8_floorMod_0 := by decide +kernel
theorem dJ8_floorMod_0 : decode cJ8_floorMod 0 = .ok (.iload_n 0, 1) := dk_26 (dk_at dksJ8_floorMod_0 0 rfl rfl)
theorem dJ8_floorMod_1 : decode cJ8_floorMod 1 = .ok (.iload_n 1, 1) := dk_27 (dk_at dksJ8_floorMod_0 1 rfl rfl)
theorem dJ8_floorMod_2 : decode cJ8_floorMod 2 = .ok (.irem, 1) := dk_112 (dk_at dksJ8_floorMod_0 2 rfl rfl)
theorem dJ8_floorMod_3 : decode cJ8_floorMod 3 = .ok (.istore_n 2, 1) := dk_61 (dk_at dksJ8_floorMod_0 3 rfl rfl)
theorem dJ8_floorMod_4 : decode cJ8_floorMod 4 = .ok (.iload_n 0, 1) := dk_26 (dk_at dksJ8_floorMod_0 4 rfl rfl)
theorem dJ8_floorMod_5 : decode cJ8_floorMod 5 = .ok (.iload_n 1, 1) := dk_27 (dk_at dksJ8_floorMod_0 5 rfl rfl)
theorem dJ8_floorMod_6 : decode cJ8_floorMod 6 = .ok (.ixor, 1) := dk_130 (dk_at dksJ8_floorMod_0 6 rfl rfl)
theorem dJ8_floorMod_7 : decode cJ8_floorMod 7 = .ok (.ifCond .ge 11, 3) := dk_156 0 11 (dk_at dksJ8_floorMod_0 7 rfl rfl)
theorem dJ8_floorMod_10 : decode cJ8_floorMod 10 = .ok (.iload_n 2, 1) := dk_28 (dk_at dksJ8_floorMod_0 10 rfl rfl)
theorem dJ8_floorMod_11 : decode cJ8_floorMod 11 = .ok (.ifCond .eq 7, 3) := dk_153 0 7 (dk_at dksJ8_floorMod_0 11 rfl rfl)
theorem dJ8_floorMod_14 : decode cJ8_floorMod 14 = .ok (.iload_n 2, 1) := dk_28 (dk_at dksJ8_floorMod_0 14 rfl rfl)
theorem dJ8_floorMod_15 : decode cJ8_floorMod 15 = .ok (.iload_n 1, 1) := dk_27 (dk_at dksJ8_floorMod_0 15 rfl rfl)
theorem dJ8_floorMod_16 : decode cJ8_floorMod 16 = .ok (.iadd, 1) := dk_96 (dk_at dksJ8_floorMod_0 16 rfl rfl)
theorem dJ8_floorMod_17 : decode cJ8_floorMod 17 = .ok (.ireturn, 1) := dk_172 (dk_at dksJ8_floorMod_0 17 rfl rfl)
theorem dJ8_floorMod_18 : decode cJ8_floorMod 18 = .ok (.iload_n 2, 1) := dk_28 (dk_at dksJ8_floorMod_0 18 rfl rfl)
theorem dJ8_floorMod_19 : decode cJ8_floorMod 19 = .ok (.ireturn, 1) := dk_172 (dk_at dksJ8_floorMod_0 19 rfl rfl)
abbrev cJ8_abs : ByteArray := prog_16_method_61_code
def dkwJ8_abs_0 : List UInt8 := [30, 9, 148, 156, 0, 8, 30, 117, 167, 0, 4, 30, 173]
abbrev dktJ8_abs_0 : List UInt8 := dkwJ8_abs_0 ++ []
theorem dksJ8_abs_0 : cJ8_abs.data.toList.drop 0 = dktJ8_abs_0 := by decide +kernel
theorem dJ8_abs_0 : decode cJ8_abs 0 = .ok (.lload_n 0, 1) := dk_30 (dk_at dksJ8_abs_0 0 rfl rfl)
theorem dJ8_abs_1 : decode cJ8_abs 1 = .ok (.lconst 0, 1) := dk_9 (dk_at dksJ8_abs_0 1 rfl rfl)
theorem dJ8_abs_2 : decode cJ8_abs 2 = .ok (.lcmp, 1) := dk_148 (dk_at dksJ8_abs_0 2 rfl rfl)
theorem dJ8_abs_3 : decode cJ8_abs 3 = .ok (.ifCond .ge 8, 3) := dk_156 0 8 (dk_at dksJ8_abs_0 3 rfl rfl)
theorem dJ8_abs_6 : decode cJ8_abs 6 = .ok (.lload_n 0, 1) := dk_30 (dk_at dksJ8_abs_0 6 rfl rfl)
theorem dJ8_abs_7 : decode cJ8_abs 7 = .ok (.lneg, 1) := dk_117 (dk_at dksJ8_abs_0 7 rfl rfl)
theorem dJ8_abs_8 : decode cJ8_abs 8 = .ok (.goto 4, 3) := dk_167 0 4 (dk_at dksJ8_abs_0 8 rfl rfl)
theorem dJ8_abs_11 : decode cJ8_abs 11 = .ok (.lload_n 0, 1) := dk_30 (dk_at dksJ8_abs_0 11 rfl rfl)
theorem dJ8_abs_12 : decode cJ8_abs 12 = .ok (.lreturn, 1) := dk_173 (dk_at dksJ8_abs_0 12 rfl rfl)
/-! code rows: J9 (rows of claim/names) -/
set_option maxRecDepth 100000
abbrev cJ9_charAt : ByteArray := prog_21_method_2_code
def dkwJ9_charAt_0 : List UInt8 := [27, 42, 190, 184, 0, 9, 42, 27, 51, 17, 0, 255, 126, 146, 172]
abbrev dktJ9_charAt_0 : List UInt8 := dkwJ9_charAt_0 ++ []
theorem dksJ9_charAt_0 : cJ9_charAt.data.toList.drop 0 = dktJ9_charAt_0 := by decide +kernel
theorem dJ9_charAt_0 : decode cJ9_charAt 0 = .ok (.iload_n 1, 1) := dk_27 (dk_at dksJ9_charAt_0 0 rfl rfl)
theorem dJ9_charAt_1 : decode cJ9_charAt 1 = .ok (.aload_n 0, 1) := dk_42 (dk_at dksJ9_charAt_0 1 rfl rfl)
theorem dJ9_charAt_2 : decode cJ9_charAt 2 = .ok (.arraylength, 1) := dk_190 (dk_at dksJ9_charAt_0 2 rfl rfl)
theorem dJ9_charAt_3 : decode cJ9_charAt 3 = .ok (.invokestatic 9, 3) := dk_184 0 9 (dk_at dksJ9_charAt_0 3 rfl rfl)
theorem dJ9_charAt_6 : decode cJ9_charAt 6 = .ok (.aload_n 0, 1) := dk_42 (dk_at dksJ9_charAt_0 6 rfl rfl)
theorem dJ9_charAt_7 : decode cJ9_charAt 7 = .ok (.iload_n 1, 1) := dk_27 (dk_at dksJ9_charAt_0 7 rfl rfl)
theorem dJ9_charAt_8 : decode cJ9_charAt 8 = .ok (.baload, 1) := dk_51 (dk_at dksJ9_charAt_0 8 rfl rfl)
theorem dJ9_charAt_9 : decode cJ9_charAt 9 = .ok (.sipush 255, 3) := dk_17 0 255 (dk_at dksJ9_charAt_0 9 rfl rfl)
theorem dJ9_charAt_12 : decode cJ9_charAt 12 = .ok (.iand, 1) := dk_126 (dk_at dksJ9_charAt_0 12 rfl rfl)
theorem dJ9_charAt_13 : decode cJ9_charAt 13 = .ok (.i2c, 1) := dk_146 (dk_at dksJ9_charAt_0 13 rfl rfl)
theorem dJ9_charAt_14 : decode cJ9_charAt 14 = .ok (.ireturn, 1) := dk_172 (dk_at dksJ9_charAt_0 14 rfl rfl)
/-! code rows: J10 (rows of claim/names) -/
set_option maxRecDepth 100000
abbrev cJ10_checkIndex : ByteArray := prog_25_method_11_code
def dkwJ10_checkIndex_0 : List UInt8 := [26, 155, 0, 8, 26, 27, 161, 0, 10, 44, 26, 27, 184, 0, 95, 191, 26, 172]
abbrev dktJ10_checkIndex_0 : List UInt8 := dkwJ10_checkIndex_0 ++ []
theorem dksJ10_checkIndex_0 : cJ10_checkIndex.data.toList.drop 0 = dktJ10_checkIndex_0 := by decide +kernel
theorem dJ10_checkIndex_0 : decode cJ10_checkIndex 0 = .ok (.iload_n 0, 1) := dk_26 (dk_at dksJ10_checkIndex_0 0 rfl rfl)
theorem dJ10_checkIndex_1 : decode cJ10_checkIndex 1 = .ok (.ifCond .lt 8, 3) := dk_155 0 8 (dk_at dksJ10_checkIndex_0 1 rfl rfl)
theorem dJ10_checkIndex_4 : decode cJ10_checkIndex 4 = .ok (.iload_n 0, 1) := dk_26 (dk_at dksJ10_checkIndex_0 4 rfl rfl)
theorem dJ10_checkIndex_5 : decode cJ10_checkIndex 5 = .ok (.iload_n 1, 1) := dk_27 (dk_at dksJ10_checkIndex_0 5 rfl rfl)
theorem dJ10_checkIndex_6 : decode cJ10_checkIndex 6 = .ok (.if_icmp .lt 10, 3) := dk_161 0 10 (dk_at dksJ10_checkIndex_0 6 rfl rfl)
theorem dJ10_checkIndex_9 : decode cJ10_checkIndex 9 = .ok (.aload_n 2, 1) := dk_44 (dk_at dksJ10_checkIndex_0 9 rfl rfl)
theorem dJ10_checkIndex_10 : decode cJ10_checkIndex 10 = .ok (.iload_n 0, 1) := dk_26 (dk_at dksJ10_checkIndex_0 10 rfl rfl)
theorem dJ10_checkIndex_11 : decode cJ10_checkIndex 11 = .ok (.iload_n 1, 1) := dk_27 (dk_at dksJ10_checkIndex_0 11 rfl rfl)
theorem dJ10_checkIndex_12 : decode cJ10_checkIndex 12 = .ok (.invokestatic 95, 3) := dk_184 0 95 (dk_at dksJ10_checkIndex_0 12 rfl rfl)
theorem dJ10_checkIndex_15 : decode cJ10_checkIndex 15 = .ok (.athrow, 1) := dk_191 (dk_at dksJ10_checkIndex_0 15 rfl rfl)
theorem dJ10_checkIndex_16 : decode cJ10_checkIndex 16 = .ok (.iload_n 0, 1) := dk_26 (dk_at dksJ10_checkIndex_0 16 rfl rfl)
theorem dJ10_checkIndex_17 : decode cJ10_checkIndex 17 = .ok (.ireturn, 1) := dk_172 (dk_at dksJ10_checkIndex_0 17 rfl rfl)
/-! code rows: J11 (rows of claim/names) -/
set_option maxRecDepth 100000
abbrev cJ11_charAt : ByteArray := prog_22_method_83_code
def dkwJ11_charAt_0 : List UInt8 := [27, 42, 184, 0, 67, 42, 27, 184, 0, 71, 172]
abbrev dktJ11_charAt_0 : List UInt8 := dkwJ11_charAt_0 ++ []
theorem dksJ11_charAt_0 : cJ11_charAt.data.toList.drop 0 = dktJ11_charAt_0 := by decide +kernel
theorem dJ11_charAt_0 : decode cJ11_charAt 0 = .ok (.iload_n 1, 1) := dk_27 (dk_at dksJ11_charAt_0 0 rfl rfl)
theorem dJ11_charAt_1 : decode cJ11_charAt 1 = .ok (.aload_n 0, 1) := dk_42 (dk_at dksJ11_charAt_0 1 rfl rfl)
theorem dJ11_charAt_2 : decode cJ11_charAt 2 = .ok (.invokestatic 67, 3) := dk_184 0 67 (dk_at dksJ11_charAt_0 2 rfl rfl)
theorem dJ11_charAt_5 : decode cJ11_charAt 5 = .ok (.aload_n 0, 1) := dk_42 (dk_at dksJ11_charAt_0 5 rfl rfl)
theorem dJ11_charAt_6 : decode cJ11_charAt 6 = .ok (.iload_n 1, 1) := dk_27 (dk_at dksJ11_charAt_0 6 rfl rfl)
theorem dJ11_charAt_7 : decode cJ11_charAt 7 = .ok (.invokestatic 71, 3) := dk_184 0 71 (dk_at dksJ11_charAt_0 7 rfl rfl)
theorem dJ11_charAt_10 : decode cJ11_charAt 10 = .ok (.ireturn, 1) := dk_172 (dk_at dksJ11_charAt_0 10 rfl rfl)
abbrev cJ11_checkIndex : ByteArray := prog_22_method_91_code
def dkwJ11_checkIndex_0 : List UInt8 := [26, 43, 184, 0, 48, 184, 1, 158, 177]
abbrev dktJ11_checkIndex_0 : List UInt8 := dkwJ11_checkIndex_0 ++ []
theorem dksJ11_checkIndex_0 : cJ11_checkIndex.data.toList.drop 0 = dktJ11_checkIndex_0 := by decide +kernel
theorem dJ11_checkIndex_0 : decode cJ11_checkIndex 0 = .ok (.iload_n 0, 1) := dk_26 (dk_at dksJ11_checkIndex_0 0 rfl rfl)
theorem dJ11_checkIndex_1 : decode cJ11_checkIndex 1 = .ok (.aload_n 1, 1) := dk_43 (dk_at dksJ11_checkIndex_0 1 rfl rfl)
theorem dJ11_checkIndex_2 : decode cJ11_checkIndex 2 = .ok (.invokestatic 48, 3) := dk_184 0 48 (dk_at dksJ11_checkIndex_0 2 rfl rfl)
theorem dJ11_checkIndex_5 : decode cJ11_checkIndex 5 = .ok (.invokestatic 414, 3) := dk_184 1 158 (dk_at dksJ11_checkIndex_0 5 rfl rfl)
theorem dJ11_checkIndex_8 : decode cJ11_checkIndex 8 = .ok (.return_, 1) := dk_177 (dk_at dksJ11_checkIndex_0 8 rfl rfl)
abbrev cJ11_length : ByteArray := prog_22_method_6_code
def dkwJ11_length_0 : List UInt8 := [42, 190, 4, 122, 172]
abbrev dktJ11_length_0 : List UInt8 := dkwJ11_length_0 ++ []
theorem dksJ11_length_0 : cJ11_length.data.toList.drop 0 = dktJ11_length_0 := by decide +kernel
theorem dJ11_length_0 : decode cJ11_length 0 = .ok (.aload_n 0, 1) := dk_42 (dk_at dksJ11_length_0 0 rfl rfl)
theorem dJ11_length_1 : decode cJ11_length 1 = .ok (.arraylength, 1) := dk_190 (dk_at dksJ11_length_0 1 rfl rfl)
theorem dJ11_length_2 : decode cJ11_length 2 = .ok (.iconst 1, 1) := dk_4 (dk_at dksJ11_length_0 2 rfl rfl)
theorem dJ11_length_3 : decode cJ11_length 3 = .ok (.ishr, 1) := dk_122 (dk_at dksJ11_length_0 3 rfl rfl)
theorem dJ11_length_4 : decode cJ11_length 4 = .ok (.ireturn, 1) := dk_172 (dk_at dksJ11_length_0 4 rfl rfl)
abbrev cJ11_getChar : ByteArray := prog_22_method_5_code
def dkwJ11_getChar_2 : List UInt8 := [51, 17, 0, 255, 126, 178, 0, 63, 120, 128, 146, 172]
abbrev dktJ11_getChar_2 : List UInt8 := dkwJ11_getChar_2 ++ []
def dkwJ11_getChar_1 : List UInt8 := [183, 0, 56, 191, 27, 4, 120, 60, 42, 27, 132, 1, 1, 51, 17, 0, 255, 126, 178, 0, 59, 120, 42, 27]
abbrev dktJ11_getChar_1 : List UInt8 := dkwJ11_getChar_1 ++ dktJ11_getChar_2
def dkwJ11_getChar_0 : List UInt8 := [178, 0, 44, 154, 0, 25, 27, 155, 0, 11, 27, 42, 184, 0, 48, 161, 0, 13, 187, 0, 52, 89, 18, 54]
abbrev dktJ11_getChar_0 : List UInt8 := dkwJ11_getChar_0 ++ dktJ11_getChar_1
theorem dksJ11_getChar_0 : cJ11_getChar.data.toList.drop 0 = dktJ11_getChar_0 := by decide +kernel
theorem dksJ11_getChar_1 : cJ11_getChar.data.toList.drop 24 = dktJ11_getChar_1 := dk_seg dksJ11_getChar_0 24 rfl rfl
theorem dksJ11_getChar_2 : cJ11_getChar.data.toList.drop 48 = dktJ11_getChar_2 := dk_seg dksJ11_getChar_1 24 rfl rfl
theorem dJ11_getChar_0 : decode cJ11_getChar 0 = .ok (.getstatic 44, 3) := dk_178 0 44 (dk_at dksJ11_getChar_0 0 rfl rfl)
theorem dJ11_getChar_3 : decode cJ11_getChar 3 = .ok (.ifCond .ne 25, 3) := dk_154 0 25 (dk_at dksJ11_getChar_0 3 rfl rfl)
theorem dJ11_getChar_6 : decode cJ11_getChar 6 = .ok (.iload_n 1, 1) := dk_27 (dk_at dksJ11_getChar_0 6 rfl rfl)
theorem dJ11_getChar_7 : decode cJ11_getChar 7 = .ok (.ifCond .lt 11, 3) := dk_155 0 11 (dk_at dksJ11_getChar_0 7 rfl rfl)
theorem dJ11_getChar_10 : decode cJ11_getChar 10 = .ok (.iload_n 1, 1) := dk_27 (dk_at dksJ11_getChar_0 10 rfl rfl)
theorem dJ11_getChar_11 : decode cJ11_getChar 11 = .ok (.aload_n 0, 1) := dk_42 (dk_at dksJ11_getChar_0 11 rfl rfl)
theorem dJ11_getChar_12 : decode cJ11_getChar 12 = .ok (.invokestatic 48, 3) := dk_184 0 48 (dk_at dksJ11_getChar_0 12 rfl rfl)
theorem dJ11_getChar_15 : decode cJ11_getChar 15 = .ok (.if_icmp .lt 13, 3) := dk_161 0 13 (dk_at dksJ11_getChar_0 15 rfl rfl)
theorem dJ11_getChar_18 : decode cJ11_getChar 18 = .ok (.new 52, 3) := dk_187 0 52 (dk_at dksJ11_getChar_0 18 rfl rfl)
theorem dJ11_getChar_21 : decode cJ11_getChar 21 = .ok (.dup, 1) := dk_89 (dk_at dksJ11_getChar_0 21 rfl rfl)
theorem dJ11_getChar_22 : decode cJ11_getChar 22 = .ok (.ldc 54, 2) := dk_18 54 (dk_at dksJ11_getChar_0 22 rfl rfl)
theorem dJ11_getChar_24 : decode cJ11_getChar 24 = .ok (.invokespecial 56, 3) := dk_183 0 56 (dk_at dksJ11_getChar_1 0 rfl rfl)
theorem dJ11_getChar_27 : decode cJ11_getChar 27 = .ok (.athrow, 1) := dk_191 (dk_at dksJ11_getChar_1 3 rfl rfl)
theorem dJ11_getChar_28 : decode cJ11_getChar 28 = .ok (.iload_n 1, 1) := dk_27 (dk_at dksJ11_getChar_1 4 rfl rfl)
theorem dJ11_getChar_29 : decode cJ11_getChar 29 = .ok (.iconst 1, 1) := dk_4 (dk_at dksJ11_getChar_1 5 rfl rfl)
theorem dJ11_getChar_30 : decode cJ11_getChar 30 = .ok (.ishl, 1) := dk_120 (dk_at dksJ11_getChar_1 6 rfl rfl)
theorem dJ11_getChar_31 : decode cJ11_getChar 31 = .ok (.istore_n 1, 1) := dk_60 (dk_at dksJ11_getChar_1 7 rfl rfl)
theorem dJ11_getChar_32 : decode cJ11_getChar 32 = .ok (.aload_n 0, 1) := dk_42 (dk_at dksJ11_getChar_1 8 rfl rfl)
theorem dJ11_getChar_33 : decode cJ11_getChar 33 = .ok (.iload_n 1, 1) := dk_27 (dk_at dksJ11_getChar_1 9 rfl rfl)
theorem dJ11_getChar_34 : decode cJ11_getChar 34 = .ok (.iinc 1 1, 3) := dk_132 1 1 (dk_at dksJ11_getChar_1 10 rfl rfl)
theorem dJ11_getChar_37 : decode cJ11_getChar 37 = .ok (.baload, 1) := dk_51 (dk_at dksJ11_getChar_1 13 rfl rfl)
theorem dJ11_getChar_38 : decode cJ11_getChar 38 = .ok (.sipush 255, 3) := dk_17 0 255 (dk_at dksJ11_getChar_1 14 rfl rfl)
theorem dJ11_getChar_41 : decode cJ11_getChar 41 = .ok (.iand, 1) := dk_126 (dk_at dksJ11_getChar_1 17 rfl rfl)
theorem dJ11_getChar_42 : decode cJ11_getChar 42 = .ok (.getstatic 59, 3) := dk_178 0 59 (dk_at dksJ11_getChar_1 18 rfl rfl)
theorem dJ11_getChar_45 : decode cJ11_getChar 45 = .ok (.ishl, 1) := dk_120 (dk_at dksJ11_getChar_1 21 rfl rfl)
theorem dJ11_getChar_46 : decode cJ11_getChar 46 = .ok (.aload_n 0, 1) := dk_42 (dk_at dksJ11_getChar_1 22 rfl rfl)
theorem dJ11_getChar_47 : decode cJ11_getChar 47 = .ok (.iload_n 1, 1) := dk_27 (dk_at dksJ11_getChar_1 23 rfl rfl)
theorem dJ11_getChar_48 : decode cJ11_getChar 48 = .ok (.baload, 1) := dk_51 (dk_at dksJ11_getChar_2 0 rfl rfl)
theorem dJ11_getChar_49 : decode cJ11_getChar 49 = .ok (.sipush 255, 3) := dk_17 0 255 (dk_at dksJ11_getChar_2 1 rfl rfl)
theorem dJ11_getChar_52 : decode cJ11_getChar 52 = .ok (.iand, 1) := dk_126 (dk_at dksJ11_getChar_2 4 rfl rfl)
theorem dJ11_getChar_53 : decode cJ11_getChar 53 = .ok (.getstatic 63, 3) := dk_178 0 63 (dk_at dksJ11_getChar_2 5 rfl rfl)
theorem dJ11_getChar_56 : decode cJ11_getChar 56 = .ok (.ishl, 1) := dk_120 (dk_at dksJ11_getChar_2 8 rfl rfl)
theorem dJ11_getChar_57 : decode cJ11_getChar 57 = .ok (.ior, 1) := dk_128 (dk_at dksJ11_getChar_2 9 rfl rfl)
theorem dJ11_getChar_58 : decode cJ11_getChar 58 = .ok (.i2c, 1) := dk_146 (dk_at dksJ11_getChar_2 10 rfl rfl)
theorem dJ11_getChar_59 : decode cJ11_getChar 59 = .ok (.ireturn, 1) := dk_172 (dk_at dksJ11_getChar_2 11 rfl rfl)
/-! code rows: J12 (rows of claim/names) -/
set_option maxRecDepth 100000
abbrev cJ12_bitCount : ByteArray := prog_15_method_49_code
def dkwJ12_bitCount_2 : List UInt8 := [26, 16, 63, 126, 172]
abbrev dktJ12_bitCount_2 : List UInt8 := dkwJ12_bitCount_2 ++ []
def dkwJ12_bitCount_1 : List UInt8 := [26, 26, 7, 124, 96, 19, 1, 11, 126, 59, 26, 26, 16, 8, 124, 96, 59, 26, 26, 16, 16, 124, 96, 59]
abbrev dktJ12_bitCount_1 : List UInt8 := dkwJ12_bitCount_1 ++ dktJ12_bitCount_2
def dkwJ12_bitCount_0 : List UInt8 := [26, 26, 4, 124, 19, 1, 9, 126, 100, 59, 26, 19, 1, 10, 126, 26, 5, 124, 19, 1, 10, 126, 96, 59]
abbrev dktJ12_bitCount_0 : List UInt8 := dkwJ12_bitCount_0 ++ dktJ12_bitCount_1
theorem dksJ12_bitCount_0 : cJ12_bitCount.data.toList.drop 0 = dktJ12_bitCount_0 := by decide +kernel
theorem dksJ12_bitCount_1 : cJ12_bitCount.data.toList.drop 24 = dktJ12_bitCount_1 := dk_seg dksJ12_bitCount_0 24 rfl rfl
theorem dksJ12_bitCount_2 : cJ12_bitCount.data.toList.drop 48 = dktJ12_bitCount_2 := dk_seg dksJ12_bitCount_1 24 rfl rfl
theorem dJ12_bitCount_0 : decode cJ12_bitCount 0 = .ok (.iload_n 0, 1) := dk_26 (dk_at dksJ12_bitCount_0 0 rfl rfl)
theorem dJ12_bitCount_1 : decode cJ12_bitCount 1 = .ok (.iload_n 0, 1) := dk_26 (dk_at dksJ12_bitCount_0 1 rfl rfl)
theorem dJ12_bitCount_2 : decode cJ12_bitCount 2 = .ok (.iconst 1, 1) := dk_4 (dk_at dksJ12_bitCount_0 2 rfl rfl)
theorem dJ12_bitCount_3 : decode cJ12_bitCount 3 = .ok (.iushr, 1) := dk_124 (dk_at dksJ12_bitCount_0 3 rfl rfl)
theorem dJ12_bitCount_4 : decode cJ12_bitCount 4 = .ok (.ldc_w 265, 3) := dk_19 1 9 (dk_at dksJ12_bitCount_0 4 rfl rfl)
theorem dJ12_bitCount_7 : decode cJ12_bitCount 7 = .ok (.iand, 1) := dk_126 (dk_at dksJ12_bitCount_0 7 rfl rfl)
theorem dJ12_bitCount_8 : decode cJ12_bitCount 8 = .ok (.isub, 1) := dk_100 (dk_at dksJ12_bitCount_0 8 rfl rfl)
theorem dJ12_bitCount_9 : decode cJ12_bitCount 9 = .ok (.istore_n 0, 1) := dk_59 (dk_at dksJ12_bitCount_0 9 rfl rfl)
theorem dJ12_bitCount_10 : decode cJ12_bitCount 10 = .ok (.iload_n 0, 1) := dk_26 (dk_at dksJ12_bitCount_0 10 rfl rfl)
theorem dJ12_bitCount_11 : decode cJ12_bitCount 11 = .ok (.ldc_w 266, 3) := dk_19 1 10 (dk_at dksJ12_bitCount_0 11 rfl rfl)
theorem dJ12_bitCount_14 : decode cJ12_bitCount 14 = .ok (.iand, 1) := dk_126 (dk_at dksJ12_bitCount_0 14 rfl rfl)
theorem dJ12_bitCount_15 : decode cJ12_bitCount 15 = .ok (.iload_n 0, 1) := dk_26 (dk_at dksJ12_bitCount_0 15 rfl rfl)
theorem dJ12_bitCount_16 : decode cJ12_bitCount 16 = .ok (.iconst 2, 1) := dk_5 (dk_at dksJ12_bitCount_0 16 rfl rfl)
theorem dJ12_bitCount_17 : decode cJ12_bitCount 17 = .ok (.iushr, 1) := dk_124 (dk_at dksJ12_bitCount_0 17 rfl rfl)
theorem dJ12_bitCount_18 : decode cJ12_bitCount 18 = .ok (.ldc_w 266, 3) := dk_19 1 10 (dk_at dksJ12_bitCount_0 18 rfl rfl)
theorem dJ12_bitCount_21 : decode cJ12_bitCount 21 = .ok (.iand, 1) := dk_126 (dk_at dksJ12_bitCount_0 21 rfl rfl)
theorem dJ12_bitCount_22 : decode cJ12_bitCount 22 = .ok (.iadd, 1) := dk_96 (dk_at dksJ12_bitCount_0 22 rfl rfl)
theorem dJ12_bitCount_23 : decode cJ12_bitCount 23 = .ok (.istore_n 0, 1) := dk_59 (dk_at dksJ12_bitCount_0 23 rfl rfl)
theorem dJ12_bitCount_24 : decode cJ12_bitCount 24 = .ok (.iload_n 0, 1) := dk_26 (dk_at dksJ12_bitCount_1 0 rfl rfl)
theorem dJ12_bitCount_25 : decode cJ12_bitCount 25 = .ok (.iload_n 0, 1) := dk_26 (dk_at dksJ12_bitCount_1 1 rfl rfl)
theorem dJ12_bitCount_26 : decode cJ12_bitCount 26 = .ok (.iconst 4, 1) := dk_7 (dk_at dksJ12_bitCount_1 2 rfl rfl)
theorem dJ12_bitCount_27 : decode cJ12_bitCount 27 = .ok (.iushr, 1) := dk_124 (dk_at dksJ12_bitCount_1 3 rfl rfl)
theorem dJ12_bitCount_28 : decode cJ12_bitCount 28 = .ok (.iadd, 1) := dk_96 (dk_at dksJ12_bitCount_1 4 rfl rfl)
theorem dJ12_bitCount_29 : decode cJ12_bitCount 29 = .ok (.ldc_w 267, 3) := dk_19 1 11 (dk_at dksJ12_bitCount_1 5 rfl rfl)
theorem dJ12_bitCount_32 : decode cJ12_bitCount 32 = .ok (.iand, 1) := dk_126 (dk_at dksJ12_bitCount_1 8 rfl rfl)
theorem dJ12_bitCount_33 : decode cJ12_bitCount 33 = .ok (.istore_n 0, 1) := dk_59 (dk_at dksJ12_bitCount_1 9 rfl rfl)
theorem dJ12_bitCount_34 : decode cJ12_bitCount 34 = .ok (.iload_n 0, 1) := dk_26 (dk_at dksJ12_bitCount_1 10 rfl rfl)
theorem dJ12_bitCount_35 : decode cJ12_bitCount 35 = .ok (.iload_n 0, 1) := dk_26 (dk_at dksJ12_bitCount_1 11 rfl rfl)
theorem dJ12_bitCount_36 : decode cJ12_bitCount 36 = .ok (.bipush 8, 2) := dk_16 8 (dk_at dksJ12_bitCount_1 12 rfl rfl)
theorem dJ12_bitCount_38 : decode cJ12_bitCount 38 = .ok (.iushr, 1) := dk_124 (dk_at dksJ12_bitCount_1 14 rfl rfl)
theorem dJ12_bitCount_39 : decode cJ12_bitCount 39 = .ok (.iadd, 1) := dk_96 (dk_at dksJ12_bitCount_1 15 rfl rfl)
theorem dJ12_bitCount_40 : decode cJ12_bitCount 40 = .ok (.istore_n 0, 1) := dk_59 (dk_at dksJ12_bitCount_1 16 rfl rfl)
theorem dJ12_bitCount_41 : decode cJ12_bitCount 41 = .ok (.iload_n 0, 1) := dk_26 (dk_at dksJ12_bitCount_1 17 rfl rfl)
theorem dJ12_bitCount_42 : decode cJ12_bitCount 42 = .ok (.iload_n 0, 1) := dk_26 (dk_at dksJ12_bitCount_1 18 rfl rfl)
theorem dJ12_bitCount_43 : decode cJ12_bitCount 43 = .ok (.bipush 16, 2) := dk_16 16 (dk_at dksJ12_bitCount_1 19 rfl rfl)
theorem dJ12_bitCount_45 : decode cJ12_bitCount 45 = .ok (.iushr, 1) := dk_124 (dk_at dksJ12_bitCount_1 21 rfl rfl)
theorem dJ12_bitCount_46 : decode cJ12_bitCount 46 = .ok (.iadd, 1) := dk_96 (dk_at dksJ12_bitCount_1 22 rfl rfl)
theorem dJ12_bitCount_47 : decode cJ12_bitCount 47 = .ok (.istore_n 0, 1) := dk_59 (dk_at dksJ12_bitCount_1 23 rfl rfl)
theorem dJ12_bitCount_48 : decode cJ12_bitCount 48 = .ok (.iload_n 0, 1) := dk_26 (dk_at dksJ12_bitCount_2 0 rfl rfl)
theorem dJ12_bitCount_49 : decode cJ12_bitCount 49 = .ok (.bipush 63, 2) := dk_16 63 (dk_at dksJ12_bitCount_2 1 rfl rfl)
theorem dJ12_bitCount_51 : decode cJ12_bitCount 51 = .ok (.iand, 1) := dk_126 (dk_at dksJ12_bitCount_2 3 rfl rfl)
theorem dJ12_bitCount_52 : decode cJ12_bitCount 52 = .ok (.ireturn, 1) := dk_172 (dk_at dksJ12_bitCount_2 4 rfl rfl)
/-! code rows: J13 (rows of claim/names) -/
set_option maxRecDepth 100000
abbrev cJ13_init : ByteArray := object_method_1_code
theorem dJ13_init_0 : decode cJ13_init 0 = .ok (.return_, 1) := by decide +kernel
