/-! ToldPowersModel -/
set_option maxRecDepth 100000
abbrev cX1_init : ByteArray := prog_24_method_3_code
def yX1_init : MethodName := ⟨RX1, "<init>", "()V"⟩
def dkwX1_init_8 : List UInt8 := [181, 0, 84, 42, 17, 11, 184, 188, 10, 181, 0, 88, 177]
abbrev dktX1_init_8 : List UInt8 := dkwX1_init_8 ++ []
def dkwX1_init_7 : List UInt8 := [16, 7, 188, 10, 181, 0, 78, 42, 17, 1, 104, 188, 11, 181, 0, 81, 42, 17, 23, 113, 188, 4]
abbrev dktX1_init_7 : List UInt8 := dkwX1_init_7 ++ dktX1_init_8
def dkwX1_init_6 : List UInt8 := [188, 10, 181, 0, 69, 42, 16, 6, 188, 10, 181, 0, 72, 42, 17, 0, 130, 188, 11, 181, 0, 75, 42]
abbrev dktX1_init_6 : List UInt8 := dkwX1_init_6 ++ dktX1_init_7
def dkwX1_init_5 : List UInt8 := [181, 0, 60, 42, 17, 7, 8, 188, 10, 181, 0, 63, 42, 17, 7, 8, 188, 10, 181, 0, 66, 42, 7]
abbrev dktX1_init_5 : List UInt8 := dkwX1_init_5 ++ dktX1_init_6
def dkwX1_init_4 : List UInt8 := [181, 0, 51, 42, 16, 120, 188, 11, 181, 0, 54, 42, 8, 188, 10, 181, 0, 57, 42, 16, 60, 188, 10]
abbrev dktX1_init_4 : List UInt8 := dkwX1_init_4 ++ dktX1_init_5
def dkwX1_init_3 : List UInt8 := [181, 0, 42, 42, 8, 188, 10, 181, 0, 45, 42, 8, 188, 10, 181, 0, 48, 42, 17, 2, 88, 188, 10]
abbrev dktX1_init_3 : List UInt8 := dkwX1_init_3 ++ dktX1_init_4
def dkwX1_init_2 : List UInt8 := [181, 0, 31, 42, 18, 34, 188, 11, 181, 0, 35, 42, 2, 181, 0, 39, 42, 17, 23, 113, 188, 11]
abbrev dktX1_init_2 : List UInt8 := dkwX1_init_2 ++ dktX1_init_3
def dkwX1_init_1 : List UInt8 := [188, 10, 181, 0, 18, 42, 2, 181, 0, 21, 42, 2, 181, 0, 25, 42, 2, 181, 0, 28, 42, 2]
abbrev dktX1_init_1 : List UInt8 := dkwX1_init_1 ++ dktX1_init_2
def dkwX1_init_0 : List UInt8 := [42, 183, 0, 3, 42, 8, 188, 10, 181, 0, 9, 42, 16, 100, 188, 10, 181, 0, 15, 42, 17, 3, 32]
abbrev dktX1_init_0 : List UInt8 := dkwX1_init_0 ++ dktX1_init_1
theorem dksX1_init_0 : cX1_init.data.toList.drop 0 = dktX1_init_0 := by decide +kernel
theorem dksX1_init_1 : cX1_init.data.toList.drop 23 = dktX1_init_1 := dk_seg dksX1_init_0 23 rfl rfl
theorem dksX1_init_2 : cX1_init.data.toList.drop 45 = dktX1_init_2 := dk_seg dksX1_init_1 22 rfl rfl
theorem dksX1_init_3 : cX1_init.data.toList.drop 67 = dktX1_init_3 := dk_seg dksX1_init_2 22 rfl rfl
theorem dksX1_init_4 : cX1_init.data.toList.drop 90 = dktX1_init_4 := dk_seg dksX1_init_3 23 rfl rfl
theorem dksX1_init_5 : cX1_init.data.toList.drop 113 = dktX1_init_5 := dk_seg dksX1_init_4 23 rfl rfl
theorem dksX1_init_6 : cX1_init.data.toList.drop 136 = dktX1_init_6 := dk_seg dksX1_init_5 23 rfl rfl
theorem dksX1_init_7 : cX1_init.data.toList.drop 159 = dktX1_init_7 := dk_seg dksX1_init_6 23 rfl rfl
theorem dksX1_init_8 : cX1_init.data.toList.drop 181 = dktX1_init_8 := dk_seg dksX1_init_7 22 rfl rfl
theorem dX1_init_0 : decode cX1_init 0 = .ok (.aload_n 0, 1) := dk_42 (dk_at dksX1_init_0 0 rfl rfl)
theorem dX1_init_1 : decode cX1_init 1 = .ok (.invokespecial 3, 3) := dk_183 0 3 (dk_at dksX1_init_0 1 rfl rfl)
theorem dX1_init_4 : decode cX1_init 4 = .ok (.aload_n 0, 1) := dk_42 (dk_at dksX1_init_0 4 rfl rfl)
theorem dX1_init_5 : decode cX1_init 5 = .ok (.iconst 5, 1) := dk_8 (dk_at dksX1_init_0 5 rfl rfl)
theorem dX1_init_6 : decode cX1_init 6 = .ok (.newarray .int, 2) := dk_188_10 (dk_at dksX1_init_0 6 rfl rfl)
theorem dX1_init_8 : decode cX1_init 8 = .ok (.putfield 9, 3) := dk_181 0 9 (dk_at dksX1_init_0 8 rfl rfl)
theorem dX1_init_11 : decode cX1_init 11 = .ok (.aload_n 0, 1) := dk_42 (dk_at dksX1_init_0 11 rfl rfl)
theorem dX1_init_12 : decode cX1_init 12 = .ok (.bipush 100, 2) := dk_16 100 (dk_at dksX1_init_0 12 rfl rfl)
theorem dX1_init_14 : decode cX1_init 14 = .ok (.newarray .int, 2) := dk_188_10 (dk_at dksX1_init_0 14 rfl rfl)
theorem dX1_init_16 : decode cX1_init 16 = .ok (.putfield 15, 3) := dk_181 0 15 (dk_at dksX1_init_0 16 rfl rfl)
theorem dX1_init_19 : decode cX1_init 19 = .ok (.aload_n 0, 1) := dk_42 (dk_at dksX1_init_0 19 rfl rfl)
theorem dX1_init_20 : decode cX1_init 20 = .ok (.sipush 800, 3) := dk_17 3 32 (dk_at dksX1_init_0 20 rfl rfl)
theorem dX1_init_23 : decode cX1_init 23 = .ok (.newarray .int, 2) := dk_188_10 (dk_at dksX1_init_1 0 rfl rfl)
theorem dX1_init_25 : decode cX1_init 25 = .ok (.putfield 18, 3) := dk_181 0 18 (dk_at dksX1_init_1 2 rfl rfl)
theorem dX1_init_28 : decode cX1_init 28 = .ok (.aload_n 0, 1) := dk_42 (dk_at dksX1_init_1 5 rfl rfl)
theorem dX1_init_29 : decode cX1_init 29 = .ok (.iconst (-1), 1) := dk_2 (dk_at dksX1_init_1 6 rfl rfl)
theorem dX1_init_30 : decode cX1_init 30 = .ok (.putfield 21, 3) := dk_181 0 21 (dk_at dksX1_init_1 7 rfl rfl)
theorem dX1_init_33 : decode cX1_init 33 = .ok (.aload_n 0, 1) := dk_42 (dk_at dksX1_init_1 10 rfl rfl)
theorem dX1_init_34 : decode cX1_init 34 = .ok (.iconst (-1), 1) := dk_2 (dk_at dksX1_init_1 11 rfl rfl)
theorem dX1_init_35 : decode cX1_init 35 = .ok (.putfield 25, 3) := dk_181 0 25 (dk_at dksX1_init_1 12 rfl rfl)
theorem dX1_init_38 : decode cX1_init 38 = .ok (.aload_n 0, 1) := dk_42 (dk_at dksX1_init_1 15 rfl rfl)
theorem dX1_init_39 : decode cX1_init 39 = .ok (.iconst (-1), 1) := dk_2 (dk_at dksX1_init_1 16 rfl rfl)
theorem dX1_init_40 : decode cX1_init 40 = .ok (.putfield 28, 3) := dk_181 0 28 (dk_at dksX1_init_1 17 rfl rfl)
theorem dX1_init_43 : decode cX1_init 43 = .ok (.aload_n 0, 1) := dk_42 (dk_at dksX1_init_1 20 rfl rfl)
theorem dX1_init_44 : decode cX1_init 44 = .ok (.iconst (-1), 1) := dk_2 (dk_at dksX1_init_1 21 rfl rfl)
theorem dX1_init_45 : decode cX1_init 45 = .ok (.putfield 31, 3) := dk_181 0 31 (dk_at dksX1_init_2 0 rfl rfl)
theorem dX1_init_48 : decode cX1_init 48 = .ok (.aload_n 0, 1) := dk_42 (dk_at dksX1_init_2 3 rfl rfl)
theorem dX1_init_49 : decode cX1_init 49 = .ok (.ldc 34, 2) := dk_18 34 (dk_at dksX1_init_2 4 rfl rfl)
theorem dX1_init_51 : decode cX1_init 51 = .ok (.newarray .long, 2) := dk_188_11 (dk_at dksX1_init_2 6 rfl rfl)
theorem dX1_init_53 : decode cX1_init 53 = .ok (.putfield 35, 3) := dk_181 0 35 (dk_at dksX1_init_2 8 rfl rfl)
theorem dX1_init_56 : decode cX1_init 56 = .ok (.aload_n 0, 1) := dk_42 (dk_at dksX1_init_2 11 rfl rfl)
theorem dX1_init_57 : decode cX1_init 57 = .ok (.iconst (-1), 1) := dk_2 (dk_at dksX1_init_2 12 rfl rfl)
theorem dX1_init_58 : decode cX1_init 58 = .ok (.putfield 39, 3) := dk_181 0 39 (dk_at dksX1_init_2 13 rfl rfl)
theorem dX1_init_61 : decode cX1_init 61 = .ok (.aload_n 0, 1) := dk_42 (dk_at dksX1_init_2 16 rfl rfl)
theorem dX1_init_62 : decode cX1_init 62 = .ok (.sipush 6001, 3) := dk_17 23 113 (dk_at dksX1_init_2 17 rfl rfl)
theorem dX1_init_65 : decode cX1_init 65 = .ok (.newarray .long, 2) := dk_188_11 (dk_at dksX1_init_2 20 rfl rfl)
theorem dX1_init_67 : decode cX1_init 67 = .ok (.putfield 42, 3) := dk_181 0 42 (dk_at dksX1_init_3 0 rfl rfl)
theorem dX1_init_70 : decode cX1_init 70 = .ok (.aload_n 0, 1) := dk_42 (dk_at dksX1_init_3 3 rfl rfl)
theorem dX1_init_71 : decode cX1_init 71 = .ok (.iconst 5, 1) := dk_8 (dk_at dksX1_init_3 4 rfl rfl)
theorem dX1_init_72 : decode cX1_init 72 = .ok (.newarray .int, 2) := dk_188_10 (dk_at dksX1_init_3 5 rfl rfl)
theorem dX1_init_74 : decode cX1_init 74 = .ok (.putfield 45, 3) := dk_181 0 45 (dk_at dksX1_init_3 7 rfl rfl)
theorem dX1_init_77 : decode cX1_init 77 = .ok (.aload_n 0, 1) := dk_42 (dk_at dksX1_init_3 10 rfl rfl)
theorem dX1_init_78 : decode cX1_init 78 = .ok (.iconst 5, 1) := dk_8 (dk_at dksX1_init_3 11 rfl rfl)
theorem dX1_init_79 : decode cX1_init 79 = .ok (.newarray .int, 2) := dk_188_10 (dk_at dksX1_init_3 12 rfl rfl)
theorem dX1_init_81 : decode cX1_init 81 = .ok (.putfield 48, 3) := dk_181 0 48 (dk_at dksX1_init_3 14 rfl rfl)
theorem dX1_init_84 : decode cX1_init 84 = .ok (.aload_n 0, 1) := dk_42 (dk_at dksX1_init_3 17 rfl rfl)
theorem dX1_init_85 : decode cX1_init 85 = .ok (.sipush 600, 3) := dk_17 2 88 (dk_at dksX1_init_3 18 rfl rfl)
theorem dX1_init_88 : decode cX1_init 88 = .ok (.newarray .int, 2) := dk_188_10 (dk_at dksX1_init_3 21 rfl rfl)
theorem dX1_init_90 : decode cX1_init 90 = .ok (.putfield 51, 3) := dk_181 0 51 (dk_at dksX1_init_4 0 rfl rfl)
theorem dX1_init_93 : decode cX1_init 93 = .ok (.aload_n 0, 1) := dk_42 (dk_at dksX1_init_4 3 rfl rfl)
theorem dX1_init_94 : decode cX1_init 94 = .ok (.bipush 120, 2) := dk_16 120 (dk_at dksX1_init_4 4 rfl rfl)
theorem dX1_init_96 : decode cX1_init 96 = .ok (.newarray .long, 2) := dk_188_11 (dk_at dksX1_init_4 6 rfl rfl)
theorem dX1_init_98 : decode cX1_init 98 = .ok (.putfield 54, 3) := dk_181 0 54 (dk_at dksX1_init_4 8 rfl rfl)
theorem dX1_init_101 : decode cX1_init 101 = .ok (.aload_n 0, 1) := dk_42 (dk_at dksX1_init_4 11 rfl rfl)
theorem dX1_init_102 : decode cX1_init 102 = .ok (.iconst 5, 1) := dk_8 (dk_at dksX1_init_4 12 rfl rfl)
theorem dX1_init_103 : decode cX1_init 103 = .ok (.newarray .int, 2) := dk_188_10 (dk_at dksX1_init_4 13 rfl rfl)
theorem dX1_init_105 : decode cX1_init 105 = .ok (.putfield 57, 3) := dk_181 0 57 (dk_at dksX1_init_4 15 rfl rfl)
theorem dX1_init_108 : decode cX1_init 108 = .ok (.aload_n 0, 1) := dk_42 (dk_at dksX1_init_4 18 rfl rfl)
theorem dX1_init_109 : decode cX1_init 109 = .ok (.bipush 60, 2) := dk_16 60 (dk_at dksX1_init_4 19 rfl rfl)
theorem dX1_init_111 : decode cX1_init 111 = .ok (.newarray .int, 2) := dk_188_10 (dk_at dksX1_init_4 21 rfl rfl)
theorem dX1_init_113 : decode cX1_init 113 = .ok (.putfield 60, 3) := dk_181 0 60 (dk_at dksX1_init_5 0 rfl rfl)
theorem dX1_init_116 : decode cX1_init 116 = .ok (.aload_n 0, 1) := dk_42 (dk_at dksX1_init_5 3 rfl rfl)
theorem dX1_init_117 : decode cX1_init 117 = .ok (.sipush 1800, 3) := dk_17 7 8 (dk_at dksX1_init_5 4 rfl rfl)
theorem dX1_init_120 : decode cX1_init 120 = .ok (.newarray .int, 2) := dk_188_10 (dk_at dksX1_init_5 7 rfl rfl)
theorem dX1_init_122 : decode cX1_init 122 = .ok (.putfield 63, 3) := dk_181 0 63 (dk_at dksX1_init_5 9 rfl rfl)
theorem dX1_init_125 : decode cX1_init 125 = .ok (.aload_n 0, 1) := dk_42 (dk_at dksX1_init_5 12 rfl rfl)
theorem dX1_init_126 : decode cX1_init 126 = .ok (.sipush 1800, 3) := dk_17 7 8 (dk_at dksX1_init_5 13 rfl rfl)
theorem dX1_init_129 : decode cX1_init 129 = .ok (.newarray .int, 2) := dk_188_10 (dk_at dksX1_init_5 16 rfl rfl)
theorem dX1_init_131 : decode cX1_init 131 = .ok (.putfield 66, 3) := dk_181 0 66 (dk_at dksX1_init_5 18 rfl rfl)
theorem dX1_init_134 : decode cX1_init 134 = .ok (.aload_n 0, 1) := dk_42 (dk_at dksX1_init_5 21 rfl rfl)
theorem dX1_init_135 : decode cX1_init 135 = .ok (.iconst 4, 1) := dk_7 (dk_at dksX1_init_5 22 rfl rfl)
theorem dX1_init_136 : decode cX1_init 136 = .ok (.newarray .int, 2) := dk_188_10 (dk_at dksX1_init_6 0 rfl rfl)
theorem dX1_init_138 : decode cX1_init 138 = .ok (.putfield 69, 3) := dk_181 0 69 (dk_at dksX1_init_6 2 rfl rfl)
theorem dX1_init_141 : decode cX1_init 141 = .ok (.aload_n 0, 1) := dk_42 (dk_at dksX1_init_6 5 rfl rfl)
theorem dX1_init_142 : decode cX1_init 142 = .ok (.bipush 6, 2) := dk_16 6 (dk_at dksX1_init_6 6 rfl rfl)
theorem dX1_init_144 : decode cX1_init 144 = .ok (.newarray .int, 2) := dk_188_10 (dk_at dksX1_init_6 8 rfl rfl)
theorem dX1_init_146 : decode cX1_init 146 = .ok (.putfield 72, 3) := dk_181 0 72 (dk_at dksX1_init_6 10 rfl rfl)
theorem dX1_init_149 : decode cX1_init 149 = .ok (.aload_n 0, 1) := dk_42 (dk_at dksX1_init_6 13 rfl rfl)
theorem dX1_init_150 : decode cX1_init 150 = .ok (.sipush 130, 3) := dk_17 0 130 (dk_at dksX1_init_6 14 rfl rfl)
theorem dX1_init_153 : decode cX1_init 153 = .ok (.newarray .long, 2) := dk_188_11 (dk_at dksX1_init_6 17 rfl rfl)
theorem dX1_init_155 : decode cX1_init 155 = .ok (.putfield 75, 3) := dk_181 0 75 (dk_at dksX1_init_6 19 rfl rfl)
theorem dX1_init_158 : decode cX1_init 158 = .ok (.aload_n 0, 1) := dk_42 (dk_at dksX1_init_6 22 rfl rfl)
theorem dX1_init_159 : decode cX1_init 159 = .ok (.bipush 7, 2) := dk_16 7 (dk_at dksX1_init_7 0 rfl rfl)
theorem dX1_init_161 : decode cX1_init 161 = .ok (.newarray .int, 2) := dk_188_10 (dk_at dksX1_init_7 2 rfl rfl)
theorem dX1_init_163 : decode cX1_init 163 = .ok (.putfield 78, 3) := dk_181 0 78 (dk_at dksX1_init_7 4 rfl rfl)
theorem dX1_init_166 : decode cX1_init 166 = .ok (.aload_n 0, 1) := dk_42 (dk_at dksX1_init_7 7 rfl rfl)
theorem dX1_init_167 : decode cX1_init 167 = .ok (.sipush 360, 3) := dk_17 1 104 (dk_at dksX1_init_7 8 rfl rfl)
theorem dX1_init_170 : decode cX1_init 170 = .ok (.newarray .long, 2) := dk_188_11 (dk_at dksX1_init_7 11 rfl rfl)
theorem dX1_init_172 : decode cX1_init 172 = .ok (.putfield 81, 3) := dk_181 0 81 (dk_at dksX1_init_7 13 rfl rfl)
theorem dX1_init_175 : decode cX1_init 175 = .ok (.aload_n 0, 1) := dk_42 (dk_at dksX1_init_7 16 rfl rfl)
theorem dX1_init_176 : decode cX1_init 176 = .ok (.sipush 6001, 3) := dk_17 23 113 (dk_at dksX1_init_7 17 rfl rfl)
theorem dX1_init_179 : decode cX1_init 179 = .ok (.newarray .boolean, 2) := dk_188_4 (dk_at dksX1_init_7 20 rfl rfl)
theorem dX1_init_181 : decode cX1_init 181 = .ok (.putfield 84, 3) := dk_181 0 84 (dk_at dksX1_init_8 0 rfl rfl)
theorem dX1_init_184 : decode cX1_init 184 = .ok (.aload_n 0, 1) := dk_42 (dk_at dksX1_init_8 3 rfl rfl)
theorem dX1_init_185 : decode cX1_init 185 = .ok (.sipush 3000, 3) := dk_17 11 184 (dk_at dksX1_init_8 4 rfl rfl)
theorem dX1_init_188 : decode cX1_init 188 = .ok (.newarray .int, 2) := dk_188_10 (dk_at dksX1_init_8 7 rfl rfl)
theorem dX1_init_190 : decode cX1_init 190 = .ok (.putfield 88, 3) := dk_181 0 88 (dk_at dksX1_init_8 9 rfl rfl)
theorem dX1_init_193 : decode cX1_init 193 = .ok (.return_, 1) := dk_177 (dk_at dksX1_init_8 12 rfl rfl)
abbrev cX1_feed : ByteArray := prog_24_method_13_code
def yX1_feed : MethodName := ⟨RX1, "feed", "(IIIII)I"⟩
def dkwX1_feed_2 : List UInt8 := [172]
abbrev dktX1_feed_2 : List UInt8 := dkwX1_feed_2 ++ []
def dkwX1_feed_1 : List UInt8 := [182, 0, 118, 42, 29, 182, 0, 118, 42, 21, 4, 182, 0, 118, 42, 21, 5, 182, 0, 118, 42, 180, 0, 115]
abbrev dktX1_feed_1 : List UInt8 := dkwX1_feed_1 ++ dktX1_feed_2
def dkwX1_feed_0 : List UInt8 := [42, 180, 0, 115, 16, 20, 96, 17, 3, 32, 164, 0, 5, 2, 172, 42, 27, 182, 0, 118, 42, 28]
abbrev dktX1_feed_0 : List UInt8 := dkwX1_feed_0 ++ dktX1_feed_1
theorem dksX1_feed_0 : cX1_feed.data.toList.drop 0 = dktX1_feed_0 := by decide +kernel
theorem dksX1_feed_1 : cX1_feed.data.toList.drop 22 = dktX1_feed_1 := dk_seg dksX1_feed_0 22 rfl rfl
theorem dksX1_feed_2 : cX1_feed.data.toList.drop 46 = dktX1_feed_2 := dk_seg dksX1_feed_1 24 rfl rfl
theorem dX1_feed_0 : decode cX1_feed 0 = .ok (.aload_n 0, 1) := dk_42 (dk_at dksX1_feed_0 0 rfl rfl)
theorem dX1_feed_1 : decode cX1_feed 1 = .ok (.getfield 115, 3) := dk_180 0 115 (dk_at dksX1_feed_0 1 rfl rfl)
theorem dX1_feed_4 : decode cX1_feed 4 = .ok (.bipush 20, 2) := dk_16 20 (dk_at dksX1_feed_0 4 rfl rfl)
theorem dX1_feed_6 : decode cX1_feed 6 = .ok (.iadd, 1) := dk_96 (dk_at dksX1_feed_0 6 rfl rfl)
theorem dX1_feed_7 : decode cX1_feed 7 = .ok (.sipush 800, 3) := dk_17 3 32 (dk_at dksX1_feed_0 7 rfl rfl)
theorem dX1_feed_10 : decode cX1_feed 10 = .ok (.if_icmp .le 5, 3) := dk_164 0 5 (dk_at dksX1_feed_0 10 rfl rfl)
theorem dX1_feed_13 : decode cX1_feed 13 = .ok (.iconst (-1), 1) := dk_2 (dk_at dksX1_feed_0 13 rfl rfl)
theorem dX1_feed_14 : decode cX1_feed 14 = .ok (.ireturn, 1) := dk_172 (dk_at dksX1_feed_0 14 rfl rfl)
theorem dX1_feed_15 : decode cX1_feed 15 = .ok (.aload_n 0, 1) := dk_42 (dk_at dksX1_feed_0 15 rfl rfl)
theorem dX1_feed_16 : decode cX1_feed 16 = .ok (.iload_n 1, 1) := dk_27 (dk_at dksX1_feed_0 16 rfl rfl)
theorem dX1_feed_17 : decode cX1_feed 17 = .ok (.invokevirtual 118, 3) := dk_182 0 118 (dk_at dksX1_feed_0 17 rfl rfl)
theorem dX1_feed_20 : decode cX1_feed 20 = .ok (.aload_n 0, 1) := dk_42 (dk_at dksX1_feed_0 20 rfl rfl)
theorem dX1_feed_21 : decode cX1_feed 21 = .ok (.iload_n 2, 1) := dk_28 (dk_at dksX1_feed_0 21 rfl rfl)
theorem dX1_feed_22 : decode cX1_feed 22 = .ok (.invokevirtual 118, 3) := dk_182 0 118 (dk_at dksX1_feed_1 0 rfl rfl)
theorem dX1_feed_25 : decode cX1_feed 25 = .ok (.aload_n 0, 1) := dk_42 (dk_at dksX1_feed_1 3 rfl rfl)
theorem dX1_feed_26 : decode cX1_feed 26 = .ok (.iload_n 3, 1) := dk_29 (dk_at dksX1_feed_1 4 rfl rfl)
theorem dX1_feed_27 : decode cX1_feed 27 = .ok (.invokevirtual 118, 3) := dk_182 0 118 (dk_at dksX1_feed_1 5 rfl rfl)
theorem dX1_feed_30 : decode cX1_feed 30 = .ok (.aload_n 0, 1) := dk_42 (dk_at dksX1_feed_1 8 rfl rfl)
theorem dX1_feed_31 : decode cX1_feed 31 = .ok (.iload 4, 2) := dk_21 4 (dk_at dksX1_feed_1 9 rfl rfl)
theorem dX1_feed_33 : decode cX1_feed 33 = .ok (.invokevirtual 118, 3) := dk_182 0 118 (dk_at dksX1_feed_1 11 rfl rfl)
theorem dX1_feed_36 : decode cX1_feed 36 = .ok (.aload_n 0, 1) := dk_42 (dk_at dksX1_feed_1 14 rfl rfl)
theorem dX1_feed_37 : decode cX1_feed 37 = .ok (.iload 5, 2) := dk_21 5 (dk_at dksX1_feed_1 15 rfl rfl)
theorem dX1_feed_39 : decode cX1_feed 39 = .ok (.invokevirtual 118, 3) := dk_182 0 118 (dk_at dksX1_feed_1 17 rfl rfl)
theorem dX1_feed_42 : decode cX1_feed 42 = .ok (.aload_n 0, 1) := dk_42 (dk_at dksX1_feed_1 20 rfl rfl)
theorem dX1_feed_43 : decode cX1_feed 43 = .ok (.getfield 115, 3) := dk_180 0 115 (dk_at dksX1_feed_1 21 rfl rfl)
theorem dX1_feed_46 : decode cX1_feed 46 = .ok (.ireturn, 1) := dk_172 (dk_at dksX1_feed_2 0 rfl rfl)
abbrev cX1_four : ByteArray := prog_24_method_12_code
def yX1_four : MethodName := ⟨RX1, "four", "(I)V"⟩
def dkwX1_four_1 : List UInt8 := [89, 180, 0, 115, 4, 96, 181, 0, 115, 132, 2, 248, 167, 255, 223, 177]
abbrev dktX1_four_1 : List UInt8 := dkwX1_four_1 ++ []
def dkwX1_four_0 : List UInt8 := [16, 24, 61, 28, 155, 0, 35, 42, 180, 0, 18, 42, 180, 0, 115, 27, 28, 122, 17, 0, 255, 126, 79, 42]
abbrev dktX1_four_0 : List UInt8 := dkwX1_four_0 ++ dktX1_four_1
theorem dksX1_four_0 : cX1_four.data.toList.drop 0 = dktX1_four_0 := by decide +kernel
theorem dksX1_four_1 : cX1_four.data.toList.drop 24 = dktX1_four_1 := dk_seg dksX1_four_0 24 rfl rfl
theorem dX1_four_0 : decode cX1_four 0 = .ok (.bipush 24, 2) := dk_16 24 (dk_at dksX1_four_0 0 rfl rfl)
theorem dX1_four_2 : decode cX1_four 2 = .ok (.istore_n 2, 1) := dk_61 (dk_at dksX1_four_0 2 rfl rfl)
theorem dX1_four_3 : decode cX1_four 3 = .ok (.iload_n 2, 1) := dk_28 (dk_at dksX1_four_0 3 rfl rfl)
theorem dX1_four_4 : decode cX1_four 4 = .ok (.ifCond .lt 35, 3) := dk_155 0 35 (dk_at dksX1_four_0 4 rfl rfl)
theorem dX1_four_7 : decode cX1_four 7 = .ok (.aload_n 0, 1) := dk_42 (dk_at dksX1_four_0 7 rfl rfl)
theorem dX1_four_8 : decode cX1_four 8 = .ok (.getfield 18, 3) := dk_180 0 18 (dk_at dksX1_four_0 8 rfl rfl)
theorem dX1_four_11 : decode cX1_four 11 = .ok (.aload_n 0, 1) := dk_42 (dk_at dksX1_four_0 11 rfl rfl)
theorem dX1_four_12 : decode cX1_four 12 = .ok (.getfield 115, 3) := dk_180 0 115 (dk_at dksX1_four_0 12 rfl rfl)
theorem dX1_four_15 : decode cX1_four 15 = .ok (.iload_n 1, 1) := dk_27 (dk_at dksX1_four_0 15 rfl rfl)
theorem dX1_four_16 : decode cX1_four 16 = .ok (.iload_n 2, 1) := dk_28 (dk_at dksX1_four_0 16 rfl rfl)
theorem dX1_four_17 : decode cX1_four 17 = .ok (.ishr, 1) := dk_122 (dk_at dksX1_four_0 17 rfl rfl)
theorem dX1_four_18 : decode cX1_four 18 = .ok (.sipush 255, 3) := dk_17 0 255 (dk_at dksX1_four_0 18 rfl rfl)
theorem dX1_four_21 : decode cX1_four 21 = .ok (.iand, 1) := dk_126 (dk_at dksX1_four_0 21 rfl rfl)
theorem dX1_four_22 : decode cX1_four 22 = .ok (.iastore, 1) := dk_79 (dk_at dksX1_four_0 22 rfl rfl)
theorem dX1_four_23 : decode cX1_four 23 = .ok (.aload_n 0, 1) := dk_42 (dk_at dksX1_four_0 23 rfl rfl)
theorem dX1_four_24 : decode cX1_four 24 = .ok (.dup, 1) := dk_89 (dk_at dksX1_four_1 0 rfl rfl)
theorem dX1_four_25 : decode cX1_four 25 = .ok (.getfield 115, 3) := dk_180 0 115 (dk_at dksX1_four_1 1 rfl rfl)
theorem dX1_four_28 : decode cX1_four 28 = .ok (.iconst 1, 1) := dk_4 (dk_at dksX1_four_1 4 rfl rfl)
theorem dX1_four_29 : decode cX1_four 29 = .ok (.iadd, 1) := dk_96 (dk_at dksX1_four_1 5 rfl rfl)
theorem dX1_four_30 : decode cX1_four 30 = .ok (.putfield 115, 3) := dk_181 0 115 (dk_at dksX1_four_1 6 rfl rfl)
theorem dX1_four_33 : decode cX1_four 33 = .ok (.iinc 2 (-8), 3) := dk_132 2 248 (dk_at dksX1_four_1 9 rfl rfl)
theorem dX1_four_36 : decode cX1_four 36 = .ok (.goto (-33), 3) := dk_167 255 223 (dk_at dksX1_four_1 12 rfl rfl)
theorem dX1_four_39 : decode cX1_four 39 = .ok (.return_, 1) := dk_177 (dk_at dksX1_four_1 15 rfl rfl)
abbrev cX1_end : ByteArray := prog_24_method_14_code
def yX1_end : MethodName := ⟨RX1, "end", "(I)Z"⟩
def dkwX1_end_0 : List UInt8 := [27, 133, 9, 42, 180, 0, 115, 133, 184, 0, 105, 154, 0, 5, 3, 172, 42, 27, 181, 0, 115, 4, 172]
abbrev dktX1_end_0 : List UInt8 := dkwX1_end_0 ++ []
theorem dksX1_end_0 : cX1_end.data.toList.drop 0 = dktX1_end_0 := by decide +kernel
theorem dX1_end_0 : decode cX1_end 0 = .ok (.iload_n 1, 1) := dk_27 (dk_at dksX1_end_0 0 rfl rfl)
theorem dX1_end_1 : decode cX1_end 1 = .ok (.i2l, 1) := dk_133 (dk_at dksX1_end_0 1 rfl rfl)
theorem dX1_end_2 : decode cX1_end 2 = .ok (.lconst 0, 1) := dk_9 (dk_at dksX1_end_0 2 rfl rfl)
theorem dX1_end_3 : decode cX1_end 3 = .ok (.aload_n 0, 1) := dk_42 (dk_at dksX1_end_0 3 rfl rfl)
theorem dX1_end_4 : decode cX1_end 4 = .ok (.getfield 115, 3) := dk_180 0 115 (dk_at dksX1_end_0 4 rfl rfl)
theorem dX1_end_7 : decode cX1_end 7 = .ok (.i2l, 1) := dk_133 (dk_at dksX1_end_0 7 rfl rfl)
theorem dX1_end_8 : decode cX1_end 8 = .ok (.invokestatic 105, 3) := dk_184 0 105 (dk_at dksX1_end_0 8 rfl rfl)
theorem dX1_end_11 : decode cX1_end 11 = .ok (.ifCond .ne 5, 3) := dk_154 0 5 (dk_at dksX1_end_0 11 rfl rfl)
theorem dX1_end_14 : decode cX1_end 14 = .ok (.iconst 0, 1) := dk_3 (dk_at dksX1_end_0 14 rfl rfl)
theorem dX1_end_15 : decode cX1_end 15 = .ok (.ireturn, 1) := dk_172 (dk_at dksX1_end_0 15 rfl rfl)
theorem dX1_end_16 : decode cX1_end 16 = .ok (.aload_n 0, 1) := dk_42 (dk_at dksX1_end_0 16 rfl rfl)
theorem dX1_end_17 : decode cX1_end 17 = .ok (.iload_n 1, 1) := dk_27 (dk_at dksX1_end_0 17 rfl rfl)
theorem dX1_end_18 : decode cX1_end 18 = .ok (.putfield 115, 3) := dk_181 0 115 (dk_at dksX1_end_0 18 rfl rfl)
theorem dX1_end_21 : decode cX1_end 21 = .ok (.iconst 1, 1) := dk_4 (dk_at dksX1_end_0 21 rfl rfl)
theorem dX1_end_22 : decode cX1_end 22 = .ok (.ireturn, 1) := dk_172 (dk_at dksX1_end_0 22 rfl rfl)
abbrev cX1_isIn : ByteArray := prog_24_method_1_code
def yX1_isIn : MethodName := ⟨RX1, "isIn", "(JJJ)Z"⟩
def dkwX1_isIn_0 : List UInt8 := [30, 32, 148, 155, 0, 14, 30, 22, 4, 148, 157, 0, 7, 4, 167, 0, 4, 3, 172]
abbrev dktX1_isIn_0 : List UInt8 := dkwX1_isIn_0 ++ []
theorem dksX1_isIn_0 : cX1_isIn.data.toList.drop 0 = dktX1_isIn_0 := by decide +kernel
theorem dX1_isIn_0 : decode cX1_isIn 0 = .ok (.lload_n 0, 1) := dk_30 (dk_at dksX1_isIn_0 0 rfl rfl)
theorem dX1_isIn_1 : decode cX1_isIn 1 = .ok (.lload_n 2, 1) := dk_32 (dk_at dksX1_isIn_0 1 rfl rfl)
theorem dX1_isIn_2 : decode cX1_isIn 2 = .ok (.lcmp, 1) := dk_148 (dk_at dksX1_isIn_0 2 rfl rfl)
theorem dX1_isIn_3 : decode cX1_isIn 3 = .ok (.ifCond .lt 14, 3) := dk_155 0 14 (dk_at dksX1_isIn_0 3 rfl rfl)
theorem dX1_isIn_6 : decode cX1_isIn 6 = .ok (.lload_n 0, 1) := dk_30 (dk_at dksX1_isIn_0 6 rfl rfl)
theorem dX1_isIn_7 : decode cX1_isIn 7 = .ok (.lload 4, 2) := dk_22 4 (dk_at dksX1_isIn_0 7 rfl rfl)
theorem dX1_isIn_9 : decode cX1_isIn 9 = .ok (.lcmp, 1) := dk_148 (dk_at dksX1_isIn_0 9 rfl rfl)
theorem dX1_isIn_10 : decode cX1_isIn 10 = .ok (.ifCond .gt 7, 3) := dk_157 0 7 (dk_at dksX1_isIn_0 10 rfl rfl)
theorem dX1_isIn_13 : decode cX1_isIn 13 = .ok (.iconst 1, 1) := dk_4 (dk_at dksX1_isIn_0 13 rfl rfl)
theorem dX1_isIn_14 : decode cX1_isIn 14 = .ok (.goto 4, 3) := dk_167 0 4 (dk_at dksX1_isIn_0 14 rfl rfl)
theorem dX1_isIn_17 : decode cX1_isIn 17 = .ok (.iconst 0, 1) := dk_3 (dk_at dksX1_isIn_0 17 rfl rfl)
theorem dX1_isIn_18 : decode cX1_isIn 18 = .ok (.ireturn, 1) := dk_172 (dk_at dksX1_isIn_0 18 rfl rfl)
abbrev cX1_fault : ByteArray := prog_24_method_25_code
def yX1_fault : MethodName := ⟨RX1, "fault", "(I)I"⟩
def dkwX1_fault_2 : List UInt8 := [172]
abbrev dktX1_fault_2 : List UInt8 := dkwX1_fault_2 ++ []
def dkwX1_fault_1 : List UInt8 := [5, 160, 0, 10, 42, 180, 0, 25, 167, 0, 16, 27, 6, 160, 0, 10, 42, 180, 0, 28, 167, 0, 4, 2]
abbrev dktX1_fault_1 : List UInt8 := dkwX1_fault_1 ++ dktX1_fault_2
def dkwX1_fault_0 : List UInt8 := [27, 154, 0, 10, 42, 180, 0, 193, 167, 0, 40, 27, 4, 160, 0, 10, 42, 180, 0, 21, 167, 0, 28, 27]
abbrev dktX1_fault_0 : List UInt8 := dkwX1_fault_0 ++ dktX1_fault_1
theorem dksX1_fault_0 : cX1_fault.data.toList.drop 0 = dktX1_fault_0 := by decide +kernel
theorem dksX1_fault_1 : cX1_fault.data.toList.drop 24 = dktX1_fault_1 := dk_seg dksX1_fault_0 24 rfl rfl
theorem dksX1_fault_2 : cX1_fault.data.toList.drop 48 = dktX1_fault_2 := dk_seg dksX1_fault_1 24 rfl rfl
theorem dX1_fault_0 : decode cX1_fault 0 = .ok (.iload_n 1, 1) := dk_27 (dk_at dksX1_fault_0 0 rfl rfl)
theorem dX1_fault_1 : decode cX1_fault 1 = .ok (.ifCond .ne 10, 3) := dk_154 0 10 (dk_at dksX1_fault_0 1 rfl rfl)
theorem dX1_fault_4 : decode cX1_fault 4 = .ok (.aload_n 0, 1) := dk_42 (dk_at dksX1_fault_0 4 rfl rfl)
theorem dX1_fault_5 : decode cX1_fault 5 = .ok (.getfield 193, 3) := dk_180 0 193 (dk_at dksX1_fault_0 5 rfl rfl)
theorem dX1_fault_8 : decode cX1_fault 8 = .ok (.goto 40, 3) := dk_167 0 40 (dk_at dksX1_fault_0 8 rfl rfl)
theorem dX1_fault_11 : decode cX1_fault 11 = .ok (.iload_n 1, 1) := dk_27 (dk_at dksX1_fault_0 11 rfl rfl)
theorem dX1_fault_12 : decode cX1_fault 12 = .ok (.iconst 1, 1) := dk_4 (dk_at dksX1_fault_0 12 rfl rfl)
theorem dX1_fault_13 : decode cX1_fault 13 = .ok (.if_icmp .ne 10, 3) := dk_160 0 10 (dk_at dksX1_fault_0 13 rfl rfl)
theorem dX1_fault_16 : decode cX1_fault 16 = .ok (.aload_n 0, 1) := dk_42 (dk_at dksX1_fault_0 16 rfl rfl)
theorem dX1_fault_17 : decode cX1_fault 17 = .ok (.getfield 21, 3) := dk_180 0 21 (dk_at dksX1_fault_0 17 rfl rfl)
theorem dX1_fault_20 : decode cX1_fault 20 = .ok (.goto 28, 3) := dk_167 0 28 (dk_at dksX1_fault_0 20 rfl rfl)
theorem dX1_fault_23 : decode cX1_fault 23 = .ok (.iload_n 1, 1) := dk_27 (dk_at dksX1_fault_0 23 rfl rfl)
theorem dX1_fault_24 : decode cX1_fault 24 = .ok (.iconst 2, 1) := dk_5 (dk_at dksX1_fault_1 0 rfl rfl)
theorem dX1_fault_25 : decode cX1_fault 25 = .ok (.if_icmp .ne 10, 3) := dk_160 0 10 (dk_at dksX1_fault_1 1 rfl rfl)
theorem dX1_fault_28 : decode cX1_fault 28 = .ok (.aload_n 0, 1) := dk_42 (dk_at dksX1_fault_1 4 rfl rfl)
theorem dX1_fault_29 : decode cX1_fault 29 = .ok (.getfield 25, 3) := dk_180 0 25 (dk_at dksX1_fault_1 5 rfl rfl)
theorem dX1_fault_32 : decode cX1_fault 32 = .ok (.goto 16, 3) := dk_167 0 16 (dk_at dksX1_fault_1 8 rfl rfl)
theorem dX1_fault_35 : decode cX1_fault 35 = .ok (.iload_n 1, 1) := dk_27 (dk_at dksX1_fault_1 11 rfl rfl)
theorem dX1_fault_36 : decode cX1_fault 36 = .ok (.iconst 3, 1) := dk_6 (dk_at dksX1_fault_1 12 rfl rfl)
theorem dX1_fault_37 : decode cX1_fault 37 = .ok (.if_icmp .ne 10, 3) := dk_160 0 10 (dk_at dksX1_fault_1 13 rfl rfl)
theorem dX1_fault_40 : decode cX1_fault 40 = .ok (.aload_n 0, 1) := dk_42 (dk_at dksX1_fault_1 16 rfl rfl)
theorem dX1_fault_41 : decode cX1_fault 41 = .ok (.getfield 28, 3) := dk_180 0 28 (dk_at dksX1_fault_1 17 rfl rfl)
theorem dX1_fault_44 : decode cX1_fault 44 = .ok (.goto 4, 3) := dk_167 0 4 (dk_at dksX1_fault_1 20 rfl rfl)
theorem dX1_fault_47 : decode cX1_fault 47 = .ok (.iconst (-1), 1) := dk_2 (dk_at dksX1_fault_1 23 rfl rfl)
theorem dX1_fault_48 : decode cX1_fault 48 = .ok (.ireturn, 1) := dk_172 (dk_at dksX1_fault_2 0 rfl rfl)
abbrev cX1_form : ByteArray := prog_24_method_32_code
def yX1_form : MethodName := ⟨RX1, "form", "(I)I"⟩
def dkwX1_form_4 : List UInt8 := [180, 0, 9, 27, 46, 172]
abbrev dktX1_form_4 : List UInt8 := dkwX1_form_4 ++ []
def dkwX1_form_3 : List UInt8 := [28, 154, 0, 6, 16, 254, 172, 42, 180, 0, 153, 153, 0, 5, 2, 172, 42, 27, 182, 1, 3, 42]
abbrev dktX1_form_3 : List UInt8 := dkwX1_form_3 ++ dktX1_form_4
def dkwX1_form_2 : List UInt8 := [167, 0, 4, 3, 62, 29, 153, 255, 221, 42, 16, 43, 182, 0, 253, 62, 167, 255, 211, 42, 182, 1, 0, 87]
abbrev dktX1_form_2 : List UInt8 := dkwX1_form_2 ++ dktX1_form_3
def dkwX1_form_1 : List UInt8 := [180, 0, 9, 7, 46, 181, 0, 159, 42, 182, 0, 250, 153, 0, 14, 42, 180, 0, 142, 153, 0, 7, 4]
abbrev dktX1_form_1 : List UInt8 := dkwX1_form_1 ++ dktX1_form_2
def dkwX1_form_0 : List UInt8 := [42, 182, 0, 247, 42, 180, 0, 9, 7, 3, 79, 27, 184, 0, 111, 61, 28, 62, 29, 153, 0, 47, 42, 42]
abbrev dktX1_form_0 : List UInt8 := dkwX1_form_0 ++ dktX1_form_1
theorem dksX1_form_0 : cX1_form.data.toList.drop 0 = dktX1_form_0 := by decide +kernel
theorem dksX1_form_1 : cX1_form.data.toList.drop 24 = dktX1_form_1 := dk_seg dksX1_form_0 24 rfl rfl
theorem dksX1_form_2 : cX1_form.data.toList.drop 47 = dktX1_form_2 := dk_seg dksX1_form_1 23 rfl rfl
theorem dksX1_form_3 : cX1_form.data.toList.drop 71 = dktX1_form_3 := dk_seg dksX1_form_2 24 rfl rfl
theorem dksX1_form_4 : cX1_form.data.toList.drop 93 = dktX1_form_4 := dk_seg dksX1_form_3 22 rfl rfl
theorem dX1_form_0 : decode cX1_form 0 = .ok (.aload_n 0, 1) := dk_42 (dk_at dksX1_form_0 0 rfl rfl)
theorem dX1_form_1 : decode cX1_form 1 = .ok (.invokevirtual 247, 3) := dk_182 0 247 (dk_at dksX1_form_0 1 rfl rfl)
theorem dX1_form_4 : decode cX1_form 4 = .ok (.aload_n 0, 1) := dk_42 (dk_at dksX1_form_0 4 rfl rfl)
theorem dX1_form_5 : decode cX1_form 5 = .ok (.getfield 9, 3) := dk_180 0 9 (dk_at dksX1_form_0 5 rfl rfl)
theorem dX1_form_8 : decode cX1_form 8 = .ok (.iconst 4, 1) := dk_7 (dk_at dksX1_form_0 8 rfl rfl)
theorem dX1_form_9 : decode cX1_form 9 = .ok (.iconst 0, 1) := dk_3 (dk_at dksX1_form_0 9 rfl rfl)
theorem dX1_form_10 : decode cX1_form 10 = .ok (.iastore, 1) := dk_79 (dk_at dksX1_form_0 10 rfl rfl)
theorem dX1_form_11 : decode cX1_form 11 = .ok (.iload_n 1, 1) := dk_27 (dk_at dksX1_form_0 11 rfl rfl)
theorem dX1_form_12 : decode cX1_form 12 = .ok (.invokestatic 111, 3) := dk_184 0 111 (dk_at dksX1_form_0 12 rfl rfl)
theorem dX1_form_15 : decode cX1_form 15 = .ok (.istore_n 2, 1) := dk_61 (dk_at dksX1_form_0 15 rfl rfl)
theorem dX1_form_16 : decode cX1_form 16 = .ok (.iload_n 2, 1) := dk_28 (dk_at dksX1_form_0 16 rfl rfl)
theorem dX1_form_17 : decode cX1_form 17 = .ok (.istore_n 3, 1) := dk_62 (dk_at dksX1_form_0 17 rfl rfl)
theorem dX1_form_18 : decode cX1_form 18 = .ok (.iload_n 3, 1) := dk_29 (dk_at dksX1_form_0 18 rfl rfl)
theorem dX1_form_19 : decode cX1_form 19 = .ok (.ifCond .eq 47, 3) := dk_153 0 47 (dk_at dksX1_form_0 19 rfl rfl)
theorem dX1_form_22 : decode cX1_form 22 = .ok (.aload_n 0, 1) := dk_42 (dk_at dksX1_form_0 22 rfl rfl)
theorem dX1_form_23 : decode cX1_form 23 = .ok (.aload_n 0, 1) := dk_42 (dk_at dksX1_form_0 23 rfl rfl)
theorem dX1_form_24 : decode cX1_form 24 = .ok (.getfield 9, 3) := dk_180 0 9 (dk_at dksX1_form_1 0 rfl rfl)
theorem dX1_form_27 : decode cX1_form 27 = .ok (.iconst 4, 1) := dk_7 (dk_at dksX1_form_1 3 rfl rfl)
theorem dX1_form_28 : decode cX1_form 28 = .ok (.iaload, 1) := dk_46 (dk_at dksX1_form_1 4 rfl rfl)
theorem dX1_form_29 : decode cX1_form 29 = .ok (.putfield 159, 3) := dk_181 0 159 (dk_at dksX1_form_1 5 rfl rfl)
theorem dX1_form_32 : decode cX1_form 32 = .ok (.aload_n 0, 1) := dk_42 (dk_at dksX1_form_1 8 rfl rfl)
theorem dX1_form_33 : decode cX1_form 33 = .ok (.invokevirtual 250, 3) := dk_182 0 250 (dk_at dksX1_form_1 9 rfl rfl)
theorem dX1_form_36 : decode cX1_form 36 = .ok (.ifCond .eq 14, 3) := dk_153 0 14 (dk_at dksX1_form_1 12 rfl rfl)
theorem dX1_form_39 : decode cX1_form 39 = .ok (.aload_n 0, 1) := dk_42 (dk_at dksX1_form_1 15 rfl rfl)
theorem dX1_form_40 : decode cX1_form 40 = .ok (.getfield 142, 3) := dk_180 0 142 (dk_at dksX1_form_1 16 rfl rfl)
theorem dX1_form_43 : decode cX1_form 43 = .ok (.ifCond .eq 7, 3) := dk_153 0 7 (dk_at dksX1_form_1 19 rfl rfl)
theorem dX1_form_46 : decode cX1_form 46 = .ok (.iconst 1, 1) := dk_4 (dk_at dksX1_form_1 22 rfl rfl)
theorem dX1_form_47 : decode cX1_form 47 = .ok (.goto 4, 3) := dk_167 0 4 (dk_at dksX1_form_2 0 rfl rfl)
theorem dX1_form_50 : decode cX1_form 50 = .ok (.iconst 0, 1) := dk_3 (dk_at dksX1_form_2 3 rfl rfl)
theorem dX1_form_51 : decode cX1_form 51 = .ok (.istore_n 3, 1) := dk_62 (dk_at dksX1_form_2 4 rfl rfl)
theorem dX1_form_52 : decode cX1_form 52 = .ok (.iload_n 3, 1) := dk_29 (dk_at dksX1_form_2 5 rfl rfl)
theorem dX1_form_53 : decode cX1_form 53 = .ok (.ifCond .eq (-35), 3) := dk_153 255 221 (dk_at dksX1_form_2 6 rfl rfl)
theorem dX1_form_56 : decode cX1_form 56 = .ok (.aload_n 0, 1) := dk_42 (dk_at dksX1_form_2 9 rfl rfl)
theorem dX1_form_57 : decode cX1_form 57 = .ok (.bipush 43, 2) := dk_16 43 (dk_at dksX1_form_2 10 rfl rfl)
theorem dX1_form_59 : decode cX1_form 59 = .ok (.invokevirtual 253, 3) := dk_182 0 253 (dk_at dksX1_form_2 12 rfl rfl)
theorem dX1_form_62 : decode cX1_form 62 = .ok (.istore_n 3, 1) := dk_62 (dk_at dksX1_form_2 15 rfl rfl)
theorem dX1_form_63 : decode cX1_form 63 = .ok (.goto (-45), 3) := dk_167 255 211 (dk_at dksX1_form_2 16 rfl rfl)
theorem dX1_form_66 : decode cX1_form 66 = .ok (.aload_n 0, 1) := dk_42 (dk_at dksX1_form_2 19 rfl rfl)
theorem dX1_form_67 : decode cX1_form 67 = .ok (.invokevirtual 256, 3) := dk_182 1 0 (dk_at dksX1_form_2 20 rfl rfl)
theorem dX1_form_70 : decode cX1_form 70 = .ok (.pop, 1) := dk_87 (dk_at dksX1_form_2 23 rfl rfl)
theorem dX1_form_71 : decode cX1_form 71 = .ok (.iload_n 2, 1) := dk_28 (dk_at dksX1_form_3 0 rfl rfl)
theorem dX1_form_72 : decode cX1_form 72 = .ok (.ifCond .ne 6, 3) := dk_154 0 6 (dk_at dksX1_form_3 1 rfl rfl)
theorem dX1_form_75 : decode cX1_form 75 = .ok (.bipush (-2), 2) := dk_16 254 (dk_at dksX1_form_3 4 rfl rfl)
theorem dX1_form_77 : decode cX1_form 77 = .ok (.ireturn, 1) := dk_172 (dk_at dksX1_form_3 6 rfl rfl)
theorem dX1_form_78 : decode cX1_form 78 = .ok (.aload_n 0, 1) := dk_42 (dk_at dksX1_form_3 7 rfl rfl)
theorem dX1_form_79 : decode cX1_form 79 = .ok (.getfield 153, 3) := dk_180 0 153 (dk_at dksX1_form_3 8 rfl rfl)
theorem dX1_form_82 : decode cX1_form 82 = .ok (.ifCond .eq 5, 3) := dk_153 0 5 (dk_at dksX1_form_3 11 rfl rfl)
theorem dX1_form_85 : decode cX1_form 85 = .ok (.iconst (-1), 1) := dk_2 (dk_at dksX1_form_3 14 rfl rfl)
theorem dX1_form_86 : decode cX1_form 86 = .ok (.ireturn, 1) := dk_172 (dk_at dksX1_form_3 15 rfl rfl)
theorem dX1_form_87 : decode cX1_form 87 = .ok (.aload_n 0, 1) := dk_42 (dk_at dksX1_form_3 16 rfl rfl)
theorem dX1_form_88 : decode cX1_form 88 = .ok (.iload_n 1, 1) := dk_27 (dk_at dksX1_form_3 17 rfl rfl)
theorem dX1_form_89 : decode cX1_form 89 = .ok (.invokevirtual 259, 3) := dk_182 1 3 (dk_at dksX1_form_3 18 rfl rfl)
theorem dX1_form_92 : decode cX1_form 92 = .ok (.aload_n 0, 1) := dk_42 (dk_at dksX1_form_3 21 rfl rfl)
theorem dX1_form_93 : decode cX1_form 93 = .ok (.getfield 9, 3) := dk_180 0 9 (dk_at dksX1_form_4 0 rfl rfl)
theorem dX1_form_96 : decode cX1_form 96 = .ok (.iload_n 1, 1) := dk_27 (dk_at dksX1_form_4 3 rfl rfl)
theorem dX1_form_97 : decode cX1_form 97 = .ok (.iaload, 1) := dk_46 (dk_at dksX1_form_4 4 rfl rfl)
theorem dX1_form_98 : decode cX1_form 98 = .ok (.ireturn, 1) := dk_172 (dk_at dksX1_form_4 5 rfl rfl)
abbrev cX1_begins : ByteArray := prog_24_method_23_code
def yX1_begins : MethodName := ⟨RX1, "begins", "()V"⟩
def dkwX1_begins_1 : List UInt8 := [181, 0, 168, 42, 3, 181, 0, 159, 42, 2, 181, 0, 165, 42, 182, 0, 190, 177]
abbrev dktX1_begins_1 : List UInt8 := dkwX1_begins_1 ++ []
def dkwX1_begins_0 : List UInt8 := [42, 3, 181, 0, 122, 42, 3, 181, 0, 153, 42, 2, 181, 0, 156, 42, 2, 181, 0, 162, 42, 2]
abbrev dktX1_begins_0 : List UInt8 := dkwX1_begins_0 ++ dktX1_begins_1
theorem dksX1_begins_0 : cX1_begins.data.toList.drop 0 = dktX1_begins_0 := by decide +kernel
theorem dksX1_begins_1 : cX1_begins.data.toList.drop 22 = dktX1_begins_1 := dk_seg dksX1_begins_0 22 rfl rfl
theorem dX1_begins_0 : decode cX1_begins 0 = .ok (.aload_n 0, 1) := dk_42 (dk_at dksX1_begins_0 0 rfl rfl)
theorem dX1_begins_1 : decode cX1_begins 1 = .ok (.iconst 0, 1) := dk_3 (dk_at dksX1_begins_0 1 rfl rfl)
theorem dX1_begins_2 : decode cX1_begins 2 = .ok (.putfield 122, 3) := dk_181 0 122 (dk_at dksX1_begins_0 2 rfl rfl)
theorem dX1_begins_5 : decode cX1_begins 5 = .ok (.aload_n 0, 1) := dk_42 (dk_at dksX1_begins_0 5 rfl rfl)
theorem dX1_begins_6 : decode cX1_begins 6 = .ok (.iconst 0, 1) := dk_3 (dk_at dksX1_begins_0 6 rfl rfl)
theorem dX1_begins_7 : decode cX1_begins 7 = .ok (.putfield 153, 3) := dk_181 0 153 (dk_at dksX1_begins_0 7 rfl rfl)
theorem dX1_begins_10 : decode cX1_begins 10 = .ok (.aload_n 0, 1) := dk_42 (dk_at dksX1_begins_0 10 rfl rfl)
theorem dX1_begins_11 : decode cX1_begins 11 = .ok (.iconst (-1), 1) := dk_2 (dk_at dksX1_begins_0 11 rfl rfl)
theorem dX1_begins_12 : decode cX1_begins 12 = .ok (.putfield 156, 3) := dk_181 0 156 (dk_at dksX1_begins_0 12 rfl rfl)
theorem dX1_begins_15 : decode cX1_begins 15 = .ok (.aload_n 0, 1) := dk_42 (dk_at dksX1_begins_0 15 rfl rfl)
theorem dX1_begins_16 : decode cX1_begins 16 = .ok (.iconst (-1), 1) := dk_2 (dk_at dksX1_begins_0 16 rfl rfl)
theorem dX1_begins_17 : decode cX1_begins 17 = .ok (.putfield 162, 3) := dk_181 0 162 (dk_at dksX1_begins_0 17 rfl rfl)
theorem dX1_begins_20 : decode cX1_begins 20 = .ok (.aload_n 0, 1) := dk_42 (dk_at dksX1_begins_0 20 rfl rfl)
theorem dX1_begins_21 : decode cX1_begins 21 = .ok (.iconst (-1), 1) := dk_2 (dk_at dksX1_begins_0 21 rfl rfl)
theorem dX1_begins_22 : decode cX1_begins 22 = .ok (.putfield 168, 3) := dk_181 0 168 (dk_at dksX1_begins_1 0 rfl rfl)
theorem dX1_begins_25 : decode cX1_begins 25 = .ok (.aload_n 0, 1) := dk_42 (dk_at dksX1_begins_1 3 rfl rfl)
theorem dX1_begins_26 : decode cX1_begins 26 = .ok (.iconst 0, 1) := dk_3 (dk_at dksX1_begins_1 4 rfl rfl)
theorem dX1_begins_27 : decode cX1_begins 27 = .ok (.putfield 159, 3) := dk_181 0 159 (dk_at dksX1_begins_1 5 rfl rfl)
theorem dX1_begins_30 : decode cX1_begins 30 = .ok (.aload_n 0, 1) := dk_42 (dk_at dksX1_begins_1 8 rfl rfl)
theorem dX1_begins_31 : decode cX1_begins 31 = .ok (.iconst (-1), 1) := dk_2 (dk_at dksX1_begins_1 9 rfl rfl)
theorem dX1_begins_32 : decode cX1_begins 32 = .ok (.putfield 165, 3) := dk_181 0 165 (dk_at dksX1_begins_1 10 rfl rfl)
theorem dX1_begins_35 : decode cX1_begins 35 = .ok (.aload_n 0, 1) := dk_42 (dk_at dksX1_begins_1 13 rfl rfl)
theorem dX1_begins_36 : decode cX1_begins 36 = .ok (.invokevirtual 190, 3) := dk_182 0 190 (dk_at dksX1_begins_1 14 rfl rfl)
theorem dX1_begins_39 : decode cX1_begins 39 = .ok (.return_, 1) := dk_177 (dk_at dksX1_begins_1 17 rfl rfl)
abbrev cX1_next : ByteArray := prog_24_method_16_code
def yX1_next : MethodName := ⟨RX1, "next", "()V"⟩
def dkwX1_next_12 : List UInt8 := [96, 181, 0, 122, 177]
abbrev dktX1_next_12 : List UInt8 := dkwX1_next_12 ++ []
def dkwX1_next_11 : List UInt8 := [4, 96, 181, 0, 122, 167, 255, 189, 42, 6, 181, 0, 142, 42, 27, 181, 0, 139, 42, 89, 180, 0, 122, 4]
abbrev dktX1_next_11 : List UInt8 := dkwX1_next_11 ++ dktX1_next_12
def dkwX1_next_10 : List UInt8 := [180, 0, 136, 104, 42, 42, 180, 0, 122, 182, 0, 125, 96, 16, 48, 100, 181, 0, 136, 42, 89, 180, 0, 122]
abbrev dktX1_next_10 : List UInt8 := dkwX1_next_10 ++ dktX1_next_11
def dkwX1_next_9 : List UInt8 := [184, 0, 105, 153, 0, 72, 42, 180, 0, 122, 42, 180, 0, 129, 100, 7, 162, 0, 26, 42, 16, 10, 42]
abbrev dktX1_next_9 : List UInt8 := dkwX1_next_9 ++ dktX1_next_10
def dkwX1_next_8 : List UInt8 := [153, 0, 78, 42, 5, 181, 0, 142, 42, 42, 180, 0, 122, 182, 0, 125, 133, 20, 0, 149, 20, 0, 151]
abbrev dktX1_next_8 : List UInt8 := dkwX1_next_8 ++ dktX1_next_9
def dkwX1_next_7 : List UInt8 := [180, 0, 122, 4, 96, 181, 0, 122, 167, 255, 188, 27, 133, 20, 0, 149, 20, 0, 151, 184, 0, 105]
abbrev dktX1_next_7 : List UInt8 := dkwX1_next_7 ++ dktX1_next_8
def dkwX1_next_6 : List UInt8 := [180, 0, 132, 8, 121, 42, 42, 180, 0, 122, 182, 0, 125, 16, 96, 100, 133, 129, 181, 0, 132, 42, 89]
abbrev dktX1_next_6 : List UInt8 := dkwX1_next_6 ++ dktX1_next_7
def dkwX1_next_5 : List UInt8 := [184, 0, 105, 153, 0, 162, 42, 180, 0, 122, 42, 180, 0, 129, 100, 16, 7, 162, 0, 26, 42, 42]
abbrev dktX1_next_5 : List UInt8 := dkwX1_next_5 ++ dktX1_next_6
def dkwX1_next_4 : List UInt8 := [153, 0, 79, 42, 4, 181, 0, 142, 42, 42, 180, 0, 122, 182, 0, 125, 133, 20, 0, 145, 20, 0, 147]
abbrev dktX1_next_4 : List UInt8 := dkwX1_next_4 ++ dktX1_next_5
def dkwX1_next_3 : List UInt8 := [27, 2, 160, 0, 11, 42, 3, 181, 0, 142, 167, 0, 202, 27, 133, 20, 0, 145, 20, 0, 147, 184, 0, 105]
abbrev dktX1_next_3 : List UInt8 := dkwX1_next_3 ++ dktX1_next_4
def dkwX1_next_2 : List UInt8 := [42, 42, 180, 0, 122, 182, 0, 125, 60, 42, 9, 181, 0, 132, 42, 3, 181, 0, 136, 42, 3, 181, 0, 139]
abbrev dktX1_next_2 : List UInt8 := dkwX1_next_2 ++ dktX1_next_3
def dkwX1_next_1 : List UInt8 := [160, 0, 16, 42, 89, 180, 0, 122, 4, 96, 181, 0, 122, 167, 255, 220, 42, 42, 180, 0, 122, 181, 0, 129]
abbrev dktX1_next_1 : List UInt8 := dkwX1_next_1 ++ dktX1_next_2
def dkwX1_next_0 : List UInt8 := [42, 42, 180, 0, 122, 182, 0, 125, 16, 32, 159, 0, 16, 42, 42, 180, 0, 122, 182, 0, 125, 16, 10]
abbrev dktX1_next_0 : List UInt8 := dkwX1_next_0 ++ dktX1_next_1
theorem dksX1_next_0 : cX1_next.data.toList.drop 0 = dktX1_next_0 := by decide +kernel
theorem dksX1_next_1 : cX1_next.data.toList.drop 23 = dktX1_next_1 := dk_seg dksX1_next_0 23 rfl rfl
theorem dksX1_next_2 : cX1_next.data.toList.drop 47 = dktX1_next_2 := dk_seg dksX1_next_1 24 rfl rfl
theorem dksX1_next_3 : cX1_next.data.toList.drop 71 = dktX1_next_3 := dk_seg dksX1_next_2 24 rfl rfl
theorem dksX1_next_4 : cX1_next.data.toList.drop 95 = dktX1_next_4 := dk_seg dksX1_next_3 24 rfl rfl
theorem dksX1_next_5 : cX1_next.data.toList.drop 118 = dktX1_next_5 := dk_seg dksX1_next_4 23 rfl rfl
theorem dksX1_next_6 : cX1_next.data.toList.drop 140 = dktX1_next_6 := dk_seg dksX1_next_5 22 rfl rfl
theorem dksX1_next_7 : cX1_next.data.toList.drop 163 = dktX1_next_7 := dk_seg dksX1_next_6 23 rfl rfl
theorem dksX1_next_8 : cX1_next.data.toList.drop 185 = dktX1_next_8 := dk_seg dksX1_next_7 22 rfl rfl
theorem dksX1_next_9 : cX1_next.data.toList.drop 208 = dktX1_next_9 := dk_seg dksX1_next_8 23 rfl rfl
theorem dksX1_next_10 : cX1_next.data.toList.drop 231 = dktX1_next_10 := dk_seg dksX1_next_9 23 rfl rfl
theorem dksX1_next_11 : cX1_next.data.toList.drop 255 = dktX1_next_11 := dk_seg dksX1_next_10 24 rfl rfl
theorem dksX1_next_12 : cX1_next.data.toList.drop 279 = dktX1_next_12 := dk_seg dksX1_next_11 24 rfl rfl
theorem dX1_next_0 : decode cX1_next 0 = .ok (.aload_n 0, 1) := dk_42 (dk_at dksX1_next_0 0 rfl rfl)
theorem dX1_next_1 : decode cX1_next 1 = .ok (.aload_n 0, 1) := dk_42 (dk_at dksX1_next_0 1 rfl rfl)
theorem dX1_next_2 : decode cX1_next 2 = .ok (.getfield 122, 3) := dk_180 0 122 (dk_at dksX1_next_0 2 rfl rfl)
theorem dX1_next_5 : decode cX1_next 5 = .ok (.invokevirtual 125, 3) := dk_182 0 125 (dk_at dksX1_next_0 5 rfl rfl)
theorem dX1_next_8 : decode cX1_next 8 = .ok (.bipush 32, 2) := dk_16 32 (dk_at dksX1_next_0 8 rfl rfl)
theorem dX1_next_10 : decode cX1_next 10 = .ok (.if_icmp .eq 16, 3) := dk_159 0 16 (dk_at dksX1_next_0 10 rfl rfl)
theorem dX1_next_13 : decode cX1_next 13 = .ok (.aload_n 0, 1) := dk_42 (dk_at dksX1_next_0 13 rfl rfl)
theorem dX1_next_14 : decode cX1_next 14 = .ok (.aload_n 0, 1) := dk_42 (dk_at dksX1_next_0 14 rfl rfl)
theorem dX1_next_15 : decode cX1_next 15 = .ok (.getfield 122, 3) := dk_180 0 122 (dk_at dksX1_next_0 15 rfl rfl)
theorem dX1_next_18 : decode cX1_next 18 = .ok (.invokevirtual 125, 3) := dk_182 0 125 (dk_at dksX1_next_0 18 rfl rfl)
theorem dX1_next_21 : decode cX1_next 21 = .ok (.bipush 10, 2) := dk_16 10 (dk_at dksX1_next_0 21 rfl rfl)
theorem dX1_next_23 : decode cX1_next 23 = .ok (.if_icmp .ne 16, 3) := dk_160 0 16 (dk_at dksX1_next_1 0 rfl rfl)
theorem dX1_next_26 : decode cX1_next 26 = .ok (.aload_n 0, 1) := dk_42 (dk_at dksX1_next_1 3 rfl rfl)
theorem dX1_next_27 : decode cX1_next 27 = .ok (.dup, 1) := dk_89 (dk_at dksX1_next_1 4 rfl rfl)
theorem dX1_next_28 : decode cX1_next 28 = .ok (.getfield 122, 3) := dk_180 0 122 (dk_at dksX1_next_1 5 rfl rfl)
theorem dX1_next_31 : decode cX1_next 31 = .ok (.iconst 1, 1) := dk_4 (dk_at dksX1_next_1 8 rfl rfl)
theorem dX1_next_32 : decode cX1_next 32 = .ok (.iadd, 1) := dk_96 (dk_at dksX1_next_1 9 rfl rfl)
theorem dX1_next_33 : decode cX1_next 33 = .ok (.putfield 122, 3) := dk_181 0 122 (dk_at dksX1_next_1 10 rfl rfl)
theorem dX1_next_36 : decode cX1_next 36 = .ok (.goto (-36), 3) := dk_167 255 220 (dk_at dksX1_next_1 13 rfl rfl)
theorem dX1_next_39 : decode cX1_next 39 = .ok (.aload_n 0, 1) := dk_42 (dk_at dksX1_next_1 16 rfl rfl)
theorem dX1_next_40 : decode cX1_next 40 = .ok (.aload_n 0, 1) := dk_42 (dk_at dksX1_next_1 17 rfl rfl)
theorem dX1_next_41 : decode cX1_next 41 = .ok (.getfield 122, 3) := dk_180 0 122 (dk_at dksX1_next_1 18 rfl rfl)
theorem dX1_next_44 : decode cX1_next 44 = .ok (.putfield 129, 3) := dk_181 0 129 (dk_at dksX1_next_1 21 rfl rfl)
theorem dX1_next_47 : decode cX1_next 47 = .ok (.aload_n 0, 1) := dk_42 (dk_at dksX1_next_2 0 rfl rfl)
theorem dX1_next_48 : decode cX1_next 48 = .ok (.aload_n 0, 1) := dk_42 (dk_at dksX1_next_2 1 rfl rfl)
theorem dX1_next_49 : decode cX1_next 49 = .ok (.getfield 122, 3) := dk_180 0 122 (dk_at dksX1_next_2 2 rfl rfl)
theorem dX1_next_52 : decode cX1_next 52 = .ok (.invokevirtual 125, 3) := dk_182 0 125 (dk_at dksX1_next_2 5 rfl rfl)
theorem dX1_next_55 : decode cX1_next 55 = .ok (.istore_n 1, 1) := dk_60 (dk_at dksX1_next_2 8 rfl rfl)
theorem dX1_next_56 : decode cX1_next 56 = .ok (.aload_n 0, 1) := dk_42 (dk_at dksX1_next_2 9 rfl rfl)
theorem dX1_next_57 : decode cX1_next 57 = .ok (.lconst 0, 1) := dk_9 (dk_at dksX1_next_2 10 rfl rfl)
theorem dX1_next_58 : decode cX1_next 58 = .ok (.putfield 132, 3) := dk_181 0 132 (dk_at dksX1_next_2 11 rfl rfl)
theorem dX1_next_61 : decode cX1_next 61 = .ok (.aload_n 0, 1) := dk_42 (dk_at dksX1_next_2 14 rfl rfl)
theorem dX1_next_62 : decode cX1_next 62 = .ok (.iconst 0, 1) := dk_3 (dk_at dksX1_next_2 15 rfl rfl)
theorem dX1_next_63 : decode cX1_next 63 = .ok (.putfield 136, 3) := dk_181 0 136 (dk_at dksX1_next_2 16 rfl rfl)
theorem dX1_next_66 : decode cX1_next 66 = .ok (.aload_n 0, 1) := dk_42 (dk_at dksX1_next_2 19 rfl rfl)
theorem dX1_next_67 : decode cX1_next 67 = .ok (.iconst 0, 1) := dk_3 (dk_at dksX1_next_2 20 rfl rfl)
theorem dX1_next_68 : decode cX1_next 68 = .ok (.putfield 139, 3) := dk_181 0 139 (dk_at dksX1_next_2 21 rfl rfl)
theorem dX1_next_71 : decode cX1_next 71 = .ok (.iload_n 1, 1) := dk_27 (dk_at dksX1_next_3 0 rfl rfl)
theorem dX1_next_72 : decode cX1_next 72 = .ok (.iconst (-1), 1) := dk_2 (dk_at dksX1_next_3 1 rfl rfl)
theorem dX1_next_73 : decode cX1_next 73 = .ok (.if_icmp .ne 11, 3) := dk_160 0 11 (dk_at dksX1_next_3 2 rfl rfl)
theorem dX1_next_76 : decode cX1_next 76 = .ok (.aload_n 0, 1) := dk_42 (dk_at dksX1_next_3 5 rfl rfl)
theorem dX1_next_77 : decode cX1_next 77 = .ok (.iconst 0, 1) := dk_3 (dk_at dksX1_next_3 6 rfl rfl)
theorem dX1_next_78 : decode cX1_next 78 = .ok (.putfield 142, 3) := dk_181 0 142 (dk_at dksX1_next_3 7 rfl rfl)
theorem dX1_next_81 : decode cX1_next 81 = .ok (.goto 202, 3) := dk_167 0 202 (dk_at dksX1_next_3 10 rfl rfl)
theorem dX1_next_84 : decode cX1_next 84 = .ok (.iload_n 1, 1) := dk_27 (dk_at dksX1_next_3 13 rfl rfl)
theorem dX1_next_85 : decode cX1_next 85 = .ok (.i2l, 1) := dk_133 (dk_at dksX1_next_3 14 rfl rfl)
theorem dX1_next_86 : decode cX1_next 86 = .ok (.ldc2_w 145, 3) := dk_20 0 145 (dk_at dksX1_next_3 15 rfl rfl)
theorem dX1_next_89 : decode cX1_next 89 = .ok (.ldc2_w 147, 3) := dk_20 0 147 (dk_at dksX1_next_3 18 rfl rfl)
theorem dX1_next_92 : decode cX1_next 92 = .ok (.invokestatic 105, 3) := dk_184 0 105 (dk_at dksX1_next_3 21 rfl rfl)
theorem dX1_next_95 : decode cX1_next 95 = .ok (.ifCond .eq 79, 3) := dk_153 0 79 (dk_at dksX1_next_4 0 rfl rfl)
theorem dX1_next_98 : decode cX1_next 98 = .ok (.aload_n 0, 1) := dk_42 (dk_at dksX1_next_4 3 rfl rfl)
theorem dX1_next_99 : decode cX1_next 99 = .ok (.iconst 1, 1) := dk_4 (dk_at dksX1_next_4 4 rfl rfl)
theorem dX1_next_100 : decode cX1_next 100 = .ok (.putfield 142, 3) := dk_181 0 142 (dk_at dksX1_next_4 5 rfl rfl)
theorem dX1_next_103 : decode cX1_next 103 = .ok (.aload_n 0, 1) := dk_42 (dk_at dksX1_next_4 8 rfl rfl)
theorem dX1_next_104 : decode cX1_next 104 = .ok (.aload_n 0, 1) := dk_42 (dk_at dksX1_next_4 9 rfl rfl)
theorem dX1_next_105 : decode cX1_next 105 = .ok (.getfield 122, 3) := dk_180 0 122 (dk_at dksX1_next_4 10 rfl rfl)
theorem dX1_next_108 : decode cX1_next 108 = .ok (.invokevirtual 125, 3) := dk_182 0 125 (dk_at dksX1_next_4 13 rfl rfl)
theorem dX1_next_111 : decode cX1_next 111 = .ok (.i2l, 1) := dk_133 (dk_at dksX1_next_4 16 rfl rfl)
theorem dX1_next_112 : decode cX1_next 112 = .ok (.ldc2_w 145, 3) := dk_20 0 145 (dk_at dksX1_next_4 17 rfl rfl)
theorem dX1_next_115 : decode cX1_next 115 = .ok (.ldc2_w 147, 3) := dk_20 0 147 (dk_at dksX1_next_4 20 rfl rfl)
theorem dX1_next_118 : decode cX1_next 118 = .ok (.invokestatic 105, 3) := dk_184 0 105 (dk_at dksX1_next_5 0 rfl rfl)
theorem dX1_next_121 : decode cX1_next 121 = .ok (.ifCond .eq 162, 3) := dk_153 0 162 (dk_at dksX1_next_5 3 rfl rfl)
theorem dX1_next_124 : decode cX1_next 124 = .ok (.aload_n 0, 1) := dk_42 (dk_at dksX1_next_5 6 rfl rfl)
theorem dX1_next_125 : decode cX1_next 125 = .ok (.getfield 122, 3) := dk_180 0 122 (dk_at dksX1_next_5 7 rfl rfl)
theorem dX1_next_128 : decode cX1_next 128 = .ok (.aload_n 0, 1) := dk_42 (dk_at dksX1_next_5 10 rfl rfl)
theorem dX1_next_129 : decode cX1_next 129 = .ok (.getfield 129, 3) := dk_180 0 129 (dk_at dksX1_next_5 11 rfl rfl)
theorem dX1_next_132 : decode cX1_next 132 = .ok (.isub, 1) := dk_100 (dk_at dksX1_next_5 14 rfl rfl)
theorem dX1_next_133 : decode cX1_next 133 = .ok (.bipush 7, 2) := dk_16 7 (dk_at dksX1_next_5 15 rfl rfl)
theorem dX1_next_135 : decode cX1_next 135 = .ok (.if_icmp .ge 26, 3) := dk_162 0 26 (dk_at dksX1_next_5 17 rfl rfl)
theorem dX1_next_138 : decode cX1_next 138 = .ok (.aload_n 0, 1) := dk_42 (dk_at dksX1_next_5 20 rfl rfl)
theorem dX1_next_139 : decode cX1_next 139 = .ok (.aload_n 0, 1) := dk_42 (dk_at dksX1_next_5 21 rfl rfl)
theorem dX1_next_140 : decode cX1_next 140 = .ok (.getfield 132, 3) := dk_180 0 132 (dk_at dksX1_next_6 0 rfl rfl)
theorem dX1_next_143 : decode cX1_next 143 = .ok (.iconst 5, 1) := dk_8 (dk_at dksX1_next_6 3 rfl rfl)
theorem dX1_next_144 : decode cX1_next 144 = .ok (.lshl, 1) := dk_121 (dk_at dksX1_next_6 4 rfl rfl)
theorem dX1_next_145 : decode cX1_next 145 = .ok (.aload_n 0, 1) := dk_42 (dk_at dksX1_next_6 5 rfl rfl)
theorem dX1_next_146 : decode cX1_next 146 = .ok (.aload_n 0, 1) := dk_42 (dk_at dksX1_next_6 6 rfl rfl)
theorem dX1_next_147 : decode cX1_next 147 = .ok (.getfield 122, 3) := dk_180 0 122 (dk_at dksX1_next_6 7 rfl rfl)
theorem dX1_next_150 : decode cX1_next 150 = .ok (.invokevirtual 125, 3) := dk_182 0 125 (dk_at dksX1_next_6 10 rfl rfl)
theorem dX1_next_153 : decode cX1_next 153 = .ok (.bipush 96, 2) := dk_16 96 (dk_at dksX1_next_6 13 rfl rfl)
theorem dX1_next_155 : decode cX1_next 155 = .ok (.isub, 1) := dk_100 (dk_at dksX1_next_6 15 rfl rfl)
theorem dX1_next_156 : decode cX1_next 156 = .ok (.i2l, 1) := dk_133 (dk_at dksX1_next_6 16 rfl rfl)
theorem dX1_next_157 : decode cX1_next 157 = .ok (.lor, 1) := dk_129 (dk_at dksX1_next_6 17 rfl rfl)
theorem dX1_next_158 : decode cX1_next 158 = .ok (.putfield 132, 3) := dk_181 0 132 (dk_at dksX1_next_6 18 rfl rfl)
theorem dX1_next_161 : decode cX1_next 161 = .ok (.aload_n 0, 1) := dk_42 (dk_at dksX1_next_6 21 rfl rfl)
theorem dX1_next_162 : decode cX1_next 162 = .ok (.dup, 1) := dk_89 (dk_at dksX1_next_6 22 rfl rfl)
theorem dX1_next_163 : decode cX1_next 163 = .ok (.getfield 122, 3) := dk_180 0 122 (dk_at dksX1_next_7 0 rfl rfl)
theorem dX1_next_166 : decode cX1_next 166 = .ok (.iconst 1, 1) := dk_4 (dk_at dksX1_next_7 3 rfl rfl)
theorem dX1_next_167 : decode cX1_next 167 = .ok (.iadd, 1) := dk_96 (dk_at dksX1_next_7 4 rfl rfl)
theorem dX1_next_168 : decode cX1_next 168 = .ok (.putfield 122, 3) := dk_181 0 122 (dk_at dksX1_next_7 5 rfl rfl)
theorem dX1_next_171 : decode cX1_next 171 = .ok (.goto (-68), 3) := dk_167 255 188 (dk_at dksX1_next_7 8 rfl rfl)
theorem dX1_next_174 : decode cX1_next 174 = .ok (.iload_n 1, 1) := dk_27 (dk_at dksX1_next_7 11 rfl rfl)
theorem dX1_next_175 : decode cX1_next 175 = .ok (.i2l, 1) := dk_133 (dk_at dksX1_next_7 12 rfl rfl)
theorem dX1_next_176 : decode cX1_next 176 = .ok (.ldc2_w 149, 3) := dk_20 0 149 (dk_at dksX1_next_7 13 rfl rfl)
theorem dX1_next_179 : decode cX1_next 179 = .ok (.ldc2_w 151, 3) := dk_20 0 151 (dk_at dksX1_next_7 16 rfl rfl)
theorem dX1_next_182 : decode cX1_next 182 = .ok (.invokestatic 105, 3) := dk_184 0 105 (dk_at dksX1_next_7 19 rfl rfl)
theorem dX1_next_185 : decode cX1_next 185 = .ok (.ifCond .eq 78, 3) := dk_153 0 78 (dk_at dksX1_next_8 0 rfl rfl)
theorem dX1_next_188 : decode cX1_next 188 = .ok (.aload_n 0, 1) := dk_42 (dk_at dksX1_next_8 3 rfl rfl)
theorem dX1_next_189 : decode cX1_next 189 = .ok (.iconst 2, 1) := dk_5 (dk_at dksX1_next_8 4 rfl rfl)
theorem dX1_next_190 : decode cX1_next 190 = .ok (.putfield 142, 3) := dk_181 0 142 (dk_at dksX1_next_8 5 rfl rfl)
theorem dX1_next_193 : decode cX1_next 193 = .ok (.aload_n 0, 1) := dk_42 (dk_at dksX1_next_8 8 rfl rfl)
theorem dX1_next_194 : decode cX1_next 194 = .ok (.aload_n 0, 1) := dk_42 (dk_at dksX1_next_8 9 rfl rfl)
theorem dX1_next_195 : decode cX1_next 195 = .ok (.getfield 122, 3) := dk_180 0 122 (dk_at dksX1_next_8 10 rfl rfl)
theorem dX1_next_198 : decode cX1_next 198 = .ok (.invokevirtual 125, 3) := dk_182 0 125 (dk_at dksX1_next_8 13 rfl rfl)
theorem dX1_next_201 : decode cX1_next 201 = .ok (.i2l, 1) := dk_133 (dk_at dksX1_next_8 16 rfl rfl)
theorem dX1_next_202 : decode cX1_next 202 = .ok (.ldc2_w 149, 3) := dk_20 0 149 (dk_at dksX1_next_8 17 rfl rfl)
theorem dX1_next_205 : decode cX1_next 205 = .ok (.ldc2_w 151, 3) := dk_20 0 151 (dk_at dksX1_next_8 20 rfl rfl)
theorem dX1_next_208 : decode cX1_next 208 = .ok (.invokestatic 105, 3) := dk_184 0 105 (dk_at dksX1_next_9 0 rfl rfl)
theorem dX1_next_211 : decode cX1_next 211 = .ok (.ifCond .eq 72, 3) := dk_153 0 72 (dk_at dksX1_next_9 3 rfl rfl)
theorem dX1_next_214 : decode cX1_next 214 = .ok (.aload_n 0, 1) := dk_42 (dk_at dksX1_next_9 6 rfl rfl)
theorem dX1_next_215 : decode cX1_next 215 = .ok (.getfield 122, 3) := dk_180 0 122 (dk_at dksX1_next_9 7 rfl rfl)
theorem dX1_next_218 : decode cX1_next 218 = .ok (.aload_n 0, 1) := dk_42 (dk_at dksX1_next_9 10 rfl rfl)
theorem dX1_next_219 : decode cX1_next 219 = .ok (.getfield 129, 3) := dk_180 0 129 (dk_at dksX1_next_9 11 rfl rfl)
theorem dX1_next_222 : decode cX1_next 222 = .ok (.isub, 1) := dk_100 (dk_at dksX1_next_9 14 rfl rfl)
theorem dX1_next_223 : decode cX1_next 223 = .ok (.iconst 4, 1) := dk_7 (dk_at dksX1_next_9 15 rfl rfl)
theorem dX1_next_224 : decode cX1_next 224 = .ok (.if_icmp .ge 26, 3) := dk_162 0 26 (dk_at dksX1_next_9 16 rfl rfl)
theorem dX1_next_227 : decode cX1_next 227 = .ok (.aload_n 0, 1) := dk_42 (dk_at dksX1_next_9 19 rfl rfl)
theorem dX1_next_228 : decode cX1_next 228 = .ok (.bipush 10, 2) := dk_16 10 (dk_at dksX1_next_9 20 rfl rfl)
theorem dX1_next_230 : decode cX1_next 230 = .ok (.aload_n 0, 1) := dk_42 (dk_at dksX1_next_9 22 rfl rfl)
theorem dX1_next_231 : decode cX1_next 231 = .ok (.getfield 136, 3) := dk_180 0 136 (dk_at dksX1_next_10 0 rfl rfl)
theorem dX1_next_234 : decode cX1_next 234 = .ok (.imul, 1) := dk_104 (dk_at dksX1_next_10 3 rfl rfl)
theorem dX1_next_235 : decode cX1_next 235 = .ok (.aload_n 0, 1) := dk_42 (dk_at dksX1_next_10 4 rfl rfl)
theorem dX1_next_236 : decode cX1_next 236 = .ok (.aload_n 0, 1) := dk_42 (dk_at dksX1_next_10 5 rfl rfl)
theorem dX1_next_237 : decode cX1_next 237 = .ok (.getfield 122, 3) := dk_180 0 122 (dk_at dksX1_next_10 6 rfl rfl)
theorem dX1_next_240 : decode cX1_next 240 = .ok (.invokevirtual 125, 3) := dk_182 0 125 (dk_at dksX1_next_10 9 rfl rfl)
theorem dX1_next_243 : decode cX1_next 243 = .ok (.iadd, 1) := dk_96 (dk_at dksX1_next_10 12 rfl rfl)
theorem dX1_next_244 : decode cX1_next 244 = .ok (.bipush 48, 2) := dk_16 48 (dk_at dksX1_next_10 13 rfl rfl)
theorem dX1_next_246 : decode cX1_next 246 = .ok (.isub, 1) := dk_100 (dk_at dksX1_next_10 15 rfl rfl)
theorem dX1_next_247 : decode cX1_next 247 = .ok (.putfield 136, 3) := dk_181 0 136 (dk_at dksX1_next_10 16 rfl rfl)
theorem dX1_next_250 : decode cX1_next 250 = .ok (.aload_n 0, 1) := dk_42 (dk_at dksX1_next_10 19 rfl rfl)
theorem dX1_next_251 : decode cX1_next 251 = .ok (.dup, 1) := dk_89 (dk_at dksX1_next_10 20 rfl rfl)
theorem dX1_next_252 : decode cX1_next 252 = .ok (.getfield 122, 3) := dk_180 0 122 (dk_at dksX1_next_10 21 rfl rfl)
theorem dX1_next_255 : decode cX1_next 255 = .ok (.iconst 1, 1) := dk_4 (dk_at dksX1_next_11 0 rfl rfl)
theorem dX1_next_256 : decode cX1_next 256 = .ok (.iadd, 1) := dk_96 (dk_at dksX1_next_11 1 rfl rfl)
theorem dX1_next_257 : decode cX1_next 257 = .ok (.putfield 122, 3) := dk_181 0 122 (dk_at dksX1_next_11 2 rfl rfl)
theorem dX1_next_260 : decode cX1_next 260 = .ok (.goto (-67), 3) := dk_167 255 189 (dk_at dksX1_next_11 5 rfl rfl)
theorem dX1_next_263 : decode cX1_next 263 = .ok (.aload_n 0, 1) := dk_42 (dk_at dksX1_next_11 8 rfl rfl)
theorem dX1_next_264 : decode cX1_next 264 = .ok (.iconst 3, 1) := dk_6 (dk_at dksX1_next_11 9 rfl rfl)
theorem dX1_next_265 : decode cX1_next 265 = .ok (.putfield 142, 3) := dk_181 0 142 (dk_at dksX1_next_11 10 rfl rfl)
theorem dX1_next_268 : decode cX1_next 268 = .ok (.aload_n 0, 1) := dk_42 (dk_at dksX1_next_11 13 rfl rfl)
theorem dX1_next_269 : decode cX1_next 269 = .ok (.iload_n 1, 1) := dk_27 (dk_at dksX1_next_11 14 rfl rfl)
theorem dX1_next_270 : decode cX1_next 270 = .ok (.putfield 139, 3) := dk_181 0 139 (dk_at dksX1_next_11 15 rfl rfl)
theorem dX1_next_273 : decode cX1_next 273 = .ok (.aload_n 0, 1) := dk_42 (dk_at dksX1_next_11 18 rfl rfl)
theorem dX1_next_274 : decode cX1_next 274 = .ok (.dup, 1) := dk_89 (dk_at dksX1_next_11 19 rfl rfl)
theorem dX1_next_275 : decode cX1_next 275 = .ok (.getfield 122, 3) := dk_180 0 122 (dk_at dksX1_next_11 20 rfl rfl)
theorem dX1_next_278 : decode cX1_next 278 = .ok (.iconst 1, 1) := dk_4 (dk_at dksX1_next_11 23 rfl rfl)
theorem dX1_next_279 : decode cX1_next 279 = .ok (.iadd, 1) := dk_96 (dk_at dksX1_next_12 0 rfl rfl)
theorem dX1_next_280 : decode cX1_next 280 = .ok (.putfield 122, 3) := dk_181 0 122 (dk_at dksX1_next_12 1 rfl rfl)
theorem dX1_next_283 : decode cX1_next 283 = .ok (.return_, 1) := dk_177 (dk_at dksX1_next_12 4 rfl rfl)
abbrev cX1_see : ByteArray := prog_24_method_15_code
def yX1_see : MethodName := ⟨RX1, "see", "(I)I"⟩
def dkwX1_see_0 : List UInt8 := [27, 42, 180, 0, 115, 162, 0, 12, 42, 180, 0, 18, 27, 46, 167, 0, 4, 2, 172]
abbrev dktX1_see_0 : List UInt8 := dkwX1_see_0 ++ []
theorem dksX1_see_0 : cX1_see.data.toList.drop 0 = dktX1_see_0 := by decide +kernel
theorem dX1_see_0 : decode cX1_see 0 = .ok (.iload_n 1, 1) := dk_27 (dk_at dksX1_see_0 0 rfl rfl)
theorem dX1_see_1 : decode cX1_see 1 = .ok (.aload_n 0, 1) := dk_42 (dk_at dksX1_see_0 1 rfl rfl)
theorem dX1_see_2 : decode cX1_see 2 = .ok (.getfield 115, 3) := dk_180 0 115 (dk_at dksX1_see_0 2 rfl rfl)
theorem dX1_see_5 : decode cX1_see 5 = .ok (.if_icmp .ge 12, 3) := dk_162 0 12 (dk_at dksX1_see_0 5 rfl rfl)
theorem dX1_see_8 : decode cX1_see 8 = .ok (.aload_n 0, 1) := dk_42 (dk_at dksX1_see_0 8 rfl rfl)
theorem dX1_see_9 : decode cX1_see 9 = .ok (.getfield 18, 3) := dk_180 0 18 (dk_at dksX1_see_0 9 rfl rfl)
theorem dX1_see_12 : decode cX1_see 12 = .ok (.iload_n 1, 1) := dk_27 (dk_at dksX1_see_0 12 rfl rfl)
theorem dX1_see_13 : decode cX1_see 13 = .ok (.iaload, 1) := dk_46 (dk_at dksX1_see_0 13 rfl rfl)
theorem dX1_see_14 : decode cX1_see 14 = .ok (.goto 4, 3) := dk_167 0 4 (dk_at dksX1_see_0 14 rfl rfl)
theorem dX1_see_17 : decode cX1_see 17 = .ok (.iconst (-1), 1) := dk_2 (dk_at dksX1_see_0 17 rfl rfl)
theorem dX1_see_18 : decode cX1_see 18 = .ok (.ireturn, 1) := dk_172 (dk_at dksX1_see_0 18 rfl rfl)
abbrev cX1_isSlot : ByteArray := prog_24_method_8_code
def yX1_isSlot : MethodName := ⟨RX1, "isSlot", "(I)Z"⟩
def dkwX1_isSlot_0 : List UInt8 := [26, 133, 9, 20, 0, 109, 184, 0, 105, 172]
abbrev dktX1_isSlot_0 : List UInt8 := dkwX1_isSlot_0 ++ []
theorem dksX1_isSlot_0 : cX1_isSlot.data.toList.drop 0 = dktX1_isSlot_0 := by decide +kernel
theorem dX1_isSlot_0 : decode cX1_isSlot 0 = .ok (.iload_n 0, 1) := dk_26 (dk_at dksX1_isSlot_0 0 rfl rfl)
theorem dX1_isSlot_1 : decode cX1_isSlot 1 = .ok (.i2l, 1) := dk_133 (dk_at dksX1_isSlot_0 1 rfl rfl)
theorem dX1_isSlot_2 : decode cX1_isSlot 2 = .ok (.lconst 0, 1) := dk_9 (dk_at dksX1_isSlot_0 2 rfl rfl)
theorem dX1_isSlot_3 : decode cX1_isSlot 3 = .ok (.ldc2_w 109, 3) := dk_20 0 109 (dk_at dksX1_isSlot_0 3 rfl rfl)
theorem dX1_isSlot_6 : decode cX1_isSlot 6 = .ok (.invokestatic 105, 3) := dk_184 0 105 (dk_at dksX1_isSlot_0 6 rfl rfl)
theorem dX1_isSlot_9 : decode cX1_isSlot 9 = .ok (.ireturn, 1) := dk_172 (dk_at dksX1_isSlot_0 9 rfl rfl)
abbrev cX1_readTerm : ByteArray := prog_24_method_29_code
def yX1_readTerm : MethodName := ⟨RX1, "readTerm", "()Z"⟩
def dkwX1_readTerm_14 : List UInt8 := [182, 0, 190, 42, 180, 0, 9, 7, 92, 46, 4, 96, 79, 4, 172]
abbrev dktX1_readTerm_14 : List UInt8 := dkwX1_readTerm_14 ++ []
def dkwX1_readTerm_13 : List UInt8 := [154, 0, 9, 42, 6, 182, 0, 187, 172, 42, 180, 0, 15, 29, 6, 96, 42, 182, 0, 231, 79, 42]
abbrev dktX1_readTerm_13 : List UInt8 := dkwX1_readTerm_13 ++ dktX1_readTerm_14
def dkwX1_readTerm_12 : List UInt8 := [180, 0, 15, 29, 5, 96, 46, 161, 0, 20, 42, 7, 27, 42, 182, 0, 231, 133, 182, 0, 234, 184, 0, 238]
abbrev dktX1_readTerm_12 : List UInt8 := dkwX1_readTerm_12 ++ dktX1_readTerm_13
def dkwX1_readTerm_11 : List UInt8 := [182, 0, 187, 172, 42, 182, 0, 190, 42, 182, 0, 228, 154, 0, 5, 3, 172, 42, 182, 0, 231, 42]
abbrev dktX1_readTerm_11 : List UInt8 := dkwX1_readTerm_11 ++ dktX1_readTerm_12
def dkwX1_readTerm_10 : List UInt8 := [5, 96, 42, 182, 0, 231, 79, 42, 182, 0, 190, 42, 18, 242, 182, 0, 198, 154, 0, 9, 42, 4]
abbrev dktX1_readTerm_10 : List UInt8 := dkwX1_readTerm_10 ++ dktX1_readTerm_11
def dkwX1_readTerm_9 : List UInt8 := [182, 0, 231, 133, 182, 0, 234, 184, 0, 238, 154, 0, 9, 42, 6, 182, 0, 187, 172, 42, 180, 0, 15, 29]
abbrev dktX1_readTerm_9 : List UInt8 := dkwX1_readTerm_9 ++ dktX1_readTerm_10
def dkwX1_readTerm_8 : List UInt8 := [182, 0, 198, 153, 0, 137, 42, 182, 0, 190, 42, 182, 0, 228, 154, 0, 5, 3, 172, 42, 7, 27, 42]
abbrev dktX1_readTerm_8 : List UInt8 := dkwX1_readTerm_8 ++ dktX1_readTerm_9
def dkwX1_readTerm_7 : List UInt8 := [96, 42, 180, 0, 15, 29, 3, 96, 46, 21, 4, 184, 0, 223, 79, 42, 182, 0, 190, 42, 18, 227]
abbrev dktX1_readTerm_7 : List UInt8 := dkwX1_readTerm_7 ++ dktX1_readTerm_8
def dkwX1_readTerm_6 : List UInt8 := [180, 0, 15, 29, 4, 96, 21, 4, 79, 42, 180, 0, 15, 29, 5, 96, 3, 79, 42, 180, 0, 15, 29, 6]
abbrev dktX1_readTerm_6 : List UInt8 := dkwX1_readTerm_6 ++ dktX1_readTerm_7
def dkwX1_readTerm_5 : List UInt8 := [182, 0, 190, 42, 182, 0, 218, 54, 4, 21, 4, 2, 160, 0, 9, 42, 4, 182, 0, 187, 172, 42]
abbrev dktX1_readTerm_5 : List UInt8 := dkwX1_readTerm_5 ++ dktX1_readTerm_6
def dkwX1_readTerm_4 : List UInt8 := [79, 42, 180, 0, 142, 5, 160, 0, 19, 42, 180, 0, 15, 29, 3, 96, 42, 180, 0, 136, 79, 42]
abbrev dktX1_readTerm_4 : List UInt8 := dkwX1_readTerm_4 ++ dktX1_readTerm_5
def dkwX1_readTerm_3 : List UInt8 := [160, 0, 9, 42, 7, 182, 0, 187, 172, 7, 16, 20, 27, 96, 104, 62, 42, 180, 0, 15, 29, 3, 96, 4]
abbrev dktX1_readTerm_3 : List UInt8 := dkwX1_readTerm_3 ++ dktX1_readTerm_4
def dkwX1_readTerm_2 : List UInt8 := [180, 0, 136, 133, 10, 20, 0, 221, 184, 0, 105, 154, 0, 9, 42, 5, 182, 0, 187, 172, 27, 8]
abbrev dktX1_readTerm_2 : List UInt8 := dkwX1_readTerm_2 ++ dktX1_readTerm_3
def dkwX1_readTerm_1 : List UInt8 := [167, 0, 4, 3, 61, 28, 154, 0, 9, 42, 4, 182, 0, 187, 172, 42, 182, 0, 214, 153, 0, 24, 42]
abbrev dktX1_readTerm_1 : List UInt8 := dkwX1_readTerm_1 ++ dktX1_readTerm_2
def dkwX1_readTerm_0 : List UInt8 := [42, 180, 0, 9, 7, 46, 60, 42, 182, 0, 214, 154, 0, 11, 42, 182, 0, 218, 2, 159, 0, 7, 4]
abbrev dktX1_readTerm_0 : List UInt8 := dkwX1_readTerm_0 ++ dktX1_readTerm_1
theorem dksX1_readTerm_0 : cX1_readTerm.data.toList.drop 0 = dktX1_readTerm_0 := by decide +kernel
theorem dksX1_readTerm_1 : cX1_readTerm.data.toList.drop 23 = dktX1_readTerm_1 := dk_seg dksX1_readTerm_0 23 rfl rfl
theorem dksX1_readTerm_2 : cX1_readTerm.data.toList.drop 46 = dktX1_readTerm_2 := dk_seg dksX1_readTerm_1 23 rfl rfl
theorem dksX1_readTerm_3 : cX1_readTerm.data.toList.drop 68 = dktX1_readTerm_3 := dk_seg dksX1_readTerm_2 22 rfl rfl
theorem dksX1_readTerm_4 : cX1_readTerm.data.toList.drop 92 = dktX1_readTerm_4 := dk_seg dksX1_readTerm_3 24 rfl rfl
theorem dksX1_readTerm_5 : cX1_readTerm.data.toList.drop 114 = dktX1_readTerm_5 := dk_seg dksX1_readTerm_4 22 rfl rfl
theorem dksX1_readTerm_6 : cX1_readTerm.data.toList.drop 136 = dktX1_readTerm_6 := dk_seg dksX1_readTerm_5 22 rfl rfl
theorem dksX1_readTerm_7 : cX1_readTerm.data.toList.drop 160 = dktX1_readTerm_7 := dk_seg dksX1_readTerm_6 24 rfl rfl
theorem dksX1_readTerm_8 : cX1_readTerm.data.toList.drop 182 = dktX1_readTerm_8 := dk_seg dksX1_readTerm_7 22 rfl rfl
theorem dksX1_readTerm_9 : cX1_readTerm.data.toList.drop 205 = dktX1_readTerm_9 := dk_seg dksX1_readTerm_8 23 rfl rfl
theorem dksX1_readTerm_10 : cX1_readTerm.data.toList.drop 229 = dktX1_readTerm_10 := dk_seg dksX1_readTerm_9 24 rfl rfl
theorem dksX1_readTerm_11 : cX1_readTerm.data.toList.drop 251 = dktX1_readTerm_11 := dk_seg dksX1_readTerm_10 22 rfl rfl
theorem dksX1_readTerm_12 : cX1_readTerm.data.toList.drop 273 = dktX1_readTerm_12 := dk_seg dksX1_readTerm_11 22 rfl rfl
theorem dksX1_readTerm_13 : cX1_readTerm.data.toList.drop 297 = dktX1_readTerm_13 := dk_seg dksX1_readTerm_12 24 rfl rfl
theorem dksX1_readTerm_14 : cX1_readTerm.data.toList.drop 319 = dktX1_readTerm_14 := dk_seg dksX1_readTerm_13 22 rfl rfl
theorem dX1_readTerm_0 : decode cX1_readTerm 0 = .ok (.aload_n 0, 1) := dk_42 (dk_at dksX1_readTerm_0 0 rfl rfl)
theorem dX1_readTerm_1 : decode cX1_readTerm 1 = .ok (.getfield 9, 3) := dk_180 0 9 (dk_at dksX1_readTerm_0 1 rfl rfl)
theorem dX1_readTerm_4 : decode cX1_readTerm 4 = .ok (.iconst 4, 1) := dk_7 (dk_at dksX1_readTerm_0 4 rfl rfl)
theorem dX1_readTerm_5 : decode cX1_readTerm 5 = .ok (.iaload, 1) := dk_46 (dk_at dksX1_readTerm_0 5 rfl rfl)
theorem dX1_readTerm_6 : decode cX1_readTerm 6 = .ok (.istore_n 1, 1) := dk_60 (dk_at dksX1_readTerm_0 6 rfl rfl)
theorem dX1_readTerm_7 : decode cX1_readTerm 7 = .ok (.aload_n 0, 1) := dk_42 (dk_at dksX1_readTerm_0 7 rfl rfl)
theorem dX1_readTerm_8 : decode cX1_readTerm 8 = .ok (.invokevirtual 214, 3) := dk_182 0 214 (dk_at dksX1_readTerm_0 8 rfl rfl)
theorem dX1_readTerm_11 : decode cX1_readTerm 11 = .ok (.ifCond .ne 11, 3) := dk_154 0 11 (dk_at dksX1_readTerm_0 11 rfl rfl)
theorem dX1_readTerm_14 : decode cX1_readTerm 14 = .ok (.aload_n 0, 1) := dk_42 (dk_at dksX1_readTerm_0 14 rfl rfl)
theorem dX1_readTerm_15 : decode cX1_readTerm 15 = .ok (.invokevirtual 218, 3) := dk_182 0 218 (dk_at dksX1_readTerm_0 15 rfl rfl)
theorem dX1_readTerm_18 : decode cX1_readTerm 18 = .ok (.iconst (-1), 1) := dk_2 (dk_at dksX1_readTerm_0 18 rfl rfl)
theorem dX1_readTerm_19 : decode cX1_readTerm 19 = .ok (.if_icmp .eq 7, 3) := dk_159 0 7 (dk_at dksX1_readTerm_0 19 rfl rfl)
theorem dX1_readTerm_22 : decode cX1_readTerm 22 = .ok (.iconst 1, 1) := dk_4 (dk_at dksX1_readTerm_0 22 rfl rfl)
theorem dX1_readTerm_23 : decode cX1_readTerm 23 = .ok (.goto 4, 3) := dk_167 0 4 (dk_at dksX1_readTerm_1 0 rfl rfl)
theorem dX1_readTerm_26 : decode cX1_readTerm 26 = .ok (.iconst 0, 1) := dk_3 (dk_at dksX1_readTerm_1 3 rfl rfl)
theorem dX1_readTerm_27 : decode cX1_readTerm 27 = .ok (.istore_n 2, 1) := dk_61 (dk_at dksX1_readTerm_1 4 rfl rfl)
theorem dX1_readTerm_28 : decode cX1_readTerm 28 = .ok (.iload_n 2, 1) := dk_28 (dk_at dksX1_readTerm_1 5 rfl rfl)
theorem dX1_readTerm_29 : decode cX1_readTerm 29 = .ok (.ifCond .ne 9, 3) := dk_154 0 9 (dk_at dksX1_readTerm_1 6 rfl rfl)
theorem dX1_readTerm_32 : decode cX1_readTerm 32 = .ok (.aload_n 0, 1) := dk_42 (dk_at dksX1_readTerm_1 9 rfl rfl)
theorem dX1_readTerm_33 : decode cX1_readTerm 33 = .ok (.iconst 1, 1) := dk_4 (dk_at dksX1_readTerm_1 10 rfl rfl)
theorem dX1_readTerm_34 : decode cX1_readTerm 34 = .ok (.invokevirtual 187, 3) := dk_182 0 187 (dk_at dksX1_readTerm_1 11 rfl rfl)
theorem dX1_readTerm_37 : decode cX1_readTerm 37 = .ok (.ireturn, 1) := dk_172 (dk_at dksX1_readTerm_1 14 rfl rfl)
theorem dX1_readTerm_38 : decode cX1_readTerm 38 = .ok (.aload_n 0, 1) := dk_42 (dk_at dksX1_readTerm_1 15 rfl rfl)
theorem dX1_readTerm_39 : decode cX1_readTerm 39 = .ok (.invokevirtual 214, 3) := dk_182 0 214 (dk_at dksX1_readTerm_1 16 rfl rfl)
theorem dX1_readTerm_42 : decode cX1_readTerm 42 = .ok (.ifCond .eq 24, 3) := dk_153 0 24 (dk_at dksX1_readTerm_1 19 rfl rfl)
theorem dX1_readTerm_45 : decode cX1_readTerm 45 = .ok (.aload_n 0, 1) := dk_42 (dk_at dksX1_readTerm_1 22 rfl rfl)
theorem dX1_readTerm_46 : decode cX1_readTerm 46 = .ok (.getfield 136, 3) := dk_180 0 136 (dk_at dksX1_readTerm_2 0 rfl rfl)
theorem dX1_readTerm_49 : decode cX1_readTerm 49 = .ok (.i2l, 1) := dk_133 (dk_at dksX1_readTerm_2 3 rfl rfl)
theorem dX1_readTerm_50 : decode cX1_readTerm 50 = .ok (.lconst 1, 1) := dk_10 (dk_at dksX1_readTerm_2 4 rfl rfl)
theorem dX1_readTerm_51 : decode cX1_readTerm 51 = .ok (.ldc2_w 221, 3) := dk_20 0 221 (dk_at dksX1_readTerm_2 5 rfl rfl)
theorem dX1_readTerm_54 : decode cX1_readTerm 54 = .ok (.invokestatic 105, 3) := dk_184 0 105 (dk_at dksX1_readTerm_2 8 rfl rfl)
theorem dX1_readTerm_57 : decode cX1_readTerm 57 = .ok (.ifCond .ne 9, 3) := dk_154 0 9 (dk_at dksX1_readTerm_2 11 rfl rfl)
theorem dX1_readTerm_60 : decode cX1_readTerm 60 = .ok (.aload_n 0, 1) := dk_42 (dk_at dksX1_readTerm_2 14 rfl rfl)
theorem dX1_readTerm_61 : decode cX1_readTerm 61 = .ok (.iconst 2, 1) := dk_5 (dk_at dksX1_readTerm_2 15 rfl rfl)
theorem dX1_readTerm_62 : decode cX1_readTerm 62 = .ok (.invokevirtual 187, 3) := dk_182 0 187 (dk_at dksX1_readTerm_2 16 rfl rfl)
theorem dX1_readTerm_65 : decode cX1_readTerm 65 = .ok (.ireturn, 1) := dk_172 (dk_at dksX1_readTerm_2 19 rfl rfl)
theorem dX1_readTerm_66 : decode cX1_readTerm 66 = .ok (.iload_n 1, 1) := dk_27 (dk_at dksX1_readTerm_2 20 rfl rfl)
theorem dX1_readTerm_67 : decode cX1_readTerm 67 = .ok (.iconst 5, 1) := dk_8 (dk_at dksX1_readTerm_2 21 rfl rfl)
theorem dX1_readTerm_68 : decode cX1_readTerm 68 = .ok (.if_icmp .ne 9, 3) := dk_160 0 9 (dk_at dksX1_readTerm_3 0 rfl rfl)
theorem dX1_readTerm_71 : decode cX1_readTerm 71 = .ok (.aload_n 0, 1) := dk_42 (dk_at dksX1_readTerm_3 3 rfl rfl)
theorem dX1_readTerm_72 : decode cX1_readTerm 72 = .ok (.iconst 4, 1) := dk_7 (dk_at dksX1_readTerm_3 4 rfl rfl)
theorem dX1_readTerm_73 : decode cX1_readTerm 73 = .ok (.invokevirtual 187, 3) := dk_182 0 187 (dk_at dksX1_readTerm_3 5 rfl rfl)
theorem dX1_readTerm_76 : decode cX1_readTerm 76 = .ok (.ireturn, 1) := dk_172 (dk_at dksX1_readTerm_3 8 rfl rfl)
theorem dX1_readTerm_77 : decode cX1_readTerm 77 = .ok (.iconst 4, 1) := dk_7 (dk_at dksX1_readTerm_3 9 rfl rfl)
theorem dX1_readTerm_78 : decode cX1_readTerm 78 = .ok (.bipush 20, 2) := dk_16 20 (dk_at dksX1_readTerm_3 10 rfl rfl)
theorem dX1_readTerm_80 : decode cX1_readTerm 80 = .ok (.iload_n 1, 1) := dk_27 (dk_at dksX1_readTerm_3 12 rfl rfl)
theorem dX1_readTerm_81 : decode cX1_readTerm 81 = .ok (.iadd, 1) := dk_96 (dk_at dksX1_readTerm_3 13 rfl rfl)
theorem dX1_readTerm_82 : decode cX1_readTerm 82 = .ok (.imul, 1) := dk_104 (dk_at dksX1_readTerm_3 14 rfl rfl)
theorem dX1_readTerm_83 : decode cX1_readTerm 83 = .ok (.istore_n 3, 1) := dk_62 (dk_at dksX1_readTerm_3 15 rfl rfl)
theorem dX1_readTerm_84 : decode cX1_readTerm 84 = .ok (.aload_n 0, 1) := dk_42 (dk_at dksX1_readTerm_3 16 rfl rfl)
theorem dX1_readTerm_85 : decode cX1_readTerm 85 = .ok (.getfield 15, 3) := dk_180 0 15 (dk_at dksX1_readTerm_3 17 rfl rfl)
theorem dX1_readTerm_88 : decode cX1_readTerm 88 = .ok (.iload_n 3, 1) := dk_29 (dk_at dksX1_readTerm_3 20 rfl rfl)
theorem dX1_readTerm_89 : decode cX1_readTerm 89 = .ok (.iconst 0, 1) := dk_3 (dk_at dksX1_readTerm_3 21 rfl rfl)
theorem dX1_readTerm_90 : decode cX1_readTerm 90 = .ok (.iadd, 1) := dk_96 (dk_at dksX1_readTerm_3 22 rfl rfl)
theorem dX1_readTerm_91 : decode cX1_readTerm 91 = .ok (.iconst 1, 1) := dk_4 (dk_at dksX1_readTerm_3 23 rfl rfl)
theorem dX1_readTerm_92 : decode cX1_readTerm 92 = .ok (.iastore, 1) := dk_79 (dk_at dksX1_readTerm_4 0 rfl rfl)
theorem dX1_readTerm_93 : decode cX1_readTerm 93 = .ok (.aload_n 0, 1) := dk_42 (dk_at dksX1_readTerm_4 1 rfl rfl)
theorem dX1_readTerm_94 : decode cX1_readTerm 94 = .ok (.getfield 142, 3) := dk_180 0 142 (dk_at dksX1_readTerm_4 2 rfl rfl)
theorem dX1_readTerm_97 : decode cX1_readTerm 97 = .ok (.iconst 2, 1) := dk_5 (dk_at dksX1_readTerm_4 5 rfl rfl)
theorem dX1_readTerm_98 : decode cX1_readTerm 98 = .ok (.if_icmp .ne 19, 3) := dk_160 0 19 (dk_at dksX1_readTerm_4 6 rfl rfl)
theorem dX1_readTerm_101 : decode cX1_readTerm 101 = .ok (.aload_n 0, 1) := dk_42 (dk_at dksX1_readTerm_4 9 rfl rfl)
theorem dX1_readTerm_102 : decode cX1_readTerm 102 = .ok (.getfield 15, 3) := dk_180 0 15 (dk_at dksX1_readTerm_4 10 rfl rfl)
theorem dX1_readTerm_105 : decode cX1_readTerm 105 = .ok (.iload_n 3, 1) := dk_29 (dk_at dksX1_readTerm_4 13 rfl rfl)
theorem dX1_readTerm_106 : decode cX1_readTerm 106 = .ok (.iconst 0, 1) := dk_3 (dk_at dksX1_readTerm_4 14 rfl rfl)
theorem dX1_readTerm_107 : decode cX1_readTerm 107 = .ok (.iadd, 1) := dk_96 (dk_at dksX1_readTerm_4 15 rfl rfl)
theorem dX1_readTerm_108 : decode cX1_readTerm 108 = .ok (.aload_n 0, 1) := dk_42 (dk_at dksX1_readTerm_4 16 rfl rfl)
theorem dX1_readTerm_109 : decode cX1_readTerm 109 = .ok (.getfield 136, 3) := dk_180 0 136 (dk_at dksX1_readTerm_4 17 rfl rfl)
theorem dX1_readTerm_112 : decode cX1_readTerm 112 = .ok (.iastore, 1) := dk_79 (dk_at dksX1_readTerm_4 20 rfl rfl)
theorem dX1_readTerm_113 : decode cX1_readTerm 113 = .ok (.aload_n 0, 1) := dk_42 (dk_at dksX1_readTerm_4 21 rfl rfl)
theorem dX1_readTerm_114 : decode cX1_readTerm 114 = .ok (.invokevirtual 190, 3) := dk_182 0 190 (dk_at dksX1_readTerm_5 0 rfl rfl)
theorem dX1_readTerm_117 : decode cX1_readTerm 117 = .ok (.aload_n 0, 1) := dk_42 (dk_at dksX1_readTerm_5 3 rfl rfl)
theorem dX1_readTerm_118 : decode cX1_readTerm 118 = .ok (.invokevirtual 218, 3) := dk_182 0 218 (dk_at dksX1_readTerm_5 4 rfl rfl)
theorem dX1_readTerm_121 : decode cX1_readTerm 121 = .ok (.istore 4, 2) := dk_54 4 (dk_at dksX1_readTerm_5 7 rfl rfl)
theorem dX1_readTerm_123 : decode cX1_readTerm 123 = .ok (.iload 4, 2) := dk_21 4 (dk_at dksX1_readTerm_5 9 rfl rfl)
theorem dX1_readTerm_125 : decode cX1_readTerm 125 = .ok (.iconst (-1), 1) := dk_2 (dk_at dksX1_readTerm_5 11 rfl rfl)
theorem dX1_readTerm_126 : decode cX1_readTerm 126 = .ok (.if_icmp .ne 9, 3) := dk_160 0 9 (dk_at dksX1_readTerm_5 12 rfl rfl)
theorem dX1_readTerm_129 : decode cX1_readTerm 129 = .ok (.aload_n 0, 1) := dk_42 (dk_at dksX1_readTerm_5 15 rfl rfl)
theorem dX1_readTerm_130 : decode cX1_readTerm 130 = .ok (.iconst 1, 1) := dk_4 (dk_at dksX1_readTerm_5 16 rfl rfl)
theorem dX1_readTerm_131 : decode cX1_readTerm 131 = .ok (.invokevirtual 187, 3) := dk_182 0 187 (dk_at dksX1_readTerm_5 17 rfl rfl)
theorem dX1_readTerm_134 : decode cX1_readTerm 134 = .ok (.ireturn, 1) := dk_172 (dk_at dksX1_readTerm_5 20 rfl rfl)
theorem dX1_readTerm_135 : decode cX1_readTerm 135 = .ok (.aload_n 0, 1) := dk_42 (dk_at dksX1_readTerm_5 21 rfl rfl)
theorem dX1_readTerm_136 : decode cX1_readTerm 136 = .ok (.getfield 15, 3) := dk_180 0 15 (dk_at dksX1_readTerm_6 0 rfl rfl)
theorem dX1_readTerm_139 : decode cX1_readTerm 139 = .ok (.iload_n 3, 1) := dk_29 (dk_at dksX1_readTerm_6 3 rfl rfl)
theorem dX1_readTerm_140 : decode cX1_readTerm 140 = .ok (.iconst 1, 1) := dk_4 (dk_at dksX1_readTerm_6 4 rfl rfl)
theorem dX1_readTerm_141 : decode cX1_readTerm 141 = .ok (.iadd, 1) := dk_96 (dk_at dksX1_readTerm_6 5 rfl rfl)
theorem dX1_readTerm_142 : decode cX1_readTerm 142 = .ok (.iload 4, 2) := dk_21 4 (dk_at dksX1_readTerm_6 6 rfl rfl)
theorem dX1_readTerm_144 : decode cX1_readTerm 144 = .ok (.iastore, 1) := dk_79 (dk_at dksX1_readTerm_6 8 rfl rfl)
theorem dX1_readTerm_145 : decode cX1_readTerm 145 = .ok (.aload_n 0, 1) := dk_42 (dk_at dksX1_readTerm_6 9 rfl rfl)
theorem dX1_readTerm_146 : decode cX1_readTerm 146 = .ok (.getfield 15, 3) := dk_180 0 15 (dk_at dksX1_readTerm_6 10 rfl rfl)
theorem dX1_readTerm_149 : decode cX1_readTerm 149 = .ok (.iload_n 3, 1) := dk_29 (dk_at dksX1_readTerm_6 13 rfl rfl)
theorem dX1_readTerm_150 : decode cX1_readTerm 150 = .ok (.iconst 2, 1) := dk_5 (dk_at dksX1_readTerm_6 14 rfl rfl)
theorem dX1_readTerm_151 : decode cX1_readTerm 151 = .ok (.iadd, 1) := dk_96 (dk_at dksX1_readTerm_6 15 rfl rfl)
theorem dX1_readTerm_152 : decode cX1_readTerm 152 = .ok (.iconst 0, 1) := dk_3 (dk_at dksX1_readTerm_6 16 rfl rfl)
theorem dX1_readTerm_153 : decode cX1_readTerm 153 = .ok (.iastore, 1) := dk_79 (dk_at dksX1_readTerm_6 17 rfl rfl)
theorem dX1_readTerm_154 : decode cX1_readTerm 154 = .ok (.aload_n 0, 1) := dk_42 (dk_at dksX1_readTerm_6 18 rfl rfl)
theorem dX1_readTerm_155 : decode cX1_readTerm 155 = .ok (.getfield 15, 3) := dk_180 0 15 (dk_at dksX1_readTerm_6 19 rfl rfl)
theorem dX1_readTerm_158 : decode cX1_readTerm 158 = .ok (.iload_n 3, 1) := dk_29 (dk_at dksX1_readTerm_6 22 rfl rfl)
theorem dX1_readTerm_159 : decode cX1_readTerm 159 = .ok (.iconst 3, 1) := dk_6 (dk_at dksX1_readTerm_6 23 rfl rfl)
theorem dX1_readTerm_160 : decode cX1_readTerm 160 = .ok (.iadd, 1) := dk_96 (dk_at dksX1_readTerm_7 0 rfl rfl)
theorem dX1_readTerm_161 : decode cX1_readTerm 161 = .ok (.aload_n 0, 1) := dk_42 (dk_at dksX1_readTerm_7 1 rfl rfl)
theorem dX1_readTerm_162 : decode cX1_readTerm 162 = .ok (.getfield 15, 3) := dk_180 0 15 (dk_at dksX1_readTerm_7 2 rfl rfl)
theorem dX1_readTerm_165 : decode cX1_readTerm 165 = .ok (.iload_n 3, 1) := dk_29 (dk_at dksX1_readTerm_7 5 rfl rfl)
theorem dX1_readTerm_166 : decode cX1_readTerm 166 = .ok (.iconst 0, 1) := dk_3 (dk_at dksX1_readTerm_7 6 rfl rfl)
theorem dX1_readTerm_167 : decode cX1_readTerm 167 = .ok (.iadd, 1) := dk_96 (dk_at dksX1_readTerm_7 7 rfl rfl)
theorem dX1_readTerm_168 : decode cX1_readTerm 168 = .ok (.iaload, 1) := dk_46 (dk_at dksX1_readTerm_7 8 rfl rfl)
theorem dX1_readTerm_169 : decode cX1_readTerm 169 = .ok (.iload 4, 2) := dk_21 4 (dk_at dksX1_readTerm_7 9 rfl rfl)
theorem dX1_readTerm_171 : decode cX1_readTerm 171 = .ok (.invokestatic 223, 3) := dk_184 0 223 (dk_at dksX1_readTerm_7 11 rfl rfl)
theorem dX1_readTerm_174 : decode cX1_readTerm 174 = .ok (.iastore, 1) := dk_79 (dk_at dksX1_readTerm_7 14 rfl rfl)
theorem dX1_readTerm_175 : decode cX1_readTerm 175 = .ok (.aload_n 0, 1) := dk_42 (dk_at dksX1_readTerm_7 15 rfl rfl)
theorem dX1_readTerm_176 : decode cX1_readTerm 176 = .ok (.invokevirtual 190, 3) := dk_182 0 190 (dk_at dksX1_readTerm_7 16 rfl rfl)
theorem dX1_readTerm_179 : decode cX1_readTerm 179 = .ok (.aload_n 0, 1) := dk_42 (dk_at dksX1_readTerm_7 19 rfl rfl)
theorem dX1_readTerm_180 : decode cX1_readTerm 180 = .ok (.ldc 227, 2) := dk_18 227 (dk_at dksX1_readTerm_7 20 rfl rfl)
theorem dX1_readTerm_182 : decode cX1_readTerm 182 = .ok (.invokevirtual 198, 3) := dk_182 0 198 (dk_at dksX1_readTerm_8 0 rfl rfl)
theorem dX1_readTerm_185 : decode cX1_readTerm 185 = .ok (.ifCond .eq 137, 3) := dk_153 0 137 (dk_at dksX1_readTerm_8 3 rfl rfl)
theorem dX1_readTerm_188 : decode cX1_readTerm 188 = .ok (.aload_n 0, 1) := dk_42 (dk_at dksX1_readTerm_8 6 rfl rfl)
theorem dX1_readTerm_189 : decode cX1_readTerm 189 = .ok (.invokevirtual 190, 3) := dk_182 0 190 (dk_at dksX1_readTerm_8 7 rfl rfl)
theorem dX1_readTerm_192 : decode cX1_readTerm 192 = .ok (.aload_n 0, 1) := dk_42 (dk_at dksX1_readTerm_8 10 rfl rfl)
theorem dX1_readTerm_193 : decode cX1_readTerm 193 = .ok (.invokevirtual 228, 3) := dk_182 0 228 (dk_at dksX1_readTerm_8 11 rfl rfl)
theorem dX1_readTerm_196 : decode cX1_readTerm 196 = .ok (.ifCond .ne 5, 3) := dk_154 0 5 (dk_at dksX1_readTerm_8 14 rfl rfl)
theorem dX1_readTerm_199 : decode cX1_readTerm 199 = .ok (.iconst 0, 1) := dk_3 (dk_at dksX1_readTerm_8 17 rfl rfl)
theorem dX1_readTerm_200 : decode cX1_readTerm 200 = .ok (.ireturn, 1) := dk_172 (dk_at dksX1_readTerm_8 18 rfl rfl)
theorem dX1_readTerm_201 : decode cX1_readTerm 201 = .ok (.aload_n 0, 1) := dk_42 (dk_at dksX1_readTerm_8 19 rfl rfl)
theorem dX1_readTerm_202 : decode cX1_readTerm 202 = .ok (.iconst 4, 1) := dk_7 (dk_at dksX1_readTerm_8 20 rfl rfl)
theorem dX1_readTerm_203 : decode cX1_readTerm 203 = .ok (.iload_n 1, 1) := dk_27 (dk_at dksX1_readTerm_8 21 rfl rfl)
theorem dX1_readTerm_204 : decode cX1_readTerm 204 = .ok (.aload_n 0, 1) := dk_42 (dk_at dksX1_readTerm_8 22 rfl rfl)
theorem dX1_readTerm_205 : decode cX1_readTerm 205 = .ok (.invokevirtual 231, 3) := dk_182 0 231 (dk_at dksX1_readTerm_9 0 rfl rfl)
theorem dX1_readTerm_208 : decode cX1_readTerm 208 = .ok (.i2l, 1) := dk_133 (dk_at dksX1_readTerm_9 3 rfl rfl)
theorem dX1_readTerm_209 : decode cX1_readTerm 209 = .ok (.invokevirtual 234, 3) := dk_182 0 234 (dk_at dksX1_readTerm_9 4 rfl rfl)
theorem dX1_readTerm_212 : decode cX1_readTerm 212 = .ok (.invokestatic 238, 3) := dk_184 0 238 (dk_at dksX1_readTerm_9 7 rfl rfl)
theorem dX1_readTerm_215 : decode cX1_readTerm 215 = .ok (.ifCond .ne 9, 3) := dk_154 0 9 (dk_at dksX1_readTerm_9 10 rfl rfl)
theorem dX1_readTerm_218 : decode cX1_readTerm 218 = .ok (.aload_n 0, 1) := dk_42 (dk_at dksX1_readTerm_9 13 rfl rfl)
theorem dX1_readTerm_219 : decode cX1_readTerm 219 = .ok (.iconst 3, 1) := dk_6 (dk_at dksX1_readTerm_9 14 rfl rfl)
theorem dX1_readTerm_220 : decode cX1_readTerm 220 = .ok (.invokevirtual 187, 3) := dk_182 0 187 (dk_at dksX1_readTerm_9 15 rfl rfl)
theorem dX1_readTerm_223 : decode cX1_readTerm 223 = .ok (.ireturn, 1) := dk_172 (dk_at dksX1_readTerm_9 18 rfl rfl)
theorem dX1_readTerm_224 : decode cX1_readTerm 224 = .ok (.aload_n 0, 1) := dk_42 (dk_at dksX1_readTerm_9 19 rfl rfl)
theorem dX1_readTerm_225 : decode cX1_readTerm 225 = .ok (.getfield 15, 3) := dk_180 0 15 (dk_at dksX1_readTerm_9 20 rfl rfl)
theorem dX1_readTerm_228 : decode cX1_readTerm 228 = .ok (.iload_n 3, 1) := dk_29 (dk_at dksX1_readTerm_9 23 rfl rfl)
theorem dX1_readTerm_229 : decode cX1_readTerm 229 = .ok (.iconst 2, 1) := dk_5 (dk_at dksX1_readTerm_10 0 rfl rfl)
theorem dX1_readTerm_230 : decode cX1_readTerm 230 = .ok (.iadd, 1) := dk_96 (dk_at dksX1_readTerm_10 1 rfl rfl)
theorem dX1_readTerm_231 : decode cX1_readTerm 231 = .ok (.aload_n 0, 1) := dk_42 (dk_at dksX1_readTerm_10 2 rfl rfl)
theorem dX1_readTerm_232 : decode cX1_readTerm 232 = .ok (.invokevirtual 231, 3) := dk_182 0 231 (dk_at dksX1_readTerm_10 3 rfl rfl)
theorem dX1_readTerm_235 : decode cX1_readTerm 235 = .ok (.iastore, 1) := dk_79 (dk_at dksX1_readTerm_10 6 rfl rfl)
theorem dX1_readTerm_236 : decode cX1_readTerm 236 = .ok (.aload_n 0, 1) := dk_42 (dk_at dksX1_readTerm_10 7 rfl rfl)
theorem dX1_readTerm_237 : decode cX1_readTerm 237 = .ok (.invokevirtual 190, 3) := dk_182 0 190 (dk_at dksX1_readTerm_10 8 rfl rfl)
theorem dX1_readTerm_240 : decode cX1_readTerm 240 = .ok (.aload_n 0, 1) := dk_42 (dk_at dksX1_readTerm_10 11 rfl rfl)
theorem dX1_readTerm_241 : decode cX1_readTerm 241 = .ok (.ldc 242, 2) := dk_18 242 (dk_at dksX1_readTerm_10 12 rfl rfl)
theorem dX1_readTerm_243 : decode cX1_readTerm 243 = .ok (.invokevirtual 198, 3) := dk_182 0 198 (dk_at dksX1_readTerm_10 14 rfl rfl)
theorem dX1_readTerm_246 : decode cX1_readTerm 246 = .ok (.ifCond .ne 9, 3) := dk_154 0 9 (dk_at dksX1_readTerm_10 17 rfl rfl)
theorem dX1_readTerm_249 : decode cX1_readTerm 249 = .ok (.aload_n 0, 1) := dk_42 (dk_at dksX1_readTerm_10 20 rfl rfl)
theorem dX1_readTerm_250 : decode cX1_readTerm 250 = .ok (.iconst 1, 1) := dk_4 (dk_at dksX1_readTerm_10 21 rfl rfl)
theorem dX1_readTerm_251 : decode cX1_readTerm 251 = .ok (.invokevirtual 187, 3) := dk_182 0 187 (dk_at dksX1_readTerm_11 0 rfl rfl)
theorem dX1_readTerm_254 : decode cX1_readTerm 254 = .ok (.ireturn, 1) := dk_172 (dk_at dksX1_readTerm_11 3 rfl rfl)
theorem dX1_readTerm_255 : decode cX1_readTerm 255 = .ok (.aload_n 0, 1) := dk_42 (dk_at dksX1_readTerm_11 4 rfl rfl)
theorem dX1_readTerm_256 : decode cX1_readTerm 256 = .ok (.invokevirtual 190, 3) := dk_182 0 190 (dk_at dksX1_readTerm_11 5 rfl rfl)
theorem dX1_readTerm_259 : decode cX1_readTerm 259 = .ok (.aload_n 0, 1) := dk_42 (dk_at dksX1_readTerm_11 8 rfl rfl)
theorem dX1_readTerm_260 : decode cX1_readTerm 260 = .ok (.invokevirtual 228, 3) := dk_182 0 228 (dk_at dksX1_readTerm_11 9 rfl rfl)
theorem dX1_readTerm_263 : decode cX1_readTerm 263 = .ok (.ifCond .ne 5, 3) := dk_154 0 5 (dk_at dksX1_readTerm_11 12 rfl rfl)
theorem dX1_readTerm_266 : decode cX1_readTerm 266 = .ok (.iconst 0, 1) := dk_3 (dk_at dksX1_readTerm_11 15 rfl rfl)
theorem dX1_readTerm_267 : decode cX1_readTerm 267 = .ok (.ireturn, 1) := dk_172 (dk_at dksX1_readTerm_11 16 rfl rfl)
theorem dX1_readTerm_268 : decode cX1_readTerm 268 = .ok (.aload_n 0, 1) := dk_42 (dk_at dksX1_readTerm_11 17 rfl rfl)
theorem dX1_readTerm_269 : decode cX1_readTerm 269 = .ok (.invokevirtual 231, 3) := dk_182 0 231 (dk_at dksX1_readTerm_11 18 rfl rfl)
theorem dX1_readTerm_272 : decode cX1_readTerm 272 = .ok (.aload_n 0, 1) := dk_42 (dk_at dksX1_readTerm_11 21 rfl rfl)
theorem dX1_readTerm_273 : decode cX1_readTerm 273 = .ok (.getfield 15, 3) := dk_180 0 15 (dk_at dksX1_readTerm_12 0 rfl rfl)
theorem dX1_readTerm_276 : decode cX1_readTerm 276 = .ok (.iload_n 3, 1) := dk_29 (dk_at dksX1_readTerm_12 3 rfl rfl)
theorem dX1_readTerm_277 : decode cX1_readTerm 277 = .ok (.iconst 2, 1) := dk_5 (dk_at dksX1_readTerm_12 4 rfl rfl)
theorem dX1_readTerm_278 : decode cX1_readTerm 278 = .ok (.iadd, 1) := dk_96 (dk_at dksX1_readTerm_12 5 rfl rfl)
theorem dX1_readTerm_279 : decode cX1_readTerm 279 = .ok (.iaload, 1) := dk_46 (dk_at dksX1_readTerm_12 6 rfl rfl)
theorem dX1_readTerm_280 : decode cX1_readTerm 280 = .ok (.if_icmp .lt 20, 3) := dk_161 0 20 (dk_at dksX1_readTerm_12 7 rfl rfl)
theorem dX1_readTerm_283 : decode cX1_readTerm 283 = .ok (.aload_n 0, 1) := dk_42 (dk_at dksX1_readTerm_12 10 rfl rfl)
theorem dX1_readTerm_284 : decode cX1_readTerm 284 = .ok (.iconst 4, 1) := dk_7 (dk_at dksX1_readTerm_12 11 rfl rfl)
theorem dX1_readTerm_285 : decode cX1_readTerm 285 = .ok (.iload_n 1, 1) := dk_27 (dk_at dksX1_readTerm_12 12 rfl rfl)
theorem dX1_readTerm_286 : decode cX1_readTerm 286 = .ok (.aload_n 0, 1) := dk_42 (dk_at dksX1_readTerm_12 13 rfl rfl)
theorem dX1_readTerm_287 : decode cX1_readTerm 287 = .ok (.invokevirtual 231, 3) := dk_182 0 231 (dk_at dksX1_readTerm_12 14 rfl rfl)
theorem dX1_readTerm_290 : decode cX1_readTerm 290 = .ok (.i2l, 1) := dk_133 (dk_at dksX1_readTerm_12 17 rfl rfl)
theorem dX1_readTerm_291 : decode cX1_readTerm 291 = .ok (.invokevirtual 234, 3) := dk_182 0 234 (dk_at dksX1_readTerm_12 18 rfl rfl)
theorem dX1_readTerm_294 : decode cX1_readTerm 294 = .ok (.invokestatic 238, 3) := dk_184 0 238 (dk_at dksX1_readTerm_12 21 rfl rfl)
theorem dX1_readTerm_297 : decode cX1_readTerm 297 = .ok (.ifCond .ne 9, 3) := dk_154 0 9 (dk_at dksX1_readTerm_13 0 rfl rfl)
theorem dX1_readTerm_300 : decode cX1_readTerm 300 = .ok (.aload_n 0, 1) := dk_42 (dk_at dksX1_readTerm_13 3 rfl rfl)
theorem dX1_readTerm_301 : decode cX1_readTerm 301 = .ok (.iconst 3, 1) := dk_6 (dk_at dksX1_readTerm_13 4 rfl rfl)
theorem dX1_readTerm_302 : decode cX1_readTerm 302 = .ok (.invokevirtual 187, 3) := dk_182 0 187 (dk_at dksX1_readTerm_13 5 rfl rfl)
theorem dX1_readTerm_305 : decode cX1_readTerm 305 = .ok (.ireturn, 1) := dk_172 (dk_at dksX1_readTerm_13 8 rfl rfl)
theorem dX1_readTerm_306 : decode cX1_readTerm 306 = .ok (.aload_n 0, 1) := dk_42 (dk_at dksX1_readTerm_13 9 rfl rfl)
theorem dX1_readTerm_307 : decode cX1_readTerm 307 = .ok (.getfield 15, 3) := dk_180 0 15 (dk_at dksX1_readTerm_13 10 rfl rfl)
theorem dX1_readTerm_310 : decode cX1_readTerm 310 = .ok (.iload_n 3, 1) := dk_29 (dk_at dksX1_readTerm_13 13 rfl rfl)
theorem dX1_readTerm_311 : decode cX1_readTerm 311 = .ok (.iconst 3, 1) := dk_6 (dk_at dksX1_readTerm_13 14 rfl rfl)
theorem dX1_readTerm_312 : decode cX1_readTerm 312 = .ok (.iadd, 1) := dk_96 (dk_at dksX1_readTerm_13 15 rfl rfl)
theorem dX1_readTerm_313 : decode cX1_readTerm 313 = .ok (.aload_n 0, 1) := dk_42 (dk_at dksX1_readTerm_13 16 rfl rfl)
theorem dX1_readTerm_314 : decode cX1_readTerm 314 = .ok (.invokevirtual 231, 3) := dk_182 0 231 (dk_at dksX1_readTerm_13 17 rfl rfl)
theorem dX1_readTerm_317 : decode cX1_readTerm 317 = .ok (.iastore, 1) := dk_79 (dk_at dksX1_readTerm_13 20 rfl rfl)
theorem dX1_readTerm_318 : decode cX1_readTerm 318 = .ok (.aload_n 0, 1) := dk_42 (dk_at dksX1_readTerm_13 21 rfl rfl)
theorem dX1_readTerm_319 : decode cX1_readTerm 319 = .ok (.invokevirtual 190, 3) := dk_182 0 190 (dk_at dksX1_readTerm_14 0 rfl rfl)
theorem dX1_readTerm_322 : decode cX1_readTerm 322 = .ok (.aload_n 0, 1) := dk_42 (dk_at dksX1_readTerm_14 3 rfl rfl)
theorem dX1_readTerm_323 : decode cX1_readTerm 323 = .ok (.getfield 9, 3) := dk_180 0 9 (dk_at dksX1_readTerm_14 4 rfl rfl)
theorem dX1_readTerm_326 : decode cX1_readTerm 326 = .ok (.iconst 4, 1) := dk_7 (dk_at dksX1_readTerm_14 7 rfl rfl)
theorem dX1_readTerm_327 : decode cX1_readTerm 327 = .ok (.dup2, 1) := dk_92 (dk_at dksX1_readTerm_14 8 rfl rfl)
theorem dX1_readTerm_328 : decode cX1_readTerm 328 = .ok (.iaload, 1) := dk_46 (dk_at dksX1_readTerm_14 9 rfl rfl)
theorem dX1_readTerm_329 : decode cX1_readTerm 329 = .ok (.iconst 1, 1) := dk_4 (dk_at dksX1_readTerm_14 10 rfl rfl)
theorem dX1_readTerm_330 : decode cX1_readTerm 330 = .ok (.iadd, 1) := dk_96 (dk_at dksX1_readTerm_14 11 rfl rfl)
theorem dX1_readTerm_331 : decode cX1_readTerm 331 = .ok (.iastore, 1) := dk_79 (dk_at dksX1_readTerm_14 12 rfl rfl)
theorem dX1_readTerm_332 : decode cX1_readTerm 332 = .ok (.iconst 1, 1) := dk_4 (dk_at dksX1_readTerm_14 13 rfl rfl)
theorem dX1_readTerm_333 : decode cX1_readTerm 333 = .ok (.ireturn, 1) := dk_172 (dk_at dksX1_readTerm_14 14 rfl rfl)
abbrev cX1_isNumber : ByteArray := prog_24_method_21_code
def yX1_isNumber : MethodName := ⟨RX1, "isNumber", "()Z"⟩
def dkwX1_isNumber_1 : List UInt8 := [167, 0, 4, 3, 172]
abbrev dktX1_isNumber_1 : List UInt8 := dkwX1_isNumber_1 ++ []
def dkwX1_isNumber_0 : List UInt8 := [42, 180, 0, 142, 5, 160, 0, 20, 42, 180, 0, 122, 42, 180, 0, 129, 100, 7, 163, 0, 7, 4]
abbrev dktX1_isNumber_0 : List UInt8 := dkwX1_isNumber_0 ++ dktX1_isNumber_1
theorem dksX1_isNumber_0 : cX1_isNumber.data.toList.drop 0 = dktX1_isNumber_0 := by decide +kernel
theorem dksX1_isNumber_1 : cX1_isNumber.data.toList.drop 22 = dktX1_isNumber_1 := dk_seg dksX1_isNumber_0 22 rfl rfl
theorem dX1_isNumber_0 : decode cX1_isNumber 0 = .ok (.aload_n 0, 1) := dk_42 (dk_at dksX1_isNumber_0 0 rfl rfl)
theorem dX1_isNumber_1 : decode cX1_isNumber 1 = .ok (.getfield 142, 3) := dk_180 0 142 (dk_at dksX1_isNumber_0 1 rfl rfl)
theorem dX1_isNumber_4 : decode cX1_isNumber 4 = .ok (.iconst 2, 1) := dk_5 (dk_at dksX1_isNumber_0 4 rfl rfl)
theorem dX1_isNumber_5 : decode cX1_isNumber 5 = .ok (.if_icmp .ne 20, 3) := dk_160 0 20 (dk_at dksX1_isNumber_0 5 rfl rfl)
theorem dX1_isNumber_8 : decode cX1_isNumber 8 = .ok (.aload_n 0, 1) := dk_42 (dk_at dksX1_isNumber_0 8 rfl rfl)
theorem dX1_isNumber_9 : decode cX1_isNumber 9 = .ok (.getfield 122, 3) := dk_180 0 122 (dk_at dksX1_isNumber_0 9 rfl rfl)
theorem dX1_isNumber_12 : decode cX1_isNumber 12 = .ok (.aload_n 0, 1) := dk_42 (dk_at dksX1_isNumber_0 12 rfl rfl)
theorem dX1_isNumber_13 : decode cX1_isNumber 13 = .ok (.getfield 129, 3) := dk_180 0 129 (dk_at dksX1_isNumber_0 13 rfl rfl)
theorem dX1_isNumber_16 : decode cX1_isNumber 16 = .ok (.isub, 1) := dk_100 (dk_at dksX1_isNumber_0 16 rfl rfl)
theorem dX1_isNumber_17 : decode cX1_isNumber 17 = .ok (.iconst 4, 1) := dk_7 (dk_at dksX1_isNumber_0 17 rfl rfl)
theorem dX1_isNumber_18 : decode cX1_isNumber 18 = .ok (.if_icmp .gt 7, 3) := dk_163 0 7 (dk_at dksX1_isNumber_0 18 rfl rfl)
theorem dX1_isNumber_21 : decode cX1_isNumber 21 = .ok (.iconst 1, 1) := dk_4 (dk_at dksX1_isNumber_0 21 rfl rfl)
theorem dX1_isNumber_22 : decode cX1_isNumber 22 = .ok (.goto 4, 3) := dk_167 0 4 (dk_at dksX1_isNumber_1 0 rfl rfl)
theorem dX1_isNumber_25 : decode cX1_isNumber 25 = .ok (.iconst 0, 1) := dk_3 (dk_at dksX1_isNumber_1 3 rfl rfl)
theorem dX1_isNumber_26 : decode cX1_isNumber 26 = .ok (.ireturn, 1) := dk_172 (dk_at dksX1_isNumber_1 4 rfl rfl)
abbrev cX1_kindHere : ByteArray := prog_24_method_26_code
def yX1_kindHere : MethodName := ⟨RX1, "kindHere", "()I"⟩
def dkwX1_kindHere_2 : List UInt8 := [153, 0, 7, 6, 167, 0, 17, 42, 18, 208, 182, 0, 198, 153, 0, 7, 7, 167, 0, 4, 2, 172]
abbrev dktX1_kindHere_2 : List UInt8 := dkwX1_kindHere_2 ++ []
def dkwX1_kindHere_1 : List UInt8 := [167, 0, 43, 42, 18, 204, 182, 0, 198, 153, 0, 7, 5, 167, 0, 30, 42, 18, 206, 182, 0, 198]
abbrev dktX1_kindHere_1 : List UInt8 := dkwX1_kindHere_1 ++ dktX1_kindHere_2
def dkwX1_kindHere_0 : List UInt8 := [42, 18, 196, 182, 0, 198, 153, 0, 7, 3, 167, 0, 56, 42, 18, 202, 182, 0, 198, 153, 0, 7, 4]
abbrev dktX1_kindHere_0 : List UInt8 := dkwX1_kindHere_0 ++ dktX1_kindHere_1
theorem dksX1_kindHere_0 : cX1_kindHere.data.toList.drop 0 = dktX1_kindHere_0 := by decide +kernel
theorem dksX1_kindHere_1 : cX1_kindHere.data.toList.drop 23 = dktX1_kindHere_1 := dk_seg dksX1_kindHere_0 23 rfl rfl
theorem dksX1_kindHere_2 : cX1_kindHere.data.toList.drop 45 = dktX1_kindHere_2 := dk_seg dksX1_kindHere_1 22 rfl rfl
theorem dX1_kindHere_0 : decode cX1_kindHere 0 = .ok (.aload_n 0, 1) := dk_42 (dk_at dksX1_kindHere_0 0 rfl rfl)
theorem dX1_kindHere_1 : decode cX1_kindHere 1 = .ok (.ldc 196, 2) := dk_18 196 (dk_at dksX1_kindHere_0 1 rfl rfl)
theorem dX1_kindHere_3 : decode cX1_kindHere 3 = .ok (.invokevirtual 198, 3) := dk_182 0 198 (dk_at dksX1_kindHere_0 3 rfl rfl)
theorem dX1_kindHere_6 : decode cX1_kindHere 6 = .ok (.ifCond .eq 7, 3) := dk_153 0 7 (dk_at dksX1_kindHere_0 6 rfl rfl)
theorem dX1_kindHere_9 : decode cX1_kindHere 9 = .ok (.iconst 0, 1) := dk_3 (dk_at dksX1_kindHere_0 9 rfl rfl)
theorem dX1_kindHere_10 : decode cX1_kindHere 10 = .ok (.goto 56, 3) := dk_167 0 56 (dk_at dksX1_kindHere_0 10 rfl rfl)
theorem dX1_kindHere_13 : decode cX1_kindHere 13 = .ok (.aload_n 0, 1) := dk_42 (dk_at dksX1_kindHere_0 13 rfl rfl)
theorem dX1_kindHere_14 : decode cX1_kindHere 14 = .ok (.ldc 202, 2) := dk_18 202 (dk_at dksX1_kindHere_0 14 rfl rfl)
theorem dX1_kindHere_16 : decode cX1_kindHere 16 = .ok (.invokevirtual 198, 3) := dk_182 0 198 (dk_at dksX1_kindHere_0 16 rfl rfl)
theorem dX1_kindHere_19 : decode cX1_kindHere 19 = .ok (.ifCond .eq 7, 3) := dk_153 0 7 (dk_at dksX1_kindHere_0 19 rfl rfl)
theorem dX1_kindHere_22 : decode cX1_kindHere 22 = .ok (.iconst 1, 1) := dk_4 (dk_at dksX1_kindHere_0 22 rfl rfl)
theorem dX1_kindHere_23 : decode cX1_kindHere 23 = .ok (.goto 43, 3) := dk_167 0 43 (dk_at dksX1_kindHere_1 0 rfl rfl)
theorem dX1_kindHere_26 : decode cX1_kindHere 26 = .ok (.aload_n 0, 1) := dk_42 (dk_at dksX1_kindHere_1 3 rfl rfl)
theorem dX1_kindHere_27 : decode cX1_kindHere 27 = .ok (.ldc 204, 2) := dk_18 204 (dk_at dksX1_kindHere_1 4 rfl rfl)
theorem dX1_kindHere_29 : decode cX1_kindHere 29 = .ok (.invokevirtual 198, 3) := dk_182 0 198 (dk_at dksX1_kindHere_1 6 rfl rfl)
theorem dX1_kindHere_32 : decode cX1_kindHere 32 = .ok (.ifCond .eq 7, 3) := dk_153 0 7 (dk_at dksX1_kindHere_1 9 rfl rfl)
theorem dX1_kindHere_35 : decode cX1_kindHere 35 = .ok (.iconst 2, 1) := dk_5 (dk_at dksX1_kindHere_1 12 rfl rfl)
theorem dX1_kindHere_36 : decode cX1_kindHere 36 = .ok (.goto 30, 3) := dk_167 0 30 (dk_at dksX1_kindHere_1 13 rfl rfl)
theorem dX1_kindHere_39 : decode cX1_kindHere 39 = .ok (.aload_n 0, 1) := dk_42 (dk_at dksX1_kindHere_1 16 rfl rfl)
theorem dX1_kindHere_40 : decode cX1_kindHere 40 = .ok (.ldc 206, 2) := dk_18 206 (dk_at dksX1_kindHere_1 17 rfl rfl)
theorem dX1_kindHere_42 : decode cX1_kindHere 42 = .ok (.invokevirtual 198, 3) := dk_182 0 198 (dk_at dksX1_kindHere_1 19 rfl rfl)
theorem dX1_kindHere_45 : decode cX1_kindHere 45 = .ok (.ifCond .eq 7, 3) := dk_153 0 7 (dk_at dksX1_kindHere_2 0 rfl rfl)
theorem dX1_kindHere_48 : decode cX1_kindHere 48 = .ok (.iconst 3, 1) := dk_6 (dk_at dksX1_kindHere_2 3 rfl rfl)
theorem dX1_kindHere_49 : decode cX1_kindHere 49 = .ok (.goto 17, 3) := dk_167 0 17 (dk_at dksX1_kindHere_2 4 rfl rfl)
theorem dX1_kindHere_52 : decode cX1_kindHere 52 = .ok (.aload_n 0, 1) := dk_42 (dk_at dksX1_kindHere_2 7 rfl rfl)
theorem dX1_kindHere_53 : decode cX1_kindHere 53 = .ok (.ldc 208, 2) := dk_18 208 (dk_at dksX1_kindHere_2 8 rfl rfl)
theorem dX1_kindHere_55 : decode cX1_kindHere 55 = .ok (.invokevirtual 198, 3) := dk_182 0 198 (dk_at dksX1_kindHere_2 10 rfl rfl)
theorem dX1_kindHere_58 : decode cX1_kindHere 58 = .ok (.ifCond .eq 7, 3) := dk_153 0 7 (dk_at dksX1_kindHere_2 13 rfl rfl)
theorem dX1_kindHere_61 : decode cX1_kindHere 61 = .ok (.iconst 4, 1) := dk_7 (dk_at dksX1_kindHere_2 16 rfl rfl)
theorem dX1_kindHere_62 : decode cX1_kindHere 62 = .ok (.goto 4, 3) := dk_167 0 4 (dk_at dksX1_kindHere_2 17 rfl rfl)
theorem dX1_kindHere_65 : decode cX1_kindHere 65 = .ok (.iconst (-1), 1) := dk_2 (dk_at dksX1_kindHere_2 20 rfl rfl)
theorem dX1_kindHere_66 : decode cX1_kindHere 66 = .ok (.ireturn, 1) := dk_172 (dk_at dksX1_kindHere_2 21 rfl rfl)
abbrev cX1_isWord : ByteArray := prog_24_method_19_code
def yX1_isWord : MethodName := ⟨RX1, "isWord", "(Ljava/lang/String;)Z"⟩
def dkwX1_isWord_1 : List UInt8 := [42, 180, 0, 132, 43, 184, 0, 180, 148, 154, 0, 7, 4, 167, 0, 4, 3, 172]
abbrev dktX1_isWord_1 : List UInt8 := dkwX1_isWord_1 ++ []
def dkwX1_isWord_0 : List UInt8 := [42, 180, 0, 142, 4, 160, 0, 35, 42, 180, 0, 122, 42, 180, 0, 129, 100, 43, 182, 0, 171, 160, 0, 19]
abbrev dktX1_isWord_0 : List UInt8 := dkwX1_isWord_0 ++ dktX1_isWord_1
theorem dksX1_isWord_0 : cX1_isWord.data.toList.drop 0 = dktX1_isWord_0 := by decide +kernel
theorem dksX1_isWord_1 : cX1_isWord.data.toList.drop 24 = dktX1_isWord_1 := dk_seg dksX1_isWord_0 24 rfl rfl
theorem dX1_isWord_0 : decode cX1_isWord 0 = .ok (.aload_n 0, 1) := dk_42 (dk_at dksX1_isWord_0 0 rfl rfl)
theorem dX1_isWord_1 : decode cX1_isWord 1 = .ok (.getfield 142, 3) := dk_180 0 142 (dk_at dksX1_isWord_0 1 rfl rfl)
theorem dX1_isWord_4 : decode cX1_isWord 4 = .ok (.iconst 1, 1) := dk_4 (dk_at dksX1_isWord_0 4 rfl rfl)
theorem dX1_isWord_5 : decode cX1_isWord 5 = .ok (.if_icmp .ne 35, 3) := dk_160 0 35 (dk_at dksX1_isWord_0 5 rfl rfl)
theorem dX1_isWord_8 : decode cX1_isWord 8 = .ok (.aload_n 0, 1) := dk_42 (dk_at dksX1_isWord_0 8 rfl rfl)
theorem dX1_isWord_9 : decode cX1_isWord 9 = .ok (.getfield 122, 3) := dk_180 0 122 (dk_at dksX1_isWord_0 9 rfl rfl)
theorem dX1_isWord_12 : decode cX1_isWord 12 = .ok (.aload_n 0, 1) := dk_42 (dk_at dksX1_isWord_0 12 rfl rfl)
theorem dX1_isWord_13 : decode cX1_isWord 13 = .ok (.getfield 129, 3) := dk_180 0 129 (dk_at dksX1_isWord_0 13 rfl rfl)
theorem dX1_isWord_16 : decode cX1_isWord 16 = .ok (.isub, 1) := dk_100 (dk_at dksX1_isWord_0 16 rfl rfl)
theorem dX1_isWord_17 : decode cX1_isWord 17 = .ok (.aload_n 1, 1) := dk_43 (dk_at dksX1_isWord_0 17 rfl rfl)
theorem dX1_isWord_18 : decode cX1_isWord 18 = .ok (.invokevirtual 171, 3) := dk_182 0 171 (dk_at dksX1_isWord_0 18 rfl rfl)
theorem dX1_isWord_21 : decode cX1_isWord 21 = .ok (.if_icmp .ne 19, 3) := dk_160 0 19 (dk_at dksX1_isWord_0 21 rfl rfl)
theorem dX1_isWord_24 : decode cX1_isWord 24 = .ok (.aload_n 0, 1) := dk_42 (dk_at dksX1_isWord_1 0 rfl rfl)
theorem dX1_isWord_25 : decode cX1_isWord 25 = .ok (.getfield 132, 3) := dk_180 0 132 (dk_at dksX1_isWord_1 1 rfl rfl)
theorem dX1_isWord_28 : decode cX1_isWord 28 = .ok (.aload_n 1, 1) := dk_43 (dk_at dksX1_isWord_1 4 rfl rfl)
theorem dX1_isWord_29 : decode cX1_isWord 29 = .ok (.invokestatic 180, 3) := dk_184 0 180 (dk_at dksX1_isWord_1 5 rfl rfl)
theorem dX1_isWord_32 : decode cX1_isWord 32 = .ok (.lcmp, 1) := dk_148 (dk_at dksX1_isWord_1 8 rfl rfl)
theorem dX1_isWord_33 : decode cX1_isWord 33 = .ok (.ifCond .ne 7, 3) := dk_154 0 7 (dk_at dksX1_isWord_1 9 rfl rfl)
theorem dX1_isWord_36 : decode cX1_isWord 36 = .ok (.iconst 1, 1) := dk_4 (dk_at dksX1_isWord_1 12 rfl rfl)
theorem dX1_isWord_37 : decode cX1_isWord 37 = .ok (.goto 4, 3) := dk_167 0 4 (dk_at dksX1_isWord_1 13 rfl rfl)
theorem dX1_isWord_40 : decode cX1_isWord 40 = .ok (.iconst 0, 1) := dk_3 (dk_at dksX1_isWord_1 16 rfl rfl)
theorem dX1_isWord_41 : decode cX1_isWord 41 = .ok (.ireturn, 1) := dk_172 (dk_at dksX1_isWord_1 17 rfl rfl)
abbrev cX1_packed : ByteArray := prog_24_method_18_code
def yX1_packed : MethodName := ⟨RX1, "packed", "(Ljava/lang/String;)J"⟩
def dkwX1_packed_1 : List UInt8 := [129, 64, 132, 3, 1, 167, 255, 231, 31, 173]
abbrev dktX1_packed_1 : List UInt8 := dkwX1_packed_1 ++ []
def dkwX1_packed_0 : List UInt8 := [9, 64, 3, 62, 29, 42, 182, 0, 171, 162, 0, 23, 31, 8, 121, 42, 29, 182, 0, 176, 16, 96, 100, 133]
abbrev dktX1_packed_0 : List UInt8 := dkwX1_packed_0 ++ dktX1_packed_1
theorem dksX1_packed_0 : cX1_packed.data.toList.drop 0 = dktX1_packed_0 := by decide +kernel
theorem dksX1_packed_1 : cX1_packed.data.toList.drop 24 = dktX1_packed_1 := dk_seg dksX1_packed_0 24 rfl rfl
theorem dX1_packed_0 : decode cX1_packed 0 = .ok (.lconst 0, 1) := dk_9 (dk_at dksX1_packed_0 0 rfl rfl)
theorem dX1_packed_1 : decode cX1_packed 1 = .ok (.lstore_n 1, 1) := dk_64 (dk_at dksX1_packed_0 1 rfl rfl)
theorem dX1_packed_2 : decode cX1_packed 2 = .ok (.iconst 0, 1) := dk_3 (dk_at dksX1_packed_0 2 rfl rfl)
theorem dX1_packed_3 : decode cX1_packed 3 = .ok (.istore_n 3, 1) := dk_62 (dk_at dksX1_packed_0 3 rfl rfl)
theorem dX1_packed_4 : decode cX1_packed 4 = .ok (.iload_n 3, 1) := dk_29 (dk_at dksX1_packed_0 4 rfl rfl)
theorem dX1_packed_5 : decode cX1_packed 5 = .ok (.aload_n 0, 1) := dk_42 (dk_at dksX1_packed_0 5 rfl rfl)
theorem dX1_packed_6 : decode cX1_packed 6 = .ok (.invokevirtual 171, 3) := dk_182 0 171 (dk_at dksX1_packed_0 6 rfl rfl)
theorem dX1_packed_9 : decode cX1_packed 9 = .ok (.if_icmp .ge 23, 3) := dk_162 0 23 (dk_at dksX1_packed_0 9 rfl rfl)
theorem dX1_packed_12 : decode cX1_packed 12 = .ok (.lload_n 1, 1) := dk_31 (dk_at dksX1_packed_0 12 rfl rfl)
theorem dX1_packed_13 : decode cX1_packed 13 = .ok (.iconst 5, 1) := dk_8 (dk_at dksX1_packed_0 13 rfl rfl)
theorem dX1_packed_14 : decode cX1_packed 14 = .ok (.lshl, 1) := dk_121 (dk_at dksX1_packed_0 14 rfl rfl)
theorem dX1_packed_15 : decode cX1_packed 15 = .ok (.aload_n 0, 1) := dk_42 (dk_at dksX1_packed_0 15 rfl rfl)
theorem dX1_packed_16 : decode cX1_packed 16 = .ok (.iload_n 3, 1) := dk_29 (dk_at dksX1_packed_0 16 rfl rfl)
theorem dX1_packed_17 : decode cX1_packed 17 = .ok (.invokevirtual 176, 3) := dk_182 0 176 (dk_at dksX1_packed_0 17 rfl rfl)
theorem dX1_packed_20 : decode cX1_packed 20 = .ok (.bipush 96, 2) := dk_16 96 (dk_at dksX1_packed_0 20 rfl rfl)
theorem dX1_packed_22 : decode cX1_packed 22 = .ok (.isub, 1) := dk_100 (dk_at dksX1_packed_0 22 rfl rfl)
theorem dX1_packed_23 : decode cX1_packed 23 = .ok (.i2l, 1) := dk_133 (dk_at dksX1_packed_0 23 rfl rfl)
theorem dX1_packed_24 : decode cX1_packed 24 = .ok (.lor, 1) := dk_129 (dk_at dksX1_packed_1 0 rfl rfl)
theorem dX1_packed_25 : decode cX1_packed 25 = .ok (.lstore_n 1, 1) := dk_64 (dk_at dksX1_packed_1 1 rfl rfl)
theorem dX1_packed_26 : decode cX1_packed 26 = .ok (.iinc 3 1, 3) := dk_132 3 1 (dk_at dksX1_packed_1 2 rfl rfl)
theorem dX1_packed_29 : decode cX1_packed 29 = .ok (.goto (-25), 3) := dk_167 255 231 (dk_at dksX1_packed_1 5 rfl rfl)
theorem dX1_packed_32 : decode cX1_packed 32 = .ok (.lload_n 1, 1) := dk_31 (dk_at dksX1_packed_1 8 rfl rfl)
theorem dX1_packed_33 : decode cX1_packed 33 = .ok (.lreturn, 1) := dk_173 (dk_at dksX1_packed_1 9 rfl rfl)
abbrev cX1_fails : ByteArray := prog_24_method_17_code
def yX1_fails : MethodName := ⟨RX1, "fails", "(I)Z"⟩
def dkwX1_fails_1 : List UInt8 := [180, 0, 159, 181, 0, 162, 42, 42, 180, 0, 165, 181, 0, 168, 3, 172]
abbrev dktX1_fails_1 : List UInt8 := dkwX1_fails_1 ++ []
def dkwX1_fails_0 : List UInt8 := [42, 180, 0, 153, 153, 0, 5, 3, 172, 42, 27, 181, 0, 153, 42, 42, 180, 0, 129, 181, 0, 156, 42, 42]
abbrev dktX1_fails_0 : List UInt8 := dkwX1_fails_0 ++ dktX1_fails_1
theorem dksX1_fails_0 : cX1_fails.data.toList.drop 0 = dktX1_fails_0 := by decide +kernel
theorem dksX1_fails_1 : cX1_fails.data.toList.drop 24 = dktX1_fails_1 := dk_seg dksX1_fails_0 24 rfl rfl
theorem dX1_fails_0 : decode cX1_fails 0 = .ok (.aload_n 0, 1) := dk_42 (dk_at dksX1_fails_0 0 rfl rfl)
theorem dX1_fails_1 : decode cX1_fails 1 = .ok (.getfield 153, 3) := dk_180 0 153 (dk_at dksX1_fails_0 1 rfl rfl)
theorem dX1_fails_4 : decode cX1_fails 4 = .ok (.ifCond .eq 5, 3) := dk_153 0 5 (dk_at dksX1_fails_0 4 rfl rfl)
theorem dX1_fails_7 : decode cX1_fails 7 = .ok (.iconst 0, 1) := dk_3 (dk_at dksX1_fails_0 7 rfl rfl)
theorem dX1_fails_8 : decode cX1_fails 8 = .ok (.ireturn, 1) := dk_172 (dk_at dksX1_fails_0 8 rfl rfl)
theorem dX1_fails_9 : decode cX1_fails 9 = .ok (.aload_n 0, 1) := dk_42 (dk_at dksX1_fails_0 9 rfl rfl)
theorem dX1_fails_10 : decode cX1_fails 10 = .ok (.iload_n 1, 1) := dk_27 (dk_at dksX1_fails_0 10 rfl rfl)
theorem dX1_fails_11 : decode cX1_fails 11 = .ok (.putfield 153, 3) := dk_181 0 153 (dk_at dksX1_fails_0 11 rfl rfl)
theorem dX1_fails_14 : decode cX1_fails 14 = .ok (.aload_n 0, 1) := dk_42 (dk_at dksX1_fails_0 14 rfl rfl)
theorem dX1_fails_15 : decode cX1_fails 15 = .ok (.aload_n 0, 1) := dk_42 (dk_at dksX1_fails_0 15 rfl rfl)
theorem dX1_fails_16 : decode cX1_fails 16 = .ok (.getfield 129, 3) := dk_180 0 129 (dk_at dksX1_fails_0 16 rfl rfl)
theorem dX1_fails_19 : decode cX1_fails 19 = .ok (.putfield 156, 3) := dk_181 0 156 (dk_at dksX1_fails_0 19 rfl rfl)
theorem dX1_fails_22 : decode cX1_fails 22 = .ok (.aload_n 0, 1) := dk_42 (dk_at dksX1_fails_0 22 rfl rfl)
theorem dX1_fails_23 : decode cX1_fails 23 = .ok (.aload_n 0, 1) := dk_42 (dk_at dksX1_fails_0 23 rfl rfl)
theorem dX1_fails_24 : decode cX1_fails 24 = .ok (.getfield 159, 3) := dk_180 0 159 (dk_at dksX1_fails_1 0 rfl rfl)
theorem dX1_fails_27 : decode cX1_fails 27 = .ok (.putfield 162, 3) := dk_181 0 162 (dk_at dksX1_fails_1 3 rfl rfl)
theorem dX1_fails_30 : decode cX1_fails 30 = .ok (.aload_n 0, 1) := dk_42 (dk_at dksX1_fails_1 6 rfl rfl)
theorem dX1_fails_31 : decode cX1_fails 31 = .ok (.aload_n 0, 1) := dk_42 (dk_at dksX1_fails_1 7 rfl rfl)
theorem dX1_fails_32 : decode cX1_fails 32 = .ok (.getfield 165, 3) := dk_180 0 165 (dk_at dksX1_fails_1 8 rfl rfl)
theorem dX1_fails_35 : decode cX1_fails 35 = .ok (.putfield 168, 3) := dk_181 0 168 (dk_at dksX1_fails_1 11 rfl rfl)
theorem dX1_fails_38 : decode cX1_fails 38 = .ok (.iconst 0, 1) := dk_3 (dk_at dksX1_fails_1 14 rfl rfl)
theorem dX1_fails_39 : decode cX1_fails 39 = .ok (.ireturn, 1) := dk_172 (dk_at dksX1_fails_1 15 rfl rfl)
abbrev cX1_greatest : ByteArray := prog_24_method_11_code
def yX1_greatest : MethodName := ⟨RX1, "greatest", "(II)I"⟩
def dkwX1_greatest_1 : List UInt8 := [167, 255, 235, 28, 172]
abbrev dktX1_greatest_1 : List UInt8 := dkwX1_greatest_1 ++ []
def dkwX1_greatest_0 : List UInt8 := [3, 61, 26, 133, 27, 28, 4, 96, 133, 184, 0, 97, 105, 20, 0, 103, 148, 157, 0, 9, 132, 2, 1]
abbrev dktX1_greatest_0 : List UInt8 := dkwX1_greatest_0 ++ dktX1_greatest_1
theorem dksX1_greatest_0 : cX1_greatest.data.toList.drop 0 = dktX1_greatest_0 := by decide +kernel
theorem dksX1_greatest_1 : cX1_greatest.data.toList.drop 23 = dktX1_greatest_1 := dk_seg dksX1_greatest_0 23 rfl rfl
theorem dX1_greatest_0 : decode cX1_greatest 0 = .ok (.iconst 0, 1) := dk_3 (dk_at dksX1_greatest_0 0 rfl rfl)
theorem dX1_greatest_1 : decode cX1_greatest 1 = .ok (.istore_n 2, 1) := dk_61 (dk_at dksX1_greatest_0 1 rfl rfl)
theorem dX1_greatest_2 : decode cX1_greatest 2 = .ok (.iload_n 0, 1) := dk_26 (dk_at dksX1_greatest_0 2 rfl rfl)
theorem dX1_greatest_3 : decode cX1_greatest 3 = .ok (.i2l, 1) := dk_133 (dk_at dksX1_greatest_0 3 rfl rfl)
theorem dX1_greatest_4 : decode cX1_greatest 4 = .ok (.iload_n 1, 1) := dk_27 (dk_at dksX1_greatest_0 4 rfl rfl)
theorem dX1_greatest_5 : decode cX1_greatest 5 = .ok (.iload_n 2, 1) := dk_28 (dk_at dksX1_greatest_0 5 rfl rfl)
theorem dX1_greatest_6 : decode cX1_greatest 6 = .ok (.iconst 1, 1) := dk_4 (dk_at dksX1_greatest_0 6 rfl rfl)
theorem dX1_greatest_7 : decode cX1_greatest 7 = .ok (.iadd, 1) := dk_96 (dk_at dksX1_greatest_0 7 rfl rfl)
theorem dX1_greatest_8 : decode cX1_greatest 8 = .ok (.i2l, 1) := dk_133 (dk_at dksX1_greatest_0 8 rfl rfl)
theorem dX1_greatest_9 : decode cX1_greatest 9 = .ok (.invokestatic 97, 3) := dk_184 0 97 (dk_at dksX1_greatest_0 9 rfl rfl)
theorem dX1_greatest_12 : decode cX1_greatest 12 = .ok (.lmul, 1) := dk_105 (dk_at dksX1_greatest_0 12 rfl rfl)
theorem dX1_greatest_13 : decode cX1_greatest 13 = .ok (.ldc2_w 103, 3) := dk_20 0 103 (dk_at dksX1_greatest_0 13 rfl rfl)
theorem dX1_greatest_16 : decode cX1_greatest 16 = .ok (.lcmp, 1) := dk_148 (dk_at dksX1_greatest_0 16 rfl rfl)
theorem dX1_greatest_17 : decode cX1_greatest 17 = .ok (.ifCond .gt 9, 3) := dk_157 0 9 (dk_at dksX1_greatest_0 17 rfl rfl)
theorem dX1_greatest_20 : decode cX1_greatest 20 = .ok (.iinc 2 1, 3) := dk_132 2 1 (dk_at dksX1_greatest_0 20 rfl rfl)
theorem dX1_greatest_23 : decode cX1_greatest 23 = .ok (.goto (-21), 3) := dk_167 255 235 (dk_at dksX1_greatest_1 0 rfl rfl)
theorem dX1_greatest_26 : decode cX1_greatest 26 = .ok (.iload_n 2, 1) := dk_28 (dk_at dksX1_greatest_1 3 rfl rfl)
theorem dX1_greatest_27 : decode cX1_greatest 27 = .ok (.ireturn, 1) := dk_172 (dk_at dksX1_greatest_1 4 rfl rfl)
abbrev cX1_plain : ByteArray := prog_24_method_5_code
def yX1_plain : MethodName := ⟨RX1, "plain", "(IJ)J"⟩
def dkwX1_plain_2 : List UInt8 := [31, 10, 97, 105, 20, 0, 91, 109, 173]
abbrev dktX1_plain_2 : List UInt8 := dkwX1_plain_2 ++ []
def dkwX1_plain_1 : List UInt8 := [31, 31, 105, 31, 105, 167, 0, 27, 26, 6, 160, 0, 13, 31, 31, 105, 31, 105, 31, 105, 167, 0, 12, 31]
abbrev dktX1_plain_1 : List UInt8 := dkwX1_plain_1 ++ dktX1_plain_2
def dkwX1_plain_0 : List UInt8 := [26, 154, 0, 7, 31, 167, 0, 51, 26, 4, 160, 0, 9, 31, 31, 105, 167, 0, 40, 26, 5, 160, 0, 11]
abbrev dktX1_plain_0 : List UInt8 := dkwX1_plain_0 ++ dktX1_plain_1
theorem dksX1_plain_0 : cX1_plain.data.toList.drop 0 = dktX1_plain_0 := by decide +kernel
theorem dksX1_plain_1 : cX1_plain.data.toList.drop 24 = dktX1_plain_1 := dk_seg dksX1_plain_0 24 rfl rfl
theorem dksX1_plain_2 : cX1_plain.data.toList.drop 48 = dktX1_plain_2 := dk_seg dksX1_plain_1 24 rfl rfl
theorem dX1_plain_0 : decode cX1_plain 0 = .ok (.iload_n 0, 1) := dk_26 (dk_at dksX1_plain_0 0 rfl rfl)
theorem dX1_plain_1 : decode cX1_plain 1 = .ok (.ifCond .ne 7, 3) := dk_154 0 7 (dk_at dksX1_plain_0 1 rfl rfl)
theorem dX1_plain_4 : decode cX1_plain 4 = .ok (.lload_n 1, 1) := dk_31 (dk_at dksX1_plain_0 4 rfl rfl)
theorem dX1_plain_5 : decode cX1_plain 5 = .ok (.goto 51, 3) := dk_167 0 51 (dk_at dksX1_plain_0 5 rfl rfl)
theorem dX1_plain_8 : decode cX1_plain 8 = .ok (.iload_n 0, 1) := dk_26 (dk_at dksX1_plain_0 8 rfl rfl)
theorem dX1_plain_9 : decode cX1_plain 9 = .ok (.iconst 1, 1) := dk_4 (dk_at dksX1_plain_0 9 rfl rfl)
theorem dX1_plain_10 : decode cX1_plain 10 = .ok (.if_icmp .ne 9, 3) := dk_160 0 9 (dk_at dksX1_plain_0 10 rfl rfl)
theorem dX1_plain_13 : decode cX1_plain 13 = .ok (.lload_n 1, 1) := dk_31 (dk_at dksX1_plain_0 13 rfl rfl)
theorem dX1_plain_14 : decode cX1_plain 14 = .ok (.lload_n 1, 1) := dk_31 (dk_at dksX1_plain_0 14 rfl rfl)
theorem dX1_plain_15 : decode cX1_plain 15 = .ok (.lmul, 1) := dk_105 (dk_at dksX1_plain_0 15 rfl rfl)
theorem dX1_plain_16 : decode cX1_plain 16 = .ok (.goto 40, 3) := dk_167 0 40 (dk_at dksX1_plain_0 16 rfl rfl)
theorem dX1_plain_19 : decode cX1_plain 19 = .ok (.iload_n 0, 1) := dk_26 (dk_at dksX1_plain_0 19 rfl rfl)
theorem dX1_plain_20 : decode cX1_plain 20 = .ok (.iconst 2, 1) := dk_5 (dk_at dksX1_plain_0 20 rfl rfl)
theorem dX1_plain_21 : decode cX1_plain 21 = .ok (.if_icmp .ne 11, 3) := dk_160 0 11 (dk_at dksX1_plain_0 21 rfl rfl)
theorem dX1_plain_24 : decode cX1_plain 24 = .ok (.lload_n 1, 1) := dk_31 (dk_at dksX1_plain_1 0 rfl rfl)
theorem dX1_plain_25 : decode cX1_plain 25 = .ok (.lload_n 1, 1) := dk_31 (dk_at dksX1_plain_1 1 rfl rfl)
theorem dX1_plain_26 : decode cX1_plain 26 = .ok (.lmul, 1) := dk_105 (dk_at dksX1_plain_1 2 rfl rfl)
theorem dX1_plain_27 : decode cX1_plain 27 = .ok (.lload_n 1, 1) := dk_31 (dk_at dksX1_plain_1 3 rfl rfl)
theorem dX1_plain_28 : decode cX1_plain 28 = .ok (.lmul, 1) := dk_105 (dk_at dksX1_plain_1 4 rfl rfl)
theorem dX1_plain_29 : decode cX1_plain 29 = .ok (.goto 27, 3) := dk_167 0 27 (dk_at dksX1_plain_1 5 rfl rfl)
theorem dX1_plain_32 : decode cX1_plain 32 = .ok (.iload_n 0, 1) := dk_26 (dk_at dksX1_plain_1 8 rfl rfl)
theorem dX1_plain_33 : decode cX1_plain 33 = .ok (.iconst 3, 1) := dk_6 (dk_at dksX1_plain_1 9 rfl rfl)
theorem dX1_plain_34 : decode cX1_plain 34 = .ok (.if_icmp .ne 13, 3) := dk_160 0 13 (dk_at dksX1_plain_1 10 rfl rfl)
theorem dX1_plain_37 : decode cX1_plain 37 = .ok (.lload_n 1, 1) := dk_31 (dk_at dksX1_plain_1 13 rfl rfl)
theorem dX1_plain_38 : decode cX1_plain 38 = .ok (.lload_n 1, 1) := dk_31 (dk_at dksX1_plain_1 14 rfl rfl)
theorem dX1_plain_39 : decode cX1_plain 39 = .ok (.lmul, 1) := dk_105 (dk_at dksX1_plain_1 15 rfl rfl)
theorem dX1_plain_40 : decode cX1_plain 40 = .ok (.lload_n 1, 1) := dk_31 (dk_at dksX1_plain_1 16 rfl rfl)
theorem dX1_plain_41 : decode cX1_plain 41 = .ok (.lmul, 1) := dk_105 (dk_at dksX1_plain_1 17 rfl rfl)
theorem dX1_plain_42 : decode cX1_plain 42 = .ok (.lload_n 1, 1) := dk_31 (dk_at dksX1_plain_1 18 rfl rfl)
theorem dX1_plain_43 : decode cX1_plain 43 = .ok (.lmul, 1) := dk_105 (dk_at dksX1_plain_1 19 rfl rfl)
theorem dX1_plain_44 : decode cX1_plain 44 = .ok (.goto 12, 3) := dk_167 0 12 (dk_at dksX1_plain_1 20 rfl rfl)
theorem dX1_plain_47 : decode cX1_plain 47 = .ok (.lload_n 1, 1) := dk_31 (dk_at dksX1_plain_1 23 rfl rfl)
theorem dX1_plain_48 : decode cX1_plain 48 = .ok (.lload_n 1, 1) := dk_31 (dk_at dksX1_plain_2 0 rfl rfl)
theorem dX1_plain_49 : decode cX1_plain 49 = .ok (.lconst 1, 1) := dk_10 (dk_at dksX1_plain_2 1 rfl rfl)
theorem dX1_plain_50 : decode cX1_plain 50 = .ok (.ladd, 1) := dk_97 (dk_at dksX1_plain_2 2 rfl rfl)
theorem dX1_plain_51 : decode cX1_plain 51 = .ok (.lmul, 1) := dk_105 (dk_at dksX1_plain_2 3 rfl rfl)
theorem dX1_plain_52 : decode cX1_plain 52 = .ok (.ldc2_w 91, 3) := dk_20 0 91 (dk_at dksX1_plain_2 4 rfl rfl)
theorem dX1_plain_55 : decode cX1_plain 55 = .ok (.ldiv, 1) := dk_109 (dk_at dksX1_plain_2 7 rfl rfl)
theorem dX1_plain_56 : decode cX1_plain 56 = .ok (.lreturn, 1) := dk_173 (dk_at dksX1_plain_2 8 rfl rfl)
abbrev cX1_comesToWhole : ByteArray := prog_24_method_27_code
def yX1_comesToWhole : MethodName := ⟨RX1, "comesToWhole", "()Z"⟩
def dkwX1_comesToWhole_1 : List UInt8 := [182, 0, 214, 154, 0, 11, 42, 4, 182, 0, 187, 153, 0, 7, 4, 167, 0, 4, 3, 172]
abbrev dktX1_comesToWhole_1 : List UInt8 := dkwX1_comesToWhole_1 ++ []
def dkwX1_comesToWhole_0 : List UInt8 := [42, 42, 16, 45, 182, 0, 184, 181, 0, 210, 42, 180, 0, 210, 153, 0, 7, 42, 182, 0, 190, 42]
abbrev dktX1_comesToWhole_0 : List UInt8 := dkwX1_comesToWhole_0 ++ dktX1_comesToWhole_1
theorem dksX1_comesToWhole_0 : cX1_comesToWhole.data.toList.drop 0 = dktX1_comesToWhole_0 := by decide +kernel
theorem dksX1_comesToWhole_1 : cX1_comesToWhole.data.toList.drop 22 = dktX1_comesToWhole_1 := dk_seg dksX1_comesToWhole_0 22 rfl rfl
theorem dX1_comesToWhole_0 : decode cX1_comesToWhole 0 = .ok (.aload_n 0, 1) := dk_42 (dk_at dksX1_comesToWhole_0 0 rfl rfl)
theorem dX1_comesToWhole_1 : decode cX1_comesToWhole 1 = .ok (.aload_n 0, 1) := dk_42 (dk_at dksX1_comesToWhole_0 1 rfl rfl)
theorem dX1_comesToWhole_2 : decode cX1_comesToWhole 2 = .ok (.bipush 45, 2) := dk_16 45 (dk_at dksX1_comesToWhole_0 2 rfl rfl)
theorem dX1_comesToWhole_4 : decode cX1_comesToWhole 4 = .ok (.invokevirtual 184, 3) := dk_182 0 184 (dk_at dksX1_comesToWhole_0 4 rfl rfl)
theorem dX1_comesToWhole_7 : decode cX1_comesToWhole 7 = .ok (.putfield 210, 3) := dk_181 0 210 (dk_at dksX1_comesToWhole_0 7 rfl rfl)
theorem dX1_comesToWhole_10 : decode cX1_comesToWhole 10 = .ok (.aload_n 0, 1) := dk_42 (dk_at dksX1_comesToWhole_0 10 rfl rfl)
theorem dX1_comesToWhole_11 : decode cX1_comesToWhole 11 = .ok (.getfield 210, 3) := dk_180 0 210 (dk_at dksX1_comesToWhole_0 11 rfl rfl)
theorem dX1_comesToWhole_14 : decode cX1_comesToWhole 14 = .ok (.ifCond .eq 7, 3) := dk_153 0 7 (dk_at dksX1_comesToWhole_0 14 rfl rfl)
theorem dX1_comesToWhole_17 : decode cX1_comesToWhole 17 = .ok (.aload_n 0, 1) := dk_42 (dk_at dksX1_comesToWhole_0 17 rfl rfl)
theorem dX1_comesToWhole_18 : decode cX1_comesToWhole 18 = .ok (.invokevirtual 190, 3) := dk_182 0 190 (dk_at dksX1_comesToWhole_0 18 rfl rfl)
theorem dX1_comesToWhole_21 : decode cX1_comesToWhole 21 = .ok (.aload_n 0, 1) := dk_42 (dk_at dksX1_comesToWhole_0 21 rfl rfl)
theorem dX1_comesToWhole_22 : decode cX1_comesToWhole 22 = .ok (.invokevirtual 214, 3) := dk_182 0 214 (dk_at dksX1_comesToWhole_1 0 rfl rfl)
theorem dX1_comesToWhole_25 : decode cX1_comesToWhole 25 = .ok (.ifCond .ne 11, 3) := dk_154 0 11 (dk_at dksX1_comesToWhole_1 3 rfl rfl)
theorem dX1_comesToWhole_28 : decode cX1_comesToWhole 28 = .ok (.aload_n 0, 1) := dk_42 (dk_at dksX1_comesToWhole_1 6 rfl rfl)
theorem dX1_comesToWhole_29 : decode cX1_comesToWhole 29 = .ok (.iconst 1, 1) := dk_4 (dk_at dksX1_comesToWhole_1 7 rfl rfl)
theorem dX1_comesToWhole_30 : decode cX1_comesToWhole 30 = .ok (.invokevirtual 187, 3) := dk_182 0 187 (dk_at dksX1_comesToWhole_1 8 rfl rfl)
theorem dX1_comesToWhole_33 : decode cX1_comesToWhole 33 = .ok (.ifCond .eq 7, 3) := dk_153 0 7 (dk_at dksX1_comesToWhole_1 11 rfl rfl)
theorem dX1_comesToWhole_36 : decode cX1_comesToWhole 36 = .ok (.iconst 1, 1) := dk_4 (dk_at dksX1_comesToWhole_1 14 rfl rfl)
theorem dX1_comesToWhole_37 : decode cX1_comesToWhole 37 = .ok (.goto 4, 3) := dk_167 0 4 (dk_at dksX1_comesToWhole_1 15 rfl rfl)
theorem dX1_comesToWhole_40 : decode cX1_comesToWhole 40 = .ok (.iconst 0, 1) := dk_3 (dk_at dksX1_comesToWhole_1 18 rfl rfl)
theorem dX1_comesToWhole_41 : decode cX1_comesToWhole 41 = .ok (.ireturn, 1) := dk_172 (dk_at dksX1_comesToWhole_1 19 rfl rfl)
abbrev cX1_isSign : ByteArray := prog_24_method_20_code
def yX1_isSign : MethodName := ⟨RX1, "isSign", "(I)Z"⟩
def dkwX1_isSign_0 : List UInt8 := [42, 180, 0, 142, 6, 160, 0, 15, 42, 180, 0, 139, 27, 160, 0, 7, 4, 167, 0, 4, 3, 172]
abbrev dktX1_isSign_0 : List UInt8 := dkwX1_isSign_0 ++ []
theorem dksX1_isSign_0 : cX1_isSign.data.toList.drop 0 = dktX1_isSign_0 := by decide +kernel
theorem dX1_isSign_0 : decode cX1_isSign 0 = .ok (.aload_n 0, 1) := dk_42 (dk_at dksX1_isSign_0 0 rfl rfl)
theorem dX1_isSign_1 : decode cX1_isSign 1 = .ok (.getfield 142, 3) := dk_180 0 142 (dk_at dksX1_isSign_0 1 rfl rfl)
theorem dX1_isSign_4 : decode cX1_isSign 4 = .ok (.iconst 3, 1) := dk_6 (dk_at dksX1_isSign_0 4 rfl rfl)
theorem dX1_isSign_5 : decode cX1_isSign 5 = .ok (.if_icmp .ne 15, 3) := dk_160 0 15 (dk_at dksX1_isSign_0 5 rfl rfl)
theorem dX1_isSign_8 : decode cX1_isSign 8 = .ok (.aload_n 0, 1) := dk_42 (dk_at dksX1_isSign_0 8 rfl rfl)
theorem dX1_isSign_9 : decode cX1_isSign 9 = .ok (.getfield 139, 3) := dk_180 0 139 (dk_at dksX1_isSign_0 9 rfl rfl)
theorem dX1_isSign_12 : decode cX1_isSign 12 = .ok (.iload_n 1, 1) := dk_27 (dk_at dksX1_isSign_0 12 rfl rfl)
theorem dX1_isSign_13 : decode cX1_isSign 13 = .ok (.if_icmp .ne 7, 3) := dk_160 0 7 (dk_at dksX1_isSign_0 13 rfl rfl)
theorem dX1_isSign_16 : decode cX1_isSign 16 = .ok (.iconst 1, 1) := dk_4 (dk_at dksX1_isSign_0 16 rfl rfl)
theorem dX1_isSign_17 : decode cX1_isSign 17 = .ok (.goto 4, 3) := dk_167 0 4 (dk_at dksX1_isSign_0 17 rfl rfl)
theorem dX1_isSign_20 : decode cX1_isSign 20 = .ok (.iconst 0, 1) := dk_3 (dk_at dksX1_isSign_0 20 rfl rfl)
theorem dX1_isSign_21 : decode cX1_isSign 21 = .ok (.ireturn, 1) := dk_172 (dk_at dksX1_isSign_0 21 rfl rfl)
abbrev cX1_whole : ByteArray := prog_24_method_28_code
def yX1_whole : MethodName := ⟨RX1, "whole", "()I"⟩
def dkwX1_whole_0 : List UInt8 := [42, 180, 0, 210, 153, 0, 11, 42, 180, 0, 136, 116, 167, 0, 7, 42, 180, 0, 136, 172]
abbrev dktX1_whole_0 : List UInt8 := dkwX1_whole_0 ++ []
theorem dksX1_whole_0 : cX1_whole.data.toList.drop 0 = dktX1_whole_0 := by decide +kernel
theorem dX1_whole_0 : decode cX1_whole 0 = .ok (.aload_n 0, 1) := dk_42 (dk_at dksX1_whole_0 0 rfl rfl)
theorem dX1_whole_1 : decode cX1_whole 1 = .ok (.getfield 210, 3) := dk_180 0 210 (dk_at dksX1_whole_0 1 rfl rfl)
theorem dX1_whole_4 : decode cX1_whole 4 = .ok (.ifCond .eq 11, 3) := dk_153 0 11 (dk_at dksX1_whole_0 4 rfl rfl)
theorem dX1_whole_7 : decode cX1_whole 7 = .ok (.aload_n 0, 1) := dk_42 (dk_at dksX1_whole_0 7 rfl rfl)
theorem dX1_whole_8 : decode cX1_whole 8 = .ok (.getfield 136, 3) := dk_180 0 136 (dk_at dksX1_whole_0 8 rfl rfl)
theorem dX1_whole_11 : decode cX1_whole 11 = .ok (.ineg, 1) := dk_116 (dk_at dksX1_whole_0 11 rfl rfl)
theorem dX1_whole_12 : decode cX1_whole 12 = .ok (.goto 7, 3) := dk_167 0 7 (dk_at dksX1_whole_0 12 rfl rfl)
theorem dX1_whole_15 : decode cX1_whole 15 = .ok (.aload_n 0, 1) := dk_42 (dk_at dksX1_whole_0 15 rfl rfl)
theorem dX1_whole_16 : decode cX1_whole 16 = .ok (.getfield 136, 3) := dk_180 0 136 (dk_at dksX1_whole_0 16 rfl rfl)
theorem dX1_whole_19 : decode cX1_whole 19 = .ok (.ireturn, 1) := dk_172 (dk_at dksX1_whole_0 19 rfl rfl)
abbrev cX1_valueOf : ByteArray := prog_24_method_6_code
def yX1_valueOf : MethodName := ⟨RX1, "valueOf", "(IIJ)J"⟩
def dkwX1_valueOf_0 : List UInt8 := [42, 27, 28, 3, 182, 0, 93, 133, 42, 27, 28, 4, 182, 0, 93, 33, 184, 0, 97, 105, 173]
abbrev dktX1_valueOf_0 : List UInt8 := dkwX1_valueOf_0 ++ []
theorem dksX1_valueOf_0 : cX1_valueOf.data.toList.drop 0 = dktX1_valueOf_0 := by decide +kernel
theorem dX1_valueOf_0 : decode cX1_valueOf 0 = .ok (.aload_n 0, 1) := dk_42 (dk_at dksX1_valueOf_0 0 rfl rfl)
theorem dX1_valueOf_1 : decode cX1_valueOf 1 = .ok (.iload_n 1, 1) := dk_27 (dk_at dksX1_valueOf_0 1 rfl rfl)
theorem dX1_valueOf_2 : decode cX1_valueOf 2 = .ok (.iload_n 2, 1) := dk_28 (dk_at dksX1_valueOf_0 2 rfl rfl)
theorem dX1_valueOf_3 : decode cX1_valueOf 3 = .ok (.iconst 0, 1) := dk_3 (dk_at dksX1_valueOf_0 3 rfl rfl)
theorem dX1_valueOf_4 : decode cX1_valueOf 4 = .ok (.invokevirtual 93, 3) := dk_182 0 93 (dk_at dksX1_valueOf_0 4 rfl rfl)
theorem dX1_valueOf_7 : decode cX1_valueOf 7 = .ok (.i2l, 1) := dk_133 (dk_at dksX1_valueOf_0 7 rfl rfl)
theorem dX1_valueOf_8 : decode cX1_valueOf 8 = .ok (.aload_n 0, 1) := dk_42 (dk_at dksX1_valueOf_0 8 rfl rfl)
theorem dX1_valueOf_9 : decode cX1_valueOf 9 = .ok (.iload_n 1, 1) := dk_27 (dk_at dksX1_valueOf_0 9 rfl rfl)
theorem dX1_valueOf_10 : decode cX1_valueOf 10 = .ok (.iload_n 2, 1) := dk_28 (dk_at dksX1_valueOf_0 10 rfl rfl)
theorem dX1_valueOf_11 : decode cX1_valueOf 11 = .ok (.iconst 1, 1) := dk_4 (dk_at dksX1_valueOf_0 11 rfl rfl)
theorem dX1_valueOf_12 : decode cX1_valueOf 12 = .ok (.invokevirtual 93, 3) := dk_182 0 93 (dk_at dksX1_valueOf_0 12 rfl rfl)
theorem dX1_valueOf_15 : decode cX1_valueOf 15 = .ok (.lload_n 3, 1) := dk_33 (dk_at dksX1_valueOf_0 15 rfl rfl)
theorem dX1_valueOf_16 : decode cX1_valueOf 16 = .ok (.invokestatic 97, 3) := dk_184 0 97 (dk_at dksX1_valueOf_0 16 rfl rfl)
theorem dX1_valueOf_19 : decode cX1_valueOf 19 = .ok (.lmul, 1) := dk_105 (dk_at dksX1_valueOf_0 19 rfl rfl)
theorem dX1_valueOf_20 : decode cX1_valueOf 20 = .ok (.lreturn, 1) := dk_173 (dk_at dksX1_valueOf_0 20 rfl rfl)
abbrev cX1_of : ByteArray := prog_24_method_4_code
def yX1_of : MethodName := ⟨RX1, "of", "(III)I"⟩
def dkwX1_of_0 : List UInt8 := [42, 180, 0, 15, 7, 8, 27, 104, 28, 96, 104, 29, 96, 46, 172]
abbrev dktX1_of_0 : List UInt8 := dkwX1_of_0 ++ []
theorem dksX1_of_0 : cX1_of.data.toList.drop 0 = dktX1_of_0 := by decide +kernel
theorem dX1_of_0 : decode cX1_of 0 = .ok (.aload_n 0, 1) := dk_42 (dk_at dksX1_of_0 0 rfl rfl)
theorem dX1_of_1 : decode cX1_of 1 = .ok (.getfield 15, 3) := dk_180 0 15 (dk_at dksX1_of_0 1 rfl rfl)
theorem dX1_of_4 : decode cX1_of 4 = .ok (.iconst 4, 1) := dk_7 (dk_at dksX1_of_0 4 rfl rfl)
theorem dX1_of_5 : decode cX1_of 5 = .ok (.iconst 5, 1) := dk_8 (dk_at dksX1_of_0 5 rfl rfl)
theorem dX1_of_6 : decode cX1_of 6 = .ok (.iload_n 1, 1) := dk_27 (dk_at dksX1_of_0 6 rfl rfl)
theorem dX1_of_7 : decode cX1_of 7 = .ok (.imul, 1) := dk_104 (dk_at dksX1_of_0 7 rfl rfl)
theorem dX1_of_8 : decode cX1_of 8 = .ok (.iload_n 2, 1) := dk_28 (dk_at dksX1_of_0 8 rfl rfl)
theorem dX1_of_9 : decode cX1_of 9 = .ok (.iadd, 1) := dk_96 (dk_at dksX1_of_0 9 rfl rfl)
theorem dX1_of_10 : decode cX1_of 10 = .ok (.imul, 1) := dk_104 (dk_at dksX1_of_0 10 rfl rfl)
theorem dX1_of_11 : decode cX1_of 11 = .ok (.iload_n 3, 1) := dk_29 (dk_at dksX1_of_0 11 rfl rfl)
theorem dX1_of_12 : decode cX1_of 12 = .ok (.iadd, 1) := dk_96 (dk_at dksX1_of_0 12 rfl rfl)
theorem dX1_of_13 : decode cX1_of 13 = .ok (.iaload, 1) := dk_46 (dk_at dksX1_of_0 13 rfl rfl)
theorem dX1_of_14 : decode cX1_of 14 = .ok (.ireturn, 1) := dk_172 (dk_at dksX1_of_0 14 rfl rfl)
abbrev cX1_isSmall : ByteArray := prog_24_method_7_code
def yX1_isSmall : MethodName := ⟨RX1, "isSmall", "(J)Z"⟩
def dkwX1_isSmall_0 : List UInt8 := [30, 20, 0, 101, 20, 0, 103, 184, 0, 105, 172]
abbrev dktX1_isSmall_0 : List UInt8 := dkwX1_isSmall_0 ++ []
theorem dksX1_isSmall_0 : cX1_isSmall.data.toList.drop 0 = dktX1_isSmall_0 := by decide +kernel
theorem dX1_isSmall_0 : decode cX1_isSmall 0 = .ok (.lload_n 0, 1) := dk_30 (dk_at dksX1_isSmall_0 0 rfl rfl)
theorem dX1_isSmall_1 : decode cX1_isSmall 1 = .ok (.ldc2_w 101, 3) := dk_20 0 101 (dk_at dksX1_isSmall_0 1 rfl rfl)
theorem dX1_isSmall_4 : decode cX1_isSmall 4 = .ok (.ldc2_w 103, 3) := dk_20 0 103 (dk_at dksX1_isSmall_0 4 rfl rfl)
theorem dX1_isSmall_7 : decode cX1_isSmall 7 = .ok (.invokestatic 105, 3) := dk_184 0 105 (dk_at dksX1_isSmall_0 7 rfl rfl)
theorem dX1_isSmall_10 : decode cX1_isSmall 10 = .ok (.ireturn, 1) := dk_172 (dk_at dksX1_isSmall_0 10 rfl rfl)
abbrev cX1_takesSign : ByteArray := prog_24_method_22_code
def yX1_takesSign : MethodName := ⟨RX1, "takesSign", "(I)Z"⟩
def dkwX1_takesSign_0 : List UInt8 := [42, 27, 182, 0, 184, 154, 0, 9, 42, 4, 182, 0, 187, 172, 42, 182, 0, 190, 4, 172]
abbrev dktX1_takesSign_0 : List UInt8 := dkwX1_takesSign_0 ++ []
theorem dksX1_takesSign_0 : cX1_takesSign.data.toList.drop 0 = dktX1_takesSign_0 := by decide +kernel
theorem dX1_takesSign_0 : decode cX1_takesSign 0 = .ok (.aload_n 0, 1) := dk_42 (dk_at dksX1_takesSign_0 0 rfl rfl)
theorem dX1_takesSign_1 : decode cX1_takesSign 1 = .ok (.iload_n 1, 1) := dk_27 (dk_at dksX1_takesSign_0 1 rfl rfl)
theorem dX1_takesSign_2 : decode cX1_takesSign 2 = .ok (.invokevirtual 184, 3) := dk_182 0 184 (dk_at dksX1_takesSign_0 2 rfl rfl)
theorem dX1_takesSign_5 : decode cX1_takesSign 5 = .ok (.ifCond .ne 9, 3) := dk_154 0 9 (dk_at dksX1_takesSign_0 5 rfl rfl)
theorem dX1_takesSign_8 : decode cX1_takesSign 8 = .ok (.aload_n 0, 1) := dk_42 (dk_at dksX1_takesSign_0 8 rfl rfl)
theorem dX1_takesSign_9 : decode cX1_takesSign 9 = .ok (.iconst 1, 1) := dk_4 (dk_at dksX1_takesSign_0 9 rfl rfl)
theorem dX1_takesSign_10 : decode cX1_takesSign 10 = .ok (.invokevirtual 187, 3) := dk_182 0 187 (dk_at dksX1_takesSign_0 10 rfl rfl)
theorem dX1_takesSign_13 : decode cX1_takesSign 13 = .ok (.ireturn, 1) := dk_172 (dk_at dksX1_takesSign_0 13 rfl rfl)
theorem dX1_takesSign_14 : decode cX1_takesSign 14 = .ok (.aload_n 0, 1) := dk_42 (dk_at dksX1_takesSign_0 14 rfl rfl)
theorem dX1_takesSign_15 : decode cX1_takesSign 15 = .ok (.invokevirtual 190, 3) := dk_182 0 190 (dk_at dksX1_takesSign_0 15 rfl rfl)
theorem dX1_takesSign_18 : decode cX1_takesSign 18 = .ok (.iconst 1, 1) := dk_4 (dk_at dksX1_takesSign_0 18 rfl rfl)
theorem dX1_takesSign_19 : decode cX1_takesSign 19 = .ok (.ireturn, 1) := dk_172 (dk_at dksX1_takesSign_0 19 rfl rfl)
abbrev cX1_isRead : ByteArray := prog_24_method_24_code
def yX1_isRead : MethodName := ⟨RX1, "isRead", "()Z"⟩
def dkwX1_isRead_2 : List UInt8 := [167, 0, 4, 3, 172]
abbrev dktX1_isRead_2 : List UInt8 := dkwX1_isRead_2 ++ []
def dkwX1_isRead_1 : List UInt8 := [180, 0, 162, 181, 0, 25, 42, 42, 180, 0, 168, 181, 0, 28, 42, 180, 0, 153, 154, 0, 7, 4]
abbrev dktX1_isRead_1 : List UInt8 := dkwX1_isRead_1 ++ dktX1_isRead_2
def dkwX1_isRead_0 : List UInt8 := [42, 3, 181, 0, 115, 42, 42, 180, 0, 153, 181, 0, 193, 42, 42, 180, 0, 156, 181, 0, 21, 42, 42]
abbrev dktX1_isRead_0 : List UInt8 := dkwX1_isRead_0 ++ dktX1_isRead_1
theorem dksX1_isRead_0 : cX1_isRead.data.toList.drop 0 = dktX1_isRead_0 := by decide +kernel
theorem dksX1_isRead_1 : cX1_isRead.data.toList.drop 23 = dktX1_isRead_1 := dk_seg dksX1_isRead_0 23 rfl rfl
theorem dksX1_isRead_2 : cX1_isRead.data.toList.drop 45 = dktX1_isRead_2 := dk_seg dksX1_isRead_1 22 rfl rfl
theorem dX1_isRead_0 : decode cX1_isRead 0 = .ok (.aload_n 0, 1) := dk_42 (dk_at dksX1_isRead_0 0 rfl rfl)
theorem dX1_isRead_1 : decode cX1_isRead 1 = .ok (.iconst 0, 1) := dk_3 (dk_at dksX1_isRead_0 1 rfl rfl)
theorem dX1_isRead_2 : decode cX1_isRead 2 = .ok (.putfield 115, 3) := dk_181 0 115 (dk_at dksX1_isRead_0 2 rfl rfl)
theorem dX1_isRead_5 : decode cX1_isRead 5 = .ok (.aload_n 0, 1) := dk_42 (dk_at dksX1_isRead_0 5 rfl rfl)
theorem dX1_isRead_6 : decode cX1_isRead 6 = .ok (.aload_n 0, 1) := dk_42 (dk_at dksX1_isRead_0 6 rfl rfl)
theorem dX1_isRead_7 : decode cX1_isRead 7 = .ok (.getfield 153, 3) := dk_180 0 153 (dk_at dksX1_isRead_0 7 rfl rfl)
theorem dX1_isRead_10 : decode cX1_isRead 10 = .ok (.putfield 193, 3) := dk_181 0 193 (dk_at dksX1_isRead_0 10 rfl rfl)
theorem dX1_isRead_13 : decode cX1_isRead 13 = .ok (.aload_n 0, 1) := dk_42 (dk_at dksX1_isRead_0 13 rfl rfl)
theorem dX1_isRead_14 : decode cX1_isRead 14 = .ok (.aload_n 0, 1) := dk_42 (dk_at dksX1_isRead_0 14 rfl rfl)
theorem dX1_isRead_15 : decode cX1_isRead 15 = .ok (.getfield 156, 3) := dk_180 0 156 (dk_at dksX1_isRead_0 15 rfl rfl)
theorem dX1_isRead_18 : decode cX1_isRead 18 = .ok (.putfield 21, 3) := dk_181 0 21 (dk_at dksX1_isRead_0 18 rfl rfl)
theorem dX1_isRead_21 : decode cX1_isRead 21 = .ok (.aload_n 0, 1) := dk_42 (dk_at dksX1_isRead_0 21 rfl rfl)
theorem dX1_isRead_22 : decode cX1_isRead 22 = .ok (.aload_n 0, 1) := dk_42 (dk_at dksX1_isRead_0 22 rfl rfl)
theorem dX1_isRead_23 : decode cX1_isRead 23 = .ok (.getfield 162, 3) := dk_180 0 162 (dk_at dksX1_isRead_1 0 rfl rfl)
theorem dX1_isRead_26 : decode cX1_isRead 26 = .ok (.putfield 25, 3) := dk_181 0 25 (dk_at dksX1_isRead_1 3 rfl rfl)
theorem dX1_isRead_29 : decode cX1_isRead 29 = .ok (.aload_n 0, 1) := dk_42 (dk_at dksX1_isRead_1 6 rfl rfl)
theorem dX1_isRead_30 : decode cX1_isRead 30 = .ok (.aload_n 0, 1) := dk_42 (dk_at dksX1_isRead_1 7 rfl rfl)
theorem dX1_isRead_31 : decode cX1_isRead 31 = .ok (.getfield 168, 3) := dk_180 0 168 (dk_at dksX1_isRead_1 8 rfl rfl)
theorem dX1_isRead_34 : decode cX1_isRead 34 = .ok (.putfield 28, 3) := dk_181 0 28 (dk_at dksX1_isRead_1 11 rfl rfl)
theorem dX1_isRead_37 : decode cX1_isRead 37 = .ok (.aload_n 0, 1) := dk_42 (dk_at dksX1_isRead_1 14 rfl rfl)
theorem dX1_isRead_38 : decode cX1_isRead 38 = .ok (.getfield 153, 3) := dk_180 0 153 (dk_at dksX1_isRead_1 15 rfl rfl)
theorem dX1_isRead_41 : decode cX1_isRead 41 = .ok (.ifCond .ne 7, 3) := dk_154 0 7 (dk_at dksX1_isRead_1 18 rfl rfl)
theorem dX1_isRead_44 : decode cX1_isRead 44 = .ok (.iconst 1, 1) := dk_4 (dk_at dksX1_isRead_1 21 rfl rfl)
theorem dX1_isRead_45 : decode cX1_isRead 45 = .ok (.goto 4, 3) := dk_167 0 4 (dk_at dksX1_isRead_2 0 rfl rfl)
theorem dX1_isRead_48 : decode cX1_isRead 48 = .ok (.iconst 0, 1) := dk_3 (dk_at dksX1_isRead_2 3 rfl rfl)
theorem dX1_isRead_49 : decode cX1_isRead 49 = .ok (.ireturn, 1) := dk_172 (dk_at dksX1_isRead_2 4 rfl rfl)
abbrev cX1_takesOver : ByteArray := prog_24_method_31_code
def yX1_takesOver : MethodName := ⟨RX1, "takesOver", "(I)V"⟩
def dkwX1_takesOver_1 : List UInt8 := [182, 0, 243, 132, 2, 1, 167, 255, 240, 42, 2, 181, 0, 31, 42, 2, 181, 0, 39, 177]
abbrev dktX1_takesOver_1 : List UInt8 := dkwX1_takesOver_1 ++ []
def dkwX1_takesOver_0 : List UInt8 := [42, 180, 0, 9, 27, 42, 180, 0, 9, 7, 46, 79, 3, 61, 28, 8, 162, 0, 17, 42, 7, 28, 27, 28]
abbrev dktX1_takesOver_0 : List UInt8 := dkwX1_takesOver_0 ++ dktX1_takesOver_1
theorem dksX1_takesOver_0 : cX1_takesOver.data.toList.drop 0 = dktX1_takesOver_0 := by decide +kernel
theorem dksX1_takesOver_1 : cX1_takesOver.data.toList.drop 24 = dktX1_takesOver_1 := dk_seg dksX1_takesOver_0 24 rfl rfl
theorem dX1_takesOver_0 : decode cX1_takesOver 0 = .ok (.aload_n 0, 1) := dk_42 (dk_at dksX1_takesOver_0 0 rfl rfl)
theorem dX1_takesOver_1 : decode cX1_takesOver 1 = .ok (.getfield 9, 3) := dk_180 0 9 (dk_at dksX1_takesOver_0 1 rfl rfl)
theorem dX1_takesOver_4 : decode cX1_takesOver 4 = .ok (.iload_n 1, 1) := dk_27 (dk_at dksX1_takesOver_0 4 rfl rfl)
theorem dX1_takesOver_5 : decode cX1_takesOver 5 = .ok (.aload_n 0, 1) := dk_42 (dk_at dksX1_takesOver_0 5 rfl rfl)
theorem dX1_takesOver_6 : decode cX1_takesOver 6 = .ok (.getfield 9, 3) := dk_180 0 9 (dk_at dksX1_takesOver_0 6 rfl rfl)
theorem dX1_takesOver_9 : decode cX1_takesOver 9 = .ok (.iconst 4, 1) := dk_7 (dk_at dksX1_takesOver_0 9 rfl rfl)
theorem dX1_takesOver_10 : decode cX1_takesOver 10 = .ok (.iaload, 1) := dk_46 (dk_at dksX1_takesOver_0 10 rfl rfl)
theorem dX1_takesOver_11 : decode cX1_takesOver 11 = .ok (.iastore, 1) := dk_79 (dk_at dksX1_takesOver_0 11 rfl rfl)
theorem dX1_takesOver_12 : decode cX1_takesOver 12 = .ok (.iconst 0, 1) := dk_3 (dk_at dksX1_takesOver_0 12 rfl rfl)
theorem dX1_takesOver_13 : decode cX1_takesOver 13 = .ok (.istore_n 2, 1) := dk_61 (dk_at dksX1_takesOver_0 13 rfl rfl)
theorem dX1_takesOver_14 : decode cX1_takesOver 14 = .ok (.iload_n 2, 1) := dk_28 (dk_at dksX1_takesOver_0 14 rfl rfl)
theorem dX1_takesOver_15 : decode cX1_takesOver 15 = .ok (.iconst 5, 1) := dk_8 (dk_at dksX1_takesOver_0 15 rfl rfl)
theorem dX1_takesOver_16 : decode cX1_takesOver 16 = .ok (.if_icmp .ge 17, 3) := dk_162 0 17 (dk_at dksX1_takesOver_0 16 rfl rfl)
theorem dX1_takesOver_19 : decode cX1_takesOver 19 = .ok (.aload_n 0, 1) := dk_42 (dk_at dksX1_takesOver_0 19 rfl rfl)
theorem dX1_takesOver_20 : decode cX1_takesOver 20 = .ok (.iconst 4, 1) := dk_7 (dk_at dksX1_takesOver_0 20 rfl rfl)
theorem dX1_takesOver_21 : decode cX1_takesOver 21 = .ok (.iload_n 2, 1) := dk_28 (dk_at dksX1_takesOver_0 21 rfl rfl)
theorem dX1_takesOver_22 : decode cX1_takesOver 22 = .ok (.iload_n 1, 1) := dk_27 (dk_at dksX1_takesOver_0 22 rfl rfl)
theorem dX1_takesOver_23 : decode cX1_takesOver 23 = .ok (.iload_n 2, 1) := dk_28 (dk_at dksX1_takesOver_0 23 rfl rfl)
theorem dX1_takesOver_24 : decode cX1_takesOver 24 = .ok (.invokevirtual 243, 3) := dk_182 0 243 (dk_at dksX1_takesOver_1 0 rfl rfl)
theorem dX1_takesOver_27 : decode cX1_takesOver 27 = .ok (.iinc 2 1, 3) := dk_132 2 1 (dk_at dksX1_takesOver_1 3 rfl rfl)
theorem dX1_takesOver_30 : decode cX1_takesOver 30 = .ok (.goto (-16), 3) := dk_167 255 240 (dk_at dksX1_takesOver_1 6 rfl rfl)
theorem dX1_takesOver_33 : decode cX1_takesOver 33 = .ok (.aload_n 0, 1) := dk_42 (dk_at dksX1_takesOver_1 9 rfl rfl)
theorem dX1_takesOver_34 : decode cX1_takesOver 34 = .ok (.iconst (-1), 1) := dk_2 (dk_at dksX1_takesOver_1 10 rfl rfl)
theorem dX1_takesOver_35 : decode cX1_takesOver 35 = .ok (.putfield 31, 3) := dk_181 0 31 (dk_at dksX1_takesOver_1 11 rfl rfl)
theorem dX1_takesOver_38 : decode cX1_takesOver 38 = .ok (.aload_n 0, 1) := dk_42 (dk_at dksX1_takesOver_1 14 rfl rfl)
theorem dX1_takesOver_39 : decode cX1_takesOver 39 = .ok (.iconst (-1), 1) := dk_2 (dk_at dksX1_takesOver_1 15 rfl rfl)
theorem dX1_takesOver_40 : decode cX1_takesOver 40 = .ok (.putfield 39, 3) := dk_181 0 39 (dk_at dksX1_takesOver_1 16 rfl rfl)
theorem dX1_takesOver_43 : decode cX1_takesOver 43 = .ok (.return_, 1) := dk_177 (dk_at dksX1_takesOver_1 19 rfl rfl)
abbrev cX1_copies : ByteArray := prog_24_method_30_code
def yX1_copies : MethodName := ⟨RX1, "copies", "(IIII)V"⟩
def dkwX1_copies_1 : List UInt8 := [42, 180, 0, 15, 7, 8, 27, 104, 28, 96, 104, 21, 5, 96, 46, 79, 132, 5, 1, 167, 255, 216, 177]
abbrev dktX1_copies_1 : List UInt8 := dkwX1_copies_1 ++ []
def dkwX1_copies_0 : List UInt8 := [3, 54, 5, 21, 5, 7, 162, 0, 40, 42, 180, 0, 15, 7, 8, 29, 104, 21, 4, 96, 104, 21, 5, 96]
abbrev dktX1_copies_0 : List UInt8 := dkwX1_copies_0 ++ dktX1_copies_1
theorem dksX1_copies_0 : cX1_copies.data.toList.drop 0 = dktX1_copies_0 := by decide +kernel
theorem dksX1_copies_1 : cX1_copies.data.toList.drop 24 = dktX1_copies_1 := dk_seg dksX1_copies_0 24 rfl rfl
theorem dX1_copies_0 : decode cX1_copies 0 = .ok (.iconst 0, 1) := dk_3 (dk_at dksX1_copies_0 0 rfl rfl)
theorem dX1_copies_1 : decode cX1_copies 1 = .ok (.istore 5, 2) := dk_54 5 (dk_at dksX1_copies_0 1 rfl rfl)
theorem dX1_copies_3 : decode cX1_copies 3 = .ok (.iload 5, 2) := dk_21 5 (dk_at dksX1_copies_0 3 rfl rfl)
theorem dX1_copies_5 : decode cX1_copies 5 = .ok (.iconst 4, 1) := dk_7 (dk_at dksX1_copies_0 5 rfl rfl)
theorem dX1_copies_6 : decode cX1_copies 6 = .ok (.if_icmp .ge 40, 3) := dk_162 0 40 (dk_at dksX1_copies_0 6 rfl rfl)
theorem dX1_copies_9 : decode cX1_copies 9 = .ok (.aload_n 0, 1) := dk_42 (dk_at dksX1_copies_0 9 rfl rfl)
theorem dX1_copies_10 : decode cX1_copies 10 = .ok (.getfield 15, 3) := dk_180 0 15 (dk_at dksX1_copies_0 10 rfl rfl)
theorem dX1_copies_13 : decode cX1_copies 13 = .ok (.iconst 4, 1) := dk_7 (dk_at dksX1_copies_0 13 rfl rfl)
theorem dX1_copies_14 : decode cX1_copies 14 = .ok (.iconst 5, 1) := dk_8 (dk_at dksX1_copies_0 14 rfl rfl)
theorem dX1_copies_15 : decode cX1_copies 15 = .ok (.iload_n 3, 1) := dk_29 (dk_at dksX1_copies_0 15 rfl rfl)
theorem dX1_copies_16 : decode cX1_copies 16 = .ok (.imul, 1) := dk_104 (dk_at dksX1_copies_0 16 rfl rfl)
theorem dX1_copies_17 : decode cX1_copies 17 = .ok (.iload 4, 2) := dk_21 4 (dk_at dksX1_copies_0 17 rfl rfl)
theorem dX1_copies_19 : decode cX1_copies 19 = .ok (.iadd, 1) := dk_96 (dk_at dksX1_copies_0 19 rfl rfl)
theorem dX1_copies_20 : decode cX1_copies 20 = .ok (.imul, 1) := dk_104 (dk_at dksX1_copies_0 20 rfl rfl)
theorem dX1_copies_21 : decode cX1_copies 21 = .ok (.iload 5, 2) := dk_21 5 (dk_at dksX1_copies_0 21 rfl rfl)
theorem dX1_copies_23 : decode cX1_copies 23 = .ok (.iadd, 1) := dk_96 (dk_at dksX1_copies_0 23 rfl rfl)
theorem dX1_copies_24 : decode cX1_copies 24 = .ok (.aload_n 0, 1) := dk_42 (dk_at dksX1_copies_1 0 rfl rfl)
theorem dX1_copies_25 : decode cX1_copies 25 = .ok (.getfield 15, 3) := dk_180 0 15 (dk_at dksX1_copies_1 1 rfl rfl)
theorem dX1_copies_28 : decode cX1_copies 28 = .ok (.iconst 4, 1) := dk_7 (dk_at dksX1_copies_1 4 rfl rfl)
theorem dX1_copies_29 : decode cX1_copies 29 = .ok (.iconst 5, 1) := dk_8 (dk_at dksX1_copies_1 5 rfl rfl)
theorem dX1_copies_30 : decode cX1_copies 30 = .ok (.iload_n 1, 1) := dk_27 (dk_at dksX1_copies_1 6 rfl rfl)
theorem dX1_copies_31 : decode cX1_copies 31 = .ok (.imul, 1) := dk_104 (dk_at dksX1_copies_1 7 rfl rfl)
theorem dX1_copies_32 : decode cX1_copies 32 = .ok (.iload_n 2, 1) := dk_28 (dk_at dksX1_copies_1 8 rfl rfl)
theorem dX1_copies_33 : decode cX1_copies 33 = .ok (.iadd, 1) := dk_96 (dk_at dksX1_copies_1 9 rfl rfl)
theorem dX1_copies_34 : decode cX1_copies 34 = .ok (.imul, 1) := dk_104 (dk_at dksX1_copies_1 10 rfl rfl)
theorem dX1_copies_35 : decode cX1_copies 35 = .ok (.iload 5, 2) := dk_21 5 (dk_at dksX1_copies_1 11 rfl rfl)
theorem dX1_copies_37 : decode cX1_copies 37 = .ok (.iadd, 1) := dk_96 (dk_at dksX1_copies_1 13 rfl rfl)
theorem dX1_copies_38 : decode cX1_copies 38 = .ok (.iaload, 1) := dk_46 (dk_at dksX1_copies_1 14 rfl rfl)
theorem dX1_copies_39 : decode cX1_copies 39 = .ok (.iastore, 1) := dk_79 (dk_at dksX1_copies_1 15 rfl rfl)
theorem dX1_copies_40 : decode cX1_copies 40 = .ok (.iinc 5 1, 3) := dk_132 5 1 (dk_at dksX1_copies_1 16 rfl rfl)
theorem dX1_copies_43 : decode cX1_copies 43 = .ok (.goto (-40), 3) := dk_167 255 216 (dk_at dksX1_copies_1 19 rfl rfl)
theorem dX1_copies_46 : decode cX1_copies 46 = .ok (.return_, 1) := dk_177 (dk_at dksX1_copies_1 22 rfl rfl)
abbrev cX1_ways : ByteArray := prog_24_method_39_code
def yX1_ways : MethodName := ⟨RX1, "ways", "(II)J"⟩
def dkwX1_ways_1 : List UInt8 := [42, 28, 182, 1, 29, 173]
abbrev dktX1_ways_1 : List UInt8 := dkwX1_ways_1 ++ []
def dkwX1_ways_0 : List UInt8 := [42, 27, 182, 1, 18, 153, 0, 10, 28, 184, 1, 21, 154, 0, 7, 20, 1, 24, 173, 42, 27, 182, 1, 26]
abbrev dktX1_ways_0 : List UInt8 := dkwX1_ways_0 ++ dktX1_ways_1
theorem dksX1_ways_0 : cX1_ways.data.toList.drop 0 = dktX1_ways_0 := by decide +kernel
theorem dksX1_ways_1 : cX1_ways.data.toList.drop 24 = dktX1_ways_1 := dk_seg dksX1_ways_0 24 rfl rfl
theorem dX1_ways_0 : decode cX1_ways 0 = .ok (.aload_n 0, 1) := dk_42 (dk_at dksX1_ways_0 0 rfl rfl)
theorem dX1_ways_1 : decode cX1_ways 1 = .ok (.iload_n 1, 1) := dk_27 (dk_at dksX1_ways_0 1 rfl rfl)
theorem dX1_ways_2 : decode cX1_ways 2 = .ok (.invokevirtual 274, 3) := dk_182 1 18 (dk_at dksX1_ways_0 2 rfl rfl)
theorem dX1_ways_5 : decode cX1_ways 5 = .ok (.ifCond .eq 10, 3) := dk_153 0 10 (dk_at dksX1_ways_0 5 rfl rfl)
theorem dX1_ways_8 : decode cX1_ways 8 = .ok (.iload_n 2, 1) := dk_28 (dk_at dksX1_ways_0 8 rfl rfl)
theorem dX1_ways_9 : decode cX1_ways 9 = .ok (.invokestatic 277, 3) := dk_184 1 21 (dk_at dksX1_ways_0 9 rfl rfl)
theorem dX1_ways_12 : decode cX1_ways 12 = .ok (.ifCond .ne 7, 3) := dk_154 0 7 (dk_at dksX1_ways_0 12 rfl rfl)
theorem dX1_ways_15 : decode cX1_ways 15 = .ok (.ldc2_w 280, 3) := dk_20 1 24 (dk_at dksX1_ways_0 15 rfl rfl)
theorem dX1_ways_18 : decode cX1_ways 18 = .ok (.lreturn, 1) := dk_173 (dk_at dksX1_ways_0 18 rfl rfl)
theorem dX1_ways_19 : decode cX1_ways 19 = .ok (.aload_n 0, 1) := dk_42 (dk_at dksX1_ways_0 19 rfl rfl)
theorem dX1_ways_20 : decode cX1_ways 20 = .ok (.iload_n 1, 1) := dk_27 (dk_at dksX1_ways_0 20 rfl rfl)
theorem dX1_ways_21 : decode cX1_ways 21 = .ok (.invokevirtual 282, 3) := dk_182 1 26 (dk_at dksX1_ways_0 21 rfl rfl)
theorem dX1_ways_24 : decode cX1_ways 24 = .ok (.aload_n 0, 1) := dk_42 (dk_at dksX1_ways_1 0 rfl rfl)
theorem dX1_ways_25 : decode cX1_ways 25 = .ok (.iload_n 2, 1) := dk_28 (dk_at dksX1_ways_1 1 rfl rfl)
theorem dX1_ways_26 : decode cX1_ways 26 = .ok (.invokevirtual 285, 3) := dk_182 1 29 (dk_at dksX1_ways_1 2 rfl rfl)
theorem dX1_ways_29 : decode cX1_ways 29 = .ok (.lreturn, 1) := dk_173 (dk_at dksX1_ways_1 5 rfl rfl)
abbrev cX1_isForm : ByteArray := prog_24_method_9_code
def yX1_isForm : MethodName := ⟨RX1, "isForm", "(I)Z"⟩
def dkwX1_isForm_0 : List UInt8 := [27, 184, 0, 111, 153, 0, 16, 42, 180, 0, 9, 27, 46, 158, 0, 7, 4, 167, 0, 4, 3, 172]
abbrev dktX1_isForm_0 : List UInt8 := dkwX1_isForm_0 ++ []
theorem dksX1_isForm_0 : cX1_isForm.data.toList.drop 0 = dktX1_isForm_0 := by decide +kernel
theorem dX1_isForm_0 : decode cX1_isForm 0 = .ok (.iload_n 1, 1) := dk_27 (dk_at dksX1_isForm_0 0 rfl rfl)
theorem dX1_isForm_1 : decode cX1_isForm 1 = .ok (.invokestatic 111, 3) := dk_184 0 111 (dk_at dksX1_isForm_0 1 rfl rfl)
theorem dX1_isForm_4 : decode cX1_isForm 4 = .ok (.ifCond .eq 16, 3) := dk_153 0 16 (dk_at dksX1_isForm_0 4 rfl rfl)
theorem dX1_isForm_7 : decode cX1_isForm 7 = .ok (.aload_n 0, 1) := dk_42 (dk_at dksX1_isForm_0 7 rfl rfl)
theorem dX1_isForm_8 : decode cX1_isForm 8 = .ok (.getfield 9, 3) := dk_180 0 9 (dk_at dksX1_isForm_0 8 rfl rfl)
theorem dX1_isForm_11 : decode cX1_isForm 11 = .ok (.iload_n 1, 1) := dk_27 (dk_at dksX1_isForm_0 11 rfl rfl)
theorem dX1_isForm_12 : decode cX1_isForm 12 = .ok (.iaload, 1) := dk_46 (dk_at dksX1_isForm_0 12 rfl rfl)
theorem dX1_isForm_13 : decode cX1_isForm 13 = .ok (.ifCond .le 7, 3) := dk_158 0 7 (dk_at dksX1_isForm_0 13 rfl rfl)
theorem dX1_isForm_16 : decode cX1_isForm 16 = .ok (.iconst 1, 1) := dk_4 (dk_at dksX1_isForm_0 16 rfl rfl)
theorem dX1_isForm_17 : decode cX1_isForm 17 = .ok (.goto 4, 3) := dk_167 0 4 (dk_at dksX1_isForm_0 17 rfl rfl)
theorem dX1_isForm_20 : decode cX1_isForm 20 = .ok (.iconst 0, 1) := dk_3 (dk_at dksX1_isForm_0 20 rfl rfl)
theorem dX1_isForm_21 : decode cX1_isForm 21 = .ok (.ireturn, 1) := dk_172 (dk_at dksX1_isForm_0 21 rfl rfl)
abbrev cX1_isN : ByteArray := prog_24_method_38_code
def yX1_isN : MethodName := ⟨RX1, "isN", "(I)Z"⟩
def dkwX1_isN_0 : List UInt8 := [26, 133, 20, 0, 101, 20, 0, 103, 184, 0, 105, 172]
abbrev dktX1_isN_0 : List UInt8 := dkwX1_isN_0 ++ []
theorem dksX1_isN_0 : cX1_isN.data.toList.drop 0 = dktX1_isN_0 := by decide +kernel
theorem dX1_isN_0 : decode cX1_isN 0 = .ok (.iload_n 0, 1) := dk_26 (dk_at dksX1_isN_0 0 rfl rfl)
theorem dX1_isN_1 : decode cX1_isN 1 = .ok (.i2l, 1) := dk_133 (dk_at dksX1_isN_0 1 rfl rfl)
theorem dX1_isN_2 : decode cX1_isN 2 = .ok (.ldc2_w 101, 3) := dk_20 0 101 (dk_at dksX1_isN_0 2 rfl rfl)
theorem dX1_isN_5 : decode cX1_isN 5 = .ok (.ldc2_w 103, 3) := dk_20 0 103 (dk_at dksX1_isN_0 5 rfl rfl)
theorem dX1_isN_8 : decode cX1_isN 8 = .ok (.invokestatic 105, 3) := dk_184 0 105 (dk_at dksX1_isN_0 8 rfl rfl)
theorem dX1_isN_11 : decode cX1_isN 11 = .ok (.ireturn, 1) := dk_172 (dk_at dksX1_isN_0 11 rfl rfl)
abbrev cX1_lays : ByteArray := prog_24_method_36_code
def yX1_lays : MethodName := ⟨RX1, "lays", "(I)V"⟩
def dkwX1_lays_3 : List UInt8 := [132, 3, 255, 167, 255, 213, 177]
abbrev dktX1_lays_3 : List UInt8 := dkwX1_lays_3 ++ []
def dkwX1_lays_2 : List UInt8 := [27, 29, 4, 182, 0, 93, 42, 27, 29, 5, 182, 0, 93, 42, 27, 29, 6, 182, 0, 93, 182, 1, 14]
abbrev dktX1_lays_2 : List UInt8 := dkwX1_lays_2 ++ dktX1_lays_3
def dkwX1_lays_1 : List UInt8 := [182, 1, 11, 28, 4, 100, 62, 29, 155, 0, 45, 42, 29, 29, 4, 96, 42, 27, 29, 3, 182, 0, 93, 42]
abbrev dktX1_lays_1 : List UInt8 := dkwX1_lays_1 ++ dktX1_lays_2
def dkwX1_lays_0 : List UInt8 := [42, 180, 0, 31, 27, 160, 0, 4, 177, 42, 27, 181, 0, 31, 42, 180, 0, 9, 27, 46, 61, 42, 28]
abbrev dktX1_lays_0 : List UInt8 := dkwX1_lays_0 ++ dktX1_lays_1
theorem dksX1_lays_0 : cX1_lays.data.toList.drop 0 = dktX1_lays_0 := by decide +kernel
theorem dksX1_lays_1 : cX1_lays.data.toList.drop 23 = dktX1_lays_1 := dk_seg dksX1_lays_0 23 rfl rfl
theorem dksX1_lays_2 : cX1_lays.data.toList.drop 47 = dktX1_lays_2 := dk_seg dksX1_lays_1 24 rfl rfl
theorem dksX1_lays_3 : cX1_lays.data.toList.drop 70 = dktX1_lays_3 := dk_seg dksX1_lays_2 23 rfl rfl
theorem dX1_lays_0 : decode cX1_lays 0 = .ok (.aload_n 0, 1) := dk_42 (dk_at dksX1_lays_0 0 rfl rfl)
theorem dX1_lays_1 : decode cX1_lays 1 = .ok (.getfield 31, 3) := dk_180 0 31 (dk_at dksX1_lays_0 1 rfl rfl)
theorem dX1_lays_4 : decode cX1_lays 4 = .ok (.iload_n 1, 1) := dk_27 (dk_at dksX1_lays_0 4 rfl rfl)
theorem dX1_lays_5 : decode cX1_lays 5 = .ok (.if_icmp .ne 4, 3) := dk_160 0 4 (dk_at dksX1_lays_0 5 rfl rfl)
theorem dX1_lays_8 : decode cX1_lays 8 = .ok (.return_, 1) := dk_177 (dk_at dksX1_lays_0 8 rfl rfl)
theorem dX1_lays_9 : decode cX1_lays 9 = .ok (.aload_n 0, 1) := dk_42 (dk_at dksX1_lays_0 9 rfl rfl)
theorem dX1_lays_10 : decode cX1_lays 10 = .ok (.iload_n 1, 1) := dk_27 (dk_at dksX1_lays_0 10 rfl rfl)
theorem dX1_lays_11 : decode cX1_lays 11 = .ok (.putfield 31, 3) := dk_181 0 31 (dk_at dksX1_lays_0 11 rfl rfl)
theorem dX1_lays_14 : decode cX1_lays 14 = .ok (.aload_n 0, 1) := dk_42 (dk_at dksX1_lays_0 14 rfl rfl)
theorem dX1_lays_15 : decode cX1_lays 15 = .ok (.getfield 9, 3) := dk_180 0 9 (dk_at dksX1_lays_0 15 rfl rfl)
theorem dX1_lays_18 : decode cX1_lays 18 = .ok (.iload_n 1, 1) := dk_27 (dk_at dksX1_lays_0 18 rfl rfl)
theorem dX1_lays_19 : decode cX1_lays 19 = .ok (.iaload, 1) := dk_46 (dk_at dksX1_lays_0 19 rfl rfl)
theorem dX1_lays_20 : decode cX1_lays 20 = .ok (.istore_n 2, 1) := dk_61 (dk_at dksX1_lays_0 20 rfl rfl)
theorem dX1_lays_21 : decode cX1_lays 21 = .ok (.aload_n 0, 1) := dk_42 (dk_at dksX1_lays_0 21 rfl rfl)
theorem dX1_lays_22 : decode cX1_lays 22 = .ok (.iload_n 2, 1) := dk_28 (dk_at dksX1_lays_0 22 rfl rfl)
theorem dX1_lays_23 : decode cX1_lays 23 = .ok (.invokevirtual 267, 3) := dk_182 1 11 (dk_at dksX1_lays_1 0 rfl rfl)
theorem dX1_lays_26 : decode cX1_lays 26 = .ok (.iload_n 2, 1) := dk_28 (dk_at dksX1_lays_1 3 rfl rfl)
theorem dX1_lays_27 : decode cX1_lays 27 = .ok (.iconst 1, 1) := dk_4 (dk_at dksX1_lays_1 4 rfl rfl)
theorem dX1_lays_28 : decode cX1_lays 28 = .ok (.isub, 1) := dk_100 (dk_at dksX1_lays_1 5 rfl rfl)
theorem dX1_lays_29 : decode cX1_lays 29 = .ok (.istore_n 3, 1) := dk_62 (dk_at dksX1_lays_1 6 rfl rfl)
theorem dX1_lays_30 : decode cX1_lays 30 = .ok (.iload_n 3, 1) := dk_29 (dk_at dksX1_lays_1 7 rfl rfl)
theorem dX1_lays_31 : decode cX1_lays 31 = .ok (.ifCond .lt 45, 3) := dk_155 0 45 (dk_at dksX1_lays_1 8 rfl rfl)
theorem dX1_lays_34 : decode cX1_lays 34 = .ok (.aload_n 0, 1) := dk_42 (dk_at dksX1_lays_1 11 rfl rfl)
theorem dX1_lays_35 : decode cX1_lays 35 = .ok (.iload_n 3, 1) := dk_29 (dk_at dksX1_lays_1 12 rfl rfl)
theorem dX1_lays_36 : decode cX1_lays 36 = .ok (.iload_n 3, 1) := dk_29 (dk_at dksX1_lays_1 13 rfl rfl)
theorem dX1_lays_37 : decode cX1_lays 37 = .ok (.iconst 1, 1) := dk_4 (dk_at dksX1_lays_1 14 rfl rfl)
theorem dX1_lays_38 : decode cX1_lays 38 = .ok (.iadd, 1) := dk_96 (dk_at dksX1_lays_1 15 rfl rfl)
theorem dX1_lays_39 : decode cX1_lays 39 = .ok (.aload_n 0, 1) := dk_42 (dk_at dksX1_lays_1 16 rfl rfl)
theorem dX1_lays_40 : decode cX1_lays 40 = .ok (.iload_n 1, 1) := dk_27 (dk_at dksX1_lays_1 17 rfl rfl)
theorem dX1_lays_41 : decode cX1_lays 41 = .ok (.iload_n 3, 1) := dk_29 (dk_at dksX1_lays_1 18 rfl rfl)
theorem dX1_lays_42 : decode cX1_lays 42 = .ok (.iconst 0, 1) := dk_3 (dk_at dksX1_lays_1 19 rfl rfl)
theorem dX1_lays_43 : decode cX1_lays 43 = .ok (.invokevirtual 93, 3) := dk_182 0 93 (dk_at dksX1_lays_1 20 rfl rfl)
theorem dX1_lays_46 : decode cX1_lays 46 = .ok (.aload_n 0, 1) := dk_42 (dk_at dksX1_lays_1 23 rfl rfl)
theorem dX1_lays_47 : decode cX1_lays 47 = .ok (.iload_n 1, 1) := dk_27 (dk_at dksX1_lays_2 0 rfl rfl)
theorem dX1_lays_48 : decode cX1_lays 48 = .ok (.iload_n 3, 1) := dk_29 (dk_at dksX1_lays_2 1 rfl rfl)
theorem dX1_lays_49 : decode cX1_lays 49 = .ok (.iconst 1, 1) := dk_4 (dk_at dksX1_lays_2 2 rfl rfl)
theorem dX1_lays_50 : decode cX1_lays 50 = .ok (.invokevirtual 93, 3) := dk_182 0 93 (dk_at dksX1_lays_2 3 rfl rfl)
theorem dX1_lays_53 : decode cX1_lays 53 = .ok (.aload_n 0, 1) := dk_42 (dk_at dksX1_lays_2 6 rfl rfl)
theorem dX1_lays_54 : decode cX1_lays 54 = .ok (.iload_n 1, 1) := dk_27 (dk_at dksX1_lays_2 7 rfl rfl)
theorem dX1_lays_55 : decode cX1_lays 55 = .ok (.iload_n 3, 1) := dk_29 (dk_at dksX1_lays_2 8 rfl rfl)
theorem dX1_lays_56 : decode cX1_lays 56 = .ok (.iconst 2, 1) := dk_5 (dk_at dksX1_lays_2 9 rfl rfl)
theorem dX1_lays_57 : decode cX1_lays 57 = .ok (.invokevirtual 93, 3) := dk_182 0 93 (dk_at dksX1_lays_2 10 rfl rfl)
theorem dX1_lays_60 : decode cX1_lays 60 = .ok (.aload_n 0, 1) := dk_42 (dk_at dksX1_lays_2 13 rfl rfl)
theorem dX1_lays_61 : decode cX1_lays 61 = .ok (.iload_n 1, 1) := dk_27 (dk_at dksX1_lays_2 14 rfl rfl)
theorem dX1_lays_62 : decode cX1_lays 62 = .ok (.iload_n 3, 1) := dk_29 (dk_at dksX1_lays_2 15 rfl rfl)
theorem dX1_lays_63 : decode cX1_lays 63 = .ok (.iconst 3, 1) := dk_6 (dk_at dksX1_lays_2 16 rfl rfl)
theorem dX1_lays_64 : decode cX1_lays 64 = .ok (.invokevirtual 93, 3) := dk_182 0 93 (dk_at dksX1_lays_2 17 rfl rfl)
theorem dX1_lays_67 : decode cX1_lays 67 = .ok (.invokevirtual 270, 3) := dk_182 1 14 (dk_at dksX1_lays_2 20 rfl rfl)
theorem dX1_lays_70 : decode cX1_lays 70 = .ok (.iinc 3 (-1), 3) := dk_132 3 255 (dk_at dksX1_lays_3 0 rfl rfl)
theorem dX1_lays_73 : decode cX1_lays 73 = .ok (.goto (-43), 3) := dk_167 255 213 (dk_at dksX1_lays_3 3 rfl rfl)
theorem dX1_lays_76 : decode cX1_lays 76 = .ok (.return_, 1) := dk_177 (dk_at dksX1_lays_3 6 rfl rfl)
abbrev cX1_laysNought : ByteArray := prog_24_method_35_code
def yX1_laysNought : MethodName := ⟨RX1, "laysNought", "(I)V"⟩
def dkwX1_laysNought_1 : List UInt8 := [132, 2, 1, 167, 255, 233, 42, 180, 0, 35, 17, 117, 49, 27, 104, 17, 58, 152, 96, 10, 80, 177]
abbrev dktX1_laysNought_1 : List UInt8 := dkwX1_laysNought_1 ++ []
def dkwX1_laysNought_0 : List UInt8 := [3, 61, 28, 17, 117, 49, 162, 0, 22, 42, 180, 0, 35, 17, 117, 49, 27, 104, 28, 96, 9, 80]
abbrev dktX1_laysNought_0 : List UInt8 := dkwX1_laysNought_0 ++ dktX1_laysNought_1
theorem dksX1_laysNought_0 : cX1_laysNought.data.toList.drop 0 = dktX1_laysNought_0 := by decide +kernel
theorem dksX1_laysNought_1 : cX1_laysNought.data.toList.drop 22 = dktX1_laysNought_1 := dk_seg dksX1_laysNought_0 22 rfl rfl
theorem dX1_laysNought_0 : decode cX1_laysNought 0 = .ok (.iconst 0, 1) := dk_3 (dk_at dksX1_laysNought_0 0 rfl rfl)
theorem dX1_laysNought_1 : decode cX1_laysNought 1 = .ok (.istore_n 2, 1) := dk_61 (dk_at dksX1_laysNought_0 1 rfl rfl)
theorem dX1_laysNought_2 : decode cX1_laysNought 2 = .ok (.iload_n 2, 1) := dk_28 (dk_at dksX1_laysNought_0 2 rfl rfl)
theorem dX1_laysNought_3 : decode cX1_laysNought 3 = .ok (.sipush 30001, 3) := dk_17 117 49 (dk_at dksX1_laysNought_0 3 rfl rfl)
theorem dX1_laysNought_6 : decode cX1_laysNought 6 = .ok (.if_icmp .ge 22, 3) := dk_162 0 22 (dk_at dksX1_laysNought_0 6 rfl rfl)
theorem dX1_laysNought_9 : decode cX1_laysNought 9 = .ok (.aload_n 0, 1) := dk_42 (dk_at dksX1_laysNought_0 9 rfl rfl)
theorem dX1_laysNought_10 : decode cX1_laysNought 10 = .ok (.getfield 35, 3) := dk_180 0 35 (dk_at dksX1_laysNought_0 10 rfl rfl)
theorem dX1_laysNought_13 : decode cX1_laysNought 13 = .ok (.sipush 30001, 3) := dk_17 117 49 (dk_at dksX1_laysNought_0 13 rfl rfl)
theorem dX1_laysNought_16 : decode cX1_laysNought 16 = .ok (.iload_n 1, 1) := dk_27 (dk_at dksX1_laysNought_0 16 rfl rfl)
theorem dX1_laysNought_17 : decode cX1_laysNought 17 = .ok (.imul, 1) := dk_104 (dk_at dksX1_laysNought_0 17 rfl rfl)
theorem dX1_laysNought_18 : decode cX1_laysNought 18 = .ok (.iload_n 2, 1) := dk_28 (dk_at dksX1_laysNought_0 18 rfl rfl)
theorem dX1_laysNought_19 : decode cX1_laysNought 19 = .ok (.iadd, 1) := dk_96 (dk_at dksX1_laysNought_0 19 rfl rfl)
theorem dX1_laysNought_20 : decode cX1_laysNought 20 = .ok (.lconst 0, 1) := dk_9 (dk_at dksX1_laysNought_0 20 rfl rfl)
theorem dX1_laysNought_21 : decode cX1_laysNought 21 = .ok (.lastore, 1) := dk_80 (dk_at dksX1_laysNought_0 21 rfl rfl)
theorem dX1_laysNought_22 : decode cX1_laysNought 22 = .ok (.iinc 2 1, 3) := dk_132 2 1 (dk_at dksX1_laysNought_1 0 rfl rfl)
theorem dX1_laysNought_25 : decode cX1_laysNought 25 = .ok (.goto (-23), 3) := dk_167 255 233 (dk_at dksX1_laysNought_1 3 rfl rfl)
theorem dX1_laysNought_28 : decode cX1_laysNought 28 = .ok (.aload_n 0, 1) := dk_42 (dk_at dksX1_laysNought_1 6 rfl rfl)
theorem dX1_laysNought_29 : decode cX1_laysNought 29 = .ok (.getfield 35, 3) := dk_180 0 35 (dk_at dksX1_laysNought_1 7 rfl rfl)
theorem dX1_laysNought_32 : decode cX1_laysNought 32 = .ok (.sipush 30001, 3) := dk_17 117 49 (dk_at dksX1_laysNought_1 10 rfl rfl)
theorem dX1_laysNought_35 : decode cX1_laysNought 35 = .ok (.iload_n 1, 1) := dk_27 (dk_at dksX1_laysNought_1 13 rfl rfl)
theorem dX1_laysNought_36 : decode cX1_laysNought 36 = .ok (.imul, 1) := dk_104 (dk_at dksX1_laysNought_1 14 rfl rfl)
theorem dX1_laysNought_37 : decode cX1_laysNought 37 = .ok (.sipush 15000, 3) := dk_17 58 152 (dk_at dksX1_laysNought_1 15 rfl rfl)
theorem dX1_laysNought_40 : decode cX1_laysNought 40 = .ok (.iadd, 1) := dk_96 (dk_at dksX1_laysNought_1 18 rfl rfl)
theorem dX1_laysNought_41 : decode cX1_laysNought 41 = .ok (.lconst 1, 1) := dk_10 (dk_at dksX1_laysNought_1 19 rfl rfl)
theorem dX1_laysNought_42 : decode cX1_laysNought 42 = .ok (.lastore, 1) := dk_80 (dk_at dksX1_laysNought_1 20 rfl rfl)
theorem dX1_laysNought_43 : decode cX1_laysNought 43 = .ok (.return_, 1) := dk_177 (dk_at dksX1_laysNought_1 21 rfl rfl)
abbrev cX1_laysLayer : ByteArray := prog_24_method_33_code
def yX1_laysLayer : MethodName := ⟨RX1, "laysLayer", "(IIIIII)V"⟩
def dkwX1_laysLayer_6 : List UInt8 := [177]
abbrev dktX1_laysLayer_6 : List UInt8 := dkwX1_laysLayer_6 ++ []
def dkwX1_laysLayer_5 : List UInt8 := [167, 255, 221, 42, 180, 0, 35, 17, 117, 49, 27, 104, 21, 7, 96, 22, 8, 80, 132, 7, 1, 167, 255, 120]
abbrev dktX1_laysLayer_5 : List UInt8 := dkwX1_laysLayer_5 ++ dktX1_laysLayer_6
def dkwX1_laysLayer_4 : List UInt8 := [21, 7, 133, 29, 133, 21, 4, 21, 10, 133, 184, 0, 97, 105, 101, 182, 1, 6, 97, 55, 8, 132, 10, 1]
abbrev dktX1_laysLayer_4 : List UInt8 := dkwX1_laysLayer_4 ++ dktX1_laysLayer_5
def dkwX1_laysLayer_3 : List UInt8 := [182, 1, 6, 101, 55, 8, 167, 0, 45, 21, 5, 54, 10, 21, 10, 21, 6, 163, 0, 34, 22, 8, 42, 28]
abbrev dktX1_laysLayer_3 : List UInt8 := dkwX1_laysLayer_3 ++ dktX1_laysLayer_4
def dkwX1_laysLayer_2 : List UInt8 := [21, 7, 29, 21, 5, 104, 100, 133, 182, 1, 6, 97, 42, 28, 21, 7, 29, 21, 6, 4, 96, 104, 100, 133]
abbrev dktX1_laysLayer_2 : List UInt8 := dkwX1_laysLayer_2 ++ dktX1_laysLayer_3
def dkwX1_laysLayer_1 : List UInt8 := [161, 0, 21, 42, 180, 0, 35, 17, 117, 49, 27, 104, 21, 7, 96, 29, 100, 47, 167, 0, 4, 9, 42, 28]
abbrev dktX1_laysLayer_1 : List UInt8 := dkwX1_laysLayer_1 ++ dktX1_laysLayer_2
def dkwX1_laysLayer_0 : List UInt8 := [3, 54, 7, 21, 7, 17, 117, 49, 162, 0, 134, 9, 55, 8, 21, 4, 154, 0, 63, 21, 7, 29]
abbrev dktX1_laysLayer_0 : List UInt8 := dkwX1_laysLayer_0 ++ dktX1_laysLayer_1
theorem dksX1_laysLayer_0 : cX1_laysLayer.data.toList.drop 0 = dktX1_laysLayer_0 := by decide +kernel
theorem dksX1_laysLayer_1 : cX1_laysLayer.data.toList.drop 22 = dktX1_laysLayer_1 := dk_seg dksX1_laysLayer_0 22 rfl rfl
theorem dksX1_laysLayer_2 : cX1_laysLayer.data.toList.drop 46 = dktX1_laysLayer_2 := dk_seg dksX1_laysLayer_1 24 rfl rfl
theorem dksX1_laysLayer_3 : cX1_laysLayer.data.toList.drop 70 = dktX1_laysLayer_3 := dk_seg dksX1_laysLayer_2 24 rfl rfl
theorem dksX1_laysLayer_4 : cX1_laysLayer.data.toList.drop 94 = dktX1_laysLayer_4 := dk_seg dksX1_laysLayer_3 24 rfl rfl
theorem dksX1_laysLayer_5 : cX1_laysLayer.data.toList.drop 118 = dktX1_laysLayer_5 := dk_seg dksX1_laysLayer_4 24 rfl rfl
theorem dksX1_laysLayer_6 : cX1_laysLayer.data.toList.drop 142 = dktX1_laysLayer_6 := dk_seg dksX1_laysLayer_5 24 rfl rfl
theorem dX1_laysLayer_0 : decode cX1_laysLayer 0 = .ok (.iconst 0, 1) := dk_3 (dk_at dksX1_laysLayer_0 0 rfl rfl)
theorem dX1_laysLayer_1 : decode cX1_laysLayer 1 = .ok (.istore 7, 2) := dk_54 7 (dk_at dksX1_laysLayer_0 1 rfl rfl)
theorem dX1_laysLayer_3 : decode cX1_laysLayer 3 = .ok (.iload 7, 2) := dk_21 7 (dk_at dksX1_laysLayer_0 3 rfl rfl)
theorem dX1_laysLayer_5 : decode cX1_laysLayer 5 = .ok (.sipush 30001, 3) := dk_17 117 49 (dk_at dksX1_laysLayer_0 5 rfl rfl)
theorem dX1_laysLayer_8 : decode cX1_laysLayer 8 = .ok (.if_icmp .ge 134, 3) := dk_162 0 134 (dk_at dksX1_laysLayer_0 8 rfl rfl)
theorem dX1_laysLayer_11 : decode cX1_laysLayer 11 = .ok (.lconst 0, 1) := dk_9 (dk_at dksX1_laysLayer_0 11 rfl rfl)
theorem dX1_laysLayer_12 : decode cX1_laysLayer 12 = .ok (.lstore 8, 2) := dk_55 8 (dk_at dksX1_laysLayer_0 12 rfl rfl)
theorem dX1_laysLayer_14 : decode cX1_laysLayer 14 = .ok (.iload 4, 2) := dk_21 4 (dk_at dksX1_laysLayer_0 14 rfl rfl)
theorem dX1_laysLayer_16 : decode cX1_laysLayer 16 = .ok (.ifCond .ne 63, 3) := dk_154 0 63 (dk_at dksX1_laysLayer_0 16 rfl rfl)
theorem dX1_laysLayer_19 : decode cX1_laysLayer 19 = .ok (.iload 7, 2) := dk_21 7 (dk_at dksX1_laysLayer_0 19 rfl rfl)
theorem dX1_laysLayer_21 : decode cX1_laysLayer 21 = .ok (.iload_n 3, 1) := dk_29 (dk_at dksX1_laysLayer_0 21 rfl rfl)
theorem dX1_laysLayer_22 : decode cX1_laysLayer 22 = .ok (.if_icmp .lt 21, 3) := dk_161 0 21 (dk_at dksX1_laysLayer_1 0 rfl rfl)
theorem dX1_laysLayer_25 : decode cX1_laysLayer 25 = .ok (.aload_n 0, 1) := dk_42 (dk_at dksX1_laysLayer_1 3 rfl rfl)
theorem dX1_laysLayer_26 : decode cX1_laysLayer 26 = .ok (.getfield 35, 3) := dk_180 0 35 (dk_at dksX1_laysLayer_1 4 rfl rfl)
theorem dX1_laysLayer_29 : decode cX1_laysLayer 29 = .ok (.sipush 30001, 3) := dk_17 117 49 (dk_at dksX1_laysLayer_1 7 rfl rfl)
theorem dX1_laysLayer_32 : decode cX1_laysLayer 32 = .ok (.iload_n 1, 1) := dk_27 (dk_at dksX1_laysLayer_1 10 rfl rfl)
theorem dX1_laysLayer_33 : decode cX1_laysLayer 33 = .ok (.imul, 1) := dk_104 (dk_at dksX1_laysLayer_1 11 rfl rfl)
theorem dX1_laysLayer_34 : decode cX1_laysLayer 34 = .ok (.iload 7, 2) := dk_21 7 (dk_at dksX1_laysLayer_1 12 rfl rfl)
theorem dX1_laysLayer_36 : decode cX1_laysLayer 36 = .ok (.iadd, 1) := dk_96 (dk_at dksX1_laysLayer_1 14 rfl rfl)
theorem dX1_laysLayer_37 : decode cX1_laysLayer 37 = .ok (.iload_n 3, 1) := dk_29 (dk_at dksX1_laysLayer_1 15 rfl rfl)
theorem dX1_laysLayer_38 : decode cX1_laysLayer 38 = .ok (.isub, 1) := dk_100 (dk_at dksX1_laysLayer_1 16 rfl rfl)
theorem dX1_laysLayer_39 : decode cX1_laysLayer 39 = .ok (.laload, 1) := dk_47 (dk_at dksX1_laysLayer_1 17 rfl rfl)
theorem dX1_laysLayer_40 : decode cX1_laysLayer 40 = .ok (.goto 4, 3) := dk_167 0 4 (dk_at dksX1_laysLayer_1 18 rfl rfl)
theorem dX1_laysLayer_43 : decode cX1_laysLayer 43 = .ok (.lconst 0, 1) := dk_9 (dk_at dksX1_laysLayer_1 21 rfl rfl)
theorem dX1_laysLayer_44 : decode cX1_laysLayer 44 = .ok (.aload_n 0, 1) := dk_42 (dk_at dksX1_laysLayer_1 22 rfl rfl)
theorem dX1_laysLayer_45 : decode cX1_laysLayer 45 = .ok (.iload_n 2, 1) := dk_28 (dk_at dksX1_laysLayer_1 23 rfl rfl)
theorem dX1_laysLayer_46 : decode cX1_laysLayer 46 = .ok (.iload 7, 2) := dk_21 7 (dk_at dksX1_laysLayer_2 0 rfl rfl)
theorem dX1_laysLayer_48 : decode cX1_laysLayer 48 = .ok (.iload_n 3, 1) := dk_29 (dk_at dksX1_laysLayer_2 2 rfl rfl)
theorem dX1_laysLayer_49 : decode cX1_laysLayer 49 = .ok (.iload 5, 2) := dk_21 5 (dk_at dksX1_laysLayer_2 3 rfl rfl)
theorem dX1_laysLayer_51 : decode cX1_laysLayer 51 = .ok (.imul, 1) := dk_104 (dk_at dksX1_laysLayer_2 5 rfl rfl)
theorem dX1_laysLayer_52 : decode cX1_laysLayer 52 = .ok (.isub, 1) := dk_100 (dk_at dksX1_laysLayer_2 6 rfl rfl)
theorem dX1_laysLayer_53 : decode cX1_laysLayer 53 = .ok (.i2l, 1) := dk_133 (dk_at dksX1_laysLayer_2 7 rfl rfl)
theorem dX1_laysLayer_54 : decode cX1_laysLayer 54 = .ok (.invokevirtual 262, 3) := dk_182 1 6 (dk_at dksX1_laysLayer_2 8 rfl rfl)
theorem dX1_laysLayer_57 : decode cX1_laysLayer 57 = .ok (.ladd, 1) := dk_97 (dk_at dksX1_laysLayer_2 11 rfl rfl)
theorem dX1_laysLayer_58 : decode cX1_laysLayer 58 = .ok (.aload_n 0, 1) := dk_42 (dk_at dksX1_laysLayer_2 12 rfl rfl)
theorem dX1_laysLayer_59 : decode cX1_laysLayer 59 = .ok (.iload_n 2, 1) := dk_28 (dk_at dksX1_laysLayer_2 13 rfl rfl)
theorem dX1_laysLayer_60 : decode cX1_laysLayer 60 = .ok (.iload 7, 2) := dk_21 7 (dk_at dksX1_laysLayer_2 14 rfl rfl)
theorem dX1_laysLayer_62 : decode cX1_laysLayer 62 = .ok (.iload_n 3, 1) := dk_29 (dk_at dksX1_laysLayer_2 16 rfl rfl)
theorem dX1_laysLayer_63 : decode cX1_laysLayer 63 = .ok (.iload 6, 2) := dk_21 6 (dk_at dksX1_laysLayer_2 17 rfl rfl)
theorem dX1_laysLayer_65 : decode cX1_laysLayer 65 = .ok (.iconst 1, 1) := dk_4 (dk_at dksX1_laysLayer_2 19 rfl rfl)
theorem dX1_laysLayer_66 : decode cX1_laysLayer 66 = .ok (.iadd, 1) := dk_96 (dk_at dksX1_laysLayer_2 20 rfl rfl)
theorem dX1_laysLayer_67 : decode cX1_laysLayer 67 = .ok (.imul, 1) := dk_104 (dk_at dksX1_laysLayer_2 21 rfl rfl)
theorem dX1_laysLayer_68 : decode cX1_laysLayer 68 = .ok (.isub, 1) := dk_100 (dk_at dksX1_laysLayer_2 22 rfl rfl)
theorem dX1_laysLayer_69 : decode cX1_laysLayer 69 = .ok (.i2l, 1) := dk_133 (dk_at dksX1_laysLayer_2 23 rfl rfl)
theorem dX1_laysLayer_70 : decode cX1_laysLayer 70 = .ok (.invokevirtual 262, 3) := dk_182 1 6 (dk_at dksX1_laysLayer_3 0 rfl rfl)
theorem dX1_laysLayer_73 : decode cX1_laysLayer 73 = .ok (.lsub, 1) := dk_101 (dk_at dksX1_laysLayer_3 3 rfl rfl)
theorem dX1_laysLayer_74 : decode cX1_laysLayer 74 = .ok (.lstore 8, 2) := dk_55 8 (dk_at dksX1_laysLayer_3 4 rfl rfl)
theorem dX1_laysLayer_76 : decode cX1_laysLayer 76 = .ok (.goto 45, 3) := dk_167 0 45 (dk_at dksX1_laysLayer_3 6 rfl rfl)
theorem dX1_laysLayer_79 : decode cX1_laysLayer 79 = .ok (.iload 5, 2) := dk_21 5 (dk_at dksX1_laysLayer_3 9 rfl rfl)
theorem dX1_laysLayer_81 : decode cX1_laysLayer 81 = .ok (.istore 10, 2) := dk_54 10 (dk_at dksX1_laysLayer_3 11 rfl rfl)
theorem dX1_laysLayer_83 : decode cX1_laysLayer 83 = .ok (.iload 10, 2) := dk_21 10 (dk_at dksX1_laysLayer_3 13 rfl rfl)
theorem dX1_laysLayer_85 : decode cX1_laysLayer 85 = .ok (.iload 6, 2) := dk_21 6 (dk_at dksX1_laysLayer_3 15 rfl rfl)
theorem dX1_laysLayer_87 : decode cX1_laysLayer 87 = .ok (.if_icmp .gt 34, 3) := dk_163 0 34 (dk_at dksX1_laysLayer_3 17 rfl rfl)
theorem dX1_laysLayer_90 : decode cX1_laysLayer 90 = .ok (.lload 8, 2) := dk_22 8 (dk_at dksX1_laysLayer_3 20 rfl rfl)
theorem dX1_laysLayer_92 : decode cX1_laysLayer 92 = .ok (.aload_n 0, 1) := dk_42 (dk_at dksX1_laysLayer_3 22 rfl rfl)
theorem dX1_laysLayer_93 : decode cX1_laysLayer 93 = .ok (.iload_n 2, 1) := dk_28 (dk_at dksX1_laysLayer_3 23 rfl rfl)
theorem dX1_laysLayer_94 : decode cX1_laysLayer 94 = .ok (.iload 7, 2) := dk_21 7 (dk_at dksX1_laysLayer_4 0 rfl rfl)
theorem dX1_laysLayer_96 : decode cX1_laysLayer 96 = .ok (.i2l, 1) := dk_133 (dk_at dksX1_laysLayer_4 2 rfl rfl)
theorem dX1_laysLayer_97 : decode cX1_laysLayer 97 = .ok (.iload_n 3, 1) := dk_29 (dk_at dksX1_laysLayer_4 3 rfl rfl)
theorem dX1_laysLayer_98 : decode cX1_laysLayer 98 = .ok (.i2l, 1) := dk_133 (dk_at dksX1_laysLayer_4 4 rfl rfl)
theorem dX1_laysLayer_99 : decode cX1_laysLayer 99 = .ok (.iload 4, 2) := dk_21 4 (dk_at dksX1_laysLayer_4 5 rfl rfl)
theorem dX1_laysLayer_101 : decode cX1_laysLayer 101 = .ok (.iload 10, 2) := dk_21 10 (dk_at dksX1_laysLayer_4 7 rfl rfl)
theorem dX1_laysLayer_103 : decode cX1_laysLayer 103 = .ok (.i2l, 1) := dk_133 (dk_at dksX1_laysLayer_4 9 rfl rfl)
theorem dX1_laysLayer_104 : decode cX1_laysLayer 104 = .ok (.invokestatic 97, 3) := dk_184 0 97 (dk_at dksX1_laysLayer_4 10 rfl rfl)
theorem dX1_laysLayer_107 : decode cX1_laysLayer 107 = .ok (.lmul, 1) := dk_105 (dk_at dksX1_laysLayer_4 13 rfl rfl)
theorem dX1_laysLayer_108 : decode cX1_laysLayer 108 = .ok (.lsub, 1) := dk_101 (dk_at dksX1_laysLayer_4 14 rfl rfl)
theorem dX1_laysLayer_109 : decode cX1_laysLayer 109 = .ok (.invokevirtual 262, 3) := dk_182 1 6 (dk_at dksX1_laysLayer_4 15 rfl rfl)
theorem dX1_laysLayer_112 : decode cX1_laysLayer 112 = .ok (.ladd, 1) := dk_97 (dk_at dksX1_laysLayer_4 18 rfl rfl)
theorem dX1_laysLayer_113 : decode cX1_laysLayer 113 = .ok (.lstore 8, 2) := dk_55 8 (dk_at dksX1_laysLayer_4 19 rfl rfl)
theorem dX1_laysLayer_115 : decode cX1_laysLayer 115 = .ok (.iinc 10 1, 3) := dk_132 10 1 (dk_at dksX1_laysLayer_4 21 rfl rfl)
theorem dX1_laysLayer_118 : decode cX1_laysLayer 118 = .ok (.goto (-35), 3) := dk_167 255 221 (dk_at dksX1_laysLayer_5 0 rfl rfl)
theorem dX1_laysLayer_121 : decode cX1_laysLayer 121 = .ok (.aload_n 0, 1) := dk_42 (dk_at dksX1_laysLayer_5 3 rfl rfl)
theorem dX1_laysLayer_122 : decode cX1_laysLayer 122 = .ok (.getfield 35, 3) := dk_180 0 35 (dk_at dksX1_laysLayer_5 4 rfl rfl)
theorem dX1_laysLayer_125 : decode cX1_laysLayer 125 = .ok (.sipush 30001, 3) := dk_17 117 49 (dk_at dksX1_laysLayer_5 7 rfl rfl)
theorem dX1_laysLayer_128 : decode cX1_laysLayer 128 = .ok (.iload_n 1, 1) := dk_27 (dk_at dksX1_laysLayer_5 10 rfl rfl)
theorem dX1_laysLayer_129 : decode cX1_laysLayer 129 = .ok (.imul, 1) := dk_104 (dk_at dksX1_laysLayer_5 11 rfl rfl)
theorem dX1_laysLayer_130 : decode cX1_laysLayer 130 = .ok (.iload 7, 2) := dk_21 7 (dk_at dksX1_laysLayer_5 12 rfl rfl)
theorem dX1_laysLayer_132 : decode cX1_laysLayer 132 = .ok (.iadd, 1) := dk_96 (dk_at dksX1_laysLayer_5 14 rfl rfl)
theorem dX1_laysLayer_133 : decode cX1_laysLayer 133 = .ok (.lload 8, 2) := dk_22 8 (dk_at dksX1_laysLayer_5 15 rfl rfl)
theorem dX1_laysLayer_135 : decode cX1_laysLayer 135 = .ok (.lastore, 1) := dk_80 (dk_at dksX1_laysLayer_5 17 rfl rfl)
theorem dX1_laysLayer_136 : decode cX1_laysLayer 136 = .ok (.iinc 7 1, 3) := dk_132 7 1 (dk_at dksX1_laysLayer_5 18 rfl rfl)
theorem dX1_laysLayer_139 : decode cX1_laysLayer 139 = .ok (.goto (-136), 3) := dk_167 255 120 (dk_at dksX1_laysLayer_5 21 rfl rfl)
theorem dX1_laysLayer_142 : decode cX1_laysLayer 142 = .ok (.return_, 1) := dk_177 (dk_at dksX1_laysLayer_6 0 rfl rfl)
abbrev cX1_at : ByteArray := prog_24_method_34_code
def yX1_at : MethodName := ⟨RX1, "at", "(IJ)J"⟩
def dkwX1_at_1 : List UInt8 := [167, 0, 4, 9, 173]
abbrev dktX1_at_1 : List UInt8 := dkwX1_at_1 ++ []
def dkwX1_at_0 : List UInt8 := [32, 9, 20, 1, 9, 184, 0, 105, 153, 0, 19, 42, 180, 0, 35, 17, 117, 49, 27, 104, 32, 136, 96, 47]
abbrev dktX1_at_0 : List UInt8 := dkwX1_at_0 ++ dktX1_at_1
theorem dksX1_at_0 : cX1_at.data.toList.drop 0 = dktX1_at_0 := by decide +kernel
theorem dksX1_at_1 : cX1_at.data.toList.drop 24 = dktX1_at_1 := dk_seg dksX1_at_0 24 rfl rfl
theorem dX1_at_0 : decode cX1_at 0 = .ok (.lload_n 2, 1) := dk_32 (dk_at dksX1_at_0 0 rfl rfl)
theorem dX1_at_1 : decode cX1_at 1 = .ok (.lconst 0, 1) := dk_9 (dk_at dksX1_at_0 1 rfl rfl)
theorem dX1_at_2 : decode cX1_at 2 = .ok (.ldc2_w 265, 3) := dk_20 1 9 (dk_at dksX1_at_0 2 rfl rfl)
theorem dX1_at_5 : decode cX1_at 5 = .ok (.invokestatic 105, 3) := dk_184 0 105 (dk_at dksX1_at_0 5 rfl rfl)
theorem dX1_at_8 : decode cX1_at 8 = .ok (.ifCond .eq 19, 3) := dk_153 0 19 (dk_at dksX1_at_0 8 rfl rfl)
theorem dX1_at_11 : decode cX1_at 11 = .ok (.aload_n 0, 1) := dk_42 (dk_at dksX1_at_0 11 rfl rfl)
theorem dX1_at_12 : decode cX1_at 12 = .ok (.getfield 35, 3) := dk_180 0 35 (dk_at dksX1_at_0 12 rfl rfl)
theorem dX1_at_15 : decode cX1_at 15 = .ok (.sipush 30001, 3) := dk_17 117 49 (dk_at dksX1_at_0 15 rfl rfl)
theorem dX1_at_18 : decode cX1_at 18 = .ok (.iload_n 1, 1) := dk_27 (dk_at dksX1_at_0 18 rfl rfl)
theorem dX1_at_19 : decode cX1_at 19 = .ok (.imul, 1) := dk_104 (dk_at dksX1_at_0 19 rfl rfl)
theorem dX1_at_20 : decode cX1_at 20 = .ok (.lload_n 2, 1) := dk_32 (dk_at dksX1_at_0 20 rfl rfl)
theorem dX1_at_21 : decode cX1_at 21 = .ok (.l2i, 1) := dk_136 (dk_at dksX1_at_0 21 rfl rfl)
theorem dX1_at_22 : decode cX1_at 22 = .ok (.iadd, 1) := dk_96 (dk_at dksX1_at_0 22 rfl rfl)
theorem dX1_at_23 : decode cX1_at 23 = .ok (.laload, 1) := dk_47 (dk_at dksX1_at_0 23 rfl rfl)
theorem dX1_at_24 : decode cX1_at 24 = .ok (.goto 4, 3) := dk_167 0 4 (dk_at dksX1_at_1 0 rfl rfl)
theorem dX1_at_27 : decode cX1_at 27 = .ok (.lconst 0, 1) := dk_9 (dk_at dksX1_at_1 3 rfl rfl)
theorem dX1_at_28 : decode cX1_at 28 = .ok (.lreturn, 1) := dk_173 (dk_at dksX1_at_1 4 rfl rfl)
abbrev cX1_waysOf : ByteArray := prog_24_method_37_code
def yX1_waysOf : MethodName := ⟨RX1, "waysOf", "(I)J"⟩
def dkwX1_waysOf_0 : List UInt8 := [42, 3, 27, 17, 58, 152, 96, 133, 182, 1, 6, 173]
abbrev dktX1_waysOf_0 : List UInt8 := dkwX1_waysOf_0 ++ []
theorem dksX1_waysOf_0 : cX1_waysOf.data.toList.drop 0 = dktX1_waysOf_0 := by decide +kernel
theorem dX1_waysOf_0 : decode cX1_waysOf 0 = .ok (.aload_n 0, 1) := dk_42 (dk_at dksX1_waysOf_0 0 rfl rfl)
theorem dX1_waysOf_1 : decode cX1_waysOf 1 = .ok (.iconst 0, 1) := dk_3 (dk_at dksX1_waysOf_0 1 rfl rfl)
theorem dX1_waysOf_2 : decode cX1_waysOf 2 = .ok (.iload_n 1, 1) := dk_27 (dk_at dksX1_waysOf_0 2 rfl rfl)
theorem dX1_waysOf_3 : decode cX1_waysOf 3 = .ok (.sipush 15000, 3) := dk_17 58 152 (dk_at dksX1_waysOf_0 3 rfl rfl)
theorem dX1_waysOf_6 : decode cX1_waysOf 6 = .ok (.iadd, 1) := dk_96 (dk_at dksX1_waysOf_0 6 rfl rfl)
theorem dX1_waysOf_7 : decode cX1_waysOf 7 = .ok (.i2l, 1) := dk_133 (dk_at dksX1_waysOf_0 7 rfl rfl)
theorem dX1_waysOf_8 : decode cX1_waysOf 8 = .ok (.invokevirtual 262, 3) := dk_182 1 6 (dk_at dksX1_waysOf_0 8 rfl rfl)
theorem dX1_waysOf_11 : decode cX1_waysOf 11 = .ok (.lreturn, 1) := dk_173 (dk_at dksX1_waysOf_0 11 rfl rfl)
abbrev cX1_unlike : ByteArray := prog_24_method_46_code
def yX1_unlike : MethodName := ⟨RX1, "unlike", "(II)J"⟩
def dkwX1_unlike_1 : List UInt8 := [42, 180, 0, 42, 28, 17, 11, 184, 96, 47, 173]
abbrev dktX1_unlike_1 : List UInt8 := dkwX1_unlike_1 ++ []
def dkwX1_unlike_0 : List UInt8 := [42, 27, 182, 1, 18, 153, 0, 10, 28, 184, 1, 21, 154, 0, 7, 20, 1, 24, 173, 42, 27, 182, 1, 54]
abbrev dktX1_unlike_0 : List UInt8 := dkwX1_unlike_0 ++ dktX1_unlike_1
theorem dksX1_unlike_0 : cX1_unlike.data.toList.drop 0 = dktX1_unlike_0 := by decide +kernel
theorem dksX1_unlike_1 : cX1_unlike.data.toList.drop 24 = dktX1_unlike_1 := dk_seg dksX1_unlike_0 24 rfl rfl
theorem dX1_unlike_0 : decode cX1_unlike 0 = .ok (.aload_n 0, 1) := dk_42 (dk_at dksX1_unlike_0 0 rfl rfl)
theorem dX1_unlike_1 : decode cX1_unlike 1 = .ok (.iload_n 1, 1) := dk_27 (dk_at dksX1_unlike_0 1 rfl rfl)
theorem dX1_unlike_2 : decode cX1_unlike 2 = .ok (.invokevirtual 274, 3) := dk_182 1 18 (dk_at dksX1_unlike_0 2 rfl rfl)
theorem dX1_unlike_5 : decode cX1_unlike 5 = .ok (.ifCond .eq 10, 3) := dk_153 0 10 (dk_at dksX1_unlike_0 5 rfl rfl)
theorem dX1_unlike_8 : decode cX1_unlike 8 = .ok (.iload_n 2, 1) := dk_28 (dk_at dksX1_unlike_0 8 rfl rfl)
theorem dX1_unlike_9 : decode cX1_unlike 9 = .ok (.invokestatic 277, 3) := dk_184 1 21 (dk_at dksX1_unlike_0 9 rfl rfl)
theorem dX1_unlike_12 : decode cX1_unlike 12 = .ok (.ifCond .ne 7, 3) := dk_154 0 7 (dk_at dksX1_unlike_0 12 rfl rfl)
theorem dX1_unlike_15 : decode cX1_unlike 15 = .ok (.ldc2_w 280, 3) := dk_20 1 24 (dk_at dksX1_unlike_0 15 rfl rfl)
theorem dX1_unlike_18 : decode cX1_unlike 18 = .ok (.lreturn, 1) := dk_173 (dk_at dksX1_unlike_0 18 rfl rfl)
theorem dX1_unlike_19 : decode cX1_unlike 19 = .ok (.aload_n 0, 1) := dk_42 (dk_at dksX1_unlike_0 19 rfl rfl)
theorem dX1_unlike_20 : decode cX1_unlike 20 = .ok (.iload_n 1, 1) := dk_27 (dk_at dksX1_unlike_0 20 rfl rfl)
theorem dX1_unlike_21 : decode cX1_unlike 21 = .ok (.invokevirtual 310, 3) := dk_182 1 54 (dk_at dksX1_unlike_0 21 rfl rfl)
theorem dX1_unlike_24 : decode cX1_unlike 24 = .ok (.aload_n 0, 1) := dk_42 (dk_at dksX1_unlike_1 0 rfl rfl)
theorem dX1_unlike_25 : decode cX1_unlike 25 = .ok (.getfield 42, 3) := dk_180 0 42 (dk_at dksX1_unlike_1 1 rfl rfl)
theorem dX1_unlike_28 : decode cX1_unlike 28 = .ok (.iload_n 2, 1) := dk_28 (dk_at dksX1_unlike_1 4 rfl rfl)
theorem dX1_unlike_29 : decode cX1_unlike 29 = .ok (.sipush 3000, 3) := dk_17 11 184 (dk_at dksX1_unlike_1 5 rfl rfl)
theorem dX1_unlike_32 : decode cX1_unlike 32 = .ok (.iadd, 1) := dk_96 (dk_at dksX1_unlike_1 8 rfl rfl)
theorem dX1_unlike_33 : decode cX1_unlike 33 = .ok (.laload, 1) := dk_47 (dk_at dksX1_unlike_1 9 rfl rfl)
theorem dX1_unlike_34 : decode cX1_unlike 34 = .ok (.lreturn, 1) := dk_173 (dk_at dksX1_unlike_1 10 rfl rfl)
abbrev cX1_laysUnlike : ByteArray := prog_24_method_41_code
def yX1_laysUnlike : MethodName := ⟨RX1, "laysUnlike", "(I)V"⟩
def dkwX1_laysUnlike_8 : List UInt8 := [167, 255, 234, 177]
abbrev dktX1_laysUnlike_8 : List UInt8 := dkwX1_laysUnlike_8 ++ []
def dkwX1_laysUnlike_7 : List UInt8 := [21, 4, 17, 23, 113, 162, 0, 20, 42, 180, 0, 42, 21, 4, 92, 47, 32, 109, 80, 132, 4, 1]
abbrev dktX1_laysUnlike_7 : List UInt8 := dkwX1_laysUnlike_7 ++ dktX1_laysUnlike_8
def dkwX1_laysUnlike_6 : List UInt8 := [21, 5, 182, 1, 29, 105, 97, 80, 132, 5, 1, 167, 255, 217, 132, 4, 1, 167, 255, 180, 3, 54, 4]
abbrev dktX1_laysUnlike_6 : List UInt8 := dkwX1_laysUnlike_6 ++ dktX1_laysUnlike_7
def dkwX1_laysUnlike_5 : List UInt8 := [163, 0, 37, 42, 180, 0, 42, 21, 5, 17, 11, 184, 96, 92, 47, 42, 180, 0, 54, 21, 4, 47, 42]
abbrev dktX1_laysUnlike_5 : List UInt8 := dkwX1_laysUnlike_5 ++ dktX1_laysUnlike_6
def dkwX1_laysUnlike_4 : List UInt8 := [182, 1, 40, 32, 42, 180, 0, 54, 21, 4, 47, 97, 65, 17, 244, 72, 54, 5, 21, 5, 17, 11, 184]
abbrev dktX1_laysUnlike_4 : List UInt8 := dkwX1_laysUnlike_4 ++ dktX1_laysUnlike_5
def dkwX1_laysUnlike_3 : List UInt8 := [3, 182, 1, 36, 9, 65, 3, 54, 4, 21, 4, 42, 180, 1, 33, 162, 0, 73, 42, 27, 21, 4]
abbrev dktX1_laysUnlike_3 : List UInt8 := dkwX1_laysUnlike_3 ++ dktX1_laysUnlike_4
def dkwX1_laysUnlike_2 : List UInt8 := [162, 0, 16, 42, 180, 0, 54, 28, 9, 80, 132, 2, 1, 167, 255, 240, 42, 3, 181, 1, 33, 42, 27, 3]
abbrev dktX1_laysUnlike_2 : List UInt8 := dkwX1_laysUnlike_2 ++ dktX1_laysUnlike_3
def dkwX1_laysUnlike_1 : List UInt8 := [17, 23, 113, 162, 0, 16, 42, 180, 0, 42, 28, 9, 80, 132, 2, 1, 167, 255, 239, 3, 61, 28, 16, 8]
abbrev dktX1_laysUnlike_1 : List UInt8 := dkwX1_laysUnlike_1 ++ dktX1_laysUnlike_2
def dkwX1_laysUnlike_0 : List UInt8 := [42, 180, 0, 39, 27, 160, 0, 4, 177, 42, 27, 181, 0, 39, 42, 2, 181, 0, 31, 3, 61, 28]
abbrev dktX1_laysUnlike_0 : List UInt8 := dkwX1_laysUnlike_0 ++ dktX1_laysUnlike_1
theorem dksX1_laysUnlike_0 : cX1_laysUnlike.data.toList.drop 0 = dktX1_laysUnlike_0 := by decide +kernel
theorem dksX1_laysUnlike_1 : cX1_laysUnlike.data.toList.drop 22 = dktX1_laysUnlike_1 := dk_seg dksX1_laysUnlike_0 22 rfl rfl
theorem dksX1_laysUnlike_2 : cX1_laysUnlike.data.toList.drop 46 = dktX1_laysUnlike_2 := dk_seg dksX1_laysUnlike_1 24 rfl rfl
theorem dksX1_laysUnlike_3 : cX1_laysUnlike.data.toList.drop 70 = dktX1_laysUnlike_3 := dk_seg dksX1_laysUnlike_2 24 rfl rfl
theorem dksX1_laysUnlike_4 : cX1_laysUnlike.data.toList.drop 92 = dktX1_laysUnlike_4 := dk_seg dksX1_laysUnlike_3 22 rfl rfl
theorem dksX1_laysUnlike_5 : cX1_laysUnlike.data.toList.drop 115 = dktX1_laysUnlike_5 := dk_seg dksX1_laysUnlike_4 23 rfl rfl
theorem dksX1_laysUnlike_6 : cX1_laysUnlike.data.toList.drop 138 = dktX1_laysUnlike_6 := dk_seg dksX1_laysUnlike_5 23 rfl rfl
theorem dksX1_laysUnlike_7 : cX1_laysUnlike.data.toList.drop 161 = dktX1_laysUnlike_7 := dk_seg dksX1_laysUnlike_6 23 rfl rfl
theorem dksX1_laysUnlike_8 : cX1_laysUnlike.data.toList.drop 183 = dktX1_laysUnlike_8 := dk_seg dksX1_laysUnlike_7 22 rfl rfl
theorem dX1_laysUnlike_0 : decode cX1_laysUnlike 0 = .ok (.aload_n 0, 1) := dk_42 (dk_at dksX1_laysUnlike_0 0 rfl rfl)
theorem dX1_laysUnlike_1 : decode cX1_laysUnlike 1 = .ok (.getfield 39, 3) := dk_180 0 39 (dk_at dksX1_laysUnlike_0 1 rfl rfl)
theorem dX1_laysUnlike_4 : decode cX1_laysUnlike 4 = .ok (.iload_n 1, 1) := dk_27 (dk_at dksX1_laysUnlike_0 4 rfl rfl)
theorem dX1_laysUnlike_5 : decode cX1_laysUnlike 5 = .ok (.if_icmp .ne 4, 3) := dk_160 0 4 (dk_at dksX1_laysUnlike_0 5 rfl rfl)
theorem dX1_laysUnlike_8 : decode cX1_laysUnlike 8 = .ok (.return_, 1) := dk_177 (dk_at dksX1_laysUnlike_0 8 rfl rfl)
theorem dX1_laysUnlike_9 : decode cX1_laysUnlike 9 = .ok (.aload_n 0, 1) := dk_42 (dk_at dksX1_laysUnlike_0 9 rfl rfl)
theorem dX1_laysUnlike_10 : decode cX1_laysUnlike 10 = .ok (.iload_n 1, 1) := dk_27 (dk_at dksX1_laysUnlike_0 10 rfl rfl)
theorem dX1_laysUnlike_11 : decode cX1_laysUnlike 11 = .ok (.putfield 39, 3) := dk_181 0 39 (dk_at dksX1_laysUnlike_0 11 rfl rfl)
theorem dX1_laysUnlike_14 : decode cX1_laysUnlike 14 = .ok (.aload_n 0, 1) := dk_42 (dk_at dksX1_laysUnlike_0 14 rfl rfl)
theorem dX1_laysUnlike_15 : decode cX1_laysUnlike 15 = .ok (.iconst (-1), 1) := dk_2 (dk_at dksX1_laysUnlike_0 15 rfl rfl)
theorem dX1_laysUnlike_16 : decode cX1_laysUnlike 16 = .ok (.putfield 31, 3) := dk_181 0 31 (dk_at dksX1_laysUnlike_0 16 rfl rfl)
theorem dX1_laysUnlike_19 : decode cX1_laysUnlike 19 = .ok (.iconst 0, 1) := dk_3 (dk_at dksX1_laysUnlike_0 19 rfl rfl)
theorem dX1_laysUnlike_20 : decode cX1_laysUnlike 20 = .ok (.istore_n 2, 1) := dk_61 (dk_at dksX1_laysUnlike_0 20 rfl rfl)
theorem dX1_laysUnlike_21 : decode cX1_laysUnlike 21 = .ok (.iload_n 2, 1) := dk_28 (dk_at dksX1_laysUnlike_0 21 rfl rfl)
theorem dX1_laysUnlike_22 : decode cX1_laysUnlike 22 = .ok (.sipush 6001, 3) := dk_17 23 113 (dk_at dksX1_laysUnlike_1 0 rfl rfl)
theorem dX1_laysUnlike_25 : decode cX1_laysUnlike 25 = .ok (.if_icmp .ge 16, 3) := dk_162 0 16 (dk_at dksX1_laysUnlike_1 3 rfl rfl)
theorem dX1_laysUnlike_28 : decode cX1_laysUnlike 28 = .ok (.aload_n 0, 1) := dk_42 (dk_at dksX1_laysUnlike_1 6 rfl rfl)
theorem dX1_laysUnlike_29 : decode cX1_laysUnlike 29 = .ok (.getfield 42, 3) := dk_180 0 42 (dk_at dksX1_laysUnlike_1 7 rfl rfl)
theorem dX1_laysUnlike_32 : decode cX1_laysUnlike 32 = .ok (.iload_n 2, 1) := dk_28 (dk_at dksX1_laysUnlike_1 10 rfl rfl)
theorem dX1_laysUnlike_33 : decode cX1_laysUnlike 33 = .ok (.lconst 0, 1) := dk_9 (dk_at dksX1_laysUnlike_1 11 rfl rfl)
theorem dX1_laysUnlike_34 : decode cX1_laysUnlike 34 = .ok (.lastore, 1) := dk_80 (dk_at dksX1_laysUnlike_1 12 rfl rfl)
theorem dX1_laysUnlike_35 : decode cX1_laysUnlike 35 = .ok (.iinc 2 1, 3) := dk_132 2 1 (dk_at dksX1_laysUnlike_1 13 rfl rfl)
theorem dX1_laysUnlike_38 : decode cX1_laysUnlike 38 = .ok (.goto (-17), 3) := dk_167 255 239 (dk_at dksX1_laysUnlike_1 16 rfl rfl)
theorem dX1_laysUnlike_41 : decode cX1_laysUnlike 41 = .ok (.iconst 0, 1) := dk_3 (dk_at dksX1_laysUnlike_1 19 rfl rfl)
theorem dX1_laysUnlike_42 : decode cX1_laysUnlike 42 = .ok (.istore_n 2, 1) := dk_61 (dk_at dksX1_laysUnlike_1 20 rfl rfl)
theorem dX1_laysUnlike_43 : decode cX1_laysUnlike 43 = .ok (.iload_n 2, 1) := dk_28 (dk_at dksX1_laysUnlike_1 21 rfl rfl)
theorem dX1_laysUnlike_44 : decode cX1_laysUnlike 44 = .ok (.bipush 8, 2) := dk_16 8 (dk_at dksX1_laysUnlike_1 22 rfl rfl)
theorem dX1_laysUnlike_46 : decode cX1_laysUnlike 46 = .ok (.if_icmp .ge 16, 3) := dk_162 0 16 (dk_at dksX1_laysUnlike_2 0 rfl rfl)
theorem dX1_laysUnlike_49 : decode cX1_laysUnlike 49 = .ok (.aload_n 0, 1) := dk_42 (dk_at dksX1_laysUnlike_2 3 rfl rfl)
theorem dX1_laysUnlike_50 : decode cX1_laysUnlike 50 = .ok (.getfield 54, 3) := dk_180 0 54 (dk_at dksX1_laysUnlike_2 4 rfl rfl)
theorem dX1_laysUnlike_53 : decode cX1_laysUnlike 53 = .ok (.iload_n 2, 1) := dk_28 (dk_at dksX1_laysUnlike_2 7 rfl rfl)
theorem dX1_laysUnlike_54 : decode cX1_laysUnlike 54 = .ok (.lconst 0, 1) := dk_9 (dk_at dksX1_laysUnlike_2 8 rfl rfl)
theorem dX1_laysUnlike_55 : decode cX1_laysUnlike 55 = .ok (.lastore, 1) := dk_80 (dk_at dksX1_laysUnlike_2 9 rfl rfl)
theorem dX1_laysUnlike_56 : decode cX1_laysUnlike 56 = .ok (.iinc 2 1, 3) := dk_132 2 1 (dk_at dksX1_laysUnlike_2 10 rfl rfl)
theorem dX1_laysUnlike_59 : decode cX1_laysUnlike 59 = .ok (.goto (-16), 3) := dk_167 255 240 (dk_at dksX1_laysUnlike_2 13 rfl rfl)
theorem dX1_laysUnlike_62 : decode cX1_laysUnlike 62 = .ok (.aload_n 0, 1) := dk_42 (dk_at dksX1_laysUnlike_2 16 rfl rfl)
theorem dX1_laysUnlike_63 : decode cX1_laysUnlike 63 = .ok (.iconst 0, 1) := dk_3 (dk_at dksX1_laysUnlike_2 17 rfl rfl)
theorem dX1_laysUnlike_64 : decode cX1_laysUnlike 64 = .ok (.putfield 289, 3) := dk_181 1 33 (dk_at dksX1_laysUnlike_2 18 rfl rfl)
theorem dX1_laysUnlike_67 : decode cX1_laysUnlike 67 = .ok (.aload_n 0, 1) := dk_42 (dk_at dksX1_laysUnlike_2 21 rfl rfl)
theorem dX1_laysUnlike_68 : decode cX1_laysUnlike 68 = .ok (.iload_n 1, 1) := dk_27 (dk_at dksX1_laysUnlike_2 22 rfl rfl)
theorem dX1_laysUnlike_69 : decode cX1_laysUnlike 69 = .ok (.iconst 0, 1) := dk_3 (dk_at dksX1_laysUnlike_2 23 rfl rfl)
theorem dX1_laysUnlike_70 : decode cX1_laysUnlike 70 = .ok (.iconst 0, 1) := dk_3 (dk_at dksX1_laysUnlike_3 0 rfl rfl)
theorem dX1_laysUnlike_71 : decode cX1_laysUnlike 71 = .ok (.invokevirtual 292, 3) := dk_182 1 36 (dk_at dksX1_laysUnlike_3 1 rfl rfl)
theorem dX1_laysUnlike_74 : decode cX1_laysUnlike 74 = .ok (.lconst 0, 1) := dk_9 (dk_at dksX1_laysUnlike_3 4 rfl rfl)
theorem dX1_laysUnlike_75 : decode cX1_laysUnlike 75 = .ok (.lstore_n 2, 1) := dk_65 (dk_at dksX1_laysUnlike_3 5 rfl rfl)
theorem dX1_laysUnlike_76 : decode cX1_laysUnlike 76 = .ok (.iconst 0, 1) := dk_3 (dk_at dksX1_laysUnlike_3 6 rfl rfl)
theorem dX1_laysUnlike_77 : decode cX1_laysUnlike 77 = .ok (.istore 4, 2) := dk_54 4 (dk_at dksX1_laysUnlike_3 7 rfl rfl)
theorem dX1_laysUnlike_79 : decode cX1_laysUnlike 79 = .ok (.iload 4, 2) := dk_21 4 (dk_at dksX1_laysUnlike_3 9 rfl rfl)
theorem dX1_laysUnlike_81 : decode cX1_laysUnlike 81 = .ok (.aload_n 0, 1) := dk_42 (dk_at dksX1_laysUnlike_3 11 rfl rfl)
theorem dX1_laysUnlike_82 : decode cX1_laysUnlike 82 = .ok (.getfield 289, 3) := dk_180 1 33 (dk_at dksX1_laysUnlike_3 12 rfl rfl)
theorem dX1_laysUnlike_85 : decode cX1_laysUnlike 85 = .ok (.if_icmp .ge 73, 3) := dk_162 0 73 (dk_at dksX1_laysUnlike_3 15 rfl rfl)
theorem dX1_laysUnlike_88 : decode cX1_laysUnlike 88 = .ok (.aload_n 0, 1) := dk_42 (dk_at dksX1_laysUnlike_3 18 rfl rfl)
theorem dX1_laysUnlike_89 : decode cX1_laysUnlike 89 = .ok (.iload_n 1, 1) := dk_27 (dk_at dksX1_laysUnlike_3 19 rfl rfl)
theorem dX1_laysUnlike_90 : decode cX1_laysUnlike 90 = .ok (.iload 4, 2) := dk_21 4 (dk_at dksX1_laysUnlike_3 20 rfl rfl)
theorem dX1_laysUnlike_92 : decode cX1_laysUnlike 92 = .ok (.invokevirtual 296, 3) := dk_182 1 40 (dk_at dksX1_laysUnlike_4 0 rfl rfl)
theorem dX1_laysUnlike_95 : decode cX1_laysUnlike 95 = .ok (.lload_n 2, 1) := dk_32 (dk_at dksX1_laysUnlike_4 3 rfl rfl)
theorem dX1_laysUnlike_96 : decode cX1_laysUnlike 96 = .ok (.aload_n 0, 1) := dk_42 (dk_at dksX1_laysUnlike_4 4 rfl rfl)
theorem dX1_laysUnlike_97 : decode cX1_laysUnlike 97 = .ok (.getfield 54, 3) := dk_180 0 54 (dk_at dksX1_laysUnlike_4 5 rfl rfl)
theorem dX1_laysUnlike_100 : decode cX1_laysUnlike 100 = .ok (.iload 4, 2) := dk_21 4 (dk_at dksX1_laysUnlike_4 8 rfl rfl)
theorem dX1_laysUnlike_102 : decode cX1_laysUnlike 102 = .ok (.laload, 1) := dk_47 (dk_at dksX1_laysUnlike_4 10 rfl rfl)
theorem dX1_laysUnlike_103 : decode cX1_laysUnlike 103 = .ok (.ladd, 1) := dk_97 (dk_at dksX1_laysUnlike_4 11 rfl rfl)
theorem dX1_laysUnlike_104 : decode cX1_laysUnlike 104 = .ok (.lstore_n 2, 1) := dk_65 (dk_at dksX1_laysUnlike_4 12 rfl rfl)
theorem dX1_laysUnlike_105 : decode cX1_laysUnlike 105 = .ok (.sipush (-3000), 3) := dk_17 244 72 (dk_at dksX1_laysUnlike_4 13 rfl rfl)
theorem dX1_laysUnlike_108 : decode cX1_laysUnlike 108 = .ok (.istore 5, 2) := dk_54 5 (dk_at dksX1_laysUnlike_4 16 rfl rfl)
theorem dX1_laysUnlike_110 : decode cX1_laysUnlike 110 = .ok (.iload 5, 2) := dk_21 5 (dk_at dksX1_laysUnlike_4 18 rfl rfl)
theorem dX1_laysUnlike_112 : decode cX1_laysUnlike 112 = .ok (.sipush 3000, 3) := dk_17 11 184 (dk_at dksX1_laysUnlike_4 20 rfl rfl)
theorem dX1_laysUnlike_115 : decode cX1_laysUnlike 115 = .ok (.if_icmp .gt 37, 3) := dk_163 0 37 (dk_at dksX1_laysUnlike_5 0 rfl rfl)
theorem dX1_laysUnlike_118 : decode cX1_laysUnlike 118 = .ok (.aload_n 0, 1) := dk_42 (dk_at dksX1_laysUnlike_5 3 rfl rfl)
theorem dX1_laysUnlike_119 : decode cX1_laysUnlike 119 = .ok (.getfield 42, 3) := dk_180 0 42 (dk_at dksX1_laysUnlike_5 4 rfl rfl)
theorem dX1_laysUnlike_122 : decode cX1_laysUnlike 122 = .ok (.iload 5, 2) := dk_21 5 (dk_at dksX1_laysUnlike_5 7 rfl rfl)
theorem dX1_laysUnlike_124 : decode cX1_laysUnlike 124 = .ok (.sipush 3000, 3) := dk_17 11 184 (dk_at dksX1_laysUnlike_5 9 rfl rfl)
theorem dX1_laysUnlike_127 : decode cX1_laysUnlike 127 = .ok (.iadd, 1) := dk_96 (dk_at dksX1_laysUnlike_5 12 rfl rfl)
theorem dX1_laysUnlike_128 : decode cX1_laysUnlike 128 = .ok (.dup2, 1) := dk_92 (dk_at dksX1_laysUnlike_5 13 rfl rfl)
theorem dX1_laysUnlike_129 : decode cX1_laysUnlike 129 = .ok (.laload, 1) := dk_47 (dk_at dksX1_laysUnlike_5 14 rfl rfl)
theorem dX1_laysUnlike_130 : decode cX1_laysUnlike 130 = .ok (.aload_n 0, 1) := dk_42 (dk_at dksX1_laysUnlike_5 15 rfl rfl)
theorem dX1_laysUnlike_131 : decode cX1_laysUnlike 131 = .ok (.getfield 54, 3) := dk_180 0 54 (dk_at dksX1_laysUnlike_5 16 rfl rfl)
theorem dX1_laysUnlike_134 : decode cX1_laysUnlike 134 = .ok (.iload 4, 2) := dk_21 4 (dk_at dksX1_laysUnlike_5 19 rfl rfl)
theorem dX1_laysUnlike_136 : decode cX1_laysUnlike 136 = .ok (.laload, 1) := dk_47 (dk_at dksX1_laysUnlike_5 21 rfl rfl)
theorem dX1_laysUnlike_137 : decode cX1_laysUnlike 137 = .ok (.aload_n 0, 1) := dk_42 (dk_at dksX1_laysUnlike_5 22 rfl rfl)
theorem dX1_laysUnlike_138 : decode cX1_laysUnlike 138 = .ok (.iload 5, 2) := dk_21 5 (dk_at dksX1_laysUnlike_6 0 rfl rfl)
theorem dX1_laysUnlike_140 : decode cX1_laysUnlike 140 = .ok (.invokevirtual 285, 3) := dk_182 1 29 (dk_at dksX1_laysUnlike_6 2 rfl rfl)
theorem dX1_laysUnlike_143 : decode cX1_laysUnlike 143 = .ok (.lmul, 1) := dk_105 (dk_at dksX1_laysUnlike_6 5 rfl rfl)
theorem dX1_laysUnlike_144 : decode cX1_laysUnlike 144 = .ok (.ladd, 1) := dk_97 (dk_at dksX1_laysUnlike_6 6 rfl rfl)
theorem dX1_laysUnlike_145 : decode cX1_laysUnlike 145 = .ok (.lastore, 1) := dk_80 (dk_at dksX1_laysUnlike_6 7 rfl rfl)
theorem dX1_laysUnlike_146 : decode cX1_laysUnlike 146 = .ok (.iinc 5 1, 3) := dk_132 5 1 (dk_at dksX1_laysUnlike_6 8 rfl rfl)
theorem dX1_laysUnlike_149 : decode cX1_laysUnlike 149 = .ok (.goto (-39), 3) := dk_167 255 217 (dk_at dksX1_laysUnlike_6 11 rfl rfl)
theorem dX1_laysUnlike_152 : decode cX1_laysUnlike 152 = .ok (.iinc 4 1, 3) := dk_132 4 1 (dk_at dksX1_laysUnlike_6 14 rfl rfl)
theorem dX1_laysUnlike_155 : decode cX1_laysUnlike 155 = .ok (.goto (-76), 3) := dk_167 255 180 (dk_at dksX1_laysUnlike_6 17 rfl rfl)
theorem dX1_laysUnlike_158 : decode cX1_laysUnlike 158 = .ok (.iconst 0, 1) := dk_3 (dk_at dksX1_laysUnlike_6 20 rfl rfl)
theorem dX1_laysUnlike_159 : decode cX1_laysUnlike 159 = .ok (.istore 4, 2) := dk_54 4 (dk_at dksX1_laysUnlike_6 21 rfl rfl)
theorem dX1_laysUnlike_161 : decode cX1_laysUnlike 161 = .ok (.iload 4, 2) := dk_21 4 (dk_at dksX1_laysUnlike_7 0 rfl rfl)
theorem dX1_laysUnlike_163 : decode cX1_laysUnlike 163 = .ok (.sipush 6001, 3) := dk_17 23 113 (dk_at dksX1_laysUnlike_7 2 rfl rfl)
theorem dX1_laysUnlike_166 : decode cX1_laysUnlike 166 = .ok (.if_icmp .ge 20, 3) := dk_162 0 20 (dk_at dksX1_laysUnlike_7 5 rfl rfl)
theorem dX1_laysUnlike_169 : decode cX1_laysUnlike 169 = .ok (.aload_n 0, 1) := dk_42 (dk_at dksX1_laysUnlike_7 8 rfl rfl)
theorem dX1_laysUnlike_170 : decode cX1_laysUnlike 170 = .ok (.getfield 42, 3) := dk_180 0 42 (dk_at dksX1_laysUnlike_7 9 rfl rfl)
theorem dX1_laysUnlike_173 : decode cX1_laysUnlike 173 = .ok (.iload 4, 2) := dk_21 4 (dk_at dksX1_laysUnlike_7 12 rfl rfl)
theorem dX1_laysUnlike_175 : decode cX1_laysUnlike 175 = .ok (.dup2, 1) := dk_92 (dk_at dksX1_laysUnlike_7 14 rfl rfl)
theorem dX1_laysUnlike_176 : decode cX1_laysUnlike 176 = .ok (.laload, 1) := dk_47 (dk_at dksX1_laysUnlike_7 15 rfl rfl)
theorem dX1_laysUnlike_177 : decode cX1_laysUnlike 177 = .ok (.lload_n 2, 1) := dk_32 (dk_at dksX1_laysUnlike_7 16 rfl rfl)
theorem dX1_laysUnlike_178 : decode cX1_laysUnlike 178 = .ok (.ldiv, 1) := dk_109 (dk_at dksX1_laysUnlike_7 17 rfl rfl)
theorem dX1_laysUnlike_179 : decode cX1_laysUnlike 179 = .ok (.lastore, 1) := dk_80 (dk_at dksX1_laysUnlike_7 18 rfl rfl)
theorem dX1_laysUnlike_180 : decode cX1_laysUnlike 180 = .ok (.iinc 4 1, 3) := dk_132 4 1 (dk_at dksX1_laysUnlike_7 19 rfl rfl)
theorem dX1_laysUnlike_183 : decode cX1_laysUnlike 183 = .ok (.goto (-22), 3) := dk_167 255 234 (dk_at dksX1_laysUnlike_8 0 rfl rfl)
theorem dX1_laysUnlike_186 : decode cX1_laysUnlike 186 = .ok (.return_, 1) := dk_177 (dk_at dksX1_laysUnlike_8 3 rfl rfl)
abbrev cX1_turns : ByteArray := prog_24_method_42_code
def yX1_turns : MethodName := ⟨RX1, "turns", "(III)V"⟩
def dkwX1_turns_11 : List UInt8 := [160, 0, 13, 42, 89, 180, 1, 33, 4, 96, 181, 1, 33, 177]
abbrev dktX1_turns_11 : List UInt8 := dkwX1_turns_11 ++ []
def dkwX1_turns_10 : List UInt8 := [132, 6, 1, 167, 255, 228, 42, 180, 0, 54, 21, 5, 92, 47, 10, 97, 80, 21, 5, 42, 180, 1, 33]
abbrev dktX1_turns_10 : List UInt8 := dkwX1_turns_10 ++ dktX1_turns_11
def dkwX1_turns_9 : List UInt8 := [162, 0, 28, 42, 180, 0, 51, 8, 21, 5, 104, 21, 6, 96, 42, 180, 0, 48, 21, 6, 46, 79]
abbrev dktX1_turns_9 : List UInt8 := dkwX1_turns_9 ++ dktX1_turns_10
def dkwX1_turns_8 : List UInt8 := [162, 0, 18, 42, 21, 5, 182, 1, 51, 154, 0, 9, 132, 5, 1, 167, 255, 235, 3, 54, 6, 21, 6, 8]
abbrev dktX1_turns_8 : List UInt8 := dkwX1_turns_8 ++ dktX1_turns_9
def dkwX1_turns_7 : List UInt8 := [21, 6, 79, 132, 5, 1, 167, 255, 192, 42, 27, 182, 1, 48, 3, 54, 5, 21, 5, 42, 180, 1, 33]
abbrev dktX1_turns_7 : List UInt8 := dkwX1_turns_7 ++ dktX1_turns_8
def dkwX1_turns_6 : List UInt8 := [54, 4, 132, 6, 1, 42, 180, 0, 45, 21, 7, 46, 54, 7, 167, 255, 225, 42, 180, 0, 48, 21, 5]
abbrev dktX1_turns_6 : List UInt8 := dkwX1_turns_6 ++ dktX1_turns_7
def dkwX1_turns_5 : List UInt8 := [54, 6, 21, 5, 54, 7, 21, 4, 21, 7, 122, 4, 126, 154, 0, 27, 21, 4, 4, 21, 7, 120, 128]
abbrev dktX1_turns_5 : List UInt8 := dkwX1_turns_5 ++ dktX1_turns_6
def dkwX1_turns_4 : List UInt8 := [132, 4, 1, 167, 255, 239, 3, 54, 4, 3, 54, 5, 21, 5, 42, 180, 0, 9, 27, 46, 162, 0, 59, 3]
abbrev dktX1_turns_4 : List UInt8 := dkwX1_turns_4 ++ dktX1_turns_5
def dkwX1_turns_3 : List UInt8 := [132, 4, 1, 167, 255, 196, 177, 3, 54, 4, 21, 4, 8, 162, 0, 17, 42, 180, 0, 48, 21, 4, 3, 79]
abbrev dktX1_turns_3 : List UInt8 := dkwX1_turns_3 ++ dktX1_turns_4
def dkwX1_turns_2 : List UInt8 := [42, 180, 0, 45, 28, 21, 4, 79, 42, 27, 28, 4, 96, 29, 4, 21, 4, 120, 128, 182, 1, 36]
abbrev dktX1_turns_2 : List UInt8 := dkwX1_turns_2 ++ dktX1_turns_3
def dkwX1_turns_1 : List UInt8 := [29, 21, 4, 122, 4, 126, 4, 159, 0, 39, 42, 27, 28, 21, 4, 182, 1, 44, 154, 0, 6, 167, 0, 25]
abbrev dktX1_turns_1 : List UInt8 := dkwX1_turns_1 ++ dktX1_turns_2
def dkwX1_turns_0 : List UInt8 := [28, 42, 180, 0, 9, 27, 46, 162, 0, 70, 3, 54, 4, 21, 4, 42, 180, 0, 9, 27, 46, 162, 0, 55]
abbrev dktX1_turns_0 : List UInt8 := dkwX1_turns_0 ++ dktX1_turns_1
theorem dksX1_turns_0 : cX1_turns.data.toList.drop 0 = dktX1_turns_0 := by decide +kernel
theorem dksX1_turns_1 : cX1_turns.data.toList.drop 24 = dktX1_turns_1 := dk_seg dksX1_turns_0 24 rfl rfl
theorem dksX1_turns_2 : cX1_turns.data.toList.drop 48 = dktX1_turns_2 := dk_seg dksX1_turns_1 24 rfl rfl
theorem dksX1_turns_3 : cX1_turns.data.toList.drop 70 = dktX1_turns_3 := dk_seg dksX1_turns_2 22 rfl rfl
theorem dksX1_turns_4 : cX1_turns.data.toList.drop 94 = dktX1_turns_4 := dk_seg dksX1_turns_3 24 rfl rfl
theorem dksX1_turns_5 : cX1_turns.data.toList.drop 118 = dktX1_turns_5 := dk_seg dksX1_turns_4 24 rfl rfl
theorem dksX1_turns_6 : cX1_turns.data.toList.drop 141 = dktX1_turns_6 := dk_seg dksX1_turns_5 23 rfl rfl
theorem dksX1_turns_7 : cX1_turns.data.toList.drop 164 = dktX1_turns_7 := dk_seg dksX1_turns_6 23 rfl rfl
theorem dksX1_turns_8 : cX1_turns.data.toList.drop 187 = dktX1_turns_8 := dk_seg dksX1_turns_7 23 rfl rfl
theorem dksX1_turns_9 : cX1_turns.data.toList.drop 211 = dktX1_turns_9 := dk_seg dksX1_turns_8 24 rfl rfl
theorem dksX1_turns_10 : cX1_turns.data.toList.drop 233 = dktX1_turns_10 := dk_seg dksX1_turns_9 22 rfl rfl
theorem dksX1_turns_11 : cX1_turns.data.toList.drop 256 = dktX1_turns_11 := dk_seg dksX1_turns_10 23 rfl rfl
theorem dX1_turns_0 : decode cX1_turns 0 = .ok (.iload_n 2, 1) := dk_28 (dk_at dksX1_turns_0 0 rfl rfl)
theorem dX1_turns_1 : decode cX1_turns 1 = .ok (.aload_n 0, 1) := dk_42 (dk_at dksX1_turns_0 1 rfl rfl)
theorem dX1_turns_2 : decode cX1_turns 2 = .ok (.getfield 9, 3) := dk_180 0 9 (dk_at dksX1_turns_0 2 rfl rfl)
theorem dX1_turns_5 : decode cX1_turns 5 = .ok (.iload_n 1, 1) := dk_27 (dk_at dksX1_turns_0 5 rfl rfl)
theorem dX1_turns_6 : decode cX1_turns 6 = .ok (.iaload, 1) := dk_46 (dk_at dksX1_turns_0 6 rfl rfl)
theorem dX1_turns_7 : decode cX1_turns 7 = .ok (.if_icmp .ge 70, 3) := dk_162 0 70 (dk_at dksX1_turns_0 7 rfl rfl)
theorem dX1_turns_10 : decode cX1_turns 10 = .ok (.iconst 0, 1) := dk_3 (dk_at dksX1_turns_0 10 rfl rfl)
theorem dX1_turns_11 : decode cX1_turns 11 = .ok (.istore 4, 2) := dk_54 4 (dk_at dksX1_turns_0 11 rfl rfl)
theorem dX1_turns_13 : decode cX1_turns 13 = .ok (.iload 4, 2) := dk_21 4 (dk_at dksX1_turns_0 13 rfl rfl)
theorem dX1_turns_15 : decode cX1_turns 15 = .ok (.aload_n 0, 1) := dk_42 (dk_at dksX1_turns_0 15 rfl rfl)
theorem dX1_turns_16 : decode cX1_turns 16 = .ok (.getfield 9, 3) := dk_180 0 9 (dk_at dksX1_turns_0 16 rfl rfl)
theorem dX1_turns_19 : decode cX1_turns 19 = .ok (.iload_n 1, 1) := dk_27 (dk_at dksX1_turns_0 19 rfl rfl)
theorem dX1_turns_20 : decode cX1_turns 20 = .ok (.iaload, 1) := dk_46 (dk_at dksX1_turns_0 20 rfl rfl)
theorem dX1_turns_21 : decode cX1_turns 21 = .ok (.if_icmp .ge 55, 3) := dk_162 0 55 (dk_at dksX1_turns_0 21 rfl rfl)
theorem dX1_turns_24 : decode cX1_turns 24 = .ok (.iload_n 3, 1) := dk_29 (dk_at dksX1_turns_1 0 rfl rfl)
theorem dX1_turns_25 : decode cX1_turns 25 = .ok (.iload 4, 2) := dk_21 4 (dk_at dksX1_turns_1 1 rfl rfl)
theorem dX1_turns_27 : decode cX1_turns 27 = .ok (.ishr, 1) := dk_122 (dk_at dksX1_turns_1 3 rfl rfl)
theorem dX1_turns_28 : decode cX1_turns 28 = .ok (.iconst 1, 1) := dk_4 (dk_at dksX1_turns_1 4 rfl rfl)
theorem dX1_turns_29 : decode cX1_turns 29 = .ok (.iand, 1) := dk_126 (dk_at dksX1_turns_1 5 rfl rfl)
theorem dX1_turns_30 : decode cX1_turns 30 = .ok (.iconst 1, 1) := dk_4 (dk_at dksX1_turns_1 6 rfl rfl)
theorem dX1_turns_31 : decode cX1_turns 31 = .ok (.if_icmp .eq 39, 3) := dk_159 0 39 (dk_at dksX1_turns_1 7 rfl rfl)
theorem dX1_turns_34 : decode cX1_turns 34 = .ok (.aload_n 0, 1) := dk_42 (dk_at dksX1_turns_1 10 rfl rfl)
theorem dX1_turns_35 : decode cX1_turns 35 = .ok (.iload_n 1, 1) := dk_27 (dk_at dksX1_turns_1 11 rfl rfl)
theorem dX1_turns_36 : decode cX1_turns 36 = .ok (.iload_n 2, 1) := dk_28 (dk_at dksX1_turns_1 12 rfl rfl)
theorem dX1_turns_37 : decode cX1_turns 37 = .ok (.iload 4, 2) := dk_21 4 (dk_at dksX1_turns_1 13 rfl rfl)
theorem dX1_turns_39 : decode cX1_turns 39 = .ok (.invokevirtual 300, 3) := dk_182 1 44 (dk_at dksX1_turns_1 15 rfl rfl)
theorem dX1_turns_42 : decode cX1_turns 42 = .ok (.ifCond .ne 6, 3) := dk_154 0 6 (dk_at dksX1_turns_1 18 rfl rfl)
theorem dX1_turns_45 : decode cX1_turns 45 = .ok (.goto 25, 3) := dk_167 0 25 (dk_at dksX1_turns_1 21 rfl rfl)
theorem dX1_turns_48 : decode cX1_turns 48 = .ok (.aload_n 0, 1) := dk_42 (dk_at dksX1_turns_2 0 rfl rfl)
theorem dX1_turns_49 : decode cX1_turns 49 = .ok (.getfield 45, 3) := dk_180 0 45 (dk_at dksX1_turns_2 1 rfl rfl)
theorem dX1_turns_52 : decode cX1_turns 52 = .ok (.iload_n 2, 1) := dk_28 (dk_at dksX1_turns_2 4 rfl rfl)
theorem dX1_turns_53 : decode cX1_turns 53 = .ok (.iload 4, 2) := dk_21 4 (dk_at dksX1_turns_2 5 rfl rfl)
theorem dX1_turns_55 : decode cX1_turns 55 = .ok (.iastore, 1) := dk_79 (dk_at dksX1_turns_2 7 rfl rfl)
theorem dX1_turns_56 : decode cX1_turns 56 = .ok (.aload_n 0, 1) := dk_42 (dk_at dksX1_turns_2 8 rfl rfl)
theorem dX1_turns_57 : decode cX1_turns 57 = .ok (.iload_n 1, 1) := dk_27 (dk_at dksX1_turns_2 9 rfl rfl)
theorem dX1_turns_58 : decode cX1_turns 58 = .ok (.iload_n 2, 1) := dk_28 (dk_at dksX1_turns_2 10 rfl rfl)
theorem dX1_turns_59 : decode cX1_turns 59 = .ok (.iconst 1, 1) := dk_4 (dk_at dksX1_turns_2 11 rfl rfl)
theorem dX1_turns_60 : decode cX1_turns 60 = .ok (.iadd, 1) := dk_96 (dk_at dksX1_turns_2 12 rfl rfl)
theorem dX1_turns_61 : decode cX1_turns 61 = .ok (.iload_n 3, 1) := dk_29 (dk_at dksX1_turns_2 13 rfl rfl)
theorem dX1_turns_62 : decode cX1_turns 62 = .ok (.iconst 1, 1) := dk_4 (dk_at dksX1_turns_2 14 rfl rfl)
theorem dX1_turns_63 : decode cX1_turns 63 = .ok (.iload 4, 2) := dk_21 4 (dk_at dksX1_turns_2 15 rfl rfl)
theorem dX1_turns_65 : decode cX1_turns 65 = .ok (.ishl, 1) := dk_120 (dk_at dksX1_turns_2 17 rfl rfl)
theorem dX1_turns_66 : decode cX1_turns 66 = .ok (.ior, 1) := dk_128 (dk_at dksX1_turns_2 18 rfl rfl)
theorem dX1_turns_67 : decode cX1_turns 67 = .ok (.invokevirtual 292, 3) := dk_182 1 36 (dk_at dksX1_turns_2 19 rfl rfl)
theorem dX1_turns_70 : decode cX1_turns 70 = .ok (.iinc 4 1, 3) := dk_132 4 1 (dk_at dksX1_turns_3 0 rfl rfl)
theorem dX1_turns_73 : decode cX1_turns 73 = .ok (.goto (-60), 3) := dk_167 255 196 (dk_at dksX1_turns_3 3 rfl rfl)
theorem dX1_turns_76 : decode cX1_turns 76 = .ok (.return_, 1) := dk_177 (dk_at dksX1_turns_3 6 rfl rfl)
theorem dX1_turns_77 : decode cX1_turns 77 = .ok (.iconst 0, 1) := dk_3 (dk_at dksX1_turns_3 7 rfl rfl)
theorem dX1_turns_78 : decode cX1_turns 78 = .ok (.istore 4, 2) := dk_54 4 (dk_at dksX1_turns_3 8 rfl rfl)
theorem dX1_turns_80 : decode cX1_turns 80 = .ok (.iload 4, 2) := dk_21 4 (dk_at dksX1_turns_3 10 rfl rfl)
theorem dX1_turns_82 : decode cX1_turns 82 = .ok (.iconst 5, 1) := dk_8 (dk_at dksX1_turns_3 12 rfl rfl)
theorem dX1_turns_83 : decode cX1_turns 83 = .ok (.if_icmp .ge 17, 3) := dk_162 0 17 (dk_at dksX1_turns_3 13 rfl rfl)
theorem dX1_turns_86 : decode cX1_turns 86 = .ok (.aload_n 0, 1) := dk_42 (dk_at dksX1_turns_3 16 rfl rfl)
theorem dX1_turns_87 : decode cX1_turns 87 = .ok (.getfield 48, 3) := dk_180 0 48 (dk_at dksX1_turns_3 17 rfl rfl)
theorem dX1_turns_90 : decode cX1_turns 90 = .ok (.iload 4, 2) := dk_21 4 (dk_at dksX1_turns_3 20 rfl rfl)
theorem dX1_turns_92 : decode cX1_turns 92 = .ok (.iconst 0, 1) := dk_3 (dk_at dksX1_turns_3 22 rfl rfl)
theorem dX1_turns_93 : decode cX1_turns 93 = .ok (.iastore, 1) := dk_79 (dk_at dksX1_turns_3 23 rfl rfl)
theorem dX1_turns_94 : decode cX1_turns 94 = .ok (.iinc 4 1, 3) := dk_132 4 1 (dk_at dksX1_turns_4 0 rfl rfl)
theorem dX1_turns_97 : decode cX1_turns 97 = .ok (.goto (-17), 3) := dk_167 255 239 (dk_at dksX1_turns_4 3 rfl rfl)
theorem dX1_turns_100 : decode cX1_turns 100 = .ok (.iconst 0, 1) := dk_3 (dk_at dksX1_turns_4 6 rfl rfl)
theorem dX1_turns_101 : decode cX1_turns 101 = .ok (.istore 4, 2) := dk_54 4 (dk_at dksX1_turns_4 7 rfl rfl)
theorem dX1_turns_103 : decode cX1_turns 103 = .ok (.iconst 0, 1) := dk_3 (dk_at dksX1_turns_4 9 rfl rfl)
theorem dX1_turns_104 : decode cX1_turns 104 = .ok (.istore 5, 2) := dk_54 5 (dk_at dksX1_turns_4 10 rfl rfl)
theorem dX1_turns_106 : decode cX1_turns 106 = .ok (.iload 5, 2) := dk_21 5 (dk_at dksX1_turns_4 12 rfl rfl)
theorem dX1_turns_108 : decode cX1_turns 108 = .ok (.aload_n 0, 1) := dk_42 (dk_at dksX1_turns_4 14 rfl rfl)
theorem dX1_turns_109 : decode cX1_turns 109 = .ok (.getfield 9, 3) := dk_180 0 9 (dk_at dksX1_turns_4 15 rfl rfl)
theorem dX1_turns_112 : decode cX1_turns 112 = .ok (.iload_n 1, 1) := dk_27 (dk_at dksX1_turns_4 18 rfl rfl)
theorem dX1_turns_113 : decode cX1_turns 113 = .ok (.iaload, 1) := dk_46 (dk_at dksX1_turns_4 19 rfl rfl)
theorem dX1_turns_114 : decode cX1_turns 114 = .ok (.if_icmp .ge 59, 3) := dk_162 0 59 (dk_at dksX1_turns_4 20 rfl rfl)
theorem dX1_turns_117 : decode cX1_turns 117 = .ok (.iconst 0, 1) := dk_3 (dk_at dksX1_turns_4 23 rfl rfl)
theorem dX1_turns_118 : decode cX1_turns 118 = .ok (.istore 6, 2) := dk_54 6 (dk_at dksX1_turns_5 0 rfl rfl)
theorem dX1_turns_120 : decode cX1_turns 120 = .ok (.iload 5, 2) := dk_21 5 (dk_at dksX1_turns_5 2 rfl rfl)
theorem dX1_turns_122 : decode cX1_turns 122 = .ok (.istore 7, 2) := dk_54 7 (dk_at dksX1_turns_5 4 rfl rfl)
theorem dX1_turns_124 : decode cX1_turns 124 = .ok (.iload 4, 2) := dk_21 4 (dk_at dksX1_turns_5 6 rfl rfl)
theorem dX1_turns_126 : decode cX1_turns 126 = .ok (.iload 7, 2) := dk_21 7 (dk_at dksX1_turns_5 8 rfl rfl)
theorem dX1_turns_128 : decode cX1_turns 128 = .ok (.ishr, 1) := dk_122 (dk_at dksX1_turns_5 10 rfl rfl)
theorem dX1_turns_129 : decode cX1_turns 129 = .ok (.iconst 1, 1) := dk_4 (dk_at dksX1_turns_5 11 rfl rfl)
theorem dX1_turns_130 : decode cX1_turns 130 = .ok (.iand, 1) := dk_126 (dk_at dksX1_turns_5 12 rfl rfl)
theorem dX1_turns_131 : decode cX1_turns 131 = .ok (.ifCond .ne 27, 3) := dk_154 0 27 (dk_at dksX1_turns_5 13 rfl rfl)
theorem dX1_turns_134 : decode cX1_turns 134 = .ok (.iload 4, 2) := dk_21 4 (dk_at dksX1_turns_5 16 rfl rfl)
theorem dX1_turns_136 : decode cX1_turns 136 = .ok (.iconst 1, 1) := dk_4 (dk_at dksX1_turns_5 18 rfl rfl)
theorem dX1_turns_137 : decode cX1_turns 137 = .ok (.iload 7, 2) := dk_21 7 (dk_at dksX1_turns_5 19 rfl rfl)
theorem dX1_turns_139 : decode cX1_turns 139 = .ok (.ishl, 1) := dk_120 (dk_at dksX1_turns_5 21 rfl rfl)
theorem dX1_turns_140 : decode cX1_turns 140 = .ok (.ior, 1) := dk_128 (dk_at dksX1_turns_5 22 rfl rfl)
theorem dX1_turns_141 : decode cX1_turns 141 = .ok (.istore 4, 2) := dk_54 4 (dk_at dksX1_turns_6 0 rfl rfl)
theorem dX1_turns_143 : decode cX1_turns 143 = .ok (.iinc 6 1, 3) := dk_132 6 1 (dk_at dksX1_turns_6 2 rfl rfl)
theorem dX1_turns_146 : decode cX1_turns 146 = .ok (.aload_n 0, 1) := dk_42 (dk_at dksX1_turns_6 5 rfl rfl)
theorem dX1_turns_147 : decode cX1_turns 147 = .ok (.getfield 45, 3) := dk_180 0 45 (dk_at dksX1_turns_6 6 rfl rfl)
theorem dX1_turns_150 : decode cX1_turns 150 = .ok (.iload 7, 2) := dk_21 7 (dk_at dksX1_turns_6 9 rfl rfl)
theorem dX1_turns_152 : decode cX1_turns 152 = .ok (.iaload, 1) := dk_46 (dk_at dksX1_turns_6 11 rfl rfl)
theorem dX1_turns_153 : decode cX1_turns 153 = .ok (.istore 7, 2) := dk_54 7 (dk_at dksX1_turns_6 12 rfl rfl)
theorem dX1_turns_155 : decode cX1_turns 155 = .ok (.goto (-31), 3) := dk_167 255 225 (dk_at dksX1_turns_6 14 rfl rfl)
theorem dX1_turns_158 : decode cX1_turns 158 = .ok (.aload_n 0, 1) := dk_42 (dk_at dksX1_turns_6 17 rfl rfl)
theorem dX1_turns_159 : decode cX1_turns 159 = .ok (.getfield 48, 3) := dk_180 0 48 (dk_at dksX1_turns_6 18 rfl rfl)
theorem dX1_turns_162 : decode cX1_turns 162 = .ok (.iload 5, 2) := dk_21 5 (dk_at dksX1_turns_6 21 rfl rfl)
theorem dX1_turns_164 : decode cX1_turns 164 = .ok (.iload 6, 2) := dk_21 6 (dk_at dksX1_turns_7 0 rfl rfl)
theorem dX1_turns_166 : decode cX1_turns 166 = .ok (.iastore, 1) := dk_79 (dk_at dksX1_turns_7 2 rfl rfl)
theorem dX1_turns_167 : decode cX1_turns 167 = .ok (.iinc 5 1, 3) := dk_132 5 1 (dk_at dksX1_turns_7 3 rfl rfl)
theorem dX1_turns_170 : decode cX1_turns 170 = .ok (.goto (-64), 3) := dk_167 255 192 (dk_at dksX1_turns_7 6 rfl rfl)
theorem dX1_turns_173 : decode cX1_turns 173 = .ok (.aload_n 0, 1) := dk_42 (dk_at dksX1_turns_7 9 rfl rfl)
theorem dX1_turns_174 : decode cX1_turns 174 = .ok (.iload_n 1, 1) := dk_27 (dk_at dksX1_turns_7 10 rfl rfl)
theorem dX1_turns_175 : decode cX1_turns 175 = .ok (.invokevirtual 304, 3) := dk_182 1 48 (dk_at dksX1_turns_7 11 rfl rfl)
theorem dX1_turns_178 : decode cX1_turns 178 = .ok (.iconst 0, 1) := dk_3 (dk_at dksX1_turns_7 14 rfl rfl)
theorem dX1_turns_179 : decode cX1_turns 179 = .ok (.istore 5, 2) := dk_54 5 (dk_at dksX1_turns_7 15 rfl rfl)
theorem dX1_turns_181 : decode cX1_turns 181 = .ok (.iload 5, 2) := dk_21 5 (dk_at dksX1_turns_7 17 rfl rfl)
theorem dX1_turns_183 : decode cX1_turns 183 = .ok (.aload_n 0, 1) := dk_42 (dk_at dksX1_turns_7 19 rfl rfl)
theorem dX1_turns_184 : decode cX1_turns 184 = .ok (.getfield 289, 3) := dk_180 1 33 (dk_at dksX1_turns_7 20 rfl rfl)
theorem dX1_turns_187 : decode cX1_turns 187 = .ok (.if_icmp .ge 18, 3) := dk_162 0 18 (dk_at dksX1_turns_8 0 rfl rfl)
theorem dX1_turns_190 : decode cX1_turns 190 = .ok (.aload_n 0, 1) := dk_42 (dk_at dksX1_turns_8 3 rfl rfl)
theorem dX1_turns_191 : decode cX1_turns 191 = .ok (.iload 5, 2) := dk_21 5 (dk_at dksX1_turns_8 4 rfl rfl)
theorem dX1_turns_193 : decode cX1_turns 193 = .ok (.invokevirtual 307, 3) := dk_182 1 51 (dk_at dksX1_turns_8 6 rfl rfl)
theorem dX1_turns_196 : decode cX1_turns 196 = .ok (.ifCond .ne 9, 3) := dk_154 0 9 (dk_at dksX1_turns_8 9 rfl rfl)
theorem dX1_turns_199 : decode cX1_turns 199 = .ok (.iinc 5 1, 3) := dk_132 5 1 (dk_at dksX1_turns_8 12 rfl rfl)
theorem dX1_turns_202 : decode cX1_turns 202 = .ok (.goto (-21), 3) := dk_167 255 235 (dk_at dksX1_turns_8 15 rfl rfl)
theorem dX1_turns_205 : decode cX1_turns 205 = .ok (.iconst 0, 1) := dk_3 (dk_at dksX1_turns_8 18 rfl rfl)
theorem dX1_turns_206 : decode cX1_turns 206 = .ok (.istore 6, 2) := dk_54 6 (dk_at dksX1_turns_8 19 rfl rfl)
theorem dX1_turns_208 : decode cX1_turns 208 = .ok (.iload 6, 2) := dk_21 6 (dk_at dksX1_turns_8 21 rfl rfl)
theorem dX1_turns_210 : decode cX1_turns 210 = .ok (.iconst 5, 1) := dk_8 (dk_at dksX1_turns_8 23 rfl rfl)
theorem dX1_turns_211 : decode cX1_turns 211 = .ok (.if_icmp .ge 28, 3) := dk_162 0 28 (dk_at dksX1_turns_9 0 rfl rfl)
theorem dX1_turns_214 : decode cX1_turns 214 = .ok (.aload_n 0, 1) := dk_42 (dk_at dksX1_turns_9 3 rfl rfl)
theorem dX1_turns_215 : decode cX1_turns 215 = .ok (.getfield 51, 3) := dk_180 0 51 (dk_at dksX1_turns_9 4 rfl rfl)
theorem dX1_turns_218 : decode cX1_turns 218 = .ok (.iconst 5, 1) := dk_8 (dk_at dksX1_turns_9 7 rfl rfl)
theorem dX1_turns_219 : decode cX1_turns 219 = .ok (.iload 5, 2) := dk_21 5 (dk_at dksX1_turns_9 8 rfl rfl)
theorem dX1_turns_221 : decode cX1_turns 221 = .ok (.imul, 1) := dk_104 (dk_at dksX1_turns_9 10 rfl rfl)
theorem dX1_turns_222 : decode cX1_turns 222 = .ok (.iload 6, 2) := dk_21 6 (dk_at dksX1_turns_9 11 rfl rfl)
theorem dX1_turns_224 : decode cX1_turns 224 = .ok (.iadd, 1) := dk_96 (dk_at dksX1_turns_9 13 rfl rfl)
theorem dX1_turns_225 : decode cX1_turns 225 = .ok (.aload_n 0, 1) := dk_42 (dk_at dksX1_turns_9 14 rfl rfl)
theorem dX1_turns_226 : decode cX1_turns 226 = .ok (.getfield 48, 3) := dk_180 0 48 (dk_at dksX1_turns_9 15 rfl rfl)
theorem dX1_turns_229 : decode cX1_turns 229 = .ok (.iload 6, 2) := dk_21 6 (dk_at dksX1_turns_9 18 rfl rfl)
theorem dX1_turns_231 : decode cX1_turns 231 = .ok (.iaload, 1) := dk_46 (dk_at dksX1_turns_9 20 rfl rfl)
theorem dX1_turns_232 : decode cX1_turns 232 = .ok (.iastore, 1) := dk_79 (dk_at dksX1_turns_9 21 rfl rfl)
theorem dX1_turns_233 : decode cX1_turns 233 = .ok (.iinc 6 1, 3) := dk_132 6 1 (dk_at dksX1_turns_10 0 rfl rfl)
theorem dX1_turns_236 : decode cX1_turns 236 = .ok (.goto (-28), 3) := dk_167 255 228 (dk_at dksX1_turns_10 3 rfl rfl)
theorem dX1_turns_239 : decode cX1_turns 239 = .ok (.aload_n 0, 1) := dk_42 (dk_at dksX1_turns_10 6 rfl rfl)
theorem dX1_turns_240 : decode cX1_turns 240 = .ok (.getfield 54, 3) := dk_180 0 54 (dk_at dksX1_turns_10 7 rfl rfl)
theorem dX1_turns_243 : decode cX1_turns 243 = .ok (.iload 5, 2) := dk_21 5 (dk_at dksX1_turns_10 10 rfl rfl)
theorem dX1_turns_245 : decode cX1_turns 245 = .ok (.dup2, 1) := dk_92 (dk_at dksX1_turns_10 12 rfl rfl)
theorem dX1_turns_246 : decode cX1_turns 246 = .ok (.laload, 1) := dk_47 (dk_at dksX1_turns_10 13 rfl rfl)
theorem dX1_turns_247 : decode cX1_turns 247 = .ok (.lconst 1, 1) := dk_10 (dk_at dksX1_turns_10 14 rfl rfl)
theorem dX1_turns_248 : decode cX1_turns 248 = .ok (.ladd, 1) := dk_97 (dk_at dksX1_turns_10 15 rfl rfl)
theorem dX1_turns_249 : decode cX1_turns 249 = .ok (.lastore, 1) := dk_80 (dk_at dksX1_turns_10 16 rfl rfl)
theorem dX1_turns_250 : decode cX1_turns 250 = .ok (.iload 5, 2) := dk_21 5 (dk_at dksX1_turns_10 17 rfl rfl)
theorem dX1_turns_252 : decode cX1_turns 252 = .ok (.aload_n 0, 1) := dk_42 (dk_at dksX1_turns_10 19 rfl rfl)
theorem dX1_turns_253 : decode cX1_turns 253 = .ok (.getfield 289, 3) := dk_180 1 33 (dk_at dksX1_turns_10 20 rfl rfl)
theorem dX1_turns_256 : decode cX1_turns 256 = .ok (.if_icmp .ne 13, 3) := dk_160 0 13 (dk_at dksX1_turns_11 0 rfl rfl)
theorem dX1_turns_259 : decode cX1_turns 259 = .ok (.aload_n 0, 1) := dk_42 (dk_at dksX1_turns_11 3 rfl rfl)
theorem dX1_turns_260 : decode cX1_turns 260 = .ok (.dup, 1) := dk_89 (dk_at dksX1_turns_11 4 rfl rfl)
theorem dX1_turns_261 : decode cX1_turns 261 = .ok (.getfield 289, 3) := dk_180 1 33 (dk_at dksX1_turns_11 5 rfl rfl)
theorem dX1_turns_264 : decode cX1_turns 264 = .ok (.iconst 1, 1) := dk_4 (dk_at dksX1_turns_11 8 rfl rfl)
theorem dX1_turns_265 : decode cX1_turns 265 = .ok (.iadd, 1) := dk_96 (dk_at dksX1_turns_11 9 rfl rfl)
theorem dX1_turns_266 : decode cX1_turns 266 = .ok (.putfield 289, 3) := dk_181 1 33 (dk_at dksX1_turns_11 10 rfl rfl)
theorem dX1_turns_269 : decode cX1_turns 269 = .ok (.return_, 1) := dk_177 (dk_at dksX1_turns_11 13 rfl rfl)
abbrev cX1_areLike : ByteArray := prog_24_method_40_code
def yX1_areLike : MethodName := ⟨RX1, "areLike", "(III)Z"⟩
def dkwX1_areLike_1 : List UInt8 := [182, 0, 93, 159, 0, 5, 3, 172, 132, 4, 1, 167, 255, 226, 4, 172]
abbrev dktX1_areLike_1 : List UInt8 := dkwX1_areLike_1 ++ []
def dkwX1_areLike_0 : List UInt8 := [3, 54, 4, 21, 4, 7, 162, 0, 30, 42, 27, 28, 21, 4, 182, 0, 93, 42, 27, 29, 21, 4]
abbrev dktX1_areLike_0 : List UInt8 := dkwX1_areLike_0 ++ dktX1_areLike_1
theorem dksX1_areLike_0 : cX1_areLike.data.toList.drop 0 = dktX1_areLike_0 := by decide +kernel
theorem dksX1_areLike_1 : cX1_areLike.data.toList.drop 22 = dktX1_areLike_1 := dk_seg dksX1_areLike_0 22 rfl rfl
theorem dX1_areLike_0 : decode cX1_areLike 0 = .ok (.iconst 0, 1) := dk_3 (dk_at dksX1_areLike_0 0 rfl rfl)
theorem dX1_areLike_1 : decode cX1_areLike 1 = .ok (.istore 4, 2) := dk_54 4 (dk_at dksX1_areLike_0 1 rfl rfl)
theorem dX1_areLike_3 : decode cX1_areLike 3 = .ok (.iload 4, 2) := dk_21 4 (dk_at dksX1_areLike_0 3 rfl rfl)
theorem dX1_areLike_5 : decode cX1_areLike 5 = .ok (.iconst 4, 1) := dk_7 (dk_at dksX1_areLike_0 5 rfl rfl)
theorem dX1_areLike_6 : decode cX1_areLike 6 = .ok (.if_icmp .ge 30, 3) := dk_162 0 30 (dk_at dksX1_areLike_0 6 rfl rfl)
theorem dX1_areLike_9 : decode cX1_areLike 9 = .ok (.aload_n 0, 1) := dk_42 (dk_at dksX1_areLike_0 9 rfl rfl)
theorem dX1_areLike_10 : decode cX1_areLike 10 = .ok (.iload_n 1, 1) := dk_27 (dk_at dksX1_areLike_0 10 rfl rfl)
theorem dX1_areLike_11 : decode cX1_areLike 11 = .ok (.iload_n 2, 1) := dk_28 (dk_at dksX1_areLike_0 11 rfl rfl)
theorem dX1_areLike_12 : decode cX1_areLike 12 = .ok (.iload 4, 2) := dk_21 4 (dk_at dksX1_areLike_0 12 rfl rfl)
theorem dX1_areLike_14 : decode cX1_areLike 14 = .ok (.invokevirtual 93, 3) := dk_182 0 93 (dk_at dksX1_areLike_0 14 rfl rfl)
theorem dX1_areLike_17 : decode cX1_areLike 17 = .ok (.aload_n 0, 1) := dk_42 (dk_at dksX1_areLike_0 17 rfl rfl)
theorem dX1_areLike_18 : decode cX1_areLike 18 = .ok (.iload_n 1, 1) := dk_27 (dk_at dksX1_areLike_0 18 rfl rfl)
theorem dX1_areLike_19 : decode cX1_areLike 19 = .ok (.iload_n 3, 1) := dk_29 (dk_at dksX1_areLike_0 19 rfl rfl)
theorem dX1_areLike_20 : decode cX1_areLike 20 = .ok (.iload 4, 2) := dk_21 4 (dk_at dksX1_areLike_0 20 rfl rfl)
theorem dX1_areLike_22 : decode cX1_areLike 22 = .ok (.invokevirtual 93, 3) := dk_182 0 93 (dk_at dksX1_areLike_1 0 rfl rfl)
theorem dX1_areLike_25 : decode cX1_areLike 25 = .ok (.if_icmp .eq 5, 3) := dk_159 0 5 (dk_at dksX1_areLike_1 3 rfl rfl)
theorem dX1_areLike_28 : decode cX1_areLike 28 = .ok (.iconst 0, 1) := dk_3 (dk_at dksX1_areLike_1 6 rfl rfl)
theorem dX1_areLike_29 : decode cX1_areLike 29 = .ok (.ireturn, 1) := dk_172 (dk_at dksX1_areLike_1 7 rfl rfl)
theorem dX1_areLike_30 : decode cX1_areLike 30 = .ok (.iinc 4 1, 3) := dk_132 4 1 (dk_at dksX1_areLike_1 8 rfl rfl)
theorem dX1_areLike_33 : decode cX1_areLike 33 = .ok (.goto (-30), 3) := dk_167 255 226 (dk_at dksX1_areLike_1 11 rfl rfl)
theorem dX1_areLike_36 : decode cX1_areLike 36 = .ok (.iconst 1, 1) := dk_4 (dk_at dksX1_areLike_1 14 rfl rfl)
theorem dX1_areLike_37 : decode cX1_areLike 37 = .ok (.ireturn, 1) := dk_172 (dk_at dksX1_areLike_1 15 rfl rfl)
abbrev cX1_sorts : ByteArray := prog_24_method_43_code
def yX1_sorts : MethodName := ⟨RX1, "sorts", "(I)V"⟩
def dkwX1_sorts_3 : List UInt8 := [29, 46, 79, 42, 180, 0, 48, 29, 21, 4, 79, 132, 3, 1, 167, 255, 187, 132, 2, 1, 167, 255, 167, 177]
abbrev dktX1_sorts_3 : List UInt8 := dkwX1_sorts_3 ++ []
def dkwX1_sorts_2 : List UInt8 := [46, 161, 0, 6, 167, 0, 31, 42, 180, 0, 48, 28, 46, 54, 4, 42, 180, 0, 48, 28, 42, 180, 0, 48]
abbrev dktX1_sorts_2 : List UInt8 := dkwX1_sorts_2 ++ dktX1_sorts_3
def dkwX1_sorts_1 : List UInt8 := [162, 0, 65, 42, 27, 28, 29, 182, 1, 44, 153, 0, 49, 42, 180, 0, 48, 28, 46, 42, 180, 0, 48, 29]
abbrev dktX1_sorts_1 : List UInt8 := dkwX1_sorts_1 ++ dktX1_sorts_2
def dkwX1_sorts_0 : List UInt8 := [3, 61, 28, 42, 180, 0, 9, 27, 46, 162, 0, 85, 28, 4, 96, 62, 29, 42, 180, 0, 9, 27, 46]
abbrev dktX1_sorts_0 : List UInt8 := dkwX1_sorts_0 ++ dktX1_sorts_1
theorem dksX1_sorts_0 : cX1_sorts.data.toList.drop 0 = dktX1_sorts_0 := by decide +kernel
theorem dksX1_sorts_1 : cX1_sorts.data.toList.drop 23 = dktX1_sorts_1 := dk_seg dksX1_sorts_0 23 rfl rfl
theorem dksX1_sorts_2 : cX1_sorts.data.toList.drop 47 = dktX1_sorts_2 := dk_seg dksX1_sorts_1 24 rfl rfl
theorem dksX1_sorts_3 : cX1_sorts.data.toList.drop 71 = dktX1_sorts_3 := dk_seg dksX1_sorts_2 24 rfl rfl
theorem dX1_sorts_0 : decode cX1_sorts 0 = .ok (.iconst 0, 1) := dk_3 (dk_at dksX1_sorts_0 0 rfl rfl)
theorem dX1_sorts_1 : decode cX1_sorts 1 = .ok (.istore_n 2, 1) := dk_61 (dk_at dksX1_sorts_0 1 rfl rfl)
theorem dX1_sorts_2 : decode cX1_sorts 2 = .ok (.iload_n 2, 1) := dk_28 (dk_at dksX1_sorts_0 2 rfl rfl)
theorem dX1_sorts_3 : decode cX1_sorts 3 = .ok (.aload_n 0, 1) := dk_42 (dk_at dksX1_sorts_0 3 rfl rfl)
theorem dX1_sorts_4 : decode cX1_sorts 4 = .ok (.getfield 9, 3) := dk_180 0 9 (dk_at dksX1_sorts_0 4 rfl rfl)
theorem dX1_sorts_7 : decode cX1_sorts 7 = .ok (.iload_n 1, 1) := dk_27 (dk_at dksX1_sorts_0 7 rfl rfl)
theorem dX1_sorts_8 : decode cX1_sorts 8 = .ok (.iaload, 1) := dk_46 (dk_at dksX1_sorts_0 8 rfl rfl)
theorem dX1_sorts_9 : decode cX1_sorts 9 = .ok (.if_icmp .ge 85, 3) := dk_162 0 85 (dk_at dksX1_sorts_0 9 rfl rfl)
theorem dX1_sorts_12 : decode cX1_sorts 12 = .ok (.iload_n 2, 1) := dk_28 (dk_at dksX1_sorts_0 12 rfl rfl)
theorem dX1_sorts_13 : decode cX1_sorts 13 = .ok (.iconst 1, 1) := dk_4 (dk_at dksX1_sorts_0 13 rfl rfl)
theorem dX1_sorts_14 : decode cX1_sorts 14 = .ok (.iadd, 1) := dk_96 (dk_at dksX1_sorts_0 14 rfl rfl)
theorem dX1_sorts_15 : decode cX1_sorts 15 = .ok (.istore_n 3, 1) := dk_62 (dk_at dksX1_sorts_0 15 rfl rfl)
theorem dX1_sorts_16 : decode cX1_sorts 16 = .ok (.iload_n 3, 1) := dk_29 (dk_at dksX1_sorts_0 16 rfl rfl)
theorem dX1_sorts_17 : decode cX1_sorts 17 = .ok (.aload_n 0, 1) := dk_42 (dk_at dksX1_sorts_0 17 rfl rfl)
theorem dX1_sorts_18 : decode cX1_sorts 18 = .ok (.getfield 9, 3) := dk_180 0 9 (dk_at dksX1_sorts_0 18 rfl rfl)
theorem dX1_sorts_21 : decode cX1_sorts 21 = .ok (.iload_n 1, 1) := dk_27 (dk_at dksX1_sorts_0 21 rfl rfl)
theorem dX1_sorts_22 : decode cX1_sorts 22 = .ok (.iaload, 1) := dk_46 (dk_at dksX1_sorts_0 22 rfl rfl)
theorem dX1_sorts_23 : decode cX1_sorts 23 = .ok (.if_icmp .ge 65, 3) := dk_162 0 65 (dk_at dksX1_sorts_1 0 rfl rfl)
theorem dX1_sorts_26 : decode cX1_sorts 26 = .ok (.aload_n 0, 1) := dk_42 (dk_at dksX1_sorts_1 3 rfl rfl)
theorem dX1_sorts_27 : decode cX1_sorts 27 = .ok (.iload_n 1, 1) := dk_27 (dk_at dksX1_sorts_1 4 rfl rfl)
theorem dX1_sorts_28 : decode cX1_sorts 28 = .ok (.iload_n 2, 1) := dk_28 (dk_at dksX1_sorts_1 5 rfl rfl)
theorem dX1_sorts_29 : decode cX1_sorts 29 = .ok (.iload_n 3, 1) := dk_29 (dk_at dksX1_sorts_1 6 rfl rfl)
theorem dX1_sorts_30 : decode cX1_sorts 30 = .ok (.invokevirtual 300, 3) := dk_182 1 44 (dk_at dksX1_sorts_1 7 rfl rfl)
theorem dX1_sorts_33 : decode cX1_sorts 33 = .ok (.ifCond .eq 49, 3) := dk_153 0 49 (dk_at dksX1_sorts_1 10 rfl rfl)
theorem dX1_sorts_36 : decode cX1_sorts 36 = .ok (.aload_n 0, 1) := dk_42 (dk_at dksX1_sorts_1 13 rfl rfl)
theorem dX1_sorts_37 : decode cX1_sorts 37 = .ok (.getfield 48, 3) := dk_180 0 48 (dk_at dksX1_sorts_1 14 rfl rfl)
theorem dX1_sorts_40 : decode cX1_sorts 40 = .ok (.iload_n 2, 1) := dk_28 (dk_at dksX1_sorts_1 17 rfl rfl)
theorem dX1_sorts_41 : decode cX1_sorts 41 = .ok (.iaload, 1) := dk_46 (dk_at dksX1_sorts_1 18 rfl rfl)
theorem dX1_sorts_42 : decode cX1_sorts 42 = .ok (.aload_n 0, 1) := dk_42 (dk_at dksX1_sorts_1 19 rfl rfl)
theorem dX1_sorts_43 : decode cX1_sorts 43 = .ok (.getfield 48, 3) := dk_180 0 48 (dk_at dksX1_sorts_1 20 rfl rfl)
theorem dX1_sorts_46 : decode cX1_sorts 46 = .ok (.iload_n 3, 1) := dk_29 (dk_at dksX1_sorts_1 23 rfl rfl)
theorem dX1_sorts_47 : decode cX1_sorts 47 = .ok (.iaload, 1) := dk_46 (dk_at dksX1_sorts_2 0 rfl rfl)
theorem dX1_sorts_48 : decode cX1_sorts 48 = .ok (.if_icmp .lt 6, 3) := dk_161 0 6 (dk_at dksX1_sorts_2 1 rfl rfl)
theorem dX1_sorts_51 : decode cX1_sorts 51 = .ok (.goto 31, 3) := dk_167 0 31 (dk_at dksX1_sorts_2 4 rfl rfl)
theorem dX1_sorts_54 : decode cX1_sorts 54 = .ok (.aload_n 0, 1) := dk_42 (dk_at dksX1_sorts_2 7 rfl rfl)
theorem dX1_sorts_55 : decode cX1_sorts 55 = .ok (.getfield 48, 3) := dk_180 0 48 (dk_at dksX1_sorts_2 8 rfl rfl)
theorem dX1_sorts_58 : decode cX1_sorts 58 = .ok (.iload_n 2, 1) := dk_28 (dk_at dksX1_sorts_2 11 rfl rfl)
theorem dX1_sorts_59 : decode cX1_sorts 59 = .ok (.iaload, 1) := dk_46 (dk_at dksX1_sorts_2 12 rfl rfl)
theorem dX1_sorts_60 : decode cX1_sorts 60 = .ok (.istore 4, 2) := dk_54 4 (dk_at dksX1_sorts_2 13 rfl rfl)
theorem dX1_sorts_62 : decode cX1_sorts 62 = .ok (.aload_n 0, 1) := dk_42 (dk_at dksX1_sorts_2 15 rfl rfl)
theorem dX1_sorts_63 : decode cX1_sorts 63 = .ok (.getfield 48, 3) := dk_180 0 48 (dk_at dksX1_sorts_2 16 rfl rfl)
theorem dX1_sorts_66 : decode cX1_sorts 66 = .ok (.iload_n 2, 1) := dk_28 (dk_at dksX1_sorts_2 19 rfl rfl)
theorem dX1_sorts_67 : decode cX1_sorts 67 = .ok (.aload_n 0, 1) := dk_42 (dk_at dksX1_sorts_2 20 rfl rfl)
theorem dX1_sorts_68 : decode cX1_sorts 68 = .ok (.getfield 48, 3) := dk_180 0 48 (dk_at dksX1_sorts_2 21 rfl rfl)
theorem dX1_sorts_71 : decode cX1_sorts 71 = .ok (.iload_n 3, 1) := dk_29 (dk_at dksX1_sorts_3 0 rfl rfl)
theorem dX1_sorts_72 : decode cX1_sorts 72 = .ok (.iaload, 1) := dk_46 (dk_at dksX1_sorts_3 1 rfl rfl)
theorem dX1_sorts_73 : decode cX1_sorts 73 = .ok (.iastore, 1) := dk_79 (dk_at dksX1_sorts_3 2 rfl rfl)
theorem dX1_sorts_74 : decode cX1_sorts 74 = .ok (.aload_n 0, 1) := dk_42 (dk_at dksX1_sorts_3 3 rfl rfl)
theorem dX1_sorts_75 : decode cX1_sorts 75 = .ok (.getfield 48, 3) := dk_180 0 48 (dk_at dksX1_sorts_3 4 rfl rfl)
theorem dX1_sorts_78 : decode cX1_sorts 78 = .ok (.iload_n 3, 1) := dk_29 (dk_at dksX1_sorts_3 7 rfl rfl)
theorem dX1_sorts_79 : decode cX1_sorts 79 = .ok (.iload 4, 2) := dk_21 4 (dk_at dksX1_sorts_3 8 rfl rfl)
theorem dX1_sorts_81 : decode cX1_sorts 81 = .ok (.iastore, 1) := dk_79 (dk_at dksX1_sorts_3 10 rfl rfl)
theorem dX1_sorts_82 : decode cX1_sorts 82 = .ok (.iinc 3 1, 3) := dk_132 3 1 (dk_at dksX1_sorts_3 11 rfl rfl)
theorem dX1_sorts_85 : decode cX1_sorts 85 = .ok (.goto (-69), 3) := dk_167 255 187 (dk_at dksX1_sorts_3 14 rfl rfl)
theorem dX1_sorts_88 : decode cX1_sorts 88 = .ok (.iinc 2 1, 3) := dk_132 2 1 (dk_at dksX1_sorts_3 17 rfl rfl)
theorem dX1_sorts_91 : decode cX1_sorts 91 = .ok (.goto (-89), 3) := dk_167 255 167 (dk_at dksX1_sorts_3 20 rfl rfl)
theorem dX1_sorts_94 : decode cX1_sorts 94 = .ok (.return_, 1) := dk_177 (dk_at dksX1_sorts_3 23 rfl rfl)
abbrev cX1_isKind : ByteArray := prog_24_method_44_code
def yX1_isKind : MethodName := ⟨RX1, "isKind", "(I)Z"⟩
def dkwX1_isKind_1 : List UInt8 := [159, 0, 5, 3, 172, 132, 2, 1, 167, 255, 227, 4, 172]
abbrev dktX1_isKind_1 : List UInt8 := dkwX1_isKind_1 ++ []
def dkwX1_isKind_0 : List UInt8 := [3, 61, 28, 8, 162, 0, 30, 42, 180, 0, 51, 8, 27, 104, 28, 96, 46, 42, 180, 0, 48, 28, 46]
abbrev dktX1_isKind_0 : List UInt8 := dkwX1_isKind_0 ++ dktX1_isKind_1
theorem dksX1_isKind_0 : cX1_isKind.data.toList.drop 0 = dktX1_isKind_0 := by decide +kernel
theorem dksX1_isKind_1 : cX1_isKind.data.toList.drop 23 = dktX1_isKind_1 := dk_seg dksX1_isKind_0 23 rfl rfl
theorem dX1_isKind_0 : decode cX1_isKind 0 = .ok (.iconst 0, 1) := dk_3 (dk_at dksX1_isKind_0 0 rfl rfl)
theorem dX1_isKind_1 : decode cX1_isKind 1 = .ok (.istore_n 2, 1) := dk_61 (dk_at dksX1_isKind_0 1 rfl rfl)
theorem dX1_isKind_2 : decode cX1_isKind 2 = .ok (.iload_n 2, 1) := dk_28 (dk_at dksX1_isKind_0 2 rfl rfl)
theorem dX1_isKind_3 : decode cX1_isKind 3 = .ok (.iconst 5, 1) := dk_8 (dk_at dksX1_isKind_0 3 rfl rfl)
theorem dX1_isKind_4 : decode cX1_isKind 4 = .ok (.if_icmp .ge 30, 3) := dk_162 0 30 (dk_at dksX1_isKind_0 4 rfl rfl)
theorem dX1_isKind_7 : decode cX1_isKind 7 = .ok (.aload_n 0, 1) := dk_42 (dk_at dksX1_isKind_0 7 rfl rfl)
theorem dX1_isKind_8 : decode cX1_isKind 8 = .ok (.getfield 51, 3) := dk_180 0 51 (dk_at dksX1_isKind_0 8 rfl rfl)
theorem dX1_isKind_11 : decode cX1_isKind 11 = .ok (.iconst 5, 1) := dk_8 (dk_at dksX1_isKind_0 11 rfl rfl)
theorem dX1_isKind_12 : decode cX1_isKind 12 = .ok (.iload_n 1, 1) := dk_27 (dk_at dksX1_isKind_0 12 rfl rfl)
theorem dX1_isKind_13 : decode cX1_isKind 13 = .ok (.imul, 1) := dk_104 (dk_at dksX1_isKind_0 13 rfl rfl)
theorem dX1_isKind_14 : decode cX1_isKind 14 = .ok (.iload_n 2, 1) := dk_28 (dk_at dksX1_isKind_0 14 rfl rfl)
theorem dX1_isKind_15 : decode cX1_isKind 15 = .ok (.iadd, 1) := dk_96 (dk_at dksX1_isKind_0 15 rfl rfl)
theorem dX1_isKind_16 : decode cX1_isKind 16 = .ok (.iaload, 1) := dk_46 (dk_at dksX1_isKind_0 16 rfl rfl)
theorem dX1_isKind_17 : decode cX1_isKind 17 = .ok (.aload_n 0, 1) := dk_42 (dk_at dksX1_isKind_0 17 rfl rfl)
theorem dX1_isKind_18 : decode cX1_isKind 18 = .ok (.getfield 48, 3) := dk_180 0 48 (dk_at dksX1_isKind_0 18 rfl rfl)
theorem dX1_isKind_21 : decode cX1_isKind 21 = .ok (.iload_n 2, 1) := dk_28 (dk_at dksX1_isKind_0 21 rfl rfl)
theorem dX1_isKind_22 : decode cX1_isKind 22 = .ok (.iaload, 1) := dk_46 (dk_at dksX1_isKind_0 22 rfl rfl)
theorem dX1_isKind_23 : decode cX1_isKind 23 = .ok (.if_icmp .eq 5, 3) := dk_159 0 5 (dk_at dksX1_isKind_1 0 rfl rfl)
theorem dX1_isKind_26 : decode cX1_isKind 26 = .ok (.iconst 0, 1) := dk_3 (dk_at dksX1_isKind_1 3 rfl rfl)
theorem dX1_isKind_27 : decode cX1_isKind 27 = .ok (.ireturn, 1) := dk_172 (dk_at dksX1_isKind_1 4 rfl rfl)
theorem dX1_isKind_28 : decode cX1_isKind 28 = .ok (.iinc 2 1, 3) := dk_132 2 1 (dk_at dksX1_isKind_1 5 rfl rfl)
theorem dX1_isKind_31 : decode cX1_isKind 31 = .ok (.goto (-29), 3) := dk_167 255 227 (dk_at dksX1_isKind_1 8 rfl rfl)
theorem dX1_isKind_34 : decode cX1_isKind 34 = .ok (.iconst 1, 1) := dk_4 (dk_at dksX1_isKind_1 11 rfl rfl)
theorem dX1_isKind_35 : decode cX1_isKind 35 = .ok (.ireturn, 1) := dk_172 (dk_at dksX1_isKind_1 12 rfl rfl)
abbrev cX1_laysRounds : ByteArray := prog_24_method_45_code
def yX1_laysRounds : MethodName := ⟨RX1, "laysRounds", "(II)V"⟩
def dkwX1_laysRounds_4 : List UInt8 := [182, 0, 93, 42, 27, 29, 6, 182, 0, 93, 182, 1, 14, 132, 3, 1, 167, 255, 151, 177]
abbrev dktX1_laysRounds_4 : List UInt8 := dkwX1_laysRounds_4 ++ []
def dkwX1_laysRounds_3 : List UInt8 := [42, 3, 4, 21, 4, 42, 27, 29, 3, 182, 0, 93, 104, 42, 27, 29, 4, 182, 0, 93, 42, 27, 29, 5]
abbrev dktX1_laysRounds_3 : List UInt8 := dkwX1_laysRounds_3 ++ dktX1_laysRounds_4
def dkwX1_laysRounds_2 : List UInt8 := [42, 180, 0, 35, 17, 117, 49, 21, 5, 96, 42, 180, 0, 35, 21, 5, 47, 80, 132, 5, 1, 167, 255, 227]
abbrev dktX1_laysRounds_2 : List UInt8 := dkwX1_laysRounds_2 ++ dktX1_laysRounds_3
def dkwX1_laysRounds_1 : List UInt8 := [29, 96, 46, 54, 4, 21, 4, 154, 0, 6, 167, 0, 75, 3, 54, 5, 21, 5, 17, 117, 49, 162, 0, 27]
abbrev dktX1_laysRounds_1 : List UInt8 := dkwX1_laysRounds_1 ++ dktX1_laysRounds_2
def dkwX1_laysRounds_0 : List UInt8 := [42, 3, 182, 1, 11, 3, 62, 29, 42, 180, 0, 9, 27, 46, 162, 0, 101, 42, 180, 0, 51, 8, 28, 104]
abbrev dktX1_laysRounds_0 : List UInt8 := dkwX1_laysRounds_0 ++ dktX1_laysRounds_1
theorem dksX1_laysRounds_0 : cX1_laysRounds.data.toList.drop 0 = dktX1_laysRounds_0 := by decide +kernel
theorem dksX1_laysRounds_1 : cX1_laysRounds.data.toList.drop 24 = dktX1_laysRounds_1 := dk_seg dksX1_laysRounds_0 24 rfl rfl
theorem dksX1_laysRounds_2 : cX1_laysRounds.data.toList.drop 48 = dktX1_laysRounds_2 := dk_seg dksX1_laysRounds_1 24 rfl rfl
theorem dksX1_laysRounds_3 : cX1_laysRounds.data.toList.drop 72 = dktX1_laysRounds_3 := dk_seg dksX1_laysRounds_2 24 rfl rfl
theorem dksX1_laysRounds_4 : cX1_laysRounds.data.toList.drop 96 = dktX1_laysRounds_4 := dk_seg dksX1_laysRounds_3 24 rfl rfl
theorem dX1_laysRounds_0 : decode cX1_laysRounds 0 = .ok (.aload_n 0, 1) := dk_42 (dk_at dksX1_laysRounds_0 0 rfl rfl)
theorem dX1_laysRounds_1 : decode cX1_laysRounds 1 = .ok (.iconst 0, 1) := dk_3 (dk_at dksX1_laysRounds_0 1 rfl rfl)
theorem dX1_laysRounds_2 : decode cX1_laysRounds 2 = .ok (.invokevirtual 267, 3) := dk_182 1 11 (dk_at dksX1_laysRounds_0 2 rfl rfl)
theorem dX1_laysRounds_5 : decode cX1_laysRounds 5 = .ok (.iconst 0, 1) := dk_3 (dk_at dksX1_laysRounds_0 5 rfl rfl)
theorem dX1_laysRounds_6 : decode cX1_laysRounds 6 = .ok (.istore_n 3, 1) := dk_62 (dk_at dksX1_laysRounds_0 6 rfl rfl)
theorem dX1_laysRounds_7 : decode cX1_laysRounds 7 = .ok (.iload_n 3, 1) := dk_29 (dk_at dksX1_laysRounds_0 7 rfl rfl)
theorem dX1_laysRounds_8 : decode cX1_laysRounds 8 = .ok (.aload_n 0, 1) := dk_42 (dk_at dksX1_laysRounds_0 8 rfl rfl)
theorem dX1_laysRounds_9 : decode cX1_laysRounds 9 = .ok (.getfield 9, 3) := dk_180 0 9 (dk_at dksX1_laysRounds_0 9 rfl rfl)
theorem dX1_laysRounds_12 : decode cX1_laysRounds 12 = .ok (.iload_n 1, 1) := dk_27 (dk_at dksX1_laysRounds_0 12 rfl rfl)
theorem dX1_laysRounds_13 : decode cX1_laysRounds 13 = .ok (.iaload, 1) := dk_46 (dk_at dksX1_laysRounds_0 13 rfl rfl)
theorem dX1_laysRounds_14 : decode cX1_laysRounds 14 = .ok (.if_icmp .ge 101, 3) := dk_162 0 101 (dk_at dksX1_laysRounds_0 14 rfl rfl)
theorem dX1_laysRounds_17 : decode cX1_laysRounds 17 = .ok (.aload_n 0, 1) := dk_42 (dk_at dksX1_laysRounds_0 17 rfl rfl)
theorem dX1_laysRounds_18 : decode cX1_laysRounds 18 = .ok (.getfield 51, 3) := dk_180 0 51 (dk_at dksX1_laysRounds_0 18 rfl rfl)
theorem dX1_laysRounds_21 : decode cX1_laysRounds 21 = .ok (.iconst 5, 1) := dk_8 (dk_at dksX1_laysRounds_0 21 rfl rfl)
theorem dX1_laysRounds_22 : decode cX1_laysRounds 22 = .ok (.iload_n 2, 1) := dk_28 (dk_at dksX1_laysRounds_0 22 rfl rfl)
theorem dX1_laysRounds_23 : decode cX1_laysRounds 23 = .ok (.imul, 1) := dk_104 (dk_at dksX1_laysRounds_0 23 rfl rfl)
theorem dX1_laysRounds_24 : decode cX1_laysRounds 24 = .ok (.iload_n 3, 1) := dk_29 (dk_at dksX1_laysRounds_1 0 rfl rfl)
theorem dX1_laysRounds_25 : decode cX1_laysRounds 25 = .ok (.iadd, 1) := dk_96 (dk_at dksX1_laysRounds_1 1 rfl rfl)
theorem dX1_laysRounds_26 : decode cX1_laysRounds 26 = .ok (.iaload, 1) := dk_46 (dk_at dksX1_laysRounds_1 2 rfl rfl)
theorem dX1_laysRounds_27 : decode cX1_laysRounds 27 = .ok (.istore 4, 2) := dk_54 4 (dk_at dksX1_laysRounds_1 3 rfl rfl)
theorem dX1_laysRounds_29 : decode cX1_laysRounds 29 = .ok (.iload 4, 2) := dk_21 4 (dk_at dksX1_laysRounds_1 5 rfl rfl)
theorem dX1_laysRounds_31 : decode cX1_laysRounds 31 = .ok (.ifCond .ne 6, 3) := dk_154 0 6 (dk_at dksX1_laysRounds_1 7 rfl rfl)
theorem dX1_laysRounds_34 : decode cX1_laysRounds 34 = .ok (.goto 75, 3) := dk_167 0 75 (dk_at dksX1_laysRounds_1 10 rfl rfl)
theorem dX1_laysRounds_37 : decode cX1_laysRounds 37 = .ok (.iconst 0, 1) := dk_3 (dk_at dksX1_laysRounds_1 13 rfl rfl)
theorem dX1_laysRounds_38 : decode cX1_laysRounds 38 = .ok (.istore 5, 2) := dk_54 5 (dk_at dksX1_laysRounds_1 14 rfl rfl)
theorem dX1_laysRounds_40 : decode cX1_laysRounds 40 = .ok (.iload 5, 2) := dk_21 5 (dk_at dksX1_laysRounds_1 16 rfl rfl)
theorem dX1_laysRounds_42 : decode cX1_laysRounds 42 = .ok (.sipush 30001, 3) := dk_17 117 49 (dk_at dksX1_laysRounds_1 18 rfl rfl)
theorem dX1_laysRounds_45 : decode cX1_laysRounds 45 = .ok (.if_icmp .ge 27, 3) := dk_162 0 27 (dk_at dksX1_laysRounds_1 21 rfl rfl)
theorem dX1_laysRounds_48 : decode cX1_laysRounds 48 = .ok (.aload_n 0, 1) := dk_42 (dk_at dksX1_laysRounds_2 0 rfl rfl)
theorem dX1_laysRounds_49 : decode cX1_laysRounds 49 = .ok (.getfield 35, 3) := dk_180 0 35 (dk_at dksX1_laysRounds_2 1 rfl rfl)
theorem dX1_laysRounds_52 : decode cX1_laysRounds 52 = .ok (.sipush 30001, 3) := dk_17 117 49 (dk_at dksX1_laysRounds_2 4 rfl rfl)
theorem dX1_laysRounds_55 : decode cX1_laysRounds 55 = .ok (.iload 5, 2) := dk_21 5 (dk_at dksX1_laysRounds_2 7 rfl rfl)
theorem dX1_laysRounds_57 : decode cX1_laysRounds 57 = .ok (.iadd, 1) := dk_96 (dk_at dksX1_laysRounds_2 9 rfl rfl)
theorem dX1_laysRounds_58 : decode cX1_laysRounds 58 = .ok (.aload_n 0, 1) := dk_42 (dk_at dksX1_laysRounds_2 10 rfl rfl)
theorem dX1_laysRounds_59 : decode cX1_laysRounds 59 = .ok (.getfield 35, 3) := dk_180 0 35 (dk_at dksX1_laysRounds_2 11 rfl rfl)
theorem dX1_laysRounds_62 : decode cX1_laysRounds 62 = .ok (.iload 5, 2) := dk_21 5 (dk_at dksX1_laysRounds_2 14 rfl rfl)
theorem dX1_laysRounds_64 : decode cX1_laysRounds 64 = .ok (.laload, 1) := dk_47 (dk_at dksX1_laysRounds_2 16 rfl rfl)
theorem dX1_laysRounds_65 : decode cX1_laysRounds 65 = .ok (.lastore, 1) := dk_80 (dk_at dksX1_laysRounds_2 17 rfl rfl)
theorem dX1_laysRounds_66 : decode cX1_laysRounds 66 = .ok (.iinc 5 1, 3) := dk_132 5 1 (dk_at dksX1_laysRounds_2 18 rfl rfl)
theorem dX1_laysRounds_69 : decode cX1_laysRounds 69 = .ok (.goto (-29), 3) := dk_167 255 227 (dk_at dksX1_laysRounds_2 21 rfl rfl)
theorem dX1_laysRounds_72 : decode cX1_laysRounds 72 = .ok (.aload_n 0, 1) := dk_42 (dk_at dksX1_laysRounds_3 0 rfl rfl)
theorem dX1_laysRounds_73 : decode cX1_laysRounds 73 = .ok (.iconst 0, 1) := dk_3 (dk_at dksX1_laysRounds_3 1 rfl rfl)
theorem dX1_laysRounds_74 : decode cX1_laysRounds 74 = .ok (.iconst 1, 1) := dk_4 (dk_at dksX1_laysRounds_3 2 rfl rfl)
theorem dX1_laysRounds_75 : decode cX1_laysRounds 75 = .ok (.iload 4, 2) := dk_21 4 (dk_at dksX1_laysRounds_3 3 rfl rfl)
theorem dX1_laysRounds_77 : decode cX1_laysRounds 77 = .ok (.aload_n 0, 1) := dk_42 (dk_at dksX1_laysRounds_3 5 rfl rfl)
theorem dX1_laysRounds_78 : decode cX1_laysRounds 78 = .ok (.iload_n 1, 1) := dk_27 (dk_at dksX1_laysRounds_3 6 rfl rfl)
theorem dX1_laysRounds_79 : decode cX1_laysRounds 79 = .ok (.iload_n 3, 1) := dk_29 (dk_at dksX1_laysRounds_3 7 rfl rfl)
theorem dX1_laysRounds_80 : decode cX1_laysRounds 80 = .ok (.iconst 0, 1) := dk_3 (dk_at dksX1_laysRounds_3 8 rfl rfl)
theorem dX1_laysRounds_81 : decode cX1_laysRounds 81 = .ok (.invokevirtual 93, 3) := dk_182 0 93 (dk_at dksX1_laysRounds_3 9 rfl rfl)
theorem dX1_laysRounds_84 : decode cX1_laysRounds 84 = .ok (.imul, 1) := dk_104 (dk_at dksX1_laysRounds_3 12 rfl rfl)
theorem dX1_laysRounds_85 : decode cX1_laysRounds 85 = .ok (.aload_n 0, 1) := dk_42 (dk_at dksX1_laysRounds_3 13 rfl rfl)
theorem dX1_laysRounds_86 : decode cX1_laysRounds 86 = .ok (.iload_n 1, 1) := dk_27 (dk_at dksX1_laysRounds_3 14 rfl rfl)
theorem dX1_laysRounds_87 : decode cX1_laysRounds 87 = .ok (.iload_n 3, 1) := dk_29 (dk_at dksX1_laysRounds_3 15 rfl rfl)
theorem dX1_laysRounds_88 : decode cX1_laysRounds 88 = .ok (.iconst 1, 1) := dk_4 (dk_at dksX1_laysRounds_3 16 rfl rfl)
theorem dX1_laysRounds_89 : decode cX1_laysRounds 89 = .ok (.invokevirtual 93, 3) := dk_182 0 93 (dk_at dksX1_laysRounds_3 17 rfl rfl)
theorem dX1_laysRounds_92 : decode cX1_laysRounds 92 = .ok (.aload_n 0, 1) := dk_42 (dk_at dksX1_laysRounds_3 20 rfl rfl)
theorem dX1_laysRounds_93 : decode cX1_laysRounds 93 = .ok (.iload_n 1, 1) := dk_27 (dk_at dksX1_laysRounds_3 21 rfl rfl)
theorem dX1_laysRounds_94 : decode cX1_laysRounds 94 = .ok (.iload_n 3, 1) := dk_29 (dk_at dksX1_laysRounds_3 22 rfl rfl)
theorem dX1_laysRounds_95 : decode cX1_laysRounds 95 = .ok (.iconst 2, 1) := dk_5 (dk_at dksX1_laysRounds_3 23 rfl rfl)
theorem dX1_laysRounds_96 : decode cX1_laysRounds 96 = .ok (.invokevirtual 93, 3) := dk_182 0 93 (dk_at dksX1_laysRounds_4 0 rfl rfl)
theorem dX1_laysRounds_99 : decode cX1_laysRounds 99 = .ok (.aload_n 0, 1) := dk_42 (dk_at dksX1_laysRounds_4 3 rfl rfl)
theorem dX1_laysRounds_100 : decode cX1_laysRounds 100 = .ok (.iload_n 1, 1) := dk_27 (dk_at dksX1_laysRounds_4 4 rfl rfl)
theorem dX1_laysRounds_101 : decode cX1_laysRounds 101 = .ok (.iload_n 3, 1) := dk_29 (dk_at dksX1_laysRounds_4 5 rfl rfl)
theorem dX1_laysRounds_102 : decode cX1_laysRounds 102 = .ok (.iconst 3, 1) := dk_6 (dk_at dksX1_laysRounds_4 6 rfl rfl)
theorem dX1_laysRounds_103 : decode cX1_laysRounds 103 = .ok (.invokevirtual 93, 3) := dk_182 0 93 (dk_at dksX1_laysRounds_4 7 rfl rfl)
theorem dX1_laysRounds_106 : decode cX1_laysRounds 106 = .ok (.invokevirtual 270, 3) := dk_182 1 14 (dk_at dksX1_laysRounds_4 10 rfl rfl)
theorem dX1_laysRounds_109 : decode cX1_laysRounds 109 = .ok (.iinc 3 1, 3) := dk_132 3 1 (dk_at dksX1_laysRounds_4 13 rfl rfl)
theorem dX1_laysRounds_112 : decode cX1_laysRounds 112 = .ok (.goto (-105), 3) := dk_167 255 151 (dk_at dksX1_laysRounds_4 16 rfl rfl)
theorem dX1_laysRounds_115 : decode cX1_laysRounds 115 = .ok (.return_, 1) := dk_177 (dk_at dksX1_laysRounds_4 19 rfl rfl)
abbrev cX1_way : ByteArray := prog_24_method_48_code
def yX1_way : MethodName := ⟨RX1, "way", "(IIJI)I"⟩
def dkwX1_way_2 : List UInt8 := [19, 1, 65, 172]
abbrev dktX1_way_2 : List UInt8 := dkwX1_way_2 ++ []
def dkwX1_way_1 : List UInt8 := [153, 0, 23, 42, 27, 28, 33, 182, 1, 61, 153, 0, 13, 42, 180, 0, 57, 21, 5, 46, 167, 0, 6]
abbrev dktX1_way_1 : List UInt8 := dkwX1_way_1 ++ dktX1_way_2
def dkwX1_way_0 : List UInt8 := [42, 27, 182, 1, 18, 153, 0, 40, 28, 184, 1, 21, 153, 0, 33, 42, 27, 21, 5, 182, 1, 57]
abbrev dktX1_way_0 : List UInt8 := dkwX1_way_0 ++ dktX1_way_1
theorem dksX1_way_0 : cX1_way.data.toList.drop 0 = dktX1_way_0 := by decide +kernel
theorem dksX1_way_1 : cX1_way.data.toList.drop 22 = dktX1_way_1 := dk_seg dksX1_way_0 22 rfl rfl
theorem dksX1_way_2 : cX1_way.data.toList.drop 45 = dktX1_way_2 := dk_seg dksX1_way_1 23 rfl rfl
theorem dX1_way_0 : decode cX1_way 0 = .ok (.aload_n 0, 1) := dk_42 (dk_at dksX1_way_0 0 rfl rfl)
theorem dX1_way_1 : decode cX1_way 1 = .ok (.iload_n 1, 1) := dk_27 (dk_at dksX1_way_0 1 rfl rfl)
theorem dX1_way_2 : decode cX1_way 2 = .ok (.invokevirtual 274, 3) := dk_182 1 18 (dk_at dksX1_way_0 2 rfl rfl)
theorem dX1_way_5 : decode cX1_way 5 = .ok (.ifCond .eq 40, 3) := dk_153 0 40 (dk_at dksX1_way_0 5 rfl rfl)
theorem dX1_way_8 : decode cX1_way 8 = .ok (.iload_n 2, 1) := dk_28 (dk_at dksX1_way_0 8 rfl rfl)
theorem dX1_way_9 : decode cX1_way 9 = .ok (.invokestatic 277, 3) := dk_184 1 21 (dk_at dksX1_way_0 9 rfl rfl)
theorem dX1_way_12 : decode cX1_way 12 = .ok (.ifCond .eq 33, 3) := dk_153 0 33 (dk_at dksX1_way_0 12 rfl rfl)
theorem dX1_way_15 : decode cX1_way 15 = .ok (.aload_n 0, 1) := dk_42 (dk_at dksX1_way_0 15 rfl rfl)
theorem dX1_way_16 : decode cX1_way 16 = .ok (.iload_n 1, 1) := dk_27 (dk_at dksX1_way_0 16 rfl rfl)
theorem dX1_way_17 : decode cX1_way 17 = .ok (.iload 5, 2) := dk_21 5 (dk_at dksX1_way_0 17 rfl rfl)
theorem dX1_way_19 : decode cX1_way 19 = .ok (.invokevirtual 313, 3) := dk_182 1 57 (dk_at dksX1_way_0 19 rfl rfl)
theorem dX1_way_22 : decode cX1_way 22 = .ok (.ifCond .eq 23, 3) := dk_153 0 23 (dk_at dksX1_way_1 0 rfl rfl)
theorem dX1_way_25 : decode cX1_way 25 = .ok (.aload_n 0, 1) := dk_42 (dk_at dksX1_way_1 3 rfl rfl)
theorem dX1_way_26 : decode cX1_way 26 = .ok (.iload_n 1, 1) := dk_27 (dk_at dksX1_way_1 4 rfl rfl)
theorem dX1_way_27 : decode cX1_way 27 = .ok (.iload_n 2, 1) := dk_28 (dk_at dksX1_way_1 5 rfl rfl)
theorem dX1_way_28 : decode cX1_way 28 = .ok (.lload_n 3, 1) := dk_33 (dk_at dksX1_way_1 6 rfl rfl)
theorem dX1_way_29 : decode cX1_way 29 = .ok (.invokevirtual 317, 3) := dk_182 1 61 (dk_at dksX1_way_1 7 rfl rfl)
theorem dX1_way_32 : decode cX1_way 32 = .ok (.ifCond .eq 13, 3) := dk_153 0 13 (dk_at dksX1_way_1 10 rfl rfl)
theorem dX1_way_35 : decode cX1_way 35 = .ok (.aload_n 0, 1) := dk_42 (dk_at dksX1_way_1 13 rfl rfl)
theorem dX1_way_36 : decode cX1_way 36 = .ok (.getfield 57, 3) := dk_180 0 57 (dk_at dksX1_way_1 14 rfl rfl)
theorem dX1_way_39 : decode cX1_way 39 = .ok (.iload 5, 2) := dk_21 5 (dk_at dksX1_way_1 17 rfl rfl)
theorem dX1_way_41 : decode cX1_way 41 = .ok (.iaload, 1) := dk_46 (dk_at dksX1_way_1 19 rfl rfl)
theorem dX1_way_42 : decode cX1_way 42 = .ok (.goto 6, 3) := dk_167 0 6 (dk_at dksX1_way_1 20 rfl rfl)
theorem dX1_way_45 : decode cX1_way 45 = .ok (.ldc_w 321, 3) := dk_19 1 65 (dk_at dksX1_way_2 0 rfl rfl)
theorem dX1_way_48 : decode cX1_way 48 = .ok (.ireturn, 1) := dk_172 (dk_at dksX1_way_2 3 rfl rfl)
abbrev cX1_isTerm : ByteArray := prog_24_method_10_code
def yX1_isTerm : MethodName := ⟨RX1, "isTerm", "(II)Z"⟩
def dkwX1_isTerm_1 : List UInt8 := [153, 0, 7, 4, 167, 0, 4, 3, 172]
abbrev dktX1_isTerm_1 : List UInt8 := dkwX1_isTerm_1 ++ []
def dkwX1_isTerm_0 : List UInt8 := [27, 184, 0, 111, 153, 0, 25, 28, 133, 9, 42, 180, 0, 9, 27, 46, 4, 100, 133, 184, 0, 105]
abbrev dktX1_isTerm_0 : List UInt8 := dkwX1_isTerm_0 ++ dktX1_isTerm_1
theorem dksX1_isTerm_0 : cX1_isTerm.data.toList.drop 0 = dktX1_isTerm_0 := by decide +kernel
theorem dksX1_isTerm_1 : cX1_isTerm.data.toList.drop 22 = dktX1_isTerm_1 := dk_seg dksX1_isTerm_0 22 rfl rfl
theorem dX1_isTerm_0 : decode cX1_isTerm 0 = .ok (.iload_n 1, 1) := dk_27 (dk_at dksX1_isTerm_0 0 rfl rfl)
theorem dX1_isTerm_1 : decode cX1_isTerm 1 = .ok (.invokestatic 111, 3) := dk_184 0 111 (dk_at dksX1_isTerm_0 1 rfl rfl)
theorem dX1_isTerm_4 : decode cX1_isTerm 4 = .ok (.ifCond .eq 25, 3) := dk_153 0 25 (dk_at dksX1_isTerm_0 4 rfl rfl)
theorem dX1_isTerm_7 : decode cX1_isTerm 7 = .ok (.iload_n 2, 1) := dk_28 (dk_at dksX1_isTerm_0 7 rfl rfl)
theorem dX1_isTerm_8 : decode cX1_isTerm 8 = .ok (.i2l, 1) := dk_133 (dk_at dksX1_isTerm_0 8 rfl rfl)
theorem dX1_isTerm_9 : decode cX1_isTerm 9 = .ok (.lconst 0, 1) := dk_9 (dk_at dksX1_isTerm_0 9 rfl rfl)
theorem dX1_isTerm_10 : decode cX1_isTerm 10 = .ok (.aload_n 0, 1) := dk_42 (dk_at dksX1_isTerm_0 10 rfl rfl)
theorem dX1_isTerm_11 : decode cX1_isTerm 11 = .ok (.getfield 9, 3) := dk_180 0 9 (dk_at dksX1_isTerm_0 11 rfl rfl)
theorem dX1_isTerm_14 : decode cX1_isTerm 14 = .ok (.iload_n 1, 1) := dk_27 (dk_at dksX1_isTerm_0 14 rfl rfl)
theorem dX1_isTerm_15 : decode cX1_isTerm 15 = .ok (.iaload, 1) := dk_46 (dk_at dksX1_isTerm_0 15 rfl rfl)
theorem dX1_isTerm_16 : decode cX1_isTerm 16 = .ok (.iconst 1, 1) := dk_4 (dk_at dksX1_isTerm_0 16 rfl rfl)
theorem dX1_isTerm_17 : decode cX1_isTerm 17 = .ok (.isub, 1) := dk_100 (dk_at dksX1_isTerm_0 17 rfl rfl)
theorem dX1_isTerm_18 : decode cX1_isTerm 18 = .ok (.i2l, 1) := dk_133 (dk_at dksX1_isTerm_0 18 rfl rfl)
theorem dX1_isTerm_19 : decode cX1_isTerm 19 = .ok (.invokestatic 105, 3) := dk_184 0 105 (dk_at dksX1_isTerm_0 19 rfl rfl)
theorem dX1_isTerm_22 : decode cX1_isTerm 22 = .ok (.ifCond .eq 7, 3) := dk_153 0 7 (dk_at dksX1_isTerm_1 0 rfl rfl)
theorem dX1_isTerm_25 : decode cX1_isTerm 25 = .ok (.iconst 1, 1) := dk_4 (dk_at dksX1_isTerm_1 3 rfl rfl)
theorem dX1_isTerm_26 : decode cX1_isTerm 26 = .ok (.goto 4, 3) := dk_167 0 4 (dk_at dksX1_isTerm_1 4 rfl rfl)
theorem dX1_isTerm_29 : decode cX1_isTerm 29 = .ok (.iconst 0, 1) := dk_3 (dk_at dksX1_isTerm_1 7 rfl rfl)
theorem dX1_isTerm_30 : decode cX1_isTerm 30 = .ok (.ireturn, 1) := dk_172 (dk_at dksX1_isTerm_1 8 rfl rfl)
abbrev cX1_finds : ByteArray := prog_24_method_47_code
def yX1_finds : MethodName := ⟨RX1, "finds", "(IIJ)Z"⟩
def dkwX1_finds_6 : List UInt8 := [132, 9, 1, 167, 255, 149, 4, 172]
abbrev dktX1_finds_6 : List UInt8 := dkwX1_finds_6 ++ []
def dkwX1_finds_5 : List UInt8 := [180, 0, 57, 21, 9, 21, 10, 79, 22, 7, 42, 27, 21, 9, 21, 10, 133, 182, 0, 234, 101, 55, 7]
abbrev dktX1_finds_5 : List UInt8 := dkwX1_finds_5 ++ dktX1_finds_6
def dkwX1_finds_4 : List UInt8 := [27, 21, 9, 21, 10, 133, 182, 0, 234, 101, 182, 1, 6, 101, 55, 5, 132, 10, 1, 167, 255, 200, 42]
abbrev dktX1_finds_4 : List UInt8 := dkwX1_finds_4 ++ dktX1_finds_5
def dkwX1_finds_3 : List UInt8 := [21, 10, 133, 182, 0, 234, 101, 182, 1, 6, 148, 155, 0, 35, 22, 5, 42, 21, 9, 4, 96, 22, 7, 42]
abbrev dktX1_finds_3 : List UInt8 := dkwX1_finds_3 ++ dktX1_finds_4
def dkwX1_finds_2 : List UInt8 := [42, 27, 21, 9, 5, 182, 0, 93, 54, 10, 22, 5, 42, 21, 9, 4, 96, 22, 7, 42, 27, 21, 9]
abbrev dktX1_finds_2 : List UInt8 := dkwX1_finds_2 ++ dktX1_finds_3
def dkwX1_finds_1 : List UInt8 := [55, 5, 28, 17, 58, 152, 96, 133, 55, 7, 3, 54, 9, 21, 9, 42, 180, 0, 9, 27, 46, 162, 0, 102]
abbrev dktX1_finds_1 : List UInt8 := dkwX1_finds_1 ++ dktX1_finds_2
def dkwX1_finds_0 : List UInt8 := [42, 27, 182, 1, 26, 33, 9, 42, 28, 182, 1, 29, 10, 101, 184, 0, 105, 154, 0, 5, 3, 172, 33]
abbrev dktX1_finds_0 : List UInt8 := dkwX1_finds_0 ++ dktX1_finds_1
theorem dksX1_finds_0 : cX1_finds.data.toList.drop 0 = dktX1_finds_0 := by decide +kernel
theorem dksX1_finds_1 : cX1_finds.data.toList.drop 23 = dktX1_finds_1 := dk_seg dksX1_finds_0 23 rfl rfl
theorem dksX1_finds_2 : cX1_finds.data.toList.drop 47 = dktX1_finds_2 := dk_seg dksX1_finds_1 24 rfl rfl
theorem dksX1_finds_3 : cX1_finds.data.toList.drop 70 = dktX1_finds_3 := dk_seg dksX1_finds_2 23 rfl rfl
theorem dksX1_finds_4 : cX1_finds.data.toList.drop 94 = dktX1_finds_4 := dk_seg dksX1_finds_3 24 rfl rfl
theorem dksX1_finds_5 : cX1_finds.data.toList.drop 117 = dktX1_finds_5 := dk_seg dksX1_finds_4 23 rfl rfl
theorem dksX1_finds_6 : cX1_finds.data.toList.drop 140 = dktX1_finds_6 := dk_seg dksX1_finds_5 23 rfl rfl
theorem dX1_finds_0 : decode cX1_finds 0 = .ok (.aload_n 0, 1) := dk_42 (dk_at dksX1_finds_0 0 rfl rfl)
theorem dX1_finds_1 : decode cX1_finds 1 = .ok (.iload_n 1, 1) := dk_27 (dk_at dksX1_finds_0 1 rfl rfl)
theorem dX1_finds_2 : decode cX1_finds 2 = .ok (.invokevirtual 282, 3) := dk_182 1 26 (dk_at dksX1_finds_0 2 rfl rfl)
theorem dX1_finds_5 : decode cX1_finds 5 = .ok (.lload_n 3, 1) := dk_33 (dk_at dksX1_finds_0 5 rfl rfl)
theorem dX1_finds_6 : decode cX1_finds 6 = .ok (.lconst 0, 1) := dk_9 (dk_at dksX1_finds_0 6 rfl rfl)
theorem dX1_finds_7 : decode cX1_finds 7 = .ok (.aload_n 0, 1) := dk_42 (dk_at dksX1_finds_0 7 rfl rfl)
theorem dX1_finds_8 : decode cX1_finds 8 = .ok (.iload_n 2, 1) := dk_28 (dk_at dksX1_finds_0 8 rfl rfl)
theorem dX1_finds_9 : decode cX1_finds 9 = .ok (.invokevirtual 285, 3) := dk_182 1 29 (dk_at dksX1_finds_0 9 rfl rfl)
theorem dX1_finds_12 : decode cX1_finds 12 = .ok (.lconst 1, 1) := dk_10 (dk_at dksX1_finds_0 12 rfl rfl)
theorem dX1_finds_13 : decode cX1_finds 13 = .ok (.lsub, 1) := dk_101 (dk_at dksX1_finds_0 13 rfl rfl)
theorem dX1_finds_14 : decode cX1_finds 14 = .ok (.invokestatic 105, 3) := dk_184 0 105 (dk_at dksX1_finds_0 14 rfl rfl)
theorem dX1_finds_17 : decode cX1_finds 17 = .ok (.ifCond .ne 5, 3) := dk_154 0 5 (dk_at dksX1_finds_0 17 rfl rfl)
theorem dX1_finds_20 : decode cX1_finds 20 = .ok (.iconst 0, 1) := dk_3 (dk_at dksX1_finds_0 20 rfl rfl)
theorem dX1_finds_21 : decode cX1_finds 21 = .ok (.ireturn, 1) := dk_172 (dk_at dksX1_finds_0 21 rfl rfl)
theorem dX1_finds_22 : decode cX1_finds 22 = .ok (.lload_n 3, 1) := dk_33 (dk_at dksX1_finds_0 22 rfl rfl)
theorem dX1_finds_23 : decode cX1_finds 23 = .ok (.lstore 5, 2) := dk_55 5 (dk_at dksX1_finds_1 0 rfl rfl)
theorem dX1_finds_25 : decode cX1_finds 25 = .ok (.iload_n 2, 1) := dk_28 (dk_at dksX1_finds_1 2 rfl rfl)
theorem dX1_finds_26 : decode cX1_finds 26 = .ok (.sipush 15000, 3) := dk_17 58 152 (dk_at dksX1_finds_1 3 rfl rfl)
theorem dX1_finds_29 : decode cX1_finds 29 = .ok (.iadd, 1) := dk_96 (dk_at dksX1_finds_1 6 rfl rfl)
theorem dX1_finds_30 : decode cX1_finds 30 = .ok (.i2l, 1) := dk_133 (dk_at dksX1_finds_1 7 rfl rfl)
theorem dX1_finds_31 : decode cX1_finds 31 = .ok (.lstore 7, 2) := dk_55 7 (dk_at dksX1_finds_1 8 rfl rfl)
theorem dX1_finds_33 : decode cX1_finds 33 = .ok (.iconst 0, 1) := dk_3 (dk_at dksX1_finds_1 10 rfl rfl)
theorem dX1_finds_34 : decode cX1_finds 34 = .ok (.istore 9, 2) := dk_54 9 (dk_at dksX1_finds_1 11 rfl rfl)
theorem dX1_finds_36 : decode cX1_finds 36 = .ok (.iload 9, 2) := dk_21 9 (dk_at dksX1_finds_1 13 rfl rfl)
theorem dX1_finds_38 : decode cX1_finds 38 = .ok (.aload_n 0, 1) := dk_42 (dk_at dksX1_finds_1 15 rfl rfl)
theorem dX1_finds_39 : decode cX1_finds 39 = .ok (.getfield 9, 3) := dk_180 0 9 (dk_at dksX1_finds_1 16 rfl rfl)
theorem dX1_finds_42 : decode cX1_finds 42 = .ok (.iload_n 1, 1) := dk_27 (dk_at dksX1_finds_1 19 rfl rfl)
theorem dX1_finds_43 : decode cX1_finds 43 = .ok (.iaload, 1) := dk_46 (dk_at dksX1_finds_1 20 rfl rfl)
theorem dX1_finds_44 : decode cX1_finds 44 = .ok (.if_icmp .ge 102, 3) := dk_162 0 102 (dk_at dksX1_finds_1 21 rfl rfl)
theorem dX1_finds_47 : decode cX1_finds 47 = .ok (.aload_n 0, 1) := dk_42 (dk_at dksX1_finds_2 0 rfl rfl)
theorem dX1_finds_48 : decode cX1_finds 48 = .ok (.iload_n 1, 1) := dk_27 (dk_at dksX1_finds_2 1 rfl rfl)
theorem dX1_finds_49 : decode cX1_finds 49 = .ok (.iload 9, 2) := dk_21 9 (dk_at dksX1_finds_2 2 rfl rfl)
theorem dX1_finds_51 : decode cX1_finds 51 = .ok (.iconst 2, 1) := dk_5 (dk_at dksX1_finds_2 4 rfl rfl)
theorem dX1_finds_52 : decode cX1_finds 52 = .ok (.invokevirtual 93, 3) := dk_182 0 93 (dk_at dksX1_finds_2 5 rfl rfl)
theorem dX1_finds_55 : decode cX1_finds 55 = .ok (.istore 10, 2) := dk_54 10 (dk_at dksX1_finds_2 8 rfl rfl)
theorem dX1_finds_57 : decode cX1_finds 57 = .ok (.lload 5, 2) := dk_22 5 (dk_at dksX1_finds_2 10 rfl rfl)
theorem dX1_finds_59 : decode cX1_finds 59 = .ok (.aload_n 0, 1) := dk_42 (dk_at dksX1_finds_2 12 rfl rfl)
theorem dX1_finds_60 : decode cX1_finds 60 = .ok (.iload 9, 2) := dk_21 9 (dk_at dksX1_finds_2 13 rfl rfl)
theorem dX1_finds_62 : decode cX1_finds 62 = .ok (.iconst 1, 1) := dk_4 (dk_at dksX1_finds_2 15 rfl rfl)
theorem dX1_finds_63 : decode cX1_finds 63 = .ok (.iadd, 1) := dk_96 (dk_at dksX1_finds_2 16 rfl rfl)
theorem dX1_finds_64 : decode cX1_finds 64 = .ok (.lload 7, 2) := dk_22 7 (dk_at dksX1_finds_2 17 rfl rfl)
theorem dX1_finds_66 : decode cX1_finds 66 = .ok (.aload_n 0, 1) := dk_42 (dk_at dksX1_finds_2 19 rfl rfl)
theorem dX1_finds_67 : decode cX1_finds 67 = .ok (.iload_n 1, 1) := dk_27 (dk_at dksX1_finds_2 20 rfl rfl)
theorem dX1_finds_68 : decode cX1_finds 68 = .ok (.iload 9, 2) := dk_21 9 (dk_at dksX1_finds_2 21 rfl rfl)
theorem dX1_finds_70 : decode cX1_finds 70 = .ok (.iload 10, 2) := dk_21 10 (dk_at dksX1_finds_3 0 rfl rfl)
theorem dX1_finds_72 : decode cX1_finds 72 = .ok (.i2l, 1) := dk_133 (dk_at dksX1_finds_3 2 rfl rfl)
theorem dX1_finds_73 : decode cX1_finds 73 = .ok (.invokevirtual 234, 3) := dk_182 0 234 (dk_at dksX1_finds_3 3 rfl rfl)
theorem dX1_finds_76 : decode cX1_finds 76 = .ok (.lsub, 1) := dk_101 (dk_at dksX1_finds_3 6 rfl rfl)
theorem dX1_finds_77 : decode cX1_finds 77 = .ok (.invokevirtual 262, 3) := dk_182 1 6 (dk_at dksX1_finds_3 7 rfl rfl)
theorem dX1_finds_80 : decode cX1_finds 80 = .ok (.lcmp, 1) := dk_148 (dk_at dksX1_finds_3 10 rfl rfl)
theorem dX1_finds_81 : decode cX1_finds 81 = .ok (.ifCond .lt 35, 3) := dk_155 0 35 (dk_at dksX1_finds_3 11 rfl rfl)
theorem dX1_finds_84 : decode cX1_finds 84 = .ok (.lload 5, 2) := dk_22 5 (dk_at dksX1_finds_3 14 rfl rfl)
theorem dX1_finds_86 : decode cX1_finds 86 = .ok (.aload_n 0, 1) := dk_42 (dk_at dksX1_finds_3 16 rfl rfl)
theorem dX1_finds_87 : decode cX1_finds 87 = .ok (.iload 9, 2) := dk_21 9 (dk_at dksX1_finds_3 17 rfl rfl)
theorem dX1_finds_89 : decode cX1_finds 89 = .ok (.iconst 1, 1) := dk_4 (dk_at dksX1_finds_3 19 rfl rfl)
theorem dX1_finds_90 : decode cX1_finds 90 = .ok (.iadd, 1) := dk_96 (dk_at dksX1_finds_3 20 rfl rfl)
theorem dX1_finds_91 : decode cX1_finds 91 = .ok (.lload 7, 2) := dk_22 7 (dk_at dksX1_finds_3 21 rfl rfl)
theorem dX1_finds_93 : decode cX1_finds 93 = .ok (.aload_n 0, 1) := dk_42 (dk_at dksX1_finds_3 23 rfl rfl)
theorem dX1_finds_94 : decode cX1_finds 94 = .ok (.iload_n 1, 1) := dk_27 (dk_at dksX1_finds_4 0 rfl rfl)
theorem dX1_finds_95 : decode cX1_finds 95 = .ok (.iload 9, 2) := dk_21 9 (dk_at dksX1_finds_4 1 rfl rfl)
theorem dX1_finds_97 : decode cX1_finds 97 = .ok (.iload 10, 2) := dk_21 10 (dk_at dksX1_finds_4 3 rfl rfl)
theorem dX1_finds_99 : decode cX1_finds 99 = .ok (.i2l, 1) := dk_133 (dk_at dksX1_finds_4 5 rfl rfl)
theorem dX1_finds_100 : decode cX1_finds 100 = .ok (.invokevirtual 234, 3) := dk_182 0 234 (dk_at dksX1_finds_4 6 rfl rfl)
theorem dX1_finds_103 : decode cX1_finds 103 = .ok (.lsub, 1) := dk_101 (dk_at dksX1_finds_4 9 rfl rfl)
theorem dX1_finds_104 : decode cX1_finds 104 = .ok (.invokevirtual 262, 3) := dk_182 1 6 (dk_at dksX1_finds_4 10 rfl rfl)
theorem dX1_finds_107 : decode cX1_finds 107 = .ok (.lsub, 1) := dk_101 (dk_at dksX1_finds_4 13 rfl rfl)
theorem dX1_finds_108 : decode cX1_finds 108 = .ok (.lstore 5, 2) := dk_55 5 (dk_at dksX1_finds_4 14 rfl rfl)
theorem dX1_finds_110 : decode cX1_finds 110 = .ok (.iinc 10 1, 3) := dk_132 10 1 (dk_at dksX1_finds_4 16 rfl rfl)
theorem dX1_finds_113 : decode cX1_finds 113 = .ok (.goto (-56), 3) := dk_167 255 200 (dk_at dksX1_finds_4 19 rfl rfl)
theorem dX1_finds_116 : decode cX1_finds 116 = .ok (.aload_n 0, 1) := dk_42 (dk_at dksX1_finds_4 22 rfl rfl)
theorem dX1_finds_117 : decode cX1_finds 117 = .ok (.getfield 57, 3) := dk_180 0 57 (dk_at dksX1_finds_5 0 rfl rfl)
theorem dX1_finds_120 : decode cX1_finds 120 = .ok (.iload 9, 2) := dk_21 9 (dk_at dksX1_finds_5 3 rfl rfl)
theorem dX1_finds_122 : decode cX1_finds 122 = .ok (.iload 10, 2) := dk_21 10 (dk_at dksX1_finds_5 5 rfl rfl)
theorem dX1_finds_124 : decode cX1_finds 124 = .ok (.iastore, 1) := dk_79 (dk_at dksX1_finds_5 7 rfl rfl)
theorem dX1_finds_125 : decode cX1_finds 125 = .ok (.lload 7, 2) := dk_22 7 (dk_at dksX1_finds_5 8 rfl rfl)
theorem dX1_finds_127 : decode cX1_finds 127 = .ok (.aload_n 0, 1) := dk_42 (dk_at dksX1_finds_5 10 rfl rfl)
theorem dX1_finds_128 : decode cX1_finds 128 = .ok (.iload_n 1, 1) := dk_27 (dk_at dksX1_finds_5 11 rfl rfl)
theorem dX1_finds_129 : decode cX1_finds 129 = .ok (.iload 9, 2) := dk_21 9 (dk_at dksX1_finds_5 12 rfl rfl)
theorem dX1_finds_131 : decode cX1_finds 131 = .ok (.iload 10, 2) := dk_21 10 (dk_at dksX1_finds_5 14 rfl rfl)
theorem dX1_finds_133 : decode cX1_finds 133 = .ok (.i2l, 1) := dk_133 (dk_at dksX1_finds_5 16 rfl rfl)
theorem dX1_finds_134 : decode cX1_finds 134 = .ok (.invokevirtual 234, 3) := dk_182 0 234 (dk_at dksX1_finds_5 17 rfl rfl)
theorem dX1_finds_137 : decode cX1_finds 137 = .ok (.lsub, 1) := dk_101 (dk_at dksX1_finds_5 20 rfl rfl)
theorem dX1_finds_138 : decode cX1_finds 138 = .ok (.lstore 7, 2) := dk_55 7 (dk_at dksX1_finds_5 21 rfl rfl)
theorem dX1_finds_140 : decode cX1_finds 140 = .ok (.iinc 9 1, 3) := dk_132 9 1 (dk_at dksX1_finds_6 0 rfl rfl)
theorem dX1_finds_143 : decode cX1_finds 143 = .ok (.goto (-107), 3) := dk_167 255 149 (dk_at dksX1_finds_6 3 rfl rfl)
theorem dX1_finds_146 : decode cX1_finds 146 = .ok (.iconst 1, 1) := dk_4 (dk_at dksX1_finds_6 6 rfl rfl)
theorem dX1_finds_147 : decode cX1_finds 147 = .ok (.ireturn, 1) := dk_172 (dk_at dksX1_finds_6 7 rfl rfl)
abbrev cX1_number : ByteArray := prog_24_method_49_code
def yX1_number : MethodName := ⟨RX1, "number", "(IIIIIII)J"⟩
def dkwX1_number_9 : List UInt8 := [148, 154, 0, 8, 22, 8, 167, 0, 6, 20, 1, 24, 173]
abbrev dktX1_number_9 : List UInt8 := dkwX1_number_9 ++ []
def dkwX1_number_8 : List UInt8 := [180, 0, 57, 21, 12, 46, 133, 182, 0, 234, 101, 55, 10, 132, 12, 1, 167, 255, 132, 22, 10, 20, 1, 66]
abbrev dktX1_number_8 : List UInt8 := dkwX1_number_8 ++ dktX1_number_9
def dkwX1_number_7 : List UInt8 := [182, 0, 234, 101, 182, 1, 6, 97, 55, 8, 132, 13, 1, 167, 255, 215, 22, 10, 42, 27, 21, 12, 42]
abbrev dktX1_number_7 : List UInt8 := dkwX1_number_7 ++ dktX1_number_8
def dkwX1_number_6 : List UInt8 := [21, 12, 46, 162, 0, 35, 22, 8, 42, 21, 12, 4, 96, 22, 10, 42, 27, 21, 12, 21, 13, 133]
abbrev dktX1_number_6 : List UInt8 := dkwX1_number_6 ++ dktX1_number_7
def dkwX1_number_5 : List UInt8 := [154, 0, 7, 20, 1, 24, 173, 42, 27, 21, 12, 5, 182, 0, 93, 54, 13, 21, 13, 42, 180, 0, 57]
abbrev dktX1_number_5 : List UInt8 := dkwX1_number_5 ++ dktX1_number_6
def dkwX1_number_4 : List UInt8 := [133, 42, 27, 21, 12, 5, 182, 0, 93, 133, 42, 27, 21, 12, 6, 182, 0, 93, 133, 184, 0, 105]
abbrev dktX1_number_4 : List UInt8 := dkwX1_number_4 ++ dktX1_number_5
def dkwX1_number_3 : List UInt8 := [133, 55, 10, 3, 54, 12, 21, 12, 42, 180, 0, 9, 27, 46, 162, 0, 119, 42, 180, 0, 57, 21, 12, 46]
abbrev dktX1_number_3 : List UInt8 := dkwX1_number_3 ++ dktX1_number_4
def dkwX1_number_2 : List UInt8 := [21, 6, 79, 42, 180, 0, 57, 7, 21, 7, 79, 42, 27, 182, 1, 26, 9, 55, 8, 28, 17, 58, 152, 96]
abbrev dktX1_number_2 : List UInt8 := dkwX1_number_2 ++ dktX1_number_3
def dkwX1_number_1 : List UInt8 := [29, 79, 42, 180, 0, 57, 4, 21, 4, 79, 42, 180, 0, 57, 5, 21, 5, 79, 42, 180, 0, 57, 6]
abbrev dktX1_number_1 : List UInt8 := dkwX1_number_1 ++ dktX1_number_2
def dkwX1_number_0 : List UInt8 := [42, 27, 182, 1, 18, 153, 0, 10, 28, 184, 1, 21, 154, 0, 7, 20, 1, 24, 173, 42, 180, 0, 57, 3]
abbrev dktX1_number_0 : List UInt8 := dkwX1_number_0 ++ dktX1_number_1
theorem dksX1_number_0 : cX1_number.data.toList.drop 0 = dktX1_number_0 := by decide +kernel
theorem dksX1_number_1 : cX1_number.data.toList.drop 24 = dktX1_number_1 := dk_seg dksX1_number_0 24 rfl rfl
theorem dksX1_number_2 : cX1_number.data.toList.drop 47 = dktX1_number_2 := dk_seg dksX1_number_1 23 rfl rfl
theorem dksX1_number_3 : cX1_number.data.toList.drop 71 = dktX1_number_3 := dk_seg dksX1_number_2 24 rfl rfl
theorem dksX1_number_4 : cX1_number.data.toList.drop 95 = dktX1_number_4 := dk_seg dksX1_number_3 24 rfl rfl
theorem dksX1_number_5 : cX1_number.data.toList.drop 117 = dktX1_number_5 := dk_seg dksX1_number_4 22 rfl rfl
theorem dksX1_number_6 : cX1_number.data.toList.drop 140 = dktX1_number_6 := dk_seg dksX1_number_5 23 rfl rfl
theorem dksX1_number_7 : cX1_number.data.toList.drop 162 = dktX1_number_7 := dk_seg dksX1_number_6 22 rfl rfl
theorem dksX1_number_8 : cX1_number.data.toList.drop 185 = dktX1_number_8 := dk_seg dksX1_number_7 23 rfl rfl
theorem dksX1_number_9 : cX1_number.data.toList.drop 209 = dktX1_number_9 := dk_seg dksX1_number_8 24 rfl rfl
theorem dX1_number_0 : decode cX1_number 0 = .ok (.aload_n 0, 1) := dk_42 (dk_at dksX1_number_0 0 rfl rfl)
theorem dX1_number_1 : decode cX1_number 1 = .ok (.iload_n 1, 1) := dk_27 (dk_at dksX1_number_0 1 rfl rfl)
theorem dX1_number_2 : decode cX1_number 2 = .ok (.invokevirtual 274, 3) := dk_182 1 18 (dk_at dksX1_number_0 2 rfl rfl)
theorem dX1_number_5 : decode cX1_number 5 = .ok (.ifCond .eq 10, 3) := dk_153 0 10 (dk_at dksX1_number_0 5 rfl rfl)
theorem dX1_number_8 : decode cX1_number 8 = .ok (.iload_n 2, 1) := dk_28 (dk_at dksX1_number_0 8 rfl rfl)
theorem dX1_number_9 : decode cX1_number 9 = .ok (.invokestatic 277, 3) := dk_184 1 21 (dk_at dksX1_number_0 9 rfl rfl)
theorem dX1_number_12 : decode cX1_number 12 = .ok (.ifCond .ne 7, 3) := dk_154 0 7 (dk_at dksX1_number_0 12 rfl rfl)
theorem dX1_number_15 : decode cX1_number 15 = .ok (.ldc2_w 280, 3) := dk_20 1 24 (dk_at dksX1_number_0 15 rfl rfl)
theorem dX1_number_18 : decode cX1_number 18 = .ok (.lreturn, 1) := dk_173 (dk_at dksX1_number_0 18 rfl rfl)
theorem dX1_number_19 : decode cX1_number 19 = .ok (.aload_n 0, 1) := dk_42 (dk_at dksX1_number_0 19 rfl rfl)
theorem dX1_number_20 : decode cX1_number 20 = .ok (.getfield 57, 3) := dk_180 0 57 (dk_at dksX1_number_0 20 rfl rfl)
theorem dX1_number_23 : decode cX1_number 23 = .ok (.iconst 0, 1) := dk_3 (dk_at dksX1_number_0 23 rfl rfl)
theorem dX1_number_24 : decode cX1_number 24 = .ok (.iload_n 3, 1) := dk_29 (dk_at dksX1_number_1 0 rfl rfl)
theorem dX1_number_25 : decode cX1_number 25 = .ok (.iastore, 1) := dk_79 (dk_at dksX1_number_1 1 rfl rfl)
theorem dX1_number_26 : decode cX1_number 26 = .ok (.aload_n 0, 1) := dk_42 (dk_at dksX1_number_1 2 rfl rfl)
theorem dX1_number_27 : decode cX1_number 27 = .ok (.getfield 57, 3) := dk_180 0 57 (dk_at dksX1_number_1 3 rfl rfl)
theorem dX1_number_30 : decode cX1_number 30 = .ok (.iconst 1, 1) := dk_4 (dk_at dksX1_number_1 6 rfl rfl)
theorem dX1_number_31 : decode cX1_number 31 = .ok (.iload 4, 2) := dk_21 4 (dk_at dksX1_number_1 7 rfl rfl)
theorem dX1_number_33 : decode cX1_number 33 = .ok (.iastore, 1) := dk_79 (dk_at dksX1_number_1 9 rfl rfl)
theorem dX1_number_34 : decode cX1_number 34 = .ok (.aload_n 0, 1) := dk_42 (dk_at dksX1_number_1 10 rfl rfl)
theorem dX1_number_35 : decode cX1_number 35 = .ok (.getfield 57, 3) := dk_180 0 57 (dk_at dksX1_number_1 11 rfl rfl)
theorem dX1_number_38 : decode cX1_number 38 = .ok (.iconst 2, 1) := dk_5 (dk_at dksX1_number_1 14 rfl rfl)
theorem dX1_number_39 : decode cX1_number 39 = .ok (.iload 5, 2) := dk_21 5 (dk_at dksX1_number_1 15 rfl rfl)
theorem dX1_number_41 : decode cX1_number 41 = .ok (.iastore, 1) := dk_79 (dk_at dksX1_number_1 17 rfl rfl)
theorem dX1_number_42 : decode cX1_number 42 = .ok (.aload_n 0, 1) := dk_42 (dk_at dksX1_number_1 18 rfl rfl)
theorem dX1_number_43 : decode cX1_number 43 = .ok (.getfield 57, 3) := dk_180 0 57 (dk_at dksX1_number_1 19 rfl rfl)
theorem dX1_number_46 : decode cX1_number 46 = .ok (.iconst 3, 1) := dk_6 (dk_at dksX1_number_1 22 rfl rfl)
theorem dX1_number_47 : decode cX1_number 47 = .ok (.iload 6, 2) := dk_21 6 (dk_at dksX1_number_2 0 rfl rfl)
theorem dX1_number_49 : decode cX1_number 49 = .ok (.iastore, 1) := dk_79 (dk_at dksX1_number_2 2 rfl rfl)
theorem dX1_number_50 : decode cX1_number 50 = .ok (.aload_n 0, 1) := dk_42 (dk_at dksX1_number_2 3 rfl rfl)
theorem dX1_number_51 : decode cX1_number 51 = .ok (.getfield 57, 3) := dk_180 0 57 (dk_at dksX1_number_2 4 rfl rfl)
theorem dX1_number_54 : decode cX1_number 54 = .ok (.iconst 4, 1) := dk_7 (dk_at dksX1_number_2 7 rfl rfl)
theorem dX1_number_55 : decode cX1_number 55 = .ok (.iload 7, 2) := dk_21 7 (dk_at dksX1_number_2 8 rfl rfl)
theorem dX1_number_57 : decode cX1_number 57 = .ok (.iastore, 1) := dk_79 (dk_at dksX1_number_2 10 rfl rfl)
theorem dX1_number_58 : decode cX1_number 58 = .ok (.aload_n 0, 1) := dk_42 (dk_at dksX1_number_2 11 rfl rfl)
theorem dX1_number_59 : decode cX1_number 59 = .ok (.iload_n 1, 1) := dk_27 (dk_at dksX1_number_2 12 rfl rfl)
theorem dX1_number_60 : decode cX1_number 60 = .ok (.invokevirtual 282, 3) := dk_182 1 26 (dk_at dksX1_number_2 13 rfl rfl)
theorem dX1_number_63 : decode cX1_number 63 = .ok (.lconst 0, 1) := dk_9 (dk_at dksX1_number_2 16 rfl rfl)
theorem dX1_number_64 : decode cX1_number 64 = .ok (.lstore 8, 2) := dk_55 8 (dk_at dksX1_number_2 17 rfl rfl)
theorem dX1_number_66 : decode cX1_number 66 = .ok (.iload_n 2, 1) := dk_28 (dk_at dksX1_number_2 19 rfl rfl)
theorem dX1_number_67 : decode cX1_number 67 = .ok (.sipush 15000, 3) := dk_17 58 152 (dk_at dksX1_number_2 20 rfl rfl)
theorem dX1_number_70 : decode cX1_number 70 = .ok (.iadd, 1) := dk_96 (dk_at dksX1_number_2 23 rfl rfl)
theorem dX1_number_71 : decode cX1_number 71 = .ok (.i2l, 1) := dk_133 (dk_at dksX1_number_3 0 rfl rfl)
theorem dX1_number_72 : decode cX1_number 72 = .ok (.lstore 10, 2) := dk_55 10 (dk_at dksX1_number_3 1 rfl rfl)
theorem dX1_number_74 : decode cX1_number 74 = .ok (.iconst 0, 1) := dk_3 (dk_at dksX1_number_3 3 rfl rfl)
theorem dX1_number_75 : decode cX1_number 75 = .ok (.istore 12, 2) := dk_54 12 (dk_at dksX1_number_3 4 rfl rfl)
theorem dX1_number_77 : decode cX1_number 77 = .ok (.iload 12, 2) := dk_21 12 (dk_at dksX1_number_3 6 rfl rfl)
theorem dX1_number_79 : decode cX1_number 79 = .ok (.aload_n 0, 1) := dk_42 (dk_at dksX1_number_3 8 rfl rfl)
theorem dX1_number_80 : decode cX1_number 80 = .ok (.getfield 9, 3) := dk_180 0 9 (dk_at dksX1_number_3 9 rfl rfl)
theorem dX1_number_83 : decode cX1_number 83 = .ok (.iload_n 1, 1) := dk_27 (dk_at dksX1_number_3 12 rfl rfl)
theorem dX1_number_84 : decode cX1_number 84 = .ok (.iaload, 1) := dk_46 (dk_at dksX1_number_3 13 rfl rfl)
theorem dX1_number_85 : decode cX1_number 85 = .ok (.if_icmp .ge 119, 3) := dk_162 0 119 (dk_at dksX1_number_3 14 rfl rfl)
theorem dX1_number_88 : decode cX1_number 88 = .ok (.aload_n 0, 1) := dk_42 (dk_at dksX1_number_3 17 rfl rfl)
theorem dX1_number_89 : decode cX1_number 89 = .ok (.getfield 57, 3) := dk_180 0 57 (dk_at dksX1_number_3 18 rfl rfl)
theorem dX1_number_92 : decode cX1_number 92 = .ok (.iload 12, 2) := dk_21 12 (dk_at dksX1_number_3 21 rfl rfl)
theorem dX1_number_94 : decode cX1_number 94 = .ok (.iaload, 1) := dk_46 (dk_at dksX1_number_3 23 rfl rfl)
theorem dX1_number_95 : decode cX1_number 95 = .ok (.i2l, 1) := dk_133 (dk_at dksX1_number_4 0 rfl rfl)
theorem dX1_number_96 : decode cX1_number 96 = .ok (.aload_n 0, 1) := dk_42 (dk_at dksX1_number_4 1 rfl rfl)
theorem dX1_number_97 : decode cX1_number 97 = .ok (.iload_n 1, 1) := dk_27 (dk_at dksX1_number_4 2 rfl rfl)
theorem dX1_number_98 : decode cX1_number 98 = .ok (.iload 12, 2) := dk_21 12 (dk_at dksX1_number_4 3 rfl rfl)
theorem dX1_number_100 : decode cX1_number 100 = .ok (.iconst 2, 1) := dk_5 (dk_at dksX1_number_4 5 rfl rfl)
theorem dX1_number_101 : decode cX1_number 101 = .ok (.invokevirtual 93, 3) := dk_182 0 93 (dk_at dksX1_number_4 6 rfl rfl)
theorem dX1_number_104 : decode cX1_number 104 = .ok (.i2l, 1) := dk_133 (dk_at dksX1_number_4 9 rfl rfl)
theorem dX1_number_105 : decode cX1_number 105 = .ok (.aload_n 0, 1) := dk_42 (dk_at dksX1_number_4 10 rfl rfl)
theorem dX1_number_106 : decode cX1_number 106 = .ok (.iload_n 1, 1) := dk_27 (dk_at dksX1_number_4 11 rfl rfl)
theorem dX1_number_107 : decode cX1_number 107 = .ok (.iload 12, 2) := dk_21 12 (dk_at dksX1_number_4 12 rfl rfl)
theorem dX1_number_109 : decode cX1_number 109 = .ok (.iconst 3, 1) := dk_6 (dk_at dksX1_number_4 14 rfl rfl)
theorem dX1_number_110 : decode cX1_number 110 = .ok (.invokevirtual 93, 3) := dk_182 0 93 (dk_at dksX1_number_4 15 rfl rfl)
theorem dX1_number_113 : decode cX1_number 113 = .ok (.i2l, 1) := dk_133 (dk_at dksX1_number_4 18 rfl rfl)
theorem dX1_number_114 : decode cX1_number 114 = .ok (.invokestatic 105, 3) := dk_184 0 105 (dk_at dksX1_number_4 19 rfl rfl)
theorem dX1_number_117 : decode cX1_number 117 = .ok (.ifCond .ne 7, 3) := dk_154 0 7 (dk_at dksX1_number_5 0 rfl rfl)
theorem dX1_number_120 : decode cX1_number 120 = .ok (.ldc2_w 280, 3) := dk_20 1 24 (dk_at dksX1_number_5 3 rfl rfl)
theorem dX1_number_123 : decode cX1_number 123 = .ok (.lreturn, 1) := dk_173 (dk_at dksX1_number_5 6 rfl rfl)
theorem dX1_number_124 : decode cX1_number 124 = .ok (.aload_n 0, 1) := dk_42 (dk_at dksX1_number_5 7 rfl rfl)
theorem dX1_number_125 : decode cX1_number 125 = .ok (.iload_n 1, 1) := dk_27 (dk_at dksX1_number_5 8 rfl rfl)
theorem dX1_number_126 : decode cX1_number 126 = .ok (.iload 12, 2) := dk_21 12 (dk_at dksX1_number_5 9 rfl rfl)
theorem dX1_number_128 : decode cX1_number 128 = .ok (.iconst 2, 1) := dk_5 (dk_at dksX1_number_5 11 rfl rfl)
theorem dX1_number_129 : decode cX1_number 129 = .ok (.invokevirtual 93, 3) := dk_182 0 93 (dk_at dksX1_number_5 12 rfl rfl)
theorem dX1_number_132 : decode cX1_number 132 = .ok (.istore 13, 2) := dk_54 13 (dk_at dksX1_number_5 15 rfl rfl)
theorem dX1_number_134 : decode cX1_number 134 = .ok (.iload 13, 2) := dk_21 13 (dk_at dksX1_number_5 17 rfl rfl)
theorem dX1_number_136 : decode cX1_number 136 = .ok (.aload_n 0, 1) := dk_42 (dk_at dksX1_number_5 19 rfl rfl)
theorem dX1_number_137 : decode cX1_number 137 = .ok (.getfield 57, 3) := dk_180 0 57 (dk_at dksX1_number_5 20 rfl rfl)
theorem dX1_number_140 : decode cX1_number 140 = .ok (.iload 12, 2) := dk_21 12 (dk_at dksX1_number_6 0 rfl rfl)
theorem dX1_number_142 : decode cX1_number 142 = .ok (.iaload, 1) := dk_46 (dk_at dksX1_number_6 2 rfl rfl)
theorem dX1_number_143 : decode cX1_number 143 = .ok (.if_icmp .ge 35, 3) := dk_162 0 35 (dk_at dksX1_number_6 3 rfl rfl)
theorem dX1_number_146 : decode cX1_number 146 = .ok (.lload 8, 2) := dk_22 8 (dk_at dksX1_number_6 6 rfl rfl)
theorem dX1_number_148 : decode cX1_number 148 = .ok (.aload_n 0, 1) := dk_42 (dk_at dksX1_number_6 8 rfl rfl)
theorem dX1_number_149 : decode cX1_number 149 = .ok (.iload 12, 2) := dk_21 12 (dk_at dksX1_number_6 9 rfl rfl)
theorem dX1_number_151 : decode cX1_number 151 = .ok (.iconst 1, 1) := dk_4 (dk_at dksX1_number_6 11 rfl rfl)
theorem dX1_number_152 : decode cX1_number 152 = .ok (.iadd, 1) := dk_96 (dk_at dksX1_number_6 12 rfl rfl)
theorem dX1_number_153 : decode cX1_number 153 = .ok (.lload 10, 2) := dk_22 10 (dk_at dksX1_number_6 13 rfl rfl)
theorem dX1_number_155 : decode cX1_number 155 = .ok (.aload_n 0, 1) := dk_42 (dk_at dksX1_number_6 15 rfl rfl)
theorem dX1_number_156 : decode cX1_number 156 = .ok (.iload_n 1, 1) := dk_27 (dk_at dksX1_number_6 16 rfl rfl)
theorem dX1_number_157 : decode cX1_number 157 = .ok (.iload 12, 2) := dk_21 12 (dk_at dksX1_number_6 17 rfl rfl)
theorem dX1_number_159 : decode cX1_number 159 = .ok (.iload 13, 2) := dk_21 13 (dk_at dksX1_number_6 19 rfl rfl)
theorem dX1_number_161 : decode cX1_number 161 = .ok (.i2l, 1) := dk_133 (dk_at dksX1_number_6 21 rfl rfl)
theorem dX1_number_162 : decode cX1_number 162 = .ok (.invokevirtual 234, 3) := dk_182 0 234 (dk_at dksX1_number_7 0 rfl rfl)
theorem dX1_number_165 : decode cX1_number 165 = .ok (.lsub, 1) := dk_101 (dk_at dksX1_number_7 3 rfl rfl)
theorem dX1_number_166 : decode cX1_number 166 = .ok (.invokevirtual 262, 3) := dk_182 1 6 (dk_at dksX1_number_7 4 rfl rfl)
theorem dX1_number_169 : decode cX1_number 169 = .ok (.ladd, 1) := dk_97 (dk_at dksX1_number_7 7 rfl rfl)
theorem dX1_number_170 : decode cX1_number 170 = .ok (.lstore 8, 2) := dk_55 8 (dk_at dksX1_number_7 8 rfl rfl)
theorem dX1_number_172 : decode cX1_number 172 = .ok (.iinc 13 1, 3) := dk_132 13 1 (dk_at dksX1_number_7 10 rfl rfl)
theorem dX1_number_175 : decode cX1_number 175 = .ok (.goto (-41), 3) := dk_167 255 215 (dk_at dksX1_number_7 13 rfl rfl)
theorem dX1_number_178 : decode cX1_number 178 = .ok (.lload 10, 2) := dk_22 10 (dk_at dksX1_number_7 16 rfl rfl)
theorem dX1_number_180 : decode cX1_number 180 = .ok (.aload_n 0, 1) := dk_42 (dk_at dksX1_number_7 18 rfl rfl)
theorem dX1_number_181 : decode cX1_number 181 = .ok (.iload_n 1, 1) := dk_27 (dk_at dksX1_number_7 19 rfl rfl)
theorem dX1_number_182 : decode cX1_number 182 = .ok (.iload 12, 2) := dk_21 12 (dk_at dksX1_number_7 20 rfl rfl)
theorem dX1_number_184 : decode cX1_number 184 = .ok (.aload_n 0, 1) := dk_42 (dk_at dksX1_number_7 22 rfl rfl)
theorem dX1_number_185 : decode cX1_number 185 = .ok (.getfield 57, 3) := dk_180 0 57 (dk_at dksX1_number_8 0 rfl rfl)
theorem dX1_number_188 : decode cX1_number 188 = .ok (.iload 12, 2) := dk_21 12 (dk_at dksX1_number_8 3 rfl rfl)
theorem dX1_number_190 : decode cX1_number 190 = .ok (.iaload, 1) := dk_46 (dk_at dksX1_number_8 5 rfl rfl)
theorem dX1_number_191 : decode cX1_number 191 = .ok (.i2l, 1) := dk_133 (dk_at dksX1_number_8 6 rfl rfl)
theorem dX1_number_192 : decode cX1_number 192 = .ok (.invokevirtual 234, 3) := dk_182 0 234 (dk_at dksX1_number_8 7 rfl rfl)
theorem dX1_number_195 : decode cX1_number 195 = .ok (.lsub, 1) := dk_101 (dk_at dksX1_number_8 10 rfl rfl)
theorem dX1_number_196 : decode cX1_number 196 = .ok (.lstore 10, 2) := dk_55 10 (dk_at dksX1_number_8 11 rfl rfl)
theorem dX1_number_198 : decode cX1_number 198 = .ok (.iinc 12 1, 3) := dk_132 12 1 (dk_at dksX1_number_8 13 rfl rfl)
theorem dX1_number_201 : decode cX1_number 201 = .ok (.goto (-124), 3) := dk_167 255 132 (dk_at dksX1_number_8 16 rfl rfl)
theorem dX1_number_204 : decode cX1_number 204 = .ok (.lload 10, 2) := dk_22 10 (dk_at dksX1_number_8 19 rfl rfl)
theorem dX1_number_206 : decode cX1_number 206 = .ok (.ldc2_w 322, 3) := dk_20 1 66 (dk_at dksX1_number_8 21 rfl rfl)
theorem dX1_number_209 : decode cX1_number 209 = .ok (.lcmp, 1) := dk_148 (dk_at dksX1_number_9 0 rfl rfl)
theorem dX1_number_210 : decode cX1_number 210 = .ok (.ifCond .ne 8, 3) := dk_154 0 8 (dk_at dksX1_number_9 1 rfl rfl)
theorem dX1_number_213 : decode cX1_number 213 = .ok (.lload 8, 2) := dk_22 8 (dk_at dksX1_number_9 4 rfl rfl)
theorem dX1_number_215 : decode cX1_number 215 = .ok (.goto 6, 3) := dk_167 0 6 (dk_at dksX1_number_9 6 rfl rfl)
theorem dX1_number_218 : decode cX1_number 218 = .ok (.ldc2_w 280, 3) := dk_20 1 24 (dk_at dksX1_number_9 9 rfl rfl)
theorem dX1_number_221 : decode cX1_number 221 = .ok (.lreturn, 1) := dk_173 (dk_at dksX1_number_9 12 rfl rfl)
abbrev cX1_prove : ByteArray := prog_24_method_53_code
def yX1_prove : MethodName := ⟨RX1, "prove", "(I)I"⟩
def dkwX1_prove_4 : List UInt8 := [2, 167, 0, 7, 42, 180, 1, 68, 172]
abbrev dktX1_prove_4 : List UInt8 := dkwX1_prove_4 ++ []
def dkwX1_prove_3 : List UInt8 := [167, 255, 218, 42, 182, 1, 0, 87, 28, 154, 0, 8, 16, 254, 167, 0, 18, 42, 180, 0, 153, 153, 0, 7]
abbrev dktX1_prove_3 : List UInt8 := dkwX1_prove_3 ++ dktX1_prove_4
def dkwX1_prove_2 : List UInt8 := [181, 0, 165, 42, 27, 182, 1, 79, 153, 0, 14, 42, 180, 0, 142, 153, 0, 7, 4, 167, 0, 4, 3, 62]
abbrev dktX1_prove_2 : List UInt8 := dkwX1_prove_2 ++ dktX1_prove_3
def dkwX1_prove_1 : List UInt8 := [153, 0, 7, 4, 167, 0, 4, 3, 62, 29, 153, 0, 40, 42, 42, 180, 1, 68, 181, 0, 159, 42, 2]
abbrev dktX1_prove_1 : List UInt8 := dkwX1_prove_1 ++ dktX1_prove_2
def dkwX1_prove_0 : List UInt8 := [42, 182, 0, 247, 42, 3, 181, 1, 68, 42, 27, 182, 1, 18, 61, 28, 153, 0, 14, 42, 180, 0, 142]
abbrev dktX1_prove_0 : List UInt8 := dkwX1_prove_0 ++ dktX1_prove_1
theorem dksX1_prove_0 : cX1_prove.data.toList.drop 0 = dktX1_prove_0 := by decide +kernel
theorem dksX1_prove_1 : cX1_prove.data.toList.drop 23 = dktX1_prove_1 := dk_seg dksX1_prove_0 23 rfl rfl
theorem dksX1_prove_2 : cX1_prove.data.toList.drop 46 = dktX1_prove_2 := dk_seg dksX1_prove_1 23 rfl rfl
theorem dksX1_prove_3 : cX1_prove.data.toList.drop 70 = dktX1_prove_3 := dk_seg dksX1_prove_2 24 rfl rfl
theorem dksX1_prove_4 : cX1_prove.data.toList.drop 94 = dktX1_prove_4 := dk_seg dksX1_prove_3 24 rfl rfl
theorem dX1_prove_0 : decode cX1_prove 0 = .ok (.aload_n 0, 1) := dk_42 (dk_at dksX1_prove_0 0 rfl rfl)
theorem dX1_prove_1 : decode cX1_prove 1 = .ok (.invokevirtual 247, 3) := dk_182 0 247 (dk_at dksX1_prove_0 1 rfl rfl)
theorem dX1_prove_4 : decode cX1_prove 4 = .ok (.aload_n 0, 1) := dk_42 (dk_at dksX1_prove_0 4 rfl rfl)
theorem dX1_prove_5 : decode cX1_prove 5 = .ok (.iconst 0, 1) := dk_3 (dk_at dksX1_prove_0 5 rfl rfl)
theorem dX1_prove_6 : decode cX1_prove 6 = .ok (.putfield 324, 3) := dk_181 1 68 (dk_at dksX1_prove_0 6 rfl rfl)
theorem dX1_prove_9 : decode cX1_prove 9 = .ok (.aload_n 0, 1) := dk_42 (dk_at dksX1_prove_0 9 rfl rfl)
theorem dX1_prove_10 : decode cX1_prove 10 = .ok (.iload_n 1, 1) := dk_27 (dk_at dksX1_prove_0 10 rfl rfl)
theorem dX1_prove_11 : decode cX1_prove 11 = .ok (.invokevirtual 274, 3) := dk_182 1 18 (dk_at dksX1_prove_0 11 rfl rfl)
theorem dX1_prove_14 : decode cX1_prove 14 = .ok (.istore_n 2, 1) := dk_61 (dk_at dksX1_prove_0 14 rfl rfl)
theorem dX1_prove_15 : decode cX1_prove 15 = .ok (.iload_n 2, 1) := dk_28 (dk_at dksX1_prove_0 15 rfl rfl)
theorem dX1_prove_16 : decode cX1_prove 16 = .ok (.ifCond .eq 14, 3) := dk_153 0 14 (dk_at dksX1_prove_0 16 rfl rfl)
theorem dX1_prove_19 : decode cX1_prove 19 = .ok (.aload_n 0, 1) := dk_42 (dk_at dksX1_prove_0 19 rfl rfl)
theorem dX1_prove_20 : decode cX1_prove 20 = .ok (.getfield 142, 3) := dk_180 0 142 (dk_at dksX1_prove_0 20 rfl rfl)
theorem dX1_prove_23 : decode cX1_prove 23 = .ok (.ifCond .eq 7, 3) := dk_153 0 7 (dk_at dksX1_prove_1 0 rfl rfl)
theorem dX1_prove_26 : decode cX1_prove 26 = .ok (.iconst 1, 1) := dk_4 (dk_at dksX1_prove_1 3 rfl rfl)
theorem dX1_prove_27 : decode cX1_prove 27 = .ok (.goto 4, 3) := dk_167 0 4 (dk_at dksX1_prove_1 4 rfl rfl)
theorem dX1_prove_30 : decode cX1_prove 30 = .ok (.iconst 0, 1) := dk_3 (dk_at dksX1_prove_1 7 rfl rfl)
theorem dX1_prove_31 : decode cX1_prove 31 = .ok (.istore_n 3, 1) := dk_62 (dk_at dksX1_prove_1 8 rfl rfl)
theorem dX1_prove_32 : decode cX1_prove 32 = .ok (.iload_n 3, 1) := dk_29 (dk_at dksX1_prove_1 9 rfl rfl)
theorem dX1_prove_33 : decode cX1_prove 33 = .ok (.ifCond .eq 40, 3) := dk_153 0 40 (dk_at dksX1_prove_1 10 rfl rfl)
theorem dX1_prove_36 : decode cX1_prove 36 = .ok (.aload_n 0, 1) := dk_42 (dk_at dksX1_prove_1 13 rfl rfl)
theorem dX1_prove_37 : decode cX1_prove 37 = .ok (.aload_n 0, 1) := dk_42 (dk_at dksX1_prove_1 14 rfl rfl)
theorem dX1_prove_38 : decode cX1_prove 38 = .ok (.getfield 324, 3) := dk_180 1 68 (dk_at dksX1_prove_1 15 rfl rfl)
theorem dX1_prove_41 : decode cX1_prove 41 = .ok (.putfield 159, 3) := dk_181 0 159 (dk_at dksX1_prove_1 18 rfl rfl)
theorem dX1_prove_44 : decode cX1_prove 44 = .ok (.aload_n 0, 1) := dk_42 (dk_at dksX1_prove_1 21 rfl rfl)
theorem dX1_prove_45 : decode cX1_prove 45 = .ok (.iconst (-1), 1) := dk_2 (dk_at dksX1_prove_1 22 rfl rfl)
theorem dX1_prove_46 : decode cX1_prove 46 = .ok (.putfield 165, 3) := dk_181 0 165 (dk_at dksX1_prove_2 0 rfl rfl)
theorem dX1_prove_49 : decode cX1_prove 49 = .ok (.aload_n 0, 1) := dk_42 (dk_at dksX1_prove_2 3 rfl rfl)
theorem dX1_prove_50 : decode cX1_prove 50 = .ok (.iload_n 1, 1) := dk_27 (dk_at dksX1_prove_2 4 rfl rfl)
theorem dX1_prove_51 : decode cX1_prove 51 = .ok (.invokevirtual 335, 3) := dk_182 1 79 (dk_at dksX1_prove_2 5 rfl rfl)
theorem dX1_prove_54 : decode cX1_prove 54 = .ok (.ifCond .eq 14, 3) := dk_153 0 14 (dk_at dksX1_prove_2 8 rfl rfl)
theorem dX1_prove_57 : decode cX1_prove 57 = .ok (.aload_n 0, 1) := dk_42 (dk_at dksX1_prove_2 11 rfl rfl)
theorem dX1_prove_58 : decode cX1_prove 58 = .ok (.getfield 142, 3) := dk_180 0 142 (dk_at dksX1_prove_2 12 rfl rfl)
theorem dX1_prove_61 : decode cX1_prove 61 = .ok (.ifCond .eq 7, 3) := dk_153 0 7 (dk_at dksX1_prove_2 15 rfl rfl)
theorem dX1_prove_64 : decode cX1_prove 64 = .ok (.iconst 1, 1) := dk_4 (dk_at dksX1_prove_2 18 rfl rfl)
theorem dX1_prove_65 : decode cX1_prove 65 = .ok (.goto 4, 3) := dk_167 0 4 (dk_at dksX1_prove_2 19 rfl rfl)
theorem dX1_prove_68 : decode cX1_prove 68 = .ok (.iconst 0, 1) := dk_3 (dk_at dksX1_prove_2 22 rfl rfl)
theorem dX1_prove_69 : decode cX1_prove 69 = .ok (.istore_n 3, 1) := dk_62 (dk_at dksX1_prove_2 23 rfl rfl)
theorem dX1_prove_70 : decode cX1_prove 70 = .ok (.goto (-38), 3) := dk_167 255 218 (dk_at dksX1_prove_3 0 rfl rfl)
theorem dX1_prove_73 : decode cX1_prove 73 = .ok (.aload_n 0, 1) := dk_42 (dk_at dksX1_prove_3 3 rfl rfl)
theorem dX1_prove_74 : decode cX1_prove 74 = .ok (.invokevirtual 256, 3) := dk_182 1 0 (dk_at dksX1_prove_3 4 rfl rfl)
theorem dX1_prove_77 : decode cX1_prove 77 = .ok (.pop, 1) := dk_87 (dk_at dksX1_prove_3 7 rfl rfl)
theorem dX1_prove_78 : decode cX1_prove 78 = .ok (.iload_n 2, 1) := dk_28 (dk_at dksX1_prove_3 8 rfl rfl)
theorem dX1_prove_79 : decode cX1_prove 79 = .ok (.ifCond .ne 8, 3) := dk_154 0 8 (dk_at dksX1_prove_3 9 rfl rfl)
theorem dX1_prove_82 : decode cX1_prove 82 = .ok (.bipush (-2), 2) := dk_16 254 (dk_at dksX1_prove_3 12 rfl rfl)
theorem dX1_prove_84 : decode cX1_prove 84 = .ok (.goto 18, 3) := dk_167 0 18 (dk_at dksX1_prove_3 14 rfl rfl)
theorem dX1_prove_87 : decode cX1_prove 87 = .ok (.aload_n 0, 1) := dk_42 (dk_at dksX1_prove_3 17 rfl rfl)
theorem dX1_prove_88 : decode cX1_prove 88 = .ok (.getfield 153, 3) := dk_180 0 153 (dk_at dksX1_prove_3 18 rfl rfl)
theorem dX1_prove_91 : decode cX1_prove 91 = .ok (.ifCond .eq 7, 3) := dk_153 0 7 (dk_at dksX1_prove_3 21 rfl rfl)
theorem dX1_prove_94 : decode cX1_prove 94 = .ok (.iconst (-1), 1) := dk_2 (dk_at dksX1_prove_4 0 rfl rfl)
theorem dX1_prove_95 : decode cX1_prove 95 = .ok (.goto 7, 3) := dk_167 0 7 (dk_at dksX1_prove_4 1 rfl rfl)
theorem dX1_prove_98 : decode cX1_prove 98 = .ok (.aload_n 0, 1) := dk_42 (dk_at dksX1_prove_4 4 rfl rfl)
theorem dX1_prove_99 : decode cX1_prove 99 = .ok (.getfield 324, 3) := dk_180 1 68 (dk_at dksX1_prove_4 5 rfl rfl)
theorem dX1_prove_102 : decode cX1_prove 102 = .ok (.ireturn, 1) := dk_172 (dk_at dksX1_prove_4 8 rfl rfl)
abbrev cX1_readLine : ByteArray := prog_24_method_51_code
def yX1_readLine : MethodName := ⟨RX1, "readLine", "(I)Z"⟩
def dkwX1_readLine_7 : List UInt8 := [180, 0, 60, 42, 180, 1, 68, 29, 79, 42, 89, 180, 1, 68, 4, 96, 181, 1, 68, 4, 172]
abbrev dktX1_readLine_7 : List UInt8 := dkwX1_readLine_7 ++ []
def dkwX1_readLine_6 : List UInt8 := [27, 29, 182, 1, 76, 154, 0, 5, 3, 172, 42, 16, 59, 182, 0, 253, 154, 0, 5, 3, 172, 42]
abbrev dktX1_readLine_6 : List UInt8 := dkwX1_readLine_6 ++ dktX1_readLine_7
def dkwX1_readLine_5 : List UInt8 := [29, 182, 1, 29, 9, 148, 158, 0, 10, 42, 16, 8, 182, 0, 187, 172, 42, 182, 0, 190, 167, 0, 14, 42]
abbrev dktX1_readLine_5 : List UInt8 := dkwX1_readLine_5 ++ dktX1_readLine_6
def dkwX1_readLine_4 : List UInt8 := [182, 0, 187, 172, 42, 182, 0, 190, 42, 19, 1, 74, 182, 0, 198, 153, 0, 32, 42, 27, 182, 1, 26, 42]
abbrev dktX1_readLine_4 : List UInt8 := dkwX1_readLine_4 ++ dktX1_readLine_5
def dkwX1_readLine_3 : List UInt8 := [42, 182, 0, 228, 154, 0, 5, 3, 172, 42, 182, 0, 231, 62, 42, 29, 182, 1, 71, 153, 0, 9, 42, 8]
abbrev dktX1_readLine_3 : List UInt8 := dkwX1_readLine_3 ++ dktX1_readLine_4
def dkwX1_readLine_2 : List UInt8 := [153, 0, 18, 42, 42, 180, 0, 136, 182, 1, 71, 153, 0, 7, 8, 167, 0, 5, 16, 9, 182, 0, 187, 172]
abbrev dktX1_readLine_2 : List UInt8 := dkwX1_readLine_2 ++ dktX1_readLine_3
def dkwX1_readLine_1 : List UInt8 := [154, 0, 9, 42, 4, 182, 0, 187, 172, 42, 180, 1, 68, 16, 60, 160, 0, 32, 42, 42, 182, 0, 214]
abbrev dktX1_readLine_1 : List UInt8 := dkwX1_readLine_1 ++ dktX1_readLine_2
def dkwX1_readLine_0 : List UInt8 := [42, 182, 0, 214, 154, 0, 12, 42, 16, 45, 182, 0, 184, 153, 0, 7, 4, 167, 0, 4, 3, 61, 28]
abbrev dktX1_readLine_0 : List UInt8 := dkwX1_readLine_0 ++ dktX1_readLine_1
theorem dksX1_readLine_0 : cX1_readLine.data.toList.drop 0 = dktX1_readLine_0 := by decide +kernel
theorem dksX1_readLine_1 : cX1_readLine.data.toList.drop 23 = dktX1_readLine_1 := dk_seg dksX1_readLine_0 23 rfl rfl
theorem dksX1_readLine_2 : cX1_readLine.data.toList.drop 46 = dktX1_readLine_2 := dk_seg dksX1_readLine_1 23 rfl rfl
theorem dksX1_readLine_3 : cX1_readLine.data.toList.drop 70 = dktX1_readLine_3 := dk_seg dksX1_readLine_2 24 rfl rfl
theorem dksX1_readLine_4 : cX1_readLine.data.toList.drop 94 = dktX1_readLine_4 := dk_seg dksX1_readLine_3 24 rfl rfl
theorem dksX1_readLine_5 : cX1_readLine.data.toList.drop 118 = dktX1_readLine_5 := dk_seg dksX1_readLine_4 24 rfl rfl
theorem dksX1_readLine_6 : cX1_readLine.data.toList.drop 142 = dktX1_readLine_6 := dk_seg dksX1_readLine_5 24 rfl rfl
theorem dksX1_readLine_7 : cX1_readLine.data.toList.drop 164 = dktX1_readLine_7 := dk_seg dksX1_readLine_6 22 rfl rfl
theorem dX1_readLine_0 : decode cX1_readLine 0 = .ok (.aload_n 0, 1) := dk_42 (dk_at dksX1_readLine_0 0 rfl rfl)
theorem dX1_readLine_1 : decode cX1_readLine 1 = .ok (.invokevirtual 214, 3) := dk_182 0 214 (dk_at dksX1_readLine_0 1 rfl rfl)
theorem dX1_readLine_4 : decode cX1_readLine 4 = .ok (.ifCond .ne 12, 3) := dk_154 0 12 (dk_at dksX1_readLine_0 4 rfl rfl)
theorem dX1_readLine_7 : decode cX1_readLine 7 = .ok (.aload_n 0, 1) := dk_42 (dk_at dksX1_readLine_0 7 rfl rfl)
theorem dX1_readLine_8 : decode cX1_readLine 8 = .ok (.bipush 45, 2) := dk_16 45 (dk_at dksX1_readLine_0 8 rfl rfl)
theorem dX1_readLine_10 : decode cX1_readLine 10 = .ok (.invokevirtual 184, 3) := dk_182 0 184 (dk_at dksX1_readLine_0 10 rfl rfl)
theorem dX1_readLine_13 : decode cX1_readLine 13 = .ok (.ifCond .eq 7, 3) := dk_153 0 7 (dk_at dksX1_readLine_0 13 rfl rfl)
theorem dX1_readLine_16 : decode cX1_readLine 16 = .ok (.iconst 1, 1) := dk_4 (dk_at dksX1_readLine_0 16 rfl rfl)
theorem dX1_readLine_17 : decode cX1_readLine 17 = .ok (.goto 4, 3) := dk_167 0 4 (dk_at dksX1_readLine_0 17 rfl rfl)
theorem dX1_readLine_20 : decode cX1_readLine 20 = .ok (.iconst 0, 1) := dk_3 (dk_at dksX1_readLine_0 20 rfl rfl)
theorem dX1_readLine_21 : decode cX1_readLine 21 = .ok (.istore_n 2, 1) := dk_61 (dk_at dksX1_readLine_0 21 rfl rfl)
theorem dX1_readLine_22 : decode cX1_readLine 22 = .ok (.iload_n 2, 1) := dk_28 (dk_at dksX1_readLine_0 22 rfl rfl)
theorem dX1_readLine_23 : decode cX1_readLine 23 = .ok (.ifCond .ne 9, 3) := dk_154 0 9 (dk_at dksX1_readLine_1 0 rfl rfl)
theorem dX1_readLine_26 : decode cX1_readLine 26 = .ok (.aload_n 0, 1) := dk_42 (dk_at dksX1_readLine_1 3 rfl rfl)
theorem dX1_readLine_27 : decode cX1_readLine 27 = .ok (.iconst 1, 1) := dk_4 (dk_at dksX1_readLine_1 4 rfl rfl)
theorem dX1_readLine_28 : decode cX1_readLine 28 = .ok (.invokevirtual 187, 3) := dk_182 0 187 (dk_at dksX1_readLine_1 5 rfl rfl)
theorem dX1_readLine_31 : decode cX1_readLine 31 = .ok (.ireturn, 1) := dk_172 (dk_at dksX1_readLine_1 8 rfl rfl)
theorem dX1_readLine_32 : decode cX1_readLine 32 = .ok (.aload_n 0, 1) := dk_42 (dk_at dksX1_readLine_1 9 rfl rfl)
theorem dX1_readLine_33 : decode cX1_readLine 33 = .ok (.getfield 324, 3) := dk_180 1 68 (dk_at dksX1_readLine_1 10 rfl rfl)
theorem dX1_readLine_36 : decode cX1_readLine 36 = .ok (.bipush 60, 2) := dk_16 60 (dk_at dksX1_readLine_1 13 rfl rfl)
theorem dX1_readLine_38 : decode cX1_readLine 38 = .ok (.if_icmp .ne 32, 3) := dk_160 0 32 (dk_at dksX1_readLine_1 15 rfl rfl)
theorem dX1_readLine_41 : decode cX1_readLine 41 = .ok (.aload_n 0, 1) := dk_42 (dk_at dksX1_readLine_1 18 rfl rfl)
theorem dX1_readLine_42 : decode cX1_readLine 42 = .ok (.aload_n 0, 1) := dk_42 (dk_at dksX1_readLine_1 19 rfl rfl)
theorem dX1_readLine_43 : decode cX1_readLine 43 = .ok (.invokevirtual 214, 3) := dk_182 0 214 (dk_at dksX1_readLine_1 20 rfl rfl)
theorem dX1_readLine_46 : decode cX1_readLine 46 = .ok (.ifCond .eq 18, 3) := dk_153 0 18 (dk_at dksX1_readLine_2 0 rfl rfl)
theorem dX1_readLine_49 : decode cX1_readLine 49 = .ok (.aload_n 0, 1) := dk_42 (dk_at dksX1_readLine_2 3 rfl rfl)
theorem dX1_readLine_50 : decode cX1_readLine 50 = .ok (.aload_n 0, 1) := dk_42 (dk_at dksX1_readLine_2 4 rfl rfl)
theorem dX1_readLine_51 : decode cX1_readLine 51 = .ok (.getfield 136, 3) := dk_180 0 136 (dk_at dksX1_readLine_2 5 rfl rfl)
theorem dX1_readLine_54 : decode cX1_readLine 54 = .ok (.invokevirtual 327, 3) := dk_182 1 71 (dk_at dksX1_readLine_2 8 rfl rfl)
theorem dX1_readLine_57 : decode cX1_readLine 57 = .ok (.ifCond .eq 7, 3) := dk_153 0 7 (dk_at dksX1_readLine_2 11 rfl rfl)
theorem dX1_readLine_60 : decode cX1_readLine 60 = .ok (.iconst 5, 1) := dk_8 (dk_at dksX1_readLine_2 14 rfl rfl)
theorem dX1_readLine_61 : decode cX1_readLine 61 = .ok (.goto 5, 3) := dk_167 0 5 (dk_at dksX1_readLine_2 15 rfl rfl)
theorem dX1_readLine_64 : decode cX1_readLine 64 = .ok (.bipush 9, 2) := dk_16 9 (dk_at dksX1_readLine_2 18 rfl rfl)
theorem dX1_readLine_66 : decode cX1_readLine 66 = .ok (.invokevirtual 187, 3) := dk_182 0 187 (dk_at dksX1_readLine_2 20 rfl rfl)
theorem dX1_readLine_69 : decode cX1_readLine 69 = .ok (.ireturn, 1) := dk_172 (dk_at dksX1_readLine_2 23 rfl rfl)
theorem dX1_readLine_70 : decode cX1_readLine 70 = .ok (.aload_n 0, 1) := dk_42 (dk_at dksX1_readLine_3 0 rfl rfl)
theorem dX1_readLine_71 : decode cX1_readLine 71 = .ok (.invokevirtual 228, 3) := dk_182 0 228 (dk_at dksX1_readLine_3 1 rfl rfl)
theorem dX1_readLine_74 : decode cX1_readLine 74 = .ok (.ifCond .ne 5, 3) := dk_154 0 5 (dk_at dksX1_readLine_3 4 rfl rfl)
theorem dX1_readLine_77 : decode cX1_readLine 77 = .ok (.iconst 0, 1) := dk_3 (dk_at dksX1_readLine_3 7 rfl rfl)
theorem dX1_readLine_78 : decode cX1_readLine 78 = .ok (.ireturn, 1) := dk_172 (dk_at dksX1_readLine_3 8 rfl rfl)
theorem dX1_readLine_79 : decode cX1_readLine 79 = .ok (.aload_n 0, 1) := dk_42 (dk_at dksX1_readLine_3 9 rfl rfl)
theorem dX1_readLine_80 : decode cX1_readLine 80 = .ok (.invokevirtual 231, 3) := dk_182 0 231 (dk_at dksX1_readLine_3 10 rfl rfl)
theorem dX1_readLine_83 : decode cX1_readLine 83 = .ok (.istore_n 3, 1) := dk_62 (dk_at dksX1_readLine_3 13 rfl rfl)
theorem dX1_readLine_84 : decode cX1_readLine 84 = .ok (.aload_n 0, 1) := dk_42 (dk_at dksX1_readLine_3 14 rfl rfl)
theorem dX1_readLine_85 : decode cX1_readLine 85 = .ok (.iload_n 3, 1) := dk_29 (dk_at dksX1_readLine_3 15 rfl rfl)
theorem dX1_readLine_86 : decode cX1_readLine 86 = .ok (.invokevirtual 327, 3) := dk_182 1 71 (dk_at dksX1_readLine_3 16 rfl rfl)
theorem dX1_readLine_89 : decode cX1_readLine 89 = .ok (.ifCond .eq 9, 3) := dk_153 0 9 (dk_at dksX1_readLine_3 19 rfl rfl)
theorem dX1_readLine_92 : decode cX1_readLine 92 = .ok (.aload_n 0, 1) := dk_42 (dk_at dksX1_readLine_3 22 rfl rfl)
theorem dX1_readLine_93 : decode cX1_readLine 93 = .ok (.iconst 5, 1) := dk_8 (dk_at dksX1_readLine_3 23 rfl rfl)
theorem dX1_readLine_94 : decode cX1_readLine 94 = .ok (.invokevirtual 187, 3) := dk_182 0 187 (dk_at dksX1_readLine_4 0 rfl rfl)
theorem dX1_readLine_97 : decode cX1_readLine 97 = .ok (.ireturn, 1) := dk_172 (dk_at dksX1_readLine_4 3 rfl rfl)
theorem dX1_readLine_98 : decode cX1_readLine 98 = .ok (.aload_n 0, 1) := dk_42 (dk_at dksX1_readLine_4 4 rfl rfl)
theorem dX1_readLine_99 : decode cX1_readLine 99 = .ok (.invokevirtual 190, 3) := dk_182 0 190 (dk_at dksX1_readLine_4 5 rfl rfl)
theorem dX1_readLine_102 : decode cX1_readLine 102 = .ok (.aload_n 0, 1) := dk_42 (dk_at dksX1_readLine_4 8 rfl rfl)
theorem dX1_readLine_103 : decode cX1_readLine 103 = .ok (.ldc_w 330, 3) := dk_19 1 74 (dk_at dksX1_readLine_4 9 rfl rfl)
theorem dX1_readLine_106 : decode cX1_readLine 106 = .ok (.invokevirtual 198, 3) := dk_182 0 198 (dk_at dksX1_readLine_4 12 rfl rfl)
theorem dX1_readLine_109 : decode cX1_readLine 109 = .ok (.ifCond .eq 32, 3) := dk_153 0 32 (dk_at dksX1_readLine_4 15 rfl rfl)
theorem dX1_readLine_112 : decode cX1_readLine 112 = .ok (.aload_n 0, 1) := dk_42 (dk_at dksX1_readLine_4 18 rfl rfl)
theorem dX1_readLine_113 : decode cX1_readLine 113 = .ok (.iload_n 1, 1) := dk_27 (dk_at dksX1_readLine_4 19 rfl rfl)
theorem dX1_readLine_114 : decode cX1_readLine 114 = .ok (.invokevirtual 282, 3) := dk_182 1 26 (dk_at dksX1_readLine_4 20 rfl rfl)
theorem dX1_readLine_117 : decode cX1_readLine 117 = .ok (.aload_n 0, 1) := dk_42 (dk_at dksX1_readLine_4 23 rfl rfl)
theorem dX1_readLine_118 : decode cX1_readLine 118 = .ok (.iload_n 3, 1) := dk_29 (dk_at dksX1_readLine_5 0 rfl rfl)
theorem dX1_readLine_119 : decode cX1_readLine 119 = .ok (.invokevirtual 285, 3) := dk_182 1 29 (dk_at dksX1_readLine_5 1 rfl rfl)
theorem dX1_readLine_122 : decode cX1_readLine 122 = .ok (.lconst 0, 1) := dk_9 (dk_at dksX1_readLine_5 4 rfl rfl)
theorem dX1_readLine_123 : decode cX1_readLine 123 = .ok (.lcmp, 1) := dk_148 (dk_at dksX1_readLine_5 5 rfl rfl)
theorem dX1_readLine_124 : decode cX1_readLine 124 = .ok (.ifCond .le 10, 3) := dk_158 0 10 (dk_at dksX1_readLine_5 6 rfl rfl)
theorem dX1_readLine_127 : decode cX1_readLine 127 = .ok (.aload_n 0, 1) := dk_42 (dk_at dksX1_readLine_5 9 rfl rfl)
theorem dX1_readLine_128 : decode cX1_readLine 128 = .ok (.bipush 8, 2) := dk_16 8 (dk_at dksX1_readLine_5 10 rfl rfl)
theorem dX1_readLine_130 : decode cX1_readLine 130 = .ok (.invokevirtual 187, 3) := dk_182 0 187 (dk_at dksX1_readLine_5 12 rfl rfl)
theorem dX1_readLine_133 : decode cX1_readLine 133 = .ok (.ireturn, 1) := dk_172 (dk_at dksX1_readLine_5 15 rfl rfl)
theorem dX1_readLine_134 : decode cX1_readLine 134 = .ok (.aload_n 0, 1) := dk_42 (dk_at dksX1_readLine_5 16 rfl rfl)
theorem dX1_readLine_135 : decode cX1_readLine 135 = .ok (.invokevirtual 190, 3) := dk_182 0 190 (dk_at dksX1_readLine_5 17 rfl rfl)
theorem dX1_readLine_138 : decode cX1_readLine 138 = .ok (.goto 14, 3) := dk_167 0 14 (dk_at dksX1_readLine_5 20 rfl rfl)
theorem dX1_readLine_141 : decode cX1_readLine 141 = .ok (.aload_n 0, 1) := dk_42 (dk_at dksX1_readLine_5 23 rfl rfl)
theorem dX1_readLine_142 : decode cX1_readLine 142 = .ok (.iload_n 1, 1) := dk_27 (dk_at dksX1_readLine_6 0 rfl rfl)
theorem dX1_readLine_143 : decode cX1_readLine 143 = .ok (.iload_n 3, 1) := dk_29 (dk_at dksX1_readLine_6 1 rfl rfl)
theorem dX1_readLine_144 : decode cX1_readLine 144 = .ok (.invokevirtual 332, 3) := dk_182 1 76 (dk_at dksX1_readLine_6 2 rfl rfl)
theorem dX1_readLine_147 : decode cX1_readLine 147 = .ok (.ifCond .ne 5, 3) := dk_154 0 5 (dk_at dksX1_readLine_6 5 rfl rfl)
theorem dX1_readLine_150 : decode cX1_readLine 150 = .ok (.iconst 0, 1) := dk_3 (dk_at dksX1_readLine_6 8 rfl rfl)
theorem dX1_readLine_151 : decode cX1_readLine 151 = .ok (.ireturn, 1) := dk_172 (dk_at dksX1_readLine_6 9 rfl rfl)
theorem dX1_readLine_152 : decode cX1_readLine 152 = .ok (.aload_n 0, 1) := dk_42 (dk_at dksX1_readLine_6 10 rfl rfl)
theorem dX1_readLine_153 : decode cX1_readLine 153 = .ok (.bipush 59, 2) := dk_16 59 (dk_at dksX1_readLine_6 11 rfl rfl)
theorem dX1_readLine_155 : decode cX1_readLine 155 = .ok (.invokevirtual 253, 3) := dk_182 0 253 (dk_at dksX1_readLine_6 13 rfl rfl)
theorem dX1_readLine_158 : decode cX1_readLine 158 = .ok (.ifCond .ne 5, 3) := dk_154 0 5 (dk_at dksX1_readLine_6 16 rfl rfl)
theorem dX1_readLine_161 : decode cX1_readLine 161 = .ok (.iconst 0, 1) := dk_3 (dk_at dksX1_readLine_6 19 rfl rfl)
theorem dX1_readLine_162 : decode cX1_readLine 162 = .ok (.ireturn, 1) := dk_172 (dk_at dksX1_readLine_6 20 rfl rfl)
theorem dX1_readLine_163 : decode cX1_readLine 163 = .ok (.aload_n 0, 1) := dk_42 (dk_at dksX1_readLine_6 21 rfl rfl)
theorem dX1_readLine_164 : decode cX1_readLine 164 = .ok (.getfield 60, 3) := dk_180 0 60 (dk_at dksX1_readLine_7 0 rfl rfl)
theorem dX1_readLine_167 : decode cX1_readLine 167 = .ok (.aload_n 0, 1) := dk_42 (dk_at dksX1_readLine_7 3 rfl rfl)
theorem dX1_readLine_168 : decode cX1_readLine 168 = .ok (.getfield 324, 3) := dk_180 1 68 (dk_at dksX1_readLine_7 4 rfl rfl)
theorem dX1_readLine_171 : decode cX1_readLine 171 = .ok (.iload_n 3, 1) := dk_29 (dk_at dksX1_readLine_7 7 rfl rfl)
theorem dX1_readLine_172 : decode cX1_readLine 172 = .ok (.iastore, 1) := dk_79 (dk_at dksX1_readLine_7 8 rfl rfl)
theorem dX1_readLine_173 : decode cX1_readLine 173 = .ok (.aload_n 0, 1) := dk_42 (dk_at dksX1_readLine_7 9 rfl rfl)
theorem dX1_readLine_174 : decode cX1_readLine 174 = .ok (.dup, 1) := dk_89 (dk_at dksX1_readLine_7 10 rfl rfl)
theorem dX1_readLine_175 : decode cX1_readLine 175 = .ok (.getfield 324, 3) := dk_180 1 68 (dk_at dksX1_readLine_7 11 rfl rfl)
theorem dX1_readLine_178 : decode cX1_readLine 178 = .ok (.iconst 1, 1) := dk_4 (dk_at dksX1_readLine_7 14 rfl rfl)
theorem dX1_readLine_179 : decode cX1_readLine 179 = .ok (.iadd, 1) := dk_96 (dk_at dksX1_readLine_7 15 rfl rfl)
theorem dX1_readLine_180 : decode cX1_readLine 180 = .ok (.putfield 324, 3) := dk_181 1 68 (dk_at dksX1_readLine_7 16 rfl rfl)
theorem dX1_readLine_183 : decode cX1_readLine 183 = .ok (.iconst 1, 1) := dk_4 (dk_at dksX1_readLine_7 19 rfl rfl)
theorem dX1_readLine_184 : decode cX1_readLine 184 = .ok (.ireturn, 1) := dk_172 (dk_at dksX1_readLine_7 20 rfl rfl)
abbrev cX1_isOut : ByteArray := prog_24_method_50_code
def yX1_isOut : MethodName := ⟨RX1, "isOut", "(I)Z"⟩
def dkwX1_isOut_1 : List UInt8 := [132, 2, 1, 167, 255, 233, 27, 184, 1, 21, 154, 0, 7, 4, 167, 0, 4, 3, 172]
abbrev dktX1_isOut_1 : List UInt8 := dkwX1_isOut_1 ++ []
def dkwX1_isOut_0 : List UInt8 := [3, 61, 28, 42, 180, 1, 68, 162, 0, 21, 42, 180, 0, 60, 28, 46, 27, 160, 0, 5, 4, 172]
abbrev dktX1_isOut_0 : List UInt8 := dkwX1_isOut_0 ++ dktX1_isOut_1
theorem dksX1_isOut_0 : cX1_isOut.data.toList.drop 0 = dktX1_isOut_0 := by decide +kernel
theorem dksX1_isOut_1 : cX1_isOut.data.toList.drop 22 = dktX1_isOut_1 := dk_seg dksX1_isOut_0 22 rfl rfl
theorem dX1_isOut_0 : decode cX1_isOut 0 = .ok (.iconst 0, 1) := dk_3 (dk_at dksX1_isOut_0 0 rfl rfl)
theorem dX1_isOut_1 : decode cX1_isOut 1 = .ok (.istore_n 2, 1) := dk_61 (dk_at dksX1_isOut_0 1 rfl rfl)
theorem dX1_isOut_2 : decode cX1_isOut 2 = .ok (.iload_n 2, 1) := dk_28 (dk_at dksX1_isOut_0 2 rfl rfl)
theorem dX1_isOut_3 : decode cX1_isOut 3 = .ok (.aload_n 0, 1) := dk_42 (dk_at dksX1_isOut_0 3 rfl rfl)
theorem dX1_isOut_4 : decode cX1_isOut 4 = .ok (.getfield 324, 3) := dk_180 1 68 (dk_at dksX1_isOut_0 4 rfl rfl)
theorem dX1_isOut_7 : decode cX1_isOut 7 = .ok (.if_icmp .ge 21, 3) := dk_162 0 21 (dk_at dksX1_isOut_0 7 rfl rfl)
theorem dX1_isOut_10 : decode cX1_isOut 10 = .ok (.aload_n 0, 1) := dk_42 (dk_at dksX1_isOut_0 10 rfl rfl)
theorem dX1_isOut_11 : decode cX1_isOut 11 = .ok (.getfield 60, 3) := dk_180 0 60 (dk_at dksX1_isOut_0 11 rfl rfl)
theorem dX1_isOut_14 : decode cX1_isOut 14 = .ok (.iload_n 2, 1) := dk_28 (dk_at dksX1_isOut_0 14 rfl rfl)
theorem dX1_isOut_15 : decode cX1_isOut 15 = .ok (.iaload, 1) := dk_46 (dk_at dksX1_isOut_0 15 rfl rfl)
theorem dX1_isOut_16 : decode cX1_isOut 16 = .ok (.iload_n 1, 1) := dk_27 (dk_at dksX1_isOut_0 16 rfl rfl)
theorem dX1_isOut_17 : decode cX1_isOut 17 = .ok (.if_icmp .ne 5, 3) := dk_160 0 5 (dk_at dksX1_isOut_0 17 rfl rfl)
theorem dX1_isOut_20 : decode cX1_isOut 20 = .ok (.iconst 1, 1) := dk_4 (dk_at dksX1_isOut_0 20 rfl rfl)
theorem dX1_isOut_21 : decode cX1_isOut 21 = .ok (.ireturn, 1) := dk_172 (dk_at dksX1_isOut_0 21 rfl rfl)
theorem dX1_isOut_22 : decode cX1_isOut 22 = .ok (.iinc 2 1, 3) := dk_132 2 1 (dk_at dksX1_isOut_1 0 rfl rfl)
theorem dX1_isOut_25 : decode cX1_isOut 25 = .ok (.goto (-23), 3) := dk_167 255 233 (dk_at dksX1_isOut_1 3 rfl rfl)
theorem dX1_isOut_28 : decode cX1_isOut 28 = .ok (.iload_n 1, 1) := dk_27 (dk_at dksX1_isOut_1 6 rfl rfl)
theorem dX1_isOut_29 : decode cX1_isOut 29 = .ok (.invokestatic 277, 3) := dk_184 1 21 (dk_at dksX1_isOut_1 7 rfl rfl)
theorem dX1_isOut_32 : decode cX1_isOut 32 = .ok (.ifCond .ne 7, 3) := dk_154 0 7 (dk_at dksX1_isOut_1 10 rfl rfl)
theorem dX1_isOut_35 : decode cX1_isOut 35 = .ok (.iconst 1, 1) := dk_4 (dk_at dksX1_isOut_1 13 rfl rfl)
theorem dX1_isOut_36 : decode cX1_isOut 36 = .ok (.goto 4, 3) := dk_167 0 4 (dk_at dksX1_isOut_1 14 rfl rfl)
theorem dX1_isOut_39 : decode cX1_isOut 39 = .ok (.iconst 0, 1) := dk_3 (dk_at dksX1_isOut_1 17 rfl rfl)
theorem dX1_isOut_40 : decode cX1_isOut 40 = .ok (.ireturn, 1) := dk_172 (dk_at dksX1_isOut_1 18 rfl rfl)
abbrev cX1_readWay : ByteArray := prog_24_method_52_code
def yX1_readWay : MethodName := ⟨RX1, "readWay", "(II)Z"⟩
def dkwX1_readWay_9 : List UInt8 := [33, 28, 133, 148, 153, 0, 12, 42, 16, 8, 182, 0, 187, 153, 0, 7, 4, 167, 0, 4, 3, 172]
abbrev dktX1_readWay_9 : List UInt8 := dkwX1_readWay_9 ++ []
def dkwX1_readWay_8 : List UInt8 := [180, 0, 9, 27, 46, 162, 0, 10, 42, 16, 7, 182, 0, 187, 172, 42, 16, 59, 182, 0, 184, 153, 0, 19]
abbrev dktX1_readWay_8 : List UInt8 := dkwX1_readWay_8 ++ dktX1_readWay_9
def dkwX1_readWay_7 : List UInt8 := [153, 0, 7, 42, 182, 0, 190, 167, 255, 104, 42, 16, 59, 182, 0, 184, 153, 0, 21, 21, 5, 42]
abbrev dktX1_readWay_7 : List UInt8 := dkwX1_readWay_7 ++ dktX1_readWay_8
def dkwX1_readWay_6 : List UInt8 := [66, 42, 182, 0, 190, 42, 2, 181, 0, 165, 132, 5, 1, 42, 16, 44, 182, 0, 184, 54, 6, 21, 6]
abbrev dktX1_readWay_6 : List UInt8 := dkwX1_readWay_6 ++ dktX1_readWay_7
def dkwX1_readWay_5 : List UInt8 := [154, 0, 10, 42, 16, 6, 182, 0, 187, 172, 33, 42, 27, 21, 5, 42, 182, 0, 231, 133, 182, 0, 234, 97]
abbrev dktX1_readWay_5 : List UInt8 := dkwX1_readWay_5 ++ dktX1_readWay_6
def dkwX1_readWay_4 : List UInt8 := [133, 42, 27, 21, 5, 5, 182, 0, 93, 133, 42, 27, 21, 5, 6, 182, 0, 93, 133, 184, 0, 105]
abbrev dktX1_readWay_4 : List UInt8 := dkwX1_readWay_4 ++ dktX1_readWay_5
def dkwX1_readWay_3 : List UInt8 := [46, 160, 0, 10, 42, 16, 7, 182, 0, 187, 172, 42, 182, 0, 228, 154, 0, 5, 3, 172, 42, 182, 0, 231]
abbrev dktX1_readWay_3 : List UInt8 := dkwX1_readWay_3 ++ dktX1_readWay_4
def dkwX1_readWay_2 : List UInt8 := [167, 0, 4, 3, 54, 7, 21, 7, 154, 0, 9, 42, 4, 182, 0, 187, 172, 21, 5, 42, 180, 0, 9, 27]
abbrev dktX1_readWay_2 : List UInt8 := dkwX1_readWay_2 ++ dktX1_readWay_3
def dkwX1_readWay_1 : List UInt8 := [42, 21, 5, 181, 0, 165, 42, 182, 0, 214, 154, 0, 12, 42, 16, 45, 182, 0, 184, 153, 0, 7, 4]
abbrev dktX1_readWay_1 : List UInt8 := dkwX1_readWay_1 ++ dktX1_readWay_2
def dkwX1_readWay_0 : List UInt8 := [42, 16, 61, 182, 0, 253, 154, 0, 5, 3, 172, 9, 66, 3, 54, 5, 4, 54, 6, 21, 6, 153, 0, 153]
abbrev dktX1_readWay_0 : List UInt8 := dkwX1_readWay_0 ++ dktX1_readWay_1
theorem dksX1_readWay_0 : cX1_readWay.data.toList.drop 0 = dktX1_readWay_0 := by decide +kernel
theorem dksX1_readWay_1 : cX1_readWay.data.toList.drop 24 = dktX1_readWay_1 := dk_seg dksX1_readWay_0 24 rfl rfl
theorem dksX1_readWay_2 : cX1_readWay.data.toList.drop 47 = dktX1_readWay_2 := dk_seg dksX1_readWay_1 23 rfl rfl
theorem dksX1_readWay_3 : cX1_readWay.data.toList.drop 71 = dktX1_readWay_3 := dk_seg dksX1_readWay_2 24 rfl rfl
theorem dksX1_readWay_4 : cX1_readWay.data.toList.drop 95 = dktX1_readWay_4 := dk_seg dksX1_readWay_3 24 rfl rfl
theorem dksX1_readWay_5 : cX1_readWay.data.toList.drop 117 = dktX1_readWay_5 := dk_seg dksX1_readWay_4 22 rfl rfl
theorem dksX1_readWay_6 : cX1_readWay.data.toList.drop 141 = dktX1_readWay_6 := dk_seg dksX1_readWay_5 24 rfl rfl
theorem dksX1_readWay_7 : cX1_readWay.data.toList.drop 164 = dktX1_readWay_7 := dk_seg dksX1_readWay_6 23 rfl rfl
theorem dksX1_readWay_8 : cX1_readWay.data.toList.drop 186 = dktX1_readWay_8 := dk_seg dksX1_readWay_7 22 rfl rfl
theorem dksX1_readWay_9 : cX1_readWay.data.toList.drop 210 = dktX1_readWay_9 := dk_seg dksX1_readWay_8 24 rfl rfl
theorem dX1_readWay_0 : decode cX1_readWay 0 = .ok (.aload_n 0, 1) := dk_42 (dk_at dksX1_readWay_0 0 rfl rfl)
theorem dX1_readWay_1 : decode cX1_readWay 1 = .ok (.bipush 61, 2) := dk_16 61 (dk_at dksX1_readWay_0 1 rfl rfl)
theorem dX1_readWay_3 : decode cX1_readWay 3 = .ok (.invokevirtual 253, 3) := dk_182 0 253 (dk_at dksX1_readWay_0 3 rfl rfl)
theorem dX1_readWay_6 : decode cX1_readWay 6 = .ok (.ifCond .ne 5, 3) := dk_154 0 5 (dk_at dksX1_readWay_0 6 rfl rfl)
theorem dX1_readWay_9 : decode cX1_readWay 9 = .ok (.iconst 0, 1) := dk_3 (dk_at dksX1_readWay_0 9 rfl rfl)
theorem dX1_readWay_10 : decode cX1_readWay 10 = .ok (.ireturn, 1) := dk_172 (dk_at dksX1_readWay_0 10 rfl rfl)
theorem dX1_readWay_11 : decode cX1_readWay 11 = .ok (.lconst 0, 1) := dk_9 (dk_at dksX1_readWay_0 11 rfl rfl)
theorem dX1_readWay_12 : decode cX1_readWay 12 = .ok (.lstore_n 3, 1) := dk_66 (dk_at dksX1_readWay_0 12 rfl rfl)
theorem dX1_readWay_13 : decode cX1_readWay 13 = .ok (.iconst 0, 1) := dk_3 (dk_at dksX1_readWay_0 13 rfl rfl)
theorem dX1_readWay_14 : decode cX1_readWay 14 = .ok (.istore 5, 2) := dk_54 5 (dk_at dksX1_readWay_0 14 rfl rfl)
theorem dX1_readWay_16 : decode cX1_readWay 16 = .ok (.iconst 1, 1) := dk_4 (dk_at dksX1_readWay_0 16 rfl rfl)
theorem dX1_readWay_17 : decode cX1_readWay 17 = .ok (.istore 6, 2) := dk_54 6 (dk_at dksX1_readWay_0 17 rfl rfl)
theorem dX1_readWay_19 : decode cX1_readWay 19 = .ok (.iload 6, 2) := dk_21 6 (dk_at dksX1_readWay_0 19 rfl rfl)
theorem dX1_readWay_21 : decode cX1_readWay 21 = .ok (.ifCond .eq 153, 3) := dk_153 0 153 (dk_at dksX1_readWay_0 21 rfl rfl)
theorem dX1_readWay_24 : decode cX1_readWay 24 = .ok (.aload_n 0, 1) := dk_42 (dk_at dksX1_readWay_1 0 rfl rfl)
theorem dX1_readWay_25 : decode cX1_readWay 25 = .ok (.iload 5, 2) := dk_21 5 (dk_at dksX1_readWay_1 1 rfl rfl)
theorem dX1_readWay_27 : decode cX1_readWay 27 = .ok (.putfield 165, 3) := dk_181 0 165 (dk_at dksX1_readWay_1 3 rfl rfl)
theorem dX1_readWay_30 : decode cX1_readWay 30 = .ok (.aload_n 0, 1) := dk_42 (dk_at dksX1_readWay_1 6 rfl rfl)
theorem dX1_readWay_31 : decode cX1_readWay 31 = .ok (.invokevirtual 214, 3) := dk_182 0 214 (dk_at dksX1_readWay_1 7 rfl rfl)
theorem dX1_readWay_34 : decode cX1_readWay 34 = .ok (.ifCond .ne 12, 3) := dk_154 0 12 (dk_at dksX1_readWay_1 10 rfl rfl)
theorem dX1_readWay_37 : decode cX1_readWay 37 = .ok (.aload_n 0, 1) := dk_42 (dk_at dksX1_readWay_1 13 rfl rfl)
theorem dX1_readWay_38 : decode cX1_readWay 38 = .ok (.bipush 45, 2) := dk_16 45 (dk_at dksX1_readWay_1 14 rfl rfl)
theorem dX1_readWay_40 : decode cX1_readWay 40 = .ok (.invokevirtual 184, 3) := dk_182 0 184 (dk_at dksX1_readWay_1 16 rfl rfl)
theorem dX1_readWay_43 : decode cX1_readWay 43 = .ok (.ifCond .eq 7, 3) := dk_153 0 7 (dk_at dksX1_readWay_1 19 rfl rfl)
theorem dX1_readWay_46 : decode cX1_readWay 46 = .ok (.iconst 1, 1) := dk_4 (dk_at dksX1_readWay_1 22 rfl rfl)
theorem dX1_readWay_47 : decode cX1_readWay 47 = .ok (.goto 4, 3) := dk_167 0 4 (dk_at dksX1_readWay_2 0 rfl rfl)
theorem dX1_readWay_50 : decode cX1_readWay 50 = .ok (.iconst 0, 1) := dk_3 (dk_at dksX1_readWay_2 3 rfl rfl)
theorem dX1_readWay_51 : decode cX1_readWay 51 = .ok (.istore 7, 2) := dk_54 7 (dk_at dksX1_readWay_2 4 rfl rfl)
theorem dX1_readWay_53 : decode cX1_readWay 53 = .ok (.iload 7, 2) := dk_21 7 (dk_at dksX1_readWay_2 6 rfl rfl)
theorem dX1_readWay_55 : decode cX1_readWay 55 = .ok (.ifCond .ne 9, 3) := dk_154 0 9 (dk_at dksX1_readWay_2 8 rfl rfl)
theorem dX1_readWay_58 : decode cX1_readWay 58 = .ok (.aload_n 0, 1) := dk_42 (dk_at dksX1_readWay_2 11 rfl rfl)
theorem dX1_readWay_59 : decode cX1_readWay 59 = .ok (.iconst 1, 1) := dk_4 (dk_at dksX1_readWay_2 12 rfl rfl)
theorem dX1_readWay_60 : decode cX1_readWay 60 = .ok (.invokevirtual 187, 3) := dk_182 0 187 (dk_at dksX1_readWay_2 13 rfl rfl)
theorem dX1_readWay_63 : decode cX1_readWay 63 = .ok (.ireturn, 1) := dk_172 (dk_at dksX1_readWay_2 16 rfl rfl)
theorem dX1_readWay_64 : decode cX1_readWay 64 = .ok (.iload 5, 2) := dk_21 5 (dk_at dksX1_readWay_2 17 rfl rfl)
theorem dX1_readWay_66 : decode cX1_readWay 66 = .ok (.aload_n 0, 1) := dk_42 (dk_at dksX1_readWay_2 19 rfl rfl)
theorem dX1_readWay_67 : decode cX1_readWay 67 = .ok (.getfield 9, 3) := dk_180 0 9 (dk_at dksX1_readWay_2 20 rfl rfl)
theorem dX1_readWay_70 : decode cX1_readWay 70 = .ok (.iload_n 1, 1) := dk_27 (dk_at dksX1_readWay_2 23 rfl rfl)
theorem dX1_readWay_71 : decode cX1_readWay 71 = .ok (.iaload, 1) := dk_46 (dk_at dksX1_readWay_3 0 rfl rfl)
theorem dX1_readWay_72 : decode cX1_readWay 72 = .ok (.if_icmp .ne 10, 3) := dk_160 0 10 (dk_at dksX1_readWay_3 1 rfl rfl)
theorem dX1_readWay_75 : decode cX1_readWay 75 = .ok (.aload_n 0, 1) := dk_42 (dk_at dksX1_readWay_3 4 rfl rfl)
theorem dX1_readWay_76 : decode cX1_readWay 76 = .ok (.bipush 7, 2) := dk_16 7 (dk_at dksX1_readWay_3 5 rfl rfl)
theorem dX1_readWay_78 : decode cX1_readWay 78 = .ok (.invokevirtual 187, 3) := dk_182 0 187 (dk_at dksX1_readWay_3 7 rfl rfl)
theorem dX1_readWay_81 : decode cX1_readWay 81 = .ok (.ireturn, 1) := dk_172 (dk_at dksX1_readWay_3 10 rfl rfl)
theorem dX1_readWay_82 : decode cX1_readWay 82 = .ok (.aload_n 0, 1) := dk_42 (dk_at dksX1_readWay_3 11 rfl rfl)
theorem dX1_readWay_83 : decode cX1_readWay 83 = .ok (.invokevirtual 228, 3) := dk_182 0 228 (dk_at dksX1_readWay_3 12 rfl rfl)
theorem dX1_readWay_86 : decode cX1_readWay 86 = .ok (.ifCond .ne 5, 3) := dk_154 0 5 (dk_at dksX1_readWay_3 15 rfl rfl)
theorem dX1_readWay_89 : decode cX1_readWay 89 = .ok (.iconst 0, 1) := dk_3 (dk_at dksX1_readWay_3 18 rfl rfl)
theorem dX1_readWay_90 : decode cX1_readWay 90 = .ok (.ireturn, 1) := dk_172 (dk_at dksX1_readWay_3 19 rfl rfl)
theorem dX1_readWay_91 : decode cX1_readWay 91 = .ok (.aload_n 0, 1) := dk_42 (dk_at dksX1_readWay_3 20 rfl rfl)
theorem dX1_readWay_92 : decode cX1_readWay 92 = .ok (.invokevirtual 231, 3) := dk_182 0 231 (dk_at dksX1_readWay_3 21 rfl rfl)
theorem dX1_readWay_95 : decode cX1_readWay 95 = .ok (.i2l, 1) := dk_133 (dk_at dksX1_readWay_4 0 rfl rfl)
theorem dX1_readWay_96 : decode cX1_readWay 96 = .ok (.aload_n 0, 1) := dk_42 (dk_at dksX1_readWay_4 1 rfl rfl)
theorem dX1_readWay_97 : decode cX1_readWay 97 = .ok (.iload_n 1, 1) := dk_27 (dk_at dksX1_readWay_4 2 rfl rfl)
theorem dX1_readWay_98 : decode cX1_readWay 98 = .ok (.iload 5, 2) := dk_21 5 (dk_at dksX1_readWay_4 3 rfl rfl)
theorem dX1_readWay_100 : decode cX1_readWay 100 = .ok (.iconst 2, 1) := dk_5 (dk_at dksX1_readWay_4 5 rfl rfl)
theorem dX1_readWay_101 : decode cX1_readWay 101 = .ok (.invokevirtual 93, 3) := dk_182 0 93 (dk_at dksX1_readWay_4 6 rfl rfl)
theorem dX1_readWay_104 : decode cX1_readWay 104 = .ok (.i2l, 1) := dk_133 (dk_at dksX1_readWay_4 9 rfl rfl)
theorem dX1_readWay_105 : decode cX1_readWay 105 = .ok (.aload_n 0, 1) := dk_42 (dk_at dksX1_readWay_4 10 rfl rfl)
theorem dX1_readWay_106 : decode cX1_readWay 106 = .ok (.iload_n 1, 1) := dk_27 (dk_at dksX1_readWay_4 11 rfl rfl)
theorem dX1_readWay_107 : decode cX1_readWay 107 = .ok (.iload 5, 2) := dk_21 5 (dk_at dksX1_readWay_4 12 rfl rfl)
theorem dX1_readWay_109 : decode cX1_readWay 109 = .ok (.iconst 3, 1) := dk_6 (dk_at dksX1_readWay_4 14 rfl rfl)
theorem dX1_readWay_110 : decode cX1_readWay 110 = .ok (.invokevirtual 93, 3) := dk_182 0 93 (dk_at dksX1_readWay_4 15 rfl rfl)
theorem dX1_readWay_113 : decode cX1_readWay 113 = .ok (.i2l, 1) := dk_133 (dk_at dksX1_readWay_4 18 rfl rfl)
theorem dX1_readWay_114 : decode cX1_readWay 114 = .ok (.invokestatic 105, 3) := dk_184 0 105 (dk_at dksX1_readWay_4 19 rfl rfl)
theorem dX1_readWay_117 : decode cX1_readWay 117 = .ok (.ifCond .ne 10, 3) := dk_154 0 10 (dk_at dksX1_readWay_5 0 rfl rfl)
theorem dX1_readWay_120 : decode cX1_readWay 120 = .ok (.aload_n 0, 1) := dk_42 (dk_at dksX1_readWay_5 3 rfl rfl)
theorem dX1_readWay_121 : decode cX1_readWay 121 = .ok (.bipush 6, 2) := dk_16 6 (dk_at dksX1_readWay_5 4 rfl rfl)
theorem dX1_readWay_123 : decode cX1_readWay 123 = .ok (.invokevirtual 187, 3) := dk_182 0 187 (dk_at dksX1_readWay_5 6 rfl rfl)
theorem dX1_readWay_126 : decode cX1_readWay 126 = .ok (.ireturn, 1) := dk_172 (dk_at dksX1_readWay_5 9 rfl rfl)
theorem dX1_readWay_127 : decode cX1_readWay 127 = .ok (.lload_n 3, 1) := dk_33 (dk_at dksX1_readWay_5 10 rfl rfl)
theorem dX1_readWay_128 : decode cX1_readWay 128 = .ok (.aload_n 0, 1) := dk_42 (dk_at dksX1_readWay_5 11 rfl rfl)
theorem dX1_readWay_129 : decode cX1_readWay 129 = .ok (.iload_n 1, 1) := dk_27 (dk_at dksX1_readWay_5 12 rfl rfl)
theorem dX1_readWay_130 : decode cX1_readWay 130 = .ok (.iload 5, 2) := dk_21 5 (dk_at dksX1_readWay_5 13 rfl rfl)
theorem dX1_readWay_132 : decode cX1_readWay 132 = .ok (.aload_n 0, 1) := dk_42 (dk_at dksX1_readWay_5 15 rfl rfl)
theorem dX1_readWay_133 : decode cX1_readWay 133 = .ok (.invokevirtual 231, 3) := dk_182 0 231 (dk_at dksX1_readWay_5 16 rfl rfl)
theorem dX1_readWay_136 : decode cX1_readWay 136 = .ok (.i2l, 1) := dk_133 (dk_at dksX1_readWay_5 19 rfl rfl)
theorem dX1_readWay_137 : decode cX1_readWay 137 = .ok (.invokevirtual 234, 3) := dk_182 0 234 (dk_at dksX1_readWay_5 20 rfl rfl)
theorem dX1_readWay_140 : decode cX1_readWay 140 = .ok (.ladd, 1) := dk_97 (dk_at dksX1_readWay_5 23 rfl rfl)
theorem dX1_readWay_141 : decode cX1_readWay 141 = .ok (.lstore_n 3, 1) := dk_66 (dk_at dksX1_readWay_6 0 rfl rfl)
theorem dX1_readWay_142 : decode cX1_readWay 142 = .ok (.aload_n 0, 1) := dk_42 (dk_at dksX1_readWay_6 1 rfl rfl)
theorem dX1_readWay_143 : decode cX1_readWay 143 = .ok (.invokevirtual 190, 3) := dk_182 0 190 (dk_at dksX1_readWay_6 2 rfl rfl)
theorem dX1_readWay_146 : decode cX1_readWay 146 = .ok (.aload_n 0, 1) := dk_42 (dk_at dksX1_readWay_6 5 rfl rfl)
theorem dX1_readWay_147 : decode cX1_readWay 147 = .ok (.iconst (-1), 1) := dk_2 (dk_at dksX1_readWay_6 6 rfl rfl)
theorem dX1_readWay_148 : decode cX1_readWay 148 = .ok (.putfield 165, 3) := dk_181 0 165 (dk_at dksX1_readWay_6 7 rfl rfl)
theorem dX1_readWay_151 : decode cX1_readWay 151 = .ok (.iinc 5 1, 3) := dk_132 5 1 (dk_at dksX1_readWay_6 10 rfl rfl)
theorem dX1_readWay_154 : decode cX1_readWay 154 = .ok (.aload_n 0, 1) := dk_42 (dk_at dksX1_readWay_6 13 rfl rfl)
theorem dX1_readWay_155 : decode cX1_readWay 155 = .ok (.bipush 44, 2) := dk_16 44 (dk_at dksX1_readWay_6 14 rfl rfl)
theorem dX1_readWay_157 : decode cX1_readWay 157 = .ok (.invokevirtual 184, 3) := dk_182 0 184 (dk_at dksX1_readWay_6 16 rfl rfl)
theorem dX1_readWay_160 : decode cX1_readWay 160 = .ok (.istore 6, 2) := dk_54 6 (dk_at dksX1_readWay_6 19 rfl rfl)
theorem dX1_readWay_162 : decode cX1_readWay 162 = .ok (.iload 6, 2) := dk_21 6 (dk_at dksX1_readWay_6 21 rfl rfl)
theorem dX1_readWay_164 : decode cX1_readWay 164 = .ok (.ifCond .eq 7, 3) := dk_153 0 7 (dk_at dksX1_readWay_7 0 rfl rfl)
theorem dX1_readWay_167 : decode cX1_readWay 167 = .ok (.aload_n 0, 1) := dk_42 (dk_at dksX1_readWay_7 3 rfl rfl)
theorem dX1_readWay_168 : decode cX1_readWay 168 = .ok (.invokevirtual 190, 3) := dk_182 0 190 (dk_at dksX1_readWay_7 4 rfl rfl)
theorem dX1_readWay_171 : decode cX1_readWay 171 = .ok (.goto (-152), 3) := dk_167 255 104 (dk_at dksX1_readWay_7 7 rfl rfl)
theorem dX1_readWay_174 : decode cX1_readWay 174 = .ok (.aload_n 0, 1) := dk_42 (dk_at dksX1_readWay_7 10 rfl rfl)
theorem dX1_readWay_175 : decode cX1_readWay 175 = .ok (.bipush 59, 2) := dk_16 59 (dk_at dksX1_readWay_7 11 rfl rfl)
theorem dX1_readWay_177 : decode cX1_readWay 177 = .ok (.invokevirtual 184, 3) := dk_182 0 184 (dk_at dksX1_readWay_7 13 rfl rfl)
theorem dX1_readWay_180 : decode cX1_readWay 180 = .ok (.ifCond .eq 21, 3) := dk_153 0 21 (dk_at dksX1_readWay_7 16 rfl rfl)
theorem dX1_readWay_183 : decode cX1_readWay 183 = .ok (.iload 5, 2) := dk_21 5 (dk_at dksX1_readWay_7 19 rfl rfl)
theorem dX1_readWay_185 : decode cX1_readWay 185 = .ok (.aload_n 0, 1) := dk_42 (dk_at dksX1_readWay_7 21 rfl rfl)
theorem dX1_readWay_186 : decode cX1_readWay 186 = .ok (.getfield 9, 3) := dk_180 0 9 (dk_at dksX1_readWay_8 0 rfl rfl)
theorem dX1_readWay_189 : decode cX1_readWay 189 = .ok (.iload_n 1, 1) := dk_27 (dk_at dksX1_readWay_8 3 rfl rfl)
theorem dX1_readWay_190 : decode cX1_readWay 190 = .ok (.iaload, 1) := dk_46 (dk_at dksX1_readWay_8 4 rfl rfl)
theorem dX1_readWay_191 : decode cX1_readWay 191 = .ok (.if_icmp .ge 10, 3) := dk_162 0 10 (dk_at dksX1_readWay_8 5 rfl rfl)
theorem dX1_readWay_194 : decode cX1_readWay 194 = .ok (.aload_n 0, 1) := dk_42 (dk_at dksX1_readWay_8 8 rfl rfl)
theorem dX1_readWay_195 : decode cX1_readWay 195 = .ok (.bipush 7, 2) := dk_16 7 (dk_at dksX1_readWay_8 9 rfl rfl)
theorem dX1_readWay_197 : decode cX1_readWay 197 = .ok (.invokevirtual 187, 3) := dk_182 0 187 (dk_at dksX1_readWay_8 11 rfl rfl)
theorem dX1_readWay_200 : decode cX1_readWay 200 = .ok (.ireturn, 1) := dk_172 (dk_at dksX1_readWay_8 14 rfl rfl)
theorem dX1_readWay_201 : decode cX1_readWay 201 = .ok (.aload_n 0, 1) := dk_42 (dk_at dksX1_readWay_8 15 rfl rfl)
theorem dX1_readWay_202 : decode cX1_readWay 202 = .ok (.bipush 59, 2) := dk_16 59 (dk_at dksX1_readWay_8 16 rfl rfl)
theorem dX1_readWay_204 : decode cX1_readWay 204 = .ok (.invokevirtual 184, 3) := dk_182 0 184 (dk_at dksX1_readWay_8 18 rfl rfl)
theorem dX1_readWay_207 : decode cX1_readWay 207 = .ok (.ifCond .eq 19, 3) := dk_153 0 19 (dk_at dksX1_readWay_8 21 rfl rfl)
theorem dX1_readWay_210 : decode cX1_readWay 210 = .ok (.lload_n 3, 1) := dk_33 (dk_at dksX1_readWay_9 0 rfl rfl)
theorem dX1_readWay_211 : decode cX1_readWay 211 = .ok (.iload_n 2, 1) := dk_28 (dk_at dksX1_readWay_9 1 rfl rfl)
theorem dX1_readWay_212 : decode cX1_readWay 212 = .ok (.i2l, 1) := dk_133 (dk_at dksX1_readWay_9 2 rfl rfl)
theorem dX1_readWay_213 : decode cX1_readWay 213 = .ok (.lcmp, 1) := dk_148 (dk_at dksX1_readWay_9 3 rfl rfl)
theorem dX1_readWay_214 : decode cX1_readWay 214 = .ok (.ifCond .eq 12, 3) := dk_153 0 12 (dk_at dksX1_readWay_9 4 rfl rfl)
theorem dX1_readWay_217 : decode cX1_readWay 217 = .ok (.aload_n 0, 1) := dk_42 (dk_at dksX1_readWay_9 7 rfl rfl)
theorem dX1_readWay_218 : decode cX1_readWay 218 = .ok (.bipush 8, 2) := dk_16 8 (dk_at dksX1_readWay_9 8 rfl rfl)
theorem dX1_readWay_220 : decode cX1_readWay 220 = .ok (.invokevirtual 187, 3) := dk_182 0 187 (dk_at dksX1_readWay_9 10 rfl rfl)
theorem dX1_readWay_223 : decode cX1_readWay 223 = .ok (.ifCond .eq 7, 3) := dk_153 0 7 (dk_at dksX1_readWay_9 13 rfl rfl)
theorem dX1_readWay_226 : decode cX1_readWay 226 = .ok (.iconst 1, 1) := dk_4 (dk_at dksX1_readWay_9 16 rfl rfl)
theorem dX1_readWay_227 : decode cX1_readWay 227 = .ok (.goto 4, 3) := dk_167 0 4 (dk_at dksX1_readWay_9 17 rfl rfl)
theorem dX1_readWay_230 : decode cX1_readWay 230 = .ok (.iconst 0, 1) := dk_3 (dk_at dksX1_readWay_9 20 rfl rfl)
theorem dX1_readWay_231 : decode cX1_readWay 231 = .ok (.ireturn, 1) := dk_172 (dk_at dksX1_readWay_9 21 rfl rfl)
abbrev cX1_identity : ByteArray := prog_24_method_60_code
def yX1_identity : MethodName := ⟨RX1, "identity", "()I"⟩
def dkwX1_identity_5 : List UInt8 := [180, 0, 66, 17, 3, 132, 28, 96, 46, 79, 132, 2, 1, 167, 255, 213, 42, 180, 1, 117, 184, 1, 120, 172]
abbrev dktX1_identity_5 : List UInt8 := dkwX1_identity_5 ++ []
def dkwX1_identity_4 : List UInt8 := [42, 180, 0, 63, 28, 42, 180, 0, 63, 17, 3, 132, 28, 96, 46, 79, 42, 180, 0, 66, 28, 42]
abbrev dktX1_identity_4 : List UInt8 := dkwX1_identity_4 ++ dktX1_identity_5
def dkwX1_identity_3 : List UInt8 := [46, 79, 42, 180, 0, 69, 4, 42, 180, 0, 69, 6, 46, 79, 3, 61, 28, 42, 180, 1, 82, 162, 0, 41]
abbrev dktX1_identity_3 : List UInt8 := dkwX1_identity_3 ++ dktX1_identity_4
def dkwX1_identity_2 : List UInt8 := [180, 1, 99, 181, 1, 114, 42, 42, 180, 1, 105, 181, 1, 117, 42, 180, 0, 69, 3, 42, 180, 0, 69, 5]
abbrev dktX1_identity_2 : List UInt8 := dkwX1_identity_2 ++ dktX1_identity_3
def dkwX1_identity_1 : List UInt8 := [42, 182, 1, 108, 60, 42, 182, 1, 0, 87, 27, 154, 0, 5, 2, 172, 42, 4, 181, 1, 111, 42, 42]
abbrev dktX1_identity_1 : List UInt8 := dkwX1_identity_1 ++ dktX1_identity_2
def dkwX1_identity_0 : List UInt8 := [42, 182, 0, 247, 42, 3, 181, 0, 165, 42, 3, 181, 1, 82, 42, 3, 181, 1, 99, 42, 3, 181, 1, 105]
abbrev dktX1_identity_0 : List UInt8 := dkwX1_identity_0 ++ dktX1_identity_1
theorem dksX1_identity_0 : cX1_identity.data.toList.drop 0 = dktX1_identity_0 := by decide +kernel
theorem dksX1_identity_1 : cX1_identity.data.toList.drop 24 = dktX1_identity_1 := dk_seg dksX1_identity_0 24 rfl rfl
theorem dksX1_identity_2 : cX1_identity.data.toList.drop 47 = dktX1_identity_2 := dk_seg dksX1_identity_1 23 rfl rfl
theorem dksX1_identity_3 : cX1_identity.data.toList.drop 71 = dktX1_identity_3 := dk_seg dksX1_identity_2 24 rfl rfl
theorem dksX1_identity_4 : cX1_identity.data.toList.drop 95 = dktX1_identity_4 := dk_seg dksX1_identity_3 24 rfl rfl
theorem dksX1_identity_5 : cX1_identity.data.toList.drop 117 = dktX1_identity_5 := dk_seg dksX1_identity_4 22 rfl rfl
theorem dX1_identity_0 : decode cX1_identity 0 = .ok (.aload_n 0, 1) := dk_42 (dk_at dksX1_identity_0 0 rfl rfl)
theorem dX1_identity_1 : decode cX1_identity 1 = .ok (.invokevirtual 247, 3) := dk_182 0 247 (dk_at dksX1_identity_0 1 rfl rfl)
theorem dX1_identity_4 : decode cX1_identity 4 = .ok (.aload_n 0, 1) := dk_42 (dk_at dksX1_identity_0 4 rfl rfl)
theorem dX1_identity_5 : decode cX1_identity 5 = .ok (.iconst 0, 1) := dk_3 (dk_at dksX1_identity_0 5 rfl rfl)
theorem dX1_identity_6 : decode cX1_identity 6 = .ok (.putfield 165, 3) := dk_181 0 165 (dk_at dksX1_identity_0 6 rfl rfl)
theorem dX1_identity_9 : decode cX1_identity 9 = .ok (.aload_n 0, 1) := dk_42 (dk_at dksX1_identity_0 9 rfl rfl)
theorem dX1_identity_10 : decode cX1_identity 10 = .ok (.iconst 0, 1) := dk_3 (dk_at dksX1_identity_0 10 rfl rfl)
theorem dX1_identity_11 : decode cX1_identity 11 = .ok (.putfield 338, 3) := dk_181 1 82 (dk_at dksX1_identity_0 11 rfl rfl)
theorem dX1_identity_14 : decode cX1_identity 14 = .ok (.aload_n 0, 1) := dk_42 (dk_at dksX1_identity_0 14 rfl rfl)
theorem dX1_identity_15 : decode cX1_identity 15 = .ok (.iconst 0, 1) := dk_3 (dk_at dksX1_identity_0 15 rfl rfl)
theorem dX1_identity_16 : decode cX1_identity 16 = .ok (.putfield 355, 3) := dk_181 1 99 (dk_at dksX1_identity_0 16 rfl rfl)
theorem dX1_identity_19 : decode cX1_identity 19 = .ok (.aload_n 0, 1) := dk_42 (dk_at dksX1_identity_0 19 rfl rfl)
theorem dX1_identity_20 : decode cX1_identity 20 = .ok (.iconst 0, 1) := dk_3 (dk_at dksX1_identity_0 20 rfl rfl)
theorem dX1_identity_21 : decode cX1_identity 21 = .ok (.putfield 361, 3) := dk_181 1 105 (dk_at dksX1_identity_0 21 rfl rfl)
theorem dX1_identity_24 : decode cX1_identity 24 = .ok (.aload_n 0, 1) := dk_42 (dk_at dksX1_identity_1 0 rfl rfl)
theorem dX1_identity_25 : decode cX1_identity 25 = .ok (.invokevirtual 364, 3) := dk_182 1 108 (dk_at dksX1_identity_1 1 rfl rfl)
theorem dX1_identity_28 : decode cX1_identity 28 = .ok (.istore_n 1, 1) := dk_60 (dk_at dksX1_identity_1 4 rfl rfl)
theorem dX1_identity_29 : decode cX1_identity 29 = .ok (.aload_n 0, 1) := dk_42 (dk_at dksX1_identity_1 5 rfl rfl)
theorem dX1_identity_30 : decode cX1_identity 30 = .ok (.invokevirtual 256, 3) := dk_182 1 0 (dk_at dksX1_identity_1 6 rfl rfl)
theorem dX1_identity_33 : decode cX1_identity 33 = .ok (.pop, 1) := dk_87 (dk_at dksX1_identity_1 9 rfl rfl)
theorem dX1_identity_34 : decode cX1_identity 34 = .ok (.iload_n 1, 1) := dk_27 (dk_at dksX1_identity_1 10 rfl rfl)
theorem dX1_identity_35 : decode cX1_identity 35 = .ok (.ifCond .ne 5, 3) := dk_154 0 5 (dk_at dksX1_identity_1 11 rfl rfl)
theorem dX1_identity_38 : decode cX1_identity 38 = .ok (.iconst (-1), 1) := dk_2 (dk_at dksX1_identity_1 14 rfl rfl)
theorem dX1_identity_39 : decode cX1_identity 39 = .ok (.ireturn, 1) := dk_172 (dk_at dksX1_identity_1 15 rfl rfl)
theorem dX1_identity_40 : decode cX1_identity 40 = .ok (.aload_n 0, 1) := dk_42 (dk_at dksX1_identity_1 16 rfl rfl)
theorem dX1_identity_41 : decode cX1_identity 41 = .ok (.iconst 1, 1) := dk_4 (dk_at dksX1_identity_1 17 rfl rfl)
theorem dX1_identity_42 : decode cX1_identity 42 = .ok (.putfield 367, 3) := dk_181 1 111 (dk_at dksX1_identity_1 18 rfl rfl)
theorem dX1_identity_45 : decode cX1_identity 45 = .ok (.aload_n 0, 1) := dk_42 (dk_at dksX1_identity_1 21 rfl rfl)
theorem dX1_identity_46 : decode cX1_identity 46 = .ok (.aload_n 0, 1) := dk_42 (dk_at dksX1_identity_1 22 rfl rfl)
theorem dX1_identity_47 : decode cX1_identity 47 = .ok (.getfield 355, 3) := dk_180 1 99 (dk_at dksX1_identity_2 0 rfl rfl)
theorem dX1_identity_50 : decode cX1_identity 50 = .ok (.putfield 370, 3) := dk_181 1 114 (dk_at dksX1_identity_2 3 rfl rfl)
theorem dX1_identity_53 : decode cX1_identity 53 = .ok (.aload_n 0, 1) := dk_42 (dk_at dksX1_identity_2 6 rfl rfl)
theorem dX1_identity_54 : decode cX1_identity 54 = .ok (.aload_n 0, 1) := dk_42 (dk_at dksX1_identity_2 7 rfl rfl)
theorem dX1_identity_55 : decode cX1_identity 55 = .ok (.getfield 361, 3) := dk_180 1 105 (dk_at dksX1_identity_2 8 rfl rfl)
theorem dX1_identity_58 : decode cX1_identity 58 = .ok (.putfield 373, 3) := dk_181 1 117 (dk_at dksX1_identity_2 11 rfl rfl)
theorem dX1_identity_61 : decode cX1_identity 61 = .ok (.aload_n 0, 1) := dk_42 (dk_at dksX1_identity_2 14 rfl rfl)
theorem dX1_identity_62 : decode cX1_identity 62 = .ok (.getfield 69, 3) := dk_180 0 69 (dk_at dksX1_identity_2 15 rfl rfl)
theorem dX1_identity_65 : decode cX1_identity 65 = .ok (.iconst 0, 1) := dk_3 (dk_at dksX1_identity_2 18 rfl rfl)
theorem dX1_identity_66 : decode cX1_identity 66 = .ok (.aload_n 0, 1) := dk_42 (dk_at dksX1_identity_2 19 rfl rfl)
theorem dX1_identity_67 : decode cX1_identity 67 = .ok (.getfield 69, 3) := dk_180 0 69 (dk_at dksX1_identity_2 20 rfl rfl)
theorem dX1_identity_70 : decode cX1_identity 70 = .ok (.iconst 2, 1) := dk_5 (dk_at dksX1_identity_2 23 rfl rfl)
theorem dX1_identity_71 : decode cX1_identity 71 = .ok (.iaload, 1) := dk_46 (dk_at dksX1_identity_3 0 rfl rfl)
theorem dX1_identity_72 : decode cX1_identity 72 = .ok (.iastore, 1) := dk_79 (dk_at dksX1_identity_3 1 rfl rfl)
theorem dX1_identity_73 : decode cX1_identity 73 = .ok (.aload_n 0, 1) := dk_42 (dk_at dksX1_identity_3 2 rfl rfl)
theorem dX1_identity_74 : decode cX1_identity 74 = .ok (.getfield 69, 3) := dk_180 0 69 (dk_at dksX1_identity_3 3 rfl rfl)
theorem dX1_identity_77 : decode cX1_identity 77 = .ok (.iconst 1, 1) := dk_4 (dk_at dksX1_identity_3 6 rfl rfl)
theorem dX1_identity_78 : decode cX1_identity 78 = .ok (.aload_n 0, 1) := dk_42 (dk_at dksX1_identity_3 7 rfl rfl)
theorem dX1_identity_79 : decode cX1_identity 79 = .ok (.getfield 69, 3) := dk_180 0 69 (dk_at dksX1_identity_3 8 rfl rfl)
theorem dX1_identity_82 : decode cX1_identity 82 = .ok (.iconst 3, 1) := dk_6 (dk_at dksX1_identity_3 11 rfl rfl)
theorem dX1_identity_83 : decode cX1_identity 83 = .ok (.iaload, 1) := dk_46 (dk_at dksX1_identity_3 12 rfl rfl)
theorem dX1_identity_84 : decode cX1_identity 84 = .ok (.iastore, 1) := dk_79 (dk_at dksX1_identity_3 13 rfl rfl)
theorem dX1_identity_85 : decode cX1_identity 85 = .ok (.iconst 0, 1) := dk_3 (dk_at dksX1_identity_3 14 rfl rfl)
theorem dX1_identity_86 : decode cX1_identity 86 = .ok (.istore_n 2, 1) := dk_61 (dk_at dksX1_identity_3 15 rfl rfl)
theorem dX1_identity_87 : decode cX1_identity 87 = .ok (.iload_n 2, 1) := dk_28 (dk_at dksX1_identity_3 16 rfl rfl)
theorem dX1_identity_88 : decode cX1_identity 88 = .ok (.aload_n 0, 1) := dk_42 (dk_at dksX1_identity_3 17 rfl rfl)
theorem dX1_identity_89 : decode cX1_identity 89 = .ok (.getfield 338, 3) := dk_180 1 82 (dk_at dksX1_identity_3 18 rfl rfl)
theorem dX1_identity_92 : decode cX1_identity 92 = .ok (.if_icmp .ge 41, 3) := dk_162 0 41 (dk_at dksX1_identity_3 21 rfl rfl)
theorem dX1_identity_95 : decode cX1_identity 95 = .ok (.aload_n 0, 1) := dk_42 (dk_at dksX1_identity_4 0 rfl rfl)
theorem dX1_identity_96 : decode cX1_identity 96 = .ok (.getfield 63, 3) := dk_180 0 63 (dk_at dksX1_identity_4 1 rfl rfl)
theorem dX1_identity_99 : decode cX1_identity 99 = .ok (.iload_n 2, 1) := dk_28 (dk_at dksX1_identity_4 4 rfl rfl)
theorem dX1_identity_100 : decode cX1_identity 100 = .ok (.aload_n 0, 1) := dk_42 (dk_at dksX1_identity_4 5 rfl rfl)
theorem dX1_identity_101 : decode cX1_identity 101 = .ok (.getfield 63, 3) := dk_180 0 63 (dk_at dksX1_identity_4 6 rfl rfl)
theorem dX1_identity_104 : decode cX1_identity 104 = .ok (.sipush 900, 3) := dk_17 3 132 (dk_at dksX1_identity_4 9 rfl rfl)
theorem dX1_identity_107 : decode cX1_identity 107 = .ok (.iload_n 2, 1) := dk_28 (dk_at dksX1_identity_4 12 rfl rfl)
theorem dX1_identity_108 : decode cX1_identity 108 = .ok (.iadd, 1) := dk_96 (dk_at dksX1_identity_4 13 rfl rfl)
theorem dX1_identity_109 : decode cX1_identity 109 = .ok (.iaload, 1) := dk_46 (dk_at dksX1_identity_4 14 rfl rfl)
theorem dX1_identity_110 : decode cX1_identity 110 = .ok (.iastore, 1) := dk_79 (dk_at dksX1_identity_4 15 rfl rfl)
theorem dX1_identity_111 : decode cX1_identity 111 = .ok (.aload_n 0, 1) := dk_42 (dk_at dksX1_identity_4 16 rfl rfl)
theorem dX1_identity_112 : decode cX1_identity 112 = .ok (.getfield 66, 3) := dk_180 0 66 (dk_at dksX1_identity_4 17 rfl rfl)
theorem dX1_identity_115 : decode cX1_identity 115 = .ok (.iload_n 2, 1) := dk_28 (dk_at dksX1_identity_4 20 rfl rfl)
theorem dX1_identity_116 : decode cX1_identity 116 = .ok (.aload_n 0, 1) := dk_42 (dk_at dksX1_identity_4 21 rfl rfl)
theorem dX1_identity_117 : decode cX1_identity 117 = .ok (.getfield 66, 3) := dk_180 0 66 (dk_at dksX1_identity_5 0 rfl rfl)
theorem dX1_identity_120 : decode cX1_identity 120 = .ok (.sipush 900, 3) := dk_17 3 132 (dk_at dksX1_identity_5 3 rfl rfl)
theorem dX1_identity_123 : decode cX1_identity 123 = .ok (.iload_n 2, 1) := dk_28 (dk_at dksX1_identity_5 6 rfl rfl)
theorem dX1_identity_124 : decode cX1_identity 124 = .ok (.iadd, 1) := dk_96 (dk_at dksX1_identity_5 7 rfl rfl)
theorem dX1_identity_125 : decode cX1_identity 125 = .ok (.iaload, 1) := dk_46 (dk_at dksX1_identity_5 8 rfl rfl)
theorem dX1_identity_126 : decode cX1_identity 126 = .ok (.iastore, 1) := dk_79 (dk_at dksX1_identity_5 9 rfl rfl)
theorem dX1_identity_127 : decode cX1_identity 127 = .ok (.iinc 2 1, 3) := dk_132 2 1 (dk_at dksX1_identity_5 10 rfl rfl)
theorem dX1_identity_130 : decode cX1_identity 130 = .ok (.goto (-43), 3) := dk_167 255 213 (dk_at dksX1_identity_5 13 rfl rfl)
theorem dX1_identity_133 : decode cX1_identity 133 = .ok (.aload_n 0, 1) := dk_42 (dk_at dksX1_identity_5 16 rfl rfl)
theorem dX1_identity_134 : decode cX1_identity 134 = .ok (.getfield 373, 3) := dk_180 1 117 (dk_at dksX1_identity_5 17 rfl rfl)
theorem dX1_identity_137 : decode cX1_identity 137 = .ok (.invokestatic 376, 3) := dk_184 1 120 (dk_at dksX1_identity_5 20 rfl rfl)
theorem dX1_identity_140 : decode cX1_identity 140 = .ok (.ireturn, 1) := dk_172 (dk_at dksX1_identity_5 23 rfl rfl)
abbrev cX1_readIdentity : ByteArray := prog_24_method_59_code
def yX1_readIdentity : MethodName := ⟨RX1, "readIdentity", "()Z"⟩
def dkwX1_readIdentity_3 : List UInt8 := [4, 167, 0, 4, 3, 172]
abbrev dktX1_readIdentity_3 : List UInt8 := dkwX1_readIdentity_3 ++ []
def dkwX1_readIdentity_2 : List UInt8 := [180, 0, 69, 6, 42, 180, 1, 82, 79, 42, 180, 0, 142, 153, 0, 11, 42, 4, 182, 0, 187, 153, 0, 7]
abbrev dktX1_readIdentity_2 : List UInt8 := dkwX1_readIdentity_2 ++ dktX1_readIdentity_3
def dkwX1_readIdentity_1 : List UInt8 := [182, 0, 253, 154, 0, 5, 3, 172, 42, 4, 181, 0, 159, 42, 182, 1, 102, 154, 0, 5, 3, 172, 42]
abbrev dktX1_readIdentity_1 : List UInt8 := dkwX1_readIdentity_1 ++ dktX1_readIdentity_2
def dkwX1_readIdentity_0 : List UInt8 := [42, 182, 1, 102, 154, 0, 5, 3, 172, 42, 180, 0, 69, 5, 42, 180, 1, 82, 79, 42, 16, 61]
abbrev dktX1_readIdentity_0 : List UInt8 := dkwX1_readIdentity_0 ++ dktX1_readIdentity_1
theorem dksX1_readIdentity_0 : cX1_readIdentity.data.toList.drop 0 = dktX1_readIdentity_0 := by decide +kernel
theorem dksX1_readIdentity_1 : cX1_readIdentity.data.toList.drop 22 = dktX1_readIdentity_1 := dk_seg dksX1_readIdentity_0 22 rfl rfl
theorem dksX1_readIdentity_2 : cX1_readIdentity.data.toList.drop 45 = dktX1_readIdentity_2 := dk_seg dksX1_readIdentity_1 23 rfl rfl
theorem dksX1_readIdentity_3 : cX1_readIdentity.data.toList.drop 69 = dktX1_readIdentity_3 := dk_seg dksX1_readIdentity_2 24 rfl rfl
theorem dX1_readIdentity_0 : decode cX1_readIdentity 0 = .ok (.aload_n 0, 1) := dk_42 (dk_at dksX1_readIdentity_0 0 rfl rfl)
theorem dX1_readIdentity_1 : decode cX1_readIdentity 1 = .ok (.invokevirtual 358, 3) := dk_182 1 102 (dk_at dksX1_readIdentity_0 1 rfl rfl)
theorem dX1_readIdentity_4 : decode cX1_readIdentity 4 = .ok (.ifCond .ne 5, 3) := dk_154 0 5 (dk_at dksX1_readIdentity_0 4 rfl rfl)
theorem dX1_readIdentity_7 : decode cX1_readIdentity 7 = .ok (.iconst 0, 1) := dk_3 (dk_at dksX1_readIdentity_0 7 rfl rfl)
theorem dX1_readIdentity_8 : decode cX1_readIdentity 8 = .ok (.ireturn, 1) := dk_172 (dk_at dksX1_readIdentity_0 8 rfl rfl)
theorem dX1_readIdentity_9 : decode cX1_readIdentity 9 = .ok (.aload_n 0, 1) := dk_42 (dk_at dksX1_readIdentity_0 9 rfl rfl)
theorem dX1_readIdentity_10 : decode cX1_readIdentity 10 = .ok (.getfield 69, 3) := dk_180 0 69 (dk_at dksX1_readIdentity_0 10 rfl rfl)
theorem dX1_readIdentity_13 : decode cX1_readIdentity 13 = .ok (.iconst 2, 1) := dk_5 (dk_at dksX1_readIdentity_0 13 rfl rfl)
theorem dX1_readIdentity_14 : decode cX1_readIdentity 14 = .ok (.aload_n 0, 1) := dk_42 (dk_at dksX1_readIdentity_0 14 rfl rfl)
theorem dX1_readIdentity_15 : decode cX1_readIdentity 15 = .ok (.getfield 338, 3) := dk_180 1 82 (dk_at dksX1_readIdentity_0 15 rfl rfl)
theorem dX1_readIdentity_18 : decode cX1_readIdentity 18 = .ok (.iastore, 1) := dk_79 (dk_at dksX1_readIdentity_0 18 rfl rfl)
theorem dX1_readIdentity_19 : decode cX1_readIdentity 19 = .ok (.aload_n 0, 1) := dk_42 (dk_at dksX1_readIdentity_0 19 rfl rfl)
theorem dX1_readIdentity_20 : decode cX1_readIdentity 20 = .ok (.bipush 61, 2) := dk_16 61 (dk_at dksX1_readIdentity_0 20 rfl rfl)
theorem dX1_readIdentity_22 : decode cX1_readIdentity 22 = .ok (.invokevirtual 253, 3) := dk_182 0 253 (dk_at dksX1_readIdentity_1 0 rfl rfl)
theorem dX1_readIdentity_25 : decode cX1_readIdentity 25 = .ok (.ifCond .ne 5, 3) := dk_154 0 5 (dk_at dksX1_readIdentity_1 3 rfl rfl)
theorem dX1_readIdentity_28 : decode cX1_readIdentity 28 = .ok (.iconst 0, 1) := dk_3 (dk_at dksX1_readIdentity_1 6 rfl rfl)
theorem dX1_readIdentity_29 : decode cX1_readIdentity 29 = .ok (.ireturn, 1) := dk_172 (dk_at dksX1_readIdentity_1 7 rfl rfl)
theorem dX1_readIdentity_30 : decode cX1_readIdentity 30 = .ok (.aload_n 0, 1) := dk_42 (dk_at dksX1_readIdentity_1 8 rfl rfl)
theorem dX1_readIdentity_31 : decode cX1_readIdentity 31 = .ok (.iconst 1, 1) := dk_4 (dk_at dksX1_readIdentity_1 9 rfl rfl)
theorem dX1_readIdentity_32 : decode cX1_readIdentity 32 = .ok (.putfield 159, 3) := dk_181 0 159 (dk_at dksX1_readIdentity_1 10 rfl rfl)
theorem dX1_readIdentity_35 : decode cX1_readIdentity 35 = .ok (.aload_n 0, 1) := dk_42 (dk_at dksX1_readIdentity_1 13 rfl rfl)
theorem dX1_readIdentity_36 : decode cX1_readIdentity 36 = .ok (.invokevirtual 358, 3) := dk_182 1 102 (dk_at dksX1_readIdentity_1 14 rfl rfl)
theorem dX1_readIdentity_39 : decode cX1_readIdentity 39 = .ok (.ifCond .ne 5, 3) := dk_154 0 5 (dk_at dksX1_readIdentity_1 17 rfl rfl)
theorem dX1_readIdentity_42 : decode cX1_readIdentity 42 = .ok (.iconst 0, 1) := dk_3 (dk_at dksX1_readIdentity_1 20 rfl rfl)
theorem dX1_readIdentity_43 : decode cX1_readIdentity 43 = .ok (.ireturn, 1) := dk_172 (dk_at dksX1_readIdentity_1 21 rfl rfl)
theorem dX1_readIdentity_44 : decode cX1_readIdentity 44 = .ok (.aload_n 0, 1) := dk_42 (dk_at dksX1_readIdentity_1 22 rfl rfl)
theorem dX1_readIdentity_45 : decode cX1_readIdentity 45 = .ok (.getfield 69, 3) := dk_180 0 69 (dk_at dksX1_readIdentity_2 0 rfl rfl)
theorem dX1_readIdentity_48 : decode cX1_readIdentity 48 = .ok (.iconst 3, 1) := dk_6 (dk_at dksX1_readIdentity_2 3 rfl rfl)
theorem dX1_readIdentity_49 : decode cX1_readIdentity 49 = .ok (.aload_n 0, 1) := dk_42 (dk_at dksX1_readIdentity_2 4 rfl rfl)
theorem dX1_readIdentity_50 : decode cX1_readIdentity 50 = .ok (.getfield 338, 3) := dk_180 1 82 (dk_at dksX1_readIdentity_2 5 rfl rfl)
theorem dX1_readIdentity_53 : decode cX1_readIdentity 53 = .ok (.iastore, 1) := dk_79 (dk_at dksX1_readIdentity_2 8 rfl rfl)
theorem dX1_readIdentity_54 : decode cX1_readIdentity 54 = .ok (.aload_n 0, 1) := dk_42 (dk_at dksX1_readIdentity_2 9 rfl rfl)
theorem dX1_readIdentity_55 : decode cX1_readIdentity 55 = .ok (.getfield 142, 3) := dk_180 0 142 (dk_at dksX1_readIdentity_2 10 rfl rfl)
theorem dX1_readIdentity_58 : decode cX1_readIdentity 58 = .ok (.ifCond .eq 11, 3) := dk_153 0 11 (dk_at dksX1_readIdentity_2 13 rfl rfl)
theorem dX1_readIdentity_61 : decode cX1_readIdentity 61 = .ok (.aload_n 0, 1) := dk_42 (dk_at dksX1_readIdentity_2 16 rfl rfl)
theorem dX1_readIdentity_62 : decode cX1_readIdentity 62 = .ok (.iconst 1, 1) := dk_4 (dk_at dksX1_readIdentity_2 17 rfl rfl)
theorem dX1_readIdentity_63 : decode cX1_readIdentity 63 = .ok (.invokevirtual 187, 3) := dk_182 0 187 (dk_at dksX1_readIdentity_2 18 rfl rfl)
theorem dX1_readIdentity_66 : decode cX1_readIdentity 66 = .ok (.ifCond .eq 7, 3) := dk_153 0 7 (dk_at dksX1_readIdentity_2 21 rfl rfl)
theorem dX1_readIdentity_69 : decode cX1_readIdentity 69 = .ok (.iconst 1, 1) := dk_4 (dk_at dksX1_readIdentity_3 0 rfl rfl)
theorem dX1_readIdentity_70 : decode cX1_readIdentity 70 = .ok (.goto 4, 3) := dk_167 0 4 (dk_at dksX1_readIdentity_3 1 rfl rfl)
theorem dX1_readIdentity_73 : decode cX1_readIdentity 73 = .ok (.iconst 0, 1) := dk_3 (dk_at dksX1_readIdentity_3 4 rfl rfl)
theorem dX1_readIdentity_74 : decode cX1_readIdentity 74 = .ok (.ireturn, 1) := dk_172 (dk_at dksX1_readIdentity_3 5 rfl rfl)
abbrev cX1_readSum : ByteArray := prog_24_method_55_code
def yX1_readSum : MethodName := ⟨RX1, "readSum", "()Z"⟩
def dkwX1_readSum_2 : List UInt8 := [182, 1, 88, 167, 255, 214, 4, 172]
abbrev dktX1_readSum_2 : List UInt8 := dkwX1_readSum_2 ++ []
def dkwX1_readSum_1 : List UInt8 := [153, 0, 30, 42, 180, 0, 139, 60, 42, 182, 0, 190, 42, 182, 1, 85, 154, 0, 5, 3, 172, 42, 27, 3]
abbrev dktX1_readSum_1 : List UInt8 := dkwX1_readSum_1 ++ dktX1_readSum_2
def dkwX1_readSum_0 : List UInt8 := [42, 182, 1, 85, 154, 0, 5, 3, 172, 42, 16, 43, 182, 0, 184, 154, 0, 12, 42, 16, 45, 182, 0, 184]
abbrev dktX1_readSum_0 : List UInt8 := dkwX1_readSum_0 ++ dktX1_readSum_1
theorem dksX1_readSum_0 : cX1_readSum.data.toList.drop 0 = dktX1_readSum_0 := by decide +kernel
theorem dksX1_readSum_1 : cX1_readSum.data.toList.drop 24 = dktX1_readSum_1 := dk_seg dksX1_readSum_0 24 rfl rfl
theorem dksX1_readSum_2 : cX1_readSum.data.toList.drop 48 = dktX1_readSum_2 := dk_seg dksX1_readSum_1 24 rfl rfl
theorem dX1_readSum_0 : decode cX1_readSum 0 = .ok (.aload_n 0, 1) := dk_42 (dk_at dksX1_readSum_0 0 rfl rfl)
theorem dX1_readSum_1 : decode cX1_readSum 1 = .ok (.invokevirtual 341, 3) := dk_182 1 85 (dk_at dksX1_readSum_0 1 rfl rfl)
theorem dX1_readSum_4 : decode cX1_readSum 4 = .ok (.ifCond .ne 5, 3) := dk_154 0 5 (dk_at dksX1_readSum_0 4 rfl rfl)
theorem dX1_readSum_7 : decode cX1_readSum 7 = .ok (.iconst 0, 1) := dk_3 (dk_at dksX1_readSum_0 7 rfl rfl)
theorem dX1_readSum_8 : decode cX1_readSum 8 = .ok (.ireturn, 1) := dk_172 (dk_at dksX1_readSum_0 8 rfl rfl)
theorem dX1_readSum_9 : decode cX1_readSum 9 = .ok (.aload_n 0, 1) := dk_42 (dk_at dksX1_readSum_0 9 rfl rfl)
theorem dX1_readSum_10 : decode cX1_readSum 10 = .ok (.bipush 43, 2) := dk_16 43 (dk_at dksX1_readSum_0 10 rfl rfl)
theorem dX1_readSum_12 : decode cX1_readSum 12 = .ok (.invokevirtual 184, 3) := dk_182 0 184 (dk_at dksX1_readSum_0 12 rfl rfl)
theorem dX1_readSum_15 : decode cX1_readSum 15 = .ok (.ifCond .ne 12, 3) := dk_154 0 12 (dk_at dksX1_readSum_0 15 rfl rfl)
theorem dX1_readSum_18 : decode cX1_readSum 18 = .ok (.aload_n 0, 1) := dk_42 (dk_at dksX1_readSum_0 18 rfl rfl)
theorem dX1_readSum_19 : decode cX1_readSum 19 = .ok (.bipush 45, 2) := dk_16 45 (dk_at dksX1_readSum_0 19 rfl rfl)
theorem dX1_readSum_21 : decode cX1_readSum 21 = .ok (.invokevirtual 184, 3) := dk_182 0 184 (dk_at dksX1_readSum_0 21 rfl rfl)
theorem dX1_readSum_24 : decode cX1_readSum 24 = .ok (.ifCond .eq 30, 3) := dk_153 0 30 (dk_at dksX1_readSum_1 0 rfl rfl)
theorem dX1_readSum_27 : decode cX1_readSum 27 = .ok (.aload_n 0, 1) := dk_42 (dk_at dksX1_readSum_1 3 rfl rfl)
theorem dX1_readSum_28 : decode cX1_readSum 28 = .ok (.getfield 139, 3) := dk_180 0 139 (dk_at dksX1_readSum_1 4 rfl rfl)
theorem dX1_readSum_31 : decode cX1_readSum 31 = .ok (.istore_n 1, 1) := dk_60 (dk_at dksX1_readSum_1 7 rfl rfl)
theorem dX1_readSum_32 : decode cX1_readSum 32 = .ok (.aload_n 0, 1) := dk_42 (dk_at dksX1_readSum_1 8 rfl rfl)
theorem dX1_readSum_33 : decode cX1_readSum 33 = .ok (.invokevirtual 190, 3) := dk_182 0 190 (dk_at dksX1_readSum_1 9 rfl rfl)
theorem dX1_readSum_36 : decode cX1_readSum 36 = .ok (.aload_n 0, 1) := dk_42 (dk_at dksX1_readSum_1 12 rfl rfl)
theorem dX1_readSum_37 : decode cX1_readSum 37 = .ok (.invokevirtual 341, 3) := dk_182 1 85 (dk_at dksX1_readSum_1 13 rfl rfl)
theorem dX1_readSum_40 : decode cX1_readSum 40 = .ok (.ifCond .ne 5, 3) := dk_154 0 5 (dk_at dksX1_readSum_1 16 rfl rfl)
theorem dX1_readSum_43 : decode cX1_readSum 43 = .ok (.iconst 0, 1) := dk_3 (dk_at dksX1_readSum_1 19 rfl rfl)
theorem dX1_readSum_44 : decode cX1_readSum 44 = .ok (.ireturn, 1) := dk_172 (dk_at dksX1_readSum_1 20 rfl rfl)
theorem dX1_readSum_45 : decode cX1_readSum 45 = .ok (.aload_n 0, 1) := dk_42 (dk_at dksX1_readSum_1 21 rfl rfl)
theorem dX1_readSum_46 : decode cX1_readSum 46 = .ok (.iload_n 1, 1) := dk_27 (dk_at dksX1_readSum_1 22 rfl rfl)
theorem dX1_readSum_47 : decode cX1_readSum 47 = .ok (.iconst 0, 1) := dk_3 (dk_at dksX1_readSum_1 23 rfl rfl)
theorem dX1_readSum_48 : decode cX1_readSum 48 = .ok (.invokevirtual 344, 3) := dk_182 1 88 (dk_at dksX1_readSum_2 0 rfl rfl)
theorem dX1_readSum_51 : decode cX1_readSum 51 = .ok (.goto (-42), 3) := dk_167 255 214 (dk_at dksX1_readSum_2 3 rfl rfl)
theorem dX1_readSum_54 : decode cX1_readSum 54 = .ok (.iconst 1, 1) := dk_4 (dk_at dksX1_readSum_2 6 rfl rfl)
theorem dX1_readSum_55 : decode cX1_readSum 55 = .ok (.ireturn, 1) := dk_172 (dk_at dksX1_readSum_2 7 rfl rfl)
abbrev cX1_readProduct : ByteArray := prog_24_method_56_code
def yX1_readProduct : MethodName := ⟨RX1, "readProduct", "()Z"⟩
def dkwX1_readProduct_1 : List UInt8 := [182, 1, 91, 154, 0, 5, 3, 172, 42, 16, 42, 3, 182, 1, 88, 167, 255, 227, 4, 172]
abbrev dktX1_readProduct_1 : List UInt8 := dkwX1_readProduct_1 ++ []
def dkwX1_readProduct_0 : List UInt8 := [42, 182, 1, 91, 154, 0, 5, 3, 172, 42, 16, 42, 182, 0, 184, 153, 0, 26, 42, 182, 0, 190, 42]
abbrev dktX1_readProduct_0 : List UInt8 := dkwX1_readProduct_0 ++ dktX1_readProduct_1
theorem dksX1_readProduct_0 : cX1_readProduct.data.toList.drop 0 = dktX1_readProduct_0 := by decide +kernel
theorem dksX1_readProduct_1 : cX1_readProduct.data.toList.drop 23 = dktX1_readProduct_1 := dk_seg dksX1_readProduct_0 23 rfl rfl
theorem dX1_readProduct_0 : decode cX1_readProduct 0 = .ok (.aload_n 0, 1) := dk_42 (dk_at dksX1_readProduct_0 0 rfl rfl)
theorem dX1_readProduct_1 : decode cX1_readProduct 1 = .ok (.invokevirtual 347, 3) := dk_182 1 91 (dk_at dksX1_readProduct_0 1 rfl rfl)
theorem dX1_readProduct_4 : decode cX1_readProduct 4 = .ok (.ifCond .ne 5, 3) := dk_154 0 5 (dk_at dksX1_readProduct_0 4 rfl rfl)
theorem dX1_readProduct_7 : decode cX1_readProduct 7 = .ok (.iconst 0, 1) := dk_3 (dk_at dksX1_readProduct_0 7 rfl rfl)
theorem dX1_readProduct_8 : decode cX1_readProduct 8 = .ok (.ireturn, 1) := dk_172 (dk_at dksX1_readProduct_0 8 rfl rfl)
theorem dX1_readProduct_9 : decode cX1_readProduct 9 = .ok (.aload_n 0, 1) := dk_42 (dk_at dksX1_readProduct_0 9 rfl rfl)
theorem dX1_readProduct_10 : decode cX1_readProduct 10 = .ok (.bipush 42, 2) := dk_16 42 (dk_at dksX1_readProduct_0 10 rfl rfl)
theorem dX1_readProduct_12 : decode cX1_readProduct 12 = .ok (.invokevirtual 184, 3) := dk_182 0 184 (dk_at dksX1_readProduct_0 12 rfl rfl)
theorem dX1_readProduct_15 : decode cX1_readProduct 15 = .ok (.ifCond .eq 26, 3) := dk_153 0 26 (dk_at dksX1_readProduct_0 15 rfl rfl)
theorem dX1_readProduct_18 : decode cX1_readProduct 18 = .ok (.aload_n 0, 1) := dk_42 (dk_at dksX1_readProduct_0 18 rfl rfl)
theorem dX1_readProduct_19 : decode cX1_readProduct 19 = .ok (.invokevirtual 190, 3) := dk_182 0 190 (dk_at dksX1_readProduct_0 19 rfl rfl)
theorem dX1_readProduct_22 : decode cX1_readProduct 22 = .ok (.aload_n 0, 1) := dk_42 (dk_at dksX1_readProduct_0 22 rfl rfl)
theorem dX1_readProduct_23 : decode cX1_readProduct 23 = .ok (.invokevirtual 347, 3) := dk_182 1 91 (dk_at dksX1_readProduct_1 0 rfl rfl)
theorem dX1_readProduct_26 : decode cX1_readProduct 26 = .ok (.ifCond .ne 5, 3) := dk_154 0 5 (dk_at dksX1_readProduct_1 3 rfl rfl)
theorem dX1_readProduct_29 : decode cX1_readProduct 29 = .ok (.iconst 0, 1) := dk_3 (dk_at dksX1_readProduct_1 6 rfl rfl)
theorem dX1_readProduct_30 : decode cX1_readProduct 30 = .ok (.ireturn, 1) := dk_172 (dk_at dksX1_readProduct_1 7 rfl rfl)
theorem dX1_readProduct_31 : decode cX1_readProduct 31 = .ok (.aload_n 0, 1) := dk_42 (dk_at dksX1_readProduct_1 8 rfl rfl)
theorem dX1_readProduct_32 : decode cX1_readProduct 32 = .ok (.bipush 42, 2) := dk_16 42 (dk_at dksX1_readProduct_1 9 rfl rfl)
theorem dX1_readProduct_34 : decode cX1_readProduct 34 = .ok (.iconst 0, 1) := dk_3 (dk_at dksX1_readProduct_1 11 rfl rfl)
theorem dX1_readProduct_35 : decode cX1_readProduct 35 = .ok (.invokevirtual 344, 3) := dk_182 1 88 (dk_at dksX1_readProduct_1 12 rfl rfl)
theorem dX1_readProduct_38 : decode cX1_readProduct 38 = .ok (.goto (-29), 3) := dk_167 255 227 (dk_at dksX1_readProduct_1 15 rfl rfl)
theorem dX1_readProduct_41 : decode cX1_readProduct 41 = .ok (.iconst 1, 1) := dk_4 (dk_at dksX1_readProduct_1 18 rfl rfl)
theorem dX1_readProduct_42 : decode cX1_readProduct 42 = .ok (.ireturn, 1) := dk_172 (dk_at dksX1_readProduct_1 19 rfl rfl)
abbrev cX1_readPower : ByteArray := prog_24_method_57_code
def yX1_readPower : MethodName := ⟨RX1, "readPower", "()Z"⟩
def dkwX1_readPower_2 : List UInt8 := [16, 10, 182, 0, 187, 172, 42, 16, 94, 42, 180, 0, 136, 182, 1, 88, 42, 182, 0, 190, 4, 172]
abbrev dktX1_readPower_2 : List UInt8 := dkwX1_readPower_2 ++ []
def dkwX1_readPower_1 : List UInt8 := [42, 182, 0, 214, 154, 0, 9, 42, 4, 182, 0, 187, 172, 42, 180, 0, 136, 16, 6, 164, 0, 10, 42]
abbrev dktX1_readPower_1 : List UInt8 := dkwX1_readPower_1 ++ dktX1_readPower_2
def dkwX1_readPower_0 : List UInt8 := [42, 182, 1, 94, 154, 0, 5, 3, 172, 42, 16, 94, 182, 0, 184, 154, 0, 5, 4, 172, 42, 182, 0, 190]
abbrev dktX1_readPower_0 : List UInt8 := dkwX1_readPower_0 ++ dktX1_readPower_1
theorem dksX1_readPower_0 : cX1_readPower.data.toList.drop 0 = dktX1_readPower_0 := by decide +kernel
theorem dksX1_readPower_1 : cX1_readPower.data.toList.drop 24 = dktX1_readPower_1 := dk_seg dksX1_readPower_0 24 rfl rfl
theorem dksX1_readPower_2 : cX1_readPower.data.toList.drop 47 = dktX1_readPower_2 := dk_seg dksX1_readPower_1 23 rfl rfl
theorem dX1_readPower_0 : decode cX1_readPower 0 = .ok (.aload_n 0, 1) := dk_42 (dk_at dksX1_readPower_0 0 rfl rfl)
theorem dX1_readPower_1 : decode cX1_readPower 1 = .ok (.invokevirtual 350, 3) := dk_182 1 94 (dk_at dksX1_readPower_0 1 rfl rfl)
theorem dX1_readPower_4 : decode cX1_readPower 4 = .ok (.ifCond .ne 5, 3) := dk_154 0 5 (dk_at dksX1_readPower_0 4 rfl rfl)
theorem dX1_readPower_7 : decode cX1_readPower 7 = .ok (.iconst 0, 1) := dk_3 (dk_at dksX1_readPower_0 7 rfl rfl)
theorem dX1_readPower_8 : decode cX1_readPower 8 = .ok (.ireturn, 1) := dk_172 (dk_at dksX1_readPower_0 8 rfl rfl)
theorem dX1_readPower_9 : decode cX1_readPower 9 = .ok (.aload_n 0, 1) := dk_42 (dk_at dksX1_readPower_0 9 rfl rfl)
theorem dX1_readPower_10 : decode cX1_readPower 10 = .ok (.bipush 94, 2) := dk_16 94 (dk_at dksX1_readPower_0 10 rfl rfl)
theorem dX1_readPower_12 : decode cX1_readPower 12 = .ok (.invokevirtual 184, 3) := dk_182 0 184 (dk_at dksX1_readPower_0 12 rfl rfl)
theorem dX1_readPower_15 : decode cX1_readPower 15 = .ok (.ifCond .ne 5, 3) := dk_154 0 5 (dk_at dksX1_readPower_0 15 rfl rfl)
theorem dX1_readPower_18 : decode cX1_readPower 18 = .ok (.iconst 1, 1) := dk_4 (dk_at dksX1_readPower_0 18 rfl rfl)
theorem dX1_readPower_19 : decode cX1_readPower 19 = .ok (.ireturn, 1) := dk_172 (dk_at dksX1_readPower_0 19 rfl rfl)
theorem dX1_readPower_20 : decode cX1_readPower 20 = .ok (.aload_n 0, 1) := dk_42 (dk_at dksX1_readPower_0 20 rfl rfl)
theorem dX1_readPower_21 : decode cX1_readPower 21 = .ok (.invokevirtual 190, 3) := dk_182 0 190 (dk_at dksX1_readPower_0 21 rfl rfl)
theorem dX1_readPower_24 : decode cX1_readPower 24 = .ok (.aload_n 0, 1) := dk_42 (dk_at dksX1_readPower_1 0 rfl rfl)
theorem dX1_readPower_25 : decode cX1_readPower 25 = .ok (.invokevirtual 214, 3) := dk_182 0 214 (dk_at dksX1_readPower_1 1 rfl rfl)
theorem dX1_readPower_28 : decode cX1_readPower 28 = .ok (.ifCond .ne 9, 3) := dk_154 0 9 (dk_at dksX1_readPower_1 4 rfl rfl)
theorem dX1_readPower_31 : decode cX1_readPower 31 = .ok (.aload_n 0, 1) := dk_42 (dk_at dksX1_readPower_1 7 rfl rfl)
theorem dX1_readPower_32 : decode cX1_readPower 32 = .ok (.iconst 1, 1) := dk_4 (dk_at dksX1_readPower_1 8 rfl rfl)
theorem dX1_readPower_33 : decode cX1_readPower 33 = .ok (.invokevirtual 187, 3) := dk_182 0 187 (dk_at dksX1_readPower_1 9 rfl rfl)
theorem dX1_readPower_36 : decode cX1_readPower 36 = .ok (.ireturn, 1) := dk_172 (dk_at dksX1_readPower_1 12 rfl rfl)
theorem dX1_readPower_37 : decode cX1_readPower 37 = .ok (.aload_n 0, 1) := dk_42 (dk_at dksX1_readPower_1 13 rfl rfl)
theorem dX1_readPower_38 : decode cX1_readPower 38 = .ok (.getfield 136, 3) := dk_180 0 136 (dk_at dksX1_readPower_1 14 rfl rfl)
theorem dX1_readPower_41 : decode cX1_readPower 41 = .ok (.bipush 6, 2) := dk_16 6 (dk_at dksX1_readPower_1 17 rfl rfl)
theorem dX1_readPower_43 : decode cX1_readPower 43 = .ok (.if_icmp .le 10, 3) := dk_164 0 10 (dk_at dksX1_readPower_1 19 rfl rfl)
theorem dX1_readPower_46 : decode cX1_readPower 46 = .ok (.aload_n 0, 1) := dk_42 (dk_at dksX1_readPower_1 22 rfl rfl)
theorem dX1_readPower_47 : decode cX1_readPower 47 = .ok (.bipush 10, 2) := dk_16 10 (dk_at dksX1_readPower_2 0 rfl rfl)
theorem dX1_readPower_49 : decode cX1_readPower 49 = .ok (.invokevirtual 187, 3) := dk_182 0 187 (dk_at dksX1_readPower_2 2 rfl rfl)
theorem dX1_readPower_52 : decode cX1_readPower 52 = .ok (.ireturn, 1) := dk_172 (dk_at dksX1_readPower_2 5 rfl rfl)
theorem dX1_readPower_53 : decode cX1_readPower 53 = .ok (.aload_n 0, 1) := dk_42 (dk_at dksX1_readPower_2 6 rfl rfl)
theorem dX1_readPower_54 : decode cX1_readPower 54 = .ok (.bipush 94, 2) := dk_16 94 (dk_at dksX1_readPower_2 7 rfl rfl)
theorem dX1_readPower_56 : decode cX1_readPower 56 = .ok (.aload_n 0, 1) := dk_42 (dk_at dksX1_readPower_2 9 rfl rfl)
theorem dX1_readPower_57 : decode cX1_readPower 57 = .ok (.getfield 136, 3) := dk_180 0 136 (dk_at dksX1_readPower_2 10 rfl rfl)
theorem dX1_readPower_60 : decode cX1_readPower 60 = .ok (.invokevirtual 344, 3) := dk_182 1 88 (dk_at dksX1_readPower_2 13 rfl rfl)
theorem dX1_readPower_63 : decode cX1_readPower 63 = .ok (.aload_n 0, 1) := dk_42 (dk_at dksX1_readPower_2 16 rfl rfl)
theorem dX1_readPower_64 : decode cX1_readPower 64 = .ok (.invokevirtual 190, 3) := dk_182 0 190 (dk_at dksX1_readPower_2 17 rfl rfl)
theorem dX1_readPower_67 : decode cX1_readPower 67 = .ok (.iconst 1, 1) := dk_4 (dk_at dksX1_readPower_2 20 rfl rfl)
theorem dX1_readPower_68 : decode cX1_readPower 68 = .ok (.ireturn, 1) := dk_172 (dk_at dksX1_readPower_2 21 rfl rfl)
abbrev cX1_readPart : ByteArray := prog_24_method_58_code
def yX1_readPart : MethodName := ⟨RX1, "readPart", "()Z"⟩
def dkwX1_readPart_9 : List UInt8 := [180, 0, 132, 136, 4, 100, 120, 128, 181, 1, 105, 42, 182, 0, 190, 4, 172]
abbrev dktX1_readPart_9 : List UInt8 := dkwX1_readPart_9 ++ []
def dkwX1_readPart_8 : List UInt8 := [4, 100, 167, 0, 7, 42, 180, 0, 136, 182, 1, 88, 27, 153, 0, 21, 42, 89, 180, 1, 105, 4, 42]
abbrev dktX1_readPart_8 : List UInt8 := dkwX1_readPart_8 ++ dktX1_readPart_9
def dkwX1_readPart_7 : List UInt8 := [181, 0, 165, 4, 172, 42, 27, 153, 0, 7, 4, 167, 0, 4, 3, 27, 153, 0, 13, 42, 180, 0, 132, 136]
abbrev dktX1_readPart_7 : List UInt8 := dkwX1_readPart_7 ++ dktX1_readPart_8
def dkwX1_readPart_6 : List UInt8 := [182, 1, 102, 153, 0, 12, 42, 16, 41, 182, 0, 253, 154, 0, 5, 3, 172, 42, 89, 180, 0, 165, 4, 100]
abbrev dktX1_readPart_6 : List UInt8 := dkwX1_readPart_6 ++ dktX1_readPart_7
def dkwX1_readPart_5 : List UInt8 := [16, 40, 182, 0, 184, 153, 0, 47, 42, 89, 180, 0, 165, 4, 96, 181, 0, 165, 42, 182, 0, 190, 42]
abbrev dktX1_readPart_5 : List UInt8 := dkwX1_readPart_5 ++ dktX1_readPart_6
def dkwX1_readPart_4 : List UInt8 := [16, 60, 160, 0, 10, 42, 16, 12, 182, 0, 187, 172, 42, 89, 180, 1, 99, 4, 96, 181, 1, 99, 42]
abbrev dktX1_readPart_4 : List UInt8 := dkwX1_readPart_4 ++ dktX1_readPart_5
def dkwX1_readPart_3 : List UInt8 := [153, 0, 19, 42, 180, 0, 165, 16, 6, 160, 0, 10, 42, 16, 11, 182, 0, 187, 172, 42, 180, 1, 99]
abbrev dktX1_readPart_3 : List UInt8 := dkwX1_readPart_3 ++ dktX1_readPart_4
def dkwX1_readPart_2 : List UInt8 := [154, 0, 18, 42, 16, 40, 182, 0, 184, 154, 0, 9, 42, 4, 182, 0, 187, 172, 42, 16, 40, 182, 0, 184]
abbrev dktX1_readPart_2 : List UInt8 := dkwX1_readPart_2 ++ dktX1_readPart_3
def dkwX1_readPart_1 : List UInt8 := [180, 0, 132, 20, 1, 97, 148, 157, 0, 7, 4, 167, 0, 4, 3, 60, 42, 182, 0, 214, 154, 0, 22, 27]
abbrev dktX1_readPart_1 : List UInt8 := dkwX1_readPart_1 ++ dktX1_readPart_2
def dkwX1_readPart_0 : List UInt8 := [42, 180, 0, 142, 4, 160, 0, 31, 42, 180, 0, 122, 42, 180, 0, 129, 100, 4, 160, 0, 18, 42]
abbrev dktX1_readPart_0 : List UInt8 := dkwX1_readPart_0 ++ dktX1_readPart_1
theorem dksX1_readPart_0 : cX1_readPart.data.toList.drop 0 = dktX1_readPart_0 := by decide +kernel
theorem dksX1_readPart_1 : cX1_readPart.data.toList.drop 22 = dktX1_readPart_1 := dk_seg dksX1_readPart_0 22 rfl rfl
theorem dksX1_readPart_2 : cX1_readPart.data.toList.drop 46 = dktX1_readPart_2 := dk_seg dksX1_readPart_1 24 rfl rfl
theorem dksX1_readPart_3 : cX1_readPart.data.toList.drop 70 = dktX1_readPart_3 := dk_seg dksX1_readPart_2 24 rfl rfl
theorem dksX1_readPart_4 : cX1_readPart.data.toList.drop 93 = dktX1_readPart_4 := dk_seg dksX1_readPart_3 23 rfl rfl
theorem dksX1_readPart_5 : cX1_readPart.data.toList.drop 116 = dktX1_readPart_5 := dk_seg dksX1_readPart_4 23 rfl rfl
theorem dksX1_readPart_6 : cX1_readPart.data.toList.drop 139 = dktX1_readPart_6 := dk_seg dksX1_readPart_5 23 rfl rfl
theorem dksX1_readPart_7 : cX1_readPart.data.toList.drop 163 = dktX1_readPart_7 := dk_seg dksX1_readPart_6 24 rfl rfl
theorem dksX1_readPart_8 : cX1_readPart.data.toList.drop 187 = dktX1_readPart_8 := dk_seg dksX1_readPart_7 24 rfl rfl
theorem dksX1_readPart_9 : cX1_readPart.data.toList.drop 210 = dktX1_readPart_9 := dk_seg dksX1_readPart_8 23 rfl rfl
theorem dX1_readPart_0 : decode cX1_readPart 0 = .ok (.aload_n 0, 1) := dk_42 (dk_at dksX1_readPart_0 0 rfl rfl)
theorem dX1_readPart_1 : decode cX1_readPart 1 = .ok (.getfield 142, 3) := dk_180 0 142 (dk_at dksX1_readPart_0 1 rfl rfl)
theorem dX1_readPart_4 : decode cX1_readPart 4 = .ok (.iconst 1, 1) := dk_4 (dk_at dksX1_readPart_0 4 rfl rfl)
theorem dX1_readPart_5 : decode cX1_readPart 5 = .ok (.if_icmp .ne 31, 3) := dk_160 0 31 (dk_at dksX1_readPart_0 5 rfl rfl)
theorem dX1_readPart_8 : decode cX1_readPart 8 = .ok (.aload_n 0, 1) := dk_42 (dk_at dksX1_readPart_0 8 rfl rfl)
theorem dX1_readPart_9 : decode cX1_readPart 9 = .ok (.getfield 122, 3) := dk_180 0 122 (dk_at dksX1_readPart_0 9 rfl rfl)
theorem dX1_readPart_12 : decode cX1_readPart 12 = .ok (.aload_n 0, 1) := dk_42 (dk_at dksX1_readPart_0 12 rfl rfl)
theorem dX1_readPart_13 : decode cX1_readPart 13 = .ok (.getfield 129, 3) := dk_180 0 129 (dk_at dksX1_readPart_0 13 rfl rfl)
theorem dX1_readPart_16 : decode cX1_readPart 16 = .ok (.isub, 1) := dk_100 (dk_at dksX1_readPart_0 16 rfl rfl)
theorem dX1_readPart_17 : decode cX1_readPart 17 = .ok (.iconst 1, 1) := dk_4 (dk_at dksX1_readPart_0 17 rfl rfl)
theorem dX1_readPart_18 : decode cX1_readPart 18 = .ok (.if_icmp .ne 18, 3) := dk_160 0 18 (dk_at dksX1_readPart_0 18 rfl rfl)
theorem dX1_readPart_21 : decode cX1_readPart 21 = .ok (.aload_n 0, 1) := dk_42 (dk_at dksX1_readPart_0 21 rfl rfl)
theorem dX1_readPart_22 : decode cX1_readPart 22 = .ok (.getfield 132, 3) := dk_180 0 132 (dk_at dksX1_readPart_1 0 rfl rfl)
theorem dX1_readPart_25 : decode cX1_readPart 25 = .ok (.ldc2_w 353, 3) := dk_20 1 97 (dk_at dksX1_readPart_1 3 rfl rfl)
theorem dX1_readPart_28 : decode cX1_readPart 28 = .ok (.lcmp, 1) := dk_148 (dk_at dksX1_readPart_1 6 rfl rfl)
theorem dX1_readPart_29 : decode cX1_readPart 29 = .ok (.ifCond .gt 7, 3) := dk_157 0 7 (dk_at dksX1_readPart_1 7 rfl rfl)
theorem dX1_readPart_32 : decode cX1_readPart 32 = .ok (.iconst 1, 1) := dk_4 (dk_at dksX1_readPart_1 10 rfl rfl)
theorem dX1_readPart_33 : decode cX1_readPart 33 = .ok (.goto 4, 3) := dk_167 0 4 (dk_at dksX1_readPart_1 11 rfl rfl)
theorem dX1_readPart_36 : decode cX1_readPart 36 = .ok (.iconst 0, 1) := dk_3 (dk_at dksX1_readPart_1 14 rfl rfl)
theorem dX1_readPart_37 : decode cX1_readPart 37 = .ok (.istore_n 1, 1) := dk_60 (dk_at dksX1_readPart_1 15 rfl rfl)
theorem dX1_readPart_38 : decode cX1_readPart 38 = .ok (.aload_n 0, 1) := dk_42 (dk_at dksX1_readPart_1 16 rfl rfl)
theorem dX1_readPart_39 : decode cX1_readPart 39 = .ok (.invokevirtual 214, 3) := dk_182 0 214 (dk_at dksX1_readPart_1 17 rfl rfl)
theorem dX1_readPart_42 : decode cX1_readPart 42 = .ok (.ifCond .ne 22, 3) := dk_154 0 22 (dk_at dksX1_readPart_1 20 rfl rfl)
theorem dX1_readPart_45 : decode cX1_readPart 45 = .ok (.iload_n 1, 1) := dk_27 (dk_at dksX1_readPart_1 23 rfl rfl)
theorem dX1_readPart_46 : decode cX1_readPart 46 = .ok (.ifCond .ne 18, 3) := dk_154 0 18 (dk_at dksX1_readPart_2 0 rfl rfl)
theorem dX1_readPart_49 : decode cX1_readPart 49 = .ok (.aload_n 0, 1) := dk_42 (dk_at dksX1_readPart_2 3 rfl rfl)
theorem dX1_readPart_50 : decode cX1_readPart 50 = .ok (.bipush 40, 2) := dk_16 40 (dk_at dksX1_readPart_2 4 rfl rfl)
theorem dX1_readPart_52 : decode cX1_readPart 52 = .ok (.invokevirtual 184, 3) := dk_182 0 184 (dk_at dksX1_readPart_2 6 rfl rfl)
theorem dX1_readPart_55 : decode cX1_readPart 55 = .ok (.ifCond .ne 9, 3) := dk_154 0 9 (dk_at dksX1_readPart_2 9 rfl rfl)
theorem dX1_readPart_58 : decode cX1_readPart 58 = .ok (.aload_n 0, 1) := dk_42 (dk_at dksX1_readPart_2 12 rfl rfl)
theorem dX1_readPart_59 : decode cX1_readPart 59 = .ok (.iconst 1, 1) := dk_4 (dk_at dksX1_readPart_2 13 rfl rfl)
theorem dX1_readPart_60 : decode cX1_readPart 60 = .ok (.invokevirtual 187, 3) := dk_182 0 187 (dk_at dksX1_readPart_2 14 rfl rfl)
theorem dX1_readPart_63 : decode cX1_readPart 63 = .ok (.ireturn, 1) := dk_172 (dk_at dksX1_readPart_2 17 rfl rfl)
theorem dX1_readPart_64 : decode cX1_readPart 64 = .ok (.aload_n 0, 1) := dk_42 (dk_at dksX1_readPart_2 18 rfl rfl)
theorem dX1_readPart_65 : decode cX1_readPart 65 = .ok (.bipush 40, 2) := dk_16 40 (dk_at dksX1_readPart_2 19 rfl rfl)
theorem dX1_readPart_67 : decode cX1_readPart 67 = .ok (.invokevirtual 184, 3) := dk_182 0 184 (dk_at dksX1_readPart_2 21 rfl rfl)
theorem dX1_readPart_70 : decode cX1_readPart 70 = .ok (.ifCond .eq 19, 3) := dk_153 0 19 (dk_at dksX1_readPart_3 0 rfl rfl)
theorem dX1_readPart_73 : decode cX1_readPart 73 = .ok (.aload_n 0, 1) := dk_42 (dk_at dksX1_readPart_3 3 rfl rfl)
theorem dX1_readPart_74 : decode cX1_readPart 74 = .ok (.getfield 165, 3) := dk_180 0 165 (dk_at dksX1_readPart_3 4 rfl rfl)
theorem dX1_readPart_77 : decode cX1_readPart 77 = .ok (.bipush 6, 2) := dk_16 6 (dk_at dksX1_readPart_3 7 rfl rfl)
theorem dX1_readPart_79 : decode cX1_readPart 79 = .ok (.if_icmp .ne 10, 3) := dk_160 0 10 (dk_at dksX1_readPart_3 9 rfl rfl)
theorem dX1_readPart_82 : decode cX1_readPart 82 = .ok (.aload_n 0, 1) := dk_42 (dk_at dksX1_readPart_3 12 rfl rfl)
theorem dX1_readPart_83 : decode cX1_readPart 83 = .ok (.bipush 11, 2) := dk_16 11 (dk_at dksX1_readPart_3 13 rfl rfl)
theorem dX1_readPart_85 : decode cX1_readPart 85 = .ok (.invokevirtual 187, 3) := dk_182 0 187 (dk_at dksX1_readPart_3 15 rfl rfl)
theorem dX1_readPart_88 : decode cX1_readPart 88 = .ok (.ireturn, 1) := dk_172 (dk_at dksX1_readPart_3 18 rfl rfl)
theorem dX1_readPart_89 : decode cX1_readPart 89 = .ok (.aload_n 0, 1) := dk_42 (dk_at dksX1_readPart_3 19 rfl rfl)
theorem dX1_readPart_90 : decode cX1_readPart 90 = .ok (.getfield 355, 3) := dk_180 1 99 (dk_at dksX1_readPart_3 20 rfl rfl)
theorem dX1_readPart_93 : decode cX1_readPart 93 = .ok (.bipush 60, 2) := dk_16 60 (dk_at dksX1_readPart_4 0 rfl rfl)
theorem dX1_readPart_95 : decode cX1_readPart 95 = .ok (.if_icmp .ne 10, 3) := dk_160 0 10 (dk_at dksX1_readPart_4 2 rfl rfl)
theorem dX1_readPart_98 : decode cX1_readPart 98 = .ok (.aload_n 0, 1) := dk_42 (dk_at dksX1_readPart_4 5 rfl rfl)
theorem dX1_readPart_99 : decode cX1_readPart 99 = .ok (.bipush 12, 2) := dk_16 12 (dk_at dksX1_readPart_4 6 rfl rfl)
theorem dX1_readPart_101 : decode cX1_readPart 101 = .ok (.invokevirtual 187, 3) := dk_182 0 187 (dk_at dksX1_readPart_4 8 rfl rfl)
theorem dX1_readPart_104 : decode cX1_readPart 104 = .ok (.ireturn, 1) := dk_172 (dk_at dksX1_readPart_4 11 rfl rfl)
theorem dX1_readPart_105 : decode cX1_readPart 105 = .ok (.aload_n 0, 1) := dk_42 (dk_at dksX1_readPart_4 12 rfl rfl)
theorem dX1_readPart_106 : decode cX1_readPart 106 = .ok (.dup, 1) := dk_89 (dk_at dksX1_readPart_4 13 rfl rfl)
theorem dX1_readPart_107 : decode cX1_readPart 107 = .ok (.getfield 355, 3) := dk_180 1 99 (dk_at dksX1_readPart_4 14 rfl rfl)
theorem dX1_readPart_110 : decode cX1_readPart 110 = .ok (.iconst 1, 1) := dk_4 (dk_at dksX1_readPart_4 17 rfl rfl)
theorem dX1_readPart_111 : decode cX1_readPart 111 = .ok (.iadd, 1) := dk_96 (dk_at dksX1_readPart_4 18 rfl rfl)
theorem dX1_readPart_112 : decode cX1_readPart 112 = .ok (.putfield 355, 3) := dk_181 1 99 (dk_at dksX1_readPart_4 19 rfl rfl)
theorem dX1_readPart_115 : decode cX1_readPart 115 = .ok (.aload_n 0, 1) := dk_42 (dk_at dksX1_readPart_4 22 rfl rfl)
theorem dX1_readPart_116 : decode cX1_readPart 116 = .ok (.bipush 40, 2) := dk_16 40 (dk_at dksX1_readPart_5 0 rfl rfl)
theorem dX1_readPart_118 : decode cX1_readPart 118 = .ok (.invokevirtual 184, 3) := dk_182 0 184 (dk_at dksX1_readPart_5 2 rfl rfl)
theorem dX1_readPart_121 : decode cX1_readPart 121 = .ok (.ifCond .eq 47, 3) := dk_153 0 47 (dk_at dksX1_readPart_5 5 rfl rfl)
theorem dX1_readPart_124 : decode cX1_readPart 124 = .ok (.aload_n 0, 1) := dk_42 (dk_at dksX1_readPart_5 8 rfl rfl)
theorem dX1_readPart_125 : decode cX1_readPart 125 = .ok (.dup, 1) := dk_89 (dk_at dksX1_readPart_5 9 rfl rfl)
theorem dX1_readPart_126 : decode cX1_readPart 126 = .ok (.getfield 165, 3) := dk_180 0 165 (dk_at dksX1_readPart_5 10 rfl rfl)
theorem dX1_readPart_129 : decode cX1_readPart 129 = .ok (.iconst 1, 1) := dk_4 (dk_at dksX1_readPart_5 13 rfl rfl)
theorem dX1_readPart_130 : decode cX1_readPart 130 = .ok (.iadd, 1) := dk_96 (dk_at dksX1_readPart_5 14 rfl rfl)
theorem dX1_readPart_131 : decode cX1_readPart 131 = .ok (.putfield 165, 3) := dk_181 0 165 (dk_at dksX1_readPart_5 15 rfl rfl)
theorem dX1_readPart_134 : decode cX1_readPart 134 = .ok (.aload_n 0, 1) := dk_42 (dk_at dksX1_readPart_5 18 rfl rfl)
theorem dX1_readPart_135 : decode cX1_readPart 135 = .ok (.invokevirtual 190, 3) := dk_182 0 190 (dk_at dksX1_readPart_5 19 rfl rfl)
theorem dX1_readPart_138 : decode cX1_readPart 138 = .ok (.aload_n 0, 1) := dk_42 (dk_at dksX1_readPart_5 22 rfl rfl)
theorem dX1_readPart_139 : decode cX1_readPart 139 = .ok (.invokevirtual 358, 3) := dk_182 1 102 (dk_at dksX1_readPart_6 0 rfl rfl)
theorem dX1_readPart_142 : decode cX1_readPart 142 = .ok (.ifCond .eq 12, 3) := dk_153 0 12 (dk_at dksX1_readPart_6 3 rfl rfl)
theorem dX1_readPart_145 : decode cX1_readPart 145 = .ok (.aload_n 0, 1) := dk_42 (dk_at dksX1_readPart_6 6 rfl rfl)
theorem dX1_readPart_146 : decode cX1_readPart 146 = .ok (.bipush 41, 2) := dk_16 41 (dk_at dksX1_readPart_6 7 rfl rfl)
theorem dX1_readPart_148 : decode cX1_readPart 148 = .ok (.invokevirtual 253, 3) := dk_182 0 253 (dk_at dksX1_readPart_6 9 rfl rfl)
theorem dX1_readPart_151 : decode cX1_readPart 151 = .ok (.ifCond .ne 5, 3) := dk_154 0 5 (dk_at dksX1_readPart_6 12 rfl rfl)
theorem dX1_readPart_154 : decode cX1_readPart 154 = .ok (.iconst 0, 1) := dk_3 (dk_at dksX1_readPart_6 15 rfl rfl)
theorem dX1_readPart_155 : decode cX1_readPart 155 = .ok (.ireturn, 1) := dk_172 (dk_at dksX1_readPart_6 16 rfl rfl)
theorem dX1_readPart_156 : decode cX1_readPart 156 = .ok (.aload_n 0, 1) := dk_42 (dk_at dksX1_readPart_6 17 rfl rfl)
theorem dX1_readPart_157 : decode cX1_readPart 157 = .ok (.dup, 1) := dk_89 (dk_at dksX1_readPart_6 18 rfl rfl)
theorem dX1_readPart_158 : decode cX1_readPart 158 = .ok (.getfield 165, 3) := dk_180 0 165 (dk_at dksX1_readPart_6 19 rfl rfl)
theorem dX1_readPart_161 : decode cX1_readPart 161 = .ok (.iconst 1, 1) := dk_4 (dk_at dksX1_readPart_6 22 rfl rfl)
theorem dX1_readPart_162 : decode cX1_readPart 162 = .ok (.isub, 1) := dk_100 (dk_at dksX1_readPart_6 23 rfl rfl)
theorem dX1_readPart_163 : decode cX1_readPart 163 = .ok (.putfield 165, 3) := dk_181 0 165 (dk_at dksX1_readPart_7 0 rfl rfl)
theorem dX1_readPart_166 : decode cX1_readPart 166 = .ok (.iconst 1, 1) := dk_4 (dk_at dksX1_readPart_7 3 rfl rfl)
theorem dX1_readPart_167 : decode cX1_readPart 167 = .ok (.ireturn, 1) := dk_172 (dk_at dksX1_readPart_7 4 rfl rfl)
theorem dX1_readPart_168 : decode cX1_readPart 168 = .ok (.aload_n 0, 1) := dk_42 (dk_at dksX1_readPart_7 5 rfl rfl)
theorem dX1_readPart_169 : decode cX1_readPart 169 = .ok (.iload_n 1, 1) := dk_27 (dk_at dksX1_readPart_7 6 rfl rfl)
theorem dX1_readPart_170 : decode cX1_readPart 170 = .ok (.ifCond .eq 7, 3) := dk_153 0 7 (dk_at dksX1_readPart_7 7 rfl rfl)
theorem dX1_readPart_173 : decode cX1_readPart 173 = .ok (.iconst 1, 1) := dk_4 (dk_at dksX1_readPart_7 10 rfl rfl)
theorem dX1_readPart_174 : decode cX1_readPart 174 = .ok (.goto 4, 3) := dk_167 0 4 (dk_at dksX1_readPart_7 11 rfl rfl)
theorem dX1_readPart_177 : decode cX1_readPart 177 = .ok (.iconst 0, 1) := dk_3 (dk_at dksX1_readPart_7 14 rfl rfl)
theorem dX1_readPart_178 : decode cX1_readPart 178 = .ok (.iload_n 1, 1) := dk_27 (dk_at dksX1_readPart_7 15 rfl rfl)
theorem dX1_readPart_179 : decode cX1_readPart 179 = .ok (.ifCond .eq 13, 3) := dk_153 0 13 (dk_at dksX1_readPart_7 16 rfl rfl)
theorem dX1_readPart_182 : decode cX1_readPart 182 = .ok (.aload_n 0, 1) := dk_42 (dk_at dksX1_readPart_7 19 rfl rfl)
theorem dX1_readPart_183 : decode cX1_readPart 183 = .ok (.getfield 132, 3) := dk_180 0 132 (dk_at dksX1_readPart_7 20 rfl rfl)
theorem dX1_readPart_186 : decode cX1_readPart 186 = .ok (.l2i, 1) := dk_136 (dk_at dksX1_readPart_7 23 rfl rfl)
theorem dX1_readPart_187 : decode cX1_readPart 187 = .ok (.iconst 1, 1) := dk_4 (dk_at dksX1_readPart_8 0 rfl rfl)
theorem dX1_readPart_188 : decode cX1_readPart 188 = .ok (.isub, 1) := dk_100 (dk_at dksX1_readPart_8 1 rfl rfl)
theorem dX1_readPart_189 : decode cX1_readPart 189 = .ok (.goto 7, 3) := dk_167 0 7 (dk_at dksX1_readPart_8 2 rfl rfl)
theorem dX1_readPart_192 : decode cX1_readPart 192 = .ok (.aload_n 0, 1) := dk_42 (dk_at dksX1_readPart_8 5 rfl rfl)
theorem dX1_readPart_193 : decode cX1_readPart 193 = .ok (.getfield 136, 3) := dk_180 0 136 (dk_at dksX1_readPart_8 6 rfl rfl)
theorem dX1_readPart_196 : decode cX1_readPart 196 = .ok (.invokevirtual 344, 3) := dk_182 1 88 (dk_at dksX1_readPart_8 9 rfl rfl)
theorem dX1_readPart_199 : decode cX1_readPart 199 = .ok (.iload_n 1, 1) := dk_27 (dk_at dksX1_readPart_8 12 rfl rfl)
theorem dX1_readPart_200 : decode cX1_readPart 200 = .ok (.ifCond .eq 21, 3) := dk_153 0 21 (dk_at dksX1_readPart_8 13 rfl rfl)
theorem dX1_readPart_203 : decode cX1_readPart 203 = .ok (.aload_n 0, 1) := dk_42 (dk_at dksX1_readPart_8 16 rfl rfl)
theorem dX1_readPart_204 : decode cX1_readPart 204 = .ok (.dup, 1) := dk_89 (dk_at dksX1_readPart_8 17 rfl rfl)
theorem dX1_readPart_205 : decode cX1_readPart 205 = .ok (.getfield 361, 3) := dk_180 1 105 (dk_at dksX1_readPart_8 18 rfl rfl)
theorem dX1_readPart_208 : decode cX1_readPart 208 = .ok (.iconst 1, 1) := dk_4 (dk_at dksX1_readPart_8 21 rfl rfl)
theorem dX1_readPart_209 : decode cX1_readPart 209 = .ok (.aload_n 0, 1) := dk_42 (dk_at dksX1_readPart_8 22 rfl rfl)
theorem dX1_readPart_210 : decode cX1_readPart 210 = .ok (.getfield 132, 3) := dk_180 0 132 (dk_at dksX1_readPart_9 0 rfl rfl)
theorem dX1_readPart_213 : decode cX1_readPart 213 = .ok (.l2i, 1) := dk_136 (dk_at dksX1_readPart_9 3 rfl rfl)
theorem dX1_readPart_214 : decode cX1_readPart 214 = .ok (.iconst 1, 1) := dk_4 (dk_at dksX1_readPart_9 4 rfl rfl)
theorem dX1_readPart_215 : decode cX1_readPart 215 = .ok (.isub, 1) := dk_100 (dk_at dksX1_readPart_9 5 rfl rfl)
theorem dX1_readPart_216 : decode cX1_readPart 216 = .ok (.ishl, 1) := dk_120 (dk_at dksX1_readPart_9 6 rfl rfl)
theorem dX1_readPart_217 : decode cX1_readPart 217 = .ok (.ior, 1) := dk_128 (dk_at dksX1_readPart_9 7 rfl rfl)
theorem dX1_readPart_218 : decode cX1_readPart 218 = .ok (.putfield 361, 3) := dk_181 1 105 (dk_at dksX1_readPart_9 8 rfl rfl)
theorem dX1_readPart_221 : decode cX1_readPart 221 = .ok (.aload_n 0, 1) := dk_42 (dk_at dksX1_readPart_9 11 rfl rfl)
theorem dX1_readPart_222 : decode cX1_readPart 222 = .ok (.invokevirtual 190, 3) := dk_182 0 190 (dk_at dksX1_readPart_9 12 rfl rfl)
theorem dX1_readPart_225 : decode cX1_readPart 225 = .ok (.iconst 1, 1) := dk_4 (dk_at dksX1_readPart_9 15 rfl rfl)
theorem dX1_readPart_226 : decode cX1_readPart 226 = .ok (.ireturn, 1) := dk_172 (dk_at dksX1_readPart_9 16 rfl rfl)
abbrev cX1_puts : ByteArray := prog_24_method_54_code
def yX1_puts : MethodName := ⟨RX1, "puts", "(II)V"⟩
def dkwX1_puts_1 : List UInt8 := [180, 1, 82, 96, 28, 79, 42, 89, 180, 1, 82, 4, 96, 181, 1, 82, 177]
abbrev dktX1_puts_1 : List UInt8 := dkwX1_puts_1 ++ []
def dkwX1_puts_0 : List UInt8 := [42, 180, 0, 66, 17, 3, 132, 42, 180, 1, 82, 96, 27, 79, 42, 180, 0, 63, 17, 3, 132, 42]
abbrev dktX1_puts_0 : List UInt8 := dkwX1_puts_0 ++ dktX1_puts_1
theorem dksX1_puts_0 : cX1_puts.data.toList.drop 0 = dktX1_puts_0 := by decide +kernel
theorem dksX1_puts_1 : cX1_puts.data.toList.drop 22 = dktX1_puts_1 := dk_seg dksX1_puts_0 22 rfl rfl
theorem dX1_puts_0 : decode cX1_puts 0 = .ok (.aload_n 0, 1) := dk_42 (dk_at dksX1_puts_0 0 rfl rfl)
theorem dX1_puts_1 : decode cX1_puts 1 = .ok (.getfield 66, 3) := dk_180 0 66 (dk_at dksX1_puts_0 1 rfl rfl)
theorem dX1_puts_4 : decode cX1_puts 4 = .ok (.sipush 900, 3) := dk_17 3 132 (dk_at dksX1_puts_0 4 rfl rfl)
theorem dX1_puts_7 : decode cX1_puts 7 = .ok (.aload_n 0, 1) := dk_42 (dk_at dksX1_puts_0 7 rfl rfl)
theorem dX1_puts_8 : decode cX1_puts 8 = .ok (.getfield 338, 3) := dk_180 1 82 (dk_at dksX1_puts_0 8 rfl rfl)
theorem dX1_puts_11 : decode cX1_puts 11 = .ok (.iadd, 1) := dk_96 (dk_at dksX1_puts_0 11 rfl rfl)
theorem dX1_puts_12 : decode cX1_puts 12 = .ok (.iload_n 1, 1) := dk_27 (dk_at dksX1_puts_0 12 rfl rfl)
theorem dX1_puts_13 : decode cX1_puts 13 = .ok (.iastore, 1) := dk_79 (dk_at dksX1_puts_0 13 rfl rfl)
theorem dX1_puts_14 : decode cX1_puts 14 = .ok (.aload_n 0, 1) := dk_42 (dk_at dksX1_puts_0 14 rfl rfl)
theorem dX1_puts_15 : decode cX1_puts 15 = .ok (.getfield 63, 3) := dk_180 0 63 (dk_at dksX1_puts_0 15 rfl rfl)
theorem dX1_puts_18 : decode cX1_puts 18 = .ok (.sipush 900, 3) := dk_17 3 132 (dk_at dksX1_puts_0 18 rfl rfl)
theorem dX1_puts_21 : decode cX1_puts 21 = .ok (.aload_n 0, 1) := dk_42 (dk_at dksX1_puts_0 21 rfl rfl)
theorem dX1_puts_22 : decode cX1_puts 22 = .ok (.getfield 338, 3) := dk_180 1 82 (dk_at dksX1_puts_1 0 rfl rfl)
theorem dX1_puts_25 : decode cX1_puts 25 = .ok (.iadd, 1) := dk_96 (dk_at dksX1_puts_1 3 rfl rfl)
theorem dX1_puts_26 : decode cX1_puts 26 = .ok (.iload_n 2, 1) := dk_28 (dk_at dksX1_puts_1 4 rfl rfl)
theorem dX1_puts_27 : decode cX1_puts 27 = .ok (.iastore, 1) := dk_79 (dk_at dksX1_puts_1 5 rfl rfl)
theorem dX1_puts_28 : decode cX1_puts 28 = .ok (.aload_n 0, 1) := dk_42 (dk_at dksX1_puts_1 6 rfl rfl)
theorem dX1_puts_29 : decode cX1_puts 29 = .ok (.dup, 1) := dk_89 (dk_at dksX1_puts_1 7 rfl rfl)
theorem dX1_puts_30 : decode cX1_puts 30 = .ok (.getfield 338, 3) := dk_180 1 82 (dk_at dksX1_puts_1 8 rfl rfl)
theorem dX1_puts_33 : decode cX1_puts 33 = .ok (.iconst 1, 1) := dk_4 (dk_at dksX1_puts_1 11 rfl rfl)
theorem dX1_puts_34 : decode cX1_puts 34 = .ok (.iadd, 1) := dk_96 (dk_at dksX1_puts_1 12 rfl rfl)
theorem dX1_puts_35 : decode cX1_puts 35 = .ok (.putfield 338, 3) := dk_181 1 82 (dk_at dksX1_puts_1 13 rfl rfl)
theorem dX1_puts_38 : decode cX1_puts 38 = .ok (.return_, 1) := dk_177 (dk_at dksX1_puts_1 16 rfl rfl)
abbrev cX1_bits : ByteArray := prog_24_method_61_code
def yX1_bits : MethodName := ⟨RX1, "bits", "(I)I"⟩
def dkwX1_bits_0 : List UInt8 := [3, 60, 26, 61, 28, 158, 0, 16, 27, 28, 5, 112, 96, 60, 28, 5, 108, 61, 167, 255, 242, 27, 172]
abbrev dktX1_bits_0 : List UInt8 := dkwX1_bits_0 ++ []
theorem dksX1_bits_0 : cX1_bits.data.toList.drop 0 = dktX1_bits_0 := by decide +kernel
theorem dX1_bits_0 : decode cX1_bits 0 = .ok (.iconst 0, 1) := dk_3 (dk_at dksX1_bits_0 0 rfl rfl)
theorem dX1_bits_1 : decode cX1_bits 1 = .ok (.istore_n 1, 1) := dk_60 (dk_at dksX1_bits_0 1 rfl rfl)
theorem dX1_bits_2 : decode cX1_bits 2 = .ok (.iload_n 0, 1) := dk_26 (dk_at dksX1_bits_0 2 rfl rfl)
theorem dX1_bits_3 : decode cX1_bits 3 = .ok (.istore_n 2, 1) := dk_61 (dk_at dksX1_bits_0 3 rfl rfl)
theorem dX1_bits_4 : decode cX1_bits 4 = .ok (.iload_n 2, 1) := dk_28 (dk_at dksX1_bits_0 4 rfl rfl)
theorem dX1_bits_5 : decode cX1_bits 5 = .ok (.ifCond .le 16, 3) := dk_158 0 16 (dk_at dksX1_bits_0 5 rfl rfl)
theorem dX1_bits_8 : decode cX1_bits 8 = .ok (.iload_n 1, 1) := dk_27 (dk_at dksX1_bits_0 8 rfl rfl)
theorem dX1_bits_9 : decode cX1_bits 9 = .ok (.iload_n 2, 1) := dk_28 (dk_at dksX1_bits_0 9 rfl rfl)
theorem dX1_bits_10 : decode cX1_bits 10 = .ok (.iconst 2, 1) := dk_5 (dk_at dksX1_bits_0 10 rfl rfl)
theorem dX1_bits_11 : decode cX1_bits 11 = .ok (.irem, 1) := dk_112 (dk_at dksX1_bits_0 11 rfl rfl)
theorem dX1_bits_12 : decode cX1_bits 12 = .ok (.iadd, 1) := dk_96 (dk_at dksX1_bits_0 12 rfl rfl)
theorem dX1_bits_13 : decode cX1_bits 13 = .ok (.istore_n 1, 1) := dk_60 (dk_at dksX1_bits_0 13 rfl rfl)
theorem dX1_bits_14 : decode cX1_bits 14 = .ok (.iload_n 2, 1) := dk_28 (dk_at dksX1_bits_0 14 rfl rfl)
theorem dX1_bits_15 : decode cX1_bits 15 = .ok (.iconst 2, 1) := dk_5 (dk_at dksX1_bits_0 15 rfl rfl)
theorem dX1_bits_16 : decode cX1_bits 16 = .ok (.idiv, 1) := dk_108 (dk_at dksX1_bits_0 16 rfl rfl)
theorem dX1_bits_17 : decode cX1_bits 17 = .ok (.istore_n 2, 1) := dk_61 (dk_at dksX1_bits_0 17 rfl rfl)
theorem dX1_bits_18 : decode cX1_bits 18 = .ok (.goto (-14), 3) := dk_167 255 242 (dk_at dksX1_bits_0 18 rfl rfl)
theorem dX1_bits_21 : decode cX1_bits 21 = .ok (.iload_n 1, 1) := dk_27 (dk_at dksX1_bits_0 21 rfl rfl)
theorem dX1_bits_22 : decode cX1_bits 22 = .ok (.ireturn, 1) := dk_172 (dk_at dksX1_bits_0 22 rfl rfl)
abbrev cX1_tried : ByteArray := prog_24_method_69_code
def yX1_tried : MethodName := ⟨RX1, "tried", "(II)I"⟩
def dkwX1_tried_7 : List UInt8 := [154, 0, 9, 19, 1, 65, 167, 0, 11, 42, 180, 0, 78, 28, 4, 100, 46, 172]
abbrev dktX1_tried_7 : List UInt8 := dkwX1_tried_7 ++ []
def dkwX1_tried_6 : List UInt8 := [132, 3, 1, 42, 27, 182, 1, 154, 54, 4, 167, 255, 186, 28, 154, 0, 7, 29, 167, 0, 21, 29]
abbrev dktX1_tried_6 : List UInt8 := dkwX1_tried_6 ++ dktX1_tried_7
def dkwX1_tried_5 : List UInt8 := [21, 5, 46, 79, 132, 5, 1, 167, 255, 232, 42, 180, 0, 78, 16, 6, 42, 180, 1, 125, 184, 1, 150, 79]
abbrev dktX1_tried_5 : List UInt8 := dkwX1_tried_5 ++ dktX1_tried_6
def dkwX1_tried_4 : List UInt8 := [154, 0, 47, 3, 54, 5, 21, 5, 16, 6, 162, 0, 23, 42, 180, 0, 78, 21, 5, 42, 180, 0, 72]
abbrev dktX1_tried_4 : List UInt8 := dkwX1_tried_4 ++ dktX1_tried_5
def dkwX1_tried_3 : List UInt8 := [132, 3, 1, 167, 255, 223, 3, 62, 4, 54, 4, 21, 4, 153, 0, 71, 42, 182, 1, 147, 153, 0, 54, 29]
abbrev dktX1_tried_3 : List UInt8 := dkwX1_tried_3 ++ dktX1_tried_4
def dkwX1_tried_2 : List UInt8 := [180, 0, 72, 29, 42, 180, 1, 117, 29, 122, 4, 126, 4, 160, 0, 8, 27, 116, 167, 0, 4, 3, 79]
abbrev dktX1_tried_2 : List UInt8 := dkwX1_tried_2 ++ dktX1_tried_3
def dkwX1_tried_1 : List UInt8 := [20, 1, 145, 184, 0, 105, 154, 0, 7, 19, 1, 65, 172, 3, 62, 29, 16, 6, 162, 0, 33, 42]
abbrev dktX1_tried_1 : List UInt8 := dkwX1_tried_1 ++ dktX1_tried_2
def dkwX1_tried_0 : List UInt8 := [42, 180, 1, 111, 153, 0, 27, 27, 133, 9, 20, 0, 109, 184, 0, 105, 153, 0, 15, 28, 133, 9]
abbrev dktX1_tried_0 : List UInt8 := dkwX1_tried_0 ++ dktX1_tried_1
theorem dksX1_tried_0 : cX1_tried.data.toList.drop 0 = dktX1_tried_0 := by decide +kernel
theorem dksX1_tried_1 : cX1_tried.data.toList.drop 22 = dktX1_tried_1 := dk_seg dksX1_tried_0 22 rfl rfl
theorem dksX1_tried_2 : cX1_tried.data.toList.drop 44 = dktX1_tried_2 := dk_seg dksX1_tried_1 22 rfl rfl
theorem dksX1_tried_3 : cX1_tried.data.toList.drop 67 = dktX1_tried_3 := dk_seg dksX1_tried_2 23 rfl rfl
theorem dksX1_tried_4 : cX1_tried.data.toList.drop 91 = dktX1_tried_4 := dk_seg dksX1_tried_3 24 rfl rfl
theorem dksX1_tried_5 : cX1_tried.data.toList.drop 114 = dktX1_tried_5 := dk_seg dksX1_tried_4 23 rfl rfl
theorem dksX1_tried_6 : cX1_tried.data.toList.drop 138 = dktX1_tried_6 := dk_seg dksX1_tried_5 24 rfl rfl
theorem dksX1_tried_7 : cX1_tried.data.toList.drop 160 = dktX1_tried_7 := dk_seg dksX1_tried_6 22 rfl rfl
theorem dX1_tried_0 : decode cX1_tried 0 = .ok (.aload_n 0, 1) := dk_42 (dk_at dksX1_tried_0 0 rfl rfl)
theorem dX1_tried_1 : decode cX1_tried 1 = .ok (.getfield 367, 3) := dk_180 1 111 (dk_at dksX1_tried_0 1 rfl rfl)
theorem dX1_tried_4 : decode cX1_tried 4 = .ok (.ifCond .eq 27, 3) := dk_153 0 27 (dk_at dksX1_tried_0 4 rfl rfl)
theorem dX1_tried_7 : decode cX1_tried 7 = .ok (.iload_n 1, 1) := dk_27 (dk_at dksX1_tried_0 7 rfl rfl)
theorem dX1_tried_8 : decode cX1_tried 8 = .ok (.i2l, 1) := dk_133 (dk_at dksX1_tried_0 8 rfl rfl)
theorem dX1_tried_9 : decode cX1_tried 9 = .ok (.lconst 0, 1) := dk_9 (dk_at dksX1_tried_0 9 rfl rfl)
theorem dX1_tried_10 : decode cX1_tried 10 = .ok (.ldc2_w 109, 3) := dk_20 0 109 (dk_at dksX1_tried_0 10 rfl rfl)
theorem dX1_tried_13 : decode cX1_tried 13 = .ok (.invokestatic 105, 3) := dk_184 0 105 (dk_at dksX1_tried_0 13 rfl rfl)
theorem dX1_tried_16 : decode cX1_tried 16 = .ok (.ifCond .eq 15, 3) := dk_153 0 15 (dk_at dksX1_tried_0 16 rfl rfl)
theorem dX1_tried_19 : decode cX1_tried 19 = .ok (.iload_n 2, 1) := dk_28 (dk_at dksX1_tried_0 19 rfl rfl)
theorem dX1_tried_20 : decode cX1_tried 20 = .ok (.i2l, 1) := dk_133 (dk_at dksX1_tried_0 20 rfl rfl)
theorem dX1_tried_21 : decode cX1_tried 21 = .ok (.lconst 0, 1) := dk_9 (dk_at dksX1_tried_0 21 rfl rfl)
theorem dX1_tried_22 : decode cX1_tried 22 = .ok (.ldc2_w 401, 3) := dk_20 1 145 (dk_at dksX1_tried_1 0 rfl rfl)
theorem dX1_tried_25 : decode cX1_tried 25 = .ok (.invokestatic 105, 3) := dk_184 0 105 (dk_at dksX1_tried_1 3 rfl rfl)
theorem dX1_tried_28 : decode cX1_tried 28 = .ok (.ifCond .ne 7, 3) := dk_154 0 7 (dk_at dksX1_tried_1 6 rfl rfl)
theorem dX1_tried_31 : decode cX1_tried 31 = .ok (.ldc_w 321, 3) := dk_19 1 65 (dk_at dksX1_tried_1 9 rfl rfl)
theorem dX1_tried_34 : decode cX1_tried 34 = .ok (.ireturn, 1) := dk_172 (dk_at dksX1_tried_1 12 rfl rfl)
theorem dX1_tried_35 : decode cX1_tried 35 = .ok (.iconst 0, 1) := dk_3 (dk_at dksX1_tried_1 13 rfl rfl)
theorem dX1_tried_36 : decode cX1_tried 36 = .ok (.istore_n 3, 1) := dk_62 (dk_at dksX1_tried_1 14 rfl rfl)
theorem dX1_tried_37 : decode cX1_tried 37 = .ok (.iload_n 3, 1) := dk_29 (dk_at dksX1_tried_1 15 rfl rfl)
theorem dX1_tried_38 : decode cX1_tried 38 = .ok (.bipush 6, 2) := dk_16 6 (dk_at dksX1_tried_1 16 rfl rfl)
theorem dX1_tried_40 : decode cX1_tried 40 = .ok (.if_icmp .ge 33, 3) := dk_162 0 33 (dk_at dksX1_tried_1 18 rfl rfl)
theorem dX1_tried_43 : decode cX1_tried 43 = .ok (.aload_n 0, 1) := dk_42 (dk_at dksX1_tried_1 21 rfl rfl)
theorem dX1_tried_44 : decode cX1_tried 44 = .ok (.getfield 72, 3) := dk_180 0 72 (dk_at dksX1_tried_2 0 rfl rfl)
theorem dX1_tried_47 : decode cX1_tried 47 = .ok (.iload_n 3, 1) := dk_29 (dk_at dksX1_tried_2 3 rfl rfl)
theorem dX1_tried_48 : decode cX1_tried 48 = .ok (.aload_n 0, 1) := dk_42 (dk_at dksX1_tried_2 4 rfl rfl)
theorem dX1_tried_49 : decode cX1_tried 49 = .ok (.getfield 373, 3) := dk_180 1 117 (dk_at dksX1_tried_2 5 rfl rfl)
theorem dX1_tried_52 : decode cX1_tried 52 = .ok (.iload_n 3, 1) := dk_29 (dk_at dksX1_tried_2 8 rfl rfl)
theorem dX1_tried_53 : decode cX1_tried 53 = .ok (.ishr, 1) := dk_122 (dk_at dksX1_tried_2 9 rfl rfl)
theorem dX1_tried_54 : decode cX1_tried 54 = .ok (.iconst 1, 1) := dk_4 (dk_at dksX1_tried_2 10 rfl rfl)
theorem dX1_tried_55 : decode cX1_tried 55 = .ok (.iand, 1) := dk_126 (dk_at dksX1_tried_2 11 rfl rfl)
theorem dX1_tried_56 : decode cX1_tried 56 = .ok (.iconst 1, 1) := dk_4 (dk_at dksX1_tried_2 12 rfl rfl)
theorem dX1_tried_57 : decode cX1_tried 57 = .ok (.if_icmp .ne 8, 3) := dk_160 0 8 (dk_at dksX1_tried_2 13 rfl rfl)
theorem dX1_tried_60 : decode cX1_tried 60 = .ok (.iload_n 1, 1) := dk_27 (dk_at dksX1_tried_2 16 rfl rfl)
theorem dX1_tried_61 : decode cX1_tried 61 = .ok (.ineg, 1) := dk_116 (dk_at dksX1_tried_2 17 rfl rfl)
theorem dX1_tried_62 : decode cX1_tried 62 = .ok (.goto 4, 3) := dk_167 0 4 (dk_at dksX1_tried_2 18 rfl rfl)
theorem dX1_tried_65 : decode cX1_tried 65 = .ok (.iconst 0, 1) := dk_3 (dk_at dksX1_tried_2 21 rfl rfl)
theorem dX1_tried_66 : decode cX1_tried 66 = .ok (.iastore, 1) := dk_79 (dk_at dksX1_tried_2 22 rfl rfl)
theorem dX1_tried_67 : decode cX1_tried 67 = .ok (.iinc 3 1, 3) := dk_132 3 1 (dk_at dksX1_tried_3 0 rfl rfl)
theorem dX1_tried_70 : decode cX1_tried 70 = .ok (.goto (-33), 3) := dk_167 255 223 (dk_at dksX1_tried_3 3 rfl rfl)
theorem dX1_tried_73 : decode cX1_tried 73 = .ok (.iconst 0, 1) := dk_3 (dk_at dksX1_tried_3 6 rfl rfl)
theorem dX1_tried_74 : decode cX1_tried 74 = .ok (.istore_n 3, 1) := dk_62 (dk_at dksX1_tried_3 7 rfl rfl)
theorem dX1_tried_75 : decode cX1_tried 75 = .ok (.iconst 1, 1) := dk_4 (dk_at dksX1_tried_3 8 rfl rfl)
theorem dX1_tried_76 : decode cX1_tried 76 = .ok (.istore 4, 2) := dk_54 4 (dk_at dksX1_tried_3 9 rfl rfl)
theorem dX1_tried_78 : decode cX1_tried 78 = .ok (.iload 4, 2) := dk_21 4 (dk_at dksX1_tried_3 11 rfl rfl)
theorem dX1_tried_80 : decode cX1_tried 80 = .ok (.ifCond .eq 71, 3) := dk_153 0 71 (dk_at dksX1_tried_3 13 rfl rfl)
theorem dX1_tried_83 : decode cX1_tried 83 = .ok (.aload_n 0, 1) := dk_42 (dk_at dksX1_tried_3 16 rfl rfl)
theorem dX1_tried_84 : decode cX1_tried 84 = .ok (.invokevirtual 403, 3) := dk_182 1 147 (dk_at dksX1_tried_3 17 rfl rfl)
theorem dX1_tried_87 : decode cX1_tried 87 = .ok (.ifCond .eq 54, 3) := dk_153 0 54 (dk_at dksX1_tried_3 20 rfl rfl)
theorem dX1_tried_90 : decode cX1_tried 90 = .ok (.iload_n 3, 1) := dk_29 (dk_at dksX1_tried_3 23 rfl rfl)
theorem dX1_tried_91 : decode cX1_tried 91 = .ok (.ifCond .ne 47, 3) := dk_154 0 47 (dk_at dksX1_tried_4 0 rfl rfl)
theorem dX1_tried_94 : decode cX1_tried 94 = .ok (.iconst 0, 1) := dk_3 (dk_at dksX1_tried_4 3 rfl rfl)
theorem dX1_tried_95 : decode cX1_tried 95 = .ok (.istore 5, 2) := dk_54 5 (dk_at dksX1_tried_4 4 rfl rfl)
theorem dX1_tried_97 : decode cX1_tried 97 = .ok (.iload 5, 2) := dk_21 5 (dk_at dksX1_tried_4 6 rfl rfl)
theorem dX1_tried_99 : decode cX1_tried 99 = .ok (.bipush 6, 2) := dk_16 6 (dk_at dksX1_tried_4 8 rfl rfl)
theorem dX1_tried_101 : decode cX1_tried 101 = .ok (.if_icmp .ge 23, 3) := dk_162 0 23 (dk_at dksX1_tried_4 10 rfl rfl)
theorem dX1_tried_104 : decode cX1_tried 104 = .ok (.aload_n 0, 1) := dk_42 (dk_at dksX1_tried_4 13 rfl rfl)
theorem dX1_tried_105 : decode cX1_tried 105 = .ok (.getfield 78, 3) := dk_180 0 78 (dk_at dksX1_tried_4 14 rfl rfl)
theorem dX1_tried_108 : decode cX1_tried 108 = .ok (.iload 5, 2) := dk_21 5 (dk_at dksX1_tried_4 17 rfl rfl)
theorem dX1_tried_110 : decode cX1_tried 110 = .ok (.aload_n 0, 1) := dk_42 (dk_at dksX1_tried_4 19 rfl rfl)
theorem dX1_tried_111 : decode cX1_tried 111 = .ok (.getfield 72, 3) := dk_180 0 72 (dk_at dksX1_tried_4 20 rfl rfl)
theorem dX1_tried_114 : decode cX1_tried 114 = .ok (.iload 5, 2) := dk_21 5 (dk_at dksX1_tried_5 0 rfl rfl)
theorem dX1_tried_116 : decode cX1_tried 116 = .ok (.iaload, 1) := dk_46 (dk_at dksX1_tried_5 2 rfl rfl)
theorem dX1_tried_117 : decode cX1_tried 117 = .ok (.iastore, 1) := dk_79 (dk_at dksX1_tried_5 3 rfl rfl)
theorem dX1_tried_118 : decode cX1_tried 118 = .ok (.iinc 5 1, 3) := dk_132 5 1 (dk_at dksX1_tried_5 4 rfl rfl)
theorem dX1_tried_121 : decode cX1_tried 121 = .ok (.goto (-24), 3) := dk_167 255 232 (dk_at dksX1_tried_5 7 rfl rfl)
theorem dX1_tried_124 : decode cX1_tried 124 = .ok (.aload_n 0, 1) := dk_42 (dk_at dksX1_tried_5 10 rfl rfl)
theorem dX1_tried_125 : decode cX1_tried 125 = .ok (.getfield 78, 3) := dk_180 0 78 (dk_at dksX1_tried_5 11 rfl rfl)
theorem dX1_tried_128 : decode cX1_tried 128 = .ok (.bipush 6, 2) := dk_16 6 (dk_at dksX1_tried_5 14 rfl rfl)
theorem dX1_tried_130 : decode cX1_tried 130 = .ok (.aload_n 0, 1) := dk_42 (dk_at dksX1_tried_5 16 rfl rfl)
theorem dX1_tried_131 : decode cX1_tried 131 = .ok (.getfield 381, 3) := dk_180 1 125 (dk_at dksX1_tried_5 17 rfl rfl)
theorem dX1_tried_134 : decode cX1_tried 134 = .ok (.invokestatic 406, 3) := dk_184 1 150 (dk_at dksX1_tried_5 20 rfl rfl)
theorem dX1_tried_137 : decode cX1_tried 137 = .ok (.iastore, 1) := dk_79 (dk_at dksX1_tried_5 23 rfl rfl)
theorem dX1_tried_138 : decode cX1_tried 138 = .ok (.iinc 3 1, 3) := dk_132 3 1 (dk_at dksX1_tried_6 0 rfl rfl)
theorem dX1_tried_141 : decode cX1_tried 141 = .ok (.aload_n 0, 1) := dk_42 (dk_at dksX1_tried_6 3 rfl rfl)
theorem dX1_tried_142 : decode cX1_tried 142 = .ok (.iload_n 1, 1) := dk_27 (dk_at dksX1_tried_6 4 rfl rfl)
theorem dX1_tried_143 : decode cX1_tried 143 = .ok (.invokevirtual 410, 3) := dk_182 1 154 (dk_at dksX1_tried_6 5 rfl rfl)
theorem dX1_tried_146 : decode cX1_tried 146 = .ok (.istore 4, 2) := dk_54 4 (dk_at dksX1_tried_6 8 rfl rfl)
theorem dX1_tried_148 : decode cX1_tried 148 = .ok (.goto (-70), 3) := dk_167 255 186 (dk_at dksX1_tried_6 10 rfl rfl)
theorem dX1_tried_151 : decode cX1_tried 151 = .ok (.iload_n 2, 1) := dk_28 (dk_at dksX1_tried_6 13 rfl rfl)
theorem dX1_tried_152 : decode cX1_tried 152 = .ok (.ifCond .ne 7, 3) := dk_154 0 7 (dk_at dksX1_tried_6 14 rfl rfl)
theorem dX1_tried_155 : decode cX1_tried 155 = .ok (.iload_n 3, 1) := dk_29 (dk_at dksX1_tried_6 17 rfl rfl)
theorem dX1_tried_156 : decode cX1_tried 156 = .ok (.goto 21, 3) := dk_167 0 21 (dk_at dksX1_tried_6 18 rfl rfl)
theorem dX1_tried_159 : decode cX1_tried 159 = .ok (.iload_n 3, 1) := dk_29 (dk_at dksX1_tried_6 21 rfl rfl)
theorem dX1_tried_160 : decode cX1_tried 160 = .ok (.ifCond .ne 9, 3) := dk_154 0 9 (dk_at dksX1_tried_7 0 rfl rfl)
theorem dX1_tried_163 : decode cX1_tried 163 = .ok (.ldc_w 321, 3) := dk_19 1 65 (dk_at dksX1_tried_7 3 rfl rfl)
theorem dX1_tried_166 : decode cX1_tried 166 = .ok (.goto 11, 3) := dk_167 0 11 (dk_at dksX1_tried_7 6 rfl rfl)
theorem dX1_tried_169 : decode cX1_tried 169 = .ok (.aload_n 0, 1) := dk_42 (dk_at dksX1_tried_7 9 rfl rfl)
theorem dX1_tried_170 : decode cX1_tried 170 = .ok (.getfield 78, 3) := dk_180 0 78 (dk_at dksX1_tried_7 10 rfl rfl)
theorem dX1_tried_173 : decode cX1_tried 173 = .ok (.iload_n 2, 1) := dk_28 (dk_at dksX1_tried_7 13 rfl rfl)
theorem dX1_tried_174 : decode cX1_tried 174 = .ok (.iconst 1, 1) := dk_4 (dk_at dksX1_tried_7 14 rfl rfl)
theorem dX1_tried_175 : decode cX1_tried 175 = .ok (.isub, 1) := dk_100 (dk_at dksX1_tried_7 15 rfl rfl)
theorem dX1_tried_176 : decode cX1_tried 176 = .ok (.iaload, 1) := dk_46 (dk_at dksX1_tried_7 16 rfl rfl)
theorem dX1_tried_177 : decode cX1_tried 177 = .ok (.ireturn, 1) := dk_172 (dk_at dksX1_tried_7 17 rfl rfl)
abbrev cX1_isBroken : ByteArray := prog_24_method_67_code
def yX1_isBroken : MethodName := ⟨RX1, "isBroken", "()Z"⟩
def dkwX1_isBroken_1 : List UInt8 := [31, 33, 148, 153, 0, 7, 4, 167, 0, 4, 3, 172]
abbrev dktX1_isBroken_1 : List UInt8 := dkwX1_isBroken_1 ++ []
def dkwX1_isBroken_0 : List UInt8 := [42, 3, 181, 1, 125, 42, 3, 182, 1, 142, 64, 42, 4, 182, 1, 142, 66, 42, 180, 1, 125, 154, 0, 9]
abbrev dktX1_isBroken_0 : List UInt8 := dkwX1_isBroken_0 ++ dktX1_isBroken_1
theorem dksX1_isBroken_0 : cX1_isBroken.data.toList.drop 0 = dktX1_isBroken_0 := by decide +kernel
theorem dksX1_isBroken_1 : cX1_isBroken.data.toList.drop 24 = dktX1_isBroken_1 := dk_seg dksX1_isBroken_0 24 rfl rfl
theorem dX1_isBroken_0 : decode cX1_isBroken 0 = .ok (.aload_n 0, 1) := dk_42 (dk_at dksX1_isBroken_0 0 rfl rfl)
theorem dX1_isBroken_1 : decode cX1_isBroken 1 = .ok (.iconst 0, 1) := dk_3 (dk_at dksX1_isBroken_0 1 rfl rfl)
theorem dX1_isBroken_2 : decode cX1_isBroken 2 = .ok (.putfield 381, 3) := dk_181 1 125 (dk_at dksX1_isBroken_0 2 rfl rfl)
theorem dX1_isBroken_5 : decode cX1_isBroken 5 = .ok (.aload_n 0, 1) := dk_42 (dk_at dksX1_isBroken_0 5 rfl rfl)
theorem dX1_isBroken_6 : decode cX1_isBroken 6 = .ok (.iconst 0, 1) := dk_3 (dk_at dksX1_isBroken_0 6 rfl rfl)
theorem dX1_isBroken_7 : decode cX1_isBroken 7 = .ok (.invokevirtual 398, 3) := dk_182 1 142 (dk_at dksX1_isBroken_0 7 rfl rfl)
theorem dX1_isBroken_10 : decode cX1_isBroken 10 = .ok (.lstore_n 1, 1) := dk_64 (dk_at dksX1_isBroken_0 10 rfl rfl)
theorem dX1_isBroken_11 : decode cX1_isBroken 11 = .ok (.aload_n 0, 1) := dk_42 (dk_at dksX1_isBroken_0 11 rfl rfl)
theorem dX1_isBroken_12 : decode cX1_isBroken 12 = .ok (.iconst 1, 1) := dk_4 (dk_at dksX1_isBroken_0 12 rfl rfl)
theorem dX1_isBroken_13 : decode cX1_isBroken 13 = .ok (.invokevirtual 398, 3) := dk_182 1 142 (dk_at dksX1_isBroken_0 13 rfl rfl)
theorem dX1_isBroken_16 : decode cX1_isBroken 16 = .ok (.lstore_n 3, 1) := dk_66 (dk_at dksX1_isBroken_0 16 rfl rfl)
theorem dX1_isBroken_17 : decode cX1_isBroken 17 = .ok (.aload_n 0, 1) := dk_42 (dk_at dksX1_isBroken_0 17 rfl rfl)
theorem dX1_isBroken_18 : decode cX1_isBroken 18 = .ok (.getfield 381, 3) := dk_180 1 125 (dk_at dksX1_isBroken_0 18 rfl rfl)
theorem dX1_isBroken_21 : decode cX1_isBroken 21 = .ok (.ifCond .ne 9, 3) := dk_154 0 9 (dk_at dksX1_isBroken_0 21 rfl rfl)
theorem dX1_isBroken_24 : decode cX1_isBroken 24 = .ok (.lload_n 1, 1) := dk_31 (dk_at dksX1_isBroken_1 0 rfl rfl)
theorem dX1_isBroken_25 : decode cX1_isBroken 25 = .ok (.lload_n 3, 1) := dk_33 (dk_at dksX1_isBroken_1 1 rfl rfl)
theorem dX1_isBroken_26 : decode cX1_isBroken 26 = .ok (.lcmp, 1) := dk_148 (dk_at dksX1_isBroken_1 2 rfl rfl)
theorem dX1_isBroken_27 : decode cX1_isBroken 27 = .ok (.ifCond .eq 7, 3) := dk_153 0 7 (dk_at dksX1_isBroken_1 3 rfl rfl)
theorem dX1_isBroken_30 : decode cX1_isBroken 30 = .ok (.iconst 1, 1) := dk_4 (dk_at dksX1_isBroken_1 6 rfl rfl)
theorem dX1_isBroken_31 : decode cX1_isBroken 31 = .ok (.goto 4, 3) := dk_167 0 4 (dk_at dksX1_isBroken_1 7 rfl rfl)
theorem dX1_isBroken_34 : decode cX1_isBroken 34 = .ok (.iconst 0, 1) := dk_3 (dk_at dksX1_isBroken_1 10 rfl rfl)
theorem dX1_isBroken_35 : decode cX1_isBroken 35 = .ok (.ireturn, 1) := dk_172 (dk_at dksX1_isBroken_1 11 rfl rfl)
abbrev cX1_sideTells : ByteArray := prog_24_method_66_code
def yX1_sideTells : MethodName := ⟨RX1, "sideTells", "(I)J"⟩
def dkwX1_sideTells_9 : List UInt8 := [167, 255, 64, 42, 180, 0, 75, 3, 47, 173]
abbrev dktX1_sideTells_9 : List UInt8 := dkwX1_sideTells_9 ++ []
def dkwX1_sideTells_8 : List UInt8 := [42, 42, 180, 0, 75, 28, 4, 100, 47, 42, 180, 0, 75, 28, 47, 182, 1, 128, 80, 132, 3, 1]
abbrev dktX1_sideTells_8 : List UInt8 := dkwX1_sideTells_8 ++ dktX1_sideTells_9
def dkwX1_sideTells_7 : List UInt8 := [160, 0, 24, 42, 42, 180, 0, 75, 28, 4, 100, 47, 42, 180, 0, 75, 28, 47, 182, 1, 139, 167, 0, 21]
abbrev dktX1_sideTells_7 : List UInt8 := dkwX1_sideTells_7 ++ dktX1_sideTells_8
def dkwX1_sideTells_6 : List UInt8 := [180, 0, 75, 28, 4, 100, 47, 42, 180, 0, 75, 28, 47, 182, 1, 136, 167, 0, 49, 21, 4, 16, 45]
abbrev dktX1_sideTells_6 : List UInt8 := dkwX1_sideTells_6 ++ dktX1_sideTells_7
def dkwX1_sideTells_5 : List UInt8 := [80, 167, 0, 88, 132, 2, 255, 42, 180, 0, 75, 28, 4, 100, 21, 4, 16, 43, 160, 0, 24, 42, 42]
abbrev dktX1_sideTells_5 : List UInt8 := dkwX1_sideTells_5 ++ dktX1_sideTells_6
def dkwX1_sideTells_4 : List UInt8 := [180, 0, 75, 28, 4, 100, 42, 42, 180, 0, 75, 28, 4, 100, 47, 42, 180, 0, 63, 29, 46, 182, 1, 132]
abbrev dktX1_sideTells_4 : List UInt8 := dkwX1_sideTells_4 ++ dktX1_sideTells_5
def dkwX1_sideTells_3 : List UInt8 := [180, 0, 63, 29, 46, 46, 133, 80, 132, 2, 1, 167, 0, 124, 21, 4, 16, 94, 160, 0, 32, 42]
abbrev dktX1_sideTells_3 : List UInt8 := dkwX1_sideTells_3 ++ dktX1_sideTells_4
def dkwX1_sideTells_2 : List UInt8 := [180, 0, 75, 28, 21, 4, 154, 0, 13, 42, 180, 0, 63, 29, 46, 133, 167, 0, 15, 42, 180, 0, 72, 42]
abbrev dktX1_sideTells_2 : List UInt8 := dkwX1_sideTells_2 ++ dktX1_sideTells_3
def dkwX1_sideTells_1 : List UInt8 := [162, 0, 188, 42, 180, 0, 66, 29, 46, 54, 4, 21, 4, 153, 0, 9, 21, 4, 4, 160, 0, 42, 42]
abbrev dktX1_sideTells_1 : List UInt8 := dkwX1_sideTells_1 ++ dktX1_sideTells_2
def dkwX1_sideTells_0 : List UInt8 := [3, 61, 27, 154, 0, 7, 3, 167, 0, 9, 42, 180, 0, 69, 3, 46, 62, 29, 42, 180, 0, 69, 27, 46]
abbrev dktX1_sideTells_0 : List UInt8 := dkwX1_sideTells_0 ++ dktX1_sideTells_1
theorem dksX1_sideTells_0 : cX1_sideTells.data.toList.drop 0 = dktX1_sideTells_0 := by decide +kernel
theorem dksX1_sideTells_1 : cX1_sideTells.data.toList.drop 24 = dktX1_sideTells_1 := dk_seg dksX1_sideTells_0 24 rfl rfl
theorem dksX1_sideTells_2 : cX1_sideTells.data.toList.drop 47 = dktX1_sideTells_2 := dk_seg dksX1_sideTells_1 23 rfl rfl
theorem dksX1_sideTells_3 : cX1_sideTells.data.toList.drop 71 = dktX1_sideTells_3 := dk_seg dksX1_sideTells_2 24 rfl rfl
theorem dksX1_sideTells_4 : cX1_sideTells.data.toList.drop 93 = dktX1_sideTells_4 := dk_seg dksX1_sideTells_3 22 rfl rfl
theorem dksX1_sideTells_5 : cX1_sideTells.data.toList.drop 117 = dktX1_sideTells_5 := dk_seg dksX1_sideTells_4 24 rfl rfl
theorem dksX1_sideTells_6 : cX1_sideTells.data.toList.drop 140 = dktX1_sideTells_6 := dk_seg dksX1_sideTells_5 23 rfl rfl
theorem dksX1_sideTells_7 : cX1_sideTells.data.toList.drop 163 = dktX1_sideTells_7 := dk_seg dksX1_sideTells_6 23 rfl rfl
theorem dksX1_sideTells_8 : cX1_sideTells.data.toList.drop 187 = dktX1_sideTells_8 := dk_seg dksX1_sideTells_7 24 rfl rfl
theorem dksX1_sideTells_9 : cX1_sideTells.data.toList.drop 209 = dktX1_sideTells_9 := dk_seg dksX1_sideTells_8 22 rfl rfl
theorem dX1_sideTells_0 : decode cX1_sideTells 0 = .ok (.iconst 0, 1) := dk_3 (dk_at dksX1_sideTells_0 0 rfl rfl)
theorem dX1_sideTells_1 : decode cX1_sideTells 1 = .ok (.istore_n 2, 1) := dk_61 (dk_at dksX1_sideTells_0 1 rfl rfl)
theorem dX1_sideTells_2 : decode cX1_sideTells 2 = .ok (.iload_n 1, 1) := dk_27 (dk_at dksX1_sideTells_0 2 rfl rfl)
theorem dX1_sideTells_3 : decode cX1_sideTells 3 = .ok (.ifCond .ne 7, 3) := dk_154 0 7 (dk_at dksX1_sideTells_0 3 rfl rfl)
theorem dX1_sideTells_6 : decode cX1_sideTells 6 = .ok (.iconst 0, 1) := dk_3 (dk_at dksX1_sideTells_0 6 rfl rfl)
theorem dX1_sideTells_7 : decode cX1_sideTells 7 = .ok (.goto 9, 3) := dk_167 0 9 (dk_at dksX1_sideTells_0 7 rfl rfl)
theorem dX1_sideTells_10 : decode cX1_sideTells 10 = .ok (.aload_n 0, 1) := dk_42 (dk_at dksX1_sideTells_0 10 rfl rfl)
theorem dX1_sideTells_11 : decode cX1_sideTells 11 = .ok (.getfield 69, 3) := dk_180 0 69 (dk_at dksX1_sideTells_0 11 rfl rfl)
theorem dX1_sideTells_14 : decode cX1_sideTells 14 = .ok (.iconst 0, 1) := dk_3 (dk_at dksX1_sideTells_0 14 rfl rfl)
theorem dX1_sideTells_15 : decode cX1_sideTells 15 = .ok (.iaload, 1) := dk_46 (dk_at dksX1_sideTells_0 15 rfl rfl)
theorem dX1_sideTells_16 : decode cX1_sideTells 16 = .ok (.istore_n 3, 1) := dk_62 (dk_at dksX1_sideTells_0 16 rfl rfl)
theorem dX1_sideTells_17 : decode cX1_sideTells 17 = .ok (.iload_n 3, 1) := dk_29 (dk_at dksX1_sideTells_0 17 rfl rfl)
theorem dX1_sideTells_18 : decode cX1_sideTells 18 = .ok (.aload_n 0, 1) := dk_42 (dk_at dksX1_sideTells_0 18 rfl rfl)
theorem dX1_sideTells_19 : decode cX1_sideTells 19 = .ok (.getfield 69, 3) := dk_180 0 69 (dk_at dksX1_sideTells_0 19 rfl rfl)
theorem dX1_sideTells_22 : decode cX1_sideTells 22 = .ok (.iload_n 1, 1) := dk_27 (dk_at dksX1_sideTells_0 22 rfl rfl)
theorem dX1_sideTells_23 : decode cX1_sideTells 23 = .ok (.iaload, 1) := dk_46 (dk_at dksX1_sideTells_0 23 rfl rfl)
theorem dX1_sideTells_24 : decode cX1_sideTells 24 = .ok (.if_icmp .ge 188, 3) := dk_162 0 188 (dk_at dksX1_sideTells_1 0 rfl rfl)
theorem dX1_sideTells_27 : decode cX1_sideTells 27 = .ok (.aload_n 0, 1) := dk_42 (dk_at dksX1_sideTells_1 3 rfl rfl)
theorem dX1_sideTells_28 : decode cX1_sideTells 28 = .ok (.getfield 66, 3) := dk_180 0 66 (dk_at dksX1_sideTells_1 4 rfl rfl)
theorem dX1_sideTells_31 : decode cX1_sideTells 31 = .ok (.iload_n 3, 1) := dk_29 (dk_at dksX1_sideTells_1 7 rfl rfl)
theorem dX1_sideTells_32 : decode cX1_sideTells 32 = .ok (.iaload, 1) := dk_46 (dk_at dksX1_sideTells_1 8 rfl rfl)
theorem dX1_sideTells_33 : decode cX1_sideTells 33 = .ok (.istore 4, 2) := dk_54 4 (dk_at dksX1_sideTells_1 9 rfl rfl)
theorem dX1_sideTells_35 : decode cX1_sideTells 35 = .ok (.iload 4, 2) := dk_21 4 (dk_at dksX1_sideTells_1 11 rfl rfl)
theorem dX1_sideTells_37 : decode cX1_sideTells 37 = .ok (.ifCond .eq 9, 3) := dk_153 0 9 (dk_at dksX1_sideTells_1 13 rfl rfl)
theorem dX1_sideTells_40 : decode cX1_sideTells 40 = .ok (.iload 4, 2) := dk_21 4 (dk_at dksX1_sideTells_1 16 rfl rfl)
theorem dX1_sideTells_42 : decode cX1_sideTells 42 = .ok (.iconst 1, 1) := dk_4 (dk_at dksX1_sideTells_1 18 rfl rfl)
theorem dX1_sideTells_43 : decode cX1_sideTells 43 = .ok (.if_icmp .ne 42, 3) := dk_160 0 42 (dk_at dksX1_sideTells_1 19 rfl rfl)
theorem dX1_sideTells_46 : decode cX1_sideTells 46 = .ok (.aload_n 0, 1) := dk_42 (dk_at dksX1_sideTells_1 22 rfl rfl)
theorem dX1_sideTells_47 : decode cX1_sideTells 47 = .ok (.getfield 75, 3) := dk_180 0 75 (dk_at dksX1_sideTells_2 0 rfl rfl)
theorem dX1_sideTells_50 : decode cX1_sideTells 50 = .ok (.iload_n 2, 1) := dk_28 (dk_at dksX1_sideTells_2 3 rfl rfl)
theorem dX1_sideTells_51 : decode cX1_sideTells 51 = .ok (.iload 4, 2) := dk_21 4 (dk_at dksX1_sideTells_2 4 rfl rfl)
theorem dX1_sideTells_53 : decode cX1_sideTells 53 = .ok (.ifCond .ne 13, 3) := dk_154 0 13 (dk_at dksX1_sideTells_2 6 rfl rfl)
theorem dX1_sideTells_56 : decode cX1_sideTells 56 = .ok (.aload_n 0, 1) := dk_42 (dk_at dksX1_sideTells_2 9 rfl rfl)
theorem dX1_sideTells_57 : decode cX1_sideTells 57 = .ok (.getfield 63, 3) := dk_180 0 63 (dk_at dksX1_sideTells_2 10 rfl rfl)
theorem dX1_sideTells_60 : decode cX1_sideTells 60 = .ok (.iload_n 3, 1) := dk_29 (dk_at dksX1_sideTells_2 13 rfl rfl)
theorem dX1_sideTells_61 : decode cX1_sideTells 61 = .ok (.iaload, 1) := dk_46 (dk_at dksX1_sideTells_2 14 rfl rfl)
theorem dX1_sideTells_62 : decode cX1_sideTells 62 = .ok (.i2l, 1) := dk_133 (dk_at dksX1_sideTells_2 15 rfl rfl)
theorem dX1_sideTells_63 : decode cX1_sideTells 63 = .ok (.goto 15, 3) := dk_167 0 15 (dk_at dksX1_sideTells_2 16 rfl rfl)
theorem dX1_sideTells_66 : decode cX1_sideTells 66 = .ok (.aload_n 0, 1) := dk_42 (dk_at dksX1_sideTells_2 19 rfl rfl)
theorem dX1_sideTells_67 : decode cX1_sideTells 67 = .ok (.getfield 72, 3) := dk_180 0 72 (dk_at dksX1_sideTells_2 20 rfl rfl)
theorem dX1_sideTells_70 : decode cX1_sideTells 70 = .ok (.aload_n 0, 1) := dk_42 (dk_at dksX1_sideTells_2 23 rfl rfl)
theorem dX1_sideTells_71 : decode cX1_sideTells 71 = .ok (.getfield 63, 3) := dk_180 0 63 (dk_at dksX1_sideTells_3 0 rfl rfl)
theorem dX1_sideTells_74 : decode cX1_sideTells 74 = .ok (.iload_n 3, 1) := dk_29 (dk_at dksX1_sideTells_3 3 rfl rfl)
theorem dX1_sideTells_75 : decode cX1_sideTells 75 = .ok (.iaload, 1) := dk_46 (dk_at dksX1_sideTells_3 4 rfl rfl)
theorem dX1_sideTells_76 : decode cX1_sideTells 76 = .ok (.iaload, 1) := dk_46 (dk_at dksX1_sideTells_3 5 rfl rfl)
theorem dX1_sideTells_77 : decode cX1_sideTells 77 = .ok (.i2l, 1) := dk_133 (dk_at dksX1_sideTells_3 6 rfl rfl)
theorem dX1_sideTells_78 : decode cX1_sideTells 78 = .ok (.lastore, 1) := dk_80 (dk_at dksX1_sideTells_3 7 rfl rfl)
theorem dX1_sideTells_79 : decode cX1_sideTells 79 = .ok (.iinc 2 1, 3) := dk_132 2 1 (dk_at dksX1_sideTells_3 8 rfl rfl)
theorem dX1_sideTells_82 : decode cX1_sideTells 82 = .ok (.goto 124, 3) := dk_167 0 124 (dk_at dksX1_sideTells_3 11 rfl rfl)
theorem dX1_sideTells_85 : decode cX1_sideTells 85 = .ok (.iload 4, 2) := dk_21 4 (dk_at dksX1_sideTells_3 14 rfl rfl)
theorem dX1_sideTells_87 : decode cX1_sideTells 87 = .ok (.bipush 94, 2) := dk_16 94 (dk_at dksX1_sideTells_3 16 rfl rfl)
theorem dX1_sideTells_89 : decode cX1_sideTells 89 = .ok (.if_icmp .ne 32, 3) := dk_160 0 32 (dk_at dksX1_sideTells_3 18 rfl rfl)
theorem dX1_sideTells_92 : decode cX1_sideTells 92 = .ok (.aload_n 0, 1) := dk_42 (dk_at dksX1_sideTells_3 21 rfl rfl)
theorem dX1_sideTells_93 : decode cX1_sideTells 93 = .ok (.getfield 75, 3) := dk_180 0 75 (dk_at dksX1_sideTells_4 0 rfl rfl)
theorem dX1_sideTells_96 : decode cX1_sideTells 96 = .ok (.iload_n 2, 1) := dk_28 (dk_at dksX1_sideTells_4 3 rfl rfl)
theorem dX1_sideTells_97 : decode cX1_sideTells 97 = .ok (.iconst 1, 1) := dk_4 (dk_at dksX1_sideTells_4 4 rfl rfl)
theorem dX1_sideTells_98 : decode cX1_sideTells 98 = .ok (.isub, 1) := dk_100 (dk_at dksX1_sideTells_4 5 rfl rfl)
theorem dX1_sideTells_99 : decode cX1_sideTells 99 = .ok (.aload_n 0, 1) := dk_42 (dk_at dksX1_sideTells_4 6 rfl rfl)
theorem dX1_sideTells_100 : decode cX1_sideTells 100 = .ok (.aload_n 0, 1) := dk_42 (dk_at dksX1_sideTells_4 7 rfl rfl)
theorem dX1_sideTells_101 : decode cX1_sideTells 101 = .ok (.getfield 75, 3) := dk_180 0 75 (dk_at dksX1_sideTells_4 8 rfl rfl)
theorem dX1_sideTells_104 : decode cX1_sideTells 104 = .ok (.iload_n 2, 1) := dk_28 (dk_at dksX1_sideTells_4 11 rfl rfl)
theorem dX1_sideTells_105 : decode cX1_sideTells 105 = .ok (.iconst 1, 1) := dk_4 (dk_at dksX1_sideTells_4 12 rfl rfl)
theorem dX1_sideTells_106 : decode cX1_sideTells 106 = .ok (.isub, 1) := dk_100 (dk_at dksX1_sideTells_4 13 rfl rfl)
theorem dX1_sideTells_107 : decode cX1_sideTells 107 = .ok (.laload, 1) := dk_47 (dk_at dksX1_sideTells_4 14 rfl rfl)
theorem dX1_sideTells_108 : decode cX1_sideTells 108 = .ok (.aload_n 0, 1) := dk_42 (dk_at dksX1_sideTells_4 15 rfl rfl)
theorem dX1_sideTells_109 : decode cX1_sideTells 109 = .ok (.getfield 63, 3) := dk_180 0 63 (dk_at dksX1_sideTells_4 16 rfl rfl)
theorem dX1_sideTells_112 : decode cX1_sideTells 112 = .ok (.iload_n 3, 1) := dk_29 (dk_at dksX1_sideTells_4 19 rfl rfl)
theorem dX1_sideTells_113 : decode cX1_sideTells 113 = .ok (.iaload, 1) := dk_46 (dk_at dksX1_sideTells_4 20 rfl rfl)
theorem dX1_sideTells_114 : decode cX1_sideTells 114 = .ok (.invokevirtual 388, 3) := dk_182 1 132 (dk_at dksX1_sideTells_4 21 rfl rfl)
theorem dX1_sideTells_117 : decode cX1_sideTells 117 = .ok (.lastore, 1) := dk_80 (dk_at dksX1_sideTells_5 0 rfl rfl)
theorem dX1_sideTells_118 : decode cX1_sideTells 118 = .ok (.goto 88, 3) := dk_167 0 88 (dk_at dksX1_sideTells_5 1 rfl rfl)
theorem dX1_sideTells_121 : decode cX1_sideTells 121 = .ok (.iinc 2 (-1), 3) := dk_132 2 255 (dk_at dksX1_sideTells_5 4 rfl rfl)
theorem dX1_sideTells_124 : decode cX1_sideTells 124 = .ok (.aload_n 0, 1) := dk_42 (dk_at dksX1_sideTells_5 7 rfl rfl)
theorem dX1_sideTells_125 : decode cX1_sideTells 125 = .ok (.getfield 75, 3) := dk_180 0 75 (dk_at dksX1_sideTells_5 8 rfl rfl)
theorem dX1_sideTells_128 : decode cX1_sideTells 128 = .ok (.iload_n 2, 1) := dk_28 (dk_at dksX1_sideTells_5 11 rfl rfl)
theorem dX1_sideTells_129 : decode cX1_sideTells 129 = .ok (.iconst 1, 1) := dk_4 (dk_at dksX1_sideTells_5 12 rfl rfl)
theorem dX1_sideTells_130 : decode cX1_sideTells 130 = .ok (.isub, 1) := dk_100 (dk_at dksX1_sideTells_5 13 rfl rfl)
theorem dX1_sideTells_131 : decode cX1_sideTells 131 = .ok (.iload 4, 2) := dk_21 4 (dk_at dksX1_sideTells_5 14 rfl rfl)
theorem dX1_sideTells_133 : decode cX1_sideTells 133 = .ok (.bipush 43, 2) := dk_16 43 (dk_at dksX1_sideTells_5 16 rfl rfl)
theorem dX1_sideTells_135 : decode cX1_sideTells 135 = .ok (.if_icmp .ne 24, 3) := dk_160 0 24 (dk_at dksX1_sideTells_5 18 rfl rfl)
theorem dX1_sideTells_138 : decode cX1_sideTells 138 = .ok (.aload_n 0, 1) := dk_42 (dk_at dksX1_sideTells_5 21 rfl rfl)
theorem dX1_sideTells_139 : decode cX1_sideTells 139 = .ok (.aload_n 0, 1) := dk_42 (dk_at dksX1_sideTells_5 22 rfl rfl)
theorem dX1_sideTells_140 : decode cX1_sideTells 140 = .ok (.getfield 75, 3) := dk_180 0 75 (dk_at dksX1_sideTells_6 0 rfl rfl)
theorem dX1_sideTells_143 : decode cX1_sideTells 143 = .ok (.iload_n 2, 1) := dk_28 (dk_at dksX1_sideTells_6 3 rfl rfl)
theorem dX1_sideTells_144 : decode cX1_sideTells 144 = .ok (.iconst 1, 1) := dk_4 (dk_at dksX1_sideTells_6 4 rfl rfl)
theorem dX1_sideTells_145 : decode cX1_sideTells 145 = .ok (.isub, 1) := dk_100 (dk_at dksX1_sideTells_6 5 rfl rfl)
theorem dX1_sideTells_146 : decode cX1_sideTells 146 = .ok (.laload, 1) := dk_47 (dk_at dksX1_sideTells_6 6 rfl rfl)
theorem dX1_sideTells_147 : decode cX1_sideTells 147 = .ok (.aload_n 0, 1) := dk_42 (dk_at dksX1_sideTells_6 7 rfl rfl)
theorem dX1_sideTells_148 : decode cX1_sideTells 148 = .ok (.getfield 75, 3) := dk_180 0 75 (dk_at dksX1_sideTells_6 8 rfl rfl)
theorem dX1_sideTells_151 : decode cX1_sideTells 151 = .ok (.iload_n 2, 1) := dk_28 (dk_at dksX1_sideTells_6 11 rfl rfl)
theorem dX1_sideTells_152 : decode cX1_sideTells 152 = .ok (.laload, 1) := dk_47 (dk_at dksX1_sideTells_6 12 rfl rfl)
theorem dX1_sideTells_153 : decode cX1_sideTells 153 = .ok (.invokevirtual 392, 3) := dk_182 1 136 (dk_at dksX1_sideTells_6 13 rfl rfl)
theorem dX1_sideTells_156 : decode cX1_sideTells 156 = .ok (.goto 49, 3) := dk_167 0 49 (dk_at dksX1_sideTells_6 16 rfl rfl)
theorem dX1_sideTells_159 : decode cX1_sideTells 159 = .ok (.iload 4, 2) := dk_21 4 (dk_at dksX1_sideTells_6 19 rfl rfl)
theorem dX1_sideTells_161 : decode cX1_sideTells 161 = .ok (.bipush 45, 2) := dk_16 45 (dk_at dksX1_sideTells_6 21 rfl rfl)
theorem dX1_sideTells_163 : decode cX1_sideTells 163 = .ok (.if_icmp .ne 24, 3) := dk_160 0 24 (dk_at dksX1_sideTells_7 0 rfl rfl)
theorem dX1_sideTells_166 : decode cX1_sideTells 166 = .ok (.aload_n 0, 1) := dk_42 (dk_at dksX1_sideTells_7 3 rfl rfl)
theorem dX1_sideTells_167 : decode cX1_sideTells 167 = .ok (.aload_n 0, 1) := dk_42 (dk_at dksX1_sideTells_7 4 rfl rfl)
theorem dX1_sideTells_168 : decode cX1_sideTells 168 = .ok (.getfield 75, 3) := dk_180 0 75 (dk_at dksX1_sideTells_7 5 rfl rfl)
theorem dX1_sideTells_171 : decode cX1_sideTells 171 = .ok (.iload_n 2, 1) := dk_28 (dk_at dksX1_sideTells_7 8 rfl rfl)
theorem dX1_sideTells_172 : decode cX1_sideTells 172 = .ok (.iconst 1, 1) := dk_4 (dk_at dksX1_sideTells_7 9 rfl rfl)
theorem dX1_sideTells_173 : decode cX1_sideTells 173 = .ok (.isub, 1) := dk_100 (dk_at dksX1_sideTells_7 10 rfl rfl)
theorem dX1_sideTells_174 : decode cX1_sideTells 174 = .ok (.laload, 1) := dk_47 (dk_at dksX1_sideTells_7 11 rfl rfl)
theorem dX1_sideTells_175 : decode cX1_sideTells 175 = .ok (.aload_n 0, 1) := dk_42 (dk_at dksX1_sideTells_7 12 rfl rfl)
theorem dX1_sideTells_176 : decode cX1_sideTells 176 = .ok (.getfield 75, 3) := dk_180 0 75 (dk_at dksX1_sideTells_7 13 rfl rfl)
theorem dX1_sideTells_179 : decode cX1_sideTells 179 = .ok (.iload_n 2, 1) := dk_28 (dk_at dksX1_sideTells_7 16 rfl rfl)
theorem dX1_sideTells_180 : decode cX1_sideTells 180 = .ok (.laload, 1) := dk_47 (dk_at dksX1_sideTells_7 17 rfl rfl)
theorem dX1_sideTells_181 : decode cX1_sideTells 181 = .ok (.invokevirtual 395, 3) := dk_182 1 139 (dk_at dksX1_sideTells_7 18 rfl rfl)
theorem dX1_sideTells_184 : decode cX1_sideTells 184 = .ok (.goto 21, 3) := dk_167 0 21 (dk_at dksX1_sideTells_7 21 rfl rfl)
theorem dX1_sideTells_187 : decode cX1_sideTells 187 = .ok (.aload_n 0, 1) := dk_42 (dk_at dksX1_sideTells_8 0 rfl rfl)
theorem dX1_sideTells_188 : decode cX1_sideTells 188 = .ok (.aload_n 0, 1) := dk_42 (dk_at dksX1_sideTells_8 1 rfl rfl)
theorem dX1_sideTells_189 : decode cX1_sideTells 189 = .ok (.getfield 75, 3) := dk_180 0 75 (dk_at dksX1_sideTells_8 2 rfl rfl)
theorem dX1_sideTells_192 : decode cX1_sideTells 192 = .ok (.iload_n 2, 1) := dk_28 (dk_at dksX1_sideTells_8 5 rfl rfl)
theorem dX1_sideTells_193 : decode cX1_sideTells 193 = .ok (.iconst 1, 1) := dk_4 (dk_at dksX1_sideTells_8 6 rfl rfl)
theorem dX1_sideTells_194 : decode cX1_sideTells 194 = .ok (.isub, 1) := dk_100 (dk_at dksX1_sideTells_8 7 rfl rfl)
theorem dX1_sideTells_195 : decode cX1_sideTells 195 = .ok (.laload, 1) := dk_47 (dk_at dksX1_sideTells_8 8 rfl rfl)
theorem dX1_sideTells_196 : decode cX1_sideTells 196 = .ok (.aload_n 0, 1) := dk_42 (dk_at dksX1_sideTells_8 9 rfl rfl)
theorem dX1_sideTells_197 : decode cX1_sideTells 197 = .ok (.getfield 75, 3) := dk_180 0 75 (dk_at dksX1_sideTells_8 10 rfl rfl)
theorem dX1_sideTells_200 : decode cX1_sideTells 200 = .ok (.iload_n 2, 1) := dk_28 (dk_at dksX1_sideTells_8 13 rfl rfl)
theorem dX1_sideTells_201 : decode cX1_sideTells 201 = .ok (.laload, 1) := dk_47 (dk_at dksX1_sideTells_8 14 rfl rfl)
theorem dX1_sideTells_202 : decode cX1_sideTells 202 = .ok (.invokevirtual 384, 3) := dk_182 1 128 (dk_at dksX1_sideTells_8 15 rfl rfl)
theorem dX1_sideTells_205 : decode cX1_sideTells 205 = .ok (.lastore, 1) := dk_80 (dk_at dksX1_sideTells_8 18 rfl rfl)
theorem dX1_sideTells_206 : decode cX1_sideTells 206 = .ok (.iinc 3 1, 3) := dk_132 3 1 (dk_at dksX1_sideTells_8 19 rfl rfl)
theorem dX1_sideTells_209 : decode cX1_sideTells 209 = .ok (.goto (-192), 3) := dk_167 255 64 (dk_at dksX1_sideTells_9 0 rfl rfl)
theorem dX1_sideTells_212 : decode cX1_sideTells 212 = .ok (.aload_n 0, 1) := dk_42 (dk_at dksX1_sideTells_9 3 rfl rfl)
theorem dX1_sideTells_213 : decode cX1_sideTells 213 = .ok (.getfield 75, 3) := dk_180 0 75 (dk_at dksX1_sideTells_9 4 rfl rfl)
theorem dX1_sideTells_216 : decode cX1_sideTells 216 = .ok (.iconst 0, 1) := dk_3 (dk_at dksX1_sideTells_9 7 rfl rfl)
theorem dX1_sideTells_217 : decode cX1_sideTells 217 = .ok (.laload, 1) := dk_47 (dk_at dksX1_sideTells_9 8 rfl rfl)
theorem dX1_sideTells_218 : decode cX1_sideTells 218 = .ok (.lreturn, 1) := dk_173 (dk_at dksX1_sideTells_9 9 rfl rfl)
abbrev cX1_raised : ByteArray := prog_24_method_65_code
def yX1_raised : MethodName := ⟨RX1, "raised", "(JI)J"⟩
def dkwX1_raised_1 : List UInt8 := [167, 255, 238, 22, 4, 173]
abbrev dktX1_raised_1 : List UInt8 := dkwX1_raised_1 ++ []
def dkwX1_raised_0 : List UInt8 := [10, 55, 4, 3, 54, 6, 21, 6, 29, 162, 0, 18, 42, 22, 4, 31, 182, 1, 128, 55, 4, 132, 6, 1]
abbrev dktX1_raised_0 : List UInt8 := dkwX1_raised_0 ++ dktX1_raised_1
theorem dksX1_raised_0 : cX1_raised.data.toList.drop 0 = dktX1_raised_0 := by decide +kernel
theorem dksX1_raised_1 : cX1_raised.data.toList.drop 24 = dktX1_raised_1 := dk_seg dksX1_raised_0 24 rfl rfl
theorem dX1_raised_0 : decode cX1_raised 0 = .ok (.lconst 1, 1) := dk_10 (dk_at dksX1_raised_0 0 rfl rfl)
theorem dX1_raised_1 : decode cX1_raised 1 = .ok (.lstore 4, 2) := dk_55 4 (dk_at dksX1_raised_0 1 rfl rfl)
theorem dX1_raised_3 : decode cX1_raised 3 = .ok (.iconst 0, 1) := dk_3 (dk_at dksX1_raised_0 3 rfl rfl)
theorem dX1_raised_4 : decode cX1_raised 4 = .ok (.istore 6, 2) := dk_54 6 (dk_at dksX1_raised_0 4 rfl rfl)
theorem dX1_raised_6 : decode cX1_raised 6 = .ok (.iload 6, 2) := dk_21 6 (dk_at dksX1_raised_0 6 rfl rfl)
theorem dX1_raised_8 : decode cX1_raised 8 = .ok (.iload_n 3, 1) := dk_29 (dk_at dksX1_raised_0 8 rfl rfl)
theorem dX1_raised_9 : decode cX1_raised 9 = .ok (.if_icmp .ge 18, 3) := dk_162 0 18 (dk_at dksX1_raised_0 9 rfl rfl)
theorem dX1_raised_12 : decode cX1_raised 12 = .ok (.aload_n 0, 1) := dk_42 (dk_at dksX1_raised_0 12 rfl rfl)
theorem dX1_raised_13 : decode cX1_raised 13 = .ok (.lload 4, 2) := dk_22 4 (dk_at dksX1_raised_0 13 rfl rfl)
theorem dX1_raised_15 : decode cX1_raised 15 = .ok (.lload_n 1, 1) := dk_31 (dk_at dksX1_raised_0 15 rfl rfl)
theorem dX1_raised_16 : decode cX1_raised 16 = .ok (.invokevirtual 384, 3) := dk_182 1 128 (dk_at dksX1_raised_0 16 rfl rfl)
theorem dX1_raised_19 : decode cX1_raised 19 = .ok (.lstore 4, 2) := dk_55 4 (dk_at dksX1_raised_0 19 rfl rfl)
theorem dX1_raised_21 : decode cX1_raised 21 = .ok (.iinc 6 1, 3) := dk_132 6 1 (dk_at dksX1_raised_0 21 rfl rfl)
theorem dX1_raised_24 : decode cX1_raised 24 = .ok (.goto (-18), 3) := dk_167 255 238 (dk_at dksX1_raised_1 0 rfl rfl)
theorem dX1_raised_27 : decode cX1_raised 27 = .ok (.lload 4, 2) := dk_22 4 (dk_at dksX1_raised_1 3 rfl rfl)
theorem dX1_raised_29 : decode cX1_raised 29 = .ok (.lreturn, 1) := dk_173 (dk_at dksX1_raised_1 5 rfl rfl)
abbrev cX1_times : ByteArray := prog_24_method_62_code
def yX1_times : MethodName := ⟨RX1, "times", "(JJ)J"⟩
def dkwX1_times_1 : List UInt8 := [148, 154, 0, 16, 33, 20, 1, 123, 148, 154, 0, 8, 42, 4, 181, 1, 125, 22, 5, 173]
abbrev dktX1_times_1 : List UInt8 := dkwX1_times_1 ++ []
def dkwX1_times_0 : List UInt8 := [31, 33, 105, 55, 5, 31, 9, 148, 153, 0, 33, 22, 5, 31, 109, 33, 148, 154, 0, 19, 31, 20, 1, 24]
abbrev dktX1_times_0 : List UInt8 := dkwX1_times_0 ++ dktX1_times_1
theorem dksX1_times_0 : cX1_times.data.toList.drop 0 = dktX1_times_0 := by decide +kernel
theorem dksX1_times_1 : cX1_times.data.toList.drop 24 = dktX1_times_1 := dk_seg dksX1_times_0 24 rfl rfl
theorem dX1_times_0 : decode cX1_times 0 = .ok (.lload_n 1, 1) := dk_31 (dk_at dksX1_times_0 0 rfl rfl)
theorem dX1_times_1 : decode cX1_times 1 = .ok (.lload_n 3, 1) := dk_33 (dk_at dksX1_times_0 1 rfl rfl)
theorem dX1_times_2 : decode cX1_times 2 = .ok (.lmul, 1) := dk_105 (dk_at dksX1_times_0 2 rfl rfl)
theorem dX1_times_3 : decode cX1_times 3 = .ok (.lstore 5, 2) := dk_55 5 (dk_at dksX1_times_0 3 rfl rfl)
theorem dX1_times_5 : decode cX1_times 5 = .ok (.lload_n 1, 1) := dk_31 (dk_at dksX1_times_0 5 rfl rfl)
theorem dX1_times_6 : decode cX1_times 6 = .ok (.lconst 0, 1) := dk_9 (dk_at dksX1_times_0 6 rfl rfl)
theorem dX1_times_7 : decode cX1_times 7 = .ok (.lcmp, 1) := dk_148 (dk_at dksX1_times_0 7 rfl rfl)
theorem dX1_times_8 : decode cX1_times 8 = .ok (.ifCond .eq 33, 3) := dk_153 0 33 (dk_at dksX1_times_0 8 rfl rfl)
theorem dX1_times_11 : decode cX1_times 11 = .ok (.lload 5, 2) := dk_22 5 (dk_at dksX1_times_0 11 rfl rfl)
theorem dX1_times_13 : decode cX1_times 13 = .ok (.lload_n 1, 1) := dk_31 (dk_at dksX1_times_0 13 rfl rfl)
theorem dX1_times_14 : decode cX1_times 14 = .ok (.ldiv, 1) := dk_109 (dk_at dksX1_times_0 14 rfl rfl)
theorem dX1_times_15 : decode cX1_times 15 = .ok (.lload_n 3, 1) := dk_33 (dk_at dksX1_times_0 15 rfl rfl)
theorem dX1_times_16 : decode cX1_times 16 = .ok (.lcmp, 1) := dk_148 (dk_at dksX1_times_0 16 rfl rfl)
theorem dX1_times_17 : decode cX1_times 17 = .ok (.ifCond .ne 19, 3) := dk_154 0 19 (dk_at dksX1_times_0 17 rfl rfl)
theorem dX1_times_20 : decode cX1_times 20 = .ok (.lload_n 1, 1) := dk_31 (dk_at dksX1_times_0 20 rfl rfl)
theorem dX1_times_21 : decode cX1_times 21 = .ok (.ldc2_w 280, 3) := dk_20 1 24 (dk_at dksX1_times_0 21 rfl rfl)
theorem dX1_times_24 : decode cX1_times 24 = .ok (.lcmp, 1) := dk_148 (dk_at dksX1_times_1 0 rfl rfl)
theorem dX1_times_25 : decode cX1_times 25 = .ok (.ifCond .ne 16, 3) := dk_154 0 16 (dk_at dksX1_times_1 1 rfl rfl)
theorem dX1_times_28 : decode cX1_times 28 = .ok (.lload_n 3, 1) := dk_33 (dk_at dksX1_times_1 4 rfl rfl)
theorem dX1_times_29 : decode cX1_times 29 = .ok (.ldc2_w 379, 3) := dk_20 1 123 (dk_at dksX1_times_1 5 rfl rfl)
theorem dX1_times_32 : decode cX1_times 32 = .ok (.lcmp, 1) := dk_148 (dk_at dksX1_times_1 8 rfl rfl)
theorem dX1_times_33 : decode cX1_times 33 = .ok (.ifCond .ne 8, 3) := dk_154 0 8 (dk_at dksX1_times_1 9 rfl rfl)
theorem dX1_times_36 : decode cX1_times 36 = .ok (.aload_n 0, 1) := dk_42 (dk_at dksX1_times_1 12 rfl rfl)
theorem dX1_times_37 : decode cX1_times 37 = .ok (.iconst 1, 1) := dk_4 (dk_at dksX1_times_1 13 rfl rfl)
theorem dX1_times_38 : decode cX1_times 38 = .ok (.putfield 381, 3) := dk_181 1 125 (dk_at dksX1_times_1 14 rfl rfl)
theorem dX1_times_41 : decode cX1_times 41 = .ok (.lload 5, 2) := dk_22 5 (dk_at dksX1_times_1 17 rfl rfl)
theorem dX1_times_43 : decode cX1_times 43 = .ok (.lreturn, 1) := dk_173 (dk_at dksX1_times_1 19 rfl rfl)
abbrev cX1_plus : ByteArray := prog_24_method_63_code
def yX1_plus : MethodName := ⟨RX1, "plus", "(JJ)J"⟩
def dkwX1_plus_1 : List UInt8 := [22, 5, 173]
abbrev dktX1_plus_1 : List UInt8 := dkwX1_plus_1 ++ []
def dkwX1_plus_0 : List UInt8 := [31, 33, 97, 55, 5, 31, 22, 5, 131, 33, 22, 5, 131, 127, 9, 148, 156, 0, 8, 42, 4, 181, 1, 125]
abbrev dktX1_plus_0 : List UInt8 := dkwX1_plus_0 ++ dktX1_plus_1
theorem dksX1_plus_0 : cX1_plus.data.toList.drop 0 = dktX1_plus_0 := by decide +kernel
theorem dksX1_plus_1 : cX1_plus.data.toList.drop 24 = dktX1_plus_1 := dk_seg dksX1_plus_0 24 rfl rfl
theorem dX1_plus_0 : decode cX1_plus 0 = .ok (.lload_n 1, 1) := dk_31 (dk_at dksX1_plus_0 0 rfl rfl)
theorem dX1_plus_1 : decode cX1_plus 1 = .ok (.lload_n 3, 1) := dk_33 (dk_at dksX1_plus_0 1 rfl rfl)
theorem dX1_plus_2 : decode cX1_plus 2 = .ok (.ladd, 1) := dk_97 (dk_at dksX1_plus_0 2 rfl rfl)
theorem dX1_plus_3 : decode cX1_plus 3 = .ok (.lstore 5, 2) := dk_55 5 (dk_at dksX1_plus_0 3 rfl rfl)
theorem dX1_plus_5 : decode cX1_plus 5 = .ok (.lload_n 1, 1) := dk_31 (dk_at dksX1_plus_0 5 rfl rfl)
theorem dX1_plus_6 : decode cX1_plus 6 = .ok (.lload 5, 2) := dk_22 5 (dk_at dksX1_plus_0 6 rfl rfl)
theorem dX1_plus_8 : decode cX1_plus 8 = .ok (.lxor, 1) := dk_131 (dk_at dksX1_plus_0 8 rfl rfl)
theorem dX1_plus_9 : decode cX1_plus 9 = .ok (.lload_n 3, 1) := dk_33 (dk_at dksX1_plus_0 9 rfl rfl)
theorem dX1_plus_10 : decode cX1_plus 10 = .ok (.lload 5, 2) := dk_22 5 (dk_at dksX1_plus_0 10 rfl rfl)
theorem dX1_plus_12 : decode cX1_plus 12 = .ok (.lxor, 1) := dk_131 (dk_at dksX1_plus_0 12 rfl rfl)
theorem dX1_plus_13 : decode cX1_plus 13 = .ok (.land, 1) := dk_127 (dk_at dksX1_plus_0 13 rfl rfl)
theorem dX1_plus_14 : decode cX1_plus 14 = .ok (.lconst 0, 1) := dk_9 (dk_at dksX1_plus_0 14 rfl rfl)
theorem dX1_plus_15 : decode cX1_plus 15 = .ok (.lcmp, 1) := dk_148 (dk_at dksX1_plus_0 15 rfl rfl)
theorem dX1_plus_16 : decode cX1_plus 16 = .ok (.ifCond .ge 8, 3) := dk_156 0 8 (dk_at dksX1_plus_0 16 rfl rfl)
theorem dX1_plus_19 : decode cX1_plus 19 = .ok (.aload_n 0, 1) := dk_42 (dk_at dksX1_plus_0 19 rfl rfl)
theorem dX1_plus_20 : decode cX1_plus 20 = .ok (.iconst 1, 1) := dk_4 (dk_at dksX1_plus_0 20 rfl rfl)
theorem dX1_plus_21 : decode cX1_plus 21 = .ok (.putfield 381, 3) := dk_181 1 125 (dk_at dksX1_plus_0 21 rfl rfl)
theorem dX1_plus_24 : decode cX1_plus 24 = .ok (.lload 5, 2) := dk_22 5 (dk_at dksX1_plus_1 0 rfl rfl)
theorem dX1_plus_26 : decode cX1_plus 26 = .ok (.lreturn, 1) := dk_173 (dk_at dksX1_plus_1 2 rfl rfl)
abbrev cX1_minus : ByteArray := prog_24_method_64_code
def yX1_minus : MethodName := ⟨RX1, "minus", "(JJ)J"⟩
def dkwX1_minus_1 : List UInt8 := [22, 5, 173]
abbrev dktX1_minus_1 : List UInt8 := dkwX1_minus_1 ++ []
def dkwX1_minus_0 : List UInt8 := [31, 33, 101, 55, 5, 31, 33, 131, 31, 22, 5, 131, 127, 9, 148, 156, 0, 8, 42, 4, 181, 1, 125]
abbrev dktX1_minus_0 : List UInt8 := dkwX1_minus_0 ++ dktX1_minus_1
theorem dksX1_minus_0 : cX1_minus.data.toList.drop 0 = dktX1_minus_0 := by decide +kernel
theorem dksX1_minus_1 : cX1_minus.data.toList.drop 23 = dktX1_minus_1 := dk_seg dksX1_minus_0 23 rfl rfl
theorem dX1_minus_0 : decode cX1_minus 0 = .ok (.lload_n 1, 1) := dk_31 (dk_at dksX1_minus_0 0 rfl rfl)
theorem dX1_minus_1 : decode cX1_minus 1 = .ok (.lload_n 3, 1) := dk_33 (dk_at dksX1_minus_0 1 rfl rfl)
theorem dX1_minus_2 : decode cX1_minus 2 = .ok (.lsub, 1) := dk_101 (dk_at dksX1_minus_0 2 rfl rfl)
theorem dX1_minus_3 : decode cX1_minus 3 = .ok (.lstore 5, 2) := dk_55 5 (dk_at dksX1_minus_0 3 rfl rfl)
theorem dX1_minus_5 : decode cX1_minus 5 = .ok (.lload_n 1, 1) := dk_31 (dk_at dksX1_minus_0 5 rfl rfl)
theorem dX1_minus_6 : decode cX1_minus 6 = .ok (.lload_n 3, 1) := dk_33 (dk_at dksX1_minus_0 6 rfl rfl)
theorem dX1_minus_7 : decode cX1_minus 7 = .ok (.lxor, 1) := dk_131 (dk_at dksX1_minus_0 7 rfl rfl)
theorem dX1_minus_8 : decode cX1_minus 8 = .ok (.lload_n 1, 1) := dk_31 (dk_at dksX1_minus_0 8 rfl rfl)
theorem dX1_minus_9 : decode cX1_minus 9 = .ok (.lload 5, 2) := dk_22 5 (dk_at dksX1_minus_0 9 rfl rfl)
theorem dX1_minus_11 : decode cX1_minus 11 = .ok (.lxor, 1) := dk_131 (dk_at dksX1_minus_0 11 rfl rfl)
theorem dX1_minus_12 : decode cX1_minus 12 = .ok (.land, 1) := dk_127 (dk_at dksX1_minus_0 12 rfl rfl)
theorem dX1_minus_13 : decode cX1_minus 13 = .ok (.lconst 0, 1) := dk_9 (dk_at dksX1_minus_0 13 rfl rfl)
theorem dX1_minus_14 : decode cX1_minus 14 = .ok (.lcmp, 1) := dk_148 (dk_at dksX1_minus_0 14 rfl rfl)
theorem dX1_minus_15 : decode cX1_minus 15 = .ok (.ifCond .ge 8, 3) := dk_156 0 8 (dk_at dksX1_minus_0 15 rfl rfl)
theorem dX1_minus_18 : decode cX1_minus 18 = .ok (.aload_n 0, 1) := dk_42 (dk_at dksX1_minus_0 18 rfl rfl)
theorem dX1_minus_19 : decode cX1_minus 19 = .ok (.iconst 1, 1) := dk_4 (dk_at dksX1_minus_0 19 rfl rfl)
theorem dX1_minus_20 : decode cX1_minus 20 = .ok (.putfield 381, 3) := dk_181 1 125 (dk_at dksX1_minus_0 20 rfl rfl)
theorem dX1_minus_23 : decode cX1_minus 23 = .ok (.lload 5, 2) := dk_22 5 (dk_at dksX1_minus_1 0 rfl rfl)
theorem dX1_minus_25 : decode cX1_minus 25 = .ok (.lreturn, 1) := dk_173 (dk_at dksX1_minus_1 2 rfl rfl)
abbrev cX1_one : ByteArray := prog_24_method_2_code
def yX1_one : MethodName := ⟨RX1, "one", "(Z)I"⟩
def dkwX1_one_0 : List UInt8 := [26, 153, 0, 7, 4, 167, 0, 4, 3, 172]
abbrev dktX1_one_0 : List UInt8 := dkwX1_one_0 ++ []
theorem dksX1_one_0 : cX1_one.data.toList.drop 0 = dktX1_one_0 := by decide +kernel
theorem dX1_one_0 : decode cX1_one 0 = .ok (.iload_n 0, 1) := dk_26 (dk_at dksX1_one_0 0 rfl rfl)
theorem dX1_one_1 : decode cX1_one 1 = .ok (.ifCond .eq 7, 3) := dk_153 0 7 (dk_at dksX1_one_0 1 rfl rfl)
theorem dX1_one_4 : decode cX1_one 4 = .ok (.iconst 1, 1) := dk_4 (dk_at dksX1_one_0 4 rfl rfl)
theorem dX1_one_5 : decode cX1_one 5 = .ok (.goto 4, 3) := dk_167 0 4 (dk_at dksX1_one_0 5 rfl rfl)
theorem dX1_one_8 : decode cX1_one 8 = .ok (.iconst 0, 1) := dk_3 (dk_at dksX1_one_0 8 rfl rfl)
theorem dX1_one_9 : decode cX1_one 9 = .ok (.ireturn, 1) := dk_172 (dk_at dksX1_one_0 9 rfl rfl)
abbrev cX1_goesOn : ByteArray := prog_24_method_68_code
def yX1_goesOn : MethodName := ⟨RX1, "goesOn", "(I)Z"⟩
def dkwX1_goesOn_2 : List UInt8 := [116, 79, 132, 2, 255, 167, 255, 205, 3, 172]
abbrev dktX1_goesOn_2 : List UInt8 := dkwX1_goesOn_2 ++ []
def dkwX1_goesOn_1 : List UInt8 := [28, 46, 27, 162, 0, 15, 42, 180, 0, 72, 28, 92, 46, 4, 96, 79, 4, 172, 42, 180, 0, 72, 28, 27]
abbrev dktX1_goesOn_1 : List UInt8 := dkwX1_goesOn_1 ++ dktX1_goesOn_2
def dkwX1_goesOn_0 : List UInt8 := [8, 61, 28, 155, 0, 53, 42, 180, 1, 117, 28, 122, 4, 126, 154, 0, 6, 167, 0, 33, 42, 180, 0, 72]
abbrev dktX1_goesOn_0 : List UInt8 := dkwX1_goesOn_0 ++ dktX1_goesOn_1
theorem dksX1_goesOn_0 : cX1_goesOn.data.toList.drop 0 = dktX1_goesOn_0 := by decide +kernel
theorem dksX1_goesOn_1 : cX1_goesOn.data.toList.drop 24 = dktX1_goesOn_1 := dk_seg dksX1_goesOn_0 24 rfl rfl
theorem dksX1_goesOn_2 : cX1_goesOn.data.toList.drop 48 = dktX1_goesOn_2 := dk_seg dksX1_goesOn_1 24 rfl rfl
theorem dX1_goesOn_0 : decode cX1_goesOn 0 = .ok (.iconst 5, 1) := dk_8 (dk_at dksX1_goesOn_0 0 rfl rfl)
theorem dX1_goesOn_1 : decode cX1_goesOn 1 = .ok (.istore_n 2, 1) := dk_61 (dk_at dksX1_goesOn_0 1 rfl rfl)
theorem dX1_goesOn_2 : decode cX1_goesOn 2 = .ok (.iload_n 2, 1) := dk_28 (dk_at dksX1_goesOn_0 2 rfl rfl)
theorem dX1_goesOn_3 : decode cX1_goesOn 3 = .ok (.ifCond .lt 53, 3) := dk_155 0 53 (dk_at dksX1_goesOn_0 3 rfl rfl)
theorem dX1_goesOn_6 : decode cX1_goesOn 6 = .ok (.aload_n 0, 1) := dk_42 (dk_at dksX1_goesOn_0 6 rfl rfl)
theorem dX1_goesOn_7 : decode cX1_goesOn 7 = .ok (.getfield 373, 3) := dk_180 1 117 (dk_at dksX1_goesOn_0 7 rfl rfl)
theorem dX1_goesOn_10 : decode cX1_goesOn 10 = .ok (.iload_n 2, 1) := dk_28 (dk_at dksX1_goesOn_0 10 rfl rfl)
theorem dX1_goesOn_11 : decode cX1_goesOn 11 = .ok (.ishr, 1) := dk_122 (dk_at dksX1_goesOn_0 11 rfl rfl)
theorem dX1_goesOn_12 : decode cX1_goesOn 12 = .ok (.iconst 1, 1) := dk_4 (dk_at dksX1_goesOn_0 12 rfl rfl)
theorem dX1_goesOn_13 : decode cX1_goesOn 13 = .ok (.iand, 1) := dk_126 (dk_at dksX1_goesOn_0 13 rfl rfl)
theorem dX1_goesOn_14 : decode cX1_goesOn 14 = .ok (.ifCond .ne 6, 3) := dk_154 0 6 (dk_at dksX1_goesOn_0 14 rfl rfl)
theorem dX1_goesOn_17 : decode cX1_goesOn 17 = .ok (.goto 33, 3) := dk_167 0 33 (dk_at dksX1_goesOn_0 17 rfl rfl)
theorem dX1_goesOn_20 : decode cX1_goesOn 20 = .ok (.aload_n 0, 1) := dk_42 (dk_at dksX1_goesOn_0 20 rfl rfl)
theorem dX1_goesOn_21 : decode cX1_goesOn 21 = .ok (.getfield 72, 3) := dk_180 0 72 (dk_at dksX1_goesOn_0 21 rfl rfl)
theorem dX1_goesOn_24 : decode cX1_goesOn 24 = .ok (.iload_n 2, 1) := dk_28 (dk_at dksX1_goesOn_1 0 rfl rfl)
theorem dX1_goesOn_25 : decode cX1_goesOn 25 = .ok (.iaload, 1) := dk_46 (dk_at dksX1_goesOn_1 1 rfl rfl)
theorem dX1_goesOn_26 : decode cX1_goesOn 26 = .ok (.iload_n 1, 1) := dk_27 (dk_at dksX1_goesOn_1 2 rfl rfl)
theorem dX1_goesOn_27 : decode cX1_goesOn 27 = .ok (.if_icmp .ge 15, 3) := dk_162 0 15 (dk_at dksX1_goesOn_1 3 rfl rfl)
theorem dX1_goesOn_30 : decode cX1_goesOn 30 = .ok (.aload_n 0, 1) := dk_42 (dk_at dksX1_goesOn_1 6 rfl rfl)
theorem dX1_goesOn_31 : decode cX1_goesOn 31 = .ok (.getfield 72, 3) := dk_180 0 72 (dk_at dksX1_goesOn_1 7 rfl rfl)
theorem dX1_goesOn_34 : decode cX1_goesOn 34 = .ok (.iload_n 2, 1) := dk_28 (dk_at dksX1_goesOn_1 10 rfl rfl)
theorem dX1_goesOn_35 : decode cX1_goesOn 35 = .ok (.dup2, 1) := dk_92 (dk_at dksX1_goesOn_1 11 rfl rfl)
theorem dX1_goesOn_36 : decode cX1_goesOn 36 = .ok (.iaload, 1) := dk_46 (dk_at dksX1_goesOn_1 12 rfl rfl)
theorem dX1_goesOn_37 : decode cX1_goesOn 37 = .ok (.iconst 1, 1) := dk_4 (dk_at dksX1_goesOn_1 13 rfl rfl)
theorem dX1_goesOn_38 : decode cX1_goesOn 38 = .ok (.iadd, 1) := dk_96 (dk_at dksX1_goesOn_1 14 rfl rfl)
theorem dX1_goesOn_39 : decode cX1_goesOn 39 = .ok (.iastore, 1) := dk_79 (dk_at dksX1_goesOn_1 15 rfl rfl)
theorem dX1_goesOn_40 : decode cX1_goesOn 40 = .ok (.iconst 1, 1) := dk_4 (dk_at dksX1_goesOn_1 16 rfl rfl)
theorem dX1_goesOn_41 : decode cX1_goesOn 41 = .ok (.ireturn, 1) := dk_172 (dk_at dksX1_goesOn_1 17 rfl rfl)
theorem dX1_goesOn_42 : decode cX1_goesOn 42 = .ok (.aload_n 0, 1) := dk_42 (dk_at dksX1_goesOn_1 18 rfl rfl)
theorem dX1_goesOn_43 : decode cX1_goesOn 43 = .ok (.getfield 72, 3) := dk_180 0 72 (dk_at dksX1_goesOn_1 19 rfl rfl)
theorem dX1_goesOn_46 : decode cX1_goesOn 46 = .ok (.iload_n 2, 1) := dk_28 (dk_at dksX1_goesOn_1 22 rfl rfl)
theorem dX1_goesOn_47 : decode cX1_goesOn 47 = .ok (.iload_n 1, 1) := dk_27 (dk_at dksX1_goesOn_1 23 rfl rfl)
theorem dX1_goesOn_48 : decode cX1_goesOn 48 = .ok (.ineg, 1) := dk_116 (dk_at dksX1_goesOn_2 0 rfl rfl)
theorem dX1_goesOn_49 : decode cX1_goesOn 49 = .ok (.iastore, 1) := dk_79 (dk_at dksX1_goesOn_2 1 rfl rfl)
theorem dX1_goesOn_50 : decode cX1_goesOn 50 = .ok (.iinc 2 (-1), 3) := dk_132 2 255 (dk_at dksX1_goesOn_2 2 rfl rfl)
theorem dX1_goesOn_53 : decode cX1_goesOn 53 = .ok (.goto (-51), 3) := dk_167 255 205 (dk_at dksX1_goesOn_2 5 rfl rfl)
theorem dX1_goesOn_56 : decode cX1_goesOn 56 = .ok (.iconst 0, 1) := dk_3 (dk_at dksX1_goesOn_2 8 rfl rfl)
theorem dX1_goesOn_57 : decode cX1_goesOn 57 = .ok (.ireturn, 1) := dk_172 (dk_at dksX1_goesOn_2 9 rfl rfl)
abbrev cX1_side : ByteArray := prog_24_method_70_code
def yX1_side : MethodName := ⟨RX1, "side", "(IIIIIII)J"⟩
def dkwX1_side_7 : List UInt8 := [182, 1, 142, 55, 8, 42, 180, 1, 125, 153, 0, 9, 20, 1, 123, 167, 0, 5, 22, 8, 173]
abbrev dktX1_side_7 : List UInt8 := dkwX1_side_7 ++ []
def dkwX1_side_6 : List UInt8 := [180, 0, 72, 7, 21, 6, 79, 42, 180, 0, 72, 8, 21, 7, 79, 42, 3, 181, 1, 125, 42, 27]
abbrev dktX1_side_6 : List UInt8 := dkwX1_side_6 ++ dktX1_side_7
def dkwX1_side_5 : List UInt8 := [180, 0, 72, 4, 29, 79, 42, 180, 0, 72, 5, 21, 4, 79, 42, 180, 0, 72, 6, 21, 5, 79, 42]
abbrev dktX1_side_5 : List UInt8 := dkwX1_side_5 ++ dktX1_side_6
def dkwX1_side_4 : List UInt8 := [20, 1, 157, 20, 1, 159, 184, 0, 105, 154, 0, 7, 20, 1, 123, 173, 42, 180, 0, 72, 3, 28, 79, 42]
abbrev dktX1_side_4 : List UInt8 := dkwX1_side_4 ++ dktX1_side_5
def dkwX1_side_3 : List UInt8 := [184, 0, 105, 153, 0, 33, 21, 6, 133, 20, 1, 157, 20, 1, 159, 184, 0, 105, 153, 0, 18, 21, 7, 133]
abbrev dktX1_side_3 : List UInt8 := dkwX1_side_3 ++ dktX1_side_4
def dkwX1_side_2 : List UInt8 := [21, 4, 133, 20, 1, 157, 20, 1, 159, 184, 0, 105, 153, 0, 48, 21, 5, 133, 20, 1, 157, 20, 1, 159]
abbrev dktX1_side_2 : List UInt8 := dkwX1_side_2 ++ dktX1_side_3
def dkwX1_side_1 : List UInt8 := [20, 1, 159, 184, 0, 105, 153, 0, 77, 29, 133, 20, 1, 157, 20, 1, 159, 184, 0, 105, 153, 0, 63]
abbrev dktX1_side_1 : List UInt8 := dkwX1_side_1 ++ dktX1_side_2
def dkwX1_side_0 : List UInt8 := [42, 180, 1, 111, 153, 0, 101, 27, 133, 9, 10, 184, 0, 105, 153, 0, 91, 28, 133, 20, 1, 157]
abbrev dktX1_side_0 : List UInt8 := dkwX1_side_0 ++ dktX1_side_1
theorem dksX1_side_0 : cX1_side.data.toList.drop 0 = dktX1_side_0 := by decide +kernel
theorem dksX1_side_1 : cX1_side.data.toList.drop 22 = dktX1_side_1 := dk_seg dksX1_side_0 22 rfl rfl
theorem dksX1_side_2 : cX1_side.data.toList.drop 45 = dktX1_side_2 := dk_seg dksX1_side_1 23 rfl rfl
theorem dksX1_side_3 : cX1_side.data.toList.drop 69 = dktX1_side_3 := dk_seg dksX1_side_2 24 rfl rfl
theorem dksX1_side_4 : cX1_side.data.toList.drop 93 = dktX1_side_4 := dk_seg dksX1_side_3 24 rfl rfl
theorem dksX1_side_5 : cX1_side.data.toList.drop 117 = dktX1_side_5 := dk_seg dksX1_side_4 24 rfl rfl
theorem dksX1_side_6 : cX1_side.data.toList.drop 140 = dktX1_side_6 := dk_seg dksX1_side_5 23 rfl rfl
theorem dksX1_side_7 : cX1_side.data.toList.drop 162 = dktX1_side_7 := dk_seg dksX1_side_6 22 rfl rfl
theorem dX1_side_0 : decode cX1_side 0 = .ok (.aload_n 0, 1) := dk_42 (dk_at dksX1_side_0 0 rfl rfl)
theorem dX1_side_1 : decode cX1_side 1 = .ok (.getfield 367, 3) := dk_180 1 111 (dk_at dksX1_side_0 1 rfl rfl)
theorem dX1_side_4 : decode cX1_side 4 = .ok (.ifCond .eq 101, 3) := dk_153 0 101 (dk_at dksX1_side_0 4 rfl rfl)
theorem dX1_side_7 : decode cX1_side 7 = .ok (.iload_n 1, 1) := dk_27 (dk_at dksX1_side_0 7 rfl rfl)
theorem dX1_side_8 : decode cX1_side 8 = .ok (.i2l, 1) := dk_133 (dk_at dksX1_side_0 8 rfl rfl)
theorem dX1_side_9 : decode cX1_side 9 = .ok (.lconst 0, 1) := dk_9 (dk_at dksX1_side_0 9 rfl rfl)
theorem dX1_side_10 : decode cX1_side 10 = .ok (.lconst 1, 1) := dk_10 (dk_at dksX1_side_0 10 rfl rfl)
theorem dX1_side_11 : decode cX1_side 11 = .ok (.invokestatic 105, 3) := dk_184 0 105 (dk_at dksX1_side_0 11 rfl rfl)
theorem dX1_side_14 : decode cX1_side 14 = .ok (.ifCond .eq 91, 3) := dk_153 0 91 (dk_at dksX1_side_0 14 rfl rfl)
theorem dX1_side_17 : decode cX1_side 17 = .ok (.iload_n 2, 1) := dk_28 (dk_at dksX1_side_0 17 rfl rfl)
theorem dX1_side_18 : decode cX1_side 18 = .ok (.i2l, 1) := dk_133 (dk_at dksX1_side_0 18 rfl rfl)
theorem dX1_side_19 : decode cX1_side 19 = .ok (.ldc2_w 413, 3) := dk_20 1 157 (dk_at dksX1_side_0 19 rfl rfl)
theorem dX1_side_22 : decode cX1_side 22 = .ok (.ldc2_w 415, 3) := dk_20 1 159 (dk_at dksX1_side_1 0 rfl rfl)
theorem dX1_side_25 : decode cX1_side 25 = .ok (.invokestatic 105, 3) := dk_184 0 105 (dk_at dksX1_side_1 3 rfl rfl)
theorem dX1_side_28 : decode cX1_side 28 = .ok (.ifCond .eq 77, 3) := dk_153 0 77 (dk_at dksX1_side_1 6 rfl rfl)
theorem dX1_side_31 : decode cX1_side 31 = .ok (.iload_n 3, 1) := dk_29 (dk_at dksX1_side_1 9 rfl rfl)
theorem dX1_side_32 : decode cX1_side 32 = .ok (.i2l, 1) := dk_133 (dk_at dksX1_side_1 10 rfl rfl)
theorem dX1_side_33 : decode cX1_side 33 = .ok (.ldc2_w 413, 3) := dk_20 1 157 (dk_at dksX1_side_1 11 rfl rfl)
theorem dX1_side_36 : decode cX1_side 36 = .ok (.ldc2_w 415, 3) := dk_20 1 159 (dk_at dksX1_side_1 14 rfl rfl)
theorem dX1_side_39 : decode cX1_side 39 = .ok (.invokestatic 105, 3) := dk_184 0 105 (dk_at dksX1_side_1 17 rfl rfl)
theorem dX1_side_42 : decode cX1_side 42 = .ok (.ifCond .eq 63, 3) := dk_153 0 63 (dk_at dksX1_side_1 20 rfl rfl)
theorem dX1_side_45 : decode cX1_side 45 = .ok (.iload 4, 2) := dk_21 4 (dk_at dksX1_side_2 0 rfl rfl)
theorem dX1_side_47 : decode cX1_side 47 = .ok (.i2l, 1) := dk_133 (dk_at dksX1_side_2 2 rfl rfl)
theorem dX1_side_48 : decode cX1_side 48 = .ok (.ldc2_w 413, 3) := dk_20 1 157 (dk_at dksX1_side_2 3 rfl rfl)
theorem dX1_side_51 : decode cX1_side 51 = .ok (.ldc2_w 415, 3) := dk_20 1 159 (dk_at dksX1_side_2 6 rfl rfl)
theorem dX1_side_54 : decode cX1_side 54 = .ok (.invokestatic 105, 3) := dk_184 0 105 (dk_at dksX1_side_2 9 rfl rfl)
theorem dX1_side_57 : decode cX1_side 57 = .ok (.ifCond .eq 48, 3) := dk_153 0 48 (dk_at dksX1_side_2 12 rfl rfl)
theorem dX1_side_60 : decode cX1_side 60 = .ok (.iload 5, 2) := dk_21 5 (dk_at dksX1_side_2 15 rfl rfl)
theorem dX1_side_62 : decode cX1_side 62 = .ok (.i2l, 1) := dk_133 (dk_at dksX1_side_2 17 rfl rfl)
theorem dX1_side_63 : decode cX1_side 63 = .ok (.ldc2_w 413, 3) := dk_20 1 157 (dk_at dksX1_side_2 18 rfl rfl)
theorem dX1_side_66 : decode cX1_side 66 = .ok (.ldc2_w 415, 3) := dk_20 1 159 (dk_at dksX1_side_2 21 rfl rfl)
theorem dX1_side_69 : decode cX1_side 69 = .ok (.invokestatic 105, 3) := dk_184 0 105 (dk_at dksX1_side_3 0 rfl rfl)
theorem dX1_side_72 : decode cX1_side 72 = .ok (.ifCond .eq 33, 3) := dk_153 0 33 (dk_at dksX1_side_3 3 rfl rfl)
theorem dX1_side_75 : decode cX1_side 75 = .ok (.iload 6, 2) := dk_21 6 (dk_at dksX1_side_3 6 rfl rfl)
theorem dX1_side_77 : decode cX1_side 77 = .ok (.i2l, 1) := dk_133 (dk_at dksX1_side_3 8 rfl rfl)
theorem dX1_side_78 : decode cX1_side 78 = .ok (.ldc2_w 413, 3) := dk_20 1 157 (dk_at dksX1_side_3 9 rfl rfl)
theorem dX1_side_81 : decode cX1_side 81 = .ok (.ldc2_w 415, 3) := dk_20 1 159 (dk_at dksX1_side_3 12 rfl rfl)
theorem dX1_side_84 : decode cX1_side 84 = .ok (.invokestatic 105, 3) := dk_184 0 105 (dk_at dksX1_side_3 15 rfl rfl)
theorem dX1_side_87 : decode cX1_side 87 = .ok (.ifCond .eq 18, 3) := dk_153 0 18 (dk_at dksX1_side_3 18 rfl rfl)
theorem dX1_side_90 : decode cX1_side 90 = .ok (.iload 7, 2) := dk_21 7 (dk_at dksX1_side_3 21 rfl rfl)
theorem dX1_side_92 : decode cX1_side 92 = .ok (.i2l, 1) := dk_133 (dk_at dksX1_side_3 23 rfl rfl)
theorem dX1_side_93 : decode cX1_side 93 = .ok (.ldc2_w 413, 3) := dk_20 1 157 (dk_at dksX1_side_4 0 rfl rfl)
theorem dX1_side_96 : decode cX1_side 96 = .ok (.ldc2_w 415, 3) := dk_20 1 159 (dk_at dksX1_side_4 3 rfl rfl)
theorem dX1_side_99 : decode cX1_side 99 = .ok (.invokestatic 105, 3) := dk_184 0 105 (dk_at dksX1_side_4 6 rfl rfl)
theorem dX1_side_102 : decode cX1_side 102 = .ok (.ifCond .ne 7, 3) := dk_154 0 7 (dk_at dksX1_side_4 9 rfl rfl)
theorem dX1_side_105 : decode cX1_side 105 = .ok (.ldc2_w 379, 3) := dk_20 1 123 (dk_at dksX1_side_4 12 rfl rfl)
theorem dX1_side_108 : decode cX1_side 108 = .ok (.lreturn, 1) := dk_173 (dk_at dksX1_side_4 15 rfl rfl)
theorem dX1_side_109 : decode cX1_side 109 = .ok (.aload_n 0, 1) := dk_42 (dk_at dksX1_side_4 16 rfl rfl)
theorem dX1_side_110 : decode cX1_side 110 = .ok (.getfield 72, 3) := dk_180 0 72 (dk_at dksX1_side_4 17 rfl rfl)
theorem dX1_side_113 : decode cX1_side 113 = .ok (.iconst 0, 1) := dk_3 (dk_at dksX1_side_4 20 rfl rfl)
theorem dX1_side_114 : decode cX1_side 114 = .ok (.iload_n 2, 1) := dk_28 (dk_at dksX1_side_4 21 rfl rfl)
theorem dX1_side_115 : decode cX1_side 115 = .ok (.iastore, 1) := dk_79 (dk_at dksX1_side_4 22 rfl rfl)
theorem dX1_side_116 : decode cX1_side 116 = .ok (.aload_n 0, 1) := dk_42 (dk_at dksX1_side_4 23 rfl rfl)
theorem dX1_side_117 : decode cX1_side 117 = .ok (.getfield 72, 3) := dk_180 0 72 (dk_at dksX1_side_5 0 rfl rfl)
theorem dX1_side_120 : decode cX1_side 120 = .ok (.iconst 1, 1) := dk_4 (dk_at dksX1_side_5 3 rfl rfl)
theorem dX1_side_121 : decode cX1_side 121 = .ok (.iload_n 3, 1) := dk_29 (dk_at dksX1_side_5 4 rfl rfl)
theorem dX1_side_122 : decode cX1_side 122 = .ok (.iastore, 1) := dk_79 (dk_at dksX1_side_5 5 rfl rfl)
theorem dX1_side_123 : decode cX1_side 123 = .ok (.aload_n 0, 1) := dk_42 (dk_at dksX1_side_5 6 rfl rfl)
theorem dX1_side_124 : decode cX1_side 124 = .ok (.getfield 72, 3) := dk_180 0 72 (dk_at dksX1_side_5 7 rfl rfl)
theorem dX1_side_127 : decode cX1_side 127 = .ok (.iconst 2, 1) := dk_5 (dk_at dksX1_side_5 10 rfl rfl)
theorem dX1_side_128 : decode cX1_side 128 = .ok (.iload 4, 2) := dk_21 4 (dk_at dksX1_side_5 11 rfl rfl)
theorem dX1_side_130 : decode cX1_side 130 = .ok (.iastore, 1) := dk_79 (dk_at dksX1_side_5 13 rfl rfl)
theorem dX1_side_131 : decode cX1_side 131 = .ok (.aload_n 0, 1) := dk_42 (dk_at dksX1_side_5 14 rfl rfl)
theorem dX1_side_132 : decode cX1_side 132 = .ok (.getfield 72, 3) := dk_180 0 72 (dk_at dksX1_side_5 15 rfl rfl)
theorem dX1_side_135 : decode cX1_side 135 = .ok (.iconst 3, 1) := dk_6 (dk_at dksX1_side_5 18 rfl rfl)
theorem dX1_side_136 : decode cX1_side 136 = .ok (.iload 5, 2) := dk_21 5 (dk_at dksX1_side_5 19 rfl rfl)
theorem dX1_side_138 : decode cX1_side 138 = .ok (.iastore, 1) := dk_79 (dk_at dksX1_side_5 21 rfl rfl)
theorem dX1_side_139 : decode cX1_side 139 = .ok (.aload_n 0, 1) := dk_42 (dk_at dksX1_side_5 22 rfl rfl)
theorem dX1_side_140 : decode cX1_side 140 = .ok (.getfield 72, 3) := dk_180 0 72 (dk_at dksX1_side_6 0 rfl rfl)
theorem dX1_side_143 : decode cX1_side 143 = .ok (.iconst 4, 1) := dk_7 (dk_at dksX1_side_6 3 rfl rfl)
theorem dX1_side_144 : decode cX1_side 144 = .ok (.iload 6, 2) := dk_21 6 (dk_at dksX1_side_6 4 rfl rfl)
theorem dX1_side_146 : decode cX1_side 146 = .ok (.iastore, 1) := dk_79 (dk_at dksX1_side_6 6 rfl rfl)
theorem dX1_side_147 : decode cX1_side 147 = .ok (.aload_n 0, 1) := dk_42 (dk_at dksX1_side_6 7 rfl rfl)
theorem dX1_side_148 : decode cX1_side 148 = .ok (.getfield 72, 3) := dk_180 0 72 (dk_at dksX1_side_6 8 rfl rfl)
theorem dX1_side_151 : decode cX1_side 151 = .ok (.iconst 5, 1) := dk_8 (dk_at dksX1_side_6 11 rfl rfl)
theorem dX1_side_152 : decode cX1_side 152 = .ok (.iload 7, 2) := dk_21 7 (dk_at dksX1_side_6 12 rfl rfl)
theorem dX1_side_154 : decode cX1_side 154 = .ok (.iastore, 1) := dk_79 (dk_at dksX1_side_6 14 rfl rfl)
theorem dX1_side_155 : decode cX1_side 155 = .ok (.aload_n 0, 1) := dk_42 (dk_at dksX1_side_6 15 rfl rfl)
theorem dX1_side_156 : decode cX1_side 156 = .ok (.iconst 0, 1) := dk_3 (dk_at dksX1_side_6 16 rfl rfl)
theorem dX1_side_157 : decode cX1_side 157 = .ok (.putfield 381, 3) := dk_181 1 125 (dk_at dksX1_side_6 17 rfl rfl)
theorem dX1_side_160 : decode cX1_side 160 = .ok (.aload_n 0, 1) := dk_42 (dk_at dksX1_side_6 20 rfl rfl)
theorem dX1_side_161 : decode cX1_side 161 = .ok (.iload_n 1, 1) := dk_27 (dk_at dksX1_side_6 21 rfl rfl)
theorem dX1_side_162 : decode cX1_side 162 = .ok (.invokevirtual 398, 3) := dk_182 1 142 (dk_at dksX1_side_7 0 rfl rfl)
theorem dX1_side_165 : decode cX1_side 165 = .ok (.lstore 8, 2) := dk_55 8 (dk_at dksX1_side_7 3 rfl rfl)
theorem dX1_side_167 : decode cX1_side 167 = .ok (.aload_n 0, 1) := dk_42 (dk_at dksX1_side_7 5 rfl rfl)
theorem dX1_side_168 : decode cX1_side 168 = .ok (.getfield 381, 3) := dk_180 1 125 (dk_at dksX1_side_7 6 rfl rfl)
theorem dX1_side_171 : decode cX1_side 171 = .ok (.ifCond .eq 9, 3) := dk_153 0 9 (dk_at dksX1_side_7 9 rfl rfl)
theorem dX1_side_174 : decode cX1_side 174 = .ok (.ldc2_w 379, 3) := dk_20 1 123 (dk_at dksX1_side_7 12 rfl rfl)
theorem dX1_side_177 : decode cX1_side 177 = .ok (.goto 5, 3) := dk_167 0 5 (dk_at dksX1_side_7 15 rfl rfl)
theorem dX1_side_180 : decode cX1_side 180 = .ok (.lload 8, 2) := dk_22 8 (dk_at dksX1_side_7 18 rfl rfl)
theorem dX1_side_182 : decode cX1_side 182 = .ok (.lreturn, 1) := dk_173 (dk_at dksX1_side_7 20 rfl rfl)
abbrev cX1_term : ByteArray := prog_24_method_71_code
def yX1_term : MethodName := ⟨RX1, "term", "(III)I"⟩
def dkwX1_term_1 : List UInt8 := [29, 182, 0, 93, 167, 0, 6, 19, 1, 65, 172]
abbrev dktX1_term_1 : List UInt8 := dkwX1_term_1 ++ []
def dkwX1_term_0 : List UInt8 := [42, 27, 28, 182, 1, 57, 153, 0, 25, 29, 133, 9, 20, 0, 109, 184, 0, 105, 153, 0, 13, 42, 27, 28]
abbrev dktX1_term_0 : List UInt8 := dkwX1_term_0 ++ dktX1_term_1
theorem dksX1_term_0 : cX1_term.data.toList.drop 0 = dktX1_term_0 := by decide +kernel
theorem dksX1_term_1 : cX1_term.data.toList.drop 24 = dktX1_term_1 := dk_seg dksX1_term_0 24 rfl rfl
theorem dX1_term_0 : decode cX1_term 0 = .ok (.aload_n 0, 1) := dk_42 (dk_at dksX1_term_0 0 rfl rfl)
theorem dX1_term_1 : decode cX1_term 1 = .ok (.iload_n 1, 1) := dk_27 (dk_at dksX1_term_0 1 rfl rfl)
theorem dX1_term_2 : decode cX1_term 2 = .ok (.iload_n 2, 1) := dk_28 (dk_at dksX1_term_0 2 rfl rfl)
theorem dX1_term_3 : decode cX1_term 3 = .ok (.invokevirtual 313, 3) := dk_182 1 57 (dk_at dksX1_term_0 3 rfl rfl)
theorem dX1_term_6 : decode cX1_term 6 = .ok (.ifCond .eq 25, 3) := dk_153 0 25 (dk_at dksX1_term_0 6 rfl rfl)
theorem dX1_term_9 : decode cX1_term 9 = .ok (.iload_n 3, 1) := dk_29 (dk_at dksX1_term_0 9 rfl rfl)
theorem dX1_term_10 : decode cX1_term 10 = .ok (.i2l, 1) := dk_133 (dk_at dksX1_term_0 10 rfl rfl)
theorem dX1_term_11 : decode cX1_term 11 = .ok (.lconst 0, 1) := dk_9 (dk_at dksX1_term_0 11 rfl rfl)
theorem dX1_term_12 : decode cX1_term 12 = .ok (.ldc2_w 109, 3) := dk_20 0 109 (dk_at dksX1_term_0 12 rfl rfl)
theorem dX1_term_15 : decode cX1_term 15 = .ok (.invokestatic 105, 3) := dk_184 0 105 (dk_at dksX1_term_0 15 rfl rfl)
theorem dX1_term_18 : decode cX1_term 18 = .ok (.ifCond .eq 13, 3) := dk_153 0 13 (dk_at dksX1_term_0 18 rfl rfl)
theorem dX1_term_21 : decode cX1_term 21 = .ok (.aload_n 0, 1) := dk_42 (dk_at dksX1_term_0 21 rfl rfl)
theorem dX1_term_22 : decode cX1_term 22 = .ok (.iload_n 1, 1) := dk_27 (dk_at dksX1_term_0 22 rfl rfl)
theorem dX1_term_23 : decode cX1_term 23 = .ok (.iload_n 2, 1) := dk_28 (dk_at dksX1_term_0 23 rfl rfl)
theorem dX1_term_24 : decode cX1_term 24 = .ok (.iload_n 3, 1) := dk_29 (dk_at dksX1_term_1 0 rfl rfl)
theorem dX1_term_25 : decode cX1_term 25 = .ok (.invokevirtual 93, 3) := dk_182 0 93 (dk_at dksX1_term_1 1 rfl rfl)
theorem dX1_term_28 : decode cX1_term 28 = .ok (.goto 6, 3) := dk_167 0 6 (dk_at dksX1_term_1 4 rfl rfl)
theorem dX1_term_31 : decode cX1_term 31 = .ok (.ldc_w 321, 3) := dk_19 1 65 (dk_at dksX1_term_1 7 rfl rfl)
theorem dX1_term_34 : decode cX1_term 34 = .ok (.ireturn, 1) := dk_172 (dk_at dksX1_term_1 10 rfl rfl)
abbrev cX1_missed : ByteArray := prog_24_method_73_code
def yX1_missed : MethodName := ⟨RX1, "missed", "(IIII)I"⟩
def dkwX1_missed_3 : List UInt8 := [167, 255, 220, 21, 4, 2, 160, 0, 8, 21, 5, 167, 0, 6, 19, 1, 65, 172]
abbrev dktX1_missed_3 : List UInt8 := dkwX1_missed_3 ++ []
def dkwX1_missed_2 : List UInt8 := [158, 0, 6, 167, 0, 16, 21, 5, 21, 4, 160, 0, 6, 21, 6, 172, 132, 5, 1, 132, 6, 1]
abbrev dktX1_missed_2 : List UInt8 := dkwX1_missed_2 ++ dktX1_missed_3
def dkwX1_missed_1 : List UInt8 := [182, 1, 26, 3, 54, 5, 28, 54, 6, 21, 6, 29, 163, 0, 36, 42, 21, 6, 182, 1, 29, 9, 148]
abbrev dktX1_missed_1 : List UInt8 := dkwX1_missed_1 ++ dktX1_missed_2
def dkwX1_missed_0 : List UInt8 := [42, 27, 182, 1, 18, 153, 0, 11, 28, 29, 184, 1, 161, 154, 0, 7, 19, 1, 65, 172, 42, 27]
abbrev dktX1_missed_0 : List UInt8 := dkwX1_missed_0 ++ dktX1_missed_1
theorem dksX1_missed_0 : cX1_missed.data.toList.drop 0 = dktX1_missed_0 := by decide +kernel
theorem dksX1_missed_1 : cX1_missed.data.toList.drop 22 = dktX1_missed_1 := dk_seg dksX1_missed_0 22 rfl rfl
theorem dksX1_missed_2 : cX1_missed.data.toList.drop 45 = dktX1_missed_2 := dk_seg dksX1_missed_1 23 rfl rfl
theorem dksX1_missed_3 : cX1_missed.data.toList.drop 67 = dktX1_missed_3 := dk_seg dksX1_missed_2 22 rfl rfl
theorem dX1_missed_0 : decode cX1_missed 0 = .ok (.aload_n 0, 1) := dk_42 (dk_at dksX1_missed_0 0 rfl rfl)
theorem dX1_missed_1 : decode cX1_missed 1 = .ok (.iload_n 1, 1) := dk_27 (dk_at dksX1_missed_0 1 rfl rfl)
theorem dX1_missed_2 : decode cX1_missed 2 = .ok (.invokevirtual 274, 3) := dk_182 1 18 (dk_at dksX1_missed_0 2 rfl rfl)
theorem dX1_missed_5 : decode cX1_missed 5 = .ok (.ifCond .eq 11, 3) := dk_153 0 11 (dk_at dksX1_missed_0 5 rfl rfl)
theorem dX1_missed_8 : decode cX1_missed 8 = .ok (.iload_n 2, 1) := dk_28 (dk_at dksX1_missed_0 8 rfl rfl)
theorem dX1_missed_9 : decode cX1_missed 9 = .ok (.iload_n 3, 1) := dk_29 (dk_at dksX1_missed_0 9 rfl rfl)
theorem dX1_missed_10 : decode cX1_missed 10 = .ok (.invokestatic 417, 3) := dk_184 1 161 (dk_at dksX1_missed_0 10 rfl rfl)
theorem dX1_missed_13 : decode cX1_missed 13 = .ok (.ifCond .ne 7, 3) := dk_154 0 7 (dk_at dksX1_missed_0 13 rfl rfl)
theorem dX1_missed_16 : decode cX1_missed 16 = .ok (.ldc_w 321, 3) := dk_19 1 65 (dk_at dksX1_missed_0 16 rfl rfl)
theorem dX1_missed_19 : decode cX1_missed 19 = .ok (.ireturn, 1) := dk_172 (dk_at dksX1_missed_0 19 rfl rfl)
theorem dX1_missed_20 : decode cX1_missed 20 = .ok (.aload_n 0, 1) := dk_42 (dk_at dksX1_missed_0 20 rfl rfl)
theorem dX1_missed_21 : decode cX1_missed 21 = .ok (.iload_n 1, 1) := dk_27 (dk_at dksX1_missed_0 21 rfl rfl)
theorem dX1_missed_22 : decode cX1_missed 22 = .ok (.invokevirtual 282, 3) := dk_182 1 26 (dk_at dksX1_missed_1 0 rfl rfl)
theorem dX1_missed_25 : decode cX1_missed 25 = .ok (.iconst 0, 1) := dk_3 (dk_at dksX1_missed_1 3 rfl rfl)
theorem dX1_missed_26 : decode cX1_missed 26 = .ok (.istore 5, 2) := dk_54 5 (dk_at dksX1_missed_1 4 rfl rfl)
theorem dX1_missed_28 : decode cX1_missed 28 = .ok (.iload_n 2, 1) := dk_28 (dk_at dksX1_missed_1 6 rfl rfl)
theorem dX1_missed_29 : decode cX1_missed 29 = .ok (.istore 6, 2) := dk_54 6 (dk_at dksX1_missed_1 7 rfl rfl)
theorem dX1_missed_31 : decode cX1_missed 31 = .ok (.iload 6, 2) := dk_21 6 (dk_at dksX1_missed_1 9 rfl rfl)
theorem dX1_missed_33 : decode cX1_missed 33 = .ok (.iload_n 3, 1) := dk_29 (dk_at dksX1_missed_1 11 rfl rfl)
theorem dX1_missed_34 : decode cX1_missed 34 = .ok (.if_icmp .gt 36, 3) := dk_163 0 36 (dk_at dksX1_missed_1 12 rfl rfl)
theorem dX1_missed_37 : decode cX1_missed 37 = .ok (.aload_n 0, 1) := dk_42 (dk_at dksX1_missed_1 15 rfl rfl)
theorem dX1_missed_38 : decode cX1_missed 38 = .ok (.iload 6, 2) := dk_21 6 (dk_at dksX1_missed_1 16 rfl rfl)
theorem dX1_missed_40 : decode cX1_missed 40 = .ok (.invokevirtual 285, 3) := dk_182 1 29 (dk_at dksX1_missed_1 18 rfl rfl)
theorem dX1_missed_43 : decode cX1_missed 43 = .ok (.lconst 0, 1) := dk_9 (dk_at dksX1_missed_1 21 rfl rfl)
theorem dX1_missed_44 : decode cX1_missed 44 = .ok (.lcmp, 1) := dk_148 (dk_at dksX1_missed_1 22 rfl rfl)
theorem dX1_missed_45 : decode cX1_missed 45 = .ok (.ifCond .le 6, 3) := dk_158 0 6 (dk_at dksX1_missed_2 0 rfl rfl)
theorem dX1_missed_48 : decode cX1_missed 48 = .ok (.goto 16, 3) := dk_167 0 16 (dk_at dksX1_missed_2 3 rfl rfl)
theorem dX1_missed_51 : decode cX1_missed 51 = .ok (.iload 5, 2) := dk_21 5 (dk_at dksX1_missed_2 6 rfl rfl)
theorem dX1_missed_53 : decode cX1_missed 53 = .ok (.iload 4, 2) := dk_21 4 (dk_at dksX1_missed_2 8 rfl rfl)
theorem dX1_missed_55 : decode cX1_missed 55 = .ok (.if_icmp .ne 6, 3) := dk_160 0 6 (dk_at dksX1_missed_2 10 rfl rfl)
theorem dX1_missed_58 : decode cX1_missed 58 = .ok (.iload 6, 2) := dk_21 6 (dk_at dksX1_missed_2 13 rfl rfl)
theorem dX1_missed_60 : decode cX1_missed 60 = .ok (.ireturn, 1) := dk_172 (dk_at dksX1_missed_2 15 rfl rfl)
theorem dX1_missed_61 : decode cX1_missed 61 = .ok (.iinc 5 1, 3) := dk_132 5 1 (dk_at dksX1_missed_2 16 rfl rfl)
theorem dX1_missed_64 : decode cX1_missed 64 = .ok (.iinc 6 1, 3) := dk_132 6 1 (dk_at dksX1_missed_2 19 rfl rfl)
theorem dX1_missed_67 : decode cX1_missed 67 = .ok (.goto (-36), 3) := dk_167 255 220 (dk_at dksX1_missed_3 0 rfl rfl)
theorem dX1_missed_70 : decode cX1_missed 70 = .ok (.iload 4, 2) := dk_21 4 (dk_at dksX1_missed_3 3 rfl rfl)
theorem dX1_missed_72 : decode cX1_missed 72 = .ok (.iconst (-1), 1) := dk_2 (dk_at dksX1_missed_3 5 rfl rfl)
theorem dX1_missed_73 : decode cX1_missed 73 = .ok (.if_icmp .ne 8, 3) := dk_160 0 8 (dk_at dksX1_missed_3 6 rfl rfl)
theorem dX1_missed_76 : decode cX1_missed 76 = .ok (.iload 5, 2) := dk_21 5 (dk_at dksX1_missed_3 9 rfl rfl)
theorem dX1_missed_78 : decode cX1_missed 78 = .ok (.goto 6, 3) := dk_167 0 6 (dk_at dksX1_missed_3 11 rfl rfl)
theorem dX1_missed_81 : decode cX1_missed 81 = .ok (.ldc_w 321, 3) := dk_19 1 65 (dk_at dksX1_missed_3 14 rfl rfl)
theorem dX1_missed_84 : decode cX1_missed 84 = .ok (.ireturn, 1) := dk_172 (dk_at dksX1_missed_3 17 rfl rfl)
abbrev cX1_isSpan : ByteArray := prog_24_method_72_code
def yX1_isSpan : MethodName := ⟨RX1, "isSpan", "(II)Z"⟩
def dkwX1_isSpan_1 : List UInt8 := [172]
abbrev dktX1_isSpan_1 : List UInt8 := dkwX1_isSpan_1 ++ []
def dkwX1_isSpan_0 : List UInt8 := [26, 184, 1, 21, 153, 0, 19, 27, 184, 1, 21, 153, 0, 12, 26, 27, 163, 0, 7, 4, 167, 0, 4, 3]
abbrev dktX1_isSpan_0 : List UInt8 := dkwX1_isSpan_0 ++ dktX1_isSpan_1
theorem dksX1_isSpan_0 : cX1_isSpan.data.toList.drop 0 = dktX1_isSpan_0 := by decide +kernel
theorem dksX1_isSpan_1 : cX1_isSpan.data.toList.drop 24 = dktX1_isSpan_1 := dk_seg dksX1_isSpan_0 24 rfl rfl
theorem dX1_isSpan_0 : decode cX1_isSpan 0 = .ok (.iload_n 0, 1) := dk_26 (dk_at dksX1_isSpan_0 0 rfl rfl)
theorem dX1_isSpan_1 : decode cX1_isSpan 1 = .ok (.invokestatic 277, 3) := dk_184 1 21 (dk_at dksX1_isSpan_0 1 rfl rfl)
theorem dX1_isSpan_4 : decode cX1_isSpan 4 = .ok (.ifCond .eq 19, 3) := dk_153 0 19 (dk_at dksX1_isSpan_0 4 rfl rfl)
theorem dX1_isSpan_7 : decode cX1_isSpan 7 = .ok (.iload_n 1, 1) := dk_27 (dk_at dksX1_isSpan_0 7 rfl rfl)
theorem dX1_isSpan_8 : decode cX1_isSpan 8 = .ok (.invokestatic 277, 3) := dk_184 1 21 (dk_at dksX1_isSpan_0 8 rfl rfl)
theorem dX1_isSpan_11 : decode cX1_isSpan 11 = .ok (.ifCond .eq 12, 3) := dk_153 0 12 (dk_at dksX1_isSpan_0 11 rfl rfl)
theorem dX1_isSpan_14 : decode cX1_isSpan 14 = .ok (.iload_n 0, 1) := dk_26 (dk_at dksX1_isSpan_0 14 rfl rfl)
theorem dX1_isSpan_15 : decode cX1_isSpan 15 = .ok (.iload_n 1, 1) := dk_27 (dk_at dksX1_isSpan_0 15 rfl rfl)
theorem dX1_isSpan_16 : decode cX1_isSpan 16 = .ok (.if_icmp .gt 7, 3) := dk_163 0 7 (dk_at dksX1_isSpan_0 16 rfl rfl)
theorem dX1_isSpan_19 : decode cX1_isSpan 19 = .ok (.iconst 1, 1) := dk_4 (dk_at dksX1_isSpan_0 19 rfl rfl)
theorem dX1_isSpan_20 : decode cX1_isSpan 20 = .ok (.goto 4, 3) := dk_167 0 4 (dk_at dksX1_isSpan_0 20 rfl rfl)
theorem dX1_isSpan_23 : decode cX1_isSpan 23 = .ok (.iconst 0, 1) := dk_3 (dk_at dksX1_isSpan_0 23 rfl rfl)
theorem dX1_isSpan_24 : decode cX1_isSpan 24 = .ok (.ireturn, 1) := dk_172 (dk_at dksX1_isSpan_1 0 rfl rfl)
abbrev cX1_explained : ByteArray := prog_24_method_74_code
def yX1_explained : MethodName := ⟨RX1, "explained", "(IIII)I"⟩
def dkwX1_explained_4 : List UInt8 := [3, 184, 1, 150, 96, 54, 5, 132, 6, 1, 167, 255, 202, 21, 5, 172]
abbrev dktX1_explained_4 : List UInt8 := dkwX1_explained_4 ++ []
def dkwX1_explained_3 : List UInt8 := [180, 0, 81, 21, 6, 21, 4, 112, 21, 4, 96, 21, 4, 112, 47, 9, 148, 154, 0, 7, 4, 167, 0, 4]
abbrev dktX1_explained_3 : List UInt8 := dkwX1_explained_3 ++ dktX1_explained_4
def dkwX1_explained_2 : List UInt8 := [54, 6, 21, 6, 29, 163, 0, 54, 21, 5, 42, 21, 6, 182, 1, 29, 9, 148, 154, 0, 28, 42]
abbrev dktX1_explained_2 : List UInt8 := dkwX1_explained_2 ++ dktX1_explained_3
def dkwX1_explained_1 : List UInt8 := [184, 0, 105, 154, 0, 5, 2, 172, 42, 27, 182, 1, 26, 42, 27, 21, 4, 182, 1, 166, 3, 54, 5, 28]
abbrev dktX1_explained_1 : List UInt8 := dkwX1_explained_1 ++ dktX1_explained_2
def dkwX1_explained_0 : List UInt8 := [42, 27, 182, 1, 18, 153, 0, 24, 28, 29, 184, 1, 161, 153, 0, 16, 21, 4, 133, 10, 20, 1, 164]
abbrev dktX1_explained_0 : List UInt8 := dkwX1_explained_0 ++ dktX1_explained_1
theorem dksX1_explained_0 : cX1_explained.data.toList.drop 0 = dktX1_explained_0 := by decide +kernel
theorem dksX1_explained_1 : cX1_explained.data.toList.drop 23 = dktX1_explained_1 := dk_seg dksX1_explained_0 23 rfl rfl
theorem dksX1_explained_2 : cX1_explained.data.toList.drop 47 = dktX1_explained_2 := dk_seg dksX1_explained_1 24 rfl rfl
theorem dksX1_explained_3 : cX1_explained.data.toList.drop 69 = dktX1_explained_3 := dk_seg dksX1_explained_2 22 rfl rfl
theorem dksX1_explained_4 : cX1_explained.data.toList.drop 93 = dktX1_explained_4 := dk_seg dksX1_explained_3 24 rfl rfl
theorem dX1_explained_0 : decode cX1_explained 0 = .ok (.aload_n 0, 1) := dk_42 (dk_at dksX1_explained_0 0 rfl rfl)
theorem dX1_explained_1 : decode cX1_explained 1 = .ok (.iload_n 1, 1) := dk_27 (dk_at dksX1_explained_0 1 rfl rfl)
theorem dX1_explained_2 : decode cX1_explained 2 = .ok (.invokevirtual 274, 3) := dk_182 1 18 (dk_at dksX1_explained_0 2 rfl rfl)
theorem dX1_explained_5 : decode cX1_explained 5 = .ok (.ifCond .eq 24, 3) := dk_153 0 24 (dk_at dksX1_explained_0 5 rfl rfl)
theorem dX1_explained_8 : decode cX1_explained 8 = .ok (.iload_n 2, 1) := dk_28 (dk_at dksX1_explained_0 8 rfl rfl)
theorem dX1_explained_9 : decode cX1_explained 9 = .ok (.iload_n 3, 1) := dk_29 (dk_at dksX1_explained_0 9 rfl rfl)
theorem dX1_explained_10 : decode cX1_explained 10 = .ok (.invokestatic 417, 3) := dk_184 1 161 (dk_at dksX1_explained_0 10 rfl rfl)
theorem dX1_explained_13 : decode cX1_explained 13 = .ok (.ifCond .eq 16, 3) := dk_153 0 16 (dk_at dksX1_explained_0 13 rfl rfl)
theorem dX1_explained_16 : decode cX1_explained 16 = .ok (.iload 4, 2) := dk_21 4 (dk_at dksX1_explained_0 16 rfl rfl)
theorem dX1_explained_18 : decode cX1_explained 18 = .ok (.i2l, 1) := dk_133 (dk_at dksX1_explained_0 18 rfl rfl)
theorem dX1_explained_19 : decode cX1_explained 19 = .ok (.lconst 1, 1) := dk_10 (dk_at dksX1_explained_0 19 rfl rfl)
theorem dX1_explained_20 : decode cX1_explained 20 = .ok (.ldc2_w 420, 3) := dk_20 1 164 (dk_at dksX1_explained_0 20 rfl rfl)
theorem dX1_explained_23 : decode cX1_explained 23 = .ok (.invokestatic 105, 3) := dk_184 0 105 (dk_at dksX1_explained_1 0 rfl rfl)
theorem dX1_explained_26 : decode cX1_explained 26 = .ok (.ifCond .ne 5, 3) := dk_154 0 5 (dk_at dksX1_explained_1 3 rfl rfl)
theorem dX1_explained_29 : decode cX1_explained 29 = .ok (.iconst (-1), 1) := dk_2 (dk_at dksX1_explained_1 6 rfl rfl)
theorem dX1_explained_30 : decode cX1_explained 30 = .ok (.ireturn, 1) := dk_172 (dk_at dksX1_explained_1 7 rfl rfl)
theorem dX1_explained_31 : decode cX1_explained 31 = .ok (.aload_n 0, 1) := dk_42 (dk_at dksX1_explained_1 8 rfl rfl)
theorem dX1_explained_32 : decode cX1_explained 32 = .ok (.iload_n 1, 1) := dk_27 (dk_at dksX1_explained_1 9 rfl rfl)
theorem dX1_explained_33 : decode cX1_explained 33 = .ok (.invokevirtual 282, 3) := dk_182 1 26 (dk_at dksX1_explained_1 10 rfl rfl)
theorem dX1_explained_36 : decode cX1_explained 36 = .ok (.aload_n 0, 1) := dk_42 (dk_at dksX1_explained_1 13 rfl rfl)
theorem dX1_explained_37 : decode cX1_explained 37 = .ok (.iload_n 1, 1) := dk_27 (dk_at dksX1_explained_1 14 rfl rfl)
theorem dX1_explained_38 : decode cX1_explained 38 = .ok (.iload 4, 2) := dk_21 4 (dk_at dksX1_explained_1 15 rfl rfl)
theorem dX1_explained_40 : decode cX1_explained 40 = .ok (.invokevirtual 422, 3) := dk_182 1 166 (dk_at dksX1_explained_1 17 rfl rfl)
theorem dX1_explained_43 : decode cX1_explained 43 = .ok (.iconst 0, 1) := dk_3 (dk_at dksX1_explained_1 20 rfl rfl)
theorem dX1_explained_44 : decode cX1_explained 44 = .ok (.istore 5, 2) := dk_54 5 (dk_at dksX1_explained_1 21 rfl rfl)
theorem dX1_explained_46 : decode cX1_explained 46 = .ok (.iload_n 2, 1) := dk_28 (dk_at dksX1_explained_1 23 rfl rfl)
theorem dX1_explained_47 : decode cX1_explained 47 = .ok (.istore 6, 2) := dk_54 6 (dk_at dksX1_explained_2 0 rfl rfl)
theorem dX1_explained_49 : decode cX1_explained 49 = .ok (.iload 6, 2) := dk_21 6 (dk_at dksX1_explained_2 2 rfl rfl)
theorem dX1_explained_51 : decode cX1_explained 51 = .ok (.iload_n 3, 1) := dk_29 (dk_at dksX1_explained_2 4 rfl rfl)
theorem dX1_explained_52 : decode cX1_explained 52 = .ok (.if_icmp .gt 54, 3) := dk_163 0 54 (dk_at dksX1_explained_2 5 rfl rfl)
theorem dX1_explained_55 : decode cX1_explained 55 = .ok (.iload 5, 2) := dk_21 5 (dk_at dksX1_explained_2 8 rfl rfl)
theorem dX1_explained_57 : decode cX1_explained 57 = .ok (.aload_n 0, 1) := dk_42 (dk_at dksX1_explained_2 10 rfl rfl)
theorem dX1_explained_58 : decode cX1_explained 58 = .ok (.iload 6, 2) := dk_21 6 (dk_at dksX1_explained_2 11 rfl rfl)
theorem dX1_explained_60 : decode cX1_explained 60 = .ok (.invokevirtual 285, 3) := dk_182 1 29 (dk_at dksX1_explained_2 13 rfl rfl)
theorem dX1_explained_63 : decode cX1_explained 63 = .ok (.lconst 0, 1) := dk_9 (dk_at dksX1_explained_2 16 rfl rfl)
theorem dX1_explained_64 : decode cX1_explained 64 = .ok (.lcmp, 1) := dk_148 (dk_at dksX1_explained_2 17 rfl rfl)
theorem dX1_explained_65 : decode cX1_explained 65 = .ok (.ifCond .ne 28, 3) := dk_154 0 28 (dk_at dksX1_explained_2 18 rfl rfl)
theorem dX1_explained_68 : decode cX1_explained 68 = .ok (.aload_n 0, 1) := dk_42 (dk_at dksX1_explained_2 21 rfl rfl)
theorem dX1_explained_69 : decode cX1_explained 69 = .ok (.getfield 81, 3) := dk_180 0 81 (dk_at dksX1_explained_3 0 rfl rfl)
theorem dX1_explained_72 : decode cX1_explained 72 = .ok (.iload 6, 2) := dk_21 6 (dk_at dksX1_explained_3 3 rfl rfl)
theorem dX1_explained_74 : decode cX1_explained 74 = .ok (.iload 4, 2) := dk_21 4 (dk_at dksX1_explained_3 5 rfl rfl)
theorem dX1_explained_76 : decode cX1_explained 76 = .ok (.irem, 1) := dk_112 (dk_at dksX1_explained_3 7 rfl rfl)
theorem dX1_explained_77 : decode cX1_explained 77 = .ok (.iload 4, 2) := dk_21 4 (dk_at dksX1_explained_3 8 rfl rfl)
theorem dX1_explained_79 : decode cX1_explained 79 = .ok (.iadd, 1) := dk_96 (dk_at dksX1_explained_3 10 rfl rfl)
theorem dX1_explained_80 : decode cX1_explained 80 = .ok (.iload 4, 2) := dk_21 4 (dk_at dksX1_explained_3 11 rfl rfl)
theorem dX1_explained_82 : decode cX1_explained 82 = .ok (.irem, 1) := dk_112 (dk_at dksX1_explained_3 13 rfl rfl)
theorem dX1_explained_83 : decode cX1_explained 83 = .ok (.laload, 1) := dk_47 (dk_at dksX1_explained_3 14 rfl rfl)
theorem dX1_explained_84 : decode cX1_explained 84 = .ok (.lconst 0, 1) := dk_9 (dk_at dksX1_explained_3 15 rfl rfl)
theorem dX1_explained_85 : decode cX1_explained 85 = .ok (.lcmp, 1) := dk_148 (dk_at dksX1_explained_3 16 rfl rfl)
theorem dX1_explained_86 : decode cX1_explained 86 = .ok (.ifCond .ne 7, 3) := dk_154 0 7 (dk_at dksX1_explained_3 17 rfl rfl)
theorem dX1_explained_89 : decode cX1_explained 89 = .ok (.iconst 1, 1) := dk_4 (dk_at dksX1_explained_3 20 rfl rfl)
theorem dX1_explained_90 : decode cX1_explained 90 = .ok (.goto 4, 3) := dk_167 0 4 (dk_at dksX1_explained_3 21 rfl rfl)
theorem dX1_explained_93 : decode cX1_explained 93 = .ok (.iconst 0, 1) := dk_3 (dk_at dksX1_explained_4 0 rfl rfl)
theorem dX1_explained_94 : decode cX1_explained 94 = .ok (.invokestatic 406, 3) := dk_184 1 150 (dk_at dksX1_explained_4 1 rfl rfl)
theorem dX1_explained_97 : decode cX1_explained 97 = .ok (.iadd, 1) := dk_96 (dk_at dksX1_explained_4 4 rfl rfl)
theorem dX1_explained_98 : decode cX1_explained 98 = .ok (.istore 5, 2) := dk_54 5 (dk_at dksX1_explained_4 5 rfl rfl)
theorem dX1_explained_100 : decode cX1_explained 100 = .ok (.iinc 6 1, 3) := dk_132 6 1 (dk_at dksX1_explained_4 7 rfl rfl)
theorem dX1_explained_103 : decode cX1_explained 103 = .ok (.goto (-54), 3) := dk_167 255 202 (dk_at dksX1_explained_4 10 rfl rfl)
theorem dX1_explained_106 : decode cX1_explained 106 = .ok (.iload 5, 2) := dk_21 5 (dk_at dksX1_explained_4 13 rfl rfl)
theorem dX1_explained_108 : decode cX1_explained 108 = .ok (.ireturn, 1) := dk_172 (dk_at dksX1_explained_4 15 rfl rfl)
abbrev cX1_laysClasses : ByteArray := prog_24_method_78_code
def yX1_laysClasses : MethodName := ⟨RX1, "laysClasses", "(II)V"⟩
def dkwX1_laysClasses_6 : List UInt8 := [21, 5, 96, 22, 6, 80, 132, 5, 1, 167, 255, 168, 132, 4, 255, 167, 255, 154, 177]
abbrev dktX1_laysClasses_6 : List UInt8 := dkwX1_laysClasses_6 ++ []
def dkwX1_laysClasses_5 : List UInt8 := [96, 28, 112, 96, 47, 97, 55, 6, 132, 8, 1, 167, 255, 201, 42, 180, 0, 81, 16, 60, 21, 4, 104]
abbrev dktX1_laysClasses_5 : List UInt8 := dkwX1_laysClasses_5 ++ dktX1_laysClasses_6
def dkwX1_laysClasses_4 : List UInt8 := [180, 0, 81, 16, 60, 21, 4, 4, 96, 104, 21, 5, 42, 27, 21, 4, 21, 8, 28, 182, 1, 172, 100, 28]
abbrev dktX1_laysClasses_4 : List UInt8 := dkwX1_laysClasses_4 ++ dktX1_laysClasses_5
def dkwX1_laysClasses_3 : List UInt8 := [54, 8, 21, 8, 42, 27, 21, 4, 4, 182, 0, 93, 28, 184, 1, 169, 162, 0, 44, 22, 6, 42]
abbrev dktX1_laysClasses_3 : List UInt8 := dkwX1_laysClasses_3 ++ dktX1_laysClasses_4
def dkwX1_laysClasses_2 : List UInt8 := [29, 4, 100, 54, 4, 21, 4, 155, 0, 103, 3, 54, 5, 21, 5, 28, 162, 0, 88, 9, 55, 6, 3]
abbrev dktX1_laysClasses_2 : List UInt8 := dkwX1_laysClasses_2 ++ dktX1_laysClasses_3
def dkwX1_laysClasses_1 : List UInt8 := [21, 4, 96, 21, 4, 154, 0, 7, 4, 167, 0, 4, 3, 184, 1, 150, 133, 80, 132, 4, 1, 167, 255, 221]
abbrev dktX1_laysClasses_1 : List UInt8 := dkwX1_laysClasses_1 ++ dktX1_laysClasses_2
def dkwX1_laysClasses_0 : List UInt8 := [42, 180, 0, 9, 27, 46, 62, 3, 54, 4, 21, 4, 28, 162, 0, 35, 42, 180, 0, 81, 16, 60, 29, 104]
abbrev dktX1_laysClasses_0 : List UInt8 := dkwX1_laysClasses_0 ++ dktX1_laysClasses_1
theorem dksX1_laysClasses_0 : cX1_laysClasses.data.toList.drop 0 = dktX1_laysClasses_0 := by decide +kernel
theorem dksX1_laysClasses_1 : cX1_laysClasses.data.toList.drop 24 = dktX1_laysClasses_1 := dk_seg dksX1_laysClasses_0 24 rfl rfl
theorem dksX1_laysClasses_2 : cX1_laysClasses.data.toList.drop 48 = dktX1_laysClasses_2 := dk_seg dksX1_laysClasses_1 24 rfl rfl
theorem dksX1_laysClasses_3 : cX1_laysClasses.data.toList.drop 71 = dktX1_laysClasses_3 := dk_seg dksX1_laysClasses_2 23 rfl rfl
theorem dksX1_laysClasses_4 : cX1_laysClasses.data.toList.drop 93 = dktX1_laysClasses_4 := dk_seg dksX1_laysClasses_3 22 rfl rfl
theorem dksX1_laysClasses_5 : cX1_laysClasses.data.toList.drop 117 = dktX1_laysClasses_5 := dk_seg dksX1_laysClasses_4 24 rfl rfl
theorem dksX1_laysClasses_6 : cX1_laysClasses.data.toList.drop 140 = dktX1_laysClasses_6 := dk_seg dksX1_laysClasses_5 23 rfl rfl
theorem dX1_laysClasses_0 : decode cX1_laysClasses 0 = .ok (.aload_n 0, 1) := dk_42 (dk_at dksX1_laysClasses_0 0 rfl rfl)
theorem dX1_laysClasses_1 : decode cX1_laysClasses 1 = .ok (.getfield 9, 3) := dk_180 0 9 (dk_at dksX1_laysClasses_0 1 rfl rfl)
theorem dX1_laysClasses_4 : decode cX1_laysClasses 4 = .ok (.iload_n 1, 1) := dk_27 (dk_at dksX1_laysClasses_0 4 rfl rfl)
theorem dX1_laysClasses_5 : decode cX1_laysClasses 5 = .ok (.iaload, 1) := dk_46 (dk_at dksX1_laysClasses_0 5 rfl rfl)
theorem dX1_laysClasses_6 : decode cX1_laysClasses 6 = .ok (.istore_n 3, 1) := dk_62 (dk_at dksX1_laysClasses_0 6 rfl rfl)
theorem dX1_laysClasses_7 : decode cX1_laysClasses 7 = .ok (.iconst 0, 1) := dk_3 (dk_at dksX1_laysClasses_0 7 rfl rfl)
theorem dX1_laysClasses_8 : decode cX1_laysClasses 8 = .ok (.istore 4, 2) := dk_54 4 (dk_at dksX1_laysClasses_0 8 rfl rfl)
theorem dX1_laysClasses_10 : decode cX1_laysClasses 10 = .ok (.iload 4, 2) := dk_21 4 (dk_at dksX1_laysClasses_0 10 rfl rfl)
theorem dX1_laysClasses_12 : decode cX1_laysClasses 12 = .ok (.iload_n 2, 1) := dk_28 (dk_at dksX1_laysClasses_0 12 rfl rfl)
theorem dX1_laysClasses_13 : decode cX1_laysClasses 13 = .ok (.if_icmp .ge 35, 3) := dk_162 0 35 (dk_at dksX1_laysClasses_0 13 rfl rfl)
theorem dX1_laysClasses_16 : decode cX1_laysClasses 16 = .ok (.aload_n 0, 1) := dk_42 (dk_at dksX1_laysClasses_0 16 rfl rfl)
theorem dX1_laysClasses_17 : decode cX1_laysClasses 17 = .ok (.getfield 81, 3) := dk_180 0 81 (dk_at dksX1_laysClasses_0 17 rfl rfl)
theorem dX1_laysClasses_20 : decode cX1_laysClasses 20 = .ok (.bipush 60, 2) := dk_16 60 (dk_at dksX1_laysClasses_0 20 rfl rfl)
theorem dX1_laysClasses_22 : decode cX1_laysClasses 22 = .ok (.iload_n 3, 1) := dk_29 (dk_at dksX1_laysClasses_0 22 rfl rfl)
theorem dX1_laysClasses_23 : decode cX1_laysClasses 23 = .ok (.imul, 1) := dk_104 (dk_at dksX1_laysClasses_0 23 rfl rfl)
theorem dX1_laysClasses_24 : decode cX1_laysClasses 24 = .ok (.iload 4, 2) := dk_21 4 (dk_at dksX1_laysClasses_1 0 rfl rfl)
theorem dX1_laysClasses_26 : decode cX1_laysClasses 26 = .ok (.iadd, 1) := dk_96 (dk_at dksX1_laysClasses_1 2 rfl rfl)
theorem dX1_laysClasses_27 : decode cX1_laysClasses 27 = .ok (.iload 4, 2) := dk_21 4 (dk_at dksX1_laysClasses_1 3 rfl rfl)
theorem dX1_laysClasses_29 : decode cX1_laysClasses 29 = .ok (.ifCond .ne 7, 3) := dk_154 0 7 (dk_at dksX1_laysClasses_1 5 rfl rfl)
theorem dX1_laysClasses_32 : decode cX1_laysClasses 32 = .ok (.iconst 1, 1) := dk_4 (dk_at dksX1_laysClasses_1 8 rfl rfl)
theorem dX1_laysClasses_33 : decode cX1_laysClasses 33 = .ok (.goto 4, 3) := dk_167 0 4 (dk_at dksX1_laysClasses_1 9 rfl rfl)
theorem dX1_laysClasses_36 : decode cX1_laysClasses 36 = .ok (.iconst 0, 1) := dk_3 (dk_at dksX1_laysClasses_1 12 rfl rfl)
theorem dX1_laysClasses_37 : decode cX1_laysClasses 37 = .ok (.invokestatic 406, 3) := dk_184 1 150 (dk_at dksX1_laysClasses_1 13 rfl rfl)
theorem dX1_laysClasses_40 : decode cX1_laysClasses 40 = .ok (.i2l, 1) := dk_133 (dk_at dksX1_laysClasses_1 16 rfl rfl)
theorem dX1_laysClasses_41 : decode cX1_laysClasses 41 = .ok (.lastore, 1) := dk_80 (dk_at dksX1_laysClasses_1 17 rfl rfl)
theorem dX1_laysClasses_42 : decode cX1_laysClasses 42 = .ok (.iinc 4 1, 3) := dk_132 4 1 (dk_at dksX1_laysClasses_1 18 rfl rfl)
theorem dX1_laysClasses_45 : decode cX1_laysClasses 45 = .ok (.goto (-35), 3) := dk_167 255 221 (dk_at dksX1_laysClasses_1 21 rfl rfl)
theorem dX1_laysClasses_48 : decode cX1_laysClasses 48 = .ok (.iload_n 3, 1) := dk_29 (dk_at dksX1_laysClasses_2 0 rfl rfl)
theorem dX1_laysClasses_49 : decode cX1_laysClasses 49 = .ok (.iconst 1, 1) := dk_4 (dk_at dksX1_laysClasses_2 1 rfl rfl)
theorem dX1_laysClasses_50 : decode cX1_laysClasses 50 = .ok (.isub, 1) := dk_100 (dk_at dksX1_laysClasses_2 2 rfl rfl)
theorem dX1_laysClasses_51 : decode cX1_laysClasses 51 = .ok (.istore 4, 2) := dk_54 4 (dk_at dksX1_laysClasses_2 3 rfl rfl)
theorem dX1_laysClasses_53 : decode cX1_laysClasses 53 = .ok (.iload 4, 2) := dk_21 4 (dk_at dksX1_laysClasses_2 5 rfl rfl)
theorem dX1_laysClasses_55 : decode cX1_laysClasses 55 = .ok (.ifCond .lt 103, 3) := dk_155 0 103 (dk_at dksX1_laysClasses_2 7 rfl rfl)
theorem dX1_laysClasses_58 : decode cX1_laysClasses 58 = .ok (.iconst 0, 1) := dk_3 (dk_at dksX1_laysClasses_2 10 rfl rfl)
theorem dX1_laysClasses_59 : decode cX1_laysClasses 59 = .ok (.istore 5, 2) := dk_54 5 (dk_at dksX1_laysClasses_2 11 rfl rfl)
theorem dX1_laysClasses_61 : decode cX1_laysClasses 61 = .ok (.iload 5, 2) := dk_21 5 (dk_at dksX1_laysClasses_2 13 rfl rfl)
theorem dX1_laysClasses_63 : decode cX1_laysClasses 63 = .ok (.iload_n 2, 1) := dk_28 (dk_at dksX1_laysClasses_2 15 rfl rfl)
theorem dX1_laysClasses_64 : decode cX1_laysClasses 64 = .ok (.if_icmp .ge 88, 3) := dk_162 0 88 (dk_at dksX1_laysClasses_2 16 rfl rfl)
theorem dX1_laysClasses_67 : decode cX1_laysClasses 67 = .ok (.lconst 0, 1) := dk_9 (dk_at dksX1_laysClasses_2 19 rfl rfl)
theorem dX1_laysClasses_68 : decode cX1_laysClasses 68 = .ok (.lstore 6, 2) := dk_55 6 (dk_at dksX1_laysClasses_2 20 rfl rfl)
theorem dX1_laysClasses_70 : decode cX1_laysClasses 70 = .ok (.iconst 0, 1) := dk_3 (dk_at dksX1_laysClasses_2 22 rfl rfl)
theorem dX1_laysClasses_71 : decode cX1_laysClasses 71 = .ok (.istore 8, 2) := dk_54 8 (dk_at dksX1_laysClasses_3 0 rfl rfl)
theorem dX1_laysClasses_73 : decode cX1_laysClasses 73 = .ok (.iload 8, 2) := dk_21 8 (dk_at dksX1_laysClasses_3 2 rfl rfl)
theorem dX1_laysClasses_75 : decode cX1_laysClasses 75 = .ok (.aload_n 0, 1) := dk_42 (dk_at dksX1_laysClasses_3 4 rfl rfl)
theorem dX1_laysClasses_76 : decode cX1_laysClasses 76 = .ok (.iload_n 1, 1) := dk_27 (dk_at dksX1_laysClasses_3 5 rfl rfl)
theorem dX1_laysClasses_77 : decode cX1_laysClasses 77 = .ok (.iload 4, 2) := dk_21 4 (dk_at dksX1_laysClasses_3 6 rfl rfl)
theorem dX1_laysClasses_79 : decode cX1_laysClasses 79 = .ok (.iconst 1, 1) := dk_4 (dk_at dksX1_laysClasses_3 8 rfl rfl)
theorem dX1_laysClasses_80 : decode cX1_laysClasses 80 = .ok (.invokevirtual 93, 3) := dk_182 0 93 (dk_at dksX1_laysClasses_3 9 rfl rfl)
theorem dX1_laysClasses_83 : decode cX1_laysClasses 83 = .ok (.iload_n 2, 1) := dk_28 (dk_at dksX1_laysClasses_3 12 rfl rfl)
theorem dX1_laysClasses_84 : decode cX1_laysClasses 84 = .ok (.invokestatic 425, 3) := dk_184 1 169 (dk_at dksX1_laysClasses_3 13 rfl rfl)
theorem dX1_laysClasses_87 : decode cX1_laysClasses 87 = .ok (.if_icmp .ge 44, 3) := dk_162 0 44 (dk_at dksX1_laysClasses_3 16 rfl rfl)
theorem dX1_laysClasses_90 : decode cX1_laysClasses 90 = .ok (.lload 6, 2) := dk_22 6 (dk_at dksX1_laysClasses_3 19 rfl rfl)
theorem dX1_laysClasses_92 : decode cX1_laysClasses 92 = .ok (.aload_n 0, 1) := dk_42 (dk_at dksX1_laysClasses_3 21 rfl rfl)
theorem dX1_laysClasses_93 : decode cX1_laysClasses 93 = .ok (.getfield 81, 3) := dk_180 0 81 (dk_at dksX1_laysClasses_4 0 rfl rfl)
theorem dX1_laysClasses_96 : decode cX1_laysClasses 96 = .ok (.bipush 60, 2) := dk_16 60 (dk_at dksX1_laysClasses_4 3 rfl rfl)
theorem dX1_laysClasses_98 : decode cX1_laysClasses 98 = .ok (.iload 4, 2) := dk_21 4 (dk_at dksX1_laysClasses_4 5 rfl rfl)
theorem dX1_laysClasses_100 : decode cX1_laysClasses 100 = .ok (.iconst 1, 1) := dk_4 (dk_at dksX1_laysClasses_4 7 rfl rfl)
theorem dX1_laysClasses_101 : decode cX1_laysClasses 101 = .ok (.iadd, 1) := dk_96 (dk_at dksX1_laysClasses_4 8 rfl rfl)
theorem dX1_laysClasses_102 : decode cX1_laysClasses 102 = .ok (.imul, 1) := dk_104 (dk_at dksX1_laysClasses_4 9 rfl rfl)
theorem dX1_laysClasses_103 : decode cX1_laysClasses 103 = .ok (.iload 5, 2) := dk_21 5 (dk_at dksX1_laysClasses_4 10 rfl rfl)
theorem dX1_laysClasses_105 : decode cX1_laysClasses 105 = .ok (.aload_n 0, 1) := dk_42 (dk_at dksX1_laysClasses_4 12 rfl rfl)
theorem dX1_laysClasses_106 : decode cX1_laysClasses 106 = .ok (.iload_n 1, 1) := dk_27 (dk_at dksX1_laysClasses_4 13 rfl rfl)
theorem dX1_laysClasses_107 : decode cX1_laysClasses 107 = .ok (.iload 4, 2) := dk_21 4 (dk_at dksX1_laysClasses_4 14 rfl rfl)
theorem dX1_laysClasses_109 : decode cX1_laysClasses 109 = .ok (.iload 8, 2) := dk_21 8 (dk_at dksX1_laysClasses_4 16 rfl rfl)
theorem dX1_laysClasses_111 : decode cX1_laysClasses 111 = .ok (.iload_n 2, 1) := dk_28 (dk_at dksX1_laysClasses_4 18 rfl rfl)
theorem dX1_laysClasses_112 : decode cX1_laysClasses 112 = .ok (.invokevirtual 428, 3) := dk_182 1 172 (dk_at dksX1_laysClasses_4 19 rfl rfl)
theorem dX1_laysClasses_115 : decode cX1_laysClasses 115 = .ok (.isub, 1) := dk_100 (dk_at dksX1_laysClasses_4 22 rfl rfl)
theorem dX1_laysClasses_116 : decode cX1_laysClasses 116 = .ok (.iload_n 2, 1) := dk_28 (dk_at dksX1_laysClasses_4 23 rfl rfl)
theorem dX1_laysClasses_117 : decode cX1_laysClasses 117 = .ok (.iadd, 1) := dk_96 (dk_at dksX1_laysClasses_5 0 rfl rfl)
theorem dX1_laysClasses_118 : decode cX1_laysClasses 118 = .ok (.iload_n 2, 1) := dk_28 (dk_at dksX1_laysClasses_5 1 rfl rfl)
theorem dX1_laysClasses_119 : decode cX1_laysClasses 119 = .ok (.irem, 1) := dk_112 (dk_at dksX1_laysClasses_5 2 rfl rfl)
theorem dX1_laysClasses_120 : decode cX1_laysClasses 120 = .ok (.iadd, 1) := dk_96 (dk_at dksX1_laysClasses_5 3 rfl rfl)
theorem dX1_laysClasses_121 : decode cX1_laysClasses 121 = .ok (.laload, 1) := dk_47 (dk_at dksX1_laysClasses_5 4 rfl rfl)
theorem dX1_laysClasses_122 : decode cX1_laysClasses 122 = .ok (.ladd, 1) := dk_97 (dk_at dksX1_laysClasses_5 5 rfl rfl)
theorem dX1_laysClasses_123 : decode cX1_laysClasses 123 = .ok (.lstore 6, 2) := dk_55 6 (dk_at dksX1_laysClasses_5 6 rfl rfl)
theorem dX1_laysClasses_125 : decode cX1_laysClasses 125 = .ok (.iinc 8 1, 3) := dk_132 8 1 (dk_at dksX1_laysClasses_5 8 rfl rfl)
theorem dX1_laysClasses_128 : decode cX1_laysClasses 128 = .ok (.goto (-55), 3) := dk_167 255 201 (dk_at dksX1_laysClasses_5 11 rfl rfl)
theorem dX1_laysClasses_131 : decode cX1_laysClasses 131 = .ok (.aload_n 0, 1) := dk_42 (dk_at dksX1_laysClasses_5 14 rfl rfl)
theorem dX1_laysClasses_132 : decode cX1_laysClasses 132 = .ok (.getfield 81, 3) := dk_180 0 81 (dk_at dksX1_laysClasses_5 15 rfl rfl)
theorem dX1_laysClasses_135 : decode cX1_laysClasses 135 = .ok (.bipush 60, 2) := dk_16 60 (dk_at dksX1_laysClasses_5 18 rfl rfl)
theorem dX1_laysClasses_137 : decode cX1_laysClasses 137 = .ok (.iload 4, 2) := dk_21 4 (dk_at dksX1_laysClasses_5 20 rfl rfl)
theorem dX1_laysClasses_139 : decode cX1_laysClasses 139 = .ok (.imul, 1) := dk_104 (dk_at dksX1_laysClasses_5 22 rfl rfl)
theorem dX1_laysClasses_140 : decode cX1_laysClasses 140 = .ok (.iload 5, 2) := dk_21 5 (dk_at dksX1_laysClasses_6 0 rfl rfl)
theorem dX1_laysClasses_142 : decode cX1_laysClasses 142 = .ok (.iadd, 1) := dk_96 (dk_at dksX1_laysClasses_6 2 rfl rfl)
theorem dX1_laysClasses_143 : decode cX1_laysClasses 143 = .ok (.lload 6, 2) := dk_22 6 (dk_at dksX1_laysClasses_6 3 rfl rfl)
theorem dX1_laysClasses_145 : decode cX1_laysClasses 145 = .ok (.lastore, 1) := dk_80 (dk_at dksX1_laysClasses_6 5 rfl rfl)
theorem dX1_laysClasses_146 : decode cX1_laysClasses 146 = .ok (.iinc 5 1, 3) := dk_132 5 1 (dk_at dksX1_laysClasses_6 6 rfl rfl)
theorem dX1_laysClasses_149 : decode cX1_laysClasses 149 = .ok (.goto (-88), 3) := dk_167 255 168 (dk_at dksX1_laysClasses_6 9 rfl rfl)
theorem dX1_laysClasses_152 : decode cX1_laysClasses 152 = .ok (.iinc 4 (-1), 3) := dk_132 4 255 (dk_at dksX1_laysClasses_6 12 rfl rfl)
theorem dX1_laysClasses_155 : decode cX1_laysClasses 155 = .ok (.goto (-102), 3) := dk_167 255 154 (dk_at dksX1_laysClasses_6 15 rfl rfl)
theorem dX1_laysClasses_158 : decode cX1_laysClasses 158 = .ok (.return_, 1) := dk_177 (dk_at dksX1_laysClasses_6 18 rfl rfl)
abbrev cX1_xs : ByteArray := prog_24_method_76_code
def yX1_xs : MethodName := ⟨RX1, "xs", "(II)I"⟩
def dkwX1_xs_0 : List UInt8 := [26, 7, 160, 0, 9, 5, 27, 104, 167, 0, 4, 27, 172]
abbrev dktX1_xs_0 : List UInt8 := dkwX1_xs_0 ++ []
theorem dksX1_xs_0 : cX1_xs.data.toList.drop 0 = dktX1_xs_0 := by decide +kernel
theorem dX1_xs_0 : decode cX1_xs 0 = .ok (.iload_n 0, 1) := dk_26 (dk_at dksX1_xs_0 0 rfl rfl)
theorem dX1_xs_1 : decode cX1_xs 1 = .ok (.iconst 4, 1) := dk_7 (dk_at dksX1_xs_0 1 rfl rfl)
theorem dX1_xs_2 : decode cX1_xs 2 = .ok (.if_icmp .ne 9, 3) := dk_160 0 9 (dk_at dksX1_xs_0 2 rfl rfl)
theorem dX1_xs_5 : decode cX1_xs 5 = .ok (.iconst 2, 1) := dk_5 (dk_at dksX1_xs_0 5 rfl rfl)
theorem dX1_xs_6 : decode cX1_xs 6 = .ok (.iload_n 1, 1) := dk_27 (dk_at dksX1_xs_0 6 rfl rfl)
theorem dX1_xs_7 : decode cX1_xs 7 = .ok (.imul, 1) := dk_104 (dk_at dksX1_xs_0 7 rfl rfl)
theorem dX1_xs_8 : decode cX1_xs 8 = .ok (.goto 4, 3) := dk_167 0 4 (dk_at dksX1_xs_0 8 rfl rfl)
theorem dX1_xs_11 : decode cX1_xs 11 = .ok (.iload_n 1, 1) := dk_27 (dk_at dksX1_xs_0 11 rfl rfl)
theorem dX1_xs_12 : decode cX1_xs 12 = .ok (.ireturn, 1) := dk_172 (dk_at dksX1_xs_0 12 rfl rfl)
abbrev cX1_classOf : ByteArray := prog_24_method_77_code
def yX1_classOf : MethodName := ⟨RX1, "classOf", "(IIII)I"⟩
def dkwX1_classOf_0 : List UInt8 := [42, 27, 28, 29, 133, 182, 0, 234, 21, 4, 133, 113, 136, 172]
abbrev dktX1_classOf_0 : List UInt8 := dkwX1_classOf_0 ++ []
theorem dksX1_classOf_0 : cX1_classOf.data.toList.drop 0 = dktX1_classOf_0 := by decide +kernel
theorem dX1_classOf_0 : decode cX1_classOf 0 = .ok (.aload_n 0, 1) := dk_42 (dk_at dksX1_classOf_0 0 rfl rfl)
theorem dX1_classOf_1 : decode cX1_classOf 1 = .ok (.iload_n 1, 1) := dk_27 (dk_at dksX1_classOf_0 1 rfl rfl)
theorem dX1_classOf_2 : decode cX1_classOf 2 = .ok (.iload_n 2, 1) := dk_28 (dk_at dksX1_classOf_0 2 rfl rfl)
theorem dX1_classOf_3 : decode cX1_classOf 3 = .ok (.iload_n 3, 1) := dk_29 (dk_at dksX1_classOf_0 3 rfl rfl)
theorem dX1_classOf_4 : decode cX1_classOf 4 = .ok (.i2l, 1) := dk_133 (dk_at dksX1_classOf_0 4 rfl rfl)
theorem dX1_classOf_5 : decode cX1_classOf 5 = .ok (.invokevirtual 234, 3) := dk_182 0 234 (dk_at dksX1_classOf_0 5 rfl rfl)
theorem dX1_classOf_8 : decode cX1_classOf 8 = .ok (.iload 4, 2) := dk_21 4 (dk_at dksX1_classOf_0 8 rfl rfl)
theorem dX1_classOf_10 : decode cX1_classOf 10 = .ok (.i2l, 1) := dk_133 (dk_at dksX1_classOf_0 10 rfl rfl)
theorem dX1_classOf_11 : decode cX1_classOf 11 = .ok (.lrem, 1) := dk_113 (dk_at dksX1_classOf_0 11 rfl rfl)
theorem dX1_classOf_12 : decode cX1_classOf 12 = .ok (.l2i, 1) := dk_136 (dk_at dksX1_classOf_0 12 rfl rfl)
theorem dX1_classOf_13 : decode cX1_classOf 13 = .ok (.ireturn, 1) := dk_172 (dk_at dksX1_classOf_0 13 rfl rfl)
abbrev cX1_full : ByteArray := prog_24_method_75_code
def yX1_full : MethodName := ⟨RX1, "full", "(I)I"⟩
def dkwX1_full_2 : List UInt8 := [158, 0, 9, 132, 2, 255, 167, 255, 237, 28, 172]
abbrev dktX1_full_2 : List UInt8 := dkwX1_full_2 ++ []
def dkwX1_full_1 : List UInt8 := [154, 0, 5, 2, 172, 17, 11, 184, 61, 28, 158, 0, 21, 42, 28, 4, 100, 182, 1, 29, 9, 148]
abbrev dktX1_full_1 : List UInt8 := dkwX1_full_1 ++ dktX1_full_2
def dkwX1_full_0 : List UInt8 := [42, 27, 182, 1, 18, 154, 0, 5, 2, 172, 42, 27, 182, 1, 26, 42, 17, 11, 184, 182, 1, 29, 9, 148]
abbrev dktX1_full_0 : List UInt8 := dkwX1_full_0 ++ dktX1_full_1
theorem dksX1_full_0 : cX1_full.data.toList.drop 0 = dktX1_full_0 := by decide +kernel
theorem dksX1_full_1 : cX1_full.data.toList.drop 24 = dktX1_full_1 := dk_seg dksX1_full_0 24 rfl rfl
theorem dksX1_full_2 : cX1_full.data.toList.drop 46 = dktX1_full_2 := dk_seg dksX1_full_1 22 rfl rfl
theorem dX1_full_0 : decode cX1_full 0 = .ok (.aload_n 0, 1) := dk_42 (dk_at dksX1_full_0 0 rfl rfl)
theorem dX1_full_1 : decode cX1_full 1 = .ok (.iload_n 1, 1) := dk_27 (dk_at dksX1_full_0 1 rfl rfl)
theorem dX1_full_2 : decode cX1_full 2 = .ok (.invokevirtual 274, 3) := dk_182 1 18 (dk_at dksX1_full_0 2 rfl rfl)
theorem dX1_full_5 : decode cX1_full 5 = .ok (.ifCond .ne 5, 3) := dk_154 0 5 (dk_at dksX1_full_0 5 rfl rfl)
theorem dX1_full_8 : decode cX1_full 8 = .ok (.iconst (-1), 1) := dk_2 (dk_at dksX1_full_0 8 rfl rfl)
theorem dX1_full_9 : decode cX1_full 9 = .ok (.ireturn, 1) := dk_172 (dk_at dksX1_full_0 9 rfl rfl)
theorem dX1_full_10 : decode cX1_full 10 = .ok (.aload_n 0, 1) := dk_42 (dk_at dksX1_full_0 10 rfl rfl)
theorem dX1_full_11 : decode cX1_full 11 = .ok (.iload_n 1, 1) := dk_27 (dk_at dksX1_full_0 11 rfl rfl)
theorem dX1_full_12 : decode cX1_full 12 = .ok (.invokevirtual 282, 3) := dk_182 1 26 (dk_at dksX1_full_0 12 rfl rfl)
theorem dX1_full_15 : decode cX1_full 15 = .ok (.aload_n 0, 1) := dk_42 (dk_at dksX1_full_0 15 rfl rfl)
theorem dX1_full_16 : decode cX1_full 16 = .ok (.sipush 3000, 3) := dk_17 11 184 (dk_at dksX1_full_0 16 rfl rfl)
theorem dX1_full_19 : decode cX1_full 19 = .ok (.invokevirtual 285, 3) := dk_182 1 29 (dk_at dksX1_full_0 19 rfl rfl)
theorem dX1_full_22 : decode cX1_full 22 = .ok (.lconst 0, 1) := dk_9 (dk_at dksX1_full_0 22 rfl rfl)
theorem dX1_full_23 : decode cX1_full 23 = .ok (.lcmp, 1) := dk_148 (dk_at dksX1_full_0 23 rfl rfl)
theorem dX1_full_24 : decode cX1_full 24 = .ok (.ifCond .ne 5, 3) := dk_154 0 5 (dk_at dksX1_full_1 0 rfl rfl)
theorem dX1_full_27 : decode cX1_full 27 = .ok (.iconst (-1), 1) := dk_2 (dk_at dksX1_full_1 3 rfl rfl)
theorem dX1_full_28 : decode cX1_full 28 = .ok (.ireturn, 1) := dk_172 (dk_at dksX1_full_1 4 rfl rfl)
theorem dX1_full_29 : decode cX1_full 29 = .ok (.sipush 3000, 3) := dk_17 11 184 (dk_at dksX1_full_1 5 rfl rfl)
theorem dX1_full_32 : decode cX1_full 32 = .ok (.istore_n 2, 1) := dk_61 (dk_at dksX1_full_1 8 rfl rfl)
theorem dX1_full_33 : decode cX1_full 33 = .ok (.iload_n 2, 1) := dk_28 (dk_at dksX1_full_1 9 rfl rfl)
theorem dX1_full_34 : decode cX1_full 34 = .ok (.ifCond .le 21, 3) := dk_158 0 21 (dk_at dksX1_full_1 10 rfl rfl)
theorem dX1_full_37 : decode cX1_full 37 = .ok (.aload_n 0, 1) := dk_42 (dk_at dksX1_full_1 13 rfl rfl)
theorem dX1_full_38 : decode cX1_full 38 = .ok (.iload_n 2, 1) := dk_28 (dk_at dksX1_full_1 14 rfl rfl)
theorem dX1_full_39 : decode cX1_full 39 = .ok (.iconst 1, 1) := dk_4 (dk_at dksX1_full_1 15 rfl rfl)
theorem dX1_full_40 : decode cX1_full 40 = .ok (.isub, 1) := dk_100 (dk_at dksX1_full_1 16 rfl rfl)
theorem dX1_full_41 : decode cX1_full 41 = .ok (.invokevirtual 285, 3) := dk_182 1 29 (dk_at dksX1_full_1 17 rfl rfl)
theorem dX1_full_44 : decode cX1_full 44 = .ok (.lconst 0, 1) := dk_9 (dk_at dksX1_full_1 20 rfl rfl)
theorem dX1_full_45 : decode cX1_full 45 = .ok (.lcmp, 1) := dk_148 (dk_at dksX1_full_1 21 rfl rfl)
theorem dX1_full_46 : decode cX1_full 46 = .ok (.ifCond .le 9, 3) := dk_158 0 9 (dk_at dksX1_full_2 0 rfl rfl)
theorem dX1_full_49 : decode cX1_full 49 = .ok (.iinc 2 (-1), 3) := dk_132 2 255 (dk_at dksX1_full_2 3 rfl rfl)
theorem dX1_full_52 : decode cX1_full 52 = .ok (.goto (-19), 3) := dk_167 255 237 (dk_at dksX1_full_2 6 rfl rfl)
theorem dX1_full_55 : decode cX1_full 55 = .ok (.iload_n 2, 1) := dk_28 (dk_at dksX1_full_2 9 rfl rfl)
theorem dX1_full_56 : decode cX1_full 56 = .ok (.ireturn, 1) := dk_172 (dk_at dksX1_full_2 10 rfl rfl)
abbrev cX1_met : ByteArray := prog_24_method_80_code
def yX1_met : MethodName := ⟨RX1, "met", "(III)J"⟩
def dkwX1_met_1 : List UInt8 := [29, 47, 173]
abbrev dktX1_met_1 : List UInt8 := dkwX1_met_1 ++ []
def dkwX1_met_0 : List UInt8 := [42, 27, 28, 29, 182, 1, 176, 154, 0, 7, 20, 1, 24, 173, 42, 27, 28, 182, 1, 166, 42, 180, 0, 81]
abbrev dktX1_met_0 : List UInt8 := dkwX1_met_0 ++ dktX1_met_1
theorem dksX1_met_0 : cX1_met.data.toList.drop 0 = dktX1_met_0 := by decide +kernel
theorem dksX1_met_1 : cX1_met.data.toList.drop 24 = dktX1_met_1 := dk_seg dksX1_met_0 24 rfl rfl
theorem dX1_met_0 : decode cX1_met 0 = .ok (.aload_n 0, 1) := dk_42 (dk_at dksX1_met_0 0 rfl rfl)
theorem dX1_met_1 : decode cX1_met 1 = .ok (.iload_n 1, 1) := dk_27 (dk_at dksX1_met_0 1 rfl rfl)
theorem dX1_met_2 : decode cX1_met 2 = .ok (.iload_n 2, 1) := dk_28 (dk_at dksX1_met_0 2 rfl rfl)
theorem dX1_met_3 : decode cX1_met 3 = .ok (.iload_n 3, 1) := dk_29 (dk_at dksX1_met_0 3 rfl rfl)
theorem dX1_met_4 : decode cX1_met 4 = .ok (.invokevirtual 432, 3) := dk_182 1 176 (dk_at dksX1_met_0 4 rfl rfl)
theorem dX1_met_7 : decode cX1_met 7 = .ok (.ifCond .ne 7, 3) := dk_154 0 7 (dk_at dksX1_met_0 7 rfl rfl)
theorem dX1_met_10 : decode cX1_met 10 = .ok (.ldc2_w 280, 3) := dk_20 1 24 (dk_at dksX1_met_0 10 rfl rfl)
theorem dX1_met_13 : decode cX1_met 13 = .ok (.lreturn, 1) := dk_173 (dk_at dksX1_met_0 13 rfl rfl)
theorem dX1_met_14 : decode cX1_met 14 = .ok (.aload_n 0, 1) := dk_42 (dk_at dksX1_met_0 14 rfl rfl)
theorem dX1_met_15 : decode cX1_met 15 = .ok (.iload_n 1, 1) := dk_27 (dk_at dksX1_met_0 15 rfl rfl)
theorem dX1_met_16 : decode cX1_met 16 = .ok (.iload_n 2, 1) := dk_28 (dk_at dksX1_met_0 16 rfl rfl)
theorem dX1_met_17 : decode cX1_met 17 = .ok (.invokevirtual 422, 3) := dk_182 1 166 (dk_at dksX1_met_0 17 rfl rfl)
theorem dX1_met_20 : decode cX1_met 20 = .ok (.aload_n 0, 1) := dk_42 (dk_at dksX1_met_0 20 rfl rfl)
theorem dX1_met_21 : decode cX1_met 21 = .ok (.getfield 81, 3) := dk_180 0 81 (dk_at dksX1_met_0 21 rfl rfl)
theorem dX1_met_24 : decode cX1_met 24 = .ok (.iload_n 3, 1) := dk_29 (dk_at dksX1_met_1 0 rfl rfl)
theorem dX1_met_25 : decode cX1_met 25 = .ok (.laload, 1) := dk_47 (dk_at dksX1_met_1 1 rfl rfl)
theorem dX1_met_26 : decode cX1_met 26 = .ok (.lreturn, 1) := dk_173 (dk_at dksX1_met_1 2 rfl rfl)
abbrev cX1_isClass : ByteArray := prog_24_method_79_code
def yX1_isClass : MethodName := ⟨RX1, "isClass", "(III)Z"⟩
def dkwX1_isClass_1 : List UInt8 := [4, 100, 133, 184, 0, 105, 153, 0, 7, 4, 167, 0, 4, 3, 172]
abbrev dktX1_isClass_1 : List UInt8 := dkwX1_isClass_1 ++ []
def dkwX1_isClass_0 : List UInt8 := [42, 27, 182, 1, 18, 153, 0, 32, 28, 133, 10, 20, 1, 164, 184, 0, 105, 153, 0, 20, 29, 133, 9, 28]
abbrev dktX1_isClass_0 : List UInt8 := dkwX1_isClass_0 ++ dktX1_isClass_1
theorem dksX1_isClass_0 : cX1_isClass.data.toList.drop 0 = dktX1_isClass_0 := by decide +kernel
theorem dksX1_isClass_1 : cX1_isClass.data.toList.drop 24 = dktX1_isClass_1 := dk_seg dksX1_isClass_0 24 rfl rfl
theorem dX1_isClass_0 : decode cX1_isClass 0 = .ok (.aload_n 0, 1) := dk_42 (dk_at dksX1_isClass_0 0 rfl rfl)
theorem dX1_isClass_1 : decode cX1_isClass 1 = .ok (.iload_n 1, 1) := dk_27 (dk_at dksX1_isClass_0 1 rfl rfl)
theorem dX1_isClass_2 : decode cX1_isClass 2 = .ok (.invokevirtual 274, 3) := dk_182 1 18 (dk_at dksX1_isClass_0 2 rfl rfl)
theorem dX1_isClass_5 : decode cX1_isClass 5 = .ok (.ifCond .eq 32, 3) := dk_153 0 32 (dk_at dksX1_isClass_0 5 rfl rfl)
theorem dX1_isClass_8 : decode cX1_isClass 8 = .ok (.iload_n 2, 1) := dk_28 (dk_at dksX1_isClass_0 8 rfl rfl)
theorem dX1_isClass_9 : decode cX1_isClass 9 = .ok (.i2l, 1) := dk_133 (dk_at dksX1_isClass_0 9 rfl rfl)
theorem dX1_isClass_10 : decode cX1_isClass 10 = .ok (.lconst 1, 1) := dk_10 (dk_at dksX1_isClass_0 10 rfl rfl)
theorem dX1_isClass_11 : decode cX1_isClass 11 = .ok (.ldc2_w 420, 3) := dk_20 1 164 (dk_at dksX1_isClass_0 11 rfl rfl)
theorem dX1_isClass_14 : decode cX1_isClass 14 = .ok (.invokestatic 105, 3) := dk_184 0 105 (dk_at dksX1_isClass_0 14 rfl rfl)
theorem dX1_isClass_17 : decode cX1_isClass 17 = .ok (.ifCond .eq 20, 3) := dk_153 0 20 (dk_at dksX1_isClass_0 17 rfl rfl)
theorem dX1_isClass_20 : decode cX1_isClass 20 = .ok (.iload_n 3, 1) := dk_29 (dk_at dksX1_isClass_0 20 rfl rfl)
theorem dX1_isClass_21 : decode cX1_isClass 21 = .ok (.i2l, 1) := dk_133 (dk_at dksX1_isClass_0 21 rfl rfl)
theorem dX1_isClass_22 : decode cX1_isClass 22 = .ok (.lconst 0, 1) := dk_9 (dk_at dksX1_isClass_0 22 rfl rfl)
theorem dX1_isClass_23 : decode cX1_isClass 23 = .ok (.iload_n 2, 1) := dk_28 (dk_at dksX1_isClass_0 23 rfl rfl)
theorem dX1_isClass_24 : decode cX1_isClass 24 = .ok (.iconst 1, 1) := dk_4 (dk_at dksX1_isClass_1 0 rfl rfl)
theorem dX1_isClass_25 : decode cX1_isClass 25 = .ok (.isub, 1) := dk_100 (dk_at dksX1_isClass_1 1 rfl rfl)
theorem dX1_isClass_26 : decode cX1_isClass 26 = .ok (.i2l, 1) := dk_133 (dk_at dksX1_isClass_1 2 rfl rfl)
theorem dX1_isClass_27 : decode cX1_isClass 27 = .ok (.invokestatic 105, 3) := dk_184 0 105 (dk_at dksX1_isClass_1 3 rfl rfl)
theorem dX1_isClass_30 : decode cX1_isClass 30 = .ok (.ifCond .eq 7, 3) := dk_153 0 7 (dk_at dksX1_isClass_1 6 rfl rfl)
theorem dX1_isClass_33 : decode cX1_isClass 33 = .ok (.iconst 1, 1) := dk_4 (dk_at dksX1_isClass_1 9 rfl rfl)
theorem dX1_isClass_34 : decode cX1_isClass 34 = .ok (.goto 4, 3) := dk_167 0 4 (dk_at dksX1_isClass_1 10 rfl rfl)
theorem dX1_isClass_37 : decode cX1_isClass 37 = .ok (.iconst 0, 1) := dk_3 (dk_at dksX1_isClass_1 13 rfl rfl)
theorem dX1_isClass_38 : decode cX1_isClass 38 = .ok (.ireturn, 1) := dk_172 (dk_at dksX1_isClass_1 14 rfl rfl)
abbrev cX1_meets : ByteArray := prog_24_method_81_code
def yX1_meets : MethodName := ⟨RX1, "meets", "(IIII)I"⟩
def dkwX1_meets_5 : List UInt8 := [54, 5, 132, 7, 1, 167, 255, 183, 21, 6, 172]
abbrev dktX1_meets_5 : List UInt8 := dkwX1_meets_5 ++ []
def dkwX1_meets_4 : List UInt8 := [132, 6, 1, 167, 255, 218, 21, 5, 42, 27, 21, 7, 21, 6, 28, 182, 1, 172, 100, 28, 96, 28, 112]
abbrev dktX1_meets_4 : List UInt8 := dkwX1_meets_4 ++ dktX1_meets_5
def dkwX1_meets_3 : List UInt8 := [21, 5, 42, 27, 21, 7, 21, 6, 28, 182, 1, 172, 100, 28, 96, 28, 112, 96, 47, 9, 148, 154, 0, 9]
abbrev dktX1_meets_3 : List UInt8 := dkwX1_meets_3 ++ dktX1_meets_4
def dkwX1_meets_2 : List UInt8 := [54, 7, 21, 7, 21, 4, 163, 0, 72, 3, 54, 6, 42, 180, 0, 81, 16, 60, 21, 7, 4, 96, 104]
abbrev dktX1_meets_2 : List UInt8 := dkwX1_meets_2 ++ dktX1_meets_3
def dkwX1_meets_1 : List UInt8 := [28, 182, 1, 166, 42, 180, 0, 81, 29, 47, 9, 148, 154, 0, 5, 2, 172, 29, 54, 5, 3, 54, 6, 3]
abbrev dktX1_meets_1 : List UInt8 := dkwX1_meets_1 ++ dktX1_meets_2
def dkwX1_meets_0 : List UInt8 := [42, 27, 28, 29, 182, 1, 176, 153, 0, 13, 42, 27, 21, 4, 182, 1, 57, 154, 0, 5, 2, 172, 42, 27]
abbrev dktX1_meets_0 : List UInt8 := dkwX1_meets_0 ++ dktX1_meets_1
theorem dksX1_meets_0 : cX1_meets.data.toList.drop 0 = dktX1_meets_0 := by decide +kernel
theorem dksX1_meets_1 : cX1_meets.data.toList.drop 24 = dktX1_meets_1 := dk_seg dksX1_meets_0 24 rfl rfl
theorem dksX1_meets_2 : cX1_meets.data.toList.drop 48 = dktX1_meets_2 := dk_seg dksX1_meets_1 24 rfl rfl
theorem dksX1_meets_3 : cX1_meets.data.toList.drop 71 = dktX1_meets_3 := dk_seg dksX1_meets_2 23 rfl rfl
theorem dksX1_meets_4 : cX1_meets.data.toList.drop 95 = dktX1_meets_4 := dk_seg dksX1_meets_3 24 rfl rfl
theorem dksX1_meets_5 : cX1_meets.data.toList.drop 118 = dktX1_meets_5 := dk_seg dksX1_meets_4 23 rfl rfl
theorem dX1_meets_0 : decode cX1_meets 0 = .ok (.aload_n 0, 1) := dk_42 (dk_at dksX1_meets_0 0 rfl rfl)
theorem dX1_meets_1 : decode cX1_meets 1 = .ok (.iload_n 1, 1) := dk_27 (dk_at dksX1_meets_0 1 rfl rfl)
theorem dX1_meets_2 : decode cX1_meets 2 = .ok (.iload_n 2, 1) := dk_28 (dk_at dksX1_meets_0 2 rfl rfl)
theorem dX1_meets_3 : decode cX1_meets 3 = .ok (.iload_n 3, 1) := dk_29 (dk_at dksX1_meets_0 3 rfl rfl)
theorem dX1_meets_4 : decode cX1_meets 4 = .ok (.invokevirtual 432, 3) := dk_182 1 176 (dk_at dksX1_meets_0 4 rfl rfl)
theorem dX1_meets_7 : decode cX1_meets 7 = .ok (.ifCond .eq 13, 3) := dk_153 0 13 (dk_at dksX1_meets_0 7 rfl rfl)
theorem dX1_meets_10 : decode cX1_meets 10 = .ok (.aload_n 0, 1) := dk_42 (dk_at dksX1_meets_0 10 rfl rfl)
theorem dX1_meets_11 : decode cX1_meets 11 = .ok (.iload_n 1, 1) := dk_27 (dk_at dksX1_meets_0 11 rfl rfl)
theorem dX1_meets_12 : decode cX1_meets 12 = .ok (.iload 4, 2) := dk_21 4 (dk_at dksX1_meets_0 12 rfl rfl)
theorem dX1_meets_14 : decode cX1_meets 14 = .ok (.invokevirtual 313, 3) := dk_182 1 57 (dk_at dksX1_meets_0 14 rfl rfl)
theorem dX1_meets_17 : decode cX1_meets 17 = .ok (.ifCond .ne 5, 3) := dk_154 0 5 (dk_at dksX1_meets_0 17 rfl rfl)
theorem dX1_meets_20 : decode cX1_meets 20 = .ok (.iconst (-1), 1) := dk_2 (dk_at dksX1_meets_0 20 rfl rfl)
theorem dX1_meets_21 : decode cX1_meets 21 = .ok (.ireturn, 1) := dk_172 (dk_at dksX1_meets_0 21 rfl rfl)
theorem dX1_meets_22 : decode cX1_meets 22 = .ok (.aload_n 0, 1) := dk_42 (dk_at dksX1_meets_0 22 rfl rfl)
theorem dX1_meets_23 : decode cX1_meets 23 = .ok (.iload_n 1, 1) := dk_27 (dk_at dksX1_meets_0 23 rfl rfl)
theorem dX1_meets_24 : decode cX1_meets 24 = .ok (.iload_n 2, 1) := dk_28 (dk_at dksX1_meets_1 0 rfl rfl)
theorem dX1_meets_25 : decode cX1_meets 25 = .ok (.invokevirtual 422, 3) := dk_182 1 166 (dk_at dksX1_meets_1 1 rfl rfl)
theorem dX1_meets_28 : decode cX1_meets 28 = .ok (.aload_n 0, 1) := dk_42 (dk_at dksX1_meets_1 4 rfl rfl)
theorem dX1_meets_29 : decode cX1_meets 29 = .ok (.getfield 81, 3) := dk_180 0 81 (dk_at dksX1_meets_1 5 rfl rfl)
theorem dX1_meets_32 : decode cX1_meets 32 = .ok (.iload_n 3, 1) := dk_29 (dk_at dksX1_meets_1 8 rfl rfl)
theorem dX1_meets_33 : decode cX1_meets 33 = .ok (.laload, 1) := dk_47 (dk_at dksX1_meets_1 9 rfl rfl)
theorem dX1_meets_34 : decode cX1_meets 34 = .ok (.lconst 0, 1) := dk_9 (dk_at dksX1_meets_1 10 rfl rfl)
theorem dX1_meets_35 : decode cX1_meets 35 = .ok (.lcmp, 1) := dk_148 (dk_at dksX1_meets_1 11 rfl rfl)
theorem dX1_meets_36 : decode cX1_meets 36 = .ok (.ifCond .ne 5, 3) := dk_154 0 5 (dk_at dksX1_meets_1 12 rfl rfl)
theorem dX1_meets_39 : decode cX1_meets 39 = .ok (.iconst (-1), 1) := dk_2 (dk_at dksX1_meets_1 15 rfl rfl)
theorem dX1_meets_40 : decode cX1_meets 40 = .ok (.ireturn, 1) := dk_172 (dk_at dksX1_meets_1 16 rfl rfl)
theorem dX1_meets_41 : decode cX1_meets 41 = .ok (.iload_n 3, 1) := dk_29 (dk_at dksX1_meets_1 17 rfl rfl)
theorem dX1_meets_42 : decode cX1_meets 42 = .ok (.istore 5, 2) := dk_54 5 (dk_at dksX1_meets_1 18 rfl rfl)
theorem dX1_meets_44 : decode cX1_meets 44 = .ok (.iconst 0, 1) := dk_3 (dk_at dksX1_meets_1 20 rfl rfl)
theorem dX1_meets_45 : decode cX1_meets 45 = .ok (.istore 6, 2) := dk_54 6 (dk_at dksX1_meets_1 21 rfl rfl)
theorem dX1_meets_47 : decode cX1_meets 47 = .ok (.iconst 0, 1) := dk_3 (dk_at dksX1_meets_1 23 rfl rfl)
theorem dX1_meets_48 : decode cX1_meets 48 = .ok (.istore 7, 2) := dk_54 7 (dk_at dksX1_meets_2 0 rfl rfl)
theorem dX1_meets_50 : decode cX1_meets 50 = .ok (.iload 7, 2) := dk_21 7 (dk_at dksX1_meets_2 2 rfl rfl)
theorem dX1_meets_52 : decode cX1_meets 52 = .ok (.iload 4, 2) := dk_21 4 (dk_at dksX1_meets_2 4 rfl rfl)
theorem dX1_meets_54 : decode cX1_meets 54 = .ok (.if_icmp .gt 72, 3) := dk_163 0 72 (dk_at dksX1_meets_2 6 rfl rfl)
theorem dX1_meets_57 : decode cX1_meets 57 = .ok (.iconst 0, 1) := dk_3 (dk_at dksX1_meets_2 9 rfl rfl)
theorem dX1_meets_58 : decode cX1_meets 58 = .ok (.istore 6, 2) := dk_54 6 (dk_at dksX1_meets_2 10 rfl rfl)
theorem dX1_meets_60 : decode cX1_meets 60 = .ok (.aload_n 0, 1) := dk_42 (dk_at dksX1_meets_2 12 rfl rfl)
theorem dX1_meets_61 : decode cX1_meets 61 = .ok (.getfield 81, 3) := dk_180 0 81 (dk_at dksX1_meets_2 13 rfl rfl)
theorem dX1_meets_64 : decode cX1_meets 64 = .ok (.bipush 60, 2) := dk_16 60 (dk_at dksX1_meets_2 16 rfl rfl)
theorem dX1_meets_66 : decode cX1_meets 66 = .ok (.iload 7, 2) := dk_21 7 (dk_at dksX1_meets_2 18 rfl rfl)
theorem dX1_meets_68 : decode cX1_meets 68 = .ok (.iconst 1, 1) := dk_4 (dk_at dksX1_meets_2 20 rfl rfl)
theorem dX1_meets_69 : decode cX1_meets 69 = .ok (.iadd, 1) := dk_96 (dk_at dksX1_meets_2 21 rfl rfl)
theorem dX1_meets_70 : decode cX1_meets 70 = .ok (.imul, 1) := dk_104 (dk_at dksX1_meets_2 22 rfl rfl)
theorem dX1_meets_71 : decode cX1_meets 71 = .ok (.iload 5, 2) := dk_21 5 (dk_at dksX1_meets_3 0 rfl rfl)
theorem dX1_meets_73 : decode cX1_meets 73 = .ok (.aload_n 0, 1) := dk_42 (dk_at dksX1_meets_3 2 rfl rfl)
theorem dX1_meets_74 : decode cX1_meets 74 = .ok (.iload_n 1, 1) := dk_27 (dk_at dksX1_meets_3 3 rfl rfl)
theorem dX1_meets_75 : decode cX1_meets 75 = .ok (.iload 7, 2) := dk_21 7 (dk_at dksX1_meets_3 4 rfl rfl)
theorem dX1_meets_77 : decode cX1_meets 77 = .ok (.iload 6, 2) := dk_21 6 (dk_at dksX1_meets_3 6 rfl rfl)
theorem dX1_meets_79 : decode cX1_meets 79 = .ok (.iload_n 2, 1) := dk_28 (dk_at dksX1_meets_3 8 rfl rfl)
theorem dX1_meets_80 : decode cX1_meets 80 = .ok (.invokevirtual 428, 3) := dk_182 1 172 (dk_at dksX1_meets_3 9 rfl rfl)
theorem dX1_meets_83 : decode cX1_meets 83 = .ok (.isub, 1) := dk_100 (dk_at dksX1_meets_3 12 rfl rfl)
theorem dX1_meets_84 : decode cX1_meets 84 = .ok (.iload_n 2, 1) := dk_28 (dk_at dksX1_meets_3 13 rfl rfl)
theorem dX1_meets_85 : decode cX1_meets 85 = .ok (.iadd, 1) := dk_96 (dk_at dksX1_meets_3 14 rfl rfl)
theorem dX1_meets_86 : decode cX1_meets 86 = .ok (.iload_n 2, 1) := dk_28 (dk_at dksX1_meets_3 15 rfl rfl)
theorem dX1_meets_87 : decode cX1_meets 87 = .ok (.irem, 1) := dk_112 (dk_at dksX1_meets_3 16 rfl rfl)
theorem dX1_meets_88 : decode cX1_meets 88 = .ok (.iadd, 1) := dk_96 (dk_at dksX1_meets_3 17 rfl rfl)
theorem dX1_meets_89 : decode cX1_meets 89 = .ok (.laload, 1) := dk_47 (dk_at dksX1_meets_3 18 rfl rfl)
theorem dX1_meets_90 : decode cX1_meets 90 = .ok (.lconst 0, 1) := dk_9 (dk_at dksX1_meets_3 19 rfl rfl)
theorem dX1_meets_91 : decode cX1_meets 91 = .ok (.lcmp, 1) := dk_148 (dk_at dksX1_meets_3 20 rfl rfl)
theorem dX1_meets_92 : decode cX1_meets 92 = .ok (.ifCond .ne 9, 3) := dk_154 0 9 (dk_at dksX1_meets_3 21 rfl rfl)
theorem dX1_meets_95 : decode cX1_meets 95 = .ok (.iinc 6 1, 3) := dk_132 6 1 (dk_at dksX1_meets_4 0 rfl rfl)
theorem dX1_meets_98 : decode cX1_meets 98 = .ok (.goto (-38), 3) := dk_167 255 218 (dk_at dksX1_meets_4 3 rfl rfl)
theorem dX1_meets_101 : decode cX1_meets 101 = .ok (.iload 5, 2) := dk_21 5 (dk_at dksX1_meets_4 6 rfl rfl)
theorem dX1_meets_103 : decode cX1_meets 103 = .ok (.aload_n 0, 1) := dk_42 (dk_at dksX1_meets_4 8 rfl rfl)
theorem dX1_meets_104 : decode cX1_meets 104 = .ok (.iload_n 1, 1) := dk_27 (dk_at dksX1_meets_4 9 rfl rfl)
theorem dX1_meets_105 : decode cX1_meets 105 = .ok (.iload 7, 2) := dk_21 7 (dk_at dksX1_meets_4 10 rfl rfl)
theorem dX1_meets_107 : decode cX1_meets 107 = .ok (.iload 6, 2) := dk_21 6 (dk_at dksX1_meets_4 12 rfl rfl)
theorem dX1_meets_109 : decode cX1_meets 109 = .ok (.iload_n 2, 1) := dk_28 (dk_at dksX1_meets_4 14 rfl rfl)
theorem dX1_meets_110 : decode cX1_meets 110 = .ok (.invokevirtual 428, 3) := dk_182 1 172 (dk_at dksX1_meets_4 15 rfl rfl)
theorem dX1_meets_113 : decode cX1_meets 113 = .ok (.isub, 1) := dk_100 (dk_at dksX1_meets_4 18 rfl rfl)
theorem dX1_meets_114 : decode cX1_meets 114 = .ok (.iload_n 2, 1) := dk_28 (dk_at dksX1_meets_4 19 rfl rfl)
theorem dX1_meets_115 : decode cX1_meets 115 = .ok (.iadd, 1) := dk_96 (dk_at dksX1_meets_4 20 rfl rfl)
theorem dX1_meets_116 : decode cX1_meets 116 = .ok (.iload_n 2, 1) := dk_28 (dk_at dksX1_meets_4 21 rfl rfl)
theorem dX1_meets_117 : decode cX1_meets 117 = .ok (.irem, 1) := dk_112 (dk_at dksX1_meets_4 22 rfl rfl)
theorem dX1_meets_118 : decode cX1_meets 118 = .ok (.istore 5, 2) := dk_54 5 (dk_at dksX1_meets_5 0 rfl rfl)
theorem dX1_meets_120 : decode cX1_meets 120 = .ok (.iinc 7 1, 3) := dk_132 7 1 (dk_at dksX1_meets_5 2 rfl rfl)
theorem dX1_meets_123 : decode cX1_meets 123 = .ok (.goto (-73), 3) := dk_167 255 183 (dk_at dksX1_meets_5 5 rfl rfl)
theorem dX1_meets_126 : decode cX1_meets 126 = .ok (.iload 6, 2) := dk_21 6 (dk_at dksX1_meets_5 8 rfl rfl)
theorem dX1_meets_128 : decode cX1_meets 128 = .ok (.ireturn, 1) := dk_172 (dk_at dksX1_meets_5 10 rfl rfl)
abbrev cX1_never : ByteArray := prog_24_method_82_code
def yX1_never : MethodName := ⟨RX1, "never", "(III)I"⟩
def dkwX1_never_3 : List UInt8 := [167, 0, 4, 2, 172]
abbrev dktX1_never_3 : List UInt8 := dkwX1_never_3 ++ []
def dkwX1_never_2 : List UInt8 := [160, 0, 6, 21, 5, 172, 132, 4, 1, 132, 5, 1, 167, 255, 220, 29, 2, 160, 0, 8, 21, 4]
abbrev dktX1_never_2 : List UInt8 := dkwX1_never_2 ++ dktX1_never_3
def dkwX1_never_1 : List UInt8 := [21, 5, 28, 162, 0, 36, 42, 180, 0, 81, 21, 5, 47, 9, 148, 158, 0, 6, 167, 0, 15, 21, 4, 29]
abbrev dktX1_never_1 : List UInt8 := dkwX1_never_1 ++ dktX1_never_2
def dkwX1_never_0 : List UInt8 := [42, 27, 28, 3, 182, 1, 176, 154, 0, 5, 2, 172, 42, 27, 28, 182, 1, 166, 3, 54, 4, 3, 54, 5]
abbrev dktX1_never_0 : List UInt8 := dkwX1_never_0 ++ dktX1_never_1
theorem dksX1_never_0 : cX1_never.data.toList.drop 0 = dktX1_never_0 := by decide +kernel
theorem dksX1_never_1 : cX1_never.data.toList.drop 24 = dktX1_never_1 := dk_seg dksX1_never_0 24 rfl rfl
theorem dksX1_never_2 : cX1_never.data.toList.drop 48 = dktX1_never_2 := dk_seg dksX1_never_1 24 rfl rfl
theorem dksX1_never_3 : cX1_never.data.toList.drop 70 = dktX1_never_3 := dk_seg dksX1_never_2 22 rfl rfl
theorem dX1_never_0 : decode cX1_never 0 = .ok (.aload_n 0, 1) := dk_42 (dk_at dksX1_never_0 0 rfl rfl)
theorem dX1_never_1 : decode cX1_never 1 = .ok (.iload_n 1, 1) := dk_27 (dk_at dksX1_never_0 1 rfl rfl)
theorem dX1_never_2 : decode cX1_never 2 = .ok (.iload_n 2, 1) := dk_28 (dk_at dksX1_never_0 2 rfl rfl)
theorem dX1_never_3 : decode cX1_never 3 = .ok (.iconst 0, 1) := dk_3 (dk_at dksX1_never_0 3 rfl rfl)
theorem dX1_never_4 : decode cX1_never 4 = .ok (.invokevirtual 432, 3) := dk_182 1 176 (dk_at dksX1_never_0 4 rfl rfl)
theorem dX1_never_7 : decode cX1_never 7 = .ok (.ifCond .ne 5, 3) := dk_154 0 5 (dk_at dksX1_never_0 7 rfl rfl)
theorem dX1_never_10 : decode cX1_never 10 = .ok (.iconst (-1), 1) := dk_2 (dk_at dksX1_never_0 10 rfl rfl)
theorem dX1_never_11 : decode cX1_never 11 = .ok (.ireturn, 1) := dk_172 (dk_at dksX1_never_0 11 rfl rfl)
theorem dX1_never_12 : decode cX1_never 12 = .ok (.aload_n 0, 1) := dk_42 (dk_at dksX1_never_0 12 rfl rfl)
theorem dX1_never_13 : decode cX1_never 13 = .ok (.iload_n 1, 1) := dk_27 (dk_at dksX1_never_0 13 rfl rfl)
theorem dX1_never_14 : decode cX1_never 14 = .ok (.iload_n 2, 1) := dk_28 (dk_at dksX1_never_0 14 rfl rfl)
theorem dX1_never_15 : decode cX1_never 15 = .ok (.invokevirtual 422, 3) := dk_182 1 166 (dk_at dksX1_never_0 15 rfl rfl)
theorem dX1_never_18 : decode cX1_never 18 = .ok (.iconst 0, 1) := dk_3 (dk_at dksX1_never_0 18 rfl rfl)
theorem dX1_never_19 : decode cX1_never 19 = .ok (.istore 4, 2) := dk_54 4 (dk_at dksX1_never_0 19 rfl rfl)
theorem dX1_never_21 : decode cX1_never 21 = .ok (.iconst 0, 1) := dk_3 (dk_at dksX1_never_0 21 rfl rfl)
theorem dX1_never_22 : decode cX1_never 22 = .ok (.istore 5, 2) := dk_54 5 (dk_at dksX1_never_0 22 rfl rfl)
theorem dX1_never_24 : decode cX1_never 24 = .ok (.iload 5, 2) := dk_21 5 (dk_at dksX1_never_1 0 rfl rfl)
theorem dX1_never_26 : decode cX1_never 26 = .ok (.iload_n 2, 1) := dk_28 (dk_at dksX1_never_1 2 rfl rfl)
theorem dX1_never_27 : decode cX1_never 27 = .ok (.if_icmp .ge 36, 3) := dk_162 0 36 (dk_at dksX1_never_1 3 rfl rfl)
theorem dX1_never_30 : decode cX1_never 30 = .ok (.aload_n 0, 1) := dk_42 (dk_at dksX1_never_1 6 rfl rfl)
theorem dX1_never_31 : decode cX1_never 31 = .ok (.getfield 81, 3) := dk_180 0 81 (dk_at dksX1_never_1 7 rfl rfl)
theorem dX1_never_34 : decode cX1_never 34 = .ok (.iload 5, 2) := dk_21 5 (dk_at dksX1_never_1 10 rfl rfl)
theorem dX1_never_36 : decode cX1_never 36 = .ok (.laload, 1) := dk_47 (dk_at dksX1_never_1 12 rfl rfl)
theorem dX1_never_37 : decode cX1_never 37 = .ok (.lconst 0, 1) := dk_9 (dk_at dksX1_never_1 13 rfl rfl)
theorem dX1_never_38 : decode cX1_never 38 = .ok (.lcmp, 1) := dk_148 (dk_at dksX1_never_1 14 rfl rfl)
theorem dX1_never_39 : decode cX1_never 39 = .ok (.ifCond .le 6, 3) := dk_158 0 6 (dk_at dksX1_never_1 15 rfl rfl)
theorem dX1_never_42 : decode cX1_never 42 = .ok (.goto 15, 3) := dk_167 0 15 (dk_at dksX1_never_1 18 rfl rfl)
theorem dX1_never_45 : decode cX1_never 45 = .ok (.iload 4, 2) := dk_21 4 (dk_at dksX1_never_1 21 rfl rfl)
theorem dX1_never_47 : decode cX1_never 47 = .ok (.iload_n 3, 1) := dk_29 (dk_at dksX1_never_1 23 rfl rfl)
theorem dX1_never_48 : decode cX1_never 48 = .ok (.if_icmp .ne 6, 3) := dk_160 0 6 (dk_at dksX1_never_2 0 rfl rfl)
theorem dX1_never_51 : decode cX1_never 51 = .ok (.iload 5, 2) := dk_21 5 (dk_at dksX1_never_2 3 rfl rfl)
theorem dX1_never_53 : decode cX1_never 53 = .ok (.ireturn, 1) := dk_172 (dk_at dksX1_never_2 5 rfl rfl)
theorem dX1_never_54 : decode cX1_never 54 = .ok (.iinc 4 1, 3) := dk_132 4 1 (dk_at dksX1_never_2 6 rfl rfl)
theorem dX1_never_57 : decode cX1_never 57 = .ok (.iinc 5 1, 3) := dk_132 5 1 (dk_at dksX1_never_2 9 rfl rfl)
theorem dX1_never_60 : decode cX1_never 60 = .ok (.goto (-36), 3) := dk_167 255 220 (dk_at dksX1_never_2 12 rfl rfl)
theorem dX1_never_63 : decode cX1_never 63 = .ok (.iload_n 3, 1) := dk_29 (dk_at dksX1_never_2 15 rfl rfl)
theorem dX1_never_64 : decode cX1_never 64 = .ok (.iconst (-1), 1) := dk_2 (dk_at dksX1_never_2 16 rfl rfl)
theorem dX1_never_65 : decode cX1_never 65 = .ok (.if_icmp .ne 8, 3) := dk_160 0 8 (dk_at dksX1_never_2 17 rfl rfl)
theorem dX1_never_68 : decode cX1_never 68 = .ok (.iload 4, 2) := dk_21 4 (dk_at dksX1_never_2 20 rfl rfl)
theorem dX1_never_70 : decode cX1_never 70 = .ok (.goto 4, 3) := dk_167 0 4 (dk_at dksX1_never_3 0 rfl rfl)
theorem dX1_never_73 : decode cX1_never 73 = .ok (.iconst (-1), 1) := dk_2 (dk_at dksX1_never_3 3 rfl rfl)
theorem dX1_never_74 : decode cX1_never 74 = .ok (.ireturn, 1) := dk_172 (dk_at dksX1_never_3 4 rfl rfl)
abbrev cX1_bars : ByteArray := prog_24_method_83_code
def yX1_bars : MethodName := ⟨RX1, "bars", "(I)I"⟩
def dkwX1_bars_1 : List UInt8 := [182, 1, 179, 158, 0, 5, 28, 172, 132, 2, 1, 167, 255, 235, 2, 172]
abbrev dktX1_bars_1 : List UInt8 := dkwX1_bars_1 ++ []
def dkwX1_bars_0 : List UInt8 := [42, 27, 182, 1, 18, 154, 0, 5, 2, 172, 4, 61, 28, 16, 60, 163, 0, 21, 42, 27, 28, 2]
abbrev dktX1_bars_0 : List UInt8 := dkwX1_bars_0 ++ dktX1_bars_1
theorem dksX1_bars_0 : cX1_bars.data.toList.drop 0 = dktX1_bars_0 := by decide +kernel
theorem dksX1_bars_1 : cX1_bars.data.toList.drop 22 = dktX1_bars_1 := dk_seg dksX1_bars_0 22 rfl rfl
theorem dX1_bars_0 : decode cX1_bars 0 = .ok (.aload_n 0, 1) := dk_42 (dk_at dksX1_bars_0 0 rfl rfl)
theorem dX1_bars_1 : decode cX1_bars 1 = .ok (.iload_n 1, 1) := dk_27 (dk_at dksX1_bars_0 1 rfl rfl)
theorem dX1_bars_2 : decode cX1_bars 2 = .ok (.invokevirtual 274, 3) := dk_182 1 18 (dk_at dksX1_bars_0 2 rfl rfl)
theorem dX1_bars_5 : decode cX1_bars 5 = .ok (.ifCond .ne 5, 3) := dk_154 0 5 (dk_at dksX1_bars_0 5 rfl rfl)
theorem dX1_bars_8 : decode cX1_bars 8 = .ok (.iconst (-1), 1) := dk_2 (dk_at dksX1_bars_0 8 rfl rfl)
theorem dX1_bars_9 : decode cX1_bars 9 = .ok (.ireturn, 1) := dk_172 (dk_at dksX1_bars_0 9 rfl rfl)
theorem dX1_bars_10 : decode cX1_bars 10 = .ok (.iconst 1, 1) := dk_4 (dk_at dksX1_bars_0 10 rfl rfl)
theorem dX1_bars_11 : decode cX1_bars 11 = .ok (.istore_n 2, 1) := dk_61 (dk_at dksX1_bars_0 11 rfl rfl)
theorem dX1_bars_12 : decode cX1_bars 12 = .ok (.iload_n 2, 1) := dk_28 (dk_at dksX1_bars_0 12 rfl rfl)
theorem dX1_bars_13 : decode cX1_bars 13 = .ok (.bipush 60, 2) := dk_16 60 (dk_at dksX1_bars_0 13 rfl rfl)
theorem dX1_bars_15 : decode cX1_bars 15 = .ok (.if_icmp .gt 21, 3) := dk_163 0 21 (dk_at dksX1_bars_0 15 rfl rfl)
theorem dX1_bars_18 : decode cX1_bars 18 = .ok (.aload_n 0, 1) := dk_42 (dk_at dksX1_bars_0 18 rfl rfl)
theorem dX1_bars_19 : decode cX1_bars 19 = .ok (.iload_n 1, 1) := dk_27 (dk_at dksX1_bars_0 19 rfl rfl)
theorem dX1_bars_20 : decode cX1_bars 20 = .ok (.iload_n 2, 1) := dk_28 (dk_at dksX1_bars_0 20 rfl rfl)
theorem dX1_bars_21 : decode cX1_bars 21 = .ok (.iconst (-1), 1) := dk_2 (dk_at dksX1_bars_0 21 rfl rfl)
theorem dX1_bars_22 : decode cX1_bars 22 = .ok (.invokevirtual 435, 3) := dk_182 1 179 (dk_at dksX1_bars_1 0 rfl rfl)
theorem dX1_bars_25 : decode cX1_bars 25 = .ok (.ifCond .le 5, 3) := dk_158 0 5 (dk_at dksX1_bars_1 3 rfl rfl)
theorem dX1_bars_28 : decode cX1_bars 28 = .ok (.iload_n 2, 1) := dk_28 (dk_at dksX1_bars_1 6 rfl rfl)
theorem dX1_bars_29 : decode cX1_bars 29 = .ok (.ireturn, 1) := dk_172 (dk_at dksX1_bars_1 7 rfl rfl)
theorem dX1_bars_30 : decode cX1_bars 30 = .ok (.iinc 2 1, 3) := dk_132 2 1 (dk_at dksX1_bars_1 8 rfl rfl)
theorem dX1_bars_33 : decode cX1_bars 33 = .ok (.goto (-21), 3) := dk_167 255 235 (dk_at dksX1_bars_1 11 rfl rfl)
theorem dX1_bars_36 : decode cX1_bars 36 = .ok (.iconst (-1), 1) := dk_2 (dk_at dksX1_bars_1 14 rfl rfl)
theorem dX1_bars_37 : decode cX1_bars 37 = .ok (.ireturn, 1) := dk_172 (dk_at dksX1_bars_1 15 rfl rfl)
abbrev cX1_many : ByteArray := prog_24_method_84_code
def yX1_many : MethodName := ⟨RX1, "many", "(IIIZ)I"⟩
def dkwX1_many_4 : List UInt8 := [132, 5, 1, 167, 255, 200, 19, 1, 65, 172]
abbrev dktX1_many_4 : List UInt8 := dkwX1_many_4 ++ []
def dkwX1_many_3 : List UInt8 := [167, 0, 20, 42, 180, 0, 42, 21, 5, 17, 11, 184, 96, 47, 29, 133, 148, 155, 0, 6, 21, 5, 172]
abbrev dktX1_many_3 : List UInt8 := dkwX1_many_3 ++ dktX1_many_4
def dkwX1_many_2 : List UInt8 := [21, 4, 153, 0, 23, 42, 180, 0, 42, 21, 5, 17, 11, 184, 96, 47, 29, 133, 148, 154, 0, 26]
abbrev dktX1_many_2 : List UInt8 := dkwX1_many_2 ++ dktX1_many_3
def dkwX1_many_1 : List UInt8 := [154, 0, 7, 19, 1, 65, 172, 42, 27, 182, 1, 54, 28, 54, 5, 21, 5, 17, 11, 184, 163, 0, 54]
abbrev dktX1_many_1 : List UInt8 := dkwX1_many_1 ++ dktX1_many_2
def dkwX1_many_0 : List UInt8 := [42, 27, 182, 1, 18, 153, 0, 22, 28, 184, 1, 21, 153, 0, 15, 29, 133, 10, 20, 1, 182, 184, 0, 105]
abbrev dktX1_many_0 : List UInt8 := dkwX1_many_0 ++ dktX1_many_1
theorem dksX1_many_0 : cX1_many.data.toList.drop 0 = dktX1_many_0 := by decide +kernel
theorem dksX1_many_1 : cX1_many.data.toList.drop 24 = dktX1_many_1 := dk_seg dksX1_many_0 24 rfl rfl
theorem dksX1_many_2 : cX1_many.data.toList.drop 47 = dktX1_many_2 := dk_seg dksX1_many_1 23 rfl rfl
theorem dksX1_many_3 : cX1_many.data.toList.drop 69 = dktX1_many_3 := dk_seg dksX1_many_2 22 rfl rfl
theorem dksX1_many_4 : cX1_many.data.toList.drop 92 = dktX1_many_4 := dk_seg dksX1_many_3 23 rfl rfl
theorem dX1_many_0 : decode cX1_many 0 = .ok (.aload_n 0, 1) := dk_42 (dk_at dksX1_many_0 0 rfl rfl)
theorem dX1_many_1 : decode cX1_many 1 = .ok (.iload_n 1, 1) := dk_27 (dk_at dksX1_many_0 1 rfl rfl)
theorem dX1_many_2 : decode cX1_many 2 = .ok (.invokevirtual 274, 3) := dk_182 1 18 (dk_at dksX1_many_0 2 rfl rfl)
theorem dX1_many_5 : decode cX1_many 5 = .ok (.ifCond .eq 22, 3) := dk_153 0 22 (dk_at dksX1_many_0 5 rfl rfl)
theorem dX1_many_8 : decode cX1_many 8 = .ok (.iload_n 2, 1) := dk_28 (dk_at dksX1_many_0 8 rfl rfl)
theorem dX1_many_9 : decode cX1_many 9 = .ok (.invokestatic 277, 3) := dk_184 1 21 (dk_at dksX1_many_0 9 rfl rfl)
theorem dX1_many_12 : decode cX1_many 12 = .ok (.ifCond .eq 15, 3) := dk_153 0 15 (dk_at dksX1_many_0 12 rfl rfl)
theorem dX1_many_15 : decode cX1_many 15 = .ok (.iload_n 3, 1) := dk_29 (dk_at dksX1_many_0 15 rfl rfl)
theorem dX1_many_16 : decode cX1_many 16 = .ok (.i2l, 1) := dk_133 (dk_at dksX1_many_0 16 rfl rfl)
theorem dX1_many_17 : decode cX1_many 17 = .ok (.lconst 1, 1) := dk_10 (dk_at dksX1_many_0 17 rfl rfl)
theorem dX1_many_18 : decode cX1_many 18 = .ok (.ldc2_w 438, 3) := dk_20 1 182 (dk_at dksX1_many_0 18 rfl rfl)
theorem dX1_many_21 : decode cX1_many 21 = .ok (.invokestatic 105, 3) := dk_184 0 105 (dk_at dksX1_many_0 21 rfl rfl)
theorem dX1_many_24 : decode cX1_many 24 = .ok (.ifCond .ne 7, 3) := dk_154 0 7 (dk_at dksX1_many_1 0 rfl rfl)
theorem dX1_many_27 : decode cX1_many 27 = .ok (.ldc_w 321, 3) := dk_19 1 65 (dk_at dksX1_many_1 3 rfl rfl)
theorem dX1_many_30 : decode cX1_many 30 = .ok (.ireturn, 1) := dk_172 (dk_at dksX1_many_1 6 rfl rfl)
theorem dX1_many_31 : decode cX1_many 31 = .ok (.aload_n 0, 1) := dk_42 (dk_at dksX1_many_1 7 rfl rfl)
theorem dX1_many_32 : decode cX1_many 32 = .ok (.iload_n 1, 1) := dk_27 (dk_at dksX1_many_1 8 rfl rfl)
theorem dX1_many_33 : decode cX1_many 33 = .ok (.invokevirtual 310, 3) := dk_182 1 54 (dk_at dksX1_many_1 9 rfl rfl)
theorem dX1_many_36 : decode cX1_many 36 = .ok (.iload_n 2, 1) := dk_28 (dk_at dksX1_many_1 12 rfl rfl)
theorem dX1_many_37 : decode cX1_many 37 = .ok (.istore 5, 2) := dk_54 5 (dk_at dksX1_many_1 13 rfl rfl)
theorem dX1_many_39 : decode cX1_many 39 = .ok (.iload 5, 2) := dk_21 5 (dk_at dksX1_many_1 15 rfl rfl)
theorem dX1_many_41 : decode cX1_many 41 = .ok (.sipush 3000, 3) := dk_17 11 184 (dk_at dksX1_many_1 17 rfl rfl)
theorem dX1_many_44 : decode cX1_many 44 = .ok (.if_icmp .gt 54, 3) := dk_163 0 54 (dk_at dksX1_many_1 20 rfl rfl)
theorem dX1_many_47 : decode cX1_many 47 = .ok (.iload 4, 2) := dk_21 4 (dk_at dksX1_many_2 0 rfl rfl)
theorem dX1_many_49 : decode cX1_many 49 = .ok (.ifCond .eq 23, 3) := dk_153 0 23 (dk_at dksX1_many_2 2 rfl rfl)
theorem dX1_many_52 : decode cX1_many 52 = .ok (.aload_n 0, 1) := dk_42 (dk_at dksX1_many_2 5 rfl rfl)
theorem dX1_many_53 : decode cX1_many 53 = .ok (.getfield 42, 3) := dk_180 0 42 (dk_at dksX1_many_2 6 rfl rfl)
theorem dX1_many_56 : decode cX1_many 56 = .ok (.iload 5, 2) := dk_21 5 (dk_at dksX1_many_2 9 rfl rfl)
theorem dX1_many_58 : decode cX1_many 58 = .ok (.sipush 3000, 3) := dk_17 11 184 (dk_at dksX1_many_2 11 rfl rfl)
theorem dX1_many_61 : decode cX1_many 61 = .ok (.iadd, 1) := dk_96 (dk_at dksX1_many_2 14 rfl rfl)
theorem dX1_many_62 : decode cX1_many 62 = .ok (.laload, 1) := dk_47 (dk_at dksX1_many_2 15 rfl rfl)
theorem dX1_many_63 : decode cX1_many 63 = .ok (.iload_n 3, 1) := dk_29 (dk_at dksX1_many_2 16 rfl rfl)
theorem dX1_many_64 : decode cX1_many 64 = .ok (.i2l, 1) := dk_133 (dk_at dksX1_many_2 17 rfl rfl)
theorem dX1_many_65 : decode cX1_many 65 = .ok (.lcmp, 1) := dk_148 (dk_at dksX1_many_2 18 rfl rfl)
theorem dX1_many_66 : decode cX1_many 66 = .ok (.ifCond .ne 26, 3) := dk_154 0 26 (dk_at dksX1_many_2 19 rfl rfl)
theorem dX1_many_69 : decode cX1_many 69 = .ok (.goto 20, 3) := dk_167 0 20 (dk_at dksX1_many_3 0 rfl rfl)
theorem dX1_many_72 : decode cX1_many 72 = .ok (.aload_n 0, 1) := dk_42 (dk_at dksX1_many_3 3 rfl rfl)
theorem dX1_many_73 : decode cX1_many 73 = .ok (.getfield 42, 3) := dk_180 0 42 (dk_at dksX1_many_3 4 rfl rfl)
theorem dX1_many_76 : decode cX1_many 76 = .ok (.iload 5, 2) := dk_21 5 (dk_at dksX1_many_3 7 rfl rfl)
theorem dX1_many_78 : decode cX1_many 78 = .ok (.sipush 3000, 3) := dk_17 11 184 (dk_at dksX1_many_3 9 rfl rfl)
theorem dX1_many_81 : decode cX1_many 81 = .ok (.iadd, 1) := dk_96 (dk_at dksX1_many_3 12 rfl rfl)
theorem dX1_many_82 : decode cX1_many 82 = .ok (.laload, 1) := dk_47 (dk_at dksX1_many_3 13 rfl rfl)
theorem dX1_many_83 : decode cX1_many 83 = .ok (.iload_n 3, 1) := dk_29 (dk_at dksX1_many_3 14 rfl rfl)
theorem dX1_many_84 : decode cX1_many 84 = .ok (.i2l, 1) := dk_133 (dk_at dksX1_many_3 15 rfl rfl)
theorem dX1_many_85 : decode cX1_many 85 = .ok (.lcmp, 1) := dk_148 (dk_at dksX1_many_3 16 rfl rfl)
theorem dX1_many_86 : decode cX1_many 86 = .ok (.ifCond .lt 6, 3) := dk_155 0 6 (dk_at dksX1_many_3 17 rfl rfl)
theorem dX1_many_89 : decode cX1_many 89 = .ok (.iload 5, 2) := dk_21 5 (dk_at dksX1_many_3 20 rfl rfl)
theorem dX1_many_91 : decode cX1_many 91 = .ok (.ireturn, 1) := dk_172 (dk_at dksX1_many_3 22 rfl rfl)
theorem dX1_many_92 : decode cX1_many 92 = .ok (.iinc 5 1, 3) := dk_132 5 1 (dk_at dksX1_many_4 0 rfl rfl)
theorem dX1_many_95 : decode cX1_many 95 = .ok (.goto (-56), 3) := dk_167 255 200 (dk_at dksX1_many_4 3 rfl rfl)
theorem dX1_many_98 : decode cX1_many 98 = .ok (.ldc_w 321, 3) := dk_19 1 65 (dk_at dksX1_many_4 6 rfl rfl)
theorem dX1_many_101 : decode cX1_many 101 = .ok (.ireturn, 1) := dk_172 (dk_at dksX1_many_4 9 rfl rfl)
abbrev cX1_greed : ByteArray := prog_24_method_85_code
def yX1_greed : MethodName := ⟨RX1, "greed", "(III)I"⟩
def dkwX1_greed_8 : List UInt8 := [136, 172]
abbrev dktX1_greed_8 : List UInt8 := dkwX1_greed_8 ++ []
def dkwX1_greed_7 : List UInt8 := [172, 22, 4, 42, 27, 21, 6, 21, 7, 133, 182, 0, 234, 101, 55, 4, 132, 6, 1, 167, 255, 112, 22, 4]
abbrev dktX1_greed_7 : List UInt8 := dkwX1_greed_7 ++ dktX1_greed_8
def dkwX1_greed_6 : List UInt8 := [22, 11, 148, 156, 0, 7, 21, 8, 54, 7, 132, 8, 1, 167, 255, 169, 21, 6, 29, 160, 0, 6, 21, 7]
abbrev dktX1_greed_6 : List UInt8 := dkwX1_greed_6 ++ dktX1_greed_7
def dkwX1_greed_5 : List UInt8 := [157, 0, 30, 22, 9, 22, 11, 148, 158, 0, 26, 167, 0, 19, 22, 11, 22, 4, 148, 158, 0, 15, 22, 9]
abbrev dktX1_greed_5 : List UInt8 := dkwX1_greed_5 ++ dktX1_greed_6
def dkwX1_greed_4 : List UInt8 := [21, 6, 21, 7, 133, 182, 0, 234, 55, 11, 22, 9, 22, 4, 148, 157, 0, 22, 22, 11, 22, 4, 148]
abbrev dktX1_greed_4 : List UInt8 := dkwX1_greed_4 ++ dktX1_greed_5
def dkwX1_greed_3 : List UInt8 := [21, 6, 6, 182, 0, 93, 163, 0, 80, 42, 27, 21, 6, 21, 8, 133, 182, 0, 234, 55, 9, 42, 27]
abbrev dktX1_greed_3 : List UInt8 := dkwX1_greed_3 ++ dktX1_greed_4
def dkwX1_greed_2 : List UInt8 := [46, 162, 0, 139, 42, 27, 21, 6, 5, 182, 0, 93, 54, 7, 21, 7, 4, 96, 54, 8, 21, 8, 42, 27]
abbrev dktX1_greed_2 : List UInt8 := dkwX1_greed_2 ++ dktX1_greed_3
def dkwX1_greed_1 : List UInt8 := [182, 1, 57, 154, 0, 7, 19, 1, 65, 172, 28, 133, 55, 4, 3, 54, 6, 21, 6, 42, 180, 0, 9, 27]
abbrev dktX1_greed_1 : List UInt8 := dkwX1_greed_1 ++ dktX1_greed_2
def dkwX1_greed_0 : List UInt8 := [42, 27, 182, 1, 18, 153, 0, 24, 28, 184, 1, 21, 153, 0, 17, 29, 2, 159, 0, 16, 42, 27, 29]
abbrev dktX1_greed_0 : List UInt8 := dkwX1_greed_0 ++ dktX1_greed_1
theorem dksX1_greed_0 : cX1_greed.data.toList.drop 0 = dktX1_greed_0 := by decide +kernel
theorem dksX1_greed_1 : cX1_greed.data.toList.drop 23 = dktX1_greed_1 := dk_seg dksX1_greed_0 23 rfl rfl
theorem dksX1_greed_2 : cX1_greed.data.toList.drop 47 = dktX1_greed_2 := dk_seg dksX1_greed_1 24 rfl rfl
theorem dksX1_greed_3 : cX1_greed.data.toList.drop 71 = dktX1_greed_3 := dk_seg dksX1_greed_2 24 rfl rfl
theorem dksX1_greed_4 : cX1_greed.data.toList.drop 94 = dktX1_greed_4 := dk_seg dksX1_greed_3 23 rfl rfl
theorem dksX1_greed_5 : cX1_greed.data.toList.drop 117 = dktX1_greed_5 := dk_seg dksX1_greed_4 23 rfl rfl
theorem dksX1_greed_6 : cX1_greed.data.toList.drop 141 = dktX1_greed_6 := dk_seg dksX1_greed_5 24 rfl rfl
theorem dksX1_greed_7 : cX1_greed.data.toList.drop 165 = dktX1_greed_7 := dk_seg dksX1_greed_6 24 rfl rfl
theorem dksX1_greed_8 : cX1_greed.data.toList.drop 189 = dktX1_greed_8 := dk_seg dksX1_greed_7 24 rfl rfl
theorem dX1_greed_0 : decode cX1_greed 0 = .ok (.aload_n 0, 1) := dk_42 (dk_at dksX1_greed_0 0 rfl rfl)
theorem dX1_greed_1 : decode cX1_greed 1 = .ok (.iload_n 1, 1) := dk_27 (dk_at dksX1_greed_0 1 rfl rfl)
theorem dX1_greed_2 : decode cX1_greed 2 = .ok (.invokevirtual 274, 3) := dk_182 1 18 (dk_at dksX1_greed_0 2 rfl rfl)
theorem dX1_greed_5 : decode cX1_greed 5 = .ok (.ifCond .eq 24, 3) := dk_153 0 24 (dk_at dksX1_greed_0 5 rfl rfl)
theorem dX1_greed_8 : decode cX1_greed 8 = .ok (.iload_n 2, 1) := dk_28 (dk_at dksX1_greed_0 8 rfl rfl)
theorem dX1_greed_9 : decode cX1_greed 9 = .ok (.invokestatic 277, 3) := dk_184 1 21 (dk_at dksX1_greed_0 9 rfl rfl)
theorem dX1_greed_12 : decode cX1_greed 12 = .ok (.ifCond .eq 17, 3) := dk_153 0 17 (dk_at dksX1_greed_0 12 rfl rfl)
theorem dX1_greed_15 : decode cX1_greed 15 = .ok (.iload_n 3, 1) := dk_29 (dk_at dksX1_greed_0 15 rfl rfl)
theorem dX1_greed_16 : decode cX1_greed 16 = .ok (.iconst (-1), 1) := dk_2 (dk_at dksX1_greed_0 16 rfl rfl)
theorem dX1_greed_17 : decode cX1_greed 17 = .ok (.if_icmp .eq 16, 3) := dk_159 0 16 (dk_at dksX1_greed_0 17 rfl rfl)
theorem dX1_greed_20 : decode cX1_greed 20 = .ok (.aload_n 0, 1) := dk_42 (dk_at dksX1_greed_0 20 rfl rfl)
theorem dX1_greed_21 : decode cX1_greed 21 = .ok (.iload_n 1, 1) := dk_27 (dk_at dksX1_greed_0 21 rfl rfl)
theorem dX1_greed_22 : decode cX1_greed 22 = .ok (.iload_n 3, 1) := dk_29 (dk_at dksX1_greed_0 22 rfl rfl)
theorem dX1_greed_23 : decode cX1_greed 23 = .ok (.invokevirtual 313, 3) := dk_182 1 57 (dk_at dksX1_greed_1 0 rfl rfl)
theorem dX1_greed_26 : decode cX1_greed 26 = .ok (.ifCond .ne 7, 3) := dk_154 0 7 (dk_at dksX1_greed_1 3 rfl rfl)
theorem dX1_greed_29 : decode cX1_greed 29 = .ok (.ldc_w 321, 3) := dk_19 1 65 (dk_at dksX1_greed_1 6 rfl rfl)
theorem dX1_greed_32 : decode cX1_greed 32 = .ok (.ireturn, 1) := dk_172 (dk_at dksX1_greed_1 9 rfl rfl)
theorem dX1_greed_33 : decode cX1_greed 33 = .ok (.iload_n 2, 1) := dk_28 (dk_at dksX1_greed_1 10 rfl rfl)
theorem dX1_greed_34 : decode cX1_greed 34 = .ok (.i2l, 1) := dk_133 (dk_at dksX1_greed_1 11 rfl rfl)
theorem dX1_greed_35 : decode cX1_greed 35 = .ok (.lstore 4, 2) := dk_55 4 (dk_at dksX1_greed_1 12 rfl rfl)
theorem dX1_greed_37 : decode cX1_greed 37 = .ok (.iconst 0, 1) := dk_3 (dk_at dksX1_greed_1 14 rfl rfl)
theorem dX1_greed_38 : decode cX1_greed 38 = .ok (.istore 6, 2) := dk_54 6 (dk_at dksX1_greed_1 15 rfl rfl)
theorem dX1_greed_40 : decode cX1_greed 40 = .ok (.iload 6, 2) := dk_21 6 (dk_at dksX1_greed_1 17 rfl rfl)
theorem dX1_greed_42 : decode cX1_greed 42 = .ok (.aload_n 0, 1) := dk_42 (dk_at dksX1_greed_1 19 rfl rfl)
theorem dX1_greed_43 : decode cX1_greed 43 = .ok (.getfield 9, 3) := dk_180 0 9 (dk_at dksX1_greed_1 20 rfl rfl)
theorem dX1_greed_46 : decode cX1_greed 46 = .ok (.iload_n 1, 1) := dk_27 (dk_at dksX1_greed_1 23 rfl rfl)
theorem dX1_greed_47 : decode cX1_greed 47 = .ok (.iaload, 1) := dk_46 (dk_at dksX1_greed_2 0 rfl rfl)
theorem dX1_greed_48 : decode cX1_greed 48 = .ok (.if_icmp .ge 139, 3) := dk_162 0 139 (dk_at dksX1_greed_2 1 rfl rfl)
theorem dX1_greed_51 : decode cX1_greed 51 = .ok (.aload_n 0, 1) := dk_42 (dk_at dksX1_greed_2 4 rfl rfl)
theorem dX1_greed_52 : decode cX1_greed 52 = .ok (.iload_n 1, 1) := dk_27 (dk_at dksX1_greed_2 5 rfl rfl)
theorem dX1_greed_53 : decode cX1_greed 53 = .ok (.iload 6, 2) := dk_21 6 (dk_at dksX1_greed_2 6 rfl rfl)
theorem dX1_greed_55 : decode cX1_greed 55 = .ok (.iconst 2, 1) := dk_5 (dk_at dksX1_greed_2 8 rfl rfl)
theorem dX1_greed_56 : decode cX1_greed 56 = .ok (.invokevirtual 93, 3) := dk_182 0 93 (dk_at dksX1_greed_2 9 rfl rfl)
theorem dX1_greed_59 : decode cX1_greed 59 = .ok (.istore 7, 2) := dk_54 7 (dk_at dksX1_greed_2 12 rfl rfl)
theorem dX1_greed_61 : decode cX1_greed 61 = .ok (.iload 7, 2) := dk_21 7 (dk_at dksX1_greed_2 14 rfl rfl)
theorem dX1_greed_63 : decode cX1_greed 63 = .ok (.iconst 1, 1) := dk_4 (dk_at dksX1_greed_2 16 rfl rfl)
theorem dX1_greed_64 : decode cX1_greed 64 = .ok (.iadd, 1) := dk_96 (dk_at dksX1_greed_2 17 rfl rfl)
theorem dX1_greed_65 : decode cX1_greed 65 = .ok (.istore 8, 2) := dk_54 8 (dk_at dksX1_greed_2 18 rfl rfl)
theorem dX1_greed_67 : decode cX1_greed 67 = .ok (.iload 8, 2) := dk_21 8 (dk_at dksX1_greed_2 20 rfl rfl)
theorem dX1_greed_69 : decode cX1_greed 69 = .ok (.aload_n 0, 1) := dk_42 (dk_at dksX1_greed_2 22 rfl rfl)
theorem dX1_greed_70 : decode cX1_greed 70 = .ok (.iload_n 1, 1) := dk_27 (dk_at dksX1_greed_2 23 rfl rfl)
theorem dX1_greed_71 : decode cX1_greed 71 = .ok (.iload 6, 2) := dk_21 6 (dk_at dksX1_greed_3 0 rfl rfl)
theorem dX1_greed_73 : decode cX1_greed 73 = .ok (.iconst 3, 1) := dk_6 (dk_at dksX1_greed_3 2 rfl rfl)
theorem dX1_greed_74 : decode cX1_greed 74 = .ok (.invokevirtual 93, 3) := dk_182 0 93 (dk_at dksX1_greed_3 3 rfl rfl)
theorem dX1_greed_77 : decode cX1_greed 77 = .ok (.if_icmp .gt 80, 3) := dk_163 0 80 (dk_at dksX1_greed_3 6 rfl rfl)
theorem dX1_greed_80 : decode cX1_greed 80 = .ok (.aload_n 0, 1) := dk_42 (dk_at dksX1_greed_3 9 rfl rfl)
theorem dX1_greed_81 : decode cX1_greed 81 = .ok (.iload_n 1, 1) := dk_27 (dk_at dksX1_greed_3 10 rfl rfl)
theorem dX1_greed_82 : decode cX1_greed 82 = .ok (.iload 6, 2) := dk_21 6 (dk_at dksX1_greed_3 11 rfl rfl)
theorem dX1_greed_84 : decode cX1_greed 84 = .ok (.iload 8, 2) := dk_21 8 (dk_at dksX1_greed_3 13 rfl rfl)
theorem dX1_greed_86 : decode cX1_greed 86 = .ok (.i2l, 1) := dk_133 (dk_at dksX1_greed_3 15 rfl rfl)
theorem dX1_greed_87 : decode cX1_greed 87 = .ok (.invokevirtual 234, 3) := dk_182 0 234 (dk_at dksX1_greed_3 16 rfl rfl)
theorem dX1_greed_90 : decode cX1_greed 90 = .ok (.lstore 9, 2) := dk_55 9 (dk_at dksX1_greed_3 19 rfl rfl)
theorem dX1_greed_92 : decode cX1_greed 92 = .ok (.aload_n 0, 1) := dk_42 (dk_at dksX1_greed_3 21 rfl rfl)
theorem dX1_greed_93 : decode cX1_greed 93 = .ok (.iload_n 1, 1) := dk_27 (dk_at dksX1_greed_3 22 rfl rfl)
theorem dX1_greed_94 : decode cX1_greed 94 = .ok (.iload 6, 2) := dk_21 6 (dk_at dksX1_greed_4 0 rfl rfl)
theorem dX1_greed_96 : decode cX1_greed 96 = .ok (.iload 7, 2) := dk_21 7 (dk_at dksX1_greed_4 2 rfl rfl)
theorem dX1_greed_98 : decode cX1_greed 98 = .ok (.i2l, 1) := dk_133 (dk_at dksX1_greed_4 4 rfl rfl)
theorem dX1_greed_99 : decode cX1_greed 99 = .ok (.invokevirtual 234, 3) := dk_182 0 234 (dk_at dksX1_greed_4 5 rfl rfl)
theorem dX1_greed_102 : decode cX1_greed 102 = .ok (.lstore 11, 2) := dk_55 11 (dk_at dksX1_greed_4 8 rfl rfl)
theorem dX1_greed_104 : decode cX1_greed 104 = .ok (.lload 9, 2) := dk_22 9 (dk_at dksX1_greed_4 10 rfl rfl)
theorem dX1_greed_106 : decode cX1_greed 106 = .ok (.lload 4, 2) := dk_22 4 (dk_at dksX1_greed_4 12 rfl rfl)
theorem dX1_greed_108 : decode cX1_greed 108 = .ok (.lcmp, 1) := dk_148 (dk_at dksX1_greed_4 14 rfl rfl)
theorem dX1_greed_109 : decode cX1_greed 109 = .ok (.ifCond .gt 22, 3) := dk_157 0 22 (dk_at dksX1_greed_4 15 rfl rfl)
theorem dX1_greed_112 : decode cX1_greed 112 = .ok (.lload 11, 2) := dk_22 11 (dk_at dksX1_greed_4 18 rfl rfl)
theorem dX1_greed_114 : decode cX1_greed 114 = .ok (.lload 4, 2) := dk_22 4 (dk_at dksX1_greed_4 20 rfl rfl)
theorem dX1_greed_116 : decode cX1_greed 116 = .ok (.lcmp, 1) := dk_148 (dk_at dksX1_greed_4 22 rfl rfl)
theorem dX1_greed_117 : decode cX1_greed 117 = .ok (.ifCond .gt 30, 3) := dk_157 0 30 (dk_at dksX1_greed_5 0 rfl rfl)
theorem dX1_greed_120 : decode cX1_greed 120 = .ok (.lload 9, 2) := dk_22 9 (dk_at dksX1_greed_5 3 rfl rfl)
theorem dX1_greed_122 : decode cX1_greed 122 = .ok (.lload 11, 2) := dk_22 11 (dk_at dksX1_greed_5 5 rfl rfl)
theorem dX1_greed_124 : decode cX1_greed 124 = .ok (.lcmp, 1) := dk_148 (dk_at dksX1_greed_5 7 rfl rfl)
theorem dX1_greed_125 : decode cX1_greed 125 = .ok (.ifCond .le 26, 3) := dk_158 0 26 (dk_at dksX1_greed_5 8 rfl rfl)
theorem dX1_greed_128 : decode cX1_greed 128 = .ok (.goto 19, 3) := dk_167 0 19 (dk_at dksX1_greed_5 11 rfl rfl)
theorem dX1_greed_131 : decode cX1_greed 131 = .ok (.lload 11, 2) := dk_22 11 (dk_at dksX1_greed_5 14 rfl rfl)
theorem dX1_greed_133 : decode cX1_greed 133 = .ok (.lload 4, 2) := dk_22 4 (dk_at dksX1_greed_5 16 rfl rfl)
theorem dX1_greed_135 : decode cX1_greed 135 = .ok (.lcmp, 1) := dk_148 (dk_at dksX1_greed_5 18 rfl rfl)
theorem dX1_greed_136 : decode cX1_greed 136 = .ok (.ifCond .le 15, 3) := dk_158 0 15 (dk_at dksX1_greed_5 19 rfl rfl)
theorem dX1_greed_139 : decode cX1_greed 139 = .ok (.lload 9, 2) := dk_22 9 (dk_at dksX1_greed_5 22 rfl rfl)
theorem dX1_greed_141 : decode cX1_greed 141 = .ok (.lload 11, 2) := dk_22 11 (dk_at dksX1_greed_6 0 rfl rfl)
theorem dX1_greed_143 : decode cX1_greed 143 = .ok (.lcmp, 1) := dk_148 (dk_at dksX1_greed_6 2 rfl rfl)
theorem dX1_greed_144 : decode cX1_greed 144 = .ok (.ifCond .ge 7, 3) := dk_156 0 7 (dk_at dksX1_greed_6 3 rfl rfl)
theorem dX1_greed_147 : decode cX1_greed 147 = .ok (.iload 8, 2) := dk_21 8 (dk_at dksX1_greed_6 6 rfl rfl)
theorem dX1_greed_149 : decode cX1_greed 149 = .ok (.istore 7, 2) := dk_54 7 (dk_at dksX1_greed_6 8 rfl rfl)
theorem dX1_greed_151 : decode cX1_greed 151 = .ok (.iinc 8 1, 3) := dk_132 8 1 (dk_at dksX1_greed_6 10 rfl rfl)
theorem dX1_greed_154 : decode cX1_greed 154 = .ok (.goto (-87), 3) := dk_167 255 169 (dk_at dksX1_greed_6 13 rfl rfl)
theorem dX1_greed_157 : decode cX1_greed 157 = .ok (.iload 6, 2) := dk_21 6 (dk_at dksX1_greed_6 16 rfl rfl)
theorem dX1_greed_159 : decode cX1_greed 159 = .ok (.iload_n 3, 1) := dk_29 (dk_at dksX1_greed_6 18 rfl rfl)
theorem dX1_greed_160 : decode cX1_greed 160 = .ok (.if_icmp .ne 6, 3) := dk_160 0 6 (dk_at dksX1_greed_6 19 rfl rfl)
theorem dX1_greed_163 : decode cX1_greed 163 = .ok (.iload 7, 2) := dk_21 7 (dk_at dksX1_greed_6 22 rfl rfl)
theorem dX1_greed_165 : decode cX1_greed 165 = .ok (.ireturn, 1) := dk_172 (dk_at dksX1_greed_7 0 rfl rfl)
theorem dX1_greed_166 : decode cX1_greed 166 = .ok (.lload 4, 2) := dk_22 4 (dk_at dksX1_greed_7 1 rfl rfl)
theorem dX1_greed_168 : decode cX1_greed 168 = .ok (.aload_n 0, 1) := dk_42 (dk_at dksX1_greed_7 3 rfl rfl)
theorem dX1_greed_169 : decode cX1_greed 169 = .ok (.iload_n 1, 1) := dk_27 (dk_at dksX1_greed_7 4 rfl rfl)
theorem dX1_greed_170 : decode cX1_greed 170 = .ok (.iload 6, 2) := dk_21 6 (dk_at dksX1_greed_7 5 rfl rfl)
theorem dX1_greed_172 : decode cX1_greed 172 = .ok (.iload 7, 2) := dk_21 7 (dk_at dksX1_greed_7 7 rfl rfl)
theorem dX1_greed_174 : decode cX1_greed 174 = .ok (.i2l, 1) := dk_133 (dk_at dksX1_greed_7 9 rfl rfl)
theorem dX1_greed_175 : decode cX1_greed 175 = .ok (.invokevirtual 234, 3) := dk_182 0 234 (dk_at dksX1_greed_7 10 rfl rfl)
theorem dX1_greed_178 : decode cX1_greed 178 = .ok (.lsub, 1) := dk_101 (dk_at dksX1_greed_7 13 rfl rfl)
theorem dX1_greed_179 : decode cX1_greed 179 = .ok (.lstore 4, 2) := dk_55 4 (dk_at dksX1_greed_7 14 rfl rfl)
theorem dX1_greed_181 : decode cX1_greed 181 = .ok (.iinc 6 1, 3) := dk_132 6 1 (dk_at dksX1_greed_7 16 rfl rfl)
theorem dX1_greed_184 : decode cX1_greed 184 = .ok (.goto (-144), 3) := dk_167 255 112 (dk_at dksX1_greed_7 19 rfl rfl)
theorem dX1_greed_187 : decode cX1_greed 187 = .ok (.lload 4, 2) := dk_22 4 (dk_at dksX1_greed_7 22 rfl rfl)
theorem dX1_greed_189 : decode cX1_greed 189 = .ok (.l2i, 1) := dk_136 (dk_at dksX1_greed_8 0 rfl rfl)
theorem dX1_greed_190 : decode cX1_greed 190 = .ok (.ireturn, 1) := dk_172 (dk_at dksX1_greed_8 1 rfl rfl)
abbrev cX1_nearest : ByteArray := prog_24_method_86_code
def yX1_nearest : MethodName := ⟨RX1, "nearest", "(II)I"⟩
def dkwX1_nearest_3 : List UInt8 := [100, 17, 58, 152, 96, 133, 182, 1, 6, 9, 148, 158, 0, 9, 28, 29, 100, 167, 0, 6, 28, 29, 96, 172]
abbrev dktX1_nearest_3 : List UInt8 := dkwX1_nearest_3 ++ []
def dkwX1_nearest_2 : List UInt8 := [96, 17, 58, 152, 96, 133, 182, 1, 6, 9, 148, 154, 0, 9, 132, 3, 1, 167, 255, 217, 42, 3, 28, 29]
abbrev dktX1_nearest_2 : List UInt8 := dkwX1_nearest_2 ++ dktX1_nearest_3
def dkwX1_nearest_1 : List UInt8 := [3, 62, 42, 3, 28, 29, 100, 17, 58, 152, 96, 133, 182, 1, 6, 9, 148, 154, 0, 27, 42, 3, 28, 29]
abbrev dktX1_nearest_1 : List UInt8 := dkwX1_nearest_1 ++ dktX1_nearest_2
def dkwX1_nearest_0 : List UInt8 := [42, 27, 182, 1, 18, 153, 0, 10, 28, 184, 1, 21, 154, 0, 7, 19, 1, 65, 172, 42, 27, 182, 1, 26]
abbrev dktX1_nearest_0 : List UInt8 := dkwX1_nearest_0 ++ dktX1_nearest_1
theorem dksX1_nearest_0 : cX1_nearest.data.toList.drop 0 = dktX1_nearest_0 := by decide +kernel
theorem dksX1_nearest_1 : cX1_nearest.data.toList.drop 24 = dktX1_nearest_1 := dk_seg dksX1_nearest_0 24 rfl rfl
theorem dksX1_nearest_2 : cX1_nearest.data.toList.drop 48 = dktX1_nearest_2 := dk_seg dksX1_nearest_1 24 rfl rfl
theorem dksX1_nearest_3 : cX1_nearest.data.toList.drop 72 = dktX1_nearest_3 := dk_seg dksX1_nearest_2 24 rfl rfl
theorem dX1_nearest_0 : decode cX1_nearest 0 = .ok (.aload_n 0, 1) := dk_42 (dk_at dksX1_nearest_0 0 rfl rfl)
theorem dX1_nearest_1 : decode cX1_nearest 1 = .ok (.iload_n 1, 1) := dk_27 (dk_at dksX1_nearest_0 1 rfl rfl)
theorem dX1_nearest_2 : decode cX1_nearest 2 = .ok (.invokevirtual 274, 3) := dk_182 1 18 (dk_at dksX1_nearest_0 2 rfl rfl)
theorem dX1_nearest_5 : decode cX1_nearest 5 = .ok (.ifCond .eq 10, 3) := dk_153 0 10 (dk_at dksX1_nearest_0 5 rfl rfl)
theorem dX1_nearest_8 : decode cX1_nearest 8 = .ok (.iload_n 2, 1) := dk_28 (dk_at dksX1_nearest_0 8 rfl rfl)
theorem dX1_nearest_9 : decode cX1_nearest 9 = .ok (.invokestatic 277, 3) := dk_184 1 21 (dk_at dksX1_nearest_0 9 rfl rfl)
theorem dX1_nearest_12 : decode cX1_nearest 12 = .ok (.ifCond .ne 7, 3) := dk_154 0 7 (dk_at dksX1_nearest_0 12 rfl rfl)
theorem dX1_nearest_15 : decode cX1_nearest 15 = .ok (.ldc_w 321, 3) := dk_19 1 65 (dk_at dksX1_nearest_0 15 rfl rfl)
theorem dX1_nearest_18 : decode cX1_nearest 18 = .ok (.ireturn, 1) := dk_172 (dk_at dksX1_nearest_0 18 rfl rfl)
theorem dX1_nearest_19 : decode cX1_nearest 19 = .ok (.aload_n 0, 1) := dk_42 (dk_at dksX1_nearest_0 19 rfl rfl)
theorem dX1_nearest_20 : decode cX1_nearest 20 = .ok (.iload_n 1, 1) := dk_27 (dk_at dksX1_nearest_0 20 rfl rfl)
theorem dX1_nearest_21 : decode cX1_nearest 21 = .ok (.invokevirtual 282, 3) := dk_182 1 26 (dk_at dksX1_nearest_0 21 rfl rfl)
theorem dX1_nearest_24 : decode cX1_nearest 24 = .ok (.iconst 0, 1) := dk_3 (dk_at dksX1_nearest_1 0 rfl rfl)
theorem dX1_nearest_25 : decode cX1_nearest 25 = .ok (.istore_n 3, 1) := dk_62 (dk_at dksX1_nearest_1 1 rfl rfl)
theorem dX1_nearest_26 : decode cX1_nearest 26 = .ok (.aload_n 0, 1) := dk_42 (dk_at dksX1_nearest_1 2 rfl rfl)
theorem dX1_nearest_27 : decode cX1_nearest 27 = .ok (.iconst 0, 1) := dk_3 (dk_at dksX1_nearest_1 3 rfl rfl)
theorem dX1_nearest_28 : decode cX1_nearest 28 = .ok (.iload_n 2, 1) := dk_28 (dk_at dksX1_nearest_1 4 rfl rfl)
theorem dX1_nearest_29 : decode cX1_nearest 29 = .ok (.iload_n 3, 1) := dk_29 (dk_at dksX1_nearest_1 5 rfl rfl)
theorem dX1_nearest_30 : decode cX1_nearest 30 = .ok (.isub, 1) := dk_100 (dk_at dksX1_nearest_1 6 rfl rfl)
theorem dX1_nearest_31 : decode cX1_nearest 31 = .ok (.sipush 15000, 3) := dk_17 58 152 (dk_at dksX1_nearest_1 7 rfl rfl)
theorem dX1_nearest_34 : decode cX1_nearest 34 = .ok (.iadd, 1) := dk_96 (dk_at dksX1_nearest_1 10 rfl rfl)
theorem dX1_nearest_35 : decode cX1_nearest 35 = .ok (.i2l, 1) := dk_133 (dk_at dksX1_nearest_1 11 rfl rfl)
theorem dX1_nearest_36 : decode cX1_nearest 36 = .ok (.invokevirtual 262, 3) := dk_182 1 6 (dk_at dksX1_nearest_1 12 rfl rfl)
theorem dX1_nearest_39 : decode cX1_nearest 39 = .ok (.lconst 0, 1) := dk_9 (dk_at dksX1_nearest_1 15 rfl rfl)
theorem dX1_nearest_40 : decode cX1_nearest 40 = .ok (.lcmp, 1) := dk_148 (dk_at dksX1_nearest_1 16 rfl rfl)
theorem dX1_nearest_41 : decode cX1_nearest 41 = .ok (.ifCond .ne 27, 3) := dk_154 0 27 (dk_at dksX1_nearest_1 17 rfl rfl)
theorem dX1_nearest_44 : decode cX1_nearest 44 = .ok (.aload_n 0, 1) := dk_42 (dk_at dksX1_nearest_1 20 rfl rfl)
theorem dX1_nearest_45 : decode cX1_nearest 45 = .ok (.iconst 0, 1) := dk_3 (dk_at dksX1_nearest_1 21 rfl rfl)
theorem dX1_nearest_46 : decode cX1_nearest 46 = .ok (.iload_n 2, 1) := dk_28 (dk_at dksX1_nearest_1 22 rfl rfl)
theorem dX1_nearest_47 : decode cX1_nearest 47 = .ok (.iload_n 3, 1) := dk_29 (dk_at dksX1_nearest_1 23 rfl rfl)
theorem dX1_nearest_48 : decode cX1_nearest 48 = .ok (.iadd, 1) := dk_96 (dk_at dksX1_nearest_2 0 rfl rfl)
theorem dX1_nearest_49 : decode cX1_nearest 49 = .ok (.sipush 15000, 3) := dk_17 58 152 (dk_at dksX1_nearest_2 1 rfl rfl)
theorem dX1_nearest_52 : decode cX1_nearest 52 = .ok (.iadd, 1) := dk_96 (dk_at dksX1_nearest_2 4 rfl rfl)
theorem dX1_nearest_53 : decode cX1_nearest 53 = .ok (.i2l, 1) := dk_133 (dk_at dksX1_nearest_2 5 rfl rfl)
theorem dX1_nearest_54 : decode cX1_nearest 54 = .ok (.invokevirtual 262, 3) := dk_182 1 6 (dk_at dksX1_nearest_2 6 rfl rfl)
theorem dX1_nearest_57 : decode cX1_nearest 57 = .ok (.lconst 0, 1) := dk_9 (dk_at dksX1_nearest_2 9 rfl rfl)
theorem dX1_nearest_58 : decode cX1_nearest 58 = .ok (.lcmp, 1) := dk_148 (dk_at dksX1_nearest_2 10 rfl rfl)
theorem dX1_nearest_59 : decode cX1_nearest 59 = .ok (.ifCond .ne 9, 3) := dk_154 0 9 (dk_at dksX1_nearest_2 11 rfl rfl)
theorem dX1_nearest_62 : decode cX1_nearest 62 = .ok (.iinc 3 1, 3) := dk_132 3 1 (dk_at dksX1_nearest_2 14 rfl rfl)
theorem dX1_nearest_65 : decode cX1_nearest 65 = .ok (.goto (-39), 3) := dk_167 255 217 (dk_at dksX1_nearest_2 17 rfl rfl)
theorem dX1_nearest_68 : decode cX1_nearest 68 = .ok (.aload_n 0, 1) := dk_42 (dk_at dksX1_nearest_2 20 rfl rfl)
theorem dX1_nearest_69 : decode cX1_nearest 69 = .ok (.iconst 0, 1) := dk_3 (dk_at dksX1_nearest_2 21 rfl rfl)
theorem dX1_nearest_70 : decode cX1_nearest 70 = .ok (.iload_n 2, 1) := dk_28 (dk_at dksX1_nearest_2 22 rfl rfl)
theorem dX1_nearest_71 : decode cX1_nearest 71 = .ok (.iload_n 3, 1) := dk_29 (dk_at dksX1_nearest_2 23 rfl rfl)
theorem dX1_nearest_72 : decode cX1_nearest 72 = .ok (.isub, 1) := dk_100 (dk_at dksX1_nearest_3 0 rfl rfl)
theorem dX1_nearest_73 : decode cX1_nearest 73 = .ok (.sipush 15000, 3) := dk_17 58 152 (dk_at dksX1_nearest_3 1 rfl rfl)
theorem dX1_nearest_76 : decode cX1_nearest 76 = .ok (.iadd, 1) := dk_96 (dk_at dksX1_nearest_3 4 rfl rfl)
theorem dX1_nearest_77 : decode cX1_nearest 77 = .ok (.i2l, 1) := dk_133 (dk_at dksX1_nearest_3 5 rfl rfl)
theorem dX1_nearest_78 : decode cX1_nearest 78 = .ok (.invokevirtual 262, 3) := dk_182 1 6 (dk_at dksX1_nearest_3 6 rfl rfl)
theorem dX1_nearest_81 : decode cX1_nearest 81 = .ok (.lconst 0, 1) := dk_9 (dk_at dksX1_nearest_3 9 rfl rfl)
theorem dX1_nearest_82 : decode cX1_nearest 82 = .ok (.lcmp, 1) := dk_148 (dk_at dksX1_nearest_3 10 rfl rfl)
theorem dX1_nearest_83 : decode cX1_nearest 83 = .ok (.ifCond .le 9, 3) := dk_158 0 9 (dk_at dksX1_nearest_3 11 rfl rfl)
theorem dX1_nearest_86 : decode cX1_nearest 86 = .ok (.iload_n 2, 1) := dk_28 (dk_at dksX1_nearest_3 14 rfl rfl)
theorem dX1_nearest_87 : decode cX1_nearest 87 = .ok (.iload_n 3, 1) := dk_29 (dk_at dksX1_nearest_3 15 rfl rfl)
theorem dX1_nearest_88 : decode cX1_nearest 88 = .ok (.isub, 1) := dk_100 (dk_at dksX1_nearest_3 16 rfl rfl)
theorem dX1_nearest_89 : decode cX1_nearest 89 = .ok (.goto 6, 3) := dk_167 0 6 (dk_at dksX1_nearest_3 17 rfl rfl)
theorem dX1_nearest_92 : decode cX1_nearest 92 = .ok (.iload_n 2, 1) := dk_28 (dk_at dksX1_nearest_3 20 rfl rfl)
theorem dX1_nearest_93 : decode cX1_nearest 93 = .ok (.iload_n 3, 1) := dk_29 (dk_at dksX1_nearest_3 21 rfl rfl)
theorem dX1_nearest_94 : decode cX1_nearest 94 = .ok (.iadd, 1) := dk_96 (dk_at dksX1_nearest_3 22 rfl rfl)
theorem dX1_nearest_95 : decode cX1_nearest 95 = .ok (.ireturn, 1) := dk_172 (dk_at dksX1_nearest_3 23 rfl rfl)
abbrev cX1_enough : ByteArray := prog_24_method_87_code
def yX1_enough : MethodName := ⟨RX1, "enough", "(II)I"⟩
def dkwX1_enough_5 : List UInt8 := [4, 96, 172, 132, 3, 1, 167, 255, 160, 2, 172]
abbrev dktX1_enough_5 : List UInt8 := dkwX1_enough_5 ++ []
def dkwX1_enough_4 : List UInt8 := [182, 0, 93, 42, 27, 29, 6, 182, 0, 93, 182, 1, 14, 42, 28, 182, 1, 29, 9, 148, 158, 0, 7, 29]
abbrev dktX1_enough_4 : List UInt8 := dkwX1_enough_4 ++ dktX1_enough_5
def dkwX1_enough_3 : List UInt8 := [167, 255, 227, 42, 3, 4, 42, 27, 29, 3, 182, 0, 93, 42, 27, 29, 4, 182, 0, 93, 42, 27, 29, 5]
abbrev dktX1_enough_3 : List UInt8 := dkwX1_enough_3 ++ dktX1_enough_4
def dkwX1_enough_2 : List UInt8 := [162, 0, 27, 42, 180, 0, 35, 17, 117, 49, 21, 4, 96, 42, 180, 0, 35, 21, 4, 47, 80, 132, 4, 1]
abbrev dktX1_enough_2 : List UInt8 := dkwX1_enough_2 ++ dktX1_enough_3
def dkwX1_enough_1 : List UInt8 := [182, 1, 11, 3, 62, 29, 42, 180, 0, 9, 27, 46, 162, 0, 92, 3, 54, 4, 21, 4, 17, 117, 49]
abbrev dktX1_enough_1 : List UInt8 := dkwX1_enough_1 ++ dktX1_enough_2
def dkwX1_enough_0 : List UInt8 := [42, 27, 182, 1, 18, 153, 0, 10, 28, 184, 1, 21, 154, 0, 5, 2, 172, 42, 2, 181, 0, 31, 42, 3]
abbrev dktX1_enough_0 : List UInt8 := dkwX1_enough_0 ++ dktX1_enough_1
theorem dksX1_enough_0 : cX1_enough.data.toList.drop 0 = dktX1_enough_0 := by decide +kernel
theorem dksX1_enough_1 : cX1_enough.data.toList.drop 24 = dktX1_enough_1 := dk_seg dksX1_enough_0 24 rfl rfl
theorem dksX1_enough_2 : cX1_enough.data.toList.drop 47 = dktX1_enough_2 := dk_seg dksX1_enough_1 23 rfl rfl
theorem dksX1_enough_3 : cX1_enough.data.toList.drop 71 = dktX1_enough_3 := dk_seg dksX1_enough_2 24 rfl rfl
theorem dksX1_enough_4 : cX1_enough.data.toList.drop 95 = dktX1_enough_4 := dk_seg dksX1_enough_3 24 rfl rfl
theorem dksX1_enough_5 : cX1_enough.data.toList.drop 119 = dktX1_enough_5 := dk_seg dksX1_enough_4 24 rfl rfl
theorem dX1_enough_0 : decode cX1_enough 0 = .ok (.aload_n 0, 1) := dk_42 (dk_at dksX1_enough_0 0 rfl rfl)
theorem dX1_enough_1 : decode cX1_enough 1 = .ok (.iload_n 1, 1) := dk_27 (dk_at dksX1_enough_0 1 rfl rfl)
theorem dX1_enough_2 : decode cX1_enough 2 = .ok (.invokevirtual 274, 3) := dk_182 1 18 (dk_at dksX1_enough_0 2 rfl rfl)
theorem dX1_enough_5 : decode cX1_enough 5 = .ok (.ifCond .eq 10, 3) := dk_153 0 10 (dk_at dksX1_enough_0 5 rfl rfl)
theorem dX1_enough_8 : decode cX1_enough 8 = .ok (.iload_n 2, 1) := dk_28 (dk_at dksX1_enough_0 8 rfl rfl)
theorem dX1_enough_9 : decode cX1_enough 9 = .ok (.invokestatic 277, 3) := dk_184 1 21 (dk_at dksX1_enough_0 9 rfl rfl)
theorem dX1_enough_12 : decode cX1_enough 12 = .ok (.ifCond .ne 5, 3) := dk_154 0 5 (dk_at dksX1_enough_0 12 rfl rfl)
theorem dX1_enough_15 : decode cX1_enough 15 = .ok (.iconst (-1), 1) := dk_2 (dk_at dksX1_enough_0 15 rfl rfl)
theorem dX1_enough_16 : decode cX1_enough 16 = .ok (.ireturn, 1) := dk_172 (dk_at dksX1_enough_0 16 rfl rfl)
theorem dX1_enough_17 : decode cX1_enough 17 = .ok (.aload_n 0, 1) := dk_42 (dk_at dksX1_enough_0 17 rfl rfl)
theorem dX1_enough_18 : decode cX1_enough 18 = .ok (.iconst (-1), 1) := dk_2 (dk_at dksX1_enough_0 18 rfl rfl)
theorem dX1_enough_19 : decode cX1_enough 19 = .ok (.putfield 31, 3) := dk_181 0 31 (dk_at dksX1_enough_0 19 rfl rfl)
theorem dX1_enough_22 : decode cX1_enough 22 = .ok (.aload_n 0, 1) := dk_42 (dk_at dksX1_enough_0 22 rfl rfl)
theorem dX1_enough_23 : decode cX1_enough 23 = .ok (.iconst 0, 1) := dk_3 (dk_at dksX1_enough_0 23 rfl rfl)
theorem dX1_enough_24 : decode cX1_enough 24 = .ok (.invokevirtual 267, 3) := dk_182 1 11 (dk_at dksX1_enough_1 0 rfl rfl)
theorem dX1_enough_27 : decode cX1_enough 27 = .ok (.iconst 0, 1) := dk_3 (dk_at dksX1_enough_1 3 rfl rfl)
theorem dX1_enough_28 : decode cX1_enough 28 = .ok (.istore_n 3, 1) := dk_62 (dk_at dksX1_enough_1 4 rfl rfl)
theorem dX1_enough_29 : decode cX1_enough 29 = .ok (.iload_n 3, 1) := dk_29 (dk_at dksX1_enough_1 5 rfl rfl)
theorem dX1_enough_30 : decode cX1_enough 30 = .ok (.aload_n 0, 1) := dk_42 (dk_at dksX1_enough_1 6 rfl rfl)
theorem dX1_enough_31 : decode cX1_enough 31 = .ok (.getfield 9, 3) := dk_180 0 9 (dk_at dksX1_enough_1 7 rfl rfl)
theorem dX1_enough_34 : decode cX1_enough 34 = .ok (.iload_n 1, 1) := dk_27 (dk_at dksX1_enough_1 10 rfl rfl)
theorem dX1_enough_35 : decode cX1_enough 35 = .ok (.iaload, 1) := dk_46 (dk_at dksX1_enough_1 11 rfl rfl)
theorem dX1_enough_36 : decode cX1_enough 36 = .ok (.if_icmp .ge 92, 3) := dk_162 0 92 (dk_at dksX1_enough_1 12 rfl rfl)
theorem dX1_enough_39 : decode cX1_enough 39 = .ok (.iconst 0, 1) := dk_3 (dk_at dksX1_enough_1 15 rfl rfl)
theorem dX1_enough_40 : decode cX1_enough 40 = .ok (.istore 4, 2) := dk_54 4 (dk_at dksX1_enough_1 16 rfl rfl)
theorem dX1_enough_42 : decode cX1_enough 42 = .ok (.iload 4, 2) := dk_21 4 (dk_at dksX1_enough_1 18 rfl rfl)
theorem dX1_enough_44 : decode cX1_enough 44 = .ok (.sipush 30001, 3) := dk_17 117 49 (dk_at dksX1_enough_1 20 rfl rfl)
theorem dX1_enough_47 : decode cX1_enough 47 = .ok (.if_icmp .ge 27, 3) := dk_162 0 27 (dk_at dksX1_enough_2 0 rfl rfl)
theorem dX1_enough_50 : decode cX1_enough 50 = .ok (.aload_n 0, 1) := dk_42 (dk_at dksX1_enough_2 3 rfl rfl)
theorem dX1_enough_51 : decode cX1_enough 51 = .ok (.getfield 35, 3) := dk_180 0 35 (dk_at dksX1_enough_2 4 rfl rfl)
theorem dX1_enough_54 : decode cX1_enough 54 = .ok (.sipush 30001, 3) := dk_17 117 49 (dk_at dksX1_enough_2 7 rfl rfl)
theorem dX1_enough_57 : decode cX1_enough 57 = .ok (.iload 4, 2) := dk_21 4 (dk_at dksX1_enough_2 10 rfl rfl)
theorem dX1_enough_59 : decode cX1_enough 59 = .ok (.iadd, 1) := dk_96 (dk_at dksX1_enough_2 12 rfl rfl)
theorem dX1_enough_60 : decode cX1_enough 60 = .ok (.aload_n 0, 1) := dk_42 (dk_at dksX1_enough_2 13 rfl rfl)
theorem dX1_enough_61 : decode cX1_enough 61 = .ok (.getfield 35, 3) := dk_180 0 35 (dk_at dksX1_enough_2 14 rfl rfl)
theorem dX1_enough_64 : decode cX1_enough 64 = .ok (.iload 4, 2) := dk_21 4 (dk_at dksX1_enough_2 17 rfl rfl)
theorem dX1_enough_66 : decode cX1_enough 66 = .ok (.laload, 1) := dk_47 (dk_at dksX1_enough_2 19 rfl rfl)
theorem dX1_enough_67 : decode cX1_enough 67 = .ok (.lastore, 1) := dk_80 (dk_at dksX1_enough_2 20 rfl rfl)
theorem dX1_enough_68 : decode cX1_enough 68 = .ok (.iinc 4 1, 3) := dk_132 4 1 (dk_at dksX1_enough_2 21 rfl rfl)
theorem dX1_enough_71 : decode cX1_enough 71 = .ok (.goto (-29), 3) := dk_167 255 227 (dk_at dksX1_enough_3 0 rfl rfl)
theorem dX1_enough_74 : decode cX1_enough 74 = .ok (.aload_n 0, 1) := dk_42 (dk_at dksX1_enough_3 3 rfl rfl)
theorem dX1_enough_75 : decode cX1_enough 75 = .ok (.iconst 0, 1) := dk_3 (dk_at dksX1_enough_3 4 rfl rfl)
theorem dX1_enough_76 : decode cX1_enough 76 = .ok (.iconst 1, 1) := dk_4 (dk_at dksX1_enough_3 5 rfl rfl)
theorem dX1_enough_77 : decode cX1_enough 77 = .ok (.aload_n 0, 1) := dk_42 (dk_at dksX1_enough_3 6 rfl rfl)
theorem dX1_enough_78 : decode cX1_enough 78 = .ok (.iload_n 1, 1) := dk_27 (dk_at dksX1_enough_3 7 rfl rfl)
theorem dX1_enough_79 : decode cX1_enough 79 = .ok (.iload_n 3, 1) := dk_29 (dk_at dksX1_enough_3 8 rfl rfl)
theorem dX1_enough_80 : decode cX1_enough 80 = .ok (.iconst 0, 1) := dk_3 (dk_at dksX1_enough_3 9 rfl rfl)
theorem dX1_enough_81 : decode cX1_enough 81 = .ok (.invokevirtual 93, 3) := dk_182 0 93 (dk_at dksX1_enough_3 10 rfl rfl)
theorem dX1_enough_84 : decode cX1_enough 84 = .ok (.aload_n 0, 1) := dk_42 (dk_at dksX1_enough_3 13 rfl rfl)
theorem dX1_enough_85 : decode cX1_enough 85 = .ok (.iload_n 1, 1) := dk_27 (dk_at dksX1_enough_3 14 rfl rfl)
theorem dX1_enough_86 : decode cX1_enough 86 = .ok (.iload_n 3, 1) := dk_29 (dk_at dksX1_enough_3 15 rfl rfl)
theorem dX1_enough_87 : decode cX1_enough 87 = .ok (.iconst 1, 1) := dk_4 (dk_at dksX1_enough_3 16 rfl rfl)
theorem dX1_enough_88 : decode cX1_enough 88 = .ok (.invokevirtual 93, 3) := dk_182 0 93 (dk_at dksX1_enough_3 17 rfl rfl)
theorem dX1_enough_91 : decode cX1_enough 91 = .ok (.aload_n 0, 1) := dk_42 (dk_at dksX1_enough_3 20 rfl rfl)
theorem dX1_enough_92 : decode cX1_enough 92 = .ok (.iload_n 1, 1) := dk_27 (dk_at dksX1_enough_3 21 rfl rfl)
theorem dX1_enough_93 : decode cX1_enough 93 = .ok (.iload_n 3, 1) := dk_29 (dk_at dksX1_enough_3 22 rfl rfl)
theorem dX1_enough_94 : decode cX1_enough 94 = .ok (.iconst 2, 1) := dk_5 (dk_at dksX1_enough_3 23 rfl rfl)
theorem dX1_enough_95 : decode cX1_enough 95 = .ok (.invokevirtual 93, 3) := dk_182 0 93 (dk_at dksX1_enough_4 0 rfl rfl)
theorem dX1_enough_98 : decode cX1_enough 98 = .ok (.aload_n 0, 1) := dk_42 (dk_at dksX1_enough_4 3 rfl rfl)
theorem dX1_enough_99 : decode cX1_enough 99 = .ok (.iload_n 1, 1) := dk_27 (dk_at dksX1_enough_4 4 rfl rfl)
theorem dX1_enough_100 : decode cX1_enough 100 = .ok (.iload_n 3, 1) := dk_29 (dk_at dksX1_enough_4 5 rfl rfl)
theorem dX1_enough_101 : decode cX1_enough 101 = .ok (.iconst 3, 1) := dk_6 (dk_at dksX1_enough_4 6 rfl rfl)
theorem dX1_enough_102 : decode cX1_enough 102 = .ok (.invokevirtual 93, 3) := dk_182 0 93 (dk_at dksX1_enough_4 7 rfl rfl)
theorem dX1_enough_105 : decode cX1_enough 105 = .ok (.invokevirtual 270, 3) := dk_182 1 14 (dk_at dksX1_enough_4 10 rfl rfl)
theorem dX1_enough_108 : decode cX1_enough 108 = .ok (.aload_n 0, 1) := dk_42 (dk_at dksX1_enough_4 13 rfl rfl)
theorem dX1_enough_109 : decode cX1_enough 109 = .ok (.iload_n 2, 1) := dk_28 (dk_at dksX1_enough_4 14 rfl rfl)
theorem dX1_enough_110 : decode cX1_enough 110 = .ok (.invokevirtual 285, 3) := dk_182 1 29 (dk_at dksX1_enough_4 15 rfl rfl)
theorem dX1_enough_113 : decode cX1_enough 113 = .ok (.lconst 0, 1) := dk_9 (dk_at dksX1_enough_4 18 rfl rfl)
theorem dX1_enough_114 : decode cX1_enough 114 = .ok (.lcmp, 1) := dk_148 (dk_at dksX1_enough_4 19 rfl rfl)
theorem dX1_enough_115 : decode cX1_enough 115 = .ok (.ifCond .le 7, 3) := dk_158 0 7 (dk_at dksX1_enough_4 20 rfl rfl)
theorem dX1_enough_118 : decode cX1_enough 118 = .ok (.iload_n 3, 1) := dk_29 (dk_at dksX1_enough_4 23 rfl rfl)
theorem dX1_enough_119 : decode cX1_enough 119 = .ok (.iconst 1, 1) := dk_4 (dk_at dksX1_enough_5 0 rfl rfl)
theorem dX1_enough_120 : decode cX1_enough 120 = .ok (.iadd, 1) := dk_96 (dk_at dksX1_enough_5 1 rfl rfl)
theorem dX1_enough_121 : decode cX1_enough 121 = .ok (.ireturn, 1) := dk_172 (dk_at dksX1_enough_5 2 rfl rfl)
theorem dX1_enough_122 : decode cX1_enough 122 = .ok (.iinc 3 1, 3) := dk_132 3 1 (dk_at dksX1_enough_5 3 rfl rfl)
theorem dX1_enough_125 : decode cX1_enough 125 = .ok (.goto (-96), 3) := dk_167 255 160 (dk_at dksX1_enough_5 6 rfl rfl)
theorem dX1_enough_128 : decode cX1_enough 128 = .ok (.iconst (-1), 1) := dk_2 (dk_at dksX1_enough_5 9 rfl rfl)
theorem dX1_enough_129 : decode cX1_enough 129 = .ok (.ireturn, 1) := dk_172 (dk_at dksX1_enough_5 10 rfl rfl)
abbrev cX1_join : ByteArray := prog_24_method_88_code
def yX1_join : MethodName := ⟨RX1, "join", "(III)Z"⟩
def dkwX1_join_5 : List UInt8 := [180, 0, 9, 27, 46, 21, 4, 96, 182, 0, 243, 132, 4, 1, 167, 255, 225, 42, 29, 182, 1, 3, 4, 172]
abbrev dktX1_join_5 : List UInt8 := dkwX1_join_5 ++ []
def dkwX1_join_4 : List UInt8 := [167, 255, 232, 3, 54, 4, 21, 4, 42, 180, 0, 9, 28, 46, 162, 0, 26, 42, 28, 21, 4, 7, 42]
abbrev dktX1_join_4 : List UInt8 := dkwX1_join_4 ++ dktX1_join_5
def dkwX1_join_3 : List UInt8 := [21, 4, 42, 180, 0, 9, 27, 46, 162, 0, 19, 42, 27, 21, 4, 7, 21, 4, 182, 0, 243, 132, 4, 1]
abbrev dktX1_join_3 : List UInt8 := dkwX1_join_3 ++ dktX1_join_4
def dkwX1_join_2 : List UInt8 := [172, 42, 180, 0, 9, 7, 42, 180, 0, 9, 27, 46, 42, 180, 0, 9, 28, 46, 96, 79, 3, 54, 4]
abbrev dktX1_join_2 : List UInt8 := dkwX1_join_2 ++ dktX1_join_3
def dkwX1_join_1 : List UInt8 := [180, 0, 9, 27, 46, 42, 180, 0, 9, 28, 46, 96, 133, 10, 20, 1, 184, 184, 0, 105, 154, 0, 5, 3]
abbrev dktX1_join_1 : List UInt8 := dkwX1_join_1 ++ dktX1_join_2
def dkwX1_join_0 : List UInt8 := [27, 184, 0, 111, 153, 0, 41, 28, 184, 0, 111, 153, 0, 34, 29, 184, 0, 111, 153, 0, 27, 42]
abbrev dktX1_join_0 : List UInt8 := dkwX1_join_0 ++ dktX1_join_1
theorem dksX1_join_0 : cX1_join.data.toList.drop 0 = dktX1_join_0 := by decide +kernel
theorem dksX1_join_1 : cX1_join.data.toList.drop 22 = dktX1_join_1 := dk_seg dksX1_join_0 22 rfl rfl
theorem dksX1_join_2 : cX1_join.data.toList.drop 46 = dktX1_join_2 := dk_seg dksX1_join_1 24 rfl rfl
theorem dksX1_join_3 : cX1_join.data.toList.drop 69 = dktX1_join_3 := dk_seg dksX1_join_2 23 rfl rfl
theorem dksX1_join_4 : cX1_join.data.toList.drop 93 = dktX1_join_4 := dk_seg dksX1_join_3 24 rfl rfl
theorem dksX1_join_5 : cX1_join.data.toList.drop 116 = dktX1_join_5 := dk_seg dksX1_join_4 23 rfl rfl
theorem dX1_join_0 : decode cX1_join 0 = .ok (.iload_n 1, 1) := dk_27 (dk_at dksX1_join_0 0 rfl rfl)
theorem dX1_join_1 : decode cX1_join 1 = .ok (.invokestatic 111, 3) := dk_184 0 111 (dk_at dksX1_join_0 1 rfl rfl)
theorem dX1_join_4 : decode cX1_join 4 = .ok (.ifCond .eq 41, 3) := dk_153 0 41 (dk_at dksX1_join_0 4 rfl rfl)
theorem dX1_join_7 : decode cX1_join 7 = .ok (.iload_n 2, 1) := dk_28 (dk_at dksX1_join_0 7 rfl rfl)
theorem dX1_join_8 : decode cX1_join 8 = .ok (.invokestatic 111, 3) := dk_184 0 111 (dk_at dksX1_join_0 8 rfl rfl)
theorem dX1_join_11 : decode cX1_join 11 = .ok (.ifCond .eq 34, 3) := dk_153 0 34 (dk_at dksX1_join_0 11 rfl rfl)
theorem dX1_join_14 : decode cX1_join 14 = .ok (.iload_n 3, 1) := dk_29 (dk_at dksX1_join_0 14 rfl rfl)
theorem dX1_join_15 : decode cX1_join 15 = .ok (.invokestatic 111, 3) := dk_184 0 111 (dk_at dksX1_join_0 15 rfl rfl)
theorem dX1_join_18 : decode cX1_join 18 = .ok (.ifCond .eq 27, 3) := dk_153 0 27 (dk_at dksX1_join_0 18 rfl rfl)
theorem dX1_join_21 : decode cX1_join 21 = .ok (.aload_n 0, 1) := dk_42 (dk_at dksX1_join_0 21 rfl rfl)
theorem dX1_join_22 : decode cX1_join 22 = .ok (.getfield 9, 3) := dk_180 0 9 (dk_at dksX1_join_1 0 rfl rfl)
theorem dX1_join_25 : decode cX1_join 25 = .ok (.iload_n 1, 1) := dk_27 (dk_at dksX1_join_1 3 rfl rfl)
theorem dX1_join_26 : decode cX1_join 26 = .ok (.iaload, 1) := dk_46 (dk_at dksX1_join_1 4 rfl rfl)
theorem dX1_join_27 : decode cX1_join 27 = .ok (.aload_n 0, 1) := dk_42 (dk_at dksX1_join_1 5 rfl rfl)
theorem dX1_join_28 : decode cX1_join 28 = .ok (.getfield 9, 3) := dk_180 0 9 (dk_at dksX1_join_1 6 rfl rfl)
theorem dX1_join_31 : decode cX1_join 31 = .ok (.iload_n 2, 1) := dk_28 (dk_at dksX1_join_1 9 rfl rfl)
theorem dX1_join_32 : decode cX1_join 32 = .ok (.iaload, 1) := dk_46 (dk_at dksX1_join_1 10 rfl rfl)
theorem dX1_join_33 : decode cX1_join 33 = .ok (.iadd, 1) := dk_96 (dk_at dksX1_join_1 11 rfl rfl)
theorem dX1_join_34 : decode cX1_join 34 = .ok (.i2l, 1) := dk_133 (dk_at dksX1_join_1 12 rfl rfl)
theorem dX1_join_35 : decode cX1_join 35 = .ok (.lconst 1, 1) := dk_10 (dk_at dksX1_join_1 13 rfl rfl)
theorem dX1_join_36 : decode cX1_join 36 = .ok (.ldc2_w 440, 3) := dk_20 1 184 (dk_at dksX1_join_1 14 rfl rfl)
theorem dX1_join_39 : decode cX1_join 39 = .ok (.invokestatic 105, 3) := dk_184 0 105 (dk_at dksX1_join_1 17 rfl rfl)
theorem dX1_join_42 : decode cX1_join 42 = .ok (.ifCond .ne 5, 3) := dk_154 0 5 (dk_at dksX1_join_1 20 rfl rfl)
theorem dX1_join_45 : decode cX1_join 45 = .ok (.iconst 0, 1) := dk_3 (dk_at dksX1_join_1 23 rfl rfl)
theorem dX1_join_46 : decode cX1_join 46 = .ok (.ireturn, 1) := dk_172 (dk_at dksX1_join_2 0 rfl rfl)
theorem dX1_join_47 : decode cX1_join 47 = .ok (.aload_n 0, 1) := dk_42 (dk_at dksX1_join_2 1 rfl rfl)
theorem dX1_join_48 : decode cX1_join 48 = .ok (.getfield 9, 3) := dk_180 0 9 (dk_at dksX1_join_2 2 rfl rfl)
theorem dX1_join_51 : decode cX1_join 51 = .ok (.iconst 4, 1) := dk_7 (dk_at dksX1_join_2 5 rfl rfl)
theorem dX1_join_52 : decode cX1_join 52 = .ok (.aload_n 0, 1) := dk_42 (dk_at dksX1_join_2 6 rfl rfl)
theorem dX1_join_53 : decode cX1_join 53 = .ok (.getfield 9, 3) := dk_180 0 9 (dk_at dksX1_join_2 7 rfl rfl)
theorem dX1_join_56 : decode cX1_join 56 = .ok (.iload_n 1, 1) := dk_27 (dk_at dksX1_join_2 10 rfl rfl)
theorem dX1_join_57 : decode cX1_join 57 = .ok (.iaload, 1) := dk_46 (dk_at dksX1_join_2 11 rfl rfl)
theorem dX1_join_58 : decode cX1_join 58 = .ok (.aload_n 0, 1) := dk_42 (dk_at dksX1_join_2 12 rfl rfl)
theorem dX1_join_59 : decode cX1_join 59 = .ok (.getfield 9, 3) := dk_180 0 9 (dk_at dksX1_join_2 13 rfl rfl)
theorem dX1_join_62 : decode cX1_join 62 = .ok (.iload_n 2, 1) := dk_28 (dk_at dksX1_join_2 16 rfl rfl)
theorem dX1_join_63 : decode cX1_join 63 = .ok (.iaload, 1) := dk_46 (dk_at dksX1_join_2 17 rfl rfl)
theorem dX1_join_64 : decode cX1_join 64 = .ok (.iadd, 1) := dk_96 (dk_at dksX1_join_2 18 rfl rfl)
theorem dX1_join_65 : decode cX1_join 65 = .ok (.iastore, 1) := dk_79 (dk_at dksX1_join_2 19 rfl rfl)
theorem dX1_join_66 : decode cX1_join 66 = .ok (.iconst 0, 1) := dk_3 (dk_at dksX1_join_2 20 rfl rfl)
theorem dX1_join_67 : decode cX1_join 67 = .ok (.istore 4, 2) := dk_54 4 (dk_at dksX1_join_2 21 rfl rfl)
theorem dX1_join_69 : decode cX1_join 69 = .ok (.iload 4, 2) := dk_21 4 (dk_at dksX1_join_3 0 rfl rfl)
theorem dX1_join_71 : decode cX1_join 71 = .ok (.aload_n 0, 1) := dk_42 (dk_at dksX1_join_3 2 rfl rfl)
theorem dX1_join_72 : decode cX1_join 72 = .ok (.getfield 9, 3) := dk_180 0 9 (dk_at dksX1_join_3 3 rfl rfl)
theorem dX1_join_75 : decode cX1_join 75 = .ok (.iload_n 1, 1) := dk_27 (dk_at dksX1_join_3 6 rfl rfl)
theorem dX1_join_76 : decode cX1_join 76 = .ok (.iaload, 1) := dk_46 (dk_at dksX1_join_3 7 rfl rfl)
theorem dX1_join_77 : decode cX1_join 77 = .ok (.if_icmp .ge 19, 3) := dk_162 0 19 (dk_at dksX1_join_3 8 rfl rfl)
theorem dX1_join_80 : decode cX1_join 80 = .ok (.aload_n 0, 1) := dk_42 (dk_at dksX1_join_3 11 rfl rfl)
theorem dX1_join_81 : decode cX1_join 81 = .ok (.iload_n 1, 1) := dk_27 (dk_at dksX1_join_3 12 rfl rfl)
theorem dX1_join_82 : decode cX1_join 82 = .ok (.iload 4, 2) := dk_21 4 (dk_at dksX1_join_3 13 rfl rfl)
theorem dX1_join_84 : decode cX1_join 84 = .ok (.iconst 4, 1) := dk_7 (dk_at dksX1_join_3 15 rfl rfl)
theorem dX1_join_85 : decode cX1_join 85 = .ok (.iload 4, 2) := dk_21 4 (dk_at dksX1_join_3 16 rfl rfl)
theorem dX1_join_87 : decode cX1_join 87 = .ok (.invokevirtual 243, 3) := dk_182 0 243 (dk_at dksX1_join_3 18 rfl rfl)
theorem dX1_join_90 : decode cX1_join 90 = .ok (.iinc 4 1, 3) := dk_132 4 1 (dk_at dksX1_join_3 21 rfl rfl)
theorem dX1_join_93 : decode cX1_join 93 = .ok (.goto (-24), 3) := dk_167 255 232 (dk_at dksX1_join_4 0 rfl rfl)
theorem dX1_join_96 : decode cX1_join 96 = .ok (.iconst 0, 1) := dk_3 (dk_at dksX1_join_4 3 rfl rfl)
theorem dX1_join_97 : decode cX1_join 97 = .ok (.istore 4, 2) := dk_54 4 (dk_at dksX1_join_4 4 rfl rfl)
theorem dX1_join_99 : decode cX1_join 99 = .ok (.iload 4, 2) := dk_21 4 (dk_at dksX1_join_4 6 rfl rfl)
theorem dX1_join_101 : decode cX1_join 101 = .ok (.aload_n 0, 1) := dk_42 (dk_at dksX1_join_4 8 rfl rfl)
theorem dX1_join_102 : decode cX1_join 102 = .ok (.getfield 9, 3) := dk_180 0 9 (dk_at dksX1_join_4 9 rfl rfl)
theorem dX1_join_105 : decode cX1_join 105 = .ok (.iload_n 2, 1) := dk_28 (dk_at dksX1_join_4 12 rfl rfl)
theorem dX1_join_106 : decode cX1_join 106 = .ok (.iaload, 1) := dk_46 (dk_at dksX1_join_4 13 rfl rfl)
theorem dX1_join_107 : decode cX1_join 107 = .ok (.if_icmp .ge 26, 3) := dk_162 0 26 (dk_at dksX1_join_4 14 rfl rfl)
theorem dX1_join_110 : decode cX1_join 110 = .ok (.aload_n 0, 1) := dk_42 (dk_at dksX1_join_4 17 rfl rfl)
theorem dX1_join_111 : decode cX1_join 111 = .ok (.iload_n 2, 1) := dk_28 (dk_at dksX1_join_4 18 rfl rfl)
theorem dX1_join_112 : decode cX1_join 112 = .ok (.iload 4, 2) := dk_21 4 (dk_at dksX1_join_4 19 rfl rfl)
theorem dX1_join_114 : decode cX1_join 114 = .ok (.iconst 4, 1) := dk_7 (dk_at dksX1_join_4 21 rfl rfl)
theorem dX1_join_115 : decode cX1_join 115 = .ok (.aload_n 0, 1) := dk_42 (dk_at dksX1_join_4 22 rfl rfl)
theorem dX1_join_116 : decode cX1_join 116 = .ok (.getfield 9, 3) := dk_180 0 9 (dk_at dksX1_join_5 0 rfl rfl)
theorem dX1_join_119 : decode cX1_join 119 = .ok (.iload_n 1, 1) := dk_27 (dk_at dksX1_join_5 3 rfl rfl)
theorem dX1_join_120 : decode cX1_join 120 = .ok (.iaload, 1) := dk_46 (dk_at dksX1_join_5 4 rfl rfl)
theorem dX1_join_121 : decode cX1_join 121 = .ok (.iload 4, 2) := dk_21 4 (dk_at dksX1_join_5 5 rfl rfl)
theorem dX1_join_123 : decode cX1_join 123 = .ok (.iadd, 1) := dk_96 (dk_at dksX1_join_5 7 rfl rfl)
theorem dX1_join_124 : decode cX1_join 124 = .ok (.invokevirtual 243, 3) := dk_182 0 243 (dk_at dksX1_join_5 8 rfl rfl)
theorem dX1_join_127 : decode cX1_join 127 = .ok (.iinc 4 1, 3) := dk_132 4 1 (dk_at dksX1_join_5 11 rfl rfl)
theorem dX1_join_130 : decode cX1_join 130 = .ok (.goto (-31), 3) := dk_167 255 225 (dk_at dksX1_join_5 14 rfl rfl)
theorem dX1_join_133 : decode cX1_join 133 = .ok (.aload_n 0, 1) := dk_42 (dk_at dksX1_join_5 17 rfl rfl)
theorem dX1_join_134 : decode cX1_join 134 = .ok (.iload_n 3, 1) := dk_29 (dk_at dksX1_join_5 18 rfl rfl)
theorem dX1_join_135 : decode cX1_join 135 = .ok (.invokevirtual 259, 3) := dk_182 1 3 (dk_at dksX1_join_5 19 rfl rfl)
theorem dX1_join_138 : decode cX1_join 138 = .ok (.iconst 1, 1) := dk_4 (dk_at dksX1_join_5 22 rfl rfl)
theorem dX1_join_139 : decode cX1_join 139 = .ok (.ireturn, 1) := dk_172 (dk_at dksX1_join_5 23 rfl rfl)
abbrev cX1_drop : ByteArray := prog_24_method_89_code
def yX1_drop : MethodName := ⟨RX1, "drop", "(II)Z"⟩
def dkwX1_drop_2 : List UInt8 := [29, 4, 96, 7, 29, 182, 0, 243, 132, 3, 1, 167, 255, 224, 42, 27, 182, 1, 3, 4, 172]
abbrev dktX1_drop_2 : List UInt8 := dkwX1_drop_2 ++ []
def dkwX1_drop_1 : List UInt8 := [79, 3, 62, 29, 42, 180, 0, 9, 7, 46, 162, 0, 28, 42, 27, 29, 28, 162, 0, 7, 29, 167, 0, 6]
abbrev dktX1_drop_1 : List UInt8 := dkwX1_drop_1 ++ dktX1_drop_2
def dkwX1_drop_0 : List UInt8 := [42, 27, 28, 182, 1, 57, 154, 0, 5, 3, 172, 42, 180, 0, 9, 7, 42, 180, 0, 9, 27, 46, 4, 100]
abbrev dktX1_drop_0 : List UInt8 := dkwX1_drop_0 ++ dktX1_drop_1
theorem dksX1_drop_0 : cX1_drop.data.toList.drop 0 = dktX1_drop_0 := by decide +kernel
theorem dksX1_drop_1 : cX1_drop.data.toList.drop 24 = dktX1_drop_1 := dk_seg dksX1_drop_0 24 rfl rfl
theorem dksX1_drop_2 : cX1_drop.data.toList.drop 48 = dktX1_drop_2 := dk_seg dksX1_drop_1 24 rfl rfl
theorem dX1_drop_0 : decode cX1_drop 0 = .ok (.aload_n 0, 1) := dk_42 (dk_at dksX1_drop_0 0 rfl rfl)
theorem dX1_drop_1 : decode cX1_drop 1 = .ok (.iload_n 1, 1) := dk_27 (dk_at dksX1_drop_0 1 rfl rfl)
theorem dX1_drop_2 : decode cX1_drop 2 = .ok (.iload_n 2, 1) := dk_28 (dk_at dksX1_drop_0 2 rfl rfl)
theorem dX1_drop_3 : decode cX1_drop 3 = .ok (.invokevirtual 313, 3) := dk_182 1 57 (dk_at dksX1_drop_0 3 rfl rfl)
theorem dX1_drop_6 : decode cX1_drop 6 = .ok (.ifCond .ne 5, 3) := dk_154 0 5 (dk_at dksX1_drop_0 6 rfl rfl)
theorem dX1_drop_9 : decode cX1_drop 9 = .ok (.iconst 0, 1) := dk_3 (dk_at dksX1_drop_0 9 rfl rfl)
theorem dX1_drop_10 : decode cX1_drop 10 = .ok (.ireturn, 1) := dk_172 (dk_at dksX1_drop_0 10 rfl rfl)
theorem dX1_drop_11 : decode cX1_drop 11 = .ok (.aload_n 0, 1) := dk_42 (dk_at dksX1_drop_0 11 rfl rfl)
theorem dX1_drop_12 : decode cX1_drop 12 = .ok (.getfield 9, 3) := dk_180 0 9 (dk_at dksX1_drop_0 12 rfl rfl)
theorem dX1_drop_15 : decode cX1_drop 15 = .ok (.iconst 4, 1) := dk_7 (dk_at dksX1_drop_0 15 rfl rfl)
theorem dX1_drop_16 : decode cX1_drop 16 = .ok (.aload_n 0, 1) := dk_42 (dk_at dksX1_drop_0 16 rfl rfl)
theorem dX1_drop_17 : decode cX1_drop 17 = .ok (.getfield 9, 3) := dk_180 0 9 (dk_at dksX1_drop_0 17 rfl rfl)
theorem dX1_drop_20 : decode cX1_drop 20 = .ok (.iload_n 1, 1) := dk_27 (dk_at dksX1_drop_0 20 rfl rfl)
theorem dX1_drop_21 : decode cX1_drop 21 = .ok (.iaload, 1) := dk_46 (dk_at dksX1_drop_0 21 rfl rfl)
theorem dX1_drop_22 : decode cX1_drop 22 = .ok (.iconst 1, 1) := dk_4 (dk_at dksX1_drop_0 22 rfl rfl)
theorem dX1_drop_23 : decode cX1_drop 23 = .ok (.isub, 1) := dk_100 (dk_at dksX1_drop_0 23 rfl rfl)
theorem dX1_drop_24 : decode cX1_drop 24 = .ok (.iastore, 1) := dk_79 (dk_at dksX1_drop_1 0 rfl rfl)
theorem dX1_drop_25 : decode cX1_drop 25 = .ok (.iconst 0, 1) := dk_3 (dk_at dksX1_drop_1 1 rfl rfl)
theorem dX1_drop_26 : decode cX1_drop 26 = .ok (.istore_n 3, 1) := dk_62 (dk_at dksX1_drop_1 2 rfl rfl)
theorem dX1_drop_27 : decode cX1_drop 27 = .ok (.iload_n 3, 1) := dk_29 (dk_at dksX1_drop_1 3 rfl rfl)
theorem dX1_drop_28 : decode cX1_drop 28 = .ok (.aload_n 0, 1) := dk_42 (dk_at dksX1_drop_1 4 rfl rfl)
theorem dX1_drop_29 : decode cX1_drop 29 = .ok (.getfield 9, 3) := dk_180 0 9 (dk_at dksX1_drop_1 5 rfl rfl)
theorem dX1_drop_32 : decode cX1_drop 32 = .ok (.iconst 4, 1) := dk_7 (dk_at dksX1_drop_1 8 rfl rfl)
theorem dX1_drop_33 : decode cX1_drop 33 = .ok (.iaload, 1) := dk_46 (dk_at dksX1_drop_1 9 rfl rfl)
theorem dX1_drop_34 : decode cX1_drop 34 = .ok (.if_icmp .ge 28, 3) := dk_162 0 28 (dk_at dksX1_drop_1 10 rfl rfl)
theorem dX1_drop_37 : decode cX1_drop 37 = .ok (.aload_n 0, 1) := dk_42 (dk_at dksX1_drop_1 13 rfl rfl)
theorem dX1_drop_38 : decode cX1_drop 38 = .ok (.iload_n 1, 1) := dk_27 (dk_at dksX1_drop_1 14 rfl rfl)
theorem dX1_drop_39 : decode cX1_drop 39 = .ok (.iload_n 3, 1) := dk_29 (dk_at dksX1_drop_1 15 rfl rfl)
theorem dX1_drop_40 : decode cX1_drop 40 = .ok (.iload_n 2, 1) := dk_28 (dk_at dksX1_drop_1 16 rfl rfl)
theorem dX1_drop_41 : decode cX1_drop 41 = .ok (.if_icmp .ge 7, 3) := dk_162 0 7 (dk_at dksX1_drop_1 17 rfl rfl)
theorem dX1_drop_44 : decode cX1_drop 44 = .ok (.iload_n 3, 1) := dk_29 (dk_at dksX1_drop_1 20 rfl rfl)
theorem dX1_drop_45 : decode cX1_drop 45 = .ok (.goto 6, 3) := dk_167 0 6 (dk_at dksX1_drop_1 21 rfl rfl)
theorem dX1_drop_48 : decode cX1_drop 48 = .ok (.iload_n 3, 1) := dk_29 (dk_at dksX1_drop_2 0 rfl rfl)
theorem dX1_drop_49 : decode cX1_drop 49 = .ok (.iconst 1, 1) := dk_4 (dk_at dksX1_drop_2 1 rfl rfl)
theorem dX1_drop_50 : decode cX1_drop 50 = .ok (.iadd, 1) := dk_96 (dk_at dksX1_drop_2 2 rfl rfl)
theorem dX1_drop_51 : decode cX1_drop 51 = .ok (.iconst 4, 1) := dk_7 (dk_at dksX1_drop_2 3 rfl rfl)
theorem dX1_drop_52 : decode cX1_drop 52 = .ok (.iload_n 3, 1) := dk_29 (dk_at dksX1_drop_2 4 rfl rfl)
theorem dX1_drop_53 : decode cX1_drop 53 = .ok (.invokevirtual 243, 3) := dk_182 0 243 (dk_at dksX1_drop_2 5 rfl rfl)
theorem dX1_drop_56 : decode cX1_drop 56 = .ok (.iinc 3 1, 3) := dk_132 3 1 (dk_at dksX1_drop_2 8 rfl rfl)
theorem dX1_drop_59 : decode cX1_drop 59 = .ok (.goto (-32), 3) := dk_167 255 224 (dk_at dksX1_drop_2 11 rfl rfl)
theorem dX1_drop_62 : decode cX1_drop 62 = .ok (.aload_n 0, 1) := dk_42 (dk_at dksX1_drop_2 14 rfl rfl)
theorem dX1_drop_63 : decode cX1_drop 63 = .ok (.iload_n 1, 1) := dk_27 (dk_at dksX1_drop_2 15 rfl rfl)
theorem dX1_drop_64 : decode cX1_drop 64 = .ok (.invokevirtual 259, 3) := dk_182 1 3 (dk_at dksX1_drop_2 16 rfl rfl)
theorem dX1_drop_67 : decode cX1_drop 67 = .ok (.iconst 1, 1) := dk_4 (dk_at dksX1_drop_2 19 rfl rfl)
theorem dX1_drop_68 : decode cX1_drop 68 = .ok (.ireturn, 1) := dk_172 (dk_at dksX1_drop_2 20 rfl rfl)
abbrev cX1_lead : ByteArray := prog_24_method_90_code
def yX1_lead : MethodName := ⟨RX1, "lead", "(II)Z"⟩
def dkwX1_lead_3 : List UInt8 := [182, 1, 3, 4, 172]
abbrev dktX1_lead_3 : List UInt8 := dkwX1_lead_3 ++ []
def dkwX1_lead_2 : List UInt8 := [163, 0, 9, 29, 4, 100, 167, 0, 4, 29, 7, 29, 182, 0, 243, 132, 3, 1, 167, 255, 216, 42, 27]
abbrev dktX1_lead_2 : List UInt8 := dkwX1_lead_2 ++ dktX1_lead_3
def dkwX1_lead_1 : List UInt8 := [62, 29, 42, 180, 0, 9, 7, 46, 162, 0, 36, 42, 27, 29, 154, 0, 7, 28, 167, 0, 15, 29, 28]
abbrev dktX1_lead_1 : List UInt8 := dkwX1_lead_1 ++ dktX1_lead_2
def dkwX1_lead_0 : List UInt8 := [42, 27, 28, 182, 1, 57, 154, 0, 5, 3, 172, 42, 180, 0, 9, 7, 42, 180, 0, 9, 27, 46, 79, 3]
abbrev dktX1_lead_0 : List UInt8 := dkwX1_lead_0 ++ dktX1_lead_1
theorem dksX1_lead_0 : cX1_lead.data.toList.drop 0 = dktX1_lead_0 := by decide +kernel
theorem dksX1_lead_1 : cX1_lead.data.toList.drop 24 = dktX1_lead_1 := dk_seg dksX1_lead_0 24 rfl rfl
theorem dksX1_lead_2 : cX1_lead.data.toList.drop 47 = dktX1_lead_2 := dk_seg dksX1_lead_1 23 rfl rfl
theorem dksX1_lead_3 : cX1_lead.data.toList.drop 70 = dktX1_lead_3 := dk_seg dksX1_lead_2 23 rfl rfl
theorem dX1_lead_0 : decode cX1_lead 0 = .ok (.aload_n 0, 1) := dk_42 (dk_at dksX1_lead_0 0 rfl rfl)
theorem dX1_lead_1 : decode cX1_lead 1 = .ok (.iload_n 1, 1) := dk_27 (dk_at dksX1_lead_0 1 rfl rfl)
theorem dX1_lead_2 : decode cX1_lead 2 = .ok (.iload_n 2, 1) := dk_28 (dk_at dksX1_lead_0 2 rfl rfl)
theorem dX1_lead_3 : decode cX1_lead 3 = .ok (.invokevirtual 313, 3) := dk_182 1 57 (dk_at dksX1_lead_0 3 rfl rfl)
theorem dX1_lead_6 : decode cX1_lead 6 = .ok (.ifCond .ne 5, 3) := dk_154 0 5 (dk_at dksX1_lead_0 6 rfl rfl)
theorem dX1_lead_9 : decode cX1_lead 9 = .ok (.iconst 0, 1) := dk_3 (dk_at dksX1_lead_0 9 rfl rfl)
theorem dX1_lead_10 : decode cX1_lead 10 = .ok (.ireturn, 1) := dk_172 (dk_at dksX1_lead_0 10 rfl rfl)
theorem dX1_lead_11 : decode cX1_lead 11 = .ok (.aload_n 0, 1) := dk_42 (dk_at dksX1_lead_0 11 rfl rfl)
theorem dX1_lead_12 : decode cX1_lead 12 = .ok (.getfield 9, 3) := dk_180 0 9 (dk_at dksX1_lead_0 12 rfl rfl)
theorem dX1_lead_15 : decode cX1_lead 15 = .ok (.iconst 4, 1) := dk_7 (dk_at dksX1_lead_0 15 rfl rfl)
theorem dX1_lead_16 : decode cX1_lead 16 = .ok (.aload_n 0, 1) := dk_42 (dk_at dksX1_lead_0 16 rfl rfl)
theorem dX1_lead_17 : decode cX1_lead 17 = .ok (.getfield 9, 3) := dk_180 0 9 (dk_at dksX1_lead_0 17 rfl rfl)
theorem dX1_lead_20 : decode cX1_lead 20 = .ok (.iload_n 1, 1) := dk_27 (dk_at dksX1_lead_0 20 rfl rfl)
theorem dX1_lead_21 : decode cX1_lead 21 = .ok (.iaload, 1) := dk_46 (dk_at dksX1_lead_0 21 rfl rfl)
theorem dX1_lead_22 : decode cX1_lead 22 = .ok (.iastore, 1) := dk_79 (dk_at dksX1_lead_0 22 rfl rfl)
theorem dX1_lead_23 : decode cX1_lead 23 = .ok (.iconst 0, 1) := dk_3 (dk_at dksX1_lead_0 23 rfl rfl)
theorem dX1_lead_24 : decode cX1_lead 24 = .ok (.istore_n 3, 1) := dk_62 (dk_at dksX1_lead_1 0 rfl rfl)
theorem dX1_lead_25 : decode cX1_lead 25 = .ok (.iload_n 3, 1) := dk_29 (dk_at dksX1_lead_1 1 rfl rfl)
theorem dX1_lead_26 : decode cX1_lead 26 = .ok (.aload_n 0, 1) := dk_42 (dk_at dksX1_lead_1 2 rfl rfl)
theorem dX1_lead_27 : decode cX1_lead 27 = .ok (.getfield 9, 3) := dk_180 0 9 (dk_at dksX1_lead_1 3 rfl rfl)
theorem dX1_lead_30 : decode cX1_lead 30 = .ok (.iconst 4, 1) := dk_7 (dk_at dksX1_lead_1 6 rfl rfl)
theorem dX1_lead_31 : decode cX1_lead 31 = .ok (.iaload, 1) := dk_46 (dk_at dksX1_lead_1 7 rfl rfl)
theorem dX1_lead_32 : decode cX1_lead 32 = .ok (.if_icmp .ge 36, 3) := dk_162 0 36 (dk_at dksX1_lead_1 8 rfl rfl)
theorem dX1_lead_35 : decode cX1_lead 35 = .ok (.aload_n 0, 1) := dk_42 (dk_at dksX1_lead_1 11 rfl rfl)
theorem dX1_lead_36 : decode cX1_lead 36 = .ok (.iload_n 1, 1) := dk_27 (dk_at dksX1_lead_1 12 rfl rfl)
theorem dX1_lead_37 : decode cX1_lead 37 = .ok (.iload_n 3, 1) := dk_29 (dk_at dksX1_lead_1 13 rfl rfl)
theorem dX1_lead_38 : decode cX1_lead 38 = .ok (.ifCond .ne 7, 3) := dk_154 0 7 (dk_at dksX1_lead_1 14 rfl rfl)
theorem dX1_lead_41 : decode cX1_lead 41 = .ok (.iload_n 2, 1) := dk_28 (dk_at dksX1_lead_1 17 rfl rfl)
theorem dX1_lead_42 : decode cX1_lead 42 = .ok (.goto 15, 3) := dk_167 0 15 (dk_at dksX1_lead_1 18 rfl rfl)
theorem dX1_lead_45 : decode cX1_lead 45 = .ok (.iload_n 3, 1) := dk_29 (dk_at dksX1_lead_1 21 rfl rfl)
theorem dX1_lead_46 : decode cX1_lead 46 = .ok (.iload_n 2, 1) := dk_28 (dk_at dksX1_lead_1 22 rfl rfl)
theorem dX1_lead_47 : decode cX1_lead 47 = .ok (.if_icmp .gt 9, 3) := dk_163 0 9 (dk_at dksX1_lead_2 0 rfl rfl)
theorem dX1_lead_50 : decode cX1_lead 50 = .ok (.iload_n 3, 1) := dk_29 (dk_at dksX1_lead_2 3 rfl rfl)
theorem dX1_lead_51 : decode cX1_lead 51 = .ok (.iconst 1, 1) := dk_4 (dk_at dksX1_lead_2 4 rfl rfl)
theorem dX1_lead_52 : decode cX1_lead 52 = .ok (.isub, 1) := dk_100 (dk_at dksX1_lead_2 5 rfl rfl)
theorem dX1_lead_53 : decode cX1_lead 53 = .ok (.goto 4, 3) := dk_167 0 4 (dk_at dksX1_lead_2 6 rfl rfl)
theorem dX1_lead_56 : decode cX1_lead 56 = .ok (.iload_n 3, 1) := dk_29 (dk_at dksX1_lead_2 9 rfl rfl)
theorem dX1_lead_57 : decode cX1_lead 57 = .ok (.iconst 4, 1) := dk_7 (dk_at dksX1_lead_2 10 rfl rfl)
theorem dX1_lead_58 : decode cX1_lead 58 = .ok (.iload_n 3, 1) := dk_29 (dk_at dksX1_lead_2 11 rfl rfl)
theorem dX1_lead_59 : decode cX1_lead 59 = .ok (.invokevirtual 243, 3) := dk_182 0 243 (dk_at dksX1_lead_2 12 rfl rfl)
theorem dX1_lead_62 : decode cX1_lead 62 = .ok (.iinc 3 1, 3) := dk_132 3 1 (dk_at dksX1_lead_2 15 rfl rfl)
theorem dX1_lead_65 : decode cX1_lead 65 = .ok (.goto (-40), 3) := dk_167 255 216 (dk_at dksX1_lead_2 18 rfl rfl)
theorem dX1_lead_68 : decode cX1_lead 68 = .ok (.aload_n 0, 1) := dk_42 (dk_at dksX1_lead_2 21 rfl rfl)
theorem dX1_lead_69 : decode cX1_lead 69 = .ok (.iload_n 1, 1) := dk_27 (dk_at dksX1_lead_2 22 rfl rfl)
theorem dX1_lead_70 : decode cX1_lead 70 = .ok (.invokevirtual 259, 3) := dk_182 1 3 (dk_at dksX1_lead_3 0 rfl rfl)
theorem dX1_lead_73 : decode cX1_lead 73 = .ok (.iconst 1, 1) := dk_4 (dk_at dksX1_lead_3 3 rfl rfl)
theorem dX1_lead_74 : decode cX1_lead 74 = .ok (.ireturn, 1) := dk_172 (dk_at dksX1_lead_3 4 rfl rfl)
abbrev cX1_common : ByteArray := prog_24_method_91_code
def yX1_common : MethodName := ⟨RX1, "common", "(IIIII)I"⟩
def dkwX1_common_6 : List UInt8 := [167, 255, 205, 21, 5, 2, 160, 0, 8, 21, 6, 167, 0, 6, 19, 1, 65, 172]
abbrev dktX1_common_6 : List UInt8 := dkwX1_common_6 ++ []
def dkwX1_common_5 : List UInt8 := [148, 154, 0, 6, 167, 0, 16, 21, 6, 21, 5, 160, 0, 6, 21, 7, 172, 132, 6, 1, 132, 7, 1]
abbrev dktX1_common_5 : List UInt8 := dkwX1_common_5 ++ dktX1_common_6
def dkwX1_common_4 : List UInt8 := [163, 0, 50, 42, 180, 0, 84, 21, 7, 17, 11, 184, 96, 51, 153, 0, 30, 42, 21, 7, 182, 1, 29, 9]
abbrev dktX1_common_4 : List UInt8 := dkwX1_common_4 ++ dktX1_common_5
def dkwX1_common_3 : List UInt8 := [3, 84, 132, 6, 1, 167, 255, 219, 42, 28, 182, 1, 26, 3, 54, 6, 29, 54, 7, 21, 7, 21, 4]
abbrev dktX1_common_3 : List UInt8 := dkwX1_common_3 ++ dktX1_common_4
def dkwX1_common_2 : List UInt8 := [180, 0, 84, 21, 6, 17, 11, 184, 96, 42, 21, 6, 182, 1, 29, 9, 148, 158, 0, 7, 4, 167, 0, 4]
abbrev dktX1_common_2 : List UInt8 := dkwX1_common_2 ++ dktX1_common_3
def dkwX1_common_1 : List UInt8 := [154, 0, 7, 19, 1, 65, 172, 42, 27, 182, 1, 26, 29, 54, 6, 21, 6, 21, 4, 163, 0, 36, 42]
abbrev dktX1_common_1 : List UInt8 := dkwX1_common_1 ++ dktX1_common_2
def dkwX1_common_0 : List UInt8 := [42, 27, 182, 1, 18, 153, 0, 20, 42, 28, 182, 1, 18, 153, 0, 12, 29, 21, 4, 184, 1, 161]
abbrev dktX1_common_0 : List UInt8 := dkwX1_common_0 ++ dktX1_common_1
theorem dksX1_common_0 : cX1_common.data.toList.drop 0 = dktX1_common_0 := by decide +kernel
theorem dksX1_common_1 : cX1_common.data.toList.drop 22 = dktX1_common_1 := dk_seg dksX1_common_0 22 rfl rfl
theorem dksX1_common_2 : cX1_common.data.toList.drop 45 = dktX1_common_2 := dk_seg dksX1_common_1 23 rfl rfl
theorem dksX1_common_3 : cX1_common.data.toList.drop 69 = dktX1_common_3 := dk_seg dksX1_common_2 24 rfl rfl
theorem dksX1_common_4 : cX1_common.data.toList.drop 92 = dktX1_common_4 := dk_seg dksX1_common_3 23 rfl rfl
theorem dksX1_common_5 : cX1_common.data.toList.drop 116 = dktX1_common_5 := dk_seg dksX1_common_4 24 rfl rfl
theorem dksX1_common_6 : cX1_common.data.toList.drop 139 = dktX1_common_6 := dk_seg dksX1_common_5 23 rfl rfl
theorem dX1_common_0 : decode cX1_common 0 = .ok (.aload_n 0, 1) := dk_42 (dk_at dksX1_common_0 0 rfl rfl)
theorem dX1_common_1 : decode cX1_common 1 = .ok (.iload_n 1, 1) := dk_27 (dk_at dksX1_common_0 1 rfl rfl)
theorem dX1_common_2 : decode cX1_common 2 = .ok (.invokevirtual 274, 3) := dk_182 1 18 (dk_at dksX1_common_0 2 rfl rfl)
theorem dX1_common_5 : decode cX1_common 5 = .ok (.ifCond .eq 20, 3) := dk_153 0 20 (dk_at dksX1_common_0 5 rfl rfl)
theorem dX1_common_8 : decode cX1_common 8 = .ok (.aload_n 0, 1) := dk_42 (dk_at dksX1_common_0 8 rfl rfl)
theorem dX1_common_9 : decode cX1_common 9 = .ok (.iload_n 2, 1) := dk_28 (dk_at dksX1_common_0 9 rfl rfl)
theorem dX1_common_10 : decode cX1_common 10 = .ok (.invokevirtual 274, 3) := dk_182 1 18 (dk_at dksX1_common_0 10 rfl rfl)
theorem dX1_common_13 : decode cX1_common 13 = .ok (.ifCond .eq 12, 3) := dk_153 0 12 (dk_at dksX1_common_0 13 rfl rfl)
theorem dX1_common_16 : decode cX1_common 16 = .ok (.iload_n 3, 1) := dk_29 (dk_at dksX1_common_0 16 rfl rfl)
theorem dX1_common_17 : decode cX1_common 17 = .ok (.iload 4, 2) := dk_21 4 (dk_at dksX1_common_0 17 rfl rfl)
theorem dX1_common_19 : decode cX1_common 19 = .ok (.invokestatic 417, 3) := dk_184 1 161 (dk_at dksX1_common_0 19 rfl rfl)
theorem dX1_common_22 : decode cX1_common 22 = .ok (.ifCond .ne 7, 3) := dk_154 0 7 (dk_at dksX1_common_1 0 rfl rfl)
theorem dX1_common_25 : decode cX1_common 25 = .ok (.ldc_w 321, 3) := dk_19 1 65 (dk_at dksX1_common_1 3 rfl rfl)
theorem dX1_common_28 : decode cX1_common 28 = .ok (.ireturn, 1) := dk_172 (dk_at dksX1_common_1 6 rfl rfl)
theorem dX1_common_29 : decode cX1_common 29 = .ok (.aload_n 0, 1) := dk_42 (dk_at dksX1_common_1 7 rfl rfl)
theorem dX1_common_30 : decode cX1_common 30 = .ok (.iload_n 1, 1) := dk_27 (dk_at dksX1_common_1 8 rfl rfl)
theorem dX1_common_31 : decode cX1_common 31 = .ok (.invokevirtual 282, 3) := dk_182 1 26 (dk_at dksX1_common_1 9 rfl rfl)
theorem dX1_common_34 : decode cX1_common 34 = .ok (.iload_n 3, 1) := dk_29 (dk_at dksX1_common_1 12 rfl rfl)
theorem dX1_common_35 : decode cX1_common 35 = .ok (.istore 6, 2) := dk_54 6 (dk_at dksX1_common_1 13 rfl rfl)
theorem dX1_common_37 : decode cX1_common 37 = .ok (.iload 6, 2) := dk_21 6 (dk_at dksX1_common_1 15 rfl rfl)
theorem dX1_common_39 : decode cX1_common 39 = .ok (.iload 4, 2) := dk_21 4 (dk_at dksX1_common_1 17 rfl rfl)
theorem dX1_common_41 : decode cX1_common 41 = .ok (.if_icmp .gt 36, 3) := dk_163 0 36 (dk_at dksX1_common_1 19 rfl rfl)
theorem dX1_common_44 : decode cX1_common 44 = .ok (.aload_n 0, 1) := dk_42 (dk_at dksX1_common_1 22 rfl rfl)
theorem dX1_common_45 : decode cX1_common 45 = .ok (.getfield 84, 3) := dk_180 0 84 (dk_at dksX1_common_2 0 rfl rfl)
theorem dX1_common_48 : decode cX1_common 48 = .ok (.iload 6, 2) := dk_21 6 (dk_at dksX1_common_2 3 rfl rfl)
theorem dX1_common_50 : decode cX1_common 50 = .ok (.sipush 3000, 3) := dk_17 11 184 (dk_at dksX1_common_2 5 rfl rfl)
theorem dX1_common_53 : decode cX1_common 53 = .ok (.iadd, 1) := dk_96 (dk_at dksX1_common_2 8 rfl rfl)
theorem dX1_common_54 : decode cX1_common 54 = .ok (.aload_n 0, 1) := dk_42 (dk_at dksX1_common_2 9 rfl rfl)
theorem dX1_common_55 : decode cX1_common 55 = .ok (.iload 6, 2) := dk_21 6 (dk_at dksX1_common_2 10 rfl rfl)
theorem dX1_common_57 : decode cX1_common 57 = .ok (.invokevirtual 285, 3) := dk_182 1 29 (dk_at dksX1_common_2 12 rfl rfl)
theorem dX1_common_60 : decode cX1_common 60 = .ok (.lconst 0, 1) := dk_9 (dk_at dksX1_common_2 15 rfl rfl)
theorem dX1_common_61 : decode cX1_common 61 = .ok (.lcmp, 1) := dk_148 (dk_at dksX1_common_2 16 rfl rfl)
theorem dX1_common_62 : decode cX1_common 62 = .ok (.ifCond .le 7, 3) := dk_158 0 7 (dk_at dksX1_common_2 17 rfl rfl)
theorem dX1_common_65 : decode cX1_common 65 = .ok (.iconst 1, 1) := dk_4 (dk_at dksX1_common_2 20 rfl rfl)
theorem dX1_common_66 : decode cX1_common 66 = .ok (.goto 4, 3) := dk_167 0 4 (dk_at dksX1_common_2 21 rfl rfl)
theorem dX1_common_69 : decode cX1_common 69 = .ok (.iconst 0, 1) := dk_3 (dk_at dksX1_common_3 0 rfl rfl)
theorem dX1_common_70 : decode cX1_common 70 = .ok (.bastore, 1) := dk_84 (dk_at dksX1_common_3 1 rfl rfl)
theorem dX1_common_71 : decode cX1_common 71 = .ok (.iinc 6 1, 3) := dk_132 6 1 (dk_at dksX1_common_3 2 rfl rfl)
theorem dX1_common_74 : decode cX1_common 74 = .ok (.goto (-37), 3) := dk_167 255 219 (dk_at dksX1_common_3 5 rfl rfl)
theorem dX1_common_77 : decode cX1_common 77 = .ok (.aload_n 0, 1) := dk_42 (dk_at dksX1_common_3 8 rfl rfl)
theorem dX1_common_78 : decode cX1_common 78 = .ok (.iload_n 2, 1) := dk_28 (dk_at dksX1_common_3 9 rfl rfl)
theorem dX1_common_79 : decode cX1_common 79 = .ok (.invokevirtual 282, 3) := dk_182 1 26 (dk_at dksX1_common_3 10 rfl rfl)
theorem dX1_common_82 : decode cX1_common 82 = .ok (.iconst 0, 1) := dk_3 (dk_at dksX1_common_3 13 rfl rfl)
theorem dX1_common_83 : decode cX1_common 83 = .ok (.istore 6, 2) := dk_54 6 (dk_at dksX1_common_3 14 rfl rfl)
theorem dX1_common_85 : decode cX1_common 85 = .ok (.iload_n 3, 1) := dk_29 (dk_at dksX1_common_3 16 rfl rfl)
theorem dX1_common_86 : decode cX1_common 86 = .ok (.istore 7, 2) := dk_54 7 (dk_at dksX1_common_3 17 rfl rfl)
theorem dX1_common_88 : decode cX1_common 88 = .ok (.iload 7, 2) := dk_21 7 (dk_at dksX1_common_3 19 rfl rfl)
theorem dX1_common_90 : decode cX1_common 90 = .ok (.iload 4, 2) := dk_21 4 (dk_at dksX1_common_3 21 rfl rfl)
theorem dX1_common_92 : decode cX1_common 92 = .ok (.if_icmp .gt 50, 3) := dk_163 0 50 (dk_at dksX1_common_4 0 rfl rfl)
theorem dX1_common_95 : decode cX1_common 95 = .ok (.aload_n 0, 1) := dk_42 (dk_at dksX1_common_4 3 rfl rfl)
theorem dX1_common_96 : decode cX1_common 96 = .ok (.getfield 84, 3) := dk_180 0 84 (dk_at dksX1_common_4 4 rfl rfl)
theorem dX1_common_99 : decode cX1_common 99 = .ok (.iload 7, 2) := dk_21 7 (dk_at dksX1_common_4 7 rfl rfl)
theorem dX1_common_101 : decode cX1_common 101 = .ok (.sipush 3000, 3) := dk_17 11 184 (dk_at dksX1_common_4 9 rfl rfl)
theorem dX1_common_104 : decode cX1_common 104 = .ok (.iadd, 1) := dk_96 (dk_at dksX1_common_4 12 rfl rfl)
theorem dX1_common_105 : decode cX1_common 105 = .ok (.baload, 1) := dk_51 (dk_at dksX1_common_4 13 rfl rfl)
theorem dX1_common_106 : decode cX1_common 106 = .ok (.ifCond .eq 30, 3) := dk_153 0 30 (dk_at dksX1_common_4 14 rfl rfl)
theorem dX1_common_109 : decode cX1_common 109 = .ok (.aload_n 0, 1) := dk_42 (dk_at dksX1_common_4 17 rfl rfl)
theorem dX1_common_110 : decode cX1_common 110 = .ok (.iload 7, 2) := dk_21 7 (dk_at dksX1_common_4 18 rfl rfl)
theorem dX1_common_112 : decode cX1_common 112 = .ok (.invokevirtual 285, 3) := dk_182 1 29 (dk_at dksX1_common_4 20 rfl rfl)
theorem dX1_common_115 : decode cX1_common 115 = .ok (.lconst 0, 1) := dk_9 (dk_at dksX1_common_4 23 rfl rfl)
theorem dX1_common_116 : decode cX1_common 116 = .ok (.lcmp, 1) := dk_148 (dk_at dksX1_common_5 0 rfl rfl)
theorem dX1_common_117 : decode cX1_common 117 = .ok (.ifCond .ne 6, 3) := dk_154 0 6 (dk_at dksX1_common_5 1 rfl rfl)
theorem dX1_common_120 : decode cX1_common 120 = .ok (.goto 16, 3) := dk_167 0 16 (dk_at dksX1_common_5 4 rfl rfl)
theorem dX1_common_123 : decode cX1_common 123 = .ok (.iload 6, 2) := dk_21 6 (dk_at dksX1_common_5 7 rfl rfl)
theorem dX1_common_125 : decode cX1_common 125 = .ok (.iload 5, 2) := dk_21 5 (dk_at dksX1_common_5 9 rfl rfl)
theorem dX1_common_127 : decode cX1_common 127 = .ok (.if_icmp .ne 6, 3) := dk_160 0 6 (dk_at dksX1_common_5 11 rfl rfl)
theorem dX1_common_130 : decode cX1_common 130 = .ok (.iload 7, 2) := dk_21 7 (dk_at dksX1_common_5 14 rfl rfl)
theorem dX1_common_132 : decode cX1_common 132 = .ok (.ireturn, 1) := dk_172 (dk_at dksX1_common_5 16 rfl rfl)
theorem dX1_common_133 : decode cX1_common 133 = .ok (.iinc 6 1, 3) := dk_132 6 1 (dk_at dksX1_common_5 17 rfl rfl)
theorem dX1_common_136 : decode cX1_common 136 = .ok (.iinc 7 1, 3) := dk_132 7 1 (dk_at dksX1_common_5 20 rfl rfl)
theorem dX1_common_139 : decode cX1_common 139 = .ok (.goto (-51), 3) := dk_167 255 205 (dk_at dksX1_common_6 0 rfl rfl)
theorem dX1_common_142 : decode cX1_common 142 = .ok (.iload 5, 2) := dk_21 5 (dk_at dksX1_common_6 3 rfl rfl)
theorem dX1_common_144 : decode cX1_common 144 = .ok (.iconst (-1), 1) := dk_2 (dk_at dksX1_common_6 5 rfl rfl)
theorem dX1_common_145 : decode cX1_common 145 = .ok (.if_icmp .ne 8, 3) := dk_160 0 8 (dk_at dksX1_common_6 6 rfl rfl)
theorem dX1_common_148 : decode cX1_common 148 = .ok (.iload 6, 2) := dk_21 6 (dk_at dksX1_common_6 9 rfl rfl)
theorem dX1_common_150 : decode cX1_common 150 = .ok (.goto 6, 3) := dk_167 0 6 (dk_at dksX1_common_6 11 rfl rfl)
theorem dX1_common_153 : decode cX1_common 153 = .ok (.ldc_w 321, 3) := dk_19 1 65 (dk_at dksX1_common_6 14 rfl rfl)
theorem dX1_common_156 : decode cX1_common 156 = .ok (.ireturn, 1) := dk_172 (dk_at dksX1_common_6 17 rfl rfl)
abbrev cX1_gap : ByteArray := prog_24_method_92_code
def yX1_gap : MethodName := ⟨RX1, "gap", "(IIII)I"⟩
def dkwX1_gap_4 : List UInt8 := [100, 4, 96, 54, 6, 132, 8, 1, 167, 255, 203, 21, 4, 154, 0, 8, 21, 5, 167, 0, 5, 21, 6, 172]
abbrev dktX1_gap_4 : List UInt8 := dkwX1_gap_4 ++ []
def dkwX1_gap_3 : List UInt8 := [21, 7, 4, 96, 54, 7, 21, 7, 21, 5, 163, 0, 6, 167, 0, 16, 21, 7, 54, 5, 21, 8, 21, 7]
abbrev dktX1_gap_3 : List UInt8 := dkwX1_gap_3 ++ dktX1_gap_4
def dkwX1_gap_2 : List UInt8 := [54, 8, 21, 8, 29, 163, 0, 53, 42, 21, 8, 182, 1, 29, 9, 148, 158, 0, 7, 3, 167, 0, 7]
abbrev dktX1_gap_2 : List UInt8 := dkwX1_gap_2 ++ dktX1_gap_3
def dkwX1_gap_1 : List UInt8 := [154, 0, 7, 19, 1, 65, 172, 42, 27, 182, 1, 26, 3, 54, 5, 19, 1, 65, 54, 6, 3, 54, 7, 28]
abbrev dktX1_gap_1 : List UInt8 := dkwX1_gap_1 ++ dktX1_gap_2
def dkwX1_gap_0 : List UInt8 := [42, 27, 182, 1, 18, 153, 0, 22, 28, 29, 184, 1, 161, 153, 0, 14, 21, 4, 133, 9, 10, 184, 0, 105]
abbrev dktX1_gap_0 : List UInt8 := dkwX1_gap_0 ++ dktX1_gap_1
theorem dksX1_gap_0 : cX1_gap.data.toList.drop 0 = dktX1_gap_0 := by decide +kernel
theorem dksX1_gap_1 : cX1_gap.data.toList.drop 24 = dktX1_gap_1 := dk_seg dksX1_gap_0 24 rfl rfl
theorem dksX1_gap_2 : cX1_gap.data.toList.drop 48 = dktX1_gap_2 := dk_seg dksX1_gap_1 24 rfl rfl
theorem dksX1_gap_3 : cX1_gap.data.toList.drop 71 = dktX1_gap_3 := dk_seg dksX1_gap_2 23 rfl rfl
theorem dksX1_gap_4 : cX1_gap.data.toList.drop 95 = dktX1_gap_4 := dk_seg dksX1_gap_3 24 rfl rfl
theorem dX1_gap_0 : decode cX1_gap 0 = .ok (.aload_n 0, 1) := dk_42 (dk_at dksX1_gap_0 0 rfl rfl)
theorem dX1_gap_1 : decode cX1_gap 1 = .ok (.iload_n 1, 1) := dk_27 (dk_at dksX1_gap_0 1 rfl rfl)
theorem dX1_gap_2 : decode cX1_gap 2 = .ok (.invokevirtual 274, 3) := dk_182 1 18 (dk_at dksX1_gap_0 2 rfl rfl)
theorem dX1_gap_5 : decode cX1_gap 5 = .ok (.ifCond .eq 22, 3) := dk_153 0 22 (dk_at dksX1_gap_0 5 rfl rfl)
theorem dX1_gap_8 : decode cX1_gap 8 = .ok (.iload_n 2, 1) := dk_28 (dk_at dksX1_gap_0 8 rfl rfl)
theorem dX1_gap_9 : decode cX1_gap 9 = .ok (.iload_n 3, 1) := dk_29 (dk_at dksX1_gap_0 9 rfl rfl)
theorem dX1_gap_10 : decode cX1_gap 10 = .ok (.invokestatic 417, 3) := dk_184 1 161 (dk_at dksX1_gap_0 10 rfl rfl)
theorem dX1_gap_13 : decode cX1_gap 13 = .ok (.ifCond .eq 14, 3) := dk_153 0 14 (dk_at dksX1_gap_0 13 rfl rfl)
theorem dX1_gap_16 : decode cX1_gap 16 = .ok (.iload 4, 2) := dk_21 4 (dk_at dksX1_gap_0 16 rfl rfl)
theorem dX1_gap_18 : decode cX1_gap 18 = .ok (.i2l, 1) := dk_133 (dk_at dksX1_gap_0 18 rfl rfl)
theorem dX1_gap_19 : decode cX1_gap 19 = .ok (.lconst 0, 1) := dk_9 (dk_at dksX1_gap_0 19 rfl rfl)
theorem dX1_gap_20 : decode cX1_gap 20 = .ok (.lconst 1, 1) := dk_10 (dk_at dksX1_gap_0 20 rfl rfl)
theorem dX1_gap_21 : decode cX1_gap 21 = .ok (.invokestatic 105, 3) := dk_184 0 105 (dk_at dksX1_gap_0 21 rfl rfl)
theorem dX1_gap_24 : decode cX1_gap 24 = .ok (.ifCond .ne 7, 3) := dk_154 0 7 (dk_at dksX1_gap_1 0 rfl rfl)
theorem dX1_gap_27 : decode cX1_gap 27 = .ok (.ldc_w 321, 3) := dk_19 1 65 (dk_at dksX1_gap_1 3 rfl rfl)
theorem dX1_gap_30 : decode cX1_gap 30 = .ok (.ireturn, 1) := dk_172 (dk_at dksX1_gap_1 6 rfl rfl)
theorem dX1_gap_31 : decode cX1_gap 31 = .ok (.aload_n 0, 1) := dk_42 (dk_at dksX1_gap_1 7 rfl rfl)
theorem dX1_gap_32 : decode cX1_gap 32 = .ok (.iload_n 1, 1) := dk_27 (dk_at dksX1_gap_1 8 rfl rfl)
theorem dX1_gap_33 : decode cX1_gap 33 = .ok (.invokevirtual 282, 3) := dk_182 1 26 (dk_at dksX1_gap_1 9 rfl rfl)
theorem dX1_gap_36 : decode cX1_gap 36 = .ok (.iconst 0, 1) := dk_3 (dk_at dksX1_gap_1 12 rfl rfl)
theorem dX1_gap_37 : decode cX1_gap 37 = .ok (.istore 5, 2) := dk_54 5 (dk_at dksX1_gap_1 13 rfl rfl)
theorem dX1_gap_39 : decode cX1_gap 39 = .ok (.ldc_w 321, 3) := dk_19 1 65 (dk_at dksX1_gap_1 15 rfl rfl)
theorem dX1_gap_42 : decode cX1_gap 42 = .ok (.istore 6, 2) := dk_54 6 (dk_at dksX1_gap_1 18 rfl rfl)
theorem dX1_gap_44 : decode cX1_gap 44 = .ok (.iconst 0, 1) := dk_3 (dk_at dksX1_gap_1 20 rfl rfl)
theorem dX1_gap_45 : decode cX1_gap 45 = .ok (.istore 7, 2) := dk_54 7 (dk_at dksX1_gap_1 21 rfl rfl)
theorem dX1_gap_47 : decode cX1_gap 47 = .ok (.iload_n 2, 1) := dk_28 (dk_at dksX1_gap_1 23 rfl rfl)
theorem dX1_gap_48 : decode cX1_gap 48 = .ok (.istore 8, 2) := dk_54 8 (dk_at dksX1_gap_2 0 rfl rfl)
theorem dX1_gap_50 : decode cX1_gap 50 = .ok (.iload 8, 2) := dk_21 8 (dk_at dksX1_gap_2 2 rfl rfl)
theorem dX1_gap_52 : decode cX1_gap 52 = .ok (.iload_n 3, 1) := dk_29 (dk_at dksX1_gap_2 4 rfl rfl)
theorem dX1_gap_53 : decode cX1_gap 53 = .ok (.if_icmp .gt 53, 3) := dk_163 0 53 (dk_at dksX1_gap_2 5 rfl rfl)
theorem dX1_gap_56 : decode cX1_gap 56 = .ok (.aload_n 0, 1) := dk_42 (dk_at dksX1_gap_2 8 rfl rfl)
theorem dX1_gap_57 : decode cX1_gap 57 = .ok (.iload 8, 2) := dk_21 8 (dk_at dksX1_gap_2 9 rfl rfl)
theorem dX1_gap_59 : decode cX1_gap 59 = .ok (.invokevirtual 285, 3) := dk_182 1 29 (dk_at dksX1_gap_2 11 rfl rfl)
theorem dX1_gap_62 : decode cX1_gap 62 = .ok (.lconst 0, 1) := dk_9 (dk_at dksX1_gap_2 14 rfl rfl)
theorem dX1_gap_63 : decode cX1_gap 63 = .ok (.lcmp, 1) := dk_148 (dk_at dksX1_gap_2 15 rfl rfl)
theorem dX1_gap_64 : decode cX1_gap 64 = .ok (.ifCond .le 7, 3) := dk_158 0 7 (dk_at dksX1_gap_2 16 rfl rfl)
theorem dX1_gap_67 : decode cX1_gap 67 = .ok (.iconst 0, 1) := dk_3 (dk_at dksX1_gap_2 19 rfl rfl)
theorem dX1_gap_68 : decode cX1_gap 68 = .ok (.goto 7, 3) := dk_167 0 7 (dk_at dksX1_gap_2 20 rfl rfl)
theorem dX1_gap_71 : decode cX1_gap 71 = .ok (.iload 7, 2) := dk_21 7 (dk_at dksX1_gap_3 0 rfl rfl)
theorem dX1_gap_73 : decode cX1_gap 73 = .ok (.iconst 1, 1) := dk_4 (dk_at dksX1_gap_3 2 rfl rfl)
theorem dX1_gap_74 : decode cX1_gap 74 = .ok (.iadd, 1) := dk_96 (dk_at dksX1_gap_3 3 rfl rfl)
theorem dX1_gap_75 : decode cX1_gap 75 = .ok (.istore 7, 2) := dk_54 7 (dk_at dksX1_gap_3 4 rfl rfl)
theorem dX1_gap_77 : decode cX1_gap 77 = .ok (.iload 7, 2) := dk_21 7 (dk_at dksX1_gap_3 6 rfl rfl)
theorem dX1_gap_79 : decode cX1_gap 79 = .ok (.iload 5, 2) := dk_21 5 (dk_at dksX1_gap_3 8 rfl rfl)
theorem dX1_gap_81 : decode cX1_gap 81 = .ok (.if_icmp .gt 6, 3) := dk_163 0 6 (dk_at dksX1_gap_3 10 rfl rfl)
theorem dX1_gap_84 : decode cX1_gap 84 = .ok (.goto 16, 3) := dk_167 0 16 (dk_at dksX1_gap_3 13 rfl rfl)
theorem dX1_gap_87 : decode cX1_gap 87 = .ok (.iload 7, 2) := dk_21 7 (dk_at dksX1_gap_3 16 rfl rfl)
theorem dX1_gap_89 : decode cX1_gap 89 = .ok (.istore 5, 2) := dk_54 5 (dk_at dksX1_gap_3 18 rfl rfl)
theorem dX1_gap_91 : decode cX1_gap 91 = .ok (.iload 8, 2) := dk_21 8 (dk_at dksX1_gap_3 20 rfl rfl)
theorem dX1_gap_93 : decode cX1_gap 93 = .ok (.iload 7, 2) := dk_21 7 (dk_at dksX1_gap_3 22 rfl rfl)
theorem dX1_gap_95 : decode cX1_gap 95 = .ok (.isub, 1) := dk_100 (dk_at dksX1_gap_4 0 rfl rfl)
theorem dX1_gap_96 : decode cX1_gap 96 = .ok (.iconst 1, 1) := dk_4 (dk_at dksX1_gap_4 1 rfl rfl)
theorem dX1_gap_97 : decode cX1_gap 97 = .ok (.iadd, 1) := dk_96 (dk_at dksX1_gap_4 2 rfl rfl)
theorem dX1_gap_98 : decode cX1_gap 98 = .ok (.istore 6, 2) := dk_54 6 (dk_at dksX1_gap_4 3 rfl rfl)
theorem dX1_gap_100 : decode cX1_gap 100 = .ok (.iinc 8 1, 3) := dk_132 8 1 (dk_at dksX1_gap_4 5 rfl rfl)
theorem dX1_gap_103 : decode cX1_gap 103 = .ok (.goto (-53), 3) := dk_167 255 203 (dk_at dksX1_gap_4 8 rfl rfl)
theorem dX1_gap_106 : decode cX1_gap 106 = .ok (.iload 4, 2) := dk_21 4 (dk_at dksX1_gap_4 11 rfl rfl)
theorem dX1_gap_108 : decode cX1_gap 108 = .ok (.ifCond .ne 8, 3) := dk_154 0 8 (dk_at dksX1_gap_4 13 rfl rfl)
theorem dX1_gap_111 : decode cX1_gap 111 = .ok (.iload 5, 2) := dk_21 5 (dk_at dksX1_gap_4 16 rfl rfl)
theorem dX1_gap_113 : decode cX1_gap 113 = .ok (.goto 5, 3) := dk_167 0 5 (dk_at dksX1_gap_4 18 rfl rfl)
theorem dX1_gap_116 : decode cX1_gap 116 = .ok (.iload 6, 2) := dk_21 6 (dk_at dksX1_gap_4 21 rfl rfl)
theorem dX1_gap_118 : decode cX1_gap 118 = .ok (.ireturn, 1) := dk_172 (dk_at dksX1_gap_4 23 rfl rfl)
abbrev cX1_rank : ByteArray := prog_24_method_93_code
def yX1_rank : MethodName := ⟨RX1, "rank", "(IIII)I"⟩
def dkwX1_rank_6 : List UInt8 := [132, 5, 1, 167, 255, 167, 19, 1, 65, 172]
abbrev dktX1_rank_6 : List UInt8 := dkwX1_rank_6 ++ []
def dkwX1_rank_5 : List UInt8 := [184, 1, 150, 96, 54, 6, 132, 7, 1, 167, 255, 195, 21, 6, 21, 4, 160, 0, 6, 21, 5, 172]
abbrev dktX1_rank_5 : List UInt8 := dkwX1_rank_5 ++ dktX1_rank_6
def dkwX1_rank_4 : List UInt8 := [42, 21, 5, 182, 1, 29, 148, 154, 0, 14, 21, 7, 21, 5, 162, 0, 7, 4, 167, 0, 4, 3]
abbrev dktX1_rank_4 : List UInt8 := dkwX1_rank_4 ++ dktX1_rank_5
def dkwX1_rank_3 : List UInt8 := [21, 6, 42, 21, 7, 182, 1, 29, 42, 21, 5, 182, 1, 29, 148, 157, 0, 26, 42, 21, 7, 182, 1, 29]
abbrev dktX1_rank_3 : List UInt8 := dkwX1_rank_3 ++ dktX1_rank_4
def dkwX1_rank_2 : List UInt8 := [182, 1, 26, 28, 54, 5, 21, 5, 29, 163, 0, 89, 3, 54, 6, 28, 54, 7, 21, 7, 29, 163, 0, 61]
abbrev dktX1_rank_2 : List UInt8 := dkwX1_rank_2 ++ dktX1_rank_3
def dkwX1_rank_1 : List UInt8 := [162, 0, 17, 21, 4, 133, 9, 29, 28, 100, 133, 184, 0, 105, 154, 0, 7, 19, 1, 65, 172, 42, 27]
abbrev dktX1_rank_1 : List UInt8 := dkwX1_rank_1 ++ dktX1_rank_2
def dkwX1_rank_0 : List UInt8 := [42, 27, 182, 1, 18, 153, 0, 34, 28, 29, 184, 1, 161, 153, 0, 26, 29, 28, 100, 17, 0, 200]
abbrev dktX1_rank_0 : List UInt8 := dkwX1_rank_0 ++ dktX1_rank_1
theorem dksX1_rank_0 : cX1_rank.data.toList.drop 0 = dktX1_rank_0 := by decide +kernel
theorem dksX1_rank_1 : cX1_rank.data.toList.drop 22 = dktX1_rank_1 := dk_seg dksX1_rank_0 22 rfl rfl
theorem dksX1_rank_2 : cX1_rank.data.toList.drop 45 = dktX1_rank_2 := dk_seg dksX1_rank_1 23 rfl rfl
theorem dksX1_rank_3 : cX1_rank.data.toList.drop 69 = dktX1_rank_3 := dk_seg dksX1_rank_2 24 rfl rfl
theorem dksX1_rank_4 : cX1_rank.data.toList.drop 93 = dktX1_rank_4 := dk_seg dksX1_rank_3 24 rfl rfl
theorem dksX1_rank_5 : cX1_rank.data.toList.drop 115 = dktX1_rank_5 := dk_seg dksX1_rank_4 22 rfl rfl
theorem dksX1_rank_6 : cX1_rank.data.toList.drop 137 = dktX1_rank_6 := dk_seg dksX1_rank_5 22 rfl rfl
theorem dX1_rank_0 : decode cX1_rank 0 = .ok (.aload_n 0, 1) := dk_42 (dk_at dksX1_rank_0 0 rfl rfl)
theorem dX1_rank_1 : decode cX1_rank 1 = .ok (.iload_n 1, 1) := dk_27 (dk_at dksX1_rank_0 1 rfl rfl)
theorem dX1_rank_2 : decode cX1_rank 2 = .ok (.invokevirtual 274, 3) := dk_182 1 18 (dk_at dksX1_rank_0 2 rfl rfl)
theorem dX1_rank_5 : decode cX1_rank 5 = .ok (.ifCond .eq 34, 3) := dk_153 0 34 (dk_at dksX1_rank_0 5 rfl rfl)
theorem dX1_rank_8 : decode cX1_rank 8 = .ok (.iload_n 2, 1) := dk_28 (dk_at dksX1_rank_0 8 rfl rfl)
theorem dX1_rank_9 : decode cX1_rank 9 = .ok (.iload_n 3, 1) := dk_29 (dk_at dksX1_rank_0 9 rfl rfl)
theorem dX1_rank_10 : decode cX1_rank 10 = .ok (.invokestatic 417, 3) := dk_184 1 161 (dk_at dksX1_rank_0 10 rfl rfl)
theorem dX1_rank_13 : decode cX1_rank 13 = .ok (.ifCond .eq 26, 3) := dk_153 0 26 (dk_at dksX1_rank_0 13 rfl rfl)
theorem dX1_rank_16 : decode cX1_rank 16 = .ok (.iload_n 3, 1) := dk_29 (dk_at dksX1_rank_0 16 rfl rfl)
theorem dX1_rank_17 : decode cX1_rank 17 = .ok (.iload_n 2, 1) := dk_28 (dk_at dksX1_rank_0 17 rfl rfl)
theorem dX1_rank_18 : decode cX1_rank 18 = .ok (.isub, 1) := dk_100 (dk_at dksX1_rank_0 18 rfl rfl)
theorem dX1_rank_19 : decode cX1_rank 19 = .ok (.sipush 200, 3) := dk_17 0 200 (dk_at dksX1_rank_0 19 rfl rfl)
theorem dX1_rank_22 : decode cX1_rank 22 = .ok (.if_icmp .ge 17, 3) := dk_162 0 17 (dk_at dksX1_rank_1 0 rfl rfl)
theorem dX1_rank_25 : decode cX1_rank 25 = .ok (.iload 4, 2) := dk_21 4 (dk_at dksX1_rank_1 3 rfl rfl)
theorem dX1_rank_27 : decode cX1_rank 27 = .ok (.i2l, 1) := dk_133 (dk_at dksX1_rank_1 5 rfl rfl)
theorem dX1_rank_28 : decode cX1_rank 28 = .ok (.lconst 0, 1) := dk_9 (dk_at dksX1_rank_1 6 rfl rfl)
theorem dX1_rank_29 : decode cX1_rank 29 = .ok (.iload_n 3, 1) := dk_29 (dk_at dksX1_rank_1 7 rfl rfl)
theorem dX1_rank_30 : decode cX1_rank 30 = .ok (.iload_n 2, 1) := dk_28 (dk_at dksX1_rank_1 8 rfl rfl)
theorem dX1_rank_31 : decode cX1_rank 31 = .ok (.isub, 1) := dk_100 (dk_at dksX1_rank_1 9 rfl rfl)
theorem dX1_rank_32 : decode cX1_rank 32 = .ok (.i2l, 1) := dk_133 (dk_at dksX1_rank_1 10 rfl rfl)
theorem dX1_rank_33 : decode cX1_rank 33 = .ok (.invokestatic 105, 3) := dk_184 0 105 (dk_at dksX1_rank_1 11 rfl rfl)
theorem dX1_rank_36 : decode cX1_rank 36 = .ok (.ifCond .ne 7, 3) := dk_154 0 7 (dk_at dksX1_rank_1 14 rfl rfl)
theorem dX1_rank_39 : decode cX1_rank 39 = .ok (.ldc_w 321, 3) := dk_19 1 65 (dk_at dksX1_rank_1 17 rfl rfl)
theorem dX1_rank_42 : decode cX1_rank 42 = .ok (.ireturn, 1) := dk_172 (dk_at dksX1_rank_1 20 rfl rfl)
theorem dX1_rank_43 : decode cX1_rank 43 = .ok (.aload_n 0, 1) := dk_42 (dk_at dksX1_rank_1 21 rfl rfl)
theorem dX1_rank_44 : decode cX1_rank 44 = .ok (.iload_n 1, 1) := dk_27 (dk_at dksX1_rank_1 22 rfl rfl)
theorem dX1_rank_45 : decode cX1_rank 45 = .ok (.invokevirtual 282, 3) := dk_182 1 26 (dk_at dksX1_rank_2 0 rfl rfl)
theorem dX1_rank_48 : decode cX1_rank 48 = .ok (.iload_n 2, 1) := dk_28 (dk_at dksX1_rank_2 3 rfl rfl)
theorem dX1_rank_49 : decode cX1_rank 49 = .ok (.istore 5, 2) := dk_54 5 (dk_at dksX1_rank_2 4 rfl rfl)
theorem dX1_rank_51 : decode cX1_rank 51 = .ok (.iload 5, 2) := dk_21 5 (dk_at dksX1_rank_2 6 rfl rfl)
theorem dX1_rank_53 : decode cX1_rank 53 = .ok (.iload_n 3, 1) := dk_29 (dk_at dksX1_rank_2 8 rfl rfl)
theorem dX1_rank_54 : decode cX1_rank 54 = .ok (.if_icmp .gt 89, 3) := dk_163 0 89 (dk_at dksX1_rank_2 9 rfl rfl)
theorem dX1_rank_57 : decode cX1_rank 57 = .ok (.iconst 0, 1) := dk_3 (dk_at dksX1_rank_2 12 rfl rfl)
theorem dX1_rank_58 : decode cX1_rank 58 = .ok (.istore 6, 2) := dk_54 6 (dk_at dksX1_rank_2 13 rfl rfl)
theorem dX1_rank_60 : decode cX1_rank 60 = .ok (.iload_n 2, 1) := dk_28 (dk_at dksX1_rank_2 15 rfl rfl)
theorem dX1_rank_61 : decode cX1_rank 61 = .ok (.istore 7, 2) := dk_54 7 (dk_at dksX1_rank_2 16 rfl rfl)
theorem dX1_rank_63 : decode cX1_rank 63 = .ok (.iload 7, 2) := dk_21 7 (dk_at dksX1_rank_2 18 rfl rfl)
theorem dX1_rank_65 : decode cX1_rank 65 = .ok (.iload_n 3, 1) := dk_29 (dk_at dksX1_rank_2 20 rfl rfl)
theorem dX1_rank_66 : decode cX1_rank 66 = .ok (.if_icmp .gt 61, 3) := dk_163 0 61 (dk_at dksX1_rank_2 21 rfl rfl)
theorem dX1_rank_69 : decode cX1_rank 69 = .ok (.iload 6, 2) := dk_21 6 (dk_at dksX1_rank_3 0 rfl rfl)
theorem dX1_rank_71 : decode cX1_rank 71 = .ok (.aload_n 0, 1) := dk_42 (dk_at dksX1_rank_3 2 rfl rfl)
theorem dX1_rank_72 : decode cX1_rank 72 = .ok (.iload 7, 2) := dk_21 7 (dk_at dksX1_rank_3 3 rfl rfl)
theorem dX1_rank_74 : decode cX1_rank 74 = .ok (.invokevirtual 285, 3) := dk_182 1 29 (dk_at dksX1_rank_3 5 rfl rfl)
theorem dX1_rank_77 : decode cX1_rank 77 = .ok (.aload_n 0, 1) := dk_42 (dk_at dksX1_rank_3 8 rfl rfl)
theorem dX1_rank_78 : decode cX1_rank 78 = .ok (.iload 5, 2) := dk_21 5 (dk_at dksX1_rank_3 9 rfl rfl)
theorem dX1_rank_80 : decode cX1_rank 80 = .ok (.invokevirtual 285, 3) := dk_182 1 29 (dk_at dksX1_rank_3 11 rfl rfl)
theorem dX1_rank_83 : decode cX1_rank 83 = .ok (.lcmp, 1) := dk_148 (dk_at dksX1_rank_3 14 rfl rfl)
theorem dX1_rank_84 : decode cX1_rank 84 = .ok (.ifCond .gt 26, 3) := dk_157 0 26 (dk_at dksX1_rank_3 15 rfl rfl)
theorem dX1_rank_87 : decode cX1_rank 87 = .ok (.aload_n 0, 1) := dk_42 (dk_at dksX1_rank_3 18 rfl rfl)
theorem dX1_rank_88 : decode cX1_rank 88 = .ok (.iload 7, 2) := dk_21 7 (dk_at dksX1_rank_3 19 rfl rfl)
theorem dX1_rank_90 : decode cX1_rank 90 = .ok (.invokevirtual 285, 3) := dk_182 1 29 (dk_at dksX1_rank_3 21 rfl rfl)
theorem dX1_rank_93 : decode cX1_rank 93 = .ok (.aload_n 0, 1) := dk_42 (dk_at dksX1_rank_4 0 rfl rfl)
theorem dX1_rank_94 : decode cX1_rank 94 = .ok (.iload 5, 2) := dk_21 5 (dk_at dksX1_rank_4 1 rfl rfl)
theorem dX1_rank_96 : decode cX1_rank 96 = .ok (.invokevirtual 285, 3) := dk_182 1 29 (dk_at dksX1_rank_4 3 rfl rfl)
theorem dX1_rank_99 : decode cX1_rank 99 = .ok (.lcmp, 1) := dk_148 (dk_at dksX1_rank_4 6 rfl rfl)
theorem dX1_rank_100 : decode cX1_rank 100 = .ok (.ifCond .ne 14, 3) := dk_154 0 14 (dk_at dksX1_rank_4 7 rfl rfl)
theorem dX1_rank_103 : decode cX1_rank 103 = .ok (.iload 7, 2) := dk_21 7 (dk_at dksX1_rank_4 10 rfl rfl)
theorem dX1_rank_105 : decode cX1_rank 105 = .ok (.iload 5, 2) := dk_21 5 (dk_at dksX1_rank_4 12 rfl rfl)
theorem dX1_rank_107 : decode cX1_rank 107 = .ok (.if_icmp .ge 7, 3) := dk_162 0 7 (dk_at dksX1_rank_4 14 rfl rfl)
theorem dX1_rank_110 : decode cX1_rank 110 = .ok (.iconst 1, 1) := dk_4 (dk_at dksX1_rank_4 17 rfl rfl)
theorem dX1_rank_111 : decode cX1_rank 111 = .ok (.goto 4, 3) := dk_167 0 4 (dk_at dksX1_rank_4 18 rfl rfl)
theorem dX1_rank_114 : decode cX1_rank 114 = .ok (.iconst 0, 1) := dk_3 (dk_at dksX1_rank_4 21 rfl rfl)
theorem dX1_rank_115 : decode cX1_rank 115 = .ok (.invokestatic 406, 3) := dk_184 1 150 (dk_at dksX1_rank_5 0 rfl rfl)
theorem dX1_rank_118 : decode cX1_rank 118 = .ok (.iadd, 1) := dk_96 (dk_at dksX1_rank_5 3 rfl rfl)
theorem dX1_rank_119 : decode cX1_rank 119 = .ok (.istore 6, 2) := dk_54 6 (dk_at dksX1_rank_5 4 rfl rfl)
theorem dX1_rank_121 : decode cX1_rank 121 = .ok (.iinc 7 1, 3) := dk_132 7 1 (dk_at dksX1_rank_5 6 rfl rfl)
theorem dX1_rank_124 : decode cX1_rank 124 = .ok (.goto (-61), 3) := dk_167 255 195 (dk_at dksX1_rank_5 9 rfl rfl)
theorem dX1_rank_127 : decode cX1_rank 127 = .ok (.iload 6, 2) := dk_21 6 (dk_at dksX1_rank_5 12 rfl rfl)
theorem dX1_rank_129 : decode cX1_rank 129 = .ok (.iload 4, 2) := dk_21 4 (dk_at dksX1_rank_5 14 rfl rfl)
theorem dX1_rank_131 : decode cX1_rank 131 = .ok (.if_icmp .ne 6, 3) := dk_160 0 6 (dk_at dksX1_rank_5 16 rfl rfl)
theorem dX1_rank_134 : decode cX1_rank 134 = .ok (.iload 5, 2) := dk_21 5 (dk_at dksX1_rank_5 19 rfl rfl)
theorem dX1_rank_136 : decode cX1_rank 136 = .ok (.ireturn, 1) := dk_172 (dk_at dksX1_rank_5 21 rfl rfl)
theorem dX1_rank_137 : decode cX1_rank 137 = .ok (.iinc 5 1, 3) := dk_132 5 1 (dk_at dksX1_rank_6 0 rfl rfl)
theorem dX1_rank_140 : decode cX1_rank 140 = .ok (.goto (-89), 3) := dk_167 255 167 (dk_at dksX1_rank_6 3 rfl rfl)
theorem dX1_rank_143 : decode cX1_rank 143 = .ok (.ldc_w 321, 3) := dk_19 1 65 (dk_at dksX1_rank_6 6 rfl rfl)
theorem dX1_rank_146 : decode cX1_rank 146 = .ok (.ireturn, 1) := dk_172 (dk_at dksX1_rank_6 9 rfl rfl)
abbrev cX1_spell : ByteArray := prog_24_method_98_code
def yX1_spell : MethodName := ⟨RX1, "spell", "(I)I"⟩
def dkwX1_spell_6 : List UInt8 := [42, 180, 1, 186, 172]
abbrev dktX1_spell_6 : List UInt8 := dkwX1_spell_6 ++ []
def dkwX1_spell_5 : List UInt8 := [42, 19, 1, 204, 182, 1, 192, 42, 42, 27, 28, 6, 182, 0, 93, 182, 1, 196, 132, 2, 1, 167, 255, 134]
abbrev dktX1_spell_5 : List UInt8 := dkwX1_spell_5 ++ dktX1_spell_6
def dkwX1_spell_4 : List UInt8 := [160, 0, 6, 167, 0, 39, 42, 19, 1, 202, 182, 1, 192, 42, 42, 27, 28, 5, 182, 0, 93, 182, 1, 196]
abbrev dktX1_spell_4 : List UInt8 := dkwX1_spell_4 ++ dktX1_spell_5
def dkwX1_spell_3 : List UInt8 := [182, 0, 93, 154, 0, 27, 42, 27, 28, 6, 182, 0, 93, 29, 42, 27, 28, 4, 182, 0, 93, 184, 0, 223]
abbrev dktX1_spell_3 : List UInt8 := dkwX1_spell_3 ++ dktX1_spell_4
def dkwX1_spell_2 : List UInt8 := [159, 0, 8, 42, 29, 182, 1, 196, 42, 42, 27, 28, 4, 182, 0, 93, 182, 1, 199, 42, 27, 28, 5]
abbrev dktX1_spell_2 : List UInt8 := dkwX1_spell_2 ++ dktX1_spell_3
def dkwX1_spell_1 : List UInt8 := [162, 0, 118, 28, 158, 0, 9, 42, 16, 43, 182, 1, 189, 42, 27, 28, 3, 182, 0, 93, 62, 29, 4]
abbrev dktX1_spell_1 : List UInt8 := dkwX1_spell_1 ++ dktX1_spell_2
def dkwX1_spell_0 : List UInt8 := [42, 27, 182, 1, 18, 154, 0, 5, 2, 172, 42, 3, 181, 1, 186, 3, 61, 28, 42, 180, 0, 9, 27, 46]
abbrev dktX1_spell_0 : List UInt8 := dkwX1_spell_0 ++ dktX1_spell_1
theorem dksX1_spell_0 : cX1_spell.data.toList.drop 0 = dktX1_spell_0 := by decide +kernel
theorem dksX1_spell_1 : cX1_spell.data.toList.drop 24 = dktX1_spell_1 := dk_seg dksX1_spell_0 24 rfl rfl
theorem dksX1_spell_2 : cX1_spell.data.toList.drop 47 = dktX1_spell_2 := dk_seg dksX1_spell_1 23 rfl rfl
theorem dksX1_spell_3 : cX1_spell.data.toList.drop 70 = dktX1_spell_3 := dk_seg dksX1_spell_2 23 rfl rfl
theorem dksX1_spell_4 : cX1_spell.data.toList.drop 94 = dktX1_spell_4 := dk_seg dksX1_spell_3 24 rfl rfl
theorem dksX1_spell_5 : cX1_spell.data.toList.drop 118 = dktX1_spell_5 := dk_seg dksX1_spell_4 24 rfl rfl
theorem dksX1_spell_6 : cX1_spell.data.toList.drop 142 = dktX1_spell_6 := dk_seg dksX1_spell_5 24 rfl rfl
theorem dX1_spell_0 : decode cX1_spell 0 = .ok (.aload_n 0, 1) := dk_42 (dk_at dksX1_spell_0 0 rfl rfl)
theorem dX1_spell_1 : decode cX1_spell 1 = .ok (.iload_n 1, 1) := dk_27 (dk_at dksX1_spell_0 1 rfl rfl)
theorem dX1_spell_2 : decode cX1_spell 2 = .ok (.invokevirtual 274, 3) := dk_182 1 18 (dk_at dksX1_spell_0 2 rfl rfl)
theorem dX1_spell_5 : decode cX1_spell 5 = .ok (.ifCond .ne 5, 3) := dk_154 0 5 (dk_at dksX1_spell_0 5 rfl rfl)
theorem dX1_spell_8 : decode cX1_spell 8 = .ok (.iconst (-1), 1) := dk_2 (dk_at dksX1_spell_0 8 rfl rfl)
theorem dX1_spell_9 : decode cX1_spell 9 = .ok (.ireturn, 1) := dk_172 (dk_at dksX1_spell_0 9 rfl rfl)
theorem dX1_spell_10 : decode cX1_spell 10 = .ok (.aload_n 0, 1) := dk_42 (dk_at dksX1_spell_0 10 rfl rfl)
theorem dX1_spell_11 : decode cX1_spell 11 = .ok (.iconst 0, 1) := dk_3 (dk_at dksX1_spell_0 11 rfl rfl)
theorem dX1_spell_12 : decode cX1_spell 12 = .ok (.putfield 442, 3) := dk_181 1 186 (dk_at dksX1_spell_0 12 rfl rfl)
theorem dX1_spell_15 : decode cX1_spell 15 = .ok (.iconst 0, 1) := dk_3 (dk_at dksX1_spell_0 15 rfl rfl)
theorem dX1_spell_16 : decode cX1_spell 16 = .ok (.istore_n 2, 1) := dk_61 (dk_at dksX1_spell_0 16 rfl rfl)
theorem dX1_spell_17 : decode cX1_spell 17 = .ok (.iload_n 2, 1) := dk_28 (dk_at dksX1_spell_0 17 rfl rfl)
theorem dX1_spell_18 : decode cX1_spell 18 = .ok (.aload_n 0, 1) := dk_42 (dk_at dksX1_spell_0 18 rfl rfl)
theorem dX1_spell_19 : decode cX1_spell 19 = .ok (.getfield 9, 3) := dk_180 0 9 (dk_at dksX1_spell_0 19 rfl rfl)
theorem dX1_spell_22 : decode cX1_spell 22 = .ok (.iload_n 1, 1) := dk_27 (dk_at dksX1_spell_0 22 rfl rfl)
theorem dX1_spell_23 : decode cX1_spell 23 = .ok (.iaload, 1) := dk_46 (dk_at dksX1_spell_0 23 rfl rfl)
theorem dX1_spell_24 : decode cX1_spell 24 = .ok (.if_icmp .ge 118, 3) := dk_162 0 118 (dk_at dksX1_spell_1 0 rfl rfl)
theorem dX1_spell_27 : decode cX1_spell 27 = .ok (.iload_n 2, 1) := dk_28 (dk_at dksX1_spell_1 3 rfl rfl)
theorem dX1_spell_28 : decode cX1_spell 28 = .ok (.ifCond .le 9, 3) := dk_158 0 9 (dk_at dksX1_spell_1 4 rfl rfl)
theorem dX1_spell_31 : decode cX1_spell 31 = .ok (.aload_n 0, 1) := dk_42 (dk_at dksX1_spell_1 7 rfl rfl)
theorem dX1_spell_32 : decode cX1_spell 32 = .ok (.bipush 43, 2) := dk_16 43 (dk_at dksX1_spell_1 8 rfl rfl)
theorem dX1_spell_34 : decode cX1_spell 34 = .ok (.invokevirtual 445, 3) := dk_182 1 189 (dk_at dksX1_spell_1 10 rfl rfl)
theorem dX1_spell_37 : decode cX1_spell 37 = .ok (.aload_n 0, 1) := dk_42 (dk_at dksX1_spell_1 13 rfl rfl)
theorem dX1_spell_38 : decode cX1_spell 38 = .ok (.iload_n 1, 1) := dk_27 (dk_at dksX1_spell_1 14 rfl rfl)
theorem dX1_spell_39 : decode cX1_spell 39 = .ok (.iload_n 2, 1) := dk_28 (dk_at dksX1_spell_1 15 rfl rfl)
theorem dX1_spell_40 : decode cX1_spell 40 = .ok (.iconst 0, 1) := dk_3 (dk_at dksX1_spell_1 16 rfl rfl)
theorem dX1_spell_41 : decode cX1_spell 41 = .ok (.invokevirtual 93, 3) := dk_182 0 93 (dk_at dksX1_spell_1 17 rfl rfl)
theorem dX1_spell_44 : decode cX1_spell 44 = .ok (.istore_n 3, 1) := dk_62 (dk_at dksX1_spell_1 20 rfl rfl)
theorem dX1_spell_45 : decode cX1_spell 45 = .ok (.iload_n 3, 1) := dk_29 (dk_at dksX1_spell_1 21 rfl rfl)
theorem dX1_spell_46 : decode cX1_spell 46 = .ok (.iconst 1, 1) := dk_4 (dk_at dksX1_spell_1 22 rfl rfl)
theorem dX1_spell_47 : decode cX1_spell 47 = .ok (.if_icmp .eq 8, 3) := dk_159 0 8 (dk_at dksX1_spell_2 0 rfl rfl)
theorem dX1_spell_50 : decode cX1_spell 50 = .ok (.aload_n 0, 1) := dk_42 (dk_at dksX1_spell_2 3 rfl rfl)
theorem dX1_spell_51 : decode cX1_spell 51 = .ok (.iload_n 3, 1) := dk_29 (dk_at dksX1_spell_2 4 rfl rfl)
theorem dX1_spell_52 : decode cX1_spell 52 = .ok (.invokevirtual 452, 3) := dk_182 1 196 (dk_at dksX1_spell_2 5 rfl rfl)
theorem dX1_spell_55 : decode cX1_spell 55 = .ok (.aload_n 0, 1) := dk_42 (dk_at dksX1_spell_2 8 rfl rfl)
theorem dX1_spell_56 : decode cX1_spell 56 = .ok (.aload_n 0, 1) := dk_42 (dk_at dksX1_spell_2 9 rfl rfl)
theorem dX1_spell_57 : decode cX1_spell 57 = .ok (.iload_n 1, 1) := dk_27 (dk_at dksX1_spell_2 10 rfl rfl)
theorem dX1_spell_58 : decode cX1_spell 58 = .ok (.iload_n 2, 1) := dk_28 (dk_at dksX1_spell_2 11 rfl rfl)
theorem dX1_spell_59 : decode cX1_spell 59 = .ok (.iconst 1, 1) := dk_4 (dk_at dksX1_spell_2 12 rfl rfl)
theorem dX1_spell_60 : decode cX1_spell 60 = .ok (.invokevirtual 93, 3) := dk_182 0 93 (dk_at dksX1_spell_2 13 rfl rfl)
theorem dX1_spell_63 : decode cX1_spell 63 = .ok (.invokevirtual 455, 3) := dk_182 1 199 (dk_at dksX1_spell_2 16 rfl rfl)
theorem dX1_spell_66 : decode cX1_spell 66 = .ok (.aload_n 0, 1) := dk_42 (dk_at dksX1_spell_2 19 rfl rfl)
theorem dX1_spell_67 : decode cX1_spell 67 = .ok (.iload_n 1, 1) := dk_27 (dk_at dksX1_spell_2 20 rfl rfl)
theorem dX1_spell_68 : decode cX1_spell 68 = .ok (.iload_n 2, 1) := dk_28 (dk_at dksX1_spell_2 21 rfl rfl)
theorem dX1_spell_69 : decode cX1_spell 69 = .ok (.iconst 2, 1) := dk_5 (dk_at dksX1_spell_2 22 rfl rfl)
theorem dX1_spell_70 : decode cX1_spell 70 = .ok (.invokevirtual 93, 3) := dk_182 0 93 (dk_at dksX1_spell_3 0 rfl rfl)
theorem dX1_spell_73 : decode cX1_spell 73 = .ok (.ifCond .ne 27, 3) := dk_154 0 27 (dk_at dksX1_spell_3 3 rfl rfl)
theorem dX1_spell_76 : decode cX1_spell 76 = .ok (.aload_n 0, 1) := dk_42 (dk_at dksX1_spell_3 6 rfl rfl)
theorem dX1_spell_77 : decode cX1_spell 77 = .ok (.iload_n 1, 1) := dk_27 (dk_at dksX1_spell_3 7 rfl rfl)
theorem dX1_spell_78 : decode cX1_spell 78 = .ok (.iload_n 2, 1) := dk_28 (dk_at dksX1_spell_3 8 rfl rfl)
theorem dX1_spell_79 : decode cX1_spell 79 = .ok (.iconst 3, 1) := dk_6 (dk_at dksX1_spell_3 9 rfl rfl)
theorem dX1_spell_80 : decode cX1_spell 80 = .ok (.invokevirtual 93, 3) := dk_182 0 93 (dk_at dksX1_spell_3 10 rfl rfl)
theorem dX1_spell_83 : decode cX1_spell 83 = .ok (.iload_n 3, 1) := dk_29 (dk_at dksX1_spell_3 13 rfl rfl)
theorem dX1_spell_84 : decode cX1_spell 84 = .ok (.aload_n 0, 1) := dk_42 (dk_at dksX1_spell_3 14 rfl rfl)
theorem dX1_spell_85 : decode cX1_spell 85 = .ok (.iload_n 1, 1) := dk_27 (dk_at dksX1_spell_3 15 rfl rfl)
theorem dX1_spell_86 : decode cX1_spell 86 = .ok (.iload_n 2, 1) := dk_28 (dk_at dksX1_spell_3 16 rfl rfl)
theorem dX1_spell_87 : decode cX1_spell 87 = .ok (.iconst 1, 1) := dk_4 (dk_at dksX1_spell_3 17 rfl rfl)
theorem dX1_spell_88 : decode cX1_spell 88 = .ok (.invokevirtual 93, 3) := dk_182 0 93 (dk_at dksX1_spell_3 18 rfl rfl)
theorem dX1_spell_91 : decode cX1_spell 91 = .ok (.invokestatic 223, 3) := dk_184 0 223 (dk_at dksX1_spell_3 21 rfl rfl)
theorem dX1_spell_94 : decode cX1_spell 94 = .ok (.if_icmp .ne 6, 3) := dk_160 0 6 (dk_at dksX1_spell_4 0 rfl rfl)
theorem dX1_spell_97 : decode cX1_spell 97 = .ok (.goto 39, 3) := dk_167 0 39 (dk_at dksX1_spell_4 3 rfl rfl)
theorem dX1_spell_100 : decode cX1_spell 100 = .ok (.aload_n 0, 1) := dk_42 (dk_at dksX1_spell_4 6 rfl rfl)
theorem dX1_spell_101 : decode cX1_spell 101 = .ok (.ldc_w 458, 3) := dk_19 1 202 (dk_at dksX1_spell_4 7 rfl rfl)
theorem dX1_spell_104 : decode cX1_spell 104 = .ok (.invokevirtual 448, 3) := dk_182 1 192 (dk_at dksX1_spell_4 10 rfl rfl)
theorem dX1_spell_107 : decode cX1_spell 107 = .ok (.aload_n 0, 1) := dk_42 (dk_at dksX1_spell_4 13 rfl rfl)
theorem dX1_spell_108 : decode cX1_spell 108 = .ok (.aload_n 0, 1) := dk_42 (dk_at dksX1_spell_4 14 rfl rfl)
theorem dX1_spell_109 : decode cX1_spell 109 = .ok (.iload_n 1, 1) := dk_27 (dk_at dksX1_spell_4 15 rfl rfl)
theorem dX1_spell_110 : decode cX1_spell 110 = .ok (.iload_n 2, 1) := dk_28 (dk_at dksX1_spell_4 16 rfl rfl)
theorem dX1_spell_111 : decode cX1_spell 111 = .ok (.iconst 2, 1) := dk_5 (dk_at dksX1_spell_4 17 rfl rfl)
theorem dX1_spell_112 : decode cX1_spell 112 = .ok (.invokevirtual 93, 3) := dk_182 0 93 (dk_at dksX1_spell_4 18 rfl rfl)
theorem dX1_spell_115 : decode cX1_spell 115 = .ok (.invokevirtual 452, 3) := dk_182 1 196 (dk_at dksX1_spell_4 21 rfl rfl)
theorem dX1_spell_118 : decode cX1_spell 118 = .ok (.aload_n 0, 1) := dk_42 (dk_at dksX1_spell_5 0 rfl rfl)
theorem dX1_spell_119 : decode cX1_spell 119 = .ok (.ldc_w 460, 3) := dk_19 1 204 (dk_at dksX1_spell_5 1 rfl rfl)
theorem dX1_spell_122 : decode cX1_spell 122 = .ok (.invokevirtual 448, 3) := dk_182 1 192 (dk_at dksX1_spell_5 4 rfl rfl)
theorem dX1_spell_125 : decode cX1_spell 125 = .ok (.aload_n 0, 1) := dk_42 (dk_at dksX1_spell_5 7 rfl rfl)
theorem dX1_spell_126 : decode cX1_spell 126 = .ok (.aload_n 0, 1) := dk_42 (dk_at dksX1_spell_5 8 rfl rfl)
theorem dX1_spell_127 : decode cX1_spell 127 = .ok (.iload_n 1, 1) := dk_27 (dk_at dksX1_spell_5 9 rfl rfl)
theorem dX1_spell_128 : decode cX1_spell 128 = .ok (.iload_n 2, 1) := dk_28 (dk_at dksX1_spell_5 10 rfl rfl)
theorem dX1_spell_129 : decode cX1_spell 129 = .ok (.iconst 3, 1) := dk_6 (dk_at dksX1_spell_5 11 rfl rfl)
theorem dX1_spell_130 : decode cX1_spell 130 = .ok (.invokevirtual 93, 3) := dk_182 0 93 (dk_at dksX1_spell_5 12 rfl rfl)
theorem dX1_spell_133 : decode cX1_spell 133 = .ok (.invokevirtual 452, 3) := dk_182 1 196 (dk_at dksX1_spell_5 15 rfl rfl)
theorem dX1_spell_136 : decode cX1_spell 136 = .ok (.iinc 2 1, 3) := dk_132 2 1 (dk_at dksX1_spell_5 18 rfl rfl)
theorem dX1_spell_139 : decode cX1_spell 139 = .ok (.goto (-122), 3) := dk_167 255 134 (dk_at dksX1_spell_5 21 rfl rfl)
theorem dX1_spell_142 : decode cX1_spell 142 = .ok (.aload_n 0, 1) := dk_42 (dk_at dksX1_spell_6 0 rfl rfl)
theorem dX1_spell_143 : decode cX1_spell 143 = .ok (.getfield 442, 3) := dk_180 1 186 (dk_at dksX1_spell_6 1 rfl rfl)
theorem dX1_spell_146 : decode cX1_spell 146 = .ok (.ireturn, 1) := dk_172 (dk_at dksX1_spell_6 4 rfl rfl)
abbrev cX1_says : ByteArray := prog_24_method_94_code
def yX1_says : MethodName := ⟨RX1, "says", "(I)V"⟩
def dkwX1_says_0 : List UInt8 := [42, 180, 0, 88, 42, 180, 1, 186, 27, 79, 42, 89, 180, 1, 186, 4, 96, 181, 1, 186, 177]
abbrev dktX1_says_0 : List UInt8 := dkwX1_says_0 ++ []
theorem dksX1_says_0 : cX1_says.data.toList.drop 0 = dktX1_says_0 := by decide +kernel
theorem dX1_says_0 : decode cX1_says 0 = .ok (.aload_n 0, 1) := dk_42 (dk_at dksX1_says_0 0 rfl rfl)
theorem dX1_says_1 : decode cX1_says 1 = .ok (.getfield 88, 3) := dk_180 0 88 (dk_at dksX1_says_0 1 rfl rfl)
theorem dX1_says_4 : decode cX1_says 4 = .ok (.aload_n 0, 1) := dk_42 (dk_at dksX1_says_0 4 rfl rfl)
theorem dX1_says_5 : decode cX1_says 5 = .ok (.getfield 442, 3) := dk_180 1 186 (dk_at dksX1_says_0 5 rfl rfl)
theorem dX1_says_8 : decode cX1_says 8 = .ok (.iload_n 1, 1) := dk_27 (dk_at dksX1_says_0 8 rfl rfl)
theorem dX1_says_9 : decode cX1_says 9 = .ok (.iastore, 1) := dk_79 (dk_at dksX1_says_0 9 rfl rfl)
theorem dX1_says_10 : decode cX1_says 10 = .ok (.aload_n 0, 1) := dk_42 (dk_at dksX1_says_0 10 rfl rfl)
theorem dX1_says_11 : decode cX1_says 11 = .ok (.dup, 1) := dk_89 (dk_at dksX1_says_0 11 rfl rfl)
theorem dX1_says_12 : decode cX1_says 12 = .ok (.getfield 442, 3) := dk_180 1 186 (dk_at dksX1_says_0 12 rfl rfl)
theorem dX1_says_15 : decode cX1_says 15 = .ok (.iconst 1, 1) := dk_4 (dk_at dksX1_says_0 15 rfl rfl)
theorem dX1_says_16 : decode cX1_says 16 = .ok (.iadd, 1) := dk_96 (dk_at dksX1_says_0 16 rfl rfl)
theorem dX1_says_17 : decode cX1_says 17 = .ok (.putfield 442, 3) := dk_181 1 186 (dk_at dksX1_says_0 17 rfl rfl)
theorem dX1_says_20 : decode cX1_says 20 = .ok (.return_, 1) := dk_177 (dk_at dksX1_says_0 20 rfl rfl)
abbrev cX1_saysNumber : ByteArray := prog_24_method_96_code
def yX1_saysNumber : MethodName := ⟨RX1, "saysNumber", "(I)V"⟩
def dkwX1_saysNumber_2 : List UInt8 := [108, 16, 10, 112, 96, 182, 1, 189, 29, 16, 10, 108, 62, 167, 255, 234, 177]
abbrev dktX1_saysNumber_2 : List UInt8 := dkwX1_saysNumber_2 ++ []
def dkwX1_saysNumber_1 : List UInt8 := [29, 108, 16, 9, 164, 0, 11, 29, 16, 10, 104, 62, 167, 255, 243, 29, 158, 0, 24, 42, 16, 48, 28, 29]
abbrev dktX1_saysNumber_1 : List UInt8 := dkwX1_saysNumber_1 ++ dktX1_saysNumber_2
def dkwX1_saysNumber_0 : List UInt8 := [27, 156, 0, 9, 42, 16, 45, 182, 1, 189, 27, 156, 0, 8, 27, 116, 167, 0, 4, 27, 61, 4, 62, 28]
abbrev dktX1_saysNumber_0 : List UInt8 := dkwX1_saysNumber_0 ++ dktX1_saysNumber_1
theorem dksX1_saysNumber_0 : cX1_saysNumber.data.toList.drop 0 = dktX1_saysNumber_0 := by decide +kernel
theorem dksX1_saysNumber_1 : cX1_saysNumber.data.toList.drop 24 = dktX1_saysNumber_1 := dk_seg dksX1_saysNumber_0 24 rfl rfl
theorem dksX1_saysNumber_2 : cX1_saysNumber.data.toList.drop 48 = dktX1_saysNumber_2 := dk_seg dksX1_saysNumber_1 24 rfl rfl
theorem dX1_saysNumber_0 : decode cX1_saysNumber 0 = .ok (.iload_n 1, 1) := dk_27 (dk_at dksX1_saysNumber_0 0 rfl rfl)
theorem dX1_saysNumber_1 : decode cX1_saysNumber 1 = .ok (.ifCond .ge 9, 3) := dk_156 0 9 (dk_at dksX1_saysNumber_0 1 rfl rfl)
theorem dX1_saysNumber_4 : decode cX1_saysNumber 4 = .ok (.aload_n 0, 1) := dk_42 (dk_at dksX1_saysNumber_0 4 rfl rfl)
theorem dX1_saysNumber_5 : decode cX1_saysNumber 5 = .ok (.bipush 45, 2) := dk_16 45 (dk_at dksX1_saysNumber_0 5 rfl rfl)
theorem dX1_saysNumber_7 : decode cX1_saysNumber 7 = .ok (.invokevirtual 445, 3) := dk_182 1 189 (dk_at dksX1_saysNumber_0 7 rfl rfl)
theorem dX1_saysNumber_10 : decode cX1_saysNumber 10 = .ok (.iload_n 1, 1) := dk_27 (dk_at dksX1_saysNumber_0 10 rfl rfl)
theorem dX1_saysNumber_11 : decode cX1_saysNumber 11 = .ok (.ifCond .ge 8, 3) := dk_156 0 8 (dk_at dksX1_saysNumber_0 11 rfl rfl)
theorem dX1_saysNumber_14 : decode cX1_saysNumber 14 = .ok (.iload_n 1, 1) := dk_27 (dk_at dksX1_saysNumber_0 14 rfl rfl)
theorem dX1_saysNumber_15 : decode cX1_saysNumber 15 = .ok (.ineg, 1) := dk_116 (dk_at dksX1_saysNumber_0 15 rfl rfl)
theorem dX1_saysNumber_16 : decode cX1_saysNumber 16 = .ok (.goto 4, 3) := dk_167 0 4 (dk_at dksX1_saysNumber_0 16 rfl rfl)
theorem dX1_saysNumber_19 : decode cX1_saysNumber 19 = .ok (.iload_n 1, 1) := dk_27 (dk_at dksX1_saysNumber_0 19 rfl rfl)
theorem dX1_saysNumber_20 : decode cX1_saysNumber 20 = .ok (.istore_n 2, 1) := dk_61 (dk_at dksX1_saysNumber_0 20 rfl rfl)
theorem dX1_saysNumber_21 : decode cX1_saysNumber 21 = .ok (.iconst 1, 1) := dk_4 (dk_at dksX1_saysNumber_0 21 rfl rfl)
theorem dX1_saysNumber_22 : decode cX1_saysNumber 22 = .ok (.istore_n 3, 1) := dk_62 (dk_at dksX1_saysNumber_0 22 rfl rfl)
theorem dX1_saysNumber_23 : decode cX1_saysNumber 23 = .ok (.iload_n 2, 1) := dk_28 (dk_at dksX1_saysNumber_0 23 rfl rfl)
theorem dX1_saysNumber_24 : decode cX1_saysNumber 24 = .ok (.iload_n 3, 1) := dk_29 (dk_at dksX1_saysNumber_1 0 rfl rfl)
theorem dX1_saysNumber_25 : decode cX1_saysNumber 25 = .ok (.idiv, 1) := dk_108 (dk_at dksX1_saysNumber_1 1 rfl rfl)
theorem dX1_saysNumber_26 : decode cX1_saysNumber 26 = .ok (.bipush 9, 2) := dk_16 9 (dk_at dksX1_saysNumber_1 2 rfl rfl)
theorem dX1_saysNumber_28 : decode cX1_saysNumber 28 = .ok (.if_icmp .le 11, 3) := dk_164 0 11 (dk_at dksX1_saysNumber_1 4 rfl rfl)
theorem dX1_saysNumber_31 : decode cX1_saysNumber 31 = .ok (.iload_n 3, 1) := dk_29 (dk_at dksX1_saysNumber_1 7 rfl rfl)
theorem dX1_saysNumber_32 : decode cX1_saysNumber 32 = .ok (.bipush 10, 2) := dk_16 10 (dk_at dksX1_saysNumber_1 8 rfl rfl)
theorem dX1_saysNumber_34 : decode cX1_saysNumber 34 = .ok (.imul, 1) := dk_104 (dk_at dksX1_saysNumber_1 10 rfl rfl)
theorem dX1_saysNumber_35 : decode cX1_saysNumber 35 = .ok (.istore_n 3, 1) := dk_62 (dk_at dksX1_saysNumber_1 11 rfl rfl)
theorem dX1_saysNumber_36 : decode cX1_saysNumber 36 = .ok (.goto (-13), 3) := dk_167 255 243 (dk_at dksX1_saysNumber_1 12 rfl rfl)
theorem dX1_saysNumber_39 : decode cX1_saysNumber 39 = .ok (.iload_n 3, 1) := dk_29 (dk_at dksX1_saysNumber_1 15 rfl rfl)
theorem dX1_saysNumber_40 : decode cX1_saysNumber 40 = .ok (.ifCond .le 24, 3) := dk_158 0 24 (dk_at dksX1_saysNumber_1 16 rfl rfl)
theorem dX1_saysNumber_43 : decode cX1_saysNumber 43 = .ok (.aload_n 0, 1) := dk_42 (dk_at dksX1_saysNumber_1 19 rfl rfl)
theorem dX1_saysNumber_44 : decode cX1_saysNumber 44 = .ok (.bipush 48, 2) := dk_16 48 (dk_at dksX1_saysNumber_1 20 rfl rfl)
theorem dX1_saysNumber_46 : decode cX1_saysNumber 46 = .ok (.iload_n 2, 1) := dk_28 (dk_at dksX1_saysNumber_1 22 rfl rfl)
theorem dX1_saysNumber_47 : decode cX1_saysNumber 47 = .ok (.iload_n 3, 1) := dk_29 (dk_at dksX1_saysNumber_1 23 rfl rfl)
theorem dX1_saysNumber_48 : decode cX1_saysNumber 48 = .ok (.idiv, 1) := dk_108 (dk_at dksX1_saysNumber_2 0 rfl rfl)
theorem dX1_saysNumber_49 : decode cX1_saysNumber 49 = .ok (.bipush 10, 2) := dk_16 10 (dk_at dksX1_saysNumber_2 1 rfl rfl)
theorem dX1_saysNumber_51 : decode cX1_saysNumber 51 = .ok (.irem, 1) := dk_112 (dk_at dksX1_saysNumber_2 3 rfl rfl)
theorem dX1_saysNumber_52 : decode cX1_saysNumber 52 = .ok (.iadd, 1) := dk_96 (dk_at dksX1_saysNumber_2 4 rfl rfl)
theorem dX1_saysNumber_53 : decode cX1_saysNumber 53 = .ok (.invokevirtual 445, 3) := dk_182 1 189 (dk_at dksX1_saysNumber_2 5 rfl rfl)
theorem dX1_saysNumber_56 : decode cX1_saysNumber 56 = .ok (.iload_n 3, 1) := dk_29 (dk_at dksX1_saysNumber_2 8 rfl rfl)
theorem dX1_saysNumber_57 : decode cX1_saysNumber 57 = .ok (.bipush 10, 2) := dk_16 10 (dk_at dksX1_saysNumber_2 9 rfl rfl)
theorem dX1_saysNumber_59 : decode cX1_saysNumber 59 = .ok (.idiv, 1) := dk_108 (dk_at dksX1_saysNumber_2 11 rfl rfl)
theorem dX1_saysNumber_60 : decode cX1_saysNumber 60 = .ok (.istore_n 3, 1) := dk_62 (dk_at dksX1_saysNumber_2 12 rfl rfl)
theorem dX1_saysNumber_61 : decode cX1_saysNumber 61 = .ok (.goto (-22), 3) := dk_167 255 234 (dk_at dksX1_saysNumber_2 13 rfl rfl)
theorem dX1_saysNumber_64 : decode cX1_saysNumber 64 = .ok (.return_, 1) := dk_177 (dk_at dksX1_saysNumber_2 16 rfl rfl)
abbrev cX1_saysKind : ByteArray := prog_24_method_97_code
def yX1_saysKind : MethodName := ⟨RX1, "saysKind", "(I)V"⟩
def dkwX1_saysKind_3 : List UInt8 := [167, 0, 18, 42, 18, 206, 182, 1, 192, 167, 0, 9, 42, 18, 208, 182, 1, 192, 177]
abbrev dktX1_saysKind_3 : List UInt8 := dkwX1_saysKind_3 ++ []
def dkwX1_saysKind_2 : List UInt8 := [42, 18, 196, 182, 1, 192, 167, 0, 36, 42, 18, 202, 182, 1, 192, 167, 0, 27, 42, 18, 204, 182, 1, 192]
abbrev dktX1_saysKind_2 : List UInt8 := dkwX1_saysKind_2 ++ dktX1_saysKind_3
def dkwX1_saysKind_1 : List UInt8 := [170, 0, 0, 0, 0, 0, 67, 0, 0, 0, 0, 0, 0, 0, 3, 0, 0, 0, 31, 0, 0, 0, 40, 0, 0, 0, 49, 0, 0, 0, 58]
abbrev dktX1_saysKind_1 : List UInt8 := dkwX1_saysKind_1 ++ dktX1_saysKind_2
def dkwX1_saysKind_0 : List UInt8 := [27]
abbrev dktX1_saysKind_0 : List UInt8 := dkwX1_saysKind_0 ++ dktX1_saysKind_1
theorem dksX1_saysKind_0 : cX1_saysKind.data.toList.drop 0 = dktX1_saysKind_0 := by decide +kernel
theorem dksX1_saysKind_1 : cX1_saysKind.data.toList.drop 1 = dktX1_saysKind_1 := dk_seg dksX1_saysKind_0 1 rfl rfl
theorem dksX1_saysKind_2 : cX1_saysKind.data.toList.drop 32 = dktX1_saysKind_2 := dk_seg dksX1_saysKind_1 31 rfl rfl
theorem dksX1_saysKind_3 : cX1_saysKind.data.toList.drop 56 = dktX1_saysKind_3 := dk_seg dksX1_saysKind_2 24 rfl rfl
theorem dX1_saysKind_0 : decode cX1_saysKind 0 = .ok (.iload_n 1, 1) := dk_27 (dk_at dksX1_saysKind_0 0 rfl rfl)
theorem dX1_saysKind_1 : decode cX1_saysKind 1 = .ok (.tableswitch 67 0 3 #[31, 40, 49, 58], 31) := by decide +kernel
theorem dX1_saysKind_32 : decode cX1_saysKind 32 = .ok (.aload_n 0, 1) := dk_42 (dk_at dksX1_saysKind_2 0 rfl rfl)
theorem dX1_saysKind_33 : decode cX1_saysKind 33 = .ok (.ldc 196, 2) := dk_18 196 (dk_at dksX1_saysKind_2 1 rfl rfl)
theorem dX1_saysKind_35 : decode cX1_saysKind 35 = .ok (.invokevirtual 448, 3) := dk_182 1 192 (dk_at dksX1_saysKind_2 3 rfl rfl)
theorem dX1_saysKind_38 : decode cX1_saysKind 38 = .ok (.goto 36, 3) := dk_167 0 36 (dk_at dksX1_saysKind_2 6 rfl rfl)
theorem dX1_saysKind_41 : decode cX1_saysKind 41 = .ok (.aload_n 0, 1) := dk_42 (dk_at dksX1_saysKind_2 9 rfl rfl)
theorem dX1_saysKind_42 : decode cX1_saysKind 42 = .ok (.ldc 202, 2) := dk_18 202 (dk_at dksX1_saysKind_2 10 rfl rfl)
theorem dX1_saysKind_44 : decode cX1_saysKind 44 = .ok (.invokevirtual 448, 3) := dk_182 1 192 (dk_at dksX1_saysKind_2 12 rfl rfl)
theorem dX1_saysKind_47 : decode cX1_saysKind 47 = .ok (.goto 27, 3) := dk_167 0 27 (dk_at dksX1_saysKind_2 15 rfl rfl)
theorem dX1_saysKind_50 : decode cX1_saysKind 50 = .ok (.aload_n 0, 1) := dk_42 (dk_at dksX1_saysKind_2 18 rfl rfl)
theorem dX1_saysKind_51 : decode cX1_saysKind 51 = .ok (.ldc 204, 2) := dk_18 204 (dk_at dksX1_saysKind_2 19 rfl rfl)
theorem dX1_saysKind_53 : decode cX1_saysKind 53 = .ok (.invokevirtual 448, 3) := dk_182 1 192 (dk_at dksX1_saysKind_2 21 rfl rfl)
theorem dX1_saysKind_56 : decode cX1_saysKind 56 = .ok (.goto 18, 3) := dk_167 0 18 (dk_at dksX1_saysKind_3 0 rfl rfl)
theorem dX1_saysKind_59 : decode cX1_saysKind 59 = .ok (.aload_n 0, 1) := dk_42 (dk_at dksX1_saysKind_3 3 rfl rfl)
theorem dX1_saysKind_60 : decode cX1_saysKind 60 = .ok (.ldc 206, 2) := dk_18 206 (dk_at dksX1_saysKind_3 4 rfl rfl)
theorem dX1_saysKind_62 : decode cX1_saysKind 62 = .ok (.invokevirtual 448, 3) := dk_182 1 192 (dk_at dksX1_saysKind_3 6 rfl rfl)
theorem dX1_saysKind_65 : decode cX1_saysKind 65 = .ok (.goto 9, 3) := dk_167 0 9 (dk_at dksX1_saysKind_3 9 rfl rfl)
theorem dX1_saysKind_68 : decode cX1_saysKind 68 = .ok (.aload_n 0, 1) := dk_42 (dk_at dksX1_saysKind_3 12 rfl rfl)
theorem dX1_saysKind_69 : decode cX1_saysKind 69 = .ok (.ldc 208, 2) := dk_18 208 (dk_at dksX1_saysKind_3 13 rfl rfl)
theorem dX1_saysKind_71 : decode cX1_saysKind 71 = .ok (.invokevirtual 448, 3) := dk_182 1 192 (dk_at dksX1_saysKind_3 15 rfl rfl)
theorem dX1_saysKind_74 : decode cX1_saysKind 74 = .ok (.return_, 1) := dk_177 (dk_at dksX1_saysKind_3 18 rfl rfl)
abbrev cX1_saysWord : ByteArray := prog_24_method_95_code
def yX1_saysWord : MethodName := ⟨RX1, "saysWord", "(Ljava/lang/String;)V"⟩
def dkwX1_saysWord_1 : List UInt8 := [167, 255, 236, 177]
abbrev dktX1_saysWord_1 : List UInt8 := dkwX1_saysWord_1 ++ []
def dkwX1_saysWord_0 : List UInt8 := [3, 61, 28, 43, 182, 0, 171, 162, 0, 18, 42, 43, 28, 182, 0, 176, 182, 1, 189, 132, 2, 1]
abbrev dktX1_saysWord_0 : List UInt8 := dkwX1_saysWord_0 ++ dktX1_saysWord_1
theorem dksX1_saysWord_0 : cX1_saysWord.data.toList.drop 0 = dktX1_saysWord_0 := by decide +kernel
theorem dksX1_saysWord_1 : cX1_saysWord.data.toList.drop 22 = dktX1_saysWord_1 := dk_seg dksX1_saysWord_0 22 rfl rfl
theorem dX1_saysWord_0 : decode cX1_saysWord 0 = .ok (.iconst 0, 1) := dk_3 (dk_at dksX1_saysWord_0 0 rfl rfl)
theorem dX1_saysWord_1 : decode cX1_saysWord 1 = .ok (.istore_n 2, 1) := dk_61 (dk_at dksX1_saysWord_0 1 rfl rfl)
theorem dX1_saysWord_2 : decode cX1_saysWord 2 = .ok (.iload_n 2, 1) := dk_28 (dk_at dksX1_saysWord_0 2 rfl rfl)
theorem dX1_saysWord_3 : decode cX1_saysWord 3 = .ok (.aload_n 1, 1) := dk_43 (dk_at dksX1_saysWord_0 3 rfl rfl)
theorem dX1_saysWord_4 : decode cX1_saysWord 4 = .ok (.invokevirtual 171, 3) := dk_182 0 171 (dk_at dksX1_saysWord_0 4 rfl rfl)
theorem dX1_saysWord_7 : decode cX1_saysWord 7 = .ok (.if_icmp .ge 18, 3) := dk_162 0 18 (dk_at dksX1_saysWord_0 7 rfl rfl)
theorem dX1_saysWord_10 : decode cX1_saysWord 10 = .ok (.aload_n 0, 1) := dk_42 (dk_at dksX1_saysWord_0 10 rfl rfl)
theorem dX1_saysWord_11 : decode cX1_saysWord 11 = .ok (.aload_n 1, 1) := dk_43 (dk_at dksX1_saysWord_0 11 rfl rfl)
theorem dX1_saysWord_12 : decode cX1_saysWord 12 = .ok (.iload_n 2, 1) := dk_28 (dk_at dksX1_saysWord_0 12 rfl rfl)
theorem dX1_saysWord_13 : decode cX1_saysWord 13 = .ok (.invokevirtual 176, 3) := dk_182 0 176 (dk_at dksX1_saysWord_0 13 rfl rfl)
theorem dX1_saysWord_16 : decode cX1_saysWord 16 = .ok (.invokevirtual 445, 3) := dk_182 1 189 (dk_at dksX1_saysWord_0 16 rfl rfl)
theorem dX1_saysWord_19 : decode cX1_saysWord 19 = .ok (.iinc 2 1, 3) := dk_132 2 1 (dk_at dksX1_saysWord_0 19 rfl rfl)
theorem dX1_saysWord_22 : decode cX1_saysWord 22 = .ok (.goto (-20), 3) := dk_167 255 236 (dk_at dksX1_saysWord_1 0 rfl rfl)
theorem dX1_saysWord_25 : decode cX1_saysWord 25 = .ok (.return_, 1) := dk_177 (dk_at dksX1_saysWord_1 3 rfl rfl)
abbrev cX1_write : ByteArray := prog_24_method_99_code
def yX1_write : MethodName := ⟨RX1, "write", "(III)I"⟩
def dkwX1_write_5 : List UInt8 := [182, 1, 189, 132, 4, 1, 167, 255, 167, 42, 180, 1, 186, 172]
abbrev dktX1_write_5 : List UInt8 := dkwX1_write_5 ++ []
def dkwX1_write_4 : List UInt8 := [182, 1, 196, 132, 5, 1, 167, 255, 215, 167, 0, 10, 42, 19, 1, 206, 182, 1, 192, 42, 16, 59]
abbrev dktX1_write_4 : List UInt8 := dkwX1_write_4 ++ dktX1_write_5
def dkwX1_write_3 : List UInt8 := [21, 5, 154, 0, 8, 16, 61, 167, 0, 5, 16, 44, 182, 1, 189, 42, 42, 180, 0, 57, 21, 5, 46]
abbrev dktX1_write_3 : List UInt8 := dkwX1_write_3 ++ dktX1_write_4
def dkwX1_write_2 : List UInt8 := [21, 4, 9, 182, 1, 61, 153, 0, 53, 3, 54, 5, 21, 5, 42, 180, 0, 9, 27, 46, 162, 0, 36, 42]
abbrev dktX1_write_2 : List UInt8 := dkwX1_write_2 ++ dktX1_write_3
def dkwX1_write_1 : List UInt8 := [2, 172, 42, 3, 181, 1, 186, 28, 54, 4, 21, 4, 29, 163, 0, 89, 42, 21, 4, 182, 1, 196, 42, 27]
abbrev dktX1_write_1 : List UInt8 := dkwX1_write_1 ++ dktX1_write_2
def dkwX1_write_0 : List UInt8 := [42, 27, 182, 1, 18, 153, 0, 19, 28, 29, 184, 1, 161, 153, 0, 11, 29, 28, 100, 16, 60, 161, 0, 5]
abbrev dktX1_write_0 : List UInt8 := dkwX1_write_0 ++ dktX1_write_1
theorem dksX1_write_0 : cX1_write.data.toList.drop 0 = dktX1_write_0 := by decide +kernel
theorem dksX1_write_1 : cX1_write.data.toList.drop 24 = dktX1_write_1 := dk_seg dksX1_write_0 24 rfl rfl
theorem dksX1_write_2 : cX1_write.data.toList.drop 48 = dktX1_write_2 := dk_seg dksX1_write_1 24 rfl rfl
theorem dksX1_write_3 : cX1_write.data.toList.drop 72 = dktX1_write_3 := dk_seg dksX1_write_2 24 rfl rfl
theorem dksX1_write_4 : cX1_write.data.toList.drop 95 = dktX1_write_4 := dk_seg dksX1_write_3 23 rfl rfl
theorem dksX1_write_5 : cX1_write.data.toList.drop 117 = dktX1_write_5 := dk_seg dksX1_write_4 22 rfl rfl
theorem dX1_write_0 : decode cX1_write 0 = .ok (.aload_n 0, 1) := dk_42 (dk_at dksX1_write_0 0 rfl rfl)
theorem dX1_write_1 : decode cX1_write 1 = .ok (.iload_n 1, 1) := dk_27 (dk_at dksX1_write_0 1 rfl rfl)
theorem dX1_write_2 : decode cX1_write 2 = .ok (.invokevirtual 274, 3) := dk_182 1 18 (dk_at dksX1_write_0 2 rfl rfl)
theorem dX1_write_5 : decode cX1_write 5 = .ok (.ifCond .eq 19, 3) := dk_153 0 19 (dk_at dksX1_write_0 5 rfl rfl)
theorem dX1_write_8 : decode cX1_write 8 = .ok (.iload_n 2, 1) := dk_28 (dk_at dksX1_write_0 8 rfl rfl)
theorem dX1_write_9 : decode cX1_write 9 = .ok (.iload_n 3, 1) := dk_29 (dk_at dksX1_write_0 9 rfl rfl)
theorem dX1_write_10 : decode cX1_write 10 = .ok (.invokestatic 417, 3) := dk_184 1 161 (dk_at dksX1_write_0 10 rfl rfl)
theorem dX1_write_13 : decode cX1_write 13 = .ok (.ifCond .eq 11, 3) := dk_153 0 11 (dk_at dksX1_write_0 13 rfl rfl)
theorem dX1_write_16 : decode cX1_write 16 = .ok (.iload_n 3, 1) := dk_29 (dk_at dksX1_write_0 16 rfl rfl)
theorem dX1_write_17 : decode cX1_write 17 = .ok (.iload_n 2, 1) := dk_28 (dk_at dksX1_write_0 17 rfl rfl)
theorem dX1_write_18 : decode cX1_write 18 = .ok (.isub, 1) := dk_100 (dk_at dksX1_write_0 18 rfl rfl)
theorem dX1_write_19 : decode cX1_write 19 = .ok (.bipush 60, 2) := dk_16 60 (dk_at dksX1_write_0 19 rfl rfl)
theorem dX1_write_21 : decode cX1_write 21 = .ok (.if_icmp .lt 5, 3) := dk_161 0 5 (dk_at dksX1_write_0 21 rfl rfl)
theorem dX1_write_24 : decode cX1_write 24 = .ok (.iconst (-1), 1) := dk_2 (dk_at dksX1_write_1 0 rfl rfl)
theorem dX1_write_25 : decode cX1_write 25 = .ok (.ireturn, 1) := dk_172 (dk_at dksX1_write_1 1 rfl rfl)
theorem dX1_write_26 : decode cX1_write 26 = .ok (.aload_n 0, 1) := dk_42 (dk_at dksX1_write_1 2 rfl rfl)
theorem dX1_write_27 : decode cX1_write 27 = .ok (.iconst 0, 1) := dk_3 (dk_at dksX1_write_1 3 rfl rfl)
theorem dX1_write_28 : decode cX1_write 28 = .ok (.putfield 442, 3) := dk_181 1 186 (dk_at dksX1_write_1 4 rfl rfl)
theorem dX1_write_31 : decode cX1_write 31 = .ok (.iload_n 2, 1) := dk_28 (dk_at dksX1_write_1 7 rfl rfl)
theorem dX1_write_32 : decode cX1_write 32 = .ok (.istore 4, 2) := dk_54 4 (dk_at dksX1_write_1 8 rfl rfl)
theorem dX1_write_34 : decode cX1_write 34 = .ok (.iload 4, 2) := dk_21 4 (dk_at dksX1_write_1 10 rfl rfl)
theorem dX1_write_36 : decode cX1_write 36 = .ok (.iload_n 3, 1) := dk_29 (dk_at dksX1_write_1 12 rfl rfl)
theorem dX1_write_37 : decode cX1_write 37 = .ok (.if_icmp .gt 89, 3) := dk_163 0 89 (dk_at dksX1_write_1 13 rfl rfl)
theorem dX1_write_40 : decode cX1_write 40 = .ok (.aload_n 0, 1) := dk_42 (dk_at dksX1_write_1 16 rfl rfl)
theorem dX1_write_41 : decode cX1_write 41 = .ok (.iload 4, 2) := dk_21 4 (dk_at dksX1_write_1 17 rfl rfl)
theorem dX1_write_43 : decode cX1_write 43 = .ok (.invokevirtual 452, 3) := dk_182 1 196 (dk_at dksX1_write_1 19 rfl rfl)
theorem dX1_write_46 : decode cX1_write 46 = .ok (.aload_n 0, 1) := dk_42 (dk_at dksX1_write_1 22 rfl rfl)
theorem dX1_write_47 : decode cX1_write 47 = .ok (.iload_n 1, 1) := dk_27 (dk_at dksX1_write_1 23 rfl rfl)
theorem dX1_write_48 : decode cX1_write 48 = .ok (.iload 4, 2) := dk_21 4 (dk_at dksX1_write_2 0 rfl rfl)
theorem dX1_write_50 : decode cX1_write 50 = .ok (.lconst 0, 1) := dk_9 (dk_at dksX1_write_2 2 rfl rfl)
theorem dX1_write_51 : decode cX1_write 51 = .ok (.invokevirtual 317, 3) := dk_182 1 61 (dk_at dksX1_write_2 3 rfl rfl)
theorem dX1_write_54 : decode cX1_write 54 = .ok (.ifCond .eq 53, 3) := dk_153 0 53 (dk_at dksX1_write_2 6 rfl rfl)
theorem dX1_write_57 : decode cX1_write 57 = .ok (.iconst 0, 1) := dk_3 (dk_at dksX1_write_2 9 rfl rfl)
theorem dX1_write_58 : decode cX1_write 58 = .ok (.istore 5, 2) := dk_54 5 (dk_at dksX1_write_2 10 rfl rfl)
theorem dX1_write_60 : decode cX1_write 60 = .ok (.iload 5, 2) := dk_21 5 (dk_at dksX1_write_2 12 rfl rfl)
theorem dX1_write_62 : decode cX1_write 62 = .ok (.aload_n 0, 1) := dk_42 (dk_at dksX1_write_2 14 rfl rfl)
theorem dX1_write_63 : decode cX1_write 63 = .ok (.getfield 9, 3) := dk_180 0 9 (dk_at dksX1_write_2 15 rfl rfl)
theorem dX1_write_66 : decode cX1_write 66 = .ok (.iload_n 1, 1) := dk_27 (dk_at dksX1_write_2 18 rfl rfl)
theorem dX1_write_67 : decode cX1_write 67 = .ok (.iaload, 1) := dk_46 (dk_at dksX1_write_2 19 rfl rfl)
theorem dX1_write_68 : decode cX1_write 68 = .ok (.if_icmp .ge 36, 3) := dk_162 0 36 (dk_at dksX1_write_2 20 rfl rfl)
theorem dX1_write_71 : decode cX1_write 71 = .ok (.aload_n 0, 1) := dk_42 (dk_at dksX1_write_2 23 rfl rfl)
theorem dX1_write_72 : decode cX1_write 72 = .ok (.iload 5, 2) := dk_21 5 (dk_at dksX1_write_3 0 rfl rfl)
theorem dX1_write_74 : decode cX1_write 74 = .ok (.ifCond .ne 8, 3) := dk_154 0 8 (dk_at dksX1_write_3 2 rfl rfl)
theorem dX1_write_77 : decode cX1_write 77 = .ok (.bipush 61, 2) := dk_16 61 (dk_at dksX1_write_3 5 rfl rfl)
theorem dX1_write_79 : decode cX1_write 79 = .ok (.goto 5, 3) := dk_167 0 5 (dk_at dksX1_write_3 7 rfl rfl)
theorem dX1_write_82 : decode cX1_write 82 = .ok (.bipush 44, 2) := dk_16 44 (dk_at dksX1_write_3 10 rfl rfl)
theorem dX1_write_84 : decode cX1_write 84 = .ok (.invokevirtual 445, 3) := dk_182 1 189 (dk_at dksX1_write_3 12 rfl rfl)
theorem dX1_write_87 : decode cX1_write 87 = .ok (.aload_n 0, 1) := dk_42 (dk_at dksX1_write_3 15 rfl rfl)
theorem dX1_write_88 : decode cX1_write 88 = .ok (.aload_n 0, 1) := dk_42 (dk_at dksX1_write_3 16 rfl rfl)
theorem dX1_write_89 : decode cX1_write 89 = .ok (.getfield 57, 3) := dk_180 0 57 (dk_at dksX1_write_3 17 rfl rfl)
theorem dX1_write_92 : decode cX1_write 92 = .ok (.iload 5, 2) := dk_21 5 (dk_at dksX1_write_3 20 rfl rfl)
theorem dX1_write_94 : decode cX1_write 94 = .ok (.iaload, 1) := dk_46 (dk_at dksX1_write_3 22 rfl rfl)
theorem dX1_write_95 : decode cX1_write 95 = .ok (.invokevirtual 452, 3) := dk_182 1 196 (dk_at dksX1_write_4 0 rfl rfl)
theorem dX1_write_98 : decode cX1_write 98 = .ok (.iinc 5 1, 3) := dk_132 5 1 (dk_at dksX1_write_4 3 rfl rfl)
theorem dX1_write_101 : decode cX1_write 101 = .ok (.goto (-41), 3) := dk_167 255 215 (dk_at dksX1_write_4 6 rfl rfl)
theorem dX1_write_104 : decode cX1_write 104 = .ok (.goto 10, 3) := dk_167 0 10 (dk_at dksX1_write_4 9 rfl rfl)
theorem dX1_write_107 : decode cX1_write 107 = .ok (.aload_n 0, 1) := dk_42 (dk_at dksX1_write_4 12 rfl rfl)
theorem dX1_write_108 : decode cX1_write 108 = .ok (.ldc_w 462, 3) := dk_19 1 206 (dk_at dksX1_write_4 13 rfl rfl)
theorem dX1_write_111 : decode cX1_write 111 = .ok (.invokevirtual 448, 3) := dk_182 1 192 (dk_at dksX1_write_4 16 rfl rfl)
theorem dX1_write_114 : decode cX1_write 114 = .ok (.aload_n 0, 1) := dk_42 (dk_at dksX1_write_4 19 rfl rfl)
theorem dX1_write_115 : decode cX1_write 115 = .ok (.bipush 59, 2) := dk_16 59 (dk_at dksX1_write_4 20 rfl rfl)
theorem dX1_write_117 : decode cX1_write 117 = .ok (.invokevirtual 445, 3) := dk_182 1 189 (dk_at dksX1_write_5 0 rfl rfl)
theorem dX1_write_120 : decode cX1_write 120 = .ok (.iinc 4 1, 3) := dk_132 4 1 (dk_at dksX1_write_5 3 rfl rfl)
theorem dX1_write_123 : decode cX1_write 123 = .ok (.goto (-89), 3) := dk_167 255 167 (dk_at dksX1_write_5 6 rfl rfl)
theorem dX1_write_126 : decode cX1_write 126 = .ok (.aload_n 0, 1) := dk_42 (dk_at dksX1_write_5 9 rfl rfl)
theorem dX1_write_127 : decode cX1_write 127 = .ok (.getfield 442, 3) := dk_180 1 186 (dk_at dksX1_write_5 10 rfl rfl)
theorem dX1_write_130 : decode cX1_write 130 = .ok (.ireturn, 1) := dk_172 (dk_at dksX1_write_5 13 rfl rfl)
abbrev cX1_out : ByteArray := prog_24_method_100_code
def yX1_out : MethodName := ⟨RX1, "out", "(I)I"⟩
def dkwX1_out_1 : List UInt8 := [167, 0, 4, 2, 172]
abbrev dktX1_out_1 : List UInt8 := dkwX1_out_1 ++ []
def dkwX1_out_0 : List UInt8 := [27, 133, 9, 42, 180, 1, 186, 4, 100, 133, 184, 0, 105, 153, 0, 12, 42, 180, 0, 88, 27, 46]
abbrev dktX1_out_0 : List UInt8 := dkwX1_out_0 ++ dktX1_out_1
theorem dksX1_out_0 : cX1_out.data.toList.drop 0 = dktX1_out_0 := by decide +kernel
theorem dksX1_out_1 : cX1_out.data.toList.drop 22 = dktX1_out_1 := dk_seg dksX1_out_0 22 rfl rfl
theorem dX1_out_0 : decode cX1_out 0 = .ok (.iload_n 1, 1) := dk_27 (dk_at dksX1_out_0 0 rfl rfl)
theorem dX1_out_1 : decode cX1_out 1 = .ok (.i2l, 1) := dk_133 (dk_at dksX1_out_0 1 rfl rfl)
theorem dX1_out_2 : decode cX1_out 2 = .ok (.lconst 0, 1) := dk_9 (dk_at dksX1_out_0 2 rfl rfl)
theorem dX1_out_3 : decode cX1_out 3 = .ok (.aload_n 0, 1) := dk_42 (dk_at dksX1_out_0 3 rfl rfl)
theorem dX1_out_4 : decode cX1_out 4 = .ok (.getfield 442, 3) := dk_180 1 186 (dk_at dksX1_out_0 4 rfl rfl)
theorem dX1_out_7 : decode cX1_out 7 = .ok (.iconst 1, 1) := dk_4 (dk_at dksX1_out_0 7 rfl rfl)
theorem dX1_out_8 : decode cX1_out 8 = .ok (.isub, 1) := dk_100 (dk_at dksX1_out_0 8 rfl rfl)
theorem dX1_out_9 : decode cX1_out 9 = .ok (.i2l, 1) := dk_133 (dk_at dksX1_out_0 9 rfl rfl)
theorem dX1_out_10 : decode cX1_out 10 = .ok (.invokestatic 105, 3) := dk_184 0 105 (dk_at dksX1_out_0 10 rfl rfl)
theorem dX1_out_13 : decode cX1_out 13 = .ok (.ifCond .eq 12, 3) := dk_153 0 12 (dk_at dksX1_out_0 13 rfl rfl)
theorem dX1_out_16 : decode cX1_out 16 = .ok (.aload_n 0, 1) := dk_42 (dk_at dksX1_out_0 16 rfl rfl)
theorem dX1_out_17 : decode cX1_out 17 = .ok (.getfield 88, 3) := dk_180 0 88 (dk_at dksX1_out_0 17 rfl rfl)
theorem dX1_out_20 : decode cX1_out 20 = .ok (.iload_n 1, 1) := dk_27 (dk_at dksX1_out_0 20 rfl rfl)
theorem dX1_out_21 : decode cX1_out 21 = .ok (.iaload, 1) := dk_46 (dk_at dksX1_out_0 21 rfl rfl)
theorem dX1_out_22 : decode cX1_out 22 = .ok (.goto 4, 3) := dk_167 0 4 (dk_at dksX1_out_1 0 rfl rfl)
theorem dX1_out_25 : decode cX1_out 25 = .ok (.iconst (-1), 1) := dk_2 (dk_at dksX1_out_1 3 rfl rfl)
theorem dX1_out_26 : decode cX1_out 26 = .ok (.ireturn, 1) := dk_172 (dk_at dksX1_out_1 4 rfl rfl)
abbrev cX1_look : ByteArray := prog_24_method_101_code
def yX1_look : MethodName := ⟨RX1, "look", "(I)I"⟩
def dkwX1_look_2 : List UInt8 := [160, 0, 10, 42, 180, 1, 114, 167, 0, 4, 2, 172]
abbrev dktX1_look_2 : List UInt8 := dkwX1_look_2 ++ []
def dkwX1_look_1 : List UInt8 := [42, 180, 0, 115, 167, 0, 29, 27, 8, 160, 0, 10, 42, 180, 1, 117, 167, 0, 17, 27, 16, 6]
abbrev dktX1_look_1 : List UInt8 := dkwX1_look_1 ++ dktX1_look_2
def dkwX1_look_0 : List UInt8 := [27, 133, 9, 20, 0, 109, 184, 0, 105, 153, 0, 10, 42, 180, 0, 9, 27, 46, 172, 27, 7, 160, 0, 10]
abbrev dktX1_look_0 : List UInt8 := dkwX1_look_0 ++ dktX1_look_1
theorem dksX1_look_0 : cX1_look.data.toList.drop 0 = dktX1_look_0 := by decide +kernel
theorem dksX1_look_1 : cX1_look.data.toList.drop 24 = dktX1_look_1 := dk_seg dksX1_look_0 24 rfl rfl
theorem dksX1_look_2 : cX1_look.data.toList.drop 46 = dktX1_look_2 := dk_seg dksX1_look_1 22 rfl rfl
theorem dX1_look_0 : decode cX1_look 0 = .ok (.iload_n 1, 1) := dk_27 (dk_at dksX1_look_0 0 rfl rfl)
theorem dX1_look_1 : decode cX1_look 1 = .ok (.i2l, 1) := dk_133 (dk_at dksX1_look_0 1 rfl rfl)
theorem dX1_look_2 : decode cX1_look 2 = .ok (.lconst 0, 1) := dk_9 (dk_at dksX1_look_0 2 rfl rfl)
theorem dX1_look_3 : decode cX1_look 3 = .ok (.ldc2_w 109, 3) := dk_20 0 109 (dk_at dksX1_look_0 3 rfl rfl)
theorem dX1_look_6 : decode cX1_look 6 = .ok (.invokestatic 105, 3) := dk_184 0 105 (dk_at dksX1_look_0 6 rfl rfl)
theorem dX1_look_9 : decode cX1_look 9 = .ok (.ifCond .eq 10, 3) := dk_153 0 10 (dk_at dksX1_look_0 9 rfl rfl)
theorem dX1_look_12 : decode cX1_look 12 = .ok (.aload_n 0, 1) := dk_42 (dk_at dksX1_look_0 12 rfl rfl)
theorem dX1_look_13 : decode cX1_look 13 = .ok (.getfield 9, 3) := dk_180 0 9 (dk_at dksX1_look_0 13 rfl rfl)
theorem dX1_look_16 : decode cX1_look 16 = .ok (.iload_n 1, 1) := dk_27 (dk_at dksX1_look_0 16 rfl rfl)
theorem dX1_look_17 : decode cX1_look 17 = .ok (.iaload, 1) := dk_46 (dk_at dksX1_look_0 17 rfl rfl)
theorem dX1_look_18 : decode cX1_look 18 = .ok (.ireturn, 1) := dk_172 (dk_at dksX1_look_0 18 rfl rfl)
theorem dX1_look_19 : decode cX1_look 19 = .ok (.iload_n 1, 1) := dk_27 (dk_at dksX1_look_0 19 rfl rfl)
theorem dX1_look_20 : decode cX1_look 20 = .ok (.iconst 4, 1) := dk_7 (dk_at dksX1_look_0 20 rfl rfl)
theorem dX1_look_21 : decode cX1_look 21 = .ok (.if_icmp .ne 10, 3) := dk_160 0 10 (dk_at dksX1_look_0 21 rfl rfl)
theorem dX1_look_24 : decode cX1_look 24 = .ok (.aload_n 0, 1) := dk_42 (dk_at dksX1_look_1 0 rfl rfl)
theorem dX1_look_25 : decode cX1_look 25 = .ok (.getfield 115, 3) := dk_180 0 115 (dk_at dksX1_look_1 1 rfl rfl)
theorem dX1_look_28 : decode cX1_look 28 = .ok (.goto 29, 3) := dk_167 0 29 (dk_at dksX1_look_1 4 rfl rfl)
theorem dX1_look_31 : decode cX1_look 31 = .ok (.iload_n 1, 1) := dk_27 (dk_at dksX1_look_1 7 rfl rfl)
theorem dX1_look_32 : decode cX1_look 32 = .ok (.iconst 5, 1) := dk_8 (dk_at dksX1_look_1 8 rfl rfl)
theorem dX1_look_33 : decode cX1_look 33 = .ok (.if_icmp .ne 10, 3) := dk_160 0 10 (dk_at dksX1_look_1 9 rfl rfl)
theorem dX1_look_36 : decode cX1_look 36 = .ok (.aload_n 0, 1) := dk_42 (dk_at dksX1_look_1 12 rfl rfl)
theorem dX1_look_37 : decode cX1_look 37 = .ok (.getfield 373, 3) := dk_180 1 117 (dk_at dksX1_look_1 13 rfl rfl)
theorem dX1_look_40 : decode cX1_look 40 = .ok (.goto 17, 3) := dk_167 0 17 (dk_at dksX1_look_1 16 rfl rfl)
theorem dX1_look_43 : decode cX1_look 43 = .ok (.iload_n 1, 1) := dk_27 (dk_at dksX1_look_1 19 rfl rfl)
theorem dX1_look_44 : decode cX1_look 44 = .ok (.bipush 6, 2) := dk_16 6 (dk_at dksX1_look_1 20 rfl rfl)
theorem dX1_look_46 : decode cX1_look 46 = .ok (.if_icmp .ne 10, 3) := dk_160 0 10 (dk_at dksX1_look_2 0 rfl rfl)
theorem dX1_look_49 : decode cX1_look 49 = .ok (.aload_n 0, 1) := dk_42 (dk_at dksX1_look_2 3 rfl rfl)
theorem dX1_look_50 : decode cX1_look 50 = .ok (.getfield 370, 3) := dk_180 1 114 (dk_at dksX1_look_2 4 rfl rfl)
theorem dX1_look_53 : decode cX1_look 53 = .ok (.goto 4, 3) := dk_167 0 4 (dk_at dksX1_look_2 7 rfl rfl)
theorem dX1_look_56 : decode cX1_look 56 = .ok (.iconst (-1), 1) := dk_2 (dk_at dksX1_look_2 10 rfl rfl)
theorem dX1_look_57 : decode cX1_look 57 = .ok (.ireturn, 1) := dk_172 (dk_at dksX1_look_2 11 rfl rfl)
theorem q105 : (Jvm.Cond.initialized "ToldPowersModel") ∈ lw_all := lw_g (lw_at lw_m1 4 rfl) rfl
theorem q814 : (Jvm.Cond.selects "ToldPowersModel" ({ cls := "java/lang/Object", name := "getClass", desc := "()Ljava/lang/Class;" } : Jvm.MethodName) ({ cls := "java/lang/Object", name := "getClass", desc := "()Ljava/lang/Class;" } : Jvm.MethodName)) ∈ lw_all := lw_g (lw_at lw_m3 233 rfl) rfl
theorem q1951 : (Jvm.Cond.instantiable "ToldPowersModel" (50 : Nat)) ∈ lw_all := lw_g (lw_at lw_m8 170 rfl) rfl
theorem q1953 : (Jvm.Cond.instanceMethod ({ cls := "ToldPowersModel", name := "<init>", desc := "()V" } : Jvm.MethodName)) ∈ lw_all := lw_g (lw_at lw_m8 172 rfl) rfl
theorem q1954 : (Jvm.Cond.code ({ cls := "ToldPowersModel", name := "<init>", desc := "()V" } : Jvm.MethodName) prog_24_method_3_code (1 : Nat) (Option.none : Option Jvm.ClassFile.FieldType)) ∈ lw_all := lw_g (lw_at lw_m8 173 rfl) rfl
theorem q1955 : (Jvm.Cond.methodLink "ToldPowersModel" (3 : Nat) ({ cls := "java/lang/Object", name := "<init>", desc := "()V" } : Jvm.MethodName)) ∈ lw_all := lw_g (lw_at lw_m8 174 rfl) rfl
theorem q1956 : (Jvm.Cond.constant "ToldPowersModel" (34 : Nat) (180006 : Int32)) ∈ lw_all := lw_g (lw_at lw_m8 175 rfl) rfl
theorem q1957 : (Jvm.Cond.fieldLink "ToldPowersModel" (9 : Nat) "ToldPowersModel" "many" "[I") ∈ lw_all := lw_g (lw_at lw_m8 176 rfl) rfl
theorem q1958 : (Jvm.Cond.fieldLink "ToldPowersModel" (15 : Nat) "ToldPowersModel" "terms" "[I") ∈ lw_all := lw_g (lw_at lw_m8 177 rfl) rfl
theorem q1959 : (Jvm.Cond.fieldLink "ToldPowersModel" (18 : Nat) "ToldPowersModel" "tape" "[I") ∈ lw_all := lw_g (lw_at lw_m8 178 rfl) rfl
theorem q1960 : (Jvm.Cond.fieldLink "ToldPowersModel" (115 : Nat) "ToldPowersModel" "taped" "I") ∈ lw_all := lw_g (lw_at lw_m8 179 rfl) rfl
theorem q1961 : (Jvm.Cond.fieldLink "ToldPowersModel" (193 : Nat) "ToldPowersModel" "fault" "I") ∈ lw_all := lw_g (lw_at lw_m8 180 rfl) rfl
theorem q1962 : (Jvm.Cond.fieldLink "ToldPowersModel" (21 : Nat) "ToldPowersModel" "faultPlace" "I") ∈ lw_all := lw_g (lw_at lw_m8 181 rfl) rfl
theorem q1963 : (Jvm.Cond.fieldLink "ToldPowersModel" (25 : Nat) "ToldPowersModel" "faultOuter" "I") ∈ lw_all := lw_g (lw_at lw_m8 182 rfl) rfl
theorem q1964 : (Jvm.Cond.fieldLink "ToldPowersModel" (28 : Nat) "ToldPowersModel" "faultInner" "I") ∈ lw_all := lw_g (lw_at lw_m8 183 rfl) rfl
theorem q1965 : (Jvm.Cond.fieldLink "ToldPowersModel" (153 : Nat) "ToldPowersModel" "bad" "I") ∈ lw_all := lw_g (lw_at lw_m8 184 rfl) rfl
theorem q1966 : (Jvm.Cond.fieldLink "ToldPowersModel" (156 : Nat) "ToldPowersModel" "badPlace" "I") ∈ lw_all := lw_g (lw_at lw_m8 185 rfl) rfl
theorem q1967 : (Jvm.Cond.fieldLink "ToldPowersModel" (162 : Nat) "ToldPowersModel" "badOuter" "I") ∈ lw_all := lw_g (lw_at lw_m8 186 rfl) rfl
theorem q1968 : (Jvm.Cond.fieldLink "ToldPowersModel" (168 : Nat) "ToldPowersModel" "badInner" "I") ∈ lw_all := lw_g (lw_at lw_m8 187 rfl) rfl
theorem q1969 : (Jvm.Cond.fieldLink "ToldPowersModel" (142 : Nat) "ToldPowersModel" "sort" "I") ∈ lw_all := lw_g (lw_at lw_m8 188 rfl) rfl
theorem q1970 : (Jvm.Cond.fieldLink "ToldPowersModel" (129 : Nat) "ToldPowersModel" "from" "I") ∈ lw_all := lw_g (lw_at lw_m8 189 rfl) rfl
theorem q1971 : (Jvm.Cond.fieldLink "ToldPowersModel" (122 : Nat) "ToldPowersModel" "to" "I") ∈ lw_all := lw_g (lw_at lw_m8 190 rfl) rfl
theorem q1972 : (Jvm.Cond.fieldLink "ToldPowersModel" (132 : Nat) "ToldPowersModel" "word" "J") ∈ lw_all := lw_g (lw_at lw_m8 191 rfl) rfl
theorem q1973 : (Jvm.Cond.fieldLink "ToldPowersModel" (136 : Nat) "ToldPowersModel" "number" "I") ∈ lw_all := lw_g (lw_at lw_m8 192 rfl) rfl
theorem q1974 : (Jvm.Cond.fieldLink "ToldPowersModel" (139 : Nat) "ToldPowersModel" "sign" "I") ∈ lw_all := lw_g (lw_at lw_m8 193 rfl) rfl
theorem q1975 : (Jvm.Cond.fieldLink "ToldPowersModel" (159 : Nat) "ToldPowersModel" "outer" "I") ∈ lw_all := lw_g (lw_at lw_m8 194 rfl) rfl
theorem q1976 : (Jvm.Cond.fieldLink "ToldPowersModel" (165 : Nat) "ToldPowersModel" "inner" "I") ∈ lw_all := lw_g (lw_at lw_m8 195 rfl) rfl
theorem q1977 : (Jvm.Cond.fieldLink "ToldPowersModel" (210 : Nat) "ToldPowersModel" "isLess" "Z") ∈ lw_all := lw_g (lw_at lw_m8 196 rfl) rfl
theorem q1978 : (Jvm.Cond.fieldLink "ToldPowersModel" (31 : Nat) "ToldPowersModel" "laid" "I") ∈ lw_all := lw_g (lw_at lw_m8 197 rfl) rfl
theorem q1979 : (Jvm.Cond.fieldLink "ToldPowersModel" (35 : Nat) "ToldPowersModel" "ways" "[J") ∈ lw_all := lw_g (lw_at lw_m8 198 rfl) rfl
theorem q1980 : (Jvm.Cond.fieldLink "ToldPowersModel" (39 : Nat) "ToldPowersModel" "unlikeLaid" "I") ∈ lw_all := lw_g (lw_at lw_m8 199 rfl) rfl
theorem q1981 : (Jvm.Cond.fieldLink "ToldPowersModel" (42 : Nat) "ToldPowersModel" "unlike" "[J") ∈ lw_all := lw_g (lw_at lw_m8 200 rfl) rfl
theorem q1982 : (Jvm.Cond.fieldLink "ToldPowersModel" (45 : Nat) "ToldPowersModel" "round" "[I") ∈ lw_all := lw_g (lw_at lw_m8 201 rfl) rfl
theorem q1983 : (Jvm.Cond.fieldLink "ToldPowersModel" (48 : Nat) "ToldPowersModel" "length" "[I") ∈ lw_all := lw_g (lw_at lw_m8 202 rfl) rfl
theorem q1984 : (Jvm.Cond.fieldLink "ToldPowersModel" (51 : Nat) "ToldPowersModel" "begun" "[I") ∈ lw_all := lw_g (lw_at lw_m8 203 rfl) rfl
theorem q1985 : (Jvm.Cond.fieldLink "ToldPowersModel" (54 : Nat) "ToldPowersModel" "oftens" "[J") ∈ lw_all := lw_g (lw_at lw_m8 204 rfl) rfl
theorem q1986 : (Jvm.Cond.fieldLink "ToldPowersModel" (289 : Nat) "ToldPowersModel" "kinds" "I") ∈ lw_all := lw_g (lw_at lw_m8 205 rfl) rfl
theorem q1987 : (Jvm.Cond.fieldLink "ToldPowersModel" (57 : Nat) "ToldPowersModel" "found" "[I") ∈ lw_all := lw_g (lw_at lw_m8 206 rfl) rfl
theorem q1988 : (Jvm.Cond.fieldLink "ToldPowersModel" (60 : Nat) "ToldPowersModel" "proved" "[I") ∈ lw_all := lw_g (lw_at lw_m8 207 rfl) rfl
theorem q1989 : (Jvm.Cond.fieldLink "ToldPowersModel" (324 : Nat) "ToldPowersModel" "lines" "I") ∈ lw_all := lw_g (lw_at lw_m8 208 rfl) rfl
theorem q1990 : (Jvm.Cond.fieldLink "ToldPowersModel" (63 : Nat) "ToldPowersModel" "code" "[I") ∈ lw_all := lw_g (lw_at lw_m8 209 rfl) rfl
theorem q1991 : (Jvm.Cond.fieldLink "ToldPowersModel" (66 : Nat) "ToldPowersModel" "codeSign" "[I") ∈ lw_all := lw_g (lw_at lw_m8 210 rfl) rfl
theorem q1992 : (Jvm.Cond.fieldLink "ToldPowersModel" (69 : Nat) "ToldPowersModel" "sideTo" "[I") ∈ lw_all := lw_g (lw_at lw_m8 211 rfl) rfl
theorem q1993 : (Jvm.Cond.fieldLink "ToldPowersModel" (338 : Nat) "ToldPowersModel" "codes" "I") ∈ lw_all := lw_g (lw_at lw_m8 212 rfl) rfl
theorem q1994 : (Jvm.Cond.fieldLink "ToldPowersModel" (370 : Nat) "ToldPowersModel" "parts" "I") ∈ lw_all := lw_g (lw_at lw_m8 213 rfl) rfl
theorem q1995 : (Jvm.Cond.fieldLink "ToldPowersModel" (355 : Nat) "ToldPowersModel" "partsRead" "I") ∈ lw_all := lw_g (lw_at lw_m8 214 rfl) rfl
theorem q1996 : (Jvm.Cond.fieldLink "ToldPowersModel" (373 : Nat) "ToldPowersModel" "letters" "I") ∈ lw_all := lw_g (lw_at lw_m8 215 rfl) rfl
theorem q1997 : (Jvm.Cond.fieldLink "ToldPowersModel" (361 : Nat) "ToldPowersModel" "lettersRead" "I") ∈ lw_all := lw_g (lw_at lw_m8 216 rfl) rfl
theorem q1998 : (Jvm.Cond.fieldLink "ToldPowersModel" (367 : Nat) "ToldPowersModel" "hasIdentity" "Z") ∈ lw_all := lw_g (lw_at lw_m8 217 rfl) rfl
theorem q1999 : (Jvm.Cond.fieldLink "ToldPowersModel" (72 : Nat) "ToldPowersModel" "lettered" "[I") ∈ lw_all := lw_g (lw_at lw_m8 218 rfl) rfl
theorem q2000 : (Jvm.Cond.fieldLink "ToldPowersModel" (75 : Nat) "ToldPowersModel" "pile" "[J") ∈ lw_all := lw_g (lw_at lw_m8 219 rfl) rfl
theorem q2001 : (Jvm.Cond.fieldLink "ToldPowersModel" (381 : Nat) "ToldPowersModel" "isBeyond" "Z") ∈ lw_all := lw_g (lw_at lw_m8 220 rfl) rfl
theorem q2002 : (Jvm.Cond.fieldLink "ToldPowersModel" (78 : Nat) "ToldPowersModel" "first" "[I") ∈ lw_all := lw_g (lw_at lw_m8 221 rfl) rfl
theorem q2003 : (Jvm.Cond.fieldLink "ToldPowersModel" (81 : Nat) "ToldPowersModel" "classes" "[J") ∈ lw_all := lw_g (lw_at lw_m8 222 rfl) rfl
theorem q2004 : (Jvm.Cond.fieldLink "ToldPowersModel" (84 : Nat) "ToldPowersModel" "isSum" "[Z") ∈ lw_all := lw_g (lw_at lw_m8 223 rfl) rfl
theorem q2005 : (Jvm.Cond.fieldLink "ToldPowersModel" (88 : Nat) "ToldPowersModel" "shown" "[I") ∈ lw_all := lw_g (lw_at lw_m8 224 rfl) rfl
theorem q2006 : (Jvm.Cond.fieldLink "ToldPowersModel" (442 : Nat) "ToldPowersModel" "showns" "I") ∈ lw_all := lw_g (lw_at lw_m8 225 rfl) rfl
theorem q2007 : (Jvm.Cond.laysFinal "ToldPowersModel" "ToldPowersModel" "many" "[I") ∈ lw_all := lw_g (lw_at lw_m8 226 rfl) rfl
theorem q2008 : (Jvm.Cond.soleField "ToldPowersModel" "many") ∈ lw_all := lw_g (lw_at lw_m8 227 rfl) rfl
theorem q2009 : (Jvm.Cond.laysFinal "ToldPowersModel" "ToldPowersModel" "terms" "[I") ∈ lw_all := lw_g (lw_at lw_m8 228 rfl) rfl
theorem q2010 : (Jvm.Cond.soleField "ToldPowersModel" "terms") ∈ lw_all := lw_g (lw_at lw_m8 229 rfl) rfl
theorem q2011 : (Jvm.Cond.laysFinal "ToldPowersModel" "ToldPowersModel" "tape" "[I") ∈ lw_all := lw_g (lw_at lw_m8 230 rfl) rfl
theorem q2012 : (Jvm.Cond.soleField "ToldPowersModel" "tape") ∈ lw_all := lw_g (lw_at lw_m8 231 rfl) rfl
theorem q2013 : (Jvm.Cond.lays "ToldPowersModel" "ToldPowersModel" "taped" "I") ∈ lw_all := lw_g (lw_at lw_m8 232 rfl) rfl
theorem q2014 : (Jvm.Cond.soleField "ToldPowersModel" "taped") ∈ lw_all := lw_g (lw_at lw_m8 233 rfl) rfl
theorem q2015 : (Jvm.Cond.lays "ToldPowersModel" "ToldPowersModel" "fault" "I") ∈ lw_all := lw_g (lw_at lw_m8 234 rfl) rfl
theorem q2016 : (Jvm.Cond.soleField "ToldPowersModel" "fault") ∈ lw_all := lw_g (lw_at lw_m8 235 rfl) rfl
theorem q2017 : (Jvm.Cond.lays "ToldPowersModel" "ToldPowersModel" "faultPlace" "I") ∈ lw_all := lw_g (lw_at lw_m8 236 rfl) rfl
theorem q2018 : (Jvm.Cond.soleField "ToldPowersModel" "faultPlace") ∈ lw_all := lw_g (lw_at lw_m8 237 rfl) rfl
theorem q2019 : (Jvm.Cond.lays "ToldPowersModel" "ToldPowersModel" "faultOuter" "I") ∈ lw_all := lw_g (lw_at lw_m8 238 rfl) rfl
theorem q2020 : (Jvm.Cond.soleField "ToldPowersModel" "faultOuter") ∈ lw_all := lw_g (lw_at lw_m8 239 rfl) rfl
theorem q2021 : (Jvm.Cond.lays "ToldPowersModel" "ToldPowersModel" "faultInner" "I") ∈ lw_all := lw_g (lw_at lw_m9 0 rfl) rfl
theorem q2022 : (Jvm.Cond.soleField "ToldPowersModel" "faultInner") ∈ lw_all := lw_g (lw_at lw_m9 1 rfl) rfl
theorem q2023 : (Jvm.Cond.lays "ToldPowersModel" "ToldPowersModel" "bad" "I") ∈ lw_all := lw_g (lw_at lw_m9 2 rfl) rfl
theorem q2024 : (Jvm.Cond.soleField "ToldPowersModel" "bad") ∈ lw_all := lw_g (lw_at lw_m9 3 rfl) rfl
theorem q2025 : (Jvm.Cond.lays "ToldPowersModel" "ToldPowersModel" "badPlace" "I") ∈ lw_all := lw_g (lw_at lw_m9 4 rfl) rfl
theorem q2026 : (Jvm.Cond.soleField "ToldPowersModel" "badPlace") ∈ lw_all := lw_g (lw_at lw_m9 5 rfl) rfl
theorem q2027 : (Jvm.Cond.lays "ToldPowersModel" "ToldPowersModel" "badOuter" "I") ∈ lw_all := lw_g (lw_at lw_m9 6 rfl) rfl
theorem q2028 : (Jvm.Cond.soleField "ToldPowersModel" "badOuter") ∈ lw_all := lw_g (lw_at lw_m9 7 rfl) rfl
theorem q2029 : (Jvm.Cond.lays "ToldPowersModel" "ToldPowersModel" "badInner" "I") ∈ lw_all := lw_g (lw_at lw_m9 8 rfl) rfl
theorem q2030 : (Jvm.Cond.soleField "ToldPowersModel" "badInner") ∈ lw_all := lw_g (lw_at lw_m9 9 rfl) rfl
theorem q2031 : (Jvm.Cond.lays "ToldPowersModel" "ToldPowersModel" "sort" "I") ∈ lw_all := lw_g (lw_at lw_m9 10 rfl) rfl
theorem q2032 : (Jvm.Cond.soleField "ToldPowersModel" "sort") ∈ lw_all := lw_g (lw_at lw_m9 11 rfl) rfl
theorem q2033 : (Jvm.Cond.lays "ToldPowersModel" "ToldPowersModel" "from" "I") ∈ lw_all := lw_g (lw_at lw_m9 12 rfl) rfl
theorem q2034 : (Jvm.Cond.soleField "ToldPowersModel" "from") ∈ lw_all := lw_g (lw_at lw_m9 13 rfl) rfl
theorem q2035 : (Jvm.Cond.lays "ToldPowersModel" "ToldPowersModel" "to" "I") ∈ lw_all := lw_g (lw_at lw_m9 14 rfl) rfl
theorem q2036 : (Jvm.Cond.soleField "ToldPowersModel" "to") ∈ lw_all := lw_g (lw_at lw_m9 15 rfl) rfl
theorem q2037 : (Jvm.Cond.lays "ToldPowersModel" "ToldPowersModel" "word" "J") ∈ lw_all := lw_g (lw_at lw_m9 16 rfl) rfl
theorem q2038 : (Jvm.Cond.soleField "ToldPowersModel" "word") ∈ lw_all := lw_g (lw_at lw_m9 17 rfl) rfl
theorem q2039 : (Jvm.Cond.lays "ToldPowersModel" "ToldPowersModel" "number" "I") ∈ lw_all := lw_g (lw_at lw_m9 18 rfl) rfl
theorem q2040 : (Jvm.Cond.soleField "ToldPowersModel" "number") ∈ lw_all := lw_g (lw_at lw_m9 19 rfl) rfl
theorem q2041 : (Jvm.Cond.lays "ToldPowersModel" "ToldPowersModel" "sign" "I") ∈ lw_all := lw_g (lw_at lw_m9 20 rfl) rfl
theorem q2042 : (Jvm.Cond.soleField "ToldPowersModel" "sign") ∈ lw_all := lw_g (lw_at lw_m9 21 rfl) rfl
theorem q2043 : (Jvm.Cond.lays "ToldPowersModel" "ToldPowersModel" "outer" "I") ∈ lw_all := lw_g (lw_at lw_m9 22 rfl) rfl
theorem q2044 : (Jvm.Cond.soleField "ToldPowersModel" "outer") ∈ lw_all := lw_g (lw_at lw_m9 23 rfl) rfl
theorem q2045 : (Jvm.Cond.lays "ToldPowersModel" "ToldPowersModel" "inner" "I") ∈ lw_all := lw_g (lw_at lw_m9 24 rfl) rfl
theorem q2046 : (Jvm.Cond.soleField "ToldPowersModel" "inner") ∈ lw_all := lw_g (lw_at lw_m9 25 rfl) rfl
theorem q2047 : (Jvm.Cond.lays "ToldPowersModel" "ToldPowersModel" "isLess" "Z") ∈ lw_all := lw_g (lw_at lw_m9 26 rfl) rfl
theorem q2048 : (Jvm.Cond.soleField "ToldPowersModel" "isLess") ∈ lw_all := lw_g (lw_at lw_m9 27 rfl) rfl
theorem q2049 : (Jvm.Cond.lays "ToldPowersModel" "ToldPowersModel" "laid" "I") ∈ lw_all := lw_g (lw_at lw_m9 28 rfl) rfl
theorem q2050 : (Jvm.Cond.soleField "ToldPowersModel" "laid") ∈ lw_all := lw_g (lw_at lw_m9 29 rfl) rfl
theorem q2051 : (Jvm.Cond.laysFinal "ToldPowersModel" "ToldPowersModel" "ways" "[J") ∈ lw_all := lw_g (lw_at lw_m9 30 rfl) rfl
theorem q2052 : (Jvm.Cond.soleField "ToldPowersModel" "ways") ∈ lw_all := lw_g (lw_at lw_m9 31 rfl) rfl
theorem q2053 : (Jvm.Cond.lays "ToldPowersModel" "ToldPowersModel" "unlikeLaid" "I") ∈ lw_all := lw_g (lw_at lw_m9 32 rfl) rfl
theorem q2054 : (Jvm.Cond.soleField "ToldPowersModel" "unlikeLaid") ∈ lw_all := lw_g (lw_at lw_m9 33 rfl) rfl
theorem q2055 : (Jvm.Cond.laysFinal "ToldPowersModel" "ToldPowersModel" "unlike" "[J") ∈ lw_all := lw_g (lw_at lw_m9 34 rfl) rfl
theorem q2056 : (Jvm.Cond.soleField "ToldPowersModel" "unlike") ∈ lw_all := lw_g (lw_at lw_m9 35 rfl) rfl
theorem q2057 : (Jvm.Cond.laysFinal "ToldPowersModel" "ToldPowersModel" "round" "[I") ∈ lw_all := lw_g (lw_at lw_m9 36 rfl) rfl
theorem q2058 : (Jvm.Cond.soleField "ToldPowersModel" "round") ∈ lw_all := lw_g (lw_at lw_m9 37 rfl) rfl
theorem q2059 : (Jvm.Cond.laysFinal "ToldPowersModel" "ToldPowersModel" "length" "[I") ∈ lw_all := lw_g (lw_at lw_m9 38 rfl) rfl
theorem q2060 : (Jvm.Cond.soleField "ToldPowersModel" "length") ∈ lw_all := lw_g (lw_at lw_m9 39 rfl) rfl
theorem q2061 : (Jvm.Cond.laysFinal "ToldPowersModel" "ToldPowersModel" "begun" "[I") ∈ lw_all := lw_g (lw_at lw_m9 40 rfl) rfl
theorem q2062 : (Jvm.Cond.soleField "ToldPowersModel" "begun") ∈ lw_all := lw_g (lw_at lw_m9 41 rfl) rfl
theorem q2063 : (Jvm.Cond.laysFinal "ToldPowersModel" "ToldPowersModel" "oftens" "[J") ∈ lw_all := lw_g (lw_at lw_m9 42 rfl) rfl
theorem q2064 : (Jvm.Cond.soleField "ToldPowersModel" "oftens") ∈ lw_all := lw_g (lw_at lw_m9 43 rfl) rfl
theorem q2065 : (Jvm.Cond.lays "ToldPowersModel" "ToldPowersModel" "kinds" "I") ∈ lw_all := lw_g (lw_at lw_m9 44 rfl) rfl
theorem q2066 : (Jvm.Cond.soleField "ToldPowersModel" "kinds") ∈ lw_all := lw_g (lw_at lw_m9 45 rfl) rfl
theorem q2067 : (Jvm.Cond.laysFinal "ToldPowersModel" "ToldPowersModel" "found" "[I") ∈ lw_all := lw_g (lw_at lw_m9 46 rfl) rfl
theorem q2068 : (Jvm.Cond.soleField "ToldPowersModel" "found") ∈ lw_all := lw_g (lw_at lw_m9 47 rfl) rfl
theorem q2069 : (Jvm.Cond.laysFinal "ToldPowersModel" "ToldPowersModel" "proved" "[I") ∈ lw_all := lw_g (lw_at lw_m9 48 rfl) rfl
theorem q2070 : (Jvm.Cond.soleField "ToldPowersModel" "proved") ∈ lw_all := lw_g (lw_at lw_m9 49 rfl) rfl
theorem q2071 : (Jvm.Cond.lays "ToldPowersModel" "ToldPowersModel" "lines" "I") ∈ lw_all := lw_g (lw_at lw_m9 50 rfl) rfl
theorem q2072 : (Jvm.Cond.soleField "ToldPowersModel" "lines") ∈ lw_all := lw_g (lw_at lw_m9 51 rfl) rfl
theorem q2073 : (Jvm.Cond.laysFinal "ToldPowersModel" "ToldPowersModel" "code" "[I") ∈ lw_all := lw_g (lw_at lw_m9 52 rfl) rfl
theorem q2074 : (Jvm.Cond.soleField "ToldPowersModel" "code") ∈ lw_all := lw_g (lw_at lw_m9 53 rfl) rfl
theorem q2075 : (Jvm.Cond.laysFinal "ToldPowersModel" "ToldPowersModel" "codeSign" "[I") ∈ lw_all := lw_g (lw_at lw_m9 54 rfl) rfl
theorem q2076 : (Jvm.Cond.soleField "ToldPowersModel" "codeSign") ∈ lw_all := lw_g (lw_at lw_m9 55 rfl) rfl
theorem q2077 : (Jvm.Cond.laysFinal "ToldPowersModel" "ToldPowersModel" "sideTo" "[I") ∈ lw_all := lw_g (lw_at lw_m9 56 rfl) rfl
theorem q2078 : (Jvm.Cond.soleField "ToldPowersModel" "sideTo") ∈ lw_all := lw_g (lw_at lw_m9 57 rfl) rfl
theorem q2079 : (Jvm.Cond.lays "ToldPowersModel" "ToldPowersModel" "codes" "I") ∈ lw_all := lw_g (lw_at lw_m9 58 rfl) rfl
theorem q2080 : (Jvm.Cond.soleField "ToldPowersModel" "codes") ∈ lw_all := lw_g (lw_at lw_m9 59 rfl) rfl
theorem q2081 : (Jvm.Cond.lays "ToldPowersModel" "ToldPowersModel" "parts" "I") ∈ lw_all := lw_g (lw_at lw_m9 60 rfl) rfl
theorem q2082 : (Jvm.Cond.soleField "ToldPowersModel" "parts") ∈ lw_all := lw_g (lw_at lw_m9 61 rfl) rfl
theorem q2083 : (Jvm.Cond.lays "ToldPowersModel" "ToldPowersModel" "partsRead" "I") ∈ lw_all := lw_g (lw_at lw_m9 62 rfl) rfl
theorem q2084 : (Jvm.Cond.soleField "ToldPowersModel" "partsRead") ∈ lw_all := lw_g (lw_at lw_m9 63 rfl) rfl
theorem q2085 : (Jvm.Cond.lays "ToldPowersModel" "ToldPowersModel" "letters" "I") ∈ lw_all := lw_g (lw_at lw_m9 64 rfl) rfl
theorem q2086 : (Jvm.Cond.soleField "ToldPowersModel" "letters") ∈ lw_all := lw_g (lw_at lw_m9 65 rfl) rfl
theorem q2087 : (Jvm.Cond.lays "ToldPowersModel" "ToldPowersModel" "lettersRead" "I") ∈ lw_all := lw_g (lw_at lw_m9 66 rfl) rfl
theorem q2088 : (Jvm.Cond.soleField "ToldPowersModel" "lettersRead") ∈ lw_all := lw_g (lw_at lw_m9 67 rfl) rfl
theorem q2089 : (Jvm.Cond.lays "ToldPowersModel" "ToldPowersModel" "hasIdentity" "Z") ∈ lw_all := lw_g (lw_at lw_m9 68 rfl) rfl
theorem q2090 : (Jvm.Cond.soleField "ToldPowersModel" "hasIdentity") ∈ lw_all := lw_g (lw_at lw_m9 69 rfl) rfl
theorem q2091 : (Jvm.Cond.laysFinal "ToldPowersModel" "ToldPowersModel" "lettered" "[I") ∈ lw_all := lw_g (lw_at lw_m9 70 rfl) rfl
theorem q2092 : (Jvm.Cond.soleField "ToldPowersModel" "lettered") ∈ lw_all := lw_g (lw_at lw_m9 71 rfl) rfl
theorem q2093 : (Jvm.Cond.laysFinal "ToldPowersModel" "ToldPowersModel" "pile" "[J") ∈ lw_all := lw_g (lw_at lw_m9 72 rfl) rfl
theorem q2094 : (Jvm.Cond.soleField "ToldPowersModel" "pile") ∈ lw_all := lw_g (lw_at lw_m9 73 rfl) rfl
theorem q2095 : (Jvm.Cond.lays "ToldPowersModel" "ToldPowersModel" "isBeyond" "Z") ∈ lw_all := lw_g (lw_at lw_m9 74 rfl) rfl
theorem q2096 : (Jvm.Cond.soleField "ToldPowersModel" "isBeyond") ∈ lw_all := lw_g (lw_at lw_m9 75 rfl) rfl
theorem q2097 : (Jvm.Cond.laysFinal "ToldPowersModel" "ToldPowersModel" "first" "[I") ∈ lw_all := lw_g (lw_at lw_m9 76 rfl) rfl
theorem q2098 : (Jvm.Cond.soleField "ToldPowersModel" "first") ∈ lw_all := lw_g (lw_at lw_m9 77 rfl) rfl
theorem q2099 : (Jvm.Cond.laysFinal "ToldPowersModel" "ToldPowersModel" "classes" "[J") ∈ lw_all := lw_g (lw_at lw_m9 78 rfl) rfl
theorem q2100 : (Jvm.Cond.soleField "ToldPowersModel" "classes") ∈ lw_all := lw_g (lw_at lw_m9 79 rfl) rfl
theorem q2101 : (Jvm.Cond.laysFinal "ToldPowersModel" "ToldPowersModel" "isSum" "[Z") ∈ lw_all := lw_g (lw_at lw_m9 80 rfl) rfl
theorem q2102 : (Jvm.Cond.soleField "ToldPowersModel" "isSum") ∈ lw_all := lw_g (lw_at lw_m9 81 rfl) rfl
theorem q2103 : (Jvm.Cond.laysFinal "ToldPowersModel" "ToldPowersModel" "shown" "[I") ∈ lw_all := lw_g (lw_at lw_m9 82 rfl) rfl
theorem q2104 : (Jvm.Cond.soleField "ToldPowersModel" "shown") ∈ lw_all := lw_g (lw_at lw_m9 83 rfl) rfl
theorem q2105 : (Jvm.Cond.lays "ToldPowersModel" "ToldPowersModel" "showns" "I") ∈ lw_all := lw_g (lw_at lw_m9 84 rfl) rfl
theorem q2106 : (Jvm.Cond.soleField "ToldPowersModel" "showns") ∈ lw_all := lw_g (lw_at lw_m9 85 rfl) rfl
theorem q2107 : (Jvm.Cond.superclass "ToldPowersModel" "java/lang/Object") ∈ lw_all := lw_g (lw_at lw_m9 86 rfl) rfl
theorem q2109 : (Jvm.Cond.instanceMethod ({ cls := "ToldPowersModel", name := "feed", desc := "(IIIII)I" } : Jvm.MethodName)) ∈ lw_all := lw_g (lw_at lw_m9 88 rfl) rfl
theorem q2110 : (Jvm.Cond.selects "ToldPowersModel" ({ cls := "ToldPowersModel", name := "feed", desc := "(IIIII)I" } : Jvm.MethodName) ({ cls := "ToldPowersModel", name := "feed", desc := "(IIIII)I" } : Jvm.MethodName)) ∈ lw_all := lw_g (lw_at lw_m9 89 rfl) rfl
theorem q2111 : (Jvm.Cond.code ({ cls := "ToldPowersModel", name := "feed", desc := "(IIIII)I" } : Jvm.MethodName) prog_24_method_13_code (6 : Nat) (Option.some Jvm.ClassFile.FieldType.int)) ∈ lw_all := lw_g (lw_at lw_m9 90 rfl) rfl
theorem q2112 : (Jvm.Cond.methodLink "ToldPowersModel" (118 : Nat) ({ cls := "ToldPowersModel", name := "four", desc := "(I)V" } : Jvm.MethodName)) ∈ lw_all := lw_g (lw_at lw_m9 91 rfl) rfl
theorem q2113 : (Jvm.Cond.privateMethod ({ cls := "ToldPowersModel", name := "four", desc := "(I)V" } : Jvm.MethodName)) ∈ lw_tbl := lw_at lw_m9 92 rfl
theorem q2114 : (Jvm.Cond.instanceMethod ({ cls := "ToldPowersModel", name := "four", desc := "(I)V" } : Jvm.MethodName)) ∈ lw_all := lw_g (lw_at lw_m9 93 rfl) rfl
theorem q2115 : (Jvm.Cond.code ({ cls := "ToldPowersModel", name := "four", desc := "(I)V" } : Jvm.MethodName) prog_24_method_12_code (3 : Nat) (Option.none : Option Jvm.ClassFile.FieldType)) ∈ lw_all := lw_g (lw_at lw_m9 94 rfl) rfl
theorem q2117 : (Jvm.Cond.instanceMethod ({ cls := "ToldPowersModel", name := "end", desc := "(I)Z" } : Jvm.MethodName)) ∈ lw_all := lw_g (lw_at lw_m9 96 rfl) rfl
theorem q2118 : (Jvm.Cond.selects "ToldPowersModel" ({ cls := "ToldPowersModel", name := "end", desc := "(I)Z" } : Jvm.MethodName) ({ cls := "ToldPowersModel", name := "end", desc := "(I)Z" } : Jvm.MethodName)) ∈ lw_all := lw_g (lw_at lw_m9 97 rfl) rfl
theorem q2119 : (Jvm.Cond.code ({ cls := "ToldPowersModel", name := "end", desc := "(I)Z" } : Jvm.MethodName) prog_24_method_14_code (2 : Nat) (Option.some Jvm.ClassFile.FieldType.boolean)) ∈ lw_all := lw_g (lw_at lw_m9 98 rfl) rfl
theorem q2120 : (Jvm.Cond.methodLink "ToldPowersModel" (105 : Nat) ({ cls := "ToldPowersModel", name := "isIn", desc := "(JJJ)Z" } : Jvm.MethodName)) ∈ lw_all := lw_g (lw_at lw_m9 99 rfl) rfl
theorem q2121 : (Jvm.Cond.static ({ cls := "ToldPowersModel", name := "isIn", desc := "(JJJ)Z" } : Jvm.MethodName)) ∈ lw_all := lw_g (lw_at lw_m9 100 rfl) rfl
theorem q2122 : (Jvm.Cond.code ({ cls := "ToldPowersModel", name := "isIn", desc := "(JJJ)Z" } : Jvm.MethodName) prog_24_method_1_code (6 : Nat) (Option.some Jvm.ClassFile.FieldType.boolean)) ∈ lw_all := lw_g (lw_at lw_m9 101 rfl) rfl
theorem q2124 : (Jvm.Cond.instanceMethod ({ cls := "ToldPowersModel", name := "fault", desc := "(I)I" } : Jvm.MethodName)) ∈ lw_all := lw_g (lw_at lw_m9 103 rfl) rfl
theorem q2125 : (Jvm.Cond.selects "ToldPowersModel" ({ cls := "ToldPowersModel", name := "fault", desc := "(I)I" } : Jvm.MethodName) ({ cls := "ToldPowersModel", name := "fault", desc := "(I)I" } : Jvm.MethodName)) ∈ lw_all := lw_g (lw_at lw_m9 104 rfl) rfl
theorem q2126 : (Jvm.Cond.code ({ cls := "ToldPowersModel", name := "fault", desc := "(I)I" } : Jvm.MethodName) prog_24_method_25_code (2 : Nat) (Option.some Jvm.ClassFile.FieldType.int)) ∈ lw_all := lw_g (lw_at lw_m9 105 rfl) rfl
theorem q2128 : (Jvm.Cond.instanceMethod ({ cls := "ToldPowersModel", name := "form", desc := "(I)I" } : Jvm.MethodName)) ∈ lw_all := lw_g (lw_at lw_m9 107 rfl) rfl
theorem q2129 : (Jvm.Cond.selects "ToldPowersModel" ({ cls := "ToldPowersModel", name := "form", desc := "(I)I" } : Jvm.MethodName) ({ cls := "ToldPowersModel", name := "form", desc := "(I)I" } : Jvm.MethodName)) ∈ lw_all := lw_g (lw_at lw_m9 108 rfl) rfl
theorem q2130 : (Jvm.Cond.code ({ cls := "ToldPowersModel", name := "form", desc := "(I)I" } : Jvm.MethodName) prog_24_method_32_code (4 : Nat) (Option.some Jvm.ClassFile.FieldType.int)) ∈ lw_all := lw_g (lw_at lw_m9 109 rfl) rfl
theorem q2131 : (Jvm.Cond.methodLink "ToldPowersModel" (247 : Nat) ({ cls := "ToldPowersModel", name := "begins", desc := "()V" } : Jvm.MethodName)) ∈ lw_all := lw_g (lw_at lw_m9 110 rfl) rfl
theorem q2132 : (Jvm.Cond.privateMethod ({ cls := "ToldPowersModel", name := "begins", desc := "()V" } : Jvm.MethodName)) ∈ lw_tbl := lw_at lw_m9 111 rfl
theorem q2133 : (Jvm.Cond.instanceMethod ({ cls := "ToldPowersModel", name := "begins", desc := "()V" } : Jvm.MethodName)) ∈ lw_all := lw_g (lw_at lw_m9 112 rfl) rfl
theorem q2134 : (Jvm.Cond.code ({ cls := "ToldPowersModel", name := "begins", desc := "()V" } : Jvm.MethodName) prog_24_method_23_code (1 : Nat) (Option.none : Option Jvm.ClassFile.FieldType)) ∈ lw_all := lw_g (lw_at lw_m9 113 rfl) rfl
theorem q2135 : (Jvm.Cond.methodLink "ToldPowersModel" (190 : Nat) ({ cls := "ToldPowersModel", name := "next", desc := "()V" } : Jvm.MethodName)) ∈ lw_all := lw_g (lw_at lw_m9 114 rfl) rfl
theorem q2136 : (Jvm.Cond.privateMethod ({ cls := "ToldPowersModel", name := "next", desc := "()V" } : Jvm.MethodName)) ∈ lw_tbl := lw_at lw_m9 115 rfl
theorem q2137 : (Jvm.Cond.instanceMethod ({ cls := "ToldPowersModel", name := "next", desc := "()V" } : Jvm.MethodName)) ∈ lw_all := lw_g (lw_at lw_m9 116 rfl) rfl
theorem q2138 : (Jvm.Cond.code ({ cls := "ToldPowersModel", name := "next", desc := "()V" } : Jvm.MethodName) prog_24_method_16_code (2 : Nat) (Option.none : Option Jvm.ClassFile.FieldType)) ∈ lw_all := lw_g (lw_at lw_m9 117 rfl) rfl
theorem q2139 : (Jvm.Cond.methodLink "ToldPowersModel" (125 : Nat) ({ cls := "ToldPowersModel", name := "see", desc := "(I)I" } : Jvm.MethodName)) ∈ lw_all := lw_g (lw_at lw_m9 118 rfl) rfl
theorem q2140 : (Jvm.Cond.privateMethod ({ cls := "ToldPowersModel", name := "see", desc := "(I)I" } : Jvm.MethodName)) ∈ lw_tbl := lw_at lw_m9 119 rfl
theorem q2141 : (Jvm.Cond.instanceMethod ({ cls := "ToldPowersModel", name := "see", desc := "(I)I" } : Jvm.MethodName)) ∈ lw_all := lw_g (lw_at lw_m9 120 rfl) rfl
theorem q2142 : (Jvm.Cond.code ({ cls := "ToldPowersModel", name := "see", desc := "(I)I" } : Jvm.MethodName) prog_24_method_15_code (2 : Nat) (Option.some Jvm.ClassFile.FieldType.int)) ∈ lw_all := lw_g (lw_at lw_m9 121 rfl) rfl
theorem q2143 : (Jvm.Cond.constantLong "ToldPowersModel" (145 : Nat) (97 : Int64)) ∈ lw_all := lw_g (lw_at lw_m9 122 rfl) rfl
theorem q2144 : (Jvm.Cond.constantLong "ToldPowersModel" (147 : Nat) (122 : Int64)) ∈ lw_all := lw_g (lw_at lw_m9 123 rfl) rfl
theorem q2145 : (Jvm.Cond.constantLong "ToldPowersModel" (149 : Nat) (48 : Int64)) ∈ lw_all := lw_g (lw_at lw_m9 124 rfl) rfl
theorem q2146 : (Jvm.Cond.constantLong "ToldPowersModel" (151 : Nat) (57 : Int64)) ∈ lw_all := lw_g (lw_at lw_m9 125 rfl) rfl
theorem q2147 : (Jvm.Cond.methodLink "ToldPowersModel" (111 : Nat) ({ cls := "ToldPowersModel", name := "isSlot", desc := "(I)Z" } : Jvm.MethodName)) ∈ lw_all := lw_g (lw_at lw_m9 126 rfl) rfl
theorem q2148 : (Jvm.Cond.static ({ cls := "ToldPowersModel", name := "isSlot", desc := "(I)Z" } : Jvm.MethodName)) ∈ lw_all := lw_g (lw_at lw_m9 127 rfl) rfl
theorem q2149 : (Jvm.Cond.code ({ cls := "ToldPowersModel", name := "isSlot", desc := "(I)Z" } : Jvm.MethodName) prog_24_method_8_code (1 : Nat) (Option.some Jvm.ClassFile.FieldType.boolean)) ∈ lw_all := lw_g (lw_at lw_m9 128 rfl) rfl
theorem q2150 : (Jvm.Cond.constantLong "ToldPowersModel" (109 : Nat) (3 : Int64)) ∈ lw_all := lw_g (lw_at lw_m9 129 rfl) rfl
theorem q2151 : (Jvm.Cond.methodLink "ToldPowersModel" (250 : Nat) ({ cls := "ToldPowersModel", name := "readTerm", desc := "()Z" } : Jvm.MethodName)) ∈ lw_all := lw_g (lw_at lw_m9 130 rfl) rfl
theorem q2152 : (Jvm.Cond.privateMethod ({ cls := "ToldPowersModel", name := "readTerm", desc := "()Z" } : Jvm.MethodName)) ∈ lw_tbl := lw_at lw_m9 131 rfl
theorem q2153 : (Jvm.Cond.instanceMethod ({ cls := "ToldPowersModel", name := "readTerm", desc := "()Z" } : Jvm.MethodName)) ∈ lw_all := lw_g (lw_at lw_m9 132 rfl) rfl
theorem q2154 : (Jvm.Cond.code ({ cls := "ToldPowersModel", name := "readTerm", desc := "()Z" } : Jvm.MethodName) prog_24_method_29_code (5 : Nat) (Option.some Jvm.ClassFile.FieldType.boolean)) ∈ lw_all := lw_g (lw_at lw_m9 133 rfl) rfl
theorem q2155 : (Jvm.Cond.methodLink "ToldPowersModel" (214 : Nat) ({ cls := "ToldPowersModel", name := "isNumber", desc := "()Z" } : Jvm.MethodName)) ∈ lw_all := lw_g (lw_at lw_m9 134 rfl) rfl
theorem q2156 : (Jvm.Cond.privateMethod ({ cls := "ToldPowersModel", name := "isNumber", desc := "()Z" } : Jvm.MethodName)) ∈ lw_tbl := lw_at lw_m9 135 rfl
theorem q2157 : (Jvm.Cond.instanceMethod ({ cls := "ToldPowersModel", name := "isNumber", desc := "()Z" } : Jvm.MethodName)) ∈ lw_all := lw_g (lw_at lw_m9 136 rfl) rfl
theorem q2158 : (Jvm.Cond.code ({ cls := "ToldPowersModel", name := "isNumber", desc := "()Z" } : Jvm.MethodName) prog_24_method_21_code (1 : Nat) (Option.some Jvm.ClassFile.FieldType.boolean)) ∈ lw_all := lw_g (lw_at lw_m9 137 rfl) rfl
theorem q2159 : (Jvm.Cond.methodLink "ToldPowersModel" (218 : Nat) ({ cls := "ToldPowersModel", name := "kindHere", desc := "()I" } : Jvm.MethodName)) ∈ lw_all := lw_g (lw_at lw_m9 138 rfl) rfl
theorem q2160 : (Jvm.Cond.privateMethod ({ cls := "ToldPowersModel", name := "kindHere", desc := "()I" } : Jvm.MethodName)) ∈ lw_tbl := lw_at lw_m9 139 rfl
theorem q2161 : (Jvm.Cond.instanceMethod ({ cls := "ToldPowersModel", name := "kindHere", desc := "()I" } : Jvm.MethodName)) ∈ lw_all := lw_g (lw_at lw_m9 140 rfl) rfl
theorem q2162 : (Jvm.Cond.code ({ cls := "ToldPowersModel", name := "kindHere", desc := "()I" } : Jvm.MethodName) prog_24_method_26_code (1 : Nat) (Option.some Jvm.ClassFile.FieldType.int)) ∈ lw_all := lw_g (lw_at lw_m9 141 rfl) rfl
theorem q2163 : (Jvm.Cond.stringRef "ToldPowersModel" (196 : Nat) "line") ∈ lw_tbl := lw_at lw_m9 142 rfl
theorem q2164 : (Jvm.Cond.methodLink "ToldPowersModel" (198 : Nat) ({ cls := "ToldPowersModel", name := "isWord", desc := "(Ljava/lang/String;)Z" } : Jvm.MethodName)) ∈ lw_all := lw_g (lw_at lw_m9 143 rfl) rfl
theorem q2165 : (Jvm.Cond.privateMethod ({ cls := "ToldPowersModel", name := "isWord", desc := "(Ljava/lang/String;)Z" } : Jvm.MethodName)) ∈ lw_tbl := lw_at lw_m9 144 rfl
theorem q2166 : (Jvm.Cond.instanceMethod ({ cls := "ToldPowersModel", name := "isWord", desc := "(Ljava/lang/String;)Z" } : Jvm.MethodName)) ∈ lw_all := lw_g (lw_at lw_m9 145 rfl) rfl
theorem q2167 : (Jvm.Cond.code ({ cls := "ToldPowersModel", name := "isWord", desc := "(Ljava/lang/String;)Z" } : Jvm.MethodName) prog_24_method_19_code (2 : Nat) (Option.some Jvm.ClassFile.FieldType.boolean)) ∈ lw_all := lw_g (lw_at lw_m9 146 rfl) rfl
theorem q2168 : (Jvm.Cond.methodLink "ToldPowersModel" (171 : Nat) ({ cls := "java/lang/String", name := "length", desc := "()I" } : Jvm.MethodName)) ∈ lw_all := lw_g (lw_at lw_m9 147 rfl) rfl
theorem q2169 : (Jvm.Cond.methodLink "ToldPowersModel" (180 : Nat) ({ cls := "ToldPowersModel", name := "packed", desc := "(Ljava/lang/String;)J" } : Jvm.MethodName)) ∈ lw_all := lw_g (lw_at lw_m9 148 rfl) rfl
theorem q2170 : (Jvm.Cond.static ({ cls := "ToldPowersModel", name := "packed", desc := "(Ljava/lang/String;)J" } : Jvm.MethodName)) ∈ lw_all := lw_g (lw_at lw_m9 149 rfl) rfl
theorem q2171 : (Jvm.Cond.code ({ cls := "ToldPowersModel", name := "packed", desc := "(Ljava/lang/String;)J" } : Jvm.MethodName) prog_24_method_18_code (4 : Nat) (Option.some Jvm.ClassFile.FieldType.long)) ∈ lw_all := lw_g (lw_at lw_m9 150 rfl) rfl
theorem q2172 : (Jvm.Cond.methodLink "ToldPowersModel" (176 : Nat) ({ cls := "java/lang/String", name := "charAt", desc := "(I)C" } : Jvm.MethodName)) ∈ lw_all := lw_g (lw_at lw_m9 151 rfl) rfl
theorem q2173 : (Jvm.Cond.stringRef "ToldPowersModel" (202 : Nat) "square") ∈ lw_tbl := lw_at lw_m9 152 rfl
theorem q2174 : (Jvm.Cond.stringRef "ToldPowersModel" (204 : Nat) "cube") ∈ lw_tbl := lw_at lw_m9 153 rfl
theorem q2175 : (Jvm.Cond.stringRef "ToldPowersModel" (206 : Nat) "fourth") ∈ lw_tbl := lw_at lw_m9 154 rfl
theorem q2176 : (Jvm.Cond.stringRef "ToldPowersModel" (208 : Nat) "three") ∈ lw_tbl := lw_at lw_m9 155 rfl
theorem q2177 : (Jvm.Cond.methodLink "ToldPowersModel" (187 : Nat) ({ cls := "ToldPowersModel", name := "fails", desc := "(I)Z" } : Jvm.MethodName)) ∈ lw_all := lw_g (lw_at lw_m9 156 rfl) rfl
theorem q2178 : (Jvm.Cond.privateMethod ({ cls := "ToldPowersModel", name := "fails", desc := "(I)Z" } : Jvm.MethodName)) ∈ lw_tbl := lw_at lw_m9 157 rfl
theorem q2179 : (Jvm.Cond.instanceMethod ({ cls := "ToldPowersModel", name := "fails", desc := "(I)Z" } : Jvm.MethodName)) ∈ lw_all := lw_g (lw_at lw_m9 158 rfl) rfl
theorem q2180 : (Jvm.Cond.code ({ cls := "ToldPowersModel", name := "fails", desc := "(I)Z" } : Jvm.MethodName) prog_24_method_17_code (2 : Nat) (Option.some Jvm.ClassFile.FieldType.boolean)) ∈ lw_all := lw_g (lw_at lw_m9 159 rfl) rfl
theorem q2181 : (Jvm.Cond.constantLong "ToldPowersModel" (221 : Nat) (99 : Int64)) ∈ lw_all := lw_g (lw_at lw_m9 160 rfl) rfl
theorem q2182 : (Jvm.Cond.methodLink "ToldPowersModel" (223 : Nat) ({ cls := "ToldPowersModel", name := "greatest", desc := "(II)I" } : Jvm.MethodName)) ∈ lw_all := lw_g (lw_at lw_m9 161 rfl) rfl
theorem q2183 : (Jvm.Cond.static ({ cls := "ToldPowersModel", name := "greatest", desc := "(II)I" } : Jvm.MethodName)) ∈ lw_all := lw_g (lw_at lw_m9 162 rfl) rfl
theorem q2184 : (Jvm.Cond.code ({ cls := "ToldPowersModel", name := "greatest", desc := "(II)I" } : Jvm.MethodName) prog_24_method_11_code (3 : Nat) (Option.some Jvm.ClassFile.FieldType.int)) ∈ lw_all := lw_g (lw_at lw_m9 163 rfl) rfl
theorem q2185 : (Jvm.Cond.methodLink "ToldPowersModel" (97 : Nat) ({ cls := "ToldPowersModel", name := "plain", desc := "(IJ)J" } : Jvm.MethodName)) ∈ lw_all := lw_g (lw_at lw_m9 164 rfl) rfl
theorem q2186 : (Jvm.Cond.static ({ cls := "ToldPowersModel", name := "plain", desc := "(IJ)J" } : Jvm.MethodName)) ∈ lw_all := lw_g (lw_at lw_m9 165 rfl) rfl
theorem q2187 : (Jvm.Cond.code ({ cls := "ToldPowersModel", name := "plain", desc := "(IJ)J" } : Jvm.MethodName) prog_24_method_5_code (3 : Nat) (Option.some Jvm.ClassFile.FieldType.long)) ∈ lw_all := lw_g (lw_at lw_m9 166 rfl) rfl
theorem q2188 : (Jvm.Cond.constantLong "ToldPowersModel" (91 : Nat) (2 : Int64)) ∈ lw_all := lw_g (lw_at lw_m9 167 rfl) rfl
theorem q2189 : (Jvm.Cond.constantLong "ToldPowersModel" (103 : Nat) (3000 : Int64)) ∈ lw_all := lw_g (lw_at lw_m9 168 rfl) rfl
theorem q2190 : (Jvm.Cond.stringRef "ToldPowersModel" (227 : Nat) "from") ∈ lw_tbl := lw_at lw_m9 169 rfl
theorem q2191 : (Jvm.Cond.methodLink "ToldPowersModel" (228 : Nat) ({ cls := "ToldPowersModel", name := "comesToWhole", desc := "()Z" } : Jvm.MethodName)) ∈ lw_all := lw_g (lw_at lw_m9 170 rfl) rfl
theorem q2192 : (Jvm.Cond.privateMethod ({ cls := "ToldPowersModel", name := "comesToWhole", desc := "()Z" } : Jvm.MethodName)) ∈ lw_tbl := lw_at lw_m9 171 rfl
theorem q2193 : (Jvm.Cond.instanceMethod ({ cls := "ToldPowersModel", name := "comesToWhole", desc := "()Z" } : Jvm.MethodName)) ∈ lw_all := lw_g (lw_at lw_m9 172 rfl) rfl
theorem q2194 : (Jvm.Cond.code ({ cls := "ToldPowersModel", name := "comesToWhole", desc := "()Z" } : Jvm.MethodName) prog_24_method_27_code (1 : Nat) (Option.some Jvm.ClassFile.FieldType.boolean)) ∈ lw_all := lw_g (lw_at lw_m9 173 rfl) rfl
theorem q2195 : (Jvm.Cond.methodLink "ToldPowersModel" (184 : Nat) ({ cls := "ToldPowersModel", name := "isSign", desc := "(I)Z" } : Jvm.MethodName)) ∈ lw_all := lw_g (lw_at lw_m9 174 rfl) rfl
theorem q2196 : (Jvm.Cond.privateMethod ({ cls := "ToldPowersModel", name := "isSign", desc := "(I)Z" } : Jvm.MethodName)) ∈ lw_tbl := lw_at lw_m9 175 rfl
theorem q2197 : (Jvm.Cond.instanceMethod ({ cls := "ToldPowersModel", name := "isSign", desc := "(I)Z" } : Jvm.MethodName)) ∈ lw_all := lw_g (lw_at lw_m9 176 rfl) rfl
theorem q2198 : (Jvm.Cond.code ({ cls := "ToldPowersModel", name := "isSign", desc := "(I)Z" } : Jvm.MethodName) prog_24_method_20_code (2 : Nat) (Option.some Jvm.ClassFile.FieldType.boolean)) ∈ lw_all := lw_g (lw_at lw_m9 177 rfl) rfl
theorem q2199 : (Jvm.Cond.methodLink "ToldPowersModel" (231 : Nat) ({ cls := "ToldPowersModel", name := "whole", desc := "()I" } : Jvm.MethodName)) ∈ lw_all := lw_g (lw_at lw_m9 178 rfl) rfl
theorem q2200 : (Jvm.Cond.privateMethod ({ cls := "ToldPowersModel", name := "whole", desc := "()I" } : Jvm.MethodName)) ∈ lw_tbl := lw_at lw_m9 179 rfl
theorem q2201 : (Jvm.Cond.instanceMethod ({ cls := "ToldPowersModel", name := "whole", desc := "()I" } : Jvm.MethodName)) ∈ lw_all := lw_g (lw_at lw_m9 180 rfl) rfl
theorem q2202 : (Jvm.Cond.code ({ cls := "ToldPowersModel", name := "whole", desc := "()I" } : Jvm.MethodName) prog_24_method_28_code (1 : Nat) (Option.some Jvm.ClassFile.FieldType.int)) ∈ lw_all := lw_g (lw_at lw_m9 181 rfl) rfl
theorem q2203 : (Jvm.Cond.methodLink "ToldPowersModel" (234 : Nat) ({ cls := "ToldPowersModel", name := "valueOf", desc := "(IIJ)J" } : Jvm.MethodName)) ∈ lw_all := lw_g (lw_at lw_m9 182 rfl) rfl
theorem q2204 : (Jvm.Cond.privateMethod ({ cls := "ToldPowersModel", name := "valueOf", desc := "(IIJ)J" } : Jvm.MethodName)) ∈ lw_tbl := lw_at lw_m9 183 rfl
theorem q2205 : (Jvm.Cond.instanceMethod ({ cls := "ToldPowersModel", name := "valueOf", desc := "(IIJ)J" } : Jvm.MethodName)) ∈ lw_all := lw_g (lw_at lw_m9 184 rfl) rfl
theorem q2206 : (Jvm.Cond.code ({ cls := "ToldPowersModel", name := "valueOf", desc := "(IIJ)J" } : Jvm.MethodName) prog_24_method_6_code (5 : Nat) (Option.some Jvm.ClassFile.FieldType.long)) ∈ lw_all := lw_g (lw_at lw_m9 185 rfl) rfl
theorem q2207 : (Jvm.Cond.methodLink "ToldPowersModel" (93 : Nat) ({ cls := "ToldPowersModel", name := "of", desc := "(III)I" } : Jvm.MethodName)) ∈ lw_all := lw_g (lw_at lw_m9 186 rfl) rfl
theorem q2208 : (Jvm.Cond.privateMethod ({ cls := "ToldPowersModel", name := "of", desc := "(III)I" } : Jvm.MethodName)) ∈ lw_tbl := lw_at lw_m9 187 rfl
theorem q2209 : (Jvm.Cond.instanceMethod ({ cls := "ToldPowersModel", name := "of", desc := "(III)I" } : Jvm.MethodName)) ∈ lw_all := lw_g (lw_at lw_m9 188 rfl) rfl
theorem q2210 : (Jvm.Cond.code ({ cls := "ToldPowersModel", name := "of", desc := "(III)I" } : Jvm.MethodName) prog_24_method_4_code (4 : Nat) (Option.some Jvm.ClassFile.FieldType.int)) ∈ lw_all := lw_g (lw_at lw_m9 189 rfl) rfl
theorem q2211 : (Jvm.Cond.methodLink "ToldPowersModel" (238 : Nat) ({ cls := "ToldPowersModel", name := "isSmall", desc := "(J)Z" } : Jvm.MethodName)) ∈ lw_all := lw_g (lw_at lw_m9 190 rfl) rfl
theorem q2212 : (Jvm.Cond.static ({ cls := "ToldPowersModel", name := "isSmall", desc := "(J)Z" } : Jvm.MethodName)) ∈ lw_all := lw_g (lw_at lw_m9 191 rfl) rfl
theorem q2213 : (Jvm.Cond.code ({ cls := "ToldPowersModel", name := "isSmall", desc := "(J)Z" } : Jvm.MethodName) prog_24_method_7_code (2 : Nat) (Option.some Jvm.ClassFile.FieldType.boolean)) ∈ lw_all := lw_g (lw_at lw_m9 192 rfl) rfl
theorem q2214 : (Jvm.Cond.constantLong "ToldPowersModel" (101 : Nat) (-3000 : Int64)) ∈ lw_all := lw_g (lw_at lw_m9 193 rfl) rfl
theorem q2215 : (Jvm.Cond.stringRef "ToldPowersModel" (242 : Nat) "to") ∈ lw_tbl := lw_at lw_m9 194 rfl
theorem q2216 : (Jvm.Cond.methodLink "ToldPowersModel" (253 : Nat) ({ cls := "ToldPowersModel", name := "takesSign", desc := "(I)Z" } : Jvm.MethodName)) ∈ lw_all := lw_g (lw_at lw_m9 195 rfl) rfl
theorem q2217 : (Jvm.Cond.privateMethod ({ cls := "ToldPowersModel", name := "takesSign", desc := "(I)Z" } : Jvm.MethodName)) ∈ lw_tbl := lw_at lw_m9 196 rfl
theorem q2218 : (Jvm.Cond.instanceMethod ({ cls := "ToldPowersModel", name := "takesSign", desc := "(I)Z" } : Jvm.MethodName)) ∈ lw_all := lw_g (lw_at lw_m9 197 rfl) rfl
theorem q2219 : (Jvm.Cond.code ({ cls := "ToldPowersModel", name := "takesSign", desc := "(I)Z" } : Jvm.MethodName) prog_24_method_22_code (2 : Nat) (Option.some Jvm.ClassFile.FieldType.boolean)) ∈ lw_all := lw_g (lw_at lw_m9 198 rfl) rfl
theorem q2220 : (Jvm.Cond.methodLink "ToldPowersModel" (256 : Nat) ({ cls := "ToldPowersModel", name := "isRead", desc := "()Z" } : Jvm.MethodName)) ∈ lw_all := lw_g (lw_at lw_m9 199 rfl) rfl
theorem q2221 : (Jvm.Cond.privateMethod ({ cls := "ToldPowersModel", name := "isRead", desc := "()Z" } : Jvm.MethodName)) ∈ lw_tbl := lw_at lw_m9 200 rfl
theorem q2222 : (Jvm.Cond.instanceMethod ({ cls := "ToldPowersModel", name := "isRead", desc := "()Z" } : Jvm.MethodName)) ∈ lw_all := lw_g (lw_at lw_m9 201 rfl) rfl
theorem q2223 : (Jvm.Cond.code ({ cls := "ToldPowersModel", name := "isRead", desc := "()Z" } : Jvm.MethodName) prog_24_method_24_code (1 : Nat) (Option.some Jvm.ClassFile.FieldType.boolean)) ∈ lw_all := lw_g (lw_at lw_m9 202 rfl) rfl
theorem q2224 : (Jvm.Cond.methodLink "ToldPowersModel" (259 : Nat) ({ cls := "ToldPowersModel", name := "takesOver", desc := "(I)V" } : Jvm.MethodName)) ∈ lw_all := lw_g (lw_at lw_m9 203 rfl) rfl
theorem q2225 : (Jvm.Cond.privateMethod ({ cls := "ToldPowersModel", name := "takesOver", desc := "(I)V" } : Jvm.MethodName)) ∈ lw_tbl := lw_at lw_m9 204 rfl
theorem q2226 : (Jvm.Cond.instanceMethod ({ cls := "ToldPowersModel", name := "takesOver", desc := "(I)V" } : Jvm.MethodName)) ∈ lw_all := lw_g (lw_at lw_m9 205 rfl) rfl
theorem q2227 : (Jvm.Cond.code ({ cls := "ToldPowersModel", name := "takesOver", desc := "(I)V" } : Jvm.MethodName) prog_24_method_31_code (3 : Nat) (Option.none : Option Jvm.ClassFile.FieldType)) ∈ lw_all := lw_g (lw_at lw_m9 206 rfl) rfl
theorem q2228 : (Jvm.Cond.methodLink "ToldPowersModel" (243 : Nat) ({ cls := "ToldPowersModel", name := "copies", desc := "(IIII)V" } : Jvm.MethodName)) ∈ lw_all := lw_g (lw_at lw_m9 207 rfl) rfl
theorem q2229 : (Jvm.Cond.privateMethod ({ cls := "ToldPowersModel", name := "copies", desc := "(IIII)V" } : Jvm.MethodName)) ∈ lw_tbl := lw_at lw_m9 208 rfl
theorem q2230 : (Jvm.Cond.instanceMethod ({ cls := "ToldPowersModel", name := "copies", desc := "(IIII)V" } : Jvm.MethodName)) ∈ lw_all := lw_g (lw_at lw_m9 209 rfl) rfl
theorem q2231 : (Jvm.Cond.code ({ cls := "ToldPowersModel", name := "copies", desc := "(IIII)V" } : Jvm.MethodName) prog_24_method_30_code (6 : Nat) (Option.none : Option Jvm.ClassFile.FieldType)) ∈ lw_all := lw_g (lw_at lw_m9 210 rfl) rfl
theorem q2233 : (Jvm.Cond.instanceMethod ({ cls := "ToldPowersModel", name := "ways", desc := "(II)J" } : Jvm.MethodName)) ∈ lw_all := lw_g (lw_at lw_m9 212 rfl) rfl
theorem q2234 : (Jvm.Cond.selects "ToldPowersModel" ({ cls := "ToldPowersModel", name := "ways", desc := "(II)J" } : Jvm.MethodName) ({ cls := "ToldPowersModel", name := "ways", desc := "(II)J" } : Jvm.MethodName)) ∈ lw_all := lw_g (lw_at lw_m9 213 rfl) rfl
theorem q2235 : (Jvm.Cond.code ({ cls := "ToldPowersModel", name := "ways", desc := "(II)J" } : Jvm.MethodName) prog_24_method_39_code (3 : Nat) (Option.some Jvm.ClassFile.FieldType.long)) ∈ lw_all := lw_g (lw_at lw_m9 214 rfl) rfl
theorem q2236 : (Jvm.Cond.methodLink "ToldPowersModel" (274 : Nat) ({ cls := "ToldPowersModel", name := "isForm", desc := "(I)Z" } : Jvm.MethodName)) ∈ lw_all := lw_g (lw_at lw_m9 215 rfl) rfl
theorem q2237 : (Jvm.Cond.privateMethod ({ cls := "ToldPowersModel", name := "isForm", desc := "(I)Z" } : Jvm.MethodName)) ∈ lw_tbl := lw_at lw_m9 216 rfl
theorem q2238 : (Jvm.Cond.instanceMethod ({ cls := "ToldPowersModel", name := "isForm", desc := "(I)Z" } : Jvm.MethodName)) ∈ lw_all := lw_g (lw_at lw_m9 217 rfl) rfl
theorem q2239 : (Jvm.Cond.code ({ cls := "ToldPowersModel", name := "isForm", desc := "(I)Z" } : Jvm.MethodName) prog_24_method_9_code (2 : Nat) (Option.some Jvm.ClassFile.FieldType.boolean)) ∈ lw_all := lw_g (lw_at lw_m9 218 rfl) rfl
theorem q2240 : (Jvm.Cond.methodLink "ToldPowersModel" (277 : Nat) ({ cls := "ToldPowersModel", name := "isN", desc := "(I)Z" } : Jvm.MethodName)) ∈ lw_all := lw_g (lw_at lw_m9 219 rfl) rfl
theorem q2241 : (Jvm.Cond.static ({ cls := "ToldPowersModel", name := "isN", desc := "(I)Z" } : Jvm.MethodName)) ∈ lw_all := lw_g (lw_at lw_m9 220 rfl) rfl
theorem q2242 : (Jvm.Cond.code ({ cls := "ToldPowersModel", name := "isN", desc := "(I)Z" } : Jvm.MethodName) prog_24_method_38_code (1 : Nat) (Option.some Jvm.ClassFile.FieldType.boolean)) ∈ lw_all := lw_g (lw_at lw_m9 221 rfl) rfl
theorem q2243 : (Jvm.Cond.constantLong "ToldPowersModel" (280 : Nat) (-1 : Int64)) ∈ lw_all := lw_g (lw_at lw_m9 222 rfl) rfl
theorem q2244 : (Jvm.Cond.methodLink "ToldPowersModel" (282 : Nat) ({ cls := "ToldPowersModel", name := "lays", desc := "(I)V" } : Jvm.MethodName)) ∈ lw_all := lw_g (lw_at lw_m9 223 rfl) rfl
theorem q2245 : (Jvm.Cond.privateMethod ({ cls := "ToldPowersModel", name := "lays", desc := "(I)V" } : Jvm.MethodName)) ∈ lw_tbl := lw_at lw_m9 224 rfl
theorem q2246 : (Jvm.Cond.instanceMethod ({ cls := "ToldPowersModel", name := "lays", desc := "(I)V" } : Jvm.MethodName)) ∈ lw_all := lw_g (lw_at lw_m9 225 rfl) rfl
theorem q2247 : (Jvm.Cond.code ({ cls := "ToldPowersModel", name := "lays", desc := "(I)V" } : Jvm.MethodName) prog_24_method_36_code (4 : Nat) (Option.none : Option Jvm.ClassFile.FieldType)) ∈ lw_all := lw_g (lw_at lw_m9 226 rfl) rfl
theorem q2248 : (Jvm.Cond.methodLink "ToldPowersModel" (267 : Nat) ({ cls := "ToldPowersModel", name := "laysNought", desc := "(I)V" } : Jvm.MethodName)) ∈ lw_all := lw_g (lw_at lw_m9 227 rfl) rfl
theorem q2249 : (Jvm.Cond.privateMethod ({ cls := "ToldPowersModel", name := "laysNought", desc := "(I)V" } : Jvm.MethodName)) ∈ lw_tbl := lw_at lw_m9 228 rfl
theorem q2250 : (Jvm.Cond.instanceMethod ({ cls := "ToldPowersModel", name := "laysNought", desc := "(I)V" } : Jvm.MethodName)) ∈ lw_all := lw_g (lw_at lw_m9 229 rfl) rfl
theorem q2251 : (Jvm.Cond.code ({ cls := "ToldPowersModel", name := "laysNought", desc := "(I)V" } : Jvm.MethodName) prog_24_method_35_code (3 : Nat) (Option.none : Option Jvm.ClassFile.FieldType)) ∈ lw_all := lw_g (lw_at lw_m9 230 rfl) rfl
theorem q2252 : (Jvm.Cond.methodLink "ToldPowersModel" (270 : Nat) ({ cls := "ToldPowersModel", name := "laysLayer", desc := "(IIIIII)V" } : Jvm.MethodName)) ∈ lw_all := lw_g (lw_at lw_m9 231 rfl) rfl
theorem q2253 : (Jvm.Cond.privateMethod ({ cls := "ToldPowersModel", name := "laysLayer", desc := "(IIIIII)V" } : Jvm.MethodName)) ∈ lw_tbl := lw_at lw_m9 232 rfl
theorem q2254 : (Jvm.Cond.instanceMethod ({ cls := "ToldPowersModel", name := "laysLayer", desc := "(IIIIII)V" } : Jvm.MethodName)) ∈ lw_all := lw_g (lw_at lw_m9 233 rfl) rfl
theorem q2255 : (Jvm.Cond.code ({ cls := "ToldPowersModel", name := "laysLayer", desc := "(IIIIII)V" } : Jvm.MethodName) prog_24_method_33_code (11 : Nat) (Option.none : Option Jvm.ClassFile.FieldType)) ∈ lw_all := lw_g (lw_at lw_m9 234 rfl) rfl
theorem q2256 : (Jvm.Cond.methodLink "ToldPowersModel" (262 : Nat) ({ cls := "ToldPowersModel", name := "at", desc := "(IJ)J" } : Jvm.MethodName)) ∈ lw_all := lw_g (lw_at lw_m9 235 rfl) rfl
theorem q2257 : (Jvm.Cond.privateMethod ({ cls := "ToldPowersModel", name := "at", desc := "(IJ)J" } : Jvm.MethodName)) ∈ lw_tbl := lw_at lw_m9 236 rfl
theorem q2258 : (Jvm.Cond.instanceMethod ({ cls := "ToldPowersModel", name := "at", desc := "(IJ)J" } : Jvm.MethodName)) ∈ lw_all := lw_g (lw_at lw_m9 237 rfl) rfl
theorem q2259 : (Jvm.Cond.code ({ cls := "ToldPowersModel", name := "at", desc := "(IJ)J" } : Jvm.MethodName) prog_24_method_34_code (4 : Nat) (Option.some Jvm.ClassFile.FieldType.long)) ∈ lw_all := lw_g (lw_at lw_m9 238 rfl) rfl
theorem q2260 : (Jvm.Cond.constantLong "ToldPowersModel" (265 : Nat) (30000 : Int64)) ∈ lw_all := lw_g (lw_at lw_m9 239 rfl) rfl
theorem q2261 : (Jvm.Cond.methodLink "ToldPowersModel" (285 : Nat) ({ cls := "ToldPowersModel", name := "waysOf", desc := "(I)J" } : Jvm.MethodName)) ∈ lw_all := lw_g (lw_at lw_m10 0 rfl) rfl
theorem q2262 : (Jvm.Cond.privateMethod ({ cls := "ToldPowersModel", name := "waysOf", desc := "(I)J" } : Jvm.MethodName)) ∈ lw_tbl := lw_at lw_m10 1 rfl
theorem q2263 : (Jvm.Cond.instanceMethod ({ cls := "ToldPowersModel", name := "waysOf", desc := "(I)J" } : Jvm.MethodName)) ∈ lw_all := lw_g (lw_at lw_m10 2 rfl) rfl
theorem q2264 : (Jvm.Cond.code ({ cls := "ToldPowersModel", name := "waysOf", desc := "(I)J" } : Jvm.MethodName) prog_24_method_37_code (2 : Nat) (Option.some Jvm.ClassFile.FieldType.long)) ∈ lw_all := lw_g (lw_at lw_m10 3 rfl) rfl
theorem q2266 : (Jvm.Cond.instanceMethod ({ cls := "ToldPowersModel", name := "unlike", desc := "(II)J" } : Jvm.MethodName)) ∈ lw_all := lw_g (lw_at lw_m10 5 rfl) rfl
theorem q2267 : (Jvm.Cond.selects "ToldPowersModel" ({ cls := "ToldPowersModel", name := "unlike", desc := "(II)J" } : Jvm.MethodName) ({ cls := "ToldPowersModel", name := "unlike", desc := "(II)J" } : Jvm.MethodName)) ∈ lw_all := lw_g (lw_at lw_m10 6 rfl) rfl
theorem q2268 : (Jvm.Cond.code ({ cls := "ToldPowersModel", name := "unlike", desc := "(II)J" } : Jvm.MethodName) prog_24_method_46_code (3 : Nat) (Option.some Jvm.ClassFile.FieldType.long)) ∈ lw_all := lw_g (lw_at lw_m10 7 rfl) rfl
theorem q2269 : (Jvm.Cond.methodLink "ToldPowersModel" (310 : Nat) ({ cls := "ToldPowersModel", name := "laysUnlike", desc := "(I)V" } : Jvm.MethodName)) ∈ lw_all := lw_g (lw_at lw_m10 8 rfl) rfl
theorem q2270 : (Jvm.Cond.privateMethod ({ cls := "ToldPowersModel", name := "laysUnlike", desc := "(I)V" } : Jvm.MethodName)) ∈ lw_tbl := lw_at lw_m10 9 rfl
theorem q2271 : (Jvm.Cond.instanceMethod ({ cls := "ToldPowersModel", name := "laysUnlike", desc := "(I)V" } : Jvm.MethodName)) ∈ lw_all := lw_g (lw_at lw_m10 10 rfl) rfl
theorem q2272 : (Jvm.Cond.code ({ cls := "ToldPowersModel", name := "laysUnlike", desc := "(I)V" } : Jvm.MethodName) prog_24_method_41_code (6 : Nat) (Option.none : Option Jvm.ClassFile.FieldType)) ∈ lw_all := lw_g (lw_at lw_m10 11 rfl) rfl
theorem q2273 : (Jvm.Cond.methodLink "ToldPowersModel" (292 : Nat) ({ cls := "ToldPowersModel", name := "turns", desc := "(III)V" } : Jvm.MethodName)) ∈ lw_all := lw_g (lw_at lw_m10 12 rfl) rfl
theorem q2274 : (Jvm.Cond.privateMethod ({ cls := "ToldPowersModel", name := "turns", desc := "(III)V" } : Jvm.MethodName)) ∈ lw_tbl := lw_at lw_m10 13 rfl
theorem q2275 : (Jvm.Cond.instanceMethod ({ cls := "ToldPowersModel", name := "turns", desc := "(III)V" } : Jvm.MethodName)) ∈ lw_all := lw_g (lw_at lw_m10 14 rfl) rfl
theorem q2276 : (Jvm.Cond.code ({ cls := "ToldPowersModel", name := "turns", desc := "(III)V" } : Jvm.MethodName) prog_24_method_42_code (8 : Nat) (Option.none : Option Jvm.ClassFile.FieldType)) ∈ lw_all := lw_g (lw_at lw_m10 15 rfl) rfl
theorem q2277 : (Jvm.Cond.methodLink "ToldPowersModel" (300 : Nat) ({ cls := "ToldPowersModel", name := "areLike", desc := "(III)Z" } : Jvm.MethodName)) ∈ lw_all := lw_g (lw_at lw_m10 16 rfl) rfl
theorem q2278 : (Jvm.Cond.privateMethod ({ cls := "ToldPowersModel", name := "areLike", desc := "(III)Z" } : Jvm.MethodName)) ∈ lw_tbl := lw_at lw_m10 17 rfl
theorem q2279 : (Jvm.Cond.instanceMethod ({ cls := "ToldPowersModel", name := "areLike", desc := "(III)Z" } : Jvm.MethodName)) ∈ lw_all := lw_g (lw_at lw_m10 18 rfl) rfl
theorem q2280 : (Jvm.Cond.code ({ cls := "ToldPowersModel", name := "areLike", desc := "(III)Z" } : Jvm.MethodName) prog_24_method_40_code (5 : Nat) (Option.some Jvm.ClassFile.FieldType.boolean)) ∈ lw_all := lw_g (lw_at lw_m10 19 rfl) rfl
theorem q2281 : (Jvm.Cond.methodLink "ToldPowersModel" (304 : Nat) ({ cls := "ToldPowersModel", name := "sorts", desc := "(I)V" } : Jvm.MethodName)) ∈ lw_all := lw_g (lw_at lw_m10 20 rfl) rfl
theorem q2282 : (Jvm.Cond.privateMethod ({ cls := "ToldPowersModel", name := "sorts", desc := "(I)V" } : Jvm.MethodName)) ∈ lw_tbl := lw_at lw_m10 21 rfl
theorem q2283 : (Jvm.Cond.instanceMethod ({ cls := "ToldPowersModel", name := "sorts", desc := "(I)V" } : Jvm.MethodName)) ∈ lw_all := lw_g (lw_at lw_m10 22 rfl) rfl
theorem q2284 : (Jvm.Cond.code ({ cls := "ToldPowersModel", name := "sorts", desc := "(I)V" } : Jvm.MethodName) prog_24_method_43_code (5 : Nat) (Option.none : Option Jvm.ClassFile.FieldType)) ∈ lw_all := lw_g (lw_at lw_m10 23 rfl) rfl
theorem q2285 : (Jvm.Cond.methodLink "ToldPowersModel" (307 : Nat) ({ cls := "ToldPowersModel", name := "isKind", desc := "(I)Z" } : Jvm.MethodName)) ∈ lw_all := lw_g (lw_at lw_m10 24 rfl) rfl
theorem q2286 : (Jvm.Cond.privateMethod ({ cls := "ToldPowersModel", name := "isKind", desc := "(I)Z" } : Jvm.MethodName)) ∈ lw_tbl := lw_at lw_m10 25 rfl
theorem q2287 : (Jvm.Cond.instanceMethod ({ cls := "ToldPowersModel", name := "isKind", desc := "(I)Z" } : Jvm.MethodName)) ∈ lw_all := lw_g (lw_at lw_m10 26 rfl) rfl
theorem q2288 : (Jvm.Cond.code ({ cls := "ToldPowersModel", name := "isKind", desc := "(I)Z" } : Jvm.MethodName) prog_24_method_44_code (3 : Nat) (Option.some Jvm.ClassFile.FieldType.boolean)) ∈ lw_all := lw_g (lw_at lw_m10 27 rfl) rfl
theorem q2289 : (Jvm.Cond.methodLink "ToldPowersModel" (296 : Nat) ({ cls := "ToldPowersModel", name := "laysRounds", desc := "(II)V" } : Jvm.MethodName)) ∈ lw_all := lw_g (lw_at lw_m10 28 rfl) rfl
theorem q2290 : (Jvm.Cond.privateMethod ({ cls := "ToldPowersModel", name := "laysRounds", desc := "(II)V" } : Jvm.MethodName)) ∈ lw_tbl := lw_at lw_m10 29 rfl
theorem q2291 : (Jvm.Cond.instanceMethod ({ cls := "ToldPowersModel", name := "laysRounds", desc := "(II)V" } : Jvm.MethodName)) ∈ lw_all := lw_g (lw_at lw_m10 30 rfl) rfl
theorem q2292 : (Jvm.Cond.code ({ cls := "ToldPowersModel", name := "laysRounds", desc := "(II)V" } : Jvm.MethodName) prog_24_method_45_code (6 : Nat) (Option.none : Option Jvm.ClassFile.FieldType)) ∈ lw_all := lw_g (lw_at lw_m10 31 rfl) rfl
theorem q2294 : (Jvm.Cond.instanceMethod ({ cls := "ToldPowersModel", name := "way", desc := "(IIJI)I" } : Jvm.MethodName)) ∈ lw_all := lw_g (lw_at lw_m10 33 rfl) rfl
theorem q2295 : (Jvm.Cond.selects "ToldPowersModel" ({ cls := "ToldPowersModel", name := "way", desc := "(IIJI)I" } : Jvm.MethodName) ({ cls := "ToldPowersModel", name := "way", desc := "(IIJI)I" } : Jvm.MethodName)) ∈ lw_all := lw_g (lw_at lw_m10 34 rfl) rfl
theorem q2296 : (Jvm.Cond.code ({ cls := "ToldPowersModel", name := "way", desc := "(IIJI)I" } : Jvm.MethodName) prog_24_method_48_code (6 : Nat) (Option.some Jvm.ClassFile.FieldType.int)) ∈ lw_all := lw_g (lw_at lw_m10 35 rfl) rfl
theorem q2297 : (Jvm.Cond.methodLink "ToldPowersModel" (313 : Nat) ({ cls := "ToldPowersModel", name := "isTerm", desc := "(II)Z" } : Jvm.MethodName)) ∈ lw_all := lw_g (lw_at lw_m10 36 rfl) rfl
theorem q2298 : (Jvm.Cond.privateMethod ({ cls := "ToldPowersModel", name := "isTerm", desc := "(II)Z" } : Jvm.MethodName)) ∈ lw_tbl := lw_at lw_m10 37 rfl
theorem q2299 : (Jvm.Cond.instanceMethod ({ cls := "ToldPowersModel", name := "isTerm", desc := "(II)Z" } : Jvm.MethodName)) ∈ lw_all := lw_g (lw_at lw_m10 38 rfl) rfl
theorem q2300 : (Jvm.Cond.code ({ cls := "ToldPowersModel", name := "isTerm", desc := "(II)Z" } : Jvm.MethodName) prog_24_method_10_code (3 : Nat) (Option.some Jvm.ClassFile.FieldType.boolean)) ∈ lw_all := lw_g (lw_at lw_m10 39 rfl) rfl
theorem q2301 : (Jvm.Cond.methodLink "ToldPowersModel" (317 : Nat) ({ cls := "ToldPowersModel", name := "finds", desc := "(IIJ)Z" } : Jvm.MethodName)) ∈ lw_all := lw_g (lw_at lw_m10 40 rfl) rfl
theorem q2302 : (Jvm.Cond.privateMethod ({ cls := "ToldPowersModel", name := "finds", desc := "(IIJ)Z" } : Jvm.MethodName)) ∈ lw_tbl := lw_at lw_m10 41 rfl
theorem q2303 : (Jvm.Cond.instanceMethod ({ cls := "ToldPowersModel", name := "finds", desc := "(IIJ)Z" } : Jvm.MethodName)) ∈ lw_all := lw_g (lw_at lw_m10 42 rfl) rfl
theorem q2304 : (Jvm.Cond.code ({ cls := "ToldPowersModel", name := "finds", desc := "(IIJ)Z" } : Jvm.MethodName) prog_24_method_47_code (11 : Nat) (Option.some Jvm.ClassFile.FieldType.boolean)) ∈ lw_all := lw_g (lw_at lw_m10 43 rfl) rfl
theorem q2305 : (Jvm.Cond.constant "ToldPowersModel" (321 : Nat) (-100000 : Int32)) ∈ lw_all := lw_g (lw_at lw_m10 44 rfl) rfl
theorem q2307 : (Jvm.Cond.instanceMethod ({ cls := "ToldPowersModel", name := "number", desc := "(IIIIIII)J" } : Jvm.MethodName)) ∈ lw_all := lw_g (lw_at lw_m10 46 rfl) rfl
theorem q2308 : (Jvm.Cond.selects "ToldPowersModel" ({ cls := "ToldPowersModel", name := "number", desc := "(IIIIIII)J" } : Jvm.MethodName) ({ cls := "ToldPowersModel", name := "number", desc := "(IIIIIII)J" } : Jvm.MethodName)) ∈ lw_all := lw_g (lw_at lw_m10 47 rfl) rfl
theorem q2309 : (Jvm.Cond.code ({ cls := "ToldPowersModel", name := "number", desc := "(IIIIIII)J" } : Jvm.MethodName) prog_24_method_49_code (14 : Nat) (Option.some Jvm.ClassFile.FieldType.long)) ∈ lw_all := lw_g (lw_at lw_m10 48 rfl) rfl
theorem q2310 : (Jvm.Cond.constantLong "ToldPowersModel" (322 : Nat) (15000 : Int64)) ∈ lw_all := lw_g (lw_at lw_m10 49 rfl) rfl
theorem q2312 : (Jvm.Cond.instanceMethod ({ cls := "ToldPowersModel", name := "prove", desc := "(I)I" } : Jvm.MethodName)) ∈ lw_all := lw_g (lw_at lw_m10 51 rfl) rfl
theorem q2313 : (Jvm.Cond.selects "ToldPowersModel" ({ cls := "ToldPowersModel", name := "prove", desc := "(I)I" } : Jvm.MethodName) ({ cls := "ToldPowersModel", name := "prove", desc := "(I)I" } : Jvm.MethodName)) ∈ lw_all := lw_g (lw_at lw_m10 52 rfl) rfl
theorem q2314 : (Jvm.Cond.code ({ cls := "ToldPowersModel", name := "prove", desc := "(I)I" } : Jvm.MethodName) prog_24_method_53_code (4 : Nat) (Option.some Jvm.ClassFile.FieldType.int)) ∈ lw_all := lw_g (lw_at lw_m10 53 rfl) rfl
theorem q2315 : (Jvm.Cond.methodLink "ToldPowersModel" (335 : Nat) ({ cls := "ToldPowersModel", name := "readLine", desc := "(I)Z" } : Jvm.MethodName)) ∈ lw_all := lw_g (lw_at lw_m10 54 rfl) rfl
theorem q2316 : (Jvm.Cond.privateMethod ({ cls := "ToldPowersModel", name := "readLine", desc := "(I)Z" } : Jvm.MethodName)) ∈ lw_tbl := lw_at lw_m10 55 rfl
theorem q2317 : (Jvm.Cond.instanceMethod ({ cls := "ToldPowersModel", name := "readLine", desc := "(I)Z" } : Jvm.MethodName)) ∈ lw_all := lw_g (lw_at lw_m10 56 rfl) rfl
theorem q2318 : (Jvm.Cond.code ({ cls := "ToldPowersModel", name := "readLine", desc := "(I)Z" } : Jvm.MethodName) prog_24_method_51_code (4 : Nat) (Option.some Jvm.ClassFile.FieldType.boolean)) ∈ lw_all := lw_g (lw_at lw_m10 57 rfl) rfl
theorem q2319 : (Jvm.Cond.methodLink "ToldPowersModel" (327 : Nat) ({ cls := "ToldPowersModel", name := "isOut", desc := "(I)Z" } : Jvm.MethodName)) ∈ lw_all := lw_g (lw_at lw_m10 58 rfl) rfl
theorem q2320 : (Jvm.Cond.privateMethod ({ cls := "ToldPowersModel", name := "isOut", desc := "(I)Z" } : Jvm.MethodName)) ∈ lw_tbl := lw_at lw_m10 59 rfl
theorem q2321 : (Jvm.Cond.instanceMethod ({ cls := "ToldPowersModel", name := "isOut", desc := "(I)Z" } : Jvm.MethodName)) ∈ lw_all := lw_g (lw_at lw_m10 60 rfl) rfl
theorem q2322 : (Jvm.Cond.code ({ cls := "ToldPowersModel", name := "isOut", desc := "(I)Z" } : Jvm.MethodName) prog_24_method_50_code (3 : Nat) (Option.some Jvm.ClassFile.FieldType.boolean)) ∈ lw_all := lw_g (lw_at lw_m10 61 rfl) rfl
theorem q2323 : (Jvm.Cond.stringRef "ToldPowersModel" (330 : Nat) "not") ∈ lw_tbl := lw_at lw_m10 62 rfl
theorem q2324 : (Jvm.Cond.methodLink "ToldPowersModel" (332 : Nat) ({ cls := "ToldPowersModel", name := "readWay", desc := "(II)Z" } : Jvm.MethodName)) ∈ lw_all := lw_g (lw_at lw_m10 63 rfl) rfl
theorem q2325 : (Jvm.Cond.privateMethod ({ cls := "ToldPowersModel", name := "readWay", desc := "(II)Z" } : Jvm.MethodName)) ∈ lw_tbl := lw_at lw_m10 64 rfl
theorem q2326 : (Jvm.Cond.instanceMethod ({ cls := "ToldPowersModel", name := "readWay", desc := "(II)Z" } : Jvm.MethodName)) ∈ lw_all := lw_g (lw_at lw_m10 65 rfl) rfl
theorem q2327 : (Jvm.Cond.code ({ cls := "ToldPowersModel", name := "readWay", desc := "(II)Z" } : Jvm.MethodName) prog_24_method_52_code (8 : Nat) (Option.some Jvm.ClassFile.FieldType.boolean)) ∈ lw_all := lw_g (lw_at lw_m10 66 rfl) rfl
theorem q2329 : (Jvm.Cond.instanceMethod ({ cls := "ToldPowersModel", name := "identity", desc := "()I" } : Jvm.MethodName)) ∈ lw_all := lw_g (lw_at lw_m10 68 rfl) rfl
theorem q2330 : (Jvm.Cond.selects "ToldPowersModel" ({ cls := "ToldPowersModel", name := "identity", desc := "()I" } : Jvm.MethodName) ({ cls := "ToldPowersModel", name := "identity", desc := "()I" } : Jvm.MethodName)) ∈ lw_all := lw_g (lw_at lw_m10 69 rfl) rfl
theorem q2331 : (Jvm.Cond.code ({ cls := "ToldPowersModel", name := "identity", desc := "()I" } : Jvm.MethodName) prog_24_method_60_code (3 : Nat) (Option.some Jvm.ClassFile.FieldType.int)) ∈ lw_all := lw_g (lw_at lw_m10 70 rfl) rfl
theorem q2332 : (Jvm.Cond.methodLink "ToldPowersModel" (364 : Nat) ({ cls := "ToldPowersModel", name := "readIdentity", desc := "()Z" } : Jvm.MethodName)) ∈ lw_all := lw_g (lw_at lw_m10 71 rfl) rfl
theorem q2333 : (Jvm.Cond.privateMethod ({ cls := "ToldPowersModel", name := "readIdentity", desc := "()Z" } : Jvm.MethodName)) ∈ lw_tbl := lw_at lw_m10 72 rfl
theorem q2334 : (Jvm.Cond.instanceMethod ({ cls := "ToldPowersModel", name := "readIdentity", desc := "()Z" } : Jvm.MethodName)) ∈ lw_all := lw_g (lw_at lw_m10 73 rfl) rfl
theorem q2335 : (Jvm.Cond.code ({ cls := "ToldPowersModel", name := "readIdentity", desc := "()Z" } : Jvm.MethodName) prog_24_method_59_code (1 : Nat) (Option.some Jvm.ClassFile.FieldType.boolean)) ∈ lw_all := lw_g (lw_at lw_m10 74 rfl) rfl
theorem q2336 : (Jvm.Cond.methodLink "ToldPowersModel" (358 : Nat) ({ cls := "ToldPowersModel", name := "readSum", desc := "()Z" } : Jvm.MethodName)) ∈ lw_all := lw_g (lw_at lw_m10 75 rfl) rfl
theorem q2337 : (Jvm.Cond.privateMethod ({ cls := "ToldPowersModel", name := "readSum", desc := "()Z" } : Jvm.MethodName)) ∈ lw_tbl := lw_at lw_m10 76 rfl
theorem q2338 : (Jvm.Cond.instanceMethod ({ cls := "ToldPowersModel", name := "readSum", desc := "()Z" } : Jvm.MethodName)) ∈ lw_all := lw_g (lw_at lw_m10 77 rfl) rfl
theorem q2339 : (Jvm.Cond.code ({ cls := "ToldPowersModel", name := "readSum", desc := "()Z" } : Jvm.MethodName) prog_24_method_55_code (2 : Nat) (Option.some Jvm.ClassFile.FieldType.boolean)) ∈ lw_all := lw_g (lw_at lw_m10 78 rfl) rfl
theorem q2340 : (Jvm.Cond.methodLink "ToldPowersModel" (341 : Nat) ({ cls := "ToldPowersModel", name := "readProduct", desc := "()Z" } : Jvm.MethodName)) ∈ lw_all := lw_g (lw_at lw_m10 79 rfl) rfl
theorem q2341 : (Jvm.Cond.privateMethod ({ cls := "ToldPowersModel", name := "readProduct", desc := "()Z" } : Jvm.MethodName)) ∈ lw_tbl := lw_at lw_m10 80 rfl
theorem q2342 : (Jvm.Cond.instanceMethod ({ cls := "ToldPowersModel", name := "readProduct", desc := "()Z" } : Jvm.MethodName)) ∈ lw_all := lw_g (lw_at lw_m10 81 rfl) rfl
theorem q2343 : (Jvm.Cond.code ({ cls := "ToldPowersModel", name := "readProduct", desc := "()Z" } : Jvm.MethodName) prog_24_method_56_code (1 : Nat) (Option.some Jvm.ClassFile.FieldType.boolean)) ∈ lw_all := lw_g (lw_at lw_m10 82 rfl) rfl
theorem q2344 : (Jvm.Cond.methodLink "ToldPowersModel" (347 : Nat) ({ cls := "ToldPowersModel", name := "readPower", desc := "()Z" } : Jvm.MethodName)) ∈ lw_all := lw_g (lw_at lw_m10 83 rfl) rfl
theorem q2345 : (Jvm.Cond.privateMethod ({ cls := "ToldPowersModel", name := "readPower", desc := "()Z" } : Jvm.MethodName)) ∈ lw_tbl := lw_at lw_m10 84 rfl
theorem q2346 : (Jvm.Cond.instanceMethod ({ cls := "ToldPowersModel", name := "readPower", desc := "()Z" } : Jvm.MethodName)) ∈ lw_all := lw_g (lw_at lw_m10 85 rfl) rfl
theorem q2347 : (Jvm.Cond.code ({ cls := "ToldPowersModel", name := "readPower", desc := "()Z" } : Jvm.MethodName) prog_24_method_57_code (1 : Nat) (Option.some Jvm.ClassFile.FieldType.boolean)) ∈ lw_all := lw_g (lw_at lw_m10 86 rfl) rfl
theorem q2348 : (Jvm.Cond.methodLink "ToldPowersModel" (350 : Nat) ({ cls := "ToldPowersModel", name := "readPart", desc := "()Z" } : Jvm.MethodName)) ∈ lw_all := lw_g (lw_at lw_m10 87 rfl) rfl
theorem q2349 : (Jvm.Cond.privateMethod ({ cls := "ToldPowersModel", name := "readPart", desc := "()Z" } : Jvm.MethodName)) ∈ lw_tbl := lw_at lw_m10 88 rfl
theorem q2350 : (Jvm.Cond.instanceMethod ({ cls := "ToldPowersModel", name := "readPart", desc := "()Z" } : Jvm.MethodName)) ∈ lw_all := lw_g (lw_at lw_m10 89 rfl) rfl
theorem q2351 : (Jvm.Cond.code ({ cls := "ToldPowersModel", name := "readPart", desc := "()Z" } : Jvm.MethodName) prog_24_method_58_code (2 : Nat) (Option.some Jvm.ClassFile.FieldType.boolean)) ∈ lw_all := lw_g (lw_at lw_m10 90 rfl) rfl
theorem q2352 : (Jvm.Cond.constantLong "ToldPowersModel" (353 : Nat) (6 : Int64)) ∈ lw_all := lw_g (lw_at lw_m10 91 rfl) rfl
theorem q2353 : (Jvm.Cond.methodLink "ToldPowersModel" (344 : Nat) ({ cls := "ToldPowersModel", name := "puts", desc := "(II)V" } : Jvm.MethodName)) ∈ lw_all := lw_g (lw_at lw_m10 92 rfl) rfl
theorem q2354 : (Jvm.Cond.privateMethod ({ cls := "ToldPowersModel", name := "puts", desc := "(II)V" } : Jvm.MethodName)) ∈ lw_tbl := lw_at lw_m10 93 rfl
theorem q2355 : (Jvm.Cond.instanceMethod ({ cls := "ToldPowersModel", name := "puts", desc := "(II)V" } : Jvm.MethodName)) ∈ lw_all := lw_g (lw_at lw_m10 94 rfl) rfl
theorem q2356 : (Jvm.Cond.code ({ cls := "ToldPowersModel", name := "puts", desc := "(II)V" } : Jvm.MethodName) prog_24_method_54_code (3 : Nat) (Option.none : Option Jvm.ClassFile.FieldType)) ∈ lw_all := lw_g (lw_at lw_m10 95 rfl) rfl
theorem q2357 : (Jvm.Cond.methodLink "ToldPowersModel" (376 : Nat) ({ cls := "ToldPowersModel", name := "bits", desc := "(I)I" } : Jvm.MethodName)) ∈ lw_all := lw_g (lw_at lw_m10 96 rfl) rfl
theorem q2358 : (Jvm.Cond.static ({ cls := "ToldPowersModel", name := "bits", desc := "(I)I" } : Jvm.MethodName)) ∈ lw_all := lw_g (lw_at lw_m10 97 rfl) rfl
theorem q2359 : (Jvm.Cond.code ({ cls := "ToldPowersModel", name := "bits", desc := "(I)I" } : Jvm.MethodName) prog_24_method_61_code (3 : Nat) (Option.some Jvm.ClassFile.FieldType.int)) ∈ lw_all := lw_g (lw_at lw_m10 98 rfl) rfl
theorem q2361 : (Jvm.Cond.instanceMethod ({ cls := "ToldPowersModel", name := "tried", desc := "(II)I" } : Jvm.MethodName)) ∈ lw_all := lw_g (lw_at lw_m10 100 rfl) rfl
theorem q2362 : (Jvm.Cond.selects "ToldPowersModel" ({ cls := "ToldPowersModel", name := "tried", desc := "(II)I" } : Jvm.MethodName) ({ cls := "ToldPowersModel", name := "tried", desc := "(II)I" } : Jvm.MethodName)) ∈ lw_all := lw_g (lw_at lw_m10 101 rfl) rfl
theorem q2363 : (Jvm.Cond.code ({ cls := "ToldPowersModel", name := "tried", desc := "(II)I" } : Jvm.MethodName) prog_24_method_69_code (6 : Nat) (Option.some Jvm.ClassFile.FieldType.int)) ∈ lw_all := lw_g (lw_at lw_m10 102 rfl) rfl
theorem q2364 : (Jvm.Cond.constantLong "ToldPowersModel" (401 : Nat) (7 : Int64)) ∈ lw_all := lw_g (lw_at lw_m10 103 rfl) rfl
theorem q2365 : (Jvm.Cond.methodLink "ToldPowersModel" (403 : Nat) ({ cls := "ToldPowersModel", name := "isBroken", desc := "()Z" } : Jvm.MethodName)) ∈ lw_all := lw_g (lw_at lw_m10 104 rfl) rfl
theorem q2366 : (Jvm.Cond.privateMethod ({ cls := "ToldPowersModel", name := "isBroken", desc := "()Z" } : Jvm.MethodName)) ∈ lw_tbl := lw_at lw_m10 105 rfl
theorem q2367 : (Jvm.Cond.instanceMethod ({ cls := "ToldPowersModel", name := "isBroken", desc := "()Z" } : Jvm.MethodName)) ∈ lw_all := lw_g (lw_at lw_m10 106 rfl) rfl
theorem q2368 : (Jvm.Cond.code ({ cls := "ToldPowersModel", name := "isBroken", desc := "()Z" } : Jvm.MethodName) prog_24_method_67_code (5 : Nat) (Option.some Jvm.ClassFile.FieldType.boolean)) ∈ lw_all := lw_g (lw_at lw_m10 107 rfl) rfl
theorem q2369 : (Jvm.Cond.methodLink "ToldPowersModel" (398 : Nat) ({ cls := "ToldPowersModel", name := "sideTells", desc := "(I)J" } : Jvm.MethodName)) ∈ lw_all := lw_g (lw_at lw_m10 108 rfl) rfl
theorem q2370 : (Jvm.Cond.privateMethod ({ cls := "ToldPowersModel", name := "sideTells", desc := "(I)J" } : Jvm.MethodName)) ∈ lw_tbl := lw_at lw_m10 109 rfl
theorem q2371 : (Jvm.Cond.instanceMethod ({ cls := "ToldPowersModel", name := "sideTells", desc := "(I)J" } : Jvm.MethodName)) ∈ lw_all := lw_g (lw_at lw_m10 110 rfl) rfl
theorem q2372 : (Jvm.Cond.code ({ cls := "ToldPowersModel", name := "sideTells", desc := "(I)J" } : Jvm.MethodName) prog_24_method_66_code (5 : Nat) (Option.some Jvm.ClassFile.FieldType.long)) ∈ lw_all := lw_g (lw_at lw_m10 111 rfl) rfl
theorem q2373 : (Jvm.Cond.methodLink "ToldPowersModel" (388 : Nat) ({ cls := "ToldPowersModel", name := "raised", desc := "(JI)J" } : Jvm.MethodName)) ∈ lw_all := lw_g (lw_at lw_m10 112 rfl) rfl
theorem q2374 : (Jvm.Cond.privateMethod ({ cls := "ToldPowersModel", name := "raised", desc := "(JI)J" } : Jvm.MethodName)) ∈ lw_tbl := lw_at lw_m10 113 rfl
theorem q2375 : (Jvm.Cond.instanceMethod ({ cls := "ToldPowersModel", name := "raised", desc := "(JI)J" } : Jvm.MethodName)) ∈ lw_all := lw_g (lw_at lw_m10 114 rfl) rfl
theorem q2376 : (Jvm.Cond.code ({ cls := "ToldPowersModel", name := "raised", desc := "(JI)J" } : Jvm.MethodName) prog_24_method_65_code (7 : Nat) (Option.some Jvm.ClassFile.FieldType.long)) ∈ lw_all := lw_g (lw_at lw_m10 115 rfl) rfl
theorem q2377 : (Jvm.Cond.methodLink "ToldPowersModel" (384 : Nat) ({ cls := "ToldPowersModel", name := "times", desc := "(JJ)J" } : Jvm.MethodName)) ∈ lw_all := lw_g (lw_at lw_m10 116 rfl) rfl
theorem q2378 : (Jvm.Cond.privateMethod ({ cls := "ToldPowersModel", name := "times", desc := "(JJ)J" } : Jvm.MethodName)) ∈ lw_tbl := lw_at lw_m10 117 rfl
theorem q2379 : (Jvm.Cond.instanceMethod ({ cls := "ToldPowersModel", name := "times", desc := "(JJ)J" } : Jvm.MethodName)) ∈ lw_all := lw_g (lw_at lw_m10 118 rfl) rfl
theorem q2380 : (Jvm.Cond.code ({ cls := "ToldPowersModel", name := "times", desc := "(JJ)J" } : Jvm.MethodName) prog_24_method_62_code (7 : Nat) (Option.some Jvm.ClassFile.FieldType.long)) ∈ lw_all := lw_g (lw_at lw_m10 119 rfl) rfl
theorem q2381 : (Jvm.Cond.constantLong "ToldPowersModel" (379 : Nat) (-9223372036854775808 : Int64)) ∈ lw_all := lw_g (lw_at lw_m10 120 rfl) rfl
theorem q2382 : (Jvm.Cond.methodLink "ToldPowersModel" (392 : Nat) ({ cls := "ToldPowersModel", name := "plus", desc := "(JJ)J" } : Jvm.MethodName)) ∈ lw_all := lw_g (lw_at lw_m10 121 rfl) rfl
theorem q2383 : (Jvm.Cond.privateMethod ({ cls := "ToldPowersModel", name := "plus", desc := "(JJ)J" } : Jvm.MethodName)) ∈ lw_tbl := lw_at lw_m10 122 rfl
theorem q2384 : (Jvm.Cond.instanceMethod ({ cls := "ToldPowersModel", name := "plus", desc := "(JJ)J" } : Jvm.MethodName)) ∈ lw_all := lw_g (lw_at lw_m10 123 rfl) rfl
theorem q2385 : (Jvm.Cond.code ({ cls := "ToldPowersModel", name := "plus", desc := "(JJ)J" } : Jvm.MethodName) prog_24_method_63_code (7 : Nat) (Option.some Jvm.ClassFile.FieldType.long)) ∈ lw_all := lw_g (lw_at lw_m10 124 rfl) rfl
theorem q2386 : (Jvm.Cond.methodLink "ToldPowersModel" (395 : Nat) ({ cls := "ToldPowersModel", name := "minus", desc := "(JJ)J" } : Jvm.MethodName)) ∈ lw_all := lw_g (lw_at lw_m10 125 rfl) rfl
theorem q2387 : (Jvm.Cond.privateMethod ({ cls := "ToldPowersModel", name := "minus", desc := "(JJ)J" } : Jvm.MethodName)) ∈ lw_tbl := lw_at lw_m10 126 rfl
theorem q2388 : (Jvm.Cond.instanceMethod ({ cls := "ToldPowersModel", name := "minus", desc := "(JJ)J" } : Jvm.MethodName)) ∈ lw_all := lw_g (lw_at lw_m10 127 rfl) rfl
theorem q2389 : (Jvm.Cond.code ({ cls := "ToldPowersModel", name := "minus", desc := "(JJ)J" } : Jvm.MethodName) prog_24_method_64_code (7 : Nat) (Option.some Jvm.ClassFile.FieldType.long)) ∈ lw_all := lw_g (lw_at lw_m10 128 rfl) rfl
theorem q2390 : (Jvm.Cond.methodLink "ToldPowersModel" (406 : Nat) ({ cls := "ToldPowersModel", name := "one", desc := "(Z)I" } : Jvm.MethodName)) ∈ lw_all := lw_g (lw_at lw_m10 129 rfl) rfl
theorem q2391 : (Jvm.Cond.static ({ cls := "ToldPowersModel", name := "one", desc := "(Z)I" } : Jvm.MethodName)) ∈ lw_all := lw_g (lw_at lw_m10 130 rfl) rfl
theorem q2392 : (Jvm.Cond.code ({ cls := "ToldPowersModel", name := "one", desc := "(Z)I" } : Jvm.MethodName) prog_24_method_2_code (1 : Nat) (Option.some Jvm.ClassFile.FieldType.int)) ∈ lw_all := lw_g (lw_at lw_m10 131 rfl) rfl
theorem q2393 : (Jvm.Cond.methodLink "ToldPowersModel" (410 : Nat) ({ cls := "ToldPowersModel", name := "goesOn", desc := "(I)Z" } : Jvm.MethodName)) ∈ lw_all := lw_g (lw_at lw_m10 132 rfl) rfl
theorem q2394 : (Jvm.Cond.privateMethod ({ cls := "ToldPowersModel", name := "goesOn", desc := "(I)Z" } : Jvm.MethodName)) ∈ lw_tbl := lw_at lw_m10 133 rfl
theorem q2395 : (Jvm.Cond.instanceMethod ({ cls := "ToldPowersModel", name := "goesOn", desc := "(I)Z" } : Jvm.MethodName)) ∈ lw_all := lw_g (lw_at lw_m10 134 rfl) rfl
theorem q2396 : (Jvm.Cond.code ({ cls := "ToldPowersModel", name := "goesOn", desc := "(I)Z" } : Jvm.MethodName) prog_24_method_68_code (3 : Nat) (Option.some Jvm.ClassFile.FieldType.boolean)) ∈ lw_all := lw_g (lw_at lw_m10 135 rfl) rfl
theorem q2398 : (Jvm.Cond.instanceMethod ({ cls := "ToldPowersModel", name := "side", desc := "(IIIIIII)J" } : Jvm.MethodName)) ∈ lw_all := lw_g (lw_at lw_m10 137 rfl) rfl
theorem q2399 : (Jvm.Cond.selects "ToldPowersModel" ({ cls := "ToldPowersModel", name := "side", desc := "(IIIIIII)J" } : Jvm.MethodName) ({ cls := "ToldPowersModel", name := "side", desc := "(IIIIIII)J" } : Jvm.MethodName)) ∈ lw_all := lw_g (lw_at lw_m10 138 rfl) rfl
theorem q2400 : (Jvm.Cond.code ({ cls := "ToldPowersModel", name := "side", desc := "(IIIIIII)J" } : Jvm.MethodName) prog_24_method_70_code (10 : Nat) (Option.some Jvm.ClassFile.FieldType.long)) ∈ lw_all := lw_g (lw_at lw_m10 139 rfl) rfl
theorem q2401 : (Jvm.Cond.constantLong "ToldPowersModel" (413 : Nat) (-9 : Int64)) ∈ lw_all := lw_g (lw_at lw_m10 140 rfl) rfl
theorem q2402 : (Jvm.Cond.constantLong "ToldPowersModel" (415 : Nat) (9 : Int64)) ∈ lw_all := lw_g (lw_at lw_m10 141 rfl) rfl
theorem q2404 : (Jvm.Cond.instanceMethod ({ cls := "ToldPowersModel", name := "term", desc := "(III)I" } : Jvm.MethodName)) ∈ lw_all := lw_g (lw_at lw_m10 143 rfl) rfl
theorem q2405 : (Jvm.Cond.selects "ToldPowersModel" ({ cls := "ToldPowersModel", name := "term", desc := "(III)I" } : Jvm.MethodName) ({ cls := "ToldPowersModel", name := "term", desc := "(III)I" } : Jvm.MethodName)) ∈ lw_all := lw_g (lw_at lw_m10 144 rfl) rfl
theorem q2406 : (Jvm.Cond.code ({ cls := "ToldPowersModel", name := "term", desc := "(III)I" } : Jvm.MethodName) prog_24_method_71_code (4 : Nat) (Option.some Jvm.ClassFile.FieldType.int)) ∈ lw_all := lw_g (lw_at lw_m10 145 rfl) rfl
theorem q2408 : (Jvm.Cond.instanceMethod ({ cls := "ToldPowersModel", name := "missed", desc := "(IIII)I" } : Jvm.MethodName)) ∈ lw_all := lw_g (lw_at lw_m10 147 rfl) rfl
theorem q2409 : (Jvm.Cond.selects "ToldPowersModel" ({ cls := "ToldPowersModel", name := "missed", desc := "(IIII)I" } : Jvm.MethodName) ({ cls := "ToldPowersModel", name := "missed", desc := "(IIII)I" } : Jvm.MethodName)) ∈ lw_all := lw_g (lw_at lw_m10 148 rfl) rfl
theorem q2410 : (Jvm.Cond.code ({ cls := "ToldPowersModel", name := "missed", desc := "(IIII)I" } : Jvm.MethodName) prog_24_method_73_code (7 : Nat) (Option.some Jvm.ClassFile.FieldType.int)) ∈ lw_all := lw_g (lw_at lw_m10 149 rfl) rfl
theorem q2411 : (Jvm.Cond.methodLink "ToldPowersModel" (417 : Nat) ({ cls := "ToldPowersModel", name := "isSpan", desc := "(II)Z" } : Jvm.MethodName)) ∈ lw_all := lw_g (lw_at lw_m10 150 rfl) rfl
theorem q2412 : (Jvm.Cond.static ({ cls := "ToldPowersModel", name := "isSpan", desc := "(II)Z" } : Jvm.MethodName)) ∈ lw_all := lw_g (lw_at lw_m10 151 rfl) rfl
theorem q2413 : (Jvm.Cond.code ({ cls := "ToldPowersModel", name := "isSpan", desc := "(II)Z" } : Jvm.MethodName) prog_24_method_72_code (2 : Nat) (Option.some Jvm.ClassFile.FieldType.boolean)) ∈ lw_all := lw_g (lw_at lw_m10 152 rfl) rfl
theorem q2415 : (Jvm.Cond.instanceMethod ({ cls := "ToldPowersModel", name := "explained", desc := "(IIII)I" } : Jvm.MethodName)) ∈ lw_all := lw_g (lw_at lw_m10 154 rfl) rfl
theorem q2416 : (Jvm.Cond.selects "ToldPowersModel" ({ cls := "ToldPowersModel", name := "explained", desc := "(IIII)I" } : Jvm.MethodName) ({ cls := "ToldPowersModel", name := "explained", desc := "(IIII)I" } : Jvm.MethodName)) ∈ lw_all := lw_g (lw_at lw_m10 155 rfl) rfl
theorem q2417 : (Jvm.Cond.code ({ cls := "ToldPowersModel", name := "explained", desc := "(IIII)I" } : Jvm.MethodName) prog_24_method_74_code (7 : Nat) (Option.some Jvm.ClassFile.FieldType.int)) ∈ lw_all := lw_g (lw_at lw_m10 156 rfl) rfl
theorem q2418 : (Jvm.Cond.constantLong "ToldPowersModel" (420 : Nat) (60 : Int64)) ∈ lw_all := lw_g (lw_at lw_m10 157 rfl) rfl
theorem q2419 : (Jvm.Cond.methodLink "ToldPowersModel" (422 : Nat) ({ cls := "ToldPowersModel", name := "laysClasses", desc := "(II)V" } : Jvm.MethodName)) ∈ lw_all := lw_g (lw_at lw_m10 158 rfl) rfl
theorem q2420 : (Jvm.Cond.privateMethod ({ cls := "ToldPowersModel", name := "laysClasses", desc := "(II)V" } : Jvm.MethodName)) ∈ lw_tbl := lw_at lw_m10 159 rfl
theorem q2421 : (Jvm.Cond.instanceMethod ({ cls := "ToldPowersModel", name := "laysClasses", desc := "(II)V" } : Jvm.MethodName)) ∈ lw_all := lw_g (lw_at lw_m10 160 rfl) rfl
theorem q2422 : (Jvm.Cond.code ({ cls := "ToldPowersModel", name := "laysClasses", desc := "(II)V" } : Jvm.MethodName) prog_24_method_78_code (9 : Nat) (Option.none : Option Jvm.ClassFile.FieldType)) ∈ lw_all := lw_g (lw_at lw_m10 161 rfl) rfl
theorem q2423 : (Jvm.Cond.methodLink "ToldPowersModel" (425 : Nat) ({ cls := "ToldPowersModel", name := "xs", desc := "(II)I" } : Jvm.MethodName)) ∈ lw_all := lw_g (lw_at lw_m10 162 rfl) rfl
theorem q2424 : (Jvm.Cond.static ({ cls := "ToldPowersModel", name := "xs", desc := "(II)I" } : Jvm.MethodName)) ∈ lw_all := lw_g (lw_at lw_m10 163 rfl) rfl
theorem q2425 : (Jvm.Cond.code ({ cls := "ToldPowersModel", name := "xs", desc := "(II)I" } : Jvm.MethodName) prog_24_method_76_code (2 : Nat) (Option.some Jvm.ClassFile.FieldType.int)) ∈ lw_all := lw_g (lw_at lw_m10 164 rfl) rfl
theorem q2426 : (Jvm.Cond.methodLink "ToldPowersModel" (428 : Nat) ({ cls := "ToldPowersModel", name := "classOf", desc := "(IIII)I" } : Jvm.MethodName)) ∈ lw_all := lw_g (lw_at lw_m10 165 rfl) rfl
theorem q2427 : (Jvm.Cond.privateMethod ({ cls := "ToldPowersModel", name := "classOf", desc := "(IIII)I" } : Jvm.MethodName)) ∈ lw_tbl := lw_at lw_m10 166 rfl
theorem q2428 : (Jvm.Cond.instanceMethod ({ cls := "ToldPowersModel", name := "classOf", desc := "(IIII)I" } : Jvm.MethodName)) ∈ lw_all := lw_g (lw_at lw_m10 167 rfl) rfl
theorem q2429 : (Jvm.Cond.code ({ cls := "ToldPowersModel", name := "classOf", desc := "(IIII)I" } : Jvm.MethodName) prog_24_method_77_code (5 : Nat) (Option.some Jvm.ClassFile.FieldType.int)) ∈ lw_all := lw_g (lw_at lw_m10 168 rfl) rfl
theorem q2431 : (Jvm.Cond.instanceMethod ({ cls := "ToldPowersModel", name := "full", desc := "(I)I" } : Jvm.MethodName)) ∈ lw_all := lw_g (lw_at lw_m10 170 rfl) rfl
theorem q2432 : (Jvm.Cond.selects "ToldPowersModel" ({ cls := "ToldPowersModel", name := "full", desc := "(I)I" } : Jvm.MethodName) ({ cls := "ToldPowersModel", name := "full", desc := "(I)I" } : Jvm.MethodName)) ∈ lw_all := lw_g (lw_at lw_m10 171 rfl) rfl
theorem q2433 : (Jvm.Cond.code ({ cls := "ToldPowersModel", name := "full", desc := "(I)I" } : Jvm.MethodName) prog_24_method_75_code (3 : Nat) (Option.some Jvm.ClassFile.FieldType.int)) ∈ lw_all := lw_g (lw_at lw_m10 172 rfl) rfl
theorem q2435 : (Jvm.Cond.instanceMethod ({ cls := "ToldPowersModel", name := "met", desc := "(III)J" } : Jvm.MethodName)) ∈ lw_all := lw_g (lw_at lw_m10 174 rfl) rfl
theorem q2436 : (Jvm.Cond.selects "ToldPowersModel" ({ cls := "ToldPowersModel", name := "met", desc := "(III)J" } : Jvm.MethodName) ({ cls := "ToldPowersModel", name := "met", desc := "(III)J" } : Jvm.MethodName)) ∈ lw_all := lw_g (lw_at lw_m10 175 rfl) rfl
theorem q2437 : (Jvm.Cond.code ({ cls := "ToldPowersModel", name := "met", desc := "(III)J" } : Jvm.MethodName) prog_24_method_80_code (4 : Nat) (Option.some Jvm.ClassFile.FieldType.long)) ∈ lw_all := lw_g (lw_at lw_m10 176 rfl) rfl
theorem q2438 : (Jvm.Cond.methodLink "ToldPowersModel" (432 : Nat) ({ cls := "ToldPowersModel", name := "isClass", desc := "(III)Z" } : Jvm.MethodName)) ∈ lw_all := lw_g (lw_at lw_m10 177 rfl) rfl
theorem q2439 : (Jvm.Cond.privateMethod ({ cls := "ToldPowersModel", name := "isClass", desc := "(III)Z" } : Jvm.MethodName)) ∈ lw_tbl := lw_at lw_m10 178 rfl
theorem q2440 : (Jvm.Cond.instanceMethod ({ cls := "ToldPowersModel", name := "isClass", desc := "(III)Z" } : Jvm.MethodName)) ∈ lw_all := lw_g (lw_at lw_m10 179 rfl) rfl
theorem q2441 : (Jvm.Cond.code ({ cls := "ToldPowersModel", name := "isClass", desc := "(III)Z" } : Jvm.MethodName) prog_24_method_79_code (4 : Nat) (Option.some Jvm.ClassFile.FieldType.boolean)) ∈ lw_all := lw_g (lw_at lw_m10 180 rfl) rfl
theorem q2443 : (Jvm.Cond.instanceMethod ({ cls := "ToldPowersModel", name := "meets", desc := "(IIII)I" } : Jvm.MethodName)) ∈ lw_all := lw_g (lw_at lw_m10 182 rfl) rfl
theorem q2444 : (Jvm.Cond.selects "ToldPowersModel" ({ cls := "ToldPowersModel", name := "meets", desc := "(IIII)I" } : Jvm.MethodName) ({ cls := "ToldPowersModel", name := "meets", desc := "(IIII)I" } : Jvm.MethodName)) ∈ lw_all := lw_g (lw_at lw_m10 183 rfl) rfl
theorem q2445 : (Jvm.Cond.code ({ cls := "ToldPowersModel", name := "meets", desc := "(IIII)I" } : Jvm.MethodName) prog_24_method_81_code (8 : Nat) (Option.some Jvm.ClassFile.FieldType.int)) ∈ lw_all := lw_g (lw_at lw_m10 184 rfl) rfl
theorem q2447 : (Jvm.Cond.instanceMethod ({ cls := "ToldPowersModel", name := "never", desc := "(III)I" } : Jvm.MethodName)) ∈ lw_all := lw_g (lw_at lw_m10 186 rfl) rfl
theorem q2448 : (Jvm.Cond.selects "ToldPowersModel" ({ cls := "ToldPowersModel", name := "never", desc := "(III)I" } : Jvm.MethodName) ({ cls := "ToldPowersModel", name := "never", desc := "(III)I" } : Jvm.MethodName)) ∈ lw_all := lw_g (lw_at lw_m10 187 rfl) rfl
theorem q2449 : (Jvm.Cond.code ({ cls := "ToldPowersModel", name := "never", desc := "(III)I" } : Jvm.MethodName) prog_24_method_82_code (6 : Nat) (Option.some Jvm.ClassFile.FieldType.int)) ∈ lw_all := lw_g (lw_at lw_m10 188 rfl) rfl
theorem q2451 : (Jvm.Cond.instanceMethod ({ cls := "ToldPowersModel", name := "bars", desc := "(I)I" } : Jvm.MethodName)) ∈ lw_all := lw_g (lw_at lw_m10 190 rfl) rfl
theorem q2452 : (Jvm.Cond.selects "ToldPowersModel" ({ cls := "ToldPowersModel", name := "bars", desc := "(I)I" } : Jvm.MethodName) ({ cls := "ToldPowersModel", name := "bars", desc := "(I)I" } : Jvm.MethodName)) ∈ lw_all := lw_g (lw_at lw_m10 191 rfl) rfl
theorem q2453 : (Jvm.Cond.code ({ cls := "ToldPowersModel", name := "bars", desc := "(I)I" } : Jvm.MethodName) prog_24_method_83_code (3 : Nat) (Option.some Jvm.ClassFile.FieldType.int)) ∈ lw_all := lw_g (lw_at lw_m10 192 rfl) rfl
theorem q2454 : (Jvm.Cond.methodLink "ToldPowersModel" (435 : Nat) ({ cls := "ToldPowersModel", name := "never", desc := "(III)I" } : Jvm.MethodName)) ∈ lw_all := lw_g (lw_at lw_m10 193 rfl) rfl
theorem q2456 : (Jvm.Cond.instanceMethod ({ cls := "ToldPowersModel", name := "many", desc := "(IIIZ)I" } : Jvm.MethodName)) ∈ lw_all := lw_g (lw_at lw_m10 195 rfl) rfl
theorem q2457 : (Jvm.Cond.selects "ToldPowersModel" ({ cls := "ToldPowersModel", name := "many", desc := "(IIIZ)I" } : Jvm.MethodName) ({ cls := "ToldPowersModel", name := "many", desc := "(IIIZ)I" } : Jvm.MethodName)) ∈ lw_all := lw_g (lw_at lw_m10 196 rfl) rfl
theorem q2458 : (Jvm.Cond.code ({ cls := "ToldPowersModel", name := "many", desc := "(IIIZ)I" } : Jvm.MethodName) prog_24_method_84_code (6 : Nat) (Option.some Jvm.ClassFile.FieldType.int)) ∈ lw_all := lw_g (lw_at lw_m10 197 rfl) rfl
theorem q2459 : (Jvm.Cond.constantLong "ToldPowersModel" (438 : Nat) (1000000 : Int64)) ∈ lw_all := lw_g (lw_at lw_m10 198 rfl) rfl
theorem q2461 : (Jvm.Cond.instanceMethod ({ cls := "ToldPowersModel", name := "greed", desc := "(III)I" } : Jvm.MethodName)) ∈ lw_all := lw_g (lw_at lw_m10 200 rfl) rfl
theorem q2462 : (Jvm.Cond.selects "ToldPowersModel" ({ cls := "ToldPowersModel", name := "greed", desc := "(III)I" } : Jvm.MethodName) ({ cls := "ToldPowersModel", name := "greed", desc := "(III)I" } : Jvm.MethodName)) ∈ lw_all := lw_g (lw_at lw_m10 201 rfl) rfl
theorem q2463 : (Jvm.Cond.code ({ cls := "ToldPowersModel", name := "greed", desc := "(III)I" } : Jvm.MethodName) prog_24_method_85_code (13 : Nat) (Option.some Jvm.ClassFile.FieldType.int)) ∈ lw_all := lw_g (lw_at lw_m10 202 rfl) rfl
theorem q2465 : (Jvm.Cond.instanceMethod ({ cls := "ToldPowersModel", name := "nearest", desc := "(II)I" } : Jvm.MethodName)) ∈ lw_all := lw_g (lw_at lw_m10 204 rfl) rfl
theorem q2466 : (Jvm.Cond.selects "ToldPowersModel" ({ cls := "ToldPowersModel", name := "nearest", desc := "(II)I" } : Jvm.MethodName) ({ cls := "ToldPowersModel", name := "nearest", desc := "(II)I" } : Jvm.MethodName)) ∈ lw_all := lw_g (lw_at lw_m10 205 rfl) rfl
theorem q2467 : (Jvm.Cond.code ({ cls := "ToldPowersModel", name := "nearest", desc := "(II)I" } : Jvm.MethodName) prog_24_method_86_code (4 : Nat) (Option.some Jvm.ClassFile.FieldType.int)) ∈ lw_all := lw_g (lw_at lw_m10 206 rfl) rfl
theorem q2469 : (Jvm.Cond.instanceMethod ({ cls := "ToldPowersModel", name := "enough", desc := "(II)I" } : Jvm.MethodName)) ∈ lw_all := lw_g (lw_at lw_m10 208 rfl) rfl
theorem q2470 : (Jvm.Cond.selects "ToldPowersModel" ({ cls := "ToldPowersModel", name := "enough", desc := "(II)I" } : Jvm.MethodName) ({ cls := "ToldPowersModel", name := "enough", desc := "(II)I" } : Jvm.MethodName)) ∈ lw_all := lw_g (lw_at lw_m10 209 rfl) rfl
theorem q2471 : (Jvm.Cond.code ({ cls := "ToldPowersModel", name := "enough", desc := "(II)I" } : Jvm.MethodName) prog_24_method_87_code (5 : Nat) (Option.some Jvm.ClassFile.FieldType.int)) ∈ lw_all := lw_g (lw_at lw_m10 210 rfl) rfl
theorem q2473 : (Jvm.Cond.instanceMethod ({ cls := "ToldPowersModel", name := "join", desc := "(III)Z" } : Jvm.MethodName)) ∈ lw_all := lw_g (lw_at lw_m10 212 rfl) rfl
theorem q2474 : (Jvm.Cond.selects "ToldPowersModel" ({ cls := "ToldPowersModel", name := "join", desc := "(III)Z" } : Jvm.MethodName) ({ cls := "ToldPowersModel", name := "join", desc := "(III)Z" } : Jvm.MethodName)) ∈ lw_all := lw_g (lw_at lw_m10 213 rfl) rfl
theorem q2475 : (Jvm.Cond.code ({ cls := "ToldPowersModel", name := "join", desc := "(III)Z" } : Jvm.MethodName) prog_24_method_88_code (5 : Nat) (Option.some Jvm.ClassFile.FieldType.boolean)) ∈ lw_all := lw_g (lw_at lw_m10 214 rfl) rfl
theorem q2476 : (Jvm.Cond.constantLong "ToldPowersModel" (440 : Nat) (5 : Int64)) ∈ lw_all := lw_g (lw_at lw_m10 215 rfl) rfl
theorem q2478 : (Jvm.Cond.instanceMethod ({ cls := "ToldPowersModel", name := "drop", desc := "(II)Z" } : Jvm.MethodName)) ∈ lw_all := lw_g (lw_at lw_m10 217 rfl) rfl
theorem q2479 : (Jvm.Cond.selects "ToldPowersModel" ({ cls := "ToldPowersModel", name := "drop", desc := "(II)Z" } : Jvm.MethodName) ({ cls := "ToldPowersModel", name := "drop", desc := "(II)Z" } : Jvm.MethodName)) ∈ lw_all := lw_g (lw_at lw_m10 218 rfl) rfl
theorem q2480 : (Jvm.Cond.code ({ cls := "ToldPowersModel", name := "drop", desc := "(II)Z" } : Jvm.MethodName) prog_24_method_89_code (4 : Nat) (Option.some Jvm.ClassFile.FieldType.boolean)) ∈ lw_all := lw_g (lw_at lw_m10 219 rfl) rfl
theorem q2482 : (Jvm.Cond.instanceMethod ({ cls := "ToldPowersModel", name := "lead", desc := "(II)Z" } : Jvm.MethodName)) ∈ lw_all := lw_g (lw_at lw_m10 221 rfl) rfl
theorem q2483 : (Jvm.Cond.selects "ToldPowersModel" ({ cls := "ToldPowersModel", name := "lead", desc := "(II)Z" } : Jvm.MethodName) ({ cls := "ToldPowersModel", name := "lead", desc := "(II)Z" } : Jvm.MethodName)) ∈ lw_all := lw_g (lw_at lw_m10 222 rfl) rfl
theorem q2484 : (Jvm.Cond.code ({ cls := "ToldPowersModel", name := "lead", desc := "(II)Z" } : Jvm.MethodName) prog_24_method_90_code (4 : Nat) (Option.some Jvm.ClassFile.FieldType.boolean)) ∈ lw_all := lw_g (lw_at lw_m10 223 rfl) rfl
theorem q2486 : (Jvm.Cond.instanceMethod ({ cls := "ToldPowersModel", name := "common", desc := "(IIIII)I" } : Jvm.MethodName)) ∈ lw_all := lw_g (lw_at lw_m10 225 rfl) rfl
theorem q2487 : (Jvm.Cond.selects "ToldPowersModel" ({ cls := "ToldPowersModel", name := "common", desc := "(IIIII)I" } : Jvm.MethodName) ({ cls := "ToldPowersModel", name := "common", desc := "(IIIII)I" } : Jvm.MethodName)) ∈ lw_all := lw_g (lw_at lw_m10 226 rfl) rfl
theorem q2488 : (Jvm.Cond.code ({ cls := "ToldPowersModel", name := "common", desc := "(IIIII)I" } : Jvm.MethodName) prog_24_method_91_code (8 : Nat) (Option.some Jvm.ClassFile.FieldType.int)) ∈ lw_all := lw_g (lw_at lw_m10 227 rfl) rfl
theorem q2490 : (Jvm.Cond.instanceMethod ({ cls := "ToldPowersModel", name := "gap", desc := "(IIII)I" } : Jvm.MethodName)) ∈ lw_all := lw_g (lw_at lw_m10 229 rfl) rfl
theorem q2491 : (Jvm.Cond.selects "ToldPowersModel" ({ cls := "ToldPowersModel", name := "gap", desc := "(IIII)I" } : Jvm.MethodName) ({ cls := "ToldPowersModel", name := "gap", desc := "(IIII)I" } : Jvm.MethodName)) ∈ lw_all := lw_g (lw_at lw_m10 230 rfl) rfl
theorem q2492 : (Jvm.Cond.code ({ cls := "ToldPowersModel", name := "gap", desc := "(IIII)I" } : Jvm.MethodName) prog_24_method_92_code (9 : Nat) (Option.some Jvm.ClassFile.FieldType.int)) ∈ lw_all := lw_g (lw_at lw_m10 231 rfl) rfl
theorem q2494 : (Jvm.Cond.instanceMethod ({ cls := "ToldPowersModel", name := "rank", desc := "(IIII)I" } : Jvm.MethodName)) ∈ lw_all := lw_g (lw_at lw_m10 233 rfl) rfl
theorem q2495 : (Jvm.Cond.selects "ToldPowersModel" ({ cls := "ToldPowersModel", name := "rank", desc := "(IIII)I" } : Jvm.MethodName) ({ cls := "ToldPowersModel", name := "rank", desc := "(IIII)I" } : Jvm.MethodName)) ∈ lw_all := lw_g (lw_at lw_m10 234 rfl) rfl
theorem q2496 : (Jvm.Cond.code ({ cls := "ToldPowersModel", name := "rank", desc := "(IIII)I" } : Jvm.MethodName) prog_24_method_93_code (8 : Nat) (Option.some Jvm.ClassFile.FieldType.int)) ∈ lw_all := lw_g (lw_at lw_m10 235 rfl) rfl
theorem q2498 : (Jvm.Cond.instanceMethod ({ cls := "ToldPowersModel", name := "spell", desc := "(I)I" } : Jvm.MethodName)) ∈ lw_all := lw_g (lw_at lw_m10 237 rfl) rfl
theorem q2499 : (Jvm.Cond.selects "ToldPowersModel" ({ cls := "ToldPowersModel", name := "spell", desc := "(I)I" } : Jvm.MethodName) ({ cls := "ToldPowersModel", name := "spell", desc := "(I)I" } : Jvm.MethodName)) ∈ lw_all := lw_g (lw_at lw_m10 238 rfl) rfl
theorem q2500 : (Jvm.Cond.code ({ cls := "ToldPowersModel", name := "spell", desc := "(I)I" } : Jvm.MethodName) prog_24_method_98_code (4 : Nat) (Option.some Jvm.ClassFile.FieldType.int)) ∈ lw_all := lw_g (lw_at lw_m10 239 rfl) rfl
theorem q2501 : (Jvm.Cond.methodLink "ToldPowersModel" (445 : Nat) ({ cls := "ToldPowersModel", name := "says", desc := "(I)V" } : Jvm.MethodName)) ∈ lw_all := lw_g (lw_at lw_m11 0 rfl) rfl
theorem q2502 : (Jvm.Cond.privateMethod ({ cls := "ToldPowersModel", name := "says", desc := "(I)V" } : Jvm.MethodName)) ∈ lw_tbl := lw_at lw_m11 1 rfl
theorem q2503 : (Jvm.Cond.instanceMethod ({ cls := "ToldPowersModel", name := "says", desc := "(I)V" } : Jvm.MethodName)) ∈ lw_all := lw_g (lw_at lw_m11 2 rfl) rfl
theorem q2504 : (Jvm.Cond.code ({ cls := "ToldPowersModel", name := "says", desc := "(I)V" } : Jvm.MethodName) prog_24_method_94_code (2 : Nat) (Option.none : Option Jvm.ClassFile.FieldType)) ∈ lw_all := lw_g (lw_at lw_m11 3 rfl) rfl
theorem q2505 : (Jvm.Cond.methodLink "ToldPowersModel" (452 : Nat) ({ cls := "ToldPowersModel", name := "saysNumber", desc := "(I)V" } : Jvm.MethodName)) ∈ lw_all := lw_g (lw_at lw_m11 4 rfl) rfl
theorem q2506 : (Jvm.Cond.privateMethod ({ cls := "ToldPowersModel", name := "saysNumber", desc := "(I)V" } : Jvm.MethodName)) ∈ lw_tbl := lw_at lw_m11 5 rfl
theorem q2507 : (Jvm.Cond.instanceMethod ({ cls := "ToldPowersModel", name := "saysNumber", desc := "(I)V" } : Jvm.MethodName)) ∈ lw_all := lw_g (lw_at lw_m11 6 rfl) rfl
theorem q2508 : (Jvm.Cond.code ({ cls := "ToldPowersModel", name := "saysNumber", desc := "(I)V" } : Jvm.MethodName) prog_24_method_96_code (4 : Nat) (Option.none : Option Jvm.ClassFile.FieldType)) ∈ lw_all := lw_g (lw_at lw_m11 7 rfl) rfl
theorem q2509 : (Jvm.Cond.methodLink "ToldPowersModel" (455 : Nat) ({ cls := "ToldPowersModel", name := "saysKind", desc := "(I)V" } : Jvm.MethodName)) ∈ lw_all := lw_g (lw_at lw_m11 8 rfl) rfl
theorem q2510 : (Jvm.Cond.privateMethod ({ cls := "ToldPowersModel", name := "saysKind", desc := "(I)V" } : Jvm.MethodName)) ∈ lw_tbl := lw_at lw_m11 9 rfl
theorem q2511 : (Jvm.Cond.instanceMethod ({ cls := "ToldPowersModel", name := "saysKind", desc := "(I)V" } : Jvm.MethodName)) ∈ lw_all := lw_g (lw_at lw_m11 10 rfl) rfl
theorem q2512 : (Jvm.Cond.code ({ cls := "ToldPowersModel", name := "saysKind", desc := "(I)V" } : Jvm.MethodName) prog_24_method_97_code (2 : Nat) (Option.none : Option Jvm.ClassFile.FieldType)) ∈ lw_all := lw_g (lw_at lw_m11 11 rfl) rfl
theorem q2513 : (Jvm.Cond.methodLink "ToldPowersModel" (448 : Nat) ({ cls := "ToldPowersModel", name := "saysWord", desc := "(Ljava/lang/String;)V" } : Jvm.MethodName)) ∈ lw_all := lw_g (lw_at lw_m11 12 rfl) rfl
theorem q2514 : (Jvm.Cond.privateMethod ({ cls := "ToldPowersModel", name := "saysWord", desc := "(Ljava/lang/String;)V" } : Jvm.MethodName)) ∈ lw_tbl := lw_at lw_m11 13 rfl
theorem q2515 : (Jvm.Cond.instanceMethod ({ cls := "ToldPowersModel", name := "saysWord", desc := "(Ljava/lang/String;)V" } : Jvm.MethodName)) ∈ lw_all := lw_g (lw_at lw_m11 14 rfl) rfl
theorem q2516 : (Jvm.Cond.code ({ cls := "ToldPowersModel", name := "saysWord", desc := "(Ljava/lang/String;)V" } : Jvm.MethodName) prog_24_method_95_code (3 : Nat) (Option.none : Option Jvm.ClassFile.FieldType)) ∈ lw_all := lw_g (lw_at lw_m11 15 rfl) rfl
theorem q2517 : (Jvm.Cond.stringRef "ToldPowersModel" (458 : Nat) " from ") ∈ lw_tbl := lw_at lw_m11 16 rfl
theorem q2518 : (Jvm.Cond.stringRef "ToldPowersModel" (460 : Nat) " to ") ∈ lw_tbl := lw_at lw_m11 17 rfl
theorem q2520 : (Jvm.Cond.instanceMethod ({ cls := "ToldPowersModel", name := "write", desc := "(III)I" } : Jvm.MethodName)) ∈ lw_all := lw_g (lw_at lw_m11 19 rfl) rfl
theorem q2521 : (Jvm.Cond.selects "ToldPowersModel" ({ cls := "ToldPowersModel", name := "write", desc := "(III)I" } : Jvm.MethodName) ({ cls := "ToldPowersModel", name := "write", desc := "(III)I" } : Jvm.MethodName)) ∈ lw_all := lw_g (lw_at lw_m11 20 rfl) rfl
theorem q2522 : (Jvm.Cond.code ({ cls := "ToldPowersModel", name := "write", desc := "(III)I" } : Jvm.MethodName) prog_24_method_99_code (6 : Nat) (Option.some Jvm.ClassFile.FieldType.int)) ∈ lw_all := lw_g (lw_at lw_m11 21 rfl) rfl
theorem q2523 : (Jvm.Cond.stringRef "ToldPowersModel" (462 : Nat) " not") ∈ lw_tbl := lw_at lw_m11 22 rfl
theorem q2525 : (Jvm.Cond.instanceMethod ({ cls := "ToldPowersModel", name := "out", desc := "(I)I" } : Jvm.MethodName)) ∈ lw_all := lw_g (lw_at lw_m11 24 rfl) rfl
theorem q2526 : (Jvm.Cond.selects "ToldPowersModel" ({ cls := "ToldPowersModel", name := "out", desc := "(I)I" } : Jvm.MethodName) ({ cls := "ToldPowersModel", name := "out", desc := "(I)I" } : Jvm.MethodName)) ∈ lw_all := lw_g (lw_at lw_m11 25 rfl) rfl
theorem q2527 : (Jvm.Cond.code ({ cls := "ToldPowersModel", name := "out", desc := "(I)I" } : Jvm.MethodName) prog_24_method_100_code (2 : Nat) (Option.some Jvm.ClassFile.FieldType.int)) ∈ lw_all := lw_g (lw_at lw_m11 26 rfl) rfl
theorem q2529 : (Jvm.Cond.instanceMethod ({ cls := "ToldPowersModel", name := "look", desc := "(I)I" } : Jvm.MethodName)) ∈ lw_all := lw_g (lw_at lw_m11 28 rfl) rfl
theorem q2530 : (Jvm.Cond.selects "ToldPowersModel" ({ cls := "ToldPowersModel", name := "look", desc := "(I)I" } : Jvm.MethodName) ({ cls := "ToldPowersModel", name := "look", desc := "(I)I" } : Jvm.MethodName)) ∈ lw_all := lw_g (lw_at lw_m11 29 rfl) rfl
theorem q2531 : (Jvm.Cond.code ({ cls := "ToldPowersModel", name := "look", desc := "(I)I" } : Jvm.MethodName) prog_24_method_101_code (2 : Nat) (Option.some Jvm.ClassFile.FieldType.int)) ∈ lw_all := lw_g (lw_at lw_m11 30 rfl) rfl
theorem q2562 : (Jvm.Cond.castable "ToldPowersModel" "java/lang/Object") ∈ lw_tbl := lw_at lw_m11 61 rfl
